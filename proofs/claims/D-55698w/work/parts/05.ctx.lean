/-! what the tables give at every state, the locals, the judgement -/
/-- a word of defaults stays -/
theorem zLD_warm {s U : State} (hW : s.WarmedH U.vm) (hT : ∀ w ∈ zTb, zMv w = true → va_Nw w s) {q : String × MethodName × MethodName} (hq : q ∈ zLD) (h : (Cond.landsInDefault q.1 q.2.1 q.2.2).before #[] s = true) : (Cond.landsInDefault q.1 q.2.1 q.2.2).before #[] U = true := by
  obtain ⟨hx, hd⟩ := zld q hq
  have hf : (s.setVm U.vm).methodFound? q.2.1.cls q.2.1.name q.2.1.desc = s.methodFound? q.2.1.cls q.2.1.name q.2.1.desc := by
    rcases hd with hd | ⟨ow, hd⟩
    · obtain ⟨r0, r, hn, -⟩ := Cond.declares_spec (va_Nw.use (A := #[]) rfl (hT _ hd rfl))
      exact State.methodFound?_setVm_of_named hW.alike hn hx
    · obtain ⟨c, k, r, hc, hk, hi, hf, hn⟩ := Cond.sameMethod_found (va_Nw.use (A := #[]) rfl (hT _ hd rfl))
      obtain ⟨k₀, hk₀, hname⟩ := Vm.findClass_spec hc
      cases hk.symm.trans hk₀
      exact State.methodFound?_setVm_class hW.alike hc hk hi (signaturePolymorphic_of_name (by rw [hname]; exact hx)) _ _
  have h2 := Cond.landsInDefault_setVm (args := #[]) (args' := #[]) hW.alike (cls := q.1) (y := q.2.2) hf
  exact h2.trans h
/-- what a state's tables say, all of it of the tables and of the old cells alone -/
def zKn (G : zG) (U : State) : Prop :=
  (∀ w ∈ zTb, zMv w = true → va_Nw w U) ∧
  (∀ (c : Nat) (q : vw_C), zCL[c]? = some q → u_Kn U q.1 q.2.1 q.2.2 ((zD G).1 c) ((zD G).2 c)) ∧
  (∀ (c : ClassId) (ty : FieldType), zAk G c ty ↔ zAk0 U c ty) ∧
  (∀ ty ∈ zA5, (Cond.arrayClass ty).before #[] U = true) ∧
  va_AO "java/lang/Object" U ∧
  (∀ q ∈ zST, va_Z q.1 q.2.1 q.2.2 (zZs G q.1 q.2.1) (fun a => zb G ≤ a) U (zH0 G)) ∧
  (∀ q ∈ zSR, vk_R q.1 q.2.1 q.2.2 (zSt G q.1 q.2.1) U) ∧
  (∀ q ∈ zNC, va_Nc q.1 q.2 U) ∧
  (vx_Zq Bundle.tN "UNASSIGNED_STACK" Bundle.steD (fun a => zb G ≤ a) U (zH0 G) ∧ vx_Zq Bundle.tN "SUPPRESSED_SENTINEL" Bundle.listD (fun a => zb G ≤ a) U (zH0 G)) ∧
  (∃ mi : Nat, zZs G "class" "[Ljava/lang/Object;" = .ref mi ∧ va_Mi "[Ljava/lang/Object;" mi U) ∧
  (∀ q ∈ zLD, (Cond.landsInDefault q.1 q.2.1 q.2.2).before #[] U = true)
theorem zKn.warm {G : zG} {s U : State} (hW : s.WarmedH U.vm) (h : zKn G s) : zKn G U := by
  obtain ⟨h1, h2, h3, h4, h5, h6, h7, h8, ⟨h9, h9'⟩, ⟨mi, h10, h11⟩, h12⟩ := h
  refine ⟨fun w hw hm => zMv_warm hm hW (h1 w hw hm), fun c q hq => u_Kn_moved hW.alike (h2 c q hq), fun c ty => ⟨fun q => ((h3 c ty).mp q).moved hW.alike, fun q => (h3 c ty).mpr (q.moved hW.alike.symm)⟩,
    fun ty ht => word_at hW (Or.inr ⟨ty, rfl⟩) (h4 ty ht), h5.moved hW.alike, fun q hq => (h6 q hq).moved hW.alike, fun q hq => (h7 q hq).warm hW, fun q hq => (h8 q hq).moved hW.alike, ⟨h9.moved hW.alike, h9'.moved hW.alike⟩, ⟨mi, h10, h11.moved hW.alike⟩, fun q hq => zLD_warm hW h1 hq (h12 q hq)⟩
theorem zKn.w {G : zG} {s : State} (h : zKn G s) {w : Cond} (hw : w ∈ zTb) (hm : zMv w = true) {args : Array Value} : w.before args s = true := by
  have h1 := h.1 w hw hm
  simp only [zMv, Bool.and_eq_true] at hm
  exact va_Nw.use hm.1 h1
/-! ===== locals ===== -/
def zGt : List (Option Value) → Nat → Option Value
  | [], _ => none
  | x :: _, 0 => x
  | _ :: t, n + 1 => zGt t n
def zC2 : Option Value → Option Value
  | some (.long _) => none
  | some (.double _) => none
  | x => x
def zSe : List (Option Value) → Nat → Option Value → List (Option Value)
  | [], _, _ => []
  | _ :: t, 0, v => v :: t
  | x :: t, 1, v => zC2 x :: zSe t 0 v
  | x :: t, n + 2, v => x :: zSe t (n + 1) v
def zPn : List (Option Value) → Nat → List (Option Value)
  | [], _ => []
  | _ :: t, 0 => none :: t
  | x :: t, n + 1 => x :: zPn t n
theorem zC2_some {x : Option Value} {u : Value} (h : zC2 x = some u) : x = some u ∧ u.category = 1 := by
  rcases x with _ | (_ | _ | _ | _ | _ | _ | _) <;> simp [zC2] at h <;> subst h <;> exact ⟨rfl, rfl⟩
theorem zSe_gt : ∀ (L : List (Option Value)) (i j : Nat) (v u : Value), zGt (zSe L i (some v)) j = some u → (j = i ∧ u = v) ∨ (j ≠ i ∧ zGt L j = some u ∧ (j + 1 = i → u.category = 1))
  | [], i, j, v, u, h => by simp [zSe, zGt] at h
  | x :: t, 0, 0, v, u, h => by simp [zSe, zGt] at h; exact Or.inl ⟨rfl, h.symm⟩
  | x :: t, 0, j + 1, v, u, h => by
    simp only [zSe, zGt] at h
    exact Or.inr ⟨by omega, h, fun e => by omega⟩
  | x :: t, 1, 0, v, u, h => by
    simp only [zSe, zGt] at h
    obtain ⟨h1, h2⟩ := zC2_some h
    exact Or.inr ⟨by omega, h1, fun _ => h2⟩
  | x :: t, 1, j + 1, v, u, h => by
    simp only [zSe, zGt] at h
    rcases zSe_gt t 0 j v u h with ⟨h1, h2⟩ | ⟨h1, h2, h3⟩
    · exact Or.inl ⟨by omega, h2⟩
    · exact Or.inr ⟨by omega, h2, fun e => by omega⟩
  | x :: t, n + 2, 0, v, u, h => by
    simp only [zSe, zGt] at h
    exact Or.inr ⟨by omega, h, fun e => by omega⟩
  | x :: t, n + 2, j + 1, v, u, h => by
    simp only [zSe, zGt] at h
    rcases zSe_gt t (n + 1) j v u h with ⟨h1, h2⟩ | ⟨h1, h2, h3⟩
    · exact Or.inl ⟨by omega, h2⟩
    · exact Or.inr ⟨by omega, h2, fun e => h3 (by omega)⟩
theorem zPn_gt : ∀ (L : List (Option Value)) (i j : Nat) (u : Value), zGt (zPn L i) j = some u → j ≠ i ∧ zGt L j = some u
  | [], i, j, u, h => by simp [zPn, zGt] at h
  | x :: t, 0, 0, u, h => by simp [zPn, zGt] at h
  | x :: t, 0, j + 1, u, h => by
    simp only [zPn, zGt] at h
    exact ⟨by omega, h⟩
  | x :: t, n + 1, 0, u, h => by
    simp only [zPn, zGt] at h
    exact ⟨by omega, h⟩
  | x :: t, n + 1, j + 1, u, h => by
    simp only [zPn, zGt] at h
    obtain ⟨h1, h2⟩ := zPn_gt t n j u h
    exact ⟨by omega, h2⟩
def zLl (L : List (Option Value)) : List (Nat × Value) := (List.range L.length).filterMap fun i => (zGt L i).map fun v => (i, v)
theorem zGt_lt : ∀ (L : List (Option Value)) (i : Nat) (v : Value), zGt L i = some v → i < L.length
  | [], i, v, h => by simp [zGt] at h
  | x :: t, 0, v, h => by simp
  | x :: t, n + 1, v, h => by
    have := zGt_lt t n v h
    simp only [List.length_cons]; omega
theorem zLl_mem {L : List (Option Value)} {i : Nat} {v : Value} : (i, v) ∈ zLl L ↔ zGt L i = some v := by
  constructor
  · intro h
    obtain ⟨j, -, hj⟩ := List.mem_filterMap.mp h
    cases hg : zGt L j with
    | none => rw [hg] at hj; cases hj
    | some w => rw [hg] at hj; cases hj; exact hg
  · intro h
    exact List.mem_filterMap.mpr ⟨i, List.mem_range.mpr (zGt_lt L i v h), by rw [h]; rfl⟩
def zLs (ls : Array Slot) (nL : Nat) (L : List (Option Value)) : Prop := lv_has ls nL (zLl L)
theorem zLs.at {ls : Array Slot} {nL : Nat} {L : List (Option Value)} (h : zLs ls nL L) {i : Nat} {v : Value} (hv : zGt L i = some v) : ls[i]? = some (.val v) := h.2.2 (i, v) (zLl_mem.mpr hv)
theorem zLs.se {ls : Array Slot} {nL i : Nat} {L : List (Option Value)} {v : Value} (h : lv_has ls nL ((i, v) :: (zLl L).filter (fun q => !(q.1 == i) && !(q.1 + 1 == i && q.2.category == 2)))) : zLs ls nL (zSe L i (some v)) := by
  refine ⟨h.1, h.2.1, fun q hq => ?_⟩
  obtain ⟨j, u⟩ := q
  refine h.2.2 _ ?_
  rcases zSe_gt L i j v u (zLl_mem.mp hq) with ⟨rfl, rfl⟩ | ⟨h1, h2, h3⟩
  · exact List.mem_cons_self
  · refine List.mem_cons_of_mem _ (List.mem_filter.mpr ⟨zLl_mem.mpr h2, ?_⟩)
    simp only [Bool.and_eq_true, Bool.not_eq_true', beq_eq_false_iff_ne, ne_eq, Bool.and_eq_false_iff]
    refine ⟨h1, ?_⟩
    by_cases e : j + 1 = i
    · exact Or.inr (by rw [h3 e]; decide)
    · exact Or.inl e
theorem zLs.sw {ls : Array Slot} {nL i : Nat} {L : List (Option Value)} {v : Value} (h : lv_has ls nL ((i, v) :: (zLl L).filter (fun q => !(q.1 == i) && (!(q.1 == i + 1) && !(q.1 + 1 == i && q.2.category == 2))))) : zLs ls nL (zPn (zSe L i (some v)) (i + 1)) := by
  refine ⟨h.1, h.2.1, fun q hq => ?_⟩
  obtain ⟨j, u⟩ := q
  refine h.2.2 _ ?_
  obtain ⟨h0, h00⟩ := zPn_gt _ _ _ _ (zLl_mem.mp hq)
  rcases zSe_gt L i j v u h00 with ⟨rfl, rfl⟩ | ⟨h1, h2, h3⟩
  · exact List.mem_cons_self
  · refine List.mem_cons_of_mem _ (List.mem_filter.mpr ⟨zLl_mem.mpr h2, ?_⟩)
    simp only [Bool.and_eq_true, Bool.not_eq_true', beq_eq_false_iff_ne, ne_eq, Bool.and_eq_false_iff]
    refine ⟨h1, h0, ?_⟩
    by_cases e : j + 1 = i
    · exact Or.inr (by rw [h3 e]; decide)
    · exact Or.inl e
/-- fewer locals known -/
theorem zLs.sub {ls : Array Slot} {nL : Nat} {L L' : List (Option Value)} (h : zLs ls nL L) (hs : ∀ i v, zGt L' i = some v → zGt L i = some v) : zLs ls nL L' :=
  ⟨h.1, h.2.1, fun q hq => h.2.2 q (zLl_mem.mpr (hs q.1 q.2 (zLl_mem.mp hq)))⟩
/-- the locals at a method's entry -/
def zL0 : List Value → Nat → List (Option Value)
  | [], n => List.replicate n none
  | v :: vs, n => some v :: zL0 vs (n - 1)
theorem zGt_rep : ∀ (n j : Nat), zGt (List.replicate n none) j = none
  | 0, _ => rfl
  | n + 1, 0 => rfl
  | n + 1, j + 1 => zGt_rep n j
theorem zL0_args : ∀ (vs : List Value) (n k j : Nat) (u : Value), (∀ v ∈ vs, v.category = 1) → zGt (zL0 vs n) j = some u → (k + j, u) ∈ lv_args k vs
  | [], n, k, j, u, _, h => by rw [zL0, zGt_rep] at h; cases h
  | v :: vs, n, k, 0, u, hc, h => by
    simp only [zL0, zGt] at h
    cases h
    exact List.mem_cons_self
  | v :: vs, n, k, j + 1, u, hc, h => by
    simp only [zL0, zGt] at h
    have h2 := zL0_args vs (n - 1) (k + 1) j u (fun w hw => hc w (List.mem_cons_of_mem _ hw)) h
    rw [lv_args, if_neg (by rw [hc v List.mem_cons_self]; decide)]
    refine List.mem_cons_of_mem _ ?_
    rw [show k + (j + 1) = k + 1 + j by omega]
    exact h2
theorem lg_sl_len : ∀ (vs : List Value), (∀ v ∈ vs, v.category = 1) → (lg_sl vs).length = vs.length
  | [], _ => rfl
  | v :: vs, hc => by
    have h := lg_sl_len vs (fun w hw => hc w (List.mem_cons_of_mem _ hw))
    have h1 := hc v List.mem_cons_self
    simp only [lg_sl, List.flatMap_cons, List.length_append, List.length_cons] at h ⊢
    rw [if_neg (by rw [h1]; decide), h]
    simp only [List.length_singleton]; omega
theorem zLs_entry {vs : List Value} {n : Nat} (hc : ∀ v ∈ vs, v.category = 1) (hn : vs.length ≤ n) : zLs ((lg_sl vs ++ List.replicate (n - (lg_sl vs).length) Slot.unset).toArray) n (zL0 vs n) := by
  have h := lv_entry vs (n := n) (by rw [lg_sl_len vs hc]; exact hn)
  refine ⟨h.1, h.2.1, fun q hq => h.2.2 _ ?_⟩
  have := zL0_args vs n 0 q.1 q.2 hc (zLl_mem.mp hq)
  rw [Nat.zero_add] at this
  exact this
