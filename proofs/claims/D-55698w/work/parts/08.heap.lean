/-! instructions that touch the heap; doubles; switches; returns -/
theorem zcastO : ∀ (ci : Nat) (q : vw_C), zCL[ci]? = some q → Cond.castable q.1 "java/lang/Object" ∈ zTb := by
  intro ci q h
  match ci, h with
  | 0, h => cases h; exact zt (lw_at lw_m12 16 rfl)
  | 1, h => cases h; exact zt (lw_at lw_m12 17 rfl)
  | 2, h => cases h; exact zt (lw_at lw_m12 26 rfl)
  | 3, h => cases h; exact zt (lw_at lw_m12 22 rfl)
  | 4, h => cases h; exact zt (lw_at lw_m12 32 rfl)
  | 5, h => cases h; exact zt (lw_at lw_m12 33 rfl)
  | 6, h => cases h; exact zt (lw_at lw_m12 34 rfl)
  | 7, h => cases h; exact zt (lw_at lw_m12 35 rfl)
  | 8, h => cases h; exact zt (lw_at lw_m12 37 rfl)
  | 9, h => cases h; exact zt (lw_at lw_m12 39 rfl)
  | 10, h => cases h; exact zt (lw_at lw_m12 21 rfl)
  | 11, h => cases h; exact zt (lw_at lw_m12 18 rfl)
  | 12, h => cases h; exact zt (lw_at lw_m12 24 rfl)
  | 13, h => cases h; exact zt (lw_at lw_m12 19 rfl)
  | 14, h => cases h; exact zt (lw_at lw_m12 20 rfl)
  | 15, h => cases h; exact zt (lw_at lw_m12 30 rfl)
  | 16, h => cases h; exact zt (lw_at lw_m12 27 rfl)
  | 17, h => cases h; exact zt (lw_at lw_m12 23 rfl)
  | 18, h => cases h; exact zt (lw_at lw_m12 31 rfl)
  | 19, h => cases h; exact zt (lw_at lw_m12 29 rfl)
  | 20, h => cases h; exact zt (lw_at lw_m12 25 rfl)
  | 21, h => cases h; exact zt (lw_at lw_m12 28 rfl)
  | 22, h => cases h; exact zt (lw_at lw_m12 41 rfl)
  | n + 23, h => simp [zCL] at h
theorem zMv_lay (C : String) (T : u_T) (k : Nat) : zMv (u_lay C T k) = true := by unfold u_lay; split <;> rfl
theorem zKn.lays {G : zG} {s : State} (h : zKn G s) {ci : Nat} {q : vw_C} (hq : zCL[ci]? = some q) {args : Array Value} : ∀ w ∈ u_ws q.1 q.2.1 q.2.2, w.before args s = true := fun w hw => by
  have h1 := zin ci q hq w hw
  obtain ⟨k, -, rfl⟩ := List.mem_map.mp hw
  exact h.w h1 (zMv_lay _ _ _)
theorem zKn.apart {G : zG} {s : State} (h : zKn G s) {ci : Nat} {q : vw_C} (hq : zCL[ci]? = some q) : ∀ x y, x < q.2.2 → y < q.2.2 → x ≠ y → (zD G).2 ci x ≠ (zD G).2 ci y := by
  intro x y hx hy hne
  have hts := h.lays hq (args := #[])
  obtain ⟨hS, -⟩ := h.2.1 ci q hq
  obtain ⟨_, _, _, fa, hia, ea⟩ := hS x hx
  obtain ⟨_, _, _, fb, hib, eb⟩ := hS y hy
  rw [← ea, ← eb]
  refine u_apart (u_lays hts (fun w hw => hw) hx) (u_lays hts (fun w hw => hw) hy) hia hib ?_
  rw [(State.fieldFound?_type hia (ztyo ci q hq x hx)).1, (State.fieldFound?_type hib (ztyo ci q hq y hy)).1]
  exact znm ci q hq x hx y hy hne
/-- an object of class ci -/
def zOj (h : zH) (a ci : Nat) (k : List Value → Prop) : Prop := match h a with
  | some (.inr (c, fs)) => c = ci ∧ k fs
  | _ => False
theorem zOj.e {h : zH} {a ci : Nat} {k : List Value → Prop} (q : zOj h a ci k) : ∃ fs, h a = some (.inr (ci, fs)) ∧ k fs := by
  unfold zOj at q
  split at q
  · next h1 => obtain ⟨rfl, q⟩ := q; exact ⟨_, h1, q⟩
  · exact q.elim
/-- an array over ty -/
def zAr (h : zH) (a : Nat) (ty : FieldType) (k : Nat → (Nat → Value) → Prop) : Prop := match h a with
  | some (.inl (t, n, f)) => t = ty ∧ k n f
  | _ => False
theorem zAr.e {h : zH} {a : Nat} {ty : FieldType} {k : Nat → (Nat → Value) → Prop} (q : zAr h a ty k) : ∃ n f, h a = some (.inl (ty, n, f)) ∧ k n f := by
  unfold zAr at q
  split at q
  · next h1 => obtain ⟨rfl, q⟩ := q; exact ⟨_, _, h1, q⟩
  · exact q.elim
/-- a field's entry in a pool: it is field k of class ci -/
def zFL (own : String) (idx ci k : Nat) : Prop := ∃ (q : vw_C) (ref : String), zCL[ci]? = some q ∧ k < q.2.2 ∧ (Cond.fieldLink own idx ref (q.2.1 k).2.1 (q.2.1 k).2.2.1 ∈ zTb ∨ ∃ host, Cond.fieldLinkNest own idx ref (q.2.1 k).2.1 (q.2.1 k).2.2.1 host ∈ zTb) ∧ (ref = (q.2.1 k).1 ∨ Cond.sameField ref (q.2.1 k).1 (q.2.1 k).2.1 (q.2.1 k).2.2.1 ∈ zTb)
def zFit (ty : FieldType) (v : Value) : Prop := narrow ty v = v ∧ fits ty v = true
section ZS
variable {l : Launch} {G : zG} {d mc : Nat} {M : zM} {Q : zRes → zH → Prop} {pc : Nat} {K K2 : zK}
theorem zsame {s : State} (h : zKn G s) {q : vw_C} {k : Nat} {ref : String} (hr : ref = (q.2.1 k).1 ∨ Cond.sameField ref (q.2.1 k).1 (q.2.1 k).2.1 (q.2.1 k).2.2.1 ∈ zTb) : ∀ x, s.fieldFound? (q.2.1 k).1 (q.2.1 k).2.1 (q.2.1 k).2.2.1 = some x → s.fieldFound? ref (q.2.1 k).2.1 (q.2.1 k).2.2.1 = some x := by
  intro x hx
  rcases hr with rfl | hr
  · exact hx
  · exact u_same (h.w hr rfl (args := #[])) x hx
def iGet (ci k : Nat) (K : zK) : zK := fun L S h n => pR S fun a r => zOj h a ci fun fs => K L (zFd fs k :: r) h n
theorem r_get {idx ci k0 : Nat} (hd : decode M.2.1 pc = .ok (.getfield idx, 3)) (hf : zFL M.1.cls idx ci k0) (k : ∀ L S h n, K L S h n → zV l G d mc M Q (pc + 3) L S h n) : ∀ L S h n, iGet ci k0 K L S h n → zV l G d mc M Q pc L S h n := by
  intro L S h n a
  obtain ⟨x, r, rfl, a1⟩ := pR.e a
  obtain ⟨fs, ha, a2⟩ := zOj.e a1
  intro p e s m args below meth c H locs ls C hl hW hs hq
  obtain ⟨q, ref, hq1, hk, hl1, hr⟩ := hf
  obtain ⟨cell, q2, c1, c2, c3, c4, c5, c6, c7, c8⟩ := hW.2.2.2 _ _ ha
  cases hq1.symm.trans c2
  obtain ⟨hS, hfc, kC, hkC, hkind⟩ := C.kn.2.1 ci _ hq1
  obtain ⟨cf, kf, fi, f, hi, hsl⟩ := hS k0 hk
  have hst := (u_facts hfc hkC (u_lays (C.kn.lays hq1 (args := args)) (fun w hw => hw) hk) hi).1
  have hval : cell.slots[f.slot]? = some (zFd fs k0) := by rw [hsl]; exact c8 k0 hk
  have hk9 := k _ _ _ _ a2 p e s m args below meth c H locs ls C hl hW hs hq
  rcases hl1 with hl1 | ⟨host, hl1⟩
  · exact W.getf C.hx C.hb C.own (C.kn.w hl1 rfl) (zsame C.kn hr _ hi) hst c1 c5 (v := zFd fs k0) hval rfl rfl hd hk9
  · exact va_Wgetf C.hx C.hb C.own (C.kn.w hl1 rfl) (zsame C.kn hr _ hi) hst c1 c5 (v := zFd fs k0) hval rfl rfl hd hk9
theorem zAt.put {ci k0 a slot : Nat} {q : vw_C} {fs : List Value} {v : Value} {cell : Cell} {H1 : Heap} {s : State} (hK : zKn G s) (hq1 : zCL[ci]? = some q) (hk : k0 < q.2.2) (hsl : slot = (zD G).2 ci k0) (c3 : cell.cls = (zD G).1 ci) (c4 : zb G ≤ a → cell.vm = .none) (c5 : cell.vm ≠ .unknown) (c6 : ∀ k, cell.vm ≠ .statics k) (c7 : fs.length = q.2.2) (c8 : ∀ k, k < q.2.2 → cell.slots[(zD G).2 ci k]? = some (zFd fs k)) (e : H1[a]? = some (cell.setSlot slot v)) : zAt G a (.inr (ci, zFs fs k0 v)) H1 := by
  subst hsl
  refine ⟨_, q, e, hq1, c3, c4, c5, c6, by rw [zFs_length]; exact c7, fun j hj => ?_⟩
  rw [zFd_set fs k0 j v (by rw [c7]; exact hk)]
  show (cell.slots.setIfInBounds _ v)[_]? = _
  by_cases hjk : j = k0
  · subst hjk
    rw [if_pos rfl, Array.getElem?_setIfInBounds_self_of_lt (Array.getElem?_eq_some_iff.mp (c8 j hj)).1]
  · rw [if_neg hjk, Array.getElem?_setIfInBounds_ne (hK.apart hq1 k0 j hk hj (fun z => hjk z.symm))]
    exact c8 j hj
theorem zq_app {locs : List Loc} {b a i : Nat} (hq : ∀ q ∈ locs, b ≤ q.base) (ha : b ≤ a) : ∀ q ∈ locs ++ [⟨a, i⟩], b ≤ q.base := by
  intro q h
  rcases List.mem_append.mp h with h1 | h1
  · exact hq q h1
  · rw [List.mem_singleton.mp h1]; exact ha
def iPut (ci k : Nat) (K : zK) : zK := fun L S h n => pV S fun v r => pR r fun a r => zOj h a ci fun fs => zb G ≤ a ∧ zFit (zty ci k) v ∧ K L r (zUp h a (.inr (ci, zFs fs k v))) n
theorem r_put {idx ci k0 : Nat} (hd : decode M.2.1 pc = .ok (.putfield idx, 3)) (hf : zFL M.1.cls idx ci k0) (hfin : ∀ q, zCL[ci]? = some q → (q.2.1 k0).2.2.2 = false) (k : ∀ L S h n, K L S h n → zV l G d mc M Q (pc + 3) L S h n) : ∀ L S h n, iPut (G := G) ci k0 K L S h n → zV l G d mc M Q pc L S h n := by
  intro L S h n a
  obtain ⟨v, r, rfl, a1⟩ := pV.e a
  obtain ⟨x, r, rfl, a2⟩ := pR.e a1
  obtain ⟨fs, ha, hb9, hfit, a3⟩ := zOj.e a2
  intro p e s m args below meth c H locs ls C hl hW hs hq
  obtain ⟨q, ref, hq1, hk, hl1, hr⟩ := hf
  obtain ⟨cell, q2, c1, c2, c3, c4, c5, c6, c7, c8⟩ := hW.2.2.2 _ _ ha
  cases hq1.symm.trans c2
  obtain ⟨hS, hfc, kC, hkC, hkind⟩ := C.kn.2.1 ci _ hq1
  obtain ⟨cf, kf, fi, f, hi, hsl⟩ := hS k0 hk
  have hts := C.kn.lays hq1 (args := args)
  have hlay := hts _ (u_in_lay hk)
  have hst := (u_facts hfc hkC (u_lays hts (fun w hw => hw) hk) hi).1
  unfold u_lay at hlay
  rw [if_neg (by rw [hfin _ hq1]; decide)] at hlay
  have h6 := u_store hfc hkC hkind hlay hi (ztyo ci _ hq1 k0 hk) hfit.1 hfit.2
  have hlt : f.slot < cell.slots.size := by rw [hsl]; exact (Array.getElem?_eq_some_iff.mp (c8 k0 hk)).1
  rcases hl1 with hl1 | ⟨host, hl1⟩
  · exact W.putK C.hx C.hb (f := f) ⟨C.own, C.kn.w hl1 rfl, ⟨_, _, _, zsame C.kn hr _ hi⟩, hst⟩ (by rw [c3]; exact h6) c1 (c4 hb9) hlt rfl rfl hd (fun H1 e1 e2 e3 => k _ _ _ _ a3 p e s m args below meth c H1 _ ls C hl (hW.put hb9 e2 e3 (zAt.put C.kn hq1 hk hsl c3 c4 c5 c6 c7 c8 e1)) (by rw [e2]; exact hs) (zq_app hq hb9))
  · exact va_WputK C.hx C.hb (f := f) C.own (C.kn.w hl1 rfl) (zsame C.kn hr _ hi) hst (by rw [c3]; exact h6) c1 (c4 hb9) hlt rfl rfl hd (fun H1 e1 e2 e3 => k _ _ _ _ a3 p e s m args below meth c H1 _ ls C hl (hW.put hb9 e2 e3 (zAt.put C.kn hq1 hk hsl c3 c4 c5 c6 c7 c8 e1)) (by rw [e2]; exact hs) (zq_app hq hb9))
theorem r_putF {idx ci k0 : Nat} (hd : decode M.2.1 pc = .ok (.putfield idx, 3)) (hf : zFL M.1.cls idx ci k0) (hin : M.1.name = "<init>") (hn : ∀ host ref q, zCL[ci]? = some q → ¬ Cond.fieldLinkNest M.1.cls idx ref (q.2.1 k0).2.1 (q.2.1 k0).2.2.1 host ∈ zTb ∨ True) (hfin : ∀ q, zCL[ci]? = some q → (q.2.1 k0).2.2.2 = true ∧ (q.2.1 k0).1 = M.1.cls) (k : ∀ L S h n, K L S h n → zV l G d mc M Q (pc + 3) L S h n) : ∀ L S h n, iPut (G := G) ci k0 K L S h n → zV l G d mc M Q pc L S h n := by
  intro L S h n a
  obtain ⟨v, r, rfl, a1⟩ := pV.e a
  obtain ⟨x, r, rfl, a2⟩ := pR.e a1
  obtain ⟨fs, ha, hb9, hfit, a3⟩ := zOj.e a2
  intro p e s m args below meth c H locs ls C hl hW hs hq
  obtain ⟨q, ref, hq1, hk, hl1, hr⟩ := hf
  obtain ⟨cell, q2, c1, c2, c3, c4, c5, c6, c7, c8⟩ := hW.2.2.2 _ _ ha
  cases hq1.symm.trans c2
  obtain ⟨hS, hfc, kC, hkC, hkind⟩ := C.kn.2.1 ci _ hq1
  obtain ⟨cf, kf, fi, f, hi, hsl⟩ := hS k0 hk
  have hts := C.kn.lays hq1 (args := args)
  have hlay := hts _ (u_in_lay hk)
  have hst := (u_facts hfc hkC (u_lays hts (fun w hw => hw) hk) hi).1
  unfold u_lay at hlay
  rw [if_pos (hfin _ hq1).1] at hlay
  have hcf : m.cls = cf := by
    obtain ⟨_, _, c', _, _, _, -, -, hf', -, -, -, hown2, -⟩ := Cond.laysFinal_spec hlay
    have e1 : c' = cf := by have := hi.symm.trans hf'; simp at this; exact this.1.symm
    rw [(hfin _ hq1).2] at hown2
    rw [← e1]; exact Option.some.inj (C.own.symm.trans hown2)
  have h6 := u_fits hfc hkC hkind (Or.inr hlay) hi (ztyo ci _ hq1 k0 hk) hfit.1 hfit.2
  have hlt : f.slot < cell.slots.size := by rw [hsl]; exact (Array.getElem?_eq_some_iff.mp (c8 k0 hk)).1
  have hin9 : meth.name = "<init>" := by rw [C.name]; exact hin
  have hx9 : x < H.size := (Array.getElem?_eq_some_iff.mp c1).1
  rcases hl1 with hl1 | ⟨host, hl1⟩
  · exact W.putFinK C.hx C.hb C.own (C.kn.w hl1 rfl) (zsame C.kn hr _ hi) hst hcf hin9 (by rw [c3]; exact h6) c1 (c4 hb9) hlt rfl rfl hd (fun H1 e1 e2 e3 => k _ _ _ _ a3 p e s m args below meth c H1 _ ls C hl (hW.put hb9 e2 e3 (zAt.put C.kn hq1 hk hsl c3 c4 c5 c6 c7 c8 e1)) (by rw [e2]; exact hs) (zq_app hq hb9))
  · refine va_Wputf C.hx C.hb C.own (C.kn.w hl1 rfl) (zsame C.kn hr _ hi) hst (Or.inr ⟨hcf, hin9⟩) c1 (by rw [c4 hb9]; exact fun h => by cases h) hlt h6.1 (by rw [c3, c4 hb9]; exact h6.2) rfl rfl hd ?_
    exact (fun H1 e1 e2 e3 => k _ _ _ _ a3 p e s m args below meth c H1 _ ls C hl (hW.put hb9 e2 e3 (zAt.put C.kn hq1 hk hsl c3 c4 c5 c6 c7 c8 e1)) (by rw [e2]; exact hs) (zq_app hq hb9)) _ (by simp [Array.getElem?_setIfInBounds, hx9]) (by simp) (fun q hq => by simp [Array.getElem?_setIfInBounds, Ne.symm hq])
def iAld (ty : FieldType) (K : zK) : zK := fun L S h n => pI S fun i r => pR r fun a r => zAr h a ty fun N f => vp_in i N ∧ K L (f i.toNatClampNeg :: r) h n
theorem zAk.arr {s : State} (hK : zKn G s) {cell : Cell} {ty : FieldType} (c2 : zAk G cell.cls ty) (c4 : ∀ k, cell.vm ≠ .statics k) : s.isArrayOf cell ty := by
  obtain ⟨⟨k, comp, h1, h2⟩, -⟩ := (hK.2.2.1 _ _).mp c2
  exact ⟨c4, k, h1, comp, h2⟩
theorem r_iaload (hd : decode M.2.1 pc = .ok (.iaload, 1)) (k : ∀ L S h n, K L S h n → zV l G d mc M Q (pc + 1) L S h n) : ∀ L S h n, iAld .int K L S h n → zV l G d mc M Q pc L S h n := by
  intro L S h n a
  obtain ⟨i, r, rfl, a1⟩ := pI.e a
  obtain ⟨x, r, rfl, a2⟩ := pR.e a1
  obtain ⟨N, f, ha, hin, a3⟩ := zAr.e a2
  intro p e s m args below meth c H locs ls C hl hW hs hq
  obtain ⟨cell, c1, c2, c3, c4, c5, c6, c7⟩ := hW.2.2.2 _ _ ha
  have hlt : i.toNatClampNeg < N := Nat.not_le.mp fun q => hin (Or.inr q)
  exact W.iald C.hx C.hb (v := f i.toNatClampNeg) c1 (zAk.arr C.kn c2 c4) c3 (by rw [c5]; exact hin) (c7 _ hlt) rfl rfl hd (k _ _ _ _ a3 p e s m args below meth c H locs ls C hl hW hs hq)
theorem r_baload (hd : decode M.2.1 pc = .ok (.baload, 1)) (k : ∀ L S h n, K L S h n → zV l G d mc M Q (pc + 1) L S h n) : ∀ L S h n, iAld .byte K L S h n → zV l G d mc M Q pc L S h n := by
  intro L S h n a
  obtain ⟨i, r, rfl, a1⟩ := pI.e a
  obtain ⟨x, r, rfl, a2⟩ := pR.e a1
  obtain ⟨N, f, ha, hin, a3⟩ := zAr.e a2
  intro p e s m args below meth c H locs ls C hl hW hs hq
  obtain ⟨cell, c1, c2, c3, c4, c5, c6, c7⟩ := hW.2.2.2 _ _ ha
  have hlt : i.toNatClampNeg < N := Nat.not_le.mp fun q => hin (Or.inr q)
  exact W.bald C.hx C.hb (v := f i.toNatClampNeg) c1 (zAk.arr C.kn c2 c4) c3 (by rw [c5]; exact hin) (c7 _ hlt) rfl rfl hd (k _ _ _ _ a3 p e s m args below meth c H locs ls C hl hW hs hq)
theorem r_caload (hd : decode M.2.1 pc = .ok (.caload, 1)) (k : ∀ L S h n, K L S h n → zV l G d mc M Q (pc + 1) L S h n) : ∀ L S h n, iAld .char K L S h n → zV l G d mc M Q pc L S h n := by
  intro L S h n a
  obtain ⟨i, r, rfl, a1⟩ := pI.e a
  obtain ⟨x, r, rfl, a2⟩ := pR.e a1
  obtain ⟨N, f, ha, hin, a3⟩ := zAr.e a2
  intro p e s m args below meth c H locs ls C hl hW hs hq
  obtain ⟨cell, c1, c2, c3, c4, c5, c6, c7⟩ := hW.2.2.2 _ _ ha
  have hlt : i.toNatClampNeg < N := Nat.not_le.mp fun q => hin (Or.inr q)
  exact W.cald C.hx C.hb (v := f i.toNatClampNeg) c1 (zAk.arr C.kn c2 c4) c3 (by rw [c5]; exact hin) (c7 _ hlt) rfl rfl hd (k _ _ _ _ a3 p e s m args below meth c H locs ls C hl hW hs hq)
theorem r_laload (hd : decode M.2.1 pc = .ok (.laload, 1)) (k : ∀ L S h n, K L S h n → zV l G d mc M Q (pc + 1) L S h n) : ∀ L S h n, iAld .long K L S h n → zV l G d mc M Q pc L S h n := by
  intro L S h n a
  obtain ⟨i, r, rfl, a1⟩ := pI.e a
  obtain ⟨x, r, rfl, a2⟩ := pR.e a1
  obtain ⟨N, f, ha, hin, a3⟩ := zAr.e a2
  intro p e s m args below meth c H locs ls C hl hW hs hq
  obtain ⟨cell, c1, c2, c3, c4, c5, c6, c7⟩ := hW.2.2.2 _ _ ha
  have hlt : i.toNatClampNeg < N := Nat.not_le.mp fun q => hin (Or.inr q)
  exact W.lald C.hx C.hb (v := f i.toNatClampNeg) c1 (zAk.arr C.kn c2 c4) c3 (by rw [c5]; exact hin) (c7 _ hlt) rfl rfl hd (k _ _ _ _ a3 p e s m args below meth c H locs ls C hl hW hs hq)
theorem r_daload (hd : decode M.2.1 pc = .ok (.daload, 1)) (k : ∀ L S h n, K L S h n → zV l G d mc M Q (pc + 1) L S h n) : ∀ L S h n, iAld .double K L S h n → zV l G d mc M Q pc L S h n := by
  intro L S h n a
  obtain ⟨i, r, rfl, a1⟩ := pI.e a
  obtain ⟨x, r, rfl, a2⟩ := pR.e a1
  obtain ⟨N, f, ha, hin, a3⟩ := zAr.e a2
  intro p e s m args below meth c H locs ls C hl hW hs hq
  obtain ⟨cell, c1, c2, c3, c4, c5, c6, c7⟩ := hW.2.2.2 _ _ ha
  have hlt : i.toNatClampNeg < N := Nat.not_le.mp fun q => hin (Or.inr q)
  exact W.dald C.hx C.hb (v := f i.toNatClampNeg) c1 (zAk.arr C.kn c2 c4) c3 (by rw [c5]; exact hin) (c7 _ hlt) rfl rfl hd (k _ _ _ _ a3 p e s m args below meth c H locs ls C hl hW hs hq)
theorem r_aaload {E : String} (hd : decode M.2.1 pc = .ok (.aaload, 1)) (k : ∀ L S h n, K L S h n → zV l G d mc M Q (pc + 1) L S h n) : ∀ L S h n, iAld (.object E) K L S h n → zV l G d mc M Q pc L S h n := by
  intro L S h n a
  obtain ⟨i, r, rfl, a1⟩ := pI.e a
  obtain ⟨x, r, rfl, a2⟩ := pR.e a1
  obtain ⟨N, f, ha, hin, a3⟩ := zAr.e a2
  intro p e s m args below meth c H locs ls C hl hW hs hq
  obtain ⟨cell, c1, c2, c3, c4, c5, c6, c7⟩ := hW.2.2.2 _ _ ha
  have hlt : i.toNatClampNeg < N := Nat.not_le.mp fun q => hin (Or.inr q)
  exact W.aald C.hx C.hb (v := f i.toNatClampNeg) c1 (zAk.arr C.kn c2 c4) rfl c3 (by rw [c5]; exact hin) (c7 _ hlt) rfl rfl hd (k _ _ _ _ a3 p e s m args below meth c H locs ls C hl hW hs hq)
theorem zAt.ast {ty : FieldType} {a N j : Nat} {f : Nat → Value} {v : Value} {cell : Cell} {H1 : Heap} (c2 : zAk G cell.cls ty) (c3 : cell.vm ≠ .unknown) (c4 : ∀ k, cell.vm ≠ .statics k) (c5 : cell.slots.size = N) (c6 : N < 2 ^ 31) (c7 : ∀ j, j < N → cell.slots[j]? = some (f j)) (e : H1[a]? = some (cell.setSlot j v)) : zAt G a (.inl (ty, N, zUv f j v)) H1 := by
  refine ⟨_, e, c2, c3, c4, by show (cell.slots.setIfInBounds _ _).size = _; simp [c5], c6, fun i hi => ?_⟩
  show (cell.slots.setIfInBounds _ v)[_]? = _
  by_cases hij : i = j
  · subst hij
    rw [Array.getElem?_setIfInBounds_self_of_lt (by rw [c5]; exact hi)]
    simp [zUv]
  · rw [Array.getElem?_setIfInBounds_ne (fun z => hij z.symm), c7 i hi]
    simp [zUv, hij]
def iAstI (ty : FieldType) (K : zK) : zK := fun L S h n => pI S fun x r => pI r fun i r => pR r fun a r => zAr h a ty fun N f => vp_in i N ∧ zb G ≤ a ∧ K L r (zUp h a (.inl (ty, N, zUv f i.toNatClampNeg (narrow ty (.int x))))) n
def iAstL (K : zK) : zK := fun L S h n => pL S fun x r => pI r fun i r => pR r fun a r => zAr h a .long fun N f => vp_in i N ∧ zb G ≤ a ∧ K L r (zUp h a (.inl (.long, N, zUv f i.toNatClampNeg (.long x)))) n
def iAstD (K : zK) : zK := fun L S h n => pD S fun x r => pI r fun i r => pR r fun a r => zAr h a .double fun N f => vp_in i N ∧ zb G ≤ a ∧ K L r (zUp h a (.inl (.double, N, zUv f i.toNatClampNeg (.double x)))) n
/-- a reference put into an array of objects -/
def iAstA (K : zK) : zK := fun L S h n => pN S fun x r => pI r fun i r => pR r fun a r => zAr h a (.object "java/lang/Object") fun N f => vp_in i N ∧ zb G ≤ a ∧ (∀ y, x = some y → ∃ ci fs, h y = some (.inr (ci, fs))) ∧ K L r (zUp h a (.inl (.object "java/lang/Object", N, zUv f i.toNatClampNeg (va_rf x)))) n
theorem r_iastore (hd : decode M.2.1 pc = .ok (.iastore, 1)) (k : ∀ L S h n, K L S h n → zV l G d mc M Q (pc + 1) L S h n) : ∀ L S h n, iAstI (G := G) .int K L S h n → zV l G d mc M Q pc L S h n := by
  intro L S h n a
  obtain ⟨v, r, rfl, a1⟩ := pI.e a
  obtain ⟨i, r, rfl, a2⟩ := pI.e a1
  obtain ⟨x, r, rfl, a3⟩ := pR.e a2
  obtain ⟨N, f, ha, hin, hb9, a4⟩ := zAr.e a3
  intro p e s m args below meth c H locs ls C hl hW hs hq
  obtain ⟨cell, c1, c2, c3, c4, c5, c6, c7⟩ := hW.2.2.2 _ _ ha
  exact W.iast C.hx C.hb c1 (zAk.arr C.kn c2 c4) c3 (by rw [c5]; exact hin) rfl rfl hd (fun H1 e1 e2 e3 => k _ _ _ _ a4 p e s m args below meth c H1 _ ls C hl (hW.put hb9 e2 e3 (zAt.ast c2 c3 c4 c5 c6 c7 e1)) (by rw [e2]; exact hs) (zq_app hq hb9))
theorem r_bastore (hd : decode M.2.1 pc = .ok (.bastore, 1)) (k : ∀ L S h n, K L S h n → zV l G d mc M Q (pc + 1) L S h n) : ∀ L S h n, iAstI (G := G) .byte K L S h n → zV l G d mc M Q pc L S h n := by
  intro L S h n a
  obtain ⟨v, r, rfl, a1⟩ := pI.e a
  obtain ⟨i, r, rfl, a2⟩ := pI.e a1
  obtain ⟨x, r, rfl, a3⟩ := pR.e a2
  obtain ⟨N, f, ha, hin, hb9, a4⟩ := zAr.e a3
  intro p e s m args below meth c H locs ls C hl hW hs hq
  obtain ⟨cell, c1, c2, c3, c4, c5, c6, c7⟩ := hW.2.2.2 _ _ ha
  exact W.bast C.hx C.hb c1 (zAk.arr C.kn c2 c4) c3 (by rw [c5]; exact hin) rfl rfl hd (fun H1 e1 e2 e3 => k _ _ _ _ a4 p e s m args below meth c H1 _ ls C hl (hW.put hb9 e2 e3 (zAt.ast c2 c3 c4 c5 c6 c7 e1)) (by rw [e2]; exact hs) (zq_app hq hb9))
theorem r_castore (hd : decode M.2.1 pc = .ok (.castore, 1)) (k : ∀ L S h n, K L S h n → zV l G d mc M Q (pc + 1) L S h n) : ∀ L S h n, iAstI (G := G) .char K L S h n → zV l G d mc M Q pc L S h n := by
  intro L S h n a
  obtain ⟨v, r, rfl, a1⟩ := pI.e a
  obtain ⟨i, r, rfl, a2⟩ := pI.e a1
  obtain ⟨x, r, rfl, a3⟩ := pR.e a2
  obtain ⟨N, f, ha, hin, hb9, a4⟩ := zAr.e a3
  intro p e s m args below meth c H locs ls C hl hW hs hq
  obtain ⟨cell, c1, c2, c3, c4, c5, c6, c7⟩ := hW.2.2.2 _ _ ha
  exact W.cast C.hx C.hb c1 (zAk.arr C.kn c2 c4) c3 (by rw [c5]; exact hin) rfl rfl hd (fun H1 e1 e2 e3 => k _ _ _ _ a4 p e s m args below meth c H1 _ ls C hl (hW.put hb9 e2 e3 (zAt.ast c2 c3 c4 c5 c6 c7 e1)) (by rw [e2]; exact hs) (zq_app hq hb9))
theorem r_lastore (hd : decode M.2.1 pc = .ok (.lastore, 1)) (k : ∀ L S h n, K L S h n → zV l G d mc M Q (pc + 1) L S h n) : ∀ L S h n, iAstL (G := G) K L S h n → zV l G d mc M Q pc L S h n := by
  intro L S h n a
  obtain ⟨v, r, rfl, a1⟩ := pL.e a
  obtain ⟨i, r, rfl, a2⟩ := pI.e a1
  obtain ⟨x, r, rfl, a3⟩ := pR.e a2
  obtain ⟨N, f, ha, hin, hb9, a4⟩ := zAr.e a3
  intro p e s m args below meth c H locs ls C hl hW hs hq
  obtain ⟨cell, c1, c2, c3, c4, c5, c6, c7⟩ := hW.2.2.2 _ _ ha
  exact W.last C.hx C.hb c1 (zAk.arr C.kn c2 c4) c3 (by rw [c5]; exact hin) rfl rfl hd (fun H1 e1 e2 e3 => k _ _ _ _ a4 p e s m args below meth c H1 _ ls C hl (hW.put hb9 e2 e3 (zAt.ast c2 c3 c4 c5 c6 c7 e1)) (by rw [e2]; exact hs) (zq_app hq hb9))
theorem r_dastore (hd : decode M.2.1 pc = .ok (.dastore, 1)) (k : ∀ L S h n, K L S h n → zV l G d mc M Q (pc + 1) L S h n) : ∀ L S h n, iAstD (G := G) K L S h n → zV l G d mc M Q pc L S h n := by
  intro L S h n a
  obtain ⟨v, r, rfl, a1⟩ := pD.e a
  obtain ⟨i, r, rfl, a2⟩ := pI.e a1
  obtain ⟨x, r, rfl, a3⟩ := pR.e a2
  obtain ⟨N, f, ha, hin, hb9, a4⟩ := zAr.e a3
  intro p e s m args below meth c H locs ls C hl hW hs hq
  obtain ⟨cell, c1, c2, c3, c4, c5, c6, c7⟩ := hW.2.2.2 _ _ ha
  exact W.dast C.hx C.hb c1 (zAk.arr C.kn c2 c4) c3 (by rw [c5]; exact hin) rfl rfl hd (fun H1 e1 e2 e3 => k _ _ _ _ a4 p e s m args below meth c H1 _ ls C hl (hW.put hb9 e2 e3 (zAt.ast c2 c3 c4 c5 c6 c7 e1)) (by rw [e2]; exact hs) (zq_app hq hb9))
theorem r_aastore (hd : decode M.2.1 pc = .ok (.aastore, 1)) (k : ∀ L S h n, K L S h n → zV l G d mc M Q (pc + 1) L S h n) : ∀ L S h n, iAstA (G := G) K L S h n → zV l G d mc M Q pc L S h n := by
  intro L S h n a
  obtain ⟨v, r, rfl, a1⟩ := pN.e a
  obtain ⟨i, r, rfl, a2⟩ := pI.e a1
  obtain ⟨x, r, rfl, a3⟩ := pR.e a2
  obtain ⟨N, f, ha, hin, hb9, hv, a4⟩ := zAr.e a3
  intro p e s m args below meth c H locs ls C hl hW hs hq
  obtain ⟨cell, c1, c2, c3, c4, c5, c6, c7⟩ := hW.2.2.2 _ _ ha
  cases v with
  | none => exact va_WaastN C.hx C.hb c1 (zAk.arr C.kn c2 c4) c3 (by rw [c5]; exact hin) rfl rfl hd (fun H1 e1 e2 e3 => k _ _ _ _ a4 p e s m args below meth c H1 _ ls C hl (hW.put hb9 e2 e3 (zAt.ast c2 c3 c4 c5 c6 c7 e1)) (by rw [e2]; exact hs) (zq_app hq hb9))
  | some y =>
    obtain ⟨ci, fs, hy⟩ := hv y rfl
    obtain ⟨cy, qy, y1, y2, y3, y4, y5, y6, y7, y8⟩ := hW.2.2.2 _ _ hy
    obtain ⟨-, hA⟩ := (C.kn.2.2.1 _ _).mp c2
    obtain ⟨kA, comp, k1, k2, k3, -⟩ := hA (Or.inl rfl)
    obtain ⟨cc9, ct9, w1, w2, w3⟩ := Cond.castable_spec (C.kn.w (zcastO ci qy y2) rfl (args := args))
    obtain ⟨-, hfc, kC, hkC, -⟩ := C.kn.2.1 ci _ y2
    cases hfc.symm.trans w1
    cases k3.symm.trans w2
    obtain ⟨kE, hkE, -⟩ := Vm.findClass_spec k3
    exact W.aast C.hx C.hb c1 c4 c3 k1 k2 rfl hkE ⟨fun q => hin (Or.inl q), by rw [c5]; exact Nat.not_le.mp fun q => hin (Or.inr q)⟩ y1 y6 (by rw [y3]; exact hkC) (by rw [y3]; exact w3) rfl rfl hd (fun H1 e1 e2 e3 => k _ _ _ _ a4 p e s m args below meth c H1 _ ls C hl (hW.put hb9 e2 e3 (zAt.ast c2 c3 c4 c5 c6 c7 e1)) (by rw [e2]; exact hs) (zq_app hq hb9))
def iAlen (K : zK) : zK := fun L S h n => pR S fun a r => match h a with
  | some (.inl (_, N, _)) => K L (.int (nI N) :: r) h n
  | _ => False
theorem iAlen.e {h : zH} {a : Nat} {k : Nat → Prop} (q : match h a with | some (.inl (_, N, _)) => k N | _ => False) : ∃ ty N f, h a = some (.inl (ty, N, f)) ∧ k N := by
  split at q
  · next h1 => exact ⟨_, _, _, h1, q⟩
  · exact q.elim
theorem r_alen (hd : decode M.2.1 pc = .ok (.arraylength, 1)) (k : ∀ L S h n, K L S h n → zV l G d mc M Q (pc + 1) L S h n) : ∀ L S h n, iAlen K L S h n → zV l G d mc M Q pc L S h n := by
  intro L S h n a
  obtain ⟨x, r, rfl, a1⟩ := pR.e a
  obtain ⟨ty, N, f, ha, a2⟩ := iAlen.e a1
  intro p e s m args below meth c H locs ls C hl hW hs hq
  obtain ⟨cell, c1, c2, c3, c4, c5, c6, c7⟩ := hW.2.2.2 _ _ ha
  exact W.alen (n := nI N) C.hx C.hb c1 (zAk.arr C.kn c2 c4) (by rw [c5]; rfl) rfl rfl hd (k _ _ _ _ a2 p e s m args below meth c H locs ls C hl hW hs hq)
def iNew (ci : Nat) (fs : List Value) (K : zK) : zK := fun L S h n => n + 1 ≤ mc ∧ ∀ a, h a = none → zb G ≤ a → K L (.ref a :: S) (zUp h a (.inr (ci, fs))) (n + 1)
theorem r_new {idx ci N : Nat} {C0 : String} {T0 : u_T} {fs : List Value} (hd : decode M.2.1 pc = .ok (.new idx, 3)) (hq : zCL[ci]? = some (C0, T0, N)) (hcl : Cond.classLink M.1.cls idx C0 ∈ zTb) (hins : Cond.instantiable C0 N ∈ zTb) (hini : Cond.initialized C0 ∈ zTb) (hN : N ≤ 64) (hfl : fs.length = N) (hfs : ∀ j, j < N → defaultValue (zty ci j) = zFd fs j) (k : ∀ L S h n, K L S h n → zV l G d mc M Q (pc + 3) L S h n) : ∀ L S h n, iNew (G := G) (mc := mc) ci fs K L S h n → zV l G d mc M Q pc L S h n := by
  intro L S h n a
  obtain ⟨hn, a1⟩ := a
  intro p e s m args below meth c H locs ls C hl hW hs hq9
  obtain ⟨hS, hfc, kC, hkC, hkind⟩ := C.kn.2.1 ci _ hq
  have hKn := C.kn.2.1 ci _ hq
  refine W.newc C.hx C.hb C.own (C.kn.w hcl rfl) (C.kn.w hins rfl) (C.kn.w hini rfl) rfl hd (show n + 1 ≤ mc from hn) (show 64 * n + N ≤ 64 * mc by omega) fun cC kC9 f1 f2 f3 f4 => ?_
  cases hfc.symm.trans f1
  cases hkC.symm.trans f2
  generalize hH1 : H.push ({ cls := _, slots := kC.instanceTypes.map defaultValue, vm := .none } : Cell) = H1
  have z1 : H1.size = H.size + 1 := by rw [← hH1, Array.size_push]
  have e1 : H1[H.size]? = some (blank ((zD G).1 ci) kC) := by rw [← hH1, Array.getElem?_push_size]; rfl
  have o1 : ∀ q : Nat, q < H.size → H1[q]? = H[q]? := fun q hq => by rw [← hH1, Array.getElem?_push, if_neg (Nat.ne_of_lt hq)]
  have hob := u_born (zty ci) (C.kn.lays hq (args := args)) (fun w hw => hw) hKn hkC e1 (ztyo ci _ hq)
  obtain ⟨cell, b1, b2, b3, b4⟩ := hob
  have hat : zAt G H.size (.inr (ci, fs)) H1 := ⟨cell, _, b1, hq, b2, fun _ => b3, (by rw [b3]; exact fun h => by cases h), (by rw [b3]; exact fun _ h => by cases h), hfl, fun j hj => by rw [b4 j hj]; exact congrArg some (hfs j hj)⟩
  refine W.widen (k := n + 1) (n := 64 * (n + 1)) (Nat.le_refl _) (by omega) ?_
  exact k _ _ _ _ (a1 H.size hW.fresh hW.1) p e s m args below meth c H1 locs ls C hl (hW.push z1 o1 hat) (by omega) hq9
theorem zAt.newa {ty : FieldType} {N : Nat} {dv : Value} {cA : ClassId} {H H1 : Heap} (hA : zAk G cA ty) (hN : N < 2 ^ 31) (e : H1[H.size]? = some { cls := cA, slots := Array.replicate N dv, vm := .none }) : zAt G H.size (.inl (ty, N, fun _ => dv)) H1 :=
  ⟨_, e, hA, (fun h => by cases h), (fun _ h => by cases h), Array.size_replicate, hN, fun j hj => by simp [hj]⟩
/-- an array of x places, all dv; it counts as x / 64 + 1 cells -/
def iNewa (ty : FieldType) (dv : Value) (K : zK) : zK := fun L S h n => pI S fun x r => ¬ x < 0 ∧ x.toNatClampNeg ≤ 65536 ∧ n + (x.toNatClampNeg / 64 + 1) ≤ mc ∧ ∀ a, h a = none → zb G ≤ a → K L (.ref a :: r) (zUp h a (.inl (ty, x.toNatClampNeg, fun _ => dv))) (n + (x.toNatClampNeg / 64 + 1))
theorem r_newarray {at9 : ArrayType} {ty : FieldType} {dv : Value} (hd : decode M.2.1 pc = .ok (.newarray at9, 2)) (hty : newarray.typeOf at9 = ty) (hdv : defaultValue ty = dv) (h5 : ty ∈ zA5) (hbytes : componentBytes ty ≤ 8) (k : ∀ L S h n, K L S h n → zV l G d mc M Q (pc + 2) L S h n) : ∀ L S h n, iNewa (G := G) (mc := mc) ty dv K L S h n → zV l G d mc M Q pc L S h n := by
  intro L S h n a
  obtain ⟨x, r, rfl, a1⟩ := pI.e a
  obtain ⟨h0, hx, hn, a9⟩ := a1
  intro p e s m args below meth c H locs ls C hl hW hs hq
  subst hty
  subst hdv
  have hby : x.toNatClampNeg * componentBytes (newarray.typeOf at9) ≤ 536870912 := Nat.le_trans (Nat.mul_le_mul hx hbytes) (Nat.le_of_ble_eq_true rfl)
  refine W.newa C.hx C.hb (show (Cond.arrayClass (newarray.typeOf at9)).before args s = true from C.kn.2.2.2.1 _ h5) rfl hd rfl h0 hby (show n + 1 ≤ mc by omega) (show 64 * n + x.toNatClampNeg ≤ 64 * mc by omega) fun cA kA comp f1 f2 f3 => ?_
  generalize hH1 : H.push _ = H1
  have z1 : H1.size = H.size + 1 := by rw [← hH1, Array.size_push]
  have e1 : H1[H.size]? = some ({ cls := cA, slots := Array.replicate x.toNatClampNeg (defaultValue (newarray.typeOf at9)), vm := .none } : Cell) := by rw [← hH1, Array.getElem?_push_size]
  have o1 : ∀ q : Nat, q < H.size → H1[q]? = H[q]? := fun q hq => by rw [← hH1, Array.getElem?_push, if_neg (Nat.ne_of_lt hq)]
  refine W.widen (k := n + (x.toNatClampNeg / 64 + 1)) (n := 64 * (n + (x.toNatClampNeg / 64 + 1))) (by omega) (by omega) ?_
  exact k _ _ _ _ (a9 H.size hW.fresh hW.1) p e s m args below meth c H1 locs ls C hl (hW.push z1 o1 (zAt.newa ((C.kn.2.2.1 _ _).mpr ⟨⟨kA, comp, f2, f3⟩, fun e9 => (by rcases e9 with e9 | e9; (rw [e9] at h5; simp [zA5] at h5); (rw [e9] at f1 ⊢; exact f1))⟩) (by omega) e1)) (by omega) hq
theorem r_anew {idx : Nat} (hd : decode M.2.1 pc = .ok (.anewarray idx, 3)) (hcl : Cond.classLink M.1.cls idx "java/lang/Object" ∈ zTb) (k : ∀ L S h n, K L S h n → zV l G d mc M Q (pc + 3) L S h n) : ∀ L S h n, iNewa (G := G) (mc := mc) (.object "java/lang/Object") .null K L S h n → zV l G d mc M Q pc L S h n := by
  intro L S h n a
  obtain ⟨x, r, rfl, a1⟩ := pI.e a
  obtain ⟨h0, hx, hn, a9⟩ := a1
  intro p e s m args below meth c H locs ls C hl hW hs hq
  refine W.anew C.hx C.hb C.own (C.kn.w hcl rfl) (va_AO.use C.kn.2.2.2.2.1) rfl hd rfl h0 (by omega) (show n + 1 ≤ mc by omega) (show 64 * n + x.toNatClampNeg ≤ 64 * mc by omega) fun cA kA comp f1 f2 f3 f4 => ?_
  generalize hH1 : H.push _ = H1
  have z1 : H1.size = H.size + 1 := by rw [← hH1, Array.size_push]
  have e1 : H1[H.size]? = some ({ cls := cA, slots := Array.replicate x.toNatClampNeg Value.null, vm := .none } : Cell) := by rw [← hH1, Array.getElem?_push_size]
  have o1 : ∀ q : Nat, q < H.size → H1[q]? = H[q]? := fun q hq => by rw [← hH1, Array.getElem?_push, if_neg (Nat.ne_of_lt hq)]
  refine W.widen (k := n + (x.toNatClampNeg / 64 + 1)) (n := 64 * (n + (x.toNatClampNeg / 64 + 1))) (by omega) (by omega) ?_
  exact k _ _ _ _ (a9 H.size hW.fresh hW.1) p e s m args below meth c H1 locs ls C hl (hW.push z1 o1 (zAt.newa ((C.kn.2.2.1 _ _).mpr ⟨⟨kA, comp, f2, f3⟩, fun _ => ⟨kA, comp, f2, f3, f4, f1⟩⟩) (by omega) e1)) (by omega) hq
theorem r_gets {idx : Nat} {C0 n0 d0 : String} (hd : decode M.2.1 pc = .ok (.getstatic idx, 3)) (hst : (C0, n0, d0) ∈ zST) (hw : Cond.fieldLink M.1.cls idx C0 n0 d0 ∈ zTb ∨ ∃ host, Cond.fieldLinkNest M.1.cls idx C0 n0 d0 host ∈ zTb) (k : ∀ L S h n, K L S h n → zV l G d mc M Q (pc + 3) L S h n) : ∀ L S h n, iCst (zZs G C0 n0) K L S h n → zV l G d mc M Q pc L S h n := by
  intro L S h n a
  intro p e s m args below meth c H locs ls C hl hW hs hq
  obtain ⟨cf, kf, fi, f, x, cell, h1, h2, h3, h4, h5, h6, h7, h8⟩ := C.kn.2.2.2.2.2.1 _ hst
  have hx : x < zb G := Nat.not_le.mp h8
  have hc : H[x]? = some cell := by rw [hW.2.1 x hx]; exact h5
  have hu : cell.vm ≠ .unknown := fun e => by rw [e] at h6; cases h6
  rcases hw with hw | ⟨host, hw⟩
  · exact W.gets C.hx C.hb C.own (C.kn.w hw rfl) h1 h2 h3 h4 hc hu h7 rfl hd (k _ _ _ _ a p e s m args below meth c H locs ls C hl hW hs hq)
  · exact va_WgetsN C.hx C.hb C.own (C.kn.w hw rfl) h1 h2 h3 h4 hc hu h7 rfl hd (k _ _ _ _ a p e s m args below meth c H locs ls C hl hW hs hq)
/-- a cast of an object of class ci, or of null -/
def iCast (ci : Nat) (K : zK) : zK := fun L S h n => pN S fun x r => match x with
  | none => K L (.null :: r) h n
  | some a => zOj h a ci fun _ => K L (.ref a :: r) h n
theorem zobj {h : zH} {H : Heap} {a ci : Nat} {fs : List Value} {q : vw_C} {s : State} (hK : zKn G s) (hW : zWd G h H) (ha : h a = some (.inr (ci, fs))) (hq : zCL[ci]? = some q) : ∃ cell : Cell, H[a]? = some cell ∧ cell.vm.isStatics = false ∧ s.vm.findClass q.1 = some cell.cls := by
  obtain ⟨cell, q2, c1, c2, c3, c4, c5, c6, c7, c8⟩ := hW.2.2.2 _ _ ha
  cases hq.symm.trans c2
  obtain ⟨-, hfc, -⟩ := hK.2.1 ci _ hq
  refine ⟨cell, c1, ?_, by rw [c3]; exact hfc⟩
  cases hv : cell.vm <;> first | rfl | exact absurd hv (c6 _)
theorem r_cast {idx ci : Nat} {q : vw_C} {nm : String} (hd : decode M.2.1 pc = .ok (.checkcast idx, 3)) (hq9 : zCL[ci]? = some q) (hcl : Cond.classLink M.1.cls idx nm ∈ zTb) (hok : nm = q.1 ∨ Cond.castable q.1 nm ∈ zTb) (k : ∀ L S h n, K L S h n → zV l G d mc M Q (pc + 3) L S h n) : ∀ L S h n, iCast ci K L S h n → zV l G d mc M Q pc L S h n := by
  intro L S h n a
  obtain ⟨x, r, rfl, a1⟩ := pN.e a
  cases x with
  | none =>
    intro p e s m args below meth c H locs ls C hl hW hs hq
    exact lv_castN C.hx C.hb hd (k _ _ _ _ a1 p e s m args below meth c H locs ls C hl hW hs hq)
  | some x =>
    obtain ⟨fs, ha, a9⟩ := zOj.e a1
    intro p e s m args below meth c H locs ls C hl hW hs hq
    rcases hok with rfl | hok
    · exact va_castS C.hx C.hb C.own (C.kn.w hcl rfl) (C.kn.2.1 ci _ hq9).2 (zobj C.kn hW ha hq9) hd (k _ _ _ _ a9 p e s m args below meth c H locs ls C hl hW hs hq)
    · exact va_castY C.hx C.hb C.own (C.kn.w hcl rfl) (va_Nw.of rfl (C.kn.w hok rfl (args := args))) (zobj C.kn hW ha hq9) hd (k _ _ _ _ a9 p e s m args below meth c H locs ls C hl hW hs hq)
/-- instanceof of an object of class ci: the answer is known -/
def iInst (ci : Nat) (v : Int32) (K : zK) : zK := fun L S h n => pR S fun a r => zOj h a ci fun _ => K L (.int v :: r) h n
theorem r_inst1 {idx ci : Nat} {q : vw_C} {nm : String} (hd : decode M.2.1 pc = .ok (.instanceof idx, 3)) (hq9 : zCL[ci]? = some q) (hcl : Cond.classLink M.1.cls idx nm ∈ zTb) (hok : nm = q.1 ∨ Cond.castable q.1 nm ∈ zTb) (k : ∀ L S h n, K L S h n → zV l G d mc M Q (pc + 3) L S h n) : ∀ L S h n, iInst ci 1 K L S h n → zV l G d mc M Q pc L S h n := by
  intro L S h n a
  obtain ⟨x, r, rfl, a1⟩ := pR.e a
  obtain ⟨fs, ha, a2⟩ := zOj.e a1
  intro p e s m args below meth c H locs ls C hl hW hs hq
  rcases hok with rfl | hok
  · exact va_instS C.hx C.hb C.own (C.kn.w hcl rfl) (C.kn.2.1 ci _ hq9).2 (zobj C.kn hW ha hq9) hd (k _ _ _ _ a2 p e s m args below meth c H locs ls C hl hW hs hq)
  · exact va_instY C.hx C.hb C.own (C.kn.w hcl rfl) (va_Nw.of rfl (C.kn.w hok rfl (args := args))) (zobj C.kn hW ha hq9) hd (k _ _ _ _ a2 p e s m args below meth c H locs ls C hl hW hs hq)
def iI2d (K : zK) : zK := fun L S h n => pI S fun x r => K L (.double (FP.i2d x) :: r) h n
theorem r_i2d (hd : decode M.2.1 pc = .ok (.i2d, 1)) (k : ∀ L S h n, K L S h n → zV l G d mc M Q (pc + 1) L S h n) : ∀ L S h n, iI2d K L S h n → zV l G d mc M Q pc L S h n := by
  intro L S h n a
  obtain ⟨x, r, rfl, a1⟩ := pI.e a
  intro p e s m args below meth c H locs ls C hl hW hs hq
  exact lv_i2d C.hx C.hb hd (k _ _ _ _ a1 p e s m args below meth c H locs ls C hl hW hs hq)
def iI2f (K : zK) : zK := fun L S h n => pI S fun x r => K L (.float (FP.i2f x) :: r) h n
theorem r_i2f (hd : decode M.2.1 pc = .ok (.i2f, 1)) (k : ∀ L S h n, K L S h n → zV l G d mc M Q (pc + 1) L S h n) : ∀ L S h n, iI2f K L S h n → zV l G d mc M Q pc L S h n := by
  intro L S h n a
  obtain ⟨x, r, rfl, a1⟩ := pI.e a
  intro p e s m args below meth c H locs ls C hl hW hs hq
  exact lv_i2f C.hx C.hb hd (k _ _ _ _ a1 p e s m args below meth c H locs ls C hl hW hs hq)
def iDdiv (K : zK) : zK := fun L S h n => pD S fun y r => pD r fun x r => vf_n64 (FP.ddiv x y) ∧ K L (.double (FP.ddiv x y) :: r) h n
theorem r_ddiv (hd : decode M.2.1 pc = .ok (.ddiv, 1)) (k : ∀ L S h n, K L S h n → zV l G d mc M Q (pc + 1) L S h n) : ∀ L S h n, iDdiv K L S h n → zV l G d mc M Q pc L S h n := by
  intro L S h n a
  obtain ⟨y, r, rfl, a1⟩ := pD.e a
  obtain ⟨x, r, rfl, hz, a2⟩ := pD.e a1
  intro p e s m args below meth c H locs ls C hl hW hs hq
  exact lv_ddiv C.hx C.hb hd hz (k _ _ _ _ a2 p e s m args below meth c H locs ls C hl hW hs hq)
def iFdiv (K : zK) : zK := fun L S h n => pF S fun y r => pF r fun x r => vf_n32 (FP.fdiv x y) ∧ K L (.float (FP.fdiv x y) :: r) h n
theorem r_fdiv (hd : decode M.2.1 pc = .ok (.fdiv, 1)) (k : ∀ L S h n, K L S h n → zV l G d mc M Q (pc + 1) L S h n) : ∀ L S h n, iFdiv K L S h n → zV l G d mc M Q pc L S h n := by
  intro L S h n a
  obtain ⟨y, r, rfl, a1⟩ := pF.e a
  obtain ⟨x, r, rfl, hz, a2⟩ := pF.e a1
  intro p e s m args below meth c H locs ls C hl hW hs hq
  exact lv_fdiv C.hx C.hb hd hz (k _ _ _ _ a2 p e s m args below meth c H locs ls C hl hW hs hq)
def iF2d (K : zK) : zK := fun L S h n => pF S fun x r => vf_n64 (FP.f2d x) ∧ K L (.double (FP.f2d x) :: r) h n
theorem r_f2d (hd : decode M.2.1 pc = .ok (.f2d, 1)) (k : ∀ L S h n, K L S h n → zV l G d mc M Q (pc + 1) L S h n) : ∀ L S h n, iF2d K L S h n → zV l G d mc M Q pc L S h n := by
  intro L S h n a
  obtain ⟨x, r, rfl, hz, a1⟩ := pF.e a
  intro p e s m args below meth c H locs ls C hl hW hs hq
  exact lv_f2d C.hx C.hb hd hz (k _ _ _ _ a1 p e s m args below meth c H locs ls C hl hW hs hq)
def iDcmp (op : CmpOp) (K : zK) : zK := fun L S h n => pD S fun y r => pD r fun x r => K L (.int (Op.cmpValue (FP.dcmp x y) op) :: r) h n
theorem r_dcmp {op : CmpOp} (hd : decode M.2.1 pc = .ok (.dcmp op, 1)) (k : ∀ L S h n, K L S h n → zV l G d mc M Q (pc + 1) L S h n) : ∀ L S h n, iDcmp op K L S h n → zV l G d mc M Q pc L S h n := by
  intro L S h n a
  obtain ⟨y, r, rfl, a1⟩ := pD.e a
  obtain ⟨x, r, rfl, a2⟩ := pD.e a1
  intro p e s m args below meth c H locs ls C hl hW hs hq
  exact lv_dcmp C.hx C.hb hd (k _ _ _ _ a2 p e s m args below meth c H locs ls C hl hW hs hq)
theorem r_dconst0 (hd : decode M.2.1 pc = .ok (.dconst 0, 1)) (k : ∀ L S h n, K L S h n → zV l G d mc M Q (pc + 1) L S h n) : ∀ L S h n, iCst (.double FP.dconst0) K L S h n → zV l G d mc M Q pc L S h n := by
  intro L S h n a
  intro p e s m args below meth c H locs ls C hl hW hs hq
  exact lv_dconst0 C.hx C.hb hd (k _ _ _ _ a p e s m args below meth c H locs ls C hl hW hs hq)
def iLcmp (K : zK) : zK := fun L S h n => pL S fun y r => pL r fun x r => K L (.int (lg_cmp x y) :: r) h n
theorem r_lcmp (hd : decode M.2.1 pc = .ok (.lcmp, 1)) (k : ∀ L S h n, K L S h n → zV l G d mc M Q (pc + 1) L S h n) : ∀ L S h n, iLcmp K L S h n → zV l G d mc M Q pc L S h n := by
  intro L S h n a
  obtain ⟨y, r, rfl, a1⟩ := pL.e a
  obtain ⟨x, r, rfl, a2⟩ := pL.e a1
  intro p e s m args below meth c H locs ls C hl hW hs hq
  exact W.lcmp C.hx C.hb hd (k _ _ _ _ a2 p e s m args below meth c H locs ls C hl hW hs hq)
/-- answers -/
def iRetI (ty : FieldType) : zK := fun _ S h n => match S with
  | [.int x] => narrow ty (.int x) = .int x ∧ n ≤ mc ∧ Q (.inl (some (.int x))) h
  | _ => False
def iRetA : zK := fun _ S h n => match S with
  | [.ref x] => n ≤ mc ∧ Q (.inl (some (.ref x))) h
  | [.null] => n ≤ mc ∧ Q (.inl (some .null)) h
  | _ => False
def iRetV : zK := fun _ S h n => match S with
  | [] => n ≤ mc ∧ Q (.inl none) h
  | _ => False
def iRetD : zK := fun _ S h n => match S with
  | [.double x] => n ≤ mc ∧ Q (.inl (some (.double x))) h
  | _ => False
def iRetF : zK := fun _ S h n => match S with
  | [.float x] => n ≤ mc ∧ Q (.inl (some (.float x))) h
  | _ => False
theorem iRetI.e {ty : FieldType} {L : List (Option Value)} {S : List Value} {h : zH} {n : Nat} (a : iRetI (mc := mc) (Q := Q) ty L S h n) : ∃ x, S = [.int x] ∧ narrow ty (.int x) = .int x ∧ n ≤ mc ∧ Q (.inl (some (.int x))) h := by
  unfold iRetI at a
  split at a
  · exact ⟨_, rfl, a⟩
  · exact a.elim
theorem iRetA.e {L : List (Option Value)} {S : List Value} {h : zH} {n : Nat} (a : iRetA (mc := mc) (Q := Q) L S h n) : ∃ x : Option Nat, S = [va_rf x] ∧ n ≤ mc ∧ Q (.inl (some (va_rf x))) h := by
  unfold iRetA at a
  split at a
  · exact ⟨some _, rfl, a⟩
  · exact ⟨none, rfl, a⟩
  · exact a.elim
theorem iRetV.e {L : List (Option Value)} {S : List Value} {h : zH} {n : Nat} (a : iRetV (mc := mc) (Q := Q) L S h n) : S = [] ∧ n ≤ mc ∧ Q (.inl none) h := by
  unfold iRetV at a
  split at a
  · exact ⟨rfl, a⟩
  · exact a.elim
theorem iRetD.e {L : List (Option Value)} {S : List Value} {h : zH} {n : Nat} (a : iRetD (mc := mc) (Q := Q) L S h n) : ∃ x, S = [.double x] ∧ n ≤ mc ∧ Q (.inl (some (.double x))) h := by
  unfold iRetD at a
  split at a
  · exact ⟨_, rfl, a⟩
  · exact a.elim
theorem iRetF.e {L : List (Option Value)} {S : List Value} {h : zH} {n : Nat} (a : iRetF (mc := mc) (Q := Q) L S h n) : ∃ x, S = [.float x] ∧ n ≤ mc ∧ Q (.inl (some (.float x))) h := by
  unfold iRetF at a
  split at a
  · exact ⟨_, rfl, a⟩
  · exact a.elim
theorem r_ireturn {ty : FieldType} (hd : decode M.2.1 pc = .ok (.ireturn, 1)) (hr : M.2.2.2.1 = some ty) : ∀ L S h n, iRetI (mc := mc) (Q := Q) ty L S h n → zV l G d mc M Q pc L S h n := by
  intro L S h n a
  obtain ⟨x, rfl, h1, h2, h3⟩ := iRetI.e a
  intro p e s m args below meth c H locs ls C hl hW hs hq
  refine W.widen (k := mc) (n := 64 * mc) h2 (Nat.mul_le_mul_left 64 h2) (vx_ret ?_)
  exact W.zret C.hx C.hb (C.ret.trans hr) h1 (fun t ht _ => ⟨_, h, rfl, h3, by rw [ht]; exact hW, by rw [ht]; exact hs⟩) hq hd C.locks
theorem r_areturn {ty : FieldType} (hd : decode M.2.1 pc = .ok (.areturn, 1)) (hr : M.2.2.2.1 = some ty) (hty : (∃ n, ty = .object n) ∨ ∃ t, ty = .array t) : ∀ L S h n, iRetA (mc := mc) (Q := Q) L S h n → zV l G d mc M Q pc L S h n := by
  intro L S h n a
  obtain ⟨x, rfl, h2, h3⟩ := iRetA.e a
  intro p e s m args below meth c H locs ls C hl hW hs hq
  refine W.widen (k := mc) (n := 64 * mc) h2 (Nat.mul_le_mul_left 64 h2) (vx_ret ?_)
  exact W.aret C.hx C.hb (C.ret.trans hr) hty (by cases x; exact Or.inl rfl; exact Or.inr ⟨_, rfl⟩) (fun t ht _ => ⟨_, h, rfl, h3, by rw [ht]; exact hW, by rw [ht]; exact hs⟩) hq hd C.locks
theorem r_return (hd : decode M.2.1 pc = .ok (.return_, 1)) (hr : M.2.2.2.1 = none) : ∀ L S h n, iRetV (mc := mc) (Q := Q) L S h n → zV l G d mc M Q pc L S h n := by
  intro L S h n a
  obtain ⟨rfl, h2, h3⟩ := iRetV.e a
  intro p e s m args below meth c H locs ls C hl hW hs hq
  refine W.widen (k := mc) (n := 64 * mc) h2 (Nat.mul_le_mul_left 64 h2) (vx_ret ?_)
  exact W.vret C.hx C.hb (C.ret.trans hr) (fun t ht _ => ⟨_, h, rfl, h3, by rw [ht]; exact hW, by rw [ht]; exact hs⟩) hq hd C.locks
theorem r_dreturn (hd : decode M.2.1 pc = .ok (.dreturn, 1)) (hr : M.2.2.2.1 = some .double) : ∀ L S h n, iRetD (mc := mc) (Q := Q) L S h n → zV l G d mc M Q pc L S h n := by
  intro L S h n a
  obtain ⟨x, rfl, h2, h3⟩ := iRetD.e a
  intro p e s m args below meth c H locs ls C hl hW hs hq
  refine W.widen (k := mc) (n := 64 * mc) h2 (Nat.mul_le_mul_left 64 h2) (vx_ret ?_)
  exact W.dret C.hx C.hb (C.ret.trans hr) (fun t ht _ => ⟨_, h, rfl, h3, by rw [ht]; exact hW, by rw [ht]; exact hs⟩) hq hd C.locks
theorem r_freturn (hd : decode M.2.1 pc = .ok (.freturn, 1)) (hr : M.2.2.2.1 = some .float) : ∀ L S h n, iRetF (mc := mc) (Q := Q) L S h n → zV l G d mc M Q pc L S h n := by
  intro L S h n a
  obtain ⟨x, rfl, h2, h3⟩ := iRetF.e a
  intro p e s m args below meth c H locs ls C hl hW hs hq
  refine W.widen (k := mc) (n := 64 * mc) h2 (Nat.mul_le_mul_left 64 h2) (vx_ret ?_)
  exact W.fret C.hx C.hb (C.ret.trans hr) (fun t ht _ => ⟨_, h, rfl, h3, by rw [ht]; exact hW, by rw [ht]; exact hs⟩) hq hd C.locks
end ZS
