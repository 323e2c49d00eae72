/-! the component's state laid over other cells -/
/-- fields, bridge, rows (mod, numbers) by field, carts (mod, how many), what a cart is -/
abbrev cS : Type := (Nat → Int32) × (Nat → Int32) × (Nat → Int32 × List Nat) × (Int32 × Nat) × (Nat → Nat → Int32)
/-- the state's address, its parts', its carts' -/
abbrev cA : Type := Nat × (Nat → Nat) × (Nat → Nat)
abbrev cN (c : cS) : Nat := c.2.2.2.1.2
abbrev cB (c : cS) : Nat → Int32 := c.2.1
abbrev cL (c : cS) (i : Nat) : List Nat := (c.2.2.1 i).2
abbrev cG (c : cS) : Nat → Nat → Int32 := c.2.2.2.2
def cIx (f : Nat → Nat) : Nat → Nat → Option Nat
  | 0, _ => none
  | n + 1, b => if b = f n then some n else cIx f n b
def cOs (A : cA) (c : cS) : List Value := [.ref (A.2.1 0), .ref (A.2.1 1), .ref (A.2.1 2), .ref (A.2.1 3), .ref (A.2.1 4), .int (c.1 5), .int (c.1 6), .int (c.1 7), .int (c.1 8), .int (c.1 9), .int (c.1 10), .int (c.1 11), .int (c.1 12)]
def cOc (g : Nat → Int32) : List Value := [.int (g 0), .int (g 1), .int (g 2), .int (g 3), .int (g 4), .int (g 5), .int (g 6), .int (g 7), .int (g 8), .int (g 9), .int (g 10)]
def cK (G : zG) (k : t_H) (A : cA) (c : cS) : t_H := fun b =>
  if b = A.1 then some (tOb 1 (cOs A c))
  else if b = A.2.1 0 then some (tLi c.2.2.2.1.1 ((List.range (cN c)).map A.2.2))
  else if b = A.2.1 1 then some (tLi (c.2.2.1 1).1 ((cL c 1).map (tbx G)))
  else if b = A.2.1 2 then some (tLi (c.2.2.1 2).1 ((cL c 2).map (tbx G)))
  else if b = A.2.1 3 then some (tLi (c.2.2.1 3).1 ((cL c 3).map (tbx G)))
  else if b = A.2.1 4 then some (tAr .int 8 (fun i => .int (cB c i)))
  else match cIx A.2.2 (cN c) b with
    | some i => some (tOb 2 (cOc (cG c i)))
    | none => k b
/-- the addresses are new and apart -/
def cD (G : zG) (A : cA) (n : Nat) : Prop := zb G ≤ A.1 ∧ (∀ j, j < 5 → zb G ≤ A.2.1 j ∧ A.2.1 j ≠ A.1) ∧ (∀ i j, i < 5 → j < 5 → i ≠ j → A.2.1 i ≠ A.2.1 j) ∧ (∀ i, i < n → zb G ≤ A.2.2 i ∧ A.2.2 i ≠ A.1 ∧ ∀ j, j < 5 → A.2.2 i ≠ A.2.1 j) ∧ ∀ i j, i < n → j < n → i ≠ j → A.2.2 i ≠ A.2.2 j
def cSf (c : cS) (j : Nat) (v : Int32) : cS := (zuf c.1 j v, c.2)
def cSb (c : cS) (j : Nat) (v : Int32) : cS := (c.1, zuf c.2.1 j v, c.2.2)
def cSl (c : cS) (j : Nat) (m : Int32) (xs : List Nat) : cS := (c.1, c.2.1, (fun i => if i = j then (m, xs) else c.2.2.1 i), c.2.2.2)
def cSc (c : cS) (i j : Nat) (v : Int32) : cS := (c.1, c.2.1, c.2.2.1, c.2.2.2.1, fun i' => if i' = i then zuf (c.2.2.2.2 i) j v else c.2.2.2.2 i')
section C0
variable {G : zG} {k : t_H} {A : cA} {c : cS} {h : zH}
theorem cIx_some {f : Nat → Nat} : ∀ {n b i : Nat}, cIx f n b = some i → i < n ∧ b = f i
  | n + 1, b, i, h => by
    unfold cIx at h
    split at h
    · next e => cases h; exact ⟨Nat.lt_succ_self _, e⟩
    · have := cIx_some h; exact ⟨by omega, this.2⟩
theorem cIx_none {f : Nat → Nat} : ∀ {n b : Nat}, (∀ i, i < n → b ≠ f i) → cIx f n b = none
  | 0, _, _ => rfl
  | n + 1, b, h => by rw [cIx, if_neg (h n (Nat.lt_succ_self _)), cIx_none (fun i hi => h i (by omega))]
theorem cIx_at {f : Nat → Nat} {n i : Nat} (hf : ∀ i j, i < n → j < n → i ≠ j → f i ≠ f j) (hi : i < n) : cIx f n (f i) = some i := by
  cases e : cIx f n (f i) with
  | some j =>
    have := cIx_some e
    by_cases q : i = j
    · rw [q]
    · exact absurd this.2 (hf i j hi this.1 q)
  | none =>
    exfalso
    have H : ∀ m, i < m → m ≤ n → cIx f m (f i) ≠ none := by
      intro m
      induction m with
      | zero => intro h; omega
      | succ m ih =>
        intro h1 h2 h3
        unfold cIx at h3
        split at h3
        · cases h3
        · next q =>
          rcases Nat.lt_or_ge i m with z | z
          · exact ih z (by omega) h3
          · obtain rfl : i = m := by omega
            exact q rfl
    exact H n hi (Nat.le_refl _) e
theorem cK_s : cK G k A c A.1 = some (tOb 1 (cOs A c)) := if_pos rfl
theorem cK_0 (D : cD G A (cN c)) : cK G k A c (A.2.1 0) = some (tLi c.2.2.2.1.1 ((List.range (cN c)).map A.2.2)) := by
  unfold cK; rw [if_neg (D.2.1 0 (by omega)).2, if_pos rfl]
theorem cK_l (D : cD G A (cN c)) {j : Nat} (h1 : 1 ≤ j) (h3 : j ≤ 3) : cK G k A c (A.2.1 j) = some (tLi (c.2.2.1 j).1 ((cL c j).map (tbx G))) := by
  unfold cK
  rw [if_neg (D.2.1 j (by omega)).2, if_neg (D.2.2.1 j 0 (by omega) (by omega) (by omega))]
  by_cases e1 : j = 1
  · subst e1; rw [if_pos rfl]
  · rw [if_neg (D.2.2.1 j 1 (by omega) (by omega) e1)]
    by_cases e2 : j = 2
    · subst e2; rw [if_pos rfl]
    · obtain rfl : j = 3 := by omega
      rw [if_neg (D.2.2.1 3 2 (by omega) (by omega) e2), if_pos rfl]
theorem cK_b (D : cD G A (cN c)) : cK G k A c (A.2.1 4) = some (tAr .int 8 (fun i => .int (cB c i))) := by
  unfold cK
  rw [if_neg (D.2.1 4 (by omega)).2, if_neg (D.2.2.1 4 0 (by omega) (by omega) (by omega)), if_neg (D.2.2.1 4 1 (by omega) (by omega) (by omega)), if_neg (D.2.2.1 4 2 (by omega) (by omega) (by omega)), if_neg (D.2.2.1 4 3 (by omega) (by omega) (by omega)), if_pos rfl]
theorem cK_c (D : cD G A (cN c)) {i : Nat} (hi : i < cN c) : cK G k A c (A.2.2 i) = some (tOb 2 (cOc (cG c i))) := by
  have H := (D.2.2.2.1 i hi).2
  unfold cK
  rw [if_neg H.1, if_neg (H.2 0 (by omega)), if_neg (H.2 1 (by omega)), if_neg (H.2 2 (by omega)), if_neg (H.2 3 (by omega)), if_neg (H.2 4 (by omega)), cIx_at D.2.2.2.2 hi]
/-- an address of another thing -/
def cOut (A : cA) (n b : Nat) : Prop := b ≠ A.1 ∧ (∀ j, j < 5 → b ≠ A.2.1 j) ∧ ∀ i, i < n → b ≠ A.2.2 i
theorem cK_o {b : Nat} (ho : cOut A (cN c) b) : cK G k A c b = k b := by
  unfold cK
  rw [if_neg ho.1, if_neg (ho.2.1 0 (by omega)), if_neg (ho.2.1 1 (by omega)), if_neg (ho.2.1 2 (by omega)), if_neg (ho.2.1 3 (by omega)), if_neg (ho.2.1 4 (by omega)), cIx_none ho.2.2]
theorem cK_in {b : Nat} (hb : ¬ cOut A (cN c) b) (D : cD G A (cN c)) : cK G k A c b ≠ none := by
  intro e
  apply hb
  refine ⟨fun q => ?_, fun j hj q => ?_, fun i hi q => ?_⟩
  · rw [q, cK_s] at e; cases e
  · rcases Nat.eq_zero_or_pos j with z | z
    · subst z; rw [q, cK_0 D] at e; cases e
    · rcases Nat.lt_or_ge j 4 with z2 | z2
      · rw [q, cK_l D z (by omega)] at e; cases e
      · obtain rfl : j = 4 := by omega
        rw [q, cK_b D] at e; cases e
  · rw [q, cK_c D hi] at e; cases e
theorem cK_fresh {b : Nat} (D : cD G A (cN c)) (e : cK G k A c b = none) : cOut A (cN c) b :=
  Classical.byContradiction fun q => cK_in q D e
/-- writing -/
theorem cK_ext {c' : cS} {a : Nat} {o : t_O} (hn : cN c' = cN c) (ha : cK G k A c' a = some o) (he : ∀ b, b ≠ a → cK G k A c b = cK G k A c' b) : tUp (cK G k A c) a o = cK G k A c' := by
  funext b
  by_cases q : b = a
  · rw [q, tUp_s, ha]
  · rw [tUp_n q, he b q]
theorem cW_f (j : Nat) (v : Int32) (e : zFs (cOs A c) j (.int v) = cOs A (cSf c j v)) : tUp (cK G k A c) A.1 (tOb 1 (zFs (cOs A c) j (.int v))) = cK G k A (cSf c j v) := by
  refine cK_ext rfl (by rw [cK_s, e]) fun b hb => ?_
  unfold cK; rw [if_neg hb, if_neg hb]; rfl
theorem cW_b (D : cD G A (cN c)) (j : Nat) (v : Int32) : tUp (cK G k A c) (A.2.1 4) (tAr .int 8 (zUv (fun i => .int (cB c i)) j (.int v))) = cK G k A (cSb c j v) := by
  refine cK_ext rfl ?_ fun b hb => ?_
  · rw [cK_b (c := cSb c j v) D]
    congr 4
    funext i
    show Value.int (if i = j then v else c.2.1 i) = if i = j then Value.int v else .int (c.2.1 i)
    split <;> rfl
  · unfold cK; rw [if_neg hb, if_neg hb]; rfl
theorem cW_l (D : cD G A (cN c)) (j : Nat) (h1 : 1 ≤ j) (h3 : j ≤ 3) (m : Int32) (xs : List Nat) : tUp (cK G k A c) (A.2.1 j) (tLi m (xs.map (tbx G))) = cK G k A (cSl c j m xs) := by
  refine cK_ext rfl ?_ fun b hb => ?_
  · rw [cK_l (c := cSl c j m xs) D h1 h3]
    simp only [cSl, cL, if_true]
  · have e : ∀ i, i ≠ j → (cSl c j m xs).2.2.1 i = c.2.2.1 i := fun i hi => if_neg hi
    unfold cK
    by_cases e1 : j = 1
    · subst e1
      simp only [hb, if_false, cL, e 2 (by omega), e 3 (by omega)]; rfl
    · by_cases e2 : j = 2
      · subst e2
        simp only [hb, if_false, cL, e 1 (by omega), e 3 (by omega)]; rfl
      · obtain rfl : j = 3 := by omega
        simp only [hb, if_false, cL, e 1 (by omega), e 2 (by omega)]; rfl
theorem cW_c (D : cD G A (cN c)) {i : Nat} (hi : i < cN c) (j : Nat) (v : Int32) (e : ∀ g : Nat → Int32, zFs (cOc g) j (.int v) = cOc (zuf g j v)) : tUp (cK G k A c) (A.2.2 i) (tOb 2 (zFs (cOc (cG c i)) j (.int v))) = cK G k A (cSc c i j v) := by
  refine cK_ext rfl ?_ fun b hb => ?_
  · rw [cK_c (c := cSc c i j v) D hi, e]
    simp only [cSc, cG, if_true]
  · show cK G k A c b = cK G k A (cSc c i j v) b
    unfold cK
    have : ∀ i', cIx A.2.2 (cN c) b = some i' → i' ≠ i := by
      intro i' q z
      have := (cIx_some q).2
      rw [z] at this; exact hb this
    show _ = if b = A.1 then _ else if b = A.2.1 0 then _ else if b = A.2.1 1 then _ else if b = A.2.1 2 then _ else if b = A.2.1 3 then _ else if b = A.2.1 4 then _ else match cIx A.2.2 (cN c) b with
      | some i_1 => _
      | none => _
    cases q : cIx A.2.2 (cN c) b with
    | none => rfl
    | some i' =>
      have z := this i' q
      simp only [cSc, cG, z, if_false]; rfl
/-- rules of the walk -/
theorem cGi (R : tR G (cK G k A c) h) {j : Nat} {x : Int32} {p : Int32 → Prop} (e : zFd (cOs A c) j = .int x) (q : p x) : zGi h A.1 1 j p := tGi R cK_s e q
theorem cGr (R : tR G (cK G k A c) h) {j : Nat} {x : Nat} {p : Nat → Prop} (e : zFd (cOs A c) j = .ref x) (q : p x) : zGr h A.1 1 j p := tGr R cK_s e q
theorem cOo (R : tR G (cK G k A c) h) {p : Prop} (q : p) : zOc h A.1 1 p := tOc R cK_s q
theorem cPf (R : tR G (cK G k A c) h) (D : cD G A (cN c)) {j : Nat} {v : Int32} {p : zH → Prop} (e : zFs (cOs A c) j (.int v) = cOs A (cSf c j v)) (q : ∀ h1, tR G (cK G k A (cSf c j v)) h1 → p h1) : zPf G h A.1 1 j (.int v) p :=
  tPf R cK_s D.1 fun h1 R1 => q h1 (by rw [cW_f j v e] at R1; exact R1)
theorem cAi (R : tR G (cK G k A c) h) (D : cD G A (cN c)) {j : Nat} {i : Int32} {p : Int32 → Prop} (hi : i = nI j) (hj : j < 8) (q : p (cB c j)) : zAi h (A.2.1 4) .int i p := by
  subst hi
  exact tAi R (cK_b D) (vp_in_nI hj (by omega)) (by rw [nI_clamp (by omega)]) q
theorem cSt (R : tR G (cK G k A c) h) (D : cD G A (cN c)) {j : Nat} {i v : Int32} {p : zH → Prop} (hi : i = nI j) (hj : j < 8) (q : ∀ h1, tR G (cK G k A (cSb c j v)) h1 → p h1) : zSt1 G h (A.2.1 4) .int i (.int v) p := by
  subst hi
  refine tSt R (cK_b D) (vp_in_nI hj (by omega)) (D.2.1 4 (by omega)).1 fun h1 R1 => q h1 ?_
  rw [nI_clamp (by omega), cW_b D] at R1; exact R1
theorem ccGi (R : tR G (cK G k A c) h) (D : cD G A (cN c)) {i : Nat} (hi : i < cN c) {j : Nat} {x : Int32} {p : Int32 → Prop} (e : zFd (cOc (cG c i)) j = .int x) (q : p x) : zGi h (A.2.2 i) 2 j p := tGi R (cK_c D hi) e q
theorem ccOc (R : tR G (cK G k A c) h) (D : cD G A (cN c)) {i : Nat} (hi : i < cN c) {p : Prop} (q : p) : zOc h (A.2.2 i) 2 p := tOc R (cK_c D hi) q
theorem ccPf (R : tR G (cK G k A c) h) (D : cD G A (cN c)) {i : Nat} (hi : i < cN c) {j : Nat} {v : Int32} {p : zH → Prop} (e : ∀ g : Nat → Int32, zFs (cOc g) j (.int v) = cOc (zuf g j v)) (q : ∀ h1, tR G (cK G k A (cSc c i j v)) h1 → p h1) : zPf G h (A.2.2 i) 2 j (.int v) p :=
  tPf R (cK_c D hi) (D.2.2.2.1 i hi).1 fun h1 R1 => q h1 (by rw [cW_c D hi j v e] at R1; exact R1)
end C0
section C1
variable {l : Launch} {G : zG} {k : t_H} {A : cA} {c : cS} {h : zH} {d mc n : Nat} {RX : String → zH → Nat → Prop}
theorem range_getD {n i : Nat} (f : Nat → Nat) (hi : i < n) : ((List.range n).map f).getD i 0 = f i := by
  rw [List.getD_eq_getElem?_getD, List.getElem?_map, List.getElem?_range hi]; rfl
theorem map_getD {xs : List Nat} {i : Nat} (f : Nat → Nat) (hi : i < xs.length) : (xs.map f).getD i 0 = f (xs.getD i 0) := by
  rw [List.getD_eq_getElem?_getD, List.getElem?_map, List.getD_eq_getElem?_getD, List.getElem?_eq_getElem hi]; rfl
theorem er_map (f : Nat → Nat) : ∀ (l : List Nat) (i : Nat), (l.map f).eraseIdx i = (l.eraseIdx i).map f
  | [], _ => rfl
  | _ :: _, 0 => rfl
  | a :: l, i + 1 => by simp [er_map f l i]
/-- carts.get(i) -/
theorem cGet (ht : l.stackTraces = false) (R : tR G (cK G k A c) h) (D : cD G A (cN c)) {i : Nat} {x : Int32} {p : Nat → zH → Nat → Prop} (hx : x = nI i) (hi : i < cN c) (hd : 3 ≤ d) (hm : n ≤ mc) (q : ∀ h', tR G (cK G k A c) h' → p (A.2.2 i) h' n) : zOc h (A.2.1 0) 11 (zCall l G d mc MJ2_get [.ref (A.2.1 0), .int x] h n (zRR RX p)) := by
  subst hx
  refine tOcZ R (cK_0 D) (tC.r R (tJ2_get ht (cK_0 D) (j := i) (by rw [List.length_map, List.length_range]; exact hi) (d := d - 1) (by omega)) (by omega) hm fun h' R' => ?_)
  rw [range_getD A.2.2 hi]
  exact q h' R'
theorem cSize0 (ht : l.stackTraces = false) (R : tR G (cK G k A c) h) (D : cD G A (cN c)) {p : Int32 → zH → Nat → Prop} (hd : 1 ≤ d) (hm : n ≤ mc) (q : ∀ h', tR G (cK G k A c) h' → p (nI (cN c)) h' n) : zOc h (A.2.1 0) 11 (zCall l G d mc MJ2_size [.ref (A.2.1 0)] h n (zRI RX p)) := by
  refine tOcZ R (cK_0 D) (tC.i R (tJ2_size ht (cK_0 D) (d := d - 1)) (by omega) hm fun h' R' => ?_)
  rw [List.length_map, List.length_range]
  exact q h' R'
theorem cSizeL (ht : l.stackTraces = false) (R : tR G (cK G k A c) h) (D : cD G A (cN c)) {j : Nat} (h1 : 1 ≤ j) (h3 : j ≤ 3) {p : Int32 → zH → Nat → Prop} (hd : 1 ≤ d) (hm : n ≤ mc) (q : ∀ h', tR G (cK G k A c) h' → p (nI (cL c j).length) h' n) : zOc h (A.2.1 j) 11 (zCall l G d mc MJ2_size [.ref (A.2.1 j)] h n (zRI RX p)) := by
  refine tOcZ R (cK_l D h1 h3) (tC.i R (tJ2_size ht (cK_l D h1 h3) (d := d - 1)) (by omega) hm fun h' R' => ?_)
  rw [List.length_map]
  exact q h' R'
theorem cEmpL (ht : l.stackTraces = false) (R : tR G (cK G k A c) h) (D : cD G A (cN c)) {j : Nat} (h1 : 1 ≤ j) (h3 : j ≤ 3) {p : Int32 → zH → Nat → Prop} (hd : 1 ≤ d) (hm : n ≤ mc) (q : ∀ h', tR G (cK G k A c) h' → p (zbi (cL c j).isEmpty) h' n) : zOc h (A.2.1 j) 11 (zCall l G d mc MJ2_isEmpty [.ref (A.2.1 j)] h n (zRI RX p)) := by
  refine tOcZ R (cK_l D h1 h3) (tC.i R (tJ2_isEmpty ht (cK_l D h1 h3) (d := d - 1)) (by omega) hm fun h' R' => ?_)
  rw [List.isEmpty_map]
  exact q h' R'
/-- row.get(i): the Integer's address -/
theorem cGetL (ht : l.stackTraces = false) (R : tR G (cK G k A c) h) (D : cD G A (cN c)) {j i : Nat} (h1 : 1 ≤ j) (h3 : j ≤ 3) {x : Int32} {p : Nat → zH → Nat → Prop} (hx : x = nI i) (hi : i < (cL c j).length) (hd : 3 ≤ d) (hm : n ≤ mc) (q : ∀ h', tR G (cK G k A c) h' → p (tbx G ((cL c j).getD i 0)) h' n) : zOc h (A.2.1 j) 11 (zCall l G d mc MJ2_get [.ref (A.2.1 j), .int x] h n (zRR RX p)) := by
  subst hx
  refine tOcZ R (cK_l D h1 h3) (tC.r R (tJ2_get ht (cK_l D h1 h3) (j := i) (by rw [List.length_map]; exact hi) (d := d - 1) (by omega)) (by omega) hm fun h' R' => ?_)
  rw [map_getD _ hi]
  exact q h' R'
/-- a small Integer is unboxed -/
theorem cUnb (ht : l.stackTraces = false) (hS : tS G) {K : t_H} (R : tR G K h) {i : Nat} (hi : i < 128) {p : Int32 → zH → Nat → Prop} (hd : 1 ≤ d) (hm : n ≤ mc) (q : ∀ h', tR G K h' → p (nI i) h' n) : zOc h (tbx G i) 16 (zOc h (tbx G i) 16 (zCall l G d mc MJ18_intValue [.ref (tbx G i)] h n (zRI RX p))) := by
  have e := R.bx hS hi
  exact tOc R e (tOc R e (tC.i R (tJ18_intValue ht e (d := d - 1)) (by omega) hm q))
theorem cBox (ht : l.stackTraces = false) (hS : tS G) {K : t_H} (R : tR G K h) {i : Nat} {x : Int32} (hx : x = nI i) (hi : i < 128) {p : Nat → zH → Nat → Prop} (hd : 1 ≤ d) (hm : n ≤ mc) (q : ∀ h', tR G K h' → p (tbx G i) h' n) : zCall l G d mc MJ18_valueOf [.int x] h n (zRR RX p) := by
  subst hx
  exact tC.r R (tJ18_valueOf ht hS hi (d := d - 1)) (by omega) hm q
/-- row.add(i) -/
theorem cAddL (ht : l.stackTraces = false) (hS : tS G) (R : tR G (cK G k A c) h) (D : cD G A (cN c)) {j i : Nat} (h1 : 1 ≤ j) (h3 : j ≤ 3) (hi : i < 128) (hl : (cL c j).length ≤ 40) {p : Int32 → zH → Nat → Prop} (hd : 7 ≤ d) (hm : n + 1 ≤ mc) (q : ∀ h', tR G (cK G k A (cSl c j ((c.2.2.1 j).1 + 1) (cL c j ++ [i]))) h' → p 1 h' (n + 1)) : zOc h (A.2.1 j) 11 (zCall l G d mc MJ2_add [.ref (A.2.1 j), .ref (tbx G i)] h n (zRI RX p)) := by
  refine tOcZ R (cK_l D h1 h3) (tC.i R (tJ2_add ht hS (cK_l D h1 h3) (by rw [List.length_map]; exact hl) ⟨_, _, R.bx hS hi⟩ (d := d - 1) (by omega)) (by omega) hm fun h' R' => q h' ?_)
  rw [show (cL c j).map (tbx G) ++ [tbx G i] = (cL c j ++ [i]).map (tbx G) by simp, cW_l D j h1 h3] at R'
  exact R'
theorem cAdd0 (ht : l.stackTraces = false) (hS : tS G) (R : tR G (cK G k A c) h) (D : cD G A (cN c)) {j i : Nat} (h1 : 1 ≤ j) (h3 : j ≤ 3) (hi : i < 128) (hl : (cL c j).length ≤ 40) {p : zH → Nat → Prop} (hd : 7 ≤ d) (hm : n + 1 ≤ mc) (q : ∀ h', tR G (cK G k A (cSl c j ((c.2.2.1 j).1 + 1) (i :: cL c j))) h' → p h' (n + 1)) : zOc h (A.2.1 j) 11 (zCall l G d mc MJ2_add_3 [.ref (A.2.1 j), .int 0, .ref (tbx G i)] h n (zRV RX p)) := by
  refine tOcZ R (cK_l D h1 h3) (tC.v R (tJ2_add0 ht hS (cK_l D h1 h3) (by rw [List.length_map]; exact hl) ⟨_, _, R.bx hS hi⟩ (d := d - 1) (by omega)) (by omega) hm fun h' R' => q h' ?_)
  rw [show tbx G i :: (cL c j).map (tbx G) = (i :: cL c j).map (tbx G) by simp, cW_l D j h1 h3] at R'
  exact R'
theorem cRemL (ht : l.stackTraces = false) (R : tR G (cK G k A c) h) (D : cD G A (cN c)) {j i : Nat} (h1 : 1 ≤ j) (h3 : j ≤ 3) {x : Int32} (hx : x = nI i) (hi : i < (cL c j).length) {p : Nat → zH → Nat → Prop} (hd : 3 ≤ d) (hm : n ≤ mc) (q : ∀ h', tR G (cK G k A (cSl c j ((c.2.2.1 j).1 + 1) ((cL c j).eraseIdx i))) h' → p (tbx G ((cL c j).getD i 0)) h' n) : zOc h (A.2.1 j) 11 (zCall l G d mc MJ2_remove [.ref (A.2.1 j), .int x] h n (zRR RX p)) := by
  subst hx
  refine tOcZ R (cK_l D h1 h3) (tC.r R (tJ2_remove ht (cK_l D h1 h3) (j := i) (by rw [List.length_map]; exact hi) (d := d - 1) (by omega)) (by omega) hm fun h' R' => ?_)
  rw [map_getD _ hi]
  refine q h' ?_
  rw [show ((cL c j).map (tbx G)).eraseIdx i = ((cL c j).eraseIdx i).map (tbx G) from er_map _ _ _, cW_l D j h1 h3] at R'
  exact R'
end C1
