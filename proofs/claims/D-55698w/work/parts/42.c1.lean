/-! the component's state: what is looked up -/
def rHd (r : Nat → Int32) (x y : Int32) : Bool := !(rCo r x == -1) && rc r (rCo r x).toNatClampNeg 4 == y
section C2
variable {l : Launch} {G : zG} {k : t_H} {A : cA} {c : cS} {h : zH} {d mc n b E T : Nat} {r : Nat → Int32} {RX : String → zH → Nat → Prop}
theorem s_between (ht : l.stackTraces = false) {v a b : Int32} : zCt l G d MX1_isBetween [.int v, .int a, .int b] h 0 (zIr (zbi (zbt v a b)) h) := by
  refine zCt.of kX1_isBetween ht (by simp [Value.category]) (Nat.le_of_ble_eq_true rfl) ?_
  refine b_X1_isBetween_0 _ _ _ ⟨fun c => ⟨Nat.le_refl _, ?_, rfl⟩, fun c => ⟨fun c2 => ⟨Nat.le_refl _, ?_, rfl⟩, fun c2 => ⟨Nat.le_refl _, ?_, rfl⟩⟩⟩
  · simp [zbi, zbt, Int32.not_le.mpr c]
  · simp [zbi, zbt, Int32.not_le.mpr c2]
  · simp [zbi, zbt, Int32.not_lt.mp c, Int32.not_lt.mp c2]
theorem s_other (ht : l.stackTraces = false) {v : Int32} : zCt l G d MX1_other [.int v] h 0 (zIr (1 - v) h) := by
  refine zCt.of kX1_other ht (by simp [Value.category]) (Nat.le_of_ble_eq_true rfl) ?_
  exact b_X1_other_0 _ ⟨Nat.le_refl _, rfl, rfl⟩
def cStep (v : Int32) : Int32 := if v = 0 then -1 else 1
theorem s_step (ht : l.stackTraces = false) {v : Int32} : zCt l G d MX2_step [.int v] h 0 (zIr (cStep v) h) := by
  refine zCt.of kX2_step ht (by simp [Value.category]) (Nat.le_of_ble_eq_true rfl) ?_
  refine b_X2_step_0 _ ⟨fun c => ⟨Nat.le_refl _, ?_, rfl⟩, fun c => ⟨Nat.le_refl _, ?_, rfl⟩⟩
  · rw [cStep, if_neg c]
  · rw [cStep, if_pos (Classical.not_not.mp c)]
theorem tX2_row (ht : l.stackTraces = false) {z : Nat} (hz : z ≤ 1) : tC l G d MX2_row [.ref A.1, .int (nI z)] (cK G k A c) 0 (tRr (A.2.1 (1 + z)) (cK G k A c)) := by
  intro h R
  refine zCt.of kX2_row ht (by simp [Value.category]) (Nat.le_of_ble_eq_true rfl) ?_
  refine b_X2_row_0 _ _ ⟨fun q => ?_, fun q => ?_⟩
  · obtain rfl : z = 1 := by
      rcases Nat.eq_zero_or_pos z with w | w
      · subst w; exact absurd rfl q
      · omega
    exact cGr R rfl ⟨Nat.le_refl _, _, R, rfl, rfl⟩
  · obtain rfl : z = 0 := nI_inj (by omega) (by omega) (Classical.not_not.mp q)
    exact cGr R rfl ⟨Nat.le_refl _, _, R, rfl, rfl⟩
/-- the span at the end of a side -/
def rEnd (r : Nat → Int32) (z : Nat) : Nat := if z = 0 then 0 else rSp r - 1
theorem cQ.z5 (X : cQ b E T c r) : zFd (cOs A c) 5 = .int (nI (rSp r)) := by
  show Value.int (c.1 5) = _; rw [X.f5]
theorem tX2_endS (ht : l.stackTraces = false) {S : Nat} (e5 : c.1 5 = nI S) (hS : 1 ≤ S ∧ S ≤ 8) {z : Nat} (hz : z ≤ 1) : tC l G d MX2_end [.ref A.1, .int (nI z)] (cK G k A c) 0 (tIr (nI (if z = 0 then 0 else S - 1)) (cK G k A c)) := by
  intro h R
  refine zCt.of kX2_end ht (by simp [Value.category]) (Nat.le_of_ble_eq_true rfl) ?_
  refine b_X2_end_0 _ _ ⟨fun q => ?_, fun q => ?_⟩
  · obtain rfl : z = 1 := by
      rcases Nat.eq_zero_or_pos z with w | w
      · subst w; exact absurd rfl q
      · omega
    refine cGi R (j := 5) (x := nI S) (by show Value.int (c.1 5) = _; rw [e5]) ⟨Nat.le_refl _, _, R, ?_, rfl⟩
    rw [show (1 : Int32) = nI 1 by rfl, pk_sub (by omega)]; rfl
  · obtain rfl : z = 0 := nI_inj (by omega) (by omega) (Classical.not_not.mp q)
    exact ⟨Nat.le_refl _, _, R, rfl, rfl⟩
theorem tX2_end (ht : l.stackTraces = false) (X : cQ b E T c r) {z : Nat} (hz : z ≤ 1) : tC l G d MX2_end [.ref A.1, .int (nI z)] (cK G k A c) 0 (tIr (nI (rEnd r z)) (cK G k A c)) := by
  intro h R
  have := X.sp
  refine zCt.of kX2_end ht (by simp [Value.category]) (Nat.le_of_ble_eq_true rfl) ?_
  refine b_X2_end_0 _ _ ⟨fun q => ?_, fun q => ?_⟩
  · obtain rfl : z = 1 := by
      rcases Nat.eq_zero_or_pos z with w | w
      · subst w; exact absurd rfl q
      · omega
    refine cGi R X.z5 ⟨Nat.le_refl _, _, R, ?_, rfl⟩
    rw [show (1 : Int32) = nI 1 by rfl, pk_sub (by omega)]; rfl
  · obtain rfl : z = 0 := nI_inj (by omega) (by omega) (Classical.not_not.mp q)
    exact ⟨Nat.le_refl _, _, R, rfl, rfl⟩
theorem zbt_of {x : Int32} {n : Nat} (h0 : 1 ≤ n) (hn : n ≤ 2 ^ 20) : (zbt x 0 (nI n - 1) = true ∧ ∃ j, j < n ∧ x = nI j) ∨ (zbt x 0 (nI n - 1) = false ∧ ∀ j, j < n → x ≠ nI j) := by
  rw [show (1 : Int32) = nI 1 by rfl, pk_sub (by omega)]
  cases q : zbt x 0 (nI (n - 1)) with
  | true =>
    obtain ⟨j, h1, h2, h3⟩ := zbt_nI (a := 0) (Nat.zero_le _) (by omega) q
    exact Or.inl ⟨rfl, j, by omega, h3⟩
  | false =>
    refine Or.inr ⟨rfl, fun j hj e => ?_⟩
    subst e
    have : zbt (nI j) 0 (nI (n - 1)) = true := by
      simp only [zbt, Bool.and_eq_true, decide_eq_true_eq]
      exact ⟨nI_pos' (by omega), nI_le (by omega) (by omega)⟩
    rw [q] at this; cases this
theorem zbt_0 {x : Int32} : (zbt x 0 (nI 0 - 1) = false) := by
  cases q : zbt x 0 (nI 0 - 1) with
  | false => rfl
  | true =>
    simp only [zbt, Bool.and_eq_true, decide_eq_true_eq] at q
    exact absurd (Int32.le_trans q.1 q.2) (by decide)
theorem tX2_heads (ht : l.stackTraces = false) (D : cD G A (cN c)) (X : cQ b E T c r) (x y : Int32) (hd : 4 ≤ d) : tC l G d MX2_heads [.ref A.1, .int x, .int y] (cK G k A c) 0 (tIr (zbi (rHd r x y)) (cK G k A c)) := by
  intro h R
  have n40 := X.n40
  have sp := X.sp
  refine zCt.of kX2_heads ht (by simp [Value.category]) (Nat.le_of_ble_eq_true rfl) ?_
  refine b_X2_heads_0 _ _ _ (cGi R X.z5 (zCall.P (s_between ht (d := d - 1)) (by omega) (Nat.le_refl _) ?_))
  rcases zbt_of (x := x) (n := rSp r) (by omega) (by omega) with ⟨e, j, hj, rfl⟩ | ⟨e, q⟩
  · rw [e]
    refine ⟨fun z => absurd z (by decide), fun _ => cGr R rfl (cAi R D rfl (by omega) ⟨fun z => ?_, fun z => ?_⟩)⟩
    · refine ⟨Nat.le_refl _, _, R, ?_, rfl⟩
      rw [rHd, X.co (by omega), z]; rfl
    · obtain ⟨i, hi, h1, h2, h3⟩ : ∃ i, i < cN c ∧ cB c j = nI i ∧ rc r i 2 = 1 ∧ rc r i 3 = nI j := by
        rcases X.oc.2 j (by omega) with w | w
        · exact absurd w z
        · exact w
      refine cGr R rfl (cGr R rfl (cAi R D rfl (by omega) (cGet ht R D h1 hi (by omega) (Nat.le_refl _) fun h' R' => ccOc R' D hi (ccGi R' D hi (j := 6) (x := rc r i 4) ?_ ⟨fun w => ⟨Nat.le_refl _, _, R', ?_, rfl⟩, fun w => ⟨Nat.le_refl _, _, R', ?_, rfl⟩⟩))))
      · show Value.int (cG c i 6) = _
        rw [(X.ca hi).2.2.2.2.2.2.1, if_pos h2]
      · rw [rHd, X.co (by omega), h1, nI_clamp (by omega)]
        simp [w, zbi]
      · rw [rHd, X.co (by omega), h1, nI_clamp (by omega)]
        simp [Classical.not_not.mp w, zbi, zn1 (k := i) (by omega)]
  · rw [e]
    refine ⟨fun _ => ⟨Nat.le_refl _, _, R, ?_, rfl⟩, fun z => absurd rfl z⟩
    rw [rHd, X.coOut q]; rfl
theorem tX2_onBridge (ht : l.stackTraces = false) (D : cD G A (cN c)) (X : cQ b E T c r) : tC l G d MX2_onBridge [.ref A.1] (cK G k A c) 0 (tIr (nI (rOn r)) (cK G k A c)) := by
  intro h R
  have sp := X.sp
  refine zCt.of kX2_onBridge ht (by simp [Value.category]) (Nat.le_of_ble_eq_true rfl) ?_
  refine b_X2_onBridge_0 _ ?_
  refine zInd (N := rSp r) (P := fun j => zV l G d 0 MX2_onBridge _ 4 [some (.ref A.1), some (.int (nI (zcnt (fun j => !(cB c j == -1)) j))), some (.int (nI j))] [] h 0) ?_ 0 (Nat.zero_le _)
  intro j hj ih
  refine b_X2_onBridge_4 _ _ _ (cGi R X.z5 ?_)
  rw [nI_leI (by omega) (by omega)]
  refine ⟨fun q => ⟨Nat.le_refl _, _, R, ?_, rfl⟩, fun q => cGr R rfl (cAi R D rfl (by omega) ⟨fun z => ?_, fun z => ?_⟩)⟩
  · obtain rfl : j = rSp r := by omega
    rw [X.on]
  · rw [zcnt_t (p := fun j => !(cB c j == -1)) (by simp [z]), nI_1]; exact ih (by omega)
  · rw [zcnt_f (p := fun j => !(cB c j == -1)) (by simp [Classical.not_not.mp z]), nI_1]; exact ih (by omega)
theorem rHd_iff (X : cQ b E T c r) {x y : Int32} : rHd r x y = true ↔ ∃ i j, i < cN c ∧ j < rSp r ∧ x = nI j ∧ cB c j = nI i ∧ rc r i 2 = 1 ∧ rc r i 3 = nI j ∧ rc r i 4 = y := by
  have n40 := X.n40
  have sp := X.sp
  constructor
  · intro h
    simp only [rHd, Bool.and_eq_true, Bool.not_eq_true', beq_eq_false_iff_ne, beq_iff_eq] at h
    by_cases q : ∃ j, j < rSp r ∧ x = nI j
    · obtain ⟨j, hj, rfl⟩ := q
      rw [X.co (by omega)] at h
      rcases X.oc.2 j (by omega) with w | ⟨i, hi, h1, h2, h3⟩
      · exact absurd w h.1
      · rw [h1, nI_clamp (by omega)] at h
        exact ⟨i, j, hi, hj, rfl, h1, h2, h3, h.2⟩
    · exact absurd (X.coOut fun j hj e => q ⟨j, hj, e⟩) h.1
  · rintro ⟨i, j, hi, hj, rfl, h1, h2, h3, h4⟩
    rw [rHd, X.co (by omega), h1, nI_clamp (by omega), h4]
    simp [zn1 (k := i) (by omega)]
theorem cQ.headsTo (X : cQ b E T c r) (y : Int32) : rHt r y = zany (fun j => rHd r (nI j) y) 0 (rSp r) := by
  have n40 := X.n40
  have sp := X.sp
  rw [Bool.eq_iff_iff, rHt, X.nn, zany_iff, zany_iff]
  constructor
  · rintro ⟨i, -, hi, q⟩
    simp only [rHtb, Bool.and_eq_true, beq_iff_eq] at q
    obtain ⟨j, g1, g2, g3⟩ := X.oc.1 i (by omega) q.1
    exact ⟨j, Nat.zero_le _, by omega, (rHd_iff X).mpr ⟨i, j, by omega, g1, rfl, g3, q.1, g2, q.2⟩⟩
  · rintro ⟨j, -, hj, q⟩
    obtain ⟨i, j', hi, hj', e, h1, h2, h3, h4⟩ := (rHd_iff X).mp q
    exact ⟨i, Nat.zero_le _, by omega, by simp [rHtb, h2, h4]⟩
theorem tX2_isOncoming (ht : l.stackTraces = false) (D : cD G A (cN c)) (X : cQ b E T c r) (y : Int32) (hd : 5 ≤ d) : tC l G d MX2_isOncoming [.ref A.1, .int y] (cK G k A c) 0 (tIr (zbi (rHt r y)) (cK G k A c)) := by
  intro h R
  have sp := X.sp
  rw [X.headsTo]
  refine zCt.of kX2_isOncoming ht (by simp [Value.category]) (Nat.le_of_ble_eq_true rfl) ?_
  refine b_X2_isOncoming_0 _ _ ?_
  refine zInd (N := rSp r) (P := fun j => ∀ h, tR G (cK G k A c) h → zany (fun j => rHd r (nI j) y) 0 (rSp r) = zany (fun j => rHd r (nI j) y) j (rSp r - j) → zV l G d 0 MX2_isOncoming _ 2 [some (.ref A.1), some (.int y), some (.int (nI j))] [] h 0) ?_ 0 (Nat.zero_le _) h R rfl
  intro j hj ih h R hi
  refine b_X2_isOncoming_2 _ _ _ (cGi R X.z5 ?_)
  rw [nI_leI (by omega) (by omega)]
  refine ⟨fun q => ⟨Nat.le_refl _, _, R, ?_, rfl⟩, fun q => cOo R (tC.i R (tX2_heads ht D X (nI j) y (d := d - 1) (by omega)) (by omega) (Nat.le_refl _) fun h' R' => ⟨fun z => ?_, fun z => ⟨Nat.le_refl _, _, R', ?_, rfl⟩⟩)⟩
  · rw [hi, show rSp r - j = 0 by omega]; rfl
  · rw [nI_1]
    exact ih (by omega) h' R' (by rw [hi, zany_f (by omega) (zbi_eq0.mp z)])
  · rw [hi, zany_t (by omega) (by rw [zbi_eq0, Bool.not_eq_false] at z; exact z)]; rfl
theorem tX2_isCart (ht : l.stackTraces = false) (D : cD G A (cN c)) (x : Int32) (hd : 2 ≤ d) : tC l G d MX2_isCart [.ref A.1, .int x] (cK G k A c) 0 (tIr (zbi (zbt x 0 (nI (cN c) - 1))) (cK G k A c)) := by
  intro h R
  refine zCt.of kX2_isCart ht (by simp [Value.category]) (Nat.le_of_ble_eq_true rfl) ?_
  exact b_X2_isCart_0 _ _ (cGr R rfl (cSize0 ht R D (by omega) (Nat.le_refl _) fun h' R' => zCall.P (s_between ht (d := d - 1)) (by omega) (Nat.le_refl _) ⟨zbi_narrow, Nat.le_refl _, _, R', rfl, rfl⟩))
theorem tX2_there (ht : l.stackTraces = false) (D : cD G A (cN c)) (X : cQ b E T c r) (hd : 2 ≤ d) : tC l G d MX2_there [.ref A.1] (cK G k A c) 0 (tIr (nI ((cL c 1).length + (cL c 2).length + rOn r)) (cK G k A c)) := by
  intro h R
  refine zCt.of kX2_there ht (by simp [Value.category]) (Nat.le_of_ble_eq_true rfl) ?_
  refine b_X2_there_0 _ (cGr R rfl (cSizeL ht R D (j := 1) (by omega) (by omega) (by omega) (Nat.le_refl _) fun h' R' => cGr R' rfl (cSizeL ht R' D (j := 2) (by omega) (by omega) (by omega) (Nat.le_refl _) fun h2 R2 => cOo R2 (tC.i R2 (tX2_onBridge ht D X (d := d - 1)) (by omega) (Nat.le_refl _) fun h3 R3 => ⟨Nat.le_refl _, _, R3, ?_, rfl⟩))))
  rw [nI_add, nI_add]
end C2
