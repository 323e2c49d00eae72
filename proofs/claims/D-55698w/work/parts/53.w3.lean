/-! the main object: choices among the carts, what would be, the account -/
section R12
variable {b E T : Nat} {c : cS} {r : Nat → Int32}
/-- what the account holds -/
def wAc (r : Nat → Int32) (li hs : Nat) (w : Int32) : Int32 :=
  if w = 0 then r 0 else if w = 1 then nI (zcnt (fun k => rwa r k 0) (rN r)) else if w = 2 then nI (zcnt (fun k => rwa r k 1) (rN r)) else if w = 3 then nI (rOn r) else if w = 4 then r 7 else if w = 5 then r 8 else if w = 6 then r 1 else if w = 7 then r 2 else if w = 8 then r 3 else if w = 9 then r 4 else if w = 10 then r 10 else if w = 11 then r 9 else if w = 12 then nI li else nI hs
theorem cQ.over (X : cQ b E T c r) : rOv r = decide ((cL c 1).length + (cL c 2).length + rOn r = 0) := by
  have e0 := X.rowMany (z := 0) (by omega)
  have e1 := X.rowMany (z := 1) (by omega)
  rw [nI_0] at e0
  have e2 : nI 1 = (1 : Int32) := rfl
  rw [e2] at e1
  rw [rOv, X.nn, e0, e1]
  show ((rOn r + (cL c 1).length + (cL c 2).length) == 0) = _
  by_cases z : (cL c 1).length + (cL c 2).length + rOn r = 0
  · rw [decide_eq_true z]; exact beq_iff_eq.mpr (by omega)
  · rw [decide_eq_false z]; exact beq_false_of_ne (by omega)
end R12
section W3
variable {l : Launch} {G : zG} {k : t_H} {B : wB} {A A' : cA} {c c' : cS} {u : wU} {h : zH} {d mc n b E T st : Nat} {r : Nat → Int32} {RX : String → zH → Nat → Prop}
theorem cK_drop (D : cD G A' (cN c')) (hn : ∀ b, ¬ cOut A' (cN c') b → k b = none) (R : tR G (cK G k A' c') h) : tR G k h :=
  R.le (fun a x e => by
    have ho : cOut A' (cN c') a := Classical.byContradiction fun z => by rw [hn a z] at e; cases e
    rw [cK_o ho]; exact e) (fun a x ha e => by rw [cK_o (cOut_of D ha)] at e; exact e)
theorem tX5_isThere (ht : l.stackTraces = false) (D : cD G A (cN c)) (X : cQ b E T c r) {i : Nat} (hi : i < cN c) : tC l G d MX5_isThere [.ref (A.2.2 i)] (cK G k A c) 0 (tIr (zbi (rHe r i)) (cK G k A c)) := by
  intro h R
  have e4 : zFd (cOc (cG c i)) 4 = .int (rc r i 2) := by show Value.int (cG c i 4) = _; rw [(X.ca hi).2.2.2.2.1]
  refine zCt.of kX5_isThere ht (by simp [Value.category]) (Nat.le_of_ble_eq_true rfl) ?_
  refine b_X5_isThere_0 _ (ccGi R D hi e4 ⟨fun q => ⟨Nat.le_refl _, _, R, ?_, rfl⟩, fun q => ccGi R D hi e4 ⟨fun q2 => ⟨Nat.le_refl _, _, R, ?_, rfl⟩, fun q2 => ⟨Nat.le_refl _, _, R, ?_, rfl⟩⟩⟩)
  · rw [rHe, q]; rfl
  · rcases (X.va hi).2.1 with w | w | w | w
    · exact absurd w q
    · exact absurd w q2
    · rw [rHe, w]; rfl
    · rw [rHe, w]; rfl
  · rw [rHe, Classical.not_not.mp q2]; rfl
theorem tX1_isLonger (ht : l.stackTraces = false) (D : cD G A (cN c)) (X : cQ b E T c r) {i j : Nat} (hi : i < cN c) (hj : j < cN c) (hd : 1 ≤ d) : tC l G d MX1_isLonger [.ref (A.2.2 j), .ref (A.2.2 i)] (cK G k A c) 0 (tIr (zbi (rLgb r i j)) (cK G k A c)) := by
  intro h R
  have n40 := X.n40
  have e8 : ∀ i, i < cN c → zFd (cOc (cG c i)) 8 = .int (rc r i 7) := fun i hi => by show Value.int (cG c i 8) = _; rw [(X.ca hi).2.2.2.2.2.2.2.2.1]
  have e0 : ∀ i, i < cN c → zFd (cOc (cG c i)) 0 = .int (nI i) := fun i hi => by show Value.int (cG c i 0) = _; rw [X.num hi]
  refine zCt.of kX1_isLonger ht (by simp [Value.category]) (Nat.le_of_ble_eq_true rfl) ?_
  refine b_X1_isLonger_0 _ _ (ccOc R D hj (tC.i R (tX5_isThere ht D X hj (d := d - 1)) (by omega) (Nat.le_refl _) fun h1 R1 => ⟨fun q => ⟨Nat.le_refl _, _, R1, ?_, rfl⟩, fun q => ccGi R1 D hj (e8 j hj) (ccGi R1 D hi (e8 i hi) ⟨fun q2 => ⟨Nat.le_refl _, _, R1, ?_, rfl⟩, fun q2 => ccGi R1 D hj (e8 j hj) (ccGi R1 D hi (e8 i hi) ⟨fun q3 => ⟨Nat.le_refl _, _, R1, ?_, rfl⟩, fun q3 => ccGi R1 D hj (e0 j hj) (ccGi R1 D hi (e0 i hi) ?_)⟩)⟩)⟩))
  · rw [zbi_eq0] at q
    rw [rLgb, q]; rfl
  · rw [zbi_eq0, Bool.not_eq_false] at q
    rw [rLgb, q, decide_eq_true q2]; rfl
  · rw [zbi_eq0, Bool.not_eq_false] at q
    rw [rLgb, q, decide_eq_false q2, beq_false_of_ne q3]; rfl
  · rw [zbi_eq0, Bool.not_eq_false] at q
    rw [nI_leI (by omega) (by omega)]
    refine ⟨fun q4 => ⟨Nat.le_refl _, _, R1, ?_, rfl⟩, fun q4 => ⟨Nat.le_refl _, _, R1, ?_, rfl⟩⟩
    · rw [rLgb, q, decide_eq_false q2, Classical.not_not.mp q3, beq_self_eq_true, decide_eq_false (by omega)]; rfl
    · rw [rLgb, q, decide_eq_false q2, Classical.not_not.mp q3, beq_self_eq_true, decide_eq_true (by omega)]; rfl
theorem tX1_longest (ht : l.stackTraces = false) (D : cD G A (cN c)) (W : wD G B A (cN c)) (X : cQ b E T c r) (x : Int32) (hd : 7 ≤ d) : tC l G d MX1_longest [.ref B.1, .int x] (wK G k B A.1 A c u) 42 (wLk (wK G k B A.1 A c u) (fun E => E = xN ∧ rLg r x = -1) (fun y => rLg r x ≠ -1 ∧ y = rLg r x)) := by
  intro h R
  have n40 := X.n40
  refine zCt.of kX1_longest ht (by simp [Value.category]) (Nat.le_of_ble_eq_true rfl) ?_
  refine b_X1_longest_0 _ _ (wGr R W rfl (cGr R rfl (wIter0 ht R D (by omega) (by omega) fun y h1 ho N ky bky R1 => ?_)))
  refine zInd (N := cN c) (P := fun i => ∀ h w, tR G (wK G (tUp k y (tIt (nI i) w c.2.2.2.1.1 (A.2.1 0))) B A.1 A c u) h → rLg r x = zff (rLgp r x) i (cN c - i) → zV l G d 42 MX1_longest _ 11 [some (.ref B.1), some (.int x), some (.ref y), none, none, none, none] [] h (0 + 1 + i)) ?_ 0 (Nat.zero_le _) h1 (-1) R1 (by rw [rLg, X.nn]; rfl)
  intro i hi ih h w R inv
  refine b_X1_longest_11 _ _ _ (wHas0 ht R D N ho hi (by omega) (by omega) fun h2 R2 => ⟨fun q => ?_, fun q => ?_⟩)
  · have : i = cN c := by
      have := zbi_eq0.mp q
      rw [decide_eq_false_iff_not] at this
      omega
    refine ⟨by omega, by omega, _, wK_fg N ky bky R2, ⟨rfl, ?_⟩, rfl⟩
    rw [inv, this, Nat.sub_self]; rfl
  · have lt : i < cN c := by
      rw [zbi_eq0, Bool.not_eq_false, decide_eq_true_eq] at q; exact q
    refine wNxt0 ht R2 D N ho bky lt (by omega) (by omega) fun h3 R3 => ccOc R3 D lt (wGr R3 W rfl (cGr R3 rfl (wIter0 ht R3 D (by omega) (by omega) fun y2 h4 ho2 N2 ky2 bky2 R4 => ?_)))
    refine zInd (N := cN c) (P := fun j => ∀ h w, tR G (wK G (tUp (tUp k y (tIt (nI (i + 1)) (nI i) c.2.2.2.1.1 (A.2.1 0))) y2 (tIt (nI j) w c.2.2.2.1.1 (A.2.1 0))) B A.1 A c u) h → zV l G d 42 MX1_longest _ 45 [some (.ref B.1), some (.int x), some (.ref y), some (.ref (A.2.2 i)), some (.int (nI (zcnt (rLgb r i) j))), some (.ref y2), none] [] h (0 + 1 + i + 1)) ?_ 0 (Nat.zero_le _) h4 (-1) R4
    intro j hj ih2 h w R
    refine b_X1_longest_45 _ _ _ _ _ _ (wHas0 ht R D N2 ho2 hj (by omega) (by omega) fun h5 R5 => ⟨fun q2 => ?_, fun q2 => ?_⟩)
    · have hj' : j = cN c := by
        have := zbi_eq0.mp q2
        rw [decide_eq_false_iff_not] at this
        omega
      have go : rLgp r x i = false → zV l G d 42 MX1_longest _ 11 [some (.ref B.1), some (.int x), some (.ref y), none, none, none, none] [] h5 (0 + 1 + (i + 1)) := fun z =>
        ih lt h5 _ (wK_fg N2 ky2 bky2 R5) (by rw [inv, zff_f lt z])
      refine ccOc R5 D lt (tC.i R5 (tX5_isThere ht D X lt (d := d - 1)) (by omega) (by omega) fun h6 R6 => ?_)
      have go : rLgp r x i = false → zV l G d 42 MX1_longest _ 11 [some (.ref B.1), some (.int x), some (.ref y), none, none, none, none] [] h6 (0 + 1 + (i + 1)) := fun z =>
        ih lt h6 _ (wK_fg N2 ky2 bky2 R6) (by rw [inv, zff_f lt z])
      refine ⟨fun q3 => go ?_, fun q3 => ⟨fun q4 => go ?_, fun q4 => ccGi R6 D lt (j := 0) (x := nI i) (by show Value.int (cG c i 0) = _; rw [X.num lt]) ⟨by omega, _, wK_fg N ky bky (wK_fg N2 ky2 bky2 R6), ?_, rfl⟩⟩⟩
      · rw [zbi_eq0] at q3
        rw [rLgp, q3]; rfl
      · rw [hj', ← X.nn] at q4
        rw [rLgp, beq_false_of_ne q4, Bool.and_false]
      · rw [zbi_eq0, Bool.not_eq_false] at q3
        have q5 := Classical.not_not.mp q4
        rw [hj', ← X.nn] at q5
        have : rLgp r x i = true := by rw [rLgp, q3, q5, beq_self_eq_true]; rfl
        rw [inv, zff_t lt this]
        exact ⟨zn1 (by omega), rfl⟩
    · have ltj : j < cN c := by
        rw [zbi_eq0, Bool.not_eq_false, decide_eq_true_eq] at q2; exact q2
      refine wNxt0 ht R5 D N2 ho2 bky2 ltj (by omega) (by omega) fun h6 R6 => ccOc R6 D ltj (tC.i R6 (tX1_isLonger ht D X lt ltj (d := d - 1) (by omega)) (by omega) (by omega) fun h7 R7 => ⟨fun q3 => ?_, fun q3 => ?_⟩)
      · rw [zbi_eq0] at q3
        rw [zcnt_f q3]
        exact ih2 ltj h7 _ R7
      · rw [zbi_eq0, Bool.not_eq_false] at q3
        rw [zcnt_t q3]
        exact ih2 ltj h7 _ R7
theorem tX1_mildest (ht : l.stackTraces = false) (D : cD G A (cN c)) (W : wD G B A (cN c)) (X : cQ b E T c r) (hd : 7 ≤ d) : tC l G d MX1_mildest [.ref B.1] (wK G k B A.1 A c u) 1 (wLk (wK G k B A.1 A c u) (fun E => E = xN ∧ rMi r = -1) (fun y => rMi r ≠ -1 ∧ y = rMi r)) := by
  intro h R
  have n40 := X.n40
  have e7 : ∀ i, i < cN c → zFd (cOc (cG c i)) 7 = .int (rc r i 5) := fun i hi => by show Value.int (cG c i 7) = _; rw [(X.ca hi).2.2.2.2.2.2.2.1]
  refine zCt.of kX1_mildest ht (by simp [Value.category]) (Nat.le_of_ble_eq_true rfl) ?_
  refine b_X1_mildest_0 _ ?_
  refine zInd (N := cN c) (P := fun i => ∀ h v, tR G (wK G k B A.1 A c u) h → v = zfo (rMif r) (-1) i → (v = -1 ∨ ∃ q, q < cN c ∧ v = nI q ∧ 0 < rc r q 5) → zV l G d 1 MX1_mildest _ 4 [some (.ref B.1), some (.int v), some (.int (nI i)), none] [] h 0) ?_ 0 (Nat.zero_le _) h (-1) R rfl (Or.inl rfl)
  intro i hi ih h v R inv hv
  refine b_X1_mildest_4 _ _ _ (wGr R W rfl (cGr R rfl (cSize0 ht R D (by omega) (by omega) fun h1 R1 => ?_)))
  rw [nI_leI (by omega) (by omega)]
  refine ⟨fun z => ?_, fun z => wGr R1 W rfl (cGr R1 rfl (cGet ht R1 D rfl (by omega) (by omega) (by omega) fun h2 R2 => ccOc R2 D (by omega) (ccGi R2 D (by omega) (e7 i (by omega)) ⟨fun q => ?_, fun q => ⟨fun q2 => ?_, fun q2 => ?_⟩⟩)))⟩
  · have e : rMi r = v := by
      have : i = cN c := by omega
      rw [rMi, X.nn, inv, this]
    refine ⟨fun q => cCheckN ht (by omega) (by omega) (fun z => absurd rfl z) (fun _ => ⟨by omega, _, R1, ⟨rfl, by rw [e]; exact q⟩, rfl⟩), fun q => cCheckN ht (by omega) (by omega) (fun _ => ⟨by omega, _, R1, ⟨by rw [e]; exact q, e.symm⟩, rfl⟩) (fun z => absurd z (by decide))⟩
  · rw [nI_1]
    refine ih (by omega) h2 v R2 ?_ hv
    rw [zfo, ← inv, rMif]
    rcases hv with rfl | ⟨p, p1, rfl, p3⟩
    · rw [if_pos rfl, if_neg (Int32.not_lt.mpr q)]
    · rw [if_neg (zn1 (by omega)), nI_clamp (by omega), if_neg]
      intro w
      exact Int32.not_le.mpr (Int32.lt_trans p3 w) q
  · rw [nI_1]
    refine ih (by omega) h2 (nI i) R2 ?_ (Or.inr ⟨i, by omega, rfl, Int32.not_le.mp q⟩)
    rw [zfo, ← inv, rMif, if_pos q2, if_pos (Int32.not_le.mp q)]
  · rcases hv with rfl | ⟨p, p1, rfl, p3⟩
    · exact absurd rfl q2
    · refine wGr R2 W rfl (cGr R2 rfl (cGet ht R2 D rfl p1 (by omega) (by omega) fun h3 R3 => ccOc R3 D p1 (ccGi R3 D p1 (e7 p p1) ⟨fun q3 => ?_, fun q3 => ?_⟩)))
      · rw [nI_1]
        refine ih (by omega) h3 (nI p) R3 ?_ (Or.inr ⟨p, p1, rfl, p3⟩)
        rw [zfo, ← inv, rMif, if_neg q2, nI_clamp (by omega), if_neg (Int32.not_lt.mpr q3)]
      · rw [nI_1]
        refine ih (by omega) h3 (nI i) R3 ?_ (Or.inr ⟨i, by omega, rfl, Int32.not_le.mp q⟩)
        rw [zfo, ← inv, rMif, if_neg q2, nI_clamp (by omega), if_pos (Int32.not_le.mp q3)]
theorem tX1_heaviest (ht : l.stackTraces = false) (D : cD G A (cN c)) (W : wD G B A (cN c)) (X : cQ b E T c r) (hd : 7 ≤ d) : tC l G d MX1_heaviest [.ref B.1] (wK G k B A.1 A c u) 1 (wLk (wK G k B A.1 A c u) (fun E => E = xN ∧ rHv r = -1) (fun y => rHv r ≠ -1 ∧ y = rHv r)) := by
  intro h R
  have n40 := X.n40
  have e7 : ∀ i, i < cN c → zFd (cOc (cG c i)) 2 = .int (rc r i 1) := fun i hi => by show Value.int (cG c i 2) = _; rw [(X.ca hi).2.2.1]
  refine zCt.of kX1_heaviest ht (by simp [Value.category]) (Nat.le_of_ble_eq_true rfl) ?_
  refine b_X1_heaviest_0 _ ?_
  refine zInd (N := cN c) (P := fun i => ∀ h v, tR G (wK G k B A.1 A c u) h → v = zfo (rHvf r) (-1) i → (v = -1 ∨ ∃ q, q < cN c ∧ v = nI q) → zV l G d 1 MX1_heaviest _ 4 [some (.ref B.1), some (.int v), some (.int (nI i)), none] [] h 0) ?_ 0 (Nat.zero_le _) h (-1) R rfl (Or.inl rfl)
  intro i hi ih h v R inv hv
  refine b_X1_heaviest_4 _ _ _ (wGr R W rfl (cGr R rfl (cSize0 ht R D (by omega) (by omega) fun h1 R1 => ?_)))
  rw [nI_leI (by omega) (by omega)]
  refine ⟨fun z => ?_, fun z => wGr R1 W rfl (cGr R1 rfl (cGet ht R1 D rfl (by omega) (by omega) (by omega) fun h2 R2 => ccOc R2 D (by omega) (ccOc R2 D (by omega) (tC.i R2 (tX5_isThere ht D X (by omega) (d := d - 1)) (by omega) (by omega) fun h3 R3 => ⟨fun q => ?_, fun q => ⟨fun q2 => ?_, fun q2 => ?_⟩⟩))))⟩
  · have e : rHv r = v := by
      have : i = cN c := by omega
      rw [rHv, X.nn, inv, this]
    refine ⟨fun q => cCheckN ht (by omega) (by omega) (fun z => absurd rfl z) (fun _ => ⟨by omega, _, R1, ⟨rfl, by rw [e]; exact q⟩, rfl⟩), fun q => cCheckN ht (by omega) (by omega) (fun _ => ⟨by omega, _, R1, ⟨by rw [e]; exact q, e.symm⟩, rfl⟩) (fun z => absurd z (by decide))⟩
  · rw [zbi_eq0, rHe, decide_eq_false_iff_not] at q
    rw [nI_1]
    refine ih (by omega) h3 v R3 ?_ hv
    rw [zfo, ← inv, rHvf, if_neg q]
  · rw [zbi_eq0, Bool.not_eq_false, rHe, decide_eq_true_eq] at q
    rw [nI_1]
    refine ih (by omega) h3 (nI i) R3 ?_ (Or.inr ⟨i, by omega, rfl⟩)
    rw [zfo, ← inv, rHvf, if_pos q, if_pos q2]
  · rw [zbi_eq0, Bool.not_eq_false, rHe, decide_eq_true_eq] at q
    rcases hv with rfl | ⟨p, p1, rfl⟩
    · exact absurd rfl q2
    · refine ccGi R3 D (by omega) (e7 i (by omega)) (wGr R3 W rfl (cGr R3 rfl (cGet ht R3 D rfl p1 (by omega) (by omega) fun h4 R4 => ccOc R4 D p1 (ccGi R4 D p1 (e7 p p1) ⟨fun q3 => ?_, fun q3 => ?_⟩))))
      · rw [nI_1]
        refine ih (by omega) h4 (nI p) R4 ?_ (Or.inr ⟨p, p1, rfl⟩)
        rw [zfo, ← inv, rHvf, if_pos q, if_neg q2, nI_clamp (by omega), if_neg (Int32.not_lt.mpr q3)]
      · rw [nI_1]
        refine ih (by omega) h4 (nI i) R4 ?_ (Or.inr ⟨i, by omega, rfl⟩)
        rw [zfo, ← inv, rHvf, if_pos q, if_neg q2, nI_clamp (by omega), if_pos (Int32.not_le.mp q3)]
theorem tX1_cartsThat (ht : l.stackTraces = false) (D : cD G A (cN c)) (W : wD G B A (cN c)) (X : cQ b E T c r) (hd : 4 ≤ d) : tC l G d MX1_cartsThat [.ref B.1, .int 3] (wK G k B A.1 A c u) 1 (tIr (r 8) (wK G k B A.1 A c u)) := by
  intro h R
  have n40 := X.n40
  rw [X.le]
  refine zCt.of kX1_cartsThat ht (by simp [Value.category]) (Nat.le_of_ble_eq_true rfl) ?_
  refine b_X1_cartsThat_0 _ _ (wGr R W rfl (cGr R rfl (wIter0 ht R D (by omega) (by omega) fun y h1 ho N ky bky R1 => ?_)))
  refine zInd (N := cN c) (P := fun i => ∀ h w, tR G (wK G (tUp k y (tIt (nI i) w c.2.2.2.1.1 (A.2.1 0))) B A.1 A c u) h → zV l G d 1 MX1_cartsThat _ 13 [some (.ref B.1), some (.int 3), some (.int (nI (zcnt (fun i => rc r i 2 == 3) i))), some (.ref y), none] [] h (0 + 1)) ?_ 0 (Nat.zero_le _) h1 (-1) R1
  intro i hi ih h w R
  refine b_X1_cartsThat_13 _ _ _ _ (wHas0 ht R D N ho hi (by omega) (by omega) fun h2 R2 => ⟨fun q => ?_, fun q => ?_⟩)
  · have : i = cN c := by
      have := zbi_eq0.mp q
      rw [decide_eq_false_iff_not] at this
      omega
    exact ⟨by omega, _, wK_fg N ky bky R2, by rw [this], rfl⟩
  · have lt : i < cN c := by
      rw [zbi_eq0, Bool.not_eq_false, decide_eq_true_eq] at q; exact q
    refine wNxt0 ht R2 D N ho bky lt (by omega) (by omega) fun h3 R3 => ccOc R3 D lt (ccGi R3 D lt (j := 4) (x := rc r i 2) (by show Value.int (cG c i 4) = _; rw [(X.ca lt).2.2.2.2.1]) ⟨fun q2 => ?_, fun q2 => ?_⟩)
    · rw [zcnt_f (p := fun i => rc r i 2 == 3) (k := i) (beq_false_of_ne q2)]
      exact ih lt h3 _ R3
    · rw [zcnt_t (p := fun i => rc r i 2 == 3) (k := i) (beq_iff_eq.mpr (Classical.not_not.mp q2))]
      exact ih lt h3 _ R3
theorem tX1_account (ht : l.stackTraces = false) (D : cD G A (cN c)) (W : wD G B A (cN c)) (X : cQ b E T c r) (x : Int32) (hd : 7 ≤ d) : tC l G d MX1_account [.ref B.1, .int x] (wK G k B A.1 A c u) 1 (wLk (wK G k B A.1 A c u) (fun E => E = xA ∧ zbt x 0 13 = false) (fun y => zbt x 0 13 = true ∧ y = wAc r u.2.2.1.1.length u.2.1.length x)) := by
  intro h R
  have n40 := X.n40
  obtain ⟨-, -, ⟨f5, f6, f7, f8, f9, f10, f11, f12⟩, -⟩ := X.1
  have e0 : zcnt (fun k => rwa r k 0) (cN c) = (cL c (1 + 0)).length := X.rowMany (z := 0) (by omega)
  have e1 : zcnt (fun k => rwa r k 1) (cN c) = (cL c (1 + 1)).length := X.rowMany (z := 1) (by omega)
  refine zCt.of kX1_account ht (by simp [Value.category]) (Nat.le_of_ble_eq_true rfl) ?_
  refine b_X1_account_0 _ _ (zCall.P (s_between ht (d := d - 1)) (by omega) (by omega) (cCheck ht (by omega) (by omega) (fun q => ?_) (fun q => ⟨by omega, _, R, ⟨rfl, zbi_eq0.mp q⟩, rfl⟩)))
  rw [zbi_eq0, Bool.not_eq_false] at q
  refine ⟨fun z => wGr R W rfl (cGr R rfl (cSize0 ht R D (by omega) (by omega) fun h1 R1 => ⟨by omega, _, R1, ⟨q, ?_⟩, rfl⟩)), fun z0 => ⟨fun z => wGr R W rfl (cGr R rfl (cSizeL ht R D (by omega) (by omega) (by omega) (by omega) fun h1 R1 => ⟨by omega, _, R1, ⟨q, ?_⟩, rfl⟩)), fun z1 => ⟨fun z => wGr R W rfl (cGr R rfl (cSizeL ht R D (by omega) (by omega) (by omega) (by omega) fun h1 R1 => ⟨by omega, _, R1, ⟨q, ?_⟩, rfl⟩)), fun z2 => ⟨fun z => wGr R W rfl (cOo R (tC.i R (tX2_onBridge ht D X (d := d - 1)) (by omega) (by omega) fun h1 R1 => ⟨by omega, _, R1, ⟨q, ?_⟩, rfl⟩)), fun z3 => ⟨fun z => wGr R W rfl (cGr R rfl (cSizeL ht R D (by omega) (by omega) (by omega) (by omega) fun h1 R1 => ⟨by omega, _, R1, ⟨q, ?_⟩, rfl⟩)), fun z4 => ⟨fun z => wOc R W (tC.i R (tX1_cartsThat ht D W X (d := d - 1) (by omega)) (by omega) (by omega) fun h1 R1 => ⟨by omega, _, R1, ⟨q, ?_⟩, rfl⟩), fun z5 => ⟨fun z => ?_, fun z6 => ⟨fun z => ?_, fun z7 => ⟨fun z => ?_, fun z8 => ⟨fun z => ?_, fun z9 => ⟨fun z => ?_, fun za => ⟨fun z => ?_, fun zb => ⟨fun z => ?_, fun zc => ?_⟩⟩⟩⟩⟩⟩⟩⟩⟩⟩⟩⟩⟩
  · rw [wAc, if_pos z, X.1.1.1]
  · rw [wAc, if_neg z0, if_pos z, X.nn, e0]
  · rw [wAc, if_neg z0, if_neg z1, if_pos z, X.nn, e1]
  · rw [wAc, if_neg z0, if_neg z1, if_neg z2, if_pos z]
  · rw [wAc, if_neg z0, if_neg z1, if_neg z2, if_neg z3, if_pos z, X.pa.2.2.1]
  · rw [wAc, if_neg z0, if_neg z1, if_neg z2, if_neg z3, if_neg z4, if_pos z]
  · refine wGr R W rfl (cGi R (j := 10) (x := r 1) (by show Value.int (c.1 10) = _; rw [f10]) ⟨by omega, _, R, ⟨q, ?_⟩, rfl⟩)
    rw [wAc, if_neg z0, if_neg z1, if_neg z2, if_neg z3, if_neg z4, if_neg z5, if_pos z]
  · refine wGr R W rfl (cGi R (j := 6) (x := r 2) (by show Value.int (c.1 6) = _; rw [f6]) ⟨by omega, _, R, ⟨q, ?_⟩, rfl⟩)
    rw [wAc, if_neg z0, if_neg z1, if_neg z2, if_neg z3, if_neg z4, if_neg z5, if_neg z6, if_pos z]
  · refine wGr R W rfl (cGi R (j := 7) (x := r 3) (by show Value.int (c.1 7) = _; rw [f7]) ⟨by omega, _, R, ⟨q, ?_⟩, rfl⟩)
    rw [wAc, if_neg z0, if_neg z1, if_neg z2, if_neg z3, if_neg z4, if_neg z5, if_neg z6, if_neg z7, if_pos z]
  · refine wGr R W rfl (cGi R (j := 5) (x := r 4) (by show Value.int (c.1 5) = _; rw [f5]) ⟨by omega, _, R, ⟨q, ?_⟩, rfl⟩)
    rw [wAc, if_neg z0, if_neg z1, if_neg z2, if_neg z3, if_neg z4, if_neg z5, if_neg z6, if_neg z7, if_neg z8, if_pos z]
  · refine wGr R W rfl (cGi R (j := 12) (x := r 10) (by show Value.int (c.1 12) = _; rw [f12]) ⟨by omega, _, R, ⟨q, ?_⟩, rfl⟩)
    rw [wAc, if_neg z0, if_neg z1, if_neg z2, if_neg z3, if_neg z4, if_neg z5, if_neg z6, if_neg z7, if_neg z8, if_neg z9, if_pos z]
  · refine wGr R W rfl (cGi R (j := 11) (x := r 9) (by show Value.int (c.1 11) = _; rw [f11]) ⟨by omega, _, R, ⟨q, ?_⟩, rfl⟩)
    rw [wAc, if_neg z0, if_neg z1, if_neg z2, if_neg z3, if_neg z4, if_neg z5, if_neg z6, if_neg z7, if_neg z8, if_neg z9, if_neg za, if_pos z]
  · refine wGr R W rfl (tOcZ R (wK_3 W) (tC.i R (tJ5_length ht (wK_3 W) (d := d - 1) (by omega)) (by omega) (by omega) fun h1 R1 => ⟨by omega, _, R1, ⟨q, ?_⟩, rfl⟩))
    rw [wAc, if_neg z0, if_neg z1, if_neg z2, if_neg z3, if_neg z4, if_neg z5, if_neg z6, if_neg z7, if_neg z8, if_neg z9, if_neg za, if_neg zb, if_pos z]
  · refine wGr R W rfl (tOcZ R (wK_2 W) (tC.i R (tJ3_size ht (wK_2 W) (d := d - 1) (by omega)) (by omega) (by omega) fun h1 R1 => ⟨by omega, _, R1, ⟨q, ?_⟩, rfl⟩))
    rw [wAc, if_neg z0, if_neg z1, if_neg z2, if_neg z3, if_neg z4, if_neg z5, if_neg z6, if_neg z7, if_neg z8, if_neg z9, if_neg za, if_neg zb, if_neg zc]
theorem tX1_over (ht : l.stackTraces = false) (hS : tS G) (D : cD G A (cN c)) (W : wD G B A (cN c)) (s : zMS) (X : cQ b E T c s.2.1) (g f : Nat) (hg : 8 ≤ g) (hf : 8 ≤ f) (hb : b + 1600 ≤ 2 ^ 20) (hE : E + 200 ≤ 2 ^ 20) (hT : T + 100 ≤ 2 ^ 20) (hd : 12 ≤ d) : tC l G d MX1_over [.ref B.1] (wK G k B A.1 A c u) 2597 (wLk (wK G k B A.1 A c u) (fun E => E = xN ∧ rOv (oLo g f 99 s).2.2.1 = false) (fun y => rOv (oLo g f 99 s).2.2.1 = true ∧ y = nI (oLo g f 99 s).1)) := by
  intro h R
  refine zCt.of kX1_over ht (by simp [Value.category]) (Nat.le_of_ble_eq_true rfl) ?_
  refine b_X1_over_0 _ (wGr R W rfl (cOo R (tCall.R R (tX2_copy ht hS D X (d := d - 1) (by omega)) (by omega) (by omega) (fun x k' h1 R1 v => ?_) (fun E k' h' _ w => w.elim))))
  obtain ⟨A', c', rfl, D', fr, ce, rfl⟩ := v
  have loop : ∀ (j q : Nat) (s1 : zMS) (c1 : cS) (h : zH), q + j = 99 → cQ (b + 16 * q) (E + 2 * q) (T + q) c1 s1.2.1 → cN c1 = cN c' → tR G (cK G (wK G k B A.1 A c u) A' c1) h → (oLo g f 99 s).1 = q + (oLo g f j s1).1 → (oLo g f 99 s).2 = (oLo g f j s1).2 → zV l G d 2597 MX1_over (fun r_1 h' => ∃ k', tR G k' h' ∧ wLk (wK G k B A.1 A c u) (fun E => E = xN ∧ rOv (oLo g f 99 s).2.2.1 = false) (fun y => rOv (oLo g f 99 s).2.2.1 = true ∧ y = nI (oLo g f 99 s).1) r_1 k') 10 [some (.ref B.1), some (.ref A'.1), some (.int (nI q))] [] h (220 + 24 * q) := by
    intro j
    induction j with
    | zero =>
      intro q s1 c1 h hq X1 n1 R e1 e2
      have D1 : cD G A' (cN c1) := by rw [n1]; exact D'
      have n40 := X1.n40
      have l1 : (cL c1 1).length ≤ cN c1 := X1.len (z := 0) (by omega)
      have l2 : (cL c1 2).length ≤ cN c1 := X1.len (z := 1) (by omega)
      have l3 : rOn s1.2.1 ≤ 40 := by have := zcnt_le (rOnb s1.2.1) (rN s1.2.1); have := X1.ok.2; simp only [rOn]; omega
      have hdrop : ∀ h, tR G (cK G (wK G k B A.1 A c u) A' c1) h → tR G (wK G k B A.1 A c u) h := fun h R => cK_drop D1 (by rw [n1]; exact fr) R
      refine b_X1_over_10 _ _ _ (cOo R (tC.i R (tX2_there ht D1 X1 (d := d - 1) (by omega)) (by omega) (by omega) fun h2 R2 => ?_))
      rw [← nI_0, nI_leI (by omega) (by omega)]
      refine ⟨fun z => ⟨by omega, _, hdrop _ R2, ⟨?_, ?_⟩, rfl⟩, fun z => ⟨fun z2 => ?_, fun z2 => ?_⟩⟩
      · rw [e2, oLo, X1.over]; exact decide_eq_true (by omega)
      · rw [e1]; rfl
      · rw [nI_0]
        refine cCheckN ht (by omega) (by omega) (fun z => absurd rfl z) (fun _ => ⟨by omega, _, hdrop _ R2, ⟨rfl, ?_⟩, rfl⟩)
        rw [e2, oLo, X1.over]; exact decide_eq_false (by omega)
      · exact absurd ((nI_leI (a := 99) (b := q) (by omega) (by omega)).mpr (by omega)) z2
    | succ j ih =>
      intro q s1 c1 h hq X1 n1 R e1 e2
      have D1 : cD G A' (cN c1) := by rw [n1]; exact D'
      have n40 := X1.n40
      have l1 : (cL c1 1).length ≤ cN c1 := X1.len (z := 0) (by omega)
      have l2 : (cL c1 2).length ≤ cN c1 := X1.len (z := 1) (by omega)
      have l3 : rOn s1.2.1 ≤ 40 := by have := zcnt_le (rOnb s1.2.1) (rN s1.2.1); have := X1.ok.2; simp only [rOn]; omega
      have hdrop : ∀ h, tR G (cK G (wK G k B A.1 A c u) A' c1) h → tR G (wK G k B A.1 A c u) h := fun h R => cK_drop D1 (by rw [n1]; exact fr) R
      refine b_X1_over_10 _ _ _ (cOo R (tC.i R (tX2_there ht D1 X1 (d := d - 1) (by omega)) (by omega) (by omega) fun h2 R2 => ?_))
      rw [← nI_0, nI_leI (by omega) (by omega)]
      refine ⟨fun z => ⟨by omega, _, hdrop _ R2, ⟨?_, ?_⟩, rfl⟩, fun z => ⟨fun z2 => ?_, fun z2 => ?_⟩⟩
      · have ov : rOv s1.2.1 = true := by rw [X1.over]; exact decide_eq_true (by omega)
        rw [e2, oLo, if_pos ov]; exact ov
      · have ov : rOv s1.2.1 = true := by rw [X1.over]; exact decide_eq_true (by omega)
        rw [e1, oLo, if_pos ov]; rfl
      · have := (nI_leI (a := 99) (b := q) (by omega) (by omega)).mp z2; omega
      · have ov : ¬ rOv s1.2.1 = true := by rw [X1.over, decide_eq_false (by omega)]; decide
        have eo : oLo g f (j + 1) s1 = ((oLo g f j (mTk g f s1)).1 + 1, (oLo g f j (mTk g f s1)).2) := by rw [oLo, if_neg ov]
        rw [eo] at e1 e2
        refine cCheckN ht (by omega) (by omega) (fun _ => ?_) (fun z => absurd z (by decide))
        refine cOo R2 (tCall.I R2 (tX2_tick ht hS D1 s1 X1 g f hg hf (by omega) (by omega) (by omega) (d := d - 1) (by omega)) (by omega) (by omega) (fun y k' h3 R3 v => ?_) (fun E k' h' _ w => w.elim))
        obtain ⟨rfl, c2, X2, n2, rfl⟩ := v
        rw [nI_1]
        exact ih (q + 1) _ c2 h3 (by omega) X2 (by rw [n2, n1]) R3 (by rw [e1]; show q + ((oLo g f j (mTk g f s1)).1 + 1) = _; omega) e2
  exact loop 99 0 s c' h1 rfl (X.eq ce) rfl R1 (by omega) rfl
theorem tX1_wouldPass (ht : l.stackTraces = false) (hS : tS G) (D : cD G A (cN c)) (W : wD G B A (cN c)) (s : zMS) (X : cQ b E T c s.2.1) (g f : Nat) (hg : 8 ≤ g) (hf : 8 ≤ f) (hb : b + 1600 ≤ 2 ^ 20) (hE : E + 200 ≤ 2 ^ 20) (hT : T + 100 ≤ 2 ^ 20) (x : Int32) (hd : 12 ≤ d) : tC l G d MX1_wouldPass [.ref B.1, .int x] (wK G k B A.1 A c u) 700 (wLk (wK G k B A.1 A c u) (fun E => E = xA ∧ zbt x 0 20 = false) (fun y => zbt x 0 20 = true ∧ y = nI (nTs g f x.toNatClampNeg s))) := by
  intro h R
  refine zCt.of kX1_wouldPass ht (by simp [Value.category]) (Nat.le_of_ble_eq_true rfl) ?_
  refine b_X1_wouldPass_0 _ _ (zCall.P (s_between ht (d := d - 1)) (by omega) (by omega) (cCheck ht (by omega) (by omega) (fun q => ?_) (fun q => ⟨by omega, _, R, ⟨rfl, zbi_eq0.mp q⟩, rfl⟩)))
  rw [zbi_eq0, Bool.not_eq_false] at q
  obtain ⟨m, -, m20, rfl⟩ := zbt_nI (a := 0) (n := 20) (by omega) (by omega) q
  refine wGr R W rfl (cOo R (tCall.R R (tX2_copy ht hS D X (d := d - 1) (by omega)) (by omega) (by omega) (fun x k' h1 R1 v => ?_) (fun E k' h' _ w => w.elim)))
  obtain ⟨A', c', rfl, D', fr, ce, rfl⟩ := v
  rw [nI_clamp (by omega)]
  have loop : ∀ (j i a : Nat) (s1 : zMS) (c1 : cS) (h : zH), i + j = m → cQ (b + 16 * i) (E + 2 * i) (T + i) c1 s1.2.1 → cN c1 = cN c' → tR G (cK G (wK G k B A.1 A c u) A' c1) h → nTs g f m s = a + nTs g f j s1 → zV l G d 700 MX1_wouldPass (fun r_1 h' => ∃ k', tR G k' h' ∧ wLk (wK G k B A.1 A c u) (fun E => E = xA ∧ zbt (nI m) 0 20 = false) (fun y => zbt (nI m) 0 20 = true ∧ y = nI (nTs g f m s)) r_1 k') 23 [some (.ref B.1), some (.int (nI m)), some (.ref A'.1), some (.int (nI a)), some (.int (nI i))] [] h (220 + 24 * i) := by
    intro j
    induction j with
    | zero =>
      intro i a s1 c1 h hi X1 n1 R e1
      have D1 : cD G A' (cN c1) := by rw [n1]; exact D'
      refine b_X1_wouldPass_23 _ _ _ _ _ ?_
      rw [nI_leI (by omega) (by omega)]
      exact ⟨fun _ => ⟨by omega, _, cK_drop D1 (by rw [n1]; exact fr) R, ⟨q, by rw [e1]; rfl⟩, rfl⟩, fun z => absurd (by omega) z⟩
    | succ j ih =>
      intro i a s1 c1 h hi X1 n1 R e1
      have D1 : cD G A' (cN c1) := by rw [n1]; exact D'
      refine b_X1_wouldPass_23 _ _ _ _ _ ?_
      rw [nI_leI (by omega) (by omega)]
      refine ⟨fun z => absurd z (by omega), fun _ => cOo R (tCall.I R (tX2_tick ht hS D1 s1 X1 g f hg hf (by omega) (by omega) (by omega) (d := d - 1) (by omega)) (by omega) (by omega) (fun y k' h3 R3 v => ?_) (fun E k' h' _ w => w.elim))⟩
      obtain ⟨rfl, c2, X2, n2, rfl⟩ := v
      rw [nI_1, nI_add]
      refine ih (i + 1) _ _ c2 h3 (by omega) X2 (by rw [n2, n1]) R3 ?_
      rw [e1, nTs, Nat.add_assoc]
  exact loop m 0 0 s c' h1 (by omega) (X.eq ce) rfl R1 (by omega)
end W3
