/-! the mean of what was waited; the model's shares -/
def rSum (r : Nat → Int32) : Int32 := zfo (fun a k => a + rc r k 7) 0 (rN r)
def rMe (r : Nat → Int32) : UInt64 := FP.ddiv (FP.i2d (rSum r)) (FP.i2d (r 0))
section WA
variable {l : Launch} {G : zG} {k : t_H} {B : wB} {A : cA} {c : cS} {u : wU} {h : zH} {d mc n b E T st : Nat} {r : Nat → Int32}
theorem tX1_meanWaited (ht : l.stackTraces = false) (D : cD G A (cN c)) (W : wD G B A (cN c)) (X : cQ b E T c r) (hd : 6 ≤ d) : tC l G d MX1_meanWaited [.ref B.1] (wK G k B A.1 A c u) 1 (tqD (fun E k' => (E = xR ∧ cN c = 0) ∧ k' = wK G k B A.1 A c u) (fun x k' => (cN c ≠ 0 ∧ x = rMe r) ∧ k' = wK G k B A.1 A c u)) := by
  intro h R
  have n40 := X.n40
  have he : ((List.range (cN c)).map A.2.2).isEmpty = decide (cN c = 0) := by
    cases hn : cN c with
    | zero => rfl
    | succ m => rw [List.range_succ]; simp
  refine zCt.of kX1_meanWaited ht (by simp [Value.category]) (Nat.le_of_ble_eq_true rfl) ?_
  refine b_X1_meanWaited_0 _ (wGr R W rfl (cGr R rfl (tOcZ R (cK_0 D) (tC.i R (tJ2_isEmpty ht (cK_0 D) (d := d - 1)) (by omega) (by omega) fun h1 R1 => ?_))))
  rw [he]
  refine ⟨fun q => ?_, fun q => ⟨by omega, by omega, _, R1, ⟨rfl, ?_⟩, rfl⟩⟩
  · have ne : cN c ≠ 0 := by rw [zbi_eq0, decide_eq_false_iff_not] at q; exact q
    refine wGr R1 W rfl (cGr R1 rfl (wIter0 ht R1 D (by omega) (by omega) fun y h2 ho N ky bky R2 => ?_))
    refine zInd (N := cN c) (P := fun i => ∀ h w, tR G (wK G (tUp k y (tIt (nI i) w c.2.2.2.1.1 (A.2.1 0))) B A.1 A c u) h → zV l G d 1 MX1_meanWaited _ 34 [some (.ref B.1), some (.int (zfo (fun a k => a + rc r k 7) 0 i)), some (.ref y), none] [] h (0 + 1)) ?_ 0 (Nat.zero_le _) h2 (-1) R2
    intro i hi ih h w R
    refine b_X1_meanWaited_34 _ _ _ (wHas0 ht R D N ho hi (by omega) (by omega) fun h3 R3 => ⟨fun q => ?_, fun q => ?_⟩)
    · have hi' : i = cN c := by
        have := zbi_eq0.mp q
        rw [decide_eq_false_iff_not] at this
        omega
      have R4 := wK_fg N ky bky R3
      refine wGr R4 W rfl (cGr R4 rfl (cSize0 ht R4 D (by omega) (by omega) fun h4 R5 => ⟨fp_mean _ (by omega) n40, by omega, _, R5, ⟨ne, ?_⟩, rfl⟩))
      rw [rMe, rSum, X.nn, X.1.1.1, hi']
    · have lt : i < cN c := by
        rw [zbi_eq0, Bool.not_eq_false, decide_eq_true_eq] at q; exact q
      refine wNxt0 ht R3 D N ho bky lt (by omega) (by omega) fun h4 R4 => ccOc R4 D lt (ccGi R4 D lt (j := 8) (x := rc r i 7) (by show Value.int (cG c i 8) = _; rw [(X.ca lt).2.2.2.2.2.2.2.2.1]) ?_)
      exact ih lt h4 _ R4
  · rw [zbi_eq0, Bool.not_eq_false, decide_eq_true_eq] at q
    exact q
end WA
section WAM
variable {l : Launch} {G : zG} {h : zH} {A : zMA} {s : zMS} {d : Nat}
theorem s_fullShare (ht : l.stackTraces = false) (D : zMD G A) (hN : rOk s.2.1) (hS : s.2.1 4 = nI (rSp s.2.1) ∧ 2 ≤ rSp s.2.1 ∧ rSp s.2.1 ≤ 8) (hO : rOn s.2.1 ≤ 8) (hd : 3 ≤ d) : zCt l G d MX3_fullShare [.ref A.1] (zMh h A s) 0 (zqF zNo (fun x h' => x = rFs s.2.1 ∧ h' = zMh h A (zMf s 0 0))) := by
  refine zCt.of kX3_fullShare ht (by simp [Value.category]) (Nat.le_of_ble_eq_true rfl) ?_
  refine b_X3_fullShare_0 _ ((zPf_m0 D).mpr (zMc (s_onBridge (s := zMf s 0 0) ht D hN (by omega) (d := d - 1)) (by omega) (Nat.le_refl _) (zGr_m1.mpr ((zAi_all D).mpr ⟨pk_in 4 _ (by decide), ?_, Nat.le_refl _, rfl, rfl⟩))))
  show vf_n32 (FP.fdiv (FP.i2f (nI (rOn s.2.1))) (FP.i2f (s.2.1 4)))
  rw [hS.1]
  exact fp_share _ (by omega) _ (by omega) hS.2.1
theorem s_meanWaited (ht : l.stackTraces = false) (D : zMD G A) (hN : rOk s.2.1) (hd : 3 ≤ d) : zCt l G d MX3_meanWaited [.ref A.1] (zMh h A s) 0 (zqD zNo (fun x h' => x = (if rN s.2.1 = 0 then FP.dconst0 else rMe s.2.1) ∧ h' = zMh h A (zMf s 0 (if rN s.2.1 = 0 then 1 else 0)))) := by
  refine zCt.of kX3_meanWaited ht (by simp [Value.category]) (Nat.le_of_ble_eq_true rfl) ?_
  obtain ⟨hN1, hN2⟩ := hN
  refine b_X3_meanWaited_0 _ (zGr_m1.mpr ((zAi_all D).mpr ⟨pk_in 0 _ (by decide), ?_⟩))
  show (s.2.1 0 ≤ 0 → _) ∧ (¬ s.2.1 0 ≤ 0 → _)
  have e0 : (s.2.1 0 ≤ 0) = (rN s.2.1 = 0) := by
    rw [hN1, ← nI_0]
    exact propext ((nI_leI (by omega) (by omega)).trans (by omega))
  rw [e0]
  refine ⟨fun z => zMc (s_isThere0 ht D (d := d - 1)) (by omega) (Nat.le_refl _) ⟨fun q => absurd rfl q, fun _ => ⟨Nat.le_refl _, by rw [if_pos z], by rw [if_pos z]⟩⟩, fun z => zMc (s_isThere1 ht D (d := d - 1)) (by omega) (Nat.le_refl _) ⟨fun _ => ?_, fun q => absurd (by decide) q⟩⟩
  rw [if_neg z, if_neg z]
  refine zInd (N := rN s.2.1) (P := fun i => zV l G d 0 MX3_meanWaited (zqD zNo (fun x h' => x = rMe s.2.1 ∧ h' = zMh h A (zMf s 0 0))) 29 [some (.ref A.1), some (.int (s.2.1 0)), some (.int (zfo (fun a k => a + rc s.2.1 k 7) 0 i)), some (.int (nI i))] [] (zMh h A (zMf s 0 0)) 0) ?_ 0 (Nat.zero_le _)
  intro i hi ih
  refine b_X3_meanWaited_29 _ _ _ _ ?_
  have e1 : (s.2.1 0 ≤ nI i) = (rN s.2.1 ≤ i) := by
    rw [hN1]
    exact propext (nI_leI (by omega) (by omega))
  rw [e1]
  refine ⟨fun w => ?_, fun w => zMc (s_c (s := zMf s 0 0) ht D i 7 (zvl_nI (k := 7) (by omega)) (by omega) (d := d - 1)) (by omega) (Nat.le_refl _) ?_⟩
  · obtain rfl : i = rN s.2.1 := by omega
    refine ⟨?_, Nat.le_refl _, rfl, rfl⟩
    rw [hN1]
    exact fp_mean _ (by omega) hN2
  · rw [nI_1]
    exact ih (by omega)
end WAM
