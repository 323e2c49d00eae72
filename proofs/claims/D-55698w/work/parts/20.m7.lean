/-! the model: sending, a tick, ticks -/
theorem rRa_cases (r : Nat → Int32) (x p : Int32) : rRa r x p = -1 ∨ ∃ k, k < rN r ∧ rRab r x p k = true ∧ rRa r x p = nI k := by
  rcases zff_cases (rRab r x p) (rN r) 0 with e | ⟨i, -, h2, h3, -, e⟩
  · exact Or.inl e
  · exact Or.inr ⟨i, by omega, h3, e⟩
/-- the law's number -/
def rLw (r : Nat → Int32) : Prop := r 2 = 0 ∨ r 2 = 1 ∨ r 2 = 2 ∨ r 2 = 3
def rMs (r : Nat → Int32) (x : Int32) : Bool :=
  if rRa r x 0 = -1 then false
  else if r 2 = 0 then true
  else if rHt r x then false
  else if r 2 = 1 then (r 5 == x && decide (r 6 < r 3))
  else if r 2 = 3 ∧ rRa r (1 - x) 0 = -1 then true
  else
    let more := if r 2 = 2 then rLo r x - rLo r (1 - x) else rc r (rRa r x 0).toNatClampNeg 7 - rc r (rRa r (1 - x) 0).toNatClampNeg 7
    decide (0 < more) || (more == 0 && x == 0)
section ZM7
variable {l : Launch} {G : zG} {h : zH} {A : zMA} {s : zMS} {d : Nat}
theorem s_maySend (ht : l.stackTraces = false) (D : zMD G A) (hN : rOk s.2.1) (hL : rLw s.2.1) (hd : 4 ≤ d) (x : Int32) : zCt l G d MX3_maySend [.ref A.1, .int x] (zMh h A s) 0 (zIr (zbi (rMs s.2.1 x)) (zMh h A s)) := by
  refine zCt.of kX3_maySend ht (by simp [Value.category]) (Nat.le_of_ble_eq_true rfl) ?_
  have hN2 := hN.2
  refine b_X3_maySend_0 _ _ ?_
  refine zMc (s_rowAt ht D hN (by omega) _ _ (d := d - 1)) (by omega) (Nat.le_refl _) ?_
  refine zMc (s_rowAt ht D hN (by omega) _ _ (d := d - 1)) (by omega) (Nat.le_refl _) ?_
  rcases rRa_cases s.2.1 x 0 with e | ⟨k, hk, -, e⟩
  · rw [e]
    refine ⟨fun c => absurd rfl c, fun _ => ⟨Nat.le_refl _, ?_, rfl⟩⟩
    simp [rMs, e, zbi]
  · have z1 := nI_clamp (show k < 2 ^ 31 by omega)
    have z3 := zn1 (show k < 2 ^ 31 by omega)
    rw [e]
    refine ⟨fun _ => ?_, fun c => absurd z3 c⟩
    rcases rRa_cases s.2.1 (1 - x) 0 with e2 | ⟨j, hj, -, e2⟩
    · rw [e2]
      rcases hL with hL | hL | hL | hL
      all_goals
        repeat' (first
            | refine zGr_m1.mpr ?_
            | refine zGr_m9.mpr ?_
            | refine zGr_m14.mpr ?_
            | refine zGr_m16.mpr ?_
            | refine zGi_m0.mpr ?_
            | refine zGi_m2.mpr ?_
            | refine zGi_m3.mpr ?_
            | refine zGi_m4.mpr ?_
            | refine zGi_m5.mpr ?_
            | refine zGi_m6.mpr ?_
            | refine zGi_m7.mpr ?_
            | refine zGi_m8.mpr ?_
            | refine zGi_m10.mpr ?_
            | refine zGi_m11.mpr ?_
            | refine zGi_m12.mpr ?_
            | refine zGi_m13.mpr ?_
            | refine zGi_m15.mpr ?_
            | refine zGi_m17.mpr ?_
            | refine (zPf_m0 D).mpr ?_
            | refine (zPf_m2 D).mpr ?_
            | refine (zPf_m3 D).mpr ?_
            | refine (zPf_m4 D).mpr ?_
            | refine (zPf_m5 D).mpr ?_
            | refine (zPf_m6 D).mpr ?_
            | refine (zPf_m7 D).mpr ?_
            | refine (zPf_m8 D).mpr ?_
            | refine (zPf_m10 D).mpr ?_
            | refine (zPf_m11 D).mpr ?_
            | refine (zPf_m12 D).mpr ?_
            | refine (zPf_m13 D).mpr ?_
            | refine (zPf_m15 D).mpr ?_
            | refine (zPf_m17 D).mpr ?_
            | refine (zAi_all D).mpr ⟨(by first | exact pk_in 0 _ (by decide) | exact pk_in 1 _ (by decide) | exact pk_in 2 _ (by decide) | exact pk_in 3 _ (by decide) | exact pk_in 4 _ (by decide) | exact pk_in 5 _ (by decide) | exact pk_in 6 _ (by decide) | exact pk_in 7 _ (by decide) | exact pk_in 8 _ (by decide) | exact pk_in 9 _ (by decide) | exact pk_in 10 _ (by decide)), ?_⟩
            | refine (zSt1_all D).mpr ⟨(by first | exact pk_in 0 _ (by decide) | exact pk_in 1 _ (by decide) | exact pk_in 2 _ (by decide) | exact pk_in 3 _ (by decide) | exact pk_in 4 _ (by decide) | exact pk_in 5 _ (by decide) | exact pk_in 6 _ (by decide) | exact pk_in 7 _ (by decide) | exact pk_in 8 _ (by decide) | exact pk_in 9 _ (by decide) | exact pk_in 10 _ (by decide)), ?_⟩
            | with_reducible refine zMc (s_c ht D _ _ (zvl_d _ (by decide)) (by omega) (d := d - 1)) (by omega) (Nat.le_refl _) ?_
            | with_reducible refine zMc (s_headsTo ht D hN (by omega) _ (d := d - 1)) (by omega) (Nat.le_refl _) ?_
            | with_reducible refine zMc (s_loadsOf ht D hN (by omega) _ (d := d - 1)) (by omega) (Nat.le_refl _) ?_
            | refine ⟨fun _ => ?_, fun _ => ?_⟩
            | fail)
      all_goals simp only [zl_0, zl_1, zl_2, zl_3, zl_4, zl_5, zl_6, zl_7, zl_8, zl_9, zl_10, zl_11, zl_37, zl_40, zl_60, zl_99, zl_411] at *
      all_goals first
        | (exfalso; simp_all; done)
        | (refine ⟨Nat.le_refl _, ?_, rfl⟩; simp_all [rMs, zbi, zbi_eq0, Int32.not_lt, Int32.not_le, ← Int32.not_lt])
    · have z5 := nI_clamp (show j < 2 ^ 31 by omega)
      have z6 := zn1 (show j < 2 ^ 31 by omega)
      rw [e2]
      rcases hL with hL | hL | hL | hL
      all_goals
        repeat' (first
            | refine zGr_m1.mpr ?_
            | refine zGr_m9.mpr ?_
            | refine zGr_m14.mpr ?_
            | refine zGr_m16.mpr ?_
            | refine zGi_m0.mpr ?_
            | refine zGi_m2.mpr ?_
            | refine zGi_m3.mpr ?_
            | refine zGi_m4.mpr ?_
            | refine zGi_m5.mpr ?_
            | refine zGi_m6.mpr ?_
            | refine zGi_m7.mpr ?_
            | refine zGi_m8.mpr ?_
            | refine zGi_m10.mpr ?_
            | refine zGi_m11.mpr ?_
            | refine zGi_m12.mpr ?_
            | refine zGi_m13.mpr ?_
            | refine zGi_m15.mpr ?_
            | refine zGi_m17.mpr ?_
            | refine (zPf_m0 D).mpr ?_
            | refine (zPf_m2 D).mpr ?_
            | refine (zPf_m3 D).mpr ?_
            | refine (zPf_m4 D).mpr ?_
            | refine (zPf_m5 D).mpr ?_
            | refine (zPf_m6 D).mpr ?_
            | refine (zPf_m7 D).mpr ?_
            | refine (zPf_m8 D).mpr ?_
            | refine (zPf_m10 D).mpr ?_
            | refine (zPf_m11 D).mpr ?_
            | refine (zPf_m12 D).mpr ?_
            | refine (zPf_m13 D).mpr ?_
            | refine (zPf_m15 D).mpr ?_
            | refine (zPf_m17 D).mpr ?_
            | refine (zAi_all D).mpr ⟨(by first | exact pk_in 0 _ (by decide) | exact pk_in 1 _ (by decide) | exact pk_in 2 _ (by decide) | exact pk_in 3 _ (by decide) | exact pk_in 4 _ (by decide) | exact pk_in 5 _ (by decide) | exact pk_in 6 _ (by decide) | exact pk_in 7 _ (by decide) | exact pk_in 8 _ (by decide) | exact pk_in 9 _ (by decide) | exact pk_in 10 _ (by decide)), ?_⟩
            | refine (zSt1_all D).mpr ⟨(by first | exact pk_in 0 _ (by decide) | exact pk_in 1 _ (by decide) | exact pk_in 2 _ (by decide) | exact pk_in 3 _ (by decide) | exact pk_in 4 _ (by decide) | exact pk_in 5 _ (by decide) | exact pk_in 6 _ (by decide) | exact pk_in 7 _ (by decide) | exact pk_in 8 _ (by decide) | exact pk_in 9 _ (by decide) | exact pk_in 10 _ (by decide)), ?_⟩
            | with_reducible refine zMc (s_c ht D _ _ (zvl_d _ (by decide)) (by omega) (d := d - 1)) (by omega) (Nat.le_refl _) ?_
            | with_reducible refine zMc (s_headsTo ht D hN (by omega) _ (d := d - 1)) (by omega) (Nat.le_refl _) ?_
            | with_reducible refine zMc (s_loadsOf ht D hN (by omega) _ (d := d - 1)) (by omega) (Nat.le_refl _) ?_
            | refine ⟨fun _ => ?_, fun _ => ?_⟩
            | fail)
      all_goals simp only [zl_0, zl_1, zl_2, zl_3, zl_4, zl_5, zl_6, zl_7, zl_8, zl_9, zl_10, zl_11, zl_37, zl_40, zl_60, zl_99, zl_411] at *
      all_goals first
        | (exfalso; simp_all; done)
        | (refine ⟨Nat.le_refl _, ?_, rfl⟩; simp_all [rMs, zbi, zbi_eq0, ← Int32.not_lt])
/-- the first cart of a row is sent -/
def mSe (s : zMS) (x : Int32) : zMS :=
  let sp := if x = 0 then 0 else s.2.1 4 - 1
  if ¬ rCo s.2.1 sp = -1 then s
  else if rMs s.2.1 x then
    let k := (rRa s.2.1 x 0).toNatClampNeg
    let s3 := zMa (zMa (zMa s (11 + 10 * k + 2) 1) (11 + 10 * k + 3) sp) (11 + 10 * k + 4) (1 - x)
    let s4 := zMa s3 9 (s3.2.1 9 + 1)
    zMa s4 6 (s4.2.1 6 + (if s4.2.1 5 = x then 1 else 0))
  else s
theorem rMs_first {r : Nat → Int32} {x : Int32} (h : rMs r x = true) : ∃ k, k < rN r ∧ rRa r x 0 = nI k := by
  rcases rRa_cases r x 0 with e | ⟨k, hk, -, e⟩
  · simp [rMs, e] at h
  · exact ⟨k, hk, e⟩
theorem mSe_lo (s : zMS) (x : Int32) (i : Nat) (hi : i < 11) (h9 : i ≠ 9) (h6 : i ≠ 6) : (mSe s x).2.1 i = s.2.1 i := by
  simp only [mSe]
  generalize (if x = 0 then (0 : Int32) else s.2.1 4 - 1) = sp
  split
  · rfl
  · split
    · rw [zMa_lo _ _ _ _ (by omega), zMa_lo _ _ _ _ (by omega), zMa_lo _ _ _ _ (by omega), zMa_lo _ _ _ _ (by omega), zMa_lo _ _ _ _ (by omega)]
    · rfl
theorem s_sends (ht : l.stackTraces = false) (D : zMD G A) (hN : rOk s.2.1) (hL : rLw s.2.1) (hd : 5 ≤ d) (x : Int32) : zCt l G d MX3_sends [.ref A.1, .int x] (zMh h A s) 0 (zVr (zMh h A (mSe s x))) := by
  refine zCt.of kX3_sends ht (by simp [Value.category]) (Nat.le_of_ble_eq_true rfl) ?_
  have hN2 := hN.2
  refine b_X3_sends_0 _ _ ?_
  refine ⟨fun c0 => ?_, fun c0 => ?_⟩
  · repeat' (first
      | refine zGr_m1.mpr ?_
      | refine zGr_m9.mpr ?_
      | refine zGr_m14.mpr ?_
      | refine zGr_m16.mpr ?_
      | refine zGi_m0.mpr ?_
      | refine zGi_m2.mpr ?_
      | refine zGi_m3.mpr ?_
      | refine zGi_m4.mpr ?_
      | refine zGi_m5.mpr ?_
      | refine zGi_m6.mpr ?_
      | refine zGi_m7.mpr ?_
      | refine zGi_m8.mpr ?_
      | refine zGi_m10.mpr ?_
      | refine zGi_m11.mpr ?_
      | refine zGi_m12.mpr ?_
      | refine zGi_m13.mpr ?_
      | refine zGi_m15.mpr ?_
      | refine zGi_m17.mpr ?_
      | refine (zPf_m0 D).mpr ?_
      | refine (zPf_m2 D).mpr ?_
      | refine (zPf_m3 D).mpr ?_
      | refine (zPf_m4 D).mpr ?_
      | refine (zPf_m5 D).mpr ?_
      | refine (zPf_m6 D).mpr ?_
      | refine (zPf_m7 D).mpr ?_
      | refine (zPf_m8 D).mpr ?_
      | refine (zPf_m10 D).mpr ?_
      | refine (zPf_m11 D).mpr ?_
      | refine (zPf_m12 D).mpr ?_
      | refine (zPf_m13 D).mpr ?_
      | refine (zPf_m15 D).mpr ?_
      | refine (zPf_m17 D).mpr ?_
      | refine (zAi_all D).mpr ⟨(by first | exact pk_in 0 _ (by decide) | exact pk_in 1 _ (by decide) | exact pk_in 2 _ (by decide) | exact pk_in 3 _ (by decide) | exact pk_in 4 _ (by decide) | exact pk_in 5 _ (by decide) | exact pk_in 6 _ (by decide) | exact pk_in 7 _ (by decide) | exact pk_in 8 _ (by decide) | exact pk_in 9 _ (by decide) | exact pk_in 10 _ (by decide)), ?_⟩
      | refine (zSt1_all D).mpr ⟨(by first | exact pk_in 0 _ (by decide) | exact pk_in 1 _ (by decide) | exact pk_in 2 _ (by decide) | exact pk_in 3 _ (by decide) | exact pk_in 4 _ (by decide) | exact pk_in 5 _ (by decide) | exact pk_in 6 _ (by decide) | exact pk_in 7 _ (by decide) | exact pk_in 8 _ (by decide) | exact pk_in 9 _ (by decide) | exact pk_in 10 _ (by decide)), ?_⟩
      | with_reducible refine zMc (s_rowAt ht D hN (by omega) _ _ (d := d - 1)) (by omega) (Nat.le_refl _) ?_
      | with_reducible refine zMc (s_cartOn ht D hN (by omega) _ (d := d - 1)) (by omega) (Nat.le_refl _) ?_
      | with_reducible refine zMc (s_maySend ht D hN hL (by omega) _ (d := d - 1)) (by omega) (Nat.le_refl _) ?_
      | refine ⟨fun _ => ?_, fun _ => ?_⟩
      | fail)
    · rename_i c1
      refine ⟨Nat.le_refl _, ?_⟩
      show _ = _
      simp only [zl_0, zl_1, zl_2, zl_3, zl_4, zl_5, zl_6, zl_7, zl_8, zl_9, zl_10, zl_11, zl_37, zl_40, zl_60, zl_99, zl_411] at c1
      simp [mSe, c0, c1]
    · rename_i c1 c2
      simp only [zl_0, zl_1, zl_2, zl_3, zl_4, zl_5, zl_6, zl_7, zl_8, zl_9, zl_10, zl_11, zl_37, zl_40, zl_60, zl_99, zl_411] at c1
      have c2 : rMs s.2.1 x = true := by simpa [zbi_eq0] using c2
      obtain ⟨k, hk, e⟩ := rMs_first c2
      rw [e]
      repeat' (first
          | refine zGr_m1.mpr ?_
          | refine zGr_m9.mpr ?_
          | refine zGr_m14.mpr ?_
          | refine zGr_m16.mpr ?_
          | refine zGi_m0.mpr ?_
          | refine zGi_m2.mpr ?_
          | refine zGi_m3.mpr ?_
          | refine zGi_m4.mpr ?_
          | refine zGi_m5.mpr ?_
          | refine zGi_m6.mpr ?_
          | refine zGi_m7.mpr ?_
          | refine zGi_m8.mpr ?_
          | refine zGi_m10.mpr ?_
          | refine zGi_m11.mpr ?_
          | refine zGi_m12.mpr ?_
          | refine zGi_m13.mpr ?_
          | refine zGi_m15.mpr ?_
          | refine zGi_m17.mpr ?_
          | refine (zPf_m0 D).mpr ?_
          | refine (zPf_m2 D).mpr ?_
          | refine (zPf_m3 D).mpr ?_
          | refine (zPf_m4 D).mpr ?_
          | refine (zPf_m5 D).mpr ?_
          | refine (zPf_m6 D).mpr ?_
          | refine (zPf_m7 D).mpr ?_
          | refine (zPf_m8 D).mpr ?_
          | refine (zPf_m10 D).mpr ?_
          | refine (zPf_m11 D).mpr ?_
          | refine (zPf_m12 D).mpr ?_
          | refine (zPf_m13 D).mpr ?_
          | refine (zPf_m15 D).mpr ?_
          | refine (zPf_m17 D).mpr ?_
          | refine (zAi_all D).mpr ⟨(by first | exact pk_in 0 _ (by decide) | exact pk_in 1 _ (by decide) | exact pk_in 2 _ (by decide) | exact pk_in 3 _ (by decide) | exact pk_in 4 _ (by decide) | exact pk_in 5 _ (by decide) | exact pk_in 6 _ (by decide) | exact pk_in 7 _ (by decide) | exact pk_in 8 _ (by decide) | exact pk_in 9 _ (by decide) | exact pk_in 10 _ (by decide)), ?_⟩
          | refine (zSt1_all D).mpr ⟨(by first | exact pk_in 0 _ (by decide) | exact pk_in 1 _ (by decide) | exact pk_in 2 _ (by decide) | exact pk_in 3 _ (by decide) | exact pk_in 4 _ (by decide) | exact pk_in 5 _ (by decide) | exact pk_in 6 _ (by decide) | exact pk_in 7 _ (by decide) | exact pk_in 8 _ (by decide) | exact pk_in 9 _ (by decide) | exact pk_in 10 _ (by decide)), ?_⟩
          | with_reducible refine zMc (s_c ht D _ _ (zvl_d _ (by decide)) (by omega) (d := d - 1)) (by omega) (Nat.le_refl _) ?_
          | with_reducible refine zMcV (s_set ht D _ _ (zvl_d _ (by decide)) (by omega) (d := d - 1)) (by omega) (Nat.le_refl _) ?_
          | refine ⟨fun _ => ?_, fun _ => ?_⟩
          | fail)
      all_goals
        rename_i c3
        refine ⟨Nat.le_refl _, ?_⟩
        show _ = _
        simp only [zl_0, zl_1, zl_2, zl_3, zl_4, zl_5, zl_6, zl_7, zl_8, zl_9, zl_10, zl_11, zl_37, zl_40, zl_60, zl_99, zl_411] at c3 ⊢
        simp [mSe, c0, Decidable.not_not.mp c1, c2, e, nI_clamp (show k < 2 ^ 31 by omega)]
        simp_all
    · rename_i c1 c2
      refine ⟨Nat.le_refl _, ?_⟩
      show _ = _
      simp only [zl_0, zl_1, zl_2, zl_3, zl_4, zl_5, zl_6, zl_7, zl_8, zl_9, zl_10, zl_11, zl_37, zl_40, zl_60, zl_99, zl_411] at c1
      have c2 : rMs s.2.1 x = false := by simpa [zbi_eq0] using c2
      simp [mSe, c0, Decidable.not_not.mp c1, c2]
  · obtain rfl : x = 0 := Decidable.not_not.mp c0
    repeat' (first
        | refine zGr_m1.mpr ?_
        | refine zGr_m9.mpr ?_
        | refine zGr_m14.mpr ?_
        | refine zGr_m16.mpr ?_
        | refine zGi_m0.mpr ?_
        | refine zGi_m2.mpr ?_
        | refine zGi_m3.mpr ?_
        | refine zGi_m4.mpr ?_
        | refine zGi_m5.mpr ?_
        | refine zGi_m6.mpr ?_
        | refine zGi_m7.mpr ?_
        | refine zGi_m8.mpr ?_
        | refine zGi_m10.mpr ?_
        | refine zGi_m11.mpr ?_
        | refine zGi_m12.mpr ?_
        | refine zGi_m13.mpr ?_
        | refine zGi_m15.mpr ?_
        | refine zGi_m17.mpr ?_
        | refine (zPf_m0 D).mpr ?_
        | refine (zPf_m2 D).mpr ?_
        | refine (zPf_m3 D).mpr ?_
        | refine (zPf_m4 D).mpr ?_
        | refine (zPf_m5 D).mpr ?_
        | refine (zPf_m6 D).mpr ?_
        | refine (zPf_m7 D).mpr ?_
        | refine (zPf_m8 D).mpr ?_
        | refine (zPf_m10 D).mpr ?_
        | refine (zPf_m11 D).mpr ?_
        | refine (zPf_m12 D).mpr ?_
        | refine (zPf_m13 D).mpr ?_
        | refine (zPf_m15 D).mpr ?_
        | refine (zPf_m17 D).mpr ?_
        | refine (zAi_all D).mpr ⟨(by first | exact pk_in 0 _ (by decide) | exact pk_in 1 _ (by decide) | exact pk_in 2 _ (by decide) | exact pk_in 3 _ (by decide) | exact pk_in 4 _ (by decide) | exact pk_in 5 _ (by decide) | exact pk_in 6 _ (by decide) | exact pk_in 7 _ (by decide) | exact pk_in 8 _ (by decide) | exact pk_in 9 _ (by decide) | exact pk_in 10 _ (by decide)), ?_⟩
        | refine (zSt1_all D).mpr ⟨(by first | exact pk_in 0 _ (by decide) | exact pk_in 1 _ (by decide) | exact pk_in 2 _ (by decide) | exact pk_in 3 _ (by decide) | exact pk_in 4 _ (by decide) | exact pk_in 5 _ (by decide) | exact pk_in 6 _ (by decide) | exact pk_in 7 _ (by decide) | exact pk_in 8 _ (by decide) | exact pk_in 9 _ (by decide) | exact pk_in 10 _ (by decide)), ?_⟩
        | with_reducible refine zMc (s_rowAt ht D hN (by omega) _ _ (d := d - 1)) (by omega) (Nat.le_refl _) ?_
        | with_reducible refine zMc (s_cartOn ht D hN (by omega) _ (d := d - 1)) (by omega) (Nat.le_refl _) ?_
        | with_reducible refine zMc (s_maySend ht D hN hL (by omega) _ (d := d - 1)) (by omega) (Nat.le_refl _) ?_
        | refine ⟨fun _ => ?_, fun _ => ?_⟩
        | fail)
    · rename_i c1
      refine ⟨Nat.le_refl _, ?_⟩
      show _ = _
      simp [mSe, c1]
    · rename_i c1 c2
      have c2 : rMs s.2.1 0 = true := by simpa [zbi_eq0] using c2
      obtain ⟨k, hk, e⟩ := rMs_first c2
      rw [e]
      repeat' (first
          | refine zGr_m1.mpr ?_
          | refine zGr_m9.mpr ?_
          | refine zGr_m14.mpr ?_
          | refine zGr_m16.mpr ?_
          | refine zGi_m0.mpr ?_
          | refine zGi_m2.mpr ?_
          | refine zGi_m3.mpr ?_
          | refine zGi_m4.mpr ?_
          | refine zGi_m5.mpr ?_
          | refine zGi_m6.mpr ?_
          | refine zGi_m7.mpr ?_
          | refine zGi_m8.mpr ?_
          | refine zGi_m10.mpr ?_
          | refine zGi_m11.mpr ?_
          | refine zGi_m12.mpr ?_
          | refine zGi_m13.mpr ?_
          | refine zGi_m15.mpr ?_
          | refine zGi_m17.mpr ?_
          | refine (zPf_m0 D).mpr ?_
          | refine (zPf_m2 D).mpr ?_
          | refine (zPf_m3 D).mpr ?_
          | refine (zPf_m4 D).mpr ?_
          | refine (zPf_m5 D).mpr ?_
          | refine (zPf_m6 D).mpr ?_
          | refine (zPf_m7 D).mpr ?_
          | refine (zPf_m8 D).mpr ?_
          | refine (zPf_m10 D).mpr ?_
          | refine (zPf_m11 D).mpr ?_
          | refine (zPf_m12 D).mpr ?_
          | refine (zPf_m13 D).mpr ?_
          | refine (zPf_m15 D).mpr ?_
          | refine (zPf_m17 D).mpr ?_
          | refine (zAi_all D).mpr ⟨(by first | exact pk_in 0 _ (by decide) | exact pk_in 1 _ (by decide) | exact pk_in 2 _ (by decide) | exact pk_in 3 _ (by decide) | exact pk_in 4 _ (by decide) | exact pk_in 5 _ (by decide) | exact pk_in 6 _ (by decide) | exact pk_in 7 _ (by decide) | exact pk_in 8 _ (by decide) | exact pk_in 9 _ (by decide) | exact pk_in 10 _ (by decide)), ?_⟩
          | refine (zSt1_all D).mpr ⟨(by first | exact pk_in 0 _ (by decide) | exact pk_in 1 _ (by decide) | exact pk_in 2 _ (by decide) | exact pk_in 3 _ (by decide) | exact pk_in 4 _ (by decide) | exact pk_in 5 _ (by decide) | exact pk_in 6 _ (by decide) | exact pk_in 7 _ (by decide) | exact pk_in 8 _ (by decide) | exact pk_in 9 _ (by decide) | exact pk_in 10 _ (by decide)), ?_⟩
          | with_reducible refine zMc (s_c ht D _ _ (zvl_d _ (by decide)) (by omega) (d := d - 1)) (by omega) (Nat.le_refl _) ?_
          | with_reducible refine zMcV (s_set ht D _ _ (zvl_d _ (by decide)) (by omega) (d := d - 1)) (by omega) (Nat.le_refl _) ?_
          | refine ⟨fun _ => ?_, fun _ => ?_⟩
          | fail)
      all_goals
        rename_i c3
        refine ⟨Nat.le_refl _, ?_⟩
        show _ = _
        simp only [zl_0, zl_1, zl_2, zl_3, zl_4, zl_5, zl_6, zl_7, zl_8, zl_9, zl_10, zl_11, zl_37, zl_40, zl_60, zl_99, zl_411] at c3 ⊢
        simp [mSe, Decidable.not_not.mp c1, c2, e, nI_clamp (show k < 2 ^ 31 by omega)]
        simp_all
    · rename_i c1 c2
      refine ⟨Nat.le_refl _, ?_⟩
      show _ = _
      have c2 : rMs s.2.1 0 = false := by simpa [zbi_eq0] using c2
      simp [mSe, Decidable.not_not.mp c1, c2]
end ZM7
