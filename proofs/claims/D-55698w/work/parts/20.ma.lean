/-! the model: leaves, turnsRow, yields -/
def mLe (s : zMS) (x : Int32) : Bool × zMS :=
  if rGone s.2.1 x then (false, mRef s true 3 x)
  else
    let k := x.toNatClampNeg
    if rc s.2.1 k 2 = 1 then (false, mRef s true 6 (rc s.2.1 k 3))
    else
      let s1 := zMa s (11 + 10 * k + 2) 3
      let s2 := zMa s1 8 (s1.2.1 8 + 1)
      (true, zMf s2 4 (nI (zcnt (fun i => rwa s2.2.1 i (rc s2.2.1 k 0)) (rN s2.2.1))))
theorem rGone_f {r : Nat → Int32} (hN : rOk r) {x : Int32} (h : rGone r x = false) : ∃ k, k < rN r ∧ x = nI k := by
  simp only [rGone, Bool.or_eq_false_iff, Bool.not_eq_false'] at h
  exact zbt_in hN h.1
section ZMA
variable {l : Launch} {G : zG} {h : zH} {A : zMA} {s : zMS} {d : Nat}
theorem s_leaves (ht : l.stackTraces = false) (D : zMD G A) (hN : rOk s.2.1) (hd : 3 ≤ d) (x : Int32) : zCt l G d MX3_leaves [.ref A.1, .int x] (zMh h A s) 0 (zIr (zbi (mLe s x).1) (zMh h A (mLe s x).2)) := by
  refine zCt.of kX3_leaves ht (by simp [Value.category]) (Nat.le_of_ble_eq_true rfl) ?_
  have hN2 := hN.2
  refine b_X3_leaves_0 _ _ (zMc (s_isGone ht D hN (by omega) _ (d := d - 1)) (by omega) (Nat.le_refl _) ?_)
  cases hg : rGone s.2.1 x
  · obtain ⟨k, hk, rfl⟩ := rGone_f hN hg
    have z1 : (nI k).toNatClampNeg = k := nI_clamp (by omega)
    refine ⟨fun c => absurd rfl c, fun _ => ?_⟩
    simp only [mRef_f]
    refine zMc (s_isOn ht D (by omega) k (by omega) (d := d - 1)) (by omega) (Nat.le_refl _) ?_
    refine zMc (s_c ht D _ _ (zvl_d _ (by decide)) (by omega) (d := d - 1)) (by omega) (Nat.le_refl _) ?_
    by_cases h1 : rc s.2.1 k 2 = 1
    · rw [h1]
      refine zMc (s_refuses1 ht D (d := d - 1)) (by omega) (Nat.le_refl _) ⟨fun c => absurd c (by decide), fun _ => ⟨Nat.le_refl _, ?_, ?_⟩⟩
      · simp [mLe, hg, z1, h1, zbi]
      · simp [mLe, hg, z1, h1, zl_0, zl_1, zl_2, zl_3, zl_4, zl_5, zl_6, zl_7, zl_8, zl_9, zl_10, zl_11, zl_37, zl_40, zl_60, zl_99, zl_411]
    · rw [show (rc s.2.1 k 2 == 1) = false by simpa using h1]
      refine zMc (s_refuses0 ht D (d := d - 1)) (by omega) (Nat.le_refl _) ⟨fun _ => ?_, fun c => absurd rfl c⟩
      repeat' (first
          | refine zGr_m1.mpr ?_
          | refine zGr_m9.mpr ?_
          | refine zGr_m14.mpr ?_
          | refine zGr_m16.mpr ?_
          | refine zGi_m0.mpr ?_
          | refine zGi_m2.mpr ?_
          | refine zGi_m3.mpr ?_
          | refine zGi_m4.mpr ?_
          | refine zGi_m5.mpr ?_
          | refine zGi_m6.mpr ?_
          | refine zGi_m7.mpr ?_
          | refine zGi_m8.mpr ?_
          | refine zGi_m10.mpr ?_
          | refine zGi_m11.mpr ?_
          | refine zGi_m12.mpr ?_
          | refine zGi_m13.mpr ?_
          | refine zGi_m15.mpr ?_
          | refine zGi_m17.mpr ?_
          | refine (zPf_m0 D).mpr ?_
          | refine (zPf_m2 D).mpr ?_
          | refine (zPf_m3 D).mpr ?_
          | refine (zPf_m4 D).mpr ?_
          | refine (zPf_m5 D).mpr ?_
          | refine (zPf_m6 D).mpr ?_
          | refine (zPf_m7 D).mpr ?_
          | refine (zPf_m8 D).mpr ?_
          | refine (zPf_m10 D).mpr ?_
          | refine (zPf_m11 D).mpr ?_
          | refine (zPf_m12 D).mpr ?_
          | refine (zPf_m13 D).mpr ?_
          | refine (zPf_m15 D).mpr ?_
          | refine (zPf_m17 D).mpr ?_
          | refine (zAi_all D).mpr ⟨(by first | exact pk_in 0 _ (by decide) | exact pk_in 1 _ (by decide) | exact pk_in 2 _ (by decide) | exact pk_in 3 _ (by decide) | exact pk_in 4 _ (by decide) | exact pk_in 5 _ (by decide) | exact pk_in 6 _ (by decide) | exact pk_in 7 _ (by decide) | exact pk_in 8 _ (by decide) | exact pk_in 9 _ (by decide) | exact pk_in 10 _ (by decide)), ?_⟩
          | refine (zSt1_all D).mpr ⟨(by first | exact pk_in 0 _ (by decide) | exact pk_in 1 _ (by decide) | exact pk_in 2 _ (by decide) | exact pk_in 3 _ (by decide) | exact pk_in 4 _ (by decide) | exact pk_in 5 _ (by decide) | exact pk_in 6 _ (by decide) | exact pk_in 7 _ (by decide) | exact pk_in 8 _ (by decide) | exact pk_in 9 _ (by decide) | exact pk_in 10 _ (by decide)), ?_⟩
          | with_reducible refine zMc (s_c ht D _ _ (zvl_d _ (by decide)) (by omega) (d := d - 1)) (by omega) (Nat.le_refl _) ?_
          | with_reducible refine zMcV (s_set ht D _ _ (zvl_d _ (by decide)) (by omega) (d := d - 1)) (by omega) (Nat.le_refl _) ?_
          | refine ⟨fun _ => ?_, fun _ => ?_⟩
          | fail)
      simp only [zl_0, zl_1, zl_2, zl_3, zl_4, zl_5, zl_6, zl_7, zl_8, zl_9, zl_10, zl_11, zl_37, zl_40, zl_60, zl_99, zl_411]
      have hN' : rOk (zMa (zMa s (11 + 10 * k + 2) 3) 8 ((zMa s (11 + 10 * k + 2) 3).2.1 8 + 1)).2.1 := rOk_eq (by rw [zMa_lo _ _ _ _ (by omega), zMa_lo _ _ _ _ (by omega)]) hN
      refine zMc (s_rowMany ht D hN' (by omega) (d := d - 1)) (by omega) (Nat.le_refl _) ((zPf_m4 D).mpr ⟨Nat.le_refl _, ?_, ?_⟩)
      · simp [mLe, hg, z1, h1, zbi]
      · simp [mLe, hg, z1, h1]
  · refine ⟨fun _ => ⟨Nat.le_refl _, ?_, ?_⟩, fun c => absurd (fun e => by cases e) c⟩
    · simp [mLe, hg, zbi]
    · simp [mLe, hg]
def mTf (x : Int32) (s : zMS) (k : Nat) : zMS := if rwa s.2.1 k x then zMa s (11 + 10 * k + 8) (-(rc s.2.1 k 8)) else s
def mTR (x : Int32) (s : zMS) (n : Nat) : zMS := zfo (mTf x) s n
theorem mTR_lo (x : Int32) (s : zMS) (i : Nat) (hi : i < 11) : ∀ n, (mTR x s n).2.1 i = s.2.1 i
  | 0 => rfl
  | n + 1 => by
    show (mTf x (mTR x s n) n).2.1 i = _
    rw [mTf]
    split
    · rw [zMa_lo _ _ _ _ (by omega), mTR_lo x s i hi n]
    · exact mTR_lo x s i hi n
def mTw (s : zMS) (x : Int32) : Bool × zMS :=
  if !zbt x 0 1 then (false, mRef s true 1 x)
  else
    let n := zcnt (fun k => rwa s.2.1 k x) (rN s.2.1)
    if n < 2 then (false, mRef s true 7 (nI n))
    else
      let s1 := mTR x s (rN s.2.1)
      (true, zMf s1 4 (rRa s1.2.1 x 0))
theorem s_turnsRow (ht : l.stackTraces = false) (D : zMD G A) (hN : rOk s.2.1) (hd : 4 ≤ d) (x : Int32) : zCt l G d MX3_turnsRow [.ref A.1, .int x] (zMh h A s) 0 (zIr (zbi (mTw s x).1) (zMh h A (mTw s x).2)) := by
  refine zCt.of kX3_turnsRow ht (by simp [Value.category]) (Nat.le_of_ble_eq_true rfl) ?_
  have hN2 := hN.2
  have q1 : zcnt (fun k => rwa s.2.1 k x) (rN s.2.1) < 2 ^ 31 := by have := zcnt_le (fun k => rwa s.2.1 k x) (rN s.2.1); omega
  refine b_X3_turnsRow_0 _ _ (zMc (s_isOut ht D (by omega) _ _ _ (d := d - 1)) (by omega) (Nat.le_refl _) ?_)
  cases hb : zbt x 0 1
  · refine ⟨fun c => absurd c (by decide), fun _ => ⟨Nat.le_refl _, ?_, ?_⟩⟩
    · simp [mTw, hb, zbi]
    · simp [mTw, hb]
  · refine ⟨fun _ => ?_, fun c => absurd rfl c⟩
    simp only [Bool.not_true, mRef_f]
    refine zMc (s_rowMany ht D hN (by omega) (d := d - 1)) (by omega) (Nat.le_refl _) ?_
    refine pk_le 2 _ (fun c => ?_) (fun c => ?_) rfl rfl
    · refine zMc (s_refuses0 ht D (d := d - 1)) (by omega) (Nat.le_refl _) ⟨fun _ => ?_, fun c => absurd rfl c⟩
      have e9 : mTw s x = (true, zMf (mTR x s (rN s.2.1)) 4 (rRa (mTR x s (rN s.2.1)).2.1 x 0)) := by
        simp only [mTw, hb, Bool.not_true, if_neg (show ¬ zcnt (fun k => rwa s.2.1 k x) (rN s.2.1) < 2 by omega)]; rfl
      rw [e9]
      generalize zcnt (fun k => rwa s.2.1 k x) (rN s.2.1) = m at *
      refine zInd (N := rN s.2.1) (P := fun k => zV l G d 0 MX3_turnsRow (zIr (zbi true) (zMh h A (zMf (mTR x s (rN s.2.1)) 4 (rRa (mTR x s (rN s.2.1)).2.1 x 0)))) 42 [some (.ref A.1), some (.int x), some (.int (nI m)), some (.int (nI k))] [] (zMh h A (mTR x s k)) 0) ?_ 0 (Nat.zero_le _)
      intro k hk ih
      have hk9 : rN (mTR x s k).2.1 = rN s.2.1 := by simp only [rN, mTR_lo x s 0 (by omega) k]
      have hN' : rOk (mTR x s k).2.1 := rOk_eq (mTR_lo x s 0 (by omega) k) hN
      refine b_X3_turnsRow_42 _ _ _ _ (zLpM D hN' k (by omega) (fun e => ?_) (fun lt => ?_))
      · rw [hk9] at e; subst e
        exact zMc (s_rowAt ht D hN' (by omega) _ _ (d := d - 1)) (by omega) (Nat.le_refl _) ((zPf_m4 D).mpr ⟨Nat.le_refl _, rfl, rfl⟩)
      · rw [hk9] at lt
        have ih := ih lt
        have e1 : mTR x s (k + 1) = mTf x (mTR x s k) k := rfl
        rw [e1] at ih
        repeat' (first
            | refine zGr_m1.mpr ?_
            | refine zGr_m9.mpr ?_
            | refine zGr_m14.mpr ?_
            | refine zGr_m16.mpr ?_
            | refine zGi_m0.mpr ?_
            | refine zGi_m2.mpr ?_
            | refine zGi_m3.mpr ?_
            | refine zGi_m4.mpr ?_
            | refine zGi_m5.mpr ?_
            | refine zGi_m6.mpr ?_
            | refine zGi_m7.mpr ?_
            | refine zGi_m8.mpr ?_
            | refine zGi_m10.mpr ?_
            | refine zGi_m11.mpr ?_
            | refine zGi_m12.mpr ?_
            | refine zGi_m13.mpr ?_
            | refine zGi_m15.mpr ?_
            | refine zGi_m17.mpr ?_
            | refine (zPf_m0 D).mpr ?_
            | refine (zPf_m2 D).mpr ?_
            | refine (zPf_m3 D).mpr ?_
            | refine (zPf_m4 D).mpr ?_
            | refine (zPf_m5 D).mpr ?_
            | refine (zPf_m6 D).mpr ?_
            | refine (zPf_m7 D).mpr ?_
            | refine (zPf_m8 D).mpr ?_
            | refine (zPf_m10 D).mpr ?_
            | refine (zPf_m11 D).mpr ?_
            | refine (zPf_m12 D).mpr ?_
            | refine (zPf_m13 D).mpr ?_
            | refine (zPf_m15 D).mpr ?_
            | refine (zPf_m17 D).mpr ?_
            | refine (zAi_all D).mpr ⟨(by first | exact pk_in 0 _ (by decide) | exact pk_in 1 _ (by decide) | exact pk_in 2 _ (by decide) | exact pk_in 3 _ (by decide) | exact pk_in 4 _ (by decide) | exact pk_in 5 _ (by decide) | exact pk_in 6 _ (by decide) | exact pk_in 7 _ (by decide) | exact pk_in 8 _ (by decide) | exact pk_in 9 _ (by decide) | exact pk_in 10 _ (by decide)), ?_⟩
            | refine (zSt1_all D).mpr ⟨(by first | exact pk_in 0 _ (by decide) | exact pk_in 1 _ (by decide) | exact pk_in 2 _ (by decide) | exact pk_in 3 _ (by decide) | exact pk_in 4 _ (by decide) | exact pk_in 5 _ (by decide) | exact pk_in 6 _ (by decide) | exact pk_in 7 _ (by decide) | exact pk_in 8 _ (by decide) | exact pk_in 9 _ (by decide) | exact pk_in 10 _ (by decide)), ?_⟩
            | with_reducible refine zMc (s_c ht D _ _ (zvl_d _ (by decide)) (by omega) (d := d - 1)) (by omega) (Nat.le_refl _) ?_
            | with_reducible refine zMcV (s_set ht D _ _ (zvl_d _ (by decide)) (by omega) (d := d - 1)) (by omega) (Nat.le_refl _) ?_
            | with_reducible refine zMc (s_waitsAt ht D (by omega) k (d := d - 1) (by omega)) (by omega) (Nat.le_refl _) ?_
            | refine ⟨fun _ => ?_, fun _ => ?_⟩
            | fail)
        · rename_i c
          rw [nI_1]
          rw [mTf, if_neg (by simpa [zbi_eq0] using c)] at ih
          exact ih
        · rename_i c
          rw [nI_1]
          rw [mTf, if_pos (by simpa [zbi_eq0] using c)] at ih
          exact ih
    · refine zMc (s_refuses1 ht D (d := d - 1)) (by omega) (Nat.le_refl _) ⟨fun c => absurd c (by decide), fun _ => ⟨Nat.le_refl _, ?_, ?_⟩⟩
      · simp [mTw, hb, show zcnt (fun k => rwa s.2.1 k x) (rN s.2.1) < 2 by omega, zbi]
      · simp [mTw, hb, show zcnt (fun k => rwa s.2.1 k x) (rN s.2.1) < 2 by omega]
def mYi (g f : Nat) (s : zMS) (x : Int32) : Bool × zMS :=
  if rGone s.2.1 x then (false, mRef s true 3 x)
  else
    let k := x.toNatClampNeg
    if rc s.2.1 k 2 = 1 then (true, mMe g f (zMf (mTr g x s) 4 (nI (mTrn g x s))))
    else (false, mRef s true 8 (nI (rPl s.2.1 k)))
def mYok (g f : Nat) (s : zMS) (x : Int32) : Prop := rGone s.2.1 x = false → rc s.2.1 x.toNatClampNeg 2 = 1 → mTrc g x s ∧ mMeOk g f (zMf (mTr g x s) 4 (nI (mTrn g x s)))
theorem s_yields (ht : l.stackTraces = false) (D : zMD G A) (hN : rOk s.2.1) (hS : rSk s.2.1) (hd : 6 ≤ d) (g f : Nat) (x : Int32) (ho : mYok g f s x) : zCt l G d MX3_yields [.ref A.1, .int x] (zMh h A s) 0 (zIr (zbi (mYi g f s x).1) (zMh h A (mYi g f s x).2)) := by
  refine zCt.of kX3_yields ht (by simp [Value.category]) (Nat.le_of_ble_eq_true rfl) ?_
  have hN2 := hN.2
  refine b_X3_yields_0 _ _ (zMc (s_isGone ht D hN (by omega) _ (d := d - 1)) (by omega) (Nat.le_refl _) ?_)
  cases hg : rGone s.2.1 x
  · have ho := ho hg
    obtain ⟨k, hk, rfl⟩ := rGone_f hN hg
    have z1 : (nI k).toNatClampNeg = k := nI_clamp (by omega)
    rw [z1] at ho
    refine ⟨fun c => absurd rfl c, fun _ => ?_⟩
    simp only [mRef_f]
    refine zMc (s_isOn ht D (by omega) k (by omega) (d := d - 1)) (by omega) (Nat.le_refl _) ?_
    by_cases h1 : rc s.2.1 k 2 = 1
    · obtain ⟨o1, o2⟩ := ho h1
      rw [h1]
      refine ⟨fun _ => ?_, fun c => absurd (fun e => by cases e) c⟩
      refine zMc (s_placeOf ht D hN (by omega) k (by omega) (d := d - 1)) (by omega) (Nat.le_refl _) ?_
      refine zMc (s_refuses0 ht D (d := d - 1)) (by omega) (Nat.le_refl _) ⟨fun _ => ?_, fun c => absurd rfl c⟩
      refine zMc (s_turnsRun ht D hN (by omega) g _ o1 (d := d - 1)) (by omega) (Nat.le_refl _) ((zPf_m4 D).mpr ?_)
      have a0 : ∀ i, i < 10 → (zMf (mTr g (nI k) s) 4 (nI (mTrn g (nI k) s))).2.1 i = s.2.1 i := fun i hi => mTr_lo _ _ _ _ hi
      refine zMcV (s_mendsNoses ht D (rOk_eq (a0 0 (by omega)) hN) (rSk_eq (a0 4 (by omega)) hS) (by omega) g f o2 (d := d - 1)) (by omega) (Nat.le_refl _) ⟨Nat.le_refl _, ?_, ?_⟩
      · simp [mYi, hg, z1, h1, zbi]
      · simp [mYi, hg, z1, h1]
    · rw [show (rc s.2.1 k 2 == 1) = false by simpa using h1]
      refine ⟨fun c => absurd rfl c, fun _ => ?_⟩
      refine zMc (s_placeOf ht D hN (by omega) k (by omega) (d := d - 1)) (by omega) (Nat.le_refl _) ?_
      refine zMc (s_refuses1 ht D (d := d - 1)) (by omega) (Nat.le_refl _) ⟨fun c => absurd c (by decide), fun _ => ⟨Nat.le_refl _, ?_, ?_⟩⟩
      · simp [mYi, hg, z1, h1, zbi]
      · simp [mYi, hg, z1, h1]
  · refine ⟨fun _ => ⟨Nat.le_refl _, ?_, ?_⟩, fun c => absurd (fun e => by cases e) c⟩
    · simp [mYi, hg, zbi]
    · simp [mYi, hg]
end ZMA
