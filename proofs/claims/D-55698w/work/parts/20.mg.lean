/-! the model: reason, append, character -/
def mRt (s : zMS) (x : Int32) : Int32 := if !zbt x 0 1 then 1 else if (if x = 0 then s.1 5 else s.1 7) = 0 then 2 else 0
def mRv (s : zMS) (x b : Int32) : Int32 := if mRt s x = 0 then (if x = 0 then (if b = 0 then s.1 5 else s.1 6) else (if b = 0 then s.1 7 else s.1 8)) else 0
section ZMG
variable {l : Launch} {G : zG} {h : zH} {A : zMA} {s : zMS} {d : Nat}
theorem zMf_ne (s : zMS) (k j : Nat) (v : Int32) (hkj : ¬ j = k) : (zMf s k v).1 j = s.1 j := if_neg hkj
theorem zMf_eq (s : zMS) (k : Nat) (v : Int32) : (zMf s k v).1 k = v := if_pos rfl
theorem s_reason (ht : l.stackTraces = false) (D : zMD G A) (hd : 1 ≤ d) (x b : Int32) : zCt l G d MX3_reason [.ref A.1, .int x, .int b] (zMh h A s) 0 (zIr (mRv s x b) (zMh h A (zMf s 0 (mRt s x)))) := by
  refine zCt.of kX3_reason ht (by simp [Value.category]) (Nat.le_of_ble_eq_true rfl) ?_
  refine b_X3_reason_0 _ _ _ (zCall.P (s_in ht (d := d - 1)) (by omega) (Nat.le_refl _) ?_)
  cases hb : zbt x 0 1
  · refine ⟨fun c => absurd rfl c, fun _ => (zPf_m0 D).mpr (zGi_m0.mpr ⟨fun c => absurd c (by rw [zMf_eq]; decide), fun _ => ⟨Nat.le_refl _, ?_, ?_⟩⟩)⟩
    · simp [mRv, mRt, hb]
    · simp [mRt, hb]
  · refine ⟨fun _ => ?_, fun c => absurd (fun e => by cases e) c⟩
    repeat' (first
        | refine zGr_m1.mpr ?_
        | refine zGr_m9.mpr ?_
        | refine zGr_m14.mpr ?_
        | refine zGr_m16.mpr ?_
        | refine zGi_m0.mpr ?_
        | refine zGi_m2.mpr ?_
        | refine zGi_m3.mpr ?_
        | refine zGi_m4.mpr ?_
        | refine zGi_m5.mpr ?_
        | refine zGi_m6.mpr ?_
        | refine zGi_m7.mpr ?_
        | refine zGi_m8.mpr ?_
        | refine zGi_m10.mpr ?_
        | refine zGi_m11.mpr ?_
        | refine zGi_m12.mpr ?_
        | refine zGi_m13.mpr ?_
        | refine zGi_m15.mpr ?_
        | refine zGi_m17.mpr ?_
        | refine (zPf_m0 D).mpr ?_
        | refine (zPf_m2 D).mpr ?_
        | refine (zPf_m3 D).mpr ?_
        | refine (zPf_m4 D).mpr ?_
        | refine (zPf_m5 D).mpr ?_
        | refine (zPf_m6 D).mpr ?_
        | refine (zPf_m7 D).mpr ?_
        | refine (zPf_m8 D).mpr ?_
        | refine (zPf_m10 D).mpr ?_
        | refine (zPf_m11 D).mpr ?_
        | refine (zPf_m12 D).mpr ?_
        | refine (zPf_m13 D).mpr ?_
        | refine (zPf_m15 D).mpr ?_
        | refine (zPf_m17 D).mpr ?_
        | refine (zAi_all D).mpr ⟨(by first | exact pk_in 0 _ (by decide) | exact pk_in 1 _ (by decide) | exact pk_in 2 _ (by decide) | exact pk_in 3 _ (by decide) | exact pk_in 4 _ (by decide) | exact pk_in 5 _ (by decide) | exact pk_in 6 _ (by decide) | exact pk_in 7 _ (by decide) | exact pk_in 8 _ (by decide) | exact pk_in 9 _ (by decide) | exact pk_in 10 _ (by decide)), ?_⟩
        | refine (zSt1_all D).mpr ⟨(by first | exact pk_in 0 _ (by decide) | exact pk_in 1 _ (by decide) | exact pk_in 2 _ (by decide) | exact pk_in 3 _ (by decide) | exact pk_in 4 _ (by decide) | exact pk_in 5 _ (by decide) | exact pk_in 6 _ (by decide) | exact pk_in 7 _ (by decide) | exact pk_in 8 _ (by decide) | exact pk_in 9 _ (by decide) | exact pk_in 10 _ (by decide)), ?_⟩
        | refine ⟨fun _ => ?_, fun _ => ?_⟩
        | fail)
    all_goals
      simp only [zMf_eq] at *
      first
        | (exfalso; simp_all; done)
        | (refine ⟨Nat.le_refl _, ?_, ?_⟩ <;> simp_all [mRv, mRt, zMf, zuf])
def mAp (s : zMS) (x : Int32) (n : Nat) : zMS :=
  if !zbt x 32 126 then zMf s 0 1 else if n = 60 then zMf s 0 2 else zMf (zMi (zMf s 0 0) n (zch x)) 10 (nI (n + 1))
theorem s_append (ht : l.stackTraces = false) (D : zMD G A) (hd : 1 ≤ d) (x : Int32) (n : Nat) (hn : s.1 10 = nI n) (hn60 : n ≤ 60) : zCt l G d MX3_append [.ref A.1, .int x] (zMh h A s) 0 (zIr (if !zbt x 32 126 || n == 60 then 0 else nI (n + 1)) (zMh h A (mAp s x n))) := by
  refine zCt.of kX3_append ht (by simp [Value.category]) (Nat.le_of_ble_eq_true rfl) ?_
  refine b_X3_append_0 _ _ (zCall.P (s_in ht (d := d - 1)) (by omega) (Nat.le_refl _) ?_)
  cases hb : zbt x 32 126
  · refine ⟨fun c => absurd rfl c, fun _ => (zPf_m0 D).mpr (zGi_m0.mpr ⟨fun c => absurd c (by rw [zMf_eq]; decide), fun _ => ⟨Nat.le_refl _, ?_, ?_⟩⟩)⟩
    · simp
    · simp [mAp, hb]
  · refine ⟨fun _ => zGi_m10.mpr ?_, fun c => absurd (fun e => by cases e) c⟩
    rw [hn]
    refine ⟨fun c => ?_, fun c => ?_⟩
    · have h60 : ¬ n = 60 := fun e => c (by rw [e]; rfl)
      refine (zPf_m0 D).mpr (zGi_m0.mpr ⟨fun _ => ?_, fun c => absurd (zMf_eq _ _ _) c⟩)
      refine zGr_m9.mpr (zGi_m10.mpr ?_)
      rw [zMf_ne _ _ _ _ (by decide), hn, zch_e]
      refine (zSt1_inp D).mpr ⟨vp_in_nI (by omega) (by decide), zGi_m10.mpr ((zPf_m10 D).mpr (zGi_m10.mpr ⟨Nat.le_refl _, ?_, ?_⟩))⟩
      · rw [zMf_eq]
        show s.1 10 + 1 = _
        rw [hn, nI_1]; simp [h60]
      · rw [mAp, hb, nI_clamp (by omega)]
        show zMh h A (zMf _ 10 (s.1 10 + 1)) = _
        rw [hn, nI_1]; simp [h60]
    · have h60 : n = 60 := (nI_eq (by omega) (by omega)).mp (Decidable.not_not.mp c)
      refine (zPf_m0 D).mpr (zGi_m0.mpr ⟨fun c => absurd c (by rw [zMf_eq]; decide), fun _ => ⟨Nat.le_refl _, ?_, ?_⟩⟩)
      · simp [h60]
      · simp [mAp, hb, h60]
theorem s_character (ht : l.stackTraces = false) (D : zMD G A) (hd : 1 ≤ d) (x : Int32) (n : Nat) (hn : s.1 17 = nI n) (hn3 : n ≤ 300) (hch : ∀ i, i < n → zch (s.2.2.2.2 i) = s.2.2.2.2 i) : zCt l G d MX3_character [.ref A.1, .int x] (zMh h A s) 0 (zIr (if zbt x 0 (s.1 17 - 1) then s.2.2.2.2 x.toNatClampNeg else 0) (zMh h A (zMf s 0 (zbi (!zbt x 0 (s.1 17 - 1)))))) := by
  refine zCt.of kX3_character ht (by simp [Value.category]) (Nat.le_of_ble_eq_true rfl) ?_
  refine b_X3_character_0 _ _ (zGi_m17.mpr (zCall.P (s_in ht (d := d - 1)) (by omega) (Nat.le_refl _) ?_))
  refine zMc (s_isThere ht D _ (d := d - 1)) (by omega) (Nat.le_refl _) ?_
  cases hb : zbt x 0 (s.1 17 - 1)
  · exact ⟨fun _ => ⟨Nat.le_refl _, rfl, rfl⟩, fun c => absurd rfl c⟩
  · refine ⟨fun c => absurd c (by decide), fun _ => ?_⟩
    have hk : ∃ k, k < n ∧ x = nI k := by
      cases n with
      | zero =>
        exfalso
        rw [hn] at hb
        simp only [zbt, Bool.and_eq_true, decide_eq_true_eq] at hb
        have := Int32.le_trans hb.1 hb.2
        exact absurd this (by decide)
      | succ m =>
        rw [hn, nI_pred] at hb
        obtain ⟨k, -, h2, e⟩ := zbt_nI (a := 0) (n := m) (by omega) (by omega) hb
        exact ⟨k, by omega, e⟩
    obtain ⟨k, hk, rfl⟩ := hk
    refine zGr_m16.mpr ((zAi_lin D).mpr ⟨vp_in_nI (by omega) (by decide), ?_, Nat.le_refl _, rfl, rfl⟩)
    rw [nI_clamp (by omega)]
    have := hch k hk
    show narrow .char (.int (s.2.2.2.2 k)) = .int (s.2.2.2.2 k)
    rw [zch_e, this]
end ZMG
