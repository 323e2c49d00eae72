/-! the model: more look-ups with loops -/
def rNcn (r : Nat → Int32) : Nat → Nat → Nat
  | _, 0 => 0
  | sp, j + 1 => (if rNob r sp then 1 else 0) + rNcn r (sp + 1) j
theorem rNo_cases (r : Nat → Int32) (hN : rN r ≤ 40) : ∀ j sp, (rNo r sp j = -1 ∧ rNcn r sp j = 0) ∨ ∃ q k, sp ≤ q ∧ q < sp + j ∧ rNob r q = true ∧ k < rN r ∧ rNo r sp j = nI k ∧ rc r k 3 = nI q ∧ rNcn r sp j = 1 + rNcn r (q + 1) (sp + j - (q + 1))
  | 0, sp => Or.inl ⟨rfl, rfl⟩
  | j + 1, sp => by
    rw [rNo, rNcn]
    by_cases hb : rNob r sp = true
    · rw [if_pos hb, if_pos hb]
      rcases rCo_cases r (nI sp) with e | ⟨k, hk, hk2, e⟩
      · exfalso; simp [rNob, e] at hb
      · simp only [rCob, Bool.and_eq_true, beq_iff_eq] at hk2
        exact Or.inr ⟨sp, k, Nat.le_refl _, by omega, hb, hk, e, hk2.2, by rw [show sp + (j + 1) - (sp + 1) = j by omega]⟩
    · rw [if_neg hb, if_neg hb, Nat.zero_add]
      rcases rNo_cases r hN j (sp + 1) with h | ⟨q, k, h1, h2, h3, h4, h5, h6, h7⟩
      · exact Or.inl h
      · exact Or.inr ⟨q, k, by omega, by omega, h3, h4, h5, h6, by rw [h7, show sp + 1 + j - (q + 1) = sp + (j + 1) - (q + 1) by omega]⟩
section ZMD
variable {l : Launch} {G : zG} {h : zH} {A : zMA} {s : zMS} {d : Nat}
theorem s_noses (ht : l.stackTraces = false) (D : zMD G A) (hN : rOk s.2.1) (hS : rSk s.2.1) (hd : 4 ≤ d) : zCt l G d MX3_noses [.ref A.1] (zMh h A s) 0 (zIr (nI (rNcn s.2.1 0 (rSp s.2.1 - 1))) (zMh h A (zMf s 0 0))) := by
  refine zCt.of kX3_noses ht (by simp [Value.category]) (Nat.le_of_ble_eq_true rfl) ?_
  have hN2 := hN.2
  obtain ⟨hS1, hS2⟩ := hS
  refine b_X3_noses_0 _ ((zPf_m0 D).mpr ?_)
  refine zMc (s_nose (s := zMf s 0 0) ht D hN (by omega) _ hS1 hS2 0 rfl (by omega) (d := d - 1)) (by omega) (Nat.le_refl _) ?_
  have H : ∀ j sp m, sp + j = rSp s.2.1 - 1 → ∀ v, v = m + rNcn s.2.1 sp j → zV l G d 0 MX3_noses (zIr (nI v) (zMh h A (zMf s 0 0))) 13 [some (.ref A.1), some (.int (nI m)), some (.int (rNo s.2.1 sp j))] [] (zMh h A (zMf s 0 0)) 0 := by
    intro j
    induction j using Nat.strongRecOn with
    | ind j ih =>
      intro sp m hj v hv
      subst hv
      rcases rNo_cases s.2.1 hN2 j sp with ⟨e1, e2⟩ | ⟨q, k, h1, h2, h3, h4, h5, h6, h7⟩
      · rw [e1, e2]
        exact b_X3_noses_13 _ _ _ ⟨fun _ => ⟨Nat.le_refl _, rfl, rfl⟩, fun c => absurd rfl c⟩
      · rw [h5, h7]
        refine b_X3_noses_13 _ _ _ ⟨fun c => absurd c (zn1 (by omega)), fun _ => ?_⟩
        repeat' (first
            | refine zGr_m1.mpr ?_
            | refine zGr_m9.mpr ?_
            | refine zGr_m14.mpr ?_
            | refine zGr_m16.mpr ?_
            | refine zGi_m0.mpr ?_
            | refine zGi_m2.mpr ?_
            | refine zGi_m3.mpr ?_
            | refine zGi_m4.mpr ?_
            | refine zGi_m5.mpr ?_
            | refine zGi_m6.mpr ?_
            | refine zGi_m7.mpr ?_
            | refine zGi_m8.mpr ?_
            | refine zGi_m10.mpr ?_
            | refine zGi_m11.mpr ?_
            | refine zGi_m12.mpr ?_
            | refine zGi_m13.mpr ?_
            | refine zGi_m15.mpr ?_
            | refine zGi_m17.mpr ?_
            | refine (zPf_m0 D).mpr ?_
            | refine (zPf_m2 D).mpr ?_
            | refine (zPf_m3 D).mpr ?_
            | refine (zPf_m4 D).mpr ?_
            | refine (zPf_m5 D).mpr ?_
            | refine (zPf_m6 D).mpr ?_
            | refine (zPf_m7 D).mpr ?_
            | refine (zPf_m8 D).mpr ?_
            | refine (zPf_m10 D).mpr ?_
            | refine (zPf_m11 D).mpr ?_
            | refine (zPf_m12 D).mpr ?_
            | refine (zPf_m13 D).mpr ?_
            | refine (zPf_m15 D).mpr ?_
            | refine (zPf_m17 D).mpr ?_
            | refine (zAi_all D).mpr ⟨(by first | exact pk_in 0 _ (by decide) | exact pk_in 1 _ (by decide) | exact pk_in 2 _ (by decide) | exact pk_in 3 _ (by decide) | exact pk_in 4 _ (by decide) | exact pk_in 5 _ (by decide) | exact pk_in 6 _ (by decide) | exact pk_in 7 _ (by decide) | exact pk_in 8 _ (by decide) | exact pk_in 9 _ (by decide) | exact pk_in 10 _ (by decide)), ?_⟩
            | refine (zSt1_all D).mpr ⟨(by first | exact pk_in 0 _ (by decide) | exact pk_in 1 _ (by decide) | exact pk_in 2 _ (by decide) | exact pk_in 3 _ (by decide) | exact pk_in 4 _ (by decide) | exact pk_in 5 _ (by decide) | exact pk_in 6 _ (by decide) | exact pk_in 7 _ (by decide) | exact pk_in 8 _ (by decide) | exact pk_in 9 _ (by decide) | exact pk_in 10 _ (by decide)), ?_⟩
            | with_reducible refine zMc (s_c ht D _ _ (zvl_d _ (by decide)) (by omega) (d := d - 1)) (by omega) (Nat.le_refl _) ?_
            | refine ⟨fun _ => ?_, fun _ => ?_⟩
            | fail)
        simp only [zl_0, zl_1, zl_2, zl_3, zl_4, zl_5, zl_6, zl_7, zl_8, zl_9, zl_10, zl_11, zl_37, zl_40, zl_60, zl_99, zl_411, zMf_2]
        rw [h6]
        refine zMc (s_nose (s := zMf s 0 0) ht D hN (by omega) _ hS1 hS2 (q + 1) (nI_1 q) (by omega) (d := d - 1)) (by omega) (Nat.le_refl _) ?_
        rw [nI_1]
        have e3 : rSp s.2.1 - 1 - (q + 1) = sp + j - (q + 1) := by omega
        show zV l G d 0 MX3_noses _ 13 [_, _, some (.int (rNo s.2.1 (q + 1) (rSp s.2.1 - 1 - (q + 1))))] [] _ 0
        rw [e3]
        exact ih _ (by omega) (q + 1) (m + 1) (by omega) _ (by omega)
  have := H (rSp s.2.1 - 1) 0 0 (by omega) _ rfl
  rw [Nat.zero_add] at this
  exact this
theorem s_isThereX (ht : l.stackTraces = false) (D : zMD G A) (x : Int32) (hx : x = 0 ∨ x = 1) : zCt l G d MX3_isThere [.ref A.1, .int x] (zMh h A s) 0 (zIr x (zMh h A (zMf s 0 (1 - x)))) := by
  rcases hx with rfl | rfl
  · exact s_isThere0 ht D
  · exact s_isThere1 ht D
theorem z10 : (1 : Int32) - 0 = 1 := rfl
theorem z11 : (1 : Int32) - 1 = 0 := rfl
def rPab (r : Nat → Int32) (x : Int32) (k : Nat) : Bool := rc r k 2 == 2 && rc r k 9 == x
def rPa (r : Nat → Int32) (x : Int32) : Int32 := zff (rPab r x) 0 (rN r)
theorem s_passed (ht : l.stackTraces = false) (D : zMD G A) (hN : rOk s.2.1) (hd : 2 ≤ d) (x : Int32) : zCt l G d MX3_passed [.ref A.1, .int x] (zMh h A s) 0 (zIr (zFo (rPa s.2.1 x)) (zMh h A (zMf s 0 (if rPa s.2.1 x = -1 then 1 else 0)))) := by
  refine zCt.of kX3_passed ht (by simp [Value.category]) (Nat.le_of_ble_eq_true rfl) ?_
  refine b_X3_passed_0 _ _ ?_
  have hN2 := hN.2
  have H := zInd (N := rN s.2.1) (P := fun k => rPa s.2.1 x = zff (rPab s.2.1 x) k (rN s.2.1 - k) → ∀ t0, zV l G d 0 MX3_passed (zIr (zFo (rPa s.2.1 x)) (zMh h A (zMf s 0 (if rPa s.2.1 x = -1 then 1 else 0)))) 2 [some (.ref A.1), some (.int x), some (.int (nI k))] [] (zMh h A (zMf s 0 t0)) 0) ?_ 0 (Nat.zero_le _) rfl (s.1 0)
  · rw [zMf_self] at H; exact H
  intro k hk ih hi t0
  refine b_X3_passed_2 _ _ _ (zLpM (s := zMf s 0 t0) D hN k hk (fun e => ?_) (fun lt => ?_))
  · have e9 : rPa s.2.1 x = -1 := by
      rw [hi, e]
      show zff _ _ (rN s.2.1 - rN s.2.1) = _
      rw [Nat.sub_self]; rfl
    refine (zPf_m0 D).mpr ⟨Nat.le_refl _, ?_, ?_⟩
    · rw [e9]; rfl
    · rw [e9, if_pos rfl, zMf_f]
  · have lt : k < rN s.2.1 := lt
    have z1 := zn1 (show k < 2 ^ 31 by omega)
    repeat' (first
        | refine zGr_m1.mpr ?_
        | refine zGr_m9.mpr ?_
        | refine zGr_m14.mpr ?_
        | refine zGr_m16.mpr ?_
        | refine zGi_m0.mpr ?_
        | refine zGi_m2.mpr ?_
        | refine zGi_m3.mpr ?_
        | refine zGi_m4.mpr ?_
        | refine zGi_m5.mpr ?_
        | refine zGi_m6.mpr ?_
        | refine zGi_m7.mpr ?_
        | refine zGi_m8.mpr ?_
        | refine zGi_m10.mpr ?_
        | refine zGi_m11.mpr ?_
        | refine zGi_m12.mpr ?_
        | refine zGi_m13.mpr ?_
        | refine zGi_m15.mpr ?_
        | refine zGi_m17.mpr ?_
        | refine (zPf_m0 D).mpr ?_
        | refine (zPf_m2 D).mpr ?_
        | refine (zPf_m3 D).mpr ?_
        | refine (zPf_m4 D).mpr ?_
        | refine (zPf_m5 D).mpr ?_
        | refine (zPf_m6 D).mpr ?_
        | refine (zPf_m7 D).mpr ?_
        | refine (zPf_m8 D).mpr ?_
        | refine (zPf_m10 D).mpr ?_
        | refine (zPf_m11 D).mpr ?_
        | refine (zPf_m12 D).mpr ?_
        | refine (zPf_m13 D).mpr ?_
        | refine (zPf_m15 D).mpr ?_
        | refine (zPf_m17 D).mpr ?_
        | refine (zAi_all D).mpr ⟨(by first | exact pk_in 0 _ (by decide) | exact pk_in 1 _ (by decide) | exact pk_in 2 _ (by decide) | exact pk_in 3 _ (by decide) | exact pk_in 4 _ (by decide) | exact pk_in 5 _ (by decide) | exact pk_in 6 _ (by decide) | exact pk_in 7 _ (by decide) | exact pk_in 8 _ (by decide) | exact pk_in 9 _ (by decide) | exact pk_in 10 _ (by decide)), ?_⟩
        | refine (zSt1_all D).mpr ⟨(by first | exact pk_in 0 _ (by decide) | exact pk_in 1 _ (by decide) | exact pk_in 2 _ (by decide) | exact pk_in 3 _ (by decide) | exact pk_in 4 _ (by decide) | exact pk_in 5 _ (by decide) | exact pk_in 6 _ (by decide) | exact pk_in 7 _ (by decide) | exact pk_in 8 _ (by decide) | exact pk_in 9 _ (by decide) | exact pk_in 10 _ (by decide)), ?_⟩
        | with_reducible refine zMc (s_c ht D _ _ (zvl_d _ (by decide)) (by omega) (d := d - 1)) (by omega) (Nat.le_refl _) ?_
        | with_reducible refine zMc (s_isThereX ht D _ (by decide) (d := d - 1)) (by omega) (Nat.le_refl _) ?_
        | refine ⟨fun _ => ?_, fun _ => ?_⟩
        | fail)
    all_goals first
      | (exfalso; simp_all; done)
      | (rw [nI_1, z10, zMf_f]; refine ih lt ?_ _; rw [hi, zff_f lt (by simp_all [rPab, zl_0, zl_1, zl_2, zl_3, zl_4, zl_5, zl_6, zl_7, zl_8, zl_9, zl_10, zl_11, zl_37, zl_40, zl_60, zl_99, zl_411, zMf_2])])
      | (have e9 : rPa s.2.1 x = nI k := by
           rw [hi, zff_t lt (by simp_all [rPab, zl_0, zl_1, zl_2, zl_3, zl_4, zl_5, zl_6, zl_7, zl_8, zl_9, zl_10, zl_11, zl_37, zl_40, zl_60, zl_99, zl_411, zMf_2])]
         refine ⟨Nat.le_refl _, ?_, ?_⟩
         · rw [e9, zFo, if_neg z1]
         · rw [e9, if_neg z1, z11, zMf_f])
def rMif (r : Nat → Int32) (b : Int32) (k : Nat) : Int32 := if (if b = -1 then 0 else rc r b.toNatClampNeg 5) < rc r k 5 then nI k else b
def rMi (r : Nat → Int32) : Int32 := zfo (rMif r) (-1) (rN r)
theorem zfo_ix {f : Int32 → Nat → Int32} (hf : ∀ b k, f b k = b ∨ f b k = nI k) : ∀ n, zfo f (-1) n = -1 ∨ ∃ k, k < n ∧ zfo f (-1) n = nI k
  | 0 => Or.inl rfl
  | n + 1 => by
    show f (zfo f (-1) n) n = -1 ∨ _
    rcases hf (zfo f (-1) n) n with e | e
    · rw [e]
      rcases zfo_ix hf n with e2 | ⟨k, hk, e2⟩
      · exact Or.inl e2
      · exact Or.inr ⟨k, by omega, by show f (zfo f (-1) n) n = _; rw [e, e2]⟩
    · exact Or.inr ⟨n, by omega, e⟩
theorem s_mildest (ht : l.stackTraces = false) (D : zMD G A) (hN : rOk s.2.1) (hd : 2 ≤ d) : zCt l G d MX3_mildest [.ref A.1] (zMh h A s) 0 (zIr (zFo (rMi s.2.1)) (zMh h A (zMf s 0 (if rMi s.2.1 = -1 then 1 else 0)))) := by
  refine zCt.of kX3_mildest ht (by simp [Value.category]) (Nat.le_of_ble_eq_true rfl) ?_
  refine b_X3_mildest_0 _ ?_
  have hN2 := hN.2
  have hf : ∀ b k, rMif s.2.1 b k = b ∨ rMif s.2.1 b k = nI k := fun b k => if h9 : (if b = -1 then 0 else rc s.2.1 b.toNatClampNeg 5) < rc s.2.1 k 5 then Or.inr (if_pos h9) else Or.inl (if_neg h9)
  refine zInd (N := rN s.2.1) (P := fun k => zV l G d 0 MX3_mildest (zIr (zFo (rMi s.2.1)) (zMh h A (zMf s 0 (if rMi s.2.1 = -1 then 1 else 0)))) 4 [some (.ref A.1), some (.int (zfo (rMif s.2.1) (-1) k)), some (.int (nI k))] [] (zMh h A s) 0) ?_ 0 (Nat.zero_le _)
  intro k hk ih
  refine b_X3_mildest_4 _ _ _ (zLpM D hN k hk (fun e => ?_) (fun lt => ?_))
  · subst e
    have e9 : zfo (rMif s.2.1) (-1) (rN s.2.1) = rMi s.2.1 := rfl
    rw [e9]
    by_cases h1 : rMi s.2.1 = -1
    · rw [if_pos h1, zFo, if_pos h1]
      exact ⟨fun _ => zMc (s_isThere0 ht D (d := d - 1)) (by omega) (Nat.le_refl _) ⟨fun _ => ⟨Nat.le_refl _, rfl, rfl⟩, fun c => absurd rfl c⟩, fun c => absurd h1 c⟩
    · rw [if_neg h1, zFo, if_neg h1]
      exact ⟨fun c => absurd c h1, fun _ => zMc (s_isThere1 ht D (d := d - 1)) (by omega) (Nat.le_refl _) ⟨fun c => absurd c (by decide), fun _ => ⟨Nat.le_refl _, rfl, rfl⟩⟩⟩
  · have ih := ih lt
    have e1 : zfo (rMif s.2.1) (-1) (k + 1) = rMif s.2.1 (zfo (rMif s.2.1) (-1) k) k := rfl
    rw [e1] at ih
    have hix := zfo_ix hf k
    generalize zfo (rMif s.2.1) (-1) k = b at ih hix ⊢
    rcases hix with rfl | ⟨j, hj, rfl⟩
    · repeat' (first
        | refine zGr_m1.mpr ?_
        | refine zGr_m9.mpr ?_
        | refine zGr_m14.mpr ?_
        | refine zGr_m16.mpr ?_
        | refine zGi_m0.mpr ?_
        | refine zGi_m2.mpr ?_
        | refine zGi_m3.mpr ?_
        | refine zGi_m4.mpr ?_
        | refine zGi_m5.mpr ?_
        | refine zGi_m6.mpr ?_
        | refine zGi_m7.mpr ?_
        | refine zGi_m8.mpr ?_
        | refine zGi_m10.mpr ?_
        | refine zGi_m11.mpr ?_
        | refine zGi_m12.mpr ?_
        | refine zGi_m13.mpr ?_
        | refine zGi_m15.mpr ?_
        | refine zGi_m17.mpr ?_
        | refine (zPf_m0 D).mpr ?_
        | refine (zPf_m2 D).mpr ?_
        | refine (zPf_m3 D).mpr ?_
        | refine (zPf_m4 D).mpr ?_
        | refine (zPf_m5 D).mpr ?_
        | refine (zPf_m6 D).mpr ?_
        | refine (zPf_m7 D).mpr ?_
        | refine (zPf_m8 D).mpr ?_
        | refine (zPf_m10 D).mpr ?_
        | refine (zPf_m11 D).mpr ?_
        | refine (zPf_m12 D).mpr ?_
        | refine (zPf_m13 D).mpr ?_
        | refine (zPf_m15 D).mpr ?_
        | refine (zPf_m17 D).mpr ?_
        | refine (zAi_all D).mpr ⟨(by first | exact pk_in 0 _ (by decide) | exact pk_in 1 _ (by decide) | exact pk_in 2 _ (by decide) | exact pk_in 3 _ (by decide) | exact pk_in 4 _ (by decide) | exact pk_in 5 _ (by decide) | exact pk_in 6 _ (by decide) | exact pk_in 7 _ (by decide) | exact pk_in 8 _ (by decide) | exact pk_in 9 _ (by decide) | exact pk_in 10 _ (by decide)), ?_⟩
        | refine (zSt1_all D).mpr ⟨(by first | exact pk_in 0 _ (by decide) | exact pk_in 1 _ (by decide) | exact pk_in 2 _ (by decide) | exact pk_in 3 _ (by decide) | exact pk_in 4 _ (by decide) | exact pk_in 5 _ (by decide) | exact pk_in 6 _ (by decide) | exact pk_in 7 _ (by decide) | exact pk_in 8 _ (by decide) | exact pk_in 9 _ (by decide) | exact pk_in 10 _ (by decide)), ?_⟩
        | with_reducible refine zMc (s_c ht D _ _ (zvl_d _ (by decide)) (by omega) (d := d - 1)) (by omega) (Nat.le_refl _) ?_
        | refine ⟨fun _ => ?_, fun _ => ?_⟩
        | fail)
      all_goals (rw [nI_1]; simp only [rMif] at ih; simp_all [zl_0, zl_1, zl_2, zl_3, zl_4, zl_5, zl_6, zl_7, zl_8, zl_9, zl_10, zl_11, zl_37, zl_40, zl_60, zl_99, zl_411, ← Int32.not_lt])
    · have z1 := zn1 (show j < 2 ^ 31 by omega)
      have z2 := nI_clamp (show j < 2 ^ 31 by omega)
      repeat' (first
          | refine zGr_m1.mpr ?_
          | refine zGr_m9.mpr ?_
          | refine zGr_m14.mpr ?_
          | refine zGr_m16.mpr ?_
          | refine zGi_m0.mpr ?_
          | refine zGi_m2.mpr ?_
          | refine zGi_m3.mpr ?_
          | refine zGi_m4.mpr ?_
          | refine zGi_m5.mpr ?_
          | refine zGi_m6.mpr ?_
          | refine zGi_m7.mpr ?_
          | refine zGi_m8.mpr ?_
          | refine zGi_m10.mpr ?_
          | refine zGi_m11.mpr ?_
          | refine zGi_m12.mpr ?_
          | refine zGi_m13.mpr ?_
          | refine zGi_m15.mpr ?_
          | refine zGi_m17.mpr ?_
          | refine (zPf_m0 D).mpr ?_
          | refine (zPf_m2 D).mpr ?_
          | refine (zPf_m3 D).mpr ?_
          | refine (zPf_m4 D).mpr ?_
          | refine (zPf_m5 D).mpr ?_
          | refine (zPf_m6 D).mpr ?_
          | refine (zPf_m7 D).mpr ?_
          | refine (zPf_m8 D).mpr ?_
          | refine (zPf_m10 D).mpr ?_
          | refine (zPf_m11 D).mpr ?_
          | refine (zPf_m12 D).mpr ?_
          | refine (zPf_m13 D).mpr ?_
          | refine (zPf_m15 D).mpr ?_
          | refine (zPf_m17 D).mpr ?_
          | refine (zAi_all D).mpr ⟨(by first | exact pk_in 0 _ (by decide) | exact pk_in 1 _ (by decide) | exact pk_in 2 _ (by decide) | exact pk_in 3 _ (by decide) | exact pk_in 4 _ (by decide) | exact pk_in 5 _ (by decide) | exact pk_in 6 _ (by decide) | exact pk_in 7 _ (by decide) | exact pk_in 8 _ (by decide) | exact pk_in 9 _ (by decide) | exact pk_in 10 _ (by decide)), ?_⟩
          | refine (zSt1_all D).mpr ⟨(by first | exact pk_in 0 _ (by decide) | exact pk_in 1 _ (by decide) | exact pk_in 2 _ (by decide) | exact pk_in 3 _ (by decide) | exact pk_in 4 _ (by decide) | exact pk_in 5 _ (by decide) | exact pk_in 6 _ (by decide) | exact pk_in 7 _ (by decide) | exact pk_in 8 _ (by decide) | exact pk_in 9 _ (by decide) | exact pk_in 10 _ (by decide)), ?_⟩
          | with_reducible refine zMc (s_c ht D _ _ (zvl_d _ (by decide)) (by omega) (d := d - 1)) (by omega) (Nat.le_refl _) ?_
          | refine ⟨fun _ => ?_, fun _ => ?_⟩
          | fail)
      all_goals (rw [nI_1]; simp only [rMif] at ih; simp_all [zl_0, zl_1, zl_2, zl_3, zl_4, zl_5, zl_6, zl_7, zl_8, zl_9, zl_10, zl_11, zl_37, zl_40, zl_60, zl_99, zl_411, ← Int32.not_lt])
def rHvf (r : Nat → Int32) (b : Int32) (k : Nat) : Int32 := if rc r k 2 ≤ 1 then (if b = -1 then nI k else if rc r b.toNatClampNeg 1 < rc r k 1 then nI k else b) else b
def rHv (r : Nat → Int32) : Int32 := zfo (rHvf r) (-1) (rN r)
theorem s_heaviest (ht : l.stackTraces = false) (D : zMD G A) (hN : rOk s.2.1) (hd : 3 ≤ d) : zCt l G d MX3_heaviest [.ref A.1] (zMh h A s) 0 (zIr (zFo (rHv s.2.1)) (zMh h A (zMf s 0 (if rHv s.2.1 = -1 then 1 else 0)))) := by
  refine zCt.of kX3_heaviest ht (by simp [Value.category]) (Nat.le_of_ble_eq_true rfl) ?_
  refine b_X3_heaviest_0 _ ?_
  have hN2 := hN.2
  have hf : ∀ b k, rHvf s.2.1 b k = b ∨ rHvf s.2.1 b k = nI k := fun b k => by
    simp only [rHvf]
    split
    · split
      · exact Or.inr rfl
      · split <;> simp
    · exact Or.inl rfl
  refine zInd (N := rN s.2.1) (P := fun k => zV l G d 0 MX3_heaviest (zIr (zFo (rHv s.2.1)) (zMh h A (zMf s 0 (if rHv s.2.1 = -1 then 1 else 0)))) 4 [some (.ref A.1), some (.int (zfo (rHvf s.2.1) (-1) k)), some (.int (nI k))] [] (zMh h A s) 0) ?_ 0 (Nat.zero_le _)
  intro k hk ih
  refine b_X3_heaviest_4 _ _ _ (zLpM D hN k hk (fun e => ?_) (fun lt => ?_))
  · subst e
    have e9 : zfo (rHvf s.2.1) (-1) (rN s.2.1) = rHv s.2.1 := rfl
    rw [e9]
    by_cases h1 : rHv s.2.1 = -1
    · rw [if_pos h1, zFo, if_pos h1]
      exact ⟨fun _ => zMc (s_isThere0 ht D (d := d - 1)) (by omega) (Nat.le_refl _) ⟨fun _ => ⟨Nat.le_refl _, rfl, rfl⟩, fun c => absurd rfl c⟩, fun c => absurd h1 c⟩
    · rw [if_neg h1, zFo, if_neg h1]
      exact ⟨fun c => absurd c h1, fun _ => zMc (s_isThere1 ht D (d := d - 1)) (by omega) (Nat.le_refl _) ⟨fun c => absurd c (by decide), fun _ => ⟨Nat.le_refl _, rfl, rfl⟩⟩⟩
  · have ih := ih lt
    have e1 : zfo (rHvf s.2.1) (-1) (k + 1) = rHvf s.2.1 (zfo (rHvf s.2.1) (-1) k) k := rfl
    rw [e1] at ih
    have hix := zfo_ix hf k
    generalize zfo (rHvf s.2.1) (-1) k = b at ih hix ⊢
    rcases hix with rfl | ⟨j, hj, rfl⟩
    · repeat' (first
        | refine zGr_m1.mpr ?_
        | refine zGr_m9.mpr ?_
        | refine zGr_m14.mpr ?_
        | refine zGr_m16.mpr ?_
        | refine zGi_m0.mpr ?_
        | refine zGi_m2.mpr ?_
        | refine zGi_m3.mpr ?_
        | refine zGi_m4.mpr ?_
        | refine zGi_m5.mpr ?_
        | refine zGi_m6.mpr ?_
        | refine zGi_m7.mpr ?_
        | refine zGi_m8.mpr ?_
        | refine zGi_m10.mpr ?_
        | refine zGi_m11.mpr ?_
        | refine zGi_m12.mpr ?_
        | refine zGi_m13.mpr ?_
        | refine zGi_m15.mpr ?_
        | refine zGi_m17.mpr ?_
        | refine (zPf_m0 D).mpr ?_
        | refine (zPf_m2 D).mpr ?_
        | refine (zPf_m3 D).mpr ?_
        | refine (zPf_m4 D).mpr ?_
        | refine (zPf_m5 D).mpr ?_
        | refine (zPf_m6 D).mpr ?_
        | refine (zPf_m7 D).mpr ?_
        | refine (zPf_m8 D).mpr ?_
        | refine (zPf_m10 D).mpr ?_
        | refine (zPf_m11 D).mpr ?_
        | refine (zPf_m12 D).mpr ?_
        | refine (zPf_m13 D).mpr ?_
        | refine (zPf_m15 D).mpr ?_
        | refine (zPf_m17 D).mpr ?_
        | refine (zAi_all D).mpr ⟨(by first | exact pk_in 0 _ (by decide) | exact pk_in 1 _ (by decide) | exact pk_in 2 _ (by decide) | exact pk_in 3 _ (by decide) | exact pk_in 4 _ (by decide) | exact pk_in 5 _ (by decide) | exact pk_in 6 _ (by decide) | exact pk_in 7 _ (by decide) | exact pk_in 8 _ (by decide) | exact pk_in 9 _ (by decide) | exact pk_in 10 _ (by decide)), ?_⟩
        | refine (zSt1_all D).mpr ⟨(by first | exact pk_in 0 _ (by decide) | exact pk_in 1 _ (by decide) | exact pk_in 2 _ (by decide) | exact pk_in 3 _ (by decide) | exact pk_in 4 _ (by decide) | exact pk_in 5 _ (by decide) | exact pk_in 6 _ (by decide) | exact pk_in 7 _ (by decide) | exact pk_in 8 _ (by decide) | exact pk_in 9 _ (by decide) | exact pk_in 10 _ (by decide)), ?_⟩
        | with_reducible refine zMc (s_c ht D _ _ (zvl_d _ (by decide)) (by omega) (d := d - 1)) (by omega) (Nat.le_refl _) ?_
        | with_reducible refine zMc (s_isHere ht D (by omega) _ (by omega) (d := d - 1)) (by omega) (Nat.le_refl _) ?_
        | refine ⟨fun _ => ?_, fun _ => ?_⟩
        | fail)
      all_goals (rw [nI_1]; simp only [rHvf] at ih; simp_all [zl_0, zl_1, zl_2, zl_3, zl_4, zl_5, zl_6, zl_7, zl_8, zl_9, zl_10, zl_11, zl_37, zl_40, zl_60, zl_99, zl_411, zbi_eq0, ← Int32.not_lt])
    · have z1 := zn1 (show j < 2 ^ 31 by omega)
      have z2 := nI_clamp (show j < 2 ^ 31 by omega)
      repeat' (first
          | refine zGr_m1.mpr ?_
          | refine zGr_m9.mpr ?_
          | refine zGr_m14.mpr ?_
          | refine zGr_m16.mpr ?_
          | refine zGi_m0.mpr ?_
          | refine zGi_m2.mpr ?_
          | refine zGi_m3.mpr ?_
          | refine zGi_m4.mpr ?_
          | refine zGi_m5.mpr ?_
          | refine zGi_m6.mpr ?_
          | refine zGi_m7.mpr ?_
          | refine zGi_m8.mpr ?_
          | refine zGi_m10.mpr ?_
          | refine zGi_m11.mpr ?_
          | refine zGi_m12.mpr ?_
          | refine zGi_m13.mpr ?_
          | refine zGi_m15.mpr ?_
          | refine zGi_m17.mpr ?_
          | refine (zPf_m0 D).mpr ?_
          | refine (zPf_m2 D).mpr ?_
          | refine (zPf_m3 D).mpr ?_
          | refine (zPf_m4 D).mpr ?_
          | refine (zPf_m5 D).mpr ?_
          | refine (zPf_m6 D).mpr ?_
          | refine (zPf_m7 D).mpr ?_
          | refine (zPf_m8 D).mpr ?_
          | refine (zPf_m10 D).mpr ?_
          | refine (zPf_m11 D).mpr ?_
          | refine (zPf_m12 D).mpr ?_
          | refine (zPf_m13 D).mpr ?_
          | refine (zPf_m15 D).mpr ?_
          | refine (zPf_m17 D).mpr ?_
          | refine (zAi_all D).mpr ⟨(by first | exact pk_in 0 _ (by decide) | exact pk_in 1 _ (by decide) | exact pk_in 2 _ (by decide) | exact pk_in 3 _ (by decide) | exact pk_in 4 _ (by decide) | exact pk_in 5 _ (by decide) | exact pk_in 6 _ (by decide) | exact pk_in 7 _ (by decide) | exact pk_in 8 _ (by decide) | exact pk_in 9 _ (by decide) | exact pk_in 10 _ (by decide)), ?_⟩
          | refine (zSt1_all D).mpr ⟨(by first | exact pk_in 0 _ (by decide) | exact pk_in 1 _ (by decide) | exact pk_in 2 _ (by decide) | exact pk_in 3 _ (by decide) | exact pk_in 4 _ (by decide) | exact pk_in 5 _ (by decide) | exact pk_in 6 _ (by decide) | exact pk_in 7 _ (by decide) | exact pk_in 8 _ (by decide) | exact pk_in 9 _ (by decide) | exact pk_in 10 _ (by decide)), ?_⟩
          | with_reducible refine zMc (s_c ht D _ _ (zvl_d _ (by decide)) (by omega) (d := d - 1)) (by omega) (Nat.le_refl _) ?_
          | with_reducible refine zMc (s_isHere ht D (by omega) _ (by omega) (d := d - 1)) (by omega) (Nat.le_refl _) ?_
          | refine ⟨fun _ => ?_, fun _ => ?_⟩
          | fail)
      all_goals (rw [nI_1]; simp only [rHvf] at ih; simp_all [zl_0, zl_1, zl_2, zl_3, zl_4, zl_5, zl_6, zl_7, zl_8, zl_9, zl_10, zl_11, zl_37, zl_40, zl_60, zl_99, zl_411, zbi_eq0, ← Int32.not_lt])
end ZMD
