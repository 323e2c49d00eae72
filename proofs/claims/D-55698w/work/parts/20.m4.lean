/-! the model: runs and noses -/
theorem zff_cases (p : Nat → Bool) : ∀ j k, zff p k j = -1 ∨ ∃ i, k ≤ i ∧ i < k + j ∧ p i = true ∧ (∀ i', k ≤ i' → i' < i → p i' = false) ∧ zff p k j = nI i
  | 0, k => Or.inl rfl
  | j + 1, k => by
    rw [zff]
    by_cases h : p k = true
    · rw [if_pos h]; exact Or.inr ⟨k, Nat.le_refl _, by omega, h, fun i' a b => by omega, rfl⟩
    · rw [if_neg h]
      rcases zff_cases p j (k + 1) with e | ⟨i, h1, h2, h3, h4, e⟩
      · exact Or.inl e
      · refine Or.inr ⟨i, by omega, by omega, h3, fun i' a b => ?_, e⟩
        by_cases e9 : i' = k
        · subst e9; simpa using h
        · exact h4 i' (by omega) b
theorem zn1 {k : Nat} (hk : k < 2 ^ 31) : ¬ nI k = -1 := fun e => by
  have := congrArg Int32.toInt e
  rw [nI_toInt hk] at this
  have h2 : (-1 : Int32).toInt = -1 := by decide
  omega
theorem rCo_cases (r : Nat → Int32) (x : Int32) : rCo r x = -1 ∨ ∃ k, k < rN r ∧ rCob r x k = true ∧ rCo r x = nI k := by
  rcases zff_cases (rCob r x) (rN r) 0 with e | ⟨i, -, h2, h3, -, e⟩
  · exact Or.inl e
  · exact Or.inr ⟨i, by omega, h3, e⟩
def rBe (r : Nat → Int32) (k : Nat) : Int32 :=
  let o := rCo r (if rc r k 4 = 1 then rc r k 3 - 1 else rc r k 3 + 1)
  if o = -1 then -1 else if rc r o.toNatClampNeg 4 = rc r k 4 then o else -1
theorem rBe_cases (r : Nat → Int32) (hN : rN r ≤ 40) (k : Nat) : rBe r k = -1 ∨ ∃ j, j < rN r ∧ rBe r k = nI j ∧ rc r j 2 = 1 ∧ rc r j 4 = rc r k 4 ∧ rc r j 3 = (if rc r k 4 = 1 then rc r k 3 - 1 else rc r k 3 + 1) := by
  simp only [rBe]
  rcases rCo_cases r (if rc r k 4 = 1 then rc r k 3 - 1 else rc r k 3 + 1) with e | ⟨j, hj, hb, e⟩
  · left; rw [e]; rfl
  · rw [e, if_neg (zn1 (by omega)), nI_clamp (by omega)]
    by_cases h4 : rc r j 4 = rc r k 4
    · rw [if_pos h4]
      simp only [rCob, Bool.and_eq_true, beq_iff_eq] at hb
      exact Or.inr ⟨j, hj, rfl, hb.1, h4, hb.2⟩
    · rw [if_neg h4]; exact Or.inl rfl
section ZM4
variable {l : Launch} {G : zG} {h : zH} {A : zMA} {s : zMS} {d : Nat}
theorem s_behind (ht : l.stackTraces = false) (D : zMD G A) (hN : rOk s.2.1) (hd : 3 ≤ d) (k : Nat) (hk : k ≤ 40) : zCt l G d MX3_behind [.ref A.1, .int (nI k)] (zMh h A s) 0 (zIr (rBe s.2.1 k) (zMh h A s)) := by
  refine zCt.of kX3_behind ht (by simp [Value.category]) (Nat.le_of_ble_eq_true rfl) ?_
  have hN2 := hN.2
  refine b_X3_behind_0 _ _ ?_
  repeat' (first
      | refine zGr_m1.mpr ?_
      | refine zGr_m9.mpr ?_
      | refine zGr_m14.mpr ?_
      | refine zGr_m16.mpr ?_
      | refine zGi_m0.mpr ?_
      | refine zGi_m2.mpr ?_
      | refine zGi_m3.mpr ?_
      | refine zGi_m4.mpr ?_
      | refine zGi_m5.mpr ?_
      | refine zGi_m6.mpr ?_
      | refine zGi_m7.mpr ?_
      | refine zGi_m8.mpr ?_
      | refine zGi_m10.mpr ?_
      | refine zGi_m11.mpr ?_
      | refine zGi_m12.mpr ?_
      | refine zGi_m13.mpr ?_
      | refine zGi_m15.mpr ?_
      | refine zGi_m17.mpr ?_
      | refine (zPf_m0 D).mpr ?_
      | refine (zPf_m2 D).mpr ?_
      | refine (zPf_m3 D).mpr ?_
      | refine (zPf_m4 D).mpr ?_
      | refine (zPf_m5 D).mpr ?_
      | refine (zPf_m6 D).mpr ?_
      | refine (zPf_m7 D).mpr ?_
      | refine (zPf_m8 D).mpr ?_
      | refine (zPf_m10 D).mpr ?_
      | refine (zPf_m11 D).mpr ?_
      | refine (zPf_m12 D).mpr ?_
      | refine (zPf_m13 D).mpr ?_
      | refine (zPf_m15 D).mpr ?_
      | refine (zPf_m17 D).mpr ?_
      | refine (zAi_all D).mpr ⟨(by first | exact pk_in 0 _ (by decide) | exact pk_in 1 _ (by decide) | exact pk_in 2 _ (by decide) | exact pk_in 3 _ (by decide) | exact pk_in 4 _ (by decide) | exact pk_in 5 _ (by decide) | exact pk_in 6 _ (by decide) | exact pk_in 7 _ (by decide) | exact pk_in 8 _ (by decide) | exact pk_in 9 _ (by decide) | exact pk_in 10 _ (by decide)), ?_⟩
      | refine (zSt1_all D).mpr ⟨(by first | exact pk_in 0 _ (by decide) | exact pk_in 1 _ (by decide) | exact pk_in 2 _ (by decide) | exact pk_in 3 _ (by decide) | exact pk_in 4 _ (by decide) | exact pk_in 5 _ (by decide) | exact pk_in 6 _ (by decide) | exact pk_in 7 _ (by decide) | exact pk_in 8 _ (by decide) | exact pk_in 9 _ (by decide) | exact pk_in 10 _ (by decide)), ?_⟩
      | with_reducible refine zMc (s_c ht D _ _ (zvl_d _ (by decide)) (by omega) (d := d - 1)) (by omega) (Nat.le_refl _) ?_
      | with_reducible refine zMc (s_cartOn ht D hN (by omega) _ (d := d - 1)) (by omega) (Nat.le_refl _) ?_
      | refine ⟨fun _ => ?_, fun _ => ?_⟩
      | fail)
  · rename_i c1 c2
    refine ⟨Nat.le_refl _, ?_, rfl⟩
    simp only [zl_0, zl_1, zl_2, zl_3, zl_4, zl_5, zl_6, zl_7, zl_8, zl_9, zl_10, zl_11, zl_37, zl_40, zl_60, zl_99, zl_411] at c1 c2 ⊢
    simp [rBe, c1, c2]
  · rename_i c1 c2
    simp only [zl_0, zl_1, zl_2, zl_3, zl_4, zl_5, zl_6, zl_7, zl_8, zl_9, zl_10, zl_11, zl_37, zl_40, zl_60, zl_99, zl_411] at c1 c2 ⊢
    obtain ⟨j, hj, -, e⟩ := (rCo_cases _ _).resolve_left c2
    rw [e]
    repeat' (first
        | refine zGr_m1.mpr ?_
        | refine zGr_m9.mpr ?_
        | refine zGr_m14.mpr ?_
        | refine zGr_m16.mpr ?_
        | refine zGi_m0.mpr ?_
        | refine zGi_m2.mpr ?_
        | refine zGi_m3.mpr ?_
        | refine zGi_m4.mpr ?_
        | refine zGi_m5.mpr ?_
        | refine zGi_m6.mpr ?_
        | refine zGi_m7.mpr ?_
        | refine zGi_m8.mpr ?_
        | refine zGi_m10.mpr ?_
        | refine zGi_m11.mpr ?_
        | refine zGi_m12.mpr ?_
        | refine zGi_m13.mpr ?_
        | refine zGi_m15.mpr ?_
        | refine zGi_m17.mpr ?_
        | refine (zPf_m0 D).mpr ?_
        | refine (zPf_m2 D).mpr ?_
        | refine (zPf_m3 D).mpr ?_
        | refine (zPf_m4 D).mpr ?_
        | refine (zPf_m5 D).mpr ?_
        | refine (zPf_m6 D).mpr ?_
        | refine (zPf_m7 D).mpr ?_
        | refine (zPf_m8 D).mpr ?_
        | refine (zPf_m10 D).mpr ?_
        | refine (zPf_m11 D).mpr ?_
        | refine (zPf_m12 D).mpr ?_
        | refine (zPf_m13 D).mpr ?_
        | refine (zPf_m15 D).mpr ?_
        | refine (zPf_m17 D).mpr ?_
        | refine (zAi_all D).mpr ⟨(by first | exact pk_in 0 _ (by decide) | exact pk_in 1 _ (by decide) | exact pk_in 2 _ (by decide) | exact pk_in 3 _ (by decide) | exact pk_in 4 _ (by decide) | exact pk_in 5 _ (by decide) | exact pk_in 6 _ (by decide) | exact pk_in 7 _ (by decide) | exact pk_in 8 _ (by decide) | exact pk_in 9 _ (by decide) | exact pk_in 10 _ (by decide)), ?_⟩
        | refine (zSt1_all D).mpr ⟨(by first | exact pk_in 0 _ (by decide) | exact pk_in 1 _ (by decide) | exact pk_in 2 _ (by decide) | exact pk_in 3 _ (by decide) | exact pk_in 4 _ (by decide) | exact pk_in 5 _ (by decide) | exact pk_in 6 _ (by decide) | exact pk_in 7 _ (by decide) | exact pk_in 8 _ (by decide) | exact pk_in 9 _ (by decide) | exact pk_in 10 _ (by decide)), ?_⟩
        | with_reducible refine zMc (s_c ht D _ _ (zvl_d _ (by decide)) (by omega) (d := d - 1)) (by omega) (Nat.le_refl _) ?_
        | refine ⟨fun _ => ?_, fun _ => ?_⟩
        | fail)
    all_goals
      refine ⟨Nat.le_refl _, ?_, rfl⟩
      simp_all [rBe, zl_0, zl_1, zl_2, zl_3, zl_4, zl_5, zl_6, zl_7, zl_8, zl_9, zl_10, zl_11, zl_37, zl_40, zl_60, zl_99, zl_411, nI_clamp (show j < 2 ^ 31 by omega), zn1 (show j < 2 ^ 31 by omega)]
  · rename_i c1 c2
    refine ⟨Nat.le_refl _, ?_, rfl⟩
    simp only [zl_0, zl_1, zl_2, zl_3, zl_4, zl_5, zl_6, zl_7, zl_8, zl_9, zl_10, zl_11, zl_37, zl_40, zl_60, zl_99, zl_411] at c1 c2 ⊢
    simp_all [rBe]
  · rename_i c1 c2
    simp only [zl_0, zl_1, zl_2, zl_3, zl_4, zl_5, zl_6, zl_7, zl_8, zl_9, zl_10, zl_11, zl_37, zl_40, zl_60, zl_99, zl_411] at c1 c2 ⊢
    obtain ⟨j, hj, -, e⟩ := (rCo_cases _ _).resolve_left c2
    rw [e]
    repeat' (first
        | refine zGr_m1.mpr ?_
        | refine zGr_m9.mpr ?_
        | refine zGr_m14.mpr ?_
        | refine zGr_m16.mpr ?_
        | refine zGi_m0.mpr ?_
        | refine zGi_m2.mpr ?_
        | refine zGi_m3.mpr ?_
        | refine zGi_m4.mpr ?_
        | refine zGi_m5.mpr ?_
        | refine zGi_m6.mpr ?_
        | refine zGi_m7.mpr ?_
        | refine zGi_m8.mpr ?_
        | refine zGi_m10.mpr ?_
        | refine zGi_m11.mpr ?_
        | refine zGi_m12.mpr ?_
        | refine zGi_m13.mpr ?_
        | refine zGi_m15.mpr ?_
        | refine zGi_m17.mpr ?_
        | refine (zPf_m0 D).mpr ?_
        | refine (zPf_m2 D).mpr ?_
        | refine (zPf_m3 D).mpr ?_
        | refine (zPf_m4 D).mpr ?_
        | refine (zPf_m5 D).mpr ?_
        | refine (zPf_m6 D).mpr ?_
        | refine (zPf_m7 D).mpr ?_
        | refine (zPf_m8 D).mpr ?_
        | refine (zPf_m10 D).mpr ?_
        | refine (zPf_m11 D).mpr ?_
        | refine (zPf_m12 D).mpr ?_
        | refine (zPf_m13 D).mpr ?_
        | refine (zPf_m15 D).mpr ?_
        | refine (zPf_m17 D).mpr ?_
        | refine (zAi_all D).mpr ⟨(by first | exact pk_in 0 _ (by decide) | exact pk_in 1 _ (by decide) | exact pk_in 2 _ (by decide) | exact pk_in 3 _ (by decide) | exact pk_in 4 _ (by decide) | exact pk_in 5 _ (by decide) | exact pk_in 6 _ (by decide) | exact pk_in 7 _ (by decide) | exact pk_in 8 _ (by decide) | exact pk_in 9 _ (by decide) | exact pk_in 10 _ (by decide)), ?_⟩
        | refine (zSt1_all D).mpr ⟨(by first | exact pk_in 0 _ (by decide) | exact pk_in 1 _ (by decide) | exact pk_in 2 _ (by decide) | exact pk_in 3 _ (by decide) | exact pk_in 4 _ (by decide) | exact pk_in 5 _ (by decide) | exact pk_in 6 _ (by decide) | exact pk_in 7 _ (by decide) | exact pk_in 8 _ (by decide) | exact pk_in 9 _ (by decide) | exact pk_in 10 _ (by decide)), ?_⟩
        | with_reducible refine zMc (s_c ht D _ _ (zvl_d _ (by decide)) (by omega) (d := d - 1)) (by omega) (Nat.le_refl _) ?_
        | refine ⟨fun _ => ?_, fun _ => ?_⟩
        | fail)
    all_goals
      refine ⟨Nat.le_refl _, ?_, rfl⟩
      simp_all [rBe, zl_0, zl_1, zl_2, zl_3, zl_4, zl_5, zl_6, zl_7, zl_8, zl_9, zl_10, zl_11, zl_37, zl_40, zl_60, zl_99, zl_411, nI_clamp (show j < 2 ^ 31 by omega), zn1 (show j < 2 ^ 31 by omega)]
/-- the run behind a cart ends within f steps -/
def rCh (r : Nat → Int32) : Nat → Int32 → Prop
  | 0, x => x = -1
  | f + 1, x => x = -1 ∨ ∃ k, k ≤ 40 ∧ x = nI k ∧ rCh r f (rBe r k)
def rLr (r : Nat → Int32) : Nat → Int32 → Int32
  | 0, _ => 0
  | f + 1, x => if x = -1 then 0 else rc r x.toNatClampNeg 1 + rLr r f (rBe r x.toNatClampNeg)
theorem rLr_n1 (r : Nat → Int32) (f : Nat) : rLr r f (-1) = 0 := by cases f <;> simp [rLr]
theorem s_loadOfRun (ht : l.stackTraces = false) (D : zMD G A) (hN : rOk s.2.1) (hd : 4 ≤ d) (f : Nat) (x : Int32) (hc : rCh s.2.1 f x) : zCt l G d MX3_loadOfRun [.ref A.1, .int x] (zMh h A s) 0 (zIr (rLr s.2.1 f x) (zMh h A s)) := by
  refine zCt.of kX3_loadOfRun ht (by simp [Value.category]) (Nat.le_of_ble_eq_true rfl) ?_
  refine b_X3_loadOfRun_0 _ _ ?_
  have H : ∀ f (a y : Int32), rCh s.2.1 f y → ∀ Q, Q = zIr (a + rLr s.2.1 f y) (zMh h A s) → zV l G d 0 MX3_loadOfRun Q 4 [some (.ref A.1), some (.int x), some (.int a), some (.int y)] [] (zMh h A s) 0 := by
    intro f
    induction f with
    | zero =>
      intro a y hc Q hQ
      subst hQ
      refine b_X3_loadOfRun_4 _ _ _ _ ⟨fun _ => ⟨Nat.le_refl _, ?_, rfl⟩, fun c => absurd hc c⟩
      simp [rLr]
    | succ f ih =>
      intro a y hc Q hQ
      subst hQ
      refine b_X3_loadOfRun_4 _ _ _ _ ⟨fun c => ⟨Nat.le_refl _, ?_, rfl⟩, fun c => ?_⟩
      · subst c; simp [rLr]
      · obtain ⟨k, hk, rfl, hc2⟩ := hc.resolve_left c
        repeat' (first
            | refine zGr_m1.mpr ?_
            | refine zGr_m9.mpr ?_
            | refine zGr_m14.mpr ?_
            | refine zGr_m16.mpr ?_
            | refine zGi_m0.mpr ?_
            | refine zGi_m2.mpr ?_
            | refine zGi_m3.mpr ?_
            | refine zGi_m4.mpr ?_
            | refine zGi_m5.mpr ?_
            | refine zGi_m6.mpr ?_
            | refine zGi_m7.mpr ?_
            | refine zGi_m8.mpr ?_
            | refine zGi_m10.mpr ?_
            | refine zGi_m11.mpr ?_
            | refine zGi_m12.mpr ?_
            | refine zGi_m13.mpr ?_
            | refine zGi_m15.mpr ?_
            | refine zGi_m17.mpr ?_
            | refine (zPf_m0 D).mpr ?_
            | refine (zPf_m2 D).mpr ?_
            | refine (zPf_m3 D).mpr ?_
            | refine (zPf_m4 D).mpr ?_
            | refine (zPf_m5 D).mpr ?_
            | refine (zPf_m6 D).mpr ?_
            | refine (zPf_m7 D).mpr ?_
            | refine (zPf_m8 D).mpr ?_
            | refine (zPf_m10 D).mpr ?_
            | refine (zPf_m11 D).mpr ?_
            | refine (zPf_m12 D).mpr ?_
            | refine (zPf_m13 D).mpr ?_
            | refine (zPf_m15 D).mpr ?_
            | refine (zPf_m17 D).mpr ?_
            | refine (zAi_all D).mpr ⟨(by first | exact pk_in 0 _ (by decide) | exact pk_in 1 _ (by decide) | exact pk_in 2 _ (by decide) | exact pk_in 3 _ (by decide) | exact pk_in 4 _ (by decide) | exact pk_in 5 _ (by decide) | exact pk_in 6 _ (by decide) | exact pk_in 7 _ (by decide) | exact pk_in 8 _ (by decide) | exact pk_in 9 _ (by decide) | exact pk_in 10 _ (by decide)), ?_⟩
            | refine (zSt1_all D).mpr ⟨(by first | exact pk_in 0 _ (by decide) | exact pk_in 1 _ (by decide) | exact pk_in 2 _ (by decide) | exact pk_in 3 _ (by decide) | exact pk_in 4 _ (by decide) | exact pk_in 5 _ (by decide) | exact pk_in 6 _ (by decide) | exact pk_in 7 _ (by decide) | exact pk_in 8 _ (by decide) | exact pk_in 9 _ (by decide) | exact pk_in 10 _ (by decide)), ?_⟩
            | with_reducible refine zMc (s_c ht D _ _ (zvl_d _ (by decide)) (by omega) (d := d - 1)) (by omega) (Nat.le_refl _) ?_
            | with_reducible refine zMc (s_behind ht D hN (by omega) _ (by omega) (d := d - 1)) (by omega) (Nat.le_refl _) ?_
            | refine ⟨fun _ => ?_, fun _ => ?_⟩
            | fail)
        refine ih _ _ hc2 _ ?_
        congr 1
        simp only [rLr, if_neg c, nI_clamp (show k < 2 ^ 31 by omega), zl_0, zl_1, zl_2, zl_3, zl_4, zl_5, zl_6, zl_7, zl_8, zl_9, zl_10, zl_11, zl_37, zl_40, zl_60, zl_99, zl_411]
        rw [Int32.add_assoc]
  have := H f 0 x hc _ rfl
  rw [Int32.zero_add] at this
  exact this
def rLa (r : Nat → Int32) : Nat → Int32 → Int32 → Int32
  | 0, _, z => z
  | f + 1, x, z => if x = -1 then z else rLa r f (rBe r x.toNatClampNeg) x
theorem s_lastOfRun (ht : l.stackTraces = false) (D : zMD G A) (hN : rOk s.2.1) (hd : 4 ≤ d) (f : Nat) (x : Int32) (hc : rCh s.2.1 f x) : zCt l G d MX3_lastOfRun [.ref A.1, .int x] (zMh h A s) 0 (zIr (rLa s.2.1 f x x) (zMh h A s)) := by
  refine zCt.of kX3_lastOfRun ht (by simp [Value.category]) (Nat.le_of_ble_eq_true rfl) ?_
  refine b_X3_lastOfRun_0 _ _ ?_
  have H : ∀ f (z y : Int32), rCh s.2.1 f y → ∀ Q, Q = zIr (rLa s.2.1 f y z) (zMh h A s) → zV l G d 0 MX3_lastOfRun Q 4 [some (.ref A.1), some (.int x), some (.int z), some (.int y)] [] (zMh h A s) 0 := by
    intro f
    induction f with
    | zero =>
      intro z y hc Q hQ
      subst hQ
      exact b_X3_lastOfRun_4 _ _ _ _ ⟨fun _ => ⟨Nat.le_refl _, rfl, rfl⟩, fun c => absurd hc c⟩
    | succ f ih =>
      intro z y hc Q hQ
      subst hQ
      refine b_X3_lastOfRun_4 _ _ _ _ ⟨fun c => ⟨Nat.le_refl _, ?_, rfl⟩, fun c => ?_⟩
      · subst c; simp [rLa]
      · obtain ⟨k, hk, rfl, hc2⟩ := hc.resolve_left c
        repeat' (first
            | refine zGr_m1.mpr ?_
            | refine zGr_m9.mpr ?_
            | refine zGr_m14.mpr ?_
            | refine zGr_m16.mpr ?_
            | refine zGi_m0.mpr ?_
            | refine zGi_m2.mpr ?_
            | refine zGi_m3.mpr ?_
            | refine zGi_m4.mpr ?_
            | refine zGi_m5.mpr ?_
            | refine zGi_m6.mpr ?_
            | refine zGi_m7.mpr ?_
            | refine zGi_m8.mpr ?_
            | refine zGi_m10.mpr ?_
            | refine zGi_m11.mpr ?_
            | refine zGi_m12.mpr ?_
            | refine zGi_m13.mpr ?_
            | refine zGi_m15.mpr ?_
            | refine zGi_m17.mpr ?_
            | refine (zPf_m0 D).mpr ?_
            | refine (zPf_m2 D).mpr ?_
            | refine (zPf_m3 D).mpr ?_
            | refine (zPf_m4 D).mpr ?_
            | refine (zPf_m5 D).mpr ?_
            | refine (zPf_m6 D).mpr ?_
            | refine (zPf_m7 D).mpr ?_
            | refine (zPf_m8 D).mpr ?_
            | refine (zPf_m10 D).mpr ?_
            | refine (zPf_m11 D).mpr ?_
            | refine (zPf_m12 D).mpr ?_
            | refine (zPf_m13 D).mpr ?_
            | refine (zPf_m15 D).mpr ?_
            | refine (zPf_m17 D).mpr ?_
            | refine (zAi_all D).mpr ⟨(by first | exact pk_in 0 _ (by decide) | exact pk_in 1 _ (by decide) | exact pk_in 2 _ (by decide) | exact pk_in 3 _ (by decide) | exact pk_in 4 _ (by decide) | exact pk_in 5 _ (by decide) | exact pk_in 6 _ (by decide) | exact pk_in 7 _ (by decide) | exact pk_in 8 _ (by decide) | exact pk_in 9 _ (by decide) | exact pk_in 10 _ (by decide)), ?_⟩
            | refine (zSt1_all D).mpr ⟨(by first | exact pk_in 0 _ (by decide) | exact pk_in 1 _ (by decide) | exact pk_in 2 _ (by decide) | exact pk_in 3 _ (by decide) | exact pk_in 4 _ (by decide) | exact pk_in 5 _ (by decide) | exact pk_in 6 _ (by decide) | exact pk_in 7 _ (by decide) | exact pk_in 8 _ (by decide) | exact pk_in 9 _ (by decide) | exact pk_in 10 _ (by decide)), ?_⟩
            | with_reducible refine zMc (s_behind ht D hN (by omega) _ (by omega) (d := d - 1)) (by omega) (Nat.le_refl _) ?_
            | refine ⟨fun _ => ?_, fun _ => ?_⟩
            | fail)
        refine ih _ _ hc2 _ ?_
        simp only [rLa, if_neg c, nI_clamp (show k < 2 ^ 31 by omega)]
  exact H f x x hc _ rfl
/-- a cart turns round -/
def mTc (s : zMS) (k : Nat) : zMS :=
  let s1 := zMa s (11 + 10 * k + 4) (1 - rc s.2.1 k 4)
  let s2 := zMa s1 (11 + 10 * k + 5) (rc s1.2.1 k 5 + 1)
  zMa s2 10 (s2.2.1 10 + 1)
/-- a run turns round -/
def mTr : Nat → Int32 → zMS → zMS
  | 0, _, s => s
  | f + 1, x, s => if x = -1 then s else mTr f (rBe s.2.1 x.toNatClampNeg) (mTc s x.toNatClampNeg)
def mTrn : Nat → Int32 → zMS → Nat
  | 0, _, _ => 0
  | f + 1, x, s => if x = -1 then 0 else mTrn f (rBe s.2.1 x.toNatClampNeg) (mTc s x.toNatClampNeg) + 1
/-- the turning ends within f steps -/
def mTrc : Nat → Int32 → zMS → Prop
  | 0, x, _ => x = -1
  | f + 1, x, s => x = -1 ∨ ∃ k, k ≤ 40 ∧ x = nI k ∧ mTrc f (rBe s.2.1 k) (mTc s k)
theorem mTc_N (s : zMS) (k : Nat) : (mTc s k).2.1 0 = s.2.1 0 := by
  simp only [mTc, zMa, zuf]
  rw [if_neg (by omega), if_neg (by omega), if_neg (by omega)]
theorem rOk_eq {r r' : Nat → Int32} (e : r' 0 = r 0) (hN : rOk r) : rOk r' := by
  simp only [rOk, rN, e] at hN ⊢; exact hN
theorem s_turnsRun (ht : l.stackTraces = false) (D : zMD G A) (hN : rOk s.2.1) (hd : 4 ≤ d) (f : Nat) (x : Int32) (hc : mTrc f x s) : zCt l G d MX3_turnsRun [.ref A.1, .int x] (zMh h A s) 0 (zIr (nI (mTrn f x s)) (zMh h A (mTr f x s))) := by
  refine zCt.of kX3_turnsRun ht (by simp [Value.category]) (Nat.le_of_ble_eq_true rfl) ?_
  refine b_X3_turnsRun_0 _ _ ?_
  have H : ∀ f (n : Nat) (y : Int32) (s : zMS), rOk s.2.1 → mTrc f y s → ∀ Q, Q = zIr (nI (n + mTrn f y s)) (zMh h A (mTr f y s)) → zV l G d 0 MX3_turnsRun Q 4 [some (.ref A.1), some (.int x), some (.int (nI n)), some (.int y), none] [] (zMh h A s) 0 := by
    intro f
    induction f with
    | zero =>
      intro n y s hN hc Q hQ
      subst hQ
      exact b_X3_turnsRun_4 _ _ _ _ ⟨fun _ => ⟨Nat.le_refl _, rfl, rfl⟩, fun c => absurd hc c⟩
    | succ f ih =>
      intro n y s hN hc Q hQ
      subst hQ
      refine b_X3_turnsRun_4 _ _ _ _ ⟨fun c => ⟨Nat.le_refl _, ?_, ?_⟩, fun c => ?_⟩
      · subst c; simp [mTrn]
      · subst c; simp [mTr]
      · obtain ⟨k, hk, rfl, hc2⟩ := hc.resolve_left c
        repeat' (first
            | refine zGr_m1.mpr ?_
            | refine zGr_m9.mpr ?_
            | refine zGr_m14.mpr ?_
            | refine zGr_m16.mpr ?_
            | refine zGi_m0.mpr ?_
            | refine zGi_m2.mpr ?_
            | refine zGi_m3.mpr ?_
            | refine zGi_m4.mpr ?_
            | refine zGi_m5.mpr ?_
            | refine zGi_m6.mpr ?_
            | refine zGi_m7.mpr ?_
            | refine zGi_m8.mpr ?_
            | refine zGi_m10.mpr ?_
            | refine zGi_m11.mpr ?_
            | refine zGi_m12.mpr ?_
            | refine zGi_m13.mpr ?_
            | refine zGi_m15.mpr ?_
            | refine zGi_m17.mpr ?_
            | refine (zPf_m0 D).mpr ?_
            | refine (zPf_m2 D).mpr ?_
            | refine (zPf_m3 D).mpr ?_
            | refine (zPf_m4 D).mpr ?_
            | refine (zPf_m5 D).mpr ?_
            | refine (zPf_m6 D).mpr ?_
            | refine (zPf_m7 D).mpr ?_
            | refine (zPf_m8 D).mpr ?_
            | refine (zPf_m10 D).mpr ?_
            | refine (zPf_m11 D).mpr ?_
            | refine (zPf_m12 D).mpr ?_
            | refine (zPf_m13 D).mpr ?_
            | refine (zPf_m15 D).mpr ?_
            | refine (zPf_m17 D).mpr ?_
            | refine (zAi_all D).mpr ⟨(by first | exact pk_in 0 _ (by decide) | exact pk_in 1 _ (by decide) | exact pk_in 2 _ (by decide) | exact pk_in 3 _ (by decide) | exact pk_in 4 _ (by decide) | exact pk_in 5 _ (by decide) | exact pk_in 6 _ (by decide) | exact pk_in 7 _ (by decide) | exact pk_in 8 _ (by decide) | exact pk_in 9 _ (by decide) | exact pk_in 10 _ (by decide)), ?_⟩
            | refine (zSt1_all D).mpr ⟨(by first | exact pk_in 0 _ (by decide) | exact pk_in 1 _ (by decide) | exact pk_in 2 _ (by decide) | exact pk_in 3 _ (by decide) | exact pk_in 4 _ (by decide) | exact pk_in 5 _ (by decide) | exact pk_in 6 _ (by decide) | exact pk_in 7 _ (by decide) | exact pk_in 8 _ (by decide) | exact pk_in 9 _ (by decide) | exact pk_in 10 _ (by decide)), ?_⟩
            | with_reducible refine zMc (s_c ht D _ _ (zvl_d _ (by decide)) (by omega) (d := d - 1)) (by omega) (Nat.le_refl _) ?_
            | with_reducible refine zMcV (s_set ht D _ _ (zvl_d _ (by decide)) (by omega) (d := d - 1)) (by omega) (Nat.le_refl _) ?_
            | with_reducible refine zMc (s_behind ht D hN (by omega) _ (by omega) (d := d - 1)) (by omega) (Nat.le_refl _) ?_
            | refine ⟨fun _ => ?_, fun _ => ?_⟩
            | fail)
        rw [nI_1]
        refine ih _ _ _ (rOk_eq (mTc_N s k) hN) hc2 _ ?_
        simp only [mTrn, mTr, if_neg c, nI_clamp (show k < 2 ^ 31 by omega)]
        rw [show n + 1 + mTrn f (rBe s.2.1 k) (mTc s k) = n + (mTrn f (rBe s.2.1 k) (mTc s k) + 1) by omega]
  have := H f 0 x s hN hc _ rfl
  rw [Nat.zero_add] at this
  exact this
def rNob (r : Nat → Int32) (sp : Nat) : Bool :=
  let a := rCo r (nI sp); let b := rCo r (nI (sp + 1))
  !(a == -1) && !(b == -1) && (rc r a.toNatClampNeg 4 == 1 && rc r b.toNatClampNeg 4 == 0)
/-- the western cart of the first nose from a span on -/
def rNo (r : Nat → Int32) : Nat → Nat → Int32
  | _, 0 => -1
  | sp, j + 1 => if rNob r sp then rCo r (nI sp) else rNo r (sp + 1) j
theorem s_nose (ht : l.stackTraces = false) (D : zMD G A) (hN : rOk s.2.1) (hd : 3 ≤ d) (n : Nat) (hn : s.2.1 4 = nI n) (hn8 : n ≤ 8) (sp : Nat) {x : Int32} (hx : x = nI sp) (hsp : sp ≤ 8) : zCt l G d MX3_nose [.ref A.1, .int x] (zMh h A s) 0 (zIr (rNo s.2.1 sp (n - 1 - sp)) (zMh h A s)) := by
  subst hx
  refine zCt.of kX3_nose ht (by simp [Value.category]) (Nat.le_of_ble_eq_true rfl) ?_
  refine b_X3_nose_0 _ _ ?_
  have hN2 := hN.2
  have H := zInd (N := 9) (P := fun k => rNo s.2.1 sp (n - 1 - sp) = rNo s.2.1 k (n - 1 - k) → zV l G d 0 MX3_nose (zIr (rNo s.2.1 sp (n - 1 - sp)) (zMh h A s)) 2 [some (.ref A.1), some (.int (nI sp)), some (.int (nI k)), none, none] [] (zMh h A s) 0) ?_ sp (by omega) rfl
  · exact H
  intro k hk ih hi
  refine b_X3_nose_2 _ _ _ (zGr_m1.mpr ((zAi_all D).mpr ⟨pk_in 4 _ (by decide), ?_⟩))
  rw [nI_1]
  refine pk_le n (k + 1) (fun c => ⟨Nat.le_refl _, ?_, rfl⟩) (fun c => ?_) hn rfl
  · rw [hi, show n - 1 - k = 0 by omega]; rfl
  · obtain ⟨j, hj⟩ : ∃ j, n - 1 - k = j + 1 := ⟨n - 1 - k - 1, by omega⟩
    have e1 : n - 1 - (k + 1) = j := by omega
    have ih := ih (by omega)
    rw [e1] at ih
    rw [hj, rNo] at hi
    repeat' (first
        | refine zGr_m1.mpr ?_
        | refine zGr_m9.mpr ?_
        | refine zGr_m14.mpr ?_
        | refine zGr_m16.mpr ?_
        | refine zGi_m0.mpr ?_
        | refine zGi_m2.mpr ?_
        | refine zGi_m3.mpr ?_
        | refine zGi_m4.mpr ?_
        | refine zGi_m5.mpr ?_
        | refine zGi_m6.mpr ?_
        | refine zGi_m7.mpr ?_
        | refine zGi_m8.mpr ?_
        | refine zGi_m10.mpr ?_
        | refine zGi_m11.mpr ?_
        | refine zGi_m12.mpr ?_
        | refine zGi_m13.mpr ?_
        | refine zGi_m15.mpr ?_
        | refine zGi_m17.mpr ?_
        | refine (zPf_m0 D).mpr ?_
        | refine (zPf_m2 D).mpr ?_
        | refine (zPf_m3 D).mpr ?_
        | refine (zPf_m4 D).mpr ?_
        | refine (zPf_m5 D).mpr ?_
        | refine (zPf_m6 D).mpr ?_
        | refine (zPf_m7 D).mpr ?_
        | refine (zPf_m8 D).mpr ?_
        | refine (zPf_m10 D).mpr ?_
        | refine (zPf_m11 D).mpr ?_
        | refine (zPf_m12 D).mpr ?_
        | refine (zPf_m13 D).mpr ?_
        | refine (zPf_m15 D).mpr ?_
        | refine (zPf_m17 D).mpr ?_
        | refine (zAi_all D).mpr ⟨(by first | exact pk_in 0 _ (by decide) | exact pk_in 1 _ (by decide) | exact pk_in 2 _ (by decide) | exact pk_in 3 _ (by decide) | exact pk_in 4 _ (by decide) | exact pk_in 5 _ (by decide) | exact pk_in 6 _ (by decide) | exact pk_in 7 _ (by decide) | exact pk_in 8 _ (by decide) | exact pk_in 9 _ (by decide) | exact pk_in 10 _ (by decide)), ?_⟩
        | refine (zSt1_all D).mpr ⟨(by first | exact pk_in 0 _ (by decide) | exact pk_in 1 _ (by decide) | exact pk_in 2 _ (by decide) | exact pk_in 3 _ (by decide) | exact pk_in 4 _ (by decide) | exact pk_in 5 _ (by decide) | exact pk_in 6 _ (by decide) | exact pk_in 7 _ (by decide) | exact pk_in 8 _ (by decide) | exact pk_in 9 _ (by decide) | exact pk_in 10 _ (by decide)), ?_⟩
        | with_reducible refine zMc (s_cartOn ht D hN (by omega) _ (d := d - 1)) (by omega) (Nat.le_refl _) ?_
        | refine ⟨fun _ => ?_, fun _ => ?_⟩
        | fail)
    · rename_i c1
      refine ih ?_
      rw [hi, if_neg (by simp [rNob, c1])]
    · rename_i c1 c2
      refine ih ?_
      rw [hi, if_neg (by simp [rNob, c2])]
    · rename_i c1 c2
      obtain ⟨i1, hi1, -, e1⟩ := (rCo_cases _ _).resolve_left c1
      obtain ⟨i2, hi2, -, e2⟩ := (rCo_cases _ _).resolve_left c2
      rw [e1, e2]
      have z1 := nI_clamp (show i1 < 2 ^ 31 by omega)
      have z2 := nI_clamp (show i2 < 2 ^ 31 by omega)
      have z3 := zn1 (show i1 < 2 ^ 31 by omega)
      have z4 := zn1 (show i2 < 2 ^ 31 by omega)
      repeat' (first
          | refine zGr_m1.mpr ?_
          | refine zGr_m9.mpr ?_
          | refine zGr_m14.mpr ?_
          | refine zGr_m16.mpr ?_
          | refine zGi_m0.mpr ?_
          | refine zGi_m2.mpr ?_
          | refine zGi_m3.mpr ?_
          | refine zGi_m4.mpr ?_
          | refine zGi_m5.mpr ?_
          | refine zGi_m6.mpr ?_
          | refine zGi_m7.mpr ?_
          | refine zGi_m8.mpr ?_
          | refine zGi_m10.mpr ?_
          | refine zGi_m11.mpr ?_
          | refine zGi_m12.mpr ?_
          | refine zGi_m13.mpr ?_
          | refine zGi_m15.mpr ?_
          | refine zGi_m17.mpr ?_
          | refine (zPf_m0 D).mpr ?_
          | refine (zPf_m2 D).mpr ?_
          | refine (zPf_m3 D).mpr ?_
          | refine (zPf_m4 D).mpr ?_
          | refine (zPf_m5 D).mpr ?_
          | refine (zPf_m6 D).mpr ?_
          | refine (zPf_m7 D).mpr ?_
          | refine (zPf_m8 D).mpr ?_
          | refine (zPf_m10 D).mpr ?_
          | refine (zPf_m11 D).mpr ?_
          | refine (zPf_m12 D).mpr ?_
          | refine (zPf_m13 D).mpr ?_
          | refine (zPf_m15 D).mpr ?_
          | refine (zPf_m17 D).mpr ?_
          | refine (zAi_all D).mpr ⟨(by first | exact pk_in 0 _ (by decide) | exact pk_in 1 _ (by decide) | exact pk_in 2 _ (by decide) | exact pk_in 3 _ (by decide) | exact pk_in 4 _ (by decide) | exact pk_in 5 _ (by decide) | exact pk_in 6 _ (by decide) | exact pk_in 7 _ (by decide) | exact pk_in 8 _ (by decide) | exact pk_in 9 _ (by decide) | exact pk_in 10 _ (by decide)), ?_⟩
          | refine (zSt1_all D).mpr ⟨(by first | exact pk_in 0 _ (by decide) | exact pk_in 1 _ (by decide) | exact pk_in 2 _ (by decide) | exact pk_in 3 _ (by decide) | exact pk_in 4 _ (by decide) | exact pk_in 5 _ (by decide) | exact pk_in 6 _ (by decide) | exact pk_in 7 _ (by decide) | exact pk_in 8 _ (by decide) | exact pk_in 9 _ (by decide) | exact pk_in 10 _ (by decide)), ?_⟩
          | with_reducible refine zMc (s_c ht D _ _ (zvl_d _ (by decide)) (by omega) (d := d - 1)) (by omega) (Nat.le_refl _) ?_
          | refine ⟨fun _ => ?_, fun _ => ?_⟩
          | fail)
      · rename_i c3
        refine ih ?_
        rw [hi, if_neg]
        simp_all [rNob, zl_0, zl_1, zl_2, zl_3, zl_4, zl_5, zl_6, zl_7, zl_8, zl_9, zl_10, zl_11, zl_37, zl_40, zl_60, zl_99, zl_411]
      · rename_i c3 c4
        refine ih ?_
        rw [hi, if_neg]
        simp_all [rNob, zl_0, zl_1, zl_2, zl_3, zl_4, zl_5, zl_6, zl_7, zl_8, zl_9, zl_10, zl_11, zl_37, zl_40, zl_60, zl_99, zl_411]
      · rename_i c3 c4
        refine ⟨Nat.le_refl _, ?_, rfl⟩
        rw [hi, if_pos, e1]
        simp_all [rNob, zl_0, zl_1, zl_2, zl_3, zl_4, zl_5, zl_6, zl_7, zl_8, zl_9, zl_10, zl_11, zl_37, zl_40, zl_60, zl_99, zl_411]
end ZM4
