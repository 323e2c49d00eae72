/-! the model: a tick -/
theorem zMa_lo (s : zMS) (i j : Nat) (v : Int32) (h : i ≠ j) : (zMa s i v).2.1 j = s.2.1 j := if_neg (fun e => h e.symm)
theorem mGo_lo (s : zMS) (k i : Nat) (hi : i < 11) (h7 : i ≠ 7) : (mGo s k).2.1 i = s.2.1 i := by
  simp only [mGo]
  split
  · split
    · exact zMa_lo _ _ _ _ (by omega)
    · rfl
  · split
    · rw [zMa_lo _ _ _ _ (by omega), zMa_lo _ _ _ _ (by omega), zMa_lo _ _ _ _ (by omega)]
    · rw [zMa_lo _ _ _ _ (by omega), zMa_lo _ _ _ _ (by omega), zMa_lo _ _ _ _ (by omega), zMa_lo _ _ _ _ (by omega)]
/-- what stands on a span goes on, if it heads so -/
def mPr (s : zMS) (sp : Nat) (hd : Int32) : zMS :=
  let c := rCo s.2.1 (nI sp)
  if c = -1 then s else if rc s.2.1 c.toNatClampNeg 4 = hd then mGo s c.toNatClampNeg else s
def rPr (r : Nat → Int32) (sp : Nat) (hd : Int32) : Bool :=
  let c := rCo r (nI sp)
  !(c == -1) && (rc r c.toNatClampNeg 4 == hd && rGb r c.toNatClampNeg)
theorem mPr_lo (s : zMS) (sp : Nat) (hd : Int32) (i : Nat) (hi : i < 11) (h7 : i ≠ 7) : (mPr s sp hd).2.1 i = s.2.1 i := by
  simp only [mPr]
  split
  · rfl
  · split
    · exact mGo_lo _ _ _ hi h7
    · rfl
/-- from span j - 1 down to 0 -/
def mDn : Nat → zMS → zMS
  | 0, s => s
  | j + 1, s => mDn j (mPr s j 1)
def nDn : Nat → zMS → Nat
  | 0, _ => 0
  | j + 1, s => (if rPr s.2.1 j 1 then 1 else 0) + nDn j (mPr s j 1)
/-- from span sp up, j spans -/
def mUp : Nat → Nat → zMS → zMS
  | _, 0, s => s
  | sp, j + 1, s => mUp (sp + 1) j (mPr s sp 0)
def nUp : Nat → Nat → zMS → Nat
  | _, 0, _ => 0
  | sp, j + 1, s => (if rPr s.2.1 sp 0 then 1 else 0) + nUp (sp + 1) j (mPr s sp 0)
theorem mDn_lo (i : Nat) (hi : i < 11) (h7 : i ≠ 7) : ∀ (j : Nat) (s : zMS), (mDn j s).2.1 i = s.2.1 i
  | 0, _ => rfl
  | j + 1, s => by rw [mDn, mDn_lo i hi h7 j, mPr_lo _ _ _ _ hi h7]
theorem mUp_lo (i : Nat) (hi : i < 11) (h7 : i ≠ 7) : ∀ (j sp : Nat) (s : zMS), (mUp sp j s).2.1 i = s.2.1 i
  | 0, _, _ => rfl
  | j + 1, sp, s => by rw [mUp, mUp_lo i hi h7 j, mPr_lo _ _ _ _ hi h7]
def mAg (s : zMS) : zMS := mUp 0 (rSp s.2.1) (mDn (rSp s.2.1) s)
def nAg (s : zMS) : Nat := nDn (rSp s.2.1) s + nUp 0 (rSp s.2.1) (mDn (rSp s.2.1) s)
section ZM6
variable {l : Launch} {G : zG} {h : zH} {A : zMA} {s : zMS} {d : Nat}
theorem s_allGoOn (ht : l.stackTraces = false) (D : zMD G A) (hN : rOk s.2.1) (hS : rSk s.2.1) (hd : 4 ≤ d) : zCt l G d MX3_allGoOn [.ref A.1] (zMh h A s) 0 (zIr (nI (nAg s)) (zMh h A (mAg s))) := by
  refine zCt.of kX3_allGoOn ht (by simp [Value.category]) (Nat.le_of_ble_eq_true rfl) ?_
  refine b_X3_allGoOn_0 _ (zGr_m1.mpr ((zAi_all D).mpr ⟨pk_in 4 _ (by decide), ?_⟩))
  obtain ⟨hS1, hS2⟩ := hS
  have HU : ∀ (j sp : Nat) (n : Nat) (s : zMS), rOk s.2.1 → sp + j = rSp s.2.1 → s.2.1 4 = nI (rSp s.2.1) → rSp s.2.1 ≤ 8 → ∀ Q, Q = zIr (nI (n + nUp sp j s)) (zMh h A (mUp sp j s)) → zV l G d 0 MX3_allGoOn Q 60 [some (.ref A.1), some (.int (nI n)), some (.int (nI sp)), none] [] (zMh h A s) 0 := by
    intro j
    induction j with
    | zero =>
      intro sp n s hN hj h4 h8 Q hQ
      subst hQ
      refine b_X3_allGoOn_60 _ _ _ (zGr_m1.mpr ((zAi_all D).mpr ⟨pk_in 4 _ (by decide), pk_le (rSp s.2.1) sp (fun _ => ⟨Nat.le_refl _, rfl, rfl⟩) (fun c => absurd c (by omega)) h4 rfl⟩))
    | succ j ih =>
      intro sp n s hN hj h4 h8 Q hQ
      subst hQ
      have hN2 := hN.2
      have hN' : rOk (mPr s sp 0).2.1 := rOk_eq (mPr_lo _ _ _ _ (by omega) (by omega)) hN
      have e4 := mPr_lo s sp 0 4 (by omega) (by omega)
      have e5 : rSp (mPr s sp 0).2.1 = rSp s.2.1 := by simp only [rSp, e4]
      have ih := fun n => ih (sp + 1) n (mPr s sp 0) hN' (by omega) (by rw [e4, e5]; exact h4) (by omega)
      refine b_X3_allGoOn_60 _ _ _ (zGr_m1.mpr ((zAi_all D).mpr ⟨pk_in 4 _ (by decide), pk_le (rSp s.2.1) sp (fun c => absurd c (by omega)) (fun _ => ?_) h4 rfl⟩))
      refine zMc (s_cartOn ht D hN (by omega) _ (d := d - 1)) (by omega) (Nat.le_refl _) ?_
      simp only [mUp, nUp]
      rw [nI_1]
      rcases rCo_cases s.2.1 (nI sp) with e | ⟨k, hk, -, e⟩
      · have e1 : mPr s sp 0 = s := by simp only [mPr, if_pos e]
        have e2 : rPr s.2.1 sp 0 = false := by simp [rPr, e]
        rw [e1] at ih
        rw [e1, e2, e]
        refine ⟨fun _ => ?_, fun c => absurd rfl c⟩
        rw [show nI n + 0 = nI n from Int32.add_zero _]
        exact ih n _ (by simp)
      · have z1 := nI_clamp (show k < 2 ^ 31 by omega)
        have z3 := zn1 (show k < 2 ^ 31 by omega)
        rw [e]
        refine ⟨fun c => absurd c z3, fun _ => ?_⟩
        refine zMc (s_c ht D _ _ (zvl_d _ (by decide)) (by omega) (d := d - 1)) (by omega) (Nat.le_refl _) ?_
        simp only [zl_0, zl_1, zl_2, zl_3, zl_4, zl_5, zl_6, zl_7, zl_8, zl_9, zl_10, zl_11, zl_37, zl_40, zl_60, zl_99, zl_411]
        by_cases h9 : rc s.2.1 k 4 = 0
        · have e1 : mPr s sp 0 = mGo s k := by simp only [mPr, e, if_neg z3, z1, if_pos h9]
          have e2 : rPr s.2.1 sp 0 = rGb s.2.1 k := by simp [rPr, e, z3, z1, h9]
          refine ⟨fun c => absurd h9 c, fun _ => ?_⟩
          refine zMc (s_goesOn ht D hN (by omega) k (by omega) (d := d - 1)) (by omega) (Nat.le_refl _) ?_
          rw [e1] at ih
          rw [e1, e2]
          cases hg : rGb s.2.1 k
          · refine ⟨fun _ => ?_, fun c => absurd rfl c⟩
            rw [show nI n + 0 = nI n from Int32.add_zero _]
            exact ih n _ (by simp)
          · refine ⟨fun c => absurd c (by decide), fun _ => ?_⟩
            rw [nI_1]
            exact ih (n + 1) _ (by simp [Nat.add_assoc])
        · have e1 : mPr s sp 0 = s := by simp only [mPr, e, if_neg z3, z1, if_neg h9]
          have e2 : rPr s.2.1 sp 0 = false := by simp [rPr, e, z3, z1, h9]
          rw [e1] at ih
          rw [e1, e2]
          refine ⟨fun _ => ?_, fun c => absurd h9 c⟩
          rw [show nI n + 0 = nI n from Int32.add_zero _]
          exact ih n _ (by simp)
  have HD : ∀ (j : Nat) (n : Nat) (s : zMS), rOk s.2.1 → j ≤ 8 → s.2.1 4 = nI (rSp s.2.1) → rSp s.2.1 ≤ 8 → ∀ Q, Q = zIr (nI (n + nDn j s + nUp 0 (rSp s.2.1) (mDn j s))) (zMh h A (mUp 0 (rSp s.2.1) (mDn j s))) → zV l G d 0 MX3_allGoOn Q 11 [some (.ref A.1), some (.int (nI n)), some (.int (nI j - 1)), none] [] (zMh h A s) 0 := by
    intro j
    induction j with
    | zero =>
      intro n s hN hj h4 h8 Q hQ
      subst hQ
      refine b_X3_allGoOn_11 _ _ _ ⟨fun _ => ?_, fun c => absurd (show nI 0 - 1 < 0 by decide) c⟩
      exact HU (rSp s.2.1) 0 n s hN (by omega) h4 h8 _ (by simp [nDn, mDn])
    | succ j ih =>
      intro n s hN hj h4 h8 Q hQ
      subst hQ
      have hN2 := hN.2
      have hN' : rOk (mPr s j 1).2.1 := rOk_eq (mPr_lo _ _ _ _ (by omega) (by omega)) hN
      have e4 := mPr_lo s j 1 4 (by omega) (by omega)
      have e5 : rSp (mPr s j 1).2.1 = rSp s.2.1 := by simp only [rSp, e4]
      have ih := fun n => ih n (mPr s j 1) hN' (by omega) (by rw [e4, e5]; exact h4) (by omega)
      rw [nI_pred]
      refine b_X3_allGoOn_11 _ _ _ ⟨fun c => absurd c (nI_pos (by omega)), fun _ => ?_⟩
      refine zMc (s_cartOn ht D hN (by omega) _ (d := d - 1)) (by omega) (Nat.le_refl _) ?_
      simp only [mDn, nDn]
      rw [show nI j + -1 = nI j - 1 from (Int32.sub_eq_add_neg _ _).symm]
      rcases rCo_cases s.2.1 (nI j) with e | ⟨k, hk, -, e⟩
      · have e1 : mPr s j 1 = s := by simp only [mPr, if_pos e]
        have e2 : rPr s.2.1 j 1 = false := by simp [rPr, e]
        rw [e1] at ih
        rw [e1, e2, e]
        refine ⟨fun _ => ?_, fun c => absurd rfl c⟩
        rw [show nI n + 0 = nI n from Int32.add_zero _]
        exact ih n _ (by simp)
      · have z1 := nI_clamp (show k < 2 ^ 31 by omega)
        have z3 := zn1 (show k < 2 ^ 31 by omega)
        rw [e]
        refine ⟨fun c => absurd c z3, fun _ => ?_⟩
        refine zMc (s_c ht D _ _ (zvl_d _ (by decide)) (by omega) (d := d - 1)) (by omega) (Nat.le_refl _) ?_
        simp only [zl_0, zl_1, zl_2, zl_3, zl_4, zl_5, zl_6, zl_7, zl_8, zl_9, zl_10, zl_11, zl_37, zl_40, zl_60, zl_99, zl_411]
        by_cases h9 : rc s.2.1 k 4 = 1
        · have e1 : mPr s j 1 = mGo s k := by simp only [mPr, e, if_neg z3, z1, if_pos h9]
          have e2 : rPr s.2.1 j 1 = rGb s.2.1 k := by simp [rPr, e, z3, z1, h9]
          refine ⟨fun c => absurd h9 c, fun _ => ?_⟩
          refine zMc (s_goesOn ht D hN (by omega) k (by omega) (d := d - 1)) (by omega) (Nat.le_refl _) ?_
          rw [e1] at ih e5
          rw [e1, e2]
          rw [e5] at ih
          cases hg : rGb s.2.1 k
          · refine ⟨fun _ => ?_, fun c => absurd rfl c⟩
            rw [show nI n + 0 = nI n from Int32.add_zero _]
            exact ih n _ (by simp)
          · refine ⟨fun c => absurd c (by decide), fun _ => ?_⟩
            rw [nI_1]
            exact ih (n + 1) _ (by simp [Nat.add_assoc])
        · have e1 : mPr s j 1 = s := by simp only [mPr, e, if_neg z3, z1, if_neg h9]
          have e2 : rPr s.2.1 j 1 = false := by simp [rPr, e, z3, z1, h9]
          rw [e1] at ih
          rw [e1, e2]
          refine ⟨fun _ => ?_, fun c => absurd h9 c⟩
          rw [show nI n + 0 = nI n from Int32.add_zero _]
          exact ih n _ (by simp)
  have := HD (rSp s.2.1) 0 s hN hS2 hS1 hS2 _ rfl
  rw [Nat.zero_add] at this
  rw [show s.2.1 (Int32.toNatClampNeg 4) = nI (rSp s.2.1) from hS1]
  exact this
/-- whose turn it is -/
def rLk (r : Nat → Int32) : Bool :=
  (zcnt (fun k => rwa r k (r 5)) (rN r) == 0 || !decide (r 6 < r 3)) && rOn r == 0 && !(zcnt (fun k => rwa r k (1 - r 5)) (rN r) == 0)
def mLk (s : zMS) : zMS := if rLk s.2.1 then zMa (zMa s 5 (1 - s.2.1 5)) 6 0 else s
theorem nI_0e {n : Nat} (h : n < 2 ^ 31) : (nI n = 0) = (n = 0) := propext ⟨fun e => (nI_eq h (by decide)).mp (e.trans nI_0.symm), fun e => by subst e; rfl⟩
theorem nI_0l {n : Nat} (h : n < 2 ^ 31) : (0 < nI n) = (¬ n = 0) := propext (by
  rw [← nI_0, nI_ltI (by decide) h]; omega)
theorem s_looksAtTurn (ht : l.stackTraces = false) (D : zMD G A) (hN : rOk s.2.1) (hd : 3 ≤ d) : zCt l G d MX3_looksAtTurn [.ref A.1] (zMh h A s) 0 (zVr (zMh h A (mLk s))) := by
  refine zCt.of kX3_looksAtTurn ht (by simp [Value.category]) (Nat.le_of_ble_eq_true rfl) ?_
  refine b_X3_looksAtTurn_0 _ ?_
  have hN2 := hN.2
  have q1 : ∀ x, zcnt (fun k => rwa s.2.1 k x) (rN s.2.1) < 2 ^ 31 := fun x => by have := zcnt_le (fun k => rwa s.2.1 k x) (rN s.2.1); omega
  have q2 : rOn s.2.1 < 2 ^ 31 := by have := zcnt_le (rOnb s.2.1) (rN s.2.1); simp only [rOn]; omega
  repeat' (first
      | refine zGr_m1.mpr ?_
      | refine zGr_m9.mpr ?_
      | refine zGr_m14.mpr ?_
      | refine zGr_m16.mpr ?_
      | refine zGi_m0.mpr ?_
      | refine zGi_m2.mpr ?_
      | refine zGi_m3.mpr ?_
      | refine zGi_m4.mpr ?_
      | refine zGi_m5.mpr ?_
      | refine zGi_m6.mpr ?_
      | refine zGi_m7.mpr ?_
      | refine zGi_m8.mpr ?_
      | refine zGi_m10.mpr ?_
      | refine zGi_m11.mpr ?_
      | refine zGi_m12.mpr ?_
      | refine zGi_m13.mpr ?_
      | refine zGi_m15.mpr ?_
      | refine zGi_m17.mpr ?_
      | refine (zPf_m0 D).mpr ?_
      | refine (zPf_m2 D).mpr ?_
      | refine (zPf_m3 D).mpr ?_
      | refine (zPf_m4 D).mpr ?_
      | refine (zPf_m5 D).mpr ?_
      | refine (zPf_m6 D).mpr ?_
      | refine (zPf_m7 D).mpr ?_
      | refine (zPf_m8 D).mpr ?_
      | refine (zPf_m10 D).mpr ?_
      | refine (zPf_m11 D).mpr ?_
      | refine (zPf_m12 D).mpr ?_
      | refine (zPf_m13 D).mpr ?_
      | refine (zPf_m15 D).mpr ?_
      | refine (zPf_m17 D).mpr ?_
      | refine (zAi_all D).mpr ⟨(by first | exact pk_in 0 _ (by decide) | exact pk_in 1 _ (by decide) | exact pk_in 2 _ (by decide) | exact pk_in 3 _ (by decide) | exact pk_in 4 _ (by decide) | exact pk_in 5 _ (by decide) | exact pk_in 6 _ (by decide) | exact pk_in 7 _ (by decide) | exact pk_in 8 _ (by decide) | exact pk_in 9 _ (by decide) | exact pk_in 10 _ (by decide)), ?_⟩
      | refine (zSt1_all D).mpr ⟨(by first | exact pk_in 0 _ (by decide) | exact pk_in 1 _ (by decide) | exact pk_in 2 _ (by decide) | exact pk_in 3 _ (by decide) | exact pk_in 4 _ (by decide) | exact pk_in 5 _ (by decide) | exact pk_in 6 _ (by decide) | exact pk_in 7 _ (by decide) | exact pk_in 8 _ (by decide) | exact pk_in 9 _ (by decide) | exact pk_in 10 _ (by decide)), ?_⟩
      | with_reducible refine zMc (s_rowMany ht D hN (by omega) (d := d - 1)) (by omega) (Nat.le_refl _) ?_
      | with_reducible refine zMc (s_onBridge ht D hN (by omega) (d := d - 1)) (by omega) (Nat.le_refl _) ?_
      | refine ⟨fun _ => ?_, fun _ => ?_⟩
      | fail)
  all_goals
    refine ⟨Nat.le_refl _, ?_⟩
    show _ = _
    simp_all [mLk, rLk, nI_0e (q1 _), nI_0l q2, zl_0, zl_1, zl_2, zl_3, zl_4, zl_5, zl_6, zl_7, zl_8, zl_9, zl_10, zl_11, zl_37, zl_40, zl_60, zl_99, zl_411]
end ZM6
