/-! the model: a tick, ticks -/
def mWf (s : zMS) (k : Nat) : zMS := if rc s.2.1 k 2 = 0 then zMa s (11 + 10 * k + 7) (rc s.2.1 k 7 + 1) else s
def mWt (s : zMS) (n : Nat) : zMS := zfo mWf s n
theorem mWt_lo (s : zMS) (i : Nat) (hi : i < 11) : ∀ n, (mWt s n).2.1 i = s.2.1 i
  | 0 => rfl
  | n + 1 => by
    show (mWf (mWt s n) n).2.1 i = _
    rw [mWf]
    split
    · rw [zMa_lo _ _ _ _ (by omega), mWt_lo s i hi n]
    · exact mWt_lo s i hi n
theorem mLk_lo (s : zMS) (i : Nat) (h5 : i ≠ 5) (h6 : i ≠ 6) : (mLk s).2.1 i = s.2.1 i := by
  simp only [mLk]
  split
  · rw [zMa_lo _ _ _ _ (by omega), zMa_lo _ _ _ _ (by omega)]
  · rfl
theorem mAg_lo (s : zMS) (i : Nat) (hi : i < 11) (h7 : i ≠ 7) : (mAg s).2.1 i = s.2.1 i := by
  rw [mAg, mUp_lo i hi h7, mDn_lo i hi h7]
theorem mMe_lo (g i : Nat) (hi : i < 10) : ∀ (f : Nat) (s : zMS), (mMe g f s).2.1 i = s.2.1 i
  | 0, _ => rfl
  | f + 1, s => by
    simp only [mMe]
    split
    · rfl
    · rw [mMe_lo g i hi f, mTr_lo _ _ _ _ hi]
/-- ahead of the mending of noses -/
def mT4 (s : zMS) : zMS := mSe (mSe (mLk (mAg s)) 0) 1
def mT5 (g f : Nat) (s : zMS) : zMS := mMe g f (mT4 s)
def mT6 (g f : Nat) (s : zMS) : zMS := zMa (mT5 g f s) 1 ((mT5 g f s).2.1 1 + 1)
def mTk (g f : Nat) (s : zMS) : zMS := mWt (mT6 g f s) (rN s.2.1)
theorem mT4_lo (s : zMS) (i : Nat) (hi : i < 5) : (mT4 s).2.1 i = s.2.1 i := by
  rw [mT4, mSe_lo _ _ _ (by omega) (by omega) (by omega), mSe_lo _ _ _ (by omega) (by omega) (by omega), mLk_lo _ _ (by omega) (by omega), mAg_lo _ _ (by omega) (by omega)]
theorem mT6_lo (g f : Nat) (s : zMS) (i : Nat) (hi : i < 5) (h1 : i ≠ 1) : (mT6 g f s).2.1 i = s.2.1 i := by
  rw [mT6, zMa_lo _ _ _ _ (by omega), mT5, mMe_lo _ _ (by omega), mT4_lo _ _ hi]
theorem mTk_lo (g f : Nat) (s : zMS) (i : Nat) (hi : i < 5) (h1 : i ≠ 1) : (mTk g f s).2.1 i = s.2.1 i := by
  rw [mTk, mWt_lo _ _ (by omega), mT6_lo _ _ _ _ hi h1]
theorem rLw_eq {r r' : Nat → Int32} (e : r' 2 = r 2) (h : rLw r) : rLw r' := by simpa only [rLw, e] using h
/-- what a tick asks of a state -/
def mTok (g f : Nat) (s : zMS) : Prop := rOk s.2.1 ∧ rSk s.2.1 ∧ rLw s.2.1 ∧ mMeOk g f (mT4 s)
section ZM8
variable {l : Launch} {G : zG} {h : zH} {A : zMA} {s : zMS} {d : Nat}
theorem s_goesBy (ht : l.stackTraces = false) (D : zMD G A) (hd : 6 ≤ d) (g f : Nat) (ho : mTok g f s) : zCt l G d MX3_goesBy [.ref A.1] (zMh h A s) 0 (zIr (nI (nAg s)) (zMh h A (mTk g f s))) := by
  refine zCt.of kX3_goesBy ht (by simp [Value.category]) (Nat.le_of_ble_eq_true rfl) ?_
  obtain ⟨hN, hS, hL, hM⟩ := ho
  refine b_X3_goesBy_0 _ ?_
  refine zMc (s_allGoOn ht D hN hS (by omega) (d := d - 1)) (by omega) (Nat.le_refl _) ?_
  refine zMcV (s_looksAtTurn ht D (rOk_eq (mAg_lo s 0 (by omega) (by omega)) hN) (by omega) (d := d - 1)) (by omega) (Nat.le_refl _) ?_
  have a0 : ∀ i, i < 5 → (mLk (mAg s)).2.1 i = s.2.1 i := fun i hi => by rw [mLk_lo _ _ (by omega) (by omega), mAg_lo _ _ (by omega) (by omega)]
  refine zMcV (s_sends ht D (rOk_eq (a0 0 (by omega)) hN) (rLw_eq (a0 2 (by omega)) hL) (by omega) _ (d := d - 1)) (by omega) (Nat.le_refl _) ?_
  have a1 : ∀ i, i < 5 → (mSe (mLk (mAg s)) 0).2.1 i = s.2.1 i := fun i hi => by rw [mSe_lo _ _ _ (by omega) (by omega) (by omega), a0 i hi]
  refine zMcV (s_sends ht D (rOk_eq (a1 0 (by omega)) hN) (rLw_eq (a1 2 (by omega)) hL) (by omega) _ (d := d - 1)) (by omega) (Nat.le_refl _) ?_
  refine zMcV (s_mendsNoses ht D (rOk_eq (mT4_lo s 0 (by omega)) hN) (rSk_eq (mT4_lo s 4 (by omega)) hS) (by omega) g f hM (d := d - 1)) (by omega) (Nat.le_refl _) ?_
  repeat' (first
      | refine zGr_m1.mpr ?_
      | refine zGr_m9.mpr ?_
      | refine zGr_m14.mpr ?_
      | refine zGr_m16.mpr ?_
      | refine zGi_m0.mpr ?_
      | refine zGi_m2.mpr ?_
      | refine zGi_m3.mpr ?_
      | refine zGi_m4.mpr ?_
      | refine zGi_m5.mpr ?_
      | refine zGi_m6.mpr ?_
      | refine zGi_m7.mpr ?_
      | refine zGi_m8.mpr ?_
      | refine zGi_m10.mpr ?_
      | refine zGi_m11.mpr ?_
      | refine zGi_m12.mpr ?_
      | refine zGi_m13.mpr ?_
      | refine zGi_m15.mpr ?_
      | refine zGi_m17.mpr ?_
      | refine (zPf_m0 D).mpr ?_
      | refine (zPf_m2 D).mpr ?_
      | refine (zPf_m3 D).mpr ?_
      | refine (zPf_m4 D).mpr ?_
      | refine (zPf_m5 D).mpr ?_
      | refine (zPf_m6 D).mpr ?_
      | refine (zPf_m7 D).mpr ?_
      | refine (zPf_m8 D).mpr ?_
      | refine (zPf_m10 D).mpr ?_
      | refine (zPf_m11 D).mpr ?_
      | refine (zPf_m12 D).mpr ?_
      | refine (zPf_m13 D).mpr ?_
      | refine (zPf_m15 D).mpr ?_
      | refine (zPf_m17 D).mpr ?_
      | refine (zAi_all D).mpr ⟨(by first | exact pk_in 0 _ (by decide) | exact pk_in 1 _ (by decide) | exact pk_in 2 _ (by decide) | exact pk_in 3 _ (by decide) | exact pk_in 4 _ (by decide) | exact pk_in 5 _ (by decide) | exact pk_in 6 _ (by decide) | exact pk_in 7 _ (by decide) | exact pk_in 8 _ (by decide) | exact pk_in 9 _ (by decide) | exact pk_in 10 _ (by decide)), ?_⟩
      | refine (zSt1_all D).mpr ⟨(by first | exact pk_in 0 _ (by decide) | exact pk_in 1 _ (by decide) | exact pk_in 2 _ (by decide) | exact pk_in 3 _ (by decide) | exact pk_in 4 _ (by decide) | exact pk_in 5 _ (by decide) | exact pk_in 6 _ (by decide) | exact pk_in 7 _ (by decide) | exact pk_in 8 _ (by decide) | exact pk_in 9 _ (by decide) | exact pk_in 10 _ (by decide)), ?_⟩
      | with_reducible refine zMcV (s_set ht D _ _ (zvl_d _ (by decide)) (by omega) (d := d - 1)) (by omega) (Nat.le_refl _) ?_
      | refine ⟨fun _ => ?_, fun _ => ?_⟩
      | fail)
  have e6 : zMa (mMe g f (mT4 s)) (Int32.toNatClampNeg 1) ((mMe g f (mT4 s)).2.1 (Int32.toNatClampNeg 1) + 1) = mT6 g f s := by simp only [zl_0, zl_1, zl_2, zl_3, zl_4, zl_5, zl_6, zl_7, zl_8, zl_9, zl_10, zl_11, zl_37, zl_40, zl_60, zl_99, zl_411]; rfl
  rw [e6]
  have eN : rN s.2.1 = rN (mT6 g f s).2.1 := by simp only [rN, mT6_lo g f s 0 (by omega) (by omega)]
  have hN6 : rOk (mT6 g f s).2.1 := rOk_eq (mT6_lo g f s 0 (by omega) (by omega)) hN
  have e9 : mTk g f s = mWt (mT6 g f s) (rN (mT6 g f s).2.1) := by rw [← eN]; rfl
  rw [e9]
  clear e6 e9
  generalize mT6 g f s = s6 at hN6 ⊢
  refine zInd (N := rN s6.2.1) (P := fun k => zV l G d 0 MX3_goesBy (zIr (nI (nAg s)) (zMh h A (mWt s6 (rN s6.2.1)))) 35 [some (.ref A.1), some (.int (nI (nAg s))), some (.int (nI k))] [] (zMh h A (mWt s6 k)) 0) ?_ 0 (Nat.zero_le _)
  intro k hk ih
  have hN2 := hN6.2
  have hk9 : rN (mWt s6 k).2.1 = rN s6.2.1 := by simp only [rN, mWt_lo s6 0 (by omega) k]
  refine b_X3_goesBy_35 _ _ _ (zLpM D (rOk_eq (mWt_lo s6 0 (by omega) k) hN6) k (by omega) (fun e => ?_) (fun lt => ?_))
  · rw [hk9] at e; subst e; exact ⟨Nat.le_refl _, rfl, rfl⟩
  · rw [hk9] at lt
    have ih := ih lt
    have e1 : mWt s6 (k + 1) = mWf (mWt s6 k) k := rfl
    rw [e1] at ih
    repeat' (first
        | refine zGr_m1.mpr ?_
        | refine zGr_m9.mpr ?_
        | refine zGr_m14.mpr ?_
        | refine zGr_m16.mpr ?_
        | refine zGi_m0.mpr ?_
        | refine zGi_m2.mpr ?_
        | refine zGi_m3.mpr ?_
        | refine zGi_m4.mpr ?_
        | refine zGi_m5.mpr ?_
        | refine zGi_m6.mpr ?_
        | refine zGi_m7.mpr ?_
        | refine zGi_m8.mpr ?_
        | refine zGi_m10.mpr ?_
        | refine zGi_m11.mpr ?_
        | refine zGi_m12.mpr ?_
        | refine zGi_m13.mpr ?_
        | refine zGi_m15.mpr ?_
        | refine zGi_m17.mpr ?_
        | refine (zPf_m0 D).mpr ?_
        | refine (zPf_m2 D).mpr ?_
        | refine (zPf_m3 D).mpr ?_
        | refine (zPf_m4 D).mpr ?_
        | refine (zPf_m5 D).mpr ?_
        | refine (zPf_m6 D).mpr ?_
        | refine (zPf_m7 D).mpr ?_
        | refine (zPf_m8 D).mpr ?_
        | refine (zPf_m10 D).mpr ?_
        | refine (zPf_m11 D).mpr ?_
        | refine (zPf_m12 D).mpr ?_
        | refine (zPf_m13 D).mpr ?_
        | refine (zPf_m15 D).mpr ?_
        | refine (zPf_m17 D).mpr ?_
        | refine (zAi_all D).mpr ⟨(by first | exact pk_in 0 _ (by decide) | exact pk_in 1 _ (by decide) | exact pk_in 2 _ (by decide) | exact pk_in 3 _ (by decide) | exact pk_in 4 _ (by decide) | exact pk_in 5 _ (by decide) | exact pk_in 6 _ (by decide) | exact pk_in 7 _ (by decide) | exact pk_in 8 _ (by decide) | exact pk_in 9 _ (by decide) | exact pk_in 10 _ (by decide)), ?_⟩
        | refine (zSt1_all D).mpr ⟨(by first | exact pk_in 0 _ (by decide) | exact pk_in 1 _ (by decide) | exact pk_in 2 _ (by decide) | exact pk_in 3 _ (by decide) | exact pk_in 4 _ (by decide) | exact pk_in 5 _ (by decide) | exact pk_in 6 _ (by decide) | exact pk_in 7 _ (by decide) | exact pk_in 8 _ (by decide) | exact pk_in 9 _ (by decide) | exact pk_in 10 _ (by decide)), ?_⟩
        | with_reducible refine zMc (s_c ht D _ _ (zvl_d _ (by decide)) (by omega) (d := d - 1)) (by omega) (Nat.le_refl _) ?_
        | with_reducible refine zMcV (s_set ht D _ _ (zvl_d _ (by decide)) (by omega) (d := d - 1)) (by omega) (Nat.le_refl _) ?_
        | refine ⟨fun _ => ?_, fun _ => ?_⟩
        | fail)
    · rename_i c
      rw [nI_1]
      rw [mWf, if_neg (by simpa [zl_0, zl_1, zl_2, zl_3, zl_4, zl_5, zl_6, zl_7, zl_8, zl_9, zl_10, zl_11, zl_37, zl_40, zl_60, zl_99, zl_411] using c)] at ih
      exact ih
    · rename_i c
      rw [nI_1]
      rw [mWf, if_pos (by simpa [zl_0, zl_1, zl_2, zl_3, zl_4, zl_5, zl_6, zl_7, zl_8, zl_9, zl_10, zl_11, zl_37, zl_40, zl_60, zl_99, zl_411] using c)] at ih
      exact ih
/-- n ticks, and what they sum up -/
def mTs (g f : Nat) : Nat → zMS → zMS
  | 0, s => s
  | n + 1, s => mTs g f n (mTk g f s)
def nTs (g f : Nat) : Nat → zMS → Nat
  | 0, _ => 0
  | n + 1, s => nAg s + nTs g f n (mTk g f s)
def mTsOk (g f : Nat) : Nat → zMS → Prop
  | 0, _ => True
  | n + 1, s => mTok g f s ∧ mTsOk g f n (mTk g f s)
theorem mTk_f (g f : Nat) (s : zMS) : (mTk g f s).1 = s.1 ∧ (mTk g f s).2.2 = s.2.2 := by
  have za : ∀ (s : zMS) i v, (zMa s i v).1 = s.1 ∧ (zMa s i v).2.2 = s.2.2 := fun _ _ _ => ⟨rfl, rfl⟩
  have hwf : ∀ (s : zMS) k, (mWf s k).1 = s.1 ∧ (mWf s k).2.2 = s.2.2 := fun s k => by rw [mWf]; split <;> first | exact za _ _ _ | exact ⟨rfl, rfl⟩
  have hw : ∀ (s : zMS) n, (mWt s n).1 = s.1 ∧ (mWt s n).2.2 = s.2.2 := fun s n => by
    induction n with
    | zero => exact ⟨rfl, rfl⟩
    | succ n ih => exact ⟨(hwf _ _).1.trans ih.1, (hwf _ _).2.trans ih.2⟩
  have hse : ∀ (s : zMS) x, (mSe s x).1 = s.1 ∧ (mSe s x).2.2 = s.2.2 := fun s x => by
    simp only [mSe]
    generalize (if x = 0 then (0 : Int32) else s.2.1 4 - 1) = sp
    split
    · exact ⟨rfl, rfl⟩
    · split <;> exact ⟨rfl, rfl⟩
  have hlk : ∀ (s : zMS), (mLk s).1 = s.1 ∧ (mLk s).2.2 = s.2.2 := fun s => by simp only [mLk]; split <;> exact ⟨rfl, rfl⟩
  have hgo : ∀ (s : zMS) k, (mGo s k).1 = s.1 ∧ (mGo s k).2.2 = s.2.2 := fun s k => by
    simp only [mGo]; split
    · split <;> exact ⟨rfl, rfl⟩
    · split <;> exact ⟨rfl, rfl⟩
  have hpr : ∀ (s : zMS) sp x, (mPr s sp x).1 = s.1 ∧ (mPr s sp x).2.2 = s.2.2 := fun s sp x => by
    simp only [mPr]; split
    · exact ⟨rfl, rfl⟩
    · split
      · exact hgo _ _
      · exact ⟨rfl, rfl⟩
  have hup : ∀ j sp (s : zMS), (mUp sp j s).1 = s.1 ∧ (mUp sp j s).2.2 = s.2.2 := fun j => by
    induction j with
    | zero => exact fun sp s => ⟨rfl, rfl⟩
    | succ j ih => exact fun sp s => ⟨(ih _ _).1.trans (hpr _ _ _).1, (ih _ _).2.trans (hpr _ _ _).2⟩
  have hdn : ∀ j (s : zMS), (mDn j s).1 = s.1 ∧ (mDn j s).2.2 = s.2.2 := fun j => by
    induction j with
    | zero => exact fun s => ⟨rfl, rfl⟩
    | succ j ih => exact fun s => ⟨(ih _).1.trans (hpr _ _ _).1, (ih _).2.trans (hpr _ _ _).2⟩
  have htr : ∀ f x (s : zMS), (mTr f x s).1 = s.1 ∧ (mTr f x s).2.2 = s.2.2 := fun f => by
    induction f with
    | zero => exact fun x s => ⟨rfl, rfl⟩
    | succ f ih =>
      intro x s
      rw [mTr]
      split
      · exact ⟨rfl, rfl⟩
      · exact ih _ _
  have hme : ∀ f (s : zMS), (mMe g f s).1 = s.1 ∧ (mMe g f s).2.2 = s.2.2 := fun f => by
    induction f with
    | zero => exact fun s => ⟨rfl, rfl⟩
    | succ f ih =>
      intro s
      simp only [mMe]
      split
      · exact ⟨rfl, rfl⟩
      · exact ⟨(ih _).1.trans (htr _ _ _).1, (ih _).2.trans (htr _ _ _).2⟩
  constructor
  · rw [mTk, (hw _ _).1, mT6, (za _ _ _).1, mT5, (hme _ _).1, mT4, (hse _ _).1, (hse _ _).1, (hlk _).1, mAg, (hup _ _ _).1, (hdn _ _).1]
  · rw [mTk, (hw _ _).2, mT6, (za _ _ _).2, mT5, (hme _ _).2, mT4, (hse _ _).2, (hse _ _).2, (hlk _).2, mAg, (hup _ _ _).2, (hdn _ _).2]
end ZM8
