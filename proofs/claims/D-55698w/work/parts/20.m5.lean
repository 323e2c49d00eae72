/-! the model: noses are mended, carts go on, turns, sending -/
def rSp (r : Nat → Int32) : Nat := (r 4).toNatClampNeg
def rSk (r : Nat → Int32) : Prop := r 4 = nI (rSp r) ∧ rSp r ≤ 8
theorem rSk_eq {r r' : Nat → Int32} (e : r' 4 = r 4) (hN : rSk r) : rSk r' := by
  simp only [rSk, rSp, e] at hN ⊢; exact hN
theorem mTc_lo (s : zMS) (k i : Nat) (hi : i < 10) : (mTc s k).2.1 i = s.2.1 i := by
  simp only [mTc, zMa, zuf]
  rw [if_neg (by omega), if_neg (by omega), if_neg (by omega)]
theorem mTr_lo : ∀ (f : Nat) (x : Int32) (s : zMS) (i : Nat), i < 10 → (mTr f x s).2.1 i = s.2.1 i
  | 0, _, _, _, _ => rfl
  | f + 1, x, s, i, hi => by
    rw [mTr]
    split
    · rfl
    · rw [mTr_lo f _ _ i hi, mTc_lo _ _ _ hi]
/-- which of two runs turns round -/
def rWh (g : Nat) (r : Nat → Int32) (a b : Int32) : Int32 :=
  let more := rLr r g a - rLr r g b
  if more < 0 then a else if more = 0 then (if a ≤ b then b else a) else b
def rOt (r : Nat → Int32) (a : Int32) : Int32 := rCo r (rc r a.toNatClampNeg 3 + 1)
def mMe (g : Nat) : Nat → zMS → zMS
  | 0, s => s
  | f + 1, s =>
    let a := rNo s.2.1 0 (rSp s.2.1 - 1)
    if a = -1 then s else mMe g f (mTr g (rWh g s.2.1 a (rOt s.2.1 a)) s)
def mMeOk (g : Nat) : Nat → zMS → Prop
  | 0, s => rNo s.2.1 0 (rSp s.2.1 - 1) = -1
  | f + 1, s =>
    let a := rNo s.2.1 0 (rSp s.2.1 - 1)
    a = -1 ∨ ((∃ k, k ≤ 40 ∧ a = nI k) ∧ rCh s.2.1 g a ∧ rCh s.2.1 g (rOt s.2.1 a) ∧ mTrc g (rWh g s.2.1 a (rOt s.2.1 a)) s ∧ mMeOk g f (mTr g (rWh g s.2.1 a (rOt s.2.1 a)) s))
section ZM5
variable {l : Launch} {G : zG} {h : zH} {A : zMA} {s : zMS} {d : Nat}
theorem s_mendsNoses (ht : l.stackTraces = false) (D : zMD G A) (hN : rOk s.2.1) (hS : rSk s.2.1) (hd : 5 ≤ d) (g f : Nat) (ho : mMeOk g f s) : zCt l G d MX3_mendsNoses [.ref A.1] (zMh h A s) 0 (zVr (zMh h A (mMe g f s))) := by
  refine zCt.of kX3_mendsNoses ht (by simp [Value.category]) (Nat.le_of_ble_eq_true rfl) ?_
  refine b_X3_mendsNoses_0 _ ?_
  have H : ∀ f (s : zMS), rOk s.2.1 → rSk s.2.1 → mMeOk g f s → ∀ Q, Q = zVr (zMh h A (mMe g f s)) → zV l G d 0 MX3_mendsNoses Q 6 [some (.ref A.1), some (.int (rNo s.2.1 0 (rSp s.2.1 - 1))), none, none, none, none] [] (zMh h A s) 0 := by
    intro f
    induction f with
    | zero =>
      intro s hN hS ho Q hQ
      subst hQ
      exact b_X3_mendsNoses_6 _ _ ⟨fun _ => ⟨Nat.le_refl _, rfl⟩, fun c => absurd ho c⟩
    | succ f ih =>
      intro s hN hS ho Q hQ
      subst hQ
      refine b_X3_mendsNoses_6 _ _ ⟨fun c => ⟨Nat.le_refl _, ?_⟩, fun c => ?_⟩
      · show _ = _
        simp only [mMe, if_pos c]
      · obtain ⟨⟨k, hk, e⟩, h1, h2, h3, h4⟩ := ho.resolve_left c
        have hN' : ∀ x, rOk (mTr g x s).2.1 := fun x => rOk_eq (mTr_lo _ _ _ _ (by omega)) hN
        have hS' : ∀ x, rSk (mTr g x s).2.1 := fun x => rSk_eq (mTr_lo _ _ _ _ (by omega)) hS
        have e2 : mMe g (f + 1) s = mMe g f (mTr g (rWh g s.2.1 (rNo s.2.1 0 (rSp s.2.1 - 1)) (rOt s.2.1 (rNo s.2.1 0 (rSp s.2.1 - 1)))) s) := by
          simp only [mMe, if_neg c]
        rw [e2]
        clear e2
        rw [e] at h1 h2 h3 h4 c ⊢
        have z1 := nI_clamp (show k < 2 ^ 31 by omega)
        have eo : rCo s.2.1 (rc s.2.1 k 3 + 1) = rOt s.2.1 (nI k) := by rw [rOt, z1]
        refine zMc (s_c ht D _ _ (zvl_d _ (by decide)) (by omega) (d := d - 1)) (by omega) (Nat.le_refl _) ?_
        refine zMc (s_cartOn ht D hN (by omega) _ (d := d - 1)) (by omega) (Nat.le_refl _) ?_
        simp only [zl_0, zl_1, zl_2, zl_3, zl_4, zl_5, zl_6, zl_7, zl_8, zl_9, zl_10, zl_11, zl_37, zl_40, zl_60, zl_99, zl_411]
        rw [eo]
        generalize rOt s.2.1 (nI k) = o at h2 h3 h4 ⊢
        refine zMc (s_loadOfRun ht D hN (by omega) g _ h1 (d := d - 1)) (by omega) (Nat.le_refl _) ?_
        refine zMc (s_loadOfRun ht D hN (by omega) g _ h2 (d := d - 1)) (by omega) (Nat.le_refl _) ?_
        have key : ∀ x, x = rWh g s.2.1 (nI k) o → zOc (zMh h A s) A.1 10 (zCall l G d 0 MX3_turnsRun [.ref A.1, .int x] (zMh h A s) 0 (zRI (zXo 0 (zVr (zMh h A (mMe g f (mTr g (rWh g s.2.1 (nI k) o) s))))) (fun x17 h16 n15 => zOc h16 A.1 10 (zCall l G d 0 MX3_nose [.ref A.1, .int 0] h16 n15 (zRI (zXo 0 (zVr (zMh h A (mMe g f (mTr g (rWh g s.2.1 (nI k) o) s))))) (fun x20 h19 n18 => zV l G d 0 MX3_mendsNoses (zVr (zMh h A (mMe g f (mTr g (rWh g s.2.1 (nI k) o) s)))) 6 [some (.ref A.1), some (.int x20), none, none, none, none] [] h19 n18)))))) := by
          intro x hx
          subst hx
          refine zMc (s_turnsRun ht D hN (by omega) g _ h3 (d := d - 1)) (by omega) (Nat.le_refl _) ?_
          refine zMc (s_nose ht D (hN' _) (by omega) _ (hS' _).1 (hS' _).2 0 rfl (by omega) (d := d - 1)) (by omega) (Nat.le_refl _) ?_
          exact ih _ (hN' _) (hS' _) h4 _ rfl
        refine ⟨fun c1 => key _ ?_, fun c1 => ⟨fun c2 => key _ ?_, fun c2 => ⟨fun c3 => key _ ?_, fun c3 => key _ ?_⟩⟩⟩
        · simp only [rWh, if_pos c1]
        · simp only [rWh, if_neg c1, if_neg c2]
        · simp only [rWh, if_neg c1, if_pos (Decidable.not_not.mp c2), if_pos c3]
        · simp only [rWh, if_neg c1, if_pos (Decidable.not_not.mp c2), if_neg c3]
  refine zMc (s_nose ht D hN (by omega) _ hS.1 hS.2 0 rfl (by omega) (d := d - 1)) (by omega) (Nat.le_refl _) ?_
  exact H f s hN hS ho _ rfl
/-! a cart goes on -/
def rNx (r : Nat → Int32) (k : Nat) : Int32 := if rc r k 4 = 1 then rc r k 3 + 1 else rc r k 3 - 1
def rIn (r : Nat → Int32) (k : Nat) : Bool := zbt (rNx r k) 0 (r 4 - 1)
def rBk (r : Nat → Int32) (k : Nat) : Bool := rc r k 0 == rc r k 4
def mGo (s : zMS) (k : Nat) : zMS :=
  if rIn s.2.1 k then (if rCo s.2.1 (rNx s.2.1 k) = -1 then zMa s (11 + 10 * k + 3) (rNx s.2.1 k) else s)
  else
    let s1 := zMa s (11 + 10 * k + 3) (-1)
    if rBk s.2.1 k then zMa (zMa s1 (11 + 10 * k + 2) 0) (11 + 10 * k + 8) (rKe s.2.1 (rc s.2.1 k 0) 1)
    else
      let s2 := zMa s1 (11 + 10 * k + 2) 2
      let s3 := zMa s2 (11 + 10 * k + 9) (s2.2.1 7)
      zMa s3 7 (s3.2.1 7 + 1)
def rGb (r : Nat → Int32) (k : Nat) : Bool := !rIn r k && !rBk r k
theorem s_goesOn (ht : l.stackTraces = false) (D : zMD G A) (hN : rOk s.2.1) (hd : 3 ≤ d) (k : Nat) (hk : k ≤ 40) : zCt l G d MX3_goesOn [.ref A.1, .int (nI k)] (zMh h A s) 0 (zIr (zbi (rGb s.2.1 k)) (zMh h A (mGo s k))) := by
  refine zCt.of kX3_goesOn ht (by simp [Value.category]) (Nat.le_of_ble_eq_true rfl) ?_
  refine b_X3_goesOn_0 _ _ ?_
  have hN2 := hN.2
  have H94 : ∀ (e9 nx : Int32), rIn s.2.1 k = false → ∀ b, rBk s.2.1 k = b → zV l G d 0 MX3_goesOn (zIr (zbi (rGb s.2.1 k)) (zMh h A (mGo s k))) 94 [some (.ref A.1), some (.int (nI k)), some (.int e9), some (.int nx), none, none] [.int (zbi b)] (zMh h A s) 0 := by
    intro e9 nx hi b hb
    refine b_X3_goesOn_94 _ _ _ _ _ ?_
    refine zMc (s_c ht D _ _ (zvl_d _ (by decide)) (by omega) (d := d - 1)) (by omega) (Nat.le_refl _) ?_
    refine zMc (s_keyAt ht D hN (by omega) _ _ (d := d - 1)) (by omega) (Nat.le_refl _) ?_
    refine zMcV (s_set ht D _ _ (zvl_d _ (by decide)) (by omega) (d := d - 1)) (by omega) (Nat.le_refl _) ?_
    cases b
    · refine ⟨fun _ => ?_, fun c => absurd rfl c⟩
      refine b_X3_goesOn_129 _ _ _ _ _ _ _ _ _ _ (zMcV (s_set ht D _ _ (zvl_d _ (by decide)) (by omega) (d := d - 1)) (by omega) (Nat.le_refl _) ⟨fun _ => ?_, fun c => absurd rfl c⟩)
      refine b_X3_goesOn_146 _ _ _ _ _ _ ⟨fun c => absurd rfl c, fun _ => ?_⟩
      repeat' (first
          | refine zGr_m1.mpr ?_
          | refine zGr_m9.mpr ?_
          | refine zGr_m14.mpr ?_
          | refine zGr_m16.mpr ?_
          | refine zGi_m0.mpr ?_
          | refine zGi_m2.mpr ?_
          | refine zGi_m3.mpr ?_
          | refine zGi_m4.mpr ?_
          | refine zGi_m5.mpr ?_
          | refine zGi_m6.mpr ?_
          | refine zGi_m7.mpr ?_
          | refine zGi_m8.mpr ?_
          | refine zGi_m10.mpr ?_
          | refine zGi_m11.mpr ?_
          | refine zGi_m12.mpr ?_
          | refine zGi_m13.mpr ?_
          | refine zGi_m15.mpr ?_
          | refine zGi_m17.mpr ?_
          | refine (zPf_m0 D).mpr ?_
          | refine (zPf_m2 D).mpr ?_
          | refine (zPf_m3 D).mpr ?_
          | refine (zPf_m4 D).mpr ?_
          | refine (zPf_m5 D).mpr ?_
          | refine (zPf_m6 D).mpr ?_
          | refine (zPf_m7 D).mpr ?_
          | refine (zPf_m8 D).mpr ?_
          | refine (zPf_m10 D).mpr ?_
          | refine (zPf_m11 D).mpr ?_
          | refine (zPf_m12 D).mpr ?_
          | refine (zPf_m13 D).mpr ?_
          | refine (zPf_m15 D).mpr ?_
          | refine (zPf_m17 D).mpr ?_
          | refine (zAi_all D).mpr ⟨(by first | exact pk_in 0 _ (by decide) | exact pk_in 1 _ (by decide) | exact pk_in 2 _ (by decide) | exact pk_in 3 _ (by decide) | exact pk_in 4 _ (by decide) | exact pk_in 5 _ (by decide) | exact pk_in 6 _ (by decide) | exact pk_in 7 _ (by decide) | exact pk_in 8 _ (by decide) | exact pk_in 9 _ (by decide) | exact pk_in 10 _ (by decide)), ?_⟩
          | refine (zSt1_all D).mpr ⟨(by first | exact pk_in 0 _ (by decide) | exact pk_in 1 _ (by decide) | exact pk_in 2 _ (by decide) | exact pk_in 3 _ (by decide) | exact pk_in 4 _ (by decide) | exact pk_in 5 _ (by decide) | exact pk_in 6 _ (by decide) | exact pk_in 7 _ (by decide) | exact pk_in 8 _ (by decide) | exact pk_in 9 _ (by decide) | exact pk_in 10 _ (by decide)), ?_⟩
          | with_reducible refine zMcV (s_set ht D _ _ (zvl_d _ (by decide)) (by omega) (d := d - 1)) (by omega) (Nat.le_refl _) ?_
          | refine ⟨fun _ => ?_, fun _ => ?_⟩
          | fail)
      refine b_X3_goesOn_176 _ _ _ _ _ _ ⟨fun c => absurd rfl c, fun _ => ?_⟩
      refine b_X3_goesOn_186 _ _ _ _ _ _ _ ⟨rfl, Nat.le_refl _, ?_, ?_⟩
      · simp [rGb, hi, hb, zbi]
      · simp [mGo, hi, hb, zl_0, zl_1, zl_2, zl_3, zl_4, zl_5, zl_6, zl_7, zl_8, zl_9, zl_10, zl_11, zl_37, zl_40, zl_60, zl_99, zl_411]
    · refine ⟨fun c => absurd c (by decide), fun _ => ?_⟩
      refine b_X3_goesOn_129 _ _ _ _ _ _ _ _ _ _ (zMcV (s_set ht D _ _ (zvl_d _ (by decide)) (by omega) (d := d - 1)) (by omega) (Nat.le_refl _) ⟨fun c => absurd c (by decide), fun _ => zMcV (s_set ht D _ _ (zvl_d _ (by decide)) (by omega) (d := d - 1)) (by omega) (Nat.le_refl _) ?_⟩)
      refine b_X3_goesOn_146 _ _ _ _ _ _ ⟨fun _ => ?_, fun c => absurd (fun e => by cases e) c⟩
      refine b_X3_goesOn_176 _ _ _ _ _ _ ⟨fun _ => ?_, fun c => absurd (fun e => by cases e) c⟩
      refine b_X3_goesOn_186 _ _ _ _ _ _ _ ⟨rfl, Nat.le_refl _, ?_, ?_⟩
      · simp [rGb, hi, hb, zbi]
      · simp [mGo, hi, hb, zl_0, zl_1, zl_2, zl_3, zl_4, zl_5, zl_6, zl_7, zl_8, zl_9, zl_10, zl_11, zl_37, zl_40, zl_60, zl_99, zl_411]
  have H39 : ∀ (e9 : Int32), zV l G d 0 MX3_goesOn (zIr (zbi (rGb s.2.1 k)) (zMh h A (mGo s k))) 39 [some (.ref A.1), some (.int (nI k)), some (.int e9), none, none, none] [.int (rNx s.2.1 k)] (zMh h A s) 0 := by
    intro e9
    refine b_X3_goesOn_39 _ _ _ _ (zGr_m1.mpr ((zAi_all D).mpr ⟨pk_in 4 _ (by decide), zCall.P (s_in ht (d := d - 1)) (by omega) (Nat.le_refl _) ?_⟩))
    cases hb : zbt (rNx s.2.1 k) 0 (s.2.1 (Int32.toNatClampNeg 4) - 1)
    · have hi : rIn s.2.1 k = false := hb
      refine ⟨fun _ => ?_, fun c => absurd rfl c⟩
      repeat' (first
          | refine zGr_m1.mpr ?_
          | refine zGr_m9.mpr ?_
          | refine zGr_m14.mpr ?_
          | refine zGr_m16.mpr ?_
          | refine zGi_m0.mpr ?_
          | refine zGi_m2.mpr ?_
          | refine zGi_m3.mpr ?_
          | refine zGi_m4.mpr ?_
          | refine zGi_m5.mpr ?_
          | refine zGi_m6.mpr ?_
          | refine zGi_m7.mpr ?_
          | refine zGi_m8.mpr ?_
          | refine zGi_m10.mpr ?_
          | refine zGi_m11.mpr ?_
          | refine zGi_m12.mpr ?_
          | refine zGi_m13.mpr ?_
          | refine zGi_m15.mpr ?_
          | refine zGi_m17.mpr ?_
          | refine (zPf_m0 D).mpr ?_
          | refine (zPf_m2 D).mpr ?_
          | refine (zPf_m3 D).mpr ?_
          | refine (zPf_m4 D).mpr ?_
          | refine (zPf_m5 D).mpr ?_
          | refine (zPf_m6 D).mpr ?_
          | refine (zPf_m7 D).mpr ?_
          | refine (zPf_m8 D).mpr ?_
          | refine (zPf_m10 D).mpr ?_
          | refine (zPf_m11 D).mpr ?_
          | refine (zPf_m12 D).mpr ?_
          | refine (zPf_m13 D).mpr ?_
          | refine (zPf_m15 D).mpr ?_
          | refine (zPf_m17 D).mpr ?_
          | refine (zAi_all D).mpr ⟨(by first | exact pk_in 0 _ (by decide) | exact pk_in 1 _ (by decide) | exact pk_in 2 _ (by decide) | exact pk_in 3 _ (by decide) | exact pk_in 4 _ (by decide) | exact pk_in 5 _ (by decide) | exact pk_in 6 _ (by decide) | exact pk_in 7 _ (by decide) | exact pk_in 8 _ (by decide) | exact pk_in 9 _ (by decide) | exact pk_in 10 _ (by decide)), ?_⟩
          | refine (zSt1_all D).mpr ⟨(by first | exact pk_in 0 _ (by decide) | exact pk_in 1 _ (by decide) | exact pk_in 2 _ (by decide) | exact pk_in 3 _ (by decide) | exact pk_in 4 _ (by decide) | exact pk_in 5 _ (by decide) | exact pk_in 6 _ (by decide) | exact pk_in 7 _ (by decide) | exact pk_in 8 _ (by decide) | exact pk_in 9 _ (by decide) | exact pk_in 10 _ (by decide)), ?_⟩
          | with_reducible refine zMc (s_c ht D _ _ (zvl_d _ (by decide)) (by omega) (d := d - 1)) (by omega) (Nat.le_refl _) ?_
          | refine ⟨fun _ => ?_, fun _ => ?_⟩
          | fail)
      · rename_i c
        exact H94 _ _ hi false (by simpa [rBk, zl_0, zl_1, zl_2, zl_3, zl_4, zl_5, zl_6, zl_7, zl_8, zl_9, zl_10, zl_11, zl_37, zl_40, zl_60, zl_99, zl_411] using c)
      · rename_i c
        exact H94 _ _ hi true (by simpa [rBk, zl_0, zl_1, zl_2, zl_3, zl_4, zl_5, zl_6, zl_7, zl_8, zl_9, zl_10, zl_11, zl_37, zl_40, zl_60, zl_99, zl_411] using c)
    · have hi : rIn s.2.1 k = true := hb
      refine ⟨fun c => absurd c (by decide), fun _ => ?_⟩
      repeat' (first
          | refine zGr_m1.mpr ?_
          | refine zGr_m9.mpr ?_
          | refine zGr_m14.mpr ?_
          | refine zGr_m16.mpr ?_
          | refine zGi_m0.mpr ?_
          | refine zGi_m2.mpr ?_
          | refine zGi_m3.mpr ?_
          | refine zGi_m4.mpr ?_
          | refine zGi_m5.mpr ?_
          | refine zGi_m6.mpr ?_
          | refine zGi_m7.mpr ?_
          | refine zGi_m8.mpr ?_
          | refine zGi_m10.mpr ?_
          | refine zGi_m11.mpr ?_
          | refine zGi_m12.mpr ?_
          | refine zGi_m13.mpr ?_
          | refine zGi_m15.mpr ?_
          | refine zGi_m17.mpr ?_
          | refine (zPf_m0 D).mpr ?_
          | refine (zPf_m2 D).mpr ?_
          | refine (zPf_m3 D).mpr ?_
          | refine (zPf_m4 D).mpr ?_
          | refine (zPf_m5 D).mpr ?_
          | refine (zPf_m6 D).mpr ?_
          | refine (zPf_m7 D).mpr ?_
          | refine (zPf_m8 D).mpr ?_
          | refine (zPf_m10 D).mpr ?_
          | refine (zPf_m11 D).mpr ?_
          | refine (zPf_m12 D).mpr ?_
          | refine (zPf_m13 D).mpr ?_
          | refine (zPf_m15 D).mpr ?_
          | refine (zPf_m17 D).mpr ?_
          | refine (zAi_all D).mpr ⟨(by first | exact pk_in 0 _ (by decide) | exact pk_in 1 _ (by decide) | exact pk_in 2 _ (by decide) | exact pk_in 3 _ (by decide) | exact pk_in 4 _ (by decide) | exact pk_in 5 _ (by decide) | exact pk_in 6 _ (by decide) | exact pk_in 7 _ (by decide) | exact pk_in 8 _ (by decide) | exact pk_in 9 _ (by decide) | exact pk_in 10 _ (by decide)), ?_⟩
          | refine (zSt1_all D).mpr ⟨(by first | exact pk_in 0 _ (by decide) | exact pk_in 1 _ (by decide) | exact pk_in 2 _ (by decide) | exact pk_in 3 _ (by decide) | exact pk_in 4 _ (by decide) | exact pk_in 5 _ (by decide) | exact pk_in 6 _ (by decide) | exact pk_in 7 _ (by decide) | exact pk_in 8 _ (by decide) | exact pk_in 9 _ (by decide) | exact pk_in 10 _ (by decide)), ?_⟩
          | with_reducible refine zMcV (s_set ht D _ _ (zvl_d _ (by decide)) (by omega) (d := d - 1)) (by omega) (Nat.le_refl _) ?_
          | with_reducible refine zMc (s_cartOn ht D hN (by omega) _ (d := d - 1)) (by omega) (Nat.le_refl _) ?_
          | refine ⟨fun _ => ?_, fun _ => ?_⟩
          | fail)
      · rename_i c
        refine b_X3_goesOn_72 _ _ _ _ ⟨Nat.le_refl _, ?_, ?_⟩
        · simp [rGb, hi, zbi]
        · simp [mGo, hi, c]
      · rename_i c
        refine b_X3_goesOn_72 _ _ _ _ ⟨Nat.le_refl _, ?_, ?_⟩
        · simp [rGb, hi, zbi]
        · simp [mGo, hi, Decidable.not_not.mp c, zl_0, zl_1, zl_2, zl_3, zl_4, zl_5, zl_6, zl_7, zl_8, zl_9, zl_10, zl_11, zl_37, zl_40, zl_60, zl_99, zl_411]
  repeat' (first
      | refine zGr_m1.mpr ?_
      | refine zGr_m9.mpr ?_
      | refine zGr_m14.mpr ?_
      | refine zGr_m16.mpr ?_
      | refine zGi_m0.mpr ?_
      | refine zGi_m2.mpr ?_
      | refine zGi_m3.mpr ?_
      | refine zGi_m4.mpr ?_
      | refine zGi_m5.mpr ?_
      | refine zGi_m6.mpr ?_
      | refine zGi_m7.mpr ?_
      | refine zGi_m8.mpr ?_
      | refine zGi_m10.mpr ?_
      | refine zGi_m11.mpr ?_
      | refine zGi_m12.mpr ?_
      | refine zGi_m13.mpr ?_
      | refine zGi_m15.mpr ?_
      | refine zGi_m17.mpr ?_
      | refine (zPf_m0 D).mpr ?_
      | refine (zPf_m2 D).mpr ?_
      | refine (zPf_m3 D).mpr ?_
      | refine (zPf_m4 D).mpr ?_
      | refine (zPf_m5 D).mpr ?_
      | refine (zPf_m6 D).mpr ?_
      | refine (zPf_m7 D).mpr ?_
      | refine (zPf_m8 D).mpr ?_
      | refine (zPf_m10 D).mpr ?_
      | refine (zPf_m11 D).mpr ?_
      | refine (zPf_m12 D).mpr ?_
      | refine (zPf_m13 D).mpr ?_
      | refine (zPf_m15 D).mpr ?_
      | refine (zPf_m17 D).mpr ?_
      | refine (zAi_all D).mpr ⟨(by first | exact pk_in 0 _ (by decide) | exact pk_in 1 _ (by decide) | exact pk_in 2 _ (by decide) | exact pk_in 3 _ (by decide) | exact pk_in 4 _ (by decide) | exact pk_in 5 _ (by decide) | exact pk_in 6 _ (by decide) | exact pk_in 7 _ (by decide) | exact pk_in 8 _ (by decide) | exact pk_in 9 _ (by decide) | exact pk_in 10 _ (by decide)), ?_⟩
      | refine (zSt1_all D).mpr ⟨(by first | exact pk_in 0 _ (by decide) | exact pk_in 1 _ (by decide) | exact pk_in 2 _ (by decide) | exact pk_in 3 _ (by decide) | exact pk_in 4 _ (by decide) | exact pk_in 5 _ (by decide) | exact pk_in 6 _ (by decide) | exact pk_in 7 _ (by decide) | exact pk_in 8 _ (by decide) | exact pk_in 9 _ (by decide) | exact pk_in 10 _ (by decide)), ?_⟩
      | with_reducible refine zMc (s_c ht D _ _ (zvl_d _ (by decide)) (by omega) (d := d - 1)) (by omega) (Nat.le_refl _) ?_
      | refine ⟨fun _ => ?_, fun _ => ?_⟩
      | fail)
  · rename_i c
    refine b_X3_goesOn_15 _ _ _ ⟨fun _ => ?_, fun c => absurd rfl c⟩
    refine zMc (s_c ht D _ _ (zvl_d _ (by decide)) (by omega) (d := d - 1)) (by omega) (Nat.le_refl _) ?_
    have := H39 0
    rw [rNx, if_neg (by simpa [zl_0, zl_1, zl_2, zl_3, zl_4, zl_5, zl_6, zl_7, zl_8, zl_9, zl_10, zl_11, zl_37, zl_40, zl_60, zl_99, zl_411] using c)] at this
    exact this
  · rename_i c
    refine b_X3_goesOn_15 _ _ _ ⟨fun c => absurd c (by decide), fun _ => ?_⟩
    refine zMc (s_c ht D _ _ (zvl_d _ (by decide)) (by omega) (d := d - 1)) (by omega) (Nat.le_refl _) ?_
    have := H39 1
    rw [rNx, if_pos (by simpa [zl_0, zl_1, zl_2, zl_3, zl_4, zl_5, zl_6, zl_7, zl_8, zl_9, zl_10, zl_11, zl_37, zl_40, zl_60, zl_99, zl_411] using c)] at this
    exact this
end ZM5
