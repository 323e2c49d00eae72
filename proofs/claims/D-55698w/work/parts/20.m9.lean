/-! the model: the changes -/
theorem mRef_t {s : zMS} {b : Bool} {y z : Int32} (h : b = false) : mRef s b y z = s := by subst h; rfl
theorem zbt_nI {x : Int32} {a n : Nat} (ha : a ≤ n) (hn : n < 2 ^ 30) (h : zbt x (nI a) (nI n) = true) : ∃ k, a ≤ k ∧ k ≤ n ∧ x = nI k := by
  simp only [zbt, Bool.and_eq_true, decide_eq_true_eq] at h
  obtain ⟨h1, h2⟩ := h
  rcases pk_ix x (n := n + 1) (by omega) with c | c | ⟨k, hk, rfl⟩
  · exfalso
    have := Int32.le_trans (nI_pos' (n := a) (by omega)) h1
    exact absurd c (Int32.not_lt.mpr this)
  · exact absurd (Int32.le_trans c h2) (nI_ge (by omega) (by omega))
  · exact ⟨k, (nI_leI (by omega) (by omega)).mp h1, by omega, rfl⟩
def mTl (g f : Nat) : Nat → zMS → zMS
  | 0, s => s
  | n + 1, s => mTl g f n (zMf (mTk g f s) 4 (s.1 4 + nI (nAg s)))
def mTlOk (g f : Nat) : Nat → zMS → Prop
  | 0, _ => True
  | n + 1, s => mTok g f s ∧ mTlOk g f n (zMf (mTk g f s) 4 (s.1 4 + nI (nAg s)))
def mTi (g f : Nat) (s : zMS) (x : Int32) : Bool × zMS := if zbt x 1 20 then (true, mTl g f x.toNatClampNeg (zMf s 4 0)) else (false, mRef s true 1 x)
section ZM9
variable {l : Launch} {G : zG} {h : zH} {A : zMA} {s : zMS} {d : Nat}
theorem s_ticks (ht : l.stackTraces = false) (D : zMD G A) (hd : 7 ≤ d) (g f : Nat) (x : Int32) (ho : zbt x 1 20 = true → mTlOk g f x.toNatClampNeg (zMf s 4 0)) : zCt l G d MX3_ticks [.ref A.1, .int x] (zMh h A s) 0 (zIr (zbi (mTi g f s x).1) (zMh h A (mTi g f s x).2)) := by
  refine zCt.of kX3_ticks ht (by simp [Value.category]) (Nat.le_of_ble_eq_true rfl) ?_
  refine b_X3_ticks_0 _ _ (zMc (s_isOut ht D (by omega) _ _ _ (d := d - 1)) (by omega) (Nat.le_refl _) ?_)
  cases hb : zbt x 1 20
  · refine ⟨fun c => absurd c (by decide), fun _ => ⟨Nat.le_refl _, ?_, ?_⟩⟩
    · simp [mTi, hb, zbi]
    · simp [mTi, hb]
  · have ho := ho hb
    obtain ⟨N, hN1, hN20, rfl⟩ := zbt_nI (a := 1) (n := 20) (by omega) (by omega) hb
    have z1 : (nI N).toNatClampNeg = N := nI_clamp (by omega)
    rw [z1] at ho
    have e0 : mTi g f s (nI N) = (true, mTl g f N (zMf s 4 0)) := by rw [mTi, hb, if_pos rfl, z1]
    rw [e0]
    refine ⟨fun _ => ?_, fun c => absurd rfl c⟩
    refine (zPf_m4 D).mpr ?_
    have H : ∀ (j k : Nat) (s : zMS), k + j = N → mTlOk g f j s → ∀ s2, s2 = mTl g f j s → zV l G d 0 MX3_ticks (zIr (zbi true) (zMh h A s2)) 20 [some (.ref A.1), some (.int (nI N)), some (.int (nI k))] [] (zMh h A s) 0 := by
      intro j
      induction j with
      | zero =>
        intro k s hk _ s2 h2
        subst h2
        exact b_X3_ticks_20 _ _ _ (pk_le N k (fun _ => ⟨Nat.le_refl _, rfl, rfl⟩) (fun c => absurd c (by omega)) rfl rfl)
      | succ j ih =>
        intro k s hk hk2 s2 h2
        subst h2
        refine b_X3_ticks_20 _ _ _ (pk_le N k (fun c => absurd c (by omega)) (fun _ => zGi_m4.mpr ?_) rfl rfl)
        refine zMc (s_goesBy ht D (by omega) g f hk2.1 (d := d - 1)) (by omega) (Nat.le_refl _) ((zPf_m4 D).mpr ?_)
        rw [nI_1]
        exact ih (k + 1) _ (by omega) hk2.2 _ rfl
    exact H N 0 _ (by omega) ho _ rfl
/-- a cart comes -/
def mCo0 (s : zMS) (x y : Int32) (n : Nat) (key : Int32) : zMS :=
  let s2 := zfo (fun s k => zMa s (11 + 10 * n + k) 0) s 10
  let s3 := zMa (zMa (zMa s2 (11 + 10 * n + 0) x) (11 + 10 * n + 1) y) (11 + 10 * n + 3) (-1)
  let s4 := zMa s3 (11 + 10 * n + 6) (s3.2.1 1)
  zMf (zMa s4 (11 + 10 * n + 8) key) 4 (nI n)
def mCo (s : zMS) (x y : Int32) : Bool × zMS :=
  if !zbt x 0 1 then (false, mRef s true 1 x)
  else if !zbt y 1 9 then (false, mRef s true 1 y)
  else if rN s.2.1 = 40 then (false, mRef s true 2 40)
  else (true, mCo0 (zMa s 0 (s.2.1 0 + 1)) x y (rN s.2.1) (rKe s.2.1 x 0))
theorem zvl_nI {k : Nat} (hk : k < 10) : zvl (nI k) := by
  have := nI_clamp (show k < 2 ^ 31 by omega)
  exact ⟨by omega, by rw [this]⟩
theorem s_comes (ht : l.stackTraces = false) (D : zMD G A) (hN : rOk s.2.1) (hd : 3 ≤ d) (x y : Int32) : zCt l G d MX3_comes [.ref A.1, .int x, .int y] (zMh h A s) 0 (zIr (zbi (mCo s x y).1) (zMh h A (mCo s x y).2)) := by
  refine zCt.of kX3_comes ht (by simp [Value.category]) (Nat.le_of_ble_eq_true rfl) ?_
  have hN2 := hN.2
  refine b_X3_comes_0 _ _ _ (zGr_m1.mpr ((zAi_all D).mpr ⟨pk_in 0 _ (by decide), ?_⟩))
  rw [show s.2.1 (Int32.toNatClampNeg 0) = nI (rN s.2.1) from hN.1]
  refine zMc (s_isOut ht D (by omega) _ _ _ (d := d - 1)) (by omega) (Nat.le_refl _) ?_
  cases hx : zbt x 0 1
  · refine ⟨fun _ => ⟨Nat.le_refl _, ?_, ?_⟩, fun c => absurd (fun e => by cases e) c⟩
    · simp [mCo, hx, zbi]
    · simp [mCo, hx]
  · refine ⟨fun c => absurd rfl c, fun _ => ?_⟩
    refine zMc (s_isOut ht D (by omega) _ _ _ (d := d - 1)) (by omega) (Nat.le_refl _) ?_
    cases hy : zbt y 1 9
    · refine ⟨fun _ => ⟨Nat.le_refl _, ?_, ?_⟩, fun c => absurd (fun e => by cases e) c⟩
      · simp [mCo, hx, hy, zbi]
      · simp [mCo, hx, hy, mRef_f]
    · refine ⟨fun c => absurd rfl c, fun _ => ?_⟩
      simp only [Bool.not_true, mRef_f]
      refine ⟨fun c => ?_, fun c => ?_⟩
      · have h40 : ¬ rN s.2.1 = 40 := fun e => c (by rw [e]; rfl)
        refine zMc (s_refuses0 ht D (d := d - 1)) (by omega) (Nat.le_refl _) ⟨fun _ => ?_, fun c => absurd rfl c⟩
        refine zMc (s_keyAt ht D hN (by omega) _ _ (d := d - 1)) (by omega) (Nat.le_refl _) ?_
        repeat' (first
            | refine zGr_m1.mpr ?_
            | refine zGr_m9.mpr ?_
            | refine zGr_m14.mpr ?_
            | refine zGr_m16.mpr ?_
            | refine zGi_m0.mpr ?_
            | refine zGi_m2.mpr ?_
            | refine zGi_m3.mpr ?_
            | refine zGi_m4.mpr ?_
            | refine zGi_m5.mpr ?_
            | refine zGi_m6.mpr ?_
            | refine zGi_m7.mpr ?_
            | refine zGi_m8.mpr ?_
            | refine zGi_m10.mpr ?_
            | refine zGi_m11.mpr ?_
            | refine zGi_m12.mpr ?_
            | refine zGi_m13.mpr ?_
            | refine zGi_m15.mpr ?_
            | refine zGi_m17.mpr ?_
            | refine (zPf_m0 D).mpr ?_
            | refine (zPf_m2 D).mpr ?_
            | refine (zPf_m3 D).mpr ?_
            | refine (zPf_m4 D).mpr ?_
            | refine (zPf_m5 D).mpr ?_
            | refine (zPf_m6 D).mpr ?_
            | refine (zPf_m7 D).mpr ?_
            | refine (zPf_m8 D).mpr ?_
            | refine (zPf_m10 D).mpr ?_
            | refine (zPf_m11 D).mpr ?_
            | refine (zPf_m12 D).mpr ?_
            | refine (zPf_m13 D).mpr ?_
            | refine (zPf_m15 D).mpr ?_
            | refine (zPf_m17 D).mpr ?_
            | refine (zAi_all D).mpr ⟨(by first | exact pk_in 0 _ (by decide) | exact pk_in 1 _ (by decide) | exact pk_in 2 _ (by decide) | exact pk_in 3 _ (by decide) | exact pk_in 4 _ (by decide) | exact pk_in 5 _ (by decide) | exact pk_in 6 _ (by decide) | exact pk_in 7 _ (by decide) | exact pk_in 8 _ (by decide) | exact pk_in 9 _ (by decide) | exact pk_in 10 _ (by decide)), ?_⟩
            | refine (zSt1_all D).mpr ⟨(by first | exact pk_in 0 _ (by decide) | exact pk_in 1 _ (by decide) | exact pk_in 2 _ (by decide) | exact pk_in 3 _ (by decide) | exact pk_in 4 _ (by decide) | exact pk_in 5 _ (by decide) | exact pk_in 6 _ (by decide) | exact pk_in 7 _ (by decide) | exact pk_in 8 _ (by decide) | exact pk_in 9 _ (by decide) | exact pk_in 10 _ (by decide)), ?_⟩
            | refine ⟨fun _ => ?_, fun _ => ?_⟩
            | fail)
        have e9 : mCo s x y = (true, mCo0 (zMa s 0 (s.2.1 0 + 1)) x y (rN s.2.1) (rKe s.2.1 x 0)) := by simp [mCo, hx, hy, h40]
        rw [e9]
        simp only [zl_0, zl_1, zl_2, zl_3, zl_4, zl_5, zl_6, zl_7, zl_8, zl_9, zl_10, zl_11, zl_37, zl_40, zl_60, zl_99, zl_411]
        generalize zMa s 0 (s.2.1 0 + 1) = s1
        generalize rKe s.2.1 x 0 = key
        generalize hn : rN s.2.1 = n at *
        refine zInd (N := 10) (P := fun k => zV l G d 0 MX3_comes (zIr (zbi true) (zMh h A (mCo0 s1 x y n key))) 72 [some (.ref A.1), some (.int x), some (.int y), some (.int (nI n)), some (.int key), some (.int (nI k))] [] (zMh h A (zfo (fun s k => zMa s (11 + 10 * n + k) 0) s1 k)) 0) ?_ 0 (Nat.zero_le _)
        intro k hk ih
        refine b_X3_comes_72 _ _ _ _ _ _ (pk_le 10 k (fun c => ?_) (fun c => ?_) rfl rfl)
        · obtain rfl : k = 10 := by omega
          repeat' (first
              | refine zGr_m1.mpr ?_
              | refine zGr_m9.mpr ?_
              | refine zGr_m14.mpr ?_
              | refine zGr_m16.mpr ?_
              | refine zGi_m0.mpr ?_
              | refine zGi_m2.mpr ?_
              | refine zGi_m3.mpr ?_
              | refine zGi_m4.mpr ?_
              | refine zGi_m5.mpr ?_
              | refine zGi_m6.mpr ?_
              | refine zGi_m7.mpr ?_
              | refine zGi_m8.mpr ?_
              | refine zGi_m10.mpr ?_
              | refine zGi_m11.mpr ?_
              | refine zGi_m12.mpr ?_
              | refine zGi_m13.mpr ?_
              | refine zGi_m15.mpr ?_
              | refine zGi_m17.mpr ?_
              | refine (zPf_m0 D).mpr ?_
              | refine (zPf_m2 D).mpr ?_
              | refine (zPf_m3 D).mpr ?_
              | refine (zPf_m4 D).mpr ?_
              | refine (zPf_m5 D).mpr ?_
              | refine (zPf_m6 D).mpr ?_
              | refine (zPf_m7 D).mpr ?_
              | refine (zPf_m8 D).mpr ?_
              | refine (zPf_m10 D).mpr ?_
              | refine (zPf_m11 D).mpr ?_
              | refine (zPf_m12 D).mpr ?_
              | refine (zPf_m13 D).mpr ?_
              | refine (zPf_m15 D).mpr ?_
              | refine (zPf_m17 D).mpr ?_
              | refine (zAi_all D).mpr ⟨(by first | exact pk_in 0 _ (by decide) | exact pk_in 1 _ (by decide) | exact pk_in 2 _ (by decide) | exact pk_in 3 _ (by decide) | exact pk_in 4 _ (by decide) | exact pk_in 5 _ (by decide) | exact pk_in 6 _ (by decide) | exact pk_in 7 _ (by decide) | exact pk_in 8 _ (by decide) | exact pk_in 9 _ (by decide) | exact pk_in 10 _ (by decide)), ?_⟩
              | refine (zSt1_all D).mpr ⟨(by first | exact pk_in 0 _ (by decide) | exact pk_in 1 _ (by decide) | exact pk_in 2 _ (by decide) | exact pk_in 3 _ (by decide) | exact pk_in 4 _ (by decide) | exact pk_in 5 _ (by decide) | exact pk_in 6 _ (by decide) | exact pk_in 7 _ (by decide) | exact pk_in 8 _ (by decide) | exact pk_in 9 _ (by decide) | exact pk_in 10 _ (by decide)), ?_⟩
              | with_reducible refine zMcV (s_set ht D _ _ (zvl_d _ (by decide)) (by omega) (d := d - 1)) (by omega) (Nat.le_refl _) ?_
              | refine ⟨fun _ => ?_, fun _ => ?_⟩
              | fail)
          exact ⟨Nat.le_refl _, rfl, rfl⟩
        · refine zMcV (s_set ht D n (nI k) (zvl_nI (by omega)) (by omega) (d := d - 1)) (by omega) (Nat.le_refl _) ?_
          rw [nI_clamp (by omega), nI_1]
          exact ih (by omega)
      · have h40 : rN s.2.1 = 40 := (nI_eq (by omega) (by omega)).mp (Decidable.not_not.mp c)
        refine zMc (s_refuses1 ht D (d := d - 1)) (by omega) (Nat.le_refl _) ⟨fun c => absurd c (by decide), fun _ => ⟨Nat.le_refl _, ?_, ?_⟩⟩
        · simp [mCo, hx, hy, h40, zbi]
        · simp [mCo, hx, hy, h40]
/-- a number is told -/
def mTe (s : zMS) (w : Nat) (v a b : Int32) : Bool × zMS :=
  if !zbt v a b then (false, mRef s true 1 v)
  else if w = 4 ∧ 0 < rOn s.2.1 then (false, mRef s true 5 (nI (rOn s.2.1)))
  else
    let s1 := zMf s 4 (s.2.1 w)
    if s.2.1 w = v then (false, mRef s1 true 4 v) else (true, zMa s1 w v)
theorem s_tells (ht : l.stackTraces = false) (D : zMD G A) (hN : rOk s.2.1) (hd : 3 ≤ d) (w : Nat) (hw : w ≤ 4) (v a b : Int32) : zCt l G d MX3_tells [.ref A.1, .int (nI w), .int v, .int a, .int b] (zMh h A s) 0 (zIr (zbi (mTe s w v a b).1) (zMh h A (mTe s w v a b).2)) := by
  refine zCt.of kX3_tells ht (by simp [Value.category]) (Nat.le_of_ble_eq_true rfl) ?_
  have hN2 := hN.2
  have q2 : rOn s.2.1 < 2 ^ 31 := by have := zcnt_le (rOnb s.2.1) (rN s.2.1); simp only [rOn]; omega
  have zw : (nI w).toNatClampNeg = w := nI_clamp (by omega)
  have vw : vp_in (nI w) 4932 := vp_in_nI (by omega) (by decide)
  refine b_X3_tells_0 _ _ _ _ _ (zMc (s_isOut ht D (by omega) _ _ _ (d := d - 1)) (by omega) (Nat.le_refl _) ?_)
  cases hb : zbt v a b
  · refine ⟨fun c => absurd c (by decide), fun _ => ⟨Nat.le_refl _, ?_, ?_⟩⟩
    · simp [mTe, hb, zbi]
    · simp [mTe, hb]
  · refine ⟨fun _ => ?_, fun c => absurd rfl c⟩
    simp only [Bool.not_true, mRef_f]
    refine zMc (s_onBridge ht D hN (by omega) (d := d - 1)) (by omega) (Nat.le_refl _) ?_
    refine ⟨fun c4 => ?_, fun c4 => ⟨fun c5 => ?_, fun c5 => ?_⟩⟩
    rotate_left 2
    · have hw4 : w = 4 := (nI_eq (by omega) (by omega)).mp (Decidable.not_not.mp c4)
      have h0 : 0 < rOn s.2.1 := Nat.pos_of_ne_zero fun e => c5 (by rw [e]; decide)
      refine zMc (s_refuses1 ht D (d := d - 1)) (by omega) (Nat.le_refl _) ⟨fun c => absurd c (by decide), fun _ => ⟨Nat.le_refl _, ?_, ?_⟩⟩
      · subst hw4; simp [mTe, hb, h0, zbi]
      · subst hw4; simp [mTe, hb, h0]
    all_goals
      have h4 : ¬ (w = 4 ∧ 0 < rOn s.2.1) := by
        first
          | (rintro ⟨rfl, -⟩; exact c4 rfl)
          | (rintro ⟨-, h0⟩; exact absurd c5 (nI_nle h0 q2))
      try refine zMc (s_refuses0 ht D (d := d - 1)) (by omega) (Nat.le_refl _) ⟨fun _ => ?_, fun c => absurd rfl c⟩
      refine zGr_m1.mpr ((zAi_all D).mpr ⟨vw, (zPf_m4 D).mpr (zGi_m4.mpr ?_)⟩)
      rw [zw]
      refine ⟨fun c => ?_, fun c => ?_⟩
      · have c : ¬ s.2.1 w = v := c
        refine zMc (s_refuses0 ht D (d := d - 1)) (by omega) (Nat.le_refl _) ⟨fun _ => zGr_m1.mpr ((zSt1_all D).mpr ⟨vw, Nat.le_refl _, ?_, ?_⟩), fun c => absurd rfl c⟩
        · simp [mTe, hb, h4, c, zbi]
        · rw [zw]; simp [mTe, hb, h4, c]
      · have c : s.2.1 w = v := Decidable.not_not.mp c
        refine zMc (s_refuses1 ht D (d := d - 1)) (by omega) (Nat.le_refl _) ⟨fun c => absurd c (by decide), fun _ => ⟨Nat.le_refl _, ?_, ?_⟩⟩
        · simp [mTe, hb, h4, c, zbi]
        · simp [mTe, hb, h4, c]
end ZM9
