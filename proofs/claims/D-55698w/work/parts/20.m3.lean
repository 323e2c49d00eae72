/-! the model: refusals, copies, begins and ends -/
section ZM3
variable {l : Launch} {G : zG} {h : zH} {A : zMA} {s : zMS} {d : Nat}
/-- refused: why, with what -/
def mRef (s : zMS) (b : Bool) (by_ with_ : Int32) : zMS := if b then zMf (zMf (zMf s 5 by_) 6 with_) 7 0 else s
theorem s_refuses (ht : l.stackTraces = false) (D : zMD G A) (b : Bool) {y z : Int32} : zCt l G d MX3_refuses [.ref A.1, .int (zbi b), .int y, .int z] (zMh h A s) 0 (zIr (zbi b) (zMh h A (mRef s b y z))) := by
  refine zCt.of kX3_refuses ht (by simp [Value.category]) (Nat.le_of_ble_eq_true rfl) ?_
  refine b_X3_refuses_0 _ _ _ _ ?_
  cases b
  · refine ⟨fun _ => ⟨zbi_narrow, Nat.le_refl _, rfl, rfl⟩, fun c => absurd rfl c⟩
  · refine ⟨fun c => absurd c (by decide), fun _ => ?_⟩
    repeat' (first
        | refine zGr_m1.mpr ?_
        | refine zGr_m9.mpr ?_
        | refine zGr_m14.mpr ?_
        | refine zGr_m16.mpr ?_
        | refine zGi_m0.mpr ?_
        | refine zGi_m2.mpr ?_
        | refine zGi_m3.mpr ?_
        | refine zGi_m4.mpr ?_
        | refine zGi_m5.mpr ?_
        | refine zGi_m6.mpr ?_
        | refine zGi_m7.mpr ?_
        | refine zGi_m8.mpr ?_
        | refine zGi_m10.mpr ?_
        | refine zGi_m11.mpr ?_
        | refine zGi_m12.mpr ?_
        | refine zGi_m13.mpr ?_
        | refine zGi_m15.mpr ?_
        | refine zGi_m17.mpr ?_
        | refine (zPf_m0 D).mpr ?_
        | refine (zPf_m2 D).mpr ?_
        | refine (zPf_m3 D).mpr ?_
        | refine (zPf_m4 D).mpr ?_
        | refine (zPf_m5 D).mpr ?_
        | refine (zPf_m6 D).mpr ?_
        | refine (zPf_m7 D).mpr ?_
        | refine (zPf_m8 D).mpr ?_
        | refine (zPf_m10 D).mpr ?_
        | refine (zPf_m11 D).mpr ?_
        | refine (zPf_m12 D).mpr ?_
        | refine (zPf_m13 D).mpr ?_
        | refine (zPf_m15 D).mpr ?_
        | refine (zPf_m17 D).mpr ?_
        | refine (zAi_all D).mpr ⟨(by first | exact pk_in 0 _ (by decide) | exact pk_in 1 _ (by decide) | exact pk_in 2 _ (by decide) | exact pk_in 3 _ (by decide) | exact pk_in 4 _ (by decide) | exact pk_in 5 _ (by decide) | exact pk_in 6 _ (by decide) | exact pk_in 7 _ (by decide) | exact pk_in 8 _ (by decide) | exact pk_in 9 _ (by decide) | exact pk_in 10 _ (by decide)), ?_⟩
        | refine (zSt1_all D).mpr ⟨(by first | exact pk_in 0 _ (by decide) | exact pk_in 1 _ (by decide) | exact pk_in 2 _ (by decide) | exact pk_in 3 _ (by decide) | exact pk_in 4 _ (by decide) | exact pk_in 5 _ (by decide) | exact pk_in 6 _ (by decide) | exact pk_in 7 _ (by decide) | exact pk_in 8 _ (by decide) | exact pk_in 9 _ (by decide) | exact pk_in 10 _ (by decide)), ?_⟩
        | refine ⟨fun _ => ?_, fun _ => ?_⟩
        | fail)
    exact ⟨rfl, Nat.le_refl _, rfl, rfl⟩
theorem zbi_1 : (1 : Int32) = zbi true := rfl
theorem zbi_0 : (0 : Int32) = zbi false := rfl
theorem s_refuses1 (ht : l.stackTraces = false) (D : zMD G A) {y z : Int32} : zCt l G d MX3_refuses [.ref A.1, .int 1, .int y, .int z] (zMh h A s) 0 (zIr 1 (zMh h A (mRef s true y z))) := s_refuses ht D true
theorem s_refuses0 (ht : l.stackTraces = false) (D : zMD G A) {y z : Int32} : zCt l G d MX3_refuses [.ref A.1, .int 0, .int y, .int z] (zMh h A s) 0 (zIr 0 (zMh h A s)) := s_refuses ht D false
theorem mRef_f {y z : Int32} : mRef s false y z = s := rfl
theorem s_isOut (ht : l.stackTraces = false) (D : zMD G A) (hd : 1 ≤ d) (v a b : Int32) : zCt l G d MX3_isOut [.ref A.1, .int v, .int a, .int b] (zMh h A s) 0 (zIr (zbi (!zbt v a b)) (zMh h A (mRef s (!zbt v a b) 1 v))) := by
  refine zCt.of kX3_isOut ht (by simp [Value.category]) (Nat.le_of_ble_eq_true rfl) ?_
  refine b_X3_isOut_0 _ _ _ _ ?_
  refine zCall.P (s_in ht (d := d - 1)) (by omega) (Nat.le_refl _) ?_
  cases hb : zbt v a b
  · refine ⟨fun c => absurd rfl c, fun _ => zMc (s_refuses1 ht D (d := d - 1)) (by omega) (Nat.le_refl _) ⟨rfl, Nat.le_refl _, rfl, rfl⟩⟩
  · refine ⟨fun _ => zMc (s_refuses0 ht D (d := d - 1)) (by omega) (Nat.le_refl _) ⟨rfl, Nat.le_refl _, rfl, rfl⟩, fun c => absurd (fun e => by cases e) c⟩
theorem s_isThere (ht : l.stackTraces = false) (D : zMD G A) (b : Bool) : zCt l G d MX3_isThere [.ref A.1, .int (zbi b)] (zMh h A s) 0 (zIr (zbi b) (zMh h A (zMf s 0 (zbi (!b))))) := by
  refine zCt.of kX3_isThere ht (by simp [Value.category]) (Nat.le_of_ble_eq_true rfl) ?_
  refine b_X3_isThere_0 _ _ ?_
  cases b
  · refine ⟨fun _ => ?_, fun c => absurd rfl c⟩
    repeat' (first
        | refine zGr_m1.mpr ?_
        | refine zGr_m9.mpr ?_
        | refine zGr_m14.mpr ?_
        | refine zGr_m16.mpr ?_
        | refine zGi_m0.mpr ?_
        | refine zGi_m2.mpr ?_
        | refine zGi_m3.mpr ?_
        | refine zGi_m4.mpr ?_
        | refine zGi_m5.mpr ?_
        | refine zGi_m6.mpr ?_
        | refine zGi_m7.mpr ?_
        | refine zGi_m8.mpr ?_
        | refine zGi_m10.mpr ?_
        | refine zGi_m11.mpr ?_
        | refine zGi_m12.mpr ?_
        | refine zGi_m13.mpr ?_
        | refine zGi_m15.mpr ?_
        | refine zGi_m17.mpr ?_
        | refine (zPf_m0 D).mpr ?_
        | refine (zPf_m2 D).mpr ?_
        | refine (zPf_m3 D).mpr ?_
        | refine (zPf_m4 D).mpr ?_
        | refine (zPf_m5 D).mpr ?_
        | refine (zPf_m6 D).mpr ?_
        | refine (zPf_m7 D).mpr ?_
        | refine (zPf_m8 D).mpr ?_
        | refine (zPf_m10 D).mpr ?_
        | refine (zPf_m11 D).mpr ?_
        | refine (zPf_m12 D).mpr ?_
        | refine (zPf_m13 D).mpr ?_
        | refine (zPf_m15 D).mpr ?_
        | refine (zPf_m17 D).mpr ?_
        | refine (zAi_all D).mpr ⟨(by first | exact pk_in 0 _ (by decide) | exact pk_in 1 _ (by decide) | exact pk_in 2 _ (by decide) | exact pk_in 3 _ (by decide) | exact pk_in 4 _ (by decide) | exact pk_in 5 _ (by decide) | exact pk_in 6 _ (by decide) | exact pk_in 7 _ (by decide) | exact pk_in 8 _ (by decide) | exact pk_in 9 _ (by decide) | exact pk_in 10 _ (by decide)), ?_⟩
        | refine (zSt1_all D).mpr ⟨(by first | exact pk_in 0 _ (by decide) | exact pk_in 1 _ (by decide) | exact pk_in 2 _ (by decide) | exact pk_in 3 _ (by decide) | exact pk_in 4 _ (by decide) | exact pk_in 5 _ (by decide) | exact pk_in 6 _ (by decide) | exact pk_in 7 _ (by decide) | exact pk_in 8 _ (by decide) | exact pk_in 9 _ (by decide) | exact pk_in 10 _ (by decide)), ?_⟩
        | refine ⟨fun _ => ?_, fun _ => ?_⟩
        | fail)
    exact ⟨rfl, Nat.le_refl _, rfl, rfl⟩
  · refine ⟨fun c => absurd c (by decide), fun _ => ?_⟩
    repeat' (first
        | refine zGr_m1.mpr ?_
        | refine zGr_m9.mpr ?_
        | refine zGr_m14.mpr ?_
        | refine zGr_m16.mpr ?_
        | refine zGi_m0.mpr ?_
        | refine zGi_m2.mpr ?_
        | refine zGi_m3.mpr ?_
        | refine zGi_m4.mpr ?_
        | refine zGi_m5.mpr ?_
        | refine zGi_m6.mpr ?_
        | refine zGi_m7.mpr ?_
        | refine zGi_m8.mpr ?_
        | refine zGi_m10.mpr ?_
        | refine zGi_m11.mpr ?_
        | refine zGi_m12.mpr ?_
        | refine zGi_m13.mpr ?_
        | refine zGi_m15.mpr ?_
        | refine zGi_m17.mpr ?_
        | refine (zPf_m0 D).mpr ?_
        | refine (zPf_m2 D).mpr ?_
        | refine (zPf_m3 D).mpr ?_
        | refine (zPf_m4 D).mpr ?_
        | refine (zPf_m5 D).mpr ?_
        | refine (zPf_m6 D).mpr ?_
        | refine (zPf_m7 D).mpr ?_
        | refine (zPf_m8 D).mpr ?_
        | refine (zPf_m10 D).mpr ?_
        | refine (zPf_m11 D).mpr ?_
        | refine (zPf_m12 D).mpr ?_
        | refine (zPf_m13 D).mpr ?_
        | refine (zPf_m15 D).mpr ?_
        | refine (zPf_m17 D).mpr ?_
        | refine (zAi_all D).mpr ⟨(by first | exact pk_in 0 _ (by decide) | exact pk_in 1 _ (by decide) | exact pk_in 2 _ (by decide) | exact pk_in 3 _ (by decide) | exact pk_in 4 _ (by decide) | exact pk_in 5 _ (by decide) | exact pk_in 6 _ (by decide) | exact pk_in 7 _ (by decide) | exact pk_in 8 _ (by decide) | exact pk_in 9 _ (by decide) | exact pk_in 10 _ (by decide)), ?_⟩
        | refine (zSt1_all D).mpr ⟨(by first | exact pk_in 0 _ (by decide) | exact pk_in 1 _ (by decide) | exact pk_in 2 _ (by decide) | exact pk_in 3 _ (by decide) | exact pk_in 4 _ (by decide) | exact pk_in 5 _ (by decide) | exact pk_in 6 _ (by decide) | exact pk_in 7 _ (by decide) | exact pk_in 8 _ (by decide) | exact pk_in 9 _ (by decide) | exact pk_in 10 _ (by decide)), ?_⟩
        | refine ⟨fun _ => ?_, fun _ => ?_⟩
        | fail)
    exact ⟨rfl, Nat.le_refl _, rfl, rfl⟩
theorem s_found (ht : l.stackTraces = false) (D : zMD G A) (x : Int32) : zCt l G d MX3_found [.ref A.1, .int x] (zMh h A s) 0 (zIr (if x = -1 then 0 else x) (zMh h A (zMf s 0 (if x = -1 then 2 else 0)))) := by
  refine zCt.of kX3_found ht (by simp [Value.category]) (Nat.le_of_ble_eq_true rfl) ?_
  refine b_X3_found_0 _ _ ?_
  by_cases hx : x = -1
  · subst hx
    refine ⟨fun c => absurd rfl c, fun _ => ?_⟩
    refine (zPf_m0 D).mpr ⟨fun c => absurd rfl c, fun _ => ⟨Nat.le_refl _, rfl, rfl⟩⟩
  · refine ⟨fun _ => ?_, fun c => absurd hx c⟩
    refine (zPf_m0 D).mpr ⟨fun _ => ⟨Nat.le_refl _, ?_⟩, fun c => absurd hx c⟩
    simp [zqI, hx]
theorem s_thrown (ht : l.stackTraces = false) : zCt l G d MX3_thrown [.ref A.1] (zMh h A s) 0 (zIr (s.1 0) (zMh h A s)) := by
  refine zCt.of kX3_thrown ht (by simp [Value.category]) (Nat.le_of_ble_eq_true rfl) ?_
  exact b_X3_thrown_0 _ (zGi_m0.mpr ⟨Nat.le_refl _, rfl, rfl⟩)
/-- is it a cart that is there: data of a cart that isn't is not asked for -/
def rGone (r : Nat → Int32) (x : Int32) : Bool := !zbt x 0 (r 0 - 1) || decide (2 ≤ rc r x.toNatClampNeg 2)
theorem zbt_in {r : Nat → Int32} (hN : rOk r) {x : Int32} (h : zbt x 0 (r 0 - 1) = true) : ∃ k, k < rN r ∧ x = nI k := by
  have h2 := hN.2
  have h1 := hN.1
  simp only [zbt, Bool.and_eq_true, decide_eq_true_eq] at h
  obtain ⟨ha, hb⟩ := h
  rcases pk_ix x (n := rN r) (by omega) with c | c | c
  · exact absurd c (Int32.not_lt.mpr ha)
  · exfalso
    rw [h1] at hb
    have e1 := Int32.le_iff_toInt_le.mp c
    have e2 := Int32.le_iff_toInt_le.mp hb
    have e3 := Int32.le_iff_toInt_le.mp ha
    rw [show (1 : Int32) = nI 1 by rfl, pk_sub_toInt (by omega) (by omega)] at e2
    rw [nI_toInt (by omega)] at e1
    omega
  · exact c
theorem s_isGone (ht : l.stackTraces = false) (D : zMD G A) (hN : rOk s.2.1) (hd : 2 ≤ d) (x : Int32) : zCt l G d MX3_isGone [.ref A.1, .int x] (zMh h A s) 0 (zIr (zbi (rGone s.2.1 x)) (zMh h A (mRef s (rGone s.2.1 x) 3 x))) := by
  refine zCt.of kX3_isGone ht (by simp [Value.category]) (Nat.le_of_ble_eq_true rfl) ?_
  have hN2 := hN.2
  refine b_X3_isGone_0 _ _ (zMc (s_isCart ht D (by omega) (d := d - 1)) (by omega) (Nat.le_refl _) ?_)
  cases hb : zbt x 0 (s.2.1 0 - 1)
  · have e : rGone s.2.1 x = true := by simp [rGone, hb]
    rw [e]
    refine ⟨fun _ => zMc (s_refuses1 ht D (d := d - 1)) (by omega) (Nat.le_refl _) ⟨rfl, Nat.le_refl _, rfl, rfl⟩, fun c => absurd rfl c⟩
  · obtain ⟨k, hk, rfl⟩ := zbt_in hN hb
    have e9 : (nI k).toNatClampNeg = k := nI_clamp (by omega)
    refine ⟨fun c => absurd c (by decide), fun _ => ?_⟩
    repeat' (first
        | refine zGr_m1.mpr ?_
        | refine zGr_m9.mpr ?_
        | refine zGr_m14.mpr ?_
        | refine zGr_m16.mpr ?_
        | refine zGi_m0.mpr ?_
        | refine zGi_m2.mpr ?_
        | refine zGi_m3.mpr ?_
        | refine zGi_m4.mpr ?_
        | refine zGi_m5.mpr ?_
        | refine zGi_m6.mpr ?_
        | refine zGi_m7.mpr ?_
        | refine zGi_m8.mpr ?_
        | refine zGi_m10.mpr ?_
        | refine zGi_m11.mpr ?_
        | refine zGi_m12.mpr ?_
        | refine zGi_m13.mpr ?_
        | refine zGi_m15.mpr ?_
        | refine zGi_m17.mpr ?_
        | refine (zPf_m0 D).mpr ?_
        | refine (zPf_m2 D).mpr ?_
        | refine (zPf_m3 D).mpr ?_
        | refine (zPf_m4 D).mpr ?_
        | refine (zPf_m5 D).mpr ?_
        | refine (zPf_m6 D).mpr ?_
        | refine (zPf_m7 D).mpr ?_
        | refine (zPf_m8 D).mpr ?_
        | refine (zPf_m10 D).mpr ?_
        | refine (zPf_m11 D).mpr ?_
        | refine (zPf_m12 D).mpr ?_
        | refine (zPf_m13 D).mpr ?_
        | refine (zPf_m15 D).mpr ?_
        | refine (zPf_m17 D).mpr ?_
        | refine (zAi_all D).mpr ⟨(by first | exact pk_in 0 _ (by decide) | exact pk_in 1 _ (by decide) | exact pk_in 2 _ (by decide) | exact pk_in 3 _ (by decide) | exact pk_in 4 _ (by decide) | exact pk_in 5 _ (by decide) | exact pk_in 6 _ (by decide) | exact pk_in 7 _ (by decide) | exact pk_in 8 _ (by decide) | exact pk_in 9 _ (by decide) | exact pk_in 10 _ (by decide)), ?_⟩
        | refine (zSt1_all D).mpr ⟨(by first | exact pk_in 0 _ (by decide) | exact pk_in 1 _ (by decide) | exact pk_in 2 _ (by decide) | exact pk_in 3 _ (by decide) | exact pk_in 4 _ (by decide) | exact pk_in 5 _ (by decide) | exact pk_in 6 _ (by decide) | exact pk_in 7 _ (by decide) | exact pk_in 8 _ (by decide) | exact pk_in 9 _ (by decide) | exact pk_in 10 _ (by decide)), ?_⟩
        | with_reducible refine zMc (s_c ht D _ _ (zvl_d _ (by decide)) (by omega) (d := d - 1)) (by omega) (Nat.le_refl _) ?_
        | refine ⟨fun _ => ?_, fun _ => ?_⟩
        | fail)
    · rename_i c
      have e : rGone s.2.1 (nI k) = false := by simp only [rGone, hb, e9]; simpa [zl_0, zl_1, zl_2, zl_3, zl_4, zl_5, zl_6, zl_7, zl_8, zl_9, zl_10, zl_11, zl_37, zl_40, zl_60, zl_99, zl_411, Int32.not_le] using c
      rw [e]
      exact zMc (s_refuses0 ht D (d := d - 1)) (by omega) (Nat.le_refl _) ⟨rfl, Nat.le_refl _, rfl, rfl⟩
    · rename_i c
      have e : rGone s.2.1 (nI k) = true := by simp only [rGone, hb, e9]; simpa [zl_0, zl_1, zl_2, zl_3, zl_4, zl_5, zl_6, zl_7, zl_8, zl_9, zl_10, zl_11, zl_37, zl_40, zl_60, zl_99, zl_411, Int32.not_lt] using c
      rw [e]
      exact zMc (s_refuses1 ht D (d := d - 1)) (by omega) (Nat.le_refl _) ⟨rfl, Nat.le_refl _, rfl, rfl⟩
def rTo (r : Nat → Int32) (x : Int32) : Int32 := if zbt x 0 (r 0 - 1) then (if rc r x.toNatClampNeg 2 = 1 then 0 else 2) else 1
theorem s_isThereOn (ht : l.stackTraces = false) (D : zMD G A) (hN : rOk s.2.1) (hd : 2 ≤ d) (x : Int32) : zCt l G d MX3_isThereOn [.ref A.1, .int x] (zMh h A s) 0 (zIr (zbi (rTo s.2.1 x == 0)) (zMh h A (zMf s 0 (rTo s.2.1 x)))) := by
  refine zCt.of kX3_isThereOn ht (by simp [Value.category]) (Nat.le_of_ble_eq_true rfl) ?_
  have hN2 := hN.2
  refine b_X3_isThereOn_0 _ _ (zMc (s_isCart ht D (by omega) (d := d - 1)) (by omega) (Nat.le_refl _) ?_)
  cases hb : zbt x 0 (s.2.1 0 - 1)
  · have e : rTo s.2.1 x = 1 := by simp [rTo, hb]
    rw [e]
    refine ⟨fun c => absurd rfl c, fun _ => (zPf_m0 D).mpr (zGi_m0.mpr ⟨fun _ => ⟨Nat.le_refl _, rfl, rfl⟩, fun c => absurd (fun e => by cases e) c⟩)⟩
  · obtain ⟨k, hk, rfl⟩ := zbt_in hN hb
    have e9 : (nI k).toNatClampNeg = k := nI_clamp (by omega)
    refine ⟨fun _ => ?_, fun c => absurd (fun e => by cases e) c⟩
    refine zMc (s_isOn ht D (by omega) k (by omega) (d := d - 1)) (by omega) (Nat.le_refl _) ?_
    by_cases h1 : rc s.2.1 k 2 = 1
    · have e : rTo s.2.1 (nI k) = 0 := by simp [rTo, hb, e9, h1]
      rw [e, h1]
      exact ⟨fun c => absurd c (by decide), fun _ => (zPf_m0 D).mpr (zGi_m0.mpr ⟨fun c => absurd rfl c, fun _ => ⟨Nat.le_refl _, rfl, rfl⟩⟩)⟩
    · have e : rTo s.2.1 (nI k) = 2 := by simp [rTo, hb, e9, h1]
      rw [e, show (rc s.2.1 k 2 == 1) = false by simpa using h1]
      exact ⟨fun _ => (zPf_m0 D).mpr (zGi_m0.mpr ⟨fun _ => ⟨Nat.le_refl _, rfl, rfl⟩, fun c => absurd (fun e => by cases e) c⟩), fun c => absurd rfl c⟩
/-- rows are copied -/
def mCp (s : zMS) (a b n : Nat) : zMS := (s.1, (fun i => if 411 * b ≤ i ∧ i < 411 * b + n then s.2.1 (411 * a + (i - 411 * b)) else s.2.1 i), s.2.2)
theorem zix2 {a k : Nat} : (411 : Int32) * nI a + nI k = nI (411 * a + k) := by rw [show (411 : Int32) = nI 411 by rfl, pk_mul, nI_add]
theorem s_copies (ht : l.stackTraces = false) (D : zMD G A) (a b : Nat) (ha : a ≤ 11) (hb : b ≤ 11) (hab : a ≠ b) : zCt l G d MX3_copies [.ref A.1, .int (nI a), .int (nI b)] (zMh h A s) 0 (zVr (zMh h A (mCp s a b 411))) := by
  refine zCt.of kX3_copies ht (by simp [Value.category]) (Nat.le_of_ble_eq_true rfl) ?_
  refine b_X3_copies_0 _ _ _ ?_
  have e0 : mCp s a b 0 = s := by
    simp only [mCp, Nat.add_zero]
    refine Prod.ext rfl (Prod.ext (funext fun i => if_neg (by omega)) rfl)
  have H := zInd (N := 411) (P := fun k => zV l G d 0 MX3_copies (zVr (zMh h A (mCp s a b 411))) 2 [some (.ref A.1), some (.int (nI a)), some (.int (nI b)), some (.int (nI k))] [] (zMh h A (mCp s a b k)) 0) ?_ 0 (Nat.zero_le _)
  · rw [e0] at H; exact H
  intro k hk ih
  refine b_X3_copies_2 _ _ _ _ (pk_le 411 k (fun c => ?_) (fun c => ?_) rfl rfl)
  · obtain rfl : k = 411 := by omega
    exact ⟨Nat.le_refl _, rfl⟩
  · refine zGr_m1.mpr (zGr_m1.mpr ((zAi_all D).mpr ⟨?_, (zSt1_all D).mpr ⟨?_, ?_⟩⟩))
    · rw [zix2]; exact vp_in_nI (by omega) (by decide)
    · rw [zix2]; exact vp_in_nI (by omega) (by decide)
    · rw [zix2, zix2, nI_clamp (by omega), nI_clamp (by omega), nI_1]
      have e1 : zMa (mCp s a b k) (411 * b + k) ((mCp s a b k).2.1 (411 * a + k)) = mCp s a b (k + 1) := by
        have e9 : (mCp s a b k).2.1 (411 * a + k) = s.2.1 (411 * a + k) := if_neg (by omega)
        rw [e9]
        refine Prod.ext rfl (Prod.ext (funext fun i => ?_) rfl)
        simp only [zMa, zuf, mCp]
        by_cases h1 : i = 411 * b + k
        · subst h1
          rw [if_pos rfl, if_pos (by omega), show 411 * b + k - 411 * b = k by omega]
        · rw [if_neg h1]
          by_cases h2 : 411 * b ≤ i ∧ i < 411 * b + k
          · rw [if_pos h2, if_pos (by omega)]
          · rw [if_neg h2, if_neg (by omega)]
      rw [e1]
      exact ih (by omega)
theorem s_copies' (ht : l.stackTraces = false) (D : zMD G A) (a b : Nat) {x y : Int32} (hx : x = nI a) (hy : y = nI b) (ha : a ≤ 11) (hb : b ≤ 11) (hab : a ≠ b) : zCt l G d MX3_copies [.ref A.1, .int x, .int y] (zMh h A s) 0 (zVr (zMh h A (mCp s a b 411))) := by
  subst hx; subst hy; exact s_copies ht D a b ha hb hab
theorem s_begins (ht : l.stackTraces = false) (D : zMD G A) (hd : 1 ≤ d) : zCt l G d MX3_begins [.ref A.1] (zMh h A s) 0 (zVr (zMh h A (mCp s 0 10 411))) := by
  refine zCt.of kX3_begins ht (by simp [Value.category]) (Nat.le_of_ble_eq_true rfl) ?_
  exact b_X3_begins_0 _ (zMcV (s_copies' ht D 0 10 rfl rfl (by omega) (by omega) (by omega) (d := d - 1)) (by omega) (Nat.le_refl _) ⟨Nat.le_refl _, rfl⟩)
/-- rows 2 .. k go down by one -/
def mSh (s : zMS) : Nat → zMS
  | 0 => s
  | k + 1 => mCp (mSh s k) (k + 2) (k + 1) 411
def mEnd (s : zMS) (b : Bool) (refused : Int32) : zMS :=
  if b then
    let s1 := zMf s 0 0
    if s1.1 2 = 8 then
      let s2 := mSh s1 7
      mCp (zMf (zMf s2 2 (s2.1 2 - 1)) 2 (s2.1 2 - 1 + 1)) 10 8 411
    else mCp (zMf s1 2 (s1.1 2 + 1)) 10 (s1.1 2 + 1).toNatClampNeg 411
  else mCp (zMf s 0 refused) 10 0 411
theorem mSh_f : ∀ k, (mSh s k).1 = s.1
  | 0 => rfl
  | k + 1 => (mSh_f k : (mSh s k).1 = s.1)
theorem s_ends (ht : l.stackTraces = false) (D : zMD G A) (hd : 1 ≤ d) (b : Bool) (x : Int32) (n : Nat) (hn : s.1 2 = nI n) (hn8 : n ≤ 8) : zCt l G d MX3_ends [.ref A.1, .int (zbi b), .int x] (zMh h A s) 0 (zIr (if b then s.1 4 else 0) (zMh h A (mEnd s b x))) := by
  refine zCt.of kX3_ends ht (by simp [Value.category]) (Nat.le_of_ble_eq_true rfl) ?_
  refine b_X3_ends_0 _ _ _ ?_
  cases b
  · refine ⟨fun _ => (zPf_m0 D).mpr ⟨fun c => absurd rfl c, fun _ => ?_⟩, fun c => absurd rfl c⟩
    exact zMcV (s_copies' ht D 10 0 rfl rfl (by omega) (by omega) (by omega) (d := d - 1)) (by omega) (Nat.le_refl _) ⟨Nat.le_refl _, rfl, rfl⟩
  · refine ⟨fun c => absurd c (by decide), fun _ => (zPf_m0 D).mpr ⟨fun _ => zGi_m2.mpr ⟨fun c => ?_, fun c => ?_⟩, fun c => absurd (fun e => by cases e) c⟩⟩
    · have e2 : (zMf s 0 0).1 2 = nI n := hn
      have hn7 : n ≤ 7 := by
        refine Nat.le_of_lt_succ (Nat.lt_of_le_of_ne hn8 fun e => c ?_)
        rw [e2, e]; rfl
      refine zGi_m2.mpr ((zPf_m2 D).mpr (zGi_m2.mpr (zMcV (s_copies' ht D 10 (n + 1) rfl ?_ (by omega) (by omega) (by omega) (d := d - 1)) (by omega) (Nat.le_refl _) (zGi_m4.mpr ⟨Nat.le_refl _, ?_, ?_⟩))))
      · show (zMf s 0 0).1 2 + 1 = _
        rw [e2, nI_1]
      · rfl
      · simp only [mEnd, if_true, if_neg c]
        rw [e2, nI_1, nI_clamp (by omega)]
    · have c : (zMf s 0 0).1 2 = 8 := Decidable.not_not.mp c
      have H := zInd (N := 8) (P := fun k => 1 ≤ k → zV l G d 0 MX3_ends (zIr (s.1 4) (zMh h A (mEnd s true x))) 37 [some (.ref A.1), some (.int (zbi true)), some (.int x), some (.int (nI k))] [] (zMh h A (mSh (zMf s 0 0) (k - 1))) 0) ?_ 1 (by omega) (Nat.le_refl _)
      · exact H
      intro k hk ih h1
      refine b_X3_ends_37 _ _ _ _ (pk_le 8 k (fun c => ?_) (fun c => ?_) rfl rfl)
      · obtain rfl : k = 8 := by omega
        refine zGi_m2.mpr ((zPf_m2 D).mpr (zGi_m2.mpr ((zPf_m2 D).mpr (zGi_m2.mpr (zMcV (s_copies' ht D 10 8 rfl ?_ (by omega) (by omega) (by omega) (d := d - 1)) (by omega) (Nat.le_refl _) (zGi_m4.mpr ⟨Nat.le_refl _, ?_, ?_⟩))))))
        · show (mSh (zMf s 0 0) 7).1 2 - 1 + 1 = _
          rw [mSh_f, ‹(zMf s 0 0).1 2 = 8›]; rfl
        · show (mSh (zMf s 0 0) 7).1 4 = _
          rw [mSh_f]; rfl
        · simp only [mEnd, if_true, if_pos ‹(zMf s 0 0).1 2 = 8›]
          rfl
      · refine zMcV (s_copies' ht D (k + 1) k (nI_1 k) rfl (by omega) (by omega) (by omega) (d := d - 1)) (by omega) (Nat.le_refl _) ?_
        have := ih (by omega) (by omega)
        rw [nI_1]
        rw [show k + 1 - 1 = (k - 1) + 1 by omega] at this
        simp only [mSh] at this
        rw [show k - 1 + 2 = k + 1 by omega, show k - 1 + 1 = k by omega] at this
        exact this
end ZM3
