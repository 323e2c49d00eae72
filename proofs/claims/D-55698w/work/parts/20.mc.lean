/-! the model: what is looked up from outside -/
theorem zMf_f (s : zMS) (k : Nat) (a b : Int32) : zMf (zMf s k a) k b = zMf s k b := by
  refine Prod.ext (funext fun j => ?_) rfl
  simp only [zMf, zuf]
  split <;> rfl
theorem zMf_self (s : zMS) (k : Nat) : zMf s k (s.1 k) = s := by
  refine Prod.ext (funext fun j => ?_) rfl
  simp only [zMf, zuf]
  split
  · next e => rw [e]
  · rfl
theorem zMf_2 (s : zMS) (k : Nat) (v : Int32) : (zMf s k v).2 = s.2 := rfl
theorem mCp_out (s : zMS) (a b n i : Nat) (h : ¬ (411 * b ≤ i ∧ i < 411 * b + n)) : (mCp s a b n).2.1 i = s.2.1 i := by
  simp only [mCp]; exact if_neg h
theorem mCp_in (s : zMS) (a b n i : Nat) (h : i < n) : (mCp s a b n).2.1 (411 * b + i) = s.2.1 (411 * a + i) := by
  simp only [mCp]; rw [if_pos (by omega), show 411 * b + i - 411 * b = i by omega]
section ZMC
variable {l : Launch} {G : zG} {h : zH} {A : zMA} {s : zMS} {d : Nat}
theorem s_isThere1 (ht : l.stackTraces = false) (D : zMD G A) : zCt l G d MX3_isThere [.ref A.1, .int 1] (zMh h A s) 0 (zIr 1 (zMh h A (zMf s 0 0))) := s_isThere ht D true
theorem s_isThere0 (ht : l.stackTraces = false) (D : zMD G A) : zCt l G d MX3_isThere [.ref A.1, .int 0] (zMh h A s) 0 (zIr 0 (zMh h A (zMf s 0 1))) := s_isThere ht D false
def rCart (r : Nat → Int32) (x : Int32) : Bool := zbt x 0 (r 0 - 1)
theorem s_waited (ht : l.stackTraces = false) (D : zMD G A) (hN : rOk s.2.1) (hd : 2 ≤ d) (x : Int32) : zCt l G d MX3_waited [.ref A.1, .int x] (zMh h A s) 0 (zIr (if rCart s.2.1 x then rc s.2.1 x.toNatClampNeg 7 else 0) (zMh h A (zMf s 0 (zbi (!rCart s.2.1 x))))) := by
  refine zCt.of kX3_waited ht (by simp [Value.category]) (Nat.le_of_ble_eq_true rfl) ?_
  have hN2 := hN.2
  refine b_X3_waited_0 _ _ (zMc (s_isCart ht D (by omega) (d := d - 1)) (by omega) (Nat.le_refl _) ?_)
  refine zMc (s_isThere ht D _ (d := d - 1)) (by omega) (Nat.le_refl _) ?_
  cases hb : zbt x 0 (s.2.1 0 - 1)
  · refine ⟨fun _ => ⟨Nat.le_refl _, ?_, ?_⟩, fun c => absurd rfl c⟩
    · simp [rCart, hb]
    · simp [rCart, hb]
  · obtain ⟨k, hk, rfl⟩ := zbt_in hN hb
    refine ⟨fun c => absurd c (by decide), fun _ => ?_⟩
    repeat' (first
        | refine zGr_m1.mpr ?_
        | refine zGr_m9.mpr ?_
        | refine zGr_m14.mpr ?_
        | refine zGr_m16.mpr ?_
        | refine zGi_m0.mpr ?_
        | refine zGi_m2.mpr ?_
        | refine zGi_m3.mpr ?_
        | refine zGi_m4.mpr ?_
        | refine zGi_m5.mpr ?_
        | refine zGi_m6.mpr ?_
        | refine zGi_m7.mpr ?_
        | refine zGi_m8.mpr ?_
        | refine zGi_m10.mpr ?_
        | refine zGi_m11.mpr ?_
        | refine zGi_m12.mpr ?_
        | refine zGi_m13.mpr ?_
        | refine zGi_m15.mpr ?_
        | refine zGi_m17.mpr ?_
        | refine (zPf_m0 D).mpr ?_
        | refine (zPf_m2 D).mpr ?_
        | refine (zPf_m3 D).mpr ?_
        | refine (zPf_m4 D).mpr ?_
        | refine (zPf_m5 D).mpr ?_
        | refine (zPf_m6 D).mpr ?_
        | refine (zPf_m7 D).mpr ?_
        | refine (zPf_m8 D).mpr ?_
        | refine (zPf_m10 D).mpr ?_
        | refine (zPf_m11 D).mpr ?_
        | refine (zPf_m12 D).mpr ?_
        | refine (zPf_m13 D).mpr ?_
        | refine (zPf_m15 D).mpr ?_
        | refine (zPf_m17 D).mpr ?_
        | refine (zAi_all D).mpr ⟨(by first | exact pk_in 0 _ (by decide) | exact pk_in 1 _ (by decide) | exact pk_in 2 _ (by decide) | exact pk_in 3 _ (by decide) | exact pk_in 4 _ (by decide) | exact pk_in 5 _ (by decide) | exact pk_in 6 _ (by decide) | exact pk_in 7 _ (by decide) | exact pk_in 8 _ (by decide) | exact pk_in 9 _ (by decide) | exact pk_in 10 _ (by decide)), ?_⟩
        | refine (zSt1_all D).mpr ⟨(by first | exact pk_in 0 _ (by decide) | exact pk_in 1 _ (by decide) | exact pk_in 2 _ (by decide) | exact pk_in 3 _ (by decide) | exact pk_in 4 _ (by decide) | exact pk_in 5 _ (by decide) | exact pk_in 6 _ (by decide) | exact pk_in 7 _ (by decide) | exact pk_in 8 _ (by decide) | exact pk_in 9 _ (by decide) | exact pk_in 10 _ (by decide)), ?_⟩
        | with_reducible refine zMc (s_c ht D _ _ (zvl_d _ (by decide)) (by omega) (d := d - 1)) (by omega) (Nat.le_refl _) ?_
        | refine ⟨fun _ => ?_, fun _ => ?_⟩
        | fail)
    refine ⟨Nat.le_refl _, ?_, ?_⟩
    · simp [rCart, hb, nI_clamp (show k < 2 ^ 31 by omega), zl_0, zl_1, zl_2, zl_3, zl_4, zl_5, zl_6, zl_7, zl_8, zl_9, zl_10, zl_11, zl_37, zl_40, zl_60, zl_99, zl_411]; rfl
    · simp [rCart, hb]
theorem s_waitedAgain (ht : l.stackTraces = false) (D : zMD G A) (hN : rOk s.2.1) (hd : 3 ≤ d) (x : Int32) : zCt l G d MX3_waitedAgain [.ref A.1, .int x] (zMh h A s) 0 (zIr (if rCart s.2.1 x then rc s.2.1 x.toNatClampNeg 7 else 0) (zMh h A (zMf s 0 (zbi (!rCart s.2.1 x))))) := by
  refine zCt.of kX3_waitedAgain ht (by simp [Value.category]) (Nat.le_of_ble_eq_true rfl) ?_
  exact b_X3_waitedAgain_0 _ _ (zMc (s_waited ht D hN (by omega) _ (d := d - 1)) (by omega) (Nat.le_refl _) ⟨Nat.le_refl _, rfl, rfl⟩)
/-- a number, 0 if there is none; what is thrown -/
def zFo (x : Int32) : Int32 := if x = -1 then 0 else x
def zFt (x : Int32) : Int32 := if x = -1 then 2 else 0
theorem s_waiting (ht : l.stackTraces = false) (D : zMD G A) (hN : rOk s.2.1) (hd : 4 ≤ d) (x p : Int32) : zCt l G d MX3_waiting [.ref A.1, .int x, .int p] (zMh h A s) 0 (zIr (if zbt x 0 1 then zFo (rRa s.2.1 x p) else 0) (zMh h A (zMf s 0 (if zbt x 0 1 then zFt (rRa s.2.1 x p) else 1)))) := by
  refine zCt.of kX3_waiting ht (by simp [Value.category]) (Nat.le_of_ble_eq_true rfl) ?_
  refine b_X3_waiting_0 _ _ _ (zCall.P (s_in ht (d := d - 1)) (by omega) (Nat.le_refl _) ?_)
  refine zMc (s_isThere ht D _ (d := d - 1)) (by omega) (Nat.le_refl _) ?_
  cases hb : zbt x 0 1
  · exact ⟨fun _ => ⟨Nat.le_refl _, rfl, rfl⟩, fun c => absurd rfl c⟩
  · refine ⟨fun c => absurd c (by decide), fun _ => ?_⟩
    refine zMc (s_rowAt (s := zMf s 0 _) ht D hN (by omega) _ _ (d := d - 1)) (by omega) (Nat.le_refl _) ?_
    refine zMc (s_found ht D _ (d := d - 1)) (by omega) (Nat.le_refl _) ⟨Nat.le_refl _, rfl, ?_⟩
    rw [zMf_f]; rfl
theorem s_rowLoad (ht : l.stackTraces = false) (D : zMD G A) (hN : rOk s.2.1) (hd : 3 ≤ d) (x : Int32) : zCt l G d MX3_rowLoad [.ref A.1, .int x] (zMh h A s) 0 (zIr (if zbt x 0 1 then rLo s.2.1 x else 0) (zMh h A (zMf s 0 (zbi (!zbt x 0 1))))) := by
  refine zCt.of kX3_rowLoad ht (by simp [Value.category]) (Nat.le_of_ble_eq_true rfl) ?_
  refine b_X3_rowLoad_0 _ _ (zCall.P (s_in ht (d := d - 1)) (by omega) (Nat.le_refl _) ?_)
  refine zMc (s_isThere ht D _ (d := d - 1)) (by omega) (Nat.le_refl _) ?_
  cases hb : zbt x 0 1
  · exact ⟨fun _ => ⟨Nat.le_refl _, rfl, rfl⟩, fun c => absurd rfl c⟩
  · refine ⟨fun c => absurd c (by decide), fun _ => ?_⟩
    exact zMc (s_loadsOf (s := zMf s 0 _) ht D hN (by omega) _ (d := d - 1)) (by omega) (Nat.le_refl _) ⟨Nat.le_refl _, rfl, rfl⟩
theorem s_onSpan (ht : l.stackTraces = false) (D : zMD G A) (hN : rOk s.2.1) (hd : 3 ≤ d) (x : Int32) : zCt l G d MX3_onSpan [.ref A.1, .int x] (zMh h A s) 0 (zIr (if zbt x 0 (s.2.1 4 - 1) then rCo s.2.1 x else 0) (zMh h A (zMf s 0 (zbi (!zbt x 0 (s.2.1 4 - 1)))))) := by
  refine zCt.of kX3_onSpan ht (by simp [Value.category]) (Nat.le_of_ble_eq_true rfl) ?_
  refine b_X3_onSpan_0 _ _ (zGr_m1.mpr ((zAi_all D).mpr ⟨pk_in 4 _ (by decide), zCall.P (s_in ht (d := d - 1)) (by omega) (Nat.le_refl _) ?_⟩))
  simp only [zl_0, zl_1, zl_2, zl_3, zl_4, zl_5, zl_6, zl_7, zl_8, zl_9, zl_10, zl_11, zl_37, zl_40, zl_60, zl_99, zl_411]
  refine zMc (s_isThere ht D _ (d := d - 1)) (by omega) (Nat.le_refl _) ?_
  cases hb : zbt x 0 (s.2.1 4 - 1)
  · exact ⟨fun _ => ⟨Nat.le_refl _, rfl, rfl⟩, fun c => absurd rfl c⟩
  · refine ⟨fun c => absurd c (by decide), fun _ => ?_⟩
    exact zMc (s_cartOn (s := zMf s 0 _) ht D hN (by omega) _ (d := d - 1)) (by omega) (Nat.le_refl _) ⟨Nat.le_refl _, rfl, rfl⟩
theorem rTo_0 {r : Nat → Int32} (hN : rOk r) {x : Int32} (h : rTo r x = 0) : ∃ k, k < rN r ∧ x = nI k ∧ rc r k 2 = 1 := by
  have hN2 := hN.2
  simp only [rTo] at h
  cases hb : zbt x 0 (r 0 - 1)
  · rw [hb] at h; exact absurd (show (1 : Int32) = 0 from h) (by decide)
  · obtain ⟨k, hk, rfl⟩ := zbt_in hN hb
    rw [hb, if_pos rfl, nI_clamp (by omega)] at h
    refine ⟨k, hk, rfl, ?_⟩
    by_cases h1 : rc r k 2 = 1
    · exact h1
    · rw [if_neg h1] at h; exact absurd h (by decide)
theorem s_runLoad (ht : l.stackTraces = false) (D : zMD G A) (hN : rOk s.2.1) (hd : 5 ≤ d) (g : Nat) (x : Int32) (ho : rTo s.2.1 x = 0 → rCh s.2.1 g x) : zCt l G d MX3_runLoad [.ref A.1, .int x] (zMh h A s) 0 (zIr (if rTo s.2.1 x = 0 then rLr s.2.1 g x else 0) (zMh h A (zMf s 0 (rTo s.2.1 x)))) := by
  refine zCt.of kX3_runLoad ht (by simp [Value.category]) (Nat.le_of_ble_eq_true rfl) ?_
  refine b_X3_runLoad_0 _ _ (zMc (s_isThereOn ht D hN (by omega) _ (d := d - 1)) (by omega) (Nat.le_refl _) ?_)
  by_cases h0 : rTo s.2.1 x = 0
  · rw [h0]
    refine ⟨fun c => absurd c (by decide), fun _ => ?_⟩
    exact zMc (s_loadOfRun (s := zMf s 0 _) ht D hN (by omega) g _ (ho h0) (d := d - 1)) (by omega) (Nat.le_refl _) ⟨Nat.le_refl _, rfl, rfl⟩
  · rw [show (rTo s.2.1 x == 0) = false by simpa using h0, if_neg h0]
    exact ⟨fun _ => ⟨Nat.le_refl _, rfl, rfl⟩, fun c => absurd rfl c⟩
theorem s_runLoadAgain (ht : l.stackTraces = false) (D : zMD G A) (hN : rOk s.2.1) (hd : 6 ≤ d) (g : Nat) (x : Int32) (ho : rTo s.2.1 x = 0 → rCh s.2.1 g x) : zCt l G d MX3_runLoadAgain [.ref A.1, .int x] (zMh h A s) 0 (zIr (if rTo s.2.1 x = 0 then rLr s.2.1 g x else 0) (zMh h A (zMf s 0 (rTo s.2.1 x)))) := by
  refine zCt.of kX3_runLoadAgain ht (by simp [Value.category]) (Nat.le_of_ble_eq_true rfl) ?_
  exact b_X3_runLoadAgain_0 _ _ (zMc (s_runLoad ht D hN (by omega) g _ ho (d := d - 1)) (by omega) (Nat.le_refl _) ⟨Nat.le_refl _, rfl, rfl⟩)
theorem s_runEnd (ht : l.stackTraces = false) (D : zMD G A) (hN : rOk s.2.1) (hd : 5 ≤ d) (g : Nat) (x : Int32) (ho : rTo s.2.1 x = 0 → rCh s.2.1 g x) : zCt l G d MX3_runEnd [.ref A.1, .int x] (zMh h A s) 0 (zIr (if rTo s.2.1 x = 0 then rLa s.2.1 g x x else 0) (zMh h A (zMf s 0 (rTo s.2.1 x)))) := by
  refine zCt.of kX3_runEnd ht (by simp [Value.category]) (Nat.le_of_ble_eq_true rfl) ?_
  refine b_X3_runEnd_0 _ _ (zMc (s_isThereOn ht D hN (by omega) _ (d := d - 1)) (by omega) (Nat.le_refl _) ?_)
  by_cases h0 : rTo s.2.1 x = 0
  · rw [h0]
    refine ⟨fun c => absurd c (by decide), fun _ => ?_⟩
    exact zMc (s_lastOfRun (s := zMf s 0 _) ht D hN (by omega) g _ (ho h0) (d := d - 1)) (by omega) (Nat.le_refl _) ⟨Nat.le_refl _, rfl, rfl⟩
  · rw [show (rTo s.2.1 x == 0) = false by simpa using h0, if_neg h0]
    exact ⟨fun _ => ⟨Nat.le_refl _, rfl, rfl⟩, fun c => absurd rfl c⟩
def rSl (r : Nat → Int32) (x : Int32) : Int32 := let k := x.toNatClampNeg; if rc r k 4 = 1 then r 4 - rc r k 3 else rc r k 3 + 1
theorem s_spansLeft (ht : l.stackTraces = false) (D : zMD G A) (hN : rOk s.2.1) (hd : 3 ≤ d) (x : Int32) : zCt l G d MX3_spansLeft [.ref A.1, .int x] (zMh h A s) 0 (zIr (if rTo s.2.1 x = 0 then rSl s.2.1 x else 0) (zMh h A (zMf s 0 (rTo s.2.1 x)))) := by
  refine zCt.of kX3_spansLeft ht (by simp [Value.category]) (Nat.le_of_ble_eq_true rfl) ?_
  have hN2 := hN.2
  refine b_X3_spansLeft_0 _ _ (zMc (s_isThereOn ht D hN (by omega) _ (d := d - 1)) (by omega) (Nat.le_refl _) ?_)
  by_cases h0 : rTo s.2.1 x = 0
  · obtain ⟨k, hk, rfl, h1⟩ := rTo_0 hN h0
    rw [h0]
    refine ⟨fun _ => ?_, fun c => absurd (fun e => by cases e) c⟩
    repeat' (first
        | refine zGr_m1.mpr ?_
        | refine zGr_m9.mpr ?_
        | refine zGr_m14.mpr ?_
        | refine zGr_m16.mpr ?_
        | refine zGi_m0.mpr ?_
        | refine zGi_m2.mpr ?_
        | refine zGi_m3.mpr ?_
        | refine zGi_m4.mpr ?_
        | refine zGi_m5.mpr ?_
        | refine zGi_m6.mpr ?_
        | refine zGi_m7.mpr ?_
        | refine zGi_m8.mpr ?_
        | refine zGi_m10.mpr ?_
        | refine zGi_m11.mpr ?_
        | refine zGi_m12.mpr ?_
        | refine zGi_m13.mpr ?_
        | refine zGi_m15.mpr ?_
        | refine zGi_m17.mpr ?_
        | refine (zPf_m0 D).mpr ?_
        | refine (zPf_m2 D).mpr ?_
        | refine (zPf_m3 D).mpr ?_
        | refine (zPf_m4 D).mpr ?_
        | refine (zPf_m5 D).mpr ?_
        | refine (zPf_m6 D).mpr ?_
        | refine (zPf_m7 D).mpr ?_
        | refine (zPf_m8 D).mpr ?_
        | refine (zPf_m10 D).mpr ?_
        | refine (zPf_m11 D).mpr ?_
        | refine (zPf_m12 D).mpr ?_
        | refine (zPf_m13 D).mpr ?_
        | refine (zPf_m15 D).mpr ?_
        | refine (zPf_m17 D).mpr ?_
        | refine (zAi_all D).mpr ⟨(by first | exact pk_in 0 _ (by decide) | exact pk_in 1 _ (by decide) | exact pk_in 2 _ (by decide) | exact pk_in 3 _ (by decide) | exact pk_in 4 _ (by decide) | exact pk_in 5 _ (by decide) | exact pk_in 6 _ (by decide) | exact pk_in 7 _ (by decide) | exact pk_in 8 _ (by decide) | exact pk_in 9 _ (by decide) | exact pk_in 10 _ (by decide)), ?_⟩
        | refine (zSt1_all D).mpr ⟨(by first | exact pk_in 0 _ (by decide) | exact pk_in 1 _ (by decide) | exact pk_in 2 _ (by decide) | exact pk_in 3 _ (by decide) | exact pk_in 4 _ (by decide) | exact pk_in 5 _ (by decide) | exact pk_in 6 _ (by decide) | exact pk_in 7 _ (by decide) | exact pk_in 8 _ (by decide) | exact pk_in 9 _ (by decide) | exact pk_in 10 _ (by decide)), ?_⟩
        | with_reducible refine zMc (s_c ht D _ _ (zvl_d _ (by decide)) (by omega) (d := d - 1)) (by omega) (Nat.le_refl _) ?_
        | refine ⟨fun _ => ?_, fun _ => ?_⟩
        | fail)
    · rename_i c
      refine ⟨Nat.le_refl _, ?_, rfl⟩
      have c : ¬ rc s.2.1 k 4 = 1 := by simpa [zl_0, zl_1, zl_2, zl_3, zl_4, zl_5, zl_6, zl_7, zl_8, zl_9, zl_10, zl_11, zl_37, zl_40, zl_60, zl_99, zl_411, zMf_2] using c
      simp [rSl, nI_clamp (show k < 2 ^ 31 by omega), c, zl_0, zl_1, zl_2, zl_3, zl_4, zl_5, zl_6, zl_7, zl_8, zl_9, zl_10, zl_11, zl_37, zl_40, zl_60, zl_99, zl_411]; rfl
    · rename_i c
      refine ⟨Nat.le_refl _, ?_, rfl⟩
      have c : rc s.2.1 k 4 = 1 := by simpa [zl_0, zl_1, zl_2, zl_3, zl_4, zl_5, zl_6, zl_7, zl_8, zl_9, zl_10, zl_11, zl_37, zl_40, zl_60, zl_99, zl_411, zMf_2] using c
      simp [rSl, nI_clamp (show k < 2 ^ 31 by omega), c, zl_0, zl_1, zl_2, zl_3, zl_4, zl_5, zl_6, zl_7, zl_8, zl_9, zl_10, zl_11, zl_37, zl_40, zl_60, zl_99, zl_411]; rfl
  · rw [show (rTo s.2.1 x == 0) = false by simpa using h0, if_neg h0]
    exact ⟨fun c => absurd rfl c, fun _ => ⟨Nat.le_refl _, rfl, rfl⟩⟩
theorem s_may (ht : l.stackTraces = false) (D : zMD G A) (hN : rOk s.2.1) (hL : rLw s.2.1) (hd : 5 ≤ d) (x : Int32) : zCt l G d MX3_may [.ref A.1, .int x] (zMh h A s) 0 (zIr (zbi (zbt x 0 1 && rMs s.2.1 x)) (zMh h A (zMf s 0 (zbi (!zbt x 0 1))))) := by
  refine zCt.of kX3_may ht (by simp [Value.category]) (Nat.le_of_ble_eq_true rfl) ?_
  refine b_X3_may_0 _ _ (zCall.P (s_in ht (d := d - 1)) (by omega) (Nat.le_refl _) ?_)
  refine zMc (s_isThere ht D _ (d := d - 1)) (by omega) (Nat.le_refl _) ?_
  cases hb : zbt x 0 1
  · exact ⟨fun _ => ⟨Nat.le_refl _, rfl, rfl⟩, fun c => absurd rfl c⟩
  · refine ⟨fun c => absurd c (by decide), fun _ => ?_⟩
    refine zMc (s_maySend (s := zMf s 0 _) ht D hN hL (by omega) _ (d := d - 1)) (by omega) (Nat.le_refl _) ?_
    simp only [zMf_2]
    cases rMs s.2.1 x
    · exact ⟨fun _ => ⟨Nat.le_refl _, rfl, rfl⟩, fun c => absurd rfl c⟩
    · exact ⟨fun c => absurd c (by decide), fun _ => ⟨Nat.le_refl _, rfl, rfl⟩⟩
theorem s_turn (ht : l.stackTraces = false) (D : zMD G A) : zCt l G d MX3_turn [.ref A.1] (zMh h A s) 0 (zIr (s.2.1 5) (zMh h A (zMf s 0 0))) := by
  refine zCt.of kX3_turn ht (by simp [Value.category]) (Nat.le_of_ble_eq_true rfl) ?_
  exact b_X3_turn_0 _ ((zPf_m0 D).mpr (zGr_m1.mpr ((zAi_all D).mpr ⟨pk_in 5 _ (by decide), Nat.le_refl _, rfl, rfl⟩)))
theorem s_isTold (ht : l.stackTraces = false) (D : zMD G A) : zCt l G d MX3_isTold [.ref A.1] (zMh h A s) 0 (zIr 1 (zMh h A (zMf s 0 0))) := by
  refine zCt.of kX3_isTold ht (by simp [Value.category]) (Nat.le_of_ble_eq_true rfl) ?_
  exact b_X3_isTold_0 _ ((zPf_m0 D).mpr ⟨Nat.le_refl _, rfl, rfl⟩)
theorem s_faultPosition (ht : l.stackTraces = false) (D : zMD G A) : zCt l G d MX3_faultPosition [.ref A.1] (zMh h A s) 0 (zIr (s.1 13) (zMh h A (zMf s 0 0))) := by
  refine zCt.of kX3_faultPosition ht (by simp [Value.category]) (Nat.le_of_ble_eq_true rfl) ?_
  exact b_X3_faultPosition_0 _ ((zPf_m0 D).mpr (zGi_m13.mpr ⟨Nat.le_refl _, rfl, rfl⟩))
def mSv (s : zMS) : zMS := mCp (zMf (zMf s 0 0) 3 1) 0 9 411
theorem s_save (ht : l.stackTraces = false) (D : zMD G A) (hd : 1 ≤ d) : zCt l G d MX3_save [.ref A.1] (zMh h A s) 0 (zIr (s.2.1 0) (zMh h A (mSv s))) := by
  refine zCt.of kX3_save ht (by simp [Value.category]) (Nat.le_of_ble_eq_true rfl) ?_
  refine b_X3_save_0 _ ((zPf_m0 D).mpr ((zPf_m3 D).mpr ?_))
  exact zMcV (s_copies' ht D 0 9 rfl rfl (by omega) (by omega) (by omega) (d := d - 1)) (by omega) (Nat.le_refl _) (zGr_m1.mpr ((zAi_all D).mpr ⟨pk_in 0 _ (by decide), Nat.le_refl _, mCp_out _ _ _ _ _ (by decide), rfl⟩))
def mRs (s : zMS) (b : Bool) : zMS := if b then zMf (mCp (zMf s 0 0) 9 0 411) 2 0 else zMf s 0 1
theorem s_restore (ht : l.stackTraces = false) (D : zMD G A) (hd : 1 ≤ d) (b : Bool) (hb : s.1 3 = zbi b) : zCt l G d MX3_restore [.ref A.1] (zMh h A s) 0 (zIr (if b then s.2.1 3699 else 0) (zMh h A (mRs s b))) := by
  refine zCt.of kX3_restore ht (by simp [Value.category]) (Nat.le_of_ble_eq_true rfl) ?_
  refine b_X3_restore_0 _ (zGi_m3.mpr ?_)
  rw [hb]
  refine zMc (s_isThere ht D _ (d := d - 1)) (by omega) (Nat.le_refl _) ?_
  cases b
  · exact ⟨fun c => absurd rfl c, fun _ => ⟨Nat.le_refl _, rfl, rfl⟩⟩
  · refine ⟨fun _ => ?_, fun c => absurd (fun e => by cases e) c⟩
    exact zMcV (s_copies' ht D 9 0 rfl rfl (by omega) (by omega) (by omega) (d := d - 1)) (by omega) (Nat.le_refl _) ((zPf_m2 D).mpr (zGr_m1.mpr ((zAi_all D).mpr ⟨pk_in 0 _ (by decide), Nat.le_refl _, mCp_in (zMf s 0 0) 9 0 411 0 (by omega), rfl⟩)))
def mUn (s : zMS) (n : Nat) : zMS := if n = 0 then zMf s 0 1 else zMf (mCp (zMf s 0 0) n 0 411) 2 (nI (n - 1))
theorem s_undo (ht : l.stackTraces = false) (D : zMD G A) (hd : 1 ≤ d) (n : Nat) (hn : s.1 2 = nI n) (hn8 : n ≤ 8) : zCt l G d MX3_undo [.ref A.1] (zMh h A s) 0 (zIr (nI (n - 1)) (zMh h A (mUn s n))) := by
  refine zCt.of kX3_undo ht (by simp [Value.category]) (Nat.le_of_ble_eq_true rfl) ?_
  refine b_X3_undo_0 _ (zGi_m2.mpr (pk_le n 0 (fun c => ?_) (fun c => ?_) hn rfl))
  · obtain rfl : n = 0 := by omega
    exact zMc (s_isThere0 ht D (d := d - 1)) (by omega) (Nat.le_refl _) ⟨fun c => absurd rfl c, fun _ => ⟨Nat.le_refl _, rfl, rfl⟩⟩
  · refine zMc (s_isThere1 ht D (d := d - 1)) (by omega) (Nat.le_refl _) ⟨fun _ => zGi_m2.mpr ?_, fun c => absurd (fun e => by cases e) c⟩
    refine zMcV (s_copies' ht D n 0 hn rfl (by omega) (by omega) (by omega) (d := d - 1)) (by omega) (Nat.le_refl _) (zGi_m2.mpr ((zPf_m2 D).mpr (zGi_m2.mpr ⟨Nat.le_refl _, ?_, ?_⟩)))
    · show s.1 2 - 1 = _
      rw [hn]; obtain ⟨m, rfl⟩ : ∃ m, n = m + 1 := ⟨n - 1, by omega⟩; exact nI_pred m
    · rw [mUn, if_neg (by omega)]
      show zMh h A (zMf _ 2 (s.1 2 - 1)) = _
      rw [hn]; obtain ⟨m, rfl⟩ : ∃ m, n = m + 1 := ⟨n - 1, by omega⟩; rw [nI_pred]; rfl
end ZMC
