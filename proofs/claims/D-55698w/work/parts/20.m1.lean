/-! contracts of the model: helpers, what is only looked up -/
abbrev zIr (v : Int32) (h2 : zH) : zRes → zH → Prop := zqI zNo (fun x h' => x = v ∧ h' = h2)
abbrev zVr (h2 : zH) : zRes → zH → Prop := zqV zNo (fun h' => h' = h2)
theorem zCall.P {l : Launch} {G : zG} {d mc d' : Nat} {M' : zM} {As : List Value} {h h2 : zH} {n : Nat} {RX : String → zH → Nat → Prop} {p : Int32 → zH → Nat → Prop} {v : Int32} (ct : zCt l G d' M' As h 0 (zIr v h2)) (hd : d' + 1 ≤ d) (hm : n ≤ mc) (k : p v h2 n) : zCall l G d mc M' As h n (zRI RX p) :=
  zCall.I ct hd hm (fun x h' _ q => by obtain ⟨rfl, rfl⟩ := q; exact k) (fun E h' _ q => q.elim)
theorem zCall.PV {l : Launch} {G : zG} {d mc d' : Nat} {M' : zM} {As : List Value} {h h2 : zH} {n : Nat} {RX : String → zH → Nat → Prop} {p : zH → Nat → Prop} (ct : zCt l G d' M' As h 0 (zVr h2)) (hd : d' + 1 ≤ d) (hm : n ≤ mc) (k : p h2 n) : zCall l G d mc M' As h n (zRV RX p) :=
  zCall.V ct hd hm (fun h' _ q => by subst q; exact k) (fun E h' _ q => q.elim)
theorem zMc {l : Launch} {G : zG} {d mc d' : Nat} {M' : zM} {As : List Value} {h : zH} {A : zMA} {s : zMS} {h2 : zH} {n : Nat} {RX : String → zH → Nat → Prop} {p : Int32 → zH → Nat → Prop} {v : Int32} (ct : zCt l G d' M' As (zMh h A s) 0 (zIr v h2)) (hd : d' + 1 ≤ d) (hm : n ≤ mc) (k : p v h2 n) : zOc (zMh h A s) A.1 10 (zCall l G d mc M' As (zMh h A s) n (zRI RX p)) := zOc_m.mpr (zCall.P ct hd hm k)
theorem zMcV {l : Launch} {G : zG} {d mc d' : Nat} {M' : zM} {As : List Value} {h : zH} {A : zMA} {s : zMS} {h2 : zH} {n : Nat} {RX : String → zH → Nat → Prop} {p : zH → Nat → Prop} (ct : zCt l G d' M' As (zMh h A s) 0 (zVr h2)) (hd : d' + 1 ≤ d) (hm : n ≤ mc) (k : p h2 n) : zOc (zMh h A s) A.1 10 (zCall l G d mc M' As (zMh h A s) n (zRV RX p)) := zOc_m.mpr (zCall.PV ct hd hm k)
def zbi (b : Bool) : Int32 := if b then 1 else 0
theorem zbi_eq0 {b : Bool} : (zbi b = 0) = (b = false) := by cases b <;> simp [zbi]
theorem zbi_narrow {b : Bool} : narrow .boolean (.int (zbi b)) = .int (zbi b) := by cases b <;> rfl
/-- a row: a cart's data, how many carts -/
def rc (r : Nat → Int32) (k w : Nat) : Int32 := r (11 + 10 * k + w)
def rN (r : Nat → Int32) : Nat := (r 0).toNatClampNeg
def rOk (r : Nat → Int32) : Prop := r 0 = nI (rN r) ∧ rN r ≤ 40
def zcnt (p : Nat → Bool) : Nat → Nat
  | 0 => 0
  | n + 1 => zcnt p n + (if p n then 1 else 0)
theorem zcnt_le (p : Nat → Bool) : ∀ n, zcnt p n ≤ n
  | 0 => Nat.le_refl _
  | n + 1 => by have := zcnt_le p n; simp only [zcnt]; split <;> omega
theorem zcnt_t {p : Nat → Bool} {k : Nat} (h : p k = true) : nI (zcnt p k) + 1 = nI (zcnt p (k + 1)) := by simp [zcnt, h, nI_1]
theorem zcnt_f {p : Nat → Bool} {k : Nat} (h : p k = false) : nI (zcnt p k) + 0 = nI (zcnt p (k + 1)) := by simp [zcnt, h]
/-- going through 0 .. n - 1 -/
def zfo {α : Type} (f : α → Nat → α) (a : α) : Nat → α
  | 0 => a
  | n + 1 => f (zfo f a n) n
/-- the first of k .. k + j - 1 that is so; -1 -/
def zff (p : Nat → Bool) : Nat → Nat → Int32
  | _, 0 => -1
  | k, j + 1 => if p k then nI k else zff p (k + 1) j
theorem zix {k w : Nat} : ((11 : Int32) + (10 * nI k)) + nI w = nI (11 + 10 * k + w) := by
  rw [show (11 : Int32) = nI 11 by rfl, show (10 : Int32) = nI 10 by rfl, pk_mul, nI_add, nI_add]
def zvl (x : Int32) : Prop := x.toNatClampNeg < 10 ∧ x = nI x.toNatClampNeg
theorem zvl_d (x : Int32) (h : (decide (x.toNatClampNeg < 10) && decide (x = nI x.toNatClampNeg)) = true) : zvl x := by simpa [zvl] using h
theorem zl_0 : Int32.toNatClampNeg 0 = 0 := by decide
theorem zl_1 : Int32.toNatClampNeg 1 = 1 := by decide
theorem zl_2 : Int32.toNatClampNeg 2 = 2 := by decide
theorem zl_3 : Int32.toNatClampNeg 3 = 3 := by decide
theorem zl_4 : Int32.toNatClampNeg 4 = 4 := by decide
theorem zl_5 : Int32.toNatClampNeg 5 = 5 := by decide
theorem zl_6 : Int32.toNatClampNeg 6 = 6 := by decide
theorem zl_7 : Int32.toNatClampNeg 7 = 7 := by decide
theorem zl_8 : Int32.toNatClampNeg 8 = 8 := by decide
theorem zl_9 : Int32.toNatClampNeg 9 = 9 := by decide
theorem zl_10 : Int32.toNatClampNeg 10 = 10 := by decide
theorem zl_11 : Int32.toNatClampNeg 11 = 11 := by decide
theorem zl_37 : Int32.toNatClampNeg 37 = 37 := by decide
theorem zl_40 : Int32.toNatClampNeg 40 = 40 := by decide
theorem zl_60 : Int32.toNatClampNeg 60 = 60 := by decide
theorem zl_99 : Int32.toNatClampNeg 99 = 99 := by decide
theorem zl_411 : Int32.toNatClampNeg 411 = 411 := by decide
section ZM1
variable {l : Launch} {G : zG} {h : zH} {A : zMA} {s : zMS} {d : Nat}
theorem s_c (ht : l.stackTraces = false) (D : zMD G A) (k : Nat) (x : Int32) (hx : zvl x) (hk : k ≤ 40) : zCt l G d MX3_c [.ref A.1, .int (nI k), .int x] (zMh h A s) 0 (zIr (rc s.2.1 k x.toNatClampNeg) (zMh h A s)) := by
  refine zCt.of kX3_c ht (by simp [Value.category]) (Nat.le_of_ble_eq_true rfl) ?_
  refine b_X3_c_0 _ _ _ ?_
  obtain ⟨hx1, hx2⟩ := hx
  generalize x.toNatClampNeg = w at hx1 hx2 ⊢
  subst hx2
  simp only [zGr_m1, zAi_all D, zix, nI_clamp (show 11 + 10 * k + w < 2 ^ 31 by omega)]
  exact ⟨vp_in_nI (by omega) (by decide), Nat.le_refl _, rfl, rfl⟩
theorem s_set (ht : l.stackTraces = false) (D : zMD G A) (k : Nat) (x : Int32) {v : Int32} (hx : zvl x) (hk : k ≤ 40) : zCt l G d MX3_set [.ref A.1, .int (nI k), .int x, .int v] (zMh h A s) 0 (zVr (zMh h A (zMa s (11 + 10 * k + x.toNatClampNeg) v))) := by
  refine zCt.of kX3_set ht (by simp [Value.category]) (Nat.le_of_ble_eq_true rfl) ?_
  refine b_X3_set_0 _ _ _ _ ?_
  obtain ⟨hx1, hx2⟩ := hx
  generalize x.toNatClampNeg = w at hx1 hx2 ⊢
  subst hx2
  simp only [zGr_m1, zSt1_all D, zix, nI_clamp (show 11 + 10 * k + w < 2 ^ 31 by omega)]
  exact ⟨vp_in_nI (by omega) (by decide), Nat.le_refl _, rfl⟩
def zbt (v a b : Int32) : Bool := decide (a ≤ v) && decide (v ≤ b)
theorem s_in (ht : l.stackTraces = false) {v a b : Int32} : zCt l G d MX3_in [.int v, .int a, .int b] h 0 (zIr (zbi (zbt v a b)) h) := by
  refine zCt.of kX3_in ht (by simp [Value.category]) (Nat.le_of_ble_eq_true rfl) ?_
  refine b_X3_in_0 _ _ _ ?_
  refine ⟨fun c => ⟨Nat.le_refl _, ?_, rfl⟩, fun c => ⟨fun c2 => ⟨Nat.le_refl _, ?_, rfl⟩, fun c2 => ⟨Nat.le_refl _, ?_, rfl⟩⟩⟩
  · simp [zbi, zbt, Int32.not_le.mpr c]
  · simp [zbi, zbt, Int32.not_le.mpr c2]
  · simp [zbi, zbt, Int32.not_lt.mp c, Int32.not_lt.mp c2]
def rwa (r : Nat → Int32) (k : Nat) (side : Int32) : Bool := rc r k 2 == 0 && rc r k 0 == side
theorem s_waitsAt (ht : l.stackTraces = false) (D : zMD G A) (hd : 1 ≤ d) (k : Nat) {x : Int32} (hk : k ≤ 40) : zCt l G d MX3_waitsAt [.ref A.1, .int (nI k), .int x] (zMh h A s) 0 (zIr (zbi (rwa s.2.1 k x)) (zMh h A s)) := by
  refine zCt.of kX3_waitsAt ht (by simp [Value.category]) (Nat.le_of_ble_eq_true rfl) ?_
  refine b_X3_waitsAt_0 _ _ _ ?_
  repeat' (first
      | refine zGr_m1.mpr ?_
      | refine zGr_m9.mpr ?_
      | refine zGr_m14.mpr ?_
      | refine zGr_m16.mpr ?_
      | refine zGi_m0.mpr ?_
      | refine zGi_m2.mpr ?_
      | refine zGi_m3.mpr ?_
      | refine zGi_m4.mpr ?_
      | refine zGi_m5.mpr ?_
      | refine zGi_m6.mpr ?_
      | refine zGi_m7.mpr ?_
      | refine zGi_m8.mpr ?_
      | refine zGi_m10.mpr ?_
      | refine zGi_m11.mpr ?_
      | refine zGi_m12.mpr ?_
      | refine zGi_m13.mpr ?_
      | refine zGi_m15.mpr ?_
      | refine zGi_m17.mpr ?_
      | refine (zPf_m0 D).mpr ?_
      | refine (zPf_m2 D).mpr ?_
      | refine (zPf_m3 D).mpr ?_
      | refine (zPf_m4 D).mpr ?_
      | refine (zPf_m5 D).mpr ?_
      | refine (zPf_m6 D).mpr ?_
      | refine (zPf_m7 D).mpr ?_
      | refine (zPf_m8 D).mpr ?_
      | refine (zPf_m10 D).mpr ?_
      | refine (zPf_m11 D).mpr ?_
      | refine (zPf_m12 D).mpr ?_
      | refine (zPf_m13 D).mpr ?_
      | refine (zPf_m15 D).mpr ?_
      | refine (zPf_m17 D).mpr ?_
      | refine (zAi_all D).mpr ⟨(by first | exact pk_in 0 _ (by decide) | exact pk_in 1 _ (by decide) | exact pk_in 2 _ (by decide) | exact pk_in 3 _ (by decide) | exact pk_in 4 _ (by decide) | exact pk_in 5 _ (by decide) | exact pk_in 6 _ (by decide) | exact pk_in 7 _ (by decide) | exact pk_in 8 _ (by decide) | exact pk_in 9 _ (by decide) | exact pk_in 10 _ (by decide)), ?_⟩
      | refine (zSt1_all D).mpr ⟨(by first | exact pk_in 0 _ (by decide) | exact pk_in 1 _ (by decide) | exact pk_in 2 _ (by decide) | exact pk_in 3 _ (by decide) | exact pk_in 4 _ (by decide) | exact pk_in 5 _ (by decide) | exact pk_in 6 _ (by decide) | exact pk_in 7 _ (by decide) | exact pk_in 8 _ (by decide) | exact pk_in 9 _ (by decide) | exact pk_in 10 _ (by decide)), ?_⟩
      | with_reducible refine zMc (s_c ht D _ _ (zvl_d _ (by decide)) (by omega) (d := d - 1)) (by omega) (Nat.le_refl _) ?_
      | refine ⟨fun _ => ?_, fun _ => ?_⟩
      | fail)
  all_goals refine ⟨Nat.le_refl _, ?_, rfl⟩ <;> simp_all [rwa, zbi, zl_0, zl_1, zl_2, zl_3, zl_4, zl_5, zl_6, zl_7, zl_8, zl_9, zl_10, zl_11, zl_37, zl_40, zl_60, zl_99, zl_411]
theorem s_isOn (ht : l.stackTraces = false) (D : zMD G A) (hd : 1 ≤ d) (k : Nat) (hk : k ≤ 40) : zCt l G d MX3_isOn [.ref A.1, .int (nI k)] (zMh h A s) 0 (zIr (zbi (rc s.2.1 k 2 == 1)) (zMh h A s)) := by
  refine zCt.of kX3_isOn ht (by simp [Value.category]) (Nat.le_of_ble_eq_true rfl) ?_
  refine b_X3_isOn_0 _ _ ?_
  repeat' (first
      | refine zGr_m1.mpr ?_
      | refine zGr_m9.mpr ?_
      | refine zGr_m14.mpr ?_
      | refine zGr_m16.mpr ?_
      | refine zGi_m0.mpr ?_
      | refine zGi_m2.mpr ?_
      | refine zGi_m3.mpr ?_
      | refine zGi_m4.mpr ?_
      | refine zGi_m5.mpr ?_
      | refine zGi_m6.mpr ?_
      | refine zGi_m7.mpr ?_
      | refine zGi_m8.mpr ?_
      | refine zGi_m10.mpr ?_
      | refine zGi_m11.mpr ?_
      | refine zGi_m12.mpr ?_
      | refine zGi_m13.mpr ?_
      | refine zGi_m15.mpr ?_
      | refine zGi_m17.mpr ?_
      | refine (zPf_m0 D).mpr ?_
      | refine (zPf_m2 D).mpr ?_
      | refine (zPf_m3 D).mpr ?_
      | refine (zPf_m4 D).mpr ?_
      | refine (zPf_m5 D).mpr ?_
      | refine (zPf_m6 D).mpr ?_
      | refine (zPf_m7 D).mpr ?_
      | refine (zPf_m8 D).mpr ?_
      | refine (zPf_m10 D).mpr ?_
      | refine (zPf_m11 D).mpr ?_
      | refine (zPf_m12 D).mpr ?_
      | refine (zPf_m13 D).mpr ?_
      | refine (zPf_m15 D).mpr ?_
      | refine (zPf_m17 D).mpr ?_
      | refine (zAi_all D).mpr ⟨(by first | exact pk_in 0 _ (by decide) | exact pk_in 1 _ (by decide) | exact pk_in 2 _ (by decide) | exact pk_in 3 _ (by decide) | exact pk_in 4 _ (by decide) | exact pk_in 5 _ (by decide) | exact pk_in 6 _ (by decide) | exact pk_in 7 _ (by decide) | exact pk_in 8 _ (by decide) | exact pk_in 9 _ (by decide) | exact pk_in 10 _ (by decide)), ?_⟩
      | refine (zSt1_all D).mpr ⟨(by first | exact pk_in 0 _ (by decide) | exact pk_in 1 _ (by decide) | exact pk_in 2 _ (by decide) | exact pk_in 3 _ (by decide) | exact pk_in 4 _ (by decide) | exact pk_in 5 _ (by decide) | exact pk_in 6 _ (by decide) | exact pk_in 7 _ (by decide) | exact pk_in 8 _ (by decide) | exact pk_in 9 _ (by decide) | exact pk_in 10 _ (by decide)), ?_⟩
      | with_reducible refine zMc (s_c ht D _ _ (zvl_d _ (by decide)) (by omega) (d := d - 1)) (by omega) (Nat.le_refl _) ?_
      | refine ⟨fun _ => ?_, fun _ => ?_⟩
      | fail)
  all_goals refine ⟨Nat.le_refl _, ?_, rfl⟩ <;> simp_all [zbi, zl_0, zl_1, zl_2, zl_3, zl_4, zl_5, zl_6, zl_7, zl_8, zl_9, zl_10, zl_11, zl_37, zl_40, zl_60, zl_99, zl_411]
theorem s_isHere (ht : l.stackTraces = false) (D : zMD G A) (hd : 1 ≤ d) (k : Nat) (hk : k ≤ 40) : zCt l G d MX3_isHere [.ref A.1, .int (nI k)] (zMh h A s) 0 (zIr (zbi (decide (rc s.2.1 k 2 ≤ 1))) (zMh h A s)) := by
  refine zCt.of kX3_isHere ht (by simp [Value.category]) (Nat.le_of_ble_eq_true rfl) ?_
  refine b_X3_isHere_0 _ _ ?_
  repeat' (first
      | refine zGr_m1.mpr ?_
      | refine zGr_m9.mpr ?_
      | refine zGr_m14.mpr ?_
      | refine zGr_m16.mpr ?_
      | refine zGi_m0.mpr ?_
      | refine zGi_m2.mpr ?_
      | refine zGi_m3.mpr ?_
      | refine zGi_m4.mpr ?_
      | refine zGi_m5.mpr ?_
      | refine zGi_m6.mpr ?_
      | refine zGi_m7.mpr ?_
      | refine zGi_m8.mpr ?_
      | refine zGi_m10.mpr ?_
      | refine zGi_m11.mpr ?_
      | refine zGi_m12.mpr ?_
      | refine zGi_m13.mpr ?_
      | refine zGi_m15.mpr ?_
      | refine zGi_m17.mpr ?_
      | refine (zPf_m0 D).mpr ?_
      | refine (zPf_m2 D).mpr ?_
      | refine (zPf_m3 D).mpr ?_
      | refine (zPf_m4 D).mpr ?_
      | refine (zPf_m5 D).mpr ?_
      | refine (zPf_m6 D).mpr ?_
      | refine (zPf_m7 D).mpr ?_
      | refine (zPf_m8 D).mpr ?_
      | refine (zPf_m10 D).mpr ?_
      | refine (zPf_m11 D).mpr ?_
      | refine (zPf_m12 D).mpr ?_
      | refine (zPf_m13 D).mpr ?_
      | refine (zPf_m15 D).mpr ?_
      | refine (zPf_m17 D).mpr ?_
      | refine (zAi_all D).mpr ⟨(by first | exact pk_in 0 _ (by decide) | exact pk_in 1 _ (by decide) | exact pk_in 2 _ (by decide) | exact pk_in 3 _ (by decide) | exact pk_in 4 _ (by decide) | exact pk_in 5 _ (by decide) | exact pk_in 6 _ (by decide) | exact pk_in 7 _ (by decide) | exact pk_in 8 _ (by decide) | exact pk_in 9 _ (by decide) | exact pk_in 10 _ (by decide)), ?_⟩
      | refine (zSt1_all D).mpr ⟨(by first | exact pk_in 0 _ (by decide) | exact pk_in 1 _ (by decide) | exact pk_in 2 _ (by decide) | exact pk_in 3 _ (by decide) | exact pk_in 4 _ (by decide) | exact pk_in 5 _ (by decide) | exact pk_in 6 _ (by decide) | exact pk_in 7 _ (by decide) | exact pk_in 8 _ (by decide) | exact pk_in 9 _ (by decide) | exact pk_in 10 _ (by decide)), ?_⟩
      | with_reducible refine zMc (s_c ht D _ _ (zvl_d _ (by decide)) (by omega) (d := d - 1)) (by omega) (Nat.le_refl _) ?_
      | refine ⟨fun _ => ?_, fun _ => ?_⟩
      | fail)
  all_goals refine ⟨Nat.le_refl _, ?_, rfl⟩ <;> simp_all [zbi, Int32.not_le, zl_0, zl_1, zl_2, zl_3, zl_4, zl_5, zl_6, zl_7, zl_8, zl_9, zl_10, zl_11, zl_37, zl_40, zl_60, zl_99, zl_411]
theorem s_isCart (ht : l.stackTraces = false) (D : zMD G A) (hd : 1 ≤ d) {x : Int32} : zCt l G d MX3_isCart [.ref A.1, .int x] (zMh h A s) 0 (zIr (zbi (zbt x 0 (s.2.1 0 - 1))) (zMh h A s)) := by
  refine zCt.of kX3_isCart ht (by simp [Value.category]) (Nat.le_of_ble_eq_true rfl) ?_
  refine b_X3_isCart_0 _ _ ?_
  repeat' (first
      | refine zGr_m1.mpr ?_
      | refine zGr_m9.mpr ?_
      | refine zGr_m14.mpr ?_
      | refine zGr_m16.mpr ?_
      | refine zGi_m0.mpr ?_
      | refine zGi_m2.mpr ?_
      | refine zGi_m3.mpr ?_
      | refine zGi_m4.mpr ?_
      | refine zGi_m5.mpr ?_
      | refine zGi_m6.mpr ?_
      | refine zGi_m7.mpr ?_
      | refine zGi_m8.mpr ?_
      | refine zGi_m10.mpr ?_
      | refine zGi_m11.mpr ?_
      | refine zGi_m12.mpr ?_
      | refine zGi_m13.mpr ?_
      | refine zGi_m15.mpr ?_
      | refine zGi_m17.mpr ?_
      | refine (zPf_m0 D).mpr ?_
      | refine (zPf_m2 D).mpr ?_
      | refine (zPf_m3 D).mpr ?_
      | refine (zPf_m4 D).mpr ?_
      | refine (zPf_m5 D).mpr ?_
      | refine (zPf_m6 D).mpr ?_
      | refine (zPf_m7 D).mpr ?_
      | refine (zPf_m8 D).mpr ?_
      | refine (zPf_m10 D).mpr ?_
      | refine (zPf_m11 D).mpr ?_
      | refine (zPf_m12 D).mpr ?_
      | refine (zPf_m13 D).mpr ?_
      | refine (zPf_m15 D).mpr ?_
      | refine (zPf_m17 D).mpr ?_
      | refine (zAi_all D).mpr ⟨(by first | exact pk_in 0 _ (by decide) | exact pk_in 1 _ (by decide) | exact pk_in 2 _ (by decide) | exact pk_in 3 _ (by decide) | exact pk_in 4 _ (by decide) | exact pk_in 5 _ (by decide) | exact pk_in 6 _ (by decide) | exact pk_in 7 _ (by decide) | exact pk_in 8 _ (by decide) | exact pk_in 9 _ (by decide) | exact pk_in 10 _ (by decide)), ?_⟩
      | refine (zSt1_all D).mpr ⟨(by first | exact pk_in 0 _ (by decide) | exact pk_in 1 _ (by decide) | exact pk_in 2 _ (by decide) | exact pk_in 3 _ (by decide) | exact pk_in 4 _ (by decide) | exact pk_in 5 _ (by decide) | exact pk_in 6 _ (by decide) | exact pk_in 7 _ (by decide) | exact pk_in 8 _ (by decide) | exact pk_in 9 _ (by decide) | exact pk_in 10 _ (by decide)), ?_⟩
      | with_reducible refine zCall.P (s_in ht (d := d - 1)) (by omega) (Nat.le_refl _) ?_
      | refine ⟨fun _ => ?_, fun _ => ?_⟩
      | fail)
  exact ⟨zbi_narrow, Nat.le_refl _, rfl, rfl⟩
theorem s_rowMany (ht : l.stackTraces = false) (D : zMD G A) (hN : rOk s.2.1) (hd : 2 ≤ d) {x : Int32} : zCt l G d MX3_rowMany [.ref A.1, .int x] (zMh h A s) 0 (zIr (nI (zcnt (fun k => rwa s.2.1 k x) (rN s.2.1))) (zMh h A s)) := by
  refine zCt.of kX3_rowMany ht (by simp [Value.category]) (Nat.le_of_ble_eq_true rfl) ?_
  refine b_X3_rowMany_0 _ _ ?_
  suffices H : ∀ j k, k + j = rN s.2.1 → zV l G d 0 MX3_rowMany (zIr (nI (zcnt (fun k => rwa s.2.1 k x) (rN s.2.1))) (zMh h A s)) 4 [some (.ref A.1), some (.int x), some (.int (nI (zcnt (fun k => rwa s.2.1 k x) k))), some (.int (nI k))] [] (zMh h A s) 0 from H (rN s.2.1) 0 (by omega)
  have hN2 := hN.2
  intro j
  induction j with
  | zero =>
    intro k hk
    refine b_X3_rowMany_4 _ _ _ _ ?_
    obtain rfl : k = rN s.2.1 := by omega
    exact zGr_m1.mpr ((zAi_all D).mpr ⟨pk_in 0 _ (by decide), pk_le _ _ (fun _ => ⟨Nat.le_refl _, rfl, rfl⟩) (fun c => absurd c (by omega)) hN.1 rfl⟩)
  | succ j ih =>
    intro k hk
    refine b_X3_rowMany_4 _ _ _ _ (zGr_m1.mpr ((zAi_all D).mpr ⟨pk_in 0 _ (by decide), pk_le (rN s.2.1) k (fun c => absurd c (by omega)) (fun _ => ?_) hN.1 rfl⟩))
    repeat' (first
        | refine zGr_m1.mpr ?_
        | refine zGr_m9.mpr ?_
        | refine zGr_m14.mpr ?_
        | refine zGr_m16.mpr ?_
        | refine zGi_m0.mpr ?_
        | refine zGi_m2.mpr ?_
        | refine zGi_m3.mpr ?_
        | refine zGi_m4.mpr ?_
        | refine zGi_m5.mpr ?_
        | refine zGi_m6.mpr ?_
        | refine zGi_m7.mpr ?_
        | refine zGi_m8.mpr ?_
        | refine zGi_m10.mpr ?_
        | refine zGi_m11.mpr ?_
        | refine zGi_m12.mpr ?_
        | refine zGi_m13.mpr ?_
        | refine zGi_m15.mpr ?_
        | refine zGi_m17.mpr ?_
        | refine (zPf_m0 D).mpr ?_
        | refine (zPf_m2 D).mpr ?_
        | refine (zPf_m3 D).mpr ?_
        | refine (zPf_m4 D).mpr ?_
        | refine (zPf_m5 D).mpr ?_
        | refine (zPf_m6 D).mpr ?_
        | refine (zPf_m7 D).mpr ?_
        | refine (zPf_m8 D).mpr ?_
        | refine (zPf_m10 D).mpr ?_
        | refine (zPf_m11 D).mpr ?_
        | refine (zPf_m12 D).mpr ?_
        | refine (zPf_m13 D).mpr ?_
        | refine (zPf_m15 D).mpr ?_
        | refine (zPf_m17 D).mpr ?_
        | refine (zAi_all D).mpr ⟨(by first | exact pk_in 0 _ (by decide) | exact pk_in 1 _ (by decide) | exact pk_in 2 _ (by decide) | exact pk_in 3 _ (by decide) | exact pk_in 4 _ (by decide) | exact pk_in 5 _ (by decide) | exact pk_in 6 _ (by decide) | exact pk_in 7 _ (by decide) | exact pk_in 8 _ (by decide) | exact pk_in 9 _ (by decide) | exact pk_in 10 _ (by decide)), ?_⟩
        | refine (zSt1_all D).mpr ⟨(by first | exact pk_in 0 _ (by decide) | exact pk_in 1 _ (by decide) | exact pk_in 2 _ (by decide) | exact pk_in 3 _ (by decide) | exact pk_in 4 _ (by decide) | exact pk_in 5 _ (by decide) | exact pk_in 6 _ (by decide) | exact pk_in 7 _ (by decide) | exact pk_in 8 _ (by decide) | exact pk_in 9 _ (by decide) | exact pk_in 10 _ (by decide)), ?_⟩
        | with_reducible refine zMc (s_waitsAt ht D (by omega) k (d := d - 1) (by omega)) (by omega) (Nat.le_refl _) ?_
        | refine ⟨fun _ => ?_, fun _ => ?_⟩
        | fail)
    · rename_i c
      rw [zbi_eq0] at c
      rw [zcnt_f (p := fun k => rwa s.2.1 k x) c, nI_1]
      exact ih (k + 1) (by omega)
    · rename_i c
      rw [zbi_eq0, Bool.not_eq_false] at c
      rw [zcnt_t (p := fun k => rwa s.2.1 k x) c, nI_1]
      exact ih (k + 1) (by omega)
end ZM1
