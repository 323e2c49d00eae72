/-! the model: loops over the carts -/
theorem zInd {N : Nat} {P : Nat → Prop} (step : ∀ k, k ≤ N → (k < N → P (k + 1)) → P k) : ∀ k, k ≤ N → P k := by
  have H : ∀ j k, k + j = N → P k := by
    intro j
    induction j with
    | zero => exact fun k hk => step k (by omega) (fun c => absurd c (by omega))
    | succ j ih => exact fun k hk => step k (by omega) (fun _ => ih (k + 1) (by omega))
  exact fun k hk => H (N - k) k (by omega)
section ZM2
variable {l : Launch} {G : zG} {h : zH} {A : zMA} {s : zMS} {d : Nat}
theorem zLp {r : Nat → Int32} (hN : rOk r) (k : Nat) (hk : k ≤ rN r) {P1 P2 : Prop} (f : k = rN r → P1) (g : k < rN r → P2) : (r 0 ≤ nI k → P1) ∧ (¬ r 0 ≤ nI k → P2) := by
  have h2 := hN.2
  exact pk_le (rN r) k (fun c => f (by omega)) (fun c => g (by omega)) hN.1 rfl
theorem zLpM (D : zMD G A) (hN : rOk s.2.1) (k : Nat) (hk : k ≤ rN s.2.1) {P1 P2 : Prop} (f : k = rN s.2.1 → P1) (g : k < rN s.2.1 → P2) : zGr (zMh h A s) A.1 10 1 (fun a1 => zAi (zMh h A s) a1 .int 0 (fun x => (x ≤ nI k → P1) ∧ (¬ x ≤ nI k → P2))) :=
  zGr_m1.mpr ((zAi_all D).mpr ⟨pk_in 0 _ (by decide), zLp hN k hk f g⟩)
theorem zcnt_t' {p : Nat → Bool} {k : Nat} (h : p k = true) : nI (zcnt p k) + 1 = nI (zcnt p (k + 1)) := zcnt_t h
def rPlb (r : Nat → Int32) (c k : Nat) : Bool := rwa r k (rc r c 0) && decide (rc r k 8 < rc r c 8)
def rPl (r : Nat → Int32) (c : Nat) : Nat := zcnt (rPlb r c) (rN r)
theorem s_placeOf (ht : l.stackTraces = false) (D : zMD G A) (hN : rOk s.2.1) (hd : 2 ≤ d) (c0 : Nat) (hc0 : c0 ≤ 40) : zCt l G d MX3_placeOf [.ref A.1, .int (nI c0)] (zMh h A s) 0 (zIr (nI (rPl s.2.1 c0)) (zMh h A s)) := by
  refine zCt.of kX3_placeOf ht (by simp [Value.category]) (Nat.le_of_ble_eq_true rfl) ?_
  refine b_X3_placeOf_0 _ _ ?_
  have hN2 := hN.2
  refine zInd (N := rN s.2.1) (P := fun k => zV l G d 0 MX3_placeOf (zIr (nI (rPl s.2.1 c0)) (zMh h A s)) 4 [some (.ref A.1), some (.int (nI c0)), some (.int (nI (zcnt (rPlb s.2.1 c0) k))), some (.int (nI k))] [] (zMh h A s) 0) ?_ 0 (Nat.zero_le _)
  intro k hk ih
  refine b_X3_placeOf_4 _ _ _ _ (zLpM D hN k hk (fun e => ?_) (fun lt => ?_))
  · subst e; exact ⟨Nat.le_refl _, rfl, rfl⟩
  · repeat' (first
      | refine zGr_m1.mpr ?_
      | refine zGr_m9.mpr ?_
      | refine zGr_m14.mpr ?_
      | refine zGr_m16.mpr ?_
      | refine zGi_m0.mpr ?_
      | refine zGi_m2.mpr ?_
      | refine zGi_m3.mpr ?_
      | refine zGi_m4.mpr ?_
      | refine zGi_m5.mpr ?_
      | refine zGi_m6.mpr ?_
      | refine zGi_m7.mpr ?_
      | refine zGi_m8.mpr ?_
      | refine zGi_m10.mpr ?_
      | refine zGi_m11.mpr ?_
      | refine zGi_m12.mpr ?_
      | refine zGi_m13.mpr ?_
      | refine zGi_m15.mpr ?_
      | refine zGi_m17.mpr ?_
      | refine (zPf_m0 D).mpr ?_
      | refine (zPf_m2 D).mpr ?_
      | refine (zPf_m3 D).mpr ?_
      | refine (zPf_m4 D).mpr ?_
      | refine (zPf_m5 D).mpr ?_
      | refine (zPf_m6 D).mpr ?_
      | refine (zPf_m7 D).mpr ?_
      | refine (zPf_m8 D).mpr ?_
      | refine (zPf_m10 D).mpr ?_
      | refine (zPf_m11 D).mpr ?_
      | refine (zPf_m12 D).mpr ?_
      | refine (zPf_m13 D).mpr ?_
      | refine (zPf_m15 D).mpr ?_
      | refine (zPf_m17 D).mpr ?_
      | refine (zAi_all D).mpr ⟨(by first | exact pk_in 0 _ (by decide) | exact pk_in 1 _ (by decide) | exact pk_in 2 _ (by decide) | exact pk_in 3 _ (by decide) | exact pk_in 4 _ (by decide) | exact pk_in 5 _ (by decide) | exact pk_in 6 _ (by decide) | exact pk_in 7 _ (by decide) | exact pk_in 8 _ (by decide) | exact pk_in 9 _ (by decide) | exact pk_in 10 _ (by decide)), ?_⟩
      | refine (zSt1_all D).mpr ⟨(by first | exact pk_in 0 _ (by decide) | exact pk_in 1 _ (by decide) | exact pk_in 2 _ (by decide) | exact pk_in 3 _ (by decide) | exact pk_in 4 _ (by decide) | exact pk_in 5 _ (by decide) | exact pk_in 6 _ (by decide) | exact pk_in 7 _ (by decide) | exact pk_in 8 _ (by decide) | exact pk_in 9 _ (by decide) | exact pk_in 10 _ (by decide)), ?_⟩
      | with_reducible refine zMc (s_c ht D _ _ (zvl_d _ (by decide)) (by omega) (d := d - 1)) (by omega) (Nat.le_refl _) ?_
      | with_reducible refine zMc (s_waitsAt ht D (by omega) k (d := d - 1) (by omega)) (by omega) (Nat.le_refl _) ?_
      | refine ⟨fun _ => ?_, fun _ => ?_⟩
      | fail)
    all_goals first | (rw [zcnt_t (p := rPlb s.2.1 c0) (by simp_all [rPlb, zbi_eq0, zl_0, zl_1, zl_2, zl_3, zl_4, zl_5, zl_6, zl_7, zl_8, zl_9, zl_10, zl_11, zl_37, zl_40, zl_60, zl_99, zl_411]), nI_1]; exact ih lt) | (rw [zcnt_f (p := rPlb s.2.1 c0) (by simp_all [rPlb, zbi_eq0, Int32.not_lt, zl_0, zl_1, zl_2, zl_3, zl_4, zl_5, zl_6, zl_7, zl_8, zl_9, zl_10, zl_11, zl_37, zl_40, zl_60, zl_99, zl_411]), nI_1]; exact ih lt)
def rRab (r : Nat → Int32) (x p : Int32) (k : Nat) : Bool := rwa r k x && nI (rPl r k) == p
def rRa (r : Nat → Int32) (x p : Int32) : Int32 := zff (rRab r x p) 0 (rN r)
theorem zff_t {p : Nat → Bool} {k N : Nat} (hk : k < N) (h : p k = true) : zff p k (N - k) = nI k := by
  obtain ⟨j, hj⟩ : ∃ j, N - k = j + 1 := ⟨N - k - 1, by omega⟩
  rw [hj, zff, if_pos h]
theorem zff_f {p : Nat → Bool} {k N : Nat} (hk : k < N) (h : p k = false) : zff p k (N - k) = zff p (k + 1) (N - (k + 1)) := by
  obtain ⟨j, hj⟩ : ∃ j, N - k = j + 1 := ⟨N - k - 1, by omega⟩
  rw [hj, zff, if_neg (by rw [h]; decide), show N - (k + 1) = j by omega]
theorem s_rowAt (ht : l.stackTraces = false) (D : zMD G A) (hN : rOk s.2.1) (hd : 3 ≤ d) (x p : Int32) : zCt l G d MX3_rowAt [.ref A.1, .int x, .int p] (zMh h A s) 0 (zIr (rRa s.2.1 x p) (zMh h A s)) := by
  refine zCt.of kX3_rowAt ht (by simp [Value.category]) (Nat.le_of_ble_eq_true rfl) ?_
  refine b_X3_rowAt_0 _ _ _ ?_
  have hN2 := hN.2
  refine zInd (N := rN s.2.1) (P := fun k => rRa s.2.1 x p = zff (rRab s.2.1 x p) k (rN s.2.1 - k) → zV l G d 0 MX3_rowAt (zIr (rRa s.2.1 x p) (zMh h A s)) 2 [some (.ref A.1), some (.int x), some (.int p), some (.int (nI k))] [] (zMh h A s) 0) ?_ 0 (Nat.zero_le _) rfl
  intro k hk ih hi
  refine b_X3_rowAt_2 _ _ _ _ (zLpM D hN k hk (fun e => ?_) (fun lt => ?_))
  · refine ⟨Nat.le_refl _, ?_, rfl⟩
    rw [hi, e, Nat.sub_self]; rfl
  · repeat' (first
      | refine zGr_m1.mpr ?_
      | refine zGr_m9.mpr ?_
      | refine zGr_m14.mpr ?_
      | refine zGr_m16.mpr ?_
      | refine zGi_m0.mpr ?_
      | refine zGi_m2.mpr ?_
      | refine zGi_m3.mpr ?_
      | refine zGi_m4.mpr ?_
      | refine zGi_m5.mpr ?_
      | refine zGi_m6.mpr ?_
      | refine zGi_m7.mpr ?_
      | refine zGi_m8.mpr ?_
      | refine zGi_m10.mpr ?_
      | refine zGi_m11.mpr ?_
      | refine zGi_m12.mpr ?_
      | refine zGi_m13.mpr ?_
      | refine zGi_m15.mpr ?_
      | refine zGi_m17.mpr ?_
      | refine (zPf_m0 D).mpr ?_
      | refine (zPf_m2 D).mpr ?_
      | refine (zPf_m3 D).mpr ?_
      | refine (zPf_m4 D).mpr ?_
      | refine (zPf_m5 D).mpr ?_
      | refine (zPf_m6 D).mpr ?_
      | refine (zPf_m7 D).mpr ?_
      | refine (zPf_m8 D).mpr ?_
      | refine (zPf_m10 D).mpr ?_
      | refine (zPf_m11 D).mpr ?_
      | refine (zPf_m12 D).mpr ?_
      | refine (zPf_m13 D).mpr ?_
      | refine (zPf_m15 D).mpr ?_
      | refine (zPf_m17 D).mpr ?_
      | refine (zAi_all D).mpr ⟨(by first | exact pk_in 0 _ (by decide) | exact pk_in 1 _ (by decide) | exact pk_in 2 _ (by decide) | exact pk_in 3 _ (by decide) | exact pk_in 4 _ (by decide) | exact pk_in 5 _ (by decide) | exact pk_in 6 _ (by decide) | exact pk_in 7 _ (by decide) | exact pk_in 8 _ (by decide) | exact pk_in 9 _ (by decide) | exact pk_in 10 _ (by decide)), ?_⟩
      | refine (zSt1_all D).mpr ⟨(by first | exact pk_in 0 _ (by decide) | exact pk_in 1 _ (by decide) | exact pk_in 2 _ (by decide) | exact pk_in 3 _ (by decide) | exact pk_in 4 _ (by decide) | exact pk_in 5 _ (by decide) | exact pk_in 6 _ (by decide) | exact pk_in 7 _ (by decide) | exact pk_in 8 _ (by decide) | exact pk_in 9 _ (by decide) | exact pk_in 10 _ (by decide)), ?_⟩
      | with_reducible refine zMc (s_waitsAt ht D (by omega) k (d := d - 1) (by omega)) (by omega) (Nat.le_refl _) ?_
      | with_reducible refine zMc (s_placeOf ht D hN (by omega) k (d := d - 1) (by omega)) (by omega) (Nat.le_refl _) ?_
      | refine ⟨fun _ => ?_, fun _ => ?_⟩
      | fail)
    all_goals first | (refine ⟨Nat.le_refl _, ?_, rfl⟩; rw [hi, zff_t lt (by simp_all [rRab, zbi_eq0])]) | (rw [nI_1]; refine ih lt ?_; rw [hi, zff_f lt (by simp_all [rRab, zbi_eq0])])
def rLof (r : Nat → Int32) (x : Int32) (a : Int32) (k : Nat) : Int32 := if rwa r k x then a + rc r k 1 else a
def rLo (r : Nat → Int32) (x : Int32) : Int32 := zfo (rLof r x) 0 (rN r)
theorem s_loadsOf (ht : l.stackTraces = false) (D : zMD G A) (hN : rOk s.2.1) (hd : 2 ≤ d) (x : Int32) : zCt l G d MX3_loadsOf [.ref A.1, .int x] (zMh h A s) 0 (zIr (rLo s.2.1 x) (zMh h A s)) := by
  refine zCt.of kX3_loadsOf ht (by simp [Value.category]) (Nat.le_of_ble_eq_true rfl) ?_
  refine b_X3_loadsOf_0 _ _ ?_
  have hN2 := hN.2
  refine zInd (N := rN s.2.1) (P := fun k => zV l G d 0 MX3_loadsOf (zIr (rLo s.2.1 x) (zMh h A s)) 4 [some (.ref A.1), some (.int x), some (.int (zfo (rLof s.2.1 x) 0 k)), some (.int (nI k))] [] (zMh h A s) 0) ?_ 0 (Nat.zero_le _)
  intro k hk ih
  refine b_X3_loadsOf_4 _ _ _ _ (zLpM D hN k hk (fun e => ?_) (fun lt => ?_))
  · subst e; exact ⟨Nat.le_refl _, rfl, rfl⟩
  · repeat' (first
      | refine zGr_m1.mpr ?_
      | refine zGr_m9.mpr ?_
      | refine zGr_m14.mpr ?_
      | refine zGr_m16.mpr ?_
      | refine zGi_m0.mpr ?_
      | refine zGi_m2.mpr ?_
      | refine zGi_m3.mpr ?_
      | refine zGi_m4.mpr ?_
      | refine zGi_m5.mpr ?_
      | refine zGi_m6.mpr ?_
      | refine zGi_m7.mpr ?_
      | refine zGi_m8.mpr ?_
      | refine zGi_m10.mpr ?_
      | refine zGi_m11.mpr ?_
      | refine zGi_m12.mpr ?_
      | refine zGi_m13.mpr ?_
      | refine zGi_m15.mpr ?_
      | refine zGi_m17.mpr ?_
      | refine (zPf_m0 D).mpr ?_
      | refine (zPf_m2 D).mpr ?_
      | refine (zPf_m3 D).mpr ?_
      | refine (zPf_m4 D).mpr ?_
      | refine (zPf_m5 D).mpr ?_
      | refine (zPf_m6 D).mpr ?_
      | refine (zPf_m7 D).mpr ?_
      | refine (zPf_m8 D).mpr ?_
      | refine (zPf_m10 D).mpr ?_
      | refine (zPf_m11 D).mpr ?_
      | refine (zPf_m12 D).mpr ?_
      | refine (zPf_m13 D).mpr ?_
      | refine (zPf_m15 D).mpr ?_
      | refine (zPf_m17 D).mpr ?_
      | refine (zAi_all D).mpr ⟨(by first | exact pk_in 0 _ (by decide) | exact pk_in 1 _ (by decide) | exact pk_in 2 _ (by decide) | exact pk_in 3 _ (by decide) | exact pk_in 4 _ (by decide) | exact pk_in 5 _ (by decide) | exact pk_in 6 _ (by decide) | exact pk_in 7 _ (by decide) | exact pk_in 8 _ (by decide) | exact pk_in 9 _ (by decide) | exact pk_in 10 _ (by decide)), ?_⟩
      | refine (zSt1_all D).mpr ⟨(by first | exact pk_in 0 _ (by decide) | exact pk_in 1 _ (by decide) | exact pk_in 2 _ (by decide) | exact pk_in 3 _ (by decide) | exact pk_in 4 _ (by decide) | exact pk_in 5 _ (by decide) | exact pk_in 6 _ (by decide) | exact pk_in 7 _ (by decide) | exact pk_in 8 _ (by decide) | exact pk_in 9 _ (by decide) | exact pk_in 10 _ (by decide)), ?_⟩
      | with_reducible refine zMc (s_c ht D _ _ (zvl_d _ (by decide)) (by omega) (d := d - 1)) (by omega) (Nat.le_refl _) ?_
      | with_reducible refine zMc (s_waitsAt ht D (by omega) k (d := d - 1) (by omega)) (by omega) (Nat.le_refl _) ?_
      | refine ⟨fun _ => ?_, fun _ => ?_⟩
      | fail)
    all_goals (rw [nI_1]; have := ih lt; simp only [zfo, rLof] at this ⊢; simp_all [zbi_eq0, zl_0, zl_1, zl_2, zl_3, zl_4, zl_5, zl_6, zl_7, zl_8, zl_9, zl_10, zl_11, zl_37, zl_40, zl_60, zl_99, zl_411])
def rKef (r : Nat → Int32) (x first : Int32) (a : Int32) (k : Nat) : Int32 := if rwa r k x then (if first = 0 then (if rc r k 8 < a then a else rc r k 8 + 1) else (if a < rc r k 8 then a else rc r k 8 - 1)) else a
def rKe (r : Nat → Int32) (x first : Int32) : Int32 := zfo (rKef r x first) 0 (rN r)
theorem s_keyAt (ht : l.stackTraces = false) (D : zMD G A) (hN : rOk s.2.1) (hd : 2 ≤ d) (x f : Int32) : zCt l G d MX3_keyAt [.ref A.1, .int x, .int f] (zMh h A s) 0 (zIr (rKe s.2.1 x f) (zMh h A s)) := by
  refine zCt.of kX3_keyAt ht (by simp [Value.category]) (Nat.le_of_ble_eq_true rfl) ?_
  refine b_X3_keyAt_0 _ _ _ ?_
  have hN2 := hN.2
  refine zInd (N := rN s.2.1) (P := fun k => zV l G d 0 MX3_keyAt (zIr (rKe s.2.1 x f) (zMh h A s)) 5 [some (.ref A.1), some (.int x), some (.int f), some (.int (zfo (rKef s.2.1 x f) 0 k)), some (.int (nI k))] [] (zMh h A s) 0) ?_ 0 (Nat.zero_le _)
  intro k hk ih
  refine b_X3_keyAt_5 _ _ _ _ _ (zLpM D hN k hk (fun e => ?_) (fun lt => ?_))
  · subst e; exact ⟨Nat.le_refl _, rfl, rfl⟩
  · repeat' (first
      | refine zGr_m1.mpr ?_
      | refine zGr_m9.mpr ?_
      | refine zGr_m14.mpr ?_
      | refine zGr_m16.mpr ?_
      | refine zGi_m0.mpr ?_
      | refine zGi_m2.mpr ?_
      | refine zGi_m3.mpr ?_
      | refine zGi_m4.mpr ?_
      | refine zGi_m5.mpr ?_
      | refine zGi_m6.mpr ?_
      | refine zGi_m7.mpr ?_
      | refine zGi_m8.mpr ?_
      | refine zGi_m10.mpr ?_
      | refine zGi_m11.mpr ?_
      | refine zGi_m12.mpr ?_
      | refine zGi_m13.mpr ?_
      | refine zGi_m15.mpr ?_
      | refine zGi_m17.mpr ?_
      | refine (zPf_m0 D).mpr ?_
      | refine (zPf_m2 D).mpr ?_
      | refine (zPf_m3 D).mpr ?_
      | refine (zPf_m4 D).mpr ?_
      | refine (zPf_m5 D).mpr ?_
      | refine (zPf_m6 D).mpr ?_
      | refine (zPf_m7 D).mpr ?_
      | refine (zPf_m8 D).mpr ?_
      | refine (zPf_m10 D).mpr ?_
      | refine (zPf_m11 D).mpr ?_
      | refine (zPf_m12 D).mpr ?_
      | refine (zPf_m13 D).mpr ?_
      | refine (zPf_m15 D).mpr ?_
      | refine (zPf_m17 D).mpr ?_
      | refine (zAi_all D).mpr ⟨(by first | exact pk_in 0 _ (by decide) | exact pk_in 1 _ (by decide) | exact pk_in 2 _ (by decide) | exact pk_in 3 _ (by decide) | exact pk_in 4 _ (by decide) | exact pk_in 5 _ (by decide) | exact pk_in 6 _ (by decide) | exact pk_in 7 _ (by decide) | exact pk_in 8 _ (by decide) | exact pk_in 9 _ (by decide) | exact pk_in 10 _ (by decide)), ?_⟩
      | refine (zSt1_all D).mpr ⟨(by first | exact pk_in 0 _ (by decide) | exact pk_in 1 _ (by decide) | exact pk_in 2 _ (by decide) | exact pk_in 3 _ (by decide) | exact pk_in 4 _ (by decide) | exact pk_in 5 _ (by decide) | exact pk_in 6 _ (by decide) | exact pk_in 7 _ (by decide) | exact pk_in 8 _ (by decide) | exact pk_in 9 _ (by decide) | exact pk_in 10 _ (by decide)), ?_⟩
      | with_reducible refine zMc (s_c ht D _ _ (zvl_d _ (by decide)) (by omega) (d := d - 1)) (by omega) (Nat.le_refl _) ?_
      | with_reducible refine zMc (s_waitsAt ht D (by omega) k (d := d - 1) (by omega)) (by omega) (Nat.le_refl _) ?_
      | refine ⟨fun _ => ?_, fun _ => ?_⟩
      | fail)
    all_goals (rw [nI_1]; have := ih lt; simp only [zfo, rKef] at this ⊢; simp_all [zbi_eq0, ← Int32.not_lt, zl_0, zl_1, zl_2, zl_3, zl_4, zl_5, zl_6, zl_7, zl_8, zl_9, zl_10, zl_11, zl_37, zl_40, zl_60, zl_99, zl_411])
def rCob (r : Nat → Int32) (x : Int32) (k : Nat) : Bool := rc r k 2 == 1 && rc r k 3 == x
def rCo (r : Nat → Int32) (x : Int32) : Int32 := zff (rCob r x) 0 (rN r)
theorem s_cartOn (ht : l.stackTraces = false) (D : zMD G A) (hN : rOk s.2.1) (hd : 2 ≤ d) (x : Int32) : zCt l G d MX3_cartOn [.ref A.1, .int x] (zMh h A s) 0 (zIr (rCo s.2.1 x) (zMh h A s)) := by
  refine zCt.of kX3_cartOn ht (by simp [Value.category]) (Nat.le_of_ble_eq_true rfl) ?_
  refine b_X3_cartOn_0 _ _ ?_
  have hN2 := hN.2
  refine zInd (N := rN s.2.1) (P := fun k => rCo s.2.1 x = zff (rCob s.2.1 x) k (rN s.2.1 - k) → zV l G d 0 MX3_cartOn (zIr (rCo s.2.1 x) (zMh h A s)) 2 [some (.ref A.1), some (.int x), some (.int (nI k))] [] (zMh h A s) 0) ?_ 0 (Nat.zero_le _) rfl
  intro k hk ih hi
  refine b_X3_cartOn_2 _ _ _ (zLpM D hN k hk (fun e => ?_) (fun lt => ?_))
  · refine ⟨Nat.le_refl _, ?_, rfl⟩
    rw [hi, e, Nat.sub_self]; rfl
  · repeat' (first
      | refine zGr_m1.mpr ?_
      | refine zGr_m9.mpr ?_
      | refine zGr_m14.mpr ?_
      | refine zGr_m16.mpr ?_
      | refine zGi_m0.mpr ?_
      | refine zGi_m2.mpr ?_
      | refine zGi_m3.mpr ?_
      | refine zGi_m4.mpr ?_
      | refine zGi_m5.mpr ?_
      | refine zGi_m6.mpr ?_
      | refine zGi_m7.mpr ?_
      | refine zGi_m8.mpr ?_
      | refine zGi_m10.mpr ?_
      | refine zGi_m11.mpr ?_
      | refine zGi_m12.mpr ?_
      | refine zGi_m13.mpr ?_
      | refine zGi_m15.mpr ?_
      | refine zGi_m17.mpr ?_
      | refine (zPf_m0 D).mpr ?_
      | refine (zPf_m2 D).mpr ?_
      | refine (zPf_m3 D).mpr ?_
      | refine (zPf_m4 D).mpr ?_
      | refine (zPf_m5 D).mpr ?_
      | refine (zPf_m6 D).mpr ?_
      | refine (zPf_m7 D).mpr ?_
      | refine (zPf_m8 D).mpr ?_
      | refine (zPf_m10 D).mpr ?_
      | refine (zPf_m11 D).mpr ?_
      | refine (zPf_m12 D).mpr ?_
      | refine (zPf_m13 D).mpr ?_
      | refine (zPf_m15 D).mpr ?_
      | refine (zPf_m17 D).mpr ?_
      | refine (zAi_all D).mpr ⟨(by first | exact pk_in 0 _ (by decide) | exact pk_in 1 _ (by decide) | exact pk_in 2 _ (by decide) | exact pk_in 3 _ (by decide) | exact pk_in 4 _ (by decide) | exact pk_in 5 _ (by decide) | exact pk_in 6 _ (by decide) | exact pk_in 7 _ (by decide) | exact pk_in 8 _ (by decide) | exact pk_in 9 _ (by decide) | exact pk_in 10 _ (by decide)), ?_⟩
      | refine (zSt1_all D).mpr ⟨(by first | exact pk_in 0 _ (by decide) | exact pk_in 1 _ (by decide) | exact pk_in 2 _ (by decide) | exact pk_in 3 _ (by decide) | exact pk_in 4 _ (by decide) | exact pk_in 5 _ (by decide) | exact pk_in 6 _ (by decide) | exact pk_in 7 _ (by decide) | exact pk_in 8 _ (by decide) | exact pk_in 9 _ (by decide) | exact pk_in 10 _ (by decide)), ?_⟩
      | with_reducible refine zMc (s_c ht D _ _ (zvl_d _ (by decide)) (by omega) (d := d - 1)) (by omega) (Nat.le_refl _) ?_
      | refine ⟨fun _ => ?_, fun _ => ?_⟩
      | fail)
    all_goals first | (refine ⟨Nat.le_refl _, ?_, rfl⟩; rw [hi, zff_t lt (by simp_all [rCob, zl_0, zl_1, zl_2, zl_3, zl_4, zl_5, zl_6, zl_7, zl_8, zl_9, zl_10, zl_11, zl_37, zl_40, zl_60, zl_99, zl_411])]) | (rw [nI_1]; refine ih lt ?_; rw [hi, zff_f lt (by simp_all [rCob, zl_0, zl_1, zl_2, zl_3, zl_4, zl_5, zl_6, zl_7, zl_8, zl_9, zl_10, zl_11, zl_37, zl_40, zl_60, zl_99, zl_411])])
def rOnb (r : Nat → Int32) (k : Nat) : Bool := rc r k 2 == 1
def rOn (r : Nat → Int32) : Nat := zcnt (rOnb r) (rN r)
theorem s_onBridge (ht : l.stackTraces = false) (D : zMD G A) (hN : rOk s.2.1) (hd : 2 ≤ d) : zCt l G d MX3_onBridge [.ref A.1] (zMh h A s) 0 (zIr (nI (rOn s.2.1)) (zMh h A s)) := by
  refine zCt.of kX3_onBridge ht (by simp [Value.category]) (Nat.le_of_ble_eq_true rfl) ?_
  refine b_X3_onBridge_0 _ ?_
  have hN2 := hN.2
  refine zInd (N := rN s.2.1) (P := fun k => zV l G d 0 MX3_onBridge (zIr (nI (rOn s.2.1)) (zMh h A s)) 4 [some (.ref A.1), some (.int (nI (zcnt (rOnb s.2.1) k))), some (.int (nI k))] [] (zMh h A s) 0) ?_ 0 (Nat.zero_le _)
  intro k hk ih
  refine b_X3_onBridge_4 _ _ _ (zLpM D hN k hk (fun e => ?_) (fun lt => ?_))
  · subst e; exact ⟨Nat.le_refl _, rfl, rfl⟩
  · repeat' (first
      | refine zGr_m1.mpr ?_
      | refine zGr_m9.mpr ?_
      | refine zGr_m14.mpr ?_
      | refine zGr_m16.mpr ?_
      | refine zGi_m0.mpr ?_
      | refine zGi_m2.mpr ?_
      | refine zGi_m3.mpr ?_
      | refine zGi_m4.mpr ?_
      | refine zGi_m5.mpr ?_
      | refine zGi_m6.mpr ?_
      | refine zGi_m7.mpr ?_
      | refine zGi_m8.mpr ?_
      | refine zGi_m10.mpr ?_
      | refine zGi_m11.mpr ?_
      | refine zGi_m12.mpr ?_
      | refine zGi_m13.mpr ?_
      | refine zGi_m15.mpr ?_
      | refine zGi_m17.mpr ?_
      | refine (zPf_m0 D).mpr ?_
      | refine (zPf_m2 D).mpr ?_
      | refine (zPf_m3 D).mpr ?_
      | refine (zPf_m4 D).mpr ?_
      | refine (zPf_m5 D).mpr ?_
      | refine (zPf_m6 D).mpr ?_
      | refine (zPf_m7 D).mpr ?_
      | refine (zPf_m8 D).mpr ?_
      | refine (zPf_m10 D).mpr ?_
      | refine (zPf_m11 D).mpr ?_
      | refine (zPf_m12 D).mpr ?_
      | refine (zPf_m13 D).mpr ?_
      | refine (zPf_m15 D).mpr ?_
      | refine (zPf_m17 D).mpr ?_
      | refine (zAi_all D).mpr ⟨(by first | exact pk_in 0 _ (by decide) | exact pk_in 1 _ (by decide) | exact pk_in 2 _ (by decide) | exact pk_in 3 _ (by decide) | exact pk_in 4 _ (by decide) | exact pk_in 5 _ (by decide) | exact pk_in 6 _ (by decide) | exact pk_in 7 _ (by decide) | exact pk_in 8 _ (by decide) | exact pk_in 9 _ (by decide) | exact pk_in 10 _ (by decide)), ?_⟩
      | refine (zSt1_all D).mpr ⟨(by first | exact pk_in 0 _ (by decide) | exact pk_in 1 _ (by decide) | exact pk_in 2 _ (by decide) | exact pk_in 3 _ (by decide) | exact pk_in 4 _ (by decide) | exact pk_in 5 _ (by decide) | exact pk_in 6 _ (by decide) | exact pk_in 7 _ (by decide) | exact pk_in 8 _ (by decide) | exact pk_in 9 _ (by decide) | exact pk_in 10 _ (by decide)), ?_⟩
      | with_reducible refine zMc (s_c ht D _ _ (zvl_d _ (by decide)) (by omega) (d := d - 1)) (by omega) (Nat.le_refl _) ?_
      | refine ⟨fun _ => ?_, fun _ => ?_⟩
      | fail)
    all_goals first | (rw [zcnt_t (p := rOnb s.2.1) (by simp_all [rOnb, zl_0, zl_1, zl_2, zl_3, zl_4, zl_5, zl_6, zl_7, zl_8, zl_9, zl_10, zl_11, zl_37, zl_40, zl_60, zl_99, zl_411]), nI_1]; exact ih lt) | (rw [zcnt_f (p := rOnb s.2.1) (by simp_all [rOnb, zl_0, zl_1, zl_2, zl_3, zl_4, zl_5, zl_6, zl_7, zl_8, zl_9, zl_10, zl_11, zl_37, zl_40, zl_60, zl_99, zl_411]), nI_1]; exact ih lt)
def zany (p : Nat → Bool) : Nat → Nat → Bool
  | _, 0 => false
  | k, j + 1 => p k || zany p (k + 1) j
theorem zany_t {p : Nat → Bool} {k N : Nat} (hk : k < N) (h : p k = true) : zany p k (N - k) = true := by
  obtain ⟨j, hj⟩ : ∃ j, N - k = j + 1 := ⟨N - k - 1, by omega⟩
  rw [hj, zany, h, Bool.true_or]
theorem zany_f {p : Nat → Bool} {k N : Nat} (hk : k < N) (h : p k = false) : zany p k (N - k) = zany p (k + 1) (N - (k + 1)) := by
  obtain ⟨j, hj⟩ : ∃ j, N - k = j + 1 := ⟨N - k - 1, by omega⟩
  rw [hj, zany, h, Bool.false_or, show N - (k + 1) = j by omega]
def rHtb (r : Nat → Int32) (x : Int32) (k : Nat) : Bool := rc r k 2 == 1 && rc r k 4 == x
def rHt (r : Nat → Int32) (x : Int32) : Bool := zany (rHtb r x) 0 (rN r)
theorem s_headsTo (ht : l.stackTraces = false) (D : zMD G A) (hN : rOk s.2.1) (hd : 2 ≤ d) (x : Int32) : zCt l G d MX3_headsTo [.ref A.1, .int x] (zMh h A s) 0 (zIr (zbi (rHt s.2.1 x)) (zMh h A s)) := by
  refine zCt.of kX3_headsTo ht (by simp [Value.category]) (Nat.le_of_ble_eq_true rfl) ?_
  refine b_X3_headsTo_0 _ _ ?_
  have hN2 := hN.2
  refine zInd (N := rN s.2.1) (P := fun k => rHt s.2.1 x = zany (rHtb s.2.1 x) k (rN s.2.1 - k) → zV l G d 0 MX3_headsTo (zIr (zbi (rHt s.2.1 x)) (zMh h A s)) 2 [some (.ref A.1), some (.int x), some (.int (nI k))] [] (zMh h A s) 0) ?_ 0 (Nat.zero_le _) rfl
  intro k hk ih hi
  refine b_X3_headsTo_2 _ _ _ (zLpM D hN k hk (fun e => ?_) (fun lt => ?_))
  · refine ⟨Nat.le_refl _, ?_, rfl⟩
    rw [hi, e, Nat.sub_self]; rfl
  · repeat' (first
      | refine zGr_m1.mpr ?_
      | refine zGr_m9.mpr ?_
      | refine zGr_m14.mpr ?_
      | refine zGr_m16.mpr ?_
      | refine zGi_m0.mpr ?_
      | refine zGi_m2.mpr ?_
      | refine zGi_m3.mpr ?_
      | refine zGi_m4.mpr ?_
      | refine zGi_m5.mpr ?_
      | refine zGi_m6.mpr ?_
      | refine zGi_m7.mpr ?_
      | refine zGi_m8.mpr ?_
      | refine zGi_m10.mpr ?_
      | refine zGi_m11.mpr ?_
      | refine zGi_m12.mpr ?_
      | refine zGi_m13.mpr ?_
      | refine zGi_m15.mpr ?_
      | refine zGi_m17.mpr ?_
      | refine (zPf_m0 D).mpr ?_
      | refine (zPf_m2 D).mpr ?_
      | refine (zPf_m3 D).mpr ?_
      | refine (zPf_m4 D).mpr ?_
      | refine (zPf_m5 D).mpr ?_
      | refine (zPf_m6 D).mpr ?_
      | refine (zPf_m7 D).mpr ?_
      | refine (zPf_m8 D).mpr ?_
      | refine (zPf_m10 D).mpr ?_
      | refine (zPf_m11 D).mpr ?_
      | refine (zPf_m12 D).mpr ?_
      | refine (zPf_m13 D).mpr ?_
      | refine (zPf_m15 D).mpr ?_
      | refine (zPf_m17 D).mpr ?_
      | refine (zAi_all D).mpr ⟨(by first | exact pk_in 0 _ (by decide) | exact pk_in 1 _ (by decide) | exact pk_in 2 _ (by decide) | exact pk_in 3 _ (by decide) | exact pk_in 4 _ (by decide) | exact pk_in 5 _ (by decide) | exact pk_in 6 _ (by decide) | exact pk_in 7 _ (by decide) | exact pk_in 8 _ (by decide) | exact pk_in 9 _ (by decide) | exact pk_in 10 _ (by decide)), ?_⟩
      | refine (zSt1_all D).mpr ⟨(by first | exact pk_in 0 _ (by decide) | exact pk_in 1 _ (by decide) | exact pk_in 2 _ (by decide) | exact pk_in 3 _ (by decide) | exact pk_in 4 _ (by decide) | exact pk_in 5 _ (by decide) | exact pk_in 6 _ (by decide) | exact pk_in 7 _ (by decide) | exact pk_in 8 _ (by decide) | exact pk_in 9 _ (by decide) | exact pk_in 10 _ (by decide)), ?_⟩
      | with_reducible refine zMc (s_c ht D _ _ (zvl_d _ (by decide)) (by omega) (d := d - 1)) (by omega) (Nat.le_refl _) ?_
      | with_reducible refine zMc (s_isOn ht D (by omega) k (by omega) (d := d - 1)) (by omega) (Nat.le_refl _) ?_
      | refine ⟨fun _ => ?_, fun _ => ?_⟩
      | fail)
    all_goals first | (refine ⟨Nat.le_refl _, ?_, rfl⟩; rw [hi, zany_t lt (by simp_all [rHtb, zbi_eq0, zl_0, zl_1, zl_2, zl_3, zl_4, zl_5, zl_6, zl_7, zl_8, zl_9, zl_10, zl_11, zl_37, zl_40, zl_60, zl_99, zl_411])]; rfl) | (rw [nI_1]; refine ih lt ?_; rw [hi, zany_f lt (by simp_all [rHtb, zbi_eq0, zl_0, zl_1, zl_2, zl_3, zl_4, zl_5, zl_6, zl_7, zl_8, zl_9, zl_10, zl_11, zl_37, zl_40, zl_60, zl_99, zl_411])])
end ZM2
