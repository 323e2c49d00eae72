/-! the model: ahead, longest -/
def rAh (r : Nat → Int32) (b : Int32) : Nat → Int32 → Int32
  | 0, _ => -1
  | j + 1, sp => if zbt sp 0 (r 4 - 1) then (if rCo r sp = -1 then rAh r b j (sp + b) else rCo r sp) else -1
def rAhOk (r : Nat → Int32) (b : Int32) : Nat → Int32 → Prop
  | 0, sp => zbt sp 0 (r 4 - 1) = false
  | j + 1, sp => zbt sp 0 (r 4 - 1) = true → rCo r sp = -1 → rAhOk r b j (sp + b)
def rBy (r : Nat → Int32) (k : Nat) : Int32 := if rc r k 4 = 1 then 1 else -1
def rAd (g : Nat) (r : Nat → Int32) (x : Int32) : Int32 := let k := x.toNatClampNeg; rAh r (rBy r k) g (rc r k 3 + rBy r k)
def rAt (g : Nat) (r : Nat → Int32) (x : Int32) : Int32 := if rTo r x = 0 then (if rAd g r x = -1 then 3 else 0) else rTo r x
section ZMF
variable {l : Launch} {G : zG} {h : zH} {A : zMA} {s : zMS} {d : Nat}
theorem s_ahead (ht : l.stackTraces = false) (D : zMD G A) (hN : rOk s.2.1) (hd : 4 ≤ d) (g : Nat) (x : Int32) (ho : rTo s.2.1 x = 0 → rAhOk s.2.1 (rBy s.2.1 x.toNatClampNeg) g (rc s.2.1 x.toNatClampNeg 3 + rBy s.2.1 x.toNatClampNeg)) : zCt l G d MX3_ahead [.ref A.1, .int x] (zMh h A s) 0 (zIr (if rTo s.2.1 x = 0 then zFo (rAd g s.2.1 x) else 0) (zMh h A (zMf s 0 (rAt g s.2.1 x)))) := by
  refine zCt.of kX3_ahead ht (by simp [Value.category]) (Nat.le_of_ble_eq_true rfl) ?_
  have hN2 := hN.2
  refine b_X3_ahead_0 _ _ (zMc (s_isThereOn ht D hN (by omega) _ (d := d - 1)) (by omega) (Nat.le_refl _) ?_)
  by_cases h0 : rTo s.2.1 x = 0
  · obtain ⟨k, hk, rfl, h1⟩ := rTo_0 hN h0
    have ho := ho h0
    have z1 : (nI k).toNatClampNeg = k := nI_clamp (by omega)
    rw [z1] at ho
    have H : ∀ j b sp, rAhOk s.2.1 b j sp → ∀ v t9, v = zFo (rAh s.2.1 b j sp) → t9 = (if rAh s.2.1 b j sp = -1 then 3 else 0) → zV l G d 0 MX3_ahead (zIr v (zMh h A (zMf s 0 t9))) 35 [some (.ref A.1), some (.int (nI k)), some (.int b), some (.int sp)] [] (zMh h A (zMf s 0 0)) 0 := by
      intro j
      induction j with
      | zero =>
        intro b sp hj v t9 hv h9
        subst hv; subst h9
        refine b_X3_ahead_35 _ _ _ _ (zGr_m1.mpr ((zAi_all D).mpr ⟨pk_in 4 _ (by decide), zCall.P (s_in ht (d := d - 1)) (by omega) (Nat.le_refl _) ?_⟩))
        simp only [zl_0, zl_1, zl_2, zl_3, zl_4, zl_5, zl_6, zl_7, zl_8, zl_9, zl_10, zl_11, zl_37, zl_40, zl_60, zl_99, zl_411, zMf_2]
        rw [show zbt sp 0 (s.2.1 4 - 1) = false from hj]
        exact ⟨fun _ => (zPf_m0 D).mpr ⟨Nat.le_refl _, rfl, by rw [zMf_f]; rfl⟩, fun c => absurd rfl c⟩
      | succ j ih =>
        intro b sp hj v t9 hv h9
        refine b_X3_ahead_35 _ _ _ _ (zGr_m1.mpr ((zAi_all D).mpr ⟨pk_in 4 _ (by decide), zCall.P (s_in ht (d := d - 1)) (by omega) (Nat.le_refl _) ?_⟩))
        simp only [zl_0, zl_1, zl_2, zl_3, zl_4, zl_5, zl_6, zl_7, zl_8, zl_9, zl_10, zl_11, zl_37, zl_40, zl_60, zl_99, zl_411, zMf_2]
        cases hb : zbt sp 0 (s.2.1 4 - 1)
        · have e : rAh s.2.1 b (j + 1) sp = -1 := by simp [rAh, hb]
          rw [e] at hv h9
          subst hv; subst h9
          exact ⟨fun _ => (zPf_m0 D).mpr ⟨Nat.le_refl _, rfl, by rw [zMf_f]; rfl⟩, fun c => absurd rfl c⟩
        · refine ⟨fun c => absurd c (by decide), fun _ => ?_⟩
          refine zMc (s_cartOn (s := zMf s 0 _) ht D hN (by omega) _ (d := d - 1)) (by omega) (Nat.le_refl _) ?_
          simp only [zMf_2]
          by_cases hc : rCo s.2.1 sp = -1
          · have e : rAh s.2.1 b (j + 1) sp = rAh s.2.1 b j (sp + b) := by simp [rAh, hb, hc]
            rw [e] at hv h9
            exact ⟨fun _ => ih b (sp + b) (hj hb hc) v t9 hv h9, fun c => absurd hc c⟩
          · have e : rAh s.2.1 b (j + 1) sp = rCo s.2.1 sp := by simp [rAh, hb, hc]
            rw [e] at hv h9
            subst hv; subst h9
            refine ⟨fun c => absurd c hc, fun _ => ?_⟩
            refine zMc (s_cartOn (s := zMf s 0 _) ht D hN (by omega) _ (d := d - 1)) (by omega) (Nat.le_refl _) ⟨Nat.le_refl _, ?_, ?_⟩
            · simp only [zMf_2]; rw [zFo, if_neg hc]
            · rw [if_neg hc]
    have e2 : rAt g s.2.1 (nI k) = (if rAh s.2.1 (rBy s.2.1 k) g (rc s.2.1 k 3 + rBy s.2.1 k) = -1 then 3 else 0) := by simp only [rAt, if_pos h0, rAd, z1]
    have e3 : zFo (rAd g s.2.1 (nI k)) = zFo (rAh s.2.1 (rBy s.2.1 k) g (rc s.2.1 k 3 + rBy s.2.1 k)) := by simp only [rAd, z1]
    rw [if_pos h0, e2, e3]
    have H := H g _ _ ho _ _ rfl rfl
    rw [h0]
    refine ⟨fun _ => ?_, fun c => absurd (fun e => by cases e) c⟩
    generalize zFo (rAh s.2.1 (rBy s.2.1 k) g (rc s.2.1 k 3 + rBy s.2.1 k)) = v at H ⊢
    generalize (if rAh s.2.1 (rBy s.2.1 k) g (rc s.2.1 k 3 + rBy s.2.1 k) = -1 then (3 : Int32) else 0) = t9 at H ⊢
    repeat' (first
        | refine zGr_m1.mpr ?_
        | refine zGr_m9.mpr ?_
        | refine zGr_m14.mpr ?_
        | refine zGr_m16.mpr ?_
        | refine zGi_m0.mpr ?_
        | refine zGi_m2.mpr ?_
        | refine zGi_m3.mpr ?_
        | refine zGi_m4.mpr ?_
        | refine zGi_m5.mpr ?_
        | refine zGi_m6.mpr ?_
        | refine zGi_m7.mpr ?_
        | refine zGi_m8.mpr ?_
        | refine zGi_m10.mpr ?_
        | refine zGi_m11.mpr ?_
        | refine zGi_m12.mpr ?_
        | refine zGi_m13.mpr ?_
        | refine zGi_m15.mpr ?_
        | refine zGi_m17.mpr ?_
        | refine (zPf_m0 D).mpr ?_
        | refine (zPf_m2 D).mpr ?_
        | refine (zPf_m3 D).mpr ?_
        | refine (zPf_m4 D).mpr ?_
        | refine (zPf_m5 D).mpr ?_
        | refine (zPf_m6 D).mpr ?_
        | refine (zPf_m7 D).mpr ?_
        | refine (zPf_m8 D).mpr ?_
        | refine (zPf_m10 D).mpr ?_
        | refine (zPf_m11 D).mpr ?_
        | refine (zPf_m12 D).mpr ?_
        | refine (zPf_m13 D).mpr ?_
        | refine (zPf_m15 D).mpr ?_
        | refine (zPf_m17 D).mpr ?_
        | refine (zAi_all D).mpr ⟨(by first | exact pk_in 0 _ (by decide) | exact pk_in 1 _ (by decide) | exact pk_in 2 _ (by decide) | exact pk_in 3 _ (by decide) | exact pk_in 4 _ (by decide) | exact pk_in 5 _ (by decide) | exact pk_in 6 _ (by decide) | exact pk_in 7 _ (by decide) | exact pk_in 8 _ (by decide) | exact pk_in 9 _ (by decide) | exact pk_in 10 _ (by decide)), ?_⟩
        | refine (zSt1_all D).mpr ⟨(by first | exact pk_in 0 _ (by decide) | exact pk_in 1 _ (by decide) | exact pk_in 2 _ (by decide) | exact pk_in 3 _ (by decide) | exact pk_in 4 _ (by decide) | exact pk_in 5 _ (by decide) | exact pk_in 6 _ (by decide) | exact pk_in 7 _ (by decide) | exact pk_in 8 _ (by decide) | exact pk_in 9 _ (by decide) | exact pk_in 10 _ (by decide)), ?_⟩
        | with_reducible refine zMc (s_c ht D _ _ (zvl_d _ (by decide)) (by omega) (d := d - 1)) (by omega) (Nat.le_refl _) ?_
        | refine ⟨fun _ => ?_, fun _ => ?_⟩
        | fail)
    · rename_i c
      have c : ¬ rc s.2.1 k 4 = 1 := by simpa [zl_0, zl_1, zl_2, zl_3, zl_4, zl_5, zl_6, zl_7, zl_8, zl_9, zl_10, zl_11, zl_37, zl_40, zl_60, zl_99, zl_411, zMf_2] using c
      rw [rBy, if_neg c] at H
      exact H
    · rename_i c
      have c : rc s.2.1 k 4 = 1 := by simpa [zl_0, zl_1, zl_2, zl_3, zl_4, zl_5, zl_6, zl_7, zl_8, zl_9, zl_10, zl_11, zl_37, zl_40, zl_60, zl_99, zl_411, zMf_2] using c
      rw [rBy, if_pos c] at H
      exact H
  · rw [show (rTo s.2.1 x == 0) = false by simpa using h0, if_neg h0]
    refine ⟨fun c => absurd rfl c, fun _ => ⟨Nat.le_refl _, rfl, ?_⟩⟩
    rw [rAt, if_neg h0]
def rHe (r : Nat → Int32) (k : Nat) : Bool := decide (rc r k 2 ≤ 1)
theorem s_isHereB (ht : l.stackTraces = false) (D : zMD G A) (hd : 1 ≤ d) (k : Nat) (hk : k ≤ 40) : zCt l G d MX3_isHere [.ref A.1, .int (nI k)] (zMh h A s) 0 (zIr (zbi (rHe s.2.1 k)) (zMh h A s)) := s_isHere ht D hd k hk
def rLgb (r : Nat → Int32) (k j : Nat) : Bool := rHe r j && (decide (rc r k 7 < rc r j 7) || (rc r j 7 == rc r k 7 && decide (j < k)))
def rLgp (r : Nat → Int32) (x : Int32) (k : Nat) : Bool := rHe r k && nI (zcnt (rLgb r k) (rN r)) == x
def rLg (r : Nat → Int32) (x : Int32) : Int32 := zff (rLgp r x) 0 (rN r)
theorem s_longest (ht : l.stackTraces = false) (D : zMD G A) (hN : rOk s.2.1) (hd : 3 ≤ d) (x : Int32) : zCt l G d MX3_longest [.ref A.1, .int x] (zMh h A s) 0 (zIr (zFo (rLg s.2.1 x)) (zMh h A (zMf s 0 (if rLg s.2.1 x = -1 then 1 else 0)))) := by
  refine zCt.of kX3_longest ht (by simp [Value.category]) (Nat.le_of_ble_eq_true rfl) ?_
  refine b_X3_longest_0 _ _ ?_
  have hN2 := hN.2
  have H := zInd (N := rN s.2.1) (P := fun k => rLg s.2.1 x = zff (rLgp s.2.1 x) k (rN s.2.1 - k) → ∀ t0, zV l G d 0 MX3_longest (zIr (zFo (rLg s.2.1 x)) (zMh h A (zMf s 0 (if rLg s.2.1 x = -1 then 1 else 0)))) 2 [some (.ref A.1), some (.int x), some (.int (nI k)), none, none] [] (zMh h A (zMf s 0 t0)) 0) ?_ 0 (Nat.zero_le _) rfl (s.1 0)
  · rw [zMf_self] at H; exact H
  intro k hk ih hi t0
  refine b_X3_longest_2 _ _ _ (zLpM (s := zMf s 0 t0) D hN k hk (fun e => ?_) (fun lt => ?_))
  · have e9 : rLg s.2.1 x = -1 := by
      rw [hi, e]
      show zff _ _ (rN s.2.1 - rN s.2.1) = _
      rw [Nat.sub_self]; rfl
    refine (zPf_m0 D).mpr ⟨Nat.le_refl _, ?_, ?_⟩
    · rw [e9]; rfl
    · rw [e9, if_pos rfl, zMf_f]
  · have lt : k < rN s.2.1 := lt
    have z1 := zn1 (show k < 2 ^ 31 by omega)
    refine zInd (N := rN s.2.1) (P := fun j => zV l G d 0 MX3_longest (zIr (zFo (rLg s.2.1 x)) (zMh h A (zMf s 0 (if rLg s.2.1 x = -1 then 1 else 0)))) 17 [some (.ref A.1), some (.int x), some (.int (nI k)), some (.int (nI (zcnt (rLgb s.2.1 k) j))), some (.int (nI j))] [] (zMh h A (zMf s 0 t0)) 0) ?_ 0 (Nat.zero_le _)
    intro j hj ihj
    refine b_X3_longest_17 _ _ _ _ _ (zLpM (s := zMf s 0 t0) D hN j hj (fun e => ?_) (fun ltj => ?_))
    · obtain rfl : j = rN s.2.1 := e
      have hq : ∀ b, rLgp s.2.1 x k = b → (b = true → rLg s.2.1 x = nI k) ∧ (b = false → rLg s.2.1 x = zff (rLgp s.2.1 x) (k + 1) (rN s.2.1 - (k + 1))) := fun b hb =>
        ⟨fun e => by rw [hi, zff_t lt (by rw [hb, e])], fun e => by rw [hi, zff_f lt (by rw [hb, e])]⟩
      repeat' (first
          | refine zGr_m1.mpr ?_
          | refine zGr_m9.mpr ?_
          | refine zGr_m14.mpr ?_
          | refine zGr_m16.mpr ?_
          | refine zGi_m0.mpr ?_
          | refine zGi_m2.mpr ?_
          | refine zGi_m3.mpr ?_
          | refine zGi_m4.mpr ?_
          | refine zGi_m5.mpr ?_
          | refine zGi_m6.mpr ?_
          | refine zGi_m7.mpr ?_
          | refine zGi_m8.mpr ?_
          | refine zGi_m10.mpr ?_
          | refine zGi_m11.mpr ?_
          | refine zGi_m12.mpr ?_
          | refine zGi_m13.mpr ?_
          | refine zGi_m15.mpr ?_
          | refine zGi_m17.mpr ?_
          | refine (zPf_m0 D).mpr ?_
          | refine (zPf_m2 D).mpr ?_
          | refine (zPf_m3 D).mpr ?_
          | refine (zPf_m4 D).mpr ?_
          | refine (zPf_m5 D).mpr ?_
          | refine (zPf_m6 D).mpr ?_
          | refine (zPf_m7 D).mpr ?_
          | refine (zPf_m8 D).mpr ?_
          | refine (zPf_m10 D).mpr ?_
          | refine (zPf_m11 D).mpr ?_
          | refine (zPf_m12 D).mpr ?_
          | refine (zPf_m13 D).mpr ?_
          | refine (zPf_m15 D).mpr ?_
          | refine (zPf_m17 D).mpr ?_
          | refine (zAi_all D).mpr ⟨(by first | exact pk_in 0 _ (by decide) | exact pk_in 1 _ (by decide) | exact pk_in 2 _ (by decide) | exact pk_in 3 _ (by decide) | exact pk_in 4 _ (by decide) | exact pk_in 5 _ (by decide) | exact pk_in 6 _ (by decide) | exact pk_in 7 _ (by decide) | exact pk_in 8 _ (by decide) | exact pk_in 9 _ (by decide) | exact pk_in 10 _ (by decide)), ?_⟩
          | refine (zSt1_all D).mpr ⟨(by first | exact pk_in 0 _ (by decide) | exact pk_in 1 _ (by decide) | exact pk_in 2 _ (by decide) | exact pk_in 3 _ (by decide) | exact pk_in 4 _ (by decide) | exact pk_in 5 _ (by decide) | exact pk_in 6 _ (by decide) | exact pk_in 7 _ (by decide) | exact pk_in 8 _ (by decide) | exact pk_in 9 _ (by decide) | exact pk_in 10 _ (by decide)), ?_⟩
          | with_reducible refine zMc (s_isHereB ht D (by omega) _ (by omega) (d := d - 1)) (by omega) (Nat.le_refl _) ?_
          | with_reducible refine zMc (s_isThereX ht D _ (by decide) (d := d - 1)) (by omega) (Nat.le_refl _) ?_
          | refine ⟨fun _ => ?_, fun _ => ?_⟩
          | fail)
      all_goals first
        | (exfalso; simp_all; done)
        | (rw [nI_1, z10, zMf_f]; refine ih lt ((hq false (by simp_all [rLgp, zbi_eq0, zMf_2, decide_eq_true_eq, decide_eq_false_iff_not, ← Int32.not_lt])).2 rfl) _)
        | (have e9 := (hq true (by simp_all [rLgp, zbi_eq0, zMf_2, decide_eq_true_eq, decide_eq_false_iff_not])).1 rfl
           refine ⟨Nat.le_refl _, ?_, ?_⟩
           · rw [e9, zFo, if_neg z1]
           · rw [e9, if_neg z1, z11, zMf_f])
    · have ltj : j < rN s.2.1 := ltj
      have ihj := ihj ltj
      have hkj : (nI k ≤ nI j) = (k ≤ j) := propext (nI_leI (by omega) (by omega))
      repeat' (first
          | refine zGr_m1.mpr ?_
          | refine zGr_m9.mpr ?_
          | refine zGr_m14.mpr ?_
          | refine zGr_m16.mpr ?_
          | refine zGi_m0.mpr ?_
          | refine zGi_m2.mpr ?_
          | refine zGi_m3.mpr ?_
          | refine zGi_m4.mpr ?_
          | refine zGi_m5.mpr ?_
          | refine zGi_m6.mpr ?_
          | refine zGi_m7.mpr ?_
          | refine zGi_m8.mpr ?_
          | refine zGi_m10.mpr ?_
          | refine zGi_m11.mpr ?_
          | refine zGi_m12.mpr ?_
          | refine zGi_m13.mpr ?_
          | refine zGi_m15.mpr ?_
          | refine zGi_m17.mpr ?_
          | refine (zPf_m0 D).mpr ?_
          | refine (zPf_m2 D).mpr ?_
          | refine (zPf_m3 D).mpr ?_
          | refine (zPf_m4 D).mpr ?_
          | refine (zPf_m5 D).mpr ?_
          | refine (zPf_m6 D).mpr ?_
          | refine (zPf_m7 D).mpr ?_
          | refine (zPf_m8 D).mpr ?_
          | refine (zPf_m10 D).mpr ?_
          | refine (zPf_m11 D).mpr ?_
          | refine (zPf_m12 D).mpr ?_
          | refine (zPf_m13 D).mpr ?_
          | refine (zPf_m15 D).mpr ?_
          | refine (zPf_m17 D).mpr ?_
          | refine (zAi_all D).mpr ⟨(by first | exact pk_in 0 _ (by decide) | exact pk_in 1 _ (by decide) | exact pk_in 2 _ (by decide) | exact pk_in 3 _ (by decide) | exact pk_in 4 _ (by decide) | exact pk_in 5 _ (by decide) | exact pk_in 6 _ (by decide) | exact pk_in 7 _ (by decide) | exact pk_in 8 _ (by decide) | exact pk_in 9 _ (by decide) | exact pk_in 10 _ (by decide)), ?_⟩
          | refine (zSt1_all D).mpr ⟨(by first | exact pk_in 0 _ (by decide) | exact pk_in 1 _ (by decide) | exact pk_in 2 _ (by decide) | exact pk_in 3 _ (by decide) | exact pk_in 4 _ (by decide) | exact pk_in 5 _ (by decide) | exact pk_in 6 _ (by decide) | exact pk_in 7 _ (by decide) | exact pk_in 8 _ (by decide) | exact pk_in 9 _ (by decide) | exact pk_in 10 _ (by decide)), ?_⟩
          | with_reducible refine zMc (s_c ht D _ _ (zvl_d _ (by decide)) (by omega) (d := d - 1)) (by omega) (Nat.le_refl _) ?_
          | with_reducible refine zMc (s_isHereB ht D (by omega) _ (by omega) (d := d - 1)) (by omega) (Nat.le_refl _) ?_
          | refine ⟨fun _ => ?_, fun _ => ?_⟩
          | fail)
      all_goals first
        | (rw [zcnt_t (p := rLgb s.2.1 k) (by simp_all [rLgb, zbi_eq0, zMf_2, decide_eq_true_eq, decide_eq_false_iff_not, zl_0, zl_1, zl_2, zl_3, zl_4, zl_5, zl_6, zl_7, zl_8, zl_9, zl_10, zl_11, zl_37, zl_40, zl_60, zl_99, zl_411]), nI_1]; exact ihj)
        | (rw [zcnt_f (p := rLgb s.2.1 k) (by simp_all [rLgb, zbi_eq0, zMf_2, decide_eq_true_eq, decide_eq_false_iff_not, Int32.not_lt, zl_0, zl_1, zl_2, zl_3, zl_4, zl_5, zl_6, zl_7, zl_8, zl_9, zl_10, zl_11, zl_37, zl_40, zl_60, zl_99, zl_411]), nI_1]; exact ihj)
        | (rw [zcnt_f (p := rLgb s.2.1 k) (by simp_all [rLgb, zbi_eq0, zMf_2, decide_eq_true_eq, decide_eq_false_iff_not, ← Int32.not_lt, zl_0, zl_1, zl_2, zl_3, zl_4, zl_5, zl_6, zl_7, zl_8, zl_9, zl_10, zl_11, zl_37, zl_40, zl_60, zl_99, zl_411]), nI_1]; exact ihj)
end ZMF
