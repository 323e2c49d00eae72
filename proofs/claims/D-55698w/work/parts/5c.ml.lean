/-! the model: the account, what is asked of a cart -/
def mAc (s : zMS) (w : Int32) : Int32 :=
  if w = 0 then s.2.1 0 else if w = 1 then nI (zcnt (fun k => rwa s.2.1 k 0) (rN s.2.1)) else if w = 2 then nI (zcnt (fun k => rwa s.2.1 k 1) (rN s.2.1)) else if w = 3 then nI (rOn s.2.1) else if w = 4 then s.2.1 7 else if w = 5 then s.2.1 8 else if w = 6 then s.2.1 1 else if w = 7 then s.2.1 2 else if w = 8 then s.2.1 3 else if w = 9 then s.2.1 4 else if w = 10 then s.2.1 10 else if w = 11 then s.2.1 9 else if w = 12 then s.1 10 else s.1 2
def mCt (r : Nat → Int32) (x w : Int32) : Int32 := if rCart r x then (if zbt w 0 7 then 0 else 2) else 1
def mCa (r : Nat → Int32) (i : Nat) (w : Int32) : Int32 := if w = 3 then (if rc r i 2 = 1 then rc r i 3 else -1) else if w = 4 then (if rc r i 2 = 1 then rc r i 4 else -1) else if w = 7 then (if rc r i 2 = 0 then nI (rPl r i) else -1) else rc r i w.toNatClampNeg
section ZML
variable {l : Launch} {G : zG} {h : zH} {A : zMA} {s : zMS} {d : Nat}
theorem s_account (ht : l.stackTraces = false) (D : zMD G A) (hN : rOk s.2.1) (hd : 4 ≤ d) (x : Int32) : zCt l G d MX3_account [.ref A.1, .int x] (zMh h A s) 0 (zIr (if zbt x 0 13 then mAc s x else 0) (zMh h A (zMf s 0 (zbi (!zbt x 0 13))))) := by
  refine zCt.of kX3_account ht (by simp [Value.category]) (Nat.le_of_ble_eq_true rfl) ?_
  refine b_X3_account_0 _ _ (zCall.P (s_in ht (d := d - 1)) (by omega) (Nat.le_refl _) ?_)
  refine zMc (s_isThere ht D _ (d := d - 1)) (by omega) (Nat.le_refl _) ?_
  cases hb : zbt x 0 13
  · exact ⟨fun c => absurd rfl c, fun _ => ⟨Nat.le_refl _, rfl, rfl⟩⟩
  · have fin : ∀ v, v = mAc s x → v = (if true = true then mAc s x else 0) := fun v e => by rw [if_pos rfl, e]
    refine ⟨fun _ => ⟨fun z => zGr_m1.mpr ((zAi_all D).mpr ⟨pk_in 0 _ (by decide), Nat.le_refl _, fin _ ?_, rfl⟩), fun z0 => ⟨fun z => zMc (s_rowMany (s := zMf s 0 _) ht D hN (by omega) (d := d - 1)) (by omega) (Nat.le_refl _) ⟨Nat.le_refl _, fin _ ?_, rfl⟩, fun z1 => ⟨fun z => zMc (s_rowMany (s := zMf s 0 _) ht D hN (by omega) (d := d - 1)) (by omega) (Nat.le_refl _) ⟨Nat.le_refl _, fin _ ?_, rfl⟩, fun z2 => ⟨fun z => zMc (s_onBridge (s := zMf s 0 _) ht D hN (by omega) (d := d - 1)) (by omega) (Nat.le_refl _) ⟨Nat.le_refl _, fin _ ?_, rfl⟩, fun z3 => ⟨fun z => zGr_m1.mpr ((zAi_all D).mpr ⟨pk_in 7 _ (by decide), Nat.le_refl _, fin _ ?_, rfl⟩), fun z4 => ⟨fun z => zGr_m1.mpr ((zAi_all D).mpr ⟨pk_in 8 _ (by decide), Nat.le_refl _, fin _ ?_, rfl⟩), fun z5 => ⟨fun z => zGr_m1.mpr ((zAi_all D).mpr ⟨pk_in 1 _ (by decide), Nat.le_refl _, fin _ ?_, rfl⟩), fun z6 => ⟨fun z => zGr_m1.mpr ((zAi_all D).mpr ⟨pk_in 2 _ (by decide), Nat.le_refl _, fin _ ?_, rfl⟩), fun z7 => ⟨fun z => zGr_m1.mpr ((zAi_all D).mpr ⟨pk_in 3 _ (by decide), Nat.le_refl _, fin _ ?_, rfl⟩), fun z8 => ⟨fun z => zGr_m1.mpr ((zAi_all D).mpr ⟨pk_in 4 _ (by decide), Nat.le_refl _, fin _ ?_, rfl⟩), fun z9 => ⟨fun z => zGr_m1.mpr ((zAi_all D).mpr ⟨pk_in 10 _ (by decide), Nat.le_refl _, fin _ ?_, rfl⟩), fun za => ⟨fun z => zGr_m1.mpr ((zAi_all D).mpr ⟨pk_in 9 _ (by decide), Nat.le_refl _, fin _ ?_, rfl⟩), fun zb => ⟨fun z => zGi_m10.mpr ⟨Nat.le_refl _, fin _ ?_, rfl⟩, fun zc => zGi_m2.mpr ⟨Nat.le_refl _, fin _ ?_, rfl⟩⟩⟩⟩⟩⟩⟩⟩⟩⟩⟩⟩⟩⟩, fun c => absurd (by decide) c⟩
    · rw [mAc, if_pos z]; rfl
    · rw [mAc, if_neg z0, if_pos z, z]; rfl
    · rw [mAc, if_neg z0, if_neg z1, if_pos z, z]; rfl
    · rw [mAc, if_neg z0, if_neg z1, if_neg z2, if_pos z]; rfl
    · rw [mAc, if_neg z0, if_neg z1, if_neg z2, if_neg z3, if_pos z]; rfl
    · rw [mAc, if_neg z0, if_neg z1, if_neg z2, if_neg z3, if_neg z4, if_pos z]; rfl
    · rw [mAc, if_neg z0, if_neg z1, if_neg z2, if_neg z3, if_neg z4, if_neg z5, if_pos z]; rfl
    · rw [mAc, if_neg z0, if_neg z1, if_neg z2, if_neg z3, if_neg z4, if_neg z5, if_neg z6, if_pos z]; rfl
    · rw [mAc, if_neg z0, if_neg z1, if_neg z2, if_neg z3, if_neg z4, if_neg z5, if_neg z6, if_neg z7, if_pos z]; rfl
    · rw [mAc, if_neg z0, if_neg z1, if_neg z2, if_neg z3, if_neg z4, if_neg z5, if_neg z6, if_neg z7, if_neg z8, if_pos z]; rfl
    · rw [mAc, if_neg z0, if_neg z1, if_neg z2, if_neg z3, if_neg z4, if_neg z5, if_neg z6, if_neg z7, if_neg z8, if_neg z9, if_pos z]; rfl
    · rw [mAc, if_neg z0, if_neg z1, if_neg z2, if_neg z3, if_neg z4, if_neg z5, if_neg z6, if_neg z7, if_neg z8, if_neg z9, if_neg za, if_pos z]; rfl
    · rw [mAc, if_neg z0, if_neg z1, if_neg z2, if_neg z3, if_neg z4, if_neg z5, if_neg z6, if_neg z7, if_neg z8, if_neg z9, if_neg za, if_neg zb, if_pos z]; rfl
    · rw [mAc, if_neg z0, if_neg z1, if_neg z2, if_neg z3, if_neg z4, if_neg z5, if_neg z6, if_neg z7, if_neg z8, if_neg z9, if_neg za, if_neg zb, if_neg zc]; rfl
theorem s_cartOf (ht : l.stackTraces = false) (D : zMD G A) (hN : rOk s.2.1) (hd : 4 ≤ d) (x w : Int32) : zCt l G d MX3_cartOf [.ref A.1, .int x, .int w] (zMh h A s) 0 (zIr (if mCt s.2.1 x w = 0 then mCa s.2.1 x.toNatClampNeg w else 0) (zMh h A (zMf s 0 (mCt s.2.1 x w)))) := by
  refine zCt.of kX3_cartOf ht (by simp [Value.category]) (Nat.le_of_ble_eq_true rfl) ?_
  have hN2 := hN.2
  refine b_X3_cartOf_0 _ _ _ (zMc (s_isCart ht D (by omega) (d := d - 1)) (by omega) (Nat.le_refl _) ?_)
  cases hb : zbt x 0 (s.2.1 0 - 1)
  · have e : mCt s.2.1 x w = 1 := by rw [mCt, rCart, hb]; rfl
    rw [e]
    exact ⟨fun c => absurd rfl c, fun _ => (zPf_m0 D).mpr (zGi_m0.mpr ⟨fun q => absurd (show (1 : Int32) = 0 from q) (by decide), fun _ => ⟨Nat.le_refl _, rfl, rfl⟩⟩)⟩
  · obtain ⟨k, hk, rfl⟩ := zbt_in hN hb
    refine ⟨fun _ => zCall.P (s_in ht (d := d - 1)) (by omega) (Nat.le_refl _) ?_, fun c => absurd (by decide) c⟩
    cases hw : zbt w 0 7
    · have e : mCt s.2.1 (nI k) w = 2 := by rw [mCt, rCart, hb, hw]; rfl
      rw [e]
      exact ⟨fun _ => (zPf_m0 D).mpr (zGi_m0.mpr ⟨fun q => absurd (show (2 : Int32) = 0 from q) (by decide), fun _ => ⟨Nat.le_refl _, rfl, rfl⟩⟩), fun c => absurd rfl c⟩
    · have e : mCt s.2.1 (nI k) w = 0 := by rw [mCt, rCart, hb, hw]; rfl
      have z1 : (nI k).toNatClampNeg = k := nI_clamp (by omega)
      rw [e, if_pos rfl, z1]
      obtain ⟨m, -, m7, rfl⟩ := zbt_nI (a := 0) (n := 7) (by omega) (by omega) hw
      have zv : zvl (nI m) := zvl_nI (by omega)
      have on : ∀ {p : Int32 → zH → Nat → Prop}, (rc s.2.1 k 2 = 1 → p 1 (zMh h A (zMf s 0 0)) 0) → (rc s.2.1 k 2 ≠ 1 → p 0 (zMh h A (zMf s 0 0)) 0) → p (zbi (rc s.2.1 k 2 == 1)) (zMh h A (zMf s 0 0)) 0 := fun h1 h2 => by
        by_cases q : rc s.2.1 k 2 = 1
        · rw [q]; exact h1 q
        · rw [beq_false_of_ne q]; exact h2 q
      refine ⟨fun c => absurd c (by decide), fun _ => (zPf_m0 D).mpr (zGi_m0.mpr ⟨fun _ => ⟨fun z => zMc (s_isOn (s := zMf s 0 0) ht D (by omega) k (by omega) (d := d - 1)) (by omega) (Nat.le_refl _) ⟨fun q => ⟨Nat.le_refl _, ?_, rfl⟩, fun q => zMc (s_c (s := zMf s 0 0) ht D k 3 (zvl_nI (k := 3) (by omega)) (by omega) (d := d - 1)) (by omega) (Nat.le_refl _) ⟨Nat.le_refl _, ?_, rfl⟩⟩, fun z3 => ⟨fun z => zMc (s_isOn (s := zMf s 0 0) ht D (by omega) k (by omega) (d := d - 1)) (by omega) (Nat.le_refl _) ⟨fun q => ⟨Nat.le_refl _, ?_, rfl⟩, fun q => zMc (s_c (s := zMf s 0 0) ht D k 4 (zvl_nI (k := 4) (by omega)) (by omega) (d := d - 1)) (by omega) (Nat.le_refl _) ⟨Nat.le_refl _, ?_, rfl⟩⟩, fun z4 => ⟨fun z => zMc (s_c (s := zMf s 0 0) ht D k (nI m) zv (by omega) (d := d - 1)) (by omega) (Nat.le_refl _) ⟨Nat.le_refl _, ?_, rfl⟩, fun z5 => ⟨fun z => zMc (s_c (s := zMf s 0 0) ht D k (nI m) zv (by omega) (d := d - 1)) (by omega) (Nat.le_refl _) ⟨Nat.le_refl _, ?_, rfl⟩, fun z6 => ⟨fun z => zMc (s_c (s := zMf s 0 0) ht D k 2 (zvl_nI (k := 2) (by omega)) (by omega) (d := d - 1)) (by omega) (Nat.le_refl _) ⟨fun q => ⟨Nat.le_refl _, ?_, rfl⟩, fun q => zMc (s_placeOf (s := zMf s 0 0) ht D hN (by omega) k (by omega) (d := d - 1)) (by omega) (Nat.le_refl _) ⟨Nat.le_refl _, ?_, rfl⟩⟩, fun z7 => zMc (s_c (s := zMf s 0 0) ht D k (nI m) zv (by omega) (d := d - 1)) (by omega) (Nat.le_refl _) ⟨Nat.le_refl _, ?_, rfl⟩⟩⟩⟩⟩⟩, fun q => absurd (show (0 : Int32) = 0 from rfl) q⟩)⟩
      · rw [zbi_eq0] at q
        have : ¬ rc s.2.1 k 2 = 1 := fun v => by rw [zMf_2, v] at q; cases q
        rw [mCa, if_pos z, if_neg this]
      · rw [zbi_eq0, Bool.not_eq_false] at q
        rw [mCa, if_pos z, if_pos (show rc s.2.1 k 2 = 1 from beq_iff_eq.mp q)]; rfl
      · rw [zbi_eq0] at q
        have : ¬ rc s.2.1 k 2 = 1 := fun v => by rw [zMf_2, v] at q; cases q
        rw [mCa, if_neg z3, if_pos z, if_neg this]
      · rw [zbi_eq0, Bool.not_eq_false] at q
        rw [mCa, if_neg z3, if_pos z, if_pos (show rc s.2.1 k 2 = 1 from beq_iff_eq.mp q)]; rfl
      · rw [mCa, if_neg z3, if_neg z4, if_neg (by rw [z]; decide)]; rfl
      · rw [mCa, if_neg z3, if_neg z4, if_neg (by rw [z]; decide)]; rfl
      · rw [mCa, if_neg z3, if_neg z4, if_pos z, if_neg (show ¬ rc s.2.1 k 2 = 0 from q)]
      · rw [mCa, if_neg z3, if_neg z4, if_pos z, if_pos (show rc s.2.1 k 2 = 0 from Classical.not_not.mp q)]; rfl
      · rw [mCa, if_neg z3, if_neg z4, if_neg z7]; rfl
end ZML
