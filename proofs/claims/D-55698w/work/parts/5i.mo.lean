/-! the model: a cart is told -/
def rTc (r : Nat → Int32) (k : Nat) : List Int32 :=
  tDig k ++ ([nI 58] ++ ((if rc r k 0 = 0 then [nI 119] else [nI 101]) ++ (tDig (rc r k 1).toNatClampNeg ++ ([nI 32] ++
    (if rc r k 2 = 0 then [nI 119, nI 97, nI 105, nI 116, nI 115]
     else if rc r k 2 = 1 then [nI 103, nI 111, nI 101, nI 115, nI 32] ++ (if rc r k 4 = 0 then [nI 119, nI 101, nI 115, nI 116] else [nI 101, nI 97, nI 115, nI 116])
     else if rc r k 2 = 2 then [nI 112, nI 97, nI 115, nI 115, nI 101, nI 100]
     else [nI 108, nI 101, nI 102, nI 116])))))
section ZMO
variable {l : Launch} {G : zG} {h : zH} {A : zMA} {s : zMS} {d : Nat}
theorem s_tellCart (ht : l.stackTraces = false) (D : zMD G A) (hN : rOk s.2.1) (hld : ∀ k, k < rN s.2.1 → ∃ q, rc s.2.1 k 1 = nI q ∧ q ≤ 9) (x : Int32) (hd : 4 ≤ d) : zCt l G d MX3_tellCart [.ref A.1, .int x] (zMh h A s) 0 (zIr (if rCart s.2.1 x then nI (rTc s.2.1 x.toNatClampNeg).length else 0) (zMh h A (if rCart s.2.1 x then mWs (zMf (zMf s 0 0) 17 0) (rTc s.2.1 x.toNatClampNeg) else zMf s 0 1))) := by
  refine zCt.of kX3_tellCart ht (by simp [Value.category]) (Nat.le_of_ble_eq_true rfl) ?_
  have hN2 := hN.2
  refine b_X3_tellCart_0 _ _ (zMc (s_isCart ht D (by omega) (d := d - 1)) (by omega) (Nat.le_refl _) ?_)
  refine zMc (s_isThere ht D _ (d := d - 1)) (by omega) (Nat.le_refl _) ?_
  cases hb : rCart s.2.1 x
  · have hb' := hb
    rw [rCart] at hb'
    rw [hb']
    exact ⟨fun c => absurd rfl c, fun _ => ⟨Nat.le_refl _, rfl, rfl⟩⟩
  · have hb' := hb
    rw [rCart] at hb'
    obtain ⟨k, hk, rfl⟩ := zbt_in hN hb'
    rw [hb', if_pos rfl, if_pos rfl, show (nI k).toNatClampNeg = k from nI_clamp (by omega)]
    refine ⟨fun _ => (zPf_m17 D).mpr ?_, fun c => absurd (by decide) c⟩
    rw [show zbi (!true) = 0 from rfl]
    generalize hs0 : zMf (zMf s 0 0) 17 0 = s0
    have e0 : s0.1 17 = nI 0 := by rw [← hs0]; rfl
    have r0 : s0.2.1 = s.2.1 := by rw [← hs0]; rfl
    obtain ⟨q, hq, hq9⟩ := hld k hk
    have lk := tDig_len k
    have lq := tDig_len q
    have zc : ∀ (L : List Int32) (w : Nat), w < 10 → zCt l G (d - 1) MX3_c [.ref A.1, .int (nI k), .int (nI w)] (zMh h A (mWs s0 L)) 0 (zIr (rc s.2.1 k w) (zMh h A (mWs s0 L))) := fun L w hw => by
      have := s_c (s := mWs s0 L) (h := h) ht D k (nI w) (zvl_nI hw) (by omega) (d := d - 1)
      rw [mWs_2, r0, nI_clamp (by omega)] at this
      exact this
    have wk : zCt l G (d - 1) MX3_writesNumber [.ref A.1, .int (nI k)] (zMh h A s0) 0 (zVr (zMh h A (mWs s0 (tDig k)))) := s_writesNumber (v := k) ht D e0 (by omega) (by omega) (by omega)
    refine zMcV wk (by omega) (Nat.le_refl _) ?_
    refine zMcV (s_writes ht D (m := 58) (mWs_17 _ e0) (by omega) (by omega) (d := d - 1)) (by omega) (Nat.le_refl _) ?_
    rw [mWs1]
    refine zMc (zc _ 0 (by omega)) (by omega) (Nat.le_refl _) ?_
    have fin : ∀ xs, rTc s.2.1 k = xs → zV l G d 0 MX3_tellCart (zIr (nI (rTc s.2.1 k).length) (zMh h A (mWs s0 (rTc s.2.1 k)))) 225 [some (.ref A.1), some (.int (nI k))] [] (zMh h A (mWs s0 xs)) 0 := fun xs ex => by
      refine b_X3_tellCart_225 _ _ (zGi_m17.mpr ⟨Nat.le_refl _, ?_, by rw [ex]⟩)
      rw [mWs_17 xs e0, ex, Nat.zero_add]
    have mid : ∀ m, m < 128 → (if rc s.2.1 k 0 = 0 then [nI 119] else [nI 101]) = [nI m] → zV l G d 0 MX3_tellCart (zIr (nI (rTc s.2.1 k).length) (zMh h A (mWs s0 (rTc s.2.1 k)))) 47 [some (.ref A.1), some (.int (nI k))] [.int (nI m), .ref A.1] (zMh h A (mWs s0 (tDig k ++ [nI 58]))) 0 := fun m hm em => by
      refine b_X3_tellCart_47 _ _ _ _ (zMcV (s_writes ht D (m := m) (mWs_17 _ e0) (by simp; omega) hm (d := d - 1)) (by omega) (Nat.le_refl _) ?_)
      rw [mWs1]
      refine zMc (zc _ 1 (by omega)) (by omega) (Nat.le_refl _) ?_
      rw [hq]
      refine zMcV (s_writesNumber ht D (v := q) (mWs_17 _ e0) (by simp; omega) (by omega) (d := d - 1) (by omega)) (by omega) (Nat.le_refl _) ?_
      rw [← mWs_ap]
      refine zMcV (s_writes ht D (m := 32) (mWs_17 _ e0) (by simp; omega) (by omega) (d := d - 1)) (by omega) (Nat.le_refl _) ?_
      rw [mWs1]
      have z1 : (rc s.2.1 k 1).toNatClampNeg = q := by rw [hq]; exact nI_clamp (by omega)
      refine zMc (zc _ 2 (by omega)) (by omega) (Nat.le_refl _) ⟨fun w => ?_, fun w0 => ⟨fun w => ?_, fun w1 => ⟨fun w => ?_, fun w2 => ?_⟩⟩⟩
      · refine zMcV (s_writesThree ht D (x := 119) (y := 97) (z := 105) (mWs_17 _ e0) (by simp; omega) (by omega) (by omega) (by omega) (d := d - 1) (by omega)) (by omega) (Nat.le_refl _) ?_
        rw [← mWs_ap]
        refine zMcV (s_writes ht D (m := 116) (mWs_17 _ e0) (by simp; omega) (by omega) (d := d - 1)) (by omega) (Nat.le_refl _) ?_
        rw [mWs1]
        refine zMcV (s_writes ht D (m := 115) (mWs_17 _ e0) (by simp; omega) (by omega) (d := d - 1)) (by omega) (Nat.le_refl _) ?_
        rw [mWs1]
        exact fin _ (by rw [rTc, if_pos w, em, z1]; simp)
      · refine zMcV (s_writesThree ht D (x := 103) (y := 111) (z := 101) (mWs_17 _ e0) (by simp; omega) (by omega) (by omega) (by omega) (d := d - 1) (by omega)) (by omega) (Nat.le_refl _) ?_
        rw [← mWs_ap]
        refine zMc (zc _ 4 (by omega)) (by omega) (Nat.le_refl _) ⟨fun v => b_X3_tellCart_156 _ _ _ _ _ _ ?_, fun v => b_X3_tellCart_156 _ _ _ _ _ _ ?_⟩
        · refine zMcV (s_writesThree ht D (x := 115) (y := 32) (z := 101) (mWs_17 _ e0) (by simp; omega) (by omega) (by omega) (by omega) (d := d - 1) (by omega)) (by omega) (Nat.le_refl _) ?_
          rw [← mWs_ap]
          refine zMc (zc _ 4 (by omega)) (by omega) (Nat.le_refl _) ⟨fun _ => b_X3_tellCart_176 _ _ _ _ ?_, fun v2 => absurd v v2⟩
          refine zMcV (s_writesThree ht D (x := 97) (y := 115) (z := 116) (mWs_17 _ e0) (by simp; omega) (by omega) (by omega) (by omega) (d := d - 1) (by omega)) (by omega) (Nat.le_refl _) ?_
          rw [← mWs_ap]
          exact fin _ (by rw [rTc, if_neg w0, if_pos w, if_neg v, em, z1]; simp)
        · refine zMcV (s_writesThree ht D (x := 115) (y := 32) (z := 119) (mWs_17 _ e0) (by simp; omega) (by omega) (by omega) (by omega) (d := d - 1) (by omega)) (by omega) (Nat.le_refl _) ?_
          rw [← mWs_ap]
          refine zMc (zc _ 4 (by omega)) (by omega) (Nat.le_refl _) ⟨fun v2 => absurd v2 v, fun _ => b_X3_tellCart_176 _ _ _ _ ?_⟩
          refine zMcV (s_writesThree ht D (x := 101) (y := 115) (z := 116) (mWs_17 _ e0) (by simp; omega) (by omega) (by omega) (by omega) (d := d - 1) (by omega)) (by omega) (Nat.le_refl _) ?_
          rw [← mWs_ap]
          exact fin _ (by rw [rTc, if_neg w0, if_pos w, if_pos (Classical.not_not.mp v), em, z1]; simp)
      · refine zMcV (s_writesThree ht D (x := 112) (y := 97) (z := 115) (mWs_17 _ e0) (by simp; omega) (by omega) (by omega) (by omega) (d := d - 1) (by omega)) (by omega) (Nat.le_refl _) ?_
        rw [← mWs_ap]
        refine zMcV (s_writesThree ht D (x := 115) (y := 101) (z := 100) (mWs_17 _ e0) (by simp; omega) (by omega) (by omega) (by omega) (d := d - 1) (by omega)) (by omega) (Nat.le_refl _) ?_
        rw [← mWs_ap]
        exact fin _ (by rw [rTc, if_neg w0, if_neg w1, if_pos w, em, z1]; simp)
      · refine zMcV (s_writesThree ht D (x := 108) (y := 101) (z := 102) (mWs_17 _ e0) (by simp; omega) (by omega) (by omega) (by omega) (d := d - 1) (by omega)) (by omega) (Nat.le_refl _) ?_
        rw [← mWs_ap]
        refine zMcV (s_writes ht D (m := 116) (mWs_17 _ e0) (by simp; omega) (by omega) (d := d - 1)) (by omega) (Nat.le_refl _) ?_
        rw [mWs1]
        exact fin _ (by rw [rTc, if_neg w0, if_neg w1, if_neg w2, em, z1]; simp)
    exact ⟨fun w => mid 101 (by omega) (if_neg w), fun w => mid 119 (by omega) (if_pos (Classical.not_not.mp w))⟩
end ZMO
