/-! the model: the law is told -/
def rTl (r : Nat → Int32) : List Int32 :=
  if r 2 = 0 then [nI 102, nI 114, nI 101, nI 101]
  else if r 2 = 1 then [nI 116, nI 117, nI 114, nI 110, nI 115, nI 32] ++ ((if r 5 = 0 then [nI 119] else [nI 101]) ++ ([nI 32] ++ (tDig (r 6).toNatClampNeg ++ ([nI 47] ++ tDig (r 3).toNatClampNeg))))
  else if r 2 = 2 then [nI 108, nI 111, nI 97, nI 100]
  else [nI 119, nI 97, nI 105, nI 116]
theorem mWs1 (s : zMS) (L : List Int32) (x : Int32) : mW1 (mWs s L) x = mWs s (L ++ [x]) := (mWs_ap s L [x]).symm
section ZMN
variable {l : Launch} {G : zG} {h : zH} {A : zMA} {s : zMS} {d : Nat}
theorem s_tellLaw (ht : l.stackTraces = false) (D : zMD G A) {e q : Nat} (h6 : s.2.1 6 = nI e) (he : e < 1000) (h3 : s.2.1 3 = nI q) (hq : q ≤ 5) (hd : 4 ≤ d) : zCt l G d MX3_tellLaw [.ref A.1] (zMh h A s) 0 (zIr (nI (rTl s.2.1).length) (zMh h A (mWs (zMf (zMf s 0 0) 17 0) (rTl s.2.1)))) := by
  refine zCt.of kX3_tellLaw ht (by simp [Value.category]) (Nat.le_of_ble_eq_true rfl) ?_
  refine b_X3_tellLaw_0 _ ((zPf_m0 D).mpr ((zPf_m17 D).mpr (zGr_m1.mpr ((zAi_all D).mpr ⟨pk_in 2 _ (by decide), ?_⟩))))
  generalize hs0 : zMf (zMf s 0 0) 17 0 = s0
  have e0 : s0.1 17 = nI 0 := by rw [← hs0]; rfl
  have r0 : s0.2.1 = s.2.1 := by rw [← hs0]; rfl
  have fin : ∀ (xs : List Int32), rTl s.2.1 = xs → zGi (zMh h A (mWs s0 xs)) A.1 10 17 (fun x => 0 ≤ 0 ∧ x = nI (rTl s.2.1).length ∧ zMh h A (mWs s0 xs) = zMh h A (mWs s0 (rTl s.2.1))) := fun xs ex => by
    refine zGi_m17.mpr ⟨Nat.le_refl _, ?_, by rw [ex]⟩
    rw [mWs_17 xs e0, ex, Nat.zero_add]
  have z6 : (s.2.1 6).toNatClampNeg = e := by rw [h6]; exact nI_clamp (by omega)
  have z3 : (s.2.1 3).toNatClampNeg = q := by rw [h3]; exact nI_clamp (by omega)
  have le := tDig_len e
  rw [r0, show (Int32.toNatClampNeg 2) = 2 from rfl]
  refine ⟨fun w => ?_, fun w0 => ⟨fun w => ?_, fun w1 => ⟨fun w => ?_, fun w2 => ?_⟩⟩⟩
  · refine zMcV (s_writesThree ht D (x := 102) (y := 114) (z := 101) e0 (by omega) (by omega) (by omega) (by omega) (d := d - 1) (by omega)) (by omega) (Nat.le_refl _) ?_
    refine zMcV (s_writes ht D (m := 101) (mWs_17 _ e0) (by simp) (by omega) (d := d - 1)) (by omega) (Nat.le_refl _) ?_
    exact fin [nI 102, nI 114, nI 101, nI 101] (by rw [rTl, if_pos w])
  · refine zMcV (s_writesThree ht D (x := 116) (y := 117) (z := 114) e0 (by omega) (by omega) (by omega) (by omega) (d := d - 1) (by omega)) (by omega) (Nat.le_refl _) ?_
    refine zMcV (s_writesThree ht D (x := 110) (y := 115) (z := 32) (mWs_17 _ e0) (by simp) (by omega) (by omega) (by omega) (d := d - 1) (by omega)) (by omega) (Nat.le_refl _) ?_
    rw [← mWs_ap]
    refine zGr_m1.mpr ((zAi_all D).mpr ⟨pk_in 5 _ (by decide), ?_⟩)
    rw [mWs_2, r0, show (Int32.toNatClampNeg 5) = 5 from rfl]
    have l3 := tDig_len q
    refine ⟨fun w5 => zMcV (s_writes ht D (m := 101) (mWs_17 _ e0) (by simp) (by omega) (d := d - 1)) (by omega) (Nat.le_refl _) ?_, fun w5 => zMcV (s_writes ht D (m := 119) (mWs_17 _ e0) (by simp) (by omega) (d := d - 1)) (by omega) (Nat.le_refl _) ?_⟩
    all_goals rw [mWs1]
    all_goals refine zMcV (s_writes ht D (m := 32) (mWs_17 _ e0) (by simp) (by omega) (d := d - 1)) (by omega) (Nat.le_refl _) ?_
    all_goals rw [mWs1]
    all_goals refine zGr_m1.mpr ((zAi_all D).mpr ⟨pk_in 6 _ (by decide), ?_⟩)
    all_goals rw [mWs_2, r0, show (Int32.toNatClampNeg 6) = 6 from rfl, h6]
    all_goals refine zMcV (s_writesNumber ht D (v := e) (mWs_17 _ e0) (by simp) he (d := d - 1) (by omega)) (by omega) (Nat.le_refl _) ?_
    all_goals rw [← mWs_ap]
    all_goals refine zMcV (s_writes ht D (m := 47) (mWs_17 _ e0) (by simp; omega) (by omega) (d := d - 1)) (by omega) (Nat.le_refl _) ?_
    all_goals rw [mWs1]
    all_goals refine zGr_m1.mpr ((zAi_all D).mpr ⟨pk_in 3 _ (by decide), ?_⟩)
    all_goals rw [mWs_2, r0, show (Int32.toNatClampNeg 3) = 3 from rfl, h3]
    all_goals refine zMcV (s_writesNumber ht D (v := q) (mWs_17 _ e0) (by simp; omega) (by omega) (d := d - 1) (by omega)) (by omega) (Nat.le_refl _) ?_
    all_goals rw [← mWs_ap]
    · exact fin _ (by rw [rTl, if_neg w0, if_pos w, if_neg w5, z6, z3]; simp)
    · exact fin _ (by rw [rTl, if_neg w0, if_pos w, if_pos (Classical.not_not.mp w5), z6, z3]; simp)
  · refine zMcV (s_writesThree ht D (x := 108) (y := 111) (z := 97) e0 (by omega) (by omega) (by omega) (by omega) (d := d - 1) (by omega)) (by omega) (Nat.le_refl _) ?_
    refine zMcV (s_writes ht D (m := 100) (mWs_17 _ e0) (by simp) (by omega) (d := d - 1)) (by omega) (Nat.le_refl _) ?_
    exact fin [nI 108, nI 111, nI 97, nI 100] (by rw [rTl, if_neg w0, if_neg w1, if_pos w])
  · refine zMcV (s_writesThree ht D (x := 119) (y := 97) (z := 105) e0 (by omega) (by omega) (by omega) (by omega) (d := d - 1) (by omega)) (by omega) (Nat.le_refl _) ?_
    refine zMcV (s_writes ht D (m := 116) (mWs_17 _ e0) (by simp) (by omega) (d := d - 1)) (by omega) (Nat.le_refl _) ?_
    exact fin [nI 119, nI 97, nI 105, nI 116] (by rw [rTl, if_neg w0, if_neg w1, if_neg w2])
end ZMN
