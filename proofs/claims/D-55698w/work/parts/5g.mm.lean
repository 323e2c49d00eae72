/-! the model: what is written -/
def mW1 (s : zMS) (x : Int32) : zMS := zMf (zMl s (s.1 17).toNatClampNeg x) 17 (s.1 17 + 1)
def mWs (s : zMS) (xs : List Int32) : zMS := xs.foldl mW1 s
theorem mW1_17 {s : zMS} {n : Nat} (e : s.1 17 = nI n) (x : Int32) : (mW1 s x).1 17 = nI (n + 1) := by
  show s.1 17 + 1 = _
  rw [e, nI_1]
theorem mWs_17 : ∀ (xs : List Int32) {s : zMS} {n : Nat}, s.1 17 = nI n → (mWs s xs).1 17 = nI (n + xs.length)
  | [], _, _, e => e
  | x :: xs, s, n, e => by
    show (mWs (mW1 s x) xs).1 17 = _
    rw [mWs_17 xs (mW1_17 e x), List.length_cons]
    congr 1; omega
theorem mW1_2 (s : zMS) (x : Int32) : (mW1 s x).2.1 = s.2.1 := rfl
theorem mWs_2 : ∀ (xs : List Int32) (s : zMS), (mWs s xs).2.1 = s.2.1
  | [], _ => rfl
  | x :: xs, s => by
    show (mWs (mW1 s x) xs).2.1 = _
    rw [mWs_2 xs, mW1_2]
theorem mWs_ap (s : zMS) (xs ys : List Int32) : mWs s (xs ++ ys) = mWs (mWs s xs) ys := List.foldl_append ..
theorem asc_ch : ∀ m, m < 128 → narrow .char (.int ((((Int32.toUInt32 (nI m)) % 65536).toInt32))) = .int (nI m) := by decide
theorem dg_ar : ∀ v, v < 1000 → (48 + (nI v - nI v / 10 * 10) = nI (48 + v % 10) ∧ nI v / 10 = nI (v / 10)) := by decide +kernel
section ZMM
variable {l : Launch} {G : zG} {h : zH} {A : zMA} {s : zMS} {d : Nat}
theorem s_writes (ht : l.stackTraces = false) (D : zMD G A) {n m : Nat} (e : s.1 17 = nI n) (hn : n < 300) (hm : m < 128) : zCt l G d MX3_writes [.ref A.1, .int (nI m)] (zMh h A s) 0 (zVr (zMh h A (mW1 s (nI m)))) := by
  refine zCt.of kX3_writes ht (by simp [Value.category]) (Nat.le_of_ble_eq_true rfl) ?_
  refine b_X3_writes_0 _ _ (zGr_m16.mpr (zGi_m17.mpr ?_))
  rw [asc_ch m hm]
  refine (zSt1_lin D).mpr ⟨?_, zGi_m17.mpr ((zPf_m17 D).mpr ⟨Nat.le_refl _, rfl⟩)⟩
  rw [e]
  exact pk_in n _ (by omega)
theorem s_writesThree (ht : l.stackTraces = false) (D : zMD G A) {n x y z : Nat} (e : s.1 17 = nI n) (hn : n < 290) (hx : x < 128) (hy : y < 128) (hz : z < 128) (hd : 1 ≤ d) : zCt l G d MX3_writesThree [.ref A.1, .int (nI x), .int (nI y), .int (nI z)] (zMh h A s) 0 (zVr (zMh h A (mWs s [nI x, nI y, nI z]))) := by
  refine zCt.of kX3_writesThree ht (by simp [Value.category]) (Nat.le_of_ble_eq_true rfl) ?_
  refine b_X3_writesThree_0 _ _ _ _ (zMcV (s_writes ht D e (by omega) hx (d := d - 1)) (by omega) (Nat.le_refl _) ?_)
  refine zMcV (s_writes ht D (mW1_17 e _) (by omega) hy (d := d - 1)) (by omega) (Nat.le_refl _) ?_
  exact zMcV (s_writes ht D (mW1_17 (mW1_17 e _) _) (by omega) hz (d := d - 1)) (by omega) (Nat.le_refl _) ⟨Nat.le_refl _, rfl⟩
theorem s_wn1 (ht : l.stackTraces = false) (D : zMD G A) {n v : Nat} (e : s.1 17 = nI n) (hn : n < 300) (hv : v < 10) (hd : 1 ≤ d) : zCt l G d MX3_writesNumber [.ref A.1, .int (nI v)] (zMh h A s) 0 (zVr (zMh h A (mWs s (tDig v)))) := by
  refine zCt.of kX3_writesNumber ht (by simp [Value.category]) (Nat.le_of_ble_eq_true rfl) ?_
  refine b_X3_writesNumber_0 _ _ ?_
  rw [(dg_ar v (by omega)).1]
  refine ⟨fun _ => zMcV (s_writes ht D e hn (by omega) (d := d - 1)) (by omega) (Nat.le_refl _) ⟨Nat.le_refl _, ?_⟩, fun q => absurd ((nI_leI (a := v) (b := 9) (by omega) (by omega)).mpr (by omega)) q⟩
  rw [tDig1 hv, Nat.mod_eq_of_lt hv]; rfl
theorem s_wn2 (ht : l.stackTraces = false) (D : zMD G A) {n v : Nat} (e : s.1 17 = nI n) (hn : n < 298) (hv : v < 100) (hd : 2 ≤ d) : zCt l G d MX3_writesNumber [.ref A.1, .int (nI v)] (zMh h A s) 0 (zVr (zMh h A (mWs s (tDig v)))) := by
  by_cases w : v < 10
  · exact s_wn1 ht D e (by omega) w (by omega)
  refine zCt.of kX3_writesNumber ht (by simp [Value.category]) (Nat.le_of_ble_eq_true rfl) ?_
  refine b_X3_writesNumber_0 _ _ ?_
  rw [(dg_ar v (by omega)).1, (dg_ar v (by omega)).2]
  refine ⟨fun q => absurd ((nI_leI (a := v) (b := 9) (by omega) (by omega)).mp q) (by omega), fun _ => zMcV (s_wn1 ht D e (by omega) (v := v / 10) (by omega) (d := d - 1) (by omega)) (by omega) (Nat.le_refl _) (zMcV (s_writes ht D (mWs_17 _ e) (by rw [tDig1 (by omega)]; simp; omega) (by omega) (d := d - 1)) (by omega) (Nat.le_refl _) ⟨Nat.le_refl _, ?_⟩)⟩
  rw [tDig2 w hv, tDig1 (by omega)]; rfl
theorem s_writesNumber (ht : l.stackTraces = false) (D : zMD G A) {n v : Nat} (e : s.1 17 = nI n) (hn : n < 296) (hv : v < 1000) (hd : 3 ≤ d) : zCt l G d MX3_writesNumber [.ref A.1, .int (nI v)] (zMh h A s) 0 (zVr (zMh h A (mWs s (tDig v)))) := by
  by_cases w : v < 100
  · exact s_wn2 ht D e (by omega) w (by omega)
  refine zCt.of kX3_writesNumber ht (by simp [Value.category]) (Nat.le_of_ble_eq_true rfl) ?_
  refine b_X3_writesNumber_0 _ _ ?_
  rw [(dg_ar v (by omega)).1, (dg_ar v (by omega)).2]
  refine ⟨fun q => absurd ((nI_leI (a := v) (b := 9) (by omega) (by omega)).mp q) (by omega), fun _ => zMcV (s_wn2 ht D e (by omega) (v := v / 10) (by omega) (d := d - 1) (by omega)) (by omega) (Nat.le_refl _) (zMcV (s_writes ht D (mWs_17 _ e) (by rw [tDig2 (by omega) (by omega)]; simp; omega) (by omega) (d := d - 1)) (by omega) (Nat.le_refl _) ⟨Nat.le_refl _, ?_⟩)⟩
  rw [tDig3 w, tDig2 (v := v / 10) (by omega) (by omega), show v / 10 / 10 = v / 100 by omega]; rfl
end ZMM
