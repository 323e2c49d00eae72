/-! the model: all is told -/
def rRm (r : Nat → Int32) (x : Int32) : Nat := zcnt (fun k => rwa r k x) (rN r)
def rTw (r : Nat → Int32) : Nat → List Int32
  | 0 => []
  | k + 1 => tDig (rRa r 0 (nI k)).toNatClampNeg ++ ([nI 32] ++ rTw r k)
def rTs (r : Nat → Int32) : Nat → List Int32
  | 0 => []
  | k + 1 => rTs r k ++ ([nI 32] ++ rWsp r (rCo r (nI k)))
def rTt (r : Nat → Int32) : Nat → List Int32
  | 0 => []
  | k + 1 => rTt r k ++ ([nI 32] ++ tDig (rRa r 1 (nI k)).toNatClampNeg)
def rTe (r : Nat → Int32) : List Int32 := rTw r (rRm r 0) ++ ([nI 124] ++ (rTs r (rSp r) ++ ([nI 32, nI 124] ++ rTt r (rRm r 1))))
theorem tDig_le2 {v : Nat} (h : v < 100) : (tDig v).length ≤ 2 := by
  by_cases c : v < 10
  · rw [tDig1 c]; simp
  · rw [tDig2 c h]; simp
theorem rWsp_le (r : Nat → Int32) {x : Int32} (hx : x = -1 ∨ ∃ k, k < 40 ∧ x = nI k) : (rWsp r x).length ≤ 4 := by
  rw [rWsp]
  split
  · simp
  · next q =>
    obtain ⟨k, hk, rfl⟩ := hx.resolve_left q
    have := tDig_le2 (v := k) (by omega)
    rw [nI_clamp (by omega)]
    simp only [List.length_append]
    split <;> split <;> simp <;> omega
theorem rTw_le (r : Nat → Int32) : ∀ n, (∀ k, k < n → ∃ q, q < 40 ∧ rRa r 0 (nI k) = nI q) → (rTw r n).length ≤ 3 * n
  | 0, _ => by simp [rTw]
  | n + 1, h => by
    obtain ⟨q, hq, e⟩ := h n (by omega)
    have := rTw_le r n (fun k hk => h k (by omega))
    have h2 := tDig_le2 (v := q) (by omega)
    rw [rTw, e, nI_clamp (by omega)]
    simp only [List.length_append, List.length_cons, List.length_nil]; omega
theorem rTt_le (r : Nat → Int32) : ∀ n, (∀ k, k < n → ∃ q, q < 40 ∧ rRa r 1 (nI k) = nI q) → (rTt r n).length ≤ 3 * n
  | 0, _ => by simp [rTt]
  | n + 1, h => by
    obtain ⟨q, hq, e⟩ := h n (by omega)
    have := rTt_le r n (fun k hk => h k (by omega))
    have h2 := tDig_le2 (v := q) (by omega)
    rw [rTt, e, nI_clamp (by omega)]
    simp only [List.length_append, List.length_cons, List.length_nil]; omega
theorem rTs_le (r : Nat → Int32) : ∀ n, (∀ k, k < n → rCo r (nI k) = -1 ∨ ∃ q, q < 40 ∧ rCo r (nI k) = nI q) → (rTs r n).length ≤ 5 * n
  | 0, _ => by simp [rTs]
  | n + 1, h => by
    have := rTs_le r n (fun k hk => h k (by omega))
    have h2 := rWsp_le r (h n (by omega))
    rw [rTs]
    simp only [List.length_append, List.length_cons, List.length_nil]; omega
section ZMQ
variable {l : Launch} {G : zG} {h : zH} {A : zMA} {s : zMS} {d : Nat}
theorem s_tell (ht : l.stackTraces = false) (D : zMD G A) (hN : rOk s.2.1) (hS : rSk s.2.1) (hW : ∀ k, k < rRm s.2.1 0 → ∃ q, q < 40 ∧ rRa s.2.1 0 (nI k) = nI q) (hE : ∀ k, k < rRm s.2.1 1 → ∃ q, q < 40 ∧ rRa s.2.1 1 (nI k) = nI q) (hd : 5 ≤ d) : zCt l G d MX3_tell [.ref A.1] (zMh h A s) 0 (zIr (nI (rTe s.2.1).length) (zMh h A (mWs (zMf (zMf s 0 0) 17 0) (rTe s.2.1)))) := by
  refine zCt.of kX3_tell ht (by simp [Value.category]) (Nat.le_of_ble_eq_true rfl) ?_
  have hN2 := hN.2
  have l0 : rRm s.2.1 0 ≤ 40 := by have := zcnt_le (fun k => rwa s.2.1 k 0) (rN s.2.1); unfold rRm; omega
  have l1 : rRm s.2.1 1 ≤ 40 := by have := zcnt_le (fun k => rwa s.2.1 k 1) (rN s.2.1); unfold rRm; omega
  have l8 := hS.2
  have hC : ∀ k, k < rSp s.2.1 → rCo s.2.1 (nI k) = -1 ∨ ∃ q, q < 40 ∧ rCo s.2.1 (nI k) = nI q := fun k hk => by
    rcases rCo_cases s.2.1 (nI k) with e | ⟨q, hq, -, e⟩
    · exact Or.inl e
    · exact Or.inr ⟨q, by omega, e⟩
  refine b_X3_tell_0 _ ((zPf_m0 D).mpr ((zPf_m17 D).mpr ?_))
  generalize hs0 : zMf (zMf s 0 0) 17 0 = s0
  have e0 : s0.1 17 = nI 0 := by rw [← hs0]; rfl
  have r0 : s0.2.1 = s.2.1 := by rw [← hs0]; rfl
  have zrm : ∀ L x, zCt l G (d - 1) MX3_rowMany [.ref A.1, .int x] (zMh h A (mWs s0 L)) 0 (zIr (nI (rRm s.2.1 x)) (zMh h A (mWs s0 L))) := fun L x => by
    have := s_rowMany (s := mWs s0 L) (h := h) ht D (by rw [mWs_2, r0]; exact hN) (d := d - 1) (by omega) (x := x)
    rw [mWs_2, r0] at this
    exact this
  have zra : ∀ L x p, zCt l G (d - 1) MX3_rowAt [.ref A.1, .int x, .int p] (zMh h A (mWs s0 L)) 0 (zIr (rRa s.2.1 x p) (zMh h A (mWs s0 L))) := fun L x p => by
    have := s_rowAt (s := mWs s0 L) (h := h) ht D (by rw [mWs_2, r0]; exact hN) (d := d - 1) (by omega) x p
    rw [mWs_2, r0] at this
    exact this
  have zco : ∀ L x, zCt l G (d - 1) MX3_cartOn [.ref A.1, .int x] (zMh h A (mWs s0 L)) 0 (zIr (rCo s.2.1 x) (zMh h A (mWs s0 L))) := fun L x => by
    have := s_cartOn (s := mWs s0 L) (h := h) ht D (by rw [mWs_2, r0]; exact hN) (d := d - 1) (by omega) x
    rw [mWs_2, r0] at this
    exact this
  have zsp : ∀ (L : List Int32) (x : Int32), L.length < 285 → (x = -1 ∨ ∃ q, q < 40 ∧ x = nI q) → zCt l G (d - 1) MX3_writesSpan [.ref A.1, .int x] (zMh h A (mWs s0 L)) 0 (zVr (zMh h A (mWs s0 (L ++ rWsp s.2.1 x)))) := fun L x hL hx => by
    have := s_writesSpan (s := mWs s0 L) (h := h) ht D (mWs_17 L e0) (by omega) x hx (d := d - 1) (by omega)
    rw [mWs_2, r0, ← mWs_ap] at this
    exact this
  have zwn : ∀ (L : List Int32) (v : Nat), L.length < 290 → v < 40 → zCt l G (d - 1) MX3_writesNumber [.ref A.1, .int (nI v)] (zMh h A (mWs s0 L)) 0 (zVr (zMh h A (mWs s0 (L ++ tDig v)))) := fun L v hL hv => by
    have := s_writesNumber (s := mWs s0 L) (h := h) ht D (mWs_17 L e0) (by omega) (v := v) (by omega) (d := d - 1) (by omega)
    rw [← mWs_ap] at this
    exact this
  have zw1 : ∀ (L : List Int32) (v : Nat), L.length < 299 → v < 128 → zCt l G (d - 1) MX3_writes [.ref A.1, .int (nI v)] (zMh h A (mWs s0 L)) 0 (zVr (zMh h A (mWs s0 (L ++ [nI v])))) := fun L v hL hv => by
    have := s_writes (s := mWs s0 L) (h := h) ht D (mWs_17 L e0) (by omega) (m := v) hv (d := d - 1)
    rw [mWs1] at this
    exact this
  have e17 : zMh h A s0 = zMh h A (mWs s0 []) := rfl
  rw [e17]
  refine zMc (zrm [] 0) (by omega) (Nat.le_refl _) ?_
  have lw := rTw_le s.2.1 _ hW
  have ls := rTs_le s.2.1 _ hC
  have lt := rTt_le s.2.1 _ hE
  -- behind the western row and the bridge
  have H3 : ∀ (L : List Int32), L.length ≤ 170 → rTe s.2.1 = L ++ rTt s.2.1 (rRm s.2.1 1) → ∀ k, k ≤ rRm s.2.1 1 → zV l G d 0 MX3_tell (zIr (nI (rTe s.2.1).length) (zMh h A (mWs s0 (rTe s.2.1)))) 103 [some (.ref A.1), some (.int (nI (rRm s.2.1 1))), some (.int (nI k))] [] (zMh h A (mWs s0 (L ++ rTt s.2.1 k))) 0 := by
    intro L hL eL
    refine zInd fun k hk ih => ?_
    have lk := rTt_le s.2.1 k (fun q hq => hE q (by omega))
    have lL : (L ++ rTt s.2.1 k).length ≤ 170 + 3 * k := by rw [List.length_append]; omega
    refine b_X3_tell_103 _ _ _ ?_
    rw [nI_leI (by omega) (by omega)]
    refine ⟨fun q => zGi_m17.mpr ⟨Nat.le_refl _, ?_, ?_⟩, fun q => ?_⟩
    · obtain rfl : k = rRm s.2.1 1 := by omega
      rw [← eL, mWs_17 _ e0, Nat.zero_add]
    · obtain rfl : k = rRm s.2.1 1 := by omega
      rw [← eL]
    · obtain ⟨v, hv, ev⟩ := hE k (by omega)
      refine zMcV (zw1 (L ++ rTt s.2.1 k) 32 (by omega) (by omega)) (by omega) (Nat.le_refl _) ?_
      refine zMc (zra _ 1 (nI k)) (by omega) (Nat.le_refl _) ?_
      rw [ev]
      refine zMcV (zwn _ v (by rw [List.length_append]; simp only [List.length_cons, List.length_nil]; omega) hv) (by omega) (Nat.le_refl _) ?_
      rw [nI_1]
      have e : L ++ rTt s.2.1 k ++ [nI 32] ++ tDig v = L ++ rTt s.2.1 (k + 1) := by
        rw [rTt, ev, nI_clamp (by omega)]; simp only [List.append_assoc]
      rw [e]
      exact ih (by omega)
  have H2 : ∀ (L : List Int32), L.length ≤ 121 → rTe s.2.1 = L ++ (rTs s.2.1 (rSp s.2.1) ++ ([nI 32, nI 124] ++ rTt s.2.1 (rRm s.2.1 1))) → ∀ k, k ≤ rSp s.2.1 → zV l G d 0 MX3_tell (zIr (nI (rTe s.2.1).length) (zMh h A (mWs s0 (rTe s.2.1)))) 52 [some (.ref A.1), some (.int (nI k)), none] [] (zMh h A (mWs s0 (L ++ rTs s.2.1 k))) 0 := by
    intro L hL eL
    refine zInd fun k hk ih => ?_
    have lk := rTs_le s.2.1 k (fun q hq => hC q (by omega))
    have lL : (L ++ rTs s.2.1 k).length ≤ 121 + 5 * k := by rw [List.length_append]; omega
    refine b_X3_tell_52 _ _ (zGr_m1.mpr ((zAi_all D).mpr ⟨pk_in 4 _ (by decide), ?_⟩))
    rw [mWs_2, r0, show (Int32.toNatClampNeg 4) = 4 from rfl, hS.1, nI_leI (by omega) (by omega)]
    refine ⟨fun q => ?_, fun q => ?_⟩
    · obtain rfl : k = rSp s.2.1 := by omega
      refine zMcV (zw1 _ 32 (by omega) (by omega)) (by omega) (Nat.le_refl _) ?_
      refine zMcV (zw1 _ 124 (by rw [List.length_append]; simp only [List.length_cons, List.length_nil]; omega) (by omega)) (by omega) (Nat.le_refl _) ?_
      refine zMc (zrm _ 1) (by omega) (Nat.le_refl _) ?_
      have := H3 (L ++ rTs s.2.1 (rSp s.2.1) ++ [nI 32] ++ [nI 124]) (by simp only [List.length_append, List.length_cons, List.length_nil]; rw [List.length_append] at lL; omega) (by rw [eL]; simp only [List.append_assoc, List.cons_append, List.nil_append]) 0 (Nat.zero_le _)
      rw [rTt, List.append_nil] at this
      exact this
    · refine zMcV (zw1 _ 32 (by omega) (by omega)) (by omega) (Nat.le_refl _) ?_
      refine zMc (zco _ (nI k)) (by omega) (Nat.le_refl _) ?_
      refine zMcV (zsp _ _ (by rw [List.length_append]; simp only [List.length_cons, List.length_nil]; omega) (hC k (by omega))) (by omega) (Nat.le_refl _) ?_
      rw [nI_1]
      have e : L ++ rTs s.2.1 k ++ [nI 32] ++ rWsp s.2.1 (rCo s.2.1 (nI k)) = L ++ rTs s.2.1 (k + 1) := by
        rw [rTs]; simp only [List.append_assoc]
      rw [e]
      exact ih (by omega)
  have H1 : ∀ k (L : List Int32), k ≤ rRm s.2.1 0 → L.length + 3 * k ≤ 120 → rTe s.2.1 = L ++ (rTw s.2.1 k ++ ([nI 124] ++ (rTs s.2.1 (rSp s.2.1) ++ ([nI 32, nI 124] ++ rTt s.2.1 (rRm s.2.1 1))))) → zV l G d 0 MX3_tell (zIr (nI (rTe s.2.1).length) (zMh h A (mWs s0 (rTe s.2.1)))) 18 [some (.ref A.1), some (.int (nI k + (-1))), none] [] (zMh h A (mWs s0 L)) 0 := by
    intro k
    induction k with
    | zero =>
      intro L _ hL eL
      refine b_X3_tell_18 _ _ ⟨fun _ => ?_, fun q => absurd (by decide) q⟩
      refine zMcV (zw1 _ 124 (by omega) (by omega)) (by omega) (Nat.le_refl _) ?_
      have := H2 (L ++ [nI 124]) (by simp only [List.length_append, List.length_cons, List.length_nil]; omega) (by rw [eL]; simp only [rTw, List.append_assoc, List.nil_append]) 0 (Nat.zero_le _)
      rw [rTs, List.append_nil] at this
      exact this
    | succ k ih =>
      intro L hk hL eL
      obtain ⟨v, hv, ev⟩ := hW k (by omega)
      have lv := tDig_le2 (v := v) (by omega)
      rw [pk_m1]
      refine b_X3_tell_18 _ _ ⟨fun q => absurd q (nI_pos (by omega)), fun _ => ?_⟩
      refine zMc (zra _ 0 (nI k)) (by omega) (Nat.le_refl _) ?_
      rw [ev]
      refine zMcV (zwn _ v (by omega) hv) (by omega) (Nat.le_refl _) ?_
      refine zMcV (zw1 _ 32 (by rw [List.length_append]; omega) (by omega)) (by omega) (Nat.le_refl _) ?_
      refine ih _ (by omega) (by simp only [List.length_append, List.length_cons, List.length_nil]; omega) ?_
      rw [eL, rTw, ev, nI_clamp (by omega)]; simp only [List.append_assoc]
  rw [Int32.sub_eq_add_neg]
  exact H1 _ [] (Nat.le_refl _) (by simp only [List.length_nil]; omega) rfl
end ZMQ
