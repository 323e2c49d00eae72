/-! a row turns round: the relation -/
section R17
variable {b E T : Nat} {c : cS} {r : Nat → Int32}
theorem mTR_rc (x : Int32) (s : zMS) (i w : Nat) (hw : w < 10) : ∀ m, rc (mTR x s m).2.1 i w = if w = 8 ∧ i < m ∧ rwa s.2.1 i x = true then -(rc s.2.1 i 8) else rc s.2.1 i w
  | 0 => by rw [if_neg (by omega)]; rfl
  | m + 1 => by
    show rc (mTf x (mTR x s m) m).2.1 i w = _
    have ew : rwa (mTR x s m).2.1 m x = rwa s.2.1 m x := by
      simp only [rwa]
      rw [mTR_rc x s m 2 (by omega) m, mTR_rc x s m 0 (by omega) m, if_neg (by omega), if_neg (by omega)]
    rw [mTf, ew]
    by_cases h : rwa s.2.1 m x = true
    · rw [if_pos h]
      show rc (zuf (mTR x s m).2.1 (11 + 10 * m + 8) (-(rc (mTR x s m).2.1 m 8))) i w = _
      rw [rc_up _ _ _ _ _ _ (by omega) hw, mTR_rc x s i w hw m, mTR_rc x s m 8 (by omega) m, if_neg (c := (8 = 8 ∧ m < m ∧ rwa s.2.1 m x = true)) (by omega)]
      by_cases e : i = m ∧ w = 8
      · obtain ⟨rfl, rfl⟩ := e
        rw [if_pos ⟨rfl, rfl⟩, if_pos ⟨rfl, by omega, h⟩]
      · rw [if_neg e]
        by_cases e2 : w = 8 ∧ i < m ∧ rwa s.2.1 i x = true
        · rw [if_pos e2, if_pos ⟨e2.1, by omega, e2.2.2⟩]
        · rw [if_neg e2, if_neg (fun q => e2 ⟨q.1, by omega, q.2.2⟩)]
    · rw [if_neg h, mTR_rc x s i w hw m]
      by_cases e2 : w = 8 ∧ i < m ∧ rwa s.2.1 i x = true
      · rw [if_pos e2, if_pos ⟨e2.1, by omega, e2.2.2⟩]
      · rw [if_neg e2, if_neg (fun q => e2 ⟨q.1, by
          have : i ≠ m := fun w => by rw [w] at q; exact h q.2.2
          omega, q.2.2⟩)]
theorem neg_toInt {v : Int32} {b : Nat} (hb : b ≤ 2 ^ 20) (h1 : -(b : Int) ≤ v.toInt) (h2 : v.toInt ≤ b) : (-v).toInt = -v.toInt := by
  rw [Int32.toInt_neg]
  exact Int.bmod_eq_of_le (by omega) (by omega)
theorem cQ.turnR (s : zMS) (X : cQ b E T c s.2.1) {z : Nat} (hz : z ≤ 1) (m : Int32) : cQ b E T (cSl c (1 + z) m (cL c (1 + z)).reverse) (mTR (nI z) s (rN s.2.1)).2.1 := by
  have n40 := X.n40
  have nn := X.nn
  rw [nn]
  generalize hr' : (mTR (nI z) s (cN c)).2.1 = r'
  have b20 : b ≤ 2 ^ 20 := X.1.2.2.2.2.2.2.2.2.1
  have s8 := X.sp
  have hh : ∀ j, j < 11 → r' j = s.2.1 j := fun j hj => by rw [← hr', mTR_lo _ _ _ hj]
  have ho : ∀ i w, w < 10 → w ≠ 8 → rc r' i w = rc s.2.1 i w := fun i w hw h8 => by
    rw [← hr', mTR_rc _ _ _ _ hw, if_neg (by omega)]
  have h8y : ∀ i, i < cN c → rc s.2.1 i 2 = 0 → rc s.2.1 i 0 = nI z → rc r' i 8 = -(rc s.2.1 i 8) := fun i hi h2 h0 => by
    rw [← hr', mTR_rc _ _ _ _ (by omega), if_pos ⟨rfl, hi, by simp only [rwa, Bool.and_eq_true, beq_iff_eq]; exact ⟨h2, h0⟩⟩]
  have h8n : ∀ i, ¬ (rc s.2.1 i 2 = 0 ∧ rc s.2.1 i 0 = nI z) → rc r' i 8 = rc s.2.1 i 8 := fun i h => by
    rw [← hr', mTR_rc _ _ _ _ (by omega), if_neg]
    intro q
    have := q.2.2
    simp only [rwa, Bool.and_eq_true, beq_iff_eq] at this
    exact h this
  have hs : rSp r' = rSp s.2.1 := rSp_e (hh 4 (by omega))
  have hLz : cL (cSl c (1 + z) m (cL c (1 + z)).reverse) (1 + z) = (cL c (1 + z)).reverse := by
    show (if 1 + z = 1 + z then (m, (cL c (1 + z)).reverse) else c.2.2.1 (1 + z)).2 = _
    rw [if_pos rfl]
  have hLo : ∀ j, j ≠ 1 + z → cL (cSl c (1 + z) m (cL c (1 + z)).reverse) j = cL c j := fun j hj => by
    show (if j = 1 + z then _ else c.2.2.1 j).2 = _
    rw [if_neg hj]
  have keys : ∀ i, i < cN c → rc s.2.1 i 2 = 0 → -(b : Int) ≤ (rc s.2.1 i 8).toInt ∧ (rc s.2.1 i 8).toInt ≤ b := fun i hi h2 => (X.va hi).2.2.2.2.2 h2
  have rowz : qRow (cSl c (1 + z) m (cL c (1 + z)).reverse) r' z := by
    unfold qRow
    rw [hLz]
    refine ⟨fun i => ?_, ?_⟩
    · rw [List.mem_reverse, ho i 2 (by omega) (by omega), ho i 0 (by omega) (by omega)]
      exact (X.row hz).1 i
    · rw [List.pairwise_reverse]
      refine List.Pairwise.imp_of_mem ?_ (X.row hz).2
      intro a a' ha ha' hlt
      obtain ⟨a1, a2, a3⟩ := ((X.row hz).1 a).mp ha
      obtain ⟨a1', a2', a3'⟩ := ((X.row hz).1 a').mp ha'
      rw [h8y a a1 a2 a3, h8y a' a1' a2' a3', neg_toInt b20 (keys a a1 a2).1 (keys a a1 a2).2, neg_toInt b20 (keys a' a1' a2').1 (keys a' a1' a2').2]
      omega
  have rowo : ∀ z', z' ≤ 1 → z' ≠ z → qRow (cSl c (1 + z) m (cL c (1 + z)).reverse) r' z' := by
    intro z' hz' hne
    refine (X.row hz').same2 rfl (hLo _ (by omega)) (fun i' hi' => ?_) (fun i' hi' h2 h0 => h8n i' fun q => ?_)
    · rw [ho i' 2 (by omega) (by omega), ho i' 0 (by omega) (by omega)]
    · rw [h0] at q
      exact hne (nI_inj (by omega) (by omega) q.2)
  refine ⟨?_, fun i hi => ?_, fun i hi => ?_, X.oc.same rfl (fun _ _ => rfl) (hh 4 (by omega)) s8.2.2 (fun i _ => ⟨ho i 2 (by omega) (by omega), ho i 3 (by omega) (by omega)⟩), ?_, ?_, X.pa.same rfl (hLo 3 (by omega)) (hh 7 (by omega)) (fun i _ => ⟨ho i 2 (by omega) (by omega), ho i 9 (by omega) (by omega)⟩), X.le.same rfl (hh 8 (by omega)) (fun i _ => ho i 2 (by omega) (by omega)), X.wt.same rfl (fun i _ => ho i 7 (by omega) (by omega))⟩
  · obtain ⟨a1, a3, ⟨f5, f6, f7, f8, f9, f10, f11, f12⟩, a5, a6, a7, a8, a9, a10, a11⟩ := X.1
    unfold qHdr rLw
    rw [hs, hh 0 (by omega), hh 4 (by omega), hh 2 (by omega), hh 3 (by omega), hh 5 (by omega), hh 6 (by omega), hh 1 (by omega), hh 9 (by omega), hh 10 (by omega)]
    exact ⟨a1, a3, ⟨f5, f6, f7, f8, f9, f10, f11, f12⟩, a5, a6, a7, a8, a9, a10, a11⟩
  · obtain ⟨b0, b1, b2, b3, b4, b5, b6, b7, b8, b9⟩ := X.ca hi
    unfold qCart
    rw [ho i 0 (by omega) (by omega), ho i 1 (by omega) (by omega), ho i 2 (by omega) (by omega), ho i 3 (by omega) (by omega), ho i 4 (by omega) (by omega), ho i 5 (by omega) (by omega), ho i 6 (by omega) (by omega), ho i 7 (by omega) (by omega), hh 1 (by omega)]
    exact ⟨b0, b1, b2, b3, b4, b5, b6, b7, b8, b9⟩
  · obtain ⟨b0, b1, b2, b3, b4, b5⟩ := X.va hi
    unfold qVal
    rw [ho i 0 (by omega) (by omega), ho i 1 (by omega) (by omega), ho i 2 (by omega) (by omega), ho i 3 (by omega) (by omega), ho i 4 (by omega) (by omega)]
    refine ⟨b0, b1, b2, b3, b4, fun h2 => ?_⟩
    have := b5 h2
    by_cases h0 : rc s.2.1 i 0 = nI z
    · rw [h8y i hi h2 h0, neg_toInt b20 this.1 this.2]
      omega
    · rw [h8n i fun q => h0 q.2]
      exact this
  · rcases Nat.eq_zero_or_pos z with w | w
    · subst w; exact rowz
    · exact rowo 0 (by omega) (by omega)
  · rcases Nat.eq_zero_or_pos z with w | w
    · exact rowo 1 (by omega) (by omega)
    · obtain rfl : z = 1 := by omega
      exact rowz
/-! the row while it is turned -/
def wSw (L : List Nat) (k : Nat) : List Nat := (List.range L.length).map fun j => if j < k ∨ L.length ≤ j + k then L.getD (L.length - 1 - j) 0 else L.getD j 0
theorem wSw_len (L : List Nat) (k : Nat) : (wSw L k).length = L.length := by rw [wSw, List.length_map, List.length_range]
theorem wSw_at (L : List Nat) (k : Nat) {j : Nat} (hj : j < L.length) : (wSw L k).getD j 0 = if j < k ∨ L.length ≤ j + k then L.getD (L.length - 1 - j) 0 else L.getD j 0 := by
  rw [wSw, range_getD _ hj]
theorem list_ext {L M : List Nat} (hl : L.length = M.length) (h : ∀ j, j < L.length → L.getD j 0 = M.getD j 0) : L = M := by
  refine List.ext_getElem hl fun j h1 h2 => ?_
  have := h j h1
  rw [List.getD_eq_getElem?_getD, List.getD_eq_getElem?_getD, List.getElem?_eq_getElem h1, List.getElem?_eq_getElem h2] at this
  exact this
theorem wSw_0 (L : List Nat) : wSw L 0 = L := by
  refine list_ext (wSw_len _ _) fun j hj => ?_
  rw [wSw_len] at hj
  rw [wSw_at _ _ hj, if_neg (by omega)]
theorem setGetD {L : List Nat} {k v j : Nat} (hj : j < L.length) : (L.set k v).getD j 0 = if k = j then v else L.getD j 0 := by
  rw [List.getD_eq_getElem?_getD, List.getD_eq_getElem?_getD, List.getElem?_eq_getElem (by rw [List.length_set]; exact hj), List.getElem?_eq_getElem hj, List.getElem_set]
  by_cases h : k = j
  · rw [if_pos h, if_pos h]; rfl
  · rw [if_neg h, if_neg h]
theorem wSw_step (L : List Nat) {k : Nat} (hk : k < L.length / 2) : ((wSw L k).set k ((wSw L k).getD (L.length - 1 - k) 0)).set (L.length - 1 - k) ((wSw L k).getD k 0) = wSw L (k + 1) := by
  have l1 := wSw_len L k
  refine list_ext (by rw [List.length_set, List.length_set, wSw_len, wSw_len]) fun j hj => ?_
  rw [List.length_set, List.length_set, wSw_len] at hj
  rw [setGetD (by rw [List.length_set, wSw_len]; exact hj), setGetD (by rw [wSw_len]; exact hj), wSw_at L k (by omega), wSw_at L k (by omega), wSw_at L k hj, wSw_at L (k + 1) hj, if_neg (c := (L.length - 1 - k < k ∨ L.length ≤ L.length - 1 - k + k)) (by omega), if_neg (c := (k < k ∨ L.length ≤ k + k)) (by omega)]
  by_cases e1 : L.length - 1 - k = j
  · rw [if_pos e1, if_pos (by omega)]; congr 1; omega
  · rw [if_neg e1]
    by_cases e2 : k = j
    · rw [if_pos e2, if_pos (by omega)]; congr 1; omega
    · rw [if_neg e2]
      by_cases e3 : j < k ∨ L.length ≤ j + k
      · rw [if_pos e3, if_pos (by omega)]
      · rw [if_neg e3, if_neg (by omega)]
theorem wSw_end (L : List Nat) : wSw L (L.length / 2) = L.reverse := by
  refine list_ext (by rw [wSw_len, List.length_reverse]) fun j hj => ?_
  rw [wSw_len] at hj
  have e : L.reverse.getD j 0 = L.getD (L.length - 1 - j) 0 := by
    rw [List.getD_eq_getElem?_getD, List.getD_eq_getElem?_getD, List.getElem?_reverse hj]
  rw [wSw_at _ _ hj, e]
  by_cases h : j < L.length / 2 ∨ L.length ≤ j + L.length / 2
  · rw [if_pos h]
  · rw [if_neg h]; congr 1; omega
end R17
