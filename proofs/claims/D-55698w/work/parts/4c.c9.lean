/-! a tick -/
section R8
variable {b E T : Nat} {c : cS} {r : Nat → Int32}
/-! what lies behind the first row stays -/
theorem zuf_hi (r : Nat → Int32) (k w : Nat) (v : Int32) (i : Nat) (hk : k < 40) (hw : w < 10) (hi : 411 ≤ i) : zuf r (11 + 10 * k + w) v i = r i := if_neg (by omega)
theorem zuf_lo (r : Nat → Int32) (j : Nat) (v : Int32) (i : Nat) (hj : j < 11) (hi : 411 ≤ i) : zuf r j v i = r i := if_neg (by omega)
theorem mGo_hi (s : zMS) {k : Nat} (hk : k < 40) {i : Nat} (hi : 411 ≤ i) : (mGo s k).2.1 i = s.2.1 i := by
  simp only [mGo]
  split
  · split
    · exact zuf_hi _ _ _ _ _ hk (by omega) hi
    · rfl
  · split
    · simp only [zMa]; rw [zuf_hi _ _ _ _ _ hk (by omega) hi, zuf_hi _ _ _ _ _ hk (by omega) hi, zuf_hi _ _ _ _ _ hk (by omega) hi]
    · simp only [zMa]; rw [zuf_lo _ _ _ _ (by omega) hi, zuf_hi _ _ _ _ _ hk (by omega) hi, zuf_hi _ _ _ _ _ hk (by omega) hi, zuf_hi _ _ _ _ _ hk (by omega) hi]
theorem mPr_hi (s : zMS) (sp : Nat) (y : Int32) (hN : rN s.2.1 ≤ 40) {i : Nat} (hi : 411 ≤ i) : (mPr s sp y).2.1 i = s.2.1 i := by
  simp only [mPr]
  rcases rCo_cases s.2.1 (nI sp) with e | ⟨k, hk, -, e⟩
  · rw [e, if_pos rfl]
  · rw [e, if_neg (zn1 (by omega)), nI_clamp (by omega)]
    split
    · exact mGo_hi s (by omega) hi
    · rfl
theorem rN_e {r r' : Nat → Int32} (h : r' 0 = r 0) : rN r' = rN r := by simp only [rN, h]
theorem mDn_hi {i : Nat} (hi : 411 ≤ i) : ∀ (j : Nat) (s : zMS), rN s.2.1 ≤ 40 → (mDn j s).2.1 i = s.2.1 i
  | 0, _, _ => rfl
  | j + 1, s, h => by rw [mDn, mDn_hi hi j _ (by rw [rN_e (mPr_lo _ _ _ 0 (by omega) (by omega))]; exact h), mPr_hi _ _ _ h hi]
theorem mUp_hi {i : Nat} (hi : 411 ≤ i) : ∀ (j sp : Nat) (s : zMS), rN s.2.1 ≤ 40 → (mUp sp j s).2.1 i = s.2.1 i
  | 0, _, _, _ => rfl
  | j + 1, sp, s, h => by rw [mUp, mUp_hi hi j _ _ (by rw [rN_e (mPr_lo _ _ _ 0 (by omega) (by omega))]; exact h), mPr_hi _ _ _ h hi]
theorem mTr_hi {i : Nat} (hi : 411 ≤ i) : ∀ (f : Nat) (x : Int32) (s : zMS), rN s.2.1 ≤ 40 → (x = -1 ∨ ∃ k, k < rN s.2.1 ∧ x = nI k) → (mTr f x s).2.1 i = s.2.1 i
  | 0, _, _, _, _ => rfl
  | f + 1, x, s, h, hx => by
    rw [mTr]
    rcases hx with e | ⟨k, hk, e⟩
    · rw [if_pos e]
    · rw [e, if_neg (zn1 (by omega)), nI_clamp (by omega)]
      have e0 : rN (mTc s k).2.1 = rN s.2.1 := rN_e (mTc_lo s k 0 (by omega))
      rw [mTr_hi hi f _ _ (by rw [e0]; exact h) (by
        rcases rBe_cases s.2.1 h k with q | ⟨j, hj, q, -⟩
        · exact Or.inl q
        · exact Or.inr ⟨j, by rw [e0]; exact hj, q⟩), mTc_fl]
      simp only [rFl]
      rw [if_neg (by omega), if_neg (by omega), if_neg (by omega)]
theorem rNo_or (r : Nat → Int32) : ∀ (n sp : Nat), rNo r sp n = -1 ∨ ∃ k, k < rN r ∧ rNo r sp n = nI k
  | 0, _ => Or.inl rfl
  | n + 1, sp => by
    rw [rNo]
    split
    · rcases rCo_cases r (nI sp) with e | ⟨k, hk, -, e⟩
      · exact Or.inl e
      · exact Or.inr ⟨k, hk, e⟩
    · exact rNo_or r n _
theorem mMe_hi (g : Nat) {i : Nat} (hi : 411 ≤ i) : ∀ (f : Nat) (s : zMS), rN s.2.1 ≤ 40 → (mMe g f s).2.1 i = s.2.1 i
  | 0, _, _ => rfl
  | f + 1, s, h => by
    simp only [mMe]
    split
    · rfl
    · have e0 : ∀ x, rN (mTr g x s).2.1 = rN s.2.1 := fun x => rN_e (mTr_lo _ _ _ 0 (by omega))
      rw [mMe_hi g hi f _ (by rw [e0]; exact h), mTr_hi hi _ _ _ h]
      rcases rWh_or g s.2.1 (rNo s.2.1 0 (rSp s.2.1 - 1)) (rOt s.2.1 (rNo s.2.1 0 (rSp s.2.1 - 1))) with e | e
      · rw [e]; exact rNo_or _ _ _
      · rw [e]
        rcases rCo_cases s.2.1 (rc s.2.1 (rNo s.2.1 0 (rSp s.2.1 - 1)).toNatClampNeg 3 + 1) with q | ⟨k, hk, -, q⟩
        · exact Or.inl q
        · exact Or.inr ⟨k, hk, q⟩
theorem mLk_hi (s : zMS) {i : Nat} (hi : 411 ≤ i) : (mLk s).2.1 i = s.2.1 i := by
  simp only [mLk]
  split
  · simp only [zMa]; rw [zuf_lo _ _ _ _ (by omega) hi, zuf_lo _ _ _ _ (by omega) hi]
  · rfl
theorem mSe_hi (s : zMS) (x : Int32) (hN : rN s.2.1 ≤ 40) {i : Nat} (hi : 411 ≤ i) : (mSe s x).2.1 i = s.2.1 i := by
  by_cases q : ¬ rCo s.2.1 (if x = 0 then 0 else s.2.1 4 - 1) = -1
  · rw [mSe_no s x (Or.inl q)]
  · cases h : rMs s.2.1 x with
    | false => rw [mSe_no s x (Or.inr h)]
    | true =>
      simp only [mSe]
      rw [if_neg q, h, if_pos rfl]
      obtain ⟨k, hk, e⟩ := rMs_first h
      rw [e, nI_clamp (by omega)]
      simp only [zMa]
      rw [zuf_lo _ _ _ _ (by omega) hi, zuf_lo _ _ _ _ (by omega) hi, zuf_hi _ _ _ _ _ (by omega) (by omega) hi, zuf_hi _ _ _ _ _ (by omega) (by omega) hi, zuf_hi _ _ _ _ _ (by omega) (by omega) hi]
theorem mWt_hi (s : zMS) {i : Nat} (hi : 411 ≤ i) : ∀ n, n ≤ 40 → (mWt s n).2.1 i = s.2.1 i
  | 0, _ => rfl
  | n + 1, h => by
    show (mWf (mWt s n) n).2.1 i = _
    rw [mWf]
    split
    · show zuf _ _ _ i = _
      rw [zuf_hi _ _ _ _ _ (by omega) (by omega) hi, mWt_hi s hi n (by omega)]
    · exact mWt_hi s hi n (by omega)
theorem mWt_rc (s : zMS) (i w : Nat) (hw : w < 10) : ∀ n, rc (mWt s n).2.1 i w = if w = 7 ∧ i < n ∧ rc s.2.1 i 2 = 0 then rc s.2.1 i 7 + 1 else rc s.2.1 i w
  | 0 => by rw [if_neg (by omega)]; rfl
  | n + 1 => by
    have h2 : rc (mWt s n).2.1 n 2 = rc s.2.1 n 2 := by rw [mWt_rc s n 2 (by omega) n, if_neg (by omega)]
    have h7 : rc (mWt s n).2.1 n 7 = rc s.2.1 n 7 := by rw [mWt_rc s n 7 (by omega) n, if_neg (by omega)]
    show rc (mWf (mWt s n) n).2.1 i w = _
    rw [mWf, h2]
    by_cases q : rc s.2.1 n 2 = 0
    · rw [if_pos q]
      show rc (zuf (mWt s n).2.1 (11 + 10 * n + 7) _) i w = _
      rw [rc_up _ _ _ _ _ _ (by omega) hw, h7]
      by_cases c : i = n ∧ w = 7
      · obtain ⟨rfl, rfl⟩ := c
        rw [if_pos ⟨rfl, rfl⟩, if_pos ⟨rfl, by omega, q⟩]
      · rw [if_neg c, mWt_rc s i w hw n]
        by_cases c2 : w = 7 ∧ i < n ∧ rc s.2.1 i 2 = 0
        · rw [if_pos c2, if_pos ⟨c2.1, by omega, c2.2.2⟩]
        · rw [if_neg c2, if_neg]
          rintro ⟨c3, c4, c5⟩
          by_cases c6 : i = n
          · exact c ⟨c6, c3⟩
          · exact c2 ⟨c3, by omega, c5⟩
    · rw [if_neg q, mWt_rc s i w hw n]
      by_cases c2 : w = 7 ∧ i < n ∧ rc s.2.1 i 2 = 0
      · rw [if_pos c2, if_pos ⟨c2.1, by omega, c2.2.2⟩]
      · rw [if_neg c2, if_neg]
        rintro ⟨c3, c4, c5⟩
        by_cases c6 : i = n
        · rw [c6] at c5; exact q c5
        · exact c2 ⟨c3, by omega, c5⟩
/-! the seventh: how many passed -/
theorem mGo_7 (s : zMS) (k : Nat) : (mGo s k).2.1 7 = s.2.1 7 + nI (if rGb s.2.1 k then 1 else 0) := by
  cases h1 : rIn s.2.1 k with
  | true =>
    have : rGb s.2.1 k = false := by rw [rGb, h1]; rfl
    rw [this]
    simp only [mGo]
    rw [h1, if_pos rfl]
    split
    · show zuf _ _ _ 7 = _
      rw [hd_up _ _ _ _ _ (by omega), if_neg (by decide), nI_0, Int32.add_zero]
    · rw [if_neg (by decide), nI_0, Int32.add_zero]
  | false =>
    cases h2 : rBk s.2.1 k with
    | true =>
      have : rGb s.2.1 k = false := by rw [rGb, h1, h2]; rfl
      rw [this, mGo_bk s k h1 h2, rBkw, hd_up _ _ _ _ _ (by omega), hd_up _ _ _ _ _ (by omega), hd_up _ _ _ _ _ (by omega), if_neg (by decide), nI_0, Int32.add_zero]
    | false =>
      have : rGb s.2.1 k = true := by rw [rGb, h1, h2]; rfl
      rw [this, mGo_ps s k h1 h2, rPs, if_pos rfl]
      show (if (7 : Nat) = 7 then s.2.1 7 + 1 else _) = _
      rw [if_pos rfl]; rfl
theorem mPr_7 (s : zMS) (sp : Nat) (y : Int32) : (mPr s sp y).2.1 7 = s.2.1 7 + nI (if rPr s.2.1 sp y then 1 else 0) := by
  simp only [mPr, rPr]
  by_cases h : rCo s.2.1 (nI sp) = -1
  · rw [if_pos h]; simp [h, nI_0]
  · rw [if_neg h]
    by_cases h2 : rc s.2.1 (rCo s.2.1 (nI sp)).toNatClampNeg 4 = y
    · rw [if_pos h2, mGo_7]; simp [h, h2]
    · rw [if_neg h2]; simp [h, h2, nI_0]
theorem mDn_7 : ∀ (j : Nat) (s : zMS), (mDn j s).2.1 7 = s.2.1 7 + nI (nDn j s)
  | 0, s => by rw [mDn, nDn, nI_0, Int32.add_zero]
  | j + 1, s => by rw [mDn, nDn, mDn_7 j, mPr_7, Int32.add_assoc, nI_add]
theorem mUp_7 : ∀ (j sp : Nat) (s : zMS), (mUp sp j s).2.1 7 = s.2.1 7 + nI (nUp sp j s)
  | 0, sp, s => by rw [mUp, nUp, nI_0, Int32.add_zero]
  | j + 1, sp, s => by rw [mUp, nUp, mUp_7 j, mPr_7, Int32.add_assoc, nI_add]
theorem mTk_7 (g f : Nat) (s : zMS) : (mTk g f s).2.1 7 = s.2.1 7 + nI (nAg s) := by
  rw [mTk, mWt_lo _ _ (by omega), mT6, zMa_lo _ _ _ _ (by omega), mT5, mMe_lo _ _ (by omega), mT4, mSe_lo _ _ _ (by omega) (by omega) (by omega), mSe_lo _ _ _ (by omega) (by omega) (by omega), mLk_lo _ _ (by omega) (by omega), mAg, mUp_7, mDn_7, nAg, Int32.add_assoc, nI_add]
theorem mTk_hi (g f : Nat) (s : zMS) (hN : rN s.2.1 ≤ 40) {i : Nat} (hi : 411 ≤ i) : (mTk g f s).2.1 i = s.2.1 i := by
  have a0 : rN (mDn (rSp s.2.1) s).2.1 ≤ 40 := by rw [rN_e (mDn_lo 0 (by omega) (by omega) _ _)]; exact hN
  have a1 : rN (mLk (mAg s)).2.1 ≤ 40 := by rw [rN_e (mLk_lo _ 0 (by omega) (by omega)), rN_e (mAg_lo s 0 (by omega) (by omega))]; exact hN
  have a2 : rN (mSe (mLk (mAg s)) 0).2.1 ≤ 40 := by rw [rN_e (mSe_lo _ _ 0 (by omega) (by omega) (by omega))]; exact a1
  have a3 : rN (mT4 s).2.1 ≤ 40 := by rw [rN_e (mT4_lo s 0 (by omega))]; exact hN
  rw [mTk, mWt_hi _ hi _ hN, mT6, zMa_lo _ _ _ _ (by omega), mT5, mMe_hi _ hi _ _ a3, mT4, mSe_hi _ _ a2 hi, mSe_hi _ _ a1 hi, mLk_hi _ hi, mAg, mUp_hi hi _ _ _ a0, mDn_hi hi _ _ hN]
/-! waiting -/
theorem cWt_G {L : List Nat} (nod : L.Nodup) (c : cS) (i : Nat) : ∀ m, m ≤ L.length → cG (cWt L c m) i = if i ∈ L.take m then zuf (cG c i) 8 (cG c i 8 + 1) else cG c i
  | 0, _ => by simp [cWt, zfo]
  | m + 1, h => by
    have ih := cWt_G nod c i m (by omega)
    show cG (cSc (cWt L c m) (L.getD m 0) 8 (cG (cWt L c m) (L.getD m 0) 8 + 1)) i = _
    have hx : L.getD m 0 = L[m] := by rw [List.getD_eq_getElem?_getD, List.getElem?_eq_getElem (by omega)]; rfl
    have ht : L.take (m + 1) = L.take m ++ [L[m]] := by rw [List.take_add_one, List.getElem?_eq_getElem (by omega)]; rfl
    have hnot : ¬ L[m] ∈ L.take m := by
      intro q
      obtain ⟨p, hp, e⟩ := List.mem_take_iff_getElem.mp q
      have := List.pairwise_iff_getElem.mp nod p m (by omega) (by omega) (by omega)
      exact this e
    by_cases e : i = L[m]
    · subst e
      rw [hx, cSc_at, ih, if_neg hnot, ht, if_pos (List.mem_append_right _ (List.mem_singleton.mpr rfl))]
    · rw [cSc_ne _ _ _ (by rw [hx]; exact e), ih, ht]
      have : i ∈ L.take m ++ [L[m]] ↔ i ∈ L.take m := by
        rw [List.mem_append, List.mem_singleton]
        exact ⟨fun q => q.resolve_right e, Or.inl⟩
      simp only [this]
theorem cWt_1 (L : List Nat) (c : cS) : ∀ i, (cWt L c i).1 = c.1 ∧ (cWt L c i).2.1 = c.2.1
  | 0 => ⟨rfl, rfl⟩
  | i + 1 => cWt_1 L c i
/-- all that wait have waited one tick more, and the tick is over -/
def cTk (c : cS) : cS := cSf (cWt (cL c 2) (cWt (cL c 1) c (cL c 1).length) (cL c 2).length) 10 (c.1 10 + 1)
theorem cQ.wk (X : cQ b E T c r) (s : zMS) (hs : s.2.1 = zuf r 1 (r 1 + 1)) (hT : T + 1 ≤ 2 ^ 20) : cQ b E (T + 1) (cTk c) (mWt s (cN c)).2.1 := by
  have n40 := X.n40
  have nod1 := X.nod (z := 0) (by omega)
  have nod2 := X.nod (z := 1) (by omega)
  have hh : ∀ j, j < 11 → j ≠ 1 → (mWt s (cN c)).2.1 j = r j := fun j hj h1 => by rw [mWt_lo _ _ hj, hs]; exact if_neg h1
  have h1 : (mWt s (cN c)).2.1 1 = r 1 + 1 := by rw [mWt_lo _ _ (by omega), hs]; exact if_pos rfl
  have hrc : ∀ i w, w < 10 → rc s.2.1 i w = rc r i w := fun i w hw => by rw [hs, rc_hd _ _ _ _ _ (by omega)]
  have ho : ∀ i w, w < 10 → w ≠ 7 → rc (mWt s (cN c)).2.1 i w = rc r i w := fun i w hw h7 => by rw [mWt_rc _ _ _ hw, if_neg (by omega), hrc _ _ hw]
  have h7 : ∀ i, i < cN c → rc (mWt s (cN c)).2.1 i 7 = if rc r i 2 = 0 then rc r i 7 + 1 else rc r i 7 := fun i hi => by
    rw [mWt_rc _ _ _ (by omega), hrc _ _ (by omega), hrc _ _ (by omega)]
    by_cases q : rc r i 2 = 0
    · rw [if_pos ⟨rfl, hi, q⟩, if_pos q]
    · rw [if_neg (fun w => q w.2.2), if_neg q]
  have hs4 : rSp (mWt s (cN c)).2.1 = rSp r := rSp_e (hh 4 (by omega) (by omega))
  have hG : ∀ i, i < cN c → cG (cTk c) i = if rc r i 2 = 0 then zuf (cG c i) 8 (cG c i 8 + 1) else cG c i := by
    intro i hi
    show cG (cWt (cL c 2) (cWt (cL c 1) c (cL c 1).length) (cL c 2).length) i = _
    rw [cWt_G nod2 _ _ _ (Nat.le_refl _), List.take_length, cWt_G nod1 _ _ _ (Nat.le_refl _), List.take_length]
    have m1 := (X.row (z := 0) (by omega)).1 i
    have m2 := (X.row (z := 1) (by omega)).1 i
    have hside := (X.va hi).1
    by_cases q : rc r i 2 = 0
    · rw [if_pos q]
      rcases hside with w | w
      · have i1 : i ∈ cL c 1 := m1.mpr ⟨hi, q, w⟩
        have i2 : ¬ i ∈ cL c 2 := fun z => by
          have := (m2.mp z).2.2
          rw [w] at this; exact absurd this (by decide)
        rw [if_neg i2, if_pos i1]
      · have i2 : i ∈ cL c 2 := m2.mpr ⟨hi, q, w⟩
        have i1 : ¬ i ∈ cL c 1 := fun z => by
          have := (m1.mp z).2.2
          rw [w] at this; exact absurd this (by decide)
        rw [if_pos i2, if_neg i1]
    · rw [if_neg q, if_neg (fun z => q (m2.mp z).2.1), if_neg (fun z => q (m1.mp z).2.1)]
  have e22 : (cTk c).2.2.1 = c.2.2.1 ∧ (cTk c).2.2.2.1 = c.2.2.2.1 ∧ (cTk c).2.1 = c.2.1 := by
    refine ⟨?_, ?_, ?_⟩
    · show (cWt _ (cWt _ c _) _).2.2.1 = _
      rw [(cWt_N _ _ _).2, (cWt_N _ _ _).2]
    · show (cWt _ (cWt _ c _) _).2.2.2.1 = _
      rw [(cWt_N _ _ _).1, (cWt_N _ _ _).1]
    · show (cWt _ (cWt _ c _) _).2.1 = _
      rw [(cWt_1 _ _ _).2, (cWt_1 _ _ _).2]
  have e1 : (cTk c).1 = zuf c.1 10 (c.1 10 + 1) := by
    show zuf (cWt _ (cWt _ c _) _).1 10 _ = _
    rw [(cWt_1 _ _ _).1, (cWt_1 _ _ _).1]
  have hN : cN (cTk c) = cN c := by simp only [cN, e22.2.1]
  have hL : ∀ q, cL (cTk c) q = cL c q := fun q => by simp only [cL, e22.1]
  have hB : ∀ q, cB (cTk c) q = cB c q := fun q => by simp only [cB, e22.2.2]
  refine ⟨?_, fun i hi => ?_, fun i hi => ?_, X.oc.same hN (fun j _ => hB j) (hh 4 (by omega) (by omega)) X.sp.2.2 (fun i _ => ⟨ho i 2 (by omega) (by omega), ho i 3 (by omega) (by omega)⟩), (X.row (z := 0) (by omega)).same hN (hL _) (fun i _ => ⟨ho i 0 (by omega) (by omega), ho i 2 (by omega) (by omega), ho i 8 (by omega) (by omega)⟩), (X.row (z := 1) (by omega)).same hN (hL _) (fun i _ => ⟨ho i 0 (by omega) (by omega), ho i 2 (by omega) (by omega), ho i 8 (by omega) (by omega)⟩), X.pa.same hN (hL _) (hh 7 (by omega) (by omega)) (fun i _ => ⟨ho i 2 (by omega) (by omega), ho i 9 (by omega) (by omega)⟩), X.le.same hN (hh 8 (by omega) (by omega)) (fun i _ => ho i 2 (by omega) (by omega)), hT, fun i hi => ?_⟩
  · obtain ⟨a1, a3, ⟨f5, f6, f7, f8, f9, f10, f11, f12⟩, a5, a6, a7, a8, ⟨t, a9, a9'⟩, a10, a11⟩ := X.1
    unfold qHdr rLw
    rw [hs4, hN, e1, hh 0 (by omega) (by omega), hh 4 (by omega) (by omega), hh 2 (by omega) (by omega), hh 3 (by omega) (by omega), hh 5 (by omega) (by omega), hh 6 (by omega) (by omega), h1, hh 9 (by omega) (by omega), hh 10 (by omega) (by omega)]
    exact ⟨a1, a3, ⟨f5, f6, f7, f8, f9, congrArg (· + 1) f10, f11, f12⟩, a5, a6, a7, a8, ⟨t + 1, by rw [a9, nI_1], by omega⟩, a10, a11⟩
  · rw [hN] at hi
    obtain ⟨b0, b1, b2, b3, b4, b5, b6, b7, b8, b9⟩ := X.ca hi
    unfold qCart
    rw [hG i hi, ho i 0 (by omega) (by omega), ho i 1 (by omega) (by omega), ho i 2 (by omega) (by omega), ho i 3 (by omega) (by omega), ho i 4 (by omega) (by omega), ho i 5 (by omega) (by omega), ho i 6 (by omega) (by omega), h7 i hi, h1]
    by_cases q : rc r i 2 = 0
    · simp only [q, if_true] at b6 b9 ⊢
      refine ⟨b0, b1, b2, b3, b4.trans q, b5, b6, b7, ?_, ?_⟩
      · show cG c i 8 + 1 = _; rw [b8]
      · show cG c i 10 + (r 1 + 1) - cG c i 9 = _
        rw [← b9, Int32.sub_eq_add_neg, Int32.sub_eq_add_neg, ← Int32.add_assoc, Int32.add_assoc _ 1, Int32.add_comm 1, ← Int32.add_assoc]
    · simp only [q, if_false] at b9 ⊢
      exact ⟨b0, b1, b2, b3, b4, b5, b6, b7, b8, b9⟩
  · rw [hN] at hi
    obtain ⟨b0, b1, b2, b3, b4, b5⟩ := X.va hi
    unfold qVal
    rw [ho i 0 (by omega) (by omega), ho i 1 (by omega) (by omega), ho i 2 (by omega) (by omega), ho i 3 (by omega) (by omega), ho i 4 (by omega) (by omega), ho i 8 (by omega) (by omega)]
    exact ⟨b0, b1, b2, b3, b4, b5⟩
  · rw [hN] at hi
    obtain ⟨w, w1, w2⟩ := X.wt.2 i hi
    rw [h7 i hi]
    by_cases q : rc r i 2 = 0
    · rw [if_pos q]; exact ⟨w + 1, by rw [w1, nI_1], by omega⟩
    · rw [if_neg q]; exact ⟨w, w1, by omega⟩
/-! the whole tick -/
theorem cQ.dn : ∀ (j : Nat) (c : cS) (s : zMS) (b : Nat), j ≤ 8 → b + j ≤ 2 ^ 20 → cQ b E T c s.2.1 → ∃ c', cQ (b + j) E T c' (mDn j s).2.1 ∧ cN c' = cN c
  | 0, c, s, b, _, _, X => ⟨c, X, rfl⟩
  | j + 1, c, s, b, hj, hb, X => by
    rw [mDn]
    rcases X.pr s rfl (p := j) (by omega) 1 with ⟨-, e⟩ | ⟨i, -, hi, -, hon, e⟩
    · rw [e]
      obtain ⟨c', h1, h2⟩ := cQ.dn j c s b (by omega) (by omega) X
      exact ⟨c', h1.mono (by omega) hb (Nat.le_refl _) X.1.2.2.2.2.2.2.2.2.2 (Nat.le_refl _) X.wt.1, h2⟩
    · rw [e]
      obtain ⟨c1, X1, n1⟩ := X.go s rfl hi hon (by omega)
      obtain ⟨c', h1, h2⟩ := cQ.dn j c1 _ (b + 1) (by omega) (by omega) X1
      exact ⟨c', by rw [show b + (j + 1) = b + 1 + j by omega]; exact h1, h2.trans n1⟩
theorem cQ.up : ∀ (j sp : Nat) (c : cS) (s : zMS) (b : Nat), sp + j ≤ 8 → b + j ≤ 2 ^ 20 → cQ b E T c s.2.1 → ∃ c', cQ (b + j) E T c' (mUp sp j s).2.1 ∧ cN c' = cN c
  | 0, sp, c, s, b, _, _, X => ⟨c, X, rfl⟩
  | j + 1, sp, c, s, b, hj, hb, X => by
    rw [mUp]
    rcases X.pr s rfl (p := sp) (by omega) 0 with ⟨-, e⟩ | ⟨i, -, hi, -, hon, e⟩
    · rw [e]
      obtain ⟨c', h1, h2⟩ := cQ.up j (sp + 1) c s b (by omega) (by omega) X
      exact ⟨c', h1.mono (by omega) hb (Nat.le_refl _) X.1.2.2.2.2.2.2.2.2.2 (Nat.le_refl _) X.wt.1, h2⟩
    · rw [e]
      obtain ⟨c1, X1, n1⟩ := X.go s rfl hi hon (by omega)
      obtain ⟨c', h1, h2⟩ := cQ.up j (sp + 1) c1 _ (b + 1) (by omega) (by omega) X1
      exact ⟨c', by rw [show b + (j + 1) = b + 1 + j by omega]; exact h1, h2.trans n1⟩
theorem cQ.t4 (X : cQ b E T c r) (s : zMS) (hs : s.2.1 = r) (hb : b + 16 ≤ 2 ^ 20) (hE : E + 2 ≤ 2 ^ 20) : ∃ c', cQ (b + 16) (E + 2) T c' (mT4 s).2.1 ∧ cN c' = cN c := by
  subst hs
  have sp := X.sp
  obtain ⟨c1, X1, n1⟩ := cQ.dn (rSp s.2.1) c s b (by omega) (by omega) X
  obtain ⟨c2, X2, n2⟩ := cQ.up (rSp s.2.1) 0 c1 (mDn (rSp s.2.1) s) (b + rSp s.2.1) (by omega) (by omega) X1
  have X2' : cQ (b + 16) E T c2 (mAg s).2.1 := X2.mono (by omega) hb (Nat.le_refl _) X.1.2.2.2.2.2.2.2.2.2 (Nat.le_refl _) X.wt.1
  have X3 : ∃ c3, cQ (b + 16) E T c3 (mLk (mAg s)).2.1 ∧ cN c3 = cN c2 := by
    simp only [mLk]
    split
    · exact ⟨_, X2'.lk, rfl⟩
    · exact ⟨c2, X2', rfl⟩
  obtain ⟨c3, X3, n3⟩ := X3
  obtain ⟨c4, X4, n4⟩ := X3.send (mLk (mAg s)) rfl (z := 0) (by omega) (by omega)
  rw [nI_0] at X4
  obtain ⟨c5, X5, n5⟩ := X4.send (mSe (mLk (mAg s)) 0) rfl (z := 1) (by omega) (by omega)
  rw [show nI 1 = 1 from rfl] at X5
  refine ⟨c5, ?_, by rw [n5, n4, n3, n2, n1]⟩
  rw [mT4]
  exact X5
/-- the model's tick: what it asks holds, and the relation behind it -/
theorem cQ.tk (X : cQ b E T c r) (s : zMS) (hs : s.2.1 = r) (g f : Nat) (hg : 8 ≤ g) (hf : 8 ≤ f) (hb : b + 16 ≤ 2 ^ 20) (hE : E + 2 ≤ 2 ^ 20) (hT : T + 1 ≤ 2 ^ 20) : mTok g f s ∧ ∃ c', cQ (b + 16) (E + 2) (T + 1) c' (mTk g f s).2.1 ∧ cN c' = cN c := by
  obtain ⟨c4, X4, n4⟩ := X.t4 s hs hb hE
  have z8 := X4.nz8
  obtain ⟨m1, m2, m3, c5, X5, n5, -⟩ := cQ.meOk g hg f c4 (mT4 s) X4 (by omega)
  subst hs
  refine ⟨⟨X.ok, X.sk, X.lw, m1⟩, cTk c5, ?_, ?_⟩
  · rw [mTk, X.nn, ← n4, ← n5]
    exact X5.wk (mT6 g f s) rfl hT
  · show (cWt _ (cWt _ c5 _) _).2.2.2.1.2 = _
    rw [(cWt_N _ _ _).1, (cWt_N _ _ _).1]
    exact n5.trans n4
end R8
section CA
variable {l : Launch} {G : zG} {k : t_H} {A : cA} {c : cS} {h : zH} {d mc n b E T : Nat} {r : Nat → Int32} {RX : String → zH → Nat → Prop}
theorem tX2_tick (ht : l.stackTraces = false) (hS : tS G) (D : cD G A (cN c)) (s : zMS) (X : cQ b E T c s.2.1) (g f : Nat) (hg : 8 ≤ g) (hf : 8 ≤ f) (hb : b + 16 ≤ 2 ^ 20) (hE : E + 2 ≤ 2 ^ 20) (hT : T + 1 ≤ 2 ^ 20) (hd : 11 ≤ d) : tC l G d MX2_tick [.ref A.1] (cK G k A c) 24 (tqI tNo fun x k' => x = nI (nAg s) ∧ ∃ c', cQ (b + 16) (E + 2) (T + 1) c' (mTk g f s).2.1 ∧ cN c' = cN c ∧ k' = cK G k A c') := by
  intro h R
  have n40 := X.n40
  have sp := X.sp
  have nn := X.nn
  have hl7 := X.pa.2.2.1
  refine zCt.of kX2_tick ht (by simp [Value.category]) (Nat.le_of_ble_eq_true rfl) ?_
  refine b_X2_tick_0 _ (cGr R rfl (cSizeL ht R D (j := 3) (by omega) (by omega) (by omega) (by omega) fun h1 R1 => cOo R1 (tCall.V R1 (tX2_goOn1 ht hS D s X (by omega) (d := d - 1) (by omega)) (by omega) (by omega) (fun k' h2 R2 w => ?_) (fun E k' h' _ w => w.elim))))
  obtain ⟨c1, X1, n1, rfl⟩ := w
  have D1 : cD G A (cN c1) := by rw [n1]; exact D
  refine cOo R2 (tCall.V R2 (tX2_goOn0 ht hS D1 _ X1 (by omega) (d := d - 1) (by omega)) (by omega) (by omega) (fun k' h3 R3 w => ?_) (fun E k' h' _ w => w.elim))
  obtain ⟨c2, X2, n2, rfl⟩ := w
  have D2 : cD G A (cN c2) := by rw [n2]; exact D1
  have es : rSp (mDn (rSp s.2.1) s).2.1 = rSp s.2.1 := rSp_e (mDn_lo 4 (by omega) (by omega) _ _)
  rw [es] at X2
  have X2' : cQ (b + 16) E T c2 (mAg s).2.1 := X2
  refine cOo R3 (tCall.V R3 (tX2_takeTurns ht D2 (mAg s) X2' (d := d - 1) (by omega)) (by omega) (by omega) (fun k' h4 R4 w => ?_) (fun E k' h' _ w => w.elim))
  obtain ⟨c3, X3, n3, rfl⟩ := w
  have D3 : cD G A (cN c3) := by simp only [cN, n3]; exact D2
  refine cOo R4 (tCall.V R4 (tX2_sends ht hS D3 (mLk (mAg s)) X3 (z := 0) (by omega) (by omega) (d := d - 1) (by omega)) (by omega) (by omega) (fun k' h5 R5 w => ?_) (fun E k' h' _ w => w.elim))
  obtain ⟨c4, X4, n4, rfl⟩ := w
  rw [nI_0] at X4
  have D4 : cD G A (cN c4) := by rw [n4]; exact D3
  refine cOo R5 (tCall.V R5 (tX2_sends ht hS D4 (mSe (mLk (mAg s)) 0) X4 (z := 1) (by omega) (by omega) (d := d - 1) (by omega)) (by omega) (by omega) (fun k' h6 R6 w => ?_) (fun E k' h' _ w => w.elim))
  obtain ⟨c5, X5, n5, rfl⟩ := w
  have D5 : cD G A (cN c5) := by rw [n5]; exact D4
  rw [show nI 1 = 1 from rfl] at X5
  have X5' : cQ (b + 16) (E + 1 + 1) T c5 (mT4 s).2.1 := by rw [mT4]; exact X5
  have z8 := X5'.nz8
  refine cOo R6 (tCall.V R6 (tX2_yieldNoses ht D5 (mT4 s) X5' g f hg (by omega) (d := d - 1) (by omega)) (by omega) (by omega) (fun k' h7 R7 w => ?_) (fun E k' h' _ w => w.elim))
  obtain ⟨c6, X6, n6, -, rfl⟩ := w
  have D6 : cD G A (cN c6) := by rw [n6]; exact D5
  have ew : cL (cWt (cL c6 1) c6 (cL c6 1).length) (1 + 1) = cL c6 2 := by simp only [cL, (cWt_N _ _ _).2]
  have ewN : cN (cWt (cL c6 1) c6 (cL c6 1).length) = cN c6 := by simp only [cN, (cWt_N _ _ _).1]
  have n6c : cN c6 = cN c := by
    have : cN c3 = cN c2 := by simp only [cN, n3]
    rw [n6, n5, n4, this, n2, n1]
  refine cOo R7 (tC.v R7 (tX2_waits ht hS D6 (z := 0) (by omega) X6.n40 (fun q hq => X6.el (by omega) hq) (d := d - 1) (by omega)) (by omega) (by omega) fun h8 R8 => ?_)
  refine cOo R8 (tC.v R8 (tX2_waits (c := cWt (cL c6 1) c6 (cL c6 1).length) ht hS (by rw [ewN]; exact D6) (z := 1) (by omega) (by rw [ewN]; exact X6.n40) (fun q hq => by rw [ew] at hq ⊢; rw [ewN]; exact X6.el (z := 1) (by omega) hq) (d := d - 1) (by omega)) (by omega) (by omega) fun h9 R9 => ?_)
  rw [ew] at R9
  have fin := X6.wk (mT6 g f s) rfl hT
  rw [n6c, ← nn] at fin
  have fin2 : cQ (b + 16) (E + 2) (T + 1) (cTk c6) (mTk g f s).2.1 := fin
  have DT : cD G A (cN (cWt (cL c6 2) (cWt (cL c6 1) c6 (cL c6 1).length) (cL c6 2).length)) := by
    have : cN (cWt (cL c6 2) (cWt (cL c6 1) c6 (cL c6 1).length) (cL c6 2).length) = cN c6 := by simp only [cN, (cWt_N _ _ _).1]
    rw [this]; exact D6
  refine cGi R9 (j := 10) (x := c6.1 10) (by show Value.int ((cWt _ _ _).1 10) = _; rw [(cWt_1 _ _ _).1, (cWt_1 _ _ _).1]) (cPf R9 DT rfl fun h10 R10 => cGr R10 rfl (cSizeL (c := cTk c6) ht R10 DT (j := 3) (by omega) (by omega) (by omega) (by omega) fun h11 R11 => ⟨by omega, _, R11, ?_, cTk c6, fin2, ?_, rfl⟩))
  · have h2 := fin2.pa.2.2.1
    rw [mTk_7, hl7] at h2
    rw [← h2, Int32.add_comm, Int32.add_sub_cancel]
  · show (cWt _ (cWt _ c6 _) _).2.2.2.1.2 = _
    rw [(cWt_N _ _ _).1, (cWt_N _ _ _).1]
    exact n6c
end CA
