/-! steps that keep the relation: a cart moves on, comes back, passes, is sent -/
section R6
variable {b b' E T : Nat} {c c' : cS} {r r' : Nat → Int32}
theorem qHdr.same (h : qHdr b E T c r) (hc : c'.1 = c.1) (hN : cN c' = cN c) (hr : ∀ j, j < 11 → j ≠ 7 → j ≠ 8 → r' j = r j) (hb : b' ≤ 2 ^ 20) : qHdr b' E T c' r' := by
  have hs : rSp r' = rSp r := rSp_e (hr 4 (by omega) (by omega) (by omega))
  obtain ⟨a1, a2, a3, a4, a5, a6, a7, a8, a9, a10⟩ := h
  unfold qHdr rLw
  rw [hs, hc, hN, hr 0 (by omega) (by omega) (by omega), hr 1 (by omega) (by omega) (by omega), hr 2 (by omega) (by omega) (by omega), hr 3 (by omega) (by omega) (by omega), hr 4 (by omega) (by omega) (by omega), hr 5 (by omega) (by omega) (by omega), hr 6 (by omega) (by omega) (by omega), hr 9 (by omega) (by omega) (by omega), hr 10 (by omega) (by omega) (by omega)]
  exact ⟨a1, a2, a3, a4, a5, a6, a7, a8, hb, a10⟩
theorem qRow.same2 {z : Nat} (h : qRow c r z) (hN : cN c' = cN c) (hL : cL c' (1 + z) = cL c (1 + z)) (hm : ∀ i, i < cN c → ((rc r' i 2 = 0 ∧ rc r' i 0 = nI z) ↔ (rc r i 2 = 0 ∧ rc r i 0 = nI z))) (hk : ∀ i, i < cN c → rc r i 2 = 0 → rc r i 0 = nI z → rc r' i 8 = rc r i 8) : qRow c' r' z := by
  unfold qRow
  rw [hN, hL]
  refine ⟨fun i => ?_, ?_⟩
  · rw [h.1 i]
    exact ⟨fun ⟨g1, g2⟩ => ⟨g1, (hm i g1).mpr g2⟩, fun ⟨g1, g2⟩ => ⟨g1, (hm i g1).mp g2⟩⟩
  · refine List.Pairwise.imp_of_mem ?_ h.2
    intro i i' hi hi' hlt
    have q := (h.1 i).mp hi
    have q' := (h.1 i').mp hi'
    rw [hk i q.1 q.2.1 q.2.2, hk i' q'.1 q'.2.1 q'.2.2]; exact hlt
theorem qPas.same2 (h : qPas c r) (hN : cN c' = cN c) (hL : cL c' 3 = cL c 3) (h7 : r' 7 = r 7) (hm : ∀ i, i < cN c → (rc r' i 2 = 2 ↔ rc r i 2 = 2)) (hk : ∀ i, i < cN c → rc r i 2 = 2 → rc r' i 9 = rc r i 9) : qPas c' r' := by
  unfold qPas
  rw [hN, hL, h7]
  refine ⟨fun i => ?_, h.2.1, h.2.2.1, fun q hq => ?_⟩
  · rw [h.1 i]
    exact ⟨fun ⟨g1, g2⟩ => ⟨g1, (hm i g1).mpr g2⟩, fun ⟨g1, g2⟩ => ⟨g1, (hm i g1).mp g2⟩⟩
  · have hx := (h.1 _).mp (getD_mem hq)
    rw [hk _ hx.1 hx.2]; exact h.2.2.2 q hq
theorem qLef.same2 (h : qLef c r) (hN : cN c' = cN c) (h8 : r' 8 = r 8) (hm : ∀ i, i < cN c → (rc r' i 2 = 3 ↔ rc r i 2 = 3)) : qLef c' r' := by
  unfold qLef
  rw [hN, h8, h]
  congr 1
  exact zcnt_congr fun i hi => by
    rw [Bool.eq_iff_iff, beq_iff_eq, beq_iff_eq]
    exact (hm i hi).symm
/-- a key below all, above all, of a row -/
theorem key_lo (hv : ∀ i, i < cN c → qVal b r i) (hb : b ≤ 2 ^ 20) (x : Int32) : ∀ n, n ≤ cN c → (zfo (rKef r x 1) 0 n).toInt ≤ 0 ∧ -((b : Int) + 1) ≤ (zfo (rKef r x 1) 0 n).toInt ∧ ∀ k, k < n → rwa r k x = true → (zfo (rKef r x 1) 0 n).toInt < (rc r k 8).toInt
  | 0, _ => ⟨by show (0 : Int32).toInt ≤ 0; decide, by show -((b : Int) + 1) ≤ 0; omega, fun k hk => by omega⟩
  | n + 1, h => by
    obtain ⟨h1, h2, h3⟩ := key_lo hv hb x n (by omega)
    rw [zfo]
    generalize zfo (rKef r x 1) 0 n = a at *
    rw [rKef]
    cases hw : rwa r n x with
    | false =>
      simp only [Bool.false_eq_true, if_false]
      refine ⟨h1, h2, fun k hk hk2 => ?_⟩
      by_cases e : k = n
      · subst e; rw [hw] at hk2; cases hk2
      · exact h3 k (by omega) hk2
    | true =>
      simp only [if_true]
      rw [if_neg (by decide)]
      have hwt : rc r n 2 = 0 := by simp only [rwa, Bool.and_eq_true, beq_iff_eq] at hw; exact hw.1
      obtain ⟨k1, k2⟩ := (hv n (by omega)).2.2.2.2.2 hwt
      by_cases q : a < rc r n 8
      · rw [if_pos q]
        refine ⟨h1, h2, fun k hk hk2 => ?_⟩
        by_cases e : k = n
        · subst e; exact Int32.lt_iff_toInt_lt.mp q
        · exact h3 k (by omega) hk2
      · rw [if_neg q]
        have q2 : (rc r n 8).toInt ≤ a.toInt := by
          have := Int32.not_lt.mp q
          exact Int32.le_iff_toInt_le.mp this
        have e : (rc r n 8 - 1).toInt = (rc r n 8).toInt - 1 := by
          rw [Int32.toInt_sub, show (1 : Int32).toInt = 1 by decide]
          exact Int.bmod_eq_of_le (by omega) (by omega)
        rw [e]
        refine ⟨by omega, by omega, fun k hk hk2 => ?_⟩
        by_cases e : k = n
        · subst e; omega
        · have := h3 k (by omega) hk2; omega
theorem key_hi (hv : ∀ i, i < cN c → qVal b r i) (hb : b ≤ 2 ^ 20) (x : Int32) : ∀ n, n ≤ cN c → 0 ≤ (zfo (rKef r x 0) 0 n).toInt ∧ (zfo (rKef r x 0) 0 n).toInt ≤ (b : Int) + 1 ∧ ∀ k, k < n → rwa r k x = true → (rc r k 8).toInt < (zfo (rKef r x 0) 0 n).toInt
  | 0, _ => ⟨by show 0 ≤ (0 : Int32).toInt; decide, by show 0 ≤ (b : Int) + 1; omega, fun k hk => by omega⟩
  | n + 1, h => by
    obtain ⟨h1, h2, h3⟩ := key_hi hv hb x n (by omega)
    rw [zfo]
    generalize zfo (rKef r x 0) 0 n = a at *
    rw [rKef]
    cases hw : rwa r n x with
    | false =>
      simp only [Bool.false_eq_true, if_false]
      refine ⟨h1, h2, fun k hk hk2 => ?_⟩
      by_cases e : k = n
      · subst e; rw [hw] at hk2; cases hk2
      · exact h3 k (by omega) hk2
    | true =>
      simp only [if_true]
      have hwt : rc r n 2 = 0 := by simp only [rwa, Bool.and_eq_true, beq_iff_eq] at hw; exact hw.1
      obtain ⟨k1, k2⟩ := (hv n (by omega)).2.2.2.2.2 hwt
      by_cases q : rc r n 8 < a
      · rw [if_pos q]
        refine ⟨h1, h2, fun k hk hk2 => ?_⟩
        by_cases e : k = n
        · subst e; exact Int32.lt_iff_toInt_lt.mp q
        · exact h3 k (by omega) hk2
      · rw [if_neg q]
        have q2 : a.toInt ≤ (rc r n 8).toInt := by
          have := Int32.not_lt.mp q
          exact Int32.le_iff_toInt_le.mp this
        have e : (rc r n 8 + 1).toInt = (rc r n 8).toInt + 1 := by
          rw [Int32.toInt_add, show (1 : Int32).toInt = 1 by decide]
          exact Int.bmod_eq_of_le (by omega) (by omega)
        rw [e]
        refine ⟨by omega, by omega, fun k hk hk2 => ?_⟩
        by_cases e : k = n
        · subst e; omega
        · have := h3 k (by omega) hk2; omega
/-- the new row of a model's cart: how its places read -/
theorem rc_z (r : Nat → Int32) (k w : Nat) (v : Int32) (hw : w < 10) : rc (zuf r (11 + 10 * k + w) v) k w = v := by rw [rc_up _ _ _ _ _ _ hw hw, if_pos ⟨rfl, rfl⟩]
theorem rc_w (r : Nat → Int32) (k w w' : Nat) (v : Int32) (hw : w < 10) (hw' : w' < 10) (h : w' ≠ w) (i : Nat) : rc (zuf r (11 + 10 * k + w) v) i w' = rc r i w' := by rw [rc_up _ _ _ _ _ _ hw hw', if_neg (fun q => h q.2)]
theorem rc_k (r : Nat → Int32) {i k : Nat} (w w' : Nat) (v : Int32) (hw : w < 10) (hw' : w' < 10) (h : i ≠ k) : rc (zuf r (11 + 10 * k + w) v) i w' = rc r i w' := by rw [rc_up _ _ _ _ _ _ hw hw', if_neg (fun q => h q.1)]
/-- a cart moves to a free span -/
def cMv (c : cS) (i j j2 : Nat) : cS := cSc (cSb (cSb c j (-1)) j2 (nI i)) i 5 (nI j2)
theorem cQ.mv (X : cQ b E T c r) {i j j2 : Nat} (hi : i < cN c) (hon : rc r i 2 = 1) (hj : rc r i 3 = nI j) (j8 : j < rSp r) (j28 : j2 < rSp r) (hfree : cB c j2 = -1) : cQ b E T (cMv c i j j2) (zuf r (11 + 10 * i + 3) (nI j2)) := by
  have n40 := X.n40
  have sp := X.sp
  have hocc : cB c j = nI i := by
    obtain ⟨j', g1, g2, g3⟩ := X.oc.1 i hi hon
    have : j' = j := nI_inj (by omega) (by omega) (g2.symm.trans hj)
    rw [← this]; exact g3
  have hjj : j ≠ j2 := by intro e; rw [← e, hocc] at hfree; exact zn1 (by omega) hfree
  have hh : ∀ q, q < 11 → zuf r (11 + 10 * i + 3) (nI j2) q = r q := fun q hq => hd_up r i 3 _ q hq
  have ho : ∀ i' w, w < 10 → w ≠ 3 → rc (zuf r (11 + 10 * i + 3) (nI j2)) i' w = rc r i' w := fun i' w hw h3 => rc_w r i 3 w _ (by omega) hw h3 i'
  have hs : rSp (zuf r (11 + 10 * i + 3) (nI j2)) = rSp r := rSp_e (hh 4 (by omega))
  have hgne : ∀ i', i' ≠ i → cG (cMv c i j j2) i' = cG c i' := fun i' h => cSc_ne _ _ _ h
  have hB : ∀ q, cB (cMv c i j j2) q = if q = j2 then nI i else if q = j then -1 else cB c q := fun q => rfl
  refine ⟨X.1.same rfl rfl (fun q hq _ _ => hh q hq) X.1.2.2.2.2.2.2.2.2.1, fun i' hi' => ?_, fun i' hi' => ?_, ⟨fun i' hi' hon' => ?_, fun q hq => ?_⟩, (X.row (z := 0) (by omega)).same rfl rfl (fun i' _ => ⟨ho _ _ (by omega) (by omega), ho _ _ (by omega) (by omega), ho _ _ (by omega) (by omega)⟩), (X.row (z := 1) (by omega)).same rfl rfl (fun i' _ => ⟨ho _ _ (by omega) (by omega), ho _ _ (by omega) (by omega), ho _ _ (by omega) (by omega)⟩), X.pa.same rfl rfl (hh 7 (by omega)) (fun i' _ => ⟨ho _ _ (by omega) (by omega), ho _ _ (by omega) (by omega)⟩), X.le.same rfl (hh 8 (by omega)) (fun i' _ => ho _ _ (by omega) (by omega)), X.wt.same rfl (fun i' _ => ho _ _ (by omega) (by omega))⟩
  · by_cases e : i' = i
    · subst e
      obtain ⟨b0, b1, b2, b3, b4, b5, b6, b7, b8, b9⟩ := X.ca hi
      have hg : cG (cMv c i' j j2) i' = zuf (cG c i') 5 (nI j2) := cSc_at _ _ _ _
      unfold qCart
      rw [hg, ho i' 0 (by omega) (by omega), ho i' 1 (by omega) (by omega), ho i' 2 (by omega) (by omega), ho i' 4 (by omega) (by omega), ho i' 5 (by omega) (by omega), ho i' 6 (by omega) (by omega), ho i' 7 (by omega) (by omega), rc_z r i' 3 _ (by omega), hh 1 (by omega)]
      exact ⟨b0, b1, b2, b3, b4, rfl, b6, b7, b8, b9⟩
    · exact (X.ca hi').same (hgne i' e) (fun w hw => rc_k r 3 w _ (by omega) hw e) (hh 1 (by omega))
  · by_cases e : i' = i
    · subst e
      obtain ⟨b0, b1, b2, b3, b4, b5⟩ := X.va hi
      unfold qVal
      rw [ho i' 0 (by omega) (by omega), ho i' 1 (by omega) (by omega), ho i' 2 (by omega) (by omega), ho i' 4 (by omega) (by omega), ho i' 8 (by omega) (by omega)]
      exact ⟨b0, b1, b2, fun h => absurd hon h, b4, b5⟩
    · exact (X.va hi').same (fun w hw => rc_k r 3 w _ (by omega) hw e)
  · rw [ho i' 2 (by omega) (by omega)] at hon'
    rw [hs]
    by_cases e : i' = i
    · subst e
      exact ⟨j2, j28, rc_z r i' 3 _ (by omega), by rw [hB, if_pos rfl]⟩
    · obtain ⟨j', g1, g2, g3⟩ := X.oc.1 i' hi' hon'
      refine ⟨j', g1, by rw [rc_k r 3 3 _ (by omega) (by omega) e]; exact g2, ?_⟩
      rw [hB, if_neg (by intro q; rw [q, hfree] at g3; exact zn1 (by have : cN (cMv c i j j2) = cN c := rfl; omega) g3.symm), if_neg (by
        intro q; rw [q, hocc] at g3
        exact e (nI_inj (by have : cN (cMv c i j j2) = cN c := rfl; omega) (by omega) g3.symm))]
      exact g3
  · rw [hB]
    by_cases e : q = j2
    · rw [if_pos e]
      exact Or.inr ⟨i, hi, rfl, by rw [ho i 2 (by omega) (by omega)]; exact hon, by rw [rc_z r i 3 _ (by omega), e]⟩
    · rw [if_neg e]
      by_cases e2 : q = j
      · rw [if_pos e2]; exact Or.inl rfl
      · rw [if_neg e2]
        rcases X.oc.2 q hq with w | ⟨i', g1, g2, g3, g4⟩
        · exact Or.inl w
        · have hne : i' ≠ i := by
            intro z; rw [z, hj] at g4
            exact e2 (nI_inj (by omega) (by omega) g4.symm)
          exact Or.inr ⟨i', g1, g2, by rw [ho i' 2 (by omega) (by omega)]; exact g3, by rw [rc_k r 3 3 _ (by omega) (by omega) hne]; exact g4⟩
/-- a cart comes back to its row -/
def cBk (c : cS) (i j z : Nat) : cS := cSl (cSc (cSc (cSc (cSc (cSb c j (-1)) i 5 (-1)) i 6 (-1)) i 4 0) i 9 (c.1 10)) (1 + z) ((c.2.2.1 (1 + z)).1 + 1) (i :: cL c (1 + z))
def rBkw (r : Nat → Int32) (i : Nat) (x : Int32) : Nat → Int32 := zuf (zuf (zuf r (11 + 10 * i + 3) (-1)) (11 + 10 * i + 2) 0) (11 + 10 * i + 8) (rKe r x 1)
theorem cQ.bk (X : cQ b E T c r) {i j z : Nat} (hi : i < cN c) (hon : rc r i 2 = 1) (hj : rc r i 3 = nI j) (j8 : j < rSp r) (hz : z ≤ 1) (hside : rc r i 0 = nI z) (hb : b + 1 ≤ 2 ^ 20) : cQ (b + 1) E T (cBk c i j z) (rBkw r i (nI z)) := by
  have n40 := X.n40
  have sp := X.sp
  have nn := X.nn
  have hocc : cB c j = nI i := by
    obtain ⟨j', g1, g2, g3⟩ := X.oc.1 i hi hon
    have : j' = j := nI_inj (by omega) (by omega) (g2.symm.trans hj)
    rw [← this]; exact g3
  obtain ⟨k1, k2, k3⟩ := key_lo X.2.2.1 (by omega) (nI z) (cN c) (Nat.le_refl _)
  have hkey : rKe r (nI z) 1 = zfo (rKef r (nI z) 1) 0 (cN c) := by rw [rKe, nn]
  rw [← hkey] at k1 k2 k3
  have hh : ∀ q, q < 11 → rBkw r i (nI z) q = r q := fun q hq => by rw [rBkw, hd_up _ _ _ _ _ hq, hd_up _ _ _ _ _ hq, hd_up _ _ _ _ _ hq]
  have ho : ∀ i' w, w < 10 → w ≠ 2 → w ≠ 3 → w ≠ 8 → rc (rBkw r i (nI z)) i' w = rc r i' w := fun i' w hw h2 h3 h8 => by
    rw [rBkw, rc_w _ _ _ _ _ (by omega) hw h8, rc_w _ _ _ _ _ (by omega) hw h2, rc_w _ _ _ _ _ (by omega) hw h3]
  have hk : ∀ i' w, w < 10 → i' ≠ i → rc (rBkw r i (nI z)) i' w = rc r i' w := fun i' w hw h => by
    rw [rBkw, rc_k _ _ _ _ (by omega) hw h, rc_k _ _ _ _ (by omega) hw h, rc_k _ _ _ _ (by omega) hw h]
  have e2 : rc (rBkw r i (nI z)) i 2 = 0 := by rw [rBkw, rc_w _ _ _ _ _ (by omega) (by omega) (by omega), rc_z _ _ _ _ (by omega)]
  have e3 : rc (rBkw r i (nI z)) i 3 = -1 := by rw [rBkw, rc_w _ _ _ _ _ (by omega) (by omega) (by omega), rc_w _ _ _ _ _ (by omega) (by omega) (by omega), rc_z _ _ _ _ (by omega)]
  have e8 : rc (rBkw r i (nI z)) i 8 = rKe r (nI z) 1 := by rw [rBkw, rc_z _ _ _ _ (by omega)]
  have hs : rSp (rBkw r i (nI z)) = rSp r := rSp_e (hh 4 (by omega))
  have hgne : ∀ i', i' ≠ i → cG (cBk c i j z) i' = cG c i' := fun i' h => by
    show cG (cSc (cSc (cSc (cSc (cSb c j (-1)) i 5 (-1)) i 6 (-1)) i 4 0) i 9 (c.1 10)) i' = _
    rw [cSc_ne _ _ _ h, cSc_ne _ _ _ h, cSc_ne _ _ _ h, cSc_ne _ _ _ h]; rfl
  have hge : cG (cBk c i j z) i = zuf (zuf (zuf (zuf (cG c i) 5 (-1)) 6 (-1)) 4 0) 9 (c.1 10) := by
    show cG (cSc (cSc (cSc (cSc (cSb c j (-1)) i 5 (-1)) i 6 (-1)) i 4 0) i 9 (c.1 10)) i = _
    rw [cSc_at, cSc_at, cSc_at, cSc_at]; rfl
  have hB : ∀ q, cB (cBk c i j z) q = if q = j then -1 else cB c q := fun q => rfl
  have hLz : cL (cBk c i j z) (1 + z) = i :: cL c (1 + z) := by simp [cBk, cSl, cL]
  have hLo : ∀ q, q ≠ 1 + z → cL (cBk c i j z) q = cL c q := fun q hq => by simp [cBk, cSl, cL, hq, cSc, cSb]
  have hnotin : ¬ i ∈ cL c (1 + z) := by
    intro q
    have := ((X.row hz).1 i).mp q
    rw [hon] at this; exact absurd this.2.1 (by decide)
  have rowz : qRow (cBk c i j z) (rBkw r i (nI z)) z := by
    unfold qRow
    rw [hLz]
    refine ⟨fun i' => ?_, List.pairwise_cons.mpr ⟨fun i' hi' => ?_, ?_⟩⟩
    · rw [List.mem_cons]
      by_cases e : i' = i
      · subst e
        rw [e2, ho i' 0 (by omega) (by omega) (by omega) (by omega)]
        exact ⟨fun _ => ⟨hi, rfl, hside⟩, fun _ => Or.inl rfl⟩
      · rw [hk i' 2 (by omega) e, hk i' 0 (by omega) e, (X.row hz).1 i']
        exact ⟨fun q => q.resolve_left e, Or.inr⟩
    · have hm := ((X.row hz).1 i').mp hi'
      rw [e8, hk i' 8 (by omega) (by intro q; rw [q] at hi'; exact hnotin hi')]
      exact k3 i' hm.1 (by simp [rwa, hm.2.1, hm.2.2])
    · refine List.Pairwise.imp_of_mem ?_ (X.row hz).2
      intro a a' ha ha' hlt
      rw [hk a 8 (by omega) (by intro q; rw [q] at ha; exact hnotin ha), hk a' 8 (by omega) (by intro q; rw [q] at ha'; exact hnotin ha')]
      exact hlt
  have rowo : ∀ z', z' ≤ 1 → z' ≠ z → qRow (cBk c i j z) (rBkw r i (nI z)) z' := by
    intro z' hz' hne
    refine (X.row hz').same2 rfl (hLo _ (by omega)) (fun i' hi' => ?_) (fun i' hi' h2 _ => ?_)
    · by_cases e : i' = i
      · subst e
        rw [e2, hon, ho i' 0 (by omega) (by omega) (by omega) (by omega), hside]
        have : nI z ≠ nI z' := fun q => hne (nI_inj (by omega) (by omega) q).symm
        exact ⟨fun q => absurd q.2 this, fun q => absurd q.2 this⟩
      · rw [hk i' 2 (by omega) e, hk i' 0 (by omega) e]
    · exact hk i' 8 (by omega) (by intro q; rw [q, hon] at h2; exact absurd h2 (by decide))
  refine ⟨X.1.same rfl rfl (fun q hq _ _ => hh q hq) hb, fun i' hi' => ?_, fun i' hi' => ?_, ⟨fun i' hi' hon' => ?_, fun q hq => ?_⟩, ?_, ?_, X.pa.same2 rfl (hLo 3 (by omega)) (hh 7 (by omega)) (fun i' hi' => ?_) (fun i' hi' h2 => ho i' 9 (by omega) (by omega) (by omega) (by omega)), X.le.same2 rfl (hh 8 (by omega)) (fun i' hi' => ?_), X.wt.same rfl (fun i' _ => ho i' 7 (by omega) (by omega) (by omega) (by omega))⟩
  · by_cases e : i' = i
    · subst e
      obtain ⟨b0, b1, b2, b3, b4, b5, b6, b7, b8, b9⟩ := X.ca hi
      rw [if_neg (by rw [hon]; decide)] at b9
      unfold qCart
      rw [hge, ho i' 0 (by omega) (by omega) (by omega) (by omega), ho i' 1 (by omega) (by omega) (by omega) (by omega), e2, e3, ho i' 5 (by omega) (by omega) (by omega) (by omega), ho i' 6 (by omega) (by omega) (by omega) (by omega), ho i' 7 (by omega) (by omega) (by omega) (by omega), hh 1 (by omega), if_neg (by decide), if_pos rfl]
      refine ⟨b0, b1, b2, b3, rfl, rfl, rfl, b7, b8, ?_⟩
      show cG c i' 10 + r 1 - c.1 10 = _
      rw [X.1.2.2.1.2.2.2.2.2.1, Int32.add_sub_cancel]; exact b9
    · exact (X.ca hi').same (hgne i' e) (fun w hw => hk i' w hw e) (hh 1 (by omega))
  · by_cases e : i' = i
    · subst e
      obtain ⟨b0, b1, b2, b3, b4, b5⟩ := X.va hi
      unfold qVal
      rw [ho i' 0 (by omega) (by omega) (by omega) (by omega), ho i' 1 (by omega) (by omega) (by omega) (by omega), e2, e3, e8]
      exact ⟨b0, Or.inl rfl, fun q => absurd q (by decide), fun _ => rfl, b4, fun _ => ⟨by omega, by omega⟩⟩
    · exact ((X.va hi').same (fun w hw => hk i' w hw e)).mono (by omega)
  · have hi'' : i' < cN c := hi'
    by_cases e : i' = i
    · subst e; rw [e2] at hon'; exact absurd hon' (by decide)
    · rw [hk i' 2 (by omega) e] at hon'
      obtain ⟨j', g1, g2, g3⟩ := X.oc.1 i' hi' hon'
      refine ⟨j', by rw [hs]; exact g1, by rw [hk i' 3 (by omega) e]; exact g2, ?_⟩
      rw [hB, if_neg (by
        intro q; rw [q, hocc] at g3
        exact e (nI_inj (by omega) (by omega) g3.symm))]
      exact g3
  · rw [hB]
    by_cases e : q = j
    · rw [if_pos e]; exact Or.inl rfl
    · rw [if_neg e]
      rcases X.oc.2 q hq with w | ⟨i', g1, g2, g3, g4⟩
      · exact Or.inl w
      · have hne : i' ≠ i := by
          intro z; rw [z, hj] at g4
          exact e (nI_inj (by omega) (by omega) g4.symm)
        exact Or.inr ⟨i', g1, g2, by rw [hk i' 2 (by omega) hne]; exact g3, by rw [hk i' 3 (by omega) hne]; exact g4⟩
  · rcases Nat.eq_zero_or_pos z with w | w
    · subst w; exact rowz
    · exact rowo 0 (by omega) (by omega)
  · rcases Nat.eq_zero_or_pos z with w | w
    · exact rowo 1 (by omega) (by omega)
    · obtain rfl : z = 1 := by omega
      exact rowz
  · by_cases e : i' = i
    · subst e; rw [e2, hon]; exact ⟨fun q => absurd q (by decide), fun q => absurd q (by decide)⟩
    · rw [hk i' 2 (by omega) e]
  · by_cases e : i' = i
    · subst e; rw [e2, hon]; exact ⟨fun q => absurd q (by decide), fun q => absurd q (by decide)⟩
    · rw [hk i' 2 (by omega) e]
/-- a cart has passed -/
def cPs (c : cS) (i j : Nat) : cS := cSl (cSc (cSc (cSc (cSb c j (-1)) i 5 (-1)) i 6 (-1)) i 4 2) 3 ((c.2.2.1 3).1 + 1) (cL c 3 ++ [i])
def rPs (r : Nat → Int32) (i : Nat) : Nat → Int32 := zuf (zuf (zuf (zuf r (11 + 10 * i + 3) (-1)) (11 + 10 * i + 2) 2) (11 + 10 * i + 9) (r 7)) 7 (r 7 + 1)
theorem cQ.ps (X : cQ b E T c r) {i j : Nat} (hi : i < cN c) (hon : rc r i 2 = 1) (hj : rc r i 3 = nI j) (j8 : j < rSp r) : cQ b E T (cPs c i j) (rPs r i) := by
  have n40 := X.n40
  have sp := X.sp
  have hocc : cB c j = nI i := by
    obtain ⟨j', g1, g2, g3⟩ := X.oc.1 i hi hon
    have : j' = j := nI_inj (by omega) (by omega) (g2.symm.trans hj)
    rw [← this]; exact g3
  have hh : ∀ q, q < 11 → q ≠ 7 → rPs r i q = r q := fun q hq h7 => by
    rw [rPs]
    show (if q = 7 then _ else _) = _
    rw [if_neg h7, hd_up _ _ _ _ _ hq, hd_up _ _ _ _ _ hq, hd_up _ _ _ _ _ hq]
  have h7 : rPs r i 7 = r 7 + 1 := by
    rw [rPs]
    show (if (7 : Nat) = 7 then r 7 + 1 else _) = _
    exact if_pos rfl
  have ho : ∀ i' w, w < 10 → w ≠ 2 → w ≠ 3 → w ≠ 9 → rc (rPs r i) i' w = rc r i' w := fun i' w hw h2 h3 h9 => by
    rw [rPs, rc_hd _ _ _ _ _ (by omega), rc_w _ _ _ _ _ (by omega) hw h9, rc_w _ _ _ _ _ (by omega) hw h2, rc_w _ _ _ _ _ (by omega) hw h3]
  have hk : ∀ i' w, w < 10 → i' ≠ i → rc (rPs r i) i' w = rc r i' w := fun i' w hw h => by
    rw [rPs, rc_hd _ _ _ _ _ (by omega), rc_k _ _ _ _ (by omega) hw h, rc_k _ _ _ _ (by omega) hw h, rc_k _ _ _ _ (by omega) hw h]
  have e2 : rc (rPs r i) i 2 = 2 := by rw [rPs, rc_hd _ _ _ _ _ (by omega), rc_w _ _ _ _ _ (by omega) (by omega) (by omega), rc_z _ _ _ _ (by omega)]
  have e3 : rc (rPs r i) i 3 = -1 := by rw [rPs, rc_hd _ _ _ _ _ (by omega), rc_w _ _ _ _ _ (by omega) (by omega) (by omega), rc_w _ _ _ _ _ (by omega) (by omega) (by omega), rc_z _ _ _ _ (by omega)]
  have e9 : rc (rPs r i) i 9 = r 7 := by rw [rPs, rc_hd _ _ _ _ _ (by omega), rc_z _ _ _ _ (by omega)]
  have hs : rSp (rPs r i) = rSp r := rSp_e (hh 4 (by omega) (by omega))
  have hgne : ∀ i', i' ≠ i → cG (cPs c i j) i' = cG c i' := fun i' h => by
    show cG (cSc (cSc (cSc (cSb c j (-1)) i 5 (-1)) i 6 (-1)) i 4 2) i' = _
    rw [cSc_ne _ _ _ h, cSc_ne _ _ _ h, cSc_ne _ _ _ h]; rfl
  have hge : cG (cPs c i j) i = zuf (zuf (zuf (cG c i) 5 (-1)) 6 (-1)) 4 2 := by
    show cG (cSc (cSc (cSc (cSb c j (-1)) i 5 (-1)) i 6 (-1)) i 4 2) i = _
    rw [cSc_at, cSc_at, cSc_at]; rfl
  have hB : ∀ q, cB (cPs c i j) q = if q = j then -1 else cB c q := fun q => rfl
  have hL3 : cL (cPs c i j) 3 = cL c 3 ++ [i] := by simp [cPs, cSl, cL]
  have hLo : ∀ q, q ≠ 3 → cL (cPs c i j) q = cL c q := fun q hq => by simp [cPs, cSl, cL, hq, cSc, cSb]
  have hnotin : ¬ i ∈ cL c 3 := by
    intro q
    have := (X.pa.1 i).mp q
    rw [hon] at this; exact absurd this.2 (by decide)
  have rowo : ∀ z', z' ≤ 1 → qRow (cPs c i j) (rPs r i) z' := by
    intro z' hz'
    refine (X.row hz').same2 rfl (hLo _ (by omega)) (fun i' hi' => ?_) (fun i' hi' h2 _ => ?_)
    · by_cases e : i' = i
      · subst e
        rw [e2, hon]
        exact ⟨fun q => absurd q.1 (by decide), fun q => absurd q.1 (by decide)⟩
      · rw [hk i' 2 (by omega) e, hk i' 0 (by omega) e]
    · exact hk i' 8 (by omega) (by intro q; rw [q, hon] at h2; exact absurd h2 (by decide))
  refine ⟨X.1.same rfl rfl (fun q hq h7 _ => hh q hq h7) X.1.2.2.2.2.2.2.2.2.1, fun i' hi' => ?_, fun i' hi' => ?_, ⟨fun i' hi' hon' => ?_, fun q hq => ?_⟩, rowo 0 (by omega), rowo 1 (by omega), ?_, X.le.same2 rfl (hh 8 (by omega) (by omega)) (fun i' hi' => ?_), X.wt.same rfl (fun i' _ => ho i' 7 (by omega) (by omega) (by omega) (by omega))⟩
  · by_cases e : i' = i
    · subst e
      obtain ⟨b0, b1, b2, b3, b4, b5, b6, b7, b8, b9⟩ := X.ca hi
      rw [if_neg (by rw [hon]; decide)] at b9
      unfold qCart
      rw [hge, ho i' 0 (by omega) (by omega) (by omega) (by omega), ho i' 1 (by omega) (by omega) (by omega) (by omega), e2, e3, ho i' 5 (by omega) (by omega) (by omega) (by omega), ho i' 6 (by omega) (by omega) (by omega) (by omega), ho i' 7 (by omega) (by omega) (by omega) (by omega), hh 1 (by omega) (by omega), if_neg (by decide), if_neg (by decide)]
      exact ⟨b0, b1, b2, b3, rfl, rfl, rfl, b7, b8, b9⟩
    · exact (X.ca hi').same (hgne i' e) (fun w hw => hk i' w hw e) (hh 1 (by omega) (by omega))
  · by_cases e : i' = i
    · subst e
      obtain ⟨b0, b1, b2, b3, b4, b5⟩ := X.va hi
      unfold qVal
      rw [ho i' 0 (by omega) (by omega) (by omega) (by omega), ho i' 1 (by omega) (by omega) (by omega) (by omega), e2, e3]
      exact ⟨b0, Or.inr (Or.inr (Or.inl rfl)), fun q => absurd q (by decide), fun _ => rfl, b4, fun q => absurd q (by decide)⟩
    · exact (X.va hi').same (fun w hw => hk i' w hw e)
  · have hi'' : i' < cN c := hi'
    by_cases e : i' = i
    · subst e; rw [e2] at hon'; exact absurd hon' (by decide)
    · rw [hk i' 2 (by omega) e] at hon'
      obtain ⟨j', g1, g2, g3⟩ := X.oc.1 i' hi' hon'
      refine ⟨j', by rw [hs]; exact g1, by rw [hk i' 3 (by omega) e]; exact g2, ?_⟩
      rw [hB, if_neg (by
        intro q; rw [q, hocc] at g3
        exact e (nI_inj (by omega) (by omega) g3.symm))]
      exact g3
  · rw [hB]
    by_cases e : q = j
    · rw [if_pos e]; exact Or.inl rfl
    · rw [if_neg e]
      rcases X.oc.2 q hq with w | ⟨i', g1, g2, g3, g4⟩
      · exact Or.inl w
      · have hne : i' ≠ i := by
          intro z; rw [z, hj] at g4
          exact e (nI_inj (by omega) (by omega) g4.symm)
        exact Or.inr ⟨i', g1, g2, by rw [hk i' 2 (by omega) hne]; exact g3, by rw [hk i' 3 (by omega) hne]; exact g4⟩
  · unfold qPas
    rw [hL3, h7, List.length_append, List.length_singleton]
    refine ⟨fun i' => ?_, ?_, ?_, fun q hq => ?_⟩
    · rw [List.mem_append, List.mem_singleton]
      by_cases e : i' = i
      · subst e
        rw [e2]
        exact ⟨fun _ => ⟨hi, rfl⟩, fun _ => Or.inr rfl⟩
      · rw [hk i' 2 (by omega) e, X.pa.1 i']
        exact ⟨fun q => q.resolve_right e, Or.inl⟩
    · rw [List.nodup_append]
      refine ⟨X.pa.2.1, List.pairwise_singleton _ _, fun x hx y hy e => ?_⟩
      rw [List.mem_singleton.mp hy] at e
      rw [e] at hx; exact hnotin hx
    · rw [X.pa.2.2.1, nI_1]
    · rw [List.getD_eq_getElem?_getD]
      by_cases w : q < (cL c 3).length
      · rw [List.getElem?_append_left w, ← List.getD_eq_getElem?_getD, hk _ 9 (by omega) (by
          intro z
          have := getD_mem w
          rw [z] at this; exact hnotin this)]
        exact X.pa.2.2.2 q w
      · obtain rfl : q = (cL c 3).length := by omega
        rw [List.getElem?_concat_length]
        show rc (rPs r i) i 9 = _
        rw [e9, X.pa.2.2.1]
  · by_cases e : i' = i
    · subst e; rw [e2, hon]; exact ⟨fun q => absurd q (by decide), fun q => absurd q (by decide)⟩
    · rw [hk i' 2 (by omega) e]
end R6
