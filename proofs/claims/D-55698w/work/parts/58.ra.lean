/-! a cart comes: the relation -/
section R16
variable {b E T : Nat} {c : cS} {r : Nat → Int32}
theorem zero_rc (s : zMS) (n i w : Nat) (hw : w < 10) : ∀ m, m ≤ 10 → rc (zfo (fun s k => zMa s (11 + 10 * n + k) 0) s m).2.1 i w = if i = n ∧ w < m then 0 else rc s.2.1 i w
  | 0, _ => by rw [if_neg (by omega)]; rfl
  | m + 1, h => by
    show rc (zuf (zfo (fun s k => zMa s (11 + 10 * n + k) 0) s m).2.1 (11 + 10 * n + m) 0) i w = _
    rw [rc_up _ _ _ _ _ _ (by omega) hw, zero_rc s n i w hw m (by omega)]
    by_cases e : i = n ∧ w = m
    · rw [if_pos e, if_pos (by omega)]
    · rw [if_neg e]
      by_cases e2 : i = n ∧ w < m
      · rw [if_pos e2, if_pos (by omega)]
      · rw [if_neg e2, if_neg (by omega)]
theorem zero_hd (s : zMS) (n j : Nat) (hj : j < 11) : ∀ m, (zfo (fun s k => zMa s (11 + 10 * n + k) 0) s m).2.1 j = s.2.1 j
  | 0 => rfl
  | m + 1 => by
    show zuf (zfo (fun s k => zMa s (11 + 10 * n + k) 0) s m).2.1 (11 + 10 * n + m) 0 j = _
    rw [hd_up _ _ _ _ _ hj, zero_hd s n j hj m]
theorem come_rc (s : zMS) (x y key : Int32) (n i w : Nat) (hw : w < 10) : rc (mCo0 s x y n key).2.1 i w = if i = n then (if w = 8 then key else if w = 6 then s.2.1 1 else if w = 3 then -1 else if w = 1 then y else if w = 0 then x else 0) else rc s.2.1 i w := by
  have e1 : (mCo0 s x y n key).2.1 = zuf (zuf (zuf (zuf (zuf (zfo (fun s k => zMa s (11 + 10 * n + k) 0) s 10).2.1 (11 + 10 * n + 0) x) (11 + 10 * n + 1) y) (11 + 10 * n + 3) (-1)) (11 + 10 * n + 6) (s.2.1 1)) (11 + 10 * n + 8) key := by
    show zuf (zuf (zuf (zuf (zuf (zfo (fun s k => zMa s (11 + 10 * n + k) 0) s 10).2.1 (11 + 10 * n + 0) x) (11 + 10 * n + 1) y) (11 + 10 * n + 3) (-1)) (11 + 10 * n + 6) (zuf (zuf (zuf (zfo (fun s k => zMa s (11 + 10 * n + k) 0) s 10).2.1 (11 + 10 * n + 0) x) (11 + 10 * n + 1) y) (11 + 10 * n + 3) (-1) 1)) (11 + 10 * n + 8) key = _
    rw [hd_up _ _ _ _ 1 (by omega), hd_up _ _ _ _ 1 (by omega), hd_up _ _ _ _ 1 (by omega), zero_hd s n 1 (by omega)]
  rw [e1, rc_up _ _ _ _ _ _ (by omega) hw, rc_up _ _ _ _ _ _ (by omega) hw, rc_up _ _ _ _ _ _ (by omega) hw, rc_up _ _ _ _ _ _ (by omega) hw, rc_up _ _ _ _ _ _ (by omega) hw, zero_rc s n i w hw 10 (Nat.le_refl _)]
  by_cases e : i = n
  · simp only [e, true_and, if_true, hw]
  · simp only [e, false_and, if_false]
theorem come_hd (s : zMS) (x y key : Int32) (n j : Nat) (hj : j < 11) : (mCo0 s x y n key).2.1 j = s.2.1 j := by
  show zuf (zuf (zuf (zuf (zuf (zfo (fun s k => zMa s (11 + 10 * n + k) 0) s 10).2.1 (11 + 10 * n + 0) x) (11 + 10 * n + 1) y) (11 + 10 * n + 3) (-1)) (11 + 10 * n + 6) _) (11 + 10 * n + 8) key j = _
  rw [hd_up _ _ _ _ j hj, hd_up _ _ _ _ j hj, hd_up _ _ _ _ j hj, hd_up _ _ _ _ j hj, hd_up _ _ _ _ j hj, zero_hd s n j hj]
def cCm (c : cS) (z : Nat) (g : Nat → Int32) : cS := cSl (cSn c g) (1 + z) ((c.2.2.1 (1 + z)).1 + 1) (cL c (1 + z) ++ [cN c])
theorem cQ.come (s : zMS) (X : cQ b E T c s.2.1) {z m : Nat} (hz : z ≤ 1) (m1 : 1 ≤ m) (m9 : m ≤ 9) (h40 : cN c ≠ 40) (hb : b + 1 ≤ 2 ^ 20) : cQ (b + 1) E T (cCm c z (cNew (nI (cN c)) (nI z) (nI m) (s.2.1 1))) (mCo0 (zMa s 0 (s.2.1 0 + 1)) (nI z) (nI m) (rN s.2.1) (rKe s.2.1 (nI z) 0)).2.1 := by
  have n40 := X.n40
  have nn := X.nn
  have s8 := X.sp
  rw [nn]
  generalize hkey : rKe s.2.1 (nI z) 0 = key
  have hkk : 0 ≤ key.toInt ∧ key.toInt ≤ (b : Int) + 1 ∧ ∀ k, k < cN c → rwa s.2.1 k (nI z) = true → (rc s.2.1 k 8).toInt < key.toInt := by
    have := key_hi (r := s.2.1) (c := c) (b := b) (fun i hi => X.va hi) (by omega) (nI z) (cN c) (Nat.le_refl _)
    rw [← hkey, rKe, nn]; exact this
  generalize hr' : (mCo0 (zMa s 0 (s.2.1 0 + 1)) (nI z) (nI m) (cN c) key).2.1 = r'
  have hh : ∀ j, j < 11 → j ≠ 0 → r' j = s.2.1 j := fun j hj h0 => by
    rw [← hr', come_hd _ _ _ _ _ _ hj]; exact if_neg h0
  have h0 : r' 0 = s.2.1 0 + 1 := by rw [← hr', come_hd _ _ _ _ _ _ (by omega)]; rfl
  have hk : ∀ i w, w < 10 → i < cN c → rc r' i w = rc s.2.1 i w := fun i w hw hi => by
    rw [← hr', come_rc _ _ _ _ _ _ _ hw, if_neg (by omega)]
    exact rc_hd s.2.1 0 _ i w (by omega)
  have hn : ∀ w, w < 10 → rc r' (cN c) w = if w = 8 then key else if w = 6 then s.2.1 1 else if w = 3 then -1 else if w = 1 then nI m else if w = 0 then nI z else 0 := fun w hw => by
    rw [← hr', come_rc _ _ _ _ _ _ _ hw, if_pos rfl]; rfl
  have n0 : rc r' (cN c) 0 = nI z := hn 0 (by omega)
  have n1 : rc r' (cN c) 1 = nI m := hn 1 (by omega)
  have n2 : rc r' (cN c) 2 = 0 := hn 2 (by omega)
  have n3 : rc r' (cN c) 3 = -1 := hn 3 (by omega)
  have n5 : rc r' (cN c) 5 = 0 := hn 5 (by omega)
  have n6 : rc r' (cN c) 6 = s.2.1 1 := hn 6 (by omega)
  have n7 : rc r' (cN c) 7 = 0 := hn 7 (by omega)
  have n8 : rc r' (cN c) 8 = key := hn 8 (by omega)
  have hs : rSp r' = rSp s.2.1 := rSp_e (hh 4 (by omega) (by omega))
  have hN : cN (cCm c z (cNew (nI (cN c)) (nI z) (nI m) (s.2.1 1))) = cN c + 1 := rfl
  have hgo : ∀ i, i < cN c → cG (cCm c z (cNew (nI (cN c)) (nI z) (nI m) (s.2.1 1))) i = cG c i := fun i hi => if_neg (by omega)
  have hgn : cG (cCm c z (cNew (nI (cN c)) (nI z) (nI m) (s.2.1 1))) (cN c) = cNew (nI (cN c)) (nI z) (nI m) (s.2.1 1) := if_pos rfl
  have hLz : cL (cCm c z (cNew (nI (cN c)) (nI z) (nI m) (s.2.1 1))) (1 + z) = cL c (1 + z) ++ [cN c] := by
    show (if 1 + z = 1 + z then ((c.2.2.1 (1 + z)).1 + 1, cL c (1 + z) ++ [cN c]) else c.2.2.1 (1 + z)).2 = _
    rw [if_pos rfl]
  have hLo : ∀ j, j ≠ 1 + z → cL (cCm c z (cNew (nI (cN c)) (nI z) (nI m) (s.2.1 1))) j = cL c j := fun j hj => by
    show (if j = 1 + z then _ else c.2.2.1 j).2 = _
    rw [if_neg hj]
  have rowz : qRow (cCm c z (cNew (nI (cN c)) (nI z) (nI m) (s.2.1 1))) r' z := by
    unfold qRow
    rw [hLz, hN]
    refine ⟨fun i => ?_, ?_⟩
    · rw [List.mem_append, List.mem_singleton]
      have := (X.row hz).1 i
      by_cases w : i = cN c
      · subst w
        exact ⟨fun _ => ⟨by omega, n2, n0⟩, fun _ => Or.inr rfl⟩
      · refine ⟨fun h => ?_, fun h => ?_⟩
        · obtain ⟨h1, h2, h3⟩ := this.mp (h.resolve_right w)
          exact ⟨by omega, by rw [hk i 2 (by omega) h1]; exact h2, by rw [hk i 0 (by omega) h1]; exact h3⟩
        · have h1 : i < cN c := by omega
          rw [hk i 2 (by omega) h1, hk i 0 (by omega) h1] at h
          exact Or.inl (this.mpr ⟨h1, h.2⟩)
    · refine List.pairwise_append.mpr ⟨List.Pairwise.imp_of_mem ?_ (X.row hz).2, List.pairwise_singleton _ _, fun a ha a' ha' => ?_⟩
      · intro a a' ha ha' hlt
        rw [hk a 8 (by omega) (((X.row hz).1 a).mp ha).1, hk a' 8 (by omega) (((X.row hz).1 a').mp ha').1]
        exact hlt
      · obtain rfl := List.mem_singleton.mp ha'
        obtain ⟨h1, h2, h3⟩ := ((X.row hz).1 a).mp ha
        rw [n8, hk a 8 (by omega) h1]
        refine hkk.2.2 a h1 ?_
        simp only [rwa, Bool.and_eq_true, beq_iff_eq]
        exact ⟨h2, h3⟩
  have rowo : ∀ z', z' ≤ 1 → z' ≠ z → qRow (cCm c z (cNew (nI (cN c)) (nI z) (nI m) (s.2.1 1))) r' z' := by
    intro z' hz' hne
    unfold qRow
    rw [hLo _ (by omega), hN]
    refine ⟨fun i => ?_, List.Pairwise.imp_of_mem ?_ (X.row hz').2⟩
    · have := (X.row hz').1 i
      by_cases w : i = cN c
      · subst w
        rw [n0, n2]
        have : nI z ≠ nI z' := fun q => hne (nI_inj (by omega) (by omega) q).symm
        exact ⟨fun h => absurd ((X.row hz').1 _ |>.mp h).1 (Nat.lt_irrefl _), fun h => absurd h.2.2 this⟩
      · refine ⟨fun h => ?_, fun h => ?_⟩
        · obtain ⟨h1, h2, h3⟩ := this.mp h
          exact ⟨by omega, by rw [hk i 2 (by omega) h1]; exact h2, by rw [hk i 0 (by omega) h1]; exact h3⟩
        · have h1 : i < cN c := by omega
          rw [hk i 2 (by omega) h1, hk i 0 (by omega) h1] at h
          exact this.mpr ⟨h1, h.2⟩
    · intro a a' ha ha' hlt
      rw [hk a 8 (by omega) (((X.row hz').1 a).mp ha).1, hk a' 8 (by omega) (((X.row hz').1 a').mp ha').1]
      exact hlt
  refine ⟨?_, fun i hi => ?_, fun i hi => ?_, ⟨fun i hi hon => ?_, fun j hj => ?_⟩, ?_, ?_, ?_, ?_, ⟨X.wt.1, fun i hi => ?_⟩⟩
  · obtain ⟨a1, a3, ⟨f5, f6, f7, f8, f9, f10, f11, f12⟩, a5, a6, a7, a8, a9, a10, a11⟩ := X.1
    unfold qHdr rLw
    rw [hs, h0, hh 4 (by omega) (by omega), hh 2 (by omega) (by omega), hh 3 (by omega) (by omega), hh 5 (by omega) (by omega), hh 6 (by omega) (by omega), hh 1 (by omega) (by omega), hh 9 (by omega) (by omega), hh 10 (by omega) (by omega), hN]
    exact ⟨⟨by rw [a1.1, nI_1], by omega⟩, a3, ⟨f5, f6, f7, f8, f9, f10, f11, f12⟩, a5, a6, a7, a8, a9, hb, a11⟩
  · by_cases w : i = cN c
    · subst w
      unfold qCart
      rw [hgn, n0, n1, n2, n3, n5, n6, n7, hh 1 (by omega) (by omega), if_pos rfl, if_neg (by decide)]
      refine ⟨rfl, rfl, rfl, rfl, rfl, rfl, rfl, rfl, rfl, ?_⟩
      show (0 : Int32) + s.2.1 1 - s.2.1 1 = 0
      rw [Int32.zero_add, Int32.sub_self]
    · have hi' : i < cN c := by omega
      exact (X.ca hi').same (hgo i hi') (fun w hw => hk i w hw hi') (hh 1 (by omega) (by omega))
  · by_cases w : i = cN c
    · subst w
      unfold qVal
      rw [n0, n1, n2, n3, n8]
      refine ⟨?_, Or.inl rfl, fun q => absurd q (by decide), fun _ => rfl, ⟨m, rfl, m1, m9⟩, fun _ => ⟨by have := hkk.1; omega, by have := hkk.2.1; omega⟩⟩
      rcases Nat.eq_zero_or_pos z with v | v
      · subst v; exact Or.inl rfl
      · obtain rfl : z = 1 := by omega
        exact Or.inr rfl
    · have hi' : i < cN c := by omega
      obtain ⟨b0, b1, b2, b3, b4, b5⟩ := (X.va hi').same (fun w hw => hk i w hw hi')
      exact ⟨b0, b1, b2, b3, b4, fun q => by have := b5 q; omega⟩
  · have w : i ≠ cN c := fun w => by rw [w, n2] at hon; exact absurd hon (by decide)
    have hi' : i < cN c := by omega
    rw [hk i 2 (by omega) hi'] at hon
    obtain ⟨j', g1, g2, g3⟩ := X.oc.1 i hi' hon
    exact ⟨j', by rw [hs]; exact g1, by rw [hk i 3 (by omega) hi']; exact g2, g3⟩
  · rcases X.oc.2 j hj with v | ⟨i, g1, g2, g3, g4⟩
    · exact Or.inl v
    · exact Or.inr ⟨i, by omega, g2, by rw [hk i 2 (by omega) g1]; exact g3, by rw [hk i 3 (by omega) g1]; exact g4⟩
  · rcases Nat.eq_zero_or_pos z with w | w
    · subst w; exact rowz
    · exact rowo 0 (by omega) (by omega)
  · rcases Nat.eq_zero_or_pos z with w | w
    · exact rowo 1 (by omega) (by omega)
    · obtain rfl : z = 1 := by omega
      exact rowz
  · obtain ⟨p1, p2, p3, p4⟩ := X.pa
    unfold qPas
    rw [hLo 3 (by omega), hN, hh 7 (by omega) (by omega)]
    refine ⟨fun i => ?_, p2, p3, fun q hq => ?_⟩
    · by_cases w : i = cN c
      · subst w
        rw [n2]
        exact ⟨fun h => absurd ((p1 _).mp h).1 (Nat.lt_irrefl _), fun h => absurd h.2 (by decide)⟩
      · refine ⟨fun h => ?_, fun h => ?_⟩
        · obtain ⟨h1, h2⟩ := (p1 i).mp h
          exact ⟨by omega, by rw [hk i 2 (by omega) h1]; exact h2⟩
        · have h1 : i < cN c := by omega
          rw [hk i 2 (by omega) h1] at h
          exact (p1 i).mpr ⟨h1, h.2⟩
    · rw [hk _ 9 (by omega) ((p1 _).mp (getD_mem hq)).1]; exact p4 q hq
  · unfold qLef
    rw [hh 8 (by omega) (by omega), X.le, hN]
    congr 1
    rw [show zcnt (fun i => rc r' i 2 == 3) (cN c + 1) = zcnt (fun i => rc r' i 2 == 3) (cN c) by simp [zcnt, n2]]
    exact zcnt_congr fun i hi => by rw [hk i 2 (by omega) hi]
  · by_cases w : i = cN c
    · subst w; rw [n7]; exact ⟨0, rfl, by omega⟩
    · have hi' : i < cN c := by omega
      rw [hk i 7 (by omega) hi']; exact X.wt.2 i hi'
end R16
