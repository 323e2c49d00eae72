/-! a cart leaves; a cart comes: the relation -/
section R15
variable {b E T : Nat} {c : cS} {r : Nat → Int32}
def cLv (c : cS) (i z q : Nat) : cS := cSc (cSc (cSl c (1 + z) ((c.2.2.1 (1 + z)).1 + 1) ((cL c (1 + z)).eraseIdx q)) i 10 (cG c i 10 + (c.1 10 - cG c i 9))) i 4 3
def rGo1 (r : Nat → Int32) (i : Nat) : Nat → Int32 := zuf (zuf r (11 + 10 * i + 2) 3) 8 (zuf r (11 + 10 * i + 2) 3 8 + 1)
theorem mem_erIdx {L : List Nat} (nod : L.Nodup) {q i : Nat} (hq : q < L.length) (e : L.getD q 0 = i) (x : Nat) : x ∈ L.eraseIdx q ↔ x ∈ L ∧ x ≠ i := by
  have pw := List.pairwise_iff_getElem.mp nod
  rw [List.getD_eq_getElem?_getD, List.getElem?_eq_getElem hq] at e
  have e' : L[q] = i := e
  rw [List.mem_eraseIdx_iff_getElem]
  constructor
  · rintro ⟨m, hm, hne, rfl⟩
    refine ⟨List.getElem_mem _, fun w => ?_⟩
    rw [← e'] at w
    rcases Nat.lt_or_ge m q with v | v
    · exact pw m q hm hq v w
    · exact pw q m hq hm (by omega) w.symm
  · rintro ⟨hx, hne⟩
    obtain ⟨m, hm, rfl⟩ := List.mem_iff_getElem.mp hx
    exact ⟨m, hm, fun w => hne (by subst w; exact e'), rfl⟩
theorem cQ.leave (X : cQ b E T c r) {i z q : Nat} (hz : z ≤ 1) (hi : i < cN c) (hw : rc r i 2 = 0) (hside : rc r i 0 = nI z) (hq : q < (cL c (1 + z)).length) (hqi : (cL c (1 + z)).getD q 0 = i) : cQ b E T (cLv c i z q) (rGo1 r i) := by
  have n40 := X.n40
  have s8 := X.sp
  have hh : ∀ j, j < 11 → j ≠ 8 → rGo1 r i j = r j := fun j hj h8 => by
    rw [rGo1]
    show (if j = 8 then _ else _) = _
    rw [if_neg h8, hd_up _ _ _ _ _ hj]
  have h8 : rGo1 r i 8 = r 8 + 1 := by
    rw [rGo1]; show (if (8 : Nat) = 8 then _ else _) = _
    rw [if_pos rfl, hd_up _ _ _ _ _ (by omega)]
  have ho : ∀ i' w, w < 10 → w ≠ 2 → rc (rGo1 r i) i' w = rc r i' w := fun i' w hw h2 => by
    rw [rGo1, rc_hd _ _ _ _ _ (by omega), rc_w _ _ _ _ _ (by omega) hw h2]
  have hk : ∀ i' w, w < 10 → i' ≠ i → rc (rGo1 r i) i' w = rc r i' w := fun i' w hw h => by
    rw [rGo1, rc_hd _ _ _ _ _ (by omega), rc_k _ _ _ _ (by omega) hw h]
  have e2 : rc (rGo1 r i) i 2 = 3 := by rw [rGo1, rc_hd _ _ _ _ _ (by omega), rc_z _ _ _ _ (by omega)]
  have hs : rSp (rGo1 r i) = rSp r := rSp_e (hh 4 (by omega) (by omega))
  have hgne : ∀ i', i' ≠ i → cG (cLv c i z q) i' = cG c i' := fun i' h => by
    show cG (cSc (cSc (cSl c (1 + z) _ _) i 10 _) i 4 3) i' = _
    rw [cSc_ne _ _ _ h, cSc_ne _ _ _ h]; rfl
  have hge : cG (cLv c i z q) i = zuf (zuf (cG c i) 10 (cG c i 10 + (c.1 10 - cG c i 9))) 4 3 := by
    show cG (cSc (cSc (cSl c (1 + z) _ _) i 10 _) i 4 3) i = _
    rw [cSc_at, cSc_at]; rfl
  have hLz : cL (cLv c i z q) (1 + z) = (cL c (1 + z)).eraseIdx q := by
    show (if 1 + z = 1 + z then ((c.2.2.1 (1 + z)).1 + 1, (cL c (1 + z)).eraseIdx q) else _).2 = _
    rw [if_pos rfl]
  have hLo : ∀ j, j ≠ 1 + z → cL (cLv c i z q) j = cL c j := fun j hj => by
    show (if j = 1 + z then _ else c.2.2.1 j).2 = _
    rw [if_neg hj]
  have nod := X.nod hz
  have rowz : qRow (cLv c i z q) (rGo1 r i) z := by
    unfold qRow
    rw [hLz]
    refine ⟨fun i' => ?_, ?_⟩
    · rw [mem_erIdx nod hq hqi]
      by_cases w : i' = i
      · subst w
        rw [e2]
        exact ⟨fun q => absurd rfl q.2, fun q => absurd q.2.1 (by decide)⟩
      · rw [hk i' 2 (by omega) w, hk i' 0 (by omega) w]
        have := (X.row hz).1 i'
        exact ⟨fun q => this.mp q.1, fun q => ⟨this.mpr q, w⟩⟩
    · refine List.Pairwise.imp_of_mem ?_ ((X.row hz).2.sublist (List.eraseIdx_sublist _ _))
      intro a a' ha ha' hlt
      rw [ho a 8 (by omega) (by omega), ho a' 8 (by omega) (by omega)]
      exact hlt
  have rowo : ∀ z', z' ≤ 1 → z' ≠ z → qRow (cLv c i z q) (rGo1 r i) z' := by
    intro z' hz' hne
    refine (X.row hz').same2 rfl (hLo _ (by omega)) (fun i' hi' => ?_) (fun i' hi' h2 _ => ho i' 8 (by omega) (by omega))
    by_cases w : i' = i
    · subst w
      rw [e2, hw, ho i' 0 (by omega) (by omega), hside]
      have : nI z ≠ nI z' := fun q => hne (nI_inj (by omega) (by omega) q).symm
      exact ⟨fun q => absurd q.2 this, fun q => absurd q.2 this⟩
    · rw [hk i' 2 (by omega) w, hk i' 0 (by omega) w]
  have lef : qLef (cLv c i z q) (rGo1 r i) := by
    unfold qLef
    rw [h8, X.le, nI_1]
    congr 1
    have e1 : zcnt (fun j => rc r j 2 == 3) (cN c) = ((List.range (cN c)).filter fun j => rc r j 2 == 3).length := zcnt_filter _ _
    have := zcnt_list (p := fun j => rc (rGo1 r i) j 2 == 3) (n := cN c) (L := i :: (List.range (cN c)).filter fun j => rc r j 2 == 3) (by
      rw [List.nodup_cons]
      refine ⟨fun h => ?_, List.Pairwise.sublist List.filter_sublist (List.nodup_range (n := cN c))⟩
      have := (List.mem_filter.mp h).2
      rw [hw] at this
      exact absurd this (by decide)) (fun j => by
      rw [List.mem_cons, List.mem_filter, List.mem_range]
      by_cases w : j = i
      · subst w; rw [e2]; exact ⟨fun _ => ⟨hi, rfl⟩, fun _ => Or.inl rfl⟩
      · rw [hk j 2 (by omega) w]; exact ⟨fun h => h.resolve_left w, fun h => Or.inr h⟩)
    rw [e1]
    exact this.symm
  refine ⟨?_, fun i' hi' => ?_, fun i' hi' => ?_, ⟨fun i' hi' hon' => ?_, fun j hj => ?_⟩, ?_, ?_, X.pa.same2 rfl (hLo 3 (by omega)) (hh 7 (by omega) (by omega)) (fun i' hi' => ?_) (fun i' hi' h2 => ho i' 9 (by omega) (by omega)), lef, X.wt.same rfl (fun i' _ => ho i' 7 (by omega) (by omega))⟩
  · obtain ⟨a1, a3, ⟨f5, f6, f7, f8, f9, f10, f11, f12⟩, a5, a6, a7, a8, a9, a10, a11⟩ := X.1
    unfold qHdr rLw
    rw [hs, hh 0 (by omega) (by omega), hh 4 (by omega) (by omega), hh 2 (by omega) (by omega), hh 3 (by omega) (by omega), hh 5 (by omega) (by omega), hh 6 (by omega) (by omega), hh 1 (by omega) (by omega), hh 9 (by omega) (by omega), hh 10 (by omega) (by omega)]
    exact ⟨a1, a3, ⟨f5, f6, f7, f8, f9, f10, f11, f12⟩, a5, a6, a7, a8, a9, a10, a11⟩
  · by_cases w : i' = i
    · subst w
      obtain ⟨b0, b1, b2, b3, b4, b5, b6, b7, b8, b9⟩ := X.ca hi
      rw [if_pos hw] at b9
      unfold qCart
      rw [hge, ho i' 0 (by omega) (by omega), ho i' 1 (by omega) (by omega), e2, ho i' 3 (by omega) (by omega), ho i' 5 (by omega) (by omega), ho i' 6 (by omega) (by omega), ho i' 7 (by omega) (by omega), hh 1 (by omega) (by omega), if_neg (by decide), if_neg (by decide)]
      rw [hw, if_neg (by decide)] at b6
      refine ⟨b0, b1, b2, b3, rfl, b5, b6, b7, b8, ?_⟩
      show cG c i' 10 + (c.1 10 - cG c i' 9) = _
      rw [X.1.2.2.1.2.2.2.2.2.1, ← b9, Int32.sub_eq_add_neg, Int32.sub_eq_add_neg, Int32.add_assoc]
    · exact (X.ca hi').same (hgne i' w) (fun w' hw' => hk i' w' hw' w) (hh 1 (by omega) (by omega))
  · by_cases w : i' = i
    · subst w
      obtain ⟨b0, b1, b2, b3, b4, b5⟩ := X.va hi
      unfold qVal
      rw [ho i' 0 (by omega) (by omega), ho i' 1 (by omega) (by omega), e2, ho i' 3 (by omega) (by omega), ho i' 4 (by omega) (by omega)]
      exact ⟨b0, Or.inr (Or.inr (Or.inr rfl)), fun q => absurd q (by decide), fun _ => b3 (by rw [hw]; decide), b4, fun q => absurd q (by decide)⟩
    · exact (X.va hi').same (fun w' hw' => hk i' w' hw' w)
  · have w : i' ≠ i := fun w => by rw [w, e2] at hon'; exact absurd hon' (by decide)
    rw [hk i' 2 (by omega) w] at hon'
    obtain ⟨j', g1, g2, g3⟩ := X.oc.1 i' hi' hon'
    exact ⟨j', by rw [hs]; exact g1, by rw [hk i' 3 (by omega) w]; exact g2, g3⟩
  · rcases X.oc.2 j hj with v | ⟨i', g1, g2, g3, g4⟩
    · exact Or.inl v
    · have hne : i' ≠ i := by intro z; rw [z, hw] at g3; exact absurd g3 (by decide)
      exact Or.inr ⟨i', g1, g2, by rw [hk i' 2 (by omega) hne]; exact g3, by rw [hk i' 3 (by omega) hne]; exact g4⟩
  · rcases Nat.eq_zero_or_pos z with w | w
    · subst w; exact rowz
    · exact rowo 0 (by omega) (by omega)
  · rcases Nat.eq_zero_or_pos z with w | w
    · exact rowo 1 (by omega) (by omega)
    · obtain rfl : z = 1 := by omega
      exact rowz
  · by_cases w : i' = i
    · subst w; rw [e2, hw]; exact ⟨fun q => absurd q (by decide), fun q => absurd q (by decide)⟩
    · rw [hk i' 2 (by omega) w]
end R15
