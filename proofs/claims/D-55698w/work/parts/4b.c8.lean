/-! who may go; a cart is sent -/
section C9
variable {l : Launch} {G : zG} {k : t_H} {A : cA} {c : cS} {h : zH} {d mc n b E T : Nat} {r : Nat → Int32} {RX : String → zH → Nat → Prop}
/-- what a law lets -/
def rLv (r : Nat → Int32) (v z : Nat) : Bool := if v = 0 then true else if v = 1 then (r 5 == nI z && decide (r 6 < r 3)) else rLe r v z
theorem cFree (ht : l.stackTraces = false) (R : tR G (cK G k A c) h) {x v : Nat} (hv : v ≤ 3) (e : k x = some (tOb (4 + v) [])) (ho : cOut A (cN c) x) {p : Int32 → zH → Nat → Prop} (hd : 1 ≤ d) (hm : n ≤ mc) (q : ∀ h', tR G (cK G k A c) h' → p (zbi (v == 0)) h' n) :
    (zOc h x 4 (zCall l G d mc MX7_isFree [.ref x] h n (zRI RX p))) ∨ (zOc h x 6 (zCall l G d mc MX6_isFree [.ref x] h n (zRI RX p))) ∨ (zOc h x 5 (zCall l G d mc MX6_isFree [.ref x] h n (zRI RX p))) ∨ (zOc h x 7 (zCall l G d mc MX6_isFree [.ref x] h n (zRI RX p))) := by
  have ex : cK G k A c x = some (tOb (4 + v) []) := by rw [cK_o ho]; exact e
  have c6 : zCt l G (d - 1) MX6_isFree [.ref x] h 0 (zIr 0 h) := by
    refine zCt.of kX6_isFree ht (by simp [Value.category]) (Nat.le_of_ble_eq_true rfl) ?_
    exact b_X6_isFree_0 _ ⟨Nat.le_refl _, rfl, rfl⟩
  have c7 : zCt l G (d - 1) MX7_isFree [.ref x] h 0 (zIr 1 h) := by
    refine zCt.of kX7_isFree ht (by simp [Value.category]) (Nat.le_of_ble_eq_true rfl) ?_
    exact b_X7_isFree_0 _ ⟨Nat.le_refl _, rfl, rfl⟩
  have v4 : v = 0 ∨ v = 1 ∨ v = 2 ∨ v = 3 := by omega
  rcases v4 with w | w | w | w <;> subst w
  · exact Or.inl (tOc R ex (zCall.P c7 (by omega) hm (q h R)))
  · exact Or.inr (Or.inr (Or.inl (tOc R ex (zCall.P c6 (by omega) hm (q h R)))))
  · exact Or.inr (Or.inl (tOc R ex (zCall.P c6 (by omega) hm (q h R))))
  · exact Or.inr (Or.inr (Or.inr (tOc R ex (zCall.P c6 (by omega) hm (q h R)))))
theorem cLets (ht : l.stackTraces = false) (hS : tS G) (D : cD G A (cN c)) (X : cQ b E T c r) (R : tR G (cK G k A c) h) {x v z : Nat} (hz : z ≤ 1) (hv : v ≤ 3) (e : k x = some (tOb (4 + v) [])) (ho : cOut A (cN c) x) {p : Int32 → zH → Nat → Prop} (hd : 7 ≤ d) (hm : n + 2 ≤ mc) (q : ∀ h' n', tR G (cK G k A c) h' → n' ≤ n + 2 → p (zbi (rLv r v z)) h' n') :
    (zOc h x 4 (zCall l G d mc MX7_lets [.ref x, .ref A.1, .int (nI z)] h n (zRI RX p))) ∨ (zOc h x 6 (zCall l G d mc MX9_lets [.ref x, .ref A.1, .int (nI z)] h n (zRI RX p))) ∨ (zOc h x 5 (zCall l G d mc MX8_lets [.ref x, .ref A.1, .int (nI z)] h n (zRI RX p))) ∨ (zOc h x 7 (zCall l G d mc MX9_lets [.ref x, .ref A.1, .int (nI z)] h n (zRI RX p))) := by
  have ex : cK G k A c x = some (tOb (4 + v) []) := by rw [cK_o ho]; exact e
  have c7 : zCt l G (d - 1) MX7_lets [.ref x, .ref A.1, .int (nI z)] h 0 (zIr 1 h) := by
    refine zCt.of kX7_lets ht (by simp [Value.category]) (Nat.le_of_ble_eq_true rfl) ?_
    exact b_X7_lets_0 _ _ _ ⟨Nat.le_refl _, rfl, rfl⟩
  have v4 : v = 0 ∨ v = 1 ∨ v = 2 ∨ v = 3 := by omega
  rcases v4 with w | w | w | w <;> subst w
  · exact Or.inl (tOc R ex (zCall.P c7 (by omega) (by omega) (q h n R (by omega))))
  · have c8 : tC l G (d - 1) MX8_lets [.ref x, .ref A.1, .int (nI z)] (cK G k A c) 0 (tIr (zbi (rLv r 1 z)) (cK G k A c)) := by
      intro h R
      refine zCt.of kX8_lets ht (by simp [Value.category]) (Nat.le_of_ble_eq_true rfl) ?_
      refine b_X8_lets_0 _ _ _ (cGi R (j := 8) (x := r 5) ?_ ⟨fun w => ⟨Nat.le_refl _, _, R, ?_, rfl⟩, fun w => cGi R (j := 9) (x := r 6) ?_ (cGi R (j := 7) (x := r 3) ?_ ⟨fun w2 => ⟨Nat.le_refl _, _, R, ?_, rfl⟩, fun w2 => ⟨Nat.le_refl _, _, R, ?_, rfl⟩⟩)⟩)
      · show Value.int (c.1 8) = _; rw [X.1.2.2.1.2.2.2.1]
      · simp [rLv, w, zbi]
      · show Value.int (c.1 9) = _; rw [X.1.2.2.1.2.2.2.2.1]
      · show Value.int (c.1 7) = _; rw [X.1.2.2.1.2.2.1]
      · simp [rLv, Int32.not_lt.mpr w2, zbi]
      · simp [rLv, Classical.not_not.mp w, Int32.not_le.mp w2, zbi]
    exact Or.inr (Or.inr (Or.inl (tOc R ex (tC.i R c8 (by omega) (by omega) fun h' R' => q h' _ R' (by omega)))))
  · exact Or.inr (Or.inl (tOc R ex (tC.i R (tX9_lets ht hS D X hz (Or.inl rfl) e ho (d := d - 1) (by omega)) (by omega) hm fun h' R' => q h' _ R' (by omega))))
  · exact Or.inr (Or.inr (Or.inr (tOc R ex (tC.i R (tX9_lets ht hS D X hz (Or.inr rfl) e ho (d := d - 1) (by omega)) (by omega) hm fun h' R' => q h' _ R' (by omega)))))
theorem tX6_may (ht : l.stackTraces = false) (hS : tS G) (D : cD G A (cN c)) (X : cQ b E T c r) {x v z : Nat} (hz : z ≤ 1) (hv : v ≤ 3) (e2 : r 2 = nI v) (e : k x = some (tOb (4 + v) [])) (ho : cOut A (cN c) x) (hd : 8 ≤ d) : tC l G d MX6_may [.ref x, .ref A.1, .int (nI z)] (cK G k A c) 2 (tIr (zbi (rMs r (nI z))) (cK G k A c)) := by
  intro h R
  rw [X.ms hz hv e2]
  refine zCt.of kX6_may ht (by simp [Value.category]) (Nat.le_of_ble_eq_true rfl) ?_
  refine b_X6_may_0 _ _ _ (cOo R (tC.r R (tX2_row ht hz (d := d - 1)) (by omega) (by omega) fun h1 R1 => cEmpL ht R1 D (by omega) (by omega) (by omega) (by omega) fun h2 R2 => ⟨fun q => ⟨by omega, _, R2, ?_, rfl⟩, fun q => cFree ht R2 hv e ho (by omega) (by omega) fun h3 R3 => b_X6_may_17 _ _ _ _ ⟨fun w => cLets ht hS D X R3 hz hv e ho (by omega) (by omega) fun h4 n4 R4 hn => b_X6_may_36 _ _ _ _ ⟨fun u => ⟨by omega, _, R4, ?_, rfl⟩, fun u => ⟨by omega, _, R4, ?_, rfl⟩⟩, fun w => cOo R3 (tC.i R3 (tX2_isOncoming ht D X (nI z) (d := d - 1) (by omega)) (by omega) (by omega) fun h4 R4 => ⟨fun u => ⟨by omega, _, R4, ?_, rfl⟩, fun u => cLets ht hS D X R4 hz hv e ho (by omega) (by omega) fun h5 n5 R5 hn => b_X6_may_36 _ _ _ _ ⟨fun u2 => ⟨by omega, _, R5, ?_, rfl⟩, fun u2 => ⟨by omega, _, R5, ?_, rfl⟩⟩⟩)⟩⟩))
  · rw [zbi_eq0, Bool.not_eq_false] at q
    rw [q]; rfl
  · have u2 := zbi_eq0.mp u
    simp only [rLv] at u2
    rw [u2, Bool.and_false]; rfl
  · rw [zbi_eq0, Bool.not_eq_false] at u w
    have q2 := zbi_eq0.mp (Classical.not_not.mp q)
    simp only [rLv] at u
    rw [u, q2, w]; rfl
  · rw [zbi_eq0, Bool.not_eq_false] at u
    have w2 := zbi_eq0.mp (Classical.not_not.mp w)
    rw [u, w2]; simp [zbi]
  · have u3 := zbi_eq0.mp u2
    simp only [rLv] at u3
    rw [u3, Bool.and_false]; rfl
  · rw [zbi_eq0, Bool.not_eq_false] at u2
    have u1 := zbi_eq0.mp (Classical.not_not.mp u)
    have q2 := zbi_eq0.mp (Classical.not_not.mp q)
    simp only [rLv] at u2
    rw [u2, q2, u1]; simp [zbi]
theorem tX5_goes (ht : l.stackTraces = false) (D : cD G A (cN c)) {i : Nat} (hi : i < cN c) (t : Int32) : tC l G d MX5_goes [.ref (A.2.2 i), .int t] (cK G k A c) 0 (tVr (cK G k A (cSc c i 10 (cG c i 10 + (t - cG c i 9))))) := by
  intro h R
  refine zCt.of kX5_goes ht (by simp [Value.category]) (Nat.le_of_ble_eq_true rfl) ?_
  exact b_X5_goes_0 _ _ (ccGi R D hi rfl (ccGi R D hi rfl (ccPf R D hi (fun g => rfl) fun h1 R1 => ⟨Nat.le_refl _, _, R1, rfl⟩)))
/-- the first of a row is sent -/
def cSe (c : cS) (i z sp : Nat) (e : Int32) : cS := cSf (cSf (cSb (cSc (cSc (cSc (cSc (cSl c (1 + z) ((c.2.2.1 (1 + z)).1 + 1) ((cL c (1 + z)).eraseIdx 0)) i 10 (cG c i 10 + (c.1 10 - cG c i 9))) i 4 1) i 5 (nI sp)) i 6 (nI (1 - z))) sp (nI i)) 11 (c.1 11 + 1)) 9 (c.1 9 + e)
def rSe (r : Nat → Int32) (i z sp : Nat) (e : Int32) : Nat → Int32 := zuf (zuf (zuf (zuf (zuf r (11 + 10 * i + 2) 1) (11 + 10 * i + 3) (nI sp)) (11 + 10 * i + 4) (nI (1 - z))) 9 (r 9 + 1)) 6 (r 6 + e)
theorem cQ.se (X : cQ b E T c r) {i z sp : Nat} {L : List Nat} {e : Int32} (hz : z ≤ 1) (hL : cL c (1 + z) = i :: L) (hsp : sp < rSp r) (hfree : cB c sp = -1) (he : e = 0 ∨ e = 1) (hE : E + 1 ≤ 2 ^ 20) : cQ b (E + 1) T (cSe c i z sp e) (rSe r i z sp e) := by
  have n40 := X.n40
  have s8 := X.sp
  obtain ⟨hi, hw, hside⟩ := ((X.row hz).1 i).mp (by rw [hL]; exact List.mem_cons_self)
  have hh : ∀ q, q < 11 → q ≠ 9 → q ≠ 6 → rSe r i z sp e q = r q := fun q hq h9 h6 => by
    rw [rSe]
    show (if q = 6 then _ else if q = 9 then _ else _) = _
    rw [if_neg h6, if_neg h9, hd_up _ _ _ _ _ hq, hd_up _ _ _ _ _ hq, hd_up _ _ _ _ _ hq]
  have h6 : rSe r i z sp e 6 = r 6 + e := by
    rw [rSe]; show (if (6 : Nat) = 6 then r 6 + e else _) = _; exact if_pos rfl
  have h9 : rSe r i z sp e 9 = r 9 + 1 := by
    rw [rSe]; show (if (9 : Nat) = 6 then _ else if (9 : Nat) = 9 then r 9 + 1 else _) = _; rw [if_neg (by decide), if_pos rfl]
  have ho : ∀ i' w, w < 10 → w ≠ 2 → w ≠ 3 → w ≠ 4 → rc (rSe r i z sp e) i' w = rc r i' w := fun i' w hw h2 h3 h4 => by
    rw [rSe, rc_hd _ _ _ _ _ (by omega), rc_hd _ _ _ _ _ (by omega), rc_w _ _ _ _ _ (by omega) hw h4, rc_w _ _ _ _ _ (by omega) hw h3, rc_w _ _ _ _ _ (by omega) hw h2]
  have hk : ∀ i' w, w < 10 → i' ≠ i → rc (rSe r i z sp e) i' w = rc r i' w := fun i' w hw h => by
    rw [rSe, rc_hd _ _ _ _ _ (by omega), rc_hd _ _ _ _ _ (by omega), rc_k _ _ _ _ (by omega) hw h, rc_k _ _ _ _ (by omega) hw h, rc_k _ _ _ _ (by omega) hw h]
  have e2 : rc (rSe r i z sp e) i 2 = 1 := by rw [rSe, rc_hd _ _ _ _ _ (by omega), rc_hd _ _ _ _ _ (by omega), rc_w _ _ _ _ _ (by omega) (by omega) (by omega), rc_w _ _ _ _ _ (by omega) (by omega) (by omega), rc_z _ _ _ _ (by omega)]
  have e3 : rc (rSe r i z sp e) i 3 = nI sp := by rw [rSe, rc_hd _ _ _ _ _ (by omega), rc_hd _ _ _ _ _ (by omega), rc_w _ _ _ _ _ (by omega) (by omega) (by omega), rc_z _ _ _ _ (by omega)]
  have e4 : rc (rSe r i z sp e) i 4 = nI (1 - z) := by rw [rSe, rc_hd _ _ _ _ _ (by omega), rc_hd _ _ _ _ _ (by omega), rc_z _ _ _ _ (by omega)]
  have hs : rSp (rSe r i z sp e) = rSp r := rSp_e (hh 4 (by omega) (by omega) (by omega))
  have hgne : ∀ i', i' ≠ i → cG (cSe c i z sp e) i' = cG c i' := fun i' h => by
    show cG (cSc (cSc (cSc (cSc (cSl c (1 + z) _ _) i 10 _) i 4 1) i 5 (nI sp)) i 6 (nI (1 - z))) i' = _
    rw [cSc_ne _ _ _ h, cSc_ne _ _ _ h, cSc_ne _ _ _ h, cSc_ne _ _ _ h]; rfl
  have hge : cG (cSe c i z sp e) i = zuf (zuf (zuf (zuf (cG c i) 10 (cG c i 10 + (c.1 10 - cG c i 9))) 4 1) 5 (nI sp)) 6 (nI (1 - z)) := by
    show cG (cSc (cSc (cSc (cSc (cSl c (1 + z) _ _) i 10 _) i 4 1) i 5 (nI sp)) i 6 (nI (1 - z))) i = _
    rw [cSc_at, cSc_at, cSc_at, cSc_at]; rfl
  have hB : ∀ q, cB (cSe c i z sp e) q = if q = sp then nI i else cB c q := fun q => rfl
  have hLz : cL (cSe c i z sp e) (1 + z) = L := by
    show (if 1 + z = 1 + z then ((c.2.2.1 (1 + z)).1 + 1, (cL c (1 + z)).eraseIdx 0) else _).2 = L
    rw [if_pos rfl, hL]; rfl
  have hLo : ∀ q, q ≠ 1 + z → cL (cSe c i z sp e) q = cL c q := fun q hq => by
    show (if q = 1 + z then _ else c.2.2.1 q).2 = _
    rw [if_neg hq]
  have nod := X.nod hz
  rw [hL, List.nodup_cons] at nod
  have pw := (X.row hz).2
  rw [hL, List.pairwise_cons] at pw
  have rowz : qRow (cSe c i z sp e) (rSe r i z sp e) z := by
    unfold qRow
    rw [hLz]
    refine ⟨fun i' => ?_, ?_⟩
    · by_cases w : i' = i
      · subst w
        rw [e2]
        exact ⟨fun q => absurd q nod.1, fun q => absurd q.2.1 (by decide)⟩
      · rw [hk i' 2 (by omega) w, hk i' 0 (by omega) w]
        have := (X.row hz).1 i'
        rw [hL, List.mem_cons] at this
        exact ⟨fun q => this.mp (Or.inr q), fun q => (this.mpr q).resolve_left w⟩
    · refine List.Pairwise.imp_of_mem ?_ pw.2
      intro a a' ha ha' hlt
      rw [ho a 8 (by omega) (by omega) (by omega) (by omega), ho a' 8 (by omega) (by omega) (by omega) (by omega)]
      exact hlt
  have rowo : ∀ z', z' ≤ 1 → z' ≠ z → qRow (cSe c i z sp e) (rSe r i z sp e) z' := by
    intro z' hz' hne
    refine (X.row hz').same2 rfl (hLo _ (by omega)) (fun i' hi' => ?_) (fun i' hi' h2 _ => ho i' 8 (by omega) (by omega) (by omega) (by omega))
    by_cases w : i' = i
    · subst w
      rw [e2, hw, ho i' 0 (by omega) (by omega) (by omega) (by omega), hside]
      have : nI z ≠ nI z' := fun q => hne (nI_inj (by omega) (by omega) q).symm
      exact ⟨fun q => absurd q.2 this, fun q => absurd q.2 this⟩
    · rw [hk i' 2 (by omega) w, hk i' 0 (by omega) w]
  refine ⟨?_, fun i' hi' => ?_, fun i' hi' => ?_, ⟨fun i' hi' hon' => ?_, fun q hq => ?_⟩, ?_, ?_, X.pa.same2 rfl (hLo 3 (by omega)) (hh 7 (by omega) (by omega) (by omega)) (fun i' hi' => ?_) (fun i' hi' h2 => ho i' 9 (by omega) (by omega) (by omega) (by omega)), X.le.same2 rfl (hh 8 (by omega) (by omega) (by omega)) (fun i' hi' => ?_), X.wt.same rfl (fun i' _ => ho i' 7 (by omega) (by omega) (by omega) (by omega))⟩
  · obtain ⟨a1, a3, ⟨f5, f6, f7, f8, f9, f10, f11, f12⟩, a5, a6, a7, ⟨ee, a8, a8'⟩, a9, a10, a11⟩ := X.1
    unfold qHdr rLw
    rw [hs, hh 0 (by omega) (by omega) (by omega), hh 4 (by omega) (by omega) (by omega), hh 2 (by omega) (by omega) (by omega), hh 3 (by omega) (by omega) (by omega), hh 5 (by omega) (by omega) (by omega), h6, hh 1 (by omega) (by omega) (by omega), h9, hh 10 (by omega) (by omega) (by omega)]
    refine ⟨a1, a3, ⟨f5, f6, f7, f8, ?_, f10, ?_, f12⟩, a5, a6, a7, ?_, a9, a10, hE⟩
    · show c.1 9 + e = _; rw [f9]
    · show c.1 11 + 1 = _; rw [f11]
    · rcases he with w | w
      · subst w; exact ⟨ee, by rw [a8, Int32.add_zero], by omega⟩
      · subst w; exact ⟨ee + 1, by rw [a8, nI_1], by omega⟩
  · by_cases w : i' = i
    · subst w
      obtain ⟨b0, b1, b2, b3, b4, b5, b6, b7, b8, b9⟩ := X.ca hi
      rw [if_pos hw] at b9
      unfold qCart
      rw [hge, ho i' 0 (by omega) (by omega) (by omega) (by omega), ho i' 1 (by omega) (by omega) (by omega) (by omega), e2, e3, e4, ho i' 5 (by omega) (by omega) (by omega) (by omega), ho i' 6 (by omega) (by omega) (by omega) (by omega), ho i' 7 (by omega) (by omega) (by omega) (by omega), hh 1 (by omega) (by omega) (by omega), if_pos rfl, if_neg (by decide)]
      refine ⟨b0, b1, b2, b3, rfl, rfl, rfl, b7, b8, ?_⟩
      show cG c i' 10 + (c.1 10 - cG c i' 9) = _
      rw [X.1.2.2.1.2.2.2.2.2.1, ← b9, Int32.sub_eq_add_neg, Int32.sub_eq_add_neg, Int32.add_assoc]
    · exact (X.ca hi').same (hgne i' w) (fun w' hw' => hk i' w' hw' w) (hh 1 (by omega) (by omega) (by omega))
  · by_cases w : i' = i
    · subst w
      obtain ⟨b0, b1, b2, b3, b4, b5⟩ := X.va hi
      unfold qVal
      rw [ho i' 0 (by omega) (by omega) (by omega) (by omega), ho i' 1 (by omega) (by omega) (by omega) (by omega), e2, e3, e4]
      refine ⟨b0, Or.inr (Or.inl rfl), fun _ => ?_, fun q => absurd rfl q, b4, fun q => absurd q (by decide)⟩
      rcases Nat.eq_zero_or_pos z with v | v
      · subst v; exact Or.inr rfl
      · obtain rfl : z = 1 := by omega
        exact Or.inl rfl
    · exact (X.va hi').same (fun w' hw' => hk i' w' hw' w)
  · by_cases w : i' = i
    · subst w
      exact ⟨sp, by rw [hs]; exact hsp, e3, by rw [hB, if_pos rfl]⟩
    · rw [hk i' 2 (by omega) w] at hon'
      obtain ⟨j', g1, g2, g3⟩ := X.oc.1 i' hi' hon'
      refine ⟨j', by rw [hs]; exact g1, by rw [hk i' 3 (by omega) w]; exact g2, ?_⟩
      rw [hB, if_neg (by
        intro q; rw [q, hfree] at g3
        exact zn1 (by have : cN (cSe c i z sp e) = cN c := rfl; omega) g3.symm)]
      exact g3
  · rw [hB]
    by_cases w : q = sp
    · rw [if_pos w]; exact Or.inr ⟨i, hi, rfl, e2, by rw [e3, w]⟩
    · rw [if_neg w]
      rcases X.oc.2 q hq with v | ⟨i', g1, g2, g3, g4⟩
      · exact Or.inl v
      · have hne : i' ≠ i := by intro z; rw [z, hw] at g3; exact absurd g3 (by decide)
        exact Or.inr ⟨i', g1, g2, by rw [hk i' 2 (by omega) hne]; exact g3, by rw [hk i' 3 (by omega) hne]; exact g4⟩
  · rcases Nat.eq_zero_or_pos z with w | w
    · subst w; exact rowz
    · exact rowo 0 (by omega) (by omega)
  · rcases Nat.eq_zero_or_pos z with w | w
    · exact rowo 1 (by omega) (by omega)
    · obtain rfl : z = 1 := by omega
      exact rowz
  · by_cases w : i' = i
    · subst w; rw [e2, hw]; exact ⟨fun q => absurd q (by decide), fun q => absurd q (by decide)⟩
    · rw [hk i' 2 (by omega) w]
  · by_cases w : i' = i
    · subst w; rw [e2, hw]; exact ⟨fun q => absurd q (by decide), fun q => absurd q (by decide)⟩
    · rw [hk i' 2 (by omega) w]
theorem cQ.law (X : cQ b E T c r) : ∃ v, v ≤ 3 ∧ r 2 = nI v := by
  rcases X.lw with w | w | w | w
  · exact ⟨0, by omega, w⟩
  · exact ⟨1, by omega, w⟩
  · exact ⟨2, by omega, w⟩
  · exact ⟨3, by omega, w⟩
theorem mSe_no (s : zMS) (x : Int32) (h : ¬ rCo s.2.1 (if x = 0 then 0 else s.2.1 4 - 1) = -1 ∨ rMs s.2.1 x = false) : mSe s x = s := by
  simp only [mSe]
  by_cases w : ¬ rCo s.2.1 (if x = 0 then 0 else s.2.1 4 - 1) = -1
  · rw [if_pos w]
  · rw [if_neg w]
    rcases h with h | h
    · exact absurd h w
    · rw [h]; rfl
theorem mSe_yes (s : zMS) {z i sp : Nat} (hz : z ≤ 1) (h1 : rCo s.2.1 (nI sp) = -1) (hsp : (if nI z = 0 then 0 else s.2.1 4 - 1) = nI sp) (h2 : rMs s.2.1 (nI z) = true) (hi : rRa s.2.1 (nI z) 0 = nI i) (hi40 : i ≤ 40) : (mSe s (nI z)).2.1 = rSe s.2.1 i z sp (if s.2.1 5 = nI z then 1 else 0) := by
  have h1z : 1 - nI z = nI (1 - z) := by
    rcases Nat.eq_zero_or_pos z with w | w
    · subst w; rfl
    · obtain rfl : z = 1 := by omega
      rfl
  simp only [mSe]
  rw [hsp, h1, if_neg (fun q => q rfl), h2, if_pos rfl, hi, nI_clamp (by omega), h1z]
  simp only [zMa, rSe]
  rw [hd_up _ _ _ _ _ (by omega), hd_up _ _ _ _ _ (by omega), hd_up _ _ _ _ _ (by omega)]
  have q6 : ∀ (f : Nat → Int32) (v : Int32), zuf f 9 v 6 = f 6 := fun f v => if_neg (by decide)
  have q5 : ∀ (f : Nat → Int32) (v : Int32), zuf f 9 v 5 = f 5 := fun f v => if_neg (by decide)
  have h5 : zuf (zuf (zuf (zuf s.2.1 (11 + 10 * i + 2) 1) (11 + 10 * i + 3) (nI sp)) (11 + 10 * i + 4) (nI (1 - z))) 9 (s.2.1 9 + 1) 5 = s.2.1 5 := by
    rw [q5, hd_up _ _ _ _ _ (by omega), hd_up _ _ _ _ _ (by omega), hd_up _ _ _ _ _ (by omega)]
  rw [q6, hd_up _ _ _ _ _ (by omega), hd_up _ _ _ _ _ (by omega), hd_up _ _ _ _ _ (by omega)]
  by_cases t : s.2.1 5 = nI z
  · rw [if_pos t]; congr 2; exact if_pos (h5.trans t)
  · rw [if_neg t]; congr 2; exact if_neg (fun q => t (h5.symm.trans q))
theorem cQ.spE (X : cQ b E T c r) {z : Nat} (hz : z ≤ 1) : (if nI z = 0 then 0 else r 4 - 1) = nI (rEnd r z) ∧ rEnd r z < rSp r := by
  have sp := X.sp
  rcases Nat.eq_zero_or_pos z with w | w
  · subst w; exact ⟨rfl, by show 0 < _; omega⟩
  · obtain rfl : z = 1 := by omega
    rw [if_neg (by decide), sp.1, nI_m1 (by omega)]
    exact ⟨rfl, by show rSp r - 1 < _; omega⟩
/-- the relation behind a sending -/
theorem cQ.send (X : cQ b E T c r) (s : zMS) (hs : s.2.1 = r) {z : Nat} (hz : z ≤ 1) (hE : E + 1 ≤ 2 ^ 20) : ∃ c', cQ b (E + 1) T c' (mSe s (nI z)).2.1 ∧ cN c' = cN c := by
  subst hs
  have n40 := X.n40
  have b20 := X.1.2.2.2.2.2.2.2.2.1
  obtain ⟨p1, p2⟩ := X.spE hz
  have sp := X.sp
  by_cases q : cB c (rEnd s.2.1 z) = -1
  · cases m : rMs s.2.1 (nI z) with
    | false =>
      rw [mSe_no s _ (Or.inr m)]
      exact ⟨c, X.mono (Nat.le_refl _) b20 (by omega) hE (Nat.le_refl _) X.wt.1, rfl⟩
    | true =>
      rcases X.first hz with ⟨e, e3⟩ | ⟨i, L, e, e3, hi, hw, -⟩
      · exfalso
        unfold rMs at m
        rw [e3, if_pos rfl] at m; cases m
      · rw [mSe_yes s hz (by rw [X.co (by omega)]; exact q) p1 m e3 (by omega)]
        exact ⟨_, X.se hz e p2 q (by split; exact Or.inr rfl; exact Or.inl rfl) hE, rfl⟩
  · rw [mSe_no s _ (Or.inl (by rw [p1, X.co (by omega)]; exact q))]
    exact ⟨c, X.mono (Nat.le_refl _) b20 (by omega) hE (Nat.le_refl _) X.wt.1, rfl⟩
theorem tX2_sends (ht : l.stackTraces = false) (hS : tS G) (D : cD G A (cN c)) (s : zMS) (X : cQ b E T c s.2.1) {z : Nat} (hz : z ≤ 1) (hE : E + 1 ≤ 2 ^ 20) (hd : 9 ≤ d) : tC l G d MX2_sends [.ref A.1, .int (nI z)] (cK G k A c) 3 (tqV tNo fun k' => ∃ c', cQ b (E + 1) T c' (mSe s (nI z)).2.1 ∧ cN c' = cN c ∧ k' = cK G k A c') := by
  intro h R
  have n40 := X.n40
  have b20 := X.1.2.2.2.2.2.2.2.2.1
  obtain ⟨p1, p2⟩ := X.spE hz
  have sp := X.sp
  obtain ⟨v, hv, e2⟩ := X.law
  have h1z : 1 - nI z = nI (1 - z) := by
    rcases Nat.eq_zero_or_pos z with w | w
    · subst w; rfl
    · obtain rfl : z = 1 := by omega
      rfl
  have same : cQ b (E + 1) T c s.2.1 := X.mono (Nat.le_refl _) b20 (by omega) hE (Nat.le_refl _) X.wt.1
  refine zCt.of kX2_sends ht (by simp [Value.category]) (Nat.le_of_ble_eq_true rfl) ?_
  refine b_X2_sends_0 _ _ (cGr R rfl (cOo R (tC.i R (tX2_end ht X hz (d := d - 1)) (by omega) (by omega) fun h1 R1 => cAi R1 D rfl (by omega) ⟨fun q => ⟨by omega, _, R1, c, ?_, rfl, rfl⟩, fun q => cGi R1 (j := 6) (x := nI v) ?_ (tCall.R R1 (tX6_of ht hv (d := d - 1) (by omega)) (by omega) (by omega) (fun x k' h2 R2 w => ?_) (fun E k' h' _ w => w.elim))⟩)))
  · rw [mSe_no s _ (Or.inl (by rw [p1, X.co (by omega)]; exact q))]; exact same
  · show Value.int (c.1 6) = _; rw [X.1.2.2.1.2.1, e2]
  · obtain ⟨w1, w2, rfl⟩ := w
    have ho := cK_fresh D w1
    rw [cK_up ho] at R2
    rw [cK_o ho] at w1
    have q2 := Classical.not_not.mp q
    -- behind the law's word
    have go : ∀ (h : zH) (n : Nat), tR G (cK G k A c) h → n ≤ 3 → zV l G d 3 MX2_sends (fun r_1 h' => ∃ k', tR G k' h' ∧ tqV tNo (fun k' => ∃ c', cQ b (E + 1) T c' (mSe s (nI z)).2.1 ∧ cN c' = cN c ∧ k' = cK G k A c') r_1 k') 28 [some (.ref A.1), some (.int (nI z)), none] [.int (zbi (rMs s.2.1 (nI z)))] h n := by
      intro h n R hn
      refine b_X2_sends_28 _ _ _ ⟨fun u => ?_, fun u => ⟨hn, _, R, c, ?_, rfl, rfl⟩⟩
      · rw [zbi_eq0, Bool.not_eq_false] at u
        rcases X.first hz with ⟨e, e3⟩ | ⟨i, L, e, e3, hi, hw, -⟩
        · exfalso
          unfold rMs at u
          rw [e3, if_pos rfl] at u; cases u
        · have hget : (cL c (1 + z)).getD 0 0 = i := by rw [e]; rfl
          have fin := X.se (e := if s.2.1 5 = nI z then 1 else 0) hz e p2 q2 (by split; exact Or.inr rfl; exact Or.inl rfl) hE
          rw [← mSe_yes s hz (by rw [X.co (by omega)]; exact q2) p1 u e3 (by omega)] at fin
          refine cGr R rfl (cOo R (tC.r R (tX2_row ht hz (d := d - 1)) (by omega) (by omega) fun h1 R1 => cRemL ht R1 D (i := 0) (by omega) (by omega) rfl (by rw [e]; simp) (by omega) (by omega) fun h2 R2 => ?_))
          rw [hget]
          refine cUnb ht hS R2 (by omega) (by omega) (by omega) fun h3 R3 => cGet ht R3 D rfl hi (by omega) (by omega) fun h4 R4 => ccOc R4 D hi (cGi R4 (j := 10) (x := c.1 10) rfl (ccOc R4 D hi (tC.v R4 (tX5_goes (c := cSl c (1 + z) ((c.2.2.1 (1 + z)).1 + 1) ((cL c (1 + z)).eraseIdx 0)) ht D hi (c.1 10) (d := d - 1)) (by omega) (by omega) fun h5 R5 => ccPf R5 D hi (fun g => rfl) fun h6 R6 => cOo R6 (tC.i R6 (tX2_endS ht (c := _) (S := rSp s.2.1) (by show c.1 5 = _; exact X.f5) (by omega) hz (d := d - 1)) (by omega) (by omega) fun h7 R7 => ccPf R7 D hi (fun g => rfl) fun h8 R8 => zCall.P (s_other ht (d := d - 1)) (by omega) (by omega) ?_))))
          rw [h1z]
          refine ccPf R8 D hi (fun g => rfl) fun h9 R9 => cGr R9 rfl (ccGi R9 D hi (j := 5) (x := nI (rEnd s.2.1 z)) (by rw [cSc_at, cSc_at]; rfl) (ccGi R9 D hi (j := 0) (x := nI i) (by rw [cSc_at, cSc_at, cSc_at, cSc_at]; show Value.int (cG c i 0) = _; rw [X.num hi]) (cSt R9 D rfl (by omega) fun h10 R10 => cGi R10 (j := 11) (x := c.1 11) rfl (cPf R10 D rfl fun h11 R11 => cGi R11 (j := 9) (x := c.1 9) rfl (cGi R11 (j := 8) (x := s.2.1 5) ?_ ⟨fun t => cPf R11 D rfl fun h12 R12 => ⟨by omega, _, R12, _, ?_, ?_, rfl⟩, fun t => cPf R11 D rfl fun h12 R12 => ⟨by omega, _, R12, _, ?_, ?_, rfl⟩⟩)))))
          · show Value.int (c.1 8) = _; rw [X.1.2.2.1.2.2.2.1]
          · rw [if_neg t] at fin; exact fin
          · rfl
          · rw [if_pos (Classical.not_not.mp t)] at fin; exact fin
          · rfl
      · have u2 := zbi_eq0.mp (Classical.not_not.mp u)
        rw [mSe_no s _ (Or.inr u2)]; exact same
    have kx : (tUp k x (tOb (4 + v) [])) x = some (tOb (4 + v) []) := tUp_s _ _ _
    have ex : cK G (tUp k x (tOb (4 + v) [])) A c x = some (tOb (4 + v) []) := by rw [cK_o ho]; exact kx
    have call := fun (RX : String → zH → Nat → Prop) => tC.i (RX := RX) (p := fun x13 h12 n11 => zV l G d 3 MX2_sends (fun r_1 h' => ∃ k', tR G k' h' ∧ tqV tNo (fun k' => ∃ c', cQ b (E + 1) T c' (mSe s (nI z)).2.1 ∧ cN c' = cN c ∧ k' = cK G k A c') r_1 k') 28 [some (.ref A.1), some (.int (nI z)), none] [.int x13] h12 n11) R2 (tX6_may ht hS D X hz hv e2 kx ho (d := d - 1) (by omega)) (d := d) (mc := 3) (n := 0 + 0 + 1) (by omega) (by omega) fun h3 R3 => go h3 _ (cK_fg w1 w2 R3) (by omega)
    have v4 : v = 0 ∨ v = 1 ∨ v = 2 ∨ v = 3 := by omega
    rcases v4 with w | w | w | w <;> subst w
    · exact Or.inl (tOc R2 ex (call _))
    · exact Or.inr (Or.inr (Or.inl (tOc R2 ex (call _))))
    · exact Or.inr (Or.inl (tOc R2 ex (call _)))
    · exact Or.inr (Or.inr (Or.inr (tOc R2 ex (call _))))
end C9
