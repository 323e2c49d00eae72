/-! ArrayDeque: at most 16 elements, never grown -/
def tDP (G : zG) (k : t_H) (h : zH) (o : Nat → Nat) (a : Nat) (xs : List Nat) (b hd : Nat) (f : Nat → Value) : Prop :=
  (∀ c x, k c = some x → tIn G o k h c x) ∧ zb G ≤ a ∧ h a = some (.inr (13, [.ref b, .int (nI hd), .int (nI ((hd + xs.length) % 17))])) ∧ h b = some (.inl (tJO, 17, f)) ∧ xs.length ≤ 16 ∧ hd < 17 ∧ (∀ i, i < xs.length → f ((hd + i) % 17) = .ref (xs.getD i 0)) ∧ zb G ≤ b ∧ k b = none ∧ o b = a ∧ ∀ y ∈ xs, tIo h y
section K6
variable {l : Launch} {G : zG} {k : t_H} {h : zH} {d : Nat} {a : Nat} {xs : List Nat}
theorem tR.dq (R : tR G k h) (e : k a = some (tDq xs)) : ∃ o b hd f, tDP G k h o a xs b hd f := by
  obtain ⟨-, ⟨o, H⟩, -⟩ := R
  obtain ⟨h0, ⟨ob, b, ar, h1, h2, ⟨hd, f, h3, h4, h5, h6, h7, h8⟩, h10⟩, h11⟩ := H a _ e
  subst h3 h4
  rcases h10 with h10 | h10
  · omega
  · exact ⟨o, b, hd, f, H, h0, h1, h2, h5, h6, h7, h8, h10.1, h10.2, h11⟩
theorem tDP.cl {o : Nat → Nat} {b hd hd' : Nat} {f g : Nat → Value} {xs' : List Nat} {h' : zH} (R : tR G k h) (e : k a = some (tDq xs)) (P : tDP G k h o a xs b hd f)
    (fr : ∀ c, c ≠ a → c ≠ b → h' c = h c) (e1 : h' a = some (.inr (13, [.ref b, .int (nI hd'), .int (nI ((hd' + xs'.length) % 17))]))) (e2 : h' b = some (.inl (tJO, 17, g))) (hl : xs'.length ≤ 16) (hh : hd' < 17)
    (hf : ∀ i, i < xs'.length → g ((hd' + i) % 17) = .ref (xs'.getD i 0)) (hio : ∀ y ∈ xs', tIo h y) : tR G (tUp k a (tDq xs')) h' := by
  obtain ⟨p1, p2, p3, p4, p5, p6, p7, p8, p9, p10, p11⟩ := P
  have ba : b ≠ a := by intro q; rw [q, p3] at p4; cases p4
  have io := tIo_mono fr ⟨_, _, e1⟩ (Or.inl ⟨_, p4⟩)
  refine R.cl (b := b) (b' := b) p1 (Or.inl (by rw [e]; exact fun z => by cases z)) p2 (fun c h1 h2 _ => fr c h1 h2) (Or.inr ⟨p9, p10, p8⟩) (Or.inl rfl) io ?_
  exact ⟨p2, ⟨_, b, _, e1, e2, ⟨hd', g, rfl, rfl, hl, hh, hf, p8⟩, Or.inr ⟨by rw [tUp_n ba]; exact p9, if_pos rfl⟩⟩, fun y hy => io y (hio y hy)⟩
theorem s_dqInc (ht : l.stackTraces = false) {x : Nat} (hx : x < 17) : zCt l G d MJ3_inc [.int (nI x), .int (nI 17)] h 0 (zIr (nI ((x + 1) % 17)) h) := by
  refine zCt.of kJ3_inc ht (by simp [Value.category]) (Nat.le_of_ble_eq_true rfl) ?_
  refine b_J3_inc_0 _ _ ?_
  rw [nI_1, nI_ltI (by omega) (by omega)]
  refine ⟨fun c => ⟨Nat.le_refl _, ?_, rfl⟩, fun c => ⟨Nat.le_refl _, ?_, rfl⟩⟩
  · rw [Nat.mod_eq_of_lt c]
  · rw [show x + 1 = 17 by omega]; rfl
theorem s_dqDec (ht : l.stackTraces = false) {x : Nat} (hx : x < 17) : zCt l G d MJ3_dec [.int (nI x), .int (nI 17)] h 0 (zIr (nI ((x + 16) % 17)) h) := by
  refine zCt.of kJ3_dec ht (by simp [Value.category]) (Nat.le_of_ble_eq_true rfl) ?_
  refine b_J3_dec_0 _ _ ?_
  rcases Nat.eq_zero_or_pos x with q | q
  · subst q
    exact ⟨fun c => absurd c (by decide), fun _ => ⟨Nat.le_refl _, by decide, rfl⟩⟩
  · obtain ⟨y, rfl⟩ : ∃ y, x = y + 1 := ⟨x - 1, by omega⟩
    rw [pk_m1]
    refine ⟨fun c => ⟨Nat.le_refl _, ?_, rfl⟩, fun c => absurd (nI_pos' (by omega)) c⟩
    rw [show y + 1 + 16 = y + 17 by omega, Nat.add_mod_right, Nat.mod_eq_of_lt (by omega)]
theorem s_dqEl (ht : l.stackTraces = false) {b x y : Nat} {f : Nat → Value} (e : h b = some (.inl (tJO, 17, f))) (hx : x < 17) (hf : f x = .ref y) : zCt l G d MJ3_elementAt [.ref b, .int (nI x)] h 0 (zqR zNo fun z h' => z = y ∧ h' = h) := by
  refine zCt.of kJ3_elementAt ht (by simp [Value.category]) (Nat.le_of_ble_eq_true rfl) ?_
  exact b_J3_elementAt_0 _ _ (zAf.k e (vp_in_nI hx (by omega)) (by rw [nI_clamp (by omega)]; exact hf) ⟨Nat.le_refl _, rfl, rfl⟩)
theorem tJ3_init (ht : l.stackTraces = false) (e : k a = some (tOb 13 [.null, .int 0, .int 0])) (ab : zb G ≤ a) (hd : 2 ≤ d) : tC l G d MJ3_init [.ref a] k 1 (tVr (tUp k a (tDq []))) := by
  intro h R
  refine zCt.of kJ3_init ht (by simp [Value.category]) (Nat.le_of_ble_eq_true rfl) ?_
  have R2 := R
  obtain ⟨-, ⟨o, H⟩, -⟩ := R2
  refine b_J3_init_0 _ (zCall.PV (s_obj0 ht (d := d - 1) (by omega)) (by omega) (by omega) ⟨⟨by decide, by decide, by decide⟩, fun b hb bz h1 e1 => ?_⟩)
  have ba : a ≠ b := by intro q; rw [← q, R.e e] at hb; cases hb
  refine zPf.k (zeN e1 ba (R.e e)) ab fun h2 e2 => ⟨by decide, _, ?_, rfl⟩
  have f1 : h2 a = some (.inr (13, [.ref b, .int (nI 0), .int (nI 0)])) := by rw [e2, zUp_self]; rfl
  refine R.cl (b := a) (b' := b) H (Or.inl (by rw [e]; exact fun z => by cases z)) ab (fun c c1 _ c2 => by rw [e2, zUp_ne _ _ c1, e1, zUp_ne _ _ c2]) (Or.inl rfl) (Or.inr ⟨hb, bz⟩) (tIo_mono (a := a) (b' := b) (fun c c1 c2 => by rw [e2, zUp_ne _ _ c1, e1, zUp_ne _ _ c2]) ⟨_, _, f1⟩ (Or.inr hb)) ?_
  refine ⟨ab, ⟨_, b, _, f1, zeN e2 ba.symm (zeS e1), ⟨0, fun _ => .null, rfl, rfl, by simp, by omega, fun i hi => by simp at hi, bz⟩, Or.inr ⟨by rw [tUp_n ba.symm]; exact R.hn hb, if_pos rfl⟩⟩, fun y hy => by cases hy⟩
theorem tJ3_addLast (ht : l.stackTraces = false) (e : k a = some (tDq xs)) {y : Nat} (hl : xs.length ≤ 15) (hy : ∃ ci fs, k y = some (tOb ci fs)) (hd : 1 ≤ d) : tC l G d MJ3_addLast [.ref a, .ref y] k 0 (tVr (tUp k a (tDq (xs ++ [y])))) := by
  intro h R
  obtain ⟨o, b, hd0, f, P⟩ := R.dq e
  have P2 := P
  obtain ⟨p1, p2, p3, p4, p5, p6, p7, p8, p9, p10, p11⟩ := P
  obtain ⟨ci, fs, hy⟩ := hy
  have ba : a ≠ b := by intro q; rw [← q, p3] at p4; cases p4
  have t17 : (hd0 + xs.length) % 17 < 17 := Nat.mod_lt _ (by omega)
  have hmod : ((hd0 + xs.length) % 17 + 1) % 17 = (hd0 + (xs.length + 1)) % 17 := by omega
  refine zCt.of kJ3_addLast ht (by simp [Value.category]) (Nat.le_of_ble_eq_true rfl) ?_
  refine b_J3_addLast_0 _ _ (zGr.k p3 rfl (zGi.k p3 rfl ⟨⟨ci, fs, R.e hy⟩, zSt1.k p4 (vp_in_nI t17 (by omega)) p8 fun h3 e3 => ?_⟩))
  rw [nI_clamp (by omega)] at e3
  refine zGi.k (zeN e3 ba p3) rfl (zGi.k (zeN e3 ba p3) rfl (zAl.k (zeS e3) (zCall.P (s_dqInc ht t17 (d := d - 1)) (by omega) (Nat.le_refl _) (zPf.k (zeN e3 ba p3) p2 fun h10 e10 => ?_))))
  rw [hmod]
  rw [hmod] at e10
  refine ⟨fun _ => ⟨Nat.le_refl _, _, ?_, rfl⟩, fun c => ?_⟩
  · refine P2.cl R e (fun c c1 c2 => by rw [e10, zUp_ne _ _ c1, e3, zUp_ne _ _ c2]) (by rw [List.length_append]; exact zeS e10) (zeN e10 ba.symm (zeS e3)) (by rw [List.length_append]; simp; omega) p6 (fun i hi => ?_) (fun z hz => ?_)
    · rw [List.length_append, List.length_singleton] at hi
      rw [List.getD_eq_getElem?_getD]
      show (if (hd0 + i) % 17 = (hd0 + xs.length) % 17 then _ else _) = _
      by_cases c : i < xs.length
      · rw [if_neg (by omega), List.getElem?_append_left c, p7 i c, List.getD_eq_getElem?_getD]
      · obtain rfl : i = xs.length := by omega
        rw [if_pos rfl, List.getElem?_concat_length]; rfl
    · rcases List.mem_append.mp hz with z1 | z1
      · exact p11 z z1
      · rw [List.mem_singleton.mp z1]; exact ⟨ci, fs, R.e hy⟩
  · refine absurd (Classical.not_not.mp c) ?_
    rw [nI_eq (by omega) (by omega)]; omega
theorem tJ3_size (ht : l.stackTraces = false) (e : k a = some (tDq xs)) (hd : 1 ≤ d) : tC l G d MJ3_size [.ref a] k 0 (tIr (nI xs.length) k) := by
  intro h R
  obtain ⟨o, b, hd0, f, P⟩ := R.dq e
  obtain ⟨p1, p2, p3, p4, p5, p6, p7, p8, p9, p10, p11⟩ := P
  have ct : zCt l G (d - 1) MJ3_sub [.int (nI ((hd0 + xs.length) % 17)), .int (nI hd0), .int (nI 17)] h 0 (zIr (nI xs.length) h) := by
    refine zCt.of kJ3_sub ht (by simp [Value.category]) (Nat.le_of_ble_eq_true rfl) ?_
    refine b_J3_sub_0 _ _ _ ?_
    by_cases c : hd0 ≤ (hd0 + xs.length) % 17
    · rw [pk_sub c]
      refine ⟨fun _ => ⟨Nat.le_refl _, ?_, rfl⟩, fun q => absurd (nI_pos' (by omega)) q⟩
      congr 1; omega
    · refine ⟨fun q => ?_, fun _ => ⟨Nat.le_refl _, ?_, rfl⟩⟩
      · exact absurd (pk_sneg (a := (hd0 + xs.length) % 17) (b := hd0) (by omega) (by omega)) (Int32.not_lt.mpr q)
      · rw [Int32.sub_eq_add_neg, Int32.add_assoc, Int32.add_comm (-nI hd0), ← Int32.sub_eq_add_neg, pk_sub (by omega), nI_add]
        congr 1; omega
  refine zCt.of kJ3_size ht (by simp [Value.category]) (Nat.le_of_ble_eq_true rfl) ?_
  exact b_J3_size_0 _ (zGi.k p3 rfl (zGi.k p3 rfl (zGr.k p3 rfl (zAl.k p4 (zCall.P ct (by omega) (Nat.le_refl _) ⟨Nat.le_refl _, k, R, rfl, rfl⟩)))))
theorem tJ3_isEmpty (ht : l.stackTraces = false) (e : k a = some (tDq xs)) : tC l G d MJ3_isEmpty [.ref a] k 0 (tIr (zbi xs.isEmpty) k) := by
  intro h R
  obtain ⟨o, b, hd0, f, P⟩ := R.dq e
  obtain ⟨p1, p2, p3, p4, p5, p6, p7, p8, p9, p10, p11⟩ := P
  refine zCt.of kJ3_isEmpty ht (by simp [Value.category]) (Nat.le_of_ble_eq_true rfl) ?_
  refine b_J3_isEmpty_0 _ (zGi.k p3 rfl (zGi.k p3 rfl ?_))
  rw [nI_eq (by omega) (by omega)]
  refine ⟨fun c => ⟨Nat.le_refl _, k, R, ?_, rfl⟩, fun c => ⟨Nat.le_refl _, k, R, ?_, rfl⟩⟩
  · rw [List.isEmpty_eq_false_iff.mpr (fun q => c (by rw [q]; simp; omega))]; rfl
  · have c2 : xs = [] := List.length_eq_zero_iff.mp (by omega)
    subst c2; rfl
theorem tJ3_removeFirst (ht : l.stackTraces = false) {y : Nat} (e : k a = some (tDq (y :: xs))) (hd : 3 ≤ d) : tC l G d MJ3_removeFirst [.ref a] k 0 (tRr y (tUp k a (tDq xs))) := by
  intro h R
  obtain ⟨o, b, hd0, f, P⟩ := R.dq e
  have P2 := P
  obtain ⟨p1, p2, p3, p4, p5, p6, p7, p8, p9, p10, p11⟩ := P
  have ba : a ≠ b := by intro q; rw [← q, p3] at p4; cases p4
  rw [List.length_cons] at p5
  have hy : f hd0 = .ref y := by
    have := p7 0 (by simp)
    rw [Nat.add_zero, Nat.mod_eq_of_lt p6] at this
    exact this
  refine zCt.of kJ3_removeFirst ht (by simp [Value.category]) (Nat.le_of_ble_eq_true rfl) ?_
  have ct : zCt l G (d - 1) MJ3_pollFirst [.ref a] h 0 (fun r h' => ∃ k', tR G k' h' ∧ tRr y (tUp k a (tDq xs)) r k') := by
    refine zCt.of kJ3_pollFirst ht (by simp [Value.category]) (Nat.le_of_ble_eq_true rfl) ?_
    refine b_J3_pollFirst_0 _ (zGr.k p3 rfl (zGi.k p3 rfl (zCall.R (s_dqEl ht p4 p6 hy (d := d - 1 - 1)) (by omega) (Nat.le_refl _) (fun x h' _ q => ?_) (fun E h' _ q => q.elim))))
    obtain ⟨rfl, rfl⟩ := q
    refine zSt1.k p4 (vp_in_nI p6 (by omega)) p8 fun h3 e3 => ?_
    rw [nI_clamp (by omega)] at e3
    refine zAl.k (zeS e3) (zCall.P (s_dqInc ht p6 (d := d - 1 - 1)) (by omega) (Nat.le_refl _) (zPf.k (zeN e3 ba p3) p2 fun h10 e10 => ⟨Nat.le_refl _, _, ?_, rfl, rfl⟩))
    refine P2.cl R e (hd' := (hd0 + 1) % 17) (xs' := xs) (fun c c1 c2 => by rw [e10, zUp_ne _ _ c1, e3, zUp_ne _ _ c2]) ?_ (zeN e10 ba.symm (zeS e3)) (by omega) (Nat.mod_lt _ (by omega)) (fun i hi => ?_) (fun z hz => p11 z (List.mem_cons_of_mem _ hz))
    · rw [e10, zUp_self, show ((hd0 + 1) % 17 + xs.length) % 17 = (hd0 + (x :: xs).length) % 17 by rw [List.length_cons]; omega]; rfl
    · show (if ((hd0 + 1) % 17 + i) % 17 = hd0 then _ else _) = _
      rw [if_neg (by omega), show ((hd0 + 1) % 17 + i) % 17 = (hd0 + (i + 1)) % 17 by omega, p7 (i + 1) (by simp; omega)]; rfl
  refine b_J3_removeFirst_0 _ (zOc.k p3 (zCall.of ct (by omega) (Nat.le_refl _) fun r h' _ q => ?_))
  obtain ⟨k', R', q⟩ := q
  unfold tRr tqR at q; unfold zRR
  split at q
  · exact ⟨Nat.le_refl _, k', R', q⟩
  · exact q.elim
  · exact q.elim
theorem tJ3_removeLast (ht : l.stackTraces = false) {y : Nat} (e : k a = some (tDq (xs ++ [y]))) (hd : 3 ≤ d) : tC l G d MJ3_removeLast [.ref a] k 0 (tRr y (tUp k a (tDq xs))) := by
  intro h R
  obtain ⟨o, b, hd0, f, P⟩ := R.dq e
  have P2 := P
  obtain ⟨p1, p2, p3, p4, p5, p6, p7, p8, p9, p10, p11⟩ := P
  have ba : a ≠ b := by intro q; rw [← q, p3] at p4; cases p4
  have hlen : (xs ++ [y]).length = xs.length + 1 := by simp
  rw [hlen] at p5
  have t17 : (hd0 + (xs ++ [y]).length) % 17 < 17 := Nat.mod_lt _ (by omega)
  have tm : ((hd0 + (xs ++ [y]).length) % 17 + 16) % 17 = (hd0 + xs.length) % 17 := by rw [hlen]; omega
  have hy : f ((hd0 + xs.length) % 17) = .ref y := by
    rw [p7 xs.length (by rw [hlen]; omega), List.getD_eq_getElem?_getD, List.getElem?_concat_length]; rfl
  refine zCt.of kJ3_removeLast ht (by simp [Value.category]) (Nat.le_of_ble_eq_true rfl) ?_
  have ct : zCt l G (d - 1) MJ3_pollLast [.ref a] h 0 (fun r h' => ∃ k', tR G k' h' ∧ tRr y (tUp k a (tDq xs)) r k') := by
    refine zCt.of kJ3_pollLast ht (by simp [Value.category]) (Nat.le_of_ble_eq_true rfl) ?_
    refine b_J3_pollLast_0 _ (zGr.k p3 rfl (zGi.k p3 rfl (zAl.k p4 (zCall.P (s_dqDec ht t17 (d := d - 1 - 1)) (by omega) (Nat.le_refl _) ?_))))
    rw [tm]
    refine zCall.R (s_dqEl ht p4 (Nat.mod_lt _ (by omega)) hy (d := d - 1 - 1)) (by omega) (Nat.le_refl _) (fun x h' _ q => ?_) (fun E h' _ q => q.elim)
    obtain ⟨rfl, rfl⟩ := q
    refine zPf.k p3 p2 fun h2 e2 => zSt1.k (zeN e2 ba.symm p4) (vp_in_nI (Nat.mod_lt _ (by omega)) (by omega)) p8 fun h3 e3 => ⟨Nat.le_refl _, _, ?_, rfl, rfl⟩
    rw [nI_clamp (by omega)] at e3
    refine P2.cl R e (hd' := hd0) (xs' := xs) (fun c c1 c2 => by rw [e3, zUp_ne _ _ c2, e2, zUp_ne _ _ c1]) (zeN e3 ba (zeS e2)) (zeS e3) (by omega) p6 (fun i hi => ?_) (fun z hz => p11 z (List.mem_append_left _ hz))
    show (if (hd0 + i) % 17 = (hd0 + xs.length) % 17 then _ else _) = _
    rw [if_neg (by omega), p7 i (by rw [hlen]; omega), List.getD_eq_getElem?_getD, List.getD_eq_getElem?_getD, List.getElem?_append_left hi]
  refine b_J3_removeLast_0 _ (zOc.k p3 (zCall.of ct (by omega) (Nat.le_refl _) fun r h' _ q => ?_))
  obtain ⟨k', R', q⟩ := q
  unfold tRr tqR at q; unfold zRR
  split at q
  · exact ⟨Nat.le_refl _, k', R', q⟩
  · exact q.elim
  · exact q.elim
end K6
