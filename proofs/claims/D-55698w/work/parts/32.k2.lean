/-! ArrayList -/
/-- a list, opened: its array b of cap places -/
def tLP (G : zG) (k : t_H) (h : zH) (o : Nat → Nat) (a : Nat) (m : Int32) (xs : List Nat) (b cap : Nat) (f : Nat → Value) : Prop :=
  (∀ c x, k c = some x → tIn G o k h c x) ∧ zb G ≤ a ∧ h a = some (.inr (11, [.int m, .ref b, .int (nI xs.length)])) ∧ h b = some (.inl (tJO, cap, f)) ∧ xs.length ≤ cap ∧ cap ≤ 63 ∧ (∀ i, i < xs.length → f i = .ref (xs.getD i 0)) ∧
  (cap = 0 → zZs G "java/util/ArrayList" "DEFAULTCAPACITY_EMPTY_ELEMENTDATA" = .ref b) ∧ (0 < cap → zb G ≤ b ∧ k b = none ∧ o b = a) ∧ (∀ y ∈ xs, tIo h y) ∧ (b < zb G ∨ (k b = none ∧ o b = a))
section K3
variable {G : zG} {k : t_H} {h : zH}
theorem tR.li (R : tR G k h) {a : Nat} {m : Int32} {xs : List Nat} (e : k a = some (tLi m xs)) : ∃ o b cap f, tLP G k h o a m xs b cap f := by
  obtain ⟨-, ⟨o, H⟩, -⟩ := R
  obtain ⟨h0, ⟨ob, b, ar, h1, h2, ⟨h3, cap, f, h4, h5, h6, h7, h8, h9⟩, h10⟩, h11⟩ := H a _ e
  subst h3 h4
  refine ⟨o, b, cap, f, H, h0, h1, h2, h5, h6, h7, h8, fun c => ?_, h11, h10⟩
  rcases h10 with h10 | h10
  · have := h9 c; omega
  · exact ⟨h9 c, h10⟩
theorem tIo_mono {h' : zH} {a b' : Nat} (fr : ∀ c, c ≠ a → c ≠ b' → h' c = h c) (ha : tIo h' a) (hb : (∃ y, h b' = some (.inl y)) ∨ h b' = none) : ∀ y, tIo h y → tIo h' y := by
  rintro y ⟨ci, fs, hy⟩
  by_cases ya : y = a
  · rw [ya]; exact ha
  · refine ⟨ci, fs, ?_⟩
    rw [fr y ya]
    · exact hy
    · intro q; subst q
      rcases hb with ⟨z, hb⟩ | hb <;> rw [hb] at hy <;> cases hy
theorem tIo_m1 {h' : zH} {a : Nat} (fr : ∀ c, c ≠ a → h' c = h c) (ha : tIo h' a) : ∀ y, tIo h y → tIo h' y := by
  rintro y ⟨ci, fs, hy⟩
  by_cases ya : y = a
  · rw [ya]; exact ha
  · exact ⟨ci, fs, by rw [fr y ya]; exact hy⟩
/-- a list with another content -/
theorem tLP.cl {o : Nat → Nat} {a b b' cap cap' : Nat} {m m' : Int32} {xs xs' : List Nat} {f g : Nat → Value} {h' : zH} (R : tR G k h) (e : k a = some (tLi m xs)) (P : tLP G k h o a m xs b cap f)
    (fr : ∀ c, c ≠ a → c ≠ b' → h' c = h c) (hb : (b' = b ∧ 0 < cap) ∨ (h b' = none ∧ zb G ≤ b')) (e1 : h' a = some (.inr (11, [.int m', .ref b', .int (nI xs'.length)]))) (e2 : h' b' = some (.inl (tJO, cap', g))) (hl : xs'.length ≤ cap') (h63 : cap' ≤ 63) (h0 : 0 < cap')
    (hf : ∀ i, i < xs'.length → g i = .ref (xs'.getD i 0)) (hio : ∀ y ∈ xs', tIo h y) : tR G (tUp k a (tLi m' xs')) h' := by
  obtain ⟨p1, p2, p3, p4, p5, p6, p7, p8, p9, p10, p11⟩ := P
  have bz : zb G ≤ b' := by
    rcases hb with ⟨q, q2⟩ | q
    · rw [q]; exact (p9 q2).1
    · exact q.2
  have io : ∀ y, tIo h y → tIo h' y := tIo_mono fr ⟨_, _, e1⟩ (by
    rcases hb with ⟨q, q2⟩ | q
    · rw [q]; exact Or.inl ⟨_, p4⟩
    · exact Or.inr q.1)
  have ba : b' ≠ a := by
    rcases hb with ⟨q, q2⟩ | q
    · rw [q]; intro z; rw [z, p3] at p4; cases p4
    · intro z; rw [z, p3] at q; cases q.1
  have new : tIn G (fun c => if c = b' then a else o c) (tUp k a (tLi m' xs')) h' a (tLi m' xs') := by
    refine ⟨p2, ⟨_, b', _, e1, e2, ⟨rfl, cap', g, rfl, hl, h63, hf, fun z => by omega, fun _ => bz⟩, Or.inr ⟨?_, if_pos rfl⟩⟩, fun y hy => io y (hio y hy)⟩
    rw [tUp_n ba]
    rcases hb with ⟨q, q2⟩ | q
    · rw [q]; exact (p9 q2).2.1
    · exact R.hn q.1
  rcases hb with ⟨q, q2⟩ | q
  · exact R.cl (b := b') (b' := b') p1 (Or.inl (by rw [e]; exact fun z => by cases z)) p2 (fun c h1 h2 _ => fr c h1 h2) (Or.inr (by rw [q]; exact ⟨(p9 q2).2.1, (p9 q2).2.2, (p9 q2).1⟩)) (Or.inl rfl) io new
  · exact R.cl (b := a) (b' := b') p1 (Or.inl (by rw [e]; exact fun z => by cases z)) p2 (fun c h1 _ h2 => fr c h1 h2) (Or.inl rfl) (Or.inr q) io new
theorem tLsz (R : tR G k h) {a : Nat} {m : Int32} {xs : List Nat} {p : Int32 → Prop} (e : k a = some (tLi m xs)) (q : p (nI xs.length)) : zGi h a 11 2 p := by
  obtain ⟨o, b, cap, f, P⟩ := R.li e
  exact zGi.k P.2.2.1 rfl q
theorem tLmd (R : tR G k h) {a : Nat} {m : Int32} {xs : List Nat} {p : Int32 → Prop} (e : k a = some (tLi m xs)) (q : p m) : zGi h a 11 0 p := by
  obtain ⟨o, b, cap, f, P⟩ := R.li e
  exact zGi.k P.2.2.1 rfl q
theorem tLmp (R : tR G k h) {a : Nat} {m v : Int32} {xs : List Nat} {p : zH → Prop} (e : k a = some (tLi m xs)) (q : ∀ h1, tR G (tUp k a (tLi v xs)) h1 → p h1) : zPf G h a 11 0 (.int v) p := by
  obtain ⟨o, b, cap, f, P⟩ := R.li e
  obtain ⟨p1, p2, p3, p4, p5, p6, p7, p8, p9, p10, p11⟩ := P
  have ba : b ≠ a := by intro q; rw [q, p3] at p4; cases p4
  refine zPf.k p3 p2 fun h1 e1 => q h1 ?_
  have f1 : h1 a = some (.inr (11, [.int v, .ref b, .int (nI xs.length)])) := by rw [e1, zUp_self]; rfl
  have io : ∀ y, tIo h y → tIo h1 y := by
    rintro y ⟨ci, fs, hy⟩
    by_cases ya : y = a
    · rw [ya]; exact ⟨_, _, f1⟩
    · exact ⟨ci, fs, by rw [e1, zUp_ne _ _ ya]; exact hy⟩
  refine R.cl (b := a) (b' := a) p1 (Or.inl (by rw [e]; exact fun z => by cases z)) p2 (fun c h1 _ _ => by rw [e1, zUp_ne _ _ h1]) (Or.inl rfl) (Or.inl rfl) io ?_
  refine ⟨p2, ⟨_, b, _, f1, by rw [e1, zUp_ne _ _ ba]; exact p4, ⟨rfl, cap, f, rfl, p5, p6, p7, p8, fun c => (p9 c).1⟩, ?_⟩, fun y hy => io y (p10 y hy)⟩
  rcases p11 with c | c
  · exact Or.inl c
  · exact Or.inr ⟨by rw [tUp_n ba]; exact c.1, by show (if b = a then a else o b) = a; rw [if_neg ba]; exact c.2⟩
end K3
section K4
variable {l : Launch} {G : zG} {k : t_H} {h : zH} {d : Nat} {a : Nat} {m : Int32} {xs : List Nat}
theorem tJ2_size (ht : l.stackTraces = false) (e : k a = some (tLi m xs)) : tC l G d MJ2_size [.ref a] k 0 (tIr (nI xs.length) k) := by
  intro h R
  refine zCt.of kJ2_size ht (by simp [Value.category]) (Nat.le_of_ble_eq_true rfl) ?_
  exact b_J2_size_0 _ (tLsz R e ⟨Nat.le_refl _, k, R, rfl, rfl⟩)
theorem nI_e0 {n : Nat} (h : n < 2 ^ 31) : nI n = 0 ↔ n = 0 := by
  rw [← nI_0]; exact nI_eq h (by omega)
theorem tJ2_isEmpty (ht : l.stackTraces = false) (e : k a = some (tLi m xs)) : tC l G d MJ2_isEmpty [.ref a] k 0 (tIr (zbi xs.isEmpty) k) := by
  intro h R
  obtain ⟨o, b, cap, f, P⟩ := R.li e
  have hl : xs.length ≤ 63 := by have := P.2.2.2.2.1; have := P.2.2.2.2.2.1; omega
  refine zCt.of kJ2_isEmpty ht (by simp [Value.category]) (Nat.le_of_ble_eq_true rfl) ?_
  refine b_J2_isEmpty_0 _ (tLsz R e ?_)
  rw [nI_e0 (by omega)]
  refine ⟨fun c => ⟨Nat.le_refl _, k, R, ?_, rfl⟩, fun c => ⟨Nat.le_refl _, k, R, ?_, rfl⟩⟩
  · rw [List.isEmpty_eq_false_iff.mpr (fun q => c (by rw [q]; rfl))]; rfl
  · have c2 : xs = [] := List.length_eq_zero_iff.mp (Classical.not_not.mp c)
    subst c2; rfl
theorem s_elementData (ht : l.stackTraces = false) {b cap j y : Nat} {f : Nat → Value} {sz : Value} (e1 : h a = some (.inr (11, [.int m, .ref b, sz]))) (e2 : h b = some (.inl (tJO, cap, f))) (hj : j < cap) (hc : cap ≤ 63) (hf : f j = .ref y) : zCt l G d MJ2_elementData [.ref a, .int (nI j)] h 0 (zqR zNo fun x h' => x = y ∧ h' = h) := by
  refine zCt.of kJ2_elementData ht (by simp [Value.category]) (Nat.le_of_ble_eq_true rfl) ?_
  exact b_J2_elementData_0 _ _ (zGr.k e1 rfl (zAf.k e2 (vp_in_nI hj (by omega)) (by rw [nI_clamp (by omega)]; exact hf) ⟨Nat.le_refl _, rfl, rfl⟩))
theorem tJ2_get (ht : l.stackTraces = false) (e : k a = some (tLi m xs)) {j : Nat} (hj : j < xs.length) (hd : 2 ≤ d) : tC l G d MJ2_get [.ref a, .int (nI j)] k 0 (tRr (xs.getD j 0) k) := by
  intro h R
  obtain ⟨o, b, cap, f, P⟩ := R.li e
  obtain ⟨p1, p2, p3, p4, p5, p6, p7, p8, p9, p10, p11⟩ := P
  refine zCt.of kJ2_get ht (by simp [Value.category]) (Nat.le_of_ble_eq_true rfl) ?_
  refine b_J2_get_0 _ _ (zGi.k p3 rfl (zCall.P (s_ci20 ht (nI_pos (by omega)) (nI_lt hj (by omega)) (d := d - 1) (by omega)) (by omega) (Nat.le_refl _) (zOc.k p3 ?_)))
  exact zCall.R (s_elementData ht p3 p4 (by omega) p6 (p7 j hj) (d := d - 1)) (by omega) (Nat.le_refl _) (fun x h' _ q => by obtain ⟨rfl, rfl⟩ := q; exact ⟨Nat.le_refl _, k, R, rfl, rfl⟩) (fun E h' _ q => q.elim)
theorem tJ2_set (ht : l.stackTraces = false) (e : k a = some (tLi m xs)) {j y : Nat} (hj : j < xs.length) (hy : ∃ ci fs, k y = some (tOb ci fs)) (hd : 2 ≤ d) : tC l G d MJ2_set [.ref a, .int (nI j), .ref y] k 0 (tRr (xs.getD j 0) (tUp k a (tLi m (xs.set j y)))) := by
  intro h R
  obtain ⟨o, b, cap, f, P⟩ := R.li e
  have P2 := P
  obtain ⟨p1, p2, p3, p4, p5, p6, p7, p8, p9, p10, p11⟩ := P
  obtain ⟨ci, fs, hy⟩ := hy
  have c0 : 0 < cap := by omega
  have ab : a ≠ b := by intro q; rw [← q, p3] at p4; cases p4
  refine zCt.of kJ2_set ht (by simp [Value.category]) (Nat.le_of_ble_eq_true rfl) ?_
  refine b_J2_set_0 _ _ _ (zGi.k p3 rfl (zCall.P (s_ci20 ht (nI_pos (by omega)) (nI_lt hj (by omega)) (d := d - 1) (by omega)) (by omega) (Nat.le_refl _) (zOc.k p3 ?_)))
  refine zCall.R (s_elementData ht p3 p4 (by omega) p6 (p7 j hj) (d := d - 1)) (by omega) (Nat.le_refl _) (fun x h' _ q => ?_) (fun E h' _ q => q.elim)
  obtain ⟨rfl, rfl⟩ := q
  refine zGr.k p3 rfl ⟨⟨ci, fs, R.e hy⟩, zSt1.k p4 (vp_in_nI (by omega) (by omega)) (p9 c0).1 fun h1 e1 => ⟨Nat.le_refl _, _, ?_, rfl, rfl⟩⟩
  rw [nI_clamp (by omega)] at e1
  refine P2.cl R e (b' := b) (fun c _ h2 => by rw [e1, zUp_ne _ _ h2]) (Or.inl ⟨rfl, c0⟩) (by rw [e1, zUp_ne _ _ ab, List.length_set]; exact p3) (by rw [e1, zUp_self]) (by rw [List.length_set]; exact p5) p6 c0 (fun i hi => ?_) (fun z hz => ?_)
  · rw [List.length_set] at hi
    simp only [zUv, List.getD_eq_getElem?_getD, List.getElem?_set]
    by_cases c : i = j
    · subst c; simp [hi]
    · rw [if_neg c, if_neg (fun q => c q.symm), p7 i hi, List.getD_eq_getElem?_getD]
  · rcases List.mem_or_eq_of_mem_set hz with q | q
    · exact p10 z q
    · rw [q]; exact ⟨ci, fs, R.e hy⟩
/-- the element comes behind all others -/
theorem s_add2 (ht : l.stackTraces = false) (hS : tS G) {b cap len y : Nat} {f : Nat → Value} (ab : zb G ≤ a) (e1 : h a = some (.inr (11, [.int m, .ref b, .int (nI len)]))) (e2 : h b = some (.inl (tJO, cap, f))) (hl : len ≤ cap) (h40 : len ≤ 40) (h63 : cap ≤ 63)
    (h0 : cap = 0 → zZs G "java/util/ArrayList" "DEFAULTCAPACITY_EMPTY_ELEMENTDATA" = .ref b) (h1 : 0 < cap → zb G ≤ b) (he : ∀ i, i < len → zEl h tJO (f i)) (hy : tIo h y) (hd : 5 ≤ d) :
    zCt l G d MJ2_add_2 [.ref a, .ref y, .ref b, .int (nI len)] h 1 (zqV zNo fun h' => ∃ b' cap' g, ((b' = b ∧ 0 < cap) ∨ (h b' = none ∧ zb G ≤ b')) ∧ (∀ c, c ≠ a → c ≠ b' → h' c = h c) ∧ h' a = some (.inr (11, [.int m, .ref b', .int (nI (len + 1))])) ∧ h' b' = some (.inl (tJO, cap', g)) ∧ len < cap' ∧ cap' ≤ 63 ∧ (∀ i, i < len → g i = f i) ∧ g len = .ref y) := by
  refine zCt.of kJ2_add_2 ht (by simp [Value.category]) (Nat.le_of_ble_eq_true rfl) ?_
  have ba : a ≠ b := by intro q; rw [← q, e1] at e2; cases e2
  refine b_J2_add_2_0 _ _ _ _ (zAl.k e2 ?_)
  rw [nI_eq (by omega) (by omega)]
  refine ⟨fun c => ⟨hy, zSt1.k e2 (vp_in_nI (by omega) (by omega)) (h1 (by omega)) fun h2 e3 => zPf.k (zeN e3 ba e1) ab fun h3 e4 => ⟨by omega, b, cap, zUv f len (.ref y), Or.inl ⟨rfl, by omega⟩, fun c c1 c2 => ?_, ?_, ?_, by omega, h63, fun i hi => ?_, ?_⟩⟩, fun c => ?_⟩
  · rw [e4, zUp_ne _ _ c1, e3, zUp_ne _ _ c2]
  · rw [e4, zUp_self, nI_1]; rfl
  · rw [e4, zUp_ne _ _ ba.symm, e3, zUp_self, nI_clamp (by omega)]
  · exact if_neg (by omega)
  · exact if_pos rfl
  · obtain rfl : len = cap := Classical.not_not.mp c
    refine zOc.k e1 (zCall.R (s_grow ht hS ab e1 e2 h40 h0 he (d := d - 1) (by omega)) (by omega) (Nat.le_refl _) (fun x h' _ q => ?_) (fun E h' _ q => q.elim))
    obtain ⟨q1, q2, cap', g, q3, q4, q5, q6⟩ := q
    have ax : a ≠ x := by intro q; rw [← q, e1] at q1; cases q1
    have e5 : h' x = some (.inl (tJO, cap', g)) := by rw [q5, zUp_ne _ _ ax.symm, zUp_self]
    have hy' : tIo h' y := tIo_mono (a := a) (b' := x) (fun c c1 c2 => by rw [q5, zUp_ne _ _ c1, zUp_ne _ _ c2]) ⟨_, _, by rw [q5, zUp_self]⟩ (Or.inr q1) y hy
    refine ⟨hy', zSt1.k e5 (vp_in_nI (by omega) (by omega)) q2 fun h2 e3 => zPf.k (zeN e3 ax (zeS q5)) ab fun h3 e4 => ⟨by omega, x, cap', zUv g len (.ref y), Or.inr ⟨q1, q2⟩, fun c c1 c2 => ?_, ?_, ?_, q3, q4, fun i hi => ?_, ?_⟩⟩
    · rw [e4, zUp_ne _ _ c1, e3, zUp_ne _ _ c2, q5, zUp_ne _ _ c1, zUp_ne _ _ c2]
    · rw [e4, zUp_self, nI_1]; rfl
    · rw [e4, zUp_ne _ _ ax.symm, e3, zUp_self, nI_clamp (by omega)]
    · rw [← q6 i hi]; exact if_neg (by omega)
    · exact if_pos rfl
theorem tEl {b cap : Nat} {o : Nat → Nat} {f : Nat → Value} (P : tLP G k h o a m xs b cap f) : ∀ i, i < xs.length → zEl h tJO (f i) := fun i hi => by
  obtain ⟨p1, p2, p3, p4, p5, p6, p7, p8, p9, p10, p11⟩ := P
  obtain ⟨ci, fs, e⟩ := p10 (xs.getD i 0) (by rw [List.getD_eq_getElem?_getD, List.getElem?_eq_getElem hi]; exact List.getElem_mem hi)
  exact Or.inr ⟨rfl, Or.inr ⟨_, ci, fs, p7 i hi, e⟩⟩
theorem tJ2_add (ht : l.stackTraces = false) (hS : tS G) (e : k a = some (tLi m xs)) {y : Nat} (hl : xs.length ≤ 40) (hy : ∃ ci fs, k y = some (tOb ci fs)) (hd : 6 ≤ d) : tC l G d MJ2_add [.ref a, .ref y] k 1 (tIr 1 (tUp k a (tLi (m + 1) (xs ++ [y])))) := by
  intro h R
  obtain ⟨ci, fs, hy⟩ := hy
  have ya : y ≠ a := by intro q; rw [q, e] at hy; cases hy
  refine zCt.of kJ2_add ht (by simp [Value.category]) (Nat.le_of_ble_eq_true rfl) ?_
  refine b_J2_add_0 _ _ (tLmd R e (tLmp R e fun h2 R2 => ?_))
  have e2 : tUp k a (tLi (m + 1) xs) a = some (tLi (m + 1) xs) := tUp_s _ _ _
  have hy2 : tUp k a (tLi (m + 1) xs) y = some (tOb ci fs) := by rw [tUp_n ya]; exact hy
  rw [← tUp_up k a (tLi (m + 1) xs)]
  generalize tUp k a (tLi (m + 1) xs) = k2 at *
  obtain ⟨o, b, cap, f, P⟩ := R2.li e2
  have P2 := P
  obtain ⟨p1, p2, p3, p4, p5, p6, p7, p8, p9, p10, p11⟩ := P
  refine zGr.k p3 rfl (zGi.k p3 rfl (zOc.k p3 ?_))
  refine zCall.V (s_add2 ht hS p2 p3 p4 p5 hl p6 p8 (fun c => (p9 c).1) (tEl P2) ⟨ci, fs, R2.e hy2⟩ (d := d - 1) (by omega)) (by omega) (Nat.le_refl _) (fun h' _ q => ?_) (fun E h' _ q => q.elim)
  obtain ⟨b', cap', g, q1, q2, q3, q4, q5, q6, q7, q8⟩ := q
  refine ⟨by omega, _, ?_, rfl, rfl⟩
  refine P2.cl R2 e2 q2 q1 (by rw [List.length_append]; exact q3) q4 (by rw [List.length_append]; exact q5) q6 (by omega) (fun i hi => ?_) (fun z hz => ?_)
  · rw [List.length_append, List.length_singleton] at hi
    rw [List.getD_eq_getElem?_getD]
    by_cases c : i < xs.length
    · rw [List.getElem?_append_left c, q7 i c, p7 i c, List.getD_eq_getElem?_getD]
    · obtain rfl : i = xs.length := by omega
      rw [q8, List.getElem?_concat_length]; rfl
  · rcases List.mem_append.mp hz with z1 | z1
    · exact p10 z z1
    · rw [List.mem_singleton.mp z1]; exact ⟨ci, fs, R2.e hy2⟩
theorem s_rcfa (ht : l.stackTraces = false) {len : Nat} {b : Value} (e : h a = some (.inr (11, [.int m, b, .int (nI len)]))) (hl : len ≤ 63) : zCt l G d MJ2_rangeCheckForAdd [.ref a, .int 0] h 0 (zVr h) := by
  refine zCt.of kJ2_rangeCheckForAdd ht (by simp [Value.category]) (Nat.le_of_ble_eq_true rfl) ?_
  exact b_J2_rangeCheckForAdd_0 _ _ (zGi.k e rfl ⟨fun c => absurd c (nI_pos (by omega)), fun _ => ⟨fun _ => ⟨Nat.le_refl _, rfl⟩, fun c => absurd (Int32.le_refl 0) c⟩⟩)
theorem tCons {xs : List Nat} {y : Nat} {f g : Nat → Value} (p7 : ∀ i, i < xs.length → f i = .ref (xs.getD i 0)) (hg : ∀ i, i < xs.length → g i = f i) : ∀ i, i < (y :: xs).length → zUv (va_cpy g g 0 1 xs.length) 0 (.ref y) i = .ref ((y :: xs).getD i 0) := by
  intro i hi
  rw [List.length_cons] at hi
  cases i with
  | zero => rfl
  | succ i =>
    show va_cpy g g 0 1 xs.length (i + 1) = .ref (xs.getD i 0)
    rw [va_cpy, if_pos ⟨by omega, by omega⟩, show 0 + (i + 1 - 1) = i by omega, hg i (by omega), p7 i (by omega)]
theorem tJ2_add0 (ht : l.stackTraces = false) (hS : tS G) (e : k a = some (tLi m xs)) {y : Nat} (hl : xs.length ≤ 40) (hy : ∃ ci fs, k y = some (tOb ci fs)) (hd : 6 ≤ d) : tC l G d MJ2_add_3 [.ref a, .int 0, .ref y] k 1 (tVr (tUp k a (tLi (m + 1) (y :: xs)))) := by
  intro h R
  obtain ⟨ci, fs, hy⟩ := hy
  have ya : y ≠ a := by intro q; rw [q, e] at hy; cases hy
  refine zCt.of kJ2_add_3 ht (by simp [Value.category]) (Nat.le_of_ble_eq_true rfl) ?_
  obtain ⟨o0, b0, cap0, f0, P0⟩ := R.li e
  have hP0 := P0.2.2.2.2.2.1
  have hP1 := P0.2.2.2.2.1
  refine b_J2_add_3_0 _ _ _ (zOc.k P0.2.2.1 (zCall.PV (s_rcfa ht P0.2.2.1 (by omega) (d := d - 1)) (by omega) (by omega) (tLmd R e (tLmp R e fun h2 R2 => ?_))))
  have e2 : tUp k a (tLi (m + 1) xs) a = some (tLi (m + 1) xs) := tUp_s _ _ _
  have hy2 : tUp k a (tLi (m + 1) xs) y = some (tOb ci fs) := by rw [tUp_n ya]; exact hy
  rw [← tUp_up k a (tLi (m + 1) xs)]
  generalize tUp k a (tLi (m + 1) xs) = k2 at *
  clear P0 hP0 hP1 R e hy
  obtain ⟨o, b, cap, f, P⟩ := R2.li e2
  have P2 := P
  obtain ⟨p1, p2, p3, p4, p5, p6, p7, p8, p9, p10, p11⟩ := P
  have ab : a ≠ b := by intro q; rw [← q, p3] at p4; cases p4
  have iy : tIo h2 y := ⟨ci, fs, R2.e hy2⟩
  have c0 : (0 : Int32).toNatClampNeg = 0 := by decide
  have c1 : ((0 : Int32) + 1).toNatClampNeg = 1 := by decide
  have s0 : nI xs.length - 0 = nI xs.length := by rw [show (0 : Int32) = nI 0 by rfl, pk_sub (by omega), Nat.sub_zero]
  have cl : (nI xs.length).toNatClampNeg = xs.length := nI_clamp (by omega)
  refine zGi.k p3 rfl (zGr.k p3 rfl (zAl.k p4 ?_))
  rw [nI_eq (by omega) (by omega), s0]
  refine ⟨fun c => ⟨by omega, zAw.k p4 (zAw.k p4 ⟨(p9 (by omega)).1, by decide, by decide, nI_pos (by omega), by rw [c0, cl]; omega, by rw [c1, cl]; omega, fun i hi => ?_, fun h3 e3 => ?_⟩)⟩, fun c => ?_⟩
  · rw [cl] at hi; rw [c0, Nat.zero_add]; exact tEl P2 i hi
  · rw [c0, c1, cl] at e3
    have f1 : h3 b = some (.inl (tJO, cap, va_cpy f f 0 1 xs.length)) := by rw [e3, zUp_self]
    have f2 : h3 a = some (.inr (11, [.int (m + 1), .ref b, .int (nI xs.length)])) := by rw [e3, zUp_ne _ _ ab]; exact p3
    have iy3 : tIo h3 y := tIo_mono (a := a) (b' := b) (fun c _ c2 => by rw [e3, zUp_ne _ _ c2]) ⟨_, _, f2⟩ (Or.inl ⟨_, p4⟩) y iy
    refine ⟨iy3, zSt1.k f1 (vp_in_nI (n := 0) (by omega) (by omega)) (p9 (by omega)).1 fun h4 e4 => zPf.k (zeN e4 ab f2) p2 fun h5 e5 => ⟨by omega, _, ?_, rfl⟩⟩
    refine P2.cl R2 e2 (b' := b) (fun c d1 d2 => by rw [e5, zUp_ne _ _ d1, e4, zUp_ne _ _ d2, e3, zUp_ne _ _ d2]) (Or.inl ⟨rfl, by omega⟩) (by rw [e5, zUp_self, List.length_cons, ← nI_1]; rfl) (by rw [e5, zUp_ne _ _ ab.symm, e4, zUp_self, c0]) (by rw [List.length_cons]; omega) p6 (by omega) (tCons p7 (fun i _ => rfl)) (fun z hz => ?_)
    rcases List.mem_cons.mp hz with z1 | z1
    · rw [z1]; exact iy
    · exact p10 z z1
  · have cc : xs.length = cap := Classical.not_not.mp c
    refine zOc.k p3 (zCall.R (s_grow ht hS p2 (by rw [← cc]; exact p3) p4 (by omega) p8 (by rw [← cc]; exact tEl P2) (d := d - 1) (by omega)) (by omega) (by omega) (fun x h3 _ q => ?_) (fun E h' _ q => q.elim))
    obtain ⟨q1, q2, cap', g, q3, q4, q5, q6⟩ := q
    have ax : a ≠ x := by intro q; rw [← q, p3] at q1; cases q1
    have f1 : h3 x = some (.inl (tJO, cap', g)) := by rw [q5, zUp_ne _ _ ax.symm, zUp_self]
    have f2 : h3 a = some (.inr (11, [.int (m + 1), .ref x, .int (nI xs.length)])) := by rw [q5, zUp_self, cc]
    have fr3 : ∀ c, c ≠ a → c ≠ x → h3 c = h2 c := fun c d1 d2 => by rw [q5, zUp_ne _ _ d1, zUp_ne _ _ d2]
    have io3 : ∀ y, tIo h2 y → tIo h3 y := tIo_mono fr3 ⟨_, _, f2⟩ (Or.inr q1)
    refine ⟨by omega, zAw.k f1 (zAw.k f1 ⟨q2, by decide, by decide, nI_pos (by omega), by rw [c0, cl]; omega, by rw [c1, cl]; omega, fun i hi => ?_, fun h4 e4 => ?_⟩)⟩
    · rw [cl] at hi; rw [c0, Nat.zero_add, q6 i (by omega)]
      rcases tEl P2 i hi with z | ⟨z0, z | ⟨w, ci2, fs2, z1, z2⟩⟩
      · exact Or.inl z
      · exact Or.inr ⟨z0, Or.inl z⟩
      · obtain ⟨ci3, fs3, z3⟩ := io3 w ⟨ci2, fs2, z2⟩
        exact Or.inr ⟨z0, Or.inr ⟨w, ci3, fs3, z1, z3⟩⟩
    · rw [c0, c1, cl] at e4
      have f3 : h4 x = some (.inl (tJO, cap', va_cpy g g 0 1 xs.length)) := by rw [e4, zUp_self]
      have f4 : h4 a = some (.inr (11, [.int (m + 1), .ref x, .int (nI xs.length)])) := by rw [e4, zUp_ne _ _ ax]; exact f2
      have iy4 : tIo h4 y := tIo_mono (a := a) (b' := x) (fun c _ c2 => by rw [e4, zUp_ne _ _ c2]) ⟨_, _, f4⟩ (Or.inl ⟨_, f1⟩) y (io3 y iy)
      refine ⟨iy4, zSt1.k f3 (vp_in_nI (n := 0) (by omega) (by omega)) q2 fun h5 e5 => zPf.k (zeN e5 ax f4) p2 fun h6 e6 => ⟨by omega, _, ?_, rfl⟩⟩
      refine P2.cl R2 e2 (b' := x) (fun c d1 d2 => by rw [e6, zUp_ne _ _ d1, e5, zUp_ne _ _ d2, e4, zUp_ne _ _ d2]; exact fr3 c d1 d2) (Or.inr ⟨q1, q2⟩) (by rw [e6, zUp_self, List.length_cons, ← nI_1]; rfl) (by rw [e6, zUp_ne _ _ ax.symm, e5, zUp_self, c0]) (by rw [List.length_cons]; omega) q4 (by omega) (tCons p7 (fun i hi => q6 i (by omega))) (fun z hz => ?_)
      rcases List.mem_cons.mp hz with z1 | z1
      · rw [z1]; exact iy
      · exact p10 z z1
theorem tErase {xs : List Nat} {j : Nat} {f : Nat → Value} {v : Value} (hj : j < xs.length) (p7 : ∀ i, i < xs.length → f i = .ref (xs.getD i 0)) : ∀ i, i < (xs.eraseIdx j).length → zUv (va_cpy f f (j + 1) j (xs.length - 1 - j)) (xs.length - 1) v i = .ref ((xs.eraseIdx j).getD i 0) := by
  intro i hi
  rw [List.length_eraseIdx_of_lt hj] at hi
  rw [List.getD_eq_getElem?_getD, List.getElem?_eraseIdx]
  show (if i = xs.length - 1 then v else _) = _
  rw [if_neg (by omega), va_cpy]
  by_cases c : i < j
  · rw [if_neg (by omega), if_pos c, p7 i (by omega), List.getD_eq_getElem?_getD]
  · rw [if_pos (by omega), if_neg c, show j + 1 + (i - j) = i + 1 by omega, p7 (i + 1) (by omega), List.getD_eq_getElem?_getD]
theorem s_fastRemove (ht : l.stackTraces = false) (e : k a = some (tLi m xs)) {o : Nat → Nat} {b cap : Nat} {f : Nat → Value} (R : tR G k h) (P : tLP G k h o a m xs b cap f) {j : Nat} (hj : j < xs.length) (hd : 1 ≤ d) : zCt l G d MJ2_fastRemove [.ref a, .ref b, .int (nI j)] h 0 (fun r h' => ∃ k', tR G k' h' ∧ tVr (tUp k a (tLi (m + 1) (xs.eraseIdx j))) r k') := by
  have P2 := P
  obtain ⟨p1, p2, p3, p4, p5, p6, p7, p8, p9, p10, p11⟩ := P
  have ab : a ≠ b := by intro q; rw [← q, p3] at p4; cases p4
  have c0 : 0 < cap := by omega
  have bz := (p9 c0).1
  refine zCt.of kJ2_fastRemove ht (by simp [Value.category]) (Nat.le_of_ble_eq_true rfl) ?_
  refine b_J2_fastRemove_0 _ _ _ (zGi.k p3 rfl (zPf.k p3 p2 fun h2 e2 => ?_))
  have f1 : h2 a = some (.inr (11, [.int (m + 1), .ref b, .int (nI xs.length)])) := by rw [e2, zUp_self]; rfl
  have f2 : h2 b = some (.inl (tJO, cap, f)) := by rw [e2, zUp_ne _ _ ab.symm]; exact p4
  have s1 : nI xs.length - 1 = nI (xs.length - 1) := by rw [show (1 : Int32) = nI 1 by rfl, pk_sub (by omega)]
  have hel : ∀ y ∈ xs.eraseIdx j, tIo h y := fun y hy => p10 y (List.mem_of_mem_eraseIdx hy)
  have hlen := List.length_eraseIdx_of_lt hj
  refine zGi.k f1 rfl ?_
  rw [s1, nI_leI (by omega) (by omega)]
  refine ⟨fun c => zPf.k f1 p2 fun h3 e3 => zSt1.k (zeN e3 ab.symm f2) (vp_in_nI (by omega) (by omega)) bz fun h4 e4 => ⟨by omega, _, ?_, rfl⟩, fun c => ⟨hd, ?_⟩⟩
  · obtain rfl : j = xs.length - 1 := by omega
    rw [nI_clamp (by omega)] at e4
    refine P2.cl R e (b' := b) (fun c d1 d2 => by rw [e4, zUp_ne _ _ d2, e3, zUp_ne _ _ d1, e2, zUp_ne _ _ d1]) (Or.inl ⟨rfl, c0⟩) (by rw [e4, zUp_ne _ _ ab, e3, zUp_self, hlen]; rfl) (by rw [e4, zUp_self]) (by omega) p6 c0 (fun i hi => ?_) hel
    rw [hlen] at hi
    rw [← tErase (v := .null) hj p7 i (by rw [hlen]; exact hi)]
    show (if i = xs.length - 1 then _ else _) = (if i = xs.length - 1 then _ else _)
    rw [if_neg (by omega), if_neg (by omega), va_cpy, if_neg (by omega)]
  · have c1 : (nI j + 1).toNatClampNeg = j + 1 := by rw [nI_1, nI_clamp (by omega)]
    have c2 : (nI j).toNatClampNeg = j := nI_clamp (by omega)
    have c3 : (nI (xs.length - 1) - nI j) = nI (xs.length - 1 - j) := pk_sub (by omega)
    have c4 : (nI (xs.length - 1 - j)).toNatClampNeg = xs.length - 1 - j := nI_clamp (by omega)
    rw [c3]
    refine zAw.k f2 (zAw.k f2 ⟨bz, by rw [nI_1]; exact nI_pos (by omega), nI_pos (by omega), nI_pos (by omega), by rw [c1, c4]; omega, by rw [c2, c4]; omega, fun i hi => ?_, fun h3 e3 => ?_⟩)
    · rw [c4] at hi; rw [c1]
      rcases tEl P2 (j + 1 + i) (by omega) with z | ⟨z0, z | ⟨w, ci2, fs2, z1, z2⟩⟩
      · exact Or.inl z
      · exact Or.inr ⟨z0, Or.inl z⟩
      · obtain ⟨ci3, fs3, z3⟩ := tIo_m1 (a := a) (fun c d1 => by rw [e2, zUp_ne _ _ d1]) ⟨_, _, f1⟩ w ⟨ci2, fs2, z2⟩
        exact Or.inr ⟨z0, Or.inr ⟨w, ci3, fs3, z1, z3⟩⟩
    · rw [c1, c2, c4] at e3
      refine zPf.k (zeN e3 ab f1) p2 fun h4 e4 => zSt1.k (f := va_cpy f f (j + 1) j (xs.length - 1 - j)) (zeN e4 ab.symm (zeS e3)) (vp_in_nI (by omega) (by omega)) bz fun h5 e5 => ⟨by omega, _, ?_, rfl⟩
      rw [nI_clamp (by omega)] at e5
      exact P2.cl R e (b' := b) (fun c d1 d2 => by rw [e5, zUp_ne _ _ d2, e4, zUp_ne _ _ d1, e3, zUp_ne _ _ d2, e2, zUp_ne _ _ d1]) (Or.inl ⟨rfl, c0⟩) (by rw [e5, zUp_ne _ _ ab, e4, zUp_self, hlen]; rfl) (by rw [e5, zUp_self]) (by omega) p6 c0 (tErase hj p7) hel
theorem tJ2_remove (ht : l.stackTraces = false) (e : k a = some (tLi m xs)) {j : Nat} (hj : j < xs.length) (hd : 2 ≤ d) : tC l G d MJ2_remove [.ref a, .int (nI j)] k 0 (tRr (xs.getD j 0) (tUp k a (tLi (m + 1) (xs.eraseIdx j)))) := by
  intro h R
  obtain ⟨o, b, cap, f, P⟩ := R.li e
  have P2 := P
  obtain ⟨p1, p2, p3, p4, p5, p6, p7, p8, p9, p10, p11⟩ := P
  refine zCt.of kJ2_remove ht (by simp [Value.category]) (Nat.le_of_ble_eq_true rfl) ?_
  refine b_J2_remove_0 _ _ (zGi.k p3 rfl (zCall.P (s_ci20 ht (nI_pos (by omega)) (nI_lt hj (by omega)) (d := d - 1) (by omega)) (by omega) (Nat.le_refl _) (zGr.k p3 rfl (zAf.k p4 (vp_in_nI (by omega) (by omega)) (by rw [nI_clamp (by omega)]; exact p7 j hj) (zOc.k p3 ?_)))))
  refine zCall.of (s_fastRemove ht e R P2 hj (d := d - 1) (by omega)) (by omega) (Nat.le_refl _) fun r h' _ q => ?_
  obtain ⟨k', R', q⟩ := q
  unfold tVr tqV at q; unfold zRV
  split at q
  · exact ⟨Nat.le_refl _, k', R', rfl, q⟩
  · exact q.elim
  · exact q.elim
end K4
