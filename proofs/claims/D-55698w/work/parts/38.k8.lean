/-! numbers as text (below 1000) -/
def tDig (v : Nat) : List Int32 := if v < 10 then [nI (48 + v)] else if v < 100 then [nI (48 + v / 10), nI (48 + v % 10)] else [nI (48 + v / 100), nI (48 + v / 10 % 10), nI (48 + v % 10)]
theorem tDig1 {v : Nat} (h : v < 10) : tDig v = [nI (48 + v)] := if_pos h
theorem tDig2 {v : Nat} (h : ¬ v < 10) (h2 : v < 100) : tDig v = [nI (48 + v / 10), nI (48 + v % 10)] := by rw [tDig, if_neg h, if_pos h2]
theorem tDig3 {v : Nat} (h2 : ¬ v < 100) : tDig v = [nI (48 + v / 100), nI (48 + v / 10 % 10), nI (48 + v % 10)] := by rw [tDig, if_neg (by omega), if_neg h2]
theorem tDg_asc (j : Nat) (h : j < 10) : 0 ≤ nI (48 + j) ∧ nI (48 + j) ≤ 127 := ⟨nI_pos' (by omega), nI_le (b := 127) (by omega) (by omega)⟩
theorem tDig_asc {v : Nat} (h : v < 1000) : tAsc (tDig v) := by
  intro c hc
  by_cases h1 : v < 10
  · rw [tDig1 h1] at hc
    rw [List.mem_singleton.mp hc]; exact tDg_asc _ h1
  · by_cases h2 : v < 100
    · rw [tDig2 h1 h2] at hc
      simp only [List.mem_cons, List.not_mem_nil, or_false] at hc
      rcases hc with rfl | rfl <;> exact tDg_asc _ (by omega)
    · rw [tDig3 h2] at hc
      simp only [List.mem_cons, List.not_mem_nil, or_false] at hc
      rcases hc with rfl | rfl | rfl <;> exact tDg_asc _ (by omega)
theorem tDig_len (v : Nat) : 1 ≤ (tDig v).length ∧ (tDig v).length ≤ 3 := by
  by_cases h1 : v < 10
  · rw [tDig1 h1]; simp
  · by_cases h2 : v < 100
    · rw [tDig2 h1 h2]; simp
    · rw [tDig3 h2]; simp
theorem tn_le : ∀ v, v < 1000 → (-nI v ≤ (-10 : Int32) ↔ 10 ≤ v) ∧ (-nI v ≤ 10 * (-10 : Int32) ↔ 100 ≤ v) ∧ ¬ (-nI v ≤ 10 * (10 * (-10 : Int32))) ∧ (-100 < -nI v ↔ v < 100) ∧ (-9 ≤ -nI v ↔ v < 10) ∧ -(-nI v) = nI v ∧ (-nI v) / 100 = -nI (v / 100) ∧ ((-nI v) / 100) * 100 - (-nI v) = nI (v % 100) := by decide +kernel
section KA
variable {l : Launch} {G : zG} {k : t_H} {h : zH} {d : Nat} {a : Nat} {cs : List Int32}
theorem s_stringSize (ht : l.stackTraces = false) {v : Nat} (hv : v < 1000) : zCt l G d MJ18_stringSize [.int (nI v)] h 0 (zIr (nI (tDig v).length) h) := by
  obtain ⟨h1, h2, h3, -⟩ := tn_le v hv
  refine zCt.of kJ18_stringSize ht (by simp [Value.category]) (Nat.le_of_ble_eq_true rfl) ?_
  refine b_J18_stringSize_0 _ ⟨fun c => absurd c (nI_pos (by omega)), fun _ => ?_⟩
  refine b_J18_stringSize_16 _ _ _ _ ⟨fun c => absurd c (by decide), fun _ => ⟨fun c => ?_, fun c => ⟨Nat.le_refl _, ?_, rfl⟩⟩⟩
  · have c1 : ¬ v < 10 := by have := h1.mp c; omega
    refine b_J18_stringSize_16 _ _ _ _ ⟨fun c => absurd c (by decide), fun _ => ⟨fun c => ?_, fun c => ⟨Nat.le_refl _, ?_, rfl⟩⟩⟩
    · have c2 : ¬ v < 100 := by have := h2.mp c; omega
      refine b_J18_stringSize_16 _ _ _ _ ⟨fun c => absurd c (by decide), fun _ => ⟨fun c => absurd c h3, fun c => ⟨Nat.le_refl _, ?_, rfl⟩⟩⟩
      rw [tDig3 c2]; show _ = nI 3; decide
    · have c2 : v < 100 := by
        rw [h2] at c; omega
      rw [tDig2 c1 c2]; show _ = nI 2; decide
  · have c1 : v < 10 := by
      rw [h1] at c; omega
    rw [tDig1 c1]; show _ = nI 1; decide
theorem tDg_bt (j : Nat) (h : j < 10) : narrow .byte (.int (nI (48 + j))) = .int (nI (48 + j)) := (asc_byte (tDg_asc j h).1 (tDg_asc j h).2).2.1
theorem tBy_u {N j : Nat} {f : Nat → Value} {c : Int32} (hf : tBy N f) (h0 : 0 ≤ c) (h1 : c ≤ 127) : tBy N (zUv f j (.int c)) := by
  intro i hi
  by_cases q : i = j
  · exact ⟨c, if_pos q, (asc_byte h0 h1).2.2.1⟩
  · obtain ⟨x, x1, x2⟩ := hf i hi
    exact ⟨x, by rw [← x1]; exact if_neg q, x2⟩
theorem pk_m2 (n : Nat) : nI (n + 2) + (-1) + (-1) = nI n := by rw [show n + 2 = n + 1 + 1 by omega, pk_m1, pk_m1]
/-- one or two digits -/
theorem s_gc22 (ht : l.stackTraces = false) (hS : tS G) (hB : zB G h) {b N v p : Nat} {x1 : Int32} {f : Nat → Value} {Q : zRes → zH → Prop} (e : h b = some (.inl (.byte, N, f))) (bz : zb G ≤ b) (hv : v < 100) (hp : (tDig v).length ≤ p) (hN : p ≤ N) (hN2 : N ≤ 1023) (hb : tBy N f)
    (q : ∀ g, tBy N g → (∀ i, i < (tDig v).length → g (p - (tDig v).length + i) = .int ((tDig v).getD i 0)) → (∀ j, j < p - (tDig v).length ∨ p ≤ j → g j = f j) → Q (.inl (some (.int (nI (p - (tDig v).length))))) (zUp h b (.inl (.byte, N, g)))) :
    zV l G d 0 MJ18_getChars Q 22 [some (.int (-nI v)), some (.int x1), some (.ref b), none, none, some (.int (nI p)), some (.int 0)] [] h 0 := by
  obtain ⟨-, -, -, n4, n5, n6, -⟩ := tn_le v (by omega)
  obtain ⟨o1, f1, s1, s2, s3, s4⟩ := hS.2.2.2.2.2.1
  obtain ⟨o2, f2, u1, u2, u3, u4⟩ := hS.2.2.2.2.2.2.1
  have e1 : h o1 = some (.inl (.byte, 100, f1)) := by rw [hB o1 s2]; exact s3
  have e2 : h o2 = some (.inl (.byte, 100, f2)) := by rw [hB o2 u2]; exact u3
  have d1 : o2 ≠ b := Nat.ne_of_lt (Nat.lt_of_lt_of_le u2 bz)
  have hl := tDig_len v
  obtain ⟨p1, rfl⟩ : ∃ p1, p = p1 + 1 := ⟨p - 1, by omega⟩
  refine b_J18_getChars_22 _ _ _ _ _ ⟨fun _ => zSr.k s1 (zAi.k e1 (by rw [n6]; exact vp_in_nI hv (by omega)) (by rw [n6, nI_clamp (by omega)]; exact s4 v hv) ?_), fun c => absurd (n4.mpr hv) c⟩
  rw [pk_m1]
  refine zSt1.k e (vp_in_nI (by omega) (by omega)) bz fun h4 e4 => ?_
  rw [tDg_bt _ (by omega), nI_clamp (by omega)] at e4
  refine ⟨fun c => ⟨fun _ => ⟨Nat.le_refl _, ?_⟩, fun c => absurd rfl c⟩, fun c => zSr.k u1 (zAi.k (zeN e4 d1 e2) (by rw [n6]; exact vp_in_nI hv (by omega)) (by rw [n6, nI_clamp (by omega)]; exact u4 v hv) ?_)⟩
  · have c1 := n5.mp c
    rw [tDig1 c1] at q
    have := q (zUv f p1 (.int (nI (48 + v % 10)))) (tBy_u hb (tDg_asc _ (by omega)).1 (tDg_asc _ (by omega)).2) (fun i hi => ?_) (fun j hj => ?_)
    · rw [e4]; exact this
    · simp only [List.length_singleton] at hi
      obtain rfl : i = 0 := by omega
      show zUv _ _ _ (p1 + 1 - 1 + 0) = _
      simp only [zUv, Nat.add_sub_cancel, Nat.add_zero, if_true, List.getD_cons_zero, Nat.mod_eq_of_lt c1]
    · simp only [List.length_singleton] at hj
      exact if_neg (by omega)
  · have c1 : ¬ v < 10 := fun z => c (n5.mpr z)
    rw [tDig2 c1 hv] at q hp
    simp only [List.length_cons, List.length_nil] at hp q
    obtain ⟨p2, rfl⟩ : ∃ p2, p1 = p2 + 1 := ⟨p1 - 1, by omega⟩
    rw [pk_m1]
    refine zSt1.k (zeS e4) (vp_in_nI (by omega) (by omega)) bz fun h10 e10 => ⟨fun _ => ⟨Nat.le_refl _, ?_⟩, fun c => absurd rfl c⟩
    rw [tDg_bt _ (by omega), nI_clamp (by omega)] at e10
    have := q (zUv (zUv f (p2 + 1) (.int (nI (48 + v % 10)))) p2 (.int (nI (48 + v / 10)))) (tBy_u (tBy_u hb (tDg_asc _ (by omega)).1 (tDg_asc _ (by omega)).2) (tDg_asc _ (by omega)).1 (tDg_asc _ (by omega)).2) (fun i hi => ?_) (fun j hj => ?_)
    · rw [e10, e4, zUp_up]; exact this
    · rcases Nat.lt_or_ge i 1 with z | z
      · obtain rfl : i = 0 := by omega
        show (if _ then _ else _) = _
        rw [if_pos (by omega)]; rfl
      · obtain rfl : i = 1 := by omega
        show (if _ then _ else if _ then _ else _) = _
        rw [if_neg (by omega), if_pos (by omega)]; rfl
    · show (if _ then _ else if _ then _ else _) = _
      rw [if_neg (by omega), if_neg (by omega)]
theorem s_getChars (ht : l.stackTraces = false) (hS : tS G) (hB : zB G h) {b N v p : Nat} {f : Nat → Value} (e : h b = some (.inl (.byte, N, f))) (bz : zb G ≤ b) (hv : v < 1000) (hp : (tDig v).length ≤ p) (hN : p ≤ N) (hN2 : N ≤ 1023) (hb : tBy N f) :
    zCt l G d MJ18_getChars [.int (nI v), .int (nI p), .ref b] h 0 (zqI zNo fun x h' => x = nI (p - (tDig v).length) ∧ ∃ g, h' = zUp h b (.inl (.byte, N, g)) ∧ tBy N g ∧ (∀ i, i < (tDig v).length → g (p - (tDig v).length + i) = .int ((tDig v).getD i 0)) ∧ ∀ j, j < p - (tDig v).length ∨ p ≤ j → g j = f j) := by
  refine zCt.of kJ18_getChars ht (by simp [Value.category]) (Nat.le_of_ble_eq_true rfl) ?_
  refine b_J18_getChars_0 _ _ _ ⟨fun _ => ?_, fun c => absurd (nI_pos' (by omega)) c⟩
  by_cases c : v < 100
  · exact s_gc22 ht hS hB e bz c hp hN hN2 hb (fun g g1 g2 g3 => ⟨rfl, g, rfl, g1, g2, g3⟩)
  · obtain ⟨-, -, -, n4, n5, n6, n7, n8⟩ := tn_le v hv
    obtain ⟨o1, f1, s1, s2, s3, s4⟩ := hS.2.2.2.2.2.1
    obtain ⟨o2, f2, u1, u2, u3, u4⟩ := hS.2.2.2.2.2.2.1
    have e1 : h o1 = some (.inl (.byte, 100, f1)) := by rw [hB o1 s2]; exact s3
    have e2 : h o2 = some (.inl (.byte, 100, f2)) := by rw [hB o2 u2]; exact u3
    have d1 : o2 ≠ b := Nat.ne_of_lt (Nat.lt_of_lt_of_le u2 bz)
    rw [tDig3 c] at hp
    simp only [List.length_cons, List.length_nil] at hp
    obtain ⟨p1, rfl⟩ : ∃ p1, p = p1 + 2 := ⟨p - 2, by omega⟩
    have m100 : v % 100 < 100 := Nat.mod_lt _ (by omega)
    refine b_J18_getChars_22 _ _ _ _ _ ⟨fun z => absurd (n4.mp z) c, fun _ => zSr.k s1 (zAi.k e1 (by rw [n8]; exact vp_in_nI m100 (by omega)) (by rw [n8, nI_clamp (by omega)]; exact s4 _ m100) ?_)⟩
    rw [show nI (p1 + 2) + (-1) = nI (p1 + 1) from pk_m1 (p1 + 1)]
    refine zSt1.k e (vp_in_nI (by omega) (by omega)) bz fun h4 e4 => zSr.k u1 (zAi.k (zeN e4 d1 e2) (by rw [n8]; exact vp_in_nI m100 (by omega)) (by rw [n8, nI_clamp (by omega)]; exact u4 _ m100) ?_)
    rw [tDg_bt _ (by omega), nI_clamp (by omega)] at e4
    rw [pk_m1]
    refine zSt1.k (zeS e4) (vp_in_nI (by omega) (by omega)) bz fun h10 e10 => ?_
    rw [tDg_bt _ (by omega), nI_clamp (by omega)] at e10
    have eh : h10 = zUp h b (.inl (.byte, N, zUv (zUv f (p1 + 1) (.int (nI (48 + v % 100 % 10)))) p1 (.int (nI (48 + v % 100 / 10))))) := by rw [e10, e4, zUp_up]
    have hB2 : zB G h10 := fun c hc => by rw [eh, zUp_ne _ _ (by omega)]; exact hB c hc
    have v10 : v / 100 < 10 := by omega
    rw [n7]
    refine s_gc22 ht hS hB2 (eh ▸ zUp_self _ _ _) bz (by omega) (by rw [tDig1 v10]; simp; omega) (by omega) hN2 (tBy_u (tBy_u hb (tDg_asc _ (by omega)).1 (tDg_asc _ (by omega)).2) (tDg_asc _ (by omega)).1 (tDg_asc _ (by omega)).2) (fun g g1 g2 g3 => ?_)
    rw [tDig1 v10] at g2 g3 ⊢
    rw [tDig3 c]
    simp only [List.length_cons, List.length_nil] at g2 g3 ⊢
    refine ⟨by congr 1, g, by rw [eh, zUp_up], g1, fun i hi => ?_, fun j hj => ?_⟩
    · rcases Nat.lt_or_ge i 1 with z | z
      · obtain rfl : i = 0 := by omega
        have := g2 0 (by omega)
        rw [show p1 + 2 - (0 + 1 + 1 + 1) + 0 = p1 - (0 + 1) + 0 by omega, this]; rfl
      · rcases Nat.lt_or_ge i 2 with z2 | z2
        · obtain rfl : i = 1 := by omega
          rw [show p1 + 2 - (0 + 1 + 1 + 1) + 1 = p1 by omega, g3 p1 (by omega)]
          show (if _ then _ else _) = _
          rw [if_pos rfl, show v % 100 / 10 = v / 10 % 10 by omega]; rfl
        · obtain rfl : i = 2 := by omega
          rw [show p1 + 2 - (0 + 1 + 1 + 1) + 2 = p1 + 1 by omega, g3 (p1 + 1) (by omega)]
          show (if _ then _ else if _ then _ else _) = _
          rw [if_neg (by omega), if_pos rfl, show v % 100 % 10 = v % 10 by omega]; rfl
    · rw [g3 j (by omega)]
      show (if _ then _ else if _ then _ else _) = _
      rw [if_neg (by omega), if_neg (by omega)]
theorem tJ4_appendI (ht : l.stackTraces = false) (hS : tS G) (e : k a = some (tSb cs)) {v : Nat} (hv : v < 1000) (hl : cs.length ≤ 480) (hd : 4 ≤ d) : tC l G d MJ4_append_2 [.ref a, .int (nI v)] k 16 (tRr a (tUp k a (tSb (cs ++ tDig v)))) := by
  intro h R
  obtain ⟨o, ml, b, cap, f, P⟩ := R.sb e
  have P2 := P
  obtain ⟨p1, p2, p3, p4, p5, p6, p7, p8, p9, p10, p11, p12, p13⟩ := P
  have hdl := tDig_len v
  refine zCt.of kJ4_append_2 ht (by simp [Value.category]) (Nat.le_of_ble_eq_true rfl) ?_
  refine b_J4_append_2_0 _ _ (zGi.k p3 rfl (zCall.P (s_stringSize ht hv (d := d - 1)) (by omega) (by omega) (zOc.k p3 ?_)))
  rw [nI_add]
  refine zCall.V (s_ensure ht p2 p3 p4 p6 (by omega) p9 (d := d - 1) (by omega)) (by omega) (by omega) (fun h2 hB2 q => ?_) (fun E h' _ q => q.elim)
  obtain ⟨b', cap', g, q1, q2, q3, q4, q5, q6, q7, q8, q9⟩ := q
  have bz : zb G ≤ b' := by
    rcases q1 with q | q
    · rw [q]; exact p11
    · exact q.2
  have ba : a ≠ b' := by intro q; rw [← q, q3] at q4; cases q4
  refine zOc.k q3 (zCall.P (s_sbLatin ht hS q3 (d := d - 1)) (by omega) (by omega) ⟨fun z => absurd z (by decide), fun _ => zGr.k q3 rfl (zCall.I (s_getChars ht hS hB2 q4 bz hv (by omega) q5 q7 q8 (d := d - 1)) (by omega) (by omega) (fun x h4 _ q => ?_) (fun E h' _ q => q.elim))⟩)
  obtain ⟨rfl, g2, r1, r2, r3, r4⟩ := q
  refine zPf.k (zeN r1 ba q3) p2 fun h5 e5 => ⟨by omega, _, ?_, rfl, rfl⟩
  rw [show cs.length + (tDig v).length - (tDig v).length = cs.length by omega] at r3 r4
  refine P2.cl R e (b' := b') (fun c c1 c2 => by rw [e5, zUp_ne _ _ c1, r1, zUp_ne _ _ c2, q2 c c1 c2]) q1 (by rw [List.length_append]; exact zeS e5) (zeN e5 ba.symm (zeS r1)) (by rw [List.length_append]; omega) q7 p7 (fun i hi => ?_) r2 (fun z hz => ?_)
  · rw [List.length_append] at hi
    rw [List.getD_eq_getElem?_getD]
    by_cases c : i < cs.length
    · rw [List.getElem?_append_left c, r4 i (Or.inl c), q9 i (by omega), p8 i c, List.getD_eq_getElem?_getD]
    · rw [List.getElem?_append_right (by omega), ← List.getD_eq_getElem?_getD, ← r3 (i - cs.length) (by omega), show cs.length + (i - cs.length) = i by omega]
  · rcases List.mem_append.mp hz with z1 | z1
    · exact p10 z z1
    · exact tDig_asc hv z z1
theorem tJ5_appendI (ht : l.stackTraces = false) (hS : tS G) (e : k a = some (tSb cs)) {v : Nat} (hv : v < 1000) (hl : cs.length ≤ 480) (hd : 5 ≤ d) : tC l G d MJ5_append_2 [.ref a, .int (nI v)] k 16 (tRr a (tUp k a (tSb (cs ++ tDig v)))) := by
  intro h R
  refine zCt.of kJ5_append_2 ht (by simp [Value.category]) (Nat.le_of_ble_eq_true rfl) ?_
  exact b_J5_append_2_0 _ _ (tOcZ R e (tC.r R (tJ4_appendI ht hS e hv hl (d := d - 1) (by omega)) (by omega) (by omega) fun h' R' => ⟨by omega, _, R', rfl, rfl⟩))
/-- Integer.toString -/
theorem tJ18_toString2 (ht : l.stackTraces = false) (hS : tS G) {v : Nat} (hv : v < 1000) (hd : 2 ≤ d) : tC l G d MJ18_toString_2 [.int (nI v)] k 2 (tqR tNo fun x k' => ∃ y ob ar, k x = none ∧ k y = none ∧ zb G ≤ x ∧ zb G ≤ y ∧ x ≠ y ∧ k' = tUp (tUp k y ar) x ob ∧ tTx k' x (tDig v)) := by
  intro h R
  have hdl := tDig_len v
  refine zCt.of kJ18_toString_2 ht (by simp [Value.category]) (Nat.le_of_ble_eq_true rfl) ?_
  have cl : (nI (tDig v).length).toNatClampNeg = (tDig v).length := nI_clamp (by omega)
  refine b_J18_toString_2_0 _ (zCall.P (s_stringSize ht hv (d := d - 1)) (by omega) (by omega) (zSi.k hS.1 ⟨fun c => absurd c (by decide), fun _ => ⟨⟨nI_pos (by omega), by omega, by rw [cl]; omega⟩, fun y hy yz h2 e2 => ?_⟩⟩))
  rw [cl] at e2 ⊢
  have R2 : tR G (tUp k y (tAr .byte (tDig v).length fun _ => .int 0)) h2 := by rw [e2]; exact R.new hy yz
  refine zCall.I (s_getChars ht hS R2.1 (zeS e2) yz hv (Nat.le_refl _) (Nat.le_refl _) (by omega) (fun i hi => ⟨0, rfl, fit0⟩) (d := d - 1)) (by omega) (by omega) (fun x h4 _ q => ?_) (fun E h' _ q => q.elim)
  obtain ⟨-, g, r1, r2, r3, r4⟩ := q
  have R4 : tR G (tUp k y (tAr .byte (tDig v).length g)) h4 := by
    have := R2.up (x' := .inl (.byte, (tDig v).length, g)) (tUp_s _ _ _) yz (by rintro ⟨ci, fs, z⟩; cases z)
    rw [tUp_up, ← r1] at this
    exact this
  refine ⟨by omega, fun x hx xz h6 e6 => ?_⟩
  have xy : x ≠ y := by intro q; rw [q, zeS r1] at hx; cases hx
  have R6 : tR G (tUp (tUp k y (tAr .byte (tDig v).length g)) x (tOb 15 [.null, .int 0, .int 0, .int 0])) h6 := by rw [e6]; exact R4.new hx xz
  have ct : tC l G (d - 1) MJ6_init_3 [.ref x, .ref y, .int 0] (tUp (tUp k y (tAr .byte (tDig v).length g)) x (tOb 15 [.null, .int 0, .int 0, .int 0])) 0 (tVr (tUp (tUp k y (tAr .byte (tDig v).length g)) x (tOb 15 [.ref y, .int 0, .int 0, .int 0]))) := by
    clear R6 R4 R2 R e6
    intro h R
    refine zCt.of kJ6_init_3 ht (by simp [Value.category]) (Nat.le_of_ble_eq_true rfl) ?_
    refine b_J6_init_3_0 _ _ _ ⟨by omega, tPf R (tUp_s _ _ _) xz fun h1 R1 => ⟨⟨by decide, by decide⟩, tPf R1 (tUp_s _ _ _) xz fun h2 R2 => ⟨Nat.le_refl _, _, R2, ?_⟩⟩⟩
    rw [tUp_up, tUp_up]; rfl
  refine tC.v R6 ct (by omega) (by omega) fun h7 R7 => ⟨by omega, _, R7, y, _, _, ?_, R.hn hy, xz, yz, xy, rfl, y, g, 0, 0, tUp_s _ _ _, by rw [tUp_n xy.symm]; exact tUp_s _ _ _, fun i hi => ?_, tDig_asc hv, by omega⟩
  · have := R4.hn hx
    rw [tUp_n xy] at this
    exact this
  · have := r3 i hi
    rw [Nat.sub_self, Nat.zero_add] at this
    exact this
theorem tJ6_valueOf (ht : l.stackTraces = false) (hS : tS G) {v : Nat} (e : k a = some (tOb 16 [.int (nI v)])) (hv : v < 1000) (hd : 4 ≤ d) : tC l G d MJ6_valueOf [.ref a] k 2 (tqR tNo fun x k' => ∃ y ob ar, k x = none ∧ k y = none ∧ zb G ≤ x ∧ zb G ≤ y ∧ x ≠ y ∧ k' = tUp (tUp k y ar) x ob ∧ tTx k' x (tDig v)) := by
  intro h R
  refine zCt.of kJ6_valueOf ht (by simp [Value.category]) (Nat.le_of_ble_eq_true rfl) ?_
  have ct : tC l G (d - 1) MJ18_toString [.ref a] k 2 (tqR tNo fun x k' => ∃ y ob ar, k x = none ∧ k y = none ∧ zb G ≤ x ∧ zb G ≤ y ∧ x ≠ y ∧ k' = tUp (tUp k y ar) x ob ∧ tTx k' x (tDig v)) := by
    clear R
    intro h R
    refine zCt.of kJ18_toString ht (by simp [Value.category]) (Nat.le_of_ble_eq_true rfl) ?_
    exact b_J18_toString_0 _ (tGi R e rfl (tCall.R R (tJ18_toString2 ht hS hv (d := d - 1 - 1) (by omega)) (by omega) (by omega) (fun x k' h' R' q => ⟨by omega, k', R', q⟩) (fun E k' h' _ q => q.elim)))
  exact b_J6_valueOf_0 _ (tOc R e (tCall.R R ct (by omega) (by omega) (fun x k' h' R' q => ⟨by omega, k', R', q⟩) (fun E k' h' _ q => q.elim)))
/-- append(Object) of an Integer: what is new is forgotten -/
theorem tJ5_appendO (ht : l.stackTraces = false) (hS : tS G) (e : k a = some (tSb cs)) {y v : Nat} (ey : k y = some (tOb 16 [.int (nI v)])) (hv : v < 1000) (hl : cs.length ≤ 480) (hd : 6 ≤ d) : tC l G d MJ5_append_3 [.ref a, .ref y] k 18 (tRr a (tUp k a (tSb (cs ++ tDig v)))) := by
  intro h R
  refine zCt.of kJ5_append_3 ht (by simp [Value.category]) (Nat.le_of_ble_eq_true rfl) ?_
  refine b_J5_append_3_0 _ _ (tCall.R R (tJ6_valueOf ht hS ey hv (d := d - 1) (by omega)) (by omega) (by omega) (fun x k' h' R' q => ?_) (fun E k' h' _ q => q.elim))
  obtain ⟨z, ob, ar, q1, q2, q3, q4, q5, q6, q7⟩ := q
  have hdl := tDig_len v
  have az : a ≠ z := by intro q; rw [← q, e] at q2; cases q2
  have ax : a ≠ x := by intro q; rw [← q, e] at q1; cases q1
  have e' : k' a = some (tSb cs) := by rw [q6, tUp_n ax, tUp_n az]; exact e
  refine tOcZ R' e' (tC.r R' (tJ5_appendS ht hS e' q7 (d := d - 1) (by omega) (by omega)) (by omega) (by omega) fun h2 R2 => ⟨by omega, _, R2.le (fun c w hc => ?_) (fun c w hc hw => ?_), rfl, rfl⟩)
  · by_cases ca : c = a
    · rw [ca, tUp_s] at hc ⊢; exact hc
    · rw [tUp_n ca] at hc ⊢
      rw [q6]
      rw [tUp_n (by intro q; rw [q, q1] at hc; cases hc), tUp_n (by intro q; rw [q, q2] at hc; cases hc)]; exact hc
  · by_cases ca : c = a
    · rw [ca, tUp_s] at hw ⊢; exact hw
    · rw [tUp_n ca] at hw ⊢
      rw [q6, tUp_n (by omega), tUp_n (by omega)] at hw
      exact hw
end KA
