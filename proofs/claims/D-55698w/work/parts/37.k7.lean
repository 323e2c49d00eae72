/-! builders and texts: the rest -/
section K9
variable {l : Launch} {G : zG} {k : t_H} {h : zH} {d : Nat} {a : Nat} {cs : List Int32}
theorem tAsc_at (hA : tAsc cs) {i : Nat} (hi : i < cs.length) : 0 ≤ cs.getD i 0 ∧ cs.getD i 0 ≤ 127 :=
  hA (cs.getD i 0) (by rw [List.getD_eq_getElem?_getD, List.getElem?_eq_getElem hi]; exact List.getElem_mem hi)
theorem tJ4_charAt (ht : l.stackTraces = false) (hS : tS G) (e : k a = some (tSb cs)) {i : Nat} (hi : i < cs.length) (hd : 2 ≤ d) : tC l G d MJ4_charAt [.ref a, .int (nI i)] k 0 (tIr (cs.getD i 0) k) := by
  intro h R
  obtain ⟨o, ml, b, cap, f, P⟩ := R.sb e
  obtain ⟨p1, p2, p3, p4, p5, p6, p7, p8, p9, p10, p11, p12, p13⟩ := P
  have hc := tAsc_at p10 hi
  have ab := asc_byte hc.1 hc.2
  refine zCt.of kJ4_charAt ht (by simp [Value.category]) (Nat.le_of_ble_eq_true rfl) ?_
  refine b_J4_charAt_0 _ _ (zGi.k p3 rfl (zGr.k p3 rfl (zGi.k p3 rfl (zAl.k p4 ⟨⟨by omega, Nat.le_refl _⟩, ?_⟩))))
  rw [sh0, nI_min cap cs.length (by omega) (by omega), Nat.min_eq_right p5]
  refine zCall.PV (s_siooCI ht hS (nI_pos (by omega)) (nI_lt hi (by omega)) (d := d - 1) (by omega)) (by omega) (Nat.le_refl _) ⟨fun c => absurd rfl c, fun _ => zAi.k p4 (vp_in_nI (by omega) (by omega)) (by rw [nI_clamp (by omega)]; exact p8 i hi) ⟨?_, Nat.le_refl _, k, R, ?_, rfl⟩⟩
  · rw [ab.2.2.2.1, ab.2.2.2.2.1]; exact ab.2.2.2.2.2
  · rw [ab.2.2.2.1, ab.2.2.2.2.1]
theorem tJ5_charAt (ht : l.stackTraces = false) (hS : tS G) (e : k a = some (tSb cs)) {i : Nat} (hi : i < cs.length) (hd : 3 ≤ d) : tC l G d MJ5_charAt [.ref a, .int (nI i)] k 0 (tIr (cs.getD i 0) k) := by
  intro h R
  obtain ⟨o, ml, b, cap, f, P⟩ := R.sb e
  have hc := tAsc_at P.2.2.2.2.2.2.2.2.2.1 hi
  have ab := asc_byte hc.1 hc.2
  refine zCt.of kJ5_charAt ht (by simp [Value.category]) (Nat.le_of_ble_eq_true rfl) ?_
  exact b_J5_charAt_0 _ _ (tOcZ R e (tC.i R (tJ4_charAt ht hS e hi (d := d - 1) (by omega)) (by omega) (Nat.le_refl _) fun h' R' => ⟨ab.2.2.2.2.2, Nat.le_refl _, _, R', rfl, rfl⟩))
theorem tJ4_setLength0 (ht : l.stackTraces = false) (e : k a = some (tSb cs)) (hd : 4 ≤ d) : tC l G d MJ4_setLength [.ref a, .int 0] k 16 (tVr (tUp k a (tSb []))) := by
  intro h R
  obtain ⟨o, ml, b, cap, f, P⟩ := R.sb e
  have P2 := P
  obtain ⟨p1, p2, p3, p4, p5, p6, p7, p8, p9, p10, p11, p12, p13⟩ := P
  refine zCt.of kJ4_setLength ht (by simp [Value.category]) (Nat.le_of_ble_eq_true rfl) ?_
  refine b_J4_setLength_0 _ _ ⟨fun _ => zOc.k p3 (zCall.V (s_ensure ht p2 p3 p4 p6 (need := 0) (by omega) p9 (d := d - 1) (by omega)) (by omega) (by omega) (fun h2 _ q => ?_) (fun E h' _ q => q.elim)), fun c => absurd (by decide) c⟩
  obtain ⟨b', cap', g, q1, q2, q3, q4, q5, q6, q7, q8, q9⟩ := q
  have ba : a ≠ b' := by intro q; rw [← q, q3] at q4; cases q4
  refine zGi.k q3 rfl ⟨fun _ => zGi.k q3 rfl ⟨fun _ => zPf.k q3 p2 fun h3 e3 => ⟨by omega, _, ?_, rfl⟩, fun _ => zPf.k q3 p2 fun h3 e3 => zPf.k (zeS e3) p2 fun h4 e4 => ⟨by omega, _, ?_, rfl⟩⟩, fun c => absurd (nI_pos' (by omega)) c⟩
  · exact P2.cl R e (b' := b') (cs' := []) (fun c c1 c2 => by rw [e3, zUp_ne _ _ c1, q2 c c1 c2]) q1 (zeS e3) (zeN e3 ba.symm q4) (by simp) q7 p7 (fun i hi => by simp at hi) q8 (fun z hz => by cases hz)
  · exact P2.cl R e (b' := b') (cs' := []) (ml' := 1) (fun c c1 c2 => by rw [e4, zUp_ne _ _ c1, e3, zUp_ne _ _ c1, q2 c c1 c2]) q1 (zeS e4) (zeN e4 ba.symm (zeN e3 ba.symm q4)) (by simp) q7 (Or.inr rfl) (fun i hi => by simp at hi) q8 (fun z hz => by cases hz)
theorem tJ5_setLength0 (ht : l.stackTraces = false) (e : k a = some (tSb cs)) (hd : 5 ≤ d) : tC l G d MJ5_setLength [.ref a, .int 0] k 16 (tVr (tUp k a (tSb []))) := by
  intro h R
  refine zCt.of kJ5_setLength ht (by simp [Value.category]) (Nat.le_of_ble_eq_true rfl) ?_
  exact b_J5_setLength_0 _ _ (tOcZ R e (tC.v R (tJ4_setLength0 ht e (d := d - 1) (by omega)) (by omega) (by omega) fun h' R' => ⟨by omega, _, R', rfl⟩))
theorem tJ5_init (ht : l.stackTraces = false) (hS : tS G) (e : k a = some (tOb 14 [.null, .int 0, .int 0, .int 0])) (ab : zb G ≤ a) (hd : 2 ≤ d) : tC l G d MJ5_init [.ref a] k 1 (tVr (tUp k a (tSb []))) := by
  intro h R
  have R2 := R
  obtain ⟨-, ⟨o, H⟩, -⟩ := R2
  have ct : zCt l G (d - 1) MJ4_init [.ref a, .int 16] h 1 (fun r h' => ∃ k', tR G k' h' ∧ tVr (tUp k a (tSb [])) r k') := by
    refine zCt.of kJ4_init ht (by simp [Value.category]) (Nat.le_of_ble_eq_true rfl) ?_
    refine b_J4_init_0 _ _ ⟨by omega, zSi.k hS.1 ⟨fun c => absurd c (by decide), fun _ => ⟨⟨by decide, by decide, by decide⟩, fun b hb bz h1 e1 => ?_⟩⟩⟩
    have ba : a ≠ b := by intro q; rw [← q, R.e e] at hb; cases hb
    refine zPf.k (zeN e1 ba (R.e e)) ab fun h2 e2 => zPf.k (zeS e2) ab fun h3 e3 => ⟨by decide, _, ?_, rfl⟩
    have f1 : h3 a = some (.inr (14, [.ref b, .int 0, .int 0, .int (nI 0)])) := by rw [e3, zUp_self]; rfl
    have fr : ∀ c, c ≠ a → c ≠ b → h3 c = h c := fun c c1 c2 => by rw [e3, zUp_ne _ _ c1, e2, zUp_ne _ _ c1, e1, zUp_ne _ _ c2]
    refine R.cl (b := a) (b' := b) H (Or.inl (by rw [e]; exact fun z => by cases z)) ab (fun c c1 _ c2 => fr c c1 c2) (Or.inl rfl) (Or.inr ⟨hb, bz⟩) (tIo_mono (a := a) (b' := b) fr ⟨_, _, f1⟩ (Or.inr hb)) ?_
    refine ⟨ab, ⟨_, b, _, f1, zeN e3 ba.symm (zeN e2 ba.symm (zeS e1)), ⟨0, _, _, rfl, rfl, Nat.zero_le _, by decide, Or.inl rfl, fun i hi => by simp at hi, fun i hi => ⟨0, rfl, fit0⟩, (fun z hz => by cases hz), bz⟩, Or.inr ⟨by rw [tUp_n ba.symm]; exact R.hn hb, if_pos rfl⟩⟩, fun y hy => by cases hy⟩
  refine zCt.of kJ5_init ht (by simp [Value.category]) (Nat.le_of_ble_eq_true rfl) ?_
  refine b_J5_init_0 _ (zCall.of ct (by omega) (by omega) fun r h' _ q => ?_)
  obtain ⟨k', R', q⟩ := q
  unfold tVr tqV at q; unfold zRV
  split at q
  · exact ⟨by omega, k', R', q⟩
  · exact q.elim
  · exact q.elim
theorem s_copyRB (ht : l.stackTraces = false) {b N n : Nat} {f : Nat → Value} (e : h b = some (.inl (.byte, N, f))) (hn : n ≤ N) (hl : N ≤ 1023) (he : tBy N f) (hd : 2 ≤ d) :
    zCt l G d MJ16_copyOfRangeByte [.ref b, .int 0, .int (nI n)] h 16 (zqR zNo fun x h' => h x = none ∧ zb G ≤ x ∧ ∃ g, h' = zUp h x (.inl (.byte, n, g)) ∧ ∀ i, i < n → g i = f i) := by
  have ct : zCt l G (d - 1) MJ16_checkLength [.int 0, .int (nI n)] h 0 (zVr h) := by
    refine zCt.of kJ16_checkLength ht (by simp [Value.category]) (Nat.le_of_ble_eq_true rfl) ?_
    exact b_J16_checkLength_0 _ _ ⟨fun _ => ⟨Nat.le_refl _, rfl⟩, fun c => absurd (nI_pos' (by omega)) c⟩
  have s0 : ∀ m, m < 2 ^ 31 → nI m - 0 = nI m := fun m hm => by rw [show (0 : Int32) = nI 0 by rfl, pk_sub (by omega), Nat.sub_zero]
  have cl : (nI n).toNatClampNeg = n := nI_clamp (by omega)
  refine zCt.of kJ16_copyOfRangeByte ht (by simp [Value.category]) (Nat.le_of_ble_eq_true rfl) ?_
  refine b_J16_copyOfRangeByte_0 _ _ _ (zCall.PV ct (by omega) (by omega) ?_)
  rw [s0 n (by omega)]
  refine ⟨⟨nI_pos (by omega), by omega, by rw [cl]; omega⟩, fun x hx hb h4 e4 => ?_⟩
  have bx : b ≠ x := by intro q; rw [q, hx] at e; cases e
  have e4b : h4 b = some (.inl (.byte, N, f)) := zeN e4 bx e
  have e4x : h4 x = some (.inl (.byte, n, fun _ => .int 0)) := by rw [e4, zUp_self, cl]
  refine zAl.k e4b ⟨⟨by omega, by rw [cl]; omega⟩, by omega, ?_⟩
  rw [s0 N (by omega), nI_min n N (by omega) (by omega), Nat.min_eq_left hn]
  refine zAw.k e4b (zAw.k e4x ⟨hb, by decide, by decide, nI_pos (by omega), ?_, ?_, fun i hi => ?_, fun h1 e1 => ⟨by rw [cl]; omega, hx, hb, va_cpy f (fun _ => .int 0) 0 0 n, ?_, fun i hi => ?_⟩⟩)
  · rw [cl]; show 0 + n ≤ N; omega
  · rw [cl]; show 0 + n ≤ n; omega
  · rw [cl] at hi
    show zEl h4 .byte (f (0 + i))
    rw [Nat.zero_add]
    exact Or.inl (he i (by omega))
  · rw [e1, e4, zUp_up, cl]; rfl
  · simp [va_cpy, hi]
theorem s_copyR (ht : l.stackTraces = false) {b N n : Nat} {f : Nat → Value} (e : h b = some (.inl (.byte, N, f))) (hn : n ≤ N) (hl : N ≤ 1023) (he : tBy N f) (hd : 3 ≤ d) :
    zCt l G d MJ16_copyOfRange [.ref b, .int 0, .int (nI n)] h 16 (zqR zNo fun x h' => h x = none ∧ zb G ≤ x ∧ ∃ g, h' = zUp h x (.inl (.byte, n, g)) ∧ ∀ i, i < n → g i = f i) := by
  refine zCt.of kJ16_copyOfRange ht (by simp [Value.category]) (Nat.le_of_ble_eq_true rfl) ?_
  refine b_J16_copyOfRange_0 _ _ _ ⟨fun c => absurd rfl c, fun _ => zAl.k e ?_⟩
  rw [nI_eq (by omega) (by omega)]
  refine ⟨fun c => ⟨by omega, zAw.k e ⟨by omega, fun i hi => ?_, fun x hx bx => ?_⟩⟩, fun c => ?_⟩
  · obtain ⟨y, h1, h2⟩ := he i hi; rw [h1]; exact h2
  · refine zAw.k (zUp_self _ _ _) ⟨by omega, hx, bx, f, by rw [c], fun _ _ => rfl⟩
  · exact zCall.R (s_copyRB ht e hn hl he (d := d - 1) (by omega)) (by omega) (by omega) (fun x h' _ q => ⟨by omega, q⟩) (fun E h' _ q => q.elim)
/-- a new text -/
theorem tJ5_toString (ht : l.stackTraces = false) (hS : tS G) (e : k a = some (tSb cs)) (hl : cs.length ≤ 500) (hd : 6 ≤ d) : tC l G d MJ5_toString [.ref a] k 18 (tqR tNo fun x k' => ∃ y ob ar, k x = none ∧ k y = none ∧ zb G ≤ x ∧ zb G ≤ y ∧ x ≠ y ∧ k' = tUp (tUp k y ar) x ob ∧ tTx k' x cs) := by
  intro h R
  obtain ⟨o, ml, b, cap, f, P⟩ := R.sb e
  obtain ⟨p1, p2, p3, p4, p5, p6, p7, p8, p9, p10, p11, p12, p13⟩ := P
  refine zCt.of kJ5_toString ht (by simp [Value.category]) (Nat.le_of_ble_eq_true rfl) ?_
  refine b_J5_toString_0 _ ⟨by omega, fun x hx bx h2 e2 => ?_⟩
  have ax : a ≠ x := by intro q; rw [← q, p3] at hx; cases hx
  have bxx : b ≠ x := by intro q; rw [← q, p4] at hx; cases hx
  have f3 := zeN e2 ax p3
  have f4 := zeN e2 bxx p4
  have R2 : tR G (tUp k x (tOb 15 [.null, .int 0, .int 0, .int 0])) h2 := by rw [e2]; exact R.new hx bx
  have ct2 : zCt l G (d - 2) MJ6_init_2 [.ref x, .ref a, .null] h2 16 (zqV zNo fun h' => ∃ y g, h2 y = none ∧ zb G ≤ y ∧ h' = zUp (zUp (zUp h2 x (.inr (15, [.null, .int 0, .int 0, .int 0]))) y (.inl (.byte, cs.length, g))) x (.inr (15, [.ref y, .int 0, .int 0, .int 0])) ∧ ∀ i, i < cs.length → g i = f i) := by
    refine zCt.of kJ6_init_2 ht (by simp [Value.category]) (Nat.le_of_ble_eq_true rfl) ?_
    have c1 : zCt l G (d - 2 - 1) MJ4_getValue [.ref a] h2 0 (zqR zNo fun z h' => z = b ∧ h' = h2) := by
      refine zCt.of kJ4_getValue ht (by simp [Value.category]) (Nat.le_of_ble_eq_true rfl) ?_
      exact b_J4_getValue_0 _ (zGr.k f3 rfl ⟨Nat.le_refl _, rfl, rfl⟩)
    have c2 : zCt l G (d - 2 - 1) MJ5_length [.ref a] h2 0 (zIr (nI cs.length) h2) := by
      refine zCt.of kJ5_length ht (by simp [Value.category]) (Nat.le_of_ble_eq_true rfl) ?_
      have c3 : zCt l G (d - 2 - 1 - 1) MJ4_length [.ref a] h2 0 (zIr (nI cs.length) h2) := by
        refine zCt.of kJ4_length ht (by simp [Value.category]) (Nat.le_of_ble_eq_true rfl) ?_
        exact b_J4_length_0 _ (zGi.k f3 rfl ⟨Nat.le_refl _, rfl, rfl⟩)
      exact b_J5_length_0 _ (zOc.k f3 (zCall.P c3 (by omega) (Nat.le_refl _) ⟨Nat.le_refl _, rfl, rfl⟩))
    refine b_J6_init_2_0 _ _ ⟨by omega, zOc.k f3 (zCall.R c1 (by omega) (by omega) (fun z h' _ q => ?_) (fun E h' _ q => q.elim))⟩
    obtain ⟨rfl, rfl⟩ := q
    refine zOc.k f3 (zCall.P c2 (by omega) (by omega) (zOc.k f3 (zCall.P (s_sbLatin ht hS f3 (d := d - 2 - 1)) (by omega) (by omega) ⟨fun c => absurd c (by decide), fun _ => ?_⟩)))
    refine zPf.k (zeS e2) bx fun h5 e5 => zCall.R (s_copyR ht (zeN e5 bxx f4) p5 p6 p9 (d := d - 2 - 1) (by omega)) (by omega) (by omega) (fun y h6 _ q => ?_) (fun E h' _ q => q.elim)
    obtain ⟨q1, q2, g, q3, q4⟩ := q
    have xy : x ≠ y := by intro q; rw [← q, e5, zUp_self] at q1; cases q1
    refine zPf.k (zeN q3 xy (zeS e5)) bx fun h7 e7 => ⟨by omega, y, g, ?_, q2, ?_, q4⟩
    · rw [e5, zUp_ne _ _ xy.symm] at q1; exact q1
    · rw [e7, q3, e5]; rfl
  have ct : zCt l G (d - 1) MJ6_init [.ref x, .ref a] h2 16 (zqV zNo fun h' => ∃ y g, h2 y = none ∧ zb G ≤ y ∧ h' = zUp (zUp (zUp h2 x (.inr (15, [.null, .int 0, .int 0, .int 0]))) y (.inl (.byte, cs.length, g))) x (.inr (15, [.ref y, .int 0, .int 0, .int 0])) ∧ ∀ i, i < cs.length → g i = f i) := by
    refine zCt.of kJ6_init ht (by simp [Value.category]) (Nat.le_of_ble_eq_true rfl) ?_
    exact b_J6_init_0 _ _ (zCall.V ct2 (by omega) (by omega) (fun h' _ q => ⟨by omega, q⟩) (fun E h' _ q => q.elim))
  refine zCall.V ct (by omega) (by omega) (fun h' _ q => ?_) (fun E h' _ q => q.elim)
  obtain ⟨y, g, q1, q2, q3, q4⟩ := q
  have xy : x ≠ y := by intro q; rw [← q, e2, zUp_self] at q1; cases q1
  have hy : h y = none := by rw [e2, zUp_ne _ _ xy.symm] at q1; exact q1
  have R3 := (R.new (x' := .inl (.byte, cs.length, g)) hy q2).new (x' := .inr (15, [.ref y, .int 0, .int 0, .int 0])) (zeN rfl xy hx) bx
  refine ⟨by omega, _, ?_, y, _, _, R.hn hx, R.hn hy, bx, q2, xy, rfl, y, g, 0, 0, tUp_s _ _ _, by rw [tUp_n xy.symm]; exact tUp_s _ _ _, fun i hi => by rw [q4 i hi, p8 i hi], p10, hl⟩
  have e : h' = zUp (zUp h y (.inl (.byte, cs.length, g))) x (.inr (15, [.ref y, .int 0, .int 0, .int 0])) := by
    rw [q3, e2]
    funext c
    by_cases c1 : c = x
    · rw [c1, zUp_self, zUp_self]
    · rw [zUp_ne _ _ c1, zUp_ne _ _ c1]
      by_cases c2 : c = y
      · rw [c2, zUp_self, zUp_self]
      · rw [zUp_ne _ _ c2, zUp_ne _ _ c1, zUp_ne _ _ c1, zUp_ne _ _ c2]
  rw [e]; exact R3
/-! what a text is asked -/
theorem tJ6_length (ht : l.stackTraces = false) (hS : tS G) (T : tTx k a cs) (hd : 1 ≤ d) : tC l G d MJ6_length [.ref a] k 0 (tIr (nI cs.length) k) := by
  intro h R
  obtain ⟨b, f, w, x, t1, t2, t3, t4, t5, t6, t7, t8⟩ := T.by R
  refine zCt.of kJ6_length ht (by simp [Value.category]) (Nat.le_of_ble_eq_true rfl) ?_
  exact b_J6_length_0 _ (zGr.k t1 rfl (zAl.k t2 (zOc.k t1 (zCall.P (s_coder ht hS t1 (d := d - 1)) (by omega) (Nat.le_refl _) ⟨Nat.le_refl _, k, R, sh0 _, rfl⟩))))
theorem tJ6_isEmpty (ht : l.stackTraces = false) (T : tTx k a cs) : tC l G d MJ6_isEmpty [.ref a] k 0 (tIr (zbi cs.isEmpty) k) := by
  intro h R
  obtain ⟨b, f, w, x, t1, t2, t3, t4, t5, t6, t7, t8⟩ := T.by R
  refine zCt.of kJ6_isEmpty ht (by simp [Value.category]) (Nat.le_of_ble_eq_true rfl) ?_
  refine b_J6_isEmpty_0 _ (zGr.k t1 rfl (zAl.k t2 ?_))
  rw [nI_e0 (by omega)]
  refine ⟨fun c => ⟨Nat.le_refl _, k, R, ?_, rfl⟩, fun c => ⟨Nat.le_refl _, k, R, ?_, rfl⟩⟩
  · rw [List.isEmpty_eq_false_iff.mpr (fun q => c (by rw [q]; rfl))]; rfl
  · have c2 : cs = [] := List.length_eq_zero_iff.mp (Classical.not_not.mp c)
    subst c2; rfl
theorem tJ6_toString (ht : l.stackTraces = false) : tC l G d MJ6_toString [.ref a] k 0 (tRr a k) := by
  intro h R
  refine zCt.of kJ6_toString ht (by simp [Value.category]) (Nat.le_of_ble_eq_true rfl) ?_
  exact b_J6_toString_0 _ ⟨Nat.le_refl _, k, R, rfl, rfl⟩
theorem tJ6_charAt (ht : l.stackTraces = false) (hS : tS G) (T : tTx k a cs) {i : Nat} (hi : i < cs.length) (hd : 3 ≤ d) : tC l G d MJ6_charAt [.ref a, .int (nI i)] k 0 (tIr (cs.getD i 0) k) := by
  intro h R
  obtain ⟨b, f, w, x, t1, t2, t3, t4, t5, t6, t7, t8⟩ := T.by R
  have hc := tAsc_at t6 hi
  have ab := asc_byte hc.1 hc.2
  have c1 : zCt l G (d - 1) MJ6_isLatin1 [.ref a] h 0 (zIr 1 h) := by
    refine zCt.of kJ6_isLatin1 ht (by simp [Value.category]) (Nat.le_of_ble_eq_true rfl) ?_
    exact b_J6_isLatin1_0 _ (zSi.k hS.1 ⟨fun c => absurd c (by decide), fun _ => zGi.k t1 rfl ⟨fun c => absurd rfl c, fun _ => ⟨Nat.le_refl _, rfl, rfl⟩⟩⟩)
  have c2 : zCt l G (d - 1) MJ23_charAt [.ref b, .int (nI i)] h 0 (zIr (cs.getD i 0) h) := by
    refine zCt.of kJ23_charAt ht (by simp [Value.category]) (Nat.le_of_ble_eq_true rfl) ?_
    refine b_J23_charAt_0 _ _ (zAl.k t2 (zCall.PV (s_siooCI ht hS (nI_pos (by omega)) (nI_lt hi (by omega)) (d := d - 1 - 1) (by omega)) (by omega) (Nat.le_refl _) (zAi.k t2 (vp_in_nI (by omega) (by omega)) (by rw [nI_clamp (by omega)]; exact t3 i hi) ⟨?_, Nat.le_refl _, ?_, rfl⟩)))
    · rw [ab.2.2.2.1, ab.2.2.2.2.1]; exact ab.2.2.2.2.2
    · rw [ab.2.2.2.1, ab.2.2.2.2.1]
  refine zCt.of kJ6_charAt ht (by simp [Value.category]) (Nat.le_of_ble_eq_true rfl) ?_
  exact b_J6_charAt_0 _ _ (zOc.k t1 (zCall.P c1 (by omega) (Nat.le_refl _) ⟨fun c => absurd c (by decide), fun _ => zGr.k t1 rfl (zCall.P c2 (by omega) (Nat.le_refl _) ⟨ab.2.2.2.2.2, Nat.le_refl _, k, R, rfl, rfl⟩)⟩))
theorem zany_all {p : Nat → Bool} {n : Nat} : ∀ j i, i + j = n → (∀ m, i ≤ m → m < n → p m = false) → zany p i j = false
  | 0, _, _, _ => rfl
  | j + 1, i, h, q => by
    rw [zany, q i (Nat.le_refl _) (by omega), Bool.false_or]
    exact zany_all j (i + 1) (by omega) (fun m h1 h2 => q m (by omega) h2)
theorem tJ6_equals (ht : l.stackTraces = false) (hS : tS G) {a2 : Nat} {cs2 : List Int32} (T : tTx k a cs) (T2 : tTx k a2 cs2) (hd : 1 ≤ d) : tC l G d MJ6_equals [.ref a, .ref a2] k 0 (tIr (zbi (decide (cs = cs2))) k) := by
  intro h R
  obtain ⟨b, f, w, x, t1, t2, t3, t4, t5, t6, t7, t8⟩ := T.by R
  obtain ⟨b2, f2, w2, x2, u1, u2, u3, u4, u5, u6, u7, u8⟩ := T2.by R
  have ct : zCt l G (d - 1) MJ23_equals [.ref b, .ref b2] h 0 (zIr (zbi (decide (cs = cs2))) h) := by
    refine zCt.of kJ23_equals ht (by simp [Value.category]) (Nat.le_of_ble_eq_true rfl) ?_
    refine b_J23_equals_0 _ _ (zAl.k t2 (zAl.k u2 ?_))
    rw [nI_eq (by omega) (by omega)]
    refine ⟨fun c => ⟨Nat.le_refl _, ?_, rfl⟩, fun c => ?_⟩
    · rw [decide_eq_false (fun q => c (by rw [q]))]; rfl
    · have cl : cs.length = cs2.length := Classical.not_not.mp c
      refine zInd (N := cs.length) (P := fun i => (∀ m, m < i → cs.getD m 0 = cs2.getD m 0) → zV l G (d - 1) 0 MJ23_equals (zIr (zbi (decide (cs = cs2))) h) 9 [some (.ref b), some (.ref b2), some (.int (nI i))] [] h 0) ?_ 0 (Nat.zero_le _) (fun m hm => by omega)
      intro i hi ih hall
      refine b_J23_equals_9 _ _ _ (zAl.k t2 ?_)
      rw [nI_leI (by omega) (by omega)]
      refine ⟨fun c => ⟨Nat.le_refl _, ?_, rfl⟩, fun c => zAi.k t2 (vp_in_nI (by omega) (by omega)) (by rw [nI_clamp (by omega)]; exact t3 i (by omega)) (zAi.k u2 (vp_in_nI (by omega) (by omega)) (by rw [nI_clamp (by omega)]; exact u3 i (by omega)) ⟨fun q => ?_, fun q => ⟨Nat.le_refl _, ?_, rfl⟩⟩)⟩
      · rw [decide_eq_true (List.ext_getElem cl fun m h1 h2 => ?_)]; rfl
        have := hall m (by omega)
        rw [List.getD_eq_getElem?_getD, List.getD_eq_getElem?_getD, List.getElem?_eq_getElem h1, List.getElem?_eq_getElem h2] at this
        exact this
      · rw [nI_1]
        refine ih (by omega) fun m hm => ?_
        by_cases z : m = i
        · rw [z]; exact q
        · exact hall m (by omega)
      · rw [decide_eq_false (fun z => q (by rw [z]))]; rfl
  refine zCt.of kJ6_equals ht (by simp [Value.category]) (Nat.le_of_ble_eq_true rfl) ?_
  refine b_J6_equals_0 _ _ ⟨fun c => ⟨Nat.le_refl _, k, R, ?_, rfl⟩, fun _ => zOc.k u1 (zOc.k u1 (zSi.k hS.1 ⟨fun c => absurd c (by decide), fun _ => zGi.k t1 rfl (zGi.k u1 rfl ⟨fun c => absurd rfl c, fun _ => zGr.k t1 rfl (zGr.k u1 rfl (zCall.P ct (by omega) (Nat.le_refl _) ⟨fun c => ⟨Nat.le_refl _, k, R, ?_, rfl⟩, fun c => ⟨Nat.le_refl _, k, R, ?_, rfl⟩⟩))⟩)⟩))⟩
  · subst c
    rw [t1] at u1
    have : b = b2 := by cases u1; rfl
    subst this
    rw [t2] at u2
    simp only [Option.some.injEq, Sum.inl.injEq, Prod.mk.injEq, true_and] at u2
    obtain ⟨hl, hf⟩ := u2
    rw [decide_eq_true (List.ext_getElem hl fun m h1 h2 => ?_)]; rfl
    have q1 := t3 m h1
    have q2 := u3 m h2
    rw [hf, q2] at q1
    have q3 : cs2.getD m 0 = cs.getD m 0 := Value.int.inj q1
    rw [List.getD_eq_getElem?_getD, List.getD_eq_getElem?_getD, List.getElem?_eq_getElem h1, List.getElem?_eq_getElem h2] at q3
    exact q3.symm
  · exact c.symm
  · rw [zbi_eq0, Bool.not_eq_false] at c; rw [c]; rfl
end K9
