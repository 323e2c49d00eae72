/-! builders and texts -/
/-- a text: a String of ASCII characters -/
def tTx (k : t_H) (a : Nat) (cs : List Int32) : Prop := ∃ e f hs hz, k a = some (tOb 15 [.ref e, .int 0, .int hs, .int hz]) ∧ k e = some (tAr .byte cs.length f) ∧ (∀ i, i < cs.length → f i = .int (cs.getD i 0)) ∧ tAsc cs ∧ cs.length ≤ 500
section K8
variable {l : Launch} {G : zG} {k : t_H} {h : zH} {d : Nat} {a : Nat} {cs : List Int32}
theorem tAsc_fit (hA : tAsc cs) {i : Nat} (hi : i < cs.length) : fits .byte (.int (cs.getD i 0)) = true := by
  have := hA (cs.getD i 0) (by rw [List.getD_eq_getElem?_getD, List.getElem?_eq_getElem hi]; exact List.getElem_mem hi)
  exact (asc_byte this.1 this.2).2.2.1
theorem s_canEnc (ht : l.stackTraces = false) {c : Int32} (hc : c ≤ 127) : zCt l G d MJ23_canEncode [.int c] h 0 (zIr 1 h) := by
  refine zCt.of kJ23_canEncode ht (by simp [Value.category]) (Nat.le_of_ble_eq_true rfl) ?_
  refine b_J23_canEncode_0 _ ⟨fun q => ?_, fun _ => ⟨Nat.le_refl _, rfl, rfl⟩⟩
  exact absurd (Int32.lt_of_lt_of_le q hc) (by decide)
/-- Character by character: the text grows by one at its end -/
theorem tSnoc {len : Nat} {g : Nat → Value} {c : Int32} (hl : cs.length = len) (hf : ∀ i, i < len → g i = .int (cs.getD i 0)) : ∀ i, i < (cs ++ [c]).length → zUv g len (.int c) i = .int ((cs ++ [c]).getD i 0) := by
  intro i hi
  rw [List.length_append, List.length_singleton] at hi
  rw [List.getD_eq_getElem?_getD]
  show (if i = len then _ else _) = _
  by_cases q : i < cs.length
  · rw [if_neg (by omega), List.getElem?_append_left q, hf i (by omega), List.getD_eq_getElem?_getD]
  · obtain rfl : i = cs.length := by omega
    rw [if_pos hl, List.getElem?_concat_length]; rfl
theorem tJ4_appendC (ht : l.stackTraces = false) (hS : tS G) (e : k a = some (tSb cs)) {c : Int32} (h0 : 0 ≤ c) (h1 : c ≤ 127) (hl : cs.length ≤ 490) (hd : 4 ≤ d) : tC l G d MJ4_append_6 [.ref a, .int c] k 16 (tRr a (tUp k a (tSb (cs ++ [c])))) := by
  intro h R
  obtain ⟨o, ml, b, cap, f, P⟩ := R.sb e
  have P2 := P
  obtain ⟨p1, p2, p3, p4, p5, p6, p7, p8, p9, p10, p11, p12, p13⟩ := P
  refine zCt.of kJ4_append_6 ht (by simp [Value.category]) (Nat.le_of_ble_eq_true rfl) ?_
  refine b_J4_append_6_0 _ _ (zGi.k p3 rfl (zOc.k p3 ?_))
  rw [nI_1]
  refine zCall.V (s_ensure ht p2 p3 p4 p6 (by omega) p9 (d := d - 1) (by omega)) (by omega) (by omega) (fun h2 _ q => ?_) (fun E h' _ q => q.elim)
  obtain ⟨b', cap', g, q1, q2, q3, q4, q5, q6, q7, q8, q9⟩ := q
  have bz : zb G ≤ b' := by
    rcases q1 with q | q
    · rw [q]; exact p11
    · exact q.2
  have ba : a ≠ b' := by intro q; rw [← q, q3] at q4; cases q4
  refine zOc.k q3 (zCall.P (s_sbLatin ht hS q3 (d := d - 1)) (by omega) (by omega) ⟨fun z => absurd z (by decide), fun _ => zCall.P (s_canEnc ht h1 (d := d - 1)) (by omega) (by omega) ⟨fun z => absurd z (by decide), fun _ => ?_⟩⟩)
  refine zGr.k q3 rfl (zGi.k q3 rfl (zPf.k q3 p2 fun h3 e3 => zSt1.k (zeN e3 ba.symm q4) (vp_in_nI (by omega) (by omega)) bz fun h4 e4 => ⟨by omega, _, ?_, rfl, rfl⟩))
  rw [(asc_byte h0 h1).1, (asc_byte h0 h1).2.1, nI_clamp (by omega)] at e4
  refine P2.cl R e (b' := b') (fun c c1 c2 => by rw [e4, zUp_ne _ _ c2, e3, zUp_ne _ _ c1, q2 c c1 c2]) q1 (zeN e4 ba (by rw [List.length_append, List.length_singleton, ← nI_1]; exact zeS e3)) (zeS e4) (by rw [List.length_append, List.length_singleton]; omega) q7 p7 (tSnoc rfl fun i hi => by rw [q9 i (by omega), p8 i hi]) (fun i hi => ?_) (fun z hz => ?_)
  · by_cases c2 : i = cs.length
    · exact ⟨c, if_pos c2, (asc_byte h0 h1).2.2.1⟩
    · obtain ⟨x, x1, x2⟩ := q8 i hi
      exact ⟨x, by rw [← x1]; exact if_neg c2, x2⟩
  · rcases List.mem_append.mp hz with z1 | z1
    · exact p10 z z1
    · rw [List.mem_singleton.mp z1]; exact ⟨h0, h1⟩
theorem tJ5_appendC (ht : l.stackTraces = false) (hS : tS G) (e : k a = some (tSb cs)) {c : Int32} (h0 : 0 ≤ c) (h1 : c ≤ 127) (hl : cs.length ≤ 490) (hd : 5 ≤ d) : tC l G d MJ5_append_8 [.ref a, .int c] k 16 (tRr a (tUp k a (tSb (cs ++ [c])))) := by
  intro h R
  refine zCt.of kJ5_append_8 ht (by simp [Value.category]) (Nat.le_of_ble_eq_true rfl) ?_
  exact b_J5_append_8_0 _ _ (tOcZ R e (tC.r R (tJ4_appendC ht hS e h0 h1 hl (d := d - 1) (by omega)) (by omega) (by omega) fun h' R' => ⟨by omega, _, R', rfl, rfl⟩))
/-! texts at layer 1 -/
theorem s_coder (ht : l.stackTraces = false) (hS : tS G) {v w x : Value} (e : h a = some (.inr (15, [v, .int 0, w, x]))) : zCt l G d MJ6_coder [.ref a] h 0 (zIr 0 h) := by
  refine zCt.of kJ6_coder ht (by simp [Value.category]) (Nat.le_of_ble_eq_true rfl) ?_
  exact b_J6_coder_0 _ (zSi.k hS.1 ⟨fun c => absurd c (by decide), fun _ => zGi.k e rfl ⟨by decide, Nat.le_refl _, rfl, rfl⟩⟩)
theorem s_strLen (ht : l.stackTraces = false) (hS : tS G) {b n : Nat} {f : Nat → Value} {w x : Value} (e : h a = some (.inr (15, [.ref b, .int 0, w, x]))) (e2 : h b = some (.inl (.byte, n, f))) (hd : 1 ≤ d) : zCt l G d MJ6_length [.ref a] h 0 (zIr (nI n) h) := by
  refine zCt.of kJ6_length ht (by simp [Value.category]) (Nat.le_of_ble_eq_true rfl) ?_
  exact b_J6_length_0 _ (zGr.k e rfl (zAl.k e2 (zOc.k e (zCall.P (s_coder ht hS e (d := d - 1)) (by omega) (Nat.le_refl _) ⟨Nat.le_refl _, sh0 _, rfl⟩))))
/-- a text's bytes go into an array -/
theorem s_getBytes (ht : l.stackTraces = false) (hS : tS G) {b b2 n n2 pos : Nat} {f g : Nat → Value} {w x : Value} (e : h a = some (.inr (15, [.ref b, .int 0, w, x]))) (e2 : h b = some (.inl (.byte, n, f))) (e3 : h b2 = some (.inl (.byte, n2, g))) (bz : zb G ≤ b2) (hn : pos + n ≤ n2) (hn2 : n2 ≤ 1023) (hB : tBy n f) (hd : 1 ≤ d) : zCt l G d MJ6_getBytes [.ref a, .ref b2, .int (nI pos), .int 0] h 0 (zVr (zUp h b2 (.inl (.byte, n2, va_cpy f g 0 pos n)))) := by
  refine zCt.of kJ6_getBytes ht (by simp [Value.category]) (Nat.le_of_ble_eq_true rfl) ?_
  refine b_J6_getBytes_0 _ _ _ _ (zOc.k e (zCall.P (s_coder ht hS e (d := d - 1)) (by omega) (Nat.le_refl _) ⟨fun c => absurd rfl c, fun _ => zGr.k e rfl (zGr.k e rfl (zAl.k e2 ⟨hd, ?_⟩))⟩))
  rw [sl0]
  have cl : (nI n).toNatClampNeg = n := nI_clamp (by omega)
  have cp : (nI pos).toNatClampNeg = pos := nI_clamp (by omega)
  refine zAw.k e2 (zAw.k e3 ⟨bz, by decide, nI_pos (by omega), nI_pos (by omega), by rw [cl]; show 0 + n ≤ n; omega, by rw [cl, cp]; omega, fun i hi => ?_, fun h1 e1 => ⟨Nat.le_refl _, ?_⟩⟩)
  · rw [cl] at hi
    show zEl h .byte (f (0 + i))
    rw [Nat.zero_add]; exact Or.inl (hB i hi)
  · rw [e1, cl, cp]; rfl
theorem s_inflIf (ht : l.stackTraces = false) (hS : tS G) {a2 : Nat} {v w x v2 w2 x2 : Value} (e : h a = some (.inr (14, [v, .int 0, w, x]))) (e2 : h a2 = some (.inr (15, [v2, .int 0, w2, x2]))) (hd : 1 ≤ d) : zCt l G d MJ4_inflateIfNeededFor [.ref a, .ref a2] h 0 (zVr h) := by
  refine zCt.of kJ4_inflateIfNeededFor ht (by simp [Value.category]) (Nat.le_of_ble_eq_true rfl) ?_
  exact b_J4_inflateIfNeededFor_0 _ _ (zSi.k hS.1 ⟨fun c => absurd c (by decide), fun _ => zGi.k e rfl (zOc.k e2 (zCall.P (s_coder ht hS e2 (d := d - 1)) (by omega) (Nat.le_refl _) ⟨fun _ => ⟨Nat.le_refl _, rfl⟩, fun c => absurd rfl c⟩))⟩)
theorem s_putStr (ht : l.stackTraces = false) (hS : tS G) {a2 b b2 n n2 pos : Nat} {f g : Nat → Value} {w x w2 x2 : Value} (e : h a = some (.inr (14, [.ref b2, .int 0, w2, x2]))) (e3 : h b2 = some (.inl (.byte, n2, g))) (e1 : h a2 = some (.inr (15, [.ref b, .int 0, w, x]))) (e2 : h b = some (.inl (.byte, n, f))) (bz : zb G ≤ b2) (hn : pos + n ≤ n2) (hn2 : n2 ≤ 1023) (hB : tBy n f) (hd : 2 ≤ d) : zCt l G d MJ4_putStringAt [.ref a, .int (nI pos), .ref a2] h 0 (zVr (zUp h b2 (.inl (.byte, n2, va_cpy f g 0 pos n)))) := by
  refine zCt.of kJ4_putStringAt ht (by simp [Value.category]) (Nat.le_of_ble_eq_true rfl) ?_
  refine b_J4_putStringAt_0 _ _ _ (zOc.k e (zCall.PV (s_inflIf ht hS e e1 (d := d - 1) (by omega)) (by omega) (Nat.le_refl _) (zGr.k e rfl (zGi.k e rfl (zOc.k e1 (zCall.PV (s_getBytes ht hS e1 e2 e3 bz hn hn2 hB (d := d - 1) (by omega)) (by omega) (Nat.le_refl _) ⟨Nat.le_refl _, rfl⟩))))))
theorem tApp {cs2 : List Int32} {f g : Nat → Value} (hf : ∀ i, i < cs.length → g i = .int (cs.getD i 0)) (hg : ∀ i, i < cs2.length → f i = .int (cs2.getD i 0)) : ∀ i, i < (cs ++ cs2).length → va_cpy f g 0 cs.length cs2.length i = .int ((cs ++ cs2).getD i 0) := by
  intro i hi
  rw [List.length_append] at hi
  rw [List.getD_eq_getElem?_getD, va_cpy]
  by_cases q : i < cs.length
  · rw [if_neg (by omega), List.getElem?_append_left q, hf i q, List.getD_eq_getElem?_getD]
  · rw [if_pos (by omega), List.getElem?_append_right (by omega), Nat.zero_add, hg (i - cs.length) (by omega), List.getD_eq_getElem?_getD]
theorem tTx.by (R : tR G k h) {s : Nat} {cs2 : List Int32} (T : tTx k s cs2) : ∃ e f w x, h s = some (.inr (15, [.ref e, .int 0, .int w, .int x])) ∧ h e = some (.inl (.byte, cs2.length, f)) ∧ (∀ i, i < cs2.length → f i = .int (cs2.getD i 0)) ∧ tBy cs2.length f ∧ k e ≠ none ∧ tAsc cs2 ∧ cs2.length ≤ 500 ∧ k s ≠ none := by
  obtain ⟨e, f, w, x, h1, h2, h3, h4, h5⟩ := T
  exact ⟨e, f, w, x, R.e h1, R.e h2, h3, fun i hi => ⟨_, h3 i hi, tAsc_fit h4 hi⟩, (by rw [h2]; exact fun z => by cases z), h4, h5, (by rw [h1]; exact fun z => by cases z)⟩
theorem tJ4_appendS (ht : l.stackTraces = false) (hS : tS G) (e : k a = some (tSb cs)) {s : Nat} {cs2 : List Int32} (T : tTx k s cs2) (hl : cs.length + cs2.length ≤ 490) (hd : 4 ≤ d) : tC l G d MJ4_append [.ref a, .ref s] k 16 (tRr a (tUp k a (tSb (cs ++ cs2)))) := by
  intro h R
  obtain ⟨o, ml, b, cap, f, P⟩ := R.sb e
  have P2 := P
  obtain ⟨p1, p2, p3, p4, p5, p6, p7, p8, p9, p10, p11, p12, p13⟩ := P
  obtain ⟨eb, ef, w, x, t1, t2, t3, t4, t5, t6, t7, t8⟩ := T.by R
  refine zCt.of kJ4_append ht (by simp [Value.category]) (Nat.le_of_ble_eq_true rfl) ?_
  refine b_J4_append_0 _ _ (zOc.k t1 (zCall.P (s_strLen ht hS t1 t2 (d := d - 1) (by omega)) (by omega) (by omega) (zGi.k p3 rfl (zOc.k p3 ?_))))
  rw [nI_add]
  refine zCall.V (s_ensure ht p2 p3 p4 p6 (by omega) p9 (d := d - 1) (by omega)) (by omega) (by omega) (fun h2 _ q => ?_) (fun E h' _ q => q.elim)
  obtain ⟨b', cap', g, q1, q2, q3, q4, q5, q6, q7, q8, q9⟩ := q
  have bz : zb G ≤ b' := by
    rcases q1 with q | q
    · rw [q]; exact p11
    · exact q.2
  have ba : a ≠ b' := by intro q; rw [← q, q3] at q4; cases q4
  have keep : ∀ c, k c ≠ none → c ≠ a → h2 c = h c := by
    intro c hc ca
    refine q2 c ca ?_
    rcases q1 with q | q
    · rw [q]; intro z; rw [z] at hc; exact hc p12
    · intro z; rw [z] at hc; exact hc (R.hn q.1)
  have sa : s ≠ a := by intro z; rw [z, p3] at t1; cases t1
  have ea : eb ≠ a := by intro z; rw [z, p3] at t2; cases t2
  have t1' := (keep s t8 sa).trans t1
  have t2' := (keep eb t5 ea).trans t2
  refine zGi.k q3 rfl (zOc.k q3 (zCall.PV (s_putStr ht hS q3 q4 t1' t2' bz (by omega) q7 t4 (d := d - 1) (by omega)) (by omega) (by omega) ?_))
  have f1 := zeN (h2 := zUp h2 b' (.inl (.byte, cap', va_cpy ef g 0 cs.length cs2.length))) rfl ba q3
  refine zGi.k f1 rfl (zPf.k f1 p2 fun h4 e4 => ⟨by omega, _, ?_, rfl, rfl⟩)
  refine P2.cl R e (b' := b') (fun c c1 c2 => by rw [e4, zUp_ne _ _ c1, zUp_ne _ _ c2, q2 c c1 c2]) q1 (by rw [List.length_append, ← nI_add]; exact zeS e4) (zeN e4 ba.symm (zUp_self _ _ _)) (by rw [List.length_append]; omega) q7 p7 (tApp (fun i hi => by rw [q9 i (by omega), p8 i hi]) t3) (fun i hi => ?_) (fun z hz => ?_)
  · rw [va_cpy]
    split
    · next c => rw [Nat.zero_add]; exact t4 _ (by omega)
    · exact q8 i hi
  · rcases List.mem_append.mp hz with z1 | z1
    · exact p10 z z1
    · exact t6 z z1
theorem tJ5_appendS (ht : l.stackTraces = false) (hS : tS G) (e : k a = some (tSb cs)) {s : Nat} {cs2 : List Int32} (T : tTx k s cs2) (hl : cs.length + cs2.length ≤ 490) (hd : 5 ≤ d) : tC l G d MJ5_append [.ref a, .ref s] k 16 (tRr a (tUp k a (tSb (cs ++ cs2)))) := by
  intro h R
  refine zCt.of kJ5_append ht (by simp [Value.category]) (Nat.le_of_ble_eq_true rfl) ?_
  exact b_J5_append_0 _ _ (tOcZ R e (tC.r R (tJ4_appendS ht hS e T hl (d := d - 1) (by omega)) (by omega) (by omega) fun h' R' => ⟨by omega, _, R', rfl, rfl⟩))
theorem tJ5_append5 (ht : l.stackTraces = false) (hS : tS G) (e : k a = some (tSb cs)) {s : Nat} {cs2 : List Int32} (T : tTx k s cs2) (hl : cs.length + cs2.length ≤ 490) (hd : 6 ≤ d) : tC l G d MJ5_append_5 [.ref a, .ref s] k 16 (tRr a (tUp k a (tSb (cs ++ cs2)))) := by
  intro h R
  refine zCt.of kJ5_append_5 ht (by simp [Value.category]) (Nat.le_of_ble_eq_true rfl) ?_
  exact b_J5_append_5_0 _ _ (tOcZ R e (tC.r R (tJ5_appendS ht hS e T hl (d := d - 1) (by omega)) (by omega) (by omega) fun h' R' => ⟨by omega, _, R', rfl, rfl⟩))
theorem tJ4_append3 (ht : l.stackTraces = false) (hS : tS G) (e : k a = some (tSb cs)) {s : Nat} {cs2 : List Int32} (T : tTx k s cs2) (hl : cs.length + cs2.length ≤ 490) (hd : 7 ≤ d) : tC l G d MJ4_append_3 [.ref a, .ref s] k 16 (tRr a (tUp k a (tSb (cs ++ cs2)))) := by
  intro h R
  obtain ⟨eb, ef, w, x, t1, -⟩ := T.by R
  refine zCt.of kJ4_append_3 ht (by simp [Value.category]) (Nat.le_of_ble_eq_true rfl) ?_
  exact b_J4_append_3_0 _ _ (zOc.k t1 (zOc.k t1 (tOcZ R e (tC.r R (tJ5_append5 ht hS e T hl (d := d - 1) (by omega)) (by omega) (by omega) fun h' R' => ⟨by omega, _, R', rfl, rfl⟩))))
/-- append(CharSequence) of a String -/
theorem tJ5_appendQ (ht : l.stackTraces = false) (hS : tS G) (e : k a = some (tSb cs)) {s : Nat} {cs2 : List Int32} (T : tTx k s cs2) (hl : cs.length + cs2.length ≤ 490) (hd : 8 ≤ d) : tC l G d MJ5_append_4 [.ref a, .ref s] k 16 (tRr a (tUp k a (tSb (cs ++ cs2)))) := by
  intro h R
  refine zCt.of kJ5_append_4 ht (by simp [Value.category]) (Nat.le_of_ble_eq_true rfl) ?_
  exact b_J5_append_4_0 _ _ (tOcZ R e (tC.r R (tJ4_append3 ht hS e T hl (d := d - 1) (by omega)) (by omega) (by omega) fun h' R' => ⟨by omega, _, R', rfl, rfl⟩))
theorem tJ4_length (ht : l.stackTraces = false) (e : k a = some (tSb cs)) : tC l G d MJ4_length [.ref a] k 0 (tIr (nI cs.length) k) := by
  intro h R
  obtain ⟨o, ml, b, cap, f, P⟩ := R.sb e
  refine zCt.of kJ4_length ht (by simp [Value.category]) (Nat.le_of_ble_eq_true rfl) ?_
  exact b_J4_length_0 _ (zGi.k P.2.2.1 rfl ⟨Nat.le_refl _, k, R, rfl, rfl⟩)
theorem tJ5_length (ht : l.stackTraces = false) (e : k a = some (tSb cs)) (hd : 1 ≤ d) : tC l G d MJ5_length [.ref a] k 0 (tIr (nI cs.length) k) := by
  intro h R
  refine zCt.of kJ5_length ht (by simp [Value.category]) (Nat.le_of_ble_eq_true rfl) ?_
  exact b_J5_length_0 _ (tOcZ R e (tC.i R (tJ4_length ht e (d := d - 1)) (by omega) (Nat.le_refl _) fun h' R' => ⟨Nat.le_refl _, _, R', rfl, rfl⟩))
theorem s_siooCI (ht : l.stackTraces = false) (hS : tS G) {i N : Int32} (h0 : ¬ i < 0) (h1 : i < N) (hd : 1 ≤ d) : zCt l G d MJ6_checkIndex [.int i, .int N] h 0 (zVr h) := by
  refine zCt.of kJ6_checkIndex ht (by simp [Value.category]) (Nat.le_of_ble_eq_true rfl) ?_
  obtain ⟨x, hx⟩ := hS.2.2.2.2.2.2.2.1
  exact b_J6_checkIndex_0 _ _ (zSn.k hx (zCall.P (s_ci21 ht x h0 h1 (d := d - 1)) (by omega) (Nat.le_refl _) ⟨Nat.le_refl _, rfl⟩))
end K8
