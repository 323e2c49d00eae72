/-! Integer, iterators, what a list is at its start -/
/-- where the Integer of a small number stands -/
def tbx (G : zG) (j : Nat) : Nat := match zZs G "java/lang/Integer$IntegerCache" "cache" with
  | .ref c => (match zh0 G c with
    | some (.inl (_, _, f)) => (match f (j + 128) with
      | .ref b => b
      | _ => 0)
    | _ => 0)
  | _ => 0
theorem tbx_e {G : zG} (hS : tS G) {j : Nat} (hj : j < 128) : tbx G j < zb G ∧ zh0 G (tbx G j) = some (.inr (16, [.int (nI j)])) := by
  obtain ⟨c, f, h1, h2, h3, h4⟩ := hS.2.2.1
  obtain ⟨b, h5, h6, h7⟩ := h4 (j + 128) (by omega)
  have e : tbx G j = b := by unfold tbx; rw [h1]; simp only [h3, h5]
  rw [e]
  refine ⟨h6, ?_⟩
  rw [h7, show (128 : Int32) = nI 128 by rfl, pk_sub (by omega), show j + 128 - 128 = j by omega]
section K5
variable {l : Launch} {G : zG} {k : t_H} {h : zH} {d : Nat}
theorem tR.bx (R : tR G k h) (hS : tS G) {j : Nat} (hj : j < 128) : k (tbx G j) = some (tOb 16 [.int (nI j)]) := by
  obtain ⟨h1, h2⟩ := tbx_e hS hj
  exact R.2.2 _ _ h1 h2
theorem s_valueOf (ht : l.stackTraces = false) (hS : tS G) (hB : zB G h) {j : Nat} (hj : j < 128) : zCt l G d MJ18_valueOf [.int (nI j)] h 0 (zqR zNo fun x h' => x = tbx G j ∧ h' = h) := by
  refine zCt.of kJ18_valueOf ht (by simp [Value.category]) (Nat.le_of_ble_eq_true rfl) ?_
  obtain ⟨c, f, h1, h2, h3, h4⟩ := hS.2.2.1
  obtain ⟨b, h5, h6, h7⟩ := h4 (j + 128) (by omega)
  have e : tbx G j = b := by unfold tbx; rw [h1]; simp only [h3, h5]
  refine b_J18_valueOf_0 _ ⟨fun q => ?_, fun _ => zSi.k hS.2.1 ⟨fun q => ?_, fun _ => zSr.k h1 (zAf.k (x := b) (by rw [hB c h2]; exact h3) ?_ ?_ ⟨Nat.le_refl _, e.symm, rfl⟩)⟩⟩
  · have h0 : ¬ nI j < 0 := nI_pos (by omega)
    exact absurd (Int32.lt_trans q (by decide)) h0
  · exact absurd q (by rw [show (127 : Int32) = nI 127 by rfl]; exact nI_nlt (by omega) (by omega))
  · rw [show (128 : Int32) = nI 128 by rfl, nI_add]; exact vp_in_nI (by omega) (by omega)
  · rw [show (128 : Int32) = nI 128 by rfl, nI_add, nI_clamp (by omega)]; exact h5
theorem tJ18_valueOf (ht : l.stackTraces = false) (hS : tS G) {j : Nat} (hj : j < 128) : tC l G d MJ18_valueOf [.int (nI j)] k 0 (tRr (tbx G j) k) := by
  intro h R
  refine zCt.of kJ18_valueOf ht (by simp [Value.category]) (Nat.le_of_ble_eq_true rfl) ?_
  obtain ⟨c, f, h1, h2, h3, h4⟩ := hS.2.2.1
  obtain ⟨b, h5, h6, h7⟩ := h4 (j + 128) (by omega)
  have e : tbx G j = b := by unfold tbx; rw [h1]; simp only [h3, h5]
  refine b_J18_valueOf_0 _ ⟨fun q => ?_, fun _ => zSi.k hS.2.1 ⟨fun q => ?_, fun _ => zSr.k h1 (zAf.k (x := b) (by rw [R.1 c h2]; exact h3) ?_ ?_ ⟨Nat.le_refl _, k, R, e.symm, rfl⟩)⟩⟩
  · have h0 : ¬ nI j < 0 := nI_pos (by omega)
    exact absurd (Int32.lt_trans q (by decide)) h0
  · exact absurd q (by rw [show (127 : Int32) = nI 127 by rfl]; exact nI_nlt (by omega) (by omega))
  · rw [show (128 : Int32) = nI 128 by rfl, nI_add]; exact vp_in_nI (by omega) (by omega)
  · rw [show (128 : Int32) = nI 128 by rfl, nI_add, nI_clamp (by omega)]; exact h5
theorem tJ18_intValue (ht : l.stackTraces = false) {a : Nat} {v : Int32} (e : k a = some (tOb 16 [.int v])) : tC l G d MJ18_intValue [.ref a] k 0 (tIr v k) := by
  intro h R
  refine zCt.of kJ18_intValue ht (by simp [Value.category]) (Nat.le_of_ble_eq_true rfl) ?_
  exact b_J18_intValue_0 _ (tGi R e rfl ⟨Nat.le_refl _, k, R, rfl, rfl⟩)
theorem s_intValue (ht : l.stackTraces = false) {a : Nat} {v : Int32} (e : h a = some (.inr (16, [.int v]))) : zCt l G d MJ18_intValue [.ref a] h 0 (zIr v h) := by
  refine zCt.of kJ18_intValue ht (by simp [Value.category]) (Nat.le_of_ble_eq_true rfl) ?_
  exact b_J18_intValue_0 _ (zGi.k e rfl ⟨Nat.le_refl _, rfl, rfl⟩)
theorem s_intEquals (ht : l.stackTraces = false) {a b : Nat} {v w : Int32} (e : h a = some (.inr (16, [.int v]))) (e2 : h b = some (.inr (16, [.int w]))) (hd : 1 ≤ d) : zCt l G d MJ18_equals [.ref a, .ref b] h 0 (zIr (zbi (v == w)) h) := by
  refine zCt.of kJ18_equals ht (by simp [Value.category]) (Nat.le_of_ble_eq_true rfl) ?_
  refine b_J18_equals_0 _ _ (zOc.k e2 (zGi.k e rfl (zOc.k e2 (zOc.k e2 (zCall.P (s_intValue ht e2 (d := d - 1)) (by omega) (Nat.le_refl _) ⟨fun c => ?_, fun c => ?_⟩)))))
  · exact ⟨Nat.le_refl _, by simp [zbi, c], rfl⟩
  · exact ⟨Nat.le_refl _, by simp [zbi, Classical.not_not.mp c], rfl⟩
section LI
variable {a : Nat} {m : Int32} {xs : List Nat}
theorem zff_ge {p : Nat → Bool} : ∀ j i, (zff p i j = -1 ∨ ∃ n, zff p i j = nI n ∧ i ≤ n ∧ n < i + j)
  | 0, i => Or.inl rfl
  | j + 1, i => by
    unfold zff
    split
    · exact Or.inr ⟨i, rfl, Nat.le_refl _, by omega⟩
    · rcases zff_ge (p := p) j (i + 1) with h | ⟨n, h1, h2, h3⟩
      · exact Or.inl h
      · exact Or.inr ⟨n, h1, by omega, by omega⟩
theorem tJ2_indexOf (ht : l.stackTraces = false) (e : k a = some (tLi m xs)) {y : Nat} {v : Int32} {g : Nat → Int32} (hy : k y = some (tOb 16 [.int v])) (hv : ∀ i, i < xs.length → k (xs.getD i 0) = some (tOb 16 [.int (g i)])) (hd : 3 ≤ d) : tC l G d MJ2_indexOf [.ref a, .ref y] k 0 (tIr (zff (fun i => v == g i) 0 xs.length) k) := by
  intro h R
  obtain ⟨o, b, cap, f, P⟩ := R.li e
  obtain ⟨p1, p2, p3, p4, p5, p6, p7, p8, p9, p10, p11⟩ := P
  refine zCt.of kJ2_indexOf ht (by simp [Value.category]) (Nat.le_of_ble_eq_true rfl) ?_
  have ct : zCt l G (d - 1) MJ2_indexOfRange [.ref a, .ref y, .int 0, .int (nI xs.length)] h 0 (zIr (zff (fun i => v == g i) 0 xs.length) h) := by
    refine zCt.of kJ2_indexOfRange ht (by simp [Value.category]) (Nat.le_of_ble_eq_true rfl) ?_
    refine b_J2_indexOfRange_0 _ _ _ _ (zGr.k p3 rfl ?_)
    refine zInd (N := xs.length) (P := fun j => zff (fun i => v == g i) 0 xs.length = zff (fun i => v == g i) j (xs.length - j) → zV l G (d - 1) 0 MJ2_indexOfRange (zIr (zff (fun i => v == g i) 0 xs.length) h) 42 [some (.ref a), some (.ref y), some (.int 0), some (.int (nI xs.length)), some (.ref b), some (.int (nI j))] [] h 0) ?_ 0 (Nat.zero_le _) rfl
    intro j hj ih hi
    refine b_J2_indexOfRange_42 _ _ _ _ _ _ ?_
    rw [nI_leI (by omega) (by omega)]
    refine ⟨fun c => ⟨Nat.le_refl _, ?_, rfl⟩, fun c => ?_⟩
    · rw [hi, show xs.length - j = 0 by omega]; rfl
    · have lt : j < xs.length := by omega
      refine zAf.k p4 (vp_in_nI (by omega) (by omega)) (by rw [nI_clamp (by omega)]; exact p7 j lt) (zOc.k (R.e hy) (zCall.P (s_intEquals ht (R.e hy) (R.e (hv j lt)) (d := d - 1 - 1) (by omega)) (by omega) (Nat.le_refl _) ⟨fun c2 => ?_, fun c2 => ⟨Nat.le_refl _, ?_, rfl⟩⟩))
      · rw [nI_1]
        refine ih lt ?_
        rw [hi, zff_f lt (zbi_eq0.mp c2)]
      · rw [hi, zff_t lt (by rw [zbi_eq0, Bool.not_eq_false] at c2; exact c2)]
  exact b_J2_indexOf_0 _ _ (zGi.k p3 rfl (zOc.k p3 (zCall.P ct (by omega) (Nat.le_refl _) ⟨Nat.le_refl _, k, R, rfl, rfl⟩)))
/-- an iterator: which place it is at, which it had -/
abbrev tIt (i : Int32) (j : Int32) (m : Int32) (a : Nat) : t_O := tOb 12 [.int i, .int j, .int m, .ref a]
theorem tJ2_iterator (ht : l.stackTraces = false) (e : k a = some (tLi m xs)) (hd : 2 ≤ d) : tC l G d MJ2_iterator [.ref a] k 1 (tqR tNo fun x k' => k x = none ∧ zb G ≤ x ∧ k' = tUp k x (tIt 0 (-1) m a)) := by
  intro h R
  refine zCt.of kJ2_iterator ht (by simp [Value.category]) (Nat.le_of_ble_eq_true rfl) ?_
  refine b_J2_iterator_0 _ ⟨by omega, fun x hx bx h2 e2 => ?_⟩
  have xk := R.hn hx
  have R2 : tR G (tUp k x (tOb 12 [.int 0, .int 0, .int 0, .null])) h2 := by rw [e2]; exact R.new hx bx
  have ax : a ≠ x := by intro q; rw [q, xk] at e; cases e
  have ct : tC l G (d - 1) MJ12_init [.ref x, .ref a] (tUp k x (tOb 12 [.int 0, .int 0, .int 0, .null])) 0 (tVr (tUp k x (tIt 0 (-1) m a))) := by
    clear R R2 hx e2
    intro h R
    refine zCt.of kJ12_init ht (by simp [Value.category]) (Nat.le_of_ble_eq_true rfl) ?_
    refine b_J12_init_0 _ _ (tPf R (tUp_s _ _ _) bx fun h3 R3 => ⟨by omega, tPf R3 (tUp_s _ _ _) bx fun h4 R4 => tGr R4 (tUp_s _ _ _) rfl (tLmd R4 (m := m) (xs := xs) (by rw [tUp_n ax, tUp_n ax, tUp_n ax]; exact e) (tPf R4 (tUp_s _ _ _) bx fun h5 R5 => ⟨Nat.le_refl _, _, R5, ?_⟩))⟩)
    rw [tUp_up, tUp_up, tUp_up]; rfl
  refine tC.v R2 ct (by omega) (Nat.le_refl _) fun h3 R3 => ⟨Nat.le_refl _, _, R3, xk, bx, rfl⟩
theorem tJ12_hasNext (ht : l.stackTraces = false) {it i : Nat} {j m2 : Int32} (e : k a = some (tLi m xs)) (e2 : k it = some (tIt (nI i) j m2 a)) (hi : i ≤ xs.length) : tC l G d MJ12_hasNext [.ref it] k 0 (tIr (zbi (decide (i < xs.length))) k) := by
  intro h R
  obtain ⟨o, b, cap, f, P⟩ := R.li e
  have hl := P.2.2.2.2.2.1
  have hl2 := P.2.2.2.2.1
  refine zCt.of kJ12_hasNext ht (by simp [Value.category]) (Nat.le_of_ble_eq_true rfl) ?_
  refine b_J12_hasNext_0 _ (tGi R e2 rfl (tGr R e2 rfl (tLsz R e ?_)))
  rw [nI_eq (by omega) (by omega)]
  exact ⟨fun c => ⟨Nat.le_refl _, k, R, by rw [decide_eq_false (by omega)]; rfl, rfl⟩, fun c => ⟨Nat.le_refl _, k, R, by rw [decide_eq_true (by omega)]; rfl, rfl⟩⟩
theorem tJ12_next (ht : l.stackTraces = false) {it i : Nat} {j : Int32} (e : k a = some (tLi m xs)) (e2 : k it = some (tIt (nI i) j m a)) (bt : zb G ≤ it) (hi : i < xs.length) (hd : 1 ≤ d) : tC l G d MJ12_next [.ref it] k 0 (tRr (xs.getD i 0) (tUp k it (tIt (nI (i + 1)) (nI i) m a))) := by
  intro h R
  obtain ⟨o, b, cap, f, P⟩ := R.li e
  obtain ⟨p1, p2, p3, p4, p5, p6, p7, p8, p9, p10, p11⟩ := P
  have ta : it ≠ a := by intro q; rw [q, e] at e2; cases e2
  have tb : b ≠ it := by
    intro q
    have := (p9 (by omega)).2.1
    rw [q, e2] at this; cases this
  have ct : zCt l G (d - 1) MJ12_checkForComodification [.ref it] h 0 (zVr h) := by
    refine zCt.of kJ12_checkForComodification ht (by simp [Value.category]) (Nat.le_of_ble_eq_true rfl) ?_
    exact b_J12_checkForComodification_0 _ (tGr R e2 rfl (tLmd R e (tGi R e2 rfl ⟨fun _ => ⟨Nat.le_refl _, rfl⟩, fun c => absurd rfl c⟩)))
  refine zCt.of kJ12_next ht (by simp [Value.category]) (Nat.le_of_ble_eq_true rfl) ?_
  refine b_J12_next_0 _ (tOc R e2 (zCall.PV ct (by omega) (Nat.le_refl _) (tGi R e2 rfl (tGr R e2 rfl (tLsz R e ⟨fun _ => tGr R e2 rfl (zGr.k p3 rfl (zAl.k p4 ⟨fun _ => ?_, fun c => absurd (nI_lt (by omega) (by omega)) c⟩)), fun c => absurd (nI_lt hi (by omega)) c⟩)))))
  refine zPf.k (R.e e2) bt fun h1 e3 => zPf.k (zeS e3) bt fun h2 e4 => zAf.k (zeN e4 tb (zeN e3 tb p4)) (vp_in_nI (by omega) (by omega)) (by rw [nI_clamp (by omega)]; exact p7 i hi) ⟨Nat.le_refl _, _, ?_, rfl, rfl⟩
  rw [e4, e3, zUp_up]
  have := R.up (x' := .inr (12, [.int (nI (i + 1)), .int (nI i), .int m, .ref a])) e2 bt (fun _ => ⟨_, _, rfl⟩)
  rw [nI_1]; exact this
/-- a new list -/
theorem tR.nl (R : tR G k h) (hS : tS G) {x : Int32} {e0 : Nat} (es : zZs G "java/util/ArrayList" "DEFAULTCAPACITY_EMPTY_ELEMENTDATA" = .ref e0) (e : k a = some (tOb 11 [.int x, .ref e0, .int 0])) (ab : zb G ≤ a) : tR G (tUp k a (tLi x [])) h := by
  obtain ⟨e1, f, h1, h2, h3⟩ := hS.2.2.2.1
  rw [es] at h1; cases h1
  have R2 := R
  obtain ⟨-, ⟨o, H⟩, -⟩ := R2
  refine R.cl (b := a) (b' := a) H (Or.inl (by rw [e]; exact fun z => by cases z)) ab (fun _ _ _ _ => rfl) (Or.inl rfl) (Or.inl rfl) (fun _ z => z) ?_
  exact ⟨ab, ⟨_, e0, _, R.e e, by rw [R.1 e0 h2]; exact h3, ⟨rfl, 0, f, rfl, Nat.le_refl _, by omega, fun i hi => by simp at hi, fun _ => es, fun c => absurd c (by omega)⟩, Or.inl h2⟩, fun y hy => by cases hy⟩
theorem tJ2_init (ht : l.stackTraces = false) (hS : tS G) (e : k a = some (tOb 11 [.int 0, .null, .int 0])) (ab : zb G ≤ a) (hd : 3 ≤ d) : tC l G d MJ2_init [.ref a] k 0 (tVr (tUp k a (tLi 0 []))) := by
  intro h R
  have ct : tC l G (d - 1) MJ1_init [.ref a] k 0 (tVr k) := by
    clear R
    intro h R
    refine zCt.of kJ1_init ht (by simp [Value.category]) (Nat.le_of_ble_eq_true rfl) ?_
    refine b_J1_init_0 _ (zCall.PV (s_obj0 ht (d := d - 1 - 1) (by omega)) (by omega) (Nat.le_refl _) (tPf R e ab fun h3 R3 => ⟨Nat.le_refl _, _, R3, ?_⟩))
    funext c
    show tUp k a _ c = k c
    unfold tUp
    split
    · next h => rw [h, e]; rfl
    · rfl
  obtain ⟨e1, f, h1, h2, h3⟩ := hS.2.2.2.1
  refine zCt.of kJ2_init ht (by simp [Value.category]) (Nat.le_of_ble_eq_true rfl) ?_
  refine b_J2_init_0 _ (tC.v R ct (by omega) (Nat.le_refl _) fun h2 R2 => zSr.k h1 (tPf R2 e ab fun h4 R4 => ⟨Nat.le_refl _, _, ?_, rfl⟩))
  have := R4.nl hS (a := a) (x := 0) h1 (tUp_s _ _ _) ab
  rw [tUp_up] at this
  exact this
end LI
end K5
