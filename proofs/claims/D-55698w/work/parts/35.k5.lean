/-! ArrayDeque.clear; StringBuilder: room, characters -/
section K7
variable {l : Launch} {G : zG} {k : t_H} {h : zH} {d : Nat} {a : Nat}
theorem s_circ (ht : l.stackTraces = false) {b i j : Nat} {f : Nat → Value} (e : h b = some (.inl (tJO, 17, f))) (bz : zb G ≤ b) (hi : i < 17) (hj : j < 17) : zCt l G d MJ3_circularClear [.ref b, .int (nI i), .int (nI j)] h 0 (zqV zNo fun h' => (∃ g, h' b = some (.inl (tJO, 17, g))) ∧ ∀ c, c ≠ b → h' c = h c) := by
  refine zCt.of kJ3_circularClear ht (by simp [Value.category]) (Nat.le_of_ble_eq_true rfl) ?_
  have lp : ∀ (n i t : Nat) (h1 : zH), n + i = t → t ≤ 17 → (t = j ∨ t = 17) → (∃ g, h1 b = some (.inl (tJO, 17, g))) → (∀ c, c ≠ b → h1 c = h c) → (t ≠ j → ∀ h2, (∃ g, h2 b = some (.inl (tJO, 17, g))) → (∀ c, c ≠ b → h2 c = h c) → zV l G d 0 MJ3_circularClear (zqV zNo fun h' => (∃ g, h' b = some (.inl (tJO, 17, g))) ∧ ∀ c, c ≠ b → h' c = h c) 12 [some (.ref b), some (.int 0), some (.int (nI j)), some (.int (nI j))] [] h2 0) → zV l G d 0 MJ3_circularClear (zqV zNo fun h' => (∃ g, h' b = some (.inl (tJO, 17, g))) ∧ ∀ c, c ≠ b → h' c = h c) 12 [some (.ref b), some (.int (nI i)), some (.int (nI j)), some (.int (nI t))] [] h1 0 := by
    intro n
    induction n with
    | zero =>
      intro i t h1 hn t17 tj hg hf back
      refine b_J3_circularClear_12 _ _ _ _ ?_
      rw [nI_leI (by omega) (by omega), nI_eq (by omega) (by omega)]
      refine ⟨fun _ => ⟨fun c => back c h1 hg hf, fun c => ⟨Nat.le_refl _, hg, hf⟩⟩, fun c => absurd (by omega) c⟩
    | succ n ih =>
      intro i t h1 hn t17 tj hg hf back
      refine b_J3_circularClear_12 _ _ _ _ ?_
      rw [nI_leI (by omega) (by omega), nI_eq (by omega) (by omega)]
      obtain ⟨g, hg⟩ := hg
      refine ⟨fun c => absurd c (by omega), fun _ => zSt1.k hg (vp_in_nI (by omega) (by omega)) bz fun h2 e2 => ?_⟩
      rw [nI_1]
      exact ih (i + 1) t h2 (by omega) t17 tj ⟨_, zeS e2⟩ (fun c hc => by rw [e2, zUp_ne _ _ hc]; exact hf c hc) back
  have fin : ∀ h2, (∃ g, h2 b = some (.inl (tJO, 17, g))) → (∀ c, c ≠ b → h2 c = h c) → zV l G d 0 MJ3_circularClear (zqV zNo fun h' => (∃ g, h' b = some (.inl (tJO, 17, g))) ∧ ∀ c, c ≠ b → h' c = h c) 12 [some (.ref b), some (.int 0), some (.int (nI j)), some (.int (nI j))] [] h2 0 :=
    fun h2 g2 f2 => lp j 0 j h2 (by omega) (by omega) (Or.inl rfl) g2 f2 (fun c => absurd rfl c)
  refine b_J3_circularClear_0 _ _ _ ?_
  rw [nI_ltI (by omega) (by omega)]
  refine ⟨fun c => zAl.k e (lp (17 - i) i 17 h (by omega) (by omega) (Or.inr rfl) ⟨f, e⟩ (fun _ _ => rfl) (fun _ => fin)), fun c => lp (j - i) i j h (by omega) (by omega) (Or.inl rfl) ⟨f, e⟩ (fun _ _ => rfl) (fun c => absurd rfl c)⟩
theorem tJ3_clear (ht : l.stackTraces = false) {xs : List Nat} (e : k a = some (tDq xs)) (hd : 1 ≤ d) : tC l G d MJ3_clear [.ref a] k 0 (tVr (tUp k a (tDq []))) := by
  intro h R
  obtain ⟨o, b, hd0, f, P⟩ := R.dq e
  have P2 := P
  obtain ⟨p1, p2, p3, p4, p5, p6, p7, p8, p9, p10, p11⟩ := P
  have ba : a ≠ b := by intro q; rw [← q, p3] at p4; cases p4
  refine zCt.of kJ3_clear ht (by simp [Value.category]) (Nat.le_of_ble_eq_true rfl) ?_
  refine b_J3_clear_0 _ (zGr.k p3 rfl (zGi.k p3 rfl (zGi.k p3 rfl (zCall.V (s_circ ht p4 p8 p6 (Nat.mod_lt _ (by omega)) (d := d - 1)) (by omega) (Nat.le_refl _) (fun h2 _ q => ?_) (fun E h' _ q => q.elim)))))
  obtain ⟨⟨g, q1⟩, q2⟩ := q
  have f1 : h2 a = _ := (q2 a ba).trans p3
  refine zPf.k f1 p2 fun h3 e3 => zPf.k (zeS e3) p2 fun h4 e4 => ⟨Nat.le_refl _, _, ?_, rfl⟩
  exact P2.cl R e (hd' := 0) (xs' := []) (fun c c1 c2 => by rw [e4, zUp_ne _ _ c1, e3, zUp_ne _ _ c1]; exact q2 c c2) (zeS e4) (zeN e4 ba.symm (zeN e3 ba.symm q1)) (by simp) (by omega) (fun i hi => by simp at hi) (fun z hz => by cases hz)
/-! builders -/
def tBP (G : zG) (k : t_H) (h : zH) (o : Nat → Nat) (a : Nat) (cs : List Int32) (ml : Int32) (b cap : Nat) (f : Nat → Value) : Prop :=
  (∀ c x, k c = some x → tIn G o k h c x) ∧ zb G ≤ a ∧ h a = some (.inr (14, [.ref b, .int 0, .int ml, .int (nI cs.length)])) ∧ h b = some (.inl (.byte, cap, f)) ∧ cs.length ≤ cap ∧ cap ≤ 1023 ∧ (ml = 0 ∨ ml = 1) ∧ (∀ i, i < cs.length → f i = .int (cs.getD i 0)) ∧ (∀ i, i < cap → ∃ x, f i = .int x ∧ fits .byte (.int x) = true) ∧ tAsc cs ∧ zb G ≤ b ∧ k b = none ∧ o b = a
theorem tR.sb (R : tR G k h) {cs : List Int32} (e : k a = some (tSb cs)) : ∃ o ml b cap f, tBP G k h o a cs ml b cap f := by
  obtain ⟨-, ⟨o, H⟩, -⟩ := R
  obtain ⟨h0, ⟨ob, b, ar, h1, h2, ⟨ml, cap, f, h3, h4, h5, h6, h7, h8, h9, h12, h13⟩, h10⟩, h11⟩ := H a _ e
  subst h3 h4
  rcases h10 with h10 | h10
  · omega
  · exact ⟨o, ml, b, cap, f, H, h0, h1, h2, h5, h6, h7, h8, h9, h12, h13, h10.1, h10.2⟩
/-- what stands in a byte array -/
def tBy (cap : Nat) (f : Nat → Value) : Prop := ∀ i, i < cap → ∃ x, f i = .int x ∧ fits .byte (.int x) = true
theorem tBP.cl {o : Nat → Nat} {b b' cap cap' : Nat} {ml ml' : Int32} {cs cs' : List Int32} {f g : Nat → Value} {h' : zH} (R : tR G k h) (e : k a = some (tSb cs)) (P : tBP G k h o a cs ml b cap f)
    (fr : ∀ c, c ≠ a → c ≠ b' → h' c = h c) (hb : b' = b ∨ (h b' = none ∧ zb G ≤ b')) (e1 : h' a = some (.inr (14, [.ref b', .int 0, .int ml', .int (nI cs'.length)]))) (e2 : h' b' = some (.inl (.byte, cap', g))) (hl : cs'.length ≤ cap') (hc : cap' ≤ 1023) (hm : ml' = 0 ∨ ml' = 1)
    (hf : ∀ i, i < cs'.length → g i = .int (cs'.getD i 0)) (hB : tBy cap' g) (hA : tAsc cs') : tR G (tUp k a (tSb cs')) h' := by
  obtain ⟨p1, p2, p3, p4, p5, p6, p7, p8, p9, p10, p11, p12, p13⟩ := P
  have bz : zb G ≤ b' := by
    rcases hb with q | q
    · rw [q]; exact p11
    · exact q.2
  have ba : b' ≠ a := by
    rcases hb with q | q
    · rw [q]; intro z; rw [z, p3] at p4; cases p4
    · intro z; rw [z, p3] at q; cases q.1
  have io : ∀ y, tIo h y → tIo h' y := tIo_mono fr ⟨_, _, e1⟩ (by
    rcases hb with q | q
    · rw [q]; exact Or.inl ⟨_, p4⟩
    · exact Or.inr q.1)
  have new : tIn G (fun c => if c = b' then a else o c) (tUp k a (tSb cs')) h' a (tSb cs') := by
    refine ⟨p2, ⟨_, b', _, e1, e2, ⟨ml', cap', g, rfl, rfl, hl, hc, hm, hf, hB, hA, bz⟩, Or.inr ⟨?_, if_pos rfl⟩⟩, fun y hy => by cases hy⟩
    rw [tUp_n ba]
    rcases hb with q | q
    · rw [q]; exact p12
    · exact R.hn q.1
  rcases hb with q | q
  · exact R.cl (b := b') (b' := b') p1 (Or.inl (by rw [e]; exact fun z => by cases z)) p2 (fun c h1 h2 _ => fr c h1 h2) (Or.inr (by rw [q]; exact ⟨p12, p13, p11⟩)) (Or.inl rfl) io new
  · exact R.cl (b := a) (b' := b') p1 (Or.inl (by rw [e]; exact fun z => by cases z)) p2 (fun c h1 _ h2 => fr c h1 h2) (Or.inl rfl) (Or.inr q) io new
theorem sh0 (x : Int32) : x >>> (0 &&& 31) = x := by
  rw [show (0 : Int32) &&& 31 = 0 by decide]; exact Int32.shiftRight_zero
theorem sl0 (x : Int32) : x <<< (0 &&& 31) = x := by
  rw [show (0 : Int32) &&& 31 = 0 by decide]; exact Int32.shiftLeft_zero
theorem fit0 : fits .byte (.int 0) = true := by decide
/-- Arrays.copyOf of bytes, into a larger array -/
theorem s_copyOfB (ht : l.stackTraces = false) {b N nl : Nat} {f : Nat → Value} (e : h b = some (.inl (.byte, N, f))) (hN : N < nl) (hl : nl ≤ 1023) (he : tBy N f) (hd : 1 ≤ d) :
    zCt l G d MJ16_copyOf [.ref b, .int (nI nl)] h 16 (zqR zNo fun x h' => h x = none ∧ zb G ≤ x ∧ ∃ g, h' = zUp h x (.inl (.byte, nl, g)) ∧ tBy nl g ∧ ∀ i, i < N → g i = f i) := by
  refine zCt.of kJ16_copyOf ht (by simp [Value.category]) (Nat.le_of_ble_eq_true rfl) ?_
  refine b_J16_copyOf_0 _ _ (zAl.k e ?_)
  rw [nI_eq (by omega) (by omega)]
  have cl : (nI nl).toNatClampNeg = nl := nI_clamp (by omega)
  have cN : (nI N).toNatClampNeg = N := nI_clamp (by omega)
  refine ⟨fun _ => ⟨⟨nI_pos (by omega), by omega, by rw [cl]; omega⟩, fun x hx hb h4 e4 => ?_⟩, fun c => absurd (by omega) c⟩
  have bx : b ≠ x := by intro q; rw [q, hx] at e; cases e
  have e4b : h4 b = some (.inl (.byte, N, f)) := zeN e4 bx e
  have e4x : h4 x = some (.inl (.byte, nl, fun _ => .int 0)) := by rw [e4, zUp_self, cl]
  refine zAl.k e4b ⟨⟨hd, by rw [cl]; omega⟩, hd, ?_⟩
  rw [nI_min nl N (by omega) (by omega), Nat.min_eq_right (by omega)]
  refine zAw.k e4b (zAw.k e4x ⟨hb, by decide, by decide, nI_pos (by omega), ?_, ?_, fun i hi => ?_, fun h1 e1 => ⟨by rw [cl]; omega, hx, hb, va_cpy f (fun _ => .int 0) 0 0 N, ?_, fun i hi => ?_, fun i hi => ?_⟩⟩)
  · rw [cN]; show 0 + N ≤ N; omega
  · rw [cN]; show 0 + N ≤ nl; omega
  · rw [cN] at hi
    show zEl h4 .byte (f (0 + i))
    rw [Nat.zero_add]
    exact Or.inl (he i hi)
  · rw [e1, e4, zUp_up, cN]; rfl
  · by_cases c : i < N
    · obtain ⟨x, h1, h2⟩ := he i c
      exact ⟨x, by rw [← h1]; simp [va_cpy, c], h2⟩
    · exact ⟨0, by simp [va_cpy, c], fit0⟩
  · simp [va_cpy, hi]
theorem s_newCap (ht : l.stackTraces = false) {b cap need : Nat} {ml : Int32} {c : Value} {f : Nat → Value} (e1 : h a = some (.inr (14, [.ref b, .int 0, .int ml, c]))) (e2 : h b = some (.inl (.byte, cap, f))) (hc : cap < need) (hn : need ≤ 500) (hd : 2 ≤ d) : zCt l G d MJ4_newCapacity [.ref a, .int (nI need)] h 0 (zIr (nI (cap + max (need - cap) (cap + 2))) h) := by
  refine zCt.of kJ4_newCapacity ht (by simp [Value.category]) (Nat.le_of_ble_eq_true rfl) ?_
  refine b_J4_newCapacity_0 _ _ (zGr.k e1 rfl (zAl.k e2 (zGi.k e1 rfl (zGi.k e1 rfl ?_))))
  rw [sl0, sl0, pk_sub (by omega), show (2 : Int32) = nI 2 by rfl, nI_add]
  refine zCall.P (s_newLength ht cap (need - cap) (cap + 2) (by omega) (by omega) (d := d - 1) (by omega)) (by omega) (Nat.le_refl _) ⟨fun _ => zGi.k e1 rfl ⟨Nat.le_refl _, sh0 _, rfl⟩, fun q => ?_⟩
  have := Classical.not_not.mp q
  rw [show (2147483647 : Int32) = nI 2147483647 by rfl, nI_eq (by omega) (by omega)] at this
  omega
/-- room for need characters -/
theorem s_ensure (ht : l.stackTraces = false) {b cap need : Nat} {ml : Int32} {c : Value} {f : Nat → Value} (ab : zb G ≤ a) (e1 : h a = some (.inr (14, [.ref b, .int 0, .int ml, c]))) (e2 : h b = some (.inl (.byte, cap, f))) (hcap : cap ≤ 1023) (hn : need ≤ 500) (hB : tBy cap f) (hd : 3 ≤ d) :
    zCt l G d MJ4_ensureCapacityInternal [.ref a, .int (nI need)] h 16 (zqV zNo fun h' => ∃ b' cap' g, (b' = b ∨ (h b' = none ∧ zb G ≤ b')) ∧ (∀ c, c ≠ a → c ≠ b' → h' c = h c) ∧ h' a = some (.inr (14, [.ref b', .int 0, .int ml, c])) ∧ h' b' = some (.inl (.byte, cap', g)) ∧ need ≤ cap' ∧ cap ≤ cap' ∧ cap' ≤ 1023 ∧ tBy cap' g ∧ ∀ i, i < cap → g i = f i) := by
  refine zCt.of kJ4_ensureCapacityInternal ht (by simp [Value.category]) (Nat.le_of_ble_eq_true rfl) ?_
  have ba : a ≠ b := by intro q; rw [← q, e1] at e2; cases e2
  refine b_J4_ensureCapacityInternal_0 _ _ (zGr.k e1 rfl (zAl.k e2 (zGi.k e1 rfl ?_)))
  rw [sh0]
  by_cases q : need ≤ cap
  · have q2 : nI need - nI cap ≤ 0 := by
      rw [Int32.le_iff_toInt_le, pk_sub_toInt (by omega) (by omega)]
      show _ ≤ (0 : Int); omega
    exact ⟨fun _ => ⟨by omega, b, cap, f, Or.inl rfl, fun _ _ _ => rfl, e1, e2, q, Nat.le_refl _, hcap, hB, fun _ _ => rfl⟩, fun z => absurd q2 z⟩
  · have q2 : ¬ nI need - nI cap ≤ 0 := by
      rw [Int32.le_iff_toInt_le, pk_sub_toInt (by omega) (by omega)]
      show ¬ _ ≤ (0 : Int); omega
    refine ⟨fun z => absurd z q2, fun _ => zGr.k e1 rfl (zOc.k e1 (zCall.P (s_newCap ht e1 e2 (by omega) hn (d := d - 1) (by omega)) (by omega) (by omega) (zGi.k e1 rfl ?_)))⟩
    rw [sl0]
    refine zCall.R (s_copyOfB ht e2 (by omega) (by omega) hB (d := d - 1) (by omega)) (by omega) (Nat.le_refl _) (fun x h' _ q3 => ?_) (fun E h' _ q => q.elim)
    obtain ⟨q4, q5, g, q6, q7, q8⟩ := q3
    have ax : a ≠ x := by intro q; rw [← q, e1] at q4; cases q4
    refine zPf.k (zeN q6 ax e1) ab fun h3 e3 => ⟨Nat.le_refl _, x, _, g, Or.inr ⟨q4, q5⟩, fun c c1 c2 => by rw [e3, zUp_ne _ _ c1, q6, zUp_ne _ _ c2], zeS e3, zeN e3 ax.symm (zeS q6), by omega, by omega, by omega, q7, q8⟩
theorem s_sbLatin (ht : l.stackTraces = false) (hS : tS G) {v w x : Value} (e : h a = some (.inr (14, [v, .int 0, w, x]))) : zCt l G d MJ4_isLatin1 [.ref a] h 0 (zIr 1 h) := by
  refine zCt.of kJ4_isLatin1 ht (by simp [Value.category]) (Nat.le_of_ble_eq_true rfl) ?_
  exact b_J4_isLatin1_0 _ (zSi.k hS.1 ⟨fun c => absurd c (by decide), fun _ => zGi.k e rfl ⟨fun c => absurd rfl c, fun _ => ⟨Nat.le_refl _, rfl, rfl⟩⟩⟩)
theorem asc_byte {c : Int32} (h0 : 0 ≤ c) (h1 : c ≤ 127) : (Int32.toInt8 c).toInt32 = c ∧ narrow .byte (.int c) = .int c ∧ fits .byte (.int c) = true ∧ c &&& 255 = c ∧ ((c.toUInt32 % 65536).toInt32) = c ∧ narrow .char (.int c) = .int c := by
  obtain ⟨j, hj, rfl⟩ := nI_of2 (n := 127) (by decide) (Int32.not_lt.mpr h0) h1
  have : ∀ j, j ≤ 127 → (Int32.toInt8 (nI j)).toInt32 = nI j ∧ narrow .byte (.int (nI j)) = .int (nI j) ∧ fits .byte (.int (nI j)) = true ∧ nI j &&& 255 = nI j ∧ (((nI j).toUInt32 % 65536).toInt32) = nI j ∧ narrow .char (.int (nI j)) = .int (nI j) := by decide +kernel
  exact this j hj
end K7
