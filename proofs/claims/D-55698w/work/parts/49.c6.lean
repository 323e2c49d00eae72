/-! carts go on, off, all of a side -/
section C7
variable {l : Launch} {G : zG} {k : t_H} {A : cA} {c : cS} {h : zH} {d mc n b E T : Nat} {r : Nat → Int32} {RX : String → zH → Nat → Prop}
theorem cQ.num (X : cQ b E T c r) {i : Nat} (hi : i < cN c) : cG c i 0 = nI i := (X.ca hi).1
theorem tX2_goesOff (ht : l.stackTraces = false) (hS : tS G) (D : cD G A (cN c)) (X : cQ b E T c r) {i j z : Nat} (hi : i < cN c) (hon : rc r i 2 = 1) (hz : z ≤ 1) (hside : rc r i 0 = nI z) (hd : 8 ≤ d) : tC l G d MX2_goesOff [.ref A.1, .ref (A.2.2 i)] (cK G k A (cSb c j (-1))) 1 (tVr (cK G k A (if rc r i 0 = rc r i 4 then cBk c i j z else cPs c i j))) := by
  intro h R
  have n40 := X.n40
  have D1 : cD G A (cN (cSb c j (-1))) := D
  refine zCt.of kX2_goesOff ht (by simp [Value.category]) (Nat.le_of_ble_eq_true rfl) ?_
  refine b_X2_goesOff_0 _ _ (ccGi R D1 hi (X.z6 hi hon) (ccGi R D1 hi (j := 1) (x := rc r i 0) ?_ ⟨fun q => ?_, fun q => ?_⟩))
  · show Value.int (cG c i 1) = _; rw [(X.ca hi).2.1]
  · rw [if_neg (fun e => q e.symm)]
    refine ccPf R D1 hi (fun g => rfl) fun h1 R1 => ccPf R1 D1 hi (fun g => rfl) fun h2 R2 => ccPf R2 D1 hi (fun g => rfl) fun h3 R3 => cGr R3 rfl (ccGi R3 D1 hi (j := 0) (x := nI i) ?_ (cBox ht hS R3 rfl (by omega) (by omega) (by omega) fun h4 R4 => cAddL ht hS R4 D1 (j := 3) (by omega) (by omega) (by omega) (by have := X.lenP; show (cL c 3).length ≤ 40; omega) (by omega) (by omega) fun h5 R5 => ⟨by omega, _, R5, rfl⟩))
    rw [cSc_at, cSc_at, cSc_at]
    show Value.int (cG c i 0) = _
    rw [X.num hi]
  · have q2 := Classical.not_not.mp q
    rw [if_pos q2.symm]
    refine ccPf R D1 hi (fun g => rfl) fun h1 R1 => ccPf R1 D1 hi (fun g => rfl) fun h2 R2 => ccPf R2 D1 hi (fun g => rfl) fun h3 R3 => cGi R3 (j := 10) (x := c.1 10) rfl (ccPf R3 D1 hi (fun g => rfl) fun h4 R4 => ccGi R4 D1 hi (j := 1) (x := nI z) ?_ (cOo R4 (tC.r R4 (tX2_row ht hz (d := d - 1)) (by omega) (by omega) fun h5 R5 => ccGi R5 D1 hi (j := 0) (x := nI i) ?_ (cBox ht hS R5 rfl (by omega) (by omega) (by omega) fun h6 R6 => cAdd0 ht hS R6 D1 (j := 1 + z) (by omega) (by omega) (by omega) (by have := X.len hz; show (cL c (1 + z)).length ≤ 40; omega) (by omega) (by omega) fun h7 R7 => ⟨by omega, _, R7, rfl⟩))))
    · rw [cSc_at, cSc_at, cSc_at, cSc_at]
      show Value.int (cG c i 1) = _
      rw [(X.ca hi).2.1, hside]
    · rw [cSc_at, cSc_at, cSc_at, cSc_at]
      show Value.int (cG c i 0) = _
      rw [X.num hi]
theorem cStep_nx {i j : Nat} (hj : rc r i 3 = nI j) (h4 : rc r i 4 = 0 ∨ rc r i 4 = 1) : nI j + cStep (rc r i 4) = rNx r i := by
  unfold rNx
  rw [hj]
  rcases h4 with h | h
  · rw [h, if_neg (by decide), Int32.sub_eq_add_neg, show cStep 0 = -1 by decide]
  · rw [h, if_pos rfl, show cStep 1 = 1 by decide]
theorem nI_m1 {j : Nat} (hj : 0 < j) : nI j - 1 = nI (j - 1) := by rw [show (1 : Int32) = nI 1 by rfl, pk_sub (by omega)]
/-- where a cart goes: at the end, or to the next span -/
theorem cQ.nx (X : cQ b E T c r) {i j : Nat} (hj : rc r i 3 = nI j) (j8 : j < rSp r) {y : Nat} (hy : y ≤ 1) (h4 : rc r i 4 = nI y) : (j = rEnd r y ∧ rIn r i = false) ∨ (j ≠ rEnd r y ∧ rIn r i = true ∧ ∃ j2, j2 < rSp r ∧ rNx r i = nI j2) := by
  have sp := X.sp
  unfold rIn
  rw [sp.1]
  rcases Nat.eq_zero_or_pos y with w | w
  · subst w
    have hn : rNx r i = nI j - 1 := by unfold rNx; rw [h4, if_neg (by decide), hj]
    rcases Nat.eq_zero_or_pos j with v | v
    · left
      refine ⟨v, ?_⟩
      rcases zbt_of (x := rNx r i) (n := rSp r) (by omega) (by omega) with ⟨e, j2, h1, h2⟩ | ⟨e, -⟩
      · exfalso
        rw [hn, v] at h2
        exact zn1 (k := j2) (by omega) (by rw [← h2]; decide)
      · exact e
    · right
      refine ⟨by show j ≠ 0; omega, ?_, j - 1, by omega, by rw [hn, nI_m1 v]⟩
      rcases zbt_of (x := rNx r i) (n := rSp r) (by omega) (by omega) with ⟨e, -⟩ | ⟨e, q⟩
      · exact e
      · exact absurd (by rw [hn, nI_m1 v]) (q (j - 1) (by omega))
  · obtain rfl : y = 1 := by omega
    have hn : rNx r i = nI (j + 1) := by unfold rNx; rw [h4, if_pos (show nI 1 = (1 : Int32) from rfl), hj, nI_1]
    by_cases v : j = rSp r - 1
    · left
      refine ⟨v, ?_⟩
      rcases zbt_of (x := rNx r i) (n := rSp r) (by omega) (by omega) with ⟨e, j2, h1, h2⟩ | ⟨e, -⟩
      · exfalso
        rw [hn] at h2
        have := nI_inj (by omega) (by omega) h2
        omega
      · exact e
    · right
      refine ⟨by show j ≠ rSp r - 1; exact v, ?_, j + 1, by omega, hn⟩
      rcases zbt_of (x := rNx r i) (n := rSp r) (by omega) (by omega) with ⟨e, -⟩ | ⟨e, q⟩
      · exact e
      · exact absurd hn (q (j + 1) (by omega))
theorem mGo_ps (s : zMS) (i : Nat) (h1 : rIn s.2.1 i = false) (h2 : rBk s.2.1 i = false) : (mGo s i).2.1 = rPs s.2.1 i := by
  simp only [mGo]
  rw [h1, h2]
  simp only [Bool.false_eq_true, if_false, zMa, rPs]
  rw [hd_up _ _ _ _ _ (by omega), hd_up _ _ _ _ _ (by omega), hd_up _ _ _ _ _ (by omega)]
  rw [hd_up _ _ _ _ _ (by omega), hd_up _ _ _ _ _ (by omega)]
theorem mGo_bk (s : zMS) (i : Nat) (h1 : rIn s.2.1 i = false) (h2 : rBk s.2.1 i = true) : (mGo s i).2.1 = rBkw s.2.1 i (rc s.2.1 i 0) := by
  simp only [mGo]
  rw [h1, h2]
  rfl
theorem cQ.mono {b' E' T' : Nat} (X : cQ b E T c r) (hb : b ≤ b') (hb2 : b' ≤ 2 ^ 20) (hE : E ≤ E') (hE2 : E' ≤ 2 ^ 20) (hT : T ≤ T') (hT2 : T' ≤ 2 ^ 20) : cQ b' E' T' c r := by
  obtain ⟨⟨a1, a2, a3, a4, a5, a6, ⟨e, a7, a7'⟩, ⟨t, a8, a8'⟩, a9, a10⟩, x1, x2, x3, x4, x5, x6, x7, x8⟩ := X
  exact ⟨⟨a1, a2, a3, a4, a5, a6, ⟨e, a7, by omega⟩, ⟨t, a8, by omega⟩, hb2, hE2⟩, x1, fun i hi => (x2 i hi).mono hb, x3, x4, x5, x6, x7, hT2, fun i hi => by
    obtain ⟨w, w1, w2⟩ := x8.2 i hi
    exact ⟨w, w1, by omega⟩⟩
/-- the relation behind a step of one cart -/
theorem cQ.go (X : cQ b E T c r) (s : zMS) (hs : s.2.1 = r) {i : Nat} (hi : i < cN c) (hon : rc r i 2 = 1) (hb : b + 1 ≤ 2 ^ 20) : ∃ c', cQ (b + 1) E T c' (mGo s i).2.1 ∧ cN c' = cN c := by
  subst hs
  have n40 := X.n40
  have sp := X.sp
  obtain ⟨j, j8, hj, hocc⟩ := X.oc.1 i hi hon
  have hv := (X.va hi).2.2.1 hon
  obtain ⟨y, hy, h4⟩ : ∃ y, y ≤ 1 ∧ rc s.2.1 i 4 = nI y := by
    rcases hv with w | w
    · exact ⟨0, by omega, w⟩
    · exact ⟨1, by omega, w⟩
  rcases X.nx hj j8 hy h4 with ⟨e1, e2⟩ | ⟨e1, e2, j2, e3, e4⟩
  · cases hbk : rBk s.2.1 i with
    | true =>
      rw [mGo_bk s i e2 hbk]
      simp only [rBk, beq_iff_eq] at hbk
      rw [hbk, h4]
      exact ⟨_, X.bk hi hon hj j8 hy (hbk.trans h4) hb, rfl⟩
    | false =>
      rw [mGo_ps s i e2 hbk]
      exact ⟨_, (X.ps hi hon hj j8).mono (by omega) hb (Nat.le_refl _) X.1.2.2.2.2.2.2.2.2.2 (Nat.le_refl _) X.wt.1, rfl⟩
  · simp only [mGo]
    rw [e2, if_pos rfl, e4, X.co (by omega)]
    by_cases q : cB c j2 = -1
    · rw [if_pos q]
      exact ⟨_, (X.mv hi hon hj j8 e3 q).mono (by omega) hb (Nat.le_refl _) X.1.2.2.2.2.2.2.2.2.2 (Nat.le_refl _) X.wt.1, rfl⟩
    · rw [if_neg q]
      exact ⟨c, X.mono (by omega) hb (Nat.le_refl _) X.1.2.2.2.2.2.2.2.2.2 (Nat.le_refl _) X.wt.1, rfl⟩
theorem tX2_goesOn (ht : l.stackTraces = false) (hS : tS G) (D : cD G A (cN c)) (s : zMS) (X : cQ b E T c s.2.1) {i : Nat} (hi : i < cN c) (hon : rc s.2.1 i 2 = 1) (hb : b + 1 ≤ 2 ^ 20) (hd : 9 ≤ d) : tC l G d MX2_goesOn [.ref A.1, .ref (A.2.2 i)] (cK G k A c) 1 (tqV tNo fun k' => ∃ c', cQ (b + 1) E T c' (mGo s i).2.1 ∧ cN c' = cN c ∧ k' = cK G k A c') := by
  intro h R
  have n40 := X.n40
  have sp := X.sp
  have E20 := X.1.2.2.2.2.2.2.2.2.2
  obtain ⟨j, j8, hj, hocc⟩ := X.oc.1 i hi hon
  have hv := (X.va hi).2.2.1 hon
  obtain ⟨y, hy, h4⟩ : ∃ y, y ≤ 1 ∧ rc s.2.1 i 4 = nI y := by
    rcases hv with w | w
    · exact ⟨0, by omega, w⟩
    · exact ⟨1, by omega, w⟩
  have zs : zFd (cOc (cG c i)) 5 = .int (nI j) := by rw [X.zs hi, hj]
  refine zCt.of kX2_goesOn ht (by simp [Value.category]) (Nat.le_of_ble_eq_true rfl) ?_
  refine b_X2_goesOn_0 _ _ (ccGi R D hi zs (ccGi R D hi (X.z6 hi hon) (zCall.P (s_step ht (d := d - 1)) (by omega) (by omega) (ccGi R D hi zs (ccGi R D hi ((X.z6 hi hon).trans (by rw [h4])) (cOo R (tC.i R (tX2_end ht X hy (d := d - 1)) (by omega) (by omega) fun h1 R1 => ?_)))))))
  rw [cStep_nx hj hv]
  rcases X.nx hj j8 hy h4 with ⟨e1, e2⟩ | ⟨e1, e2, j2, e3, e4⟩
  · refine ⟨fun q => absurd (by rw [e1]) q, fun _ => cGr R1 rfl (ccGi R1 D hi zs (cSt R1 D rfl (by omega) fun h2 R2 => ?_))⟩
    obtain ⟨z, hz, hside⟩ : ∃ z, z ≤ 1 ∧ rc s.2.1 i 0 = nI z := by
      rcases (X.va hi).1 with w | w
      · exact ⟨0, by omega, w⟩
      · exact ⟨1, by omega, w⟩
    refine cOo R2 (tC.v R2 (tX2_goesOff ht hS D X hi hon hz hside (d := d - 1) (by omega)) (by omega) (by omega) fun h3 R3 => ⟨by omega, _, R3, _, ?_, ?_, rfl⟩)
    · cases hbk : rBk s.2.1 i with
      | true =>
        rw [mGo_bk s i e2 hbk]
        simp only [rBk, beq_iff_eq] at hbk
        rw [if_pos hbk, hside]
        exact X.bk hi hon hj j8 hz hside hb
      | false =>
        rw [mGo_ps s i e2 hbk]
        simp only [rBk, beq_eq_false_iff_ne, ne_eq] at hbk
        rw [if_neg hbk]
        exact (X.ps hi hon hj j8).mono (by omega) hb (Nat.le_refl _) E20 (Nat.le_refl _) X.wt.1
    · split <;> rfl
  · rw [e4]
    refine ⟨fun _ => cGr R1 rfl (cAi R1 D rfl (by omega) ⟨fun q => ⟨by omega, _, R1, c, ?_, rfl, rfl⟩, fun q => ?_⟩), fun q => absurd (nI_inj (by omega) (by unfold rEnd; split <;> omega) (Classical.not_not.mp q)) e1⟩
    · simp only [mGo]
      rw [e2, if_pos rfl, e4, X.co (by omega), if_neg q]
      exact X.mono (by omega) hb (Nat.le_refl _) E20 (Nat.le_refl _) X.wt.1
    · have q2 := Classical.not_not.mp q
      refine cGr R1 rfl (ccGi R1 D hi zs (cSt R1 D rfl (by omega) fun h2 R2 => cGr R2 rfl (ccGi R2 D hi (j := 0) (x := nI i) ?_ (cSt R2 D rfl (by omega) fun h3 R3 => ccPf R3 D hi (fun g => rfl) fun h4 R4 => ⟨by omega, _, R4, cMv c i j j2, ?_, rfl, rfl⟩))))
      · show Value.int (cG c i 0) = _; rw [X.num hi]
      · simp only [mGo]
        rw [e2, if_pos rfl, e4, X.co (by omega), if_pos q2]
        exact (X.mv hi hon hj j8 e3 q2).mono (by omega) hb (Nat.le_refl _) E20 (Nat.le_refl _) X.wt.1
/-- one span of a side's going on -/
theorem cQ.pr (X : cQ b E T c r) (s : zMS) (hs : s.2.1 = r) {p : Nat} (hp : p < 8) (y : Int32) : (rHd r (nI p) y = false ∧ mPr s p y = s) ∨ ∃ i, rHd r (nI p) y = true ∧ i < cN c ∧ cB c p = nI i ∧ rc r i 2 = 1 ∧ mPr s p y = mGo s i := by
  subst hs
  have n40 := X.n40
  have sp := X.sp
  simp only [mPr, rHd]
  rw [X.co hp]
  rcases X.oc.2 p hp with w | ⟨i, h1, h2, h3, h4⟩
  · rw [w]; exact Or.inl ⟨rfl, rfl⟩
  · rw [h2, nI_clamp (by omega), if_neg (zn1 (by omega))]
    by_cases q : rc s.2.1 i 4 = y
    · right
      refine ⟨i, ?_, h1, rfl, h3, by rw [if_pos q]⟩
      have := zn1 (k := i) (by omega)
      simp [q, this]
    · left
      rw [if_neg q]
      exact ⟨by simp [q], rfl⟩
theorem tX2_goOnLoop (ht : l.stackTraces = false) (hS : tS G) (z : Nat) (hz : z ≤ 1) (hd : 10 ≤ d) (mc : Nat) (Fin : Nat → Int32) (n0 : Nat) (D : cD G A n0) (S : Nat) (bF : Nat) (hbF : bF ≤ 2 ^ 20) (Q : zRes → zH → Prop) (hQ : ∀ c' h', cQ bF E T c' Fin → cN c' = n0 → tR G (cK G k A c') h' → Q (.inl none) h')
    (step : Nat → zMS → zMS) (hF : ∀ q s, q < S → step q s = mPr s (if z = 0 then q else S - 1 - q) (nI z)) (m0 : Nat) :
    ∀ (m q : Nat) (c : cS) (s : zMS) (h : zH) (b n : Nat), q + m = S → b + m ≤ bF → n + m ≤ mc → rSp s.2.1 = S → cQ b E T c s.2.1 → cN c = n0 → Fin = (zfo (fun s q' => step (q + q') s) s m).2.1 → tR G (cK G k A c) h → zV l G d mc MX2_goOn Q 2 [some (.ref A.1), some (.int (nI z)), some (.int (nI q)), none] [] h n := by
  intro m
  induction m with
  | zero =>
    intro q c s h b n hq hbb hn hsp X hN hFin R
    have sp := X.sp
    refine b_X2_goOn_2 _ _ _ (cGi R X.z5 ?_)
    rw [nI_leI (by omega) (by omega)]
    refine ⟨fun _ => ⟨by omega, hQ c h ?_ hN R⟩, fun w => absurd (by omega) w⟩
    rw [hFin]
    exact X.mono (by omega) hbF (Nat.le_refl _) X.1.2.2.2.2.2.2.2.2.2 (Nat.le_refl _) X.wt.1
  | succ m ih =>
    intro q c s h b n hq hbb hn hsp X hN hFin R
    have sp := X.sp
    have n40 := X.n40
    have D' : cD G A (cN c) := by rw [hN]; exact D
    have hspan : nI (rEnd s.2.1 z) - nI q * cStep (nI z) = nI (if z = 0 then q else S - 1 - q) := by
      rcases Nat.eq_zero_or_pos z with w | w
      · subst w
        rw [if_pos rfl]
        show nI 0 - nI q * cStep (nI 0) = nI q
        rw [show cStep (nI 0) = -1 by decide, Int32.mul_neg, Int32.mul_one, nI_0, Int32.sub_neg, Int32.zero_add]
      · obtain rfl : z = 1 := by omega
        rw [if_neg (by decide), show cStep (nI 1) = 1 by decide, Int32.mul_one]
        show nI (rSp s.2.1 - 1) - nI q = _
        rw [pk_sub (by omega), hsp]
    have hp8 : (if z = 0 then q else S - 1 - q) < 8 := by split <;> omega
    refine b_X2_goOn_2 _ _ _ (cGi R X.z5 ?_)
    rw [nI_leI (by omega) (by omega)]
    refine ⟨fun w => absurd w (by omega), fun _ => cOo R (tC.i R (tX2_end ht X hz (d := d - 1)) (by omega) (by omega) fun h1 R1 => zCall.P (s_step ht (d := d - 1)) (by omega) (by omega) ?_)⟩
    rw [hspan, nI_1]
    refine cOo R1 (tC.i R1 (tX2_heads ht D' X _ (nI z) (d := d - 1) (by omega)) (by omega) (by omega) fun h2 R2 => ?_)
    have hF2 : Fin = (zfo (fun s q' => step (q + 1 + q') s) (step q s) m).2.1 := by
      rw [hFin, zfo_shift]
      show (zfo _ (step (q + 0) s) m).2.1 = _
      rw [Nat.add_zero]
      congr 2
      exact zfo_congr _ fun q' a _ => by rw [show q + (q' + 1) = q + 1 + q' by omega]
    rw [hF q s (by omega)] at hF2
    rcases X.pr s rfl hp8 (nI z) with ⟨e1, e2⟩ | ⟨i, e1, e3, e4, e5, e2⟩
    · rw [e1]
      rw [e2] at hF2
      exact ⟨fun _ => ih (q + 1) c s h2 b n (by omega) (by omega) (by omega) hsp X hN hF2 R2, fun w => absurd rfl w⟩
    · rw [e1]
      rw [e2] at hF2
      refine ⟨fun w => absurd w (by decide), fun _ => cGr R2 rfl (cGr R2 rfl (cAi R2 D' rfl hp8 (cGet ht R2 D' e4 e3 (by omega) (by omega) fun h3 R3 => ccOc R3 D' e3 (cOo R3 (tCall.V R3 (tX2_goesOn ht hS D' s X e3 e5 (by omega) (d := d - 1) (by omega)) (by omega) (by omega) (fun k' h4 R4 w => ?_) (fun E k' h' _ w => w.elim))))))⟩
      obtain ⟨c', X', hN', rfl⟩ := w
      have hsp' : rSp (mGo s i).2.1 = S := by
        rw [← hsp]
        refine rSp_e ?_
        have := mPr_lo s (if z = 0 then q else S - 1 - q) (nI z) 4 (by omega) (by omega)
        rw [e2] at this
        exact this
      exact ih (q + 1) c' (mGo s i) h4 (b + 1) (n + 1) (by omega) (by omega) (by omega) hsp' X' (hN'.trans hN) hF2 R4
theorem mDn_zfo : ∀ (S : Nat) (s : zMS), mDn S s = zfo (fun s q => mPr s (S - 1 - q) 1) s S
  | 0, _ => rfl
  | S + 1, s => by
    rw [mDn, mDn_zfo S, zfo_shift]
    show _ = zfo _ (mPr s (S + 1 - 1 - 0) 1) S
    rw [show S + 1 - 1 - 0 = S by omega]
    exact zfo_congr _ fun q a hq => by rw [show S + 1 - 1 - (q + 1) = S - 1 - q by omega]
theorem mUp_zfo : ∀ (n sp : Nat) (s : zMS), mUp sp n s = zfo (fun s q => mPr s (sp + q) 0) s n
  | 0, _, _ => rfl
  | n + 1, sp, s => by
    rw [mUp, mUp_zfo n (sp + 1), zfo_shift]
    show zfo _ (mPr s sp 0) n = zfo _ (mPr s (sp + 0) 0) n
    exact zfo_congr _ fun q a hq => by rw [show sp + 1 + q = sp + (q + 1) by omega]
theorem tX2_goOn1 (ht : l.stackTraces = false) (hS : tS G) (D : cD G A (cN c)) (s : zMS) (X : cQ b E T c s.2.1) (hb : b + 8 ≤ 2 ^ 20) (hd : 10 ≤ d) : tC l G d MX2_goOn [.ref A.1, .int 1] (cK G k A c) 8 (tqV tNo fun k' => ∃ c', cQ (b + 8) E T c' (mDn (rSp s.2.1) s).2.1 ∧ cN c' = cN c ∧ k' = cK G k A c') := by
  intro h R
  have sp := X.sp
  refine zCt.of kX2_goOn ht (by simp [Value.category]) (Nat.le_of_ble_eq_true rfl) ?_
  refine b_X2_goOn_0 _ _ ?_
  refine tX2_goOnLoop ht hS 1 (by omega) hd 8 (mDn (rSp s.2.1) s).2.1 (cN c) D (rSp s.2.1) (b + 8) hb _ (fun c' h' X' hN' R' => ⟨_, R', c', X', hN', rfl⟩) (fun q s' => mPr s' (rSp s.2.1 - 1 - q) 1) (fun q s' _ => by rw [if_neg (by decide)]; rfl) 0 (rSp s.2.1) 0 c s h b 0 (by omega) (by omega) (by omega) rfl X rfl ?_ R
  rw [mDn_zfo]
  congr 2
  exact zfo_congr _ fun q a _ => by rw [Nat.zero_add]
theorem tX2_goOn0 (ht : l.stackTraces = false) (hS : tS G) (D : cD G A (cN c)) (s : zMS) (X : cQ b E T c s.2.1) (hb : b + 8 ≤ 2 ^ 20) (hd : 10 ≤ d) : tC l G d MX2_goOn [.ref A.1, .int 0] (cK G k A c) 8 (tqV tNo fun k' => ∃ c', cQ (b + 8) E T c' (mUp 0 (rSp s.2.1) s).2.1 ∧ cN c' = cN c ∧ k' = cK G k A c') := by
  intro h R
  have sp := X.sp
  refine zCt.of kX2_goOn ht (by simp [Value.category]) (Nat.le_of_ble_eq_true rfl) ?_
  refine b_X2_goOn_0 _ _ ?_
  refine tX2_goOnLoop ht hS 0 (by omega) hd 8 (mUp 0 (rSp s.2.1) s).2.1 (cN c) D (rSp s.2.1) (b + 8) hb _ (fun c' h' X' hN' R' => ⟨_, R', c', X', hN', rfl⟩) (fun q s' => mPr s' q 0) (fun q s' _ => by rw [if_pos rfl]; rfl) 0 (rSp s.2.1) 0 c s h b 0 (by omega) (by omega) (by omega) rfl X rfl ?_ R
  rw [mUp_zfo]
end C7
