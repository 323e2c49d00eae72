/-! the main object: more look-ups -/
section R11
variable {b E T : Nat} {c : cS} {r : Nat → Int32}
theorem cQ.psAt (X : cQ b E T c r) (x : Int32) : (rPa r x = -1 ∧ ∀ q, q < (cL c 3).length → x ≠ nI q) ∨ ∃ q, q < (cL c 3).length ∧ x = nI q ∧ rPa r x = nI ((cL c 3).getD q 0) := by
  have n40 := X.n40
  have hl := X.lenP
  obtain ⟨p1, p2, p3, p4⟩ := X.pa
  by_cases w : ∃ q, q < (cL c 3).length ∧ x = nI q
  · obtain ⟨q, hq, rfl⟩ := w
    obtain ⟨i1, i2⟩ := (p1 _).mp (getD_mem hq)
    refine Or.inr ⟨q, hq, rfl, ?_⟩
    rw [rPa, X.nn]
    refine zff_one i1 ?_ fun m hm h => ?_
    · simp only [rPab, Bool.and_eq_true, beq_iff_eq]
      exact ⟨i2, p4 q hq⟩
    · simp only [rPab, Bool.and_eq_true, beq_iff_eq] at h
      obtain ⟨q', hq', e⟩ := mem_getD ((p1 m).mpr ⟨hm, h.1⟩)
      have := p4 q' hq'
      rw [e, h.2] at this
      rw [← e, nI_inj (by omega) (by omega) this]
  · refine Or.inl ⟨?_, fun q hq e => w ⟨q, hq, e⟩⟩
    rw [rPa, X.nn]
    refine zff_no fun m hm => ?_
    cases e : rPab r x m with
    | false => rfl
    | true =>
      simp only [rPab, Bool.and_eq_true, beq_iff_eq] at e
      obtain ⟨q', hq', e'⟩ := mem_getD ((p1 m).mpr ⟨hm, e.1⟩)
      have := p4 q' hq'
      rw [e', e.2] at this
      exact absurd ⟨q', hq', this⟩ w
theorem rNcn_step (r : Nat → Int32) (sp j : Nat) : rNcn r sp (j + 1) = (if (rHd r (nI sp) 1 && rHd r (nI (sp + 1)) 0) = true then 1 else 0) + rNcn r (sp + 1) j := by
  have e : rNob r sp = (rHd r (nI sp) 1 && rHd r (nI (sp + 1)) 0) := by
    simp only [rNob, rHd]
    cases (rCo r (nI sp) == -1) <;> cases (rCo r (nI (sp + 1)) == -1) <;> simp
  rw [rNcn, e]
end R11
section W2
variable {l : Launch} {G : zG} {k : t_H} {B : wB} {A : cA} {c : cS} {u : wU} {h : zH} {d mc n b E T st : Nat} {r : Nat → Int32} {RX : String → zH → Nat → Prop}
/-! an iterator beside the main object -/
def wN (B : wB) (x : Nat) : Prop := x ≠ B.1 ∧ x ≠ B.2.1 ∧ x ≠ B.2.2.1 ∧ x ≠ B.2.2.2
theorem wC_o {x : Nat} (N : wN B x) : wC k B st u x = k x := by
  rw [wC, if_neg N.1, if_neg N.2.1, if_neg N.2.2.1, if_neg N.2.2.2]
theorem wC_N {x : Nat} (e : wC k B st u x = none) : wN B x := by
  refine ⟨fun z => ?_, fun z => ?_, fun z => ?_, fun z => ?_⟩ <;> rw [wC] at e
  · rw [if_pos z] at e; cases e
  · by_cases y : x = B.1
    · rw [if_pos y] at e; cases e
    · rw [if_neg y, if_pos z] at e; cases e
  · by_cases y : x = B.1
    · rw [if_pos y] at e; cases e
    · by_cases y2 : x = B.2.1
      · rw [if_neg y, if_pos y2] at e; cases e
      · rw [if_neg y, if_neg y2, if_pos z] at e; cases e
  · by_cases y : x = B.1
    · rw [if_pos y] at e; cases e
    · by_cases y2 : x = B.2.1
      · rw [if_neg y, if_pos y2] at e; cases e
      · by_cases y3 : x = B.2.2.1
        · rw [if_neg y, if_neg y2, if_pos y3] at e; cases e
        · rw [if_neg y, if_neg y2, if_neg y3, if_pos z] at e; cases e
theorem wC_up {x : Nat} {o : t_O} (N : wN B x) : tUp (wC k B st u) x o = wC (tUp k x o) B st u := by
  funext q
  by_cases z : q = x
  · rw [z, tUp_s, wC_o N, tUp_s]
  · rw [tUp_n z]
    simp only [wC]
    rw [tUp_n z]
theorem wK_up {x : Nat} {o : t_O} (N : wN B x) (ho : cOut A (cN c) x) : tUp (wK G k B st A c u) x o = wK G (tUp k x o) B st A c u := by
  rw [wK, cK_up ho, wC_up N, wK]
theorem wK_fg {x : Nat} {o : t_O} (N : wN B x) (hx : k x = none) (bx : zb G ≤ x) (R : tR G (wK G (tUp k x o) B st A c u) h) : tR G (wK G k B st A c u) h := by
  rw [wK, ← wC_up N] at R
  exact cK_fg (by rw [wC_o N, hx]) bx R
theorem wK_fresh (D : cD G A (cN c)) {x : Nat} (e : wK G k B st A c u x = none) : cOut A (cN c) x ∧ wN B x ∧ k x = none := by
  rw [wK] at e
  have ho := cK_fresh D e
  rw [cK_o ho] at e
  have N := wC_N e
  exact ⟨ho, N, by rw [← e, wC_o N]⟩
theorem wIter0 (ht : l.stackTraces = false) (R : tR G (wK G k B st A c u) h) (D : cD G A (cN c)) {p : Nat → zH → Nat → Prop} (hd : 3 ≤ d) (hm : n + 1 ≤ mc) (q : ∀ x h', cOut A (cN c) x → wN B x → k x = none → zb G ≤ x → tR G (wK G (tUp k x (tIt (nI 0) (-1) c.2.2.2.1.1 (A.2.1 0))) B st A c u) h' → p x h' (n + 1)) : zOc h (A.2.1 0) 11 (zCall l G d mc MJ2_iterator [.ref (A.2.1 0)] h n (zRR RX p)) :=
  cIter0 ht R D hd hm fun x h' ho kx bx R' => by
    have N := wC_N kx
    rw [wC_up N] at R'
    exact q x h' ho N (by rw [← kx, wC_o N]) bx R'
theorem wHas0 (ht : l.stackTraces = false) {x i : Nat} {w : Int32} (R : tR G (wK G (tUp k x (tIt (nI i) w c.2.2.2.1.1 (A.2.1 0))) B st A c u) h) (D : cD G A (cN c)) (N : wN B x) (ho : cOut A (cN c) x) (hi : i ≤ cN c) {p : Int32 → zH → Nat → Prop} (hd : 1 ≤ d) (hm : n ≤ mc) (q : ∀ h', tR G (wK G (tUp k x (tIt (nI i) w c.2.2.2.1.1 (A.2.1 0))) B st A c u) h' → p (zbi (decide (i < cN c))) h' n) : zOc h x 12 (zCall l G d mc MJ12_hasNext [.ref x] h n (zRI RX p)) := by
  rw [wK, ← wC_up N] at R q
  exact cHas0 ht R D ho hi hd hm q
theorem wNxt0 (ht : l.stackTraces = false) {x i : Nat} {w : Int32} (R : tR G (wK G (tUp k x (tIt (nI i) w c.2.2.2.1.1 (A.2.1 0))) B st A c u) h) (D : cD G A (cN c)) (N : wN B x) (ho : cOut A (cN c) x) (bx : zb G ≤ x) (hi : i < cN c) {p : Nat → zH → Nat → Prop} (hd : 2 ≤ d) (hm : n ≤ mc) (q : ∀ h', tR G (wK G (tUp k x (tIt (nI (i + 1)) (nI i) c.2.2.2.1.1 (A.2.1 0))) B st A c u) h' → p (A.2.2 i) h' n) : zOc h x 12 (zCall l G d mc MJ12_next [.ref x] h n (zRR RX p)) := by
  rw [wK, ← wC_up N] at R q
  exact cNxt0 ht R D ho bx hi hd hm q
/-! the look-ups -/
theorem tX1_turn (W : wD G B A (cN c)) (X : cQ b E T c r) (ht : l.stackTraces = false) : tC l G d MX1_turn [.ref B.1] (wK G k B A.1 A c u) 0 (tIr (r 5) (wK G k B A.1 A c u)) := by
  intro h R
  refine zCt.of kX1_turn ht (by simp [Value.category]) (Nat.le_of_ble_eq_true rfl) ?_
  exact b_X1_turn_0 _ (wGr R W rfl (cGi R (j := 8) (x := r 5) (by show Value.int (c.1 8) = _; rw [X.1.2.2.1.2.2.2.1]) ⟨Nat.le_refl _, _, R, rfl, rfl⟩))
theorem tX1_noses (ht : l.stackTraces = false) (D : cD G A (cN c)) (W : wD G B A (cN c)) (X : cQ b E T c r) (hd : 5 ≤ d) : tC l G d MX1_noses [.ref B.1] (wK G k B A.1 A c u) 0 (tIr (nI (rNcn r 0 (rSp r - 1))) (wK G k B A.1 A c u)) := by
  intro h R
  have sp := X.sp
  refine zCt.of kX1_noses ht (by simp [Value.category]) (Nat.le_of_ble_eq_true rfl) ?_
  refine b_X1_noses_0 _ ?_
  refine zInd (N := rSp r - 1) (P := fun j => ∀ m h, tR G (wK G k B A.1 A c u) h → rNcn r 0 (rSp r - 1) = m + rNcn r j (rSp r - 1 - j) → zV l G d 0 MX1_noses _ 4 [some (.ref B.1), some (.int (nI m)), some (.int (nI j))] [] h 0) ?_ 0 (Nat.zero_le _) 0 h R (by rw [Nat.zero_add]; rfl)
  intro j hj ih m h R inv
  refine b_X1_noses_4 _ _ _ (wGr R W rfl (cGi R X.z5 ?_))
  rw [nI_1, nI_leI (by omega) (by omega)]
  refine ⟨fun z => ⟨Nat.le_refl _, _, R, ?_, rfl⟩, fun z => ?_⟩
  · obtain rfl : j = rSp r - 1 := by omega
    rw [inv, Nat.sub_self, rNcn, Nat.add_zero]
  · have lt : j < rSp r - 1 := by omega
    rw [show rSp r - 1 - j = (rSp r - 1 - (j + 1)) + 1 by omega, rNcn_step] at inv
    refine wGr R W rfl (cOo R (tC.i R (tX2_heads ht D X _ _ (d := d - 1) (by omega)) (by omega) (Nat.le_refl _) fun h1 R1 => ⟨fun q => ?_, fun q => wGr R1 W rfl (cOo R1 (tC.i R1 (tX2_heads ht D X _ _ (d := d - 1) (by omega)) (by omega) (Nat.le_refl _) fun h2 R2 => ⟨fun q2 => ?_, fun q2 => ?_⟩))⟩))
    · rw [zbi_eq0] at q
      rw [Int32.add_zero]
      refine ih lt m h1 R1 ?_
      rw [inv, q, Bool.false_and, if_neg (by decide), Nat.zero_add]
    · rw [zbi_eq0] at q2
      rw [Int32.add_zero]
      refine ih lt m h2 R2 ?_
      rw [inv, q2, Bool.and_false, if_neg (by decide), Nat.zero_add]
    · rw [zbi_eq0, Bool.not_eq_false] at q q2
      rw [nI_1]
      refine ih lt (m + 1) h2 R2 ?_
      rw [inv, q2, q, Bool.and_true, if_pos rfl, Nat.add_assoc]
theorem tX1_passed (ht : l.stackTraces = false) (hS : tS G) (D : cD G A (cN c)) (W : wD G B A (cN c)) (X : cQ b E T c r) (x : Int32) (hd : 8 ≤ d) : tC l G d MX1_passed [.ref B.1, .int x] (wK G k B A.1 A c u) 1 (wLk (wK G k B A.1 A c u) (fun E => E = xN ∧ rPa r x = -1) (fun y => rPa r x ≠ -1 ∧ y = rPa r x)) := by
  intro h R
  have n40 := X.n40
  have hl := X.lenP
  have el : ∀ q, q < (cL c 3).length → (cL c 3).getD q 0 < cN c := fun q hq => ((X.pa.1 _).mp (getD_mem hq)).1
  refine zCt.of kX1_passed ht (by simp [Value.category]) (Nat.le_of_ble_eq_true rfl) ?_
  refine b_X1_passed_0 _ _ (wGr R W rfl (cGr R rfl (cSizeL ht R D (by omega) (by omega) (by omega) (by omega) fun h2 R2 => zCall.P (s_between ht (d := d - 1)) (by omega) (by omega) (cCheckN ht (by omega) (by omega) (fun q => ?_) (fun q => ⟨by omega, _, R2, ⟨rfl, ?_⟩, rfl⟩)))))
  · rw [zbi_eq0, Bool.not_eq_false] at q
    rcases X.psAt x with ⟨e, e2⟩ | ⟨m, m1, m2, m3⟩
    · exfalso
      rcases Nat.eq_zero_or_pos (cL c 3).length with v | v
      · rw [v, zbt_0] at q; cases q
      · rcases zbt_of (x := x) v (by omega) with ⟨-, m, m1, m2⟩ | ⟨e3, -⟩
        · exact e2 m m1 m2
        · rw [e3] at q; cases q
    · refine wGr R2 W rfl (cGr R2 rfl (cGetL ht R2 D (by omega) (by omega) m2 m1 (by omega) (by omega) fun h4 R4 => cUnb ht hS R4 (by have := el m m1; omega) (by omega) (by omega) fun h5 R5 => ⟨by omega, _, R5, ⟨?_, m3.symm⟩, rfl⟩))
      rw [m3]; exact zn1 (by have := el m m1; omega)
  · have q3 := zbi_eq0.mp q
    rcases X.psAt x with ⟨e, -⟩ | ⟨m, m1, m2, m3⟩
    · exact e
    · exfalso
      rcases zbt_of (x := x) (n := (cL c 3).length) (by omega) (by omega) with ⟨e3, -⟩ | ⟨-, e3⟩
      · rw [q3] at e3; cases e3
      · exact e3 m m1 m2
theorem tX1_ahead (ht : l.stackTraces = false) (D : cD G A (cN c)) (W : wD G B A (cN c)) (X : cQ b E T c r) (x : Int32) (g : Nat) (hg : 8 ≤ g) (hd : 10 ≤ d) : tC l G d MX1_ahead [.ref B.1, .int x] (wK G k B A.1 A c u) 3 (wLk (wK G k B A.1 A c u) (fun E => (E = xI ∧ rTo r x = 1) ∨ (E = xS ∧ rTo r x = 2) ∨ (E = xN ∧ rTo r x = 0 ∧ rAd g r x = -1)) (fun y => rTo r x = 0 ∧ rAd g r x ≠ -1 ∧ y = rAd g r x)) := by
  intro h R
  have n40 := X.n40
  have sp := X.sp
  refine zCt.of kX1_ahead ht (by simp [Value.category]) (Nat.le_of_ble_eq_true rfl) ?_
  refine b_X1_ahead_0 _ _ (wOc R W (tCall.R R (tX1_crossing ht D W X x (d := d - 1) (by omega)) (by omega) (by omega) (fun a k' h1 R1 v => ?_) (fun E k' h1 R1 v => ⟨by omega, _, R1, v.1.elim Or.inl (fun w => Or.inr (Or.inl w)), v.2⟩)))
  obtain ⟨⟨i, hi, hx, rfl, hon, e⟩, rfl⟩ := v
  obtain ⟨j, j8, hj, hb⟩ := X.oc.1 i hi hon
  have hv := (X.va hi).2.2.1 hon
  have zs : zFd (cOc (cG c i)) 5 = .int (nI j) := by rw [X.zs hi, hj]
  have hst : cStep (rc r i 4) = rBy r i := by
    rcases hv with w | w
    · rw [w, cStep, if_pos rfl, rBy, w, if_neg (by decide)]
    · rw [w, cStep, if_neg (by decide), rBy, w, if_pos rfl]
  refine ccGi R1 D hi (X.z6 hi hon) (zCall.P (s_step ht (d := d - 1)) (by omega) (by omega) (ccGi R1 D hi zs ?_))
  rw [hst]
  have had : rAd g r x = rAh r (rBy r i) g (nI j + rBy r i) := by
    simp only [rAd]
    rw [hx, nI_clamp (by omega), hj]
  have loop : ∀ (f : Nat) (s : Int32) (h : zH), tR G (wK G k B A.1 A c u) h → rAd g r x = rAh r (rBy r i) f s → (zbt s 0 (r 4 - 1) = false ∨ ∃ q, q < rSp r ∧ s = nI q ∧ (rc r i 4 = 1 → rSp r - q ≤ f) ∧ (rc r i 4 = 0 → q + 1 ≤ f)) → zV l G d 3 MX1_ahead (fun r_1 h' => ∃ k', tR G k' h' ∧ wLk (wK G k B A.1 A c u) (fun E => (E = xI ∧ rTo r x = 1) ∨ (E = xS ∧ rTo r x = 2) ∨ (E = xN ∧ rTo r x = 0 ∧ rAd g r x = -1)) (fun y => rTo r x = 0 ∧ rAd g r x ≠ -1 ∧ y = rAd g r x) r_1 k') 22 [some (.ref B.1), some (.int x), some (.ref (A.2.2 i)), some (.int (rBy r i)), some (.int s)] [] h 2 := by
    intro f
    induction f with
    | zero =>
      intro s h R ea hs
      refine b_X1_ahead_22 _ _ _ _ _ (wGr R W rfl (cGi R (j := 5) (x := r 4) (by show Value.int (c.1 5) = _; rw [X.1.2.2.1.1]) (zCall.P (s_between ht (d := d - 1)) (by omega) (by omega) ⟨fun q => ⟨by omega, by omega, _, R, Or.inr (Or.inr ⟨rfl, e, ea⟩), rfl⟩, fun q => ?_⟩)))
      rw [zbi_eq0, Bool.not_eq_false] at q
      rcases hs with hs | ⟨p, p1, p2, p3, p4⟩
      · rw [hs] at q; cases q
      · rcases hv with w | w
        · have := p4 w; omega
        · have := p3 w; omega
    | succ f ih =>
      intro s h R ea hs
      refine b_X1_ahead_22 _ _ _ _ _ (wGr R W rfl (cGi R (j := 5) (x := r 4) (by show Value.int (c.1 5) = _; rw [X.1.2.2.1.1]) (zCall.P (s_between ht (d := d - 1)) (by omega) (by omega) ⟨fun q => ⟨by omega, by omega, _, R, Or.inr (Or.inr ⟨rfl, e, ?_⟩), rfl⟩, fun q => ?_⟩)))
      · rw [zbi_eq0] at q
        rw [ea, rAh, if_neg (by rw [q]; decide)]
      · rw [zbi_eq0, Bool.not_eq_false] at q
        rcases hs with hs | ⟨p, p1, rfl, p3, p4⟩
        · rw [hs] at q; cases q
        · refine wGr R W rfl (cGr R rfl (cAi R D rfl (by omega) ⟨fun v => ?_, fun v => ?_⟩))
          · refine ih _ h R ?_ ?_
            · rw [ea, rAh, if_pos q, if_pos (by rw [X.co (by omega)]; exact v)]
            · rcases hv with w | w
              · have hby : rBy r i = -1 := by rw [rBy, w, if_neg (by decide)]
                rw [hby]
                rcases Nat.eq_zero_or_pos p with y | y
                · subst y
                  left
                  rw [nI_0]
                  rcases zbt_of (x := 0 + (-1 : Int32)) (n := rSp r) (by omega) (by omega) with ⟨-, m, m1, m2⟩ | ⟨e3, -⟩
                  · exact absurd m2.symm (zn1 (by omega))
                  · rw [sp.1]; exact e3
                · right
                  refine ⟨p - 1, by omega, ?_, fun w2 => ?_, fun _ => by have := p4 w; omega⟩
                  · rw [show p = p - 1 + 1 by omega, pk_m1, Nat.add_sub_cancel]
                  · rw [w] at w2; exact absurd w2 (by decide)
              · have hby : rBy r i = 1 := by rw [rBy, w, if_pos rfl]
                rw [hby, nI_1]
                by_cases y : p + 1 < rSp r
                · right
                  refine ⟨p + 1, y, rfl, fun _ => by have := p3 w; omega, fun w2 => ?_⟩
                  rw [w] at w2; exact absurd w2 (by decide)
                · left
                  rcases zbt_of (x := nI (p + 1)) (n := rSp r) (by omega) (by omega) with ⟨-, m, m1, m2⟩ | ⟨e3, -⟩
                  · have := nI_inj (by omega) (by omega) m2; omega
                  · rw [sp.1]; exact e3
          · refine wGr R W rfl (cGr R rfl (cAi R D rfl (by omega) ⟨by omega, _, R, ⟨e, ?_, ?_⟩, rfl⟩))
            · rw [ea, rAh, if_pos q, X.co (by omega), if_neg v]; exact v
            · rw [ea, rAh, if_pos q, X.co (by omega), if_neg v]
  refine loop g _ h1 R1 had ?_
  rcases hv with w | w
  · have hby : rBy r i = -1 := by rw [rBy, w, if_neg (by decide)]
    rw [hby]
    rcases Nat.eq_zero_or_pos j with y | y
    · subst y
      left
      rw [nI_0]
      rcases zbt_of (x := 0 + (-1 : Int32)) (n := rSp r) (by omega) (by omega) with ⟨-, m, m1, m2⟩ | ⟨e3, -⟩
      · exact absurd m2.symm (zn1 (by omega))
      · rw [sp.1]; exact e3
    · right
      refine ⟨j - 1, by omega, ?_, fun w2 => ?_, fun _ => by omega⟩
      · rw [show j = j - 1 + 1 by omega, pk_m1, Nat.add_sub_cancel]
      · rw [w] at w2; exact absurd w2 (by decide)
  · have hby : rBy r i = 1 := by rw [rBy, w, if_pos rfl]
    rw [hby, nI_1]
    by_cases y : j + 1 < rSp r
    · right
      refine ⟨j + 1, y, rfl, fun _ => by omega, fun w2 => ?_⟩
      rw [w] at w2; exact absurd w2 (by decide)
    · left
      rcases zbt_of (x := nI (j + 1)) (n := rSp r) (by omega) (by omega) with ⟨-, m, m1, m2⟩ | ⟨e3, -⟩
      · have := nI_inj (by omega) (by omega) m2; omega
      · rw [sp.1]; exact e3
theorem tX1_may (ht : l.stackTraces = false) (hS : tS G) (D : cD G A (cN c)) (W : wD G B A (cN c)) (X : cQ b E T c r) (x : Int32) (hd : 9 ≤ d) : tC l G d MX1_may [.ref B.1, .int x] (wK G k B A.1 A c u) 3 (wLk (wK G k B A.1 A c u) (fun E => E = xA ∧ zbt x 0 1 = false) (fun y => zbt x 0 1 = true ∧ y = zbi (rMs r x))) := by
  intro h R
  obtain ⟨v, hv, e2⟩ := X.law
  refine zCt.of kX1_may ht (by simp [Value.category]) (Nat.le_of_ble_eq_true rfl) ?_
  refine b_X1_may_0 _ _ (zCall.P (s_isSide ht (d := d - 1)) (by omega) (by omega) (cCheck ht (by omega) (by omega) (fun q => ?_) (fun q => ⟨by omega, _, R, ⟨rfl, zbi_eq0.mp q⟩, rfl⟩)))
  rw [zbi_eq0, Bool.not_eq_false] at q
  obtain ⟨z, hz, rfl⟩ := zbt01 q
  refine wGr R W rfl (cGi R (j := 6) (x := nI v) (by show Value.int (c.1 6) = _; rw [X.1.2.2.1.2.1, e2]) (tCall.R R (tX6_of ht hv (d := d - 1) (by omega)) (by omega) (by omega) (fun y k' h2 R2 w => ?_) (fun E k' h' _ w => w.elim)))
  obtain ⟨w1, w2, rfl⟩ := w
  obtain ⟨ho, N, w1⟩ := wK_fresh D w1
  rw [wK_up N ho] at R2
  have go : ∀ (h : zH) (n : Nat), tR G (wK G k B A.1 A c u) h → n ≤ 3 → zV l G d 3 MX1_may (fun r_1 h' => ∃ k', tR G k' h' ∧ wLk (wK G k B A.1 A c u) (fun E => E = xA ∧ zbt (nI z) 0 1 = false) (fun y => zbt (nI z) 0 1 = true ∧ y = zbi (rMs r (nI z))) r_1 k') 27 [some (.ref B.1), some (.int (nI z))] [.int (zbi (rMs r (nI z)))] h n := by
    intro h n R hn
    exact b_X1_may_27 _ _ _ ⟨zbi_narrow, hn, _, R, ⟨q, rfl⟩, rfl⟩
  refine wGr R2 W rfl ?_
  have key : ∀ {M : zM}, True := fun {_} => trivial
  have kx : wK G (tUp k y (tOb (4 + v) [])) B A.1 A c u y = some (tOb (4 + v) []) := by rw [wK, cK_o ho, wC_o N, tUp_s]
  have kw : wC (tUp k y (tOb (4 + v) [])) B A.1 u y = some (tOb (4 + v) []) := by rw [wC_o N, tUp_s]
  rcases (show v = 0 ∨ v = 1 ∨ v = 2 ∨ v = 3 by omega) with rfl | rfl | rfl | rfl
  · exact Or.inl (tOc R2 kx (tC.i R2 (tX6_may ht hS D X hz hv e2 kw ho (d := d - 1) (by omega)) (by omega) (by omega) fun h3 R3 => go h3 _ (wK_fg N w1 w2 R3) (by omega)))
  · exact Or.inr (Or.inr (Or.inl (tOc R2 kx (tC.i R2 (tX6_may ht hS D X hz hv e2 kw ho (d := d - 1) (by omega)) (by omega) (by omega) fun h3 R3 => go h3 _ (wK_fg N w1 w2 R3) (by omega)))))
  · exact Or.inr (Or.inl (tOc R2 kx (tC.i R2 (tX6_may ht hS D X hz hv e2 kw ho (d := d - 1) (by omega)) (by omega) (by omega) fun h3 R3 => go h3 _ (wK_fg N w1 w2 R3) (by omega))))
  · exact Or.inr (Or.inr (Or.inr (tOc R2 kx (tC.i R2 (tX6_may ht hS D X hz hv e2 kw ho (d := d - 1) (by omega)) (by omega) (by omega) fun h3 R3 => go h3 _ (wK_fg N w1 w2 R3) (by omega)))))
end W2
