/-! the main object: what is looked up -/
section R10
variable {b E T : Nat} {c : cS} {r : Nat → Int32}
theorem zfo_split (f : Nat → Int32) (x : Int32) (a : Nat) : ∀ n, zfo (fun s q => s + f q) x (a + n) = zfo (fun s q => s + f q) x a + zfo (fun s q => s + f (a + q)) 0 n
  | 0 => by rw [Nat.add_zero]; exact (Int32.add_zero _).symm
  | n + 1 => by
    show zfo _ x (a + n) + f (a + n) = _ + (zfo _ 0 n + f (a + n))
    rw [zfo_split f x a n, Int32.add_assoc]
theorem foldl_r (f : Nat → Int32) : ∀ (L : List Nat) (x : Int32), L.foldl (fun a k => a + f k) x = x + L.foldr (fun k a => f k + a) 0
  | [], x => (Int32.add_zero x).symm
  | k :: L, x => by rw [List.foldl_cons, foldl_r f L, List.foldr_cons, Int32.add_assoc]
/-- the load on a span -/
def cLd (c : cS) (r : Nat → Int32) (q : Nat) : Int32 := if cB c q = -1 then 0 else rc r (cB c q).toNatClampNeg 1
def cLt (c : cS) (r : Nat → Int32) (m : Nat) : Int32 := zfo (fun s q => s + cLd c r q) 0 m
theorem cQ.lseg (X : cQ b E T c r) {i j g : Nat} (hi : i < cN c) (hon : rc r i 2 = 1) (hj : rc r i 3 = nI j) (j8 : j < rSp r) (hg : 8 ≤ g) : ∃ a n, 0 < n ∧ a + n ≤ rSp r ∧ rc r (rLst r g i) 3 = nI (if rc r i 4 = 1 then a else a + n - 1) ∧ (j = if rc r i 4 = 1 then a + n - 1 else a) ∧ cLt c r (a + n) - cLt c r a = rLr r g (nI i) := by
  have n40 := X.n40
  obtain ⟨a, n, s1, s2, s3, s4, s5, s6, s7⟩ := X.seg hi hon hj j8 hg
  refine ⟨a, n, s1, s2, s4.2, s5, ?_⟩
  rw [cLt, zfo_split, Int32.add_comm, ← cLt, Int32.add_sub_cancel, rLr_run]
  have e := foldl_r (fun k => rc r k 1) (rRun r g (nI i)) 0
  rw [Int32.zero_add] at e
  rw [← e, ← s7.foldl_eq' (fun x _ y _ z => by rw [Int32.add_assoc, Int32.add_comm (rc r x 1), ← Int32.add_assoc]) 0, foldl_zfo, List.length_map, List.length_range]
  refine zfo_congr 0 fun q a' hq => ?_
  rw [range_getD _ hq]
  obtain ⟨i', g1, g2, -⟩ := s6 q hq
  rw [cLd, g2, if_neg (zn1 (by omega))]
/-- where a cart stands in its row -/
theorem cQ.idx (X : cQ b E T c r) {i z : Nat} (hi : i < cN c) (hz : z ≤ 1) (hw : rc r i 2 = 0) (hs : rc r i 0 = nI z) : ∃ q, q < (cL c (1 + z)).length ∧ (cL c (1 + z)).getD q 0 = i ∧ rPl r i = q ∧ zff (fun p => nI i == nI ((cL c (1 + z)).getD p 0)) 0 (cL c (1 + z)).length = nI q := by
  have n40 := X.n40
  obtain ⟨q, hq, e⟩ := mem_getD (((X.row hz).1 i).mpr ⟨hi, hw, hs⟩)
  have hp := X.place hz hq
  rw [e] at hp
  refine ⟨q, hq, e, hp, zff_one hq (by rw [e]; exact beq_self_eq_true _) fun m hm h => ?_⟩
  rw [beq_iff_eq] at h
  have e2 := nI_inj (by omega) (by have := X.el hz hm; omega) h
  have := X.place hz hm
  rw [← e2, hp] at this
  exact this.symm
theorem cQ.side (X : cQ b E T c r) {i : Nat} (hi : i < cN c) : ∃ z, z ≤ 1 ∧ rc r i 0 = nI z := by
  rcases (X.va hi).1 with w | w
  · exact ⟨0, by omega, w⟩
  · exact ⟨1, by omega, w⟩
/-- what is asked of a cart -/
def rPo (r : Nat → Int32) (i : Nat) : Int32 := if rc r i 2 = 0 then nI (rPl r i) else -1
def rOf (r : Nat → Int32) (i : Nat) (w : Int32) : Int32 := if w = 3 then (if rc r i 2 = 1 then rc r i 3 else -1) else if w = 4 then (if rc r i 2 = 1 then rc r i 4 else -1) else if w = 7 then rPo r i else rc r i w.toNatClampNeg
end R10
section W1
variable {l : Launch} {G : zG} {k : t_H} {B : wB} {A : cA} {c : cS} {u : wU} {h : zH} {d mc n b E T : Nat} {r : Nat → Int32} {RX : String → zH → Nat → Prop}
theorem tX5_waitedByTicks (ht : l.stackTraces = false) {K : t_H} {a : Nat} {g : Nat → Int32} (e : K a = some (tOb 2 (cOc g))) (t : Int32) : tC l G d MX5_waitedByTicks [.ref a, .int t] K 0 (tIr (if g 4 = 0 then g 10 + t - g 9 else g 10) K) := by
  intro h R
  refine zCt.of kX5_waitedByTicks ht (by simp [Value.category]) (Nat.le_of_ble_eq_true rfl) ?_
  refine b_X5_waitedByTicks_0 _ _ (tGi R e rfl ⟨fun q => tGi R e rfl ⟨Nat.le_refl _, _, R, ?_, rfl⟩, fun q => tGi R e rfl (tGi R e rfl ⟨Nat.le_refl _, _, R, ?_, rfl⟩)⟩)
  · rw [if_neg q]
  · rw [if_pos (Classical.not_not.mp q)]
theorem cQ.wbt (X : cQ b E T c r) {i : Nat} (hi : i < cN c) : (if cG c i 4 = 0 then cG c i 10 + r 1 - cG c i 9 else cG c i 10) = rc r i 7 := by
  obtain ⟨b0, b1, b2, b3, b4, b5, b6, b7, b8, b9⟩ := X.ca hi
  rw [b4]; exact b9
theorem tX1_placeOf (ht : l.stackTraces = false) (hS : tS G) (D : cD G A (cN c)) (W : wD G B A (cN c)) (X : cQ b E T c r) {i : Nat} (hi : i < cN c) (hd : 5 ≤ d) : tC l G d MX1_placeOf [.ref B.1, .ref (A.2.2 i)] (wK G k B A.1 A c u) 0 (tIr (rPo r i) (wK G k B A.1 A c u)) := by
  intro h R
  have n40 := X.n40
  obtain ⟨z, hz, hs⟩ := X.side hi
  refine zCt.of kX1_placeOf ht (by simp [Value.category]) (Nat.le_of_ble_eq_true rfl) ?_
  refine b_X1_placeOf_0 _ _ (ccGi R D hi (j := 4) (x := rc r i 2) ?_ ⟨fun q => ⟨Nat.le_refl _, _, R, ?_, rfl⟩, fun q => wGr R W rfl (ccGi R D hi (j := 1) (x := nI z) ?_ (cOo R (tC.r R (tX2_row ht hz (d := d - 1)) (by omega) (Nat.le_refl _) fun h1 R1 => ccGi R1 D hi (j := 0) (x := nI i) ?_ (cBox ht hS R1 rfl (by omega) (by omega) (Nat.le_refl _) fun h2 R2 => tOcZ R2 (cK_l D (j := 1 + z) (by omega) (by omega)) (tC.i R2 (tJ2_indexOf ht (cK_l D (j := 1 + z) (by omega) (by omega)) (v := nI i) (g := fun p => nI ((cL c (1 + z)).getD p 0)) (R2.bx hS (by omega)) (fun p hp => ?_) (d := d - 1) (by omega)) (by omega) (Nat.le_refl _) fun h3 R3 => ⟨Nat.le_refl _, _, R3, ?_, rfl⟩)))))⟩)
  · show Value.int (cG c i 4) = _; rw [(X.ca hi).2.2.2.2.1]
  · rw [rPo, if_neg q]
  · show Value.int (cG c i 1) = _; rw [(X.ca hi).2.1, hs]
  · show Value.int (cG c i 0) = _; rw [X.num hi]
  · rw [List.length_map] at hp
    rw [map_getD _ hp]
    exact R2.bx hS (by have := X.el hz hp; omega)
  · have hw := Classical.not_not.mp q
    obtain ⟨p, -, -, e1, e2⟩ := X.idx hi hz hw hs
    rw [List.length_map, e2, rPo, if_pos hw, e1]
theorem tX1_waited (ht : l.stackTraces = false) (D : cD G A (cN c)) (W : wD G B A (cN c)) (X : cQ b E T c r) (x : Int32) (hd : 9 ≤ d) : tC l G d MX1_waited [.ref B.1, .int x] (wK G k B A.1 A c u) 1 (wLk (wK G k B A.1 A c u) (fun E => E = xI ∧ rCart r x = false) (fun y => rCart r x = true ∧ y = rc r x.toNatClampNeg 7)) := by
  intro h R
  have n40 := X.n40
  refine zCt.of kX1_waited ht (by simp [Value.category]) (Nat.le_of_ble_eq_true rfl) ?_
  refine b_X1_waited_0 _ _ (wOc R W (tCall.R R (tX1_cart0 ht D W X x (d := d - 1) (by omega)) (by omega) (by omega) (fun a k' h1 R1 w => ?_) (fun E k' h1 R1 w => ⟨by omega, _, R1, w⟩)))
  obtain ⟨⟨i, hi, hx, rfl, e⟩, rfl⟩ := w
  refine ccGi R1 D hi (j := 8) (x := rc r i 7) ?_ ⟨by omega, _, R1, ⟨e, ?_⟩, rfl⟩
  · show Value.int (cG c i 8) = _; rw [(X.ca hi).2.2.2.2.2.2.2.2.1]
  · rw [hx, nI_clamp (by omega)]
theorem tX1_waitedAgain (ht : l.stackTraces = false) (D : cD G A (cN c)) (W : wD G B A (cN c)) (X : cQ b E T c r) (x : Int32) (hd : 9 ≤ d) : tC l G d MX1_waitedAgain [.ref B.1, .int x] (wK G k B A.1 A c u) 1 (wLk (wK G k B A.1 A c u) (fun E => E = xI ∧ rCart r x = false) (fun y => rCart r x = true ∧ y = rc r x.toNatClampNeg 7)) := by
  intro h R
  have n40 := X.n40
  refine zCt.of kX1_waitedAgain ht (by simp [Value.category]) (Nat.le_of_ble_eq_true rfl) ?_
  refine b_X1_waitedAgain_0 _ _ (wOc R W (tCall.R R (tX1_cart0 ht D W X x (d := d - 1) (by omega)) (by omega) (by omega) (fun a k' h1 R1 w => ?_) (fun E k' h1 R1 w => ⟨by omega, _, R1, w⟩)))
  obtain ⟨⟨i, hi, hx, rfl, e⟩, rfl⟩ := w
  refine wGr R1 W rfl (cGi R1 (j := 10) (x := r 1) ?_ (ccOc R1 D hi (tC.i R1 (tX5_waitedByTicks ht (cK_c D hi) (r 1) (d := d - 1)) (by omega) (by omega) fun h2 R2 => ⟨by omega, _, R2, ⟨e, ?_⟩, rfl⟩)))
  · show Value.int (c.1 10) = _; rw [X.1.2.2.1.2.2.2.2.2.1]
  · rw [X.wbt hi, hx, nI_clamp (by omega)]
theorem tX1_cartOf (ht : l.stackTraces = false) (hS : tS G) (D : cD G A (cN c)) (W : wD G B A (cN c)) (X : cQ b E T c r) (x w : Int32) (hd : 9 ≤ d) : tC l G d MX1_cartOf [.ref B.1, .int x, .int w] (wK G k B A.1 A c u) 2 (wLk (wK G k B A.1 A c u) (fun E => (E = xI ∧ rCart r x = false) ∨ (E = xA ∧ rCart r x = true ∧ zbt w 0 7 = false)) (fun y => rCart r x = true ∧ zbt w 0 7 = true ∧ y = rOf r x.toNatClampNeg w)) := by
  intro h R
  have n40 := X.n40
  refine zCt.of kX1_cartOf ht (by simp [Value.category]) (Nat.le_of_ble_eq_true rfl) ?_
  refine b_X1_cartOf_0 _ _ _ (wOc R W (tCall.R R (tX1_cart0 ht D W X x (d := d - 1) (by omega)) (by omega) (by omega) (fun a k' h1 R1 v => ?_) (fun E k' h1 R1 v => ⟨by omega, _, R1, Or.inl v.1, v.2⟩)))
  obtain ⟨⟨i, hi, hx, rfl, e⟩, rfl⟩ := v
  refine zCall.P (s_between ht (d := d - 1)) (by omega) (by omega) (cCheck ht (by omega) (by omega) (fun q => ?_) (fun q => ⟨by omega, _, R1, Or.inr ⟨rfl, e, zbi_eq0.mp q⟩, rfl⟩))
  rw [zbi_eq0, Bool.not_eq_false] at q
  have hx2 : x.toNatClampNeg = i := by rw [hx, nI_clamp (by omega)]
  have ca := X.ca hi
  obtain ⟨b0, b1, b2, b3, b4, b5, b6, b7, b8, b9⟩ := ca
  have vv := X.va hi
  refine ⟨fun z => ?_, fun z0 => ⟨fun z => ?_, fun z1 => ⟨fun z => ?_, fun z2 => ⟨fun z => ?_, fun z3 => ⟨fun z => ?_, fun z4 => ⟨fun z => ?_, fun z5 => ⟨fun z => ?_, fun z6 => ?_⟩⟩⟩⟩⟩⟩⟩
  · refine ccGi R1 D hi (j := 1) (x := rc r i 0) (by show Value.int (cG c i 1) = _; rw [b1]) ⟨by omega, _, R1, ⟨e, q, ?_⟩, rfl⟩
    rw [hx2, rOf, z]; rfl
  · refine ccGi R1 D hi (j := 2) (x := rc r i 1) (by show Value.int (cG c i 2) = _; rw [b2]) ⟨by omega, _, R1, ⟨e, q, ?_⟩, rfl⟩
    rw [hx2, rOf, z]; rfl
  · refine ccGi R1 D hi (j := 4) (x := rc r i 2) (by show Value.int (cG c i 4) = _; rw [b4]) ⟨by omega, _, R1, ⟨e, q, ?_⟩, rfl⟩
    rw [hx2, rOf, z]; rfl
  · refine ccGi R1 D hi (j := 5) (x := rc r i 3) (by show Value.int (cG c i 5) = _; rw [b5]) ⟨by omega, _, R1, ⟨e, q, ?_⟩, rfl⟩
    rw [hx2, rOf, z, if_pos rfl]
    by_cases on : rc r i 2 = 1
    · rw [if_pos on]
    · rw [if_neg on, vv.2.2.2.1 on]
  · refine ccGi R1 D hi (j := 6) (x := if rc r i 2 = 1 then rc r i 4 else -1) (by show Value.int (cG c i 6) = _; rw [b6]) ⟨by omega, _, R1, ⟨e, q, ?_⟩, rfl⟩
    rw [hx2, rOf, z, if_neg (show ¬ (4:Int32) = 3 by decide), if_pos rfl]
  · refine ccGi R1 D hi (j := 7) (x := rc r i 5) (by show Value.int (cG c i 7) = _; rw [b7]) ⟨by omega, _, R1, ⟨e, q, ?_⟩, rfl⟩
    rw [hx2, rOf, z]; rfl
  · refine ccGi R1 D hi (j := 3) (x := rc r i 6) (by show Value.int (cG c i 3) = _; rw [b3]) ⟨by omega, _, R1, ⟨e, q, ?_⟩, rfl⟩
    rw [hx2, rOf, z]; rfl
  · have w7 : w = 7 := by
      obtain ⟨m, -, m7, rfl⟩ := zbt_nI (a := 0) (n := 7) (by omega) (by omega) q
      have : m = 7 := by
        have h0 : m ≠ 0 := fun t => z0 (by rw [t]; rfl)
        have h1 : m ≠ 1 := fun t => z1 (by rw [t]; rfl)
        have h2 : m ≠ 2 := fun t => z2 (by rw [t]; rfl)
        have h3 : m ≠ 3 := fun t => z3 (by rw [t]; rfl)
        have h4 : m ≠ 4 := fun t => z4 (by rw [t]; rfl)
        have h5 : m ≠ 5 := fun t => z5 (by rw [t]; rfl)
        have h6 : m ≠ 6 := fun t => z6 (by rw [t]; rfl)
        omega
      rw [this]; rfl
    refine wOc R1 W (tC.i R1 (tX1_placeOf ht hS D W X hi (d := d - 1) (by omega)) (by omega) (by omega) fun h2 R2 => ⟨by omega, _, R2, ⟨e, q, ?_⟩, rfl⟩)
    rw [hx2, rOf, w7, if_neg (by decide), if_neg (by decide), if_pos rfl]
theorem s_isSide (ht : l.stackTraces = false) {x : Int32} : zCt l G d MX1_isSide [.int x] h 0 (zIr (zbi (zbt x 0 1)) h) := by
  have hz : zbt x 0 1 = (x == 0 || x == 1) := by
    cases q : zbt x 0 1 with
    | true =>
      obtain ⟨m, -, m1, rfl⟩ := zbt_nI (a := 0) (n := 1) (by omega) (by omega) q
      have : m = 0 ∨ m = 1 := by omega
      rcases this with w | w <;> subst w <;> rfl
    | false =>
      have h0 : x ≠ 0 := fun e => by rw [e] at q; exact absurd q (by decide)
      have h1 : x ≠ 1 := fun e => by rw [e] at q; exact absurd q (by decide)
      simp [h0, h1]
  rw [hz]
  refine zCt.of kX1_isSide ht (by simp [Value.category]) (Nat.le_of_ble_eq_true rfl) ?_
  refine b_X1_isSide_0 _ ⟨fun q => ⟨Nat.le_refl _, ?_, rfl⟩, fun q => ⟨fun q2 => ⟨Nat.le_refl _, ?_, rfl⟩, fun q2 => ⟨Nat.le_refl _, ?_, rfl⟩⟩⟩
  · simp [q, zbi]
  · simp [q, q2, zbi]
  · simp [Classical.not_not.mp q2, zbi]
theorem zbt01 {x : Int32} (h : zbt x 0 1 = true) : ∃ z, z ≤ 1 ∧ x = nI z := by
  obtain ⟨m, -, m1, e⟩ := zbt_nI (a := 0) (n := 1) (by omega) (by omega) h
  exact ⟨m, m1, e⟩
theorem tX1_waiting (ht : l.stackTraces = false) (hS : tS G) (D : cD G A (cN c)) (W : wD G B A (cN c)) (X : cQ b E T c r) (x p : Int32) (hd : 8 ≤ d) : tC l G d MX1_waiting [.ref B.1, .int x, .int p] (wK G k B A.1 A c u) 1 (wLk (wK G k B A.1 A c u) (fun E => (E = xA ∧ zbt x 0 1 = false) ∨ (E = xN ∧ zbt x 0 1 = true ∧ rRa r x p = -1)) (fun y => zbt x 0 1 = true ∧ rRa r x p = y ∧ y ≠ -1)) := by
  intro h R
  have n40 := X.n40
  refine zCt.of kX1_waiting ht (by simp [Value.category]) (Nat.le_of_ble_eq_true rfl) ?_
  refine b_X1_waiting_0 _ _ _ (zCall.P (s_isSide ht (d := d - 1)) (by omega) (by omega) (cCheck ht (by omega) (by omega) (fun q => ?_) (fun q => ⟨by omega, _, R, Or.inl ⟨rfl, zbi_eq0.mp q⟩, rfl⟩)))
  rw [zbi_eq0, Bool.not_eq_false] at q
  obtain ⟨z, hz, rfl⟩ := zbt01 q
  have hl := X.len hz
  refine wGr R W rfl (cOo R (tC.r R (tX2_row ht hz (d := d - 1)) (by omega) (by omega) fun h1 R1 => cSizeL ht R1 D (by omega) (by omega) (by omega) (by omega) fun h2 R2 => zCall.P (s_between ht (d := d - 1)) (by omega) (by omega) (cCheckN ht (by omega) (by omega) (fun q2 => ?_) (fun q2 => ⟨by omega, _, R2, Or.inr ⟨rfl, q, ?_⟩, rfl⟩))))
  · rw [zbi_eq0, Bool.not_eq_false] at q2
    rcases X.rowAt hz p with ⟨e, e2⟩ | ⟨m, m1, m2, m3⟩
    · exfalso
      rcases Nat.eq_zero_or_pos (cL c (1 + z)).length with v | v
      · rw [v, zbt_0] at q2; cases q2
      · rcases zbt_of (x := p) v (by omega) with ⟨-, m, m1, m2⟩ | ⟨e3, -⟩
        · exact e2 m m1 m2
        · rw [e3] at q2; cases q2
    · refine wGr R2 W rfl (cOo R2 (tC.r R2 (tX2_row ht hz (d := d - 1)) (by omega) (by omega) fun h3 R3 => cGetL ht R3 D (by omega) (by omega) m2 m1 (by omega) (by omega) fun h4 R4 => cUnb ht hS R4 (by have := X.el hz m1; omega) (by omega) (by omega) fun h5 R5 => ⟨by omega, _, R5, ⟨q, m3, zn1 (by have := X.el hz m1; omega)⟩, rfl⟩))
  · have q3 := zbi_eq0.mp q2
    rcases X.rowAt hz p with ⟨e, -⟩ | ⟨m, m1, m2, m3⟩
    · exact e
    · exfalso
      rcases zbt_of (x := p) (n := (cL c (1 + z)).length) (by omega) (by omega) with ⟨e3, -⟩ | ⟨-, e3⟩
      · rw [q3] at e3; cases e3
      · exact e3 m m1 m2
theorem tX1_rowLoad (ht : l.stackTraces = false) (hS : tS G) (D : cD G A (cN c)) (W : wD G B A (cN c)) (X : cQ b E T c r) (x : Int32) (hd : 8 ≤ d) : tC l G d MX1_rowLoad [.ref B.1, .int x] (wK G k B A.1 A c u) 1 (wLk (wK G k B A.1 A c u) (fun E => E = xA ∧ zbt x 0 1 = false) (fun y => zbt x 0 1 = true ∧ y = rLo r x)) := by
  intro h R
  refine zCt.of kX1_rowLoad ht (by simp [Value.category]) (Nat.le_of_ble_eq_true rfl) ?_
  refine b_X1_rowLoad_0 _ _ (zCall.P (s_isSide ht (d := d - 1)) (by omega) (by omega) (cCheck ht (by omega) (by omega) (fun q => ?_) (fun q => ⟨by omega, _, R, ⟨rfl, zbi_eq0.mp q⟩, rfl⟩)))
  rw [zbi_eq0, Bool.not_eq_false] at q
  obtain ⟨z, hz, rfl⟩ := zbt01 q
  exact wGr R W rfl (cOo R (tC.i R (tX2_rowLoad ht hS D X hz (d := d - 1) (by omega)) (by omega) (by omega) fun h1 R1 => ⟨by omega, _, R1, ⟨q, rfl⟩, rfl⟩))
theorem tX1_onSpan (ht : l.stackTraces = false) (D : cD G A (cN c)) (W : wD G B A (cN c)) (X : cQ b E T c r) (x : Int32) (hd : 8 ≤ d) : tC l G d MX1_onSpan [.ref B.1, .int x] (wK G k B A.1 A c u) 1 (wLk (wK G k B A.1 A c u) (fun E => E = xI ∧ zbt x 0 (r 4 - 1) = false) (fun y => zbt x 0 (r 4 - 1) = true ∧ y = rCo r x)) := by
  intro h R
  have sp := X.sp
  refine zCt.of kX1_onSpan ht (by simp [Value.category]) (Nat.le_of_ble_eq_true rfl) ?_
  refine b_X1_onSpan_0 _ _ (wGr R W rfl (cGi R (j := 5) (x := r 4) (by show Value.int (c.1 5) = _; rw [X.1.2.2.1.1]) (zCall.P (s_between ht (d := d - 1)) (by omega) (by omega) (cCheckI ht (by omega) (by omega) (fun q => ?_) (fun q => ⟨by omega, _, R, ⟨rfl, zbi_eq0.mp q⟩, rfl⟩)))))
  rw [zbi_eq0, Bool.not_eq_false] at q
  have q' := q
  rw [sp.1] at q'
  rcases zbt_of (x := x) (n := rSp r) (by omega) (by omega) with ⟨-, j, hj, rfl⟩ | ⟨e, -⟩
  · exact wGr R W rfl (cGr R rfl (cAi R D rfl (by omega) ⟨by omega, _, R, ⟨q, (X.co (by omega)).symm⟩, rfl⟩))
  · rw [e] at q'; cases q'
theorem tX1_runLoad (ht : l.stackTraces = false) (D : cD G A (cN c)) (W : wD G B A (cN c)) (X : cQ b E T c r) (x : Int32) (g : Nat) (hg : 8 ≤ g) (hd : 10 ≤ d) : tC l G d MX1_runLoad [.ref B.1, .int x] (wK G k B A.1 A c u) 2 (wLk (wK G k B A.1 A c u) (fun E => (E = xI ∧ rTo r x = 1) ∨ (E = xS ∧ rTo r x = 2)) (fun y => rTo r x = 0 ∧ y = rLr r g x)) := by
  intro h R
  refine zCt.of kX1_runLoad ht (by simp [Value.category]) (Nat.le_of_ble_eq_true rfl) ?_
  refine b_X1_runLoad_0 _ _ (wGr R W rfl (wOc R W (tCall.R R (tX1_crossing ht D W X x (d := d - 1) (by omega)) (by omega) (by omega) (fun a k' h1 R1 v => ?_) (fun E k' h1 R1 v => ⟨by omega, _, R1, v⟩))))
  obtain ⟨⟨i, hi, hx, rfl, hon, e⟩, rfl⟩ := v
  refine cOo R1 (tC.i R1 (tX2_runLoad ht D X hi hon hg (d := d - 1) (by omega)) (by omega) (by omega) fun h2 R2 => ⟨by omega, _, R2, ⟨e, by rw [hx]⟩, rfl⟩)
theorem tX1_loadsTo (ht : l.stackTraces = false) (D : cD G A (cN c)) (W : wD G B A (cN c)) (X : cQ b E T c r) {m : Nat} (hm : m ≤ 8) (hd : 3 ≤ d) : tC l G d MX1_loadsTo [.ref B.1, .int (nI m)] (wK G k B A.1 A c u) 0 (tIr (cLt c r m) (wK G k B A.1 A c u)) := by
  intro h R
  have n40 := X.n40
  refine zCt.of kX1_loadsTo ht (by simp [Value.category]) (Nat.le_of_ble_eq_true rfl) ?_
  refine b_X1_loadsTo_0 _ _ ?_
  refine zInd (N := m) (P := fun q => ∀ h, tR G (wK G k B A.1 A c u) h → zV l G d 0 MX1_loadsTo _ 4 [some (.ref B.1), some (.int (nI m)), some (.int (cLt c r q)), some (.int (nI q))] [] h 0) ?_ 0 (Nat.zero_le _) h R
  intro q hq ih h R
  refine b_X1_loadsTo_4 _ _ _ _ ?_
  rw [nI_leI (by omega) (by omega)]
  refine ⟨fun z => ⟨Nat.le_refl _, _, R, ?_, rfl⟩, fun z => wGr R W rfl (cGr R rfl (cAi R D rfl (by omega) ⟨fun v => ?_, fun v => ?_⟩))⟩
  · obtain rfl : q = m := by omega
    rfl
  · rcases X.oc.2 q (by omega) with w | ⟨i, g1, g2, -⟩
    · exact absurd w v
    · refine wGr R W rfl (cGr R rfl (wGr R W rfl (cGr R rfl (cAi R D rfl (by omega) (cGet ht R D g2 g1 (by omega) (Nat.le_refl _) fun h2 R2 => ccOc R2 D g1 (ccGi R2 D g1 (j := 2) (x := rc r i 1) (by show Value.int (cG c i 2) = _; rw [(X.ca g1).2.2.1]) ?_))))))
      rw [nI_1]
      have := ih (by omega) h2 R2
      have e : cLt c r (q+1) = cLt c r q + cLd c r q := rfl
      rw [e, cLd, if_neg v, g2, nI_clamp (by omega)] at this
      exact this
  · rw [nI_1]
    have := ih (by omega) h R
    have e : cLt c r (q+1) = cLt c r q + cLd c r q := rfl
    rw [e, cLd, if_pos (Classical.not_not.mp v)] at this
    exact this
theorem tX1_runLoadBySpans (ht : l.stackTraces = false) (D : cD G A (cN c)) (W : wD G B A (cN c)) (X : cQ b E T c r) {i g : Nat} (hi : i < cN c) (hon : rc r i 2 = 1) (hg : 8 ≤ g) (hd : 6 ≤ d) : tC l G d MX1_runLoadBySpans [.ref B.1, .ref (A.2.2 i)] (wK G k B A.1 A c u) 0 (tIr (rLr r g (nI i)) (wK G k B A.1 A c u)) := by
  intro h R
  have sp := X.sp
  obtain ⟨j, j8, hj, hb⟩ := X.oc.1 i hi hon
  have hv := (X.va hi).2.2.1 hon
  obtain ⟨a, m, s1, s2, s3, s4, s5⟩ := X.lseg hi hon hj j8 hg
  have zs : zFd (cOc (cG c i)) 5 = .int (nI j) := by rw [X.zs hi, hj]
  have hmax : (if rc r (rLst r g i) 3 < nI j then nI j else rc r (rLst r g i) 3) = nI (a + m - 1) := by
    rw [s3, nI_max _ _ (by split <;> omega) (by omega)]
    congr 1
    rcases hv with v | v
    · rw [if_neg (by rw [v]; decide)] at s4 ⊢; omega
    · rw [if_pos v] at s4 ⊢; omega
  have hmin : (if nI j < rc r (rLst r g i) 3 then nI j else rc r (rLst r g i) 3) = nI a := by
    rw [s3, nI_min _ _ (by omega) (by split <;> omega)]
    congr 1
    rcases hv with v | v
    · rw [if_neg (by rw [v]; decide)] at s4 ⊢; omega
    · rw [if_pos v] at s4 ⊢; omega
  refine zCt.of kX1_runLoadBySpans ht (by simp [Value.category]) (Nat.le_of_ble_eq_true rfl) ?_
  refine b_X1_runLoadBySpans_0 _ _ (wGr R W rfl (cOo R (tC.i R (tX2_runEnd ht D X hi hon hg (d := d - 1) (by omega)) (by omega) (Nat.le_refl _) fun h1 R1 => ccGi R1 D hi zs ⟨⟨by omega, Nat.le_refl _⟩, wOc R1 W ?_⟩)))
  rw [hmax, nI_1, show a + m - 1 + 1 = a + m by omega]
  refine tC.i R1 (tX1_loadsTo ht D W X (by omega) (d := d - 1) (by omega)) (by omega) (Nat.le_refl _) fun h2 R2 => ccGi R2 D hi zs ⟨⟨by omega, Nat.le_refl _⟩, wOc R2 W ?_⟩
  rw [hmin]
  exact tC.i R2 (tX1_loadsTo ht D W X (by omega) (d := d - 1) (by omega)) (by omega) (Nat.le_refl _) fun h3 R3 => ⟨Nat.le_refl _, _, R3, s5, rfl⟩
theorem tX1_runLoadAgain (ht : l.stackTraces = false) (D : cD G A (cN c)) (W : wD G B A (cN c)) (X : cQ b E T c r) (x : Int32) (g : Nat) (hg : 8 ≤ g) (hd : 10 ≤ d) : tC l G d MX1_runLoadAgain [.ref B.1, .int x] (wK G k B A.1 A c u) 2 (wLk (wK G k B A.1 A c u) (fun E => (E = xI ∧ rTo r x = 1) ∨ (E = xS ∧ rTo r x = 2)) (fun y => rTo r x = 0 ∧ y = rLr r g x)) := by
  intro h R
  refine zCt.of kX1_runLoadAgain ht (by simp [Value.category]) (Nat.le_of_ble_eq_true rfl) ?_
  refine b_X1_runLoadAgain_0 _ _ (wOc R W (tCall.R R (tX1_crossing ht D W X x (d := d - 1) (by omega)) (by omega) (by omega) (fun a k' h1 R1 v => ?_) (fun E k' h1 R1 v => ⟨by omega, _, R1, v⟩)))
  obtain ⟨⟨i, hi, hx, rfl, hon, e⟩, rfl⟩ := v
  refine wOc R1 W (tC.i R1 (tX1_runLoadBySpans ht D W X hi hon hg (d := d - 1) (by omega)) (by omega) (by omega) fun h2 R2 => ⟨by omega, _, R2, ⟨e, by rw [hx]⟩, rfl⟩)
theorem tX1_runEnd (ht : l.stackTraces = false) (D : cD G A (cN c)) (W : wD G B A (cN c)) (X : cQ b E T c r) (x : Int32) (g : Nat) (hg : 8 ≤ g) (hd : 10 ≤ d) : tC l G d MX1_runEnd [.ref B.1, .int x] (wK G k B A.1 A c u) 2 (wLk (wK G k B A.1 A c u) (fun E => (E = xI ∧ rTo r x = 1) ∨ (E = xS ∧ rTo r x = 2)) (fun y => rTo r x = 0 ∧ y = rLa r g x x)) := by
  intro h R
  have n40 := X.n40
  have sp := X.sp
  refine zCt.of kX1_runEnd ht (by simp [Value.category]) (Nat.le_of_ble_eq_true rfl) ?_
  refine b_X1_runEnd_0 _ _ (wGr R W rfl (cGr R rfl (wGr R W rfl (wOc R W (tCall.R R (tX1_crossing ht D W X x (d := d - 1) (by omega)) (by omega) (by omega) (fun a k' h1 R1 v => ?_) (fun E k' h1 R1 v => ⟨by omega, _, R1, v⟩))))))
  obtain ⟨⟨i, hi, hx, rfl, hon, e⟩, rfl⟩ := v
  obtain ⟨j, j8, hj, hb⟩ := X.oc.1 i hi hon
  obtain ⟨hl, hq⟩ := X.run g i j hi hon hj j8 (X.fu j8 hg)
  obtain ⟨jq, g1, g2, g3, g4, g5, g6, g7⟩ := hq ((rRun r g (nI i)).length - 1) (by omega)
  have hla : rLa r g (nI i) (nI i) = nI ((rRun r g (nI i)).getD ((rRun r g (nI i)).length - 1) 0) := by
    rw [rLa_run r g _ _ (X.ch g i j hi hon hj j8 (X.fu j8 hg)), foldl_last, if_neg (by omega)]
  have hlst : rLst r g i = (rRun r g (nI i)).getD ((rRun r g (nI i)).length - 1) 0 := by rw [rLst, hla, nI_clamp (by omega)]
  refine cOo R1 (tC.i R1 (tX2_runEnd ht D X hi hon hg (d := d - 1) (by omega)) (by omega) (by omega) fun h2 R2 => cAi R2 D (j := jq) (by rw [hlst]; exact g3) (by omega) ⟨by omega, _, R2, ⟨e, ?_⟩, rfl⟩)
  rw [hx, hla, g6]
theorem tX1_spansLeft (ht : l.stackTraces = false) (D : cD G A (cN c)) (W : wD G B A (cN c)) (X : cQ b E T c r) (x : Int32) (hd : 10 ≤ d) : tC l G d MX1_spansLeft [.ref B.1, .int x] (wK G k B A.1 A c u) 2 (wLk (wK G k B A.1 A c u) (fun E => (E = xI ∧ rTo r x = 1) ∨ (E = xS ∧ rTo r x = 2)) (fun y => rTo r x = 0 ∧ y = rSl r x)) := by
  intro h R
  have n40 := X.n40
  have sp := X.sp
  refine zCt.of kX1_spansLeft ht (by simp [Value.category]) (Nat.le_of_ble_eq_true rfl) ?_
  refine b_X1_spansLeft_0 _ _ (wOc R W (tCall.R R (tX1_crossing ht D W X x (d := d - 1) (by omega)) (by omega) (by omega) (fun a k' h1 R1 v => ?_) (fun E k' h1 R1 v => ⟨by omega, _, R1, v⟩)))
  obtain ⟨⟨i, hi, hx, rfl, hon, e⟩, rfl⟩ := v
  obtain ⟨j, j8, hj, hb⟩ := X.oc.1 i hi hon
  have hv := (X.va hi).2.2.1 hon
  have zs : zFd (cOc (cG c i)) 5 = .int (nI j) := by rw [X.zs hi, hj]
  obtain ⟨y, hy, h4⟩ : ∃ y, y ≤ 1 ∧ rc r i 4 = nI y := by
    rcases hv with w | w
    · exact ⟨0, by omega, w⟩
    · exact ⟨1, by omega, w⟩
  refine wGr R1 W rfl (ccGi R1 D hi ((X.z6 hi hon).trans (by rw [h4])) (cOo R1 (tC.i R1 (tX2_end ht X hy (d := d - 1)) (by omega) (by omega) fun h2 R2 => ccGi R2 D hi zs ⟨⟨by omega, by omega⟩, by omega, _, R2, ⟨e, ?_⟩, rfl⟩)))
  simp only [rSl]
  rw [hx, nI_clamp (by omega), h4, hj, sp.1]
  rcases Nat.eq_zero_or_pos y with w | w
  · subst w
    rw [if_neg (show ¬ nI 0 = (1 : Int32) by decide)]
    show (if 0 ≤ nI 0 - nI j then nI 0 - nI j else 0 - (nI 0 - nI j)) + 1 = _
    have e2 : 0 - (nI 0 - nI j) = nI j := by rw [nI_0, Int32.zero_sub, Int32.zero_sub, Int32.neg_neg]
    rcases Nat.eq_zero_or_pos j with v | v
    · subst v; rfl
    · rw [if_neg, e2]
      intro q
      have := pk_sneg (a := 0) (b := j) (by omega) v
      exact absurd this (Int32.not_lt.mpr q)
  · obtain rfl : y = 1 := by omega
    rw [if_pos (show nI 1 = (1 : Int32) from rfl)]
    show (if 0 ≤ nI (rSp r - 1) - nI j then nI (rSp r - 1) - nI j else _) + 1 = _
    have e1 : rEnd r 1 = rSp r - 1 := rfl
    have e2 : nI (rSp r - 1) - nI j = nI (rSp r - 1 - j) := pk_sub (by omega)
    have e3 : nI (rSp r) - nI j = nI (rSp r - j) := pk_sub (by omega)
    rw [e2, e3, if_pos (nI_pos' (by omega)), nI_1]
    congr 1; omega
end W1
