/-! the changes -/
section R14
variable {b E T : Nat} {c : cS} {r : Nat → Int32}
theorem cQ.noOn (X : cQ b E T c r) (h : rOn r = 0) : ∀ i, i < cN c → rc r i 2 ≠ 1 := by
  intro i hi e
  have h1 : rOn r = zcnt (rOnb r) (cN c) := by rw [rOn, X.nn]
  have := zcnt_lt (p := fun _ => false) (q := rOnb r) (m := i) (by rw [rOnb, e]; rfl) rfl (n := cN c) hi (fun i hi h => by cases h)
  omega
theorem cQ.toSpans (X : cQ b E T c r) (h : rOn r = 0) {m : Nat} (m2 : 2 ≤ m) (m8 : m ≤ 8) : cQ b E T (cSf c 5 (nI m)) (zuf r 4 (nI m)) := by
  have no := X.noOn h
  have hs : rSp (zuf r 4 (nI m)) = m := by
    rw [rSp, show zuf r 4 (nI m) 4 = nI m from rfl, nI_clamp (by omega)]
  have hr : ∀ i w, w < 10 → rc (zuf r 4 (nI m)) i w = rc r i w := fun i w _ => rc_hd r 4 _ i w (by omega)
  obtain ⟨h0, h4, ⟨f5, f6, f7, f8, f9, f10, f11, f12⟩, hrest⟩ := X.1
  refine ⟨⟨h0, ?_, ⟨rfl, f6, f7, f8, f9, f10, f11, f12⟩, hrest⟩, fun i hi => (X.ca hi).same rfl (hr i) rfl, fun i hi => (X.va hi).same (hr i), ?_, (X.row (z := 0) (by omega)).same rfl rfl (fun i _ => ⟨hr i 0 (by omega), hr i 2 (by omega), hr i 8 (by omega)⟩), (X.row (z := 1) (by omega)).same rfl rfl (fun i _ => ⟨hr i 0 (by omega), hr i 2 (by omega), hr i 8 (by omega)⟩), X.pa.same rfl rfl rfl (fun i _ => ⟨hr i 2 (by omega), hr i 9 (by omega)⟩), X.le.same rfl rfl (fun i _ => hr i 2 (by omega)), X.wt.same rfl (fun i _ => hr i 7 (by omega))⟩
  · rw [hs]
    exact ⟨rfl, m2, m8⟩
  · refine ⟨fun i hi e => ?_, fun j hj => ?_⟩
    · rw [hr i 2 (by omega)] at e
      exact absurd e (no i hi)
    · rcases X.oc.2 j hj with w | ⟨i, g1, g2, g3, g4⟩
      · exact Or.inl w
      · exact absurd g3 (no i g1)
end R14
section W6
variable {l : Launch} {G : zG} {k k1 : t_H} {B : wB} {A A2 : cA} {c c2 : cS} {u u1 : wU} {h : zH} {d mc n n2 b E T st : Nat} {r : Nat → Int32} {RX : String → zH → Nat → Prop}
/-- the current state may have grown -/
def wEx (G : zG) (k1 : t_H) (A : cA) (n : Nat) (B : wB) (A2 : cA) (n2 : Nat) : Prop :=
  cD G A2 n2 ∧ A2.1 = A.1 ∧ wD G B A2 n2 ∧ ∀ b, cOut A n b → k1 b ≠ none → cOut A2 n2 b
theorem wEx_id (D : cD G A n) (W : wD G B A n) : wEx G k1 A n B A n := ⟨D, rfl, W, fun _ h _ => h⟩
/-- a change: refused, or made -/
def wOp (G : zG) (k : t_H) (B : wB) (A : cA) (c : cS) (u : wU) (b E T : Nat) (q : Bool × zMS) : zRes → t_H → Prop :=
  tqI (fun e k' => q.1 = false ∧ wRf G k B A.1 A c u (q.2.1 5) (q.2.1 6) e k') (fun y k' => q.1 = true ∧ y = q.2.1 4 ∧ ∃ k1 u1 A2 c2, wCx G k B A c u k1 u1 ∧ wEx G k1 A (cN c) B A2 (cN c2) ∧ cQ b E T c2 q.2.2.1 ∧ k' = wK G k1 B A2.1 A2 c2 u1)
theorem tX1_law (ht : l.stackTraces = false) (hS : tS G) (D : cD G A (cN c)) (W : wD G B A (cN c)) (s : zMS) (X : cQ b E T c s.2.1) (hl : u.2.1.length ≤ 8) (x : Int32) (hd : 11 ≤ d) : tC l G d MX1_law [.ref B.1, .int x] (wK G k B A.1 A c u) 224 (wOp G k B A c u b E T (mTe s 2 x 0 3)) := by
  intro h R
  obtain ⟨g0, g4, ⟨f5, f6, f7, f8, f9, f10, f11, f12⟩, g2, grest⟩ := X.1
  refine zCt.of kX1_law ht (by simp [Value.category]) (Nat.le_of_ble_eq_true rfl) ?_
  refine b_X1_law_0 _ _ (wOc R W (tCall.V R (tX1_inRange ht D W x 0 3 (d := d - 1) (by omega)) (by omega) (by omega) (fun k' h1 R1 v => ?_) (fun e k' h1 R1 v => ⟨by omega, _, R1, ?_⟩)))
  · obtain ⟨hz, rfl⟩ := v
    refine wGr R1 W rfl (cGi R1 (j := 6) (x := s.2.1 2) (by show Value.int (c.1 6) = _; rw [f6]) (wOc R1 W (tCall.V R1 (tX1_mustBeOther ht D W x (s.2.1 2) (d := d - 1) (by omega)) (by omega) (by omega) (fun k' h2 R2 v => ?_) (fun e k' h2 R2 v => ⟨by omega, _, R2, ?_⟩))))
    · obtain ⟨hne, rfl⟩ := v
      have eq : mTe s 2 x 0 3 = (true, zMa (zMf s 4 (s.2.1 2)) 2 x) := by
        rw [mTe, hz, if_neg (by decide), if_neg (by omega)]
        exact if_neg fun e => hne e.symm
      refine wOc R2 W (tCall.V R2 (tX1_change ht hS D W X hl (d := d - 1) (by omega)) (by omega) (by omega) (fun k' h3 R3 v => ?_) (fun _ _ _ _ w => w.elim))
      obtain ⟨k1, u1, C, rfl⟩ := v
      refine wGr R3 W rfl (cPf R3 D rfl fun h4 R4 => ⟨by omega, _, R4, ?_⟩)
      rw [eq]
      refine ⟨rfl, rfl, k1, u1, A, cSf c 6 x, C, wEx_id D W, ?_, rfl⟩
      obtain ⟨m, -, m3, rfl⟩ := zbt_nI (a := 0) (n := 3) (by omega) (by omega) hz
      refine X.hdr (f := zuf c.1 6 (nI m)) (r' := zuf s.2.1 2 (nI m)) ⟨g0, g4, ⟨f5, rfl, f7, f8, f9, f10, f11, f12⟩, ?_, grest⟩ (fun i w _ => rc_hd _ 2 _ i w (by omega)) rfl rfl rfl rfl
      rcases (show m = 0 ∨ m = 1 ∨ m = 2 ∨ m = 3 by omega) with rfl | rfl | rfl | rfl
      · exact Or.inl rfl
      · exact Or.inr (Or.inl rfl)
      · exact Or.inr (Or.inr (Or.inl rfl))
      · exact Or.inr (Or.inr (Or.inr rfl))
    · have eq : mTe s 2 x 0 3 = (false, mRef (zMf s 4 (s.2.1 2)) true 4 x) := by
        rw [mTe, hz, if_neg (by decide), if_neg (by omega)]
        exact if_pos v.1.symm
      rw [eq]; exact ⟨rfl, v.2⟩
  · rw [mTe, v.1]; exact ⟨rfl, v.2⟩
theorem tX1_share (ht : l.stackTraces = false) (hS : tS G) (D : cD G A (cN c)) (W : wD G B A (cN c)) (s : zMS) (X : cQ b E T c s.2.1) (hl : u.2.1.length ≤ 8) (x : Int32) (hd : 11 ≤ d) : tC l G d MX1_share [.ref B.1, .int x] (wK G k B A.1 A c u) 224 (wOp G k B A c u b E T (mTe s 3 x 1 5)) := by
  intro h R
  obtain ⟨g0, g4, ⟨f5, f6, f7, f8, f9, f10, f11, f12⟩, g2, g5, g3, grest⟩ := X.1
  refine zCt.of kX1_share ht (by simp [Value.category]) (Nat.le_of_ble_eq_true rfl) ?_
  refine b_X1_share_0 _ _ (wOc R W (tCall.V R (tX1_inRange ht D W x 1 5 (d := d - 1) (by omega)) (by omega) (by omega) (fun k' h1 R1 v => ?_) (fun e k' h1 R1 v => ⟨by omega, _, R1, ?_⟩)))
  · obtain ⟨hz, rfl⟩ := v
    refine wGr R1 W rfl (cGi R1 (j := 7) (x := s.2.1 3) (by show Value.int (c.1 7) = _; rw [f7]) (wOc R1 W (tCall.V R1 (tX1_mustBeOther ht D W x (s.2.1 3) (d := d - 1) (by omega)) (by omega) (by omega) (fun k' h2 R2 v => ?_) (fun e k' h2 R2 v => ⟨by omega, _, R2, ?_⟩))))
    · obtain ⟨hne, rfl⟩ := v
      have eq : mTe s 3 x 1 5 = (true, zMa (zMf s 4 (s.2.1 3)) 3 x) := by
        rw [mTe, hz, if_neg (by decide), if_neg (by omega)]
        exact if_neg fun e => hne e.symm
      refine wOc R2 W (tCall.V R2 (tX1_change ht hS D W X hl (d := d - 1) (by omega)) (by omega) (by omega) (fun k' h3 R3 v => ?_) (fun _ _ _ _ w => w.elim))
      obtain ⟨k1, u1, C, rfl⟩ := v
      refine wGr R3 W rfl (cPf R3 D rfl fun h4 R4 => ⟨by omega, _, R4, ?_⟩)
      rw [eq]
      refine ⟨rfl, rfl, k1, u1, A, cSf c 7 x, C, wEx_id D W, ?_, rfl⟩
      obtain ⟨m, m1, m5, rfl⟩ := zbt_nI (a := 1) (n := 5) (by omega) (by omega) hz
      exact X.hdr (f := zuf c.1 7 (nI m)) (r' := zuf s.2.1 3 (nI m)) ⟨g0, g4, ⟨f5, f6, rfl, f8, f9, f10, f11, f12⟩, g2, g5, ⟨m, rfl, m1, m5⟩, grest⟩ (fun i w _ => rc_hd _ 3 _ i w (by omega)) rfl rfl rfl rfl
    · have eq : mTe s 3 x 1 5 = (false, mRef (zMf s 4 (s.2.1 3)) true 4 x) := by
        rw [mTe, hz, if_neg (by decide), if_neg (by omega)]
        exact if_pos v.1.symm
      rw [eq]; exact ⟨rfl, v.2⟩
  · rw [mTe, v.1]; exact ⟨rfl, v.2⟩
theorem tX1_spans (ht : l.stackTraces = false) (hS : tS G) (D : cD G A (cN c)) (W : wD G B A (cN c)) (s : zMS) (X : cQ b E T c s.2.1) (hl : u.2.1.length ≤ 8) (x : Int32) (hd : 11 ≤ d) : tC l G d MX1_spans [.ref B.1, .int x] (wK G k B A.1 A c u) 226 (wOp G k B A c u b E T (mTe s 4 x 2 8)) := by
  intro h R
  have l3 : rOn s.2.1 ≤ 40 := by have := zcnt_le (rOnb s.2.1) (rN s.2.1); have := X.ok.2; simp only [rOn]; omega
  obtain ⟨g0, g4, ⟨f5, f6, f7, f8, f9, f10, f11, f12⟩, g2, g5, g3, grest⟩ := X.1
  refine zCt.of kX1_spans ht (by simp [Value.category]) (Nat.le_of_ble_eq_true rfl) ?_
  refine b_X1_spans_0 _ _ (wOc R W (tCall.V R (tX1_inRange ht D W x 2 8 (d := d - 1) (by omega)) (by omega) (by omega) (fun k' h1 R1 v => ?_) (fun e k' h1 R1 v => ⟨by omega, _, R1, ?_⟩)))
  · obtain ⟨hz, rfl⟩ := v
    refine wGr R1 W rfl (cOo R1 (tC.i R1 (tX2_onBridge ht D X (d := d - 1)) (by omega) (by omega) fun h2 R2 => ?_))
    rw [← nI_0, nI_leI (by omega) (by omega)]
    refine ⟨fun z => ?_, fun z => ?_⟩
    · have on0 : rOn s.2.1 = 0 := by omega
      rw [nI_0]
      refine wOc R2 W (tCall.V R2 (tX1_refuse ht D W 0 5 (nI (rOn s.2.1)) (d := d - 1) (by omega)) (by omega) (by omega) (fun k' h3 R3 v => ?_) (fun e k' h3 R3 v => absurd rfl v.1))
      obtain ⟨-, rfl⟩ := v
      refine wGr R3 W rfl (cGi R3 (j := 5) (x := s.2.1 4) (by show Value.int (c.1 5) = _; rw [f5]) (wOc R3 W (tCall.V R3 (tX1_mustBeOther ht D W x (s.2.1 4) (d := d - 1) (by omega)) (by omega) (by omega) (fun k' h2 R2 v => ?_) (fun e k' h2 R2 v => ⟨by omega, _, R2, ?_⟩))))
      · obtain ⟨hne, rfl⟩ := v
        have eq : mTe s 4 x 2 8 = (true, zMa (zMf s 4 (s.2.1 4)) 4 x) := by
          rw [mTe, hz, if_neg (by decide), if_neg (by omega)]
          exact if_neg fun e => hne e.symm
        refine wOc R2 W (tCall.V R2 (tX1_change ht hS D W X hl (d := d - 1) (by omega)) (by omega) (by omega) (fun k' h3 R3 v => ?_) (fun _ _ _ _ w => w.elim))
        obtain ⟨k1, u1, C, rfl⟩ := v
        refine wGr R3 W rfl (cPf R3 D rfl fun h4 R4 => ⟨by omega, _, R4, ?_⟩)
        rw [eq]
        refine ⟨rfl, rfl, k1, u1, A, cSf c 5 x, C, wEx_id D W, ?_, rfl⟩
        obtain ⟨m, m1, m5, rfl⟩ := zbt_nI (a := 2) (n := 8) (by omega) (by omega) hz
        exact X.toSpans on0 m1 m5
      · have eq : mTe s 4 x 2 8 = (false, mRef (zMf s 4 (s.2.1 4)) true 4 x) := by
          rw [mTe, hz, if_neg (by decide), if_neg (by omega)]
          exact if_pos v.1.symm
        rw [eq]; exact ⟨rfl, v.2⟩
    · have eq : mTe s 4 x 2 8 = (false, mRef s true 5 (nI (rOn s.2.1))) := by
        rw [mTe, hz, if_neg (by decide), if_pos (by omega)]
      refine wOc R2 W (tCall.V R2 (tX1_refuse ht D W 1 5 (nI (rOn s.2.1)) (d := d - 1) (by omega)) (by omega) (by omega) (fun k' h3 R3 v => absurd v.1 (by decide)) (fun e k' h3 R3 v => ⟨by omega, _, R3, ?_⟩))
      rw [eq]; exact ⟨rfl, v.2⟩
  · rw [mTe, v.1]; exact ⟨rfl, v.2⟩
theorem tX1_tick (ht : l.stackTraces = false) (hS : tS G) (D : cD G A (cN c)) (W : wD G B A (cN c)) (s : zMS) (X : cQ b E T c s.2.1) (hl : u.2.1.length ≤ 8) (x : Int32) (g f : Nat) (hg : 8 ≤ g) (hf : 8 ≤ f) (hb : b + 320 ≤ 2 ^ 20) (hE : E + 40 ≤ 2 ^ 20) (hT : T + 20 ≤ 2 ^ 20) (hd : 12 ≤ d) : tC l G d MX1_tick [.ref B.1, .int x] (wK G k B A.1 A c u) 702 (wOp G k B A c u (b + 320) (E + 40) (T + 20) (mTi g f s x)) := by
  intro h R
  refine zCt.of kX1_tick ht (by simp [Value.category]) (Nat.le_of_ble_eq_true rfl) ?_
  refine b_X1_tick_0 _ _ (wOc R W (tCall.V R (tX1_inRange ht D W x 1 20 (d := d - 1) (by omega)) (by omega) (by omega) (fun k' h1 R1 v => ?_) (fun e k' h1 R1 v => ⟨by omega, _, R1, ?_⟩)))
  · obtain ⟨hz, rfl⟩ := v
    have eq : mTi g f s x = (true, mTl g f x.toNatClampNeg (zMf s 4 0)) := by rw [mTi, hz, if_pos rfl]
    obtain ⟨m, m1, m20, rfl⟩ := zbt_nI (a := 1) (n := 20) (by omega) (by omega) hz
    rw [nI_clamp (by omega)] at eq
    refine wOc R1 W (tCall.V R1 (tX1_change ht hS D W X hl (d := d - 1) (by omega)) (by omega) (by omega) (fun k' h3 R3 v => ?_) (fun _ _ _ _ w => w.elim))
    obtain ⟨k1, u1, C, rfl⟩ := v
    have loop : ∀ (j i : Nat) (s1 : zMS) (c1 : cS) (h : zH), i + j = m → cQ (b + 16 * i) (E + 2 * i) (T + i) c1 s1.2.1 → cN c1 = cN c → tR G (wK G k1 B A.1 A c1 u1) h → mTl g f m (zMf s 4 0) = mTl g f j s1 → zV l G d 702 MX1_tick (fun r_1 h' => ∃ k', tR G k' h' ∧ wOp G k B A c u (b + 320) (E + 40) (T + 20) (mTi g f s (nI m)) r_1 k') 16 [some (.ref B.1), some (.int (nI m)), some (.int (s1.1 4)), some (.int (nI i))] [] h (222 + 24 * i) := by
      intro j
      induction j with
      | zero =>
        intro i s1 c1 h hi X1 n1 R e1
        refine b_X1_tick_16 _ _ _ _ ?_
        rw [nI_leI (by omega) (by omega)]
        refine ⟨fun _ => ⟨by omega, _, R, ?_⟩, fun z => absurd (by omega) z⟩
        rw [eq]
        refine ⟨rfl, ?_, k1, u1, A, c1, C, by rw [n1]; exact wEx_id D W, ?_, rfl⟩
        · rw [e1]; rfl
        · rw [e1]; exact X1.mono (by omega) (by omega) (by omega) (by omega) (by omega) (by omega)
      | succ j ih =>
        intro i s1 c1 h hi X1 n1 R e1
        have D1 : cD G A (cN c1) := by rw [n1]; exact D
        have W1 : wD G B A (cN c1) := by rw [n1]; exact W
        refine b_X1_tick_16 _ _ _ _ ?_
        rw [nI_leI (by omega) (by omega)]
        refine ⟨fun z => absurd z (by omega), fun _ => wGr R W1 rfl (cOo R (tCall.I R (tX2_tick ht hS D1 s1 X1 g f hg hf (by omega) (by omega) (by omega) (d := d - 1) (by omega)) (by omega) (by omega) (fun y k' h3 R3 v => ?_) (fun E k' h' _ w => w.elim)))⟩
        obtain ⟨rfl, c2, X2, n2, rfl⟩ := v
        rw [nI_1]
        exact ih (i + 1) (zMf (mTk g f s1) 4 (s1.1 4 + nI (nAg s1))) c2 h3 (by omega) X2 (by rw [n2, n1]) R3 e1
    exact loop m 0 (zMf s 4 0) c h3 (by omega) X rfl R3 rfl
  · rw [mTi, v.1]; exact ⟨rfl, v.2⟩
theorem tX1_yieldBy (ht : l.stackTraces = false) (hS : tS G) (D : cD G A (cN c)) (W : wD G B A (cN c)) (s : zMS) (X : cQ b E T c s.2.1) (hl : u.2.1.length ≤ 8) (x : Int32) (g f : Nat) (hg : 8 ≤ g) (hf : 8 ≤ f) (hd : 11 ≤ d) : tC l G d MX1_yieldBy [.ref B.1, .int x] (wK G k B A.1 A c u) 226 (wOp G k B A c u b E T (mYi g f s x)) := by
  intro h R
  have n40 := X.n40
  refine zCt.of kX1_yieldBy ht (by simp [Value.category]) (Nat.le_of_ble_eq_true rfl) ?_
  refine b_X1_yieldBy_0 _ _ (wOc R W (tCall.R R (tX1_mustBeThere ht D W X x (d := d - 1) (by omega)) (by omega) (by omega) (fun a k' h1 R1 v => ?_) (fun e k' h1 R1 v => ⟨by omega, _, R1, ?_⟩)))
  · obtain ⟨⟨i, hi, rfl, rfl, hw, hg2⟩, rfl⟩ := v
    have z4 : zFd (cOc (cG c i)) 4 = .int (rc s.2.1 i 2) := by show Value.int (cG c i 4) = _; rw [(X.ca hi).2.2.2.2.1]
    refine ccGi R1 D hi z4 ⟨fun hon => wOc R1 W (tC.i R1 (tX1_placeOf ht hS D W X hi (d := d - 1) (by omega)) (by omega) (by omega) fun h2 R2 => ?_), fun hon => wOc R1 W (tC.i R1 (tX1_placeOf ht hS D W X hi (d := d - 1) (by omega)) (by omega) (by omega) fun h2 R2 => ?_)⟩
    · have eq : mYi g f s (nI i) = (true, mMe g f (zMf (mTr g (nI i) s) 4 (nI (mTrn g (nI i) s)))) := by
        rw [mYi, if_neg (by rw [hg2]; decide)]
        simp only
        rw [nI_clamp (by omega), if_pos hon]
      refine wOc R2 W (tCall.V R2 (tX1_refuse ht D W 0 8 _ (d := d - 1) (by omega)) (by omega) (by omega) (fun k' h3 R3 v => ?_) (fun e k' h3 R3 v => absurd rfl v.1))
      obtain ⟨-, rfl⟩ := v
      refine wOc R3 W (tCall.V R3 (tX1_change ht hS D W X hl (d := d - 1) (by omega)) (by omega) (by omega) (fun k' h3 R3 v => ?_) (fun _ _ _ _ w => w.elim))
      obtain ⟨k1, u1, C, rfl⟩ := v
      obtain ⟨t1, t2, t3, t4, t5⟩ := X.tr s rfl hi hon hg
      refine wGr R3 W rfl (cOo R3 (tCall.I R3 (tX2_yields ht D X hi hon hg (d := d - 1) (by omega)) (by omega) (by omega) (fun y k' h4 R4 v => ?_) (fun _ _ _ _ w => w.elim)))
      obtain ⟨rfl, c1, X1, n1, b1, rfl⟩ := v
      have D1 : cD G A (cN c1) := by rw [n1]; exact D
      have W1 : wD G B A (cN c1) := by rw [n1]; exact W
      have X1' : cQ b E T c1 (zMf (mTr g (nI i) s) 4 (nI (mTrn g (nI i) s))).2.1 := by
        show cQ b E T c1 (mTr g (nI i) s).2.1
        rw [t1]; exact X1
      have sp1 := X1'.sp
      have nz : rNz (zMf (mTr g (nI i) s) 4 (nI (mTrn g (nI i) s))).2.1 ≤ f := by
        have := zcnt_le (fun q => rHd (zMf (mTr g (nI i) s) 4 (nI (mTrn g (nI i) s))).2.1 (nI q) 1 && rHd (zMf (mTr g (nI i) s) 4 (nI (mTrn g (nI i) s))).2.1 (nI (q + 1)) 0) (rSp (zMf (mTr g (nI i) s) 4 (nI (mTrn g (nI i) s))).2.1 - 1)
        unfold rNz; omega
      refine wGr R4 W1 rfl (cOo R4 (tCall.V R4 (tX2_yieldNoses ht D1 _ X1' g f hg nz (d := d - 1) (by omega)) (by omega) (by omega) (fun k' h5 R5 v => ?_) (fun _ _ _ _ w => w.elim)))
      obtain ⟨c2, X2, n2, b2, rfl⟩ := v
      refine ⟨by omega, _, R5, ?_⟩
      rw [eq]
      refine ⟨rfl, ?_, k1, u1, A, c2, C, by rw [n2, n1]; exact wEx_id D W, X2, rfl⟩
      obtain ⟨m1, m2, m3, -⟩ := cQ.meOk g hg f c1 _ X1' nz
      rw [m2, ← t2]; rfl
    · have eq : mYi g f s (nI i) = (false, mRef s true 8 (nI (rPl s.2.1 i))) := by
        rw [mYi, if_neg (by rw [hg2]; decide)]
        simp only
        rw [nI_clamp (by omega), if_neg hon]
      have hp : rPo s.2.1 i = nI (rPl s.2.1 i) := by
        rw [rPo, if_pos]
        rcases (X.va hi).2.1 with w | w | w | w
        · exact w
        · exact absurd w hon
        · rw [w] at hw; exact absurd hw (by decide)
        · rw [w] at hw; exact absurd hw (by decide)
      rw [hp]
      refine wOc R2 W (tCall.V R2 (tX1_refuse ht D W 1 8 _ (d := d - 1) (by omega)) (by omega) (by omega) (fun k' h3 R3 v => absurd v.1 (by decide)) (fun e k' h3 R3 v => ⟨by omega, _, R3, ?_⟩))
      rw [eq]; exact ⟨rfl, v.2⟩
  · rw [mYi, if_pos v.1]; exact ⟨rfl, v.2⟩
end W6
