/-! the changes: leave, turnRow, cart -/
section W7
variable {l : Launch} {G : zG} {k k1 : t_H} {B : wB} {A A2 : cA} {c c2 : cS} {u u1 : wU} {h : zH} {d mc n n2 b E T st : Nat} {r : Nat → Int32} {RX : String → zH → Nat → Prop}
theorem cSl_L (c : cS) (j : Nat) (m : Int32) (xs : List Nat) : (cSl c j m xs).2.2.1 j = (m, xs) := if_pos rfl
theorem cSl_cSl (c : cS) (j : Nat) (m m2 : Int32) (xs ys : List Nat) : cSl (cSl c j m xs) j m2 ys = cSl c j m2 ys := by
  simp only [cSl]
  congr 3
  funext i
  by_cases h : i = j
  · rw [if_pos h, if_pos h]
  · rw [if_neg h, if_neg h, if_neg h]
theorem cSetL (ht : l.stackTraces = false) (hS : tS G) (R : tR G (cK G k A c) h) (D : cD G A (cN c)) {j i v : Nat} (h1 : 1 ≤ j) (h3 : j ≤ 3) {x : Int32} (hx : x = nI i) (hi : i < (cL c j).length) (hv : v < 128) {p : Nat → zH → Nat → Prop} (hd : 3 ≤ d) (hm : n ≤ mc) (q : ∀ y h', tR G (cK G k A (cSl c j (c.2.2.1 j).1 ((cL c j).set i v))) h' → p y h' n) : zOc h (A.2.1 j) 11 (zCall l G d mc MJ2_set [.ref (A.2.1 j), .int x, .ref (tbx G v)] h n (zRR RX p)) := by
  subst hx
  refine tOcZ R (cK_l D h1 h3) (tC.r R (tJ2_set ht (cK_l D h1 h3) (j := i) (by rw [List.length_map]; exact hi) ⟨_, _, R.bx hS hv⟩ (d := d - 1) (by omega)) (by omega) hm fun h' R' => q _ h' ?_)
  rw [← List.map_set, cW_l D j h1 h3] at R'
  exact R'
theorem nI_hv : ∀ n, n < 41 → nI n / 2 = nI (n / 2) := by decide
theorem tX1_leave (ht : l.stackTraces = false) (hS : tS G) (D : cD G A (cN c)) (W : wD G B A (cN c)) (s : zMS) (X : cQ b E T c s.2.1) (hl : u.2.1.length ≤ 8) (x : Int32) (hd : 11 ≤ d) : tC l G d MX1_leave [.ref B.1, .int x] (wK G k B A.1 A c u) 224 (wOp G k B A c u b E T (mLe s x)) := by
  intro h R
  have n40 := X.n40
  refine zCt.of kX1_leave ht (by simp [Value.category]) (Nat.le_of_ble_eq_true rfl) ?_
  refine b_X1_leave_0 _ _ (wOc R W (tCall.R R (tX1_mustBeThere ht D W X x (d := d - 1) (by omega)) (by omega) (by omega) (fun a k' h1 R1 v => ?_) (fun e k' h1 R1 v => ⟨by omega, _, R1, ?_⟩)))
  · obtain ⟨⟨i, hi, rfl, rfl, hw, hg2⟩, rfl⟩ := v
    have z4 : zFd (cOc (cG c i)) 4 = .int (rc s.2.1 i 2) := by show Value.int (cG c i 4) = _; rw [(X.ca hi).2.2.2.2.1]
    have z5 : zFd (cOc (cG c i)) 5 = .int (rc s.2.1 i 3) := by show Value.int (cG c i 5) = _; rw [(X.ca hi).2.2.2.2.2.1]
    obtain ⟨z, hz, hside⟩ := X.side hi
    refine ccGi R1 D hi z4 ⟨fun hon => ccGi R1 D hi z5 (wOc R1 W (tCall.V R1 (tX1_refuse ht D W 0 6 _ (d := d - 1) (by omega)) (by omega) (by omega) (fun k' h3 R3 v => ?_) (fun e k' h3 R3 v => absurd rfl v.1))), fun hon => ccGi R1 D hi z5 (wOc R1 W (tCall.V R1 (tX1_refuse ht D W 1 6 _ (d := d - 1) (by omega)) (by omega) (by omega) (fun k' h3 R3 v => absurd v.1 (by decide)) (fun e k' h3 R3 v => ⟨by omega, _, R3, ?_⟩)))⟩
    · obtain ⟨-, rfl⟩ := v
      have hw0 : rc s.2.1 i 2 = 0 := by
        rcases (X.va hi).2.1 with w | w | w | w
        · exact w
        · exact absurd w hon
        · rw [w] at hw; exact absurd hw (by decide)
        · rw [w] at hw; exact absurd hw (by decide)
      obtain ⟨q, hq, hqi, -, hqz⟩ := X.idx hi hz hw0 hside
      refine wOc R3 W (tCall.V R3 (tX1_change ht hS D W X hl (d := d - 1) (by omega)) (by omega) (by omega) (fun k' h3 R3 v => ?_) (fun _ _ _ _ w => w.elim))
      obtain ⟨k1, u1, C, rfl⟩ := v
      refine wGr R3 W rfl (ccGi R3 D hi (j := 1) (x := nI z) (by show Value.int (cG c i 1) = _; rw [(X.ca hi).2.1, hside]) (cOo R3 (tC.r R3 (tX2_row ht hz (d := d - 1)) (by omega) (by omega) fun h4 R4 => cBox ht hS R4 rfl (by omega) (by omega) (by omega) fun h5 R5 => tOcZ R5 (cK_l D (j := 1 + z) (by omega) (by omega)) (tC.i R5 (tJ2_indexOf ht (cK_l D (j := 1 + z) (by omega) (by omega)) (v := nI i) (g := fun p => nI ((cL c (1 + z)).getD p 0)) (R5.bx hS (by omega)) (fun p hp => ?_) (d := d - 1) (by omega)) (by omega) (by omega) fun h6 R6 => ?_))))
      · rw [List.length_map] at hp
        rw [map_getD _ hp]
        exact R5.bx hS (by have := X.el hz hp; omega)
      · rw [List.length_map, hqz]
        have X' := X.leave hz hi hw0 hside hq hqi
        refine cRemL ht R6 D (i := q) (by omega) (by omega) rfl hq (by omega) (by omega) fun h7 R7 => wGr R7 W rfl (cGi R7 (j := 10) (x := c.1 10) rfl (ccOc R7 D hi (tC.v R7 (tX5_goes (c := cSl c (1 + z) ((c.2.2.1 (1 + z)).1 + 1) ((cL c (1 + z)).eraseIdx q)) ht D hi (c.1 10) (d := d - 1)) (by omega) (by omega) fun h8 R8 => ccPf R8 D hi (fun g => rfl) fun h9 R9 => cSizeL ht R9 D (j := 1 + z) (by omega) (by omega) (by omega) (by omega) fun ha Ra => ⟨by omega, _, Ra, ?_⟩)))
        have eq : mLe s (nI i) = (true, zMf (zMa (zMa s (11 + 10 * i + 2) 3) 8 ((zMa s (11 + 10 * i + 2) 3).2.1 8 + 1)) 4 (nI (zcnt (fun i' => rwa (rGo1 s.2.1 i) i' (rc (rGo1 s.2.1 i) i 0)) (rN (rGo1 s.2.1 i))))) := by
          rw [mLe, if_neg (by rw [hg2]; decide)]
          simp only
          rw [nI_clamp (by omega), if_neg hon]
          rfl
        rw [eq]
        refine ⟨rfl, ?_, k1, u1, A, cLv c i z q, C, wEx_id D W, X', rfl⟩
        have e0 : rc (rGo1 s.2.1 i) i 0 = nI z := by
          rw [rGo1, rc_hd _ _ _ _ _ (by omega), rc_w _ _ _ _ _ (by omega) (by omega) (by omega)]; exact hside
        have e1 := X'.rowMany hz
        show _ = nI (zcnt (fun i' => rwa (rGo1 s.2.1 i) i' (rc (rGo1 s.2.1 i) i 0)) (rN (rGo1 s.2.1 i)))
        rw [e0, X'.nn, e1]
        rfl
    · have eq : mLe s (nI i) = (false, mRef s true 6 (rc s.2.1 i 3)) := by
        rw [mLe, if_neg (by rw [hg2]; decide)]
        simp only
        rw [nI_clamp (by omega), if_pos (Classical.not_not.mp hon)]
      rw [eq]; exact ⟨rfl, v.2⟩
  · rw [mLe, if_pos v.1]; exact ⟨rfl, v.2⟩
theorem tX1_turnRow (ht : l.stackTraces = false) (hS : tS G) (D : cD G A (cN c)) (W : wD G B A (cN c)) (s : zMS) (X : cQ b E T c s.2.1) (hl : u.2.1.length ≤ 8) (x : Int32) (hd : 11 ≤ d) : tC l G d MX1_turnRow [.ref B.1, .int x] (wK G k B A.1 A c u) 224 (wOp G k B A c u b E T (mTw s x)) := by
  intro h R
  have n40 := X.n40
  refine zCt.of kX1_turnRow ht (by simp [Value.category]) (Nat.le_of_ble_eq_true rfl) ?_
  refine b_X1_turnRow_0 _ _ (wOc R W (tCall.V R (tX1_inRange ht D W x 0 1 (d := d - 1) (by omega)) (by omega) (by omega) (fun k' h1 R1 v => ?_) (fun e k' h1 R1 v => ⟨by omega, _, R1, ?_⟩)))
  · obtain ⟨hzz, rfl⟩ := v
    obtain ⟨z, hz, rfl⟩ := zbt01 hzz
    have hll := X.len hz
    have e1 : zcnt (fun k => rwa s.2.1 k (nI z)) (rN s.2.1) = (cL c (1 + z)).length := by rw [X.nn]; exact X.rowMany hz
    refine wGr R1 W rfl (cOo R1 (tC.r R1 (tX2_row ht hz (d := d - 1)) (by omega) (by omega) fun h2 R2 => cSizeL ht R2 D (by omega) (by omega) (by omega) (by omega) fun h3 R3 => ?_))
    show (nI 2 ≤ nI _ → _) ∧ (¬ nI 2 ≤ nI _ → _)
    rw [nI_leI (by omega) (by omega)]
    refine ⟨fun h2l => cSizeL ht R3 D (by omega) (by omega) (by omega) (by omega) fun h4 R4 => wOc R4 W (tCall.V R4 (tX1_refuse ht D W 0 7 _ (d := d - 1) (by omega)) (by omega) (by omega) (fun k' h5 R5 v => ?_) (fun e k' h3 R3 v => absurd rfl v.1)), fun h2l => cSizeL ht R3 D (by omega) (by omega) (by omega) (by omega) fun h4 R4 => wOc R4 W (tCall.V R4 (tX1_refuse ht D W 1 7 _ (d := d - 1) (by omega)) (by omega) (by omega) (fun k' h3 R3 v => absurd v.1 (by decide)) (fun e k' h3 R3 v => ⟨by omega, _, R3, ?_⟩))⟩
    · obtain ⟨-, rfl⟩ := v
      have eq : mTw s (nI z) = (true, zMf (mTR (nI z) s (rN s.2.1)) 4 (rRa (mTR (nI z) s (rN s.2.1)).2.1 (nI z) 0)) := by
        rw [mTw, hzz, if_neg (by decide)]
        simp only
        rw [e1, if_neg (by omega)]
      refine wOc R5 W (tCall.V R5 (tX1_change ht hS D W X hl (d := d - 1) (by omega)) (by omega) (by omega) (fun k' h6 R6 v => ?_) (fun _ _ _ _ w => w.elim))
      obtain ⟨k1, u1, C, rfl⟩ := v
      have X' := X.turnR s hz (c.2.2.1 (1 + z)).1
      have R7 : tR G (wK G k1 B A.1 A (cSl c (1 + z) (c.2.2.1 (1 + z)).1 (wSw (cL c (1 + z)) 0)) u1) h6 := by
        rw [wSw_0]
        have : cSl c (1 + z) (c.2.2.1 (1 + z)).1 (cL c (1 + z)) = c := by
          obtain ⟨c1, c2, c3, c4⟩ := c
          simp only [cSl]
          congr 3
          funext i
          by_cases w : i = 1 + z
          · rw [if_pos w, w]
          · rw [if_neg w]
        rw [this]; exact R6
      refine zInd (N := (cL c (1 + z)).length / 2) (P := fun q => ∀ h, tR G (wK G k1 B A.1 A (cSl c (1 + z) (c.2.2.1 (1 + z)).1 (wSw (cL c (1 + z)) q)) u1) h → zV l G d 224 MX1_turnRow _ 45 [some (.ref B.1), some (.int (nI z)), some (.ref (A.2.1 (1 + z))), some (.int (nI q)), none, none] [] h (0 + 2 + 2 + 220)) ?_ 0 (Nat.zero_le _) h6 R7
      intro q hq ih h R
      have D' : cD G A (cN (cSl c (1 + z) (c.2.2.1 (1 + z)).1 (wSw (cL c (1 + z)) q))) := D
      have eL : ∀ xs, cL (cSl c (1 + z) (c.2.2.1 (1 + z)).1 xs) (1 + z) = xs := fun xs => by
        show ((cSl c (1 + z) (c.2.2.1 (1 + z)).1 xs).2.2.1 (1 + z)).2 = xs
        rw [cSl_L]
      have lw := wSw_len (cL c (1 + z)) q
      have hel : ∀ j, j < (cL c (1 + z)).length → (wSw (cL c (1 + z)) q).getD j 0 < 40 := fun j hj => by
        rw [wSw_at _ _ hj]
        split
        · have := X.el hz (q := (cL c (1 + z)).length - 1 - j) (by omega); omega
        · have := X.el hz hj; omega
      refine b_X1_turnRow_45 _ _ _ _ (cSizeL ht R D' (by omega) (by omega) (by omega) (by omega) fun h2 R2 => ?_)
      rw [eL, lw, nI_hv _ (by omega), nI_leI (by omega) (by omega)]
      refine ⟨fun w => cGetL ht R2 D' (i := 0) (by omega) (by omega) rfl (by rw [eL, lw]; omega) (by omega) (by omega) fun h3 R3 => ?_, fun w => ?_⟩
      · rw [eL]
        refine cUnb ht hS R3 (by have := hel 0 (by omega); omega) (by omega) (by omega) fun h4 R4 => ⟨by omega, _, R4, ?_⟩
        obtain rfl : q = (cL c (1 + z)).length / 2 := by omega
        rw [eq]
        rw [wSw_end] at R4 ⊢
        refine ⟨rfl, ?_, k1, u1, A, cSl c (1 + z) (c.2.2.1 (1 + z)).1 (cL c (1 + z)).reverse, C, wEx_id D W, X', rfl⟩
        show _ = rRa (mTR (nI z) s (rN s.2.1)).2.1 (nI z) 0
        rcases X'.rowAt hz 0 with ⟨-, e2⟩ | ⟨p, p1, p2, p3⟩
        · exact absurd nI_0.symm (e2 0 (by rw [eL, List.length_reverse]; omega))
        · rw [eL, List.length_reverse] at p1
          rw [p3, eL]
          have : (0 : Nat) = p := nI_inj (by omega) (by omega) (nI_0.trans p2)
          rw [this]
      · refine cSizeL ht R2 D' (by omega) (by omega) (by omega) (by omega) fun h3 R3 => cGetL ht R3 D' (i := q) (by omega) (by omega) rfl (by rw [eL, lw]; omega) (by omega) (by omega) fun h4 R4 => ?_
        rw [eL, lw]
        have e40 := hel q (by omega)
        have e41 := hel ((cL c (1 + z)).length - 1 - q) (by omega)
        have eidx : nI (cL c (1 + z)).length - 1 - nI q = nI ((cL c (1 + z)).length - 1 - q) := by
          have : nI (cL c (1 + z)).length - nI 1 = nI ((cL c (1 + z)).length - 1) := pk_sub (by omega)
          show nI (cL c (1 + z)).length - nI 1 - nI q = _
          rw [this, pk_sub (by omega)]
        rw [eidx]
        refine cUnb ht hS R4 (by omega) (by omega) (by omega) fun h5 R5 => cGetL ht R5 D' (i := (cL c (1 + z)).length - 1 - q) (by omega) (by omega) rfl (by rw [eL, lw]; omega) (by omega) (by omega) fun h6 R6 => ?_
        rw [eL]
        refine tOc R6 (R6.bx hS (by omega)) (cSetL ht hS R6 D' (i := q) (by omega) (by omega) rfl (by rw [eL, lw]; omega) (by omega) (by omega) (by omega) fun y h7 R7 => cBox ht hS R7 rfl (by omega) (by omega) (by omega) fun h8 R8 => ?_)
        rw [cSl_L, eL, cSl_cSl] at R8
        refine cSetL ht hS R8 (c := cSl c (1 + z) (c.2.2.1 (1 + z)).1 _) D (i := (cL c (1 + z)).length - 1 - q) (by omega) (by omega) rfl (by rw [eL, List.length_set, lw]; omega) (by omega) (by omega) (by omega) fun y h9 R9 => ?_
        rw [cSl_L, eL, cSl_cSl, wSw_step _ (by omega)] at R9
        rw [nI_1]
        exact ih (by omega) h9 R9
    · have eq : mTw s (nI z) = (false, mRef s true 7 (nI (cL c (1 + z)).length)) := by
        rw [mTw, hzz, if_neg (by decide)]
        simp only
        rw [e1, if_pos (by omega)]
      rw [eq]; exact ⟨rfl, v.2⟩
  · rw [mTw, v.1]; exact ⟨rfl, v.2⟩
theorem tX1_cart (ht : l.stackTraces = false) (hS : tS G) (D : cD G A (cN c)) (W : wD G B A (cN c)) (s : zMS) (X : cQ b E T c s.2.1) (hl : u.2.1.length ≤ 8) (x y : Int32) (hb : b + 1 ≤ 2 ^ 20) (hd : 11 ≤ d) : tC l G d MX1_cart [.ref B.1, .int x, .int y] (wK G k B A.1 A c u) 229 (wOp G k B A c u (b + 1) E T (mCo s x y)) := by
  intro h R
  have n40 := X.n40
  have nn := X.nn
  refine zCt.of kX1_cart ht (by simp [Value.category]) (Nat.le_of_ble_eq_true rfl) ?_
  refine b_X1_cart_0 _ _ _ (wOc R W (tCall.V R (tX1_inRange ht D W x 0 1 (d := d - 1) (by omega)) (by omega) (by omega) (fun k' h1 R1 v => ?_) (fun e k' h1 R1 v => ⟨by omega, _, R1, ?_⟩)))
  · obtain ⟨hzz, rfl⟩ := v
    refine wOc R1 W (tCall.V R1 (tX1_inRange ht D W y 1 9 (d := d - 1) (by omega)) (by omega) (by omega) (fun k' h1 R1 v => ?_) (fun e k' h1 R1 v => ⟨by omega, _, R1, ?_⟩))
    · obtain ⟨hyy, rfl⟩ := v
      refine wGr R1 W rfl (cGr R1 rfl (cSize0 ht R1 D (by omega) (by omega) fun h2 R2 => ?_))
      have e40 : (nI (cN c) = 40) = (cN c = 40) := propext (nI_eq (b := 40) (by omega) (by omega))
      rw [e40]
      refine ⟨fun ne => wOc R2 W (tCall.V R2 (tX1_refuse ht D W 0 2 40 (d := d - 1) (by omega)) (by omega) (by omega) (fun k' h5 R5 v => ?_) (fun e k' h3 R3 v => absurd rfl v.1)), fun ne => wOc R2 W (tCall.V R2 (tX1_refuse ht D W 1 2 40 (d := d - 1) (by omega)) (by omega) (by omega) (fun k' h3 R3 v => absurd v.1 (by decide)) (fun e k' h3 R3 v => ⟨by omega, _, R3, ?_⟩))⟩
      · obtain ⟨-, rfl⟩ := v
        have eq : mCo s x y = (true, mCo0 (zMa s 0 (s.2.1 0 + 1)) x y (rN s.2.1) (rKe s.2.1 x 0)) := by
          rw [mCo, hzz, hyy, if_neg (by decide), if_neg (by decide), if_neg (by rw [nn]; exact ne)]
        obtain ⟨z, hz, rfl⟩ := zbt01 hzz
        obtain ⟨m, m1, m9, rfl⟩ := zbt_nI (a := 1) (n := 9) (by omega) (by omega) hyy
        refine wOc R5 W (tCall.V R5 (tX1_change ht hS D W X hl (d := d - 1) (by omega)) (by omega) (by omega) (fun k' h6 R6 v => ?_) (fun _ _ _ _ w => w.elim))
        obtain ⟨k1, u1, C, rfl⟩ := v
        refine wGr R6 W rfl (cGr R6 rfl (cSize0 ht R6 D (by omega) (by omega) fun h7 R7 => wGr R7 W rfl (cGr R7 rfl ⟨by omega, fun a ha ba h8 e8 => ?_⟩)))
        have ka := R7.hn ha
        obtain ⟨ho, N, k0⟩ := wK_fresh D ka
        have R8 : tR G (tUp (wK G k1 B A.1 A c u1) a (tOb 2 (cOc fun _ => 0))) h8 := by rw [e8]; exact R7.new ha ba
        rw [wK_up N ho] at R8
        have ea : ∀ o, wK G (tUp k1 a o) B A.1 A c u1 a = some o := fun o => by rw [wK, cK_o ho, wC_o N, tUp_s]
        refine wGr R8 W rfl (cGi R8 (j := 10) (x := s.2.1 1) (by show Value.int (c.1 10) = _; rw [X.1.2.2.1.2.2.2.2.2.1]) (tC.v R8 (tX5_init ht (ea _) ba ⟨rfl, rfl, rfl⟩ _ _ _ _ (d := d - 1) (by omega)) (by omega) (by omega) fun h9 R9 => ?_))
        rw [wK_up N ho, tUp_up] at R9
        refine tOcZ R9 (cK_0 D) (tC.i R9 (tJ2_add ht hS (cK_0 D) (y := a) (by rw [List.length_map, List.length_range]; omega) ⟨_, _, ea _⟩ (d := d - 1) (by omega)) (by omega) (by omega) fun ha' Ra => ?_)
        rw [show tUp (cK G (wC (tUp k1 a (tOb 2 (cOc (cNew (nI (cN c)) (nI z) (nI m) (s.2.1 1))))) B A.1 u1) A c) (A.2.1 0) (tLi (c.2.2.2.1.1 + 1) ((List.range (cN c)).map A.2.2 ++ [a])) = wK G k1 B A.1 (cAp A (cN c) a) (cSn c (cNew (nI (cN c)) (nI z) (nI m) (s.2.1 1))) u1 by
          rw [← wC_up N, ← cK_up ho, cK_new D ho, wK]] at Ra
        have D2 : cD G (cAp A (cN c) a) (cN (cSn c (cNew (nI (cN c)) (nI z) (nI m) (s.2.1 1)))) := cD_ap D ho ba
        have W2 : wD G B (cAp A (cN c) a) (cN (cSn c (cNew (nI (cN c)) (nI z) (nI m) (s.2.1 1)))) := ⟨W.1, W.2.1, cOut_ap W.2.2.1 N.1.symm, cOut_ap W.2.2.2.1 N.2.1.symm, cOut_ap W.2.2.2.2.1 N.2.2.1.symm, cOut_ap W.2.2.2.2.2 N.2.2.2.symm⟩
        have hlen : (cL (cSn c (cNew (nI (cN c)) (nI z) (nI m) (s.2.1 1))) (1 + z)).length ≤ 40 := Nat.le_trans (X.len hz) n40
        refine wGr Ra W2 rfl (cOo (A := cAp A (cN c) a) Ra (tC.r Ra (tX2_row (A := cAp A (cN c) a) ht hz (d := d - 1)) (by omega) (by omega) fun hb2 Rb => cBox ht hS Rb rfl (by omega) (by omega) (by omega) fun hc Rc => cAddL ht hS Rc D2 (j := 1 + z) (by omega) (by omega) (by omega) hlen (by omega) (by omega) fun hd' Rd => ⟨by omega, _, Rd, ?_⟩))
        rw [eq]
        refine ⟨rfl, ?_, k1, u1, cAp A (cN c) a, cCm c z (cNew (nI (cN c)) (nI z) (nI m) (s.2.1 1)), C, ⟨D2, rfl, W2, fun b' hb' hn => cOut_ap hb' fun q => hn (by rw [q]; exact k0)⟩, X.come s hz m1 m9 ne hb, rfl⟩
        show nI (cN c) = nI (rN s.2.1)
        rw [nn]
      · have eq : mCo s x y = (false, mRef s true 2 40) := by
          rw [mCo, hzz, hyy, if_neg (by decide), if_neg (by decide), if_pos (by rw [nn]; exact Classical.not_not.mp ne)]
        rw [eq]; exact ⟨rfl, v.2⟩
    · have eq : mCo s x y = (false, mRef s true 1 y) := by
        rw [mCo, hzz, v.1, if_neg (by decide), if_pos (by decide)]
      rw [eq]; exact ⟨rfl, v.2⟩
  · have eq : mCo s x y = (false, mRef s true 1 x) := by
      rw [mCo, v.1, if_pos (by decide)]
    rw [eq]; exact ⟨rfl, v.2⟩
end W7
