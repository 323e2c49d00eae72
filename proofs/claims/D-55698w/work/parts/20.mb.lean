/-! the model: the changes as called -/
def mB (s : zMS) : zMS := mCp s 0 10 411
theorem mB_lo (s : zMS) (i : Nat) (hi : i < 4110) : (mB s).2.1 i = s.2.1 i := if_neg (by omega)
/-- how a change ends -/
def mFin (q : Bool × zMS) : Int32 × zMS := (if q.1 then q.2.1 4 else 0, mEnd q.2 q.1 1)
section ZMB
variable {l : Launch} {G : zG} {h : zH} {A : zMA} {s : zMS} {d : Nat}
theorem s_cart (ht : l.stackTraces = false) (D : zMD G A) (hd : 4 ≤ d) (hN : rOk s.2.1) (x y : Int32) (n : Nat) (hn : (mCo (mB s) x y).2.1 2 = nI n) (hn8 : n ≤ 8) : zCt l G d MX3_cart [.ref A.1, .int x, .int y] (zMh h A s) 0 (zIr (mFin (mCo (mB s) x y)).1 (zMh h A (mFin (mCo (mB s) x y)).2)) := by
  refine zCt.of kX3_cart ht (by simp [Value.category]) (Nat.le_of_ble_eq_true rfl) ?_
  refine b_X3_cart_0 _ _ _ (zMcV (s_begins ht D (by omega) (d := d - 1)) (by omega) (Nat.le_refl _) ?_)
  refine zMc (s_comes ht D (rOk_eq (mB_lo s 0 (by omega)) hN) (by omega) x y (d := d - 1)) (by omega) (Nat.le_refl _) ?_
  exact zMc (s_ends ht D (by omega) _ _ n hn hn8 (d := d - 1)) (by omega) (Nat.le_refl _) ⟨Nat.le_refl _, rfl, rfl⟩
theorem s_tick (ht : l.stackTraces = false) (D : zMD G A) (hd : 8 ≤ d) (g f : Nat) (x : Int32) (ho : zbt x 1 20 = true → mTlOk g f x.toNatClampNeg (zMf (mB s) 4 0)) (n : Nat) (hn : (mTi g f (mB s) x).2.1 2 = nI n) (hn8 : n ≤ 8) : zCt l G d MX3_tick [.ref A.1, .int x] (zMh h A s) 0 (zIr (mFin (mTi g f (mB s) x)).1 (zMh h A (mFin (mTi g f (mB s) x)).2)) := by
  refine zCt.of kX3_tick ht (by simp [Value.category]) (Nat.le_of_ble_eq_true rfl) ?_
  refine b_X3_tick_0 _ _ (zMcV (s_begins ht D (by omega) (d := d - 1)) (by omega) (Nat.le_refl _) ?_)
  refine zMc (s_ticks ht D (by omega) g f x ho (d := d - 1)) (by omega) (Nat.le_refl _) ?_
  exact zMc (s_ends ht D (by omega) _ _ n hn hn8 (d := d - 1)) (by omega) (Nat.le_refl _) ⟨Nat.le_refl _, rfl, rfl⟩
theorem s_law (ht : l.stackTraces = false) (D : zMD G A) (hd : 4 ≤ d) (hN : rOk s.2.1) (x : Int32) (n : Nat) (hn : (mTe (mB s) 2 x 0 3).2.1 2 = nI n) (hn8 : n ≤ 8) : zCt l G d MX3_law [.ref A.1, .int x] (zMh h A s) 0 (zIr (mFin (mTe (mB s) 2 x 0 3)).1 (zMh h A (mFin (mTe (mB s) 2 x 0 3)).2)) := by
  refine zCt.of kX3_law ht (by simp [Value.category]) (Nat.le_of_ble_eq_true rfl) ?_
  refine b_X3_law_0 _ _ (zMcV (s_begins ht D (by omega) (d := d - 1)) (by omega) (Nat.le_refl _) ?_)
  refine zMc (s_tells ht D (rOk_eq (mB_lo s 0 (by omega)) hN) (by omega) 2 (by omega) x _ _ (d := d - 1)) (by omega) (Nat.le_refl _) ?_
  exact zMc (s_ends ht D (by omega) _ _ n hn hn8 (d := d - 1)) (by omega) (Nat.le_refl _) ⟨Nat.le_refl _, rfl, rfl⟩
theorem s_share (ht : l.stackTraces = false) (D : zMD G A) (hd : 4 ≤ d) (hN : rOk s.2.1) (x : Int32) (n : Nat) (hn : (mTe (mB s) 3 x 1 5).2.1 2 = nI n) (hn8 : n ≤ 8) : zCt l G d MX3_share [.ref A.1, .int x] (zMh h A s) 0 (zIr (mFin (mTe (mB s) 3 x 1 5)).1 (zMh h A (mFin (mTe (mB s) 3 x 1 5)).2)) := by
  refine zCt.of kX3_share ht (by simp [Value.category]) (Nat.le_of_ble_eq_true rfl) ?_
  refine b_X3_share_0 _ _ (zMcV (s_begins ht D (by omega) (d := d - 1)) (by omega) (Nat.le_refl _) ?_)
  refine zMc (s_tells ht D (rOk_eq (mB_lo s 0 (by omega)) hN) (by omega) 3 (by omega) x _ _ (d := d - 1)) (by omega) (Nat.le_refl _) ?_
  exact zMc (s_ends ht D (by omega) _ _ n hn hn8 (d := d - 1)) (by omega) (Nat.le_refl _) ⟨Nat.le_refl _, rfl, rfl⟩
theorem s_spans (ht : l.stackTraces = false) (D : zMD G A) (hd : 4 ≤ d) (hN : rOk s.2.1) (x : Int32) (n : Nat) (hn : (mTe (mB s) 4 x 2 8).2.1 2 = nI n) (hn8 : n ≤ 8) : zCt l G d MX3_spans [.ref A.1, .int x] (zMh h A s) 0 (zIr (mFin (mTe (mB s) 4 x 2 8)).1 (zMh h A (mFin (mTe (mB s) 4 x 2 8)).2)) := by
  refine zCt.of kX3_spans ht (by simp [Value.category]) (Nat.le_of_ble_eq_true rfl) ?_
  refine b_X3_spans_0 _ _ (zMcV (s_begins ht D (by omega) (d := d - 1)) (by omega) (Nat.le_refl _) ?_)
  refine zMc (s_tells ht D (rOk_eq (mB_lo s 0 (by omega)) hN) (by omega) 4 (by omega) x _ _ (d := d - 1)) (by omega) (Nat.le_refl _) ?_
  exact zMc (s_ends ht D (by omega) _ _ n hn hn8 (d := d - 1)) (by omega) (Nat.le_refl _) ⟨Nat.le_refl _, rfl, rfl⟩
theorem s_leave (ht : l.stackTraces = false) (D : zMD G A) (hd : 4 ≤ d) (hN : rOk s.2.1) (x : Int32) (n : Nat) (hn : (mLe (mB s) x).2.1 2 = nI n) (hn8 : n ≤ 8) : zCt l G d MX3_leave [.ref A.1, .int x] (zMh h A s) 0 (zIr (mFin (mLe (mB s) x)).1 (zMh h A (mFin (mLe (mB s) x)).2)) := by
  refine zCt.of kX3_leave ht (by simp [Value.category]) (Nat.le_of_ble_eq_true rfl) ?_
  refine b_X3_leave_0 _ _ (zMcV (s_begins ht D (by omega) (d := d - 1)) (by omega) (Nat.le_refl _) ?_)
  refine zMc (s_leaves ht D (rOk_eq (mB_lo s 0 (by omega)) hN) (by omega) x (d := d - 1)) (by omega) (Nat.le_refl _) ?_
  exact zMc (s_ends ht D (by omega) _ _ n hn hn8 (d := d - 1)) (by omega) (Nat.le_refl _) ⟨Nat.le_refl _, rfl, rfl⟩
theorem s_turnRow (ht : l.stackTraces = false) (D : zMD G A) (hd : 5 ≤ d) (hN : rOk s.2.1) (x : Int32) (n : Nat) (hn : (mTw (mB s) x).2.1 2 = nI n) (hn8 : n ≤ 8) : zCt l G d MX3_turnRow [.ref A.1, .int x] (zMh h A s) 0 (zIr (mFin (mTw (mB s) x)).1 (zMh h A (mFin (mTw (mB s) x)).2)) := by
  refine zCt.of kX3_turnRow ht (by simp [Value.category]) (Nat.le_of_ble_eq_true rfl) ?_
  refine b_X3_turnRow_0 _ _ (zMcV (s_begins ht D (by omega) (d := d - 1)) (by omega) (Nat.le_refl _) ?_)
  refine zMc (s_turnsRow ht D (rOk_eq (mB_lo s 0 (by omega)) hN) (by omega) x (d := d - 1)) (by omega) (Nat.le_refl _) ?_
  exact zMc (s_ends ht D (by omega) _ _ n hn hn8 (d := d - 1)) (by omega) (Nat.le_refl _) ⟨Nat.le_refl _, rfl, rfl⟩
theorem s_yieldBy (ht : l.stackTraces = false) (D : zMD G A) (hd : 7 ≤ d) (hN : rOk s.2.1) (hS : rSk s.2.1) (g f : Nat) (x : Int32) (ho : mYok g f (mB s) x) (n : Nat) (hn : (mYi g f (mB s) x).2.1 2 = nI n) (hn8 : n ≤ 8) : zCt l G d MX3_yieldBy [.ref A.1, .int x] (zMh h A s) 0 (zIr (mFin (mYi g f (mB s) x)).1 (zMh h A (mFin (mYi g f (mB s) x)).2)) := by
  refine zCt.of kX3_yieldBy ht (by simp [Value.category]) (Nat.le_of_ble_eq_true rfl) ?_
  refine b_X3_yieldBy_0 _ _ (zMcV (s_begins ht D (by omega) (d := d - 1)) (by omega) (Nat.le_refl _) ?_)
  refine zMc (s_yields ht D (rOk_eq (mB_lo s 0 (by omega)) hN) (rSk_eq (mB_lo s 4 (by omega)) hS) (by omega) g f x ho (d := d - 1)) (by omega) (Nat.le_refl _) ?_
  exact zMc (s_ends ht D (by omega) _ _ n hn hn8 (d := d - 1)) (by omega) (Nat.le_refl _) ⟨Nat.le_refl _, rfl, rfl⟩
end ZMB
