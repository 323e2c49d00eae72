/-! turns and laws -/
section R7
variable {b E E' T : Nat} {c : cS} {r r' : Nat → Int32}
theorem cQ.hdr (X : cQ b E T c r) {f : Nat → Int32} (h : qHdr b E' T (f, c.2) r') (hr : ∀ i w, w < 10 → rc r' i w = rc r i w) (h1 : r' 1 = r 1) (h4 : r' 4 = r 4) (h7 : r' 7 = r 7) (h8 : r' 8 = r 8) : cQ b E' T (f, c.2) r' :=
  ⟨h, fun i hi => (X.ca hi).same rfl (hr i) h1, fun i hi => (X.va hi).same (hr i), X.oc.same rfl (fun _ _ => rfl) h4 X.sp.2.2 (fun i _ => ⟨hr i 2 (by omega), hr i 3 (by omega)⟩), (X.row (z := 0) (by omega)).same rfl rfl (fun i _ => ⟨hr i 0 (by omega), hr i 2 (by omega), hr i 8 (by omega)⟩), (X.row (z := 1) (by omega)).same rfl rfl (fun i _ => ⟨hr i 0 (by omega), hr i 2 (by omega), hr i 8 (by omega)⟩), X.pa.same rfl rfl h7 (fun i _ => ⟨hr i 2 (by omega), hr i 9 (by omega)⟩), X.le.same rfl h8 (fun i _ => hr i 2 (by omega)), X.wt.same rfl (fun i _ => hr i 7 (by omega))⟩
theorem cQ.tn (X : cQ b E T c r) : ∃ z, z ≤ 1 ∧ r 5 = nI z ∧ 1 - r 5 = nI (1 - z) := by
  rcases X.1.2.2.2.2.1 with w | w
  · exact ⟨0, by omega, w, by rw [w]; rfl⟩
  · exact ⟨1, by omega, w, by rw [w]; rfl⟩
theorem cQ.lk (X : cQ b E T c r) : cQ b E T (cSf (cSf c 8 (1 - r 5)) 9 0) (zuf (zuf r 5 (1 - r 5)) 6 0) := by
  obtain ⟨a1, a3, ⟨f5, f6, f7, f8, f9, f10, f11, f12⟩, a5, a6, a7, a8, a9, a10, a11⟩ := X.1
  have hr : ∀ i w, w < 10 → rc (zuf (zuf r 5 (1 - r 5)) 6 0) i w = rc r i w := fun i w _ => by rw [rc_hd _ _ _ _ _ (by omega), rc_hd _ _ _ _ _ (by omega)]
  refine X.hdr (f := zuf (zuf c.1 8 (1 - r 5)) 9 0) ⟨a1, a3, ⟨f5, f6, f7, rfl, rfl, f10, f11, f12⟩, a5, ?_, a7, ⟨0, rfl, Nat.zero_le _⟩, a9, a10, a11⟩ hr rfl rfl rfl rfl
  show 1 - r 5 = 0 ∨ 1 - r 5 = 1
  rcases a6 with w | w
  · rw [w]; exact Or.inr (by decide)
  · rw [w]; exact Or.inl (by decide)
end R7
section C8
variable {l : Launch} {G : zG} {k : t_H} {A : cA} {c : cS} {h : zH} {d mc n b E T : Nat} {r : Nat → Int32} {RX : String → zH → Nat → Prop}
theorem len_emp (L : List Nat) : (L.length == 0) = L.isEmpty := by cases L <;> rfl
theorem tX2_takeTurnsB (ht : l.stackTraces = false) (D : cD G A (cN c)) (X : cQ b E T c r) (hd : 4 ≤ d) (R : tR G (cK G k A c) h) (Q : zRes → zH → Prop) (hno : ∀ h, tR G (cK G k A c) h → rLk r = false → Q (.inl none) h) (hyes : ∀ h, tR G (cK G k A (cSf (cSf c 8 (1 - r 5)) 9 0)) h → rLk r = true → Q (.inl none) h) : zV l G d 0 MX2_takeTurns Q 0 [some (.ref A.1), none] [] h 0 := by
  have n40 := X.n40
  obtain ⟨z, hz, e5, e5'⟩ := X.tn
  have hz' : 1 - z ≤ 1 := by omega
  have z8 : zFd (cOs A c) 8 = .int (nI z) := by
    show Value.int (c.1 8) = _; rw [X.1.2.2.1.2.2.2.1, e5]
  have hlk : rLk r = (((cL c (1 + z)).isEmpty || !decide (r 6 < r 3)) && rOn r == 0 && !(cL c (1 + (1 - z))).isEmpty) := by
    unfold rLk
    rw [X.nn, e5', e5, X.rowMany hz, X.rowMany hz', len_emp, len_emp]
  have ons : rOn r ≤ 40 := by
    have := zcnt_le (rOnb r) (rN r)
    rw [X.nn] at this
    unfold rOn; rw [X.nn]; omega
  have on : ∀ h, tR G (cK G k A c) h → ((cL c (1 + z)).isEmpty || !decide (r 6 < r 3)) = true → zOc h A.1 1 (zCall l G d 0 MX2_onBridge [.ref A.1] h 0 (zRI (zXo 0 Q) (fun x11 h10 n9 => ((¬ x11 = 0) → n9 ≤ 0 ∧ Q (.inl none) h10) ∧ (¬ (¬ x11 = 0) → zGi h10 A.1 1 8 (fun x13 => zCall l G d 0 MX1_other [.int x13] h10 n9 (zRI (zXo 0 Q) (fun x16 h15 n14 => zOc h15 A.1 1 (zCall l G d 0 MX2_row [.ref A.1, .int x16] h15 n14 (zRR (zXo 0 Q) (fun a19 h18 n17 => zOc h18 a19 11 (zCall l G d 0 MJ2_isEmpty [.ref a19] h18 n17 (zRI (zXo 0 Q) (fun x22 h21 n20 => ((¬ x22 = 0) → n20 ≤ 0 ∧ Q (.inl none) h21) ∧ (¬ (¬ x22 = 0) → zGi h21 A.1 1 8 (fun x24 => zCall l G d 0 MX1_other [.int x24] h21 n20 (zRI (zXo 0 Q) (fun x27 h26 n25 => zPf G h26 A.1 1 8 (.int x27) (fun h28 => zPf G h28 A.1 1 9 (.int 0) (fun h29 => n25 ≤ 0 ∧ Q (.inl none) h29))))))))))))))))))) := by
    intro h R e
    refine cOo R (tC.i R (tX2_onBridge ht D X (d := d - 1)) (by omega) (Nat.le_refl _) fun h1 R1 => ⟨fun q => ⟨Nat.le_refl _, hno h1 R1 ?_⟩, fun q => cGi R1 z8 (zCall.P (s_other ht (d := d - 1)) (by omega) (Nat.le_refl _) ?_)⟩)
    · rw [hlk, e]
      have : ¬ rOn r = 0 := fun w => q (by rw [w]; rfl)
      simp [this]
    · rw [← e5, e5']
      refine cOo R1 (tC.r R1 (tX2_row ht hz' (d := d - 1)) (by omega) (Nat.le_refl _) fun h2 R2 => cEmpL ht R2 D (by omega) (by omega) (by omega) (Nat.le_refl _) fun h3 R3 => ⟨fun q2 => ⟨Nat.le_refl _, hno h3 R3 ?_⟩, fun q2 => cGi R3 z8 (zCall.P (s_other ht (d := d - 1)) (by omega) (Nat.le_refl _) (cPf R3 D rfl fun h4 R4 => cPf R4 D rfl fun h5 R5 => ⟨Nat.le_refl _, hyes h5 (by rw [e5]; exact R5) ?_⟩))⟩)
      · rw [zbi_eq0, Bool.not_eq_false] at q2
        rw [hlk, q2]; simp
      · have q3 := zbi_eq0.mp (Classical.not_not.mp q2)
        have q4 := (nI_e0 (by omega)).mp (Classical.not_not.mp q)
        rw [hlk, e, q3, q4]; rfl
  refine b_X2_takeTurns_0 _ (cGi R z8 (cOo R (tC.r R (tX2_row ht hz (d := d - 1)) (by omega) (Nat.le_refl _) fun h1 R1 => cEmpL ht R1 D (by omega) (by omega) (by omega) (Nat.le_refl _) fun h2 R2 => ⟨fun q => on h2 R2 ?_, fun q => cGi R2 (j := 9) (x := r 6) ?_ (cGi R2 (j := 7) (x := r 3) ?_ ⟨fun q2 => ?_, fun q2 => on h2 R2 ?_⟩)⟩)))
  · rw [zbi_eq0, Bool.not_eq_false] at q
    rw [q]; rfl
  · show Value.int (c.1 9) = _; rw [X.1.2.2.1.2.2.2.2.1]
  · show Value.int (c.1 7) = _; rw [X.1.2.2.1.2.2.1]
  · have q3 := zbi_eq0.mp (Classical.not_not.mp q)
    have hn : rLk r = false := by rw [hlk, q3, decide_eq_true q2]; rfl
    exact cOo R2 (tC.i R2 (tX2_onBridge ht D X (d := d - 1)) (by omega) (Nat.le_refl _) fun h3 R3 => ⟨fun _ => ⟨Nat.le_refl _, hno h3 R3 hn⟩, fun _ => ⟨Nat.le_refl _, hno h3 R3 hn⟩⟩)
  · rw [decide_eq_false q2]; simp
theorem tX2_takeTurns (ht : l.stackTraces = false) (D : cD G A (cN c)) (s : zMS) (X : cQ b E T c s.2.1) (hd : 4 ≤ d) : tC l G d MX2_takeTurns [.ref A.1] (cK G k A c) 0 (tqV tNo fun k' => ∃ c', cQ b E T c' (mLk s).2.1 ∧ c'.2 = c.2 ∧ k' = cK G k A c') := by
  intro h R
  refine zCt.of kX2_takeTurns ht (by simp [Value.category]) (Nat.le_of_ble_eq_true rfl) ?_
  refine tX2_takeTurnsB ht D X hd R _ (fun h R e => ⟨_, R, c, ?_, rfl, rfl⟩) (fun h R e => ⟨_, R, cSf (cSf c 8 (1 - s.2.1 5)) 9 0, ?_, rfl, rfl⟩)
  · simp only [mLk]; rw [e]; exact X
  · simp only [mLk]; rw [e, if_pos rfl]; exact X.lk
theorem cQ.first (X : cQ b E T c r) {z : Nat} (hz : z ≤ 1) : (cL c (1 + z) = [] ∧ rRa r (nI z) 0 = -1) ∨ ∃ i L, cL c (1 + z) = i :: L ∧ rRa r (nI z) 0 = nI i ∧ i < cN c ∧ rc r i 2 = 0 ∧ rc r i 0 = nI z := by
  have n40 := X.n40
  cases e : cL c (1 + z) with
  | nil =>
    left
    rcases X.rowAt hz 0 with ⟨h, -⟩ | ⟨q, h1, -⟩
    · exact ⟨rfl, h⟩
    · rw [e] at h1; simp at h1
  | cons i L =>
    right
    have hm := ((X.row hz).1 i).mp (by rw [e]; exact List.mem_cons_self)
    refine ⟨i, L, rfl, ?_, hm.1, hm.2.1, hm.2.2⟩
    rcases X.rowAt hz 0 with ⟨-, h⟩ | ⟨q, h1, h2, h3⟩
    · exact absurd rfl (h 0 (by rw [e]; simp))
    · have : q = 0 := nI_inj (by have := X.len hz; omega) (by omega) h2.symm
      subst this
      rw [h3, e]; rfl
/-- the object of a law -/
theorem tX6_of (ht : l.stackTraces = false) {v : Nat} (hv : v ≤ 3) (hd : 4 ≤ d) : tC l G d MX6_of [.int (nI v)] k 1 (tqR tNo fun x k' => k x = none ∧ zb G ≤ x ∧ k' = tUp k x (tOb (4 + v) [])) := by
  intro h R
  have i9 : ∀ (d : Nat) (h : zH) (x : Nat), 1 ≤ d → zCt l G d MX9_init [.ref x] h 0 (zVr h) := by
    intro d h x hd
    refine zCt.of kX9_init ht (by simp [Value.category]) (Nat.le_of_ble_eq_true rfl) ?_
    exact b_X9_init_0 _ ⟨hd, Nat.le_refl _, rfl⟩
  refine zCt.of kX6_of ht (by simp [Value.category]) (Nat.le_of_ble_eq_true rfl) ?_
  refine b_X6_of_0 _ ⟨fun q => ⟨by omega, fun x hx bx h1 e1 => ?_⟩, fun q => ⟨fun q2 => ⟨by omega, fun x hx bx h1 e1 => ?_⟩, fun q2 => ⟨fun q3 => ⟨by omega, fun x hx bx h1 e1 => ?_⟩, fun q3 => ⟨by omega, fun x hx bx h1 e1 => ?_⟩⟩⟩⟩
  · have i7 : zCt l G (d - 1) MX7_init [.ref x] h1 0 (zVr h1) := by
      refine zCt.of kX7_init ht (by simp [Value.category]) (Nat.le_of_ble_eq_true rfl) ?_
      exact b_X7_init_0 _ ⟨by omega, Nat.le_refl _, rfl⟩
    obtain rfl : v = 0 := nI_inj (by omega) (by omega) q
    exact zCall.PV i7 (by omega) (by omega) ⟨by omega, _, by rw [e1]; exact R.new hx bx, R.hn hx, bx, rfl⟩
  · have i7 : zCt l G (d - 1) MX8_init [.ref x] h1 0 (zVr h1) := by
      refine zCt.of kX8_init ht (by simp [Value.category]) (Nat.le_of_ble_eq_true rfl) ?_
      exact b_X8_init_0 _ ⟨by omega, Nat.le_refl _, rfl⟩
    obtain rfl : v = 1 := nI_inj (by omega) (by omega) q2
    exact zCall.PV i7 (by omega) (by omega) ⟨by omega, _, by rw [e1]; exact R.new hx bx, R.hn hx, bx, rfl⟩
  · have i7 : zCt l G (d - 1) MX10_init [.ref x] h1 0 (zVr h1) := by
      refine zCt.of kX10_init ht (by simp [Value.category]) (Nat.le_of_ble_eq_true rfl) ?_
      exact b_X10_init_0 _ (zCall.PV (i9 (d - 1 - 1) h1 x (by omega)) (by omega) (Nat.le_refl _) ⟨Nat.le_refl _, rfl⟩)
    obtain rfl : v = 2 := nI_inj (by omega) (by omega) q3
    exact zCall.PV i7 (by omega) (by omega) ⟨by omega, _, by rw [e1]; exact R.new hx bx, R.hn hx, bx, rfl⟩
  · have i7 : zCt l G (d - 1) MX11_init [.ref x] h1 0 (zVr h1) := by
      refine zCt.of kX11_init ht (by simp [Value.category]) (Nat.le_of_ble_eq_true rfl) ?_
      exact b_X11_init_0 _ (zCall.PV (i9 (d - 1 - 1) h1 x (by omega)) (by omega) (Nat.le_refl _) ⟨Nat.le_refl _, rfl⟩)
    have v3 : v = 3 := by
      have h0 : v ≠ 0 := fun e => q (by rw [e]; rfl)
      have h1 : v ≠ 1 := fun e => q2 (by rw [e]; rfl)
      have h2 : v ≠ 2 := fun e => q3 (by rw [e]; rfl)
      omega
    subst v3
    exact zCall.PV i7 (by omega) (by omega) ⟨by omega, _, by rw [e1]; exact R.new hx bx, R.hn hx, bx, rfl⟩
/-- what the law of waiting measures -/
def rMw (r : Nat → Int32) (z : Nat) : Int32 := if rRa r (nI z) 0 = -1 then -1 else rc r (rRa r (nI z) 0).toNatClampNeg 7
theorem tX10_measure (ht : l.stackTraces = false) (hS : tS G) (D : cD G A (cN c)) (X : cQ b E T c r) {x z : Nat} (hz : z ≤ 1) (hd : 5 ≤ d) : tC l G d MX10_measure [.ref x, .ref A.1, .int (nI z)] (cK G k A c) 1 (tIr (rLo r (nI z)) (cK G k A c)) := by
  intro h R
  refine zCt.of kX10_measure ht (by simp [Value.category]) (Nat.le_of_ble_eq_true rfl) ?_
  exact b_X10_measure_0 _ _ _ (cOo R (tC.i R (tX2_rowLoad ht hS D X hz (d := d - 1) (by omega)) (by omega) (by omega) fun h' R' => ⟨by omega, _, R', rfl, rfl⟩))
theorem tX11_measure (ht : l.stackTraces = false) (hS : tS G) (D : cD G A (cN c)) (X : cQ b E T c r) {x z : Nat} (hz : z ≤ 1) (hd : 4 ≤ d) : tC l G d MX11_measure [.ref x, .ref A.1, .int (nI z)] (cK G k A c) 0 (tIr (rMw r z) (cK G k A c)) := by
  intro h R
  have n40 := X.n40
  refine zCt.of kX11_measure ht (by simp [Value.category]) (Nat.le_of_ble_eq_true rfl) ?_
  refine b_X11_measure_0 _ _ _ (cOo R (tC.r R (tX2_row ht hz (d := d - 1)) (by omega) (Nat.le_refl _) fun h1 R1 => cEmpL ht R1 D (by omega) (by omega) (by omega) (Nat.le_refl _) fun h2 R2 => ⟨fun q => ?_, fun q => ⟨Nat.le_refl _, _, R2, ?_, rfl⟩⟩))
  · rcases X.first hz with ⟨e, -⟩ | ⟨i, L, e, e2, hi, -, -⟩
    · rw [e] at q; exact absurd q (by decide)
    · refine cGr R2 rfl (cOo R2 (tC.r R2 (tX2_row ht hz (d := d - 1)) (by omega) (Nat.le_refl _) fun h3 R3 => cGetL ht R3 D (i := 0) (by omega) (by omega) rfl (by rw [e]; simp) (by omega) (Nat.le_refl _) fun h4 R4 => ?_))
      rw [e]
      refine cUnb ht hS R4 (i := i) (by omega) (by omega) (Nat.le_refl _) fun h5 R5 => cGet ht R5 D rfl hi (by omega) (Nat.le_refl _) fun h6 R6 => ccOc R6 D hi (ccGi R6 D hi (j := 8) (x := rc r i 7) ?_ ⟨Nat.le_refl _, _, R6, ?_, rfl⟩)
      · show Value.int (cG c i 8) = _; rw [(X.ca hi).2.2.2.2.2.2.2.2.1]
      · rw [rMw, e2, if_neg (zn1 (by omega)), nI_clamp (by omega)]
  · rcases X.first hz with ⟨e, e2⟩ | ⟨i, L, e, -⟩
    · rw [rMw, e2]; rfl
    · rw [e] at q; exact absurd rfl q
def rCmp (z : Nat) (more : Int32) : Bool := decide (0 < more) || (more == 0 && nI z == 0)
/-- what a measuring law lets -/
def rLe (r : Nat → Int32) (v z : Nat) : Bool := rCmp z (if v = 2 then rLo r (nI z) - rLo r (nI (1 - z)) else rMw r z - rMw r (1 - z))
theorem tX9_lets (ht : l.stackTraces = false) (hS : tS G) (D : cD G A (cN c)) (X : cQ b E T c r) {x v z : Nat} (hz : z ≤ 1) (hv : v = 2 ∨ v = 3) (e : k x = some (tOb (4 + v) [])) (ho : cOut A (cN c) x) (hd : 6 ≤ d) : tC l G d MX9_lets [.ref x, .ref A.1, .int (nI z)] (cK G k A c) 2 (tIr (zbi (rLe r v z)) (cK G k A c)) := by
  intro h R
  have hz' : 1 - z ≤ 1 := by omega
  have ex : cK G k A c x = some (tOb (4 + v) []) := by rw [cK_o ho]; exact e
  have h1z : 1 - nI z = nI (1 - z) := by
    rcases Nat.eq_zero_or_pos z with w | w
    · subst w; rfl
    · obtain rfl : z = 1 := by omega
      rfl
  have fin : ∀ (m1 m2 : Int32) (h : zH) (n : Nat), tR G (cK G k A c) h → n ≤ 2 → rLe r v z = rCmp z (m1 - m2) → zV l G d 2 MX9_lets (fun r_1 h' => ∃ k', tR G k' h' ∧ tIr (zbi (rLe r v z)) (cK G k A c) r_1 k') 15 [some (.ref x), some (.ref A.1), some (.int (nI z)), none] [.int m2, .int m1] h n := by
    intro m1 m2 h n R hn hm
    refine b_X9_lets_15 _ _ _ _ _ ⟨fun q => ⟨hn, _, R, ?_, rfl⟩, fun q => ⟨fun q2 => ⟨hn, _, R, ?_, rfl⟩, fun q2 => ⟨fun q3 => ⟨hn, _, R, ?_, rfl⟩, fun q3 => ⟨hn, _, R, ?_, rfl⟩⟩⟩⟩
    · rw [hm, rCmp, decide_eq_true q]; rfl
    · rw [hm, rCmp, decide_eq_false q]; simp [q2, zbi]
    · rw [hm, rCmp, decide_eq_false q]; simp [q3, zbi]
    · rw [hm, rCmp, decide_eq_false q]; simp [Classical.not_not.mp q2, Classical.not_not.mp q3, zbi]
  refine zCt.of kX9_lets ht (by simp [Value.category]) (Nat.le_of_ble_eq_true rfl) ?_
  rcases hv with rfl | rfl
  · refine b_X9_lets_0 _ _ _ (Or.inl (tOc R ex (tC.i R (tX10_measure ht hS D X hz (d := d - 1) (by omega)) (by omega) (by omega) fun h1 R1 => b_X9_lets_6 _ _ _ _ (zCall.P (s_other ht (d := d - 1)) (by omega) (by omega) ?_))))
    rw [h1z]
    exact Or.inl (tOc R1 ex (tC.i R1 (tX10_measure ht hS D X hz' (d := d - 1) (by omega)) (by omega) (by omega) fun h2 R2 => fin _ _ h2 _ R2 (by omega) rfl))
  · refine b_X9_lets_0 _ _ _ (Or.inr (tOc R ex (tC.i R (tX11_measure ht hS D X hz (d := d - 1) (by omega)) (by omega) (by omega) fun h1 R1 => b_X9_lets_6 _ _ _ _ (zCall.P (s_other ht (d := d - 1)) (by omega) (by omega) ?_))))
    rw [h1z]
    exact Or.inr (tOc R1 ex (tC.i R1 (tX11_measure ht hS D X hz' (d := d - 1) (by omega)) (by omega) (by omega) fun h2 R2 => fin _ _ h2 _ R2 (by omega) rfl))
/-- the model's word on it -/
theorem cQ.ms (X : cQ b E T c r) {z v : Nat} (hz : z ≤ 1) (hv : v ≤ 3) (e2 : r 2 = nI v) : rMs r (nI z) = (!(cL c (1 + z)).isEmpty && ((v == 0) || !rHt r (nI z)) && (if v = 0 then true else if v = 1 then (r 5 == nI z && decide (r 6 < r 3)) else rLe r v z)) := by
  have n40 := X.n40
  have h1z : 1 - nI z = nI (1 - z) := by
    rcases Nat.eq_zero_or_pos z with w | w
    · subst w; rfl
    · obtain rfl : z = 1 := by omega
      rfl
  unfold rMs
  rw [h1z]
  rcases X.first hz with ⟨e, e3⟩ | ⟨i, L, e, e3, hi, hw, -⟩
  · rw [e3, if_pos rfl, e]; rfl
  · rw [e3, if_neg (zn1 (by omega)), e, e2]
    have v4 : v = 0 ∨ v = 1 ∨ v = 2 ∨ v = 3 := by omega
    rcases v4 with w | w | w | w
    · subst w; rw [if_pos rfl]; rfl
    · subst w
      rw [if_neg (by decide)]
      cases rHt r (nI z)
      · rfl
      · rfl
    · subst w
      rw [if_neg (by decide)]
      cases rHt r (nI z)
      · rw [if_neg (by decide), if_neg (by decide), if_neg (by rintro ⟨q, -⟩; exact absurd q (by decide)), if_pos (show nI 2 = (2 : Int32) from rfl)]; rfl
      · rfl
    · subst w
      rw [if_neg (by decide)]
      cases rHt r (nI z)
      · rw [if_neg (by decide), if_neg (by decide)]
        show _ = (true && true && rLe r 3 z)
        rw [Bool.true_and, Bool.true_and]
        rcases X.first (z := 1 - z) (by omega) with ⟨f, f3⟩ | ⟨i', L', f, f3, hi', -, -⟩
        · rw [if_pos ⟨rfl, f3⟩]
          obtain ⟨w, w1, w2⟩ := X.wt.2 i hi
          have T20 := X.wt.1
          rw [rLe, if_neg (by decide), rMw, rMw, f3, e3, if_neg (zn1 (by omega)), nI_clamp (by omega), if_pos rfl, w1, rCmp]
          rw [show nI w - -1 = nI (w + 1) by rw [Int32.sub_neg, nI_1]]
          have : decide (0 < nI (w + 1)) = true := decide_eq_true (nI_lt (a := 0) (b := w + 1) (by omega) (by omega))
          rw [this]; rfl
        · rw [if_neg (by rintro ⟨-, q⟩; rw [f3] at q; exact zn1 (by omega) q), if_neg (by decide), rLe, if_neg (by decide), rMw, rMw, f3, e3, if_neg (zn1 (by omega)), if_neg (zn1 (by omega))]; rfl
      · rfl
end C8
