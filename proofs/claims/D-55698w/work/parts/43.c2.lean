/-! loops over rows and carts by iterators -/
section C3
variable {l : Launch} {G : zG} {k : t_H} {A : cA} {c : cS} {h : zH} {d mc n b E T : Nat} {r : Nat → Int32} {RX : String → zH → Nat → Prop}
theorem cK_up {x : Nat} {o : t_O} (hx : cOut A (cN c) x) : tUp (cK G k A c) x o = cK G (tUp k x o) A c := by
  funext q
  by_cases e : q = x
  · rw [e, tUp_s, cK_o hx, tUp_s]
  · rw [tUp_n e]
    unfold cK
    rw [tUp_n e]
theorem cK_le {k' : t_H} {a : Nat} {w : t_O} (hle : k a = some w → k' a = some w) (ha : cK G k A c a = some w) : cK G k' A c a = some w := by
  unfold cK at ha ⊢
  by_cases e0 : a = A.1
  · rw [if_pos e0] at ha ⊢; exact ha
  rw [if_neg e0] at ha ⊢
  by_cases e1 : a = A.2.1 0
  · rw [if_pos e1] at ha ⊢; exact ha
  rw [if_neg e1] at ha ⊢
  by_cases e2 : a = A.2.1 1
  · rw [if_pos e2] at ha ⊢; exact ha
  rw [if_neg e2] at ha ⊢
  by_cases e3 : a = A.2.1 2
  · rw [if_pos e3] at ha ⊢; exact ha
  rw [if_neg e3] at ha ⊢
  by_cases e4 : a = A.2.1 3
  · rw [if_pos e4] at ha ⊢; exact ha
  rw [if_neg e4] at ha ⊢
  by_cases e5 : a = A.2.1 4
  · rw [if_pos e5] at ha ⊢; exact ha
  rw [if_neg e5] at ha ⊢
  cases q : cIx A.2.2 (cN c) a with
  | some i => rw [q] at ha; exact ha
  | none => rw [q] at ha; exact hle ha
theorem cK_fg {x : Nat} {o : t_O} (hx : k x = none) (bx : zb G ≤ x) (R : tR G (cK G (tUp k x o) A c) h) : tR G (cK G k A c) h := by
  refine R.le (fun a w ha => cK_le (fun e => ?_) ha) (fun a w hb ha => cK_le (fun e => ?_) ha)
  · rw [tUp_n (by intro q; rw [q, hx] at e; cases e)]; exact e
  · rw [tUp_n (by omega)] at e; exact e
/-- an iterator over a row -/
theorem cIter (ht : l.stackTraces = false) (R : tR G (cK G k A c) h) (D : cD G A (cN c)) {j : Nat} (h1 : 1 ≤ j) (h3 : j ≤ 3) {p : Nat → zH → Nat → Prop} (hd : 3 ≤ d) (hm : n + 1 ≤ mc) (q : ∀ x h', cOut A (cN c) x → k x = none → zb G ≤ x → tR G (cK G (tUp k x (tIt (nI 0) (-1) (c.2.2.1 j).1 (A.2.1 j))) A c) h' → p x h' (n + 1)) : zOc h (A.2.1 j) 11 (zCall l G d mc MJ2_iterator [.ref (A.2.1 j)] h n (zRR RX p)) := by
  refine tOcZ R (cK_l D h1 h3) (tCall.R R (tJ2_iterator ht (cK_l D h1 h3) (d := d - 1) (by omega)) (by omega) hm (fun x k' h' R' e => ?_) (fun E k' h' _ e => e.elim))
  obtain ⟨e1, e2, e3⟩ := e
  have ho := cK_fresh D e1
  rw [e3, cK_up ho] at R'
  rw [cK_o ho] at e1
  exact q x h' ho e1 e2 R'
theorem cHas (ht : l.stackTraces = false) {x i j : Nat} {w : Int32} (R : tR G (cK G (tUp k x (tIt (nI i) w (c.2.2.1 j).1 (A.2.1 j))) A c) h) (D : cD G A (cN c)) (ho : cOut A (cN c) x) (h1 : 1 ≤ j) (h3 : j ≤ 3) (hi : i ≤ (cL c j).length) {p : Int32 → zH → Nat → Prop} (hd : 1 ≤ d) (hm : n ≤ mc) (q : ∀ h', tR G (cK G (tUp k x (tIt (nI i) w (c.2.2.1 j).1 (A.2.1 j))) A c) h' → p (zbi (decide (i < (cL c j).length))) h' n) : zOc h x 12 (zCall l G d mc MJ12_hasNext [.ref x] h n (zRI RX p)) := by
  have e2 : cK G (tUp k x (tIt (nI i) w (c.2.2.1 j).1 (A.2.1 j))) A c x = some (tIt (nI i) w (c.2.2.1 j).1 (A.2.1 j)) := by rw [cK_o ho, tUp_s]
  refine tOc R e2 (tC.i R (tJ12_hasNext ht (cK_l D h1 h3) e2 (by rw [List.length_map]; exact hi) (d := d - 1)) (by omega) hm fun h' R' => ?_)
  rw [List.length_map]
  exact q h' R'
theorem cNxt (ht : l.stackTraces = false) {x i j : Nat} {w : Int32} (R : tR G (cK G (tUp k x (tIt (nI i) w (c.2.2.1 j).1 (A.2.1 j))) A c) h) (D : cD G A (cN c)) (ho : cOut A (cN c) x) (bx : zb G ≤ x) (h1 : 1 ≤ j) (h3 : j ≤ 3) (hi : i < (cL c j).length) {p : Nat → zH → Nat → Prop} (hd : 2 ≤ d) (hm : n ≤ mc) (q : ∀ h', tR G (cK G (tUp k x (tIt (nI (i + 1)) (nI i) (c.2.2.1 j).1 (A.2.1 j))) A c) h' → p (tbx G ((cL c j).getD i 0)) h' n) : zOc h x 12 (zCall l G d mc MJ12_next [.ref x] h n (zRR RX p)) := by
  have e2 : cK G (tUp k x (tIt (nI i) w (c.2.2.1 j).1 (A.2.1 j))) A c x = some (tIt (nI i) w (c.2.2.1 j).1 (A.2.1 j)) := by rw [cK_o ho, tUp_s]
  refine tOc R e2 (tC.r R (tJ12_next ht (cK_l D h1 h3) e2 bx (i := i) (by rw [List.length_map]; exact hi) (d := d - 1) (by omega)) (by omega) hm fun h' R' => ?_)
  rw [map_getD _ hi]
  rw [cK_up ho, tUp_up] at R'
  exact q h' R'
/-- an iterator over the carts -/
theorem cIter0 (ht : l.stackTraces = false) (R : tR G (cK G k A c) h) (D : cD G A (cN c)) {p : Nat → zH → Nat → Prop} (hd : 3 ≤ d) (hm : n + 1 ≤ mc) (q : ∀ x h', cOut A (cN c) x → k x = none → zb G ≤ x → tR G (cK G (tUp k x (tIt (nI 0) (-1) c.2.2.2.1.1 (A.2.1 0))) A c) h' → p x h' (n + 1)) : zOc h (A.2.1 0) 11 (zCall l G d mc MJ2_iterator [.ref (A.2.1 0)] h n (zRR RX p)) := by
  refine tOcZ R (cK_0 D) (tCall.R R (tJ2_iterator ht (cK_0 D) (d := d - 1) (by omega)) (by omega) hm (fun x k' h' R' e => ?_) (fun E k' h' _ e => e.elim))
  obtain ⟨e1, e2, e3⟩ := e
  have ho := cK_fresh D e1
  rw [e3, cK_up ho] at R'
  rw [cK_o ho] at e1
  exact q x h' ho e1 e2 R'
theorem cHas0 (ht : l.stackTraces = false) {x i : Nat} {w : Int32} (R : tR G (cK G (tUp k x (tIt (nI i) w c.2.2.2.1.1 (A.2.1 0))) A c) h) (D : cD G A (cN c)) (ho : cOut A (cN c) x) (hi : i ≤ cN c) {p : Int32 → zH → Nat → Prop} (hd : 1 ≤ d) (hm : n ≤ mc) (q : ∀ h', tR G (cK G (tUp k x (tIt (nI i) w c.2.2.2.1.1 (A.2.1 0))) A c) h' → p (zbi (decide (i < cN c))) h' n) : zOc h x 12 (zCall l G d mc MJ12_hasNext [.ref x] h n (zRI RX p)) := by
  have e2 : cK G (tUp k x (tIt (nI i) w c.2.2.2.1.1 (A.2.1 0))) A c x = some (tIt (nI i) w c.2.2.2.1.1 (A.2.1 0)) := by rw [cK_o ho, tUp_s]
  refine tOc R e2 (tC.i R (tJ12_hasNext ht (cK_0 D) e2 (by rw [List.length_map, List.length_range]; exact hi) (d := d - 1)) (by omega) hm fun h' R' => ?_)
  rw [List.length_map, List.length_range]
  exact q h' R'
theorem cNxt0 (ht : l.stackTraces = false) {x i : Nat} {w : Int32} (R : tR G (cK G (tUp k x (tIt (nI i) w c.2.2.2.1.1 (A.2.1 0))) A c) h) (D : cD G A (cN c)) (ho : cOut A (cN c) x) (bx : zb G ≤ x) (hi : i < cN c) {p : Nat → zH → Nat → Prop} (hd : 2 ≤ d) (hm : n ≤ mc) (q : ∀ h', tR G (cK G (tUp k x (tIt (nI (i + 1)) (nI i) c.2.2.2.1.1 (A.2.1 0))) A c) h' → p (A.2.2 i) h' n) : zOc h x 12 (zCall l G d mc MJ12_next [.ref x] h n (zRR RX p)) := by
  have e2 : cK G (tUp k x (tIt (nI i) w c.2.2.2.1.1 (A.2.1 0))) A c x = some (tIt (nI i) w c.2.2.2.1.1 (A.2.1 0)) := by rw [cK_o ho, tUp_s]
  refine tOc R e2 (tC.r R (tJ12_next ht (cK_0 D) e2 bx (i := i) (by rw [List.length_map, List.length_range]; exact hi) (d := d - 1) (by omega)) (by omega) hm fun h' R' => ?_)
  rw [range_getD _ hi]
  rw [cK_up ho, tUp_up] at R'
  exact q h' R'
theorem zfo_shift {α : Type} (F : α → Nat → α) (a : α) : ∀ n, zfo F a (n + 1) = zfo (fun a q => F a (q + 1)) (F a 0) n
  | 0 => rfl
  | n + 1 => by rw [zfo, zfo_shift F a n]; rfl
theorem foldl_zfo {α : Type} (g : α → Nat → α) : ∀ (L : List Nat) (a : α), L.foldl g a = zfo (fun a q => g a (L.getD q 0)) a L.length
  | [], _ => rfl
  | x :: t, a => by
    rw [List.foldl_cons, List.length_cons, zfo_shift, foldl_zfo g t]; rfl
theorem tX2_rowLoad (ht : l.stackTraces = false) (hS : tS G) (D : cD G A (cN c)) (X : cQ b E T c r) {z : Nat} (hz : z ≤ 1) (hd : 4 ≤ d) : tC l G d MX2_rowLoad [.ref A.1, .int (nI z)] (cK G k A c) 1 (tIr (rLo r (nI z)) (cK G k A c)) := by
  intro h R
  have n40 := X.n40
  have hl := X.len hz
  refine zCt.of kX2_rowLoad ht (by simp [Value.category]) (Nat.le_of_ble_eq_true rfl) ?_
  refine b_X2_rowLoad_0 _ _ (cOo R (tC.r R (tX2_row ht hz (d := d - 1)) (by omega) (by omega) fun h1 R1 => cIter ht R1 D (by omega) (by omega) (by omega) (by omega) fun x h2 ho kx bx R2 => ?_))
  rw [X.loads hz, foldl_zfo]
  refine zInd (N := (cL c (1 + z)).length) (P := fun i => ∀ h w, tR G (cK G (tUp k x (tIt (nI i) w (c.2.2.1 (1 + z)).1 (A.2.1 (1 + z)))) A c) h → zV l G d 1 MX2_rowLoad _ 11 [some (.ref A.1), some (.int (nI z)), some (.int (zfo (fun a q => a + rc r ((cL c (1 + z)).getD q 0) 1) 0 i)), some (.ref x), none] [] h 1) ?_ 0 (Nat.zero_le _) h2 (-1) R2
  intro i hi ih h w R
  refine b_X2_rowLoad_11 _ _ _ _ (cHas ht R D ho (by omega) (by omega) hi (by omega) (Nat.le_refl _) fun h3 R3 => ⟨fun q => ⟨Nat.le_refl _, _, cK_fg kx bx R3, ?_, rfl⟩, fun q => ?_⟩)
  · obtain rfl : i = (cL c (1 + z)).length := by
      have := zbi_eq0.mp q
      rw [decide_eq_false_iff_not] at this
      omega
    rfl
  · have lt : i < (cL c (1 + z)).length := by
      rw [zbi_eq0, Bool.not_eq_false, decide_eq_true_eq] at q; exact q
    have el := X.el hz lt
    refine cNxt ht R3 D ho bx (by omega) (by omega) lt (by omega) (Nat.le_refl _) fun h4 R4 => cUnb ht hS R4 (by omega) (by omega) (Nat.le_refl _) fun h5 R5 => cGr R5 rfl (cGet ht R5 D rfl el (by omega) (Nat.le_refl _) fun h6 R6 => ccOc R6 D el (ccGi R6 D el (j := 2) (x := rc r ((cL c (1 + z)).getD i 0) 1) ?_ (ih lt h6 _ R6)))
    show Value.int (cG c _ 2) = _
    rw [(X.ca el).2.2.1]
/-- those of a row have waited one tick more -/
def cWt (L : List Nat) (c : cS) (i : Nat) : cS := zfo (fun c q => cSc c (L.getD q 0) 8 (cG c (L.getD q 0) 8 + 1)) c i
theorem cWt_N (L : List Nat) (c : cS) : ∀ i, (cWt L c i).2.2.2.1 = c.2.2.2.1 ∧ (cWt L c i).2.2.1 = c.2.2.1
  | 0 => ⟨rfl, rfl⟩
  | i + 1 => cWt_N L c i
theorem tX2_waits (ht : l.stackTraces = false) (hS : tS G) (D : cD G A (cN c)) {z : Nat} (hz : z ≤ 1) (n40 : cN c ≤ 40) (hel : ∀ q, q < (cL c (1 + z)).length → (cL c (1 + z)).getD q 0 < cN c) (hd : 4 ≤ d) : tC l G d MX2_waits [.ref A.1, .int (nI z)] (cK G k A c) 1 (tVr (cK G k A (cWt (cL c (1 + z)) c (cL c (1 + z)).length))) := by
  intro h R
  refine zCt.of kX2_waits ht (by simp [Value.category]) (Nat.le_of_ble_eq_true rfl) ?_
  refine b_X2_waits_0 _ _ (cOo R (tC.r R (tX2_row ht hz (d := d - 1)) (by omega) (by omega) fun h1 R1 => cIter ht R1 D (by omega) (by omega) (by omega) (by omega) fun x h2 ho kx bx R2 => ?_))
  refine zInd (N := (cL c (1 + z)).length) (P := fun i => ∀ h w, tR G (cK G (tUp k x (tIt (nI i) w (c.2.2.1 (1 + z)).1 (A.2.1 (1 + z)))) A (cWt (cL c (1 + z)) c i)) h → zV l G d 1 MX2_waits _ 9 [some (.ref A.1), some (.int (nI z)), some (.ref x), none] [] h 1) ?_ 0 (Nat.zero_le _) h2 (-1) R2
  intro i hi ih h w R
  have e3 := (cWt_N (cL c (1 + z)) c i).1
  have e4 := (cWt_N (cL c (1 + z)) c i).2
  have en : cN (cWt (cL c (1 + z)) c i) = cN c := by simp only [cN, e3]
  have D' : cD G A (cN (cWt (cL c (1 + z)) c i)) := by rw [en]; exact D
  have ho' : cOut A (cN (cWt (cL c (1 + z)) c i)) x := by rw [en]; exact ho
  have el' : cL (cWt (cL c (1 + z)) c i) (1 + z) = cL c (1 + z) := by simp only [cL, e4]
  rw [← e4] at R
  refine b_X2_waits_9 _ _ _ (cHas ht R D' ho' (by omega) (by omega) (by rw [el']; exact hi) (by omega) (Nat.le_refl _) fun h3 R3 => ⟨fun q => ⟨Nat.le_refl _, _, cK_fg kx bx R3, ?_⟩, fun q => ?_⟩)
  · rw [el'] at q
    obtain rfl : i = (cL c (1 + z)).length := by
      have := zbi_eq0.mp q
      rw [decide_eq_false_iff_not] at this
      omega
    rfl
  · rw [el'] at q
    have lt : i < (cL c (1 + z)).length := by
      rw [zbi_eq0, Bool.not_eq_false, decide_eq_true_eq] at q; exact q
    have el := hel i lt
    refine cNxt ht R3 D' ho' bx (by omega) (by omega) (by rw [el']; exact lt) (by omega) (Nat.le_refl _) fun h4 R4 => ?_
    rw [el']
    refine cUnb ht hS R4 (by omega) (by omega) (Nat.le_refl _) fun h5 R5 => cGr R5 rfl (cGet ht R5 D' rfl (by rw [en]; exact el) (by omega) (Nat.le_refl _) fun h6 R6 => ccOc R6 D' (by rw [en]; exact el) (ccGi R6 D' (by rw [en]; exact el) rfl (ccPf R6 D' (by rw [en]; exact el) (fun g => rfl) fun h7 R7 => ?_)))
    rw [e4] at R7
    exact ih lt h7 _ R7
end C3
