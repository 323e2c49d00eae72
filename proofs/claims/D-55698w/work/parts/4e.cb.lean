/-! a state's copy -/
def cEq (c c' : cS) : Prop := cN c' = cN c ∧ (∀ j, 5 ≤ j → j ≤ 12 → c'.1 j = c.1 j) ∧ (∀ j, j < 8 → cB c' j = cB c j) ∧ (∀ q, 1 ≤ q → q ≤ 3 → cL c' q = cL c q) ∧ ∀ i, i < cN c → cG c' i = cG c i
section R9
variable {b E T : Nat} {c c' : cS} {r r' : Nat → Int32}
theorem cQ.eq (X : cQ b E T c r) (h : cEq c c') : cQ b E T c' r := by
  obtain ⟨h1, h2, h3, h4, h5⟩ := h
  refine ⟨?_, fun i hi => ?_, fun i hi => X.va (by rw [← h1]; exact hi), X.oc.same h1 h3 rfl X.sp.2.2 (fun _ _ => ⟨rfl, rfl⟩), (X.row (z := 0) (by omega)).same h1 (h4 1 (by omega) (by omega)) (fun _ _ => ⟨rfl, rfl, rfl⟩), (X.row (z := 1) (by omega)).same h1 (h4 2 (by omega) (by omega)) (fun _ _ => ⟨rfl, rfl, rfl⟩), X.pa.same h1 (h4 3 (by omega) (by omega)) rfl (fun _ _ => ⟨rfl, rfl⟩), X.le.same h1 rfl (fun _ _ => rfl), X.wt.same h1 (fun _ _ => rfl)⟩
  · have := X.1
    unfold qHdr at this ⊢
    rw [h1, h2 5 (by omega) (by omega), h2 6 (by omega) (by omega), h2 7 (by omega) (by omega), h2 8 (by omega) (by omega), h2 9 (by omega) (by omega), h2 10 (by omega) (by omega), h2 11 (by omega) (by omega), h2 12 (by omega) (by omega)]
    exact this
  · rw [h1] at hi
    exact (X.ca hi).same (h5 i hi) (fun _ _ => rfl) rfl
/-- the row behind other indexes -/
theorem rc_off (r r' : Nat → Int32) (h : ∀ j, j < 411 → r' j = r j) {i w : Nat} (hi : i < 40) (hw : w < 10) : rc r' i w = rc r i w := h _ (by omega)
theorem cQ.row411 (X : cQ b E T c r) (h : ∀ j, j < 411 → r' j = r j) : cQ b E T c r' := by
  have n40 := X.n40
  have hr : ∀ i, i < cN c → ∀ w, w < 10 → rc r' i w = rc r i w := fun i hi w hw => rc_off r r' h (by omega) hw
  refine ⟨?_, fun i hi => (X.ca hi).same rfl (hr i hi) (h 1 (by omega)), fun i hi => (X.va hi).same (hr i hi), X.oc.same rfl (fun _ _ => rfl) (h 4 (by omega)) X.sp.2.2 (fun i hi => ⟨hr i hi 2 (by omega), hr i hi 3 (by omega)⟩), (X.row (z := 0) (by omega)).same rfl rfl (fun i hi => ⟨hr i hi 0 (by omega), hr i hi 2 (by omega), hr i hi 8 (by omega)⟩), (X.row (z := 1) (by omega)).same rfl rfl (fun i hi => ⟨hr i hi 0 (by omega), hr i hi 2 (by omega), hr i hi 8 (by omega)⟩), X.pa.same rfl rfl (h 7 (by omega)) (fun i hi => ⟨hr i hi 2 (by omega), hr i hi 9 (by omega)⟩), X.le.same rfl (h 8 (by omega)) (fun i hi => hr i hi 2 (by omega)), X.wt.same rfl (fun i hi => hr i hi 7 (by omega))⟩
  have hs : rSp r' = rSp r := rSp_e (h 4 (by omega))
  have := X.1
  unfold qHdr rLw at this ⊢
  rw [hs, h 0 (by omega), h 1 (by omega), h 2 (by omega), h 3 (by omega), h 4 (by omega), h 5 (by omega), h 6 (by omega), h 9 (by omega), h 10 (by omega)]
  exact this
end R9
section CC
variable {l : Launch} {G : zG} {k : t_H} {A : cA} {c : cS} {h : zH} {d mc n b E T : Nat} {r : Nat → Int32} {RX : String → zH → Nat → Prop}
theorem tAsc_map_getD {xs : List Nat} {i : Nat} (f : Nat → Nat) (hi : i < xs.length) : (xs.map f).getD i 0 = f (xs.getD i 0) := map_getD f hi
theorem tX2_adds (ht : l.stackTraces = false) (hS : tS G) {a t : Nat} {m m2 : Int32} {xs ys : List Nat} (ea : k a = some (tLi m (xs.map (tbx G)))) (et : k t = some (tLi m2 (ys.map (tbx G)))) (hat : a ≠ t) (hx : ∀ x ∈ xs, x < 128) (hl : ys.length + xs.length ≤ 40) (hd : 8 ≤ d) : tC l G d MX2_adds [.ref a, .ref t] k 41 (tVr (tUp k t (tLi (m2 + nI xs.length) ((ys ++ xs).map (tbx G))))) := by
  intro h R
  refine zCt.of kX2_adds ht (by simp [Value.category]) (Nat.le_of_ble_eq_true rfl) ?_
  refine b_X2_adds_0 _ _ (tOcZ R ea (tCall.R R (tJ2_iterator ht ea (d := d - 1) (by omega)) (by omega) (by omega) (fun it k' h1 R1 e => ?_) (fun E k' h' _ e => e.elim)))
  obtain ⟨i1, i2, rfl⟩ := e
  have ia : a ≠ it := by intro q; rw [q, i1] at ea; cases ea
  have itt : t ≠ it := by intro q; rw [q, i1] at et; cases et
  have start : tR G (tUp (tUp k t (tLi (m2 + nI 0) ((ys ++ xs.take 0).map (tbx G)))) it (tIt (nI 0) (-1) m a)) h1 := by
    have : tUp k t (tLi (m2 + nI 0) ((ys ++ xs.take 0).map (tbx G))) = k := by
      funext c
      by_cases e : c = t
      · rw [e, tUp_s, et, nI_0, Int32.add_zero]; simp
      · rw [tUp_n e]
    rw [this]; exact R1
  refine zInd (N := xs.length) (P := fun i => ∀ h w, tR G (tUp (tUp k t (tLi (m2 + nI i) ((ys ++ xs.take i).map (tbx G)))) it (tIt (nI i) w m a)) h → zV l G d 41 MX2_adds _ 5 [some (.ref a), some (.ref t), some (.ref it), none] [] h (1 + i)) ?_ 0 (Nat.zero_le _) h1 (-1) start
  intro i hi ih h w R
  have ea' : ∀ o o2, tUp (tUp k t o) it o2 a = some (tLi m (xs.map (tbx G))) := fun o o2 => by rw [tUp_n ia, tUp_n hat]; exact ea
  have eit : ∀ o, tUp (tUp k t o) it (tIt (nI i) w m a) it = some (tIt (nI i) w m a) := fun o => tUp_s _ _ _
  refine b_X2_adds_5 _ _ _ (tOc R (eit _) (tC.i R (tJ12_hasNext ht (ea' _ _) (eit _) (by rw [List.length_map]; exact hi) (d := d - 1)) (by omega) (by omega) fun h2 R2 => ⟨fun q => ⟨by omega, _, R2.le (k' := tUp k t (tLi (m2 + nI xs.length) ((ys ++ xs).map (tbx G)))) (fun c o hc => ?_) (fun c o hb hc => ?_), rfl⟩, fun q => ?_⟩))
  · have hi' : i = xs.length := by
      have := zbi_eq0.mp q
      rw [decide_eq_false_iff_not, List.length_map] at this
      omega
    subst hi'
    rw [List.take_length]
    rw [tUp_n (by intro e; rw [e, tUp_n itt.symm, i1] at hc; cases hc)]
    exact hc
  · have hi' : i = xs.length := by
      have := zbi_eq0.mp q
      rw [decide_eq_false_iff_not, List.length_map] at this
      omega
    subst hi'
    rw [List.take_length, tUp_n (by omega)] at hc
    exact hc
  · have lt : i < xs.length := by
      rw [zbi_eq0, Bool.not_eq_false, decide_eq_true_eq, List.length_map] at q; exact q
    refine tOc R2 (eit _) (tC.r R2 (tJ12_next ht (ea' _ _) (eit _) i2 (i := i) (by rw [List.length_map]; exact lt) (d := d - 1) (by omega)) (by omega) (by omega) fun h3 R3 => ?_)
    rw [map_getD _ lt]
    rw [tUp_up] at R3
    have hxi := hx _ (getD_mem lt)
    refine cUnb ht hS R3 hxi (by omega) (by omega) fun h4 R4 => cBox ht hS R4 rfl hxi (by omega) (by omega) fun h5 R5 => ?_
    have et' : tUp (tUp k t (tLi (m2 + nI i) ((ys ++ xs.take i).map (tbx G)))) it (tIt (nI (i + 1)) (nI i) m a) t = some (tLi (m2 + nI i) ((ys ++ xs.take i).map (tbx G))) := by rw [tUp_n itt, tUp_s]
    refine tOcZ R5 et' (tC.i R5 (tJ2_add ht hS et' (by rw [List.length_map, List.length_append, List.length_take]; omega) ⟨_, _, R5.bx hS hxi⟩ (d := d - 1) (by omega)) (by omega) (by omega) fun h6 R6 => ?_)
    refine (ih lt h6 (nI i) ?_).wide (by omega)
    have e2 : tUp (tUp (tUp k t (tLi (m2 + nI i) ((ys ++ xs.take i).map (tbx G)))) it (tIt (nI (i + 1)) (nI i) m a)) t (tLi (m2 + nI i + 1) ((ys ++ xs.take i).map (tbx G) ++ [tbx G (xs.getD i 0)])) = tUp (tUp k t (tLi (m2 + nI (i + 1)) ((ys ++ xs.take (i + 1)).map (tbx G)))) it (tIt (nI (i + 1)) (nI i) m a) := by
      funext c
      by_cases e : c = t
      · subst e
        rw [tUp_s, tUp_n itt, tUp_s]
        have hx0 : xs.take (i + 1) = xs.take i ++ [xs.getD i 0] := by
          rw [List.take_add_one, List.getElem?_eq_getElem lt, List.getD_eq_getElem?_getD, List.getElem?_eq_getElem lt]; rfl
        rw [hx0, Int32.add_assoc, nI_1]
        simp
      · rw [tUp_n e]
        by_cases e2 : c = it
        · rw [e2, tUp_s, tUp_s]
        · rw [tUp_n e2, tUp_n e2, tUp_n e, tUp_n e]
    rw [e2] at R6
    exact R6
theorem tCp (R : tR G k h) {a b N0 N1 : Nat} {f g : Nat → Int32} {m : Nat} {p : zH → Prop} (ea : k a = some (tAr .int N0 fun i => .int (f i))) (eb : k b = some (tAr .int N1 fun i => .int (g i))) (bb : zb G ≤ b) (hm : m ≤ N0) (hm2 : m ≤ N1) (hm3 : m < 2 ^ 31) {x : Int32} (hx : x = nI m) (q : ∀ h1, tR G (tUp k b (tAr .int N1 fun i => .int (if i < m then f i else g i))) h1 → p h1) : zCp G h .int a 0 b 0 x p := by
  subst hx
  have cm : (nI m).toNatClampNeg = m := nI_clamp (by omega)
  refine zAw.k (R.e ea) (zAw.k (R.e eb) ⟨bb, by decide, by decide, nI_pos (by omega), by rw [cm]; show 0 + m ≤ N0; omega, by rw [cm]; show 0 + m ≤ N1; omega, fun i hi => Or.inl ⟨_, rfl, rfl⟩, fun h1 e1 => q h1 ?_⟩)
  have := R.up (x' := .inl (.int, N1, fun i => .int (if i < m then f i else g i))) eb bb (by rintro ⟨ci, fs, z⟩; cases z)
  rw [e1, cm]
  have e : va_cpy (fun i => Value.int (f i)) (fun i => Value.int (g i)) (0 : Int32).toNatClampNeg (0 : Int32).toNatClampNeg m = fun i => Value.int (if i < m then f i else g i) := by
    funext i
    show (if 0 ≤ i ∧ i < 0 + m then Value.int (f (0 + (i - 0))) else Value.int (g i)) = _
    by_cases w : i < m
    · rw [if_pos (by omega), if_pos w, Nat.zero_add, Nat.sub_zero]
    · rw [if_neg (by omega), if_neg w]
  rw [e]; exact this
theorem cOut_ne (D : cD G A n) {b : Nat} (hb : ¬ cOut A n b) : b = A.1 ∨ (∃ j, j < 5 ∧ b = A.2.1 j) ∨ ∃ i, i < n ∧ b = A.2.2 i := by
  refine Classical.byContradiction fun q => hb ⟨fun e => q (Or.inl e), fun j hj e => q (Or.inr (Or.inl ⟨j, hj, e⟩)), fun i hi e => q (Or.inr (Or.inr ⟨i, hi, e⟩))⟩
theorem tX2_copy (ht : l.stackTraces = false) (hS : tS G) (D : cD G A (cN c)) (X : cQ b E T c r) (hd : 9 ≤ d) : tC l G d MX2_copy [.ref A.1] (cK G k A c) 220 (tqR tNo fun x k' => ∃ (A' : cA) (c' : cS), A'.1 = x ∧ cD G A' (cN c') ∧ (∀ b, ¬ cOut A' (cN c') b → cK G k A c b = none) ∧ cEq c c' ∧ k' = cK G (cK G k A c) A' c') := by
  intro h R
  have n40 := X.n40
  have l1 : (cL c 1).length ≤ cN c := X.len (z := 0) (by omega)
  have l2 : (cL c 2).length ≤ cN c := X.len (z := 1) (by omega)
  have l3 := X.lenP
  refine zCt.of kX2_copy ht (by simp [Value.category]) (Nat.le_of_ble_eq_true rfl) ?_
  refine b_X2_copy_0 _ ⟨by omega, fun a ha ba h1 e1 => ?_⟩
  have ka := R.hn ha
  have R1 := R.new (x' := .inr (1, [.null, .null, .null, .null, .null, .int 0, .int 0, .int 0, .int 0, .int 0, .int 0, .int 0, .int 0])) ha ba
  rw [← e1] at R1
  refine tCall.V R1 (tX2_init ht hS ka ba (d := d - 1) (by omega)) (by omega) (by omega) (fun k' h2 R2 w => ?_) (fun E k' h' _ w => w.elim)
  obtain ⟨A0, a1, D0, none0, rfl⟩ := w
  have out0 : ∀ b, cK G k A c b ≠ none → cOut A0 0 b := fun b hb => Classical.byContradiction fun q => hb (none0 b q)
  have src : ∀ (A' : cA) (c' : cS) (b : Nat), cOut A' (cN c') b → cK G (cK G k A c) A' c' b = cK G k A c b := fun A' c' b ho => cK_o ho
  have oA : cOut A0 (cN cS0) A.1 := out0 _ (by rw [cK_s]; exact fun z => by cases z)
  have oL : cOut A0 (cN cS0) (A.2.1 0) := out0 _ (by rw [cK_0 D]; exact fun z => by cases z)
  have eL : cK G (cK G k A c) A0 cS0 (A.2.1 0) = some (tLi c.2.2.2.1.1 ((List.range (cN c)).map A.2.2)) := by rw [cK_o oL, cK_0 D]
  refine tGr R2 (by rw [cK_o oA, cK_s]) rfl (tOcZ R2 eL (tCall.R R2 (tJ2_iterator ht eL (d := d - 1) (by omega)) (by omega) (by omega) (fun it k' h3 R3 w => ?_) (fun E k' h' _ w => w.elim)))
  obtain ⟨i1, i2, rfl⟩ := w
  have oit : cOut A0 (cN cS0) it := cK_fresh (c := cS0) D0 i1
  rw [cK_o oit] at i1
  rw [cK_up oit] at R3
  subst a1
  have ne_of : ∀ b, cK G k A c b ≠ none → b ≠ it := fun b hb q => by rw [q] at hb; exact hb i1
  refine zInd (N := cN c) (P := fun i => ∀ (A' : cA) (c' : cS) h w, A'.1 = A0.1 → cD G A' (cN c') → (∀ b, ¬ cOut A' (cN c') b → cK G k A c b = none) → cOut A' (cN c') it → cN c' = i → c'.1 = cS0.1 → cB c' = cS0.2.1 → c'.2.2.1 = cS0.2.2.1 → (∀ j, j < i → cG c' j = cG c j) → tR G (cK G (tUp (cK G k A c) it (tIt (nI i) w c.2.2.2.1.1 (A.2.1 0))) A' c') h → zV l G d 220 MX2_copy _ 16 [some (.ref A.1), some (.ref A0.1), some (.ref it), none] [] h (7 + 2 * i)) ?_ 0 (Nat.zero_le _) A0 cS0 h3 (-1) rfl D0 none0 oit rfl rfl rfl rfl (fun j hj => by omega) R3
  intro i hi ih A' c' h w eA D' none' oit' eN e1 eB e22 eG R
  have out' : ∀ b, cK G k A c b ≠ none → cOut A' (cN c') b := fun b hb => Classical.byContradiction fun q => hb (none' b q)
  have rd : ∀ (o : t_O) b v, cK G k A c b = some v → cK G (tUp (cK G k A c) it o) A' c' b = some v := fun o b v hb => by
    rw [cK_o (out' b (by rw [hb]; exact fun z => by cases z)), tUp_n (ne_of b (by rw [hb]; exact fun z => by cases z))]; exact hb
  have rit : ∀ o, cK G (tUp (cK G k A c) it o) A' c' it = some o := fun o => by rw [cK_o oit', tUp_s]
  refine b_X2_copy_16 _ _ _ (tOc R (rit _) (tC.i R (tJ12_hasNext ht (rd _ _ _ (cK_0 D)) (rit _) (by rw [List.length_map, List.length_range]; exact hi) (d := d - 1)) (by omega) (by omega) fun h2 R2 => ⟨fun q => ?_, fun q => ?_⟩))
  · have hin : i = cN c := by
      have := zbi_eq0.mp q
      rw [decide_eq_false_iff_not, List.length_map, List.length_range] at this
      omega
    subst hin
    -- the iterator is forgotten
    have R3 : tR G (cK G (cK G k A c) A' c') h2 := cK_fg i1 i2 R2
    have rd2 : ∀ (c2 : cS) b v, cN c2 = cN c' → cK G k A c b = some v → cK G (cK G k A c) A' c2 b = some v := fun c2 b v hn hb => by
      rw [cK_o (by rw [hn]; exact out' b (by rw [hb]; exact fun z => by cases z))]; exact hb
    have neL : ∀ (c2 : cS) (j j' : Nat), cN c2 = cN c' → 1 ≤ j → j ≤ 3 → A.2.1 j ≠ A'.2.1 j' ∨ 5 ≤ j' := fun c2 j j' hn h1 h3 => by
      by_cases z : j' < 5
      · exact Or.inl ((out' (A.2.1 j) (by rw [cK_l D h1 h3]; exact fun z => by cases z)).2.1 j' z)
      · exact Or.inr (by omega)
    have cl : ∀ q, cL c' q = [] := fun q => by simp only [cL, e22]; rfl
    have cm : ∀ q, (c'.2.2.1 q).1 = 0 := fun q => by rw [e22]; rfl
    have mlt : ∀ z, z ≤ 1 → ∀ x ∈ cL c (1 + z), x < 128 := fun z hz x hx => by have := (((X.row hz).1 x).mp hx).1; omega
    rw [← eA]
    have g1 : ∀ (c2 : cS) (h : zH) (j : Nat) (p : Nat → Prop), tR G (cK G (cK G k A c) A' c2) h → cN c2 = cN c' → j < 5 → p (A.2.1 j) → zGr h A.1 1 j p := fun c2 h j p R hn hj hp => by
      have : j = 0 ∨ j = 1 ∨ j = 2 ∨ j = 3 ∨ j = 4 := by omega
      rcases this with w | w | w | w | w <;> subst w <;> exact tGr R (rd2 c2 _ _ hn cK_s) rfl hp
    have g2 : ∀ (c2 : cS) (h : zH) (j : Nat) (p : Nat → Prop), tR G (cK G (cK G k A c) A' c2) h → j < 5 → p (A'.2.1 j) → zGr h A'.1 1 j p := fun c2 h j p R hj hp => by
      have : j = 0 ∨ j = 1 ∨ j = 2 ∨ j = 3 ∨ j = 4 := by omega
      rcases this with w | w | w | w | w <;> subst w <;> exact cGr R rfl hp
    refine g1 c' h2 1 _ R3 rfl (by omega) (g2 c' h2 1 _ R3 (by omega) ?_)
    refine tC.v R3 (tX2_adds ht hS (rd2 c' _ _ rfl (cK_l D (j := 1) (by omega) (by omega))) (ys := []) (by rw [cK_l D' (j := 1) (by omega) (by omega), cl]) ((neL c' 1 1 rfl (by omega) (by omega)).resolve_right (by omega)) (mlt 0 (by omega)) (by simp; omega) (d := d - 1) (by omega)) (by omega) (by omega) fun h4 R4 => ?_
    rw [cW_l D' 1 (by omega) (by omega), List.nil_append] at R4
    refine g1 _ h4 2 _ R4 rfl (by omega) (g2 _ h4 2 _ R4 (by omega) ?_)
    refine tC.v R4 (tX2_adds ht hS (rd2 _ _ _ rfl (cK_l D (j := 2) (by omega) (by omega))) (ys := []) (by rw [cK_l D' (c := cSl c' 1 _ _) (j := 2) (by omega) (by omega)]; show some (tLi _ ((c'.2.2.1 2).2.map _)) = _; rw [show (c'.2.2.1 2).2 = [] from cl 2]) ((neL c' 2 2 rfl (by omega) (by omega)).resolve_right (by omega)) (mlt 1 (by omega)) (by simp; omega) (d := d - 1) (by omega)) (by omega) (by omega) fun h5 R5 => ?_
    rw [cW_l (c := cSl c' 1 _ _) D' 2 (by omega) (by omega), List.nil_append] at R5
    refine g1 _ h5 3 _ R5 rfl (by omega) (g2 _ h5 3 _ R5 (by omega) ?_)
    refine tC.v R5 (tX2_adds ht hS (rd2 _ _ _ rfl (cK_l D (j := 3) (by omega) (by omega))) (ys := []) (by rw [cK_l D' (c := cSl (cSl c' 1 _ _) 2 _ _) (j := 3) (by omega) (by omega)]; show some (tLi _ ((c'.2.2.1 3).2.map _)) = _; rw [show (c'.2.2.1 3).2 = [] from cl 3]) ((neL c' 3 3 rfl (by omega) (by omega)).resolve_right (by omega)) (fun x hx => by have := ((X.pa.1 x).mp hx).1; omega) (by simp; omega) (d := d - 1) (by omega)) (by omega) (by omega) fun h6 R6 => ?_
    rw [cW_l (c := cSl (cSl c' 1 _ _) 2 _ _) D' 3 (by omega) (by omega), List.nil_append] at R6
    refine g1 _ h6 4 _ R6 rfl (by omega) (g2 _ h6 4 _ R6 (by omega) ⟨by omega, tCp R6 (rd2 _ _ _ rfl (cK_b D)) (cK_b (c := cSl (cSl (cSl c' 1 _ _) 2 _ _) 3 _ _) D') (D'.2.1 4 (by omega)).1 (m := 8) (by omega) (by omega) (by omega) rfl fun h7 R7 => ?_⟩)
    let c4 : cS := (c'.1, (fun i => if i < 8 then cB c i else cB c' i), (cSl (cSl (cSl c' 1 ((c'.2.2.1 1).1 + nI (cL c 1).length) (cL c 1)) 2 ((c'.2.2.1 2).1 + nI (cL c 2).length) (cL c 2)) 3 ((c'.2.2.1 3).1 + nI (cL c 3).length) (cL c 3)).2.2)
    have R8 : tR G (cK G (cK G k A c) A' c4) h7 := by
      have e : tUp (cK G (cK G k A c) A' (cSl (cSl (cSl c' 1 ((c'.2.2.1 1).1 + nI (cL c 1).length) (cL c 1)) 2 ((c'.2.2.1 2).1 + nI (cL c 2).length) (cL c 2)) 3 ((c'.2.2.1 3).1 + nI (cL c 3).length) (cL c 3))) (A'.2.1 4) (tAr .int 8 fun i => .int (if i < 8 then cB c i else cB c' i)) = cK G (cK G k A c) A' c4 := by
        refine cK_ext rfl ?_ fun b hb => ?_
        · rw [cK_b (c := c4) D']
        · unfold cK; rw [if_neg hb, if_neg hb]; rfl
      rw [← e]; exact R7
    have fi : ∀ (c2 : cS) (h : zH) (j : Nat) (p : Int32 → Prop), tR G (cK G (cK G k A c) A' c2) h → cN c2 = cN c' → zFd (cOs A c) j = .int (c.1 j) → p (c.1 j) → zGi h A.1 1 j p := fun c2 h j p R hn hj hp => tGi R (rd2 c2 _ _ hn cK_s) hj hp
    refine fi c4 h7 5 _ R8 rfl rfl (cPf R8 D' rfl fun h8 R9 => ?_)
    refine fi _ h8 6 _ R9 rfl rfl (cPf R9 D' rfl fun h9 R10 => ?_)
    refine fi _ h9 7 _ R10 rfl rfl (cPf R10 D' rfl fun h10 R11 => ?_)
    refine fi _ h10 8 _ R11 rfl rfl (cPf R11 D' rfl fun h11 R12 => ?_)
    refine fi _ h11 9 _ R12 rfl rfl (cPf R12 D' rfl fun h12 R13 => ?_)
    refine fi _ h12 10 _ R13 rfl rfl (cPf R13 D' rfl fun h13 R14 => ?_)
    refine fi _ h13 11 _ R14 rfl rfl (cPf R14 D' rfl fun h14 R15 => ?_)
    refine fi _ h14 12 _ R15 rfl rfl (cPf R15 D' rfl fun h15 R16 => ⟨by omega, _, R16, A', (cSf (cSf (cSf (cSf (cSf (cSf (cSf (cSf c4 5 (c.1 5)) 6 (c.1 6)) 7 (c.1 7)) 8 (c.1 8)) 9 (c.1 9)) 10 (c.1 10)) 11 (c.1 11)) 12 (c.1 12)), rfl, D', none', ⟨eN, fun j h5 h12 => ?_, fun j hj => ?_, fun q q1 q3 => ?_, fun i hi => eG i hi⟩, rfl⟩)
    · have : j = 5 ∨ j = 6 ∨ j = 7 ∨ j = 8 ∨ j = 9 ∨ j = 10 ∨ j = 11 ∨ j = 12 := by omega
      rcases this with w | w | w | w | w | w | w | w <;> subst w <;> rfl
    · show (if j < 8 then cB c j else cB c' j) = _
      rw [if_pos hj]
    · have : q = 1 ∨ q = 2 ∨ q = 3 := by omega
      rcases this with w | w | w <;> subst w <;> rfl
  · have lt : i < cN c := by
      rw [zbi_eq0, Bool.not_eq_false, decide_eq_true_eq, List.length_map, List.length_range] at q; exact q
    refine tOc R2 (rit _) (tC.r R2 (tJ12_next ht (rd _ _ _ (cK_0 D)) (rit _) i2 (i := i) (by rw [List.length_map, List.length_range]; exact lt) (d := d - 1) (by omega)) (by omega) (by omega) fun h3 R3 => ?_)
    rw [range_getD _ lt]
    rw [cK_up oit', tUp_up] at R3
    have ec := rd (tIt (nI (i + 1)) (nI i) c.2.2.2.1.1 (A.2.1 0)) _ _ (cK_c D lt)
    refine tOc R3 ec ?_
    rw [← eA]
    refine cGr R3 rfl (tOc R3 ec (tCall.R R3 (tX5_copy ht ec (d := d - 1) (by omega)) (by omega) (by omega) (fun x k' h4 R4 w => ?_) (fun E k' h' _ w => w.elim)))
    obtain ⟨x1, x2, rfl⟩ := w
    have ox := cK_fresh D' x1
    have e0 : tUp (cK G (tUp (cK G k A c) it (tIt (nI (i + 1)) (nI i) c.2.2.2.1.1 (A.2.1 0))) A' c') x (tOb 2 (cOc (cG c i))) (A'.2.1 0) = some (tLi c'.2.2.2.1.1 ((List.range (cN c')).map A'.2.2)) := by
      rw [tUp_n (fun e => ox.2.1 0 (by omega) e.symm), cK_0 D']
    refine tOcZ R4 e0 (tC.i R4 (tJ2_add ht hS e0 (by rw [List.length_map, List.length_range]; omega) ⟨_, _, tUp_s _ _ _⟩ (d := d - 1) (by omega)) (by omega) (by omega) fun h5 R5 => ?_)
    rw [cK_new D' ox] at R5
    rw [eA]
    have hxit : it ≠ x := by intro e; rw [← e, cK_o oit', tUp_s] at x1; cases x1
    refine (ih lt (cAp A' (cN c') x) (cSn c' (cG c i)) h5 (nI i) eA (cD_ap D' ox x2) (fun b hb => ?_) (cOut_ap oit' hxit) (by show cN c' + 1 = i + 1; rw [eN]) e1 eB e22 (fun j hj => ?_) R5).wide (by omega)
    · by_cases e : b = x
      · rw [e]
        rw [cK_o ox, tUp_n hxit.symm] at x1
        exact x1
      · exact none' b fun z => hb (cOut_ap z e)
    · show (if j = cN c' then cG c i else cG c' j) = _
      by_cases e : j = cN c'
      · rw [if_pos e, e, eN]
      · rw [if_neg e]; exact eG j (by omega)
end CC
