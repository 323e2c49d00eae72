/-! stored states beside the current one; what is refused; what changes -/
section W5
variable {l : Launch} {G : zG} {k k2 : t_H} {B : wB} {A A' : cA} {c c' : cS} {u : wU} {h : zH} {d mc n b E T st : Nat} {r : Nat → Int32} {RX : String → zH → Nat → Prop}
def wDj (A' : cA) (n' : Nat) (A : cA) (n : Nat) : Prop := ∀ b, ¬ cOut A' n' b → cOut A n b
def wFr (A' : cA) (n' : Nat) (B : wB) : Prop := ∀ b, ¬ cOut A' n' b → wN B b
theorem wDj.sy {n n' : Nat} (h : wDj A' n' A n) : wDj A n A' n' := fun b hb => Classical.byContradiction fun q => hb (h b q)
theorem cK_in2 (D : cD G A (cN c)) {b : Nat} (hb : ¬ cOut A (cN c) b) : cK G k A c b = cK G k2 A c b := by
  rcases cOut_ne D hb with rfl | ⟨j, hj, rfl⟩ | ⟨i, hi, rfl⟩
  · rw [cK_s, cK_s]
  · rcases Nat.eq_zero_or_pos j with z | z
    · subst z; rw [cK_0 D, cK_0 D]
    · rcases Nat.lt_or_ge j 4 with z2 | z2
      · rw [cK_l D z (by omega), cK_l D z (by omega)]
      · obtain rfl : j = 4 := by omega
        rw [cK_b D, cK_b D]
  · rw [cK_c D hi, cK_c D hi]
theorem cK_cm (D : cD G A (cN c)) (D' : cD G A' (cN c')) (j : wDj A' (cN c') A (cN c)) : cK G (cK G k A c) A' c' = cK G (cK G k A' c') A c := by
  funext b
  by_cases o' : cOut A' (cN c') b
  · rw [cK_o o']
    by_cases o : cOut A (cN c) b
    · rw [cK_o o, cK_o o, cK_o o']
    · exact cK_in2 D o
  · rw [cK_o (c := c) (j b o')]
    exact cK_in2 D' o'
theorem wC_cK (f : wFr A' (cN c') B) : wC (cK G k A' c') B st u = cK G (wC k B st u) A' c' := by
  funext b
  by_cases o : cOut A' (cN c') b
  · rw [cK_o o, wC, wC, cK_o o]
  · have N := f b o
    rw [wC_o N]
    by_cases e : cK G k A' c' b = cK G (wC k B st u) A' c' b
    · exact e
    · exfalso
      apply e
      unfold cK
      rw [wC_o N]
theorem wK_cK (D : cD G A (cN c)) (D' : cD G A' (cN c')) (j : wDj A' (cN c') A (cN c)) (f : wFr A' (cN c') B) : cK G (wK G k B st A c u) A' c' = wK G (cK G k A' c') B st A c u := by
  rw [wK, cK_cm D D' j, ← wC_cK f, wK]
/-- those that are stored: each lies in the base, far from the current state, from the main object and from each other -/
def wSt (G : zG) (k : t_H) (A : cA) (n : Nat) (B : wB) (L : List (cA × cS)) : Prop :=
  (∀ p ∈ L, cD G p.1 (cN p.2) ∧ cK G k p.1 p.2 = k ∧ wDj p.1 (cN p.2) A n ∧ wFr p.1 (cN p.2) B) ∧ L.Pairwise (fun p q => wDj p.1 (cN p.2) q.1 (cN q.2))
theorem cK_id_new (D : cD G A (cN c)) (D' : cD G A' (cN c')) (j : wDj A' (cN c') A (cN c)) (e : cK G k A c = k) : cK G (cK G k A' c') A c = cK G k A' c' := by
  rw [← cK_cm D D' j, e]
theorem cK_idem (D : cD G A (cN c)) : cK G (cK G k A c) A c = cK G k A c := by
  funext b
  by_cases o : cOut A (cN c) b
  · rw [cK_o o]
  · exact cK_in2 D o
/-- an address where the base holds something is far from what is new -/
theorem wDj_new (D : cD G A (cN c)) (e : cK G k A c = k) (hn : ∀ b, ¬ cOut A' (cN c') b → k b = none) : wDj A' (cN c') A (cN c) := fun b hb =>
  Classical.byContradiction fun q => by
    have := hn b hb
    rw [← e] at this
    exact cK_in q D this
theorem wSt.push {L : List (cA × cS)} {n : Nat} (S : wSt G k A n B L) (D' : cD G A' (cN c')) (hn : ∀ b, ¬ cOut A' (cN c') b → k b = none) (j : wDj A' (cN c') A n) (f : wFr A' (cN c') B) : wSt G (cK G k A' c') A n B (L ++ [(A', c')]) := by
  refine ⟨fun p hp => ?_, List.pairwise_append.mpr ⟨S.2, List.pairwise_singleton _ _, fun p hp q hq => ?_⟩⟩
  · rcases List.mem_append.mp hp with hp | hp
    · obtain ⟨s1, s2, s3, s4⟩ := S.1 p hp
      exact ⟨s1, cK_id_new s1 D' (wDj_new s1 s2 hn) s2, s3, s4⟩
    · obtain rfl := List.mem_singleton.mp hp
      exact ⟨D', cK_idem D', j, f⟩
  · obtain rfl := List.mem_singleton.mp hq
    obtain ⟨s1, s2, s3, s4⟩ := S.1 p hp
    exact (wDj_new s1 s2 hn).sy
theorem wSt.sub {L L' : List (cA × cS)} {n : Nat} (S : wSt G k A n B L) (h : List.Sublist L' L) : wSt G k A n B L' :=
  ⟨fun p hp => S.1 p (h.subset hp), S.2.sublist h⟩
/-! refusals -/
def wRf (G : zG) (k : t_H) (B : wB) (st : Nat) (A : cA) (c : cS) (u : wU) (x y : Int32) (E : String) (k' : t_H) : Prop :=
  E = xU ∧ ∃ a, k a = none ∧ cOut A (cN c) a ∧ wN B a ∧ zb G ≤ a ∧ k' = wK G (tUp k a (tOb 3 [.int x, .int y, .null])) B st A c (u.1, u.2.1, u.2.2.1, u.2.2.2.1, some a)
theorem tX4_init (ht : l.stackTraces = false) {a : Nat} {v0 v1 v2 : Value} (e : k a = some (tOb 3 [v0, v1, v2])) (ab : zb G ≤ a) (x y : Int32) (o : Option Nat) (hd : 1 ≤ d) : tC l G d MX4_init [.ref a, .int x, .int y, va_rf o] k 0 (tVr (tUp k a (tOb 3 [.int x, .int y, va_rf o]))) := by
  intro h R
  refine zCt.of kX4_init ht (by cases o <;> simp [Value.category, va_rf]) (Nat.le_of_ble_eq_true rfl) ?_
  refine b_X4_init_0 _ _ _ _ ⟨hd, tPf R e ab fun h1 R1 => tPf R1 (tUp_s _ _ _) ab fun h2 R2 => tPf R2 (tUp_s _ _ _) ab fun h3 R3 => ⟨Nat.le_refl _, _, R3, ?_⟩⟩
  rw [tUp_up, tUp_up]; rfl
theorem tX1_refuse (ht : l.stackTraces = false) (D : cD G A (cN c)) (W : wD G B A (cN c)) (w x y : Int32) (hd : 7 ≤ d) : tC l G d MX1_refuse [.ref B.1, .int w, .int x, .int y] (wK G k B st A c u) 2 (tqV (fun E k' => w ≠ 0 ∧ wRf G k B st A c u x y E k') (fun k' => w = 0 ∧ k' = wK G k B st A c u)) := by
  intro h R
  refine zCt.of kX1_refuse ht (by simp [Value.category]) (Nat.le_of_ble_eq_true rfl) ?_
  refine b_X1_refuse_0 _ _ _ _ ⟨fun z => ⟨by omega, _, R, z, rfl⟩, fun z => ⟨by omega, fun a ha ba h1 e1 => ?_⟩⟩
  have ka := R.hn ha
  obtain ⟨ho, N, k0⟩ := wK_fresh D ka
  have R1 := R.new (x' := .inr (3, [.int 0, .int 0, .null])) ha ba
  rw [← e1, wK_up N ho] at R1
  have ea : ∀ o, wK G (tUp k a o) B st A c u a = some o := fun o => by rw [wK, cK_o ho, wC_o N, tUp_s]
  refine tC.v R1 (tX4_init ht (ea _) ba x y none (d := d - 1) (by omega)) (by omega) (by omega) fun h2 R2 => ?_
  rw [wK_up N ho, tUp_up] at R2
  exact wPf R2 W st (u.1, u.2.1, u.2.2.1, u.2.2.2.1, some a) rfl rfl rfl fun h3 R3 => ⟨by omega, by omega, _, R3, z, rfl, a, k0, ho, N, ba, rfl⟩
theorem tX1_inRange (ht : l.stackTraces = false) (D : cD G A (cN c)) (W : wD G B A (cN c)) (x lo hi : Int32) (hd : 8 ≤ d) : tC l G d MX1_inRange [.ref B.1, .int x, .int lo, .int hi] (wK G k B st A c u) 2 (tqV (fun E k' => zbt x lo hi = false ∧ wRf G k B st A c u 1 x E k') (fun k' => zbt x lo hi = true ∧ k' = wK G k B st A c u)) := by
  intro h R
  refine zCt.of kX1_inRange ht (by simp [Value.category]) (Nat.le_of_ble_eq_true rfl) ?_
  refine b_X1_inRange_0 _ _ _ _ (zCall.P (s_between ht (d := d - 1)) (by omega) (by omega) ⟨fun q => ?_, fun q => ?_⟩)
  · rw [zbi_eq0, Bool.not_eq_false] at q
    exact wOc R W (tCall.V R (tX1_refuse ht D W 0 1 x (d := d - 1) (by omega)) (by omega) (by omega) (fun k' h1 R1 v => ⟨by omega, _, R1, q, v.2⟩) (fun E k' h1 R1 v => absurd rfl v.1))
  · have q := zbi_eq0.mp (Classical.not_not.mp q)
    exact wOc R W (tCall.V R (tX1_refuse ht D W 1 1 x (d := d - 1) (by omega)) (by omega) (by omega) (fun k' h1 R1 v => absurd v.1 (by decide)) (fun E k' h1 R1 v => ⟨by omega, _, R1, q, v.2⟩))
theorem tX1_mustBeOther (ht : l.stackTraces = false) (D : cD G A (cN c)) (W : wD G B A (cN c)) (x y : Int32) (hd : 8 ≤ d) : tC l G d MX1_mustBeOther [.ref B.1, .int x, .int y] (wK G k B st A c u) 2 (tqV (fun E k' => x = y ∧ wRf G k B st A c u 4 x E k') (fun k' => x ≠ y ∧ k' = wK G k B st A c u)) := by
  intro h R
  refine zCt.of kX1_mustBeOther ht (by simp [Value.category]) (Nat.le_of_ble_eq_true rfl) ?_
  refine b_X1_mustBeOther_0 _ _ _ ⟨fun q => ?_, fun q => ?_⟩
  · exact wOc R W (tCall.V R (tX1_refuse ht D W 0 4 x (d := d - 1) (by omega)) (by omega) (by omega) (fun k' h1 R1 v => ⟨by omega, _, R1, q, v.2⟩) (fun E k' h1 R1 v => absurd rfl v.1))
  · exact wOc R W (tCall.V R (tX1_refuse ht D W 1 4 x (d := d - 1) (by omega)) (by omega) (by omega) (fun k' h1 R1 v => absurd v.1 (by decide)) (fun E k' h1 R1 v => ⟨by omega, _, R1, Classical.not_not.mp q, v.2⟩))
theorem cQ.gone (X : cQ b E T c r) (x : Int32) : (rCart r x = false ∧ rGone r x = true) ∨ ∃ i, i < cN c ∧ x = nI i ∧ rCart r x = true ∧ rGone r x = !rHe r i := by
  have n40 := X.n40
  rcases X.cart x with ⟨e, i, hi, rfl⟩ | ⟨e, -⟩
  · refine Or.inr ⟨i, hi, rfl, e, ?_⟩
    rw [rCart] at e
    rw [rGone, e, nI_clamp (by omega), rHe]
    rcases (X.va hi).2.1 with w | w | w | w <;> rw [w] <;> decide
  · refine Or.inl ⟨e, ?_⟩
    rw [rCart] at e
    rw [rGone, e]; rfl
theorem tX1_mustBeThere (ht : l.stackTraces = false) (D : cD G A (cN c)) (W : wD G B A (cN c)) (X : cQ b E T c r) (x : Int32) (hd : 8 ≤ d) : tC l G d MX1_mustBeThere [.ref B.1, .int x] (wK G k B A.1 A c u) 2 (tqR (fun E k' => rGone r x = true ∧ wRf G k B A.1 A c u 3 x E k') (fun a k' => (∃ i, i < cN c ∧ x = nI i ∧ a = A.2.2 i ∧ rc r i 2 ≤ 1 ∧ rGone r x = false) ∧ k' = wK G k B A.1 A c u)) := by
  intro h R
  have n40 := X.n40
  refine zCt.of kX1_mustBeThere ht (by simp [Value.category]) (Nat.le_of_ble_eq_true rfl) ?_
  refine b_X1_mustBeThere_0 _ _ (wGr R W rfl (cOo R (tC.i R (tX2_isCart ht D x (d := d - 1) (by omega)) (by omega) (by omega) fun h1 R1 => ?_)))
  rw [← X.1.1.1, ← rCart]
  rcases X.gone x with ⟨g1, g2⟩ | ⟨i, hi, rfl, g1, g2⟩
  · rw [g1]
    refine ⟨fun _ => wOc R1 W (tCall.V R1 (tX1_refuse ht D W 1 3 x (d := d - 1) (by omega)) (by omega) (by omega) (fun k' h1 R1 v => absurd v.1 (by decide)) (fun E k' h1 R1 v => ⟨by omega, _, R1, g2, v.2⟩)), fun z => absurd rfl z⟩
  · rw [g1]
    refine ⟨fun z => absurd z (by decide), fun _ => wGr R1 W rfl (cGr R1 rfl (cGet ht R1 D rfl hi (by omega) (by omega) fun h2 R2 => ccOc R2 D hi (ccOc R2 D hi (tC.i R2 (tX5_isThere ht D X hi (d := d - 1)) (by omega) (by omega) fun h3 R3 => ?_))))⟩
    cases e : rHe r i with
    | true =>
      rw [e] at g2
      refine ⟨fun _ => wOc R3 W (tCall.V R3 (tX1_refuse ht D W 0 3 (nI i) (d := d - 1) (by omega)) (by omega) (by omega) (fun k' h4 R4 v => ?_) (fun E k' h1 R1 v => absurd rfl v.1)), fun z => absurd (by decide) z⟩
      obtain ⟨-, rfl⟩ := v
      exact wGr R4 W rfl (cGr R4 rfl (cGet ht R4 D rfl hi (by omega) (by omega) fun h5 R5 => ccOc R5 D hi ⟨by omega, _, R5, ⟨i, hi, rfl, rfl, by rw [rHe, decide_eq_true_eq] at e; exact e, g2⟩, rfl⟩))
    | false =>
      rw [e] at g2
      exact ⟨fun z => absurd rfl z, fun _ => wOc R3 W (tCall.V R3 (tX1_refuse ht D W 1 3 (nI i) (d := d - 1) (by omega)) (by omega) (by omega) (fun k' h1 R1 v => absurd v.1 (by decide)) (fun E k' h1 R1 v => ⟨by omega, _, R1, g2, v.2⟩))⟩
/-! what was is kept -/
def wPush (xs : List Nat) (y : Nat) : List Nat := if xs.length < 8 then xs ++ [y] else (xs ++ [y]).tail
/-- what 'change' leaves behind -/
def wCx (G : zG) (k : t_H) (B : wB) (A : cA) (c : cS) (u : wU) (k1 : t_H) (u1 : wU) : Prop :=
  (u.2.2.2.1.1 = 0 ∧ ∃ (A' : cA) (c' : cS), cD G A' (cN c') ∧ (∀ b, ¬ cOut A' (cN c') b → k b = none) ∧ wDj A' (cN c') A (cN c) ∧ wFr A' (cN c') B ∧ cEq c c' ∧ k1 = cK G k A' c' ∧ u1 = (u.1, wPush u.2.1 A'.1, u.2.2)) ∨ (u.2.2.2.1.1 ≠ 0 ∧ k1 = k ∧ u1 = u)
theorem tX1_change (ht : l.stackTraces = false) (hS : tS G) (D : cD G A (cN c)) (W : wD G B A (cN c)) (X : cQ b E T c r) (hl : u.2.1.length ≤ 8) (hd : 10 ≤ d) : tC l G d MX1_change [.ref B.1] (wK G k B A.1 A c u) 220 (tqV tNo fun k' => ∃ k1 u1, wCx G k B A c u k1 u1 ∧ k' = wK G k1 B A.1 A c u1) := by
  intro h R
  refine zCt.of kX1_change ht (by simp [Value.category]) (Nat.le_of_ble_eq_true rfl) ?_
  refine b_X1_change_0 _ (wGi R W rfl ⟨fun q => wGr R W rfl (wGr R W rfl (cOo R (tCall.R R (tX2_copy ht hS D X (d := d - 1) (by omega)) (by omega) (by omega) (fun x k' h1 R1 v => ?_) (fun E k' h' _ w => w.elim)))), fun q => ⟨by omega, _, R, _, _, Or.inr ⟨q, rfl, rfl⟩, rfl⟩⟩)
  obtain ⟨A', c', rfl, D', fr, ce, rfl⟩ := v
  have fr2 : ∀ b, ¬ cOut A' (cN c') b → cOut A (cN c) b ∧ wN B b ∧ k b = none := fun b hb => wK_fresh D (fr b hb)
  have j : wDj A' (cN c') A (cN c) := fun b hb => (fr2 b hb).1
  have f : wFr A' (cN c') B := fun b hb => (fr2 b hb).2.1
  have e1 : cK G (cK G (wC k B A.1 u) A c) A' c' = wK G (cK G k A' c') B A.1 A c u := wK_cK D D' j f
  rw [e1] at R1
  have ex : wK G (cK G k A' c') B A.1 A c u A'.1 = some (tOb 1 (cOs A' c')) := by rw [← e1, cK_s]
  refine tOcZ R1 (wK_2 W) (tC.v R1 (tJ3_addLast ht (wK_2 W) (y := A'.1) (by omega) ⟨_, _, ex⟩ (d := d - 1) (by omega)) (by omega) (by omega) fun h2 R2 => ?_)
  rw [wW_2 W] at R2
  refine wGr R2 W rfl (tOcZ R2 (wK_2 W) (tC.i R2 (tJ3_size ht (wK_2 W) (d := d - 1) (by omega)) (by omega) (by omega) fun h3 R3 => ?_))
  have el : (u.2.1 ++ [A'.1]).length = u.2.1.length + 1 := by simp
  show (nI (u.2.1 ++ [A'.1]).length ≤ 8 → _) ∧ _
  have e8 : (8 : Int32) = nI 8 := rfl
  rw [el, e8, nI_leI (by omega) (by omega)]
  refine ⟨fun z => ⟨by omega, _, R3, _, _, Or.inl ⟨q, A', c', D', fun b hb => (fr2 b hb).2.2, j, f, ce, rfl, rfl⟩, ?_⟩, fun z => wGr R3 W rfl ?_⟩
  · rw [wPush, if_pos (by omega)]
  · obtain ⟨y, ys, ey⟩ : ∃ y ys, u.2.1 ++ [A'.1] = y :: ys := by
      cases e : u.2.1 ++ [A'.1] with
      | nil => simp at e
      | cons y ys => exact ⟨y, ys, rfl⟩
    have e2 : wK G (cK G k A' c') B A.1 A c (u.1, u.2.1 ++ [A'.1], u.2.2) B.2.1 = some (tDq (y :: ys)) := by rw [wK_2 W]; show some (tDq (u.2.1 ++ [A'.1])) = _; rw [ey]
    refine tOcZ R3 e2 (tC.r R3 (tJ3_removeFirst ht e2 (d := d - 1) (by omega)) (by omega) (by omega) fun h4 R4 => ?_)
    rw [wW_2 W] at R4
    refine ⟨by omega, _, R4, _, _, Or.inl ⟨q, A', c', D', fun b hb => (fr2 b hb).2.2, j, f, ce, rfl, rfl⟩, ?_⟩
    rw [wPush, if_neg (by omega), ey]; rfl
end W5
