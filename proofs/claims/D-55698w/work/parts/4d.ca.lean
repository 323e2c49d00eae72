/-! new carts, new states, copies -/
def cNew (num side load came : Int32) : Nat → Int32 := fun j => match j with
  | 0 => num
  | 1 => side
  | 2 => load
  | 3 => came
  | 5 => -1
  | 6 => -1
  | 9 => came
  | _ => 0
/-- a state's content at its start -/
def cS0 : cS := (fun j => if j = 5 then 4 else if j = 7 then 2 else 0, fun i => if i < 8 then -1 else 0, fun _ => (0, []), (0, 0), fun _ _ => 0)
/-- a cart more, at x -/
def cAp (A : cA) (n x : Nat) : cA := (A.1, A.2.1, fun i => if i = n then x else A.2.2 i)
def cSn (c : cS) (g : Nat → Int32) : cS := (c.1, c.2.1, c.2.2.1, (c.2.2.2.1.1 + 1, cN c + 1), fun i => if i = cN c then g else cG c i)
section CB
variable {l : Launch} {G : zG} {k : t_H} {A : cA} {c : cS} {h : zH} {d mc n b E T : Nat} {r : Nat → Int32} {RX : String → zH → Nat → Prop}
theorem tX5_init (ht : l.stackTraces = false) {x : Nat} {g : Nat → Int32} (e : k x = some (tOb 2 (cOc g))) (bx : zb G ≤ x) (h7 : g 7 = 0 ∧ g 8 = 0 ∧ g 10 = 0) (a b' c' d' : Int32) (hd : 1 ≤ d) : tC l G d MX5_init [.ref x, .int a, .int b', .int c', .int d'] k 0 (tVr (tUp k x (tOb 2 (cOc (cNew a b' c' d'))))) := by
  intro h R
  refine zCt.of kX5_init ht (by simp [Value.category]) (Nat.le_of_ble_eq_true rfl) ?_
  refine b_X5_init_0 _ _ _ _ _ ⟨hd, tPf R e bx fun h1 R1 => tPf R1 (tUp_s _ _ _) bx fun h2 R2 => tPf R2 (tUp_s _ _ _) bx fun h3 R3 => tPf R3 (tUp_s _ _ _) bx fun h4 R4 => tPf R4 (tUp_s _ _ _) bx fun h5 R5 => tPf R5 (tUp_s _ _ _) bx fun h6 R6 => tPf R6 (tUp_s _ _ _) bx fun h7' R7 => tPf R7 (tUp_s _ _ _) bx fun h8 R8 => ⟨Nat.le_refl _, _, R8, ?_⟩⟩
  rw [tUp_up, tUp_up, tUp_up, tUp_up, tUp_up, tUp_up, tUp_up]
  obtain ⟨q1, q2, q3⟩ := h7
  simp only [cOc, cNew, zFs, q1, q2, q3]
  rfl
theorem tX5_copy (ht : l.stackTraces = false) {a : Nat} {g : Nat → Int32} (e : k a = some (tOb 2 (cOc g))) (hd : 2 ≤ d) : tC l G d MX5_copy [.ref a] k 1 (tqR tNo fun x k' => k x = none ∧ zb G ≤ x ∧ k' = tUp k x (tOb 2 (cOc g))) := by
  intro h R
  refine zCt.of kX5_copy ht (by simp [Value.category]) (Nat.le_of_ble_eq_true rfl) ?_
  refine b_X5_copy_0 _ ⟨by omega, fun x hx bx h2 e2 => ?_⟩
  have xk := R.hn hx
  have ax : a ≠ x := by intro q; rw [q, xk] at e; cases e
  have R2 : tR G (tUp k x (tOb 2 (cOc fun _ => 0))) h2 := by rw [e2]; exact R.new hx bx
  have ea : ∀ o, tUp k x o a = some (tOb 2 (cOc g)) := fun o => by rw [tUp_n ax]; exact e
  refine tGi R2 (ea _) rfl (tGi R2 (ea _) rfl (tGi R2 (ea _) rfl (tGi R2 (ea _) rfl (tC.v R2 (tX5_init ht (tUp_s _ _ _) bx ⟨rfl, rfl, rfl⟩ _ _ _ _ (d := d - 1) (by omega)) (by omega) (by omega) fun h3 R3 => ?_))))
  rw [tUp_up] at R3
  refine tGi R3 (ea _) rfl (tPf R3 (tUp_s _ _ _) bx fun h4 R4 => ?_); rw [tUp_up] at R4
  refine tGi R4 (ea _) rfl (tPf R4 (tUp_s _ _ _) bx fun h5 R5 => ?_); rw [tUp_up] at R5
  refine tGi R5 (ea _) rfl (tPf R5 (tUp_s _ _ _) bx fun h6 R6 => ?_); rw [tUp_up] at R6
  refine tGi R6 (ea _) rfl (tPf R6 (tUp_s _ _ _) bx fun h7 R7 => ?_); rw [tUp_up] at R7
  refine tGi R7 (ea _) rfl (tPf R7 (tUp_s _ _ _) bx fun h8 R8 => ?_); rw [tUp_up] at R8
  refine tGi R8 (ea _) rfl (tPf R8 (tUp_s _ _ _) bx fun h9 R9 => ?_); rw [tUp_up] at R9
  refine tGi R9 (ea _) rfl (tPf R9 (tUp_s _ _ _) bx fun h10 R10 => ?_); rw [tUp_up] at R10
  exact ⟨by omega, _, R10, xk, bx, rfl⟩
theorem cOut_of (D : cD G A n) {b : Nat} (hb : b < zb G) : cOut A n b := by
  refine ⟨fun q => ?_, fun j hj q => ?_, fun i hi q => ?_⟩
  · have := D.1; omega
  · have := (D.2.1 j hj).1; omega
  · have := (D.2.2.2.1 i hi).1; omega
/-- a cart is added to a state's carts -/
theorem cK_new (D : cD G A (cN c)) {x : Nat} {g : Nat → Int32} (hx : cOut A (cN c) x) : tUp (tUp (cK G k A c) x (tOb 2 (cOc g))) (A.2.1 0) (tLi (c.2.2.2.1.1 + 1) ((List.range (cN c)).map A.2.2 ++ [x])) = cK G k (cAp A (cN c) x) (cSn c g) := by
  have hr : (List.range (cN c)).map A.2.2 ++ [x] = (List.range (cN c + 1)).map (cAp A (cN c) x).2.2 := by
    rw [List.range_succ, List.map_append, List.map_singleton]
    congr 1
    · refine List.map_congr_left fun i hi => ?_
      rw [List.mem_range] at hi
      exact (if_neg (by omega)).symm
    · exact congrArg (fun z => [z]) (if_pos rfl).symm
  rw [hr]
  funext b
  have hix : ∀ b, b ≠ x → cIx (cAp A (cN c) x).2.2 (cN c + 1) b = cIx A.2.2 (cN c) b := by
    intro b hb
    rw [cIx, if_neg (by show b ≠ (if cN c = cN c then x else _); rw [if_pos rfl]; exact hb)]
    have : ∀ m, m ≤ cN c → cIx (cAp A (cN c) x).2.2 m b = cIx A.2.2 m b := by
      intro m
      induction m with
      | zero => intro _; rfl
      | succ m ih =>
        intro hm
        rw [cIx, cIx, ih (by omega)]
        have : (cAp A (cN c) x).2.2 m = A.2.2 m := if_neg (by omega)
        rw [this]
    exact this _ (Nat.le_refl _)
  by_cases e0 : b = A.2.1 0
  · subst e0
    rw [tUp_s]
    show _ = if A.2.1 0 = A.1 then _ else if A.2.1 0 = A.2.1 0 then _ else _
    rw [if_neg (D.2.1 0 (by omega)).2, if_pos rfl]; rfl
  · rw [tUp_n e0]
    by_cases ex : b = x
    · subst ex
      rw [tUp_s]
      show _ = if b = A.1 then _ else if b = A.2.1 0 then _ else if b = A.2.1 1 then _ else if b = A.2.1 2 then _ else if b = A.2.1 3 then _ else if b = A.2.1 4 then _ else match cIx (cAp A (cN c) b).2.2 (cN c + 1) b with
        | some i => _
        | none => _
      rw [if_neg hx.1, if_neg (hx.2.1 0 (by omega)), if_neg (hx.2.1 1 (by omega)), if_neg (hx.2.1 2 (by omega)), if_neg (hx.2.1 3 (by omega)), if_neg (hx.2.1 4 (by omega))]
      have : cIx (cAp A (cN c) b).2.2 (cN c + 1) b = some (cN c) := by
        rw [cIx, if_pos]
        exact (if_pos rfl).symm
      rw [this]
      show _ = some (tOb 2 (cOc (if cN c = cN c then g else _)))
      rw [if_pos rfl]
    · rw [tUp_n ex]
      show cK G k A c b = if b = A.1 then _ else if b = A.2.1 0 then _ else if b = A.2.1 1 then _ else if b = A.2.1 2 then _ else if b = A.2.1 3 then _ else if b = A.2.1 4 then _ else match cIx (cAp A (cN c) x).2.2 (cN c + 1) b with
        | some i => some (tOb 2 (cOc (if i = cN c then g else cG c i)))
        | none => k b
      rw [hix b ex]
      unfold cK
      by_cases ea : b = A.1
      · rw [if_pos ea, if_pos ea]; rfl
      · rw [if_neg ea, if_neg ea, if_neg e0, if_neg e0]
        cases q : cIx A.2.2 (cN c) b with
        | none => rfl
        | some i =>
          have : i ≠ cN c := by have := (cIx_some q).1; omega
          simp only [this, if_false]; rfl
theorem cD_ap (D : cD G A n) {x : Nat} (hx : cOut A n x) (bx : zb G ≤ x) : cD G (cAp A n x) (n + 1) := by
  refine ⟨D.1, D.2.1, D.2.2.1, fun i hi => ?_, fun i j hi hj hij => ?_⟩
  · show zb G ≤ (if i = n then x else A.2.2 i) ∧ (if i = n then x else A.2.2 i) ≠ A.1 ∧ ∀ j, j < 5 → (if i = n then x else A.2.2 i) ≠ A.2.1 j
    by_cases e : i = n
    · rw [if_pos e]; exact ⟨bx, hx.1, hx.2.1⟩
    · rw [if_neg e]; exact D.2.2.2.1 i (by omega)
  · show (if i = n then x else A.2.2 i) ≠ (if j = n then x else A.2.2 j)
    by_cases e : i = n
    · rw [if_pos e, if_neg (by omega)]; exact hx.2.2 j (by omega)
    · rw [if_neg e]
      by_cases e2 : j = n
      · rw [if_pos e2]; exact fun q => hx.2.2 i (by omega) q.symm
      · rw [if_neg e2]; exact D.2.2.2.2 i j (by omega) (by omega) hij
theorem cOut_ap {x b : Nat} (h : cOut A n b) (hb : b ≠ x) : cOut (cAp A n x) (n + 1) b := by
  refine ⟨h.1, h.2.1, fun i hi => ?_⟩
  show b ≠ (if i = n then x else A.2.2 i)
  by_cases e : i = n
  · rw [if_pos e]; exact hb
  · rw [if_neg e]; exact h.2.2 i (by omega)
/-- a new state -/
theorem tX2_init (ht : l.stackTraces = false) (hS : tS G) {a : Nat} (ka : k a = none) (ba : zb G ≤ a) (hd : 4 ≤ d) : tC l G d MX2_init [.ref a] (tUp k a (tOb 1 [.null, .null, .null, .null, .null, .int 0, .int 0, .int 0, .int 0, .int 0, .int 0, .int 0, .int 0])) 5 (tqV tNo fun k' => ∃ A : cA, A.1 = a ∧ cD G A 0 ∧ (∀ b, ¬ cOut A 0 b → k b = none) ∧ k' = cK G k A cS0) := by
  intro h R
  refine zCt.of kX2_init ht (by simp [Value.category]) (Nat.le_of_ble_eq_true rfl) ?_
  refine b_X2_init_0 _ ⟨by omega, by omega, fun a0 h0 b0 h1 e1 => ?_⟩
  have k0 := R.hn h0
  have R1 := R.new (x' := .inr (11, [.int 0, .null, .int 0])) h0 b0
  rw [← e1] at R1
  have n0 : a ≠ a0 := by intro q; rw [q, tUp_s] at k0; cases k0
  have k00 : k a0 = none := by rw [tUp_n n0.symm] at k0; exact k0
  refine tC.v R1 (tJ2_init ht hS (tUp_s _ _ _) b0 (d := d - 1) (by omega)) (by omega) (by omega) fun h2 R2 => ?_
  rw [tUp_up] at R2
  refine tPf R2 (fs := [.null, .null, .null, .null, .null, .int 0, .int 0, .int 0, .int 0, .int 0, .int 0, .int 0, .int 0]) (by rw [tUp_n n0, tUp_s]) ba fun h3 R3 => ⟨by omega, fun a1 h4 b1 h5 e5 => ?_⟩
  have k1 := R3.hn h4
  have n1 : a ≠ a1 := by intro q; rw [q, tUp_s] at k1; cases k1
  have n01 : a0 ≠ a1 := by intro q; rw [tUp_n n1.symm, q, tUp_s] at k1; cases k1
  have k11 : k a1 = none := by rw [tUp_n n1.symm, tUp_n n01.symm, tUp_n n1.symm] at k1; exact k1
  have R5 := R3.new (x' := .inr (11, [.int 0, .null, .int 0])) h4 b1
  rw [← e5] at R5
  refine tC.v R5 (tJ2_init ht hS (tUp_s _ _ _) b1 (d := d - 1) (by omega)) (by omega) (by omega) fun h6 R6 => ?_
  rw [tUp_up] at R6
  refine tPf R6 (by rw [tUp_n n1, tUp_s]) ba fun h7 R7 => ⟨by omega, fun a2 h8 b2 h9 e9 => ?_⟩
  have k2 := R7.hn h8
  have n2 : a ≠ a2 := by intro q; rw [q, tUp_s] at k2; cases k2
  have n12 : a1 ≠ a2 := by intro q; rw [tUp_n n2.symm, q, tUp_s] at k2; cases k2
  have n02 : a0 ≠ a2 := by intro q; rw [tUp_n n2.symm, tUp_n n12.symm, tUp_n n2.symm, q, tUp_s] at k2; cases k2
  have k22 : k a2 = none := by rw [tUp_n n2.symm, tUp_n n12.symm, tUp_n n2.symm, tUp_n n02.symm, tUp_n n2.symm] at k2; exact k2
  have R9 := R7.new (x' := .inr (11, [.int 0, .null, .int 0])) h8 b2
  rw [← e9] at R9
  refine tC.v R9 (tJ2_init ht hS (tUp_s _ _ _) b2 (d := d - 1) (by omega)) (by omega) (by omega) fun h10 R10 => ?_
  rw [tUp_up] at R10
  refine tPf R10 (by rw [tUp_n n2, tUp_s]) ba fun h11 R11 => ⟨by omega, fun a3 h12 b3 h13 e13 => ?_⟩
  have k3 := R11.hn h12
  have n3 : a ≠ a3 := by intro q; rw [q, tUp_s] at k3; cases k3
  have n23 : a2 ≠ a3 := by intro q; rw [tUp_n n3.symm, q, tUp_s] at k3; cases k3
  have n13 : a1 ≠ a3 := by intro q; rw [tUp_n n3.symm, tUp_n n23.symm, tUp_n n3.symm, q, tUp_s] at k3; cases k3
  have n03 : a0 ≠ a3 := by intro q; rw [tUp_n n3.symm, tUp_n n23.symm, tUp_n n3.symm, tUp_n n13.symm, tUp_n n3.symm, q, tUp_s] at k3; cases k3
  have k33 : k a3 = none := by rw [tUp_n n3.symm, tUp_n n23.symm, tUp_n n3.symm, tUp_n n13.symm, tUp_n n3.symm, tUp_n n03.symm, tUp_n n3.symm] at k3; exact k3
  have R13 := R11.new (x' := .inr (11, [.int 0, .null, .int 0])) h12 b3
  rw [← e13] at R13
  refine tC.v R13 (tJ2_init ht hS (tUp_s _ _ _) b3 (d := d - 1) (by omega)) (by omega) (by omega) fun h14 R14 => ?_
  rw [tUp_up] at R14
  refine tPf R14 (by rw [tUp_n n3, tUp_s]) ba fun h15 R15 => ⟨⟨by decide, by decide, by decide⟩, fun a4 h16 b4 h17 e17 => ?_⟩
  have k4 := R15.hn h16
  have n4 : a ≠ a4 := by intro q; rw [q, tUp_s] at k4; cases k4
  have n34 : a3 ≠ a4 := by intro q; rw [tUp_n n4.symm, q, tUp_s] at k4; cases k4
  have n24 : a2 ≠ a4 := by intro q; rw [tUp_n n4.symm, tUp_n n34.symm, tUp_n n4.symm, q, tUp_s] at k4; cases k4
  have n14 : a1 ≠ a4 := by intro q; rw [tUp_n n4.symm, tUp_n n34.symm, tUp_n n4.symm, tUp_n n24.symm, tUp_n n4.symm, q, tUp_s] at k4; cases k4
  have n04 : a0 ≠ a4 := by intro q; rw [tUp_n n4.symm, tUp_n n34.symm, tUp_n n4.symm, tUp_n n24.symm, tUp_n n4.symm, tUp_n n14.symm, tUp_n n4.symm, q, tUp_s] at k4; cases k4
  have k44 : k a4 = none := by rw [tUp_n n4.symm, tUp_n n34.symm, tUp_n n4.symm, tUp_n n24.symm, tUp_n n4.symm, tUp_n n14.symm, tUp_n n4.symm, tUp_n n04.symm, tUp_n n4.symm] at k4; exact k4
  have R17 := R15.new (x' := .inl (.int, 8, fun _ => .int 0)) h16 b4
  have e17' : h17 = zUp h15 a4 (.inl (.int, 8, fun _ => .int 0)) := e17
  rw [← e17'] at R17
  refine tPf R17 (by rw [tUp_n n4, tUp_s]) ba fun h18 R18 => tPf R18 (tUp_s _ _ _) ba fun h19 R19 => ?_
  rw [tUp_up] at R19
  refine tPf R19 (tUp_s _ _ _) ba fun h20 R20 => ?_
  rw [tUp_up] at R20
  refine tPf R20 (tUp_s _ _ _) ba fun h21 R21 => ?_
  rw [tUp_up] at R21
  let A : cA := (a, (fun j => if j = 0 then a0 else if j = 1 then a1 else if j = 2 then a2 else if j = 3 then a3 else a4), fun _ => 0)
  let cb : Nat → cS := fun q => (cS0.1, (fun i => if i < q then -1 else 0), cS0.2.2)
  have DA : cD G A 0 := by
    refine ⟨ba, fun j hj => ?_, fun i j hi hj hij => ?_, fun i hi => by omega, fun i j hi => by omega⟩
    · have : j = 0 ∨ j = 1 ∨ j = 2 ∨ j = 3 ∨ j = 4 := by omega
      rcases this with w | w | w | w | w <;> subst w
      · exact ⟨b0, n0.symm⟩
      · exact ⟨b1, n1.symm⟩
      · exact ⟨b2, n2.symm⟩
      · exact ⟨b3, n3.symm⟩
      · exact ⟨b4, n4.symm⟩
    · have hi' : i = 0 ∨ i = 1 ∨ i = 2 ∨ i = 3 ∨ i = 4 := by omega
      have hj' : j = 0 ∨ j = 1 ∨ j = 2 ∨ j = 3 ∨ j = 4 := by omega
      rcases hi' with w | w | w | w | w <;> subst w <;> rcases hj' with v | v | v | v | v <;> subst v <;> first | exact absurd rfl hij | exact n01 | exact n02 | exact n03 | exact n04 | exact n12 | exact n13 | exact n14 | exact n23 | exact n24 | exact n34 | exact n01.symm | exact n02.symm | exact n03.symm | exact n04.symm | exact n12.symm | exact n13.symm | exact n14.symm | exact n23.symm | exact n24.symm | exact n34.symm
  have hnone : ∀ b, ¬ cOut A 0 b → k b = none := by
    intro b hb
    by_cases e : b = a
    · rw [e]; exact ka
    · by_cases e0 : b = a0
      · rw [e0]; exact k00
      · by_cases e1 : b = a1
        · rw [e1]; exact k11
        · by_cases e2 : b = a2
          · rw [e2]; exact k22
          · by_cases e3 : b = a3
            · rw [e3]; exact k33
            · by_cases e4 : b = a4
              · rw [e4]; exact k44
              · exfalso
                apply hb
                refine ⟨e, fun j hj => ?_, fun i hi => by omega⟩
                have : j = 0 ∨ j = 1 ∨ j = 2 ∨ j = 3 ∨ j = 4 := by omega
                rcases this with w | w | w | w | w <;> subst w <;> assumption
  have start : tR G (cK G k A (cb 0)) h21 := by
    refine R21.le (fun b w hw => ?_) (fun b w hb hw => ?_)
    · by_cases e : b = a
      · have hs : cK G k A (cb 0) b = some (tOb 1 (cOs A (cb 0))) := by rw [e]; exact cK_s
        rw [hs] at hw
        rw [e, tUp_s, ← hw]; rfl
      · rw [tUp_n e]
        by_cases e4 : b = a4
        · subst e4
          rw [tUp_s]
          have : cK G k A (cb 0) b = _ := cK_b DA
          rw [this] at hw
          rw [← hw]
          show some (tAr .int 8 fun _ => .int 0) = some (tAr .int 8 fun i => .int (if i < 0 then -1 else 0))
          congr 3
        · rw [tUp_n e4, tUp_n e]
          by_cases e3 : b = a3
          · subst e3
            rw [tUp_s]
            have : cK G k A (cb 0) b = _ := cK_l DA (j := 3) (by omega) (by omega)
            rw [this] at hw; exact hw
          · rw [tUp_n e3, tUp_n e]
            by_cases e2 : b = a2
            · subst e2
              rw [tUp_s]
              have : cK G k A (cb 0) b = _ := cK_l DA (j := 2) (by omega) (by omega)
              rw [this] at hw; exact hw
            · rw [tUp_n e2, tUp_n e]
              by_cases e1 : b = a1
              · subst e1
                rw [tUp_s]
                have : cK G k A (cb 0) b = _ := cK_l DA (j := 1) (by omega) (by omega)
                rw [this] at hw; exact hw
              · rw [tUp_n e1, tUp_n e]
                by_cases e0 : b = a0
                · subst e0
                  rw [tUp_s]
                  have : cK G k A (cb 0) b = _ := cK_0 DA
                  rw [this] at hw; exact hw
                · rw [tUp_n e0, tUp_n e]
                  have ho : cOut A (cN (cb 0)) b := by
                    refine ⟨e, fun j hj => ?_, fun i hi => absurd hi (Nat.not_lt_zero _)⟩
                    have : j = 0 ∨ j = 1 ∨ j = 2 ∨ j = 3 ∨ j = 4 := by omega
                    rcases this with w | w | w | w | w <;> subst w <;> assumption
                  rw [cK_o ho] at hw; exact hw
    · have ho : cOut A (cN (cb 0)) b := cOut_of DA hb
      rw [cK_o ho]
      rw [tUp_n (by omega), tUp_n (by omega), tUp_n (by omega), tUp_n (by omega), tUp_n (by omega), tUp_n (by omega), tUp_n (by omega), tUp_n (by omega), tUp_n (by omega), tUp_n (by omega), tUp_n (by omega)] at hw
      exact hw
  refine zInd (N := 8) (P := fun q => ∀ h, tR G (cK G k A (cb q)) h → zV l G d 5 MX2_init _ 73 [some (.ref a), some (.int (nI q))] [] h _) ?_ 0 (Nat.zero_le _) h21 start
  intro q hq ih h R
  refine b_X2_init_73 _ _ ?_
  refine pk_le 8 q (fun z => ⟨by decide, _, R, A, rfl, DA, hnone, ?_⟩) (fun z => ?_) rfl rfl
  · obtain rfl : q = 8 := by omega
    rfl
  · refine cGr (A := A) R rfl (cSt (A := A) R DA rfl z fun h2 R2 => ?_)
    rw [nI_1]
    refine ih z h2 ?_
    have : cSb (cb q) q (-1) = cb (q + 1) := by
      show (cS0.1, zuf (fun i => if i < q then -1 else 0) q (-1), cS0.2.2) = (cS0.1, (fun i => if i < q + 1 then (-1 : Int32) else 0), cS0.2.2)
      congr 2
      funext i
      show (if i = q then (-1 : Int32) else if i < q then -1 else 0) = _
      by_cases e : i = q
      · rw [if_pos e, if_pos (by omega)]
      · rw [if_neg e]
        by_cases e2 : i < q
        · rw [if_pos e2, if_pos (by omega)]
        · rw [if_neg e2, if_neg (by omega)]
    rw [← this]; exact R2
end CB
