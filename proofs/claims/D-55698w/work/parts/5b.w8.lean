/-! undo, save, restore, reason -/
section W8
variable {l : Launch} {G : zG} {k k1 : t_H} {B : wB} {A A' : cA} {c c' : cS} {u u1 : wU} {h : zH} {d mc n n' b E T st : Nat} {r : Nat → Int32} {RX : String → zH → Nat → Prop}
theorem wD.fr (W : wD G B A n) : wFr A n B := fun b hb =>
  ⟨fun q => hb (by rw [q]; exact W.2.2.1), fun q => hb (by rw [q]; exact W.2.2.2.1), fun q => hb (by rw [q]; exact W.2.2.2.2.1), fun q => hb (by rw [q]; exact W.2.2.2.2.2)⟩
theorem wFr.wd (W : wD G B A n) (f : wFr A' n' B) : wD G B A' n' :=
  ⟨W.1, W.2.1, Classical.byContradiction fun q => (f _ q).1 rfl, Classical.byContradiction fun q => (f _ q).2.1 rfl, Classical.byContradiction fun q => (f _ q).2.2.1 rfl, Classical.byContradiction fun q => (f _ q).2.2.2 rfl⟩
/-- a stored state becomes the current one -/
theorem wK_sw (D : cD G A (cN c)) (D' : cD G A' (cN c')) (j : wDj A' (cN c') A (cN c)) (f : wFr A (cN c) B) (f' : wFr A' (cN c') B) (e : cK G k A' c' = k) : wK G k B st A c u = wK G (cK G k A c) B st A' c' u := by
  rw [wK, wK, wC_cK f, cK_cm D D' j, ← wC_cK f', e]
theorem wK_has (D : cD G A (cN c)) (D' : cD G A' (cN c')) (j : wDj A' (cN c') A (cN c)) (f' : wFr A' (cN c') B) (e : cK G k A' c' = k) : cK G (wK G k B st A c u) A' c' = wK G k B st A c u := by
  rw [wK_cK D D' j f', e]
theorem tX1_save (ht : l.stackTraces = false) (hS : tS G) (D : cD G A (cN c)) (W : wD G B A (cN c)) (X : cQ b E T c r) (hd : 10 ≤ d) : tC l G d MX1_save [.ref B.1] (wK G k B A.1 A c u) 220 (tqI tNo fun y k' => y = r 0 ∧ ∃ (A' : cA) (c' : cS), cD G A' (cN c') ∧ (∀ b, ¬ cOut A' (cN c') b → k b = none) ∧ wDj A' (cN c') A (cN c) ∧ wFr A' (cN c') B ∧ cEq c c' ∧ k' = wK G (cK G k A' c') B A.1 A c (some A'.1, u.2)) := by
  intro h R
  refine zCt.of kX1_save ht (by simp [Value.category]) (Nat.le_of_ble_eq_true rfl) ?_
  refine b_X1_save_0 _ (wGr R W rfl (cOo R (tCall.R R (tX2_copy ht hS D X (d := d - 1) (by omega)) (by omega) (by omega) (fun x k' h1 R1 v => ?_) (fun E k' h' _ w => w.elim))))
  obtain ⟨A', c', rfl, D', fr, ce, rfl⟩ := v
  have fr2 : ∀ b, ¬ cOut A' (cN c') b → cOut A (cN c) b ∧ wN B b ∧ k b = none := fun b hb => wK_fresh D (fr b hb)
  have j : wDj A' (cN c') A (cN c) := fun b hb => (fr2 b hb).1
  have f : wFr A' (cN c') B := fun b hb => (fr2 b hb).2.1
  have e1 : cK G (cK G (wC k B A.1 u) A c) A' c' = wK G (cK G k A' c') B A.1 A c u := wK_cK D D' j f
  rw [e1] at R1
  refine wPf R1 W A.1 (some A'.1, u.2) rfl rfl rfl fun h2 R2 => wGr R2 W rfl (cGr R2 rfl (cSize0 ht R2 D (by omega) (by omega) fun h3 R3 => ⟨by omega, _, R3, X.1.1.1.symm, A', c', D', fun b hb => (fr2 b hb).2.2, j, f, ce, rfl⟩))
theorem tX1_undo0 (ht : l.stackTraces = false) (W : wD G B A (cN c)) (e : u.2.1 = []) (hd : 8 ≤ d) : tC l G d MX1_undo [.ref B.1] (wK G k B st A c u) 1 (tqI (fun E k' => E = xS ∧ k' = wK G k B st A c u) (fun _ _ => False)) := by
  intro h R
  refine zCt.of kX1_undo ht (by simp [Value.category]) (Nat.le_of_ble_eq_true rfl) ?_
  refine b_X1_undo_0 _ (wGr R W rfl (tOcZ R (wK_2 W) (tC.i R (tJ3_isEmpty ht (wK_2 W) (d := d - 1)) (by omega) (by omega) fun h1 R1 => ?_)))
  rw [e]
  exact ⟨fun _ => cCheckS ht (by omega) (by omega) (fun z => absurd rfl z) (fun _ => ⟨by omega, _, R1, rfl, rfl⟩), fun z => absurd (by decide) z⟩
theorem tX1_undo (ht : l.stackTraces = false) (D : cD G A (cN c)) (W : wD G B A (cN c)) (D' : cD G A' (cN c')) (j : wDj A' (cN c') A (cN c)) (f : wFr A' (cN c') B) (e : cK G k A' c' = k) {xs : List Nat} (hx : u.2.1 = xs ++ [A'.1]) (hd : 8 ≤ d) : tC l G d MX1_undo [.ref B.1] (wK G k B st A c u) 1 (tIr (nI xs.length) (wK G (cK G k A c) B A'.1 A' c' (u.1, xs, u.2.2))) := by
  intro h R
  refine zCt.of kX1_undo ht (by simp [Value.category]) (Nat.le_of_ble_eq_true rfl) ?_
  refine b_X1_undo_0 _ (wGr R W rfl (tOcZ R (wK_2 W) (tC.i R (tJ3_isEmpty ht (wK_2 W) (d := d - 1)) (by omega) (by omega) fun h1 R1 => ?_)))
  have ne : zbi u.2.1.isEmpty = 0 := by rw [hx]; cases xs <;> rfl
  refine ⟨fun z => absurd ne z, fun _ => cCheckS ht (by omega) (by omega) (fun _ => wGr R1 W rfl ?_) (fun z => absurd z (by decide))⟩
  have e2 : wK G k B st A c u B.2.1 = some (tDq (xs ++ [A'.1])) := by rw [wK_2 W, hx]
  refine tOcZ R1 e2 (tC.r R1 (tJ3_removeLast ht e2 (d := d - 1) (by omega)) (by omega) (by omega) fun h2 R2 => ?_)
  rw [wW_2 W] at R2
  have ea : wK G k B st A c (u.1, xs, u.2.2) A'.1 = some (tOb 1 (cOs A' c')) := by rw [← wK_has D D' j f e, cK_s]
  refine tOc R2 ea (wPf R2 W A'.1 (u.1, xs, u.2.2) rfl rfl rfl fun h3 R3 => wGr R3 W rfl (tOcZ R3 (wK_2 W) (tC.i R3 (tJ3_size ht (wK_2 W) (d := d - 1) (by omega)) (by omega) (by omega) fun h4 R4 => ⟨by omega, _, R4, rfl, ?_⟩)))
  exact wK_sw D D' j W.fr f e
theorem tX1_restore0 (ht : l.stackTraces = false) (W : wD G B A (cN c)) (e : u.1 = none) (hd : 8 ≤ d) : tC l G d MX1_restore [.ref B.1] (wK G k B st A c u) 1 (tqI (fun E k' => E = xS ∧ k' = wK G k B st A c u) (fun _ _ => False)) := by
  intro h R
  refine zCt.of kX1_restore ht (by simp [Value.category]) (Nat.le_of_ble_eq_true rfl) ?_
  refine b_X1_restore_0 _ (wGn R W (x := none) (by show va_rf u.1 = _; rw [e]) ⟨fun _ => cCheckS ht (by omega) (by omega) (fun z => absurd rfl z) (fun _ => ⟨by omega, _, R, rfl, rfl⟩), (fun a q => by cases q)⟩)
theorem tX1_restore (ht : l.stackTraces = false) (hS : tS G) {A1 : cA} {c1 : cS} (D : cD G A (cN c)) (W : wD G B A (cN c)) (D1 : cD G A1 (cN c1)) (j1 : wDj A1 (cN c1) A (cN c)) (f1 : wFr A1 (cN c1) B) (e1 : cK G k A1 c1 = k) (X1 : cQ b E T c1 r) (hx : u.1 = some A1.1) (hd : 10 ≤ d) : tC l G d MX1_restore [.ref B.1] (wK G k B st A c u) 221 (tqI tNo fun y k' => y = r 0 ∧ ∃ (A' : cA) (c' : cS), cD G A' (cN c') ∧ (∀ b, ¬ cOut A' (cN c') b → k b = none) ∧ wDj A' (cN c') A (cN c) ∧ wFr A' (cN c') B ∧ cEq c1 c' ∧ k' = wK G (cK G (cK G k A' c') A c) B A'.1 A' c' (u.1, [], u.2.2)) := by
  intro h R
  refine zCt.of kX1_restore ht (by simp [Value.category]) (Nat.le_of_ble_eq_true rfl) ?_
  refine b_X1_restore_0 _ (wGn R W (x := some A1.1) (by show va_rf u.1 = _; rw [hx]) ⟨(fun q => by cases q), fun a q => ?_⟩)
  refine cCheckS ht (by omega) (by omega) (fun _ => wGr R W (x := A1.1) (by show va_rf u.1 = _; rw [hx]; rfl) ?_) (fun z => absurd z (by decide))
  have eh := wK_has (st := st) (u := u) D D1 j1 f1 e1
  have R0 : tR G (cK G (wK G k B st A c u) A1 c1) h := by rw [eh]; exact R
  refine cOo R0 (tCall.R R0 (tX2_copy ht hS D1 X1 (d := d - 1) (by omega)) (by omega) (by omega) (fun x k' h1 R1 v => ?_) (fun E k' h' _ w => w.elim))
  obtain ⟨A', c', rfl, D', fr, ce, rfl⟩ := v
  rw [eh] at fr R1
  have fr2 : ∀ b, ¬ cOut A' (cN c') b → cOut A (cN c) b ∧ wN B b ∧ k b = none := fun b hb => wK_fresh D (fr b hb)
  have j : wDj A' (cN c') A (cN c) := fun b hb => (fr2 b hb).1
  have f : wFr A' (cN c') B := fun b hb => (fr2 b hb).2.1
  rw [wK_cK D D' j f] at R1
  have e2 : cK G (cK G k A' c') A' c' = cK G k A' c' := cK_idem D'
  refine wPf R1 W A'.1 u rfl rfl rfl fun h2 R2 => wGr R2 W rfl (tOcZ R2 (wK_2 W) (tC.v R2 (tJ3_clear ht (wK_2 W) (d := d - 1) (by omega)) (by omega) (by omega) fun h3 R3 => ?_))
  rw [wW_2 W, wK_sw D D' j W.fr f e2] at R3
  have W' : wD G B A' (cN c') := wFr.wd W f
  exact wGr R3 W' rfl (cGr R3 rfl (cSize0 ht R3 D' (by omega) (by omega) fun h4 R4 => ⟨by omega, _, R4, by rw [ce.1]; exact X1.1.1.1.symm, A', c', D', fun b hb => (fr2 b hb).2.2, j, f, ce, rfl⟩))
theorem tX1_faultPosition (ht : l.stackTraces = false) (W : wD G B A (cN c)) : tC l G d MX1_faultPosition [.ref B.1] (wK G k B st A c u) 0 (tIr u.2.2.2.1.2 (wK G k B st A c u)) := by
  intro h R
  refine zCt.of kX1_faultPosition ht (by simp [Value.category]) (Nat.le_of_ble_eq_true rfl) ?_
  exact b_X1_faultPosition_0 _ (wGi R W rfl ⟨Nat.le_refl _, _, R, rfl, rfl⟩)
/-- a reason, and what it was caused by -/
abbrev wR : Type := Option ((Int32 × Int32) × Option (Int32 × Int32))
def wRs (K : t_H) (o : Option Nat) (rs : wR) : Prop :=
  match rs with
  | none => o = none
  | some (p, none) => ∃ a, o = some a ∧ K a = some (tOb 3 [.int p.1, .int p.2, .null])
  | some (p, some p2) => ∃ a a2, o = some a ∧ K a = some (tOb 3 [.int p.1, .int p.2, .ref a2]) ∧ K a2 = some (tOb 3 [.int p2.1, .int p2.2, .null])
def wRv (rs : wR) (x : Int32) : Option (Int32 × Int32) :=
  match rs with
  | none => none
  | some (p, q) => if x = 0 then some p else q
theorem tX1_reason (ht : l.stackTraces = false) (W : wD G B A (cN c)) {rs : wR} (hr : wRs (wK G k B st A c u) u.2.2.2.2 rs) (x y : Int32) (hd : 8 ≤ d) : tC l G d MX1_reason [.ref B.1, .int x, .int y] (wK G k B st A c u) 1 (wLk (wK G k B st A c u) (fun E => (E = xA ∧ zbt x 0 1 = false) ∨ (E = xN ∧ zbt x 0 1 = true ∧ wRv rs x = none)) (fun v => zbt x 0 1 = true ∧ ∃ p, wRv rs x = some p ∧ v = if y = 0 then p.1 else p.2)) := by
  intro h R
  refine zCt.of kX1_reason ht (by simp [Value.category]) (Nat.le_of_ble_eq_true rfl) ?_
  refine b_X1_reason_0 _ _ _ (zCall.P (s_between ht (d := d - 1)) (by omega) (by omega) (cCheck ht (by omega) (by omega) (fun q => ?_) (fun q => ⟨by omega, _, R, Or.inl ⟨rfl, zbi_eq0.mp q⟩, rfl⟩)))
  rw [zbi_eq0, Bool.not_eq_false] at q
  have z7 : zFd (wOs B st u) 7 = va_rf u.2.2.2.2 := rfl
  have get : ∀ {K : t_H} {h : zH} {a : Nat} {p : Int32 × Int32} {w : Value}, tR G K h → K = wK G k B st A c u → K a = some (tOb 3 [.int p.1, .int p.2, w]) → wRv rs x = some p → zCall l G d 1 MX1_checkElement [.int 1] h 0 (zRV (zXo 1 fun r h' => ∃ k', tR G k' h' ∧ wLk (wK G k B st A c u) (fun E => (E = xA ∧ zbt x 0 1 = false) ∨ (E = xN ∧ zbt x 0 1 = true ∧ wRv rs x = none)) (fun v => zbt x 0 1 = true ∧ ∃ p, wRv rs x = some p ∧ v = if y = 0 then p.1 else p.2) r k') (fun h17 n16 => ((y = 0) → zGi h17 a 3 0 (fun x19 => n16 ≤ 1 ∧ ∃ k', tR G k' h17 ∧ wLk (wK G k B st A c u) (fun E => (E = xA ∧ zbt x 0 1 = false) ∨ (E = xN ∧ zbt x 0 1 = true ∧ wRv rs x = none)) (fun v => zbt x 0 1 = true ∧ ∃ p, wRv rs x = some p ∧ v = if y = 0 then p.1 else p.2) (.inl (some (.int x19))) k')) ∧ (¬ (y = 0) → zGi h17 a 3 1 (fun x20 => n16 ≤ 1 ∧ ∃ k', tR G k' h17 ∧ wLk (wK G k B st A c u) (fun E => (E = xA ∧ zbt x 0 1 = false) ∨ (E = xN ∧ zbt x 0 1 = true ∧ wRv rs x = none)) (fun v => zbt x 0 1 = true ∧ ∃ p, wRv rs x = some p ∧ v = if y = 0 then p.1 else p.2) (.inl (some (.int x20))) k')))) := by
    intro K h a p w R eK ea hp
    subst eK
    refine cCheckN ht (by omega) (by omega) (fun _ => ⟨fun y0 => tGi R ea rfl ⟨by omega, _, R, ⟨q, p, hp, by rw [if_pos y0]⟩, rfl⟩, fun y0 => tGi R ea rfl ⟨by omega, _, R, ⟨q, p, hp, by rw [if_neg y0]⟩, rfl⟩⟩) (fun z => absurd z (by decide))
  have no : ∀ {h : zH} {pp : zH → Nat → Prop}, tR G (wK G k B st A c u) h → wRv rs x = none → zCall l G d 1 MX1_checkElement [.int 0] h 0 (zRV (zXo 1 fun r h' => ∃ k', tR G k' h' ∧ wLk (wK G k B st A c u) (fun E => (E = xA ∧ zbt x 0 1 = false) ∨ (E = xN ∧ zbt x 0 1 = true ∧ wRv rs x = none)) (fun v => zbt x 0 1 = true ∧ ∃ p, wRv rs x = some p ∧ v = if y = 0 then p.1 else p.2) r k') pp) := fun R e =>
    cCheckN ht (by omega) (by omega) (fun z => absurd rfl z) (fun _ => ⟨by omega, _, R, Or.inr ⟨rfl, q, e⟩, rfl⟩)
  rcases rs with _ | ⟨p, _ | p2⟩
  · have hr : u.2.2.2.2 = none := hr
    refine wGn R W (x := none) (by rw [z7, hr]) ⟨fun _ => wGn R W (x := none) (by rw [z7, hr]) ⟨fun _ => no R rfl, (fun a q => by cases q)⟩, (fun a q => by cases q)⟩
  · obtain ⟨a, hr, ea⟩ : ∃ a, u.2.2.2.2 = some a ∧ _ := hr
    refine wGn R W (x := some a) (by rw [z7, hr]) ⟨(fun q => by cases q), fun a' q2 => ⟨fun x0 => wGr R W (x := a) (by rw [z7, hr]; rfl) (tGn R ea (x := none) rfl ⟨fun _ => no R ?_, (fun a q => by cases q)⟩), fun x0 => wGn R W (x := some a) (by rw [z7, hr]) ⟨(fun q => by cases q), fun a' q2 => ?_⟩⟩⟩
    · rw [wRv, if_neg x0]
    · cases q2
      exact get R rfl ea (by rw [wRv, if_pos (Classical.not_not.mp x0)])
  · obtain ⟨a, a2, hr, ea, ea2⟩ : ∃ a a2, u.2.2.2.2 = some a ∧ _ := hr
    refine wGn R W (x := some a) (by rw [z7, hr]) ⟨(fun q => by cases q), fun a' q2 => ⟨fun x0 => wGr R W (x := a) (by rw [z7, hr]; rfl) (tGn R ea (x := some a2) rfl ⟨(fun q => by cases q), fun a' q2 => ?_⟩), fun x0 => wGn R W (x := some a) (by rw [z7, hr]) ⟨(fun q => by cases q), fun a' q2 => ?_⟩⟩⟩
    · cases q2
      exact get R rfl ea2 (by rw [wRv, if_neg x0])
    · cases q2
      exact get R rfl ea (by rw [wRv, if_pos (Classical.not_not.mp x0)])
end W8
