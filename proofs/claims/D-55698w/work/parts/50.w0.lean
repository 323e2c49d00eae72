/-! the component's main object laid over other cells -/
/-- saved, history, (input, line), (isWithinText, faultPosition), reason -/
abbrev wU : Type := Option Nat × List Nat × (List Int32 × List Int32) × (Int32 × Int32) × Option Nat
/-- the object, history, input, line -/
abbrev wB : Type := Nat × Nat × Nat × Nat
def wOs (B : wB) (st : Nat) (u : wU) : List Value := [.ref st, va_rf u.1, .ref B.2.1, .ref B.2.2.1, .ref B.2.2.2, .int u.2.2.2.1.1, .int u.2.2.2.1.2, va_rf u.2.2.2.2]
def wC (k : t_H) (B : wB) (st : Nat) (u : wU) : t_H := fun b =>
  if b = B.1 then some (tOb 0 (wOs B st u))
  else if b = B.2.1 then some (tDq u.2.1)
  else if b = B.2.2.1 then some (tSb u.2.2.1.1)
  else if b = B.2.2.2 then some (tSb u.2.2.1.2)
  else k b
def wK (G : zG) (k : t_H) (B : wB) (st : Nat) (A : cA) (c : cS) (u : wU) : t_H := cK G (wC k B st u) A c
def wD (G : zG) (B : wB) (A : cA) (n : Nat) : Prop := (zb G ≤ B.1 ∧ zb G ≤ B.2.1 ∧ zb G ≤ B.2.2.1 ∧ zb G ≤ B.2.2.2) ∧ (B.2.1 ≠ B.1 ∧ B.2.2.1 ≠ B.1 ∧ B.2.2.1 ≠ B.2.1 ∧ B.2.2.2 ≠ B.1 ∧ B.2.2.2 ≠ B.2.1 ∧ B.2.2.2 ≠ B.2.2.1) ∧ cOut A n B.1 ∧ cOut A n B.2.1 ∧ cOut A n B.2.2.1 ∧ cOut A n B.2.2.2
section W0
variable {l : Launch} {G : zG} {k : t_H} {B : wB} {st st' : Nat} {A : cA} {c : cS} {u u' : wU} {h : zH} {d mc n b E T : Nat} {r : Nat → Int32} {RX : String → zH → Nat → Prop}
theorem wK_1 (W : wD G B A (cN c)) : wK G k B st A c u B.1 = some (tOb 0 (wOs B st u)) := by
  rw [wK, cK_o W.2.2.1, wC, if_pos rfl]
theorem wK_2 (W : wD G B A (cN c)) : wK G k B st A c u B.2.1 = some (tDq u.2.1) := by
  rw [wK, cK_o W.2.2.2.1, wC, if_neg W.2.1.1, if_pos rfl]
theorem wK_3 (W : wD G B A (cN c)) : wK G k B st A c u B.2.2.1 = some (tSb u.2.2.1.1) := by
  rw [wK, cK_o W.2.2.2.2.1, wC, if_neg W.2.1.2.1, if_neg W.2.1.2.2.1, if_pos rfl]
theorem wK_4 (W : wD G B A (cN c)) : wK G k B st A c u B.2.2.2 = some (tSb u.2.2.1.2) := by
  rw [wK, cK_o W.2.2.2.2.2, wC, if_neg W.2.1.2.2.2.1, if_neg W.2.1.2.2.2.2.1, if_neg W.2.1.2.2.2.2.2, if_pos rfl]
theorem wW_1 (W : wD G B A (cN c)) {v : Value} {j : Nat} (e : zFs (wOs B st u) j v = wOs B st' u') (e2 : u'.2.1 = u.2.1) (e3 : u'.2.2.1 = u.2.2.1) : tUp (wK G k B st A c u) B.1 (tOb 0 (zFs (wOs B st u) j v)) = wK G k B st' A c u' := by
  rw [wK, cK_up W.2.2.1, wK]
  congr 1
  funext q
  by_cases z : q = B.1
  · rw [z, tUp_s, wC, if_pos rfl, e]
  · rw [tUp_n z, wC, wC, if_neg z, if_neg z, e2, e3]
theorem wW_2 (W : wD G B A (cN c)) (xs : List Nat) : tUp (wK G k B st A c u) B.2.1 (tDq xs) = wK G k B st A c (u.1, xs, u.2.2) := by
  rw [wK, cK_up W.2.2.2.1, wK]
  congr 1
  funext q
  by_cases z : q = B.2.1
  · rw [z, tUp_s, wC, if_neg W.2.1.1, if_pos rfl]
  · rw [tUp_n z, wC, wC, if_neg z, if_neg z]; rfl
theorem wW_3 (W : wD G B A (cN c)) (cs : List Int32) : tUp (wK G k B st A c u) B.2.2.1 (tSb cs) = wK G k B st A c (u.1, u.2.1, (cs, u.2.2.1.2), u.2.2.2) := by
  rw [wK, cK_up W.2.2.2.2.1, wK]
  congr 1
  funext q
  by_cases z : q = B.2.2.1
  · rw [z, tUp_s, wC, if_neg W.2.1.2.1, if_neg W.2.1.2.2.1, if_pos rfl]
  · rw [tUp_n z, wC, wC, if_neg z, if_neg z]; rfl
theorem wW_4 (W : wD G B A (cN c)) (cs : List Int32) : tUp (wK G k B st A c u) B.2.2.2 (tSb cs) = wK G k B st A c (u.1, u.2.1, (u.2.2.1.1, cs), u.2.2.2) := by
  rw [wK, cK_up W.2.2.2.2.2, wK]
  congr 1
  funext q
  by_cases z : q = B.2.2.2
  · rw [z, tUp_s, wC, if_neg W.2.1.2.2.2.1, if_neg W.2.1.2.2.2.2.1, if_neg W.2.1.2.2.2.2.2, if_pos rfl]
  · rw [tUp_n z, wC, wC, if_neg z, if_neg z]; rfl
theorem wGr (R : tR G (wK G k B st A c u) h) (W : wD G B A (cN c)) {j x : Nat} {p : Nat → Prop} (e : zFd (wOs B st u) j = .ref x) (q : p x) : zGr h B.1 0 j p := tGr R (wK_1 W) e q
theorem wGi (R : tR G (wK G k B st A c u) h) (W : wD G B A (cN c)) {j : Nat} {x : Int32} {p : Int32 → Prop} (e : zFd (wOs B st u) j = .int x) (q : p x) : zGi h B.1 0 j p := tGi R (wK_1 W) e q
theorem wGn (R : tR G (wK G k B st A c u) h) (W : wD G B A (cN c)) {j : Nat} {x : Option Nat} {p : Option Nat → Prop} (e : zFd (wOs B st u) j = va_rf x) (q : p x) : zGn h B.1 0 j p := tGn R (wK_1 W) e q
theorem wOc (R : tR G (wK G k B st A c u) h) (W : wD G B A (cN c)) {p : Prop} (q : p) : zOc h B.1 0 p := tOc R (wK_1 W) q
theorem wPf (R : tR G (wK G k B st A c u) h) (W : wD G B A (cN c)) {j : Nat} {v : Value} {p : zH → Prop} (st' : Nat) (u' : wU) (e : zFs (wOs B st u) j v = wOs B st' u') (e2 : u'.2.1 = u.2.1) (e3 : u'.2.2.1 = u.2.2.1) (q : ∀ h1, tR G (wK G k B st' A c u') h1 → p h1) : zPf G h B.1 0 j v p :=
  tPf R (wK_1 W) W.1.1 fun h1 R1 => q h1 (by rw [wW_1 W e e2 e3] at R1; exact R1)
/-! what checks -/
def xI : String := "java/lang/IndexOutOfBoundsException"
def xA : String := "java/lang/IllegalArgumentException"
def xN : String := "java/util/NoSuchElementException"
def xS : String := "java/lang/IllegalStateException"
def xU : String := "java/lang/UnsupportedOperationException"
def xR : String := "java/lang/ArithmeticException"
theorem cCheckG {M : zM} (hM : zMk M) (ht : l.stackTraces = false) {E0 : String} (hn : 1 ≤ M.2.2.1) (body : ∀ (d mc : Nat) (Q : zRes → zH → Prop) (h : zH) (n : Nat) (x : Int32), (¬ x = 0 → n ≤ mc ∧ Q (.inl none) h) ∧ (¬ ¬ x = 0 → 6 ≤ d ∧ n + 1 ≤ mc ∧ Q (.inr E0) h) → zV l G d mc M Q 0 (zL0 [.int x] M.2.2.1) [] h n) {x : Int32} {p : zH → Nat → Prop} (hd : 7 ≤ d) (hm : n + 1 ≤ mc) (q1 : ¬ x = 0 → p h n) (q0 : x = 0 → RX E0 h (n + 1)) : zCall l G d mc M [.int x] h n (zRV RX p) := by
  by_cases z : x = 0
  · refine zCall.V (mc' := 1) (d' := d - 1) (Post := fun _ => False) (XP := fun E h' => E = E0 ∧ h' = h) ?_ (by omega) hm (fun h' _ w => w.elim) (fun E h' _ w => by obtain ⟨rfl, rfl⟩ := w; exact q0 z)
    refine zCt.of hM ht (by simp [Value.category]) hn (body _ _ _ _ _ _ ⟨fun w => absurd z w, fun _ => ⟨by omega, by omega, rfl, rfl⟩⟩)
  · refine zCall.PV (h2 := h) (d' := d - 1) ?_ (by omega) (by omega) (q1 z)
    refine zCt.of hM ht (by simp [Value.category]) hn (body _ _ _ _ _ _ ⟨fun _ => ⟨Nat.le_refl _, rfl⟩, fun w => absurd z w⟩)
theorem cCheck (ht : l.stackTraces = false) {x : Int32} {p : zH → Nat → Prop} (hd : 7 ≤ d) (hm : n + 1 ≤ mc) (q1 : ¬ x = 0 → p h n) (q0 : x = 0 → RX xA h (n + 1)) : zCall l G d mc MX1_check [.int x] h n (zRV RX p) :=
  cCheckG kX1_check ht (Nat.le_of_ble_eq_true rfl) (fun _ _ _ _ _ _ w => b_X1_check_0 _ w) hd hm q1 q0
theorem cCheckI (ht : l.stackTraces = false) {x : Int32} {p : zH → Nat → Prop} (hd : 7 ≤ d) (hm : n + 1 ≤ mc) (q1 : ¬ x = 0 → p h n) (q0 : x = 0 → RX xI h (n + 1)) : zCall l G d mc MX1_checkIndex [.int x] h n (zRV RX p) :=
  cCheckG kX1_checkIndex ht (Nat.le_of_ble_eq_true rfl) (fun _ _ _ _ _ _ w => b_X1_checkIndex_0 _ w) hd hm q1 q0
theorem cCheckN (ht : l.stackTraces = false) {x : Int32} {p : zH → Nat → Prop} (hd : 7 ≤ d) (hm : n + 1 ≤ mc) (q1 : ¬ x = 0 → p h n) (q0 : x = 0 → RX xN h (n + 1)) : zCall l G d mc MX1_checkElement [.int x] h n (zRV RX p) :=
  cCheckG kX1_checkElement ht (Nat.le_of_ble_eq_true rfl) (fun _ _ _ _ _ _ w => b_X1_checkElement_0 _ w) hd hm q1 q0
theorem cCheckS (ht : l.stackTraces = false) {x : Int32} {p : zH → Nat → Prop} (hd : 7 ≤ d) (hm : n + 1 ≤ mc) (q1 : ¬ x = 0 → p h n) (q0 : x = 0 → RX xS h (n + 1)) : zCall l G d mc MX1_checkState [.int x] h n (zRV RX p) :=
  cCheckG kX1_checkState ht (Nat.le_of_ble_eq_true rfl) (fun _ _ _ _ _ _ w => b_X1_checkState_0 _ w) hd hm q1 q0
theorem cQ.cart (X : cQ b E T c r) (x : Int32) : (rCart r x = true ∧ ∃ i, i < cN c ∧ x = nI i) ∨ (rCart r x = false ∧ ∀ i, i < cN c → x ≠ nI i) := by
  have n40 := X.n40
  unfold rCart
  rw [X.1.1.1]
  rcases Nat.eq_zero_or_pos (cN c) with z | z
  · rw [z]
    exact Or.inr ⟨zbt_0, fun i hi => by omega⟩
  · exact zbt_of (by omega) (by omega)
/-! a cart by its number -/
/-- nothing changes; an answer, or an exception -/
abbrev wLk (K : t_H) (X : String → Prop) (P : Int32 → Prop) : zRes → t_H → Prop := tqI (fun E k' => X E ∧ k' = K) (fun x k' => P x ∧ k' = K)
theorem tX1_cart0 (ht : l.stackTraces = false) (D : cD G A (cN c)) (W : wD G B A (cN c)) (X : cQ b E T c r) (x : Int32) (hd : 8 ≤ d) : tC l G d MX1_cart0 [.ref B.1, .int x] (wK G k B A.1 A c u) 1 (tqR (fun E k' => (E = xI ∧ rCart r x = false) ∧ k' = wK G k B A.1 A c u) (fun a k' => (∃ i, i < cN c ∧ x = nI i ∧ a = A.2.2 i ∧ rCart r x = true) ∧ k' = wK G k B A.1 A c u)) := by
  intro h R
  refine zCt.of kX1_cart0 ht (by simp [Value.category]) (Nat.le_of_ble_eq_true rfl) ?_
  refine b_X1_cart0_0 _ _ (wGr R W rfl (cOo R (tC.i R (tX2_isCart ht D x (d := d - 1) (by omega)) (by omega) (by omega) fun h1 R1 => cCheckI ht (by omega) (by omega) (fun q => wGr R1 W rfl (cGr R1 rfl ?_)) (fun q => ⟨by omega, _, R1, ⟨rfl, ?_⟩, rfl⟩))))
  · rw [zbi_eq0, Bool.not_eq_false, ← X.1.1.1] at q
    rcases X.cart x with ⟨e, i, hi, hx⟩ | ⟨e, -⟩
    · exact cGet ht R1 D hx hi (by omega) (by omega) fun h2 R2 => ccOc R2 D hi ⟨by omega, _, R2, ⟨i, hi, hx, rfl, e⟩, rfl⟩
    · rw [rCart] at e; rw [e] at q; cases q
  · rw [zbi_eq0, ← X.1.1.1] at q; exact q
theorem tX1_crossing (ht : l.stackTraces = false) (D : cD G A (cN c)) (W : wD G B A (cN c)) (X : cQ b E T c r) (x : Int32) (hd : 9 ≤ d) : tC l G d MX1_crossing [.ref B.1, .int x] (wK G k B A.1 A c u) 2 (tqR (fun E k' => ((E = xI ∧ rTo r x = 1) ∨ (E = xS ∧ rTo r x = 2)) ∧ k' = wK G k B A.1 A c u) (fun a k' => (∃ i, i < cN c ∧ x = nI i ∧ a = A.2.2 i ∧ rc r i 2 = 1 ∧ rTo r x = 0) ∧ k' = wK G k B A.1 A c u)) := by
  intro h R
  have n40 := X.n40
  refine zCt.of kX1_crossing ht (by simp [Value.category]) (Nat.le_of_ble_eq_true rfl) ?_
  refine b_X1_crossing_0 _ _ (wOc R W (tCall.R R (tX1_cart0 ht D W X x (d := d - 1) (by omega)) (by omega) (by omega) (fun a k' h1 R1 w => ?_) (fun E k' h1 R1 w => ⟨by omega, _, R1, Or.inl ⟨w.1.1, ?_⟩, w.2⟩)))
  · obtain ⟨⟨i, hi, hx, rfl, e⟩, rfl⟩ := w
    have hto : rTo r x = if rc r i 2 = 1 then 0 else 2 := by
      rw [rTo]
      rw [rCart] at e
      rw [e, if_pos rfl, hx, nI_clamp (by omega)]
    refine ccGi R1 D hi (j := 4) (x := rc r i 2) ?_ ⟨fun q => ?_, fun q => ?_⟩
    · show Value.int (cG c i 4) = _; rw [(X.ca hi).2.2.2.2.1]
    · refine cCheckS ht (by omega) (by omega) (fun z => absurd rfl z) (fun _ => ⟨by omega, _, R1, Or.inr ⟨rfl, ?_⟩, rfl⟩)
      rw [hto, if_neg q]
    · refine cCheckS ht (by omega) (by omega) (fun _ => ⟨by omega, _, R1, ⟨i, hi, hx, rfl, Classical.not_not.mp q, ?_⟩, rfl⟩) (fun z => absurd z (by decide))
      rw [hto, if_pos (Classical.not_not.mp q)]
  · have e := w.1.2
    rw [rCart] at e
    rw [rTo, e]; rfl
end W0
