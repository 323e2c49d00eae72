/-! the main object: whether all is told alike -/
section R13
variable {b E T : Nat} {c : cS} {r : Nat → Int32}
theorem zcnt_nod {L : List Nat} (hd : L.Nodup) (i : Nat) : zcnt (fun q => L.getD q 0 == i) L.length = if i ∈ L then 1 else 0 := by
  by_cases h : i ∈ L
  · rw [if_pos h]
    obtain ⟨q, hq, e⟩ := mem_getD h
    refine (zcnt_list (L := [q]) (by simp) fun m => ⟨fun hm => ?_, fun ⟨hm, e2⟩ => ?_⟩).trans rfl
    · obtain rfl : m = q := by simpa using hm
      exact ⟨hq, beq_iff_eq.mpr e⟩
    · have e3 := beq_iff_eq.mp e2
      rw [← e, List.getD_eq_getElem?_getD, List.getD_eq_getElem?_getD, List.getElem?_eq_getElem hm, List.getElem?_eq_getElem hq] at e3
      have pw := List.pairwise_iff_getElem.mp hd
      have : m = q := by
        rcases Nat.lt_trichotomy m q with w | w | w
        · exact absurd e3 (pw m q hm hq w)
        · exact w
        · exact absurd e3.symm (pw q m hq hm w)
      simp [this]
  · rw [if_neg h]
    refine (zcnt_list (L := []) (by simp) fun m => ⟨(fun hm => by cases hm), fun ⟨hm, e2⟩ => ?_⟩).trans rfl
    have e3 := beq_iff_eq.mp e2
    exact absurd (e3 ▸ getD_mem hm) h
theorem cQ.onceOn (X : cQ b E T c r) {i : Nat} (hi : i < cN c) : zcnt (fun j => cB c j == nI i) (rSp r) = if rc r i 2 = 1 then 1 else 0 := by
  have n40 := X.n40
  have sp := X.sp
  by_cases h : rc r i 2 = 1
  · rw [if_pos h]
    obtain ⟨j, hj, e, e2⟩ := X.oc.1 i hi h
    refine (zcnt_list (L := [j]) (by simp) fun m => ⟨fun hm => ?_, fun ⟨hm, e3⟩ => ?_⟩).trans rfl
    · obtain rfl : m = j := by simpa using hm
      exact ⟨hj, beq_iff_eq.mpr e2⟩
    · have e3 := beq_iff_eq.mp e3
      rcases X.oc.2 m (by omega) with w | ⟨i', g1, g2, g3, g4⟩
      · rw [w] at e3; exact absurd e3.symm (zn1 (by omega))
      · rw [g2] at e3
        obtain rfl : i' = i := nI_inj (by omega) (by omega) e3
        rw [e] at g4
        have : j = m := nI_inj (by omega) (by omega) g4
        simp [this]
  · rw [if_neg h]
    refine (zcnt_list (L := []) (by simp) fun m => ⟨(fun hm => by cases hm), fun ⟨hm, e3⟩ => ?_⟩).trans rfl
    have e3 := beq_iff_eq.mp e3
    rcases X.oc.2 m (by omega) with w | ⟨i', g1, g2, g3, g4⟩
    · rw [w] at e3; exact absurd e3.symm (zn1 (by omega))
    · rw [g2] at e3
      obtain rfl : i' = i := nI_inj (by omega) (by omega) e3
      exact absurd g3 h
theorem cQ.places (X : cQ b E T c r) {i : Nat} (hi : i < cN c) : (if i ∈ cL c 1 then 1 else 0) + (if i ∈ cL c 2 then 1 else 0) + (if i ∈ cL c 3 then 1 else 0) + (if rc r i 2 = 1 then 1 else 0) = if rc r i 2 = 3 then 0 else 1 := by
  have m1 : (i ∈ cL c 1) = (i < cN c ∧ rc r i 2 = 0 ∧ rc r i 0 = nI 0) := propext ((X.row (z := 0) (by omega)).1 i)
  have m2 : (i ∈ cL c 2) = (i < cN c ∧ rc r i 2 = 0 ∧ rc r i 0 = nI 1) := propext ((X.row (z := 1) (by omega)).1 i)
  have m3 : (i ∈ cL c 3) = (i < cN c ∧ rc r i 2 = 2) := propext (X.pa.1 i)
  have v0 := (X.va hi).1
  have v2 := (X.va hi).2.1
  simp only [m1, m2, m3]
  rw [nI_0, show nI 1 = (1 : Int32) from rfl]
  rcases v2 with w | w | w | w <;> rcases v0 with w0 | w0 <;> rw [w, w0] <;> simp [hi]
/-- no noses are left -/
def rNn (r : Nat → Int32) : Prop := rNo r 0 (rSp r - 1) = -1
theorem mMe_nn (g : Nat) : ∀ (f : Nat) (s : zMS), mMeOk g f s → rNn (mMe g f s).2.1
  | 0, s, h => h
  | f + 1, s, h => by
    simp only [mMe]
    simp only [mMeOk] at h
    by_cases z : rNo s.2.1 0 (rSp s.2.1 - 1) = -1
    · rw [if_pos z]; exact z
    · rw [if_neg z]
      rcases h with h | h
      · exact absurd h z
      · exact mMe_nn g f _ h.2.2.2.2
theorem cQ.nn_ns (X : cQ b E T c r) (h : rNn r) : rNs r 0 (rSp r - 1) = -1 := by
  have sp := X.sp
  rcases X.nsno (rSp r - 1) 0 (by omega) with ⟨h1, -, -⟩ | ⟨p, h1, h2, h3, h4, h5⟩
  · exact h1
  · rw [rNn, h4] at h
    exfalso
    have q1 : rHd r (nI p) 1 = true := by
      cases e : rHd r (nI p) 1 with
      | true => rfl
      | false => rw [e] at h5; cases h5
    rw [rHd, X.co (by omega), h] at q1
    simp at q1
theorem rNn_congr {r r' : Nat → Int32} (h0 : r' 0 = r 0) (h4 : r' 4 = r 4) (hr : ∀ i, i < rN r → rc r' i 2 = rc r i 2 ∧ rc r' i 3 = rc r i 3 ∧ rc r' i 4 = rc r i 4) (hN : rN r ≤ 40) : rNn r' = rNn r := by
  have hn : rN r' = rN r := by rw [rN, rN, h0]
  have hs : rSp r' = rSp r := by rw [rSp, rSp, h4]
  have hco : ∀ x, rCo r' x = rCo r x := fun x => by
    rw [rCo, rCo, hn]
    refine zff_congr _ _ fun i _ hi => ?_
    rw [rCob, rCob, (hr i (by omega)).1, (hr i (by omega)).2.1]
  have hb : ∀ sp, rNob r' sp = rNob r sp := fun sp => by
    simp only [rNob]
    rw [hco, hco]
    rcases rCo_cases r (nI sp) with e | ⟨k, hk, -, e⟩
    · rw [e]; simp
    · rcases rCo_cases r (nI (sp + 1)) with e' | ⟨k', hk', -, e'⟩
      · rw [e']; simp
      · rw [e, e', nI_clamp (by omega), nI_clamp (by omega), (hr k hk).2.2, (hr k' hk').2.2]
  have hno : ∀ j sp, rNo r' sp j = rNo r sp j := by
    intro j
    induction j with
    | zero => intro sp; rfl
    | succ j ih => intro sp; rw [rNo, rNo, hb, hco, ih]
  rw [rNn, rNn, hs, hno]
end R13
section W4
variable {l : Launch} {G : zG} {k : t_H} {B : wB} {A : cA} {c : cS} {u : wU} {h : zH} {d mc n b E T st : Nat} {r : Nat → Int32} {RX : String → zH → Nat → Prop}
theorem tX1_times (ht : l.stackTraces = false) (hS : tS G) (D : cD G A (cN c)) {j i : Nat} (h1 : 1 ≤ j) (h3 : j ≤ 3) (hl : (cL c j).length ≤ 40) (hel : ∀ q, q < (cL c j).length → (cL c j).getD q 0 < 40) (hi : i < 40) (hd : 4 ≤ d) : tC l G d MX1_times [.ref (A.2.1 j), .int (nI i)] (cK G k A c) 0 (tIr (nI (zcnt (fun q => (cL c j).getD q 0 == i) (cL c j).length)) (cK G k A c)) := by
  intro h R
  refine zCt.of kX1_times ht (by simp [Value.category]) (Nat.le_of_ble_eq_true rfl) ?_
  refine b_X1_times_0 _ _ ?_
  refine zInd (N := (cL c j).length) (P := fun q => ∀ h, tR G (cK G k A c) h → zV l G d 0 MX1_times _ 4 [some (.ref (A.2.1 j)), some (.int (nI i)), some (.int (nI (zcnt (fun q => (cL c j).getD q 0 == i) q))), some (.int (nI q))] [] h 0) ?_ 0 (Nat.zero_le _) h R
  intro q hq ih h R
  refine b_X1_times_4 _ _ _ _ (cSizeL ht R D h1 h3 (by omega) (Nat.le_refl _) fun h2 R2 => ?_)
  rw [nI_leI (by omega) (by omega)]
  refine ⟨fun z => ⟨Nat.le_refl _, _, R2, ?_, rfl⟩, fun z => ?_⟩
  · obtain rfl : q = (cL c j).length := by omega
    rfl
  · have hq' : q < (cL c j).length := by omega
    have el := hel q hq'
    refine cGetL ht R2 D h1 h3 rfl hq' (by omega) (Nat.le_refl _) fun h4 R4 => cUnb ht hS R4 (by omega) (by omega) (Nat.le_refl _) fun h5 R5 => ⟨fun e => ?_, fun e => ?_⟩
    · rw [zcnt_f (p := fun q => (cL c j).getD q 0 == i) (k := q) (beq_false_of_ne fun w => e (by rw [w])), nI_1]
      exact ih hq' h5 R5
    · rw [zcnt_t (p := fun q => (cL c j).getD q 0 == i) (k := q) (beq_iff_eq.mpr (nI_inj (by omega) (by omega) (Classical.not_not.mp e))), nI_1]
      exact ih hq' h5 R5
theorem tX1_places (ht : l.stackTraces = false) (hS : tS G) (D : cD G A (cN c)) (W : wD G B A (cN c)) (X : cQ b E T c r) {i : Nat} (hi : i < cN c) (hd : 6 ≤ d) : tC l G d MX1_places [.ref B.1, .ref (A.2.2 i)] (wK G k B A.1 A c u) 0 (tIr (if rc r i 2 = 3 then 0 else 1) (wK G k B A.1 A c u)) := by
  intro h R
  have n40 := X.n40
  have sp := X.sp
  have p0 := X.places hi
  have o0 := X.onceOn hi
  have l1 : (cL c 1).length ≤ cN c := X.len (z := 0) (by omega)
  have l2 : (cL c 2).length ≤ cN c := X.len (z := 1) (by omega)
  have l3 := X.lenP
  have e1 : ∀ q, q < (cL c 1).length → (cL c 1).getD q 0 < 40 := fun q hq => Nat.lt_of_lt_of_le (X.el (z := 0) (by omega) hq) n40
  have e2 : ∀ q, q < (cL c 2).length → (cL c 2).getD q 0 < 40 := fun q hq => Nat.lt_of_lt_of_le (X.el (z := 1) (by omega) hq) n40
  have e3 : ∀ q, q < (cL c 3).length → (cL c 3).getD q 0 < 40 := fun q hq => Nat.lt_of_lt_of_le ((X.pa.1 _).mp (getD_mem hq)).1 n40
  have z0 : zFd (cOc (cG c i)) 0 = .int (nI i) := by show Value.int (cG c i 0) = _; rw [X.num hi]
  have c1 : zcnt (fun q => (cL c 1).getD q 0 == i) (cL c 1).length = if i ∈ cL c 1 then 1 else 0 := zcnt_nod (X.nod (z := 0) (by omega)) i
  have c2 : zcnt (fun q => (cL c 2).getD q 0 == i) (cL c 2).length = if i ∈ cL c 2 then 1 else 0 := zcnt_nod (X.nod (z := 1) (by omega)) i
  have c3 := zcnt_nod X.pa.2.1 i
  refine zCt.of kX1_places ht (by simp [Value.category]) (Nat.le_of_ble_eq_true rfl) ?_
  refine b_X1_places_0 _ _ (wGr R W rfl (cGr R rfl (ccGi R D hi z0 (tC.i R (tX1_times ht hS D (j := 1) (by omega) (by omega) (by omega) e1 (by omega) (d := d - 1) (by omega)) (by omega) (Nat.le_refl _) fun h1 R1 => wGr R1 W rfl (cGr R1 rfl (ccGi R1 D hi z0 (tC.i R1 (tX1_times ht hS D (j := 2) (by omega) (by omega) (by omega) e2 (by omega) (d := d - 1) (by omega)) (by omega) (Nat.le_refl _) fun h2 R2 => wGr R2 W rfl (cGr R2 rfl (ccGi R2 D hi z0 (tC.i R2 (tX1_times ht hS D (j := 3) (by omega) (by omega) (by omega) e3 (by omega) (d := d - 1) (by omega)) (by omega) (Nat.le_refl _) fun h3 R3 => ?_))))))))))
  rw [nI_add, nI_add]
  generalize hm : zcnt (fun q => (cL c 1).getD q 0 == i) (cL c 1).length + zcnt (fun q => (cL c 2).getD q 0 == i) (cL c 2).length + zcnt (fun q => (cL c 3).getD q 0 == i) (cL c 3).length = m
  have hfin : nI (m + zcnt (fun j => cB c j == nI i) (rSp r)) = if rc r i 2 = 3 then (0 : Int32) else 1 := by
    have hm2 : m + zcnt (fun j => cB c j == nI i) (rSp r) = if rc r i 2 = 3 then 0 else 1 := by
      rw [o0, ← hm, ← p0, c1, c2, c3]
    rw [hm2]
    split <;> rfl
  refine zInd (N := rSp r) (P := fun q => ∀ h, tR G (wK G k B A.1 A c u) h → zV l G d 0 MX1_places _ 47 [some (.ref B.1), some (.ref (A.2.2 i)), some (.int (nI (m + zcnt (fun j => cB c j == nI i) q))), some (.int (nI q))] [] h 0) ?_ 0 (Nat.zero_le _) h3 R3
  intro q hq ih h R
  refine b_X1_places_47 _ _ _ _ (wGr R W rfl (cGi R X.z5 ?_))
  rw [nI_leI (by omega) (by omega)]
  refine ⟨fun z => ⟨Nat.le_refl _, _, R, ?_, rfl⟩, fun z => wGr R W rfl (cGr R rfl (cAi R D rfl (by omega) (ccGi R D hi z0 ⟨fun e => ?_, fun e => ?_⟩)))⟩
  · obtain rfl : q = rSp r := by omega
    exact hfin
  · rw [nI_1, Int32.add_zero]
    have := ih (by omega) h R
    rw [show zcnt (fun j => cB c j == nI i) (q + 1) = zcnt (fun j => cB c j == nI i) q by simp [zcnt, e]] at this
    exact this
  · rw [nI_1, nI_1]
    have := ih (by omega) h R
    rw [show m + zcnt (fun j => cB c j == nI i) (q + 1) = m + zcnt (fun j => cB c j == nI i) q + 1 by simp [zcnt, Classical.not_not.mp e, Nat.add_assoc]] at this
    exact this
theorem tX1_isToldAlike (ht : l.stackTraces = false) (hS : tS G) (D : cD G A (cN c)) (W : wD G B A (cN c)) (X : cQ b E T c r) {i : Nat} (hi : i < cN c) (hd : 7 ≤ d) : tC l G d MX1_isToldAlike [.ref B.1, .ref (A.2.2 i)] (wK G k B A.1 A c u) 0 (tIr 1 (wK G k B A.1 A c u)) := by
  intro h R
  have z4 : zFd (cOc (cG c i)) 4 = .int (rc r i 2) := by show Value.int (cG c i 4) = _; rw [(X.ca hi).2.2.2.2.1]
  have z8 : zFd (cOc (cG c i)) 8 = .int (rc r i 7) := by show Value.int (cG c i 8) = _; rw [(X.ca hi).2.2.2.2.2.2.2.2.1]
  have runs : ∀ h, tR G (wK G k B A.1 A c u) h → zGi h (A.2.2 i) 2 4 (fun x25 => ((¬ x25 = 1) → 0 ≤ 0 ∧ ∃ k', tR G k' h ∧ tIr 1 (wK G k B A.1 A c u) (.inl (some (.int 1))) k') ∧ (¬ (¬ x25 = 1) → rc r i 2 = 1)) := fun h R => ccGi R D hi z4 ⟨fun _ => ⟨Nat.le_refl _, _, R, rfl, rfl⟩, fun q => Classical.not_not.mp q⟩
  refine zCt.of kX1_isToldAlike ht (by simp [Value.category]) (Nat.le_of_ble_eq_true rfl) ?_
  refine b_X1_isToldAlike_0 _ _ (ccGi R D hi z8 (wGr R W rfl (cGi R (j := 10) (x := r 1) ?_ (ccOc R D hi (tC.i R (tX5_waitedByTicks ht (cK_c D hi) (r 1) (d := d - 1)) (by omega) (Nat.le_refl _) fun h1 R1 => ⟨fun q => absurd (X.wbt hi).symm q, fun _ => wOc R1 W (tC.i R1 (tX1_places ht hS D W X hi (d := d - 1) (by omega)) (by omega) (Nat.le_refl _) fun h2 R2 => ccGi R2 D hi z4 ⟨fun q => ⟨fun q2 => ?_, fun q2 => ccGi R2 D hi z4 ⟨fun q3 => ⟨Nat.le_refl _, _, R2, rfl, rfl⟩, fun q3 => ?_⟩⟩, fun q => ⟨fun q2 => ?_, fun q2 => ccGi R2 D hi z4 ⟨fun q3 => ⟨Nat.le_refl _, _, R2, rfl, rfl⟩, fun q3 => ?_⟩⟩⟩)⟩)))))
  · show Value.int (c.1 10) = _; rw [X.1.2.2.1.2.2.2.2.2.1]
  · rw [if_neg q] at q2; exact absurd rfl q2
  · have hon := Classical.not_not.mp q3
    exact wGr R2 W rfl (cOo R2 (tC.i R2 (tX2_runLoad ht D X hi hon (g := 8) (by omega) (d := d - 1) (by omega)) (by omega) (Nat.le_refl _) fun h3 R3 => wOc R3 W (tC.i R3 (tX1_runLoadBySpans ht D W X hi hon (g := 8) (by omega) (d := d - 1) (by omega)) (by omega) (Nat.le_refl _) fun h4 R4 => ⟨fun z => absurd rfl z, fun _ => ⟨Nat.le_refl _, _, R4, rfl, rfl⟩⟩)))
  · rw [if_pos (Classical.not_not.mp q)] at q2; exact absurd rfl q2
  · have hon := Classical.not_not.mp q3
    rw [Classical.not_not.mp q] at hon
    exact absurd hon (by decide)
theorem tX1_isTold (ht : l.stackTraces = false) (hS : tS G) (D : cD G A (cN c)) (W : wD G B A (cN c)) (X : cQ b E T c r) (hn : rNn r) (hd : 8 ≤ d) : tC l G d MX1_isTold [.ref B.1] (wK G k B A.1 A c u) 1 (tIr 1 (wK G k B A.1 A c u)) := by
  intro h R
  have n40 := X.n40
  refine zCt.of kX1_isTold ht (by simp [Value.category]) (Nat.le_of_ble_eq_true rfl) ?_
  refine b_X1_isTold_0 _ (wGr R W rfl (cGr R rfl (wIter0 ht R D (by omega) (by omega) fun y h1 ho N ky bky R1 => ?_)))
  refine zInd (N := cN c) (P := fun i => ∀ h w, tR G (wK G (tUp k y (tIt (nI i) w c.2.2.2.1.1 (A.2.1 0))) B A.1 A c u) h → zV l G d 1 MX1_isTold _ 11 [some (.ref B.1), some (.ref y), none] [] h (0 + 1)) ?_ 0 (Nat.zero_le _) h1 (-1) R1
  intro i hi ih h w R
  refine b_X1_isTold_11 _ _ (wHas0 ht R D N ho hi (by omega) (by omega) fun h2 R2 => ⟨fun q => ?_, fun q => ?_⟩)
  · refine wGr R2 W rfl (cOo R2 (tC.i R2 (tX2_nose ht D X (d := d - 1) (by omega)) (by omega) (by omega) fun h3 R3 => ⟨fun q2 => absurd (X.nn_ns hn) q2, fun _ => ⟨by omega, _, wK_fg N ky bky R3, rfl, rfl⟩⟩))
  · have lt : i < cN c := by
      rw [zbi_eq0, Bool.not_eq_false, decide_eq_true_eq] at q; exact q
    exact wNxt0 ht R2 D N ho bky lt (by omega) (by omega) fun h3 R3 => ccOc R3 D lt (wOc R3 W (tC.i R3 (tX1_isToldAlike ht hS D W X lt (d := d - 1) (by omega)) (by omega) (by omega) fun h4 R4 => ⟨fun _ => ih lt h4 _ R4, fun q2 => absurd (by decide) q2⟩))
theorem tX1_character (ht : l.stackTraces = false) (hS : tS G) (W : wD G B A (cN c)) (x : Int32) (hl : u.2.2.1.2.length < 2 ^ 20) (hc : ∀ i, i < u.2.2.1.2.length → narrow .char (.int (u.2.2.1.2.getD i 0)) = .int (u.2.2.1.2.getD i 0)) (hd : 7 ≤ d) : tC l G d MX1_character [.ref B.1, .int x] (wK G k B st A c u) 1 (wLk (wK G k B st A c u) (fun E => E = xI ∧ zbt x 0 (nI u.2.2.1.2.length - 1) = false) (fun y => zbt x 0 (nI u.2.2.1.2.length - 1) = true ∧ y = u.2.2.1.2.getD x.toNatClampNeg 0)) := by
  intro h R
  refine zCt.of kX1_character ht (by simp [Value.category]) (Nat.le_of_ble_eq_true rfl) ?_
  refine b_X1_character_0 _ _ (wGr R W rfl (tOcZ R (wK_4 W) (tC.i R (tJ5_length ht (wK_4 W) (d := d - 1) (by omega)) (by omega) (by omega) fun h1 R1 => zCall.P (s_between ht (d := d - 1)) (by omega) (by omega) (cCheckI ht (by omega) (by omega) (fun q => ?_) (fun q => ⟨by omega, _, R1, ⟨rfl, zbi_eq0.mp q⟩, rfl⟩)))))
  rw [zbi_eq0, Bool.not_eq_false] at q
  have q' := q
  rcases Nat.eq_zero_or_pos u.2.2.1.2.length with v | v
  · rw [v, zbt_0] at q'; cases q'
  · rcases zbt_of (x := x) v (by omega) with ⟨-, m, m1, rfl⟩ | ⟨e3, -⟩
    · refine wGr R1 W rfl (tOcZ R1 (wK_4 W) (tC.i R1 (tJ5_charAt ht hS (wK_4 W) m1 (d := d - 1) (by omega)) (by omega) (by omega) fun h2 R2 => ⟨hc m m1, by omega, _, R2, ⟨q, ?_⟩, rfl⟩))
      rw [nI_clamp (by omega)]
    · rw [e3] at q'; cases q'
end W4
