/-! runs and noses: the component -/
section R2
variable {b E T : Nat} {c c' : cS} {r r' : Nat → Int32}
theorem qCart.same {i : Nat} (h : qCart c r i) (hg : cG c' i = cG c i) (hr : ∀ w, w < 10 → rc r' i w = rc r i w) (h1 : r' 1 = r 1) : qCart c' r' i := by
  obtain ⟨a0, a1, a2, a3, a4, a5, a6, a7, a8, a9⟩ := h
  unfold qCart
  rw [hg, hr 0 (by omega), hr 1 (by omega), hr 2 (by omega), hr 3 (by omega), hr 4 (by omega), hr 5 (by omega), hr 6 (by omega), hr 7 (by omega), h1]
  exact ⟨a0, a1, a2, a3, a4, a5, a6, a7, a8, a9⟩
theorem qVal.same {i : Nat} (h : qVal b r i) (hr : ∀ w, w < 10 → rc r' i w = rc r i w) : qVal b r' i := by
  unfold qVal
  rw [hr 0 (by omega), hr 1 (by omega), hr 2 (by omega), hr 3 (by omega), hr 4 (by omega), hr 8 (by omega)]
  exact h
theorem qVal.mono {b' : Nat} {i : Nat} (hb : b ≤ b') (h : qVal b r i) : qVal b' r i := by
  obtain ⟨a0, a1, a2, a3, a4, a5⟩ := h
  exact ⟨a0, a1, a2, a3, a4, fun e => ⟨by have := (a5 e).1; omega, by have := (a5 e).2; omega⟩⟩
theorem rSp_e (h4 : r' 4 = r 4) : rSp r' = rSp r := by simp only [rSp, h4]
theorem qOcc.same (h : qOcc c r) (hN : cN c' = cN c) (hB : ∀ j, j < 8 → cB c' j = cB c j) (h4 : r' 4 = r 4) (s8 : rSp r ≤ 8) (hr : ∀ i, i < cN c → rc r' i 2 = rc r i 2 ∧ rc r' i 3 = rc r i 3) : qOcc c' r' := by
  unfold qOcc
  rw [hN, rSp_e h4]
  refine ⟨fun i hi h2 => ?_, fun j hj => ?_⟩
  · rw [(hr i hi).1] at h2
    obtain ⟨j, g1, g2, g3⟩ := h.1 i hi h2
    exact ⟨j, g1, by rw [(hr i hi).2]; exact g2, by rw [hB j (by omega)]; exact g3⟩
  · rw [hB j hj]
    rcases h.2 j hj with w | ⟨i, g1, g2, g3, g4⟩
    · exact Or.inl w
    · exact Or.inr ⟨i, g1, g2, by rw [(hr i g1).1]; exact g3, by rw [(hr i g1).2]; exact g4⟩
theorem qRow.same {z : Nat} (h : qRow c r z) (hN : cN c' = cN c) (hL : cL c' (1 + z) = cL c (1 + z)) (hr : ∀ i, i < cN c → rc r' i 0 = rc r i 0 ∧ rc r' i 2 = rc r i 2 ∧ rc r' i 8 = rc r i 8) : qRow c' r' z := by
  unfold qRow
  rw [hN, hL]
  refine ⟨fun i => ?_, ?_⟩
  · rw [h.1 i]
    constructor
    · rintro ⟨g1, g2, g3⟩; exact ⟨g1, by rw [(hr i g1).2.1]; exact g2, by rw [(hr i g1).1]; exact g3⟩
    · rintro ⟨g1, g2, g3⟩; exact ⟨g1, by rw [← (hr i g1).2.1]; exact g2, by rw [← (hr i g1).1]; exact g3⟩
  · refine List.Pairwise.imp_of_mem ?_ h.2
    intro i i' hi hi' hlt
    rw [(hr i ((h.1 i).mp hi).1).2.2, (hr i' ((h.1 i').mp hi').1).2.2]; exact hlt
theorem qPas.same (h : qPas c r) (hN : cN c' = cN c) (hL : cL c' 3 = cL c 3) (h7 : r' 7 = r 7) (hr : ∀ i, i < cN c → rc r' i 2 = rc r i 2 ∧ rc r' i 9 = rc r i 9) : qPas c' r' := by
  unfold qPas
  rw [hN, hL, h7]
  refine ⟨fun i => ?_, h.2.1, h.2.2.1, fun q hq => ?_⟩
  · rw [h.1 i]
    constructor
    · rintro ⟨g1, g2⟩; exact ⟨g1, by rw [(hr i g1).1]; exact g2⟩
    · rintro ⟨g1, g2⟩; exact ⟨g1, by rw [← (hr i g1).1]; exact g2⟩
  · have hm : (cL c 3).getD q 0 ∈ cL c 3 := by rw [List.getD_eq_getElem?_getD, List.getElem?_eq_getElem hq]; exact List.getElem_mem hq
    rw [(hr _ ((h.1 _).mp hm).1).2]; exact h.2.2.2 q hq
theorem qLef.same (h : qLef c r) (hN : cN c' = cN c) (h8 : r' 8 = r 8) (hr : ∀ i, i < cN c → rc r' i 2 = rc r i 2) : qLef c' r' := by
  unfold qLef
  rw [hN, h8, h]
  congr 1
  exact zcnt_congr fun i hi => by rw [hr i hi]
theorem qWt.same (h : qWt T c r) (hN : cN c' = cN c) (hr : ∀ i, i < cN c → rc r' i 7 = rc r i 7) : qWt T c' r' :=
  ⟨h.1, fun i hi => by
    rw [hN] at hi
    rw [hr i hi]; exact h.2 i hi⟩
theorem cSc_at (c : cS) (i j : Nat) (v : Int32) : cG (cSc c i j v) i = zuf (cG c i) j v := by simp [cSc, cG]
theorem cSc_ne (c : cS) {i i' : Nat} (j : Nat) (v : Int32) (h : i' ≠ i) : cG (cSc c i j v) i' = cG c i' := by simp [cSc, cG, h]
/-- a cart turns round -/
def cFl (c : cS) (k : Nat) : cS := cSf (cSc (cSc c k 6 (1 - cG c k 6)) k 7 (cG c k 7 + 1)) 12 (c.1 12 + 1)
theorem cQ.fl (X : cQ b E T c r) {k : Nat} (hk : k < cN c) (hon : rc r k 2 = 1) : cQ b E T (cFl c k) (rFl r k) := by
  have h0 : ∀ i w, w < 10 → w ≠ 4 → w ≠ 5 → rc (rFl r k) i w = rc r i w := fun i w hw h4 h5 => by rw [rFl_rc _ _ _ _ hw, if_neg (by omega), if_neg (by omega)]
  have hh : ∀ j, j < 10 → rFl r k j = r j := fun j hj => rFl_hd r k j hj
  have h10 : rFl r k 10 = r 10 + 1 := if_pos rfl
  have hs : rSp (rFl r k) = rSp r := rSp_e (hh 4 (by omega))
  obtain ⟨⟨a1, a2⟩, a3, ⟨f5, f6, f7, f8, f9, f10, f11, f12⟩, a5, a6, a7, a8, a9, a10, a11⟩ := X.1
  have hv := (X.va hk).2.2.1 hon
  refine ⟨?_, fun i hi => ?_, fun i hi => ?_, X.oc.same rfl (fun _ _ => rfl) (hh 4 (by omega)) X.sp.2.2 (fun i _ => ⟨h0 i 2 (by omega) (by omega) (by omega), h0 i 3 (by omega) (by omega) (by omega)⟩), (X.row (z := 0) (by omega)).same rfl rfl (fun i _ => ⟨h0 i 0 (by omega) (by omega) (by omega), h0 i 2 (by omega) (by omega) (by omega), h0 i 8 (by omega) (by omega) (by omega)⟩), (X.row (z := 1) (by omega)).same rfl rfl (fun i _ => ⟨h0 i 0 (by omega) (by omega) (by omega), h0 i 2 (by omega) (by omega) (by omega), h0 i 8 (by omega) (by omega) (by omega)⟩), X.pa.same rfl rfl (hh 7 (by omega)) (fun i _ => ⟨h0 i 2 (by omega) (by omega) (by omega), h0 i 9 (by omega) (by omega) (by omega)⟩), X.le.same rfl (hh 8 (by omega)) (fun i _ => h0 i 2 (by omega) (by omega) (by omega)), X.wt.same rfl (fun i _ => h0 i 7 (by omega) (by omega) (by omega))⟩
  · unfold qHdr rLw
    rw [hs, hh 0 (by omega), hh 4 (by omega), hh 2 (by omega), hh 3 (by omega), hh 5 (by omega), hh 6 (by omega), hh 1 (by omega), hh 9 (by omega), h10]
    exact ⟨⟨a1, a2⟩, a3, ⟨f5, f6, f7, f8, f9, f10, f11, congrArg (· + 1) f12⟩, a5, a6, a7, a8, a9, a10, a11⟩
  · by_cases e : i = k
    · subst e
      obtain ⟨b0, b1, b2, b3, b4, b5, b6, b7, b8, b9⟩ := X.ca hk
      rw [if_pos hon] at b6
      have h4 : rc (rFl r i) i 4 = 1 - rc r i 4 := by rw [rFl_rc _ _ _ _ (by omega), if_pos ⟨rfl, rfl⟩]
      have h5 : rc (rFl r i) i 5 = rc r i 5 + 1 := by rw [rFl_rc _ _ _ _ (by omega), if_neg (by omega), if_pos ⟨rfl, rfl⟩]
      have hg : cG (cFl c i) i = zuf (zuf (cG c i) 6 (1 - cG c i 6)) 7 (cG c i 7 + 1) := by
        show cG (cSc (cSc c i 6 (1 - cG c i 6)) i 7 (cG c i 7 + 1)) i = _
        rw [cSc_at, cSc_at]
      unfold qCart
      rw [hg, h0 i 0 (by omega) (by omega) (by omega), h0 i 1 (by omega) (by omega) (by omega), h0 i 2 (by omega) (by omega) (by omega), h0 i 3 (by omega) (by omega) (by omega), h0 i 6 (by omega) (by omega) (by omega), h0 i 7 (by omega) (by omega) (by omega), h4, h5, hh 1 (by omega), if_pos hon]
      refine ⟨b0, b1, b2, b3, b4, b5, ?_, ?_, b8, b9⟩
      · show 1 - cG c i 6 = _; rw [b6]
      · show cG c i 7 + 1 = _; rw [b7]
    · refine (X.ca hi).same ?_ (fun w hw => by rw [rFl_rc _ _ _ _ hw, if_neg (fun q => e q.1), if_neg (fun q => e q.1)]) (hh 1 (by omega))
      show cG (cSc (cSc c k 6 (1 - cG c k 6)) k 7 (cG c k 7 + 1)) i = _
      rw [cSc_ne _ _ _ e, cSc_ne _ _ _ e]
  · by_cases e : i = k
    · subst e
      obtain ⟨b0, b1, b2, b3, b4, b5⟩ := X.va hi
      unfold qVal
      rw [h0 i 0 (by omega) (by omega) (by omega), h0 i 1 (by omega) (by omega) (by omega), h0 i 2 (by omega) (by omega) (by omega), h0 i 3 (by omega) (by omega) (by omega), h0 i 8 (by omega) (by omega) (by omega), rFl_rc _ _ _ 4 (by omega), if_pos ⟨rfl, rfl⟩]
      refine ⟨b0, b1, fun _ => ?_, b3, b4, b5⟩
      rcases hv with w | w
      · rw [w]; exact Or.inr (by decide)
      · rw [w]; exact Or.inl (by decide)
    · exact (X.va hi).same (fun w hw => by rw [rFl_rc _ _ _ _ hw, if_neg (fun q => e q.1), if_neg (fun q => e q.1)])
end R2
section C4
variable {l : Launch} {G : zG} {k : t_H} {A : cA} {c : cS} {h : zH} {d mc n b E T : Nat} {r : Nat → Int32} {RX : String → zH → Nat → Prop}
/-- the span of the westernmost nose -/
def rNs (r : Nat → Int32) : Nat → Nat → Int32
  | _, 0 => -1
  | sp, j + 1 => if rHd r (nI sp) 1 && rHd r (nI (sp + 1)) 0 then nI sp else rNs r (sp + 1) j
theorem tX2_nose (ht : l.stackTraces = false) (D : cD G A (cN c)) (X : cQ b E T c r) (hd : 5 ≤ d) : tC l G d MX2_nose [.ref A.1] (cK G k A c) 0 (tIr (rNs r 0 (rSp r - 1)) (cK G k A c)) := by
  intro h R
  have sp := X.sp
  refine zCt.of kX2_nose ht (by simp [Value.category]) (Nat.le_of_ble_eq_true rfl) ?_
  refine b_X2_nose_0 _ ?_
  refine zInd (N := rSp r - 1) (P := fun j => ∀ h, tR G (cK G k A c) h → rNs r 0 (rSp r - 1) = rNs r j (rSp r - 1 - j) → zV l G d 0 MX2_nose _ 2 [some (.ref A.1), some (.int (nI j))] [] h 0) ?_ 0 (Nat.zero_le _) h R rfl
  intro j hj ih h R hi
  refine b_X2_nose_2 _ _ (cGi R X.z5 ?_)
  rw [nI_1, nI_leI (by omega) (by omega)]
  have step : j < rSp r - 1 → rNs r j (rSp r - 1 - j) = if rHd r (nI j) 1 && rHd r (nI (j + 1)) 0 then nI j else rNs r (j + 1) (rSp r - 1 - (j + 1)) := by
    intro lt
    rw [show rSp r - 1 - j = (rSp r - 1 - (j + 1)) + 1 by omega, rNs]
  refine ⟨fun q => ⟨Nat.le_refl _, _, R, ?_, rfl⟩, fun q => cOo R (tC.i R (tX2_heads ht D X (nI j) 1 (d := d - 1) (by omega)) (by omega) (Nat.le_refl _) fun h' R' => ⟨fun z => ?_, fun z => cOo R' (tC.i R' (tX2_heads ht D X (nI (j + 1)) 0 (d := d - 1) (by omega)) (by omega) (Nat.le_refl _) fun h2 R2 => ⟨fun z2 => ?_, fun z2 => ⟨Nat.le_refl _, _, R2, ?_, rfl⟩⟩)⟩)⟩
  · rw [hi, show rSp r - 1 - j = 0 by omega]; rfl
  · refine ih (by omega) h' R' ?_
    rw [hi, step (by omega), zbi_eq0.mp z, Bool.false_and]; rfl
  · refine ih (by omega) h2 R2 ?_
    rw [hi, step (by omega), zbi_eq0.mp z2, Bool.and_false]; rfl
  · rw [zbi_eq0, Bool.not_eq_false] at z z2
    rw [hi, step (by omega), z, z2]; rfl
/-- the last of a cart's run -/
def rLst (r : Nat → Int32) (g i : Nat) : Nat := (rLa r g (nI i) (nI i)).toNatClampNeg
theorem cQ.z6 (X : cQ b E T c r) {i : Nat} (hi : i < cN c) (hon : rc r i 2 = 1) : zFd (cOc (cG c i)) 6 = .int (rc r i 4) := by
  show Value.int (cG c i 6) = _
  rw [(X.ca hi).2.2.2.2.2.2.1, if_pos hon]
theorem cQ.zs (X : cQ b E T c r) {i : Nat} (hi : i < cN c) : zFd (cOc (cG c i)) 5 = .int (rc r i 3) := by
  show Value.int (cG c i 5) = _
  rw [(X.ca hi).2.2.2.2.2.1]
theorem tX2_runEnd (ht : l.stackTraces = false) (D : cD G A (cN c)) (X : cQ b E T c r) {i g : Nat} (hi : i < cN c) (hon : rc r i 2 = 1) (hg : 8 ≤ g) (hd : 5 ≤ d) : tC l G d MX2_runEnd [.ref A.1, .ref (A.2.2 i)] (cK G k A c) 0 (tIr (rc r (rLst r g i) 3) (cK G k A c)) := by
  intro h R
  have sp := X.sp
  have n40 := X.n40
  obtain ⟨j, j8, hj, hb⟩ := X.oc.1 i hi hon
  have hv := (X.va hi).2.2.1 hon
  refine zCt.of kX2_runEnd ht (by simp [Value.category]) (Nat.le_of_ble_eq_true rfl) ?_
  refine b_X2_runEnd_0 _ _ (ccGi R D hi (X.zs hi) (ccGi R D hi (X.z6 hi hon) (zCall.P (s_other ht (d := d - 1)) (by omega) (Nat.le_refl _) (zCall.P (s_step ht (d := d - 1)) (by omega) (Nat.le_refl _) ?_))))
  have H : ∀ (f i' j' : Nat) (w : Int32) (h : zH), tR G (cK G k A c) h → i' < cN c → rc r i' 2 = 1 → rc r i' 3 = nI j' → j' < rSp r → rc r i' 4 = rc r i 4 → rFu r i' j' f → rLa r g (nI i) (nI i) = rLa r f (nI i') w → zV l G d 0 MX2_runEnd (fun r_1 h' => ∃ k', tR G k' h' ∧ tIr (rc r (rLst r g i) 3) (cK G k A c) r_1 k') 16 [some (.ref A.1), some (.ref (A.2.2 i)), some (.int (nI j')), some (.int (cStep (1 - rc r i 4)))] [] h 0 := by
    intro f
    induction f with
    | zero =>
      intro i' j' w h R h1 h2 h3 h4 h5 hf
      rcases (X.va h1).2.2.1 h2 with v | v
      · have := hf.2 v; omega
      · have := hf.1 v; omega
    | succ f ih =>
      intro i' j' w h R h1 h2 h3 h4 h5 hf hl
      have hstep : nI j' + cStep (1 - rc r i 4) = rBx r i' := by rw [← h5]; exact rBx_step h3 ((X.va h1).2.2.1 h2)
      rw [rLa, if_neg (zn1 (by omega)), nI_clamp (by omega)] at hl
      refine b_X2_runEnd_16 _ _ _ _ (ccGi R D hi (X.z6 hi hon) ?_)
      rw [hstep]
      refine cOo R (tC.i R (tX2_heads ht D X (rBx r i') (rc r i 4) (d := d - 1) (by omega)) (by omega) (Nat.le_refl _) fun h' R' => ⟨fun z => ⟨Nat.le_refl _, _, R', ?_, rfl⟩, fun z => ?_⟩)
      · have z2 := zbi_eq0.mp z
        rcases X.be h1 h2 h3 h4 with ⟨-, e⟩ | ⟨e, -⟩
        · have m1 : ∀ f z, rLa r f (-1) z = z := fun f z => by cases f <;> simp [rLa]
          rw [e, m1] at hl
          rw [rLst, hl, nI_clamp (by omega), h3]
        · rw [h5, z2] at e; cases e
      · rcases X.be h1 h2 h3 h4 with ⟨e, -⟩ | ⟨-, i2, j2, g1, g2, g3, g4, g5, g6, g7, g8, g9⟩
        · rw [zbi_eq0, Bool.not_eq_false, ← h5] at z; rw [e] at z; cases z
        · rw [g5]
          rw [g2] at hl
          refine ih i2 j2 _ h' R' g1 g3 g4 g6 (g8.trans h5) ⟨fun v => ?_, fun v => ?_⟩ hl
          · rw [g8] at v
            rcases g9 with ⟨w, e⟩ | ⟨w, e⟩
            · have := hf.1 v; omega
            · rw [w] at v; exact absurd v (by decide)
          · rw [g8] at v
            rcases g9 with ⟨w, e⟩ | ⟨w, e⟩
            · rw [w] at v; exact absurd v (by decide)
            · have := hf.2 v; omega
  rw [hj]
  exact H g i j (nI i) h R hi hon hj j8 rfl (X.fu j8 hg) rfl
theorem tX2_runLoad (ht : l.stackTraces = false) (D : cD G A (cN c)) (X : cQ b E T c r) {i g : Nat} (hi : i < cN c) (hon : rc r i 2 = 1) (hg : 8 ≤ g) (hd : 5 ≤ d) : tC l G d MX2_runLoad [.ref A.1, .ref (A.2.2 i)] (cK G k A c) 0 (tIr (rLr r g (nI i)) (cK G k A c)) := by
  intro h R
  have sp := X.sp
  have n40 := X.n40
  obtain ⟨j, j8, hj, hb⟩ := X.oc.1 i hi hon
  have hv := (X.va hi).2.2.1 hon
  refine zCt.of kX2_runLoad ht (by simp [Value.category]) (Nat.le_of_ble_eq_true rfl) ?_
  refine b_X2_runLoad_0 _ _ (ccGi R D hi (X.z6 hi hon) (zCall.P (s_other ht (d := d - 1)) (by omega) (Nat.le_refl _) (zCall.P (s_step ht (d := d - 1)) (by omega) (Nat.le_refl _) (ccGi R D hi (X.zs hi) ?_))))
  have fin : ∀ (a x : Int32) (h : zH), tR G (cK G k A c) h → rHd r x (rc r i 4) = false → rLr r g (nI i) = a → zV l G d 0 MX2_runLoad (fun r_1 h' => ∃ k', tR G k' h' ∧ tIr (rLr r g (nI i)) (cK G k A c) r_1 k') 19 [some (.ref A.1), some (.ref (A.2.2 i)), some (.int a), some (.int (cStep (1 - rc r i 4))), some (.int x)] [] h 0 := by
    intro a x h R hx ha
    refine b_X2_runLoad_19 _ _ _ _ _ (ccGi R D hi (X.z6 hi hon) (cOo R (tC.i R (tX2_heads ht D X x (rc r i 4) (d := d - 1) (by omega)) (by omega) (Nat.le_refl _) fun h' R' => ⟨fun z => ⟨Nat.le_refl _, _, R', ha.symm, rfl⟩, fun z => ?_⟩)))
    rw [hx] at z; exact absurd rfl z
  have H : ∀ (f i' j' : Nat) (a : Int32) (h : zH), tR G (cK G k A c) h → i' < cN c → rc r i' 2 = 1 → rc r i' 3 = nI j' → j' < rSp r → rc r i' 4 = rc r i 4 → rFu r i' j' f → rLr r g (nI i) = a + rLr r f (nI i') → zV l G d 0 MX2_runLoad (fun r_1 h' => ∃ k', tR G k' h' ∧ tIr (rLr r g (nI i)) (cK G k A c) r_1 k') 19 [some (.ref A.1), some (.ref (A.2.2 i)), some (.int a), some (.int (cStep (1 - rc r i 4))), some (.int (nI j'))] [] h 0 := by
    intro f
    induction f with
    | zero =>
      intro i' j' a h R h1 h2 h3 h4 h5 hf
      rcases (X.va h1).2.2.1 h2 with v | v
      · have := hf.2 v; omega
      · have := hf.1 v; omega
    | succ f ih =>
      intro i' j' a h R h1 h2 h3 h4 h5 hf hl
      have hstep : nI j' + cStep (1 - rc r i 4) = rBx r i' := by rw [← h5]; exact rBx_step h3 ((X.va h1).2.2.1 h2)
      obtain ⟨jj, k1, k2, k3⟩ := X.oc.1 i' h1 h2
      obtain rfl : jj = j' := nI_inj (by omega) (by omega) (k2.symm.trans h3)
      have hme : rHd r (nI jj) (rc r i 4) = true := (rHd_iff X).mpr ⟨i', jj, h1, h4, rfl, k3, h2, h3, h5⟩
      rw [rLr, if_neg (zn1 (by omega)), nI_clamp (by omega), ← Int32.add_assoc] at hl
      refine b_X2_runLoad_19 _ _ _ _ _ (ccGi R D hi (X.z6 hi hon) (cOo R (tC.i R (tX2_heads ht D X (nI jj) (rc r i 4) (d := d - 1) (by omega)) (by omega) (Nat.le_refl _) fun h' R' => ⟨fun z => ?_, fun z => ?_⟩)))
      · rw [hme] at z; exact absurd z (by decide)
      · refine cGr R' rfl (cGr R' rfl (cAi R' D rfl (by omega) (cGet ht R' D k3 h1 (by omega) (Nat.le_refl _) fun h2' R2 => ccOc R2 D h1 (ccGi R2 D h1 (j := 2) (x := rc r i' 1) ?_ ?_))))
        · show Value.int (cG c i' 2) = _
          rw [(X.ca h1).2.2.1]
        · rw [hstep]
          rcases X.be h1 h2 h3 h4 with ⟨e1, e⟩ | ⟨-, i2, j2, g1, g2, g3, g4, g5, g6, g7, g8, g9⟩
          · have m1 : ∀ f, rLr r f (-1) = 0 := fun f => rLr_n1 r f
            rw [e, m1, Int32.add_zero] at hl
            exact fin _ _ h2' R2 (by rw [← h5]; exact e1) hl
          · rw [g5]
            rw [g2] at hl
            refine ih i2 j2 _ h2' R2 g1 g3 g4 g6 (g8.trans h5) ⟨fun v => ?_, fun v => ?_⟩ hl
            · rw [g8] at v
              rcases g9 with ⟨w, e⟩ | ⟨w, e⟩
              · have := hf.1 v; omega
              · rw [w] at v; exact absurd v (by decide)
            · rw [g8] at v
              rcases g9 with ⟨w, e⟩ | ⟨w, e⟩
              · rw [w] at v; exact absurd v (by decide)
              · have := hf.2 v; omega
  rw [hj]
  exact H g i j 0 h R hi hon hj j8 rfl (X.fu j8 hg) (by rw [Int32.zero_add])
end C4
