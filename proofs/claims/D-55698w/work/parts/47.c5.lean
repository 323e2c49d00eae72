/-! noses are mended: the component and the model -/
section R4
variable {b E T : Nat} {c : cS} {r : Nat → Int32}
theorem cQ.ot (X : cQ b E T c r) {u p : Nat} (hu : u < cN c) (h3 : rc r u 3 = nI p) (hp : p + 1 < 8) : rOt r (nI u) = cB c (p + 1) := by
  have n40 := X.n40
  rw [rOt, nI_clamp (by omega), h3, nI_1, X.co hp]
/-- the two at a nose, which one turns -/
theorem cQ.two (X : cQ b E T c r) {p : Nat} (hn : (rHd r (nI p) 1 && rHd r (nI (p + 1)) 0) = true) (hp : p + 1 < rSp r) : ∃ u w, u < cN c ∧ w < cN c ∧ cB c p = nI u ∧ cB c (p + 1) = nI w ∧ rc r u 2 = 1 ∧ rc r w 2 = 1 ∧ rc r u 3 = nI p ∧ rc r w 3 = nI (p + 1) := by
  have n40 := X.n40
  have sp := X.sp
  rw [Bool.and_eq_true] at hn
  obtain ⟨u, ju, u1, u2, u3, u4, u5, u6, u7⟩ := (rHd_iff X).mp hn.1
  obtain rfl : p = ju := nI_inj (by omega) (by omega) u3
  obtain ⟨w, jw, w1, w2, w3, w4, w5, w6, w7⟩ := (rHd_iff X).mp hn.2
  obtain rfl : p + 1 = jw := nI_inj (by omega) (by omega) w3
  exact ⟨u, w, u1, w1, u4, w4, u5, w5, u6, w6⟩
theorem cQ.tr (X : cQ b E T c r) {i g : Nat} (s : zMS) (hs : s.2.1 = r) (hi : i < cN c) (hon : rc r i 2 = 1) (hg : 8 ≤ g) : (mTr g (nI i) s).2.1 = (rRun r g (nI i)).foldl rFl r ∧ mTrn g (nI i) s = (rRun r g (nI i)).length ∧ mTrc g (nI i) s ∧ (mTr g (nI i) s).1 = s.1 ∧ (mTr g (nI i) s).2.2 = s.2.2 := by
  obtain ⟨j, j8, hj, hb⟩ := X.oc.1 i hi hon
  have := X.trun g i j s hi hon hj j8 (X.fu j8 hg) (by rw [hs]; exact rAg_refl _ _ _ _)
  rw [hs] at this
  exact this
theorem mMe_n1 {g f : Nat} {s : zMS} (h : rNo s.2.1 0 (rSp s.2.1 - 1) = -1) : mMe g f s = s := by
  cases f with
  | zero => rfl
  | succ f => simp only [mMe]; rw [if_pos h]
theorem rWh_or (g : Nat) (r : Nat → Int32) (a b' : Int32) : rWh g r a b' = a ∨ rWh g r a b' = b' := by
  unfold rWh
  by_cases h : rLr r g a - rLr r g b' < 0
  · left; simp [h]
  · by_cases h2 : rLr r g a - rLr r g b' = 0
    · by_cases h3 : a ≤ b'
      · right; simp [h2, h3]
      · left; simp [h2, h3]
    · right; simp [h, h2]
end R4
section C6
variable {l : Launch} {G : zG} {k : t_H} {A : cA} {h : zH} {d mc n b E T : Nat}
theorem tX2_ynLoop (ht : l.stackTraces = false) (g : Nat) (hg : 8 ≤ g) (hd : 7 ≤ d) (Fin : Nat → Int32) (n0 : Nat) (B0 : Nat → Int32) (D : cD G A n0) (Q : zRes → zH → Prop) (hQ : ∀ c' h', cQ b E T c' Fin → cN c' = n0 → cB c' = B0 → tR G (cK G k A c') h' → Q (.inl none) h') :
    ∀ (f : Nat) (c : cS) (s : zMS) (h : zH), cQ b E T c s.2.1 → cN c = n0 → cB c = B0 → rNz s.2.1 ≤ f → Fin = (mMe g f s).2.1 → tR G (cK G k A c) h → zV l G d 0 MX2_yieldNoses Q 5 [some (.ref A.1), some (.int (rNs s.2.1 0 (rSp s.2.1 - 1))), none, none, none, none] [] h 0 := by
  intro f
  induction f with
  | zero =>
    intro c s h X hN hB hz hF R
    have sp := X.sp
    rcases X.nsno (rSp s.2.1 - 1) 0 (by omega) with ⟨h1, h2, h3⟩ | ⟨p, h1, h2, h3, h4, h5⟩
    · rw [h1]
      refine b_X2_yieldNoses_5 _ _ ⟨fun _ => ⟨Nat.le_refl _, hQ c h ?_ hN hB R⟩, fun q => absurd rfl q⟩
      rw [hF, mMe_n1 h2]; exact X
    · exfalso
      have : 0 < rNz s.2.1 := by
        unfold rNz
        have := zcnt_lt (p := fun _ => false) (q := fun q => rHd s.2.1 (nI q) 1 && rHd s.2.1 (nI (q + 1)) 0) (m := p) h5 rfl (n := rSp s.2.1 - 1) (by omega) (fun i hi h => by cases h)
        omega
      omega
  | succ f ih =>
    intro c s h X hN hB hz hF R
    have sp := X.sp
    have n40 := X.n40
    have D' : cD G A (cN c) := by rw [hN]; exact D
    rcases X.nsno (rSp s.2.1 - 1) 0 (by omega) with ⟨h1, h2, h3⟩ | ⟨p, h1, h2, h3, h4, h5⟩
    · rw [h1]
      refine b_X2_yieldNoses_5 _ _ ⟨fun _ => ⟨Nat.le_refl _, hQ c h ?_ hN hB R⟩, fun q => absurd rfl q⟩
      rw [hF, mMe_n1 h2]; exact X
    · obtain ⟨u, w, u1, w1, u2, w2, u3, w3, u4, w4⟩ := X.two h5 (by omega)
      rw [u2] at h4
      have hot : rOt s.2.1 (nI u) = nI w := by rw [X.ot u1 u4 (by omega), w2]
      have hF2 : Fin = (mMe g f (mTr g (rWh g s.2.1 (nI u) (nI w)) s)).2.1 := by
        rw [hF]
        simp only [mMe]
        rw [h4, if_neg (zn1 (by omega)), hot]
      have cont : ∀ i, (cB c p = nI i ∨ cB c (p + 1) = nI i) → i < cN c → rc s.2.1 i 2 = 1 → Fin = (mMe g f (mTr g (nI i) s)).2.1 → ∀ h, tR G (cK G k A c) h → zOc h A.1 1 (zCall l G d 0 MX2_yields [.ref A.1, .ref (A.2.2 i)] h 0 (zRI (zXo 0 Q) (fun _ h24 n23 => zOc h24 A.1 1 (zCall l G d 0 MX2_nose [.ref A.1] h24 n23 (zRI (zXo 0 Q) (fun x28 h27 n26 => zV l G d 0 MX2_yieldNoses Q 5 [some (.ref A.1), some (.int x28), none, none, none, none] [] h27 n26)))))) := by
        intro i hi hi2 hon hFi h R
        obtain ⟨t1, t2, t3, -⟩ := X.tr s rfl hi2 hon hg
        refine cOo R (tCall.I R (tX2_yields ht D' X hi2 hon hg (d := d - 1) (by omega)) (by omega) (Nat.le_refl _) (fun x k' h' R' e => ?_) (fun E k' h' _ e => e.elim))
        obtain ⟨-, c', X', hN', hB', rfl⟩ := e
        rw [← t1] at X'
        have D2 : cD G A (cN c') := by rw [hN']; exact D'
        refine cOo R' (tC.i R' (tX2_nose ht D2 X' (d := d - 1) (by omega)) (by omega) (Nat.le_refl _) fun h2 R2 => ?_)
        have hls : rNz (mTr g (nI i) s).2.1 ≤ f := by
          have := X.less (c' := c') (by omega : p < rSp s.2.1 - 1) h5 hg hi (by rw [← t1]; exact X') hB' hi2
          rw [t1]; omega
        exact ih c' (mTr g (nI i) s) h2 X' (hN'.trans hN) (hB'.trans hB) hls hFi R2
      rw [h3]
      refine b_X2_yieldNoses_5 _ _ ⟨fun q => absurd q (zn1 (by omega)), fun _ => cGr R rfl (cGr R rfl (cAi R D' rfl (by omega) (cGet ht R D' u2 u1 (by omega) (Nat.le_refl _) fun h6 R6 => ccOc R6 D' u1 (cGr R6 rfl (cGr R6 rfl (cAi R6 D' (nI_1 p) (by omega) (cGet ht R6 D' w2 w1 (by omega) (Nat.le_refl _) fun h7 R7 => ccOc R7 D' w1 (cOo R7 (tC.i R7 (tX2_runLoad ht D' X u1 u3 hg (d := d - 1) (by omega)) (by omega) (Nat.le_refl _) fun h8 R8 => cOo R8 (tC.i R8 (tX2_runLoad ht D' X w1 w3 hg (d := d - 1) (by omega)) (by omega) (Nat.le_refl _) fun h9 R9 => ⟨fun q => ?_, fun q => ⟨fun q2 => ?_, fun q2 => ccGi R9 D' u1 (j := 0) (x := nI u) ?_ (ccGi R9 D' w1 (j := 0) (x := nI w) ?_ ⟨fun q3 => ?_, fun q3 => ?_⟩)⟩⟩))))))))))⟩
      · refine cont u (Or.inl u2) u1 u3 ?_ h9 R9
        rw [hF2, rWh]; simp only [q, if_true]
      · refine cont w (Or.inr w2) w1 w3 ?_ h9 R9
        rw [hF2, rWh]; simp only [q, q2, if_false]
      · show Value.int (cG c u 0) = _; rw [(X.ca u1).1]
      · show Value.int (cG c w 0) = _; rw [(X.ca w1).1]
      · refine cont w (Or.inr w2) w1 w3 ?_ h9 R9
        rw [hF2, rWh]; simp only [q, Classical.not_not.mp q2, q3, if_true, if_false]
        rw [if_neg (by decide)]
      · refine cont u (Or.inl u2) u1 u3 ?_ h9 R9
        rw [hF2, rWh]; simp only [q, Classical.not_not.mp q2, q3, if_true, if_false]
        rw [if_neg (by decide)]
theorem tX2_yieldNoses (ht : l.stackTraces = false) {c : cS} (D : cD G A (cN c)) (s : zMS) (X : cQ b E T c s.2.1) (g f : Nat) (hg : 8 ≤ g) (hf : rNz s.2.1 ≤ f) (hd : 7 ≤ d) : tC l G d MX2_yieldNoses [.ref A.1] (cK G k A c) 0 (tqV tNo fun k' => ∃ c', cQ b E T c' (mMe g f s).2.1 ∧ cN c' = cN c ∧ cB c' = cB c ∧ k' = cK G k A c') := by
  intro h R
  refine zCt.of kX2_yieldNoses ht (by simp [Value.category]) (Nat.le_of_ble_eq_true rfl) ?_
  refine b_X2_yieldNoses_0 _ (cOo R (tC.i R (tX2_nose ht D X (d := d - 1) (by omega)) (by omega) (Nat.le_refl _) fun h1 R1 => ?_))
  exact tX2_ynLoop ht g hg hd (mMe g f s).2.1 (cN c) (cB c) D _ (fun c' h' X' hN hB R' => ⟨_, R', c', X', hN, hB, rfl⟩) f c s h1 X rfl rfl hf rfl R1
end C6
section R5
variable {b E T : Nat} {c : cS}
/-- turning one run keeps the relation -/
theorem cQ.flFold : ∀ (L : List Nat) (c : cS) (r : Nat → Int32), cQ b E T c r → (∀ i ∈ L, i < cN c ∧ rc r i 2 = 1) → ∃ c', cQ b E T c' (L.foldl rFl r) ∧ cN c' = cN c ∧ cB c' = cB c
  | [], c, r, X, _ => ⟨c, X, rfl, rfl⟩
  | i :: L, c, r, X, h => by
    obtain ⟨h1, h2⟩ := h i List.mem_cons_self
    have X1 := X.fl h1 h2
    obtain ⟨c', g1, g2, g3⟩ := cQ.flFold L (cFl c i) (rFl r i) X1 (fun i' hi' => by
      obtain ⟨h3, h4⟩ := h i' (List.mem_cons_of_mem _ hi')
      exact ⟨h3, by rw [rFl_rc _ _ _ _ (by omega), if_neg (by omega), if_neg (by omega)]; exact h4⟩)
    exact ⟨c', g1, g2, g3⟩
theorem cQ.runEls {r : Nat → Int32} (X : cQ b E T c r) {i g : Nat} (hi : i < cN c) (hon : rc r i 2 = 1) (hg : 8 ≤ g) : ∀ v ∈ rRun r g (nI i), v < cN c ∧ rc r v 2 = 1 := by
  obtain ⟨j, j8, hj, hb⟩ := X.oc.1 i hi hon
  intro v hv
  obtain ⟨q, hq, e⟩ := mem_getD hv
  obtain ⟨jq, g1, g2, -⟩ := (X.run g i j hi hon hj j8 (X.fu j8 hg)).2 q hq
  rw [e] at g1 g2
  exact ⟨g1, g2⟩
/-- the model's mending ends, and touches the row alone -/
theorem cQ.meOk (g : Nat) (hg : 8 ≤ g) : ∀ (f : Nat) (c : cS) (s : zMS), cQ b E T c s.2.1 → rNz s.2.1 ≤ f → mMeOk g f s ∧ (mMe g f s).1 = s.1 ∧ (mMe g f s).2.2 = s.2.2 ∧ ∃ c', cQ b E T c' (mMe g f s).2.1 ∧ cN c' = cN c ∧ cB c' = cB c
  | 0, c, s, X, hz => by
    have sp := X.sp
    rcases X.nsno (rSp s.2.1 - 1) 0 (by omega) with ⟨h1, h2, h3⟩ | ⟨p, h1, h2, h3, h4, h5⟩
    · exact ⟨h2, rfl, rfl, c, X, rfl, rfl⟩
    · exfalso
      have : 0 < rNz s.2.1 := by
        unfold rNz
        have := zcnt_lt (p := fun _ => false) (q := fun q => rHd s.2.1 (nI q) 1 && rHd s.2.1 (nI (q + 1)) 0) (m := p) h5 rfl (n := rSp s.2.1 - 1) (by omega) (fun i hi h => by cases h)
        omega
      omega
  | f + 1, c, s, X, hz => by
    have sp := X.sp
    have n40 := X.n40
    rcases X.nsno (rSp s.2.1 - 1) 0 (by omega) with ⟨h1, h2, h3⟩ | ⟨p, h1, h2, h3, h4, h5⟩
    · rw [mMe_n1 h2]
      exact ⟨Or.inl h2, rfl, rfl, c, X, rfl, rfl⟩
    · obtain ⟨u, w, u1, w1, u2, w2, u3, w3, u4, w4⟩ := X.two h5 (by omega)
      rw [u2] at h4
      have hot : rOt s.2.1 (nI u) = nI w := by rw [X.ot u1 u4 (by omega), w2]
      have e : mMe g (f + 1) s = mMe g f (mTr g (rWh g s.2.1 (nI u) (nI w)) s) := by
        simp only [mMe]
        rw [h4, if_neg (zn1 (by omega)), hot]
      have go : ∀ i, (cB c p = nI i ∨ cB c (p + 1) = nI i) → i < cN c → rc s.2.1 i 2 = 1 → mTrc g (nI i) s ∧ mMeOk g f (mTr g (nI i) s) ∧ (mMe g f (mTr g (nI i) s)).1 = s.1 ∧ (mMe g f (mTr g (nI i) s)).2.2 = s.2.2 ∧ ∃ c', cQ b E T c' (mMe g f (mTr g (nI i) s)).2.1 ∧ cN c' = cN c ∧ cB c' = cB c := by
        intro i hi hi2 hon
        obtain ⟨t1, t2, t3, t4, t5⟩ := X.tr s rfl hi2 hon hg
        obtain ⟨c', X', hN', hB'⟩ := cQ.flFold _ c s.2.1 X (X.runEls hi2 hon hg)
        have hls : rNz (mTr g (nI i) s).2.1 ≤ f := by
          have := X.less (c' := c') (by omega : p < rSp s.2.1 - 1) h5 hg hi X' hB' hi2
          rw [t1]; omega
        rw [← t1] at X'
        obtain ⟨m1, m2, m3, c2, m4, m5, m6⟩ := cQ.meOk g hg f c' (mTr g (nI i) s) X' hls
        exact ⟨t3, m1, m2.trans t4, m3.trans t5, c2, m4, m5.trans hN', m6.trans hB'⟩
      obtain ⟨ju, ju8, ju3, -⟩ := X.oc.1 u u1 u3
      obtain ⟨jw, jw8, jw3, -⟩ := X.oc.1 w w1 w3
      have ch1 := X.ch g u ju u1 u3 ju3 ju8 (X.fu ju8 hg)
      have ch2 := X.ch g w jw w1 w3 jw3 jw8 (X.fu jw8 hg)
      rcases rWh_or g s.2.1 (nI u) (nI w) with q | q
      · obtain ⟨m0, m1, m2, m3, m4⟩ := go u (Or.inl u2) u1 u3
        rw [e, q]
        refine ⟨?_, m2, m3, m4⟩
        simp only [mMeOk]
        rw [h4, hot, q]
        exact Or.inr ⟨⟨u, by omega, rfl⟩, ch1, ch2, m0, m1⟩
      · obtain ⟨m0, m1, m2, m3, m4⟩ := go w (Or.inr w2) w1 w3
        rw [e, q]
        refine ⟨?_, m2, m3, m4⟩
        simp only [mMeOk]
        rw [h4, hot, q]
        exact Or.inr ⟨⟨u, by omega, rfl⟩, ch1, ch2, m0, m1⟩
theorem cQ.nz8 {r : Nat → Int32} (X : cQ b E T c r) : rNz r ≤ 8 := by
  have := X.sp
  have := zcnt_le (fun q => rHd r (nI q) 1 && rHd r (nI (q + 1)) 0) (rSp r - 1)
  unfold rNz
  omega
end R5
