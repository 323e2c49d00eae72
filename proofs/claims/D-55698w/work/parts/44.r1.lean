/-! runs: plain facts -/
def rFl (r : Nat → Int32) (k : Nat) : Nat → Int32 := fun i => if i = 10 then r 10 + 1 else if i = 11 + 10 * k + 4 then 1 - r i else if i = 11 + 10 * k + 5 then r i + 1 else r i
/-- a run's carts, from one on backwards -/
def rRun (r : Nat → Int32) : Nat → Int32 → List Nat
  | 0, _ => []
  | f + 1, x => if x = -1 then [] else x.toNatClampNeg :: rRun r f (rBe r x.toNatClampNeg)
theorem rRun_n1 (r : Nat → Int32) (f : Nat) : rRun r f (-1) = [] := by cases f <;> simp [rRun]
theorem mTc_fl (s : zMS) (k : Nat) : (mTc s k).2.1 = rFl s.2.1 k := by
  funext i
  simp only [mTc, zMa, zuf, rFl, rc]
  by_cases h1 : i = 10
  · subst h1; simp; rw [if_neg (by omega), if_neg (by omega)]
  · rw [if_neg h1, if_neg h1]
    by_cases h2 : i = 11 + 10 * k + 5
    · subst h2; rw [if_pos rfl, if_neg (by omega), if_pos rfl, if_neg (by omega)]
    · rw [if_neg h2, if_neg h2]
      by_cases h3 : i = 11 + 10 * k + 4
      · subst h3; rw [if_pos rfl]
      · rw [if_neg h3, if_neg h3]
theorem rFl_comm (r : Nat → Int32) (k m : Nat) : rFl (rFl r k) m = rFl (rFl r m) k := by
  by_cases e : k = m
  · rw [e]
  · funext i
    simp only [rFl]
    by_cases h1 : i = 10
    · rw [if_pos h1, if_pos h1]
      simp only [if_true]
    · simp only [h1, if_false]
      by_cases h2 : i = 11 + 10 * k + 4
      · rw [if_pos h2, if_neg (by omega), if_neg (by omega)]
        simp only [h2, if_true]
        simp only [← h2]
        rw [if_neg (by omega), if_neg (by omega)]
      · by_cases h3 : i = 11 + 10 * k + 5
        · rw [if_neg h2, if_pos h3, if_neg (by omega), if_neg (by omega), if_neg h2, if_pos h3, if_neg (by omega), if_neg (by omega)]
        · simp only [h2, h3, if_false]
theorem rFl_hd (r : Nat → Int32) (k j : Nat) (hj : j < 10) : rFl r k j = r j := by
  simp only [rFl]; rw [if_neg (by omega), if_neg (by omega), if_neg (by omega)]
theorem rFl_rc (r : Nat → Int32) (k i w : Nat) (hw : w < 10) : rc (rFl r k) i w = if i = k ∧ w = 4 then 1 - rc r i 4 else if i = k ∧ w = 5 then rc r i 5 + 1 else rc r i w := by
  simp only [rFl, rc]
  rw [if_neg (by omega)]
  by_cases c : i = k ∧ w = 4
  · rw [if_pos c, if_pos (by omega), c.2]
  · rw [if_neg c, if_neg (by omega)]
    by_cases c2 : i = k ∧ w = 5
    · rw [if_pos c2, if_pos (by omega), c2.2]
    · rw [if_neg c2, if_neg (by omega)]
theorem zff_congr {p q : Nat → Bool} : ∀ j k, (∀ i, k ≤ i → i < k + j → p i = q i) → zff p k j = zff q k j
  | 0, _, _ => rfl
  | j + 1, k, h => by rw [zff, zff, h k (Nat.le_refl _) (by omega), zff_congr j (k + 1) (fun i h1 h2 => h i (by omega) (by omega))]
theorem rCo_congr {r r' : Nat → Int32} (h0 : r' 0 = r 0) (h : ∀ k, k < rN r → rc r' k 2 = rc r k 2 ∧ rc r' k 3 = rc r k 3) (x : Int32) : rCo r' x = rCo r x := by
  unfold rCo
  have : rN r' = rN r := by simp only [rN, h0]
  rw [this]
  exact zff_congr _ _ fun i _ hi => by simp only [rCob]; rw [(h i (by omega)).1, (h i (by omega)).2]
section R1
variable {b E T : Nat} {c : cS} {r : Nat → Int32}
/-- the span behind -/
def rBx (r : Nat → Int32) (i : Nat) : Int32 := if rc r i 4 = 1 then rc r i 3 - 1 else rc r i 3 + 1
theorem rBe_hd (r : Nat → Int32) (i : Nat) : rBe r i = if rHd r (rBx r i) (rc r i 4) then rCo r (rBx r i) else -1 := by
  simp only [rBe, rHd, rBx]
  have key : ∀ o : Int32, (if o = -1 then (-1 : Int32) else if rc r o.toNatClampNeg 4 = rc r i 4 then o else -1) = if (!(o == -1) && rc r o.toNatClampNeg 4 == rc r i 4) = true then o else -1 := by
    intro o
    by_cases h1 : o = -1
    · rw [if_pos h1, h1]; rfl
    · rw [if_neg h1]
      by_cases h2 : rc r o.toNatClampNeg 4 = rc r i 4 <;> simp [h1, h2]
  exact key _
theorem rBx_step {i j : Nat} (hj : rc r i 3 = nI j) (h4 : rc r i 4 = 0 ∨ rc r i 4 = 1) : nI j + cStep (1 - rc r i 4) = rBx r i := by
  unfold rBx
  rw [hj]
  rcases h4 with h | h
  · rw [h, if_neg (by decide), show cStep (1 - 0) = 1 by decide]
  · rw [h, if_pos rfl, show cStep (1 - 1) = -1 by decide, Int32.sub_eq_add_neg]
/-- who is behind in the run -/
theorem cQ.be (X : cQ b E T c r) {i j : Nat} (hi : i < cN c) (hon : rc r i 2 = 1) (hj : rc r i 3 = nI j) (j8 : j < rSp r) : (rHd r (rBx r i) (rc r i 4) = false ∧ rBe r i = -1) ∨ (rHd r (rBx r i) (rc r i 4) = true ∧ ∃ i' j', i' < cN c ∧ rBe r i = nI i' ∧ rc r i' 2 = 1 ∧ rc r i' 3 = nI j' ∧ rBx r i = nI j' ∧ j' < rSp r ∧ cB c j' = nI i' ∧ rc r i' 4 = rc r i 4 ∧ ((rc r i 4 = 1 ∧ j = j' + 1) ∨ (rc r i 4 = 0 ∧ j' = j + 1))) := by
  have n40 := X.n40
  have sp := X.sp
  rw [rBe_hd]
  cases q : rHd r (rBx r i) (rc r i 4) with
  | false => exact Or.inl ⟨rfl, rfl⟩
  | true =>
    obtain ⟨i', j', h1, h2, h3, h4, h5, h6, h7⟩ := (rHd_iff X).mp q
    refine Or.inr ⟨rfl, i', j', h1, ?_, h5, h6, h3, h2, h4, h7, ?_⟩
    · rw [if_pos rfl, h3, X.co (by omega), h4]
    · have hv := (X.va hi).2.2.1 hon
      unfold rBx at h3
      rw [hj] at h3
      rcases hv with v | v
      · right
        rw [v, if_neg (by decide), nI_1] at h3
        exact ⟨v, (nI_inj (by omega) (by omega) h3).symm⟩
      · left
        refine ⟨v, ?_⟩
        rw [v, if_pos rfl] at h3
        have h3' : nI j = nI (j' + 1) := by
          rw [← nI_1, ← h3, Int32.sub_eq_add_neg, Int32.add_assoc]
          show nI j = nI j + (-1 + 1)
          rw [show (-1 : Int32) + 1 = 0 by decide, Int32.add_zero]
        exact nI_inj (by omega) (by omega) h3'
/-- how many steps a run may have -/
def rFu (r : Nat → Int32) (i j f : Nat) : Prop := (rc r i 4 = 1 → j + 1 ≤ f) ∧ (rc r i 4 = 0 → rSp r - j ≤ f)
theorem cQ.ch (X : cQ b E T c r) : ∀ (f i j : Nat), i < cN c → rc r i 2 = 1 → rc r i 3 = nI j → j < rSp r → rFu r i j f → rCh r f (nI i)
  | 0, i, j, hi, hon, hj, j8, hf => by
    rcases (X.va hi).2.2.1 hon with v | v
    · have := hf.2 v; omega
    · have := hf.1 v; omega
  | f + 1, i, j, hi, hon, hj, j8, hf => by
    have n40 := X.n40
    refine Or.inr ⟨i, by omega, rfl, ?_⟩
    rcases X.be hi hon hj j8 with ⟨-, e⟩ | ⟨-, i', j', h1, h2, h3, h4, h5, h6, h7, h8, h9⟩
    · rw [e]
      cases f
      · rfl
      · exact Or.inl rfl
    · rw [h2]
      refine X.ch f i' j' h1 h3 h4 h6 ⟨fun v => ?_, fun v => ?_⟩
      · rw [h8] at v
        rcases h9 with ⟨w, e⟩ | ⟨w, e⟩
        · have := hf.1 v; omega
        · rw [w] at v; exact absurd v (by decide)
      · rw [h8] at v
        rcases h9 with ⟨w, e⟩ | ⟨w, e⟩
        · rw [w] at v; exact absurd v (by decide)
        · have := hf.2 v; omega
theorem cQ.fu (X : cQ b E T c r) {i j f : Nat} (j8 : j < rSp r) (hf : 8 ≤ f) : rFu r i j f := by
  have := X.sp
  exact ⟨fun _ => by omega, fun _ => by omega⟩
/-- the carts of a run, one by one -/
theorem cQ.run (X : cQ b E T c r) : ∀ (f i j : Nat), i < cN c → rc r i 2 = 1 → rc r i 3 = nI j → j < rSp r → rFu r i j f → 0 < (rRun r f (nI i)).length ∧ ∀ q, q < (rRun r f (nI i)).length → ∃ jq, (rRun r f (nI i)).getD q 0 < cN c ∧ rc r ((rRun r f (nI i)).getD q 0) 2 = 1 ∧ rc r ((rRun r f (nI i)).getD q 0) 3 = nI jq ∧ jq < rSp r ∧ rc r ((rRun r f (nI i)).getD q 0) 4 = rc r i 4 ∧ cB c jq = nI ((rRun r f (nI i)).getD q 0) ∧ ((rc r i 4 = 1 ∧ j = jq + q) ∨ (rc r i 4 = 0 ∧ jq = j + q))
  | 0, i, j, hi, hon, hj, j8, hf => by
    rcases (X.va hi).2.2.1 hon with v | v
    · have := hf.2 v; omega
    · have := hf.1 v; omega
  | f + 1, i, j, hi, hon, hj, j8, hf => by
    have n40 := X.n40
    have sp := X.sp
    have hv := (X.va hi).2.2.1 hon
    have e0 : rRun r (f + 1) (nI i) = i :: rRun r f (rBe r i) := by rw [rRun, if_neg (zn1 (by omega)), nI_clamp (by omega)]
    have hocc : cB c j = nI i := by
      obtain ⟨j2, g1, g2, g3⟩ := X.oc.1 i hi hon
      have : j2 = j := nI_inj (by omega) (by omega) (g2.symm.trans hj)
      rw [← this]; exact g3
    rw [e0]
    refine ⟨by simp, fun q hq => ?_⟩
    cases q with
    | zero =>
      refine ⟨j, hi, hon, hj, j8, rfl, hocc, ?_⟩
      rcases hv with v | v
      · exact Or.inr ⟨v, rfl⟩
      · exact Or.inl ⟨v, rfl⟩
    | succ q =>
      rw [List.length_cons] at hq
      rcases X.be hi hon hj j8 with ⟨-, e⟩ | ⟨-, i', j', h1, h2, h3, h4, h5, h6, h7, h8, h9⟩
      · rw [e, rRun_n1] at hq; simp at hq
      · rw [h2] at hq ⊢
        have hf' : rFu r i' j' f := by
          refine ⟨fun v => ?_, fun v => ?_⟩
          · rw [h8] at v
            rcases h9 with ⟨w, e⟩ | ⟨w, e⟩
            · have := hf.1 v; omega
            · rw [w] at v; exact absurd v (by decide)
          · rw [h8] at v
            rcases h9 with ⟨w, e⟩ | ⟨w, e⟩
            · rw [w] at v; exact absurd v (by decide)
            · have := hf.2 v; omega
        obtain ⟨jq, g1, g2, g3, g4, g5, g6, g7⟩ := (X.run f i' j' h1 h3 h4 h6 hf').2 q (by omega)
        refine ⟨jq, g1, g2, g3, g4, g5.trans h8, g6, ?_⟩
        rcases g7 with ⟨v, e⟩ | ⟨v, e⟩
        · left
          rw [h8] at v
          refine ⟨v, ?_⟩
          rcases h9 with ⟨w, e2⟩ | ⟨w, e2⟩
          · omega
          · rw [w] at v; exact absurd v (by decide)
        · right
          rw [h8] at v
          refine ⟨v, ?_⟩
          rcases h9 with ⟨w, e2⟩ | ⟨w, e2⟩
          · rw [w] at v; exact absurd v (by decide)
          · omega
theorem rLa_run (r : Nat → Int32) : ∀ (f : Nat) (x z : Int32), rCh r f x → rLa r f x z = (rRun r f x).foldl (fun _ k => nI k) z
  | 0, _, _, _ => rfl
  | f + 1, x, z, h => by
    rw [rLa, rRun]
    rcases h with h | ⟨k, hk, e, h⟩
    · rw [if_pos h, if_pos h]; rfl
    · subst e
      rw [if_neg (zn1 (by omega)), if_neg (zn1 (by omega)), nI_clamp (by omega), List.foldl_cons, rLa_run r f _ _ h]
theorem rLr_run (r : Nat → Int32) : ∀ (f : Nat) (x : Int32), rLr r f x = (rRun r f x).foldr (fun k a => rc r k 1 + a) 0
  | 0, _ => rfl
  | f + 1, x => by
    rw [rLr, rRun]
    by_cases h : x = -1
    · rw [if_pos h, if_pos h]; rfl
    · rw [if_neg h, if_neg h, List.foldr_cons, rLr_run r f]
/-- the last of a run -/
theorem foldl_last : ∀ (L : List Nat) (z : Int32), L.foldl (fun _ k => nI k) z = if L.length = 0 then z else nI (L.getD (L.length - 1) 0)
  | [], _ => rfl
  | [x], _ => rfl
  | x :: y :: t, z => by
    rw [List.foldl_cons, foldl_last (y :: t) (nI x)]
    simp only [List.length_cons, Nat.add_sub_cancel]
    rw [if_neg (by omega), if_neg (by omega)]
    rfl
/-- turning a run, as a list's fold -/
def rAg (n : Nat) (s0 r0 : Nat → Int32) (j : Nat) (y : Int32) : Prop := s0 0 = r0 0 ∧ (∀ k, k < n → rc s0 k 2 = rc r0 k 2 ∧ rc s0 k 3 = rc r0 k 3) ∧ ∀ k j', k < n → rc r0 k 2 = 1 → rc r0 k 3 = nI j' → j' < rSp r0 → (y = 1 → j' ≤ j) → (y = 0 → j ≤ j') → rc s0 k 4 = rc r0 k 4
theorem cQ.trun (X : cQ b E T c r) : ∀ (f i j : Nat) (s : zMS), i < cN c → rc r i 2 = 1 → rc r i 3 = nI j → j < rSp r → rFu r i j f → rAg (cN c) s.2.1 r j (rc r i 4) → (mTr f (nI i) s).2.1 = (rRun r f (nI i)).foldl rFl s.2.1 ∧ mTrn f (nI i) s = (rRun r f (nI i)).length ∧ mTrc f (nI i) s ∧ (mTr f (nI i) s).1 = s.1 ∧ (mTr f (nI i) s).2.2 = s.2.2
  | 0, i, j, s, hi, hon, hj, j8, hf, ha => by
    rcases (X.va hi).2.2.1 hon with v | v
    · have := hf.2 v; omega
    · have := hf.1 v; omega
  | f + 1, i, j, s, hi, hon, hj, j8, hf, ha => by
    have n40 := X.n40
    have sp := X.sp
    have hv := (X.va hi).2.2.1 hon
    have nn := X.nn
    have h4i : rc s.2.1 i 4 = rc r i 4 := ha.2.2 i j hi hon hj j8 (fun _ => Nat.le_refl _) (fun _ => Nat.le_refl _)
    have hco : ∀ x, rCo s.2.1 x = rCo r x := rCo_congr ha.1 (fun k hk => ha.2.1 k (by rw [← nn]; exact hk))
    have hbx : rBx s.2.1 i = rBx r i := by unfold rBx; rw [h4i, (ha.2.1 i hi).2]
    have hbe : rBe s.2.1 i = rBe r i := by
      rw [rBe_hd, rBe_hd, hbx, h4i, hco]
      have : rHd s.2.1 (rBx r i) (rc r i 4) = rHd r (rBx r i) (rc r i 4) := by
        simp only [rHd]
        rw [hco]
        by_cases q : rCo r (rBx r i) = -1
        · rw [q]; rfl
        · have hx : ∃ j', j' < rSp r ∧ rBx r i = nI j' := Classical.byContradiction fun w => q (X.coOut fun j' hj' e => w ⟨j', hj', e⟩)
          obtain ⟨j', hj', ex⟩ := hx
          rw [ex, X.co (by omega)] at q ⊢
          rcases X.oc.2 j' (by omega) with w | ⟨i', g1, g2, g3, g4⟩
          · exact absurd w q
          · rw [g2, nI_clamp (by omega)]
            rw [ha.2.2 i' j' g1 g3 g4 hj' (fun v => ?_) (fun v => ?_)]
            · unfold rBx at ex
              rw [v, if_pos rfl, hj] at ex
              rcases Nat.lt_or_ge j j' with z | z
              · exfalso
                have h3' : nI j = nI (j' + 1) := by
                  rw [← nI_1, ← ex, Int32.sub_eq_add_neg, Int32.add_assoc]
                  show nI j = nI j + (-1 + 1)
                  rw [show (-1 : Int32) + 1 = 0 by decide, Int32.add_zero]
                have := nI_inj (by omega) (by omega) h3'
                omega
              · exact z
            · unfold rBx at ex
              rw [v, if_neg (by decide), hj, nI_1] at ex
              have := nI_inj (by omega) (by omega) ex
              omega
      rw [this]
    have e0 : rRun r (f + 1) (nI i) = i :: rRun r f (rBe r i) := by rw [rRun, if_neg (zn1 (by omega)), nI_clamp (by omega)]
    have e1 : mTr (f + 1) (nI i) s = mTr f (rBe r i) (mTc s i) := by rw [mTr, if_neg (zn1 (by omega)), nI_clamp (by omega), hbe]
    have e2 : mTrn (f + 1) (nI i) s = mTrn f (rBe r i) (mTc s i) + 1 := by rw [mTrn, if_neg (zn1 (by omega)), nI_clamp (by omega), hbe]
    rw [e0, e1, e2, List.foldl_cons, List.length_cons, ← mTc_fl]
    have t1 : (mTc s i).1 = s.1 := rfl
    have t2 : (mTc s i).2.2 = s.2.2 := rfl
    rcases X.be hi hon hj j8 with ⟨-, e⟩ | ⟨-, i', j', h1, h2, h3, h4, h5, h6, h7, h8, h9⟩
    · rw [e, rRun_n1]
      have m1 : ∀ f s, mTr f (-1) s = s := fun f s => by cases f <;> simp [mTr]
      have m2 : ∀ f s, mTrn f (-1) s = 0 := fun f s => by cases f <;> simp [mTrn]
      have m3 : ∀ f s, mTrc f (-1) s := fun f s => by cases f <;> simp [mTrc]
      rw [m1, m2]
      exact ⟨rfl, rfl, Or.inr ⟨i, by omega, rfl, by rw [hbe, e]; exact m3 _ _⟩, rfl, rfl⟩
    · rw [h2]
      have hf' : rFu r i' j' f := by
        refine ⟨fun v => ?_, fun v => ?_⟩
        · rw [h8] at v
          rcases h9 with ⟨w, e⟩ | ⟨w, e⟩
          · have := hf.1 v; omega
          · rw [w] at v; exact absurd v (by decide)
        · rw [h8] at v
          rcases h9 with ⟨w, e⟩ | ⟨w, e⟩
          · rw [w] at v; exact absurd v (by decide)
          · have := hf.2 v; omega
      have ha' : rAg (cN c) (mTc s i).2.1 r j' (rc r i' 4) := by
        rw [mTc_fl, h8]
        refine ⟨by rw [rFl_hd _ _ _ (by omega)]; exact ha.1, fun k hk => ?_, fun k jk hk k1 k2 k3 k4 k5 => ?_⟩
        · rw [rFl_rc _ _ _ _ (by omega), rFl_rc _ _ _ _ (by omega), if_neg (by omega), if_neg (by omega), if_neg (by omega), if_neg (by omega)]
          exact ha.2.1 k hk
        · have ki : k ≠ i := by
            intro q; rw [q, hj] at k2
            have := nI_inj (by omega) (by omega) k2
            rcases h9 with ⟨w, e⟩ | ⟨w, e⟩
            · have := k4 w; omega
            · have := k5 w; omega
          rw [rFl_rc _ _ _ _ (by omega), if_neg (by omega), if_neg (by omega)]
          refine ha.2.2 k jk hk k1 k2 k3 (fun v => ?_) (fun v => ?_)
          · rcases h9 with ⟨w, e⟩ | ⟨w, e⟩
            · have := k4 v; omega
            · rw [w] at v; exact absurd v (by decide)
          · rcases h9 with ⟨w, e⟩ | ⟨w, e⟩
            · rw [w] at v; exact absurd v (by decide)
            · have := k5 v; omega
      obtain ⟨g1, g2, g3, g4, g5⟩ := X.trun f i' j' (mTc s i) h1 h3 h4 h6 hf' ha'
      exact ⟨g1, by rw [g2], Or.inr ⟨i, by omega, rfl, by rw [hbe, h2]; exact g3⟩, g4.trans t1, g5.trans t2⟩
theorem rAg_refl (n : Nat) (r : Nat → Int32) (j : Nat) (y : Int32) : rAg n r r j y := ⟨rfl, fun _ _ => ⟨rfl, rfl⟩, fun _ _ _ _ _ _ _ _ => rfl⟩
end R1
