/-! a run turns round; noses are mended -/
theorem zfo_congr {α : Type} {F F' : α → Nat → α} (a : α) : ∀ {n : Nat}, (∀ q a, q < n → F a q = F' a q) → zfo F a n = zfo F' a n
  | 0, _ => rfl
  | n + 1, h => by rw [zfo, zfo, zfo_congr a (fun q a hq => h q a (by omega)), h n _ (by omega)]
theorem ext_getD {l l' : List Nat} (hl : l.length = l'.length) (h : ∀ q, q < l.length → l.getD q 0 = l'.getD q 0) : l = l' := by
  refine List.ext_getElem hl fun q h1 h2 => ?_
  have := h q h1
  rw [List.getD_eq_getElem?_getD, List.getD_eq_getElem?_getD, List.getElem?_eq_getElem h1, List.getElem?_eq_getElem h2] at this
  exact this
theorem getD_rev (L : List Nat) {q : Nat} (hq : q < L.length) : L.reverse.getD q 0 = L.getD (L.length - 1 - q) 0 := by
  rw [List.getD_eq_getElem?_getD, List.getD_eq_getElem?_getD, List.getElem?_reverse hq]
theorem getD_mem {L : List Nat} {q : Nat} (hq : q < L.length) : L.getD q 0 ∈ L := by
  rw [List.getD_eq_getElem?_getD, List.getElem?_eq_getElem hq]; exact List.getElem_mem hq
theorem mem_getD {L : List Nat} {x : Nat} (h : x ∈ L) : ∃ q, q < L.length ∧ L.getD q 0 = x := by
  obtain ⟨q, hq, e⟩ := List.mem_iff_getElem.mp h
  exact ⟨q, hq, by rw [List.getD_eq_getElem?_getD, List.getElem?_eq_getElem hq]; exact e⟩
section R3
variable {b E T : Nat} {c : cS} {r : Nat → Int32}
/-- behind the last of a run nobody goes the same way -/
theorem cQ.rmax (X : cQ b E T c r) : ∀ (f i j : Nat), i < cN c → rc r i 2 = 1 → rc r i 3 = nI j → j < rSp r → rFu r i j f → rHd r (rBx r ((rRun r f (nI i)).getD ((rRun r f (nI i)).length - 1) 0)) (rc r i 4) = false
  | 0, i, j, hi, hon, hj, j8, hf => by
    rcases (X.va hi).2.2.1 hon with v | v
    · have := hf.2 v; omega
    · have := hf.1 v; omega
  | f + 1, i, j, hi, hon, hj, j8, hf => by
    have n40 := X.n40
    have e0 : rRun r (f + 1) (nI i) = i :: rRun r f (rBe r i) := by rw [rRun, if_neg (zn1 (by omega)), nI_clamp (by omega)]
    rw [e0]
    rcases X.be hi hon hj j8 with ⟨e1, e⟩ | ⟨-, i', j', h1, h2, h3, h4, h5, h6, h7, h8, h9⟩
    · rw [e, rRun_n1]; exact e1
    · rw [h2]
      have hf' : rFu r i' j' f := by
        refine ⟨fun v => ?_, fun v => ?_⟩
        · rw [h8] at v
          rcases h9 with ⟨w, e⟩ | ⟨w, e⟩
          · have := hf.1 v; omega
          · rw [w] at v; exact absurd v (by decide)
        · rw [h8] at v
          rcases h9 with ⟨w, e⟩ | ⟨w, e⟩
          · rw [w] at v; exact absurd v (by decide)
          · have := hf.2 v; omega
      have := X.rmax f i' j' h1 h3 h4 h6 hf'
      have hl := (X.run f i' j' h1 h3 h4 h6 hf').1
      rw [h8] at this
      rw [List.length_cons, show (rRun r f (nI i')).length + 1 - 1 = ((rRun r f (nI i')).length - 1) + 1 by omega, List.getD_cons_succ]
      exact this
/-- the run of a cart on a span: from where to where, in a row -/
theorem cQ.seg (X : cQ b E T c r) {i j g : Nat} (hi : i < cN c) (hon : rc r i 2 = 1) (hj : rc r i 3 = nI j) (j8 : j < rSp r) (hg : 8 ≤ g) : ∃ a n, 0 < n ∧ a + n ≤ rSp r ∧ (rRun r g (nI i)).length = n ∧ (rLst r g i < cN c ∧ rc r (rLst r g i) 3 = nI (if rc r i 4 = 1 then a else a + n - 1)) ∧ (j = if rc r i 4 = 1 then a + n - 1 else a) ∧ (∀ q, q < n → ∃ i', i' < cN c ∧ cB c (a + q) = nI i' ∧ rc r i' 2 = 1 ∧ rc r i' 3 = nI (a + q) ∧ rc r i' 4 = rc r i 4) ∧ ((List.range n).map (fun q => (cB c (a + q)).toNatClampNeg)).Perm (rRun r g (nI i)) := by
  have n40 := X.n40
  have sp := X.sp
  have hv := (X.va hi).2.2.1 hon
  obtain ⟨hl, hq⟩ := X.run g i j hi hon hj j8 (X.fu j8 hg)
  have hlast : rLst r g i = (rRun r g (nI i)).getD ((rRun r g (nI i)).length - 1) 0 := by
    obtain ⟨jq, g1, -⟩ := hq ((rRun r g (nI i)).length - 1) (by omega)
    rw [rLst, rLa_run r g _ _ (X.ch g i j hi hon hj j8 (X.fu j8 hg)), foldl_last, if_neg (by omega), nI_clamp (by omega)]
  generalize rRun r g (nI i) = L at *
  obtain ⟨jl, l1, l2, l3, l4, l5, l6, l7⟩ := hq (L.length - 1) (by omega)
  rcases hv with v | v
  · have hjl : jl = j + (L.length - 1) := by
      rcases l7 with ⟨w, _⟩ | ⟨_, e⟩
      · rw [v] at w; exact absurd w (by decide)
      · exact e
    have hn1 : ¬ rc r i 4 = 1 := by rw [v]; decide
    have key : ∀ q, q < L.length → cB c (j + q) = nI (L.getD q 0) ∧ L.getD q 0 < cN c ∧ rc r (L.getD q 0) 2 = 1 ∧ rc r (L.getD q 0) 3 = nI (j + q) ∧ rc r (L.getD q 0) 4 = rc r i 4 := by
      intro q hq'
      obtain ⟨jq, g1, g2, g3, g4, g5, g6, g7⟩ := hq q hq'
      rcases g7 with ⟨w, _⟩ | ⟨_, e⟩
      · rw [v] at w; exact absurd w (by decide)
      · subst e; exact ⟨g6, g1, g2, g3, g5⟩
    refine ⟨j, L.length, hl, by omega, rfl, ⟨by rw [hlast]; exact l1, by rw [hlast, l3, if_neg hn1]; congr 1; omega⟩, by rw [if_neg hn1], fun q hq' => ?_, ?_⟩
    · obtain ⟨g1, g2, g3, g4, g5⟩ := key q hq'
      exact ⟨_, g2, g1, g3, g4, g5⟩
    · refine List.Perm.of_eq (ext_getD (by simp) fun q hq' => ?_)
      rw [List.length_map, List.length_range] at hq'
      rw [range_getD _ hq', (key q hq').1, nI_clamp (by have := (key q hq').2.1; omega)]
  · have hjl : j = jl + (L.length - 1) := by
      rcases l7 with ⟨_, e⟩ | ⟨w, _⟩
      · exact e
      · rw [v] at w; exact absurd w (by decide)
    have key : ∀ q, q < L.length → cB c (jl + q) = nI (L.getD (L.length - 1 - q) 0) ∧ L.getD (L.length - 1 - q) 0 < cN c ∧ rc r (L.getD (L.length - 1 - q) 0) 2 = 1 ∧ rc r (L.getD (L.length - 1 - q) 0) 3 = nI (jl + q) ∧ rc r (L.getD (L.length - 1 - q) 0) 4 = rc r i 4 := by
      intro q hq'
      obtain ⟨jq, g1, g2, g3, g4, g5, g6, g7⟩ := hq (L.length - 1 - q) (by omega)
      rcases g7 with ⟨_, e⟩ | ⟨w, _⟩
      · obtain rfl : jq = jl + q := by omega
        exact ⟨g6, g1, g2, g3, g5⟩
      · rw [v] at w; exact absurd w (by decide)
    refine ⟨jl, L.length, hl, by omega, rfl, ⟨by rw [hlast]; exact l1, by rw [hlast, l3, if_pos v]⟩, by rw [if_pos v]; omega, fun q hq' => ?_, ?_⟩
    · obtain ⟨g1, g2, g3, g4, g5⟩ := key q hq'
      exact ⟨_, g2, g1, g3, g4, g5⟩
    · refine List.Perm.trans (List.Perm.of_eq (ext_getD (l' := L.reverse) (by simp) fun q hq' => ?_)) (List.reverse_perm L)
      rw [List.length_map, List.length_range] at hq'
      rw [range_getD _ hq', (key q hq').1, nI_clamp (by have := (key q hq').2.1; omega), getD_rev L hq']
theorem rFold_rc (i w : Nat) (hw : w < 10) (h4 : w ≠ 4) (h5 : w ≠ 5) : ∀ (L : List Nat) (r : Nat → Int32), rc (L.foldl rFl r) i w = rc r i w
  | [], _ => rfl
  | k :: L, r => by rw [List.foldl_cons, rFold_rc i w hw h4 h5 L, rFl_rc _ _ _ _ hw, if_neg (by omega), if_neg (by omega)]
theorem rFold_hd (j : Nat) (hj : j < 10) : ∀ (L : List Nat) (r : Nat → Int32), (L.foldl rFl r) j = r j
  | [], _ => rfl
  | k :: L, r => by rw [List.foldl_cons, rFold_hd j hj L, rFl_hd _ _ _ hj]
theorem rFold_4 (i : Nat) : ∀ (L : List Nat) (r : Nat → Int32), L.Nodup → rc (L.foldl rFl r) i 4 = if i ∈ L then 1 - rc r i 4 else rc r i 4
  | [], _, _ => by simp
  | k :: L, r, hd => by
    rw [List.nodup_cons] at hd
    rw [List.foldl_cons, rFold_4 i L _ hd.2, rFl_rc _ _ _ _ (by omega)]
    by_cases e : i = k
    · subst e; simp [hd.1]
    · simp [e]
end R3
section C5
variable {l : Launch} {G : zG} {k : t_H} {A : cA} {c : cS} {h : zH} {d mc n b E T : Nat} {r : Nat → Int32} {RX : String → zH → Nat → Prop}
/-- a cart's run turns round -/
theorem tX2_yields (ht : l.stackTraces = false) (D : cD G A (cN c)) (X : cQ b E T c r) {i g : Nat} (hi : i < cN c) (hon : rc r i 2 = 1) (hg : 8 ≤ g) (hd : 6 ≤ d) : tC l G d MX2_yields [.ref A.1, .ref (A.2.2 i)] (cK G k A c) 0 (tqI tNo fun x k' => x = nI (rRun r g (nI i)).length ∧ ∃ c', cQ b E T c' ((rRun r g (nI i)).foldl rFl r) ∧ cN c' = cN c ∧ cB c' = cB c ∧ k' = cK G k A c') := by
  intro h R
  have sp := X.sp
  have n40 := X.n40
  obtain ⟨j, j8, hj, hb⟩ := X.oc.1 i hi hon
  have hv := (X.va hi).2.2.1 hon
  obtain ⟨a, n, s1, s2, s3, s4, s5, s6, s7⟩ := X.seg hi hon hj j8 hg
  have hmin : (if nI j < rc r (rLst r g i) 3 then nI j else rc r (rLst r g i) 3) = nI a := by
    rw [s4.2, nI_min _ _ (by omega) (by split <;> omega)]
    congr 1
    rcases hv with v | v
    · rw [if_neg (by rw [v]; decide)] at s5 ⊢; omega
    · rw [if_pos v] at s5 ⊢; omega
  have hmax : (if rc r (rLst r g i) 3 < nI j then nI j else rc r (rLst r g i) 3) = nI (a + n - 1) := by
    rw [s4.2, nI_max _ _ (by split <;> omega) (by omega)]
    congr 1
    rcases hv with v | v
    · rw [if_neg (by rw [v]; decide)] at s5 ⊢; omega
    · rw [if_pos v] at s5 ⊢; omega
  have hfin : zfo (fun r' q => rFl r' (cB c (a + q)).toNatClampNeg) r n = (rRun r g (nI i)).foldl rFl r := by
    rw [← s7.foldl_eq' (fun x _ y _ z => rFl_comm z x y) r, foldl_zfo, List.length_map, List.length_range]
    exact zfo_congr r fun q a hq => by rw [range_getD _ hq]
  refine zCt.of kX2_yields ht (by simp [Value.category]) (Nat.le_of_ble_eq_true rfl) ?_
  refine b_X2_yields_0 _ _ (cOo R (tC.i R (tX2_runEnd ht D X hi hon hg (d := d - 1) (by omega)) (by omega) (Nat.le_refl _) fun h1 R1 => ccGi R1 D hi ((X.zs hi).trans (by rw [hj])) ⟨⟨by omega, Nat.le_refl _⟩, ccGi R1 D hi ((X.zs hi).trans (by rw [hj])) ⟨⟨by omega, Nat.le_refl _⟩, ?_⟩⟩))
  rw [hmin, hmax, s3, ← hfin]
  refine zInd (N := n) (P := fun q => ∀ (c' : cS) (h : zH), cQ b E T c' (zfo (fun r' q => rFl r' (cB c (a + q)).toNatClampNeg) r q) → cN c' = cN c → cB c' = cB c → tR G (cK G k A c') h → zV l G d 0 MX2_yields _ 28 [some (.ref A.1), some (.ref (A.2.2 i)), some (.int (rc r (rLst r g i) 3)), some (.int (nI a)), some (.int (nI (a + n - 1))), some (.int (nI (a + q))), none] [] h 0) ?_ 0 (Nat.zero_le _) c h1 X rfl rfl R1
  intro q hq ih c' h X' hN hB R
  have D' : cD G A (cN c') := by rw [hN]; exact D
  refine b_X2_yields_28 _ _ _ _ _ _ ?_
  rw [nI_ltI (by omega) (by omega)]
  refine ⟨fun z => ⟨Nat.le_refl _, _, R, ?_, c', ?_, hN, hB, rfl⟩, fun z => ?_⟩
  · rw [pk_sub (by omega), nI_1]; congr 1; omega
  · obtain rfl : q = n := by omega
    exact X'
  · obtain ⟨i', g1, g2, g3, g4, g5⟩ := s6 q (by omega)
    have hi' : i' < cN c' := by rw [hN]; exact g1
    have hon' : rc (zfo (fun r' q => rFl r' (cB c (a + q)).toNatClampNeg) r q) i' 2 = 1 := by
      rw [show zfo (fun r' q => rFl r' (cB c (a + q)).toNatClampNeg) r q = ((List.range q).map (fun q => (cB c (a + q)).toNatClampNeg)).foldl rFl r by
        rw [foldl_zfo, List.length_map, List.length_range]
        exact zfo_congr r fun q' a hq' => by rw [range_getD _ hq']]
      rw [rFold_rc _ _ (by omega) (by omega) (by omega)]; exact g3
    refine cGr R rfl (cGr R rfl (cAi R D' rfl (by omega) (cGet ht R D' (by rw [hB]; exact g2) hi' (by omega) (Nat.le_refl _) fun h2 R2 => ccOc R2 D' hi' (ccGi R2 D' hi' rfl (zCall.P (s_other ht (d := d - 1)) (by omega) (Nat.le_refl _) (ccPf R2 D' hi' (fun g => rfl) fun h3 R3 => ccGi R3 D' hi' (j := 7) (x := cG c' i' 7) (by rw [cSc_at]; rfl) (ccPf R3 D' hi' (fun g => rfl) fun h4 R4 => cGi R4 (j := 12) rfl (cPf R4 D' rfl fun h5 R5 => ?_))))))))
    rw [nI_1]
    refine ih (by omega) (cFl c' i') h5 ?_ hN hB R5
    have := X'.fl hi' hon'
    rw [zfo, g2, nI_clamp (by omega)]
    exact this
theorem cQ.nsno (X : cQ b E T c r) : ∀ (n sp : Nat), sp + n < 8 → (rNs r sp n = -1 ∧ rNo r sp n = -1 ∧ ∀ q, sp ≤ q → q < sp + n → (rHd r (nI q) 1 && rHd r (nI (q + 1)) 0) = false) ∨ ∃ q, sp ≤ q ∧ q < sp + n ∧ rNs r sp n = nI q ∧ rNo r sp n = cB c q ∧ (rHd r (nI q) 1 && rHd r (nI (q + 1)) 0) = true
  | 0, sp, _ => Or.inl ⟨rfl, rfl, fun q h1 h2 => by omega⟩
  | n + 1, sp, h8 => by
    have e : rNob r sp = (rHd r (nI sp) 1 && rHd r (nI (sp + 1)) 0) := by
      simp only [rNob, rHd]
      cases (rCo r (nI sp) == -1) <;> cases (rCo r (nI (sp + 1)) == -1) <;> simp
    rw [rNs, rNo, e]
    cases q : (rHd r (nI sp) 1 && rHd r (nI (sp + 1)) 0) with
    | true => exact Or.inr ⟨sp, Nat.le_refl _, by omega, rfl, X.co (by omega), q⟩
    | false =>
      rcases X.nsno n (sp + 1) (by omega) with ⟨h1, h2, h3⟩ | ⟨p, h1, h2, h3, h4, h5⟩
      · refine Or.inl ⟨h1, h2, fun p p1 p2 => ?_⟩
        by_cases z : p = sp
        · rw [z]; exact q
        · exact h3 p (by omega) (by omega)
      · exact Or.inr ⟨p, by omega, by omega, h3, h4, h5⟩
/-- how many noses -/
def rNz (r : Nat → Int32) : Nat := zcnt (fun q => rHd r (nI q) 1 && rHd r (nI (q + 1)) 0) (rSp r - 1)
theorem zcnt_mono {p q : Nat → Bool} : ∀ {n : Nat}, (∀ i, i < n → p i = true → q i = true) → zcnt p n ≤ zcnt q n
  | 0, _ => Nat.le_refl _
  | n + 1, h => by
    have := zcnt_mono (fun i hi => h i (by omega) : ∀ i, i < n → p i = true → q i = true)
    rw [zcnt, zcnt]
    cases hp : p n with
    | false => cases q n <;> simp <;> omega
    | true => rw [h n (by omega) hp]; simp; exact this
theorem zcnt_lt {p q : Nat → Bool} {m : Nat} (hm : q m = true) (hp : p m = false) : ∀ {n : Nat}, m < n → (∀ i, i < n → p i = true → q i = true) → zcnt p n < zcnt q n
  | 0, h, _ => by omega
  | n + 1, h, hh => by
    rw [zcnt, zcnt]
    by_cases e : m = n
    · subst e
      rw [hm, hp]
      have := zcnt_mono (fun i hi => hh i (by omega) : ∀ i, i < m → p i = true → q i = true)
      simp; omega
    · have := zcnt_lt hm hp (n := n) (by omega) (fun i hi => hh i (by omega))
      cases hp2 : p n with
      | false => cases q n <;> simp <;> omega
      | true => rw [hh n (by omega) hp2]; simp; exact this
/-- when one of a nose's runs has turned, there is a nose less -/
theorem cQ.less (X : cQ b E T c r) {c' : cS} {i p g : Nat} (hp : p < rSp r - 1) (hn : (rHd r (nI p) 1 && rHd r (nI (p + 1)) 0) = true) (hg : 8 ≤ g) (hi : cB c p = nI i ∨ cB c (p + 1) = nI i) (X' : cQ b E T c' ((rRun r g (nI i)).foldl rFl r)) (hB : cB c' = cB c) (hi2 : i < cN c) : rNz ((rRun r g (nI i)).foldl rFl r) < rNz r := by
  have sp := X.sp
  have n40 := X.n40
  rw [Bool.and_eq_true] at hn
  obtain ⟨u, ju, u1, u2, u3, u4, u5, u6, u7⟩ := (rHd_iff X).mp hn.1
  obtain rfl : p = ju := nI_inj (by omega) (by omega) u3
  obtain ⟨w, jw, w1, w2, w3, w4, w5, w6, w7⟩ := (rHd_iff X).mp hn.2
  obtain rfl : p + 1 = jw := nI_inj (by omega) (by omega) w3
  have hs : rSp ((rRun r g (nI i)).foldl rFl r) = rSp r := rSp_e (rFold_hd 4 (by omega) _ _)
  -- where i stands
  have hii : rc r i 2 = 1 ∧ ∃ j, rc r i 3 = nI j ∧ j < rSp r ∧ ((j = p ∧ rc r i 4 = 1) ∨ (j = p + 1 ∧ rc r i 4 = 0)) := by
    rcases hi with z | z
    · rw [u4] at z
      have : u = i := nI_inj (by omega) (by omega) z
      subst this
      exact ⟨u5, p, u6, u2, Or.inl ⟨rfl, u7⟩⟩
    · rw [w4] at z
      have : w = i := nI_inj (by omega) (by omega) z
      subst this
      exact ⟨w5, p + 1, w6, w2, Or.inr ⟨rfl, w7⟩⟩
  obtain ⟨hon, j, hj, j8, hcase⟩ := hii
  obtain ⟨a, n, s1, s2, s3, s4, s5, s6, s7⟩ := X.seg hi2 hon hj j8 hg
  have hmax := X.rmax g i j hi2 hon hj j8 (X.fu j8 hg)
  have hlast : rLst r g i = (rRun r g (nI i)).getD ((rRun r g (nI i)).length - 1) 0 := by
    obtain ⟨hl, hq⟩ := X.run g i j hi2 hon hj j8 (X.fu j8 hg)
    obtain ⟨jq, g1, -⟩ := hq ((rRun r g (nI i)).length - 1) (by omega)
    rw [rLst, rLa_run r g _ _ (X.ch g i j hi2 hon hj j8 (X.fu j8 hg)), foldl_last, if_neg (by omega), nI_clamp (by omega)]
  rw [← hlast] at hmax
  -- members of the run
  have nod : (rRun r g (nI i)).Nodup := by
    refine s7.nodup_iff.mp ((List.pairwise_map).mpr ?_)
    refine List.Pairwise.imp_of_mem (R := fun a b => a ≠ b) ?_ List.nodup_range
    intro x y hx hy hne e
    rw [List.mem_range] at hx hy
    obtain ⟨x', x1, x2, x3, x4, -⟩ := s6 x hx
    obtain ⟨y', y1, y2, y3, y4, -⟩ := s6 y hy
    rw [x2, y2, nI_clamp (by omega), nI_clamp (by omega)] at e
    subst e
    have := nI_inj (by omega) (by omega) (x4.symm.trans y4)
    omega
  have mem : ∀ v jv, v < cN c → rc r v 2 = 1 → rc r v 3 = nI jv → jv < rSp r → cB c jv = nI v → (v ∈ rRun r g (nI i) ↔ a ≤ jv ∧ jv < a + n) := by
    intro v jv v1 v2 v3 v4 v5
    rw [← s7.mem_iff, List.mem_map]
    constructor
    · rintro ⟨q, hq, e⟩
      rw [List.mem_range] at hq
      obtain ⟨x', x1, x2, x3, x4, -⟩ := s6 q hq
      rw [x2, nI_clamp (by omega)] at e
      subst e
      have := nI_inj (by omega) (by omega) (x4.symm.trans v3)
      omega
    · rintro ⟨q1, q2⟩
      refine ⟨jv - a, List.mem_range.mpr (by omega), ?_⟩
      rw [show a + (jv - a) = jv by omega, v5, nI_clamp (by omega)]
  have hd4 : ∀ v, rc ((rRun r g (nI i)).foldl rFl r) v 4 = if v ∈ rRun r g (nI i) then 1 - rc r v 4 else rc r v 4 := fun v => rFold_4 v _ _ nod
  have h2 : ∀ v, rc ((rRun r g (nI i)).foldl rFl r) v 2 = rc r v 2 := fun v => rFold_rc _ _ (by omega) (by omega) (by omega) _ _
  have h3 : ∀ v, rc ((rRun r g (nI i)).foldl rFl r) v 3 = rc r v 3 := fun v => rFold_rc _ _ (by omega) (by omega) (by omega) _ _
  generalize rRun r g (nI i) = L at *
  have key : ∀ q, q < rSp r - 1 → (rHd (L.foldl rFl r) (nI q) 1 && rHd (L.foldl rFl r) (nI (q + 1)) 0) = true → (rHd r (nI q) 1 && rHd r (nI (q + 1)) 0) = true ∧ q ≠ p := by
    intro q hq hb
    rw [Bool.and_eq_true] at hb
    obtain ⟨x, jx, x1, x2, x3, x4, x5, x6, x7⟩ := (rHd_iff X').mp hb.1
    obtain ⟨y, jy, y1, y2, y3, y4, y5, y6, y7⟩ := (rHd_iff X').mp hb.2
    have hcN : cN c' = cN c := nI_inj (by have := X'.n40; omega) (by omega) (by rw [← X'.1.1.1, ← X.1.1.1]; exact rFold_hd 0 (by omega) _ _)
    rw [hcN] at x1 y1
    rw [hs] at x2 y2
    rw [hB] at x4 y4
    rw [h2] at x5 y5
    rw [h3] at x6 y6
    obtain rfl : q = jx := nI_inj (by omega) (by omega) x3
    obtain rfl : q + 1 = jy := nI_inj (by omega) (by omega) y3
    have mx := mem x q x1 x5 x6 x2 x4
    have my := mem y (q + 1) y1 y5 y6 y2 y4
    rw [hd4] at x7 y7
    have hx4 := (X.va x1).2.2.1 x5
    have hy4 := (X.va y1).2.2.1 y5
    rcases hcase with ⟨e1, e2⟩ | ⟨e1, e2⟩
    · -- the western one turns: spans a .. p, heads 1
      rw [if_pos e2] at s5 s4
      have inL : ∀ v jv, v < cN c → rc r v 2 = 1 → rc r v 3 = nI jv → jv < rSp r → cB c jv = nI v → v ∈ L → rc r v 4 = 1 := by
        intro v jv v1 v2 v3 v4 v5 v6
        obtain ⟨q1, q2⟩ := (mem v jv v1 v2 v3 v4 v5).mp v6
        obtain ⟨z', z1, z2, z3, z4, z5⟩ := s6 (jv - a) (by omega)
        rw [show a + (jv - a) = jv by omega, v5] at z2
        have := nI_inj (by omega) (by omega) z2
        rw [this, z5, e2]
      have nx : ¬ x ∈ L := by
        intro hm
        rw [if_pos hm, inL x q x1 x5 x6 x2 x4 hm] at x7
        exact absurd x7 (by decide)
      rw [if_neg nx] at x7
      have ny : ¬ y ∈ L := by
        intro hm
        obtain ⟨q1, q2⟩ := my.mp hm
        have : a = q + 1 := by
          by_cases z : a ≤ q
          · exact absurd (mx.mpr ⟨z, by omega⟩) nx
          · omega
        have hbx : rBx r (rLst r g i) = nI q := by
          have hl4 : rc r (rLst r g i) 4 = 1 := by
            obtain ⟨z', z1, z2, z3, z4, z5⟩ := s6 0 s1
            have hz : z' = rLst r g i := X.uniq z1 s4.1 z3 (by
              have := (X.va s4.1).2.2.2.1
              by_cases ho : rc r (rLst r g i) 2 = 1
              · exact ho
              · have := this ho
                rw [s4.2] at this
                exact absurd this (zn1 (by omega))) (by rw [z4, s4.2]; rfl)
            rw [← hz, z5, e2]
          unfold rBx
          rw [hl4, if_pos rfl, s4.2, this, nI_pred]
        rw [hbx, e2] at hmax
        have := (rHd_iff X (x := nI q) (y := 1)).mpr ⟨x, q, x1, x2, rfl, x4, x5, x6, x7⟩
        rw [hmax] at this; cases this
      rw [if_neg ny] at y7
      refine ⟨?_, ?_⟩
      · rw [Bool.and_eq_true]
        exact ⟨(rHd_iff X).mpr ⟨x, q, x1, x2, rfl, x4, x5, x6, x7⟩, (rHd_iff X).mpr ⟨y, q + 1, y1, y2, rfl, y4, y5, y6, y7⟩⟩
      · intro z
        exact nx (mx.mpr ⟨by omega, by omega⟩)
    · have hn1 : ¬ rc r i 4 = 1 := by rw [e2]; decide
      rw [if_neg hn1] at s5 s4
      have inL : ∀ v jv, v < cN c → rc r v 2 = 1 → rc r v 3 = nI jv → jv < rSp r → cB c jv = nI v → v ∈ L → rc r v 4 = 0 := by
        intro v jv v1 v2 v3 v4 v5 v6
        obtain ⟨q1, q2⟩ := (mem v jv v1 v2 v3 v4 v5).mp v6
        obtain ⟨z', z1, z2, z3, z4, z5⟩ := s6 (jv - a) (by omega)
        rw [show a + (jv - a) = jv by omega, v5] at z2
        have := nI_inj (by omega) (by omega) z2
        rw [this, z5, e2]
      have ny : ¬ y ∈ L := by
        intro hm
        rw [if_pos hm, inL y (q + 1) y1 y5 y6 y2 y4 hm] at y7
        exact absurd y7 (by decide)
      rw [if_neg ny] at y7
      have nx : ¬ x ∈ L := by
        intro hm
        obtain ⟨q1, q2⟩ := mx.mp hm
        have : q + 1 = a + n := by
          by_cases z : q + 1 < a + n
          · exact absurd (my.mpr ⟨by omega, z⟩) ny
          · omega
        have hbx : rBx r (rLst r g i) = nI (q + 1) := by
          have hl4 : rc r (rLst r g i) 4 = 0 := by
            obtain ⟨z', z1, z2, z3, z4, z5⟩ := s6 (n - 1) (by omega)
            have hz : z' = rLst r g i := X.uniq z1 s4.1 z3 (by
              have := (X.va s4.1).2.2.2.1
              by_cases ho : rc r (rLst r g i) 2 = 1
              · exact ho
              · have := this ho
                rw [s4.2] at this
                exact absurd this (zn1 (by omega))) (by rw [z4, s4.2]; congr 1; omega)
            rw [← hz, z5, e2]
          unfold rBx
          rw [hl4, if_neg (by decide), s4.2, nI_1]
          congr 1; omega
        rw [hbx, e2] at hmax
        have := (rHd_iff X (x := nI (q + 1)) (y := 0)).mpr ⟨y, q + 1, y1, y2, rfl, y4, y5, y6, y7⟩
        rw [hmax] at this; cases this
      rw [if_neg nx] at x7
      refine ⟨?_, ?_⟩
      · rw [Bool.and_eq_true]
        exact ⟨(rHd_iff X).mpr ⟨x, q, x1, x2, rfl, x4, x5, x6, x7⟩, (rHd_iff X).mpr ⟨y, q + 1, y1, y2, rfl, y4, y5, y6, y7⟩⟩
      · intro z
        exact ny (my.mpr ⟨by omega, by omega⟩)
  unfold rNz
  rw [hs]
  refine zcnt_lt (m := p) (by rw [hn.1, hn.2]; rfl) ?_ hp (fun q hq h => (key q hq h).1)
  cases z : (rHd (L.foldl rFl r) (nI p) 1 && rHd (L.foldl rFl r) (nI (p + 1)) 0) with
  | false => rfl
  | true => exact absurd rfl (key p hp z).2
end C5
