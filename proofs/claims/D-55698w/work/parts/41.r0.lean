/-! how the component's state and a row of the model go together -/
/-- counting and adding over 0 .. n - 1 by a list without repeats -/
theorem filter_perm {p : Nat → Bool} {n : Nat} {L : List Nat} (hd : L.Nodup) (hm : ∀ i, i ∈ L ↔ i < n ∧ p i = true) : ((List.range n).filter p).Perm L := by
  refine (List.perm_ext_iff_of_nodup (List.Pairwise.filter p List.nodup_range) hd).mpr fun i => ?_
  rw [List.mem_filter, List.mem_range, hm i]
theorem zcnt_filter (p : Nat → Bool) : ∀ n, zcnt p n = ((List.range n).filter p).length
  | 0 => rfl
  | n + 1 => by
    rw [zcnt, List.range_succ, List.filter_append, List.length_append, zcnt_filter p n]
    cases h : p n <;> simp [h]
theorem zcnt_list {p : Nat → Bool} {n : Nat} {L : List Nat} (hd : L.Nodup) (hm : ∀ i, i ∈ L ↔ i < n ∧ p i = true) : zcnt p n = L.length := by
  rw [zcnt_filter, (filter_perm hd hm).length_eq]
theorem zcnt_congr {p q : Nat → Bool} : ∀ {n : Nat}, (∀ i, i < n → p i = q i) → zcnt p n = zcnt q n
  | 0, _ => rfl
  | n + 1, h => by rw [zcnt, zcnt, h n (by omega), zcnt_congr (fun i hi => h i (by omega))]
theorem zfo_filter (p : Nat → Bool) (f : Nat → Int32) : ∀ n, zfo (fun a k => if p k then a + f k else a) 0 n = ((List.range n).filter p).foldl (fun a k => a + f k) 0
  | 0 => rfl
  | n + 1 => by
    rw [zfo, List.range_succ, List.filter_append, List.foldl_append, ← zfo_filter p f n]
    cases h : p n <;> simp [h]
theorem zfo_list {p : Nat → Bool} {f : Nat → Int32} {n : Nat} {L : List Nat} (hd : L.Nodup) (hm : ∀ i, i ∈ L ↔ i < n ∧ p i = true) : zfo (fun a k => if p k then a + f k else a) 0 n = L.foldl (fun a k => a + f k) 0 := by
  rw [zfo_filter]
  exact (filter_perm hd hm).foldl_eq' (fun x _ y _ z => by rw [Int32.add_assoc, Int32.add_comm (f x), ← Int32.add_assoc]) 0
/-- the first that is so -/
theorem zff_spec (p : Nat → Bool) : ∀ j k, (zff p k j = -1 ∧ ∀ i, k ≤ i → i < k + j → p i = false) ∨ ∃ i, k ≤ i ∧ i < k + j ∧ p i = true ∧ zff p k j = nI i ∧ ∀ m, k ≤ m → m < i → p m = false
  | 0, k => Or.inl ⟨rfl, fun i h1 h2 => by omega⟩
  | j + 1, k => by
    rw [zff]
    cases h : p k with
    | true => exact Or.inr ⟨k, Nat.le_refl _, by omega, h, by simp, fun m h1 h2 => by omega⟩
    | false =>
      rcases zff_spec p j (k + 1) with ⟨e, q⟩ | ⟨i, h1, h2, h3, h4, h5⟩
      · refine Or.inl ⟨by simpa using e, fun i h1 h2 => ?_⟩
        by_cases z : i = k
        · rw [z]; exact h
        · exact q i (by omega) (by omega)
      · refine Or.inr ⟨i, by omega, by omega, h3, by simpa using h4, fun m m1 m2 => ?_⟩
        by_cases z : m = k
        · rw [z]; exact h
        · exact h5 m (by omega) m2
theorem zff_one {p : Nat → Bool} {n i : Nat} (hi : i < n) (h : p i = true) (hu : ∀ m, m < n → p m = true → m = i) : zff p 0 n = nI i := by
  rcases zff_spec p n 0 with ⟨_, q⟩ | ⟨m, _, h2, h3, h4, _⟩
  · rw [q i (Nat.zero_le _) (by omega)] at h; cases h
  · rw [h4, hu m (by omega) h3]
theorem zff_no {p : Nat → Bool} {n : Nat} (h : ∀ m, m < n → p m = false) : zff p 0 n = -1 := by
  rcases zff_spec p n 0 with ⟨e, _⟩ | ⟨m, _, h2, h3, _, _⟩
  · exact e
  · rw [h m (by omega)] at h3; cases h3
theorem zany_iff (p : Nat → Bool) : ∀ j k, zany p k j = true ↔ ∃ i, k ≤ i ∧ i < k + j ∧ p i = true
  | 0, k => by simp only [zany]; exact ⟨(fun h => by cases h), fun ⟨i, h1, h2, _⟩ => by omega⟩
  | j + 1, k => by
    rw [zany, Bool.or_eq_true, zany_iff p j (k + 1)]
    refine ⟨fun h => ?_, fun ⟨i, h1, h2, h3⟩ => ?_⟩
    · rcases h with h | ⟨i, h1, h2, h3⟩
      · exact ⟨k, Nat.le_refl _, by omega, h⟩
      · exact ⟨i, by omega, by omega, h3⟩
    · by_cases z : i = k
      · subst z; exact Or.inl h3
      · exact Or.inr ⟨i, by omega, by omega, h3⟩
/-- what is written to a row -/
theorem rc_up (r : Nat → Int32) (k w : Nat) (v : Int32) (i w' : Nat) (h : w < 10) (h' : w' < 10) : rc (zuf r (11 + 10 * k + w) v) i w' = if i = k ∧ w' = w then v else rc r i w' := by
  simp only [rc, zuf]
  by_cases c : i = k ∧ w' = w
  · rw [if_pos c, if_pos (by omega)]
  · rw [if_neg c, if_neg (by omega)]
theorem rc_hd (r : Nat → Int32) (j : Nat) (v : Int32) (i w : Nat) (hj : j < 11) : rc (zuf r j v) i w = rc r i w := by
  simp only [rc, zuf]; rw [if_neg (by omega)]
theorem hd_up (r : Nat → Int32) (k w : Nat) (v : Int32) (j : Nat) (hj : j < 11) : zuf r (11 + 10 * k + w) v j = r j := by
  simp only [zuf]; rw [if_neg (by omega)]
/-! the parts of the relation -/
def qHdr (b E T : Nat) (c : cS) (r : Nat → Int32) : Prop :=
  (r 0 = nI (cN c) ∧ cN c ≤ 40) ∧ (r 4 = nI (rSp r) ∧ 2 ≤ rSp r ∧ rSp r ≤ 8) ∧
  (c.1 5 = r 4 ∧ c.1 6 = r 2 ∧ c.1 7 = r 3 ∧ c.1 8 = r 5 ∧ c.1 9 = r 6 ∧ c.1 10 = r 1 ∧ c.1 11 = r 9 ∧ c.1 12 = r 10) ∧
  rLw r ∧ (r 5 = 0 ∨ r 5 = 1) ∧ (∃ q, r 3 = nI q ∧ 1 ≤ q ∧ q ≤ 5) ∧ (∃ e, r 6 = nI e ∧ e ≤ E) ∧ (∃ t, r 1 = nI t ∧ t ≤ T) ∧ b ≤ 2 ^ 20 ∧ E ≤ 2 ^ 20
def qCart (c : cS) (r : Nat → Int32) (i : Nat) : Prop :=
  cG c i 0 = nI i ∧ cG c i 1 = rc r i 0 ∧ cG c i 2 = rc r i 1 ∧ cG c i 3 = rc r i 6 ∧ cG c i 4 = rc r i 2 ∧ cG c i 5 = rc r i 3 ∧ cG c i 6 = (if rc r i 2 = 1 then rc r i 4 else -1) ∧ cG c i 7 = rc r i 5 ∧ cG c i 8 = rc r i 7 ∧ (if rc r i 2 = 0 then cG c i 10 + r 1 - cG c i 9 else cG c i 10) = rc r i 7
def qVal (b : Nat) (r : Nat → Int32) (i : Nat) : Prop :=
  (rc r i 0 = 0 ∨ rc r i 0 = 1) ∧ (rc r i 2 = 0 ∨ rc r i 2 = 1 ∨ rc r i 2 = 2 ∨ rc r i 2 = 3) ∧ (rc r i 2 = 1 → rc r i 4 = 0 ∨ rc r i 4 = 1) ∧ (rc r i 2 ≠ 1 → rc r i 3 = -1) ∧ (∃ q, rc r i 1 = nI q ∧ 1 ≤ q ∧ q ≤ 9) ∧ (rc r i 2 = 0 → -(b : Int) ≤ (rc r i 8).toInt ∧ (rc r i 8).toInt ≤ b)
def qOcc (c : cS) (r : Nat → Int32) : Prop :=
  (∀ i, i < cN c → rc r i 2 = 1 → ∃ j, j < rSp r ∧ rc r i 3 = nI j ∧ cB c j = nI i) ∧ ∀ j, j < 8 → cB c j = -1 ∨ ∃ i, i < cN c ∧ cB c j = nI i ∧ rc r i 2 = 1 ∧ rc r i 3 = nI j
def qRow (c : cS) (r : Nat → Int32) (z : Nat) : Prop :=
  (∀ i, i ∈ cL c (1 + z) ↔ i < cN c ∧ rc r i 2 = 0 ∧ rc r i 0 = nI z) ∧ (cL c (1 + z)).Pairwise (fun a b => (rc r a 8).toInt < (rc r b 8).toInt)
def qPas (c : cS) (r : Nat → Int32) : Prop :=
  (∀ i, i ∈ cL c 3 ↔ i < cN c ∧ rc r i 2 = 2) ∧ (cL c 3).Nodup ∧ r 7 = nI (cL c 3).length ∧ ∀ q, q < (cL c 3).length → rc r ((cL c 3).getD q 0) 9 = nI q
def qLef (c : cS) (r : Nat → Int32) : Prop := r 8 = nI (zcnt (fun i => rc r i 2 == 3) (cN c))
def qWt (T : Nat) (c : cS) (r : Nat → Int32) : Prop := T ≤ 2 ^ 20 ∧ ∀ i, i < cN c → ∃ w, rc r i 7 = nI w ∧ w ≤ T
def cQ (b E T : Nat) (c : cS) (r : Nat → Int32) : Prop :=
  qHdr b E T c r ∧ (∀ i, i < cN c → qCart c r i) ∧ (∀ i, i < cN c → qVal b r i) ∧ qOcc c r ∧ qRow c r 0 ∧ qRow c r 1 ∧ qPas c r ∧ qLef c r ∧ qWt T c r
section R0
variable {b E T : Nat} {c : cS} {r : Nat → Int32}
theorem cQ.hd (X : cQ b E T c r) : qHdr b E T c r := X.1
theorem cQ.ca (X : cQ b E T c r) {i : Nat} (hi : i < cN c) : qCart c r i := X.2.1 i hi
theorem cQ.va (X : cQ b E T c r) {i : Nat} (hi : i < cN c) : qVal b r i := X.2.2.1 i hi
theorem cQ.oc (X : cQ b E T c r) : qOcc c r := X.2.2.2.1
theorem cQ.row (X : cQ b E T c r) {z : Nat} (hz : z ≤ 1) : qRow c r z := by
  rcases Nat.eq_zero_or_pos z with q | q
  · subst q; exact X.2.2.2.2.1
  · obtain rfl : z = 1 := by omega
    exact X.2.2.2.2.2.1
theorem cQ.pa (X : cQ b E T c r) : qPas c r := X.2.2.2.2.2.2.1
theorem cQ.le (X : cQ b E T c r) : qLef c r := X.2.2.2.2.2.2.2.1
theorem cQ.wt (X : cQ b E T c r) : qWt T c r := X.2.2.2.2.2.2.2.2
theorem cQ.n40 (X : cQ b E T c r) : cN c ≤ 40 := X.1.1.2
theorem cQ.nn (X : cQ b E T c r) : rN r = cN c := by
  have h := X.1.1
  unfold rN; rw [h.1, nI_clamp (by omega)]
theorem cQ.ok (X : cQ b E T c r) : rOk r := by
  refine ⟨?_, ?_⟩
  · rw [X.nn]; exact X.1.1.1
  · rw [X.nn]; exact X.1.1.2
theorem cQ.sk (X : cQ b E T c r) : rSk r := ⟨X.1.2.1.1, X.1.2.1.2.2⟩
theorem cQ.lw (X : cQ b E T c r) : rLw r := X.1.2.2.2.1
theorem cQ.sp (X : cQ b E T c r) : r 4 = nI (rSp r) ∧ 2 ≤ rSp r ∧ rSp r ≤ 8 := X.1.2.1
theorem cQ.f5 (X : cQ b E T c r) : c.1 5 = nI (rSp r) := by rw [X.1.2.2.1.1]; exact X.sp.1
theorem cQ.nod (X : cQ b E T c r) {z : Nat} (hz : z ≤ 1) : (cL c (1 + z)).Nodup := by
  refine List.Pairwise.imp (fun {a b} h => ?_) (X.row hz).2
  intro q; rw [q] at h; exact absurd h (Int.lt_irrefl _)
theorem cQ.len (X : cQ b E T c r) {z : Nat} (hz : z ≤ 1) : (cL c (1 + z)).length ≤ cN c := by
  have := List.Nodup.length_le_of_subset (l₂ := List.range (cN c)) (X.nod hz) (fun i hi => List.mem_range.mpr (((X.row hz).1 i).mp hi).1)
  rwa [List.length_range] at this
theorem cQ.lenP (X : cQ b E T c r) : (cL c 3).length ≤ cN c := by
  have := List.Nodup.length_le_of_subset (l₂ := List.range (cN c)) X.pa.2.1 (fun i hi => List.mem_range.mpr ((X.pa.1 i).mp hi).1)
  rwa [List.length_range] at this
theorem nI_inj {a b : Nat} (ha : a < 2 ^ 31) (hb : b < 2 ^ 31) (h : nI a = nI b) : a = b := (nI_eq ha hb).mp h
theorem cQ.mem (X : cQ b E T c r) {z : Nat} (hz : z ≤ 1) {q : Nat} (hq : q < (cL c (1 + z)).length) : (cL c (1 + z)).getD q 0 ∈ cL c (1 + z) := by
  rw [List.getD_eq_getElem?_getD, List.getElem?_eq_getElem hq]; exact List.getElem_mem hq
theorem cQ.el (X : cQ b E T c r) {z : Nat} (hz : z ≤ 1) {q : Nat} (hq : q < (cL c (1 + z)).length) : (cL c (1 + z)).getD q 0 < cN c := (((X.row hz).1 _).mp (X.mem hz hq)).1
/-- who stands on a span -/
theorem cQ.uniq (X : cQ b E T c r) {i i' : Nat} (hi : i < cN c) (hi' : i' < cN c) (h : rc r i 2 = 1) (h' : rc r i' 2 = 1) (e : rc r i 3 = rc r i' 3) : i = i' := by
  have := X.n40
  have s8 := X.sp.2.2
  obtain ⟨j, h1, h2, h3⟩ := X.oc.1 i hi h
  obtain ⟨j', h1', h2', h3'⟩ := X.oc.1 i' hi' h'
  have : j = j' := nI_inj (by omega) (by omega) (by rw [← h2, e, h2'])
  subst this
  exact nI_inj (by omega) (by omega) (h3.symm.trans h3')
theorem cQ.co (X : cQ b E T c r) {j : Nat} (hj : j < 8) : rCo r (nI j) = cB c j := by
  have := X.n40
  have s8 := X.sp.2.2
  unfold rCo; rw [X.nn]
  rcases X.oc.2 j hj with h | ⟨i, hi, h1, h2, h3⟩
  · rw [h]
    refine zff_no fun m hm => ?_
    cases q : rCob r (nI j) m with
    | false => rfl
    | true =>
      exfalso
      simp only [rCob, Bool.and_eq_true, beq_iff_eq] at q
      obtain ⟨j', g1, g2, g3⟩ := X.oc.1 m hm q.1
      have : j' = j := nI_inj (by omega) (by omega) (by rw [← g2, q.2])
      rw [this, h] at g3
      exact zn1 (by omega) g3.symm
  · rw [h1]
    refine zff_one hi (by simp [rCob, h2, h3]) fun m hm q => ?_
    simp only [rCob, Bool.and_eq_true, beq_iff_eq] at q
    exact X.uniq hm hi q.1 h2 (by rw [q.2, h3])
/-- nobody stands off the bridge -/
theorem cQ.coOut (X : cQ b E T c r) {x : Int32} (hx : ∀ j, j < rSp r → x ≠ nI j) : rCo r x = -1 := by
  unfold rCo; rw [X.nn]
  refine zff_no fun m hm => ?_
  cases q : rCob r x m with
  | false => rfl
  | true =>
    exfalso
    simp only [rCob, Bool.and_eq_true, beq_iff_eq] at q
    obtain ⟨j', g1, g2, g3⟩ := X.oc.1 m hm q.1
    exact hx j' g1 (q.2.symm.trans g2)
theorem cQ.rowMany (X : cQ b E T c r) {z : Nat} (hz : z ≤ 1) : zcnt (fun k => rwa r k (nI z)) (cN c) = (cL c (1 + z)).length :=
  zcnt_list (X.nod hz) fun i => by rw [(X.row hz).1 i]; simp [rwa]
theorem cQ.on (X : cQ b E T c r) : zcnt (fun j => !(cB c j == -1)) (rSp r) = rOn r := by
  have n40 := X.n40
  have s8 := X.sp.2.2
  have e : rOn r = ((List.range (rSp r)).filter (fun j => !(cB c j == -1))).length := by
    unfold rOn
    rw [X.nn, ← List.length_map (as := (List.range (rSp r)).filter (fun j => !(cB c j == -1))) (fun j => (cB c j).toNatClampNeg)]
    have key : ∀ j, j < rSp r → (!(cB c j == -1)) = true → ∃ i, i < cN c ∧ cB c j = nI i ∧ rc r i 2 = 1 ∧ rc r i 3 = nI j := by
      intro j hj q
      rcases X.oc.2 j (by omega) with h | h
      · rw [h] at q; simp at q
      · exact h
    refine zcnt_list ?_ fun i => ?_
    · refine (List.pairwise_map).mpr ?_
      refine List.Pairwise.imp_of_mem (R := fun a b => a ≠ b) ?_ (List.Pairwise.filter _ List.nodup_range)
      intro j j' hj hj' hne q
      rw [List.mem_filter, List.mem_range] at hj hj'
      obtain ⟨i, h1, h2, h3, h4⟩ := key j hj.1 hj.2
      obtain ⟨i', h1', h2', h3', h4'⟩ := key j' hj'.1 hj'.2
      rw [h2, h2', nI_clamp (by omega), nI_clamp (by omega)] at q
      subst q
      exact hne (nI_inj (by omega) (by omega) (h4.symm.trans h4'))
    · rw [List.mem_map]
      constructor
      · rintro ⟨j, hj, rfl⟩
        rw [List.mem_filter, List.mem_range] at hj
        obtain ⟨i, h1, h2, h3, h4⟩ := key j hj.1 hj.2
        rw [h2, nI_clamp (by omega)]
        exact ⟨h1, by simp [rOnb, h3]⟩
      · rintro ⟨hi, q⟩
        simp only [rOnb, beq_iff_eq] at q
        obtain ⟨j, g1, g2, g3⟩ := X.oc.1 i hi q
        refine ⟨j, ?_, by rw [g3, nI_clamp (by omega)]⟩
        rw [List.mem_filter, List.mem_range]
        refine ⟨g1, ?_⟩
        have := zn1 (k := i) (by omega)
        simp [g3, this]
  rw [e, zcnt_filter]
/-- the place in a row -/
theorem cQ.place (X : cQ b E T c r) {z : Nat} (hz : z ≤ 1) {q : Nat} (hq : q < (cL c (1 + z)).length) : rPl r ((cL c (1 + z)).getD q 0) = q := by
  have hrow := X.row hz
  have hm := ((X.row hz).1 _).mp (X.mem hz hq)
  have hpw := hrow.2
  rw [List.pairwise_iff_getElem] at hpw
  have hx : (cL c (1 + z)).getD q 0 = (cL c (1 + z))[q] := by rw [List.getD_eq_getElem?_getD, List.getElem?_eq_getElem hq]; rfl
  unfold rPl
  rw [X.nn]
  rw [zcnt_list (L := (cL c (1 + z)).take q) (List.Pairwise.sublist (List.take_sublist _ _) (X.nod hz)) fun i => ?_]
  · rw [List.length_take]; omega
  · simp only [rPlb, rwa, Bool.and_eq_true, beq_iff_eq, decide_eq_true_eq, Int32.lt_iff_toInt_lt]
    rw [hm.2.2, List.mem_take_iff_getElem]
    constructor
    · rintro ⟨m, hm1, rfl⟩
      have hml : m < (cL c (1 + z)).length := by omega
      have := (hrow.1 _).mp (List.getElem_mem hml)
      exact ⟨this.1, ⟨this.2.1, this.2.2⟩, by rw [hx]; exact hpw m q hml hq (by omega)⟩
    · rintro ⟨h1, ⟨h2, h3⟩, h4⟩
      obtain ⟨m, hml, e⟩ := List.mem_iff_getElem.mp ((hrow.1 i).mpr ⟨h1, h2, h3⟩)
      refine ⟨m, ?_, e⟩
      rw [hx] at h4
      by_cases w : m < q
      · omega
      · exfalso
        rcases Nat.lt_or_ge q m with w2 | w2
        · have := hpw q m hq hml w2
          rw [e] at this; omega
        · obtain rfl : m = q := by omega
          rw [e] at h4; exact absurd h4 (Int.lt_irrefl _)
/-- who stands at a place -/
theorem cQ.rowAt (X : cQ b E T c r) {z : Nat} (hz : z ≤ 1) (x : Int32) : (rRa r (nI z) x = -1 ∧ ∀ q, q < (cL c (1 + z)).length → x ≠ nI q) ∨ ∃ q, q < (cL c (1 + z)).length ∧ x = nI q ∧ rRa r (nI z) x = nI ((cL c (1 + z)).getD q 0) := by
  have hl := X.len hz
  have n40 := X.n40
  unfold rRa; rw [X.nn]
  have key : ∀ m, m < cN c → rRab r (nI z) x m = true → ∃ q, q < (cL c (1 + z)).length ∧ x = nI q ∧ m = (cL c (1 + z)).getD q 0 := by
    intro m hm h
    simp only [rRab, rwa, Bool.and_eq_true, beq_iff_eq] at h
    obtain ⟨q, hq, e⟩ := List.mem_iff_getElem.mp (((X.row hz).1 m).mpr ⟨hm, h.1.1, h.1.2⟩)
    have e2 : (cL c (1 + z)).getD q 0 = m := by rw [List.getD_eq_getElem?_getD, List.getElem?_eq_getElem hq]; exact e
    refine ⟨q, hq, ?_, e2.symm⟩
    rw [← h.2, ← e2, X.place hz hq]
  by_cases hx : ∃ q, q < (cL c (1 + z)).length ∧ x = nI q
  · right
    obtain ⟨q, hq, rfl⟩ := hx
    refine ⟨q, hq, rfl, zff_one (X.el hz hq) ?_ fun m hm h => ?_⟩
    · have := ((X.row hz).1 _).mp (X.mem hz hq)
      simp only [rRab, rwa, Bool.and_eq_true, beq_iff_eq]
      exact ⟨⟨this.2.1, this.2.2⟩, by rw [X.place hz hq]⟩
    · obtain ⟨q', h1, h2, h3⟩ := key m hm h
      rw [h3, nI_inj (by omega) (by omega) h2]
  · left
    refine ⟨zff_no fun m hm => ?_, fun q hq e => hx ⟨q, hq, e⟩⟩
    cases h : rRab r (nI z) x m with
    | false => rfl
    | true =>
      obtain ⟨q, h1, h2, -⟩ := key m hm h
      exact absurd ⟨q, h1, h2⟩ hx
theorem cQ.loads (X : cQ b E T c r) {z : Nat} (hz : z ≤ 1) : rLo r (nI z) = (cL c (1 + z)).foldl (fun a k => a + rc r k 1) 0 := by
  unfold rLo; rw [X.nn]
  exact zfo_list (X.nod hz) fun i => by rw [(X.row hz).1 i]; simp [rwa]
end R0
