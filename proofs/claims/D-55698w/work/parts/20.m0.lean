/-! the model's state: fields and four arrays as functions; its heap -/
/-- addresses: the object, all, input, orders, line -/
abbrev zMA : Type := Nat × Nat × Nat × Nat × Nat
/-- fields, all, input, orders, line -/
abbrev zMS : Type := (Nat → Int32) × (Nat → Int32) × (Nat → Int32) × (Nat → Int32) × (Nat → Int32)
def zMo (A : zMA) (s : zMS) : List Value := [.int (s.1 0), .ref A.2.1, .int (s.1 2), .int (s.1 3), .int (s.1 4), .int (s.1 5), .int (s.1 6), .int (s.1 7), .int (s.1 8), .ref A.2.2.1, .int (s.1 10), .int (s.1 11), .int (s.1 12), .int (s.1 13), .ref A.2.2.2.1, .int (s.1 15), .ref A.2.2.2.2, .int (s.1 17)]
def zMh (h : zH) (A : zMA) (s : zMS) : zH := fun b => if b = A.1 then some (.inr (10, zMo A s))
  else if b = A.2.1 then some (.inl (.int, 4932, fun i => .int (s.2.1 i)))
  else if b = A.2.2.1 then some (.inl (.char, 60, fun i => .int (s.2.2.1 i)))
  else if b = A.2.2.2.1 then some (.inl (.int, 183, fun i => .int (s.2.2.2.1 i)))
  else if b = A.2.2.2.2 then some (.inl (.char, 300, fun i => .int (s.2.2.2.2 i)))
  else h b
/-- the addresses are new and apart -/
def zMD (G : zG) (A : zMA) : Prop := (zb G ≤ A.1 ∧ zb G ≤ A.2.1 ∧ zb G ≤ A.2.2.1 ∧ zb G ≤ A.2.2.2.1 ∧ zb G ≤ A.2.2.2.2) ∧ ¬ A.2.1 = A.1 ∧ ¬ A.2.2.1 = A.1 ∧ ¬ A.2.2.2.1 = A.1 ∧ ¬ A.2.2.2.2 = A.1 ∧ ¬ A.2.2.1 = A.2.1 ∧ ¬ A.2.2.2.1 = A.2.1 ∧ ¬ A.2.2.2.2 = A.2.1 ∧ ¬ A.2.2.2.1 = A.2.2.1 ∧ ¬ A.2.2.2.2 = A.2.2.1 ∧ ¬ A.2.2.2.2 = A.2.2.2.1
def zuf (f : Nat → Int32) (k : Nat) (v : Int32) : Nat → Int32 := fun j => if j = k then v else f j
def zMf (s : zMS) (k : Nat) (v : Int32) : zMS := (zuf s.1 k v, s.2)
def zMa (s : zMS) (i : Nat) (v : Int32) : zMS := (s.1, zuf s.2.1 i v, s.2.2)
def zMi (s : zMS) (i : Nat) (v : Int32) : zMS := (s.1, s.2.1, zuf s.2.2.1 i v, s.2.2.2)
def zMr (s : zMS) (i : Nat) (v : Int32) : zMS := (s.1, s.2.1, s.2.2.1, zuf s.2.2.2.1 i v, s.2.2.2.2)
def zMl (s : zMS) (i : Nat) (v : Int32) : zMS := (s.1, s.2.1, s.2.2.1, s.2.2.2.1, zuf s.2.2.2.2 i v)
/-- an int as a char -/
def zch (x : Int32) : Int32 := match narrow .char (.int x) with
  | .int y => y
  | _ => 0
theorem zch_e (x : Int32) : narrow .char (.int x) = .int (zch x) := by rfl
section ZM
variable {G : zG} {h : zH} {A : zMA} {s : zMS}
theorem zOc_m {P : Prop} : zOc (zMh h A s) A.1 10 P ↔ P := by simp [zOc, zMh]
theorem zGi_m0 {p : Int32 → Prop} : zGi (zMh h A s) A.1 10 0 p ↔ p (s.1 0) := by simp [zGi, zMh, zMo, zFd]
theorem zGi_m2 {p : Int32 → Prop} : zGi (zMh h A s) A.1 10 2 p ↔ p (s.1 2) := by simp [zGi, zMh, zMo, zFd]
theorem zGi_m3 {p : Int32 → Prop} : zGi (zMh h A s) A.1 10 3 p ↔ p (s.1 3) := by simp [zGi, zMh, zMo, zFd]
theorem zGi_m4 {p : Int32 → Prop} : zGi (zMh h A s) A.1 10 4 p ↔ p (s.1 4) := by simp [zGi, zMh, zMo, zFd]
theorem zGi_m5 {p : Int32 → Prop} : zGi (zMh h A s) A.1 10 5 p ↔ p (s.1 5) := by simp [zGi, zMh, zMo, zFd]
theorem zGi_m6 {p : Int32 → Prop} : zGi (zMh h A s) A.1 10 6 p ↔ p (s.1 6) := by simp [zGi, zMh, zMo, zFd]
theorem zGi_m7 {p : Int32 → Prop} : zGi (zMh h A s) A.1 10 7 p ↔ p (s.1 7) := by simp [zGi, zMh, zMo, zFd]
theorem zGi_m8 {p : Int32 → Prop} : zGi (zMh h A s) A.1 10 8 p ↔ p (s.1 8) := by simp [zGi, zMh, zMo, zFd]
theorem zGi_m10 {p : Int32 → Prop} : zGi (zMh h A s) A.1 10 10 p ↔ p (s.1 10) := by simp [zGi, zMh, zMo, zFd]
theorem zGi_m11 {p : Int32 → Prop} : zGi (zMh h A s) A.1 10 11 p ↔ p (s.1 11) := by simp [zGi, zMh, zMo, zFd]
theorem zGi_m12 {p : Int32 → Prop} : zGi (zMh h A s) A.1 10 12 p ↔ p (s.1 12) := by simp [zGi, zMh, zMo, zFd]
theorem zGi_m13 {p : Int32 → Prop} : zGi (zMh h A s) A.1 10 13 p ↔ p (s.1 13) := by simp [zGi, zMh, zMo, zFd]
theorem zGi_m15 {p : Int32 → Prop} : zGi (zMh h A s) A.1 10 15 p ↔ p (s.1 15) := by simp [zGi, zMh, zMo, zFd]
theorem zGi_m17 {p : Int32 → Prop} : zGi (zMh h A s) A.1 10 17 p ↔ p (s.1 17) := by simp [zGi, zMh, zMo, zFd]
theorem zGr_m1 {p : Nat → Prop} : zGr (zMh h A s) A.1 10 1 p ↔ p A.2.1 := by simp [zGr, zMh, zMo, zFd]
theorem zGr_m9 {p : Nat → Prop} : zGr (zMh h A s) A.1 10 9 p ↔ p A.2.2.1 := by simp [zGr, zMh, zMo, zFd]
theorem zGr_m14 {p : Nat → Prop} : zGr (zMh h A s) A.1 10 14 p ↔ p A.2.2.2.1 := by simp [zGr, zMh, zMo, zFd]
theorem zGr_m16 {p : Nat → Prop} : zGr (zMh h A s) A.1 10 16 p ↔ p A.2.2.2.2 := by simp [zGr, zMh, zMo, zFd]
theorem zMh_1 : zMh h A s A.1 = some (.inr (10, zMo A s)) := by simp [zMh]
theorem zMh_all (D : zMD G A) : zMh h A s A.2.1 = some (.inl (.int, 4932, fun i => .int (s.2.1 i))) := by
  obtain ⟨-, d1, d2, d3, d4, d5, d6, d7, d8, d9, d10⟩ := D
  simp [zMh, d1, d2, d3, d4, d5, d6, d7, d8, d9, d10]
theorem zAi_all (D : zMD G A) {i : Int32} {p : Int32 → Prop} : zAi (zMh h A s) A.2.1 .int i p ↔ vp_in i 4932 ∧ p (s.2.1 i.toNatClampNeg) := by
  simp [zAi, zMh_all D]
theorem zMh_inp (D : zMD G A) : zMh h A s A.2.2.1 = some (.inl (.char, 60, fun i => .int (s.2.2.1 i))) := by
  obtain ⟨-, d1, d2, d3, d4, d5, d6, d7, d8, d9, d10⟩ := D
  simp [zMh, d1, d2, d3, d4, d5, d6, d7, d8, d9, d10]
theorem zAi_inp (D : zMD G A) {i : Int32} {p : Int32 → Prop} : zAi (zMh h A s) A.2.2.1 .char i p ↔ vp_in i 60 ∧ p (s.2.2.1 i.toNatClampNeg) := by
  simp [zAi, zMh_inp D]
theorem zMh_ord (D : zMD G A) : zMh h A s A.2.2.2.1 = some (.inl (.int, 183, fun i => .int (s.2.2.2.1 i))) := by
  obtain ⟨-, d1, d2, d3, d4, d5, d6, d7, d8, d9, d10⟩ := D
  simp [zMh, d1, d2, d3, d4, d5, d6, d7, d8, d9, d10]
theorem zAi_ord (D : zMD G A) {i : Int32} {p : Int32 → Prop} : zAi (zMh h A s) A.2.2.2.1 .int i p ↔ vp_in i 183 ∧ p (s.2.2.2.1 i.toNatClampNeg) := by
  simp [zAi, zMh_ord D]
theorem zMh_lin (D : zMD G A) : zMh h A s A.2.2.2.2 = some (.inl (.char, 300, fun i => .int (s.2.2.2.2 i))) := by
  obtain ⟨-, d1, d2, d3, d4, d5, d6, d7, d8, d9, d10⟩ := D
  simp [zMh, d1, d2, d3, d4, d5, d6, d7, d8, d9, d10]
theorem zAi_lin (D : zMD G A) {i : Int32} {p : Int32 → Prop} : zAi (zMh h A s) A.2.2.2.2 .char i p ↔ vp_in i 300 ∧ p (s.2.2.2.2 i.toNatClampNeg) := by
  simp [zAi, zMh_lin D]
theorem zMh_out {b : Nat} (h1 : ¬ b = A.1) (h2 : ¬ b = A.2.1) (h3 : ¬ b = A.2.2.1) (h4 : ¬ b = A.2.2.2.1) (h5 : ¬ b = A.2.2.2.2) : zMh h A s b = h b := by simp [zMh, h1, h2, h3, h4, h5]
theorem zMh_m {o : List Value} {s2 : zMS} (ho : o = zMo A s2) (he : s2.2 = s.2) : zUp (zMh h A s) A.1 (.inr (10, o)) = zMh h A s2 := by
  subst ho
  funext b
  by_cases hb : b = A.1
  · subst hb; rw [zUp_self, zMh_1]
  · rw [zUp_ne _ _ hb]; simp only [zMh, hb, if_false, he]
theorem zPf_m0 (D : zMD G A) {v : Int32} {p : zH → Prop} : zPf G (zMh h A s) A.1 10 0 (.int v) p ↔ p (zMh h A (zMf s 0 v)) := by
  have e : zFs (zMo A s) 0 (.int v) = zMo A (zMf s 0 v) := by rfl
  simp only [zPf, zMh_1, true_and, zMh_m (h := h) (s := s) e rfl, D.1.1, forall_eq]
theorem zPf_m2 (D : zMD G A) {v : Int32} {p : zH → Prop} : zPf G (zMh h A s) A.1 10 2 (.int v) p ↔ p (zMh h A (zMf s 2 v)) := by
  have e : zFs (zMo A s) 2 (.int v) = zMo A (zMf s 2 v) := by rfl
  simp only [zPf, zMh_1, true_and, zMh_m (h := h) (s := s) e rfl, D.1.1, forall_eq]
theorem zPf_m3 (D : zMD G A) {v : Int32} {p : zH → Prop} : zPf G (zMh h A s) A.1 10 3 (.int v) p ↔ p (zMh h A (zMf s 3 v)) := by
  have e : zFs (zMo A s) 3 (.int v) = zMo A (zMf s 3 v) := by rfl
  simp only [zPf, zMh_1, true_and, zMh_m (h := h) (s := s) e rfl, D.1.1, forall_eq]
theorem zPf_m4 (D : zMD G A) {v : Int32} {p : zH → Prop} : zPf G (zMh h A s) A.1 10 4 (.int v) p ↔ p (zMh h A (zMf s 4 v)) := by
  have e : zFs (zMo A s) 4 (.int v) = zMo A (zMf s 4 v) := by rfl
  simp only [zPf, zMh_1, true_and, zMh_m (h := h) (s := s) e rfl, D.1.1, forall_eq]
theorem zPf_m5 (D : zMD G A) {v : Int32} {p : zH → Prop} : zPf G (zMh h A s) A.1 10 5 (.int v) p ↔ p (zMh h A (zMf s 5 v)) := by
  have e : zFs (zMo A s) 5 (.int v) = zMo A (zMf s 5 v) := by rfl
  simp only [zPf, zMh_1, true_and, zMh_m (h := h) (s := s) e rfl, D.1.1, forall_eq]
theorem zPf_m6 (D : zMD G A) {v : Int32} {p : zH → Prop} : zPf G (zMh h A s) A.1 10 6 (.int v) p ↔ p (zMh h A (zMf s 6 v)) := by
  have e : zFs (zMo A s) 6 (.int v) = zMo A (zMf s 6 v) := by rfl
  simp only [zPf, zMh_1, true_and, zMh_m (h := h) (s := s) e rfl, D.1.1, forall_eq]
theorem zPf_m7 (D : zMD G A) {v : Int32} {p : zH → Prop} : zPf G (zMh h A s) A.1 10 7 (.int v) p ↔ p (zMh h A (zMf s 7 v)) := by
  have e : zFs (zMo A s) 7 (.int v) = zMo A (zMf s 7 v) := by rfl
  simp only [zPf, zMh_1, true_and, zMh_m (h := h) (s := s) e rfl, D.1.1, forall_eq]
theorem zPf_m8 (D : zMD G A) {v : Int32} {p : zH → Prop} : zPf G (zMh h A s) A.1 10 8 (.int v) p ↔ p (zMh h A (zMf s 8 v)) := by
  have e : zFs (zMo A s) 8 (.int v) = zMo A (zMf s 8 v) := by rfl
  simp only [zPf, zMh_1, true_and, zMh_m (h := h) (s := s) e rfl, D.1.1, forall_eq]
theorem zPf_m10 (D : zMD G A) {v : Int32} {p : zH → Prop} : zPf G (zMh h A s) A.1 10 10 (.int v) p ↔ p (zMh h A (zMf s 10 v)) := by
  have e : zFs (zMo A s) 10 (.int v) = zMo A (zMf s 10 v) := by rfl
  simp only [zPf, zMh_1, true_and, zMh_m (h := h) (s := s) e rfl, D.1.1, forall_eq]
theorem zPf_m11 (D : zMD G A) {v : Int32} {p : zH → Prop} : zPf G (zMh h A s) A.1 10 11 (.int v) p ↔ p (zMh h A (zMf s 11 v)) := by
  have e : zFs (zMo A s) 11 (.int v) = zMo A (zMf s 11 v) := by rfl
  simp only [zPf, zMh_1, true_and, zMh_m (h := h) (s := s) e rfl, D.1.1, forall_eq]
theorem zPf_m12 (D : zMD G A) {v : Int32} {p : zH → Prop} : zPf G (zMh h A s) A.1 10 12 (.int v) p ↔ p (zMh h A (zMf s 12 v)) := by
  have e : zFs (zMo A s) 12 (.int v) = zMo A (zMf s 12 v) := by rfl
  simp only [zPf, zMh_1, true_and, zMh_m (h := h) (s := s) e rfl, D.1.1, forall_eq]
theorem zPf_m13 (D : zMD G A) {v : Int32} {p : zH → Prop} : zPf G (zMh h A s) A.1 10 13 (.int v) p ↔ p (zMh h A (zMf s 13 v)) := by
  have e : zFs (zMo A s) 13 (.int v) = zMo A (zMf s 13 v) := by rfl
  simp only [zPf, zMh_1, true_and, zMh_m (h := h) (s := s) e rfl, D.1.1, forall_eq]
theorem zPf_m15 (D : zMD G A) {v : Int32} {p : zH → Prop} : zPf G (zMh h A s) A.1 10 15 (.int v) p ↔ p (zMh h A (zMf s 15 v)) := by
  have e : zFs (zMo A s) 15 (.int v) = zMo A (zMf s 15 v) := by rfl
  simp only [zPf, zMh_1, true_and, zMh_m (h := h) (s := s) e rfl, D.1.1, forall_eq]
theorem zPf_m17 (D : zMD G A) {v : Int32} {p : zH → Prop} : zPf G (zMh h A s) A.1 10 17 (.int v) p ↔ p (zMh h A (zMf s 17 v)) := by
  have e : zFs (zMo A s) 17 (.int v) = zMo A (zMf s 17 v) := by rfl
  simp only [zPf, zMh_1, true_and, zMh_m (h := h) (s := s) e rfl, D.1.1, forall_eq]
theorem zMhu_all (D : zMD G A) {i : Nat} {v : Int32} : zUp (zMh h A s) A.2.1 (.inl (.int, 4932, zUv (fun i => .int (s.2.1 i)) i (.int v))) = zMh h A (zMa s i v) := by
  obtain ⟨-, d1, d2, d3, d4, d5, d6, d7, d8, d9, d10⟩ := D
  funext b
  by_cases hb : b = A.2.1
  · subst hb
    rw [zUp_self]
    simp only [zMh, d1, d2, d3, d4, d5, d6, d7, d8, d9, d10, if_false, if_true, Option.some.injEq, Sum.inl.injEq, Prod.mk.injEq, true_and]
    funext j
    simp only [zUv, zMa, zuf]
    split <;> rfl
  · rw [zUp_ne _ _ hb]
    simp only [zMh, hb, if_false, zMa, zMo]
theorem zSt1_all (D : zMD G A) {i v : Int32} {p : zH → Prop} : zSt1 G (zMh h A s) A.2.1 .int i (.int v) p ↔ vp_in i 4932 ∧ p (zMh h A (zMa s i.toNatClampNeg v)) := by
  simp only [zSt1, zMh_all D, true_and, zMhu_all D, D.1.2.1, forall_eq]
theorem zMhu_inp (D : zMD G A) {i : Nat} {v : Int32} : zUp (zMh h A s) A.2.2.1 (.inl (.char, 60, zUv (fun i => .int (s.2.2.1 i)) i (.int v))) = zMh h A (zMi s i v) := by
  obtain ⟨-, d1, d2, d3, d4, d5, d6, d7, d8, d9, d10⟩ := D
  funext b
  by_cases hb : b = A.2.2.1
  · subst hb
    rw [zUp_self]
    simp only [zMh, d1, d2, d3, d4, d5, d6, d7, d8, d9, d10, if_false, if_true, Option.some.injEq, Sum.inl.injEq, Prod.mk.injEq, true_and]
    funext j
    simp only [zUv, zMi, zuf]
    split <;> rfl
  · rw [zUp_ne _ _ hb]
    simp only [zMh, hb, if_false, zMi, zMo]
theorem zSt1_inp (D : zMD G A) {i v : Int32} {p : zH → Prop} : zSt1 G (zMh h A s) A.2.2.1 .char i (.int v) p ↔ vp_in i 60 ∧ p (zMh h A (zMi s i.toNatClampNeg v)) := by
  simp only [zSt1, zMh_inp D, true_and, zMhu_inp D, D.1.2.2.1, forall_eq]
theorem zMhu_ord (D : zMD G A) {i : Nat} {v : Int32} : zUp (zMh h A s) A.2.2.2.1 (.inl (.int, 183, zUv (fun i => .int (s.2.2.2.1 i)) i (.int v))) = zMh h A (zMr s i v) := by
  obtain ⟨-, d1, d2, d3, d4, d5, d6, d7, d8, d9, d10⟩ := D
  funext b
  by_cases hb : b = A.2.2.2.1
  · subst hb
    rw [zUp_self]
    simp only [zMh, d1, d2, d3, d4, d5, d6, d7, d8, d9, d10, if_false, if_true, Option.some.injEq, Sum.inl.injEq, Prod.mk.injEq, true_and]
    funext j
    simp only [zUv, zMr, zuf]
    split <;> rfl
  · rw [zUp_ne _ _ hb]
    simp only [zMh, hb, if_false, zMr, zMo]
theorem zSt1_ord (D : zMD G A) {i v : Int32} {p : zH → Prop} : zSt1 G (zMh h A s) A.2.2.2.1 .int i (.int v) p ↔ vp_in i 183 ∧ p (zMh h A (zMr s i.toNatClampNeg v)) := by
  simp only [zSt1, zMh_ord D, true_and, zMhu_ord D, D.1.2.2.2.1, forall_eq]
theorem zMhu_lin (D : zMD G A) {i : Nat} {v : Int32} : zUp (zMh h A s) A.2.2.2.2 (.inl (.char, 300, zUv (fun i => .int (s.2.2.2.2 i)) i (.int v))) = zMh h A (zMl s i v) := by
  obtain ⟨-, d1, d2, d3, d4, d5, d6, d7, d8, d9, d10⟩ := D
  funext b
  by_cases hb : b = A.2.2.2.2
  · subst hb
    rw [zUp_self]
    simp only [zMh, d1, d2, d3, d4, d5, d6, d7, d8, d9, d10, if_false, if_true, Option.some.injEq, Sum.inl.injEq, Prod.mk.injEq, true_and]
    funext j
    simp only [zUv, zMl, zuf]
    split <;> rfl
  · rw [zUp_ne _ _ hb]
    simp only [zMh, hb, if_false, zMl, zMo]
theorem zSt1_lin (D : zMD G A) {i v : Int32} {p : zH → Prop} : zSt1 G (zMh h A s) A.2.2.2.2 .char i (.int v) p ↔ vp_in i 300 ∧ p (zMh h A (zMl s i.toNatClampNeg v)) := by
  simp only [zSt1, zMh_lin D, true_and, zMhu_lin D, D.1.2.2.2.2, forall_eq]
theorem zMB (D : zMD G A) (hB : zB G h) : zB G (zMh h A s) := fun a ha => by
  obtain ⟨⟨e1, e2, e3, e4, e5⟩, -⟩ := D
  rw [zMh_out (by omega) (by omega) (by omega) (by omega) (by omega)]
  exact hB a ha
end ZM
