/-! a quotient of two whole numbers is a number -/
section FPQ
def fpG (d : FP.Core.Datum) : Prop := match d with
  | .nan => False
  | .inf _ => True
  | .fin _ c q => c < 2 ^ 53 ∧ q ≤ 971
theorem fpG_bound (s : Bool) (c : Nat) (q : Int) (h : c < 2 ^ 53) : fpG (FP.Core.bound FP.Core.b64 s c q) := by
  unfold FP.Core.bound
  have e : FP.Core.b64.qmax = 971 := by decide
  rw [e]
  split
  · next w => exact ⟨h, w⟩
  · trivial
theorem fpG_rr (s : Bool) (a m : Nat) (e : Int) : fpG (FP.Core.roundRatio FP.Core.b64 s a m e) := by
  unfold FP.Core.roundRatio
  split
  · exact ⟨by decide, by decide⟩
  · unfold FP.Core.roundAt FP.Core.settle
    split
    · next w => exact fpG_bound _ _ _ w
    · exact fpG_bound _ _ _ (by decide)
theorem fp_fields {d : FP.Core.Datum} (h : fpG d) : ∃ (s E t : Nat), s ≤ 1 ∧ (E ≤ 2046 ∧ t < 2 ^ 52 ∨ E = 2047 ∧ t = 0) ∧ FP.Core.encode FP.Core.b64 d = (s * 2048 + E) * 2 ^ 52 + t := by
  have e1 : FP.Core.b64.tails = 2 ^ 52 := by decide
  have e2 : FP.Core.b64.exps = 2048 := by decide
  have e3 : FP.Core.b64.qmin = -1074 := by decide
  have sb : ∀ s : Bool, s.toNat ≤ 1 := fun s => by cases s <;> decide
  match d, h with
  | .inf s, _ =>
    refine ⟨s.toNat, 2047, 0, sb s, Or.inr ⟨rfl, rfl⟩, ?_⟩
    simp only [FP.Core.encode, FP.Core.assemble, e1, e2]
  | .fin s c q, h =>
    have h1 : c < 2 ^ 53 := h.1
    have h2 : q ≤ 971 := h.2
    by_cases w : c < 2 ^ 52
    · refine ⟨s.toNat, 0, c, sb s, Or.inl ⟨by omega, w⟩, ?_⟩
      simp only [FP.Core.encode, FP.Core.assemble, e1, e2]
      rw [if_pos w]
    · refine ⟨s.toNat, (q - -1074).toNat + 1, c - 2 ^ 52, sb s, Or.inl ⟨by omega, by omega⟩, ?_⟩
      simp only [FP.Core.encode, FP.Core.assemble, e1, e2, e3]
      rw [if_neg w]
theorem fp_vf {d : FP.Core.Datum} (h : fpG d) : vf_n64 (UInt64.ofNat (FP.Core.encode FP.Core.b64 d)) := by
  obtain ⟨s, E, t, hs, ht, e⟩ := fp_fields h
  rw [e]
  unfold vf_n64
  rw [UInt64.le_iff_toNat_le, UInt64.toNat_and, UInt64.toNat_ofNat']
  show ((s * 2048 + E) * 2 ^ 52 + t) % 2 ^ 64 &&& (2 ^ 63 - 1) ≤ 0x7ff0000000000000
  rw [Nat.and_two_pow_sub_one_eq_mod]
  have : ((s * 2048 + E) * 2 ^ 52 + t) % 2 ^ 64 % 2 ^ 63 = E * 2 ^ 52 + t := by
    rcases ht with ⟨h1, h2⟩ | ⟨rfl, rfl⟩ <;> omega
  rw [this]
  rcases ht with ⟨h1, h2⟩ | ⟨rfl, rfl⟩ <;> omega
theorem fp_dec {d : FP.Core.Datum} (h : fpG d) : FP.Core.decode FP.Core.b64 (UInt64.ofNat (FP.Core.encode FP.Core.b64 d)).toNat ≠ .nan := by
  obtain ⟨s, E, t, hs, ht, e⟩ := fp_fields h
  have e1 : FP.Core.b64.tails = 2 ^ 52 := by decide
  have e2 : FP.Core.b64.exps = 2048 := by decide
  rw [e, UInt64.toNat_ofNat', Nat.mod_eq_of_lt (by rcases ht with ⟨h1, h2⟩ | ⟨rfl, rfl⟩ <;> omega)]
  unfold FP.Core.decode FP.Core.fieldE FP.Core.fieldT
  rw [e1, e2]
  have q1 : ((s * 2048 + E) * 2 ^ 52 + t) / 2 ^ 52 % 2048 = E := by
    rcases ht with ⟨h1, h2⟩ | ⟨rfl, rfl⟩ <;> omega
  have q2 : ((s * 2048 + E) * 2 ^ 52 + t) % 2 ^ 52 = t := by
    rcases ht with ⟨h1, h2⟩ | ⟨rfl, rfl⟩ <;> omega
  rw [q1, q2]
  rcases ht with ⟨h1, h2⟩ | ⟨rfl, rfl⟩
  · rw [if_neg (by omega)]
    split <;> exact fun w => by cases w
  · rw [if_pos rfl, if_pos rfl]
    exact fun w => by cases w
theorem fp_small : ∀ m, m < 41 → 1 ≤ m → (match FP.Core.decode FP.Core.b64 (FP.i2d (nI m)).toNat with | .fin _ d _ => d != 0 | _ => false) = true := by
  decide +kernel
theorem fp_mean (x : Int32) {m : Nat} (h1 : 1 ≤ m) (h40 : m ≤ 40) : vf_n64 (FP.ddiv (FP.i2d x) (FP.i2d (nI m))) := by
  have hs := fp_small m (by omega) h1
  have hx : FP.Core.decode FP.Core.b64 (FP.i2d x).toNat ≠ .nan := fp_dec (d := FP.Core.round FP.Core.b64 (FP.Core.ofInt x.toInt)) (fpG_rr _ _ _ _)
  show vf_n64 (UInt64.ofNat (FP.Core.encode FP.Core.b64 (FP.Core.quotient FP.Core.b64 (FP.Core.decode FP.Core.b64 (FP.i2d x).toNat) (FP.Core.decode FP.Core.b64 (FP.i2d (nI m)).toNat))))
  refine fp_vf ?_
  generalize FP.Core.decode FP.Core.b64 (FP.i2d x).toNat = dx at hx ⊢
  generalize FP.Core.decode FP.Core.b64 (FP.i2d (nI m)).toNat = dm at hs ⊢
  match dm, hs with
  | .fin t d r, hs =>
    have hd : d ≠ 0 := by simpa using hs
    match dx, hx with
    | .nan, hx => exact absurd rfl hx
    | .inf s, _ => trivial
    | .fin s c q, _ =>
      show fpG (if d = 0 then _ else _)
      rw [if_neg hd]
      exact fpG_rr _ _ _ _
end FPQ
