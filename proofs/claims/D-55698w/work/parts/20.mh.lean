/-! the model: reading signs -/
/-- where the reader stands, how much was typed -/
def pOk (s : zMS) : Prop := ∃ p n, s.1 11 = nI p ∧ s.1 10 = nI n ∧ p ≤ n ∧ n ≤ 60
def pSg (s : zMS) : Int32 := if s.1 10 ≤ s.1 11 then -1 else s.2.2.1 (s.1 11).toNatClampNeg
def pNe (s : zMS) (x : Int32) : zMS := if s.1 12 < 0 then (if pSg s = x then zMf s 11 (s.1 11 + 1) else zMf s 12 (s.1 11)) else s
section ZMH
variable {l : Launch} {G : zG} {h : zH} {A : zMA} {s : zMS} {d : Nat}
theorem s_sign (ht : l.stackTraces = false) (D : zMD G A) (hp : pOk s) : zCt l G d MX3_sign [.ref A.1] (zMh h A s) 0 (zIr (pSg s) (zMh h A s)) := by
  refine zCt.of kX3_sign ht (by simp [Value.category]) (Nat.le_of_ble_eq_true rfl) ?_
  obtain ⟨p, n, h1, h2, h3, h4⟩ := hp
  refine b_X3_sign_0 _ (zGi_m11.mpr (zGi_m10.mpr ⟨fun c => ⟨Nat.le_refl _, ?_, rfl⟩, fun c => ?_⟩))
  · rw [pSg, if_pos c]
  · refine zGr_m9.mpr (zGi_m11.mpr ((zAi_inp D).mpr ⟨?_, Nat.le_refl _, ?_, rfl⟩))
    · rw [h1, h2] at c
      rw [h1]
      have : ¬ n ≤ p := fun e => c (nI_le e (by omega))
      exact vp_in_nI (by omega) (by decide)
    · rw [pSg, if_neg c]
theorem s_needs (ht : l.stackTraces = false) (D : zMD G A) (hd : 1 ≤ d) (hp : pOk s) (x : Int32) : zCt l G d MX3_needs [.ref A.1, .int x] (zMh h A s) 0 (zVr (zMh h A (pNe s x))) := by
  refine zCt.of kX3_needs ht (by simp [Value.category]) (Nat.le_of_ble_eq_true rfl) ?_
  refine b_X3_needs_0 _ _ (zGi_m12.mpr ⟨fun c => ?_, fun c => ⟨Nat.le_refl _, ?_⟩⟩)
  · refine zMc (s_sign ht D hp (d := d - 1)) (by omega) (Nat.le_refl _) ⟨fun c2 => zGi_m11.mpr ((zPf_m11 D).mpr ⟨Nat.le_refl _, ?_⟩), fun c2 => zGi_m11.mpr ((zPf_m12 D).mpr ⟨Nat.le_refl _, ?_⟩)⟩
    · show _ = _
      rw [pNe, if_pos c, if_pos c2]
    · show _ = _
      rw [pNe, if_pos c, if_neg c2]
  · show _ = _
    rw [pNe, if_neg c]
end ZMH
