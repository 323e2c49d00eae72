/-! the model: signs, number, side, law's word -/
theorem pNe_ok {s : zMS} (hp : pOk s) (x : Int32) (hx : ¬ x = -1) : pOk (pNe s x) := by
  obtain ⟨p, n, h1, h2, h3, h4⟩ := hp
  rw [pNe]
  split
  · split
    · next c =>
      refine ⟨p + 1, n, ?_, h2, ?_, h4⟩
      · show s.1 11 + 1 = _
        rw [h1, nI_1]
      · rw [pSg, h1, h2] at c
        by_cases e : n ≤ p
        · rw [if_pos (nI_le e (by omega))] at c
          exact absurd c.symm hx
        · omega
    · exact ⟨p, n, h1, h2, h3, h4⟩
  · exact ⟨p, n, h1, h2, h3, h4⟩
def pS3 (s : zMS) (x y z : Int32) : zMS := if z = 0 then pNe (pNe s x) y else pNe (pNe (pNe s x) y) z
theorem pS3_ok {s : zMS} (hp : pOk s) (x y z : Int32) (hx : ¬ x = -1) (hy : ¬ y = -1) (hz : ¬ z = -1) : pOk (pS3 s x y z) := by
  rw [pS3]
  split
  · exact pNe_ok (pNe_ok hp x hx) y hy
  · exact pNe_ok (pNe_ok (pNe_ok hp x hx) y hy) z hz
section ZMI
variable {l : Launch} {G : zG} {h : zH} {A : zMA} {s : zMS} {d : Nat}
theorem s_signs (ht : l.stackTraces = false) (D : zMD G A) (hd : 2 ≤ d) (hp : pOk s) (x y z : Int32) (hx : ¬ x = -1) (hy : ¬ y = -1) : zCt l G d MX3_signs [.ref A.1, .int x, .int y, .int z] (zMh h A s) 0 (zVr (zMh h A (pS3 s x y z))) := by
  refine zCt.of kX3_signs ht (by simp [Value.category]) (Nat.le_of_ble_eq_true rfl) ?_
  have q1 := pNe_ok hp x hx
  have q2 := pNe_ok q1 y hy
  refine b_X3_signs_0 _ _ _ _ (zMcV (s_needs ht D (by omega) hp x (d := d - 1)) (by omega) (Nat.le_refl _) ?_)
  refine zMcV (s_needs ht D (by omega) q1 y (d := d - 1)) (by omega) (Nat.le_refl _) ⟨fun c => ⟨Nat.le_refl _, ?_⟩, fun c => ?_⟩
  · show _ = _
    rw [pS3, if_pos c]
  · refine zMcV (s_needs ht D (by omega) q2 z (d := d - 1)) (by omega) (Nat.le_refl _) ⟨Nat.le_refl _, ?_⟩
    show _ = _
    rw [pS3, if_neg c]
end ZMI
