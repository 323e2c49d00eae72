/-! the model: a law's word -/
def pLw (s : zMS) : Int32 × zMS :=
  if s.1 12 < 0 then
    (if pSg s = 102 then (0, pNe (pS3 s 102 114 101) 101)
     else if pSg s = 108 then (2, pNe (pS3 s 108 111 97) 100)
     else if pSg s = 116 then (1, pS3 (pS3 s 116 117 114) 110 115 0)
     else if pSg s = 119 then (3, pNe (pS3 s 119 97 105) 116)
     else (0, zMf s 12 (s.1 11)))
  else (0, s)
section ZMK
variable {l : Launch} {G : zG} {h : zH} {A : zMA} {s : zMS} {d : Nat}
theorem s_lawWord (ht : l.stackTraces = false) (D : zMD G A) (hd : 3 ≤ d) (hp : pOk s) : zCt l G d MX3_lawWord [.ref A.1] (zMh h A s) 0 (zIr (pLw s).1 (zMh h A (pLw s).2)) := by
  refine zCt.of kX3_lawWord ht (by simp [Value.category]) (Nat.le_of_ble_eq_true rfl) ?_
  refine b_X3_lawWord_0 _ (zGi_m12.mpr ⟨fun c => ?_, fun c => ⟨Nat.le_refl _, ?_, ?_⟩⟩)
  · refine zMc (s_sign ht D hp (d := d - 1)) (by omega) (Nat.le_refl _) ⟨fun c1 => ?_, fun c1 => ⟨fun c2 => ?_, fun c2 => ⟨fun c3 => ?_, fun c3 => ⟨fun c4 => ?_, fun c4 => ?_⟩⟩⟩⟩
    · rw [pLw, if_pos c, if_pos c1]
      refine zMcV (s_signs ht D (by omega) hp _ _ _ (by decide) (by decide) (d := d - 1)) (by omega) (Nat.le_refl _) ?_
      exact zMcV (s_needs ht D (by omega) (pS3_ok hp _ _ _ (by decide) (by decide) (by decide)) _ (d := d - 1)) (by omega) (Nat.le_refl _) ⟨Nat.le_refl _, rfl, rfl⟩
    · rw [pLw, if_pos c, if_neg c1, if_pos c2]
      refine zMcV (s_signs ht D (by omega) hp _ _ _ (by decide) (by decide) (d := d - 1)) (by omega) (Nat.le_refl _) ?_
      exact zMcV (s_needs ht D (by omega) (pS3_ok hp _ _ _ (by decide) (by decide) (by decide)) _ (d := d - 1)) (by omega) (Nat.le_refl _) ⟨Nat.le_refl _, rfl, rfl⟩
    · have e : pLw s = (1, pS3 (pS3 s 116 117 114) 110 115 0) := by rw [pLw, if_pos c, if_neg c1, if_neg c2, if_pos c3]
      rw [e]
      have q1 := pS3_ok hp 116 117 114 (by decide) (by decide) (by decide)
      refine zMcV (s_signs ht D (by omega) hp 116 117 114 (by decide) (by decide) (d := d - 1)) (by omega) (Nat.le_refl _) ?_
      generalize pS3 s 116 117 114 = s2 at q1 ⊢
      refine zMcV (s_signs ht D (by omega) q1 110 115 0 (by decide) (by decide) (d := d - 1)) (by omega) (Nat.le_refl _) ?_
      generalize pS3 s2 110 115 0 = s3
      exact ⟨Nat.le_refl _, rfl, rfl⟩
    · rw [pLw, if_pos c, if_neg c1, if_neg c2, if_neg c3, if_pos c4]
      refine zMcV (s_signs ht D (by omega) hp _ _ _ (by decide) (by decide) (d := d - 1)) (by omega) (Nat.le_refl _) ?_
      exact zMcV (s_needs ht D (by omega) (pS3_ok hp _ _ _ (by decide) (by decide) (by decide)) _ (d := d - 1)) (by omega) (Nat.le_refl _) ⟨Nat.le_refl _, rfl, rfl⟩
    · rw [pLw, if_pos c, if_neg c1, if_neg c2, if_neg c3, if_neg c4]
      exact zGi_m11.mpr ((zPf_m12 D).mpr ⟨Nat.le_refl _, rfl, rfl⟩)
  all_goals rw [pLw, if_neg c]
end ZMK
