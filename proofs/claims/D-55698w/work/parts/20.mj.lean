/-! the model: side -/
def pSd (s : zMS) : Int32 × zMS :=
  if s.1 12 < 0 then
    (if pSg s = 119 then (0, zMf s 11 (s.1 11 + 1)) else if pSg s = 101 then (1, zMf s 11 (s.1 11 + 1)) else (0, zMf s 12 (s.1 11)))
  else (0, s)
section ZMJ
variable {l : Launch} {G : zG} {h : zH} {A : zMA} {s : zMS} {d : Nat}
theorem s_side (ht : l.stackTraces = false) (D : zMD G A) (hd : 1 ≤ d) (hp : pOk s) : zCt l G d MX3_side [.ref A.1] (zMh h A s) 0 (zIr (pSd s).1 (zMh h A (pSd s).2)) := by
  refine zCt.of kX3_side ht (by simp [Value.category]) (Nat.le_of_ble_eq_true rfl) ?_
  refine b_X3_side_0 _ (zGi_m12.mpr ⟨fun c => ?_, fun c => ⟨Nat.le_refl _, ?_, ?_⟩⟩)
  · refine zMc (s_sign ht D hp (d := d - 1)) (by omega) (Nat.le_refl _) ⟨fun c2 => zGi_m11.mpr ((zPf_m11 D).mpr ⟨fun c3 => absurd c2 c3, fun _ => ⟨Nat.le_refl _, ?_, ?_⟩⟩), fun c2 => ⟨fun c3 => zGi_m11.mpr ((zPf_m11 D).mpr ⟨fun _ => ⟨Nat.le_refl _, ?_, ?_⟩, fun c4 => absurd c2 c4⟩), fun c3 => zGi_m11.mpr ((zPf_m12 D).mpr ⟨Nat.le_refl _, ?_, ?_⟩)⟩⟩
    all_goals first
      | (rw [pSd, if_pos c, if_pos c2]; done)
      | (rw [pSd, if_pos c, if_neg c2, if_pos c3]; done)
      | (rw [pSd, if_pos c, if_neg c2, if_neg c3]; done)
  all_goals rw [pSd, if_neg c]
end ZMJ
