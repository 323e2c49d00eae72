/-! the model: a span is told -/
def rWsp (r : Nat → Int32) (x : Int32) : List Int32 := if x = -1 then [nI 46] else (if rc r x.toNatClampNeg 4 = 0 then [nI 60] else []) ++ (tDig x.toNatClampNeg ++ (if rc r x.toNatClampNeg 4 = 1 then [nI 62] else []))
section ZMP
variable {l : Launch} {G : zG} {h : zH} {A : zMA} {s : zMS} {d : Nat}
theorem s_writesSpan (ht : l.stackTraces = false) (D : zMD G A) {n : Nat} (e : s.1 17 = nI n) (hn : n < 290) (x : Int32) (hx : x = -1 ∨ ∃ k, k < 40 ∧ x = nI k) (hd : 4 ≤ d) : zCt l G d MX3_writesSpan [.ref A.1, .int x] (zMh h A s) 0 (zVr (zMh h A (mWs s (rWsp s.2.1 x)))) := by
  refine zCt.of kX3_writesSpan ht (by simp [Value.category]) (Nat.le_of_ble_eq_true rfl) ?_
  refine b_X3_writesSpan_0 _ _ ⟨fun q => ?_, fun q => ?_⟩
  · obtain ⟨k, hk, rfl⟩ := hx.resolve_left q
    have z1 : (nI k).toNatClampNeg = k := nI_clamp (by omega)
    have lk := tDig_len k
    have zc : ∀ (L : List Int32) (w : Nat), w < 10 → zCt l G (d - 1) MX3_c [.ref A.1, .int (nI k), .int (nI w)] (zMh h A (mWs s L)) 0 (zIr (rc s.2.1 k w) (zMh h A (mWs s L))) := fun L w hw => by
      have := s_c (s := mWs s L) (h := h) ht D k (nI w) (zvl_nI hw) (by omega) (d := d - 1)
      rw [mWs_2, nI_clamp (by omega)] at this
      exact this
    refine zMc (zc [] 4 (by omega)) (by omega) (Nat.le_refl _) ⟨fun w => ?_, fun w => ?_⟩
    · have wn : zCt l G (d - 1) MX3_writesNumber [.ref A.1, .int (nI k)] (zMh h A (mWs s [])) 0 (zVr (zMh h A (mWs (mWs s []) (tDig k)))) := s_writesNumber (v := k) ht D e (by omega) (by omega) (by omega)
      refine zMcV wn (by omega) (Nat.le_refl _) ?_
      rw [← mWs_ap, List.nil_append]
      refine zMc (zc _ 4 (by omega)) (by omega) (Nat.le_refl _) ⟨fun w2 => ⟨Nat.le_refl _, ?_⟩, fun w2 => ?_⟩
      · rw [rWsp, if_neg q, z1, if_neg w, if_neg w2, List.nil_append, List.append_nil]; rfl
      · refine zMcV (s_writes ht D (m := 62) (mWs_17 _ e) (by omega) (by omega) (d := d - 1)) (by omega) (Nat.le_refl _) ⟨Nat.le_refl _, ?_⟩
        rw [mWs1, rWsp, if_neg q, z1, if_neg w, if_pos (Classical.not_not.mp w2), List.nil_append]; rfl
    · have w0 := Classical.not_not.mp w
      refine zMcV (s_writes (s := mWs s []) ht D (m := 60) e (by omega) (by omega) (d := d - 1)) (by omega) (Nat.le_refl _) ?_
      rw [mWs1, List.nil_append]
      have wn : zCt l G (d - 1) MX3_writesNumber [.ref A.1, .int (nI k)] (zMh h A (mWs s [nI 60])) 0 (zVr (zMh h A (mWs (mWs s [nI 60]) (tDig k)))) := s_writesNumber (v := k) ht D (mWs_17 _ e) (by simp; omega) (by omega) (by omega)
      refine zMcV wn (by omega) (Nat.le_refl _) ?_
      rw [← mWs_ap]
      refine zMc (zc _ 4 (by omega)) (by omega) (Nat.le_refl _) ⟨fun w2 => ⟨Nat.le_refl _, ?_⟩, fun w2 => absurd (w0.symm.trans (Classical.not_not.mp w2)) (by decide)⟩
      rw [rWsp, if_neg q, z1, if_pos w0, if_neg w2, List.append_nil]; rfl
  · have q2 := Classical.not_not.mp q
    refine zMcV (s_writes ht D (m := 46) e (by omega) (by omega) (d := d - 1)) (by omega) (Nat.le_refl _) ⟨Nat.le_refl _, ?_⟩
    rw [rWsp, if_pos q2]; rfl
end ZMP
