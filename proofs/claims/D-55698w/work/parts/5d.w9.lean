/-! the full share -/
section W9
variable {l : Launch} {G : zG} {k : t_H} {B : wB} {A : cA} {c : cS} {u : wU} {h : zH} {d mc n b E T st : Nat} {r : Nat → Int32}
theorem fp_share : ∀ a, a < 9 → ∀ m, m < 9 → 2 ≤ m → vf_n32 (FP.fdiv (FP.i2f (nI a)) (FP.i2f (nI m))) := by
  unfold vf_n32; decide +kernel
theorem cQ.on8 (X : cQ b E T c r) : rOn r ≤ 8 := by
  have sp := X.sp
  have := X.on
  have := zcnt_le (fun j => !(cB c j == -1)) (rSp r)
  omega
def rFs (r : Nat → Int32) : UInt32 := FP.fdiv (FP.i2f (nI (rOn r))) (FP.i2f (r 4))
theorem tX1_fullShare (ht : l.stackTraces = false) (D : cD G A (cN c)) (W : wD G B A (cN c)) (X : cQ b E T c r) (hd : 3 ≤ d) : tC l G d MX1_fullShare [.ref B.1] (wK G k B A.1 A c u) 0 (tqF tNo fun x k' => x = rFs r ∧ k' = wK G k B A.1 A c u) := by
  intro h R
  have sp := X.sp
  refine zCt.of kX1_fullShare ht (by simp [Value.category]) (Nat.le_of_ble_eq_true rfl) ?_
  refine b_X1_fullShare_0 _ (wGr R W rfl (cOo R (tC.i R (tX2_onBridge ht D X (d := d - 1)) (by omega) (Nat.le_refl _) fun h1 R1 => wGr R1 W rfl (cGi R1 (j := 5) (x := r 4) (by show Value.int (c.1 5) = _; rw [X.1.2.2.1.1]) ⟨?_, Nat.le_refl _, _, R1, rfl, rfl⟩))))
  rw [sp.1]
  exact fp_share _ (by have := X.on8; omega) _ (by omega) sp.2.1
end W9
