/-! the model: what would be -/
def rOv (r : Nat → Int32) : Bool := rOn r + zcnt (fun k => rwa r k 0) (rN r) + zcnt (fun k => rwa r k 1) (rN r) == 0
def oLo (g f : Nat) : Nat → zMS → Nat × zMS
  | 0, s => (0, s)
  | j + 1, s => if rOv s.2.1 then (0, s) else ((oLo g f j (mTk g f s)).1 + 1, (oLo g f j (mTk g f s)).2)
def oOk (g f : Nat) : Nat → zMS → Prop
  | 0, s => rOk s.2.1
  | j + 1, s => rOk s.2.1 ∧ (rOv s.2.1 = false → mTok g f s ∧ oOk g f j (mTk g f s))
theorem oOk_N {g f : Nat} : ∀ {j : Nat} {s : zMS}, oOk g f j s → rOk s.2.1
  | 0, _, h => h
  | _ + 1, _, h => h.1
section ZME
variable {l : Launch} {G : zG} {h : zH} {A : zMA} {s : zMS} {d : Nat}
theorem s_isOver (ht : l.stackTraces = false) (D : zMD G A) (hN : rOk s.2.1) (hd : 3 ≤ d) : zCt l G d MX3_isOver [.ref A.1] (zMh h A s) 0 (zIr (zbi (rOv s.2.1)) (zMh h A s)) := by
  refine zCt.of kX3_isOver ht (by simp [Value.category]) (Nat.le_of_ble_eq_true rfl) ?_
  have hN2 := hN.2
  have q1 : ∀ x, zcnt (fun k => rwa s.2.1 k x) (rN s.2.1) ≤ 40 := fun x => by have := zcnt_le (fun k => rwa s.2.1 k x) (rN s.2.1); omega
  have q2 : rOn s.2.1 ≤ 40 := by have := zcnt_le (rOnb s.2.1) (rN s.2.1); simp only [rOn]; omega
  refine b_X3_isOver_0 _ (zMc (s_onBridge ht D hN (by omega) (d := d - 1)) (by omega) (Nat.le_refl _) ?_)
  refine zMc (s_rowMany ht D hN (by omega) (d := d - 1)) (by omega) (Nat.le_refl _) ?_
  refine zMc (s_rowMany ht D hN (by omega) (d := d - 1)) (by omega) (Nat.le_refl _) ?_
  have a1 := q1 0
  have a2 := q1 1
  rw [nI_add, nI_add, nI_0e (by omega)]
  refine ⟨fun c => ⟨Nat.le_refl _, ?_, rfl⟩, fun c => ⟨Nat.le_refl _, ?_, rfl⟩⟩
  · have e : rOv s.2.1 = false := beq_false_of_ne c
    rw [e]; rfl
  · have e : rOv s.2.1 = true := beq_iff_eq.mpr (Decidable.not_not.mp c)
    rw [e]; rfl
/-- the end of 'over' -/
def oFi (s : zMS) : zMS := zMf (mCp s 11 0 411) 0 (zbi (!rOv s.2.1))
theorem s_over (ht : l.stackTraces = false) (D : zMD G A) (hd : 7 ≤ d) (g f F : Nat) (hF : F = 99) (ho : oOk g f F (mCp s 0 11 411)) : zCt l G d MX3_over [.ref A.1] (zMh h A s) 0 (zIr (if rOv (oLo g f F (mCp s 0 11 411)).2.2.1 then nI (oLo g f F (mCp s 0 11 411)).1 else 0) (zMh h A (oFi (oLo g f F (mCp s 0 11 411)).2))) := by
  refine zCt.of kX3_over ht (by simp [Value.category]) (Nat.le_of_ble_eq_true rfl) ?_
  refine b_X3_over_0 _ (zMcV (s_copies' ht D 0 11 rfl rfl (by omega) (by omega) (by omega) (d := d - 1)) (by omega) (Nat.le_refl _) ?_)
  generalize mCp s 0 11 411 = s1 at ho ⊢
  have H : ∀ j k (s1 : zMS), k + j = F → oOk g f j s1 → ∀ v s9, v = (if rOv (oLo g f j s1).2.2.1 then nI (k + (oLo g f j s1).1) else 0) → s9 = oFi (oLo g f j s1).2 → zV l G d 0 MX3_over (zIr v (zMh h A s9)) 9 [some (.ref A.1), some (.int (nI k)), none] [] (zMh h A s1) 0 := by
    intro j
    induction j with
    | zero =>
      intro k s1 hk ho v s9 hv h9
      subst hv; subst h9
      refine b_X3_over_9 _ _ (pk_le 99 k (fun _ => ?_) (fun c => absurd c (by omega)) rfl rfl)
      refine zMc (s_isOver ht D ho (by omega) (d := d - 1)) (by omega) (Nat.le_refl _) ?_
      refine zMcV (s_copies' ht D 11 0 rfl rfl (by omega) (by omega) (by omega) (d := d - 1)) (by omega) (Nat.le_refl _) ?_
      refine zMc (s_isThere ht D _ (d := d - 1)) (by omega) (Nat.le_refl _) ?_
      show (zbi (rOv s1.2.1) = 0 → _) ∧ _
      cases hq : rOv s1.2.1
      · refine ⟨fun _ => ⟨Nat.le_refl _, ?_, ?_⟩, fun c => absurd rfl c⟩
        · simp [oLo, hq]
        · simp [oLo, oFi, hq]
      · refine ⟨fun c => absurd c (by decide), fun _ => ⟨Nat.le_refl _, ?_, ?_⟩⟩
        · simp [oLo, hq]
        · simp [oLo, oFi, hq]
    | succ j ih =>
      intro k s1 hk ho v s9 hv h9
      refine b_X3_over_9 _ _ (pk_le 99 k (fun c => absurd c (by omega)) (fun _ => ?_) rfl rfl)
      refine zMc (s_isOver ht D ho.1 (by omega) (d := d - 1)) (by omega) (Nat.le_refl _) ?_
      cases hq : rOv s1.2.1
      · obtain ⟨o1, o2⟩ := ho.2 hq
        refine ⟨fun c => absurd rfl c, fun _ => ?_⟩
        refine zMc (s_goesBy ht D (by omega) g f o1 (d := d - 1)) (by omega) (Nat.le_refl _) ?_
        rw [nI_1]
        refine ih (k + 1) _ (by omega) o2 _ _ ?_ ?_
        · rw [hv]
          simp only [oLo, hq]
          rw [show k + 1 + (oLo g f j (mTk g f s1)).1 = k + ((oLo g f j (mTk g f s1)).1 + 1) by omega]
          rfl
        · rw [h9]
          simp only [oLo, hq]
          rfl
      · subst hv; subst h9
        refine ⟨fun _ => ?_, fun c => absurd (fun e => by cases e) c⟩
        refine zMc (s_isOver ht D ho.1 (by omega) (d := d - 1)) (by omega) (Nat.le_refl _) ?_
        refine zMcV (s_copies' ht D 11 0 rfl rfl (by omega) (by omega) (by omega) (d := d - 1)) (by omega) (Nat.le_refl _) ?_
        refine zMc (s_isThere ht D _ (d := d - 1)) (by omega) (Nat.le_refl _) ?_
        rw [hq]
        refine ⟨fun c => absurd c (by decide), fun _ => ⟨Nat.le_refl _, ?_, ?_⟩⟩
        · simp [oLo, hq]
        · simp [oLo, oFi, hq]
  refine H F 0 s1 (by omega) ho _ _ ?_ rfl
  rw [Nat.zero_add]
def wPs (g f : Nat) (s : zMS) (x : Int32) : zMS := if zbt x 0 20 then mCp (mTs g f x.toNatClampNeg (mCp (zMf s 0 0) 0 11 411)) 11 0 411 else zMf s 0 1
def wPn (g f : Nat) (s : zMS) (x : Int32) : Int32 := if zbt x 0 20 then nI (nTs g f x.toNatClampNeg (mCp (zMf s 0 0) 0 11 411)) else 0
theorem s_wouldPass (ht : l.stackTraces = false) (D : zMD G A) (hd : 7 ≤ d) (g f : Nat) (x : Int32) (ho : zbt x 0 20 = true → mTsOk g f x.toNatClampNeg (mCp (zMf s 0 0) 0 11 411)) : zCt l G d MX3_wouldPass [.ref A.1, .int x] (zMh h A s) 0 (zIr (wPn g f s x) (zMh h A (wPs g f s x))) := by
  refine zCt.of kX3_wouldPass ht (by simp [Value.category]) (Nat.le_of_ble_eq_true rfl) ?_
  refine b_X3_wouldPass_0 _ _ (zCall.P (s_in ht (d := d - 1)) (by omega) (Nat.le_refl _) ?_)
  refine zMc (s_isThere ht D _ (d := d - 1)) (by omega) (Nat.le_refl _) ?_
  cases hb : zbt x 0 20
  · refine ⟨fun c => absurd rfl c, fun _ => ⟨Nat.le_refl _, ?_, ?_⟩⟩
    · simp [wPn, hb]
    · simp [wPs, hb, zbi]
  · have ho := ho hb
    obtain ⟨N, -, hN20, rfl⟩ := zbt_nI (a := 0) (n := 20) (by omega) (by omega) hb
    have z1 : (nI N).toNatClampNeg = N := nI_clamp (by omega)
    rw [z1] at ho
    have e1 : wPn g f s (nI N) = nI (nTs g f N (mCp (zMf s 0 0) 0 11 411)) := by rw [wPn, hb, if_pos rfl, z1]
    have e2 : wPs g f s (nI N) = mCp (mTs g f N (mCp (zMf s 0 0) 0 11 411)) 11 0 411 := by rw [wPs, hb, if_pos rfl, z1]
    rw [e1, e2]
    refine ⟨fun _ => ?_, fun c => absurd (fun e => by cases e) c⟩
    refine zMcV (s_copies' ht D 0 11 rfl rfl (by omega) (by omega) (by omega) (d := d - 1)) (by omega) (Nat.le_refl _) ?_
    show zV l G d 0 MX3_wouldPass _ 27 _ _ (zMh h A (mCp (zMf s 0 0) 0 11 411)) 0
    generalize mCp (zMf s 0 0) 0 11 411 = s1 at ho ⊢
    have H : ∀ j k m (s1 : zMS), k + j = N → mTsOk g f j s1 → ∀ v s9, v = nI (m + nTs g f j s1) → s9 = mCp (mTs g f j s1) 11 0 411 → zV l G d 0 MX3_wouldPass (zIr v (zMh h A s9)) 27 [some (.ref A.1), some (.int (nI N)), some (.int (nI m)), some (.int (nI k))] [] (zMh h A s1) 0 := by
      intro j
      induction j with
      | zero =>
        intro k m s1 hk _ v s9 hv h9
        subst hv; subst h9
        refine b_X3_wouldPass_27 _ _ _ _ (pk_le N k (fun _ => ?_) (fun c => absurd c (by omega)) rfl rfl)
        exact zMcV (s_copies' ht D 11 0 rfl rfl (by omega) (by omega) (by omega) (d := d - 1)) (by omega) (Nat.le_refl _) ⟨Nat.le_refl _, rfl, rfl⟩
      | succ j ih =>
        intro k m s1 hk ho v s9 hv h9
        subst hv; subst h9
        refine b_X3_wouldPass_27 _ _ _ _ (pk_le N k (fun c => absurd c (by omega)) (fun _ => ?_) rfl rfl)
        refine zMc (s_goesBy ht D (by omega) g f ho.1 (d := d - 1)) (by omega) (Nat.le_refl _) ?_
        rw [nI_1, nI_add]
        exact ih (k + 1) (m + nAg s1) _ (by omega) ho.2 _ _ (by simp only [nTs]; rw [Nat.add_assoc]) rfl
    exact H N 0 0 s1 (by omega) ho _ _ (by rw [Nat.zero_add]) rfl
end ZME
