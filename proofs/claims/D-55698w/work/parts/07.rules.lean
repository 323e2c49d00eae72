/-! instructions: what each asks of locals, stack and heap (i..), and that this suffices (r_..) -/
abbrev zK : Type := List (Option Value) → List Value → zH → Nat → Prop
def pI (S : List Value) (k : Int32 → List Value → Prop) : Prop := match S with
  | .int x :: r => k x r
  | _ => False
def pL (S : List Value) (k : Int64 → List Value → Prop) : Prop := match S with
  | .long x :: r => k x r
  | _ => False
def pF (S : List Value) (k : UInt32 → List Value → Prop) : Prop := match S with
  | .float x :: r => k x r
  | _ => False
def pD (S : List Value) (k : UInt64 → List Value → Prop) : Prop := match S with
  | .double x :: r => k x r
  | _ => False
def pR (S : List Value) (k : Nat → List Value → Prop) : Prop := match S with
  | .ref x :: r => k x r
  | _ => False
/-- a reference or null -/
def pN (S : List Value) (k : Option Nat → List Value → Prop) : Prop := match S with
  | .ref x :: r => k (some x) r
  | .null :: r => k none r
  | _ => False
def pV (S : List Value) (k : Value → List Value → Prop) : Prop := match S with
  | v :: r => k v r
  | _ => False
theorem pI.e {S : List Value} {k : Int32 → List Value → Prop} (h : pI S k) : ∃ x r, S = .int x :: r ∧ k x r := by
  unfold pI at h
  split at h
  · exact ⟨_, _, rfl, h⟩
  · exact h.elim
theorem pL.e {S : List Value} {k : Int64 → List Value → Prop} (h : pL S k) : ∃ x r, S = .long x :: r ∧ k x r := by
  unfold pL at h
  split at h
  · exact ⟨_, _, rfl, h⟩
  · exact h.elim
theorem pF.e {S : List Value} {k : UInt32 → List Value → Prop} (h : pF S k) : ∃ x r, S = .float x :: r ∧ k x r := by
  unfold pF at h
  split at h
  · exact ⟨_, _, rfl, h⟩
  · exact h.elim
theorem pD.e {S : List Value} {k : UInt64 → List Value → Prop} (h : pD S k) : ∃ x r, S = .double x :: r ∧ k x r := by
  unfold pD at h
  split at h
  · exact ⟨_, _, rfl, h⟩
  · exact h.elim
theorem pR.e {S : List Value} {k : Nat → List Value → Prop} (h : pR S k) : ∃ x r, S = .ref x :: r ∧ k x r := by
  unfold pR at h
  split at h
  · exact ⟨_, _, rfl, h⟩
  · exact h.elim
theorem pN.e {S : List Value} {k : Option Nat → List Value → Prop} (h : pN S k) : ∃ x r, S = va_rf x :: r ∧ k x r := by
  unfold pN at h
  split at h
  · exact ⟨some _, _, rfl, h⟩
  · exact ⟨none, _, rfl, h⟩
  · exact h.elim
theorem pV.e {S : List Value} {k : Value → List Value → Prop} (h : pV S k) : ∃ x r, S = x :: r ∧ k x r := by
  unfold pV at h
  split at h
  · exact ⟨_, _, rfl, h⟩
  · exact h.elim
section ZR
variable {l : Launch} {G : zG} {d mc : Nat} {M : zM} {Q : zRes → zH → Prop} {pc : Nat} {K : zK}
def iCst (v : Value) (K : zK) : zK := fun L S h n => K L (v :: S) h n
theorem r_iconst {i : Int} {x : Int32} (hd : decode M.2.1 pc = .ok (.iconst i, 1)) (hv : Int32.ofInt i = x) (k : ∀ L S h n, K L S h n → zV l G d mc M Q (pc + 1) L S h n) : ∀ L S h n, iCst (.int x) K L S h n → zV l G d mc M Q pc L S h n := by
  intro L S h n a
  intro p e s m args below meth c H locs ls C hl hW hs hq
  exact lv_iconst C.hx C.hb hd hv (k _ _ _ _ a p e s m args below meth c H locs ls C hl hW hs hq)
theorem r_bipush {i : Int} {x : Int32} (hd : decode M.2.1 pc = .ok (.bipush i, 2)) (hv : (Int8.ofInt i).toInt32 = x) (k : ∀ L S h n, K L S h n → zV l G d mc M Q (pc + 2) L S h n) : ∀ L S h n, iCst (.int x) K L S h n → zV l G d mc M Q pc L S h n := by
  intro L S h n a
  intro p e s m args below meth c H locs ls C hl hW hs hq
  exact lv_bipush C.hx C.hb hd hv (k _ _ _ _ a p e s m args below meth c H locs ls C hl hW hs hq)
theorem r_sipush {i : Int} {x : Int32} (hd : decode M.2.1 pc = .ok (.sipush i, 3)) (hv : (Int16.ofInt i).toInt32 = x) (k : ∀ L S h n, K L S h n → zV l G d mc M Q (pc + 3) L S h n) : ∀ L S h n, iCst (.int x) K L S h n → zV l G d mc M Q pc L S h n := by
  intro L S h n a
  intro p e s m args below meth c H locs ls C hl hW hs hq
  exact lv_sipush C.hx C.hb hd hv (k _ _ _ _ a p e s m args below meth c H locs ls C hl hW hs hq)
theorem r_lconst {i : Fin 2} {x : Int64} (hd : decode M.2.1 pc = .ok (.lconst i, 1)) (hv : Int64.ofNat (i : Nat) = x) (k : ∀ L S h n, K L S h n → zV l G d mc M Q (pc + 1) L S h n) : ∀ L S h n, iCst (.long x) K L S h n → zV l G d mc M Q pc L S h n := by
  intro L S h n a
  intro p e s m args below meth c H locs ls C hl hW hs hq
  exact lv_lconst C.hx C.hb hd hv (k _ _ _ _ a p e s m args below meth c H locs ls C hl hW hs hq)
theorem r_null (hd : decode M.2.1 pc = .ok (.aconst_null, 1)) (k : ∀ L S h n, K L S h n → zV l G d mc M Q (pc + 1) L S h n) : ∀ L S h n, iCst .null K L S h n → zV l G d mc M Q pc L S h n := by
  intro L S h n a
  intro p e s m args below meth c H locs ls C hl hW hs hq
  exact lv_null C.hx C.hb hd (k _ _ _ _ a p e s m args below meth c H locs ls C hl hW hs hq)
theorem r_ldci {i : Nat} {x : Int32} (hd : decode M.2.1 pc = .ok (.ldc i, 2)) (hw : Cond.constant M.1.cls i x ∈ zTb) (k : ∀ L S h n, K L S h n → zV l G d mc M Q (pc + 2) L S h n) : ∀ L S h n, iCst (.int x) K L S h n → zV l G d mc M Q pc L S h n := by
  intro L S h n a
  intro p e s m args below meth c H locs ls C hl hW hs hq
  exact lv_ldc C.hx C.hb C.own (C.kn.w hw rfl) hd (k _ _ _ _ a p e s m args below meth c H locs ls C hl hW hs hq)
theorem r_ldcs {i : Nat} {tx : String} (hd : decode M.2.1 pc = .ok (.ldc i, 2)) (hw : (M.1.cls, i, tx) ∈ zSR) (k : ∀ L S h n, K L S h n → zV l G d mc M Q (pc + 2) L S h n) : ∀ L S h n, iCst (.ref (zSt G M.1.cls i)) K L S h n → zV l G d mc M Q pc L S h n := by
  intro L S h n a
  intro p e s m args below meth c H locs ls C hl hW hs hq
  exact va_ldcS C.hx C.hb C.own (C.kn.2.2.2.2.2.2.1 _ hw) hd (k _ _ _ _ a p e s m args below meth c H locs ls C hl hW hs hq)
def iLdI (i : Nat) (K : zK) : zK := fun L S h n => match zGt L i with
  | some (.int x) => K L (.int x :: S) h n
  | _ => False
theorem iLdI.e {i : Nat} {L : List (Option Value)} {S : List Value} {h : zH} {n : Nat} (a : iLdI i K L S h n) : ∃ x, zGt L i = some (.int x) ∧ K L (.int x :: S) h n := by
  unfold iLdI at a
  split at a
  · exact ⟨_, by assumption, a⟩
  · exact a.elim
theorem r_iload_n {i : Fin 4} {j : Nat} (hd : decode M.2.1 pc = .ok (.iload_n i, 1)) (hj : (i : Nat) = j) (k : ∀ L S h n, K L S h n → zV l G d mc M Q (pc + 1) L S h n) : ∀ L S h n, iLdI j K L S h n → zV l G d mc M Q pc L S h n := by
  intro L S h n a
  obtain ⟨x, h1, a1⟩ := iLdI.e a
  intro p e s m args below meth c H locs ls C hl hW hs hq
  exact lv_iload_n C.hx C.hb hd hj (hl.at h1) (k _ _ _ _ a1 p e s m args below meth c H locs ls C hl hW hs hq)
theorem r_iload {j : Nat} (hd : decode M.2.1 pc = .ok (.iload j, 2)) (k : ∀ L S h n, K L S h n → zV l G d mc M Q (pc + 2) L S h n) : ∀ L S h n, iLdI j K L S h n → zV l G d mc M Q pc L S h n := by
  intro L S h n a
  obtain ⟨x, h1, a1⟩ := iLdI.e a
  intro p e s m args below meth c H locs ls C hl hW hs hq
  exact lv_iload C.hx C.hb hd (hl.at h1) (k _ _ _ _ a1 p e s m args below meth c H locs ls C hl hW hs hq)
def iLdL (i : Nat) (K : zK) : zK := fun L S h n => match zGt L i with
  | some (.long x) => K L (.long x :: S) h n
  | _ => False
theorem iLdL.e {i : Nat} {L : List (Option Value)} {S : List Value} {h : zH} {n : Nat} (a : iLdL i K L S h n) : ∃ x, zGt L i = some (.long x) ∧ K L (.long x :: S) h n := by
  unfold iLdL at a
  split at a
  · exact ⟨_, by assumption, a⟩
  · exact a.elim
theorem r_lload_n {i : Fin 4} {j : Nat} (hd : decode M.2.1 pc = .ok (.lload_n i, 1)) (hj : (i : Nat) = j) (k : ∀ L S h n, K L S h n → zV l G d mc M Q (pc + 1) L S h n) : ∀ L S h n, iLdL j K L S h n → zV l G d mc M Q pc L S h n := by
  intro L S h n a
  obtain ⟨x, h1, a1⟩ := iLdL.e a
  intro p e s m args below meth c H locs ls C hl hW hs hq
  exact lv_lload_n C.hx C.hb hd hj (hl.at h1) (k _ _ _ _ a1 p e s m args below meth c H locs ls C hl hW hs hq)
theorem r_lload {j : Nat} (hd : decode M.2.1 pc = .ok (.lload j, 2)) (k : ∀ L S h n, K L S h n → zV l G d mc M Q (pc + 2) L S h n) : ∀ L S h n, iLdL j K L S h n → zV l G d mc M Q pc L S h n := by
  intro L S h n a
  obtain ⟨x, h1, a1⟩ := iLdL.e a
  intro p e s m args below meth c H locs ls C hl hW hs hq
  exact lv_lload C.hx C.hb hd (hl.at h1) (k _ _ _ _ a1 p e s m args below meth c H locs ls C hl hW hs hq)
def iLdD (i : Nat) (K : zK) : zK := fun L S h n => match zGt L i with
  | some (.double x) => K L (.double x :: S) h n
  | _ => False
theorem iLdD.e {i : Nat} {L : List (Option Value)} {S : List Value} {h : zH} {n : Nat} (a : iLdD i K L S h n) : ∃ x, zGt L i = some (.double x) ∧ K L (.double x :: S) h n := by
  unfold iLdD at a
  split at a
  · exact ⟨_, by assumption, a⟩
  · exact a.elim
theorem r_dload_n {i : Fin 4} {j : Nat} (hd : decode M.2.1 pc = .ok (.dload_n i, 1)) (hj : (i : Nat) = j) (k : ∀ L S h n, K L S h n → zV l G d mc M Q (pc + 1) L S h n) : ∀ L S h n, iLdD j K L S h n → zV l G d mc M Q pc L S h n := by
  intro L S h n a
  obtain ⟨x, h1, a1⟩ := iLdD.e a
  intro p e s m args below meth c H locs ls C hl hW hs hq
  exact lv_dload_n C.hx C.hb hd hj (hl.at h1) (k _ _ _ _ a1 p e s m args below meth c H locs ls C hl hW hs hq)
theorem r_dload {j : Nat} (hd : decode M.2.1 pc = .ok (.dload j, 2)) (k : ∀ L S h n, K L S h n → zV l G d mc M Q (pc + 2) L S h n) : ∀ L S h n, iLdD j K L S h n → zV l G d mc M Q pc L S h n := by
  intro L S h n a
  obtain ⟨x, h1, a1⟩ := iLdD.e a
  intro p e s m args below meth c H locs ls C hl hW hs hq
  exact lv_dload C.hx C.hb hd (hl.at h1) (k _ _ _ _ a1 p e s m args below meth c H locs ls C hl hW hs hq)
def iLdA (i : Nat) (K : zK) : zK := fun L S h n => match zGt L i with
  | some (.ref x) => K L (.ref x :: S) h n
  | some .null => K L (.null :: S) h n
  | _ => False
theorem iLdA.e {i : Nat} {L : List (Option Value)} {S : List Value} {h : zH} {n : Nat} (a : iLdA i K L S h n) : ∃ x, zGt L i = some (va_rf x) ∧ K L (va_rf x :: S) h n := by
  unfold iLdA at a
  split at a
  · exact ⟨some _, by assumption, a⟩
  · exact ⟨none, by assumption, a⟩
  · exact a.elim
theorem r_aload_n {i : Fin 4} {j : Nat} (hd : decode M.2.1 pc = .ok (.aload_n i, 1)) (hj : (i : Nat) = j) (k : ∀ L S h n, K L S h n → zV l G d mc M Q (pc + 1) L S h n) : ∀ L S h n, iLdA j K L S h n → zV l G d mc M Q pc L S h n := by
  intro L S h n a
  obtain ⟨x, h1, a1⟩ := iLdA.e a
  intro p e s m args below meth c H locs ls C hl hW hs hq
  cases x with
  | none => exact lv_aload_nN C.hx C.hb hd hj (hl.at h1) (k _ _ _ _ a1 p e s m args below meth c H locs ls C hl hW hs hq)
  | some x => exact lv_aload_n C.hx C.hb hd hj (hl.at h1) (k _ _ _ _ a1 p e s m args below meth c H locs ls C hl hW hs hq)
theorem r_aload {j : Nat} (hd : decode M.2.1 pc = .ok (.aload j, 2)) (k : ∀ L S h n, K L S h n → zV l G d mc M Q (pc + 2) L S h n) : ∀ L S h n, iLdA j K L S h n → zV l G d mc M Q pc L S h n := by
  intro L S h n a
  obtain ⟨x, h1, a1⟩ := iLdA.e a
  intro p e s m args below meth c H locs ls C hl hW hs hq
  cases x with
  | none => exact lv_aloadN C.hx C.hb hd (hl.at h1) (k _ _ _ _ a1 p e s m args below meth c H locs ls C hl hW hs hq)
  | some x => exact lv_aload C.hx C.hb hd (hl.at h1) (k _ _ _ _ a1 p e s m args below meth c H locs ls C hl hW hs hq)
def iStI (i : Nat) (K : zK) : zK := fun L S h n => pI S fun x r => K (zSe L i (some (.int x))) r h n
def iStD (i : Nat) (K : zK) : zK := fun L S h n => pD S fun x r => K (zPn (zSe L i (some (.double x))) (i + 1)) r h n
def iStA (i : Nat) (K : zK) : zK := fun L S h n => pN S fun x r => K (zSe L i (some (va_rf x))) r h n
theorem r_istore_n {i : Fin 4} {j : Nat} (hd : decode M.2.1 pc = .ok (.istore_n i, 1)) (hj : (i : Nat) = j) (hi : j < M.2.2.1) (k : ∀ L S h n, K L S h n → zV l G d mc M Q (pc + 1) L S h n) : ∀ L S h n, iStI j K L S h n → zV l G d mc M Q pc L S h n := by
  intro L S h n a
  obtain ⟨x, r, rfl, a1⟩ := pI.e a
  intro p e s m args below meth c H locs ls C hl hW hs hq
  exact lv_istore_n C.hx C.hb hd hj hl hi rfl (fun ls9 h9 => k _ _ _ _ a1 p e s m args below meth c H locs ls9 C (zLs.se h9) hW hs hq)
theorem r_dstore_n {i : Fin 4} {j : Nat} (hd : decode M.2.1 pc = .ok (.dstore_n i, 1)) (hj : (i : Nat) = j) (hi : j + 1 < M.2.2.1) (k : ∀ L S h n, K L S h n → zV l G d mc M Q (pc + 1) L S h n) : ∀ L S h n, iStD j K L S h n → zV l G d mc M Q pc L S h n := by
  intro L S h n a
  obtain ⟨x, r, rfl, a1⟩ := pD.e a
  intro p e s m args below meth c H locs ls C hl hW hs hq
  exact lv_dstore_n C.hx C.hb hd hj hl hi rfl (fun ls9 h9 => k _ _ _ _ a1 p e s m args below meth c H locs ls9 C (zLs.sw h9) hW hs hq)
theorem r_astore_n {i : Fin 4} {j : Nat} (hd : decode M.2.1 pc = .ok (.astore_n i, 1)) (hj : (i : Nat) = j) (hi : j < M.2.2.1) (k : ∀ L S h n, K L S h n → zV l G d mc M Q (pc + 1) L S h n) : ∀ L S h n, iStA j K L S h n → zV l G d mc M Q pc L S h n := by
  intro L S h n a
  obtain ⟨x, r, rfl, a1⟩ := pN.e a
  intro p e s m args below meth c H locs ls C hl hW hs hq
  cases x with
  | none => exact lv_astore_nN C.hx C.hb hd hj hl hi rfl (fun ls9 h9 => k _ _ _ _ a1 p e s m args below meth c H locs ls9 C (zLs.se h9) hW hs hq)
  | some x => exact lv_astore_n C.hx C.hb hd hj hl hi rfl (fun ls9 h9 => k _ _ _ _ a1 p e s m args below meth c H locs ls9 C (zLs.se h9) hW hs hq)
theorem r_istore {j : Nat} (hd : decode M.2.1 pc = .ok (.istore j, 2)) (hi : j < M.2.2.1) (k : ∀ L S h n, K L S h n → zV l G d mc M Q (pc + 2) L S h n) : ∀ L S h n, iStI j K L S h n → zV l G d mc M Q pc L S h n := by
  intro L S h n a
  obtain ⟨x, r, rfl, a1⟩ := pI.e a
  intro p e s m args below meth c H locs ls C hl hW hs hq
  exact lv_istore C.hx C.hb hd hl hi rfl (fun ls9 h9 => k _ _ _ _ a1 p e s m args below meth c H locs ls9 C (zLs.se h9) hW hs hq)
theorem r_dstore {j : Nat} (hd : decode M.2.1 pc = .ok (.dstore j, 2)) (hi : j + 1 < M.2.2.1) (k : ∀ L S h n, K L S h n → zV l G d mc M Q (pc + 2) L S h n) : ∀ L S h n, iStD j K L S h n → zV l G d mc M Q pc L S h n := by
  intro L S h n a
  obtain ⟨x, r, rfl, a1⟩ := pD.e a
  intro p e s m args below meth c H locs ls C hl hW hs hq
  exact lv_dstore C.hx C.hb hd hl hi rfl (fun ls9 h9 => k _ _ _ _ a1 p e s m args below meth c H locs ls9 C (zLs.sw h9) hW hs hq)
theorem r_astore {j : Nat} (hd : decode M.2.1 pc = .ok (.astore j, 2)) (hi : j < M.2.2.1) (k : ∀ L S h n, K L S h n → zV l G d mc M Q (pc + 2) L S h n) : ∀ L S h n, iStA j K L S h n → zV l G d mc M Q pc L S h n := by
  intro L S h n a
  obtain ⟨x, r, rfl, a1⟩ := pN.e a
  intro p e s m args below meth c H locs ls C hl hW hs hq
  cases x with
  | none => exact lv_astoreN C.hx C.hb hd hl hi rfl (fun ls9 h9 => k _ _ _ _ a1 p e s m args below meth c H locs ls9 C (zLs.se h9) hW hs hq)
  | some x => exact lv_astore C.hx C.hb hd hl hi rfl (fun ls9 h9 => k _ _ _ _ a1 p e s m args below meth c H locs ls9 C (zLs.se h9) hW hs hq)
def iInc (i : Nat) (v : Int32) (K : zK) : zK := fun L S h n => match zGt L i with
  | some (.int x) => K (zSe L i (some (.int (x + v)))) S h n
  | _ => False
theorem iInc.e {i : Nat} {v : Int32} {L : List (Option Value)} {S : List Value} {h : zH} {n : Nat} (a : iInc i v K L S h n) : ∃ x, zGt L i = some (.int x) ∧ K (zSe L i (some (.int (x + v)))) S h n := by
  unfold iInc at a
  split at a
  · exact ⟨_, by assumption, a⟩
  · exact a.elim
theorem r_iinc {j : Nat} {i : Int} {v : Int32} (hd : decode M.2.1 pc = .ok (.iinc j i, 3)) (hv : Int32.ofInt i = v) (hi : j < M.2.2.1) (k : ∀ L S h n, K L S h n → zV l G d mc M Q (pc + 3) L S h n) : ∀ L S h n, iInc j v K L S h n → zV l G d mc M Q pc L S h n := by
  intro L S h n a
  obtain ⟨x, h1, a1⟩ := iInc.e a
  intro p e s m args below meth c H locs ls C hl hW hs hq
  obtain ⟨q, hq1⟩ := List.getElem?_of_mem (zLl_mem.mpr h1)
  exact lv_iinc C.hx C.hb hd hl hq1 (by rw [hv]) hi rfl (fun ls9 h9 => k _ _ _ _ a1 p e s m args below meth c H locs ls9 C (zLs.se h9) hW hs hq)
def iBin (f : Int32 → Int32 → Int32) (K : zK) : zK := fun L S h n => pI S fun y r => pI r fun x r => K L (.int (f x y) :: r) h n
theorem r_iadd (hd : decode M.2.1 pc = .ok (.iadd, 1)) (k : ∀ L S h n, K L S h n → zV l G d mc M Q (pc + 1) L S h n) : ∀ L S h n, iBin (fun x y => x + y) K L S h n → zV l G d mc M Q pc L S h n := by
  intro L S h n a
  obtain ⟨y, r, rfl, a1⟩ := pI.e a
  obtain ⟨x, r, rfl, a2⟩ := pI.e a1
  intro p e s m args below meth c H locs ls C hl hW hs hq
  exact lv_iadd C.hx C.hb hd (k _ _ _ _ a2 p e s m args below meth c H locs ls C hl hW hs hq)
theorem r_isub (hd : decode M.2.1 pc = .ok (.isub, 1)) (k : ∀ L S h n, K L S h n → zV l G d mc M Q (pc + 1) L S h n) : ∀ L S h n, iBin (fun x y => x - y) K L S h n → zV l G d mc M Q pc L S h n := by
  intro L S h n a
  obtain ⟨y, r, rfl, a1⟩ := pI.e a
  obtain ⟨x, r, rfl, a2⟩ := pI.e a1
  intro p e s m args below meth c H locs ls C hl hW hs hq
  exact lv_isub C.hx C.hb hd (k _ _ _ _ a2 p e s m args below meth c H locs ls C hl hW hs hq)
theorem r_imul (hd : decode M.2.1 pc = .ok (.imul, 1)) (k : ∀ L S h n, K L S h n → zV l G d mc M Q (pc + 1) L S h n) : ∀ L S h n, iBin (fun x y => x * y) K L S h n → zV l G d mc M Q pc L S h n := by
  intro L S h n a
  obtain ⟨y, r, rfl, a1⟩ := pI.e a
  obtain ⟨x, r, rfl, a2⟩ := pI.e a1
  intro p e s m args below meth c H locs ls C hl hW hs hq
  exact lv_imul C.hx C.hb hd (k _ _ _ _ a2 p e s m args below meth c H locs ls C hl hW hs hq)
theorem r_iand (hd : decode M.2.1 pc = .ok (.iand, 1)) (k : ∀ L S h n, K L S h n → zV l G d mc M Q (pc + 1) L S h n) : ∀ L S h n, iBin (fun x y => x &&& y) K L S h n → zV l G d mc M Q pc L S h n := by
  intro L S h n a
  obtain ⟨y, r, rfl, a1⟩ := pI.e a
  obtain ⟨x, r, rfl, a2⟩ := pI.e a1
  intro p e s m args below meth c H locs ls C hl hW hs hq
  exact lv_iand C.hx C.hb hd (k _ _ _ _ a2 p e s m args below meth c H locs ls C hl hW hs hq)
theorem r_ior (hd : decode M.2.1 pc = .ok (.ior, 1)) (k : ∀ L S h n, K L S h n → zV l G d mc M Q (pc + 1) L S h n) : ∀ L S h n, iBin (fun x y => x ||| y) K L S h n → zV l G d mc M Q pc L S h n := by
  intro L S h n a
  obtain ⟨y, r, rfl, a1⟩ := pI.e a
  obtain ⟨x, r, rfl, a2⟩ := pI.e a1
  intro p e s m args below meth c H locs ls C hl hW hs hq
  exact lv_ior C.hx C.hb hd (k _ _ _ _ a2 p e s m args below meth c H locs ls C hl hW hs hq)
theorem r_ishl (hd : decode M.2.1 pc = .ok (.ishl, 1)) (k : ∀ L S h n, K L S h n → zV l G d mc M Q (pc + 1) L S h n) : ∀ L S h n, iBin (fun x y => x <<< (y &&& 31)) K L S h n → zV l G d mc M Q pc L S h n := by
  intro L S h n a
  obtain ⟨y, r, rfl, a1⟩ := pI.e a
  obtain ⟨x, r, rfl, a2⟩ := pI.e a1
  intro p e s m args below meth c H locs ls C hl hW hs hq
  exact lv_ishl C.hx C.hb hd (k _ _ _ _ a2 p e s m args below meth c H locs ls C hl hW hs hq)
theorem r_ishr (hd : decode M.2.1 pc = .ok (.ishr, 1)) (k : ∀ L S h n, K L S h n → zV l G d mc M Q (pc + 1) L S h n) : ∀ L S h n, iBin (fun x y => x >>> (y &&& 31)) K L S h n → zV l G d mc M Q pc L S h n := by
  intro L S h n a
  obtain ⟨y, r, rfl, a1⟩ := pI.e a
  obtain ⟨x, r, rfl, a2⟩ := pI.e a1
  intro p e s m args below meth c H locs ls C hl hW hs hq
  exact lv_ishr C.hx C.hb hd (k _ _ _ _ a2 p e s m args below meth c H locs ls C hl hW hs hq)
theorem r_iushr (hd : decode M.2.1 pc = .ok (.iushr, 1)) (k : ∀ L S h n, K L S h n → zV l G d mc M Q (pc + 1) L S h n) : ∀ L S h n, iBin (fun x y => (x.toUInt32 >>> (y.toUInt32 &&& Int32.toUInt32 31)).toInt32) K L S h n → zV l G d mc M Q pc L S h n := by
  intro L S h n a
  obtain ⟨y, r, rfl, a1⟩ := pI.e a
  obtain ⟨x, r, rfl, a2⟩ := pI.e a1
  intro p e s m args below meth c H locs ls C hl hW hs hq
  exact lv_iushr C.hx C.hb hd rfl (k _ _ _ _ a2 p e s m args below meth c H locs ls C hl hW hs hq)
def iBinZ (f : Int32 → Int32 → Int32) (K : zK) : zK := fun L S h n => pI S fun y r => pI r fun x r => ¬ y = 0 ∧ K L (.int (f x y) :: r) h n
theorem r_idiv (hd : decode M.2.1 pc = .ok (.idiv, 1)) (k : ∀ L S h n, K L S h n → zV l G d mc M Q (pc + 1) L S h n) : ∀ L S h n, iBinZ (fun x y => x / y) K L S h n → zV l G d mc M Q pc L S h n := by
  intro L S h n a
  obtain ⟨y, r, rfl, a1⟩ := pI.e a
  obtain ⟨x, r, rfl, h0, a2⟩ := pI.e a1
  intro p e s m args below meth c H locs ls C hl hW hs hq
  exact lv_idiv C.hx C.hb hd h0 (k _ _ _ _ a2 p e s m args below meth c H locs ls C hl hW hs hq)
theorem r_irem (hd : decode M.2.1 pc = .ok (.irem, 1)) (k : ∀ L S h n, K L S h n → zV l G d mc M Q (pc + 1) L S h n) : ∀ L S h n, iBinZ (fun x y => x - x / y * y) K L S h n → zV l G d mc M Q pc L S h n := by
  intro L S h n a
  obtain ⟨y, r, rfl, a1⟩ := pI.e a
  obtain ⟨x, r, rfl, h0, a2⟩ := pI.e a1
  intro p e s m args below meth c H locs ls C hl hW hs hq
  exact lv_irem C.hx C.hb hd h0 (k _ _ _ _ a2 p e s m args below meth c H locs ls C hl hW hs hq)
def iUn (f : Int32 → Value) (K : zK) : zK := fun L S h n => pI S fun x r => K L (f x :: r) h n
theorem r_ineg (hd : decode M.2.1 pc = .ok (.ineg, 1)) (k : ∀ L S h n, K L S h n → zV l G d mc M Q (pc + 1) L S h n) : ∀ L S h n, iUn (fun x => .int (-x)) K L S h n → zV l G d mc M Q pc L S h n := by
  intro L S h n a
  obtain ⟨x, r, rfl, a1⟩ := pI.e a
  intro p e s m args below meth c H locs ls C hl hW hs hq
  exact lv_ineg C.hx C.hb hd (k _ _ _ _ a1 p e s m args below meth c H locs ls C hl hW hs hq)
theorem r_i2l (hd : decode M.2.1 pc = .ok (.i2l, 1)) (k : ∀ L S h n, K L S h n → zV l G d mc M Q (pc + 1) L S h n) : ∀ L S h n, iUn (fun x => .long x.toInt64) K L S h n → zV l G d mc M Q pc L S h n := by
  intro L S h n a
  obtain ⟨x, r, rfl, a1⟩ := pI.e a
  intro p e s m args below meth c H locs ls C hl hW hs hq
  exact lv_i2l C.hx C.hb hd rfl (k _ _ _ _ a1 p e s m args below meth c H locs ls C hl hW hs hq)
theorem r_i2b (hd : decode M.2.1 pc = .ok (.i2b, 1)) (k : ∀ L S h n, K L S h n → zV l G d mc M Q (pc + 1) L S h n) : ∀ L S h n, iUn (fun x => .int x.toInt8.toInt32) K L S h n → zV l G d mc M Q pc L S h n := by
  intro L S h n a
  obtain ⟨x, r, rfl, a1⟩ := pI.e a
  intro p e s m args below meth c H locs ls C hl hW hs hq
  exact lv_i2b C.hx C.hb hd rfl (k _ _ _ _ a1 p e s m args below meth c H locs ls C hl hW hs hq)
theorem r_i2c (hd : decode M.2.1 pc = .ok (.i2c, 1)) (k : ∀ L S h n, K L S h n → zV l G d mc M Q (pc + 1) L S h n) : ∀ L S h n, iUn (fun x => .int (x.toUInt32 % 65536).toInt32) K L S h n → zV l G d mc M Q pc L S h n := by
  intro L S h n a
  obtain ⟨x, r, rfl, a1⟩ := pI.e a
  intro p e s m args below meth c H locs ls C hl hW hs hq
  exact lv_i2c C.hx C.hb hd rfl (k _ _ _ _ a1 p e s m args below meth c H locs ls C hl hW hs hq)
def iDup (K : zK) : zK := fun L S h n => pV S fun v r => v.category = 1 ∧ K L (v :: v :: r) h n
theorem r_dup (hd : decode M.2.1 pc = .ok (.dup, 1)) (k : ∀ L S h n, K L S h n → zV l G d mc M Q (pc + 1) L S h n) : ∀ L S h n, iDup K L S h n → zV l G d mc M Q pc L S h n := by
  intro L S h n a
  obtain ⟨v, r, rfl, hc, a1⟩ := pV.e a
  intro p e s m args below meth c H locs ls C hl hW hs hq
  exact lv_dup C.hx C.hb hd hc (k _ _ _ _ a1 p e s m args below meth c H locs ls C hl hW hs hq)
def iPop (K : zK) : zK := fun L S h n => pV S fun v r => v.category = 1 ∧ K L r h n
theorem r_pop (hd : decode M.2.1 pc = .ok (.pop, 1)) (k : ∀ L S h n, K L S h n → zV l G d mc M Q (pc + 1) L S h n) : ∀ L S h n, iPop K L S h n → zV l G d mc M Q pc L S h n := by
  intro L S h n a
  obtain ⟨v, r, rfl, hc, a1⟩ := pV.e a
  intro p e s m args below meth c H locs ls C hl hW hs hq
  exact lv_pop C.hx C.hb hd hc (k _ _ _ _ a1 p e s m args below meth c H locs ls C hl hW hs hq)
def iDupX1 (K : zK) : zK := fun L S h n => pV S fun v r => pV r fun w r => v.category = 1 ∧ w.category = 1 ∧ K L (v :: w :: v :: r) h n
theorem r_dup_x1 (hd : decode M.2.1 pc = .ok (.dup_x1, 1)) (k : ∀ L S h n, K L S h n → zV l G d mc M Q (pc + 1) L S h n) : ∀ L S h n, iDupX1 K L S h n → zV l G d mc M Q pc L S h n := by
  intro L S h n a
  obtain ⟨v, r, rfl, a1⟩ := pV.e a
  obtain ⟨w, r, rfl, hc, hc2, a2⟩ := pV.e a1
  intro p e s m args below meth c H locs ls C hl hW hs hq
  exact lv_dup_x1 C.hx C.hb hd hc hc2 (k _ _ _ _ a2 p e s m args below meth c H locs ls C hl hW hs hq)
def iDup2 (K : zK) : zK := fun L S h n => pV S fun v r => pV r fun w r => v.category = 1 ∧ w.category = 1 ∧ K L (v :: w :: v :: w :: r) h n
theorem r_dup2 (hd : decode M.2.1 pc = .ok (.dup2, 1)) (k : ∀ L S h n, K L S h n → zV l G d mc M Q (pc + 1) L S h n) : ∀ L S h n, iDup2 K L S h n → zV l G d mc M Q pc L S h n := by
  intro L S h n a
  obtain ⟨v, r, rfl, a1⟩ := pV.e a
  obtain ⟨w, r, rfl, hc, hc2, a2⟩ := pV.e a1
  intro p e s m args below meth c H locs ls C hl hW hs hq
  exact lv_dup2_11 C.hx C.hb hd hc hc2 (k _ _ _ _ a2 p e s m args below meth c H locs ls C hl hW hs hq)
variable {K2 : zK}
def iIf (P : Int32 → Prop) (K K2 : zK) : zK := fun L S h n => pI S fun x r => (P x → K L r h n) ∧ (¬ P x → K2 L r h n)
def iIf2 (P : Int32 → Int32 → Prop) (K K2 : zK) : zK := fun L S h n => pI S fun y r => pI r fun x r => (P x y → K L r h n) ∧ (¬ P x y → K2 L r h n)
theorem r_if_eq {off : Int} {tgt : Nat} (hd : decode M.2.1 pc = .ok (.ifCond .eq off, 3)) (ht : (pc : Int) + off = (tgt : Int)) (k : ∀ L S h n, K L S h n → zV l G d mc M Q tgt L S h n) (k2 : ∀ L S h n, K2 L S h n → zV l G d mc M Q (pc + 3) L S h n) : ∀ L S h n, iIf (fun x => x = 0) K K2 L S h n → zV l G d mc M Q pc L S h n := by
  intro L S h n a
  obtain ⟨x, r, rfl, a1⟩ := pI.e a
  intro p e s m args below meth c H locs ls C hl hW hs hq
  exact lv_if_eq C.hx C.hb hd ht (fun z => k _ _ _ _ (a1.1 z) p e s m args below meth c H locs ls C hl hW hs hq) (fun z => k2 _ _ _ _ (a1.2 z) p e s m args below meth c H locs ls C hl hW hs hq)
theorem r_icmp_eq {off : Int} {tgt : Nat} (hd : decode M.2.1 pc = .ok (.if_icmp .eq off, 3)) (ht : (pc : Int) + off = (tgt : Int)) (k : ∀ L S h n, K L S h n → zV l G d mc M Q tgt L S h n) (k2 : ∀ L S h n, K2 L S h n → zV l G d mc M Q (pc + 3) L S h n) : ∀ L S h n, iIf2 (fun x y => x = y) K K2 L S h n → zV l G d mc M Q pc L S h n := by
  intro L S h n a
  obtain ⟨y, r, rfl, a1⟩ := pI.e a
  obtain ⟨x, r, rfl, a2⟩ := pI.e a1
  intro p e s m args below meth c H locs ls C hl hW hs hq
  exact lv_icmp_eq C.hx C.hb hd ht (fun z => k _ _ _ _ (a2.1 z) p e s m args below meth c H locs ls C hl hW hs hq) (fun z => k2 _ _ _ _ (a2.2 z) p e s m args below meth c H locs ls C hl hW hs hq)
theorem r_if_ne {off : Int} {tgt : Nat} (hd : decode M.2.1 pc = .ok (.ifCond .ne off, 3)) (ht : (pc : Int) + off = (tgt : Int)) (k : ∀ L S h n, K L S h n → zV l G d mc M Q tgt L S h n) (k2 : ∀ L S h n, K2 L S h n → zV l G d mc M Q (pc + 3) L S h n) : ∀ L S h n, iIf (fun x => ¬ x = 0) K K2 L S h n → zV l G d mc M Q pc L S h n := by
  intro L S h n a
  obtain ⟨x, r, rfl, a1⟩ := pI.e a
  intro p e s m args below meth c H locs ls C hl hW hs hq
  exact lv_if_ne C.hx C.hb hd ht (fun z => k _ _ _ _ (a1.1 z) p e s m args below meth c H locs ls C hl hW hs hq) (fun z => k2 _ _ _ _ (a1.2 (fun q => q z)) p e s m args below meth c H locs ls C hl hW hs hq)
theorem r_icmp_ne {off : Int} {tgt : Nat} (hd : decode M.2.1 pc = .ok (.if_icmp .ne off, 3)) (ht : (pc : Int) + off = (tgt : Int)) (k : ∀ L S h n, K L S h n → zV l G d mc M Q tgt L S h n) (k2 : ∀ L S h n, K2 L S h n → zV l G d mc M Q (pc + 3) L S h n) : ∀ L S h n, iIf2 (fun x y => ¬ x = y) K K2 L S h n → zV l G d mc M Q pc L S h n := by
  intro L S h n a
  obtain ⟨y, r, rfl, a1⟩ := pI.e a
  obtain ⟨x, r, rfl, a2⟩ := pI.e a1
  intro p e s m args below meth c H locs ls C hl hW hs hq
  exact lv_icmp_ne C.hx C.hb hd ht (fun z => k _ _ _ _ (a2.1 z) p e s m args below meth c H locs ls C hl hW hs hq) (fun z => k2 _ _ _ _ (a2.2 (fun q => q z)) p e s m args below meth c H locs ls C hl hW hs hq)
theorem r_if_lt {off : Int} {tgt : Nat} (hd : decode M.2.1 pc = .ok (.ifCond .lt off, 3)) (ht : (pc : Int) + off = (tgt : Int)) (k : ∀ L S h n, K L S h n → zV l G d mc M Q tgt L S h n) (k2 : ∀ L S h n, K2 L S h n → zV l G d mc M Q (pc + 3) L S h n) : ∀ L S h n, iIf (fun x => x < 0) K K2 L S h n → zV l G d mc M Q pc L S h n := by
  intro L S h n a
  obtain ⟨x, r, rfl, a1⟩ := pI.e a
  intro p e s m args below meth c H locs ls C hl hW hs hq
  exact lv_if_lt C.hx C.hb hd ht (fun z => k _ _ _ _ (a1.1 z) p e s m args below meth c H locs ls C hl hW hs hq) (fun z => k2 _ _ _ _ (a1.2 z) p e s m args below meth c H locs ls C hl hW hs hq)
theorem r_icmp_lt {off : Int} {tgt : Nat} (hd : decode M.2.1 pc = .ok (.if_icmp .lt off, 3)) (ht : (pc : Int) + off = (tgt : Int)) (k : ∀ L S h n, K L S h n → zV l G d mc M Q tgt L S h n) (k2 : ∀ L S h n, K2 L S h n → zV l G d mc M Q (pc + 3) L S h n) : ∀ L S h n, iIf2 (fun x y => x < y) K K2 L S h n → zV l G d mc M Q pc L S h n := by
  intro L S h n a
  obtain ⟨y, r, rfl, a1⟩ := pI.e a
  obtain ⟨x, r, rfl, a2⟩ := pI.e a1
  intro p e s m args below meth c H locs ls C hl hW hs hq
  exact lv_icmp_lt C.hx C.hb hd ht (fun z => k _ _ _ _ (a2.1 z) p e s m args below meth c H locs ls C hl hW hs hq) (fun z => k2 _ _ _ _ (a2.2 z) p e s m args below meth c H locs ls C hl hW hs hq)
theorem r_if_ge {off : Int} {tgt : Nat} (hd : decode M.2.1 pc = .ok (.ifCond .ge off, 3)) (ht : (pc : Int) + off = (tgt : Int)) (k : ∀ L S h n, K L S h n → zV l G d mc M Q tgt L S h n) (k2 : ∀ L S h n, K2 L S h n → zV l G d mc M Q (pc + 3) L S h n) : ∀ L S h n, iIf (fun x => 0 ≤ x) K K2 L S h n → zV l G d mc M Q pc L S h n := by
  intro L S h n a
  obtain ⟨x, r, rfl, a1⟩ := pI.e a
  intro p e s m args below meth c H locs ls C hl hW hs hq
  exact lv_if_ge C.hx C.hb hd ht (fun z => k _ _ _ _ (a1.1 z) p e s m args below meth c H locs ls C hl hW hs hq) (fun z => k2 _ _ _ _ (a1.2 z) p e s m args below meth c H locs ls C hl hW hs hq)
theorem r_icmp_ge {off : Int} {tgt : Nat} (hd : decode M.2.1 pc = .ok (.if_icmp .ge off, 3)) (ht : (pc : Int) + off = (tgt : Int)) (k : ∀ L S h n, K L S h n → zV l G d mc M Q tgt L S h n) (k2 : ∀ L S h n, K2 L S h n → zV l G d mc M Q (pc + 3) L S h n) : ∀ L S h n, iIf2 (fun x y => y ≤ x) K K2 L S h n → zV l G d mc M Q pc L S h n := by
  intro L S h n a
  obtain ⟨y, r, rfl, a1⟩ := pI.e a
  obtain ⟨x, r, rfl, a2⟩ := pI.e a1
  intro p e s m args below meth c H locs ls C hl hW hs hq
  exact lv_icmp_ge C.hx C.hb hd ht (fun z => k _ _ _ _ (a2.1 z) p e s m args below meth c H locs ls C hl hW hs hq) (fun z => k2 _ _ _ _ (a2.2 z) p e s m args below meth c H locs ls C hl hW hs hq)
theorem r_if_gt {off : Int} {tgt : Nat} (hd : decode M.2.1 pc = .ok (.ifCond .gt off, 3)) (ht : (pc : Int) + off = (tgt : Int)) (k : ∀ L S h n, K L S h n → zV l G d mc M Q tgt L S h n) (k2 : ∀ L S h n, K2 L S h n → zV l G d mc M Q (pc + 3) L S h n) : ∀ L S h n, iIf (fun x => 0 < x) K K2 L S h n → zV l G d mc M Q pc L S h n := by
  intro L S h n a
  obtain ⟨x, r, rfl, a1⟩ := pI.e a
  intro p e s m args below meth c H locs ls C hl hW hs hq
  exact lv_if_gt C.hx C.hb hd ht (fun z => k _ _ _ _ (a1.1 z) p e s m args below meth c H locs ls C hl hW hs hq) (fun z => k2 _ _ _ _ (a1.2 z) p e s m args below meth c H locs ls C hl hW hs hq)
theorem r_icmp_gt {off : Int} {tgt : Nat} (hd : decode M.2.1 pc = .ok (.if_icmp .gt off, 3)) (ht : (pc : Int) + off = (tgt : Int)) (k : ∀ L S h n, K L S h n → zV l G d mc M Q tgt L S h n) (k2 : ∀ L S h n, K2 L S h n → zV l G d mc M Q (pc + 3) L S h n) : ∀ L S h n, iIf2 (fun x y => y < x) K K2 L S h n → zV l G d mc M Q pc L S h n := by
  intro L S h n a
  obtain ⟨y, r, rfl, a1⟩ := pI.e a
  obtain ⟨x, r, rfl, a2⟩ := pI.e a1
  intro p e s m args below meth c H locs ls C hl hW hs hq
  exact lv_icmp_gt C.hx C.hb hd ht (fun z => k _ _ _ _ (a2.1 z) p e s m args below meth c H locs ls C hl hW hs hq) (fun z => k2 _ _ _ _ (a2.2 z) p e s m args below meth c H locs ls C hl hW hs hq)
theorem r_if_le {off : Int} {tgt : Nat} (hd : decode M.2.1 pc = .ok (.ifCond .le off, 3)) (ht : (pc : Int) + off = (tgt : Int)) (k : ∀ L S h n, K L S h n → zV l G d mc M Q tgt L S h n) (k2 : ∀ L S h n, K2 L S h n → zV l G d mc M Q (pc + 3) L S h n) : ∀ L S h n, iIf (fun x => x ≤ 0) K K2 L S h n → zV l G d mc M Q pc L S h n := by
  intro L S h n a
  obtain ⟨x, r, rfl, a1⟩ := pI.e a
  intro p e s m args below meth c H locs ls C hl hW hs hq
  exact lv_if_le C.hx C.hb hd ht (fun z => k _ _ _ _ (a1.1 z) p e s m args below meth c H locs ls C hl hW hs hq) (fun z => k2 _ _ _ _ (a1.2 z) p e s m args below meth c H locs ls C hl hW hs hq)
theorem r_icmp_le {off : Int} {tgt : Nat} (hd : decode M.2.1 pc = .ok (.if_icmp .le off, 3)) (ht : (pc : Int) + off = (tgt : Int)) (k : ∀ L S h n, K L S h n → zV l G d mc M Q tgt L S h n) (k2 : ∀ L S h n, K2 L S h n → zV l G d mc M Q (pc + 3) L S h n) : ∀ L S h n, iIf2 (fun x y => x ≤ y) K K2 L S h n → zV l G d mc M Q pc L S h n := by
  intro L S h n a
  obtain ⟨y, r, rfl, a1⟩ := pI.e a
  obtain ⟨x, r, rfl, a2⟩ := pI.e a1
  intro p e s m args below meth c H locs ls C hl hW hs hq
  exact lv_icmp_le C.hx C.hb hd ht (fun z => k _ _ _ _ (a2.1 z) p e s m args below meth c H locs ls C hl hW hs hq) (fun z => k2 _ _ _ _ (a2.2 z) p e s m args below meth c H locs ls C hl hW hs hq)
def iIfN (K K2 : zK) : zK := fun L S h n => pN S fun x r => (x = none → K L r h n) ∧ (¬ x = none → K2 L r h n)
theorem r_ifnull {off : Int} {tgt : Nat} (hd : decode M.2.1 pc = .ok (.ifnull off, 3)) (ht : (pc : Int) + off = (tgt : Int)) (k : ∀ L S h n, K L S h n → zV l G d mc M Q tgt L S h n) (k2 : ∀ L S h n, K2 L S h n → zV l G d mc M Q (pc + 3) L S h n) : ∀ L S h n, iIfN K K2 L S h n → zV l G d mc M Q pc L S h n := by
  intro L S h n a
  obtain ⟨x, r, rfl, a1⟩ := pN.e a
  intro p e s m args below meth c H locs ls C hl hW hs hq
  cases x with
  | none => exact lv_ifnullN C.hx C.hb hd ht (k _ _ _ _ (a1.1 rfl) p e s m args below meth c H locs ls C hl hW hs hq)
  | some x => exact lv_ifnull C.hx C.hb hd (k2 _ _ _ _ (a1.2 (fun z => by cases z)) p e s m args below meth c H locs ls C hl hW hs hq)
theorem r_ifnonnull {off : Int} {tgt : Nat} (hd : decode M.2.1 pc = .ok (.ifnonnull off, 3)) (ht : (pc : Int) + off = (tgt : Int)) (k2 : ∀ L S h n, K2 L S h n → zV l G d mc M Q tgt L S h n) (k : ∀ L S h n, K L S h n → zV l G d mc M Q (pc + 3) L S h n) : ∀ L S h n, iIfN K K2 L S h n → zV l G d mc M Q pc L S h n := by
  intro L S h n a
  obtain ⟨x, r, rfl, a1⟩ := pN.e a
  intro p e s m args below meth c H locs ls C hl hW hs hq
  cases x with
  | none => exact lv_ifnonnullN C.hx C.hb hd (k _ _ _ _ (a1.1 rfl) p e s m args below meth c H locs ls C hl hW hs hq)
  | some x => exact lv_ifnonnull C.hx C.hb hd ht (k2 _ _ _ _ (a1.2 (fun z => by cases z)) p e s m args below meth c H locs ls C hl hW hs hq)
def iIfA (K K2 : zK) : zK := fun L S h n => pN S fun y r => pN r fun x r => (x = y → K L r h n) ∧ (¬ x = y → K2 L r h n)
theorem r_acmp_eq {off : Int} {tgt : Nat} (hd : decode M.2.1 pc = .ok (.if_acmp .eq off, 3)) (ht : (pc : Int) + off = (tgt : Int)) (k : ∀ L S h n, K L S h n → zV l G d mc M Q tgt L S h n) (k2 : ∀ L S h n, K2 L S h n → zV l G d mc M Q (pc + 3) L S h n) : ∀ L S h n, iIfA K K2 L S h n → zV l G d mc M Q pc L S h n := by
  intro L S h n a
  obtain ⟨y, r, rfl, a1⟩ := pN.e a
  obtain ⟨x, r, rfl, a2⟩ := pN.e a1
  intro p e s m args below meth c H locs ls C hl hW hs hq
  exact lv_acmp_eq C.hx C.hb hd ht (fun z => k _ _ _ _ (a2.1 z) p e s m args below meth c H locs ls C hl hW hs hq) (fun z => k2 _ _ _ _ (a2.2 z) p e s m args below meth c H locs ls C hl hW hs hq)
theorem r_acmp_ne {off : Int} {tgt : Nat} (hd : decode M.2.1 pc = .ok (.if_acmp .ne off, 3)) (ht : (pc : Int) + off = (tgt : Int)) (k2 : ∀ L S h n, K2 L S h n → zV l G d mc M Q tgt L S h n) (k : ∀ L S h n, K L S h n → zV l G d mc M Q (pc + 3) L S h n) : ∀ L S h n, iIfA K K2 L S h n → zV l G d mc M Q pc L S h n := by
  intro L S h n a
  obtain ⟨y, r, rfl, a1⟩ := pN.e a
  obtain ⟨x, r, rfl, a2⟩ := pN.e a1
  intro p e s m args below meth c H locs ls C hl hW hs hq
  exact lv_acmp_ne C.hx C.hb hd ht (fun z => k2 _ _ _ _ (a2.2 z) p e s m args below meth c H locs ls C hl hW hs hq) (fun z => k _ _ _ _ (a2.1 z) p e s m args below meth c H locs ls C hl hW hs hq)
theorem r_goto {off : Int} {tgt : Nat} (hd : decode M.2.1 pc = .ok (.goto off, 3)) (ht : (pc : Int) + off = (tgt : Int)) (k : ∀ L S h n, K L S h n → zV l G d mc M Q tgt L S h n) : ∀ L S h n, K L S h n → zV l G d mc M Q pc L S h n := by
  intro L S h n a
  intro p e s m args below meth c H locs ls C hl hW hs hq
  exact lv_goto C.hx C.hb hd ht (k _ _ _ _ a p e s m args below meth c H locs ls C hl hW hs hq)
/-- a table of targets, tried in order; else the default -/
def iSw (T : List (Int32 × zK)) (K : zK) : zK := fun L S h n => pI S fun x r => (∀ q ∈ T, x = q.1 → q.2 L r h n) ∧ ((∀ q ∈ T, ¬ x = q.1) → K L r h n)
end ZR
