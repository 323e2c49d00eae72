/-! rules in direct style: from what is to be shown behind an instruction to what is to be shown ahead of it -/
def zB (G : zG) (h : zH) : Prop := ∀ a, a < zb G → h a = zh0 G a
/-- a field that holds an int, a reference, a reference or null -/
def zGi (h : zH) (a ci k : Nat) (p : Int32 → Prop) : Prop := match h a with
  | some (.inr (c, fs)) => c = ci ∧ (match zFd fs k with
    | .int x => p x
    | _ => False)
  | _ => False
def zGr (h : zH) (a ci k : Nat) (p : Nat → Prop) : Prop := match h a with
  | some (.inr (c, fs)) => c = ci ∧ (match zFd fs k with
    | .ref x => p x
    | _ => False)
  | _ => False
def zGn (h : zH) (a ci k : Nat) (p : Option Nat → Prop) : Prop := match h a with
  | some (.inr (c, fs)) => c = ci ∧ (match zFd fs k with
    | .ref x => p (some x)
    | .null => p none
    | _ => False)
  | _ => False
/-- an element of an array -/
def zAi (h : zH) (a : Nat) (ty : FieldType) (i : Int32) (p : Int32 → Prop) : Prop := match h a with
  | some (.inl (t, N, f)) => t = ty ∧ vp_in i N ∧ (match f i.toNatClampNeg with
    | .int x => p x
    | _ => False)
  | _ => False
def zAj (h : zH) (a : Nat) (ty : FieldType) (i : Int32) (p : Int64 → Prop) : Prop := match h a with
  | some (.inl (t, N, f)) => t = ty ∧ vp_in i N ∧ (match f i.toNatClampNeg with
    | .long x => p x
    | _ => False)
  | _ => False
def zAd (h : zH) (a : Nat) (ty : FieldType) (i : Int32) (p : UInt64 → Prop) : Prop := match h a with
  | some (.inl (t, N, f)) => t = ty ∧ vp_in i N ∧ (match f i.toNatClampNeg with
    | .double x => p x
    | _ => False)
  | _ => False
def zAf (h : zH) (a : Nat) (ty : FieldType) (i : Int32) (p : Nat → Prop) : Prop := match h a with
  | some (.inl (t, N, f)) => t = ty ∧ vp_in i N ∧ (match f i.toNatClampNeg with
    | .ref x => p x
    | _ => False)
  | _ => False
def zAn (h : zH) (a : Nat) (ty : FieldType) (i : Int32) (p : Option Nat → Prop) : Prop := match h a with
  | some (.inl (t, N, f)) => t = ty ∧ vp_in i N ∧ (match f i.toNatClampNeg with
    | .ref x => p (some x)
    | .null => p none
    | _ => False)
  | _ => False
def zAl (h : zH) (a : Nat) (p : Nat → Prop) : Prop := match h a with
  | some (.inl (_, N, _)) => p N
  | _ => False
/-- an array of a type -/
def zAw (h : zH) (a : Nat) (ty : FieldType) (p : Nat → (Nat → Value) → Prop) : Prop := match h a with
  | some (.inl (t, N, f)) => t = ty ∧ p N f
  | _ => False
/-- an object of a class -/
def zOc (h : zH) (a ci : Nat) (p : Prop) : Prop := match h a with
  | some (.inr (c, _)) => c = ci ∧ p
  | _ => False
theorem zOj.mk {h : zH} {a ci : Nat} {fs : List Value} {p : List Value → Prop} (e : h a = some (.inr (ci, fs))) (k : p fs) : zOj h a ci p := by
  unfold zOj; rw [e]; exact ⟨rfl, k⟩
theorem zAr.mk {h : zH} {a : Nat} {ty : FieldType} {N : Nat} {f : Nat → Value} {p : Nat → (Nat → Value) → Prop} (e : h a = some (.inl (ty, N, f))) (k : p N f) : zAr h a ty p := by
  unfold zAr; rw [e]; exact ⟨rfl, k⟩
theorem zOc.e {h : zH} {a ci : Nat} {p : Prop} (q : zOc h a ci p) : zOj h a ci (fun _ => p) := q
theorem zGi.e {h : zH} {a ci k : Nat} {p : Int32 → Prop} (q : zGi h a ci k p) : ∃ x, zOj h a ci (fun fs => zFd fs k = .int x) ∧ p x := by
  unfold zGi at q
  split at q
  · next h1 =>
    obtain ⟨rfl, q⟩ := q
    split at q
    · next h2 => exact ⟨_, zOj.mk h1 h2, q⟩
    · exact q.elim
  · exact q.elim
theorem zGr.e {h : zH} {a ci k : Nat} {p : Nat → Prop} (q : zGr h a ci k p) : ∃ x, zOj h a ci (fun fs => zFd fs k = .ref x) ∧ p x := by
  unfold zGr at q
  split at q
  · next h1 =>
    obtain ⟨rfl, q⟩ := q
    split at q
    · next h2 => exact ⟨_, zOj.mk h1 h2, q⟩
    · exact q.elim
  · exact q.elim
theorem zGn.e {h : zH} {a ci k : Nat} {p : Option Nat → Prop} (q : zGn h a ci k p) : ∃ x, zOj h a ci (fun fs => zFd fs k = va_rf x) ∧ p x := by
  unfold zGn at q
  split at q
  · next h1 =>
    obtain ⟨rfl, q⟩ := q
    split at q
    · next h2 => exact ⟨some _, zOj.mk h1 h2, q⟩
    · next h2 => exact ⟨none, zOj.mk h1 h2, q⟩
    · exact q.elim
  · exact q.elim
theorem zAi.e {h : zH} {a : Nat} {ty : FieldType} {i : Int32} {p : Int32 → Prop} (q : zAi h a ty i p) : ∃ x, zAr h a ty (fun N f => vp_in i N ∧ f i.toNatClampNeg = .int x) ∧ p x := by
  unfold zAi at q
  split at q
  · next h1 =>
    obtain ⟨rfl, q0, q⟩ := q
    split at q
    · next h2 => exact ⟨_, zAr.mk h1 ⟨q0, h2⟩, q⟩
    · exact q.elim
  · exact q.elim
theorem zAj.e {h : zH} {a : Nat} {ty : FieldType} {i : Int32} {p : Int64 → Prop} (q : zAj h a ty i p) : ∃ x, zAr h a ty (fun N f => vp_in i N ∧ f i.toNatClampNeg = .long x) ∧ p x := by
  unfold zAj at q
  split at q
  · next h1 =>
    obtain ⟨rfl, q0, q⟩ := q
    split at q
    · next h2 => exact ⟨_, zAr.mk h1 ⟨q0, h2⟩, q⟩
    · exact q.elim
  · exact q.elim
theorem zAd.e {h : zH} {a : Nat} {ty : FieldType} {i : Int32} {p : UInt64 → Prop} (q : zAd h a ty i p) : ∃ x, zAr h a ty (fun N f => vp_in i N ∧ f i.toNatClampNeg = .double x) ∧ p x := by
  unfold zAd at q
  split at q
  · next h1 =>
    obtain ⟨rfl, q0, q⟩ := q
    split at q
    · next h2 => exact ⟨_, zAr.mk h1 ⟨q0, h2⟩, q⟩
    · exact q.elim
  · exact q.elim
theorem zAf.e {h : zH} {a : Nat} {ty : FieldType} {i : Int32} {p : Nat → Prop} (q : zAf h a ty i p) : ∃ x, zAr h a ty (fun N f => vp_in i N ∧ f i.toNatClampNeg = .ref x) ∧ p x := by
  unfold zAf at q
  split at q
  · next h1 =>
    obtain ⟨rfl, q0, q⟩ := q
    split at q
    · next h2 => exact ⟨_, zAr.mk h1 ⟨q0, h2⟩, q⟩
    · exact q.elim
  · exact q.elim
theorem zAn.e {h : zH} {a : Nat} {ty : FieldType} {i : Int32} {p : Option Nat → Prop} (q : zAn h a ty i p) : ∃ x, zAr h a ty (fun N f => vp_in i N ∧ f i.toNatClampNeg = va_rf x) ∧ p x := by
  unfold zAn at q
  split at q
  · next h1 =>
    obtain ⟨rfl, q0, q⟩ := q
    split at q
    · next h2 => exact ⟨some _, zAr.mk h1 ⟨q0, h2⟩, q⟩
    · next h2 => exact ⟨none, zAr.mk h1 ⟨q0, h2⟩, q⟩
    · exact q.elim
  · exact q.elim
theorem zOj.imp {h : zH} {a ci : Nat} {p q : List Value → Prop} (hp : zOj h a ci p) (k : ∀ fs, p fs → q fs) : zOj h a ci q := by
  obtain ⟨fs, h1, h2⟩ := hp.e
  unfold zOj
  rw [h1]
  exact ⟨rfl, k _ h2⟩
theorem zAr.imp {h : zH} {a : Nat} {ty : FieldType} {p q : Nat → (Nat → Value) → Prop} (hp : zAr h a ty p) (k : ∀ N f, p N f → q N f) : zAr h a ty q := by
  unfold zAr at hp ⊢
  split at hp
  · exact ⟨hp.1, k _ _ hp.2⟩
  · exact hp
/-- results of a call, by kind -/
def zRI (X : String → zH → Nat → Prop) (p : Int32 → zH → Nat → Prop) : zRes → zH → Nat → Prop := fun r h n => match r with
  | .inl (some (.int x)) => p x h n
  | .inr E => X E h n
  | _ => False
def zRR (X : String → zH → Nat → Prop) (p : Nat → zH → Nat → Prop) : zRes → zH → Nat → Prop := fun r h n => match r with
  | .inl (some (.ref x)) => p x h n
  | .inr E => X E h n
  | _ => False
def zRN (X : String → zH → Nat → Prop) (p : Option Nat → zH → Nat → Prop) : zRes → zH → Nat → Prop := fun r h n => match r with
  | .inl (some (.ref x)) => p (some x) h n
  | .inl (some .null) => p none h n
  | .inr E => X E h n
  | _ => False
def zRV (X : String → zH → Nat → Prop) (p : zH → Nat → Prop) : zRes → zH → Nat → Prop := fun r h n => match r with
  | .inl none => p h n
  | .inr E => X E h n
  | _ => False
def zRD (X : String → zH → Nat → Prop) (p : UInt64 → zH → Nat → Prop) : zRes → zH → Nat → Prop := fun r h n => match r with
  | .inl (some (.double x)) => p x h n
  | .inr E => X E h n
  | _ => False
def zRF (X : String → zH → Nat → Prop) (p : UInt32 → zH → Nat → Prop) : zRes → zH → Nat → Prop := fun r h n => match r with
  | .inl (some (.float x)) => p x h n
  | .inr E => X E h n
  | _ => False
/-- what a method leaves behind, by kind -/
def zqI (X : String → zH → Prop) (P : Int32 → zH → Prop) : zRes → zH → Prop := fun r h => match r with
  | .inl (some (.int x)) => P x h
  | .inr E => X E h
  | _ => False
def zqR (X : String → zH → Prop) (P : Nat → zH → Prop) : zRes → zH → Prop := fun r h => match r with
  | .inl (some (.ref x)) => P x h
  | .inr E => X E h
  | _ => False
def zqN (X : String → zH → Prop) (P : Option Nat → zH → Prop) : zRes → zH → Prop := fun r h => match r with
  | .inl (some (.ref x)) => P (some x) h
  | .inl (some .null) => P none h
  | .inr E => X E h
  | _ => False
def zqV (X : String → zH → Prop) (P : zH → Prop) : zRes → zH → Prop := fun r h => match r with
  | .inl none => P h
  | .inr E => X E h
  | _ => False
def zqD (X : String → zH → Prop) (P : UInt64 → zH → Prop) : zRes → zH → Prop := fun r h => match r with
  | .inl (some (.double x)) => P x h
  | .inr E => X E h
  | _ => False
def zqF (X : String → zH → Prop) (P : UInt32 → zH → Prop) : zRes → zH → Prop := fun r h => match r with
  | .inl (some (.float x)) => P x h
  | .inr E => X E h
  | _ => False
def zNo : String → zH → Prop := fun _ _ => False
theorem zqI.m {X X' : String → zH → Prop} {P P' : Int32 → zH → Prop} (hx : ∀ E h, X E h → X' E h) (hp : ∀ x h, P x h → P' x h) {r : zRes} {h : zH} (q : zqI X P r h) : zqI X' P' r h := by
  unfold zqI at q ⊢
  split at q <;> first | exact hp _ _ q | exact hx _ _ q | exact q.elim
section ZQC
variable {l : Launch} {G : zG} {d mc d' mc' : Nat} {M' : zM} {As : List Value} {h : zH} {n : Nat} {RX : String → zH → Nat → Prop} {XP : String → zH → Prop}
theorem zCall.I {Post : Int32 → zH → Prop} {p : Int32 → zH → Nat → Prop} (ct : zCt l G d' M' As h mc' (zqI XP Post)) (hd : d' + 1 ≤ d) (hm : n + mc' ≤ mc) (k : ∀ x h', zB G h' → Post x h' → p x h' (n + mc')) (kx : ∀ E h', zB G h' → XP E h' → RX E h' (n + mc')) : zCall l G d mc M' As h n (zRI RX p) :=
  zCall.of ct hd hm fun r h' hb hq => by
    unfold zqI at hq; unfold zRI
    split at hq
    · exact k _ _ hb hq
    · exact kx _ _ hb hq
    · exact hq.elim
theorem zCall.R {Post : Nat → zH → Prop} {p : Nat → zH → Nat → Prop} (ct : zCt l G d' M' As h mc' (zqR XP Post)) (hd : d' + 1 ≤ d) (hm : n + mc' ≤ mc) (k : ∀ x h', zB G h' → Post x h' → p x h' (n + mc')) (kx : ∀ E h', zB G h' → XP E h' → RX E h' (n + mc')) : zCall l G d mc M' As h n (zRR RX p) :=
  zCall.of ct hd hm fun r h' hb hq => by
    unfold zqR at hq; unfold zRR
    split at hq
    · exact k _ _ hb hq
    · exact kx _ _ hb hq
    · exact hq.elim
theorem zCall.N {Post : Option Nat → zH → Prop} {p : Option Nat → zH → Nat → Prop} (ct : zCt l G d' M' As h mc' (zqN XP Post)) (hd : d' + 1 ≤ d) (hm : n + mc' ≤ mc) (k : ∀ x h', zB G h' → Post x h' → p x h' (n + mc')) (kx : ∀ E h', zB G h' → XP E h' → RX E h' (n + mc')) : zCall l G d mc M' As h n (zRN RX p) :=
  zCall.of ct hd hm fun r h' hb hq => by
    unfold zqN at hq; unfold zRN
    split at hq
    · exact k _ _ hb hq
    · exact k _ _ hb hq
    · exact kx _ _ hb hq
    · exact hq.elim
theorem zCall.V {Post : zH → Prop} {p : zH → Nat → Prop} (ct : zCt l G d' M' As h mc' (zqV XP Post)) (hd : d' + 1 ≤ d) (hm : n + mc' ≤ mc) (k : ∀ h', zB G h' → Post h' → p h' (n + mc')) (kx : ∀ E h', zB G h' → XP E h' → RX E h' (n + mc')) : zCall l G d mc M' As h n (zRV RX p) :=
  zCall.of ct hd hm fun r h' hb hq => by
    unfold zqV at hq; unfold zRV
    split at hq
    · exact k _ hb hq
    · exact kx _ _ hb hq
    · exact hq.elim
theorem zCall.D {Post : UInt64 → zH → Prop} {p : UInt64 → zH → Nat → Prop} (ct : zCt l G d' M' As h mc' (zqD XP Post)) (hd : d' + 1 ≤ d) (hm : n + mc' ≤ mc) (k : ∀ x h', zB G h' → Post x h' → p x h' (n + mc')) (kx : ∀ E h', zB G h' → XP E h' → RX E h' (n + mc')) : zCall l G d mc M' As h n (zRD RX p) :=
  zCall.of ct hd hm fun r h' hb hq => by
    unfold zqD at hq; unfold zRD
    split at hq
    · exact k _ _ hb hq
    · exact kx _ _ hb hq
    · exact hq.elim
theorem zCall.F {Post : UInt32 → zH → Prop} {p : UInt32 → zH → Nat → Prop} (ct : zCt l G d' M' As h mc' (zqF XP Post)) (hd : d' + 1 ≤ d) (hm : n + mc' ≤ mc) (k : ∀ x h', zB G h' → Post x h' → p x h' (n + mc')) (kx : ∀ E h', zB G h' → XP E h' → RX E h' (n + mc')) : zCall l G d mc M' As h n (zRF RX p) :=
  zCall.of ct hd hm fun r h' hb hq => by
    unfold zqF at hq; unfold zRF
    split at hq
    · exact k _ _ hb hq
    · exact kx _ _ hb hq
    · exact hq.elim
theorem zNo.k {E : String} {h' : zH} {P : Prop} (q : zNo E h') : P := q.elim
end ZQC
/-- fewer locals known -/
theorem zs0 {L : List (Option Value)} : ∀ i v, zGt [] i = some v → zGt L i = some v := fun i v h => by simp [zGt] at h
theorem zss {L L' : List (Option Value)} {x : Option Value} (k : ∀ i v, zGt L' i = some v → zGt L i = some v) : ∀ i v, zGt (x :: L') i = some v → zGt (x :: L) i = some v := fun i v h => by
  cases i with
  | zero => exact h
  | succ i => exact k i v h
theorem zsn {L L' : List (Option Value)} {x : Option Value} (k : ∀ i v, zGt L' i = some v → zGt L i = some v) : ∀ i v, zGt (none :: L') i = some v → zGt (x :: L) i = some v := fun i v h => by
  cases i with
  | zero => cases h
  | succ i => exact k i v h
section ZQ
variable {l : Launch} {G : zG} {d mc : Nat} {M : zM} {Q : zRes → zH → Prop} {pc : Nat} {L L' : List (Option Value)} {S : List Value} {h : zH} {n : Nat}
abbrev zXo (mc : Nat) (Q : zRes → zH → Prop) : String → zH → Nat → Prop := fun E h n => n ≤ mc ∧ Q (.inr E) h
theorem zX.o (h0 : M.2.2.2.2 = []) : ∀ E h n, zXo mc Q E h n → zX l G d mc M Q pc L E h n := fun E h n a => zX.out (by rw [h0]; intro z hz; cases hz) a.1 a.2

theorem q_iconst {i : Int} {x : Int32} (hd : decode M.2.1 pc = .ok (.iconst i, 1)) (hv : Int32.ofInt i = x) (k : zV l G d mc M Q (pc + 1) L (.int x :: S) h n) : zV l G d mc M Q pc L S h n := r_iconst hd hv (fun _ _ _ _ a => a) L S h n k
theorem q_bipush {i : Int} {x : Int32} (hd : decode M.2.1 pc = .ok (.bipush i, 2)) (hv : (Int8.ofInt i).toInt32 = x) (k : zV l G d mc M Q (pc + 2) L (.int x :: S) h n) : zV l G d mc M Q pc L S h n := r_bipush hd hv (fun _ _ _ _ a => a) L S h n k
theorem q_sipush {i : Int} {x : Int32} (hd : decode M.2.1 pc = .ok (.sipush i, 3)) (hv : (Int16.ofInt i).toInt32 = x) (k : zV l G d mc M Q (pc + 3) L (.int x :: S) h n) : zV l G d mc M Q pc L S h n := r_sipush hd hv (fun _ _ _ _ a => a) L S h n k
theorem q_lconst {i : Fin 2} {x : Int64} (hd : decode M.2.1 pc = .ok (.lconst i, 1)) (hv : Int64.ofNat (i : Nat) = x) (k : zV l G d mc M Q (pc + 1) L (.long x :: S) h n) : zV l G d mc M Q pc L S h n := r_lconst hd hv (fun _ _ _ _ a => a) L S h n k
theorem q_null (hd : decode M.2.1 pc = .ok (.aconst_null, 1)) (k : zV l G d mc M Q (pc + 1) L (.null :: S) h n) : zV l G d mc M Q pc L S h n := r_null hd (fun _ _ _ _ a => a) L S h n k
theorem q_ldci {i : Nat} {x : Int32} (hd : decode M.2.1 pc = .ok (.ldc i, 2)) (hw : Cond.constant M.1.cls i x ∈ zTb) (k : zV l G d mc M Q (pc + 2) L (.int x :: S) h n) : zV l G d mc M Q pc L S h n := r_ldci hd hw (fun _ _ _ _ a => a) L S h n k
theorem q_ldcs {i : Nat} {tx : String} (hd : decode M.2.1 pc = .ok (.ldc i, 2)) (hw : (M.1.cls, i, tx) ∈ zSR) (k : zV l G d mc M Q (pc + 2) L (.ref (zSt G M.1.cls i) :: S) h n) : zV l G d mc M Q pc L S h n := r_ldcs hd hw (fun _ _ _ _ a => a) L S h n k
theorem q_ldcm {i : Nat} (hd : decode M.2.1 pc = .ok (.ldc i, 2)) (hw : Cond.classLink M.1.cls i "[Ljava/lang/Object;" ∈ zTb) (k : zV l G d mc M Q (pc + 2) L (zZs G "class" "[Ljava/lang/Object;" :: S) h n) : zV l G d mc M Q pc L S h n := r_ldcm hd hw (fun _ _ _ _ a => a) L S h n k
theorem q_gets {i : Nat} {C0 n0 d0 : String} (hd : decode M.2.1 pc = .ok (.getstatic i, 3)) (hst : (C0, n0, d0) ∈ zST) (hw : Cond.fieldLink M.1.cls i C0 n0 d0 ∈ zTb ∨ ∃ host, Cond.fieldLinkNest M.1.cls i C0 n0 d0 host ∈ zTb) (k : zV l G d mc M Q (pc + 3) L (zZs G C0 n0 :: S) h n) : zV l G d mc M Q pc L S h n := r_gets hd hst hw (fun _ _ _ _ a => a) L S h n k
theorem q_dconst0 (hd : decode M.2.1 pc = .ok (.dconst 0, 1)) (k : zV l G d mc M Q (pc + 1) L (.double FP.dconst0 :: S) h n) : zV l G d mc M Q pc L S h n := r_dconst0 hd (fun _ _ _ _ a => a) L S h n k
theorem q_iload_n {i : Fin 4} {j : Nat} {x : Int32} (hd : decode M.2.1 pc = .ok (.iload_n i, 1)) (hj : (i : Nat) = j) (hg : zGt L j = some (.int x)) (k : zV l G d mc M Q (pc + 1) L (.int x :: S) h n) : zV l G d mc M Q pc L S h n := r_iload_n hd hj (K := fun L S h n => zV l G d mc M Q (pc + 1) L S h n) (fun _ _ _ _ a => a) L S h n (by unfold iLdI; rw [hg]; exact k)
theorem q_iload {j : Nat} {x : Int32} (hd : decode M.2.1 pc = .ok (.iload j, 2)) (hg : zGt L j = some (.int x)) (k : zV l G d mc M Q (pc + 2) L (.int x :: S) h n) : zV l G d mc M Q pc L S h n := r_iload hd (K := fun L S h n => zV l G d mc M Q (pc + 2) L S h n) (fun _ _ _ _ a => a) L S h n (by unfold iLdI; rw [hg]; exact k)
theorem q_lload_n {i : Fin 4} {j : Nat} {x : Int64} (hd : decode M.2.1 pc = .ok (.lload_n i, 1)) (hj : (i : Nat) = j) (hg : zGt L j = some (.long x)) (k : zV l G d mc M Q (pc + 1) L (.long x :: S) h n) : zV l G d mc M Q pc L S h n := r_lload_n hd hj (K := fun L S h n => zV l G d mc M Q (pc + 1) L S h n) (fun _ _ _ _ a => a) L S h n (by unfold iLdL; rw [hg]; exact k)
theorem q_lload {j : Nat} {x : Int64} (hd : decode M.2.1 pc = .ok (.lload j, 2)) (hg : zGt L j = some (.long x)) (k : zV l G d mc M Q (pc + 2) L (.long x :: S) h n) : zV l G d mc M Q pc L S h n := r_lload hd (K := fun L S h n => zV l G d mc M Q (pc + 2) L S h n) (fun _ _ _ _ a => a) L S h n (by unfold iLdL; rw [hg]; exact k)
theorem q_dload_n {i : Fin 4} {j : Nat} {x : UInt64} (hd : decode M.2.1 pc = .ok (.dload_n i, 1)) (hj : (i : Nat) = j) (hg : zGt L j = some (.double x)) (k : zV l G d mc M Q (pc + 1) L (.double x :: S) h n) : zV l G d mc M Q pc L S h n := r_dload_n hd hj (K := fun L S h n => zV l G d mc M Q (pc + 1) L S h n) (fun _ _ _ _ a => a) L S h n (by unfold iLdD; rw [hg]; exact k)
theorem q_dload {j : Nat} {x : UInt64} (hd : decode M.2.1 pc = .ok (.dload j, 2)) (hg : zGt L j = some (.double x)) (k : zV l G d mc M Q (pc + 2) L (.double x :: S) h n) : zV l G d mc M Q pc L S h n := r_dload hd (K := fun L S h n => zV l G d mc M Q (pc + 2) L S h n) (fun _ _ _ _ a => a) L S h n (by unfold iLdD; rw [hg]; exact k)
theorem q_aload_n {i : Fin 4} {j : Nat} {x : Nat} (hd : decode M.2.1 pc = .ok (.aload_n i, 1)) (hj : (i : Nat) = j) (hg : zGt L j = some (.ref x)) (k : zV l G d mc M Q (pc + 1) L (.ref x :: S) h n) : zV l G d mc M Q pc L S h n := r_aload_n hd hj (K := fun L S h n => zV l G d mc M Q (pc + 1) L S h n) (fun _ _ _ _ a => a) L S h n (by unfold iLdA; rw [hg]; exact k)
theorem q_aload_nN {i : Fin 4} {j : Nat}  (hd : decode M.2.1 pc = .ok (.aload_n i, 1)) (hj : (i : Nat) = j) (hg : zGt L j = some (.null)) (k : zV l G d mc M Q (pc + 1) L (.null :: S) h n) : zV l G d mc M Q pc L S h n := r_aload_n hd hj (K := fun L S h n => zV l G d mc M Q (pc + 1) L S h n) (fun _ _ _ _ a => a) L S h n (by unfold iLdA; rw [hg]; exact k)
theorem q_aload_nO {i : Fin 4} {j : Nat} {x : Option Nat} (hd : decode M.2.1 pc = .ok (.aload_n i, 1)) (hj : (i : Nat) = j) (hg : zGt L j = some (va_rf x)) (k : zV l G d mc M Q (pc + 1) L (va_rf x :: S) h n) : zV l G d mc M Q pc L S h n := r_aload_n hd hj (K := fun L S h n => zV l G d mc M Q (pc + 1) L S h n) (fun _ _ _ _ a => a) L S h n (by unfold iLdA; rw [hg]; cases x <;> exact k)
theorem q_aload {j : Nat} {x : Nat} (hd : decode M.2.1 pc = .ok (.aload j, 2)) (hg : zGt L j = some (.ref x)) (k : zV l G d mc M Q (pc + 2) L (.ref x :: S) h n) : zV l G d mc M Q pc L S h n := r_aload hd (K := fun L S h n => zV l G d mc M Q (pc + 2) L S h n) (fun _ _ _ _ a => a) L S h n (by unfold iLdA; rw [hg]; exact k)
theorem q_aloadN {j : Nat}  (hd : decode M.2.1 pc = .ok (.aload j, 2)) (hg : zGt L j = some (.null)) (k : zV l G d mc M Q (pc + 2) L (.null :: S) h n) : zV l G d mc M Q pc L S h n := r_aload hd (K := fun L S h n => zV l G d mc M Q (pc + 2) L S h n) (fun _ _ _ _ a => a) L S h n (by unfold iLdA; rw [hg]; exact k)
theorem q_aloadO {j : Nat} {x : Option Nat} (hd : decode M.2.1 pc = .ok (.aload j, 2)) (hg : zGt L j = some (va_rf x)) (k : zV l G d mc M Q (pc + 2) L (va_rf x :: S) h n) : zV l G d mc M Q pc L S h n := r_aload hd (K := fun L S h n => zV l G d mc M Q (pc + 2) L S h n) (fun _ _ _ _ a => a) L S h n (by unfold iLdA; rw [hg]; cases x <;> exact k)
theorem q_istore_n {i : Fin 4} {j : Nat} {x : Int32} (hd : decode M.2.1 pc = .ok (.istore_n i, 1)) (hj : (i : Nat) = j) (hi : j < M.2.2.1) (hL : zSe L j (some (.int x)) = L') (k : zV l G d mc M Q (pc + 1) L' S h n) : zV l G d mc M Q pc L (.int x :: S) h n := r_istore_n hd hj hi (K := fun L S h n => zV l G d mc M Q (pc + 1) L S h n) (fun _ _ _ _ a => a) L (.int x :: S) h n (by subst hL; exact k)
theorem q_istore {j : Nat} {x : Int32} (hd : decode M.2.1 pc = .ok (.istore j, 2)) (hi : j < M.2.2.1) (hL : zSe L j (some (.int x)) = L') (k : zV l G d mc M Q (pc + 2) L' S h n) : zV l G d mc M Q pc L (.int x :: S) h n := r_istore hd hi (K := fun L S h n => zV l G d mc M Q (pc + 2) L S h n) (fun _ _ _ _ a => a) L (.int x :: S) h n (by subst hL; exact k)
theorem q_dstore_n {i : Fin 4} {j : Nat} {x : UInt64} (hd : decode M.2.1 pc = .ok (.dstore_n i, 1)) (hj : (i : Nat) = j) (hi : j + 1 < M.2.2.1) (hL : zPn (zSe L j (some (.double x))) (j + 1) = L') (k : zV l G d mc M Q (pc + 1) L' S h n) : zV l G d mc M Q pc L (.double x :: S) h n := r_dstore_n hd hj hi (K := fun L S h n => zV l G d mc M Q (pc + 1) L S h n) (fun _ _ _ _ a => a) L (.double x :: S) h n (by subst hL; exact k)
theorem q_dstore {j : Nat} {x : UInt64} (hd : decode M.2.1 pc = .ok (.dstore j, 2)) (hi : j + 1 < M.2.2.1) (hL : zPn (zSe L j (some (.double x))) (j + 1) = L') (k : zV l G d mc M Q (pc + 2) L' S h n) : zV l G d mc M Q pc L (.double x :: S) h n := r_dstore hd hi (K := fun L S h n => zV l G d mc M Q (pc + 2) L S h n) (fun _ _ _ _ a => a) L (.double x :: S) h n (by subst hL; exact k)
theorem q_astore_n {i : Fin 4} {j : Nat} {x : Nat} (hd : decode M.2.1 pc = .ok (.astore_n i, 1)) (hj : (i : Nat) = j) (hi : j < M.2.2.1) (hL : zSe L j (some (.ref x)) = L') (k : zV l G d mc M Q (pc + 1) L' S h n) : zV l G d mc M Q pc L (.ref x :: S) h n := r_astore_n hd hj hi (K := fun L S h n => zV l G d mc M Q (pc + 1) L S h n) (fun _ _ _ _ a => a) L (.ref x :: S) h n (by subst hL; exact k)
theorem q_astore_nN {i : Fin 4} {j : Nat}  (hd : decode M.2.1 pc = .ok (.astore_n i, 1)) (hj : (i : Nat) = j) (hi : j < M.2.2.1) (hL : zSe L j (some (.null)) = L') (k : zV l G d mc M Q (pc + 1) L' S h n) : zV l G d mc M Q pc L (.null :: S) h n := r_astore_n hd hj hi (K := fun L S h n => zV l G d mc M Q (pc + 1) L S h n) (fun _ _ _ _ a => a) L (.null :: S) h n (by subst hL; exact k)
theorem q_astore_nO {i : Fin 4} {j : Nat} {x : Option Nat} (hd : decode M.2.1 pc = .ok (.astore_n i, 1)) (hj : (i : Nat) = j) (hi : j < M.2.2.1) (hL : zSe L j (some (va_rf x)) = L') (k : zV l G d mc M Q (pc + 1) L' S h n) : zV l G d mc M Q pc L (va_rf x :: S) h n := r_astore_n hd hj hi (K := fun L S h n => zV l G d mc M Q (pc + 1) L S h n) (fun _ _ _ _ a => a) L (va_rf x :: S) h n (by subst hL; cases x <;> exact k)
theorem q_astore {j : Nat} {x : Nat} (hd : decode M.2.1 pc = .ok (.astore j, 2)) (hi : j < M.2.2.1) (hL : zSe L j (some (.ref x)) = L') (k : zV l G d mc M Q (pc + 2) L' S h n) : zV l G d mc M Q pc L (.ref x :: S) h n := r_astore hd hi (K := fun L S h n => zV l G d mc M Q (pc + 2) L S h n) (fun _ _ _ _ a => a) L (.ref x :: S) h n (by subst hL; exact k)
theorem q_astoreN {j : Nat}  (hd : decode M.2.1 pc = .ok (.astore j, 2)) (hi : j < M.2.2.1) (hL : zSe L j (some (.null)) = L') (k : zV l G d mc M Q (pc + 2) L' S h n) : zV l G d mc M Q pc L (.null :: S) h n := r_astore hd hi (K := fun L S h n => zV l G d mc M Q (pc + 2) L S h n) (fun _ _ _ _ a => a) L (.null :: S) h n (by subst hL; exact k)
theorem q_astoreO {j : Nat} {x : Option Nat} (hd : decode M.2.1 pc = .ok (.astore j, 2)) (hi : j < M.2.2.1) (hL : zSe L j (some (va_rf x)) = L') (k : zV l G d mc M Q (pc + 2) L' S h n) : zV l G d mc M Q pc L (va_rf x :: S) h n := r_astore hd hi (K := fun L S h n => zV l G d mc M Q (pc + 2) L S h n) (fun _ _ _ _ a => a) L (va_rf x :: S) h n (by subst hL; cases x <;> exact k)
theorem q_iinc {j : Nat} {i : Int} {v x : Int32} (hd : decode M.2.1 pc = .ok (.iinc j i, 3)) (hv : Int32.ofInt i = v) (hi : j < M.2.2.1) (hg : zGt L j = some (.int x)) (hL : zSe L j (some (.int (x + v))) = L') (k : zV l G d mc M Q (pc + 3) L' S h n) : zV l G d mc M Q pc L S h n := r_iinc hd hv hi (K := fun L S h n => zV l G d mc M Q (pc + 3) L S h n) (fun _ _ _ _ a => a) L S h n (by unfold iInc; rw [hg]; subst hL; exact k)
theorem q_iadd {x y : Int32} (hd : decode M.2.1 pc = .ok (.iadd, 1)) (k : zV l G d mc M Q (pc + 1) L (.int (x + y) :: S) h n) : zV l G d mc M Q pc L (.int y :: .int x :: S) h n := r_iadd hd (fun _ _ _ _ a => a) L _ h n k
theorem q_isub {x y : Int32} (hd : decode M.2.1 pc = .ok (.isub, 1)) (k : zV l G d mc M Q (pc + 1) L (.int (x - y) :: S) h n) : zV l G d mc M Q pc L (.int y :: .int x :: S) h n := r_isub hd (fun _ _ _ _ a => a) L _ h n k
theorem q_imul {x y : Int32} (hd : decode M.2.1 pc = .ok (.imul, 1)) (k : zV l G d mc M Q (pc + 1) L (.int (x * y) :: S) h n) : zV l G d mc M Q pc L (.int y :: .int x :: S) h n := r_imul hd (fun _ _ _ _ a => a) L _ h n k
theorem q_iand {x y : Int32} (hd : decode M.2.1 pc = .ok (.iand, 1)) (k : zV l G d mc M Q (pc + 1) L (.int (x &&& y) :: S) h n) : zV l G d mc M Q pc L (.int y :: .int x :: S) h n := r_iand hd (fun _ _ _ _ a => a) L _ h n k
theorem q_ior {x y : Int32} (hd : decode M.2.1 pc = .ok (.ior, 1)) (k : zV l G d mc M Q (pc + 1) L (.int (x ||| y) :: S) h n) : zV l G d mc M Q pc L (.int y :: .int x :: S) h n := r_ior hd (fun _ _ _ _ a => a) L _ h n k
theorem q_ishl {x y : Int32} (hd : decode M.2.1 pc = .ok (.ishl, 1)) (k : zV l G d mc M Q (pc + 1) L (.int (x <<< (y &&& 31)) :: S) h n) : zV l G d mc M Q pc L (.int y :: .int x :: S) h n := r_ishl hd (fun _ _ _ _ a => a) L _ h n k
theorem q_ishr {x y : Int32} (hd : decode M.2.1 pc = .ok (.ishr, 1)) (k : zV l G d mc M Q (pc + 1) L (.int (x >>> (y &&& 31)) :: S) h n) : zV l G d mc M Q pc L (.int y :: .int x :: S) h n := r_ishr hd (fun _ _ _ _ a => a) L _ h n k
theorem q_iushr {x y : Int32} (hd : decode M.2.1 pc = .ok (.iushr, 1)) (k : zV l G d mc M Q (pc + 1) L (.int ((x.toUInt32 >>> (y.toUInt32 &&& Int32.toUInt32 31)).toInt32) :: S) h n) : zV l G d mc M Q pc L (.int y :: .int x :: S) h n := r_iushr hd (fun _ _ _ _ a => a) L _ h n k
theorem q_idiv {x y : Int32} (hd : decode M.2.1 pc = .ok (.idiv, 1)) (h0 : ¬ y = 0) (k : zV l G d mc M Q (pc + 1) L (.int (x / y) :: S) h n) : zV l G d mc M Q pc L (.int y :: .int x :: S) h n := r_idiv hd (fun _ _ _ _ a => a) L _ h n ⟨h0, k⟩
theorem q_irem {x y : Int32} (hd : decode M.2.1 pc = .ok (.irem, 1)) (h0 : ¬ y = 0) (k : zV l G d mc M Q (pc + 1) L (.int (x - x / y * y) :: S) h n) : zV l G d mc M Q pc L (.int y :: .int x :: S) h n := r_irem hd (fun _ _ _ _ a => a) L _ h n ⟨h0, k⟩
theorem q_ineg {x : Int32} (hd : decode M.2.1 pc = .ok (.ineg, 1)) (k : zV l G d mc M Q (pc + 1) L (.int (-x) :: S) h n) : zV l G d mc M Q pc L (.int x :: S) h n := r_ineg hd (fun _ _ _ _ a => a) L _ h n k
theorem q_i2l {x : Int32} (hd : decode M.2.1 pc = .ok (.i2l, 1)) (k : zV l G d mc M Q (pc + 1) L (.long x.toInt64 :: S) h n) : zV l G d mc M Q pc L (.int x :: S) h n := r_i2l hd (fun _ _ _ _ a => a) L _ h n k
theorem q_i2b {x : Int32} (hd : decode M.2.1 pc = .ok (.i2b, 1)) (k : zV l G d mc M Q (pc + 1) L (.int x.toInt8.toInt32 :: S) h n) : zV l G d mc M Q pc L (.int x :: S) h n := r_i2b hd (fun _ _ _ _ a => a) L _ h n k
theorem q_i2c {x : Int32} (hd : decode M.2.1 pc = .ok (.i2c, 1)) (k : zV l G d mc M Q (pc + 1) L (.int (x.toUInt32 % 65536).toInt32 :: S) h n) : zV l G d mc M Q pc L (.int x :: S) h n := r_i2c hd (fun _ _ _ _ a => a) L _ h n k
theorem q_i2d {x : Int32} (hd : decode M.2.1 pc = .ok (.i2d, 1)) (k : zV l G d mc M Q (pc + 1) L (.double (FP.i2d x) :: S) h n) : zV l G d mc M Q pc L (.int x :: S) h n := r_i2d hd (fun _ _ _ _ a => a) L _ h n k
theorem q_i2f {x : Int32} (hd : decode M.2.1 pc = .ok (.i2f, 1)) (k : zV l G d mc M Q (pc + 1) L (.float (FP.i2f x) :: S) h n) : zV l G d mc M Q pc L (.int x :: S) h n := r_i2f hd (fun _ _ _ _ a => a) L _ h n k
theorem q_ddiv {x y : UInt64} (hd : decode M.2.1 pc = .ok (.ddiv, 1)) (h0 : vf_n64 (FP.ddiv x y)) (k : zV l G d mc M Q (pc + 1) L (.double (FP.ddiv x y) :: S) h n) : zV l G d mc M Q pc L (.double y :: .double x :: S) h n := r_ddiv hd (fun _ _ _ _ a => a) L _ h n ⟨h0, k⟩
theorem q_fdiv {x y : UInt32} (hd : decode M.2.1 pc = .ok (.fdiv, 1)) (h0 : vf_n32 (FP.fdiv x y)) (k : zV l G d mc M Q (pc + 1) L (.float (FP.fdiv x y) :: S) h n) : zV l G d mc M Q pc L (.float y :: .float x :: S) h n := r_fdiv hd (fun _ _ _ _ a => a) L _ h n ⟨h0, k⟩
theorem q_f2d {x : UInt32} (hd : decode M.2.1 pc = .ok (.f2d, 1)) (h0 : vf_n64 (FP.f2d x)) (k : zV l G d mc M Q (pc + 1) L (.double (FP.f2d x) :: S) h n) : zV l G d mc M Q pc L (.float x :: S) h n := r_f2d hd (fun _ _ _ _ a => a) L _ h n ⟨h0, k⟩
theorem q_dcmp {op : CmpOp} {x y : UInt64} (hd : decode M.2.1 pc = .ok (.dcmp op, 1)) (k : zV l G d mc M Q (pc + 1) L (.int (Op.cmpValue (FP.dcmp x y) op) :: S) h n) : zV l G d mc M Q pc L (.double y :: .double x :: S) h n := r_dcmp hd (fun _ _ _ _ a => a) L _ h n k
theorem q_lcmp {x y : Int64} (hd : decode M.2.1 pc = .ok (.lcmp, 1)) (k : zV l G d mc M Q (pc + 1) L (.int (lg_cmp x y) :: S) h n) : zV l G d mc M Q pc L (.long y :: .long x :: S) h n := r_lcmp hd (fun _ _ _ _ a => a) L _ h n k
theorem q_dup {v : Value} (hd : decode M.2.1 pc = .ok (.dup, 1)) (hc : v.category = 1) (k : zV l G d mc M Q (pc + 1) L (v :: v :: S) h n) : zV l G d mc M Q pc L (v :: S) h n := r_dup hd (fun _ _ _ _ a => a) L _ h n ⟨hc, k⟩
theorem q_pop {v : Value} (hd : decode M.2.1 pc = .ok (.pop, 1)) (hc : v.category = 1) (k : zV l G d mc M Q (pc + 1) L S h n) : zV l G d mc M Q pc L (v :: S) h n := r_pop hd (fun _ _ _ _ a => a) L _ h n ⟨hc, k⟩
theorem q_dup_x1 {v w : Value} (hd : decode M.2.1 pc = .ok (.dup_x1, 1)) (hc : v.category = 1) (hc2 : w.category = 1) (k : zV l G d mc M Q (pc + 1) L (v :: w :: v :: S) h n) : zV l G d mc M Q pc L (v :: w :: S) h n := r_dup_x1 hd (fun _ _ _ _ a => a) L _ h n ⟨hc, hc2, k⟩
theorem q_dup2 {v w : Value} (hd : decode M.2.1 pc = .ok (.dup2, 1)) (hc : v.category = 1) (hc2 : w.category = 1) (k : zV l G d mc M Q (pc + 1) L (v :: w :: v :: w :: S) h n) : zV l G d mc M Q pc L (v :: w :: S) h n := r_dup2 hd (fun _ _ _ _ a => a) L _ h n ⟨hc, hc2, k⟩
theorem q_if_eq {x : Int32} {off : Int} {tgt : Nat} (hd : decode M.2.1 pc = .ok (.ifCond .eq off, 3)) (ht : (pc : Int) + off = (tgt : Int)) (k1 : x = 0 → zV l G d mc M Q tgt L S h n) (k2 : ¬ (x = 0) → zV l G d mc M Q (pc + 3) L S h n) : zV l G d mc M Q pc L (.int x :: S) h n := r_if_eq hd ht (fun _ _ _ _ a => a) (fun _ _ _ _ a => a) L _ h n ⟨k1, k2⟩
theorem q_icmp_eq {x y : Int32} {off : Int} {tgt : Nat} (hd : decode M.2.1 pc = .ok (.if_icmp .eq off, 3)) (ht : (pc : Int) + off = (tgt : Int)) (k1 : x = y → zV l G d mc M Q tgt L S h n) (k2 : ¬ (x = y) → zV l G d mc M Q (pc + 3) L S h n) : zV l G d mc M Q pc L (.int y :: .int x :: S) h n := r_icmp_eq hd ht (fun _ _ _ _ a => a) (fun _ _ _ _ a => a) L _ h n ⟨k1, k2⟩
theorem q_if_ne {x : Int32} {off : Int} {tgt : Nat} (hd : decode M.2.1 pc = .ok (.ifCond .ne off, 3)) (ht : (pc : Int) + off = (tgt : Int)) (k1 : ¬ x = 0 → zV l G d mc M Q tgt L S h n) (k2 : ¬ (¬ x = 0) → zV l G d mc M Q (pc + 3) L S h n) : zV l G d mc M Q pc L (.int x :: S) h n := r_if_ne hd ht (fun _ _ _ _ a => a) (fun _ _ _ _ a => a) L _ h n ⟨k1, k2⟩
theorem q_icmp_ne {x y : Int32} {off : Int} {tgt : Nat} (hd : decode M.2.1 pc = .ok (.if_icmp .ne off, 3)) (ht : (pc : Int) + off = (tgt : Int)) (k1 : ¬ x = y → zV l G d mc M Q tgt L S h n) (k2 : ¬ (¬ x = y) → zV l G d mc M Q (pc + 3) L S h n) : zV l G d mc M Q pc L (.int y :: .int x :: S) h n := r_icmp_ne hd ht (fun _ _ _ _ a => a) (fun _ _ _ _ a => a) L _ h n ⟨k1, k2⟩
theorem q_if_lt {x : Int32} {off : Int} {tgt : Nat} (hd : decode M.2.1 pc = .ok (.ifCond .lt off, 3)) (ht : (pc : Int) + off = (tgt : Int)) (k1 : x < 0 → zV l G d mc M Q tgt L S h n) (k2 : ¬ (x < 0) → zV l G d mc M Q (pc + 3) L S h n) : zV l G d mc M Q pc L (.int x :: S) h n := r_if_lt hd ht (fun _ _ _ _ a => a) (fun _ _ _ _ a => a) L _ h n ⟨k1, k2⟩
theorem q_icmp_lt {x y : Int32} {off : Int} {tgt : Nat} (hd : decode M.2.1 pc = .ok (.if_icmp .lt off, 3)) (ht : (pc : Int) + off = (tgt : Int)) (k1 : x < y → zV l G d mc M Q tgt L S h n) (k2 : ¬ (x < y) → zV l G d mc M Q (pc + 3) L S h n) : zV l G d mc M Q pc L (.int y :: .int x :: S) h n := r_icmp_lt hd ht (fun _ _ _ _ a => a) (fun _ _ _ _ a => a) L _ h n ⟨k1, k2⟩
theorem q_if_ge {x : Int32} {off : Int} {tgt : Nat} (hd : decode M.2.1 pc = .ok (.ifCond .ge off, 3)) (ht : (pc : Int) + off = (tgt : Int)) (k1 : 0 ≤ x → zV l G d mc M Q tgt L S h n) (k2 : ¬ (0 ≤ x) → zV l G d mc M Q (pc + 3) L S h n) : zV l G d mc M Q pc L (.int x :: S) h n := r_if_ge hd ht (fun _ _ _ _ a => a) (fun _ _ _ _ a => a) L _ h n ⟨k1, k2⟩
theorem q_icmp_ge {x y : Int32} {off : Int} {tgt : Nat} (hd : decode M.2.1 pc = .ok (.if_icmp .ge off, 3)) (ht : (pc : Int) + off = (tgt : Int)) (k1 : y ≤ x → zV l G d mc M Q tgt L S h n) (k2 : ¬ (y ≤ x) → zV l G d mc M Q (pc + 3) L S h n) : zV l G d mc M Q pc L (.int y :: .int x :: S) h n := r_icmp_ge hd ht (fun _ _ _ _ a => a) (fun _ _ _ _ a => a) L _ h n ⟨k1, k2⟩
theorem q_if_gt {x : Int32} {off : Int} {tgt : Nat} (hd : decode M.2.1 pc = .ok (.ifCond .gt off, 3)) (ht : (pc : Int) + off = (tgt : Int)) (k1 : 0 < x → zV l G d mc M Q tgt L S h n) (k2 : ¬ (0 < x) → zV l G d mc M Q (pc + 3) L S h n) : zV l G d mc M Q pc L (.int x :: S) h n := r_if_gt hd ht (fun _ _ _ _ a => a) (fun _ _ _ _ a => a) L _ h n ⟨k1, k2⟩
theorem q_icmp_gt {x y : Int32} {off : Int} {tgt : Nat} (hd : decode M.2.1 pc = .ok (.if_icmp .gt off, 3)) (ht : (pc : Int) + off = (tgt : Int)) (k1 : y < x → zV l G d mc M Q tgt L S h n) (k2 : ¬ (y < x) → zV l G d mc M Q (pc + 3) L S h n) : zV l G d mc M Q pc L (.int y :: .int x :: S) h n := r_icmp_gt hd ht (fun _ _ _ _ a => a) (fun _ _ _ _ a => a) L _ h n ⟨k1, k2⟩
theorem q_if_le {x : Int32} {off : Int} {tgt : Nat} (hd : decode M.2.1 pc = .ok (.ifCond .le off, 3)) (ht : (pc : Int) + off = (tgt : Int)) (k1 : x ≤ 0 → zV l G d mc M Q tgt L S h n) (k2 : ¬ (x ≤ 0) → zV l G d mc M Q (pc + 3) L S h n) : zV l G d mc M Q pc L (.int x :: S) h n := r_if_le hd ht (fun _ _ _ _ a => a) (fun _ _ _ _ a => a) L _ h n ⟨k1, k2⟩
theorem q_icmp_le {x y : Int32} {off : Int} {tgt : Nat} (hd : decode M.2.1 pc = .ok (.if_icmp .le off, 3)) (ht : (pc : Int) + off = (tgt : Int)) (k1 : x ≤ y → zV l G d mc M Q tgt L S h n) (k2 : ¬ (x ≤ y) → zV l G d mc M Q (pc + 3) L S h n) : zV l G d mc M Q pc L (.int y :: .int x :: S) h n := r_icmp_le hd ht (fun _ _ _ _ a => a) (fun _ _ _ _ a => a) L _ h n ⟨k1, k2⟩
theorem q_goto {off : Int} {tgt : Nat} (hd : decode M.2.1 pc = .ok (.goto off, 3)) (ht : (pc : Int) + off = (tgt : Int)) (k : zV l G d mc M Q tgt L S h n) : zV l G d mc M Q pc L S h n := r_goto hd ht (fun _ _ _ _ a => a) L S h n k
theorem q_ifnullR {a : Nat} {off : Int} {tgt : Nat} (hd : decode M.2.1 pc = .ok (.ifnull off, 3)) (ht : (pc : Int) + off = (tgt : Int)) (k : zV l G d mc M Q (pc + 3) L S h n) : zV l G d mc M Q pc L (.ref a :: S) h n := r_ifnull hd ht (K := fun L S h n => zV l G d mc M Q tgt L S h n) (K2 := fun L S h n => zV l G d mc M Q (pc + 3) L S h n) (fun _ _ _ _ a => a) (fun _ _ _ _ a => a) L _ h n ⟨fun e => (by cases e), fun _ => k⟩
theorem q_ifnullN {off : Int} {tgt : Nat} (hd : decode M.2.1 pc = .ok (.ifnull off, 3)) (ht : (pc : Int) + off = (tgt : Int)) (k : zV l G d mc M Q tgt L S h n) : zV l G d mc M Q pc L (.null :: S) h n := r_ifnull hd ht (K := fun L S h n => zV l G d mc M Q tgt L S h n) (K2 := fun L S h n => zV l G d mc M Q (pc + 3) L S h n) (fun _ _ _ _ a => a) (fun _ _ _ _ a => a) L _ h n ⟨fun _ => k, fun e => absurd rfl e⟩
theorem q_ifnonnullR {a : Nat} {off : Int} {tgt : Nat} (hd : decode M.2.1 pc = .ok (.ifnonnull off, 3)) (ht : (pc : Int) + off = (tgt : Int)) (k : zV l G d mc M Q tgt L S h n) : zV l G d mc M Q pc L (.ref a :: S) h n := r_ifnonnull hd ht (K := fun L S h n => zV l G d mc M Q (pc + 3) L S h n) (K2 := fun L S h n => zV l G d mc M Q tgt L S h n) (fun _ _ _ _ a => a) (fun _ _ _ _ a => a) L _ h n ⟨fun e => (by cases e), fun _ => k⟩
theorem q_ifnonnullN {off : Int} {tgt : Nat} (hd : decode M.2.1 pc = .ok (.ifnonnull off, 3)) (ht : (pc : Int) + off = (tgt : Int)) (k : zV l G d mc M Q (pc + 3) L S h n) : zV l G d mc M Q pc L (.null :: S) h n := r_ifnonnull hd ht (K := fun L S h n => zV l G d mc M Q (pc + 3) L S h n) (K2 := fun L S h n => zV l G d mc M Q tgt L S h n) (fun _ _ _ _ a => a) (fun _ _ _ _ a => a) L _ h n ⟨fun _ => k, fun e => absurd rfl e⟩
theorem q_acmp_eq {a b : Nat} {off : Int} {tgt : Nat} (hd : decode M.2.1 pc = .ok (.if_acmp .eq off, 3)) (ht : (pc : Int) + off = (tgt : Int)) (k1 : a = b → zV l G d mc M Q tgt L S h n) (k2 : ¬ a = b → zV l G d mc M Q (pc + 3) L S h n) : zV l G d mc M Q pc L (.ref b :: .ref a :: S) h n := r_acmp_eq hd ht (K := fun L S h n => zV l G d mc M Q tgt L S h n) (K2 := fun L S h n => zV l G d mc M Q (pc + 3) L S h n) (fun _ _ _ _ a => a) (fun _ _ _ _ a => a) L _ h n ⟨fun z => k1 (Option.some.inj z), fun z => k2 fun w => z (congrArg some w)⟩
theorem q_acmp_ne {a b : Nat} {off : Int} {tgt : Nat} (hd : decode M.2.1 pc = .ok (.if_acmp .ne off, 3)) (ht : (pc : Int) + off = (tgt : Int)) (k1 : a = b → zV l G d mc M Q (pc + 3) L S h n) (k2 : ¬ a = b → zV l G d mc M Q tgt L S h n) : zV l G d mc M Q pc L (.ref b :: .ref a :: S) h n := r_acmp_ne hd ht (K := fun L S h n => zV l G d mc M Q (pc + 3) L S h n) (K2 := fun L S h n => zV l G d mc M Q tgt L S h n) (fun _ _ _ _ a => a) (fun _ _ _ _ a => a) L _ h n ⟨fun z => k1 (Option.some.inj z), fun z => k2 fun w => z (congrArg some w)⟩
theorem q_geti {idx ci k0 a : Nat} {p : Int32 → Prop} (hd : decode M.2.1 pc = .ok (.getfield idx, 3)) (hf : zFL M.1.cls idx ci k0) (q : zGi h a ci k0 p) (k : ∀ x, p x → zV l G d mc M Q (pc + 3) L (.int x :: S) h n) : zV l G d mc M Q pc L (.ref a :: S) h n := by
  obtain ⟨x, h1, h2⟩ := q.e
  exact r_get hd hf (K := fun L S h n => zV l G d mc M Q (pc + 3) L S h n) (fun _ _ _ _ a => a) L _ h n (h1.imp fun fs e => by rw [e]; exact k x h2)
theorem q_getr {idx ci k0 a : Nat} {p : Nat → Prop} (hd : decode M.2.1 pc = .ok (.getfield idx, 3)) (hf : zFL M.1.cls idx ci k0) (q : zGr h a ci k0 p) (k : ∀ x, p x → zV l G d mc M Q (pc + 3) L (.ref x :: S) h n) : zV l G d mc M Q pc L (.ref a :: S) h n := by
  obtain ⟨x, h1, h2⟩ := q.e
  exact r_get hd hf (K := fun L S h n => zV l G d mc M Q (pc + 3) L S h n) (fun _ _ _ _ a => a) L _ h n (h1.imp fun fs e => by rw [e]; exact k x h2)
theorem q_getn {idx ci k0 a : Nat} {p : Option Nat → Prop} (hd : decode M.2.1 pc = .ok (.getfield idx, 3)) (hf : zFL M.1.cls idx ci k0) (q : zGn h a ci k0 p) (k : ∀ x, p x → zV l G d mc M Q (pc + 3) L (va_rf x :: S) h n) : zV l G d mc M Q pc L (.ref a :: S) h n := by
  obtain ⟨x, h1, h2⟩ := q.e
  exact r_get hd hf (K := fun L S h n => zV l G d mc M Q (pc + 3) L S h n) (fun _ _ _ _ a => a) L _ h n (h1.imp fun fs e => by rw [e]; exact k x h2)
/-- a field is written -/
def zPf (G : zG) (h : zH) (a ci k : Nat) (v : Value) (p : zH → Prop) : Prop := match h a with
  | some (.inr (c, fs)) => c = ci ∧ zb G ≤ a ∧ ∀ h1, h1 = zUp h a (.inr (ci, zFs fs k v)) → p h1
  | _ => False
theorem zPf.e {h : zH} {a ci k : Nat} {v : Value} {p : zH → Prop} {r : zH → Prop} (q : zPf G h a ci k v p) (m : ∀ h1, p h1 → r h1) : zOj h a ci fun fs => zb G ≤ a ∧ r (zUp h a (.inr (ci, zFs fs k v))) := by
  unfold zPf at q
  split at q
  · next h1 =>
    obtain ⟨rfl, q⟩ := q
    exact zOj.mk h1 ⟨q.1, m _ (q.2 _ rfl)⟩
  · exact q.elim

theorem q_put {idx ci k0 a : Nat} {v : Value} {p : zH → Prop} (hd : decode M.2.1 pc = .ok (.putfield idx, 3)) (hf : zFL M.1.cls idx ci k0) (hfin : ∀ q, zCL[ci]? = some q → (q.2.1 k0).2.2.2 = false) (hz : zFit (zty ci k0) v) (q : zPf G h a ci k0 v p) (k : ∀ h1, p h1 → zV l G d mc M Q (pc + 3) L S h1 n) : zV l G d mc M Q pc L (v :: .ref a :: S) h n := r_put hd hf hfin (K := fun L S h n => zV l G d mc M Q (pc + 3) L S h n) (fun _ _ _ _ a => a) L _ h n ((zPf.e (r := fun h1 => zV l G d mc M Q (pc + 3) L S h1 n) q k).imp fun fs e => ⟨e.1, hz, e.2⟩)
theorem q_putF {idx ci k0 a : Nat} {v : Value} {p : zH → Prop} (hd : decode M.2.1 pc = .ok (.putfield idx, 3)) (hf : zFL M.1.cls idx ci k0) (hin : M.1.name = "<init>") (hfin : ∀ q, zCL[ci]? = some q → (q.2.1 k0).2.2.2 = true ∧ (q.2.1 k0).1 = M.1.cls) (hz : zFit (zty ci k0) v) (q : zPf G h a ci k0 v p) (k : ∀ h1, p h1 → zV l G d mc M Q (pc + 3) L S h1 n) : zV l G d mc M Q pc L (v :: .ref a :: S) h n := r_putF hd hf hin (fun _ _ _ _ => Or.inr trivial) hfin (K := fun L S h n => zV l G d mc M Q (pc + 3) L S h n) (fun _ _ _ _ a => a) L _ h n ((zPf.e (r := fun h1 => zV l G d mc M Q (pc + 3) L S h1 n) q k).imp fun fs e => ⟨e.1, hz, e.2⟩)
/-- an element is written -/
def zSt1 (G : zG) (h : zH) (a : Nat) (ty : FieldType) (i : Int32) (v : Value) (p : zH → Prop) : Prop := match h a with
  | some (.inl (t, N, f)) => t = ty ∧ vp_in i N ∧ zb G ≤ a ∧ ∀ h1, h1 = zUp h a (.inl (ty, N, zUv f i.toNatClampNeg v)) → p h1
  | _ => False
theorem zSt1.e {h : zH} {a : Nat} {ty : FieldType} {i : Int32} {v : Value} {p r : zH → Prop} (q : zSt1 G h a ty i v p) (m : ∀ h1, p h1 → r h1) : zAr h a ty fun N f => vp_in i N ∧ zb G ≤ a ∧ r (zUp h a (.inl (ty, N, zUv f i.toNatClampNeg v))) := by
  unfold zSt1 at q
  split at q
  · next h1 =>
    obtain ⟨rfl, q⟩ := q
    exact zAr.mk h1 ⟨q.1, q.2.1, m _ (q.2.2 _ rfl)⟩
  · exact q.elim
theorem q_iaload {a : Nat} {i : Int32} {p : Int32 → Prop} (hd : decode M.2.1 pc = .ok (.iaload, 1)) (q : zAi h a .int i p) (k : ∀ x, p x → zV l G d mc M Q (pc + 1) L (.int x :: S) h n) : zV l G d mc M Q pc L (.int i :: .ref a :: S) h n := by
  obtain ⟨x, h1, h2⟩ := q.e
  exact r_iaload hd (K := fun L S h n => zV l G d mc M Q (pc + 1) L S h n) (fun _ _ _ _ a => a) L _ h n (h1.imp fun N f e => ⟨e.1, by rw [e.2]; exact k x h2⟩)
theorem q_baload {a : Nat} {i : Int32} {p : Int32 → Prop} (hd : decode M.2.1 pc = .ok (.baload, 1)) (q : zAi h a .byte i p) (k : ∀ x, p x → zV l G d mc M Q (pc + 1) L (.int x :: S) h n) : zV l G d mc M Q pc L (.int i :: .ref a :: S) h n := by
  obtain ⟨x, h1, h2⟩ := q.e
  exact r_baload hd (K := fun L S h n => zV l G d mc M Q (pc + 1) L S h n) (fun _ _ _ _ a => a) L _ h n (h1.imp fun N f e => ⟨e.1, by rw [e.2]; exact k x h2⟩)
theorem q_caload {a : Nat} {i : Int32} {p : Int32 → Prop} (hd : decode M.2.1 pc = .ok (.caload, 1)) (q : zAi h a .char i p) (k : ∀ x, p x → zV l G d mc M Q (pc + 1) L (.int x :: S) h n) : zV l G d mc M Q pc L (.int i :: .ref a :: S) h n := by
  obtain ⟨x, h1, h2⟩ := q.e
  exact r_caload hd (K := fun L S h n => zV l G d mc M Q (pc + 1) L S h n) (fun _ _ _ _ a => a) L _ h n (h1.imp fun N f e => ⟨e.1, by rw [e.2]; exact k x h2⟩)
theorem q_laload {a : Nat} {i : Int32} {p : Int64 → Prop} (hd : decode M.2.1 pc = .ok (.laload, 1)) (q : zAj h a .long i p) (k : ∀ x, p x → zV l G d mc M Q (pc + 1) L (.long x :: S) h n) : zV l G d mc M Q pc L (.int i :: .ref a :: S) h n := by
  obtain ⟨x, h1, h2⟩ := q.e
  exact r_laload hd (K := fun L S h n => zV l G d mc M Q (pc + 1) L S h n) (fun _ _ _ _ a => a) L _ h n (h1.imp fun N f e => ⟨e.1, by rw [e.2]; exact k x h2⟩)
theorem q_daload {a : Nat} {i : Int32} {p : UInt64 → Prop} (hd : decode M.2.1 pc = .ok (.daload, 1)) (q : zAd h a .double i p) (k : ∀ x, p x → zV l G d mc M Q (pc + 1) L (.double x :: S) h n) : zV l G d mc M Q pc L (.int i :: .ref a :: S) h n := by
  obtain ⟨x, h1, h2⟩ := q.e
  exact r_daload hd (K := fun L S h n => zV l G d mc M Q (pc + 1) L S h n) (fun _ _ _ _ a => a) L _ h n (h1.imp fun N f e => ⟨e.1, by rw [e.2]; exact k x h2⟩)
theorem q_aaload {a : Nat} {i : Int32} {p : Nat → Prop} (hd : decode M.2.1 pc = .ok (.aaload, 1)) (q : zAf h a (.object "java/lang/Object") i p) (k : ∀ x, p x → zV l G d mc M Q (pc + 1) L (.ref x :: S) h n) : zV l G d mc M Q pc L (.int i :: .ref a :: S) h n := by
  obtain ⟨x, h1, h2⟩ := q.e
  exact r_aaload hd (K := fun L S h n => zV l G d mc M Q (pc + 1) L S h n) (fun _ _ _ _ a => a) L _ h n (h1.imp fun N f e => ⟨e.1, by rw [e.2]; exact k x h2⟩)
theorem q_aaloadn {a : Nat} {i : Int32} {p : Option Nat → Prop} (hd : decode M.2.1 pc = .ok (.aaload, 1)) (q : zAn h a (.object "java/lang/Object") i p) (k : ∀ x, p x → zV l G d mc M Q (pc + 1) L (va_rf x :: S) h n) : zV l G d mc M Q pc L (.int i :: .ref a :: S) h n := by
  obtain ⟨x, h1, h2⟩ := q.e
  exact r_aaload hd (K := fun L S h n => zV l G d mc M Q (pc + 1) L S h n) (fun _ _ _ _ a => a) L _ h n (h1.imp fun N f e => ⟨e.1, by rw [e.2]; exact k x h2⟩)
theorem q_iastore {a : Nat} {i : Int32} {x : Int32} {p : zH → Prop} (hd : decode M.2.1 pc = .ok (.iastore, 1)) (q : zSt1 G h a .int i (.int x) p) (k : ∀ h1, p h1 → zV l G d mc M Q (pc + 1) L S h1 n) : zV l G d mc M Q pc L (.int x :: .int i :: .ref a :: S) h n := r_iastore hd (K := fun L S h n => zV l G d mc M Q (pc + 1) L S h n) (fun _ _ _ _ a => a) L _ h n (q.e k)
theorem q_bastore {a : Nat} {i : Int32} {x : Int32} {p : zH → Prop} (hd : decode M.2.1 pc = .ok (.bastore, 1)) (q : zSt1 G h a .byte i (narrow .byte (.int x)) p) (k : ∀ h1, p h1 → zV l G d mc M Q (pc + 1) L S h1 n) : zV l G d mc M Q pc L (.int x :: .int i :: .ref a :: S) h n := r_bastore hd (K := fun L S h n => zV l G d mc M Q (pc + 1) L S h n) (fun _ _ _ _ a => a) L _ h n (q.e k)
theorem q_castore {a : Nat} {i : Int32} {x : Int32} {p : zH → Prop} (hd : decode M.2.1 pc = .ok (.castore, 1)) (q : zSt1 G h a .char i (narrow .char (.int x)) p) (k : ∀ h1, p h1 → zV l G d mc M Q (pc + 1) L S h1 n) : zV l G d mc M Q pc L (.int x :: .int i :: .ref a :: S) h n := r_castore hd (K := fun L S h n => zV l G d mc M Q (pc + 1) L S h n) (fun _ _ _ _ a => a) L _ h n (q.e k)
theorem q_lastore {a : Nat} {i : Int32} {x : Int64} {p : zH → Prop} (hd : decode M.2.1 pc = .ok (.lastore, 1)) (q : zSt1 G h a .long i (.long x) p) (k : ∀ h1, p h1 → zV l G d mc M Q (pc + 1) L S h1 n) : zV l G d mc M Q pc L (.long x :: .int i :: .ref a :: S) h n := r_lastore hd (K := fun L S h n => zV l G d mc M Q (pc + 1) L S h n) (fun _ _ _ _ a => a) L _ h n (q.e k)
theorem q_dastore {a : Nat} {i : Int32} {x : UInt64} {p : zH → Prop} (hd : decode M.2.1 pc = .ok (.dastore, 1)) (q : zSt1 G h a .double i (.double x) p) (k : ∀ h1, p h1 → zV l G d mc M Q (pc + 1) L S h1 n) : zV l G d mc M Q pc L (.double x :: .int i :: .ref a :: S) h n := r_dastore hd (K := fun L S h n => zV l G d mc M Q (pc + 1) L S h n) (fun _ _ _ _ a => a) L _ h n (q.e k)
theorem q_aastore {a : Nat} {i : Int32} {x : Nat} {p : zH → Prop} (hd : decode M.2.1 pc = .ok (.aastore, 1)) (ho : ∃ ci fs, h x = some (.inr (ci, fs))) (q : zSt1 G h a (.object "java/lang/Object") i (.ref x) p) (k : ∀ h1, p h1 → zV l G d mc M Q (pc + 1) L S h1 n) : zV l G d mc M Q pc L (.ref x :: .int i :: .ref a :: S) h n := r_aastore hd (K := fun L S h n => zV l G d mc M Q (pc + 1) L S h n) (fun _ _ _ _ a => a) L _ h n ((q.e k).imp fun N f e => ⟨e.1, e.2.1, fun y hy => by cases hy; exact ho, e.2.2⟩)
theorem q_aastoreN {a : Nat} {i : Int32} {p : zH → Prop} (hd : decode M.2.1 pc = .ok (.aastore, 1)) (q : zSt1 G h a (.object "java/lang/Object") i .null p) (k : ∀ h1, p h1 → zV l G d mc M Q (pc + 1) L S h1 n) : zV l G d mc M Q pc L (.null :: .int i :: .ref a :: S) h n := r_aastore hd (K := fun L S h n => zV l G d mc M Q (pc + 1) L S h n) (fun _ _ _ _ a => a) L _ h n ((q.e k).imp fun N f e => ⟨e.1, e.2.1, fun y hy => absurd hy (by simp), e.2.2⟩)
theorem zAl.e {a : Nat} {p r : Nat → Prop} (q : zAl h a p) (k : ∀ N, p N → r N) : match h a with
    | some (.inl (_, N, _)) => r N
    | _ => False := by
  unfold zAl at q
  split at q
  · exact k _ q
  · exact q.elim
theorem q_alen {a : Nat} {p : Nat → Prop} (hd : decode M.2.1 pc = .ok (.arraylength, 1)) (q : zAl h a p) (k : ∀ N, p N → zV l G d mc M Q (pc + 1) L (.int (nI N) :: S) h n) : zV l G d mc M Q pc L (.ref a :: S) h n := r_alen hd (K := fun L S h n => zV l G d mc M Q (pc + 1) L S h n) (fun _ _ _ _ a => a) L _ h n (q.e k)
theorem q_new {idx ci N : Nat} {C0 : String} {T0 : u_T} {fs : List Value} (hd : decode M.2.1 pc = .ok (.new idx, 3)) (hq : zCL[ci]? = some (C0, T0, N)) (hcl : Cond.classLink M.1.cls idx C0 ∈ zTb) (hins : Cond.instantiable C0 N ∈ zTb) (hini : Cond.initialized C0 ∈ zTb) (hN : N ≤ 64) (hfl : fs.length = N) (hfs : ∀ j, j < N → defaultValue (zty ci j) = zFd fs j) (hn : n + 1 ≤ mc) (k : ∀ a, h a = none → zb G ≤ a → zV l G d mc M Q (pc + 3) L (.ref a :: S) (zUp h a (.inr (ci, fs))) (n + 1)) : zV l G d mc M Q pc L S h n := r_new hd hq hcl hins hini hN hfl hfs (fun _ _ _ _ a => a) L _ h n ⟨hn, k⟩
theorem q_newarray {at9 : ArrayType} {ty : FieldType} {dv : Value} {x : Int32} (hd : decode M.2.1 pc = .ok (.newarray at9, 2)) (hty : newarray.typeOf at9 = ty) (hdv : defaultValue ty = dv) (h5 : ty ∈ zA5) (hbytes : componentBytes ty ≤ 8) (h1 : ¬ x < 0 ∧ x.toNatClampNeg ≤ 65536 ∧ n + (x.toNatClampNeg / 64 + 1) ≤ mc) (k : ∀ a, h a = none → zb G ≤ a → zV l G d mc M Q (pc + 2) L (.ref a :: S) (zUp h a (.inl (ty, x.toNatClampNeg, fun _ => dv))) (n + (x.toNatClampNeg / 64 + 1))) : zV l G d mc M Q pc L (.int x :: S) h n := r_newarray hd hty hdv h5 hbytes (fun _ _ _ _ a => a) L _ h n ⟨h1.1, h1.2.1, h1.2.2, k⟩
theorem q_anew {idx : Nat} {x : Int32} (hd : decode M.2.1 pc = .ok (.anewarray idx, 3)) (hcl : Cond.classLink M.1.cls idx "java/lang/Object" ∈ zTb) (h1 : ¬ x < 0 ∧ x.toNatClampNeg ≤ 65536 ∧ n + (x.toNatClampNeg / 64 + 1) ≤ mc) (k : ∀ a, h a = none → zb G ≤ a → zV l G d mc M Q (pc + 3) L (.ref a :: S) (zUp h a (.inl (.object "java/lang/Object", x.toNatClampNeg, fun _ => .null))) (n + (x.toNatClampNeg / 64 + 1))) : zV l G d mc M Q pc L (.int x :: S) h n := r_anew hd hcl (fun _ _ _ _ a => a) L _ h n ⟨h1.1, h1.2.1, h1.2.2, k⟩
theorem q_cast {idx ci a : Nat} {q : vw_C} {nm : String} {p : Prop} (hd : decode M.2.1 pc = .ok (.checkcast idx, 3)) (hq9 : zCL[ci]? = some q) (hcl : Cond.classLink M.1.cls idx nm ∈ zTb) (hok : nm = q.1 ∨ Cond.castable q.1 nm ∈ zTb) (q1 : zOc h a ci p) (k : p → zV l G d mc M Q (pc + 3) L (.ref a :: S) h n) : zV l G d mc M Q pc L (.ref a :: S) h n := r_cast hd hq9 hcl hok (K := fun L S h n => zV l G d mc M Q (pc + 3) L S h n) (fun _ _ _ _ a => a) L _ h n (zOj.imp (zOc.e q1) fun _ e => k e)
theorem q_inst1 {idx ci a : Nat} {q : vw_C} {nm : String} {p : Prop} (hd : decode M.2.1 pc = .ok (.instanceof idx, 3)) (hq9 : zCL[ci]? = some q) (hcl : Cond.classLink M.1.cls idx nm ∈ zTb) (hok : nm = q.1 ∨ Cond.castable q.1 nm ∈ zTb) (q1 : zOc h a ci p) (k : p → zV l G d mc M Q (pc + 3) L (.int 1 :: S) h n) : zV l G d mc M Q pc L (.ref a :: S) h n := r_inst1 hd hq9 hcl hok (K := fun L S h n => zV l G d mc M Q (pc + 3) L S h n) (fun _ _ _ _ a => a) L _ h n (zOj.imp (zOc.e q1) fun _ e => k e)
theorem zAw.e {a : Nat} {ty : FieldType} {p r : Nat → (Nat → Value) → Prop} (q : zAw h a ty p) (k : ∀ N f, p N f → r N f) : zAr h a ty r := by
  unfold zAw at q
  split at q
  · next h1 =>
    obtain ⟨rfl, q⟩ := q
    exact zAr.mk h1 (k _ _ q)
  · exact q.elim
theorem q_castA {idx a : Nat} {ty : FieldType} {nm : String} {p : Prop} (hd : decode M.2.1 pc = .ok (.checkcast idx, 3)) (hty : (ty = .object "java/lang/Object" ∧ nm = "[Ljava/lang/Object;") ∨ (ty = .byte ∧ nm = "[B")) (hcl : Cond.classLink M.1.cls idx nm ∈ zTb) (q : zAw h a ty fun _ _ => p) (k : p → zV l G d mc M Q (pc + 3) L (.ref a :: S) h n) : zV l G d mc M Q pc L (.ref a :: S) h n := r_castA hd hty hcl (K := fun L S h n => zV l G d mc M Q (pc + 3) L S h n) (fun _ _ _ _ a => a) L _ h n (q.e fun _ _ => k)
theorem q_ireturn {ty : FieldType} {x : Int32} (hd : decode M.2.1 pc = .ok (.ireturn, 1)) (hr : M.2.2.2.1 = some ty) (hx : narrow ty (.int x) = .int x) (q : n ≤ mc ∧ Q (.inl (some (.int x))) h) : zV l G d mc M Q pc L [.int x] h n := r_ireturn hd hr L _ h n ⟨hx, q⟩
theorem q_areturn {ty : FieldType} {x : Nat} (hd : decode M.2.1 pc = .ok (.areturn, 1)) (hr : M.2.2.2.1 = some ty) (hty : (∃ n, ty = .object n) ∨ ∃ t, ty = .array t) (q : n ≤ mc ∧ Q (.inl (some (.ref x))) h) : zV l G d mc M Q pc L [.ref x] h n := r_areturn hd hr hty L _ h n q
theorem q_areturnN {ty : FieldType} (hd : decode M.2.1 pc = .ok (.areturn, 1)) (hr : M.2.2.2.1 = some ty) (hty : (∃ n, ty = .object n) ∨ ∃ t, ty = .array t) (q : n ≤ mc ∧ Q (.inl (some .null)) h) : zV l G d mc M Q pc L [.null] h n := r_areturn hd hr hty L _ h n q
theorem q_areturnO {ty : FieldType} {x : Option Nat} (hd : decode M.2.1 pc = .ok (.areturn, 1)) (hr : M.2.2.2.1 = some ty) (hty : (∃ n, ty = .object n) ∨ ∃ t, ty = .array t) (q : n ≤ mc ∧ Q (.inl (some (va_rf x))) h) : zV l G d mc M Q pc L [va_rf x] h n := r_areturn hd hr hty L _ h n (by cases x <;> exact q)
theorem q_return (hd : decode M.2.1 pc = .ok (.return_, 1)) (hr : M.2.2.2.1 = none) (q : n ≤ mc ∧ Q (.inl none) h) : zV l G d mc M Q pc L [] h n := r_return hd hr L _ h n q
theorem q_dreturn {x : UInt64} (hd : decode M.2.1 pc = .ok (.dreturn, 1)) (hr : M.2.2.2.1 = some .double) (q : n ≤ mc ∧ Q (.inl (some (.double x))) h) : zV l G d mc M Q pc L [.double x] h n := r_dreturn hd hr L _ h n q
theorem q_freturn {x : UInt32} (hd : decode M.2.1 pc = .ok (.freturn, 1)) (hr : M.2.2.2.1 = some .float) (q : n ≤ mc ∧ Q (.inl (some (.float x))) h) : zV l G d mc M Q pc L [.float x] h n := r_freturn hd hr L _ h n q
theorem zGo_I {w : Nat} {RX : String → zH → Nat → Prop} {p : Int32 → zH → Nat → Prop} (kx : ∀ E h n, RX E h n → zX l G d mc M Q pc L E h n) (k : ∀ x h n, p x h n → zV l G d mc M Q (pc + w) L (.int x :: S) h n) : ∀ r h n, zRI RX p r h n → zGo (zX l G d mc M Q pc) (fun L S h n => zV l G d mc M Q (pc + w) L S h n) L S r h n := fun r h n q => by
  unfold zRI at q
  split at q
  · exact k _ _ _ q
  · exact kx _ _ _ q
  · exact q.elim
theorem zGo_D {w : Nat} {RX : String → zH → Nat → Prop} {p : UInt64 → zH → Nat → Prop} (kx : ∀ E h n, RX E h n → zX l G d mc M Q pc L E h n) (k : ∀ x h n, p x h n → zV l G d mc M Q (pc + w) L (.double x :: S) h n) : ∀ r h n, zRD RX p r h n → zGo (zX l G d mc M Q pc) (fun L S h n => zV l G d mc M Q (pc + w) L S h n) L S r h n := fun r h n q => by
  unfold zRD at q
  split at q
  · exact k _ _ _ q
  · exact kx _ _ _ q
  · exact q.elim
theorem zGo_F {w : Nat} {RX : String → zH → Nat → Prop} {p : UInt32 → zH → Nat → Prop} (kx : ∀ E h n, RX E h n → zX l G d mc M Q pc L E h n) (k : ∀ x h n, p x h n → zV l G d mc M Q (pc + w) L (.float x :: S) h n) : ∀ r h n, zRF RX p r h n → zGo (zX l G d mc M Q pc) (fun L S h n => zV l G d mc M Q (pc + w) L S h n) L S r h n := fun r h n q => by
  unfold zRF at q
  split at q
  · exact k _ _ _ q
  · exact kx _ _ _ q
  · exact q.elim
theorem zGo_R {w : Nat} {RX : String → zH → Nat → Prop} {p : Nat → zH → Nat → Prop} (kx : ∀ E h n, RX E h n → zX l G d mc M Q pc L E h n) (k : ∀ x h n, p x h n → zV l G d mc M Q (pc + w) L (.ref x :: S) h n) : ∀ r h n, zRR RX p r h n → zGo (zX l G d mc M Q pc) (fun L S h n => zV l G d mc M Q (pc + w) L S h n) L S r h n := fun r h n q => by
  unfold zRR at q
  split at q
  · exact k _ _ _ q
  · exact kx _ _ _ q
  · exact q.elim
theorem zGo_N {w : Nat} {RX : String → zH → Nat → Prop} {p : Option Nat → zH → Nat → Prop} (kx : ∀ E h n, RX E h n → zX l G d mc M Q pc L E h n) (k : ∀ x h n, p x h n → zV l G d mc M Q (pc + w) L (va_rf x :: S) h n) : ∀ r h n, zRN RX p r h n → zGo (zX l G d mc M Q pc) (fun L S h n => zV l G d mc M Q (pc + w) L S h n) L S r h n := fun r h n q => by
  unfold zRN at q
  split at q
  · exact k _ _ _ q
  · exact k _ _ _ q
  · exact kx _ _ _ q
  · exact q.elim
theorem zGo_V {w : Nat} {RX : String → zH → Nat → Prop} {p : zH → Nat → Prop} (kx : ∀ E h n, RX E h n → zX l G d mc M Q pc L E h n) (k : ∀ h n, p h n → zV l G d mc M Q (pc + w) L S h n) : ∀ r h n, zRV RX p r h n → zGo (zX l G d mc M Q pc) (fun L S h n => zV l G d mc M Q (pc + w) L S h n) L S r h n := fun r h n q => by
  unfold zRV at q
  split at q
  · exact k _ _ q
  · exact kx _ _ _ q
  · exact q.elim
theorem zCall.mono {M' : zM} {As : List Value} {R R' : zRes → zH → Nat → Prop} (q : zCall l G d mc M' As h n R) (m : ∀ r h n, R r h n → R' r h n) : zCall l G d mc M' As h n R' := by
  obtain ⟨d', mc', Q', h1, h2, h3, h4⟩ := q
  exact ⟨d', mc', Q', h1, h2, h3, fun r h' hb hq => m _ _ _ (h4 r h' hb hq)⟩
theorem zTkr {As rest : List Value} {k : Nat} (hn : As.length = k) : k ≤ (As.reverse ++ rest).length ∧ ((As.reverse ++ rest).take k).reverse = As ∧ (As.reverse ++ rest).drop k = rest := by
  subst hn
  refine ⟨by simp, ?_, ?_⟩
  · rw [List.take_append_of_le_length (by simp), List.take_of_length_le (by simp), List.reverse_reverse]
  · rw [List.drop_append_of_le_length (by simp), List.drop_eq_nil_of_le (by simp), List.nil_append]
theorem q_invS {idx k : Nat} {M' : zM} (hd : decode M.2.1 pc = .ok (.invokestatic idx, 3)) (hM : zMk M') (hlk : zLk M.1.cls idx M'.1 ∨ zLkN M.1.cls idx M'.1 ∧ M'.2.2.2.2 = []) (hst : Cond.static M'.1 ∈ zTb) (hp : zPar M'.1 k) {As rest : List Value} {R : zRes → zH → Nat → Prop} (hS : S = As.reverse ++ rest) (hn : As.length = k) (hc : zcat rest ≤ 8) (q : zCall l G d mc M' As h n R) (g : ∀ r h n, R r h n → zGo (zX l G d mc M Q pc) (fun L S h n => zV l G d mc M Q (pc + 3) L S h n) L rest r h n) : zV l G d mc M Q pc L S h n := by
  subst hS
  obtain ⟨h1, h2, h3⟩ := zTkr (rest := rest) hn
  refine r_invS hd hM hlk hst hp (K := fun L S h n => zV l G d mc M Q (pc + 3) L S h n) (fun _ _ _ _ a => a) L _ h n ⟨h1, ?_, ?_⟩
  · rw [h3]; exact hc
  · rw [h2, h3]; exact q.mono g
theorem q_invV {idx ci k : Nat} {M' : zM} {q9 : vw_C} (hd : decode M.2.1 pc = .ok (.invokevirtual idx, 3)) (hM : zMk M') (hlk : zLk M.1.cls idx M'.1) (hin : Cond.instanceMethod M'.1 ∈ zTb) (hq9 : zCL[ci]? = some q9) (hse : Cond.selects q9.1 M'.1 M'.1 ∈ zTb) (hp : zPar M'.1 k) {b : Nat} {As rest : List Value} {R : zRes → zH → Nat → Prop} (hS : S = As.reverse ++ .ref b :: rest) (hn : As.length = k) (hc : zcat rest ≤ 8) (q : zOc h b ci (zCall l G d mc M' (.ref b :: As) h n R)) (g : ∀ r h n, R r h n → zGo (zX l G d mc M Q pc) (fun L S h n => zV l G d mc M Q (pc + 3) L S h n) L rest r h n) : zV l G d mc M Q pc L S h n := by
  subst hS
  obtain ⟨h1, h2, h3⟩ := zTkr (rest := .ref b :: rest) hn
  refine r_invV hd hM hlk hin hq9 hse hp (K := fun L S h n => zV l G d mc M Q (pc + 3) L S h n) (fun _ _ _ _ a => a) L _ h n ⟨h1, ?_⟩
  · show pR ((As.reverse ++ .ref b :: rest).drop k) _
    rw [h3]
    exact zOj.imp (zOc.e q) fun _ e => ⟨hc, by rw [h2]; exact e.mono g⟩
theorem q_invI {idx k : Nat} {y : MethodName} {cc : ByteArray} {mL : Nat} (hd : decode M.2.1 pc = .ok (.invokespecial idx, 3)) (hM : zMk (y, cc, mL, none, [])) (hnm : y.name = "<init>") (hlk : zLk M.1.cls idx y ∨ zLkN M.1.cls idx y) (hin : Cond.instanceMethod y ∈ zTb) (hp : zPar y k) {b : Nat} {As rest : List Value} {R : zRes → zH → Nat → Prop} (hS : S = As.reverse ++ .ref b :: rest) (hn : As.length = k) (hc : zcat rest ≤ 8) (q : zCall l G d mc (y, cc, mL, none, []) (.ref b :: As) h n R) (g : ∀ r h n, R r h n → zGo (zX l G d mc M Q pc) (fun L S h n => zV l G d mc M Q (pc + 3) L S h n) L rest r h n) : zV l G d mc M Q pc L S h n := by
  subst hS
  obtain ⟨h1, h2, h3⟩ := zTkr (rest := .ref b :: rest) hn
  refine r_invI hd hM hnm hlk hin hp (K := fun L S h n => zV l G d mc M Q (pc + 3) L S h n) (fun _ _ _ _ a => a) L _ h n ⟨h1, ?_⟩
  · show pR ((As.reverse ++ .ref b :: rest).drop k) _
    rw [h3]
    exact ⟨hc, by rw [h2]; exact q.mono g⟩
theorem q_invU {idx ci k : Nat} {owner : String} {x : MethodName} {y : MethodName} {cc : ByteArray} {mL : Nat} {ret : Option FieldType} {q9 : vw_C} (hd : decode M.2.1 pc = .ok (.invokevirtual idx, 3)) (hM : zMk (y, cc, mL, ret, [])) (hlk : zLk M.1.cls idx x) (hsm : Cond.sameMethod x.cls owner x.name x.desc ∈ zTb) (hde : Cond.declares ⟨owner, x.name, x.desc⟩ ∈ zTb ∨ ∃ b m r, Cond.instanceMethod ⟨owner, x.name, x.desc⟩ ∈ zTb ∧ Cond.code ⟨owner, x.name, x.desc⟩ b m r ∈ zTb) (hno : owner ≠ "java/lang/invoke/MethodHandle" ∧ owner ≠ "java/lang/invoke/VarHandle") (hin : Cond.instanceMethod y ∈ zTb) (hq9 : zCL[ci]? = some q9) (hse : Cond.selects q9.1 x y ∈ zTb) (hp : zPar x k) {b : Nat} {As rest : List Value} {R : zRes → zH → Nat → Prop} (hS : S = As.reverse ++ .ref b :: rest) (hn : As.length = k) (hc : zcat rest ≤ 8) (q : zOc h b ci (zCall l G d mc (y, cc, mL, ret, []) (.ref b :: As) h n R)) (g : ∀ r h n, R r h n → zGo (zX l G d mc M Q pc) (fun L S h n => zV l G d mc M Q (pc + 3) L S h n) L rest r h n) : zV l G d mc M Q pc L S h n := by
  subst hS
  obtain ⟨h1, h2, h3⟩ := zTkr (rest := .ref b :: rest) hn
  refine r_invU hd hM hlk hsm hde hno hin hq9 hse hp (K := fun L S h n => zV l G d mc M Q (pc + 3) L S h n) (fun _ _ _ _ a => a) L _ h n ⟨h1, ?_⟩
  · show pR ((As.reverse ++ .ref b :: rest).drop k) _
    rw [h3]
    exact zOj.imp (zOc.e q) fun _ e => ⟨hc, by rw [h2]; exact e.mono g⟩
theorem q_invSU {idx ci k : Nat} {y : MethodName} {cc : ByteArray} {mL : Nat} {ret : Option FieldType} {q9 : vw_C} (hd : decode M.2.1 pc = .ok (.invokespecial idx, 3)) (hM : zMk (y, cc, mL, ret, [])) (hlk : zLk M.1.cls idx y) (hsm : Cond.sameMethod y.cls y.cls y.name y.desc ∈ zTb) (hsu : Cond.superclass M.1.cls y.cls ∈ zTb) (hno : y.name ≠ "<init>") (hin : Cond.instanceMethod y ∈ zTb) (hq9 : zCL[ci]? = some q9) (hp : zPar y k) {b : Nat} {As rest : List Value} {R : zRes → zH → Nat → Prop} (hS : S = As.reverse ++ .ref b :: rest) (hn : As.length = k) (hc : zcat rest ≤ 8) (q : zOc h b ci (zCall l G d mc (y, cc, mL, ret, []) (.ref b :: As) h n R)) (g : ∀ r h n, R r h n → zGo (zX l G d mc M Q pc) (fun L S h n => zV l G d mc M Q (pc + 3) L S h n) L rest r h n) : zV l G d mc M Q pc L S h n := by
  subst hS
  obtain ⟨h1, h2, h3⟩ := zTkr (rest := .ref b :: rest) hn
  refine r_invSU hd hM hlk hsm hsu hno hin hq9 hp (K := fun L S h n => zV l G d mc M Q (pc + 3) L S h n) (fun _ _ _ _ a => a) L _ h n ⟨h1, ?_⟩
  · show pR ((As.reverse ++ .ref b :: rest).drop k) _
    rw [h3]
    exact zOj.imp (zOc.e q) fun _ e => ⟨hc, by rw [h2]; exact e.mono g⟩
theorem q_invF {idx count ci k : Nat} {x y : MethodName} {cc : ByteArray} {mL : Nat} {ret : Option FieldType} {q9 : vw_C} (hd : decode M.2.1 pc = .ok (.invokeinterface idx count, 5)) (hM : zMk (y, cc, mL, ret, [])) (hlk : zLk M.1.cls idx x) (hde : Cond.declares x ∈ zTb) (hfa : Cond.interfaceMethod x.cls x.cls x.name x.desc ∈ zTb ∧ zMv (Cond.interfaceMethod x.cls x.cls x.name x.desc) = true) (hin : Cond.instanceMethod y ∈ zTb) (hpu : Cond.publicMethod y ∈ zTb) (hq9 : zCL[ci]? = some q9) (hse : Cond.selects q9.1 x y ∈ zTb) (hun : Cond.unhidden q9.1 x.name x.desc ∈ zTb) (hca : Cond.castable q9.1 x.cls ∈ zTb) (hno : x.cls ≠ "java/lang/invoke/MethodHandle" ∧ x.cls ≠ "java/lang/invoke/VarHandle") (hp : zPar x k) {b : Nat} {As rest : List Value} {R : zRes → zH → Nat → Prop} (hS : S = As.reverse ++ .ref b :: rest) (hn : As.length = k) (hc : zcat rest ≤ 8) (q : zOc h b ci (zCall l G d mc (y, cc, mL, ret, []) (.ref b :: As) h n R)) (g : ∀ r h n, R r h n → zGo (zX l G d mc M Q pc) (fun L S h n => zV l G d mc M Q (pc + 5) L S h n) L rest r h n) : zV l G d mc M Q pc L S h n := by
  subst hS
  obtain ⟨h1, h2, h3⟩ := zTkr (rest := .ref b :: rest) hn
  refine r_invF hd hM hlk hde hfa hin hpu hq9 hse hun hca hno hp (K := fun L S h n => zV l G d mc M Q (pc + 5) L S h n) (fun _ _ _ _ a => a) L _ h n ⟨h1, ?_⟩
  · show pR ((As.reverse ++ .ref b :: rest).drop k) _
    rw [h3]
    exact zOj.imp (zOc.e q) fun _ e => ⟨hc, by rw [h2]; exact e.mono g⟩
theorem q_invFD {idx count ci k : Nat} {x y : MethodName} {cc : ByteArray} {mL : Nat} {ret : Option FieldType} {q9 : vw_C} (hd : decode M.2.1 pc = .ok (.invokeinterface idx count, 5)) (hM : zMk (y, cc, mL, ret, [])) (hlk : zLk M.1.cls idx x) (hde : Cond.declares x ∈ zTb) (hfa : Cond.interfaceMethod x.cls x.cls x.name x.desc ∈ zTb ∧ zMv (Cond.interfaceMethod x.cls x.cls x.name x.desc) = true) (hin : Cond.instanceMethod y ∈ zTb) (hpu : Cond.publicMethod y ∈ zTb) (hq9 : zCL[ci]? = some q9) (hse : (q9.1, x, y) ∈ zLD) (hca : Cond.castable q9.1 x.cls ∈ zTb) (hno : x.cls ≠ "java/lang/invoke/MethodHandle" ∧ x.cls ≠ "java/lang/invoke/VarHandle") (hp : zPar x k) {b : Nat} {As rest : List Value} {R : zRes → zH → Nat → Prop} (hS : S = As.reverse ++ .ref b :: rest) (hn : As.length = k) (hc : zcat rest ≤ 8) (q : zOc h b ci (zCall l G d mc (y, cc, mL, ret, []) (.ref b :: As) h n R)) (g : ∀ r h n, R r h n → zGo (zX l G d mc M Q pc) (fun L S h n => zV l G d mc M Q (pc + 5) L S h n) L rest r h n) : zV l G d mc M Q pc L S h n := by
  subst hS
  obtain ⟨h1, h2, h3⟩ := zTkr (rest := .ref b :: rest) hn
  refine r_invFD hd hM hlk hde hfa hin hpu hq9 hse hca hno hp (K := fun L S h n => zV l G d mc M Q (pc + 5) L S h n) (fun _ _ _ _ a => a) L _ h n ⟨h1, ?_⟩
  · show pR ((As.reverse ++ .ref b :: rest).drop k) _
    rw [h3]
    exact zOj.imp (zOc.e q) fun _ e => ⟨hc, by rw [h2]; exact e.mono g⟩
/-- a static's worth -/
def zSr (G : zG) (C n : String) (p : Nat → Prop) : Prop := match zZs G C n with
  | .ref a => p a
  | _ => False
def zSi (G : zG) (C n : String) (p : Int32 → Prop) : Prop := match zZs G C n with
  | .int a => p a
  | _ => False
theorem zSr.e {C n : String} {p : Nat → Prop} (q : zSr G C n p) : ∃ a, zZs G C n = .ref a ∧ p a := by
  unfold zSr at q
  split at q
  · next h1 => exact ⟨_, h1, q⟩
  · exact q.elim
theorem zSi.e {C n : String} {p : Int32 → Prop} (q : zSi G C n p) : ∃ a, zZs G C n = .int a ∧ p a := by
  unfold zSi at q
  split at q
  · next h1 => exact ⟨_, h1, q⟩
  · exact q.elim
theorem q_getsr {i : Nat} {C0 n0 d0 : String} {p : Nat → Prop} (hd : decode M.2.1 pc = .ok (.getstatic i, 3)) (hst : (C0, n0, d0) ∈ zST) (hw : Cond.fieldLink M.1.cls i C0 n0 d0 ∈ zTb ∨ ∃ host, Cond.fieldLinkNest M.1.cls i C0 n0 d0 host ∈ zTb) (q : zSr G C0 n0 p) (k : ∀ a, p a → zV l G d mc M Q (pc + 3) L (.ref a :: S) h n) : zV l G d mc M Q pc L S h n := by
  obtain ⟨a, h1, h2⟩ := q.e
  refine q_gets hd hst hw ?_
  rw [h1]; exact k a h2
theorem q_getsi {i : Nat} {C0 n0 d0 : String} {p : Int32 → Prop} (hd : decode M.2.1 pc = .ok (.getstatic i, 3)) (hst : (C0, n0, d0) ∈ zST) (hw : Cond.fieldLink M.1.cls i C0 n0 d0 ∈ zTb ∨ ∃ host, Cond.fieldLinkNest M.1.cls i C0 n0 d0 host ∈ zTb) (q : zSi G C0 n0 p) (k : ∀ a, p a → zV l G d mc M Q (pc + 3) L (.int a :: S) h n) : zV l G d mc M Q pc L S h n := by
  obtain ⟨a, h1, h2⟩ := q.e
  refine q_gets hd hst hw ?_
  rw [h1]; exact k a h2
theorem q_ldcmr {i : Nat} {p : Nat → Prop} (hd : decode M.2.1 pc = .ok (.ldc i, 2)) (hw : Cond.classLink M.1.cls i "[Ljava/lang/Object;" ∈ zTb) (q : zSr G "class" "[Ljava/lang/Object;" p) (k : ∀ a, p a → zV l G d mc M Q (pc + 2) L (.ref a :: S) h n) : zV l G d mc M Q pc L S h n := by
  obtain ⟨a, h1, h2⟩ := q.e
  refine q_ldcm hd hw ?_
  rw [h1]; exact k a h2
theorem q_ldcws {i : Nat} {tx : String} (hd : decode M.2.1 pc = .ok (.ldc_w i, 3)) (hw : (M.1.cls, i, tx) ∈ zSR) (k : zV l G d mc M Q (pc + 3) L (.ref (zSt G M.1.cls i) :: S) h n) : zV l G d mc M Q pc L S h n := r_ldcws hd hw (fun _ _ _ _ a => a) L S h n k
theorem zSwx.c {key : Int32} {t : Nat} {T : List (Int32 × Nat)} {dt : Nat} {x : Int32} {k : Nat → Prop} (a : x = key → k t) (b : ¬ x = key → zSwx T dt x k) : zSwx ((key, t) :: T) dt x k := ⟨a, b⟩
theorem zSwx.z {dt : Nat} {x : Int32} {k : Nat → Prop} (a : k dt) : zSwx [] dt x k := a
theorem q_tsw {dflt lo hi : Int} {offs : Array Int} {len : Nat} {T : List (Int32 × Nat)} {dt : Nat} {x : Int32} (hd : decode M.2.1 pc = .ok (.tableswitch dflt lo hi offs, len)) (h1 : (List.range offs.size).all (fun i => decide ((pc : Int) + offs.getD i 0 = (zSel T dt (Int32.ofInt (lo + i)) : Int))) = true) (h2 : ∀ q ∈ T, lo ≤ q.1.toInt ∧ q.1.toInt ≤ hi) (h3 : (pc : Int) + dflt = (dt : Int)) (h4 : hi - lo + 1 = offs.size) (k : zSwx T dt x fun t => zV l G d mc M Q t L S h n) : zV l G d mc M Q pc L (.int x :: S) h n := by
  refine r_tsw hd (fun i hi9 => ⟨offs.getD i 0, ?_, ?_⟩) h2 h3 h4 L _ h n k
  · rw [Array.getD_eq_getD_getElem?, Array.getElem?_eq_getElem hi9]; rfl
  · exact of_decide_eq_true (List.all_eq_true.mp h1 i (List.mem_range.mpr hi9))
theorem q_lsw {dflt : Int} {ps : Array (Int × Int)} {len : Nat} {T : List (Int32 × Nat)} {dt : Nat} {x : Int32} (hd : decode M.2.1 pc = .ok (.lookupswitch dflt ps, len)) (hp : (ps.toList.zip (ps.toList.drop 1)).all (fun (a, next) => a.1 < next.1) = true) (h3 : (pc : Int) + dflt = (dt : Int)) (hk : ∀ q ∈ ps.toList, (Int32.ofInt q.1).toInt = q.1) (hT : ps.toList.map (fun q => (Int32.ofInt q.1, ((pc : Int) + q.2).toNat)) = T) (h0 : ∀ q ∈ ps.toList, 0 ≤ (pc : Int) + q.2) (k : zSwx T dt x fun t => zV l G d mc M Q t L S h n) : zV l G d mc M Q pc L (.int x :: S) h n := r_lsw hd hp h3 hk hT h0 L _ h n k
theorem q_thr {E : String} {ik ic : Nat} {names : List String} (hth : zThr M.1.cls ik ic E names) (d0 : decode M.2.1 pc = .ok (.new ik, 3)) (d3 : decode M.2.1 (pc + 3) = .ok (.dup, 1)) (d4 : decode M.2.1 (pc + 4) = .ok (.invokespecial ic, 3)) (d7 : decode M.2.1 (pc + 7) = .ok (.athrow, 1)) (hout : ∀ x ∈ tableOf M.2.2.2.2, covers x (pc + 7) = false) (hc : zcat S ≤ 8) (q : 6 ≤ d ∧ n + 1 ≤ mc ∧ Q (.inr E) h) : zV l G d mc M Q pc L S h n := r_thr hth d0 d3 d4 d7 hout L S h n ⟨q.1, hc, q.2⟩
theorem q_obj {idx a : Nat} (hd : decode M.2.1 pc = .ok (.invokespecial idx, 3)) (hlk : zLk M.1.cls idx Lib.objectInit) (hin : Cond.instanceMethod Lib.objectInit ∈ zTb) (hco : Cond.code Lib.objectInit ⟨#[0xb1]⟩ 1 none ∈ zTb) (hc : zcat S ≤ 8) (h1 : 1 ≤ d) (k : zV l G d mc M Q (pc + 3) L S h n) : zV l G d mc M Q pc L (.ref a :: S) h n := r_obj hd hlk hin hco (fun _ _ _ _ a => a) L _ h n ⟨h1, hc, k⟩
theorem q_max {idx : Nat} {x y : Int32} (hd : decode M.2.1 pc = .ok (.invokestatic idx, 3)) (hlk : zLk M.1.cls idx Lib.Math.max.name) (hst : Cond.static Lib.Math.max.name ∈ zTb) (hin : Cond.initialized "java/lang/Math" ∈ zTb) (hco : Cond.code Lib.Math.max.name Lib.Math.max.code 2 (some .int) ∈ zTb) (hc : zcat S ≤ 8) (h1 : 1 ≤ d ∧ n ≤ mc) (k : zV l G d mc M Q (pc + 3) L (.int (if x < y then y else x) :: S) h n) : zV l G d mc M Q pc L (.int y :: .int x :: S) h n := r_max hd hlk hst hin hco (fun _ _ _ _ a => a) L _ h n ⟨h1.1, hc, h1.2, k⟩
theorem q_min {idx : Nat} {x y : Int32} (hd : decode M.2.1 pc = .ok (.invokestatic idx, 3)) (hlk : zLk M.1.cls idx Lib.Math.min.name) (hst : Cond.static Lib.Math.min.name ∈ zTb) (hin : Cond.initialized "java/lang/Math" ∈ zTb) (hco : Cond.code Lib.Math.min.name Lib.Math.min.code 2 (some .int) ∈ zTb) (hc : zcat S ≤ 8) (h1 : 1 ≤ d ∧ n ≤ mc) (k : zV l G d mc M Q (pc + 3) L (.int (if y < x then y else x) :: S) h n) : zV l G d mc M Q pc L (.int y :: .int x :: S) h n := r_min hd hlk hst hin hco (fun _ _ _ _ a => a) L _ h n ⟨h1.1, hc, h1.2, k⟩
theorem q_abs {idx : Nat} {x : Int32} (hd : decode M.2.1 pc = .ok (.invokestatic idx, 3)) (hlk : zLk M.1.cls idx Lib.Math.abs.name) (hst : Cond.static Lib.Math.abs.name ∈ zTb) (hin : Cond.initialized "java/lang/Math" ∈ zTb) (hco : Cond.code Lib.Math.abs.name Lib.Math.abs.code 1 (some .int) ∈ zTb) (hc : zcat S ≤ 8) (h1 : 1 ≤ d ∧ n ≤ mc) (k : zV l G d mc M Q (pc + 3) L (.int (if 0 ≤ x then x else 0 - x) :: S) h n) : zV l G d mc M Q pc L (.int x :: S) h n := r_abs hd hlk hst hin hco (fun _ _ _ _ a => a) L _ h n ⟨h1.1, hc, h1.2, k⟩
/-- System.arraycopy -/
def zCp (G : zG) (h : zH) (ty : FieldType) (a : Nat) (sp : Int32) (b : Nat) (dp n0 : Int32) (p : zH → Prop) : Prop := zAw h a ty fun N0 f => zAw h b ty fun N1 g => zb G ≤ b ∧ ¬ sp < 0 ∧ ¬ dp < 0 ∧ ¬ n0 < 0 ∧ sp.toNatClampNeg + n0.toNatClampNeg ≤ N0 ∧ dp.toNatClampNeg + n0.toNatClampNeg ≤ N1 ∧ (∀ i, i < n0.toNatClampNeg → zEl h ty (f (sp.toNatClampNeg + i))) ∧ ∀ h1, h1 = zUp h b (.inl (ty, N1, va_cpy f g sp.toNatClampNeg dp.toNatClampNeg n0.toNatClampNeg)) → p h1
theorem q_copy {idx : Nat} {ty : FieldType} (hd : decode M.2.1 pc = .ok (.invokestatic idx, 3)) (hlk : zLk M.1.cls idx arraycopyName) (hna : Cond.native arraycopyName ∈ zTb) (hst : Cond.static arraycopyName ∈ zTb) (hini : Cond.initialized "java/lang/System" ∈ zTb) {a b : Nat} {sp dp n0 : Int32} {p : zH → Prop} (hc : zcat S ≤ 8) (h1 : 1 ≤ d) (q : zCp G h ty a sp b dp n0 p) (k : ∀ h1, p h1 → zV l G d mc M Q (pc + 3) L S h1 n) : zV l G d mc M Q pc L (.int n0 :: .int dp :: .ref b :: .int sp :: .ref a :: S) h n := by
  refine r_copy (ty := ty) hd hlk hna hst hini (K := fun L S h n => zV l G d mc M Q (pc + 3) L S h n) (fun _ _ _ _ a => a) L _ h n ?_
  exact zAw.e q fun N0 f e => zAw.e e fun N1 g e => ⟨e.1, h1, hc, e.2.1, e.2.2.1, e.2.2.2.1, e.2.2.2.2.1, e.2.2.2.2.2.1, e.2.2.2.2.2.2.1, k _ (e.2.2.2.2.2.2.2 _ rfl)⟩
theorem q_clone {idx : Nat} (hd : decode M.2.1 pc = .ok (.invokevirtual idx, 3)) (hlk : zLk M.1.cls idx ⟨"[B", "clone", "()Ljava/lang/Object;"⟩) (hsm : Cond.sameMethod "[B" "java/lang/Object" "clone" "()Ljava/lang/Object;" ∈ zTb) (hna : Cond.native ⟨"java/lang/Object", "clone", "()Ljava/lang/Object;"⟩ ∈ zTb) (hin : Cond.instanceMethod ⟨"java/lang/Object", "clone", "()Ljava/lang/Object;"⟩ ∈ zTb) (hse : Cond.selects "[B" ⟨"[B", "clone", "()Ljava/lang/Object;"⟩ ⟨"java/lang/Object", "clone", "()Ljava/lang/Object;"⟩ ∈ zTb) (hca : Cond.castable "[B" "java/lang/Cloneable" ∈ zTb) {a : Nat} {p : Nat → zH → Nat → Prop} (hc : zcat S ≤ 8) (h1 : 1 ≤ d) (q : zAw h a .byte fun N f => n + (N / 64 + 1) ≤ mc ∧ (∀ i, i < N → fits .byte (f i) = true) ∧ ∀ b, h b = none → zb G ≤ b → p b (zUp h b (.inl (.byte, N, f))) (n + (N / 64 + 1))) (k : ∀ b h1 n1, p b h1 n1 → zV l G d mc M Q (pc + 3) L (.ref b :: S) h1 n1) : zV l G d mc M Q pc L (.ref a :: S) h n := by
  refine r_clone hd hlk hsm hna hin hse hca (K := fun L S h n => zV l G d mc M Q (pc + 3) L S h n) (fun _ _ _ _ a => a) L _ h n ?_
  exact zAw.e q fun N f e => ⟨h1, hc, e.1, e.2.1, fun b e1 e2 => k _ _ _ (e.2.2 b e1 e2)⟩
theorem q_getC {idx : Nat} (hd : decode M.2.1 pc = .ok (.invokevirtual idx, 3)) (hlk : zLk M.1.cls idx ⟨"java/lang/Object", "getClass", "()Ljava/lang/Class;"⟩) (hde : Cond.declares ⟨"java/lang/Object", "getClass", "()Ljava/lang/Class;"⟩ ∈ zTb) (hse : Cond.selects "[Ljava/lang/Object;" ⟨"java/lang/Object", "getClass", "()Ljava/lang/Class;"⟩ ⟨"java/lang/Object", "getClass", "()Ljava/lang/Class;"⟩ ∈ zTb) (hin : Cond.instanceMethod ⟨"java/lang/Object", "getClass", "()Ljava/lang/Class;"⟩ ∈ zTb) (hna : Cond.native ⟨"java/lang/Object", "getClass", "()Ljava/lang/Class;"⟩ ∈ zTb) {a : Nat} {p : Nat → Prop} (hc : zcat S ≤ 8) (h1 : 1 ≤ d) (q : zAw h a (.object "java/lang/Object") fun _ _ => zSr G "class" "[Ljava/lang/Object;" p) (k : ∀ b, p b → zV l G d mc M Q (pc + 3) L (.ref b :: S) h n) : zV l G d mc M Q pc L (.ref a :: S) h n := by
  refine r_getC hd hlk hde hse hin hna (K := fun L S h n => zV l G d mc M Q (pc + 3) L S h n) (fun _ _ _ _ a => a) L _ h n ?_
  refine ⟨h1, hc, zAw.e q fun N f e => ?_⟩
  obtain ⟨b, e1, e2⟩ := e.e
  rw [e1]; exact k b e2
theorem q_athr {E : String} {ci q : Nat} {T0 : u_T} (hE : zCL[ci]? = some (E, T0, 0)) (hd : decode M.2.1 pc = .ok (.athrow, 1)) (hx : zEx G h q ci) (k : zX l G d mc M Q pc L E h n) : zV l G d mc M Q pc L (.ref q :: S) h n := r_athr hE hd L _ h n ⟨hx, k⟩
end ZQ
