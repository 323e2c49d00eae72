/-! a static that holds a reference or null -/
def zSn (G : zG) (C n : String) (p : Option Nat → Prop) : Prop := match zZs G C n with
  | .ref a => p (some a)
  | .null => p none
  | _ => False
theorem zSn.k {G : zG} {C n : String} {a : Option Nat} {p : Option Nat → Prop} (e : zZs G C n = va_rf a) (q : p a) : zSn G C n p := by
  cases a <;> simp only [zSn, e, va_rf] <;> exact q
theorem q_getsn {l : Launch} {G : zG} {d mc : Nat} {M : zM} {Q : zRes → zH → Prop} {pc : Nat} {L : List (Option Value)} {S : List Value} {h : zH} {n : Nat} {i : Nat} {C0 n0 d0 : String} {p : Option Nat → Prop} (hd : decode M.2.1 pc = .ok (.getstatic i, 3)) (hst : (C0, n0, d0) ∈ zST) (hw : Cond.fieldLink M.1.cls i C0 n0 d0 ∈ zTb ∨ ∃ host, Cond.fieldLinkNest M.1.cls i C0 n0 d0 host ∈ zTb) (q : zSn G C0 n0 p) (k : ∀ a, p a → zV l G d mc M Q (pc + 3) L (va_rf a :: S) h n) : zV l G d mc M Q pc L S h n := by
  refine q_gets hd hst hw ?_
  unfold zSn at q
  split at q
  · next h1 => rw [h1]; exact k (some _) q
  · next h1 => rw [h1]; exact k none q
  · exact q.elim
