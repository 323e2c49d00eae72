/-! switches, calls, exceptions -/
theorem zWd.grow {G : zG} {h : zH} {H H1 : Heap} (hW : zWd G h H) (z : H.size ≤ H1.size) (oq : ∀ q : Nat, q < H.size → H1[q]? = H[q]?) : zWd G h H1 := by
  obtain ⟨h1, h2, h3, h4⟩ := hW
  exact ⟨by omega, fun b hb => by rw [oq b (by omega)]; exact h2 b hb, h3, fun b ob hob => (h4 b ob hob).kept (oq b (h4 b ob hob).lt)⟩
def zcat (S : List Value) : Nat := (S.map fun v => v.category).sum
/-- a call that ends as R takes it -/
def zCall (l : Launch) (G : zG) (d mc : Nat) (M' : zM) (As : List Value) (h : zH) (n : Nat) (R : zRes → zH → Nat → Prop) : Prop :=
  ∃ (d' mc' : Nat) (Q' : zRes → zH → Prop), d' + 1 ≤ d ∧ n + mc' ≤ mc ∧ zCt l G d' M' As h mc' Q' ∧ ∀ r h', (∀ a, a < zb G → h' a = zh0 G a) → Q' r h' → R r h' (n + mc')
theorem zCall.of {l : Launch} {G : zG} {d mc d' mc' : Nat} {M' : zM} {As : List Value} {h : zH} {n : Nat} {Q' : zRes → zH → Prop} {R : zRes → zH → Nat → Prop} (ct : zCt l G d' M' As h mc' Q') (hd : d' + 1 ≤ d) (hm : n + mc' ≤ mc) (k : ∀ r h', (∀ a, a < zb G → h' a = zh0 G a) → Q' r h' → R r h' (n + mc')) : zCall l G d mc M' As h n R := ⟨d', mc', Q', hd, hm, ct, k⟩
def zGo (VX : List (Option Value) → String → zH → Nat → Prop) (K : zK) (L : List (Option Value)) (rest : List Value) (r : zRes) (h : zH) (n : Nat) : Prop := match r with
  | .inl v => K L (v.toList ++ rest) h n
  | .inr E => VX L E h n
section ZP
variable {l : Launch} {G : zG} {d mc : Nat} {M : zM} {Q : zRes → zH → Prop} {pc : Nat} {K K2 : zK}
/-! switches -/
def zSel : List (Int32 × Nat) → Nat → Int32 → Nat
  | [], dt, _ => dt
  | (k, t) :: T, dt, x => if x = k then t else zSel T dt x
def zSwx : List (Int32 × Nat) → Nat → Int32 → (Nat → Prop) → Prop
  | [], dt, _, k => k dt
  | (key, t) :: T, dt, x, k => (x = key → k t) ∧ (¬ x = key → zSwx T dt x k)
theorem zSwx.e : ∀ {T : List (Int32 × Nat)} {dt : Nat} {x : Int32} {k : Nat → Prop}, zSwx T dt x k → k (zSel T dt x)
  | [], _, _, _, h => h
  | (key, t) :: T, dt, x, k, h => by
    simp only [zSel]
    by_cases hx : x = key
    · rw [if_pos hx]; exact h.1 hx
    · rw [if_neg hx]; exact zSwx.e (h.2 hx)
def iSwt (T : List (Int32 × Nat)) (dt : Nat) : zK := fun L S h n => pI S fun x r => zSwx T dt x fun t => zV l G d mc M Q t L r h n
theorem zSel_out : ∀ {T : List (Int32 × Nat)} {dt : Nat} {x : Int32}, (∀ q ∈ T, ¬ x = q.1) → zSel T dt x = dt
  | [], _, _, _ => rfl
  | (key, t) :: T, dt, x, h => by
    simp only [zSel]
    rw [if_neg (h (key, t) List.mem_cons_self)]
    exact zSel_out fun q hq => h q (List.mem_cons_of_mem _ hq)
theorem zInt_of (x : Int32) : Int32.ofInt x.toInt = x := by simp
theorem r_tsw {dflt lo hi : Int} {offs : Array Int} {len : Nat} {T : List (Int32 × Nat)} {dt : Nat} (hd : decode M.2.1 pc = .ok (.tableswitch dflt lo hi offs, len))
    (h1 : ∀ i, i < offs.size → ∃ off, offs[i]? = some off ∧ (pc : Int) + off = (zSel T dt (Int32.ofInt (lo + i)) : Int)) (h2 : ∀ q ∈ T, lo ≤ q.1.toInt ∧ q.1.toInt ≤ hi) (h3 : (pc : Int) + dflt = (dt : Int)) (h4 : hi - lo + 1 = offs.size) :
    ∀ L S h n, iSwt (l := l) (G := G) (d := d) (mc := mc) (M := M) (Q := Q) T dt L S h n → zV l G d mc M Q pc L S h n := by
  intro L S h n a
  obtain ⟨x, r, rfl, a1⟩ := pI.e a
  have a2 := zSwx.e a1
  intro p e s m args below meth c H locs ls C hl hW hs hq
  by_cases hin : x.toInt < lo ∨ hi < x.toInt
  · have e1 : zSel T dt x = dt := zSel_out fun q hq e => by
      have := h2 q hq
      rw [← e] at this
      omega
    rw [e1] at a2
    exact lv_tableOut C.hx C.hb hd hin h3 (a2 p e s m args below meth c H locs ls C hl hW hs hq)
  · have hi9 : (x.toInt - lo).toNat < offs.size := by omega
    obtain ⟨off, ho, ht⟩ := h1 _ hi9
    have e1 : lo + ((x.toInt - lo).toNat : Int) = x.toInt := by omega
    rw [e1, zInt_of] at ht
    exact lv_tableIn C.hx C.hb hd (fun z => hin (Or.inl z)) (fun z => hin (Or.inr z)) ho ht (a2 p e s m args below meth c H locs ls C hl hW hs hq)
theorem zOff : ∀ {ps : List (Int × Int)} {T : List (Int32 × Nat)} {dflt : Int} {dt : Nat} {x : Int32}, (pc : Int) + dflt = (dt : Int) → (∀ q ∈ ps, (Int32.ofInt q.1).toInt = q.1) → ps.map (fun q => (Int32.ofInt q.1, ((pc : Int) + q.2).toNat)) = T → (∀ q ∈ ps, 0 ≤ (pc : Int) + q.2) → (pc : Int) + Op.lookupswitch.offset ps dflt x.toInt = (zSel T dt x : Int)
  | [], T, dflt, dt, x, h3, _, hT, _ => by
    subst hT
    simp only [Op.lookupswitch.offset, List.map_nil, zSel]
    exact h3
  | (k, o) :: ps, T, dflt, dt, x, h3, hk, hT, h0 => by
    subst hT
    have ih := zOff (x := x) h3 (fun q hq => hk q (List.mem_cons_of_mem _ hq)) rfl (fun q hq => h0 q (List.mem_cons_of_mem _ hq))
    have hk1 := hk (k, o) List.mem_cons_self
    have h01 := h0 (k, o) List.mem_cons_self
    simp only [List.map_cons, zSel]
    by_cases hx : x = Int32.ofInt k
    · have e1 : k = x.toInt := by rw [hx]; exact hk1.symm
      rw [if_pos hx]
      simp only [Op.lookupswitch.offset, e1, if_true]
      omega
    · have e1 : ¬ k = x.toInt := fun e => hx (by rw [e, zInt_of])
      rw [if_neg hx]
      simp only [Op.lookupswitch.offset, e1, if_false]
      exact ih
theorem r_lsw {dflt : Int} {ps : Array (Int × Int)} {len : Nat} {T : List (Int32 × Nat)} {dt : Nat} (hd : decode M.2.1 pc = .ok (.lookupswitch dflt ps, len)) (hp : (ps.toList.zip (ps.toList.drop 1)).all (fun (a, next) => a.1 < next.1) = true)
    (h3 : (pc : Int) + dflt = (dt : Int)) (hk : ∀ q ∈ ps.toList, (Int32.ofInt q.1).toInt = q.1) (hT : ps.toList.map (fun q => (Int32.ofInt q.1, ((pc : Int) + q.2).toNat)) = T) (h0 : ∀ q ∈ ps.toList, 0 ≤ (pc : Int) + q.2) :
    ∀ L S h n, iSwt (l := l) (G := G) (d := d) (mc := mc) (M := M) (Q := Q) T dt L S h n → zV l G d mc M Q pc L S h n := by
  intro L S h n a
  obtain ⟨x, r, rfl, a1⟩ := pI.e a
  have a2 := zSwx.e a1
  intro p e s m args below meth c H locs ls C hl hW hs hq
  exact lv_lookup C.hx C.hb hd hp rfl (zOff h3 hk hT h0) (a2 p e s m args below meth c H locs ls C hl hW hs hq)
/-! calls -/
theorem zPre.blind {h : zH} {As : List Value} : FrameBlind (va_Pc As (zPre G h)) := fun a U g mk q => ⟨q.1, q.2.1.warm (s := U) (U := U.calling g mk a) (State.WarmedH.refl U), q.2.2⟩
theorem zPre.at {h : zH} {As : List Value} {H : Heap} {s : State} (hK : zKn G s) (hW : zWd G h H) : ∀ U : State, U.heap = H → s.WarmedH U.vm → va_Pc As (zPre G h) As.toArray U := fun U hU hw => ⟨rfl, hK.warm hw, by rw [hU]; exact hW⟩
theorem zCw_warm (M' : zM) {s : State} {args : Array Value} (h : (zCw M').before args s = true) : ∀ w ∈ [zCw M'], ∀ (a' : Array Value) (U : State), s.WarmedH U.vm → w.before a' U = true := by
  intro w hw a' U hU
  rw [List.mem_singleton.mp hw]
  refine word_at hU (Or.inl ?_) h
  unfold zCw
  split <;> rfl
theorem zCw_mv (M' : zM) : zMv (zCw M') = true := by
  unfold zCw
  split <;> rfl
variable {p : Program} {e : Env} {s : State} {m : MethodId} {args : Array Value} {below : List Frame} {meth : Method} {c : Code} {H : Heap} {locs : List Loc} {ls : Array Slot} {L : List (Option Value)} {h : zH} {n : Nat}
theorem zRun_fin {mc' : Nat} {Q' : zRes → zH → Prop} {st0 rest : List Value} {a : Array Value} (hr : vx_Run p l e (zR d mc) s m args below meth c H locs n (64 * n) mc' (64 * mc') (F0 m pc ls st0) rest (zQC G Q' a) (zXC G Q') (fun q => zb G ≤ q))
    (C : zC l G d mc M p s m meth c) (hl : zLs ls M.2.2.1 L) (hs : s.heap.size ≤ H.size) (hq : ∀ q ∈ locs, zb G ≤ q.base)
    (k1 : ∀ v h', (∀ a, a < zb G → h' a = zh0 G a) → Q' (.inl v) h' → zV l G d mc M Q (pc + 3) L (v.toList ++ rest) h' (n + mc')) (k2 : ∀ E h', (∀ a, a < zb G → h' a = zh0 G a) → Q' (.inr E) h' → zX l G d mc M Q pc L E h' (n + mc')) :
    W p l e (zR d mc) s m args below meth c H locs n (64 * n) (vx_MQ below (zQC G Q) (zXC G Q) args s mc (64 * mc) (fun q => zb G ≤ q)) (F0 m pc ls st0) := by
  intro T hT X
  have hlocs : ∀ Lc : List Loc, (∀ q ∈ Lc, zb G ≤ q.base) → ∀ q ∈ locs ++ Lc, zb G ≤ q.base := fun Lc h1 q h2 => (List.mem_append.mp h2).elim (hq q) (h1 q)
  rcases hr T hT X with ⟨v, st₀, t, T', Lc, h0, X', hL, e1, e2, ⟨v9, h', ev, hQ, hW', hz⟩, st⟩ | ⟨q, st₀, t, T', Lc, E, ce, h0, X', hL, e1, e2, ⟨h', hQ, hW', hz⟩, hce, hcv, hcl, st⟩
  · cases ev
    rw [← Nat.mul_add] at X'
    obtain ⟨t2, a1, b1⟩ := k1 v h' hW'.2.2.1 hQ p e s m args below meth c T'.heap (locs ++ Lc) ls C hl (by rw [e1]; exact hW') (by rw [e1]; rw [h0] at hz; omega) (hlocs Lc hL) T' rfl X'
    exact ⟨t2, st t2 a1, b1⟩
  · rw [← Nat.mul_add] at X'
    obtain ⟨t2, a1, b1⟩ := k2 E h' hW'.2.2.1 hQ p e s m args below meth c T'.heap (locs ++ Lc) ls rest q ce C hl (by rw [e1]; exact hW') (by rw [e1]; rw [h0] at hz; omega) (hlocs Lc hL) (by rw [e1]; exact hce) hcv hcl T' rfl X'
    exact ⟨t2, st.trans a1, b1⟩
theorem zRun_fin5 {mc' : Nat} {Q' : zRes → zH → Prop} {st0 rest : List Value} {a : Array Value} (hr : vx_Run5 p l e (zR d mc) s m args below meth c H locs n (64 * n) mc' (64 * mc') (F0 m pc ls st0) rest (zQC G Q' a) (zXC G Q') (fun q => zb G ≤ q))
    (C : zC l G d mc M p s m meth c) (hl : zLs ls M.2.2.1 L) (hs : s.heap.size ≤ H.size) (hq : ∀ q ∈ locs, zb G ≤ q.base)
    (k1 : ∀ v h', (∀ a, a < zb G → h' a = zh0 G a) → Q' (.inl v) h' → zV l G d mc M Q (pc + 5) L (v.toList ++ rest) h' (n + mc')) (k2 : ∀ E h', (∀ a, a < zb G → h' a = zh0 G a) → Q' (.inr E) h' → zX l G d mc M Q pc L E h' (n + mc')) :
    W p l e (zR d mc) s m args below meth c H locs n (64 * n) (vx_MQ below (zQC G Q) (zXC G Q) args s mc (64 * mc) (fun q => zb G ≤ q)) (F0 m pc ls st0) := by
  intro T hT X
  have hlocs : ∀ Lc : List Loc, (∀ q ∈ Lc, zb G ≤ q.base) → ∀ q ∈ locs ++ Lc, zb G ≤ q.base := fun Lc h1 q h2 => (List.mem_append.mp h2).elim (hq q) (h1 q)
  rcases hr T hT X with ⟨v, st₀, t, T', Lc, h0, X', hL, e1, e2, ⟨v9, h', ev, hQ, hW', hz⟩, st⟩ | ⟨q, st₀, t, T', Lc, E, ce, h0, X', hL, e1, e2, ⟨h', hQ, hW', hz⟩, hce, hcv, hcl, st⟩
  · cases ev
    rw [← Nat.mul_add] at X'
    obtain ⟨t2, a1, b1⟩ := k1 v h' hW'.2.2.1 hQ p e s m args below meth c T'.heap (locs ++ Lc) ls C hl (by rw [e1]; exact hW') (by rw [e1]; rw [h0] at hz; omega) (hlocs Lc hL) T' rfl X'
    exact ⟨t2, st t2 a1, b1⟩
  · rw [← Nat.mul_add] at X'
    obtain ⟨t2, a1, b1⟩ := k2 E h' hW'.2.2.1 hQ p e s m args below meth c T'.heap (locs ++ Lc) ls rest q ce C hl (by rw [e1]; exact hW') (by rw [e1]; rw [h0] at hz; omega) (hlocs Lc hL) (by rw [e1]; exact hce) hcv hcl T' rfl X'
    exact ⟨t2, st.trans a1, b1⟩
/-- a static call: k arguments -/
def iInvS (M' : zM) (k : Nat) (VX : List (Option Value) → String → zH → Nat → Prop) (K : zK) : zK := fun L S h n => k ≤ S.length ∧ zcat (S.drop k) ≤ 8 ∧ zCall l G d mc M' (S.take k).reverse h n (zGo VX K L (S.drop k))
/-- an instance call: k arguments above the receiver, an object of class ci -/
def iInvV (ci : Nat) (M' : zM) (k : Nat) (VX : List (Option Value) → String → zH → Nat → Prop) (K : zK) : zK := fun L S h n => k ≤ S.length ∧ pR (S.drop k) fun b rest => zOj h b ci fun _ => zcat rest ≤ 8 ∧ zCall l G d mc M' (.ref b :: (S.take k).reverse) h n (zGo VX K L rest)
/-- a constructor's call (or another whose receiver's class isn't asked) -/
def iInvI (M' : zM) (k : Nat) (VX : List (Option Value) → String → zH → Nat → Prop) (K : zK) : zK := fun L S h n => k ≤ S.length ∧ pR (S.drop k) fun b rest => zcat rest ≤ 8 ∧ zCall l G d mc M' (.ref b :: (S.take k).reverse) h n (zGo VX K L rest)
def zPar (y : MethodName) (k : Nat) : Prop := (parseMethodDescriptor y.desc).map (fun d => d.parameters.length) = some k
theorem zPar.sig {y : MethodName} {k : Nat} (h : zPar y k) : ∀ sig, parseMethodDescriptor y.desc = some sig → k = sig.parameters.length := fun sig hs => by
  unfold zPar at h
  rw [hs] at h
  exact (Option.some.inj h).symm
def zLk (own : String) (idx : Nat) (y : MethodName) : Prop := Cond.methodLink own idx y ∈ zTb
def zLkN (own : String) (idx : Nat) (y : MethodName) : Prop := ∃ host, Cond.methodLinkNest own idx y host ∈ zTb
theorem zRev (S : List Value) (k : Nat) : S = (S.take k).reverse.reverse ++ S.drop k := by rw [List.reverse_reverse, List.take_append_drop]
theorem zRevR {S rest : List Value} {k b : Nat} (h : S.drop k = .ref b :: rest) : S = (S.take k).reverse.reverse ++ .ref b :: rest := by rw [List.reverse_reverse, ← h, List.take_append_drop]
theorem zTkl {S : List Value} {k : Nat} (h : k ≤ S.length) : (S.take k).reverse.length = k := by rw [List.length_reverse, List.length_take]; omega
theorem r_invS {idx k : Nat} {M' : zM} (hd : decode M.2.1 pc = .ok (.invokestatic idx, 3)) (hM : zMk M') (hlk : zLk M.1.cls idx M'.1 ∨ zLkN M.1.cls idx M'.1 ∧ M'.2.2.2.2 = []) (hst : Cond.static M'.1 ∈ zTb) (hp : zPar M'.1 k)
    (kk : ∀ L S h n, K L S h n → zV l G d mc M Q (pc + 3) L S h n) : ∀ L S h n, iInvS (l := l) (G := G) (d := d) (mc := mc) M' k (zX l G d mc M Q pc) K L S h n → zV l G d mc M Q pc L S h n := by
  intro L S h n ⟨hk, hc, d', mc', Q', hd', hm', hct, hR⟩
  intro p e s m args below meth c H locs ls C hl hW hs hq
  have hcw : (zCw M').before args s = true := C.kn.w hM.1 (zCw_mv M')
  have hini : (Cond.initialized M'.1.cls).before args s = true := hM.ini C.kn
  have hs9 : (Cond.static M'.1).before args s = true := C.kn.w hst rfl
  have hR1 : (zR d' mc').frames + 1 ≤ (zR d mc).frames := hd'
  have hR2 : 8 + (M'.2.2.1 + 11) + (zR d' mc').locals ≤ (zR d mc).locals := by
    have := hM.2.2.2.1
    show 8 + (M'.2.2.1 + 11) + 64 * d' ≤ 64 * d
    omega
  have hf : n + mc' ≤ (zR d mc).cells ∧ 64 * n + 64 * mc' ≤ (zR d mc).slots := ⟨hm', by show 64 * n + 64 * mc' ≤ 64 * mc; omega⟩
  have hW9 : 2 * (F0 m pc ls S).monitorRoom + ((S.drop k).map fun v => v.category).sum ≤ 8 := lv_room hc
  have hpre : PreS s H (va_Pc (S.take k).reverse (zPre G h)) (S.take k).reverse := ⟨zPre.blind, zPre.at C.kn hW⟩
  refine zRun_fin (rest := S.drop k) (a := (S.take k).reverse.toArray) (mc' := mc') (Q' := Q') ?_ C hl hs hq (fun v h' hb hQ => kk _ _ _ _ (hR (.inl v) h' hb hQ)) (fun E h' hb hQ => hR (.inr E) h' hb hQ)
  obtain ⟨y, cc, mL, ret, hh⟩ := M'
  cases hh with
  | nil =>
    rcases hlk with hlk | ⟨⟨host, hlk⟩, -⟩
    · exact vx_runS (nL := M.2.2.1) (n := k) (Ts := []) (own := M.1.cls) ⟨C.hx, C.hb, C.ml, C.own, fun w h => nomatch h⟩ hct ⟨⟨rfl, rfl, hR1, hR2, zCw_warm _ hcw, List.mem_cons_self, hcw, hini, hM.2.2.2.2, hp.sig, C.kn.w hlk rfl⟩, hs9⟩ hpre rfl (zTkl hk) hl.1 (zRev S k) hW9 hd hf
    · exact vx_runSN (nL := M.2.2.1) (n := k) (Ts := []) (own := M.1.cls) (host := host) ⟨C.hx, C.hb, C.ml, C.own, fun w h => nomatch h⟩ hct ⟨⟨⟨rfl, rfl, hR1, hR2, zCw_warm _ hcw, List.mem_cons_self⟩, hcw, hini, hM.2.2.2.2, hp.sig, C.kn.w hlk rfl⟩, hs9, trivial⟩ hpre rfl (zTkl hk) hl.1 (zRev S k) hW9 hd hf
  | cons x t =>
    rcases hlk with hlk | ⟨-, h0⟩
    · exact vx_runSX (nL := M.2.2.1) (n := k) (Ts := []) (own := M.1.cls) (hh := x :: t) ⟨C.hx, C.hb, C.ml, C.own, fun w h => nomatch h⟩ hct ⟨⟨rfl, rfl, hR1, hR2, zCw_warm _ hcw, List.mem_cons_self⟩, hcw, hini, hM.2.2.2.2, hp.sig, C.kn.w hlk rfl, hs9⟩ hpre rfl (zTkl hk) hl.1 (zRev S k) hW9 hd hf
    · cases h0
theorem r_invV {idx ci k : Nat} {M' : zM} {q9 : vw_C} (hd : decode M.2.1 pc = .ok (.invokevirtual idx, 3)) (hM : zMk M') (hlk : zLk M.1.cls idx M'.1) (hin : Cond.instanceMethod M'.1 ∈ zTb) (hq9 : zCL[ci]? = some q9) (hse : Cond.selects q9.1 M'.1 M'.1 ∈ zTb) (hp : zPar M'.1 k)
    (kk : ∀ L S h n, K L S h n → zV l G d mc M Q (pc + 3) L S h n) : ∀ L S h n, iInvV (l := l) (G := G) (d := d) (mc := mc) ci M' k (zX l G d mc M Q pc) K L S h n → zV l G d mc M Q pc L S h n := by
  intro L S h n ⟨hk, a1⟩
  obtain ⟨b, rest, hSr, a2⟩ := pR.e a1
  obtain ⟨fs, hb9, hc, d', mc', Q', hd', hm', hct, hR⟩ := zOj.e a2
  intro p e s m args below meth c H locs ls C hl hW hs hq
  have hcw : (zCw M').before args s = true := C.kn.w hM.1 (zCw_mv M')
  have hini : (Cond.initialized M'.1.cls).before args s = true := hM.ini C.kn
  have hi9 : (Cond.instanceMethod M'.1).before args s = true := C.kn.w hin rfl
  have hs9 : (Cond.selects q9.1 M'.1 M'.1).before args s = true := C.kn.w hse rfl
  have hR1 : (zR d' mc').frames + 1 ≤ (zR d mc).frames := hd'
  have hR2 : 8 + (M'.2.2.1 + 11) + (zR d' mc').locals ≤ (zR d mc).locals := by
    have := hM.2.2.2.1
    show 8 + (M'.2.2.1 + 11) + 64 * d' ≤ 64 * d
    omega
  have hf : n + mc' ≤ (zR d mc).cells ∧ 64 * n + 64 * mc' ≤ (zR d mc).slots := ⟨hm', by show 64 * n + 64 * mc' ≤ 64 * mc; omega⟩
  have hW9 : 2 * (F0 m pc ls S).monitorRoom + (rest.map fun v => v.category).sum ≤ 8 := lv_room hc
  have hpre : PreV s H q9.1 b (va_Pc (.ref b :: (S.take k).reverse) (zPre G h)) (S.take k).reverse := ⟨zPre.blind, zobj C.kn hW hb9 hq9, zPre.at C.kn hW⟩
  refine zRun_fin (rest := rest) (a := (.ref b :: (S.take k).reverse : List Value).toArray) (mc' := mc') (Q' := Q') ?_ C hl hs hq (fun v h' hb hQ => kk _ _ _ _ (hR (.inl v) h' hb hQ)) (fun E h' hb hQ => hR (.inr E) h' hb hQ)
  obtain ⟨y, cc, mL, ret, hh⟩ := M'
  cases hh with
  | nil => exact vx_runV (nL := M.2.2.1) (n := k) (Ts := []) (own := M.1.cls) ⟨C.hx, C.hb, C.ml, C.own, fun w h => nomatch h⟩ hct ⟨⟨rfl, rfl, hR1, hR2, zCw_warm _ hcw, List.mem_cons_self, hcw, hini, hM.2.2.2.2, hp.sig, C.kn.w hlk rfl⟩, hi9, hs9⟩ hpre rfl (zTkl hk) hl.1 (zRevR hSr) hW9 hd hf
  | cons x t => exact vx_runVX (nL := M.2.2.1) (n := k) (Ts := []) (own := M.1.cls) (hh := x :: t) ⟨C.hx, C.hb, C.ml, C.own, fun w h => nomatch h⟩ hct ⟨⟨rfl, rfl, hR1, hR2, zCw_warm _ hcw, List.mem_cons_self⟩, hcw, hini, hM.2.2.2.2, hp.sig, C.kn.w hlk rfl, hi9, hs9⟩ hpre rfl (zTkl hk) hl.1 (zRevR hSr) hW9 hd hf
end ZP
