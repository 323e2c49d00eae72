/-! calls that land in an interface's default; Math -/
section ZD
variable {p : Program} {l : Launch} {e : Env} {R : Room} {s : State} {m : MethodId} {args : Array Value} {below : List Frame} {meth : Method} {c : Code} {H : Heap} {locs : List Loc} {cells slots : Nat}
theorem zcallID {T : State} (X : Stand p l e R s m args below meth c T locs cells slots) (hexec : p.tables.exec = Jvm.exec) {own C : String} {index count : Nat} {x y : MethodName}
    (hown : s.vm.findClass own = some m.cls) (hlink : (Cond.methodLink own index x).before args s = true) (hdecl : (Cond.declares x).before args s = true) (hface : (Cond.interfaceMethod x.cls x.cls x.name x.desc).before args s = true)
    (hsel : (Cond.landsInDefault C x y).before args s = true) (hinst : (Cond.instanceMethod y).before args s = true) (hpub : (Cond.publicMethod y).before args s = true)
    (hcast : (Cond.castable C x.cls).before args s = true) (hx : x.cls ≠ "java/lang/invoke/MethodHandle" ∧ x.cls ≠ "java/lang/invoke/VarHandle")
    {W9 : Nat} {Pre : Pt → Array Value → Prop} {Post : Pt → Array Value → Option Value → Pt → Prop} {PostX : Pt → Array Value → Addr → Pt → Prop} (hK : vx_Back l R p e below s args y 5 W9 Pre Post PostX)
    {b : Addr} {cellB : Cell} {kB : Class} (hcell : T.heap[b]? = some cellB) (hobj : cellB.vm.isStatics = false) (hcls : s.vm.findClass C = some cellB.cls) (hkB : s.vm.classes[cellB.cls]? = some kB)
    {g : JFrame} (hg : g.method = m) (hsize : g.locals.size = c.maxLocals) {argsL rest : List Value} (hlen : ∀ sig, parseMethodDescriptor x.desc = some sig → argsL.length = sig.parameters.length)
    (hstack : g.stack = argsL.reverse ++ .ref b :: rest) (hW : 2 * g.monitorRoom + (rest.map fun v => v.category).sum ≤ W9) (hdg : decode c.code g.pc = .ok (.invokeinterface index count, 5))
    (hpre : ∀ vm₁, s.WarmedH vm₁ → Pre ⟨T.setVm vm₁, locs, cells, slots⟩ (Value.ref b :: argsL).toArray) :
    (∃ (v : Option Value) (vm₁ : Vm) (B : Pt), s.WarmedH vm₁ ∧ Stand p l e R s m args below meth c B.U B.locs B.cells B.slots ∧ Post ⟨T.setVm vm₁, locs, cells, slots⟩ (Value.ref b :: argsL).toArray v B ∧
      ∀ target, Steps p.tables e below (B.U.setTop { g with pc := g.pc + 5, stack := v.toList ++ rest }) target → Steps p.tables e below (T.setTop g) target) ∨
    (∃ (q : Addr) (vm₁ : Vm) (B : Pt), s.WarmedH vm₁ ∧ Stand p l e R s m args below meth c B.U B.locs B.cells B.slots ∧ PostX ⟨T.setVm vm₁, locs, cells, slots⟩ (Value.ref b :: argsL).toArray q B ∧
      Steps p.tables e below (T.setTop g) ((B.U.setTop { g with stack := rest }).pushFrame (.throwing q))) := by
  obtain ⟨r0, r, hn, hrm, hstR, hsigR⟩ := Cond.declares_spec hdecl
  obtain ⟨cL, kL, r1, hcL, hkL, hiL, hfoundL, hn1⟩ := Cond.interfaceMethod_spec hface
  cases hn.symm.trans hn1
  have hr0cls : r0.cls = cL := Option.some.inj ((findClass_of_methodNamed hn).symm.trans hcL)
  obtain ⟨hnameR, hdescR⟩ := name_of_methodNamed hn hrm
  obtain ⟨mk, methM, hnamed, hmethM, -, habM⟩ := Cond.instanceMethod_spec hinst
  obtain ⟨c2, r2, m2, rm, q1, q2, q3, q5, q4, -, q6, -⟩ := Cond.landsInDefault_spec hsel
  cases hcls.symm.trans q1
  cases hfoundL.symm.trans q2
  cases hnamed.symm.trans q3
  cases hrm.symm.trans q5
  have hselP : selectMethod e.platform s.vm cellB.cls r0 = .method mk := by rw [Launch.admits_selectMethod X.admits]; exact q4
  have hpubM : hasFlag methM.accessFlags Acc.public_ = true := Cond.publicMethod_spec hnamed hmethM hpub
  obtain ⟨c3, t3, w1, w2, w3⟩ := Cond.castable_spec hcast
  cases hcls.symm.trans w1
  cases hcL.symm.trans w2
  obtain ⟨vm₁, X₁, hstep₁⟩ := X.invokeinterface hexec hown hlink hn hrm hstR (by rw [hr0cls]; exact hkL) hiL hx (a := b) (cell := cellB) (kcell := kB) hcell
    (fun z h => by rw [h] at hobj; cases hobj) hkB (by rw [hr0cls]; exact w3) hselP hmethM q6 hpubM habM (g := g) hg (argsL := argsL) (rest := rest) (hlen _ hsigR) hstack hdg
  rcases hK m meth c ⟨T.setVm vm₁, locs, cells, slots⟩ { g with stack := rest } (.invokeinterface index count) mk (Value.ref b :: argsL).toArray X₁ hg hsize hdg hW (X₁.named hnamed) (hpre vm₁ X₁.warmed) with ⟨v, B, X', hpost, hsteps⟩ | ⟨q, B, X', hpost, hsteps⟩
  · exact Or.inl ⟨v, vm₁, B, X₁.warmed, X', hpost, fun target h => hstep₁ _ fun acts => by rw [doInvoke_state]; exact hsteps.trans h⟩
  · exact Or.inr ⟨q, vm₁, B, X₁.warmed, X', hpost, hstep₁ _ fun acts => by rw [doInvoke_state]; exact hsteps⟩
end ZD
section ZD2
variable {l : Launch} {G : zG} {d mc : Nat} {M : zM} {Q : zRes → zH → Prop} {pc : Nat} {K : zK}
/-- a call by an interface's method x that lands in the interface's default y -/
theorem r_invFD {idx count ci k : Nat} {x y : MethodName} {cc : ByteArray} {mL : Nat} {ret : Option FieldType} {q9 : vw_C} (hd : decode M.2.1 pc = .ok (.invokeinterface idx count, 5)) (hM : zMk (y, cc, mL, ret, [])) (hlk : zLk M.1.cls idx x) (hde : Cond.declares x ∈ zTb) (hfa : Cond.interfaceMethod x.cls x.cls x.name x.desc ∈ zTb ∧ zMv (Cond.interfaceMethod x.cls x.cls x.name x.desc) = true) (hin : Cond.instanceMethod y ∈ zTb) (hpu : Cond.publicMethod y ∈ zTb) (hq9 : zCL[ci]? = some q9) (hse : (q9.1, x, y) ∈ zLD) (hca : Cond.castable q9.1 x.cls ∈ zTb) (hno : x.cls ≠ "java/lang/invoke/MethodHandle" ∧ x.cls ≠ "java/lang/invoke/VarHandle") (hp : zPar x k)
    (kk : ∀ L S h n, K L S h n → zV l G d mc M Q (pc + 5) L S h n) : ∀ L S h n, iInvV (l := l) (G := G) (d := d) (mc := mc) ci (y, cc, mL, ret, []) k (zX l G d mc M Q pc) K L S h n → zV l G d mc M Q pc L S h n := by
  intro L S h n ⟨hk, a1⟩
  obtain ⟨b, rest, hSr, a2⟩ := pR.e a1
  obtain ⟨fs, hb9, hc, d', mc', Q', hd', hm', hct, hR⟩ := zOj.e a2
  intro p e s m args below meth c H locs ls C hl hW hs hq
  have hcw : (Cond.code y cc mL ret).before args s = true := C.kn.w hM.1 rfl
  have hini : (Cond.initialized y.cls).before args s = true := hM.ini C.kn
  have hi9 : (Cond.instanceMethod y).before args s = true := C.kn.w hin rfl
  have hR1 : (zR d' mc').frames + 1 ≤ (zR d mc).frames := hd'
  have hR2 : 8 + (mL + 11) + (zR d' mc').locals ≤ (zR d mc).locals := by
    have : mL ≤ 45 := hM.2.2.2.1
    show 8 + (mL + 11) + 64 * d' ≤ 64 * d
    omega
  have hf : n + mc' ≤ (zR d mc).cells ∧ 64 * n + 64 * mc' ≤ (zR d mc).slots := ⟨hm', by show 64 * n + 64 * mc' ≤ 64 * mc; omega⟩
  have hW9 : 2 * (F0 m pc ls S).monitorRoom + (rest.map fun v => v.category).sum ≤ 8 := lv_room hc
  obtain ⟨cellB, hcB, hoB, hclB⟩ := zobj C.kn hW hb9 hq9
  obtain ⟨hfc, kB, hkB, -⟩ := (C.kn.2.1 ci _ hq9).2
  have hlm : (Cond.landsInDefault q9.1 x y).before args s = true := by
    have h0 := C.kn.2.2.2.2.2.2.2.2.2.2 _ hse
    exact h0
  have hK : vx_Back l (zR d mc) p e below s args y 5 8 (PreOf (zR d mc) mc' (64 * mc') (va_Pc (.ref b :: (S.take k).reverse) (zPre G h))) (PostOf (zQC G Q') mc' (64 * mc') (fun q => zb G ≤ q)) (vx_Post (zXC G Q') mc' (64 * mc') (fun q => zb G ≤ q)) :=
    vx_back (bytes := cc) (maxL := mL) (ret := ret) hct zPre.blind rfl rfl hR1 hR2 (zCw_warm (y, cc, mL, ret, []) hcw) List.mem_cons_self (fun a' U hW => word_at hW (Or.inl (by first | rfl | simp [Cond.onTables, Cond.keeps, Cond.steady])) hini)
  refine zRun_fin5 (rest := rest) (a := (.ref b :: (S.take k).reverse : List Value).toArray) (mc' := mc') (Q' := Q') ?_ C hl hs hq (fun v h' hb hQ => kk _ _ _ _ (hR (.inl v) h' hb hQ)) (fun E h' hb hQ => hR (.inr E) h' hb hQ)
  rw [Option.some.inj (hfc.symm.trans hclB)] at hkB
  intro T hT X
  rcases zcallID X C.hx (C := q9.1) C.own (C.kn.w hlk rfl) (C.kn.w hde rfl) (C.kn.w hfa.1 hfa.2) hlm hi9 (C.kn.w hpu rfl) (C.kn.w hca rfl) hno hK (by rw [hT]; exact hcB) hoB hclB hkB (g := F0 m pc ls S) rfl (hl.1.trans C.ml.symm) (argsL := (S.take k).reverse) (rest := rest) (fun sig h => (zTkl hk).trans (hp.sig sig h)) (zRevR hSr) hW9 (by rw [C.hb]; exact hd)
    (fun vm₁ hW₁ => ⟨hf.1, hf.2, zPre.at C.kn hW (T.setVm vm₁) hT hW₁⟩) with ⟨v, vm₁, ⟨U', l2, c2, s2⟩, hW₁, X', ⟨g', mk, t, L, e1, e2, hq, h1, hL, h2, h3⟩, st⟩ | ⟨q, vm₁, ⟨U', l2, c2, s2⟩, hW₁, X', ⟨g', mk, t, L, E, ce, e1, e2, hq, hce, hcv, hcl, h1, hL, h2, h3⟩, st⟩
  · dsimp only [Pt.U, Pt.locs, Pt.cells, Pt.slots] at X' e1 e2 h1 h2 h3 st
    subst h1; subst h2; subst h3
    exact Or.inl ⟨v, (T.setVm vm₁).calling g' mk (Value.ref b :: (S.take k).reverse).toArray, t, U', L, hT, X', hL, e1, e2, hq, st⟩
  · dsimp only [Pt.U, Pt.locs, Pt.cells, Pt.slots] at X' e1 e2 h1 h2 h3 st hcl
    subst h1; subst h2; subst h3
    exact Or.inr ⟨q, (T.setVm vm₁).calling g' mk (Value.ref b :: (S.take k).reverse).toArray, t, U', L, E, ce, hT, X', hL, e1, e2, hq, hce, hcv, vx_cls hW₁ hcl, st⟩
/-- Math.max, min, abs -/
def iMath (f : Int32 → Int32 → Int32) (K : zK) : zK := fun L S h n => pI S fun y r => pI r fun x r => 1 ≤ d ∧ zcat r ≤ 8 ∧ n ≤ mc ∧ K L (.int (f x y) :: r) h n
def iAbs (K : zK) : zK := fun L S h n => pI S fun x r => 1 ≤ d ∧ zcat r ≤ 8 ∧ n ≤ mc ∧ K L (.int (if 0 ≤ x then x else 0 - x) :: r) h n
theorem zmathR {n : Nat} (hd : 1 ≤ d) (hn : n ≤ mc) {r : List Value} (hc : zcat r ≤ 8) : 1 ≤ (zR d mc).frames ∧ (r.map fun v => v.category).sum + 13 ≤ (zR d mc).locals ∧ n ≤ (zR d mc).cells ∧ 64 * n ≤ (zR d mc).slots :=
  ⟨hd, by have : (r.map fun v => v.category).sum ≤ 8 := hc
          show _ + 13 ≤ 64 * d
          omega, hn, Nat.mul_le_mul_left 64 hn⟩
theorem r_max {idx : Nat} (hd : decode M.2.1 pc = .ok (.invokestatic idx, 3)) (hlk : zLk M.1.cls idx Lib.Math.max.name) (hst : Cond.static Lib.Math.max.name ∈ zTb) (hin : Cond.initialized "java/lang/Math" ∈ zTb) (hco : Cond.code Lib.Math.max.name Lib.Math.max.code 2 (some .int) ∈ zTb)
    (kk : ∀ L S h n, K L S h n → zV l G d mc M Q (pc + 3) L S h n) : ∀ L S h n, iMath (d := d) (mc := mc) (fun x y => if x < y then y else x) K L S h n → zV l G d mc M Q pc L S h n := by
  intro L S h n a
  obtain ⟨y, r, rfl, a1⟩ := pI.e a
  obtain ⟨x, r, rfl, h1, h2, h3, a2⟩ := pI.e a1
  intro p e s m args below meth c H locs ls C hl hW hs hq
  obtain ⟨b1, b2, b3, b4⟩ := zmathR (d := d) (mc := mc) h1 h3 h2
  exact va_mmax C.hx C.hb (C.ml.trans hl.1.symm) C.own (C.kn.w hlk rfl) (C.kn.w hst rfl) (C.kn.w hin rfl) (C.kn.w hco rfl) b1 b2 b3 b4 hd (kk _ _ _ _ a2 p e s m args below meth c H locs ls C hl hW hs hq)
theorem r_min {idx : Nat} (hd : decode M.2.1 pc = .ok (.invokestatic idx, 3)) (hlk : zLk M.1.cls idx Lib.Math.min.name) (hst : Cond.static Lib.Math.min.name ∈ zTb) (hin : Cond.initialized "java/lang/Math" ∈ zTb) (hco : Cond.code Lib.Math.min.name Lib.Math.min.code 2 (some .int) ∈ zTb)
    (kk : ∀ L S h n, K L S h n → zV l G d mc M Q (pc + 3) L S h n) : ∀ L S h n, iMath (d := d) (mc := mc) (fun x y => if y < x then y else x) K L S h n → zV l G d mc M Q pc L S h n := by
  intro L S h n a
  obtain ⟨y, r, rfl, a1⟩ := pI.e a
  obtain ⟨x, r, rfl, h1, h2, h3, a2⟩ := pI.e a1
  intro p e s m args below meth c H locs ls C hl hW hs hq
  obtain ⟨b1, b2, b3, b4⟩ := zmathR (d := d) (mc := mc) h1 h3 h2
  exact va_mmin C.hx C.hb (C.ml.trans hl.1.symm) C.own (C.kn.w hlk rfl) (C.kn.w hst rfl) (C.kn.w hin rfl) (C.kn.w hco rfl) b1 b2 b3 b4 hd (kk _ _ _ _ a2 p e s m args below meth c H locs ls C hl hW hs hq)
theorem r_abs {idx : Nat} (hd : decode M.2.1 pc = .ok (.invokestatic idx, 3)) (hlk : zLk M.1.cls idx Lib.Math.abs.name) (hst : Cond.static Lib.Math.abs.name ∈ zTb) (hin : Cond.initialized "java/lang/Math" ∈ zTb) (hco : Cond.code Lib.Math.abs.name Lib.Math.abs.code 1 (some .int) ∈ zTb)
    (kk : ∀ L S h n, K L S h n → zV l G d mc M Q (pc + 3) L S h n) : ∀ L S h n, iAbs (d := d) (mc := mc) K L S h n → zV l G d mc M Q pc L S h n := by
  intro L S h n a
  obtain ⟨x, r, rfl, h1, h2, h3, a2⟩ := pI.e a
  intro p e s m args below meth c H locs ls C hl hW hs hq
  obtain ⟨b1, b2, b3, b4⟩ := zmathR (d := d) (mc := mc) h1 h3 h2
  exact va_mabs C.hx C.hb (C.ml.trans hl.1.symm) C.own (C.kn.w hlk rfl) (C.kn.w hst rfl) (C.kn.w hin rfl) (C.kn.w hco rfl) b1 b2 b3 b4 hd (kk _ _ _ _ a2 p e s m args below meth c H locs ls C hl hW hs hq)
end ZD2
section ZLW
variable {p : Program} {l : Launch} {e : Env} {R : Room} {s : State} {m : MethodId} {args : Array Value} {below : List Frame} {meth : Method} {c : Code} {H : Heap} {locs : List Loc} {cells slots : Nat} {Q : State → Prop}
theorem zldcWS {T : State} (X : Stand p l e R s m args below meth c T locs cells slots) (hexec : p.tables.exec = Jvm.exec) {own text : String} {index : Nat} {a : Addr} (hown : s.vm.findClass own = some m.cls)
    (hconst : (Cond.stringRef own index text).before args s = true) (hev : (Term.string own index).eval args s none [] s = some (.ref a)) {g : JFrame} (hg : g.method = m) (hdg : decode c.code g.pc = .ok (.ldc_w index, 3)) :
    ∀ target, Steps p.tables e below (T.setTop { g with pc := g.pc + 3, stack := .ref a :: g.stack }) target → Steps p.tables e below (T.setTop g) target := by
  obtain ⟨k, cf, i, a', hk, hcf, hcp, -, hr, hev'⟩ := Cond.stringRef_spec hown hconst
  cases hev.symm.trans hev'
  obtain ⟨k', hk', he⟩ := X.warmed.alike.2.2 _ _ hk
  have hr' : k'.resolved[index]? = some (some (.string a)) := by
    rcases X.warmed.entry hk hk' index with h | ⟨h, -⟩
    · rw [h]; exact hr
    · rw [hr] at h; cases h
  intro target hrest
  subst hg
  jvm_step X.here [hexec, hdg, ldc_w.wp_string (e := e) (s := T) (f := g) X.here.top hk' (by rw [he]; exact hcf) hcp hr']
  exact hrest
theorem zldcW {cc : ByteArray} {pc : Nat} {ls : Array Slot} {rest : List Value} (hexec : p.tables.exec = Jvm.exec) (hb : c.code = cc) {own tx : String} {index q : Nat} (hown : s.vm.findClass own = some m.cls) (hZ : vk_R own index tx q s) (hdg : decode cc pc = .ok (.ldc_w index, 3))
    (k : W p l e R s m args below meth c H locs cells slots Q (F0 m (pc + 3) ls (.ref q :: rest))) : W p l e R s m args below meth c H locs cells slots Q (F0 m pc ls rest) := by
  intro T hT X
  obtain ⟨t, a1, b1⟩ := k T hT X
  exact ⟨t, zldcWS X hexec hown (text := tx) (a := q) hZ.1 hZ.2 (g := F0 m pc ls rest) rfl (by rw [hb]; exact hdg) t a1, b1⟩
end ZLW
theorem r_ldcws {l : Launch} {G : zG} {d mc : Nat} {M : zM} {Q : zRes → zH → Prop} {pc : Nat} {K : zK} {i : Nat} {tx : String} (hd : decode M.2.1 pc = .ok (.ldc_w i, 3)) (hw : (M.1.cls, i, tx) ∈ zSR) (k : ∀ L S h n, K L S h n → zV l G d mc M Q (pc + 3) L S h n) : ∀ L S h n, iCst (.ref (zSt G M.1.cls i)) K L S h n → zV l G d mc M Q pc L S h n := by
  intro L S h n a
  intro p e s m args below meth c H locs ls C hl hW hs hq
  exact zldcW C.hx C.hb C.own (C.kn.2.2.2.2.2.2.1 _ hw) hd (k _ _ _ _ a p e s m args below meth c H locs ls C hl hW hs hq)
