/-! constructors, calls of inherited, super's and interface methods; Object.<init>; arraycopy; getClass; exceptions -/
section ZQ
variable {l : Launch} {G : zG} {d mc : Nat} {M : zM} {Q : zRes → zH → Prop} {pc : Nat} {K K2 : zK}
theorem r_invI {idx k : Nat} {y : MethodName} {cc : ByteArray} {mL : Nat} (hd : decode M.2.1 pc = .ok (.invokespecial idx, 3)) (hM : zMk (y, cc, mL, none, [])) (hnm : y.name = "<init>") (hlk : zLk M.1.cls idx y ∨ zLkN M.1.cls idx y) (hin : Cond.instanceMethod y ∈ zTb) (hp : zPar y k)
    (kk : ∀ L S h n, K L S h n → zV l G d mc M Q (pc + 3) L S h n) : ∀ L S h n, iInvI (l := l) (G := G) (d := d) (mc := mc) (y, cc, mL, none, []) k (zX l G d mc M Q pc) K L S h n → zV l G d mc M Q pc L S h n := by
  intro L S h n ⟨hk, a1⟩
  obtain ⟨b, rest, hSr, hc, d', mc', Q', hd', hm', hct, hR⟩ := pR.e a1
  intro p e s m args below meth c H locs ls C hl hW hs hq
  have hcw : (Cond.code y cc mL none).before args s = true := C.kn.w hM.1 rfl
  have hini : (Cond.initialized y.cls).before args s = true := hM.ini C.kn
  have hi9 : (Cond.instanceMethod y).before args s = true := C.kn.w hin rfl
  have hR1 : (zR d' mc').frames + 1 ≤ (zR d mc).frames := hd'
  have hR2 : 8 + (mL + 11) + (zR d' mc').locals ≤ (zR d mc).locals := by
    have : mL ≤ 45 := hM.2.2.2.1
    show 8 + (mL + 11) + 64 * d' ≤ 64 * d
    omega
  have hf : n + mc' ≤ (zR d mc).cells ∧ 64 * n + 64 * mc' ≤ (zR d mc).slots := ⟨hm', by show 64 * n + 64 * mc' ≤ 64 * mc; omega⟩
  have hW9 : 2 * (F0 m pc ls S).monitorRoom + (rest.map fun v => v.category).sum ≤ 8 := lv_room hc
  have hpre : PreS s H (va_Pc (.ref b :: (S.take k).reverse) (zPre G h)) (.ref b :: (S.take k).reverse) := ⟨zPre.blind, zPre.at C.kn hW⟩
  refine zRun_fin (rest := rest) (a := (.ref b :: (S.take k).reverse : List Value).toArray) (mc' := mc') (Q' := Q') ?_ C hl hs hq (fun v h' hb hQ => kk _ _ _ _ (hR (.inl v) h' hb hQ)) (fun E h' hb hQ => hR (.inr E) h' hb hQ)
  rcases hlk with hlk | ⟨host, hlk⟩
  · exact vx_runI (nL := M.2.2.1) (n := k) (Ts := []) (own := M.1.cls) ⟨C.hx, C.hb, C.ml, C.own, fun w h => nomatch h⟩ hct ⟨⟨rfl, rfl, hR1, hR2, zCw_warm (y, cc, mL, none, []) hcw, List.mem_cons_self, hcw, hini, hM.2.2.2.2, hp.sig, C.kn.w hlk rfl⟩, hnm, hi9⟩ hpre rfl (zTkl hk) hl.1 (zRevR hSr) hW9 hd hf
  · exact vx_runIN (nL := M.2.2.1) (n := k) (Ts := []) (own := M.1.cls) (host := host) ⟨C.hx, C.hb, C.ml, C.own, fun w h => nomatch h⟩ hct ⟨⟨⟨rfl, rfl, hR1, hR2, zCw_warm (y, cc, mL, none, []) hcw, List.mem_cons_self⟩, hcw, hini, hM.2.2.2.2, hp.sig, C.kn.w hlk rfl⟩, hnm, hi9⟩ hpre rfl (zTkl hk) hl.1 (zRevR hSr) hW9 hd hf
/-- a method that the receiver's class has from above, or whose name is linked above -/
theorem r_invU {idx ci k : Nat} {owner : String} {x : MethodName} {y : MethodName} {cc : ByteArray} {mL : Nat} {ret : Option FieldType} {q9 : vw_C} (hd : decode M.2.1 pc = .ok (.invokevirtual idx, 3)) (hM : zMk (y, cc, mL, ret, [])) (hlk : zLk M.1.cls idx x) (hsm : Cond.sameMethod x.cls owner x.name x.desc ∈ zTb) (hde : Cond.declares ⟨owner, x.name, x.desc⟩ ∈ zTb ∨ ∃ b m r, Cond.instanceMethod ⟨owner, x.name, x.desc⟩ ∈ zTb ∧ Cond.code ⟨owner, x.name, x.desc⟩ b m r ∈ zTb) (hno : owner ≠ "java/lang/invoke/MethodHandle" ∧ owner ≠ "java/lang/invoke/VarHandle") (hin : Cond.instanceMethod y ∈ zTb) (hq9 : zCL[ci]? = some q9) (hse : Cond.selects q9.1 x y ∈ zTb) (hp : zPar x k)
    (kk : ∀ L S h n, K L S h n → zV l G d mc M Q (pc + 3) L S h n) : ∀ L S h n, iInvV (l := l) (G := G) (d := d) (mc := mc) ci (y, cc, mL, ret, []) k (zX l G d mc M Q pc) K L S h n → zV l G d mc M Q pc L S h n := by
  intro L S h n ⟨hk, a1⟩
  obtain ⟨b, rest, hSr, a2⟩ := pR.e a1
  obtain ⟨fs, hb9, hc, d', mc', Q', hd', hm', hct, hR⟩ := zOj.e a2
  intro p e s m args below meth c H locs ls C hl hW hs hq
  have hcw : (Cond.code y cc mL ret).before args s = true := C.kn.w hM.1 rfl
  have hini : (Cond.initialized y.cls).before args s = true := hM.ini C.kn
  have hi9 : (Cond.instanceMethod y).before args s = true := C.kn.w hin rfl
  have hR1 : (zR d' mc').frames + 1 ≤ (zR d mc).frames := hd'
  have hR2 : 8 + (mL + 11) + (zR d' mc').locals ≤ (zR d mc).locals := by
    have : mL ≤ 45 := hM.2.2.2.1
    show 8 + (mL + 11) + 64 * d' ≤ 64 * d
    omega
  have hf : n + mc' ≤ (zR d mc).cells ∧ 64 * n + 64 * mc' ≤ (zR d mc).slots := ⟨hm', by show 64 * n + 64 * mc' ≤ 64 * mc; omega⟩
  have hW9 : 2 * (F0 m pc ls S).monitorRoom + (rest.map fun v => v.category).sum ≤ 8 := lv_room hc
  have hpre : PreV s H q9.1 b (va_Pc (.ref b :: (S.take k).reverse) (zPre G h)) (S.take k).reverse := ⟨zPre.blind, zobj C.kn hW hb9 hq9, zPre.at C.kn hW⟩
  have hdecl : va_Decl s ⟨owner, x.name, x.desc⟩ := by
    rcases hde with hde | ⟨b1, m1, r1, h1, h2⟩
    · exact va_Decl.abs (C.kn.1 _ hde rfl)
    · exact va_Decl.of (C.kn.w h1 rfl (args := args)) (C.kn.w h2 rfl)
  refine zRun_fin (rest := rest) (a := (.ref b :: (S.take k).reverse : List Value).toArray) (mc' := mc') (Q' := Q') ?_ C hl hs hq (fun v h' hb hQ => kk _ _ _ _ (hR (.inl v) h' hb hQ)) (fun E h' hb hQ => hR (.inr E) h' hb hQ)
  exact vx_runU (nL := M.2.2.1) (n := k) (Ts := []) (own := M.1.cls) (owner := owner) (x := x) ⟨C.hx, C.hb, C.ml, C.own, fun w h => nomatch h⟩ hct ⟨⟨rfl, rfl, hR1, hR2, zCw_warm (y, cc, mL, ret, []) hcw, List.mem_cons_self⟩, hcw, hini, hno, hp.sig, C.kn.w hlk rfl, C.kn.w hsm rfl, hdecl, C.kn.w hse rfl, hi9⟩ hpre rfl (zTkl hk) hl.1 (zRevR hSr) hW9 hd hf
/-- super.m(..) -/
theorem r_invSU {idx ci k : Nat} {y : MethodName} {cc : ByteArray} {mL : Nat} {ret : Option FieldType} {q9 : vw_C} (hd : decode M.2.1 pc = .ok (.invokespecial idx, 3)) (hM : zMk (y, cc, mL, ret, [])) (hlk : zLk M.1.cls idx y) (hsm : Cond.sameMethod y.cls y.cls y.name y.desc ∈ zTb) (hsu : Cond.superclass M.1.cls y.cls ∈ zTb) (hno : y.name ≠ "<init>") (hin : Cond.instanceMethod y ∈ zTb) (hq9 : zCL[ci]? = some q9) (hp : zPar y k)
    (kk : ∀ L S h n, K L S h n → zV l G d mc M Q (pc + 3) L S h n) : ∀ L S h n, iInvV (l := l) (G := G) (d := d) (mc := mc) ci (y, cc, mL, ret, []) k (zX l G d mc M Q pc) K L S h n → zV l G d mc M Q pc L S h n := by
  intro L S h n ⟨hk, a1⟩
  obtain ⟨b, rest, hSr, a2⟩ := pR.e a1
  obtain ⟨fs, hb9, hc, d', mc', Q', hd', hm', hct, hR⟩ := zOj.e a2
  intro p e s m args below meth c H locs ls C hl hW hs hq
  have hcw : (Cond.code y cc mL ret).before args s = true := C.kn.w hM.1 rfl
  have hini : (Cond.initialized y.cls).before args s = true := hM.ini C.kn
  have hi9 : (Cond.instanceMethod y).before args s = true := C.kn.w hin rfl
  have hR1 : (zR d' mc').frames + 1 ≤ (zR d mc).frames := hd'
  have hR2 : 8 + (mL + 11) + (zR d' mc').locals ≤ (zR d mc).locals := by
    have : mL ≤ 45 := hM.2.2.2.1
    show 8 + (mL + 11) + 64 * d' ≤ 64 * d
    omega
  have hf : n + mc' ≤ (zR d mc).cells ∧ 64 * n + 64 * mc' ≤ (zR d mc).slots := ⟨hm', by show 64 * n + 64 * mc' ≤ 64 * mc; omega⟩
  have hW9 : 2 * (F0 m pc ls S).monitorRoom + (rest.map fun v => v.category).sum ≤ 8 := lv_room hc
  have hpre : PreV s H q9.1 b (va_Pc (.ref b :: (S.take k).reverse) (zPre G h)) (S.take k).reverse := ⟨zPre.blind, zobj C.kn hW hb9 hq9, zPre.at C.kn hW⟩
  refine zRun_fin (rest := rest) (a := (.ref b :: (S.take k).reverse : List Value).toArray) (mc' := mc') (Q' := Q') ?_ C hl hs hq (fun v h' hb hQ => kk _ _ _ _ (hR (.inl v) h' hb hQ)) (fun E h' hb hQ => hR (.inr E) h' hb hQ)
  exact vx_runSU (nL := M.2.2.1) (n := k) (Ts := []) (own := M.1.cls) (C.kn.2.1 ci _ hq9).2 ⟨C.hx, C.hb, C.ml, C.own, fun w h => nomatch h⟩ hct ⟨⟨rfl, rfl, hR1, hR2, zCw_warm (y, cc, mL, ret, []) hcw, List.mem_cons_self⟩, C.kn.w hlk rfl, C.kn.w hsm rfl, C.kn.w hsu rfl, hi9, hini, hcw, hno, hp.sig⟩ hpre rfl (zTkl hk) hl.1 (zRevR hSr) hW9 hd hf
/-- a call by an interface's method x -/
theorem r_invF {idx count ci k : Nat} {x y : MethodName} {cc : ByteArray} {mL : Nat} {ret : Option FieldType} {q9 : vw_C} (hd : decode M.2.1 pc = .ok (.invokeinterface idx count, 5)) (hM : zMk (y, cc, mL, ret, [])) (hlk : zLk M.1.cls idx x) (hde : Cond.declares x ∈ zTb) (hfa : Cond.interfaceMethod x.cls x.cls x.name x.desc ∈ zTb ∧ zMv (Cond.interfaceMethod x.cls x.cls x.name x.desc) = true) (hin : Cond.instanceMethod y ∈ zTb) (hpu : Cond.publicMethod y ∈ zTb) (hq9 : zCL[ci]? = some q9) (hse : Cond.selects q9.1 x y ∈ zTb) (hun : Cond.unhidden q9.1 x.name x.desc ∈ zTb) (hca : Cond.castable q9.1 x.cls ∈ zTb) (hno : x.cls ≠ "java/lang/invoke/MethodHandle" ∧ x.cls ≠ "java/lang/invoke/VarHandle") (hp : zPar x k)
    (kk : ∀ L S h n, K L S h n → zV l G d mc M Q (pc + 5) L S h n) : ∀ L S h n, iInvV (l := l) (G := G) (d := d) (mc := mc) ci (y, cc, mL, ret, []) k (zX l G d mc M Q pc) K L S h n → zV l G d mc M Q pc L S h n := by
  intro L S h n ⟨hk, a1⟩
  obtain ⟨b, rest, hSr, a2⟩ := pR.e a1
  obtain ⟨fs, hb9, hc, d', mc', Q', hd', hm', hct, hR⟩ := zOj.e a2
  intro p e s m args below meth c H locs ls C hl hW hs hq
  have hcw : (Cond.code y cc mL ret).before args s = true := C.kn.w hM.1 rfl
  have hini : (Cond.initialized y.cls).before args s = true := hM.ini C.kn
  have hi9 : (Cond.instanceMethod y).before args s = true := C.kn.w hin rfl
  have hR1 : (zR d' mc').frames + 1 ≤ (zR d mc).frames := hd'
  have hR2 : 8 + (mL + 11) + (zR d' mc').locals ≤ (zR d mc).locals := by
    have : mL ≤ 45 := hM.2.2.2.1
    show 8 + (mL + 11) + 64 * d' ≤ 64 * d
    omega
  have hf : n + mc' ≤ (zR d mc).cells ∧ 64 * n + 64 * mc' ≤ (zR d mc).slots := ⟨hm', by show 64 * n + 64 * mc' ≤ 64 * mc; omega⟩
  have hW9 : 2 * (F0 m pc ls S).monitorRoom + (rest.map fun v => v.category).sum ≤ 8 := lv_room hc
  have hpre : PreV s H q9.1 b (va_Pc (.ref b :: (S.take k).reverse) (zPre G h)) (S.take k).reverse := ⟨zPre.blind, zobj C.kn hW hb9 hq9, zPre.at C.kn hW⟩
  refine zRun_fin5 (rest := rest) (a := (.ref b :: (S.take k).reverse : List Value).toArray) (mc' := mc') (Q' := Q') ?_ C hl hs hq (fun v h' hb hQ => kk _ _ _ _ (hR (.inl v) h' hb hQ)) (fun E h' hb hQ => hR (.inr E) h' hb hQ)
  exact vx_runF (nL := M.2.2.1) (n := k) (Ts := []) (own := M.1.cls) (x := x) (C.kn.2.1 ci _ hq9).2 ⟨C.hx, C.hb, C.ml, C.own, fun w h => nomatch h⟩ hct ⟨⟨rfl, rfl, hR1, hR2, zCw_warm (y, cc, mL, ret, []) hcw, List.mem_cons_self⟩, C.kn.w hlk rfl, C.kn.w hde rfl, C.kn.w hfa.1 hfa.2, C.kn.w hse rfl, hi9, C.kn.w hpu rfl, C.kn.w hun rfl, C.kn.w hca rfl, hini, hcw, hno, hp.sig⟩ hpre rfl (zTkl hk) hl.1 (zRevR hSr) hW9 hd hf
/-- Object.<init> -/
def iObj (K : zK) : zK := fun L S h n => pR S fun _ r => 1 ≤ d ∧ zcat r ≤ 8 ∧ K L r h n
theorem r_obj {idx : Nat} (hd : decode M.2.1 pc = .ok (.invokespecial idx, 3)) (hlk : zLk M.1.cls idx Lib.objectInit) (hin : Cond.instanceMethod Lib.objectInit ∈ zTb) (hco : Cond.code Lib.objectInit ⟨#[0xb1]⟩ 1 none ∈ zTb)
    (kk : ∀ L S h n, K L S h n → zV l G d mc M Q (pc + 3) L S h n) : ∀ L S h n, iObj (d := d) K L S h n → zV l G d mc M Q pc L S h n := by
  intro L S h n a
  obtain ⟨b, r, rfl, h1, h2, a1⟩ := pR.e a
  intro p e s m args below meth c H locs ls C hl hW hs hq
  exact W.objInit C.hx C.hb C.own (C.kn.w hlk rfl) (C.kn.w hin rfl) (C.kn.w hco rfl) rfl (hl.1.trans C.ml.symm) rfl hd h1 (by show 2 * 0 + _ + 12 ≤ 64 * d; unfold zcat at h2; omega) (kk _ _ _ _ a1 p e s m args below meth c H locs ls C hl hW hs hq)
/-! exceptions -/
theorem zX.out {E : String} {L : List (Option Value)} {h : zH} {n : Nat} (hp : ∀ z ∈ tableOf M.2.2.2.2, covers z pc = false ∨ (z.catchType ≠ 0 ∧ ∃ nm : String, Cond.classLink M.1.cls z.catchType nm ∈ zTb ∧ (E, nm) ∈ zNC)) (hn : n ≤ mc) (hQ : Q (.inr E) h) : zX l G d mc M Q pc L E h n := by
  intro p e s m args below meth c H locs ls rest q ce C hl hW hs hq h1 h2 h3
  refine vx_outP (own := M.1.cls) C.own C.locks (fun z hz => ?_) h1 h2 h3 (fun t ht _ => ⟨h, hQ, by rw [ht]; exact hW, by rw [ht]; exact hs⟩) hq hn (Nat.mul_le_mul_left 64 hn)
  rw [C.tab] at hz
  rcases hp z hz with h9 | ⟨h9, nm, h10, h11⟩
  · exact Or.inl h9
  · exact Or.inr ⟨h9, nm, C.kn.w h10 rfl, C.kn.2.2.2.2.2.2.2.1 _ h11⟩
theorem zCL_inj {i j : Nat} {q r : vw_C} (hi : zCL[i]? = some q) (hj : zCL[j]? = some r) (e : q.1 = r.1) : i = j := by
  have hn : (zCL.map (fun q => q.1)).Nodup := by decide +kernel
  obtain ⟨li, ei⟩ := List.getElem?_eq_some_iff.mp hi
  obtain ⟨lj, ej⟩ := List.getElem?_eq_some_iff.mp hj
  have hi' : (zCL.map (fun q => q.1))[i]? = some q.1 := by rw [List.getElem?_map, hi]; rfl
  have hj' : (zCL.map (fun q => q.1))[j]? = some q.1 := by rw [List.getElem?_map, hj, e]; rfl
  exact (List.getElem?_inj (by rw [List.length_map]; exact li) hn).mp (hi'.trans hj'.symm)
/-- an exception's object at q, of class ci -/
def zEx (G : zG) (h : zH) (q ci : Nat) : Prop := (zb G ≤ q ∧ h q = some (.inr (ci, []))) ∨ (q < zb G ∧ ∃ cell : Cell, (zH0 G)[q]? = some cell ∧ cell.vm = .none ∧ cell.cls = (zD G).1 ci)
/-- the heap with an exception's object added -/
def zUe (G : zG) (h h' : zH) (q ci : Nat) : Prop := zEx G h' q ci ∧ ∀ a ob, h a = some ob → (∀ fs, ob ≠ .inr (ci, fs)) → h' a = some ob
theorem zUe.mk {E : String} {ci q : Nat} {T0 : u_T} {h : zH} {H : Heap} {s : State} {ce : Cell} (hE : zCL[ci]? = some (E, T0, 0)) (hK : zKn G s) (hW : zWd G h H) (h1 : H[q]? = some ce) (h2 : ce.vm = .none) (h3 : s.vm.findClass E = some ce.cls) : ∃ h', zUe G h h' q ci ∧ zWd G h' H := by
  obtain ⟨-, hfc, -⟩ := hK.2.1 ci _ hE
  have hcl : ce.cls = (zD G).1 ci := Option.some.inj (h3.symm.trans hfc)
  by_cases hq : q < zb G
  · exact ⟨h, ⟨Or.inr ⟨hq, ce, by rw [← hW.2.1 q hq]; exact h1, h2, hcl⟩, fun a ob ha _ => ha⟩, hW⟩
  · have hq' : zb G ≤ q := by omega
    have hat : zAt G q (.inr (ci, [])) H := ⟨ce, _, h1, hE, hcl, fun _ => h2, (by rw [h2]; exact fun h => by cases h), (by rw [h2]; exact fun _ h => by cases h), rfl, fun k hk => absurd hk (Nat.not_lt_zero k)⟩
    refine ⟨zUp h q (.inr (ci, [])), ⟨Or.inl ⟨hq', zUp_self _ _ _⟩, fun a ob ha hne => ?_⟩, hW.put hq' rfl (fun _ _ => rfl) hat⟩
    by_cases haq : a = q
    · subst haq
      have h9 := hW.2.2.2 a ob ha
      rcases ob with ⟨ty, N, f⟩ | ⟨c9, fs⟩
      · obtain ⟨cell, g1, g2, -⟩ := h9
        cases h1.symm.trans g1
        obtain ⟨⟨k, comp, k1, k2⟩, -⟩ := (hK.2.2.1 _ _).mp g2
        obtain ⟨-, -, kE, kE1, kE2⟩ := hK.2.1 ci _ hE
        rw [hcl] at k1
        cases k1.symm.trans kE1
        rw [kE2] at k2
        cases k2
      · obtain ⟨cell, r, g1, g2, g3, -⟩ := h9
        cases h1.symm.trans g1
        obtain ⟨-, hfr, kr, kr1, -⟩ := hK.2.1 c9 _ g2
        have e1 : s.vm.findClass r.1 = s.vm.findClass E := by rw [hfr, h3, ← g3]
        have e2 : r.1 = E := by
          obtain ⟨x1, x2, x3⟩ := Vm.findClass_spec hfr
          obtain ⟨y1, y2, y3⟩ := Vm.findClass_spec hfc
          rw [← g3, hcl] at x2
          cases x2.symm.trans y2
          exact (x3.symm.trans y3)
        have e3 : c9 = ci := zCL_inj g2 hE e2
        subst e3
        exact absurd rfl (hne fs)
    · rw [zUp_ne _ _ haq]; exact ha
/-- caught by a handler of a class that E is of; the rows ahead name other classes or don't cover -/
theorem zX.catch {E nm : String} {ci : Nat} {T0 : u_T} {L : List (Option Value)} {h : zH} {n : Nat} (hE : zCL[ci]? = some (E, T0, 0)) (pre : List ExceptionTableEntry) (x : ExceptionTableEntry) (suf : List ExceptionTableEntry) (hsp : tableOf M.2.2.2.2 = pre ++ x :: suf)
    (hp : ∀ z ∈ pre, covers z pc = false ∨ (z.catchType ≠ 0 ∧ ∃ nm : String, Cond.classLink M.1.cls z.catchType nm ∈ zTb ∧ (E, nm) ∈ zNC)) (hx : covers x pc = true) (h0 : x.catchType ≠ 0) (hcl : Cond.classLink M.1.cls x.catchType nm ∈ zTb) (hca : Cond.castable E nm ∈ zTb)
    (k : ∀ q h', zUe G h h' q ci → zV l G d mc M Q x.handlerPc L [.ref q] h' n) : zX l G d mc M Q pc L E h n := by
  intro p e s m args below meth c H locs ls rest q ce C hl hW hs hq h1 h2 h3
  obtain ⟨h', hu, hW'⟩ := zUe.mk hE C.kn hW h1 h2 h3
  refine vx_catch (own := M.1.cls) C.own pre x suf (by rw [C.tab]; exact hsp) (fun z hz => ?_) hx h0 (C.kn.w hcl rfl) (C.kn.w hca rfl) h1 h2 h3 (k q h' hu p e s m args below meth c H locs ls C hl hW' hs hq)
  rcases hp z hz with h9 | ⟨h9, nm, h10, h11⟩
  · exact Or.inl h9
  · exact Or.inr ⟨h9, nm, C.kn.w h10 rfl, C.kn.2.2.2.2.2.2.2.1 _ h11⟩
/-- caught by a handler of anything -/
theorem zX.any {E : String} {ci : Nat} {T0 : u_T} {L : List (Option Value)} {h : zH} {n : Nat} (hE : zCL[ci]? = some (E, T0, 0)) (pre : List ExceptionTableEntry) (x : ExceptionTableEntry) (suf : List ExceptionTableEntry) (hsp : tableOf M.2.2.2.2 = pre ++ x :: suf)
    (hp : ∀ z ∈ pre, covers z pc = false) (hx : covers x pc = true) (h0 : x.catchType = 0)
    (k : ∀ q h', zUe G h h' q ci → zV l G d mc M Q x.handlerPc L [.ref q] h' n) : zX l G d mc M Q pc L E h n := by
  intro p e s m args below meth c H locs ls rest q ce C hl hW hs hq h1 h2 h3
  obtain ⟨h', hu, hW'⟩ := zUe.mk hE C.kn hW h1 h2 h3
  intro T hT X
  obtain ⟨vm', X', st⟩ := X.thenCaughtThrough q (g := F0 m pc ls rest) rfl (Steps.refl _) (by rw [hT]; exact h1) (by rw [h2]; rfl) (by obtain ⟨k9, h9, -⟩ := Vm.findClass_spec h3; exact ⟨k9, h9⟩) pre x suf (by rw [C.tab]; exact hsp)
    (fun z hz => Or.inl (hp z hz)) hx (Or.inl h0)
  obtain ⟨t, a1, b1⟩ := k q h' hu p e s m args below meth c H locs ls C hl hW' hs hq (T.setVm vm') hT X'
  exact ⟨t, st.trans a1, b1⟩
/-- throw of an object that was caught -/
def iAthr (ci : Nat) (VX : List (Option Value) → zH → Nat → Prop) : zK := fun L S h n => pR S fun q _ => zEx G h q ci ∧ VX L h n
theorem r_athr {E : String} {ci : Nat} {T0 : u_T} (hE : zCL[ci]? = some (E, T0, 0)) (hd : decode M.2.1 pc = .ok (.athrow, 1)) : ∀ L S h n, iAthr (G := G) ci (fun L h n => zX l G d mc M Q pc L E h n) L S h n → zV l G d mc M Q pc L S h n := by
  intro L S h n a
  obtain ⟨q, r, rfl, hq9, a1⟩ := pR.e a
  intro p e s m args below meth c H locs ls C hl hW hs hq
  obtain ⟨-, hfc, -⟩ := C.kn.2.1 ci _ hE
  obtain ⟨ce, h1, h2, h3⟩ : ∃ ce : Cell, H[q]? = some ce ∧ ce.vm = .none ∧ ce.cls = (zD G).1 ci := by
    rcases hq9 with ⟨g1, g2⟩ | ⟨g1, ce, g2, g3, g4⟩
    · obtain ⟨cell, r9, k1, k2, k3, k4, -⟩ := hW.2.2.2 _ _ g2
      exact ⟨cell, k1, k4 g1, k3⟩
    · exact ⟨ce, by rw [hW.2.1 q g1]; exact g2, g3, g4⟩
  exact vx_athrow C.hx C.hb hd (a1 p e s m args below meth c H locs ls r q ce C hl hW hs hq h1 h2 (by rw [h3]; exact hfc))
/-- the words of a throw -/
def zThr (own : String) (ik ic : Nat) (cls : String) (names : List String) : Prop := Bundle.fit cls = true ∧ (∀ n ∈ names, Bundle.fit n = true) ∧ names.length ≤ 2 ∧ ∀ w ∈ Cond.classLink own ik cls :: Cond.initialized cls :: vx_at0 own ic cls names, w ∈ zTb ∧ zMv w = true ∧ vx_ot w = true
/-- throw new E() -/
def iThr (E : String) : zK := fun _ S h n => 6 ≤ d ∧ zcat S ≤ 8 ∧ n + 1 ≤ mc ∧ Q (.inr E) h
theorem r_thr {E : String} {ik ic : Nat} {names : List String} (hth : zThr M.1.cls ik ic E names) (d0 : decode M.2.1 pc = .ok (.new ik, 3)) (d3 : decode M.2.1 (pc + 3) = .ok (.dup, 1)) (d4 : decode M.2.1 (pc + 4) = .ok (.invokespecial ic, 3)) (d7 : decode M.2.1 (pc + 7) = .ok (.athrow, 1)) (hout : ∀ x ∈ tableOf M.2.2.2.2, covers x (pc + 7) = false) :
    ∀ L S h n, iThr (d := d) (mc := mc) (Q := Q) E L S h n → zV l G d mc M Q pc L S h n := by
  intro L S h n ⟨h1, h2, h3, h4⟩
  intro p e s m args below meth c H locs ls C hl hW hs hq
  obtain ⟨t1, t2, t3, t4⟩ := hth
  have hall : ∀ w ∈ Cond.classLink M.1.cls ik E :: Cond.initialized E :: vx_at0 M.1.cls ic E names, w.before args s = true := fun w hw => C.kn.w (t4 w hw).1 (t4 w hw).2.1
  have hold : ∀ a : Nat, a < (zH0 G).size → ¬ zb G ≤ a → s.heap[a]? = (zH0 G)[a]? := fun a ha _ => C.old a ha
  have hS : va_S (fun q => zb G ≤ q) s.heap H locs := ⟨hs, fun q h5 h6 => by
    rw [hW.2.1 q (by omega), C.old q (by omega)], hq⟩
  unfold zcat at h2
  refine vx_throw0 C.hx C.hb C.tr C.own t1 t2 (hall _ List.mem_cons_self) (hall _ (List.mem_cons_of_mem _ List.mem_cons_self)) (fun w hw => hall w (List.mem_cons_of_mem _ (List.mem_cons_of_mem _ hw))) (fun w hw => (t4 w hw).2.2) (C.kn.2.2.2.2.2.2.2.2.1.1.kept hold) (C.kn.2.2.2.2.2.2.2.2.1.2.kept hold) hS (hl.1.trans C.ml.symm) d0 d3 d4 d7 (by rw [C.tab]; exact hout)
    (by show names.length + 3 < d; omega) (by show _ + (13 * (names.length + 1) + 42) ≤ 64 * d; omega) (by show n + 1 ≤ mc; omega) (by show 64 * n + 6 ≤ 64 * mc; omega) C.locks (fun t hal hz ho => ⟨h, h4, hW.grow hz ho, by omega⟩) hq (by omega) (by omega)
/-! System.arraycopy -/
theorem zRun_slots (at_ : Nat) : ∀ (xs : List Value) (i : Nat) (c : Cell), at_ + i + xs.length ≤ c.slots.size → ∀ j, (c.storePairs at_ (xs.zipIdx i)).slots[j]? = if at_ + i ≤ j ∧ j < at_ + i + xs.length then some (xs.getD (j - (at_ + i)) .null) else c.slots[j]?
  | [], i, c, h, j => by
    rw [if_neg (by simp only [List.length_nil]; omega)]
    rfl
  | x :: xs, i, c, h, j => by
    simp only [List.length_cons] at h
    rw [List.zipIdx_cons]
    show ((c.setSlot (at_ + i) x).storePairs at_ (xs.zipIdx (i + 1))).slots[j]? = _
    rw [zRun_slots at_ xs (i + 1) (c.setSlot (at_ + i) x) (by show _ ≤ (c.slots.setIfInBounds _ _).size; simp; omega) j]
    simp only [List.length_cons]
    by_cases h1 : at_ + (i + 1) ≤ j ∧ j < at_ + (i + 1) + xs.length
    · rw [if_pos h1, if_pos (by omega)]
      have e : j - (at_ + i) = (j - (at_ + (i + 1))) + 1 := by omega
      rw [e, List.getD_cons_succ]
    · rw [if_neg h1]
      show (c.slots.setIfInBounds (at_ + i) x)[j]? = _
      by_cases h2 : j = at_ + i
      · subst h2
        rw [if_pos (by omega), Array.getElem?_setIfInBounds_self_of_lt (by omega)]
        simp
      · rw [if_neg (by omega), Array.getElem?_setIfInBounds_ne (fun z => h2 z.symm)]
/-- what an element must be to be copied into an array over ty -/
def zEl (h : zH) (ty : FieldType) (v : Value) : Prop := (∃ x, v = .int x ∧ fits ty (.int x) = true) ∨ (ty = .object "java/lang/Object" ∧ (v = .null ∨ ∃ y ci fs, v = .ref y ∧ h y = some (.inr (ci, fs))))
def iCopy (ty : FieldType) (K : zK) : zK := fun L S h n => pI S fun n0 r => pI r fun dp r => pR r fun b r => pI r fun sp r => pR r fun a r => zAr h a ty fun N0 f => zAr h b ty fun N1 g => zb G ≤ b ∧ 1 ≤ d ∧ zcat r ≤ 8 ∧ ¬ sp < 0 ∧ ¬ dp < 0 ∧ ¬ n0 < 0 ∧ sp.toNatClampNeg + n0.toNatClampNeg ≤ N0 ∧ dp.toNatClampNeg + n0.toNatClampNeg ≤ N1 ∧ (∀ i, i < n0.toNatClampNeg → zEl h ty (f (sp.toNatClampNeg + i))) ∧ K L r (zUp h b (.inl (ty, N1, va_cpy f g sp.toNatClampNeg dp.toNatClampNeg n0.toNatClampNeg))) n
theorem r_copy {idx : Nat} {ty : FieldType} (hd : decode M.2.1 pc = .ok (.invokestatic idx, 3)) (hlk : zLk M.1.cls idx arraycopyName) (hna : Cond.native arraycopyName ∈ zTb) (hst : Cond.static arraycopyName ∈ zTb) (hini : Cond.initialized "java/lang/System" ∈ zTb)
    (kk : ∀ L S h n, K L S h n → zV l G d mc M Q (pc + 3) L S h n) : ∀ L S h n, iCopy (G := G) (d := d) ty K L S h n → zV l G d mc M Q pc L S h n := by
  intro L S h n a
  obtain ⟨n0, r1, rfl, a1⟩ := pI.e a
  obtain ⟨dp, r2, rfl, a2⟩ := pI.e a1
  obtain ⟨b, r3, rfl, a3⟩ := pR.e a2
  obtain ⟨sp, r4, rfl, a4⟩ := pI.e a3
  obtain ⟨x, r, rfl, a5⟩ := pR.e a4
  obtain ⟨N0, f, ha, a6⟩ := zAr.e a5
  obtain ⟨N1, g, hb9, hbb, hd1, hc1, h1, h2, h3, h4, h5, hel, a7⟩ := zAr.e a6
  intro p e s m args below meth c H locs ls C hl hW hs hq
  have nn : ∀ z : Int32, ¬ z < 0 → z.toInt = (z.toNatClampNeg : Int) := by
    intro z hz
    have hz0 : (0 : Int) ≤ z.toInt := by
      have := Int32.not_lt.mp hz
      simpa using Int32.le_iff_toInt_le.mp this
    show z.toInt = ((z.toInt.toNat : Nat) : Int)
    omega
  intro T hT X
  obtain ⟨ca, u1, u2, u3, u4, u5, u6, u7⟩ := hW.2.2.2 _ _ ha
  obtain ⟨cb, v1, v2, v3, v4, v5, v6, v7⟩ := hW.2.2.2 _ _ hb9
  obtain ⟨⟨k0, cm0, hk0, hkk0⟩, -⟩ := (C.kn.2.2.1 _ _).mp u2
  obtain ⟨⟨k1, cm1, hk1, hkk1⟩, hobj⟩ := (C.kn.2.2.1 _ _).mp v2
  obtain ⟨vm', X', step⟩ := X.arraycopy C.hx C.own (C.kn.w hlk rfl) (C.kn.w hna rfl) (C.kn.w hst rfl) (C.kn.w hini rfl) (src := x) (dst := b) (cs := ca) (cd := cb) (srcPos := sp) (destPos := dp) (n := n0) (by rw [hT]; exact u1) (by rw [hT]; exact v1)
    u4 v4 u3 v3 hk0 hk1 hkk0 hkk1 (by simp) h1 h2 h3
    (by rw [nn sp h1, nn n0 h3, u5]; omega)
    (by rw [nn dp h2, nn n0 h3, v5]; omega)
    (fun vm₁ hal i hi => by
      have e9 : ca.slots.getD (sp.toNatClampNeg + i) .null = f (sp.toNatClampNeg + i) := by
        rw [Array.getD_eq_getD_getElem?, u7 _ (by omega)]
        rfl
      rw [e9]
      rcases hel i hi with ⟨z, hz, hf⟩ | ⟨hty, hz | ⟨y, ci, fs, hz, hy⟩⟩
      · rw [hz]; exact ⟨hf, trivial⟩
      · rw [hz, hty]; exact ⟨rfl, trivial⟩
      · rw [hz]
        obtain ⟨cy, qy, y1, y2, y3, y4, y5, y6, y7, y8⟩ := hW.2.2.2 _ _ hy
        subst hty
        obtain ⟨kA, comp, r1, r2, r3, -⟩ := hobj (Or.inl rfl)
        cases hk1.symm.trans r1
        cases hkk1.symm.trans r2
        obtain ⟨cc9, ct9, w1, w2, w3⟩ := Cond.castable_spec (C.kn.w (zcastO ci qy y2) rfl (args := args))
        obtain ⟨-, hfc, kC, hkC, -⟩ := C.kn.2.1 ci _ y2
        cases hfc.symm.trans w1
        cases r3.symm.trans w2
        obtain ⟨kE, hkE, -⟩ := Vm.findClass_spec r3
        obtain ⟨kC', hkC', -⟩ := hal.2.2 _ _ hkC
        obtain ⟨kE', hkE', -⟩ := hal.2.2 _ _ hkE
        refine ⟨rfl, cy, (show T.heap[y]? = some cy by rw [hT]; exact y1), y6, ⟨kC', by rw [y3]; exact hkC'⟩, ⟨kE', hkE'⟩, ?_⟩
        show vm₁.assignable _ _ = true
        rw [hal.assignable, y3]
        exact w3)
    (g := F0 m pc ls (.int n0 :: .int dp :: .ref b :: .int sp :: .ref x :: r)) rfl (hl.1.trans C.ml.symm) (rest := r) rfl (by rw [C.hb]; exact hd) hd1 (by
      unfold zcat at hc1
      have e8 : nativeFrameWords "java/lang/System" "arraycopy" 5 + 11 ≤ 56 := by decide
      show 2 * 0 + _ + _ ≤ 64 * d
      omega)
  have hlb : b < H.size := (Array.getElem?_eq_some_iff.mp v1).1
  have hheap : ((T.setVm vm').setCell b (copied ca cb sp dp n0)).heap = H.setIfInBounds b (copied ca cb sp dp n0) := by rw [← hT]; rfl
  have oq : ∀ q : Nat, q ≠ b → (H.setIfInBounds b (copied ca cb sp dp n0))[q]? = H[q]? := fun q hq => by simp [Array.getElem?_setIfInBounds, Ne.symm hq]
  have hcp : copied ca cb sp dp n0 = cb.storeRun dp.toNatClampNeg (ca.stretch sp.toNatClampNeg n0.toNatClampNeg) := rfl
  obtain ⟨f1, f2, f3, -⟩ := Cell.storePairs_facts cb dp.toNatClampNeg (ca.stretch sp.toNatClampNeg n0.toNatClampNeg).zipIdx
  have hlen : (ca.stretch sp.toNatClampNeg n0.toNatClampNeg).length = n0.toNatClampNeg := by simp [Cell.stretch]
  have hsl := zRun_slots dp.toNatClampNeg (ca.stretch sp.toNatClampNeg n0.toNatClampNeg) 0 cb (by rw [hlen, v5]; omega)
  have hat : zAt G b (.inl (ty, N1, va_cpy f g sp.toNatClampNeg dp.toNatClampNeg n0.toNatClampNeg)) (H.setIfInBounds b (copied ca cb sp dp n0)) := by
    refine ⟨copied ca cb sp dp n0, by simp [Array.getElem?_setIfInBounds, hlb], ?_, ?_, ?_, ?_, v6, fun j hj => ?_⟩
    · rw [hcp, Cell.storeRun, f1]; exact v2
    · rw [hcp, Cell.storeRun, f2]; exact v3
    · rw [hcp, Cell.storeRun, f2]; exact v4
    · rw [hcp, Cell.storeRun, f3]; exact v5
    · rw [hcp, Cell.storeRun, hsl j, hlen]
      simp only [va_cpy, Nat.add_zero]
      by_cases hj2 : dp.toNatClampNeg ≤ j ∧ j < dp.toNatClampNeg + n0.toNatClampNeg
      · rw [if_pos hj2, if_pos hj2]
        have e1 : (ca.stretch sp.toNatClampNeg n0.toNatClampNeg)[j - dp.toNatClampNeg]? = some (f (sp.toNatClampNeg + (j - dp.toNatClampNeg))) := by
          unfold Cell.stretch
          rw [List.getElem?_map, List.getElem?_range (by omega)]
          show some (ca.slots.getD _ _) = _
          rw [Array.getD_eq_getD_getElem?, u7 _ (by omega)]
          rfl
        rw [List.getD_eq_getElem?_getD, e1]
        rfl
      · rw [if_neg hj2, if_neg hj2]
        exact v7 j hj
  have hlocs : ∀ q ∈ locs ++ (ca.stretch sp.toNatClampNeg n0.toNatClampNeg).zipIdx.map (fun q => (⟨b, dp.toNatClampNeg + q.2⟩ : Loc)), zb G ≤ q.base := by
    intro q h9
    rcases List.mem_append.mp h9 with h9 | h9
    · exact hq q h9
    · obtain ⟨z, -, hz⟩ := List.mem_map.mp h9
      rw [← hz]; exact hbb
  obtain ⟨t, b1, b2⟩ := kk _ _ _ _ a7 p e s m args below meth c _ _ ls C hl (hW.put hbb (by simp) oq hat) (by simp; exact hs) hlocs _ hheap X'
  exact ⟨t, step t b1, b2⟩
/-! the class object of an array of objects -/
theorem r_ldcm {idx : Nat} (hd : decode M.2.1 pc = .ok (.ldc idx, 2)) (hcl : Cond.classLink M.1.cls idx "[Ljava/lang/Object;" ∈ zTb) (k : ∀ L S h n, K L S h n → zV l G d mc M Q (pc + 2) L S h n) : ∀ L S h n, iCst (zZs G "class" "[Ljava/lang/Object;") K L S h n → zV l G d mc M Q pc L S h n := by
  intro L S h n a
  intro p e s m args below meth c H locs ls C hl hW hs hq
  obtain ⟨mi, h1, h2⟩ := C.kn.2.2.2.2.2.2.2.2.2.1
  have k9 := k _ _ _ _ a p e s m args below meth c H locs ls C hl hW hs hq
  rw [h1] at k9
  exact va_ldcM C.hx C.hb C.own (C.kn.w hcl rfl) h2 hd k9
def iGetC (K : zK) : zK := fun L S h n => pR S fun a r => 1 ≤ d ∧ zcat r ≤ 8 ∧ zAr h a (.object "java/lang/Object") fun _ _ => K L (zZs G "class" "[Ljava/lang/Object;" :: r) h n
theorem r_getC {idx : Nat} (hd : decode M.2.1 pc = .ok (.invokevirtual idx, 3)) (hlk : zLk M.1.cls idx ⟨"java/lang/Object", "getClass", "()Ljava/lang/Class;"⟩) (hde : Cond.declares ⟨"java/lang/Object", "getClass", "()Ljava/lang/Class;"⟩ ∈ zTb) (hse : Cond.selects "[Ljava/lang/Object;" ⟨"java/lang/Object", "getClass", "()Ljava/lang/Class;"⟩ ⟨"java/lang/Object", "getClass", "()Ljava/lang/Class;"⟩ ∈ zTb) (hin : Cond.instanceMethod ⟨"java/lang/Object", "getClass", "()Ljava/lang/Class;"⟩ ∈ zTb) (hna : Cond.native ⟨"java/lang/Object", "getClass", "()Ljava/lang/Class;"⟩ ∈ zTb)
    (k : ∀ L S h n, K L S h n → zV l G d mc M Q (pc + 3) L S h n) : ∀ L S h n, iGetC (G := G) (d := d) K L S h n → zV l G d mc M Q pc L S h n := by
  intro L S h n a
  obtain ⟨x, r, rfl, hd1, hc1, a1⟩ := pR.e a
  obtain ⟨N, f, ha, a2⟩ := zAr.e a1
  intro p e s m args below meth c H locs ls C hl hW hs hq
  obtain ⟨mi, h1, h2⟩ := C.kn.2.2.2.2.2.2.2.2.2.1
  have k9 := k _ _ _ _ a2 p e s m args below meth c H locs ls C hl hW hs hq
  rw [h1] at k9
  obtain ⟨cell, u1, u2, u3, u4, -⟩ := hW.2.2.2 _ _ ha
  obtain ⟨-, hobj⟩ := (C.kn.2.2.1 _ _).mp u2
  unfold zcat at hc1
  refine va_getC C.hx C.hb (C.ml.trans hl.1.symm) (C := "[Ljava/lang/Object;") C.own (C.kn.w hlk rfl) (C.kn.w hde rfl) (C.kn.w hse rfl) (C.kn.w hin rfl) (C.kn.w hna rfl) h2 ⟨cell, u1, ?_, va_nmO (hobj (Or.inl rfl)) (by decide)⟩ hd1 (by show _ + 14 ≤ 64 * d; omega) hd k9
  cases hv : cell.vm <;> first | rfl | exact absurd hv (u4 _)
/-- a cast of an array to its own class -/
def iCastA (ty : FieldType) (K : zK) : zK := fun L S h n => pR S fun a r => zAr h a ty fun _ _ => K L (.ref a :: r) h n
theorem r_castA {idx : Nat} {ty : FieldType} {nm : String} (hd : decode M.2.1 pc = .ok (.checkcast idx, 3)) (hty : (ty = .object "java/lang/Object" ∧ nm = "[Ljava/lang/Object;") ∨ (ty = .byte ∧ nm = "[B")) (hcl : Cond.classLink M.1.cls idx nm ∈ zTb) (k : ∀ L S h n, K L S h n → zV l G d mc M Q (pc + 3) L S h n) : ∀ L S h n, iCastA ty K L S h n → zV l G d mc M Q pc L S h n := by
  intro L S h n a
  obtain ⟨x, r, rfl, a1⟩ := pR.e a
  obtain ⟨N, f, ha, a2⟩ := zAr.e a1
  intro p e s m args below meth c H locs ls C hl hW hs hq
  obtain ⟨cell, u1, u2, u3, u4, -⟩ := hW.2.2.2 _ _ ha
  obtain ⟨-, hobj⟩ := (C.kn.2.2.1 _ _).mp u2
  have hnm : s.vm.findClass nm = some cell.cls := by
    rcases hty with ⟨rfl, rfl⟩ | ⟨rfl, rfl⟩
    · exact va_nmO (hobj (Or.inl rfl)) (by decide)
    · exact hobj (Or.inr rfl)
  have hv : cell.vm.isStatics = false := by cases hv : cell.vm <;> first | rfl | exact absurd hv (u4 _)
  intro T hT X
  obtain ⟨vm', X', st⟩ := X.checkcastYes C.hx C.own (C.kn.w hcl rfl) (by rw [hT]; exact u1) hv hnm (va_asg _ _) (g := F0 m pc ls (.ref x :: r)) rfl rfl (by rw [C.hb]; exact hd)
  obtain ⟨t, a1, b1⟩ := k _ _ _ _ a2 p e s m args below meth c H locs ls C hl hW hs hq (T.setVm vm') hT X'
  exact ⟨t, st t a1, b1⟩
/-- the clone of an array of bytes -/
def iClone (K : zK) : zK := fun L S h n => pR S fun a r => zAr h a .byte fun N f => 1 ≤ d ∧ zcat r ≤ 8 ∧ n + (N / 64 + 1) ≤ mc ∧ (∀ i, i < N → fits .byte (f i) = true) ∧ ∀ b, h b = none → zb G ≤ b → K L (.ref b :: r) (zUp h b (.inl (.byte, N, f))) (n + (N / 64 + 1))
theorem r_clone {idx : Nat} (hd : decode M.2.1 pc = .ok (.invokevirtual idx, 3)) (hlk : zLk M.1.cls idx ⟨"[B", "clone", "()Ljava/lang/Object;"⟩) (hsm : Cond.sameMethod "[B" "java/lang/Object" "clone" "()Ljava/lang/Object;" ∈ zTb) (hna : Cond.native ⟨"java/lang/Object", "clone", "()Ljava/lang/Object;"⟩ ∈ zTb) (hin : Cond.instanceMethod ⟨"java/lang/Object", "clone", "()Ljava/lang/Object;"⟩ ∈ zTb) (hse : Cond.selects "[B" ⟨"[B", "clone", "()Ljava/lang/Object;"⟩ ⟨"java/lang/Object", "clone", "()Ljava/lang/Object;"⟩ ∈ zTb) (hca : Cond.castable "[B" "java/lang/Cloneable" ∈ zTb)
    (k : ∀ L S h n, K L S h n → zV l G d mc M Q (pc + 3) L S h n) : ∀ L S h n, iClone (G := G) (d := d) (mc := mc) K L S h n → zV l G d mc M Q pc L S h n := by
  intro L S h n a
  obtain ⟨x, r, rfl, a1⟩ := pR.e a
  obtain ⟨N, f, ha, hd1, hc1, hm, hfit, a2⟩ := zAr.e a1
  intro p e s m args below meth c H locs ls C hl hW hs hq
  obtain ⟨cell, u1, u2, u3, u4, u5, u6, u7⟩ := hW.2.2.2 _ _ ha
  obtain ⟨⟨kA, comp, hkA, hkind⟩, hobj⟩ := (C.kn.2.2.1 _ _).mp u2
  have hnm : s.vm.findClass "[B" = some cell.cls := hobj (Or.inr rfl)
  obtain ⟨c0, t0', f1, f2, f3⟩ := Cond.castable_spec (C.kn.w hca rfl (args := args))
  cases hnm.symm.trans f1
  unfold zcat at hc1
  intro T hT X
  have hcellT : T.heap[x]? = some cell := by rw [hT]; exact u1
  obtain ⟨kA', hkA', heA⟩ := X.warmed.alike.2.2 _ _ hkA
  have hv : cell.vm.isStatics = false := by cases hv : cell.vm <;> first | rfl | exact absurd hv (u4 _)
  obtain ⟨vm', X', st⟩ := X.cloneArray C.hx C.own (C.kn.w hlk rfl) (C.kn.w hsm rfl) (C.kn.w hna rfl) (C.kn.w hin rfl) (C.kn.w hse rfl) (a := x) (cell := cell) hcellT u4 u3 hnm f2 f3
    (fun i v hv => by
      have hi : i < N := by rw [← u5]; exact (Array.getElem?_eq_some_iff.mp hv).1
      have hvf : v = f i := Option.some.inj (hv.symm.trans (u7 i hi))
      have hkk : kA'.kind = .array comp .byte := by rw [heA]; exact hkind
      have := hfit i hi
      rw [← hvf] at this
      cases hvm : cell.vm <;> first | exact absurd hvm (u4 _) | simpa [State.fitsSlot, State.slotType?, hkA', hkk, hvm] using this)
    (g := F0 m pc ls (.ref x :: r)) rfl (hl.1.trans C.ml.symm) rfl (by rw [C.hb]; exact hd) hd1 (by show 2 * 0 + _ + 14 ≤ 64 * d; omega) (show n + 1 ≤ mc by omega) (show 64 * n + cell.slots.size ≤ 64 * mc by rw [u5]; omega) (hloader := Vm.clonesLoader_of_array hkA hkind)
  generalize hH1 : H.push ({ cls := cell.cls, slots := cell.slots } : Cell) = H1
  have z1 : H1.size = H.size + 1 := by rw [← hH1, Array.size_push]
  have e1 : H1[H.size]? = some ({ cls := cell.cls, slots := cell.slots } : Cell) := by rw [← hH1, Array.getElem?_push_size]
  have o1 : ∀ q : Nat, q < H.size → H1[q]? = H[q]? := fun q hq => by rw [← hH1, Array.getElem?_push, if_neg (Nat.ne_of_lt hq)]
  have hat : zAt G H.size (.inl (.byte, N, f)) H1 := ⟨_, e1, u2, (fun h => by cases h), (fun _ h => by cases h), u5, u6, u7⟩
  have hw9 : W p l e (zR d mc) s m args below meth c H1 locs (n + 1) (64 * n + cell.slots.size) (vx_MQ below (zQC G Q) (zXC G Q) args s mc (64 * mc) (fun q => zb G ≤ q)) (F0 m (pc + 3) ls (.ref H.size :: r)) := by
    refine W.widen (k := n + (N / 64 + 1)) (n := 64 * (n + (N / 64 + 1))) (by omega) (by rw [u5]; omega) ?_
    exact k _ _ _ _ (a2 H.size hW.fresh hW.1) p e s m args below meth c H1 locs ls C hl (hW.push z1 o1 hat) (by omega) hq
  obtain ⟨t, b1, b2⟩ := hw9 _ (by rw [← hH1, ← hT]; rfl) X'
  refine ⟨t, ?_, b2⟩
  have e9 : T.heap.size = H.size := by rw [hT]
  first | exact st t b1 | (rw [← e9] at b1; exact st t b1)
end ZQ
