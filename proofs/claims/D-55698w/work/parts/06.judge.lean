/-! the judgement zV, the contract zCt, entry, rules of straight instructions -/
/-- a method: its name, code, locals, answer, handlers -/
abbrev zM : Type := MethodName × ByteArray × Nat × Option FieldType × List (Nat × Nat × Nat × Nat)
/-- a result: an answer, or an exception's class -/
abbrev zRes : Type := Option Value ⊕ String
/-- the code's word of a method -/
def zCw (M : zM) : Cond := match M.2.2.2.2 with
  | [] => .code M.1 M.2.1 M.2.2.1 M.2.2.2.1
  | h :: t => .codeWith M.1 M.2.1 M.2.2.1 M.2.2.2.1 (h :: t)
/-- what the tables say of a method -/
def zMk (M : zM) : Prop := zCw M ∈ zTb ∧ Cond.initialized M.1.cls ∈ zTb ∧ plainName M.1.cls = true ∧ M.2.2.1 ≤ 45 ∧ (M.1.cls ≠ "java/lang/invoke/MethodHandle" ∧ M.1.cls ≠ "java/lang/invoke/VarHandle")
theorem zMk.ini {G : zG} {M : zM} (h : zMk M) {s : State} (hK : zKn G s) {args : Array Value} : (Cond.initialized M.1.cls).before args s = true := hK.w h.2.1 rfl
def zR (d mc : Nat) : Room := { frames := d, cells := mc, slots := 64 * mc, locals := 64 * d }
def zPre (G : zG) (h : zH) (U : State) : Prop := zKn G U ∧ zWd G h U.heap
def zQC (G : zG) (Q : zRes → zH → Prop) : Array Value → State → Outcome → State → Prop := fun _ st o t => ∃ (v : Option Value) (h' : zH), o = .returned v ∧ Q (.inl v) h' ∧ zWd G h' t.heap ∧ st.heap.size ≤ t.heap.size
def zXC (G : zG) (Q : zRes → zH → Prop) : String → State → State → Prop := fun E st t => ∃ h' : zH, Q (.inr E) h' ∧ zWd G h' t.heap ∧ st.heap.size ≤ t.heap.size
/-- the contract: from any state whose heap is as h says, M called with As ends by Q, makes at most mc cells (of 64 slots each), in d frames -/
def zCt (l : Launch) (G : zG) (d : Nat) (M : zM) (As : List Value) (h : zH) (mc : Nat) (Q : zRes → zH → Prop) : Prop :=
  vx_Met l M.1 [zCw M] (zR d mc) (va_Pc As (zPre G h)) (zQC G Q) (zXC G Q) mc (64 * mc) (fun q => zb G ≤ q)
/-- where a method stands -/
def zC (l : Launch) (G : zG) (d mc : Nat) (M : zM) (p : Program) (s : State) (m : MethodId) (meth : Method) (c : Code) : Prop :=
  p.tables.exec = Jvm.exec ∧ l.stackTraces = false ∧ c.code = M.2.1 ∧ c.maxLocals = M.2.2.1 ∧ c.exceptionTable.toList = tableOf M.2.2.2.2 ∧ meth.sig.returnType = M.2.2.2.1 ∧ meth.locks = false ∧ s.vm.findClass M.1.cls = some m.cls ∧ meth.name = M.1.name ∧ zKn G s ∧ zb G ≤ s.heap.size ∧ ∀ a, a < zb G → s.heap[a]? = (zH0 G)[a]?
section ZC
variable {l : Launch} {G : zG} {d mc : Nat} {M : zM} {p : Program} {s : State} {m : MethodId} {meth : Method} {c : Code}
theorem zC.hx (C : zC l G d mc M p s m meth c) : p.tables.exec = Jvm.exec := C.1
theorem zC.tr (C : zC l G d mc M p s m meth c) : l.stackTraces = false := C.2.1
theorem zC.hb (C : zC l G d mc M p s m meth c) : c.code = M.2.1 := C.2.2.1
theorem zC.ml (C : zC l G d mc M p s m meth c) : c.maxLocals = M.2.2.1 := C.2.2.2.1
theorem zC.tab (C : zC l G d mc M p s m meth c) : c.exceptionTable.toList = tableOf M.2.2.2.2 := C.2.2.2.2.1
theorem zC.ret (C : zC l G d mc M p s m meth c) : meth.sig.returnType = M.2.2.2.1 := C.2.2.2.2.2.1
theorem zC.locks (C : zC l G d mc M p s m meth c) : meth.locks = false := C.2.2.2.2.2.2.1
theorem zC.own (C : zC l G d mc M p s m meth c) : s.vm.findClass M.1.cls = some m.cls := C.2.2.2.2.2.2.2.1
theorem zC.name (C : zC l G d mc M p s m meth c) : meth.name = M.1.name := C.2.2.2.2.2.2.2.2.1
theorem zC.kn (C : zC l G d mc M p s m meth c) : zKn G s := C.2.2.2.2.2.2.2.2.2.1
theorem zC.b (C : zC l G d mc M p s m meth c) : zb G ≤ s.heap.size := C.2.2.2.2.2.2.2.2.2.2.1
theorem zC.old (C : zC l G d mc M p s m meth c) : ∀ a, a < zb G → s.heap[a]? = (zH0 G)[a]? := C.2.2.2.2.2.2.2.2.2.2.2
end ZC
/-- M stands at pc with locals L, stack S, abstract heap h, n cells made: it ends by Q within mc cells -/
def zV (l : Launch) (G : zG) (d mc : Nat) (M : zM) (Q : zRes → zH → Prop) (pc : Nat) (L : List (Option Value)) (S : List Value) (h : zH) (n : Nat) : Prop :=
  ∀ (p : Program) (e : Env) (s : State) (m : MethodId) (args : Array Value) (below : List Frame) (meth : Method) (c : Code) (H : Heap) (locs : List Loc) (ls : Array Slot),
    zC l G d mc M p s m meth c → zLs ls M.2.2.1 L → zWd G h H → s.heap.size ≤ H.size → (∀ q ∈ locs, zb G ≤ q.base) →
    W p l e (zR d mc) s m args below meth c H locs n (64 * n) (vx_MQ below (zQC G Q) (zXC G Q) args s mc (64 * mc) (fun q => zb G ≤ q)) (F0 m pc ls S)
/-- an exception of class E (an object at q) is thrown at pc -/
def zX (l : Launch) (G : zG) (d mc : Nat) (M : zM) (Q : zRes → zH → Prop) (pc : Nat) (L : List (Option Value)) (E : String) (h : zH) (n : Nat) : Prop :=
  ∀ (p : Program) (e : Env) (s : State) (m : MethodId) (args : Array Value) (below : List Frame) (meth : Method) (c : Code) (H : Heap) (locs : List Loc) (ls : Array Slot) (rest : List Value) (q : Nat) (ce : Cell),
    zC l G d mc M p s m meth c → zLs ls M.2.2.1 L → zWd G h H → s.heap.size ≤ H.size → (∀ q ∈ locs, zb G ≤ q.base) → H[q]? = some ce → ce.vm = .none → s.vm.findClass E = some ce.cls →
    vx_W p l e (zR d mc) s m args below meth c H locs n (64 * n) (vx_MQ below (zQC G Q) (zXC G Q) args s mc (64 * mc) (fun q => zb G ≤ q)) (F0 m pc ls rest) q
section ZV
variable {l : Launch} {G : zG} {d mc : Nat} {M : zM} {Q : zRes → zH → Prop} {pc : Nat} {L : List (Option Value)} {S : List Value} {h : zH} {n : Nat}
/-- what the world gives at any point -/
theorem zV.base (k : (∀ a, a < zb G → h a = zh0 G a) → zV l G d mc M Q pc L S h n) : zV l G d mc M Q pc L S h n :=
  fun p e s m args below meth c H locs ls C hl hW hs hq => k hW.2.2.1 p e s m args below meth c H locs ls C hl hW hs hq
theorem zV.wide {n' : Nat} (hn : n ≤ n') (k : zV l G d mc M Q pc L S h n') : zV l G d mc M Q pc L S h n :=
  fun p e s m args below meth c H locs ls C hl hW hs hq => W.widen hn (Nat.mul_le_mul_left 64 hn) (k p e s m args below meth c H locs ls C hl hW hs hq)
theorem zV.sub {L' : List (Option Value)} (hL : ∀ i v, zGt L' i = some v → zGt L i = some v) (k : zV l G d mc M Q pc L' S h n) : zV l G d mc M Q pc L S h n :=
  fun p e s m args below meth c H locs ls C hl hW hs hq => k p e s m args below meth c H locs ls C (hl.sub hL) hW hs hq
/-- less known of the heap -/
theorem zWd.less {h' : zH} {H : Heap} (hW : zWd G h H) (hle : ∀ a o, h' a = some o → h a = some o) (hb : ∀ a, a < zb G → h' a = zh0 G a) : zWd G h' H := ⟨hW.1, hW.2.1, hb, fun a o ho => hW.2.2.2 a o (hle a o ho)⟩
theorem zMq.mono {Q Q' : zRes → zH → Prop} (hQ : ∀ r h, Q r h → Q' r h) {below : List Frame} {args : Array Value} {s : State} {free : Addr → Prop} {t : State} (h : vx_MQ below (zQC G Q) (zXC G Q) args s mc (64 * mc) free t) : vx_MQ below (zQC G Q') (zXC G Q') args s mc (64 * mc) free t := by
  obtain ⟨o, h1, h2, h3⟩ := h
  refine ⟨o, h1, h2, ?_⟩
  rcases h3 with ⟨⟨v, h', e, a, b⟩, hF⟩ | ⟨q, e, E, ce, Lc, ⟨h', a, b⟩, r⟩
  · exact Or.inl ⟨⟨v, h', e, hQ _ _ a, b⟩, hF⟩
  · exact Or.inr ⟨q, e, E, ce, Lc, ⟨h', hQ _ _ a, b⟩, r⟩
/-- a contract out of the walk from the entry -/
theorem zCt.of {As : List Value} (hM : zMk M) (htr : l.stackTraces = false) (hc : ∀ v ∈ As, v.category = 1) (hn : As.length ≤ M.2.2.1)
    (body : zV l G d mc M Q 0 (zL0 As M.2.2.1) [] h 0) : zCt l G d M As h mc Q := by
  obtain ⟨y, cc, mL, ret, hh⟩ := M
  cases hh with
  | nil =>
    refine vx_ofW (cc := cc) (maxL := mL) (ret := ret) hM.2.2.1 (ws' := []) rfl ?_
    intro p e s m args below meth c s₁ B hml ht hv
    obtain ⟨rfl, hK, hW⟩ := hv
    rw [lg_entry_eq]
    have hcode : c.exceptionTable.toList = tableOf [] := by
      cases hx : c.exceptionTable.toList with
      | nil => rfl
      | cons x t => exact absurd (ht x (by rw [hx]; exact List.mem_cons_self)) (fun z => z)
    exact body p e s m _ below meth c s.heap [] _ ⟨B.exec, htr, B.bytes, hml, hcode, B.returns, B.notSynchronized, findClass_of_methodNamed B.named, (name_of_methodNamed B.named B.method).1, hK, hW.1, hW.2.1⟩ (zLs_entry hc hn) hW (Nat.le_refl _) (fun q hq => by cases hq)
  | cons x t =>
    refine vx_ofWH (cc := cc) (maxL := mL) (ret := ret) (hh := x :: t) hM.2.2.1 (ws' := []) rfl ?_
    intro p e s m args below meth c s₁ B hml hv
    obtain ⟨rfl, hK, hW⟩ := hv
    rw [lg_entry_eq]
    have hcode : c.exceptionTable.toList = tableOf (x :: t) := vx_table (x := y) B (atoms_spec (ws := [zCw (y, cc, mL, ret, x :: t)]) B.pre _ List.mem_cons_self)
    exact body p e s m _ below meth c s.heap [] _ ⟨B.exec, htr, B.bytes, hml, hcode, B.returns, B.notSynchronized, findClass_of_methodNamed B.named, (name_of_methodNamed B.named B.method).1, hK, hW.1, hW.2.1⟩ (zLs_entry hc hn) hW (Nat.le_refl _) (fun q hq => by cases hq)
end ZV
