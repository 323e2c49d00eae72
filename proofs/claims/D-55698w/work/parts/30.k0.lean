/-! cells seen from afar: a list (modCount, its elements' addresses), a deque, a builder's text, each with a hidden array; all else as it is -/
abbrev t_Z : Type := (Int32 × List Nat) ⊕ (List Nat ⊕ List Int32)
abbrev t_O : Type := zOb ⊕ t_Z
abbrev t_H : Type := Nat → Option t_O
abbrev tOb (ci : Nat) (fs : List Value) : t_O := .inl (.inr (ci, fs))
abbrev tAr (ty : FieldType) (n : Nat) (f : Nat → Value) : t_O := .inl (.inl (ty, n, f))
abbrev tLi (m : Int32) (xs : List Nat) : t_O := .inr (.inl (m, xs))
abbrev tDq (xs : List Nat) : t_O := .inr (.inr (.inl xs))
abbrev tSb (cs : List Int32) : t_O := .inr (.inr (.inr cs))
def tUp (k : t_H) (a : Nat) (o : t_O) : t_H := fun b => if b = a then some o else k b
theorem tUp_s (k : t_H) (a : Nat) (o : t_O) : tUp k a o a = some o := if_pos rfl
theorem tUp_n {k : t_H} {a b : Nat} {o : t_O} (h : b ≠ a) : tUp k a o b = k b := if_neg h
theorem tUp_up (k : t_H) (a : Nat) (o o2 : t_O) : tUp (tUp k a o) a o2 = tUp k a o2 := by
  funext b; unfold tUp; split <;> rfl
abbrev tJO : FieldType := .object "java/lang/Object"
def tAsc (cs : List Int32) : Prop := ∀ c ∈ cs, 0 ≤ c ∧ c ≤ 127
/-- the object and the hidden array (at e) of a list, a deque, a builder -/
def tSh (G : zG) (z : t_Z) (ob : zOb) (e : Nat) (ar : zOb) : Prop := match z with
  | .inl (m, xs) => ob = .inr (11, [.int m, .ref e, .int (nI xs.length)]) ∧ ∃ cap f, ar = .inl (tJO, cap, f) ∧ xs.length ≤ cap ∧ cap ≤ 63 ∧ (∀ i, i < xs.length → f i = .ref (xs.getD i 0)) ∧ (cap = 0 → zZs G "java/util/ArrayList" "DEFAULTCAPACITY_EMPTY_ELEMENTDATA" = .ref e) ∧ (0 < cap → zb G ≤ e)
  | .inr (.inl xs) => ∃ hd f, ob = .inr (13, [.ref e, .int (nI hd), .int (nI ((hd + xs.length) % 17))]) ∧ ar = .inl (tJO, 17, f) ∧ xs.length ≤ 16 ∧ hd < 17 ∧ (∀ i, i < xs.length → f ((hd + i) % 17) = .ref (xs.getD i 0)) ∧ zb G ≤ e
  | .inr (.inr cs) => ∃ ml cap f, ob = .inr (14, [.ref e, .int 0, .int ml, .int (nI cs.length)]) ∧ ar = .inl (.byte, cap, f) ∧ cs.length ≤ cap ∧ cap ≤ 1023 ∧ (ml = 0 ∨ ml = 1) ∧ (∀ i, i < cs.length → f i = .int (cs.getD i 0)) ∧ (∀ i, i < cap → ∃ x, f i = .int x ∧ fits .byte (.int x) = true) ∧ tAsc cs ∧ zb G ≤ e
/-- the elements of a list or a deque -/
def tEs : t_Z → List Nat
  | .inl (_, xs) => xs
  | .inr (.inl xs) => xs
  | .inr (.inr _) => []
def tIo (h : zH) (y : Nat) : Prop := ∃ ci fs, h y = some (.inr (ci, fs))
def tIn (G : zG) (o : Nat → Nat) (k : t_H) (h : zH) (a : Nat) (x : t_O) : Prop := match x with
  | .inl y => h a = some y
  | .inr z => zb G ≤ a ∧ (∃ ob e ar, h a = some ob ∧ h e = some ar ∧ tSh G z ob e ar ∧ (e < zb G ∨ (k e = none ∧ o e = a))) ∧ ∀ y ∈ tEs z, tIo h y
/-- a heap is as seen from afar -/
def tR (G : zG) (k : t_H) (h : zH) : Prop := zB G h ∧ (∃ o, ∀ a x, k a = some x → tIn G o k h a x) ∧ ∀ a x, a < zb G → zh0 G a = some x → k a = some (.inl x)
section TR
variable {G : zG} {k : t_H} {h : zH}
theorem tR.e (R : tR G k h) {a : Nat} {x : zOb} (e : k a = some (.inl x)) : h a = some x := by
  obtain ⟨-, ⟨o, H⟩, -⟩ := R
  exact H a _ e
theorem tR.hn (R : tR G k h) {a : Nat} (e : h a = none) : k a = none := by
  obtain ⟨-, ⟨o, H⟩, -⟩ := R
  cases hk : k a with
  | none => rfl
  | some x =>
    have := H a x hk
    cases x with
    | inl y => rw [show h a = some y from this] at e; cases e
    | inr z => obtain ⟨-, ⟨ob, b, ar, h1, -⟩, -⟩ := this; rw [h1] at e; cases e
theorem tSh.ob {z : t_Z} {ob ar : zOb} {e : Nat} (q : tSh G z ob e ar) : (∃ ci fs, ob = .inr (ci, fs)) ∧ ∃ ty n f, ar = .inl (ty, n, f) := by
  rcases z with ⟨m, xs⟩ | xs | cs
  · obtain ⟨h1, cap, f, h2, -⟩ := q; exact ⟨⟨_, _, h1⟩, _, _, _, h2⟩
  · obtain ⟨hd, f, h1, h2, -⟩ := q; exact ⟨⟨_, _, h1⟩, _, _, _, h2⟩
  · obtain ⟨ml, cap, f, h1, h2, -⟩ := q; exact ⟨⟨_, _, h1⟩, _, _, _, h2⟩
theorem tR.io (R : tR G k h) {a : Nat} {x : t_O} (e : k a = some x) (hx : ∀ y, x = .inl y → ∃ ci fs, y = .inr (ci, fs)) : tIo h a := by
  obtain ⟨-, ⟨o, H⟩, -⟩ := R
  have := H a x e
  cases x with
  | inl y => obtain ⟨ci, fs, hy⟩ := hx y rfl; exact ⟨ci, fs, by rw [← hy]; exact this⟩
  | inr z => obtain ⟨-, ⟨ob, b, ar, h1, -, h3, -⟩, -⟩ := this; obtain ⟨⟨ci, fs, rfl⟩, -⟩ := h3.ob; exact ⟨ci, fs, h1⟩
/-- what changes at a, at its array b, at a new array b' -/
theorem tIn.cl {o : Nat → Nat} {h' : zH} {a b b' : Nat} {x' : t_O} (H : ∀ c x, k c = some x → tIn G o k h c x) (hB : zB G h) (ha : k a ≠ none ∨ h a = none) (ab : zb G ≤ a)
    (fr : ∀ c, c ≠ a → c ≠ b → c ≠ b' → h' c = h c) (hb : b = a ∨ (k b = none ∧ o b = a ∧ zb G ≤ b)) (hb' : b' = b ∨ (h b' = none ∧ zb G ≤ b')) (io : ∀ y, tIo h y → tIo h' y)
    (new : tIn G (fun c => if c = b' then a else o c) (tUp k a x') h' a x') : ∀ c x, tUp k a x' c = some x → tIn G (fun c => if c = b' then a else o c) (tUp k a x') h' c x := by
  intro c x hc
  by_cases ca : c = a
  · subst ca; rw [tUp_s] at hc; cases hc; exact new
  · rw [tUp_n ca] at hc
    have I := H c x hc
    have cb : c ≠ b := by
      rcases hb with hb | hb
      · rw [hb]; exact ca
      · intro e; rw [e, hb.1] at hc; cases hc
    have hcn : h c ≠ none := by
      cases x with
      | inl y => rw [show h c = some y from I]; exact fun z => by cases z
      | inr z => obtain ⟨-, ⟨ob, b, ar, h1, -⟩, -⟩ := I; rw [h1]; exact fun z => by cases z
    have cb' : c ≠ b' := by
      rcases hb' with hb' | hb'
      · rw [hb']; exact cb
      · intro e; rw [e] at hcn; exact hcn hb'.1
    cases x with
    | inl y => show h' c = some y; rw [fr c ca cb cb']; exact I
    | inr z =>
      obtain ⟨i0, ⟨ob, e, ar, h1, h2, h3, h4⟩, h5⟩ := I
      refine ⟨i0, ⟨ob, e, ar, by rw [fr c ca cb cb']; exact h1, ?_, h3, ?_⟩, fun y hy => io y (h5 y hy)⟩
      all_goals
        have ea : e ≠ a := by
          intro q; subst q
          rcases h4 with h4 | h4
          · omega
          · rcases ha with ha | ha
            · exact ha h4.1
            · rw [ha] at h2; cases h2
        have eb : e ≠ b := by
          rcases hb with hb | hb
          · rw [hb]; exact ea
          · intro q; subst q
            rcases h4 with h4 | h4
            · omega
            · exact ca (h4.2.symm.trans hb.2.1)
        have eb' : e ≠ b' := by
          rcases hb' with hb' | hb'
          · rw [hb']; exact eb
          · intro q; rw [q, hb'.1] at h2; cases h2
      · rw [fr e ea eb eb']; exact h2
      · rcases h4 with h4 | h4
        · exact Or.inl h4
        · right
          refine ⟨by rw [tUp_n ea]; exact h4.1, ?_⟩
          show (if e = b' then a else o e) = c
          rw [if_neg eb']; exact h4.2
theorem tR.cl {h' : zH} {a b b' : Nat} {x' : t_O} {o : Nat → Nat} (R : tR G k h) (H : ∀ c x, k c = some x → tIn G o k h c x) (ha : k a ≠ none ∨ h a = none) (ab : zb G ≤ a)
    (fr : ∀ c, c ≠ a → c ≠ b → c ≠ b' → h' c = h c) (hb : b = a ∨ (k b = none ∧ o b = a ∧ zb G ≤ b)) (hb' : b' = b ∨ (h b' = none ∧ zb G ≤ b')) (io : ∀ y, tIo h y → tIo h' y)
    (new : tIn G (fun c => if c = b' then a else o c) (tUp k a x') h' a x') : tR G (tUp k a x') h' := by
  refine ⟨fun c hc => ?_, ⟨_, tIn.cl H R.1 ha ab fr hb hb' io new⟩, fun c x hc hx => ?_⟩
  · rw [fr c (by omega) (by rcases hb with hb | hb <;> omega) (by rcases hb' with hb' | hb' <;> rcases hb with hb | hb <;> omega)]; exact R.1 c hc
  · rw [tUp_n (by omega)]; exact R.2.2 c x hc hx
/-- a plain cell is written -/
theorem tR.up {a : Nat} {x x' : zOb} (R : tR G k h) (e : k a = some (.inl x)) (ab : zb G ≤ a) (hx : (∃ ci fs, x = .inr (ci, fs)) → ∃ ci fs, x' = .inr (ci, fs)) : tR G (tUp k a (.inl x')) (zUp h a x') := by
  have R2 := R
  obtain ⟨-, ⟨o, H⟩, -⟩ := R2
  refine R.cl (b := a) (b' := a) H (Or.inl (by rw [e]; exact fun z => by cases z)) ab (fun c ca _ _ => zUp_ne h x' ca) (Or.inl rfl) (Or.inl rfl) ?_ (zUp_self h a x')
  rintro y ⟨ci, fs, hy⟩
  by_cases ya : y = a
  · subst ya
    obtain ⟨c2, f2, h2⟩ := hx ⟨ci, fs, by have := R.e e; rw [hy] at this; cases this; rfl⟩
    exact ⟨c2, f2, by rw [zUp_self, h2]⟩
  · exact ⟨ci, fs, by rw [zUp_ne h x' ya]; exact hy⟩
/-- a new cell -/
theorem tR.new {a : Nat} {x' : zOb} (R : tR G k h) (e : h a = none) (ab : zb G ≤ a) : tR G (tUp k a (.inl x')) (zUp h a x') := by
  have R2 := R
  obtain ⟨-, ⟨o, H⟩, -⟩ := R2
  refine R.cl (b := a) (b' := a) H (Or.inr e) ab (fun c ca _ _ => zUp_ne h x' ca) (Or.inl rfl) (Or.inl rfl) ?_ (zUp_self h a x')
  rintro y ⟨ci, fs, hy⟩
  exact ⟨ci, fs, by rw [zUp_ne h x' (by intro q; rw [q, e] at hy; cases hy)]; exact hy⟩
/-- less is known -/
theorem tR.le {k' : t_H} (R : tR G k h) (hle : ∀ a x, k' a = some x → k a = some x) (hold : ∀ a x, a < zb G → k a = some x → k' a = some x) : tR G k' h := by
  obtain ⟨h1, ⟨o, H⟩, h3⟩ := R
  refine ⟨h1, ⟨o, fun a x hx => ?_⟩, fun a x ha hx => hold a _ ha (h3 a x ha hx)⟩
  have I := H a x (hle a x hx)
  cases x with
  | inl y => exact I
  | inr z =>
    obtain ⟨i0, ⟨ob, e, ar, h1, h2, h3, h4⟩, h5⟩ := I
    refine ⟨i0, ⟨ob, e, ar, h1, h2, h3, ?_⟩, h5⟩
    rcases h4 with h4 | h4
    · exact Or.inl h4
    · refine Or.inr ⟨?_, h4.2⟩
      cases hk : k' e with
      | none => rfl
      | some w => have := hle e w hk; rw [h4.1] at this; cases this
/-- reading -/
theorem tGi (R : tR G k h) {a ci j : Nat} {fs : List Value} {x : Int32} {p : Int32 → Prop} (e : k a = some (tOb ci fs)) (e2 : zFd fs j = .int x) (q : p x) : zGi h a ci j p := by
  simp only [zGi, R.e e, e2, true_and]; exact q
theorem tGr (R : tR G k h) {a ci j : Nat} {fs : List Value} {x : Nat} {p : Nat → Prop} (e : k a = some (tOb ci fs)) (e2 : zFd fs j = .ref x) (q : p x) : zGr h a ci j p := by
  simp only [zGr, R.e e, e2, true_and]; exact q
theorem tGn (R : tR G k h) {a ci j : Nat} {fs : List Value} {x : Option Nat} {p : Option Nat → Prop} (e : k a = some (tOb ci fs)) (e2 : zFd fs j = va_rf x) (q : p x) : zGn h a ci j p := by
  cases x <;> simp only [zGn, R.e e, e2, va_rf, true_and] <;> exact q
theorem tPf (R : tR G k h) {a ci j : Nat} {fs : List Value} {v : Value} {p : zH → Prop} (e : k a = some (tOb ci fs)) (ab : zb G ≤ a) (q : ∀ h1, tR G (tUp k a (tOb ci (zFs fs j v))) h1 → p h1) : zPf G h a ci j v p := by
  simp only [zPf, R.e e, true_and]
  refine ⟨ab, fun h1 e1 => q h1 ?_⟩
  subst e1
  exact R.up e ab (fun _ => ⟨_, _, rfl⟩)
theorem tAi (R : tR G k h) {a : Nat} {ty : FieldType} {N : Nat} {f : Nat → Value} {i : Int32} {x : Int32} {p : Int32 → Prop} (e : k a = some (tAr ty N f)) (hi : vp_in i N) (e2 : f i.toNatClampNeg = .int x) (q : p x) : zAi h a ty i p := by
  simp only [zAi, R.e e, e2, true_and]; exact ⟨hi, q⟩
theorem tAl (R : tR G k h) {a : Nat} {ty : FieldType} {N : Nat} {f : Nat → Value} {p : Nat → Prop} (e : k a = some (tAr ty N f)) (q : p N) : zAl h a p := by
  simp only [zAl, R.e e]; exact q
theorem tSt (R : tR G k h) {a : Nat} {ty : FieldType} {N : Nat} {f : Nat → Value} {i : Int32} {v : Value} {p : zH → Prop} (e : k a = some (tAr ty N f)) (hi : vp_in i N) (ab : zb G ≤ a) (q : ∀ h1, tR G (tUp k a (tAr ty N (zUv f i.toNatClampNeg v))) h1 → p h1) : zSt1 G h a ty i v p := by
  simp only [zSt1, R.e e, true_and]
  refine ⟨hi, ab, fun h1 e1 => q h1 ?_⟩
  subst e1
  exact R.up e ab (by rintro ⟨ci, fs, z⟩; cases z)
theorem tOc (R : tR G k h) {a ci : Nat} {fs : List Value} {p : Prop} (e : k a = some (tOb ci fs)) (q : p) : zOc h a ci p := by
  simp only [zOc, R.e e, true_and]; exact q
def tCi : t_Z → Nat
  | .inl _ => 11
  | .inr (.inl _) => 13
  | .inr (.inr _) => 14
theorem tOcZ (R : tR G k h) {a : Nat} {z : t_Z} {p : Prop} (e : k a = some (.inr z)) (q : p) : zOc h a (tCi z) p := by
  obtain ⟨-, ⟨o, H⟩, -⟩ := R
  obtain ⟨-, ⟨ob, b, ar, h1, -, h3, -⟩, -⟩ := H a _ e
  rcases z with ⟨m, xs⟩ | xs | cs
  · obtain ⟨h1', -⟩ := h3; subst h1'; simp only [zOc, h1, tCi, true_and]; exact q
  · obtain ⟨hd, f, h1', -⟩ := h3; subst h1'; simp only [zOc, h1, tCi, true_and]; exact q
  · obtain ⟨ml, cap, f, h1', -⟩ := h3; subst h1'; simp only [zOc, h1, tCi, true_and]; exact q
end TR
/-! contracts over cells seen from afar -/
def tC (l : Launch) (G : zG) (d : Nat) (M : zM) (As : List Value) (k : t_H) (mc : Nat) (Q : zRes → t_H → Prop) : Prop := ∀ h, tR G k h → zCt l G d M As h mc (fun r h' => ∃ k', tR G k' h' ∧ Q r k')
def tqI (X : String → t_H → Prop) (P : Int32 → t_H → Prop) : zRes → t_H → Prop := fun r h => match r with
  | .inl (some (.int x)) => P x h
  | .inr E => X E h
  | _ => False
def tqR (X : String → t_H → Prop) (P : Nat → t_H → Prop) : zRes → t_H → Prop := fun r h => match r with
  | .inl (some (.ref x)) => P x h
  | .inr E => X E h
  | _ => False
def tqN (X : String → t_H → Prop) (P : Option Nat → t_H → Prop) : zRes → t_H → Prop := fun r h => match r with
  | .inl (some (.ref x)) => P (some x) h
  | .inl (some .null) => P none h
  | .inr E => X E h
  | _ => False
def tqV (X : String → t_H → Prop) (P : t_H → Prop) : zRes → t_H → Prop := fun r h => match r with
  | .inl none => P h
  | .inr E => X E h
  | _ => False
def tqD (X : String → t_H → Prop) (P : UInt64 → t_H → Prop) : zRes → t_H → Prop := fun r h => match r with
  | .inl (some (.double x)) => P x h
  | .inr E => X E h
  | _ => False
def tqF (X : String → t_H → Prop) (P : UInt32 → t_H → Prop) : zRes → t_H → Prop := fun r h => match r with
  | .inl (some (.float x)) => P x h
  | .inr E => X E h
  | _ => False
def tNo : String → t_H → Prop := fun _ _ => False
/-- answers v, the cells become k2 -/
abbrev tIr (v : Int32) (k2 : t_H) : zRes → t_H → Prop := tqI tNo (fun x k' => x = v ∧ k' = k2)
abbrev tRr (v : Nat) (k2 : t_H) : zRes → t_H → Prop := tqR tNo (fun x k' => x = v ∧ k' = k2)
abbrev tVr (k2 : t_H) : zRes → t_H → Prop := tqV tNo (fun k' => k' = k2)
section TC
variable {l : Launch} {G : zG} {d mc d' mc' : Nat} {M' : zM} {As : List Value} {k : t_H} {h : zH} {n : Nat} {RX : String → zH → Nat → Prop} {XP : String → t_H → Prop}
theorem tCall.I {Post : Int32 → t_H → Prop} {p : Int32 → zH → Nat → Prop} (R : tR G k h) (ct : tC l G d' M' As k mc' (tqI XP Post)) (hd : d' + 1 ≤ d) (hm : n + mc' ≤ mc) (q : ∀ x k' h', tR G k' h' → Post x k' → p x h' (n + mc')) (qx : ∀ E k' h', tR G k' h' → XP E k' → RX E h' (n + mc')) : zCall l G d mc M' As h n (zRI RX p) :=
  zCall.of (ct h R) hd hm fun r h' hb hq => by
    obtain ⟨k', R', hq⟩ := hq
    unfold tqI at hq; unfold zRI
    split at hq
    · exact q _ _ _ R' hq
    · exact qx _ _ _ R' hq
    · exact hq.elim
theorem tCall.R {Post : Nat → t_H → Prop} {p : Nat → zH → Nat → Prop} (R : tR G k h) (ct : tC l G d' M' As k mc' (tqR XP Post)) (hd : d' + 1 ≤ d) (hm : n + mc' ≤ mc) (q : ∀ x k' h', tR G k' h' → Post x k' → p x h' (n + mc')) (qx : ∀ E k' h', tR G k' h' → XP E k' → RX E h' (n + mc')) : zCall l G d mc M' As h n (zRR RX p) :=
  zCall.of (ct h R) hd hm fun r h' hb hq => by
    obtain ⟨k', R', hq⟩ := hq
    unfold tqR at hq; unfold zRR
    split at hq
    · exact q _ _ _ R' hq
    · exact qx _ _ _ R' hq
    · exact hq.elim
theorem tCall.V {Post : t_H → Prop} {p : zH → Nat → Prop} (R : tR G k h) (ct : tC l G d' M' As k mc' (tqV XP Post)) (hd : d' + 1 ≤ d) (hm : n + mc' ≤ mc) (q : ∀ k' h', tR G k' h' → Post k' → p h' (n + mc')) (qx : ∀ E k' h', tR G k' h' → XP E k' → RX E h' (n + mc')) : zCall l G d mc M' As h n (zRV RX p) :=
  zCall.of (ct h R) hd hm fun r h' hb hq => by
    obtain ⟨k', R', hq⟩ := hq
    unfold tqV at hq; unfold zRV
    split at hq
    · exact q _ _ R' hq
    · exact qx _ _ _ R' hq
    · exact hq.elim
theorem tCall.N {Post : Option Nat → t_H → Prop} {p : Option Nat → zH → Nat → Prop} (R : tR G k h) (ct : tC l G d' M' As k mc' (tqN XP Post)) (hd : d' + 1 ≤ d) (hm : n + mc' ≤ mc) (q : ∀ x k' h', tR G k' h' → Post x k' → p x h' (n + mc')) (qx : ∀ E k' h', tR G k' h' → XP E k' → RX E h' (n + mc')) : zCall l G d mc M' As h n (zRN RX p) :=
  zCall.of (ct h R) hd hm fun r h' hb hq => by
    obtain ⟨k', R', hq⟩ := hq
    unfold tqN at hq; unfold zRN
    split at hq
    · exact q _ _ _ R' hq
    · exact q _ _ _ R' hq
    · exact qx _ _ _ R' hq
    · exact hq.elim
theorem tCall.D {Post : UInt64 → t_H → Prop} {p : UInt64 → zH → Nat → Prop} (R : tR G k h) (ct : tC l G d' M' As k mc' (tqD XP Post)) (hd : d' + 1 ≤ d) (hm : n + mc' ≤ mc) (q : ∀ x k' h', tR G k' h' → Post x k' → p x h' (n + mc')) (qx : ∀ E k' h', tR G k' h' → XP E k' → RX E h' (n + mc')) : zCall l G d mc M' As h n (zRD RX p) :=
  zCall.of (ct h R) hd hm fun r h' hb hq => by
    obtain ⟨k', R', hq⟩ := hq
    unfold tqD at hq; unfold zRD
    split at hq
    · exact q _ _ _ R' hq
    · exact qx _ _ _ R' hq
    · exact hq.elim
theorem tCall.F {Post : UInt32 → t_H → Prop} {p : UInt32 → zH → Nat → Prop} (R : tR G k h) (ct : tC l G d' M' As k mc' (tqF XP Post)) (hd : d' + 1 ≤ d) (hm : n + mc' ≤ mc) (q : ∀ x k' h', tR G k' h' → Post x k' → p x h' (n + mc')) (qx : ∀ E k' h', tR G k' h' → XP E k' → RX E h' (n + mc')) : zCall l G d mc M' As h n (zRF RX p) :=
  zCall.of (ct h R) hd hm fun r h' hb hq => by
    obtain ⟨k', R', hq⟩ := hq
    unfold tqF at hq; unfold zRF
    split at hq
    · exact q _ _ _ R' hq
    · exact qx _ _ _ R' hq
    · exact hq.elim
/-- calls that answer a known thing -/
theorem tC.i {v : Int32} {k2 : t_H} {p : Int32 → zH → Nat → Prop} (R : tR G k h) (ct : tC l G d' M' As k mc' (tIr v k2)) (hd : d' + 1 ≤ d) (hm : n + mc' ≤ mc) (q : ∀ h', tR G k2 h' → p v h' (n + mc')) : zCall l G d mc M' As h n (zRI RX p) :=
  tCall.I R ct hd hm (fun x k' h' R' e => by obtain ⟨rfl, rfl⟩ := e; exact q h' R') (fun E k' h' _ e => e.elim)
theorem tC.r {v : Nat} {k2 : t_H} {p : Nat → zH → Nat → Prop} (R : tR G k h) (ct : tC l G d' M' As k mc' (tRr v k2)) (hd : d' + 1 ≤ d) (hm : n + mc' ≤ mc) (q : ∀ h', tR G k2 h' → p v h' (n + mc')) : zCall l G d mc M' As h n (zRR RX p) :=
  tCall.R R ct hd hm (fun x k' h' R' e => by obtain ⟨rfl, rfl⟩ := e; exact q h' R') (fun E k' h' _ e => e.elim)
theorem tC.v {k2 : t_H} {p : zH → Nat → Prop} (R : tR G k h) (ct : tC l G d' M' As k mc' (tVr k2)) (hd : d' + 1 ≤ d) (hm : n + mc' ≤ mc) (q : ∀ h', tR G k2 h' → p h' (n + mc')) : zCall l G d mc M' As h n (zRV RX p) :=
  tCall.V R ct hd hm (fun k' h' R' e => by subst e; exact q h' R') (fun E k' h' _ e => e.elim)
end TC
