/-! THE ABSTRACT MACHINE: a heap as a partial map from addresses to arrays and objects; a judgement zV over it, and a contract zCt of a method, both over the kit's W and vx_Met -/
/-- an array (element type, length, contents) or an object (class number, fields) -/
abbrev zOb : Type := (FieldType × Nat × (Nat → Value)) ⊕ (Nat × List Value)
abbrev zH : Type := Nat → Option zOb
/-- what a run fixes: class ids, field slots; which class ids are arrays of a type; the heap at the start and what is known of it; the addresses of text constants, what statics hold -/
abbrev zG : Type := (va_G × (ClassId → FieldType → Prop)) × (Heap × zH) × ((String → Nat → Nat) × (String → String → Value))
def zD (G : zG) : va_G := G.1.1
def zAk (G : zG) : ClassId → FieldType → Prop := G.1.2
def zH0 (G : zG) : Heap := G.2.1.1
def zh0 (G : zG) : zH := G.2.1.2
def zSt (G : zG) : String → Nat → Nat := G.2.2.1
def zZs (G : zG) : String → String → Value := G.2.2.2
def zb (G : zG) : Nat := (zH0 G).size
def zFd : List Value → Nat → Value
  | [], _ => .null
  | x :: _, 0 => x
  | _ :: t, n + 1 => zFd t n
def zFs : List Value → Nat → Value → List Value
  | [], _, _ => []
  | _ :: t, 0, v => v :: t
  | x :: t, n + 1, v => x :: zFs t n v
theorem zFs_length : ∀ (l : List Value) (k : Nat) (v : Value), (zFs l k v).length = l.length
  | [], _, _ => rfl
  | _ :: _, 0, _ => rfl
  | _ :: t, n + 1, v => by simp [zFs, zFs_length t n v]
theorem zFd_set : ∀ (l : List Value) (k j : Nat) (v : Value), k < l.length → zFd (zFs l k v) j = if j = k then v else zFd l j
  | [], k, j, v, h => absurd h (Nat.not_lt_zero k)
  | x :: t, 0, j, v, h => by cases j <;> simp [zFs, zFd]
  | x :: t, n + 1, j, v, h => by
    cases j with
    | zero => simp [zFs, zFd]
    | succ j =>
      have h2 := zFd_set t n j v (Nat.lt_of_succ_lt_succ h)
      simp only [zFs, zFd, h2, Nat.succ_eq_add_one, Nat.add_right_cancel_iff]
def zUp (h : zH) (a : Nat) (o : zOb) : zH := fun b => if b = a then some o else h b
def zUv (f : Nat → Value) (k : Nat) (v : Value) : Nat → Value := fun j => if j = k then v else f j
theorem zUp_self (h : zH) (a : Nat) (o : zOb) : zUp h a o a = some o := if_pos rfl
theorem zUp_ne (h : zH) {a b : Nat} (o : zOb) (n : b ≠ a) : zUp h a o b = h b := if_neg n
/-- a cell is as said -/
def zAt (G : zG) (a : Nat) (o : zOb) (H : Heap) : Prop := match o with
  | .inl (ty, n, f) => ∃ cell : Cell, H[a]? = some cell ∧ zAk G cell.cls ty ∧ cell.vm ≠ .unknown ∧ (∀ k, cell.vm ≠ .statics k) ∧ cell.slots.size = n ∧ n < 2 ^ 31 ∧ ∀ j, j < n → cell.slots[j]? = some (f j)
  | .inr (ci, fs) => ∃ (cell : Cell) (r : vw_C), H[a]? = some cell ∧ zCL[ci]? = some r ∧ cell.cls = (zD G).1 ci ∧ (zb G ≤ a → cell.vm = .none) ∧ cell.vm ≠ .unknown ∧ (∀ k, cell.vm ≠ .statics k) ∧ fs.length = r.2.2 ∧ ∀ k, k < r.2.2 → cell.slots[(zD G).2 ci k]? = some (zFd fs k)
theorem zAt.kept {G : zG} {a : Nat} {o : zOb} {H H1 : Heap} (h : zAt G a o H) (hq : H1[a]? = H[a]?) : zAt G a o H1 := by
  rcases o with ⟨ty, n, f⟩ | ⟨ci, fs⟩
  · obtain ⟨cell, h1, h2⟩ := h
    exact ⟨cell, by rw [hq]; exact h1, h2⟩
  · obtain ⟨cell, r, h1, h2⟩ := h
    exact ⟨cell, r, by rw [hq]; exact h1, h2⟩
theorem zAt.lt {G : zG} {a : Nat} {o : zOb} {H : Heap} (h : zAt G a o H) : a < H.size := by
  rcases o with ⟨ty, n, f⟩ | ⟨ci, fs⟩
  · obtain ⟨cell, h1, -⟩ := h
    exact (Array.getElem?_eq_some_iff.mp h1).1
  · obtain ⟨cell, r, h1, -⟩ := h
    exact (Array.getElem?_eq_some_iff.mp h1).1
/-- the world: the old cells are as they were, the abstract heap tells of the heap -/
def zWd (G : zG) (h : zH) (H : Heap) : Prop := zb G ≤ H.size ∧ (∀ a, a < zb G → H[a]? = (zH0 G)[a]?) ∧ (∀ a, a < zb G → h a = zh0 G a) ∧ ∀ a o, h a = some o → zAt G a o H
theorem zWd.put {G : zG} {h : zH} {H H1 : Heap} {a : Nat} {o : zOb} (hW : zWd G h H) (ha : zb G ≤ a) (z : H1.size = H.size) (oq : ∀ q : Nat, q ≠ a → H1[q]? = H[q]?) (he : zAt G a o H1) : zWd G (zUp h a o) H1 := by
  obtain ⟨h1, h2, h3, h4⟩ := hW
  refine ⟨by rw [z]; exact h1, fun b hb => ?_, fun b hb => ?_, fun b ob hob => ?_⟩
  · rw [oq b (by omega)]; exact h2 b hb
  · rw [zUp_ne h o (by omega : b ≠ a)]; exact h3 b hb
  · by_cases hba : b = a
    · subst hba
      rw [zUp_self] at hob
      cases hob
      exact he
    · rw [zUp_ne h o hba] at hob
      exact (h4 b ob hob).kept (oq b hba)
theorem zWd.push {G : zG} {h : zH} {H H1 : Heap} {o : zOb} (hW : zWd G h H) (z : H1.size = H.size + 1) (oq : ∀ q : Nat, q < H.size → H1[q]? = H[q]?) (he : zAt G H.size o H1) : zWd G (zUp h H.size o) H1 := by
  obtain ⟨h1, h2, h3, h4⟩ := hW
  refine ⟨by omega, fun b hb => ?_, fun b hb => ?_, fun b ob hob => ?_⟩
  · rw [oq b (by omega)]; exact h2 b hb
  · rw [zUp_ne h o (by omega : b ≠ H.size)]; exact h3 b hb
  · by_cases hba : b = H.size
    · subst hba
      rw [zUp_self] at hob
      cases hob
      exact he
    · rw [zUp_ne h o hba] at hob
      exact (h4 b ob hob).kept (oq b (h4 b ob hob).lt)
theorem zWd.fresh {G : zG} {h : zH} {H : Heap} (hW : zWd G h H) : h H.size = none := by
  cases hh : h H.size with
  | none => rfl
  | some o => exact absurd (hW.2.2.2 _ o hh).lt (Nat.lt_irrefl _)
theorem zWd.lt {G : zG} {h : zH} {H : Heap} (hW : zWd G h H) {a : Nat} {o : zOb} (hh : h a = some o) : a < H.size := (hW.2.2.2 _ o hh).lt
/-! ===== the tables ===== -/
/-- words that the tables alone decide, and that stay -/
def zMv (w : Cond) : Bool := w.onTables && (w.keepsH || w.keepsFace)
theorem zMv_warm {w : Cond} (hw : zMv w = true) {s U : State} (hW : s.WarmedH U.vm) (h : va_Nw w s) : va_Nw w U := by
  simp only [zMv, Bool.and_eq_true, Bool.or_eq_true] at hw
  obtain ⟨h1, h2 | h2⟩ := hw
  · have h3 : w.before #[] (U.setVm U.vm) = true := Cond.onTables_warmH (args := #[]) (args' := #[]) (T := U) hW h1 h2 h
    rwa [State.setVm_self] at h3
  · have h3 : w.before #[] (s.setVm U.vm) = true := Cond.before_shiftedFace (State.Shifted.of_warmed hW) w h2 h
    exact va_tabs (u := s.setVm U.vm) h1 rfl h3
def zAk0 (U : State) (c : ClassId) (ty : FieldType) : Prop := (∃ (k : Class) (comp : ClassId), U.vm.classes[c]? = some k ∧ k.kind = .array comp ty) ∧ (ty = .object "java/lang/Object" ∨ ty = .byte → va_RA U c ty)
theorem zAk0.moved {u U : State} (hvm : u.vm.Alike U.vm) {c : ClassId} {ty : FieldType} (h : zAk0 u c ty) : zAk0 U c ty := by
  obtain ⟨⟨k, comp, h1, h2⟩, h3⟩ := h
  obtain ⟨k', hk', he⟩ := hvm.2.2 _ _ h1
  exact ⟨⟨k', comp, hk', by rw [he]; exact h2⟩, fun e => (h3 e).moved hvm⟩
