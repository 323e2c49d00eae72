/-! reading: what both sides compute; the model's side of it -/
/-- where the reader stands, whether there was a fault -/
abbrev oQ : Type := Nat × Bool
def oS (cs : List Int32) (p : Nat) : Int32 := if cs.length ≤ p then -1 else cs.getD p 0
def oN (cs : List Int32) (q : oQ) (x : Int32) : oQ := if q.2 then q else if oS cs q.1 = x then (q.1 + 1, false) else (q.1, true)
def oW (cs : List Int32) (q : oQ) (w : List Int32) : oQ := w.foldl (oN cs) q
def oDg (x : Int32) : Bool := zbt x 48 57
def oNl (cs : List Int32) : Nat → Nat → Int32 → Nat × Int32
  | 0, p, v => (p, v)
  | j + 1, p, v => if oDg (oS cs p) then oNl cs j (p + 1) (10 * v + oS cs p - 48) else (p, v)
def oNu (cs : List Int32) (q : oQ) (m : Nat) : Int32 × oQ := if q.2 then (0, q) else if oDg (oS cs q.1) then ((oNl cs m q.1 0).2, ((oNl cs m q.1 0).1, false)) else (0, (q.1, true))
def oSd (cs : List Int32) (q : oQ) : Int32 × oQ := if q.2 then (0, q) else if oS cs q.1 = 119 then (0, (q.1 + 1, false)) else if oS cs q.1 = 101 then (1, (q.1 + 1, false)) else (0, (q.1, true))
def oLw (cs : List Int32) (q : oQ) : Int32 × oQ :=
  if q.2 then (0, q)
  else if oS cs q.1 = 102 then (0, oW cs q [102, 114, 101, 101])
  else if oS cs q.1 = 108 then (2, oW cs q [108, 111, 97, 100])
  else if oS cs q.1 = 116 then (1, oW cs q [116, 117, 114, 110, 115])
  else if oS cs q.1 = 119 then (3, oW cs q [119, 97, 105, 116])
  else (0, (q.1, true))
def oWd (cs : List Int32) (q : oQ) (f : Int32) : Int32 × oQ :=
  if f = 99 then (99, oW cs q [97, 114, 116])
  else if f = 108 then (if oS cs q.1 = 101 then (118, oW cs q [101, 97, 118, 101]) else (108, oW cs q [97, 119]))
  else if f = 116 then (if oS cs q.1 = 117 then (117, oW cs q [117, 114, 110]) else (116, oW cs q [105, 99, 107]))
  else if f = 121 then (121, oW cs q [105, 101, 108, 100])
  else if oS cs q.1 = 112 then (112, oW cs q [112, 97, 110, 115]) else (104, oW cs q [104, 97, 114, 101])
theorem oS_lt {cs : List Int32} {p : Nat} (h : oS cs p ≠ -1) : p < cs.length := by
  by_cases c : cs.length ≤ p
  · rw [oS, if_pos c] at h; exact absurd rfl h
  · omega
theorem oDg_lt {cs : List Int32} {p : Nat} (h : oDg (oS cs p) = true) : p < cs.length :=
  oS_lt (fun e => by rw [e] at h; exact absurd h (by decide))
theorem oN_f (cs : List Int32) {q : oQ} (h : q.2 = true) (x : Int32) : oN cs q x = q := by rw [oN, if_pos h]
theorem oW_f (cs : List Int32) {q : oQ} (h : q.2 = true) : ∀ w, oW cs q w = q
  | [] => rfl
  | x :: w => by
    show oW cs (oN cs q x) w = q
    rw [oN_f cs h]; exact oW_f cs h w
theorem oN_le {cs : List Int32} {q : oQ} (hq : q.1 ≤ cs.length) {x : Int32} (hx : x ≠ -1) : q.1 ≤ (oN cs q x).1 ∧ (oN cs q x).1 ≤ cs.length := by
  rw [oN]
  split
  · exact ⟨Nat.le_refl _, hq⟩
  · split
    · next h => exact ⟨Nat.le_succ _, oS_lt (by rw [h]; exact hx)⟩
    · exact ⟨Nat.le_refl _, hq⟩
theorem oW_le {cs : List Int32} : ∀ (w : List Int32) {q : oQ}, q.1 ≤ cs.length → (∀ x ∈ w, x ≠ -1) → q.1 ≤ (oW cs q w).1 ∧ (oW cs q w).1 ≤ cs.length
  | [], _, h, _ => ⟨Nat.le_refl _, h⟩
  | x :: w, q, h, hw => by
    have h1 := oN_le h (hw x List.mem_cons_self)
    have h2 := oW_le w (q := oN cs q x) h1.2 (fun y hy => hw y (List.mem_cons_of_mem _ hy))
    exact ⟨Nat.le_trans h1.1 h2.1, h2.2⟩
theorem oNl_le {cs : List Int32} : ∀ (j p : Nat) (v : Int32), p ≤ cs.length → p ≤ (oNl cs j p v).1 ∧ (oNl cs j p v).1 ≤ cs.length
  | 0, p, v, h => ⟨Nat.le_refl _, h⟩
  | j + 1, p, v, h => by
    rw [oNl]
    split
    · next c =>
      have := oNl_le j (p + 1) (10 * v + oS cs p - 48) (oDg_lt c)
      exact ⟨by omega, this.2⟩
    · exact ⟨Nat.le_refl _, h⟩
theorem oNu_le {cs : List Int32} {q : oQ} (hq : q.1 ≤ cs.length) (m : Nat) : q.1 ≤ (oNu cs q m).2.1 ∧ (oNu cs q m).2.1 ≤ cs.length := by
  rw [oNu]
  split
  · exact ⟨Nat.le_refl _, hq⟩
  · split
    · exact oNl_le m q.1 0 hq
    · exact ⟨Nat.le_refl _, hq⟩
theorem oSd_le {cs : List Int32} {q : oQ} (hq : q.1 ≤ cs.length) : q.1 ≤ (oSd cs q).2.1 ∧ (oSd cs q).2.1 ≤ cs.length := by
  rw [oSd]
  split
  · exact ⟨Nat.le_refl _, hq⟩
  · split
    · next h => exact ⟨Nat.le_succ _, oS_lt (by rw [h]; decide)⟩
    · split
      · next h => exact ⟨Nat.le_succ _, oS_lt (by rw [h]; decide)⟩
      · exact ⟨Nat.le_refl _, hq⟩
theorem oLw_le {cs : List Int32} {q : oQ} (hq : q.1 ≤ cs.length) : q.1 ≤ (oLw cs q).2.1 ∧ (oLw cs q).2.1 ≤ cs.length := by
  rw [oLw]
  split
  · exact ⟨Nat.le_refl _, hq⟩
  · split
    · exact oW_le _ hq (by decide)
    · split
      · exact oW_le _ hq (by decide)
      · split
        · exact oW_le _ hq (by decide)
        · split
          · exact oW_le _ hq (by decide)
          · exact ⟨Nat.le_refl _, hq⟩
theorem oWd_le {cs : List Int32} {q : oQ} (hq : q.1 ≤ cs.length) (f : Int32) : q.1 ≤ (oWd cs q f).2.1 ∧ (oWd cs q f).2.1 ≤ cs.length := by
  rw [oWd]
  split
  · exact oW_le _ hq (by decide)
  · split
    · split <;> exact oW_le _ hq (by decide)
    · split
      · split <;> exact oW_le _ hq (by decide)
      · split
        · exact oW_le _ hq (by decide)
        · split <;> exact oW_le _ hq (by decide)
/-- the model's state while it reads -/
def oM (s : zMS) (q : oQ) (n : Nat) (o : Nat → Int32) : zMS := ((fun j => if j = 11 then nI q.1 else if j = 12 then (if q.2 then nI q.1 else -1) else if j = 15 then nI n else s.1 j), s.2.1, s.2.2.1, o, s.2.2.2.2)
def oT (s : zMS) (cs : List Int32) : Prop := s.1 10 = nI cs.length ∧ cs.length ≤ 60 ∧ ∀ i, i < cs.length → s.2.2.1 i = cs.getD i 0
section ZMR0
variable {s : zMS} {cs : List Int32} {q : oQ} {n : Nat} {o : Nat → Int32}
theorem oM_10 : (oM s q n o).1 10 = s.1 10 := rfl
theorem oM_11 : (oM s q n o).1 11 = nI q.1 := rfl
theorem oM_12 : (oM s q n o).1 12 = if q.2 then nI q.1 else -1 := rfl
theorem oM_15 : (oM s q n o).1 15 = nI n := rfl
theorem oM_f11 (p p' : Nat) : zMf (oM s (p, false) n o) 11 (nI p') = oM s (p', false) n o := by
  refine Prod.ext (funext fun j => ?_) rfl
  show (if j = 11 then nI p' else _) = _
  by_cases e : j = 11
  · rw [if_pos e, e]; rfl
  · rw [if_neg e]
    show (if j = 11 then _ else _) = (if j = 11 then _ else _)
    rw [if_neg e, if_neg e]; rfl
theorem oM_f12 (p : Nat) : zMf (oM s (p, false) n o) 12 (nI p) = oM s (p, true) n o := by
  refine Prod.ext (funext fun j => ?_) rfl
  show (if j = 12 then nI p else _) = _
  by_cases e : j = 12
  · rw [if_pos e, e]; rfl
  · rw [if_neg e]
    show (if j = 11 then _ else if j = 12 then _ else _) = (if j = 11 then _ else if j = 12 then _ else _)
    rw [if_neg e, if_neg e]
theorem oM_f15 (n' : Nat) : zMf (oM s q n o) 15 (nI n') = oM s q n' o := by
  refine Prod.ext (funext fun j => ?_) rfl
  show (if j = 15 then nI n' else _) = _
  by_cases e : j = 15
  · rw [if_pos e, e]; rfl
  · rw [if_neg e]
    show (if j = 11 then _ else if j = 12 then _ else if j = 15 then _ else _) = (if j = 11 then _ else if j = 12 then _ else if j = 15 then _ else _)
    rw [if_neg e, if_neg e]
theorem oM_r (i : Nat) (v : Int32) : zMr (oM s q n o) i v = oM s q n (zuf o i v) := rfl
theorem oM_ok (T : oT s cs) (hq : q.1 ≤ cs.length) : pOk (oM s q n o) := ⟨q.1, cs.length, rfl, T.1, hq, T.2.1⟩
theorem oM_sg (T : oT s cs) (hq : q.1 ≤ cs.length) : pSg (oM s q n o) = oS cs q.1 := by
  have h60 := T.2.1
  show (if s.1 10 ≤ nI q.1 then -1 else s.2.2.1 (nI q.1).toNatClampNeg) = _
  rw [T.1, oS, nI_clamp (by omega)]
  by_cases c : cs.length ≤ q.1
  · rw [if_pos c, if_pos ((nI_leI (by omega) (by omega)).mpr c)]
  · rw [if_neg c, if_neg (fun z => c ((nI_leI (by omega) (by omega)).mp z)), T.2.2 _ (by omega)]
theorem oM_lt (T : oT s cs) (hq : q.1 ≤ cs.length) : ((oM s q n o).1 12 < 0) = (q.2 = false) := by
  have h60 := T.2.1
  rw [oM_12]
  cases h : q.2
  · simp; decide
  · rw [if_pos rfl]
    exact propext ⟨fun z => absurd z (nI_pos (by omega)), fun z => by cases z⟩
theorem oM_ne (T : oT s cs) (hq : q.1 ≤ cs.length) (x : Int32) : pNe (oM s q n o) x = oM s (oN cs q x) n o := by
  rw [pNe, oM_lt T hq, oM_sg T hq, oN]
  obtain ⟨p, f⟩ := q
  cases f
  · rw [if_pos rfl, if_neg (by decide)]
    by_cases c : oS cs p = x
    · rw [if_pos c, if_pos c, oM_11, nI_1, oM_f11]
    · rw [if_neg c, if_neg c, oM_11, oM_f12]
  · rw [if_neg (by decide), if_pos rfl]
theorem oM_p3 (T : oT s cs) (hq : q.1 ≤ cs.length) {x y z : Int32} (hx : x ≠ -1) (hy : y ≠ -1) (hz : z ≠ 0) : pS3 (oM s q n o) x y z = oM s (oW cs q [x, y, z]) n o := by
  have h1 := (oN_le hq hx).2
  have h2 := (oN_le h1 hy).2
  rw [pS3, if_neg hz, oM_ne T hq, oM_ne T h1, oM_ne T h2]; rfl
theorem oM_p2 (T : oT s cs) (hq : q.1 ≤ cs.length) {x y : Int32} (hx : x ≠ -1) : pS3 (oM s q n o) x y 0 = oM s (oW cs q [x, y]) n o := by
  have h1 := (oN_le hq hx).2
  rw [pS3, if_pos rfl, oM_ne T hq, oM_ne T h1]; rfl
theorem oM_sd (T : oT s cs) (hq : q.1 ≤ cs.length) : pSd (oM s q n o) = ((oSd cs q).1, oM s (oSd cs q).2 n o) := by
  rw [pSd, oM_lt T hq, oM_sg T hq, oSd]
  obtain ⟨p, f⟩ := q
  cases f
  · rw [if_pos rfl, if_neg (by decide)]
    by_cases c : oS cs p = 119
    · rw [if_pos c, if_pos c, oM_11, nI_1, oM_f11]
    · rw [if_neg c, if_neg c]
      by_cases c2 : oS cs p = 101
      · rw [if_pos c2, if_pos c2, oM_11, nI_1, oM_f11]
      · rw [if_neg c2, if_neg c2, oM_11, oM_f12]
  · rw [if_neg (by decide), if_pos rfl]
theorem oM_lw (T : oT s cs) (hq : q.1 ≤ cs.length) : pLw (oM s q n o) = ((oLw cs q).1, oM s (oLw cs q).2 n o) := by
  have l3 : ∀ x y z : Int32, x ≠ -1 → y ≠ -1 → z ≠ -1 → (oW cs q [x, y, z]).1 ≤ cs.length := fun x y z hx hy hz => (oW_le [x, y, z] hq (by intro w hw; simp at hw; rcases hw with rfl | rfl | rfl <;> assumption)).2
  rw [pLw, oM_lt T hq, oM_sg T hq, oLw]
  cases hf : q.2
  · rw [if_pos rfl, if_neg (by decide)]
    by_cases c1 : oS cs q.1 = 102
    · rw [if_pos c1, if_pos c1, oM_p3 T hq (by decide) (by decide) (by decide), oM_ne T (l3 _ _ _ (by decide) (by decide) (by decide))]; rfl
    rw [if_neg c1, if_neg c1]
    by_cases c2 : oS cs q.1 = 108
    · rw [if_pos c2, if_pos c2, oM_p3 T hq (by decide) (by decide) (by decide), oM_ne T (l3 _ _ _ (by decide) (by decide) (by decide))]; rfl
    rw [if_neg c2, if_neg c2]
    by_cases c3 : oS cs q.1 = 116
    · rw [if_pos c3, if_pos c3, oM_p3 T hq (by decide) (by decide) (by decide), oM_p2 T (l3 _ _ _ (by decide) (by decide) (by decide)) (by decide)]; rfl
    rw [if_neg c3, if_neg c3]
    by_cases c4 : oS cs q.1 = 119
    · rw [if_pos c4, if_pos c4, oM_p3 T hq (by decide) (by decide) (by decide), oM_ne T (l3 _ _ _ (by decide) (by decide) (by decide))]; rfl
    rw [if_neg c4, if_neg c4, oM_11]
    obtain ⟨p, f⟩ := q
    have hf : f = false := hf
    subst hf
    rw [oM_f12]
  · rw [if_neg (by decide), if_pos rfl]
end ZMR0
section ZMR
variable {l : Launch} {G : zG} {h : zH} {A : zMA} {s : zMS} {d : Nat} {cs : List Int32} {q : oQ} {n : Nat} {o : Nat → Int32}
theorem s_signO (ht : l.stackTraces = false) (D : zMD G A) (T : oT s cs) (hq : q.1 ≤ cs.length) : zCt l G d MX3_sign [.ref A.1] (zMh h A (oM s q n o)) 0 (zIr (oS cs q.1) (zMh h A (oM s q n o))) := by
  have := s_sign (d := d) (h := h) ht D (oM_ok (n := n) (o := o) T hq)
  rw [oM_sg T hq] at this
  exact this
theorem s_needsO (ht : l.stackTraces = false) (D : zMD G A) (T : oT s cs) (hq : q.1 ≤ cs.length) (hd : 1 ≤ d) (x : Int32) : zCt l G d MX3_needs [.ref A.1, .int x] (zMh h A (oM s q n o)) 0 (zVr (zMh h A (oM s (oN cs q x) n o))) := by
  have := s_needs (d := d) (h := h) ht D hd (oM_ok (n := n) (o := o) T hq) x
  rw [oM_ne T hq] at this
  exact this
theorem s_signs3 (ht : l.stackTraces = false) (D : zMD G A) (T : oT s cs) (hq : q.1 ≤ cs.length) (hd : 2 ≤ d) {x y z : Int32} (hx : x ≠ -1) (hy : y ≠ -1) (hz : z ≠ 0) : zCt l G d MX3_signs [.ref A.1, .int x, .int y, .int z] (zMh h A (oM s q n o)) 0 (zVr (zMh h A (oM s (oW cs q [x, y, z]) n o))) := by
  have := s_signs (d := d) (h := h) ht D hd (oM_ok (n := n) (o := o) T hq) x y z hx hy
  rw [oM_p3 T hq hx hy hz] at this
  exact this
theorem s_signs2 (ht : l.stackTraces = false) (D : zMD G A) (T : oT s cs) (hq : q.1 ≤ cs.length) (hd : 2 ≤ d) {x y : Int32} (hx : x ≠ -1) (hy : y ≠ -1) : zCt l G d MX3_signs [.ref A.1, .int x, .int y, .int 0] (zMh h A (oM s q n o)) 0 (zVr (zMh h A (oM s (oW cs q [x, y]) n o))) := by
  have := s_signs (d := d) (h := h) ht D hd (oM_ok (n := n) (o := o) T hq) x y 0 hx hy
  rw [oM_p2 T hq hx] at this
  exact this
theorem s_sideO (ht : l.stackTraces = false) (D : zMD G A) (T : oT s cs) (hq : q.1 ≤ cs.length) (hd : 1 ≤ d) : zCt l G d MX3_side [.ref A.1] (zMh h A (oM s q n o)) 0 (zIr (oSd cs q).1 (zMh h A (oM s (oSd cs q).2 n o))) := by
  have := s_side (d := d) (h := h) ht D hd (oM_ok (n := n) (o := o) T hq)
  rw [oM_sd T hq] at this
  exact this
theorem s_lawO (ht : l.stackTraces = false) (D : zMD G A) (T : oT s cs) (hq : q.1 ≤ cs.length) (hd : 3 ≤ d) : zCt l G d MX3_lawWord [.ref A.1] (zMh h A (oM s q n o)) 0 (zIr (oLw cs q).1 (zMh h A (oM s (oLw cs q).2 n o))) := by
  have := s_lawWord (d := d) (h := h) ht D hd (oM_ok (n := n) (o := o) T hq)
  rw [oM_lw T hq] at this
  exact this
theorem s_numberO (ht : l.stackTraces = false) (D : zMD G A) (T : oT s cs) (hq : q.1 ≤ cs.length) (hd : 2 ≤ d) {m : Nat} (hm : m ≤ 2) : zCt l G d MX3_number [.ref A.1, .int (nI m)] (zMh h A (oM s q n o)) 0 (zIr (oNu cs q m).1 (zMh h A (oM s (oNu cs q m).2 n o))) := by
  have h60 := T.2.1
  refine zCt.of kX3_number ht (by simp [Value.category]) (Nat.le_of_ble_eq_true rfl) ?_
  refine b_X3_number_0 _ _ (zGi_m12.mpr ⟨fun c => ?_, fun c => ?_⟩)
  · rw [oM_lt T hq] at c
    obtain ⟨p, f⟩ := q
    have c : f = false := c
    subst c
    refine zMc (s_signO ht D T hq (d := d - 1)) (by omega) (Nat.le_refl _) (zCall.P (s_in ht (d := d - 1)) (by omega) (Nat.le_refl _) ⟨fun c2 => ?_, fun c2 => ?_⟩)
    · have c3 : oDg (oS cs p) = true := by
        rw [zbi_eq0, Bool.not_eq_false] at c2; exact c2
      have e : oNu cs (p, false) m = ((oNl cs m p 0).2, ((oNl cs m p 0).1, false)) := by rw [oNu, if_neg (by decide), if_pos c3]
      rw [e]
      have H : ∀ j i p v, i + j = m → p ≤ cs.length → ∀ w p9, w = (oNl cs j p v).2 → p9 = (oNl cs j p v).1 → zV l G d 0 MX3_number (zIr w (zMh h A (oM s (p9, false) n o))) 37 [some (.ref A.1), some (.int (nI m)), some (.int v), some (.int (nI i))] [] (zMh h A (oM s (p, false) n o)) 0 := by
        intro j
        induction j with
        | zero =>
          intro i p v hi hp w p9 hw h9
          subst hw; subst h9
          refine b_X3_number_37 _ _ _ _ (pk_le m i (fun _ => ⟨Nat.le_refl _, rfl, rfl⟩) (fun c => absurd c (by omega)) rfl rfl)
        | succ j ih =>
          intro i p v hi hp w p9 hw h9
          refine b_X3_number_37 _ _ _ _ (pk_le m i (fun c => absurd c (by omega)) (fun _ => ?_) rfl rfl)
          refine zMc (s_signO (q := (p, false)) ht D T hp (d := d - 1)) (by omega) (Nat.le_refl _) (zCall.P (s_in ht (d := d - 1)) (by omega) (Nat.le_refl _) ⟨fun c4 => ?_, fun c4 => ?_⟩)
          · have c5 : oDg (oS cs p) = false := zbi_eq0.mp c4
            rw [oNl, if_neg (by rw [c5]; decide)] at hw h9
            subst hw; subst h9
            exact ⟨Nat.le_refl _, rfl, rfl⟩
          · have c5 : oDg (oS cs p) = true := by
              rw [zbi_eq0, Bool.not_eq_false] at c4; exact c4
            rw [oNl, if_pos c5] at hw h9
            refine zMc (s_signO (q := (p, false)) ht D T hp (d := d - 1)) (by omega) (Nat.le_refl _) (zGi_m11.mpr ((zPf_m11 D).mpr ?_))
            rw [oM_11, nI_1, nI_1, oM_f11]
            exact ih (i + 1) (p + 1) _ (by omega) (oDg_lt c5) w p9 hw h9
      exact H m 0 p 0 (by omega) hq _ _ rfl rfl
    · have c3 : oDg (oS cs p) = false := zbi_eq0.mp (Classical.not_not.mp c2)
      have e : oNu cs (p, false) m = (0, (p, true)) := by rw [oNu, if_neg (by decide), if_neg (by rw [c3]; decide)]
      rw [e]
      refine zGi_m11.mpr ((zPf_m12 D).mpr ⟨Nat.le_refl _, rfl, ?_⟩)
      rw [oM_11, oM_f12]
  · rw [oM_lt T hq] at c
    have c2 : q.2 = true := by cases hf : q.2 <;> simp_all
    refine ⟨Nat.le_refl _, ?_, ?_⟩
    · rw [oNu, if_pos c2]
    · rw [oNu, if_pos c2]
theorem s_wordO (ht : l.stackTraces = false) (D : zMD G A) (T : oT s cs) (hq : q.1 ≤ cs.length) (hd : 3 ≤ d) (f : Int32) (hf : f = 99 ∨ f = 108 ∨ f = 115 ∨ f = 116 ∨ f = 121) : zCt l G d MX3_word [.ref A.1, .int f] (zMh h A (oM s q n o)) 0 (zIr (oWd cs q f).1 (zMh h A (oM s (oWd cs q f).2 n o))) := by
  have l3 : ∀ x y z : Int32, x ≠ -1 → y ≠ -1 → z ≠ -1 → (oW cs q [x, y, z]).1 ≤ cs.length := fun x y z hx hy hz => (oW_le [x, y, z] hq (by intro w hw; simp at hw; rcases hw with rfl | rfl | rfl <;> assumption)).2
  refine zCt.of kX3_word ht (by simp [Value.category]) (Nat.le_of_ble_eq_true rfl) ?_
  refine b_X3_word_0 _ _ (zMc (s_signO ht D T hq (d := d - 1)) (by omega) (Nat.le_refl _) ⟨fun w => ?_, fun w1 => ⟨fun w => ⟨fun v => ?_, fun v => ?_⟩, fun w2 => ⟨fun w => ⟨fun v => ?_, fun v => ?_⟩, fun w3 => ⟨fun w => ?_, fun w4 => ⟨fun v => ?_, fun v => ?_⟩⟩⟩⟩⟩)
  · have e : oWd cs q f = (99, oW cs q [97, 114, 116]) := by rw [oWd, if_pos w]
    rw [e]
    exact zMcV (s_signs3 ht D T hq (d := d - 1) (by omega) (by decide) (by decide) (by decide)) (by omega) (Nat.le_refl _) ⟨Nat.le_refl _, rfl, rfl⟩
  · have e : oWd cs q f = (108, oW cs q [97, 119]) := by rw [oWd, if_neg w1, if_pos w, if_neg v]
    rw [e]
    exact zMcV (s_signs2 ht D T hq (d := d - 1) (by omega) (by decide) (by decide)) (by omega) (Nat.le_refl _) ⟨Nat.le_refl _, rfl, rfl⟩
  · have e : oWd cs q f = (118, oN cs (oW cs q [101, 97, 118]) 101) := by rw [oWd, if_neg w1, if_pos w, if_pos (Classical.not_not.mp v)]; rfl
    rw [e]
    refine zMcV (s_signs3 ht D T hq (d := d - 1) (by omega) (by decide) (by decide) (by decide)) (by omega) (Nat.le_refl _) ?_
    exact zMcV (s_needsO ht D T (l3 _ _ _ (by decide) (by decide) (by decide)) (d := d - 1) (by omega) _) (by omega) (Nat.le_refl _) ⟨Nat.le_refl _, rfl, rfl⟩
  · have e : oWd cs q f = (116, oW cs q [105, 99, 107]) := by rw [oWd, if_neg w1, if_neg w2, if_pos w, if_neg v]
    rw [e]
    exact zMcV (s_signs3 ht D T hq (d := d - 1) (by omega) (by decide) (by decide) (by decide)) (by omega) (Nat.le_refl _) ⟨Nat.le_refl _, rfl, rfl⟩
  · have e : oWd cs q f = (117, oW cs q [117, 114, 110]) := by rw [oWd, if_neg w1, if_neg w2, if_pos w, if_pos (Classical.not_not.mp v)]
    rw [e]
    exact zMcV (s_signs3 ht D T hq (d := d - 1) (by omega) (by decide) (by decide) (by decide)) (by omega) (Nat.le_refl _) ⟨Nat.le_refl _, rfl, rfl⟩
  · have e : oWd cs q f = (121, oN cs (oW cs q [105, 101, 108]) 100) := by rw [oWd, if_neg w1, if_neg w2, if_neg w3, if_pos w]; rfl
    rw [e]
    refine zMcV (s_signs3 ht D T hq (d := d - 1) (by omega) (by decide) (by decide) (by decide)) (by omega) (Nat.le_refl _) ?_
    exact zMcV (s_needsO ht D T (l3 _ _ _ (by decide) (by decide) (by decide)) (d := d - 1) (by omega) _) (by omega) (Nat.le_refl _) ⟨Nat.le_refl _, rfl, rfl⟩
  · have e : oWd cs q f = (104, oN cs (oW cs q [104, 97, 114]) 101) := by rw [oWd, if_neg w1, if_neg w2, if_neg w3, if_neg w4, if_neg v]; rfl
    rw [e]
    refine zMcV (s_signs3 ht D T hq (d := d - 1) (by omega) (by decide) (by decide) (by decide)) (by omega) (Nat.le_refl _) ?_
    exact zMcV (s_needsO ht D T (l3 _ _ _ (by decide) (by decide) (by decide)) (d := d - 1) (by omega) _) (by omega) (Nat.le_refl _) ⟨Nat.le_refl _, rfl, rfl⟩
  · have e : oWd cs q f = (112, oN cs (oW cs q [112, 97, 110]) 115) := by rw [oWd, if_neg w1, if_neg w2, if_neg w3, if_neg w4, if_pos (Classical.not_not.mp v)]; rfl
    rw [e]
    refine zMcV (s_signs3 ht D T hq (d := d - 1) (by omega) (by decide) (by decide) (by decide)) (by omega) (Nat.le_refl _) ?_
    exact zMcV (s_needsO ht D T (l3 _ _ _ (by decide) (by decide) (by decide)) (d := d - 1) (by omega) _) (by omega) (Nat.le_refl _) ⟨Nat.le_refl _, rfl, rfl⟩
end ZMR
