/-! layer 1: reading and writing; what the start gives; pure methods of the JDK -/
section K1
variable {h : zH} {G : zG}
theorem zGi.k {a ci j : Nat} {fs : List Value} {x : Int32} {p : Int32 → Prop} (e : h a = some (.inr (ci, fs))) (e2 : zFd fs j = .int x) (q : p x) : zGi h a ci j p := by
  simp only [zGi, e, e2, true_and]; exact q
theorem zGr.k {a ci j : Nat} {fs : List Value} {x : Nat} {p : Nat → Prop} (e : h a = some (.inr (ci, fs))) (e2 : zFd fs j = .ref x) (q : p x) : zGr h a ci j p := by
  simp only [zGr, e, e2, true_and]; exact q
theorem zOc.k {a ci : Nat} {fs : List Value} {p : Prop} (e : h a = some (.inr (ci, fs))) (q : p) : zOc h a ci p := by
  simp only [zOc, e, true_and]; exact q
theorem zPf.k {a ci j : Nat} {fs : List Value} {v : Value} {p : zH → Prop} (e : h a = some (.inr (ci, fs))) (ab : zb G ≤ a) (q : ∀ h1, h1 = zUp h a (.inr (ci, zFs fs j v)) → p h1) : zPf G h a ci j v p := by
  simp only [zPf, e, true_and]; exact ⟨ab, q⟩
theorem zAi.k {a : Nat} {ty : FieldType} {N : Nat} {f : Nat → Value} {i : Int32} {x : Int32} {p : Int32 → Prop} (e : h a = some (.inl (ty, N, f))) (hi : vp_in i N) (e2 : f i.toNatClampNeg = .int x) (q : p x) : zAi h a ty i p := by
  simp only [zAi, e, e2, true_and]; exact ⟨hi, q⟩
theorem zAf.k {a : Nat} {ty : FieldType} {N : Nat} {f : Nat → Value} {i : Int32} {x : Nat} {p : Nat → Prop} (e : h a = some (.inl (ty, N, f))) (hi : vp_in i N) (e2 : f i.toNatClampNeg = .ref x) (q : p x) : zAf h a ty i p := by
  simp only [zAf, e, e2, true_and]; exact ⟨hi, q⟩
theorem zAl.k {a : Nat} {ty : FieldType} {N : Nat} {f : Nat → Value} {p : Nat → Prop} (e : h a = some (.inl (ty, N, f))) (q : p N) : zAl h a p := by
  simp only [zAl, e]; exact q
theorem zAw.k {a : Nat} {ty : FieldType} {N : Nat} {f : Nat → Value} {p : Nat → (Nat → Value) → Prop} (e : h a = some (.inl (ty, N, f))) (q : p N f) : zAw h a ty p := by
  simp only [zAw, e, true_and]; exact q
theorem zSt1.k {a : Nat} {ty : FieldType} {N : Nat} {f : Nat → Value} {i : Int32} {v : Value} {p : zH → Prop} (e : h a = some (.inl (ty, N, f))) (hi : vp_in i N) (ab : zb G ≤ a) (q : ∀ h1, h1 = zUp h a (.inl (ty, N, zUv f i.toNatClampNeg v)) → p h1) : zSt1 G h a ty i v p := by
  simp only [zSt1, e, true_and]; exact ⟨hi, ab, q⟩
theorem zSr.k {C n : String} {a : Nat} {p : Nat → Prop} (e : zZs G C n = .ref a) (q : p a) : zSr G C n p := by
  simp only [zSr, e]; exact q
theorem zSi.k {C n : String} {a : Int32} {p : Int32 → Prop} (e : zZs G C n = .int a) (q : p a) : zSi G C n p := by
  simp only [zSi, e]; exact q
theorem zUp_up (h : zH) (a : Nat) (o o2 : zOb) : zUp (zUp h a o) a o2 = zUp h a o2 := by
  funext b; unfold zUp; split <;> rfl
theorem zeN {h2 h : zH} {a b : Nat} {o : zOb} {x : Option zOb} (e : h2 = zUp h b o) (n : a ≠ b) (q : h a = x) : h2 a = x := by rw [e, zUp_ne _ _ n]; exact q
theorem zeS {h2 h : zH} {b : Nat} {o : zOb} (e : h2 = zUp h b o) : h2 b = some o := by rw [e, zUp_self]
end K1
/-- String's hash of a text -/
def tHash (cs : List Int32) : Int32 := cs.foldl (fun a c => 31 * a + c) 0
/-- a text constant's cells -/
def tTx0 (G : zG) (a : Nat) (cs : List Int32) : Prop := ∃ e f hz, a < zb G ∧ e < zb G ∧ zh0 G a = some (.inr (15, [.ref e, .int 0, .int (tHash cs), .int hz])) ∧ zh0 G e = some (.inl (.byte, cs.length, f)) ∧ (∀ i, i < cs.length → f i = .int (cs.getD i 0)) ∧ (tHash cs ≠ 0 ∨ hz ≠ 0)
/-- text constants: class, place in its pool, characters -/
def zSX : List (String × Nat × List Int32) := [("CartBridge", 430, []), ("CartBridge", 432, [32]), ("CartBridge", 455, [124]), ("CartBridge", 440, [46]), ("CartBridge", 445, [62]), ("CartBridge", 447, [60]), ("CartBridge$Free", 7, [102, 114, 101, 101]), ("CartBridge$Load", 13, [108, 111, 97, 100]), ("CartBridge$Turns", 19, [116, 117, 114, 110, 115]), ("CartBridge$Wait", 41, [119, 97, 105, 116]), ("CartBridge$Turns", 34, [32]), ("CartBridge", 69, [119]), ("CartBridge", 71, [101]), ("CartBridge$Turns", 45, [47]), ("CartBridge$Reader", 75, [99, 97, 114, 116]), ("CartBridge$Reader", 77, [116, 117, 114, 110]), ("CartBridge$Reader", 79, [116, 105, 99, 107]), ("CartBridge$Reader", 81, [108, 101, 97, 118, 101]), ("CartBridge$Reader", 83, [108, 97, 119]), ("CartBridge$Reader", 85, [115, 112, 97, 110, 115]), ("CartBridge$Reader", 87, [115, 104, 97, 114, 101]), ("CartBridge$Reader", 89, [121, 105, 101, 108, 100]), ("CartBridge$Reader", 58, []), ("CartBridge$Reader", 48, [32]), ("CartBridge$Law", 58, [102, 114, 101, 101]), ("CartBridge$Law", 64, [116, 117, 114, 110, 115]), ("CartBridge$Law", 66, [108, 111, 97, 100]), ("CartBridge$Law", 68, [119, 97, 105, 116]), ("CartBridge$Law", 70, []), ("CartBridge", 351, [99, 97, 114, 116]), ("CartBridge", 356, [116, 105, 99, 107]), ("CartBridge", 357, [108, 97, 119]), ("CartBridge", 358, [115, 104, 97, 114, 101]), ("CartBridge", 359, [115, 112, 97, 110, 115]), ("CartBridge", 360, [108, 101, 97, 118, 101]), ("CartBridge", 362, [116, 117, 114, 110]), ("CartBridge$Cart", 48, [119, 97, 105, 116, 115]), ("CartBridge$Cart", 50, [103, 111, 101, 115, 32, 101, 97, 115, 116]), ("CartBridge$Cart", 52, [103, 111, 101, 115, 32, 119, 101, 115, 116]), ("CartBridge$Cart", 54, [112, 97, 115, 115, 101, 100]), ("CartBridge$Cart", 56, [108, 101, 102, 116])]
/-- what the start gives -/
def tS (G : zG) : Prop :=
  zZs G "java/lang/String" "COMPACT_STRINGS" = .int 1 ∧ zZs G "java/lang/Integer$IntegerCache" "high" = .int 127 ∧
  (∃ c f, zZs G "java/lang/Integer$IntegerCache" "cache" = .ref c ∧ c < zb G ∧ zh0 G c = some (.inl (tJO, 256, f)) ∧ ∀ j, j < 256 → ∃ b, f j = .ref b ∧ b < zb G ∧ zh0 G b = some (.inr (16, [.int (nI j - 128)]))) ∧
  (∃ e f, zZs G "java/util/ArrayList" "DEFAULTCAPACITY_EMPTY_ELEMENTDATA" = .ref e ∧ e < zb G ∧ zh0 G e = some (.inl (tJO, 0, f))) ∧
  (∃ m, zZs G "class" "[Ljava/lang/Object;" = .ref m) ∧
  (∃ o f, zZs G "java/lang/Integer" "DigitOnes" = .ref o ∧ o < zb G ∧ zh0 G o = some (.inl (.byte, 100, f)) ∧ ∀ j, j < 100 → f j = .int (nI (48 + j % 10))) ∧
  (∃ o f, zZs G "java/lang/Integer" "DigitTens" = .ref o ∧ o < zb G ∧ zh0 G o = some (.inl (.byte, 100, f)) ∧ ∀ j, j < 100 → f j = .int (nI (48 + j / 10))) ∧
  (∃ a, zZs G "jdk/internal/util/Preconditions" "SIOOBE_FORMATTER" = va_rf a) ∧ (∃ a, zZs G "jdk/internal/util/Preconditions" "IOOBE_FORMATTER" = va_rf a) ∧
  ∀ q ∈ zSX, tTx0 G (zSt G q.1 q.2.1) q.2.2
section K2
variable {l : Launch} {G : zG} {h : zH} {d : Nat}
theorem s_ci21 (ht : l.stackTraces = false) {i N : Int32} (o : Option Nat) (h0 : ¬ i < 0) (h1 : i < N) : zCt l G d MJ21_checkIndex [.int i, .int N, va_rf o] h 0 (zIr i h) := by
  refine zCt.of kJ21_checkIndex ht (by cases o <;> simp [Value.category, va_rf]) (Nat.le_of_ble_eq_true rfl) ?_
  exact b_J21_checkIndex_0 _ _ _ ⟨fun c => absurd c h0, fun _ => ⟨fun _ => ⟨Nat.le_refl _, rfl, rfl⟩, fun c => absurd h1 c⟩⟩
theorem s_ci20 (ht : l.stackTraces = false) {i N : Int32} (h0 : ¬ i < 0) (h1 : i < N) (hd : 1 ≤ d) : zCt l G d MJ20_checkIndex [.int i, .int N] h 0 (zIr i h) := by
  refine zCt.of kJ20_checkIndex ht (by simp [Value.category]) (Nat.le_of_ble_eq_true rfl) ?_
  exact b_J20_checkIndex_0 _ _ (zCall.P (s_ci21 ht none h0 h1 (d := d - 1)) (by omega) (Nat.le_refl _) ⟨Nat.le_refl _, rfl, rfl⟩)
theorem s_cft (ht : l.stackTraces = false) {i j N : Int32} (o : Option Nat) (h0 : ¬ i < 0) (h1 : ¬ j < i) (h2 : j ≤ N) : zCt l G d MJ21_checkFromToIndex [.int i, .int j, .int N, va_rf o] h 0 (zIr i h) := by
  refine zCt.of kJ21_checkFromToIndex ht (by cases o <;> simp [Value.category, va_rf]) (Nat.le_of_ble_eq_true rfl) ?_
  exact b_J21_checkFromToIndex_0 _ _ _ _ ⟨fun c => absurd c h0, fun _ => ⟨fun c => absurd c h1, fun _ => ⟨fun _ => ⟨Nat.le_refl _, rfl, rfl⟩, fun c => absurd h2 c⟩⟩⟩
theorem s_obj0 (ht : l.stackTraces = false) {a : Nat} (hd : 1 ≤ d) : zCt l G d MJ0_init [.ref a] h 0 (zVr h) := by
  refine zCt.of kJ0_init ht (by simp [Value.category]) (Nat.le_of_ble_eq_true rfl) ?_
  exact b_J0_init_0 _ ⟨hd, Nat.le_refl _, rfl⟩
theorem s_num0 (ht : l.stackTraces = false) {a : Nat} (hd : 1 ≤ d) : zCt l G d MJ17_init [.ref a] h 0 (zVr h) := by
  refine zCt.of kJ17_init ht (by simp [Value.category]) (Nat.le_of_ble_eq_true rfl) ?_
  exact b_J17_init_0 _ ⟨hd, Nat.le_refl _, rfl⟩
theorem nI_max (a b : Nat) (ha : a < 2 ^ 31) (hb : b < 2 ^ 31) : (if nI a < nI b then nI b else nI a) = nI (max a b) := by
  by_cases c : a < b
  · rw [if_pos ((nI_ltI ha hb).mpr c), Nat.max_eq_right (by omega)]
  · rw [if_neg (fun q => c ((nI_ltI ha hb).mp q)), Nat.max_eq_left (by omega)]
theorem nI_min (a b : Nat) (ha : a < 2 ^ 31) (hb : b < 2 ^ 31) : (if nI a < nI b then nI a else nI b) = nI (min a b) := by
  by_cases c : a < b
  · rw [if_pos ((nI_ltI ha hb).mpr c), Nat.min_eq_left (by omega)]
  · rw [if_neg (fun q => c ((nI_ltI ha hb).mp q)), Nat.min_eq_right (by omega)]
theorem s_newLength (ht : l.stackTraces = false) (a b c : Nat) (hs : a < 2 ^ 20 ∧ b < 2 ^ 20 ∧ c < 2 ^ 20) (h0 : 0 < a + max b c) (hd : 1 ≤ d) : zCt l G d MJ14_newLength [.int (nI a), .int (nI b), .int (nI c)] h 0 (zIr (nI (a + max b c)) h) := by
  refine zCt.of kJ14_newLength ht (by simp [Value.category]) (Nat.le_of_ble_eq_true rfl) ?_
  refine b_J14_newLength_0 _ _ _ ⟨⟨hd, Nat.le_refl _⟩, ?_⟩
  rw [nI_max b c (by omega) (by omega), nI_add]
  have hm : max b c < 2 ^ 20 := by omega
  refine ⟨fun q => absurd q (nI_nle h0 (by omega)), fun _ => ⟨fun q => ?_, fun _ => ⟨Nat.le_refl _, rfl, rfl⟩⟩⟩
  exact absurd q (by rw [show (2147483639 : Int32) = nI 2147483639 by rfl]; exact nI_nlt (by omega) (by omega))
/-- Arrays.copyOf of references, into a larger array -/
theorem s_copyOf3 (ht : l.stackTraces = false) (hS : tS G) {b mi N nl : Nat} {f : Nat → Value} (em : zZs G "class" "[Ljava/lang/Object;" = .ref mi) (e : h b = some (.inl (tJO, N, f))) (hN : N ≤ nl) (hl : nl ≤ 63) (he : ∀ i, i < N → zEl h tJO (f i)) (hd : 1 ≤ d) :
    zCt l G d MJ16_copyOf_3 [.ref b, .int (nI nl), .ref mi] h 1 (zqR zNo fun x h' => h x = none ∧ zb G ≤ x ∧ ∃ g, h' = zUp h x (.inl (tJO, nl, g)) ∧ ∀ i, i < N → g i = f i) := by
  refine zCt.of kJ16_copyOf_3 ht (by simp [Value.category]) (Nat.le_of_ble_eq_true rfl) ?_
  refine b_J16_copyOf_3_0 _ _ _ (zSr.k em ⟨fun _ => ?_, fun c => absurd rfl c⟩)
  have cl : (nI nl).toNatClampNeg = nl := nI_clamp (by omega)
  refine ⟨⟨nI_pos (by omega), by omega, by rw [cl]; omega⟩, fun x hx hb h4 e4 => ?_⟩
  have bx : b ≠ x := by intro q; rw [q, hx] at e; cases e
  have e4b : h4 b = some (.inl (tJO, N, f)) := by rw [e4, zUp_ne _ _ bx]; exact e
  refine zAl.k e4b ⟨⟨hd, by rw [cl]; omega⟩, hd, ?_⟩
  have e4x : h4 x = some (.inl (tJO, nl, fun _ => .null)) := by rw [e4, zUp_self, cl]
  rw [nI_min nl N (by omega) (by omega), Nat.min_eq_right hN]
  have cN : (nI N).toNatClampNeg = N := nI_clamp (by omega)
  refine zAw.k e4b (zAw.k e4x ⟨hb, by decide, by decide, nI_pos (by omega), ?_, ?_, fun i hi => ?_, fun h1 e1 => ⟨by rw [cl]; omega, hx, hb, va_cpy f (fun _ => .null) 0 0 N, ?_, fun i hi => ?_⟩⟩)
  · rw [cN]; show 0 + N ≤ N; omega
  · rw [cN]; show 0 + N ≤ nl; omega
  · rw [cN] at hi
    show zEl h4 tJO (f (0 + i))
    rw [Nat.zero_add]
    rcases he i hi with q | ⟨q0, q | ⟨y, ci, fs, q1, q2⟩⟩
    · exact Or.inl q
    · exact Or.inr ⟨q0, Or.inl q⟩
    · exact Or.inr ⟨q0, Or.inr ⟨y, ci, fs, q1, by rw [e4, zUp_ne _ _ (by intro q; rw [q, hx] at q2; cases q2)]; exact q2⟩⟩
  · rw [e1, e4, zUp_up, cN]; rfl
  · simp [va_cpy, hi]
theorem s_copyOf2 (ht : l.stackTraces = false) (hS : tS G) {b N nl : Nat} {f : Nat → Value} (e : h b = some (.inl (tJO, N, f))) (hN : N ≤ nl) (hl : nl ≤ 63) (he : ∀ i, i < N → zEl h tJO (f i)) (hd : 2 ≤ d) :
    zCt l G d MJ16_copyOf_2 [.ref b, .int (nI nl)] h 1 (zqR zNo fun x h' => h x = none ∧ zb G ≤ x ∧ ∃ g, h' = zUp h x (.inl (tJO, nl, g)) ∧ ∀ i, i < N → g i = f i) := by
  refine zCt.of kJ16_copyOf_2 ht (by simp [Value.category]) (Nat.le_of_ble_eq_true rfl) ?_
  obtain ⟨mi, em⟩ := hS.2.2.2.2.1
  refine b_J16_copyOf_2_0 _ _ ⟨by omega, zAw.k e (zSr.k em ?_)⟩
  exact zCall.R (s_copyOf3 ht hS em e hN hl he (d := d - 1) (by omega)) (by omega) (Nat.le_refl _) (fun x h' _ q => ⟨Nat.le_refl _, q⟩) (fun E h' _ q => q.elim)
theorem nI_half : ∀ N, N < 64 → nI N >>> (1 &&& 31) = nI (N / 2) := by decide +kernel
/-- the array of a list grows -/
theorem s_grow2 (ht : l.stackTraces = false) (hS : tS G) {a b cap : Nat} {m : Int32} {f : Nat → Value} (ab : zb G ≤ a) (e1 : h a = some (.inr (11, [.int m, .ref b, .int (nI cap)]))) (e2 : h b = some (.inl (tJO, cap, f))) (hc : cap ≤ 40)
    (h0 : cap = 0 → zZs G "java/util/ArrayList" "DEFAULTCAPACITY_EMPTY_ELEMENTDATA" = .ref b) (he : ∀ i, i < cap → zEl h tJO (f i)) (hd : 3 ≤ d) :
    zCt l G d MJ2_grow_2 [.ref a, .int (nI (cap + 1))] h 1 (zqR zNo fun x h' => h x = none ∧ zb G ≤ x ∧ ∃ cap' g, cap < cap' ∧ cap' ≤ 63 ∧ h' = zUp (zUp h x (.inl (tJO, cap', g))) a (.inr (11, [.int m, .ref x, .int (nI cap)])) ∧ ∀ i, i < cap → g i = f i) := by
  refine zCt.of kJ2_grow_2 ht (by simp [Value.category]) (Nat.le_of_ble_eq_true rfl) ?_
  refine b_J2_grow_2_0 _ _ (zGr.k e1 rfl (zAl.k e2 ⟨fun c => ?_, fun c => ?_⟩))
  · have c0 : 0 < cap := by
      rcases Nat.eq_zero_or_pos cap with q | q
      · rw [q] at c; exact absurd c (by decide)
      · exact q
    rw [pk_sub (by omega), show cap + 1 - cap = 1 by omega, nI_half cap (by omega)]
    refine zCall.P (s_newLength ht cap 1 (cap / 2) (by omega) (by omega) (by omega) (d := d - 1)) (by omega) (by omega) (zGr.k e1 rfl ?_)
    refine zCall.R (s_copyOf2 ht hS e2 (by omega) (by omega) he (d := d - 1) (by omega)) (by omega) (Nat.le_refl _) (fun x h' _ q => ?_) (fun E h' _ q => q.elim)
    obtain ⟨q1, q2, g, q3, q4⟩ := q
    have ax : a ≠ x := by intro q; rw [← q, e1] at q1; cases q1
    refine zPf.k (by rw [q3, zUp_ne _ _ ax]; exact e1) ab fun h1 e => ⟨Nat.le_refl _, q1, q2, cap + max 1 (cap / 2), g, ?_, ?_, ?_, q4⟩
    · omega
    · omega
    · rw [e, q3]; rfl
  · have c0 : cap = 0 := by
      rcases Nat.eq_zero_or_pos cap with q | q
      · exact q
      · exact absurd (nI_lt q (by omega)) c
    subst c0
    refine zGr.k e1 rfl (zSr.k (h0 rfl) ⟨fun _ => ⟨⟨by omega, by omega⟩, ?_⟩, fun c => absurd rfl c⟩)
    have e10 : (if (10 : Int32) < nI (0 + 1) then nI (0 + 1) else 10) = 10 := by decide
    rw [e10]
    refine ⟨⟨by decide, by decide, by decide⟩, fun x hx hb h1 eh => ?_⟩
    have ax : a ≠ x := by intro q; rw [← q, e1] at hx; cases hx
    refine zPf.k (by rw [eh, zUp_ne _ _ ax]; exact e1) ab fun h2 e => ⟨by decide, hx, hb, 10, fun _ => .null, by omega, by omega, ?_, fun i hi => by omega⟩
    rw [e, eh]; rfl
theorem s_grow (ht : l.stackTraces = false) (hS : tS G) {a b cap : Nat} {m : Int32} {f : Nat → Value} (ab : zb G ≤ a) (e1 : h a = some (.inr (11, [.int m, .ref b, .int (nI cap)]))) (e2 : h b = some (.inl (tJO, cap, f))) (hc : cap ≤ 40)
    (h0 : cap = 0 → zZs G "java/util/ArrayList" "DEFAULTCAPACITY_EMPTY_ELEMENTDATA" = .ref b) (he : ∀ i, i < cap → zEl h tJO (f i)) (hd : 4 ≤ d) :
    zCt l G d MJ2_grow [.ref a] h 1 (zqR zNo fun x h' => h x = none ∧ zb G ≤ x ∧ ∃ cap' g, cap < cap' ∧ cap' ≤ 63 ∧ h' = zUp (zUp h x (.inl (tJO, cap', g))) a (.inr (11, [.int m, .ref x, .int (nI cap)])) ∧ ∀ i, i < cap → g i = f i) := by
  refine zCt.of kJ2_grow ht (by simp [Value.category]) (Nat.le_of_ble_eq_true rfl) ?_
  refine b_J2_grow_0 _ (zGi.k e1 rfl (zOc.k e1 ?_))
  rw [nI_1]
  exact zCall.R (s_grow2 ht hS ab e1 e2 hc h0 he (d := d - 1) (by omega)) (by omega) (Nat.le_refl _) (fun x h' _ q => ⟨Nat.le_refl _, q⟩) (fun E h' _ q => q.elim)
end K2
