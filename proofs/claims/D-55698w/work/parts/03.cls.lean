/-! classes: name, fields, types of fields; the list of all classes met -/
set_option maxRecDepth 100000
/-- the tables' words and two more of the start -/
def zPVm : List MethodName := [⟨"java/lang/AbstractStringBuilder", "appendNull", "()Ljava/lang/AbstractStringBuilder;"⟩, ⟨"java/lang/AbstractStringBuilder", "ensureCapacityInternal", "(I)V"⟩, ⟨"java/lang/AbstractStringBuilder", "newCapacity", "(I)I"⟩, ⟨"java/lang/AbstractStringBuilder", "putStringAt", "(ILjava/lang/String;)V"⟩, ⟨"java/lang/AbstractStringBuilder", "inflateIfNeededFor", "(Ljava/lang/String;)V"⟩, ⟨"java/lang/AbstractStringBuilder", "inflate", "()V"⟩, ⟨"java/lang/AbstractStringBuilder", "inflateIfNeededFor", "(Ljava/lang/AbstractStringBuilder;)V"⟩, ⟨"java/lang/AbstractStringBuilder", "appendChars", "(Ljava/lang/String;II)V"⟩, ⟨"java/lang/AbstractStringBuilder", "appendChars", "(Ljava/lang/CharSequence;II)V"⟩]
def zPV : List Cond := zPVm.map fun y => Cond.selects "java/lang/StringBuilder" y y
def zTb : List Cond := defaultWords_1 ++ (zPV ++ lw_tbl)
theorem zt {w : Cond} (h : w ∈ lw_tbl) : w ∈ zTb := List.mem_append_right _ (List.mem_append_right _ h)
theorem zp {w : Cond} (i : Nat) (h : zPV[i]? = some w) : w ∈ zTb := List.mem_append_right _ (List.mem_append_left _ (List.mem_of_getElem? h))
def RX0 : String := "CartBridgeLaw"
def RX1 : String := "CartBridge"
def RX2 : String := "CartBridge$State"
def RJ0 : String := "java/util/AbstractCollection"
def RJ1 : String := "java/util/AbstractList"
def RJ2 : String := "java/util/ArrayList"
def RJ3 : String := "java/util/ArrayDeque"
def RJ4 : String := "java/lang/AbstractStringBuilder"
def RJ5 : String := "java/lang/StringBuilder"
def RJ6 : String := "java/lang/String"
def RJ7 : String := "java/lang/StringUTF16"
def RX3 : String := "CartBridgeModel"
def RX4 : String := "CartBridge$Reason"
def RJ8 : String := "java/lang/Throwable"
def RJ9 : String := "java/lang/Exception"
def RJ10 : String := "java/lang/RuntimeException"
def RJ11 : String := "java/lang/UnsupportedOperationException"
def RJ12 : String := "java/util/ArrayList$Itr"
def RJ13 : String := "java/util/NoSuchElementException"
def RX5 : String := "CartBridge$Cart"
def RJ14 : String := "jdk/internal/util/ArraysSupport"
def RJ15 : String := "java/lang/Math"
def RJ16 : String := "java/util/Arrays"
def RJ17 : String := "java/lang/Number"
def RJ18 : String := "java/lang/Integer"
def RJ19 : String := "java/lang/IllegalStateException"
def RJ20 : String := "java/util/Objects"
def RJ21 : String := "jdk/internal/util/Preconditions"
def RJ22 : String := "java/lang/IndexOutOfBoundsException"
def RJ23 : String := "java/lang/StringLatin1"
def RJ24 : String := "java/lang/IllegalArgumentException"
def RX6 : String := "CartBridge$Law"
def RX7 : String := "CartBridge$Free"
def RX8 : String := "CartBridge$Turns"
def RX9 : String := "CartBridge$Measured"
def RX10 : String := "CartBridge$Load"
def RX11 : String := "CartBridge$Wait"
def RJ25 : String := "java/lang/ArrayIndexOutOfBoundsException"
def RX12 : String := "CartBridge$Reader"
def RJ26 : String := "java/lang/StringIndexOutOfBoundsException"
def RX13 : String := "CartBridge$Command"
def RJ27 : String := "java/lang/ArithmeticException"
def RJ28 : String := "java/lang/Object"
def RJ29 : String := "java/lang/System$2"
def RJ30 : String := "java/lang/CharSequence"
def TX1 : u_T := fun k => match k with
  | 0 => ("CartBridge", "state", "LCartBridge$State;", false)
  | 1 => ("CartBridge", "saved", "LCartBridge$State;", false)
  | 2 => ("CartBridge", "history", "Ljava/util/ArrayDeque;", true)
  | 3 => ("CartBridge", "input", "Ljava/lang/StringBuilder;", true)
  | 4 => ("CartBridge", "line", "Ljava/lang/StringBuilder;", true)
  | 5 => ("CartBridge", "isWithinText", "Z", false)
  | 6 => ("CartBridge", "faultPosition", "I", false)
  | _ => ("CartBridge", "reason", "LCartBridge$Reason;", false)
def tyX1 : Nat → FieldType := fun k => match k with
  | 0 => .object "CartBridge$State"
  | 1 => .object "CartBridge$State"
  | 2 => .object "java/util/ArrayDeque"
  | 3 => .object "java/lang/StringBuilder"
  | 4 => .object "java/lang/StringBuilder"
  | 5 => .boolean
  | 6 => .int
  | _ => .object "CartBridge$Reason"
def TX2 : u_T := fun k => match k with
  | 0 => ("CartBridge$State", "carts", "Ljava/util/ArrayList;", true)
  | 1 => ("CartBridge$State", "west", "Ljava/util/ArrayList;", true)
  | 2 => ("CartBridge$State", "east", "Ljava/util/ArrayList;", true)
  | 3 => ("CartBridge$State", "passed", "Ljava/util/ArrayList;", true)
  | 4 => ("CartBridge$State", "bridge", "[I", true)
  | 5 => ("CartBridge$State", "spans", "I", false)
  | 6 => ("CartBridge$State", "law", "I", false)
  | 7 => ("CartBridge$State", "share", "I", false)
  | 8 => ("CartBridge$State", "turn", "I", false)
  | 9 => ("CartBridge$State", "entered", "I", false)
  | 10 => ("CartBridge$State", "ticks", "I", false)
  | 11 => ("CartBridge$State", "entries", "I", false)
  | _ => ("CartBridge$State", "yields", "I", false)
def tyX2 : Nat → FieldType := fun k => match k with
  | 0 => .object "java/util/ArrayList"
  | 1 => .object "java/util/ArrayList"
  | 2 => .object "java/util/ArrayList"
  | 3 => .object "java/util/ArrayList"
  | 4 => .array .int
  | 5 => .int
  | 6 => .int
  | 7 => .int
  | 8 => .int
  | 9 => .int
  | 10 => .int
  | 11 => .int
  | _ => .int
def TX5 : u_T := fun k => match k with
  | 0 => ("CartBridge$Cart", "number", "I", true)
  | 1 => ("CartBridge$Cart", "side", "I", true)
  | 2 => ("CartBridge$Cart", "load", "I", true)
  | 3 => ("CartBridge$Cart", "came", "I", true)
  | 4 => ("CartBridge$Cart", "is", "I", false)
  | 5 => ("CartBridge$Cart", "span", "I", false)
  | 6 => ("CartBridge$Cart", "heading", "I", false)
  | 7 => ("CartBridge$Cart", "yields", "I", false)
  | 8 => ("CartBridge$Cart", "waited", "I", false)
  | 9 => ("CartBridge$Cart", "since", "I", false)
  | _ => ("CartBridge$Cart", "closed", "I", false)
def tyX5 : Nat → FieldType := fun k => match k with
  | 0 => .int
  | 1 => .int
  | 2 => .int
  | 3 => .int
  | 4 => .int
  | 5 => .int
  | 6 => .int
  | 7 => .int
  | 8 => .int
  | 9 => .int
  | _ => .int
def TX4 : u_T := fun k => match k with
  | 0 => ("CartBridge$Reason", "number", "I", true)
  | 1 => ("CartBridge$Reason", "detail", "I", true)
  | _ => ("CartBridge$Reason", "cause", "LCartBridge$Reason;", true)
def tyX4 : Nat → FieldType := fun k => match k with
  | 0 => .int
  | 1 => .int
  | _ => .object "CartBridge$Reason"
def TX7 : u_T := fun k => match k with
  | _ => ("", "", "I", false)
def tyX7 : Nat → FieldType := fun _ => .int
def TX8 : u_T := fun k => match k with
  | _ => ("", "", "I", false)
def tyX8 : Nat → FieldType := fun _ => .int
def TX10 : u_T := fun k => match k with
  | _ => ("", "", "I", false)
def tyX10 : Nat → FieldType := fun _ => .int
def TX11 : u_T := fun k => match k with
  | _ => ("", "", "I", false)
def tyX11 : Nat → FieldType := fun _ => .int
def TX12 : u_T := fun k => match k with
  | 0 => ("CartBridge$Reader", "text", "Ljava/lang/CharSequence;", true)
  | 1 => ("CartBridge$Reader", "commands", "Ljava/util/ArrayList;", true)
  | 2 => ("CartBridge$Reader", "at", "I", false)
  | _ => ("CartBridge$Reader", "isFaulty", "Z", false)
def tyX12 : Nat → FieldType := fun k => match k with
  | 0 => .object "java/lang/CharSequence"
  | 1 => .object "java/util/ArrayList"
  | 2 => .int
  | _ => .boolean
def TX13 : u_T := fun k => match k with
  | 0 => ("CartBridge$Command", "word", "Ljava/lang/String;", true)
  | 1 => ("CartBridge$Command", "one", "I", false)
  | _ => ("CartBridge$Command", "other", "I", false)
def tyX13 : Nat → FieldType := fun k => match k with
  | 0 => .object "java/lang/String"
  | 1 => .int
  | _ => .int
def TX3 : u_T := fun k => match k with
  | 0 => ("CartBridgeModel", "thrown", "I", false)
  | 1 => ("CartBridgeModel", "all", "[I", true)
  | 2 => ("CartBridgeModel", "changes", "I", false)
  | 3 => ("CartBridgeModel", "isSaved", "Z", false)
  | 4 => ("CartBridgeModel", "result", "I", false)
  | 5 => ("CartBridgeModel", "why", "I", false)
  | 6 => ("CartBridgeModel", "detail", "I", false)
  | 7 => ("CartBridgeModel", "lies", "I", false)
  | 8 => ("CartBridgeModel", "liesDetail", "I", false)
  | 9 => ("CartBridgeModel", "input", "[C", true)
  | 10 => ("CartBridgeModel", "typed", "I", false)
  | 11 => ("CartBridgeModel", "here", "I", false)
  | 12 => ("CartBridgeModel", "fault", "I", false)
  | 13 => ("CartBridgeModel", "faultAt", "I", false)
  | 14 => ("CartBridgeModel", "orders", "[I", true)
  | 15 => ("CartBridgeModel", "orderMany", "I", false)
  | 16 => ("CartBridgeModel", "line", "[C", true)
  | _ => ("CartBridgeModel", "lineSize", "I", false)
def tyX3 : Nat → FieldType := fun k => match k with
  | 0 => .int
  | 1 => .array .int
  | 2 => .int
  | 3 => .boolean
  | 4 => .int
  | 5 => .int
  | 6 => .int
  | 7 => .int
  | 8 => .int
  | 9 => .array .char
  | 10 => .int
  | 11 => .int
  | 12 => .int
  | 13 => .int
  | 14 => .array .int
  | 15 => .int
  | 16 => .array .char
  | _ => .int
def TJ2 : u_T := fun k => match k with
  | 0 => ("java/util/AbstractList", "modCount", "I", false)
  | 1 => ("java/util/ArrayList", "elementData", "[Ljava/lang/Object;", false)
  | _ => ("java/util/ArrayList", "size", "I", false)
def tyJ2 : Nat → FieldType := fun k => match k with
  | 0 => .int
  | 1 => .array (.object "java/lang/Object")
  | _ => .int
def TJ12 : u_T := fun k => match k with
  | 0 => ("java/util/ArrayList$Itr", "cursor", "I", false)
  | 1 => ("java/util/ArrayList$Itr", "lastRet", "I", false)
  | 2 => ("java/util/ArrayList$Itr", "expectedModCount", "I", false)
  | _ => ("java/util/ArrayList$Itr", "this$0", "Ljava/util/ArrayList;", true)
def tyJ12 : Nat → FieldType := fun k => match k with
  | 0 => .int
  | 1 => .int
  | 2 => .int
  | _ => .object "java/util/ArrayList"
def TJ3 : u_T := fun k => match k with
  | 0 => ("java/util/ArrayDeque", "elements", "[Ljava/lang/Object;", false)
  | 1 => ("java/util/ArrayDeque", "head", "I", false)
  | _ => ("java/util/ArrayDeque", "tail", "I", false)
def tyJ3 : Nat → FieldType := fun k => match k with
  | 0 => .array (.object "java/lang/Object")
  | 1 => .int
  | _ => .int
def TJ5 : u_T := fun k => match k with
  | 0 => ("java/lang/AbstractStringBuilder", "value", "[B", false)
  | 1 => ("java/lang/AbstractStringBuilder", "coder", "B", false)
  | 2 => ("java/lang/AbstractStringBuilder", "maybeLatin1", "Z", false)
  | _ => ("java/lang/AbstractStringBuilder", "count", "I", false)
def tyJ5 : Nat → FieldType := fun k => match k with
  | 0 => .array .byte
  | 1 => .byte
  | 2 => .boolean
  | _ => .int
def TJ6 : u_T := fun k => match k with
  | 0 => ("java/lang/String", "value", "[B", true)
  | 1 => ("java/lang/String", "coder", "B", true)
  | 2 => ("java/lang/String", "hash", "I", false)
  | _ => ("java/lang/String", "hashIsZero", "Z", false)
def tyJ6 : Nat → FieldType := fun k => match k with
  | 0 => .array .byte
  | 1 => .byte
  | 2 => .int
  | _ => .boolean
def TJ18 : u_T := fun k => match k with
  | _ => ("java/lang/Integer", "value", "I", true)
def tyJ18 : Nat → FieldType := fun k => match k with
  | _ => .int
def TJ11 : u_T := fun k => match k with
  | _ => ("", "", "I", false)
def tyJ11 : Nat → FieldType := fun _ => .int
def TJ24 : u_T := fun k => match k with
  | _ => ("", "", "I", false)
def tyJ24 : Nat → FieldType := fun _ => .int
def TJ22 : u_T := fun k => match k with
  | _ => ("", "", "I", false)
def tyJ22 : Nat → FieldType := fun _ => .int
def TJ13 : u_T := fun k => match k with
  | _ => ("", "", "I", false)
def tyJ13 : Nat → FieldType := fun _ => .int
def TJ19 : u_T := fun k => match k with
  | _ => ("", "", "I", false)
def tyJ19 : Nat → FieldType := fun _ => .int
def TJ27 : u_T := fun k => match k with
  | _ => ("", "", "I", false)
def tyJ27 : Nat → FieldType := fun _ => .int
/-- class number, its name, its fields, how many -/
def zCL : List vw_C := [(RX1, TX1, 8), (RX2, TX2, 13), (RX5, TX5, 11), (RX4, TX4, 3), (RX7, TX7, 0), (RX8, TX8, 0), (RX10, TX10, 0), (RX11, TX11, 0), (RX12, TX12, 4), (RX13, TX13, 3), (RX3, TX3, 18), (RJ2, TJ2, 3), (RJ12, TJ12, 4), (RJ3, TJ3, 3), (RJ5, TJ5, 4), (RJ6, TJ6, 4), (RJ18, TJ18, 1), (RJ11, TJ11, 0), (RJ24, TJ24, 0), (RJ22, TJ22, 0), (RJ13, TJ13, 0), (RJ19, TJ19, 0), (RJ27, TJ27, 0)]
def zTY : List (Nat → FieldType) := [tyX1, tyX2, tyX5, tyX4, tyX7, tyX8, tyX10, tyX11, tyX12, tyX13, tyX3, tyJ2, tyJ12, tyJ3, tyJ5, tyJ6, tyJ18, tyJ11, tyJ24, tyJ22, tyJ13, tyJ19, tyJ27]
theorem in_X1 : ∀ w ∈ u_ws RX1 TX1 8, w ∈ zTb := by
  intro w hw
  have e : u_ws RX1 TX1 8 = [(Jvm.Cond.lays "CartBridge" "CartBridge" "state" "LCartBridge$State;"), (Jvm.Cond.lays "CartBridge" "CartBridge" "saved" "LCartBridge$State;"), (Jvm.Cond.laysFinal "CartBridge" "CartBridge" "history" "Ljava/util/ArrayDeque;"), (Jvm.Cond.laysFinal "CartBridge" "CartBridge" "input" "Ljava/lang/StringBuilder;"), (Jvm.Cond.laysFinal "CartBridge" "CartBridge" "line" "Ljava/lang/StringBuilder;"), (Jvm.Cond.lays "CartBridge" "CartBridge" "isWithinText" "Z"), (Jvm.Cond.lays "CartBridge" "CartBridge" "faultPosition" "I"), (Jvm.Cond.lays "CartBridge" "CartBridge" "reason" "LCartBridge$Reason;")] := by rfl
  rw [e] at hw
  simp only [List.mem_cons, List.not_mem_nil, or_false] at hw
  rcases hw with rfl | rfl | rfl | rfl | rfl | rfl | rfl | rfl
  · exact zt (lw_at lw_m1 203 rfl)
  · exact zt (lw_at lw_m1 205 rfl)
  · exact zt (lw_at lw_m1 207 rfl)
  · exact zt (lw_at lw_m1 209 rfl)
  · exact zt (lw_at lw_m1 211 rfl)
  · exact zt (lw_at lw_m1 213 rfl)
  · exact zt (lw_at lw_m1 215 rfl)
  · exact zt (lw_at lw_m1 217 rfl)
theorem nm_X1 : ∀ a, a < 8 → ∀ b, b < 8 → a ≠ b → (TX1 a).2.1 ≠ (TX1 b).2.1 := by decide +kernel
theorem tyo_X1 : ∀ k, k < 8 → parseFieldDescriptor (TX1 k).2.2.1 = some (tyX1 k) := by decide +kernel
theorem in_X2 : ∀ w ∈ u_ws RX2 TX2 13, w ∈ zTb := by
  intro w hw
  have e : u_ws RX2 TX2 13 = [(Jvm.Cond.laysFinal "CartBridge$State" "CartBridge$State" "carts" "Ljava/util/ArrayList;"), (Jvm.Cond.laysFinal "CartBridge$State" "CartBridge$State" "west" "Ljava/util/ArrayList;"), (Jvm.Cond.laysFinal "CartBridge$State" "CartBridge$State" "east" "Ljava/util/ArrayList;"), (Jvm.Cond.laysFinal "CartBridge$State" "CartBridge$State" "passed" "Ljava/util/ArrayList;"), (Jvm.Cond.laysFinal "CartBridge$State" "CartBridge$State" "bridge" "[I"), (Jvm.Cond.lays "CartBridge$State" "CartBridge$State" "spans" "I"), (Jvm.Cond.lays "CartBridge$State" "CartBridge$State" "law" "I"), (Jvm.Cond.lays "CartBridge$State" "CartBridge$State" "share" "I"), (Jvm.Cond.lays "CartBridge$State" "CartBridge$State" "turn" "I"), (Jvm.Cond.lays "CartBridge$State" "CartBridge$State" "entered" "I"), (Jvm.Cond.lays "CartBridge$State" "CartBridge$State" "ticks" "I"), (Jvm.Cond.lays "CartBridge$State" "CartBridge$State" "entries" "I"), (Jvm.Cond.lays "CartBridge$State" "CartBridge$State" "yields" "I")] := by rfl
  rw [e] at hw
  simp only [List.mem_cons, List.not_mem_nil, or_false] at hw
  rcases hw with rfl | rfl | rfl | rfl | rfl | rfl | rfl | rfl | rfl | rfl | rfl | rfl | rfl
  · exact zt (lw_at lw_m1 116 rfl)
  · exact zt (lw_at lw_m1 118 rfl)
  · exact zt (lw_at lw_m1 120 rfl)
  · exact zt (lw_at lw_m1 122 rfl)
  · exact zt (lw_at lw_m1 124 rfl)
  · exact zt (lw_at lw_m1 126 rfl)
  · exact zt (lw_at lw_m1 128 rfl)
  · exact zt (lw_at lw_m1 130 rfl)
  · exact zt (lw_at lw_m1 132 rfl)
  · exact zt (lw_at lw_m1 134 rfl)
  · exact zt (lw_at lw_m1 136 rfl)
  · exact zt (lw_at lw_m1 138 rfl)
  · exact zt (lw_at lw_m1 140 rfl)
theorem nm_X2 : ∀ a, a < 13 → ∀ b, b < 13 → a ≠ b → (TX2 a).2.1 ≠ (TX2 b).2.1 := by decide +kernel
theorem tyo_X2 : ∀ k, k < 13 → parseFieldDescriptor (TX2 k).2.2.1 = some (tyX2 k) := by decide +kernel
theorem in_X5 : ∀ w ∈ u_ws RX5 TX5 11, w ∈ zTb := by
  intro w hw
  have e : u_ws RX5 TX5 11 = [(Jvm.Cond.laysFinal "CartBridge$Cart" "CartBridge$Cart" "number" "I"), (Jvm.Cond.laysFinal "CartBridge$Cart" "CartBridge$Cart" "side" "I"), (Jvm.Cond.laysFinal "CartBridge$Cart" "CartBridge$Cart" "load" "I"), (Jvm.Cond.laysFinal "CartBridge$Cart" "CartBridge$Cart" "came" "I"), (Jvm.Cond.lays "CartBridge$Cart" "CartBridge$Cart" "is" "I"), (Jvm.Cond.lays "CartBridge$Cart" "CartBridge$Cart" "span" "I"), (Jvm.Cond.lays "CartBridge$Cart" "CartBridge$Cart" "heading" "I"), (Jvm.Cond.lays "CartBridge$Cart" "CartBridge$Cart" "yields" "I"), (Jvm.Cond.lays "CartBridge$Cart" "CartBridge$Cart" "waited" "I"), (Jvm.Cond.lays "CartBridge$Cart" "CartBridge$Cart" "since" "I"), (Jvm.Cond.lays "CartBridge$Cart" "CartBridge$Cart" "closed" "I")] := by rfl
  rw [e] at hw
  simp only [List.mem_cons, List.not_mem_nil, or_false] at hw
  rcases hw with rfl | rfl | rfl | rfl | rfl | rfl | rfl | rfl | rfl | rfl | rfl
  · exact zt (lw_at lw_m5 195 rfl)
  · exact zt (lw_at lw_m5 197 rfl)
  · exact zt (lw_at lw_m5 199 rfl)
  · exact zt (lw_at lw_m5 201 rfl)
  · exact zt (lw_at lw_m5 203 rfl)
  · exact zt (lw_at lw_m5 205 rfl)
  · exact zt (lw_at lw_m5 207 rfl)
  · exact zt (lw_at lw_m5 209 rfl)
  · exact zt (lw_at lw_m5 211 rfl)
  · exact zt (lw_at lw_m5 213 rfl)
  · exact zt (lw_at lw_m5 215 rfl)
theorem nm_X5 : ∀ a, a < 11 → ∀ b, b < 11 → a ≠ b → (TX5 a).2.1 ≠ (TX5 b).2.1 := by decide +kernel
theorem tyo_X5 : ∀ k, k < 11 → parseFieldDescriptor (TX5 k).2.2.1 = some (tyX5 k) := by decide +kernel
theorem in_X4 : ∀ w ∈ u_ws RX4 TX4 3, w ∈ zTb := by
  intro w hw
  have e : u_ws RX4 TX4 3 = [(Jvm.Cond.laysFinal "CartBridge$Reason" "CartBridge$Reason" "number" "I"), (Jvm.Cond.laysFinal "CartBridge$Reason" "CartBridge$Reason" "detail" "I"), (Jvm.Cond.laysFinal "CartBridge$Reason" "CartBridge$Reason" "cause" "LCartBridge$Reason;")] := by rfl
  rw [e] at hw
  simp only [List.mem_cons, List.not_mem_nil, or_false] at hw
  rcases hw with rfl | rfl | rfl
  · exact zt (lw_at lw_m6 61 rfl)
  · exact zt (lw_at lw_m6 63 rfl)
  · exact zt (lw_at lw_m6 65 rfl)
theorem nm_X4 : ∀ a, a < 3 → ∀ b, b < 3 → a ≠ b → (TX4 a).2.1 ≠ (TX4 b).2.1 := by decide +kernel
theorem tyo_X4 : ∀ k, k < 3 → parseFieldDescriptor (TX4 k).2.2.1 = some (tyX4 k) := by decide +kernel
theorem in_X12 : ∀ w ∈ u_ws RX12 TX12 4, w ∈ zTb := by
  intro w hw
  have e : u_ws RX12 TX12 4 = [(Jvm.Cond.laysFinal "CartBridge$Reader" "CartBridge$Reader" "text" "Ljava/lang/CharSequence;"), (Jvm.Cond.laysFinal "CartBridge$Reader" "CartBridge$Reader" "commands" "Ljava/util/ArrayList;"), (Jvm.Cond.lays "CartBridge$Reader" "CartBridge$Reader" "at" "I"), (Jvm.Cond.lays "CartBridge$Reader" "CartBridge$Reader" "isFaulty" "Z")] := by rfl
  rw [e] at hw
  simp only [List.mem_cons, List.not_mem_nil, or_false] at hw
  rcases hw with rfl | rfl | rfl | rfl
  · exact zt (lw_at lw_m8 181 rfl)
  · exact zt (lw_at lw_m8 183 rfl)
  · exact zt (lw_at lw_m8 185 rfl)
  · exact zt (lw_at lw_m8 187 rfl)
theorem nm_X12 : ∀ a, a < 4 → ∀ b, b < 4 → a ≠ b → (TX12 a).2.1 ≠ (TX12 b).2.1 := by decide +kernel
theorem tyo_X12 : ∀ k, k < 4 → parseFieldDescriptor (TX12 k).2.2.1 = some (tyX12 k) := by decide +kernel
theorem in_X13 : ∀ w ∈ u_ws RX13 TX13 3, w ∈ zTb := by
  intro w hw
  have e : u_ws RX13 TX13 3 = [(Jvm.Cond.laysFinal "CartBridge$Command" "CartBridge$Command" "word" "Ljava/lang/String;"), (Jvm.Cond.lays "CartBridge$Command" "CartBridge$Command" "one" "I"), (Jvm.Cond.lays "CartBridge$Command" "CartBridge$Command" "other" "I")] := by rfl
  rw [e] at hw
  simp only [List.mem_cons, List.not_mem_nil, or_false] at hw
  rcases hw with rfl | rfl | rfl
  · exact zt (lw_at lw_m8 232 rfl)
  · exact zt (lw_at lw_m8 234 rfl)
  · exact zt (lw_at lw_m8 236 rfl)
theorem nm_X13 : ∀ a, a < 3 → ∀ b, b < 3 → a ≠ b → (TX13 a).2.1 ≠ (TX13 b).2.1 := by decide +kernel
theorem tyo_X13 : ∀ k, k < 3 → parseFieldDescriptor (TX13 k).2.2.1 = some (tyX13 k) := by decide +kernel
theorem in_X3 : ∀ w ∈ u_ws RX3 TX3 18, w ∈ zTb := by
  intro w hw
  have e : u_ws RX3 TX3 18 = [(Jvm.Cond.lays "CartBridgeModel" "CartBridgeModel" "thrown" "I"), (Jvm.Cond.laysFinal "CartBridgeModel" "CartBridgeModel" "all" "[I"), (Jvm.Cond.lays "CartBridgeModel" "CartBridgeModel" "changes" "I"), (Jvm.Cond.lays "CartBridgeModel" "CartBridgeModel" "isSaved" "Z"), (Jvm.Cond.lays "CartBridgeModel" "CartBridgeModel" "result" "I"), (Jvm.Cond.lays "CartBridgeModel" "CartBridgeModel" "why" "I"), (Jvm.Cond.lays "CartBridgeModel" "CartBridgeModel" "detail" "I"), (Jvm.Cond.lays "CartBridgeModel" "CartBridgeModel" "lies" "I"), (Jvm.Cond.lays "CartBridgeModel" "CartBridgeModel" "liesDetail" "I"), (Jvm.Cond.laysFinal "CartBridgeModel" "CartBridgeModel" "input" "[C"), (Jvm.Cond.lays "CartBridgeModel" "CartBridgeModel" "typed" "I"), (Jvm.Cond.lays "CartBridgeModel" "CartBridgeModel" "here" "I"), (Jvm.Cond.lays "CartBridgeModel" "CartBridgeModel" "fault" "I"), (Jvm.Cond.lays "CartBridgeModel" "CartBridgeModel" "faultAt" "I"), (Jvm.Cond.laysFinal "CartBridgeModel" "CartBridgeModel" "orders" "[I"), (Jvm.Cond.lays "CartBridgeModel" "CartBridgeModel" "orderMany" "I"), (Jvm.Cond.laysFinal "CartBridgeModel" "CartBridgeModel" "line" "[C"), (Jvm.Cond.lays "CartBridgeModel" "CartBridgeModel" "lineSize" "I")] := by rfl
  rw [e] at hw
  simp only [List.mem_cons, List.not_mem_nil, or_false] at hw
  rcases hw with rfl | rfl | rfl | rfl | rfl | rfl | rfl | rfl | rfl | rfl | rfl | rfl | rfl | rfl | rfl | rfl | rfl | rfl
  · exact zt (lw_at lw_m10 26 rfl)
  · exact zt (lw_at lw_m10 28 rfl)
  · exact zt (lw_at lw_m10 30 rfl)
  · exact zt (lw_at lw_m10 32 rfl)
  · exact zt (lw_at lw_m10 34 rfl)
  · exact zt (lw_at lw_m10 36 rfl)
  · exact zt (lw_at lw_m10 38 rfl)
  · exact zt (lw_at lw_m10 40 rfl)
  · exact zt (lw_at lw_m10 42 rfl)
  · exact zt (lw_at lw_m10 44 rfl)
  · exact zt (lw_at lw_m10 46 rfl)
  · exact zt (lw_at lw_m10 48 rfl)
  · exact zt (lw_at lw_m10 50 rfl)
  · exact zt (lw_at lw_m10 52 rfl)
  · exact zt (lw_at lw_m10 54 rfl)
  · exact zt (lw_at lw_m10 56 rfl)
  · exact zt (lw_at lw_m10 58 rfl)
  · exact zt (lw_at lw_m10 60 rfl)
theorem nm_X3 : ∀ a, a < 18 → ∀ b, b < 18 → a ≠ b → (TX3 a).2.1 ≠ (TX3 b).2.1 := by decide +kernel
theorem tyo_X3 : ∀ k, k < 18 → parseFieldDescriptor (TX3 k).2.2.1 = some (tyX3 k) := by decide +kernel
theorem in_J2 : ∀ w ∈ u_ws RJ2 TJ2 3, w ∈ zTb := by
  intro w hw
  have e : u_ws RJ2 TJ2 3 = [(Jvm.Cond.lays "java/util/ArrayList" "java/util/AbstractList" "modCount" "I"), (Jvm.Cond.lays "java/util/ArrayList" "java/util/ArrayList" "elementData" "[Ljava/lang/Object;"), (Jvm.Cond.lays "java/util/ArrayList" "java/util/ArrayList" "size" "I")] := by rfl
  rw [e] at hw
  simp only [List.mem_cons, List.not_mem_nil, or_false] at hw
  rcases hw with rfl | rfl | rfl
  · exact zt (lw_at lw_m1 84 rfl)
  · exact zt (lw_at lw_m1 80 rfl)
  · exact zt (lw_at lw_m1 82 rfl)
theorem nm_J2 : ∀ a, a < 3 → ∀ b, b < 3 → a ≠ b → (TJ2 a).2.1 ≠ (TJ2 b).2.1 := by decide +kernel
theorem tyo_J2 : ∀ k, k < 3 → parseFieldDescriptor (TJ2 k).2.2.1 = some (tyJ2 k) := by decide +kernel
theorem in_J12 : ∀ w ∈ u_ws RJ12 TJ12 4, w ∈ zTb := by
  intro w hw
  have e : u_ws RJ12 TJ12 4 = [(Jvm.Cond.lays "java/util/ArrayList$Itr" "java/util/ArrayList$Itr" "cursor" "I"), (Jvm.Cond.lays "java/util/ArrayList$Itr" "java/util/ArrayList$Itr" "lastRet" "I"), (Jvm.Cond.lays "java/util/ArrayList$Itr" "java/util/ArrayList$Itr" "expectedModCount" "I"), (Jvm.Cond.laysFinal "java/util/ArrayList$Itr" "java/util/ArrayList$Itr" "this$0" "Ljava/util/ArrayList;")] := by rfl
  rw [e] at hw
  simp only [List.mem_cons, List.not_mem_nil, or_false] at hw
  rcases hw with rfl | rfl | rfl | rfl
  · exact zt (lw_at lw_m2 28 rfl)
  · exact zt (lw_at lw_m2 30 rfl)
  · exact zt (lw_at lw_m2 32 rfl)
  · exact zt (lw_at lw_m2 34 rfl)
theorem nm_J12 : ∀ a, a < 4 → ∀ b, b < 4 → a ≠ b → (TJ12 a).2.1 ≠ (TJ12 b).2.1 := by decide +kernel
theorem tyo_J12 : ∀ k, k < 4 → parseFieldDescriptor (TJ12 k).2.2.1 = some (tyJ12 k) := by decide +kernel
theorem in_J3 : ∀ w ∈ u_ws RJ3 TJ3 3, w ∈ zTb := by
  intro w hw
  have e : u_ws RJ3 TJ3 3 = [(Jvm.Cond.lays "java/util/ArrayDeque" "java/util/ArrayDeque" "elements" "[Ljava/lang/Object;"), (Jvm.Cond.lays "java/util/ArrayDeque" "java/util/ArrayDeque" "head" "I"), (Jvm.Cond.lays "java/util/ArrayDeque" "java/util/ArrayDeque" "tail" "I")] := by rfl
  rw [e] at hw
  simp only [List.mem_cons, List.not_mem_nil, or_false] at hw
  rcases hw with rfl | rfl | rfl
  · exact zt (lw_at lw_m1 155 rfl)
  · exact zt (lw_at lw_m1 157 rfl)
  · exact zt (lw_at lw_m1 159 rfl)
theorem nm_J3 : ∀ a, a < 3 → ∀ b, b < 3 → a ≠ b → (TJ3 a).2.1 ≠ (TJ3 b).2.1 := by decide +kernel
theorem tyo_J3 : ∀ k, k < 3 → parseFieldDescriptor (TJ3 k).2.2.1 = some (tyJ3 k) := by decide +kernel
theorem in_J5 : ∀ w ∈ u_ws RJ5 TJ5 4, w ∈ zTb := by
  intro w hw
  have e : u_ws RJ5 TJ5 4 = [(Jvm.Cond.lays "java/lang/StringBuilder" "java/lang/AbstractStringBuilder" "value" "[B"), (Jvm.Cond.lays "java/lang/StringBuilder" "java/lang/AbstractStringBuilder" "coder" "B"), (Jvm.Cond.lays "java/lang/StringBuilder" "java/lang/AbstractStringBuilder" "maybeLatin1" "Z"), (Jvm.Cond.lays "java/lang/StringBuilder" "java/lang/AbstractStringBuilder" "count" "I")] := by rfl
  rw [e] at hw
  simp only [List.mem_cons, List.not_mem_nil, or_false] at hw
  rcases hw with rfl | rfl | rfl | rfl
  · exact zt (lw_at lw_m1 185 rfl)
  · exact zt (lw_at lw_m1 187 rfl)
  · exact zt (lw_at lw_m1 189 rfl)
  · exact zt (lw_at lw_m1 191 rfl)
theorem nm_J5 : ∀ a, a < 4 → ∀ b, b < 4 → a ≠ b → (TJ5 a).2.1 ≠ (TJ5 b).2.1 := by decide +kernel
theorem tyo_J5 : ∀ k, k < 4 → parseFieldDescriptor (TJ5 k).2.2.1 = some (tyJ5 k) := by decide +kernel
theorem in_J6 : ∀ w ∈ u_ws RJ6 TJ6 4, w ∈ zTb := by
  intro w hw
  have e : u_ws RJ6 TJ6 4 = [(Jvm.Cond.laysFinal "java/lang/String" "java/lang/String" "value" "[B"), (Jvm.Cond.laysFinal "java/lang/String" "java/lang/String" "coder" "B"), (Jvm.Cond.lays "java/lang/String" "java/lang/String" "hash" "I"), (Jvm.Cond.lays "java/lang/String" "java/lang/String" "hashIsZero" "Z")] := by rfl
  rw [e] at hw
  simp only [List.mem_cons, List.not_mem_nil, or_false] at hw
  rcases hw with rfl | rfl | rfl | rfl
  · exact zt (lw_at lw_m3 194 rfl)
  · exact zt (lw_at lw_m3 196 rfl)
  · exact zt (lw_at lw_m3 198 rfl)
  · exact zt (lw_at lw_m3 200 rfl)
theorem nm_J6 : ∀ a, a < 4 → ∀ b, b < 4 → a ≠ b → (TJ6 a).2.1 ≠ (TJ6 b).2.1 := by decide +kernel
theorem tyo_J6 : ∀ k, k < 4 → parseFieldDescriptor (TJ6 k).2.2.1 = some (tyJ6 k) := by decide +kernel
theorem in_J18 : ∀ w ∈ u_ws RJ18 TJ18 1, w ∈ zTb := by
  intro w hw
  have e : u_ws RJ18 TJ18 1 = [(Jvm.Cond.laysFinal "java/lang/Integer" "java/lang/Integer" "value" "I")] := by rfl
  rw [e] at hw
  simp only [List.mem_cons, List.not_mem_nil, or_false] at hw
  rcases hw with rfl
  · exact zt (lw_at lw_m6 28 rfl)
theorem nm_J18 : ∀ a, a < 1 → ∀ b, b < 1 → a ≠ b → (TJ18 a).2.1 ≠ (TJ18 b).2.1 := by decide +kernel
theorem tyo_J18 : ∀ k, k < 1 → parseFieldDescriptor (TJ18 k).2.2.1 = some (tyJ18 k) := by decide +kernel
theorem zin : ∀ (ci : Nat) (q : vw_C), zCL[ci]? = some q → ∀ w ∈ u_ws q.1 q.2.1 q.2.2, w ∈ zTb := by
  intro ci q h
  match ci, h with
  | 0, h => cases h; exact in_X1
  | 1, h => cases h; exact in_X2
  | 2, h => cases h; exact in_X5
  | 3, h => cases h; exact in_X4
  | 4, h => cases h; exact fun w hw => by cases hw
  | 5, h => cases h; exact fun w hw => by cases hw
  | 6, h => cases h; exact fun w hw => by cases hw
  | 7, h => cases h; exact fun w hw => by cases hw
  | 8, h => cases h; exact in_X12
  | 9, h => cases h; exact in_X13
  | 10, h => cases h; exact in_X3
  | 11, h => cases h; exact in_J2
  | 12, h => cases h; exact in_J12
  | 13, h => cases h; exact in_J3
  | 14, h => cases h; exact in_J5
  | 15, h => cases h; exact in_J6
  | 16, h => cases h; exact in_J18
  | 17, h => cases h; exact fun w hw => by cases hw
  | 18, h => cases h; exact fun w hw => by cases hw
  | 19, h => cases h; exact fun w hw => by cases hw
  | 20, h => cases h; exact fun w hw => by cases hw
  | 21, h => cases h; exact fun w hw => by cases hw
  | 22, h => cases h; exact fun w hw => by cases hw
  | n + 23, h => simp [zCL] at h
theorem znm : ∀ (ci : Nat) (q : vw_C), zCL[ci]? = some q → ∀ a, a < q.2.2 → ∀ b, b < q.2.2 → a ≠ b → (q.2.1 a).2.1 ≠ (q.2.1 b).2.1 := by
  intro ci q h
  match ci, h with
  | 0, h => cases h; exact nm_X1
  | 1, h => cases h; exact nm_X2
  | 2, h => cases h; exact nm_X5
  | 3, h => cases h; exact nm_X4
  | 4, h => cases h; exact fun a ha => absurd ha (Nat.not_lt_zero a)
  | 5, h => cases h; exact fun a ha => absurd ha (Nat.not_lt_zero a)
  | 6, h => cases h; exact fun a ha => absurd ha (Nat.not_lt_zero a)
  | 7, h => cases h; exact fun a ha => absurd ha (Nat.not_lt_zero a)
  | 8, h => cases h; exact nm_X12
  | 9, h => cases h; exact nm_X13
  | 10, h => cases h; exact nm_X3
  | 11, h => cases h; exact nm_J2
  | 12, h => cases h; exact nm_J12
  | 13, h => cases h; exact nm_J3
  | 14, h => cases h; exact nm_J5
  | 15, h => cases h; exact nm_J6
  | 16, h => cases h; exact nm_J18
  | 17, h => cases h; exact fun a ha => absurd ha (Nat.not_lt_zero a)
  | 18, h => cases h; exact fun a ha => absurd ha (Nat.not_lt_zero a)
  | 19, h => cases h; exact fun a ha => absurd ha (Nat.not_lt_zero a)
  | 20, h => cases h; exact fun a ha => absurd ha (Nat.not_lt_zero a)
  | 21, h => cases h; exact fun a ha => absurd ha (Nat.not_lt_zero a)
  | 22, h => cases h; exact fun a ha => absurd ha (Nat.not_lt_zero a)
  | n + 23, h => simp [zCL] at h
def zty (ci : Nat) : Nat → FieldType := zTY.getD ci (fun _ => .int)
theorem ztyo : ∀ (ci : Nat) (q : vw_C), zCL[ci]? = some q → ∀ k, k < q.2.2 → parseFieldDescriptor (q.2.1 k).2.2.1 = some (zty ci k) := by
  intro ci q h
  match ci, h with
  | 0, h => cases h; exact tyo_X1
  | 1, h => cases h; exact tyo_X2
  | 2, h => cases h; exact tyo_X5
  | 3, h => cases h; exact tyo_X4
  | 4, h => cases h; exact fun a ha => absurd ha (Nat.not_lt_zero a)
  | 5, h => cases h; exact fun a ha => absurd ha (Nat.not_lt_zero a)
  | 6, h => cases h; exact fun a ha => absurd ha (Nat.not_lt_zero a)
  | 7, h => cases h; exact fun a ha => absurd ha (Nat.not_lt_zero a)
  | 8, h => cases h; exact tyo_X12
  | 9, h => cases h; exact tyo_X13
  | 10, h => cases h; exact tyo_X3
  | 11, h => cases h; exact tyo_J2
  | 12, h => cases h; exact tyo_J12
  | 13, h => cases h; exact tyo_J3
  | 14, h => cases h; exact tyo_J5
  | 15, h => cases h; exact tyo_J6
  | 16, h => cases h; exact tyo_J18
  | 17, h => cases h; exact fun a ha => absurd ha (Nat.not_lt_zero a)
  | 18, h => cases h; exact fun a ha => absurd ha (Nat.not_lt_zero a)
  | 19, h => cases h; exact fun a ha => absurd ha (Nat.not_lt_zero a)
  | 20, h => cases h; exact fun a ha => absurd ha (Nat.not_lt_zero a)
  | 21, h => cases h; exact fun a ha => absurd ha (Nat.not_lt_zero a)
  | 22, h => cases h; exact fun a ha => absurd ha (Nat.not_lt_zero a)
  | n + 23, h => simp [zCL] at h
/-- statics that are read: class, name, type -/
def zST : List (String × String × String) := [("java/util/ArrayList", "DEFAULTCAPACITY_EMPTY_ELEMENTDATA", "[Ljava/lang/Object;"), ("java/lang/String", "COMPACT_STRINGS", "Z"), ("jdk/internal/util/Preconditions", "SIOOBE_FORMATTER", "Ljava/util/function/BiFunction;"), ("java/lang/Integer", "DigitOnes", "[B"), ("java/lang/Integer", "DigitTens", "[B"), ("jdk/internal/util/Preconditions", "IOOBE_FORMATTER", "Ljava/util/function/BiFunction;"), ("java/lang/Integer$IntegerCache", "high", "I"), ("java/lang/Integer$IntegerCache", "cache", "[Ljava/lang/Integer;")]
/-- text constants that are read: class, place in its pool, text -/
def zSR : List (String × Nat × String) := [("CartBridge", 430, ""), ("CartBridge", 432, " "), ("CartBridge", 455, "|"), ("CartBridge", 440, "."), ("CartBridge", 445, ">"), ("CartBridge", 447, "<"), ("CartBridge$Free", 7, "free"), ("CartBridge$Load", 13, "load"), ("CartBridge$Turns", 19, "turns"), ("CartBridge$Wait", 41, "wait"), ("CartBridge$Turns", 34, " "), ("CartBridge", 69, "w"), ("CartBridge", 71, "e"), ("CartBridge$Turns", 45, "/"), ("CartBridge$Reader", 75, "cart"), ("CartBridge$Reader", 77, "turn"), ("CartBridge$Reader", 79, "tick"), ("CartBridge$Reader", 81, "leave"), ("CartBridge$Reader", 83, "law"), ("CartBridge$Reader", 85, "spans"), ("CartBridge$Reader", 87, "share"), ("CartBridge$Reader", 89, "yield"), ("CartBridge$Reader", 58, ""), ("CartBridge$Reader", 48, " "), ("CartBridge$Law", 58, "free"), ("CartBridge$Law", 64, "turns"), ("CartBridge$Law", 66, "load"), ("CartBridge$Law", 68, "wait"), ("CartBridge$Law", 70, ""), ("CartBridge", 351, "cart"), ("CartBridge", 356, "tick"), ("CartBridge", 357, "law"), ("CartBridge", 358, "share"), ("CartBridge", 359, "spans"), ("CartBridge", 360, "leave"), ("CartBridge", 362, "turn"), ("CartBridge$Cart", 48, "waits"), ("CartBridge$Cart", 50, "goes east"), ("CartBridge$Cart", 52, "goes west"), ("CartBridge$Cart", 54, "passed"), ("CartBridge$Cart", 56, "left")]
/-- exceptions that are not of the other's class -/
def zNC : List (String × String) := [("java/lang/UnsupportedOperationException", "java/lang/IllegalArgumentException"), ("java/lang/UnsupportedOperationException", "java/lang/IndexOutOfBoundsException"), ("java/lang/UnsupportedOperationException", "java/util/NoSuchElementException"), ("java/lang/UnsupportedOperationException", "java/lang/IllegalStateException"), ("java/lang/UnsupportedOperationException", "java/lang/ArithmeticException"), ("java/lang/IllegalArgumentException", "java/lang/UnsupportedOperationException"), ("java/lang/IllegalArgumentException", "java/lang/IndexOutOfBoundsException"), ("java/lang/IllegalArgumentException", "java/util/NoSuchElementException"), ("java/lang/IllegalArgumentException", "java/lang/IllegalStateException"), ("java/lang/IllegalArgumentException", "java/lang/ArithmeticException"), ("java/lang/IndexOutOfBoundsException", "java/lang/UnsupportedOperationException"), ("java/lang/IndexOutOfBoundsException", "java/lang/IllegalArgumentException"), ("java/lang/IndexOutOfBoundsException", "java/util/NoSuchElementException"), ("java/lang/IndexOutOfBoundsException", "java/lang/IllegalStateException"), ("java/lang/IndexOutOfBoundsException", "java/lang/ArithmeticException"), ("java/util/NoSuchElementException", "java/lang/UnsupportedOperationException"), ("java/util/NoSuchElementException", "java/lang/IllegalArgumentException"), ("java/util/NoSuchElementException", "java/lang/IndexOutOfBoundsException"), ("java/util/NoSuchElementException", "java/lang/IllegalStateException"), ("java/util/NoSuchElementException", "java/lang/ArithmeticException"), ("java/lang/IllegalStateException", "java/lang/UnsupportedOperationException"), ("java/lang/IllegalStateException", "java/lang/IllegalArgumentException"), ("java/lang/IllegalStateException", "java/lang/IndexOutOfBoundsException"), ("java/lang/IllegalStateException", "java/util/NoSuchElementException"), ("java/lang/IllegalStateException", "java/lang/ArithmeticException"), ("java/lang/ArithmeticException", "java/lang/UnsupportedOperationException"), ("java/lang/ArithmeticException", "java/lang/IllegalArgumentException"), ("java/lang/ArithmeticException", "java/lang/IndexOutOfBoundsException"), ("java/lang/ArithmeticException", "java/util/NoSuchElementException"), ("java/lang/ArithmeticException", "java/lang/IllegalStateException")]
def zA5 : List FieldType := [.int, .byte, .char, .long, .double]
/-- defaults: class, method called, method that runs -/
def zLD : List (String × MethodName × MethodName) := [("CartBridge$Free", ⟨"CartBridge$Law", "described", "(LCartBridge$State;)Ljava/lang/String;"⟩, ⟨"CartBridge$Law", "described", "(LCartBridge$State;)Ljava/lang/String;"⟩), ("CartBridge$Free", ⟨"CartBridge$Law", "may", "(LCartBridge$State;I)Z"⟩, ⟨"CartBridge$Law", "may", "(LCartBridge$State;I)Z"⟩), ("CartBridge$Load", ⟨"CartBridge$Law", "described", "(LCartBridge$State;)Ljava/lang/String;"⟩, ⟨"CartBridge$Law", "described", "(LCartBridge$State;)Ljava/lang/String;"⟩), ("CartBridge$Load", ⟨"CartBridge$Law", "isFree", "()Z"⟩, ⟨"CartBridge$Law", "isFree", "()Z"⟩), ("CartBridge$Load", ⟨"CartBridge$Law", "may", "(LCartBridge$State;I)Z"⟩, ⟨"CartBridge$Law", "may", "(LCartBridge$State;I)Z"⟩), ("CartBridge$Turns", ⟨"CartBridge$Law", "isFree", "()Z"⟩, ⟨"CartBridge$Law", "isFree", "()Z"⟩), ("CartBridge$Turns", ⟨"CartBridge$Law", "may", "(LCartBridge$State;I)Z"⟩, ⟨"CartBridge$Law", "may", "(LCartBridge$State;I)Z"⟩), ("CartBridge$Wait", ⟨"CartBridge$Law", "described", "(LCartBridge$State;)Ljava/lang/String;"⟩, ⟨"CartBridge$Law", "described", "(LCartBridge$State;)Ljava/lang/String;"⟩), ("CartBridge$Wait", ⟨"CartBridge$Law", "isFree", "()Z"⟩, ⟨"CartBridge$Law", "isFree", "()Z"⟩), ("CartBridge$Wait", ⟨"CartBridge$Law", "may", "(LCartBridge$State;I)Z"⟩, ⟨"CartBridge$Law", "may", "(LCartBridge$State;I)Z"⟩), ("java/lang/StringBuilder", ⟨"java/lang/StringBuilder", "isEmpty", "()Z"⟩, ⟨"java/lang/CharSequence", "isEmpty", "()Z"⟩)]
theorem zld : ∀ q ∈ zLD, (q.2.1.cls ≠ "java/lang/invoke/MethodHandle" ∧ q.2.1.cls ≠ "java/lang/invoke/VarHandle") ∧ (Cond.declares q.2.1 ∈ zTb ∨ ∃ ow, Cond.sameMethod q.2.1.cls ow q.2.1.name q.2.1.desc ∈ zTb) := by
  intro q hq
  simp only [zLD, List.mem_cons, List.not_mem_nil, or_false] at hq
  rcases hq with rfl | rfl | rfl | rfl | rfl | rfl | rfl | rfl | rfl | rfl | rfl
  · exact ⟨by decide, Or.inl (zt (lw_at lw_m5 75 rfl))⟩
  · exact ⟨by decide, Or.inl (zt (lw_at lw_m6 227 rfl))⟩
  · exact ⟨by decide, Or.inl (zt (lw_at lw_m5 75 rfl))⟩
  · exact ⟨by decide, Or.inl (zt (lw_at lw_m6 237 rfl))⟩
  · exact ⟨by decide, Or.inl (zt (lw_at lw_m6 227 rfl))⟩
  · exact ⟨by decide, Or.inl (zt (lw_at lw_m6 237 rfl))⟩
  · exact ⟨by decide, Or.inl (zt (lw_at lw_m6 227 rfl))⟩
  · exact ⟨by decide, Or.inl (zt (lw_at lw_m5 75 rfl))⟩
  · exact ⟨by decide, Or.inl (zt (lw_at lw_m6 237 rfl))⟩
  · exact ⟨by decide, Or.inl (zt (lw_at lw_m6 227 rfl))⟩
  · exact ⟨by decide, Or.inr ⟨_, (List.mem_append_left _ (List.mem_of_getElem? (i := 1) rfl))⟩⟩
