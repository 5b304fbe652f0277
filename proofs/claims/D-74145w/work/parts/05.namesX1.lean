/-! DistinctMarks -/
set_option maxRecDepth 100000
def RX1 : String := "DistinctMarks"
def TX1 : u_T := fun k => match k with
  | 0 => ("DistinctMarks", "alpha", "[I", true)
  | 1 => ("DistinctMarks", "tables", "[[I", true)
  | 2 => ("DistinctMarks", "timesA", "I", false)
  | 3 => ("DistinctMarks", "plusB", "I", false)
  | 4 => ("DistinctMarks", "counters", "[LDistinctMarks$Counter;", true)
  | 5 => ("DistinctMarks", "text", "[I", true)
  | 6 => ("DistinctMarks", "signMany", "I", false)
  | 7 => ("DistinctMarks", "at", "I", false)
  | 8 => ("DistinctMarks", "end", "I", false)
  | 9 => ("DistinctMarks", "things", "[I", true)
  | 10 => ("DistinctMarks", "thingMany", "I", false)
  | 11 => ("DistinctMarks", "row", "[J", true)
  | _ => ("DistinctMarks", "rowMany", "I", false)
def tyX1 : Nat → FieldType := fun k => match k with
  | 0 => .array .int
  | 1 => .array (.array .int)
  | 2 => .int
  | 3 => .int
  | 4 => .array (.object "DistinctMarks$Counter")
  | 5 => .array .int
  | 6 => .int
  | 7 => .int
  | 8 => .int
  | 9 => .array .int
  | 10 => .int
  | 11 => .array .long
  | _ => .int
abbrev wsX10 : List Cond := u_ws RX1 TX1 13
set_option maxRecDepth 100000 in
theorem nmX1 : ∀ a, a < 13 → ∀ b, b < 13 → a ≠ b → (TX1 a).2.1 ≠ (TX1 b).2.1 := by decide +kernel
set_option maxRecDepth 100000 in
theorem tyX1_ok : ∀ k, k < 13 → parseFieldDescriptor (TX1 k).2.2.1 = some (tyX1 k) := by decide +kernel
abbrev cX1_mixes : ByteArray := prog_1_method_7_code
def yX1_mixes : MethodName := ⟨RX1, "mixes", "(II)Z"⟩
def dkwX1_mixes_0 : List UInt8 := [27, 5, 112, 154, 0, 5, 3, 172, 42, 27, 181, 0, 15, 42, 28, 181, 0, 19, 4, 172]
abbrev dktX1_mixes_0 : List UInt8 := dkwX1_mixes_0 ++ []
theorem dksX1_mixes_0 : cX1_mixes.data.toList.drop 0 = dktX1_mixes_0 := by decide +kernel
theorem dX1_mixes_0 : decode cX1_mixes 0 = .ok (.iload_n 1, 1) := dk_27 (dk_at dksX1_mixes_0 0 rfl rfl)
theorem dX1_mixes_1 : decode cX1_mixes 1 = .ok (.iconst 2, 1) := dk_5 (dk_at dksX1_mixes_0 1 rfl rfl)
theorem dX1_mixes_2 : decode cX1_mixes 2 = .ok (.irem, 1) := dk_112 (dk_at dksX1_mixes_0 2 rfl rfl)
theorem dX1_mixes_3 : decode cX1_mixes 3 = .ok (.ifCond .ne 5, 3) := dk_154 0 5 (dk_at dksX1_mixes_0 3 rfl rfl)
theorem dX1_mixes_6 : decode cX1_mixes 6 = .ok (.iconst 0, 1) := dk_3 (dk_at dksX1_mixes_0 6 rfl rfl)
theorem dX1_mixes_7 : decode cX1_mixes 7 = .ok (.ireturn, 1) := dk_172 (dk_at dksX1_mixes_0 7 rfl rfl)
theorem dX1_mixes_8 : decode cX1_mixes 8 = .ok (.aload_n 0, 1) := dk_42 (dk_at dksX1_mixes_0 8 rfl rfl)
theorem dX1_mixes_9 : decode cX1_mixes 9 = .ok (.iload_n 1, 1) := dk_27 (dk_at dksX1_mixes_0 9 rfl rfl)
theorem dX1_mixes_10 : decode cX1_mixes 10 = .ok (.putfield 15, 3) := dk_181 0 15 (dk_at dksX1_mixes_0 10 rfl rfl)
theorem dX1_mixes_13 : decode cX1_mixes 13 = .ok (.aload_n 0, 1) := dk_42 (dk_at dksX1_mixes_0 13 rfl rfl)
theorem dX1_mixes_14 : decode cX1_mixes 14 = .ok (.iload_n 2, 1) := dk_28 (dk_at dksX1_mixes_0 14 rfl rfl)
theorem dX1_mixes_15 : decode cX1_mixes 15 = .ok (.putfield 19, 3) := dk_181 0 19 (dk_at dksX1_mixes_0 15 rfl rfl)
theorem dX1_mixes_18 : decode cX1_mixes 18 = .ok (.iconst 1, 1) := dk_4 (dk_at dksX1_mixes_0 18 rfl rfl)
theorem dX1_mixes_19 : decode cX1_mixes 19 = .ok (.ireturn, 1) := dk_172 (dk_at dksX1_mixes_0 19 rfl rfl)
abbrev cX1_mark : ByteArray := prog_1_method_8_code
def yX1_mark : MethodName := ⟨RX1, "mark", "(I)I"⟩
def dkwX1_mark_0 : List UInt8 := [42, 27, 182, 0, 34, 172]
abbrev dktX1_mark_0 : List UInt8 := dkwX1_mark_0 ++ []
theorem dksX1_mark_0 : cX1_mark.data.toList.drop 0 = dktX1_mark_0 := by decide +kernel
theorem dX1_mark_0 : decode cX1_mark 0 = .ok (.aload_n 0, 1) := dk_42 (dk_at dksX1_mark_0 0 rfl rfl)
theorem dX1_mark_1 : decode cX1_mark 1 = .ok (.iload_n 1, 1) := dk_27 (dk_at dksX1_mark_0 1 rfl rfl)
theorem dX1_mark_2 : decode cX1_mark 2 = .ok (.invokevirtual 34, 3) := dk_182 0 34 (dk_at dksX1_mark_0 2 rfl rfl)
theorem dX1_mark_5 : decode cX1_mark 5 = .ok (.ireturn, 1) := dk_172 (dk_at dksX1_mark_0 5 rfl rfl)
abbrev cX1_markOf : ByteArray := prog_1_method_4_code
def yX1_markOf : MethodName := ⟨RX1, "markOf", "(I)I"⟩
def dkwX1_markOf_0 : List UInt8 := [42, 180, 0, 15, 27, 104, 42, 180, 0, 19, 96, 172]
abbrev dktX1_markOf_0 : List UInt8 := dkwX1_markOf_0 ++ []
theorem dksX1_markOf_0 : cX1_markOf.data.toList.drop 0 = dktX1_markOf_0 := by decide +kernel
theorem dX1_markOf_0 : decode cX1_markOf 0 = .ok (.aload_n 0, 1) := dk_42 (dk_at dksX1_markOf_0 0 rfl rfl)
theorem dX1_markOf_1 : decode cX1_markOf 1 = .ok (.getfield 15, 3) := dk_180 0 15 (dk_at dksX1_markOf_0 1 rfl rfl)
theorem dX1_markOf_4 : decode cX1_markOf 4 = .ok (.iload_n 1, 1) := dk_27 (dk_at dksX1_markOf_0 4 rfl rfl)
theorem dX1_markOf_5 : decode cX1_markOf 5 = .ok (.imul, 1) := dk_104 (dk_at dksX1_markOf_0 5 rfl rfl)
theorem dX1_markOf_6 : decode cX1_markOf 6 = .ok (.aload_n 0, 1) := dk_42 (dk_at dksX1_markOf_0 6 rfl rfl)
theorem dX1_markOf_7 : decode cX1_markOf 7 = .ok (.getfield 19, 3) := dk_180 0 19 (dk_at dksX1_markOf_0 7 rfl rfl)
theorem dX1_markOf_10 : decode cX1_markOf 10 = .ok (.iadd, 1) := dk_96 (dk_at dksX1_markOf_0 10 rfl rfl)
theorem dX1_markOf_11 : decode cX1_markOf 11 = .ok (.ireturn, 1) := dk_172 (dk_at dksX1_markOf_0 11 rfl rfl)
abbrev cX1_place : ByteArray := prog_1_method_9_code
def yX1_place : MethodName := ⟨RX1, "place", "(II)I"⟩
def dkwX1_place_1 : List UInt8 := [133, 80, 182, 0, 44, 42, 28, 182, 0, 34, 27, 184, 0, 48, 172]
abbrev dktX1_place_1 : List UInt8 := dkwX1_place_1 ++ []
def dkwX1_place_0 : List UInt8 := [27, 184, 0, 37, 154, 0, 5, 2, 172, 42, 4, 188, 11, 89, 3, 42, 28, 182, 0, 34, 27, 184, 0, 41]
abbrev dktX1_place_0 : List UInt8 := dkwX1_place_0 ++ dktX1_place_1
theorem dksX1_place_0 : cX1_place.data.toList.drop 0 = dktX1_place_0 := by decide +kernel
theorem dksX1_place_1 : cX1_place.data.toList.drop 24 = dktX1_place_1 := dk_seg dksX1_place_0 24 rfl rfl
theorem dX1_place_0 : decode cX1_place 0 = .ok (.iload_n 1, 1) := dk_27 (dk_at dksX1_place_0 0 rfl rfl)
theorem dX1_place_1 : decode cX1_place 1 = .ok (.invokestatic 37, 3) := dk_184 0 37 (dk_at dksX1_place_0 1 rfl rfl)
theorem dX1_place_4 : decode cX1_place 4 = .ok (.ifCond .ne 5, 3) := dk_154 0 5 (dk_at dksX1_place_0 4 rfl rfl)
theorem dX1_place_7 : decode cX1_place 7 = .ok (.iconst (-1), 1) := dk_2 (dk_at dksX1_place_0 7 rfl rfl)
theorem dX1_place_8 : decode cX1_place 8 = .ok (.ireturn, 1) := dk_172 (dk_at dksX1_place_0 8 rfl rfl)
theorem dX1_place_9 : decode cX1_place 9 = .ok (.aload_n 0, 1) := dk_42 (dk_at dksX1_place_0 9 rfl rfl)
theorem dX1_place_10 : decode cX1_place 10 = .ok (.iconst 1, 1) := dk_4 (dk_at dksX1_place_0 10 rfl rfl)
theorem dX1_place_11 : decode cX1_place 11 = .ok (.newarray .long, 2) := dk_188_11 (dk_at dksX1_place_0 11 rfl rfl)
theorem dX1_place_13 : decode cX1_place 13 = .ok (.dup, 1) := dk_89 (dk_at dksX1_place_0 13 rfl rfl)
theorem dX1_place_14 : decode cX1_place 14 = .ok (.iconst 0, 1) := dk_3 (dk_at dksX1_place_0 14 rfl rfl)
theorem dX1_place_15 : decode cX1_place 15 = .ok (.aload_n 0, 1) := dk_42 (dk_at dksX1_place_0 15 rfl rfl)
theorem dX1_place_16 : decode cX1_place 16 = .ok (.iload_n 2, 1) := dk_28 (dk_at dksX1_place_0 16 rfl rfl)
theorem dX1_place_17 : decode cX1_place 17 = .ok (.invokevirtual 34, 3) := dk_182 0 34 (dk_at dksX1_place_0 17 rfl rfl)
theorem dX1_place_20 : decode cX1_place 20 = .ok (.iload_n 1, 1) := dk_27 (dk_at dksX1_place_0 20 rfl rfl)
theorem dX1_place_21 : decode cX1_place 21 = .ok (.invokestatic 41, 3) := dk_184 0 41 (dk_at dksX1_place_0 21 rfl rfl)
theorem dX1_place_24 : decode cX1_place 24 = .ok (.i2l, 1) := dk_133 (dk_at dksX1_place_1 0 rfl rfl)
theorem dX1_place_25 : decode cX1_place 25 = .ok (.lastore, 1) := dk_80 (dk_at dksX1_place_1 1 rfl rfl)
theorem dX1_place_26 : decode cX1_place 26 = .ok (.invokevirtual 44, 3) := dk_182 0 44 (dk_at dksX1_place_1 2 rfl rfl)
theorem dX1_place_29 : decode cX1_place 29 = .ok (.aload_n 0, 1) := dk_42 (dk_at dksX1_place_1 5 rfl rfl)
theorem dX1_place_30 : decode cX1_place 30 = .ok (.iload_n 2, 1) := dk_28 (dk_at dksX1_place_1 6 rfl rfl)
theorem dX1_place_31 : decode cX1_place 31 = .ok (.invokevirtual 34, 3) := dk_182 0 34 (dk_at dksX1_place_1 7 rfl rfl)
theorem dX1_place_34 : decode cX1_place 34 = .ok (.iload_n 1, 1) := dk_27 (dk_at dksX1_place_1 10 rfl rfl)
theorem dX1_place_35 : decode cX1_place 35 = .ok (.invokestatic 48, 3) := dk_184 0 48 (dk_at dksX1_place_1 11 rfl rfl)
theorem dX1_place_38 : decode cX1_place 38 = .ok (.ireturn, 1) := dk_172 (dk_at dksX1_place_1 14 rfl rfl)
abbrev cX1_isP : ByteArray := prog_1_method_2_code
def yX1_isP : MethodName := ⟨RX1, "isP", "(I)Z"⟩
def dkwX1_isP_0 : List UInt8 := [26, 133, 20, 0, 3, 20, 0, 5, 184, 0, 7, 172]
abbrev dktX1_isP_0 : List UInt8 := dkwX1_isP_0 ++ []
theorem dksX1_isP_0 : cX1_isP.data.toList.drop 0 = dktX1_isP_0 := by decide +kernel
theorem dX1_isP_0 : decode cX1_isP 0 = .ok (.iload_n 0, 1) := dk_26 (dk_at dksX1_isP_0 0 rfl rfl)
theorem dX1_isP_1 : decode cX1_isP 1 = .ok (.i2l, 1) := dk_133 (dk_at dksX1_isP_0 1 rfl rfl)
theorem dX1_isP_2 : decode cX1_isP 2 = .ok (.ldc2_w 3, 3) := dk_20 0 3 (dk_at dksX1_isP_0 2 rfl rfl)
theorem dX1_isP_5 : decode cX1_isP 5 = .ok (.ldc2_w 5, 3) := dk_20 0 5 (dk_at dksX1_isP_0 5 rfl rfl)
theorem dX1_isP_8 : decode cX1_isP 8 = .ok (.invokestatic 7, 3) := dk_184 0 7 (dk_at dksX1_isP_0 8 rfl rfl)
theorem dX1_isP_11 : decode cX1_isP 11 = .ok (.ireturn, 1) := dk_172 (dk_at dksX1_isP_0 11 rfl rfl)
abbrev cX1_in : ByteArray := prog_1_method_1_code
def yX1_in : MethodName := ⟨RX1, "in", "(JJJ)Z"⟩
def dkwX1_in_0 : List UInt8 := [30, 32, 148, 155, 0, 14, 30, 22, 4, 148, 157, 0, 7, 4, 167, 0, 4, 3, 172]
abbrev dktX1_in_0 : List UInt8 := dkwX1_in_0 ++ []
theorem dksX1_in_0 : cX1_in.data.toList.drop 0 = dktX1_in_0 := by decide +kernel
theorem dX1_in_0 : decode cX1_in 0 = .ok (.lload_n 0, 1) := dk_30 (dk_at dksX1_in_0 0 rfl rfl)
theorem dX1_in_1 : decode cX1_in 1 = .ok (.lload_n 2, 1) := dk_32 (dk_at dksX1_in_0 1 rfl rfl)
theorem dX1_in_2 : decode cX1_in 2 = .ok (.lcmp, 1) := dk_148 (dk_at dksX1_in_0 2 rfl rfl)
theorem dX1_in_3 : decode cX1_in 3 = .ok (.ifCond .lt 14, 3) := dk_155 0 14 (dk_at dksX1_in_0 3 rfl rfl)
theorem dX1_in_6 : decode cX1_in 6 = .ok (.lload_n 0, 1) := dk_30 (dk_at dksX1_in_0 6 rfl rfl)
theorem dX1_in_7 : decode cX1_in 7 = .ok (.lload 4, 2) := dk_22 4 (dk_at dksX1_in_0 7 rfl rfl)
theorem dX1_in_9 : decode cX1_in 9 = .ok (.lcmp, 1) := dk_148 (dk_at dksX1_in_0 9 rfl rfl)
theorem dX1_in_10 : decode cX1_in 10 = .ok (.ifCond .gt 7, 3) := dk_157 0 7 (dk_at dksX1_in_0 10 rfl rfl)
theorem dX1_in_13 : decode cX1_in 13 = .ok (.iconst 1, 1) := dk_4 (dk_at dksX1_in_0 13 rfl rfl)
theorem dX1_in_14 : decode cX1_in 14 = .ok (.goto 4, 3) := dk_167 0 4 (dk_at dksX1_in_0 14 rfl rfl)
theorem dX1_in_17 : decode cX1_in 17 = .ok (.iconst 0, 1) := dk_3 (dk_at dksX1_in_0 17 rfl rfl)
theorem dX1_in_18 : decode cX1_in 18 = .ok (.ireturn, 1) := dk_172 (dk_at dksX1_in_0 18 rfl rfl)
abbrev cX1_rankOf : ByteArray := prog_1_method_6_code
def yX1_rankOf : MethodName := ⟨RX1, "rankOf", "(II)I"⟩
def dkwX1_rankOf_0 : List UInt8 := [26, 27, 120, 184, 0, 22, 16, 32, 27, 100, 184, 0, 28, 4, 96, 172]
abbrev dktX1_rankOf_0 : List UInt8 := dkwX1_rankOf_0 ++ []
theorem dksX1_rankOf_0 : cX1_rankOf.data.toList.drop 0 = dktX1_rankOf_0 := by decide +kernel
theorem dX1_rankOf_0 : decode cX1_rankOf 0 = .ok (.iload_n 0, 1) := dk_26 (dk_at dksX1_rankOf_0 0 rfl rfl)
theorem dX1_rankOf_1 : decode cX1_rankOf 1 = .ok (.iload_n 1, 1) := dk_27 (dk_at dksX1_rankOf_0 1 rfl rfl)
theorem dX1_rankOf_2 : decode cX1_rankOf 2 = .ok (.ishl, 1) := dk_120 (dk_at dksX1_rankOf_0 2 rfl rfl)
theorem dX1_rankOf_3 : decode cX1_rankOf 3 = .ok (.invokestatic 22, 3) := dk_184 0 22 (dk_at dksX1_rankOf_0 3 rfl rfl)
theorem dX1_rankOf_6 : decode cX1_rankOf 6 = .ok (.bipush 32, 2) := dk_16 32 (dk_at dksX1_rankOf_0 6 rfl rfl)
theorem dX1_rankOf_8 : decode cX1_rankOf 8 = .ok (.iload_n 1, 1) := dk_27 (dk_at dksX1_rankOf_0 8 rfl rfl)
theorem dX1_rankOf_9 : decode cX1_rankOf 9 = .ok (.isub, 1) := dk_100 (dk_at dksX1_rankOf_0 9 rfl rfl)
theorem dX1_rankOf_10 : decode cX1_rankOf 10 = .ok (.invokestatic 28, 3) := dk_184 0 28 (dk_at dksX1_rankOf_0 10 rfl rfl)
theorem dX1_rankOf_13 : decode cX1_rankOf 13 = .ok (.iconst 1, 1) := dk_4 (dk_at dksX1_rankOf_0 13 rfl rfl)
theorem dX1_rankOf_14 : decode cX1_rankOf 14 = .ok (.iadd, 1) := dk_96 (dk_at dksX1_rankOf_0 14 rfl rfl)
theorem dX1_rankOf_15 : decode cX1_rankOf 15 = .ok (.ireturn, 1) := dk_172 (dk_at dksX1_rankOf_0 15 rfl rfl)
abbrev cX1_notesRow : ByteArray := prog_1_method_99_code
def yX1_notesRow : MethodName := ⟨RX1, "notesRow", "([J)V"⟩
def dkwX1_notesRow_1 : List UInt8 := [55, 5, 42, 22, 5, 182, 1, 52, 132, 4, 1, 167, 255, 235, 177]
abbrev dktX1_notesRow_1 : List UInt8 := dkwX1_notesRow_1 ++ []
def dkwX1_notesRow_0 : List UInt8 := [42, 3, 181, 1, 49, 43, 77, 44, 190, 62, 3, 54, 4, 21, 4, 29, 162, 0, 21, 44, 21, 4, 47]
abbrev dktX1_notesRow_0 : List UInt8 := dkwX1_notesRow_0 ++ dktX1_notesRow_1
theorem dksX1_notesRow_0 : cX1_notesRow.data.toList.drop 0 = dktX1_notesRow_0 := by decide +kernel
theorem dksX1_notesRow_1 : cX1_notesRow.data.toList.drop 23 = dktX1_notesRow_1 := dk_seg dksX1_notesRow_0 23 rfl rfl
theorem dX1_notesRow_0 : decode cX1_notesRow 0 = .ok (.aload_n 0, 1) := dk_42 (dk_at dksX1_notesRow_0 0 rfl rfl)
theorem dX1_notesRow_1 : decode cX1_notesRow 1 = .ok (.iconst 0, 1) := dk_3 (dk_at dksX1_notesRow_0 1 rfl rfl)
theorem dX1_notesRow_2 : decode cX1_notesRow 2 = .ok (.putfield 305, 3) := dk_181 1 49 (dk_at dksX1_notesRow_0 2 rfl rfl)
theorem dX1_notesRow_5 : decode cX1_notesRow 5 = .ok (.aload_n 1, 1) := dk_43 (dk_at dksX1_notesRow_0 5 rfl rfl)
theorem dX1_notesRow_6 : decode cX1_notesRow 6 = .ok (.astore_n 2, 1) := dk_77 (dk_at dksX1_notesRow_0 6 rfl rfl)
theorem dX1_notesRow_7 : decode cX1_notesRow 7 = .ok (.aload_n 2, 1) := dk_44 (dk_at dksX1_notesRow_0 7 rfl rfl)
theorem dX1_notesRow_8 : decode cX1_notesRow 8 = .ok (.arraylength, 1) := dk_190 (dk_at dksX1_notesRow_0 8 rfl rfl)
theorem dX1_notesRow_9 : decode cX1_notesRow 9 = .ok (.istore_n 3, 1) := dk_62 (dk_at dksX1_notesRow_0 9 rfl rfl)
theorem dX1_notesRow_10 : decode cX1_notesRow 10 = .ok (.iconst 0, 1) := dk_3 (dk_at dksX1_notesRow_0 10 rfl rfl)
theorem dX1_notesRow_11 : decode cX1_notesRow 11 = .ok (.istore 4, 2) := dk_54 4 (dk_at dksX1_notesRow_0 11 rfl rfl)
theorem dX1_notesRow_13 : decode cX1_notesRow 13 = .ok (.iload 4, 2) := dk_21 4 (dk_at dksX1_notesRow_0 13 rfl rfl)
theorem dX1_notesRow_15 : decode cX1_notesRow 15 = .ok (.iload_n 3, 1) := dk_29 (dk_at dksX1_notesRow_0 15 rfl rfl)
theorem dX1_notesRow_16 : decode cX1_notesRow 16 = .ok (.if_icmp .ge 21, 3) := dk_162 0 21 (dk_at dksX1_notesRow_0 16 rfl rfl)
theorem dX1_notesRow_19 : decode cX1_notesRow 19 = .ok (.aload_n 2, 1) := dk_44 (dk_at dksX1_notesRow_0 19 rfl rfl)
theorem dX1_notesRow_20 : decode cX1_notesRow 20 = .ok (.iload 4, 2) := dk_21 4 (dk_at dksX1_notesRow_0 20 rfl rfl)
theorem dX1_notesRow_22 : decode cX1_notesRow 22 = .ok (.laload, 1) := dk_47 (dk_at dksX1_notesRow_0 22 rfl rfl)
theorem dX1_notesRow_23 : decode cX1_notesRow 23 = .ok (.lstore 5, 2) := dk_55 5 (dk_at dksX1_notesRow_1 0 rfl rfl)
theorem dX1_notesRow_25 : decode cX1_notesRow 25 = .ok (.aload_n 0, 1) := dk_42 (dk_at dksX1_notesRow_1 2 rfl rfl)
theorem dX1_notesRow_26 : decode cX1_notesRow 26 = .ok (.lload 5, 2) := dk_22 5 (dk_at dksX1_notesRow_1 3 rfl rfl)
theorem dX1_notesRow_28 : decode cX1_notesRow 28 = .ok (.invokevirtual 308, 3) := dk_182 1 52 (dk_at dksX1_notesRow_1 5 rfl rfl)
theorem dX1_notesRow_31 : decode cX1_notesRow 31 = .ok (.iinc 4 1, 3) := dk_132 4 1 (dk_at dksX1_notesRow_1 8 rfl rfl)
theorem dX1_notesRow_34 : decode cX1_notesRow 34 = .ok (.goto (-21), 3) := dk_167 255 235 (dk_at dksX1_notesRow_1 11 rfl rfl)
theorem dX1_notesRow_37 : decode cX1_notesRow 37 = .ok (.return_, 1) := dk_177 (dk_at dksX1_notesRow_1 14 rfl rfl)
abbrev cX1_notes : ByteArray := prog_1_method_98_code
def yX1_notes : MethodName := ⟨RX1, "notes", "(J)V"⟩
def dkwX1_notes_0 : List UInt8 := [42, 180, 0, 84, 42, 180, 1, 49, 31, 80, 42, 89, 180, 1, 49, 4, 96, 181, 1, 49, 177]
abbrev dktX1_notes_0 : List UInt8 := dkwX1_notes_0 ++ []
theorem dksX1_notes_0 : cX1_notes.data.toList.drop 0 = dktX1_notes_0 := by decide +kernel
theorem dX1_notes_0 : decode cX1_notes 0 = .ok (.aload_n 0, 1) := dk_42 (dk_at dksX1_notes_0 0 rfl rfl)
theorem dX1_notes_1 : decode cX1_notes 1 = .ok (.getfield 84, 3) := dk_180 0 84 (dk_at dksX1_notes_0 1 rfl rfl)
theorem dX1_notes_4 : decode cX1_notes 4 = .ok (.aload_n 0, 1) := dk_42 (dk_at dksX1_notes_0 4 rfl rfl)
theorem dX1_notes_5 : decode cX1_notes 5 = .ok (.getfield 305, 3) := dk_180 1 49 (dk_at dksX1_notes_0 5 rfl rfl)
theorem dX1_notes_8 : decode cX1_notes 8 = .ok (.lload_n 1, 1) := dk_31 (dk_at dksX1_notes_0 8 rfl rfl)
theorem dX1_notes_9 : decode cX1_notes 9 = .ok (.lastore, 1) := dk_80 (dk_at dksX1_notes_0 9 rfl rfl)
theorem dX1_notes_10 : decode cX1_notes 10 = .ok (.aload_n 0, 1) := dk_42 (dk_at dksX1_notes_0 10 rfl rfl)
theorem dX1_notes_11 : decode cX1_notes 11 = .ok (.dup, 1) := dk_89 (dk_at dksX1_notes_0 11 rfl rfl)
theorem dX1_notes_12 : decode cX1_notes 12 = .ok (.getfield 305, 3) := dk_180 1 49 (dk_at dksX1_notes_0 12 rfl rfl)
theorem dX1_notes_15 : decode cX1_notes 15 = .ok (.iconst 1, 1) := dk_4 (dk_at dksX1_notes_0 15 rfl rfl)
theorem dX1_notes_16 : decode cX1_notes 16 = .ok (.iadd, 1) := dk_96 (dk_at dksX1_notes_0 16 rfl rfl)
theorem dX1_notes_17 : decode cX1_notes 17 = .ok (.putfield 305, 3) := dk_181 1 49 (dk_at dksX1_notes_0 17 rfl rfl)
theorem dX1_notes_20 : decode cX1_notes 20 = .ok (.return_, 1) := dk_177 (dk_at dksX1_notes_0 20 rfl rfl)
abbrev cX1_placeOf : ByteArray := prog_1_method_5_code
def yX1_placeOf : MethodName := ⟨RX1, "placeOf", "(II)I"⟩
def dkwX1_placeOf_0 : List UInt8 := [26, 16, 32, 27, 100, 124, 172]
abbrev dktX1_placeOf_0 : List UInt8 := dkwX1_placeOf_0 ++ []
theorem dksX1_placeOf_0 : cX1_placeOf.data.toList.drop 0 = dktX1_placeOf_0 := by decide +kernel
theorem dX1_placeOf_0 : decode cX1_placeOf 0 = .ok (.iload_n 0, 1) := dk_26 (dk_at dksX1_placeOf_0 0 rfl rfl)
theorem dX1_placeOf_1 : decode cX1_placeOf 1 = .ok (.bipush 32, 2) := dk_16 32 (dk_at dksX1_placeOf_0 1 rfl rfl)
theorem dX1_placeOf_3 : decode cX1_placeOf 3 = .ok (.iload_n 1, 1) := dk_27 (dk_at dksX1_placeOf_0 3 rfl rfl)
theorem dX1_placeOf_4 : decode cX1_placeOf 4 = .ok (.isub, 1) := dk_100 (dk_at dksX1_placeOf_0 4 rfl rfl)
theorem dX1_placeOf_5 : decode cX1_placeOf 5 = .ok (.iushr, 1) := dk_124 (dk_at dksX1_placeOf_0 5 rfl rfl)
theorem dX1_placeOf_6 : decode cX1_placeOf 6 = .ok (.ireturn, 1) := dk_172 (dk_at dksX1_placeOf_0 6 rfl rfl)
abbrev cX1_init : ByteArray := prog_1_method_10_code
def yX1_init : MethodName := ⟨RX1, "<init>", "()V"⟩
def dkwX1_init_0 : List UInt8 := [42, 4, 3, 183, 0, 51, 177]
abbrev dktX1_init_0 : List UInt8 := dkwX1_init_0 ++ []
theorem dksX1_init_0 : cX1_init.data.toList.drop 0 = dktX1_init_0 := by decide +kernel
theorem dX1_init_0 : decode cX1_init 0 = .ok (.aload_n 0, 1) := dk_42 (dk_at dksX1_init_0 0 rfl rfl)
theorem dX1_init_1 : decode cX1_init 1 = .ok (.iconst 1, 1) := dk_4 (dk_at dksX1_init_0 1 rfl rfl)
theorem dX1_init_2 : decode cX1_init 2 = .ok (.iconst 0, 1) := dk_3 (dk_at dksX1_init_0 2 rfl rfl)
theorem dX1_init_3 : decode cX1_init 3 = .ok (.invokespecial 51, 3) := dk_183 0 51 (dk_at dksX1_init_0 3 rfl rfl)
theorem dX1_init_6 : decode cX1_init 6 = .ok (.return_, 1) := dk_177 (dk_at dksX1_init_0 6 rfl rfl)
abbrev cX1_init_2 : ByteArray := prog_1_method_11_code
def yX1_init_2 : MethodName := ⟨RX1, "<init>", "(II)V"⟩
def dkwX1_init_2_6 : List UInt8 := [42, 16, 6, 188, 11, 181, 0, 84, 42, 27, 181, 0, 15, 42, 28, 181, 0, 19, 177]
abbrev dktX1_init_2_6 : List UInt8 := dkwX1_init_2_6 ++ []
def dkwX1_init_2_5 : List UInt8 := [132, 3, 1, 167, 255, 230, 42, 17, 2, 88, 188, 10, 181, 0, 78, 42, 17, 2, 88, 188, 10, 181, 0, 81]
abbrev dktX1_init_2_5 : List UInt8 := dkwX1_init_2_5 ++ dktX1_init_2_6
def dkwX1_init_2_4 : List UInt8 := [16, 6, 162, 0, 26, 42, 180, 0, 71, 29, 187, 0, 69, 89, 42, 7, 16, 12, 183, 0, 75, 83]
abbrev dktX1_init_2_4 : List UInt8 := dkwX1_init_2_4 ++ dktX1_init_2_5
def dkwX1_init_2_3 : List UInt8 := [132, 3, 1, 167, 255, 242, 42, 4, 181, 0, 15, 42, 16, 6, 189, 0, 69, 181, 0, 71, 3, 62, 29]
abbrev dktX1_init_2_3 : List UInt8 := dkwX1_init_2_3 ++ dktX1_init_2_4
def dkwX1_init_2_2 : List UInt8 := [17, 1, 1, 197, 0, 64, 2, 181, 0, 11, 7, 62, 29, 16, 8, 163, 0, 14, 42, 29, 182, 0, 65]
abbrev dktX1_init_2_2 : List UInt8 := dkwX1_init_2_2 ++ dktX1_init_2_3
def dkwX1_init_2_1 : List UInt8 := [17, 2, 197, 79, 89, 6, 17, 2, 203, 79, 89, 7, 17, 2, 206, 79, 181, 0, 60, 42, 16, 9]
abbrev dktX1_init_2_1 : List UInt8 := dkwX1_init_2_1 ++ dktX1_init_2_2
def dkwX1_init_2_0 : List UInt8 := [42, 183, 0, 55, 42, 8, 188, 10, 89, 3, 17, 2, 161, 79, 89, 4, 17, 2, 185, 79, 89, 5]
abbrev dktX1_init_2_0 : List UInt8 := dkwX1_init_2_0 ++ dktX1_init_2_1
theorem dksX1_init_2_0 : cX1_init_2.data.toList.drop 0 = dktX1_init_2_0 := by decide +kernel
theorem dksX1_init_2_1 : cX1_init_2.data.toList.drop 22 = dktX1_init_2_1 := dk_seg dksX1_init_2_0 22 rfl rfl
theorem dksX1_init_2_2 : cX1_init_2.data.toList.drop 44 = dktX1_init_2_2 := dk_seg dksX1_init_2_1 22 rfl rfl
theorem dksX1_init_2_3 : cX1_init_2.data.toList.drop 67 = dktX1_init_2_3 := dk_seg dksX1_init_2_2 23 rfl rfl
theorem dksX1_init_2_4 : cX1_init_2.data.toList.drop 90 = dktX1_init_2_4 := dk_seg dksX1_init_2_3 23 rfl rfl
theorem dksX1_init_2_5 : cX1_init_2.data.toList.drop 112 = dktX1_init_2_5 := dk_seg dksX1_init_2_4 22 rfl rfl
theorem dksX1_init_2_6 : cX1_init_2.data.toList.drop 136 = dktX1_init_2_6 := dk_seg dksX1_init_2_5 24 rfl rfl
theorem dX1_init_2_0 : decode cX1_init_2 0 = .ok (.aload_n 0, 1) := dk_42 (dk_at dksX1_init_2_0 0 rfl rfl)
theorem dX1_init_2_1 : decode cX1_init_2 1 = .ok (.invokespecial 55, 3) := dk_183 0 55 (dk_at dksX1_init_2_0 1 rfl rfl)
theorem dX1_init_2_4 : decode cX1_init_2 4 = .ok (.aload_n 0, 1) := dk_42 (dk_at dksX1_init_2_0 4 rfl rfl)
theorem dX1_init_2_5 : decode cX1_init_2 5 = .ok (.iconst 5, 1) := dk_8 (dk_at dksX1_init_2_0 5 rfl rfl)
theorem dX1_init_2_6 : decode cX1_init_2 6 = .ok (.newarray .int, 2) := dk_188_10 (dk_at dksX1_init_2_0 6 rfl rfl)
theorem dX1_init_2_8 : decode cX1_init_2 8 = .ok (.dup, 1) := dk_89 (dk_at dksX1_init_2_0 8 rfl rfl)
theorem dX1_init_2_9 : decode cX1_init_2 9 = .ok (.iconst 0, 1) := dk_3 (dk_at dksX1_init_2_0 9 rfl rfl)
theorem dX1_init_2_10 : decode cX1_init_2 10 = .ok (.sipush 673, 3) := dk_17 2 161 (dk_at dksX1_init_2_0 10 rfl rfl)
theorem dX1_init_2_13 : decode cX1_init_2 13 = .ok (.iastore, 1) := dk_79 (dk_at dksX1_init_2_0 13 rfl rfl)
theorem dX1_init_2_14 : decode cX1_init_2 14 = .ok (.dup, 1) := dk_89 (dk_at dksX1_init_2_0 14 rfl rfl)
theorem dX1_init_2_15 : decode cX1_init_2 15 = .ok (.iconst 1, 1) := dk_4 (dk_at dksX1_init_2_0 15 rfl rfl)
theorem dX1_init_2_16 : decode cX1_init_2 16 = .ok (.sipush 697, 3) := dk_17 2 185 (dk_at dksX1_init_2_0 16 rfl rfl)
theorem dX1_init_2_19 : decode cX1_init_2 19 = .ok (.iastore, 1) := dk_79 (dk_at dksX1_init_2_0 19 rfl rfl)
theorem dX1_init_2_20 : decode cX1_init_2 20 = .ok (.dup, 1) := dk_89 (dk_at dksX1_init_2_0 20 rfl rfl)
theorem dX1_init_2_21 : decode cX1_init_2 21 = .ok (.iconst 2, 1) := dk_5 (dk_at dksX1_init_2_0 21 rfl rfl)
theorem dX1_init_2_22 : decode cX1_init_2 22 = .ok (.sipush 709, 3) := dk_17 2 197 (dk_at dksX1_init_2_1 0 rfl rfl)
theorem dX1_init_2_25 : decode cX1_init_2 25 = .ok (.iastore, 1) := dk_79 (dk_at dksX1_init_2_1 3 rfl rfl)
theorem dX1_init_2_26 : decode cX1_init_2 26 = .ok (.dup, 1) := dk_89 (dk_at dksX1_init_2_1 4 rfl rfl)
theorem dX1_init_2_27 : decode cX1_init_2 27 = .ok (.iconst 3, 1) := dk_6 (dk_at dksX1_init_2_1 5 rfl rfl)
theorem dX1_init_2_28 : decode cX1_init_2 28 = .ok (.sipush 715, 3) := dk_17 2 203 (dk_at dksX1_init_2_1 6 rfl rfl)
theorem dX1_init_2_31 : decode cX1_init_2 31 = .ok (.iastore, 1) := dk_79 (dk_at dksX1_init_2_1 9 rfl rfl)
theorem dX1_init_2_32 : decode cX1_init_2 32 = .ok (.dup, 1) := dk_89 (dk_at dksX1_init_2_1 10 rfl rfl)
theorem dX1_init_2_33 : decode cX1_init_2 33 = .ok (.iconst 4, 1) := dk_7 (dk_at dksX1_init_2_1 11 rfl rfl)
theorem dX1_init_2_34 : decode cX1_init_2 34 = .ok (.sipush 718, 3) := dk_17 2 206 (dk_at dksX1_init_2_1 12 rfl rfl)
theorem dX1_init_2_37 : decode cX1_init_2 37 = .ok (.iastore, 1) := dk_79 (dk_at dksX1_init_2_1 15 rfl rfl)
theorem dX1_init_2_38 : decode cX1_init_2 38 = .ok (.putfield 60, 3) := dk_181 0 60 (dk_at dksX1_init_2_1 16 rfl rfl)
theorem dX1_init_2_41 : decode cX1_init_2 41 = .ok (.aload_n 0, 1) := dk_42 (dk_at dksX1_init_2_1 19 rfl rfl)
theorem dX1_init_2_42 : decode cX1_init_2 42 = .ok (.bipush 9, 2) := dk_16 9 (dk_at dksX1_init_2_1 20 rfl rfl)
theorem dX1_init_2_44 : decode cX1_init_2 44 = .ok (.sipush 257, 3) := dk_17 1 1 (dk_at dksX1_init_2_2 0 rfl rfl)
theorem dX1_init_2_47 : decode cX1_init_2 47 = .ok (.multianewarray 64 2, 4) := by decide +kernel
theorem dX1_init_2_51 : decode cX1_init_2 51 = .ok (.putfield 11, 3) := dk_181 0 11 (dk_at dksX1_init_2_2 7 rfl rfl)
theorem dX1_init_2_54 : decode cX1_init_2 54 = .ok (.iconst 4, 1) := dk_7 (dk_at dksX1_init_2_2 10 rfl rfl)
theorem dX1_init_2_55 : decode cX1_init_2 55 = .ok (.istore_n 3, 1) := dk_62 (dk_at dksX1_init_2_2 11 rfl rfl)
theorem dX1_init_2_56 : decode cX1_init_2 56 = .ok (.iload_n 3, 1) := dk_29 (dk_at dksX1_init_2_2 12 rfl rfl)
theorem dX1_init_2_57 : decode cX1_init_2 57 = .ok (.bipush 8, 2) := dk_16 8 (dk_at dksX1_init_2_2 13 rfl rfl)
theorem dX1_init_2_59 : decode cX1_init_2 59 = .ok (.if_icmp .gt 14, 3) := dk_163 0 14 (dk_at dksX1_init_2_2 15 rfl rfl)
theorem dX1_init_2_62 : decode cX1_init_2 62 = .ok (.aload_n 0, 1) := dk_42 (dk_at dksX1_init_2_2 18 rfl rfl)
theorem dX1_init_2_63 : decode cX1_init_2 63 = .ok (.iload_n 3, 1) := dk_29 (dk_at dksX1_init_2_2 19 rfl rfl)
theorem dX1_init_2_64 : decode cX1_init_2 64 = .ok (.invokevirtual 65, 3) := dk_182 0 65 (dk_at dksX1_init_2_2 20 rfl rfl)
theorem dX1_init_2_67 : decode cX1_init_2 67 = .ok (.iinc 3 1, 3) := dk_132 3 1 (dk_at dksX1_init_2_3 0 rfl rfl)
theorem dX1_init_2_70 : decode cX1_init_2 70 = .ok (.goto (-14), 3) := dk_167 255 242 (dk_at dksX1_init_2_3 3 rfl rfl)
theorem dX1_init_2_73 : decode cX1_init_2 73 = .ok (.aload_n 0, 1) := dk_42 (dk_at dksX1_init_2_3 6 rfl rfl)
theorem dX1_init_2_74 : decode cX1_init_2 74 = .ok (.iconst 1, 1) := dk_4 (dk_at dksX1_init_2_3 7 rfl rfl)
theorem dX1_init_2_75 : decode cX1_init_2 75 = .ok (.putfield 15, 3) := dk_181 0 15 (dk_at dksX1_init_2_3 8 rfl rfl)
theorem dX1_init_2_78 : decode cX1_init_2 78 = .ok (.aload_n 0, 1) := dk_42 (dk_at dksX1_init_2_3 11 rfl rfl)
theorem dX1_init_2_79 : decode cX1_init_2 79 = .ok (.bipush 6, 2) := dk_16 6 (dk_at dksX1_init_2_3 12 rfl rfl)
theorem dX1_init_2_81 : decode cX1_init_2 81 = .ok (.anewarray 69, 3) := dk_189 0 69 (dk_at dksX1_init_2_3 14 rfl rfl)
theorem dX1_init_2_84 : decode cX1_init_2 84 = .ok (.putfield 71, 3) := dk_181 0 71 (dk_at dksX1_init_2_3 17 rfl rfl)
theorem dX1_init_2_87 : decode cX1_init_2 87 = .ok (.iconst 0, 1) := dk_3 (dk_at dksX1_init_2_3 20 rfl rfl)
theorem dX1_init_2_88 : decode cX1_init_2 88 = .ok (.istore_n 3, 1) := dk_62 (dk_at dksX1_init_2_3 21 rfl rfl)
theorem dX1_init_2_89 : decode cX1_init_2 89 = .ok (.iload_n 3, 1) := dk_29 (dk_at dksX1_init_2_3 22 rfl rfl)
theorem dX1_init_2_90 : decode cX1_init_2 90 = .ok (.bipush 6, 2) := dk_16 6 (dk_at dksX1_init_2_4 0 rfl rfl)
theorem dX1_init_2_92 : decode cX1_init_2 92 = .ok (.if_icmp .ge 26, 3) := dk_162 0 26 (dk_at dksX1_init_2_4 2 rfl rfl)
theorem dX1_init_2_95 : decode cX1_init_2 95 = .ok (.aload_n 0, 1) := dk_42 (dk_at dksX1_init_2_4 5 rfl rfl)
theorem dX1_init_2_96 : decode cX1_init_2 96 = .ok (.getfield 71, 3) := dk_180 0 71 (dk_at dksX1_init_2_4 6 rfl rfl)
theorem dX1_init_2_99 : decode cX1_init_2 99 = .ok (.iload_n 3, 1) := dk_29 (dk_at dksX1_init_2_4 9 rfl rfl)
theorem dX1_init_2_100 : decode cX1_init_2 100 = .ok (.new 69, 3) := dk_187 0 69 (dk_at dksX1_init_2_4 10 rfl rfl)
theorem dX1_init_2_103 : decode cX1_init_2 103 = .ok (.dup, 1) := dk_89 (dk_at dksX1_init_2_4 13 rfl rfl)
theorem dX1_init_2_104 : decode cX1_init_2 104 = .ok (.aload_n 0, 1) := dk_42 (dk_at dksX1_init_2_4 14 rfl rfl)
theorem dX1_init_2_105 : decode cX1_init_2 105 = .ok (.iconst 4, 1) := dk_7 (dk_at dksX1_init_2_4 15 rfl rfl)
theorem dX1_init_2_106 : decode cX1_init_2 106 = .ok (.bipush 12, 2) := dk_16 12 (dk_at dksX1_init_2_4 16 rfl rfl)
theorem dX1_init_2_108 : decode cX1_init_2 108 = .ok (.invokespecial 75, 3) := dk_183 0 75 (dk_at dksX1_init_2_4 18 rfl rfl)
theorem dX1_init_2_111 : decode cX1_init_2 111 = .ok (.aastore, 1) := dk_83 (dk_at dksX1_init_2_4 21 rfl rfl)
theorem dX1_init_2_112 : decode cX1_init_2 112 = .ok (.iinc 3 1, 3) := dk_132 3 1 (dk_at dksX1_init_2_5 0 rfl rfl)
theorem dX1_init_2_115 : decode cX1_init_2 115 = .ok (.goto (-26), 3) := dk_167 255 230 (dk_at dksX1_init_2_5 3 rfl rfl)
theorem dX1_init_2_118 : decode cX1_init_2 118 = .ok (.aload_n 0, 1) := dk_42 (dk_at dksX1_init_2_5 6 rfl rfl)
theorem dX1_init_2_119 : decode cX1_init_2 119 = .ok (.sipush 600, 3) := dk_17 2 88 (dk_at dksX1_init_2_5 7 rfl rfl)
theorem dX1_init_2_122 : decode cX1_init_2 122 = .ok (.newarray .int, 2) := dk_188_10 (dk_at dksX1_init_2_5 10 rfl rfl)
theorem dX1_init_2_124 : decode cX1_init_2 124 = .ok (.putfield 78, 3) := dk_181 0 78 (dk_at dksX1_init_2_5 12 rfl rfl)
theorem dX1_init_2_127 : decode cX1_init_2 127 = .ok (.aload_n 0, 1) := dk_42 (dk_at dksX1_init_2_5 15 rfl rfl)
theorem dX1_init_2_128 : decode cX1_init_2 128 = .ok (.sipush 600, 3) := dk_17 2 88 (dk_at dksX1_init_2_5 16 rfl rfl)
theorem dX1_init_2_131 : decode cX1_init_2 131 = .ok (.newarray .int, 2) := dk_188_10 (dk_at dksX1_init_2_5 19 rfl rfl)
theorem dX1_init_2_133 : decode cX1_init_2 133 = .ok (.putfield 81, 3) := dk_181 0 81 (dk_at dksX1_init_2_5 21 rfl rfl)
theorem dX1_init_2_136 : decode cX1_init_2 136 = .ok (.aload_n 0, 1) := dk_42 (dk_at dksX1_init_2_6 0 rfl rfl)
theorem dX1_init_2_137 : decode cX1_init_2 137 = .ok (.bipush 6, 2) := dk_16 6 (dk_at dksX1_init_2_6 1 rfl rfl)
theorem dX1_init_2_139 : decode cX1_init_2 139 = .ok (.newarray .long, 2) := dk_188_11 (dk_at dksX1_init_2_6 3 rfl rfl)
theorem dX1_init_2_141 : decode cX1_init_2 141 = .ok (.putfield 84, 3) := dk_181 0 84 (dk_at dksX1_init_2_6 5 rfl rfl)
theorem dX1_init_2_144 : decode cX1_init_2 144 = .ok (.aload_n 0, 1) := dk_42 (dk_at dksX1_init_2_6 8 rfl rfl)
theorem dX1_init_2_145 : decode cX1_init_2 145 = .ok (.iload_n 1, 1) := dk_27 (dk_at dksX1_init_2_6 9 rfl rfl)
theorem dX1_init_2_146 : decode cX1_init_2 146 = .ok (.putfield 15, 3) := dk_181 0 15 (dk_at dksX1_init_2_6 10 rfl rfl)
theorem dX1_init_2_149 : decode cX1_init_2 149 = .ok (.aload_n 0, 1) := dk_42 (dk_at dksX1_init_2_6 13 rfl rfl)
theorem dX1_init_2_150 : decode cX1_init_2 150 = .ok (.iload_n 2, 1) := dk_28 (dk_at dksX1_init_2_6 14 rfl rfl)
theorem dX1_init_2_151 : decode cX1_init_2 151 = .ok (.putfield 19, 3) := dk_181 0 19 (dk_at dksX1_init_2_6 15 rfl rfl)
theorem dX1_init_2_154 : decode cX1_init_2 154 = .ok (.return_, 1) := dk_177 (dk_at dksX1_init_2_6 18 rfl rfl)
abbrev cX1_lays : ByteArray := prog_1_method_3_code
def yX1_lays : MethodName := ⟨RX1, "lays", "(I)V"⟩
def dkwX1_lays_1 : List UInt8 := [50, 29, 4, 96, 46, 17, 3, 232, 28, 104, 29, 4, 96, 108, 96, 79, 132, 3, 255, 167, 255, 221, 177]
abbrev dktX1_lays_1 : List UInt8 := dkwX1_lays_1 ++ []
def dkwX1_lays_0 : List UInt8 := [4, 27, 120, 61, 28, 4, 100, 62, 29, 155, 0, 37, 42, 180, 0, 11, 27, 50, 29, 42, 180, 0, 11, 27]
abbrev dktX1_lays_0 : List UInt8 := dkwX1_lays_0 ++ dktX1_lays_1
theorem dksX1_lays_0 : cX1_lays.data.toList.drop 0 = dktX1_lays_0 := by decide +kernel
theorem dksX1_lays_1 : cX1_lays.data.toList.drop 24 = dktX1_lays_1 := dk_seg dksX1_lays_0 24 rfl rfl
theorem dX1_lays_0 : decode cX1_lays 0 = .ok (.iconst 1, 1) := dk_4 (dk_at dksX1_lays_0 0 rfl rfl)
theorem dX1_lays_1 : decode cX1_lays 1 = .ok (.iload_n 1, 1) := dk_27 (dk_at dksX1_lays_0 1 rfl rfl)
theorem dX1_lays_2 : decode cX1_lays 2 = .ok (.ishl, 1) := dk_120 (dk_at dksX1_lays_0 2 rfl rfl)
theorem dX1_lays_3 : decode cX1_lays 3 = .ok (.istore_n 2, 1) := dk_61 (dk_at dksX1_lays_0 3 rfl rfl)
theorem dX1_lays_4 : decode cX1_lays 4 = .ok (.iload_n 2, 1) := dk_28 (dk_at dksX1_lays_0 4 rfl rfl)
theorem dX1_lays_5 : decode cX1_lays 5 = .ok (.iconst 1, 1) := dk_4 (dk_at dksX1_lays_0 5 rfl rfl)
theorem dX1_lays_6 : decode cX1_lays 6 = .ok (.isub, 1) := dk_100 (dk_at dksX1_lays_0 6 rfl rfl)
theorem dX1_lays_7 : decode cX1_lays 7 = .ok (.istore_n 3, 1) := dk_62 (dk_at dksX1_lays_0 7 rfl rfl)
theorem dX1_lays_8 : decode cX1_lays 8 = .ok (.iload_n 3, 1) := dk_29 (dk_at dksX1_lays_0 8 rfl rfl)
theorem dX1_lays_9 : decode cX1_lays 9 = .ok (.ifCond .lt 37, 3) := dk_155 0 37 (dk_at dksX1_lays_0 9 rfl rfl)
theorem dX1_lays_12 : decode cX1_lays 12 = .ok (.aload_n 0, 1) := dk_42 (dk_at dksX1_lays_0 12 rfl rfl)
theorem dX1_lays_13 : decode cX1_lays 13 = .ok (.getfield 11, 3) := dk_180 0 11 (dk_at dksX1_lays_0 13 rfl rfl)
theorem dX1_lays_16 : decode cX1_lays 16 = .ok (.iload_n 1, 1) := dk_27 (dk_at dksX1_lays_0 16 rfl rfl)
theorem dX1_lays_17 : decode cX1_lays 17 = .ok (.aaload, 1) := dk_50 (dk_at dksX1_lays_0 17 rfl rfl)
theorem dX1_lays_18 : decode cX1_lays 18 = .ok (.iload_n 3, 1) := dk_29 (dk_at dksX1_lays_0 18 rfl rfl)
theorem dX1_lays_19 : decode cX1_lays 19 = .ok (.aload_n 0, 1) := dk_42 (dk_at dksX1_lays_0 19 rfl rfl)
theorem dX1_lays_20 : decode cX1_lays 20 = .ok (.getfield 11, 3) := dk_180 0 11 (dk_at dksX1_lays_0 20 rfl rfl)
theorem dX1_lays_23 : decode cX1_lays 23 = .ok (.iload_n 1, 1) := dk_27 (dk_at dksX1_lays_0 23 rfl rfl)
theorem dX1_lays_24 : decode cX1_lays 24 = .ok (.aaload, 1) := dk_50 (dk_at dksX1_lays_1 0 rfl rfl)
theorem dX1_lays_25 : decode cX1_lays 25 = .ok (.iload_n 3, 1) := dk_29 (dk_at dksX1_lays_1 1 rfl rfl)
theorem dX1_lays_26 : decode cX1_lays 26 = .ok (.iconst 1, 1) := dk_4 (dk_at dksX1_lays_1 2 rfl rfl)
theorem dX1_lays_27 : decode cX1_lays 27 = .ok (.iadd, 1) := dk_96 (dk_at dksX1_lays_1 3 rfl rfl)
theorem dX1_lays_28 : decode cX1_lays 28 = .ok (.iaload, 1) := dk_46 (dk_at dksX1_lays_1 4 rfl rfl)
theorem dX1_lays_29 : decode cX1_lays 29 = .ok (.sipush 1000, 3) := dk_17 3 232 (dk_at dksX1_lays_1 5 rfl rfl)
theorem dX1_lays_32 : decode cX1_lays 32 = .ok (.iload_n 2, 1) := dk_28 (dk_at dksX1_lays_1 8 rfl rfl)
theorem dX1_lays_33 : decode cX1_lays 33 = .ok (.imul, 1) := dk_104 (dk_at dksX1_lays_1 9 rfl rfl)
theorem dX1_lays_34 : decode cX1_lays 34 = .ok (.iload_n 3, 1) := dk_29 (dk_at dksX1_lays_1 10 rfl rfl)
theorem dX1_lays_35 : decode cX1_lays 35 = .ok (.iconst 1, 1) := dk_4 (dk_at dksX1_lays_1 11 rfl rfl)
theorem dX1_lays_36 : decode cX1_lays 36 = .ok (.iadd, 1) := dk_96 (dk_at dksX1_lays_1 12 rfl rfl)
theorem dX1_lays_37 : decode cX1_lays 37 = .ok (.idiv, 1) := dk_108 (dk_at dksX1_lays_1 13 rfl rfl)
theorem dX1_lays_38 : decode cX1_lays 38 = .ok (.iadd, 1) := dk_96 (dk_at dksX1_lays_1 14 rfl rfl)
theorem dX1_lays_39 : decode cX1_lays 39 = .ok (.iastore, 1) := dk_79 (dk_at dksX1_lays_1 15 rfl rfl)
theorem dX1_lays_40 : decode cX1_lays 40 = .ok (.iinc 3 (-1), 3) := dk_132 3 255 (dk_at dksX1_lays_1 16 rfl rfl)
theorem dX1_lays_43 : decode cX1_lays 43 = .ok (.goto (-35), 3) := dk_167 255 221 (dk_at dksX1_lays_1 19 rfl rfl)
theorem dX1_lays_46 : decode cX1_lays 46 = .ok (.return_, 1) := dk_177 (dk_at dksX1_lays_1 22 rfl rfl)
abbrev cX1_opens : ByteArray := prog_1_method_14_code
def yX1_opens : MethodName := ⟨RX1, "opens", "(III)I"⟩
def dkwX1_opens_2 : List UInt8 := [183, 0, 75, 83, 42, 180, 0, 71, 27, 50, 182, 0, 98, 172]
abbrev dktX1_opens_2 : List UInt8 := dkwX1_opens_2 ++ []
def dkwX1_opens_1 : List UInt8 := [20, 0, 96, 184, 0, 7, 154, 0, 5, 2, 172, 42, 180, 0, 71, 27, 187, 0, 69, 89, 42, 28, 29]
abbrev dktX1_opens_1 : List UInt8 := dkwX1_opens_1 ++ dktX1_opens_2
def dkwX1_opens_0 : List UInt8 := [4, 188, 10, 89, 3, 27, 79, 184, 0, 92, 153, 0, 22, 28, 184, 0, 37, 153, 0, 15, 29, 133, 10]
abbrev dktX1_opens_0 : List UInt8 := dkwX1_opens_0 ++ dktX1_opens_1
theorem dksX1_opens_0 : cX1_opens.data.toList.drop 0 = dktX1_opens_0 := by decide +kernel
theorem dksX1_opens_1 : cX1_opens.data.toList.drop 23 = dktX1_opens_1 := dk_seg dksX1_opens_0 23 rfl rfl
theorem dksX1_opens_2 : cX1_opens.data.toList.drop 46 = dktX1_opens_2 := dk_seg dksX1_opens_1 23 rfl rfl
theorem dX1_opens_0 : decode cX1_opens 0 = .ok (.iconst 1, 1) := dk_4 (dk_at dksX1_opens_0 0 rfl rfl)
theorem dX1_opens_1 : decode cX1_opens 1 = .ok (.newarray .int, 2) := dk_188_10 (dk_at dksX1_opens_0 1 rfl rfl)
theorem dX1_opens_3 : decode cX1_opens 3 = .ok (.dup, 1) := dk_89 (dk_at dksX1_opens_0 3 rfl rfl)
theorem dX1_opens_4 : decode cX1_opens 4 = .ok (.iconst 0, 1) := dk_3 (dk_at dksX1_opens_0 4 rfl rfl)
theorem dX1_opens_5 : decode cX1_opens 5 = .ok (.iload_n 1, 1) := dk_27 (dk_at dksX1_opens_0 5 rfl rfl)
theorem dX1_opens_6 : decode cX1_opens 6 = .ok (.iastore, 1) := dk_79 (dk_at dksX1_opens_0 6 rfl rfl)
theorem dX1_opens_7 : decode cX1_opens 7 = .ok (.invokestatic 92, 3) := dk_184 0 92 (dk_at dksX1_opens_0 7 rfl rfl)
theorem dX1_opens_10 : decode cX1_opens 10 = .ok (.ifCond .eq 22, 3) := dk_153 0 22 (dk_at dksX1_opens_0 10 rfl rfl)
theorem dX1_opens_13 : decode cX1_opens 13 = .ok (.iload_n 2, 1) := dk_28 (dk_at dksX1_opens_0 13 rfl rfl)
theorem dX1_opens_14 : decode cX1_opens 14 = .ok (.invokestatic 37, 3) := dk_184 0 37 (dk_at dksX1_opens_0 14 rfl rfl)
theorem dX1_opens_17 : decode cX1_opens 17 = .ok (.ifCond .eq 15, 3) := dk_153 0 15 (dk_at dksX1_opens_0 17 rfl rfl)
theorem dX1_opens_20 : decode cX1_opens 20 = .ok (.iload_n 3, 1) := dk_29 (dk_at dksX1_opens_0 20 rfl rfl)
theorem dX1_opens_21 : decode cX1_opens 21 = .ok (.i2l, 1) := dk_133 (dk_at dksX1_opens_0 21 rfl rfl)
theorem dX1_opens_22 : decode cX1_opens 22 = .ok (.lconst 1, 1) := dk_10 (dk_at dksX1_opens_0 22 rfl rfl)
theorem dX1_opens_23 : decode cX1_opens 23 = .ok (.ldc2_w 96, 3) := dk_20 0 96 (dk_at dksX1_opens_1 0 rfl rfl)
theorem dX1_opens_26 : decode cX1_opens 26 = .ok (.invokestatic 7, 3) := dk_184 0 7 (dk_at dksX1_opens_1 3 rfl rfl)
theorem dX1_opens_29 : decode cX1_opens 29 = .ok (.ifCond .ne 5, 3) := dk_154 0 5 (dk_at dksX1_opens_1 6 rfl rfl)
theorem dX1_opens_32 : decode cX1_opens 32 = .ok (.iconst (-1), 1) := dk_2 (dk_at dksX1_opens_1 9 rfl rfl)
theorem dX1_opens_33 : decode cX1_opens 33 = .ok (.ireturn, 1) := dk_172 (dk_at dksX1_opens_1 10 rfl rfl)
theorem dX1_opens_34 : decode cX1_opens 34 = .ok (.aload_n 0, 1) := dk_42 (dk_at dksX1_opens_1 11 rfl rfl)
theorem dX1_opens_35 : decode cX1_opens 35 = .ok (.getfield 71, 3) := dk_180 0 71 (dk_at dksX1_opens_1 12 rfl rfl)
theorem dX1_opens_38 : decode cX1_opens 38 = .ok (.iload_n 1, 1) := dk_27 (dk_at dksX1_opens_1 15 rfl rfl)
theorem dX1_opens_39 : decode cX1_opens 39 = .ok (.new 69, 3) := dk_187 0 69 (dk_at dksX1_opens_1 16 rfl rfl)
theorem dX1_opens_42 : decode cX1_opens 42 = .ok (.dup, 1) := dk_89 (dk_at dksX1_opens_1 19 rfl rfl)
theorem dX1_opens_43 : decode cX1_opens 43 = .ok (.aload_n 0, 1) := dk_42 (dk_at dksX1_opens_1 20 rfl rfl)
theorem dX1_opens_44 : decode cX1_opens 44 = .ok (.iload_n 2, 1) := dk_28 (dk_at dksX1_opens_1 21 rfl rfl)
theorem dX1_opens_45 : decode cX1_opens 45 = .ok (.iload_n 3, 1) := dk_29 (dk_at dksX1_opens_1 22 rfl rfl)
theorem dX1_opens_46 : decode cX1_opens 46 = .ok (.invokespecial 75, 3) := dk_183 0 75 (dk_at dksX1_opens_2 0 rfl rfl)
theorem dX1_opens_49 : decode cX1_opens 49 = .ok (.aastore, 1) := dk_83 (dk_at dksX1_opens_2 3 rfl rfl)
theorem dX1_opens_50 : decode cX1_opens 50 = .ok (.aload_n 0, 1) := dk_42 (dk_at dksX1_opens_2 4 rfl rfl)
theorem dX1_opens_51 : decode cX1_opens 51 = .ok (.getfield 71, 3) := dk_180 0 71 (dk_at dksX1_opens_2 5 rfl rfl)
theorem dX1_opens_54 : decode cX1_opens 54 = .ok (.iload_n 1, 1) := dk_27 (dk_at dksX1_opens_2 8 rfl rfl)
theorem dX1_opens_55 : decode cX1_opens 55 = .ok (.aaload, 1) := dk_50 (dk_at dksX1_opens_2 9 rfl rfl)
theorem dX1_opens_56 : decode cX1_opens 56 = .ok (.invokevirtual 98, 3) := dk_182 0 98 (dk_at dksX1_opens_2 10 rfl rfl)
theorem dX1_opens_59 : decode cX1_opens 59 = .ok (.ireturn, 1) := dk_172 (dk_at dksX1_opens_2 13 rfl rfl)
abbrev cX1_are : ByteArray := prog_1_method_12_code
def yX1_are : MethodName := ⟨RX1, "are", "([I)Z"⟩
def dkwX1_are_2 : List UInt8 := [132, 4, 1, 167, 255, 218, 27, 172]
abbrev dktX1_are_2 : List UInt8 := dkwX1_are_2 ++ []
def dkwX1_are_1 : List UInt8 := [153, 0, 20, 21, 5, 133, 9, 20, 0, 88, 184, 0, 7, 153, 0, 7, 4, 167, 0, 4, 3, 60]
abbrev dktX1_are_1 : List UInt8 := dkwX1_are_1 ++ dktX1_are_2
def dkwX1_are_0 : List UInt8 := [4, 60, 42, 77, 44, 190, 62, 3, 54, 4, 21, 4, 29, 162, 0, 38, 44, 21, 4, 46, 54, 5, 27]
abbrev dktX1_are_0 : List UInt8 := dkwX1_are_0 ++ dktX1_are_1
theorem dksX1_are_0 : cX1_are.data.toList.drop 0 = dktX1_are_0 := by decide +kernel
theorem dksX1_are_1 : cX1_are.data.toList.drop 23 = dktX1_are_1 := dk_seg dksX1_are_0 23 rfl rfl
theorem dksX1_are_2 : cX1_are.data.toList.drop 45 = dktX1_are_2 := dk_seg dksX1_are_1 22 rfl rfl
theorem dX1_are_0 : decode cX1_are 0 = .ok (.iconst 1, 1) := dk_4 (dk_at dksX1_are_0 0 rfl rfl)
theorem dX1_are_1 : decode cX1_are 1 = .ok (.istore_n 1, 1) := dk_60 (dk_at dksX1_are_0 1 rfl rfl)
theorem dX1_are_2 : decode cX1_are 2 = .ok (.aload_n 0, 1) := dk_42 (dk_at dksX1_are_0 2 rfl rfl)
theorem dX1_are_3 : decode cX1_are 3 = .ok (.astore_n 2, 1) := dk_77 (dk_at dksX1_are_0 3 rfl rfl)
theorem dX1_are_4 : decode cX1_are 4 = .ok (.aload_n 2, 1) := dk_44 (dk_at dksX1_are_0 4 rfl rfl)
theorem dX1_are_5 : decode cX1_are 5 = .ok (.arraylength, 1) := dk_190 (dk_at dksX1_are_0 5 rfl rfl)
theorem dX1_are_6 : decode cX1_are 6 = .ok (.istore_n 3, 1) := dk_62 (dk_at dksX1_are_0 6 rfl rfl)
theorem dX1_are_7 : decode cX1_are 7 = .ok (.iconst 0, 1) := dk_3 (dk_at dksX1_are_0 7 rfl rfl)
theorem dX1_are_8 : decode cX1_are 8 = .ok (.istore 4, 2) := dk_54 4 (dk_at dksX1_are_0 8 rfl rfl)
theorem dX1_are_10 : decode cX1_are 10 = .ok (.iload 4, 2) := dk_21 4 (dk_at dksX1_are_0 10 rfl rfl)
theorem dX1_are_12 : decode cX1_are 12 = .ok (.iload_n 3, 1) := dk_29 (dk_at dksX1_are_0 12 rfl rfl)
theorem dX1_are_13 : decode cX1_are 13 = .ok (.if_icmp .ge 38, 3) := dk_162 0 38 (dk_at dksX1_are_0 13 rfl rfl)
theorem dX1_are_16 : decode cX1_are 16 = .ok (.aload_n 2, 1) := dk_44 (dk_at dksX1_are_0 16 rfl rfl)
theorem dX1_are_17 : decode cX1_are 17 = .ok (.iload 4, 2) := dk_21 4 (dk_at dksX1_are_0 17 rfl rfl)
theorem dX1_are_19 : decode cX1_are 19 = .ok (.iaload, 1) := dk_46 (dk_at dksX1_are_0 19 rfl rfl)
theorem dX1_are_20 : decode cX1_are 20 = .ok (.istore 5, 2) := dk_54 5 (dk_at dksX1_are_0 20 rfl rfl)
theorem dX1_are_22 : decode cX1_are 22 = .ok (.iload_n 1, 1) := dk_27 (dk_at dksX1_are_0 22 rfl rfl)
theorem dX1_are_23 : decode cX1_are 23 = .ok (.ifCond .eq 20, 3) := dk_153 0 20 (dk_at dksX1_are_1 0 rfl rfl)
theorem dX1_are_26 : decode cX1_are 26 = .ok (.iload 5, 2) := dk_21 5 (dk_at dksX1_are_1 3 rfl rfl)
theorem dX1_are_28 : decode cX1_are 28 = .ok (.i2l, 1) := dk_133 (dk_at dksX1_are_1 5 rfl rfl)
theorem dX1_are_29 : decode cX1_are 29 = .ok (.lconst 0, 1) := dk_9 (dk_at dksX1_are_1 6 rfl rfl)
theorem dX1_are_30 : decode cX1_are 30 = .ok (.ldc2_w 88, 3) := dk_20 0 88 (dk_at dksX1_are_1 7 rfl rfl)
theorem dX1_are_33 : decode cX1_are 33 = .ok (.invokestatic 7, 3) := dk_184 0 7 (dk_at dksX1_are_1 10 rfl rfl)
theorem dX1_are_36 : decode cX1_are 36 = .ok (.ifCond .eq 7, 3) := dk_153 0 7 (dk_at dksX1_are_1 13 rfl rfl)
theorem dX1_are_39 : decode cX1_are 39 = .ok (.iconst 1, 1) := dk_4 (dk_at dksX1_are_1 16 rfl rfl)
theorem dX1_are_40 : decode cX1_are 40 = .ok (.goto 4, 3) := dk_167 0 4 (dk_at dksX1_are_1 17 rfl rfl)
theorem dX1_are_43 : decode cX1_are 43 = .ok (.iconst 0, 1) := dk_3 (dk_at dksX1_are_1 20 rfl rfl)
theorem dX1_are_44 : decode cX1_are 44 = .ok (.istore_n 1, 1) := dk_60 (dk_at dksX1_are_1 21 rfl rfl)
theorem dX1_are_45 : decode cX1_are 45 = .ok (.iinc 4 1, 3) := dk_132 4 1 (dk_at dksX1_are_2 0 rfl rfl)
theorem dX1_are_48 : decode cX1_are 48 = .ok (.goto (-38), 3) := dk_167 255 218 (dk_at dksX1_are_2 3 rfl rfl)
theorem dX1_are_51 : decode cX1_are 51 = .ok (.iload_n 1, 1) := dk_27 (dk_at dksX1_are_2 6 rfl rfl)
theorem dX1_are_52 : decode cX1_are 52 = .ok (.ireturn, 1) := dk_172 (dk_at dksX1_are_2 7 rfl rfl)
abbrev cX1_adds : ByteArray := prog_1_method_15_code
def yX1_adds : MethodName := ⟨RX1, "adds", "(II)I"⟩
def dkwX1_adds_1 : List UInt8 := [182, 0, 34, 182, 0, 102, 153, 0, 7, 4, 167, 0, 4, 3, 172]
abbrev dktX1_adds_1 : List UInt8 := dkwX1_adds_1 ++ []
def dkwX1_adds_0 : List UInt8 := [4, 188, 10, 89, 3, 27, 79, 184, 0, 92, 154, 0, 5, 2, 172, 42, 180, 0, 71, 27, 50, 42, 28]
abbrev dktX1_adds_0 : List UInt8 := dkwX1_adds_0 ++ dktX1_adds_1
theorem dksX1_adds_0 : cX1_adds.data.toList.drop 0 = dktX1_adds_0 := by decide +kernel
theorem dksX1_adds_1 : cX1_adds.data.toList.drop 23 = dktX1_adds_1 := dk_seg dksX1_adds_0 23 rfl rfl
theorem dX1_adds_0 : decode cX1_adds 0 = .ok (.iconst 1, 1) := dk_4 (dk_at dksX1_adds_0 0 rfl rfl)
theorem dX1_adds_1 : decode cX1_adds 1 = .ok (.newarray .int, 2) := dk_188_10 (dk_at dksX1_adds_0 1 rfl rfl)
theorem dX1_adds_3 : decode cX1_adds 3 = .ok (.dup, 1) := dk_89 (dk_at dksX1_adds_0 3 rfl rfl)
theorem dX1_adds_4 : decode cX1_adds 4 = .ok (.iconst 0, 1) := dk_3 (dk_at dksX1_adds_0 4 rfl rfl)
theorem dX1_adds_5 : decode cX1_adds 5 = .ok (.iload_n 1, 1) := dk_27 (dk_at dksX1_adds_0 5 rfl rfl)
theorem dX1_adds_6 : decode cX1_adds 6 = .ok (.iastore, 1) := dk_79 (dk_at dksX1_adds_0 6 rfl rfl)
theorem dX1_adds_7 : decode cX1_adds 7 = .ok (.invokestatic 92, 3) := dk_184 0 92 (dk_at dksX1_adds_0 7 rfl rfl)
theorem dX1_adds_10 : decode cX1_adds 10 = .ok (.ifCond .ne 5, 3) := dk_154 0 5 (dk_at dksX1_adds_0 10 rfl rfl)
theorem dX1_adds_13 : decode cX1_adds 13 = .ok (.iconst (-1), 1) := dk_2 (dk_at dksX1_adds_0 13 rfl rfl)
theorem dX1_adds_14 : decode cX1_adds 14 = .ok (.ireturn, 1) := dk_172 (dk_at dksX1_adds_0 14 rfl rfl)
theorem dX1_adds_15 : decode cX1_adds 15 = .ok (.aload_n 0, 1) := dk_42 (dk_at dksX1_adds_0 15 rfl rfl)
theorem dX1_adds_16 : decode cX1_adds 16 = .ok (.getfield 71, 3) := dk_180 0 71 (dk_at dksX1_adds_0 16 rfl rfl)
theorem dX1_adds_19 : decode cX1_adds 19 = .ok (.iload_n 1, 1) := dk_27 (dk_at dksX1_adds_0 19 rfl rfl)
theorem dX1_adds_20 : decode cX1_adds 20 = .ok (.aaload, 1) := dk_50 (dk_at dksX1_adds_0 20 rfl rfl)
theorem dX1_adds_21 : decode cX1_adds 21 = .ok (.aload_n 0, 1) := dk_42 (dk_at dksX1_adds_0 21 rfl rfl)
theorem dX1_adds_22 : decode cX1_adds 22 = .ok (.iload_n 2, 1) := dk_28 (dk_at dksX1_adds_0 22 rfl rfl)
theorem dX1_adds_23 : decode cX1_adds 23 = .ok (.invokevirtual 34, 3) := dk_182 0 34 (dk_at dksX1_adds_1 0 rfl rfl)
theorem dX1_adds_26 : decode cX1_adds 26 = .ok (.invokevirtual 102, 3) := dk_182 0 102 (dk_at dksX1_adds_1 3 rfl rfl)
theorem dX1_adds_29 : decode cX1_adds 29 = .ok (.ifCond .eq 7, 3) := dk_153 0 7 (dk_at dksX1_adds_1 6 rfl rfl)
theorem dX1_adds_32 : decode cX1_adds 32 = .ok (.iconst 1, 1) := dk_4 (dk_at dksX1_adds_1 9 rfl rfl)
theorem dX1_adds_33 : decode cX1_adds 33 = .ok (.goto 4, 3) := dk_167 0 4 (dk_at dksX1_adds_1 10 rfl rfl)
theorem dX1_adds_36 : decode cX1_adds 36 = .ok (.iconst 0, 1) := dk_3 (dk_at dksX1_adds_1 13 rfl rfl)
theorem dX1_adds_37 : decode cX1_adds 37 = .ok (.ireturn, 1) := dk_172 (dk_at dksX1_adds_1 14 rfl rfl)
abbrev cX1_runs : ByteArray := prog_1_method_16_code
def yX1_runs : MethodName := ⟨RX1, "runs", "(IIII)I"⟩
def dkwX1_runs_3 : List UInt8 := [54, 5, 132, 6, 1, 167, 255, 214, 21, 5, 172]
abbrev dktX1_runs_3 : List UInt8 := dkwX1_runs_3 ++ []
def dkwX1_runs_2 : List UInt8 := [50, 42, 28, 21, 6, 21, 4, 104, 96, 182, 0, 34, 182, 0, 102, 153, 0, 7, 4, 167, 0, 4, 3, 96]
abbrev dktX1_runs_2 : List UInt8 := dkwX1_runs_2 ++ dktX1_runs_3
def dkwX1_runs_1 : List UInt8 := [154, 0, 5, 2, 172, 3, 54, 5, 3, 54, 6, 21, 6, 29, 162, 0, 42, 21, 5, 42, 180, 0, 71, 27]
abbrev dktX1_runs_1 : List UInt8 := dkwX1_runs_1 ++ dktX1_runs_2
def dkwX1_runs_0 : List UInt8 := [4, 188, 10, 89, 3, 27, 79, 184, 0, 92, 153, 0, 15, 29, 133, 9, 20, 0, 105, 184, 0, 7]
abbrev dktX1_runs_0 : List UInt8 := dkwX1_runs_0 ++ dktX1_runs_1
theorem dksX1_runs_0 : cX1_runs.data.toList.drop 0 = dktX1_runs_0 := by decide +kernel
theorem dksX1_runs_1 : cX1_runs.data.toList.drop 22 = dktX1_runs_1 := dk_seg dksX1_runs_0 22 rfl rfl
theorem dksX1_runs_2 : cX1_runs.data.toList.drop 46 = dktX1_runs_2 := dk_seg dksX1_runs_1 24 rfl rfl
theorem dksX1_runs_3 : cX1_runs.data.toList.drop 70 = dktX1_runs_3 := dk_seg dksX1_runs_2 24 rfl rfl
theorem dX1_runs_0 : decode cX1_runs 0 = .ok (.iconst 1, 1) := dk_4 (dk_at dksX1_runs_0 0 rfl rfl)
theorem dX1_runs_1 : decode cX1_runs 1 = .ok (.newarray .int, 2) := dk_188_10 (dk_at dksX1_runs_0 1 rfl rfl)
theorem dX1_runs_3 : decode cX1_runs 3 = .ok (.dup, 1) := dk_89 (dk_at dksX1_runs_0 3 rfl rfl)
theorem dX1_runs_4 : decode cX1_runs 4 = .ok (.iconst 0, 1) := dk_3 (dk_at dksX1_runs_0 4 rfl rfl)
theorem dX1_runs_5 : decode cX1_runs 5 = .ok (.iload_n 1, 1) := dk_27 (dk_at dksX1_runs_0 5 rfl rfl)
theorem dX1_runs_6 : decode cX1_runs 6 = .ok (.iastore, 1) := dk_79 (dk_at dksX1_runs_0 6 rfl rfl)
theorem dX1_runs_7 : decode cX1_runs 7 = .ok (.invokestatic 92, 3) := dk_184 0 92 (dk_at dksX1_runs_0 7 rfl rfl)
theorem dX1_runs_10 : decode cX1_runs 10 = .ok (.ifCond .eq 15, 3) := dk_153 0 15 (dk_at dksX1_runs_0 10 rfl rfl)
theorem dX1_runs_13 : decode cX1_runs 13 = .ok (.iload_n 3, 1) := dk_29 (dk_at dksX1_runs_0 13 rfl rfl)
theorem dX1_runs_14 : decode cX1_runs 14 = .ok (.i2l, 1) := dk_133 (dk_at dksX1_runs_0 14 rfl rfl)
theorem dX1_runs_15 : decode cX1_runs 15 = .ok (.lconst 0, 1) := dk_9 (dk_at dksX1_runs_0 15 rfl rfl)
theorem dX1_runs_16 : decode cX1_runs 16 = .ok (.ldc2_w 105, 3) := dk_20 0 105 (dk_at dksX1_runs_0 16 rfl rfl)
theorem dX1_runs_19 : decode cX1_runs 19 = .ok (.invokestatic 7, 3) := dk_184 0 7 (dk_at dksX1_runs_0 19 rfl rfl)
theorem dX1_runs_22 : decode cX1_runs 22 = .ok (.ifCond .ne 5, 3) := dk_154 0 5 (dk_at dksX1_runs_1 0 rfl rfl)
theorem dX1_runs_25 : decode cX1_runs 25 = .ok (.iconst (-1), 1) := dk_2 (dk_at dksX1_runs_1 3 rfl rfl)
theorem dX1_runs_26 : decode cX1_runs 26 = .ok (.ireturn, 1) := dk_172 (dk_at dksX1_runs_1 4 rfl rfl)
theorem dX1_runs_27 : decode cX1_runs 27 = .ok (.iconst 0, 1) := dk_3 (dk_at dksX1_runs_1 5 rfl rfl)
theorem dX1_runs_28 : decode cX1_runs 28 = .ok (.istore 5, 2) := dk_54 5 (dk_at dksX1_runs_1 6 rfl rfl)
theorem dX1_runs_30 : decode cX1_runs 30 = .ok (.iconst 0, 1) := dk_3 (dk_at dksX1_runs_1 8 rfl rfl)
theorem dX1_runs_31 : decode cX1_runs 31 = .ok (.istore 6, 2) := dk_54 6 (dk_at dksX1_runs_1 9 rfl rfl)
theorem dX1_runs_33 : decode cX1_runs 33 = .ok (.iload 6, 2) := dk_21 6 (dk_at dksX1_runs_1 11 rfl rfl)
theorem dX1_runs_35 : decode cX1_runs 35 = .ok (.iload_n 3, 1) := dk_29 (dk_at dksX1_runs_1 13 rfl rfl)
theorem dX1_runs_36 : decode cX1_runs 36 = .ok (.if_icmp .ge 42, 3) := dk_162 0 42 (dk_at dksX1_runs_1 14 rfl rfl)
theorem dX1_runs_39 : decode cX1_runs 39 = .ok (.iload 5, 2) := dk_21 5 (dk_at dksX1_runs_1 17 rfl rfl)
theorem dX1_runs_41 : decode cX1_runs 41 = .ok (.aload_n 0, 1) := dk_42 (dk_at dksX1_runs_1 19 rfl rfl)
theorem dX1_runs_42 : decode cX1_runs 42 = .ok (.getfield 71, 3) := dk_180 0 71 (dk_at dksX1_runs_1 20 rfl rfl)
theorem dX1_runs_45 : decode cX1_runs 45 = .ok (.iload_n 1, 1) := dk_27 (dk_at dksX1_runs_1 23 rfl rfl)
theorem dX1_runs_46 : decode cX1_runs 46 = .ok (.aaload, 1) := dk_50 (dk_at dksX1_runs_2 0 rfl rfl)
theorem dX1_runs_47 : decode cX1_runs 47 = .ok (.aload_n 0, 1) := dk_42 (dk_at dksX1_runs_2 1 rfl rfl)
theorem dX1_runs_48 : decode cX1_runs 48 = .ok (.iload_n 2, 1) := dk_28 (dk_at dksX1_runs_2 2 rfl rfl)
theorem dX1_runs_49 : decode cX1_runs 49 = .ok (.iload 6, 2) := dk_21 6 (dk_at dksX1_runs_2 3 rfl rfl)
theorem dX1_runs_51 : decode cX1_runs 51 = .ok (.iload 4, 2) := dk_21 4 (dk_at dksX1_runs_2 5 rfl rfl)
theorem dX1_runs_53 : decode cX1_runs 53 = .ok (.imul, 1) := dk_104 (dk_at dksX1_runs_2 7 rfl rfl)
theorem dX1_runs_54 : decode cX1_runs 54 = .ok (.iadd, 1) := dk_96 (dk_at dksX1_runs_2 8 rfl rfl)
theorem dX1_runs_55 : decode cX1_runs 55 = .ok (.invokevirtual 34, 3) := dk_182 0 34 (dk_at dksX1_runs_2 9 rfl rfl)
theorem dX1_runs_58 : decode cX1_runs 58 = .ok (.invokevirtual 102, 3) := dk_182 0 102 (dk_at dksX1_runs_2 12 rfl rfl)
theorem dX1_runs_61 : decode cX1_runs 61 = .ok (.ifCond .eq 7, 3) := dk_153 0 7 (dk_at dksX1_runs_2 15 rfl rfl)
theorem dX1_runs_64 : decode cX1_runs 64 = .ok (.iconst 1, 1) := dk_4 (dk_at dksX1_runs_2 18 rfl rfl)
theorem dX1_runs_65 : decode cX1_runs 65 = .ok (.goto 4, 3) := dk_167 0 4 (dk_at dksX1_runs_2 19 rfl rfl)
theorem dX1_runs_68 : decode cX1_runs 68 = .ok (.iconst 0, 1) := dk_3 (dk_at dksX1_runs_2 22 rfl rfl)
theorem dX1_runs_69 : decode cX1_runs 69 = .ok (.iadd, 1) := dk_96 (dk_at dksX1_runs_2 23 rfl rfl)
theorem dX1_runs_70 : decode cX1_runs 70 = .ok (.istore 5, 2) := dk_54 5 (dk_at dksX1_runs_3 0 rfl rfl)
theorem dX1_runs_72 : decode cX1_runs 72 = .ok (.iinc 6 1, 3) := dk_132 6 1 (dk_at dksX1_runs_3 2 rfl rfl)
theorem dX1_runs_75 : decode cX1_runs 75 = .ok (.goto (-42), 3) := dk_167 255 214 (dk_at dksX1_runs_3 5 rfl rfl)
theorem dX1_runs_78 : decode cX1_runs 78 = .ok (.iload 5, 2) := dk_21 5 (dk_at dksX1_runs_3 8 rfl rfl)
theorem dX1_runs_80 : decode cX1_runs 80 = .ok (.ireturn, 1) := dk_172 (dk_at dksX1_runs_3 10 rfl rfl)
abbrev cX1_sign : ByteArray := prog_1_method_17_code
def yX1_sign : MethodName := ⟨RX1, "sign", "(I)I"⟩
def dkwX1_sign_2 : List UInt8 := [167, 255, 224, 42, 89, 180, 0, 107, 7, 96, 181, 0, 107, 42, 180, 0, 107, 172]
abbrev dktX1_sign_2 : List UInt8 := dkwX1_sign_2 ++ []
def dkwX1_sign_1 : List UInt8 := [180, 0, 107, 28, 96, 27, 16, 24, 16, 8, 28, 104, 100, 122, 17, 0, 255, 126, 79, 132, 2, 1]
abbrev dktX1_sign_1 : List UInt8 := dkwX1_sign_1 ++ dktX1_sign_2
def dkwX1_sign_0 : List UInt8 := [42, 180, 0, 107, 17, 2, 84, 164, 0, 5, 2, 172, 3, 61, 28, 7, 162, 0, 33, 42, 180, 0, 78, 42]
abbrev dktX1_sign_0 : List UInt8 := dkwX1_sign_0 ++ dktX1_sign_1
theorem dksX1_sign_0 : cX1_sign.data.toList.drop 0 = dktX1_sign_0 := by decide +kernel
theorem dksX1_sign_1 : cX1_sign.data.toList.drop 24 = dktX1_sign_1 := dk_seg dksX1_sign_0 24 rfl rfl
theorem dksX1_sign_2 : cX1_sign.data.toList.drop 46 = dktX1_sign_2 := dk_seg dksX1_sign_1 22 rfl rfl
theorem dX1_sign_0 : decode cX1_sign 0 = .ok (.aload_n 0, 1) := dk_42 (dk_at dksX1_sign_0 0 rfl rfl)
theorem dX1_sign_1 : decode cX1_sign 1 = .ok (.getfield 107, 3) := dk_180 0 107 (dk_at dksX1_sign_0 1 rfl rfl)
theorem dX1_sign_4 : decode cX1_sign 4 = .ok (.sipush 596, 3) := dk_17 2 84 (dk_at dksX1_sign_0 4 rfl rfl)
theorem dX1_sign_7 : decode cX1_sign 7 = .ok (.if_icmp .le 5, 3) := dk_164 0 5 (dk_at dksX1_sign_0 7 rfl rfl)
theorem dX1_sign_10 : decode cX1_sign 10 = .ok (.iconst (-1), 1) := dk_2 (dk_at dksX1_sign_0 10 rfl rfl)
theorem dX1_sign_11 : decode cX1_sign 11 = .ok (.ireturn, 1) := dk_172 (dk_at dksX1_sign_0 11 rfl rfl)
theorem dX1_sign_12 : decode cX1_sign 12 = .ok (.iconst 0, 1) := dk_3 (dk_at dksX1_sign_0 12 rfl rfl)
theorem dX1_sign_13 : decode cX1_sign 13 = .ok (.istore_n 2, 1) := dk_61 (dk_at dksX1_sign_0 13 rfl rfl)
theorem dX1_sign_14 : decode cX1_sign 14 = .ok (.iload_n 2, 1) := dk_28 (dk_at dksX1_sign_0 14 rfl rfl)
theorem dX1_sign_15 : decode cX1_sign 15 = .ok (.iconst 4, 1) := dk_7 (dk_at dksX1_sign_0 15 rfl rfl)
theorem dX1_sign_16 : decode cX1_sign 16 = .ok (.if_icmp .ge 33, 3) := dk_162 0 33 (dk_at dksX1_sign_0 16 rfl rfl)
theorem dX1_sign_19 : decode cX1_sign 19 = .ok (.aload_n 0, 1) := dk_42 (dk_at dksX1_sign_0 19 rfl rfl)
theorem dX1_sign_20 : decode cX1_sign 20 = .ok (.getfield 78, 3) := dk_180 0 78 (dk_at dksX1_sign_0 20 rfl rfl)
theorem dX1_sign_23 : decode cX1_sign 23 = .ok (.aload_n 0, 1) := dk_42 (dk_at dksX1_sign_0 23 rfl rfl)
theorem dX1_sign_24 : decode cX1_sign 24 = .ok (.getfield 107, 3) := dk_180 0 107 (dk_at dksX1_sign_1 0 rfl rfl)
theorem dX1_sign_27 : decode cX1_sign 27 = .ok (.iload_n 2, 1) := dk_28 (dk_at dksX1_sign_1 3 rfl rfl)
theorem dX1_sign_28 : decode cX1_sign 28 = .ok (.iadd, 1) := dk_96 (dk_at dksX1_sign_1 4 rfl rfl)
theorem dX1_sign_29 : decode cX1_sign 29 = .ok (.iload_n 1, 1) := dk_27 (dk_at dksX1_sign_1 5 rfl rfl)
theorem dX1_sign_30 : decode cX1_sign 30 = .ok (.bipush 24, 2) := dk_16 24 (dk_at dksX1_sign_1 6 rfl rfl)
theorem dX1_sign_32 : decode cX1_sign 32 = .ok (.bipush 8, 2) := dk_16 8 (dk_at dksX1_sign_1 8 rfl rfl)
theorem dX1_sign_34 : decode cX1_sign 34 = .ok (.iload_n 2, 1) := dk_28 (dk_at dksX1_sign_1 10 rfl rfl)
theorem dX1_sign_35 : decode cX1_sign 35 = .ok (.imul, 1) := dk_104 (dk_at dksX1_sign_1 11 rfl rfl)
theorem dX1_sign_36 : decode cX1_sign 36 = .ok (.isub, 1) := dk_100 (dk_at dksX1_sign_1 12 rfl rfl)
theorem dX1_sign_37 : decode cX1_sign 37 = .ok (.ishr, 1) := dk_122 (dk_at dksX1_sign_1 13 rfl rfl)
theorem dX1_sign_38 : decode cX1_sign 38 = .ok (.sipush 255, 3) := dk_17 0 255 (dk_at dksX1_sign_1 14 rfl rfl)
theorem dX1_sign_41 : decode cX1_sign 41 = .ok (.iand, 1) := dk_126 (dk_at dksX1_sign_1 17 rfl rfl)
theorem dX1_sign_42 : decode cX1_sign 42 = .ok (.iastore, 1) := dk_79 (dk_at dksX1_sign_1 18 rfl rfl)
theorem dX1_sign_43 : decode cX1_sign 43 = .ok (.iinc 2 1, 3) := dk_132 2 1 (dk_at dksX1_sign_1 19 rfl rfl)
theorem dX1_sign_46 : decode cX1_sign 46 = .ok (.goto (-32), 3) := dk_167 255 224 (dk_at dksX1_sign_2 0 rfl rfl)
theorem dX1_sign_49 : decode cX1_sign 49 = .ok (.aload_n 0, 1) := dk_42 (dk_at dksX1_sign_2 3 rfl rfl)
theorem dX1_sign_50 : decode cX1_sign 50 = .ok (.dup, 1) := dk_89 (dk_at dksX1_sign_2 4 rfl rfl)
theorem dX1_sign_51 : decode cX1_sign 51 = .ok (.getfield 107, 3) := dk_180 0 107 (dk_at dksX1_sign_2 5 rfl rfl)
theorem dX1_sign_54 : decode cX1_sign 54 = .ok (.iconst 4, 1) := dk_7 (dk_at dksX1_sign_2 8 rfl rfl)
theorem dX1_sign_55 : decode cX1_sign 55 = .ok (.iadd, 1) := dk_96 (dk_at dksX1_sign_2 9 rfl rfl)
theorem dX1_sign_56 : decode cX1_sign 56 = .ok (.putfield 107, 3) := dk_181 0 107 (dk_at dksX1_sign_2 10 rfl rfl)
theorem dX1_sign_59 : decode cX1_sign 59 = .ok (.aload_n 0, 1) := dk_42 (dk_at dksX1_sign_2 13 rfl rfl)
theorem dX1_sign_60 : decode cX1_sign 60 = .ok (.getfield 107, 3) := dk_180 0 107 (dk_at dksX1_sign_2 14 rfl rfl)
theorem dX1_sign_63 : decode cX1_sign 63 = .ok (.ireturn, 1) := dk_172 (dk_at dksX1_sign_2 17 rfl rfl)
abbrev cX1_end : ByteArray := prog_1_method_18_code
def yX1_end : MethodName := ⟨RX1, "end", "(I)Z"⟩
def dkwX1_end_0 : List UInt8 := [27, 133, 9, 42, 180, 0, 107, 133, 184, 0, 7, 154, 0, 5, 3, 172, 42, 27, 181, 0, 107, 4, 172]
abbrev dktX1_end_0 : List UInt8 := dkwX1_end_0 ++ []
theorem dksX1_end_0 : cX1_end.data.toList.drop 0 = dktX1_end_0 := by decide +kernel
theorem dX1_end_0 : decode cX1_end 0 = .ok (.iload_n 1, 1) := dk_27 (dk_at dksX1_end_0 0 rfl rfl)
theorem dX1_end_1 : decode cX1_end 1 = .ok (.i2l, 1) := dk_133 (dk_at dksX1_end_0 1 rfl rfl)
theorem dX1_end_2 : decode cX1_end 2 = .ok (.lconst 0, 1) := dk_9 (dk_at dksX1_end_0 2 rfl rfl)
theorem dX1_end_3 : decode cX1_end 3 = .ok (.aload_n 0, 1) := dk_42 (dk_at dksX1_end_0 3 rfl rfl)
theorem dX1_end_4 : decode cX1_end 4 = .ok (.getfield 107, 3) := dk_180 0 107 (dk_at dksX1_end_0 4 rfl rfl)
theorem dX1_end_7 : decode cX1_end 7 = .ok (.i2l, 1) := dk_133 (dk_at dksX1_end_0 7 rfl rfl)
theorem dX1_end_8 : decode cX1_end 8 = .ok (.invokestatic 7, 3) := dk_184 0 7 (dk_at dksX1_end_0 8 rfl rfl)
theorem dX1_end_11 : decode cX1_end 11 = .ok (.ifCond .ne 5, 3) := dk_154 0 5 (dk_at dksX1_end_0 11 rfl rfl)
theorem dX1_end_14 : decode cX1_end 14 = .ok (.iconst 0, 1) := dk_3 (dk_at dksX1_end_0 14 rfl rfl)
theorem dX1_end_15 : decode cX1_end 15 = .ok (.ireturn, 1) := dk_172 (dk_at dksX1_end_0 15 rfl rfl)
theorem dX1_end_16 : decode cX1_end 16 = .ok (.aload_n 0, 1) := dk_42 (dk_at dksX1_end_0 16 rfl rfl)
theorem dX1_end_17 : decode cX1_end 17 = .ok (.iload_n 1, 1) := dk_27 (dk_at dksX1_end_0 17 rfl rfl)
theorem dX1_end_18 : decode cX1_end 18 = .ok (.putfield 107, 3) := dk_181 0 107 (dk_at dksX1_end_0 18 rfl rfl)
theorem dX1_end_21 : decode cX1_end 21 = .ok (.iconst 1, 1) := dk_4 (dk_at dksX1_end_0 21 rfl rfl)
theorem dX1_end_22 : decode cX1_end 22 = .ok (.ireturn, 1) := dk_172 (dk_at dksX1_end_0 22 rfl rfl)
abbrev cX1_tells : ByteArray := prog_1_method_26_code
def yX1_tells : MethodName := ⟨RX1, "tells", "(I)I"⟩
def dkwX1_tells_3 : List UInt8 := [167, 0, 4, 3, 96, 61, 132, 3, 1, 167, 255, 215, 28, 172]
abbrev dktX1_tells_3 : List UInt8 := dkwX1_tells_3 ++ []
def dkwX1_tells_2 : List UInt8 := [180, 0, 71, 27, 50, 42, 42, 180, 0, 81, 29, 46, 182, 0, 34, 182, 0, 102, 153, 0, 7, 4]
abbrev dktX1_tells_2 : List UInt8 := dkwX1_tells_2 ++ dktX1_tells_3
def dkwX1_tells_1 : List UInt8 := [184, 0, 92, 154, 0, 5, 2, 172, 3, 61, 3, 62, 29, 42, 180, 0, 133, 162, 0, 39, 28, 42]
abbrev dktX1_tells_1 : List UInt8 := dkwX1_tells_1 ++ dktX1_tells_2
def dkwX1_tells_0 : List UInt8 := [42, 182, 0, 139, 42, 182, 0, 142, 167, 0, 9, 77, 42, 182, 0, 145, 172, 4, 188, 10, 89, 3, 27, 79]
abbrev dktX1_tells_0 : List UInt8 := dkwX1_tells_0 ++ dktX1_tells_1
theorem dksX1_tells_0 : cX1_tells.data.toList.drop 0 = dktX1_tells_0 := by decide +kernel
theorem dksX1_tells_1 : cX1_tells.data.toList.drop 24 = dktX1_tells_1 := dk_seg dksX1_tells_0 24 rfl rfl
theorem dksX1_tells_2 : cX1_tells.data.toList.drop 46 = dktX1_tells_2 := dk_seg dksX1_tells_1 22 rfl rfl
theorem dksX1_tells_3 : cX1_tells.data.toList.drop 68 = dktX1_tells_3 := dk_seg dksX1_tells_2 22 rfl rfl
theorem dX1_tells_0 : decode cX1_tells 0 = .ok (.aload_n 0, 1) := dk_42 (dk_at dksX1_tells_0 0 rfl rfl)
theorem dX1_tells_1 : decode cX1_tells 1 = .ok (.invokevirtual 139, 3) := dk_182 0 139 (dk_at dksX1_tells_0 1 rfl rfl)
theorem dX1_tells_4 : decode cX1_tells 4 = .ok (.aload_n 0, 1) := dk_42 (dk_at dksX1_tells_0 4 rfl rfl)
theorem dX1_tells_5 : decode cX1_tells 5 = .ok (.invokevirtual 142, 3) := dk_182 0 142 (dk_at dksX1_tells_0 5 rfl rfl)
theorem dX1_tells_8 : decode cX1_tells 8 = .ok (.goto 9, 3) := dk_167 0 9 (dk_at dksX1_tells_0 8 rfl rfl)
theorem dX1_tells_11 : decode cX1_tells 11 = .ok (.astore_n 2, 1) := dk_77 (dk_at dksX1_tells_0 11 rfl rfl)
theorem dX1_tells_12 : decode cX1_tells 12 = .ok (.aload_n 0, 1) := dk_42 (dk_at dksX1_tells_0 12 rfl rfl)
theorem dX1_tells_13 : decode cX1_tells 13 = .ok (.invokevirtual 145, 3) := dk_182 0 145 (dk_at dksX1_tells_0 13 rfl rfl)
theorem dX1_tells_16 : decode cX1_tells 16 = .ok (.ireturn, 1) := dk_172 (dk_at dksX1_tells_0 16 rfl rfl)
theorem dX1_tells_17 : decode cX1_tells 17 = .ok (.iconst 1, 1) := dk_4 (dk_at dksX1_tells_0 17 rfl rfl)
theorem dX1_tells_18 : decode cX1_tells 18 = .ok (.newarray .int, 2) := dk_188_10 (dk_at dksX1_tells_0 18 rfl rfl)
theorem dX1_tells_20 : decode cX1_tells 20 = .ok (.dup, 1) := dk_89 (dk_at dksX1_tells_0 20 rfl rfl)
theorem dX1_tells_21 : decode cX1_tells 21 = .ok (.iconst 0, 1) := dk_3 (dk_at dksX1_tells_0 21 rfl rfl)
theorem dX1_tells_22 : decode cX1_tells 22 = .ok (.iload_n 1, 1) := dk_27 (dk_at dksX1_tells_0 22 rfl rfl)
theorem dX1_tells_23 : decode cX1_tells 23 = .ok (.iastore, 1) := dk_79 (dk_at dksX1_tells_0 23 rfl rfl)
theorem dX1_tells_24 : decode cX1_tells 24 = .ok (.invokestatic 92, 3) := dk_184 0 92 (dk_at dksX1_tells_1 0 rfl rfl)
theorem dX1_tells_27 : decode cX1_tells 27 = .ok (.ifCond .ne 5, 3) := dk_154 0 5 (dk_at dksX1_tells_1 3 rfl rfl)
theorem dX1_tells_30 : decode cX1_tells 30 = .ok (.iconst (-1), 1) := dk_2 (dk_at dksX1_tells_1 6 rfl rfl)
theorem dX1_tells_31 : decode cX1_tells 31 = .ok (.ireturn, 1) := dk_172 (dk_at dksX1_tells_1 7 rfl rfl)
theorem dX1_tells_32 : decode cX1_tells 32 = .ok (.iconst 0, 1) := dk_3 (dk_at dksX1_tells_1 8 rfl rfl)
theorem dX1_tells_33 : decode cX1_tells 33 = .ok (.istore_n 2, 1) := dk_61 (dk_at dksX1_tells_1 9 rfl rfl)
theorem dX1_tells_34 : decode cX1_tells 34 = .ok (.iconst 0, 1) := dk_3 (dk_at dksX1_tells_1 10 rfl rfl)
theorem dX1_tells_35 : decode cX1_tells 35 = .ok (.istore_n 3, 1) := dk_62 (dk_at dksX1_tells_1 11 rfl rfl)
theorem dX1_tells_36 : decode cX1_tells 36 = .ok (.iload_n 3, 1) := dk_29 (dk_at dksX1_tells_1 12 rfl rfl)
theorem dX1_tells_37 : decode cX1_tells 37 = .ok (.aload_n 0, 1) := dk_42 (dk_at dksX1_tells_1 13 rfl rfl)
theorem dX1_tells_38 : decode cX1_tells 38 = .ok (.getfield 133, 3) := dk_180 0 133 (dk_at dksX1_tells_1 14 rfl rfl)
theorem dX1_tells_41 : decode cX1_tells 41 = .ok (.if_icmp .ge 39, 3) := dk_162 0 39 (dk_at dksX1_tells_1 17 rfl rfl)
theorem dX1_tells_44 : decode cX1_tells 44 = .ok (.iload_n 2, 1) := dk_28 (dk_at dksX1_tells_1 20 rfl rfl)
theorem dX1_tells_45 : decode cX1_tells 45 = .ok (.aload_n 0, 1) := dk_42 (dk_at dksX1_tells_1 21 rfl rfl)
theorem dX1_tells_46 : decode cX1_tells 46 = .ok (.getfield 71, 3) := dk_180 0 71 (dk_at dksX1_tells_2 0 rfl rfl)
theorem dX1_tells_49 : decode cX1_tells 49 = .ok (.iload_n 1, 1) := dk_27 (dk_at dksX1_tells_2 3 rfl rfl)
theorem dX1_tells_50 : decode cX1_tells 50 = .ok (.aaload, 1) := dk_50 (dk_at dksX1_tells_2 4 rfl rfl)
theorem dX1_tells_51 : decode cX1_tells 51 = .ok (.aload_n 0, 1) := dk_42 (dk_at dksX1_tells_2 5 rfl rfl)
theorem dX1_tells_52 : decode cX1_tells 52 = .ok (.aload_n 0, 1) := dk_42 (dk_at dksX1_tells_2 6 rfl rfl)
theorem dX1_tells_53 : decode cX1_tells 53 = .ok (.getfield 81, 3) := dk_180 0 81 (dk_at dksX1_tells_2 7 rfl rfl)
theorem dX1_tells_56 : decode cX1_tells 56 = .ok (.iload_n 3, 1) := dk_29 (dk_at dksX1_tells_2 10 rfl rfl)
theorem dX1_tells_57 : decode cX1_tells 57 = .ok (.iaload, 1) := dk_46 (dk_at dksX1_tells_2 11 rfl rfl)
theorem dX1_tells_58 : decode cX1_tells 58 = .ok (.invokevirtual 34, 3) := dk_182 0 34 (dk_at dksX1_tells_2 12 rfl rfl)
theorem dX1_tells_61 : decode cX1_tells 61 = .ok (.invokevirtual 102, 3) := dk_182 0 102 (dk_at dksX1_tells_2 15 rfl rfl)
theorem dX1_tells_64 : decode cX1_tells 64 = .ok (.ifCond .eq 7, 3) := dk_153 0 7 (dk_at dksX1_tells_2 18 rfl rfl)
theorem dX1_tells_67 : decode cX1_tells 67 = .ok (.iconst 1, 1) := dk_4 (dk_at dksX1_tells_2 21 rfl rfl)
theorem dX1_tells_68 : decode cX1_tells 68 = .ok (.goto 4, 3) := dk_167 0 4 (dk_at dksX1_tells_3 0 rfl rfl)
theorem dX1_tells_71 : decode cX1_tells 71 = .ok (.iconst 0, 1) := dk_3 (dk_at dksX1_tells_3 3 rfl rfl)
theorem dX1_tells_72 : decode cX1_tells 72 = .ok (.iadd, 1) := dk_96 (dk_at dksX1_tells_3 4 rfl rfl)
theorem dX1_tells_73 : decode cX1_tells 73 = .ok (.istore_n 2, 1) := dk_61 (dk_at dksX1_tells_3 5 rfl rfl)
theorem dX1_tells_74 : decode cX1_tells 74 = .ok (.iinc 3 1, 3) := dk_132 3 1 (dk_at dksX1_tells_3 6 rfl rfl)
theorem dX1_tells_77 : decode cX1_tells 77 = .ok (.goto (-41), 3) := dk_167 255 215 (dk_at dksX1_tells_3 9 rfl rfl)
theorem dX1_tells_80 : decode cX1_tells 80 = .ok (.iload_n 2, 1) := dk_28 (dk_at dksX1_tells_3 12 rfl rfl)
theorem dX1_tells_81 : decode cX1_tells 81 = .ok (.ireturn, 1) := dk_172 (dk_at dksX1_tells_3 13 rfl rfl)
abbrev cX1_begins : ByteArray := prog_1_method_19_code
def yX1_begins : MethodName := ⟨RX1, "begins", "()V"⟩
def dkwX1_begins_0 : List UInt8 := [42, 42, 180, 0, 107, 181, 0, 110, 42, 3, 181, 0, 107, 42, 3, 181, 0, 113, 177]
abbrev dktX1_begins_0 : List UInt8 := dkwX1_begins_0 ++ []
theorem dksX1_begins_0 : cX1_begins.data.toList.drop 0 = dktX1_begins_0 := by decide +kernel
theorem dX1_begins_0 : decode cX1_begins 0 = .ok (.aload_n 0, 1) := dk_42 (dk_at dksX1_begins_0 0 rfl rfl)
theorem dX1_begins_1 : decode cX1_begins 1 = .ok (.aload_n 0, 1) := dk_42 (dk_at dksX1_begins_0 1 rfl rfl)
theorem dX1_begins_2 : decode cX1_begins 2 = .ok (.getfield 107, 3) := dk_180 0 107 (dk_at dksX1_begins_0 2 rfl rfl)
theorem dX1_begins_5 : decode cX1_begins 5 = .ok (.putfield 110, 3) := dk_181 0 110 (dk_at dksX1_begins_0 5 rfl rfl)
theorem dX1_begins_8 : decode cX1_begins 8 = .ok (.aload_n 0, 1) := dk_42 (dk_at dksX1_begins_0 8 rfl rfl)
theorem dX1_begins_9 : decode cX1_begins 9 = .ok (.iconst 0, 1) := dk_3 (dk_at dksX1_begins_0 9 rfl rfl)
theorem dX1_begins_10 : decode cX1_begins 10 = .ok (.putfield 107, 3) := dk_181 0 107 (dk_at dksX1_begins_0 10 rfl rfl)
theorem dX1_begins_13 : decode cX1_begins 13 = .ok (.aload_n 0, 1) := dk_42 (dk_at dksX1_begins_0 13 rfl rfl)
theorem dX1_begins_14 : decode cX1_begins 14 = .ok (.iconst 0, 1) := dk_3 (dk_at dksX1_begins_0 14 rfl rfl)
theorem dX1_begins_15 : decode cX1_begins 15 = .ok (.putfield 113, 3) := dk_181 0 113 (dk_at dksX1_begins_0 15 rfl rfl)
theorem dX1_begins_18 : decode cX1_begins 18 = .ok (.return_, 1) := dk_177 (dk_at dksX1_begins_0 18 rfl rfl)
abbrev cX1_thingsTold : ByteArray := prog_1_method_25_code
def yX1_thingsTold : MethodName := ⟨RX1, "thingsTold", "()V"⟩
def dkwX1_thingsTold_2 : List UInt8 := [180, 0, 113, 42, 180, 0, 110, 160, 0, 7, 4, 167, 0, 4, 3, 182, 0, 129, 177]
abbrev dktX1_thingsTold_2 : List UInt8 := dkwX1_thingsTold_2 ++ []
def dkwX1_thingsTold_1 : List UInt8 := [79, 42, 89, 180, 0, 133, 4, 96, 181, 0, 133, 42, 16, 44, 182, 0, 121, 154, 255, 227, 42, 42]
abbrev dktX1_thingsTold_1 : List UInt8 := dkwX1_thingsTold_1 ++ dktX1_thingsTold_2
def dkwX1_thingsTold_0 : List UInt8 := [42, 3, 181, 0, 133, 42, 180, 0, 110, 158, 0, 35, 42, 180, 0, 81, 42, 180, 0, 133, 42, 182, 0, 136]
abbrev dktX1_thingsTold_0 : List UInt8 := dkwX1_thingsTold_0 ++ dktX1_thingsTold_1
theorem dksX1_thingsTold_0 : cX1_thingsTold.data.toList.drop 0 = dktX1_thingsTold_0 := by decide +kernel
theorem dksX1_thingsTold_1 : cX1_thingsTold.data.toList.drop 24 = dktX1_thingsTold_1 := dk_seg dksX1_thingsTold_0 24 rfl rfl
theorem dksX1_thingsTold_2 : cX1_thingsTold.data.toList.drop 46 = dktX1_thingsTold_2 := dk_seg dksX1_thingsTold_1 22 rfl rfl
theorem dX1_thingsTold_0 : decode cX1_thingsTold 0 = .ok (.aload_n 0, 1) := dk_42 (dk_at dksX1_thingsTold_0 0 rfl rfl)
theorem dX1_thingsTold_1 : decode cX1_thingsTold 1 = .ok (.iconst 0, 1) := dk_3 (dk_at dksX1_thingsTold_0 1 rfl rfl)
theorem dX1_thingsTold_2 : decode cX1_thingsTold 2 = .ok (.putfield 133, 3) := dk_181 0 133 (dk_at dksX1_thingsTold_0 2 rfl rfl)
theorem dX1_thingsTold_5 : decode cX1_thingsTold 5 = .ok (.aload_n 0, 1) := dk_42 (dk_at dksX1_thingsTold_0 5 rfl rfl)
theorem dX1_thingsTold_6 : decode cX1_thingsTold 6 = .ok (.getfield 110, 3) := dk_180 0 110 (dk_at dksX1_thingsTold_0 6 rfl rfl)
theorem dX1_thingsTold_9 : decode cX1_thingsTold 9 = .ok (.ifCond .le 35, 3) := dk_158 0 35 (dk_at dksX1_thingsTold_0 9 rfl rfl)
theorem dX1_thingsTold_12 : decode cX1_thingsTold 12 = .ok (.aload_n 0, 1) := dk_42 (dk_at dksX1_thingsTold_0 12 rfl rfl)
theorem dX1_thingsTold_13 : decode cX1_thingsTold 13 = .ok (.getfield 81, 3) := dk_180 0 81 (dk_at dksX1_thingsTold_0 13 rfl rfl)
theorem dX1_thingsTold_16 : decode cX1_thingsTold 16 = .ok (.aload_n 0, 1) := dk_42 (dk_at dksX1_thingsTold_0 16 rfl rfl)
theorem dX1_thingsTold_17 : decode cX1_thingsTold 17 = .ok (.getfield 133, 3) := dk_180 0 133 (dk_at dksX1_thingsTold_0 17 rfl rfl)
theorem dX1_thingsTold_20 : decode cX1_thingsTold 20 = .ok (.aload_n 0, 1) := dk_42 (dk_at dksX1_thingsTold_0 20 rfl rfl)
theorem dX1_thingsTold_21 : decode cX1_thingsTold 21 = .ok (.invokevirtual 136, 3) := dk_182 0 136 (dk_at dksX1_thingsTold_0 21 rfl rfl)
theorem dX1_thingsTold_24 : decode cX1_thingsTold 24 = .ok (.iastore, 1) := dk_79 (dk_at dksX1_thingsTold_1 0 rfl rfl)
theorem dX1_thingsTold_25 : decode cX1_thingsTold 25 = .ok (.aload_n 0, 1) := dk_42 (dk_at dksX1_thingsTold_1 1 rfl rfl)
theorem dX1_thingsTold_26 : decode cX1_thingsTold 26 = .ok (.dup, 1) := dk_89 (dk_at dksX1_thingsTold_1 2 rfl rfl)
theorem dX1_thingsTold_27 : decode cX1_thingsTold 27 = .ok (.getfield 133, 3) := dk_180 0 133 (dk_at dksX1_thingsTold_1 3 rfl rfl)
theorem dX1_thingsTold_30 : decode cX1_thingsTold 30 = .ok (.iconst 1, 1) := dk_4 (dk_at dksX1_thingsTold_1 6 rfl rfl)
theorem dX1_thingsTold_31 : decode cX1_thingsTold 31 = .ok (.iadd, 1) := dk_96 (dk_at dksX1_thingsTold_1 7 rfl rfl)
theorem dX1_thingsTold_32 : decode cX1_thingsTold 32 = .ok (.putfield 133, 3) := dk_181 0 133 (dk_at dksX1_thingsTold_1 8 rfl rfl)
theorem dX1_thingsTold_35 : decode cX1_thingsTold 35 = .ok (.aload_n 0, 1) := dk_42 (dk_at dksX1_thingsTold_1 11 rfl rfl)
theorem dX1_thingsTold_36 : decode cX1_thingsTold 36 = .ok (.bipush 44, 2) := dk_16 44 (dk_at dksX1_thingsTold_1 12 rfl rfl)
theorem dX1_thingsTold_38 : decode cX1_thingsTold 38 = .ok (.invokevirtual 121, 3) := dk_182 0 121 (dk_at dksX1_thingsTold_1 14 rfl rfl)
theorem dX1_thingsTold_41 : decode cX1_thingsTold 41 = .ok (.ifCond .ne (-29), 3) := dk_154 255 227 (dk_at dksX1_thingsTold_1 17 rfl rfl)
theorem dX1_thingsTold_44 : decode cX1_thingsTold 44 = .ok (.aload_n 0, 1) := dk_42 (dk_at dksX1_thingsTold_1 20 rfl rfl)
theorem dX1_thingsTold_45 : decode cX1_thingsTold 45 = .ok (.aload_n 0, 1) := dk_42 (dk_at dksX1_thingsTold_1 21 rfl rfl)
theorem dX1_thingsTold_46 : decode cX1_thingsTold 46 = .ok (.getfield 113, 3) := dk_180 0 113 (dk_at dksX1_thingsTold_2 0 rfl rfl)
theorem dX1_thingsTold_49 : decode cX1_thingsTold 49 = .ok (.aload_n 0, 1) := dk_42 (dk_at dksX1_thingsTold_2 3 rfl rfl)
theorem dX1_thingsTold_50 : decode cX1_thingsTold 50 = .ok (.getfield 110, 3) := dk_180 0 110 (dk_at dksX1_thingsTold_2 4 rfl rfl)
theorem dX1_thingsTold_53 : decode cX1_thingsTold 53 = .ok (.if_icmp .ne 7, 3) := dk_160 0 7 (dk_at dksX1_thingsTold_2 7 rfl rfl)
theorem dX1_thingsTold_56 : decode cX1_thingsTold 56 = .ok (.iconst 1, 1) := dk_4 (dk_at dksX1_thingsTold_2 10 rfl rfl)
theorem dX1_thingsTold_57 : decode cX1_thingsTold 57 = .ok (.goto 4, 3) := dk_167 0 4 (dk_at dksX1_thingsTold_2 11 rfl rfl)
theorem dX1_thingsTold_60 : decode cX1_thingsTold 60 = .ok (.iconst 0, 1) := dk_3 (dk_at dksX1_thingsTold_2 14 rfl rfl)
theorem dX1_thingsTold_61 : decode cX1_thingsTold 61 = .ok (.invokevirtual 129, 3) := dk_182 0 129 (dk_at dksX1_thingsTold_2 15 rfl rfl)
theorem dX1_thingsTold_64 : decode cX1_thingsTold 64 = .ok (.return_, 1) := dk_177 (dk_at dksX1_thingsTold_2 18 rfl rfl)
abbrev cX1_numberTold : ByteArray := prog_1_method_24_code
def yX1_numberTold : MethodName := ⟨RX1, "numberTold", "()I"⟩
def dkwX1_numberTold_3 : List UInt8 := [167, 255, 212, 27, 28, 104, 172]
abbrev dktX1_numberTold_3 : List UInt8 := dkwX1_numberTold_3 ++ []
def dkwX1_numberTold_2 : List UInt8 := [42, 180, 0, 113, 46, 96, 16, 48, 100, 61, 42, 89, 180, 0, 113, 4, 96, 181, 0, 113, 132, 3, 1]
abbrev dktX1_numberTold_2 : List UInt8 := dkwX1_numberTold_2 ++ dktX1_numberTold_3
def dkwX1_numberTold_1 : List UInt8 := [61, 3, 62, 29, 16, 9, 162, 0, 44, 42, 182, 0, 125, 153, 0, 37, 16, 10, 28, 104, 42, 180, 0, 78]
abbrev dktX1_numberTold_1 : List UInt8 := dkwX1_numberTold_1 ++ dktX1_numberTold_2
def dkwX1_numberTold_0 : List UInt8 := [42, 16, 45, 182, 0, 121, 153, 0, 7, 2, 167, 0, 4, 4, 60, 42, 42, 182, 0, 125, 182, 0, 129, 3]
abbrev dktX1_numberTold_0 : List UInt8 := dkwX1_numberTold_0 ++ dktX1_numberTold_1
theorem dksX1_numberTold_0 : cX1_numberTold.data.toList.drop 0 = dktX1_numberTold_0 := by decide +kernel
theorem dksX1_numberTold_1 : cX1_numberTold.data.toList.drop 24 = dktX1_numberTold_1 := dk_seg dksX1_numberTold_0 24 rfl rfl
theorem dksX1_numberTold_2 : cX1_numberTold.data.toList.drop 48 = dktX1_numberTold_2 := dk_seg dksX1_numberTold_1 24 rfl rfl
theorem dksX1_numberTold_3 : cX1_numberTold.data.toList.drop 71 = dktX1_numberTold_3 := dk_seg dksX1_numberTold_2 23 rfl rfl
theorem dX1_numberTold_0 : decode cX1_numberTold 0 = .ok (.aload_n 0, 1) := dk_42 (dk_at dksX1_numberTold_0 0 rfl rfl)
theorem dX1_numberTold_1 : decode cX1_numberTold 1 = .ok (.bipush 45, 2) := dk_16 45 (dk_at dksX1_numberTold_0 1 rfl rfl)
theorem dX1_numberTold_3 : decode cX1_numberTold 3 = .ok (.invokevirtual 121, 3) := dk_182 0 121 (dk_at dksX1_numberTold_0 3 rfl rfl)
theorem dX1_numberTold_6 : decode cX1_numberTold 6 = .ok (.ifCond .eq 7, 3) := dk_153 0 7 (dk_at dksX1_numberTold_0 6 rfl rfl)
theorem dX1_numberTold_9 : decode cX1_numberTold 9 = .ok (.iconst (-1), 1) := dk_2 (dk_at dksX1_numberTold_0 9 rfl rfl)
theorem dX1_numberTold_10 : decode cX1_numberTold 10 = .ok (.goto 4, 3) := dk_167 0 4 (dk_at dksX1_numberTold_0 10 rfl rfl)
theorem dX1_numberTold_13 : decode cX1_numberTold 13 = .ok (.iconst 1, 1) := dk_4 (dk_at dksX1_numberTold_0 13 rfl rfl)
theorem dX1_numberTold_14 : decode cX1_numberTold 14 = .ok (.istore_n 1, 1) := dk_60 (dk_at dksX1_numberTold_0 14 rfl rfl)
theorem dX1_numberTold_15 : decode cX1_numberTold 15 = .ok (.aload_n 0, 1) := dk_42 (dk_at dksX1_numberTold_0 15 rfl rfl)
theorem dX1_numberTold_16 : decode cX1_numberTold 16 = .ok (.aload_n 0, 1) := dk_42 (dk_at dksX1_numberTold_0 16 rfl rfl)
theorem dX1_numberTold_17 : decode cX1_numberTold 17 = .ok (.invokevirtual 125, 3) := dk_182 0 125 (dk_at dksX1_numberTold_0 17 rfl rfl)
theorem dX1_numberTold_20 : decode cX1_numberTold 20 = .ok (.invokevirtual 129, 3) := dk_182 0 129 (dk_at dksX1_numberTold_0 20 rfl rfl)
theorem dX1_numberTold_23 : decode cX1_numberTold 23 = .ok (.iconst 0, 1) := dk_3 (dk_at dksX1_numberTold_0 23 rfl rfl)
theorem dX1_numberTold_24 : decode cX1_numberTold 24 = .ok (.istore_n 2, 1) := dk_61 (dk_at dksX1_numberTold_1 0 rfl rfl)
theorem dX1_numberTold_25 : decode cX1_numberTold 25 = .ok (.iconst 0, 1) := dk_3 (dk_at dksX1_numberTold_1 1 rfl rfl)
theorem dX1_numberTold_26 : decode cX1_numberTold 26 = .ok (.istore_n 3, 1) := dk_62 (dk_at dksX1_numberTold_1 2 rfl rfl)
theorem dX1_numberTold_27 : decode cX1_numberTold 27 = .ok (.iload_n 3, 1) := dk_29 (dk_at dksX1_numberTold_1 3 rfl rfl)
theorem dX1_numberTold_28 : decode cX1_numberTold 28 = .ok (.bipush 9, 2) := dk_16 9 (dk_at dksX1_numberTold_1 4 rfl rfl)
theorem dX1_numberTold_30 : decode cX1_numberTold 30 = .ok (.if_icmp .ge 44, 3) := dk_162 0 44 (dk_at dksX1_numberTold_1 6 rfl rfl)
theorem dX1_numberTold_33 : decode cX1_numberTold 33 = .ok (.aload_n 0, 1) := dk_42 (dk_at dksX1_numberTold_1 9 rfl rfl)
theorem dX1_numberTold_34 : decode cX1_numberTold 34 = .ok (.invokevirtual 125, 3) := dk_182 0 125 (dk_at dksX1_numberTold_1 10 rfl rfl)
theorem dX1_numberTold_37 : decode cX1_numberTold 37 = .ok (.ifCond .eq 37, 3) := dk_153 0 37 (dk_at dksX1_numberTold_1 13 rfl rfl)
theorem dX1_numberTold_40 : decode cX1_numberTold 40 = .ok (.bipush 10, 2) := dk_16 10 (dk_at dksX1_numberTold_1 16 rfl rfl)
theorem dX1_numberTold_42 : decode cX1_numberTold 42 = .ok (.iload_n 2, 1) := dk_28 (dk_at dksX1_numberTold_1 18 rfl rfl)
theorem dX1_numberTold_43 : decode cX1_numberTold 43 = .ok (.imul, 1) := dk_104 (dk_at dksX1_numberTold_1 19 rfl rfl)
theorem dX1_numberTold_44 : decode cX1_numberTold 44 = .ok (.aload_n 0, 1) := dk_42 (dk_at dksX1_numberTold_1 20 rfl rfl)
theorem dX1_numberTold_45 : decode cX1_numberTold 45 = .ok (.getfield 78, 3) := dk_180 0 78 (dk_at dksX1_numberTold_1 21 rfl rfl)
theorem dX1_numberTold_48 : decode cX1_numberTold 48 = .ok (.aload_n 0, 1) := dk_42 (dk_at dksX1_numberTold_2 0 rfl rfl)
theorem dX1_numberTold_49 : decode cX1_numberTold 49 = .ok (.getfield 113, 3) := dk_180 0 113 (dk_at dksX1_numberTold_2 1 rfl rfl)
theorem dX1_numberTold_52 : decode cX1_numberTold 52 = .ok (.iaload, 1) := dk_46 (dk_at dksX1_numberTold_2 4 rfl rfl)
theorem dX1_numberTold_53 : decode cX1_numberTold 53 = .ok (.iadd, 1) := dk_96 (dk_at dksX1_numberTold_2 5 rfl rfl)
theorem dX1_numberTold_54 : decode cX1_numberTold 54 = .ok (.bipush 48, 2) := dk_16 48 (dk_at dksX1_numberTold_2 6 rfl rfl)
theorem dX1_numberTold_56 : decode cX1_numberTold 56 = .ok (.isub, 1) := dk_100 (dk_at dksX1_numberTold_2 8 rfl rfl)
theorem dX1_numberTold_57 : decode cX1_numberTold 57 = .ok (.istore_n 2, 1) := dk_61 (dk_at dksX1_numberTold_2 9 rfl rfl)
theorem dX1_numberTold_58 : decode cX1_numberTold 58 = .ok (.aload_n 0, 1) := dk_42 (dk_at dksX1_numberTold_2 10 rfl rfl)
theorem dX1_numberTold_59 : decode cX1_numberTold 59 = .ok (.dup, 1) := dk_89 (dk_at dksX1_numberTold_2 11 rfl rfl)
theorem dX1_numberTold_60 : decode cX1_numberTold 60 = .ok (.getfield 113, 3) := dk_180 0 113 (dk_at dksX1_numberTold_2 12 rfl rfl)
theorem dX1_numberTold_63 : decode cX1_numberTold 63 = .ok (.iconst 1, 1) := dk_4 (dk_at dksX1_numberTold_2 15 rfl rfl)
theorem dX1_numberTold_64 : decode cX1_numberTold 64 = .ok (.iadd, 1) := dk_96 (dk_at dksX1_numberTold_2 16 rfl rfl)
theorem dX1_numberTold_65 : decode cX1_numberTold 65 = .ok (.putfield 113, 3) := dk_181 0 113 (dk_at dksX1_numberTold_2 17 rfl rfl)
theorem dX1_numberTold_68 : decode cX1_numberTold 68 = .ok (.iinc 3 1, 3) := dk_132 3 1 (dk_at dksX1_numberTold_2 20 rfl rfl)
theorem dX1_numberTold_71 : decode cX1_numberTold 71 = .ok (.goto (-44), 3) := dk_167 255 212 (dk_at dksX1_numberTold_3 0 rfl rfl)
theorem dX1_numberTold_74 : decode cX1_numberTold 74 = .ok (.iload_n 1, 1) := dk_27 (dk_at dksX1_numberTold_3 3 rfl rfl)
theorem dX1_numberTold_75 : decode cX1_numberTold 75 = .ok (.iload_n 2, 1) := dk_28 (dk_at dksX1_numberTold_3 4 rfl rfl)
theorem dX1_numberTold_76 : decode cX1_numberTold 76 = .ok (.imul, 1) := dk_104 (dk_at dksX1_numberTold_3 5 rfl rfl)
theorem dX1_numberTold_77 : decode cX1_numberTold 77 = .ok (.ireturn, 1) := dk_172 (dk_at dksX1_numberTold_3 6 rfl rfl)
abbrev cX1_takes : ByteArray := prog_1_method_20_code
def yX1_takes : MethodName := ⟨RX1, "takes", "(C)Z"⟩
def dkwX1_takes_2 : List UInt8 := [28, 172]
abbrev dktX1_takes_2 : List UInt8 := dkwX1_takes_2 ++ []
def dkwX1_takes_1 : List UInt8 := [4, 167, 0, 4, 3, 61, 42, 89, 180, 0, 113, 28, 153, 0, 7, 4, 167, 0, 4, 3, 96, 181, 0, 113]
abbrev dktX1_takes_1 : List UInt8 := dkwX1_takes_1 ++ dktX1_takes_2
def dkwX1_takes_0 : List UInt8 := [42, 180, 0, 113, 42, 180, 0, 110, 162, 0, 20, 42, 180, 0, 78, 42, 180, 0, 113, 46, 27, 160, 0, 7]
abbrev dktX1_takes_0 : List UInt8 := dkwX1_takes_0 ++ dktX1_takes_1
theorem dksX1_takes_0 : cX1_takes.data.toList.drop 0 = dktX1_takes_0 := by decide +kernel
theorem dksX1_takes_1 : cX1_takes.data.toList.drop 24 = dktX1_takes_1 := dk_seg dksX1_takes_0 24 rfl rfl
theorem dksX1_takes_2 : cX1_takes.data.toList.drop 48 = dktX1_takes_2 := dk_seg dksX1_takes_1 24 rfl rfl
theorem dX1_takes_0 : decode cX1_takes 0 = .ok (.aload_n 0, 1) := dk_42 (dk_at dksX1_takes_0 0 rfl rfl)
theorem dX1_takes_1 : decode cX1_takes 1 = .ok (.getfield 113, 3) := dk_180 0 113 (dk_at dksX1_takes_0 1 rfl rfl)
theorem dX1_takes_4 : decode cX1_takes 4 = .ok (.aload_n 0, 1) := dk_42 (dk_at dksX1_takes_0 4 rfl rfl)
theorem dX1_takes_5 : decode cX1_takes 5 = .ok (.getfield 110, 3) := dk_180 0 110 (dk_at dksX1_takes_0 5 rfl rfl)
theorem dX1_takes_8 : decode cX1_takes 8 = .ok (.if_icmp .ge 20, 3) := dk_162 0 20 (dk_at dksX1_takes_0 8 rfl rfl)
theorem dX1_takes_11 : decode cX1_takes 11 = .ok (.aload_n 0, 1) := dk_42 (dk_at dksX1_takes_0 11 rfl rfl)
theorem dX1_takes_12 : decode cX1_takes 12 = .ok (.getfield 78, 3) := dk_180 0 78 (dk_at dksX1_takes_0 12 rfl rfl)
theorem dX1_takes_15 : decode cX1_takes 15 = .ok (.aload_n 0, 1) := dk_42 (dk_at dksX1_takes_0 15 rfl rfl)
theorem dX1_takes_16 : decode cX1_takes 16 = .ok (.getfield 113, 3) := dk_180 0 113 (dk_at dksX1_takes_0 16 rfl rfl)
theorem dX1_takes_19 : decode cX1_takes 19 = .ok (.iaload, 1) := dk_46 (dk_at dksX1_takes_0 19 rfl rfl)
theorem dX1_takes_20 : decode cX1_takes 20 = .ok (.iload_n 1, 1) := dk_27 (dk_at dksX1_takes_0 20 rfl rfl)
theorem dX1_takes_21 : decode cX1_takes 21 = .ok (.if_icmp .ne 7, 3) := dk_160 0 7 (dk_at dksX1_takes_0 21 rfl rfl)
theorem dX1_takes_24 : decode cX1_takes 24 = .ok (.iconst 1, 1) := dk_4 (dk_at dksX1_takes_1 0 rfl rfl)
theorem dX1_takes_25 : decode cX1_takes 25 = .ok (.goto 4, 3) := dk_167 0 4 (dk_at dksX1_takes_1 1 rfl rfl)
theorem dX1_takes_28 : decode cX1_takes 28 = .ok (.iconst 0, 1) := dk_3 (dk_at dksX1_takes_1 4 rfl rfl)
theorem dX1_takes_29 : decode cX1_takes 29 = .ok (.istore_n 2, 1) := dk_61 (dk_at dksX1_takes_1 5 rfl rfl)
theorem dX1_takes_30 : decode cX1_takes 30 = .ok (.aload_n 0, 1) := dk_42 (dk_at dksX1_takes_1 6 rfl rfl)
theorem dX1_takes_31 : decode cX1_takes 31 = .ok (.dup, 1) := dk_89 (dk_at dksX1_takes_1 7 rfl rfl)
theorem dX1_takes_32 : decode cX1_takes 32 = .ok (.getfield 113, 3) := dk_180 0 113 (dk_at dksX1_takes_1 8 rfl rfl)
theorem dX1_takes_35 : decode cX1_takes 35 = .ok (.iload_n 2, 1) := dk_28 (dk_at dksX1_takes_1 11 rfl rfl)
theorem dX1_takes_36 : decode cX1_takes 36 = .ok (.ifCond .eq 7, 3) := dk_153 0 7 (dk_at dksX1_takes_1 12 rfl rfl)
theorem dX1_takes_39 : decode cX1_takes 39 = .ok (.iconst 1, 1) := dk_4 (dk_at dksX1_takes_1 15 rfl rfl)
theorem dX1_takes_40 : decode cX1_takes 40 = .ok (.goto 4, 3) := dk_167 0 4 (dk_at dksX1_takes_1 16 rfl rfl)
theorem dX1_takes_43 : decode cX1_takes 43 = .ok (.iconst 0, 1) := dk_3 (dk_at dksX1_takes_1 19 rfl rfl)
theorem dX1_takes_44 : decode cX1_takes 44 = .ok (.iadd, 1) := dk_96 (dk_at dksX1_takes_1 20 rfl rfl)
theorem dX1_takes_45 : decode cX1_takes 45 = .ok (.putfield 113, 3) := dk_181 0 113 (dk_at dksX1_takes_1 21 rfl rfl)
theorem dX1_takes_48 : decode cX1_takes 48 = .ok (.iload_n 2, 1) := dk_28 (dk_at dksX1_takes_2 0 rfl rfl)
theorem dX1_takes_49 : decode cX1_takes 49 = .ok (.ireturn, 1) := dk_172 (dk_at dksX1_takes_2 1 rfl rfl)
abbrev cX1_isDigit : ByteArray := prog_1_method_22_code
def yX1_isDigit : MethodName := ⟨RX1, "isDigit", "()Z"⟩
def dkwX1_isDigit_1 : List UInt8 := [20, 0, 119, 184, 0, 7, 153, 0, 7, 4, 167, 0, 4, 3, 172]
abbrev dktX1_isDigit_1 : List UInt8 := dkwX1_isDigit_1 ++ []
def dkwX1_isDigit_0 : List UInt8 := [42, 180, 0, 113, 42, 180, 0, 110, 162, 0, 29, 42, 180, 0, 78, 42, 180, 0, 113, 46, 133, 20, 0, 96]
abbrev dktX1_isDigit_0 : List UInt8 := dkwX1_isDigit_0 ++ dktX1_isDigit_1
theorem dksX1_isDigit_0 : cX1_isDigit.data.toList.drop 0 = dktX1_isDigit_0 := by decide +kernel
theorem dksX1_isDigit_1 : cX1_isDigit.data.toList.drop 24 = dktX1_isDigit_1 := dk_seg dksX1_isDigit_0 24 rfl rfl
theorem dX1_isDigit_0 : decode cX1_isDigit 0 = .ok (.aload_n 0, 1) := dk_42 (dk_at dksX1_isDigit_0 0 rfl rfl)
theorem dX1_isDigit_1 : decode cX1_isDigit 1 = .ok (.getfield 113, 3) := dk_180 0 113 (dk_at dksX1_isDigit_0 1 rfl rfl)
theorem dX1_isDigit_4 : decode cX1_isDigit 4 = .ok (.aload_n 0, 1) := dk_42 (dk_at dksX1_isDigit_0 4 rfl rfl)
theorem dX1_isDigit_5 : decode cX1_isDigit 5 = .ok (.getfield 110, 3) := dk_180 0 110 (dk_at dksX1_isDigit_0 5 rfl rfl)
theorem dX1_isDigit_8 : decode cX1_isDigit 8 = .ok (.if_icmp .ge 29, 3) := dk_162 0 29 (dk_at dksX1_isDigit_0 8 rfl rfl)
theorem dX1_isDigit_11 : decode cX1_isDigit 11 = .ok (.aload_n 0, 1) := dk_42 (dk_at dksX1_isDigit_0 11 rfl rfl)
theorem dX1_isDigit_12 : decode cX1_isDigit 12 = .ok (.getfield 78, 3) := dk_180 0 78 (dk_at dksX1_isDigit_0 12 rfl rfl)
theorem dX1_isDigit_15 : decode cX1_isDigit 15 = .ok (.aload_n 0, 1) := dk_42 (dk_at dksX1_isDigit_0 15 rfl rfl)
theorem dX1_isDigit_16 : decode cX1_isDigit 16 = .ok (.getfield 113, 3) := dk_180 0 113 (dk_at dksX1_isDigit_0 16 rfl rfl)
theorem dX1_isDigit_19 : decode cX1_isDigit 19 = .ok (.iaload, 1) := dk_46 (dk_at dksX1_isDigit_0 19 rfl rfl)
theorem dX1_isDigit_20 : decode cX1_isDigit 20 = .ok (.i2l, 1) := dk_133 (dk_at dksX1_isDigit_0 20 rfl rfl)
theorem dX1_isDigit_21 : decode cX1_isDigit 21 = .ok (.ldc2_w 96, 3) := dk_20 0 96 (dk_at dksX1_isDigit_0 21 rfl rfl)
theorem dX1_isDigit_24 : decode cX1_isDigit 24 = .ok (.ldc2_w 119, 3) := dk_20 0 119 (dk_at dksX1_isDigit_1 0 rfl rfl)
theorem dX1_isDigit_27 : decode cX1_isDigit 27 = .ok (.invokestatic 7, 3) := dk_184 0 7 (dk_at dksX1_isDigit_1 3 rfl rfl)
theorem dX1_isDigit_30 : decode cX1_isDigit 30 = .ok (.ifCond .eq 7, 3) := dk_153 0 7 (dk_at dksX1_isDigit_1 6 rfl rfl)
theorem dX1_isDigit_33 : decode cX1_isDigit 33 = .ok (.iconst 1, 1) := dk_4 (dk_at dksX1_isDigit_1 9 rfl rfl)
theorem dX1_isDigit_34 : decode cX1_isDigit 34 = .ok (.goto 4, 3) := dk_167 0 4 (dk_at dksX1_isDigit_1 10 rfl rfl)
theorem dX1_isDigit_37 : decode cX1_isDigit 37 = .ok (.iconst 0, 1) := dk_3 (dk_at dksX1_isDigit_1 13 rfl rfl)
theorem dX1_isDigit_38 : decode cX1_isDigit 38 = .ok (.ireturn, 1) := dk_172 (dk_at dksX1_isDigit_1 14 rfl rfl)
abbrev cX1_must : ByteArray := prog_1_method_21_code
def yX1_must : MethodName := ⟨RX1, "must", "(Z)V"⟩
def dkwX1_must_0 : List UInt8 := [27, 154, 0, 11, 187, 0, 116, 89, 183, 0, 118, 191, 177]
abbrev dktX1_must_0 : List UInt8 := dkwX1_must_0 ++ []
theorem dksX1_must_0 : cX1_must.data.toList.drop 0 = dktX1_must_0 := by decide +kernel
theorem dX1_must_0 : decode cX1_must 0 = .ok (.iload_n 1, 1) := dk_27 (dk_at dksX1_must_0 0 rfl rfl)
theorem dX1_must_1 : decode cX1_must 1 = .ok (.ifCond .ne 11, 3) := dk_154 0 11 (dk_at dksX1_must_0 1 rfl rfl)
theorem dX1_must_4 : decode cX1_must 4 = .ok (.new 116, 3) := dk_187 0 116 (dk_at dksX1_must_0 4 rfl rfl)
theorem dX1_must_7 : decode cX1_must 7 = .ok (.dup, 1) := dk_89 (dk_at dksX1_must_0 7 rfl rfl)
theorem dX1_must_8 : decode cX1_must 8 = .ok (.invokespecial 118, 3) := dk_183 0 118 (dk_at dksX1_must_0 8 rfl rfl)
theorem dX1_must_11 : decode cX1_must 11 = .ok (.athrow, 1) := dk_191 (dk_at dksX1_must_0 11 rfl rfl)
theorem dX1_must_12 : decode cX1_must 12 = .ok (.return_, 1) := dk_177 (dk_at dksX1_must_0 12 rfl rfl)
abbrev cX1_wrong : ByteArray := prog_1_method_23_code
def yX1_wrong : MethodName := ⟨RX1, "wrong", "()I"⟩
def dkwX1_wrong_0 : List UInt8 := [17, 248, 48, 42, 180, 0, 113, 100, 172]
abbrev dktX1_wrong_0 : List UInt8 := dkwX1_wrong_0 ++ []
theorem dksX1_wrong_0 : cX1_wrong.data.toList.drop 0 = dktX1_wrong_0 := by decide +kernel
theorem dX1_wrong_0 : decode cX1_wrong 0 = .ok (.sipush (-2000), 3) := dk_17 248 48 (dk_at dksX1_wrong_0 0 rfl rfl)
theorem dX1_wrong_3 : decode cX1_wrong 3 = .ok (.aload_n 0, 1) := dk_42 (dk_at dksX1_wrong_0 3 rfl rfl)
theorem dX1_wrong_4 : decode cX1_wrong 4 = .ok (.getfield 113, 3) := dk_180 0 113 (dk_at dksX1_wrong_0 4 rfl rfl)
theorem dX1_wrong_7 : decode cX1_wrong 7 = .ok (.isub, 1) := dk_100 (dk_at dksX1_wrong_0 7 rfl rfl)
theorem dX1_wrong_8 : decode cX1_wrong 8 = .ok (.ireturn, 1) := dk_172 (dk_at dksX1_wrong_0 8 rfl rfl)
abbrev cX1_replays : ByteArray := prog_1_method_27_code
def yX1_replays : MethodName := ⟨RX1, "replays", "(I)I"⟩
def dkwX1_replays_4 : List UInt8 := [132, 5, 1, 167, 255, 197, 42, 4, 188, 11, 89, 3, 33, 80, 182, 0, 44, 28, 172]
abbrev dktX1_replays_4 : List UInt8 := dkwX1_replays_4 ++ []
def dkwX1_replays_3 : List UInt8 := [167, 0, 24, 132, 2, 1, 33, 21, 5, 16, 60, 162, 0, 10, 10, 21, 5, 121, 167, 0, 4, 9, 129, 66]
abbrev dktX1_replays_3 : List UInt8 := dkwX1_replays_3 ++ dktX1_replays_4
def dkwX1_replays_2 : List UInt8 := [42, 180, 0, 71, 27, 50, 42, 42, 180, 0, 81, 21, 5, 46, 182, 0, 34, 182, 0, 148, 154, 0, 6]
abbrev dktX1_replays_2 : List UInt8 := dkwX1_replays_2 ++ dktX1_replays_3
def dkwX1_replays_1 : List UInt8 := [184, 0, 92, 154, 0, 5, 2, 172, 3, 61, 9, 66, 3, 54, 5, 21, 5, 42, 180, 0, 133, 162, 0, 56]
abbrev dktX1_replays_1 : List UInt8 := dkwX1_replays_1 ++ dktX1_replays_2
def dkwX1_replays_0 : List UInt8 := [42, 182, 0, 139, 42, 182, 0, 142, 167, 0, 9, 77, 42, 182, 0, 145, 172, 4, 188, 10, 89, 3, 27, 79]
abbrev dktX1_replays_0 : List UInt8 := dkwX1_replays_0 ++ dktX1_replays_1
theorem dksX1_replays_0 : cX1_replays.data.toList.drop 0 = dktX1_replays_0 := by decide +kernel
theorem dksX1_replays_1 : cX1_replays.data.toList.drop 24 = dktX1_replays_1 := dk_seg dksX1_replays_0 24 rfl rfl
theorem dksX1_replays_2 : cX1_replays.data.toList.drop 48 = dktX1_replays_2 := dk_seg dksX1_replays_1 24 rfl rfl
theorem dksX1_replays_3 : cX1_replays.data.toList.drop 71 = dktX1_replays_3 := dk_seg dksX1_replays_2 23 rfl rfl
theorem dksX1_replays_4 : cX1_replays.data.toList.drop 95 = dktX1_replays_4 := dk_seg dksX1_replays_3 24 rfl rfl
theorem dX1_replays_0 : decode cX1_replays 0 = .ok (.aload_n 0, 1) := dk_42 (dk_at dksX1_replays_0 0 rfl rfl)
theorem dX1_replays_1 : decode cX1_replays 1 = .ok (.invokevirtual 139, 3) := dk_182 0 139 (dk_at dksX1_replays_0 1 rfl rfl)
theorem dX1_replays_4 : decode cX1_replays 4 = .ok (.aload_n 0, 1) := dk_42 (dk_at dksX1_replays_0 4 rfl rfl)
theorem dX1_replays_5 : decode cX1_replays 5 = .ok (.invokevirtual 142, 3) := dk_182 0 142 (dk_at dksX1_replays_0 5 rfl rfl)
theorem dX1_replays_8 : decode cX1_replays 8 = .ok (.goto 9, 3) := dk_167 0 9 (dk_at dksX1_replays_0 8 rfl rfl)
theorem dX1_replays_11 : decode cX1_replays 11 = .ok (.astore_n 2, 1) := dk_77 (dk_at dksX1_replays_0 11 rfl rfl)
theorem dX1_replays_12 : decode cX1_replays 12 = .ok (.aload_n 0, 1) := dk_42 (dk_at dksX1_replays_0 12 rfl rfl)
theorem dX1_replays_13 : decode cX1_replays 13 = .ok (.invokevirtual 145, 3) := dk_182 0 145 (dk_at dksX1_replays_0 13 rfl rfl)
theorem dX1_replays_16 : decode cX1_replays 16 = .ok (.ireturn, 1) := dk_172 (dk_at dksX1_replays_0 16 rfl rfl)
theorem dX1_replays_17 : decode cX1_replays 17 = .ok (.iconst 1, 1) := dk_4 (dk_at dksX1_replays_0 17 rfl rfl)
theorem dX1_replays_18 : decode cX1_replays 18 = .ok (.newarray .int, 2) := dk_188_10 (dk_at dksX1_replays_0 18 rfl rfl)
theorem dX1_replays_20 : decode cX1_replays 20 = .ok (.dup, 1) := dk_89 (dk_at dksX1_replays_0 20 rfl rfl)
theorem dX1_replays_21 : decode cX1_replays 21 = .ok (.iconst 0, 1) := dk_3 (dk_at dksX1_replays_0 21 rfl rfl)
theorem dX1_replays_22 : decode cX1_replays 22 = .ok (.iload_n 1, 1) := dk_27 (dk_at dksX1_replays_0 22 rfl rfl)
theorem dX1_replays_23 : decode cX1_replays 23 = .ok (.iastore, 1) := dk_79 (dk_at dksX1_replays_0 23 rfl rfl)
theorem dX1_replays_24 : decode cX1_replays 24 = .ok (.invokestatic 92, 3) := dk_184 0 92 (dk_at dksX1_replays_1 0 rfl rfl)
theorem dX1_replays_27 : decode cX1_replays 27 = .ok (.ifCond .ne 5, 3) := dk_154 0 5 (dk_at dksX1_replays_1 3 rfl rfl)
theorem dX1_replays_30 : decode cX1_replays 30 = .ok (.iconst (-1), 1) := dk_2 (dk_at dksX1_replays_1 6 rfl rfl)
theorem dX1_replays_31 : decode cX1_replays 31 = .ok (.ireturn, 1) := dk_172 (dk_at dksX1_replays_1 7 rfl rfl)
theorem dX1_replays_32 : decode cX1_replays 32 = .ok (.iconst 0, 1) := dk_3 (dk_at dksX1_replays_1 8 rfl rfl)
theorem dX1_replays_33 : decode cX1_replays 33 = .ok (.istore_n 2, 1) := dk_61 (dk_at dksX1_replays_1 9 rfl rfl)
theorem dX1_replays_34 : decode cX1_replays 34 = .ok (.lconst 0, 1) := dk_9 (dk_at dksX1_replays_1 10 rfl rfl)
theorem dX1_replays_35 : decode cX1_replays 35 = .ok (.lstore_n 3, 1) := dk_66 (dk_at dksX1_replays_1 11 rfl rfl)
theorem dX1_replays_36 : decode cX1_replays 36 = .ok (.iconst 0, 1) := dk_3 (dk_at dksX1_replays_1 12 rfl rfl)
theorem dX1_replays_37 : decode cX1_replays 37 = .ok (.istore 5, 2) := dk_54 5 (dk_at dksX1_replays_1 13 rfl rfl)
theorem dX1_replays_39 : decode cX1_replays 39 = .ok (.iload 5, 2) := dk_21 5 (dk_at dksX1_replays_1 15 rfl rfl)
theorem dX1_replays_41 : decode cX1_replays 41 = .ok (.aload_n 0, 1) := dk_42 (dk_at dksX1_replays_1 17 rfl rfl)
theorem dX1_replays_42 : decode cX1_replays 42 = .ok (.getfield 133, 3) := dk_180 0 133 (dk_at dksX1_replays_1 18 rfl rfl)
theorem dX1_replays_45 : decode cX1_replays 45 = .ok (.if_icmp .ge 56, 3) := dk_162 0 56 (dk_at dksX1_replays_1 21 rfl rfl)
theorem dX1_replays_48 : decode cX1_replays 48 = .ok (.aload_n 0, 1) := dk_42 (dk_at dksX1_replays_2 0 rfl rfl)
theorem dX1_replays_49 : decode cX1_replays 49 = .ok (.getfield 71, 3) := dk_180 0 71 (dk_at dksX1_replays_2 1 rfl rfl)
theorem dX1_replays_52 : decode cX1_replays 52 = .ok (.iload_n 1, 1) := dk_27 (dk_at dksX1_replays_2 4 rfl rfl)
theorem dX1_replays_53 : decode cX1_replays 53 = .ok (.aaload, 1) := dk_50 (dk_at dksX1_replays_2 5 rfl rfl)
theorem dX1_replays_54 : decode cX1_replays 54 = .ok (.aload_n 0, 1) := dk_42 (dk_at dksX1_replays_2 6 rfl rfl)
theorem dX1_replays_55 : decode cX1_replays 55 = .ok (.aload_n 0, 1) := dk_42 (dk_at dksX1_replays_2 7 rfl rfl)
theorem dX1_replays_56 : decode cX1_replays 56 = .ok (.getfield 81, 3) := dk_180 0 81 (dk_at dksX1_replays_2 8 rfl rfl)
theorem dX1_replays_59 : decode cX1_replays 59 = .ok (.iload 5, 2) := dk_21 5 (dk_at dksX1_replays_2 11 rfl rfl)
theorem dX1_replays_61 : decode cX1_replays 61 = .ok (.iaload, 1) := dk_46 (dk_at dksX1_replays_2 13 rfl rfl)
theorem dX1_replays_62 : decode cX1_replays 62 = .ok (.invokevirtual 34, 3) := dk_182 0 34 (dk_at dksX1_replays_2 14 rfl rfl)
theorem dX1_replays_65 : decode cX1_replays 65 = .ok (.invokevirtual 148, 3) := dk_182 0 148 (dk_at dksX1_replays_2 17 rfl rfl)
theorem dX1_replays_68 : decode cX1_replays 68 = .ok (.ifCond .ne 6, 3) := dk_154 0 6 (dk_at dksX1_replays_2 20 rfl rfl)
theorem dX1_replays_71 : decode cX1_replays 71 = .ok (.goto 24, 3) := dk_167 0 24 (dk_at dksX1_replays_3 0 rfl rfl)
theorem dX1_replays_74 : decode cX1_replays 74 = .ok (.iinc 2 1, 3) := dk_132 2 1 (dk_at dksX1_replays_3 3 rfl rfl)
theorem dX1_replays_77 : decode cX1_replays 77 = .ok (.lload_n 3, 1) := dk_33 (dk_at dksX1_replays_3 6 rfl rfl)
theorem dX1_replays_78 : decode cX1_replays 78 = .ok (.iload 5, 2) := dk_21 5 (dk_at dksX1_replays_3 7 rfl rfl)
theorem dX1_replays_80 : decode cX1_replays 80 = .ok (.bipush 60, 2) := dk_16 60 (dk_at dksX1_replays_3 9 rfl rfl)
theorem dX1_replays_82 : decode cX1_replays 82 = .ok (.if_icmp .ge 10, 3) := dk_162 0 10 (dk_at dksX1_replays_3 11 rfl rfl)
theorem dX1_replays_85 : decode cX1_replays 85 = .ok (.lconst 1, 1) := dk_10 (dk_at dksX1_replays_3 14 rfl rfl)
theorem dX1_replays_86 : decode cX1_replays 86 = .ok (.iload 5, 2) := dk_21 5 (dk_at dksX1_replays_3 15 rfl rfl)
theorem dX1_replays_88 : decode cX1_replays 88 = .ok (.lshl, 1) := dk_121 (dk_at dksX1_replays_3 17 rfl rfl)
theorem dX1_replays_89 : decode cX1_replays 89 = .ok (.goto 4, 3) := dk_167 0 4 (dk_at dksX1_replays_3 18 rfl rfl)
theorem dX1_replays_92 : decode cX1_replays 92 = .ok (.lconst 0, 1) := dk_9 (dk_at dksX1_replays_3 21 rfl rfl)
theorem dX1_replays_93 : decode cX1_replays 93 = .ok (.lor, 1) := dk_129 (dk_at dksX1_replays_3 22 rfl rfl)
theorem dX1_replays_94 : decode cX1_replays 94 = .ok (.lstore_n 3, 1) := dk_66 (dk_at dksX1_replays_3 23 rfl rfl)
theorem dX1_replays_95 : decode cX1_replays 95 = .ok (.iinc 5 1, 3) := dk_132 5 1 (dk_at dksX1_replays_4 0 rfl rfl)
theorem dX1_replays_98 : decode cX1_replays 98 = .ok (.goto (-59), 3) := dk_167 255 197 (dk_at dksX1_replays_4 3 rfl rfl)
theorem dX1_replays_101 : decode cX1_replays 101 = .ok (.aload_n 0, 1) := dk_42 (dk_at dksX1_replays_4 6 rfl rfl)
theorem dX1_replays_102 : decode cX1_replays 102 = .ok (.iconst 1, 1) := dk_4 (dk_at dksX1_replays_4 7 rfl rfl)
theorem dX1_replays_103 : decode cX1_replays 103 = .ok (.newarray .long, 2) := dk_188_11 (dk_at dksX1_replays_4 8 rfl rfl)
theorem dX1_replays_105 : decode cX1_replays 105 = .ok (.dup, 1) := dk_89 (dk_at dksX1_replays_4 10 rfl rfl)
theorem dX1_replays_106 : decode cX1_replays 106 = .ok (.iconst 0, 1) := dk_3 (dk_at dksX1_replays_4 11 rfl rfl)
theorem dX1_replays_107 : decode cX1_replays 107 = .ok (.lload_n 3, 1) := dk_33 (dk_at dksX1_replays_4 12 rfl rfl)
theorem dX1_replays_108 : decode cX1_replays 108 = .ok (.lastore, 1) := dk_80 (dk_at dksX1_replays_4 13 rfl rfl)
theorem dX1_replays_109 : decode cX1_replays 109 = .ok (.invokevirtual 44, 3) := dk_182 0 44 (dk_at dksX1_replays_4 14 rfl rfl)
theorem dX1_replays_112 : decode cX1_replays 112 = .ok (.iload_n 2, 1) := dk_28 (dk_at dksX1_replays_4 17 rfl rfl)
theorem dX1_replays_113 : decode cX1_replays 113 = .ok (.ireturn, 1) := dk_172 (dk_at dksX1_replays_4 18 rfl rfl)
abbrev cX1_takes_2 : ByteArray := prog_1_method_28_code
def yX1_takes_2 : MethodName := ⟨RX1, "takes", "(II)I"⟩
def dkwX1_takes_2_2 : List UInt8 := [153, 0, 7, 4, 167, 0, 4, 3, 172]
abbrev dktX1_takes_2_2 : List UInt8 := dkwX1_takes_2_2 ++ []
def dkwX1_takes_2_1 : List UInt8 := [153, 0, 8, 16, 254, 167, 0, 25, 42, 180, 0, 71, 27, 50, 42, 28, 182, 0, 34, 182, 0, 155]
abbrev dktX1_takes_2_1 : List UInt8 := dkwX1_takes_2_1 ++ dktX1_takes_2_2
def dkwX1_takes_2_0 : List UInt8 := [4, 188, 10, 89, 3, 27, 79, 184, 0, 92, 154, 0, 5, 2, 172, 42, 180, 0, 71, 27, 50, 180, 0, 151]
abbrev dktX1_takes_2_0 : List UInt8 := dkwX1_takes_2_0 ++ dktX1_takes_2_1
theorem dksX1_takes_2_0 : cX1_takes_2.data.toList.drop 0 = dktX1_takes_2_0 := by decide +kernel
theorem dksX1_takes_2_1 : cX1_takes_2.data.toList.drop 24 = dktX1_takes_2_1 := dk_seg dksX1_takes_2_0 24 rfl rfl
theorem dksX1_takes_2_2 : cX1_takes_2.data.toList.drop 46 = dktX1_takes_2_2 := dk_seg dksX1_takes_2_1 22 rfl rfl
theorem dX1_takes_2_0 : decode cX1_takes_2 0 = .ok (.iconst 1, 1) := dk_4 (dk_at dksX1_takes_2_0 0 rfl rfl)
theorem dX1_takes_2_1 : decode cX1_takes_2 1 = .ok (.newarray .int, 2) := dk_188_10 (dk_at dksX1_takes_2_0 1 rfl rfl)
theorem dX1_takes_2_3 : decode cX1_takes_2 3 = .ok (.dup, 1) := dk_89 (dk_at dksX1_takes_2_0 3 rfl rfl)
theorem dX1_takes_2_4 : decode cX1_takes_2 4 = .ok (.iconst 0, 1) := dk_3 (dk_at dksX1_takes_2_0 4 rfl rfl)
theorem dX1_takes_2_5 : decode cX1_takes_2 5 = .ok (.iload_n 1, 1) := dk_27 (dk_at dksX1_takes_2_0 5 rfl rfl)
theorem dX1_takes_2_6 : decode cX1_takes_2 6 = .ok (.iastore, 1) := dk_79 (dk_at dksX1_takes_2_0 6 rfl rfl)
theorem dX1_takes_2_7 : decode cX1_takes_2 7 = .ok (.invokestatic 92, 3) := dk_184 0 92 (dk_at dksX1_takes_2_0 7 rfl rfl)
theorem dX1_takes_2_10 : decode cX1_takes_2 10 = .ok (.ifCond .ne 5, 3) := dk_154 0 5 (dk_at dksX1_takes_2_0 10 rfl rfl)
theorem dX1_takes_2_13 : decode cX1_takes_2 13 = .ok (.iconst (-1), 1) := dk_2 (dk_at dksX1_takes_2_0 13 rfl rfl)
theorem dX1_takes_2_14 : decode cX1_takes_2 14 = .ok (.ireturn, 1) := dk_172 (dk_at dksX1_takes_2_0 14 rfl rfl)
theorem dX1_takes_2_15 : decode cX1_takes_2 15 = .ok (.aload_n 0, 1) := dk_42 (dk_at dksX1_takes_2_0 15 rfl rfl)
theorem dX1_takes_2_16 : decode cX1_takes_2 16 = .ok (.getfield 71, 3) := dk_180 0 71 (dk_at dksX1_takes_2_0 16 rfl rfl)
theorem dX1_takes_2_19 : decode cX1_takes_2 19 = .ok (.iload_n 1, 1) := dk_27 (dk_at dksX1_takes_2_0 19 rfl rfl)
theorem dX1_takes_2_20 : decode cX1_takes_2 20 = .ok (.aaload, 1) := dk_50 (dk_at dksX1_takes_2_0 20 rfl rfl)
theorem dX1_takes_2_21 : decode cX1_takes_2 21 = .ok (.getfield 151, 3) := dk_180 0 151 (dk_at dksX1_takes_2_0 21 rfl rfl)
theorem dX1_takes_2_24 : decode cX1_takes_2 24 = .ok (.ifCond .eq 8, 3) := dk_153 0 8 (dk_at dksX1_takes_2_1 0 rfl rfl)
theorem dX1_takes_2_27 : decode cX1_takes_2 27 = .ok (.bipush (-2), 2) := dk_16 254 (dk_at dksX1_takes_2_1 3 rfl rfl)
theorem dX1_takes_2_29 : decode cX1_takes_2 29 = .ok (.goto 25, 3) := dk_167 0 25 (dk_at dksX1_takes_2_1 5 rfl rfl)
theorem dX1_takes_2_32 : decode cX1_takes_2 32 = .ok (.aload_n 0, 1) := dk_42 (dk_at dksX1_takes_2_1 8 rfl rfl)
theorem dX1_takes_2_33 : decode cX1_takes_2 33 = .ok (.getfield 71, 3) := dk_180 0 71 (dk_at dksX1_takes_2_1 9 rfl rfl)
theorem dX1_takes_2_36 : decode cX1_takes_2 36 = .ok (.iload_n 1, 1) := dk_27 (dk_at dksX1_takes_2_1 12 rfl rfl)
theorem dX1_takes_2_37 : decode cX1_takes_2 37 = .ok (.aaload, 1) := dk_50 (dk_at dksX1_takes_2_1 13 rfl rfl)
theorem dX1_takes_2_38 : decode cX1_takes_2 38 = .ok (.aload_n 0, 1) := dk_42 (dk_at dksX1_takes_2_1 14 rfl rfl)
theorem dX1_takes_2_39 : decode cX1_takes_2 39 = .ok (.iload_n 2, 1) := dk_28 (dk_at dksX1_takes_2_1 15 rfl rfl)
theorem dX1_takes_2_40 : decode cX1_takes_2 40 = .ok (.invokevirtual 34, 3) := dk_182 0 34 (dk_at dksX1_takes_2_1 16 rfl rfl)
theorem dX1_takes_2_43 : decode cX1_takes_2 43 = .ok (.invokevirtual 155, 3) := dk_182 0 155 (dk_at dksX1_takes_2_1 19 rfl rfl)
theorem dX1_takes_2_46 : decode cX1_takes_2 46 = .ok (.ifCond .eq 7, 3) := dk_153 0 7 (dk_at dksX1_takes_2_2 0 rfl rfl)
theorem dX1_takes_2_49 : decode cX1_takes_2 49 = .ok (.iconst 1, 1) := dk_4 (dk_at dksX1_takes_2_2 3 rfl rfl)
theorem dX1_takes_2_50 : decode cX1_takes_2 50 = .ok (.goto 4, 3) := dk_167 0 4 (dk_at dksX1_takes_2_2 4 rfl rfl)
theorem dX1_takes_2_53 : decode cX1_takes_2 53 = .ok (.iconst 0, 1) := dk_3 (dk_at dksX1_takes_2_2 7 rfl rfl)
theorem dX1_takes_2_54 : decode cX1_takes_2 54 = .ok (.ireturn, 1) := dk_172 (dk_at dksX1_takes_2_2 8 rfl rfl)
abbrev cX1_dense : ByteArray := prog_1_method_30_code
def yX1_dense : MethodName := ⟨RX1, "dense", "(I)I"⟩
def dkwX1_dense_2 : List UInt8 := [184, 0, 161, 172]
abbrev dktX1_dense_2 : List UInt8 := dkwX1_dense_2 ++ []
def dkwX1_dense_1 : List UInt8 := [153, 0, 6, 16, 254, 172, 42, 180, 0, 71, 27, 50, 4, 181, 0, 151, 42, 180, 0, 71, 27, 50]
abbrev dktX1_dense_1 : List UInt8 := dkwX1_dense_1 ++ dktX1_dense_2
def dkwX1_dense_0 : List UInt8 := [4, 188, 10, 89, 3, 27, 79, 184, 0, 92, 154, 0, 5, 2, 172, 42, 180, 0, 71, 27, 50, 180, 0, 151]
abbrev dktX1_dense_0 : List UInt8 := dkwX1_dense_0 ++ dktX1_dense_1
theorem dksX1_dense_0 : cX1_dense.data.toList.drop 0 = dktX1_dense_0 := by decide +kernel
theorem dksX1_dense_1 : cX1_dense.data.toList.drop 24 = dktX1_dense_1 := dk_seg dksX1_dense_0 24 rfl rfl
theorem dksX1_dense_2 : cX1_dense.data.toList.drop 46 = dktX1_dense_2 := dk_seg dksX1_dense_1 22 rfl rfl
theorem dX1_dense_0 : decode cX1_dense 0 = .ok (.iconst 1, 1) := dk_4 (dk_at dksX1_dense_0 0 rfl rfl)
theorem dX1_dense_1 : decode cX1_dense 1 = .ok (.newarray .int, 2) := dk_188_10 (dk_at dksX1_dense_0 1 rfl rfl)
theorem dX1_dense_3 : decode cX1_dense 3 = .ok (.dup, 1) := dk_89 (dk_at dksX1_dense_0 3 rfl rfl)
theorem dX1_dense_4 : decode cX1_dense 4 = .ok (.iconst 0, 1) := dk_3 (dk_at dksX1_dense_0 4 rfl rfl)
theorem dX1_dense_5 : decode cX1_dense 5 = .ok (.iload_n 1, 1) := dk_27 (dk_at dksX1_dense_0 5 rfl rfl)
theorem dX1_dense_6 : decode cX1_dense 6 = .ok (.iastore, 1) := dk_79 (dk_at dksX1_dense_0 6 rfl rfl)
theorem dX1_dense_7 : decode cX1_dense 7 = .ok (.invokestatic 92, 3) := dk_184 0 92 (dk_at dksX1_dense_0 7 rfl rfl)
theorem dX1_dense_10 : decode cX1_dense 10 = .ok (.ifCond .ne 5, 3) := dk_154 0 5 (dk_at dksX1_dense_0 10 rfl rfl)
theorem dX1_dense_13 : decode cX1_dense 13 = .ok (.iconst (-1), 1) := dk_2 (dk_at dksX1_dense_0 13 rfl rfl)
theorem dX1_dense_14 : decode cX1_dense 14 = .ok (.ireturn, 1) := dk_172 (dk_at dksX1_dense_0 14 rfl rfl)
theorem dX1_dense_15 : decode cX1_dense 15 = .ok (.aload_n 0, 1) := dk_42 (dk_at dksX1_dense_0 15 rfl rfl)
theorem dX1_dense_16 : decode cX1_dense 16 = .ok (.getfield 71, 3) := dk_180 0 71 (dk_at dksX1_dense_0 16 rfl rfl)
theorem dX1_dense_19 : decode cX1_dense 19 = .ok (.iload_n 1, 1) := dk_27 (dk_at dksX1_dense_0 19 rfl rfl)
theorem dX1_dense_20 : decode cX1_dense 20 = .ok (.aaload, 1) := dk_50 (dk_at dksX1_dense_0 20 rfl rfl)
theorem dX1_dense_21 : decode cX1_dense 21 = .ok (.getfield 151, 3) := dk_180 0 151 (dk_at dksX1_dense_0 21 rfl rfl)
theorem dX1_dense_24 : decode cX1_dense 24 = .ok (.ifCond .eq 6, 3) := dk_153 0 6 (dk_at dksX1_dense_1 0 rfl rfl)
theorem dX1_dense_27 : decode cX1_dense 27 = .ok (.bipush (-2), 2) := dk_16 254 (dk_at dksX1_dense_1 3 rfl rfl)
theorem dX1_dense_29 : decode cX1_dense 29 = .ok (.ireturn, 1) := dk_172 (dk_at dksX1_dense_1 5 rfl rfl)
theorem dX1_dense_30 : decode cX1_dense 30 = .ok (.aload_n 0, 1) := dk_42 (dk_at dksX1_dense_1 6 rfl rfl)
theorem dX1_dense_31 : decode cX1_dense 31 = .ok (.getfield 71, 3) := dk_180 0 71 (dk_at dksX1_dense_1 7 rfl rfl)
theorem dX1_dense_34 : decode cX1_dense 34 = .ok (.iload_n 1, 1) := dk_27 (dk_at dksX1_dense_1 10 rfl rfl)
theorem dX1_dense_35 : decode cX1_dense 35 = .ok (.aaload, 1) := dk_50 (dk_at dksX1_dense_1 11 rfl rfl)
theorem dX1_dense_36 : decode cX1_dense 36 = .ok (.iconst 1, 1) := dk_4 (dk_at dksX1_dense_1 12 rfl rfl)
theorem dX1_dense_37 : decode cX1_dense 37 = .ok (.putfield 151, 3) := dk_181 0 151 (dk_at dksX1_dense_1 13 rfl rfl)
theorem dX1_dense_40 : decode cX1_dense 40 = .ok (.aload_n 0, 1) := dk_42 (dk_at dksX1_dense_1 16 rfl rfl)
theorem dX1_dense_41 : decode cX1_dense 41 = .ok (.getfield 71, 3) := dk_180 0 71 (dk_at dksX1_dense_1 17 rfl rfl)
theorem dX1_dense_44 : decode cX1_dense 44 = .ok (.iload_n 1, 1) := dk_27 (dk_at dksX1_dense_1 20 rfl rfl)
theorem dX1_dense_45 : decode cX1_dense 45 = .ok (.aaload, 1) := dk_50 (dk_at dksX1_dense_1 21 rfl rfl)
theorem dX1_dense_46 : decode cX1_dense 46 = .ok (.invokestatic 161, 3) := dk_184 0 161 (dk_at dksX1_dense_2 0 rfl rfl)
theorem dX1_dense_49 : decode cX1_dense 49 = .ok (.ireturn, 1) := dk_172 (dk_at dksX1_dense_2 3 rfl rfl)
abbrev cX1_filled : ByteArray := prog_1_method_29_code
def yX1_filled : MethodName := ⟨RX1, "filled", "(LDistinctMarks$Counter;)I"⟩
def dkwX1_filled_0 : List UInt8 := [42, 182, 0, 98, 42, 182, 0, 158, 100, 172]
abbrev dktX1_filled_0 : List UInt8 := dkwX1_filled_0 ++ []
theorem dksX1_filled_0 : cX1_filled.data.toList.drop 0 = dktX1_filled_0 := by decide +kernel
theorem dX1_filled_0 : decode cX1_filled 0 = .ok (.aload_n 0, 1) := dk_42 (dk_at dksX1_filled_0 0 rfl rfl)
theorem dX1_filled_1 : decode cX1_filled 1 = .ok (.invokevirtual 98, 3) := dk_182 0 98 (dk_at dksX1_filled_0 1 rfl rfl)
theorem dX1_filled_4 : decode cX1_filled 4 = .ok (.aload_n 0, 1) := dk_42 (dk_at dksX1_filled_0 4 rfl rfl)
theorem dX1_filled_5 : decode cX1_filled 5 = .ok (.invokevirtual 158, 3) := dk_182 0 158 (dk_at dksX1_filled_0 5 rfl rfl)
theorem dX1_filled_8 : decode cX1_filled 8 = .ok (.isub, 1) := dk_100 (dk_at dksX1_filled_0 8 rfl rfl)
theorem dX1_filled_9 : decode cX1_filled 9 = .ok (.ireturn, 1) := dk_172 (dk_at dksX1_filled_0 9 rfl rfl)
abbrev cX1_folds : ByteArray := prog_1_method_31_code
def yX1_folds : MethodName := ⟨RX1, "folds", "(II)I"⟩
def dkwX1_folds_3 : List UInt8 := [183, 0, 168, 83, 42, 180, 0, 71, 27, 50, 184, 0, 161, 172]
abbrev dktX1_folds_3 : List UInt8 := dkwX1_folds_3 ++ []
def dkwX1_folds_2 : List UInt8 := [160, 0, 6, 16, 254, 172, 42, 180, 0, 71, 27, 187, 0, 69, 89, 42, 42, 180, 0, 71, 27, 50, 28]
abbrev dktX1_folds_2 : List UInt8 := dkwX1_folds_2 ++ dktX1_folds_3
def dkwX1_folds_1 : List UInt8 := [180, 0, 165, 133, 184, 0, 7, 154, 0, 5, 2, 172, 28, 42, 180, 0, 71, 27, 50, 180, 0, 165]
abbrev dktX1_folds_1 : List UInt8 := dkwX1_folds_1 ++ dktX1_folds_2
def dkwX1_folds_0 : List UInt8 := [4, 188, 10, 89, 3, 27, 79, 184, 0, 92, 153, 0, 24, 28, 133, 20, 0, 3, 42, 180, 0, 71, 27, 50]
abbrev dktX1_folds_0 : List UInt8 := dkwX1_folds_0 ++ dktX1_folds_1
theorem dksX1_folds_0 : cX1_folds.data.toList.drop 0 = dktX1_folds_0 := by decide +kernel
theorem dksX1_folds_1 : cX1_folds.data.toList.drop 24 = dktX1_folds_1 := dk_seg dksX1_folds_0 24 rfl rfl
theorem dksX1_folds_2 : cX1_folds.data.toList.drop 46 = dktX1_folds_2 := dk_seg dksX1_folds_1 22 rfl rfl
theorem dksX1_folds_3 : cX1_folds.data.toList.drop 69 = dktX1_folds_3 := dk_seg dksX1_folds_2 23 rfl rfl
theorem dX1_folds_0 : decode cX1_folds 0 = .ok (.iconst 1, 1) := dk_4 (dk_at dksX1_folds_0 0 rfl rfl)
theorem dX1_folds_1 : decode cX1_folds 1 = .ok (.newarray .int, 2) := dk_188_10 (dk_at dksX1_folds_0 1 rfl rfl)
theorem dX1_folds_3 : decode cX1_folds 3 = .ok (.dup, 1) := dk_89 (dk_at dksX1_folds_0 3 rfl rfl)
theorem dX1_folds_4 : decode cX1_folds 4 = .ok (.iconst 0, 1) := dk_3 (dk_at dksX1_folds_0 4 rfl rfl)
theorem dX1_folds_5 : decode cX1_folds 5 = .ok (.iload_n 1, 1) := dk_27 (dk_at dksX1_folds_0 5 rfl rfl)
theorem dX1_folds_6 : decode cX1_folds 6 = .ok (.iastore, 1) := dk_79 (dk_at dksX1_folds_0 6 rfl rfl)
theorem dX1_folds_7 : decode cX1_folds 7 = .ok (.invokestatic 92, 3) := dk_184 0 92 (dk_at dksX1_folds_0 7 rfl rfl)
theorem dX1_folds_10 : decode cX1_folds 10 = .ok (.ifCond .eq 24, 3) := dk_153 0 24 (dk_at dksX1_folds_0 10 rfl rfl)
theorem dX1_folds_13 : decode cX1_folds 13 = .ok (.iload_n 2, 1) := dk_28 (dk_at dksX1_folds_0 13 rfl rfl)
theorem dX1_folds_14 : decode cX1_folds 14 = .ok (.i2l, 1) := dk_133 (dk_at dksX1_folds_0 14 rfl rfl)
theorem dX1_folds_15 : decode cX1_folds 15 = .ok (.ldc2_w 3, 3) := dk_20 0 3 (dk_at dksX1_folds_0 15 rfl rfl)
theorem dX1_folds_18 : decode cX1_folds 18 = .ok (.aload_n 0, 1) := dk_42 (dk_at dksX1_folds_0 18 rfl rfl)
theorem dX1_folds_19 : decode cX1_folds 19 = .ok (.getfield 71, 3) := dk_180 0 71 (dk_at dksX1_folds_0 19 rfl rfl)
theorem dX1_folds_22 : decode cX1_folds 22 = .ok (.iload_n 1, 1) := dk_27 (dk_at dksX1_folds_0 22 rfl rfl)
theorem dX1_folds_23 : decode cX1_folds 23 = .ok (.aaload, 1) := dk_50 (dk_at dksX1_folds_0 23 rfl rfl)
theorem dX1_folds_24 : decode cX1_folds 24 = .ok (.getfield 165, 3) := dk_180 0 165 (dk_at dksX1_folds_1 0 rfl rfl)
theorem dX1_folds_27 : decode cX1_folds 27 = .ok (.i2l, 1) := dk_133 (dk_at dksX1_folds_1 3 rfl rfl)
theorem dX1_folds_28 : decode cX1_folds 28 = .ok (.invokestatic 7, 3) := dk_184 0 7 (dk_at dksX1_folds_1 4 rfl rfl)
theorem dX1_folds_31 : decode cX1_folds 31 = .ok (.ifCond .ne 5, 3) := dk_154 0 5 (dk_at dksX1_folds_1 7 rfl rfl)
theorem dX1_folds_34 : decode cX1_folds 34 = .ok (.iconst (-1), 1) := dk_2 (dk_at dksX1_folds_1 10 rfl rfl)
theorem dX1_folds_35 : decode cX1_folds 35 = .ok (.ireturn, 1) := dk_172 (dk_at dksX1_folds_1 11 rfl rfl)
theorem dX1_folds_36 : decode cX1_folds 36 = .ok (.iload_n 2, 1) := dk_28 (dk_at dksX1_folds_1 12 rfl rfl)
theorem dX1_folds_37 : decode cX1_folds 37 = .ok (.aload_n 0, 1) := dk_42 (dk_at dksX1_folds_1 13 rfl rfl)
theorem dX1_folds_38 : decode cX1_folds 38 = .ok (.getfield 71, 3) := dk_180 0 71 (dk_at dksX1_folds_1 14 rfl rfl)
theorem dX1_folds_41 : decode cX1_folds 41 = .ok (.iload_n 1, 1) := dk_27 (dk_at dksX1_folds_1 17 rfl rfl)
theorem dX1_folds_42 : decode cX1_folds 42 = .ok (.aaload, 1) := dk_50 (dk_at dksX1_folds_1 18 rfl rfl)
theorem dX1_folds_43 : decode cX1_folds 43 = .ok (.getfield 165, 3) := dk_180 0 165 (dk_at dksX1_folds_1 19 rfl rfl)
theorem dX1_folds_46 : decode cX1_folds 46 = .ok (.if_icmp .ne 6, 3) := dk_160 0 6 (dk_at dksX1_folds_2 0 rfl rfl)
theorem dX1_folds_49 : decode cX1_folds 49 = .ok (.bipush (-2), 2) := dk_16 254 (dk_at dksX1_folds_2 3 rfl rfl)
theorem dX1_folds_51 : decode cX1_folds 51 = .ok (.ireturn, 1) := dk_172 (dk_at dksX1_folds_2 5 rfl rfl)
theorem dX1_folds_52 : decode cX1_folds 52 = .ok (.aload_n 0, 1) := dk_42 (dk_at dksX1_folds_2 6 rfl rfl)
theorem dX1_folds_53 : decode cX1_folds 53 = .ok (.getfield 71, 3) := dk_180 0 71 (dk_at dksX1_folds_2 7 rfl rfl)
theorem dX1_folds_56 : decode cX1_folds 56 = .ok (.iload_n 1, 1) := dk_27 (dk_at dksX1_folds_2 10 rfl rfl)
theorem dX1_folds_57 : decode cX1_folds 57 = .ok (.new 69, 3) := dk_187 0 69 (dk_at dksX1_folds_2 11 rfl rfl)
theorem dX1_folds_60 : decode cX1_folds 60 = .ok (.dup, 1) := dk_89 (dk_at dksX1_folds_2 14 rfl rfl)
theorem dX1_folds_61 : decode cX1_folds 61 = .ok (.aload_n 0, 1) := dk_42 (dk_at dksX1_folds_2 15 rfl rfl)
theorem dX1_folds_62 : decode cX1_folds 62 = .ok (.aload_n 0, 1) := dk_42 (dk_at dksX1_folds_2 16 rfl rfl)
theorem dX1_folds_63 : decode cX1_folds 63 = .ok (.getfield 71, 3) := dk_180 0 71 (dk_at dksX1_folds_2 17 rfl rfl)
theorem dX1_folds_66 : decode cX1_folds 66 = .ok (.iload_n 1, 1) := dk_27 (dk_at dksX1_folds_2 20 rfl rfl)
theorem dX1_folds_67 : decode cX1_folds 67 = .ok (.aaload, 1) := dk_50 (dk_at dksX1_folds_2 21 rfl rfl)
theorem dX1_folds_68 : decode cX1_folds 68 = .ok (.iload_n 2, 1) := dk_28 (dk_at dksX1_folds_2 22 rfl rfl)
theorem dX1_folds_69 : decode cX1_folds 69 = .ok (.invokespecial 168, 3) := dk_183 0 168 (dk_at dksX1_folds_3 0 rfl rfl)
theorem dX1_folds_72 : decode cX1_folds 72 = .ok (.aastore, 1) := dk_83 (dk_at dksX1_folds_3 3 rfl rfl)
theorem dX1_folds_73 : decode cX1_folds 73 = .ok (.aload_n 0, 1) := dk_42 (dk_at dksX1_folds_3 4 rfl rfl)
theorem dX1_folds_74 : decode cX1_folds 74 = .ok (.getfield 71, 3) := dk_180 0 71 (dk_at dksX1_folds_3 5 rfl rfl)
theorem dX1_folds_77 : decode cX1_folds 77 = .ok (.iload_n 1, 1) := dk_27 (dk_at dksX1_folds_3 8 rfl rfl)
theorem dX1_folds_78 : decode cX1_folds 78 = .ok (.aaload, 1) := dk_50 (dk_at dksX1_folds_3 9 rfl rfl)
theorem dX1_folds_79 : decode cX1_folds 79 = .ok (.invokestatic 161, 3) := dk_184 0 161 (dk_at dksX1_folds_3 10 rfl rfl)
theorem dX1_folds_82 : decode cX1_folds 82 = .ok (.ireturn, 1) := dk_172 (dk_at dksX1_folds_3 13 rfl rfl)
abbrev cX1_copies : ByteArray := prog_1_method_35_code
def yX1_copies : MethodName := ⟨RX1, "copies", "(II)I"⟩
def dkwX1_copies_1 : List UInt8 := [89, 3, 42, 180, 0, 71, 27, 50, 83, 182, 0, 183, 182, 0, 187, 167, 0, 4, 2, 172]
abbrev dktX1_copies_1 : List UInt8 := dkwX1_copies_1 ++ []
def dkwX1_copies_0 : List UInt8 := [5, 188, 10, 89, 3, 27, 79, 89, 4, 28, 79, 184, 0, 92, 153, 0, 28, 42, 28, 42, 4, 189, 0, 69]
abbrev dktX1_copies_0 : List UInt8 := dkwX1_copies_0 ++ dktX1_copies_1
theorem dksX1_copies_0 : cX1_copies.data.toList.drop 0 = dktX1_copies_0 := by decide +kernel
theorem dksX1_copies_1 : cX1_copies.data.toList.drop 24 = dktX1_copies_1 := dk_seg dksX1_copies_0 24 rfl rfl
theorem dX1_copies_0 : decode cX1_copies 0 = .ok (.iconst 2, 1) := dk_5 (dk_at dksX1_copies_0 0 rfl rfl)
theorem dX1_copies_1 : decode cX1_copies 1 = .ok (.newarray .int, 2) := dk_188_10 (dk_at dksX1_copies_0 1 rfl rfl)
theorem dX1_copies_3 : decode cX1_copies 3 = .ok (.dup, 1) := dk_89 (dk_at dksX1_copies_0 3 rfl rfl)
theorem dX1_copies_4 : decode cX1_copies 4 = .ok (.iconst 0, 1) := dk_3 (dk_at dksX1_copies_0 4 rfl rfl)
theorem dX1_copies_5 : decode cX1_copies 5 = .ok (.iload_n 1, 1) := dk_27 (dk_at dksX1_copies_0 5 rfl rfl)
theorem dX1_copies_6 : decode cX1_copies 6 = .ok (.iastore, 1) := dk_79 (dk_at dksX1_copies_0 6 rfl rfl)
theorem dX1_copies_7 : decode cX1_copies 7 = .ok (.dup, 1) := dk_89 (dk_at dksX1_copies_0 7 rfl rfl)
theorem dX1_copies_8 : decode cX1_copies 8 = .ok (.iconst 1, 1) := dk_4 (dk_at dksX1_copies_0 8 rfl rfl)
theorem dX1_copies_9 : decode cX1_copies 9 = .ok (.iload_n 2, 1) := dk_28 (dk_at dksX1_copies_0 9 rfl rfl)
theorem dX1_copies_10 : decode cX1_copies 10 = .ok (.iastore, 1) := dk_79 (dk_at dksX1_copies_0 10 rfl rfl)
theorem dX1_copies_11 : decode cX1_copies 11 = .ok (.invokestatic 92, 3) := dk_184 0 92 (dk_at dksX1_copies_0 11 rfl rfl)
theorem dX1_copies_14 : decode cX1_copies 14 = .ok (.ifCond .eq 28, 3) := dk_153 0 28 (dk_at dksX1_copies_0 14 rfl rfl)
theorem dX1_copies_17 : decode cX1_copies 17 = .ok (.aload_n 0, 1) := dk_42 (dk_at dksX1_copies_0 17 rfl rfl)
theorem dX1_copies_18 : decode cX1_copies 18 = .ok (.iload_n 2, 1) := dk_28 (dk_at dksX1_copies_0 18 rfl rfl)
theorem dX1_copies_19 : decode cX1_copies 19 = .ok (.aload_n 0, 1) := dk_42 (dk_at dksX1_copies_0 19 rfl rfl)
theorem dX1_copies_20 : decode cX1_copies 20 = .ok (.iconst 1, 1) := dk_4 (dk_at dksX1_copies_0 20 rfl rfl)
theorem dX1_copies_21 : decode cX1_copies 21 = .ok (.anewarray 69, 3) := dk_189 0 69 (dk_at dksX1_copies_0 21 rfl rfl)
theorem dX1_copies_24 : decode cX1_copies 24 = .ok (.dup, 1) := dk_89 (dk_at dksX1_copies_1 0 rfl rfl)
theorem dX1_copies_25 : decode cX1_copies 25 = .ok (.iconst 0, 1) := dk_3 (dk_at dksX1_copies_1 1 rfl rfl)
theorem dX1_copies_26 : decode cX1_copies 26 = .ok (.aload_n 0, 1) := dk_42 (dk_at dksX1_copies_1 2 rfl rfl)
theorem dX1_copies_27 : decode cX1_copies 27 = .ok (.getfield 71, 3) := dk_180 0 71 (dk_at dksX1_copies_1 3 rfl rfl)
theorem dX1_copies_30 : decode cX1_copies 30 = .ok (.iload_n 1, 1) := dk_27 (dk_at dksX1_copies_1 6 rfl rfl)
theorem dX1_copies_31 : decode cX1_copies 31 = .ok (.aaload, 1) := dk_50 (dk_at dksX1_copies_1 7 rfl rfl)
theorem dX1_copies_32 : decode cX1_copies 32 = .ok (.aastore, 1) := dk_83 (dk_at dksX1_copies_1 8 rfl rfl)
theorem dX1_copies_33 : decode cX1_copies 33 = .ok (.invokevirtual 183, 3) := dk_182 0 183 (dk_at dksX1_copies_1 9 rfl rfl)
theorem dX1_copies_36 : decode cX1_copies 36 = .ok (.invokevirtual 187, 3) := dk_182 0 187 (dk_at dksX1_copies_1 12 rfl rfl)
theorem dX1_copies_39 : decode cX1_copies 39 = .ok (.goto 4, 3) := dk_167 0 4 (dk_at dksX1_copies_1 15 rfl rfl)
theorem dX1_copies_42 : decode cX1_copies 42 = .ok (.iconst (-1), 1) := dk_2 (dk_at dksX1_copies_1 18 rfl rfl)
theorem dX1_copies_43 : decode cX1_copies 43 = .ok (.ireturn, 1) := dk_172 (dk_at dksX1_copies_1 19 rfl rfl)
abbrev cX1_joined : ByteArray := prog_1_method_32_code
def yX1_joined : MethodName := ⟨RX1, "joined", "([LDistinctMarks$Counter;)LDistinctMarks$Counter;"⟩
def dkwX1_joined_6 : List UInt8 := [25, 6, 21, 8, 50, 58, 9, 25, 5, 25, 9, 182, 0, 174, 132, 8, 1, 167, 255, 232, 25, 5, 176]
abbrev dktX1_joined_6 : List UInt8 := dkwX1_joined_6 ++ []
def dkwX1_joined_5 : List UInt8 := [21, 4, 181, 0, 151, 43, 58, 6, 25, 6, 190, 54, 7, 3, 54, 8, 21, 8, 21, 7, 162, 0, 23]
abbrev dktX1_joined_5 : List UInt8 := dkwX1_joined_5 ++ dktX1_joined_6
def dkwX1_joined_4 : List UInt8 := [3, 54, 4, 132, 7, 1, 167, 255, 199, 187, 0, 69, 89, 42, 28, 29, 183, 0, 75, 58, 5, 25, 5]
abbrev dktX1_joined_4 : List UInt8 := dkwX1_joined_4 ++ dktX1_joined_5
def dkwX1_joined_3 : List UInt8 := [180, 0, 171, 184, 0, 28, 62, 21, 4, 154, 0, 11, 25, 8, 180, 0, 151, 153, 0, 7, 4, 167, 0, 4]
abbrev dktX1_joined_3 : List UInt8 := dkwX1_joined_3 ++ dktX1_joined_4
def dkwX1_joined_2 : List UInt8 := [162, 0, 56, 25, 5, 21, 7, 50, 58, 8, 28, 25, 8, 180, 0, 165, 184, 0, 28, 61, 29, 25, 8]
abbrev dktX1_joined_2 : List UInt8 := dkwX1_joined_2 ++ dktX1_joined_3
def dkwX1_joined_1 : List UInt8 := [16, 8, 61, 16, 48, 62, 3, 54, 4, 43, 58, 5, 25, 5, 190, 54, 6, 3, 54, 7, 21, 7, 21, 6]
abbrev dktX1_joined_1 : List UInt8 := dkwX1_joined_1 ++ dktX1_joined_2
def dkwX1_joined_0 : List UInt8 := [43, 190, 4, 160, 0, 21, 187, 0, 69, 89, 42, 43, 3, 50, 43, 3, 50, 180, 0, 165, 183, 0, 168, 176]
abbrev dktX1_joined_0 : List UInt8 := dkwX1_joined_0 ++ dktX1_joined_1
theorem dksX1_joined_0 : cX1_joined.data.toList.drop 0 = dktX1_joined_0 := by decide +kernel
theorem dksX1_joined_1 : cX1_joined.data.toList.drop 24 = dktX1_joined_1 := dk_seg dksX1_joined_0 24 rfl rfl
theorem dksX1_joined_2 : cX1_joined.data.toList.drop 48 = dktX1_joined_2 := dk_seg dksX1_joined_1 24 rfl rfl
theorem dksX1_joined_3 : cX1_joined.data.toList.drop 71 = dktX1_joined_3 := dk_seg dksX1_joined_2 23 rfl rfl
theorem dksX1_joined_4 : cX1_joined.data.toList.drop 95 = dktX1_joined_4 := dk_seg dksX1_joined_3 24 rfl rfl
theorem dksX1_joined_5 : cX1_joined.data.toList.drop 118 = dktX1_joined_5 := dk_seg dksX1_joined_4 23 rfl rfl
theorem dksX1_joined_6 : cX1_joined.data.toList.drop 141 = dktX1_joined_6 := dk_seg dksX1_joined_5 23 rfl rfl
theorem dX1_joined_0 : decode cX1_joined 0 = .ok (.aload_n 1, 1) := dk_43 (dk_at dksX1_joined_0 0 rfl rfl)
theorem dX1_joined_1 : decode cX1_joined 1 = .ok (.arraylength, 1) := dk_190 (dk_at dksX1_joined_0 1 rfl rfl)
theorem dX1_joined_2 : decode cX1_joined 2 = .ok (.iconst 1, 1) := dk_4 (dk_at dksX1_joined_0 2 rfl rfl)
theorem dX1_joined_3 : decode cX1_joined 3 = .ok (.if_icmp .ne 21, 3) := dk_160 0 21 (dk_at dksX1_joined_0 3 rfl rfl)
theorem dX1_joined_6 : decode cX1_joined 6 = .ok (.new 69, 3) := dk_187 0 69 (dk_at dksX1_joined_0 6 rfl rfl)
theorem dX1_joined_9 : decode cX1_joined 9 = .ok (.dup, 1) := dk_89 (dk_at dksX1_joined_0 9 rfl rfl)
theorem dX1_joined_10 : decode cX1_joined 10 = .ok (.aload_n 0, 1) := dk_42 (dk_at dksX1_joined_0 10 rfl rfl)
theorem dX1_joined_11 : decode cX1_joined 11 = .ok (.aload_n 1, 1) := dk_43 (dk_at dksX1_joined_0 11 rfl rfl)
theorem dX1_joined_12 : decode cX1_joined 12 = .ok (.iconst 0, 1) := dk_3 (dk_at dksX1_joined_0 12 rfl rfl)
theorem dX1_joined_13 : decode cX1_joined 13 = .ok (.aaload, 1) := dk_50 (dk_at dksX1_joined_0 13 rfl rfl)
theorem dX1_joined_14 : decode cX1_joined 14 = .ok (.aload_n 1, 1) := dk_43 (dk_at dksX1_joined_0 14 rfl rfl)
theorem dX1_joined_15 : decode cX1_joined 15 = .ok (.iconst 0, 1) := dk_3 (dk_at dksX1_joined_0 15 rfl rfl)
theorem dX1_joined_16 : decode cX1_joined 16 = .ok (.aaload, 1) := dk_50 (dk_at dksX1_joined_0 16 rfl rfl)
theorem dX1_joined_17 : decode cX1_joined 17 = .ok (.getfield 165, 3) := dk_180 0 165 (dk_at dksX1_joined_0 17 rfl rfl)
theorem dX1_joined_20 : decode cX1_joined 20 = .ok (.invokespecial 168, 3) := dk_183 0 168 (dk_at dksX1_joined_0 20 rfl rfl)
theorem dX1_joined_23 : decode cX1_joined 23 = .ok (.areturn, 1) := dk_176 (dk_at dksX1_joined_0 23 rfl rfl)
theorem dX1_joined_24 : decode cX1_joined 24 = .ok (.bipush 8, 2) := dk_16 8 (dk_at dksX1_joined_1 0 rfl rfl)
theorem dX1_joined_26 : decode cX1_joined 26 = .ok (.istore_n 2, 1) := dk_61 (dk_at dksX1_joined_1 2 rfl rfl)
theorem dX1_joined_27 : decode cX1_joined 27 = .ok (.bipush 48, 2) := dk_16 48 (dk_at dksX1_joined_1 3 rfl rfl)
theorem dX1_joined_29 : decode cX1_joined 29 = .ok (.istore_n 3, 1) := dk_62 (dk_at dksX1_joined_1 5 rfl rfl)
theorem dX1_joined_30 : decode cX1_joined 30 = .ok (.iconst 0, 1) := dk_3 (dk_at dksX1_joined_1 6 rfl rfl)
theorem dX1_joined_31 : decode cX1_joined 31 = .ok (.istore 4, 2) := dk_54 4 (dk_at dksX1_joined_1 7 rfl rfl)
theorem dX1_joined_33 : decode cX1_joined 33 = .ok (.aload_n 1, 1) := dk_43 (dk_at dksX1_joined_1 9 rfl rfl)
theorem dX1_joined_34 : decode cX1_joined 34 = .ok (.astore 5, 2) := dk_58 5 (dk_at dksX1_joined_1 10 rfl rfl)
theorem dX1_joined_36 : decode cX1_joined 36 = .ok (.aload 5, 2) := dk_25 5 (dk_at dksX1_joined_1 12 rfl rfl)
theorem dX1_joined_38 : decode cX1_joined 38 = .ok (.arraylength, 1) := dk_190 (dk_at dksX1_joined_1 14 rfl rfl)
theorem dX1_joined_39 : decode cX1_joined 39 = .ok (.istore 6, 2) := dk_54 6 (dk_at dksX1_joined_1 15 rfl rfl)
theorem dX1_joined_41 : decode cX1_joined 41 = .ok (.iconst 0, 1) := dk_3 (dk_at dksX1_joined_1 17 rfl rfl)
theorem dX1_joined_42 : decode cX1_joined 42 = .ok (.istore 7, 2) := dk_54 7 (dk_at dksX1_joined_1 18 rfl rfl)
theorem dX1_joined_44 : decode cX1_joined 44 = .ok (.iload 7, 2) := dk_21 7 (dk_at dksX1_joined_1 20 rfl rfl)
theorem dX1_joined_46 : decode cX1_joined 46 = .ok (.iload 6, 2) := dk_21 6 (dk_at dksX1_joined_1 22 rfl rfl)
theorem dX1_joined_48 : decode cX1_joined 48 = .ok (.if_icmp .ge 56, 3) := dk_162 0 56 (dk_at dksX1_joined_2 0 rfl rfl)
theorem dX1_joined_51 : decode cX1_joined 51 = .ok (.aload 5, 2) := dk_25 5 (dk_at dksX1_joined_2 3 rfl rfl)
theorem dX1_joined_53 : decode cX1_joined 53 = .ok (.iload 7, 2) := dk_21 7 (dk_at dksX1_joined_2 5 rfl rfl)
theorem dX1_joined_55 : decode cX1_joined 55 = .ok (.aaload, 1) := dk_50 (dk_at dksX1_joined_2 7 rfl rfl)
theorem dX1_joined_56 : decode cX1_joined 56 = .ok (.astore 8, 2) := dk_58 8 (dk_at dksX1_joined_2 8 rfl rfl)
theorem dX1_joined_58 : decode cX1_joined 58 = .ok (.iload_n 2, 1) := dk_28 (dk_at dksX1_joined_2 10 rfl rfl)
theorem dX1_joined_59 : decode cX1_joined 59 = .ok (.aload 8, 2) := dk_25 8 (dk_at dksX1_joined_2 11 rfl rfl)
theorem dX1_joined_61 : decode cX1_joined 61 = .ok (.getfield 165, 3) := dk_180 0 165 (dk_at dksX1_joined_2 13 rfl rfl)
theorem dX1_joined_64 : decode cX1_joined 64 = .ok (.invokestatic 28, 3) := dk_184 0 28 (dk_at dksX1_joined_2 16 rfl rfl)
theorem dX1_joined_67 : decode cX1_joined 67 = .ok (.istore_n 2, 1) := dk_61 (dk_at dksX1_joined_2 19 rfl rfl)
theorem dX1_joined_68 : decode cX1_joined 68 = .ok (.iload_n 3, 1) := dk_29 (dk_at dksX1_joined_2 20 rfl rfl)
theorem dX1_joined_69 : decode cX1_joined 69 = .ok (.aload 8, 2) := dk_25 8 (dk_at dksX1_joined_2 21 rfl rfl)
theorem dX1_joined_71 : decode cX1_joined 71 = .ok (.getfield 171, 3) := dk_180 0 171 (dk_at dksX1_joined_3 0 rfl rfl)
theorem dX1_joined_74 : decode cX1_joined 74 = .ok (.invokestatic 28, 3) := dk_184 0 28 (dk_at dksX1_joined_3 3 rfl rfl)
theorem dX1_joined_77 : decode cX1_joined 77 = .ok (.istore_n 3, 1) := dk_62 (dk_at dksX1_joined_3 6 rfl rfl)
theorem dX1_joined_78 : decode cX1_joined 78 = .ok (.iload 4, 2) := dk_21 4 (dk_at dksX1_joined_3 7 rfl rfl)
theorem dX1_joined_80 : decode cX1_joined 80 = .ok (.ifCond .ne 11, 3) := dk_154 0 11 (dk_at dksX1_joined_3 9 rfl rfl)
theorem dX1_joined_83 : decode cX1_joined 83 = .ok (.aload 8, 2) := dk_25 8 (dk_at dksX1_joined_3 12 rfl rfl)
theorem dX1_joined_85 : decode cX1_joined 85 = .ok (.getfield 151, 3) := dk_180 0 151 (dk_at dksX1_joined_3 14 rfl rfl)
theorem dX1_joined_88 : decode cX1_joined 88 = .ok (.ifCond .eq 7, 3) := dk_153 0 7 (dk_at dksX1_joined_3 17 rfl rfl)
theorem dX1_joined_91 : decode cX1_joined 91 = .ok (.iconst 1, 1) := dk_4 (dk_at dksX1_joined_3 20 rfl rfl)
theorem dX1_joined_92 : decode cX1_joined 92 = .ok (.goto 4, 3) := dk_167 0 4 (dk_at dksX1_joined_3 21 rfl rfl)
theorem dX1_joined_95 : decode cX1_joined 95 = .ok (.iconst 0, 1) := dk_3 (dk_at dksX1_joined_4 0 rfl rfl)
theorem dX1_joined_96 : decode cX1_joined 96 = .ok (.istore 4, 2) := dk_54 4 (dk_at dksX1_joined_4 1 rfl rfl)
theorem dX1_joined_98 : decode cX1_joined 98 = .ok (.iinc 7 1, 3) := dk_132 7 1 (dk_at dksX1_joined_4 3 rfl rfl)
theorem dX1_joined_101 : decode cX1_joined 101 = .ok (.goto (-57), 3) := dk_167 255 199 (dk_at dksX1_joined_4 6 rfl rfl)
theorem dX1_joined_104 : decode cX1_joined 104 = .ok (.new 69, 3) := dk_187 0 69 (dk_at dksX1_joined_4 9 rfl rfl)
theorem dX1_joined_107 : decode cX1_joined 107 = .ok (.dup, 1) := dk_89 (dk_at dksX1_joined_4 12 rfl rfl)
theorem dX1_joined_108 : decode cX1_joined 108 = .ok (.aload_n 0, 1) := dk_42 (dk_at dksX1_joined_4 13 rfl rfl)
theorem dX1_joined_109 : decode cX1_joined 109 = .ok (.iload_n 2, 1) := dk_28 (dk_at dksX1_joined_4 14 rfl rfl)
theorem dX1_joined_110 : decode cX1_joined 110 = .ok (.iload_n 3, 1) := dk_29 (dk_at dksX1_joined_4 15 rfl rfl)
theorem dX1_joined_111 : decode cX1_joined 111 = .ok (.invokespecial 75, 3) := dk_183 0 75 (dk_at dksX1_joined_4 16 rfl rfl)
theorem dX1_joined_114 : decode cX1_joined 114 = .ok (.astore 5, 2) := dk_58 5 (dk_at dksX1_joined_4 19 rfl rfl)
theorem dX1_joined_116 : decode cX1_joined 116 = .ok (.aload 5, 2) := dk_25 5 (dk_at dksX1_joined_4 21 rfl rfl)
theorem dX1_joined_118 : decode cX1_joined 118 = .ok (.iload 4, 2) := dk_21 4 (dk_at dksX1_joined_5 0 rfl rfl)
theorem dX1_joined_120 : decode cX1_joined 120 = .ok (.putfield 151, 3) := dk_181 0 151 (dk_at dksX1_joined_5 2 rfl rfl)
theorem dX1_joined_123 : decode cX1_joined 123 = .ok (.aload_n 1, 1) := dk_43 (dk_at dksX1_joined_5 5 rfl rfl)
theorem dX1_joined_124 : decode cX1_joined 124 = .ok (.astore 6, 2) := dk_58 6 (dk_at dksX1_joined_5 6 rfl rfl)
theorem dX1_joined_126 : decode cX1_joined 126 = .ok (.aload 6, 2) := dk_25 6 (dk_at dksX1_joined_5 8 rfl rfl)
theorem dX1_joined_128 : decode cX1_joined 128 = .ok (.arraylength, 1) := dk_190 (dk_at dksX1_joined_5 10 rfl rfl)
theorem dX1_joined_129 : decode cX1_joined 129 = .ok (.istore 7, 2) := dk_54 7 (dk_at dksX1_joined_5 11 rfl rfl)
theorem dX1_joined_131 : decode cX1_joined 131 = .ok (.iconst 0, 1) := dk_3 (dk_at dksX1_joined_5 13 rfl rfl)
theorem dX1_joined_132 : decode cX1_joined 132 = .ok (.istore 8, 2) := dk_54 8 (dk_at dksX1_joined_5 14 rfl rfl)
theorem dX1_joined_134 : decode cX1_joined 134 = .ok (.iload 8, 2) := dk_21 8 (dk_at dksX1_joined_5 16 rfl rfl)
theorem dX1_joined_136 : decode cX1_joined 136 = .ok (.iload 7, 2) := dk_21 7 (dk_at dksX1_joined_5 18 rfl rfl)
theorem dX1_joined_138 : decode cX1_joined 138 = .ok (.if_icmp .ge 23, 3) := dk_162 0 23 (dk_at dksX1_joined_5 20 rfl rfl)
theorem dX1_joined_141 : decode cX1_joined 141 = .ok (.aload 6, 2) := dk_25 6 (dk_at dksX1_joined_6 0 rfl rfl)
theorem dX1_joined_143 : decode cX1_joined 143 = .ok (.iload 8, 2) := dk_21 8 (dk_at dksX1_joined_6 2 rfl rfl)
theorem dX1_joined_145 : decode cX1_joined 145 = .ok (.aaload, 1) := dk_50 (dk_at dksX1_joined_6 4 rfl rfl)
theorem dX1_joined_146 : decode cX1_joined 146 = .ok (.astore 9, 2) := dk_58 9 (dk_at dksX1_joined_6 5 rfl rfl)
theorem dX1_joined_148 : decode cX1_joined 148 = .ok (.aload 5, 2) := dk_25 5 (dk_at dksX1_joined_6 7 rfl rfl)
theorem dX1_joined_150 : decode cX1_joined 150 = .ok (.aload 9, 2) := dk_25 9 (dk_at dksX1_joined_6 9 rfl rfl)
theorem dX1_joined_152 : decode cX1_joined 152 = .ok (.invokevirtual 174, 3) := dk_182 0 174 (dk_at dksX1_joined_6 11 rfl rfl)
theorem dX1_joined_155 : decode cX1_joined 155 = .ok (.iinc 8 1, 3) := dk_132 8 1 (dk_at dksX1_joined_6 14 rfl rfl)
theorem dX1_joined_158 : decode cX1_joined 158 = .ok (.goto (-24), 3) := dk_167 255 232 (dk_at dksX1_joined_6 17 rfl rfl)
theorem dX1_joined_161 : decode cX1_joined 161 = .ok (.aload 5, 2) := dk_25 5 (dk_at dksX1_joined_6 20 rfl rfl)
theorem dX1_joined_163 : decode cX1_joined 163 = .ok (.areturn, 1) := dk_176 (dk_at dksX1_joined_6 22 rfl rfl)
abbrev cX1_becomes : ByteArray := prog_1_method_34_code
def yX1_becomes : MethodName := ⟨RX1, "becomes", "(ILDistinctMarks$Counter;)I"⟩
def dkwX1_becomes_0 : List UInt8 := [42, 180, 0, 71, 27, 44, 83, 44, 182, 0, 180, 172]
abbrev dktX1_becomes_0 : List UInt8 := dkwX1_becomes_0 ++ []
theorem dksX1_becomes_0 : cX1_becomes.data.toList.drop 0 = dktX1_becomes_0 := by decide +kernel
theorem dX1_becomes_0 : decode cX1_becomes 0 = .ok (.aload_n 0, 1) := dk_42 (dk_at dksX1_becomes_0 0 rfl rfl)
theorem dX1_becomes_1 : decode cX1_becomes 1 = .ok (.getfield 71, 3) := dk_180 0 71 (dk_at dksX1_becomes_0 1 rfl rfl)
theorem dX1_becomes_4 : decode cX1_becomes 4 = .ok (.iload_n 1, 1) := dk_27 (dk_at dksX1_becomes_0 4 rfl rfl)
theorem dX1_becomes_5 : decode cX1_becomes 5 = .ok (.aload_n 2, 1) := dk_44 (dk_at dksX1_becomes_0 5 rfl rfl)
theorem dX1_becomes_6 : decode cX1_becomes 6 = .ok (.aastore, 1) := dk_83 (dk_at dksX1_becomes_0 6 rfl rfl)
theorem dX1_becomes_7 : decode cX1_becomes 7 = .ok (.aload_n 2, 1) := dk_44 (dk_at dksX1_becomes_0 7 rfl rfl)
theorem dX1_becomes_8 : decode cX1_becomes 8 = .ok (.invokevirtual 180, 3) := dk_182 0 180 (dk_at dksX1_becomes_0 8 rfl rfl)
theorem dX1_becomes_11 : decode cX1_becomes 11 = .ok (.ireturn, 1) := dk_172 (dk_at dksX1_becomes_0 11 rfl rfl)
abbrev cX1_joins : ByteArray := prog_1_method_36_code
def yX1_joins : MethodName := ⟨RX1, "joins", "(III)I"⟩
def dkwX1_joins_2 : List UInt8 := [182, 0, 183, 182, 0, 187, 167, 0, 4, 2, 172]
abbrev dktX1_joins_2 : List UInt8 := dkwX1_joins_2 ++ []
def dkwX1_joins_1 : List UInt8 := [5, 189, 0, 69, 89, 3, 42, 180, 0, 71, 27, 50, 83, 89, 4, 42, 180, 0, 71, 28, 50, 83]
abbrev dktX1_joins_1 : List UInt8 := dkwX1_joins_1 ++ dktX1_joins_2
def dkwX1_joins_0 : List UInt8 := [6, 188, 10, 89, 3, 27, 79, 89, 4, 28, 79, 89, 5, 29, 79, 184, 0, 92, 153, 0, 37, 42, 29, 42]
abbrev dktX1_joins_0 : List UInt8 := dkwX1_joins_0 ++ dktX1_joins_1
theorem dksX1_joins_0 : cX1_joins.data.toList.drop 0 = dktX1_joins_0 := by decide +kernel
theorem dksX1_joins_1 : cX1_joins.data.toList.drop 24 = dktX1_joins_1 := dk_seg dksX1_joins_0 24 rfl rfl
theorem dksX1_joins_2 : cX1_joins.data.toList.drop 46 = dktX1_joins_2 := dk_seg dksX1_joins_1 22 rfl rfl
theorem dX1_joins_0 : decode cX1_joins 0 = .ok (.iconst 3, 1) := dk_6 (dk_at dksX1_joins_0 0 rfl rfl)
theorem dX1_joins_1 : decode cX1_joins 1 = .ok (.newarray .int, 2) := dk_188_10 (dk_at dksX1_joins_0 1 rfl rfl)
theorem dX1_joins_3 : decode cX1_joins 3 = .ok (.dup, 1) := dk_89 (dk_at dksX1_joins_0 3 rfl rfl)
theorem dX1_joins_4 : decode cX1_joins 4 = .ok (.iconst 0, 1) := dk_3 (dk_at dksX1_joins_0 4 rfl rfl)
theorem dX1_joins_5 : decode cX1_joins 5 = .ok (.iload_n 1, 1) := dk_27 (dk_at dksX1_joins_0 5 rfl rfl)
theorem dX1_joins_6 : decode cX1_joins 6 = .ok (.iastore, 1) := dk_79 (dk_at dksX1_joins_0 6 rfl rfl)
theorem dX1_joins_7 : decode cX1_joins 7 = .ok (.dup, 1) := dk_89 (dk_at dksX1_joins_0 7 rfl rfl)
theorem dX1_joins_8 : decode cX1_joins 8 = .ok (.iconst 1, 1) := dk_4 (dk_at dksX1_joins_0 8 rfl rfl)
theorem dX1_joins_9 : decode cX1_joins 9 = .ok (.iload_n 2, 1) := dk_28 (dk_at dksX1_joins_0 9 rfl rfl)
theorem dX1_joins_10 : decode cX1_joins 10 = .ok (.iastore, 1) := dk_79 (dk_at dksX1_joins_0 10 rfl rfl)
theorem dX1_joins_11 : decode cX1_joins 11 = .ok (.dup, 1) := dk_89 (dk_at dksX1_joins_0 11 rfl rfl)
theorem dX1_joins_12 : decode cX1_joins 12 = .ok (.iconst 2, 1) := dk_5 (dk_at dksX1_joins_0 12 rfl rfl)
theorem dX1_joins_13 : decode cX1_joins 13 = .ok (.iload_n 3, 1) := dk_29 (dk_at dksX1_joins_0 13 rfl rfl)
theorem dX1_joins_14 : decode cX1_joins 14 = .ok (.iastore, 1) := dk_79 (dk_at dksX1_joins_0 14 rfl rfl)
theorem dX1_joins_15 : decode cX1_joins 15 = .ok (.invokestatic 92, 3) := dk_184 0 92 (dk_at dksX1_joins_0 15 rfl rfl)
theorem dX1_joins_18 : decode cX1_joins 18 = .ok (.ifCond .eq 37, 3) := dk_153 0 37 (dk_at dksX1_joins_0 18 rfl rfl)
theorem dX1_joins_21 : decode cX1_joins 21 = .ok (.aload_n 0, 1) := dk_42 (dk_at dksX1_joins_0 21 rfl rfl)
theorem dX1_joins_22 : decode cX1_joins 22 = .ok (.iload_n 3, 1) := dk_29 (dk_at dksX1_joins_0 22 rfl rfl)
theorem dX1_joins_23 : decode cX1_joins 23 = .ok (.aload_n 0, 1) := dk_42 (dk_at dksX1_joins_0 23 rfl rfl)
theorem dX1_joins_24 : decode cX1_joins 24 = .ok (.iconst 2, 1) := dk_5 (dk_at dksX1_joins_1 0 rfl rfl)
theorem dX1_joins_25 : decode cX1_joins 25 = .ok (.anewarray 69, 3) := dk_189 0 69 (dk_at dksX1_joins_1 1 rfl rfl)
theorem dX1_joins_28 : decode cX1_joins 28 = .ok (.dup, 1) := dk_89 (dk_at dksX1_joins_1 4 rfl rfl)
theorem dX1_joins_29 : decode cX1_joins 29 = .ok (.iconst 0, 1) := dk_3 (dk_at dksX1_joins_1 5 rfl rfl)
theorem dX1_joins_30 : decode cX1_joins 30 = .ok (.aload_n 0, 1) := dk_42 (dk_at dksX1_joins_1 6 rfl rfl)
theorem dX1_joins_31 : decode cX1_joins 31 = .ok (.getfield 71, 3) := dk_180 0 71 (dk_at dksX1_joins_1 7 rfl rfl)
theorem dX1_joins_34 : decode cX1_joins 34 = .ok (.iload_n 1, 1) := dk_27 (dk_at dksX1_joins_1 10 rfl rfl)
theorem dX1_joins_35 : decode cX1_joins 35 = .ok (.aaload, 1) := dk_50 (dk_at dksX1_joins_1 11 rfl rfl)
theorem dX1_joins_36 : decode cX1_joins 36 = .ok (.aastore, 1) := dk_83 (dk_at dksX1_joins_1 12 rfl rfl)
theorem dX1_joins_37 : decode cX1_joins 37 = .ok (.dup, 1) := dk_89 (dk_at dksX1_joins_1 13 rfl rfl)
theorem dX1_joins_38 : decode cX1_joins 38 = .ok (.iconst 1, 1) := dk_4 (dk_at dksX1_joins_1 14 rfl rfl)
theorem dX1_joins_39 : decode cX1_joins 39 = .ok (.aload_n 0, 1) := dk_42 (dk_at dksX1_joins_1 15 rfl rfl)
theorem dX1_joins_40 : decode cX1_joins 40 = .ok (.getfield 71, 3) := dk_180 0 71 (dk_at dksX1_joins_1 16 rfl rfl)
theorem dX1_joins_43 : decode cX1_joins 43 = .ok (.iload_n 2, 1) := dk_28 (dk_at dksX1_joins_1 19 rfl rfl)
theorem dX1_joins_44 : decode cX1_joins 44 = .ok (.aaload, 1) := dk_50 (dk_at dksX1_joins_1 20 rfl rfl)
theorem dX1_joins_45 : decode cX1_joins 45 = .ok (.aastore, 1) := dk_83 (dk_at dksX1_joins_1 21 rfl rfl)
theorem dX1_joins_46 : decode cX1_joins 46 = .ok (.invokevirtual 183, 3) := dk_182 0 183 (dk_at dksX1_joins_2 0 rfl rfl)
theorem dX1_joins_49 : decode cX1_joins 49 = .ok (.invokevirtual 187, 3) := dk_182 0 187 (dk_at dksX1_joins_2 3 rfl rfl)
theorem dX1_joins_52 : decode cX1_joins 52 = .ok (.goto 4, 3) := dk_167 0 4 (dk_at dksX1_joins_2 6 rfl rfl)
theorem dX1_joins_55 : decode cX1_joins 55 = .ok (.iconst (-1), 1) := dk_2 (dk_at dksX1_joins_2 9 rfl rfl)
theorem dX1_joins_56 : decode cX1_joins 56 = .ok (.ireturn, 1) := dk_172 (dk_at dksX1_joins_2 10 rfl rfl)
abbrev cX1_gathers : ByteArray := prog_1_method_37_code
def yX1_gathers : MethodName := ⟨RX1, "gathers", "(II)I"⟩
def dkwX1_gathers_1 : List UInt8 := [27, 182, 0, 194, 182, 0, 183, 182, 0, 187, 167, 0, 4, 2, 172]
abbrev dktX1_gathers_1 : List UInt8 := dkwX1_gathers_1 ++ []
def dkwX1_gathers_0 : List UInt8 := [27, 184, 0, 191, 153, 0, 33, 4, 188, 10, 89, 3, 28, 79, 184, 0, 92, 153, 0, 20, 42, 28, 42, 42]
abbrev dktX1_gathers_0 : List UInt8 := dkwX1_gathers_0 ++ dktX1_gathers_1
theorem dksX1_gathers_0 : cX1_gathers.data.toList.drop 0 = dktX1_gathers_0 := by decide +kernel
theorem dksX1_gathers_1 : cX1_gathers.data.toList.drop 24 = dktX1_gathers_1 := dk_seg dksX1_gathers_0 24 rfl rfl
theorem dX1_gathers_0 : decode cX1_gathers 0 = .ok (.iload_n 1, 1) := dk_27 (dk_at dksX1_gathers_0 0 rfl rfl)
theorem dX1_gathers_1 : decode cX1_gathers 1 = .ok (.invokestatic 191, 3) := dk_184 0 191 (dk_at dksX1_gathers_0 1 rfl rfl)
theorem dX1_gathers_4 : decode cX1_gathers 4 = .ok (.ifCond .eq 33, 3) := dk_153 0 33 (dk_at dksX1_gathers_0 4 rfl rfl)
theorem dX1_gathers_7 : decode cX1_gathers 7 = .ok (.iconst 1, 1) := dk_4 (dk_at dksX1_gathers_0 7 rfl rfl)
theorem dX1_gathers_8 : decode cX1_gathers 8 = .ok (.newarray .int, 2) := dk_188_10 (dk_at dksX1_gathers_0 8 rfl rfl)
theorem dX1_gathers_10 : decode cX1_gathers 10 = .ok (.dup, 1) := dk_89 (dk_at dksX1_gathers_0 10 rfl rfl)
theorem dX1_gathers_11 : decode cX1_gathers 11 = .ok (.iconst 0, 1) := dk_3 (dk_at dksX1_gathers_0 11 rfl rfl)
theorem dX1_gathers_12 : decode cX1_gathers 12 = .ok (.iload_n 2, 1) := dk_28 (dk_at dksX1_gathers_0 12 rfl rfl)
theorem dX1_gathers_13 : decode cX1_gathers 13 = .ok (.iastore, 1) := dk_79 (dk_at dksX1_gathers_0 13 rfl rfl)
theorem dX1_gathers_14 : decode cX1_gathers 14 = .ok (.invokestatic 92, 3) := dk_184 0 92 (dk_at dksX1_gathers_0 14 rfl rfl)
theorem dX1_gathers_17 : decode cX1_gathers 17 = .ok (.ifCond .eq 20, 3) := dk_153 0 20 (dk_at dksX1_gathers_0 17 rfl rfl)
theorem dX1_gathers_20 : decode cX1_gathers 20 = .ok (.aload_n 0, 1) := dk_42 (dk_at dksX1_gathers_0 20 rfl rfl)
theorem dX1_gathers_21 : decode cX1_gathers 21 = .ok (.iload_n 2, 1) := dk_28 (dk_at dksX1_gathers_0 21 rfl rfl)
theorem dX1_gathers_22 : decode cX1_gathers 22 = .ok (.aload_n 0, 1) := dk_42 (dk_at dksX1_gathers_0 22 rfl rfl)
theorem dX1_gathers_23 : decode cX1_gathers 23 = .ok (.aload_n 0, 1) := dk_42 (dk_at dksX1_gathers_0 23 rfl rfl)
theorem dX1_gathers_24 : decode cX1_gathers 24 = .ok (.iload_n 1, 1) := dk_27 (dk_at dksX1_gathers_1 0 rfl rfl)
theorem dX1_gathers_25 : decode cX1_gathers 25 = .ok (.invokevirtual 194, 3) := dk_182 0 194 (dk_at dksX1_gathers_1 1 rfl rfl)
theorem dX1_gathers_28 : decode cX1_gathers 28 = .ok (.invokevirtual 183, 3) := dk_182 0 183 (dk_at dksX1_gathers_1 4 rfl rfl)
theorem dX1_gathers_31 : decode cX1_gathers 31 = .ok (.invokevirtual 187, 3) := dk_182 0 187 (dk_at dksX1_gathers_1 7 rfl rfl)
theorem dX1_gathers_34 : decode cX1_gathers 34 = .ok (.goto 4, 3) := dk_167 0 4 (dk_at dksX1_gathers_1 10 rfl rfl)
theorem dX1_gathers_37 : decode cX1_gathers 37 = .ok (.iconst (-1), 1) := dk_2 (dk_at dksX1_gathers_1 13 rfl rfl)
theorem dX1_gathers_38 : decode cX1_gathers 38 = .ok (.ireturn, 1) := dk_172 (dk_at dksX1_gathers_1 14 rfl rfl)
abbrev cX1_isSet : ByteArray := prog_1_method_13_code
def yX1_isSet : MethodName := ⟨RX1, "isSet", "(I)Z"⟩
def dkwX1_isSet_0 : List UInt8 := [26, 133, 10, 20, 0, 90, 184, 0, 7, 172]
abbrev dktX1_isSet_0 : List UInt8 := dkwX1_isSet_0 ++ []
theorem dksX1_isSet_0 : cX1_isSet.data.toList.drop 0 = dktX1_isSet_0 := by decide +kernel
theorem dX1_isSet_0 : decode cX1_isSet 0 = .ok (.iload_n 0, 1) := dk_26 (dk_at dksX1_isSet_0 0 rfl rfl)
theorem dX1_isSet_1 : decode cX1_isSet 1 = .ok (.i2l, 1) := dk_133 (dk_at dksX1_isSet_0 1 rfl rfl)
theorem dX1_isSet_2 : decode cX1_isSet 2 = .ok (.lconst 1, 1) := dk_10 (dk_at dksX1_isSet_0 2 rfl rfl)
theorem dX1_isSet_3 : decode cX1_isSet 3 = .ok (.ldc2_w 90, 3) := dk_20 0 90 (dk_at dksX1_isSet_0 3 rfl rfl)
theorem dX1_isSet_6 : decode cX1_isSet 6 = .ok (.invokestatic 7, 3) := dk_184 0 7 (dk_at dksX1_isSet_0 6 rfl rfl)
theorem dX1_isSet_9 : decode cX1_isSet 9 = .ok (.ireturn, 1) := dk_172 (dk_at dksX1_isSet_0 9 rfl rfl)
abbrev cX1_those : ByteArray := prog_1_method_33_code
def yX1_those : MethodName := ⟨RX1, "those", "(I)[LDistinctMarks$Counter;"⟩
def dkwX1_those_2 : List UInt8 := [167, 255, 221, 44, 176]
abbrev dktX1_those_2 : List UInt8 := dkwX1_those_2 ++ []
def dkwX1_those_1 : List UInt8 := [4, 126, 154, 0, 6, 167, 0, 16, 44, 29, 42, 180, 0, 71, 21, 4, 50, 83, 132, 3, 1, 132, 4, 1]
abbrev dktX1_those_1 : List UInt8 := dkwX1_those_1 ++ dktX1_those_2
def dkwX1_those_0 : List UInt8 := [27, 184, 0, 177, 189, 0, 69, 77, 3, 62, 3, 54, 4, 21, 4, 16, 6, 162, 0, 34, 27, 21, 4, 122]
abbrev dktX1_those_0 : List UInt8 := dkwX1_those_0 ++ dktX1_those_1
theorem dksX1_those_0 : cX1_those.data.toList.drop 0 = dktX1_those_0 := by decide +kernel
theorem dksX1_those_1 : cX1_those.data.toList.drop 24 = dktX1_those_1 := dk_seg dksX1_those_0 24 rfl rfl
theorem dksX1_those_2 : cX1_those.data.toList.drop 48 = dktX1_those_2 := dk_seg dksX1_those_1 24 rfl rfl
theorem dX1_those_0 : decode cX1_those 0 = .ok (.iload_n 1, 1) := dk_27 (dk_at dksX1_those_0 0 rfl rfl)
theorem dX1_those_1 : decode cX1_those 1 = .ok (.invokestatic 177, 3) := dk_184 0 177 (dk_at dksX1_those_0 1 rfl rfl)
theorem dX1_those_4 : decode cX1_those 4 = .ok (.anewarray 69, 3) := dk_189 0 69 (dk_at dksX1_those_0 4 rfl rfl)
theorem dX1_those_7 : decode cX1_those 7 = .ok (.astore_n 2, 1) := dk_77 (dk_at dksX1_those_0 7 rfl rfl)
theorem dX1_those_8 : decode cX1_those 8 = .ok (.iconst 0, 1) := dk_3 (dk_at dksX1_those_0 8 rfl rfl)
theorem dX1_those_9 : decode cX1_those 9 = .ok (.istore_n 3, 1) := dk_62 (dk_at dksX1_those_0 9 rfl rfl)
theorem dX1_those_10 : decode cX1_those 10 = .ok (.iconst 0, 1) := dk_3 (dk_at dksX1_those_0 10 rfl rfl)
theorem dX1_those_11 : decode cX1_those 11 = .ok (.istore 4, 2) := dk_54 4 (dk_at dksX1_those_0 11 rfl rfl)
theorem dX1_those_13 : decode cX1_those 13 = .ok (.iload 4, 2) := dk_21 4 (dk_at dksX1_those_0 13 rfl rfl)
theorem dX1_those_15 : decode cX1_those 15 = .ok (.bipush 6, 2) := dk_16 6 (dk_at dksX1_those_0 15 rfl rfl)
theorem dX1_those_17 : decode cX1_those 17 = .ok (.if_icmp .ge 34, 3) := dk_162 0 34 (dk_at dksX1_those_0 17 rfl rfl)
theorem dX1_those_20 : decode cX1_those 20 = .ok (.iload_n 1, 1) := dk_27 (dk_at dksX1_those_0 20 rfl rfl)
theorem dX1_those_21 : decode cX1_those 21 = .ok (.iload 4, 2) := dk_21 4 (dk_at dksX1_those_0 21 rfl rfl)
theorem dX1_those_23 : decode cX1_those 23 = .ok (.ishr, 1) := dk_122 (dk_at dksX1_those_0 23 rfl rfl)
theorem dX1_those_24 : decode cX1_those 24 = .ok (.iconst 1, 1) := dk_4 (dk_at dksX1_those_1 0 rfl rfl)
theorem dX1_those_25 : decode cX1_those 25 = .ok (.iand, 1) := dk_126 (dk_at dksX1_those_1 1 rfl rfl)
theorem dX1_those_26 : decode cX1_those 26 = .ok (.ifCond .ne 6, 3) := dk_154 0 6 (dk_at dksX1_those_1 2 rfl rfl)
theorem dX1_those_29 : decode cX1_those 29 = .ok (.goto 16, 3) := dk_167 0 16 (dk_at dksX1_those_1 5 rfl rfl)
theorem dX1_those_32 : decode cX1_those 32 = .ok (.aload_n 2, 1) := dk_44 (dk_at dksX1_those_1 8 rfl rfl)
theorem dX1_those_33 : decode cX1_those 33 = .ok (.iload_n 3, 1) := dk_29 (dk_at dksX1_those_1 9 rfl rfl)
theorem dX1_those_34 : decode cX1_those 34 = .ok (.aload_n 0, 1) := dk_42 (dk_at dksX1_those_1 10 rfl rfl)
theorem dX1_those_35 : decode cX1_those 35 = .ok (.getfield 71, 3) := dk_180 0 71 (dk_at dksX1_those_1 11 rfl rfl)
theorem dX1_those_38 : decode cX1_those 38 = .ok (.iload 4, 2) := dk_21 4 (dk_at dksX1_those_1 14 rfl rfl)
theorem dX1_those_40 : decode cX1_those 40 = .ok (.aaload, 1) := dk_50 (dk_at dksX1_those_1 16 rfl rfl)
theorem dX1_those_41 : decode cX1_those 41 = .ok (.aastore, 1) := dk_83 (dk_at dksX1_those_1 17 rfl rfl)
theorem dX1_those_42 : decode cX1_those 42 = .ok (.iinc 3 1, 3) := dk_132 3 1 (dk_at dksX1_those_1 18 rfl rfl)
theorem dX1_those_45 : decode cX1_those 45 = .ok (.iinc 4 1, 3) := dk_132 4 1 (dk_at dksX1_those_1 21 rfl rfl)
theorem dX1_those_48 : decode cX1_those 48 = .ok (.goto (-35), 3) := dk_167 255 221 (dk_at dksX1_those_2 0 rfl rfl)
theorem dX1_those_51 : decode cX1_those 51 = .ok (.aload_n 2, 1) := dk_44 (dk_at dksX1_those_2 3 rfl rfl)
theorem dX1_those_52 : decode cX1_those 52 = .ok (.areturn, 1) := dk_176 (dk_at dksX1_those_2 4 rfl rfl)
abbrev cX1_puts : ByteArray := prog_1_method_39_code
def yX1_puts : MethodName := ⟨RX1, "puts", "(IIJ)I"⟩
def dkwX1_puts_8 : List UInt8 := [132, 8, 1, 167, 255, 194, 21, 7, 172]
abbrev dktX1_puts_8 : List UInt8 := dkwX1_puts_8 ++ []
def dkwX1_puts_7 : List UInt8 := [4, 96, 54, 7, 25, 5, 180, 0, 204, 16, 12, 28, 104, 21, 8, 96, 33, 21, 8, 184, 0, 200, 145, 84]
abbrev dktX1_puts_7 : List UInt8 := dkwX1_puts_7 ++ dktX1_puts_8
def dkwX1_puts_6 : List UInt8 := [180, 0, 204, 16, 12, 28, 104, 21, 8, 96, 51, 33, 21, 8, 184, 0, 200, 160, 0, 7, 3, 167, 0, 4]
abbrev dktX1_puts_6 : List UInt8 := dkwX1_puts_6 ++ dktX1_puts_7
def dkwX1_puts_5 : List UInt8 := [132, 7, 1, 167, 255, 226, 3, 54, 7, 3, 54, 8, 21, 8, 21, 6, 162, 0, 61, 21, 7, 25, 5]
abbrev dktX1_puts_5 : List UInt8 := dkwX1_puts_5 ++ dktX1_puts_6
def dkwX1_puts_4 : List UInt8 := [162, 0, 29, 33, 21, 7, 184, 0, 200, 16, 33, 25, 5, 180, 0, 165, 100, 164, 0, 6, 16, 253, 172]
abbrev dktX1_puts_4 : List UInt8 := dkwX1_puts_4 ++ dktX1_puts_5
def dkwX1_puts_3 : List UInt8 := [54, 6, 33, 8, 21, 6, 104, 125, 9, 148, 153, 0, 6, 16, 253, 172, 3, 54, 7, 21, 7, 21, 6]
abbrev dktX1_puts_3 : List UInt8 := dkwX1_puts_3 ++ dktX1_puts_4
def dkwX1_puts_2 : List UInt8 := [180, 0, 151, 154, 0, 6, 16, 254, 172, 16, 12, 25, 5, 182, 0, 98, 16, 12, 28, 104, 100, 184, 0, 28]
abbrev dktX1_puts_2 : List UInt8 := dkwX1_puts_2 ++ dktX1_puts_3
def dkwX1_puts_1 : List UInt8 := [182, 0, 98, 4, 100, 16, 12, 108, 164, 0, 5, 2, 172, 42, 180, 0, 71, 27, 50, 58, 5, 25, 5]
abbrev dktX1_puts_1 : List UInt8 := dkwX1_puts_1 ++ dktX1_puts_2
def dkwX1_puts_0 : List UInt8 := [4, 188, 10, 89, 3, 27, 79, 184, 0, 92, 153, 0, 25, 28, 155, 0, 21, 28, 42, 180, 0, 71, 27, 50]
abbrev dktX1_puts_0 : List UInt8 := dkwX1_puts_0 ++ dktX1_puts_1
theorem dksX1_puts_0 : cX1_puts.data.toList.drop 0 = dktX1_puts_0 := by decide +kernel
theorem dksX1_puts_1 : cX1_puts.data.toList.drop 24 = dktX1_puts_1 := dk_seg dksX1_puts_0 24 rfl rfl
theorem dksX1_puts_2 : cX1_puts.data.toList.drop 47 = dktX1_puts_2 := dk_seg dksX1_puts_1 23 rfl rfl
theorem dksX1_puts_3 : cX1_puts.data.toList.drop 71 = dktX1_puts_3 := dk_seg dksX1_puts_2 24 rfl rfl
theorem dksX1_puts_4 : cX1_puts.data.toList.drop 94 = dktX1_puts_4 := dk_seg dksX1_puts_3 23 rfl rfl
theorem dksX1_puts_5 : cX1_puts.data.toList.drop 117 = dktX1_puts_5 := dk_seg dksX1_puts_4 23 rfl rfl
theorem dksX1_puts_6 : cX1_puts.data.toList.drop 140 = dktX1_puts_6 := dk_seg dksX1_puts_5 23 rfl rfl
theorem dksX1_puts_7 : cX1_puts.data.toList.drop 164 = dktX1_puts_7 := dk_seg dksX1_puts_6 24 rfl rfl
theorem dksX1_puts_8 : cX1_puts.data.toList.drop 188 = dktX1_puts_8 := dk_seg dksX1_puts_7 24 rfl rfl
theorem dX1_puts_0 : decode cX1_puts 0 = .ok (.iconst 1, 1) := dk_4 (dk_at dksX1_puts_0 0 rfl rfl)
theorem dX1_puts_1 : decode cX1_puts 1 = .ok (.newarray .int, 2) := dk_188_10 (dk_at dksX1_puts_0 1 rfl rfl)
theorem dX1_puts_3 : decode cX1_puts 3 = .ok (.dup, 1) := dk_89 (dk_at dksX1_puts_0 3 rfl rfl)
theorem dX1_puts_4 : decode cX1_puts 4 = .ok (.iconst 0, 1) := dk_3 (dk_at dksX1_puts_0 4 rfl rfl)
theorem dX1_puts_5 : decode cX1_puts 5 = .ok (.iload_n 1, 1) := dk_27 (dk_at dksX1_puts_0 5 rfl rfl)
theorem dX1_puts_6 : decode cX1_puts 6 = .ok (.iastore, 1) := dk_79 (dk_at dksX1_puts_0 6 rfl rfl)
theorem dX1_puts_7 : decode cX1_puts 7 = .ok (.invokestatic 92, 3) := dk_184 0 92 (dk_at dksX1_puts_0 7 rfl rfl)
theorem dX1_puts_10 : decode cX1_puts 10 = .ok (.ifCond .eq 25, 3) := dk_153 0 25 (dk_at dksX1_puts_0 10 rfl rfl)
theorem dX1_puts_13 : decode cX1_puts 13 = .ok (.iload_n 2, 1) := dk_28 (dk_at dksX1_puts_0 13 rfl rfl)
theorem dX1_puts_14 : decode cX1_puts 14 = .ok (.ifCond .lt 21, 3) := dk_155 0 21 (dk_at dksX1_puts_0 14 rfl rfl)
theorem dX1_puts_17 : decode cX1_puts 17 = .ok (.iload_n 2, 1) := dk_28 (dk_at dksX1_puts_0 17 rfl rfl)
theorem dX1_puts_18 : decode cX1_puts 18 = .ok (.aload_n 0, 1) := dk_42 (dk_at dksX1_puts_0 18 rfl rfl)
theorem dX1_puts_19 : decode cX1_puts 19 = .ok (.getfield 71, 3) := dk_180 0 71 (dk_at dksX1_puts_0 19 rfl rfl)
theorem dX1_puts_22 : decode cX1_puts 22 = .ok (.iload_n 1, 1) := dk_27 (dk_at dksX1_puts_0 22 rfl rfl)
theorem dX1_puts_23 : decode cX1_puts 23 = .ok (.aaload, 1) := dk_50 (dk_at dksX1_puts_0 23 rfl rfl)
theorem dX1_puts_24 : decode cX1_puts 24 = .ok (.invokevirtual 98, 3) := dk_182 0 98 (dk_at dksX1_puts_1 0 rfl rfl)
theorem dX1_puts_27 : decode cX1_puts 27 = .ok (.iconst 1, 1) := dk_4 (dk_at dksX1_puts_1 3 rfl rfl)
theorem dX1_puts_28 : decode cX1_puts 28 = .ok (.isub, 1) := dk_100 (dk_at dksX1_puts_1 4 rfl rfl)
theorem dX1_puts_29 : decode cX1_puts 29 = .ok (.bipush 12, 2) := dk_16 12 (dk_at dksX1_puts_1 5 rfl rfl)
theorem dX1_puts_31 : decode cX1_puts 31 = .ok (.idiv, 1) := dk_108 (dk_at dksX1_puts_1 7 rfl rfl)
theorem dX1_puts_32 : decode cX1_puts 32 = .ok (.if_icmp .le 5, 3) := dk_164 0 5 (dk_at dksX1_puts_1 8 rfl rfl)
theorem dX1_puts_35 : decode cX1_puts 35 = .ok (.iconst (-1), 1) := dk_2 (dk_at dksX1_puts_1 11 rfl rfl)
theorem dX1_puts_36 : decode cX1_puts 36 = .ok (.ireturn, 1) := dk_172 (dk_at dksX1_puts_1 12 rfl rfl)
theorem dX1_puts_37 : decode cX1_puts 37 = .ok (.aload_n 0, 1) := dk_42 (dk_at dksX1_puts_1 13 rfl rfl)
theorem dX1_puts_38 : decode cX1_puts 38 = .ok (.getfield 71, 3) := dk_180 0 71 (dk_at dksX1_puts_1 14 rfl rfl)
theorem dX1_puts_41 : decode cX1_puts 41 = .ok (.iload_n 1, 1) := dk_27 (dk_at dksX1_puts_1 17 rfl rfl)
theorem dX1_puts_42 : decode cX1_puts 42 = .ok (.aaload, 1) := dk_50 (dk_at dksX1_puts_1 18 rfl rfl)
theorem dX1_puts_43 : decode cX1_puts 43 = .ok (.astore 5, 2) := dk_58 5 (dk_at dksX1_puts_1 19 rfl rfl)
theorem dX1_puts_45 : decode cX1_puts 45 = .ok (.aload 5, 2) := dk_25 5 (dk_at dksX1_puts_1 21 rfl rfl)
theorem dX1_puts_47 : decode cX1_puts 47 = .ok (.getfield 151, 3) := dk_180 0 151 (dk_at dksX1_puts_2 0 rfl rfl)
theorem dX1_puts_50 : decode cX1_puts 50 = .ok (.ifCond .ne 6, 3) := dk_154 0 6 (dk_at dksX1_puts_2 3 rfl rfl)
theorem dX1_puts_53 : decode cX1_puts 53 = .ok (.bipush (-2), 2) := dk_16 254 (dk_at dksX1_puts_2 6 rfl rfl)
theorem dX1_puts_55 : decode cX1_puts 55 = .ok (.ireturn, 1) := dk_172 (dk_at dksX1_puts_2 8 rfl rfl)
theorem dX1_puts_56 : decode cX1_puts 56 = .ok (.bipush 12, 2) := dk_16 12 (dk_at dksX1_puts_2 9 rfl rfl)
theorem dX1_puts_58 : decode cX1_puts 58 = .ok (.aload 5, 2) := dk_25 5 (dk_at dksX1_puts_2 11 rfl rfl)
theorem dX1_puts_60 : decode cX1_puts 60 = .ok (.invokevirtual 98, 3) := dk_182 0 98 (dk_at dksX1_puts_2 13 rfl rfl)
theorem dX1_puts_63 : decode cX1_puts 63 = .ok (.bipush 12, 2) := dk_16 12 (dk_at dksX1_puts_2 16 rfl rfl)
theorem dX1_puts_65 : decode cX1_puts 65 = .ok (.iload_n 2, 1) := dk_28 (dk_at dksX1_puts_2 18 rfl rfl)
theorem dX1_puts_66 : decode cX1_puts 66 = .ok (.imul, 1) := dk_104 (dk_at dksX1_puts_2 19 rfl rfl)
theorem dX1_puts_67 : decode cX1_puts 67 = .ok (.isub, 1) := dk_100 (dk_at dksX1_puts_2 20 rfl rfl)
theorem dX1_puts_68 : decode cX1_puts 68 = .ok (.invokestatic 28, 3) := dk_184 0 28 (dk_at dksX1_puts_2 21 rfl rfl)
theorem dX1_puts_71 : decode cX1_puts 71 = .ok (.istore 6, 2) := dk_54 6 (dk_at dksX1_puts_3 0 rfl rfl)
theorem dX1_puts_73 : decode cX1_puts 73 = .ok (.lload_n 3, 1) := dk_33 (dk_at dksX1_puts_3 2 rfl rfl)
theorem dX1_puts_74 : decode cX1_puts 74 = .ok (.iconst 5, 1) := dk_8 (dk_at dksX1_puts_3 3 rfl rfl)
theorem dX1_puts_75 : decode cX1_puts 75 = .ok (.iload 6, 2) := dk_21 6 (dk_at dksX1_puts_3 4 rfl rfl)
theorem dX1_puts_77 : decode cX1_puts 77 = .ok (.imul, 1) := dk_104 (dk_at dksX1_puts_3 6 rfl rfl)
theorem dX1_puts_78 : decode cX1_puts 78 = .ok (.lushr, 1) := dk_125 (dk_at dksX1_puts_3 7 rfl rfl)
theorem dX1_puts_79 : decode cX1_puts 79 = .ok (.lconst 0, 1) := dk_9 (dk_at dksX1_puts_3 8 rfl rfl)
theorem dX1_puts_80 : decode cX1_puts 80 = .ok (.lcmp, 1) := dk_148 (dk_at dksX1_puts_3 9 rfl rfl)
theorem dX1_puts_81 : decode cX1_puts 81 = .ok (.ifCond .eq 6, 3) := dk_153 0 6 (dk_at dksX1_puts_3 10 rfl rfl)
theorem dX1_puts_84 : decode cX1_puts 84 = .ok (.bipush (-3), 2) := dk_16 253 (dk_at dksX1_puts_3 13 rfl rfl)
theorem dX1_puts_86 : decode cX1_puts 86 = .ok (.ireturn, 1) := dk_172 (dk_at dksX1_puts_3 15 rfl rfl)
theorem dX1_puts_87 : decode cX1_puts 87 = .ok (.iconst 0, 1) := dk_3 (dk_at dksX1_puts_3 16 rfl rfl)
theorem dX1_puts_88 : decode cX1_puts 88 = .ok (.istore 7, 2) := dk_54 7 (dk_at dksX1_puts_3 17 rfl rfl)
theorem dX1_puts_90 : decode cX1_puts 90 = .ok (.iload 7, 2) := dk_21 7 (dk_at dksX1_puts_3 19 rfl rfl)
theorem dX1_puts_92 : decode cX1_puts 92 = .ok (.iload 6, 2) := dk_21 6 (dk_at dksX1_puts_3 21 rfl rfl)
theorem dX1_puts_94 : decode cX1_puts 94 = .ok (.if_icmp .ge 29, 3) := dk_162 0 29 (dk_at dksX1_puts_4 0 rfl rfl)
theorem dX1_puts_97 : decode cX1_puts 97 = .ok (.lload_n 3, 1) := dk_33 (dk_at dksX1_puts_4 3 rfl rfl)
theorem dX1_puts_98 : decode cX1_puts 98 = .ok (.iload 7, 2) := dk_21 7 (dk_at dksX1_puts_4 4 rfl rfl)
theorem dX1_puts_100 : decode cX1_puts 100 = .ok (.invokestatic 200, 3) := dk_184 0 200 (dk_at dksX1_puts_4 6 rfl rfl)
theorem dX1_puts_103 : decode cX1_puts 103 = .ok (.bipush 33, 2) := dk_16 33 (dk_at dksX1_puts_4 9 rfl rfl)
theorem dX1_puts_105 : decode cX1_puts 105 = .ok (.aload 5, 2) := dk_25 5 (dk_at dksX1_puts_4 11 rfl rfl)
theorem dX1_puts_107 : decode cX1_puts 107 = .ok (.getfield 165, 3) := dk_180 0 165 (dk_at dksX1_puts_4 13 rfl rfl)
theorem dX1_puts_110 : decode cX1_puts 110 = .ok (.isub, 1) := dk_100 (dk_at dksX1_puts_4 16 rfl rfl)
theorem dX1_puts_111 : decode cX1_puts 111 = .ok (.if_icmp .le 6, 3) := dk_164 0 6 (dk_at dksX1_puts_4 17 rfl rfl)
theorem dX1_puts_114 : decode cX1_puts 114 = .ok (.bipush (-3), 2) := dk_16 253 (dk_at dksX1_puts_4 20 rfl rfl)
theorem dX1_puts_116 : decode cX1_puts 116 = .ok (.ireturn, 1) := dk_172 (dk_at dksX1_puts_4 22 rfl rfl)
theorem dX1_puts_117 : decode cX1_puts 117 = .ok (.iinc 7 1, 3) := dk_132 7 1 (dk_at dksX1_puts_5 0 rfl rfl)
theorem dX1_puts_120 : decode cX1_puts 120 = .ok (.goto (-30), 3) := dk_167 255 226 (dk_at dksX1_puts_5 3 rfl rfl)
theorem dX1_puts_123 : decode cX1_puts 123 = .ok (.iconst 0, 1) := dk_3 (dk_at dksX1_puts_5 6 rfl rfl)
theorem dX1_puts_124 : decode cX1_puts 124 = .ok (.istore 7, 2) := dk_54 7 (dk_at dksX1_puts_5 7 rfl rfl)
theorem dX1_puts_126 : decode cX1_puts 126 = .ok (.iconst 0, 1) := dk_3 (dk_at dksX1_puts_5 9 rfl rfl)
theorem dX1_puts_127 : decode cX1_puts 127 = .ok (.istore 8, 2) := dk_54 8 (dk_at dksX1_puts_5 10 rfl rfl)
theorem dX1_puts_129 : decode cX1_puts 129 = .ok (.iload 8, 2) := dk_21 8 (dk_at dksX1_puts_5 12 rfl rfl)
theorem dX1_puts_131 : decode cX1_puts 131 = .ok (.iload 6, 2) := dk_21 6 (dk_at dksX1_puts_5 14 rfl rfl)
theorem dX1_puts_133 : decode cX1_puts 133 = .ok (.if_icmp .ge 61, 3) := dk_162 0 61 (dk_at dksX1_puts_5 16 rfl rfl)
theorem dX1_puts_136 : decode cX1_puts 136 = .ok (.iload 7, 2) := dk_21 7 (dk_at dksX1_puts_5 19 rfl rfl)
theorem dX1_puts_138 : decode cX1_puts 138 = .ok (.aload 5, 2) := dk_25 5 (dk_at dksX1_puts_5 21 rfl rfl)
theorem dX1_puts_140 : decode cX1_puts 140 = .ok (.getfield 204, 3) := dk_180 0 204 (dk_at dksX1_puts_6 0 rfl rfl)
theorem dX1_puts_143 : decode cX1_puts 143 = .ok (.bipush 12, 2) := dk_16 12 (dk_at dksX1_puts_6 3 rfl rfl)
theorem dX1_puts_145 : decode cX1_puts 145 = .ok (.iload_n 2, 1) := dk_28 (dk_at dksX1_puts_6 5 rfl rfl)
theorem dX1_puts_146 : decode cX1_puts 146 = .ok (.imul, 1) := dk_104 (dk_at dksX1_puts_6 6 rfl rfl)
theorem dX1_puts_147 : decode cX1_puts 147 = .ok (.iload 8, 2) := dk_21 8 (dk_at dksX1_puts_6 7 rfl rfl)
theorem dX1_puts_149 : decode cX1_puts 149 = .ok (.iadd, 1) := dk_96 (dk_at dksX1_puts_6 9 rfl rfl)
theorem dX1_puts_150 : decode cX1_puts 150 = .ok (.baload, 1) := dk_51 (dk_at dksX1_puts_6 10 rfl rfl)
theorem dX1_puts_151 : decode cX1_puts 151 = .ok (.lload_n 3, 1) := dk_33 (dk_at dksX1_puts_6 11 rfl rfl)
theorem dX1_puts_152 : decode cX1_puts 152 = .ok (.iload 8, 2) := dk_21 8 (dk_at dksX1_puts_6 12 rfl rfl)
theorem dX1_puts_154 : decode cX1_puts 154 = .ok (.invokestatic 200, 3) := dk_184 0 200 (dk_at dksX1_puts_6 14 rfl rfl)
theorem dX1_puts_157 : decode cX1_puts 157 = .ok (.if_icmp .ne 7, 3) := dk_160 0 7 (dk_at dksX1_puts_6 17 rfl rfl)
theorem dX1_puts_160 : decode cX1_puts 160 = .ok (.iconst 0, 1) := dk_3 (dk_at dksX1_puts_6 20 rfl rfl)
theorem dX1_puts_161 : decode cX1_puts 161 = .ok (.goto 4, 3) := dk_167 0 4 (dk_at dksX1_puts_6 21 rfl rfl)
theorem dX1_puts_164 : decode cX1_puts 164 = .ok (.iconst 1, 1) := dk_4 (dk_at dksX1_puts_7 0 rfl rfl)
theorem dX1_puts_165 : decode cX1_puts 165 = .ok (.iadd, 1) := dk_96 (dk_at dksX1_puts_7 1 rfl rfl)
theorem dX1_puts_166 : decode cX1_puts 166 = .ok (.istore 7, 2) := dk_54 7 (dk_at dksX1_puts_7 2 rfl rfl)
theorem dX1_puts_168 : decode cX1_puts 168 = .ok (.aload 5, 2) := dk_25 5 (dk_at dksX1_puts_7 4 rfl rfl)
theorem dX1_puts_170 : decode cX1_puts 170 = .ok (.getfield 204, 3) := dk_180 0 204 (dk_at dksX1_puts_7 6 rfl rfl)
theorem dX1_puts_173 : decode cX1_puts 173 = .ok (.bipush 12, 2) := dk_16 12 (dk_at dksX1_puts_7 9 rfl rfl)
theorem dX1_puts_175 : decode cX1_puts 175 = .ok (.iload_n 2, 1) := dk_28 (dk_at dksX1_puts_7 11 rfl rfl)
theorem dX1_puts_176 : decode cX1_puts 176 = .ok (.imul, 1) := dk_104 (dk_at dksX1_puts_7 12 rfl rfl)
theorem dX1_puts_177 : decode cX1_puts 177 = .ok (.iload 8, 2) := dk_21 8 (dk_at dksX1_puts_7 13 rfl rfl)
theorem dX1_puts_179 : decode cX1_puts 179 = .ok (.iadd, 1) := dk_96 (dk_at dksX1_puts_7 15 rfl rfl)
theorem dX1_puts_180 : decode cX1_puts 180 = .ok (.lload_n 3, 1) := dk_33 (dk_at dksX1_puts_7 16 rfl rfl)
theorem dX1_puts_181 : decode cX1_puts 181 = .ok (.iload 8, 2) := dk_21 8 (dk_at dksX1_puts_7 17 rfl rfl)
theorem dX1_puts_183 : decode cX1_puts 183 = .ok (.invokestatic 200, 3) := dk_184 0 200 (dk_at dksX1_puts_7 19 rfl rfl)
theorem dX1_puts_186 : decode cX1_puts 186 = .ok (.i2b, 1) := dk_145 (dk_at dksX1_puts_7 22 rfl rfl)
theorem dX1_puts_187 : decode cX1_puts 187 = .ok (.bastore, 1) := dk_84 (dk_at dksX1_puts_7 23 rfl rfl)
theorem dX1_puts_188 : decode cX1_puts 188 = .ok (.iinc 8 1, 3) := dk_132 8 1 (dk_at dksX1_puts_8 0 rfl rfl)
theorem dX1_puts_191 : decode cX1_puts 191 = .ok (.goto (-62), 3) := dk_167 255 194 (dk_at dksX1_puts_8 3 rfl rfl)
theorem dX1_puts_194 : decode cX1_puts 194 = .ok (.iload 7, 2) := dk_21 7 (dk_at dksX1_puts_8 6 rfl rfl)
theorem dX1_puts_196 : decode cX1_puts 196 = .ok (.ireturn, 1) := dk_172 (dk_at dksX1_puts_8 8 rfl rfl)
abbrev cX1_rankIn : ByteArray := prog_1_method_38_code
def yX1_rankIn : MethodName := ⟨RX1, "rankIn", "(JI)I"⟩
def dkwX1_rankIn_0 : List UInt8 := [30, 8, 28, 104, 123, 20, 0, 198, 127, 136, 172]
abbrev dktX1_rankIn_0 : List UInt8 := dkwX1_rankIn_0 ++ []
theorem dksX1_rankIn_0 : cX1_rankIn.data.toList.drop 0 = dktX1_rankIn_0 := by decide +kernel
theorem dX1_rankIn_0 : decode cX1_rankIn 0 = .ok (.lload_n 0, 1) := dk_30 (dk_at dksX1_rankIn_0 0 rfl rfl)
theorem dX1_rankIn_1 : decode cX1_rankIn 1 = .ok (.iconst 5, 1) := dk_8 (dk_at dksX1_rankIn_0 1 rfl rfl)
theorem dX1_rankIn_2 : decode cX1_rankIn 2 = .ok (.iload_n 2, 1) := dk_28 (dk_at dksX1_rankIn_0 2 rfl rfl)
theorem dX1_rankIn_3 : decode cX1_rankIn 3 = .ok (.imul, 1) := dk_104 (dk_at dksX1_rankIn_0 3 rfl rfl)
theorem dX1_rankIn_4 : decode cX1_rankIn 4 = .ok (.lshr, 1) := dk_123 (dk_at dksX1_rankIn_0 4 rfl rfl)
theorem dX1_rankIn_5 : decode cX1_rankIn 5 = .ok (.ldc2_w 198, 3) := dk_20 0 198 (dk_at dksX1_rankIn_0 5 rfl rfl)
theorem dX1_rankIn_8 : decode cX1_rankIn 8 = .ok (.land, 1) := dk_127 (dk_at dksX1_rankIn_0 8 rfl rfl)
theorem dX1_rankIn_9 : decode cX1_rankIn 9 = .ok (.l2i, 1) := dk_136 (dk_at dksX1_rankIn_0 9 rfl rfl)
theorem dX1_rankIn_10 : decode cX1_rankIn 10 = .ok (.ireturn, 1) := dk_172 (dk_at dksX1_rankIn_0 10 rfl rfl)
abbrev cX1_swaps : ByteArray := prog_1_method_40_code
def yX1_swaps : MethodName := ⟨RX1, "swaps", "(II)I"⟩
def dkwX1_swaps_2 : List UInt8 := [180, 0, 71, 27, 50, 182, 0, 180, 172]
abbrev dktX1_swaps_2 : List UInt8 := dkwX1_swaps_2 ++ []
def dkwX1_swaps_1 : List UInt8 := [50, 78, 42, 180, 0, 71, 27, 42, 180, 0, 71, 28, 50, 83, 42, 180, 0, 71, 28, 45, 83, 42]
abbrev dktX1_swaps_1 : List UInt8 := dkwX1_swaps_1 ++ dktX1_swaps_2
def dkwX1_swaps_0 : List UInt8 := [5, 188, 10, 89, 3, 27, 79, 89, 4, 28, 79, 184, 0, 92, 154, 0, 5, 2, 172, 42, 180, 0, 71, 27]
abbrev dktX1_swaps_0 : List UInt8 := dkwX1_swaps_0 ++ dktX1_swaps_1
theorem dksX1_swaps_0 : cX1_swaps.data.toList.drop 0 = dktX1_swaps_0 := by decide +kernel
theorem dksX1_swaps_1 : cX1_swaps.data.toList.drop 24 = dktX1_swaps_1 := dk_seg dksX1_swaps_0 24 rfl rfl
theorem dksX1_swaps_2 : cX1_swaps.data.toList.drop 46 = dktX1_swaps_2 := dk_seg dksX1_swaps_1 22 rfl rfl
theorem dX1_swaps_0 : decode cX1_swaps 0 = .ok (.iconst 2, 1) := dk_5 (dk_at dksX1_swaps_0 0 rfl rfl)
theorem dX1_swaps_1 : decode cX1_swaps 1 = .ok (.newarray .int, 2) := dk_188_10 (dk_at dksX1_swaps_0 1 rfl rfl)
theorem dX1_swaps_3 : decode cX1_swaps 3 = .ok (.dup, 1) := dk_89 (dk_at dksX1_swaps_0 3 rfl rfl)
theorem dX1_swaps_4 : decode cX1_swaps 4 = .ok (.iconst 0, 1) := dk_3 (dk_at dksX1_swaps_0 4 rfl rfl)
theorem dX1_swaps_5 : decode cX1_swaps 5 = .ok (.iload_n 1, 1) := dk_27 (dk_at dksX1_swaps_0 5 rfl rfl)
theorem dX1_swaps_6 : decode cX1_swaps 6 = .ok (.iastore, 1) := dk_79 (dk_at dksX1_swaps_0 6 rfl rfl)
theorem dX1_swaps_7 : decode cX1_swaps 7 = .ok (.dup, 1) := dk_89 (dk_at dksX1_swaps_0 7 rfl rfl)
theorem dX1_swaps_8 : decode cX1_swaps 8 = .ok (.iconst 1, 1) := dk_4 (dk_at dksX1_swaps_0 8 rfl rfl)
theorem dX1_swaps_9 : decode cX1_swaps 9 = .ok (.iload_n 2, 1) := dk_28 (dk_at dksX1_swaps_0 9 rfl rfl)
theorem dX1_swaps_10 : decode cX1_swaps 10 = .ok (.iastore, 1) := dk_79 (dk_at dksX1_swaps_0 10 rfl rfl)
theorem dX1_swaps_11 : decode cX1_swaps 11 = .ok (.invokestatic 92, 3) := dk_184 0 92 (dk_at dksX1_swaps_0 11 rfl rfl)
theorem dX1_swaps_14 : decode cX1_swaps 14 = .ok (.ifCond .ne 5, 3) := dk_154 0 5 (dk_at dksX1_swaps_0 14 rfl rfl)
theorem dX1_swaps_17 : decode cX1_swaps 17 = .ok (.iconst (-1), 1) := dk_2 (dk_at dksX1_swaps_0 17 rfl rfl)
theorem dX1_swaps_18 : decode cX1_swaps 18 = .ok (.ireturn, 1) := dk_172 (dk_at dksX1_swaps_0 18 rfl rfl)
theorem dX1_swaps_19 : decode cX1_swaps 19 = .ok (.aload_n 0, 1) := dk_42 (dk_at dksX1_swaps_0 19 rfl rfl)
theorem dX1_swaps_20 : decode cX1_swaps 20 = .ok (.getfield 71, 3) := dk_180 0 71 (dk_at dksX1_swaps_0 20 rfl rfl)
theorem dX1_swaps_23 : decode cX1_swaps 23 = .ok (.iload_n 1, 1) := dk_27 (dk_at dksX1_swaps_0 23 rfl rfl)
theorem dX1_swaps_24 : decode cX1_swaps 24 = .ok (.aaload, 1) := dk_50 (dk_at dksX1_swaps_1 0 rfl rfl)
theorem dX1_swaps_25 : decode cX1_swaps 25 = .ok (.astore_n 3, 1) := dk_78 (dk_at dksX1_swaps_1 1 rfl rfl)
theorem dX1_swaps_26 : decode cX1_swaps 26 = .ok (.aload_n 0, 1) := dk_42 (dk_at dksX1_swaps_1 2 rfl rfl)
theorem dX1_swaps_27 : decode cX1_swaps 27 = .ok (.getfield 71, 3) := dk_180 0 71 (dk_at dksX1_swaps_1 3 rfl rfl)
theorem dX1_swaps_30 : decode cX1_swaps 30 = .ok (.iload_n 1, 1) := dk_27 (dk_at dksX1_swaps_1 6 rfl rfl)
theorem dX1_swaps_31 : decode cX1_swaps 31 = .ok (.aload_n 0, 1) := dk_42 (dk_at dksX1_swaps_1 7 rfl rfl)
theorem dX1_swaps_32 : decode cX1_swaps 32 = .ok (.getfield 71, 3) := dk_180 0 71 (dk_at dksX1_swaps_1 8 rfl rfl)
theorem dX1_swaps_35 : decode cX1_swaps 35 = .ok (.iload_n 2, 1) := dk_28 (dk_at dksX1_swaps_1 11 rfl rfl)
theorem dX1_swaps_36 : decode cX1_swaps 36 = .ok (.aaload, 1) := dk_50 (dk_at dksX1_swaps_1 12 rfl rfl)
theorem dX1_swaps_37 : decode cX1_swaps 37 = .ok (.aastore, 1) := dk_83 (dk_at dksX1_swaps_1 13 rfl rfl)
theorem dX1_swaps_38 : decode cX1_swaps 38 = .ok (.aload_n 0, 1) := dk_42 (dk_at dksX1_swaps_1 14 rfl rfl)
theorem dX1_swaps_39 : decode cX1_swaps 39 = .ok (.getfield 71, 3) := dk_180 0 71 (dk_at dksX1_swaps_1 15 rfl rfl)
theorem dX1_swaps_42 : decode cX1_swaps 42 = .ok (.iload_n 2, 1) := dk_28 (dk_at dksX1_swaps_1 18 rfl rfl)
theorem dX1_swaps_43 : decode cX1_swaps 43 = .ok (.aload_n 3, 1) := dk_45 (dk_at dksX1_swaps_1 19 rfl rfl)
theorem dX1_swaps_44 : decode cX1_swaps 44 = .ok (.aastore, 1) := dk_83 (dk_at dksX1_swaps_1 20 rfl rfl)
theorem dX1_swaps_45 : decode cX1_swaps 45 = .ok (.aload_n 0, 1) := dk_42 (dk_at dksX1_swaps_1 21 rfl rfl)
theorem dX1_swaps_46 : decode cX1_swaps 46 = .ok (.getfield 71, 3) := dk_180 0 71 (dk_at dksX1_swaps_2 0 rfl rfl)
theorem dX1_swaps_49 : decode cX1_swaps 49 = .ok (.iload_n 1, 1) := dk_27 (dk_at dksX1_swaps_2 3 rfl rfl)
theorem dX1_swaps_50 : decode cX1_swaps 50 = .ok (.aaload, 1) := dk_50 (dk_at dksX1_swaps_2 4 rfl rfl)
theorem dX1_swaps_51 : decode cX1_swaps 51 = .ok (.invokevirtual 180, 3) := dk_182 0 180 (dk_at dksX1_swaps_2 5 rfl rfl)
theorem dX1_swaps_54 : decode cX1_swaps 54 = .ok (.ireturn, 1) := dk_172 (dk_at dksX1_swaps_2 8 rfl rfl)
abbrev cX1_keeps : ByteArray := prog_1_method_42_code
def yX1_keeps : MethodName := ⟨RX1, "keeps", "(III)I"⟩
def dkwX1_keeps_4 : List UInt8 := [186, 0, 219, 0, 0, 182, 0, 222, 182, 0, 187, 172]
abbrev dktX1_keeps_4 : List UInt8 := dkwX1_keeps_4 ++ []
def dkwX1_keeps_3 : List UInt8 := [180, 0, 165, 184, 0, 28, 25, 4, 180, 0, 171, 25, 5, 180, 0, 171, 184, 0, 28, 25, 5]
abbrev dktX1_keeps_3 : List UInt8 := dkwX1_keeps_3 ++ dktX1_keeps_4
def dkwX1_keeps_2 : List UInt8 := [25, 5, 180, 0, 151, 153, 0, 6, 16, 254, 172, 42, 29, 42, 25, 4, 25, 4, 180, 0, 165, 25, 5]
abbrev dktX1_keeps_2 : List UInt8 := dkwX1_keeps_2 ++ dktX1_keeps_3
def dkwX1_keeps_1 : List UInt8 := [180, 0, 71, 27, 50, 58, 4, 42, 180, 0, 71, 28, 50, 58, 5, 25, 4, 180, 0, 151, 154, 0, 11]
abbrev dktX1_keeps_1 : List UInt8 := dkwX1_keeps_1 ++ dktX1_keeps_2
def dkwX1_keeps_0 : List UInt8 := [6, 188, 10, 89, 3, 27, 79, 89, 4, 28, 79, 89, 5, 29, 79, 184, 0, 92, 154, 0, 5, 2, 172, 42]
abbrev dktX1_keeps_0 : List UInt8 := dkwX1_keeps_0 ++ dktX1_keeps_1
theorem dksX1_keeps_0 : cX1_keeps.data.toList.drop 0 = dktX1_keeps_0 := by decide +kernel
theorem dksX1_keeps_1 : cX1_keeps.data.toList.drop 24 = dktX1_keeps_1 := dk_seg dksX1_keeps_0 24 rfl rfl
theorem dksX1_keeps_2 : cX1_keeps.data.toList.drop 47 = dktX1_keeps_2 := dk_seg dksX1_keeps_1 23 rfl rfl
theorem dksX1_keeps_3 : cX1_keeps.data.toList.drop 70 = dktX1_keeps_3 := dk_seg dksX1_keeps_2 23 rfl rfl
theorem dksX1_keeps_4 : cX1_keeps.data.toList.drop 91 = dktX1_keeps_4 := dk_seg dksX1_keeps_3 21 rfl rfl
theorem dX1_keeps_0 : decode cX1_keeps 0 = .ok (.iconst 3, 1) := dk_6 (dk_at dksX1_keeps_0 0 rfl rfl)
theorem dX1_keeps_1 : decode cX1_keeps 1 = .ok (.newarray .int, 2) := dk_188_10 (dk_at dksX1_keeps_0 1 rfl rfl)
theorem dX1_keeps_3 : decode cX1_keeps 3 = .ok (.dup, 1) := dk_89 (dk_at dksX1_keeps_0 3 rfl rfl)
theorem dX1_keeps_4 : decode cX1_keeps 4 = .ok (.iconst 0, 1) := dk_3 (dk_at dksX1_keeps_0 4 rfl rfl)
theorem dX1_keeps_5 : decode cX1_keeps 5 = .ok (.iload_n 1, 1) := dk_27 (dk_at dksX1_keeps_0 5 rfl rfl)
theorem dX1_keeps_6 : decode cX1_keeps 6 = .ok (.iastore, 1) := dk_79 (dk_at dksX1_keeps_0 6 rfl rfl)
theorem dX1_keeps_7 : decode cX1_keeps 7 = .ok (.dup, 1) := dk_89 (dk_at dksX1_keeps_0 7 rfl rfl)
theorem dX1_keeps_8 : decode cX1_keeps 8 = .ok (.iconst 1, 1) := dk_4 (dk_at dksX1_keeps_0 8 rfl rfl)
theorem dX1_keeps_9 : decode cX1_keeps 9 = .ok (.iload_n 2, 1) := dk_28 (dk_at dksX1_keeps_0 9 rfl rfl)
theorem dX1_keeps_10 : decode cX1_keeps 10 = .ok (.iastore, 1) := dk_79 (dk_at dksX1_keeps_0 10 rfl rfl)
theorem dX1_keeps_11 : decode cX1_keeps 11 = .ok (.dup, 1) := dk_89 (dk_at dksX1_keeps_0 11 rfl rfl)
theorem dX1_keeps_12 : decode cX1_keeps 12 = .ok (.iconst 2, 1) := dk_5 (dk_at dksX1_keeps_0 12 rfl rfl)
theorem dX1_keeps_13 : decode cX1_keeps 13 = .ok (.iload_n 3, 1) := dk_29 (dk_at dksX1_keeps_0 13 rfl rfl)
theorem dX1_keeps_14 : decode cX1_keeps 14 = .ok (.iastore, 1) := dk_79 (dk_at dksX1_keeps_0 14 rfl rfl)
theorem dX1_keeps_15 : decode cX1_keeps 15 = .ok (.invokestatic 92, 3) := dk_184 0 92 (dk_at dksX1_keeps_0 15 rfl rfl)
theorem dX1_keeps_18 : decode cX1_keeps 18 = .ok (.ifCond .ne 5, 3) := dk_154 0 5 (dk_at dksX1_keeps_0 18 rfl rfl)
theorem dX1_keeps_21 : decode cX1_keeps 21 = .ok (.iconst (-1), 1) := dk_2 (dk_at dksX1_keeps_0 21 rfl rfl)
theorem dX1_keeps_22 : decode cX1_keeps 22 = .ok (.ireturn, 1) := dk_172 (dk_at dksX1_keeps_0 22 rfl rfl)
theorem dX1_keeps_23 : decode cX1_keeps 23 = .ok (.aload_n 0, 1) := dk_42 (dk_at dksX1_keeps_0 23 rfl rfl)
theorem dX1_keeps_24 : decode cX1_keeps 24 = .ok (.getfield 71, 3) := dk_180 0 71 (dk_at dksX1_keeps_1 0 rfl rfl)
theorem dX1_keeps_27 : decode cX1_keeps 27 = .ok (.iload_n 1, 1) := dk_27 (dk_at dksX1_keeps_1 3 rfl rfl)
theorem dX1_keeps_28 : decode cX1_keeps 28 = .ok (.aaload, 1) := dk_50 (dk_at dksX1_keeps_1 4 rfl rfl)
theorem dX1_keeps_29 : decode cX1_keeps 29 = .ok (.astore 4, 2) := dk_58 4 (dk_at dksX1_keeps_1 5 rfl rfl)
theorem dX1_keeps_31 : decode cX1_keeps 31 = .ok (.aload_n 0, 1) := dk_42 (dk_at dksX1_keeps_1 7 rfl rfl)
theorem dX1_keeps_32 : decode cX1_keeps 32 = .ok (.getfield 71, 3) := dk_180 0 71 (dk_at dksX1_keeps_1 8 rfl rfl)
theorem dX1_keeps_35 : decode cX1_keeps 35 = .ok (.iload_n 2, 1) := dk_28 (dk_at dksX1_keeps_1 11 rfl rfl)
theorem dX1_keeps_36 : decode cX1_keeps 36 = .ok (.aaload, 1) := dk_50 (dk_at dksX1_keeps_1 12 rfl rfl)
theorem dX1_keeps_37 : decode cX1_keeps 37 = .ok (.astore 5, 2) := dk_58 5 (dk_at dksX1_keeps_1 13 rfl rfl)
theorem dX1_keeps_39 : decode cX1_keeps 39 = .ok (.aload 4, 2) := dk_25 4 (dk_at dksX1_keeps_1 15 rfl rfl)
theorem dX1_keeps_41 : decode cX1_keeps 41 = .ok (.getfield 151, 3) := dk_180 0 151 (dk_at dksX1_keeps_1 17 rfl rfl)
theorem dX1_keeps_44 : decode cX1_keeps 44 = .ok (.ifCond .ne 11, 3) := dk_154 0 11 (dk_at dksX1_keeps_1 20 rfl rfl)
theorem dX1_keeps_47 : decode cX1_keeps 47 = .ok (.aload 5, 2) := dk_25 5 (dk_at dksX1_keeps_2 0 rfl rfl)
theorem dX1_keeps_49 : decode cX1_keeps 49 = .ok (.getfield 151, 3) := dk_180 0 151 (dk_at dksX1_keeps_2 2 rfl rfl)
theorem dX1_keeps_52 : decode cX1_keeps 52 = .ok (.ifCond .eq 6, 3) := dk_153 0 6 (dk_at dksX1_keeps_2 5 rfl rfl)
theorem dX1_keeps_55 : decode cX1_keeps 55 = .ok (.bipush (-2), 2) := dk_16 254 (dk_at dksX1_keeps_2 8 rfl rfl)
theorem dX1_keeps_57 : decode cX1_keeps 57 = .ok (.ireturn, 1) := dk_172 (dk_at dksX1_keeps_2 10 rfl rfl)
theorem dX1_keeps_58 : decode cX1_keeps 58 = .ok (.aload_n 0, 1) := dk_42 (dk_at dksX1_keeps_2 11 rfl rfl)
theorem dX1_keeps_59 : decode cX1_keeps 59 = .ok (.iload_n 3, 1) := dk_29 (dk_at dksX1_keeps_2 12 rfl rfl)
theorem dX1_keeps_60 : decode cX1_keeps 60 = .ok (.aload_n 0, 1) := dk_42 (dk_at dksX1_keeps_2 13 rfl rfl)
theorem dX1_keeps_61 : decode cX1_keeps 61 = .ok (.aload 4, 2) := dk_25 4 (dk_at dksX1_keeps_2 14 rfl rfl)
theorem dX1_keeps_63 : decode cX1_keeps 63 = .ok (.aload 4, 2) := dk_25 4 (dk_at dksX1_keeps_2 16 rfl rfl)
theorem dX1_keeps_65 : decode cX1_keeps 65 = .ok (.getfield 165, 3) := dk_180 0 165 (dk_at dksX1_keeps_2 18 rfl rfl)
theorem dX1_keeps_68 : decode cX1_keeps 68 = .ok (.aload 5, 2) := dk_25 5 (dk_at dksX1_keeps_2 21 rfl rfl)
theorem dX1_keeps_70 : decode cX1_keeps 70 = .ok (.getfield 165, 3) := dk_180 0 165 (dk_at dksX1_keeps_3 0 rfl rfl)
theorem dX1_keeps_73 : decode cX1_keeps 73 = .ok (.invokestatic 28, 3) := dk_184 0 28 (dk_at dksX1_keeps_3 3 rfl rfl)
theorem dX1_keeps_76 : decode cX1_keeps 76 = .ok (.aload 4, 2) := dk_25 4 (dk_at dksX1_keeps_3 6 rfl rfl)
theorem dX1_keeps_78 : decode cX1_keeps 78 = .ok (.getfield 171, 3) := dk_180 0 171 (dk_at dksX1_keeps_3 8 rfl rfl)
theorem dX1_keeps_81 : decode cX1_keeps 81 = .ok (.aload 5, 2) := dk_25 5 (dk_at dksX1_keeps_3 11 rfl rfl)
theorem dX1_keeps_83 : decode cX1_keeps 83 = .ok (.getfield 171, 3) := dk_180 0 171 (dk_at dksX1_keeps_3 13 rfl rfl)
theorem dX1_keeps_86 : decode cX1_keeps 86 = .ok (.invokestatic 28, 3) := dk_184 0 28 (dk_at dksX1_keeps_3 16 rfl rfl)
theorem dX1_keeps_89 : decode cX1_keeps 89 = .ok (.aload 5, 2) := dk_25 5 (dk_at dksX1_keeps_3 19 rfl rfl)
theorem dX1_keeps_91 : decode cX1_keeps 91 = .ok (.invokedynamic 219, 5) := by decide +kernel
theorem dX1_keeps_96 : decode cX1_keeps 96 = .ok (.invokevirtual 222, 3) := dk_182 0 222 (dk_at dksX1_keeps_4 5 rfl rfl)
theorem dX1_keeps_99 : decode cX1_keeps 99 = .ok (.invokevirtual 187, 3) := dk_182 0 187 (dk_at dksX1_keeps_4 8 rfl rfl)
theorem dX1_keeps_102 : decode cX1_keeps 102 = .ok (.ireturn, 1) := dk_172 (dk_at dksX1_keeps_4 11 rfl rfl)
abbrev cX1_lambda_keeps_0 : ByteArray := prog_1_method_112_code
def yX1_lambda_keeps_0 : MethodName := ⟨RX1, "lambda$keeps$0", "(LDistinctMarks$Counter;I)Z"⟩
def dkwX1_lambda_keeps_0_0 : List UInt8 := [42, 27, 182, 1, 152, 155, 0, 7, 4, 167, 0, 4, 3, 172]
abbrev dktX1_lambda_keeps_0_0 : List UInt8 := dkwX1_lambda_keeps_0_0 ++ []
theorem dksX1_lambda_keeps_0_0 : cX1_lambda_keeps_0.data.toList.drop 0 = dktX1_lambda_keeps_0_0 := by decide +kernel
theorem dX1_lambda_keeps_0_0 : decode cX1_lambda_keeps_0 0 = .ok (.aload_n 0, 1) := dk_42 (dk_at dksX1_lambda_keeps_0_0 0 rfl rfl)
theorem dX1_lambda_keeps_0_1 : decode cX1_lambda_keeps_0 1 = .ok (.iload_n 1, 1) := dk_27 (dk_at dksX1_lambda_keeps_0_0 1 rfl rfl)
theorem dX1_lambda_keeps_0_2 : decode cX1_lambda_keeps_0 2 = .ok (.invokevirtual 408, 3) := dk_182 1 152 (dk_at dksX1_lambda_keeps_0_0 2 rfl rfl)
theorem dX1_lambda_keeps_0_5 : decode cX1_lambda_keeps_0 5 = .ok (.ifCond .lt 7, 3) := dk_155 0 7 (dk_at dksX1_lambda_keeps_0_0 5 rfl rfl)
theorem dX1_lambda_keeps_0_8 : decode cX1_lambda_keeps_0 8 = .ok (.iconst 1, 1) := dk_4 (dk_at dksX1_lambda_keeps_0_0 8 rfl rfl)
theorem dX1_lambda_keeps_0_9 : decode cX1_lambda_keeps_0 9 = .ok (.goto 4, 3) := dk_167 0 4 (dk_at dksX1_lambda_keeps_0_0 9 rfl rfl)
theorem dX1_lambda_keeps_0_12 : decode cX1_lambda_keeps_0 12 = .ok (.iconst 0, 1) := dk_3 (dk_at dksX1_lambda_keeps_0_0 12 rfl rfl)
theorem dX1_lambda_keeps_0_13 : decode cX1_lambda_keeps_0 13 = .ok (.ireturn, 1) := dk_172 (dk_at dksX1_lambda_keeps_0_0 13 rfl rfl)
abbrev cX1_picked : ByteArray := prog_1_method_41_code
def yX1_picked : MethodName := ⟨RX1, "picked", "(LDistinctMarks$Counter;IILDistinctMarks$Wanted;)LDistinctMarks$Counter;"⟩
def dkwX1_picked_2 : List UInt8 := [21, 6, 46, 182, 0, 102, 87, 132, 6, 1, 167, 255, 214, 25, 5, 176]
abbrev dktX1_picked_2 : List UInt8 := dkwX1_picked_2 ++ []
def dkwX1_picked_1 : List UInt8 := [25, 4, 43, 180, 0, 211, 21, 6, 46, 185, 0, 214, 2, 0, 153, 0, 16, 25, 5, 43, 180, 0, 211]
abbrev dktX1_picked_1 : List UInt8 := dkwX1_picked_1 ++ dktX1_picked_2
def dkwX1_picked_0 : List UInt8 := [187, 0, 69, 89, 42, 28, 29, 183, 0, 75, 58, 5, 3, 54, 6, 21, 6, 43, 180, 0, 208, 162, 0, 39]
abbrev dktX1_picked_0 : List UInt8 := dkwX1_picked_0 ++ dktX1_picked_1
theorem dksX1_picked_0 : cX1_picked.data.toList.drop 0 = dktX1_picked_0 := by decide +kernel
theorem dksX1_picked_1 : cX1_picked.data.toList.drop 24 = dktX1_picked_1 := dk_seg dksX1_picked_0 24 rfl rfl
theorem dksX1_picked_2 : cX1_picked.data.toList.drop 47 = dktX1_picked_2 := dk_seg dksX1_picked_1 23 rfl rfl
theorem dX1_picked_0 : decode cX1_picked 0 = .ok (.new 69, 3) := dk_187 0 69 (dk_at dksX1_picked_0 0 rfl rfl)
theorem dX1_picked_3 : decode cX1_picked 3 = .ok (.dup, 1) := dk_89 (dk_at dksX1_picked_0 3 rfl rfl)
theorem dX1_picked_4 : decode cX1_picked 4 = .ok (.aload_n 0, 1) := dk_42 (dk_at dksX1_picked_0 4 rfl rfl)
theorem dX1_picked_5 : decode cX1_picked 5 = .ok (.iload_n 2, 1) := dk_28 (dk_at dksX1_picked_0 5 rfl rfl)
theorem dX1_picked_6 : decode cX1_picked 6 = .ok (.iload_n 3, 1) := dk_29 (dk_at dksX1_picked_0 6 rfl rfl)
theorem dX1_picked_7 : decode cX1_picked 7 = .ok (.invokespecial 75, 3) := dk_183 0 75 (dk_at dksX1_picked_0 7 rfl rfl)
theorem dX1_picked_10 : decode cX1_picked 10 = .ok (.astore 5, 2) := dk_58 5 (dk_at dksX1_picked_0 10 rfl rfl)
theorem dX1_picked_12 : decode cX1_picked 12 = .ok (.iconst 0, 1) := dk_3 (dk_at dksX1_picked_0 12 rfl rfl)
theorem dX1_picked_13 : decode cX1_picked 13 = .ok (.istore 6, 2) := dk_54 6 (dk_at dksX1_picked_0 13 rfl rfl)
theorem dX1_picked_15 : decode cX1_picked 15 = .ok (.iload 6, 2) := dk_21 6 (dk_at dksX1_picked_0 15 rfl rfl)
theorem dX1_picked_17 : decode cX1_picked 17 = .ok (.aload_n 1, 1) := dk_43 (dk_at dksX1_picked_0 17 rfl rfl)
theorem dX1_picked_18 : decode cX1_picked 18 = .ok (.getfield 208, 3) := dk_180 0 208 (dk_at dksX1_picked_0 18 rfl rfl)
theorem dX1_picked_21 : decode cX1_picked 21 = .ok (.if_icmp .ge 39, 3) := dk_162 0 39 (dk_at dksX1_picked_0 21 rfl rfl)
theorem dX1_picked_24 : decode cX1_picked 24 = .ok (.aload 4, 2) := dk_25 4 (dk_at dksX1_picked_1 0 rfl rfl)
theorem dX1_picked_26 : decode cX1_picked 26 = .ok (.aload_n 1, 1) := dk_43 (dk_at dksX1_picked_1 2 rfl rfl)
theorem dX1_picked_27 : decode cX1_picked 27 = .ok (.getfield 211, 3) := dk_180 0 211 (dk_at dksX1_picked_1 3 rfl rfl)
theorem dX1_picked_30 : decode cX1_picked 30 = .ok (.iload 6, 2) := dk_21 6 (dk_at dksX1_picked_1 6 rfl rfl)
theorem dX1_picked_32 : decode cX1_picked 32 = .ok (.iaload, 1) := dk_46 (dk_at dksX1_picked_1 8 rfl rfl)
theorem dX1_picked_33 : decode cX1_picked 33 = .ok (.invokeinterface 214 2, 5) := by decide +kernel
theorem dX1_picked_38 : decode cX1_picked 38 = .ok (.ifCond .eq 16, 3) := dk_153 0 16 (dk_at dksX1_picked_1 14 rfl rfl)
theorem dX1_picked_41 : decode cX1_picked 41 = .ok (.aload 5, 2) := dk_25 5 (dk_at dksX1_picked_1 17 rfl rfl)
theorem dX1_picked_43 : decode cX1_picked 43 = .ok (.aload_n 1, 1) := dk_43 (dk_at dksX1_picked_1 19 rfl rfl)
theorem dX1_picked_44 : decode cX1_picked 44 = .ok (.getfield 211, 3) := dk_180 0 211 (dk_at dksX1_picked_1 20 rfl rfl)
theorem dX1_picked_47 : decode cX1_picked 47 = .ok (.iload 6, 2) := dk_21 6 (dk_at dksX1_picked_2 0 rfl rfl)
theorem dX1_picked_49 : decode cX1_picked 49 = .ok (.iaload, 1) := dk_46 (dk_at dksX1_picked_2 2 rfl rfl)
theorem dX1_picked_50 : decode cX1_picked 50 = .ok (.invokevirtual 102, 3) := dk_182 0 102 (dk_at dksX1_picked_2 3 rfl rfl)
theorem dX1_picked_53 : decode cX1_picked 53 = .ok (.pop, 1) := dk_87 (dk_at dksX1_picked_2 6 rfl rfl)
theorem dX1_picked_54 : decode cX1_picked 54 = .ok (.iinc 6 1, 3) := dk_132 6 1 (dk_at dksX1_picked_2 7 rfl rfl)
theorem dX1_picked_57 : decode cX1_picked 57 = .ok (.goto (-42), 3) := dk_167 255 214 (dk_at dksX1_picked_2 10 rfl rfl)
theorem dX1_picked_60 : decode cX1_picked 60 = .ok (.aload 5, 2) := dk_25 5 (dk_at dksX1_picked_2 13 rfl rfl)
theorem dX1_picked_62 : decode cX1_picked 62 = .ok (.areturn, 1) := dk_176 (dk_at dksX1_picked_2 15 rfl rfl)
abbrev cX1_less : ByteArray := prog_1_method_43_code
def yX1_less : MethodName := ⟨RX1, "less", "(III)I"⟩
def dkwX1_less_3 : List UInt8 := [180, 0, 171, 25, 5, 186, 0, 226, 0, 0, 182, 0, 222, 182, 0, 187, 172]
abbrev dktX1_less_3 : List UInt8 := dkwX1_less_3 ++ []
def dkwX1_less_2 : List UInt8 := [25, 5, 180, 0, 151, 153, 0, 6, 16, 254, 172, 42, 29, 42, 25, 4, 25, 4, 180, 0, 165, 25, 4]
abbrev dktX1_less_2 : List UInt8 := dkwX1_less_2 ++ dktX1_less_3
def dkwX1_less_1 : List UInt8 := [180, 0, 71, 27, 50, 58, 4, 42, 180, 0, 71, 28, 50, 58, 5, 25, 4, 180, 0, 151, 154, 0, 11]
abbrev dktX1_less_1 : List UInt8 := dkwX1_less_1 ++ dktX1_less_2
def dkwX1_less_0 : List UInt8 := [6, 188, 10, 89, 3, 27, 79, 89, 4, 28, 79, 89, 5, 29, 79, 184, 0, 92, 154, 0, 5, 2, 172, 42]
abbrev dktX1_less_0 : List UInt8 := dkwX1_less_0 ++ dktX1_less_1
theorem dksX1_less_0 : cX1_less.data.toList.drop 0 = dktX1_less_0 := by decide +kernel
theorem dksX1_less_1 : cX1_less.data.toList.drop 24 = dktX1_less_1 := dk_seg dksX1_less_0 24 rfl rfl
theorem dksX1_less_2 : cX1_less.data.toList.drop 47 = dktX1_less_2 := dk_seg dksX1_less_1 23 rfl rfl
theorem dksX1_less_3 : cX1_less.data.toList.drop 70 = dktX1_less_3 := dk_seg dksX1_less_2 23 rfl rfl
theorem dX1_less_0 : decode cX1_less 0 = .ok (.iconst 3, 1) := dk_6 (dk_at dksX1_less_0 0 rfl rfl)
theorem dX1_less_1 : decode cX1_less 1 = .ok (.newarray .int, 2) := dk_188_10 (dk_at dksX1_less_0 1 rfl rfl)
theorem dX1_less_3 : decode cX1_less 3 = .ok (.dup, 1) := dk_89 (dk_at dksX1_less_0 3 rfl rfl)
theorem dX1_less_4 : decode cX1_less 4 = .ok (.iconst 0, 1) := dk_3 (dk_at dksX1_less_0 4 rfl rfl)
theorem dX1_less_5 : decode cX1_less 5 = .ok (.iload_n 1, 1) := dk_27 (dk_at dksX1_less_0 5 rfl rfl)
theorem dX1_less_6 : decode cX1_less 6 = .ok (.iastore, 1) := dk_79 (dk_at dksX1_less_0 6 rfl rfl)
theorem dX1_less_7 : decode cX1_less 7 = .ok (.dup, 1) := dk_89 (dk_at dksX1_less_0 7 rfl rfl)
theorem dX1_less_8 : decode cX1_less 8 = .ok (.iconst 1, 1) := dk_4 (dk_at dksX1_less_0 8 rfl rfl)
theorem dX1_less_9 : decode cX1_less 9 = .ok (.iload_n 2, 1) := dk_28 (dk_at dksX1_less_0 9 rfl rfl)
theorem dX1_less_10 : decode cX1_less 10 = .ok (.iastore, 1) := dk_79 (dk_at dksX1_less_0 10 rfl rfl)
theorem dX1_less_11 : decode cX1_less 11 = .ok (.dup, 1) := dk_89 (dk_at dksX1_less_0 11 rfl rfl)
theorem dX1_less_12 : decode cX1_less 12 = .ok (.iconst 2, 1) := dk_5 (dk_at dksX1_less_0 12 rfl rfl)
theorem dX1_less_13 : decode cX1_less 13 = .ok (.iload_n 3, 1) := dk_29 (dk_at dksX1_less_0 13 rfl rfl)
theorem dX1_less_14 : decode cX1_less 14 = .ok (.iastore, 1) := dk_79 (dk_at dksX1_less_0 14 rfl rfl)
theorem dX1_less_15 : decode cX1_less 15 = .ok (.invokestatic 92, 3) := dk_184 0 92 (dk_at dksX1_less_0 15 rfl rfl)
theorem dX1_less_18 : decode cX1_less 18 = .ok (.ifCond .ne 5, 3) := dk_154 0 5 (dk_at dksX1_less_0 18 rfl rfl)
theorem dX1_less_21 : decode cX1_less 21 = .ok (.iconst (-1), 1) := dk_2 (dk_at dksX1_less_0 21 rfl rfl)
theorem dX1_less_22 : decode cX1_less 22 = .ok (.ireturn, 1) := dk_172 (dk_at dksX1_less_0 22 rfl rfl)
theorem dX1_less_23 : decode cX1_less 23 = .ok (.aload_n 0, 1) := dk_42 (dk_at dksX1_less_0 23 rfl rfl)
theorem dX1_less_24 : decode cX1_less 24 = .ok (.getfield 71, 3) := dk_180 0 71 (dk_at dksX1_less_1 0 rfl rfl)
theorem dX1_less_27 : decode cX1_less 27 = .ok (.iload_n 1, 1) := dk_27 (dk_at dksX1_less_1 3 rfl rfl)
theorem dX1_less_28 : decode cX1_less 28 = .ok (.aaload, 1) := dk_50 (dk_at dksX1_less_1 4 rfl rfl)
theorem dX1_less_29 : decode cX1_less 29 = .ok (.astore 4, 2) := dk_58 4 (dk_at dksX1_less_1 5 rfl rfl)
theorem dX1_less_31 : decode cX1_less 31 = .ok (.aload_n 0, 1) := dk_42 (dk_at dksX1_less_1 7 rfl rfl)
theorem dX1_less_32 : decode cX1_less 32 = .ok (.getfield 71, 3) := dk_180 0 71 (dk_at dksX1_less_1 8 rfl rfl)
theorem dX1_less_35 : decode cX1_less 35 = .ok (.iload_n 2, 1) := dk_28 (dk_at dksX1_less_1 11 rfl rfl)
theorem dX1_less_36 : decode cX1_less 36 = .ok (.aaload, 1) := dk_50 (dk_at dksX1_less_1 12 rfl rfl)
theorem dX1_less_37 : decode cX1_less 37 = .ok (.astore 5, 2) := dk_58 5 (dk_at dksX1_less_1 13 rfl rfl)
theorem dX1_less_39 : decode cX1_less 39 = .ok (.aload 4, 2) := dk_25 4 (dk_at dksX1_less_1 15 rfl rfl)
theorem dX1_less_41 : decode cX1_less 41 = .ok (.getfield 151, 3) := dk_180 0 151 (dk_at dksX1_less_1 17 rfl rfl)
theorem dX1_less_44 : decode cX1_less 44 = .ok (.ifCond .ne 11, 3) := dk_154 0 11 (dk_at dksX1_less_1 20 rfl rfl)
theorem dX1_less_47 : decode cX1_less 47 = .ok (.aload 5, 2) := dk_25 5 (dk_at dksX1_less_2 0 rfl rfl)
theorem dX1_less_49 : decode cX1_less 49 = .ok (.getfield 151, 3) := dk_180 0 151 (dk_at dksX1_less_2 2 rfl rfl)
theorem dX1_less_52 : decode cX1_less 52 = .ok (.ifCond .eq 6, 3) := dk_153 0 6 (dk_at dksX1_less_2 5 rfl rfl)
theorem dX1_less_55 : decode cX1_less 55 = .ok (.bipush (-2), 2) := dk_16 254 (dk_at dksX1_less_2 8 rfl rfl)
theorem dX1_less_57 : decode cX1_less 57 = .ok (.ireturn, 1) := dk_172 (dk_at dksX1_less_2 10 rfl rfl)
theorem dX1_less_58 : decode cX1_less 58 = .ok (.aload_n 0, 1) := dk_42 (dk_at dksX1_less_2 11 rfl rfl)
theorem dX1_less_59 : decode cX1_less 59 = .ok (.iload_n 3, 1) := dk_29 (dk_at dksX1_less_2 12 rfl rfl)
theorem dX1_less_60 : decode cX1_less 60 = .ok (.aload_n 0, 1) := dk_42 (dk_at dksX1_less_2 13 rfl rfl)
theorem dX1_less_61 : decode cX1_less 61 = .ok (.aload 4, 2) := dk_25 4 (dk_at dksX1_less_2 14 rfl rfl)
theorem dX1_less_63 : decode cX1_less 63 = .ok (.aload 4, 2) := dk_25 4 (dk_at dksX1_less_2 16 rfl rfl)
theorem dX1_less_65 : decode cX1_less 65 = .ok (.getfield 165, 3) := dk_180 0 165 (dk_at dksX1_less_2 18 rfl rfl)
theorem dX1_less_68 : decode cX1_less 68 = .ok (.aload 4, 2) := dk_25 4 (dk_at dksX1_less_2 21 rfl rfl)
theorem dX1_less_70 : decode cX1_less 70 = .ok (.getfield 171, 3) := dk_180 0 171 (dk_at dksX1_less_3 0 rfl rfl)
theorem dX1_less_73 : decode cX1_less 73 = .ok (.aload 5, 2) := dk_25 5 (dk_at dksX1_less_3 3 rfl rfl)
theorem dX1_less_75 : decode cX1_less 75 = .ok (.invokedynamic 226, 5) := by decide +kernel
theorem dX1_less_80 : decode cX1_less 80 = .ok (.invokevirtual 222, 3) := dk_182 0 222 (dk_at dksX1_less_3 10 rfl rfl)
theorem dX1_less_83 : decode cX1_less 83 = .ok (.invokevirtual 187, 3) := dk_182 0 187 (dk_at dksX1_less_3 13 rfl rfl)
theorem dX1_less_86 : decode cX1_less 86 = .ok (.ireturn, 1) := dk_172 (dk_at dksX1_less_3 16 rfl rfl)
abbrev cX1_lambda_less_1 : ByteArray := prog_1_method_111_code
def yX1_lambda_less_1 : MethodName := ⟨RX1, "lambda$less$1", "(LDistinctMarks$Counter;I)Z"⟩
def dkwX1_lambda_less_1_0 : List UInt8 := [42, 27, 182, 1, 152, 156, 0, 7, 4, 167, 0, 4, 3, 172]
abbrev dktX1_lambda_less_1_0 : List UInt8 := dkwX1_lambda_less_1_0 ++ []
theorem dksX1_lambda_less_1_0 : cX1_lambda_less_1.data.toList.drop 0 = dktX1_lambda_less_1_0 := by decide +kernel
theorem dX1_lambda_less_1_0 : decode cX1_lambda_less_1 0 = .ok (.aload_n 0, 1) := dk_42 (dk_at dksX1_lambda_less_1_0 0 rfl rfl)
theorem dX1_lambda_less_1_1 : decode cX1_lambda_less_1 1 = .ok (.iload_n 1, 1) := dk_27 (dk_at dksX1_lambda_less_1_0 1 rfl rfl)
theorem dX1_lambda_less_1_2 : decode cX1_lambda_less_1 2 = .ok (.invokevirtual 408, 3) := dk_182 1 152 (dk_at dksX1_lambda_less_1_0 2 rfl rfl)
theorem dX1_lambda_less_1_5 : decode cX1_lambda_less_1 5 = .ok (.ifCond .ge 7, 3) := dk_156 0 7 (dk_at dksX1_lambda_less_1_0 5 rfl rfl)
theorem dX1_lambda_less_1_8 : decode cX1_lambda_less_1 8 = .ok (.iconst 1, 1) := dk_4 (dk_at dksX1_lambda_less_1_0 8 rfl rfl)
theorem dX1_lambda_less_1_9 : decode cX1_lambda_less_1 9 = .ok (.goto 4, 3) := dk_167 0 4 (dk_at dksX1_lambda_less_1_0 9 rfl rfl)
theorem dX1_lambda_less_1_12 : decode cX1_lambda_less_1 12 = .ok (.iconst 0, 1) := dk_3 (dk_at dksX1_lambda_less_1_0 12 rfl rfl)
theorem dX1_lambda_less_1_13 : decode cX1_lambda_less_1 13 = .ok (.ireturn, 1) := dk_172 (dk_at dksX1_lambda_less_1_0 13 rfl rfl)
abbrev cX1_splits : ByteArray := prog_1_method_44_code
def yX1_splits : MethodName := ⟨RX1, "splits", "(III)I"⟩
def dkwX1_splits_4 : List UInt8 := [182, 0, 222, 182, 0, 187, 87, 42, 28, 25, 5, 182, 0, 187, 172]
abbrev dktX1_splits_4 : List UInt8 := dkwX1_splits_4 ++ []
def dkwX1_splits_3 : List UInt8 := [58, 5, 42, 29, 42, 25, 4, 25, 4, 180, 0, 165, 25, 4, 180, 0, 171, 186, 0, 230, 0, 0]
abbrev dktX1_splits_3 : List UInt8 := dkwX1_splits_3 ++ dktX1_splits_4
def dkwX1_splits_2 : List UInt8 := [16, 253, 172, 42, 25, 4, 25, 4, 180, 0, 165, 25, 4, 180, 0, 171, 186, 0, 227, 0, 0, 182, 0, 222]
abbrev dktX1_splits_2 : List UInt8 := dkwX1_splits_2 ++ dktX1_splits_3
def dkwX1_splits_1 : List UInt8 := [180, 0, 71, 27, 50, 58, 4, 25, 4, 180, 0, 151, 153, 0, 6, 16, 254, 172, 28, 29, 160, 0, 6]
abbrev dktX1_splits_1 : List UInt8 := dkwX1_splits_1 ++ dktX1_splits_2
def dkwX1_splits_0 : List UInt8 := [6, 188, 10, 89, 3, 27, 79, 89, 4, 28, 79, 89, 5, 29, 79, 184, 0, 92, 154, 0, 5, 2, 172, 42]
abbrev dktX1_splits_0 : List UInt8 := dkwX1_splits_0 ++ dktX1_splits_1
theorem dksX1_splits_0 : cX1_splits.data.toList.drop 0 = dktX1_splits_0 := by decide +kernel
theorem dksX1_splits_1 : cX1_splits.data.toList.drop 24 = dktX1_splits_1 := dk_seg dksX1_splits_0 24 rfl rfl
theorem dksX1_splits_2 : cX1_splits.data.toList.drop 47 = dktX1_splits_2 := dk_seg dksX1_splits_1 23 rfl rfl
theorem dksX1_splits_3 : cX1_splits.data.toList.drop 71 = dktX1_splits_3 := dk_seg dksX1_splits_2 24 rfl rfl
theorem dksX1_splits_4 : cX1_splits.data.toList.drop 93 = dktX1_splits_4 := dk_seg dksX1_splits_3 22 rfl rfl
theorem dX1_splits_0 : decode cX1_splits 0 = .ok (.iconst 3, 1) := dk_6 (dk_at dksX1_splits_0 0 rfl rfl)
theorem dX1_splits_1 : decode cX1_splits 1 = .ok (.newarray .int, 2) := dk_188_10 (dk_at dksX1_splits_0 1 rfl rfl)
theorem dX1_splits_3 : decode cX1_splits 3 = .ok (.dup, 1) := dk_89 (dk_at dksX1_splits_0 3 rfl rfl)
theorem dX1_splits_4 : decode cX1_splits 4 = .ok (.iconst 0, 1) := dk_3 (dk_at dksX1_splits_0 4 rfl rfl)
theorem dX1_splits_5 : decode cX1_splits 5 = .ok (.iload_n 1, 1) := dk_27 (dk_at dksX1_splits_0 5 rfl rfl)
theorem dX1_splits_6 : decode cX1_splits 6 = .ok (.iastore, 1) := dk_79 (dk_at dksX1_splits_0 6 rfl rfl)
theorem dX1_splits_7 : decode cX1_splits 7 = .ok (.dup, 1) := dk_89 (dk_at dksX1_splits_0 7 rfl rfl)
theorem dX1_splits_8 : decode cX1_splits 8 = .ok (.iconst 1, 1) := dk_4 (dk_at dksX1_splits_0 8 rfl rfl)
theorem dX1_splits_9 : decode cX1_splits 9 = .ok (.iload_n 2, 1) := dk_28 (dk_at dksX1_splits_0 9 rfl rfl)
theorem dX1_splits_10 : decode cX1_splits 10 = .ok (.iastore, 1) := dk_79 (dk_at dksX1_splits_0 10 rfl rfl)
theorem dX1_splits_11 : decode cX1_splits 11 = .ok (.dup, 1) := dk_89 (dk_at dksX1_splits_0 11 rfl rfl)
theorem dX1_splits_12 : decode cX1_splits 12 = .ok (.iconst 2, 1) := dk_5 (dk_at dksX1_splits_0 12 rfl rfl)
theorem dX1_splits_13 : decode cX1_splits 13 = .ok (.iload_n 3, 1) := dk_29 (dk_at dksX1_splits_0 13 rfl rfl)
theorem dX1_splits_14 : decode cX1_splits 14 = .ok (.iastore, 1) := dk_79 (dk_at dksX1_splits_0 14 rfl rfl)
theorem dX1_splits_15 : decode cX1_splits 15 = .ok (.invokestatic 92, 3) := dk_184 0 92 (dk_at dksX1_splits_0 15 rfl rfl)
theorem dX1_splits_18 : decode cX1_splits 18 = .ok (.ifCond .ne 5, 3) := dk_154 0 5 (dk_at dksX1_splits_0 18 rfl rfl)
theorem dX1_splits_21 : decode cX1_splits 21 = .ok (.iconst (-1), 1) := dk_2 (dk_at dksX1_splits_0 21 rfl rfl)
theorem dX1_splits_22 : decode cX1_splits 22 = .ok (.ireturn, 1) := dk_172 (dk_at dksX1_splits_0 22 rfl rfl)
theorem dX1_splits_23 : decode cX1_splits 23 = .ok (.aload_n 0, 1) := dk_42 (dk_at dksX1_splits_0 23 rfl rfl)
theorem dX1_splits_24 : decode cX1_splits 24 = .ok (.getfield 71, 3) := dk_180 0 71 (dk_at dksX1_splits_1 0 rfl rfl)
theorem dX1_splits_27 : decode cX1_splits 27 = .ok (.iload_n 1, 1) := dk_27 (dk_at dksX1_splits_1 3 rfl rfl)
theorem dX1_splits_28 : decode cX1_splits 28 = .ok (.aaload, 1) := dk_50 (dk_at dksX1_splits_1 4 rfl rfl)
theorem dX1_splits_29 : decode cX1_splits 29 = .ok (.astore 4, 2) := dk_58 4 (dk_at dksX1_splits_1 5 rfl rfl)
theorem dX1_splits_31 : decode cX1_splits 31 = .ok (.aload 4, 2) := dk_25 4 (dk_at dksX1_splits_1 7 rfl rfl)
theorem dX1_splits_33 : decode cX1_splits 33 = .ok (.getfield 151, 3) := dk_180 0 151 (dk_at dksX1_splits_1 9 rfl rfl)
theorem dX1_splits_36 : decode cX1_splits 36 = .ok (.ifCond .eq 6, 3) := dk_153 0 6 (dk_at dksX1_splits_1 12 rfl rfl)
theorem dX1_splits_39 : decode cX1_splits 39 = .ok (.bipush (-2), 2) := dk_16 254 (dk_at dksX1_splits_1 15 rfl rfl)
theorem dX1_splits_41 : decode cX1_splits 41 = .ok (.ireturn, 1) := dk_172 (dk_at dksX1_splits_1 17 rfl rfl)
theorem dX1_splits_42 : decode cX1_splits 42 = .ok (.iload_n 2, 1) := dk_28 (dk_at dksX1_splits_1 18 rfl rfl)
theorem dX1_splits_43 : decode cX1_splits 43 = .ok (.iload_n 3, 1) := dk_29 (dk_at dksX1_splits_1 19 rfl rfl)
theorem dX1_splits_44 : decode cX1_splits 44 = .ok (.if_icmp .ne 6, 3) := dk_160 0 6 (dk_at dksX1_splits_1 20 rfl rfl)
theorem dX1_splits_47 : decode cX1_splits 47 = .ok (.bipush (-3), 2) := dk_16 253 (dk_at dksX1_splits_2 0 rfl rfl)
theorem dX1_splits_49 : decode cX1_splits 49 = .ok (.ireturn, 1) := dk_172 (dk_at dksX1_splits_2 2 rfl rfl)
theorem dX1_splits_50 : decode cX1_splits 50 = .ok (.aload_n 0, 1) := dk_42 (dk_at dksX1_splits_2 3 rfl rfl)
theorem dX1_splits_51 : decode cX1_splits 51 = .ok (.aload 4, 2) := dk_25 4 (dk_at dksX1_splits_2 4 rfl rfl)
theorem dX1_splits_53 : decode cX1_splits 53 = .ok (.aload 4, 2) := dk_25 4 (dk_at dksX1_splits_2 6 rfl rfl)
theorem dX1_splits_55 : decode cX1_splits 55 = .ok (.getfield 165, 3) := dk_180 0 165 (dk_at dksX1_splits_2 8 rfl rfl)
theorem dX1_splits_58 : decode cX1_splits 58 = .ok (.aload 4, 2) := dk_25 4 (dk_at dksX1_splits_2 11 rfl rfl)
theorem dX1_splits_60 : decode cX1_splits 60 = .ok (.getfield 171, 3) := dk_180 0 171 (dk_at dksX1_splits_2 13 rfl rfl)
theorem dX1_splits_63 : decode cX1_splits 63 = .ok (.invokedynamic 227, 5) := by decide +kernel
theorem dX1_splits_68 : decode cX1_splits 68 = .ok (.invokevirtual 222, 3) := dk_182 0 222 (dk_at dksX1_splits_2 21 rfl rfl)
theorem dX1_splits_71 : decode cX1_splits 71 = .ok (.astore 5, 2) := dk_58 5 (dk_at dksX1_splits_3 0 rfl rfl)
theorem dX1_splits_73 : decode cX1_splits 73 = .ok (.aload_n 0, 1) := dk_42 (dk_at dksX1_splits_3 2 rfl rfl)
theorem dX1_splits_74 : decode cX1_splits 74 = .ok (.iload_n 3, 1) := dk_29 (dk_at dksX1_splits_3 3 rfl rfl)
theorem dX1_splits_75 : decode cX1_splits 75 = .ok (.aload_n 0, 1) := dk_42 (dk_at dksX1_splits_3 4 rfl rfl)
theorem dX1_splits_76 : decode cX1_splits 76 = .ok (.aload 4, 2) := dk_25 4 (dk_at dksX1_splits_3 5 rfl rfl)
theorem dX1_splits_78 : decode cX1_splits 78 = .ok (.aload 4, 2) := dk_25 4 (dk_at dksX1_splits_3 7 rfl rfl)
theorem dX1_splits_80 : decode cX1_splits 80 = .ok (.getfield 165, 3) := dk_180 0 165 (dk_at dksX1_splits_3 9 rfl rfl)
theorem dX1_splits_83 : decode cX1_splits 83 = .ok (.aload 4, 2) := dk_25 4 (dk_at dksX1_splits_3 12 rfl rfl)
theorem dX1_splits_85 : decode cX1_splits 85 = .ok (.getfield 171, 3) := dk_180 0 171 (dk_at dksX1_splits_3 14 rfl rfl)
theorem dX1_splits_88 : decode cX1_splits 88 = .ok (.invokedynamic 230, 5) := by decide +kernel
theorem dX1_splits_93 : decode cX1_splits 93 = .ok (.invokevirtual 222, 3) := dk_182 0 222 (dk_at dksX1_splits_4 0 rfl rfl)
theorem dX1_splits_96 : decode cX1_splits 96 = .ok (.invokevirtual 187, 3) := dk_182 0 187 (dk_at dksX1_splits_4 3 rfl rfl)
theorem dX1_splits_99 : decode cX1_splits 99 = .ok (.pop, 1) := dk_87 (dk_at dksX1_splits_4 6 rfl rfl)
theorem dX1_splits_100 : decode cX1_splits 100 = .ok (.aload_n 0, 1) := dk_42 (dk_at dksX1_splits_4 7 rfl rfl)
theorem dX1_splits_101 : decode cX1_splits 101 = .ok (.iload_n 2, 1) := dk_28 (dk_at dksX1_splits_4 8 rfl rfl)
theorem dX1_splits_102 : decode cX1_splits 102 = .ok (.aload 5, 2) := dk_25 5 (dk_at dksX1_splits_4 9 rfl rfl)
theorem dX1_splits_104 : decode cX1_splits 104 = .ok (.invokevirtual 187, 3) := dk_182 0 187 (dk_at dksX1_splits_4 11 rfl rfl)
theorem dX1_splits_107 : decode cX1_splits 107 = .ok (.ireturn, 1) := dk_172 (dk_at dksX1_splits_4 14 rfl rfl)
abbrev cX1_lambda_splits_2 : ByteArray := prog_1_method_110_code
def yX1_lambda_splits_2 : MethodName := ⟨RX1, "lambda$splits$2", "(I)Z"⟩
def dkwX1_lambda_splits_2_0 : List UInt8 := [26, 155, 0, 7, 4, 167, 0, 4, 3, 172]
abbrev dktX1_lambda_splits_2_0 : List UInt8 := dkwX1_lambda_splits_2_0 ++ []
theorem dksX1_lambda_splits_2_0 : cX1_lambda_splits_2.data.toList.drop 0 = dktX1_lambda_splits_2_0 := by decide +kernel
theorem dX1_lambda_splits_2_0 : decode cX1_lambda_splits_2 0 = .ok (.iload_n 0, 1) := dk_26 (dk_at dksX1_lambda_splits_2_0 0 rfl rfl)
theorem dX1_lambda_splits_2_1 : decode cX1_lambda_splits_2 1 = .ok (.ifCond .lt 7, 3) := dk_155 0 7 (dk_at dksX1_lambda_splits_2_0 1 rfl rfl)
theorem dX1_lambda_splits_2_4 : decode cX1_lambda_splits_2 4 = .ok (.iconst 1, 1) := dk_4 (dk_at dksX1_lambda_splits_2_0 4 rfl rfl)
theorem dX1_lambda_splits_2_5 : decode cX1_lambda_splits_2 5 = .ok (.goto 4, 3) := dk_167 0 4 (dk_at dksX1_lambda_splits_2_0 5 rfl rfl)
theorem dX1_lambda_splits_2_8 : decode cX1_lambda_splits_2 8 = .ok (.iconst 0, 1) := dk_3 (dk_at dksX1_lambda_splits_2_0 8 rfl rfl)
theorem dX1_lambda_splits_2_9 : decode cX1_lambda_splits_2 9 = .ok (.ireturn, 1) := dk_172 (dk_at dksX1_lambda_splits_2_0 9 rfl rfl)
abbrev cX1_lambda_splits_3 : ByteArray := prog_1_method_109_code
def yX1_lambda_splits_3 : MethodName := ⟨RX1, "lambda$splits$3", "(I)Z"⟩
def dkwX1_lambda_splits_3_0 : List UInt8 := [26, 156, 0, 7, 4, 167, 0, 4, 3, 172]
abbrev dktX1_lambda_splits_3_0 : List UInt8 := dkwX1_lambda_splits_3_0 ++ []
theorem dksX1_lambda_splits_3_0 : cX1_lambda_splits_3.data.toList.drop 0 = dktX1_lambda_splits_3_0 := by decide +kernel
theorem dX1_lambda_splits_3_0 : decode cX1_lambda_splits_3 0 = .ok (.iload_n 0, 1) := dk_26 (dk_at dksX1_lambda_splits_3_0 0 rfl rfl)
theorem dX1_lambda_splits_3_1 : decode cX1_lambda_splits_3 1 = .ok (.ifCond .ge 7, 3) := dk_156 0 7 (dk_at dksX1_lambda_splits_3_0 1 rfl rfl)
theorem dX1_lambda_splits_3_4 : decode cX1_lambda_splits_3 4 = .ok (.iconst 1, 1) := dk_4 (dk_at dksX1_lambda_splits_3_0 4 rfl rfl)
theorem dX1_lambda_splits_3_5 : decode cX1_lambda_splits_3 5 = .ok (.goto 4, 3) := dk_167 0 4 (dk_at dksX1_lambda_splits_3_0 5 rfl rfl)
theorem dX1_lambda_splits_3_8 : decode cX1_lambda_splits_3 8 = .ok (.iconst 0, 1) := dk_3 (dk_at dksX1_lambda_splits_3_0 8 rfl rfl)
theorem dX1_lambda_splits_3_9 : decode cX1_lambda_splits_3 9 = .ok (.ireturn, 1) := dk_172 (dk_at dksX1_lambda_splits_3_0 9 rfl rfl)
abbrev cX1_guess : ByteArray := prog_1_method_45_code
def yX1_guess : MethodName := ⟨RX1, "guess", "(I)I"⟩
def dkwX1_guess_3 : List UInt8 := [182, 0, 180, 172]
abbrev dktX1_guess_3 : List UInt8 := dkwX1_guess_3 ++ []
def dkwX1_guess_2 : List UInt8 := [9, 80, 89, 4, 42, 180, 0, 71, 27, 50, 182, 0, 158, 133, 80, 182, 0, 44, 42, 180, 0, 71, 27, 50]
abbrev dktX1_guess_2 : List UInt8 := dkwX1_guess_2 ++ dktX1_guess_3
def dkwX1_guess_1 : List UInt8 := [180, 0, 71, 27, 50, 180, 0, 151, 153, 0, 16, 42, 180, 0, 71, 27, 50, 182, 0, 231, 133, 167, 0, 4]
abbrev dktX1_guess_1 : List UInt8 := dkwX1_guess_1 ++ dktX1_guess_2
def dkwX1_guess_0 : List UInt8 := [4, 188, 10, 89, 3, 27, 79, 184, 0, 92, 154, 0, 5, 2, 172, 42, 5, 188, 11, 89, 3, 42]
abbrev dktX1_guess_0 : List UInt8 := dkwX1_guess_0 ++ dktX1_guess_1
theorem dksX1_guess_0 : cX1_guess.data.toList.drop 0 = dktX1_guess_0 := by decide +kernel
theorem dksX1_guess_1 : cX1_guess.data.toList.drop 22 = dktX1_guess_1 := dk_seg dksX1_guess_0 22 rfl rfl
theorem dksX1_guess_2 : cX1_guess.data.toList.drop 46 = dktX1_guess_2 := dk_seg dksX1_guess_1 24 rfl rfl
theorem dksX1_guess_3 : cX1_guess.data.toList.drop 70 = dktX1_guess_3 := dk_seg dksX1_guess_2 24 rfl rfl
theorem dX1_guess_0 : decode cX1_guess 0 = .ok (.iconst 1, 1) := dk_4 (dk_at dksX1_guess_0 0 rfl rfl)
theorem dX1_guess_1 : decode cX1_guess 1 = .ok (.newarray .int, 2) := dk_188_10 (dk_at dksX1_guess_0 1 rfl rfl)
theorem dX1_guess_3 : decode cX1_guess 3 = .ok (.dup, 1) := dk_89 (dk_at dksX1_guess_0 3 rfl rfl)
theorem dX1_guess_4 : decode cX1_guess 4 = .ok (.iconst 0, 1) := dk_3 (dk_at dksX1_guess_0 4 rfl rfl)
theorem dX1_guess_5 : decode cX1_guess 5 = .ok (.iload_n 1, 1) := dk_27 (dk_at dksX1_guess_0 5 rfl rfl)
theorem dX1_guess_6 : decode cX1_guess 6 = .ok (.iastore, 1) := dk_79 (dk_at dksX1_guess_0 6 rfl rfl)
theorem dX1_guess_7 : decode cX1_guess 7 = .ok (.invokestatic 92, 3) := dk_184 0 92 (dk_at dksX1_guess_0 7 rfl rfl)
theorem dX1_guess_10 : decode cX1_guess 10 = .ok (.ifCond .ne 5, 3) := dk_154 0 5 (dk_at dksX1_guess_0 10 rfl rfl)
theorem dX1_guess_13 : decode cX1_guess 13 = .ok (.iconst (-1), 1) := dk_2 (dk_at dksX1_guess_0 13 rfl rfl)
theorem dX1_guess_14 : decode cX1_guess 14 = .ok (.ireturn, 1) := dk_172 (dk_at dksX1_guess_0 14 rfl rfl)
theorem dX1_guess_15 : decode cX1_guess 15 = .ok (.aload_n 0, 1) := dk_42 (dk_at dksX1_guess_0 15 rfl rfl)
theorem dX1_guess_16 : decode cX1_guess 16 = .ok (.iconst 2, 1) := dk_5 (dk_at dksX1_guess_0 16 rfl rfl)
theorem dX1_guess_17 : decode cX1_guess 17 = .ok (.newarray .long, 2) := dk_188_11 (dk_at dksX1_guess_0 17 rfl rfl)
theorem dX1_guess_19 : decode cX1_guess 19 = .ok (.dup, 1) := dk_89 (dk_at dksX1_guess_0 19 rfl rfl)
theorem dX1_guess_20 : decode cX1_guess 20 = .ok (.iconst 0, 1) := dk_3 (dk_at dksX1_guess_0 20 rfl rfl)
theorem dX1_guess_21 : decode cX1_guess 21 = .ok (.aload_n 0, 1) := dk_42 (dk_at dksX1_guess_0 21 rfl rfl)
theorem dX1_guess_22 : decode cX1_guess 22 = .ok (.getfield 71, 3) := dk_180 0 71 (dk_at dksX1_guess_1 0 rfl rfl)
theorem dX1_guess_25 : decode cX1_guess 25 = .ok (.iload_n 1, 1) := dk_27 (dk_at dksX1_guess_1 3 rfl rfl)
theorem dX1_guess_26 : decode cX1_guess 26 = .ok (.aaload, 1) := dk_50 (dk_at dksX1_guess_1 4 rfl rfl)
theorem dX1_guess_27 : decode cX1_guess 27 = .ok (.getfield 151, 3) := dk_180 0 151 (dk_at dksX1_guess_1 5 rfl rfl)
theorem dX1_guess_30 : decode cX1_guess 30 = .ok (.ifCond .eq 16, 3) := dk_153 0 16 (dk_at dksX1_guess_1 8 rfl rfl)
theorem dX1_guess_33 : decode cX1_guess 33 = .ok (.aload_n 0, 1) := dk_42 (dk_at dksX1_guess_1 11 rfl rfl)
theorem dX1_guess_34 : decode cX1_guess 34 = .ok (.getfield 71, 3) := dk_180 0 71 (dk_at dksX1_guess_1 12 rfl rfl)
theorem dX1_guess_37 : decode cX1_guess 37 = .ok (.iload_n 1, 1) := dk_27 (dk_at dksX1_guess_1 15 rfl rfl)
theorem dX1_guess_38 : decode cX1_guess 38 = .ok (.aaload, 1) := dk_50 (dk_at dksX1_guess_1 16 rfl rfl)
theorem dX1_guess_39 : decode cX1_guess 39 = .ok (.invokevirtual 231, 3) := dk_182 0 231 (dk_at dksX1_guess_1 17 rfl rfl)
theorem dX1_guess_42 : decode cX1_guess 42 = .ok (.i2l, 1) := dk_133 (dk_at dksX1_guess_1 20 rfl rfl)
theorem dX1_guess_43 : decode cX1_guess 43 = .ok (.goto 4, 3) := dk_167 0 4 (dk_at dksX1_guess_1 21 rfl rfl)
theorem dX1_guess_46 : decode cX1_guess 46 = .ok (.lconst 0, 1) := dk_9 (dk_at dksX1_guess_2 0 rfl rfl)
theorem dX1_guess_47 : decode cX1_guess 47 = .ok (.lastore, 1) := dk_80 (dk_at dksX1_guess_2 1 rfl rfl)
theorem dX1_guess_48 : decode cX1_guess 48 = .ok (.dup, 1) := dk_89 (dk_at dksX1_guess_2 2 rfl rfl)
theorem dX1_guess_49 : decode cX1_guess 49 = .ok (.iconst 1, 1) := dk_4 (dk_at dksX1_guess_2 3 rfl rfl)
theorem dX1_guess_50 : decode cX1_guess 50 = .ok (.aload_n 0, 1) := dk_42 (dk_at dksX1_guess_2 4 rfl rfl)
theorem dX1_guess_51 : decode cX1_guess 51 = .ok (.getfield 71, 3) := dk_180 0 71 (dk_at dksX1_guess_2 5 rfl rfl)
theorem dX1_guess_54 : decode cX1_guess 54 = .ok (.iload_n 1, 1) := dk_27 (dk_at dksX1_guess_2 8 rfl rfl)
theorem dX1_guess_55 : decode cX1_guess 55 = .ok (.aaload, 1) := dk_50 (dk_at dksX1_guess_2 9 rfl rfl)
theorem dX1_guess_56 : decode cX1_guess 56 = .ok (.invokevirtual 158, 3) := dk_182 0 158 (dk_at dksX1_guess_2 10 rfl rfl)
theorem dX1_guess_59 : decode cX1_guess 59 = .ok (.i2l, 1) := dk_133 (dk_at dksX1_guess_2 13 rfl rfl)
theorem dX1_guess_60 : decode cX1_guess 60 = .ok (.lastore, 1) := dk_80 (dk_at dksX1_guess_2 14 rfl rfl)
theorem dX1_guess_61 : decode cX1_guess 61 = .ok (.invokevirtual 44, 3) := dk_182 0 44 (dk_at dksX1_guess_2 15 rfl rfl)
theorem dX1_guess_64 : decode cX1_guess 64 = .ok (.aload_n 0, 1) := dk_42 (dk_at dksX1_guess_2 18 rfl rfl)
theorem dX1_guess_65 : decode cX1_guess 65 = .ok (.getfield 71, 3) := dk_180 0 71 (dk_at dksX1_guess_2 19 rfl rfl)
theorem dX1_guess_68 : decode cX1_guess 68 = .ok (.iload_n 1, 1) := dk_27 (dk_at dksX1_guess_2 22 rfl rfl)
theorem dX1_guess_69 : decode cX1_guess 69 = .ok (.aaload, 1) := dk_50 (dk_at dksX1_guess_2 23 rfl rfl)
theorem dX1_guess_70 : decode cX1_guess 70 = .ok (.invokevirtual 180, 3) := dk_182 0 180 (dk_at dksX1_guess_3 0 rfl rfl)
theorem dX1_guess_73 : decode cX1_guess 73 = .ok (.ireturn, 1) := dk_172 (dk_at dksX1_guess_3 3 rfl rfl)
abbrev cX1_roughly : ByteArray := prog_1_method_46_code
def yX1_roughly : MethodName := ⟨RX1, "roughly", "(I)I"⟩
def dkwX1_roughly_2 : List UInt8 := [182, 0, 44, 42, 180, 0, 71, 27, 50, 182, 0, 234, 172]
abbrev dktX1_roughly_2 : List UInt8 := dkwX1_roughly_2 ++ []
def dkwX1_roughly_1 : List UInt8 := [180, 0, 71, 27, 50, 182, 0, 231, 133, 80, 89, 4, 42, 180, 0, 71, 27, 50, 182, 0, 158, 133, 80]
abbrev dktX1_roughly_1 : List UInt8 := dkwX1_roughly_1 ++ dktX1_roughly_2
def dkwX1_roughly_0 : List UInt8 := [4, 188, 10, 89, 3, 27, 79, 184, 0, 92, 154, 0, 5, 2, 172, 42, 5, 188, 11, 89, 3, 42]
abbrev dktX1_roughly_0 : List UInt8 := dkwX1_roughly_0 ++ dktX1_roughly_1
theorem dksX1_roughly_0 : cX1_roughly.data.toList.drop 0 = dktX1_roughly_0 := by decide +kernel
theorem dksX1_roughly_1 : cX1_roughly.data.toList.drop 22 = dktX1_roughly_1 := dk_seg dksX1_roughly_0 22 rfl rfl
theorem dksX1_roughly_2 : cX1_roughly.data.toList.drop 45 = dktX1_roughly_2 := dk_seg dksX1_roughly_1 23 rfl rfl
theorem dX1_roughly_0 : decode cX1_roughly 0 = .ok (.iconst 1, 1) := dk_4 (dk_at dksX1_roughly_0 0 rfl rfl)
theorem dX1_roughly_1 : decode cX1_roughly 1 = .ok (.newarray .int, 2) := dk_188_10 (dk_at dksX1_roughly_0 1 rfl rfl)
theorem dX1_roughly_3 : decode cX1_roughly 3 = .ok (.dup, 1) := dk_89 (dk_at dksX1_roughly_0 3 rfl rfl)
theorem dX1_roughly_4 : decode cX1_roughly 4 = .ok (.iconst 0, 1) := dk_3 (dk_at dksX1_roughly_0 4 rfl rfl)
theorem dX1_roughly_5 : decode cX1_roughly 5 = .ok (.iload_n 1, 1) := dk_27 (dk_at dksX1_roughly_0 5 rfl rfl)
theorem dX1_roughly_6 : decode cX1_roughly 6 = .ok (.iastore, 1) := dk_79 (dk_at dksX1_roughly_0 6 rfl rfl)
theorem dX1_roughly_7 : decode cX1_roughly 7 = .ok (.invokestatic 92, 3) := dk_184 0 92 (dk_at dksX1_roughly_0 7 rfl rfl)
theorem dX1_roughly_10 : decode cX1_roughly 10 = .ok (.ifCond .ne 5, 3) := dk_154 0 5 (dk_at dksX1_roughly_0 10 rfl rfl)
theorem dX1_roughly_13 : decode cX1_roughly 13 = .ok (.iconst (-1), 1) := dk_2 (dk_at dksX1_roughly_0 13 rfl rfl)
theorem dX1_roughly_14 : decode cX1_roughly 14 = .ok (.ireturn, 1) := dk_172 (dk_at dksX1_roughly_0 14 rfl rfl)
theorem dX1_roughly_15 : decode cX1_roughly 15 = .ok (.aload_n 0, 1) := dk_42 (dk_at dksX1_roughly_0 15 rfl rfl)
theorem dX1_roughly_16 : decode cX1_roughly 16 = .ok (.iconst 2, 1) := dk_5 (dk_at dksX1_roughly_0 16 rfl rfl)
theorem dX1_roughly_17 : decode cX1_roughly 17 = .ok (.newarray .long, 2) := dk_188_11 (dk_at dksX1_roughly_0 17 rfl rfl)
theorem dX1_roughly_19 : decode cX1_roughly 19 = .ok (.dup, 1) := dk_89 (dk_at dksX1_roughly_0 19 rfl rfl)
theorem dX1_roughly_20 : decode cX1_roughly 20 = .ok (.iconst 0, 1) := dk_3 (dk_at dksX1_roughly_0 20 rfl rfl)
theorem dX1_roughly_21 : decode cX1_roughly 21 = .ok (.aload_n 0, 1) := dk_42 (dk_at dksX1_roughly_0 21 rfl rfl)
theorem dX1_roughly_22 : decode cX1_roughly 22 = .ok (.getfield 71, 3) := dk_180 0 71 (dk_at dksX1_roughly_1 0 rfl rfl)
theorem dX1_roughly_25 : decode cX1_roughly 25 = .ok (.iload_n 1, 1) := dk_27 (dk_at dksX1_roughly_1 3 rfl rfl)
theorem dX1_roughly_26 : decode cX1_roughly 26 = .ok (.aaload, 1) := dk_50 (dk_at dksX1_roughly_1 4 rfl rfl)
theorem dX1_roughly_27 : decode cX1_roughly 27 = .ok (.invokevirtual 231, 3) := dk_182 0 231 (dk_at dksX1_roughly_1 5 rfl rfl)
theorem dX1_roughly_30 : decode cX1_roughly 30 = .ok (.i2l, 1) := dk_133 (dk_at dksX1_roughly_1 8 rfl rfl)
theorem dX1_roughly_31 : decode cX1_roughly 31 = .ok (.lastore, 1) := dk_80 (dk_at dksX1_roughly_1 9 rfl rfl)
theorem dX1_roughly_32 : decode cX1_roughly 32 = .ok (.dup, 1) := dk_89 (dk_at dksX1_roughly_1 10 rfl rfl)
theorem dX1_roughly_33 : decode cX1_roughly 33 = .ok (.iconst 1, 1) := dk_4 (dk_at dksX1_roughly_1 11 rfl rfl)
theorem dX1_roughly_34 : decode cX1_roughly 34 = .ok (.aload_n 0, 1) := dk_42 (dk_at dksX1_roughly_1 12 rfl rfl)
theorem dX1_roughly_35 : decode cX1_roughly 35 = .ok (.getfield 71, 3) := dk_180 0 71 (dk_at dksX1_roughly_1 13 rfl rfl)
theorem dX1_roughly_38 : decode cX1_roughly 38 = .ok (.iload_n 1, 1) := dk_27 (dk_at dksX1_roughly_1 16 rfl rfl)
theorem dX1_roughly_39 : decode cX1_roughly 39 = .ok (.aaload, 1) := dk_50 (dk_at dksX1_roughly_1 17 rfl rfl)
theorem dX1_roughly_40 : decode cX1_roughly 40 = .ok (.invokevirtual 158, 3) := dk_182 0 158 (dk_at dksX1_roughly_1 18 rfl rfl)
theorem dX1_roughly_43 : decode cX1_roughly 43 = .ok (.i2l, 1) := dk_133 (dk_at dksX1_roughly_1 21 rfl rfl)
theorem dX1_roughly_44 : decode cX1_roughly 44 = .ok (.lastore, 1) := dk_80 (dk_at dksX1_roughly_1 22 rfl rfl)
theorem dX1_roughly_45 : decode cX1_roughly 45 = .ok (.invokevirtual 44, 3) := dk_182 0 44 (dk_at dksX1_roughly_2 0 rfl rfl)
theorem dX1_roughly_48 : decode cX1_roughly 48 = .ok (.aload_n 0, 1) := dk_42 (dk_at dksX1_roughly_2 3 rfl rfl)
theorem dX1_roughly_49 : decode cX1_roughly 49 = .ok (.getfield 71, 3) := dk_180 0 71 (dk_at dksX1_roughly_2 4 rfl rfl)
theorem dX1_roughly_52 : decode cX1_roughly 52 = .ok (.iload_n 1, 1) := dk_27 (dk_at dksX1_roughly_2 7 rfl rfl)
theorem dX1_roughly_53 : decode cX1_roughly 53 = .ok (.aaload, 1) := dk_50 (dk_at dksX1_roughly_2 8 rfl rfl)
theorem dX1_roughly_54 : decode cX1_roughly 54 = .ok (.invokevirtual 234, 3) := dk_182 0 234 (dk_at dksX1_roughly_2 9 rfl rfl)
theorem dX1_roughly_57 : decode cX1_roughly 57 = .ok (.ireturn, 1) := dk_172 (dk_at dksX1_roughly_2 12 rfl rfl)
abbrev cX1_form : ByteArray := prog_1_method_47_code
def yX1_form : MethodName := ⟨RX1, "form", "(II)I"⟩
def dkwX1_form_4 : List UInt8 := [172, 2, 172]
abbrev dktX1_form_4 : List UInt8 := dkwX1_form_4 ++ []
def dkwX1_form_3 : List UInt8 := [180, 0, 151, 153, 0, 7, 2, 167, 0, 7, 45, 180, 0, 208, 172, 45, 182, 0, 237, 172, 45, 182, 0, 158]
abbrev dktX1_form_3 : List UInt8 := dkwX1_form_3 ++ dktX1_form_4
def dkwX1_form_2 : List UInt8 := [45, 180, 0, 165, 172, 45, 180, 0, 171, 172, 45, 180, 0, 151, 153, 0, 7, 4, 167, 0, 4, 3, 172, 45]
abbrev dktX1_form_2 : List UInt8 := dkwX1_form_2 ++ dktX1_form_3
def dkwX1_form_1 : List UInt8 := [170, 0, 0, 0, 86, 0, 0, 0, 0, 0, 0, 0, 5, 0, 0, 0, 37, 0, 0, 0, 42, 0, 0, 0, 47, 0, 0, 0, 60, 0, 0, 0, 76, 0, 0, 0, 81]
abbrev dktX1_form_1 : List UInt8 := dkwX1_form_1 ++ dktX1_form_2
def dkwX1_form_0 : List UInt8 := [4, 188, 10, 89, 3, 27, 79, 184, 0, 92, 154, 0, 5, 2, 172, 42, 180, 0, 71, 27, 50, 78, 28]
abbrev dktX1_form_0 : List UInt8 := dkwX1_form_0 ++ dktX1_form_1
theorem dksX1_form_0 : cX1_form.data.toList.drop 0 = dktX1_form_0 := by decide +kernel
theorem dksX1_form_1 : cX1_form.data.toList.drop 23 = dktX1_form_1 := dk_seg dksX1_form_0 23 rfl rfl
theorem dksX1_form_2 : cX1_form.data.toList.drop 60 = dktX1_form_2 := dk_seg dksX1_form_1 37 rfl rfl
theorem dksX1_form_3 : cX1_form.data.toList.drop 84 = dktX1_form_3 := dk_seg dksX1_form_2 24 rfl rfl
theorem dksX1_form_4 : cX1_form.data.toList.drop 108 = dktX1_form_4 := dk_seg dksX1_form_3 24 rfl rfl
theorem dX1_form_0 : decode cX1_form 0 = .ok (.iconst 1, 1) := dk_4 (dk_at dksX1_form_0 0 rfl rfl)
theorem dX1_form_1 : decode cX1_form 1 = .ok (.newarray .int, 2) := dk_188_10 (dk_at dksX1_form_0 1 rfl rfl)
theorem dX1_form_3 : decode cX1_form 3 = .ok (.dup, 1) := dk_89 (dk_at dksX1_form_0 3 rfl rfl)
theorem dX1_form_4 : decode cX1_form 4 = .ok (.iconst 0, 1) := dk_3 (dk_at dksX1_form_0 4 rfl rfl)
theorem dX1_form_5 : decode cX1_form 5 = .ok (.iload_n 1, 1) := dk_27 (dk_at dksX1_form_0 5 rfl rfl)
theorem dX1_form_6 : decode cX1_form 6 = .ok (.iastore, 1) := dk_79 (dk_at dksX1_form_0 6 rfl rfl)
theorem dX1_form_7 : decode cX1_form 7 = .ok (.invokestatic 92, 3) := dk_184 0 92 (dk_at dksX1_form_0 7 rfl rfl)
theorem dX1_form_10 : decode cX1_form 10 = .ok (.ifCond .ne 5, 3) := dk_154 0 5 (dk_at dksX1_form_0 10 rfl rfl)
theorem dX1_form_13 : decode cX1_form 13 = .ok (.iconst (-1), 1) := dk_2 (dk_at dksX1_form_0 13 rfl rfl)
theorem dX1_form_14 : decode cX1_form 14 = .ok (.ireturn, 1) := dk_172 (dk_at dksX1_form_0 14 rfl rfl)
theorem dX1_form_15 : decode cX1_form 15 = .ok (.aload_n 0, 1) := dk_42 (dk_at dksX1_form_0 15 rfl rfl)
theorem dX1_form_16 : decode cX1_form 16 = .ok (.getfield 71, 3) := dk_180 0 71 (dk_at dksX1_form_0 16 rfl rfl)
theorem dX1_form_19 : decode cX1_form 19 = .ok (.iload_n 1, 1) := dk_27 (dk_at dksX1_form_0 19 rfl rfl)
theorem dX1_form_20 : decode cX1_form 20 = .ok (.aaload, 1) := dk_50 (dk_at dksX1_form_0 20 rfl rfl)
theorem dX1_form_21 : decode cX1_form 21 = .ok (.astore_n 3, 1) := dk_78 (dk_at dksX1_form_0 21 rfl rfl)
theorem dX1_form_22 : decode cX1_form 22 = .ok (.iload_n 2, 1) := dk_28 (dk_at dksX1_form_0 22 rfl rfl)
theorem dX1_form_23 : decode cX1_form 23 = .ok (.tableswitch 86 0 5 #[37, 42, 47, 60, 76, 81], 37) := by decide +kernel
theorem dX1_form_60 : decode cX1_form 60 = .ok (.aload_n 3, 1) := dk_45 (dk_at dksX1_form_2 0 rfl rfl)
theorem dX1_form_61 : decode cX1_form 61 = .ok (.getfield 165, 3) := dk_180 0 165 (dk_at dksX1_form_2 1 rfl rfl)
theorem dX1_form_64 : decode cX1_form 64 = .ok (.ireturn, 1) := dk_172 (dk_at dksX1_form_2 4 rfl rfl)
theorem dX1_form_65 : decode cX1_form 65 = .ok (.aload_n 3, 1) := dk_45 (dk_at dksX1_form_2 5 rfl rfl)
theorem dX1_form_66 : decode cX1_form 66 = .ok (.getfield 171, 3) := dk_180 0 171 (dk_at dksX1_form_2 6 rfl rfl)
theorem dX1_form_69 : decode cX1_form 69 = .ok (.ireturn, 1) := dk_172 (dk_at dksX1_form_2 9 rfl rfl)
theorem dX1_form_70 : decode cX1_form 70 = .ok (.aload_n 3, 1) := dk_45 (dk_at dksX1_form_2 10 rfl rfl)
theorem dX1_form_71 : decode cX1_form 71 = .ok (.getfield 151, 3) := dk_180 0 151 (dk_at dksX1_form_2 11 rfl rfl)
theorem dX1_form_74 : decode cX1_form 74 = .ok (.ifCond .eq 7, 3) := dk_153 0 7 (dk_at dksX1_form_2 14 rfl rfl)
theorem dX1_form_77 : decode cX1_form 77 = .ok (.iconst 1, 1) := dk_4 (dk_at dksX1_form_2 17 rfl rfl)
theorem dX1_form_78 : decode cX1_form 78 = .ok (.goto 4, 3) := dk_167 0 4 (dk_at dksX1_form_2 18 rfl rfl)
theorem dX1_form_81 : decode cX1_form 81 = .ok (.iconst 0, 1) := dk_3 (dk_at dksX1_form_2 21 rfl rfl)
theorem dX1_form_82 : decode cX1_form 82 = .ok (.ireturn, 1) := dk_172 (dk_at dksX1_form_2 22 rfl rfl)
theorem dX1_form_83 : decode cX1_form 83 = .ok (.aload_n 3, 1) := dk_45 (dk_at dksX1_form_2 23 rfl rfl)
theorem dX1_form_84 : decode cX1_form 84 = .ok (.getfield 151, 3) := dk_180 0 151 (dk_at dksX1_form_3 0 rfl rfl)
theorem dX1_form_87 : decode cX1_form 87 = .ok (.ifCond .eq 7, 3) := dk_153 0 7 (dk_at dksX1_form_3 3 rfl rfl)
theorem dX1_form_90 : decode cX1_form 90 = .ok (.iconst (-1), 1) := dk_2 (dk_at dksX1_form_3 6 rfl rfl)
theorem dX1_form_91 : decode cX1_form 91 = .ok (.goto 7, 3) := dk_167 0 7 (dk_at dksX1_form_3 7 rfl rfl)
theorem dX1_form_94 : decode cX1_form 94 = .ok (.aload_n 3, 1) := dk_45 (dk_at dksX1_form_3 10 rfl rfl)
theorem dX1_form_95 : decode cX1_form 95 = .ok (.getfield 208, 3) := dk_180 0 208 (dk_at dksX1_form_3 11 rfl rfl)
theorem dX1_form_98 : decode cX1_form 98 = .ok (.ireturn, 1) := dk_172 (dk_at dksX1_form_3 14 rfl rfl)
theorem dX1_form_99 : decode cX1_form 99 = .ok (.aload_n 3, 1) := dk_45 (dk_at dksX1_form_3 15 rfl rfl)
theorem dX1_form_100 : decode cX1_form 100 = .ok (.invokevirtual 237, 3) := dk_182 0 237 (dk_at dksX1_form_3 16 rfl rfl)
theorem dX1_form_103 : decode cX1_form 103 = .ok (.ireturn, 1) := dk_172 (dk_at dksX1_form_3 19 rfl rfl)
theorem dX1_form_104 : decode cX1_form 104 = .ok (.aload_n 3, 1) := dk_45 (dk_at dksX1_form_3 20 rfl rfl)
theorem dX1_form_105 : decode cX1_form 105 = .ok (.invokevirtual 158, 3) := dk_182 0 158 (dk_at dksX1_form_3 21 rfl rfl)
theorem dX1_form_108 : decode cX1_form 108 = .ok (.ireturn, 1) := dk_172 (dk_at dksX1_form_4 0 rfl rfl)
theorem dX1_form_109 : decode cX1_form 109 = .ok (.iconst (-1), 1) := dk_2 (dk_at dksX1_form_4 1 rfl rfl)
theorem dX1_form_110 : decode cX1_form 110 = .ok (.ireturn, 1) := dk_172 (dk_at dksX1_form_4 2 rfl rfl)
abbrev cX1_rank : ByteArray := prog_1_method_49_code
def yX1_rank : MethodName := ⟨RX1, "rank", "(II)I"⟩
def dkwX1_rank_1 : List UInt8 := [172]
abbrev dktX1_rank_1 : List UInt8 := dkwX1_rank_1 ++ []
def dkwX1_rank_0 : List UInt8 := [42, 27, 28, 182, 0, 240, 153, 0, 17, 42, 180, 0, 71, 27, 50, 180, 0, 204, 28, 51, 167, 0, 4, 2]
abbrev dktX1_rank_0 : List UInt8 := dkwX1_rank_0 ++ dktX1_rank_1
theorem dksX1_rank_0 : cX1_rank.data.toList.drop 0 = dktX1_rank_0 := by decide +kernel
theorem dksX1_rank_1 : cX1_rank.data.toList.drop 24 = dktX1_rank_1 := dk_seg dksX1_rank_0 24 rfl rfl
theorem dX1_rank_0 : decode cX1_rank 0 = .ok (.aload_n 0, 1) := dk_42 (dk_at dksX1_rank_0 0 rfl rfl)
theorem dX1_rank_1 : decode cX1_rank 1 = .ok (.iload_n 1, 1) := dk_27 (dk_at dksX1_rank_0 1 rfl rfl)
theorem dX1_rank_2 : decode cX1_rank 2 = .ok (.iload_n 2, 1) := dk_28 (dk_at dksX1_rank_0 2 rfl rfl)
theorem dX1_rank_3 : decode cX1_rank 3 = .ok (.invokevirtual 240, 3) := dk_182 0 240 (dk_at dksX1_rank_0 3 rfl rfl)
theorem dX1_rank_6 : decode cX1_rank 6 = .ok (.ifCond .eq 17, 3) := dk_153 0 17 (dk_at dksX1_rank_0 6 rfl rfl)
theorem dX1_rank_9 : decode cX1_rank 9 = .ok (.aload_n 0, 1) := dk_42 (dk_at dksX1_rank_0 9 rfl rfl)
theorem dX1_rank_10 : decode cX1_rank 10 = .ok (.getfield 71, 3) := dk_180 0 71 (dk_at dksX1_rank_0 10 rfl rfl)
theorem dX1_rank_13 : decode cX1_rank 13 = .ok (.iload_n 1, 1) := dk_27 (dk_at dksX1_rank_0 13 rfl rfl)
theorem dX1_rank_14 : decode cX1_rank 14 = .ok (.aaload, 1) := dk_50 (dk_at dksX1_rank_0 14 rfl rfl)
theorem dX1_rank_15 : decode cX1_rank 15 = .ok (.getfield 204, 3) := dk_180 0 204 (dk_at dksX1_rank_0 15 rfl rfl)
theorem dX1_rank_18 : decode cX1_rank 18 = .ok (.iload_n 2, 1) := dk_28 (dk_at dksX1_rank_0 18 rfl rfl)
theorem dX1_rank_19 : decode cX1_rank 19 = .ok (.baload, 1) := dk_51 (dk_at dksX1_rank_0 19 rfl rfl)
theorem dX1_rank_20 : decode cX1_rank 20 = .ok (.goto 4, 3) := dk_167 0 4 (dk_at dksX1_rank_0 20 rfl rfl)
theorem dX1_rank_23 : decode cX1_rank 23 = .ok (.iconst (-1), 1) := dk_2 (dk_at dksX1_rank_0 23 rfl rfl)
theorem dX1_rank_24 : decode cX1_rank 24 = .ok (.ireturn, 1) := dk_172 (dk_at dksX1_rank_1 0 rfl rfl)
abbrev cX1_isPlace : ByteArray := prog_1_method_48_code
def yX1_isPlace : MethodName := ⟨RX1, "isPlace", "(II)Z"⟩
def dkwX1_isPlace_1 : List UInt8 := [182, 0, 98, 4, 100, 133, 184, 0, 7, 153, 0, 7, 4, 167, 0, 4, 3, 172]
abbrev dktX1_isPlace_1 : List UInt8 := dkwX1_isPlace_1 ++ []
def dkwX1_isPlace_0 : List UInt8 := [4, 188, 10, 89, 3, 27, 79, 184, 0, 92, 153, 0, 28, 28, 133, 9, 42, 180, 0, 71, 27, 50]
abbrev dktX1_isPlace_0 : List UInt8 := dkwX1_isPlace_0 ++ dktX1_isPlace_1
theorem dksX1_isPlace_0 : cX1_isPlace.data.toList.drop 0 = dktX1_isPlace_0 := by decide +kernel
theorem dksX1_isPlace_1 : cX1_isPlace.data.toList.drop 22 = dktX1_isPlace_1 := dk_seg dksX1_isPlace_0 22 rfl rfl
theorem dX1_isPlace_0 : decode cX1_isPlace 0 = .ok (.iconst 1, 1) := dk_4 (dk_at dksX1_isPlace_0 0 rfl rfl)
theorem dX1_isPlace_1 : decode cX1_isPlace 1 = .ok (.newarray .int, 2) := dk_188_10 (dk_at dksX1_isPlace_0 1 rfl rfl)
theorem dX1_isPlace_3 : decode cX1_isPlace 3 = .ok (.dup, 1) := dk_89 (dk_at dksX1_isPlace_0 3 rfl rfl)
theorem dX1_isPlace_4 : decode cX1_isPlace 4 = .ok (.iconst 0, 1) := dk_3 (dk_at dksX1_isPlace_0 4 rfl rfl)
theorem dX1_isPlace_5 : decode cX1_isPlace 5 = .ok (.iload_n 1, 1) := dk_27 (dk_at dksX1_isPlace_0 5 rfl rfl)
theorem dX1_isPlace_6 : decode cX1_isPlace 6 = .ok (.iastore, 1) := dk_79 (dk_at dksX1_isPlace_0 6 rfl rfl)
theorem dX1_isPlace_7 : decode cX1_isPlace 7 = .ok (.invokestatic 92, 3) := dk_184 0 92 (dk_at dksX1_isPlace_0 7 rfl rfl)
theorem dX1_isPlace_10 : decode cX1_isPlace 10 = .ok (.ifCond .eq 28, 3) := dk_153 0 28 (dk_at dksX1_isPlace_0 10 rfl rfl)
theorem dX1_isPlace_13 : decode cX1_isPlace 13 = .ok (.iload_n 2, 1) := dk_28 (dk_at dksX1_isPlace_0 13 rfl rfl)
theorem dX1_isPlace_14 : decode cX1_isPlace 14 = .ok (.i2l, 1) := dk_133 (dk_at dksX1_isPlace_0 14 rfl rfl)
theorem dX1_isPlace_15 : decode cX1_isPlace 15 = .ok (.lconst 0, 1) := dk_9 (dk_at dksX1_isPlace_0 15 rfl rfl)
theorem dX1_isPlace_16 : decode cX1_isPlace 16 = .ok (.aload_n 0, 1) := dk_42 (dk_at dksX1_isPlace_0 16 rfl rfl)
theorem dX1_isPlace_17 : decode cX1_isPlace 17 = .ok (.getfield 71, 3) := dk_180 0 71 (dk_at dksX1_isPlace_0 17 rfl rfl)
theorem dX1_isPlace_20 : decode cX1_isPlace 20 = .ok (.iload_n 1, 1) := dk_27 (dk_at dksX1_isPlace_0 20 rfl rfl)
theorem dX1_isPlace_21 : decode cX1_isPlace 21 = .ok (.aaload, 1) := dk_50 (dk_at dksX1_isPlace_0 21 rfl rfl)
theorem dX1_isPlace_22 : decode cX1_isPlace 22 = .ok (.invokevirtual 98, 3) := dk_182 0 98 (dk_at dksX1_isPlace_1 0 rfl rfl)
theorem dX1_isPlace_25 : decode cX1_isPlace 25 = .ok (.iconst 1, 1) := dk_4 (dk_at dksX1_isPlace_1 3 rfl rfl)
theorem dX1_isPlace_26 : decode cX1_isPlace 26 = .ok (.isub, 1) := dk_100 (dk_at dksX1_isPlace_1 4 rfl rfl)
theorem dX1_isPlace_27 : decode cX1_isPlace 27 = .ok (.i2l, 1) := dk_133 (dk_at dksX1_isPlace_1 5 rfl rfl)
theorem dX1_isPlace_28 : decode cX1_isPlace 28 = .ok (.invokestatic 7, 3) := dk_184 0 7 (dk_at dksX1_isPlace_1 6 rfl rfl)
theorem dX1_isPlace_31 : decode cX1_isPlace 31 = .ok (.ifCond .eq 7, 3) := dk_153 0 7 (dk_at dksX1_isPlace_1 9 rfl rfl)
theorem dX1_isPlace_34 : decode cX1_isPlace 34 = .ok (.iconst 1, 1) := dk_4 (dk_at dksX1_isPlace_1 12 rfl rfl)
theorem dX1_isPlace_35 : decode cX1_isPlace 35 = .ok (.goto 4, 3) := dk_167 0 4 (dk_at dksX1_isPlace_1 13 rfl rfl)
theorem dX1_isPlace_38 : decode cX1_isPlace 38 = .ok (.iconst 0, 1) := dk_3 (dk_at dksX1_isPlace_1 16 rfl rfl)
theorem dX1_isPlace_39 : decode cX1_isPlace 39 = .ok (.ireturn, 1) := dk_172 (dk_at dksX1_isPlace_1 17 rfl rfl)
abbrev cX1_ranks : ByteArray := prog_1_method_50_code
def yX1_ranks : MethodName := ⟨RX1, "ranks", "(II)I"⟩
def dkwX1_ranks_5 : List UInt8 := [182, 0, 44, 29, 172]
abbrev dktX1_ranks_5 : List UInt8 := dkwX1_ranks_5 ++ []
def dkwX1_ranks_4 : List UInt8 := [132, 6, 1, 167, 255, 200, 42, 5, 188, 11, 89, 3, 21, 4, 133, 80, 89, 4, 21, 5, 133, 80]
abbrev dktX1_ranks_4 : List UInt8 := dkwX1_ranks_4 ++ dktX1_ranks_5
def dkwX1_ranks_3 : List UInt8 := [167, 0, 23, 29, 154, 0, 8, 21, 6, 167, 0, 5, 21, 4, 54, 4, 21, 6, 54, 5, 132, 3, 1]
abbrev dktX1_ranks_3 : List UInt8 := dkwX1_ranks_3 ++ dktX1_ranks_4
def dkwX1_ranks_2 : List UInt8 := [182, 0, 98, 162, 0, 48, 42, 180, 0, 71, 27, 50, 180, 0, 204, 21, 6, 51, 28, 159, 0, 6]
abbrev dktX1_ranks_2 : List UInt8 := dkwX1_ranks_2 ++ dktX1_ranks_3
def dkwX1_ranks_1 : List UInt8 := [154, 0, 5, 2, 172, 3, 62, 2, 54, 4, 2, 54, 5, 3, 54, 6, 21, 6, 42, 180, 0, 71, 27, 50]
abbrev dktX1_ranks_1 : List UInt8 := dkwX1_ranks_1 ++ dktX1_ranks_2
def dkwX1_ranks_0 : List UInt8 := [4, 188, 10, 89, 3, 27, 79, 184, 0, 92, 153, 0, 15, 28, 133, 9, 20, 0, 244, 184, 0, 7]
abbrev dktX1_ranks_0 : List UInt8 := dkwX1_ranks_0 ++ dktX1_ranks_1
theorem dksX1_ranks_0 : cX1_ranks.data.toList.drop 0 = dktX1_ranks_0 := by decide +kernel
theorem dksX1_ranks_1 : cX1_ranks.data.toList.drop 22 = dktX1_ranks_1 := dk_seg dksX1_ranks_0 22 rfl rfl
theorem dksX1_ranks_2 : cX1_ranks.data.toList.drop 46 = dktX1_ranks_2 := dk_seg dksX1_ranks_1 24 rfl rfl
theorem dksX1_ranks_3 : cX1_ranks.data.toList.drop 68 = dktX1_ranks_3 := dk_seg dksX1_ranks_2 22 rfl rfl
theorem dksX1_ranks_4 : cX1_ranks.data.toList.drop 91 = dktX1_ranks_4 := dk_seg dksX1_ranks_3 23 rfl rfl
theorem dksX1_ranks_5 : cX1_ranks.data.toList.drop 113 = dktX1_ranks_5 := dk_seg dksX1_ranks_4 22 rfl rfl
theorem dX1_ranks_0 : decode cX1_ranks 0 = .ok (.iconst 1, 1) := dk_4 (dk_at dksX1_ranks_0 0 rfl rfl)
theorem dX1_ranks_1 : decode cX1_ranks 1 = .ok (.newarray .int, 2) := dk_188_10 (dk_at dksX1_ranks_0 1 rfl rfl)
theorem dX1_ranks_3 : decode cX1_ranks 3 = .ok (.dup, 1) := dk_89 (dk_at dksX1_ranks_0 3 rfl rfl)
theorem dX1_ranks_4 : decode cX1_ranks 4 = .ok (.iconst 0, 1) := dk_3 (dk_at dksX1_ranks_0 4 rfl rfl)
theorem dX1_ranks_5 : decode cX1_ranks 5 = .ok (.iload_n 1, 1) := dk_27 (dk_at dksX1_ranks_0 5 rfl rfl)
theorem dX1_ranks_6 : decode cX1_ranks 6 = .ok (.iastore, 1) := dk_79 (dk_at dksX1_ranks_0 6 rfl rfl)
theorem dX1_ranks_7 : decode cX1_ranks 7 = .ok (.invokestatic 92, 3) := dk_184 0 92 (dk_at dksX1_ranks_0 7 rfl rfl)
theorem dX1_ranks_10 : decode cX1_ranks 10 = .ok (.ifCond .eq 15, 3) := dk_153 0 15 (dk_at dksX1_ranks_0 10 rfl rfl)
theorem dX1_ranks_13 : decode cX1_ranks 13 = .ok (.iload_n 2, 1) := dk_28 (dk_at dksX1_ranks_0 13 rfl rfl)
theorem dX1_ranks_14 : decode cX1_ranks 14 = .ok (.i2l, 1) := dk_133 (dk_at dksX1_ranks_0 14 rfl rfl)
theorem dX1_ranks_15 : decode cX1_ranks 15 = .ok (.lconst 0, 1) := dk_9 (dk_at dksX1_ranks_0 15 rfl rfl)
theorem dX1_ranks_16 : decode cX1_ranks 16 = .ok (.ldc2_w 244, 3) := dk_20 0 244 (dk_at dksX1_ranks_0 16 rfl rfl)
theorem dX1_ranks_19 : decode cX1_ranks 19 = .ok (.invokestatic 7, 3) := dk_184 0 7 (dk_at dksX1_ranks_0 19 rfl rfl)
theorem dX1_ranks_22 : decode cX1_ranks 22 = .ok (.ifCond .ne 5, 3) := dk_154 0 5 (dk_at dksX1_ranks_1 0 rfl rfl)
theorem dX1_ranks_25 : decode cX1_ranks 25 = .ok (.iconst (-1), 1) := dk_2 (dk_at dksX1_ranks_1 3 rfl rfl)
theorem dX1_ranks_26 : decode cX1_ranks 26 = .ok (.ireturn, 1) := dk_172 (dk_at dksX1_ranks_1 4 rfl rfl)
theorem dX1_ranks_27 : decode cX1_ranks 27 = .ok (.iconst 0, 1) := dk_3 (dk_at dksX1_ranks_1 5 rfl rfl)
theorem dX1_ranks_28 : decode cX1_ranks 28 = .ok (.istore_n 3, 1) := dk_62 (dk_at dksX1_ranks_1 6 rfl rfl)
theorem dX1_ranks_29 : decode cX1_ranks 29 = .ok (.iconst (-1), 1) := dk_2 (dk_at dksX1_ranks_1 7 rfl rfl)
theorem dX1_ranks_30 : decode cX1_ranks 30 = .ok (.istore 4, 2) := dk_54 4 (dk_at dksX1_ranks_1 8 rfl rfl)
theorem dX1_ranks_32 : decode cX1_ranks 32 = .ok (.iconst (-1), 1) := dk_2 (dk_at dksX1_ranks_1 10 rfl rfl)
theorem dX1_ranks_33 : decode cX1_ranks 33 = .ok (.istore 5, 2) := dk_54 5 (dk_at dksX1_ranks_1 11 rfl rfl)
theorem dX1_ranks_35 : decode cX1_ranks 35 = .ok (.iconst 0, 1) := dk_3 (dk_at dksX1_ranks_1 13 rfl rfl)
theorem dX1_ranks_36 : decode cX1_ranks 36 = .ok (.istore 6, 2) := dk_54 6 (dk_at dksX1_ranks_1 14 rfl rfl)
theorem dX1_ranks_38 : decode cX1_ranks 38 = .ok (.iload 6, 2) := dk_21 6 (dk_at dksX1_ranks_1 16 rfl rfl)
theorem dX1_ranks_40 : decode cX1_ranks 40 = .ok (.aload_n 0, 1) := dk_42 (dk_at dksX1_ranks_1 18 rfl rfl)
theorem dX1_ranks_41 : decode cX1_ranks 41 = .ok (.getfield 71, 3) := dk_180 0 71 (dk_at dksX1_ranks_1 19 rfl rfl)
theorem dX1_ranks_44 : decode cX1_ranks 44 = .ok (.iload_n 1, 1) := dk_27 (dk_at dksX1_ranks_1 22 rfl rfl)
theorem dX1_ranks_45 : decode cX1_ranks 45 = .ok (.aaload, 1) := dk_50 (dk_at dksX1_ranks_1 23 rfl rfl)
theorem dX1_ranks_46 : decode cX1_ranks 46 = .ok (.invokevirtual 98, 3) := dk_182 0 98 (dk_at dksX1_ranks_2 0 rfl rfl)
theorem dX1_ranks_49 : decode cX1_ranks 49 = .ok (.if_icmp .ge 48, 3) := dk_162 0 48 (dk_at dksX1_ranks_2 3 rfl rfl)
theorem dX1_ranks_52 : decode cX1_ranks 52 = .ok (.aload_n 0, 1) := dk_42 (dk_at dksX1_ranks_2 6 rfl rfl)
theorem dX1_ranks_53 : decode cX1_ranks 53 = .ok (.getfield 71, 3) := dk_180 0 71 (dk_at dksX1_ranks_2 7 rfl rfl)
theorem dX1_ranks_56 : decode cX1_ranks 56 = .ok (.iload_n 1, 1) := dk_27 (dk_at dksX1_ranks_2 10 rfl rfl)
theorem dX1_ranks_57 : decode cX1_ranks 57 = .ok (.aaload, 1) := dk_50 (dk_at dksX1_ranks_2 11 rfl rfl)
theorem dX1_ranks_58 : decode cX1_ranks 58 = .ok (.getfield 204, 3) := dk_180 0 204 (dk_at dksX1_ranks_2 12 rfl rfl)
theorem dX1_ranks_61 : decode cX1_ranks 61 = .ok (.iload 6, 2) := dk_21 6 (dk_at dksX1_ranks_2 15 rfl rfl)
theorem dX1_ranks_63 : decode cX1_ranks 63 = .ok (.baload, 1) := dk_51 (dk_at dksX1_ranks_2 17 rfl rfl)
theorem dX1_ranks_64 : decode cX1_ranks 64 = .ok (.iload_n 2, 1) := dk_28 (dk_at dksX1_ranks_2 18 rfl rfl)
theorem dX1_ranks_65 : decode cX1_ranks 65 = .ok (.if_icmp .eq 6, 3) := dk_159 0 6 (dk_at dksX1_ranks_2 19 rfl rfl)
theorem dX1_ranks_68 : decode cX1_ranks 68 = .ok (.goto 23, 3) := dk_167 0 23 (dk_at dksX1_ranks_3 0 rfl rfl)
theorem dX1_ranks_71 : decode cX1_ranks 71 = .ok (.iload_n 3, 1) := dk_29 (dk_at dksX1_ranks_3 3 rfl rfl)
theorem dX1_ranks_72 : decode cX1_ranks 72 = .ok (.ifCond .ne 8, 3) := dk_154 0 8 (dk_at dksX1_ranks_3 4 rfl rfl)
theorem dX1_ranks_75 : decode cX1_ranks 75 = .ok (.iload 6, 2) := dk_21 6 (dk_at dksX1_ranks_3 7 rfl rfl)
theorem dX1_ranks_77 : decode cX1_ranks 77 = .ok (.goto 5, 3) := dk_167 0 5 (dk_at dksX1_ranks_3 9 rfl rfl)
theorem dX1_ranks_80 : decode cX1_ranks 80 = .ok (.iload 4, 2) := dk_21 4 (dk_at dksX1_ranks_3 12 rfl rfl)
theorem dX1_ranks_82 : decode cX1_ranks 82 = .ok (.istore 4, 2) := dk_54 4 (dk_at dksX1_ranks_3 14 rfl rfl)
theorem dX1_ranks_84 : decode cX1_ranks 84 = .ok (.iload 6, 2) := dk_21 6 (dk_at dksX1_ranks_3 16 rfl rfl)
theorem dX1_ranks_86 : decode cX1_ranks 86 = .ok (.istore 5, 2) := dk_54 5 (dk_at dksX1_ranks_3 18 rfl rfl)
theorem dX1_ranks_88 : decode cX1_ranks 88 = .ok (.iinc 3 1, 3) := dk_132 3 1 (dk_at dksX1_ranks_3 20 rfl rfl)
theorem dX1_ranks_91 : decode cX1_ranks 91 = .ok (.iinc 6 1, 3) := dk_132 6 1 (dk_at dksX1_ranks_4 0 rfl rfl)
theorem dX1_ranks_94 : decode cX1_ranks 94 = .ok (.goto (-56), 3) := dk_167 255 200 (dk_at dksX1_ranks_4 3 rfl rfl)
theorem dX1_ranks_97 : decode cX1_ranks 97 = .ok (.aload_n 0, 1) := dk_42 (dk_at dksX1_ranks_4 6 rfl rfl)
theorem dX1_ranks_98 : decode cX1_ranks 98 = .ok (.iconst 2, 1) := dk_5 (dk_at dksX1_ranks_4 7 rfl rfl)
theorem dX1_ranks_99 : decode cX1_ranks 99 = .ok (.newarray .long, 2) := dk_188_11 (dk_at dksX1_ranks_4 8 rfl rfl)
theorem dX1_ranks_101 : decode cX1_ranks 101 = .ok (.dup, 1) := dk_89 (dk_at dksX1_ranks_4 10 rfl rfl)
theorem dX1_ranks_102 : decode cX1_ranks 102 = .ok (.iconst 0, 1) := dk_3 (dk_at dksX1_ranks_4 11 rfl rfl)
theorem dX1_ranks_103 : decode cX1_ranks 103 = .ok (.iload 4, 2) := dk_21 4 (dk_at dksX1_ranks_4 12 rfl rfl)
theorem dX1_ranks_105 : decode cX1_ranks 105 = .ok (.i2l, 1) := dk_133 (dk_at dksX1_ranks_4 14 rfl rfl)
theorem dX1_ranks_106 : decode cX1_ranks 106 = .ok (.lastore, 1) := dk_80 (dk_at dksX1_ranks_4 15 rfl rfl)
theorem dX1_ranks_107 : decode cX1_ranks 107 = .ok (.dup, 1) := dk_89 (dk_at dksX1_ranks_4 16 rfl rfl)
theorem dX1_ranks_108 : decode cX1_ranks 108 = .ok (.iconst 1, 1) := dk_4 (dk_at dksX1_ranks_4 17 rfl rfl)
theorem dX1_ranks_109 : decode cX1_ranks 109 = .ok (.iload 5, 2) := dk_21 5 (dk_at dksX1_ranks_4 18 rfl rfl)
theorem dX1_ranks_111 : decode cX1_ranks 111 = .ok (.i2l, 1) := dk_133 (dk_at dksX1_ranks_4 20 rfl rfl)
theorem dX1_ranks_112 : decode cX1_ranks 112 = .ok (.lastore, 1) := dk_80 (dk_at dksX1_ranks_4 21 rfl rfl)
theorem dX1_ranks_113 : decode cX1_ranks 113 = .ok (.invokevirtual 44, 3) := dk_182 0 44 (dk_at dksX1_ranks_5 0 rfl rfl)
theorem dX1_ranks_116 : decode cX1_ranks 116 = .ok (.iload_n 3, 1) := dk_29 (dk_at dksX1_ranks_5 3 rfl rfl)
theorem dX1_ranks_117 : decode cX1_ranks 117 = .ok (.ireturn, 1) := dk_172 (dk_at dksX1_ranks_5 4 rfl rfl)
abbrev cX1_marked : ByteArray := prog_1_method_51_code
def yX1_marked : MethodName := ⟨RX1, "marked", "(II)J"⟩
def dkwX1_marked_3 : List UInt8 := [184, 0, 250, 167, 0, 6, 20, 0, 246, 173]
abbrev dktX1_marked_3 : List UInt8 := dkwX1_marked_3 ++ []
def dkwX1_marked_2 : List UInt8 := [180, 0, 208, 4, 100, 133, 184, 0, 7, 153, 0, 20, 42, 180, 0, 71, 27, 50, 180, 0, 211, 28, 46]
abbrev dktX1_marked_2 : List UInt8 := dkwX1_marked_2 ++ dktX1_marked_3
def dkwX1_marked_1 : List UInt8 := [180, 0, 71, 27, 50, 180, 0, 151, 153, 0, 7, 20, 0, 248, 173, 28, 133, 9, 42, 180, 0, 71, 27, 50]
abbrev dktX1_marked_1 : List UInt8 := dkwX1_marked_1 ++ dktX1_marked_2
def dkwX1_marked_0 : List UInt8 := [4, 188, 10, 89, 3, 27, 79, 184, 0, 92, 153, 0, 7, 28, 156, 0, 7, 20, 0, 246, 173, 42]
abbrev dktX1_marked_0 : List UInt8 := dkwX1_marked_0 ++ dktX1_marked_1
theorem dksX1_marked_0 : cX1_marked.data.toList.drop 0 = dktX1_marked_0 := by decide +kernel
theorem dksX1_marked_1 : cX1_marked.data.toList.drop 22 = dktX1_marked_1 := dk_seg dksX1_marked_0 22 rfl rfl
theorem dksX1_marked_2 : cX1_marked.data.toList.drop 46 = dktX1_marked_2 := dk_seg dksX1_marked_1 24 rfl rfl
theorem dksX1_marked_3 : cX1_marked.data.toList.drop 69 = dktX1_marked_3 := dk_seg dksX1_marked_2 23 rfl rfl
theorem dX1_marked_0 : decode cX1_marked 0 = .ok (.iconst 1, 1) := dk_4 (dk_at dksX1_marked_0 0 rfl rfl)
theorem dX1_marked_1 : decode cX1_marked 1 = .ok (.newarray .int, 2) := dk_188_10 (dk_at dksX1_marked_0 1 rfl rfl)
theorem dX1_marked_3 : decode cX1_marked 3 = .ok (.dup, 1) := dk_89 (dk_at dksX1_marked_0 3 rfl rfl)
theorem dX1_marked_4 : decode cX1_marked 4 = .ok (.iconst 0, 1) := dk_3 (dk_at dksX1_marked_0 4 rfl rfl)
theorem dX1_marked_5 : decode cX1_marked 5 = .ok (.iload_n 1, 1) := dk_27 (dk_at dksX1_marked_0 5 rfl rfl)
theorem dX1_marked_6 : decode cX1_marked 6 = .ok (.iastore, 1) := dk_79 (dk_at dksX1_marked_0 6 rfl rfl)
theorem dX1_marked_7 : decode cX1_marked 7 = .ok (.invokestatic 92, 3) := dk_184 0 92 (dk_at dksX1_marked_0 7 rfl rfl)
theorem dX1_marked_10 : decode cX1_marked 10 = .ok (.ifCond .eq 7, 3) := dk_153 0 7 (dk_at dksX1_marked_0 10 rfl rfl)
theorem dX1_marked_13 : decode cX1_marked 13 = .ok (.iload_n 2, 1) := dk_28 (dk_at dksX1_marked_0 13 rfl rfl)
theorem dX1_marked_14 : decode cX1_marked 14 = .ok (.ifCond .ge 7, 3) := dk_156 0 7 (dk_at dksX1_marked_0 14 rfl rfl)
theorem dX1_marked_17 : decode cX1_marked 17 = .ok (.ldc2_w 246, 3) := dk_20 0 246 (dk_at dksX1_marked_0 17 rfl rfl)
theorem dX1_marked_20 : decode cX1_marked 20 = .ok (.lreturn, 1) := dk_173 (dk_at dksX1_marked_0 20 rfl rfl)
theorem dX1_marked_21 : decode cX1_marked 21 = .ok (.aload_n 0, 1) := dk_42 (dk_at dksX1_marked_0 21 rfl rfl)
theorem dX1_marked_22 : decode cX1_marked 22 = .ok (.getfield 71, 3) := dk_180 0 71 (dk_at dksX1_marked_1 0 rfl rfl)
theorem dX1_marked_25 : decode cX1_marked 25 = .ok (.iload_n 1, 1) := dk_27 (dk_at dksX1_marked_1 3 rfl rfl)
theorem dX1_marked_26 : decode cX1_marked 26 = .ok (.aaload, 1) := dk_50 (dk_at dksX1_marked_1 4 rfl rfl)
theorem dX1_marked_27 : decode cX1_marked 27 = .ok (.getfield 151, 3) := dk_180 0 151 (dk_at dksX1_marked_1 5 rfl rfl)
theorem dX1_marked_30 : decode cX1_marked 30 = .ok (.ifCond .eq 7, 3) := dk_153 0 7 (dk_at dksX1_marked_1 8 rfl rfl)
theorem dX1_marked_33 : decode cX1_marked 33 = .ok (.ldc2_w 248, 3) := dk_20 0 248 (dk_at dksX1_marked_1 11 rfl rfl)
theorem dX1_marked_36 : decode cX1_marked 36 = .ok (.lreturn, 1) := dk_173 (dk_at dksX1_marked_1 14 rfl rfl)
theorem dX1_marked_37 : decode cX1_marked 37 = .ok (.iload_n 2, 1) := dk_28 (dk_at dksX1_marked_1 15 rfl rfl)
theorem dX1_marked_38 : decode cX1_marked 38 = .ok (.i2l, 1) := dk_133 (dk_at dksX1_marked_1 16 rfl rfl)
theorem dX1_marked_39 : decode cX1_marked 39 = .ok (.lconst 0, 1) := dk_9 (dk_at dksX1_marked_1 17 rfl rfl)
theorem dX1_marked_40 : decode cX1_marked 40 = .ok (.aload_n 0, 1) := dk_42 (dk_at dksX1_marked_1 18 rfl rfl)
theorem dX1_marked_41 : decode cX1_marked 41 = .ok (.getfield 71, 3) := dk_180 0 71 (dk_at dksX1_marked_1 19 rfl rfl)
theorem dX1_marked_44 : decode cX1_marked 44 = .ok (.iload_n 1, 1) := dk_27 (dk_at dksX1_marked_1 22 rfl rfl)
theorem dX1_marked_45 : decode cX1_marked 45 = .ok (.aaload, 1) := dk_50 (dk_at dksX1_marked_1 23 rfl rfl)
theorem dX1_marked_46 : decode cX1_marked 46 = .ok (.getfield 208, 3) := dk_180 0 208 (dk_at dksX1_marked_2 0 rfl rfl)
theorem dX1_marked_49 : decode cX1_marked 49 = .ok (.iconst 1, 1) := dk_4 (dk_at dksX1_marked_2 3 rfl rfl)
theorem dX1_marked_50 : decode cX1_marked 50 = .ok (.isub, 1) := dk_100 (dk_at dksX1_marked_2 4 rfl rfl)
theorem dX1_marked_51 : decode cX1_marked 51 = .ok (.i2l, 1) := dk_133 (dk_at dksX1_marked_2 5 rfl rfl)
theorem dX1_marked_52 : decode cX1_marked 52 = .ok (.invokestatic 7, 3) := dk_184 0 7 (dk_at dksX1_marked_2 6 rfl rfl)
theorem dX1_marked_55 : decode cX1_marked 55 = .ok (.ifCond .eq 20, 3) := dk_153 0 20 (dk_at dksX1_marked_2 9 rfl rfl)
theorem dX1_marked_58 : decode cX1_marked 58 = .ok (.aload_n 0, 1) := dk_42 (dk_at dksX1_marked_2 12 rfl rfl)
theorem dX1_marked_59 : decode cX1_marked 59 = .ok (.getfield 71, 3) := dk_180 0 71 (dk_at dksX1_marked_2 13 rfl rfl)
theorem dX1_marked_62 : decode cX1_marked 62 = .ok (.iload_n 1, 1) := dk_27 (dk_at dksX1_marked_2 16 rfl rfl)
theorem dX1_marked_63 : decode cX1_marked 63 = .ok (.aaload, 1) := dk_50 (dk_at dksX1_marked_2 17 rfl rfl)
theorem dX1_marked_64 : decode cX1_marked 64 = .ok (.getfield 211, 3) := dk_180 0 211 (dk_at dksX1_marked_2 18 rfl rfl)
theorem dX1_marked_67 : decode cX1_marked 67 = .ok (.iload_n 2, 1) := dk_28 (dk_at dksX1_marked_2 21 rfl rfl)
theorem dX1_marked_68 : decode cX1_marked 68 = .ok (.iaload, 1) := dk_46 (dk_at dksX1_marked_2 22 rfl rfl)
theorem dX1_marked_69 : decode cX1_marked 69 = .ok (.invokestatic 250, 3) := dk_184 0 250 (dk_at dksX1_marked_3 0 rfl rfl)
theorem dX1_marked_72 : decode cX1_marked 72 = .ok (.goto 6, 3) := dk_167 0 6 (dk_at dksX1_marked_3 3 rfl rfl)
theorem dX1_marked_75 : decode cX1_marked 75 = .ok (.ldc2_w 246, 3) := dk_20 0 246 (dk_at dksX1_marked_3 6 rfl rfl)
theorem dX1_marked_78 : decode cX1_marked 78 = .ok (.lreturn, 1) := dk_173 (dk_at dksX1_marked_3 9 rfl rfl)
abbrev cX1_may : ByteArray := prog_1_method_52_code
def yX1_may : MethodName := ⟨RX1, "may", "(II)I"⟩
def dkwX1_may_1 : List UInt8 := [28, 182, 0, 34, 182, 0, 148, 153, 0, 7, 3, 167, 0, 4, 4, 172]
abbrev dktX1_may_1 : List UInt8 := dkwX1_may_1 ++ []
def dkwX1_may_0 : List UInt8 := [4, 188, 10, 89, 3, 27, 79, 184, 0, 92, 154, 0, 7, 2, 167, 0, 25, 42, 180, 0, 71, 27, 50, 42]
abbrev dktX1_may_0 : List UInt8 := dkwX1_may_0 ++ dktX1_may_1
theorem dksX1_may_0 : cX1_may.data.toList.drop 0 = dktX1_may_0 := by decide +kernel
theorem dksX1_may_1 : cX1_may.data.toList.drop 24 = dktX1_may_1 := dk_seg dksX1_may_0 24 rfl rfl
theorem dX1_may_0 : decode cX1_may 0 = .ok (.iconst 1, 1) := dk_4 (dk_at dksX1_may_0 0 rfl rfl)
theorem dX1_may_1 : decode cX1_may 1 = .ok (.newarray .int, 2) := dk_188_10 (dk_at dksX1_may_0 1 rfl rfl)
theorem dX1_may_3 : decode cX1_may 3 = .ok (.dup, 1) := dk_89 (dk_at dksX1_may_0 3 rfl rfl)
theorem dX1_may_4 : decode cX1_may 4 = .ok (.iconst 0, 1) := dk_3 (dk_at dksX1_may_0 4 rfl rfl)
theorem dX1_may_5 : decode cX1_may 5 = .ok (.iload_n 1, 1) := dk_27 (dk_at dksX1_may_0 5 rfl rfl)
theorem dX1_may_6 : decode cX1_may 6 = .ok (.iastore, 1) := dk_79 (dk_at dksX1_may_0 6 rfl rfl)
theorem dX1_may_7 : decode cX1_may 7 = .ok (.invokestatic 92, 3) := dk_184 0 92 (dk_at dksX1_may_0 7 rfl rfl)
theorem dX1_may_10 : decode cX1_may 10 = .ok (.ifCond .ne 7, 3) := dk_154 0 7 (dk_at dksX1_may_0 10 rfl rfl)
theorem dX1_may_13 : decode cX1_may 13 = .ok (.iconst (-1), 1) := dk_2 (dk_at dksX1_may_0 13 rfl rfl)
theorem dX1_may_14 : decode cX1_may 14 = .ok (.goto 25, 3) := dk_167 0 25 (dk_at dksX1_may_0 14 rfl rfl)
theorem dX1_may_17 : decode cX1_may 17 = .ok (.aload_n 0, 1) := dk_42 (dk_at dksX1_may_0 17 rfl rfl)
theorem dX1_may_18 : decode cX1_may 18 = .ok (.getfield 71, 3) := dk_180 0 71 (dk_at dksX1_may_0 18 rfl rfl)
theorem dX1_may_21 : decode cX1_may 21 = .ok (.iload_n 1, 1) := dk_27 (dk_at dksX1_may_0 21 rfl rfl)
theorem dX1_may_22 : decode cX1_may 22 = .ok (.aaload, 1) := dk_50 (dk_at dksX1_may_0 22 rfl rfl)
theorem dX1_may_23 : decode cX1_may 23 = .ok (.aload_n 0, 1) := dk_42 (dk_at dksX1_may_0 23 rfl rfl)
theorem dX1_may_24 : decode cX1_may 24 = .ok (.iload_n 2, 1) := dk_28 (dk_at dksX1_may_1 0 rfl rfl)
theorem dX1_may_25 : decode cX1_may 25 = .ok (.invokevirtual 34, 3) := dk_182 0 34 (dk_at dksX1_may_1 1 rfl rfl)
theorem dX1_may_28 : decode cX1_may 28 = .ok (.invokevirtual 148, 3) := dk_182 0 148 (dk_at dksX1_may_1 4 rfl rfl)
theorem dX1_may_31 : decode cX1_may 31 = .ok (.ifCond .eq 7, 3) := dk_153 0 7 (dk_at dksX1_may_1 7 rfl rfl)
theorem dX1_may_34 : decode cX1_may 34 = .ok (.iconst 0, 1) := dk_3 (dk_at dksX1_may_1 10 rfl rfl)
theorem dX1_may_35 : decode cX1_may 35 = .ok (.goto 4, 3) := dk_167 0 4 (dk_at dksX1_may_1 11 rfl rfl)
theorem dX1_may_38 : decode cX1_may 38 = .ok (.iconst 1, 1) := dk_4 (dk_at dksX1_may_1 14 rfl rfl)
theorem dX1_may_39 : decode cX1_may 39 = .ok (.ireturn, 1) := dk_172 (dk_at dksX1_may_1 15 rfl rfl)
abbrev cX1_first : ByteArray := prog_1_method_53_code
def yX1_first : MethodName := ⟨RX1, "first", "(IIII)I"⟩
def dkwX1_first_3 : List UInt8 := [21, 5, 29, 104, 96, 133, 80, 182, 0, 44, 21, 5, 172, 132, 5, 1, 167, 255, 201, 16, 254, 172]
abbrev dktX1_first_3 : List UInt8 := dkwX1_first_3 ++ []
def dkwX1_first_2 : List UInt8 := [21, 5, 29, 104, 96, 182, 0, 34, 182, 0, 148, 154, 0, 6, 167, 0, 23, 42, 4, 188, 11, 89, 3, 28]
abbrev dktX1_first_2 : List UInt8 := dkwX1_first_2 ++ dktX1_first_3
def dkwX1_first_1 : List UInt8 := [154, 0, 5, 2, 172, 3, 54, 5, 21, 5, 21, 4, 162, 0, 54, 42, 180, 0, 71, 27, 50, 42, 28]
abbrev dktX1_first_1 : List UInt8 := dkwX1_first_1 ++ dktX1_first_2
def dkwX1_first_0 : List UInt8 := [4, 188, 10, 89, 3, 27, 79, 184, 0, 92, 153, 0, 16, 21, 4, 133, 10, 20, 0, 105, 184, 0, 7]
abbrev dktX1_first_0 : List UInt8 := dkwX1_first_0 ++ dktX1_first_1
theorem dksX1_first_0 : cX1_first.data.toList.drop 0 = dktX1_first_0 := by decide +kernel
theorem dksX1_first_1 : cX1_first.data.toList.drop 23 = dktX1_first_1 := dk_seg dksX1_first_0 23 rfl rfl
theorem dksX1_first_2 : cX1_first.data.toList.drop 46 = dktX1_first_2 := dk_seg dksX1_first_1 23 rfl rfl
theorem dksX1_first_3 : cX1_first.data.toList.drop 70 = dktX1_first_3 := dk_seg dksX1_first_2 24 rfl rfl
theorem dX1_first_0 : decode cX1_first 0 = .ok (.iconst 1, 1) := dk_4 (dk_at dksX1_first_0 0 rfl rfl)
theorem dX1_first_1 : decode cX1_first 1 = .ok (.newarray .int, 2) := dk_188_10 (dk_at dksX1_first_0 1 rfl rfl)
theorem dX1_first_3 : decode cX1_first 3 = .ok (.dup, 1) := dk_89 (dk_at dksX1_first_0 3 rfl rfl)
theorem dX1_first_4 : decode cX1_first 4 = .ok (.iconst 0, 1) := dk_3 (dk_at dksX1_first_0 4 rfl rfl)
theorem dX1_first_5 : decode cX1_first 5 = .ok (.iload_n 1, 1) := dk_27 (dk_at dksX1_first_0 5 rfl rfl)
theorem dX1_first_6 : decode cX1_first 6 = .ok (.iastore, 1) := dk_79 (dk_at dksX1_first_0 6 rfl rfl)
theorem dX1_first_7 : decode cX1_first 7 = .ok (.invokestatic 92, 3) := dk_184 0 92 (dk_at dksX1_first_0 7 rfl rfl)
theorem dX1_first_10 : decode cX1_first 10 = .ok (.ifCond .eq 16, 3) := dk_153 0 16 (dk_at dksX1_first_0 10 rfl rfl)
theorem dX1_first_13 : decode cX1_first 13 = .ok (.iload 4, 2) := dk_21 4 (dk_at dksX1_first_0 13 rfl rfl)
theorem dX1_first_15 : decode cX1_first 15 = .ok (.i2l, 1) := dk_133 (dk_at dksX1_first_0 15 rfl rfl)
theorem dX1_first_16 : decode cX1_first 16 = .ok (.lconst 1, 1) := dk_10 (dk_at dksX1_first_0 16 rfl rfl)
theorem dX1_first_17 : decode cX1_first 17 = .ok (.ldc2_w 105, 3) := dk_20 0 105 (dk_at dksX1_first_0 17 rfl rfl)
theorem dX1_first_20 : decode cX1_first 20 = .ok (.invokestatic 7, 3) := dk_184 0 7 (dk_at dksX1_first_0 20 rfl rfl)
theorem dX1_first_23 : decode cX1_first 23 = .ok (.ifCond .ne 5, 3) := dk_154 0 5 (dk_at dksX1_first_1 0 rfl rfl)
theorem dX1_first_26 : decode cX1_first 26 = .ok (.iconst (-1), 1) := dk_2 (dk_at dksX1_first_1 3 rfl rfl)
theorem dX1_first_27 : decode cX1_first 27 = .ok (.ireturn, 1) := dk_172 (dk_at dksX1_first_1 4 rfl rfl)
theorem dX1_first_28 : decode cX1_first 28 = .ok (.iconst 0, 1) := dk_3 (dk_at dksX1_first_1 5 rfl rfl)
theorem dX1_first_29 : decode cX1_first 29 = .ok (.istore 5, 2) := dk_54 5 (dk_at dksX1_first_1 6 rfl rfl)
theorem dX1_first_31 : decode cX1_first 31 = .ok (.iload 5, 2) := dk_21 5 (dk_at dksX1_first_1 8 rfl rfl)
theorem dX1_first_33 : decode cX1_first 33 = .ok (.iload 4, 2) := dk_21 4 (dk_at dksX1_first_1 10 rfl rfl)
theorem dX1_first_35 : decode cX1_first 35 = .ok (.if_icmp .ge 54, 3) := dk_162 0 54 (dk_at dksX1_first_1 12 rfl rfl)
theorem dX1_first_38 : decode cX1_first 38 = .ok (.aload_n 0, 1) := dk_42 (dk_at dksX1_first_1 15 rfl rfl)
theorem dX1_first_39 : decode cX1_first 39 = .ok (.getfield 71, 3) := dk_180 0 71 (dk_at dksX1_first_1 16 rfl rfl)
theorem dX1_first_42 : decode cX1_first 42 = .ok (.iload_n 1, 1) := dk_27 (dk_at dksX1_first_1 19 rfl rfl)
theorem dX1_first_43 : decode cX1_first 43 = .ok (.aaload, 1) := dk_50 (dk_at dksX1_first_1 20 rfl rfl)
theorem dX1_first_44 : decode cX1_first 44 = .ok (.aload_n 0, 1) := dk_42 (dk_at dksX1_first_1 21 rfl rfl)
theorem dX1_first_45 : decode cX1_first 45 = .ok (.iload_n 2, 1) := dk_28 (dk_at dksX1_first_1 22 rfl rfl)
theorem dX1_first_46 : decode cX1_first 46 = .ok (.iload 5, 2) := dk_21 5 (dk_at dksX1_first_2 0 rfl rfl)
theorem dX1_first_48 : decode cX1_first 48 = .ok (.iload_n 3, 1) := dk_29 (dk_at dksX1_first_2 2 rfl rfl)
theorem dX1_first_49 : decode cX1_first 49 = .ok (.imul, 1) := dk_104 (dk_at dksX1_first_2 3 rfl rfl)
theorem dX1_first_50 : decode cX1_first 50 = .ok (.iadd, 1) := dk_96 (dk_at dksX1_first_2 4 rfl rfl)
theorem dX1_first_51 : decode cX1_first 51 = .ok (.invokevirtual 34, 3) := dk_182 0 34 (dk_at dksX1_first_2 5 rfl rfl)
theorem dX1_first_54 : decode cX1_first 54 = .ok (.invokevirtual 148, 3) := dk_182 0 148 (dk_at dksX1_first_2 8 rfl rfl)
theorem dX1_first_57 : decode cX1_first 57 = .ok (.ifCond .ne 6, 3) := dk_154 0 6 (dk_at dksX1_first_2 11 rfl rfl)
theorem dX1_first_60 : decode cX1_first 60 = .ok (.goto 23, 3) := dk_167 0 23 (dk_at dksX1_first_2 14 rfl rfl)
theorem dX1_first_63 : decode cX1_first 63 = .ok (.aload_n 0, 1) := dk_42 (dk_at dksX1_first_2 17 rfl rfl)
theorem dX1_first_64 : decode cX1_first 64 = .ok (.iconst 1, 1) := dk_4 (dk_at dksX1_first_2 18 rfl rfl)
theorem dX1_first_65 : decode cX1_first 65 = .ok (.newarray .long, 2) := dk_188_11 (dk_at dksX1_first_2 19 rfl rfl)
theorem dX1_first_67 : decode cX1_first 67 = .ok (.dup, 1) := dk_89 (dk_at dksX1_first_2 21 rfl rfl)
theorem dX1_first_68 : decode cX1_first 68 = .ok (.iconst 0, 1) := dk_3 (dk_at dksX1_first_2 22 rfl rfl)
theorem dX1_first_69 : decode cX1_first 69 = .ok (.iload_n 2, 1) := dk_28 (dk_at dksX1_first_2 23 rfl rfl)
theorem dX1_first_70 : decode cX1_first 70 = .ok (.iload 5, 2) := dk_21 5 (dk_at dksX1_first_3 0 rfl rfl)
theorem dX1_first_72 : decode cX1_first 72 = .ok (.iload_n 3, 1) := dk_29 (dk_at dksX1_first_3 2 rfl rfl)
theorem dX1_first_73 : decode cX1_first 73 = .ok (.imul, 1) := dk_104 (dk_at dksX1_first_3 3 rfl rfl)
theorem dX1_first_74 : decode cX1_first 74 = .ok (.iadd, 1) := dk_96 (dk_at dksX1_first_3 4 rfl rfl)
theorem dX1_first_75 : decode cX1_first 75 = .ok (.i2l, 1) := dk_133 (dk_at dksX1_first_3 5 rfl rfl)
theorem dX1_first_76 : decode cX1_first 76 = .ok (.lastore, 1) := dk_80 (dk_at dksX1_first_3 6 rfl rfl)
theorem dX1_first_77 : decode cX1_first 77 = .ok (.invokevirtual 44, 3) := dk_182 0 44 (dk_at dksX1_first_3 7 rfl rfl)
theorem dX1_first_80 : decode cX1_first 80 = .ok (.iload 5, 2) := dk_21 5 (dk_at dksX1_first_3 10 rfl rfl)
theorem dX1_first_82 : decode cX1_first 82 = .ok (.ireturn, 1) := dk_172 (dk_at dksX1_first_3 12 rfl rfl)
theorem dX1_first_83 : decode cX1_first 83 = .ok (.iinc 5 1, 3) := dk_132 5 1 (dk_at dksX1_first_3 13 rfl rfl)
theorem dX1_first_86 : decode cX1_first 86 = .ok (.goto (-55), 3) := dk_167 255 201 (dk_at dksX1_first_3 16 rfl rfl)
theorem dX1_first_89 : decode cX1_first 89 = .ok (.bipush (-2), 2) := dk_16 254 (dk_at dksX1_first_3 19 rfl rfl)
theorem dX1_first_91 : decode cX1_first 91 = .ok (.ireturn, 1) := dk_172 (dk_at dksX1_first_3 21 rfl rfl)
abbrev cX1_bits : ByteArray := prog_1_method_54_code
def yX1_bits : MethodName := ⟨RX1, "bits", "(II)J"⟩
def dkwX1_bits_4 : List UInt8 := [132, 5, 1, 167, 255, 201, 33, 173]
abbrev dktX1_bits_4 : List UInt8 := dkwX1_bits_4 ++ []
def dkwX1_bits_3 : List UInt8 := [180, 0, 71, 27, 50, 180, 0, 204, 16, 12, 28, 104, 21, 5, 96, 51, 133, 8, 21, 5, 104, 121, 129, 66]
abbrev dktX1_bits_3 : List UInt8 := dkwX1_bits_3 ++ dktX1_bits_4
def dkwX1_bits_2 : List UInt8 := [162, 0, 54, 16, 12, 28, 104, 21, 5, 96, 42, 180, 0, 71, 27, 50, 182, 0, 98, 162, 0, 35, 33, 42]
abbrev dktX1_bits_2 : List UInt8 := dkwX1_bits_2 ++ dktX1_bits_3
def dkwX1_bits_1 : List UInt8 := [182, 0, 98, 4, 100, 16, 12, 108, 164, 0, 7, 20, 0, 246, 173, 9, 66, 3, 54, 5, 21, 5, 16, 12]
abbrev dktX1_bits_1 : List UInt8 := dkwX1_bits_1 ++ dktX1_bits_2
def dkwX1_bits_0 : List UInt8 := [4, 188, 10, 89, 3, 27, 79, 184, 0, 92, 153, 0, 25, 28, 155, 0, 21, 28, 42, 180, 0, 71, 27, 50]
abbrev dktX1_bits_0 : List UInt8 := dkwX1_bits_0 ++ dktX1_bits_1
theorem dksX1_bits_0 : cX1_bits.data.toList.drop 0 = dktX1_bits_0 := by decide +kernel
theorem dksX1_bits_1 : cX1_bits.data.toList.drop 24 = dktX1_bits_1 := dk_seg dksX1_bits_0 24 rfl rfl
theorem dksX1_bits_2 : cX1_bits.data.toList.drop 48 = dktX1_bits_2 := dk_seg dksX1_bits_1 24 rfl rfl
theorem dksX1_bits_3 : cX1_bits.data.toList.drop 72 = dktX1_bits_3 := dk_seg dksX1_bits_2 24 rfl rfl
theorem dksX1_bits_4 : cX1_bits.data.toList.drop 96 = dktX1_bits_4 := dk_seg dksX1_bits_3 24 rfl rfl
theorem dX1_bits_0 : decode cX1_bits 0 = .ok (.iconst 1, 1) := dk_4 (dk_at dksX1_bits_0 0 rfl rfl)
theorem dX1_bits_1 : decode cX1_bits 1 = .ok (.newarray .int, 2) := dk_188_10 (dk_at dksX1_bits_0 1 rfl rfl)
theorem dX1_bits_3 : decode cX1_bits 3 = .ok (.dup, 1) := dk_89 (dk_at dksX1_bits_0 3 rfl rfl)
theorem dX1_bits_4 : decode cX1_bits 4 = .ok (.iconst 0, 1) := dk_3 (dk_at dksX1_bits_0 4 rfl rfl)
theorem dX1_bits_5 : decode cX1_bits 5 = .ok (.iload_n 1, 1) := dk_27 (dk_at dksX1_bits_0 5 rfl rfl)
theorem dX1_bits_6 : decode cX1_bits 6 = .ok (.iastore, 1) := dk_79 (dk_at dksX1_bits_0 6 rfl rfl)
theorem dX1_bits_7 : decode cX1_bits 7 = .ok (.invokestatic 92, 3) := dk_184 0 92 (dk_at dksX1_bits_0 7 rfl rfl)
theorem dX1_bits_10 : decode cX1_bits 10 = .ok (.ifCond .eq 25, 3) := dk_153 0 25 (dk_at dksX1_bits_0 10 rfl rfl)
theorem dX1_bits_13 : decode cX1_bits 13 = .ok (.iload_n 2, 1) := dk_28 (dk_at dksX1_bits_0 13 rfl rfl)
theorem dX1_bits_14 : decode cX1_bits 14 = .ok (.ifCond .lt 21, 3) := dk_155 0 21 (dk_at dksX1_bits_0 14 rfl rfl)
theorem dX1_bits_17 : decode cX1_bits 17 = .ok (.iload_n 2, 1) := dk_28 (dk_at dksX1_bits_0 17 rfl rfl)
theorem dX1_bits_18 : decode cX1_bits 18 = .ok (.aload_n 0, 1) := dk_42 (dk_at dksX1_bits_0 18 rfl rfl)
theorem dX1_bits_19 : decode cX1_bits 19 = .ok (.getfield 71, 3) := dk_180 0 71 (dk_at dksX1_bits_0 19 rfl rfl)
theorem dX1_bits_22 : decode cX1_bits 22 = .ok (.iload_n 1, 1) := dk_27 (dk_at dksX1_bits_0 22 rfl rfl)
theorem dX1_bits_23 : decode cX1_bits 23 = .ok (.aaload, 1) := dk_50 (dk_at dksX1_bits_0 23 rfl rfl)
theorem dX1_bits_24 : decode cX1_bits 24 = .ok (.invokevirtual 98, 3) := dk_182 0 98 (dk_at dksX1_bits_1 0 rfl rfl)
theorem dX1_bits_27 : decode cX1_bits 27 = .ok (.iconst 1, 1) := dk_4 (dk_at dksX1_bits_1 3 rfl rfl)
theorem dX1_bits_28 : decode cX1_bits 28 = .ok (.isub, 1) := dk_100 (dk_at dksX1_bits_1 4 rfl rfl)
theorem dX1_bits_29 : decode cX1_bits 29 = .ok (.bipush 12, 2) := dk_16 12 (dk_at dksX1_bits_1 5 rfl rfl)
theorem dX1_bits_31 : decode cX1_bits 31 = .ok (.idiv, 1) := dk_108 (dk_at dksX1_bits_1 7 rfl rfl)
theorem dX1_bits_32 : decode cX1_bits 32 = .ok (.if_icmp .le 7, 3) := dk_164 0 7 (dk_at dksX1_bits_1 8 rfl rfl)
theorem dX1_bits_35 : decode cX1_bits 35 = .ok (.ldc2_w 246, 3) := dk_20 0 246 (dk_at dksX1_bits_1 11 rfl rfl)
theorem dX1_bits_38 : decode cX1_bits 38 = .ok (.lreturn, 1) := dk_173 (dk_at dksX1_bits_1 14 rfl rfl)
theorem dX1_bits_39 : decode cX1_bits 39 = .ok (.lconst 0, 1) := dk_9 (dk_at dksX1_bits_1 15 rfl rfl)
theorem dX1_bits_40 : decode cX1_bits 40 = .ok (.lstore_n 3, 1) := dk_66 (dk_at dksX1_bits_1 16 rfl rfl)
theorem dX1_bits_41 : decode cX1_bits 41 = .ok (.iconst 0, 1) := dk_3 (dk_at dksX1_bits_1 17 rfl rfl)
theorem dX1_bits_42 : decode cX1_bits 42 = .ok (.istore 5, 2) := dk_54 5 (dk_at dksX1_bits_1 18 rfl rfl)
theorem dX1_bits_44 : decode cX1_bits 44 = .ok (.iload 5, 2) := dk_21 5 (dk_at dksX1_bits_1 20 rfl rfl)
theorem dX1_bits_46 : decode cX1_bits 46 = .ok (.bipush 12, 2) := dk_16 12 (dk_at dksX1_bits_1 22 rfl rfl)
theorem dX1_bits_48 : decode cX1_bits 48 = .ok (.if_icmp .ge 54, 3) := dk_162 0 54 (dk_at dksX1_bits_2 0 rfl rfl)
theorem dX1_bits_51 : decode cX1_bits 51 = .ok (.bipush 12, 2) := dk_16 12 (dk_at dksX1_bits_2 3 rfl rfl)
theorem dX1_bits_53 : decode cX1_bits 53 = .ok (.iload_n 2, 1) := dk_28 (dk_at dksX1_bits_2 5 rfl rfl)
theorem dX1_bits_54 : decode cX1_bits 54 = .ok (.imul, 1) := dk_104 (dk_at dksX1_bits_2 6 rfl rfl)
theorem dX1_bits_55 : decode cX1_bits 55 = .ok (.iload 5, 2) := dk_21 5 (dk_at dksX1_bits_2 7 rfl rfl)
theorem dX1_bits_57 : decode cX1_bits 57 = .ok (.iadd, 1) := dk_96 (dk_at dksX1_bits_2 9 rfl rfl)
theorem dX1_bits_58 : decode cX1_bits 58 = .ok (.aload_n 0, 1) := dk_42 (dk_at dksX1_bits_2 10 rfl rfl)
theorem dX1_bits_59 : decode cX1_bits 59 = .ok (.getfield 71, 3) := dk_180 0 71 (dk_at dksX1_bits_2 11 rfl rfl)
theorem dX1_bits_62 : decode cX1_bits 62 = .ok (.iload_n 1, 1) := dk_27 (dk_at dksX1_bits_2 14 rfl rfl)
theorem dX1_bits_63 : decode cX1_bits 63 = .ok (.aaload, 1) := dk_50 (dk_at dksX1_bits_2 15 rfl rfl)
theorem dX1_bits_64 : decode cX1_bits 64 = .ok (.invokevirtual 98, 3) := dk_182 0 98 (dk_at dksX1_bits_2 16 rfl rfl)
theorem dX1_bits_67 : decode cX1_bits 67 = .ok (.if_icmp .ge 35, 3) := dk_162 0 35 (dk_at dksX1_bits_2 19 rfl rfl)
theorem dX1_bits_70 : decode cX1_bits 70 = .ok (.lload_n 3, 1) := dk_33 (dk_at dksX1_bits_2 22 rfl rfl)
theorem dX1_bits_71 : decode cX1_bits 71 = .ok (.aload_n 0, 1) := dk_42 (dk_at dksX1_bits_2 23 rfl rfl)
theorem dX1_bits_72 : decode cX1_bits 72 = .ok (.getfield 71, 3) := dk_180 0 71 (dk_at dksX1_bits_3 0 rfl rfl)
theorem dX1_bits_75 : decode cX1_bits 75 = .ok (.iload_n 1, 1) := dk_27 (dk_at dksX1_bits_3 3 rfl rfl)
theorem dX1_bits_76 : decode cX1_bits 76 = .ok (.aaload, 1) := dk_50 (dk_at dksX1_bits_3 4 rfl rfl)
theorem dX1_bits_77 : decode cX1_bits 77 = .ok (.getfield 204, 3) := dk_180 0 204 (dk_at dksX1_bits_3 5 rfl rfl)
theorem dX1_bits_80 : decode cX1_bits 80 = .ok (.bipush 12, 2) := dk_16 12 (dk_at dksX1_bits_3 8 rfl rfl)
theorem dX1_bits_82 : decode cX1_bits 82 = .ok (.iload_n 2, 1) := dk_28 (dk_at dksX1_bits_3 10 rfl rfl)
theorem dX1_bits_83 : decode cX1_bits 83 = .ok (.imul, 1) := dk_104 (dk_at dksX1_bits_3 11 rfl rfl)
theorem dX1_bits_84 : decode cX1_bits 84 = .ok (.iload 5, 2) := dk_21 5 (dk_at dksX1_bits_3 12 rfl rfl)
theorem dX1_bits_86 : decode cX1_bits 86 = .ok (.iadd, 1) := dk_96 (dk_at dksX1_bits_3 14 rfl rfl)
theorem dX1_bits_87 : decode cX1_bits 87 = .ok (.baload, 1) := dk_51 (dk_at dksX1_bits_3 15 rfl rfl)
theorem dX1_bits_88 : decode cX1_bits 88 = .ok (.i2l, 1) := dk_133 (dk_at dksX1_bits_3 16 rfl rfl)
theorem dX1_bits_89 : decode cX1_bits 89 = .ok (.iconst 5, 1) := dk_8 (dk_at dksX1_bits_3 17 rfl rfl)
theorem dX1_bits_90 : decode cX1_bits 90 = .ok (.iload 5, 2) := dk_21 5 (dk_at dksX1_bits_3 18 rfl rfl)
theorem dX1_bits_92 : decode cX1_bits 92 = .ok (.imul, 1) := dk_104 (dk_at dksX1_bits_3 20 rfl rfl)
theorem dX1_bits_93 : decode cX1_bits 93 = .ok (.lshl, 1) := dk_121 (dk_at dksX1_bits_3 21 rfl rfl)
theorem dX1_bits_94 : decode cX1_bits 94 = .ok (.lor, 1) := dk_129 (dk_at dksX1_bits_3 22 rfl rfl)
theorem dX1_bits_95 : decode cX1_bits 95 = .ok (.lstore_n 3, 1) := dk_66 (dk_at dksX1_bits_3 23 rfl rfl)
theorem dX1_bits_96 : decode cX1_bits 96 = .ok (.iinc 5 1, 3) := dk_132 5 1 (dk_at dksX1_bits_4 0 rfl rfl)
theorem dX1_bits_99 : decode cX1_bits 99 = .ok (.goto (-55), 3) := dk_167 255 201 (dk_at dksX1_bits_4 3 rfl rfl)
theorem dX1_bits_102 : decode cX1_bits 102 = .ok (.lload_n 3, 1) := dk_33 (dk_at dksX1_bits_4 6 rfl rfl)
theorem dX1_bits_103 : decode cX1_bits 103 = .ok (.lreturn, 1) := dk_173 (dk_at dksX1_bits_4 7 rfl rfl)
abbrev cX1_slice : ByteArray := prog_1_method_55_code
def yX1_slice : MethodName := ⟨RX1, "slice", "(III)J"⟩
def dkwX1_slice_3 : List UInt8 := [186, 0, 254, 0, 0, 182, 1, 1, 25, 4, 3, 47, 173]
abbrev dktX1_slice_3 : List UInt8 := dkwX1_slice_3 ++ []
def dkwX1_slice_2 : List UInt8 := [164, 0, 5, 9, 173, 4, 188, 11, 58, 4, 42, 180, 0, 71, 27, 50, 25, 4, 29, 28]
abbrev dktX1_slice_2 : List UInt8 := dkwX1_slice_2 ++ dktX1_slice_3
def dkwX1_slice_1 : List UInt8 := [153, 0, 25, 29, 155, 0, 21, 29, 42, 180, 0, 71, 27, 50, 182, 0, 98, 4, 100, 16, 64, 108]
abbrev dktX1_slice_1 : List UInt8 := dkwX1_slice_1 ++ dktX1_slice_2
def dkwX1_slice_0 : List UInt8 := [4, 188, 10, 89, 3, 27, 79, 184, 0, 92, 153, 0, 37, 28, 133, 9, 20, 0, 3, 184, 0, 7]
abbrev dktX1_slice_0 : List UInt8 := dkwX1_slice_0 ++ dktX1_slice_1
theorem dksX1_slice_0 : cX1_slice.data.toList.drop 0 = dktX1_slice_0 := by decide +kernel
theorem dksX1_slice_1 : cX1_slice.data.toList.drop 22 = dktX1_slice_1 := dk_seg dksX1_slice_0 22 rfl rfl
theorem dksX1_slice_2 : cX1_slice.data.toList.drop 44 = dktX1_slice_2 := dk_seg dksX1_slice_1 22 rfl rfl
theorem dksX1_slice_3 : cX1_slice.data.toList.drop 64 = dktX1_slice_3 := dk_seg dksX1_slice_2 20 rfl rfl
theorem dX1_slice_0 : decode cX1_slice 0 = .ok (.iconst 1, 1) := dk_4 (dk_at dksX1_slice_0 0 rfl rfl)
theorem dX1_slice_1 : decode cX1_slice 1 = .ok (.newarray .int, 2) := dk_188_10 (dk_at dksX1_slice_0 1 rfl rfl)
theorem dX1_slice_3 : decode cX1_slice 3 = .ok (.dup, 1) := dk_89 (dk_at dksX1_slice_0 3 rfl rfl)
theorem dX1_slice_4 : decode cX1_slice 4 = .ok (.iconst 0, 1) := dk_3 (dk_at dksX1_slice_0 4 rfl rfl)
theorem dX1_slice_5 : decode cX1_slice 5 = .ok (.iload_n 1, 1) := dk_27 (dk_at dksX1_slice_0 5 rfl rfl)
theorem dX1_slice_6 : decode cX1_slice 6 = .ok (.iastore, 1) := dk_79 (dk_at dksX1_slice_0 6 rfl rfl)
theorem dX1_slice_7 : decode cX1_slice 7 = .ok (.invokestatic 92, 3) := dk_184 0 92 (dk_at dksX1_slice_0 7 rfl rfl)
theorem dX1_slice_10 : decode cX1_slice 10 = .ok (.ifCond .eq 37, 3) := dk_153 0 37 (dk_at dksX1_slice_0 10 rfl rfl)
theorem dX1_slice_13 : decode cX1_slice 13 = .ok (.iload_n 2, 1) := dk_28 (dk_at dksX1_slice_0 13 rfl rfl)
theorem dX1_slice_14 : decode cX1_slice 14 = .ok (.i2l, 1) := dk_133 (dk_at dksX1_slice_0 14 rfl rfl)
theorem dX1_slice_15 : decode cX1_slice 15 = .ok (.lconst 0, 1) := dk_9 (dk_at dksX1_slice_0 15 rfl rfl)
theorem dX1_slice_16 : decode cX1_slice 16 = .ok (.ldc2_w 3, 3) := dk_20 0 3 (dk_at dksX1_slice_0 16 rfl rfl)
theorem dX1_slice_19 : decode cX1_slice 19 = .ok (.invokestatic 7, 3) := dk_184 0 7 (dk_at dksX1_slice_0 19 rfl rfl)
theorem dX1_slice_22 : decode cX1_slice 22 = .ok (.ifCond .eq 25, 3) := dk_153 0 25 (dk_at dksX1_slice_1 0 rfl rfl)
theorem dX1_slice_25 : decode cX1_slice 25 = .ok (.iload_n 3, 1) := dk_29 (dk_at dksX1_slice_1 3 rfl rfl)
theorem dX1_slice_26 : decode cX1_slice 26 = .ok (.ifCond .lt 21, 3) := dk_155 0 21 (dk_at dksX1_slice_1 4 rfl rfl)
theorem dX1_slice_29 : decode cX1_slice 29 = .ok (.iload_n 3, 1) := dk_29 (dk_at dksX1_slice_1 7 rfl rfl)
theorem dX1_slice_30 : decode cX1_slice 30 = .ok (.aload_n 0, 1) := dk_42 (dk_at dksX1_slice_1 8 rfl rfl)
theorem dX1_slice_31 : decode cX1_slice 31 = .ok (.getfield 71, 3) := dk_180 0 71 (dk_at dksX1_slice_1 9 rfl rfl)
theorem dX1_slice_34 : decode cX1_slice 34 = .ok (.iload_n 1, 1) := dk_27 (dk_at dksX1_slice_1 12 rfl rfl)
theorem dX1_slice_35 : decode cX1_slice 35 = .ok (.aaload, 1) := dk_50 (dk_at dksX1_slice_1 13 rfl rfl)
theorem dX1_slice_36 : decode cX1_slice 36 = .ok (.invokevirtual 98, 3) := dk_182 0 98 (dk_at dksX1_slice_1 14 rfl rfl)
theorem dX1_slice_39 : decode cX1_slice 39 = .ok (.iconst 1, 1) := dk_4 (dk_at dksX1_slice_1 17 rfl rfl)
theorem dX1_slice_40 : decode cX1_slice 40 = .ok (.isub, 1) := dk_100 (dk_at dksX1_slice_1 18 rfl rfl)
theorem dX1_slice_41 : decode cX1_slice 41 = .ok (.bipush 64, 2) := dk_16 64 (dk_at dksX1_slice_1 19 rfl rfl)
theorem dX1_slice_43 : decode cX1_slice 43 = .ok (.idiv, 1) := dk_108 (dk_at dksX1_slice_1 21 rfl rfl)
theorem dX1_slice_44 : decode cX1_slice 44 = .ok (.if_icmp .le 5, 3) := dk_164 0 5 (dk_at dksX1_slice_2 0 rfl rfl)
theorem dX1_slice_47 : decode cX1_slice 47 = .ok (.lconst 0, 1) := dk_9 (dk_at dksX1_slice_2 3 rfl rfl)
theorem dX1_slice_48 : decode cX1_slice 48 = .ok (.lreturn, 1) := dk_173 (dk_at dksX1_slice_2 4 rfl rfl)
theorem dX1_slice_49 : decode cX1_slice 49 = .ok (.iconst 1, 1) := dk_4 (dk_at dksX1_slice_2 5 rfl rfl)
theorem dX1_slice_50 : decode cX1_slice 50 = .ok (.newarray .long, 2) := dk_188_11 (dk_at dksX1_slice_2 6 rfl rfl)
theorem dX1_slice_52 : decode cX1_slice 52 = .ok (.astore 4, 2) := dk_58 4 (dk_at dksX1_slice_2 8 rfl rfl)
theorem dX1_slice_54 : decode cX1_slice 54 = .ok (.aload_n 0, 1) := dk_42 (dk_at dksX1_slice_2 10 rfl rfl)
theorem dX1_slice_55 : decode cX1_slice 55 = .ok (.getfield 71, 3) := dk_180 0 71 (dk_at dksX1_slice_2 11 rfl rfl)
theorem dX1_slice_58 : decode cX1_slice 58 = .ok (.iload_n 1, 1) := dk_27 (dk_at dksX1_slice_2 14 rfl rfl)
theorem dX1_slice_59 : decode cX1_slice 59 = .ok (.aaload, 1) := dk_50 (dk_at dksX1_slice_2 15 rfl rfl)
theorem dX1_slice_60 : decode cX1_slice 60 = .ok (.aload 4, 2) := dk_25 4 (dk_at dksX1_slice_2 16 rfl rfl)
theorem dX1_slice_62 : decode cX1_slice 62 = .ok (.iload_n 3, 1) := dk_29 (dk_at dksX1_slice_2 18 rfl rfl)
theorem dX1_slice_63 : decode cX1_slice 63 = .ok (.iload_n 2, 1) := dk_28 (dk_at dksX1_slice_2 19 rfl rfl)
theorem dX1_slice_64 : decode cX1_slice 64 = .ok (.invokedynamic 254, 5) := by decide +kernel
theorem dX1_slice_69 : decode cX1_slice 69 = .ok (.invokevirtual 257, 3) := dk_182 1 1 (dk_at dksX1_slice_3 5 rfl rfl)
theorem dX1_slice_72 : decode cX1_slice 72 = .ok (.aload 4, 2) := dk_25 4 (dk_at dksX1_slice_3 8 rfl rfl)
theorem dX1_slice_74 : decode cX1_slice 74 = .ok (.iconst 0, 1) := dk_3 (dk_at dksX1_slice_3 10 rfl rfl)
theorem dX1_slice_75 : decode cX1_slice 75 = .ok (.laload, 1) := dk_47 (dk_at dksX1_slice_3 11 rfl rfl)
theorem dX1_slice_76 : decode cX1_slice 76 = .ok (.lreturn, 1) := dk_173 (dk_at dksX1_slice_3 12 rfl rfl)
abbrev cX1_lambda_slice_4 : ByteArray := prog_1_method_108_code
def yX1_lambda_slice_4 : MethodName := ⟨RX1, "lambda$slice$4", "([JIIII)V"⟩
def dkwX1_lambda_slice_4_1 : List UInt8 := [16, 64, 112, 121, 167, 0, 4, 9, 129, 80, 177]
abbrev dktX1_lambda_slice_4_1 : List UInt8 := dkwX1_lambda_slice_4_1 ++ []
def dkwX1_lambda_slice_4_0 : List UInt8 := [42, 3, 92, 47, 29, 16, 64, 108, 27, 160, 0, 22, 21, 4, 28, 122, 4, 126, 4, 160, 0, 12, 10, 29]
abbrev dktX1_lambda_slice_4_0 : List UInt8 := dkwX1_lambda_slice_4_0 ++ dktX1_lambda_slice_4_1
theorem dksX1_lambda_slice_4_0 : cX1_lambda_slice_4.data.toList.drop 0 = dktX1_lambda_slice_4_0 := by decide +kernel
theorem dksX1_lambda_slice_4_1 : cX1_lambda_slice_4.data.toList.drop 24 = dktX1_lambda_slice_4_1 := dk_seg dksX1_lambda_slice_4_0 24 rfl rfl
theorem dX1_lambda_slice_4_0 : decode cX1_lambda_slice_4 0 = .ok (.aload_n 0, 1) := dk_42 (dk_at dksX1_lambda_slice_4_0 0 rfl rfl)
theorem dX1_lambda_slice_4_1 : decode cX1_lambda_slice_4 1 = .ok (.iconst 0, 1) := dk_3 (dk_at dksX1_lambda_slice_4_0 1 rfl rfl)
theorem dX1_lambda_slice_4_2 : decode cX1_lambda_slice_4 2 = .ok (.dup2, 1) := dk_92 (dk_at dksX1_lambda_slice_4_0 2 rfl rfl)
theorem dX1_lambda_slice_4_3 : decode cX1_lambda_slice_4 3 = .ok (.laload, 1) := dk_47 (dk_at dksX1_lambda_slice_4_0 3 rfl rfl)
theorem dX1_lambda_slice_4_4 : decode cX1_lambda_slice_4 4 = .ok (.iload_n 3, 1) := dk_29 (dk_at dksX1_lambda_slice_4_0 4 rfl rfl)
theorem dX1_lambda_slice_4_5 : decode cX1_lambda_slice_4 5 = .ok (.bipush 64, 2) := dk_16 64 (dk_at dksX1_lambda_slice_4_0 5 rfl rfl)
theorem dX1_lambda_slice_4_7 : decode cX1_lambda_slice_4 7 = .ok (.idiv, 1) := dk_108 (dk_at dksX1_lambda_slice_4_0 7 rfl rfl)
theorem dX1_lambda_slice_4_8 : decode cX1_lambda_slice_4 8 = .ok (.iload_n 1, 1) := dk_27 (dk_at dksX1_lambda_slice_4_0 8 rfl rfl)
theorem dX1_lambda_slice_4_9 : decode cX1_lambda_slice_4 9 = .ok (.if_icmp .ne 22, 3) := dk_160 0 22 (dk_at dksX1_lambda_slice_4_0 9 rfl rfl)
theorem dX1_lambda_slice_4_12 : decode cX1_lambda_slice_4 12 = .ok (.iload 4, 2) := dk_21 4 (dk_at dksX1_lambda_slice_4_0 12 rfl rfl)
theorem dX1_lambda_slice_4_14 : decode cX1_lambda_slice_4 14 = .ok (.iload_n 2, 1) := dk_28 (dk_at dksX1_lambda_slice_4_0 14 rfl rfl)
theorem dX1_lambda_slice_4_15 : decode cX1_lambda_slice_4 15 = .ok (.ishr, 1) := dk_122 (dk_at dksX1_lambda_slice_4_0 15 rfl rfl)
theorem dX1_lambda_slice_4_16 : decode cX1_lambda_slice_4 16 = .ok (.iconst 1, 1) := dk_4 (dk_at dksX1_lambda_slice_4_0 16 rfl rfl)
theorem dX1_lambda_slice_4_17 : decode cX1_lambda_slice_4 17 = .ok (.iand, 1) := dk_126 (dk_at dksX1_lambda_slice_4_0 17 rfl rfl)
theorem dX1_lambda_slice_4_18 : decode cX1_lambda_slice_4 18 = .ok (.iconst 1, 1) := dk_4 (dk_at dksX1_lambda_slice_4_0 18 rfl rfl)
theorem dX1_lambda_slice_4_19 : decode cX1_lambda_slice_4 19 = .ok (.if_icmp .ne 12, 3) := dk_160 0 12 (dk_at dksX1_lambda_slice_4_0 19 rfl rfl)
theorem dX1_lambda_slice_4_22 : decode cX1_lambda_slice_4 22 = .ok (.lconst 1, 1) := dk_10 (dk_at dksX1_lambda_slice_4_0 22 rfl rfl)
theorem dX1_lambda_slice_4_23 : decode cX1_lambda_slice_4 23 = .ok (.iload_n 3, 1) := dk_29 (dk_at dksX1_lambda_slice_4_0 23 rfl rfl)
theorem dX1_lambda_slice_4_24 : decode cX1_lambda_slice_4 24 = .ok (.bipush 64, 2) := dk_16 64 (dk_at dksX1_lambda_slice_4_1 0 rfl rfl)
theorem dX1_lambda_slice_4_26 : decode cX1_lambda_slice_4 26 = .ok (.irem, 1) := dk_112 (dk_at dksX1_lambda_slice_4_1 2 rfl rfl)
theorem dX1_lambda_slice_4_27 : decode cX1_lambda_slice_4 27 = .ok (.lshl, 1) := dk_121 (dk_at dksX1_lambda_slice_4_1 3 rfl rfl)
theorem dX1_lambda_slice_4_28 : decode cX1_lambda_slice_4 28 = .ok (.goto 4, 3) := dk_167 0 4 (dk_at dksX1_lambda_slice_4_1 4 rfl rfl)
theorem dX1_lambda_slice_4_31 : decode cX1_lambda_slice_4 31 = .ok (.lconst 0, 1) := dk_9 (dk_at dksX1_lambda_slice_4_1 7 rfl rfl)
theorem dX1_lambda_slice_4_32 : decode cX1_lambda_slice_4 32 = .ok (.lor, 1) := dk_129 (dk_at dksX1_lambda_slice_4_1 8 rfl rfl)
theorem dX1_lambda_slice_4_33 : decode cX1_lambda_slice_4 33 = .ok (.lastore, 1) := dk_80 (dk_at dksX1_lambda_slice_4_1 9 rfl rfl)
theorem dX1_lambda_slice_4_34 : decode cX1_lambda_slice_4 34 = .ok (.return_, 1) := dk_177 (dk_at dksX1_lambda_slice_4_1 10 rfl rfl)
abbrev cX1_runsOf : ByteArray := prog_1_method_56_code
def yX1_runsOf : MethodName := ⟨RX1, "runsOf", "(I)I"⟩
def dkwX1_runsOf_5 : List UInt8 := [89, 4, 21, 5, 133, 80, 89, 5, 44, 180, 0, 204, 21, 5, 51, 133, 80, 182, 0, 44, 29, 172]
abbrev dktX1_runsOf_5 : List UInt8 := dkwX1_runsOf_5 ++ []
def dkwX1_runsOf_4 : List UInt8 := [21, 6, 54, 5, 21, 7, 54, 6, 132, 7, 1, 167, 255, 187, 42, 6, 188, 11, 89, 3, 21, 4, 133, 80]
abbrev dktX1_runsOf_4 : List UInt8 := dkwX1_runsOf_4 ++ dktX1_runsOf_5
def dkwX1_runsOf_3 : List UInt8 := [167, 0, 31, 132, 3, 1, 21, 7, 21, 6, 100, 21, 4, 164, 0, 14, 21, 7, 21, 6, 100, 54, 4]
abbrev dktX1_runsOf_3 : List UInt8 := dkwX1_runsOf_3 ++ dktX1_runsOf_4
def dkwX1_runsOf_2 : List UInt8 := [182, 0, 98, 162, 0, 23, 44, 180, 0, 204, 21, 7, 51, 44, 180, 0, 204, 21, 6, 51, 160, 0, 6]
abbrev dktX1_runsOf_2 : List UInt8 := dkwX1_runsOf_2 ++ dktX1_runsOf_3
def dkwX1_runsOf_1 : List UInt8 := [3, 54, 4, 3, 54, 5, 3, 54, 6, 4, 54, 7, 21, 7, 44, 182, 0, 98, 163, 0, 66, 21, 7, 44]
abbrev dktX1_runsOf_1 : List UInt8 := dkwX1_runsOf_1 ++ dktX1_runsOf_2
def dkwX1_runsOf_0 : List UInt8 := [4, 188, 10, 89, 3, 27, 79, 184, 0, 92, 154, 0, 5, 2, 172, 42, 180, 0, 71, 27, 50, 77, 3, 62]
abbrev dktX1_runsOf_0 : List UInt8 := dkwX1_runsOf_0 ++ dktX1_runsOf_1
theorem dksX1_runsOf_0 : cX1_runsOf.data.toList.drop 0 = dktX1_runsOf_0 := by decide +kernel
theorem dksX1_runsOf_1 : cX1_runsOf.data.toList.drop 24 = dktX1_runsOf_1 := dk_seg dksX1_runsOf_0 24 rfl rfl
theorem dksX1_runsOf_2 : cX1_runsOf.data.toList.drop 48 = dktX1_runsOf_2 := dk_seg dksX1_runsOf_1 24 rfl rfl
theorem dksX1_runsOf_3 : cX1_runsOf.data.toList.drop 71 = dktX1_runsOf_3 := dk_seg dksX1_runsOf_2 23 rfl rfl
theorem dksX1_runsOf_4 : cX1_runsOf.data.toList.drop 94 = dktX1_runsOf_4 := dk_seg dksX1_runsOf_3 23 rfl rfl
theorem dksX1_runsOf_5 : cX1_runsOf.data.toList.drop 118 = dktX1_runsOf_5 := dk_seg dksX1_runsOf_4 24 rfl rfl
theorem dX1_runsOf_0 : decode cX1_runsOf 0 = .ok (.iconst 1, 1) := dk_4 (dk_at dksX1_runsOf_0 0 rfl rfl)
theorem dX1_runsOf_1 : decode cX1_runsOf 1 = .ok (.newarray .int, 2) := dk_188_10 (dk_at dksX1_runsOf_0 1 rfl rfl)
theorem dX1_runsOf_3 : decode cX1_runsOf 3 = .ok (.dup, 1) := dk_89 (dk_at dksX1_runsOf_0 3 rfl rfl)
theorem dX1_runsOf_4 : decode cX1_runsOf 4 = .ok (.iconst 0, 1) := dk_3 (dk_at dksX1_runsOf_0 4 rfl rfl)
theorem dX1_runsOf_5 : decode cX1_runsOf 5 = .ok (.iload_n 1, 1) := dk_27 (dk_at dksX1_runsOf_0 5 rfl rfl)
theorem dX1_runsOf_6 : decode cX1_runsOf 6 = .ok (.iastore, 1) := dk_79 (dk_at dksX1_runsOf_0 6 rfl rfl)
theorem dX1_runsOf_7 : decode cX1_runsOf 7 = .ok (.invokestatic 92, 3) := dk_184 0 92 (dk_at dksX1_runsOf_0 7 rfl rfl)
theorem dX1_runsOf_10 : decode cX1_runsOf 10 = .ok (.ifCond .ne 5, 3) := dk_154 0 5 (dk_at dksX1_runsOf_0 10 rfl rfl)
theorem dX1_runsOf_13 : decode cX1_runsOf 13 = .ok (.iconst (-1), 1) := dk_2 (dk_at dksX1_runsOf_0 13 rfl rfl)
theorem dX1_runsOf_14 : decode cX1_runsOf 14 = .ok (.ireturn, 1) := dk_172 (dk_at dksX1_runsOf_0 14 rfl rfl)
theorem dX1_runsOf_15 : decode cX1_runsOf 15 = .ok (.aload_n 0, 1) := dk_42 (dk_at dksX1_runsOf_0 15 rfl rfl)
theorem dX1_runsOf_16 : decode cX1_runsOf 16 = .ok (.getfield 71, 3) := dk_180 0 71 (dk_at dksX1_runsOf_0 16 rfl rfl)
theorem dX1_runsOf_19 : decode cX1_runsOf 19 = .ok (.iload_n 1, 1) := dk_27 (dk_at dksX1_runsOf_0 19 rfl rfl)
theorem dX1_runsOf_20 : decode cX1_runsOf 20 = .ok (.aaload, 1) := dk_50 (dk_at dksX1_runsOf_0 20 rfl rfl)
theorem dX1_runsOf_21 : decode cX1_runsOf 21 = .ok (.astore_n 2, 1) := dk_77 (dk_at dksX1_runsOf_0 21 rfl rfl)
theorem dX1_runsOf_22 : decode cX1_runsOf 22 = .ok (.iconst 0, 1) := dk_3 (dk_at dksX1_runsOf_0 22 rfl rfl)
theorem dX1_runsOf_23 : decode cX1_runsOf 23 = .ok (.istore_n 3, 1) := dk_62 (dk_at dksX1_runsOf_0 23 rfl rfl)
theorem dX1_runsOf_24 : decode cX1_runsOf 24 = .ok (.iconst 0, 1) := dk_3 (dk_at dksX1_runsOf_1 0 rfl rfl)
theorem dX1_runsOf_25 : decode cX1_runsOf 25 = .ok (.istore 4, 2) := dk_54 4 (dk_at dksX1_runsOf_1 1 rfl rfl)
theorem dX1_runsOf_27 : decode cX1_runsOf 27 = .ok (.iconst 0, 1) := dk_3 (dk_at dksX1_runsOf_1 3 rfl rfl)
theorem dX1_runsOf_28 : decode cX1_runsOf 28 = .ok (.istore 5, 2) := dk_54 5 (dk_at dksX1_runsOf_1 4 rfl rfl)
theorem dX1_runsOf_30 : decode cX1_runsOf 30 = .ok (.iconst 0, 1) := dk_3 (dk_at dksX1_runsOf_1 6 rfl rfl)
theorem dX1_runsOf_31 : decode cX1_runsOf 31 = .ok (.istore 6, 2) := dk_54 6 (dk_at dksX1_runsOf_1 7 rfl rfl)
theorem dX1_runsOf_33 : decode cX1_runsOf 33 = .ok (.iconst 1, 1) := dk_4 (dk_at dksX1_runsOf_1 9 rfl rfl)
theorem dX1_runsOf_34 : decode cX1_runsOf 34 = .ok (.istore 7, 2) := dk_54 7 (dk_at dksX1_runsOf_1 10 rfl rfl)
theorem dX1_runsOf_36 : decode cX1_runsOf 36 = .ok (.iload 7, 2) := dk_21 7 (dk_at dksX1_runsOf_1 12 rfl rfl)
theorem dX1_runsOf_38 : decode cX1_runsOf 38 = .ok (.aload_n 2, 1) := dk_44 (dk_at dksX1_runsOf_1 14 rfl rfl)
theorem dX1_runsOf_39 : decode cX1_runsOf 39 = .ok (.invokevirtual 98, 3) := dk_182 0 98 (dk_at dksX1_runsOf_1 15 rfl rfl)
theorem dX1_runsOf_42 : decode cX1_runsOf 42 = .ok (.if_icmp .gt 66, 3) := dk_163 0 66 (dk_at dksX1_runsOf_1 18 rfl rfl)
theorem dX1_runsOf_45 : decode cX1_runsOf 45 = .ok (.iload 7, 2) := dk_21 7 (dk_at dksX1_runsOf_1 21 rfl rfl)
theorem dX1_runsOf_47 : decode cX1_runsOf 47 = .ok (.aload_n 2, 1) := dk_44 (dk_at dksX1_runsOf_1 23 rfl rfl)
theorem dX1_runsOf_48 : decode cX1_runsOf 48 = .ok (.invokevirtual 98, 3) := dk_182 0 98 (dk_at dksX1_runsOf_2 0 rfl rfl)
theorem dX1_runsOf_51 : decode cX1_runsOf 51 = .ok (.if_icmp .ge 23, 3) := dk_162 0 23 (dk_at dksX1_runsOf_2 3 rfl rfl)
theorem dX1_runsOf_54 : decode cX1_runsOf 54 = .ok (.aload_n 2, 1) := dk_44 (dk_at dksX1_runsOf_2 6 rfl rfl)
theorem dX1_runsOf_55 : decode cX1_runsOf 55 = .ok (.getfield 204, 3) := dk_180 0 204 (dk_at dksX1_runsOf_2 7 rfl rfl)
theorem dX1_runsOf_58 : decode cX1_runsOf 58 = .ok (.iload 7, 2) := dk_21 7 (dk_at dksX1_runsOf_2 10 rfl rfl)
theorem dX1_runsOf_60 : decode cX1_runsOf 60 = .ok (.baload, 1) := dk_51 (dk_at dksX1_runsOf_2 12 rfl rfl)
theorem dX1_runsOf_61 : decode cX1_runsOf 61 = .ok (.aload_n 2, 1) := dk_44 (dk_at dksX1_runsOf_2 13 rfl rfl)
theorem dX1_runsOf_62 : decode cX1_runsOf 62 = .ok (.getfield 204, 3) := dk_180 0 204 (dk_at dksX1_runsOf_2 14 rfl rfl)
theorem dX1_runsOf_65 : decode cX1_runsOf 65 = .ok (.iload 6, 2) := dk_21 6 (dk_at dksX1_runsOf_2 17 rfl rfl)
theorem dX1_runsOf_67 : decode cX1_runsOf 67 = .ok (.baload, 1) := dk_51 (dk_at dksX1_runsOf_2 19 rfl rfl)
theorem dX1_runsOf_68 : decode cX1_runsOf 68 = .ok (.if_icmp .ne 6, 3) := dk_160 0 6 (dk_at dksX1_runsOf_2 20 rfl rfl)
theorem dX1_runsOf_71 : decode cX1_runsOf 71 = .ok (.goto 31, 3) := dk_167 0 31 (dk_at dksX1_runsOf_3 0 rfl rfl)
theorem dX1_runsOf_74 : decode cX1_runsOf 74 = .ok (.iinc 3 1, 3) := dk_132 3 1 (dk_at dksX1_runsOf_3 3 rfl rfl)
theorem dX1_runsOf_77 : decode cX1_runsOf 77 = .ok (.iload 7, 2) := dk_21 7 (dk_at dksX1_runsOf_3 6 rfl rfl)
theorem dX1_runsOf_79 : decode cX1_runsOf 79 = .ok (.iload 6, 2) := dk_21 6 (dk_at dksX1_runsOf_3 8 rfl rfl)
theorem dX1_runsOf_81 : decode cX1_runsOf 81 = .ok (.isub, 1) := dk_100 (dk_at dksX1_runsOf_3 10 rfl rfl)
theorem dX1_runsOf_82 : decode cX1_runsOf 82 = .ok (.iload 4, 2) := dk_21 4 (dk_at dksX1_runsOf_3 11 rfl rfl)
theorem dX1_runsOf_84 : decode cX1_runsOf 84 = .ok (.if_icmp .le 14, 3) := dk_164 0 14 (dk_at dksX1_runsOf_3 13 rfl rfl)
theorem dX1_runsOf_87 : decode cX1_runsOf 87 = .ok (.iload 7, 2) := dk_21 7 (dk_at dksX1_runsOf_3 16 rfl rfl)
theorem dX1_runsOf_89 : decode cX1_runsOf 89 = .ok (.iload 6, 2) := dk_21 6 (dk_at dksX1_runsOf_3 18 rfl rfl)
theorem dX1_runsOf_91 : decode cX1_runsOf 91 = .ok (.isub, 1) := dk_100 (dk_at dksX1_runsOf_3 20 rfl rfl)
theorem dX1_runsOf_92 : decode cX1_runsOf 92 = .ok (.istore 4, 2) := dk_54 4 (dk_at dksX1_runsOf_3 21 rfl rfl)
theorem dX1_runsOf_94 : decode cX1_runsOf 94 = .ok (.iload 6, 2) := dk_21 6 (dk_at dksX1_runsOf_4 0 rfl rfl)
theorem dX1_runsOf_96 : decode cX1_runsOf 96 = .ok (.istore 5, 2) := dk_54 5 (dk_at dksX1_runsOf_4 2 rfl rfl)
theorem dX1_runsOf_98 : decode cX1_runsOf 98 = .ok (.iload 7, 2) := dk_21 7 (dk_at dksX1_runsOf_4 4 rfl rfl)
theorem dX1_runsOf_100 : decode cX1_runsOf 100 = .ok (.istore 6, 2) := dk_54 6 (dk_at dksX1_runsOf_4 6 rfl rfl)
theorem dX1_runsOf_102 : decode cX1_runsOf 102 = .ok (.iinc 7 1, 3) := dk_132 7 1 (dk_at dksX1_runsOf_4 8 rfl rfl)
theorem dX1_runsOf_105 : decode cX1_runsOf 105 = .ok (.goto (-69), 3) := dk_167 255 187 (dk_at dksX1_runsOf_4 11 rfl rfl)
theorem dX1_runsOf_108 : decode cX1_runsOf 108 = .ok (.aload_n 0, 1) := dk_42 (dk_at dksX1_runsOf_4 14 rfl rfl)
theorem dX1_runsOf_109 : decode cX1_runsOf 109 = .ok (.iconst 3, 1) := dk_6 (dk_at dksX1_runsOf_4 15 rfl rfl)
theorem dX1_runsOf_110 : decode cX1_runsOf 110 = .ok (.newarray .long, 2) := dk_188_11 (dk_at dksX1_runsOf_4 16 rfl rfl)
theorem dX1_runsOf_112 : decode cX1_runsOf 112 = .ok (.dup, 1) := dk_89 (dk_at dksX1_runsOf_4 18 rfl rfl)
theorem dX1_runsOf_113 : decode cX1_runsOf 113 = .ok (.iconst 0, 1) := dk_3 (dk_at dksX1_runsOf_4 19 rfl rfl)
theorem dX1_runsOf_114 : decode cX1_runsOf 114 = .ok (.iload 4, 2) := dk_21 4 (dk_at dksX1_runsOf_4 20 rfl rfl)
theorem dX1_runsOf_116 : decode cX1_runsOf 116 = .ok (.i2l, 1) := dk_133 (dk_at dksX1_runsOf_4 22 rfl rfl)
theorem dX1_runsOf_117 : decode cX1_runsOf 117 = .ok (.lastore, 1) := dk_80 (dk_at dksX1_runsOf_4 23 rfl rfl)
theorem dX1_runsOf_118 : decode cX1_runsOf 118 = .ok (.dup, 1) := dk_89 (dk_at dksX1_runsOf_5 0 rfl rfl)
theorem dX1_runsOf_119 : decode cX1_runsOf 119 = .ok (.iconst 1, 1) := dk_4 (dk_at dksX1_runsOf_5 1 rfl rfl)
theorem dX1_runsOf_120 : decode cX1_runsOf 120 = .ok (.iload 5, 2) := dk_21 5 (dk_at dksX1_runsOf_5 2 rfl rfl)
theorem dX1_runsOf_122 : decode cX1_runsOf 122 = .ok (.i2l, 1) := dk_133 (dk_at dksX1_runsOf_5 4 rfl rfl)
theorem dX1_runsOf_123 : decode cX1_runsOf 123 = .ok (.lastore, 1) := dk_80 (dk_at dksX1_runsOf_5 5 rfl rfl)
theorem dX1_runsOf_124 : decode cX1_runsOf 124 = .ok (.dup, 1) := dk_89 (dk_at dksX1_runsOf_5 6 rfl rfl)
theorem dX1_runsOf_125 : decode cX1_runsOf 125 = .ok (.iconst 2, 1) := dk_5 (dk_at dksX1_runsOf_5 7 rfl rfl)
theorem dX1_runsOf_126 : decode cX1_runsOf 126 = .ok (.aload_n 2, 1) := dk_44 (dk_at dksX1_runsOf_5 8 rfl rfl)
theorem dX1_runsOf_127 : decode cX1_runsOf 127 = .ok (.getfield 204, 3) := dk_180 0 204 (dk_at dksX1_runsOf_5 9 rfl rfl)
theorem dX1_runsOf_130 : decode cX1_runsOf 130 = .ok (.iload 5, 2) := dk_21 5 (dk_at dksX1_runsOf_5 12 rfl rfl)
theorem dX1_runsOf_132 : decode cX1_runsOf 132 = .ok (.baload, 1) := dk_51 (dk_at dksX1_runsOf_5 14 rfl rfl)
theorem dX1_runsOf_133 : decode cX1_runsOf 133 = .ok (.i2l, 1) := dk_133 (dk_at dksX1_runsOf_5 15 rfl rfl)
theorem dX1_runsOf_134 : decode cX1_runsOf 134 = .ok (.lastore, 1) := dk_80 (dk_at dksX1_runsOf_5 16 rfl rfl)
theorem dX1_runsOf_135 : decode cX1_runsOf 135 = .ok (.invokevirtual 44, 3) := dk_182 0 44 (dk_at dksX1_runsOf_5 17 rfl rfl)
theorem dX1_runsOf_138 : decode cX1_runsOf 138 = .ok (.iload_n 3, 1) := dk_29 (dk_at dksX1_runsOf_5 20 rfl rfl)
theorem dX1_runsOf_139 : decode cX1_runsOf 139 = .ok (.ireturn, 1) := dk_172 (dk_at dksX1_runsOf_5 21 rfl rfl)
abbrev cX1_gap : ByteArray := prog_1_method_57_code
def yX1_gap : MethodName := ⟨RX1, "gap", "(I)I"⟩
def dkwX1_gap_4 : List UInt8 := [132, 5, 1, 167, 255, 190, 42, 4, 188, 11, 89, 3, 21, 4, 133, 80, 182, 0, 44, 29, 172]
abbrev dktX1_gap_4 : List UInt8 := dkwX1_gap_4 ++ []
def dkwX1_gap_3 : List UInt8 := [132, 6, 1, 167, 255, 224, 21, 6, 29, 163, 0, 6, 167, 0, 10, 21, 6, 62, 21, 5, 54, 4]
abbrev dktX1_gap_3 : List UInt8 := dkwX1_gap_3 ++ dktX1_gap_4
def dkwX1_gap_2 : List UInt8 := [162, 0, 29, 44, 180, 0, 204, 21, 5, 21, 6, 96, 44, 182, 0, 98, 4, 100, 126, 51, 154, 0, 9]
abbrev dktX1_gap_2 : List UInt8 := dkwX1_gap_2 ++ dktX1_gap_3
def dkwX1_gap_1 : List UInt8 := [2, 54, 4, 3, 54, 5, 21, 5, 44, 182, 0, 98, 162, 0, 63, 3, 54, 6, 21, 6, 44, 182, 0, 98]
abbrev dktX1_gap_1 : List UInt8 := dkwX1_gap_1 ++ dktX1_gap_2
def dkwX1_gap_0 : List UInt8 := [4, 188, 10, 89, 3, 27, 79, 184, 0, 92, 154, 0, 5, 2, 172, 42, 180, 0, 71, 27, 50, 77, 3, 62]
abbrev dktX1_gap_0 : List UInt8 := dkwX1_gap_0 ++ dktX1_gap_1
theorem dksX1_gap_0 : cX1_gap.data.toList.drop 0 = dktX1_gap_0 := by decide +kernel
theorem dksX1_gap_1 : cX1_gap.data.toList.drop 24 = dktX1_gap_1 := dk_seg dksX1_gap_0 24 rfl rfl
theorem dksX1_gap_2 : cX1_gap.data.toList.drop 48 = dktX1_gap_2 := dk_seg dksX1_gap_1 24 rfl rfl
theorem dksX1_gap_3 : cX1_gap.data.toList.drop 71 = dktX1_gap_3 := dk_seg dksX1_gap_2 23 rfl rfl
theorem dksX1_gap_4 : cX1_gap.data.toList.drop 93 = dktX1_gap_4 := dk_seg dksX1_gap_3 22 rfl rfl
theorem dX1_gap_0 : decode cX1_gap 0 = .ok (.iconst 1, 1) := dk_4 (dk_at dksX1_gap_0 0 rfl rfl)
theorem dX1_gap_1 : decode cX1_gap 1 = .ok (.newarray .int, 2) := dk_188_10 (dk_at dksX1_gap_0 1 rfl rfl)
theorem dX1_gap_3 : decode cX1_gap 3 = .ok (.dup, 1) := dk_89 (dk_at dksX1_gap_0 3 rfl rfl)
theorem dX1_gap_4 : decode cX1_gap 4 = .ok (.iconst 0, 1) := dk_3 (dk_at dksX1_gap_0 4 rfl rfl)
theorem dX1_gap_5 : decode cX1_gap 5 = .ok (.iload_n 1, 1) := dk_27 (dk_at dksX1_gap_0 5 rfl rfl)
theorem dX1_gap_6 : decode cX1_gap 6 = .ok (.iastore, 1) := dk_79 (dk_at dksX1_gap_0 6 rfl rfl)
theorem dX1_gap_7 : decode cX1_gap 7 = .ok (.invokestatic 92, 3) := dk_184 0 92 (dk_at dksX1_gap_0 7 rfl rfl)
theorem dX1_gap_10 : decode cX1_gap 10 = .ok (.ifCond .ne 5, 3) := dk_154 0 5 (dk_at dksX1_gap_0 10 rfl rfl)
theorem dX1_gap_13 : decode cX1_gap 13 = .ok (.iconst (-1), 1) := dk_2 (dk_at dksX1_gap_0 13 rfl rfl)
theorem dX1_gap_14 : decode cX1_gap 14 = .ok (.ireturn, 1) := dk_172 (dk_at dksX1_gap_0 14 rfl rfl)
theorem dX1_gap_15 : decode cX1_gap 15 = .ok (.aload_n 0, 1) := dk_42 (dk_at dksX1_gap_0 15 rfl rfl)
theorem dX1_gap_16 : decode cX1_gap 16 = .ok (.getfield 71, 3) := dk_180 0 71 (dk_at dksX1_gap_0 16 rfl rfl)
theorem dX1_gap_19 : decode cX1_gap 19 = .ok (.iload_n 1, 1) := dk_27 (dk_at dksX1_gap_0 19 rfl rfl)
theorem dX1_gap_20 : decode cX1_gap 20 = .ok (.aaload, 1) := dk_50 (dk_at dksX1_gap_0 20 rfl rfl)
theorem dX1_gap_21 : decode cX1_gap 21 = .ok (.astore_n 2, 1) := dk_77 (dk_at dksX1_gap_0 21 rfl rfl)
theorem dX1_gap_22 : decode cX1_gap 22 = .ok (.iconst 0, 1) := dk_3 (dk_at dksX1_gap_0 22 rfl rfl)
theorem dX1_gap_23 : decode cX1_gap 23 = .ok (.istore_n 3, 1) := dk_62 (dk_at dksX1_gap_0 23 rfl rfl)
theorem dX1_gap_24 : decode cX1_gap 24 = .ok (.iconst (-1), 1) := dk_2 (dk_at dksX1_gap_1 0 rfl rfl)
theorem dX1_gap_25 : decode cX1_gap 25 = .ok (.istore 4, 2) := dk_54 4 (dk_at dksX1_gap_1 1 rfl rfl)
theorem dX1_gap_27 : decode cX1_gap 27 = .ok (.iconst 0, 1) := dk_3 (dk_at dksX1_gap_1 3 rfl rfl)
theorem dX1_gap_28 : decode cX1_gap 28 = .ok (.istore 5, 2) := dk_54 5 (dk_at dksX1_gap_1 4 rfl rfl)
theorem dX1_gap_30 : decode cX1_gap 30 = .ok (.iload 5, 2) := dk_21 5 (dk_at dksX1_gap_1 6 rfl rfl)
theorem dX1_gap_32 : decode cX1_gap 32 = .ok (.aload_n 2, 1) := dk_44 (dk_at dksX1_gap_1 8 rfl rfl)
theorem dX1_gap_33 : decode cX1_gap 33 = .ok (.invokevirtual 98, 3) := dk_182 0 98 (dk_at dksX1_gap_1 9 rfl rfl)
theorem dX1_gap_36 : decode cX1_gap 36 = .ok (.if_icmp .ge 63, 3) := dk_162 0 63 (dk_at dksX1_gap_1 12 rfl rfl)
theorem dX1_gap_39 : decode cX1_gap 39 = .ok (.iconst 0, 1) := dk_3 (dk_at dksX1_gap_1 15 rfl rfl)
theorem dX1_gap_40 : decode cX1_gap 40 = .ok (.istore 6, 2) := dk_54 6 (dk_at dksX1_gap_1 16 rfl rfl)
theorem dX1_gap_42 : decode cX1_gap 42 = .ok (.iload 6, 2) := dk_21 6 (dk_at dksX1_gap_1 18 rfl rfl)
theorem dX1_gap_44 : decode cX1_gap 44 = .ok (.aload_n 2, 1) := dk_44 (dk_at dksX1_gap_1 20 rfl rfl)
theorem dX1_gap_45 : decode cX1_gap 45 = .ok (.invokevirtual 98, 3) := dk_182 0 98 (dk_at dksX1_gap_1 21 rfl rfl)
theorem dX1_gap_48 : decode cX1_gap 48 = .ok (.if_icmp .ge 29, 3) := dk_162 0 29 (dk_at dksX1_gap_2 0 rfl rfl)
theorem dX1_gap_51 : decode cX1_gap 51 = .ok (.aload_n 2, 1) := dk_44 (dk_at dksX1_gap_2 3 rfl rfl)
theorem dX1_gap_52 : decode cX1_gap 52 = .ok (.getfield 204, 3) := dk_180 0 204 (dk_at dksX1_gap_2 4 rfl rfl)
theorem dX1_gap_55 : decode cX1_gap 55 = .ok (.iload 5, 2) := dk_21 5 (dk_at dksX1_gap_2 7 rfl rfl)
theorem dX1_gap_57 : decode cX1_gap 57 = .ok (.iload 6, 2) := dk_21 6 (dk_at dksX1_gap_2 9 rfl rfl)
theorem dX1_gap_59 : decode cX1_gap 59 = .ok (.iadd, 1) := dk_96 (dk_at dksX1_gap_2 11 rfl rfl)
theorem dX1_gap_60 : decode cX1_gap 60 = .ok (.aload_n 2, 1) := dk_44 (dk_at dksX1_gap_2 12 rfl rfl)
theorem dX1_gap_61 : decode cX1_gap 61 = .ok (.invokevirtual 98, 3) := dk_182 0 98 (dk_at dksX1_gap_2 13 rfl rfl)
theorem dX1_gap_64 : decode cX1_gap 64 = .ok (.iconst 1, 1) := dk_4 (dk_at dksX1_gap_2 16 rfl rfl)
theorem dX1_gap_65 : decode cX1_gap 65 = .ok (.isub, 1) := dk_100 (dk_at dksX1_gap_2 17 rfl rfl)
theorem dX1_gap_66 : decode cX1_gap 66 = .ok (.iand, 1) := dk_126 (dk_at dksX1_gap_2 18 rfl rfl)
theorem dX1_gap_67 : decode cX1_gap 67 = .ok (.baload, 1) := dk_51 (dk_at dksX1_gap_2 19 rfl rfl)
theorem dX1_gap_68 : decode cX1_gap 68 = .ok (.ifCond .ne 9, 3) := dk_154 0 9 (dk_at dksX1_gap_2 20 rfl rfl)
theorem dX1_gap_71 : decode cX1_gap 71 = .ok (.iinc 6 1, 3) := dk_132 6 1 (dk_at dksX1_gap_3 0 rfl rfl)
theorem dX1_gap_74 : decode cX1_gap 74 = .ok (.goto (-32), 3) := dk_167 255 224 (dk_at dksX1_gap_3 3 rfl rfl)
theorem dX1_gap_77 : decode cX1_gap 77 = .ok (.iload 6, 2) := dk_21 6 (dk_at dksX1_gap_3 6 rfl rfl)
theorem dX1_gap_79 : decode cX1_gap 79 = .ok (.iload_n 3, 1) := dk_29 (dk_at dksX1_gap_3 8 rfl rfl)
theorem dX1_gap_80 : decode cX1_gap 80 = .ok (.if_icmp .gt 6, 3) := dk_163 0 6 (dk_at dksX1_gap_3 9 rfl rfl)
theorem dX1_gap_83 : decode cX1_gap 83 = .ok (.goto 10, 3) := dk_167 0 10 (dk_at dksX1_gap_3 12 rfl rfl)
theorem dX1_gap_86 : decode cX1_gap 86 = .ok (.iload 6, 2) := dk_21 6 (dk_at dksX1_gap_3 15 rfl rfl)
theorem dX1_gap_88 : decode cX1_gap 88 = .ok (.istore_n 3, 1) := dk_62 (dk_at dksX1_gap_3 17 rfl rfl)
theorem dX1_gap_89 : decode cX1_gap 89 = .ok (.iload 5, 2) := dk_21 5 (dk_at dksX1_gap_3 18 rfl rfl)
theorem dX1_gap_91 : decode cX1_gap 91 = .ok (.istore 4, 2) := dk_54 4 (dk_at dksX1_gap_3 20 rfl rfl)
theorem dX1_gap_93 : decode cX1_gap 93 = .ok (.iinc 5 1, 3) := dk_132 5 1 (dk_at dksX1_gap_4 0 rfl rfl)
theorem dX1_gap_96 : decode cX1_gap 96 = .ok (.goto (-66), 3) := dk_167 255 190 (dk_at dksX1_gap_4 3 rfl rfl)
theorem dX1_gap_99 : decode cX1_gap 99 = .ok (.aload_n 0, 1) := dk_42 (dk_at dksX1_gap_4 6 rfl rfl)
theorem dX1_gap_100 : decode cX1_gap 100 = .ok (.iconst 1, 1) := dk_4 (dk_at dksX1_gap_4 7 rfl rfl)
theorem dX1_gap_101 : decode cX1_gap 101 = .ok (.newarray .long, 2) := dk_188_11 (dk_at dksX1_gap_4 8 rfl rfl)
theorem dX1_gap_103 : decode cX1_gap 103 = .ok (.dup, 1) := dk_89 (dk_at dksX1_gap_4 10 rfl rfl)
theorem dX1_gap_104 : decode cX1_gap 104 = .ok (.iconst 0, 1) := dk_3 (dk_at dksX1_gap_4 11 rfl rfl)
theorem dX1_gap_105 : decode cX1_gap 105 = .ok (.iload 4, 2) := dk_21 4 (dk_at dksX1_gap_4 12 rfl rfl)
theorem dX1_gap_107 : decode cX1_gap 107 = .ok (.i2l, 1) := dk_133 (dk_at dksX1_gap_4 14 rfl rfl)
theorem dX1_gap_108 : decode cX1_gap 108 = .ok (.lastore, 1) := dk_80 (dk_at dksX1_gap_4 15 rfl rfl)
theorem dX1_gap_109 : decode cX1_gap 109 = .ok (.invokevirtual 44, 3) := dk_182 0 44 (dk_at dksX1_gap_4 16 rfl rfl)
theorem dX1_gap_112 : decode cX1_gap 112 = .ok (.iload_n 3, 1) := dk_29 (dk_at dksX1_gap_4 19 rfl rfl)
theorem dX1_gap_113 : decode cX1_gap 113 = .ok (.ireturn, 1) := dk_172 (dk_at dksX1_gap_4 20 rfl rfl)
abbrev cX1_table : ByteArray := prog_1_method_58_code
def yX1_table : MethodName := ⟨RX1, "table", "(II)I"⟩
def dkwX1_table_1 : List UInt8 := [27, 50, 28, 46, 167, 0, 4, 2, 172]
abbrev dktX1_table_1 : List UInt8 := dkwX1_table_1 ++ []
def dkwX1_table_0 : List UInt8 := [27, 184, 0, 37, 153, 0, 27, 28, 133, 9, 4, 27, 120, 133, 184, 0, 7, 153, 0, 14, 42, 180, 0, 11]
abbrev dktX1_table_0 : List UInt8 := dkwX1_table_0 ++ dktX1_table_1
theorem dksX1_table_0 : cX1_table.data.toList.drop 0 = dktX1_table_0 := by decide +kernel
theorem dksX1_table_1 : cX1_table.data.toList.drop 24 = dktX1_table_1 := dk_seg dksX1_table_0 24 rfl rfl
theorem dX1_table_0 : decode cX1_table 0 = .ok (.iload_n 1, 1) := dk_27 (dk_at dksX1_table_0 0 rfl rfl)
theorem dX1_table_1 : decode cX1_table 1 = .ok (.invokestatic 37, 3) := dk_184 0 37 (dk_at dksX1_table_0 1 rfl rfl)
theorem dX1_table_4 : decode cX1_table 4 = .ok (.ifCond .eq 27, 3) := dk_153 0 27 (dk_at dksX1_table_0 4 rfl rfl)
theorem dX1_table_7 : decode cX1_table 7 = .ok (.iload_n 2, 1) := dk_28 (dk_at dksX1_table_0 7 rfl rfl)
theorem dX1_table_8 : decode cX1_table 8 = .ok (.i2l, 1) := dk_133 (dk_at dksX1_table_0 8 rfl rfl)
theorem dX1_table_9 : decode cX1_table 9 = .ok (.lconst 0, 1) := dk_9 (dk_at dksX1_table_0 9 rfl rfl)
theorem dX1_table_10 : decode cX1_table 10 = .ok (.iconst 1, 1) := dk_4 (dk_at dksX1_table_0 10 rfl rfl)
theorem dX1_table_11 : decode cX1_table 11 = .ok (.iload_n 1, 1) := dk_27 (dk_at dksX1_table_0 11 rfl rfl)
theorem dX1_table_12 : decode cX1_table 12 = .ok (.ishl, 1) := dk_120 (dk_at dksX1_table_0 12 rfl rfl)
theorem dX1_table_13 : decode cX1_table 13 = .ok (.i2l, 1) := dk_133 (dk_at dksX1_table_0 13 rfl rfl)
theorem dX1_table_14 : decode cX1_table 14 = .ok (.invokestatic 7, 3) := dk_184 0 7 (dk_at dksX1_table_0 14 rfl rfl)
theorem dX1_table_17 : decode cX1_table 17 = .ok (.ifCond .eq 14, 3) := dk_153 0 14 (dk_at dksX1_table_0 17 rfl rfl)
theorem dX1_table_20 : decode cX1_table 20 = .ok (.aload_n 0, 1) := dk_42 (dk_at dksX1_table_0 20 rfl rfl)
theorem dX1_table_21 : decode cX1_table 21 = .ok (.getfield 11, 3) := dk_180 0 11 (dk_at dksX1_table_0 21 rfl rfl)
theorem dX1_table_24 : decode cX1_table 24 = .ok (.iload_n 1, 1) := dk_27 (dk_at dksX1_table_1 0 rfl rfl)
theorem dX1_table_25 : decode cX1_table 25 = .ok (.aaload, 1) := dk_50 (dk_at dksX1_table_1 1 rfl rfl)
theorem dX1_table_26 : decode cX1_table 26 = .ok (.iload_n 2, 1) := dk_28 (dk_at dksX1_table_1 2 rfl rfl)
theorem dX1_table_27 : decode cX1_table 27 = .ok (.iaload, 1) := dk_46 (dk_at dksX1_table_1 3 rfl rfl)
theorem dX1_table_28 : decode cX1_table 28 = .ok (.goto 4, 3) := dk_167 0 4 (dk_at dksX1_table_1 4 rfl rfl)
theorem dX1_table_31 : decode cX1_table 31 = .ok (.iconst (-1), 1) := dk_2 (dk_at dksX1_table_1 7 rfl rfl)
theorem dX1_table_32 : decode cX1_table 32 = .ok (.ireturn, 1) := dk_172 (dk_at dksX1_table_1 8 rfl rfl)
abbrev cX1_all : ByteArray := prog_1_method_59_code
def yX1_all : MethodName := ⟨RX1, "all", "(I)J"⟩
def dkwX1_all_1 : List UInt8 := [167, 0, 6, 20, 0, 246, 173]
abbrev dktX1_all_1 : List UInt8 := dkwX1_all_1 ++ []
def dkwX1_all_0 : List UInt8 := [4, 188, 10, 89, 3, 27, 79, 184, 0, 92, 153, 0, 15, 42, 180, 0, 71, 27, 50, 182, 1, 5]
abbrev dktX1_all_0 : List UInt8 := dkwX1_all_0 ++ dktX1_all_1
theorem dksX1_all_0 : cX1_all.data.toList.drop 0 = dktX1_all_0 := by decide +kernel
theorem dksX1_all_1 : cX1_all.data.toList.drop 22 = dktX1_all_1 := dk_seg dksX1_all_0 22 rfl rfl
theorem dX1_all_0 : decode cX1_all 0 = .ok (.iconst 1, 1) := dk_4 (dk_at dksX1_all_0 0 rfl rfl)
theorem dX1_all_1 : decode cX1_all 1 = .ok (.newarray .int, 2) := dk_188_10 (dk_at dksX1_all_0 1 rfl rfl)
theorem dX1_all_3 : decode cX1_all 3 = .ok (.dup, 1) := dk_89 (dk_at dksX1_all_0 3 rfl rfl)
theorem dX1_all_4 : decode cX1_all 4 = .ok (.iconst 0, 1) := dk_3 (dk_at dksX1_all_0 4 rfl rfl)
theorem dX1_all_5 : decode cX1_all 5 = .ok (.iload_n 1, 1) := dk_27 (dk_at dksX1_all_0 5 rfl rfl)
theorem dX1_all_6 : decode cX1_all 6 = .ok (.iastore, 1) := dk_79 (dk_at dksX1_all_0 6 rfl rfl)
theorem dX1_all_7 : decode cX1_all 7 = .ok (.invokestatic 92, 3) := dk_184 0 92 (dk_at dksX1_all_0 7 rfl rfl)
theorem dX1_all_10 : decode cX1_all 10 = .ok (.ifCond .eq 15, 3) := dk_153 0 15 (dk_at dksX1_all_0 10 rfl rfl)
theorem dX1_all_13 : decode cX1_all 13 = .ok (.aload_n 0, 1) := dk_42 (dk_at dksX1_all_0 13 rfl rfl)
theorem dX1_all_14 : decode cX1_all 14 = .ok (.getfield 71, 3) := dk_180 0 71 (dk_at dksX1_all_0 14 rfl rfl)
theorem dX1_all_17 : decode cX1_all 17 = .ok (.iload_n 1, 1) := dk_27 (dk_at dksX1_all_0 17 rfl rfl)
theorem dX1_all_18 : decode cX1_all 18 = .ok (.aaload, 1) := dk_50 (dk_at dksX1_all_0 18 rfl rfl)
theorem dX1_all_19 : decode cX1_all 19 = .ok (.invokevirtual 261, 3) := dk_182 1 5 (dk_at dksX1_all_0 19 rfl rfl)
theorem dX1_all_22 : decode cX1_all 22 = .ok (.goto 6, 3) := dk_167 0 6 (dk_at dksX1_all_1 0 rfl rfl)
theorem dX1_all_25 : decode cX1_all 25 = .ok (.ldc2_w 246, 3) := dk_20 0 246 (dk_at dksX1_all_1 3 rfl rfl)
theorem dX1_all_28 : decode cX1_all 28 = .ok (.lreturn, 1) := dk_173 (dk_at dksX1_all_1 6 rfl rfl)
abbrev cX1_lacks : ByteArray := prog_1_method_60_code
def yX1_lacks : MethodName := ⟨RX1, "lacks", "(II)I"⟩
def dkwX1_lacks_3 : List UInt8 := [172, 132, 7, 1, 167, 255, 221, 16, 254, 172]
abbrev dktX1_lacks_3 : List UInt8 := dkwX1_lacks_3 ++ []
def dkwX1_lacks_2 : List UInt8 := [45, 21, 4, 21, 7, 100, 22, 5, 21, 7, 133, 16, 28, 121, 101, 182, 1, 9, 28, 161, 0, 6, 21, 7]
abbrev dktX1_lacks_2 : List UInt8 := dkwX1_lacks_2 ++ dktX1_lacks_3
def dkwX1_lacks_1 : List UInt8 := [50, 78, 45, 182, 0, 158, 54, 4, 45, 182, 1, 5, 55, 5, 3, 54, 7, 21, 7, 21, 4, 163, 0, 34]
abbrev dktX1_lacks_1 : List UInt8 := dkwX1_lacks_1 ++ dktX1_lacks_2
def dkwX1_lacks_0 : List UInt8 := [4, 188, 10, 89, 3, 27, 79, 184, 0, 92, 153, 0, 7, 28, 156, 0, 5, 2, 172, 42, 180, 0, 71, 27]
abbrev dktX1_lacks_0 : List UInt8 := dkwX1_lacks_0 ++ dktX1_lacks_1
theorem dksX1_lacks_0 : cX1_lacks.data.toList.drop 0 = dktX1_lacks_0 := by decide +kernel
theorem dksX1_lacks_1 : cX1_lacks.data.toList.drop 24 = dktX1_lacks_1 := dk_seg dksX1_lacks_0 24 rfl rfl
theorem dksX1_lacks_2 : cX1_lacks.data.toList.drop 48 = dktX1_lacks_2 := dk_seg dksX1_lacks_1 24 rfl rfl
theorem dksX1_lacks_3 : cX1_lacks.data.toList.drop 72 = dktX1_lacks_3 := dk_seg dksX1_lacks_2 24 rfl rfl
theorem dX1_lacks_0 : decode cX1_lacks 0 = .ok (.iconst 1, 1) := dk_4 (dk_at dksX1_lacks_0 0 rfl rfl)
theorem dX1_lacks_1 : decode cX1_lacks 1 = .ok (.newarray .int, 2) := dk_188_10 (dk_at dksX1_lacks_0 1 rfl rfl)
theorem dX1_lacks_3 : decode cX1_lacks 3 = .ok (.dup, 1) := dk_89 (dk_at dksX1_lacks_0 3 rfl rfl)
theorem dX1_lacks_4 : decode cX1_lacks 4 = .ok (.iconst 0, 1) := dk_3 (dk_at dksX1_lacks_0 4 rfl rfl)
theorem dX1_lacks_5 : decode cX1_lacks 5 = .ok (.iload_n 1, 1) := dk_27 (dk_at dksX1_lacks_0 5 rfl rfl)
theorem dX1_lacks_6 : decode cX1_lacks 6 = .ok (.iastore, 1) := dk_79 (dk_at dksX1_lacks_0 6 rfl rfl)
theorem dX1_lacks_7 : decode cX1_lacks 7 = .ok (.invokestatic 92, 3) := dk_184 0 92 (dk_at dksX1_lacks_0 7 rfl rfl)
theorem dX1_lacks_10 : decode cX1_lacks 10 = .ok (.ifCond .eq 7, 3) := dk_153 0 7 (dk_at dksX1_lacks_0 10 rfl rfl)
theorem dX1_lacks_13 : decode cX1_lacks 13 = .ok (.iload_n 2, 1) := dk_28 (dk_at dksX1_lacks_0 13 rfl rfl)
theorem dX1_lacks_14 : decode cX1_lacks 14 = .ok (.ifCond .ge 5, 3) := dk_156 0 5 (dk_at dksX1_lacks_0 14 rfl rfl)
theorem dX1_lacks_17 : decode cX1_lacks 17 = .ok (.iconst (-1), 1) := dk_2 (dk_at dksX1_lacks_0 17 rfl rfl)
theorem dX1_lacks_18 : decode cX1_lacks 18 = .ok (.ireturn, 1) := dk_172 (dk_at dksX1_lacks_0 18 rfl rfl)
theorem dX1_lacks_19 : decode cX1_lacks 19 = .ok (.aload_n 0, 1) := dk_42 (dk_at dksX1_lacks_0 19 rfl rfl)
theorem dX1_lacks_20 : decode cX1_lacks 20 = .ok (.getfield 71, 3) := dk_180 0 71 (dk_at dksX1_lacks_0 20 rfl rfl)
theorem dX1_lacks_23 : decode cX1_lacks 23 = .ok (.iload_n 1, 1) := dk_27 (dk_at dksX1_lacks_0 23 rfl rfl)
theorem dX1_lacks_24 : decode cX1_lacks 24 = .ok (.aaload, 1) := dk_50 (dk_at dksX1_lacks_1 0 rfl rfl)
theorem dX1_lacks_25 : decode cX1_lacks 25 = .ok (.astore_n 3, 1) := dk_78 (dk_at dksX1_lacks_1 1 rfl rfl)
theorem dX1_lacks_26 : decode cX1_lacks 26 = .ok (.aload_n 3, 1) := dk_45 (dk_at dksX1_lacks_1 2 rfl rfl)
theorem dX1_lacks_27 : decode cX1_lacks 27 = .ok (.invokevirtual 158, 3) := dk_182 0 158 (dk_at dksX1_lacks_1 3 rfl rfl)
theorem dX1_lacks_30 : decode cX1_lacks 30 = .ok (.istore 4, 2) := dk_54 4 (dk_at dksX1_lacks_1 6 rfl rfl)
theorem dX1_lacks_32 : decode cX1_lacks 32 = .ok (.aload_n 3, 1) := dk_45 (dk_at dksX1_lacks_1 8 rfl rfl)
theorem dX1_lacks_33 : decode cX1_lacks 33 = .ok (.invokevirtual 261, 3) := dk_182 1 5 (dk_at dksX1_lacks_1 9 rfl rfl)
theorem dX1_lacks_36 : decode cX1_lacks 36 = .ok (.lstore 5, 2) := dk_55 5 (dk_at dksX1_lacks_1 12 rfl rfl)
theorem dX1_lacks_38 : decode cX1_lacks 38 = .ok (.iconst 0, 1) := dk_3 (dk_at dksX1_lacks_1 14 rfl rfl)
theorem dX1_lacks_39 : decode cX1_lacks 39 = .ok (.istore 7, 2) := dk_54 7 (dk_at dksX1_lacks_1 15 rfl rfl)
theorem dX1_lacks_41 : decode cX1_lacks 41 = .ok (.iload 7, 2) := dk_21 7 (dk_at dksX1_lacks_1 17 rfl rfl)
theorem dX1_lacks_43 : decode cX1_lacks 43 = .ok (.iload 4, 2) := dk_21 4 (dk_at dksX1_lacks_1 19 rfl rfl)
theorem dX1_lacks_45 : decode cX1_lacks 45 = .ok (.if_icmp .gt 34, 3) := dk_163 0 34 (dk_at dksX1_lacks_1 21 rfl rfl)
theorem dX1_lacks_48 : decode cX1_lacks 48 = .ok (.aload_n 3, 1) := dk_45 (dk_at dksX1_lacks_2 0 rfl rfl)
theorem dX1_lacks_49 : decode cX1_lacks 49 = .ok (.iload 4, 2) := dk_21 4 (dk_at dksX1_lacks_2 1 rfl rfl)
theorem dX1_lacks_51 : decode cX1_lacks 51 = .ok (.iload 7, 2) := dk_21 7 (dk_at dksX1_lacks_2 3 rfl rfl)
theorem dX1_lacks_53 : decode cX1_lacks 53 = .ok (.isub, 1) := dk_100 (dk_at dksX1_lacks_2 5 rfl rfl)
theorem dX1_lacks_54 : decode cX1_lacks 54 = .ok (.lload 5, 2) := dk_22 5 (dk_at dksX1_lacks_2 6 rfl rfl)
theorem dX1_lacks_56 : decode cX1_lacks 56 = .ok (.iload 7, 2) := dk_21 7 (dk_at dksX1_lacks_2 8 rfl rfl)
theorem dX1_lacks_58 : decode cX1_lacks 58 = .ok (.i2l, 1) := dk_133 (dk_at dksX1_lacks_2 10 rfl rfl)
theorem dX1_lacks_59 : decode cX1_lacks 59 = .ok (.bipush 28, 2) := dk_16 28 (dk_at dksX1_lacks_2 11 rfl rfl)
theorem dX1_lacks_61 : decode cX1_lacks 61 = .ok (.lshl, 1) := dk_121 (dk_at dksX1_lacks_2 13 rfl rfl)
theorem dX1_lacks_62 : decode cX1_lacks 62 = .ok (.lsub, 1) := dk_101 (dk_at dksX1_lacks_2 14 rfl rfl)
theorem dX1_lacks_63 : decode cX1_lacks 63 = .ok (.invokevirtual 265, 3) := dk_182 1 9 (dk_at dksX1_lacks_2 15 rfl rfl)
theorem dX1_lacks_66 : decode cX1_lacks 66 = .ok (.iload_n 2, 1) := dk_28 (dk_at dksX1_lacks_2 18 rfl rfl)
theorem dX1_lacks_67 : decode cX1_lacks 67 = .ok (.if_icmp .lt 6, 3) := dk_161 0 6 (dk_at dksX1_lacks_2 19 rfl rfl)
theorem dX1_lacks_70 : decode cX1_lacks 70 = .ok (.iload 7, 2) := dk_21 7 (dk_at dksX1_lacks_2 22 rfl rfl)
theorem dX1_lacks_72 : decode cX1_lacks 72 = .ok (.ireturn, 1) := dk_172 (dk_at dksX1_lacks_3 0 rfl rfl)
theorem dX1_lacks_73 : decode cX1_lacks 73 = .ok (.iinc 7 1, 3) := dk_132 7 1 (dk_at dksX1_lacks_3 1 rfl rfl)
theorem dX1_lacks_76 : decode cX1_lacks 76 = .ok (.goto (-35), 3) := dk_167 255 221 (dk_at dksX1_lacks_3 4 rfl rfl)
theorem dX1_lacks_79 : decode cX1_lacks 79 = .ok (.bipush (-2), 2) := dk_16 254 (dk_at dksX1_lacks_3 7 rfl rfl)
theorem dX1_lacks_81 : decode cX1_lacks 81 = .ok (.ireturn, 1) := dk_172 (dk_at dksX1_lacks_3 9 rfl rfl)
abbrev cX1_common : ByteArray := prog_1_method_63_code
def yX1_common : MethodName := ⟨RX1, "common", "(II)J"⟩
def dkwX1_common_3 : List UInt8 := [180, 0, 71, 28, 50, 83, 182, 1, 13, 133, 80, 182, 0, 44, 42, 27, 28, 182, 1, 21, 173]
abbrev dktX1_common_3 : List UInt8 := dkwX1_common_3 ++ []
def dkwX1_common_2 : List UInt8 := [182, 0, 180, 133, 80, 89, 5, 42, 5, 189, 0, 69, 89, 3, 42, 180, 0, 71, 27, 50, 83, 89, 4, 42]
abbrev dktX1_common_2 : List UInt8 := dkwX1_common_2 ++ dktX1_common_3
def dkwX1_common_1 : List UInt8 := [188, 11, 89, 3, 42, 180, 0, 71, 27, 50, 182, 0, 180, 133, 80, 89, 4, 42, 180, 0, 71, 28, 50]
abbrev dktX1_common_1 : List UInt8 := dkwX1_common_1 ++ dktX1_common_2
def dkwX1_common_0 : List UInt8 := [5, 188, 10, 89, 3, 27, 79, 89, 4, 28, 79, 184, 0, 92, 154, 0, 7, 20, 0, 246, 173, 42, 6]
abbrev dktX1_common_0 : List UInt8 := dkwX1_common_0 ++ dktX1_common_1
theorem dksX1_common_0 : cX1_common.data.toList.drop 0 = dktX1_common_0 := by decide +kernel
theorem dksX1_common_1 : cX1_common.data.toList.drop 23 = dktX1_common_1 := dk_seg dksX1_common_0 23 rfl rfl
theorem dksX1_common_2 : cX1_common.data.toList.drop 46 = dktX1_common_2 := dk_seg dksX1_common_1 23 rfl rfl
theorem dksX1_common_3 : cX1_common.data.toList.drop 70 = dktX1_common_3 := dk_seg dksX1_common_2 24 rfl rfl
theorem dX1_common_0 : decode cX1_common 0 = .ok (.iconst 2, 1) := dk_5 (dk_at dksX1_common_0 0 rfl rfl)
theorem dX1_common_1 : decode cX1_common 1 = .ok (.newarray .int, 2) := dk_188_10 (dk_at dksX1_common_0 1 rfl rfl)
theorem dX1_common_3 : decode cX1_common 3 = .ok (.dup, 1) := dk_89 (dk_at dksX1_common_0 3 rfl rfl)
theorem dX1_common_4 : decode cX1_common 4 = .ok (.iconst 0, 1) := dk_3 (dk_at dksX1_common_0 4 rfl rfl)
theorem dX1_common_5 : decode cX1_common 5 = .ok (.iload_n 1, 1) := dk_27 (dk_at dksX1_common_0 5 rfl rfl)
theorem dX1_common_6 : decode cX1_common 6 = .ok (.iastore, 1) := dk_79 (dk_at dksX1_common_0 6 rfl rfl)
theorem dX1_common_7 : decode cX1_common 7 = .ok (.dup, 1) := dk_89 (dk_at dksX1_common_0 7 rfl rfl)
theorem dX1_common_8 : decode cX1_common 8 = .ok (.iconst 1, 1) := dk_4 (dk_at dksX1_common_0 8 rfl rfl)
theorem dX1_common_9 : decode cX1_common 9 = .ok (.iload_n 2, 1) := dk_28 (dk_at dksX1_common_0 9 rfl rfl)
theorem dX1_common_10 : decode cX1_common 10 = .ok (.iastore, 1) := dk_79 (dk_at dksX1_common_0 10 rfl rfl)
theorem dX1_common_11 : decode cX1_common 11 = .ok (.invokestatic 92, 3) := dk_184 0 92 (dk_at dksX1_common_0 11 rfl rfl)
theorem dX1_common_14 : decode cX1_common 14 = .ok (.ifCond .ne 7, 3) := dk_154 0 7 (dk_at dksX1_common_0 14 rfl rfl)
theorem dX1_common_17 : decode cX1_common 17 = .ok (.ldc2_w 246, 3) := dk_20 0 246 (dk_at dksX1_common_0 17 rfl rfl)
theorem dX1_common_20 : decode cX1_common 20 = .ok (.lreturn, 1) := dk_173 (dk_at dksX1_common_0 20 rfl rfl)
theorem dX1_common_21 : decode cX1_common 21 = .ok (.aload_n 0, 1) := dk_42 (dk_at dksX1_common_0 21 rfl rfl)
theorem dX1_common_22 : decode cX1_common 22 = .ok (.iconst 3, 1) := dk_6 (dk_at dksX1_common_0 22 rfl rfl)
theorem dX1_common_23 : decode cX1_common 23 = .ok (.newarray .long, 2) := dk_188_11 (dk_at dksX1_common_1 0 rfl rfl)
theorem dX1_common_25 : decode cX1_common 25 = .ok (.dup, 1) := dk_89 (dk_at dksX1_common_1 2 rfl rfl)
theorem dX1_common_26 : decode cX1_common 26 = .ok (.iconst 0, 1) := dk_3 (dk_at dksX1_common_1 3 rfl rfl)
theorem dX1_common_27 : decode cX1_common 27 = .ok (.aload_n 0, 1) := dk_42 (dk_at dksX1_common_1 4 rfl rfl)
theorem dX1_common_28 : decode cX1_common 28 = .ok (.getfield 71, 3) := dk_180 0 71 (dk_at dksX1_common_1 5 rfl rfl)
theorem dX1_common_31 : decode cX1_common 31 = .ok (.iload_n 1, 1) := dk_27 (dk_at dksX1_common_1 8 rfl rfl)
theorem dX1_common_32 : decode cX1_common 32 = .ok (.aaload, 1) := dk_50 (dk_at dksX1_common_1 9 rfl rfl)
theorem dX1_common_33 : decode cX1_common 33 = .ok (.invokevirtual 180, 3) := dk_182 0 180 (dk_at dksX1_common_1 10 rfl rfl)
theorem dX1_common_36 : decode cX1_common 36 = .ok (.i2l, 1) := dk_133 (dk_at dksX1_common_1 13 rfl rfl)
theorem dX1_common_37 : decode cX1_common 37 = .ok (.lastore, 1) := dk_80 (dk_at dksX1_common_1 14 rfl rfl)
theorem dX1_common_38 : decode cX1_common 38 = .ok (.dup, 1) := dk_89 (dk_at dksX1_common_1 15 rfl rfl)
theorem dX1_common_39 : decode cX1_common 39 = .ok (.iconst 1, 1) := dk_4 (dk_at dksX1_common_1 16 rfl rfl)
theorem dX1_common_40 : decode cX1_common 40 = .ok (.aload_n 0, 1) := dk_42 (dk_at dksX1_common_1 17 rfl rfl)
theorem dX1_common_41 : decode cX1_common 41 = .ok (.getfield 71, 3) := dk_180 0 71 (dk_at dksX1_common_1 18 rfl rfl)
theorem dX1_common_44 : decode cX1_common 44 = .ok (.iload_n 2, 1) := dk_28 (dk_at dksX1_common_1 21 rfl rfl)
theorem dX1_common_45 : decode cX1_common 45 = .ok (.aaload, 1) := dk_50 (dk_at dksX1_common_1 22 rfl rfl)
theorem dX1_common_46 : decode cX1_common 46 = .ok (.invokevirtual 180, 3) := dk_182 0 180 (dk_at dksX1_common_2 0 rfl rfl)
theorem dX1_common_49 : decode cX1_common 49 = .ok (.i2l, 1) := dk_133 (dk_at dksX1_common_2 3 rfl rfl)
theorem dX1_common_50 : decode cX1_common 50 = .ok (.lastore, 1) := dk_80 (dk_at dksX1_common_2 4 rfl rfl)
theorem dX1_common_51 : decode cX1_common 51 = .ok (.dup, 1) := dk_89 (dk_at dksX1_common_2 5 rfl rfl)
theorem dX1_common_52 : decode cX1_common 52 = .ok (.iconst 2, 1) := dk_5 (dk_at dksX1_common_2 6 rfl rfl)
theorem dX1_common_53 : decode cX1_common 53 = .ok (.aload_n 0, 1) := dk_42 (dk_at dksX1_common_2 7 rfl rfl)
theorem dX1_common_54 : decode cX1_common 54 = .ok (.iconst 2, 1) := dk_5 (dk_at dksX1_common_2 8 rfl rfl)
theorem dX1_common_55 : decode cX1_common 55 = .ok (.anewarray 69, 3) := dk_189 0 69 (dk_at dksX1_common_2 9 rfl rfl)
theorem dX1_common_58 : decode cX1_common 58 = .ok (.dup, 1) := dk_89 (dk_at dksX1_common_2 12 rfl rfl)
theorem dX1_common_59 : decode cX1_common 59 = .ok (.iconst 0, 1) := dk_3 (dk_at dksX1_common_2 13 rfl rfl)
theorem dX1_common_60 : decode cX1_common 60 = .ok (.aload_n 0, 1) := dk_42 (dk_at dksX1_common_2 14 rfl rfl)
theorem dX1_common_61 : decode cX1_common 61 = .ok (.getfield 71, 3) := dk_180 0 71 (dk_at dksX1_common_2 15 rfl rfl)
theorem dX1_common_64 : decode cX1_common 64 = .ok (.iload_n 1, 1) := dk_27 (dk_at dksX1_common_2 18 rfl rfl)
theorem dX1_common_65 : decode cX1_common 65 = .ok (.aaload, 1) := dk_50 (dk_at dksX1_common_2 19 rfl rfl)
theorem dX1_common_66 : decode cX1_common 66 = .ok (.aastore, 1) := dk_83 (dk_at dksX1_common_2 20 rfl rfl)
theorem dX1_common_67 : decode cX1_common 67 = .ok (.dup, 1) := dk_89 (dk_at dksX1_common_2 21 rfl rfl)
theorem dX1_common_68 : decode cX1_common 68 = .ok (.iconst 1, 1) := dk_4 (dk_at dksX1_common_2 22 rfl rfl)
theorem dX1_common_69 : decode cX1_common 69 = .ok (.aload_n 0, 1) := dk_42 (dk_at dksX1_common_2 23 rfl rfl)
theorem dX1_common_70 : decode cX1_common 70 = .ok (.getfield 71, 3) := dk_180 0 71 (dk_at dksX1_common_3 0 rfl rfl)
theorem dX1_common_73 : decode cX1_common 73 = .ok (.iload_n 2, 1) := dk_28 (dk_at dksX1_common_3 3 rfl rfl)
theorem dX1_common_74 : decode cX1_common 74 = .ok (.aaload, 1) := dk_50 (dk_at dksX1_common_3 4 rfl rfl)
theorem dX1_common_75 : decode cX1_common 75 = .ok (.aastore, 1) := dk_83 (dk_at dksX1_common_3 5 rfl rfl)
theorem dX1_common_76 : decode cX1_common 76 = .ok (.invokevirtual 269, 3) := dk_182 1 13 (dk_at dksX1_common_3 6 rfl rfl)
theorem dX1_common_79 : decode cX1_common 79 = .ok (.i2l, 1) := dk_133 (dk_at dksX1_common_3 9 rfl rfl)
theorem dX1_common_80 : decode cX1_common 80 = .ok (.lastore, 1) := dk_80 (dk_at dksX1_common_3 10 rfl rfl)
theorem dX1_common_81 : decode cX1_common 81 = .ok (.invokevirtual 44, 3) := dk_182 0 44 (dk_at dksX1_common_3 11 rfl rfl)
theorem dX1_common_84 : decode cX1_common 84 = .ok (.aload_n 0, 1) := dk_42 (dk_at dksX1_common_3 14 rfl rfl)
theorem dX1_common_85 : decode cX1_common 85 = .ok (.iload_n 1, 1) := dk_27 (dk_at dksX1_common_3 15 rfl rfl)
theorem dX1_common_86 : decode cX1_common 86 = .ok (.iload_n 2, 1) := dk_28 (dk_at dksX1_common_3 16 rfl rfl)
theorem dX1_common_87 : decode cX1_common 87 = .ok (.invokevirtual 277, 3) := dk_182 1 21 (dk_at dksX1_common_3 17 rfl rfl)
theorem dX1_common_90 : decode cX1_common 90 = .ok (.lreturn, 1) := dk_173 (dk_at dksX1_common_3 20 rfl rfl)
abbrev cX1_guessOf : ByteArray := prog_1_method_61_code
def yX1_guessOf : MethodName := ⟨RX1, "guessOf", "([LDistinctMarks$Counter;)I"⟩
def dkwX1_guessOf_0 : List UInt8 := [42, 43, 182, 0, 183, 182, 0, 180, 172]
abbrev dktX1_guessOf_0 : List UInt8 := dkwX1_guessOf_0 ++ []
theorem dksX1_guessOf_0 : cX1_guessOf.data.toList.drop 0 = dktX1_guessOf_0 := by decide +kernel
theorem dX1_guessOf_0 : decode cX1_guessOf 0 = .ok (.aload_n 0, 1) := dk_42 (dk_at dksX1_guessOf_0 0 rfl rfl)
theorem dX1_guessOf_1 : decode cX1_guessOf 1 = .ok (.aload_n 1, 1) := dk_43 (dk_at dksX1_guessOf_0 1 rfl rfl)
theorem dX1_guessOf_2 : decode cX1_guessOf 2 = .ok (.invokevirtual 183, 3) := dk_182 0 183 (dk_at dksX1_guessOf_0 2 rfl rfl)
theorem dX1_guessOf_5 : decode cX1_guessOf 5 = .ok (.invokevirtual 180, 3) := dk_182 0 180 (dk_at dksX1_guessOf_0 5 rfl rfl)
theorem dX1_guessOf_8 : decode cX1_guessOf 8 = .ok (.ireturn, 1) := dk_172 (dk_at dksX1_guessOf_0 8 rfl rfl)
abbrev cX1_commonOf : ByteArray := prog_1_method_62_code
def yX1_commonOf : MethodName := ⟨RX1, "commonOf", "(II)J"⟩
def dkwX1_commonOf_2 : List UInt8 := [133, 101, 184, 1, 17, 173]
abbrev dktX1_commonOf_2 : List UInt8 := dkwX1_commonOf_2 ++ []
def dkwX1_commonOf_1 : List UInt8 := [189, 0, 69, 89, 3, 42, 180, 0, 71, 27, 50, 83, 89, 4, 42, 180, 0, 71, 28, 50, 83, 182, 1, 13]
abbrev dktX1_commonOf_1 : List UInt8 := dkwX1_commonOf_1 ++ dktX1_commonOf_2
def dkwX1_commonOf_0 : List UInt8 := [9, 42, 180, 0, 71, 27, 50, 182, 0, 180, 133, 42, 180, 0, 71, 28, 50, 182, 0, 180, 133, 97, 42, 5]
abbrev dktX1_commonOf_0 : List UInt8 := dkwX1_commonOf_0 ++ dktX1_commonOf_1
theorem dksX1_commonOf_0 : cX1_commonOf.data.toList.drop 0 = dktX1_commonOf_0 := by decide +kernel
theorem dksX1_commonOf_1 : cX1_commonOf.data.toList.drop 24 = dktX1_commonOf_1 := dk_seg dksX1_commonOf_0 24 rfl rfl
theorem dksX1_commonOf_2 : cX1_commonOf.data.toList.drop 48 = dktX1_commonOf_2 := dk_seg dksX1_commonOf_1 24 rfl rfl
theorem dX1_commonOf_0 : decode cX1_commonOf 0 = .ok (.lconst 0, 1) := dk_9 (dk_at dksX1_commonOf_0 0 rfl rfl)
theorem dX1_commonOf_1 : decode cX1_commonOf 1 = .ok (.aload_n 0, 1) := dk_42 (dk_at dksX1_commonOf_0 1 rfl rfl)
theorem dX1_commonOf_2 : decode cX1_commonOf 2 = .ok (.getfield 71, 3) := dk_180 0 71 (dk_at dksX1_commonOf_0 2 rfl rfl)
theorem dX1_commonOf_5 : decode cX1_commonOf 5 = .ok (.iload_n 1, 1) := dk_27 (dk_at dksX1_commonOf_0 5 rfl rfl)
theorem dX1_commonOf_6 : decode cX1_commonOf 6 = .ok (.aaload, 1) := dk_50 (dk_at dksX1_commonOf_0 6 rfl rfl)
theorem dX1_commonOf_7 : decode cX1_commonOf 7 = .ok (.invokevirtual 180, 3) := dk_182 0 180 (dk_at dksX1_commonOf_0 7 rfl rfl)
theorem dX1_commonOf_10 : decode cX1_commonOf 10 = .ok (.i2l, 1) := dk_133 (dk_at dksX1_commonOf_0 10 rfl rfl)
theorem dX1_commonOf_11 : decode cX1_commonOf 11 = .ok (.aload_n 0, 1) := dk_42 (dk_at dksX1_commonOf_0 11 rfl rfl)
theorem dX1_commonOf_12 : decode cX1_commonOf 12 = .ok (.getfield 71, 3) := dk_180 0 71 (dk_at dksX1_commonOf_0 12 rfl rfl)
theorem dX1_commonOf_15 : decode cX1_commonOf 15 = .ok (.iload_n 2, 1) := dk_28 (dk_at dksX1_commonOf_0 15 rfl rfl)
theorem dX1_commonOf_16 : decode cX1_commonOf 16 = .ok (.aaload, 1) := dk_50 (dk_at dksX1_commonOf_0 16 rfl rfl)
theorem dX1_commonOf_17 : decode cX1_commonOf 17 = .ok (.invokevirtual 180, 3) := dk_182 0 180 (dk_at dksX1_commonOf_0 17 rfl rfl)
theorem dX1_commonOf_20 : decode cX1_commonOf 20 = .ok (.i2l, 1) := dk_133 (dk_at dksX1_commonOf_0 20 rfl rfl)
theorem dX1_commonOf_21 : decode cX1_commonOf 21 = .ok (.ladd, 1) := dk_97 (dk_at dksX1_commonOf_0 21 rfl rfl)
theorem dX1_commonOf_22 : decode cX1_commonOf 22 = .ok (.aload_n 0, 1) := dk_42 (dk_at dksX1_commonOf_0 22 rfl rfl)
theorem dX1_commonOf_23 : decode cX1_commonOf 23 = .ok (.iconst 2, 1) := dk_5 (dk_at dksX1_commonOf_0 23 rfl rfl)
theorem dX1_commonOf_24 : decode cX1_commonOf 24 = .ok (.anewarray 69, 3) := dk_189 0 69 (dk_at dksX1_commonOf_1 0 rfl rfl)
theorem dX1_commonOf_27 : decode cX1_commonOf 27 = .ok (.dup, 1) := dk_89 (dk_at dksX1_commonOf_1 3 rfl rfl)
theorem dX1_commonOf_28 : decode cX1_commonOf 28 = .ok (.iconst 0, 1) := dk_3 (dk_at dksX1_commonOf_1 4 rfl rfl)
theorem dX1_commonOf_29 : decode cX1_commonOf 29 = .ok (.aload_n 0, 1) := dk_42 (dk_at dksX1_commonOf_1 5 rfl rfl)
theorem dX1_commonOf_30 : decode cX1_commonOf 30 = .ok (.getfield 71, 3) := dk_180 0 71 (dk_at dksX1_commonOf_1 6 rfl rfl)
theorem dX1_commonOf_33 : decode cX1_commonOf 33 = .ok (.iload_n 1, 1) := dk_27 (dk_at dksX1_commonOf_1 9 rfl rfl)
theorem dX1_commonOf_34 : decode cX1_commonOf 34 = .ok (.aaload, 1) := dk_50 (dk_at dksX1_commonOf_1 10 rfl rfl)
theorem dX1_commonOf_35 : decode cX1_commonOf 35 = .ok (.aastore, 1) := dk_83 (dk_at dksX1_commonOf_1 11 rfl rfl)
theorem dX1_commonOf_36 : decode cX1_commonOf 36 = .ok (.dup, 1) := dk_89 (dk_at dksX1_commonOf_1 12 rfl rfl)
theorem dX1_commonOf_37 : decode cX1_commonOf 37 = .ok (.iconst 1, 1) := dk_4 (dk_at dksX1_commonOf_1 13 rfl rfl)
theorem dX1_commonOf_38 : decode cX1_commonOf 38 = .ok (.aload_n 0, 1) := dk_42 (dk_at dksX1_commonOf_1 14 rfl rfl)
theorem dX1_commonOf_39 : decode cX1_commonOf 39 = .ok (.getfield 71, 3) := dk_180 0 71 (dk_at dksX1_commonOf_1 15 rfl rfl)
theorem dX1_commonOf_42 : decode cX1_commonOf 42 = .ok (.iload_n 2, 1) := dk_28 (dk_at dksX1_commonOf_1 18 rfl rfl)
theorem dX1_commonOf_43 : decode cX1_commonOf 43 = .ok (.aaload, 1) := dk_50 (dk_at dksX1_commonOf_1 19 rfl rfl)
theorem dX1_commonOf_44 : decode cX1_commonOf 44 = .ok (.aastore, 1) := dk_83 (dk_at dksX1_commonOf_1 20 rfl rfl)
theorem dX1_commonOf_45 : decode cX1_commonOf 45 = .ok (.invokevirtual 269, 3) := dk_182 1 13 (dk_at dksX1_commonOf_1 21 rfl rfl)
theorem dX1_commonOf_48 : decode cX1_commonOf 48 = .ok (.i2l, 1) := dk_133 (dk_at dksX1_commonOf_2 0 rfl rfl)
theorem dX1_commonOf_49 : decode cX1_commonOf 49 = .ok (.lsub, 1) := dk_101 (dk_at dksX1_commonOf_2 1 rfl rfl)
theorem dX1_commonOf_50 : decode cX1_commonOf 50 = .ok (.invokestatic 273, 3) := dk_184 1 17 (dk_at dksX1_commonOf_2 2 rfl rfl)
theorem dX1_commonOf_53 : decode cX1_commonOf 53 = .ok (.lreturn, 1) := dk_173 (dk_at dksX1_commonOf_2 5 rfl rfl)
abbrev cX1_alone : ByteArray := prog_1_method_64_code
def yX1_alone : MethodName := ⟨RX1, "alone", "(II)J"⟩
def dkwX1_alone_2 : List UInt8 := [180, 0, 71, 28, 50, 182, 0, 180, 133, 101, 184, 1, 17, 167, 0, 6, 20, 0, 246, 173]
abbrev dktX1_alone_2 : List UInt8 := dkwX1_alone_2 ++ []
def dkwX1_alone_1 : List UInt8 := [3, 42, 180, 0, 71, 27, 50, 83, 89, 4, 42, 180, 0, 71, 28, 50, 83, 182, 1, 13, 133, 42]
abbrev dktX1_alone_1 : List UInt8 := dkwX1_alone_1 ++ dktX1_alone_2
def dkwX1_alone_0 : List UInt8 := [5, 188, 10, 89, 3, 27, 79, 89, 4, 28, 79, 184, 0, 92, 153, 0, 48, 9, 42, 5, 189, 0, 69, 89]
abbrev dktX1_alone_0 : List UInt8 := dkwX1_alone_0 ++ dktX1_alone_1
theorem dksX1_alone_0 : cX1_alone.data.toList.drop 0 = dktX1_alone_0 := by decide +kernel
theorem dksX1_alone_1 : cX1_alone.data.toList.drop 24 = dktX1_alone_1 := dk_seg dksX1_alone_0 24 rfl rfl
theorem dksX1_alone_2 : cX1_alone.data.toList.drop 46 = dktX1_alone_2 := dk_seg dksX1_alone_1 22 rfl rfl
theorem dX1_alone_0 : decode cX1_alone 0 = .ok (.iconst 2, 1) := dk_5 (dk_at dksX1_alone_0 0 rfl rfl)
theorem dX1_alone_1 : decode cX1_alone 1 = .ok (.newarray .int, 2) := dk_188_10 (dk_at dksX1_alone_0 1 rfl rfl)
theorem dX1_alone_3 : decode cX1_alone 3 = .ok (.dup, 1) := dk_89 (dk_at dksX1_alone_0 3 rfl rfl)
theorem dX1_alone_4 : decode cX1_alone 4 = .ok (.iconst 0, 1) := dk_3 (dk_at dksX1_alone_0 4 rfl rfl)
theorem dX1_alone_5 : decode cX1_alone 5 = .ok (.iload_n 1, 1) := dk_27 (dk_at dksX1_alone_0 5 rfl rfl)
theorem dX1_alone_6 : decode cX1_alone 6 = .ok (.iastore, 1) := dk_79 (dk_at dksX1_alone_0 6 rfl rfl)
theorem dX1_alone_7 : decode cX1_alone 7 = .ok (.dup, 1) := dk_89 (dk_at dksX1_alone_0 7 rfl rfl)
theorem dX1_alone_8 : decode cX1_alone 8 = .ok (.iconst 1, 1) := dk_4 (dk_at dksX1_alone_0 8 rfl rfl)
theorem dX1_alone_9 : decode cX1_alone 9 = .ok (.iload_n 2, 1) := dk_28 (dk_at dksX1_alone_0 9 rfl rfl)
theorem dX1_alone_10 : decode cX1_alone 10 = .ok (.iastore, 1) := dk_79 (dk_at dksX1_alone_0 10 rfl rfl)
theorem dX1_alone_11 : decode cX1_alone 11 = .ok (.invokestatic 92, 3) := dk_184 0 92 (dk_at dksX1_alone_0 11 rfl rfl)
theorem dX1_alone_14 : decode cX1_alone 14 = .ok (.ifCond .eq 48, 3) := dk_153 0 48 (dk_at dksX1_alone_0 14 rfl rfl)
theorem dX1_alone_17 : decode cX1_alone 17 = .ok (.lconst 0, 1) := dk_9 (dk_at dksX1_alone_0 17 rfl rfl)
theorem dX1_alone_18 : decode cX1_alone 18 = .ok (.aload_n 0, 1) := dk_42 (dk_at dksX1_alone_0 18 rfl rfl)
theorem dX1_alone_19 : decode cX1_alone 19 = .ok (.iconst 2, 1) := dk_5 (dk_at dksX1_alone_0 19 rfl rfl)
theorem dX1_alone_20 : decode cX1_alone 20 = .ok (.anewarray 69, 3) := dk_189 0 69 (dk_at dksX1_alone_0 20 rfl rfl)
theorem dX1_alone_23 : decode cX1_alone 23 = .ok (.dup, 1) := dk_89 (dk_at dksX1_alone_0 23 rfl rfl)
theorem dX1_alone_24 : decode cX1_alone 24 = .ok (.iconst 0, 1) := dk_3 (dk_at dksX1_alone_1 0 rfl rfl)
theorem dX1_alone_25 : decode cX1_alone 25 = .ok (.aload_n 0, 1) := dk_42 (dk_at dksX1_alone_1 1 rfl rfl)
theorem dX1_alone_26 : decode cX1_alone 26 = .ok (.getfield 71, 3) := dk_180 0 71 (dk_at dksX1_alone_1 2 rfl rfl)
theorem dX1_alone_29 : decode cX1_alone 29 = .ok (.iload_n 1, 1) := dk_27 (dk_at dksX1_alone_1 5 rfl rfl)
theorem dX1_alone_30 : decode cX1_alone 30 = .ok (.aaload, 1) := dk_50 (dk_at dksX1_alone_1 6 rfl rfl)
theorem dX1_alone_31 : decode cX1_alone 31 = .ok (.aastore, 1) := dk_83 (dk_at dksX1_alone_1 7 rfl rfl)
theorem dX1_alone_32 : decode cX1_alone 32 = .ok (.dup, 1) := dk_89 (dk_at dksX1_alone_1 8 rfl rfl)
theorem dX1_alone_33 : decode cX1_alone 33 = .ok (.iconst 1, 1) := dk_4 (dk_at dksX1_alone_1 9 rfl rfl)
theorem dX1_alone_34 : decode cX1_alone 34 = .ok (.aload_n 0, 1) := dk_42 (dk_at dksX1_alone_1 10 rfl rfl)
theorem dX1_alone_35 : decode cX1_alone 35 = .ok (.getfield 71, 3) := dk_180 0 71 (dk_at dksX1_alone_1 11 rfl rfl)
theorem dX1_alone_38 : decode cX1_alone 38 = .ok (.iload_n 2, 1) := dk_28 (dk_at dksX1_alone_1 14 rfl rfl)
theorem dX1_alone_39 : decode cX1_alone 39 = .ok (.aaload, 1) := dk_50 (dk_at dksX1_alone_1 15 rfl rfl)
theorem dX1_alone_40 : decode cX1_alone 40 = .ok (.aastore, 1) := dk_83 (dk_at dksX1_alone_1 16 rfl rfl)
theorem dX1_alone_41 : decode cX1_alone 41 = .ok (.invokevirtual 269, 3) := dk_182 1 13 (dk_at dksX1_alone_1 17 rfl rfl)
theorem dX1_alone_44 : decode cX1_alone 44 = .ok (.i2l, 1) := dk_133 (dk_at dksX1_alone_1 20 rfl rfl)
theorem dX1_alone_45 : decode cX1_alone 45 = .ok (.aload_n 0, 1) := dk_42 (dk_at dksX1_alone_1 21 rfl rfl)
theorem dX1_alone_46 : decode cX1_alone 46 = .ok (.getfield 71, 3) := dk_180 0 71 (dk_at dksX1_alone_2 0 rfl rfl)
theorem dX1_alone_49 : decode cX1_alone 49 = .ok (.iload_n 2, 1) := dk_28 (dk_at dksX1_alone_2 3 rfl rfl)
theorem dX1_alone_50 : decode cX1_alone 50 = .ok (.aaload, 1) := dk_50 (dk_at dksX1_alone_2 4 rfl rfl)
theorem dX1_alone_51 : decode cX1_alone 51 = .ok (.invokevirtual 180, 3) := dk_182 0 180 (dk_at dksX1_alone_2 5 rfl rfl)
theorem dX1_alone_54 : decode cX1_alone 54 = .ok (.i2l, 1) := dk_133 (dk_at dksX1_alone_2 8 rfl rfl)
theorem dX1_alone_55 : decode cX1_alone 55 = .ok (.lsub, 1) := dk_101 (dk_at dksX1_alone_2 9 rfl rfl)
theorem dX1_alone_56 : decode cX1_alone 56 = .ok (.invokestatic 273, 3) := dk_184 1 17 (dk_at dksX1_alone_2 10 rfl rfl)
theorem dX1_alone_59 : decode cX1_alone 59 = .ok (.goto 6, 3) := dk_167 0 6 (dk_at dksX1_alone_2 13 rfl rfl)
theorem dX1_alone_62 : decode cX1_alone 62 = .ok (.ldc2_w 246, 3) := dk_20 0 246 (dk_at dksX1_alone_2 16 rfl rfl)
theorem dX1_alone_65 : decode cX1_alone 65 = .ok (.lreturn, 1) := dk_173 (dk_at dksX1_alone_2 19 rfl rfl)
abbrev cX1_alike : ByteArray := prog_1_method_66_code
def yX1_alike : MethodName := ⟨RX1, "alike", "(II)I"⟩
def dkwX1_alike_1 : List UInt8 := [167, 0, 4, 2, 172]
abbrev dktX1_alike_1 : List UInt8 := dkwX1_alike_1 ++ []
def dkwX1_alike_0 : List UInt8 := [5, 188, 10, 89, 3, 27, 79, 89, 4, 28, 79, 184, 0, 92, 153, 0, 12, 42, 27, 28, 182, 1, 27]
abbrev dktX1_alike_0 : List UInt8 := dkwX1_alike_0 ++ dktX1_alike_1
theorem dksX1_alike_0 : cX1_alike.data.toList.drop 0 = dktX1_alike_0 := by decide +kernel
theorem dksX1_alike_1 : cX1_alike.data.toList.drop 23 = dktX1_alike_1 := dk_seg dksX1_alike_0 23 rfl rfl
theorem dX1_alike_0 : decode cX1_alike 0 = .ok (.iconst 2, 1) := dk_5 (dk_at dksX1_alike_0 0 rfl rfl)
theorem dX1_alike_1 : decode cX1_alike 1 = .ok (.newarray .int, 2) := dk_188_10 (dk_at dksX1_alike_0 1 rfl rfl)
theorem dX1_alike_3 : decode cX1_alike 3 = .ok (.dup, 1) := dk_89 (dk_at dksX1_alike_0 3 rfl rfl)
theorem dX1_alike_4 : decode cX1_alike 4 = .ok (.iconst 0, 1) := dk_3 (dk_at dksX1_alike_0 4 rfl rfl)
theorem dX1_alike_5 : decode cX1_alike 5 = .ok (.iload_n 1, 1) := dk_27 (dk_at dksX1_alike_0 5 rfl rfl)
theorem dX1_alike_6 : decode cX1_alike 6 = .ok (.iastore, 1) := dk_79 (dk_at dksX1_alike_0 6 rfl rfl)
theorem dX1_alike_7 : decode cX1_alike 7 = .ok (.dup, 1) := dk_89 (dk_at dksX1_alike_0 7 rfl rfl)
theorem dX1_alike_8 : decode cX1_alike 8 = .ok (.iconst 1, 1) := dk_4 (dk_at dksX1_alike_0 8 rfl rfl)
theorem dX1_alike_9 : decode cX1_alike 9 = .ok (.iload_n 2, 1) := dk_28 (dk_at dksX1_alike_0 9 rfl rfl)
theorem dX1_alike_10 : decode cX1_alike 10 = .ok (.iastore, 1) := dk_79 (dk_at dksX1_alike_0 10 rfl rfl)
theorem dX1_alike_11 : decode cX1_alike 11 = .ok (.invokestatic 92, 3) := dk_184 0 92 (dk_at dksX1_alike_0 11 rfl rfl)
theorem dX1_alike_14 : decode cX1_alike 14 = .ok (.ifCond .eq 12, 3) := dk_153 0 12 (dk_at dksX1_alike_0 14 rfl rfl)
theorem dX1_alike_17 : decode cX1_alike 17 = .ok (.aload_n 0, 1) := dk_42 (dk_at dksX1_alike_0 17 rfl rfl)
theorem dX1_alike_18 : decode cX1_alike 18 = .ok (.iload_n 1, 1) := dk_27 (dk_at dksX1_alike_0 18 rfl rfl)
theorem dX1_alike_19 : decode cX1_alike 19 = .ok (.iload_n 2, 1) := dk_28 (dk_at dksX1_alike_0 19 rfl rfl)
theorem dX1_alike_20 : decode cX1_alike 20 = .ok (.invokevirtual 283, 3) := dk_182 1 27 (dk_at dksX1_alike_0 20 rfl rfl)
theorem dX1_alike_23 : decode cX1_alike 23 = .ok (.goto 4, 3) := dk_167 0 4 (dk_at dksX1_alike_1 0 rfl rfl)
theorem dX1_alike_26 : decode cX1_alike 26 = .ok (.iconst (-1), 1) := dk_2 (dk_at dksX1_alike_1 3 rfl rfl)
theorem dX1_alike_27 : decode cX1_alike 27 = .ok (.ireturn, 1) := dk_172 (dk_at dksX1_alike_1 4 rfl rfl)
abbrev cX1_alikeOf : ByteArray := prog_1_method_65_code
def yX1_alikeOf : MethodName := ⟨RX1, "alikeOf", "(II)I"⟩
def dkwX1_alikeOf_2 : List UInt8 := [182, 1, 21, 105, 29, 133, 109, 184, 1, 25, 136, 172]
abbrev dktX1_alikeOf_2 : List UInt8 := dkwX1_alikeOf_2 ++ []
def dkwX1_alikeOf_1 : List UInt8 := [182, 1, 13, 62, 29, 154, 0, 9, 17, 3, 232, 167, 0, 23, 20, 0, 105, 20, 0, 105, 42, 27, 28]
abbrev dktX1_alikeOf_1 : List UInt8 := dkwX1_alikeOf_1 ++ dktX1_alikeOf_2
def dkwX1_alikeOf_0 : List UInt8 := [42, 5, 189, 0, 69, 89, 3, 42, 180, 0, 71, 27, 50, 83, 89, 4, 42, 180, 0, 71, 28, 50, 83]
abbrev dktX1_alikeOf_0 : List UInt8 := dkwX1_alikeOf_0 ++ dktX1_alikeOf_1
theorem dksX1_alikeOf_0 : cX1_alikeOf.data.toList.drop 0 = dktX1_alikeOf_0 := by decide +kernel
theorem dksX1_alikeOf_1 : cX1_alikeOf.data.toList.drop 23 = dktX1_alikeOf_1 := dk_seg dksX1_alikeOf_0 23 rfl rfl
theorem dksX1_alikeOf_2 : cX1_alikeOf.data.toList.drop 46 = dktX1_alikeOf_2 := dk_seg dksX1_alikeOf_1 23 rfl rfl
theorem dX1_alikeOf_0 : decode cX1_alikeOf 0 = .ok (.aload_n 0, 1) := dk_42 (dk_at dksX1_alikeOf_0 0 rfl rfl)
theorem dX1_alikeOf_1 : decode cX1_alikeOf 1 = .ok (.iconst 2, 1) := dk_5 (dk_at dksX1_alikeOf_0 1 rfl rfl)
theorem dX1_alikeOf_2 : decode cX1_alikeOf 2 = .ok (.anewarray 69, 3) := dk_189 0 69 (dk_at dksX1_alikeOf_0 2 rfl rfl)
theorem dX1_alikeOf_5 : decode cX1_alikeOf 5 = .ok (.dup, 1) := dk_89 (dk_at dksX1_alikeOf_0 5 rfl rfl)
theorem dX1_alikeOf_6 : decode cX1_alikeOf 6 = .ok (.iconst 0, 1) := dk_3 (dk_at dksX1_alikeOf_0 6 rfl rfl)
theorem dX1_alikeOf_7 : decode cX1_alikeOf 7 = .ok (.aload_n 0, 1) := dk_42 (dk_at dksX1_alikeOf_0 7 rfl rfl)
theorem dX1_alikeOf_8 : decode cX1_alikeOf 8 = .ok (.getfield 71, 3) := dk_180 0 71 (dk_at dksX1_alikeOf_0 8 rfl rfl)
theorem dX1_alikeOf_11 : decode cX1_alikeOf 11 = .ok (.iload_n 1, 1) := dk_27 (dk_at dksX1_alikeOf_0 11 rfl rfl)
theorem dX1_alikeOf_12 : decode cX1_alikeOf 12 = .ok (.aaload, 1) := dk_50 (dk_at dksX1_alikeOf_0 12 rfl rfl)
theorem dX1_alikeOf_13 : decode cX1_alikeOf 13 = .ok (.aastore, 1) := dk_83 (dk_at dksX1_alikeOf_0 13 rfl rfl)
theorem dX1_alikeOf_14 : decode cX1_alikeOf 14 = .ok (.dup, 1) := dk_89 (dk_at dksX1_alikeOf_0 14 rfl rfl)
theorem dX1_alikeOf_15 : decode cX1_alikeOf 15 = .ok (.iconst 1, 1) := dk_4 (dk_at dksX1_alikeOf_0 15 rfl rfl)
theorem dX1_alikeOf_16 : decode cX1_alikeOf 16 = .ok (.aload_n 0, 1) := dk_42 (dk_at dksX1_alikeOf_0 16 rfl rfl)
theorem dX1_alikeOf_17 : decode cX1_alikeOf 17 = .ok (.getfield 71, 3) := dk_180 0 71 (dk_at dksX1_alikeOf_0 17 rfl rfl)
theorem dX1_alikeOf_20 : decode cX1_alikeOf 20 = .ok (.iload_n 2, 1) := dk_28 (dk_at dksX1_alikeOf_0 20 rfl rfl)
theorem dX1_alikeOf_21 : decode cX1_alikeOf 21 = .ok (.aaload, 1) := dk_50 (dk_at dksX1_alikeOf_0 21 rfl rfl)
theorem dX1_alikeOf_22 : decode cX1_alikeOf 22 = .ok (.aastore, 1) := dk_83 (dk_at dksX1_alikeOf_0 22 rfl rfl)
theorem dX1_alikeOf_23 : decode cX1_alikeOf 23 = .ok (.invokevirtual 269, 3) := dk_182 1 13 (dk_at dksX1_alikeOf_1 0 rfl rfl)
theorem dX1_alikeOf_26 : decode cX1_alikeOf 26 = .ok (.istore_n 3, 1) := dk_62 (dk_at dksX1_alikeOf_1 3 rfl rfl)
theorem dX1_alikeOf_27 : decode cX1_alikeOf 27 = .ok (.iload_n 3, 1) := dk_29 (dk_at dksX1_alikeOf_1 4 rfl rfl)
theorem dX1_alikeOf_28 : decode cX1_alikeOf 28 = .ok (.ifCond .ne 9, 3) := dk_154 0 9 (dk_at dksX1_alikeOf_1 5 rfl rfl)
theorem dX1_alikeOf_31 : decode cX1_alikeOf 31 = .ok (.sipush 1000, 3) := dk_17 3 232 (dk_at dksX1_alikeOf_1 8 rfl rfl)
theorem dX1_alikeOf_34 : decode cX1_alikeOf 34 = .ok (.goto 23, 3) := dk_167 0 23 (dk_at dksX1_alikeOf_1 11 rfl rfl)
theorem dX1_alikeOf_37 : decode cX1_alikeOf 37 = .ok (.ldc2_w 105, 3) := dk_20 0 105 (dk_at dksX1_alikeOf_1 14 rfl rfl)
theorem dX1_alikeOf_40 : decode cX1_alikeOf 40 = .ok (.ldc2_w 105, 3) := dk_20 0 105 (dk_at dksX1_alikeOf_1 17 rfl rfl)
theorem dX1_alikeOf_43 : decode cX1_alikeOf 43 = .ok (.aload_n 0, 1) := dk_42 (dk_at dksX1_alikeOf_1 20 rfl rfl)
theorem dX1_alikeOf_44 : decode cX1_alikeOf 44 = .ok (.iload_n 1, 1) := dk_27 (dk_at dksX1_alikeOf_1 21 rfl rfl)
theorem dX1_alikeOf_45 : decode cX1_alikeOf 45 = .ok (.iload_n 2, 1) := dk_28 (dk_at dksX1_alikeOf_1 22 rfl rfl)
theorem dX1_alikeOf_46 : decode cX1_alikeOf 46 = .ok (.invokevirtual 277, 3) := dk_182 1 21 (dk_at dksX1_alikeOf_2 0 rfl rfl)
theorem dX1_alikeOf_49 : decode cX1_alikeOf 49 = .ok (.lmul, 1) := dk_105 (dk_at dksX1_alikeOf_2 3 rfl rfl)
theorem dX1_alikeOf_50 : decode cX1_alikeOf 50 = .ok (.iload_n 3, 1) := dk_29 (dk_at dksX1_alikeOf_2 4 rfl rfl)
theorem dX1_alikeOf_51 : decode cX1_alikeOf 51 = .ok (.i2l, 1) := dk_133 (dk_at dksX1_alikeOf_2 5 rfl rfl)
theorem dX1_alikeOf_52 : decode cX1_alikeOf 52 = .ok (.ldiv, 1) := dk_109 (dk_at dksX1_alikeOf_2 6 rfl rfl)
theorem dX1_alikeOf_53 : decode cX1_alikeOf 53 = .ok (.invokestatic 281, 3) := dk_184 1 25 (dk_at dksX1_alikeOf_2 7 rfl rfl)
theorem dX1_alikeOf_56 : decode cX1_alikeOf 56 = .ok (.l2i, 1) := dk_136 (dk_at dksX1_alikeOf_2 10 rfl rfl)
theorem dX1_alikeOf_57 : decode cX1_alikeOf 57 = .ok (.ireturn, 1) := dk_172 (dk_at dksX1_alikeOf_2 11 rfl rfl)
abbrev cX1_nearest : ByteArray := prog_1_method_67_code
def yX1_nearest : MethodName := ⟨RX1, "nearest", "(I)I"⟩
def dkwX1_nearest_3 : List UInt8 := [188, 11, 89, 3, 29, 133, 80, 182, 0, 44, 28, 172]
abbrev dktX1_nearest_3 : List UInt8 := dkwX1_nearest_3 ++ []
def dkwX1_nearest_2 : List UInt8 := [21, 5, 29, 163, 0, 6, 167, 0, 9, 21, 4, 61, 21, 5, 62, 132, 4, 1, 167, 255, 212, 42, 4]
abbrev dktX1_nearest_2 : List UInt8 := dkwX1_nearest_2 ++ dktX1_nearest_3
def dkwX1_nearest_1 : List UInt8 := [16, 6, 162, 0, 43, 21, 4, 27, 160, 0, 7, 2, 167, 0, 10, 42, 27, 21, 4, 182, 1, 27, 54, 5]
abbrev dktX1_nearest_1 : List UInt8 := dkwX1_nearest_1 ++ dktX1_nearest_2
def dkwX1_nearest_0 : List UInt8 := [4, 188, 10, 89, 3, 27, 79, 184, 0, 92, 154, 0, 5, 2, 172, 2, 61, 2, 62, 3, 54, 4, 21, 4]
abbrev dktX1_nearest_0 : List UInt8 := dkwX1_nearest_0 ++ dktX1_nearest_1
theorem dksX1_nearest_0 : cX1_nearest.data.toList.drop 0 = dktX1_nearest_0 := by decide +kernel
theorem dksX1_nearest_1 : cX1_nearest.data.toList.drop 24 = dktX1_nearest_1 := dk_seg dksX1_nearest_0 24 rfl rfl
theorem dksX1_nearest_2 : cX1_nearest.data.toList.drop 48 = dktX1_nearest_2 := dk_seg dksX1_nearest_1 24 rfl rfl
theorem dksX1_nearest_3 : cX1_nearest.data.toList.drop 71 = dktX1_nearest_3 := dk_seg dksX1_nearest_2 23 rfl rfl
theorem dX1_nearest_0 : decode cX1_nearest 0 = .ok (.iconst 1, 1) := dk_4 (dk_at dksX1_nearest_0 0 rfl rfl)
theorem dX1_nearest_1 : decode cX1_nearest 1 = .ok (.newarray .int, 2) := dk_188_10 (dk_at dksX1_nearest_0 1 rfl rfl)
theorem dX1_nearest_3 : decode cX1_nearest 3 = .ok (.dup, 1) := dk_89 (dk_at dksX1_nearest_0 3 rfl rfl)
theorem dX1_nearest_4 : decode cX1_nearest 4 = .ok (.iconst 0, 1) := dk_3 (dk_at dksX1_nearest_0 4 rfl rfl)
theorem dX1_nearest_5 : decode cX1_nearest 5 = .ok (.iload_n 1, 1) := dk_27 (dk_at dksX1_nearest_0 5 rfl rfl)
theorem dX1_nearest_6 : decode cX1_nearest 6 = .ok (.iastore, 1) := dk_79 (dk_at dksX1_nearest_0 6 rfl rfl)
theorem dX1_nearest_7 : decode cX1_nearest 7 = .ok (.invokestatic 92, 3) := dk_184 0 92 (dk_at dksX1_nearest_0 7 rfl rfl)
theorem dX1_nearest_10 : decode cX1_nearest 10 = .ok (.ifCond .ne 5, 3) := dk_154 0 5 (dk_at dksX1_nearest_0 10 rfl rfl)
theorem dX1_nearest_13 : decode cX1_nearest 13 = .ok (.iconst (-1), 1) := dk_2 (dk_at dksX1_nearest_0 13 rfl rfl)
theorem dX1_nearest_14 : decode cX1_nearest 14 = .ok (.ireturn, 1) := dk_172 (dk_at dksX1_nearest_0 14 rfl rfl)
theorem dX1_nearest_15 : decode cX1_nearest 15 = .ok (.iconst (-1), 1) := dk_2 (dk_at dksX1_nearest_0 15 rfl rfl)
theorem dX1_nearest_16 : decode cX1_nearest 16 = .ok (.istore_n 2, 1) := dk_61 (dk_at dksX1_nearest_0 16 rfl rfl)
theorem dX1_nearest_17 : decode cX1_nearest 17 = .ok (.iconst (-1), 1) := dk_2 (dk_at dksX1_nearest_0 17 rfl rfl)
theorem dX1_nearest_18 : decode cX1_nearest 18 = .ok (.istore_n 3, 1) := dk_62 (dk_at dksX1_nearest_0 18 rfl rfl)
theorem dX1_nearest_19 : decode cX1_nearest 19 = .ok (.iconst 0, 1) := dk_3 (dk_at dksX1_nearest_0 19 rfl rfl)
theorem dX1_nearest_20 : decode cX1_nearest 20 = .ok (.istore 4, 2) := dk_54 4 (dk_at dksX1_nearest_0 20 rfl rfl)
theorem dX1_nearest_22 : decode cX1_nearest 22 = .ok (.iload 4, 2) := dk_21 4 (dk_at dksX1_nearest_0 22 rfl rfl)
theorem dX1_nearest_24 : decode cX1_nearest 24 = .ok (.bipush 6, 2) := dk_16 6 (dk_at dksX1_nearest_1 0 rfl rfl)
theorem dX1_nearest_26 : decode cX1_nearest 26 = .ok (.if_icmp .ge 43, 3) := dk_162 0 43 (dk_at dksX1_nearest_1 2 rfl rfl)
theorem dX1_nearest_29 : decode cX1_nearest 29 = .ok (.iload 4, 2) := dk_21 4 (dk_at dksX1_nearest_1 5 rfl rfl)
theorem dX1_nearest_31 : decode cX1_nearest 31 = .ok (.iload_n 1, 1) := dk_27 (dk_at dksX1_nearest_1 7 rfl rfl)
theorem dX1_nearest_32 : decode cX1_nearest 32 = .ok (.if_icmp .ne 7, 3) := dk_160 0 7 (dk_at dksX1_nearest_1 8 rfl rfl)
theorem dX1_nearest_35 : decode cX1_nearest 35 = .ok (.iconst (-1), 1) := dk_2 (dk_at dksX1_nearest_1 11 rfl rfl)
theorem dX1_nearest_36 : decode cX1_nearest 36 = .ok (.goto 10, 3) := dk_167 0 10 (dk_at dksX1_nearest_1 12 rfl rfl)
theorem dX1_nearest_39 : decode cX1_nearest 39 = .ok (.aload_n 0, 1) := dk_42 (dk_at dksX1_nearest_1 15 rfl rfl)
theorem dX1_nearest_40 : decode cX1_nearest 40 = .ok (.iload_n 1, 1) := dk_27 (dk_at dksX1_nearest_1 16 rfl rfl)
theorem dX1_nearest_41 : decode cX1_nearest 41 = .ok (.iload 4, 2) := dk_21 4 (dk_at dksX1_nearest_1 17 rfl rfl)
theorem dX1_nearest_43 : decode cX1_nearest 43 = .ok (.invokevirtual 283, 3) := dk_182 1 27 (dk_at dksX1_nearest_1 19 rfl rfl)
theorem dX1_nearest_46 : decode cX1_nearest 46 = .ok (.istore 5, 2) := dk_54 5 (dk_at dksX1_nearest_1 22 rfl rfl)
theorem dX1_nearest_48 : decode cX1_nearest 48 = .ok (.iload 5, 2) := dk_21 5 (dk_at dksX1_nearest_2 0 rfl rfl)
theorem dX1_nearest_50 : decode cX1_nearest 50 = .ok (.iload_n 3, 1) := dk_29 (dk_at dksX1_nearest_2 2 rfl rfl)
theorem dX1_nearest_51 : decode cX1_nearest 51 = .ok (.if_icmp .gt 6, 3) := dk_163 0 6 (dk_at dksX1_nearest_2 3 rfl rfl)
theorem dX1_nearest_54 : decode cX1_nearest 54 = .ok (.goto 9, 3) := dk_167 0 9 (dk_at dksX1_nearest_2 6 rfl rfl)
theorem dX1_nearest_57 : decode cX1_nearest 57 = .ok (.iload 4, 2) := dk_21 4 (dk_at dksX1_nearest_2 9 rfl rfl)
theorem dX1_nearest_59 : decode cX1_nearest 59 = .ok (.istore_n 2, 1) := dk_61 (dk_at dksX1_nearest_2 11 rfl rfl)
theorem dX1_nearest_60 : decode cX1_nearest 60 = .ok (.iload 5, 2) := dk_21 5 (dk_at dksX1_nearest_2 12 rfl rfl)
theorem dX1_nearest_62 : decode cX1_nearest 62 = .ok (.istore_n 3, 1) := dk_62 (dk_at dksX1_nearest_2 14 rfl rfl)
theorem dX1_nearest_63 : decode cX1_nearest 63 = .ok (.iinc 4 1, 3) := dk_132 4 1 (dk_at dksX1_nearest_2 15 rfl rfl)
theorem dX1_nearest_66 : decode cX1_nearest 66 = .ok (.goto (-44), 3) := dk_167 255 212 (dk_at dksX1_nearest_2 18 rfl rfl)
theorem dX1_nearest_69 : decode cX1_nearest 69 = .ok (.aload_n 0, 1) := dk_42 (dk_at dksX1_nearest_2 21 rfl rfl)
theorem dX1_nearest_70 : decode cX1_nearest 70 = .ok (.iconst 1, 1) := dk_4 (dk_at dksX1_nearest_2 22 rfl rfl)
theorem dX1_nearest_71 : decode cX1_nearest 71 = .ok (.newarray .long, 2) := dk_188_11 (dk_at dksX1_nearest_3 0 rfl rfl)
theorem dX1_nearest_73 : decode cX1_nearest 73 = .ok (.dup, 1) := dk_89 (dk_at dksX1_nearest_3 2 rfl rfl)
theorem dX1_nearest_74 : decode cX1_nearest 74 = .ok (.iconst 0, 1) := dk_3 (dk_at dksX1_nearest_3 3 rfl rfl)
theorem dX1_nearest_75 : decode cX1_nearest 75 = .ok (.iload_n 3, 1) := dk_29 (dk_at dksX1_nearest_3 4 rfl rfl)
theorem dX1_nearest_76 : decode cX1_nearest 76 = .ok (.i2l, 1) := dk_133 (dk_at dksX1_nearest_3 5 rfl rfl)
theorem dX1_nearest_77 : decode cX1_nearest 77 = .ok (.lastore, 1) := dk_80 (dk_at dksX1_nearest_3 6 rfl rfl)
theorem dX1_nearest_78 : decode cX1_nearest 78 = .ok (.invokevirtual 44, 3) := dk_182 0 44 (dk_at dksX1_nearest_3 7 rfl rfl)
theorem dX1_nearest_81 : decode cX1_nearest 81 = .ok (.iload_n 2, 1) := dk_28 (dk_at dksX1_nearest_3 10 rfl rfl)
theorem dX1_nearest_82 : decode cX1_nearest 82 = .ok (.ireturn, 1) := dk_172 (dk_at dksX1_nearest_3 11 rfl rfl)
abbrev cX1_meet : ByteArray := prog_1_method_69_code
def yX1_meet : MethodName := ⟨RX1, "meet", "(I)J"⟩
def dkwX1_meet_1 : List UInt8 := [184, 1, 38, 42, 44, 182, 0, 44, 9, 44, 3, 47, 184, 1, 17, 173]
abbrev dktX1_meet_1 : List UInt8 := dkwX1_meet_1 ++ []
def dkwX1_meet_0 : List UInt8 := [27, 184, 0, 191, 154, 0, 7, 20, 0, 246, 173, 5, 188, 11, 77, 27, 42, 44, 186, 1, 35, 0, 0]
abbrev dktX1_meet_0 : List UInt8 := dkwX1_meet_0 ++ dktX1_meet_1
theorem dksX1_meet_0 : cX1_meet.data.toList.drop 0 = dktX1_meet_0 := by decide +kernel
theorem dksX1_meet_1 : cX1_meet.data.toList.drop 23 = dktX1_meet_1 := dk_seg dksX1_meet_0 23 rfl rfl
theorem dX1_meet_0 : decode cX1_meet 0 = .ok (.iload_n 1, 1) := dk_27 (dk_at dksX1_meet_0 0 rfl rfl)
theorem dX1_meet_1 : decode cX1_meet 1 = .ok (.invokestatic 191, 3) := dk_184 0 191 (dk_at dksX1_meet_0 1 rfl rfl)
theorem dX1_meet_4 : decode cX1_meet 4 = .ok (.ifCond .ne 7, 3) := dk_154 0 7 (dk_at dksX1_meet_0 4 rfl rfl)
theorem dX1_meet_7 : decode cX1_meet 7 = .ok (.ldc2_w 246, 3) := dk_20 0 246 (dk_at dksX1_meet_0 7 rfl rfl)
theorem dX1_meet_10 : decode cX1_meet 10 = .ok (.lreturn, 1) := dk_173 (dk_at dksX1_meet_0 10 rfl rfl)
theorem dX1_meet_11 : decode cX1_meet 11 = .ok (.iconst 2, 1) := dk_5 (dk_at dksX1_meet_0 11 rfl rfl)
theorem dX1_meet_12 : decode cX1_meet 12 = .ok (.newarray .long, 2) := dk_188_11 (dk_at dksX1_meet_0 12 rfl rfl)
theorem dX1_meet_14 : decode cX1_meet 14 = .ok (.astore_n 2, 1) := dk_77 (dk_at dksX1_meet_0 14 rfl rfl)
theorem dX1_meet_15 : decode cX1_meet 15 = .ok (.iload_n 1, 1) := dk_27 (dk_at dksX1_meet_0 15 rfl rfl)
theorem dX1_meet_16 : decode cX1_meet 16 = .ok (.aload_n 0, 1) := dk_42 (dk_at dksX1_meet_0 16 rfl rfl)
theorem dX1_meet_17 : decode cX1_meet 17 = .ok (.aload_n 2, 1) := dk_44 (dk_at dksX1_meet_0 17 rfl rfl)
theorem dX1_meet_18 : decode cX1_meet 18 = .ok (.invokedynamic 291, 5) := by decide +kernel
theorem dX1_meet_23 : decode cX1_meet 23 = .ok (.invokestatic 294, 3) := dk_184 1 38 (dk_at dksX1_meet_1 0 rfl rfl)
theorem dX1_meet_26 : decode cX1_meet 26 = .ok (.aload_n 0, 1) := dk_42 (dk_at dksX1_meet_1 3 rfl rfl)
theorem dX1_meet_27 : decode cX1_meet 27 = .ok (.aload_n 2, 1) := dk_44 (dk_at dksX1_meet_1 4 rfl rfl)
theorem dX1_meet_28 : decode cX1_meet 28 = .ok (.invokevirtual 44, 3) := dk_182 0 44 (dk_at dksX1_meet_1 5 rfl rfl)
theorem dX1_meet_31 : decode cX1_meet 31 = .ok (.lconst 0, 1) := dk_9 (dk_at dksX1_meet_1 8 rfl rfl)
theorem dX1_meet_32 : decode cX1_meet 32 = .ok (.aload_n 2, 1) := dk_44 (dk_at dksX1_meet_1 9 rfl rfl)
theorem dX1_meet_33 : decode cX1_meet 33 = .ok (.iconst 0, 1) := dk_3 (dk_at dksX1_meet_1 10 rfl rfl)
theorem dX1_meet_34 : decode cX1_meet 34 = .ok (.laload, 1) := dk_47 (dk_at dksX1_meet_1 11 rfl rfl)
theorem dX1_meet_35 : decode cX1_meet 35 = .ok (.invokestatic 273, 3) := dk_184 1 17 (dk_at dksX1_meet_1 12 rfl rfl)
theorem dX1_meet_38 : decode cX1_meet 38 = .ok (.lreturn, 1) := dk_173 (dk_at dksX1_meet_1 15 rfl rfl)
abbrev cX1_lambda_meet_5 : ByteArray := prog_1_method_107_code
def yX1_lambda_meet_5 : MethodName := ⟨RX1, "lambda$meet$5", "([JI)V"⟩
def dkwX1_lambda_meet_5_1 : List UInt8 := [28, 182, 0, 194, 182, 1, 13, 133, 105, 97, 80, 43, 4, 92, 47, 10, 97, 80, 177]
abbrev dktX1_lambda_meet_5_1 : List UInt8 := dkwX1_lambda_meet_5_1 ++ []
def dkwX1_lambda_meet_5_0 : List UInt8 := [28, 184, 0, 177, 5, 112, 4, 160, 0, 7, 4, 167, 0, 4, 2, 62, 43, 3, 92, 47, 29, 133, 42, 42]
abbrev dktX1_lambda_meet_5_0 : List UInt8 := dkwX1_lambda_meet_5_0 ++ dktX1_lambda_meet_5_1
theorem dksX1_lambda_meet_5_0 : cX1_lambda_meet_5.data.toList.drop 0 = dktX1_lambda_meet_5_0 := by decide +kernel
theorem dksX1_lambda_meet_5_1 : cX1_lambda_meet_5.data.toList.drop 24 = dktX1_lambda_meet_5_1 := dk_seg dksX1_lambda_meet_5_0 24 rfl rfl
theorem dX1_lambda_meet_5_0 : decode cX1_lambda_meet_5 0 = .ok (.iload_n 2, 1) := dk_28 (dk_at dksX1_lambda_meet_5_0 0 rfl rfl)
theorem dX1_lambda_meet_5_1 : decode cX1_lambda_meet_5 1 = .ok (.invokestatic 177, 3) := dk_184 0 177 (dk_at dksX1_lambda_meet_5_0 1 rfl rfl)
theorem dX1_lambda_meet_5_4 : decode cX1_lambda_meet_5 4 = .ok (.iconst 2, 1) := dk_5 (dk_at dksX1_lambda_meet_5_0 4 rfl rfl)
theorem dX1_lambda_meet_5_5 : decode cX1_lambda_meet_5 5 = .ok (.irem, 1) := dk_112 (dk_at dksX1_lambda_meet_5_0 5 rfl rfl)
theorem dX1_lambda_meet_5_6 : decode cX1_lambda_meet_5 6 = .ok (.iconst 1, 1) := dk_4 (dk_at dksX1_lambda_meet_5_0 6 rfl rfl)
theorem dX1_lambda_meet_5_7 : decode cX1_lambda_meet_5 7 = .ok (.if_icmp .ne 7, 3) := dk_160 0 7 (dk_at dksX1_lambda_meet_5_0 7 rfl rfl)
theorem dX1_lambda_meet_5_10 : decode cX1_lambda_meet_5 10 = .ok (.iconst 1, 1) := dk_4 (dk_at dksX1_lambda_meet_5_0 10 rfl rfl)
theorem dX1_lambda_meet_5_11 : decode cX1_lambda_meet_5 11 = .ok (.goto 4, 3) := dk_167 0 4 (dk_at dksX1_lambda_meet_5_0 11 rfl rfl)
theorem dX1_lambda_meet_5_14 : decode cX1_lambda_meet_5 14 = .ok (.iconst (-1), 1) := dk_2 (dk_at dksX1_lambda_meet_5_0 14 rfl rfl)
theorem dX1_lambda_meet_5_15 : decode cX1_lambda_meet_5 15 = .ok (.istore_n 3, 1) := dk_62 (dk_at dksX1_lambda_meet_5_0 15 rfl rfl)
theorem dX1_lambda_meet_5_16 : decode cX1_lambda_meet_5 16 = .ok (.aload_n 1, 1) := dk_43 (dk_at dksX1_lambda_meet_5_0 16 rfl rfl)
theorem dX1_lambda_meet_5_17 : decode cX1_lambda_meet_5 17 = .ok (.iconst 0, 1) := dk_3 (dk_at dksX1_lambda_meet_5_0 17 rfl rfl)
theorem dX1_lambda_meet_5_18 : decode cX1_lambda_meet_5 18 = .ok (.dup2, 1) := dk_92 (dk_at dksX1_lambda_meet_5_0 18 rfl rfl)
theorem dX1_lambda_meet_5_19 : decode cX1_lambda_meet_5 19 = .ok (.laload, 1) := dk_47 (dk_at dksX1_lambda_meet_5_0 19 rfl rfl)
theorem dX1_lambda_meet_5_20 : decode cX1_lambda_meet_5 20 = .ok (.iload_n 3, 1) := dk_29 (dk_at dksX1_lambda_meet_5_0 20 rfl rfl)
theorem dX1_lambda_meet_5_21 : decode cX1_lambda_meet_5 21 = .ok (.i2l, 1) := dk_133 (dk_at dksX1_lambda_meet_5_0 21 rfl rfl)
theorem dX1_lambda_meet_5_22 : decode cX1_lambda_meet_5 22 = .ok (.aload_n 0, 1) := dk_42 (dk_at dksX1_lambda_meet_5_0 22 rfl rfl)
theorem dX1_lambda_meet_5_23 : decode cX1_lambda_meet_5 23 = .ok (.aload_n 0, 1) := dk_42 (dk_at dksX1_lambda_meet_5_0 23 rfl rfl)
theorem dX1_lambda_meet_5_24 : decode cX1_lambda_meet_5 24 = .ok (.iload_n 2, 1) := dk_28 (dk_at dksX1_lambda_meet_5_1 0 rfl rfl)
theorem dX1_lambda_meet_5_25 : decode cX1_lambda_meet_5 25 = .ok (.invokevirtual 194, 3) := dk_182 0 194 (dk_at dksX1_lambda_meet_5_1 1 rfl rfl)
theorem dX1_lambda_meet_5_28 : decode cX1_lambda_meet_5 28 = .ok (.invokevirtual 269, 3) := dk_182 1 13 (dk_at dksX1_lambda_meet_5_1 4 rfl rfl)
theorem dX1_lambda_meet_5_31 : decode cX1_lambda_meet_5 31 = .ok (.i2l, 1) := dk_133 (dk_at dksX1_lambda_meet_5_1 7 rfl rfl)
theorem dX1_lambda_meet_5_32 : decode cX1_lambda_meet_5 32 = .ok (.lmul, 1) := dk_105 (dk_at dksX1_lambda_meet_5_1 8 rfl rfl)
theorem dX1_lambda_meet_5_33 : decode cX1_lambda_meet_5 33 = .ok (.ladd, 1) := dk_97 (dk_at dksX1_lambda_meet_5_1 9 rfl rfl)
theorem dX1_lambda_meet_5_34 : decode cX1_lambda_meet_5 34 = .ok (.lastore, 1) := dk_80 (dk_at dksX1_lambda_meet_5_1 10 rfl rfl)
theorem dX1_lambda_meet_5_35 : decode cX1_lambda_meet_5 35 = .ok (.aload_n 1, 1) := dk_43 (dk_at dksX1_lambda_meet_5_1 11 rfl rfl)
theorem dX1_lambda_meet_5_36 : decode cX1_lambda_meet_5 36 = .ok (.iconst 1, 1) := dk_4 (dk_at dksX1_lambda_meet_5_1 12 rfl rfl)
theorem dX1_lambda_meet_5_37 : decode cX1_lambda_meet_5 37 = .ok (.dup2, 1) := dk_92 (dk_at dksX1_lambda_meet_5_1 13 rfl rfl)
theorem dX1_lambda_meet_5_38 : decode cX1_lambda_meet_5 38 = .ok (.laload, 1) := dk_47 (dk_at dksX1_lambda_meet_5_1 14 rfl rfl)
theorem dX1_lambda_meet_5_39 : decode cX1_lambda_meet_5 39 = .ok (.lconst 1, 1) := dk_10 (dk_at dksX1_lambda_meet_5_1 15 rfl rfl)
theorem dX1_lambda_meet_5_40 : decode cX1_lambda_meet_5 40 = .ok (.ladd, 1) := dk_97 (dk_at dksX1_lambda_meet_5_1 16 rfl rfl)
theorem dX1_lambda_meet_5_41 : decode cX1_lambda_meet_5 41 = .ok (.lastore, 1) := dk_80 (dk_at dksX1_lambda_meet_5_1 17 rfl rfl)
theorem dX1_lambda_meet_5_42 : decode cX1_lambda_meet_5 42 = .ok (.return_, 1) := dk_177 (dk_at dksX1_lambda_meet_5_1 18 rfl rfl)
abbrev cX1_eachPart : ByteArray := prog_1_method_68_code
def yX1_eachPart : MethodName := ⟨RX1, "eachPart", "(ILDistinctMarks$Parted;)V"⟩
def dkwX1_eachPart_1 : List UInt8 := [132, 2, 1, 167, 255, 233, 177]
abbrev dktX1_eachPart_1 : List UInt8 := dkwX1_eachPart_1 ++ []
def dkwX1_eachPart_0 : List UInt8 := [4, 61, 28, 26, 163, 0, 24, 28, 26, 2, 130, 126, 154, 0, 10, 43, 28, 185, 1, 30, 2, 0]
abbrev dktX1_eachPart_0 : List UInt8 := dkwX1_eachPart_0 ++ dktX1_eachPart_1
theorem dksX1_eachPart_0 : cX1_eachPart.data.toList.drop 0 = dktX1_eachPart_0 := by decide +kernel
theorem dksX1_eachPart_1 : cX1_eachPart.data.toList.drop 22 = dktX1_eachPart_1 := dk_seg dksX1_eachPart_0 22 rfl rfl
theorem dX1_eachPart_0 : decode cX1_eachPart 0 = .ok (.iconst 1, 1) := dk_4 (dk_at dksX1_eachPart_0 0 rfl rfl)
theorem dX1_eachPart_1 : decode cX1_eachPart 1 = .ok (.istore_n 2, 1) := dk_61 (dk_at dksX1_eachPart_0 1 rfl rfl)
theorem dX1_eachPart_2 : decode cX1_eachPart 2 = .ok (.iload_n 2, 1) := dk_28 (dk_at dksX1_eachPart_0 2 rfl rfl)
theorem dX1_eachPart_3 : decode cX1_eachPart 3 = .ok (.iload_n 0, 1) := dk_26 (dk_at dksX1_eachPart_0 3 rfl rfl)
theorem dX1_eachPart_4 : decode cX1_eachPart 4 = .ok (.if_icmp .gt 24, 3) := dk_163 0 24 (dk_at dksX1_eachPart_0 4 rfl rfl)
theorem dX1_eachPart_7 : decode cX1_eachPart 7 = .ok (.iload_n 2, 1) := dk_28 (dk_at dksX1_eachPart_0 7 rfl rfl)
theorem dX1_eachPart_8 : decode cX1_eachPart 8 = .ok (.iload_n 0, 1) := dk_26 (dk_at dksX1_eachPart_0 8 rfl rfl)
theorem dX1_eachPart_9 : decode cX1_eachPart 9 = .ok (.iconst (-1), 1) := dk_2 (dk_at dksX1_eachPart_0 9 rfl rfl)
theorem dX1_eachPart_10 : decode cX1_eachPart 10 = .ok (.ixor, 1) := dk_130 (dk_at dksX1_eachPart_0 10 rfl rfl)
theorem dX1_eachPart_11 : decode cX1_eachPart 11 = .ok (.iand, 1) := dk_126 (dk_at dksX1_eachPart_0 11 rfl rfl)
theorem dX1_eachPart_12 : decode cX1_eachPart 12 = .ok (.ifCond .ne 10, 3) := dk_154 0 10 (dk_at dksX1_eachPart_0 12 rfl rfl)
theorem dX1_eachPart_15 : decode cX1_eachPart 15 = .ok (.aload_n 1, 1) := dk_43 (dk_at dksX1_eachPart_0 15 rfl rfl)
theorem dX1_eachPart_16 : decode cX1_eachPart 16 = .ok (.iload_n 2, 1) := dk_28 (dk_at dksX1_eachPart_0 16 rfl rfl)
theorem dX1_eachPart_17 : decode cX1_eachPart 17 = .ok (.invokeinterface 286 2, 5) := by decide +kernel
theorem dX1_eachPart_22 : decode cX1_eachPart 22 = .ok (.iinc 2 1, 3) := dk_132 2 1 (dk_at dksX1_eachPart_1 0 rfl rfl)
theorem dX1_eachPart_25 : decode cX1_eachPart 25 = .ok (.goto (-23), 3) := dk_167 255 233 (dk_at dksX1_eachPart_1 3 rfl rfl)
theorem dX1_eachPart_28 : decode cX1_eachPart 28 = .ok (.return_, 1) := dk_177 (dk_at dksX1_eachPart_1 6 rfl rfl)
abbrev cX1_unlike : ByteArray := prog_1_method_71_code
def yX1_unlike : MethodName := ⟨RX1, "unlike", "(II)I"⟩
def dkwX1_unlike_6 : List UInt8 := [5, 188, 11, 89, 3, 21, 5, 133, 80, 89, 4, 21, 6, 133, 80, 182, 0, 44, 21, 5, 21, 6, 96, 172]
abbrev dktX1_unlike_6 : List UInt8 := dkwX1_unlike_6 ++ []
def dkwX1_unlike_5 : List UInt8 := [180, 0, 204, 21, 7, 51, 162, 0, 7, 4, 167, 0, 4, 3, 96, 54, 6, 132, 7, 1, 167, 255, 188, 42]
abbrev dktX1_unlike_5 : List UInt8 := dkwX1_unlike_5 ++ dktX1_unlike_6
def dkwX1_unlike_4 : List UInt8 := [164, 0, 7, 4, 167, 0, 4, 3, 96, 54, 5, 21, 6, 45, 180, 0, 204, 21, 7, 51, 25, 4]
abbrev dktX1_unlike_4 : List UInt8 := dkwX1_unlike_4 ++ dktX1_unlike_5
def dkwX1_unlike_3 : List UInt8 := [45, 182, 0, 98, 162, 0, 65, 21, 5, 45, 180, 0, 204, 21, 7, 51, 25, 4, 180, 0, 204, 21, 7, 51]
abbrev dktX1_unlike_3 : List UInt8 := dkwX1_unlike_3 ++ dktX1_unlike_4
def dkwX1_unlike_2 : List UInt8 := [180, 0, 71, 27, 50, 180, 0, 165, 182, 1, 42, 58, 4, 3, 54, 5, 3, 54, 6, 3, 54, 7, 21, 7]
abbrev dktX1_unlike_2 : List UInt8 := dkwX1_unlike_2 ++ dktX1_unlike_3
def dkwX1_unlike_1 : List UInt8 := [27, 50, 42, 180, 0, 71, 28, 50, 180, 0, 165, 182, 1, 42, 78, 42, 42, 180, 0, 71, 28, 50, 42]
abbrev dktX1_unlike_1 : List UInt8 := dkwX1_unlike_1 ++ dktX1_unlike_2
def dkwX1_unlike_0 : List UInt8 := [5, 188, 10, 89, 3, 27, 79, 89, 4, 28, 79, 184, 0, 92, 154, 0, 5, 2, 172, 42, 42, 180, 0, 71]
abbrev dktX1_unlike_0 : List UInt8 := dkwX1_unlike_0 ++ dktX1_unlike_1
theorem dksX1_unlike_0 : cX1_unlike.data.toList.drop 0 = dktX1_unlike_0 := by decide +kernel
theorem dksX1_unlike_1 : cX1_unlike.data.toList.drop 24 = dktX1_unlike_1 := dk_seg dksX1_unlike_0 24 rfl rfl
theorem dksX1_unlike_2 : cX1_unlike.data.toList.drop 47 = dktX1_unlike_2 := dk_seg dksX1_unlike_1 23 rfl rfl
theorem dksX1_unlike_3 : cX1_unlike.data.toList.drop 71 = dktX1_unlike_3 := dk_seg dksX1_unlike_2 24 rfl rfl
theorem dksX1_unlike_4 : cX1_unlike.data.toList.drop 95 = dktX1_unlike_4 := dk_seg dksX1_unlike_3 24 rfl rfl
theorem dksX1_unlike_5 : cX1_unlike.data.toList.drop 117 = dktX1_unlike_5 := dk_seg dksX1_unlike_4 22 rfl rfl
theorem dksX1_unlike_6 : cX1_unlike.data.toList.drop 141 = dktX1_unlike_6 := dk_seg dksX1_unlike_5 24 rfl rfl
theorem dX1_unlike_0 : decode cX1_unlike 0 = .ok (.iconst 2, 1) := dk_5 (dk_at dksX1_unlike_0 0 rfl rfl)
theorem dX1_unlike_1 : decode cX1_unlike 1 = .ok (.newarray .int, 2) := dk_188_10 (dk_at dksX1_unlike_0 1 rfl rfl)
theorem dX1_unlike_3 : decode cX1_unlike 3 = .ok (.dup, 1) := dk_89 (dk_at dksX1_unlike_0 3 rfl rfl)
theorem dX1_unlike_4 : decode cX1_unlike 4 = .ok (.iconst 0, 1) := dk_3 (dk_at dksX1_unlike_0 4 rfl rfl)
theorem dX1_unlike_5 : decode cX1_unlike 5 = .ok (.iload_n 1, 1) := dk_27 (dk_at dksX1_unlike_0 5 rfl rfl)
theorem dX1_unlike_6 : decode cX1_unlike 6 = .ok (.iastore, 1) := dk_79 (dk_at dksX1_unlike_0 6 rfl rfl)
theorem dX1_unlike_7 : decode cX1_unlike 7 = .ok (.dup, 1) := dk_89 (dk_at dksX1_unlike_0 7 rfl rfl)
theorem dX1_unlike_8 : decode cX1_unlike 8 = .ok (.iconst 1, 1) := dk_4 (dk_at dksX1_unlike_0 8 rfl rfl)
theorem dX1_unlike_9 : decode cX1_unlike 9 = .ok (.iload_n 2, 1) := dk_28 (dk_at dksX1_unlike_0 9 rfl rfl)
theorem dX1_unlike_10 : decode cX1_unlike 10 = .ok (.iastore, 1) := dk_79 (dk_at dksX1_unlike_0 10 rfl rfl)
theorem dX1_unlike_11 : decode cX1_unlike 11 = .ok (.invokestatic 92, 3) := dk_184 0 92 (dk_at dksX1_unlike_0 11 rfl rfl)
theorem dX1_unlike_14 : decode cX1_unlike 14 = .ok (.ifCond .ne 5, 3) := dk_154 0 5 (dk_at dksX1_unlike_0 14 rfl rfl)
theorem dX1_unlike_17 : decode cX1_unlike 17 = .ok (.iconst (-1), 1) := dk_2 (dk_at dksX1_unlike_0 17 rfl rfl)
theorem dX1_unlike_18 : decode cX1_unlike 18 = .ok (.ireturn, 1) := dk_172 (dk_at dksX1_unlike_0 18 rfl rfl)
theorem dX1_unlike_19 : decode cX1_unlike 19 = .ok (.aload_n 0, 1) := dk_42 (dk_at dksX1_unlike_0 19 rfl rfl)
theorem dX1_unlike_20 : decode cX1_unlike 20 = .ok (.aload_n 0, 1) := dk_42 (dk_at dksX1_unlike_0 20 rfl rfl)
theorem dX1_unlike_21 : decode cX1_unlike 21 = .ok (.getfield 71, 3) := dk_180 0 71 (dk_at dksX1_unlike_0 21 rfl rfl)
theorem dX1_unlike_24 : decode cX1_unlike 24 = .ok (.iload_n 1, 1) := dk_27 (dk_at dksX1_unlike_1 0 rfl rfl)
theorem dX1_unlike_25 : decode cX1_unlike 25 = .ok (.aaload, 1) := dk_50 (dk_at dksX1_unlike_1 1 rfl rfl)
theorem dX1_unlike_26 : decode cX1_unlike 26 = .ok (.aload_n 0, 1) := dk_42 (dk_at dksX1_unlike_1 2 rfl rfl)
theorem dX1_unlike_27 : decode cX1_unlike 27 = .ok (.getfield 71, 3) := dk_180 0 71 (dk_at dksX1_unlike_1 3 rfl rfl)
theorem dX1_unlike_30 : decode cX1_unlike 30 = .ok (.iload_n 2, 1) := dk_28 (dk_at dksX1_unlike_1 6 rfl rfl)
theorem dX1_unlike_31 : decode cX1_unlike 31 = .ok (.aaload, 1) := dk_50 (dk_at dksX1_unlike_1 7 rfl rfl)
theorem dX1_unlike_32 : decode cX1_unlike 32 = .ok (.getfield 165, 3) := dk_180 0 165 (dk_at dksX1_unlike_1 8 rfl rfl)
theorem dX1_unlike_35 : decode cX1_unlike 35 = .ok (.invokevirtual 298, 3) := dk_182 1 42 (dk_at dksX1_unlike_1 11 rfl rfl)
theorem dX1_unlike_38 : decode cX1_unlike 38 = .ok (.astore_n 3, 1) := dk_78 (dk_at dksX1_unlike_1 14 rfl rfl)
theorem dX1_unlike_39 : decode cX1_unlike 39 = .ok (.aload_n 0, 1) := dk_42 (dk_at dksX1_unlike_1 15 rfl rfl)
theorem dX1_unlike_40 : decode cX1_unlike 40 = .ok (.aload_n 0, 1) := dk_42 (dk_at dksX1_unlike_1 16 rfl rfl)
theorem dX1_unlike_41 : decode cX1_unlike 41 = .ok (.getfield 71, 3) := dk_180 0 71 (dk_at dksX1_unlike_1 17 rfl rfl)
theorem dX1_unlike_44 : decode cX1_unlike 44 = .ok (.iload_n 2, 1) := dk_28 (dk_at dksX1_unlike_1 20 rfl rfl)
theorem dX1_unlike_45 : decode cX1_unlike 45 = .ok (.aaload, 1) := dk_50 (dk_at dksX1_unlike_1 21 rfl rfl)
theorem dX1_unlike_46 : decode cX1_unlike 46 = .ok (.aload_n 0, 1) := dk_42 (dk_at dksX1_unlike_1 22 rfl rfl)
theorem dX1_unlike_47 : decode cX1_unlike 47 = .ok (.getfield 71, 3) := dk_180 0 71 (dk_at dksX1_unlike_2 0 rfl rfl)
theorem dX1_unlike_50 : decode cX1_unlike 50 = .ok (.iload_n 1, 1) := dk_27 (dk_at dksX1_unlike_2 3 rfl rfl)
theorem dX1_unlike_51 : decode cX1_unlike 51 = .ok (.aaload, 1) := dk_50 (dk_at dksX1_unlike_2 4 rfl rfl)
theorem dX1_unlike_52 : decode cX1_unlike 52 = .ok (.getfield 165, 3) := dk_180 0 165 (dk_at dksX1_unlike_2 5 rfl rfl)
theorem dX1_unlike_55 : decode cX1_unlike 55 = .ok (.invokevirtual 298, 3) := dk_182 1 42 (dk_at dksX1_unlike_2 8 rfl rfl)
theorem dX1_unlike_58 : decode cX1_unlike 58 = .ok (.astore 4, 2) := dk_58 4 (dk_at dksX1_unlike_2 11 rfl rfl)
theorem dX1_unlike_60 : decode cX1_unlike 60 = .ok (.iconst 0, 1) := dk_3 (dk_at dksX1_unlike_2 13 rfl rfl)
theorem dX1_unlike_61 : decode cX1_unlike 61 = .ok (.istore 5, 2) := dk_54 5 (dk_at dksX1_unlike_2 14 rfl rfl)
theorem dX1_unlike_63 : decode cX1_unlike 63 = .ok (.iconst 0, 1) := dk_3 (dk_at dksX1_unlike_2 16 rfl rfl)
theorem dX1_unlike_64 : decode cX1_unlike 64 = .ok (.istore 6, 2) := dk_54 6 (dk_at dksX1_unlike_2 17 rfl rfl)
theorem dX1_unlike_66 : decode cX1_unlike 66 = .ok (.iconst 0, 1) := dk_3 (dk_at dksX1_unlike_2 19 rfl rfl)
theorem dX1_unlike_67 : decode cX1_unlike 67 = .ok (.istore 7, 2) := dk_54 7 (dk_at dksX1_unlike_2 20 rfl rfl)
theorem dX1_unlike_69 : decode cX1_unlike 69 = .ok (.iload 7, 2) := dk_21 7 (dk_at dksX1_unlike_2 22 rfl rfl)
theorem dX1_unlike_71 : decode cX1_unlike 71 = .ok (.aload_n 3, 1) := dk_45 (dk_at dksX1_unlike_3 0 rfl rfl)
theorem dX1_unlike_72 : decode cX1_unlike 72 = .ok (.invokevirtual 98, 3) := dk_182 0 98 (dk_at dksX1_unlike_3 1 rfl rfl)
theorem dX1_unlike_75 : decode cX1_unlike 75 = .ok (.if_icmp .ge 65, 3) := dk_162 0 65 (dk_at dksX1_unlike_3 4 rfl rfl)
theorem dX1_unlike_78 : decode cX1_unlike 78 = .ok (.iload 5, 2) := dk_21 5 (dk_at dksX1_unlike_3 7 rfl rfl)
theorem dX1_unlike_80 : decode cX1_unlike 80 = .ok (.aload_n 3, 1) := dk_45 (dk_at dksX1_unlike_3 9 rfl rfl)
theorem dX1_unlike_81 : decode cX1_unlike 81 = .ok (.getfield 204, 3) := dk_180 0 204 (dk_at dksX1_unlike_3 10 rfl rfl)
theorem dX1_unlike_84 : decode cX1_unlike 84 = .ok (.iload 7, 2) := dk_21 7 (dk_at dksX1_unlike_3 13 rfl rfl)
theorem dX1_unlike_86 : decode cX1_unlike 86 = .ok (.baload, 1) := dk_51 (dk_at dksX1_unlike_3 15 rfl rfl)
theorem dX1_unlike_87 : decode cX1_unlike 87 = .ok (.aload 4, 2) := dk_25 4 (dk_at dksX1_unlike_3 16 rfl rfl)
theorem dX1_unlike_89 : decode cX1_unlike 89 = .ok (.getfield 204, 3) := dk_180 0 204 (dk_at dksX1_unlike_3 18 rfl rfl)
theorem dX1_unlike_92 : decode cX1_unlike 92 = .ok (.iload 7, 2) := dk_21 7 (dk_at dksX1_unlike_3 21 rfl rfl)
theorem dX1_unlike_94 : decode cX1_unlike 94 = .ok (.baload, 1) := dk_51 (dk_at dksX1_unlike_3 23 rfl rfl)
theorem dX1_unlike_95 : decode cX1_unlike 95 = .ok (.if_icmp .le 7, 3) := dk_164 0 7 (dk_at dksX1_unlike_4 0 rfl rfl)
theorem dX1_unlike_98 : decode cX1_unlike 98 = .ok (.iconst 1, 1) := dk_4 (dk_at dksX1_unlike_4 3 rfl rfl)
theorem dX1_unlike_99 : decode cX1_unlike 99 = .ok (.goto 4, 3) := dk_167 0 4 (dk_at dksX1_unlike_4 4 rfl rfl)
theorem dX1_unlike_102 : decode cX1_unlike 102 = .ok (.iconst 0, 1) := dk_3 (dk_at dksX1_unlike_4 7 rfl rfl)
theorem dX1_unlike_103 : decode cX1_unlike 103 = .ok (.iadd, 1) := dk_96 (dk_at dksX1_unlike_4 8 rfl rfl)
theorem dX1_unlike_104 : decode cX1_unlike 104 = .ok (.istore 5, 2) := dk_54 5 (dk_at dksX1_unlike_4 9 rfl rfl)
theorem dX1_unlike_106 : decode cX1_unlike 106 = .ok (.iload 6, 2) := dk_21 6 (dk_at dksX1_unlike_4 11 rfl rfl)
theorem dX1_unlike_108 : decode cX1_unlike 108 = .ok (.aload_n 3, 1) := dk_45 (dk_at dksX1_unlike_4 13 rfl rfl)
theorem dX1_unlike_109 : decode cX1_unlike 109 = .ok (.getfield 204, 3) := dk_180 0 204 (dk_at dksX1_unlike_4 14 rfl rfl)
theorem dX1_unlike_112 : decode cX1_unlike 112 = .ok (.iload 7, 2) := dk_21 7 (dk_at dksX1_unlike_4 17 rfl rfl)
theorem dX1_unlike_114 : decode cX1_unlike 114 = .ok (.baload, 1) := dk_51 (dk_at dksX1_unlike_4 19 rfl rfl)
theorem dX1_unlike_115 : decode cX1_unlike 115 = .ok (.aload 4, 2) := dk_25 4 (dk_at dksX1_unlike_4 20 rfl rfl)
theorem dX1_unlike_117 : decode cX1_unlike 117 = .ok (.getfield 204, 3) := dk_180 0 204 (dk_at dksX1_unlike_5 0 rfl rfl)
theorem dX1_unlike_120 : decode cX1_unlike 120 = .ok (.iload 7, 2) := dk_21 7 (dk_at dksX1_unlike_5 3 rfl rfl)
theorem dX1_unlike_122 : decode cX1_unlike 122 = .ok (.baload, 1) := dk_51 (dk_at dksX1_unlike_5 5 rfl rfl)
theorem dX1_unlike_123 : decode cX1_unlike 123 = .ok (.if_icmp .ge 7, 3) := dk_162 0 7 (dk_at dksX1_unlike_5 6 rfl rfl)
theorem dX1_unlike_126 : decode cX1_unlike 126 = .ok (.iconst 1, 1) := dk_4 (dk_at dksX1_unlike_5 9 rfl rfl)
theorem dX1_unlike_127 : decode cX1_unlike 127 = .ok (.goto 4, 3) := dk_167 0 4 (dk_at dksX1_unlike_5 10 rfl rfl)
theorem dX1_unlike_130 : decode cX1_unlike 130 = .ok (.iconst 0, 1) := dk_3 (dk_at dksX1_unlike_5 13 rfl rfl)
theorem dX1_unlike_131 : decode cX1_unlike 131 = .ok (.iadd, 1) := dk_96 (dk_at dksX1_unlike_5 14 rfl rfl)
theorem dX1_unlike_132 : decode cX1_unlike 132 = .ok (.istore 6, 2) := dk_54 6 (dk_at dksX1_unlike_5 15 rfl rfl)
theorem dX1_unlike_134 : decode cX1_unlike 134 = .ok (.iinc 7 1, 3) := dk_132 7 1 (dk_at dksX1_unlike_5 17 rfl rfl)
theorem dX1_unlike_137 : decode cX1_unlike 137 = .ok (.goto (-68), 3) := dk_167 255 188 (dk_at dksX1_unlike_5 20 rfl rfl)
theorem dX1_unlike_140 : decode cX1_unlike 140 = .ok (.aload_n 0, 1) := dk_42 (dk_at dksX1_unlike_5 23 rfl rfl)
theorem dX1_unlike_141 : decode cX1_unlike 141 = .ok (.iconst 2, 1) := dk_5 (dk_at dksX1_unlike_6 0 rfl rfl)
theorem dX1_unlike_142 : decode cX1_unlike 142 = .ok (.newarray .long, 2) := dk_188_11 (dk_at dksX1_unlike_6 1 rfl rfl)
theorem dX1_unlike_144 : decode cX1_unlike 144 = .ok (.dup, 1) := dk_89 (dk_at dksX1_unlike_6 3 rfl rfl)
theorem dX1_unlike_145 : decode cX1_unlike 145 = .ok (.iconst 0, 1) := dk_3 (dk_at dksX1_unlike_6 4 rfl rfl)
theorem dX1_unlike_146 : decode cX1_unlike 146 = .ok (.iload 5, 2) := dk_21 5 (dk_at dksX1_unlike_6 5 rfl rfl)
theorem dX1_unlike_148 : decode cX1_unlike 148 = .ok (.i2l, 1) := dk_133 (dk_at dksX1_unlike_6 7 rfl rfl)
theorem dX1_unlike_149 : decode cX1_unlike 149 = .ok (.lastore, 1) := dk_80 (dk_at dksX1_unlike_6 8 rfl rfl)
theorem dX1_unlike_150 : decode cX1_unlike 150 = .ok (.dup, 1) := dk_89 (dk_at dksX1_unlike_6 9 rfl rfl)
theorem dX1_unlike_151 : decode cX1_unlike 151 = .ok (.iconst 1, 1) := dk_4 (dk_at dksX1_unlike_6 10 rfl rfl)
theorem dX1_unlike_152 : decode cX1_unlike 152 = .ok (.iload 6, 2) := dk_21 6 (dk_at dksX1_unlike_6 11 rfl rfl)
theorem dX1_unlike_154 : decode cX1_unlike 154 = .ok (.i2l, 1) := dk_133 (dk_at dksX1_unlike_6 13 rfl rfl)
theorem dX1_unlike_155 : decode cX1_unlike 155 = .ok (.lastore, 1) := dk_80 (dk_at dksX1_unlike_6 14 rfl rfl)
theorem dX1_unlike_156 : decode cX1_unlike 156 = .ok (.invokevirtual 44, 3) := dk_182 0 44 (dk_at dksX1_unlike_6 15 rfl rfl)
theorem dX1_unlike_159 : decode cX1_unlike 159 = .ok (.iload 5, 2) := dk_21 5 (dk_at dksX1_unlike_6 18 rfl rfl)
theorem dX1_unlike_161 : decode cX1_unlike 161 = .ok (.iload 6, 2) := dk_21 6 (dk_at dksX1_unlike_6 20 rfl rfl)
theorem dX1_unlike_163 : decode cX1_unlike 163 = .ok (.iadd, 1) := dk_96 (dk_at dksX1_unlike_6 22 rfl rfl)
theorem dX1_unlike_164 : decode cX1_unlike 164 = .ok (.ireturn, 1) := dk_172 (dk_at dksX1_unlike_6 23 rfl rfl)
abbrev cX1_foldedTo : ByteArray := prog_1_method_70_code
def yX1_foldedTo : MethodName := ⟨RX1, "foldedTo", "(LDistinctMarks$Counter;I)LDistinctMarks$Counter;"⟩
def dkwX1_foldedTo_0 : List UInt8 := [187, 0, 69, 89, 42, 43, 28, 43, 180, 0, 165, 184, 0, 28, 183, 0, 168, 176]
abbrev dktX1_foldedTo_0 : List UInt8 := dkwX1_foldedTo_0 ++ []
theorem dksX1_foldedTo_0 : cX1_foldedTo.data.toList.drop 0 = dktX1_foldedTo_0 := by decide +kernel
theorem dX1_foldedTo_0 : decode cX1_foldedTo 0 = .ok (.new 69, 3) := dk_187 0 69 (dk_at dksX1_foldedTo_0 0 rfl rfl)
theorem dX1_foldedTo_3 : decode cX1_foldedTo 3 = .ok (.dup, 1) := dk_89 (dk_at dksX1_foldedTo_0 3 rfl rfl)
theorem dX1_foldedTo_4 : decode cX1_foldedTo 4 = .ok (.aload_n 0, 1) := dk_42 (dk_at dksX1_foldedTo_0 4 rfl rfl)
theorem dX1_foldedTo_5 : decode cX1_foldedTo 5 = .ok (.aload_n 1, 1) := dk_43 (dk_at dksX1_foldedTo_0 5 rfl rfl)
theorem dX1_foldedTo_6 : decode cX1_foldedTo 6 = .ok (.iload_n 2, 1) := dk_28 (dk_at dksX1_foldedTo_0 6 rfl rfl)
theorem dX1_foldedTo_7 : decode cX1_foldedTo 7 = .ok (.aload_n 1, 1) := dk_43 (dk_at dksX1_foldedTo_0 7 rfl rfl)
theorem dX1_foldedTo_8 : decode cX1_foldedTo 8 = .ok (.getfield 165, 3) := dk_180 0 165 (dk_at dksX1_foldedTo_0 8 rfl rfl)
theorem dX1_foldedTo_11 : decode cX1_foldedTo 11 = .ok (.invokestatic 28, 3) := dk_184 0 28 (dk_at dksX1_foldedTo_0 11 rfl rfl)
theorem dX1_foldedTo_14 : decode cX1_foldedTo 14 = .ok (.invokespecial 168, 3) := dk_183 0 168 (dk_at dksX1_foldedTo_0 14 rfl rfl)
theorem dX1_foldedTo_17 : decode cX1_foldedTo 17 = .ok (.areturn, 1) := dk_176 (dk_at dksX1_foldedTo_0 17 rfl rfl)
abbrev cX1_apart : ByteArray := prog_1_method_72_code
def yX1_apart : MethodName := ⟨RX1, "apart", "(II)I"⟩
def dkwX1_apart_6 : List UInt8 := [21, 6, 133, 80, 89, 4, 21, 7, 133, 80, 182, 0, 44, 21, 5, 172]
abbrev dktX1_apart_6 : List UInt8 := dkwX1_apart_6 ++ []
def dkwX1_apart_5 : List UInt8 := [167, 0, 11, 21, 9, 54, 6, 21, 8, 54, 7, 132, 8, 1, 167, 255, 198, 42, 5, 188, 11, 89, 3]
abbrev dktX1_apart_5 : List UInt8 := dkwX1_apart_5 ++ dktX1_apart_6
def dkwX1_apart_4 : List UInt8 := [21, 8, 51, 100, 184, 1, 46, 54, 9, 21, 5, 21, 9, 96, 54, 5, 21, 9, 21, 6, 163, 0, 6]
abbrev dktX1_apart_4 : List UInt8 := dkwX1_apart_4 ++ dktX1_apart_5
def dkwX1_apart_3 : List UInt8 := [54, 8, 21, 8, 45, 182, 0, 98, 162, 0, 55, 45, 180, 0, 204, 21, 8, 51, 25, 4, 180, 0, 204]
abbrev dktX1_apart_3 : List UInt8 := dkwX1_apart_3 ++ dktX1_apart_4
def dkwX1_apart_2 : List UInt8 := [180, 0, 71, 27, 50, 180, 0, 165, 182, 1, 42, 58, 4, 3, 54, 5, 3, 54, 6, 3, 54, 7, 3]
abbrev dktX1_apart_2 : List UInt8 := dkwX1_apart_2 ++ dktX1_apart_3
def dkwX1_apart_1 : List UInt8 := [27, 50, 42, 180, 0, 71, 28, 50, 180, 0, 165, 182, 1, 42, 78, 42, 42, 180, 0, 71, 28, 50, 42]
abbrev dktX1_apart_1 : List UInt8 := dkwX1_apart_1 ++ dktX1_apart_2
def dkwX1_apart_0 : List UInt8 := [5, 188, 10, 89, 3, 27, 79, 89, 4, 28, 79, 184, 0, 92, 154, 0, 5, 2, 172, 42, 42, 180, 0, 71]
abbrev dktX1_apart_0 : List UInt8 := dkwX1_apart_0 ++ dktX1_apart_1
theorem dksX1_apart_0 : cX1_apart.data.toList.drop 0 = dktX1_apart_0 := by decide +kernel
theorem dksX1_apart_1 : cX1_apart.data.toList.drop 24 = dktX1_apart_1 := dk_seg dksX1_apart_0 24 rfl rfl
theorem dksX1_apart_2 : cX1_apart.data.toList.drop 47 = dktX1_apart_2 := dk_seg dksX1_apart_1 23 rfl rfl
theorem dksX1_apart_3 : cX1_apart.data.toList.drop 70 = dktX1_apart_3 := dk_seg dksX1_apart_2 23 rfl rfl
theorem dksX1_apart_4 : cX1_apart.data.toList.drop 93 = dktX1_apart_4 := dk_seg dksX1_apart_3 23 rfl rfl
theorem dksX1_apart_5 : cX1_apart.data.toList.drop 116 = dktX1_apart_5 := dk_seg dksX1_apart_4 23 rfl rfl
theorem dksX1_apart_6 : cX1_apart.data.toList.drop 139 = dktX1_apart_6 := dk_seg dksX1_apart_5 23 rfl rfl
theorem dX1_apart_0 : decode cX1_apart 0 = .ok (.iconst 2, 1) := dk_5 (dk_at dksX1_apart_0 0 rfl rfl)
theorem dX1_apart_1 : decode cX1_apart 1 = .ok (.newarray .int, 2) := dk_188_10 (dk_at dksX1_apart_0 1 rfl rfl)
theorem dX1_apart_3 : decode cX1_apart 3 = .ok (.dup, 1) := dk_89 (dk_at dksX1_apart_0 3 rfl rfl)
theorem dX1_apart_4 : decode cX1_apart 4 = .ok (.iconst 0, 1) := dk_3 (dk_at dksX1_apart_0 4 rfl rfl)
theorem dX1_apart_5 : decode cX1_apart 5 = .ok (.iload_n 1, 1) := dk_27 (dk_at dksX1_apart_0 5 rfl rfl)
theorem dX1_apart_6 : decode cX1_apart 6 = .ok (.iastore, 1) := dk_79 (dk_at dksX1_apart_0 6 rfl rfl)
theorem dX1_apart_7 : decode cX1_apart 7 = .ok (.dup, 1) := dk_89 (dk_at dksX1_apart_0 7 rfl rfl)
theorem dX1_apart_8 : decode cX1_apart 8 = .ok (.iconst 1, 1) := dk_4 (dk_at dksX1_apart_0 8 rfl rfl)
theorem dX1_apart_9 : decode cX1_apart 9 = .ok (.iload_n 2, 1) := dk_28 (dk_at dksX1_apart_0 9 rfl rfl)
theorem dX1_apart_10 : decode cX1_apart 10 = .ok (.iastore, 1) := dk_79 (dk_at dksX1_apart_0 10 rfl rfl)
theorem dX1_apart_11 : decode cX1_apart 11 = .ok (.invokestatic 92, 3) := dk_184 0 92 (dk_at dksX1_apart_0 11 rfl rfl)
theorem dX1_apart_14 : decode cX1_apart 14 = .ok (.ifCond .ne 5, 3) := dk_154 0 5 (dk_at dksX1_apart_0 14 rfl rfl)
theorem dX1_apart_17 : decode cX1_apart 17 = .ok (.iconst (-1), 1) := dk_2 (dk_at dksX1_apart_0 17 rfl rfl)
theorem dX1_apart_18 : decode cX1_apart 18 = .ok (.ireturn, 1) := dk_172 (dk_at dksX1_apart_0 18 rfl rfl)
theorem dX1_apart_19 : decode cX1_apart 19 = .ok (.aload_n 0, 1) := dk_42 (dk_at dksX1_apart_0 19 rfl rfl)
theorem dX1_apart_20 : decode cX1_apart 20 = .ok (.aload_n 0, 1) := dk_42 (dk_at dksX1_apart_0 20 rfl rfl)
theorem dX1_apart_21 : decode cX1_apart 21 = .ok (.getfield 71, 3) := dk_180 0 71 (dk_at dksX1_apart_0 21 rfl rfl)
theorem dX1_apart_24 : decode cX1_apart 24 = .ok (.iload_n 1, 1) := dk_27 (dk_at dksX1_apart_1 0 rfl rfl)
theorem dX1_apart_25 : decode cX1_apart 25 = .ok (.aaload, 1) := dk_50 (dk_at dksX1_apart_1 1 rfl rfl)
theorem dX1_apart_26 : decode cX1_apart 26 = .ok (.aload_n 0, 1) := dk_42 (dk_at dksX1_apart_1 2 rfl rfl)
theorem dX1_apart_27 : decode cX1_apart 27 = .ok (.getfield 71, 3) := dk_180 0 71 (dk_at dksX1_apart_1 3 rfl rfl)
theorem dX1_apart_30 : decode cX1_apart 30 = .ok (.iload_n 2, 1) := dk_28 (dk_at dksX1_apart_1 6 rfl rfl)
theorem dX1_apart_31 : decode cX1_apart 31 = .ok (.aaload, 1) := dk_50 (dk_at dksX1_apart_1 7 rfl rfl)
theorem dX1_apart_32 : decode cX1_apart 32 = .ok (.getfield 165, 3) := dk_180 0 165 (dk_at dksX1_apart_1 8 rfl rfl)
theorem dX1_apart_35 : decode cX1_apart 35 = .ok (.invokevirtual 298, 3) := dk_182 1 42 (dk_at dksX1_apart_1 11 rfl rfl)
theorem dX1_apart_38 : decode cX1_apart 38 = .ok (.astore_n 3, 1) := dk_78 (dk_at dksX1_apart_1 14 rfl rfl)
theorem dX1_apart_39 : decode cX1_apart 39 = .ok (.aload_n 0, 1) := dk_42 (dk_at dksX1_apart_1 15 rfl rfl)
theorem dX1_apart_40 : decode cX1_apart 40 = .ok (.aload_n 0, 1) := dk_42 (dk_at dksX1_apart_1 16 rfl rfl)
theorem dX1_apart_41 : decode cX1_apart 41 = .ok (.getfield 71, 3) := dk_180 0 71 (dk_at dksX1_apart_1 17 rfl rfl)
theorem dX1_apart_44 : decode cX1_apart 44 = .ok (.iload_n 2, 1) := dk_28 (dk_at dksX1_apart_1 20 rfl rfl)
theorem dX1_apart_45 : decode cX1_apart 45 = .ok (.aaload, 1) := dk_50 (dk_at dksX1_apart_1 21 rfl rfl)
theorem dX1_apart_46 : decode cX1_apart 46 = .ok (.aload_n 0, 1) := dk_42 (dk_at dksX1_apart_1 22 rfl rfl)
theorem dX1_apart_47 : decode cX1_apart 47 = .ok (.getfield 71, 3) := dk_180 0 71 (dk_at dksX1_apart_2 0 rfl rfl)
theorem dX1_apart_50 : decode cX1_apart 50 = .ok (.iload_n 1, 1) := dk_27 (dk_at dksX1_apart_2 3 rfl rfl)
theorem dX1_apart_51 : decode cX1_apart 51 = .ok (.aaload, 1) := dk_50 (dk_at dksX1_apart_2 4 rfl rfl)
theorem dX1_apart_52 : decode cX1_apart 52 = .ok (.getfield 165, 3) := dk_180 0 165 (dk_at dksX1_apart_2 5 rfl rfl)
theorem dX1_apart_55 : decode cX1_apart 55 = .ok (.invokevirtual 298, 3) := dk_182 1 42 (dk_at dksX1_apart_2 8 rfl rfl)
theorem dX1_apart_58 : decode cX1_apart 58 = .ok (.astore 4, 2) := dk_58 4 (dk_at dksX1_apart_2 11 rfl rfl)
theorem dX1_apart_60 : decode cX1_apart 60 = .ok (.iconst 0, 1) := dk_3 (dk_at dksX1_apart_2 13 rfl rfl)
theorem dX1_apart_61 : decode cX1_apart 61 = .ok (.istore 5, 2) := dk_54 5 (dk_at dksX1_apart_2 14 rfl rfl)
theorem dX1_apart_63 : decode cX1_apart 63 = .ok (.iconst 0, 1) := dk_3 (dk_at dksX1_apart_2 16 rfl rfl)
theorem dX1_apart_64 : decode cX1_apart 64 = .ok (.istore 6, 2) := dk_54 6 (dk_at dksX1_apart_2 17 rfl rfl)
theorem dX1_apart_66 : decode cX1_apart 66 = .ok (.iconst 0, 1) := dk_3 (dk_at dksX1_apart_2 19 rfl rfl)
theorem dX1_apart_67 : decode cX1_apart 67 = .ok (.istore 7, 2) := dk_54 7 (dk_at dksX1_apart_2 20 rfl rfl)
theorem dX1_apart_69 : decode cX1_apart 69 = .ok (.iconst 0, 1) := dk_3 (dk_at dksX1_apart_2 22 rfl rfl)
theorem dX1_apart_70 : decode cX1_apart 70 = .ok (.istore 8, 2) := dk_54 8 (dk_at dksX1_apart_3 0 rfl rfl)
theorem dX1_apart_72 : decode cX1_apart 72 = .ok (.iload 8, 2) := dk_21 8 (dk_at dksX1_apart_3 2 rfl rfl)
theorem dX1_apart_74 : decode cX1_apart 74 = .ok (.aload_n 3, 1) := dk_45 (dk_at dksX1_apart_3 4 rfl rfl)
theorem dX1_apart_75 : decode cX1_apart 75 = .ok (.invokevirtual 98, 3) := dk_182 0 98 (dk_at dksX1_apart_3 5 rfl rfl)
theorem dX1_apart_78 : decode cX1_apart 78 = .ok (.if_icmp .ge 55, 3) := dk_162 0 55 (dk_at dksX1_apart_3 8 rfl rfl)
theorem dX1_apart_81 : decode cX1_apart 81 = .ok (.aload_n 3, 1) := dk_45 (dk_at dksX1_apart_3 11 rfl rfl)
theorem dX1_apart_82 : decode cX1_apart 82 = .ok (.getfield 204, 3) := dk_180 0 204 (dk_at dksX1_apart_3 12 rfl rfl)
theorem dX1_apart_85 : decode cX1_apart 85 = .ok (.iload 8, 2) := dk_21 8 (dk_at dksX1_apart_3 15 rfl rfl)
theorem dX1_apart_87 : decode cX1_apart 87 = .ok (.baload, 1) := dk_51 (dk_at dksX1_apart_3 17 rfl rfl)
theorem dX1_apart_88 : decode cX1_apart 88 = .ok (.aload 4, 2) := dk_25 4 (dk_at dksX1_apart_3 18 rfl rfl)
theorem dX1_apart_90 : decode cX1_apart 90 = .ok (.getfield 204, 3) := dk_180 0 204 (dk_at dksX1_apart_3 20 rfl rfl)
theorem dX1_apart_93 : decode cX1_apart 93 = .ok (.iload 8, 2) := dk_21 8 (dk_at dksX1_apart_4 0 rfl rfl)
theorem dX1_apart_95 : decode cX1_apart 95 = .ok (.baload, 1) := dk_51 (dk_at dksX1_apart_4 2 rfl rfl)
theorem dX1_apart_96 : decode cX1_apart 96 = .ok (.isub, 1) := dk_100 (dk_at dksX1_apart_4 3 rfl rfl)
theorem dX1_apart_97 : decode cX1_apart 97 = .ok (.invokestatic 302, 3) := dk_184 1 46 (dk_at dksX1_apart_4 4 rfl rfl)
theorem dX1_apart_100 : decode cX1_apart 100 = .ok (.istore 9, 2) := dk_54 9 (dk_at dksX1_apart_4 7 rfl rfl)
theorem dX1_apart_102 : decode cX1_apart 102 = .ok (.iload 5, 2) := dk_21 5 (dk_at dksX1_apart_4 9 rfl rfl)
theorem dX1_apart_104 : decode cX1_apart 104 = .ok (.iload 9, 2) := dk_21 9 (dk_at dksX1_apart_4 11 rfl rfl)
theorem dX1_apart_106 : decode cX1_apart 106 = .ok (.iadd, 1) := dk_96 (dk_at dksX1_apart_4 13 rfl rfl)
theorem dX1_apart_107 : decode cX1_apart 107 = .ok (.istore 5, 2) := dk_54 5 (dk_at dksX1_apart_4 14 rfl rfl)
theorem dX1_apart_109 : decode cX1_apart 109 = .ok (.iload 9, 2) := dk_21 9 (dk_at dksX1_apart_4 16 rfl rfl)
theorem dX1_apart_111 : decode cX1_apart 111 = .ok (.iload 6, 2) := dk_21 6 (dk_at dksX1_apart_4 18 rfl rfl)
theorem dX1_apart_113 : decode cX1_apart 113 = .ok (.if_icmp .gt 6, 3) := dk_163 0 6 (dk_at dksX1_apart_4 20 rfl rfl)
theorem dX1_apart_116 : decode cX1_apart 116 = .ok (.goto 11, 3) := dk_167 0 11 (dk_at dksX1_apart_5 0 rfl rfl)
theorem dX1_apart_119 : decode cX1_apart 119 = .ok (.iload 9, 2) := dk_21 9 (dk_at dksX1_apart_5 3 rfl rfl)
theorem dX1_apart_121 : decode cX1_apart 121 = .ok (.istore 6, 2) := dk_54 6 (dk_at dksX1_apart_5 5 rfl rfl)
theorem dX1_apart_123 : decode cX1_apart 123 = .ok (.iload 8, 2) := dk_21 8 (dk_at dksX1_apart_5 7 rfl rfl)
theorem dX1_apart_125 : decode cX1_apart 125 = .ok (.istore 7, 2) := dk_54 7 (dk_at dksX1_apart_5 9 rfl rfl)
theorem dX1_apart_127 : decode cX1_apart 127 = .ok (.iinc 8 1, 3) := dk_132 8 1 (dk_at dksX1_apart_5 11 rfl rfl)
theorem dX1_apart_130 : decode cX1_apart 130 = .ok (.goto (-58), 3) := dk_167 255 198 (dk_at dksX1_apart_5 14 rfl rfl)
theorem dX1_apart_133 : decode cX1_apart 133 = .ok (.aload_n 0, 1) := dk_42 (dk_at dksX1_apart_5 17 rfl rfl)
theorem dX1_apart_134 : decode cX1_apart 134 = .ok (.iconst 2, 1) := dk_5 (dk_at dksX1_apart_5 18 rfl rfl)
theorem dX1_apart_135 : decode cX1_apart 135 = .ok (.newarray .long, 2) := dk_188_11 (dk_at dksX1_apart_5 19 rfl rfl)
theorem dX1_apart_137 : decode cX1_apart 137 = .ok (.dup, 1) := dk_89 (dk_at dksX1_apart_5 21 rfl rfl)
theorem dX1_apart_138 : decode cX1_apart 138 = .ok (.iconst 0, 1) := dk_3 (dk_at dksX1_apart_5 22 rfl rfl)
theorem dX1_apart_139 : decode cX1_apart 139 = .ok (.iload 6, 2) := dk_21 6 (dk_at dksX1_apart_6 0 rfl rfl)
theorem dX1_apart_141 : decode cX1_apart 141 = .ok (.i2l, 1) := dk_133 (dk_at dksX1_apart_6 2 rfl rfl)
theorem dX1_apart_142 : decode cX1_apart 142 = .ok (.lastore, 1) := dk_80 (dk_at dksX1_apart_6 3 rfl rfl)
theorem dX1_apart_143 : decode cX1_apart 143 = .ok (.dup, 1) := dk_89 (dk_at dksX1_apart_6 4 rfl rfl)
theorem dX1_apart_144 : decode cX1_apart 144 = .ok (.iconst 1, 1) := dk_4 (dk_at dksX1_apart_6 5 rfl rfl)
theorem dX1_apart_145 : decode cX1_apart 145 = .ok (.iload 7, 2) := dk_21 7 (dk_at dksX1_apart_6 6 rfl rfl)
theorem dX1_apart_147 : decode cX1_apart 147 = .ok (.i2l, 1) := dk_133 (dk_at dksX1_apart_6 8 rfl rfl)
theorem dX1_apart_148 : decode cX1_apart 148 = .ok (.lastore, 1) := dk_80 (dk_at dksX1_apart_6 9 rfl rfl)
theorem dX1_apart_149 : decode cX1_apart 149 = .ok (.invokevirtual 44, 3) := dk_182 0 44 (dk_at dksX1_apart_6 10 rfl rfl)
theorem dX1_apart_152 : decode cX1_apart 152 = .ok (.iload 5, 2) := dk_21 5 (dk_at dksX1_apart_6 13 rfl rfl)
theorem dX1_apart_154 : decode cX1_apart 154 = .ok (.ireturn, 1) := dk_172 (dk_at dksX1_apart_6 15 rfl rfl)
abbrev cX1_order : ByteArray := prog_1_method_73_code
def yX1_order : MethodName := ⟨RX1, "order", "()I"⟩
def dkwX1_order_3 : List UInt8 := [182, 1, 52, 27, 4, 28, 120, 130, 60, 167, 255, 187, 42, 180, 0, 84, 3, 47, 136, 172]
abbrev dktX1_order_3 : List UInt8 := dkwX1_order_3 ++ []
def dkwX1_order_2 : List UInt8 := [180, 0, 71, 28, 50, 182, 0, 180, 164, 0, 5, 29, 61, 132, 3, 1, 167, 255, 210, 42, 28, 133]
abbrev dktX1_order_2 : List UInt8 := dkwX1_order_2 ++ dktX1_order_3
def dkwX1_order_1 : List UInt8 := [122, 4, 126, 4, 160, 0, 31, 28, 2, 159, 0, 24, 42, 180, 0, 71, 29, 50, 182, 0, 180, 42]
abbrev dktX1_order_1 : List UInt8 := dkwX1_order_1 ++ dktX1_order_2
def dkwX1_order_0 : List UInt8 := [16, 63, 60, 42, 3, 181, 1, 49, 27, 153, 0, 71, 2, 61, 3, 62, 29, 16, 6, 162, 0, 46, 27, 29]
abbrev dktX1_order_0 : List UInt8 := dkwX1_order_0 ++ dktX1_order_1
theorem dksX1_order_0 : cX1_order.data.toList.drop 0 = dktX1_order_0 := by decide +kernel
theorem dksX1_order_1 : cX1_order.data.toList.drop 24 = dktX1_order_1 := dk_seg dksX1_order_0 24 rfl rfl
theorem dksX1_order_2 : cX1_order.data.toList.drop 46 = dktX1_order_2 := dk_seg dksX1_order_1 22 rfl rfl
theorem dksX1_order_3 : cX1_order.data.toList.drop 68 = dktX1_order_3 := dk_seg dksX1_order_2 22 rfl rfl
theorem dX1_order_0 : decode cX1_order 0 = .ok (.bipush 63, 2) := dk_16 63 (dk_at dksX1_order_0 0 rfl rfl)
theorem dX1_order_2 : decode cX1_order 2 = .ok (.istore_n 1, 1) := dk_60 (dk_at dksX1_order_0 2 rfl rfl)
theorem dX1_order_3 : decode cX1_order 3 = .ok (.aload_n 0, 1) := dk_42 (dk_at dksX1_order_0 3 rfl rfl)
theorem dX1_order_4 : decode cX1_order 4 = .ok (.iconst 0, 1) := dk_3 (dk_at dksX1_order_0 4 rfl rfl)
theorem dX1_order_5 : decode cX1_order 5 = .ok (.putfield 305, 3) := dk_181 1 49 (dk_at dksX1_order_0 5 rfl rfl)
theorem dX1_order_8 : decode cX1_order 8 = .ok (.iload_n 1, 1) := dk_27 (dk_at dksX1_order_0 8 rfl rfl)
theorem dX1_order_9 : decode cX1_order 9 = .ok (.ifCond .eq 71, 3) := dk_153 0 71 (dk_at dksX1_order_0 9 rfl rfl)
theorem dX1_order_12 : decode cX1_order 12 = .ok (.iconst (-1), 1) := dk_2 (dk_at dksX1_order_0 12 rfl rfl)
theorem dX1_order_13 : decode cX1_order 13 = .ok (.istore_n 2, 1) := dk_61 (dk_at dksX1_order_0 13 rfl rfl)
theorem dX1_order_14 : decode cX1_order 14 = .ok (.iconst 0, 1) := dk_3 (dk_at dksX1_order_0 14 rfl rfl)
theorem dX1_order_15 : decode cX1_order 15 = .ok (.istore_n 3, 1) := dk_62 (dk_at dksX1_order_0 15 rfl rfl)
theorem dX1_order_16 : decode cX1_order 16 = .ok (.iload_n 3, 1) := dk_29 (dk_at dksX1_order_0 16 rfl rfl)
theorem dX1_order_17 : decode cX1_order 17 = .ok (.bipush 6, 2) := dk_16 6 (dk_at dksX1_order_0 17 rfl rfl)
theorem dX1_order_19 : decode cX1_order 19 = .ok (.if_icmp .ge 46, 3) := dk_162 0 46 (dk_at dksX1_order_0 19 rfl rfl)
theorem dX1_order_22 : decode cX1_order 22 = .ok (.iload_n 1, 1) := dk_27 (dk_at dksX1_order_0 22 rfl rfl)
theorem dX1_order_23 : decode cX1_order 23 = .ok (.iload_n 3, 1) := dk_29 (dk_at dksX1_order_0 23 rfl rfl)
theorem dX1_order_24 : decode cX1_order 24 = .ok (.ishr, 1) := dk_122 (dk_at dksX1_order_1 0 rfl rfl)
theorem dX1_order_25 : decode cX1_order 25 = .ok (.iconst 1, 1) := dk_4 (dk_at dksX1_order_1 1 rfl rfl)
theorem dX1_order_26 : decode cX1_order 26 = .ok (.iand, 1) := dk_126 (dk_at dksX1_order_1 2 rfl rfl)
theorem dX1_order_27 : decode cX1_order 27 = .ok (.iconst 1, 1) := dk_4 (dk_at dksX1_order_1 3 rfl rfl)
theorem dX1_order_28 : decode cX1_order 28 = .ok (.if_icmp .ne 31, 3) := dk_160 0 31 (dk_at dksX1_order_1 4 rfl rfl)
theorem dX1_order_31 : decode cX1_order 31 = .ok (.iload_n 2, 1) := dk_28 (dk_at dksX1_order_1 7 rfl rfl)
theorem dX1_order_32 : decode cX1_order 32 = .ok (.iconst (-1), 1) := dk_2 (dk_at dksX1_order_1 8 rfl rfl)
theorem dX1_order_33 : decode cX1_order 33 = .ok (.if_icmp .eq 24, 3) := dk_159 0 24 (dk_at dksX1_order_1 9 rfl rfl)
theorem dX1_order_36 : decode cX1_order 36 = .ok (.aload_n 0, 1) := dk_42 (dk_at dksX1_order_1 12 rfl rfl)
theorem dX1_order_37 : decode cX1_order 37 = .ok (.getfield 71, 3) := dk_180 0 71 (dk_at dksX1_order_1 13 rfl rfl)
theorem dX1_order_40 : decode cX1_order 40 = .ok (.iload_n 3, 1) := dk_29 (dk_at dksX1_order_1 16 rfl rfl)
theorem dX1_order_41 : decode cX1_order 41 = .ok (.aaload, 1) := dk_50 (dk_at dksX1_order_1 17 rfl rfl)
theorem dX1_order_42 : decode cX1_order 42 = .ok (.invokevirtual 180, 3) := dk_182 0 180 (dk_at dksX1_order_1 18 rfl rfl)
theorem dX1_order_45 : decode cX1_order 45 = .ok (.aload_n 0, 1) := dk_42 (dk_at dksX1_order_1 21 rfl rfl)
theorem dX1_order_46 : decode cX1_order 46 = .ok (.getfield 71, 3) := dk_180 0 71 (dk_at dksX1_order_2 0 rfl rfl)
theorem dX1_order_49 : decode cX1_order 49 = .ok (.iload_n 2, 1) := dk_28 (dk_at dksX1_order_2 3 rfl rfl)
theorem dX1_order_50 : decode cX1_order 50 = .ok (.aaload, 1) := dk_50 (dk_at dksX1_order_2 4 rfl rfl)
theorem dX1_order_51 : decode cX1_order 51 = .ok (.invokevirtual 180, 3) := dk_182 0 180 (dk_at dksX1_order_2 5 rfl rfl)
theorem dX1_order_54 : decode cX1_order 54 = .ok (.if_icmp .le 5, 3) := dk_164 0 5 (dk_at dksX1_order_2 8 rfl rfl)
theorem dX1_order_57 : decode cX1_order 57 = .ok (.iload_n 3, 1) := dk_29 (dk_at dksX1_order_2 11 rfl rfl)
theorem dX1_order_58 : decode cX1_order 58 = .ok (.istore_n 2, 1) := dk_61 (dk_at dksX1_order_2 12 rfl rfl)
theorem dX1_order_59 : decode cX1_order 59 = .ok (.iinc 3 1, 3) := dk_132 3 1 (dk_at dksX1_order_2 13 rfl rfl)
theorem dX1_order_62 : decode cX1_order 62 = .ok (.goto (-46), 3) := dk_167 255 210 (dk_at dksX1_order_2 16 rfl rfl)
theorem dX1_order_65 : decode cX1_order 65 = .ok (.aload_n 0, 1) := dk_42 (dk_at dksX1_order_2 19 rfl rfl)
theorem dX1_order_66 : decode cX1_order 66 = .ok (.iload_n 2, 1) := dk_28 (dk_at dksX1_order_2 20 rfl rfl)
theorem dX1_order_67 : decode cX1_order 67 = .ok (.i2l, 1) := dk_133 (dk_at dksX1_order_2 21 rfl rfl)
theorem dX1_order_68 : decode cX1_order 68 = .ok (.invokevirtual 308, 3) := dk_182 1 52 (dk_at dksX1_order_3 0 rfl rfl)
theorem dX1_order_71 : decode cX1_order 71 = .ok (.iload_n 1, 1) := dk_27 (dk_at dksX1_order_3 3 rfl rfl)
theorem dX1_order_72 : decode cX1_order 72 = .ok (.iconst 1, 1) := dk_4 (dk_at dksX1_order_3 4 rfl rfl)
theorem dX1_order_73 : decode cX1_order 73 = .ok (.iload_n 2, 1) := dk_28 (dk_at dksX1_order_3 5 rfl rfl)
theorem dX1_order_74 : decode cX1_order 74 = .ok (.ishl, 1) := dk_120 (dk_at dksX1_order_3 6 rfl rfl)
theorem dX1_order_75 : decode cX1_order 75 = .ok (.ixor, 1) := dk_130 (dk_at dksX1_order_3 7 rfl rfl)
theorem dX1_order_76 : decode cX1_order 76 = .ok (.istore_n 1, 1) := dk_60 (dk_at dksX1_order_3 8 rfl rfl)
theorem dX1_order_77 : decode cX1_order 77 = .ok (.goto (-69), 3) := dk_167 255 187 (dk_at dksX1_order_3 9 rfl rfl)
theorem dX1_order_80 : decode cX1_order 80 = .ok (.aload_n 0, 1) := dk_42 (dk_at dksX1_order_3 12 rfl rfl)
theorem dX1_order_81 : decode cX1_order 81 = .ok (.getfield 84, 3) := dk_180 0 84 (dk_at dksX1_order_3 13 rfl rfl)
theorem dX1_order_84 : decode cX1_order 84 = .ok (.iconst 0, 1) := dk_3 (dk_at dksX1_order_3 16 rfl rfl)
theorem dX1_order_85 : decode cX1_order 85 = .ok (.laload, 1) := dk_47 (dk_at dksX1_order_3 17 rfl rfl)
theorem dX1_order_86 : decode cX1_order 86 = .ok (.l2i, 1) := dk_136 (dk_at dksX1_order_3 18 rfl rfl)
theorem dX1_order_87 : decode cX1_order 87 = .ok (.ireturn, 1) := dk_172 (dk_at dksX1_order_3 19 rfl rfl)
abbrev cX1_within : ByteArray := prog_1_method_74_code
def yX1_within : MethodName := ⟨RX1, "within", "(II)I"⟩
def dkwX1_within_6 : List UInt8 := [167, 0, 4, 3, 172]
abbrev dktX1_within_6 : List UInt8 := dkwX1_within_6 ++ []
def dkwX1_within_5 : List UInt8 := [160, 0, 7, 4, 167, 0, 4, 3, 54, 5, 132, 6, 1, 167, 255, 214, 21, 5, 153, 0, 7, 4]
abbrev dktX1_within_5 : List UInt8 := dkwX1_within_5 ++ dktX1_within_6
def dkwX1_within_4 : List UInt8 := [162, 0, 39, 21, 5, 153, 0, 25, 45, 180, 0, 204, 21, 6, 51, 25, 4, 180, 0, 204, 21, 6, 51]
abbrev dktX1_within_4 : List UInt8 := dkwX1_within_4 ++ dktX1_within_5
def dkwX1_within_3 : List UInt8 := [25, 4, 182, 0, 180, 160, 0, 7, 4, 167, 0, 4, 3, 54, 5, 3, 54, 6, 21, 6, 45, 182, 0, 98]
abbrev dktX1_within_3 : List UInt8 := dkwX1_within_3 ++ dktX1_within_4
def dkwX1_within_2 : List UInt8 := [180, 0, 71, 27, 50, 83, 89, 4, 42, 180, 0, 71, 28, 50, 83, 182, 0, 183, 58, 4, 45, 182, 0, 180]
abbrev dktX1_within_2 : List UInt8 := dkwX1_within_2 ++ dktX1_within_3
def dkwX1_within_1 : List UInt8 := [27, 50, 42, 180, 0, 71, 28, 50, 180, 0, 165, 182, 1, 42, 78, 42, 5, 189, 0, 69, 89, 3, 42]
abbrev dktX1_within_1 : List UInt8 := dkwX1_within_1 ++ dktX1_within_2
def dkwX1_within_0 : List UInt8 := [5, 188, 10, 89, 3, 27, 79, 89, 4, 28, 79, 184, 0, 92, 154, 0, 5, 2, 172, 42, 42, 180, 0, 71]
abbrev dktX1_within_0 : List UInt8 := dkwX1_within_0 ++ dktX1_within_1
theorem dksX1_within_0 : cX1_within.data.toList.drop 0 = dktX1_within_0 := by decide +kernel
theorem dksX1_within_1 : cX1_within.data.toList.drop 24 = dktX1_within_1 := dk_seg dksX1_within_0 24 rfl rfl
theorem dksX1_within_2 : cX1_within.data.toList.drop 47 = dktX1_within_2 := dk_seg dksX1_within_1 23 rfl rfl
theorem dksX1_within_3 : cX1_within.data.toList.drop 71 = dktX1_within_3 := dk_seg dksX1_within_2 24 rfl rfl
theorem dksX1_within_4 : cX1_within.data.toList.drop 95 = dktX1_within_4 := dk_seg dksX1_within_3 24 rfl rfl
theorem dksX1_within_5 : cX1_within.data.toList.drop 118 = dktX1_within_5 := dk_seg dksX1_within_4 23 rfl rfl
theorem dksX1_within_6 : cX1_within.data.toList.drop 140 = dktX1_within_6 := dk_seg dksX1_within_5 22 rfl rfl
theorem dX1_within_0 : decode cX1_within 0 = .ok (.iconst 2, 1) := dk_5 (dk_at dksX1_within_0 0 rfl rfl)
theorem dX1_within_1 : decode cX1_within 1 = .ok (.newarray .int, 2) := dk_188_10 (dk_at dksX1_within_0 1 rfl rfl)
theorem dX1_within_3 : decode cX1_within 3 = .ok (.dup, 1) := dk_89 (dk_at dksX1_within_0 3 rfl rfl)
theorem dX1_within_4 : decode cX1_within 4 = .ok (.iconst 0, 1) := dk_3 (dk_at dksX1_within_0 4 rfl rfl)
theorem dX1_within_5 : decode cX1_within 5 = .ok (.iload_n 1, 1) := dk_27 (dk_at dksX1_within_0 5 rfl rfl)
theorem dX1_within_6 : decode cX1_within 6 = .ok (.iastore, 1) := dk_79 (dk_at dksX1_within_0 6 rfl rfl)
theorem dX1_within_7 : decode cX1_within 7 = .ok (.dup, 1) := dk_89 (dk_at dksX1_within_0 7 rfl rfl)
theorem dX1_within_8 : decode cX1_within 8 = .ok (.iconst 1, 1) := dk_4 (dk_at dksX1_within_0 8 rfl rfl)
theorem dX1_within_9 : decode cX1_within 9 = .ok (.iload_n 2, 1) := dk_28 (dk_at dksX1_within_0 9 rfl rfl)
theorem dX1_within_10 : decode cX1_within 10 = .ok (.iastore, 1) := dk_79 (dk_at dksX1_within_0 10 rfl rfl)
theorem dX1_within_11 : decode cX1_within 11 = .ok (.invokestatic 92, 3) := dk_184 0 92 (dk_at dksX1_within_0 11 rfl rfl)
theorem dX1_within_14 : decode cX1_within 14 = .ok (.ifCond .ne 5, 3) := dk_154 0 5 (dk_at dksX1_within_0 14 rfl rfl)
theorem dX1_within_17 : decode cX1_within 17 = .ok (.iconst (-1), 1) := dk_2 (dk_at dksX1_within_0 17 rfl rfl)
theorem dX1_within_18 : decode cX1_within 18 = .ok (.ireturn, 1) := dk_172 (dk_at dksX1_within_0 18 rfl rfl)
theorem dX1_within_19 : decode cX1_within 19 = .ok (.aload_n 0, 1) := dk_42 (dk_at dksX1_within_0 19 rfl rfl)
theorem dX1_within_20 : decode cX1_within 20 = .ok (.aload_n 0, 1) := dk_42 (dk_at dksX1_within_0 20 rfl rfl)
theorem dX1_within_21 : decode cX1_within 21 = .ok (.getfield 71, 3) := dk_180 0 71 (dk_at dksX1_within_0 21 rfl rfl)
theorem dX1_within_24 : decode cX1_within 24 = .ok (.iload_n 1, 1) := dk_27 (dk_at dksX1_within_1 0 rfl rfl)
theorem dX1_within_25 : decode cX1_within 25 = .ok (.aaload, 1) := dk_50 (dk_at dksX1_within_1 1 rfl rfl)
theorem dX1_within_26 : decode cX1_within 26 = .ok (.aload_n 0, 1) := dk_42 (dk_at dksX1_within_1 2 rfl rfl)
theorem dX1_within_27 : decode cX1_within 27 = .ok (.getfield 71, 3) := dk_180 0 71 (dk_at dksX1_within_1 3 rfl rfl)
theorem dX1_within_30 : decode cX1_within 30 = .ok (.iload_n 2, 1) := dk_28 (dk_at dksX1_within_1 6 rfl rfl)
theorem dX1_within_31 : decode cX1_within 31 = .ok (.aaload, 1) := dk_50 (dk_at dksX1_within_1 7 rfl rfl)
theorem dX1_within_32 : decode cX1_within 32 = .ok (.getfield 165, 3) := dk_180 0 165 (dk_at dksX1_within_1 8 rfl rfl)
theorem dX1_within_35 : decode cX1_within 35 = .ok (.invokevirtual 298, 3) := dk_182 1 42 (dk_at dksX1_within_1 11 rfl rfl)
theorem dX1_within_38 : decode cX1_within 38 = .ok (.astore_n 3, 1) := dk_78 (dk_at dksX1_within_1 14 rfl rfl)
theorem dX1_within_39 : decode cX1_within 39 = .ok (.aload_n 0, 1) := dk_42 (dk_at dksX1_within_1 15 rfl rfl)
theorem dX1_within_40 : decode cX1_within 40 = .ok (.iconst 2, 1) := dk_5 (dk_at dksX1_within_1 16 rfl rfl)
theorem dX1_within_41 : decode cX1_within 41 = .ok (.anewarray 69, 3) := dk_189 0 69 (dk_at dksX1_within_1 17 rfl rfl)
theorem dX1_within_44 : decode cX1_within 44 = .ok (.dup, 1) := dk_89 (dk_at dksX1_within_1 20 rfl rfl)
theorem dX1_within_45 : decode cX1_within 45 = .ok (.iconst 0, 1) := dk_3 (dk_at dksX1_within_1 21 rfl rfl)
theorem dX1_within_46 : decode cX1_within 46 = .ok (.aload_n 0, 1) := dk_42 (dk_at dksX1_within_1 22 rfl rfl)
theorem dX1_within_47 : decode cX1_within 47 = .ok (.getfield 71, 3) := dk_180 0 71 (dk_at dksX1_within_2 0 rfl rfl)
theorem dX1_within_50 : decode cX1_within 50 = .ok (.iload_n 1, 1) := dk_27 (dk_at dksX1_within_2 3 rfl rfl)
theorem dX1_within_51 : decode cX1_within 51 = .ok (.aaload, 1) := dk_50 (dk_at dksX1_within_2 4 rfl rfl)
theorem dX1_within_52 : decode cX1_within 52 = .ok (.aastore, 1) := dk_83 (dk_at dksX1_within_2 5 rfl rfl)
theorem dX1_within_53 : decode cX1_within 53 = .ok (.dup, 1) := dk_89 (dk_at dksX1_within_2 6 rfl rfl)
theorem dX1_within_54 : decode cX1_within 54 = .ok (.iconst 1, 1) := dk_4 (dk_at dksX1_within_2 7 rfl rfl)
theorem dX1_within_55 : decode cX1_within 55 = .ok (.aload_n 0, 1) := dk_42 (dk_at dksX1_within_2 8 rfl rfl)
theorem dX1_within_56 : decode cX1_within 56 = .ok (.getfield 71, 3) := dk_180 0 71 (dk_at dksX1_within_2 9 rfl rfl)
theorem dX1_within_59 : decode cX1_within 59 = .ok (.iload_n 2, 1) := dk_28 (dk_at dksX1_within_2 12 rfl rfl)
theorem dX1_within_60 : decode cX1_within 60 = .ok (.aaload, 1) := dk_50 (dk_at dksX1_within_2 13 rfl rfl)
theorem dX1_within_61 : decode cX1_within 61 = .ok (.aastore, 1) := dk_83 (dk_at dksX1_within_2 14 rfl rfl)
theorem dX1_within_62 : decode cX1_within 62 = .ok (.invokevirtual 183, 3) := dk_182 0 183 (dk_at dksX1_within_2 15 rfl rfl)
theorem dX1_within_65 : decode cX1_within 65 = .ok (.astore 4, 2) := dk_58 4 (dk_at dksX1_within_2 18 rfl rfl)
theorem dX1_within_67 : decode cX1_within 67 = .ok (.aload_n 3, 1) := dk_45 (dk_at dksX1_within_2 20 rfl rfl)
theorem dX1_within_68 : decode cX1_within 68 = .ok (.invokevirtual 180, 3) := dk_182 0 180 (dk_at dksX1_within_2 21 rfl rfl)
theorem dX1_within_71 : decode cX1_within 71 = .ok (.aload 4, 2) := dk_25 4 (dk_at dksX1_within_3 0 rfl rfl)
theorem dX1_within_73 : decode cX1_within 73 = .ok (.invokevirtual 180, 3) := dk_182 0 180 (dk_at dksX1_within_3 2 rfl rfl)
theorem dX1_within_76 : decode cX1_within 76 = .ok (.if_icmp .ne 7, 3) := dk_160 0 7 (dk_at dksX1_within_3 5 rfl rfl)
theorem dX1_within_79 : decode cX1_within 79 = .ok (.iconst 1, 1) := dk_4 (dk_at dksX1_within_3 8 rfl rfl)
theorem dX1_within_80 : decode cX1_within 80 = .ok (.goto 4, 3) := dk_167 0 4 (dk_at dksX1_within_3 9 rfl rfl)
theorem dX1_within_83 : decode cX1_within 83 = .ok (.iconst 0, 1) := dk_3 (dk_at dksX1_within_3 12 rfl rfl)
theorem dX1_within_84 : decode cX1_within 84 = .ok (.istore 5, 2) := dk_54 5 (dk_at dksX1_within_3 13 rfl rfl)
theorem dX1_within_86 : decode cX1_within 86 = .ok (.iconst 0, 1) := dk_3 (dk_at dksX1_within_3 15 rfl rfl)
theorem dX1_within_87 : decode cX1_within 87 = .ok (.istore 6, 2) := dk_54 6 (dk_at dksX1_within_3 16 rfl rfl)
theorem dX1_within_89 : decode cX1_within 89 = .ok (.iload 6, 2) := dk_21 6 (dk_at dksX1_within_3 18 rfl rfl)
theorem dX1_within_91 : decode cX1_within 91 = .ok (.aload_n 3, 1) := dk_45 (dk_at dksX1_within_3 20 rfl rfl)
theorem dX1_within_92 : decode cX1_within 92 = .ok (.invokevirtual 98, 3) := dk_182 0 98 (dk_at dksX1_within_3 21 rfl rfl)
theorem dX1_within_95 : decode cX1_within 95 = .ok (.if_icmp .ge 39, 3) := dk_162 0 39 (dk_at dksX1_within_4 0 rfl rfl)
theorem dX1_within_98 : decode cX1_within 98 = .ok (.iload 5, 2) := dk_21 5 (dk_at dksX1_within_4 3 rfl rfl)
theorem dX1_within_100 : decode cX1_within 100 = .ok (.ifCond .eq 25, 3) := dk_153 0 25 (dk_at dksX1_within_4 5 rfl rfl)
theorem dX1_within_103 : decode cX1_within 103 = .ok (.aload_n 3, 1) := dk_45 (dk_at dksX1_within_4 8 rfl rfl)
theorem dX1_within_104 : decode cX1_within 104 = .ok (.getfield 204, 3) := dk_180 0 204 (dk_at dksX1_within_4 9 rfl rfl)
theorem dX1_within_107 : decode cX1_within 107 = .ok (.iload 6, 2) := dk_21 6 (dk_at dksX1_within_4 12 rfl rfl)
theorem dX1_within_109 : decode cX1_within 109 = .ok (.baload, 1) := dk_51 (dk_at dksX1_within_4 14 rfl rfl)
theorem dX1_within_110 : decode cX1_within 110 = .ok (.aload 4, 2) := dk_25 4 (dk_at dksX1_within_4 15 rfl rfl)
theorem dX1_within_112 : decode cX1_within 112 = .ok (.getfield 204, 3) := dk_180 0 204 (dk_at dksX1_within_4 17 rfl rfl)
theorem dX1_within_115 : decode cX1_within 115 = .ok (.iload 6, 2) := dk_21 6 (dk_at dksX1_within_4 20 rfl rfl)
theorem dX1_within_117 : decode cX1_within 117 = .ok (.baload, 1) := dk_51 (dk_at dksX1_within_4 22 rfl rfl)
theorem dX1_within_118 : decode cX1_within 118 = .ok (.if_icmp .ne 7, 3) := dk_160 0 7 (dk_at dksX1_within_5 0 rfl rfl)
theorem dX1_within_121 : decode cX1_within 121 = .ok (.iconst 1, 1) := dk_4 (dk_at dksX1_within_5 3 rfl rfl)
theorem dX1_within_122 : decode cX1_within 122 = .ok (.goto 4, 3) := dk_167 0 4 (dk_at dksX1_within_5 4 rfl rfl)
theorem dX1_within_125 : decode cX1_within 125 = .ok (.iconst 0, 1) := dk_3 (dk_at dksX1_within_5 7 rfl rfl)
theorem dX1_within_126 : decode cX1_within 126 = .ok (.istore 5, 2) := dk_54 5 (dk_at dksX1_within_5 8 rfl rfl)
theorem dX1_within_128 : decode cX1_within 128 = .ok (.iinc 6 1, 3) := dk_132 6 1 (dk_at dksX1_within_5 10 rfl rfl)
theorem dX1_within_131 : decode cX1_within 131 = .ok (.goto (-42), 3) := dk_167 255 214 (dk_at dksX1_within_5 13 rfl rfl)
theorem dX1_within_134 : decode cX1_within 134 = .ok (.iload 5, 2) := dk_21 5 (dk_at dksX1_within_5 16 rfl rfl)
theorem dX1_within_136 : decode cX1_within 136 = .ok (.ifCond .eq 7, 3) := dk_153 0 7 (dk_at dksX1_within_5 18 rfl rfl)
theorem dX1_within_139 : decode cX1_within 139 = .ok (.iconst 1, 1) := dk_4 (dk_at dksX1_within_5 21 rfl rfl)
theorem dX1_within_140 : decode cX1_within 140 = .ok (.goto 4, 3) := dk_167 0 4 (dk_at dksX1_within_6 0 rfl rfl)
theorem dX1_within_143 : decode cX1_within 143 = .ok (.iconst 0, 1) := dk_3 (dk_at dksX1_within_6 3 rfl rfl)
theorem dX1_within_144 : decode cX1_within 144 = .ok (.ireturn, 1) := dk_172 (dk_at dksX1_within_6 4 rfl rfl)
abbrev cX1_cover : ByteArray := prog_1_method_75_code
def yX1_cover : MethodName := ⟨RX1, "cover", "(I)I"⟩
def dkwX1_cover_2 : List UInt8 := [133, 80, 182, 0, 44, 45, 3, 46, 184, 0, 177, 172]
abbrev dktX1_cover_2 : List UInt8 := dkwX1_cover_2 ++ []
def dkwX1_cover_1 : List UInt8 := [27, 79, 78, 27, 42, 45, 28, 186, 1, 56, 0, 0, 184, 1, 38, 42, 4, 188, 11, 89, 3, 45, 3, 46]
abbrev dktX1_cover_1 : List UInt8 := dkwX1_cover_1 ++ dktX1_cover_2
def dkwX1_cover_0 : List UInt8 := [27, 184, 0, 191, 154, 0, 5, 2, 172, 42, 42, 27, 182, 0, 194, 182, 1, 13, 61, 4, 188, 10, 89, 3]
abbrev dktX1_cover_0 : List UInt8 := dkwX1_cover_0 ++ dktX1_cover_1
theorem dksX1_cover_0 : cX1_cover.data.toList.drop 0 = dktX1_cover_0 := by decide +kernel
theorem dksX1_cover_1 : cX1_cover.data.toList.drop 24 = dktX1_cover_1 := dk_seg dksX1_cover_0 24 rfl rfl
theorem dksX1_cover_2 : cX1_cover.data.toList.drop 48 = dktX1_cover_2 := dk_seg dksX1_cover_1 24 rfl rfl
theorem dX1_cover_0 : decode cX1_cover 0 = .ok (.iload_n 1, 1) := dk_27 (dk_at dksX1_cover_0 0 rfl rfl)
theorem dX1_cover_1 : decode cX1_cover 1 = .ok (.invokestatic 191, 3) := dk_184 0 191 (dk_at dksX1_cover_0 1 rfl rfl)
theorem dX1_cover_4 : decode cX1_cover 4 = .ok (.ifCond .ne 5, 3) := dk_154 0 5 (dk_at dksX1_cover_0 4 rfl rfl)
theorem dX1_cover_7 : decode cX1_cover 7 = .ok (.iconst (-1), 1) := dk_2 (dk_at dksX1_cover_0 7 rfl rfl)
theorem dX1_cover_8 : decode cX1_cover 8 = .ok (.ireturn, 1) := dk_172 (dk_at dksX1_cover_0 8 rfl rfl)
theorem dX1_cover_9 : decode cX1_cover 9 = .ok (.aload_n 0, 1) := dk_42 (dk_at dksX1_cover_0 9 rfl rfl)
theorem dX1_cover_10 : decode cX1_cover 10 = .ok (.aload_n 0, 1) := dk_42 (dk_at dksX1_cover_0 10 rfl rfl)
theorem dX1_cover_11 : decode cX1_cover 11 = .ok (.iload_n 1, 1) := dk_27 (dk_at dksX1_cover_0 11 rfl rfl)
theorem dX1_cover_12 : decode cX1_cover 12 = .ok (.invokevirtual 194, 3) := dk_182 0 194 (dk_at dksX1_cover_0 12 rfl rfl)
theorem dX1_cover_15 : decode cX1_cover 15 = .ok (.invokevirtual 269, 3) := dk_182 1 13 (dk_at dksX1_cover_0 15 rfl rfl)
theorem dX1_cover_18 : decode cX1_cover 18 = .ok (.istore_n 2, 1) := dk_61 (dk_at dksX1_cover_0 18 rfl rfl)
theorem dX1_cover_19 : decode cX1_cover 19 = .ok (.iconst 1, 1) := dk_4 (dk_at dksX1_cover_0 19 rfl rfl)
theorem dX1_cover_20 : decode cX1_cover 20 = .ok (.newarray .int, 2) := dk_188_10 (dk_at dksX1_cover_0 20 rfl rfl)
theorem dX1_cover_22 : decode cX1_cover 22 = .ok (.dup, 1) := dk_89 (dk_at dksX1_cover_0 22 rfl rfl)
theorem dX1_cover_23 : decode cX1_cover 23 = .ok (.iconst 0, 1) := dk_3 (dk_at dksX1_cover_0 23 rfl rfl)
theorem dX1_cover_24 : decode cX1_cover 24 = .ok (.iload_n 1, 1) := dk_27 (dk_at dksX1_cover_1 0 rfl rfl)
theorem dX1_cover_25 : decode cX1_cover 25 = .ok (.iastore, 1) := dk_79 (dk_at dksX1_cover_1 1 rfl rfl)
theorem dX1_cover_26 : decode cX1_cover 26 = .ok (.astore_n 3, 1) := dk_78 (dk_at dksX1_cover_1 2 rfl rfl)
theorem dX1_cover_27 : decode cX1_cover 27 = .ok (.iload_n 1, 1) := dk_27 (dk_at dksX1_cover_1 3 rfl rfl)
theorem dX1_cover_28 : decode cX1_cover 28 = .ok (.aload_n 0, 1) := dk_42 (dk_at dksX1_cover_1 4 rfl rfl)
theorem dX1_cover_29 : decode cX1_cover 29 = .ok (.aload_n 3, 1) := dk_45 (dk_at dksX1_cover_1 5 rfl rfl)
theorem dX1_cover_30 : decode cX1_cover 30 = .ok (.iload_n 2, 1) := dk_28 (dk_at dksX1_cover_1 6 rfl rfl)
theorem dX1_cover_31 : decode cX1_cover 31 = .ok (.invokedynamic 312, 5) := by decide +kernel
theorem dX1_cover_36 : decode cX1_cover 36 = .ok (.invokestatic 294, 3) := dk_184 1 38 (dk_at dksX1_cover_1 12 rfl rfl)
theorem dX1_cover_39 : decode cX1_cover 39 = .ok (.aload_n 0, 1) := dk_42 (dk_at dksX1_cover_1 15 rfl rfl)
theorem dX1_cover_40 : decode cX1_cover 40 = .ok (.iconst 1, 1) := dk_4 (dk_at dksX1_cover_1 16 rfl rfl)
theorem dX1_cover_41 : decode cX1_cover 41 = .ok (.newarray .long, 2) := dk_188_11 (dk_at dksX1_cover_1 17 rfl rfl)
theorem dX1_cover_43 : decode cX1_cover 43 = .ok (.dup, 1) := dk_89 (dk_at dksX1_cover_1 19 rfl rfl)
theorem dX1_cover_44 : decode cX1_cover 44 = .ok (.iconst 0, 1) := dk_3 (dk_at dksX1_cover_1 20 rfl rfl)
theorem dX1_cover_45 : decode cX1_cover 45 = .ok (.aload_n 3, 1) := dk_45 (dk_at dksX1_cover_1 21 rfl rfl)
theorem dX1_cover_46 : decode cX1_cover 46 = .ok (.iconst 0, 1) := dk_3 (dk_at dksX1_cover_1 22 rfl rfl)
theorem dX1_cover_47 : decode cX1_cover 47 = .ok (.iaload, 1) := dk_46 (dk_at dksX1_cover_1 23 rfl rfl)
theorem dX1_cover_48 : decode cX1_cover 48 = .ok (.i2l, 1) := dk_133 (dk_at dksX1_cover_2 0 rfl rfl)
theorem dX1_cover_49 : decode cX1_cover 49 = .ok (.lastore, 1) := dk_80 (dk_at dksX1_cover_2 1 rfl rfl)
theorem dX1_cover_50 : decode cX1_cover 50 = .ok (.invokevirtual 44, 3) := dk_182 0 44 (dk_at dksX1_cover_2 2 rfl rfl)
theorem dX1_cover_53 : decode cX1_cover 53 = .ok (.aload_n 3, 1) := dk_45 (dk_at dksX1_cover_2 5 rfl rfl)
theorem dX1_cover_54 : decode cX1_cover 54 = .ok (.iconst 0, 1) := dk_3 (dk_at dksX1_cover_2 6 rfl rfl)
theorem dX1_cover_55 : decode cX1_cover 55 = .ok (.iaload, 1) := dk_46 (dk_at dksX1_cover_2 7 rfl rfl)
theorem dX1_cover_56 : decode cX1_cover 56 = .ok (.invokestatic 177, 3) := dk_184 0 177 (dk_at dksX1_cover_2 8 rfl rfl)
theorem dX1_cover_59 : decode cX1_cover 59 = .ok (.ireturn, 1) := dk_172 (dk_at dksX1_cover_2 11 rfl rfl)
abbrev cX1_lambda_cover_6 : ByteArray := prog_1_method_106_code
def yX1_lambda_cover_6 : MethodName := ⟨RX1, "lambda$cover$6", "([III)V"⟩
def dkwX1_lambda_cover_6_1 : List UInt8 := [160, 0, 7, 43, 3, 29, 79, 177]
abbrev dktX1_lambda_cover_6_1 : List UInt8 := dkwX1_lambda_cover_6_1 ++ []
def dkwX1_lambda_cover_6_0 : List UInt8 := [29, 184, 0, 177, 43, 3, 46, 184, 0, 177, 162, 0, 20, 42, 42, 29, 182, 0, 194, 182, 1, 13, 28]
abbrev dktX1_lambda_cover_6_0 : List UInt8 := dkwX1_lambda_cover_6_0 ++ dktX1_lambda_cover_6_1
theorem dksX1_lambda_cover_6_0 : cX1_lambda_cover_6.data.toList.drop 0 = dktX1_lambda_cover_6_0 := by decide +kernel
theorem dksX1_lambda_cover_6_1 : cX1_lambda_cover_6.data.toList.drop 23 = dktX1_lambda_cover_6_1 := dk_seg dksX1_lambda_cover_6_0 23 rfl rfl
theorem dX1_lambda_cover_6_0 : decode cX1_lambda_cover_6 0 = .ok (.iload_n 3, 1) := dk_29 (dk_at dksX1_lambda_cover_6_0 0 rfl rfl)
theorem dX1_lambda_cover_6_1 : decode cX1_lambda_cover_6 1 = .ok (.invokestatic 177, 3) := dk_184 0 177 (dk_at dksX1_lambda_cover_6_0 1 rfl rfl)
theorem dX1_lambda_cover_6_4 : decode cX1_lambda_cover_6 4 = .ok (.aload_n 1, 1) := dk_43 (dk_at dksX1_lambda_cover_6_0 4 rfl rfl)
theorem dX1_lambda_cover_6_5 : decode cX1_lambda_cover_6 5 = .ok (.iconst 0, 1) := dk_3 (dk_at dksX1_lambda_cover_6_0 5 rfl rfl)
theorem dX1_lambda_cover_6_6 : decode cX1_lambda_cover_6 6 = .ok (.iaload, 1) := dk_46 (dk_at dksX1_lambda_cover_6_0 6 rfl rfl)
theorem dX1_lambda_cover_6_7 : decode cX1_lambda_cover_6 7 = .ok (.invokestatic 177, 3) := dk_184 0 177 (dk_at dksX1_lambda_cover_6_0 7 rfl rfl)
theorem dX1_lambda_cover_6_10 : decode cX1_lambda_cover_6 10 = .ok (.if_icmp .ge 20, 3) := dk_162 0 20 (dk_at dksX1_lambda_cover_6_0 10 rfl rfl)
theorem dX1_lambda_cover_6_13 : decode cX1_lambda_cover_6 13 = .ok (.aload_n 0, 1) := dk_42 (dk_at dksX1_lambda_cover_6_0 13 rfl rfl)
theorem dX1_lambda_cover_6_14 : decode cX1_lambda_cover_6 14 = .ok (.aload_n 0, 1) := dk_42 (dk_at dksX1_lambda_cover_6_0 14 rfl rfl)
theorem dX1_lambda_cover_6_15 : decode cX1_lambda_cover_6 15 = .ok (.iload_n 3, 1) := dk_29 (dk_at dksX1_lambda_cover_6_0 15 rfl rfl)
theorem dX1_lambda_cover_6_16 : decode cX1_lambda_cover_6 16 = .ok (.invokevirtual 194, 3) := dk_182 0 194 (dk_at dksX1_lambda_cover_6_0 16 rfl rfl)
theorem dX1_lambda_cover_6_19 : decode cX1_lambda_cover_6 19 = .ok (.invokevirtual 269, 3) := dk_182 1 13 (dk_at dksX1_lambda_cover_6_0 19 rfl rfl)
theorem dX1_lambda_cover_6_22 : decode cX1_lambda_cover_6 22 = .ok (.iload_n 2, 1) := dk_28 (dk_at dksX1_lambda_cover_6_0 22 rfl rfl)
theorem dX1_lambda_cover_6_23 : decode cX1_lambda_cover_6 23 = .ok (.if_icmp .ne 7, 3) := dk_160 0 7 (dk_at dksX1_lambda_cover_6_1 0 rfl rfl)
theorem dX1_lambda_cover_6_26 : decode cX1_lambda_cover_6 26 = .ok (.aload_n 1, 1) := dk_43 (dk_at dksX1_lambda_cover_6_1 3 rfl rfl)
theorem dX1_lambda_cover_6_27 : decode cX1_lambda_cover_6 27 = .ok (.iconst 0, 1) := dk_3 (dk_at dksX1_lambda_cover_6_1 4 rfl rfl)
theorem dX1_lambda_cover_6_28 : decode cX1_lambda_cover_6 28 = .ok (.iload_n 3, 1) := dk_29 (dk_at dksX1_lambda_cover_6_1 5 rfl rfl)
theorem dX1_lambda_cover_6_29 : decode cX1_lambda_cover_6 29 = .ok (.iastore, 1) := dk_79 (dk_at dksX1_lambda_cover_6_1 6 rfl rfl)
theorem dX1_lambda_cover_6_30 : decode cX1_lambda_cover_6 30 = .ok (.return_, 1) := dk_177 (dk_at dksX1_lambda_cover_6_1 7 rfl rfl)
abbrev cX1_errs : ByteArray := prog_1_method_78_code
def yX1_errs : MethodName := ⟨RX1, "errs", "(IIII)I"⟩
def dkwX1_errs_5 : List UInt8 := [80, 182, 0, 44, 21, 6, 172]
abbrev dktX1_errs_5 : List UInt8 := dkwX1_errs_5 ++ []
def dkwX1_errs_4 : List UInt8 := [132, 8, 1, 167, 255, 195, 42, 5, 188, 11, 89, 3, 21, 7, 133, 80, 89, 4, 25, 5, 182, 0, 180, 133]
abbrev dktX1_errs_4 : List UInt8 := dkwX1_errs_4 ++ dktX1_errs_5
def dkwX1_errs_3 : List UInt8 := [54, 9, 21, 9, 21, 6, 163, 0, 6, 167, 0, 13, 21, 9, 54, 6, 21, 8, 4, 96, 54, 7]
abbrev dktX1_errs_3 : List UInt8 := dkwX1_errs_3 ++ dktX1_errs_4
def dkwX1_errs_2 : List UInt8 := [21, 4, 104, 96, 182, 0, 34, 182, 0, 102, 87, 25, 5, 182, 0, 180, 21, 8, 100, 4, 100, 184, 1, 46]
abbrev dktX1_errs_2 : List UInt8 := dkwX1_errs_2 ++ dktX1_errs_3
def dkwX1_errs_1 : List UInt8 := [58, 5, 2, 54, 6, 3, 54, 7, 3, 54, 8, 21, 8, 29, 162, 0, 61, 25, 5, 42, 28, 21, 8]
abbrev dktX1_errs_1 : List UInt8 := dkwX1_errs_1 ++ dktX1_errs_2
def dkwX1_errs_0 : List UInt8 := [27, 184, 0, 37, 153, 0, 12, 29, 21, 4, 184, 1, 59, 154, 0, 5, 2, 172, 42, 27, 182, 1, 62]
abbrev dktX1_errs_0 : List UInt8 := dkwX1_errs_0 ++ dktX1_errs_1
theorem dksX1_errs_0 : cX1_errs.data.toList.drop 0 = dktX1_errs_0 := by decide +kernel
theorem dksX1_errs_1 : cX1_errs.data.toList.drop 23 = dktX1_errs_1 := dk_seg dksX1_errs_0 23 rfl rfl
theorem dksX1_errs_2 : cX1_errs.data.toList.drop 46 = dktX1_errs_2 := dk_seg dksX1_errs_1 23 rfl rfl
theorem dksX1_errs_3 : cX1_errs.data.toList.drop 70 = dktX1_errs_3 := dk_seg dksX1_errs_2 24 rfl rfl
theorem dksX1_errs_4 : cX1_errs.data.toList.drop 92 = dktX1_errs_4 := dk_seg dksX1_errs_3 22 rfl rfl
theorem dksX1_errs_5 : cX1_errs.data.toList.drop 116 = dktX1_errs_5 := dk_seg dksX1_errs_4 24 rfl rfl
theorem dX1_errs_0 : decode cX1_errs 0 = .ok (.iload_n 1, 1) := dk_27 (dk_at dksX1_errs_0 0 rfl rfl)
theorem dX1_errs_1 : decode cX1_errs 1 = .ok (.invokestatic 37, 3) := dk_184 0 37 (dk_at dksX1_errs_0 1 rfl rfl)
theorem dX1_errs_4 : decode cX1_errs 4 = .ok (.ifCond .eq 12, 3) := dk_153 0 12 (dk_at dksX1_errs_0 4 rfl rfl)
theorem dX1_errs_7 : decode cX1_errs 7 = .ok (.iload_n 3, 1) := dk_29 (dk_at dksX1_errs_0 7 rfl rfl)
theorem dX1_errs_8 : decode cX1_errs 8 = .ok (.iload 4, 2) := dk_21 4 (dk_at dksX1_errs_0 8 rfl rfl)
theorem dX1_errs_10 : decode cX1_errs 10 = .ok (.invokestatic 315, 3) := dk_184 1 59 (dk_at dksX1_errs_0 10 rfl rfl)
theorem dX1_errs_13 : decode cX1_errs 13 = .ok (.ifCond .ne 5, 3) := dk_154 0 5 (dk_at dksX1_errs_0 13 rfl rfl)
theorem dX1_errs_16 : decode cX1_errs 16 = .ok (.iconst (-1), 1) := dk_2 (dk_at dksX1_errs_0 16 rfl rfl)
theorem dX1_errs_17 : decode cX1_errs 17 = .ok (.ireturn, 1) := dk_172 (dk_at dksX1_errs_0 17 rfl rfl)
theorem dX1_errs_18 : decode cX1_errs 18 = .ok (.aload_n 0, 1) := dk_42 (dk_at dksX1_errs_0 18 rfl rfl)
theorem dX1_errs_19 : decode cX1_errs 19 = .ok (.iload_n 1, 1) := dk_27 (dk_at dksX1_errs_0 19 rfl rfl)
theorem dX1_errs_20 : decode cX1_errs 20 = .ok (.invokevirtual 318, 3) := dk_182 1 62 (dk_at dksX1_errs_0 20 rfl rfl)
theorem dX1_errs_23 : decode cX1_errs 23 = .ok (.astore 5, 2) := dk_58 5 (dk_at dksX1_errs_1 0 rfl rfl)
theorem dX1_errs_25 : decode cX1_errs 25 = .ok (.iconst (-1), 1) := dk_2 (dk_at dksX1_errs_1 2 rfl rfl)
theorem dX1_errs_26 : decode cX1_errs 26 = .ok (.istore 6, 2) := dk_54 6 (dk_at dksX1_errs_1 3 rfl rfl)
theorem dX1_errs_28 : decode cX1_errs 28 = .ok (.iconst 0, 1) := dk_3 (dk_at dksX1_errs_1 5 rfl rfl)
theorem dX1_errs_29 : decode cX1_errs 29 = .ok (.istore 7, 2) := dk_54 7 (dk_at dksX1_errs_1 6 rfl rfl)
theorem dX1_errs_31 : decode cX1_errs 31 = .ok (.iconst 0, 1) := dk_3 (dk_at dksX1_errs_1 8 rfl rfl)
theorem dX1_errs_32 : decode cX1_errs 32 = .ok (.istore 8, 2) := dk_54 8 (dk_at dksX1_errs_1 9 rfl rfl)
theorem dX1_errs_34 : decode cX1_errs 34 = .ok (.iload 8, 2) := dk_21 8 (dk_at dksX1_errs_1 11 rfl rfl)
theorem dX1_errs_36 : decode cX1_errs 36 = .ok (.iload_n 3, 1) := dk_29 (dk_at dksX1_errs_1 13 rfl rfl)
theorem dX1_errs_37 : decode cX1_errs 37 = .ok (.if_icmp .ge 61, 3) := dk_162 0 61 (dk_at dksX1_errs_1 14 rfl rfl)
theorem dX1_errs_40 : decode cX1_errs 40 = .ok (.aload 5, 2) := dk_25 5 (dk_at dksX1_errs_1 17 rfl rfl)
theorem dX1_errs_42 : decode cX1_errs 42 = .ok (.aload_n 0, 1) := dk_42 (dk_at dksX1_errs_1 19 rfl rfl)
theorem dX1_errs_43 : decode cX1_errs 43 = .ok (.iload_n 2, 1) := dk_28 (dk_at dksX1_errs_1 20 rfl rfl)
theorem dX1_errs_44 : decode cX1_errs 44 = .ok (.iload 8, 2) := dk_21 8 (dk_at dksX1_errs_1 21 rfl rfl)
theorem dX1_errs_46 : decode cX1_errs 46 = .ok (.iload 4, 2) := dk_21 4 (dk_at dksX1_errs_2 0 rfl rfl)
theorem dX1_errs_48 : decode cX1_errs 48 = .ok (.imul, 1) := dk_104 (dk_at dksX1_errs_2 2 rfl rfl)
theorem dX1_errs_49 : decode cX1_errs 49 = .ok (.iadd, 1) := dk_96 (dk_at dksX1_errs_2 3 rfl rfl)
theorem dX1_errs_50 : decode cX1_errs 50 = .ok (.invokevirtual 34, 3) := dk_182 0 34 (dk_at dksX1_errs_2 4 rfl rfl)
theorem dX1_errs_53 : decode cX1_errs 53 = .ok (.invokevirtual 102, 3) := dk_182 0 102 (dk_at dksX1_errs_2 7 rfl rfl)
theorem dX1_errs_56 : decode cX1_errs 56 = .ok (.pop, 1) := dk_87 (dk_at dksX1_errs_2 10 rfl rfl)
theorem dX1_errs_57 : decode cX1_errs 57 = .ok (.aload 5, 2) := dk_25 5 (dk_at dksX1_errs_2 11 rfl rfl)
theorem dX1_errs_59 : decode cX1_errs 59 = .ok (.invokevirtual 180, 3) := dk_182 0 180 (dk_at dksX1_errs_2 13 rfl rfl)
theorem dX1_errs_62 : decode cX1_errs 62 = .ok (.iload 8, 2) := dk_21 8 (dk_at dksX1_errs_2 16 rfl rfl)
theorem dX1_errs_64 : decode cX1_errs 64 = .ok (.isub, 1) := dk_100 (dk_at dksX1_errs_2 18 rfl rfl)
theorem dX1_errs_65 : decode cX1_errs 65 = .ok (.iconst 1, 1) := dk_4 (dk_at dksX1_errs_2 19 rfl rfl)
theorem dX1_errs_66 : decode cX1_errs 66 = .ok (.isub, 1) := dk_100 (dk_at dksX1_errs_2 20 rfl rfl)
theorem dX1_errs_67 : decode cX1_errs 67 = .ok (.invokestatic 302, 3) := dk_184 1 46 (dk_at dksX1_errs_2 21 rfl rfl)
theorem dX1_errs_70 : decode cX1_errs 70 = .ok (.istore 9, 2) := dk_54 9 (dk_at dksX1_errs_3 0 rfl rfl)
theorem dX1_errs_72 : decode cX1_errs 72 = .ok (.iload 9, 2) := dk_21 9 (dk_at dksX1_errs_3 2 rfl rfl)
theorem dX1_errs_74 : decode cX1_errs 74 = .ok (.iload 6, 2) := dk_21 6 (dk_at dksX1_errs_3 4 rfl rfl)
theorem dX1_errs_76 : decode cX1_errs 76 = .ok (.if_icmp .gt 6, 3) := dk_163 0 6 (dk_at dksX1_errs_3 6 rfl rfl)
theorem dX1_errs_79 : decode cX1_errs 79 = .ok (.goto 13, 3) := dk_167 0 13 (dk_at dksX1_errs_3 9 rfl rfl)
theorem dX1_errs_82 : decode cX1_errs 82 = .ok (.iload 9, 2) := dk_21 9 (dk_at dksX1_errs_3 12 rfl rfl)
theorem dX1_errs_84 : decode cX1_errs 84 = .ok (.istore 6, 2) := dk_54 6 (dk_at dksX1_errs_3 14 rfl rfl)
theorem dX1_errs_86 : decode cX1_errs 86 = .ok (.iload 8, 2) := dk_21 8 (dk_at dksX1_errs_3 16 rfl rfl)
theorem dX1_errs_88 : decode cX1_errs 88 = .ok (.iconst 1, 1) := dk_4 (dk_at dksX1_errs_3 18 rfl rfl)
theorem dX1_errs_89 : decode cX1_errs 89 = .ok (.iadd, 1) := dk_96 (dk_at dksX1_errs_3 19 rfl rfl)
theorem dX1_errs_90 : decode cX1_errs 90 = .ok (.istore 7, 2) := dk_54 7 (dk_at dksX1_errs_3 20 rfl rfl)
theorem dX1_errs_92 : decode cX1_errs 92 = .ok (.iinc 8 1, 3) := dk_132 8 1 (dk_at dksX1_errs_4 0 rfl rfl)
theorem dX1_errs_95 : decode cX1_errs 95 = .ok (.goto (-61), 3) := dk_167 255 195 (dk_at dksX1_errs_4 3 rfl rfl)
theorem dX1_errs_98 : decode cX1_errs 98 = .ok (.aload_n 0, 1) := dk_42 (dk_at dksX1_errs_4 6 rfl rfl)
theorem dX1_errs_99 : decode cX1_errs 99 = .ok (.iconst 2, 1) := dk_5 (dk_at dksX1_errs_4 7 rfl rfl)
theorem dX1_errs_100 : decode cX1_errs 100 = .ok (.newarray .long, 2) := dk_188_11 (dk_at dksX1_errs_4 8 rfl rfl)
theorem dX1_errs_102 : decode cX1_errs 102 = .ok (.dup, 1) := dk_89 (dk_at dksX1_errs_4 10 rfl rfl)
theorem dX1_errs_103 : decode cX1_errs 103 = .ok (.iconst 0, 1) := dk_3 (dk_at dksX1_errs_4 11 rfl rfl)
theorem dX1_errs_104 : decode cX1_errs 104 = .ok (.iload 7, 2) := dk_21 7 (dk_at dksX1_errs_4 12 rfl rfl)
theorem dX1_errs_106 : decode cX1_errs 106 = .ok (.i2l, 1) := dk_133 (dk_at dksX1_errs_4 14 rfl rfl)
theorem dX1_errs_107 : decode cX1_errs 107 = .ok (.lastore, 1) := dk_80 (dk_at dksX1_errs_4 15 rfl rfl)
theorem dX1_errs_108 : decode cX1_errs 108 = .ok (.dup, 1) := dk_89 (dk_at dksX1_errs_4 16 rfl rfl)
theorem dX1_errs_109 : decode cX1_errs 109 = .ok (.iconst 1, 1) := dk_4 (dk_at dksX1_errs_4 17 rfl rfl)
theorem dX1_errs_110 : decode cX1_errs 110 = .ok (.aload 5, 2) := dk_25 5 (dk_at dksX1_errs_4 18 rfl rfl)
theorem dX1_errs_112 : decode cX1_errs 112 = .ok (.invokevirtual 180, 3) := dk_182 0 180 (dk_at dksX1_errs_4 20 rfl rfl)
theorem dX1_errs_115 : decode cX1_errs 115 = .ok (.i2l, 1) := dk_133 (dk_at dksX1_errs_4 23 rfl rfl)
theorem dX1_errs_116 : decode cX1_errs 116 = .ok (.lastore, 1) := dk_80 (dk_at dksX1_errs_5 0 rfl rfl)
theorem dX1_errs_117 : decode cX1_errs 117 = .ok (.invokevirtual 44, 3) := dk_182 0 44 (dk_at dksX1_errs_5 1 rfl rfl)
theorem dX1_errs_120 : decode cX1_errs 120 = .ok (.iload 6, 2) := dk_21 6 (dk_at dksX1_errs_5 4 rfl rfl)
theorem dX1_errs_122 : decode cX1_errs 122 = .ok (.ireturn, 1) := dk_172 (dk_at dksX1_errs_5 6 rfl rfl)
abbrev cX1_areThings : ByteArray := prog_1_method_76_code
def yX1_areThings : MethodName := ⟨RX1, "areThings", "(II)Z"⟩
def dkwX1_areThings_0 : List UInt8 := [26, 133, 10, 20, 0, 105, 184, 0, 7, 153, 0, 11, 27, 153, 0, 7, 4, 167, 0, 4, 3, 172]
abbrev dktX1_areThings_0 : List UInt8 := dkwX1_areThings_0 ++ []
theorem dksX1_areThings_0 : cX1_areThings.data.toList.drop 0 = dktX1_areThings_0 := by decide +kernel
theorem dX1_areThings_0 : decode cX1_areThings 0 = .ok (.iload_n 0, 1) := dk_26 (dk_at dksX1_areThings_0 0 rfl rfl)
theorem dX1_areThings_1 : decode cX1_areThings 1 = .ok (.i2l, 1) := dk_133 (dk_at dksX1_areThings_0 1 rfl rfl)
theorem dX1_areThings_2 : decode cX1_areThings 2 = .ok (.lconst 1, 1) := dk_10 (dk_at dksX1_areThings_0 2 rfl rfl)
theorem dX1_areThings_3 : decode cX1_areThings 3 = .ok (.ldc2_w 105, 3) := dk_20 0 105 (dk_at dksX1_areThings_0 3 rfl rfl)
theorem dX1_areThings_6 : decode cX1_areThings 6 = .ok (.invokestatic 7, 3) := dk_184 0 7 (dk_at dksX1_areThings_0 6 rfl rfl)
theorem dX1_areThings_9 : decode cX1_areThings 9 = .ok (.ifCond .eq 11, 3) := dk_153 0 11 (dk_at dksX1_areThings_0 9 rfl rfl)
theorem dX1_areThings_12 : decode cX1_areThings 12 = .ok (.iload_n 1, 1) := dk_27 (dk_at dksX1_areThings_0 12 rfl rfl)
theorem dX1_areThings_13 : decode cX1_areThings 13 = .ok (.ifCond .eq 7, 3) := dk_153 0 7 (dk_at dksX1_areThings_0 13 rfl rfl)
theorem dX1_areThings_16 : decode cX1_areThings 16 = .ok (.iconst 1, 1) := dk_4 (dk_at dksX1_areThings_0 16 rfl rfl)
theorem dX1_areThings_17 : decode cX1_areThings 17 = .ok (.goto 4, 3) := dk_167 0 4 (dk_at dksX1_areThings_0 17 rfl rfl)
theorem dX1_areThings_20 : decode cX1_areThings 20 = .ok (.iconst 0, 1) := dk_3 (dk_at dksX1_areThings_0 20 rfl rfl)
theorem dX1_areThings_21 : decode cX1_areThings 21 = .ok (.ireturn, 1) := dk_172 (dk_at dksX1_areThings_0 21 rfl rfl)
abbrev cX1_empty : ByteArray := prog_1_method_77_code
def yX1_empty : MethodName := ⟨RX1, "empty", "(I)LDistinctMarks$Counter;"⟩
def dkwX1_empty_0 : List UInt8 := [187, 0, 69, 89, 42, 27, 16, 48, 183, 0, 75, 77, 44, 4, 181, 0, 151, 44, 176]
abbrev dktX1_empty_0 : List UInt8 := dkwX1_empty_0 ++ []
theorem dksX1_empty_0 : cX1_empty.data.toList.drop 0 = dktX1_empty_0 := by decide +kernel
theorem dX1_empty_0 : decode cX1_empty 0 = .ok (.new 69, 3) := dk_187 0 69 (dk_at dksX1_empty_0 0 rfl rfl)
theorem dX1_empty_3 : decode cX1_empty 3 = .ok (.dup, 1) := dk_89 (dk_at dksX1_empty_0 3 rfl rfl)
theorem dX1_empty_4 : decode cX1_empty 4 = .ok (.aload_n 0, 1) := dk_42 (dk_at dksX1_empty_0 4 rfl rfl)
theorem dX1_empty_5 : decode cX1_empty 5 = .ok (.iload_n 1, 1) := dk_27 (dk_at dksX1_empty_0 5 rfl rfl)
theorem dX1_empty_6 : decode cX1_empty 6 = .ok (.bipush 48, 2) := dk_16 48 (dk_at dksX1_empty_0 6 rfl rfl)
theorem dX1_empty_8 : decode cX1_empty 8 = .ok (.invokespecial 75, 3) := dk_183 0 75 (dk_at dksX1_empty_0 8 rfl rfl)
theorem dX1_empty_11 : decode cX1_empty 11 = .ok (.astore_n 2, 1) := dk_77 (dk_at dksX1_empty_0 11 rfl rfl)
theorem dX1_empty_12 : decode cX1_empty 12 = .ok (.aload_n 2, 1) := dk_44 (dk_at dksX1_empty_0 12 rfl rfl)
theorem dX1_empty_13 : decode cX1_empty 13 = .ok (.iconst 1, 1) := dk_4 (dk_at dksX1_empty_0 13 rfl rfl)
theorem dX1_empty_14 : decode cX1_empty 14 = .ok (.putfield 151, 3) := dk_181 0 151 (dk_at dksX1_empty_0 14 rfl rfl)
theorem dX1_empty_17 : decode cX1_empty 17 = .ok (.aload_n 2, 1) := dk_44 (dk_at dksX1_empty_0 17 rfl rfl)
theorem dX1_empty_18 : decode cX1_empty 18 = .ok (.areturn, 1) := dk_176 (dk_at dksX1_empty_0 18 rfl rfl)
abbrev cX1_least : ByteArray := prog_1_method_80_code
def yX1_least : MethodName := ⟨RX1, "least", "(IIII)I"⟩
def dkwX1_least_3 : List UInt8 := [172]
abbrev dktX1_least_3 : List UInt8 := dkwX1_least_3 ++ []
def dkwX1_least_2 : List UInt8 := [42, 4, 188, 11, 89, 3, 21, 6, 133, 80, 182, 0, 44, 21, 5, 172, 132, 5, 1, 167, 255, 209, 16, 254]
abbrev dktX1_least_2 : List UInt8 := dkwX1_least_2 ++ dktX1_least_3
def dkwX1_least_1 : List UInt8 := [163, 0, 46, 42, 21, 5, 27, 28, 29, 182, 1, 65, 54, 6, 21, 6, 21, 4, 164, 0, 6, 167, 0, 19]
abbrev dktX1_least_1 : List UInt8 := dkwX1_least_1 ++ dktX1_least_2
def dkwX1_least_0 : List UInt8 := [28, 29, 184, 1, 59, 153, 0, 8, 21, 4, 156, 0, 5, 2, 172, 7, 54, 5, 21, 5, 16, 8]
abbrev dktX1_least_0 : List UInt8 := dkwX1_least_0 ++ dktX1_least_1
theorem dksX1_least_0 : cX1_least.data.toList.drop 0 = dktX1_least_0 := by decide +kernel
theorem dksX1_least_1 : cX1_least.data.toList.drop 22 = dktX1_least_1 := dk_seg dksX1_least_0 22 rfl rfl
theorem dksX1_least_2 : cX1_least.data.toList.drop 46 = dktX1_least_2 := dk_seg dksX1_least_1 24 rfl rfl
theorem dksX1_least_3 : cX1_least.data.toList.drop 70 = dktX1_least_3 := dk_seg dksX1_least_2 24 rfl rfl
theorem dX1_least_0 : decode cX1_least 0 = .ok (.iload_n 2, 1) := dk_28 (dk_at dksX1_least_0 0 rfl rfl)
theorem dX1_least_1 : decode cX1_least 1 = .ok (.iload_n 3, 1) := dk_29 (dk_at dksX1_least_0 1 rfl rfl)
theorem dX1_least_2 : decode cX1_least 2 = .ok (.invokestatic 315, 3) := dk_184 1 59 (dk_at dksX1_least_0 2 rfl rfl)
theorem dX1_least_5 : decode cX1_least 5 = .ok (.ifCond .eq 8, 3) := dk_153 0 8 (dk_at dksX1_least_0 5 rfl rfl)
theorem dX1_least_8 : decode cX1_least 8 = .ok (.iload 4, 2) := dk_21 4 (dk_at dksX1_least_0 8 rfl rfl)
theorem dX1_least_10 : decode cX1_least 10 = .ok (.ifCond .ge 5, 3) := dk_156 0 5 (dk_at dksX1_least_0 10 rfl rfl)
theorem dX1_least_13 : decode cX1_least 13 = .ok (.iconst (-1), 1) := dk_2 (dk_at dksX1_least_0 13 rfl rfl)
theorem dX1_least_14 : decode cX1_least 14 = .ok (.ireturn, 1) := dk_172 (dk_at dksX1_least_0 14 rfl rfl)
theorem dX1_least_15 : decode cX1_least 15 = .ok (.iconst 4, 1) := dk_7 (dk_at dksX1_least_0 15 rfl rfl)
theorem dX1_least_16 : decode cX1_least 16 = .ok (.istore 5, 2) := dk_54 5 (dk_at dksX1_least_0 16 rfl rfl)
theorem dX1_least_18 : decode cX1_least 18 = .ok (.iload 5, 2) := dk_21 5 (dk_at dksX1_least_0 18 rfl rfl)
theorem dX1_least_20 : decode cX1_least 20 = .ok (.bipush 8, 2) := dk_16 8 (dk_at dksX1_least_0 20 rfl rfl)
theorem dX1_least_22 : decode cX1_least 22 = .ok (.if_icmp .gt 46, 3) := dk_163 0 46 (dk_at dksX1_least_1 0 rfl rfl)
theorem dX1_least_25 : decode cX1_least 25 = .ok (.aload_n 0, 1) := dk_42 (dk_at dksX1_least_1 3 rfl rfl)
theorem dX1_least_26 : decode cX1_least 26 = .ok (.iload 5, 2) := dk_21 5 (dk_at dksX1_least_1 4 rfl rfl)
theorem dX1_least_28 : decode cX1_least 28 = .ok (.iload_n 1, 1) := dk_27 (dk_at dksX1_least_1 6 rfl rfl)
theorem dX1_least_29 : decode cX1_least 29 = .ok (.iload_n 2, 1) := dk_28 (dk_at dksX1_least_1 7 rfl rfl)
theorem dX1_least_30 : decode cX1_least 30 = .ok (.iload_n 3, 1) := dk_29 (dk_at dksX1_least_1 8 rfl rfl)
theorem dX1_least_31 : decode cX1_least 31 = .ok (.invokevirtual 321, 3) := dk_182 1 65 (dk_at dksX1_least_1 9 rfl rfl)
theorem dX1_least_34 : decode cX1_least 34 = .ok (.istore 6, 2) := dk_54 6 (dk_at dksX1_least_1 12 rfl rfl)
theorem dX1_least_36 : decode cX1_least 36 = .ok (.iload 6, 2) := dk_21 6 (dk_at dksX1_least_1 14 rfl rfl)
theorem dX1_least_38 : decode cX1_least 38 = .ok (.iload 4, 2) := dk_21 4 (dk_at dksX1_least_1 16 rfl rfl)
theorem dX1_least_40 : decode cX1_least 40 = .ok (.if_icmp .le 6, 3) := dk_164 0 6 (dk_at dksX1_least_1 18 rfl rfl)
theorem dX1_least_43 : decode cX1_least 43 = .ok (.goto 19, 3) := dk_167 0 19 (dk_at dksX1_least_1 21 rfl rfl)
theorem dX1_least_46 : decode cX1_least 46 = .ok (.aload_n 0, 1) := dk_42 (dk_at dksX1_least_2 0 rfl rfl)
theorem dX1_least_47 : decode cX1_least 47 = .ok (.iconst 1, 1) := dk_4 (dk_at dksX1_least_2 1 rfl rfl)
theorem dX1_least_48 : decode cX1_least 48 = .ok (.newarray .long, 2) := dk_188_11 (dk_at dksX1_least_2 2 rfl rfl)
theorem dX1_least_50 : decode cX1_least 50 = .ok (.dup, 1) := dk_89 (dk_at dksX1_least_2 4 rfl rfl)
theorem dX1_least_51 : decode cX1_least 51 = .ok (.iconst 0, 1) := dk_3 (dk_at dksX1_least_2 5 rfl rfl)
theorem dX1_least_52 : decode cX1_least 52 = .ok (.iload 6, 2) := dk_21 6 (dk_at dksX1_least_2 6 rfl rfl)
theorem dX1_least_54 : decode cX1_least 54 = .ok (.i2l, 1) := dk_133 (dk_at dksX1_least_2 8 rfl rfl)
theorem dX1_least_55 : decode cX1_least 55 = .ok (.lastore, 1) := dk_80 (dk_at dksX1_least_2 9 rfl rfl)
theorem dX1_least_56 : decode cX1_least 56 = .ok (.invokevirtual 44, 3) := dk_182 0 44 (dk_at dksX1_least_2 10 rfl rfl)
theorem dX1_least_59 : decode cX1_least 59 = .ok (.iload 5, 2) := dk_21 5 (dk_at dksX1_least_2 13 rfl rfl)
theorem dX1_least_61 : decode cX1_least 61 = .ok (.ireturn, 1) := dk_172 (dk_at dksX1_least_2 15 rfl rfl)
theorem dX1_least_62 : decode cX1_least 62 = .ok (.iinc 5 1, 3) := dk_132 5 1 (dk_at dksX1_least_2 16 rfl rfl)
theorem dX1_least_65 : decode cX1_least 65 = .ok (.goto (-47), 3) := dk_167 255 209 (dk_at dksX1_least_2 19 rfl rfl)
theorem dX1_least_68 : decode cX1_least 68 = .ok (.bipush (-2), 2) := dk_16 254 (dk_at dksX1_least_2 22 rfl rfl)
theorem dX1_least_70 : decode cX1_least 70 = .ok (.ireturn, 1) := dk_172 (dk_at dksX1_least_3 0 rfl rfl)
abbrev cX1_offBy : ByteArray := prog_1_method_79_code
def yX1_offBy : MethodName := ⟨RX1, "offBy", "(IIII)I"⟩
def dkwX1_offBy_2 : List UInt8 := [184, 1, 46, 172]
abbrev dktX1_offBy_2 : List UInt8 := dkwX1_offBy_2 ++ []
def dkwX1_offBy_1 : List UInt8 := [104, 96, 182, 0, 34, 182, 0, 102, 87, 132, 6, 1, 167, 255, 230, 25, 5, 182, 0, 180, 29, 100]
abbrev dktX1_offBy_1 : List UInt8 := dkwX1_offBy_1 ++ dktX1_offBy_2
def dkwX1_offBy_0 : List UInt8 := [42, 27, 182, 1, 62, 58, 5, 3, 54, 6, 21, 6, 29, 162, 0, 26, 25, 5, 42, 28, 21, 6, 21, 4]
abbrev dktX1_offBy_0 : List UInt8 := dkwX1_offBy_0 ++ dktX1_offBy_1
theorem dksX1_offBy_0 : cX1_offBy.data.toList.drop 0 = dktX1_offBy_0 := by decide +kernel
theorem dksX1_offBy_1 : cX1_offBy.data.toList.drop 24 = dktX1_offBy_1 := dk_seg dksX1_offBy_0 24 rfl rfl
theorem dksX1_offBy_2 : cX1_offBy.data.toList.drop 46 = dktX1_offBy_2 := dk_seg dksX1_offBy_1 22 rfl rfl
theorem dX1_offBy_0 : decode cX1_offBy 0 = .ok (.aload_n 0, 1) := dk_42 (dk_at dksX1_offBy_0 0 rfl rfl)
theorem dX1_offBy_1 : decode cX1_offBy 1 = .ok (.iload_n 1, 1) := dk_27 (dk_at dksX1_offBy_0 1 rfl rfl)
theorem dX1_offBy_2 : decode cX1_offBy 2 = .ok (.invokevirtual 318, 3) := dk_182 1 62 (dk_at dksX1_offBy_0 2 rfl rfl)
theorem dX1_offBy_5 : decode cX1_offBy 5 = .ok (.astore 5, 2) := dk_58 5 (dk_at dksX1_offBy_0 5 rfl rfl)
theorem dX1_offBy_7 : decode cX1_offBy 7 = .ok (.iconst 0, 1) := dk_3 (dk_at dksX1_offBy_0 7 rfl rfl)
theorem dX1_offBy_8 : decode cX1_offBy 8 = .ok (.istore 6, 2) := dk_54 6 (dk_at dksX1_offBy_0 8 rfl rfl)
theorem dX1_offBy_10 : decode cX1_offBy 10 = .ok (.iload 6, 2) := dk_21 6 (dk_at dksX1_offBy_0 10 rfl rfl)
theorem dX1_offBy_12 : decode cX1_offBy 12 = .ok (.iload_n 3, 1) := dk_29 (dk_at dksX1_offBy_0 12 rfl rfl)
theorem dX1_offBy_13 : decode cX1_offBy 13 = .ok (.if_icmp .ge 26, 3) := dk_162 0 26 (dk_at dksX1_offBy_0 13 rfl rfl)
theorem dX1_offBy_16 : decode cX1_offBy 16 = .ok (.aload 5, 2) := dk_25 5 (dk_at dksX1_offBy_0 16 rfl rfl)
theorem dX1_offBy_18 : decode cX1_offBy 18 = .ok (.aload_n 0, 1) := dk_42 (dk_at dksX1_offBy_0 18 rfl rfl)
theorem dX1_offBy_19 : decode cX1_offBy 19 = .ok (.iload_n 2, 1) := dk_28 (dk_at dksX1_offBy_0 19 rfl rfl)
theorem dX1_offBy_20 : decode cX1_offBy 20 = .ok (.iload 6, 2) := dk_21 6 (dk_at dksX1_offBy_0 20 rfl rfl)
theorem dX1_offBy_22 : decode cX1_offBy 22 = .ok (.iload 4, 2) := dk_21 4 (dk_at dksX1_offBy_0 22 rfl rfl)
theorem dX1_offBy_24 : decode cX1_offBy 24 = .ok (.imul, 1) := dk_104 (dk_at dksX1_offBy_1 0 rfl rfl)
theorem dX1_offBy_25 : decode cX1_offBy 25 = .ok (.iadd, 1) := dk_96 (dk_at dksX1_offBy_1 1 rfl rfl)
theorem dX1_offBy_26 : decode cX1_offBy 26 = .ok (.invokevirtual 34, 3) := dk_182 0 34 (dk_at dksX1_offBy_1 2 rfl rfl)
theorem dX1_offBy_29 : decode cX1_offBy 29 = .ok (.invokevirtual 102, 3) := dk_182 0 102 (dk_at dksX1_offBy_1 5 rfl rfl)
theorem dX1_offBy_32 : decode cX1_offBy 32 = .ok (.pop, 1) := dk_87 (dk_at dksX1_offBy_1 8 rfl rfl)
theorem dX1_offBy_33 : decode cX1_offBy 33 = .ok (.iinc 6 1, 3) := dk_132 6 1 (dk_at dksX1_offBy_1 9 rfl rfl)
theorem dX1_offBy_36 : decode cX1_offBy 36 = .ok (.goto (-26), 3) := dk_167 255 230 (dk_at dksX1_offBy_1 12 rfl rfl)
theorem dX1_offBy_39 : decode cX1_offBy 39 = .ok (.aload 5, 2) := dk_25 5 (dk_at dksX1_offBy_1 15 rfl rfl)
theorem dX1_offBy_41 : decode cX1_offBy 41 = .ok (.invokevirtual 180, 3) := dk_182 0 180 (dk_at dksX1_offBy_1 17 rfl rfl)
theorem dX1_offBy_44 : decode cX1_offBy 44 = .ok (.iload_n 3, 1) := dk_29 (dk_at dksX1_offBy_1 20 rfl rfl)
theorem dX1_offBy_45 : decode cX1_offBy 45 = .ok (.isub, 1) := dk_100 (dk_at dksX1_offBy_1 21 rfl rfl)
theorem dX1_offBy_46 : decode cX1_offBy 46 = .ok (.invokestatic 302, 3) := dk_184 1 46 (dk_at dksX1_offBy_2 0 rfl rfl)
theorem dX1_offBy_49 : decode cX1_offBy 49 = .ok (.ireturn, 1) := dk_172 (dk_at dksX1_offBy_2 3 rfl rfl)
abbrev cX1_expects : ByteArray := prog_1_method_81_code
def yX1_expects : MethodName := ⟨RX1, "expects", "(II)I"⟩
def dkwX1_expects_2 : List UInt8 := [29, 172]
abbrev dktX1_expects_2 : List UInt8 := dkwX1_expects_2 ++ []
def dkwX1_expects_1 : List UInt8 := [27, 120, 62, 3, 54, 4, 21, 4, 28, 162, 0, 15, 29, 29, 27, 122, 100, 62, 132, 4, 1, 167, 255, 241]
abbrev dktX1_expects_1 : List UInt8 := dkwX1_expects_1 ++ dktX1_expects_2
def dkwX1_expects_0 : List UInt8 := [27, 184, 0, 37, 153, 0, 15, 28, 133, 9, 20, 1, 69, 184, 0, 7, 154, 0, 5, 2, 172, 17, 3, 232]
abbrev dktX1_expects_0 : List UInt8 := dkwX1_expects_0 ++ dktX1_expects_1
theorem dksX1_expects_0 : cX1_expects.data.toList.drop 0 = dktX1_expects_0 := by decide +kernel
theorem dksX1_expects_1 : cX1_expects.data.toList.drop 24 = dktX1_expects_1 := dk_seg dksX1_expects_0 24 rfl rfl
theorem dksX1_expects_2 : cX1_expects.data.toList.drop 48 = dktX1_expects_2 := dk_seg dksX1_expects_1 24 rfl rfl
theorem dX1_expects_0 : decode cX1_expects 0 = .ok (.iload_n 1, 1) := dk_27 (dk_at dksX1_expects_0 0 rfl rfl)
theorem dX1_expects_1 : decode cX1_expects 1 = .ok (.invokestatic 37, 3) := dk_184 0 37 (dk_at dksX1_expects_0 1 rfl rfl)
theorem dX1_expects_4 : decode cX1_expects 4 = .ok (.ifCond .eq 15, 3) := dk_153 0 15 (dk_at dksX1_expects_0 4 rfl rfl)
theorem dX1_expects_7 : decode cX1_expects 7 = .ok (.iload_n 2, 1) := dk_28 (dk_at dksX1_expects_0 7 rfl rfl)
theorem dX1_expects_8 : decode cX1_expects 8 = .ok (.i2l, 1) := dk_133 (dk_at dksX1_expects_0 8 rfl rfl)
theorem dX1_expects_9 : decode cX1_expects 9 = .ok (.lconst 0, 1) := dk_9 (dk_at dksX1_expects_0 9 rfl rfl)
theorem dX1_expects_10 : decode cX1_expects 10 = .ok (.ldc2_w 325, 3) := dk_20 1 69 (dk_at dksX1_expects_0 10 rfl rfl)
theorem dX1_expects_13 : decode cX1_expects 13 = .ok (.invokestatic 7, 3) := dk_184 0 7 (dk_at dksX1_expects_0 13 rfl rfl)
theorem dX1_expects_16 : decode cX1_expects 16 = .ok (.ifCond .ne 5, 3) := dk_154 0 5 (dk_at dksX1_expects_0 16 rfl rfl)
theorem dX1_expects_19 : decode cX1_expects 19 = .ok (.iconst (-1), 1) := dk_2 (dk_at dksX1_expects_0 19 rfl rfl)
theorem dX1_expects_20 : decode cX1_expects 20 = .ok (.ireturn, 1) := dk_172 (dk_at dksX1_expects_0 20 rfl rfl)
theorem dX1_expects_21 : decode cX1_expects 21 = .ok (.sipush 1000, 3) := dk_17 3 232 (dk_at dksX1_expects_0 21 rfl rfl)
theorem dX1_expects_24 : decode cX1_expects 24 = .ok (.iload_n 1, 1) := dk_27 (dk_at dksX1_expects_1 0 rfl rfl)
theorem dX1_expects_25 : decode cX1_expects 25 = .ok (.ishl, 1) := dk_120 (dk_at dksX1_expects_1 1 rfl rfl)
theorem dX1_expects_26 : decode cX1_expects 26 = .ok (.istore_n 3, 1) := dk_62 (dk_at dksX1_expects_1 2 rfl rfl)
theorem dX1_expects_27 : decode cX1_expects 27 = .ok (.iconst 0, 1) := dk_3 (dk_at dksX1_expects_1 3 rfl rfl)
theorem dX1_expects_28 : decode cX1_expects 28 = .ok (.istore 4, 2) := dk_54 4 (dk_at dksX1_expects_1 4 rfl rfl)
theorem dX1_expects_30 : decode cX1_expects 30 = .ok (.iload 4, 2) := dk_21 4 (dk_at dksX1_expects_1 6 rfl rfl)
theorem dX1_expects_32 : decode cX1_expects 32 = .ok (.iload_n 2, 1) := dk_28 (dk_at dksX1_expects_1 8 rfl rfl)
theorem dX1_expects_33 : decode cX1_expects 33 = .ok (.if_icmp .ge 15, 3) := dk_162 0 15 (dk_at dksX1_expects_1 9 rfl rfl)
theorem dX1_expects_36 : decode cX1_expects 36 = .ok (.iload_n 3, 1) := dk_29 (dk_at dksX1_expects_1 12 rfl rfl)
theorem dX1_expects_37 : decode cX1_expects 37 = .ok (.iload_n 3, 1) := dk_29 (dk_at dksX1_expects_1 13 rfl rfl)
theorem dX1_expects_38 : decode cX1_expects 38 = .ok (.iload_n 1, 1) := dk_27 (dk_at dksX1_expects_1 14 rfl rfl)
theorem dX1_expects_39 : decode cX1_expects 39 = .ok (.ishr, 1) := dk_122 (dk_at dksX1_expects_1 15 rfl rfl)
theorem dX1_expects_40 : decode cX1_expects 40 = .ok (.isub, 1) := dk_100 (dk_at dksX1_expects_1 16 rfl rfl)
theorem dX1_expects_41 : decode cX1_expects 41 = .ok (.istore_n 3, 1) := dk_62 (dk_at dksX1_expects_1 17 rfl rfl)
theorem dX1_expects_42 : decode cX1_expects 42 = .ok (.iinc 4 1, 3) := dk_132 4 1 (dk_at dksX1_expects_1 18 rfl rfl)
theorem dX1_expects_45 : decode cX1_expects 45 = .ok (.goto (-15), 3) := dk_167 255 241 (dk_at dksX1_expects_1 21 rfl rfl)
theorem dX1_expects_48 : decode cX1_expects 48 = .ok (.iload_n 3, 1) := dk_29 (dk_at dksX1_expects_2 0 rfl rfl)
theorem dX1_expects_49 : decode cX1_expects 49 = .ok (.ireturn, 1) := dk_172 (dk_at dksX1_expects_2 1 rfl rfl)
abbrev cX1_things : ByteArray := prog_1_method_82_code
def yX1_things : MethodName := ⟨RX1, "things", "(II)I"⟩
def dkwX1_things_2 : List UInt8 := [28, 163, 0, 8, 21, 4, 167, 0, 5, 16, 254, 172]
abbrev dktX1_things_2 : List UInt8 := dkwX1_things_2 ++ []
def dkwX1_things_1 : List UInt8 := [164, 0, 23, 21, 4, 19, 1, 71, 162, 0, 15, 29, 29, 27, 122, 100, 62, 132, 4, 1, 167, 255, 234, 29]
abbrev dktX1_things_1 : List UInt8 := dkwX1_things_1 ++ dktX1_things_2
def dkwX1_things_0 : List UInt8 := [27, 184, 0, 37, 153, 0, 7, 28, 156, 0, 5, 2, 172, 17, 3, 232, 27, 120, 62, 3, 54, 4, 29, 28]
abbrev dktX1_things_0 : List UInt8 := dkwX1_things_0 ++ dktX1_things_1
theorem dksX1_things_0 : cX1_things.data.toList.drop 0 = dktX1_things_0 := by decide +kernel
theorem dksX1_things_1 : cX1_things.data.toList.drop 24 = dktX1_things_1 := dk_seg dksX1_things_0 24 rfl rfl
theorem dksX1_things_2 : cX1_things.data.toList.drop 48 = dktX1_things_2 := dk_seg dksX1_things_1 24 rfl rfl
theorem dX1_things_0 : decode cX1_things 0 = .ok (.iload_n 1, 1) := dk_27 (dk_at dksX1_things_0 0 rfl rfl)
theorem dX1_things_1 : decode cX1_things 1 = .ok (.invokestatic 37, 3) := dk_184 0 37 (dk_at dksX1_things_0 1 rfl rfl)
theorem dX1_things_4 : decode cX1_things 4 = .ok (.ifCond .eq 7, 3) := dk_153 0 7 (dk_at dksX1_things_0 4 rfl rfl)
theorem dX1_things_7 : decode cX1_things 7 = .ok (.iload_n 2, 1) := dk_28 (dk_at dksX1_things_0 7 rfl rfl)
theorem dX1_things_8 : decode cX1_things 8 = .ok (.ifCond .ge 5, 3) := dk_156 0 5 (dk_at dksX1_things_0 8 rfl rfl)
theorem dX1_things_11 : decode cX1_things 11 = .ok (.iconst (-1), 1) := dk_2 (dk_at dksX1_things_0 11 rfl rfl)
theorem dX1_things_12 : decode cX1_things 12 = .ok (.ireturn, 1) := dk_172 (dk_at dksX1_things_0 12 rfl rfl)
theorem dX1_things_13 : decode cX1_things 13 = .ok (.sipush 1000, 3) := dk_17 3 232 (dk_at dksX1_things_0 13 rfl rfl)
theorem dX1_things_16 : decode cX1_things 16 = .ok (.iload_n 1, 1) := dk_27 (dk_at dksX1_things_0 16 rfl rfl)
theorem dX1_things_17 : decode cX1_things 17 = .ok (.ishl, 1) := dk_120 (dk_at dksX1_things_0 17 rfl rfl)
theorem dX1_things_18 : decode cX1_things 18 = .ok (.istore_n 3, 1) := dk_62 (dk_at dksX1_things_0 18 rfl rfl)
theorem dX1_things_19 : decode cX1_things 19 = .ok (.iconst 0, 1) := dk_3 (dk_at dksX1_things_0 19 rfl rfl)
theorem dX1_things_20 : decode cX1_things 20 = .ok (.istore 4, 2) := dk_54 4 (dk_at dksX1_things_0 20 rfl rfl)
theorem dX1_things_22 : decode cX1_things 22 = .ok (.iload_n 3, 1) := dk_29 (dk_at dksX1_things_0 22 rfl rfl)
theorem dX1_things_23 : decode cX1_things 23 = .ok (.iload_n 2, 1) := dk_28 (dk_at dksX1_things_0 23 rfl rfl)
theorem dX1_things_24 : decode cX1_things 24 = .ok (.if_icmp .le 23, 3) := dk_164 0 23 (dk_at dksX1_things_1 0 rfl rfl)
theorem dX1_things_27 : decode cX1_things 27 = .ok (.iload 4, 2) := dk_21 4 (dk_at dksX1_things_1 3 rfl rfl)
theorem dX1_things_29 : decode cX1_things 29 = .ok (.ldc_w 327, 3) := dk_19 1 71 (dk_at dksX1_things_1 5 rfl rfl)
theorem dX1_things_32 : decode cX1_things 32 = .ok (.if_icmp .ge 15, 3) := dk_162 0 15 (dk_at dksX1_things_1 8 rfl rfl)
theorem dX1_things_35 : decode cX1_things 35 = .ok (.iload_n 3, 1) := dk_29 (dk_at dksX1_things_1 11 rfl rfl)
theorem dX1_things_36 : decode cX1_things 36 = .ok (.iload_n 3, 1) := dk_29 (dk_at dksX1_things_1 12 rfl rfl)
theorem dX1_things_37 : decode cX1_things 37 = .ok (.iload_n 1, 1) := dk_27 (dk_at dksX1_things_1 13 rfl rfl)
theorem dX1_things_38 : decode cX1_things 38 = .ok (.ishr, 1) := dk_122 (dk_at dksX1_things_1 14 rfl rfl)
theorem dX1_things_39 : decode cX1_things 39 = .ok (.isub, 1) := dk_100 (dk_at dksX1_things_1 15 rfl rfl)
theorem dX1_things_40 : decode cX1_things 40 = .ok (.istore_n 3, 1) := dk_62 (dk_at dksX1_things_1 16 rfl rfl)
theorem dX1_things_41 : decode cX1_things 41 = .ok (.iinc 4 1, 3) := dk_132 4 1 (dk_at dksX1_things_1 17 rfl rfl)
theorem dX1_things_44 : decode cX1_things 44 = .ok (.goto (-22), 3) := dk_167 255 234 (dk_at dksX1_things_1 20 rfl rfl)
theorem dX1_things_47 : decode cX1_things 47 = .ok (.iload_n 3, 1) := dk_29 (dk_at dksX1_things_1 23 rfl rfl)
theorem dX1_things_48 : decode cX1_things 48 = .ok (.iload_n 2, 1) := dk_28 (dk_at dksX1_things_2 0 rfl rfl)
theorem dX1_things_49 : decode cX1_things 49 = .ok (.if_icmp .gt 8, 3) := dk_163 0 8 (dk_at dksX1_things_2 1 rfl rfl)
theorem dX1_things_52 : decode cX1_things 52 = .ok (.iload 4, 2) := dk_21 4 (dk_at dksX1_things_2 4 rfl rfl)
theorem dX1_things_54 : decode cX1_things 54 = .ok (.goto 5, 3) := dk_167 0 5 (dk_at dksX1_things_2 6 rfl rfl)
theorem dX1_things_57 : decode cX1_things 57 = .ok (.bipush (-2), 2) := dk_16 254 (dk_at dksX1_things_2 9 rfl rfl)
theorem dX1_things_59 : decode cX1_things 59 = .ok (.ireturn, 1) := dk_172 (dk_at dksX1_things_2 11 rfl rfl)
abbrev cX1_would : ByteArray := prog_1_method_83_code
def yX1_would : MethodName := ⟨RX1, "would", "(IIII)I"⟩
def dkwX1_would_5 : List UInt8 := [80, 182, 0, 44, 25, 5, 182, 0, 180, 172]
abbrev dktX1_would_5 : List UInt8 := dkwX1_would_5 ++ []
def dkwX1_would_4 : List UInt8 := [5, 188, 11, 89, 3, 21, 6, 133, 80, 89, 4, 25, 5, 180, 0, 151, 153, 0, 7, 10, 167, 0, 4, 9]
abbrev dktX1_would_4 : List UInt8 := dkwX1_would_4 ++ dktX1_would_5
def dkwX1_would_3 : List UInt8 := [182, 0, 34, 182, 0, 102, 153, 0, 7, 4, 167, 0, 4, 3, 96, 54, 6, 132, 7, 1, 167, 255, 218, 42]
abbrev dktX1_would_3 : List UInt8 := dkwX1_would_3 ++ dktX1_would_4
def dkwX1_would_2 : List UInt8 := [3, 54, 6, 3, 54, 7, 21, 7, 29, 162, 0, 38, 21, 6, 25, 5, 42, 28, 21, 7, 21, 4, 104, 96]
abbrev dktX1_would_2 : List UInt8 := dkwX1_would_2 ++ dktX1_would_3
def dkwX1_would_1 : List UInt8 := [154, 0, 5, 2, 172, 42, 4, 189, 0, 69, 89, 3, 42, 180, 0, 71, 27, 50, 83, 182, 0, 183, 58, 5]
abbrev dktX1_would_1 : List UInt8 := dkwX1_would_1 ++ dktX1_would_2
def dkwX1_would_0 : List UInt8 := [4, 188, 10, 89, 3, 27, 79, 184, 0, 92, 153, 0, 15, 29, 133, 9, 20, 0, 105, 184, 0, 7]
abbrev dktX1_would_0 : List UInt8 := dkwX1_would_0 ++ dktX1_would_1
theorem dksX1_would_0 : cX1_would.data.toList.drop 0 = dktX1_would_0 := by decide +kernel
theorem dksX1_would_1 : cX1_would.data.toList.drop 22 = dktX1_would_1 := dk_seg dksX1_would_0 22 rfl rfl
theorem dksX1_would_2 : cX1_would.data.toList.drop 46 = dktX1_would_2 := dk_seg dksX1_would_1 24 rfl rfl
theorem dksX1_would_3 : cX1_would.data.toList.drop 70 = dktX1_would_3 := dk_seg dksX1_would_2 24 rfl rfl
theorem dksX1_would_4 : cX1_would.data.toList.drop 94 = dktX1_would_4 := dk_seg dksX1_would_3 24 rfl rfl
theorem dksX1_would_5 : cX1_would.data.toList.drop 118 = dktX1_would_5 := dk_seg dksX1_would_4 24 rfl rfl
theorem dX1_would_0 : decode cX1_would 0 = .ok (.iconst 1, 1) := dk_4 (dk_at dksX1_would_0 0 rfl rfl)
theorem dX1_would_1 : decode cX1_would 1 = .ok (.newarray .int, 2) := dk_188_10 (dk_at dksX1_would_0 1 rfl rfl)
theorem dX1_would_3 : decode cX1_would 3 = .ok (.dup, 1) := dk_89 (dk_at dksX1_would_0 3 rfl rfl)
theorem dX1_would_4 : decode cX1_would 4 = .ok (.iconst 0, 1) := dk_3 (dk_at dksX1_would_0 4 rfl rfl)
theorem dX1_would_5 : decode cX1_would 5 = .ok (.iload_n 1, 1) := dk_27 (dk_at dksX1_would_0 5 rfl rfl)
theorem dX1_would_6 : decode cX1_would 6 = .ok (.iastore, 1) := dk_79 (dk_at dksX1_would_0 6 rfl rfl)
theorem dX1_would_7 : decode cX1_would 7 = .ok (.invokestatic 92, 3) := dk_184 0 92 (dk_at dksX1_would_0 7 rfl rfl)
theorem dX1_would_10 : decode cX1_would 10 = .ok (.ifCond .eq 15, 3) := dk_153 0 15 (dk_at dksX1_would_0 10 rfl rfl)
theorem dX1_would_13 : decode cX1_would 13 = .ok (.iload_n 3, 1) := dk_29 (dk_at dksX1_would_0 13 rfl rfl)
theorem dX1_would_14 : decode cX1_would 14 = .ok (.i2l, 1) := dk_133 (dk_at dksX1_would_0 14 rfl rfl)
theorem dX1_would_15 : decode cX1_would 15 = .ok (.lconst 0, 1) := dk_9 (dk_at dksX1_would_0 15 rfl rfl)
theorem dX1_would_16 : decode cX1_would 16 = .ok (.ldc2_w 105, 3) := dk_20 0 105 (dk_at dksX1_would_0 16 rfl rfl)
theorem dX1_would_19 : decode cX1_would 19 = .ok (.invokestatic 7, 3) := dk_184 0 7 (dk_at dksX1_would_0 19 rfl rfl)
theorem dX1_would_22 : decode cX1_would 22 = .ok (.ifCond .ne 5, 3) := dk_154 0 5 (dk_at dksX1_would_1 0 rfl rfl)
theorem dX1_would_25 : decode cX1_would 25 = .ok (.iconst (-1), 1) := dk_2 (dk_at dksX1_would_1 3 rfl rfl)
theorem dX1_would_26 : decode cX1_would 26 = .ok (.ireturn, 1) := dk_172 (dk_at dksX1_would_1 4 rfl rfl)
theorem dX1_would_27 : decode cX1_would 27 = .ok (.aload_n 0, 1) := dk_42 (dk_at dksX1_would_1 5 rfl rfl)
theorem dX1_would_28 : decode cX1_would 28 = .ok (.iconst 1, 1) := dk_4 (dk_at dksX1_would_1 6 rfl rfl)
theorem dX1_would_29 : decode cX1_would 29 = .ok (.anewarray 69, 3) := dk_189 0 69 (dk_at dksX1_would_1 7 rfl rfl)
theorem dX1_would_32 : decode cX1_would 32 = .ok (.dup, 1) := dk_89 (dk_at dksX1_would_1 10 rfl rfl)
theorem dX1_would_33 : decode cX1_would 33 = .ok (.iconst 0, 1) := dk_3 (dk_at dksX1_would_1 11 rfl rfl)
theorem dX1_would_34 : decode cX1_would 34 = .ok (.aload_n 0, 1) := dk_42 (dk_at dksX1_would_1 12 rfl rfl)
theorem dX1_would_35 : decode cX1_would 35 = .ok (.getfield 71, 3) := dk_180 0 71 (dk_at dksX1_would_1 13 rfl rfl)
theorem dX1_would_38 : decode cX1_would 38 = .ok (.iload_n 1, 1) := dk_27 (dk_at dksX1_would_1 16 rfl rfl)
theorem dX1_would_39 : decode cX1_would 39 = .ok (.aaload, 1) := dk_50 (dk_at dksX1_would_1 17 rfl rfl)
theorem dX1_would_40 : decode cX1_would 40 = .ok (.aastore, 1) := dk_83 (dk_at dksX1_would_1 18 rfl rfl)
theorem dX1_would_41 : decode cX1_would 41 = .ok (.invokevirtual 183, 3) := dk_182 0 183 (dk_at dksX1_would_1 19 rfl rfl)
theorem dX1_would_44 : decode cX1_would 44 = .ok (.astore 5, 2) := dk_58 5 (dk_at dksX1_would_1 22 rfl rfl)
theorem dX1_would_46 : decode cX1_would 46 = .ok (.iconst 0, 1) := dk_3 (dk_at dksX1_would_2 0 rfl rfl)
theorem dX1_would_47 : decode cX1_would 47 = .ok (.istore 6, 2) := dk_54 6 (dk_at dksX1_would_2 1 rfl rfl)
theorem dX1_would_49 : decode cX1_would 49 = .ok (.iconst 0, 1) := dk_3 (dk_at dksX1_would_2 3 rfl rfl)
theorem dX1_would_50 : decode cX1_would 50 = .ok (.istore 7, 2) := dk_54 7 (dk_at dksX1_would_2 4 rfl rfl)
theorem dX1_would_52 : decode cX1_would 52 = .ok (.iload 7, 2) := dk_21 7 (dk_at dksX1_would_2 6 rfl rfl)
theorem dX1_would_54 : decode cX1_would 54 = .ok (.iload_n 3, 1) := dk_29 (dk_at dksX1_would_2 8 rfl rfl)
theorem dX1_would_55 : decode cX1_would 55 = .ok (.if_icmp .ge 38, 3) := dk_162 0 38 (dk_at dksX1_would_2 9 rfl rfl)
theorem dX1_would_58 : decode cX1_would 58 = .ok (.iload 6, 2) := dk_21 6 (dk_at dksX1_would_2 12 rfl rfl)
theorem dX1_would_60 : decode cX1_would 60 = .ok (.aload 5, 2) := dk_25 5 (dk_at dksX1_would_2 14 rfl rfl)
theorem dX1_would_62 : decode cX1_would 62 = .ok (.aload_n 0, 1) := dk_42 (dk_at dksX1_would_2 16 rfl rfl)
theorem dX1_would_63 : decode cX1_would 63 = .ok (.iload_n 2, 1) := dk_28 (dk_at dksX1_would_2 17 rfl rfl)
theorem dX1_would_64 : decode cX1_would 64 = .ok (.iload 7, 2) := dk_21 7 (dk_at dksX1_would_2 18 rfl rfl)
theorem dX1_would_66 : decode cX1_would 66 = .ok (.iload 4, 2) := dk_21 4 (dk_at dksX1_would_2 20 rfl rfl)
theorem dX1_would_68 : decode cX1_would 68 = .ok (.imul, 1) := dk_104 (dk_at dksX1_would_2 22 rfl rfl)
theorem dX1_would_69 : decode cX1_would 69 = .ok (.iadd, 1) := dk_96 (dk_at dksX1_would_2 23 rfl rfl)
theorem dX1_would_70 : decode cX1_would 70 = .ok (.invokevirtual 34, 3) := dk_182 0 34 (dk_at dksX1_would_3 0 rfl rfl)
theorem dX1_would_73 : decode cX1_would 73 = .ok (.invokevirtual 102, 3) := dk_182 0 102 (dk_at dksX1_would_3 3 rfl rfl)
theorem dX1_would_76 : decode cX1_would 76 = .ok (.ifCond .eq 7, 3) := dk_153 0 7 (dk_at dksX1_would_3 6 rfl rfl)
theorem dX1_would_79 : decode cX1_would 79 = .ok (.iconst 1, 1) := dk_4 (dk_at dksX1_would_3 9 rfl rfl)
theorem dX1_would_80 : decode cX1_would 80 = .ok (.goto 4, 3) := dk_167 0 4 (dk_at dksX1_would_3 10 rfl rfl)
theorem dX1_would_83 : decode cX1_would 83 = .ok (.iconst 0, 1) := dk_3 (dk_at dksX1_would_3 13 rfl rfl)
theorem dX1_would_84 : decode cX1_would 84 = .ok (.iadd, 1) := dk_96 (dk_at dksX1_would_3 14 rfl rfl)
theorem dX1_would_85 : decode cX1_would 85 = .ok (.istore 6, 2) := dk_54 6 (dk_at dksX1_would_3 15 rfl rfl)
theorem dX1_would_87 : decode cX1_would 87 = .ok (.iinc 7 1, 3) := dk_132 7 1 (dk_at dksX1_would_3 17 rfl rfl)
theorem dX1_would_90 : decode cX1_would 90 = .ok (.goto (-38), 3) := dk_167 255 218 (dk_at dksX1_would_3 20 rfl rfl)
theorem dX1_would_93 : decode cX1_would 93 = .ok (.aload_n 0, 1) := dk_42 (dk_at dksX1_would_3 23 rfl rfl)
theorem dX1_would_94 : decode cX1_would 94 = .ok (.iconst 2, 1) := dk_5 (dk_at dksX1_would_4 0 rfl rfl)
theorem dX1_would_95 : decode cX1_would 95 = .ok (.newarray .long, 2) := dk_188_11 (dk_at dksX1_would_4 1 rfl rfl)
theorem dX1_would_97 : decode cX1_would 97 = .ok (.dup, 1) := dk_89 (dk_at dksX1_would_4 3 rfl rfl)
theorem dX1_would_98 : decode cX1_would 98 = .ok (.iconst 0, 1) := dk_3 (dk_at dksX1_would_4 4 rfl rfl)
theorem dX1_would_99 : decode cX1_would 99 = .ok (.iload 6, 2) := dk_21 6 (dk_at dksX1_would_4 5 rfl rfl)
theorem dX1_would_101 : decode cX1_would 101 = .ok (.i2l, 1) := dk_133 (dk_at dksX1_would_4 7 rfl rfl)
theorem dX1_would_102 : decode cX1_would 102 = .ok (.lastore, 1) := dk_80 (dk_at dksX1_would_4 8 rfl rfl)
theorem dX1_would_103 : decode cX1_would 103 = .ok (.dup, 1) := dk_89 (dk_at dksX1_would_4 9 rfl rfl)
theorem dX1_would_104 : decode cX1_would 104 = .ok (.iconst 1, 1) := dk_4 (dk_at dksX1_would_4 10 rfl rfl)
theorem dX1_would_105 : decode cX1_would 105 = .ok (.aload 5, 2) := dk_25 5 (dk_at dksX1_would_4 11 rfl rfl)
theorem dX1_would_107 : decode cX1_would 107 = .ok (.getfield 151, 3) := dk_180 0 151 (dk_at dksX1_would_4 13 rfl rfl)
theorem dX1_would_110 : decode cX1_would 110 = .ok (.ifCond .eq 7, 3) := dk_153 0 7 (dk_at dksX1_would_4 16 rfl rfl)
theorem dX1_would_113 : decode cX1_would 113 = .ok (.lconst 1, 1) := dk_10 (dk_at dksX1_would_4 19 rfl rfl)
theorem dX1_would_114 : decode cX1_would 114 = .ok (.goto 4, 3) := dk_167 0 4 (dk_at dksX1_would_4 20 rfl rfl)
theorem dX1_would_117 : decode cX1_would 117 = .ok (.lconst 0, 1) := dk_9 (dk_at dksX1_would_4 23 rfl rfl)
theorem dX1_would_118 : decode cX1_would 118 = .ok (.lastore, 1) := dk_80 (dk_at dksX1_would_5 0 rfl rfl)
theorem dX1_would_119 : decode cX1_would 119 = .ok (.invokevirtual 44, 3) := dk_182 0 44 (dk_at dksX1_would_5 1 rfl rfl)
theorem dX1_would_122 : decode cX1_would 122 = .ok (.aload 5, 2) := dk_25 5 (dk_at dksX1_would_5 4 rfl rfl)
theorem dX1_would_124 : decode cX1_would 124 = .ok (.invokevirtual 180, 3) := dk_182 0 180 (dk_at dksX1_would_5 6 rfl rfl)
theorem dX1_would_127 : decode cX1_would 127 = .ok (.ireturn, 1) := dk_172 (dk_at dksX1_would_5 9 rfl rfl)
abbrev cX1_reaches : ByteArray := prog_1_method_84_code
def yX1_reaches : MethodName := ⟨RX1, "reaches", "(IIII)I"⟩
def dkwX1_reaches_4 : List UInt8 := [16, 254, 172, 42, 4, 188, 11, 89, 3, 25, 5, 182, 0, 180, 133, 80, 182, 0, 44, 21, 6, 172]
abbrev dktX1_reaches_4 : List UInt8 := dkwX1_reaches_4 ++ []
def dkwX1_reaches_3 : List UInt8 := [96, 182, 0, 34, 182, 0, 102, 87, 132, 6, 1, 167, 255, 219, 25, 5, 182, 0, 180, 21, 4, 162, 0, 6]
abbrev dktX1_reaches_3 : List UInt8 := dkwX1_reaches_3 ++ dktX1_reaches_4
def dkwX1_reaches_2 : List UInt8 := [182, 0, 180, 21, 4, 162, 0, 33, 21, 6, 17, 3, 232, 162, 0, 25, 25, 5, 42, 28, 21, 6, 29, 104]
abbrev dktX1_reaches_2 : List UInt8 := dkwX1_reaches_2 ++ dktX1_reaches_3
def dkwX1_reaches_1 : List UInt8 := [189, 0, 69, 89, 3, 42, 180, 0, 71, 27, 50, 83, 182, 0, 183, 58, 5, 3, 54, 6, 25, 5]
abbrev dktX1_reaches_1 : List UInt8 := dkwX1_reaches_1 ++ dktX1_reaches_2
def dkwX1_reaches_0 : List UInt8 := [4, 188, 10, 89, 3, 27, 79, 184, 0, 92, 153, 0, 8, 21, 4, 156, 0, 5, 2, 172, 42, 4]
abbrev dktX1_reaches_0 : List UInt8 := dkwX1_reaches_0 ++ dktX1_reaches_1
theorem dksX1_reaches_0 : cX1_reaches.data.toList.drop 0 = dktX1_reaches_0 := by decide +kernel
theorem dksX1_reaches_1 : cX1_reaches.data.toList.drop 22 = dktX1_reaches_1 := dk_seg dksX1_reaches_0 22 rfl rfl
theorem dksX1_reaches_2 : cX1_reaches.data.toList.drop 44 = dktX1_reaches_2 := dk_seg dksX1_reaches_1 22 rfl rfl
theorem dksX1_reaches_3 : cX1_reaches.data.toList.drop 68 = dktX1_reaches_3 := dk_seg dksX1_reaches_2 24 rfl rfl
theorem dksX1_reaches_4 : cX1_reaches.data.toList.drop 92 = dktX1_reaches_4 := dk_seg dksX1_reaches_3 24 rfl rfl
theorem dX1_reaches_0 : decode cX1_reaches 0 = .ok (.iconst 1, 1) := dk_4 (dk_at dksX1_reaches_0 0 rfl rfl)
theorem dX1_reaches_1 : decode cX1_reaches 1 = .ok (.newarray .int, 2) := dk_188_10 (dk_at dksX1_reaches_0 1 rfl rfl)
theorem dX1_reaches_3 : decode cX1_reaches 3 = .ok (.dup, 1) := dk_89 (dk_at dksX1_reaches_0 3 rfl rfl)
theorem dX1_reaches_4 : decode cX1_reaches 4 = .ok (.iconst 0, 1) := dk_3 (dk_at dksX1_reaches_0 4 rfl rfl)
theorem dX1_reaches_5 : decode cX1_reaches 5 = .ok (.iload_n 1, 1) := dk_27 (dk_at dksX1_reaches_0 5 rfl rfl)
theorem dX1_reaches_6 : decode cX1_reaches 6 = .ok (.iastore, 1) := dk_79 (dk_at dksX1_reaches_0 6 rfl rfl)
theorem dX1_reaches_7 : decode cX1_reaches 7 = .ok (.invokestatic 92, 3) := dk_184 0 92 (dk_at dksX1_reaches_0 7 rfl rfl)
theorem dX1_reaches_10 : decode cX1_reaches 10 = .ok (.ifCond .eq 8, 3) := dk_153 0 8 (dk_at dksX1_reaches_0 10 rfl rfl)
theorem dX1_reaches_13 : decode cX1_reaches 13 = .ok (.iload 4, 2) := dk_21 4 (dk_at dksX1_reaches_0 13 rfl rfl)
theorem dX1_reaches_15 : decode cX1_reaches 15 = .ok (.ifCond .ge 5, 3) := dk_156 0 5 (dk_at dksX1_reaches_0 15 rfl rfl)
theorem dX1_reaches_18 : decode cX1_reaches 18 = .ok (.iconst (-1), 1) := dk_2 (dk_at dksX1_reaches_0 18 rfl rfl)
theorem dX1_reaches_19 : decode cX1_reaches 19 = .ok (.ireturn, 1) := dk_172 (dk_at dksX1_reaches_0 19 rfl rfl)
theorem dX1_reaches_20 : decode cX1_reaches 20 = .ok (.aload_n 0, 1) := dk_42 (dk_at dksX1_reaches_0 20 rfl rfl)
theorem dX1_reaches_21 : decode cX1_reaches 21 = .ok (.iconst 1, 1) := dk_4 (dk_at dksX1_reaches_0 21 rfl rfl)
theorem dX1_reaches_22 : decode cX1_reaches 22 = .ok (.anewarray 69, 3) := dk_189 0 69 (dk_at dksX1_reaches_1 0 rfl rfl)
theorem dX1_reaches_25 : decode cX1_reaches 25 = .ok (.dup, 1) := dk_89 (dk_at dksX1_reaches_1 3 rfl rfl)
theorem dX1_reaches_26 : decode cX1_reaches 26 = .ok (.iconst 0, 1) := dk_3 (dk_at dksX1_reaches_1 4 rfl rfl)
theorem dX1_reaches_27 : decode cX1_reaches 27 = .ok (.aload_n 0, 1) := dk_42 (dk_at dksX1_reaches_1 5 rfl rfl)
theorem dX1_reaches_28 : decode cX1_reaches 28 = .ok (.getfield 71, 3) := dk_180 0 71 (dk_at dksX1_reaches_1 6 rfl rfl)
theorem dX1_reaches_31 : decode cX1_reaches 31 = .ok (.iload_n 1, 1) := dk_27 (dk_at dksX1_reaches_1 9 rfl rfl)
theorem dX1_reaches_32 : decode cX1_reaches 32 = .ok (.aaload, 1) := dk_50 (dk_at dksX1_reaches_1 10 rfl rfl)
theorem dX1_reaches_33 : decode cX1_reaches 33 = .ok (.aastore, 1) := dk_83 (dk_at dksX1_reaches_1 11 rfl rfl)
theorem dX1_reaches_34 : decode cX1_reaches 34 = .ok (.invokevirtual 183, 3) := dk_182 0 183 (dk_at dksX1_reaches_1 12 rfl rfl)
theorem dX1_reaches_37 : decode cX1_reaches 37 = .ok (.astore 5, 2) := dk_58 5 (dk_at dksX1_reaches_1 15 rfl rfl)
theorem dX1_reaches_39 : decode cX1_reaches 39 = .ok (.iconst 0, 1) := dk_3 (dk_at dksX1_reaches_1 17 rfl rfl)
theorem dX1_reaches_40 : decode cX1_reaches 40 = .ok (.istore 6, 2) := dk_54 6 (dk_at dksX1_reaches_1 18 rfl rfl)
theorem dX1_reaches_42 : decode cX1_reaches 42 = .ok (.aload 5, 2) := dk_25 5 (dk_at dksX1_reaches_1 20 rfl rfl)
theorem dX1_reaches_44 : decode cX1_reaches 44 = .ok (.invokevirtual 180, 3) := dk_182 0 180 (dk_at dksX1_reaches_2 0 rfl rfl)
theorem dX1_reaches_47 : decode cX1_reaches 47 = .ok (.iload 4, 2) := dk_21 4 (dk_at dksX1_reaches_2 3 rfl rfl)
theorem dX1_reaches_49 : decode cX1_reaches 49 = .ok (.if_icmp .ge 33, 3) := dk_162 0 33 (dk_at dksX1_reaches_2 5 rfl rfl)
theorem dX1_reaches_52 : decode cX1_reaches 52 = .ok (.iload 6, 2) := dk_21 6 (dk_at dksX1_reaches_2 8 rfl rfl)
theorem dX1_reaches_54 : decode cX1_reaches 54 = .ok (.sipush 1000, 3) := dk_17 3 232 (dk_at dksX1_reaches_2 10 rfl rfl)
theorem dX1_reaches_57 : decode cX1_reaches 57 = .ok (.if_icmp .ge 25, 3) := dk_162 0 25 (dk_at dksX1_reaches_2 13 rfl rfl)
theorem dX1_reaches_60 : decode cX1_reaches 60 = .ok (.aload 5, 2) := dk_25 5 (dk_at dksX1_reaches_2 16 rfl rfl)
theorem dX1_reaches_62 : decode cX1_reaches 62 = .ok (.aload_n 0, 1) := dk_42 (dk_at dksX1_reaches_2 18 rfl rfl)
theorem dX1_reaches_63 : decode cX1_reaches 63 = .ok (.iload_n 2, 1) := dk_28 (dk_at dksX1_reaches_2 19 rfl rfl)
theorem dX1_reaches_64 : decode cX1_reaches 64 = .ok (.iload 6, 2) := dk_21 6 (dk_at dksX1_reaches_2 20 rfl rfl)
theorem dX1_reaches_66 : decode cX1_reaches 66 = .ok (.iload_n 3, 1) := dk_29 (dk_at dksX1_reaches_2 22 rfl rfl)
theorem dX1_reaches_67 : decode cX1_reaches 67 = .ok (.imul, 1) := dk_104 (dk_at dksX1_reaches_2 23 rfl rfl)
theorem dX1_reaches_68 : decode cX1_reaches 68 = .ok (.iadd, 1) := dk_96 (dk_at dksX1_reaches_3 0 rfl rfl)
theorem dX1_reaches_69 : decode cX1_reaches 69 = .ok (.invokevirtual 34, 3) := dk_182 0 34 (dk_at dksX1_reaches_3 1 rfl rfl)
theorem dX1_reaches_72 : decode cX1_reaches 72 = .ok (.invokevirtual 102, 3) := dk_182 0 102 (dk_at dksX1_reaches_3 4 rfl rfl)
theorem dX1_reaches_75 : decode cX1_reaches 75 = .ok (.pop, 1) := dk_87 (dk_at dksX1_reaches_3 7 rfl rfl)
theorem dX1_reaches_76 : decode cX1_reaches 76 = .ok (.iinc 6 1, 3) := dk_132 6 1 (dk_at dksX1_reaches_3 8 rfl rfl)
theorem dX1_reaches_79 : decode cX1_reaches 79 = .ok (.goto (-37), 3) := dk_167 255 219 (dk_at dksX1_reaches_3 11 rfl rfl)
theorem dX1_reaches_82 : decode cX1_reaches 82 = .ok (.aload 5, 2) := dk_25 5 (dk_at dksX1_reaches_3 14 rfl rfl)
theorem dX1_reaches_84 : decode cX1_reaches 84 = .ok (.invokevirtual 180, 3) := dk_182 0 180 (dk_at dksX1_reaches_3 16 rfl rfl)
theorem dX1_reaches_87 : decode cX1_reaches 87 = .ok (.iload 4, 2) := dk_21 4 (dk_at dksX1_reaches_3 19 rfl rfl)
theorem dX1_reaches_89 : decode cX1_reaches 89 = .ok (.if_icmp .ge 6, 3) := dk_162 0 6 (dk_at dksX1_reaches_3 21 rfl rfl)
theorem dX1_reaches_92 : decode cX1_reaches 92 = .ok (.bipush (-2), 2) := dk_16 254 (dk_at dksX1_reaches_4 0 rfl rfl)
theorem dX1_reaches_94 : decode cX1_reaches 94 = .ok (.ireturn, 1) := dk_172 (dk_at dksX1_reaches_4 2 rfl rfl)
theorem dX1_reaches_95 : decode cX1_reaches 95 = .ok (.aload_n 0, 1) := dk_42 (dk_at dksX1_reaches_4 3 rfl rfl)
theorem dX1_reaches_96 : decode cX1_reaches 96 = .ok (.iconst 1, 1) := dk_4 (dk_at dksX1_reaches_4 4 rfl rfl)
theorem dX1_reaches_97 : decode cX1_reaches 97 = .ok (.newarray .long, 2) := dk_188_11 (dk_at dksX1_reaches_4 5 rfl rfl)
theorem dX1_reaches_99 : decode cX1_reaches 99 = .ok (.dup, 1) := dk_89 (dk_at dksX1_reaches_4 7 rfl rfl)
theorem dX1_reaches_100 : decode cX1_reaches 100 = .ok (.iconst 0, 1) := dk_3 (dk_at dksX1_reaches_4 8 rfl rfl)
theorem dX1_reaches_101 : decode cX1_reaches 101 = .ok (.aload 5, 2) := dk_25 5 (dk_at dksX1_reaches_4 9 rfl rfl)
theorem dX1_reaches_103 : decode cX1_reaches 103 = .ok (.invokevirtual 180, 3) := dk_182 0 180 (dk_at dksX1_reaches_4 11 rfl rfl)
theorem dX1_reaches_106 : decode cX1_reaches 106 = .ok (.i2l, 1) := dk_133 (dk_at dksX1_reaches_4 14 rfl rfl)
theorem dX1_reaches_107 : decode cX1_reaches 107 = .ok (.lastore, 1) := dk_80 (dk_at dksX1_reaches_4 15 rfl rfl)
theorem dX1_reaches_108 : decode cX1_reaches 108 = .ok (.invokevirtual 44, 3) := dk_182 0 44 (dk_at dksX1_reaches_4 16 rfl rfl)
theorem dX1_reaches_111 : decode cX1_reaches 111 = .ok (.iload 6, 2) := dk_21 6 (dk_at dksX1_reaches_4 19 rfl rfl)
theorem dX1_reaches_113 : decode cX1_reaches 113 = .ok (.ireturn, 1) := dk_172 (dk_at dksX1_reaches_4 21 rfl rfl)
abbrev cX1_over : ByteArray := prog_1_method_85_code
def yX1_over : MethodName := ⟨RX1, "over", "(I)J"⟩
def dkwX1_over_3 : List UInt8 := [5, 188, 11, 89, 3, 32, 80, 89, 4, 21, 4, 133, 80, 182, 0, 44, 32, 21, 4, 133, 101, 173]
abbrev dktX1_over_3 : List UInt8 := dkwX1_over_3 ++ []
def dkwX1_over_2 : List UInt8 := [182, 0, 180, 133, 97, 65, 132, 6, 1, 167, 255, 230, 42, 42, 27, 182, 0, 194, 182, 1, 13, 54, 4, 42]
abbrev dktX1_over_2 : List UInt8 := dkwX1_over_2 ++ dktX1_over_3
def dkwX1_over_1 : List UInt8 := [54, 5, 3, 54, 6, 21, 6, 21, 5, 162, 0, 25, 25, 4, 21, 6, 50, 58, 7, 32, 25, 7]
abbrev dktX1_over_1 : List UInt8 := dkwX1_over_1 ++ dktX1_over_2
def dkwX1_over_0 : List UInt8 := [27, 184, 0, 191, 154, 0, 7, 20, 0, 246, 173, 9, 65, 42, 27, 182, 0, 194, 58, 4, 25, 4, 190]
abbrev dktX1_over_0 : List UInt8 := dkwX1_over_0 ++ dktX1_over_1
theorem dksX1_over_0 : cX1_over.data.toList.drop 0 = dktX1_over_0 := by decide +kernel
theorem dksX1_over_1 : cX1_over.data.toList.drop 23 = dktX1_over_1 := dk_seg dksX1_over_0 23 rfl rfl
theorem dksX1_over_2 : cX1_over.data.toList.drop 45 = dktX1_over_2 := dk_seg dksX1_over_1 22 rfl rfl
theorem dksX1_over_3 : cX1_over.data.toList.drop 69 = dktX1_over_3 := dk_seg dksX1_over_2 24 rfl rfl
theorem dX1_over_0 : decode cX1_over 0 = .ok (.iload_n 1, 1) := dk_27 (dk_at dksX1_over_0 0 rfl rfl)
theorem dX1_over_1 : decode cX1_over 1 = .ok (.invokestatic 191, 3) := dk_184 0 191 (dk_at dksX1_over_0 1 rfl rfl)
theorem dX1_over_4 : decode cX1_over 4 = .ok (.ifCond .ne 7, 3) := dk_154 0 7 (dk_at dksX1_over_0 4 rfl rfl)
theorem dX1_over_7 : decode cX1_over 7 = .ok (.ldc2_w 246, 3) := dk_20 0 246 (dk_at dksX1_over_0 7 rfl rfl)
theorem dX1_over_10 : decode cX1_over 10 = .ok (.lreturn, 1) := dk_173 (dk_at dksX1_over_0 10 rfl rfl)
theorem dX1_over_11 : decode cX1_over 11 = .ok (.lconst 0, 1) := dk_9 (dk_at dksX1_over_0 11 rfl rfl)
theorem dX1_over_12 : decode cX1_over 12 = .ok (.lstore_n 2, 1) := dk_65 (dk_at dksX1_over_0 12 rfl rfl)
theorem dX1_over_13 : decode cX1_over 13 = .ok (.aload_n 0, 1) := dk_42 (dk_at dksX1_over_0 13 rfl rfl)
theorem dX1_over_14 : decode cX1_over 14 = .ok (.iload_n 1, 1) := dk_27 (dk_at dksX1_over_0 14 rfl rfl)
theorem dX1_over_15 : decode cX1_over 15 = .ok (.invokevirtual 194, 3) := dk_182 0 194 (dk_at dksX1_over_0 15 rfl rfl)
theorem dX1_over_18 : decode cX1_over 18 = .ok (.astore 4, 2) := dk_58 4 (dk_at dksX1_over_0 18 rfl rfl)
theorem dX1_over_20 : decode cX1_over 20 = .ok (.aload 4, 2) := dk_25 4 (dk_at dksX1_over_0 20 rfl rfl)
theorem dX1_over_22 : decode cX1_over 22 = .ok (.arraylength, 1) := dk_190 (dk_at dksX1_over_0 22 rfl rfl)
theorem dX1_over_23 : decode cX1_over 23 = .ok (.istore 5, 2) := dk_54 5 (dk_at dksX1_over_1 0 rfl rfl)
theorem dX1_over_25 : decode cX1_over 25 = .ok (.iconst 0, 1) := dk_3 (dk_at dksX1_over_1 2 rfl rfl)
theorem dX1_over_26 : decode cX1_over 26 = .ok (.istore 6, 2) := dk_54 6 (dk_at dksX1_over_1 3 rfl rfl)
theorem dX1_over_28 : decode cX1_over 28 = .ok (.iload 6, 2) := dk_21 6 (dk_at dksX1_over_1 5 rfl rfl)
theorem dX1_over_30 : decode cX1_over 30 = .ok (.iload 5, 2) := dk_21 5 (dk_at dksX1_over_1 7 rfl rfl)
theorem dX1_over_32 : decode cX1_over 32 = .ok (.if_icmp .ge 25, 3) := dk_162 0 25 (dk_at dksX1_over_1 9 rfl rfl)
theorem dX1_over_35 : decode cX1_over 35 = .ok (.aload 4, 2) := dk_25 4 (dk_at dksX1_over_1 12 rfl rfl)
theorem dX1_over_37 : decode cX1_over 37 = .ok (.iload 6, 2) := dk_21 6 (dk_at dksX1_over_1 14 rfl rfl)
theorem dX1_over_39 : decode cX1_over 39 = .ok (.aaload, 1) := dk_50 (dk_at dksX1_over_1 16 rfl rfl)
theorem dX1_over_40 : decode cX1_over 40 = .ok (.astore 7, 2) := dk_58 7 (dk_at dksX1_over_1 17 rfl rfl)
theorem dX1_over_42 : decode cX1_over 42 = .ok (.lload_n 2, 1) := dk_32 (dk_at dksX1_over_1 19 rfl rfl)
theorem dX1_over_43 : decode cX1_over 43 = .ok (.aload 7, 2) := dk_25 7 (dk_at dksX1_over_1 20 rfl rfl)
theorem dX1_over_45 : decode cX1_over 45 = .ok (.invokevirtual 180, 3) := dk_182 0 180 (dk_at dksX1_over_2 0 rfl rfl)
theorem dX1_over_48 : decode cX1_over 48 = .ok (.i2l, 1) := dk_133 (dk_at dksX1_over_2 3 rfl rfl)
theorem dX1_over_49 : decode cX1_over 49 = .ok (.ladd, 1) := dk_97 (dk_at dksX1_over_2 4 rfl rfl)
theorem dX1_over_50 : decode cX1_over 50 = .ok (.lstore_n 2, 1) := dk_65 (dk_at dksX1_over_2 5 rfl rfl)
theorem dX1_over_51 : decode cX1_over 51 = .ok (.iinc 6 1, 3) := dk_132 6 1 (dk_at dksX1_over_2 6 rfl rfl)
theorem dX1_over_54 : decode cX1_over 54 = .ok (.goto (-26), 3) := dk_167 255 230 (dk_at dksX1_over_2 9 rfl rfl)
theorem dX1_over_57 : decode cX1_over 57 = .ok (.aload_n 0, 1) := dk_42 (dk_at dksX1_over_2 12 rfl rfl)
theorem dX1_over_58 : decode cX1_over 58 = .ok (.aload_n 0, 1) := dk_42 (dk_at dksX1_over_2 13 rfl rfl)
theorem dX1_over_59 : decode cX1_over 59 = .ok (.iload_n 1, 1) := dk_27 (dk_at dksX1_over_2 14 rfl rfl)
theorem dX1_over_60 : decode cX1_over 60 = .ok (.invokevirtual 194, 3) := dk_182 0 194 (dk_at dksX1_over_2 15 rfl rfl)
theorem dX1_over_63 : decode cX1_over 63 = .ok (.invokevirtual 269, 3) := dk_182 1 13 (dk_at dksX1_over_2 18 rfl rfl)
theorem dX1_over_66 : decode cX1_over 66 = .ok (.istore 4, 2) := dk_54 4 (dk_at dksX1_over_2 21 rfl rfl)
theorem dX1_over_68 : decode cX1_over 68 = .ok (.aload_n 0, 1) := dk_42 (dk_at dksX1_over_2 23 rfl rfl)
theorem dX1_over_69 : decode cX1_over 69 = .ok (.iconst 2, 1) := dk_5 (dk_at dksX1_over_3 0 rfl rfl)
theorem dX1_over_70 : decode cX1_over 70 = .ok (.newarray .long, 2) := dk_188_11 (dk_at dksX1_over_3 1 rfl rfl)
theorem dX1_over_72 : decode cX1_over 72 = .ok (.dup, 1) := dk_89 (dk_at dksX1_over_3 3 rfl rfl)
theorem dX1_over_73 : decode cX1_over 73 = .ok (.iconst 0, 1) := dk_3 (dk_at dksX1_over_3 4 rfl rfl)
theorem dX1_over_74 : decode cX1_over 74 = .ok (.lload_n 2, 1) := dk_32 (dk_at dksX1_over_3 5 rfl rfl)
theorem dX1_over_75 : decode cX1_over 75 = .ok (.lastore, 1) := dk_80 (dk_at dksX1_over_3 6 rfl rfl)
theorem dX1_over_76 : decode cX1_over 76 = .ok (.dup, 1) := dk_89 (dk_at dksX1_over_3 7 rfl rfl)
theorem dX1_over_77 : decode cX1_over 77 = .ok (.iconst 1, 1) := dk_4 (dk_at dksX1_over_3 8 rfl rfl)
theorem dX1_over_78 : decode cX1_over 78 = .ok (.iload 4, 2) := dk_21 4 (dk_at dksX1_over_3 9 rfl rfl)
theorem dX1_over_80 : decode cX1_over 80 = .ok (.i2l, 1) := dk_133 (dk_at dksX1_over_3 11 rfl rfl)
theorem dX1_over_81 : decode cX1_over 81 = .ok (.lastore, 1) := dk_80 (dk_at dksX1_over_3 12 rfl rfl)
theorem dX1_over_82 : decode cX1_over 82 = .ok (.invokevirtual 44, 3) := dk_182 0 44 (dk_at dksX1_over_3 13 rfl rfl)
theorem dX1_over_85 : decode cX1_over 85 = .ok (.lload_n 2, 1) := dk_32 (dk_at dksX1_over_3 16 rfl rfl)
theorem dX1_over_86 : decode cX1_over 86 = .ok (.iload 4, 2) := dk_21 4 (dk_at dksX1_over_3 17 rfl rfl)
theorem dX1_over_88 : decode cX1_over 88 = .ok (.i2l, 1) := dk_133 (dk_at dksX1_over_3 19 rfl rfl)
theorem dX1_over_89 : decode cX1_over 89 = .ok (.lsub, 1) := dk_101 (dk_at dksX1_over_3 20 rfl rfl)
theorem dX1_over_90 : decode cX1_over 90 = .ok (.lreturn, 1) := dk_173 (dk_at dksX1_over_3 21 rfl rfl)
abbrev cX1_chain : ByteArray := prog_1_method_86_code
def yX1_chain : MethodName := ⟨RX1, "chain", "(I)I"⟩
def dkwX1_chain_4 : List UInt8 := [21, 4, 172]
abbrev dktX1_chain_4 : List UInt8 := dkwX1_chain_4 ++ []
def dkwX1_chain_3 : List UInt8 := [167, 0, 4, 3, 96, 54, 4, 21, 6, 62, 42, 21, 6, 133, 182, 1, 52, 132, 5, 1, 167, 255, 190]
abbrev dktX1_chain_3 : List UInt8 := dkwX1_chain_3 ++ dktX1_chain_4
def dkwX1_chain_2 : List UInt8 := [128, 61, 42, 42, 28, 182, 0, 194, 182, 1, 13, 54, 6, 21, 4, 21, 6, 29, 164, 0, 7, 4]
abbrev dktX1_chain_2 : List UInt8 := dkwX1_chain_2 ++ dktX1_chain_3
def dkwX1_chain_1 : List UInt8 := [21, 5, 16, 6, 162, 0, 65, 27, 21, 5, 122, 4, 126, 154, 0, 6, 167, 0, 47, 28, 4, 21, 5, 120]
abbrev dktX1_chain_1 : List UInt8 := dkwX1_chain_1 ++ dktX1_chain_2
def dkwX1_chain_0 : List UInt8 := [27, 184, 0, 191, 154, 0, 5, 2, 172, 3, 61, 3, 62, 3, 54, 4, 42, 3, 181, 1, 49, 3, 54, 5]
abbrev dktX1_chain_0 : List UInt8 := dkwX1_chain_0 ++ dktX1_chain_1
theorem dksX1_chain_0 : cX1_chain.data.toList.drop 0 = dktX1_chain_0 := by decide +kernel
theorem dksX1_chain_1 : cX1_chain.data.toList.drop 24 = dktX1_chain_1 := dk_seg dksX1_chain_0 24 rfl rfl
theorem dksX1_chain_2 : cX1_chain.data.toList.drop 48 = dktX1_chain_2 := dk_seg dksX1_chain_1 24 rfl rfl
theorem dksX1_chain_3 : cX1_chain.data.toList.drop 70 = dktX1_chain_3 := dk_seg dksX1_chain_2 22 rfl rfl
theorem dksX1_chain_4 : cX1_chain.data.toList.drop 93 = dktX1_chain_4 := dk_seg dksX1_chain_3 23 rfl rfl
theorem dX1_chain_0 : decode cX1_chain 0 = .ok (.iload_n 1, 1) := dk_27 (dk_at dksX1_chain_0 0 rfl rfl)
theorem dX1_chain_1 : decode cX1_chain 1 = .ok (.invokestatic 191, 3) := dk_184 0 191 (dk_at dksX1_chain_0 1 rfl rfl)
theorem dX1_chain_4 : decode cX1_chain 4 = .ok (.ifCond .ne 5, 3) := dk_154 0 5 (dk_at dksX1_chain_0 4 rfl rfl)
theorem dX1_chain_7 : decode cX1_chain 7 = .ok (.iconst (-1), 1) := dk_2 (dk_at dksX1_chain_0 7 rfl rfl)
theorem dX1_chain_8 : decode cX1_chain 8 = .ok (.ireturn, 1) := dk_172 (dk_at dksX1_chain_0 8 rfl rfl)
theorem dX1_chain_9 : decode cX1_chain 9 = .ok (.iconst 0, 1) := dk_3 (dk_at dksX1_chain_0 9 rfl rfl)
theorem dX1_chain_10 : decode cX1_chain 10 = .ok (.istore_n 2, 1) := dk_61 (dk_at dksX1_chain_0 10 rfl rfl)
theorem dX1_chain_11 : decode cX1_chain 11 = .ok (.iconst 0, 1) := dk_3 (dk_at dksX1_chain_0 11 rfl rfl)
theorem dX1_chain_12 : decode cX1_chain 12 = .ok (.istore_n 3, 1) := dk_62 (dk_at dksX1_chain_0 12 rfl rfl)
theorem dX1_chain_13 : decode cX1_chain 13 = .ok (.iconst 0, 1) := dk_3 (dk_at dksX1_chain_0 13 rfl rfl)
theorem dX1_chain_14 : decode cX1_chain 14 = .ok (.istore 4, 2) := dk_54 4 (dk_at dksX1_chain_0 14 rfl rfl)
theorem dX1_chain_16 : decode cX1_chain 16 = .ok (.aload_n 0, 1) := dk_42 (dk_at dksX1_chain_0 16 rfl rfl)
theorem dX1_chain_17 : decode cX1_chain 17 = .ok (.iconst 0, 1) := dk_3 (dk_at dksX1_chain_0 17 rfl rfl)
theorem dX1_chain_18 : decode cX1_chain 18 = .ok (.putfield 305, 3) := dk_181 1 49 (dk_at dksX1_chain_0 18 rfl rfl)
theorem dX1_chain_21 : decode cX1_chain 21 = .ok (.iconst 0, 1) := dk_3 (dk_at dksX1_chain_0 21 rfl rfl)
theorem dX1_chain_22 : decode cX1_chain 22 = .ok (.istore 5, 2) := dk_54 5 (dk_at dksX1_chain_0 22 rfl rfl)
theorem dX1_chain_24 : decode cX1_chain 24 = .ok (.iload 5, 2) := dk_21 5 (dk_at dksX1_chain_1 0 rfl rfl)
theorem dX1_chain_26 : decode cX1_chain 26 = .ok (.bipush 6, 2) := dk_16 6 (dk_at dksX1_chain_1 2 rfl rfl)
theorem dX1_chain_28 : decode cX1_chain 28 = .ok (.if_icmp .ge 65, 3) := dk_162 0 65 (dk_at dksX1_chain_1 4 rfl rfl)
theorem dX1_chain_31 : decode cX1_chain 31 = .ok (.iload_n 1, 1) := dk_27 (dk_at dksX1_chain_1 7 rfl rfl)
theorem dX1_chain_32 : decode cX1_chain 32 = .ok (.iload 5, 2) := dk_21 5 (dk_at dksX1_chain_1 8 rfl rfl)
theorem dX1_chain_34 : decode cX1_chain 34 = .ok (.ishr, 1) := dk_122 (dk_at dksX1_chain_1 10 rfl rfl)
theorem dX1_chain_35 : decode cX1_chain 35 = .ok (.iconst 1, 1) := dk_4 (dk_at dksX1_chain_1 11 rfl rfl)
theorem dX1_chain_36 : decode cX1_chain 36 = .ok (.iand, 1) := dk_126 (dk_at dksX1_chain_1 12 rfl rfl)
theorem dX1_chain_37 : decode cX1_chain 37 = .ok (.ifCond .ne 6, 3) := dk_154 0 6 (dk_at dksX1_chain_1 13 rfl rfl)
theorem dX1_chain_40 : decode cX1_chain 40 = .ok (.goto 47, 3) := dk_167 0 47 (dk_at dksX1_chain_1 16 rfl rfl)
theorem dX1_chain_43 : decode cX1_chain 43 = .ok (.iload_n 2, 1) := dk_28 (dk_at dksX1_chain_1 19 rfl rfl)
theorem dX1_chain_44 : decode cX1_chain 44 = .ok (.iconst 1, 1) := dk_4 (dk_at dksX1_chain_1 20 rfl rfl)
theorem dX1_chain_45 : decode cX1_chain 45 = .ok (.iload 5, 2) := dk_21 5 (dk_at dksX1_chain_1 21 rfl rfl)
theorem dX1_chain_47 : decode cX1_chain 47 = .ok (.ishl, 1) := dk_120 (dk_at dksX1_chain_1 23 rfl rfl)
theorem dX1_chain_48 : decode cX1_chain 48 = .ok (.ior, 1) := dk_128 (dk_at dksX1_chain_2 0 rfl rfl)
theorem dX1_chain_49 : decode cX1_chain 49 = .ok (.istore_n 2, 1) := dk_61 (dk_at dksX1_chain_2 1 rfl rfl)
theorem dX1_chain_50 : decode cX1_chain 50 = .ok (.aload_n 0, 1) := dk_42 (dk_at dksX1_chain_2 2 rfl rfl)
theorem dX1_chain_51 : decode cX1_chain 51 = .ok (.aload_n 0, 1) := dk_42 (dk_at dksX1_chain_2 3 rfl rfl)
theorem dX1_chain_52 : decode cX1_chain 52 = .ok (.iload_n 2, 1) := dk_28 (dk_at dksX1_chain_2 4 rfl rfl)
theorem dX1_chain_53 : decode cX1_chain 53 = .ok (.invokevirtual 194, 3) := dk_182 0 194 (dk_at dksX1_chain_2 5 rfl rfl)
theorem dX1_chain_56 : decode cX1_chain 56 = .ok (.invokevirtual 269, 3) := dk_182 1 13 (dk_at dksX1_chain_2 8 rfl rfl)
theorem dX1_chain_59 : decode cX1_chain 59 = .ok (.istore 6, 2) := dk_54 6 (dk_at dksX1_chain_2 11 rfl rfl)
theorem dX1_chain_61 : decode cX1_chain 61 = .ok (.iload 4, 2) := dk_21 4 (dk_at dksX1_chain_2 13 rfl rfl)
theorem dX1_chain_63 : decode cX1_chain 63 = .ok (.iload 6, 2) := dk_21 6 (dk_at dksX1_chain_2 15 rfl rfl)
theorem dX1_chain_65 : decode cX1_chain 65 = .ok (.iload_n 3, 1) := dk_29 (dk_at dksX1_chain_2 17 rfl rfl)
theorem dX1_chain_66 : decode cX1_chain 66 = .ok (.if_icmp .le 7, 3) := dk_164 0 7 (dk_at dksX1_chain_2 18 rfl rfl)
theorem dX1_chain_69 : decode cX1_chain 69 = .ok (.iconst 1, 1) := dk_4 (dk_at dksX1_chain_2 21 rfl rfl)
theorem dX1_chain_70 : decode cX1_chain 70 = .ok (.goto 4, 3) := dk_167 0 4 (dk_at dksX1_chain_3 0 rfl rfl)
theorem dX1_chain_73 : decode cX1_chain 73 = .ok (.iconst 0, 1) := dk_3 (dk_at dksX1_chain_3 3 rfl rfl)
theorem dX1_chain_74 : decode cX1_chain 74 = .ok (.iadd, 1) := dk_96 (dk_at dksX1_chain_3 4 rfl rfl)
theorem dX1_chain_75 : decode cX1_chain 75 = .ok (.istore 4, 2) := dk_54 4 (dk_at dksX1_chain_3 5 rfl rfl)
theorem dX1_chain_77 : decode cX1_chain 77 = .ok (.iload 6, 2) := dk_21 6 (dk_at dksX1_chain_3 7 rfl rfl)
theorem dX1_chain_79 : decode cX1_chain 79 = .ok (.istore_n 3, 1) := dk_62 (dk_at dksX1_chain_3 9 rfl rfl)
theorem dX1_chain_80 : decode cX1_chain 80 = .ok (.aload_n 0, 1) := dk_42 (dk_at dksX1_chain_3 10 rfl rfl)
theorem dX1_chain_81 : decode cX1_chain 81 = .ok (.iload 6, 2) := dk_21 6 (dk_at dksX1_chain_3 11 rfl rfl)
theorem dX1_chain_83 : decode cX1_chain 83 = .ok (.i2l, 1) := dk_133 (dk_at dksX1_chain_3 13 rfl rfl)
theorem dX1_chain_84 : decode cX1_chain 84 = .ok (.invokevirtual 308, 3) := dk_182 1 52 (dk_at dksX1_chain_3 14 rfl rfl)
theorem dX1_chain_87 : decode cX1_chain 87 = .ok (.iinc 5 1, 3) := dk_132 5 1 (dk_at dksX1_chain_3 17 rfl rfl)
theorem dX1_chain_90 : decode cX1_chain 90 = .ok (.goto (-66), 3) := dk_167 255 190 (dk_at dksX1_chain_3 20 rfl rfl)
theorem dX1_chain_93 : decode cX1_chain 93 = .ok (.iload 4, 2) := dk_21 4 (dk_at dksX1_chain_4 0 rfl rfl)
theorem dX1_chain_95 : decode cX1_chain 95 = .ok (.ireturn, 1) := dk_172 (dk_at dksX1_chain_4 2 rfl rfl)
abbrev cX1_lessers : ByteArray := prog_1_method_87_code
def yX1_lessers : MethodName := ⟨RX1, "lessers", "(III)I"⟩
def dkwX1_lessers_5 : List UInt8 := [182, 0, 187, 172]
abbrev dktX1_lessers_5 : List UInt8 := dkwX1_lessers_5 ++ []
def dkwX1_lessers_4 : List UInt8 := [25, 6, 4, 181, 0, 151, 25, 4, 25, 6, 25, 5, 186, 1, 72, 0, 0, 182, 1, 1, 42, 29, 25, 6]
abbrev dktX1_lessers_4 : List UInt8 := dkwX1_lessers_4 ++ dktX1_lessers_5
def dkwX1_lessers_3 : List UInt8 := [25, 4, 180, 0, 165, 25, 4, 180, 0, 171, 25, 5, 180, 0, 171, 184, 0, 28, 183, 0, 75, 58, 6]
abbrev dktX1_lessers_3 : List UInt8 := dkwX1_lessers_3 ++ dktX1_lessers_4
def dkwX1_lessers_2 : List UInt8 := [180, 0, 71, 28, 50, 42, 180, 0, 71, 27, 50, 180, 0, 165, 182, 1, 42, 58, 5, 187, 0, 69, 89, 42]
abbrev dktX1_lessers_2 : List UInt8 := dkwX1_lessers_2 ++ dktX1_lessers_3
def dkwX1_lessers_1 : List UInt8 := [42, 180, 0, 71, 27, 50, 42, 180, 0, 71, 28, 50, 180, 0, 165, 182, 1, 42, 58, 4, 42, 42]
abbrev dktX1_lessers_1 : List UInt8 := dkwX1_lessers_1 ++ dktX1_lessers_2
def dkwX1_lessers_0 : List UInt8 := [6, 188, 10, 89, 3, 27, 79, 89, 4, 28, 79, 89, 5, 29, 79, 184, 0, 92, 154, 0, 5, 2, 172, 42]
abbrev dktX1_lessers_0 : List UInt8 := dkwX1_lessers_0 ++ dktX1_lessers_1
theorem dksX1_lessers_0 : cX1_lessers.data.toList.drop 0 = dktX1_lessers_0 := by decide +kernel
theorem dksX1_lessers_1 : cX1_lessers.data.toList.drop 24 = dktX1_lessers_1 := dk_seg dksX1_lessers_0 24 rfl rfl
theorem dksX1_lessers_2 : cX1_lessers.data.toList.drop 46 = dktX1_lessers_2 := dk_seg dksX1_lessers_1 22 rfl rfl
theorem dksX1_lessers_3 : cX1_lessers.data.toList.drop 70 = dktX1_lessers_3 := dk_seg dksX1_lessers_2 24 rfl rfl
theorem dksX1_lessers_4 : cX1_lessers.data.toList.drop 93 = dktX1_lessers_4 := dk_seg dksX1_lessers_3 23 rfl rfl
theorem dksX1_lessers_5 : cX1_lessers.data.toList.drop 117 = dktX1_lessers_5 := dk_seg dksX1_lessers_4 24 rfl rfl
theorem dX1_lessers_0 : decode cX1_lessers 0 = .ok (.iconst 3, 1) := dk_6 (dk_at dksX1_lessers_0 0 rfl rfl)
theorem dX1_lessers_1 : decode cX1_lessers 1 = .ok (.newarray .int, 2) := dk_188_10 (dk_at dksX1_lessers_0 1 rfl rfl)
theorem dX1_lessers_3 : decode cX1_lessers 3 = .ok (.dup, 1) := dk_89 (dk_at dksX1_lessers_0 3 rfl rfl)
theorem dX1_lessers_4 : decode cX1_lessers 4 = .ok (.iconst 0, 1) := dk_3 (dk_at dksX1_lessers_0 4 rfl rfl)
theorem dX1_lessers_5 : decode cX1_lessers 5 = .ok (.iload_n 1, 1) := dk_27 (dk_at dksX1_lessers_0 5 rfl rfl)
theorem dX1_lessers_6 : decode cX1_lessers 6 = .ok (.iastore, 1) := dk_79 (dk_at dksX1_lessers_0 6 rfl rfl)
theorem dX1_lessers_7 : decode cX1_lessers 7 = .ok (.dup, 1) := dk_89 (dk_at dksX1_lessers_0 7 rfl rfl)
theorem dX1_lessers_8 : decode cX1_lessers 8 = .ok (.iconst 1, 1) := dk_4 (dk_at dksX1_lessers_0 8 rfl rfl)
theorem dX1_lessers_9 : decode cX1_lessers 9 = .ok (.iload_n 2, 1) := dk_28 (dk_at dksX1_lessers_0 9 rfl rfl)
theorem dX1_lessers_10 : decode cX1_lessers 10 = .ok (.iastore, 1) := dk_79 (dk_at dksX1_lessers_0 10 rfl rfl)
theorem dX1_lessers_11 : decode cX1_lessers 11 = .ok (.dup, 1) := dk_89 (dk_at dksX1_lessers_0 11 rfl rfl)
theorem dX1_lessers_12 : decode cX1_lessers 12 = .ok (.iconst 2, 1) := dk_5 (dk_at dksX1_lessers_0 12 rfl rfl)
theorem dX1_lessers_13 : decode cX1_lessers 13 = .ok (.iload_n 3, 1) := dk_29 (dk_at dksX1_lessers_0 13 rfl rfl)
theorem dX1_lessers_14 : decode cX1_lessers 14 = .ok (.iastore, 1) := dk_79 (dk_at dksX1_lessers_0 14 rfl rfl)
theorem dX1_lessers_15 : decode cX1_lessers 15 = .ok (.invokestatic 92, 3) := dk_184 0 92 (dk_at dksX1_lessers_0 15 rfl rfl)
theorem dX1_lessers_18 : decode cX1_lessers 18 = .ok (.ifCond .ne 5, 3) := dk_154 0 5 (dk_at dksX1_lessers_0 18 rfl rfl)
theorem dX1_lessers_21 : decode cX1_lessers 21 = .ok (.iconst (-1), 1) := dk_2 (dk_at dksX1_lessers_0 21 rfl rfl)
theorem dX1_lessers_22 : decode cX1_lessers 22 = .ok (.ireturn, 1) := dk_172 (dk_at dksX1_lessers_0 22 rfl rfl)
theorem dX1_lessers_23 : decode cX1_lessers 23 = .ok (.aload_n 0, 1) := dk_42 (dk_at dksX1_lessers_0 23 rfl rfl)
theorem dX1_lessers_24 : decode cX1_lessers 24 = .ok (.aload_n 0, 1) := dk_42 (dk_at dksX1_lessers_1 0 rfl rfl)
theorem dX1_lessers_25 : decode cX1_lessers 25 = .ok (.getfield 71, 3) := dk_180 0 71 (dk_at dksX1_lessers_1 1 rfl rfl)
theorem dX1_lessers_28 : decode cX1_lessers 28 = .ok (.iload_n 1, 1) := dk_27 (dk_at dksX1_lessers_1 4 rfl rfl)
theorem dX1_lessers_29 : decode cX1_lessers 29 = .ok (.aaload, 1) := dk_50 (dk_at dksX1_lessers_1 5 rfl rfl)
theorem dX1_lessers_30 : decode cX1_lessers 30 = .ok (.aload_n 0, 1) := dk_42 (dk_at dksX1_lessers_1 6 rfl rfl)
theorem dX1_lessers_31 : decode cX1_lessers 31 = .ok (.getfield 71, 3) := dk_180 0 71 (dk_at dksX1_lessers_1 7 rfl rfl)
theorem dX1_lessers_34 : decode cX1_lessers 34 = .ok (.iload_n 2, 1) := dk_28 (dk_at dksX1_lessers_1 10 rfl rfl)
theorem dX1_lessers_35 : decode cX1_lessers 35 = .ok (.aaload, 1) := dk_50 (dk_at dksX1_lessers_1 11 rfl rfl)
theorem dX1_lessers_36 : decode cX1_lessers 36 = .ok (.getfield 165, 3) := dk_180 0 165 (dk_at dksX1_lessers_1 12 rfl rfl)
theorem dX1_lessers_39 : decode cX1_lessers 39 = .ok (.invokevirtual 298, 3) := dk_182 1 42 (dk_at dksX1_lessers_1 15 rfl rfl)
theorem dX1_lessers_42 : decode cX1_lessers 42 = .ok (.astore 4, 2) := dk_58 4 (dk_at dksX1_lessers_1 18 rfl rfl)
theorem dX1_lessers_44 : decode cX1_lessers 44 = .ok (.aload_n 0, 1) := dk_42 (dk_at dksX1_lessers_1 20 rfl rfl)
theorem dX1_lessers_45 : decode cX1_lessers 45 = .ok (.aload_n 0, 1) := dk_42 (dk_at dksX1_lessers_1 21 rfl rfl)
theorem dX1_lessers_46 : decode cX1_lessers 46 = .ok (.getfield 71, 3) := dk_180 0 71 (dk_at dksX1_lessers_2 0 rfl rfl)
theorem dX1_lessers_49 : decode cX1_lessers 49 = .ok (.iload_n 2, 1) := dk_28 (dk_at dksX1_lessers_2 3 rfl rfl)
theorem dX1_lessers_50 : decode cX1_lessers 50 = .ok (.aaload, 1) := dk_50 (dk_at dksX1_lessers_2 4 rfl rfl)
theorem dX1_lessers_51 : decode cX1_lessers 51 = .ok (.aload_n 0, 1) := dk_42 (dk_at dksX1_lessers_2 5 rfl rfl)
theorem dX1_lessers_52 : decode cX1_lessers 52 = .ok (.getfield 71, 3) := dk_180 0 71 (dk_at dksX1_lessers_2 6 rfl rfl)
theorem dX1_lessers_55 : decode cX1_lessers 55 = .ok (.iload_n 1, 1) := dk_27 (dk_at dksX1_lessers_2 9 rfl rfl)
theorem dX1_lessers_56 : decode cX1_lessers 56 = .ok (.aaload, 1) := dk_50 (dk_at dksX1_lessers_2 10 rfl rfl)
theorem dX1_lessers_57 : decode cX1_lessers 57 = .ok (.getfield 165, 3) := dk_180 0 165 (dk_at dksX1_lessers_2 11 rfl rfl)
theorem dX1_lessers_60 : decode cX1_lessers 60 = .ok (.invokevirtual 298, 3) := dk_182 1 42 (dk_at dksX1_lessers_2 14 rfl rfl)
theorem dX1_lessers_63 : decode cX1_lessers 63 = .ok (.astore 5, 2) := dk_58 5 (dk_at dksX1_lessers_2 17 rfl rfl)
theorem dX1_lessers_65 : decode cX1_lessers 65 = .ok (.new 69, 3) := dk_187 0 69 (dk_at dksX1_lessers_2 19 rfl rfl)
theorem dX1_lessers_68 : decode cX1_lessers 68 = .ok (.dup, 1) := dk_89 (dk_at dksX1_lessers_2 22 rfl rfl)
theorem dX1_lessers_69 : decode cX1_lessers 69 = .ok (.aload_n 0, 1) := dk_42 (dk_at dksX1_lessers_2 23 rfl rfl)
theorem dX1_lessers_70 : decode cX1_lessers 70 = .ok (.aload 4, 2) := dk_25 4 (dk_at dksX1_lessers_3 0 rfl rfl)
theorem dX1_lessers_72 : decode cX1_lessers 72 = .ok (.getfield 165, 3) := dk_180 0 165 (dk_at dksX1_lessers_3 2 rfl rfl)
theorem dX1_lessers_75 : decode cX1_lessers 75 = .ok (.aload 4, 2) := dk_25 4 (dk_at dksX1_lessers_3 5 rfl rfl)
theorem dX1_lessers_77 : decode cX1_lessers 77 = .ok (.getfield 171, 3) := dk_180 0 171 (dk_at dksX1_lessers_3 7 rfl rfl)
theorem dX1_lessers_80 : decode cX1_lessers 80 = .ok (.aload 5, 2) := dk_25 5 (dk_at dksX1_lessers_3 10 rfl rfl)
theorem dX1_lessers_82 : decode cX1_lessers 82 = .ok (.getfield 171, 3) := dk_180 0 171 (dk_at dksX1_lessers_3 12 rfl rfl)
theorem dX1_lessers_85 : decode cX1_lessers 85 = .ok (.invokestatic 28, 3) := dk_184 0 28 (dk_at dksX1_lessers_3 15 rfl rfl)
theorem dX1_lessers_88 : decode cX1_lessers 88 = .ok (.invokespecial 75, 3) := dk_183 0 75 (dk_at dksX1_lessers_3 18 rfl rfl)
theorem dX1_lessers_91 : decode cX1_lessers 91 = .ok (.astore 6, 2) := dk_58 6 (dk_at dksX1_lessers_3 21 rfl rfl)
theorem dX1_lessers_93 : decode cX1_lessers 93 = .ok (.aload 6, 2) := dk_25 6 (dk_at dksX1_lessers_4 0 rfl rfl)
theorem dX1_lessers_95 : decode cX1_lessers 95 = .ok (.iconst 1, 1) := dk_4 (dk_at dksX1_lessers_4 2 rfl rfl)
theorem dX1_lessers_96 : decode cX1_lessers 96 = .ok (.putfield 151, 3) := dk_181 0 151 (dk_at dksX1_lessers_4 3 rfl rfl)
theorem dX1_lessers_99 : decode cX1_lessers 99 = .ok (.aload 4, 2) := dk_25 4 (dk_at dksX1_lessers_4 6 rfl rfl)
theorem dX1_lessers_101 : decode cX1_lessers 101 = .ok (.aload 6, 2) := dk_25 6 (dk_at dksX1_lessers_4 8 rfl rfl)
theorem dX1_lessers_103 : decode cX1_lessers 103 = .ok (.aload 5, 2) := dk_25 5 (dk_at dksX1_lessers_4 10 rfl rfl)
theorem dX1_lessers_105 : decode cX1_lessers 105 = .ok (.invokedynamic 328, 5) := by decide +kernel
theorem dX1_lessers_110 : decode cX1_lessers 110 = .ok (.invokevirtual 257, 3) := dk_182 1 1 (dk_at dksX1_lessers_4 17 rfl rfl)
theorem dX1_lessers_113 : decode cX1_lessers 113 = .ok (.aload_n 0, 1) := dk_42 (dk_at dksX1_lessers_4 20 rfl rfl)
theorem dX1_lessers_114 : decode cX1_lessers 114 = .ok (.iload_n 3, 1) := dk_29 (dk_at dksX1_lessers_4 21 rfl rfl)
theorem dX1_lessers_115 : decode cX1_lessers 115 = .ok (.aload 6, 2) := dk_25 6 (dk_at dksX1_lessers_4 22 rfl rfl)
theorem dX1_lessers_117 : decode cX1_lessers 117 = .ok (.invokevirtual 187, 3) := dk_182 0 187 (dk_at dksX1_lessers_5 0 rfl rfl)
theorem dX1_lessers_120 : decode cX1_lessers 120 = .ok (.ireturn, 1) := dk_172 (dk_at dksX1_lessers_5 3 rfl rfl)
abbrev cX1_lambda_lessers_7 : ByteArray := prog_1_method_105_code
def yX1_lambda_lessers_7 : MethodName := ⟨RX1, "lambda$lessers$7", "(LDistinctMarks$Counter;LDistinctMarks$Counter;II)V"⟩
def dkwX1_lambda_lessers_7_0 : List UInt8 := [42, 28, 29, 43, 180, 0, 204, 28, 51, 184, 0, 28, 182, 1, 149, 87, 177]
abbrev dktX1_lambda_lessers_7_0 : List UInt8 := dkwX1_lambda_lessers_7_0 ++ []
theorem dksX1_lambda_lessers_7_0 : cX1_lambda_lessers_7.data.toList.drop 0 = dktX1_lambda_lessers_7_0 := by decide +kernel
theorem dX1_lambda_lessers_7_0 : decode cX1_lambda_lessers_7 0 = .ok (.aload_n 0, 1) := dk_42 (dk_at dksX1_lambda_lessers_7_0 0 rfl rfl)
theorem dX1_lambda_lessers_7_1 : decode cX1_lambda_lessers_7 1 = .ok (.iload_n 2, 1) := dk_28 (dk_at dksX1_lambda_lessers_7_0 1 rfl rfl)
theorem dX1_lambda_lessers_7_2 : decode cX1_lambda_lessers_7 2 = .ok (.iload_n 3, 1) := dk_29 (dk_at dksX1_lambda_lessers_7_0 2 rfl rfl)
theorem dX1_lambda_lessers_7_3 : decode cX1_lambda_lessers_7 3 = .ok (.aload_n 1, 1) := dk_43 (dk_at dksX1_lambda_lessers_7_0 3 rfl rfl)
theorem dX1_lambda_lessers_7_4 : decode cX1_lambda_lessers_7 4 = .ok (.getfield 204, 3) := dk_180 0 204 (dk_at dksX1_lambda_lessers_7_0 4 rfl rfl)
theorem dX1_lambda_lessers_7_7 : decode cX1_lambda_lessers_7 7 = .ok (.iload_n 2, 1) := dk_28 (dk_at dksX1_lambda_lessers_7_0 7 rfl rfl)
theorem dX1_lambda_lessers_7_8 : decode cX1_lambda_lessers_7 8 = .ok (.baload, 1) := dk_51 (dk_at dksX1_lambda_lessers_7_0 8 rfl rfl)
theorem dX1_lambda_lessers_7_9 : decode cX1_lambda_lessers_7 9 = .ok (.invokestatic 28, 3) := dk_184 0 28 (dk_at dksX1_lambda_lessers_7_0 9 rfl rfl)
theorem dX1_lambda_lessers_7_12 : decode cX1_lambda_lessers_7 12 = .ok (.invokevirtual 405, 3) := dk_182 1 149 (dk_at dksX1_lambda_lessers_7_0 12 rfl rfl)
theorem dX1_lambda_lessers_7_15 : decode cX1_lambda_lessers_7 15 = .ok (.pop, 1) := dk_87 (dk_at dksX1_lambda_lessers_7_0 15 rfl rfl)
theorem dX1_lambda_lessers_7_16 : decode cX1_lambda_lessers_7 16 = .ok (.return_, 1) := dk_177 (dk_at dksX1_lambda_lessers_7_0 16 rfl rfl)
abbrev cX1_greedy : ByteArray := prog_1_method_88_code
def yX1_greedy : MethodName := ⟨RX1, "greedy", "(I)I"⟩
def dkwX1_greedy_5 : List UInt8 := [136, 172]
abbrev dktX1_greedy_5 : List UInt8 := dkwX1_greedy_5 ++ []
def dkwX1_greedy_4 : List UInt8 := [167, 255, 192, 42, 29, 133, 182, 1, 52, 28, 4, 29, 120, 128, 61, 167, 255, 164, 42, 180, 0, 84, 3, 47]
abbrev dktX1_greedy_4 : List UInt8 := dkwX1_greedy_4 ++ dktX1_greedy_5
def dkwX1_greedy_3 : List UInt8 := [54, 7, 21, 7, 21, 4, 163, 0, 6, 167, 0, 10, 21, 5, 62, 21, 7, 54, 4, 132, 5, 1]
abbrev dktX1_greedy_3 : List UInt8 := dkwX1_greedy_3 ++ dktX1_greedy_4
def dkwX1_greedy_2 : List UInt8 := [21, 6, 154, 0, 7, 2, 167, 0, 17, 42, 42, 28, 4, 21, 5, 120, 128, 182, 0, 194, 182, 1, 13]
abbrev dktX1_greedy_2 : List UInt8 := dkwX1_greedy_2 ++ dktX1_greedy_3
def dkwX1_greedy_1 : List UInt8 := [54, 4, 3, 54, 5, 21, 5, 16, 6, 162, 0, 63, 27, 28, 2, 130, 126, 21, 5, 122, 4, 126, 54, 6]
abbrev dktX1_greedy_1 : List UInt8 := dkwX1_greedy_1 ++ dktX1_greedy_2
def dkwX1_greedy_0 : List UInt8 := [27, 184, 0, 191, 154, 0, 5, 2, 172, 3, 61, 42, 3, 181, 1, 49, 28, 27, 159, 0, 93, 2, 62, 2]
abbrev dktX1_greedy_0 : List UInt8 := dkwX1_greedy_0 ++ dktX1_greedy_1
theorem dksX1_greedy_0 : cX1_greedy.data.toList.drop 0 = dktX1_greedy_0 := by decide +kernel
theorem dksX1_greedy_1 : cX1_greedy.data.toList.drop 24 = dktX1_greedy_1 := dk_seg dksX1_greedy_0 24 rfl rfl
theorem dksX1_greedy_2 : cX1_greedy.data.toList.drop 48 = dktX1_greedy_2 := dk_seg dksX1_greedy_1 24 rfl rfl
theorem dksX1_greedy_3 : cX1_greedy.data.toList.drop 71 = dktX1_greedy_3 := dk_seg dksX1_greedy_2 23 rfl rfl
theorem dksX1_greedy_4 : cX1_greedy.data.toList.drop 93 = dktX1_greedy_4 := dk_seg dksX1_greedy_3 22 rfl rfl
theorem dksX1_greedy_5 : cX1_greedy.data.toList.drop 117 = dktX1_greedy_5 := dk_seg dksX1_greedy_4 24 rfl rfl
theorem dX1_greedy_0 : decode cX1_greedy 0 = .ok (.iload_n 1, 1) := dk_27 (dk_at dksX1_greedy_0 0 rfl rfl)
theorem dX1_greedy_1 : decode cX1_greedy 1 = .ok (.invokestatic 191, 3) := dk_184 0 191 (dk_at dksX1_greedy_0 1 rfl rfl)
theorem dX1_greedy_4 : decode cX1_greedy 4 = .ok (.ifCond .ne 5, 3) := dk_154 0 5 (dk_at dksX1_greedy_0 4 rfl rfl)
theorem dX1_greedy_7 : decode cX1_greedy 7 = .ok (.iconst (-1), 1) := dk_2 (dk_at dksX1_greedy_0 7 rfl rfl)
theorem dX1_greedy_8 : decode cX1_greedy 8 = .ok (.ireturn, 1) := dk_172 (dk_at dksX1_greedy_0 8 rfl rfl)
theorem dX1_greedy_9 : decode cX1_greedy 9 = .ok (.iconst 0, 1) := dk_3 (dk_at dksX1_greedy_0 9 rfl rfl)
theorem dX1_greedy_10 : decode cX1_greedy 10 = .ok (.istore_n 2, 1) := dk_61 (dk_at dksX1_greedy_0 10 rfl rfl)
theorem dX1_greedy_11 : decode cX1_greedy 11 = .ok (.aload_n 0, 1) := dk_42 (dk_at dksX1_greedy_0 11 rfl rfl)
theorem dX1_greedy_12 : decode cX1_greedy 12 = .ok (.iconst 0, 1) := dk_3 (dk_at dksX1_greedy_0 12 rfl rfl)
theorem dX1_greedy_13 : decode cX1_greedy 13 = .ok (.putfield 305, 3) := dk_181 1 49 (dk_at dksX1_greedy_0 13 rfl rfl)
theorem dX1_greedy_16 : decode cX1_greedy 16 = .ok (.iload_n 2, 1) := dk_28 (dk_at dksX1_greedy_0 16 rfl rfl)
theorem dX1_greedy_17 : decode cX1_greedy 17 = .ok (.iload_n 1, 1) := dk_27 (dk_at dksX1_greedy_0 17 rfl rfl)
theorem dX1_greedy_18 : decode cX1_greedy 18 = .ok (.if_icmp .eq 93, 3) := dk_159 0 93 (dk_at dksX1_greedy_0 18 rfl rfl)
theorem dX1_greedy_21 : decode cX1_greedy 21 = .ok (.iconst (-1), 1) := dk_2 (dk_at dksX1_greedy_0 21 rfl rfl)
theorem dX1_greedy_22 : decode cX1_greedy 22 = .ok (.istore_n 3, 1) := dk_62 (dk_at dksX1_greedy_0 22 rfl rfl)
theorem dX1_greedy_23 : decode cX1_greedy 23 = .ok (.iconst (-1), 1) := dk_2 (dk_at dksX1_greedy_0 23 rfl rfl)
theorem dX1_greedy_24 : decode cX1_greedy 24 = .ok (.istore 4, 2) := dk_54 4 (dk_at dksX1_greedy_1 0 rfl rfl)
theorem dX1_greedy_26 : decode cX1_greedy 26 = .ok (.iconst 0, 1) := dk_3 (dk_at dksX1_greedy_1 2 rfl rfl)
theorem dX1_greedy_27 : decode cX1_greedy 27 = .ok (.istore 5, 2) := dk_54 5 (dk_at dksX1_greedy_1 3 rfl rfl)
theorem dX1_greedy_29 : decode cX1_greedy 29 = .ok (.iload 5, 2) := dk_21 5 (dk_at dksX1_greedy_1 5 rfl rfl)
theorem dX1_greedy_31 : decode cX1_greedy 31 = .ok (.bipush 6, 2) := dk_16 6 (dk_at dksX1_greedy_1 7 rfl rfl)
theorem dX1_greedy_33 : decode cX1_greedy 33 = .ok (.if_icmp .ge 63, 3) := dk_162 0 63 (dk_at dksX1_greedy_1 9 rfl rfl)
theorem dX1_greedy_36 : decode cX1_greedy 36 = .ok (.iload_n 1, 1) := dk_27 (dk_at dksX1_greedy_1 12 rfl rfl)
theorem dX1_greedy_37 : decode cX1_greedy 37 = .ok (.iload_n 2, 1) := dk_28 (dk_at dksX1_greedy_1 13 rfl rfl)
theorem dX1_greedy_38 : decode cX1_greedy 38 = .ok (.iconst (-1), 1) := dk_2 (dk_at dksX1_greedy_1 14 rfl rfl)
theorem dX1_greedy_39 : decode cX1_greedy 39 = .ok (.ixor, 1) := dk_130 (dk_at dksX1_greedy_1 15 rfl rfl)
theorem dX1_greedy_40 : decode cX1_greedy 40 = .ok (.iand, 1) := dk_126 (dk_at dksX1_greedy_1 16 rfl rfl)
theorem dX1_greedy_41 : decode cX1_greedy 41 = .ok (.iload 5, 2) := dk_21 5 (dk_at dksX1_greedy_1 17 rfl rfl)
theorem dX1_greedy_43 : decode cX1_greedy 43 = .ok (.ishr, 1) := dk_122 (dk_at dksX1_greedy_1 19 rfl rfl)
theorem dX1_greedy_44 : decode cX1_greedy 44 = .ok (.iconst 1, 1) := dk_4 (dk_at dksX1_greedy_1 20 rfl rfl)
theorem dX1_greedy_45 : decode cX1_greedy 45 = .ok (.iand, 1) := dk_126 (dk_at dksX1_greedy_1 21 rfl rfl)
theorem dX1_greedy_46 : decode cX1_greedy 46 = .ok (.istore 6, 2) := dk_54 6 (dk_at dksX1_greedy_1 22 rfl rfl)
theorem dX1_greedy_48 : decode cX1_greedy 48 = .ok (.iload 6, 2) := dk_21 6 (dk_at dksX1_greedy_2 0 rfl rfl)
theorem dX1_greedy_50 : decode cX1_greedy 50 = .ok (.ifCond .ne 7, 3) := dk_154 0 7 (dk_at dksX1_greedy_2 2 rfl rfl)
theorem dX1_greedy_53 : decode cX1_greedy 53 = .ok (.iconst (-1), 1) := dk_2 (dk_at dksX1_greedy_2 5 rfl rfl)
theorem dX1_greedy_54 : decode cX1_greedy 54 = .ok (.goto 17, 3) := dk_167 0 17 (dk_at dksX1_greedy_2 6 rfl rfl)
theorem dX1_greedy_57 : decode cX1_greedy 57 = .ok (.aload_n 0, 1) := dk_42 (dk_at dksX1_greedy_2 9 rfl rfl)
theorem dX1_greedy_58 : decode cX1_greedy 58 = .ok (.aload_n 0, 1) := dk_42 (dk_at dksX1_greedy_2 10 rfl rfl)
theorem dX1_greedy_59 : decode cX1_greedy 59 = .ok (.iload_n 2, 1) := dk_28 (dk_at dksX1_greedy_2 11 rfl rfl)
theorem dX1_greedy_60 : decode cX1_greedy 60 = .ok (.iconst 1, 1) := dk_4 (dk_at dksX1_greedy_2 12 rfl rfl)
theorem dX1_greedy_61 : decode cX1_greedy 61 = .ok (.iload 5, 2) := dk_21 5 (dk_at dksX1_greedy_2 13 rfl rfl)
theorem dX1_greedy_63 : decode cX1_greedy 63 = .ok (.ishl, 1) := dk_120 (dk_at dksX1_greedy_2 15 rfl rfl)
theorem dX1_greedy_64 : decode cX1_greedy 64 = .ok (.ior, 1) := dk_128 (dk_at dksX1_greedy_2 16 rfl rfl)
theorem dX1_greedy_65 : decode cX1_greedy 65 = .ok (.invokevirtual 194, 3) := dk_182 0 194 (dk_at dksX1_greedy_2 17 rfl rfl)
theorem dX1_greedy_68 : decode cX1_greedy 68 = .ok (.invokevirtual 269, 3) := dk_182 1 13 (dk_at dksX1_greedy_2 20 rfl rfl)
theorem dX1_greedy_71 : decode cX1_greedy 71 = .ok (.istore 7, 2) := dk_54 7 (dk_at dksX1_greedy_3 0 rfl rfl)
theorem dX1_greedy_73 : decode cX1_greedy 73 = .ok (.iload 7, 2) := dk_21 7 (dk_at dksX1_greedy_3 2 rfl rfl)
theorem dX1_greedy_75 : decode cX1_greedy 75 = .ok (.iload 4, 2) := dk_21 4 (dk_at dksX1_greedy_3 4 rfl rfl)
theorem dX1_greedy_77 : decode cX1_greedy 77 = .ok (.if_icmp .gt 6, 3) := dk_163 0 6 (dk_at dksX1_greedy_3 6 rfl rfl)
theorem dX1_greedy_80 : decode cX1_greedy 80 = .ok (.goto 10, 3) := dk_167 0 10 (dk_at dksX1_greedy_3 9 rfl rfl)
theorem dX1_greedy_83 : decode cX1_greedy 83 = .ok (.iload 5, 2) := dk_21 5 (dk_at dksX1_greedy_3 12 rfl rfl)
theorem dX1_greedy_85 : decode cX1_greedy 85 = .ok (.istore_n 3, 1) := dk_62 (dk_at dksX1_greedy_3 14 rfl rfl)
theorem dX1_greedy_86 : decode cX1_greedy 86 = .ok (.iload 7, 2) := dk_21 7 (dk_at dksX1_greedy_3 15 rfl rfl)
theorem dX1_greedy_88 : decode cX1_greedy 88 = .ok (.istore 4, 2) := dk_54 4 (dk_at dksX1_greedy_3 17 rfl rfl)
theorem dX1_greedy_90 : decode cX1_greedy 90 = .ok (.iinc 5 1, 3) := dk_132 5 1 (dk_at dksX1_greedy_3 19 rfl rfl)
theorem dX1_greedy_93 : decode cX1_greedy 93 = .ok (.goto (-64), 3) := dk_167 255 192 (dk_at dksX1_greedy_4 0 rfl rfl)
theorem dX1_greedy_96 : decode cX1_greedy 96 = .ok (.aload_n 0, 1) := dk_42 (dk_at dksX1_greedy_4 3 rfl rfl)
theorem dX1_greedy_97 : decode cX1_greedy 97 = .ok (.iload_n 3, 1) := dk_29 (dk_at dksX1_greedy_4 4 rfl rfl)
theorem dX1_greedy_98 : decode cX1_greedy 98 = .ok (.i2l, 1) := dk_133 (dk_at dksX1_greedy_4 5 rfl rfl)
theorem dX1_greedy_99 : decode cX1_greedy 99 = .ok (.invokevirtual 308, 3) := dk_182 1 52 (dk_at dksX1_greedy_4 6 rfl rfl)
theorem dX1_greedy_102 : decode cX1_greedy 102 = .ok (.iload_n 2, 1) := dk_28 (dk_at dksX1_greedy_4 9 rfl rfl)
theorem dX1_greedy_103 : decode cX1_greedy 103 = .ok (.iconst 1, 1) := dk_4 (dk_at dksX1_greedy_4 10 rfl rfl)
theorem dX1_greedy_104 : decode cX1_greedy 104 = .ok (.iload_n 3, 1) := dk_29 (dk_at dksX1_greedy_4 11 rfl rfl)
theorem dX1_greedy_105 : decode cX1_greedy 105 = .ok (.ishl, 1) := dk_120 (dk_at dksX1_greedy_4 12 rfl rfl)
theorem dX1_greedy_106 : decode cX1_greedy 106 = .ok (.ior, 1) := dk_128 (dk_at dksX1_greedy_4 13 rfl rfl)
theorem dX1_greedy_107 : decode cX1_greedy 107 = .ok (.istore_n 2, 1) := dk_61 (dk_at dksX1_greedy_4 14 rfl rfl)
theorem dX1_greedy_108 : decode cX1_greedy 108 = .ok (.goto (-92), 3) := dk_167 255 164 (dk_at dksX1_greedy_4 15 rfl rfl)
theorem dX1_greedy_111 : decode cX1_greedy 111 = .ok (.aload_n 0, 1) := dk_42 (dk_at dksX1_greedy_4 18 rfl rfl)
theorem dX1_greedy_112 : decode cX1_greedy 112 = .ok (.getfield 84, 3) := dk_180 0 84 (dk_at dksX1_greedy_4 19 rfl rfl)
theorem dX1_greedy_115 : decode cX1_greedy 115 = .ok (.iconst 0, 1) := dk_3 (dk_at dksX1_greedy_4 22 rfl rfl)
theorem dX1_greedy_116 : decode cX1_greedy 116 = .ok (.laload, 1) := dk_47 (dk_at dksX1_greedy_4 23 rfl rfl)
theorem dX1_greedy_117 : decode cX1_greedy 117 = .ok (.l2i, 1) := dk_136 (dk_at dksX1_greedy_5 0 rfl rfl)
theorem dX1_greedy_118 : decode cX1_greedy 118 = .ok (.ireturn, 1) := dk_172 (dk_at dksX1_greedy_5 1 rfl rfl)
abbrev cX1_written : ByteArray := prog_1_method_90_code
def yX1_written : MethodName := ⟨RX1, "written", "(II)I"⟩
def dkwX1_written_2 : List UInt8 := [100, 133, 184, 0, 7, 153, 0, 11, 45, 28, 182, 1, 87, 167, 0, 4, 2, 172]
abbrev dktX1_written_2 : List UInt8 := dkwX1_written_2 ++ []
def dkwX1_written_1 : List UInt8 := [182, 1, 97, 78, 28, 2, 160, 0, 10, 45, 182, 1, 101, 167, 0, 28, 28, 133, 9, 45, 182, 1, 101, 4]
abbrev dktX1_written_1 : List UInt8 := dkwX1_written_1 ++ dktX1_written_2
def dkwX1_written_0 : List UInt8 := [4, 188, 10, 89, 3, 27, 79, 184, 0, 92, 154, 0, 5, 2, 172, 42, 42, 180, 0, 71, 27, 50]
abbrev dktX1_written_0 : List UInt8 := dkwX1_written_0 ++ dktX1_written_1
theorem dksX1_written_0 : cX1_written.data.toList.drop 0 = dktX1_written_0 := by decide +kernel
theorem dksX1_written_1 : cX1_written.data.toList.drop 22 = dktX1_written_1 := dk_seg dksX1_written_0 22 rfl rfl
theorem dksX1_written_2 : cX1_written.data.toList.drop 46 = dktX1_written_2 := dk_seg dksX1_written_1 24 rfl rfl
theorem dX1_written_0 : decode cX1_written 0 = .ok (.iconst 1, 1) := dk_4 (dk_at dksX1_written_0 0 rfl rfl)
theorem dX1_written_1 : decode cX1_written 1 = .ok (.newarray .int, 2) := dk_188_10 (dk_at dksX1_written_0 1 rfl rfl)
theorem dX1_written_3 : decode cX1_written 3 = .ok (.dup, 1) := dk_89 (dk_at dksX1_written_0 3 rfl rfl)
theorem dX1_written_4 : decode cX1_written 4 = .ok (.iconst 0, 1) := dk_3 (dk_at dksX1_written_0 4 rfl rfl)
theorem dX1_written_5 : decode cX1_written 5 = .ok (.iload_n 1, 1) := dk_27 (dk_at dksX1_written_0 5 rfl rfl)
theorem dX1_written_6 : decode cX1_written 6 = .ok (.iastore, 1) := dk_79 (dk_at dksX1_written_0 6 rfl rfl)
theorem dX1_written_7 : decode cX1_written 7 = .ok (.invokestatic 92, 3) := dk_184 0 92 (dk_at dksX1_written_0 7 rfl rfl)
theorem dX1_written_10 : decode cX1_written 10 = .ok (.ifCond .ne 5, 3) := dk_154 0 5 (dk_at dksX1_written_0 10 rfl rfl)
theorem dX1_written_13 : decode cX1_written 13 = .ok (.iconst (-1), 1) := dk_2 (dk_at dksX1_written_0 13 rfl rfl)
theorem dX1_written_14 : decode cX1_written 14 = .ok (.ireturn, 1) := dk_172 (dk_at dksX1_written_0 14 rfl rfl)
theorem dX1_written_15 : decode cX1_written 15 = .ok (.aload_n 0, 1) := dk_42 (dk_at dksX1_written_0 15 rfl rfl)
theorem dX1_written_16 : decode cX1_written 16 = .ok (.aload_n 0, 1) := dk_42 (dk_at dksX1_written_0 16 rfl rfl)
theorem dX1_written_17 : decode cX1_written 17 = .ok (.getfield 71, 3) := dk_180 0 71 (dk_at dksX1_written_0 17 rfl rfl)
theorem dX1_written_20 : decode cX1_written 20 = .ok (.iload_n 1, 1) := dk_27 (dk_at dksX1_written_0 20 rfl rfl)
theorem dX1_written_21 : decode cX1_written 21 = .ok (.aaload, 1) := dk_50 (dk_at dksX1_written_0 21 rfl rfl)
theorem dX1_written_22 : decode cX1_written 22 = .ok (.invokevirtual 353, 3) := dk_182 1 97 (dk_at dksX1_written_1 0 rfl rfl)
theorem dX1_written_25 : decode cX1_written 25 = .ok (.astore_n 3, 1) := dk_78 (dk_at dksX1_written_1 3 rfl rfl)
theorem dX1_written_26 : decode cX1_written 26 = .ok (.iload_n 2, 1) := dk_28 (dk_at dksX1_written_1 4 rfl rfl)
theorem dX1_written_27 : decode cX1_written 27 = .ok (.iconst (-1), 1) := dk_2 (dk_at dksX1_written_1 5 rfl rfl)
theorem dX1_written_28 : decode cX1_written 28 = .ok (.if_icmp .ne 10, 3) := dk_160 0 10 (dk_at dksX1_written_1 6 rfl rfl)
theorem dX1_written_31 : decode cX1_written 31 = .ok (.aload_n 3, 1) := dk_45 (dk_at dksX1_written_1 9 rfl rfl)
theorem dX1_written_32 : decode cX1_written 32 = .ok (.invokevirtual 357, 3) := dk_182 1 101 (dk_at dksX1_written_1 10 rfl rfl)
theorem dX1_written_35 : decode cX1_written 35 = .ok (.goto 28, 3) := dk_167 0 28 (dk_at dksX1_written_1 13 rfl rfl)
theorem dX1_written_38 : decode cX1_written 38 = .ok (.iload_n 2, 1) := dk_28 (dk_at dksX1_written_1 16 rfl rfl)
theorem dX1_written_39 : decode cX1_written 39 = .ok (.i2l, 1) := dk_133 (dk_at dksX1_written_1 17 rfl rfl)
theorem dX1_written_40 : decode cX1_written 40 = .ok (.lconst 0, 1) := dk_9 (dk_at dksX1_written_1 18 rfl rfl)
theorem dX1_written_41 : decode cX1_written 41 = .ok (.aload_n 3, 1) := dk_45 (dk_at dksX1_written_1 19 rfl rfl)
theorem dX1_written_42 : decode cX1_written 42 = .ok (.invokevirtual 357, 3) := dk_182 1 101 (dk_at dksX1_written_1 20 rfl rfl)
theorem dX1_written_45 : decode cX1_written 45 = .ok (.iconst 1, 1) := dk_4 (dk_at dksX1_written_1 23 rfl rfl)
theorem dX1_written_46 : decode cX1_written 46 = .ok (.isub, 1) := dk_100 (dk_at dksX1_written_2 0 rfl rfl)
theorem dX1_written_47 : decode cX1_written 47 = .ok (.i2l, 1) := dk_133 (dk_at dksX1_written_2 1 rfl rfl)
theorem dX1_written_48 : decode cX1_written 48 = .ok (.invokestatic 7, 3) := dk_184 0 7 (dk_at dksX1_written_2 2 rfl rfl)
theorem dX1_written_51 : decode cX1_written 51 = .ok (.ifCond .eq 11, 3) := dk_153 0 11 (dk_at dksX1_written_2 5 rfl rfl)
theorem dX1_written_54 : decode cX1_written 54 = .ok (.aload_n 3, 1) := dk_45 (dk_at dksX1_written_2 8 rfl rfl)
theorem dX1_written_55 : decode cX1_written 55 = .ok (.iload_n 2, 1) := dk_28 (dk_at dksX1_written_2 9 rfl rfl)
theorem dX1_written_56 : decode cX1_written 56 = .ok (.invokevirtual 343, 3) := dk_182 1 87 (dk_at dksX1_written_2 10 rfl rfl)
theorem dX1_written_59 : decode cX1_written 59 = .ok (.goto 4, 3) := dk_167 0 4 (dk_at dksX1_written_2 13 rfl rfl)
theorem dX1_written_62 : decode cX1_written 62 = .ok (.iconst (-1), 1) := dk_2 (dk_at dksX1_written_2 16 rfl rfl)
theorem dX1_written_63 : decode cX1_written 63 = .ok (.ireturn, 1) := dk_172 (dk_at dksX1_written_2 17 rfl rfl)
abbrev cX1_write : ByteArray := prog_1_method_89_code
def yX1_write : MethodName := ⟨RX1, "write", "(LDistinctMarks$Counter;)Ljava/lang/String;"⟩
def dkwX1_write_6 : List UInt8 := [176]
abbrev dktX1_write_6 : List UInt8 := dkwX1_write_6 ++ []
def dkwX1_write_5 : List UInt8 := [126, 182, 1, 87, 182, 1, 82, 87, 132, 4, 252, 167, 255, 225, 132, 3, 1, 167, 255, 207, 44, 182, 1, 93]
abbrev dktX1_write_5 : List UInt8 := dkwX1_write_5 ++ dktX1_write_6
def dkwX1_write_4 : List UInt8 := [16, 28, 54, 4, 21, 4, 155, 0, 32, 44, 19, 1, 85, 43, 180, 0, 211, 29, 46, 21, 4, 124, 16, 15]
abbrev dktX1_write_4 : List UInt8 := dkwX1_write_4 ++ dktX1_write_5
def dkwX1_write_3 : List UInt8 := [182, 1, 82, 87, 132, 3, 1, 167, 255, 228, 167, 0, 57, 3, 62, 29, 43, 180, 0, 208, 162, 0, 47]
abbrev dktX1_write_3 : List UInt8 := dkwX1_write_3 ++ dktX1_write_4
def dkwX1_write_2 : List UInt8 := [3, 62, 29, 43, 182, 0, 98, 162, 0, 26, 44, 19, 1, 85, 43, 180, 0, 204, 29, 51, 182, 1, 87]
abbrev dktX1_write_2 : List UInt8 := dkwX1_write_2 ++ dktX1_write_3
def dkwX1_write_1 : List UInt8 := [180, 0, 151, 153, 0, 8, 16, 100, 167, 0, 5, 16, 115, 182, 1, 82, 77, 43, 180, 0, 151, 153, 0, 39]
abbrev dktX1_write_1 : List UInt8 := dkwX1_write_1 ++ dktX1_write_2
def dkwX1_write_0 : List UInt8 := [187, 1, 75, 89, 183, 1, 77, 43, 180, 0, 165, 182, 1, 78, 43, 180, 0, 171, 182, 1, 78, 43]
abbrev dktX1_write_0 : List UInt8 := dkwX1_write_0 ++ dktX1_write_1
theorem dksX1_write_0 : cX1_write.data.toList.drop 0 = dktX1_write_0 := by decide +kernel
theorem dksX1_write_1 : cX1_write.data.toList.drop 22 = dktX1_write_1 := dk_seg dksX1_write_0 22 rfl rfl
theorem dksX1_write_2 : cX1_write.data.toList.drop 46 = dktX1_write_2 := dk_seg dksX1_write_1 24 rfl rfl
theorem dksX1_write_3 : cX1_write.data.toList.drop 69 = dktX1_write_3 := dk_seg dksX1_write_2 23 rfl rfl
theorem dksX1_write_4 : cX1_write.data.toList.drop 92 = dktX1_write_4 := dk_seg dksX1_write_3 23 rfl rfl
theorem dksX1_write_5 : cX1_write.data.toList.drop 116 = dktX1_write_5 := dk_seg dksX1_write_4 24 rfl rfl
theorem dksX1_write_6 : cX1_write.data.toList.drop 140 = dktX1_write_6 := dk_seg dksX1_write_5 24 rfl rfl
theorem dX1_write_0 : decode cX1_write 0 = .ok (.new 331, 3) := dk_187 1 75 (dk_at dksX1_write_0 0 rfl rfl)
theorem dX1_write_3 : decode cX1_write 3 = .ok (.dup, 1) := dk_89 (dk_at dksX1_write_0 3 rfl rfl)
theorem dX1_write_4 : decode cX1_write 4 = .ok (.invokespecial 333, 3) := dk_183 1 77 (dk_at dksX1_write_0 4 rfl rfl)
theorem dX1_write_7 : decode cX1_write 7 = .ok (.aload_n 1, 1) := dk_43 (dk_at dksX1_write_0 7 rfl rfl)
theorem dX1_write_8 : decode cX1_write 8 = .ok (.getfield 165, 3) := dk_180 0 165 (dk_at dksX1_write_0 8 rfl rfl)
theorem dX1_write_11 : decode cX1_write 11 = .ok (.invokevirtual 334, 3) := dk_182 1 78 (dk_at dksX1_write_0 11 rfl rfl)
theorem dX1_write_14 : decode cX1_write 14 = .ok (.aload_n 1, 1) := dk_43 (dk_at dksX1_write_0 14 rfl rfl)
theorem dX1_write_15 : decode cX1_write 15 = .ok (.getfield 171, 3) := dk_180 0 171 (dk_at dksX1_write_0 15 rfl rfl)
theorem dX1_write_18 : decode cX1_write 18 = .ok (.invokevirtual 334, 3) := dk_182 1 78 (dk_at dksX1_write_0 18 rfl rfl)
theorem dX1_write_21 : decode cX1_write 21 = .ok (.aload_n 1, 1) := dk_43 (dk_at dksX1_write_0 21 rfl rfl)
theorem dX1_write_22 : decode cX1_write 22 = .ok (.getfield 151, 3) := dk_180 0 151 (dk_at dksX1_write_1 0 rfl rfl)
theorem dX1_write_25 : decode cX1_write 25 = .ok (.ifCond .eq 8, 3) := dk_153 0 8 (dk_at dksX1_write_1 3 rfl rfl)
theorem dX1_write_28 : decode cX1_write 28 = .ok (.bipush 100, 2) := dk_16 100 (dk_at dksX1_write_1 6 rfl rfl)
theorem dX1_write_30 : decode cX1_write 30 = .ok (.goto 5, 3) := dk_167 0 5 (dk_at dksX1_write_1 8 rfl rfl)
theorem dX1_write_33 : decode cX1_write 33 = .ok (.bipush 115, 2) := dk_16 115 (dk_at dksX1_write_1 11 rfl rfl)
theorem dX1_write_35 : decode cX1_write 35 = .ok (.invokevirtual 338, 3) := dk_182 1 82 (dk_at dksX1_write_1 13 rfl rfl)
theorem dX1_write_38 : decode cX1_write 38 = .ok (.astore_n 2, 1) := dk_77 (dk_at dksX1_write_1 16 rfl rfl)
theorem dX1_write_39 : decode cX1_write 39 = .ok (.aload_n 1, 1) := dk_43 (dk_at dksX1_write_1 17 rfl rfl)
theorem dX1_write_40 : decode cX1_write 40 = .ok (.getfield 151, 3) := dk_180 0 151 (dk_at dksX1_write_1 18 rfl rfl)
theorem dX1_write_43 : decode cX1_write 43 = .ok (.ifCond .eq 39, 3) := dk_153 0 39 (dk_at dksX1_write_1 21 rfl rfl)
theorem dX1_write_46 : decode cX1_write 46 = .ok (.iconst 0, 1) := dk_3 (dk_at dksX1_write_2 0 rfl rfl)
theorem dX1_write_47 : decode cX1_write 47 = .ok (.istore_n 3, 1) := dk_62 (dk_at dksX1_write_2 1 rfl rfl)
theorem dX1_write_48 : decode cX1_write 48 = .ok (.iload_n 3, 1) := dk_29 (dk_at dksX1_write_2 2 rfl rfl)
theorem dX1_write_49 : decode cX1_write 49 = .ok (.aload_n 1, 1) := dk_43 (dk_at dksX1_write_2 3 rfl rfl)
theorem dX1_write_50 : decode cX1_write 50 = .ok (.invokevirtual 98, 3) := dk_182 0 98 (dk_at dksX1_write_2 4 rfl rfl)
theorem dX1_write_53 : decode cX1_write 53 = .ok (.if_icmp .ge 26, 3) := dk_162 0 26 (dk_at dksX1_write_2 7 rfl rfl)
theorem dX1_write_56 : decode cX1_write 56 = .ok (.aload_n 2, 1) := dk_44 (dk_at dksX1_write_2 10 rfl rfl)
theorem dX1_write_57 : decode cX1_write 57 = .ok (.ldc_w 341, 3) := dk_19 1 85 (dk_at dksX1_write_2 11 rfl rfl)
theorem dX1_write_60 : decode cX1_write 60 = .ok (.aload_n 1, 1) := dk_43 (dk_at dksX1_write_2 14 rfl rfl)
theorem dX1_write_61 : decode cX1_write 61 = .ok (.getfield 204, 3) := dk_180 0 204 (dk_at dksX1_write_2 15 rfl rfl)
theorem dX1_write_64 : decode cX1_write 64 = .ok (.iload_n 3, 1) := dk_29 (dk_at dksX1_write_2 18 rfl rfl)
theorem dX1_write_65 : decode cX1_write 65 = .ok (.baload, 1) := dk_51 (dk_at dksX1_write_2 19 rfl rfl)
theorem dX1_write_66 : decode cX1_write 66 = .ok (.invokevirtual 343, 3) := dk_182 1 87 (dk_at dksX1_write_2 20 rfl rfl)
theorem dX1_write_69 : decode cX1_write 69 = .ok (.invokevirtual 338, 3) := dk_182 1 82 (dk_at dksX1_write_3 0 rfl rfl)
theorem dX1_write_72 : decode cX1_write 72 = .ok (.pop, 1) := dk_87 (dk_at dksX1_write_3 3 rfl rfl)
theorem dX1_write_73 : decode cX1_write 73 = .ok (.iinc 3 1, 3) := dk_132 3 1 (dk_at dksX1_write_3 4 rfl rfl)
theorem dX1_write_76 : decode cX1_write 76 = .ok (.goto (-28), 3) := dk_167 255 228 (dk_at dksX1_write_3 7 rfl rfl)
theorem dX1_write_79 : decode cX1_write 79 = .ok (.goto 57, 3) := dk_167 0 57 (dk_at dksX1_write_3 10 rfl rfl)
theorem dX1_write_82 : decode cX1_write 82 = .ok (.iconst 0, 1) := dk_3 (dk_at dksX1_write_3 13 rfl rfl)
theorem dX1_write_83 : decode cX1_write 83 = .ok (.istore_n 3, 1) := dk_62 (dk_at dksX1_write_3 14 rfl rfl)
theorem dX1_write_84 : decode cX1_write 84 = .ok (.iload_n 3, 1) := dk_29 (dk_at dksX1_write_3 15 rfl rfl)
theorem dX1_write_85 : decode cX1_write 85 = .ok (.aload_n 1, 1) := dk_43 (dk_at dksX1_write_3 16 rfl rfl)
theorem dX1_write_86 : decode cX1_write 86 = .ok (.getfield 208, 3) := dk_180 0 208 (dk_at dksX1_write_3 17 rfl rfl)
theorem dX1_write_89 : decode cX1_write 89 = .ok (.if_icmp .ge 47, 3) := dk_162 0 47 (dk_at dksX1_write_3 20 rfl rfl)
theorem dX1_write_92 : decode cX1_write 92 = .ok (.bipush 28, 2) := dk_16 28 (dk_at dksX1_write_4 0 rfl rfl)
theorem dX1_write_94 : decode cX1_write 94 = .ok (.istore 4, 2) := dk_54 4 (dk_at dksX1_write_4 2 rfl rfl)
theorem dX1_write_96 : decode cX1_write 96 = .ok (.iload 4, 2) := dk_21 4 (dk_at dksX1_write_4 4 rfl rfl)
theorem dX1_write_98 : decode cX1_write 98 = .ok (.ifCond .lt 32, 3) := dk_155 0 32 (dk_at dksX1_write_4 6 rfl rfl)
theorem dX1_write_101 : decode cX1_write 101 = .ok (.aload_n 2, 1) := dk_44 (dk_at dksX1_write_4 9 rfl rfl)
theorem dX1_write_102 : decode cX1_write 102 = .ok (.ldc_w 341, 3) := dk_19 1 85 (dk_at dksX1_write_4 10 rfl rfl)
theorem dX1_write_105 : decode cX1_write 105 = .ok (.aload_n 1, 1) := dk_43 (dk_at dksX1_write_4 13 rfl rfl)
theorem dX1_write_106 : decode cX1_write 106 = .ok (.getfield 211, 3) := dk_180 0 211 (dk_at dksX1_write_4 14 rfl rfl)
theorem dX1_write_109 : decode cX1_write 109 = .ok (.iload_n 3, 1) := dk_29 (dk_at dksX1_write_4 17 rfl rfl)
theorem dX1_write_110 : decode cX1_write 110 = .ok (.iaload, 1) := dk_46 (dk_at dksX1_write_4 18 rfl rfl)
theorem dX1_write_111 : decode cX1_write 111 = .ok (.iload 4, 2) := dk_21 4 (dk_at dksX1_write_4 19 rfl rfl)
theorem dX1_write_113 : decode cX1_write 113 = .ok (.iushr, 1) := dk_124 (dk_at dksX1_write_4 21 rfl rfl)
theorem dX1_write_114 : decode cX1_write 114 = .ok (.bipush 15, 2) := dk_16 15 (dk_at dksX1_write_4 22 rfl rfl)
theorem dX1_write_116 : decode cX1_write 116 = .ok (.iand, 1) := dk_126 (dk_at dksX1_write_5 0 rfl rfl)
theorem dX1_write_117 : decode cX1_write 117 = .ok (.invokevirtual 343, 3) := dk_182 1 87 (dk_at dksX1_write_5 1 rfl rfl)
theorem dX1_write_120 : decode cX1_write 120 = .ok (.invokevirtual 338, 3) := dk_182 1 82 (dk_at dksX1_write_5 4 rfl rfl)
theorem dX1_write_123 : decode cX1_write 123 = .ok (.pop, 1) := dk_87 (dk_at dksX1_write_5 7 rfl rfl)
theorem dX1_write_124 : decode cX1_write 124 = .ok (.iinc 4 (-4), 3) := dk_132 4 252 (dk_at dksX1_write_5 8 rfl rfl)
theorem dX1_write_127 : decode cX1_write 127 = .ok (.goto (-31), 3) := dk_167 255 225 (dk_at dksX1_write_5 11 rfl rfl)
theorem dX1_write_130 : decode cX1_write 130 = .ok (.iinc 3 1, 3) := dk_132 3 1 (dk_at dksX1_write_5 14 rfl rfl)
theorem dX1_write_133 : decode cX1_write 133 = .ok (.goto (-49), 3) := dk_167 255 207 (dk_at dksX1_write_5 17 rfl rfl)
theorem dX1_write_136 : decode cX1_write 136 = .ok (.aload_n 2, 1) := dk_44 (dk_at dksX1_write_5 20 rfl rfl)
theorem dX1_write_137 : decode cX1_write 137 = .ok (.invokevirtual 349, 3) := dk_182 1 93 (dk_at dksX1_write_5 21 rfl rfl)
theorem dX1_write_140 : decode cX1_write 140 = .ok (.areturn, 1) := dk_176 (dk_at dksX1_write_6 0 rfl rfl)
abbrev cX1_reads : ByteArray := prog_1_method_94_code
def yX1_reads : MethodName := ⟨RX1, "reads", "(I)I"⟩
def dkwX1_reads_8 : List UInt8 := [42, 182, 0, 145, 172]
abbrev dktX1_reads_8 : List UInt8 := dkwX1_reads_8 ++ []
def dkwX1_reads_7 : List UInt8 := [188, 10, 89, 3, 27, 79, 184, 0, 92, 153, 0, 12, 42, 27, 45, 182, 0, 187, 167, 0, 4, 2, 172, 77]
abbrev dktX1_reads_7 : List UInt8 := dkwX1_reads_7 ++ dktX1_reads_8
def dkwX1_reads_6 : List UInt8 := [167, 255, 228, 42, 42, 180, 0, 113, 42, 180, 0, 110, 160, 0, 7, 4, 167, 0, 4, 3, 182, 0, 129, 4]
abbrev dktX1_reads_6 : List UInt8 := dkwX1_reads_6 ++ dktX1_reads_7
def dkwX1_reads_5 : List UInt8 := [162, 0, 25, 45, 180, 0, 204, 21, 4, 42, 16, 33, 28, 100, 182, 1, 107, 145, 84, 132, 4, 1]
abbrev dktX1_reads_5 : List UInt8 := dkwX1_reads_5 ++ dktX1_reads_6
def dkwX1_reads_4 : List UInt8 := [180, 0, 151, 154, 0, 11, 42, 45, 182, 1, 116, 167, 0, 37, 3, 54, 4, 21, 4, 45, 182, 0, 98]
abbrev dktX1_reads_4 : List UInt8 := dkwX1_reads_4 ++ dktX1_reads_5
def dkwX1_reads_3 : List UInt8 := [180, 0, 151, 154, 0, 12, 42, 16, 115, 182, 0, 121, 153, 0, 7, 4, 167, 0, 4, 3, 182, 0, 129, 45]
abbrev dktX1_reads_3 : List UInt8 := dkwX1_reads_3 ++ dktX1_reads_4
def dkwX1_reads_2 : List UInt8 := [89, 42, 28, 42, 182, 1, 113, 183, 0, 75, 78, 45, 42, 16, 100, 182, 0, 121, 181, 0, 151, 42, 45]
abbrev dktX1_reads_2 : List UInt8 := dkwX1_reads_2 ++ dktX1_reads_3
def dkwX1_reads_1 : List UInt8 := [184, 0, 37, 153, 0, 7, 4, 167, 0, 4, 3, 182, 0, 129, 42, 16, 9, 182, 1, 107, 61, 187, 0, 69]
abbrev dktX1_reads_1 : List UInt8 := dkwX1_reads_1 ++ dktX1_reads_2
def dkwX1_reads_0 : List UInt8 := [42, 182, 0, 139, 42, 42, 182, 0, 125, 153, 0, 25, 42, 180, 0, 78, 42, 180, 0, 113, 46, 16, 48, 100]
abbrev dktX1_reads_0 : List UInt8 := dkwX1_reads_0 ++ dktX1_reads_1
theorem dksX1_reads_0 : cX1_reads.data.toList.drop 0 = dktX1_reads_0 := by decide +kernel
theorem dksX1_reads_1 : cX1_reads.data.toList.drop 24 = dktX1_reads_1 := dk_seg dksX1_reads_0 24 rfl rfl
theorem dksX1_reads_2 : cX1_reads.data.toList.drop 48 = dktX1_reads_2 := dk_seg dksX1_reads_1 24 rfl rfl
theorem dksX1_reads_3 : cX1_reads.data.toList.drop 71 = dktX1_reads_3 := dk_seg dksX1_reads_2 23 rfl rfl
theorem dksX1_reads_4 : cX1_reads.data.toList.drop 95 = dktX1_reads_4 := dk_seg dksX1_reads_3 24 rfl rfl
theorem dksX1_reads_5 : cX1_reads.data.toList.drop 118 = dktX1_reads_5 := dk_seg dksX1_reads_4 23 rfl rfl
theorem dksX1_reads_6 : cX1_reads.data.toList.drop 140 = dktX1_reads_6 := dk_seg dksX1_reads_5 22 rfl rfl
theorem dksX1_reads_7 : cX1_reads.data.toList.drop 164 = dktX1_reads_7 := dk_seg dksX1_reads_6 24 rfl rfl
theorem dksX1_reads_8 : cX1_reads.data.toList.drop 188 = dktX1_reads_8 := dk_seg dksX1_reads_7 24 rfl rfl
theorem dX1_reads_0 : decode cX1_reads 0 = .ok (.aload_n 0, 1) := dk_42 (dk_at dksX1_reads_0 0 rfl rfl)
theorem dX1_reads_1 : decode cX1_reads 1 = .ok (.invokevirtual 139, 3) := dk_182 0 139 (dk_at dksX1_reads_0 1 rfl rfl)
theorem dX1_reads_4 : decode cX1_reads 4 = .ok (.aload_n 0, 1) := dk_42 (dk_at dksX1_reads_0 4 rfl rfl)
theorem dX1_reads_5 : decode cX1_reads 5 = .ok (.aload_n 0, 1) := dk_42 (dk_at dksX1_reads_0 5 rfl rfl)
theorem dX1_reads_6 : decode cX1_reads 6 = .ok (.invokevirtual 125, 3) := dk_182 0 125 (dk_at dksX1_reads_0 6 rfl rfl)
theorem dX1_reads_9 : decode cX1_reads 9 = .ok (.ifCond .eq 25, 3) := dk_153 0 25 (dk_at dksX1_reads_0 9 rfl rfl)
theorem dX1_reads_12 : decode cX1_reads 12 = .ok (.aload_n 0, 1) := dk_42 (dk_at dksX1_reads_0 12 rfl rfl)
theorem dX1_reads_13 : decode cX1_reads 13 = .ok (.getfield 78, 3) := dk_180 0 78 (dk_at dksX1_reads_0 13 rfl rfl)
theorem dX1_reads_16 : decode cX1_reads 16 = .ok (.aload_n 0, 1) := dk_42 (dk_at dksX1_reads_0 16 rfl rfl)
theorem dX1_reads_17 : decode cX1_reads 17 = .ok (.getfield 113, 3) := dk_180 0 113 (dk_at dksX1_reads_0 17 rfl rfl)
theorem dX1_reads_20 : decode cX1_reads 20 = .ok (.iaload, 1) := dk_46 (dk_at dksX1_reads_0 20 rfl rfl)
theorem dX1_reads_21 : decode cX1_reads 21 = .ok (.bipush 48, 2) := dk_16 48 (dk_at dksX1_reads_0 21 rfl rfl)
theorem dX1_reads_23 : decode cX1_reads 23 = .ok (.isub, 1) := dk_100 (dk_at dksX1_reads_0 23 rfl rfl)
theorem dX1_reads_24 : decode cX1_reads 24 = .ok (.invokestatic 37, 3) := dk_184 0 37 (dk_at dksX1_reads_1 0 rfl rfl)
theorem dX1_reads_27 : decode cX1_reads 27 = .ok (.ifCond .eq 7, 3) := dk_153 0 7 (dk_at dksX1_reads_1 3 rfl rfl)
theorem dX1_reads_30 : decode cX1_reads 30 = .ok (.iconst 1, 1) := dk_4 (dk_at dksX1_reads_1 6 rfl rfl)
theorem dX1_reads_31 : decode cX1_reads 31 = .ok (.goto 4, 3) := dk_167 0 4 (dk_at dksX1_reads_1 7 rfl rfl)
theorem dX1_reads_34 : decode cX1_reads 34 = .ok (.iconst 0, 1) := dk_3 (dk_at dksX1_reads_1 10 rfl rfl)
theorem dX1_reads_35 : decode cX1_reads 35 = .ok (.invokevirtual 129, 3) := dk_182 0 129 (dk_at dksX1_reads_1 11 rfl rfl)
theorem dX1_reads_38 : decode cX1_reads 38 = .ok (.aload_n 0, 1) := dk_42 (dk_at dksX1_reads_1 14 rfl rfl)
theorem dX1_reads_39 : decode cX1_reads 39 = .ok (.bipush 9, 2) := dk_16 9 (dk_at dksX1_reads_1 15 rfl rfl)
theorem dX1_reads_41 : decode cX1_reads 41 = .ok (.invokevirtual 363, 3) := dk_182 1 107 (dk_at dksX1_reads_1 17 rfl rfl)
theorem dX1_reads_44 : decode cX1_reads 44 = .ok (.istore_n 2, 1) := dk_61 (dk_at dksX1_reads_1 20 rfl rfl)
theorem dX1_reads_45 : decode cX1_reads 45 = .ok (.new 69, 3) := dk_187 0 69 (dk_at dksX1_reads_1 21 rfl rfl)
theorem dX1_reads_48 : decode cX1_reads 48 = .ok (.dup, 1) := dk_89 (dk_at dksX1_reads_2 0 rfl rfl)
theorem dX1_reads_49 : decode cX1_reads 49 = .ok (.aload_n 0, 1) := dk_42 (dk_at dksX1_reads_2 1 rfl rfl)
theorem dX1_reads_50 : decode cX1_reads 50 = .ok (.iload_n 2, 1) := dk_28 (dk_at dksX1_reads_2 2 rfl rfl)
theorem dX1_reads_51 : decode cX1_reads 51 = .ok (.aload_n 0, 1) := dk_42 (dk_at dksX1_reads_2 3 rfl rfl)
theorem dX1_reads_52 : decode cX1_reads 52 = .ok (.invokevirtual 369, 3) := dk_182 1 113 (dk_at dksX1_reads_2 4 rfl rfl)
theorem dX1_reads_55 : decode cX1_reads 55 = .ok (.invokespecial 75, 3) := dk_183 0 75 (dk_at dksX1_reads_2 7 rfl rfl)
theorem dX1_reads_58 : decode cX1_reads 58 = .ok (.astore_n 3, 1) := dk_78 (dk_at dksX1_reads_2 10 rfl rfl)
theorem dX1_reads_59 : decode cX1_reads 59 = .ok (.aload_n 3, 1) := dk_45 (dk_at dksX1_reads_2 11 rfl rfl)
theorem dX1_reads_60 : decode cX1_reads 60 = .ok (.aload_n 0, 1) := dk_42 (dk_at dksX1_reads_2 12 rfl rfl)
theorem dX1_reads_61 : decode cX1_reads 61 = .ok (.bipush 100, 2) := dk_16 100 (dk_at dksX1_reads_2 13 rfl rfl)
theorem dX1_reads_63 : decode cX1_reads 63 = .ok (.invokevirtual 121, 3) := dk_182 0 121 (dk_at dksX1_reads_2 15 rfl rfl)
theorem dX1_reads_66 : decode cX1_reads 66 = .ok (.putfield 151, 3) := dk_181 0 151 (dk_at dksX1_reads_2 18 rfl rfl)
theorem dX1_reads_69 : decode cX1_reads 69 = .ok (.aload_n 0, 1) := dk_42 (dk_at dksX1_reads_2 21 rfl rfl)
theorem dX1_reads_70 : decode cX1_reads 70 = .ok (.aload_n 3, 1) := dk_45 (dk_at dksX1_reads_2 22 rfl rfl)
theorem dX1_reads_71 : decode cX1_reads 71 = .ok (.getfield 151, 3) := dk_180 0 151 (dk_at dksX1_reads_3 0 rfl rfl)
theorem dX1_reads_74 : decode cX1_reads 74 = .ok (.ifCond .ne 12, 3) := dk_154 0 12 (dk_at dksX1_reads_3 3 rfl rfl)
theorem dX1_reads_77 : decode cX1_reads 77 = .ok (.aload_n 0, 1) := dk_42 (dk_at dksX1_reads_3 6 rfl rfl)
theorem dX1_reads_78 : decode cX1_reads 78 = .ok (.bipush 115, 2) := dk_16 115 (dk_at dksX1_reads_3 7 rfl rfl)
theorem dX1_reads_80 : decode cX1_reads 80 = .ok (.invokevirtual 121, 3) := dk_182 0 121 (dk_at dksX1_reads_3 9 rfl rfl)
theorem dX1_reads_83 : decode cX1_reads 83 = .ok (.ifCond .eq 7, 3) := dk_153 0 7 (dk_at dksX1_reads_3 12 rfl rfl)
theorem dX1_reads_86 : decode cX1_reads 86 = .ok (.iconst 1, 1) := dk_4 (dk_at dksX1_reads_3 15 rfl rfl)
theorem dX1_reads_87 : decode cX1_reads 87 = .ok (.goto 4, 3) := dk_167 0 4 (dk_at dksX1_reads_3 16 rfl rfl)
theorem dX1_reads_90 : decode cX1_reads 90 = .ok (.iconst 0, 1) := dk_3 (dk_at dksX1_reads_3 19 rfl rfl)
theorem dX1_reads_91 : decode cX1_reads 91 = .ok (.invokevirtual 129, 3) := dk_182 0 129 (dk_at dksX1_reads_3 20 rfl rfl)
theorem dX1_reads_94 : decode cX1_reads 94 = .ok (.aload_n 3, 1) := dk_45 (dk_at dksX1_reads_3 23 rfl rfl)
theorem dX1_reads_95 : decode cX1_reads 95 = .ok (.getfield 151, 3) := dk_180 0 151 (dk_at dksX1_reads_4 0 rfl rfl)
theorem dX1_reads_98 : decode cX1_reads 98 = .ok (.ifCond .ne 11, 3) := dk_154 0 11 (dk_at dksX1_reads_4 3 rfl rfl)
theorem dX1_reads_101 : decode cX1_reads 101 = .ok (.aload_n 0, 1) := dk_42 (dk_at dksX1_reads_4 6 rfl rfl)
theorem dX1_reads_102 : decode cX1_reads 102 = .ok (.aload_n 3, 1) := dk_45 (dk_at dksX1_reads_4 7 rfl rfl)
theorem dX1_reads_103 : decode cX1_reads 103 = .ok (.invokevirtual 372, 3) := dk_182 1 116 (dk_at dksX1_reads_4 8 rfl rfl)
theorem dX1_reads_106 : decode cX1_reads 106 = .ok (.goto 37, 3) := dk_167 0 37 (dk_at dksX1_reads_4 11 rfl rfl)
theorem dX1_reads_109 : decode cX1_reads 109 = .ok (.iconst 0, 1) := dk_3 (dk_at dksX1_reads_4 14 rfl rfl)
theorem dX1_reads_110 : decode cX1_reads 110 = .ok (.istore 4, 2) := dk_54 4 (dk_at dksX1_reads_4 15 rfl rfl)
theorem dX1_reads_112 : decode cX1_reads 112 = .ok (.iload 4, 2) := dk_21 4 (dk_at dksX1_reads_4 17 rfl rfl)
theorem dX1_reads_114 : decode cX1_reads 114 = .ok (.aload_n 3, 1) := dk_45 (dk_at dksX1_reads_4 19 rfl rfl)
theorem dX1_reads_115 : decode cX1_reads 115 = .ok (.invokevirtual 98, 3) := dk_182 0 98 (dk_at dksX1_reads_4 20 rfl rfl)
theorem dX1_reads_118 : decode cX1_reads 118 = .ok (.if_icmp .ge 25, 3) := dk_162 0 25 (dk_at dksX1_reads_5 0 rfl rfl)
theorem dX1_reads_121 : decode cX1_reads 121 = .ok (.aload_n 3, 1) := dk_45 (dk_at dksX1_reads_5 3 rfl rfl)
theorem dX1_reads_122 : decode cX1_reads 122 = .ok (.getfield 204, 3) := dk_180 0 204 (dk_at dksX1_reads_5 4 rfl rfl)
theorem dX1_reads_125 : decode cX1_reads 125 = .ok (.iload 4, 2) := dk_21 4 (dk_at dksX1_reads_5 7 rfl rfl)
theorem dX1_reads_127 : decode cX1_reads 127 = .ok (.aload_n 0, 1) := dk_42 (dk_at dksX1_reads_5 9 rfl rfl)
theorem dX1_reads_128 : decode cX1_reads 128 = .ok (.bipush 33, 2) := dk_16 33 (dk_at dksX1_reads_5 10 rfl rfl)
theorem dX1_reads_130 : decode cX1_reads 130 = .ok (.iload_n 2, 1) := dk_28 (dk_at dksX1_reads_5 12 rfl rfl)
theorem dX1_reads_131 : decode cX1_reads 131 = .ok (.isub, 1) := dk_100 (dk_at dksX1_reads_5 13 rfl rfl)
theorem dX1_reads_132 : decode cX1_reads 132 = .ok (.invokevirtual 363, 3) := dk_182 1 107 (dk_at dksX1_reads_5 14 rfl rfl)
theorem dX1_reads_135 : decode cX1_reads 135 = .ok (.i2b, 1) := dk_145 (dk_at dksX1_reads_5 17 rfl rfl)
theorem dX1_reads_136 : decode cX1_reads 136 = .ok (.bastore, 1) := dk_84 (dk_at dksX1_reads_5 18 rfl rfl)
theorem dX1_reads_137 : decode cX1_reads 137 = .ok (.iinc 4 1, 3) := dk_132 4 1 (dk_at dksX1_reads_5 19 rfl rfl)
theorem dX1_reads_140 : decode cX1_reads 140 = .ok (.goto (-28), 3) := dk_167 255 228 (dk_at dksX1_reads_6 0 rfl rfl)
theorem dX1_reads_143 : decode cX1_reads 143 = .ok (.aload_n 0, 1) := dk_42 (dk_at dksX1_reads_6 3 rfl rfl)
theorem dX1_reads_144 : decode cX1_reads 144 = .ok (.aload_n 0, 1) := dk_42 (dk_at dksX1_reads_6 4 rfl rfl)
theorem dX1_reads_145 : decode cX1_reads 145 = .ok (.getfield 113, 3) := dk_180 0 113 (dk_at dksX1_reads_6 5 rfl rfl)
theorem dX1_reads_148 : decode cX1_reads 148 = .ok (.aload_n 0, 1) := dk_42 (dk_at dksX1_reads_6 8 rfl rfl)
theorem dX1_reads_149 : decode cX1_reads 149 = .ok (.getfield 110, 3) := dk_180 0 110 (dk_at dksX1_reads_6 9 rfl rfl)
theorem dX1_reads_152 : decode cX1_reads 152 = .ok (.if_icmp .ne 7, 3) := dk_160 0 7 (dk_at dksX1_reads_6 12 rfl rfl)
theorem dX1_reads_155 : decode cX1_reads 155 = .ok (.iconst 1, 1) := dk_4 (dk_at dksX1_reads_6 15 rfl rfl)
theorem dX1_reads_156 : decode cX1_reads 156 = .ok (.goto 4, 3) := dk_167 0 4 (dk_at dksX1_reads_6 16 rfl rfl)
theorem dX1_reads_159 : decode cX1_reads 159 = .ok (.iconst 0, 1) := dk_3 (dk_at dksX1_reads_6 19 rfl rfl)
theorem dX1_reads_160 : decode cX1_reads 160 = .ok (.invokevirtual 129, 3) := dk_182 0 129 (dk_at dksX1_reads_6 20 rfl rfl)
theorem dX1_reads_163 : decode cX1_reads 163 = .ok (.iconst 1, 1) := dk_4 (dk_at dksX1_reads_6 23 rfl rfl)
theorem dX1_reads_164 : decode cX1_reads 164 = .ok (.newarray .int, 2) := dk_188_10 (dk_at dksX1_reads_7 0 rfl rfl)
theorem dX1_reads_166 : decode cX1_reads 166 = .ok (.dup, 1) := dk_89 (dk_at dksX1_reads_7 2 rfl rfl)
theorem dX1_reads_167 : decode cX1_reads 167 = .ok (.iconst 0, 1) := dk_3 (dk_at dksX1_reads_7 3 rfl rfl)
theorem dX1_reads_168 : decode cX1_reads 168 = .ok (.iload_n 1, 1) := dk_27 (dk_at dksX1_reads_7 4 rfl rfl)
theorem dX1_reads_169 : decode cX1_reads 169 = .ok (.iastore, 1) := dk_79 (dk_at dksX1_reads_7 5 rfl rfl)
theorem dX1_reads_170 : decode cX1_reads 170 = .ok (.invokestatic 92, 3) := dk_184 0 92 (dk_at dksX1_reads_7 6 rfl rfl)
theorem dX1_reads_173 : decode cX1_reads 173 = .ok (.ifCond .eq 12, 3) := dk_153 0 12 (dk_at dksX1_reads_7 9 rfl rfl)
theorem dX1_reads_176 : decode cX1_reads 176 = .ok (.aload_n 0, 1) := dk_42 (dk_at dksX1_reads_7 12 rfl rfl)
theorem dX1_reads_177 : decode cX1_reads 177 = .ok (.iload_n 1, 1) := dk_27 (dk_at dksX1_reads_7 13 rfl rfl)
theorem dX1_reads_178 : decode cX1_reads 178 = .ok (.aload_n 3, 1) := dk_45 (dk_at dksX1_reads_7 14 rfl rfl)
theorem dX1_reads_179 : decode cX1_reads 179 = .ok (.invokevirtual 187, 3) := dk_182 0 187 (dk_at dksX1_reads_7 15 rfl rfl)
theorem dX1_reads_182 : decode cX1_reads 182 = .ok (.goto 4, 3) := dk_167 0 4 (dk_at dksX1_reads_7 18 rfl rfl)
theorem dX1_reads_185 : decode cX1_reads 185 = .ok (.iconst (-1), 1) := dk_2 (dk_at dksX1_reads_7 21 rfl rfl)
theorem dX1_reads_186 : decode cX1_reads 186 = .ok (.ireturn, 1) := dk_172 (dk_at dksX1_reads_7 22 rfl rfl)
theorem dX1_reads_187 : decode cX1_reads 187 = .ok (.astore_n 2, 1) := dk_77 (dk_at dksX1_reads_7 23 rfl rfl)
theorem dX1_reads_188 : decode cX1_reads 188 = .ok (.aload_n 0, 1) := dk_42 (dk_at dksX1_reads_8 0 rfl rfl)
theorem dX1_reads_189 : decode cX1_reads 189 = .ok (.invokevirtual 145, 3) := dk_182 0 145 (dk_at dksX1_reads_8 1 rfl rfl)
theorem dX1_reads_192 : decode cX1_reads 192 = .ok (.ireturn, 1) := dk_172 (dk_at dksX1_reads_8 4 rfl rfl)
abbrev cX1_signTold : ByteArray := prog_1_method_91_code
def yX1_signTold : MethodName := ⟨RX1, "signTold", "(I)I"⟩
def dkwX1_signTold_2 : List UInt8 := [180, 0, 113, 4, 96, 181, 0, 113, 28, 172]
abbrev dktX1_signTold_2 : List UInt8 := dkwX1_signTold_2 ++ []
def dkwX1_signTold_1 : List UInt8 := [182, 1, 104, 167, 0, 4, 2, 61, 42, 28, 133, 9, 27, 133, 184, 0, 7, 182, 0, 129, 42, 89]
abbrev dktX1_signTold_1 : List UInt8 := dkwX1_signTold_1 ++ dktX1_signTold_2
def dkwX1_signTold_0 : List UInt8 := [42, 180, 0, 113, 42, 180, 0, 110, 162, 0, 21, 19, 1, 85, 42, 180, 0, 78, 42, 180, 0, 113, 46]
abbrev dktX1_signTold_0 : List UInt8 := dkwX1_signTold_0 ++ dktX1_signTold_1
theorem dksX1_signTold_0 : cX1_signTold.data.toList.drop 0 = dktX1_signTold_0 := by decide +kernel
theorem dksX1_signTold_1 : cX1_signTold.data.toList.drop 23 = dktX1_signTold_1 := dk_seg dksX1_signTold_0 23 rfl rfl
theorem dksX1_signTold_2 : cX1_signTold.data.toList.drop 45 = dktX1_signTold_2 := dk_seg dksX1_signTold_1 22 rfl rfl
theorem dX1_signTold_0 : decode cX1_signTold 0 = .ok (.aload_n 0, 1) := dk_42 (dk_at dksX1_signTold_0 0 rfl rfl)
theorem dX1_signTold_1 : decode cX1_signTold 1 = .ok (.getfield 113, 3) := dk_180 0 113 (dk_at dksX1_signTold_0 1 rfl rfl)
theorem dX1_signTold_4 : decode cX1_signTold 4 = .ok (.aload_n 0, 1) := dk_42 (dk_at dksX1_signTold_0 4 rfl rfl)
theorem dX1_signTold_5 : decode cX1_signTold 5 = .ok (.getfield 110, 3) := dk_180 0 110 (dk_at dksX1_signTold_0 5 rfl rfl)
theorem dX1_signTold_8 : decode cX1_signTold 8 = .ok (.if_icmp .ge 21, 3) := dk_162 0 21 (dk_at dksX1_signTold_0 8 rfl rfl)
theorem dX1_signTold_11 : decode cX1_signTold 11 = .ok (.ldc_w 341, 3) := dk_19 1 85 (dk_at dksX1_signTold_0 11 rfl rfl)
theorem dX1_signTold_14 : decode cX1_signTold 14 = .ok (.aload_n 0, 1) := dk_42 (dk_at dksX1_signTold_0 14 rfl rfl)
theorem dX1_signTold_15 : decode cX1_signTold 15 = .ok (.getfield 78, 3) := dk_180 0 78 (dk_at dksX1_signTold_0 15 rfl rfl)
theorem dX1_signTold_18 : decode cX1_signTold 18 = .ok (.aload_n 0, 1) := dk_42 (dk_at dksX1_signTold_0 18 rfl rfl)
theorem dX1_signTold_19 : decode cX1_signTold 19 = .ok (.getfield 113, 3) := dk_180 0 113 (dk_at dksX1_signTold_0 19 rfl rfl)
theorem dX1_signTold_22 : decode cX1_signTold 22 = .ok (.iaload, 1) := dk_46 (dk_at dksX1_signTold_0 22 rfl rfl)
theorem dX1_signTold_23 : decode cX1_signTold 23 = .ok (.invokevirtual 360, 3) := dk_182 1 104 (dk_at dksX1_signTold_1 0 rfl rfl)
theorem dX1_signTold_26 : decode cX1_signTold 26 = .ok (.goto 4, 3) := dk_167 0 4 (dk_at dksX1_signTold_1 3 rfl rfl)
theorem dX1_signTold_29 : decode cX1_signTold 29 = .ok (.iconst (-1), 1) := dk_2 (dk_at dksX1_signTold_1 6 rfl rfl)
theorem dX1_signTold_30 : decode cX1_signTold 30 = .ok (.istore_n 2, 1) := dk_61 (dk_at dksX1_signTold_1 7 rfl rfl)
theorem dX1_signTold_31 : decode cX1_signTold 31 = .ok (.aload_n 0, 1) := dk_42 (dk_at dksX1_signTold_1 8 rfl rfl)
theorem dX1_signTold_32 : decode cX1_signTold 32 = .ok (.iload_n 2, 1) := dk_28 (dk_at dksX1_signTold_1 9 rfl rfl)
theorem dX1_signTold_33 : decode cX1_signTold 33 = .ok (.i2l, 1) := dk_133 (dk_at dksX1_signTold_1 10 rfl rfl)
theorem dX1_signTold_34 : decode cX1_signTold 34 = .ok (.lconst 0, 1) := dk_9 (dk_at dksX1_signTold_1 11 rfl rfl)
theorem dX1_signTold_35 : decode cX1_signTold 35 = .ok (.iload_n 1, 1) := dk_27 (dk_at dksX1_signTold_1 12 rfl rfl)
theorem dX1_signTold_36 : decode cX1_signTold 36 = .ok (.i2l, 1) := dk_133 (dk_at dksX1_signTold_1 13 rfl rfl)
theorem dX1_signTold_37 : decode cX1_signTold 37 = .ok (.invokestatic 7, 3) := dk_184 0 7 (dk_at dksX1_signTold_1 14 rfl rfl)
theorem dX1_signTold_40 : decode cX1_signTold 40 = .ok (.invokevirtual 129, 3) := dk_182 0 129 (dk_at dksX1_signTold_1 17 rfl rfl)
theorem dX1_signTold_43 : decode cX1_signTold 43 = .ok (.aload_n 0, 1) := dk_42 (dk_at dksX1_signTold_1 20 rfl rfl)
theorem dX1_signTold_44 : decode cX1_signTold 44 = .ok (.dup, 1) := dk_89 (dk_at dksX1_signTold_1 21 rfl rfl)
theorem dX1_signTold_45 : decode cX1_signTold 45 = .ok (.getfield 113, 3) := dk_180 0 113 (dk_at dksX1_signTold_2 0 rfl rfl)
theorem dX1_signTold_48 : decode cX1_signTold 48 = .ok (.iconst 1, 1) := dk_4 (dk_at dksX1_signTold_2 3 rfl rfl)
theorem dX1_signTold_49 : decode cX1_signTold 49 = .ok (.iadd, 1) := dk_96 (dk_at dksX1_signTold_2 4 rfl rfl)
theorem dX1_signTold_50 : decode cX1_signTold 50 = .ok (.putfield 113, 3) := dk_181 0 113 (dk_at dksX1_signTold_2 5 rfl rfl)
theorem dX1_signTold_53 : decode cX1_signTold 53 = .ok (.iload_n 2, 1) := dk_28 (dk_at dksX1_signTold_2 8 rfl rfl)
theorem dX1_signTold_54 : decode cX1_signTold 54 = .ok (.ireturn, 1) := dk_172 (dk_at dksX1_signTold_2 9 rfl rfl)
abbrev cX1_limitTold : ByteArray := prog_1_method_92_code
def yX1_limitTold : MethodName := ⟨RX1, "limitTold", "()I"⟩
def dkwX1_limitTold_3 : List UInt8 := [167, 0, 4, 3, 182, 0, 129, 16, 10, 27, 104, 42, 16, 9, 182, 1, 107, 96, 172]
abbrev dktX1_limitTold_3 : List UInt8 := dkwX1_limitTold_3 ++ []
def dkwX1_limitTold_2 : List UInt8 := [16, 10, 27, 104, 42, 180, 0, 78, 42, 180, 0, 113, 46, 96, 16, 48, 100, 16, 48, 163, 0, 7, 4]
abbrev dktX1_limitTold_2 : List UInt8 := dkwX1_limitTold_2 ++ dktX1_limitTold_3
def dkwX1_limitTold_1 : List UInt8 := [167, 0, 4, 3, 182, 0, 129, 42, 16, 9, 182, 1, 107, 60, 42, 182, 0, 125, 154, 0, 5, 27, 172, 42]
abbrev dktX1_limitTold_1 : List UInt8 := dkwX1_limitTold_1 ++ dktX1_limitTold_2
def dkwX1_limitTold_0 : List UInt8 := [42, 42, 182, 0, 125, 153, 0, 21, 42, 180, 0, 78, 42, 180, 0, 113, 46, 16, 48, 159, 0, 7, 4]
abbrev dktX1_limitTold_0 : List UInt8 := dkwX1_limitTold_0 ++ dktX1_limitTold_1
theorem dksX1_limitTold_0 : cX1_limitTold.data.toList.drop 0 = dktX1_limitTold_0 := by decide +kernel
theorem dksX1_limitTold_1 : cX1_limitTold.data.toList.drop 23 = dktX1_limitTold_1 := dk_seg dksX1_limitTold_0 23 rfl rfl
theorem dksX1_limitTold_2 : cX1_limitTold.data.toList.drop 47 = dktX1_limitTold_2 := dk_seg dksX1_limitTold_1 24 rfl rfl
theorem dksX1_limitTold_3 : cX1_limitTold.data.toList.drop 70 = dktX1_limitTold_3 := dk_seg dksX1_limitTold_2 23 rfl rfl
theorem dX1_limitTold_0 : decode cX1_limitTold 0 = .ok (.aload_n 0, 1) := dk_42 (dk_at dksX1_limitTold_0 0 rfl rfl)
theorem dX1_limitTold_1 : decode cX1_limitTold 1 = .ok (.aload_n 0, 1) := dk_42 (dk_at dksX1_limitTold_0 1 rfl rfl)
theorem dX1_limitTold_2 : decode cX1_limitTold 2 = .ok (.invokevirtual 125, 3) := dk_182 0 125 (dk_at dksX1_limitTold_0 2 rfl rfl)
theorem dX1_limitTold_5 : decode cX1_limitTold 5 = .ok (.ifCond .eq 21, 3) := dk_153 0 21 (dk_at dksX1_limitTold_0 5 rfl rfl)
theorem dX1_limitTold_8 : decode cX1_limitTold 8 = .ok (.aload_n 0, 1) := dk_42 (dk_at dksX1_limitTold_0 8 rfl rfl)
theorem dX1_limitTold_9 : decode cX1_limitTold 9 = .ok (.getfield 78, 3) := dk_180 0 78 (dk_at dksX1_limitTold_0 9 rfl rfl)
theorem dX1_limitTold_12 : decode cX1_limitTold 12 = .ok (.aload_n 0, 1) := dk_42 (dk_at dksX1_limitTold_0 12 rfl rfl)
theorem dX1_limitTold_13 : decode cX1_limitTold 13 = .ok (.getfield 113, 3) := dk_180 0 113 (dk_at dksX1_limitTold_0 13 rfl rfl)
theorem dX1_limitTold_16 : decode cX1_limitTold 16 = .ok (.iaload, 1) := dk_46 (dk_at dksX1_limitTold_0 16 rfl rfl)
theorem dX1_limitTold_17 : decode cX1_limitTold 17 = .ok (.bipush 48, 2) := dk_16 48 (dk_at dksX1_limitTold_0 17 rfl rfl)
theorem dX1_limitTold_19 : decode cX1_limitTold 19 = .ok (.if_icmp .eq 7, 3) := dk_159 0 7 (dk_at dksX1_limitTold_0 19 rfl rfl)
theorem dX1_limitTold_22 : decode cX1_limitTold 22 = .ok (.iconst 1, 1) := dk_4 (dk_at dksX1_limitTold_0 22 rfl rfl)
theorem dX1_limitTold_23 : decode cX1_limitTold 23 = .ok (.goto 4, 3) := dk_167 0 4 (dk_at dksX1_limitTold_1 0 rfl rfl)
theorem dX1_limitTold_26 : decode cX1_limitTold 26 = .ok (.iconst 0, 1) := dk_3 (dk_at dksX1_limitTold_1 3 rfl rfl)
theorem dX1_limitTold_27 : decode cX1_limitTold 27 = .ok (.invokevirtual 129, 3) := dk_182 0 129 (dk_at dksX1_limitTold_1 4 rfl rfl)
theorem dX1_limitTold_30 : decode cX1_limitTold 30 = .ok (.aload_n 0, 1) := dk_42 (dk_at dksX1_limitTold_1 7 rfl rfl)
theorem dX1_limitTold_31 : decode cX1_limitTold 31 = .ok (.bipush 9, 2) := dk_16 9 (dk_at dksX1_limitTold_1 8 rfl rfl)
theorem dX1_limitTold_33 : decode cX1_limitTold 33 = .ok (.invokevirtual 363, 3) := dk_182 1 107 (dk_at dksX1_limitTold_1 10 rfl rfl)
theorem dX1_limitTold_36 : decode cX1_limitTold 36 = .ok (.istore_n 1, 1) := dk_60 (dk_at dksX1_limitTold_1 13 rfl rfl)
theorem dX1_limitTold_37 : decode cX1_limitTold 37 = .ok (.aload_n 0, 1) := dk_42 (dk_at dksX1_limitTold_1 14 rfl rfl)
theorem dX1_limitTold_38 : decode cX1_limitTold 38 = .ok (.invokevirtual 125, 3) := dk_182 0 125 (dk_at dksX1_limitTold_1 15 rfl rfl)
theorem dX1_limitTold_41 : decode cX1_limitTold 41 = .ok (.ifCond .ne 5, 3) := dk_154 0 5 (dk_at dksX1_limitTold_1 18 rfl rfl)
theorem dX1_limitTold_44 : decode cX1_limitTold 44 = .ok (.iload_n 1, 1) := dk_27 (dk_at dksX1_limitTold_1 21 rfl rfl)
theorem dX1_limitTold_45 : decode cX1_limitTold 45 = .ok (.ireturn, 1) := dk_172 (dk_at dksX1_limitTold_1 22 rfl rfl)
theorem dX1_limitTold_46 : decode cX1_limitTold 46 = .ok (.aload_n 0, 1) := dk_42 (dk_at dksX1_limitTold_1 23 rfl rfl)
theorem dX1_limitTold_47 : decode cX1_limitTold 47 = .ok (.bipush 10, 2) := dk_16 10 (dk_at dksX1_limitTold_2 0 rfl rfl)
theorem dX1_limitTold_49 : decode cX1_limitTold 49 = .ok (.iload_n 1, 1) := dk_27 (dk_at dksX1_limitTold_2 2 rfl rfl)
theorem dX1_limitTold_50 : decode cX1_limitTold 50 = .ok (.imul, 1) := dk_104 (dk_at dksX1_limitTold_2 3 rfl rfl)
theorem dX1_limitTold_51 : decode cX1_limitTold 51 = .ok (.aload_n 0, 1) := dk_42 (dk_at dksX1_limitTold_2 4 rfl rfl)
theorem dX1_limitTold_52 : decode cX1_limitTold 52 = .ok (.getfield 78, 3) := dk_180 0 78 (dk_at dksX1_limitTold_2 5 rfl rfl)
theorem dX1_limitTold_55 : decode cX1_limitTold 55 = .ok (.aload_n 0, 1) := dk_42 (dk_at dksX1_limitTold_2 8 rfl rfl)
theorem dX1_limitTold_56 : decode cX1_limitTold 56 = .ok (.getfield 113, 3) := dk_180 0 113 (dk_at dksX1_limitTold_2 9 rfl rfl)
theorem dX1_limitTold_59 : decode cX1_limitTold 59 = .ok (.iaload, 1) := dk_46 (dk_at dksX1_limitTold_2 12 rfl rfl)
theorem dX1_limitTold_60 : decode cX1_limitTold 60 = .ok (.iadd, 1) := dk_96 (dk_at dksX1_limitTold_2 13 rfl rfl)
theorem dX1_limitTold_61 : decode cX1_limitTold 61 = .ok (.bipush 48, 2) := dk_16 48 (dk_at dksX1_limitTold_2 14 rfl rfl)
theorem dX1_limitTold_63 : decode cX1_limitTold 63 = .ok (.isub, 1) := dk_100 (dk_at dksX1_limitTold_2 16 rfl rfl)
theorem dX1_limitTold_64 : decode cX1_limitTold 64 = .ok (.bipush 48, 2) := dk_16 48 (dk_at dksX1_limitTold_2 17 rfl rfl)
theorem dX1_limitTold_66 : decode cX1_limitTold 66 = .ok (.if_icmp .gt 7, 3) := dk_163 0 7 (dk_at dksX1_limitTold_2 19 rfl rfl)
theorem dX1_limitTold_69 : decode cX1_limitTold 69 = .ok (.iconst 1, 1) := dk_4 (dk_at dksX1_limitTold_2 22 rfl rfl)
theorem dX1_limitTold_70 : decode cX1_limitTold 70 = .ok (.goto 4, 3) := dk_167 0 4 (dk_at dksX1_limitTold_3 0 rfl rfl)
theorem dX1_limitTold_73 : decode cX1_limitTold 73 = .ok (.iconst 0, 1) := dk_3 (dk_at dksX1_limitTold_3 3 rfl rfl)
theorem dX1_limitTold_74 : decode cX1_limitTold 74 = .ok (.invokevirtual 129, 3) := dk_182 0 129 (dk_at dksX1_limitTold_3 4 rfl rfl)
theorem dX1_limitTold_77 : decode cX1_limitTold 77 = .ok (.bipush 10, 2) := dk_16 10 (dk_at dksX1_limitTold_3 7 rfl rfl)
theorem dX1_limitTold_79 : decode cX1_limitTold 79 = .ok (.iload_n 1, 1) := dk_27 (dk_at dksX1_limitTold_3 9 rfl rfl)
theorem dX1_limitTold_80 : decode cX1_limitTold 80 = .ok (.imul, 1) := dk_104 (dk_at dksX1_limitTold_3 10 rfl rfl)
theorem dX1_limitTold_81 : decode cX1_limitTold 81 = .ok (.aload_n 0, 1) := dk_42 (dk_at dksX1_limitTold_3 11 rfl rfl)
theorem dX1_limitTold_82 : decode cX1_limitTold 82 = .ok (.bipush 9, 2) := dk_16 9 (dk_at dksX1_limitTold_3 12 rfl rfl)
theorem dX1_limitTold_84 : decode cX1_limitTold 84 = .ok (.invokevirtual 363, 3) := dk_182 1 107 (dk_at dksX1_limitTold_3 14 rfl rfl)
theorem dX1_limitTold_87 : decode cX1_limitTold 87 = .ok (.iadd, 1) := dk_96 (dk_at dksX1_limitTold_3 17 rfl rfl)
theorem dX1_limitTold_88 : decode cX1_limitTold 88 = .ok (.ireturn, 1) := dk_172 (dk_at dksX1_limitTold_3 18 rfl rfl)
abbrev cX1_marksTold : ByteArray := prog_1_method_93_code
def yX1_marksTold : MethodName := ⟨RX1, "marksTold", "(LDistinctMarks$Counter;)V"⟩
def dkwX1_marksTold_4 : List UInt8 := [187, 0, 116, 89, 183, 0, 118, 191, 43, 28, 182, 0, 102, 87, 167, 255, 149, 177]
abbrev dktX1_marksTold_4 : List UInt8 := dkwX1_marksTold_4 ++ []
def dkwX1_marksTold_3 : List UInt8 := [180, 0, 208, 4, 100, 46, 184, 1, 110, 157, 0, 21, 42, 89, 180, 0, 113, 4, 100, 181, 0, 113]
abbrev dktX1_marksTold_3 : List UInt8 := dkwX1_marksTold_3 ++ dktX1_marksTold_4
def dkwX1_marksTold_2 : List UInt8 := [182, 1, 107, 128, 61, 132, 3, 1, 167, 255, 236, 43, 180, 0, 208, 158, 0, 39, 28, 43, 180, 0, 211, 43]
abbrev dktX1_marksTold_2 : List UInt8 := dkwX1_marksTold_2 ++ dktX1_marksTold_3
def dkwX1_marksTold_1 : List UInt8 := [167, 0, 4, 3, 182, 0, 129, 3, 61, 3, 62, 29, 16, 8, 162, 0, 20, 28, 7, 120, 42, 16, 15]
abbrev dktX1_marksTold_1 : List UInt8 := dkwX1_marksTold_1 ++ dktX1_marksTold_2
def dkwX1_marksTold_0 : List UInt8 := [42, 180, 0, 113, 42, 180, 0, 110, 162, 0, 102, 42, 43, 180, 0, 208, 43, 180, 0, 171, 162, 0, 7, 4]
abbrev dktX1_marksTold_0 : List UInt8 := dkwX1_marksTold_0 ++ dktX1_marksTold_1
theorem dksX1_marksTold_0 : cX1_marksTold.data.toList.drop 0 = dktX1_marksTold_0 := by decide +kernel
theorem dksX1_marksTold_1 : cX1_marksTold.data.toList.drop 24 = dktX1_marksTold_1 := dk_seg dksX1_marksTold_0 24 rfl rfl
theorem dksX1_marksTold_2 : cX1_marksTold.data.toList.drop 47 = dktX1_marksTold_2 := dk_seg dksX1_marksTold_1 23 rfl rfl
theorem dksX1_marksTold_3 : cX1_marksTold.data.toList.drop 71 = dktX1_marksTold_3 := dk_seg dksX1_marksTold_2 24 rfl rfl
theorem dksX1_marksTold_4 : cX1_marksTold.data.toList.drop 93 = dktX1_marksTold_4 := dk_seg dksX1_marksTold_3 22 rfl rfl
theorem dX1_marksTold_0 : decode cX1_marksTold 0 = .ok (.aload_n 0, 1) := dk_42 (dk_at dksX1_marksTold_0 0 rfl rfl)
theorem dX1_marksTold_1 : decode cX1_marksTold 1 = .ok (.getfield 113, 3) := dk_180 0 113 (dk_at dksX1_marksTold_0 1 rfl rfl)
theorem dX1_marksTold_4 : decode cX1_marksTold 4 = .ok (.aload_n 0, 1) := dk_42 (dk_at dksX1_marksTold_0 4 rfl rfl)
theorem dX1_marksTold_5 : decode cX1_marksTold 5 = .ok (.getfield 110, 3) := dk_180 0 110 (dk_at dksX1_marksTold_0 5 rfl rfl)
theorem dX1_marksTold_8 : decode cX1_marksTold 8 = .ok (.if_icmp .ge 102, 3) := dk_162 0 102 (dk_at dksX1_marksTold_0 8 rfl rfl)
theorem dX1_marksTold_11 : decode cX1_marksTold 11 = .ok (.aload_n 0, 1) := dk_42 (dk_at dksX1_marksTold_0 11 rfl rfl)
theorem dX1_marksTold_12 : decode cX1_marksTold 12 = .ok (.aload_n 1, 1) := dk_43 (dk_at dksX1_marksTold_0 12 rfl rfl)
theorem dX1_marksTold_13 : decode cX1_marksTold 13 = .ok (.getfield 208, 3) := dk_180 0 208 (dk_at dksX1_marksTold_0 13 rfl rfl)
theorem dX1_marksTold_16 : decode cX1_marksTold 16 = .ok (.aload_n 1, 1) := dk_43 (dk_at dksX1_marksTold_0 16 rfl rfl)
theorem dX1_marksTold_17 : decode cX1_marksTold 17 = .ok (.getfield 171, 3) := dk_180 0 171 (dk_at dksX1_marksTold_0 17 rfl rfl)
theorem dX1_marksTold_20 : decode cX1_marksTold 20 = .ok (.if_icmp .ge 7, 3) := dk_162 0 7 (dk_at dksX1_marksTold_0 20 rfl rfl)
theorem dX1_marksTold_23 : decode cX1_marksTold 23 = .ok (.iconst 1, 1) := dk_4 (dk_at dksX1_marksTold_0 23 rfl rfl)
theorem dX1_marksTold_24 : decode cX1_marksTold 24 = .ok (.goto 4, 3) := dk_167 0 4 (dk_at dksX1_marksTold_1 0 rfl rfl)
theorem dX1_marksTold_27 : decode cX1_marksTold 27 = .ok (.iconst 0, 1) := dk_3 (dk_at dksX1_marksTold_1 3 rfl rfl)
theorem dX1_marksTold_28 : decode cX1_marksTold 28 = .ok (.invokevirtual 129, 3) := dk_182 0 129 (dk_at dksX1_marksTold_1 4 rfl rfl)
theorem dX1_marksTold_31 : decode cX1_marksTold 31 = .ok (.iconst 0, 1) := dk_3 (dk_at dksX1_marksTold_1 7 rfl rfl)
theorem dX1_marksTold_32 : decode cX1_marksTold 32 = .ok (.istore_n 2, 1) := dk_61 (dk_at dksX1_marksTold_1 8 rfl rfl)
theorem dX1_marksTold_33 : decode cX1_marksTold 33 = .ok (.iconst 0, 1) := dk_3 (dk_at dksX1_marksTold_1 9 rfl rfl)
theorem dX1_marksTold_34 : decode cX1_marksTold 34 = .ok (.istore_n 3, 1) := dk_62 (dk_at dksX1_marksTold_1 10 rfl rfl)
theorem dX1_marksTold_35 : decode cX1_marksTold 35 = .ok (.iload_n 3, 1) := dk_29 (dk_at dksX1_marksTold_1 11 rfl rfl)
theorem dX1_marksTold_36 : decode cX1_marksTold 36 = .ok (.bipush 8, 2) := dk_16 8 (dk_at dksX1_marksTold_1 12 rfl rfl)
theorem dX1_marksTold_38 : decode cX1_marksTold 38 = .ok (.if_icmp .ge 20, 3) := dk_162 0 20 (dk_at dksX1_marksTold_1 14 rfl rfl)
theorem dX1_marksTold_41 : decode cX1_marksTold 41 = .ok (.iload_n 2, 1) := dk_28 (dk_at dksX1_marksTold_1 17 rfl rfl)
theorem dX1_marksTold_42 : decode cX1_marksTold 42 = .ok (.iconst 4, 1) := dk_7 (dk_at dksX1_marksTold_1 18 rfl rfl)
theorem dX1_marksTold_43 : decode cX1_marksTold 43 = .ok (.ishl, 1) := dk_120 (dk_at dksX1_marksTold_1 19 rfl rfl)
theorem dX1_marksTold_44 : decode cX1_marksTold 44 = .ok (.aload_n 0, 1) := dk_42 (dk_at dksX1_marksTold_1 20 rfl rfl)
theorem dX1_marksTold_45 : decode cX1_marksTold 45 = .ok (.bipush 15, 2) := dk_16 15 (dk_at dksX1_marksTold_1 21 rfl rfl)
theorem dX1_marksTold_47 : decode cX1_marksTold 47 = .ok (.invokevirtual 363, 3) := dk_182 1 107 (dk_at dksX1_marksTold_2 0 rfl rfl)
theorem dX1_marksTold_50 : decode cX1_marksTold 50 = .ok (.ior, 1) := dk_128 (dk_at dksX1_marksTold_2 3 rfl rfl)
theorem dX1_marksTold_51 : decode cX1_marksTold 51 = .ok (.istore_n 2, 1) := dk_61 (dk_at dksX1_marksTold_2 4 rfl rfl)
theorem dX1_marksTold_52 : decode cX1_marksTold 52 = .ok (.iinc 3 1, 3) := dk_132 3 1 (dk_at dksX1_marksTold_2 5 rfl rfl)
theorem dX1_marksTold_55 : decode cX1_marksTold 55 = .ok (.goto (-20), 3) := dk_167 255 236 (dk_at dksX1_marksTold_2 8 rfl rfl)
theorem dX1_marksTold_58 : decode cX1_marksTold 58 = .ok (.aload_n 1, 1) := dk_43 (dk_at dksX1_marksTold_2 11 rfl rfl)
theorem dX1_marksTold_59 : decode cX1_marksTold 59 = .ok (.getfield 208, 3) := dk_180 0 208 (dk_at dksX1_marksTold_2 12 rfl rfl)
theorem dX1_marksTold_62 : decode cX1_marksTold 62 = .ok (.ifCond .le 39, 3) := dk_158 0 39 (dk_at dksX1_marksTold_2 15 rfl rfl)
theorem dX1_marksTold_65 : decode cX1_marksTold 65 = .ok (.iload_n 2, 1) := dk_28 (dk_at dksX1_marksTold_2 18 rfl rfl)
theorem dX1_marksTold_66 : decode cX1_marksTold 66 = .ok (.aload_n 1, 1) := dk_43 (dk_at dksX1_marksTold_2 19 rfl rfl)
theorem dX1_marksTold_67 : decode cX1_marksTold 67 = .ok (.getfield 211, 3) := dk_180 0 211 (dk_at dksX1_marksTold_2 20 rfl rfl)
theorem dX1_marksTold_70 : decode cX1_marksTold 70 = .ok (.aload_n 1, 1) := dk_43 (dk_at dksX1_marksTold_2 23 rfl rfl)
theorem dX1_marksTold_71 : decode cX1_marksTold 71 = .ok (.getfield 208, 3) := dk_180 0 208 (dk_at dksX1_marksTold_3 0 rfl rfl)
theorem dX1_marksTold_74 : decode cX1_marksTold 74 = .ok (.iconst 1, 1) := dk_4 (dk_at dksX1_marksTold_3 3 rfl rfl)
theorem dX1_marksTold_75 : decode cX1_marksTold 75 = .ok (.isub, 1) := dk_100 (dk_at dksX1_marksTold_3 4 rfl rfl)
theorem dX1_marksTold_76 : decode cX1_marksTold 76 = .ok (.iaload, 1) := dk_46 (dk_at dksX1_marksTold_3 5 rfl rfl)
theorem dX1_marksTold_77 : decode cX1_marksTold 77 = .ok (.invokestatic 366, 3) := dk_184 1 110 (dk_at dksX1_marksTold_3 6 rfl rfl)
theorem dX1_marksTold_80 : decode cX1_marksTold 80 = .ok (.ifCond .gt 21, 3) := dk_157 0 21 (dk_at dksX1_marksTold_3 9 rfl rfl)
theorem dX1_marksTold_83 : decode cX1_marksTold 83 = .ok (.aload_n 0, 1) := dk_42 (dk_at dksX1_marksTold_3 12 rfl rfl)
theorem dX1_marksTold_84 : decode cX1_marksTold 84 = .ok (.dup, 1) := dk_89 (dk_at dksX1_marksTold_3 13 rfl rfl)
theorem dX1_marksTold_85 : decode cX1_marksTold 85 = .ok (.getfield 113, 3) := dk_180 0 113 (dk_at dksX1_marksTold_3 14 rfl rfl)
theorem dX1_marksTold_88 : decode cX1_marksTold 88 = .ok (.iconst 1, 1) := dk_4 (dk_at dksX1_marksTold_3 17 rfl rfl)
theorem dX1_marksTold_89 : decode cX1_marksTold 89 = .ok (.isub, 1) := dk_100 (dk_at dksX1_marksTold_3 18 rfl rfl)
theorem dX1_marksTold_90 : decode cX1_marksTold 90 = .ok (.putfield 113, 3) := dk_181 0 113 (dk_at dksX1_marksTold_3 19 rfl rfl)
theorem dX1_marksTold_93 : decode cX1_marksTold 93 = .ok (.new 116, 3) := dk_187 0 116 (dk_at dksX1_marksTold_4 0 rfl rfl)
theorem dX1_marksTold_96 : decode cX1_marksTold 96 = .ok (.dup, 1) := dk_89 (dk_at dksX1_marksTold_4 3 rfl rfl)
theorem dX1_marksTold_97 : decode cX1_marksTold 97 = .ok (.invokespecial 118, 3) := dk_183 0 118 (dk_at dksX1_marksTold_4 4 rfl rfl)
theorem dX1_marksTold_100 : decode cX1_marksTold 100 = .ok (.athrow, 1) := dk_191 (dk_at dksX1_marksTold_4 7 rfl rfl)
theorem dX1_marksTold_101 : decode cX1_marksTold 101 = .ok (.aload_n 1, 1) := dk_43 (dk_at dksX1_marksTold_4 8 rfl rfl)
theorem dX1_marksTold_102 : decode cX1_marksTold 102 = .ok (.iload_n 2, 1) := dk_28 (dk_at dksX1_marksTold_4 9 rfl rfl)
theorem dX1_marksTold_103 : decode cX1_marksTold 103 = .ok (.invokevirtual 102, 3) := dk_182 0 102 (dk_at dksX1_marksTold_4 10 rfl rfl)
theorem dX1_marksTold_106 : decode cX1_marksTold 106 = .ok (.pop, 1) := dk_87 (dk_at dksX1_marksTold_4 13 rfl rfl)
theorem dX1_marksTold_107 : decode cX1_marksTold 107 = .ok (.goto (-107), 3) := dk_167 255 149 (dk_at dksX1_marksTold_4 14 rfl rfl)
theorem dX1_marksTold_110 : decode cX1_marksTold 110 = .ok (.return_, 1) := dk_177 (dk_at dksX1_marksTold_4 17 rfl rfl)
abbrev cX1_count : ByteArray := prog_1_method_97_code
def yX1_count : MethodName := ⟨RX1, "count", "(I)I"⟩
def dkwX1_count_4 : List UInt8 := [186, 1, 138, 0, 0, 182, 1, 141, 172, 42, 186, 1, 145, 0, 0, 182, 1, 141, 172, 2, 172]
abbrev dktX1_count_4 : List UInt8 := dkwX1_count_4 ++ []
def dkwX1_count_3 : List UInt8 := [186, 1, 137, 0, 0, 182, 1, 133, 172, 42, 180, 1, 49, 172, 42, 180, 0, 107, 172, 42]
abbrev dktX1_count_3 : List UInt8 := dkwX1_count_3 ++ dktX1_count_4
def dkwX1_count_2 : List UInt8 := [42, 180, 0, 15, 172, 42, 180, 0, 19, 172, 42, 186, 1, 130, 0, 0, 182, 1, 133, 172, 42]
abbrev dktX1_count_2 : List UInt8 := dkwX1_count_2 ++ dktX1_count_3
def dkwX1_count_1 : List UInt8 := [170, 0, 0, 0, 0, 0, 107, 0, 0, 0, 0, 0, 0, 0, 7, 0, 0, 0, 47, 0, 0, 0, 52, 0, 0, 0, 57, 0, 0, 0, 67, 0, 0, 0, 77, 0, 0, 0, 82, 0, 0, 0, 87, 0, 0, 0, 97]
abbrev dktX1_count_1 : List UInt8 := dkwX1_count_1 ++ dktX1_count_2
def dkwX1_count_0 : List UInt8 := [27]
abbrev dktX1_count_0 : List UInt8 := dkwX1_count_0 ++ dktX1_count_1
theorem dksX1_count_0 : cX1_count.data.toList.drop 0 = dktX1_count_0 := by decide +kernel
theorem dksX1_count_1 : cX1_count.data.toList.drop 1 = dktX1_count_1 := dk_seg dksX1_count_0 1 rfl rfl
theorem dksX1_count_2 : cX1_count.data.toList.drop 48 = dktX1_count_2 := dk_seg dksX1_count_1 47 rfl rfl
theorem dksX1_count_3 : cX1_count.data.toList.drop 69 = dktX1_count_3 := dk_seg dksX1_count_2 21 rfl rfl
theorem dksX1_count_4 : cX1_count.data.toList.drop 89 = dktX1_count_4 := dk_seg dksX1_count_3 20 rfl rfl
theorem dX1_count_0 : decode cX1_count 0 = .ok (.iload_n 1, 1) := dk_27 (dk_at dksX1_count_0 0 rfl rfl)
theorem dX1_count_1 : decode cX1_count 1 = .ok (.tableswitch 107 0 7 #[47, 52, 57, 67, 77, 82, 87, 97], 47) := by decide +kernel
theorem dX1_count_48 : decode cX1_count 48 = .ok (.aload_n 0, 1) := dk_42 (dk_at dksX1_count_2 0 rfl rfl)
theorem dX1_count_49 : decode cX1_count 49 = .ok (.getfield 15, 3) := dk_180 0 15 (dk_at dksX1_count_2 1 rfl rfl)
theorem dX1_count_52 : decode cX1_count 52 = .ok (.ireturn, 1) := dk_172 (dk_at dksX1_count_2 4 rfl rfl)
theorem dX1_count_53 : decode cX1_count 53 = .ok (.aload_n 0, 1) := dk_42 (dk_at dksX1_count_2 5 rfl rfl)
theorem dX1_count_54 : decode cX1_count 54 = .ok (.getfield 19, 3) := dk_180 0 19 (dk_at dksX1_count_2 6 rfl rfl)
theorem dX1_count_57 : decode cX1_count 57 = .ok (.ireturn, 1) := dk_172 (dk_at dksX1_count_2 9 rfl rfl)
theorem dX1_count_58 : decode cX1_count 58 = .ok (.aload_n 0, 1) := dk_42 (dk_at dksX1_count_2 10 rfl rfl)
theorem dX1_count_59 : decode cX1_count 59 = .ok (.invokedynamic 386, 5) := by decide +kernel
theorem dX1_count_64 : decode cX1_count 64 = .ok (.invokevirtual 389, 3) := dk_182 1 133 (dk_at dksX1_count_2 16 rfl rfl)
theorem dX1_count_67 : decode cX1_count 67 = .ok (.ireturn, 1) := dk_172 (dk_at dksX1_count_2 19 rfl rfl)
theorem dX1_count_68 : decode cX1_count 68 = .ok (.aload_n 0, 1) := dk_42 (dk_at dksX1_count_2 20 rfl rfl)
theorem dX1_count_69 : decode cX1_count 69 = .ok (.invokedynamic 393, 5) := by decide +kernel
theorem dX1_count_74 : decode cX1_count 74 = .ok (.invokevirtual 389, 3) := dk_182 1 133 (dk_at dksX1_count_3 5 rfl rfl)
theorem dX1_count_77 : decode cX1_count 77 = .ok (.ireturn, 1) := dk_172 (dk_at dksX1_count_3 8 rfl rfl)
theorem dX1_count_78 : decode cX1_count 78 = .ok (.aload_n 0, 1) := dk_42 (dk_at dksX1_count_3 9 rfl rfl)
theorem dX1_count_79 : decode cX1_count 79 = .ok (.getfield 305, 3) := dk_180 1 49 (dk_at dksX1_count_3 10 rfl rfl)
theorem dX1_count_82 : decode cX1_count 82 = .ok (.ireturn, 1) := dk_172 (dk_at dksX1_count_3 13 rfl rfl)
theorem dX1_count_83 : decode cX1_count 83 = .ok (.aload_n 0, 1) := dk_42 (dk_at dksX1_count_3 14 rfl rfl)
theorem dX1_count_84 : decode cX1_count 84 = .ok (.getfield 107, 3) := dk_180 0 107 (dk_at dksX1_count_3 15 rfl rfl)
theorem dX1_count_87 : decode cX1_count 87 = .ok (.ireturn, 1) := dk_172 (dk_at dksX1_count_3 18 rfl rfl)
theorem dX1_count_88 : decode cX1_count 88 = .ok (.aload_n 0, 1) := dk_42 (dk_at dksX1_count_3 19 rfl rfl)
theorem dX1_count_89 : decode cX1_count 89 = .ok (.invokedynamic 394, 5) := by decide +kernel
theorem dX1_count_94 : decode cX1_count 94 = .ok (.invokevirtual 397, 3) := dk_182 1 141 (dk_at dksX1_count_4 5 rfl rfl)
theorem dX1_count_97 : decode cX1_count 97 = .ok (.ireturn, 1) := dk_172 (dk_at dksX1_count_4 8 rfl rfl)
theorem dX1_count_98 : decode cX1_count 98 = .ok (.aload_n 0, 1) := dk_42 (dk_at dksX1_count_4 9 rfl rfl)
theorem dX1_count_99 : decode cX1_count 99 = .ok (.invokedynamic 401, 5) := by decide +kernel
theorem dX1_count_104 : decode cX1_count 104 = .ok (.invokevirtual 397, 3) := dk_182 1 141 (dk_at dksX1_count_4 15 rfl rfl)
theorem dX1_count_107 : decode cX1_count 107 = .ok (.ireturn, 1) := dk_172 (dk_at dksX1_count_4 18 rfl rfl)
theorem dX1_count_108 : decode cX1_count 108 = .ok (.iconst (-1), 1) := dk_2 (dk_at dksX1_count_4 19 rfl rfl)
theorem dX1_count_109 : decode cX1_count 109 = .ok (.ireturn, 1) := dk_172 (dk_at dksX1_count_4 20 rfl rfl)
abbrev cX1_lambda_count_8 : ByteArray := prog_1_method_104_code
def yX1_lambda_count_8 : MethodName := ⟨RX1, "lambda$count$8", "(LDistinctMarks$Counter;)Z"⟩
theorem dX1_lambda_count_8_0 : decode cX1_lambda_count_8 0 = .ok (.aload_n 0, 1) := by decide +kernel
theorem dX1_lambda_count_8_1 : decode cX1_lambda_count_8 1 = .ok (.getfield 151, 3) := by decide +kernel
theorem dX1_lambda_count_8_4 : decode cX1_lambda_count_8 4 = .ok (.ireturn, 1) := by decide +kernel
abbrev cX1_setOf : ByteArray := prog_1_method_95_code
def yX1_setOf : MethodName := ⟨RX1, "setOf", "(LDistinctMarks$Held;)I"⟩
def dkwX1_setOf_1 : List UInt8 := [153, 0, 9, 4, 29, 120, 167, 0, 4, 3, 128, 61, 132, 3, 1, 167, 255, 222, 28, 172]
abbrev dktX1_setOf_1 : List UInt8 := dkwX1_setOf_1 ++ []
def dkwX1_setOf_0 : List UInt8 := [3, 61, 3, 62, 29, 16, 6, 162, 0, 34, 28, 43, 42, 180, 0, 71, 29, 50, 185, 1, 119, 2, 0]
abbrev dktX1_setOf_0 : List UInt8 := dkwX1_setOf_0 ++ dktX1_setOf_1
theorem dksX1_setOf_0 : cX1_setOf.data.toList.drop 0 = dktX1_setOf_0 := by decide +kernel
theorem dksX1_setOf_1 : cX1_setOf.data.toList.drop 23 = dktX1_setOf_1 := dk_seg dksX1_setOf_0 23 rfl rfl
theorem dX1_setOf_0 : decode cX1_setOf 0 = .ok (.iconst 0, 1) := dk_3 (dk_at dksX1_setOf_0 0 rfl rfl)
theorem dX1_setOf_1 : decode cX1_setOf 1 = .ok (.istore_n 2, 1) := dk_61 (dk_at dksX1_setOf_0 1 rfl rfl)
theorem dX1_setOf_2 : decode cX1_setOf 2 = .ok (.iconst 0, 1) := dk_3 (dk_at dksX1_setOf_0 2 rfl rfl)
theorem dX1_setOf_3 : decode cX1_setOf 3 = .ok (.istore_n 3, 1) := dk_62 (dk_at dksX1_setOf_0 3 rfl rfl)
theorem dX1_setOf_4 : decode cX1_setOf 4 = .ok (.iload_n 3, 1) := dk_29 (dk_at dksX1_setOf_0 4 rfl rfl)
theorem dX1_setOf_5 : decode cX1_setOf 5 = .ok (.bipush 6, 2) := dk_16 6 (dk_at dksX1_setOf_0 5 rfl rfl)
theorem dX1_setOf_7 : decode cX1_setOf 7 = .ok (.if_icmp .ge 34, 3) := dk_162 0 34 (dk_at dksX1_setOf_0 7 rfl rfl)
theorem dX1_setOf_10 : decode cX1_setOf 10 = .ok (.iload_n 2, 1) := dk_28 (dk_at dksX1_setOf_0 10 rfl rfl)
theorem dX1_setOf_11 : decode cX1_setOf 11 = .ok (.aload_n 1, 1) := dk_43 (dk_at dksX1_setOf_0 11 rfl rfl)
theorem dX1_setOf_12 : decode cX1_setOf 12 = .ok (.aload_n 0, 1) := dk_42 (dk_at dksX1_setOf_0 12 rfl rfl)
theorem dX1_setOf_13 : decode cX1_setOf 13 = .ok (.getfield 71, 3) := dk_180 0 71 (dk_at dksX1_setOf_0 13 rfl rfl)
theorem dX1_setOf_16 : decode cX1_setOf 16 = .ok (.iload_n 3, 1) := dk_29 (dk_at dksX1_setOf_0 16 rfl rfl)
theorem dX1_setOf_17 : decode cX1_setOf 17 = .ok (.aaload, 1) := dk_50 (dk_at dksX1_setOf_0 17 rfl rfl)
theorem dX1_setOf_18 : decode cX1_setOf 18 = .ok (.invokeinterface 375 2, 5) := by decide +kernel
theorem dX1_setOf_23 : decode cX1_setOf 23 = .ok (.ifCond .eq 9, 3) := dk_153 0 9 (dk_at dksX1_setOf_1 0 rfl rfl)
theorem dX1_setOf_26 : decode cX1_setOf 26 = .ok (.iconst 1, 1) := dk_4 (dk_at dksX1_setOf_1 3 rfl rfl)
theorem dX1_setOf_27 : decode cX1_setOf 27 = .ok (.iload_n 3, 1) := dk_29 (dk_at dksX1_setOf_1 4 rfl rfl)
theorem dX1_setOf_28 : decode cX1_setOf 28 = .ok (.ishl, 1) := dk_120 (dk_at dksX1_setOf_1 5 rfl rfl)
theorem dX1_setOf_29 : decode cX1_setOf 29 = .ok (.goto 4, 3) := dk_167 0 4 (dk_at dksX1_setOf_1 6 rfl rfl)
theorem dX1_setOf_32 : decode cX1_setOf 32 = .ok (.iconst 0, 1) := dk_3 (dk_at dksX1_setOf_1 9 rfl rfl)
theorem dX1_setOf_33 : decode cX1_setOf 33 = .ok (.ior, 1) := dk_128 (dk_at dksX1_setOf_1 10 rfl rfl)
theorem dX1_setOf_34 : decode cX1_setOf 34 = .ok (.istore_n 2, 1) := dk_61 (dk_at dksX1_setOf_1 11 rfl rfl)
theorem dX1_setOf_35 : decode cX1_setOf 35 = .ok (.iinc 3 1, 3) := dk_132 3 1 (dk_at dksX1_setOf_1 12 rfl rfl)
theorem dX1_setOf_38 : decode cX1_setOf 38 = .ok (.goto (-34), 3) := dk_167 255 222 (dk_at dksX1_setOf_1 15 rfl rfl)
theorem dX1_setOf_41 : decode cX1_setOf 41 = .ok (.iload_n 2, 1) := dk_28 (dk_at dksX1_setOf_1 18 rfl rfl)
theorem dX1_setOf_42 : decode cX1_setOf 42 = .ok (.ireturn, 1) := dk_172 (dk_at dksX1_setOf_1 19 rfl rfl)
abbrev cX1_lambda_count_9 : ByteArray := prog_1_method_103_code
def yX1_lambda_count_9 : MethodName := ⟨RX1, "lambda$count$9", "(LDistinctMarks$Counter;)Z"⟩
def dkwX1_lambda_count_9_0 : List UInt8 := [42, 182, 0, 237, 158, 0, 7, 4, 167, 0, 4, 3, 172]
abbrev dktX1_lambda_count_9_0 : List UInt8 := dkwX1_lambda_count_9_0 ++ []
theorem dksX1_lambda_count_9_0 : cX1_lambda_count_9.data.toList.drop 0 = dktX1_lambda_count_9_0 := by decide +kernel
theorem dX1_lambda_count_9_0 : decode cX1_lambda_count_9 0 = .ok (.aload_n 0, 1) := dk_42 (dk_at dksX1_lambda_count_9_0 0 rfl rfl)
theorem dX1_lambda_count_9_1 : decode cX1_lambda_count_9 1 = .ok (.invokevirtual 237, 3) := dk_182 0 237 (dk_at dksX1_lambda_count_9_0 1 rfl rfl)
theorem dX1_lambda_count_9_4 : decode cX1_lambda_count_9 4 = .ok (.ifCond .le 7, 3) := dk_158 0 7 (dk_at dksX1_lambda_count_9_0 4 rfl rfl)
theorem dX1_lambda_count_9_7 : decode cX1_lambda_count_9 7 = .ok (.iconst 1, 1) := dk_4 (dk_at dksX1_lambda_count_9_0 7 rfl rfl)
theorem dX1_lambda_count_9_8 : decode cX1_lambda_count_9 8 = .ok (.goto 4, 3) := dk_167 0 4 (dk_at dksX1_lambda_count_9_0 8 rfl rfl)
theorem dX1_lambda_count_9_11 : decode cX1_lambda_count_9 11 = .ok (.iconst 0, 1) := dk_3 (dk_at dksX1_lambda_count_9_0 11 rfl rfl)
theorem dX1_lambda_count_9_12 : decode cX1_lambda_count_9 12 = .ok (.ireturn, 1) := dk_172 (dk_at dksX1_lambda_count_9_0 12 rfl rfl)
abbrev cX1_lambda_count_10 : ByteArray := prog_1_method_102_code
def yX1_lambda_count_10 : MethodName := ⟨RX1, "lambda$count$10", "(LDistinctMarks$Counter;)I"⟩
def dkwX1_lambda_count_10_0 : List UInt8 := [42, 180, 0, 151, 153, 0, 7, 3, 167, 0, 7, 42, 180, 0, 208, 172]
abbrev dktX1_lambda_count_10_0 : List UInt8 := dkwX1_lambda_count_10_0 ++ []
theorem dksX1_lambda_count_10_0 : cX1_lambda_count_10.data.toList.drop 0 = dktX1_lambda_count_10_0 := by decide +kernel
theorem dX1_lambda_count_10_0 : decode cX1_lambda_count_10 0 = .ok (.aload_n 0, 1) := dk_42 (dk_at dksX1_lambda_count_10_0 0 rfl rfl)
theorem dX1_lambda_count_10_1 : decode cX1_lambda_count_10 1 = .ok (.getfield 151, 3) := dk_180 0 151 (dk_at dksX1_lambda_count_10_0 1 rfl rfl)
theorem dX1_lambda_count_10_4 : decode cX1_lambda_count_10 4 = .ok (.ifCond .eq 7, 3) := dk_153 0 7 (dk_at dksX1_lambda_count_10_0 4 rfl rfl)
theorem dX1_lambda_count_10_7 : decode cX1_lambda_count_10 7 = .ok (.iconst 0, 1) := dk_3 (dk_at dksX1_lambda_count_10_0 7 rfl rfl)
theorem dX1_lambda_count_10_8 : decode cX1_lambda_count_10 8 = .ok (.goto 7, 3) := dk_167 0 7 (dk_at dksX1_lambda_count_10_0 8 rfl rfl)
theorem dX1_lambda_count_10_11 : decode cX1_lambda_count_10 11 = .ok (.aload_n 0, 1) := dk_42 (dk_at dksX1_lambda_count_10_0 11 rfl rfl)
theorem dX1_lambda_count_10_12 : decode cX1_lambda_count_10 12 = .ok (.getfield 208, 3) := dk_180 0 208 (dk_at dksX1_lambda_count_10_0 12 rfl rfl)
theorem dX1_lambda_count_10_15 : decode cX1_lambda_count_10 15 = .ok (.ireturn, 1) := dk_172 (dk_at dksX1_lambda_count_10_0 15 rfl rfl)
abbrev cX1_sumOf : ByteArray := prog_1_method_96_code
def yX1_sumOf : MethodName := ⟨RX1, "sumOf", "(LDistinctMarks$Summed;)I"⟩
def dkwX1_sumOf_1 : List UInt8 := [50, 58, 6, 28, 43, 25, 6, 185, 1, 125, 2, 0, 96, 61, 132, 5, 1, 167, 255, 229, 28, 172]
abbrev dktX1_sumOf_1 : List UInt8 := dkwX1_sumOf_1 ++ []
def dkwX1_sumOf_0 : List UInt8 := [3, 61, 42, 180, 0, 71, 78, 45, 190, 54, 4, 3, 54, 5, 21, 5, 21, 4, 162, 0, 26, 45, 21, 5]
abbrev dktX1_sumOf_0 : List UInt8 := dkwX1_sumOf_0 ++ dktX1_sumOf_1
theorem dksX1_sumOf_0 : cX1_sumOf.data.toList.drop 0 = dktX1_sumOf_0 := by decide +kernel
theorem dksX1_sumOf_1 : cX1_sumOf.data.toList.drop 24 = dktX1_sumOf_1 := dk_seg dksX1_sumOf_0 24 rfl rfl
theorem dX1_sumOf_0 : decode cX1_sumOf 0 = .ok (.iconst 0, 1) := dk_3 (dk_at dksX1_sumOf_0 0 rfl rfl)
theorem dX1_sumOf_1 : decode cX1_sumOf 1 = .ok (.istore_n 2, 1) := dk_61 (dk_at dksX1_sumOf_0 1 rfl rfl)
theorem dX1_sumOf_2 : decode cX1_sumOf 2 = .ok (.aload_n 0, 1) := dk_42 (dk_at dksX1_sumOf_0 2 rfl rfl)
theorem dX1_sumOf_3 : decode cX1_sumOf 3 = .ok (.getfield 71, 3) := dk_180 0 71 (dk_at dksX1_sumOf_0 3 rfl rfl)
theorem dX1_sumOf_6 : decode cX1_sumOf 6 = .ok (.astore_n 3, 1) := dk_78 (dk_at dksX1_sumOf_0 6 rfl rfl)
theorem dX1_sumOf_7 : decode cX1_sumOf 7 = .ok (.aload_n 3, 1) := dk_45 (dk_at dksX1_sumOf_0 7 rfl rfl)
theorem dX1_sumOf_8 : decode cX1_sumOf 8 = .ok (.arraylength, 1) := dk_190 (dk_at dksX1_sumOf_0 8 rfl rfl)
theorem dX1_sumOf_9 : decode cX1_sumOf 9 = .ok (.istore 4, 2) := dk_54 4 (dk_at dksX1_sumOf_0 9 rfl rfl)
theorem dX1_sumOf_11 : decode cX1_sumOf 11 = .ok (.iconst 0, 1) := dk_3 (dk_at dksX1_sumOf_0 11 rfl rfl)
theorem dX1_sumOf_12 : decode cX1_sumOf 12 = .ok (.istore 5, 2) := dk_54 5 (dk_at dksX1_sumOf_0 12 rfl rfl)
theorem dX1_sumOf_14 : decode cX1_sumOf 14 = .ok (.iload 5, 2) := dk_21 5 (dk_at dksX1_sumOf_0 14 rfl rfl)
theorem dX1_sumOf_16 : decode cX1_sumOf 16 = .ok (.iload 4, 2) := dk_21 4 (dk_at dksX1_sumOf_0 16 rfl rfl)
theorem dX1_sumOf_18 : decode cX1_sumOf 18 = .ok (.if_icmp .ge 26, 3) := dk_162 0 26 (dk_at dksX1_sumOf_0 18 rfl rfl)
theorem dX1_sumOf_21 : decode cX1_sumOf 21 = .ok (.aload_n 3, 1) := dk_45 (dk_at dksX1_sumOf_0 21 rfl rfl)
theorem dX1_sumOf_22 : decode cX1_sumOf 22 = .ok (.iload 5, 2) := dk_21 5 (dk_at dksX1_sumOf_0 22 rfl rfl)
theorem dX1_sumOf_24 : decode cX1_sumOf 24 = .ok (.aaload, 1) := dk_50 (dk_at dksX1_sumOf_1 0 rfl rfl)
theorem dX1_sumOf_25 : decode cX1_sumOf 25 = .ok (.astore 6, 2) := dk_58 6 (dk_at dksX1_sumOf_1 1 rfl rfl)
theorem dX1_sumOf_27 : decode cX1_sumOf 27 = .ok (.iload_n 2, 1) := dk_28 (dk_at dksX1_sumOf_1 3 rfl rfl)
theorem dX1_sumOf_28 : decode cX1_sumOf 28 = .ok (.aload_n 1, 1) := dk_43 (dk_at dksX1_sumOf_1 4 rfl rfl)
theorem dX1_sumOf_29 : decode cX1_sumOf 29 = .ok (.aload 6, 2) := dk_25 6 (dk_at dksX1_sumOf_1 5 rfl rfl)
theorem dX1_sumOf_31 : decode cX1_sumOf 31 = .ok (.invokeinterface 381 2, 5) := by decide +kernel
theorem dX1_sumOf_36 : decode cX1_sumOf 36 = .ok (.iadd, 1) := dk_96 (dk_at dksX1_sumOf_1 12 rfl rfl)
theorem dX1_sumOf_37 : decode cX1_sumOf 37 = .ok (.istore_n 2, 1) := dk_61 (dk_at dksX1_sumOf_1 13 rfl rfl)
theorem dX1_sumOf_38 : decode cX1_sumOf 38 = .ok (.iinc 5 1, 3) := dk_132 5 1 (dk_at dksX1_sumOf_1 14 rfl rfl)
theorem dX1_sumOf_41 : decode cX1_sumOf 41 = .ok (.goto (-27), 3) := dk_167 255 229 (dk_at dksX1_sumOf_1 17 rfl rfl)
theorem dX1_sumOf_44 : decode cX1_sumOf 44 = .ok (.iload_n 2, 1) := dk_28 (dk_at dksX1_sumOf_1 20 rfl rfl)
theorem dX1_sumOf_45 : decode cX1_sumOf 45 = .ok (.ireturn, 1) := dk_172 (dk_at dksX1_sumOf_1 21 rfl rfl)
abbrev cX1_lambda_count_11 : ByteArray := prog_1_method_101_code
def yX1_lambda_count_11 : MethodName := ⟨RX1, "lambda$count$11", "(LDistinctMarks$Counter;)I"⟩
theorem dX1_lambda_count_11_0 : decode cX1_lambda_count_11 0 = .ok (.aload_n 0, 1) := by decide +kernel
theorem dX1_lambda_count_11_1 : decode cX1_lambda_count_11 1 = .ok (.invokevirtual 98, 3) := by decide +kernel
theorem dX1_lambda_count_11_4 : decode cX1_lambda_count_11 4 = .ok (.ireturn, 1) := by decide +kernel
abbrev cX1_row : ByteArray := prog_1_method_100_code
def yX1_row : MethodName := ⟨RX1, "row", "(I)J"⟩
def dkwX1_row_1 : List UInt8 := [42, 180, 0, 84, 27, 47, 173]
abbrev dktX1_row_1 : List UInt8 := dkwX1_row_1 ++ []
def dkwX1_row_0 : List UInt8 := [27, 133, 9, 42, 180, 1, 49, 4, 100, 133, 184, 0, 7, 154, 0, 11, 187, 1, 146, 89, 183, 1, 148, 191]
abbrev dktX1_row_0 : List UInt8 := dkwX1_row_0 ++ dktX1_row_1
theorem dksX1_row_0 : cX1_row.data.toList.drop 0 = dktX1_row_0 := by decide +kernel
theorem dksX1_row_1 : cX1_row.data.toList.drop 24 = dktX1_row_1 := dk_seg dksX1_row_0 24 rfl rfl
theorem dX1_row_0 : decode cX1_row 0 = .ok (.iload_n 1, 1) := dk_27 (dk_at dksX1_row_0 0 rfl rfl)
theorem dX1_row_1 : decode cX1_row 1 = .ok (.i2l, 1) := dk_133 (dk_at dksX1_row_0 1 rfl rfl)
theorem dX1_row_2 : decode cX1_row 2 = .ok (.lconst 0, 1) := dk_9 (dk_at dksX1_row_0 2 rfl rfl)
theorem dX1_row_3 : decode cX1_row 3 = .ok (.aload_n 0, 1) := dk_42 (dk_at dksX1_row_0 3 rfl rfl)
theorem dX1_row_4 : decode cX1_row 4 = .ok (.getfield 305, 3) := dk_180 1 49 (dk_at dksX1_row_0 4 rfl rfl)
theorem dX1_row_7 : decode cX1_row 7 = .ok (.iconst 1, 1) := dk_4 (dk_at dksX1_row_0 7 rfl rfl)
theorem dX1_row_8 : decode cX1_row 8 = .ok (.isub, 1) := dk_100 (dk_at dksX1_row_0 8 rfl rfl)
theorem dX1_row_9 : decode cX1_row 9 = .ok (.i2l, 1) := dk_133 (dk_at dksX1_row_0 9 rfl rfl)
theorem dX1_row_10 : decode cX1_row 10 = .ok (.invokestatic 7, 3) := dk_184 0 7 (dk_at dksX1_row_0 10 rfl rfl)
theorem dX1_row_13 : decode cX1_row 13 = .ok (.ifCond .ne 11, 3) := dk_154 0 11 (dk_at dksX1_row_0 13 rfl rfl)
theorem dX1_row_16 : decode cX1_row 16 = .ok (.new 402, 3) := dk_187 1 146 (dk_at dksX1_row_0 16 rfl rfl)
theorem dX1_row_19 : decode cX1_row 19 = .ok (.dup, 1) := dk_89 (dk_at dksX1_row_0 19 rfl rfl)
theorem dX1_row_20 : decode cX1_row 20 = .ok (.invokespecial 404, 3) := dk_183 1 148 (dk_at dksX1_row_0 20 rfl rfl)
theorem dX1_row_23 : decode cX1_row 23 = .ok (.athrow, 1) := dk_191 (dk_at dksX1_row_0 23 rfl rfl)
theorem dX1_row_24 : decode cX1_row 24 = .ok (.aload_n 0, 1) := dk_42 (dk_at dksX1_row_1 0 rfl rfl)
theorem dX1_row_25 : decode cX1_row 25 = .ok (.getfield 84, 3) := dk_180 0 84 (dk_at dksX1_row_1 1 rfl rfl)
theorem dX1_row_28 : decode cX1_row 28 = .ok (.iload_n 1, 1) := dk_27 (dk_at dksX1_row_1 4 rfl rfl)
theorem dX1_row_29 : decode cX1_row 29 = .ok (.laload, 1) := dk_47 (dk_at dksX1_row_1 5 rfl rfl)
theorem dX1_row_30 : decode cX1_row 30 = .ok (.lreturn, 1) := dk_173 (dk_at dksX1_row_1 6 rfl rfl)
theorem q83 : (Jvm.Cond.initialized "DistinctMarks") ∈ lw_all := lw_g (lw_at lw_m1 1 rfl) rfl
theorem q105 : (Jvm.Cond.instanceMethod ({ cls := "DistinctMarks", name := "mixes", desc := "(II)Z" } : Jvm.MethodName)) ∈ lw_all := lw_g (lw_at lw_m1 23 rfl) rfl
theorem q106 : (Jvm.Cond.selects "DistinctMarks" ({ cls := "DistinctMarks", name := "mixes", desc := "(II)Z" } : Jvm.MethodName) ({ cls := "DistinctMarks", name := "mixes", desc := "(II)Z" } : Jvm.MethodName)) ∈ lw_all := lw_g (lw_at lw_m1 24 rfl) rfl
theorem q107 : (Jvm.Cond.code ({ cls := "DistinctMarks", name := "mixes", desc := "(II)Z" } : Jvm.MethodName) prog_1_method_7_code (3 : Nat) (Option.some Jvm.ClassFile.FieldType.boolean)) ∈ lw_all := lw_g (lw_at lw_m1 25 rfl) rfl
theorem q109 : (Jvm.Cond.instanceMethod ({ cls := "DistinctMarks", name := "mark", desc := "(I)I" } : Jvm.MethodName)) ∈ lw_all := lw_g (lw_at lw_m1 27 rfl) rfl
theorem q110 : (Jvm.Cond.selects "DistinctMarks" ({ cls := "DistinctMarks", name := "mark", desc := "(I)I" } : Jvm.MethodName) ({ cls := "DistinctMarks", name := "mark", desc := "(I)I" } : Jvm.MethodName)) ∈ lw_all := lw_g (lw_at lw_m1 28 rfl) rfl
theorem q111 : (Jvm.Cond.code ({ cls := "DistinctMarks", name := "mark", desc := "(I)I" } : Jvm.MethodName) prog_1_method_8_code (2 : Nat) (Option.some Jvm.ClassFile.FieldType.int)) ∈ lw_all := lw_g (lw_at lw_m1 29 rfl) rfl
theorem q112 : (Jvm.Cond.methodLink "DistinctMarks" (34 : Nat) ({ cls := "DistinctMarks", name := "markOf", desc := "(I)I" } : Jvm.MethodName)) ∈ lw_all := lw_g (lw_at lw_m1 30 rfl) rfl
theorem q113 : (Jvm.Cond.privateMethod ({ cls := "DistinctMarks", name := "markOf", desc := "(I)I" } : Jvm.MethodName)) ∈ lw_tbl := lw_at lw_m1 31 rfl
theorem q114 : (Jvm.Cond.instanceMethod ({ cls := "DistinctMarks", name := "markOf", desc := "(I)I" } : Jvm.MethodName)) ∈ lw_all := lw_g (lw_at lw_m1 32 rfl) rfl
theorem q115 : (Jvm.Cond.instantiable "DistinctMarks" (13 : Nat)) ∈ lw_all := lw_g (lw_at lw_m1 33 rfl) rfl
theorem q116 : (Jvm.Cond.code ({ cls := "DistinctMarks", name := "markOf", desc := "(I)I" } : Jvm.MethodName) prog_1_method_4_code (2 : Nat) (Option.some Jvm.ClassFile.FieldType.int)) ∈ lw_all := lw_g (lw_at lw_m1 34 rfl) rfl
theorem q118 : (Jvm.Cond.instanceMethod ({ cls := "DistinctMarks", name := "place", desc := "(II)I" } : Jvm.MethodName)) ∈ lw_all := lw_g (lw_at lw_m1 36 rfl) rfl
theorem q119 : (Jvm.Cond.selects "DistinctMarks" ({ cls := "DistinctMarks", name := "place", desc := "(II)I" } : Jvm.MethodName) ({ cls := "DistinctMarks", name := "place", desc := "(II)I" } : Jvm.MethodName)) ∈ lw_all := lw_g (lw_at lw_m1 37 rfl) rfl
theorem q120 : (Jvm.Cond.code ({ cls := "DistinctMarks", name := "place", desc := "(II)I" } : Jvm.MethodName) prog_1_method_9_code (3 : Nat) (Option.some Jvm.ClassFile.FieldType.int)) ∈ lw_all := lw_g (lw_at lw_m1 38 rfl) rfl
theorem q121 : (Jvm.Cond.methodLink "DistinctMarks" (37 : Nat) ({ cls := "DistinctMarks", name := "isP", desc := "(I)Z" } : Jvm.MethodName)) ∈ lw_all := lw_g (lw_at lw_m1 39 rfl) rfl
theorem q122 : (Jvm.Cond.static ({ cls := "DistinctMarks", name := "isP", desc := "(I)Z" } : Jvm.MethodName)) ∈ lw_all := lw_g (lw_at lw_m1 40 rfl) rfl
theorem q123 : (Jvm.Cond.code ({ cls := "DistinctMarks", name := "isP", desc := "(I)Z" } : Jvm.MethodName) prog_1_method_2_code (1 : Nat) (Option.some Jvm.ClassFile.FieldType.boolean)) ∈ lw_all := lw_g (lw_at lw_m1 41 rfl) rfl
theorem q124 : (Jvm.Cond.constantLong "DistinctMarks" (3 : Nat) (4 : Int64)) ∈ lw_all := lw_g (lw_at lw_m1 42 rfl) rfl
theorem q125 : (Jvm.Cond.constantLong "DistinctMarks" (5 : Nat) (8 : Int64)) ∈ lw_all := lw_g (lw_at lw_m1 43 rfl) rfl
theorem q126 : (Jvm.Cond.methodLink "DistinctMarks" (7 : Nat) ({ cls := "DistinctMarks", name := "in", desc := "(JJJ)Z" } : Jvm.MethodName)) ∈ lw_all := lw_g (lw_at lw_m1 44 rfl) rfl
theorem q127 : (Jvm.Cond.static ({ cls := "DistinctMarks", name := "in", desc := "(JJJ)Z" } : Jvm.MethodName)) ∈ lw_all := lw_g (lw_at lw_m1 45 rfl) rfl
theorem q128 : (Jvm.Cond.code ({ cls := "DistinctMarks", name := "in", desc := "(JJJ)Z" } : Jvm.MethodName) prog_1_method_1_code (6 : Nat) (Option.some Jvm.ClassFile.FieldType.boolean)) ∈ lw_all := lw_g (lw_at lw_m1 46 rfl) rfl
theorem q129 : (Jvm.Cond.methodLink "DistinctMarks" (41 : Nat) ({ cls := "DistinctMarks", name := "rankOf", desc := "(II)I" } : Jvm.MethodName)) ∈ lw_all := lw_g (lw_at lw_m1 47 rfl) rfl
theorem q130 : (Jvm.Cond.static ({ cls := "DistinctMarks", name := "rankOf", desc := "(II)I" } : Jvm.MethodName)) ∈ lw_all := lw_g (lw_at lw_m1 48 rfl) rfl
theorem q131 : (Jvm.Cond.code ({ cls := "DistinctMarks", name := "rankOf", desc := "(II)I" } : Jvm.MethodName) prog_1_method_6_code (2 : Nat) (Option.some Jvm.ClassFile.FieldType.int)) ∈ lw_all := lw_g (lw_at lw_m1 49 rfl) rfl
theorem q132 : (Jvm.Cond.methodLink "DistinctMarks" (22 : Nat) ({ cls := "java/lang/Integer", name := "numberOfLeadingZeros", desc := "(I)I" } : Jvm.MethodName)) ∈ lw_all := lw_g (lw_at lw_m1 50 rfl) rfl
theorem q136 : (Jvm.Cond.methodLink "DistinctMarks" (28 : Nat) ({ cls := "java/lang/Math", name := "min", desc := "(II)I" } : Jvm.MethodName)) ∈ lw_all := lw_g (lw_at lw_m1 54 rfl) rfl
theorem q139 : (Jvm.Cond.methodLink "DistinctMarks" (44 : Nat) ({ cls := "DistinctMarks", name := "notesRow", desc := "([J)V" } : Jvm.MethodName)) ∈ lw_all := lw_g (lw_at lw_m1 57 rfl) rfl
theorem q140 : (Jvm.Cond.privateMethod ({ cls := "DistinctMarks", name := "notesRow", desc := "([J)V" } : Jvm.MethodName)) ∈ lw_tbl := lw_at lw_m1 58 rfl
theorem q141 : (Jvm.Cond.instanceMethod ({ cls := "DistinctMarks", name := "notesRow", desc := "([J)V" } : Jvm.MethodName)) ∈ lw_all := lw_g (lw_at lw_m1 59 rfl) rfl
theorem q142 : (Jvm.Cond.code ({ cls := "DistinctMarks", name := "notesRow", desc := "([J)V" } : Jvm.MethodName) prog_1_method_99_code (7 : Nat) (Option.none : Option Jvm.ClassFile.FieldType)) ∈ lw_all := lw_g (lw_at lw_m1 60 rfl) rfl
theorem q143 : (Jvm.Cond.methodLink "DistinctMarks" (308 : Nat) ({ cls := "DistinctMarks", name := "notes", desc := "(J)V" } : Jvm.MethodName)) ∈ lw_all := lw_g (lw_at lw_m1 61 rfl) rfl
theorem q144 : (Jvm.Cond.privateMethod ({ cls := "DistinctMarks", name := "notes", desc := "(J)V" } : Jvm.MethodName)) ∈ lw_tbl := lw_at lw_m1 62 rfl
theorem q145 : (Jvm.Cond.instanceMethod ({ cls := "DistinctMarks", name := "notes", desc := "(J)V" } : Jvm.MethodName)) ∈ lw_all := lw_g (lw_at lw_m1 63 rfl) rfl
theorem q146 : (Jvm.Cond.code ({ cls := "DistinctMarks", name := "notes", desc := "(J)V" } : Jvm.MethodName) prog_1_method_98_code (3 : Nat) (Option.none : Option Jvm.ClassFile.FieldType)) ∈ lw_all := lw_g (lw_at lw_m1 64 rfl) rfl
theorem q147 : (Jvm.Cond.methodLink "DistinctMarks" (48 : Nat) ({ cls := "DistinctMarks", name := "placeOf", desc := "(II)I" } : Jvm.MethodName)) ∈ lw_all := lw_g (lw_at lw_m1 65 rfl) rfl
theorem q148 : (Jvm.Cond.static ({ cls := "DistinctMarks", name := "placeOf", desc := "(II)I" } : Jvm.MethodName)) ∈ lw_all := lw_g (lw_at lw_m1 66 rfl) rfl
theorem q149 : (Jvm.Cond.code ({ cls := "DistinctMarks", name := "placeOf", desc := "(II)I" } : Jvm.MethodName) prog_1_method_5_code (2 : Nat) (Option.some Jvm.ClassFile.FieldType.int)) ∈ lw_all := lw_g (lw_at lw_m1 67 rfl) rfl
theorem q153 : (Jvm.Cond.instanceMethod ({ cls := "DistinctMarks", name := "<init>", desc := "()V" } : Jvm.MethodName)) ∈ lw_all := lw_g (lw_at lw_m1 71 rfl) rfl
theorem q154 : (Jvm.Cond.code ({ cls := "DistinctMarks", name := "<init>", desc := "()V" } : Jvm.MethodName) prog_1_method_10_code (1 : Nat) (Option.none : Option Jvm.ClassFile.FieldType)) ∈ lw_all := lw_g (lw_at lw_m1 72 rfl) rfl
theorem q155 : (Jvm.Cond.methodLink "DistinctMarks" (51 : Nat) ({ cls := "DistinctMarks", name := "<init>", desc := "(II)V" } : Jvm.MethodName)) ∈ lw_all := lw_g (lw_at lw_m1 73 rfl) rfl
theorem q156 : (Jvm.Cond.instanceMethod ({ cls := "DistinctMarks", name := "<init>", desc := "(II)V" } : Jvm.MethodName)) ∈ lw_all := lw_g (lw_at lw_m1 74 rfl) rfl
theorem q157 : (Jvm.Cond.code ({ cls := "DistinctMarks", name := "<init>", desc := "(II)V" } : Jvm.MethodName) prog_1_method_11_code (4 : Nat) (Option.none : Option Jvm.ClassFile.FieldType)) ∈ lw_all := lw_g (lw_at lw_m1 75 rfl) rfl
theorem q158 : (Jvm.Cond.methodLink "DistinctMarks" (55 : Nat) ({ cls := "java/lang/Object", name := "<init>", desc := "()V" } : Jvm.MethodName)) ∈ lw_all := lw_g (lw_at lw_m1 76 rfl) rfl
theorem q161 : (Jvm.Cond.classLink "DistinctMarks" (64 : Nat) "[[I") ∈ lw_all := lw_g (lw_at lw_m1 79 rfl) rfl
theorem q163 : (Jvm.Cond.methodLink "DistinctMarks" (65 : Nat) ({ cls := "DistinctMarks", name := "lays", desc := "(I)V" } : Jvm.MethodName)) ∈ lw_all := lw_g (lw_at lw_m1 81 rfl) rfl
theorem q164 : (Jvm.Cond.privateMethod ({ cls := "DistinctMarks", name := "lays", desc := "(I)V" } : Jvm.MethodName)) ∈ lw_tbl := lw_at lw_m1 82 rfl
theorem q165 : (Jvm.Cond.instanceMethod ({ cls := "DistinctMarks", name := "lays", desc := "(I)V" } : Jvm.MethodName)) ∈ lw_all := lw_g (lw_at lw_m1 83 rfl) rfl
theorem q166 : (Jvm.Cond.code ({ cls := "DistinctMarks", name := "lays", desc := "(I)V" } : Jvm.MethodName) prog_1_method_3_code (4 : Nat) (Option.none : Option Jvm.ClassFile.FieldType)) ∈ lw_all := lw_g (lw_at lw_m1 84 rfl) rfl
theorem q167 : (Jvm.Cond.classLink "DistinctMarks" (69 : Nat) "DistinctMarks$Counter") ∈ lw_all := lw_g (lw_at lw_m1 85 rfl) rfl
theorem q170 : (Jvm.Cond.methodLink "DistinctMarks" (75 : Nat) ({ cls := "DistinctMarks$Counter", name := "<init>", desc := "(LDistinctMarks;II)V" } : Jvm.MethodName)) ∈ lw_all := lw_g (lw_at lw_m1 88 rfl) rfl
theorem q175 : (Jvm.Cond.fieldLinkNest "DistinctMarks" (165 : Nat) "DistinctMarks$Counter" "p" "I" "DistinctMarks") ∈ lw_tbl := lw_at lw_m1 93 rfl
theorem q177 : (Jvm.Cond.fieldLinkNest "DistinctMarks" (171 : Nat) "DistinctMarks$Counter" "limit" "I" "DistinctMarks") ∈ lw_tbl := lw_at lw_m1 95 rfl
theorem q179 : (Jvm.Cond.fieldLinkNest "DistinctMarks" (211 : Nat) "DistinctMarks$Counter" "marks" "[I" "DistinctMarks") ∈ lw_tbl := lw_at lw_m1 97 rfl
theorem q181 : (Jvm.Cond.fieldLinkNest "DistinctMarks" (204 : Nat) "DistinctMarks$Counter" "ranks" "[B" "DistinctMarks") ∈ lw_tbl := lw_at lw_m1 99 rfl
theorem q183 : (Jvm.Cond.fieldLinkNest "DistinctMarks" (208 : Nat) "DistinctMarks$Counter" "many" "I" "DistinctMarks") ∈ lw_tbl := lw_at lw_m1 101 rfl
theorem q185 : (Jvm.Cond.fieldLinkNest "DistinctMarks" (151 : Nat) "DistinctMarks$Counter" "isDense" "Z" "DistinctMarks") ∈ lw_tbl := lw_at lw_m1 103 rfl
theorem q204 : (Jvm.Cond.fieldLink "DistinctMarks" (60 : Nat) "DistinctMarks" "alpha" "[I") ∈ lw_all := lw_g (lw_at lw_m1 122 rfl) rfl
theorem q206 : (Jvm.Cond.fieldLink "DistinctMarks" (11 : Nat) "DistinctMarks" "tables" "[[I") ∈ lw_all := lw_g (lw_at lw_m1 124 rfl) rfl
theorem q208 : (Jvm.Cond.fieldLink "DistinctMarks" (15 : Nat) "DistinctMarks" "timesA" "I") ∈ lw_all := lw_g (lw_at lw_m1 126 rfl) rfl
theorem q209 : (Jvm.Cond.fieldLink "DistinctMarks" (19 : Nat) "DistinctMarks" "plusB" "I") ∈ lw_all := lw_g (lw_at lw_m1 127 rfl) rfl
theorem q210 : (Jvm.Cond.fieldLink "DistinctMarks" (71 : Nat) "DistinctMarks" "counters" "[LDistinctMarks$Counter;") ∈ lw_all := lw_g (lw_at lw_m1 128 rfl) rfl
theorem q211 : (Jvm.Cond.fieldLink "DistinctMarks" (78 : Nat) "DistinctMarks" "text" "[I") ∈ lw_all := lw_g (lw_at lw_m1 129 rfl) rfl
theorem q212 : (Jvm.Cond.fieldLink "DistinctMarks" (107 : Nat) "DistinctMarks" "signMany" "I") ∈ lw_all := lw_g (lw_at lw_m1 130 rfl) rfl
theorem q213 : (Jvm.Cond.fieldLink "DistinctMarks" (113 : Nat) "DistinctMarks" "at" "I") ∈ lw_all := lw_g (lw_at lw_m1 131 rfl) rfl
theorem q214 : (Jvm.Cond.fieldLink "DistinctMarks" (110 : Nat) "DistinctMarks" "end" "I") ∈ lw_all := lw_g (lw_at lw_m1 132 rfl) rfl
theorem q215 : (Jvm.Cond.fieldLink "DistinctMarks" (81 : Nat) "DistinctMarks" "things" "[I") ∈ lw_all := lw_g (lw_at lw_m1 133 rfl) rfl
theorem q216 : (Jvm.Cond.fieldLink "DistinctMarks" (133 : Nat) "DistinctMarks" "thingMany" "I") ∈ lw_all := lw_g (lw_at lw_m1 134 rfl) rfl
theorem q217 : (Jvm.Cond.fieldLink "DistinctMarks" (84 : Nat) "DistinctMarks" "row" "[J") ∈ lw_all := lw_g (lw_at lw_m1 135 rfl) rfl
theorem q218 : (Jvm.Cond.fieldLink "DistinctMarks" (305 : Nat) "DistinctMarks" "rowMany" "I") ∈ lw_all := lw_g (lw_at lw_m1 136 rfl) rfl
theorem q219 : (Jvm.Cond.laysFinal "DistinctMarks" "DistinctMarks" "alpha" "[I") ∈ lw_all := lw_g (lw_at lw_m1 137 rfl) rfl
theorem q220 : (Jvm.Cond.soleField "DistinctMarks" "alpha") ∈ lw_all := lw_g (lw_at lw_m1 138 rfl) rfl
theorem q221 : (Jvm.Cond.laysFinal "DistinctMarks" "DistinctMarks" "tables" "[[I") ∈ lw_all := lw_g (lw_at lw_m1 139 rfl) rfl
theorem q222 : (Jvm.Cond.soleField "DistinctMarks" "tables") ∈ lw_all := lw_g (lw_at lw_m1 140 rfl) rfl
theorem q223 : (Jvm.Cond.lays "DistinctMarks" "DistinctMarks" "timesA" "I") ∈ lw_all := lw_g (lw_at lw_m1 141 rfl) rfl
theorem q224 : (Jvm.Cond.soleField "DistinctMarks" "timesA") ∈ lw_all := lw_g (lw_at lw_m1 142 rfl) rfl
theorem q225 : (Jvm.Cond.lays "DistinctMarks" "DistinctMarks" "plusB" "I") ∈ lw_all := lw_g (lw_at lw_m1 143 rfl) rfl
theorem q226 : (Jvm.Cond.soleField "DistinctMarks" "plusB") ∈ lw_all := lw_g (lw_at lw_m1 144 rfl) rfl
theorem q227 : (Jvm.Cond.laysFinal "DistinctMarks" "DistinctMarks" "counters" "[LDistinctMarks$Counter;") ∈ lw_all := lw_g (lw_at lw_m1 145 rfl) rfl
theorem q228 : (Jvm.Cond.soleField "DistinctMarks" "counters") ∈ lw_all := lw_g (lw_at lw_m1 146 rfl) rfl
theorem q229 : (Jvm.Cond.laysFinal "DistinctMarks" "DistinctMarks" "text" "[I") ∈ lw_all := lw_g (lw_at lw_m1 147 rfl) rfl
theorem q230 : (Jvm.Cond.soleField "DistinctMarks" "text") ∈ lw_all := lw_g (lw_at lw_m1 148 rfl) rfl
theorem q231 : (Jvm.Cond.lays "DistinctMarks" "DistinctMarks" "signMany" "I") ∈ lw_all := lw_g (lw_at lw_m1 149 rfl) rfl
theorem q232 : (Jvm.Cond.soleField "DistinctMarks" "signMany") ∈ lw_all := lw_g (lw_at lw_m1 150 rfl) rfl
theorem q233 : (Jvm.Cond.lays "DistinctMarks" "DistinctMarks" "at" "I") ∈ lw_all := lw_g (lw_at lw_m1 151 rfl) rfl
theorem q234 : (Jvm.Cond.soleField "DistinctMarks" "at") ∈ lw_all := lw_g (lw_at lw_m1 152 rfl) rfl
theorem q235 : (Jvm.Cond.lays "DistinctMarks" "DistinctMarks" "end" "I") ∈ lw_all := lw_g (lw_at lw_m1 153 rfl) rfl
theorem q236 : (Jvm.Cond.soleField "DistinctMarks" "end") ∈ lw_all := lw_g (lw_at lw_m1 154 rfl) rfl
theorem q237 : (Jvm.Cond.laysFinal "DistinctMarks" "DistinctMarks" "things" "[I") ∈ lw_all := lw_g (lw_at lw_m1 155 rfl) rfl
theorem q238 : (Jvm.Cond.soleField "DistinctMarks" "things") ∈ lw_all := lw_g (lw_at lw_m1 156 rfl) rfl
theorem q239 : (Jvm.Cond.lays "DistinctMarks" "DistinctMarks" "thingMany" "I") ∈ lw_all := lw_g (lw_at lw_m1 157 rfl) rfl
theorem q240 : (Jvm.Cond.soleField "DistinctMarks" "thingMany") ∈ lw_all := lw_g (lw_at lw_m1 158 rfl) rfl
theorem q241 : (Jvm.Cond.laysFinal "DistinctMarks" "DistinctMarks" "row" "[J") ∈ lw_all := lw_g (lw_at lw_m1 159 rfl) rfl
theorem q242 : (Jvm.Cond.soleField "DistinctMarks" "row") ∈ lw_all := lw_g (lw_at lw_m1 160 rfl) rfl
theorem q243 : (Jvm.Cond.lays "DistinctMarks" "DistinctMarks" "rowMany" "I") ∈ lw_all := lw_g (lw_at lw_m1 161 rfl) rfl
theorem q244 : (Jvm.Cond.soleField "DistinctMarks" "rowMany") ∈ lw_all := lw_g (lw_at lw_m1 162 rfl) rfl
theorem q245 : (Jvm.Cond.superclass "DistinctMarks" "java/lang/Object") ∈ lw_all := lw_g (lw_at lw_m1 163 rfl) rfl
theorem q247 : (Jvm.Cond.instanceMethod ({ cls := "DistinctMarks", name := "opens", desc := "(III)I" } : Jvm.MethodName)) ∈ lw_all := lw_g (lw_at lw_m1 165 rfl) rfl
theorem q248 : (Jvm.Cond.selects "DistinctMarks" ({ cls := "DistinctMarks", name := "opens", desc := "(III)I" } : Jvm.MethodName) ({ cls := "DistinctMarks", name := "opens", desc := "(III)I" } : Jvm.MethodName)) ∈ lw_all := lw_g (lw_at lw_m1 166 rfl) rfl
theorem q249 : (Jvm.Cond.code ({ cls := "DistinctMarks", name := "opens", desc := "(III)I" } : Jvm.MethodName) prog_1_method_14_code (4 : Nat) (Option.some Jvm.ClassFile.FieldType.int)) ∈ lw_all := lw_g (lw_at lw_m1 167 rfl) rfl
theorem q250 : (Jvm.Cond.methodLink "DistinctMarks" (92 : Nat) ({ cls := "DistinctMarks", name := "are", desc := "([I)Z" } : Jvm.MethodName)) ∈ lw_all := lw_g (lw_at lw_m1 168 rfl) rfl
theorem q251 : (Jvm.Cond.static ({ cls := "DistinctMarks", name := "are", desc := "([I)Z" } : Jvm.MethodName)) ∈ lw_all := lw_g (lw_at lw_m1 169 rfl) rfl
theorem q252 : (Jvm.Cond.code ({ cls := "DistinctMarks", name := "are", desc := "([I)Z" } : Jvm.MethodName) prog_1_method_12_code (6 : Nat) (Option.some Jvm.ClassFile.FieldType.boolean)) ∈ lw_all := lw_g (lw_at lw_m1 170 rfl) rfl
theorem q253 : (Jvm.Cond.constantLong "DistinctMarks" (88 : Nat) (5 : Int64)) ∈ lw_all := lw_g (lw_at lw_m1 171 rfl) rfl
theorem q254 : (Jvm.Cond.constantLong "DistinctMarks" (96 : Nat) (48 : Int64)) ∈ lw_all := lw_g (lw_at lw_m1 172 rfl) rfl
theorem q255 : (Jvm.Cond.methodLink "DistinctMarks" (98 : Nat) ({ cls := "DistinctMarks$Counter", name := "m", desc := "()I" } : Jvm.MethodName)) ∈ lw_all := lw_g (lw_at lw_m1 173 rfl) rfl
theorem q260 : (Jvm.Cond.instanceMethod ({ cls := "DistinctMarks", name := "adds", desc := "(II)I" } : Jvm.MethodName)) ∈ lw_all := lw_g (lw_at lw_m1 178 rfl) rfl
theorem q261 : (Jvm.Cond.selects "DistinctMarks" ({ cls := "DistinctMarks", name := "adds", desc := "(II)I" } : Jvm.MethodName) ({ cls := "DistinctMarks", name := "adds", desc := "(II)I" } : Jvm.MethodName)) ∈ lw_all := lw_g (lw_at lw_m1 179 rfl) rfl
theorem q262 : (Jvm.Cond.code ({ cls := "DistinctMarks", name := "adds", desc := "(II)I" } : Jvm.MethodName) prog_1_method_15_code (3 : Nat) (Option.some Jvm.ClassFile.FieldType.int)) ∈ lw_all := lw_g (lw_at lw_m1 180 rfl) rfl
theorem q263 : (Jvm.Cond.methodLink "DistinctMarks" (102 : Nat) ({ cls := "DistinctMarks$Counter", name := "adds", desc := "(I)Z" } : Jvm.MethodName)) ∈ lw_all := lw_g (lw_at lw_m1 181 rfl) rfl
theorem q292 : (Jvm.Cond.instanceMethod ({ cls := "DistinctMarks", name := "runs", desc := "(IIII)I" } : Jvm.MethodName)) ∈ lw_all := lw_g (lw_at lw_m1 210 rfl) rfl
theorem q293 : (Jvm.Cond.selects "DistinctMarks" ({ cls := "DistinctMarks", name := "runs", desc := "(IIII)I" } : Jvm.MethodName) ({ cls := "DistinctMarks", name := "runs", desc := "(IIII)I" } : Jvm.MethodName)) ∈ lw_all := lw_g (lw_at lw_m1 211 rfl) rfl
theorem q294 : (Jvm.Cond.code ({ cls := "DistinctMarks", name := "runs", desc := "(IIII)I" } : Jvm.MethodName) prog_1_method_16_code (7 : Nat) (Option.some Jvm.ClassFile.FieldType.int)) ∈ lw_all := lw_g (lw_at lw_m1 212 rfl) rfl
theorem q295 : (Jvm.Cond.constantLong "DistinctMarks" (105 : Nat) (1000 : Int64)) ∈ lw_all := lw_g (lw_at lw_m1 213 rfl) rfl
theorem q297 : (Jvm.Cond.instanceMethod ({ cls := "DistinctMarks", name := "sign", desc := "(I)I" } : Jvm.MethodName)) ∈ lw_all := lw_g (lw_at lw_m1 215 rfl) rfl
theorem q298 : (Jvm.Cond.selects "DistinctMarks" ({ cls := "DistinctMarks", name := "sign", desc := "(I)I" } : Jvm.MethodName) ({ cls := "DistinctMarks", name := "sign", desc := "(I)I" } : Jvm.MethodName)) ∈ lw_all := lw_g (lw_at lw_m1 216 rfl) rfl
theorem q299 : (Jvm.Cond.code ({ cls := "DistinctMarks", name := "sign", desc := "(I)I" } : Jvm.MethodName) prog_1_method_17_code (3 : Nat) (Option.some Jvm.ClassFile.FieldType.int)) ∈ lw_all := lw_g (lw_at lw_m1 217 rfl) rfl
theorem q301 : (Jvm.Cond.instanceMethod ({ cls := "DistinctMarks", name := "end", desc := "(I)Z" } : Jvm.MethodName)) ∈ lw_all := lw_g (lw_at lw_m1 219 rfl) rfl
theorem q302 : (Jvm.Cond.selects "DistinctMarks" ({ cls := "DistinctMarks", name := "end", desc := "(I)Z" } : Jvm.MethodName) ({ cls := "DistinctMarks", name := "end", desc := "(I)Z" } : Jvm.MethodName)) ∈ lw_all := lw_g (lw_at lw_m1 220 rfl) rfl
theorem q303 : (Jvm.Cond.code ({ cls := "DistinctMarks", name := "end", desc := "(I)Z" } : Jvm.MethodName) prog_1_method_18_code (2 : Nat) (Option.some Jvm.ClassFile.FieldType.boolean)) ∈ lw_all := lw_g (lw_at lw_m1 221 rfl) rfl
theorem q305 : (Jvm.Cond.instanceMethod ({ cls := "DistinctMarks", name := "tells", desc := "(I)I" } : Jvm.MethodName)) ∈ lw_all := lw_g (lw_at lw_m1 223 rfl) rfl
theorem q306 : (Jvm.Cond.selects "DistinctMarks" ({ cls := "DistinctMarks", name := "tells", desc := "(I)I" } : Jvm.MethodName) ({ cls := "DistinctMarks", name := "tells", desc := "(I)I" } : Jvm.MethodName)) ∈ lw_all := lw_g (lw_at lw_m1 224 rfl) rfl
theorem q307 : (Jvm.Cond.codeWith ({ cls := "DistinctMarks", name := "tells", desc := "(I)I" } : Jvm.MethodName) prog_1_method_26_code (4 : Nat) (Option.some Jvm.ClassFile.FieldType.int) [((4 : Nat), (8 : Nat), (11 : Nat), (116 : Nat))]) ∈ lw_all := lw_g (lw_at lw_m1 225 rfl) rfl
theorem q308 : (Jvm.Cond.classLink "DistinctMarks" (116 : Nat) "DistinctMarks$Wrong") ∈ lw_all := lw_g (lw_at lw_m1 226 rfl) rfl
theorem q309 : (Jvm.Cond.methodLink "DistinctMarks" (139 : Nat) ({ cls := "DistinctMarks", name := "begins", desc := "()V" } : Jvm.MethodName)) ∈ lw_all := lw_g (lw_at lw_m1 227 rfl) rfl
theorem q310 : (Jvm.Cond.privateMethod ({ cls := "DistinctMarks", name := "begins", desc := "()V" } : Jvm.MethodName)) ∈ lw_tbl := lw_at lw_m1 228 rfl
theorem q311 : (Jvm.Cond.instanceMethod ({ cls := "DistinctMarks", name := "begins", desc := "()V" } : Jvm.MethodName)) ∈ lw_all := lw_g (lw_at lw_m1 229 rfl) rfl
theorem q312 : (Jvm.Cond.code ({ cls := "DistinctMarks", name := "begins", desc := "()V" } : Jvm.MethodName) prog_1_method_19_code (1 : Nat) (Option.none : Option Jvm.ClassFile.FieldType)) ∈ lw_all := lw_g (lw_at lw_m1 230 rfl) rfl
theorem q313 : (Jvm.Cond.methodLink "DistinctMarks" (142 : Nat) ({ cls := "DistinctMarks", name := "thingsTold", desc := "()V" } : Jvm.MethodName)) ∈ lw_all := lw_g (lw_at lw_m1 231 rfl) rfl
theorem q314 : (Jvm.Cond.privateMethod ({ cls := "DistinctMarks", name := "thingsTold", desc := "()V" } : Jvm.MethodName)) ∈ lw_tbl := lw_at lw_m1 232 rfl
theorem q315 : (Jvm.Cond.instanceMethod ({ cls := "DistinctMarks", name := "thingsTold", desc := "()V" } : Jvm.MethodName)) ∈ lw_all := lw_g (lw_at lw_m1 233 rfl) rfl
theorem q316 : (Jvm.Cond.code ({ cls := "DistinctMarks", name := "thingsTold", desc := "()V" } : Jvm.MethodName) prog_1_method_25_code (1 : Nat) (Option.none : Option Jvm.ClassFile.FieldType)) ∈ lw_all := lw_g (lw_at lw_m1 234 rfl) rfl
theorem q317 : (Jvm.Cond.methodLink "DistinctMarks" (136 : Nat) ({ cls := "DistinctMarks", name := "numberTold", desc := "()I" } : Jvm.MethodName)) ∈ lw_all := lw_g (lw_at lw_m1 235 rfl) rfl
theorem q318 : (Jvm.Cond.privateMethod ({ cls := "DistinctMarks", name := "numberTold", desc := "()I" } : Jvm.MethodName)) ∈ lw_tbl := lw_at lw_m1 236 rfl
theorem q319 : (Jvm.Cond.instanceMethod ({ cls := "DistinctMarks", name := "numberTold", desc := "()I" } : Jvm.MethodName)) ∈ lw_all := lw_g (lw_at lw_m1 237 rfl) rfl
theorem q320 : (Jvm.Cond.code ({ cls := "DistinctMarks", name := "numberTold", desc := "()I" } : Jvm.MethodName) prog_1_method_24_code (4 : Nat) (Option.some Jvm.ClassFile.FieldType.int)) ∈ lw_all := lw_g (lw_at lw_m1 238 rfl) rfl
theorem q321 : (Jvm.Cond.methodLink "DistinctMarks" (121 : Nat) ({ cls := "DistinctMarks", name := "takes", desc := "(C)Z" } : Jvm.MethodName)) ∈ lw_all := lw_g (lw_at lw_m1 239 rfl) rfl
theorem q322 : (Jvm.Cond.privateMethod ({ cls := "DistinctMarks", name := "takes", desc := "(C)Z" } : Jvm.MethodName)) ∈ lw_tbl := lw_at lw_m2 0 rfl
theorem q323 : (Jvm.Cond.instanceMethod ({ cls := "DistinctMarks", name := "takes", desc := "(C)Z" } : Jvm.MethodName)) ∈ lw_all := lw_g (lw_at lw_m2 1 rfl) rfl
theorem q324 : (Jvm.Cond.code ({ cls := "DistinctMarks", name := "takes", desc := "(C)Z" } : Jvm.MethodName) prog_1_method_20_code (3 : Nat) (Option.some Jvm.ClassFile.FieldType.boolean)) ∈ lw_all := lw_g (lw_at lw_m2 2 rfl) rfl
theorem q325 : (Jvm.Cond.methodLink "DistinctMarks" (125 : Nat) ({ cls := "DistinctMarks", name := "isDigit", desc := "()Z" } : Jvm.MethodName)) ∈ lw_all := lw_g (lw_at lw_m2 3 rfl) rfl
theorem q326 : (Jvm.Cond.privateMethod ({ cls := "DistinctMarks", name := "isDigit", desc := "()Z" } : Jvm.MethodName)) ∈ lw_tbl := lw_at lw_m2 4 rfl
theorem q327 : (Jvm.Cond.instanceMethod ({ cls := "DistinctMarks", name := "isDigit", desc := "()Z" } : Jvm.MethodName)) ∈ lw_all := lw_g (lw_at lw_m2 5 rfl) rfl
theorem q328 : (Jvm.Cond.code ({ cls := "DistinctMarks", name := "isDigit", desc := "()Z" } : Jvm.MethodName) prog_1_method_22_code (1 : Nat) (Option.some Jvm.ClassFile.FieldType.boolean)) ∈ lw_all := lw_g (lw_at lw_m2 6 rfl) rfl
theorem q329 : (Jvm.Cond.constantLong "DistinctMarks" (119 : Nat) (57 : Int64)) ∈ lw_all := lw_g (lw_at lw_m2 7 rfl) rfl
theorem q330 : (Jvm.Cond.methodLink "DistinctMarks" (129 : Nat) ({ cls := "DistinctMarks", name := "must", desc := "(Z)V" } : Jvm.MethodName)) ∈ lw_all := lw_g (lw_at lw_m2 8 rfl) rfl
theorem q331 : (Jvm.Cond.privateMethod ({ cls := "DistinctMarks", name := "must", desc := "(Z)V" } : Jvm.MethodName)) ∈ lw_tbl := lw_at lw_m2 9 rfl
theorem q332 : (Jvm.Cond.instanceMethod ({ cls := "DistinctMarks", name := "must", desc := "(Z)V" } : Jvm.MethodName)) ∈ lw_all := lw_g (lw_at lw_m2 10 rfl) rfl
theorem q333 : (Jvm.Cond.code ({ cls := "DistinctMarks", name := "must", desc := "(Z)V" } : Jvm.MethodName) prog_1_method_21_code (2 : Nat) (Option.none : Option Jvm.ClassFile.FieldType)) ∈ lw_all := lw_g (lw_at lw_m2 11 rfl) rfl
theorem q371 : (Jvm.Cond.methodLink "DistinctMarks" (118 : Nat) ({ cls := "DistinctMarks$Wrong", name := "<init>", desc := "()V" } : Jvm.MethodName)) ∈ lw_all := lw_g (lw_at lw_m2 49 rfl) rfl
theorem q393 : (Jvm.Cond.methodLink "DistinctMarks" (145 : Nat) ({ cls := "DistinctMarks", name := "wrong", desc := "()I" } : Jvm.MethodName)) ∈ lw_all := lw_g (lw_at lw_m2 71 rfl) rfl
theorem q394 : (Jvm.Cond.privateMethod ({ cls := "DistinctMarks", name := "wrong", desc := "()I" } : Jvm.MethodName)) ∈ lw_tbl := lw_at lw_m2 72 rfl
theorem q395 : (Jvm.Cond.instanceMethod ({ cls := "DistinctMarks", name := "wrong", desc := "()I" } : Jvm.MethodName)) ∈ lw_all := lw_g (lw_at lw_m2 73 rfl) rfl
theorem q396 : (Jvm.Cond.code ({ cls := "DistinctMarks", name := "wrong", desc := "()I" } : Jvm.MethodName) prog_1_method_23_code (1 : Nat) (Option.some Jvm.ClassFile.FieldType.int)) ∈ lw_all := lw_g (lw_at lw_m2 74 rfl) rfl
theorem q398 : (Jvm.Cond.instanceMethod ({ cls := "DistinctMarks", name := "replays", desc := "(I)I" } : Jvm.MethodName)) ∈ lw_all := lw_g (lw_at lw_m2 76 rfl) rfl
theorem q399 : (Jvm.Cond.selects "DistinctMarks" ({ cls := "DistinctMarks", name := "replays", desc := "(I)I" } : Jvm.MethodName) ({ cls := "DistinctMarks", name := "replays", desc := "(I)I" } : Jvm.MethodName)) ∈ lw_all := lw_g (lw_at lw_m2 77 rfl) rfl
theorem q400 : (Jvm.Cond.codeWith ({ cls := "DistinctMarks", name := "replays", desc := "(I)I" } : Jvm.MethodName) prog_1_method_27_code (6 : Nat) (Option.some Jvm.ClassFile.FieldType.int) [((4 : Nat), (8 : Nat), (11 : Nat), (116 : Nat))]) ∈ lw_all := lw_g (lw_at lw_m2 78 rfl) rfl
theorem q401 : (Jvm.Cond.methodLink "DistinctMarks" (148 : Nat) ({ cls := "DistinctMarks$Counter", name := "wouldChange", desc := "(I)Z" } : Jvm.MethodName)) ∈ lw_all := lw_g (lw_at lw_m2 79 rfl) rfl
theorem q406 : (Jvm.Cond.instanceMethod ({ cls := "DistinctMarks", name := "takes", desc := "(II)I" } : Jvm.MethodName)) ∈ lw_all := lw_g (lw_at lw_m2 84 rfl) rfl
theorem q407 : (Jvm.Cond.selects "DistinctMarks" ({ cls := "DistinctMarks", name := "takes", desc := "(II)I" } : Jvm.MethodName) ({ cls := "DistinctMarks", name := "takes", desc := "(II)I" } : Jvm.MethodName)) ∈ lw_all := lw_g (lw_at lw_m2 85 rfl) rfl
theorem q408 : (Jvm.Cond.code ({ cls := "DistinctMarks", name := "takes", desc := "(II)I" } : Jvm.MethodName) prog_1_method_28_code (3 : Nat) (Option.some Jvm.ClassFile.FieldType.int)) ∈ lw_all := lw_g (lw_at lw_m2 86 rfl) rfl
theorem q409 : (Jvm.Cond.methodLink "DistinctMarks" (155 : Nat) ({ cls := "DistinctMarks$Counter", name := "drops", desc := "(I)Z" } : Jvm.MethodName)) ∈ lw_all := lw_g (lw_at lw_m2 87 rfl) rfl
theorem q414 : (Jvm.Cond.instanceMethod ({ cls := "DistinctMarks", name := "dense", desc := "(I)I" } : Jvm.MethodName)) ∈ lw_all := lw_g (lw_at lw_m2 92 rfl) rfl
theorem q415 : (Jvm.Cond.selects "DistinctMarks" ({ cls := "DistinctMarks", name := "dense", desc := "(I)I" } : Jvm.MethodName) ({ cls := "DistinctMarks", name := "dense", desc := "(I)I" } : Jvm.MethodName)) ∈ lw_all := lw_g (lw_at lw_m2 93 rfl) rfl
theorem q416 : (Jvm.Cond.code ({ cls := "DistinctMarks", name := "dense", desc := "(I)I" } : Jvm.MethodName) prog_1_method_30_code (2 : Nat) (Option.some Jvm.ClassFile.FieldType.int)) ∈ lw_all := lw_g (lw_at lw_m2 94 rfl) rfl
theorem q417 : (Jvm.Cond.methodLink "DistinctMarks" (161 : Nat) ({ cls := "DistinctMarks", name := "filled", desc := "(LDistinctMarks$Counter;)I" } : Jvm.MethodName)) ∈ lw_all := lw_g (lw_at lw_m2 95 rfl) rfl
theorem q418 : (Jvm.Cond.static ({ cls := "DistinctMarks", name := "filled", desc := "(LDistinctMarks$Counter;)I" } : Jvm.MethodName)) ∈ lw_all := lw_g (lw_at lw_m2 96 rfl) rfl
theorem q419 : (Jvm.Cond.code ({ cls := "DistinctMarks", name := "filled", desc := "(LDistinctMarks$Counter;)I" } : Jvm.MethodName) prog_1_method_29_code (1 : Nat) (Option.some Jvm.ClassFile.FieldType.int)) ∈ lw_all := lw_g (lw_at lw_m2 97 rfl) rfl
theorem q420 : (Jvm.Cond.methodLink "DistinctMarks" (158 : Nat) ({ cls := "DistinctMarks$Counter", name := "empty", desc := "()I" } : Jvm.MethodName)) ∈ lw_all := lw_g (lw_at lw_m2 98 rfl) rfl
theorem q426 : (Jvm.Cond.instanceMethod ({ cls := "DistinctMarks", name := "folds", desc := "(II)I" } : Jvm.MethodName)) ∈ lw_all := lw_g (lw_at lw_m2 104 rfl) rfl
theorem q427 : (Jvm.Cond.selects "DistinctMarks" ({ cls := "DistinctMarks", name := "folds", desc := "(II)I" } : Jvm.MethodName) ({ cls := "DistinctMarks", name := "folds", desc := "(II)I" } : Jvm.MethodName)) ∈ lw_all := lw_g (lw_at lw_m2 105 rfl) rfl
theorem q428 : (Jvm.Cond.code ({ cls := "DistinctMarks", name := "folds", desc := "(II)I" } : Jvm.MethodName) prog_1_method_31_code (3 : Nat) (Option.some Jvm.ClassFile.FieldType.int)) ∈ lw_all := lw_g (lw_at lw_m2 106 rfl) rfl
theorem q429 : (Jvm.Cond.methodLink "DistinctMarks" (168 : Nat) ({ cls := "DistinctMarks$Counter", name := "<init>", desc := "(LDistinctMarks;LDistinctMarks$Counter;I)V" } : Jvm.MethodName)) ∈ lw_all := lw_g (lw_at lw_m2 107 rfl) rfl
theorem q455 : (Jvm.Cond.instanceMethod ({ cls := "DistinctMarks", name := "copies", desc := "(II)I" } : Jvm.MethodName)) ∈ lw_all := lw_g (lw_at lw_m2 133 rfl) rfl
theorem q456 : (Jvm.Cond.selects "DistinctMarks" ({ cls := "DistinctMarks", name := "copies", desc := "(II)I" } : Jvm.MethodName) ({ cls := "DistinctMarks", name := "copies", desc := "(II)I" } : Jvm.MethodName)) ∈ lw_all := lw_g (lw_at lw_m2 134 rfl) rfl
theorem q457 : (Jvm.Cond.code ({ cls := "DistinctMarks", name := "copies", desc := "(II)I" } : Jvm.MethodName) prog_1_method_35_code (3 : Nat) (Option.some Jvm.ClassFile.FieldType.int)) ∈ lw_all := lw_g (lw_at lw_m2 135 rfl) rfl
theorem q458 : (Jvm.Cond.methodLink "DistinctMarks" (183 : Nat) ({ cls := "DistinctMarks", name := "joined", desc := "([LDistinctMarks$Counter;)LDistinctMarks$Counter;" } : Jvm.MethodName)) ∈ lw_all := lw_g (lw_at lw_m2 136 rfl) rfl
theorem q459 : (Jvm.Cond.privateMethod ({ cls := "DistinctMarks", name := "joined", desc := "([LDistinctMarks$Counter;)LDistinctMarks$Counter;" } : Jvm.MethodName)) ∈ lw_tbl := lw_at lw_m2 137 rfl
theorem q460 : (Jvm.Cond.instanceMethod ({ cls := "DistinctMarks", name := "joined", desc := "([LDistinctMarks$Counter;)LDistinctMarks$Counter;" } : Jvm.MethodName)) ∈ lw_all := lw_g (lw_at lw_m2 138 rfl) rfl
theorem q461 : (Jvm.Cond.code ({ cls := "DistinctMarks", name := "joined", desc := "([LDistinctMarks$Counter;)LDistinctMarks$Counter;" } : Jvm.MethodName) prog_1_method_32_code (10 : Nat) (Option.some (Jvm.ClassFile.FieldType.object "DistinctMarks$Counter"))) ∈ lw_all := lw_g (lw_at lw_m2 139 rfl) rfl
theorem q462 : (Jvm.Cond.methodLink "DistinctMarks" (174 : Nat) ({ cls := "DistinctMarks$Counter", name := "takes", desc := "(LDistinctMarks$Counter;)V" } : Jvm.MethodName)) ∈ lw_all := lw_g (lw_at lw_m2 140 rfl) rfl
theorem q463 : (Jvm.Cond.methodLink "DistinctMarks" (187 : Nat) ({ cls := "DistinctMarks", name := "becomes", desc := "(ILDistinctMarks$Counter;)I" } : Jvm.MethodName)) ∈ lw_all := lw_g (lw_at lw_m2 141 rfl) rfl
theorem q464 : (Jvm.Cond.privateMethod ({ cls := "DistinctMarks", name := "becomes", desc := "(ILDistinctMarks$Counter;)I" } : Jvm.MethodName)) ∈ lw_tbl := lw_at lw_m2 142 rfl
theorem q465 : (Jvm.Cond.instanceMethod ({ cls := "DistinctMarks", name := "becomes", desc := "(ILDistinctMarks$Counter;)I" } : Jvm.MethodName)) ∈ lw_all := lw_g (lw_at lw_m2 143 rfl) rfl
theorem q466 : (Jvm.Cond.code ({ cls := "DistinctMarks", name := "becomes", desc := "(ILDistinctMarks$Counter;)I" } : Jvm.MethodName) prog_1_method_34_code (3 : Nat) (Option.some Jvm.ClassFile.FieldType.int)) ∈ lw_all := lw_g (lw_at lw_m2 144 rfl) rfl
theorem q467 : (Jvm.Cond.methodLink "DistinctMarks" (180 : Nat) ({ cls := "DistinctMarks$Counter", name := "guess", desc := "()I" } : Jvm.MethodName)) ∈ lw_all := lw_g (lw_at lw_m2 145 rfl) rfl
theorem q494 : (Jvm.Cond.instanceMethod ({ cls := "DistinctMarks", name := "joins", desc := "(III)I" } : Jvm.MethodName)) ∈ lw_all := lw_g (lw_at lw_m2 172 rfl) rfl
theorem q495 : (Jvm.Cond.selects "DistinctMarks" ({ cls := "DistinctMarks", name := "joins", desc := "(III)I" } : Jvm.MethodName) ({ cls := "DistinctMarks", name := "joins", desc := "(III)I" } : Jvm.MethodName)) ∈ lw_all := lw_g (lw_at lw_m2 173 rfl) rfl
theorem q496 : (Jvm.Cond.code ({ cls := "DistinctMarks", name := "joins", desc := "(III)I" } : Jvm.MethodName) prog_1_method_36_code (4 : Nat) (Option.some Jvm.ClassFile.FieldType.int)) ∈ lw_all := lw_g (lw_at lw_m2 174 rfl) rfl
theorem q498 : (Jvm.Cond.instanceMethod ({ cls := "DistinctMarks", name := "gathers", desc := "(II)I" } : Jvm.MethodName)) ∈ lw_all := lw_g (lw_at lw_m2 176 rfl) rfl
theorem q499 : (Jvm.Cond.selects "DistinctMarks" ({ cls := "DistinctMarks", name := "gathers", desc := "(II)I" } : Jvm.MethodName) ({ cls := "DistinctMarks", name := "gathers", desc := "(II)I" } : Jvm.MethodName)) ∈ lw_all := lw_g (lw_at lw_m2 177 rfl) rfl
theorem q500 : (Jvm.Cond.code ({ cls := "DistinctMarks", name := "gathers", desc := "(II)I" } : Jvm.MethodName) prog_1_method_37_code (3 : Nat) (Option.some Jvm.ClassFile.FieldType.int)) ∈ lw_all := lw_g (lw_at lw_m2 178 rfl) rfl
theorem q501 : (Jvm.Cond.methodLink "DistinctMarks" (191 : Nat) ({ cls := "DistinctMarks", name := "isSet", desc := "(I)Z" } : Jvm.MethodName)) ∈ lw_all := lw_g (lw_at lw_m2 179 rfl) rfl
theorem q502 : (Jvm.Cond.static ({ cls := "DistinctMarks", name := "isSet", desc := "(I)Z" } : Jvm.MethodName)) ∈ lw_all := lw_g (lw_at lw_m2 180 rfl) rfl
theorem q503 : (Jvm.Cond.code ({ cls := "DistinctMarks", name := "isSet", desc := "(I)Z" } : Jvm.MethodName) prog_1_method_13_code (1 : Nat) (Option.some Jvm.ClassFile.FieldType.boolean)) ∈ lw_all := lw_g (lw_at lw_m2 181 rfl) rfl
theorem q504 : (Jvm.Cond.constantLong "DistinctMarks" (90 : Nat) (63 : Int64)) ∈ lw_all := lw_g (lw_at lw_m2 182 rfl) rfl
theorem q505 : (Jvm.Cond.methodLink "DistinctMarks" (194 : Nat) ({ cls := "DistinctMarks", name := "those", desc := "(I)[LDistinctMarks$Counter;" } : Jvm.MethodName)) ∈ lw_all := lw_g (lw_at lw_m2 183 rfl) rfl
theorem q506 : (Jvm.Cond.privateMethod ({ cls := "DistinctMarks", name := "those", desc := "(I)[LDistinctMarks$Counter;" } : Jvm.MethodName)) ∈ lw_tbl := lw_at lw_m2 184 rfl
theorem q507 : (Jvm.Cond.instanceMethod ({ cls := "DistinctMarks", name := "those", desc := "(I)[LDistinctMarks$Counter;" } : Jvm.MethodName)) ∈ lw_all := lw_g (lw_at lw_m2 185 rfl) rfl
theorem q508 : (Jvm.Cond.code ({ cls := "DistinctMarks", name := "those", desc := "(I)[LDistinctMarks$Counter;" } : Jvm.MethodName) prog_1_method_33_code (5 : Nat) (Option.some (Jvm.ClassFile.FieldType.array (Jvm.ClassFile.FieldType.object "DistinctMarks$Counter")))) ∈ lw_all := lw_g (lw_at lw_m2 186 rfl) rfl
theorem q509 : (Jvm.Cond.methodLink "DistinctMarks" (177 : Nat) ({ cls := "java/lang/Integer", name := "bitCount", desc := "(I)I" } : Jvm.MethodName)) ∈ lw_all := lw_g (lw_at lw_m2 187 rfl) rfl
theorem q516 : (Jvm.Cond.instanceMethod ({ cls := "DistinctMarks", name := "puts", desc := "(IIJ)I" } : Jvm.MethodName)) ∈ lw_all := lw_g (lw_at lw_m2 194 rfl) rfl
theorem q517 : (Jvm.Cond.selects "DistinctMarks" ({ cls := "DistinctMarks", name := "puts", desc := "(IIJ)I" } : Jvm.MethodName) ({ cls := "DistinctMarks", name := "puts", desc := "(IIJ)I" } : Jvm.MethodName)) ∈ lw_all := lw_g (lw_at lw_m2 195 rfl) rfl
theorem q518 : (Jvm.Cond.code ({ cls := "DistinctMarks", name := "puts", desc := "(IIJ)I" } : Jvm.MethodName) prog_1_method_39_code (9 : Nat) (Option.some Jvm.ClassFile.FieldType.int)) ∈ lw_all := lw_g (lw_at lw_m2 196 rfl) rfl
theorem q519 : (Jvm.Cond.methodLink "DistinctMarks" (200 : Nat) ({ cls := "DistinctMarks", name := "rankIn", desc := "(JI)I" } : Jvm.MethodName)) ∈ lw_all := lw_g (lw_at lw_m2 197 rfl) rfl
theorem q520 : (Jvm.Cond.static ({ cls := "DistinctMarks", name := "rankIn", desc := "(JI)I" } : Jvm.MethodName)) ∈ lw_all := lw_g (lw_at lw_m2 198 rfl) rfl
theorem q521 : (Jvm.Cond.code ({ cls := "DistinctMarks", name := "rankIn", desc := "(JI)I" } : Jvm.MethodName) prog_1_method_38_code (3 : Nat) (Option.some Jvm.ClassFile.FieldType.int)) ∈ lw_all := lw_g (lw_at lw_m2 199 rfl) rfl
theorem q522 : (Jvm.Cond.constantLong "DistinctMarks" (198 : Nat) (31 : Int64)) ∈ lw_all := lw_g (lw_at lw_m2 200 rfl) rfl
theorem q524 : (Jvm.Cond.instanceMethod ({ cls := "DistinctMarks", name := "swaps", desc := "(II)I" } : Jvm.MethodName)) ∈ lw_all := lw_g (lw_at lw_m2 202 rfl) rfl
theorem q525 : (Jvm.Cond.selects "DistinctMarks" ({ cls := "DistinctMarks", name := "swaps", desc := "(II)I" } : Jvm.MethodName) ({ cls := "DistinctMarks", name := "swaps", desc := "(II)I" } : Jvm.MethodName)) ∈ lw_all := lw_g (lw_at lw_m2 203 rfl) rfl
theorem q526 : (Jvm.Cond.code ({ cls := "DistinctMarks", name := "swaps", desc := "(II)I" } : Jvm.MethodName) prog_1_method_40_code (4 : Nat) (Option.some Jvm.ClassFile.FieldType.int)) ∈ lw_all := lw_g (lw_at lw_m2 204 rfl) rfl
theorem q528 : (Jvm.Cond.instanceMethod ({ cls := "DistinctMarks", name := "keeps", desc := "(III)I" } : Jvm.MethodName)) ∈ lw_all := lw_g (lw_at lw_m2 206 rfl) rfl
theorem q529 : (Jvm.Cond.selects "DistinctMarks" ({ cls := "DistinctMarks", name := "keeps", desc := "(III)I" } : Jvm.MethodName) ({ cls := "DistinctMarks", name := "keeps", desc := "(III)I" } : Jvm.MethodName)) ∈ lw_all := lw_g (lw_at lw_m2 207 rfl) rfl
theorem q530 : (Jvm.Cond.code ({ cls := "DistinctMarks", name := "keeps", desc := "(III)I" } : Jvm.MethodName) prog_1_method_42_code (6 : Nat) (Option.some Jvm.ClassFile.FieldType.int)) ∈ lw_all := lw_g (lw_at lw_m2 208 rfl) rfl
theorem q531 : (Jvm.Cond.static ({ cls := "DistinctMarks", name := "lambda$keeps$0", desc := "(LDistinctMarks$Counter;I)Z" } : Jvm.MethodName)) ∈ lw_all := lw_g (lw_at lw_m2 209 rfl) rfl
theorem q532 : (Jvm.Cond.code ({ cls := "DistinctMarks", name := "lambda$keeps$0", desc := "(LDistinctMarks$Counter;I)Z" } : Jvm.MethodName) prog_1_method_112_code (2 : Nat) (Option.some Jvm.ClassFile.FieldType.boolean)) ∈ lw_all := lw_g (lw_at lw_m2 210 rfl) rfl
theorem q533 : (Jvm.Cond.methodLink "DistinctMarks" (408 : Nat) ({ cls := "DistinctMarks$Counter", name := "find", desc := "(I)I" } : Jvm.MethodName)) ∈ lw_all := lw_g (lw_at lw_m2 211 rfl) rfl
theorem q534 : (Jvm.Cond.methodLink "DistinctMarks" (222 : Nat) ({ cls := "DistinctMarks", name := "picked", desc := "(LDistinctMarks$Counter;IILDistinctMarks$Wanted;)LDistinctMarks$Counter;" } : Jvm.MethodName)) ∈ lw_all := lw_g (lw_at lw_m2 212 rfl) rfl
theorem q535 : (Jvm.Cond.privateMethod ({ cls := "DistinctMarks", name := "picked", desc := "(LDistinctMarks$Counter;IILDistinctMarks$Wanted;)LDistinctMarks$Counter;" } : Jvm.MethodName)) ∈ lw_tbl := lw_at lw_m2 213 rfl
theorem q536 : (Jvm.Cond.instanceMethod ({ cls := "DistinctMarks", name := "picked", desc := "(LDistinctMarks$Counter;IILDistinctMarks$Wanted;)LDistinctMarks$Counter;" } : Jvm.MethodName)) ∈ lw_all := lw_g (lw_at lw_m2 214 rfl) rfl
theorem q537 : (Jvm.Cond.code ({ cls := "DistinctMarks", name := "picked", desc := "(LDistinctMarks$Counter;IILDistinctMarks$Wanted;)LDistinctMarks$Counter;" } : Jvm.MethodName) prog_1_method_41_code (7 : Nat) (Option.some (Jvm.ClassFile.FieldType.object "DistinctMarks$Counter"))) ∈ lw_all := lw_g (lw_at lw_m2 215 rfl) rfl
theorem q538 : (Jvm.Cond.interfaceEntry "DistinctMarks" (214 : Nat)) ∈ lw_tbl := lw_at lw_m2 216 rfl
theorem q539 : (Jvm.Cond.methodLink "DistinctMarks" (214 : Nat) ({ cls := "DistinctMarks$Wanted", name := "is", desc := "(I)Z" } : Jvm.MethodName)) ∈ lw_all := lw_g (lw_at lw_m2 217 rfl) rfl
theorem q543 : (Jvm.Cond.instanceMethod ({ cls := "DistinctMarks", name := "less", desc := "(III)I" } : Jvm.MethodName)) ∈ lw_all := lw_g (lw_at lw_m2 221 rfl) rfl
theorem q544 : (Jvm.Cond.selects "DistinctMarks" ({ cls := "DistinctMarks", name := "less", desc := "(III)I" } : Jvm.MethodName) ({ cls := "DistinctMarks", name := "less", desc := "(III)I" } : Jvm.MethodName)) ∈ lw_all := lw_g (lw_at lw_m2 222 rfl) rfl
theorem q545 : (Jvm.Cond.code ({ cls := "DistinctMarks", name := "less", desc := "(III)I" } : Jvm.MethodName) prog_1_method_43_code (6 : Nat) (Option.some Jvm.ClassFile.FieldType.int)) ∈ lw_all := lw_g (lw_at lw_m2 223 rfl) rfl
theorem q546 : (Jvm.Cond.static ({ cls := "DistinctMarks", name := "lambda$less$1", desc := "(LDistinctMarks$Counter;I)Z" } : Jvm.MethodName)) ∈ lw_all := lw_g (lw_at lw_m2 224 rfl) rfl
theorem q547 : (Jvm.Cond.code ({ cls := "DistinctMarks", name := "lambda$less$1", desc := "(LDistinctMarks$Counter;I)Z" } : Jvm.MethodName) prog_1_method_111_code (2 : Nat) (Option.some Jvm.ClassFile.FieldType.boolean)) ∈ lw_all := lw_g (lw_at lw_m2 225 rfl) rfl
theorem q549 : (Jvm.Cond.instanceMethod ({ cls := "DistinctMarks", name := "splits", desc := "(III)I" } : Jvm.MethodName)) ∈ lw_all := lw_g (lw_at lw_m2 227 rfl) rfl
theorem q550 : (Jvm.Cond.selects "DistinctMarks" ({ cls := "DistinctMarks", name := "splits", desc := "(III)I" } : Jvm.MethodName) ({ cls := "DistinctMarks", name := "splits", desc := "(III)I" } : Jvm.MethodName)) ∈ lw_all := lw_g (lw_at lw_m2 228 rfl) rfl
theorem q551 : (Jvm.Cond.code ({ cls := "DistinctMarks", name := "splits", desc := "(III)I" } : Jvm.MethodName) prog_1_method_44_code (6 : Nat) (Option.some Jvm.ClassFile.FieldType.int)) ∈ lw_all := lw_g (lw_at lw_m2 229 rfl) rfl
theorem q552 : (Jvm.Cond.static ({ cls := "DistinctMarks", name := "lambda$splits$2", desc := "(I)Z" } : Jvm.MethodName)) ∈ lw_all := lw_g (lw_at lw_m2 230 rfl) rfl
theorem q553 : (Jvm.Cond.code ({ cls := "DistinctMarks", name := "lambda$splits$2", desc := "(I)Z" } : Jvm.MethodName) prog_1_method_110_code (1 : Nat) (Option.some Jvm.ClassFile.FieldType.boolean)) ∈ lw_all := lw_g (lw_at lw_m2 231 rfl) rfl
theorem q554 : (Jvm.Cond.static ({ cls := "DistinctMarks", name := "lambda$splits$3", desc := "(I)Z" } : Jvm.MethodName)) ∈ lw_all := lw_g (lw_at lw_m2 232 rfl) rfl
theorem q555 : (Jvm.Cond.code ({ cls := "DistinctMarks", name := "lambda$splits$3", desc := "(I)Z" } : Jvm.MethodName) prog_1_method_109_code (1 : Nat) (Option.some Jvm.ClassFile.FieldType.boolean)) ∈ lw_all := lw_g (lw_at lw_m2 233 rfl) rfl
theorem q557 : (Jvm.Cond.instanceMethod ({ cls := "DistinctMarks", name := "guess", desc := "(I)I" } : Jvm.MethodName)) ∈ lw_all := lw_g (lw_at lw_m2 235 rfl) rfl
theorem q558 : (Jvm.Cond.selects "DistinctMarks" ({ cls := "DistinctMarks", name := "guess", desc := "(I)I" } : Jvm.MethodName) ({ cls := "DistinctMarks", name := "guess", desc := "(I)I" } : Jvm.MethodName)) ∈ lw_all := lw_g (lw_at lw_m2 236 rfl) rfl
theorem q559 : (Jvm.Cond.code ({ cls := "DistinctMarks", name := "guess", desc := "(I)I" } : Jvm.MethodName) prog_1_method_45_code (2 : Nat) (Option.some Jvm.ClassFile.FieldType.int)) ∈ lw_all := lw_g (lw_at lw_m2 237 rfl) rfl
theorem q560 : (Jvm.Cond.methodLink "DistinctMarks" (231 : Nat) ({ cls := "DistinctMarks$Counter", name := "how", desc := "()I" } : Jvm.MethodName)) ∈ lw_all := lw_g (lw_at lw_m2 238 rfl) rfl
theorem q565 : (Jvm.Cond.instanceMethod ({ cls := "DistinctMarks", name := "roughly", desc := "(I)I" } : Jvm.MethodName)) ∈ lw_all := lw_g (lw_at lw_m3 3 rfl) rfl
theorem q566 : (Jvm.Cond.selects "DistinctMarks" ({ cls := "DistinctMarks", name := "roughly", desc := "(I)I" } : Jvm.MethodName) ({ cls := "DistinctMarks", name := "roughly", desc := "(I)I" } : Jvm.MethodName)) ∈ lw_all := lw_g (lw_at lw_m3 4 rfl) rfl
theorem q567 : (Jvm.Cond.code ({ cls := "DistinctMarks", name := "roughly", desc := "(I)I" } : Jvm.MethodName) prog_1_method_46_code (2 : Nat) (Option.some Jvm.ClassFile.FieldType.int)) ∈ lw_all := lw_g (lw_at lw_m3 5 rfl) rfl
theorem q568 : (Jvm.Cond.methodLink "DistinctMarks" (234 : Nat) ({ cls := "DistinctMarks$Counter", name := "roughly", desc := "()I" } : Jvm.MethodName)) ∈ lw_all := lw_g (lw_at lw_m3 6 rfl) rfl
theorem q570 : (Jvm.Cond.instanceMethod ({ cls := "DistinctMarks", name := "form", desc := "(II)I" } : Jvm.MethodName)) ∈ lw_all := lw_g (lw_at lw_m3 8 rfl) rfl
theorem q571 : (Jvm.Cond.selects "DistinctMarks" ({ cls := "DistinctMarks", name := "form", desc := "(II)I" } : Jvm.MethodName) ({ cls := "DistinctMarks", name := "form", desc := "(II)I" } : Jvm.MethodName)) ∈ lw_all := lw_g (lw_at lw_m3 9 rfl) rfl
theorem q572 : (Jvm.Cond.code ({ cls := "DistinctMarks", name := "form", desc := "(II)I" } : Jvm.MethodName) prog_1_method_47_code (4 : Nat) (Option.some Jvm.ClassFile.FieldType.int)) ∈ lw_all := lw_g (lw_at lw_m3 10 rfl) rfl
theorem q573 : (Jvm.Cond.methodLink "DistinctMarks" (237 : Nat) ({ cls := "DistinctMarks$Counter", name := "greatest", desc := "()I" } : Jvm.MethodName)) ∈ lw_all := lw_g (lw_at lw_m3 11 rfl) rfl
theorem q581 : (Jvm.Cond.instanceMethod ({ cls := "DistinctMarks", name := "rank", desc := "(II)I" } : Jvm.MethodName)) ∈ lw_all := lw_g (lw_at lw_m3 19 rfl) rfl
theorem q582 : (Jvm.Cond.selects "DistinctMarks" ({ cls := "DistinctMarks", name := "rank", desc := "(II)I" } : Jvm.MethodName) ({ cls := "DistinctMarks", name := "rank", desc := "(II)I" } : Jvm.MethodName)) ∈ lw_all := lw_g (lw_at lw_m3 20 rfl) rfl
theorem q583 : (Jvm.Cond.code ({ cls := "DistinctMarks", name := "rank", desc := "(II)I" } : Jvm.MethodName) prog_1_method_49_code (3 : Nat) (Option.some Jvm.ClassFile.FieldType.int)) ∈ lw_all := lw_g (lw_at lw_m3 21 rfl) rfl
theorem q584 : (Jvm.Cond.methodLink "DistinctMarks" (240 : Nat) ({ cls := "DistinctMarks", name := "isPlace", desc := "(II)Z" } : Jvm.MethodName)) ∈ lw_all := lw_g (lw_at lw_m3 22 rfl) rfl
theorem q585 : (Jvm.Cond.privateMethod ({ cls := "DistinctMarks", name := "isPlace", desc := "(II)Z" } : Jvm.MethodName)) ∈ lw_tbl := lw_at lw_m3 23 rfl
theorem q586 : (Jvm.Cond.instanceMethod ({ cls := "DistinctMarks", name := "isPlace", desc := "(II)Z" } : Jvm.MethodName)) ∈ lw_all := lw_g (lw_at lw_m3 24 rfl) rfl
theorem q587 : (Jvm.Cond.code ({ cls := "DistinctMarks", name := "isPlace", desc := "(II)Z" } : Jvm.MethodName) prog_1_method_48_code (3 : Nat) (Option.some Jvm.ClassFile.FieldType.boolean)) ∈ lw_all := lw_g (lw_at lw_m3 25 rfl) rfl
theorem q589 : (Jvm.Cond.instanceMethod ({ cls := "DistinctMarks", name := "ranks", desc := "(II)I" } : Jvm.MethodName)) ∈ lw_all := lw_g (lw_at lw_m3 27 rfl) rfl
theorem q590 : (Jvm.Cond.selects "DistinctMarks" ({ cls := "DistinctMarks", name := "ranks", desc := "(II)I" } : Jvm.MethodName) ({ cls := "DistinctMarks", name := "ranks", desc := "(II)I" } : Jvm.MethodName)) ∈ lw_all := lw_g (lw_at lw_m3 28 rfl) rfl
theorem q591 : (Jvm.Cond.code ({ cls := "DistinctMarks", name := "ranks", desc := "(II)I" } : Jvm.MethodName) prog_1_method_50_code (7 : Nat) (Option.some Jvm.ClassFile.FieldType.int)) ∈ lw_all := lw_g (lw_at lw_m3 29 rfl) rfl
theorem q592 : (Jvm.Cond.constantLong "DistinctMarks" (244 : Nat) (29 : Int64)) ∈ lw_all := lw_g (lw_at lw_m3 30 rfl) rfl
theorem q594 : (Jvm.Cond.instanceMethod ({ cls := "DistinctMarks", name := "marked", desc := "(II)J" } : Jvm.MethodName)) ∈ lw_all := lw_g (lw_at lw_m3 32 rfl) rfl
theorem q595 : (Jvm.Cond.selects "DistinctMarks" ({ cls := "DistinctMarks", name := "marked", desc := "(II)J" } : Jvm.MethodName) ({ cls := "DistinctMarks", name := "marked", desc := "(II)J" } : Jvm.MethodName)) ∈ lw_all := lw_g (lw_at lw_m3 33 rfl) rfl
theorem q596 : (Jvm.Cond.code ({ cls := "DistinctMarks", name := "marked", desc := "(II)J" } : Jvm.MethodName) prog_1_method_51_code (3 : Nat) (Option.some Jvm.ClassFile.FieldType.long)) ∈ lw_all := lw_g (lw_at lw_m3 34 rfl) rfl
theorem q597 : (Jvm.Cond.constantLong "DistinctMarks" (246 : Nat) (-1 : Int64)) ∈ lw_all := lw_g (lw_at lw_m3 35 rfl) rfl
theorem q598 : (Jvm.Cond.constantLong "DistinctMarks" (248 : Nat) (-2 : Int64)) ∈ lw_all := lw_g (lw_at lw_m3 36 rfl) rfl
theorem q599 : (Jvm.Cond.methodLink "DistinctMarks" (250 : Nat) ({ cls := "java/lang/Integer", name := "toUnsignedLong", desc := "(I)J" } : Jvm.MethodName)) ∈ lw_all := lw_g (lw_at lw_m3 37 rfl) rfl
theorem q604 : (Jvm.Cond.instanceMethod ({ cls := "DistinctMarks", name := "may", desc := "(II)I" } : Jvm.MethodName)) ∈ lw_all := lw_g (lw_at lw_m3 42 rfl) rfl
theorem q605 : (Jvm.Cond.selects "DistinctMarks" ({ cls := "DistinctMarks", name := "may", desc := "(II)I" } : Jvm.MethodName) ({ cls := "DistinctMarks", name := "may", desc := "(II)I" } : Jvm.MethodName)) ∈ lw_all := lw_g (lw_at lw_m3 43 rfl) rfl
theorem q606 : (Jvm.Cond.code ({ cls := "DistinctMarks", name := "may", desc := "(II)I" } : Jvm.MethodName) prog_1_method_52_code (3 : Nat) (Option.some Jvm.ClassFile.FieldType.int)) ∈ lw_all := lw_g (lw_at lw_m3 44 rfl) rfl
theorem q608 : (Jvm.Cond.instanceMethod ({ cls := "DistinctMarks", name := "first", desc := "(IIII)I" } : Jvm.MethodName)) ∈ lw_all := lw_g (lw_at lw_m3 46 rfl) rfl
theorem q609 : (Jvm.Cond.selects "DistinctMarks" ({ cls := "DistinctMarks", name := "first", desc := "(IIII)I" } : Jvm.MethodName) ({ cls := "DistinctMarks", name := "first", desc := "(IIII)I" } : Jvm.MethodName)) ∈ lw_all := lw_g (lw_at lw_m3 47 rfl) rfl
theorem q610 : (Jvm.Cond.code ({ cls := "DistinctMarks", name := "first", desc := "(IIII)I" } : Jvm.MethodName) prog_1_method_53_code (6 : Nat) (Option.some Jvm.ClassFile.FieldType.int)) ∈ lw_all := lw_g (lw_at lw_m3 48 rfl) rfl
theorem q612 : (Jvm.Cond.instanceMethod ({ cls := "DistinctMarks", name := "bits", desc := "(II)J" } : Jvm.MethodName)) ∈ lw_all := lw_g (lw_at lw_m3 50 rfl) rfl
theorem q613 : (Jvm.Cond.selects "DistinctMarks" ({ cls := "DistinctMarks", name := "bits", desc := "(II)J" } : Jvm.MethodName) ({ cls := "DistinctMarks", name := "bits", desc := "(II)J" } : Jvm.MethodName)) ∈ lw_all := lw_g (lw_at lw_m3 51 rfl) rfl
theorem q614 : (Jvm.Cond.code ({ cls := "DistinctMarks", name := "bits", desc := "(II)J" } : Jvm.MethodName) prog_1_method_54_code (6 : Nat) (Option.some Jvm.ClassFile.FieldType.long)) ∈ lw_all := lw_g (lw_at lw_m3 52 rfl) rfl
theorem q616 : (Jvm.Cond.instanceMethod ({ cls := "DistinctMarks", name := "slice", desc := "(III)J" } : Jvm.MethodName)) ∈ lw_all := lw_g (lw_at lw_m3 54 rfl) rfl
theorem q617 : (Jvm.Cond.selects "DistinctMarks" ({ cls := "DistinctMarks", name := "slice", desc := "(III)J" } : Jvm.MethodName) ({ cls := "DistinctMarks", name := "slice", desc := "(III)J" } : Jvm.MethodName)) ∈ lw_all := lw_g (lw_at lw_m3 55 rfl) rfl
theorem q618 : (Jvm.Cond.code ({ cls := "DistinctMarks", name := "slice", desc := "(III)J" } : Jvm.MethodName) prog_1_method_55_code (5 : Nat) (Option.some Jvm.ClassFile.FieldType.long)) ∈ lw_all := lw_g (lw_at lw_m3 56 rfl) rfl
theorem q619 : (Jvm.Cond.static ({ cls := "DistinctMarks", name := "lambda$slice$4", desc := "([JIIII)V" } : Jvm.MethodName)) ∈ lw_all := lw_g (lw_at lw_m3 57 rfl) rfl
theorem q620 : (Jvm.Cond.code ({ cls := "DistinctMarks", name := "lambda$slice$4", desc := "([JIIII)V" } : Jvm.MethodName) prog_1_method_108_code (5 : Nat) (Option.none : Option Jvm.ClassFile.FieldType)) ∈ lw_all := lw_g (lw_at lw_m3 58 rfl) rfl
theorem q621 : (Jvm.Cond.methodLink "DistinctMarks" (257 : Nat) ({ cls := "DistinctMarks$Counter", name := "each", desc := "(LDistinctMarks$Ranked;)V" } : Jvm.MethodName)) ∈ lw_all := lw_g (lw_at lw_m3 59 rfl) rfl
theorem q623 : (Jvm.Cond.instanceMethod ({ cls := "DistinctMarks", name := "runsOf", desc := "(I)I" } : Jvm.MethodName)) ∈ lw_all := lw_g (lw_at lw_m3 61 rfl) rfl
theorem q624 : (Jvm.Cond.selects "DistinctMarks" ({ cls := "DistinctMarks", name := "runsOf", desc := "(I)I" } : Jvm.MethodName) ({ cls := "DistinctMarks", name := "runsOf", desc := "(I)I" } : Jvm.MethodName)) ∈ lw_all := lw_g (lw_at lw_m3 62 rfl) rfl
theorem q625 : (Jvm.Cond.code ({ cls := "DistinctMarks", name := "runsOf", desc := "(I)I" } : Jvm.MethodName) prog_1_method_56_code (8 : Nat) (Option.some Jvm.ClassFile.FieldType.int)) ∈ lw_all := lw_g (lw_at lw_m3 63 rfl) rfl
theorem q627 : (Jvm.Cond.instanceMethod ({ cls := "DistinctMarks", name := "gap", desc := "(I)I" } : Jvm.MethodName)) ∈ lw_all := lw_g (lw_at lw_m3 65 rfl) rfl
theorem q628 : (Jvm.Cond.selects "DistinctMarks" ({ cls := "DistinctMarks", name := "gap", desc := "(I)I" } : Jvm.MethodName) ({ cls := "DistinctMarks", name := "gap", desc := "(I)I" } : Jvm.MethodName)) ∈ lw_all := lw_g (lw_at lw_m3 66 rfl) rfl
theorem q629 : (Jvm.Cond.code ({ cls := "DistinctMarks", name := "gap", desc := "(I)I" } : Jvm.MethodName) prog_1_method_57_code (7 : Nat) (Option.some Jvm.ClassFile.FieldType.int)) ∈ lw_all := lw_g (lw_at lw_m3 67 rfl) rfl
theorem q631 : (Jvm.Cond.instanceMethod ({ cls := "DistinctMarks", name := "table", desc := "(II)I" } : Jvm.MethodName)) ∈ lw_all := lw_g (lw_at lw_m3 69 rfl) rfl
theorem q632 : (Jvm.Cond.selects "DistinctMarks" ({ cls := "DistinctMarks", name := "table", desc := "(II)I" } : Jvm.MethodName) ({ cls := "DistinctMarks", name := "table", desc := "(II)I" } : Jvm.MethodName)) ∈ lw_all := lw_g (lw_at lw_m3 70 rfl) rfl
theorem q633 : (Jvm.Cond.code ({ cls := "DistinctMarks", name := "table", desc := "(II)I" } : Jvm.MethodName) prog_1_method_58_code (3 : Nat) (Option.some Jvm.ClassFile.FieldType.int)) ∈ lw_all := lw_g (lw_at lw_m3 71 rfl) rfl
theorem q635 : (Jvm.Cond.instanceMethod ({ cls := "DistinctMarks", name := "all", desc := "(I)J" } : Jvm.MethodName)) ∈ lw_all := lw_g (lw_at lw_m3 73 rfl) rfl
theorem q636 : (Jvm.Cond.selects "DistinctMarks" ({ cls := "DistinctMarks", name := "all", desc := "(I)J" } : Jvm.MethodName) ({ cls := "DistinctMarks", name := "all", desc := "(I)J" } : Jvm.MethodName)) ∈ lw_all := lw_g (lw_at lw_m3 74 rfl) rfl
theorem q637 : (Jvm.Cond.code ({ cls := "DistinctMarks", name := "all", desc := "(I)J" } : Jvm.MethodName) prog_1_method_59_code (2 : Nat) (Option.some Jvm.ClassFile.FieldType.long)) ∈ lw_all := lw_g (lw_at lw_m3 75 rfl) rfl
theorem q638 : (Jvm.Cond.methodLink "DistinctMarks" (261 : Nat) ({ cls := "DistinctMarks$Counter", name := "all", desc := "()J" } : Jvm.MethodName)) ∈ lw_all := lw_g (lw_at lw_m3 76 rfl) rfl
theorem q640 : (Jvm.Cond.instanceMethod ({ cls := "DistinctMarks", name := "lacks", desc := "(II)I" } : Jvm.MethodName)) ∈ lw_all := lw_g (lw_at lw_m3 78 rfl) rfl
theorem q641 : (Jvm.Cond.selects "DistinctMarks" ({ cls := "DistinctMarks", name := "lacks", desc := "(II)I" } : Jvm.MethodName) ({ cls := "DistinctMarks", name := "lacks", desc := "(II)I" } : Jvm.MethodName)) ∈ lw_all := lw_g (lw_at lw_m3 79 rfl) rfl
theorem q642 : (Jvm.Cond.code ({ cls := "DistinctMarks", name := "lacks", desc := "(II)I" } : Jvm.MethodName) prog_1_method_60_code (8 : Nat) (Option.some Jvm.ClassFile.FieldType.int)) ∈ lw_all := lw_g (lw_at lw_m3 80 rfl) rfl
theorem q643 : (Jvm.Cond.methodLink "DistinctMarks" (265 : Nat) ({ cls := "DistinctMarks$Counter", name := "guessBy", desc := "(IJ)I" } : Jvm.MethodName)) ∈ lw_all := lw_g (lw_at lw_m3 81 rfl) rfl
theorem q645 : (Jvm.Cond.instanceMethod ({ cls := "DistinctMarks", name := "common", desc := "(II)J" } : Jvm.MethodName)) ∈ lw_all := lw_g (lw_at lw_m3 83 rfl) rfl
theorem q646 : (Jvm.Cond.selects "DistinctMarks" ({ cls := "DistinctMarks", name := "common", desc := "(II)J" } : Jvm.MethodName) ({ cls := "DistinctMarks", name := "common", desc := "(II)J" } : Jvm.MethodName)) ∈ lw_all := lw_g (lw_at lw_m3 84 rfl) rfl
theorem q647 : (Jvm.Cond.code ({ cls := "DistinctMarks", name := "common", desc := "(II)J" } : Jvm.MethodName) prog_1_method_63_code (3 : Nat) (Option.some Jvm.ClassFile.FieldType.long)) ∈ lw_all := lw_g (lw_at lw_m3 85 rfl) rfl
theorem q648 : (Jvm.Cond.methodLink "DistinctMarks" (269 : Nat) ({ cls := "DistinctMarks", name := "guessOf", desc := "([LDistinctMarks$Counter;)I" } : Jvm.MethodName)) ∈ lw_all := lw_g (lw_at lw_m3 86 rfl) rfl
theorem q649 : (Jvm.Cond.privateMethod ({ cls := "DistinctMarks", name := "guessOf", desc := "([LDistinctMarks$Counter;)I" } : Jvm.MethodName)) ∈ lw_tbl := lw_at lw_m3 87 rfl
theorem q650 : (Jvm.Cond.instanceMethod ({ cls := "DistinctMarks", name := "guessOf", desc := "([LDistinctMarks$Counter;)I" } : Jvm.MethodName)) ∈ lw_all := lw_g (lw_at lw_m3 88 rfl) rfl
theorem q651 : (Jvm.Cond.code ({ cls := "DistinctMarks", name := "guessOf", desc := "([LDistinctMarks$Counter;)I" } : Jvm.MethodName) prog_1_method_61_code (2 : Nat) (Option.some Jvm.ClassFile.FieldType.int)) ∈ lw_all := lw_g (lw_at lw_m3 89 rfl) rfl
theorem q652 : (Jvm.Cond.methodLink "DistinctMarks" (277 : Nat) ({ cls := "DistinctMarks", name := "commonOf", desc := "(II)J" } : Jvm.MethodName)) ∈ lw_all := lw_g (lw_at lw_m3 90 rfl) rfl
theorem q653 : (Jvm.Cond.privateMethod ({ cls := "DistinctMarks", name := "commonOf", desc := "(II)J" } : Jvm.MethodName)) ∈ lw_tbl := lw_at lw_m3 91 rfl
theorem q654 : (Jvm.Cond.instanceMethod ({ cls := "DistinctMarks", name := "commonOf", desc := "(II)J" } : Jvm.MethodName)) ∈ lw_all := lw_g (lw_at lw_m3 92 rfl) rfl
theorem q655 : (Jvm.Cond.code ({ cls := "DistinctMarks", name := "commonOf", desc := "(II)J" } : Jvm.MethodName) prog_1_method_62_code (3 : Nat) (Option.some Jvm.ClassFile.FieldType.long)) ∈ lw_all := lw_g (lw_at lw_m3 93 rfl) rfl
theorem q656 : (Jvm.Cond.methodLink "DistinctMarks" (273 : Nat) ({ cls := "java/lang/Math", name := "max", desc := "(JJ)J" } : Jvm.MethodName)) ∈ lw_all := lw_g (lw_at lw_m3 94 rfl) rfl
theorem q660 : (Jvm.Cond.instanceMethod ({ cls := "DistinctMarks", name := "alone", desc := "(II)J" } : Jvm.MethodName)) ∈ lw_all := lw_g (lw_at lw_m3 98 rfl) rfl
theorem q661 : (Jvm.Cond.selects "DistinctMarks" ({ cls := "DistinctMarks", name := "alone", desc := "(II)J" } : Jvm.MethodName) ({ cls := "DistinctMarks", name := "alone", desc := "(II)J" } : Jvm.MethodName)) ∈ lw_all := lw_g (lw_at lw_m3 99 rfl) rfl
theorem q662 : (Jvm.Cond.code ({ cls := "DistinctMarks", name := "alone", desc := "(II)J" } : Jvm.MethodName) prog_1_method_64_code (3 : Nat) (Option.some Jvm.ClassFile.FieldType.long)) ∈ lw_all := lw_g (lw_at lw_m3 100 rfl) rfl
theorem q664 : (Jvm.Cond.instanceMethod ({ cls := "DistinctMarks", name := "alike", desc := "(II)I" } : Jvm.MethodName)) ∈ lw_all := lw_g (lw_at lw_m3 102 rfl) rfl
theorem q665 : (Jvm.Cond.selects "DistinctMarks" ({ cls := "DistinctMarks", name := "alike", desc := "(II)I" } : Jvm.MethodName) ({ cls := "DistinctMarks", name := "alike", desc := "(II)I" } : Jvm.MethodName)) ∈ lw_all := lw_g (lw_at lw_m3 103 rfl) rfl
theorem q666 : (Jvm.Cond.code ({ cls := "DistinctMarks", name := "alike", desc := "(II)I" } : Jvm.MethodName) prog_1_method_66_code (3 : Nat) (Option.some Jvm.ClassFile.FieldType.int)) ∈ lw_all := lw_g (lw_at lw_m3 104 rfl) rfl
theorem q667 : (Jvm.Cond.methodLink "DistinctMarks" (283 : Nat) ({ cls := "DistinctMarks", name := "alikeOf", desc := "(II)I" } : Jvm.MethodName)) ∈ lw_all := lw_g (lw_at lw_m3 105 rfl) rfl
theorem q668 : (Jvm.Cond.privateMethod ({ cls := "DistinctMarks", name := "alikeOf", desc := "(II)I" } : Jvm.MethodName)) ∈ lw_tbl := lw_at lw_m3 106 rfl
theorem q669 : (Jvm.Cond.instanceMethod ({ cls := "DistinctMarks", name := "alikeOf", desc := "(II)I" } : Jvm.MethodName)) ∈ lw_all := lw_g (lw_at lw_m3 107 rfl) rfl
theorem q670 : (Jvm.Cond.code ({ cls := "DistinctMarks", name := "alikeOf", desc := "(II)I" } : Jvm.MethodName) prog_1_method_65_code (4 : Nat) (Option.some Jvm.ClassFile.FieldType.int)) ∈ lw_all := lw_g (lw_at lw_m3 108 rfl) rfl
theorem q671 : (Jvm.Cond.methodLink "DistinctMarks" (281 : Nat) ({ cls := "java/lang/Math", name := "min", desc := "(JJ)J" } : Jvm.MethodName)) ∈ lw_all := lw_g (lw_at lw_m3 109 rfl) rfl
theorem q673 : (Jvm.Cond.instanceMethod ({ cls := "DistinctMarks", name := "nearest", desc := "(I)I" } : Jvm.MethodName)) ∈ lw_all := lw_g (lw_at lw_m3 111 rfl) rfl
theorem q674 : (Jvm.Cond.selects "DistinctMarks" ({ cls := "DistinctMarks", name := "nearest", desc := "(I)I" } : Jvm.MethodName) ({ cls := "DistinctMarks", name := "nearest", desc := "(I)I" } : Jvm.MethodName)) ∈ lw_all := lw_g (lw_at lw_m3 112 rfl) rfl
theorem q675 : (Jvm.Cond.code ({ cls := "DistinctMarks", name := "nearest", desc := "(I)I" } : Jvm.MethodName) prog_1_method_67_code (6 : Nat) (Option.some Jvm.ClassFile.FieldType.int)) ∈ lw_all := lw_g (lw_at lw_m3 113 rfl) rfl
theorem q677 : (Jvm.Cond.instanceMethod ({ cls := "DistinctMarks", name := "meet", desc := "(I)J" } : Jvm.MethodName)) ∈ lw_all := lw_g (lw_at lw_m3 115 rfl) rfl
theorem q678 : (Jvm.Cond.selects "DistinctMarks" ({ cls := "DistinctMarks", name := "meet", desc := "(I)J" } : Jvm.MethodName) ({ cls := "DistinctMarks", name := "meet", desc := "(I)J" } : Jvm.MethodName)) ∈ lw_all := lw_g (lw_at lw_m3 116 rfl) rfl
theorem q679 : (Jvm.Cond.code ({ cls := "DistinctMarks", name := "meet", desc := "(I)J" } : Jvm.MethodName) prog_1_method_69_code (3 : Nat) (Option.some Jvm.ClassFile.FieldType.long)) ∈ lw_all := lw_g (lw_at lw_m3 117 rfl) rfl
theorem q680 : (Jvm.Cond.privateMethod ({ cls := "DistinctMarks", name := "lambda$meet$5", desc := "([JI)V" } : Jvm.MethodName)) ∈ lw_tbl := lw_at lw_m3 118 rfl
theorem q681 : (Jvm.Cond.instanceMethod ({ cls := "DistinctMarks", name := "lambda$meet$5", desc := "([JI)V" } : Jvm.MethodName)) ∈ lw_all := lw_g (lw_at lw_m3 119 rfl) rfl
theorem q682 : (Jvm.Cond.code ({ cls := "DistinctMarks", name := "lambda$meet$5", desc := "([JI)V" } : Jvm.MethodName) prog_1_method_107_code (4 : Nat) (Option.none : Option Jvm.ClassFile.FieldType)) ∈ lw_all := lw_g (lw_at lw_m3 120 rfl) rfl
theorem q683 : (Jvm.Cond.methodLink "DistinctMarks" (294 : Nat) ({ cls := "DistinctMarks", name := "eachPart", desc := "(ILDistinctMarks$Parted;)V" } : Jvm.MethodName)) ∈ lw_all := lw_g (lw_at lw_m3 121 rfl) rfl
theorem q684 : (Jvm.Cond.static ({ cls := "DistinctMarks", name := "eachPart", desc := "(ILDistinctMarks$Parted;)V" } : Jvm.MethodName)) ∈ lw_all := lw_g (lw_at lw_m3 122 rfl) rfl
theorem q685 : (Jvm.Cond.code ({ cls := "DistinctMarks", name := "eachPart", desc := "(ILDistinctMarks$Parted;)V" } : Jvm.MethodName) prog_1_method_68_code (3 : Nat) (Option.none : Option Jvm.ClassFile.FieldType)) ∈ lw_all := lw_g (lw_at lw_m3 123 rfl) rfl
theorem q686 : (Jvm.Cond.interfaceEntry "DistinctMarks" (286 : Nat)) ∈ lw_tbl := lw_at lw_m3 124 rfl
theorem q687 : (Jvm.Cond.methodLink "DistinctMarks" (286 : Nat) ({ cls := "DistinctMarks$Parted", name := "with", desc := "(I)V" } : Jvm.MethodName)) ∈ lw_all := lw_g (lw_at lw_m3 125 rfl) rfl
theorem q691 : (Jvm.Cond.instanceMethod ({ cls := "DistinctMarks", name := "unlike", desc := "(II)I" } : Jvm.MethodName)) ∈ lw_all := lw_g (lw_at lw_m3 129 rfl) rfl
theorem q692 : (Jvm.Cond.selects "DistinctMarks" ({ cls := "DistinctMarks", name := "unlike", desc := "(II)I" } : Jvm.MethodName) ({ cls := "DistinctMarks", name := "unlike", desc := "(II)I" } : Jvm.MethodName)) ∈ lw_all := lw_g (lw_at lw_m3 130 rfl) rfl
theorem q693 : (Jvm.Cond.code ({ cls := "DistinctMarks", name := "unlike", desc := "(II)I" } : Jvm.MethodName) prog_1_method_71_code (8 : Nat) (Option.some Jvm.ClassFile.FieldType.int)) ∈ lw_all := lw_g (lw_at lw_m3 131 rfl) rfl
theorem q694 : (Jvm.Cond.methodLink "DistinctMarks" (298 : Nat) ({ cls := "DistinctMarks", name := "foldedTo", desc := "(LDistinctMarks$Counter;I)LDistinctMarks$Counter;" } : Jvm.MethodName)) ∈ lw_all := lw_g (lw_at lw_m3 132 rfl) rfl
theorem q695 : (Jvm.Cond.privateMethod ({ cls := "DistinctMarks", name := "foldedTo", desc := "(LDistinctMarks$Counter;I)LDistinctMarks$Counter;" } : Jvm.MethodName)) ∈ lw_tbl := lw_at lw_m3 133 rfl
theorem q696 : (Jvm.Cond.instanceMethod ({ cls := "DistinctMarks", name := "foldedTo", desc := "(LDistinctMarks$Counter;I)LDistinctMarks$Counter;" } : Jvm.MethodName)) ∈ lw_all := lw_g (lw_at lw_m3 134 rfl) rfl
theorem q697 : (Jvm.Cond.code ({ cls := "DistinctMarks", name := "foldedTo", desc := "(LDistinctMarks$Counter;I)LDistinctMarks$Counter;" } : Jvm.MethodName) prog_1_method_70_code (3 : Nat) (Option.some (Jvm.ClassFile.FieldType.object "DistinctMarks$Counter"))) ∈ lw_all := lw_g (lw_at lw_m3 135 rfl) rfl
theorem q699 : (Jvm.Cond.instanceMethod ({ cls := "DistinctMarks", name := "apart", desc := "(II)I" } : Jvm.MethodName)) ∈ lw_all := lw_g (lw_at lw_m3 137 rfl) rfl
theorem q700 : (Jvm.Cond.selects "DistinctMarks" ({ cls := "DistinctMarks", name := "apart", desc := "(II)I" } : Jvm.MethodName) ({ cls := "DistinctMarks", name := "apart", desc := "(II)I" } : Jvm.MethodName)) ∈ lw_all := lw_g (lw_at lw_m3 138 rfl) rfl
theorem q701 : (Jvm.Cond.code ({ cls := "DistinctMarks", name := "apart", desc := "(II)I" } : Jvm.MethodName) prog_1_method_72_code (10 : Nat) (Option.some Jvm.ClassFile.FieldType.int)) ∈ lw_all := lw_g (lw_at lw_m3 139 rfl) rfl
theorem q702 : (Jvm.Cond.methodLink "DistinctMarks" (302 : Nat) ({ cls := "java/lang/Math", name := "abs", desc := "(I)I" } : Jvm.MethodName)) ∈ lw_all := lw_g (lw_at lw_m3 140 rfl) rfl
theorem q706 : (Jvm.Cond.instanceMethod ({ cls := "DistinctMarks", name := "order", desc := "()I" } : Jvm.MethodName)) ∈ lw_all := lw_g (lw_at lw_m3 144 rfl) rfl
theorem q707 : (Jvm.Cond.selects "DistinctMarks" ({ cls := "DistinctMarks", name := "order", desc := "()I" } : Jvm.MethodName) ({ cls := "DistinctMarks", name := "order", desc := "()I" } : Jvm.MethodName)) ∈ lw_all := lw_g (lw_at lw_m3 145 rfl) rfl
theorem q708 : (Jvm.Cond.code ({ cls := "DistinctMarks", name := "order", desc := "()I" } : Jvm.MethodName) prog_1_method_73_code (4 : Nat) (Option.some Jvm.ClassFile.FieldType.int)) ∈ lw_all := lw_g (lw_at lw_m3 146 rfl) rfl
theorem q710 : (Jvm.Cond.instanceMethod ({ cls := "DistinctMarks", name := "within", desc := "(II)I" } : Jvm.MethodName)) ∈ lw_all := lw_g (lw_at lw_m3 148 rfl) rfl
theorem q711 : (Jvm.Cond.selects "DistinctMarks" ({ cls := "DistinctMarks", name := "within", desc := "(II)I" } : Jvm.MethodName) ({ cls := "DistinctMarks", name := "within", desc := "(II)I" } : Jvm.MethodName)) ∈ lw_all := lw_g (lw_at lw_m3 149 rfl) rfl
theorem q712 : (Jvm.Cond.code ({ cls := "DistinctMarks", name := "within", desc := "(II)I" } : Jvm.MethodName) prog_1_method_74_code (7 : Nat) (Option.some Jvm.ClassFile.FieldType.int)) ∈ lw_all := lw_g (lw_at lw_m3 150 rfl) rfl
theorem q714 : (Jvm.Cond.instanceMethod ({ cls := "DistinctMarks", name := "cover", desc := "(I)I" } : Jvm.MethodName)) ∈ lw_all := lw_g (lw_at lw_m3 152 rfl) rfl
theorem q715 : (Jvm.Cond.selects "DistinctMarks" ({ cls := "DistinctMarks", name := "cover", desc := "(I)I" } : Jvm.MethodName) ({ cls := "DistinctMarks", name := "cover", desc := "(I)I" } : Jvm.MethodName)) ∈ lw_all := lw_g (lw_at lw_m3 153 rfl) rfl
theorem q716 : (Jvm.Cond.code ({ cls := "DistinctMarks", name := "cover", desc := "(I)I" } : Jvm.MethodName) prog_1_method_75_code (4 : Nat) (Option.some Jvm.ClassFile.FieldType.int)) ∈ lw_all := lw_g (lw_at lw_m3 154 rfl) rfl
theorem q717 : (Jvm.Cond.privateMethod ({ cls := "DistinctMarks", name := "lambda$cover$6", desc := "([III)V" } : Jvm.MethodName)) ∈ lw_tbl := lw_at lw_m3 155 rfl
theorem q718 : (Jvm.Cond.instanceMethod ({ cls := "DistinctMarks", name := "lambda$cover$6", desc := "([III)V" } : Jvm.MethodName)) ∈ lw_all := lw_g (lw_at lw_m3 156 rfl) rfl
theorem q719 : (Jvm.Cond.code ({ cls := "DistinctMarks", name := "lambda$cover$6", desc := "([III)V" } : Jvm.MethodName) prog_1_method_106_code (4 : Nat) (Option.none : Option Jvm.ClassFile.FieldType)) ∈ lw_all := lw_g (lw_at lw_m3 157 rfl) rfl
theorem q721 : (Jvm.Cond.instanceMethod ({ cls := "DistinctMarks", name := "errs", desc := "(IIII)I" } : Jvm.MethodName)) ∈ lw_all := lw_g (lw_at lw_m3 159 rfl) rfl
theorem q722 : (Jvm.Cond.selects "DistinctMarks" ({ cls := "DistinctMarks", name := "errs", desc := "(IIII)I" } : Jvm.MethodName) ({ cls := "DistinctMarks", name := "errs", desc := "(IIII)I" } : Jvm.MethodName)) ∈ lw_all := lw_g (lw_at lw_m3 160 rfl) rfl
theorem q723 : (Jvm.Cond.code ({ cls := "DistinctMarks", name := "errs", desc := "(IIII)I" } : Jvm.MethodName) prog_1_method_78_code (10 : Nat) (Option.some Jvm.ClassFile.FieldType.int)) ∈ lw_all := lw_g (lw_at lw_m3 161 rfl) rfl
theorem q724 : (Jvm.Cond.methodLink "DistinctMarks" (315 : Nat) ({ cls := "DistinctMarks", name := "areThings", desc := "(II)Z" } : Jvm.MethodName)) ∈ lw_all := lw_g (lw_at lw_m3 162 rfl) rfl
theorem q725 : (Jvm.Cond.static ({ cls := "DistinctMarks", name := "areThings", desc := "(II)Z" } : Jvm.MethodName)) ∈ lw_all := lw_g (lw_at lw_m3 163 rfl) rfl
theorem q726 : (Jvm.Cond.code ({ cls := "DistinctMarks", name := "areThings", desc := "(II)Z" } : Jvm.MethodName) prog_1_method_76_code (2 : Nat) (Option.some Jvm.ClassFile.FieldType.boolean)) ∈ lw_all := lw_g (lw_at lw_m3 164 rfl) rfl
theorem q727 : (Jvm.Cond.methodLink "DistinctMarks" (318 : Nat) ({ cls := "DistinctMarks", name := "empty", desc := "(I)LDistinctMarks$Counter;" } : Jvm.MethodName)) ∈ lw_all := lw_g (lw_at lw_m3 165 rfl) rfl
theorem q728 : (Jvm.Cond.privateMethod ({ cls := "DistinctMarks", name := "empty", desc := "(I)LDistinctMarks$Counter;" } : Jvm.MethodName)) ∈ lw_tbl := lw_at lw_m3 166 rfl
theorem q729 : (Jvm.Cond.instanceMethod ({ cls := "DistinctMarks", name := "empty", desc := "(I)LDistinctMarks$Counter;" } : Jvm.MethodName)) ∈ lw_all := lw_g (lw_at lw_m3 167 rfl) rfl
theorem q730 : (Jvm.Cond.code ({ cls := "DistinctMarks", name := "empty", desc := "(I)LDistinctMarks$Counter;" } : Jvm.MethodName) prog_1_method_77_code (3 : Nat) (Option.some (Jvm.ClassFile.FieldType.object "DistinctMarks$Counter"))) ∈ lw_all := lw_g (lw_at lw_m3 168 rfl) rfl
theorem q732 : (Jvm.Cond.instanceMethod ({ cls := "DistinctMarks", name := "least", desc := "(IIII)I" } : Jvm.MethodName)) ∈ lw_all := lw_g (lw_at lw_m3 170 rfl) rfl
theorem q733 : (Jvm.Cond.selects "DistinctMarks" ({ cls := "DistinctMarks", name := "least", desc := "(IIII)I" } : Jvm.MethodName) ({ cls := "DistinctMarks", name := "least", desc := "(IIII)I" } : Jvm.MethodName)) ∈ lw_all := lw_g (lw_at lw_m3 171 rfl) rfl
theorem q734 : (Jvm.Cond.code ({ cls := "DistinctMarks", name := "least", desc := "(IIII)I" } : Jvm.MethodName) prog_1_method_80_code (7 : Nat) (Option.some Jvm.ClassFile.FieldType.int)) ∈ lw_all := lw_g (lw_at lw_m3 172 rfl) rfl
theorem q735 : (Jvm.Cond.methodLink "DistinctMarks" (321 : Nat) ({ cls := "DistinctMarks", name := "offBy", desc := "(IIII)I" } : Jvm.MethodName)) ∈ lw_all := lw_g (lw_at lw_m3 173 rfl) rfl
theorem q736 : (Jvm.Cond.privateMethod ({ cls := "DistinctMarks", name := "offBy", desc := "(IIII)I" } : Jvm.MethodName)) ∈ lw_tbl := lw_at lw_m3 174 rfl
theorem q737 : (Jvm.Cond.instanceMethod ({ cls := "DistinctMarks", name := "offBy", desc := "(IIII)I" } : Jvm.MethodName)) ∈ lw_all := lw_g (lw_at lw_m3 175 rfl) rfl
theorem q738 : (Jvm.Cond.code ({ cls := "DistinctMarks", name := "offBy", desc := "(IIII)I" } : Jvm.MethodName) prog_1_method_79_code (7 : Nat) (Option.some Jvm.ClassFile.FieldType.int)) ∈ lw_all := lw_g (lw_at lw_m3 176 rfl) rfl
theorem q740 : (Jvm.Cond.instanceMethod ({ cls := "DistinctMarks", name := "expects", desc := "(II)I" } : Jvm.MethodName)) ∈ lw_all := lw_g (lw_at lw_m3 178 rfl) rfl
theorem q741 : (Jvm.Cond.selects "DistinctMarks" ({ cls := "DistinctMarks", name := "expects", desc := "(II)I" } : Jvm.MethodName) ({ cls := "DistinctMarks", name := "expects", desc := "(II)I" } : Jvm.MethodName)) ∈ lw_all := lw_g (lw_at lw_m3 179 rfl) rfl
theorem q742 : (Jvm.Cond.code ({ cls := "DistinctMarks", name := "expects", desc := "(II)I" } : Jvm.MethodName) prog_1_method_81_code (5 : Nat) (Option.some Jvm.ClassFile.FieldType.int)) ∈ lw_all := lw_g (lw_at lw_m3 180 rfl) rfl
theorem q743 : (Jvm.Cond.constantLong "DistinctMarks" (325 : Nat) (100000 : Int64)) ∈ lw_all := lw_g (lw_at lw_m3 181 rfl) rfl
theorem q745 : (Jvm.Cond.instanceMethod ({ cls := "DistinctMarks", name := "things", desc := "(II)I" } : Jvm.MethodName)) ∈ lw_all := lw_g (lw_at lw_m3 183 rfl) rfl
theorem q746 : (Jvm.Cond.selects "DistinctMarks" ({ cls := "DistinctMarks", name := "things", desc := "(II)I" } : Jvm.MethodName) ({ cls := "DistinctMarks", name := "things", desc := "(II)I" } : Jvm.MethodName)) ∈ lw_all := lw_g (lw_at lw_m3 184 rfl) rfl
theorem q747 : (Jvm.Cond.code ({ cls := "DistinctMarks", name := "things", desc := "(II)I" } : Jvm.MethodName) prog_1_method_82_code (5 : Nat) (Option.some Jvm.ClassFile.FieldType.int)) ∈ lw_all := lw_g (lw_at lw_m3 185 rfl) rfl
theorem q748 : (Jvm.Cond.constant "DistinctMarks" (327 : Nat) (100000 : Int32)) ∈ lw_all := lw_g (lw_at lw_m3 186 rfl) rfl
theorem q750 : (Jvm.Cond.instanceMethod ({ cls := "DistinctMarks", name := "would", desc := "(IIII)I" } : Jvm.MethodName)) ∈ lw_all := lw_g (lw_at lw_m3 188 rfl) rfl
theorem q751 : (Jvm.Cond.selects "DistinctMarks" ({ cls := "DistinctMarks", name := "would", desc := "(IIII)I" } : Jvm.MethodName) ({ cls := "DistinctMarks", name := "would", desc := "(IIII)I" } : Jvm.MethodName)) ∈ lw_all := lw_g (lw_at lw_m3 189 rfl) rfl
theorem q752 : (Jvm.Cond.code ({ cls := "DistinctMarks", name := "would", desc := "(IIII)I" } : Jvm.MethodName) prog_1_method_83_code (8 : Nat) (Option.some Jvm.ClassFile.FieldType.int)) ∈ lw_all := lw_g (lw_at lw_m3 190 rfl) rfl
theorem q754 : (Jvm.Cond.instanceMethod ({ cls := "DistinctMarks", name := "reaches", desc := "(IIII)I" } : Jvm.MethodName)) ∈ lw_all := lw_g (lw_at lw_m3 192 rfl) rfl
theorem q755 : (Jvm.Cond.selects "DistinctMarks" ({ cls := "DistinctMarks", name := "reaches", desc := "(IIII)I" } : Jvm.MethodName) ({ cls := "DistinctMarks", name := "reaches", desc := "(IIII)I" } : Jvm.MethodName)) ∈ lw_all := lw_g (lw_at lw_m3 193 rfl) rfl
theorem q756 : (Jvm.Cond.code ({ cls := "DistinctMarks", name := "reaches", desc := "(IIII)I" } : Jvm.MethodName) prog_1_method_84_code (7 : Nat) (Option.some Jvm.ClassFile.FieldType.int)) ∈ lw_all := lw_g (lw_at lw_m3 194 rfl) rfl
theorem q758 : (Jvm.Cond.instanceMethod ({ cls := "DistinctMarks", name := "over", desc := "(I)J" } : Jvm.MethodName)) ∈ lw_all := lw_g (lw_at lw_m3 196 rfl) rfl
theorem q759 : (Jvm.Cond.selects "DistinctMarks" ({ cls := "DistinctMarks", name := "over", desc := "(I)J" } : Jvm.MethodName) ({ cls := "DistinctMarks", name := "over", desc := "(I)J" } : Jvm.MethodName)) ∈ lw_all := lw_g (lw_at lw_m3 197 rfl) rfl
theorem q760 : (Jvm.Cond.code ({ cls := "DistinctMarks", name := "over", desc := "(I)J" } : Jvm.MethodName) prog_1_method_85_code (8 : Nat) (Option.some Jvm.ClassFile.FieldType.long)) ∈ lw_all := lw_g (lw_at lw_m3 198 rfl) rfl
theorem q762 : (Jvm.Cond.instanceMethod ({ cls := "DistinctMarks", name := "chain", desc := "(I)I" } : Jvm.MethodName)) ∈ lw_all := lw_g (lw_at lw_m3 200 rfl) rfl
theorem q763 : (Jvm.Cond.selects "DistinctMarks" ({ cls := "DistinctMarks", name := "chain", desc := "(I)I" } : Jvm.MethodName) ({ cls := "DistinctMarks", name := "chain", desc := "(I)I" } : Jvm.MethodName)) ∈ lw_all := lw_g (lw_at lw_m3 201 rfl) rfl
theorem q764 : (Jvm.Cond.code ({ cls := "DistinctMarks", name := "chain", desc := "(I)I" } : Jvm.MethodName) prog_1_method_86_code (7 : Nat) (Option.some Jvm.ClassFile.FieldType.int)) ∈ lw_all := lw_g (lw_at lw_m3 202 rfl) rfl
theorem q766 : (Jvm.Cond.instanceMethod ({ cls := "DistinctMarks", name := "lessers", desc := "(III)I" } : Jvm.MethodName)) ∈ lw_all := lw_g (lw_at lw_m3 204 rfl) rfl
theorem q767 : (Jvm.Cond.selects "DistinctMarks" ({ cls := "DistinctMarks", name := "lessers", desc := "(III)I" } : Jvm.MethodName) ({ cls := "DistinctMarks", name := "lessers", desc := "(III)I" } : Jvm.MethodName)) ∈ lw_all := lw_g (lw_at lw_m3 205 rfl) rfl
theorem q768 : (Jvm.Cond.code ({ cls := "DistinctMarks", name := "lessers", desc := "(III)I" } : Jvm.MethodName) prog_1_method_87_code (7 : Nat) (Option.some Jvm.ClassFile.FieldType.int)) ∈ lw_all := lw_g (lw_at lw_m3 206 rfl) rfl
theorem q769 : (Jvm.Cond.static ({ cls := "DistinctMarks", name := "lambda$lessers$7", desc := "(LDistinctMarks$Counter;LDistinctMarks$Counter;II)V" } : Jvm.MethodName)) ∈ lw_all := lw_g (lw_at lw_m3 207 rfl) rfl
theorem q770 : (Jvm.Cond.code ({ cls := "DistinctMarks", name := "lambda$lessers$7", desc := "(LDistinctMarks$Counter;LDistinctMarks$Counter;II)V" } : Jvm.MethodName) prog_1_method_105_code (4 : Nat) (Option.none : Option Jvm.ClassFile.FieldType)) ∈ lw_all := lw_g (lw_at lw_m3 208 rfl) rfl
theorem q771 : (Jvm.Cond.methodLinkNest "DistinctMarks" (405 : Nat) ({ cls := "DistinctMarks$Counter", name := "raises", desc := "(II)Z" } : Jvm.MethodName) "DistinctMarks") ∈ lw_tbl := lw_at lw_m3 209 rfl
theorem q773 : (Jvm.Cond.instanceMethod ({ cls := "DistinctMarks", name := "greedy", desc := "(I)I" } : Jvm.MethodName)) ∈ lw_all := lw_g (lw_at lw_m3 211 rfl) rfl
theorem q774 : (Jvm.Cond.selects "DistinctMarks" ({ cls := "DistinctMarks", name := "greedy", desc := "(I)I" } : Jvm.MethodName) ({ cls := "DistinctMarks", name := "greedy", desc := "(I)I" } : Jvm.MethodName)) ∈ lw_all := lw_g (lw_at lw_m3 212 rfl) rfl
theorem q775 : (Jvm.Cond.code ({ cls := "DistinctMarks", name := "greedy", desc := "(I)I" } : Jvm.MethodName) prog_1_method_88_code (8 : Nat) (Option.some Jvm.ClassFile.FieldType.int)) ∈ lw_all := lw_g (lw_at lw_m3 213 rfl) rfl
theorem q777 : (Jvm.Cond.instanceMethod ({ cls := "DistinctMarks", name := "written", desc := "(II)I" } : Jvm.MethodName)) ∈ lw_all := lw_g (lw_at lw_m3 215 rfl) rfl
theorem q778 : (Jvm.Cond.selects "DistinctMarks" ({ cls := "DistinctMarks", name := "written", desc := "(II)I" } : Jvm.MethodName) ({ cls := "DistinctMarks", name := "written", desc := "(II)I" } : Jvm.MethodName)) ∈ lw_all := lw_g (lw_at lw_m3 216 rfl) rfl
theorem q779 : (Jvm.Cond.code ({ cls := "DistinctMarks", name := "written", desc := "(II)I" } : Jvm.MethodName) prog_1_method_90_code (4 : Nat) (Option.some Jvm.ClassFile.FieldType.int)) ∈ lw_all := lw_g (lw_at lw_m3 217 rfl) rfl
theorem q780 : (Jvm.Cond.methodLink "DistinctMarks" (353 : Nat) ({ cls := "DistinctMarks", name := "write", desc := "(LDistinctMarks$Counter;)Ljava/lang/String;" } : Jvm.MethodName)) ∈ lw_all := lw_g (lw_at lw_m3 218 rfl) rfl
theorem q781 : (Jvm.Cond.privateMethod ({ cls := "DistinctMarks", name := "write", desc := "(LDistinctMarks$Counter;)Ljava/lang/String;" } : Jvm.MethodName)) ∈ lw_tbl := lw_at lw_m3 219 rfl
theorem q782 : (Jvm.Cond.instanceMethod ({ cls := "DistinctMarks", name := "write", desc := "(LDistinctMarks$Counter;)Ljava/lang/String;" } : Jvm.MethodName)) ∈ lw_all := lw_g (lw_at lw_m3 220 rfl) rfl
theorem q783 : (Jvm.Cond.code ({ cls := "DistinctMarks", name := "write", desc := "(LDistinctMarks$Counter;)Ljava/lang/String;" } : Jvm.MethodName) prog_1_method_89_code (5 : Nat) (Option.some (Jvm.ClassFile.FieldType.object "java/lang/String"))) ∈ lw_all := lw_g (lw_at lw_m3 221 rfl) rfl
theorem q784 : (Jvm.Cond.classLink "DistinctMarks" (331 : Nat) "java/lang/StringBuilder") ∈ lw_all := lw_g (lw_at lw_m3 222 rfl) rfl
theorem q786 : (Jvm.Cond.methodLink "DistinctMarks" (333 : Nat) ({ cls := "java/lang/StringBuilder", name := "<init>", desc := "()V" } : Jvm.MethodName)) ∈ lw_all := lw_g (lw_at lw_m3 224 rfl) rfl
theorem q815 : (Jvm.Cond.methodLink "DistinctMarks" (334 : Nat) ({ cls := "java/lang/StringBuilder", name := "append", desc := "(I)Ljava/lang/StringBuilder;" } : Jvm.MethodName)) ∈ lw_all := lw_g (lw_at lw_m4 13 rfl) rfl
theorem q897 : (Jvm.Cond.methodLink "DistinctMarks" (338 : Nat) ({ cls := "java/lang/StringBuilder", name := "append", desc := "(C)Ljava/lang/StringBuilder;" } : Jvm.MethodName)) ∈ lw_all := lw_g (lw_at lw_m4 95 rfl) rfl
theorem q938 : (Jvm.Cond.stringRef "DistinctMarks" (341 : Nat) "0123456789abcdefghijklmnopqrst") ∈ lw_tbl := lw_at lw_m4 136 rfl
theorem q939 : (Jvm.Cond.methodLink "DistinctMarks" (343 : Nat) ({ cls := "java/lang/String", name := "charAt", desc := "(I)C" } : Jvm.MethodName)) ∈ lw_all := lw_g (lw_at lw_m4 137 rfl) rfl
theorem q958 : (Jvm.Cond.methodLink "DistinctMarks" (349 : Nat) ({ cls := "java/lang/StringBuilder", name := "toString", desc := "()Ljava/lang/String;" } : Jvm.MethodName)) ∈ lw_all := lw_g (lw_at lw_m4 156 rfl) rfl
theorem q1015 : (Jvm.Cond.methodLink "DistinctMarks" (357 : Nat) ({ cls := "java/lang/String", name := "length", desc := "()I" } : Jvm.MethodName)) ∈ lw_all := lw_g (lw_at lw_m4 213 rfl) rfl
theorem q1024 : (Jvm.Cond.instanceMethod ({ cls := "DistinctMarks", name := "reads", desc := "(I)I" } : Jvm.MethodName)) ∈ lw_all := lw_g (lw_at lw_m4 222 rfl) rfl
theorem q1025 : (Jvm.Cond.selects "DistinctMarks" ({ cls := "DistinctMarks", name := "reads", desc := "(I)I" } : Jvm.MethodName) ({ cls := "DistinctMarks", name := "reads", desc := "(I)I" } : Jvm.MethodName)) ∈ lw_all := lw_g (lw_at lw_m4 223 rfl) rfl
theorem q1026 : (Jvm.Cond.codeWith ({ cls := "DistinctMarks", name := "reads", desc := "(I)I" } : Jvm.MethodName) prog_1_method_94_code (5 : Nat) (Option.some Jvm.ClassFile.FieldType.int) [((4 : Nat), (186 : Nat), (187 : Nat), (116 : Nat))]) ∈ lw_all := lw_g (lw_at lw_m4 224 rfl) rfl
theorem q1027 : (Jvm.Cond.methodLink "DistinctMarks" (363 : Nat) ({ cls := "DistinctMarks", name := "signTold", desc := "(I)I" } : Jvm.MethodName)) ∈ lw_all := lw_g (lw_at lw_m4 225 rfl) rfl
theorem q1028 : (Jvm.Cond.privateMethod ({ cls := "DistinctMarks", name := "signTold", desc := "(I)I" } : Jvm.MethodName)) ∈ lw_tbl := lw_at lw_m4 226 rfl
theorem q1029 : (Jvm.Cond.instanceMethod ({ cls := "DistinctMarks", name := "signTold", desc := "(I)I" } : Jvm.MethodName)) ∈ lw_all := lw_g (lw_at lw_m4 227 rfl) rfl
theorem q1030 : (Jvm.Cond.code ({ cls := "DistinctMarks", name := "signTold", desc := "(I)I" } : Jvm.MethodName) prog_1_method_91_code (3 : Nat) (Option.some Jvm.ClassFile.FieldType.int)) ∈ lw_all := lw_g (lw_at lw_m4 228 rfl) rfl
theorem q1031 : (Jvm.Cond.methodLink "DistinctMarks" (360 : Nat) ({ cls := "java/lang/String", name := "indexOf", desc := "(I)I" } : Jvm.MethodName)) ∈ lw_all := lw_g (lw_at lw_m4 229 rfl) rfl
theorem q1077 : (Jvm.Cond.methodLink "DistinctMarks" (369 : Nat) ({ cls := "DistinctMarks", name := "limitTold", desc := "()I" } : Jvm.MethodName)) ∈ lw_all := lw_g (lw_at lw_m5 35 rfl) rfl
theorem q1078 : (Jvm.Cond.privateMethod ({ cls := "DistinctMarks", name := "limitTold", desc := "()I" } : Jvm.MethodName)) ∈ lw_tbl := lw_at lw_m5 36 rfl
theorem q1079 : (Jvm.Cond.instanceMethod ({ cls := "DistinctMarks", name := "limitTold", desc := "()I" } : Jvm.MethodName)) ∈ lw_all := lw_g (lw_at lw_m5 37 rfl) rfl
theorem q1080 : (Jvm.Cond.code ({ cls := "DistinctMarks", name := "limitTold", desc := "()I" } : Jvm.MethodName) prog_1_method_92_code (2 : Nat) (Option.some Jvm.ClassFile.FieldType.int)) ∈ lw_all := lw_g (lw_at lw_m5 38 rfl) rfl
theorem q1081 : (Jvm.Cond.methodLink "DistinctMarks" (372 : Nat) ({ cls := "DistinctMarks", name := "marksTold", desc := "(LDistinctMarks$Counter;)V" } : Jvm.MethodName)) ∈ lw_all := lw_g (lw_at lw_m5 39 rfl) rfl
theorem q1082 : (Jvm.Cond.privateMethod ({ cls := "DistinctMarks", name := "marksTold", desc := "(LDistinctMarks$Counter;)V" } : Jvm.MethodName)) ∈ lw_tbl := lw_at lw_m5 40 rfl
theorem q1083 : (Jvm.Cond.instanceMethod ({ cls := "DistinctMarks", name := "marksTold", desc := "(LDistinctMarks$Counter;)V" } : Jvm.MethodName)) ∈ lw_all := lw_g (lw_at lw_m5 41 rfl) rfl
theorem q1084 : (Jvm.Cond.code ({ cls := "DistinctMarks", name := "marksTold", desc := "(LDistinctMarks$Counter;)V" } : Jvm.MethodName) prog_1_method_93_code (4 : Nat) (Option.none : Option Jvm.ClassFile.FieldType)) ∈ lw_all := lw_g (lw_at lw_m5 42 rfl) rfl
theorem q1085 : (Jvm.Cond.methodLink "DistinctMarks" (366 : Nat) ({ cls := "java/lang/Integer", name := "compareUnsigned", desc := "(II)I" } : Jvm.MethodName)) ∈ lw_all := lw_g (lw_at lw_m5 43 rfl) rfl
theorem q1087 : (Jvm.Cond.instanceMethod ({ cls := "DistinctMarks", name := "count", desc := "(I)I" } : Jvm.MethodName)) ∈ lw_all := lw_g (lw_at lw_m5 45 rfl) rfl
theorem q1088 : (Jvm.Cond.selects "DistinctMarks" ({ cls := "DistinctMarks", name := "count", desc := "(I)I" } : Jvm.MethodName) ({ cls := "DistinctMarks", name := "count", desc := "(I)I" } : Jvm.MethodName)) ∈ lw_all := lw_g (lw_at lw_m5 46 rfl) rfl
theorem q1089 : (Jvm.Cond.code ({ cls := "DistinctMarks", name := "count", desc := "(I)I" } : Jvm.MethodName) prog_1_method_97_code (2 : Nat) (Option.some Jvm.ClassFile.FieldType.int)) ∈ lw_all := lw_g (lw_at lw_m5 47 rfl) rfl
theorem q1090 : (Jvm.Cond.static ({ cls := "DistinctMarks", name := "lambda$count$8", desc := "(LDistinctMarks$Counter;)Z" } : Jvm.MethodName)) ∈ lw_all := lw_g (lw_at lw_m5 48 rfl) rfl
theorem q1091 : (Jvm.Cond.code ({ cls := "DistinctMarks", name := "lambda$count$8", desc := "(LDistinctMarks$Counter;)Z" } : Jvm.MethodName) prog_1_method_104_code (1 : Nat) (Option.some Jvm.ClassFile.FieldType.boolean)) ∈ lw_all := lw_g (lw_at lw_m5 49 rfl) rfl
theorem q1092 : (Jvm.Cond.methodLink "DistinctMarks" (389 : Nat) ({ cls := "DistinctMarks", name := "setOf", desc := "(LDistinctMarks$Held;)I" } : Jvm.MethodName)) ∈ lw_all := lw_g (lw_at lw_m5 50 rfl) rfl
theorem q1093 : (Jvm.Cond.privateMethod ({ cls := "DistinctMarks", name := "setOf", desc := "(LDistinctMarks$Held;)I" } : Jvm.MethodName)) ∈ lw_tbl := lw_at lw_m5 51 rfl
theorem q1094 : (Jvm.Cond.instanceMethod ({ cls := "DistinctMarks", name := "setOf", desc := "(LDistinctMarks$Held;)I" } : Jvm.MethodName)) ∈ lw_all := lw_g (lw_at lw_m5 52 rfl) rfl
theorem q1095 : (Jvm.Cond.code ({ cls := "DistinctMarks", name := "setOf", desc := "(LDistinctMarks$Held;)I" } : Jvm.MethodName) prog_1_method_95_code (4 : Nat) (Option.some Jvm.ClassFile.FieldType.int)) ∈ lw_all := lw_g (lw_at lw_m5 53 rfl) rfl
theorem q1096 : (Jvm.Cond.interfaceEntry "DistinctMarks" (375 : Nat)) ∈ lw_tbl := lw_at lw_m5 54 rfl
theorem q1097 : (Jvm.Cond.methodLink "DistinctMarks" (375 : Nat) ({ cls := "DistinctMarks$Held", name := "by", desc := "(LDistinctMarks$Counter;)Z" } : Jvm.MethodName)) ∈ lw_all := lw_g (lw_at lw_m5 55 rfl) rfl
theorem q1100 : (Jvm.Cond.static ({ cls := "DistinctMarks", name := "lambda$count$9", desc := "(LDistinctMarks$Counter;)Z" } : Jvm.MethodName)) ∈ lw_all := lw_g (lw_at lw_m5 58 rfl) rfl
theorem q1101 : (Jvm.Cond.code ({ cls := "DistinctMarks", name := "lambda$count$9", desc := "(LDistinctMarks$Counter;)Z" } : Jvm.MethodName) prog_1_method_103_code (1 : Nat) (Option.some Jvm.ClassFile.FieldType.boolean)) ∈ lw_all := lw_g (lw_at lw_m5 59 rfl) rfl
theorem q1102 : (Jvm.Cond.static ({ cls := "DistinctMarks", name := "lambda$count$10", desc := "(LDistinctMarks$Counter;)I" } : Jvm.MethodName)) ∈ lw_all := lw_g (lw_at lw_m5 60 rfl) rfl
theorem q1103 : (Jvm.Cond.code ({ cls := "DistinctMarks", name := "lambda$count$10", desc := "(LDistinctMarks$Counter;)I" } : Jvm.MethodName) prog_1_method_102_code (1 : Nat) (Option.some Jvm.ClassFile.FieldType.int)) ∈ lw_all := lw_g (lw_at lw_m5 61 rfl) rfl
theorem q1104 : (Jvm.Cond.methodLink "DistinctMarks" (397 : Nat) ({ cls := "DistinctMarks", name := "sumOf", desc := "(LDistinctMarks$Summed;)I" } : Jvm.MethodName)) ∈ lw_all := lw_g (lw_at lw_m5 62 rfl) rfl
theorem q1105 : (Jvm.Cond.privateMethod ({ cls := "DistinctMarks", name := "sumOf", desc := "(LDistinctMarks$Summed;)I" } : Jvm.MethodName)) ∈ lw_tbl := lw_at lw_m5 63 rfl
theorem q1106 : (Jvm.Cond.instanceMethod ({ cls := "DistinctMarks", name := "sumOf", desc := "(LDistinctMarks$Summed;)I" } : Jvm.MethodName)) ∈ lw_all := lw_g (lw_at lw_m5 64 rfl) rfl
theorem q1107 : (Jvm.Cond.code ({ cls := "DistinctMarks", name := "sumOf", desc := "(LDistinctMarks$Summed;)I" } : Jvm.MethodName) prog_1_method_96_code (7 : Nat) (Option.some Jvm.ClassFile.FieldType.int)) ∈ lw_all := lw_g (lw_at lw_m5 65 rfl) rfl
theorem q1108 : (Jvm.Cond.interfaceEntry "DistinctMarks" (381 : Nat)) ∈ lw_tbl := lw_at lw_m5 66 rfl
theorem q1109 : (Jvm.Cond.methodLink "DistinctMarks" (381 : Nat) ({ cls := "DistinctMarks$Summed", name := "of", desc := "(LDistinctMarks$Counter;)I" } : Jvm.MethodName)) ∈ lw_all := lw_g (lw_at lw_m5 67 rfl) rfl
theorem q1112 : (Jvm.Cond.static ({ cls := "DistinctMarks", name := "lambda$count$11", desc := "(LDistinctMarks$Counter;)I" } : Jvm.MethodName)) ∈ lw_all := lw_g (lw_at lw_m5 70 rfl) rfl
theorem q1113 : (Jvm.Cond.code ({ cls := "DistinctMarks", name := "lambda$count$11", desc := "(LDistinctMarks$Counter;)I" } : Jvm.MethodName) prog_1_method_101_code (1 : Nat) (Option.some Jvm.ClassFile.FieldType.int)) ∈ lw_all := lw_g (lw_at lw_m5 71 rfl) rfl
theorem q1119 : (Jvm.Cond.instanceMethod ({ cls := "DistinctMarks", name := "row", desc := "(I)J" } : Jvm.MethodName)) ∈ lw_all := lw_g (lw_at lw_m5 77 rfl) rfl
theorem q1120 : (Jvm.Cond.selects "DistinctMarks" ({ cls := "DistinctMarks", name := "row", desc := "(I)J" } : Jvm.MethodName) ({ cls := "DistinctMarks", name := "row", desc := "(I)J" } : Jvm.MethodName)) ∈ lw_all := lw_g (lw_at lw_m5 78 rfl) rfl
theorem q1121 : (Jvm.Cond.code ({ cls := "DistinctMarks", name := "row", desc := "(I)J" } : Jvm.MethodName) prog_1_method_100_code (2 : Nat) (Option.some Jvm.ClassFile.FieldType.long)) ∈ lw_all := lw_g (lw_at lw_m5 79 rfl) rfl
theorem q1122 : (Jvm.Cond.classLink "DistinctMarks" (402 : Nat) "java/util/NoSuchElementException") ∈ lw_all := lw_g (lw_at lw_m5 80 rfl) rfl
theorem q1133 : (Jvm.Cond.methodLink "DistinctMarks" (404 : Nat) ({ cls := "java/util/NoSuchElementException", name := "<init>", desc := "()V" } : Jvm.MethodName)) ∈ lw_all := lw_g (lw_at lw_m5 91 rfl) rfl
theorem q1713 : (Jvm.Cond.castable "DistinctMarks" "java/lang/Object") ∈ lw_tbl := lw_at lw_m7 191 rfl
theorem in_X1 : ∀ w ∈ wsX10, w ∈ lw_all := lw_in wsX10 [219, 221, 223, 225, 227, 229, 231, 233, 235, 237, 239, 241, 243] (by decide +kernel) (by decide +kernel)
