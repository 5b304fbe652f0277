/-! DistinctMarksModel -/
set_option maxRecDepth 100000
def RX3 : String := "DistinctMarksModel"
def TX3 : u_T := fun k => match k with
  | 0 => ("DistinctMarksModel", "bits", "[I", true)
  | 1 => ("DistinctMarksModel", "limit", "[I", true)
  | 2 => ("DistinctMarksModel", "isDense", "[Z", true)
  | 3 => ("DistinctMarksModel", "marks", "[J", true)
  | 4 => ("DistinctMarksModel", "markMany", "[I", true)
  | 5 => ("DistinctMarksModel", "rank", "[I", true)
  | 6 => ("DistinctMarksModel", "times", "I", false)
  | 7 => ("DistinctMarksModel", "more", "I", false)
  | 8 => ("DistinctMarksModel", "text", "[B", true)
  | 9 => ("DistinctMarksModel", "typed", "I", false)
  | 10 => ("DistinctMarksModel", "row", "[J", true)
  | 11 => ("DistinctMarksModel", "rowMany", "I", false)
  | 12 => ("DistinctMarksModel", "thrown", "I", false)
  | 13 => ("DistinctMarksModel", "things", "[I", true)
  | 14 => ("DistinctMarksModel", "thingMany", "I", false)
  | 15 => ("DistinctMarksModel", "size", "I", false)
  | 16 => ("DistinctMarksModel", "here", "I", false)
  | 17 => ("DistinctMarksModel", "folded", "[I", true)
  | _ => ("DistinctMarksModel", "how", "I", false)
def tyX3 : Nat → FieldType := fun k => match k with
  | 0 => .array .int
  | 1 => .array .int
  | 2 => .array .boolean
  | 3 => .array .long
  | 4 => .array .int
  | 5 => .array .int
  | 6 => .int
  | 7 => .int
  | 8 => .array .byte
  | 9 => .int
  | 10 => .array .long
  | 11 => .int
  | 12 => .int
  | 13 => .array .int
  | 14 => .int
  | 15 => .int
  | 16 => .int
  | 17 => .array .int
  | _ => .int
abbrev wsX30 : List Cond := u_ws RX3 TX3 19
set_option maxRecDepth 100000 in
theorem nmX3 : ∀ a, a < 19 → ∀ b, b < 19 → a ≠ b → (TX3 a).2.1 ≠ (TX3 b).2.1 := by decide +kernel
set_option maxRecDepth 100000 in
theorem tyX3_ok : ∀ k, k < 19 → parseFieldDescriptor (TX3 k).2.2.1 = some (tyX3 k) := by decide +kernel
abbrev cX3_init : ByteArray := prog_10_method_1_code
def yX3_init : MethodName := ⟨RX3, "<init>", "()V"⟩
def dkwX3_init_5 : List UInt8 := [167, 255, 239, 177]
abbrev dktX3_init_5 : List UInt8 := dkwX3_init_5 ++ []
def dkwX3_init_4 : List UInt8 := [181, 0, 44, 3, 60, 27, 16, 10, 162, 0, 17, 42, 27, 7, 16, 12, 182, 0, 47, 132, 1, 1]
abbrev dktX3_init_4 : List UInt8 := dkwX3_init_4 ++ dktX3_init_5
def dkwX3_init_3 : List UInt8 := [16, 16, 188, 11, 181, 0, 38, 42, 17, 2, 88, 188, 10, 181, 0, 41, 42, 17, 1, 0, 188, 10]
abbrev dktX3_init_3 : List UInt8 := dkwX3_init_3 ++ dktX3_init_4
def dkwX3_init_2 : List UInt8 := [17, 10, 0, 188, 10, 181, 0, 27, 42, 4, 181, 0, 30, 42, 17, 2, 88, 188, 8, 181, 0, 34, 42]
abbrev dktX3_init_2 : List UInt8 := dkwX3_init_2 ++ dktX3_init_3
def dkwX3_init_1 : List UInt8 := [188, 4, 181, 0, 16, 42, 17, 2, 128, 188, 11, 181, 0, 20, 42, 16, 10, 188, 10, 181, 0, 24, 42]
abbrev dktX3_init_1 : List UInt8 := dkwX3_init_1 ++ dktX3_init_2
def dkwX3_init_0 : List UInt8 := [42, 183, 0, 1, 42, 16, 10, 188, 10, 181, 0, 7, 42, 16, 10, 188, 10, 181, 0, 13, 42, 16, 10]
abbrev dktX3_init_0 : List UInt8 := dkwX3_init_0 ++ dktX3_init_1
theorem dksX3_init_0 : cX3_init.data.toList.drop 0 = dktX3_init_0 := by decide +kernel
theorem dksX3_init_1 : cX3_init.data.toList.drop 23 = dktX3_init_1 := dk_seg dksX3_init_0 23 rfl rfl
theorem dksX3_init_2 : cX3_init.data.toList.drop 46 = dktX3_init_2 := dk_seg dksX3_init_1 23 rfl rfl
theorem dksX3_init_3 : cX3_init.data.toList.drop 69 = dktX3_init_3 := dk_seg dksX3_init_2 23 rfl rfl
theorem dksX3_init_4 : cX3_init.data.toList.drop 91 = dktX3_init_4 := dk_seg dksX3_init_3 22 rfl rfl
theorem dksX3_init_5 : cX3_init.data.toList.drop 113 = dktX3_init_5 := dk_seg dksX3_init_4 22 rfl rfl
theorem dX3_init_0 : decode cX3_init 0 = .ok (.aload_n 0, 1) := dk_42 (dk_at dksX3_init_0 0 rfl rfl)
theorem dX3_init_1 : decode cX3_init 1 = .ok (.invokespecial 1, 3) := dk_183 0 1 (dk_at dksX3_init_0 1 rfl rfl)
theorem dX3_init_4 : decode cX3_init 4 = .ok (.aload_n 0, 1) := dk_42 (dk_at dksX3_init_0 4 rfl rfl)
theorem dX3_init_5 : decode cX3_init 5 = .ok (.bipush 10, 2) := dk_16 10 (dk_at dksX3_init_0 5 rfl rfl)
theorem dX3_init_7 : decode cX3_init 7 = .ok (.newarray .int, 2) := dk_188_10 (dk_at dksX3_init_0 7 rfl rfl)
theorem dX3_init_9 : decode cX3_init 9 = .ok (.putfield 7, 3) := dk_181 0 7 (dk_at dksX3_init_0 9 rfl rfl)
theorem dX3_init_12 : decode cX3_init 12 = .ok (.aload_n 0, 1) := dk_42 (dk_at dksX3_init_0 12 rfl rfl)
theorem dX3_init_13 : decode cX3_init 13 = .ok (.bipush 10, 2) := dk_16 10 (dk_at dksX3_init_0 13 rfl rfl)
theorem dX3_init_15 : decode cX3_init 15 = .ok (.newarray .int, 2) := dk_188_10 (dk_at dksX3_init_0 15 rfl rfl)
theorem dX3_init_17 : decode cX3_init 17 = .ok (.putfield 13, 3) := dk_181 0 13 (dk_at dksX3_init_0 17 rfl rfl)
theorem dX3_init_20 : decode cX3_init 20 = .ok (.aload_n 0, 1) := dk_42 (dk_at dksX3_init_0 20 rfl rfl)
theorem dX3_init_21 : decode cX3_init 21 = .ok (.bipush 10, 2) := dk_16 10 (dk_at dksX3_init_0 21 rfl rfl)
theorem dX3_init_23 : decode cX3_init 23 = .ok (.newarray .boolean, 2) := dk_188_4 (dk_at dksX3_init_1 0 rfl rfl)
theorem dX3_init_25 : decode cX3_init 25 = .ok (.putfield 16, 3) := dk_181 0 16 (dk_at dksX3_init_1 2 rfl rfl)
theorem dX3_init_28 : decode cX3_init 28 = .ok (.aload_n 0, 1) := dk_42 (dk_at dksX3_init_1 5 rfl rfl)
theorem dX3_init_29 : decode cX3_init 29 = .ok (.sipush 640, 3) := dk_17 2 128 (dk_at dksX3_init_1 6 rfl rfl)
theorem dX3_init_32 : decode cX3_init 32 = .ok (.newarray .long, 2) := dk_188_11 (dk_at dksX3_init_1 9 rfl rfl)
theorem dX3_init_34 : decode cX3_init 34 = .ok (.putfield 20, 3) := dk_181 0 20 (dk_at dksX3_init_1 11 rfl rfl)
theorem dX3_init_37 : decode cX3_init 37 = .ok (.aload_n 0, 1) := dk_42 (dk_at dksX3_init_1 14 rfl rfl)
theorem dX3_init_38 : decode cX3_init 38 = .ok (.bipush 10, 2) := dk_16 10 (dk_at dksX3_init_1 15 rfl rfl)
theorem dX3_init_40 : decode cX3_init 40 = .ok (.newarray .int, 2) := dk_188_10 (dk_at dksX3_init_1 17 rfl rfl)
theorem dX3_init_42 : decode cX3_init 42 = .ok (.putfield 24, 3) := dk_181 0 24 (dk_at dksX3_init_1 19 rfl rfl)
theorem dX3_init_45 : decode cX3_init 45 = .ok (.aload_n 0, 1) := dk_42 (dk_at dksX3_init_1 22 rfl rfl)
theorem dX3_init_46 : decode cX3_init 46 = .ok (.sipush 2560, 3) := dk_17 10 0 (dk_at dksX3_init_2 0 rfl rfl)
theorem dX3_init_49 : decode cX3_init 49 = .ok (.newarray .int, 2) := dk_188_10 (dk_at dksX3_init_2 3 rfl rfl)
theorem dX3_init_51 : decode cX3_init 51 = .ok (.putfield 27, 3) := dk_181 0 27 (dk_at dksX3_init_2 5 rfl rfl)
theorem dX3_init_54 : decode cX3_init 54 = .ok (.aload_n 0, 1) := dk_42 (dk_at dksX3_init_2 8 rfl rfl)
theorem dX3_init_55 : decode cX3_init 55 = .ok (.iconst 1, 1) := dk_4 (dk_at dksX3_init_2 9 rfl rfl)
theorem dX3_init_56 : decode cX3_init 56 = .ok (.putfield 30, 3) := dk_181 0 30 (dk_at dksX3_init_2 10 rfl rfl)
theorem dX3_init_59 : decode cX3_init 59 = .ok (.aload_n 0, 1) := dk_42 (dk_at dksX3_init_2 13 rfl rfl)
theorem dX3_init_60 : decode cX3_init 60 = .ok (.sipush 600, 3) := dk_17 2 88 (dk_at dksX3_init_2 14 rfl rfl)
theorem dX3_init_63 : decode cX3_init 63 = .ok (.newarray .byte, 2) := dk_188_8 (dk_at dksX3_init_2 17 rfl rfl)
theorem dX3_init_65 : decode cX3_init 65 = .ok (.putfield 34, 3) := dk_181 0 34 (dk_at dksX3_init_2 19 rfl rfl)
theorem dX3_init_68 : decode cX3_init 68 = .ok (.aload_n 0, 1) := dk_42 (dk_at dksX3_init_2 22 rfl rfl)
theorem dX3_init_69 : decode cX3_init 69 = .ok (.bipush 16, 2) := dk_16 16 (dk_at dksX3_init_3 0 rfl rfl)
theorem dX3_init_71 : decode cX3_init 71 = .ok (.newarray .long, 2) := dk_188_11 (dk_at dksX3_init_3 2 rfl rfl)
theorem dX3_init_73 : decode cX3_init 73 = .ok (.putfield 38, 3) := dk_181 0 38 (dk_at dksX3_init_3 4 rfl rfl)
theorem dX3_init_76 : decode cX3_init 76 = .ok (.aload_n 0, 1) := dk_42 (dk_at dksX3_init_3 7 rfl rfl)
theorem dX3_init_77 : decode cX3_init 77 = .ok (.sipush 600, 3) := dk_17 2 88 (dk_at dksX3_init_3 8 rfl rfl)
theorem dX3_init_80 : decode cX3_init 80 = .ok (.newarray .int, 2) := dk_188_10 (dk_at dksX3_init_3 11 rfl rfl)
theorem dX3_init_82 : decode cX3_init 82 = .ok (.putfield 41, 3) := dk_181 0 41 (dk_at dksX3_init_3 13 rfl rfl)
theorem dX3_init_85 : decode cX3_init 85 = .ok (.aload_n 0, 1) := dk_42 (dk_at dksX3_init_3 16 rfl rfl)
theorem dX3_init_86 : decode cX3_init 86 = .ok (.sipush 256, 3) := dk_17 1 0 (dk_at dksX3_init_3 17 rfl rfl)
theorem dX3_init_89 : decode cX3_init 89 = .ok (.newarray .int, 2) := dk_188_10 (dk_at dksX3_init_3 20 rfl rfl)
theorem dX3_init_91 : decode cX3_init 91 = .ok (.putfield 44, 3) := dk_181 0 44 (dk_at dksX3_init_4 0 rfl rfl)
theorem dX3_init_94 : decode cX3_init 94 = .ok (.iconst 0, 1) := dk_3 (dk_at dksX3_init_4 3 rfl rfl)
theorem dX3_init_95 : decode cX3_init 95 = .ok (.istore_n 1, 1) := dk_60 (dk_at dksX3_init_4 4 rfl rfl)
theorem dX3_init_96 : decode cX3_init 96 = .ok (.iload_n 1, 1) := dk_27 (dk_at dksX3_init_4 5 rfl rfl)
theorem dX3_init_97 : decode cX3_init 97 = .ok (.bipush 10, 2) := dk_16 10 (dk_at dksX3_init_4 6 rfl rfl)
theorem dX3_init_99 : decode cX3_init 99 = .ok (.if_icmp .ge 17, 3) := dk_162 0 17 (dk_at dksX3_init_4 8 rfl rfl)
theorem dX3_init_102 : decode cX3_init 102 = .ok (.aload_n 0, 1) := dk_42 (dk_at dksX3_init_4 11 rfl rfl)
theorem dX3_init_103 : decode cX3_init 103 = .ok (.iload_n 1, 1) := dk_27 (dk_at dksX3_init_4 12 rfl rfl)
theorem dX3_init_104 : decode cX3_init 104 = .ok (.iconst 4, 1) := dk_7 (dk_at dksX3_init_4 13 rfl rfl)
theorem dX3_init_105 : decode cX3_init 105 = .ok (.bipush 12, 2) := dk_16 12 (dk_at dksX3_init_4 14 rfl rfl)
theorem dX3_init_107 : decode cX3_init 107 = .ok (.invokevirtual 47, 3) := dk_182 0 47 (dk_at dksX3_init_4 16 rfl rfl)
theorem dX3_init_110 : decode cX3_init 110 = .ok (.iinc 1 1, 3) := dk_132 1 1 (dk_at dksX3_init_4 19 rfl rfl)
theorem dX3_init_113 : decode cX3_init 113 = .ok (.goto (-17), 3) := dk_167 255 239 (dk_at dksX3_init_5 0 rfl rfl)
theorem dX3_init_116 : decode cX3_init 116 = .ok (.return_, 1) := dk_177 (dk_at dksX3_init_5 3 rfl rfl)
abbrev cX3_opensSlot : ByteArray := prog_10_method_18_code
def yX3_opensSlot : MethodName := ⟨RX3, "opensSlot", "(III)V"⟩
def dkwX3_opensSlot_2 : List UInt8 := [184, 0, 92, 3, 79, 132, 4, 1, 167, 255, 233, 177]
abbrev dktX3_opensSlot_2 : List UInt8 := dkwX3_opensSlot_2 ++ []
def dkwX3_opensSlot_1 : List UInt8 := [180, 0, 24, 27, 3, 79, 3, 54, 4, 21, 4, 17, 1, 0, 162, 0, 21, 42, 180, 0, 27, 27, 21, 4]
abbrev dktX3_opensSlot_1 : List UInt8 := dkwX3_opensSlot_1 ++ dktX3_opensSlot_2
def dkwX3_opensSlot_0 : List UInt8 := [42, 180, 0, 7, 27, 28, 79, 42, 180, 0, 13, 27, 29, 79, 42, 180, 0, 16, 27, 3, 84, 42]
abbrev dktX3_opensSlot_0 : List UInt8 := dkwX3_opensSlot_0 ++ dktX3_opensSlot_1
theorem dksX3_opensSlot_0 : cX3_opensSlot.data.toList.drop 0 = dktX3_opensSlot_0 := by decide +kernel
theorem dksX3_opensSlot_1 : cX3_opensSlot.data.toList.drop 22 = dktX3_opensSlot_1 := dk_seg dksX3_opensSlot_0 22 rfl rfl
theorem dksX3_opensSlot_2 : cX3_opensSlot.data.toList.drop 46 = dktX3_opensSlot_2 := dk_seg dksX3_opensSlot_1 24 rfl rfl
theorem dX3_opensSlot_0 : decode cX3_opensSlot 0 = .ok (.aload_n 0, 1) := dk_42 (dk_at dksX3_opensSlot_0 0 rfl rfl)
theorem dX3_opensSlot_1 : decode cX3_opensSlot 1 = .ok (.getfield 7, 3) := dk_180 0 7 (dk_at dksX3_opensSlot_0 1 rfl rfl)
theorem dX3_opensSlot_4 : decode cX3_opensSlot 4 = .ok (.iload_n 1, 1) := dk_27 (dk_at dksX3_opensSlot_0 4 rfl rfl)
theorem dX3_opensSlot_5 : decode cX3_opensSlot 5 = .ok (.iload_n 2, 1) := dk_28 (dk_at dksX3_opensSlot_0 5 rfl rfl)
theorem dX3_opensSlot_6 : decode cX3_opensSlot 6 = .ok (.iastore, 1) := dk_79 (dk_at dksX3_opensSlot_0 6 rfl rfl)
theorem dX3_opensSlot_7 : decode cX3_opensSlot 7 = .ok (.aload_n 0, 1) := dk_42 (dk_at dksX3_opensSlot_0 7 rfl rfl)
theorem dX3_opensSlot_8 : decode cX3_opensSlot 8 = .ok (.getfield 13, 3) := dk_180 0 13 (dk_at dksX3_opensSlot_0 8 rfl rfl)
theorem dX3_opensSlot_11 : decode cX3_opensSlot 11 = .ok (.iload_n 1, 1) := dk_27 (dk_at dksX3_opensSlot_0 11 rfl rfl)
theorem dX3_opensSlot_12 : decode cX3_opensSlot 12 = .ok (.iload_n 3, 1) := dk_29 (dk_at dksX3_opensSlot_0 12 rfl rfl)
theorem dX3_opensSlot_13 : decode cX3_opensSlot 13 = .ok (.iastore, 1) := dk_79 (dk_at dksX3_opensSlot_0 13 rfl rfl)
theorem dX3_opensSlot_14 : decode cX3_opensSlot 14 = .ok (.aload_n 0, 1) := dk_42 (dk_at dksX3_opensSlot_0 14 rfl rfl)
theorem dX3_opensSlot_15 : decode cX3_opensSlot 15 = .ok (.getfield 16, 3) := dk_180 0 16 (dk_at dksX3_opensSlot_0 15 rfl rfl)
theorem dX3_opensSlot_18 : decode cX3_opensSlot 18 = .ok (.iload_n 1, 1) := dk_27 (dk_at dksX3_opensSlot_0 18 rfl rfl)
theorem dX3_opensSlot_19 : decode cX3_opensSlot 19 = .ok (.iconst 0, 1) := dk_3 (dk_at dksX3_opensSlot_0 19 rfl rfl)
theorem dX3_opensSlot_20 : decode cX3_opensSlot 20 = .ok (.bastore, 1) := dk_84 (dk_at dksX3_opensSlot_0 20 rfl rfl)
theorem dX3_opensSlot_21 : decode cX3_opensSlot 21 = .ok (.aload_n 0, 1) := dk_42 (dk_at dksX3_opensSlot_0 21 rfl rfl)
theorem dX3_opensSlot_22 : decode cX3_opensSlot 22 = .ok (.getfield 24, 3) := dk_180 0 24 (dk_at dksX3_opensSlot_1 0 rfl rfl)
theorem dX3_opensSlot_25 : decode cX3_opensSlot 25 = .ok (.iload_n 1, 1) := dk_27 (dk_at dksX3_opensSlot_1 3 rfl rfl)
theorem dX3_opensSlot_26 : decode cX3_opensSlot 26 = .ok (.iconst 0, 1) := dk_3 (dk_at dksX3_opensSlot_1 4 rfl rfl)
theorem dX3_opensSlot_27 : decode cX3_opensSlot 27 = .ok (.iastore, 1) := dk_79 (dk_at dksX3_opensSlot_1 5 rfl rfl)
theorem dX3_opensSlot_28 : decode cX3_opensSlot 28 = .ok (.iconst 0, 1) := dk_3 (dk_at dksX3_opensSlot_1 6 rfl rfl)
theorem dX3_opensSlot_29 : decode cX3_opensSlot 29 = .ok (.istore 4, 2) := dk_54 4 (dk_at dksX3_opensSlot_1 7 rfl rfl)
theorem dX3_opensSlot_31 : decode cX3_opensSlot 31 = .ok (.iload 4, 2) := dk_21 4 (dk_at dksX3_opensSlot_1 9 rfl rfl)
theorem dX3_opensSlot_33 : decode cX3_opensSlot 33 = .ok (.sipush 256, 3) := dk_17 1 0 (dk_at dksX3_opensSlot_1 11 rfl rfl)
theorem dX3_opensSlot_36 : decode cX3_opensSlot 36 = .ok (.if_icmp .ge 21, 3) := dk_162 0 21 (dk_at dksX3_opensSlot_1 14 rfl rfl)
theorem dX3_opensSlot_39 : decode cX3_opensSlot 39 = .ok (.aload_n 0, 1) := dk_42 (dk_at dksX3_opensSlot_1 17 rfl rfl)
theorem dX3_opensSlot_40 : decode cX3_opensSlot 40 = .ok (.getfield 27, 3) := dk_180 0 27 (dk_at dksX3_opensSlot_1 18 rfl rfl)
theorem dX3_opensSlot_43 : decode cX3_opensSlot 43 = .ok (.iload_n 1, 1) := dk_27 (dk_at dksX3_opensSlot_1 21 rfl rfl)
theorem dX3_opensSlot_44 : decode cX3_opensSlot 44 = .ok (.iload 4, 2) := dk_21 4 (dk_at dksX3_opensSlot_1 22 rfl rfl)
theorem dX3_opensSlot_46 : decode cX3_opensSlot 46 = .ok (.invokestatic 92, 3) := dk_184 0 92 (dk_at dksX3_opensSlot_2 0 rfl rfl)
theorem dX3_opensSlot_49 : decode cX3_opensSlot 49 = .ok (.iconst 0, 1) := dk_3 (dk_at dksX3_opensSlot_2 3 rfl rfl)
theorem dX3_opensSlot_50 : decode cX3_opensSlot 50 = .ok (.iastore, 1) := dk_79 (dk_at dksX3_opensSlot_2 4 rfl rfl)
theorem dX3_opensSlot_51 : decode cX3_opensSlot 51 = .ok (.iinc 4 1, 3) := dk_132 4 1 (dk_at dksX3_opensSlot_2 5 rfl rfl)
theorem dX3_opensSlot_54 : decode cX3_opensSlot 54 = .ok (.goto (-23), 3) := dk_167 255 233 (dk_at dksX3_opensSlot_2 8 rfl rfl)
theorem dX3_opensSlot_57 : decode cX3_opensSlot 57 = .ok (.return_, 1) := dk_177 (dk_at dksX3_opensSlot_2 11 rfl rfl)
abbrev cX3_at : ByteArray := prog_10_method_17_code
def yX3_at : MethodName := ⟨RX3, "at", "(II)I"⟩
def dkwX3_at_0 : List UInt8 := [17, 1, 0, 26, 104, 27, 96, 172]
abbrev dktX3_at_0 : List UInt8 := dkwX3_at_0 ++ []
theorem dksX3_at_0 : cX3_at.data.toList.drop 0 = dktX3_at_0 := by decide +kernel
theorem dX3_at_0 : decode cX3_at 0 = .ok (.sipush 256, 3) := dk_17 1 0 (dk_at dksX3_at_0 0 rfl rfl)
theorem dX3_at_3 : decode cX3_at 3 = .ok (.iload_n 0, 1) := dk_26 (dk_at dksX3_at_0 3 rfl rfl)
theorem dX3_at_4 : decode cX3_at 4 = .ok (.imul, 1) := dk_104 (dk_at dksX3_at_0 4 rfl rfl)
theorem dX3_at_5 : decode cX3_at 5 = .ok (.iload_n 1, 1) := dk_27 (dk_at dksX3_at_0 5 rfl rfl)
theorem dX3_at_6 : decode cX3_at 6 = .ok (.iadd, 1) := dk_96 (dk_at dksX3_at_0 6 rfl rfl)
theorem dX3_at_7 : decode cX3_at 7 = .ok (.ireturn, 1) := dk_172 (dk_at dksX3_at_0 7 rfl rfl)
abbrev cX3_thrown : ByteArray := prog_10_method_2_code
def yX3_thrown : MethodName := ⟨RX3, "thrown", "()I"⟩
theorem dX3_thrown_0 : decode cX3_thrown 0 = .ok (.aload_n 0, 1) := by decide +kernel
theorem dX3_thrown_1 : decode cX3_thrown 1 = .ok (.getfield 51, 3) := by decide +kernel
theorem dX3_thrown_4 : decode cX3_thrown 4 = .ok (.ireturn, 1) := by decide +kernel
abbrev cX3_sign : ByteArray := prog_10_method_6_code
def yX3_sign : MethodName := ⟨RX3, "sign", "(I)I"⟩
def dkwX3_sign_2 : List UInt8 := [145, 84, 132, 2, 255, 167, 255, 226, 42, 180, 0, 57, 172]
abbrev dktX3_sign_2 : List UInt8 := dkwX3_sign_2 ++ []
def dkwX3_sign_1 : List UInt8 := [155, 0, 32, 42, 180, 0, 34, 42, 89, 180, 0, 57, 90, 4, 96, 181, 0, 57, 27, 16, 8, 28, 104, 122]
abbrev dktX3_sign_1 : List UInt8 := dkwX3_sign_1 ++ dktX3_sign_2
def dkwX3_sign_0 : List UInt8 := [42, 3, 181, 0, 51, 42, 180, 0, 57, 7, 96, 17, 2, 88, 164, 0, 5, 2, 172, 6, 61, 28]
abbrev dktX3_sign_0 : List UInt8 := dkwX3_sign_0 ++ dktX3_sign_1
theorem dksX3_sign_0 : cX3_sign.data.toList.drop 0 = dktX3_sign_0 := by decide +kernel
theorem dksX3_sign_1 : cX3_sign.data.toList.drop 22 = dktX3_sign_1 := dk_seg dksX3_sign_0 22 rfl rfl
theorem dksX3_sign_2 : cX3_sign.data.toList.drop 46 = dktX3_sign_2 := dk_seg dksX3_sign_1 24 rfl rfl
theorem dX3_sign_0 : decode cX3_sign 0 = .ok (.aload_n 0, 1) := dk_42 (dk_at dksX3_sign_0 0 rfl rfl)
theorem dX3_sign_1 : decode cX3_sign 1 = .ok (.iconst 0, 1) := dk_3 (dk_at dksX3_sign_0 1 rfl rfl)
theorem dX3_sign_2 : decode cX3_sign 2 = .ok (.putfield 51, 3) := dk_181 0 51 (dk_at dksX3_sign_0 2 rfl rfl)
theorem dX3_sign_5 : decode cX3_sign 5 = .ok (.aload_n 0, 1) := dk_42 (dk_at dksX3_sign_0 5 rfl rfl)
theorem dX3_sign_6 : decode cX3_sign 6 = .ok (.getfield 57, 3) := dk_180 0 57 (dk_at dksX3_sign_0 6 rfl rfl)
theorem dX3_sign_9 : decode cX3_sign 9 = .ok (.iconst 4, 1) := dk_7 (dk_at dksX3_sign_0 9 rfl rfl)
theorem dX3_sign_10 : decode cX3_sign 10 = .ok (.iadd, 1) := dk_96 (dk_at dksX3_sign_0 10 rfl rfl)
theorem dX3_sign_11 : decode cX3_sign 11 = .ok (.sipush 600, 3) := dk_17 2 88 (dk_at dksX3_sign_0 11 rfl rfl)
theorem dX3_sign_14 : decode cX3_sign 14 = .ok (.if_icmp .le 5, 3) := dk_164 0 5 (dk_at dksX3_sign_0 14 rfl rfl)
theorem dX3_sign_17 : decode cX3_sign 17 = .ok (.iconst (-1), 1) := dk_2 (dk_at dksX3_sign_0 17 rfl rfl)
theorem dX3_sign_18 : decode cX3_sign 18 = .ok (.ireturn, 1) := dk_172 (dk_at dksX3_sign_0 18 rfl rfl)
theorem dX3_sign_19 : decode cX3_sign 19 = .ok (.iconst 3, 1) := dk_6 (dk_at dksX3_sign_0 19 rfl rfl)
theorem dX3_sign_20 : decode cX3_sign 20 = .ok (.istore_n 2, 1) := dk_61 (dk_at dksX3_sign_0 20 rfl rfl)
theorem dX3_sign_21 : decode cX3_sign 21 = .ok (.iload_n 2, 1) := dk_28 (dk_at dksX3_sign_0 21 rfl rfl)
theorem dX3_sign_22 : decode cX3_sign 22 = .ok (.ifCond .lt 32, 3) := dk_155 0 32 (dk_at dksX3_sign_1 0 rfl rfl)
theorem dX3_sign_25 : decode cX3_sign 25 = .ok (.aload_n 0, 1) := dk_42 (dk_at dksX3_sign_1 3 rfl rfl)
theorem dX3_sign_26 : decode cX3_sign 26 = .ok (.getfield 34, 3) := dk_180 0 34 (dk_at dksX3_sign_1 4 rfl rfl)
theorem dX3_sign_29 : decode cX3_sign 29 = .ok (.aload_n 0, 1) := dk_42 (dk_at dksX3_sign_1 7 rfl rfl)
theorem dX3_sign_30 : decode cX3_sign 30 = .ok (.dup, 1) := dk_89 (dk_at dksX3_sign_1 8 rfl rfl)
theorem dX3_sign_31 : decode cX3_sign 31 = .ok (.getfield 57, 3) := dk_180 0 57 (dk_at dksX3_sign_1 9 rfl rfl)
theorem dX3_sign_34 : decode cX3_sign 34 = .ok (.dup_x1, 1) := dk_90 (dk_at dksX3_sign_1 12 rfl rfl)
theorem dX3_sign_35 : decode cX3_sign 35 = .ok (.iconst 1, 1) := dk_4 (dk_at dksX3_sign_1 13 rfl rfl)
theorem dX3_sign_36 : decode cX3_sign 36 = .ok (.iadd, 1) := dk_96 (dk_at dksX3_sign_1 14 rfl rfl)
theorem dX3_sign_37 : decode cX3_sign 37 = .ok (.putfield 57, 3) := dk_181 0 57 (dk_at dksX3_sign_1 15 rfl rfl)
theorem dX3_sign_40 : decode cX3_sign 40 = .ok (.iload_n 1, 1) := dk_27 (dk_at dksX3_sign_1 18 rfl rfl)
theorem dX3_sign_41 : decode cX3_sign 41 = .ok (.bipush 8, 2) := dk_16 8 (dk_at dksX3_sign_1 19 rfl rfl)
theorem dX3_sign_43 : decode cX3_sign 43 = .ok (.iload_n 2, 1) := dk_28 (dk_at dksX3_sign_1 21 rfl rfl)
theorem dX3_sign_44 : decode cX3_sign 44 = .ok (.imul, 1) := dk_104 (dk_at dksX3_sign_1 22 rfl rfl)
theorem dX3_sign_45 : decode cX3_sign 45 = .ok (.ishr, 1) := dk_122 (dk_at dksX3_sign_1 23 rfl rfl)
theorem dX3_sign_46 : decode cX3_sign 46 = .ok (.i2b, 1) := dk_145 (dk_at dksX3_sign_2 0 rfl rfl)
theorem dX3_sign_47 : decode cX3_sign 47 = .ok (.bastore, 1) := dk_84 (dk_at dksX3_sign_2 1 rfl rfl)
theorem dX3_sign_48 : decode cX3_sign 48 = .ok (.iinc 2 (-1), 3) := dk_132 2 255 (dk_at dksX3_sign_2 2 rfl rfl)
theorem dX3_sign_51 : decode cX3_sign 51 = .ok (.goto (-30), 3) := dk_167 255 226 (dk_at dksX3_sign_2 5 rfl rfl)
theorem dX3_sign_54 : decode cX3_sign 54 = .ok (.aload_n 0, 1) := dk_42 (dk_at dksX3_sign_2 8 rfl rfl)
theorem dX3_sign_55 : decode cX3_sign 55 = .ok (.getfield 57, 3) := dk_180 0 57 (dk_at dksX3_sign_2 9 rfl rfl)
theorem dX3_sign_58 : decode cX3_sign 58 = .ok (.ireturn, 1) := dk_172 (dk_at dksX3_sign_2 12 rfl rfl)
abbrev cX3_end : ByteArray := prog_10_method_7_code
def yX3_end : MethodName := ⟨RX3, "end", "(I)Z"⟩
def dkwX3_end_1 : List UInt8 := [181, 0, 57, 4, 172]
abbrev dktX3_end_1 : List UInt8 := dkwX3_end_1 ++ []
def dkwX3_end_0 : List UInt8 := [42, 3, 181, 0, 51, 27, 133, 9, 42, 180, 0, 57, 133, 184, 0, 60, 154, 0, 5, 3, 172, 42, 27]
abbrev dktX3_end_0 : List UInt8 := dkwX3_end_0 ++ dktX3_end_1
theorem dksX3_end_0 : cX3_end.data.toList.drop 0 = dktX3_end_0 := by decide +kernel
theorem dksX3_end_1 : cX3_end.data.toList.drop 23 = dktX3_end_1 := dk_seg dksX3_end_0 23 rfl rfl
theorem dX3_end_0 : decode cX3_end 0 = .ok (.aload_n 0, 1) := dk_42 (dk_at dksX3_end_0 0 rfl rfl)
theorem dX3_end_1 : decode cX3_end 1 = .ok (.iconst 0, 1) := dk_3 (dk_at dksX3_end_0 1 rfl rfl)
theorem dX3_end_2 : decode cX3_end 2 = .ok (.putfield 51, 3) := dk_181 0 51 (dk_at dksX3_end_0 2 rfl rfl)
theorem dX3_end_5 : decode cX3_end 5 = .ok (.iload_n 1, 1) := dk_27 (dk_at dksX3_end_0 5 rfl rfl)
theorem dX3_end_6 : decode cX3_end 6 = .ok (.i2l, 1) := dk_133 (dk_at dksX3_end_0 6 rfl rfl)
theorem dX3_end_7 : decode cX3_end 7 = .ok (.lconst 0, 1) := dk_9 (dk_at dksX3_end_0 7 rfl rfl)
theorem dX3_end_8 : decode cX3_end 8 = .ok (.aload_n 0, 1) := dk_42 (dk_at dksX3_end_0 8 rfl rfl)
theorem dX3_end_9 : decode cX3_end 9 = .ok (.getfield 57, 3) := dk_180 0 57 (dk_at dksX3_end_0 9 rfl rfl)
theorem dX3_end_12 : decode cX3_end 12 = .ok (.i2l, 1) := dk_133 (dk_at dksX3_end_0 12 rfl rfl)
theorem dX3_end_13 : decode cX3_end 13 = .ok (.invokestatic 60, 3) := dk_184 0 60 (dk_at dksX3_end_0 13 rfl rfl)
theorem dX3_end_16 : decode cX3_end 16 = .ok (.ifCond .ne 5, 3) := dk_154 0 5 (dk_at dksX3_end_0 16 rfl rfl)
theorem dX3_end_19 : decode cX3_end 19 = .ok (.iconst 0, 1) := dk_3 (dk_at dksX3_end_0 19 rfl rfl)
theorem dX3_end_20 : decode cX3_end 20 = .ok (.ireturn, 1) := dk_172 (dk_at dksX3_end_0 20 rfl rfl)
theorem dX3_end_21 : decode cX3_end 21 = .ok (.aload_n 0, 1) := dk_42 (dk_at dksX3_end_0 21 rfl rfl)
theorem dX3_end_22 : decode cX3_end 22 = .ok (.iload_n 1, 1) := dk_27 (dk_at dksX3_end_0 22 rfl rfl)
theorem dX3_end_23 : decode cX3_end 23 = .ok (.putfield 57, 3) := dk_181 0 57 (dk_at dksX3_end_1 0 rfl rfl)
theorem dX3_end_26 : decode cX3_end 26 = .ok (.iconst 1, 1) := dk_4 (dk_at dksX3_end_1 3 rfl rfl)
theorem dX3_end_27 : decode cX3_end 27 = .ok (.ireturn, 1) := dk_172 (dk_at dksX3_end_1 4 rfl rfl)
abbrev cX3_in : ByteArray := prog_10_method_3_code
def yX3_in : MethodName := ⟨RX3, "in", "(JJJ)Z"⟩
def dkwX3_in_0 : List UInt8 := [30, 32, 148, 155, 0, 14, 30, 22, 4, 148, 157, 0, 7, 4, 167, 0, 4, 3, 172]
abbrev dktX3_in_0 : List UInt8 := dkwX3_in_0 ++ []
theorem dksX3_in_0 : cX3_in.data.toList.drop 0 = dktX3_in_0 := by decide +kernel
theorem dX3_in_0 : decode cX3_in 0 = .ok (.lload_n 0, 1) := dk_30 (dk_at dksX3_in_0 0 rfl rfl)
theorem dX3_in_1 : decode cX3_in 1 = .ok (.lload_n 2, 1) := dk_32 (dk_at dksX3_in_0 1 rfl rfl)
theorem dX3_in_2 : decode cX3_in 2 = .ok (.lcmp, 1) := dk_148 (dk_at dksX3_in_0 2 rfl rfl)
theorem dX3_in_3 : decode cX3_in 3 = .ok (.ifCond .lt 14, 3) := dk_155 0 14 (dk_at dksX3_in_0 3 rfl rfl)
theorem dX3_in_6 : decode cX3_in 6 = .ok (.lload_n 0, 1) := dk_30 (dk_at dksX3_in_0 6 rfl rfl)
theorem dX3_in_7 : decode cX3_in 7 = .ok (.lload 4, 2) := dk_22 4 (dk_at dksX3_in_0 7 rfl rfl)
theorem dX3_in_9 : decode cX3_in 9 = .ok (.lcmp, 1) := dk_148 (dk_at dksX3_in_0 9 rfl rfl)
theorem dX3_in_10 : decode cX3_in 10 = .ok (.ifCond .gt 7, 3) := dk_157 0 7 (dk_at dksX3_in_0 10 rfl rfl)
theorem dX3_in_13 : decode cX3_in 13 = .ok (.iconst 1, 1) := dk_4 (dk_at dksX3_in_0 13 rfl rfl)
theorem dX3_in_14 : decode cX3_in 14 = .ok (.goto 4, 3) := dk_167 0 4 (dk_at dksX3_in_0 14 rfl rfl)
theorem dX3_in_17 : decode cX3_in 17 = .ok (.iconst 0, 1) := dk_3 (dk_at dksX3_in_0 17 rfl rfl)
theorem dX3_in_18 : decode cX3_in 18 = .ok (.ireturn, 1) := dk_172 (dk_at dksX3_in_0 18 rfl rfl)
abbrev cX3_mixes : ByteArray := prog_10_method_8_code
def yX3_mixes : MethodName := ⟨RX3, "mixes", "(II)Z"⟩
def dkwX3_mixes_1 : List UInt8 := [172]
abbrev dktX3_mixes_1 : List UInt8 := dkwX3_mixes_1 ++ []
def dkwX3_mixes_0 : List UInt8 := [42, 3, 181, 0, 51, 27, 5, 112, 154, 0, 5, 3, 172, 42, 27, 181, 0, 30, 42, 28, 181, 0, 64, 4]
abbrev dktX3_mixes_0 : List UInt8 := dkwX3_mixes_0 ++ dktX3_mixes_1
theorem dksX3_mixes_0 : cX3_mixes.data.toList.drop 0 = dktX3_mixes_0 := by decide +kernel
theorem dksX3_mixes_1 : cX3_mixes.data.toList.drop 24 = dktX3_mixes_1 := dk_seg dksX3_mixes_0 24 rfl rfl
theorem dX3_mixes_0 : decode cX3_mixes 0 = .ok (.aload_n 0, 1) := dk_42 (dk_at dksX3_mixes_0 0 rfl rfl)
theorem dX3_mixes_1 : decode cX3_mixes 1 = .ok (.iconst 0, 1) := dk_3 (dk_at dksX3_mixes_0 1 rfl rfl)
theorem dX3_mixes_2 : decode cX3_mixes 2 = .ok (.putfield 51, 3) := dk_181 0 51 (dk_at dksX3_mixes_0 2 rfl rfl)
theorem dX3_mixes_5 : decode cX3_mixes 5 = .ok (.iload_n 1, 1) := dk_27 (dk_at dksX3_mixes_0 5 rfl rfl)
theorem dX3_mixes_6 : decode cX3_mixes 6 = .ok (.iconst 2, 1) := dk_5 (dk_at dksX3_mixes_0 6 rfl rfl)
theorem dX3_mixes_7 : decode cX3_mixes 7 = .ok (.irem, 1) := dk_112 (dk_at dksX3_mixes_0 7 rfl rfl)
theorem dX3_mixes_8 : decode cX3_mixes 8 = .ok (.ifCond .ne 5, 3) := dk_154 0 5 (dk_at dksX3_mixes_0 8 rfl rfl)
theorem dX3_mixes_11 : decode cX3_mixes 11 = .ok (.iconst 0, 1) := dk_3 (dk_at dksX3_mixes_0 11 rfl rfl)
theorem dX3_mixes_12 : decode cX3_mixes 12 = .ok (.ireturn, 1) := dk_172 (dk_at dksX3_mixes_0 12 rfl rfl)
theorem dX3_mixes_13 : decode cX3_mixes 13 = .ok (.aload_n 0, 1) := dk_42 (dk_at dksX3_mixes_0 13 rfl rfl)
theorem dX3_mixes_14 : decode cX3_mixes 14 = .ok (.iload_n 1, 1) := dk_27 (dk_at dksX3_mixes_0 14 rfl rfl)
theorem dX3_mixes_15 : decode cX3_mixes 15 = .ok (.putfield 30, 3) := dk_181 0 30 (dk_at dksX3_mixes_0 15 rfl rfl)
theorem dX3_mixes_18 : decode cX3_mixes 18 = .ok (.aload_n 0, 1) := dk_42 (dk_at dksX3_mixes_0 18 rfl rfl)
theorem dX3_mixes_19 : decode cX3_mixes 19 = .ok (.iload_n 2, 1) := dk_28 (dk_at dksX3_mixes_0 19 rfl rfl)
theorem dX3_mixes_20 : decode cX3_mixes 20 = .ok (.putfield 64, 3) := dk_181 0 64 (dk_at dksX3_mixes_0 20 rfl rfl)
theorem dX3_mixes_23 : decode cX3_mixes 23 = .ok (.iconst 1, 1) := dk_4 (dk_at dksX3_mixes_0 23 rfl rfl)
theorem dX3_mixes_24 : decode cX3_mixes 24 = .ok (.ireturn, 1) := dk_172 (dk_at dksX3_mixes_1 0 rfl rfl)
abbrev cX3_mark : ByteArray := prog_10_method_12_code
def yX3_mark : MethodName := ⟨RX3, "mark", "(I)I"⟩
def dkwX3_mark_0 : List UInt8 := [42, 3, 181, 0, 51, 42, 27, 182, 0, 69, 136, 172]
abbrev dktX3_mark_0 : List UInt8 := dkwX3_mark_0 ++ []
theorem dksX3_mark_0 : cX3_mark.data.toList.drop 0 = dktX3_mark_0 := by decide +kernel
theorem dX3_mark_0 : decode cX3_mark 0 = .ok (.aload_n 0, 1) := dk_42 (dk_at dksX3_mark_0 0 rfl rfl)
theorem dX3_mark_1 : decode cX3_mark 1 = .ok (.iconst 0, 1) := dk_3 (dk_at dksX3_mark_0 1 rfl rfl)
theorem dX3_mark_2 : decode cX3_mark 2 = .ok (.putfield 51, 3) := dk_181 0 51 (dk_at dksX3_mark_0 2 rfl rfl)
theorem dX3_mark_5 : decode cX3_mark 5 = .ok (.aload_n 0, 1) := dk_42 (dk_at dksX3_mark_0 5 rfl rfl)
theorem dX3_mark_6 : decode cX3_mark 6 = .ok (.iload_n 1, 1) := dk_27 (dk_at dksX3_mark_0 6 rfl rfl)
theorem dX3_mark_7 : decode cX3_mark 7 = .ok (.invokevirtual 69, 3) := dk_182 0 69 (dk_at dksX3_mark_0 7 rfl rfl)
theorem dX3_mark_10 : decode cX3_mark 10 = .ok (.l2i, 1) := dk_136 (dk_at dksX3_mark_0 10 rfl rfl)
theorem dX3_mark_11 : decode cX3_mark 11 = .ok (.ireturn, 1) := dk_172 (dk_at dksX3_mark_0 11 rfl rfl)
abbrev cX3_markOf : ByteArray := prog_10_method_9_code
def yX3_markOf : MethodName := ⟨RX3, "markOf", "(I)J"⟩
def dkwX3_markOf_0 : List UInt8 := [42, 180, 0, 30, 27, 104, 42, 180, 0, 64, 96, 133, 20, 0, 67, 127, 173]
abbrev dktX3_markOf_0 : List UInt8 := dkwX3_markOf_0 ++ []
theorem dksX3_markOf_0 : cX3_markOf.data.toList.drop 0 = dktX3_markOf_0 := by decide +kernel
theorem dX3_markOf_0 : decode cX3_markOf 0 = .ok (.aload_n 0, 1) := dk_42 (dk_at dksX3_markOf_0 0 rfl rfl)
theorem dX3_markOf_1 : decode cX3_markOf 1 = .ok (.getfield 30, 3) := dk_180 0 30 (dk_at dksX3_markOf_0 1 rfl rfl)
theorem dX3_markOf_4 : decode cX3_markOf 4 = .ok (.iload_n 1, 1) := dk_27 (dk_at dksX3_markOf_0 4 rfl rfl)
theorem dX3_markOf_5 : decode cX3_markOf 5 = .ok (.imul, 1) := dk_104 (dk_at dksX3_markOf_0 5 rfl rfl)
theorem dX3_markOf_6 : decode cX3_markOf 6 = .ok (.aload_n 0, 1) := dk_42 (dk_at dksX3_markOf_0 6 rfl rfl)
theorem dX3_markOf_7 : decode cX3_markOf 7 = .ok (.getfield 64, 3) := dk_180 0 64 (dk_at dksX3_markOf_0 7 rfl rfl)
theorem dX3_markOf_10 : decode cX3_markOf 10 = .ok (.iadd, 1) := dk_96 (dk_at dksX3_markOf_0 10 rfl rfl)
theorem dX3_markOf_11 : decode cX3_markOf 11 = .ok (.i2l, 1) := dk_133 (dk_at dksX3_markOf_0 11 rfl rfl)
theorem dX3_markOf_12 : decode cX3_markOf 12 = .ok (.ldc2_w 67, 3) := dk_20 0 67 (dk_at dksX3_markOf_0 12 rfl rfl)
theorem dX3_markOf_15 : decode cX3_markOf 15 = .ok (.land, 1) := dk_127 (dk_at dksX3_markOf_0 15 rfl rfl)
theorem dX3_markOf_16 : decode cX3_markOf 16 = .ok (.lreturn, 1) := dk_173 (dk_at dksX3_markOf_0 16 rfl rfl)
abbrev cX3_place : ByteArray := prog_10_method_13_code
def yX3_place : MethodName := ⟨RX3, "place", "(II)I"⟩
def dkwX3_place_2 : List UInt8 := [184, 0, 85, 172]
abbrev dktX3_place_2 : List UInt8 := dkwX3_place_2 ++ []
def dkwX3_place_1 : List UInt8 := [181, 0, 54, 42, 42, 28, 182, 0, 69, 27, 184, 0, 77, 133, 182, 0, 81, 42, 28, 182, 0, 69, 27]
abbrev dktX3_place_1 : List UInt8 := dkwX3_place_1 ++ dktX3_place_2
def dkwX3_place_0 : List UInt8 := [42, 3, 181, 0, 51, 27, 133, 20, 0, 73, 20, 0, 75, 184, 0, 60, 154, 0, 5, 2, 172, 42, 3]
abbrev dktX3_place_0 : List UInt8 := dkwX3_place_0 ++ dktX3_place_1
theorem dksX3_place_0 : cX3_place.data.toList.drop 0 = dktX3_place_0 := by decide +kernel
theorem dksX3_place_1 : cX3_place.data.toList.drop 23 = dktX3_place_1 := dk_seg dksX3_place_0 23 rfl rfl
theorem dksX3_place_2 : cX3_place.data.toList.drop 46 = dktX3_place_2 := dk_seg dksX3_place_1 23 rfl rfl
theorem dX3_place_0 : decode cX3_place 0 = .ok (.aload_n 0, 1) := dk_42 (dk_at dksX3_place_0 0 rfl rfl)
theorem dX3_place_1 : decode cX3_place 1 = .ok (.iconst 0, 1) := dk_3 (dk_at dksX3_place_0 1 rfl rfl)
theorem dX3_place_2 : decode cX3_place 2 = .ok (.putfield 51, 3) := dk_181 0 51 (dk_at dksX3_place_0 2 rfl rfl)
theorem dX3_place_5 : decode cX3_place 5 = .ok (.iload_n 1, 1) := dk_27 (dk_at dksX3_place_0 5 rfl rfl)
theorem dX3_place_6 : decode cX3_place 6 = .ok (.i2l, 1) := dk_133 (dk_at dksX3_place_0 6 rfl rfl)
theorem dX3_place_7 : decode cX3_place 7 = .ok (.ldc2_w 73, 3) := dk_20 0 73 (dk_at dksX3_place_0 7 rfl rfl)
theorem dX3_place_10 : decode cX3_place 10 = .ok (.ldc2_w 75, 3) := dk_20 0 75 (dk_at dksX3_place_0 10 rfl rfl)
theorem dX3_place_13 : decode cX3_place 13 = .ok (.invokestatic 60, 3) := dk_184 0 60 (dk_at dksX3_place_0 13 rfl rfl)
theorem dX3_place_16 : decode cX3_place 16 = .ok (.ifCond .ne 5, 3) := dk_154 0 5 (dk_at dksX3_place_0 16 rfl rfl)
theorem dX3_place_19 : decode cX3_place 19 = .ok (.iconst (-1), 1) := dk_2 (dk_at dksX3_place_0 19 rfl rfl)
theorem dX3_place_20 : decode cX3_place 20 = .ok (.ireturn, 1) := dk_172 (dk_at dksX3_place_0 20 rfl rfl)
theorem dX3_place_21 : decode cX3_place 21 = .ok (.aload_n 0, 1) := dk_42 (dk_at dksX3_place_0 21 rfl rfl)
theorem dX3_place_22 : decode cX3_place 22 = .ok (.iconst 0, 1) := dk_3 (dk_at dksX3_place_0 22 rfl rfl)
theorem dX3_place_23 : decode cX3_place 23 = .ok (.putfield 54, 3) := dk_181 0 54 (dk_at dksX3_place_1 0 rfl rfl)
theorem dX3_place_26 : decode cX3_place 26 = .ok (.aload_n 0, 1) := dk_42 (dk_at dksX3_place_1 3 rfl rfl)
theorem dX3_place_27 : decode cX3_place 27 = .ok (.aload_n 0, 1) := dk_42 (dk_at dksX3_place_1 4 rfl rfl)
theorem dX3_place_28 : decode cX3_place 28 = .ok (.iload_n 2, 1) := dk_28 (dk_at dksX3_place_1 5 rfl rfl)
theorem dX3_place_29 : decode cX3_place 29 = .ok (.invokevirtual 69, 3) := dk_182 0 69 (dk_at dksX3_place_1 6 rfl rfl)
theorem dX3_place_32 : decode cX3_place 32 = .ok (.iload_n 1, 1) := dk_27 (dk_at dksX3_place_1 9 rfl rfl)
theorem dX3_place_33 : decode cX3_place 33 = .ok (.invokestatic 77, 3) := dk_184 0 77 (dk_at dksX3_place_1 10 rfl rfl)
theorem dX3_place_36 : decode cX3_place 36 = .ok (.i2l, 1) := dk_133 (dk_at dksX3_place_1 13 rfl rfl)
theorem dX3_place_37 : decode cX3_place 37 = .ok (.invokevirtual 81, 3) := dk_182 0 81 (dk_at dksX3_place_1 14 rfl rfl)
theorem dX3_place_40 : decode cX3_place 40 = .ok (.aload_n 0, 1) := dk_42 (dk_at dksX3_place_1 17 rfl rfl)
theorem dX3_place_41 : decode cX3_place 41 = .ok (.iload_n 2, 1) := dk_28 (dk_at dksX3_place_1 18 rfl rfl)
theorem dX3_place_42 : decode cX3_place 42 = .ok (.invokevirtual 69, 3) := dk_182 0 69 (dk_at dksX3_place_1 19 rfl rfl)
theorem dX3_place_45 : decode cX3_place 45 = .ok (.iload_n 1, 1) := dk_27 (dk_at dksX3_place_1 22 rfl rfl)
theorem dX3_place_46 : decode cX3_place 46 = .ok (.invokestatic 85, 3) := dk_184 0 85 (dk_at dksX3_place_2 0 rfl rfl)
theorem dX3_place_49 : decode cX3_place 49 = .ok (.ireturn, 1) := dk_172 (dk_at dksX3_place_2 3 rfl rfl)
abbrev cX3_rankOf : ByteArray := prog_10_method_11_code
def yX3_rankOf : MethodName := ⟨RX3, "rankOf", "(JI)I"⟩
def dkwX3_rankOf_2 : List UInt8 := [21, 5, 172]
abbrev dktX3_rankOf_2 : List UInt8 := dkwX3_rankOf_2 ++ []
def dkwX3_rankOf_1 : List UInt8 := [155, 0, 23, 33, 21, 6, 123, 10, 127, 9, 148, 154, 0, 12, 132, 5, 1, 132, 6, 255, 167, 255, 234]
abbrev dktX3_rankOf_1 : List UInt8 := dkwX3_rankOf_1 ++ dktX3_rankOf_2
def dkwX3_rankOf_0 : List UInt8 := [30, 10, 16, 32, 28, 100, 121, 10, 101, 127, 66, 4, 54, 5, 16, 31, 28, 100, 54, 6, 21, 6]
abbrev dktX3_rankOf_0 : List UInt8 := dkwX3_rankOf_0 ++ dktX3_rankOf_1
theorem dksX3_rankOf_0 : cX3_rankOf.data.toList.drop 0 = dktX3_rankOf_0 := by decide +kernel
theorem dksX3_rankOf_1 : cX3_rankOf.data.toList.drop 22 = dktX3_rankOf_1 := dk_seg dksX3_rankOf_0 22 rfl rfl
theorem dksX3_rankOf_2 : cX3_rankOf.data.toList.drop 45 = dktX3_rankOf_2 := dk_seg dksX3_rankOf_1 23 rfl rfl
theorem dX3_rankOf_0 : decode cX3_rankOf 0 = .ok (.lload_n 0, 1) := dk_30 (dk_at dksX3_rankOf_0 0 rfl rfl)
theorem dX3_rankOf_1 : decode cX3_rankOf 1 = .ok (.lconst 1, 1) := dk_10 (dk_at dksX3_rankOf_0 1 rfl rfl)
theorem dX3_rankOf_2 : decode cX3_rankOf 2 = .ok (.bipush 32, 2) := dk_16 32 (dk_at dksX3_rankOf_0 2 rfl rfl)
theorem dX3_rankOf_4 : decode cX3_rankOf 4 = .ok (.iload_n 2, 1) := dk_28 (dk_at dksX3_rankOf_0 4 rfl rfl)
theorem dX3_rankOf_5 : decode cX3_rankOf 5 = .ok (.isub, 1) := dk_100 (dk_at dksX3_rankOf_0 5 rfl rfl)
theorem dX3_rankOf_6 : decode cX3_rankOf 6 = .ok (.lshl, 1) := dk_121 (dk_at dksX3_rankOf_0 6 rfl rfl)
theorem dX3_rankOf_7 : decode cX3_rankOf 7 = .ok (.lconst 1, 1) := dk_10 (dk_at dksX3_rankOf_0 7 rfl rfl)
theorem dX3_rankOf_8 : decode cX3_rankOf 8 = .ok (.lsub, 1) := dk_101 (dk_at dksX3_rankOf_0 8 rfl rfl)
theorem dX3_rankOf_9 : decode cX3_rankOf 9 = .ok (.land, 1) := dk_127 (dk_at dksX3_rankOf_0 9 rfl rfl)
theorem dX3_rankOf_10 : decode cX3_rankOf 10 = .ok (.lstore_n 3, 1) := dk_66 (dk_at dksX3_rankOf_0 10 rfl rfl)
theorem dX3_rankOf_11 : decode cX3_rankOf 11 = .ok (.iconst 1, 1) := dk_4 (dk_at dksX3_rankOf_0 11 rfl rfl)
theorem dX3_rankOf_12 : decode cX3_rankOf 12 = .ok (.istore 5, 2) := dk_54 5 (dk_at dksX3_rankOf_0 12 rfl rfl)
theorem dX3_rankOf_14 : decode cX3_rankOf 14 = .ok (.bipush 31, 2) := dk_16 31 (dk_at dksX3_rankOf_0 14 rfl rfl)
theorem dX3_rankOf_16 : decode cX3_rankOf 16 = .ok (.iload_n 2, 1) := dk_28 (dk_at dksX3_rankOf_0 16 rfl rfl)
theorem dX3_rankOf_17 : decode cX3_rankOf 17 = .ok (.isub, 1) := dk_100 (dk_at dksX3_rankOf_0 17 rfl rfl)
theorem dX3_rankOf_18 : decode cX3_rankOf 18 = .ok (.istore 6, 2) := dk_54 6 (dk_at dksX3_rankOf_0 18 rfl rfl)
theorem dX3_rankOf_20 : decode cX3_rankOf 20 = .ok (.iload 6, 2) := dk_21 6 (dk_at dksX3_rankOf_0 20 rfl rfl)
theorem dX3_rankOf_22 : decode cX3_rankOf 22 = .ok (.ifCond .lt 23, 3) := dk_155 0 23 (dk_at dksX3_rankOf_1 0 rfl rfl)
theorem dX3_rankOf_25 : decode cX3_rankOf 25 = .ok (.lload_n 3, 1) := dk_33 (dk_at dksX3_rankOf_1 3 rfl rfl)
theorem dX3_rankOf_26 : decode cX3_rankOf 26 = .ok (.iload 6, 2) := dk_21 6 (dk_at dksX3_rankOf_1 4 rfl rfl)
theorem dX3_rankOf_28 : decode cX3_rankOf 28 = .ok (.lshr, 1) := dk_123 (dk_at dksX3_rankOf_1 6 rfl rfl)
theorem dX3_rankOf_29 : decode cX3_rankOf 29 = .ok (.lconst 1, 1) := dk_10 (dk_at dksX3_rankOf_1 7 rfl rfl)
theorem dX3_rankOf_30 : decode cX3_rankOf 30 = .ok (.land, 1) := dk_127 (dk_at dksX3_rankOf_1 8 rfl rfl)
theorem dX3_rankOf_31 : decode cX3_rankOf 31 = .ok (.lconst 0, 1) := dk_9 (dk_at dksX3_rankOf_1 9 rfl rfl)
theorem dX3_rankOf_32 : decode cX3_rankOf 32 = .ok (.lcmp, 1) := dk_148 (dk_at dksX3_rankOf_1 10 rfl rfl)
theorem dX3_rankOf_33 : decode cX3_rankOf 33 = .ok (.ifCond .ne 12, 3) := dk_154 0 12 (dk_at dksX3_rankOf_1 11 rfl rfl)
theorem dX3_rankOf_36 : decode cX3_rankOf 36 = .ok (.iinc 5 1, 3) := dk_132 5 1 (dk_at dksX3_rankOf_1 14 rfl rfl)
theorem dX3_rankOf_39 : decode cX3_rankOf 39 = .ok (.iinc 6 (-1), 3) := dk_132 6 255 (dk_at dksX3_rankOf_1 17 rfl rfl)
theorem dX3_rankOf_42 : decode cX3_rankOf 42 = .ok (.goto (-22), 3) := dk_167 255 234 (dk_at dksX3_rankOf_1 20 rfl rfl)
theorem dX3_rankOf_45 : decode cX3_rankOf 45 = .ok (.iload 5, 2) := dk_21 5 (dk_at dksX3_rankOf_2 0 rfl rfl)
theorem dX3_rankOf_47 : decode cX3_rankOf 47 = .ok (.ireturn, 1) := dk_172 (dk_at dksX3_rankOf_2 2 rfl rfl)
abbrev cX3_tell : ByteArray := prog_10_method_5_code
def yX3_tell : MethodName := ⟨RX3, "tell", "(J)V"⟩
def dkwX3_tell_0 : List UInt8 := [42, 180, 0, 38, 42, 180, 0, 54, 31, 80, 42, 89, 180, 0, 54, 4, 96, 181, 0, 54, 177]
abbrev dktX3_tell_0 : List UInt8 := dkwX3_tell_0 ++ []
theorem dksX3_tell_0 : cX3_tell.data.toList.drop 0 = dktX3_tell_0 := by decide +kernel
theorem dX3_tell_0 : decode cX3_tell 0 = .ok (.aload_n 0, 1) := dk_42 (dk_at dksX3_tell_0 0 rfl rfl)
theorem dX3_tell_1 : decode cX3_tell 1 = .ok (.getfield 38, 3) := dk_180 0 38 (dk_at dksX3_tell_0 1 rfl rfl)
theorem dX3_tell_4 : decode cX3_tell 4 = .ok (.aload_n 0, 1) := dk_42 (dk_at dksX3_tell_0 4 rfl rfl)
theorem dX3_tell_5 : decode cX3_tell 5 = .ok (.getfield 54, 3) := dk_180 0 54 (dk_at dksX3_tell_0 5 rfl rfl)
theorem dX3_tell_8 : decode cX3_tell 8 = .ok (.lload_n 1, 1) := dk_31 (dk_at dksX3_tell_0 8 rfl rfl)
theorem dX3_tell_9 : decode cX3_tell 9 = .ok (.lastore, 1) := dk_80 (dk_at dksX3_tell_0 9 rfl rfl)
theorem dX3_tell_10 : decode cX3_tell 10 = .ok (.aload_n 0, 1) := dk_42 (dk_at dksX3_tell_0 10 rfl rfl)
theorem dX3_tell_11 : decode cX3_tell 11 = .ok (.dup, 1) := dk_89 (dk_at dksX3_tell_0 11 rfl rfl)
theorem dX3_tell_12 : decode cX3_tell 12 = .ok (.getfield 54, 3) := dk_180 0 54 (dk_at dksX3_tell_0 12 rfl rfl)
theorem dX3_tell_15 : decode cX3_tell 15 = .ok (.iconst 1, 1) := dk_4 (dk_at dksX3_tell_0 15 rfl rfl)
theorem dX3_tell_16 : decode cX3_tell 16 = .ok (.iadd, 1) := dk_96 (dk_at dksX3_tell_0 16 rfl rfl)
theorem dX3_tell_17 : decode cX3_tell 17 = .ok (.putfield 54, 3) := dk_181 0 54 (dk_at dksX3_tell_0 17 rfl rfl)
theorem dX3_tell_20 : decode cX3_tell 20 = .ok (.return_, 1) := dk_177 (dk_at dksX3_tell_0 20 rfl rfl)
abbrev cX3_placeOf : ByteArray := prog_10_method_10_code
def yX3_placeOf : MethodName := ⟨RX3, "placeOf", "(JI)I"⟩
def dkwX3_placeOf_0 : List UInt8 := [30, 16, 32, 28, 100, 123, 136, 172]
abbrev dktX3_placeOf_0 : List UInt8 := dkwX3_placeOf_0 ++ []
theorem dksX3_placeOf_0 : cX3_placeOf.data.toList.drop 0 = dktX3_placeOf_0 := by decide +kernel
theorem dX3_placeOf_0 : decode cX3_placeOf 0 = .ok (.lload_n 0, 1) := dk_30 (dk_at dksX3_placeOf_0 0 rfl rfl)
theorem dX3_placeOf_1 : decode cX3_placeOf 1 = .ok (.bipush 32, 2) := dk_16 32 (dk_at dksX3_placeOf_0 1 rfl rfl)
theorem dX3_placeOf_3 : decode cX3_placeOf 3 = .ok (.iload_n 2, 1) := dk_28 (dk_at dksX3_placeOf_0 3 rfl rfl)
theorem dX3_placeOf_4 : decode cX3_placeOf 4 = .ok (.isub, 1) := dk_100 (dk_at dksX3_placeOf_0 4 rfl rfl)
theorem dX3_placeOf_5 : decode cX3_placeOf 5 = .ok (.lshr, 1) := dk_123 (dk_at dksX3_placeOf_0 5 rfl rfl)
theorem dX3_placeOf_6 : decode cX3_placeOf 6 = .ok (.l2i, 1) := dk_136 (dk_at dksX3_placeOf_0 6 rfl rfl)
theorem dX3_placeOf_7 : decode cX3_placeOf 7 = .ok (.ireturn, 1) := dk_172 (dk_at dksX3_placeOf_0 7 rfl rfl)
abbrev cX3_opens : ByteArray := prog_10_method_27_code
def yX3_opens : MethodName := ⟨RX3, "opens", "(III)I"⟩
def dkwX3_opens_2 : List UInt8 := [42, 27, 182, 0, 117, 172]
abbrev dktX3_opens_2 : List UInt8 := dkwX3_opens_2 ++ []
def dkwX3_opens_1 : List UInt8 := [153, 0, 15, 29, 133, 10, 20, 0, 115, 184, 0, 60, 154, 0, 5, 2, 172, 42, 27, 28, 29, 182, 0, 47]
abbrev dktX3_opens_1 : List UInt8 := dkwX3_opens_1 ++ dktX3_opens_2
def dkwX3_opens_0 : List UInt8 := [42, 3, 181, 0, 51, 27, 184, 0, 111, 153, 0, 29, 28, 133, 20, 0, 73, 20, 0, 75, 184, 0, 60]
abbrev dktX3_opens_0 : List UInt8 := dkwX3_opens_0 ++ dktX3_opens_1
theorem dksX3_opens_0 : cX3_opens.data.toList.drop 0 = dktX3_opens_0 := by decide +kernel
theorem dksX3_opens_1 : cX3_opens.data.toList.drop 23 = dktX3_opens_1 := dk_seg dksX3_opens_0 23 rfl rfl
theorem dksX3_opens_2 : cX3_opens.data.toList.drop 47 = dktX3_opens_2 := dk_seg dksX3_opens_1 24 rfl rfl
theorem dX3_opens_0 : decode cX3_opens 0 = .ok (.aload_n 0, 1) := dk_42 (dk_at dksX3_opens_0 0 rfl rfl)
theorem dX3_opens_1 : decode cX3_opens 1 = .ok (.iconst 0, 1) := dk_3 (dk_at dksX3_opens_0 1 rfl rfl)
theorem dX3_opens_2 : decode cX3_opens 2 = .ok (.putfield 51, 3) := dk_181 0 51 (dk_at dksX3_opens_0 2 rfl rfl)
theorem dX3_opens_5 : decode cX3_opens 5 = .ok (.iload_n 1, 1) := dk_27 (dk_at dksX3_opens_0 5 rfl rfl)
theorem dX3_opens_6 : decode cX3_opens 6 = .ok (.invokestatic 111, 3) := dk_184 0 111 (dk_at dksX3_opens_0 6 rfl rfl)
theorem dX3_opens_9 : decode cX3_opens 9 = .ok (.ifCond .eq 29, 3) := dk_153 0 29 (dk_at dksX3_opens_0 9 rfl rfl)
theorem dX3_opens_12 : decode cX3_opens 12 = .ok (.iload_n 2, 1) := dk_28 (dk_at dksX3_opens_0 12 rfl rfl)
theorem dX3_opens_13 : decode cX3_opens 13 = .ok (.i2l, 1) := dk_133 (dk_at dksX3_opens_0 13 rfl rfl)
theorem dX3_opens_14 : decode cX3_opens 14 = .ok (.ldc2_w 73, 3) := dk_20 0 73 (dk_at dksX3_opens_0 14 rfl rfl)
theorem dX3_opens_17 : decode cX3_opens 17 = .ok (.ldc2_w 75, 3) := dk_20 0 75 (dk_at dksX3_opens_0 17 rfl rfl)
theorem dX3_opens_20 : decode cX3_opens 20 = .ok (.invokestatic 60, 3) := dk_184 0 60 (dk_at dksX3_opens_0 20 rfl rfl)
theorem dX3_opens_23 : decode cX3_opens 23 = .ok (.ifCond .eq 15, 3) := dk_153 0 15 (dk_at dksX3_opens_1 0 rfl rfl)
theorem dX3_opens_26 : decode cX3_opens 26 = .ok (.iload_n 3, 1) := dk_29 (dk_at dksX3_opens_1 3 rfl rfl)
theorem dX3_opens_27 : decode cX3_opens 27 = .ok (.i2l, 1) := dk_133 (dk_at dksX3_opens_1 4 rfl rfl)
theorem dX3_opens_28 : decode cX3_opens 28 = .ok (.lconst 1, 1) := dk_10 (dk_at dksX3_opens_1 5 rfl rfl)
theorem dX3_opens_29 : decode cX3_opens 29 = .ok (.ldc2_w 115, 3) := dk_20 0 115 (dk_at dksX3_opens_1 6 rfl rfl)
theorem dX3_opens_32 : decode cX3_opens 32 = .ok (.invokestatic 60, 3) := dk_184 0 60 (dk_at dksX3_opens_1 9 rfl rfl)
theorem dX3_opens_35 : decode cX3_opens 35 = .ok (.ifCond .ne 5, 3) := dk_154 0 5 (dk_at dksX3_opens_1 12 rfl rfl)
theorem dX3_opens_38 : decode cX3_opens 38 = .ok (.iconst (-1), 1) := dk_2 (dk_at dksX3_opens_1 15 rfl rfl)
theorem dX3_opens_39 : decode cX3_opens 39 = .ok (.ireturn, 1) := dk_172 (dk_at dksX3_opens_1 16 rfl rfl)
theorem dX3_opens_40 : decode cX3_opens 40 = .ok (.aload_n 0, 1) := dk_42 (dk_at dksX3_opens_1 17 rfl rfl)
theorem dX3_opens_41 : decode cX3_opens 41 = .ok (.iload_n 1, 1) := dk_27 (dk_at dksX3_opens_1 18 rfl rfl)
theorem dX3_opens_42 : decode cX3_opens 42 = .ok (.iload_n 2, 1) := dk_28 (dk_at dksX3_opens_1 19 rfl rfl)
theorem dX3_opens_43 : decode cX3_opens 43 = .ok (.iload_n 3, 1) := dk_29 (dk_at dksX3_opens_1 20 rfl rfl)
theorem dX3_opens_44 : decode cX3_opens 44 = .ok (.invokevirtual 47, 3) := dk_182 0 47 (dk_at dksX3_opens_1 21 rfl rfl)
theorem dX3_opens_47 : decode cX3_opens 47 = .ok (.aload_n 0, 1) := dk_42 (dk_at dksX3_opens_2 0 rfl rfl)
theorem dX3_opens_48 : decode cX3_opens 48 = .ok (.iload_n 1, 1) := dk_27 (dk_at dksX3_opens_2 1 rfl rfl)
theorem dX3_opens_49 : decode cX3_opens 49 = .ok (.invokevirtual 117, 3) := dk_182 0 117 (dk_at dksX3_opens_2 2 rfl rfl)
theorem dX3_opens_52 : decode cX3_opens 52 = .ok (.ireturn, 1) := dk_172 (dk_at dksX3_opens_2 5 rfl rfl)
abbrev cX3_isCounter : ByteArray := prog_10_method_14_code
def yX3_isCounter : MethodName := ⟨RX3, "isCounter", "(I)Z"⟩
def dkwX3_isCounter_0 : List UInt8 := [26, 133, 9, 20, 0, 88, 184, 0, 60, 172]
abbrev dktX3_isCounter_0 : List UInt8 := dkwX3_isCounter_0 ++ []
theorem dksX3_isCounter_0 : cX3_isCounter.data.toList.drop 0 = dktX3_isCounter_0 := by decide +kernel
theorem dX3_isCounter_0 : decode cX3_isCounter 0 = .ok (.iload_n 0, 1) := dk_26 (dk_at dksX3_isCounter_0 0 rfl rfl)
theorem dX3_isCounter_1 : decode cX3_isCounter 1 = .ok (.i2l, 1) := dk_133 (dk_at dksX3_isCounter_0 1 rfl rfl)
theorem dX3_isCounter_2 : decode cX3_isCounter 2 = .ok (.lconst 0, 1) := dk_9 (dk_at dksX3_isCounter_0 2 rfl rfl)
theorem dX3_isCounter_3 : decode cX3_isCounter 3 = .ok (.ldc2_w 88, 3) := dk_20 0 88 (dk_at dksX3_isCounter_0 3 rfl rfl)
theorem dX3_isCounter_6 : decode cX3_isCounter 6 = .ok (.invokestatic 60, 3) := dk_184 0 60 (dk_at dksX3_isCounter_0 6 rfl rfl)
theorem dX3_isCounter_9 : decode cX3_isCounter 9 = .ok (.ireturn, 1) := dk_172 (dk_at dksX3_isCounter_0 9 rfl rfl)
abbrev cX3_places : ByteArray := prog_10_method_16_code
def yX3_places : MethodName := ⟨RX3, "places", "(I)I"⟩
def dkwX3_places_0 : List UInt8 := [4, 42, 180, 0, 7, 27, 46, 120, 172]
abbrev dktX3_places_0 : List UInt8 := dkwX3_places_0 ++ []
theorem dksX3_places_0 : cX3_places.data.toList.drop 0 = dktX3_places_0 := by decide +kernel
theorem dX3_places_0 : decode cX3_places 0 = .ok (.iconst 1, 1) := dk_4 (dk_at dksX3_places_0 0 rfl rfl)
theorem dX3_places_1 : decode cX3_places 1 = .ok (.aload_n 0, 1) := dk_42 (dk_at dksX3_places_0 1 rfl rfl)
theorem dX3_places_2 : decode cX3_places 2 = .ok (.getfield 7, 3) := dk_180 0 7 (dk_at dksX3_places_0 2 rfl rfl)
theorem dX3_places_5 : decode cX3_places 5 = .ok (.iload_n 1, 1) := dk_27 (dk_at dksX3_places_0 5 rfl rfl)
theorem dX3_places_6 : decode cX3_places 6 = .ok (.iaload, 1) := dk_46 (dk_at dksX3_places_0 6 rfl rfl)
theorem dX3_places_7 : decode cX3_places 7 = .ok (.ishl, 1) := dk_120 (dk_at dksX3_places_0 7 rfl rfl)
theorem dX3_places_8 : decode cX3_places 8 = .ok (.ireturn, 1) := dk_172 (dk_at dksX3_places_0 8 rfl rfl)
abbrev cX3_adds : ByteArray := prog_10_method_28_code
def yX3_adds : MethodName := ⟨RX3, "adds", "(II)I"⟩
def dkwX3_adds_1 : List UInt8 := [153, 0, 7, 4, 167, 0, 4, 3, 172]
abbrev dktX3_adds_1 : List UInt8 := dkwX3_adds_1 ++ []
def dkwX3_adds_0 : List UInt8 := [42, 3, 181, 0, 51, 27, 184, 0, 111, 154, 0, 5, 2, 172, 42, 27, 42, 28, 182, 0, 69, 182, 0, 121]
abbrev dktX3_adds_0 : List UInt8 := dkwX3_adds_0 ++ dktX3_adds_1
theorem dksX3_adds_0 : cX3_adds.data.toList.drop 0 = dktX3_adds_0 := by decide +kernel
theorem dksX3_adds_1 : cX3_adds.data.toList.drop 24 = dktX3_adds_1 := dk_seg dksX3_adds_0 24 rfl rfl
theorem dX3_adds_0 : decode cX3_adds 0 = .ok (.aload_n 0, 1) := dk_42 (dk_at dksX3_adds_0 0 rfl rfl)
theorem dX3_adds_1 : decode cX3_adds 1 = .ok (.iconst 0, 1) := dk_3 (dk_at dksX3_adds_0 1 rfl rfl)
theorem dX3_adds_2 : decode cX3_adds 2 = .ok (.putfield 51, 3) := dk_181 0 51 (dk_at dksX3_adds_0 2 rfl rfl)
theorem dX3_adds_5 : decode cX3_adds 5 = .ok (.iload_n 1, 1) := dk_27 (dk_at dksX3_adds_0 5 rfl rfl)
theorem dX3_adds_6 : decode cX3_adds 6 = .ok (.invokestatic 111, 3) := dk_184 0 111 (dk_at dksX3_adds_0 6 rfl rfl)
theorem dX3_adds_9 : decode cX3_adds 9 = .ok (.ifCond .ne 5, 3) := dk_154 0 5 (dk_at dksX3_adds_0 9 rfl rfl)
theorem dX3_adds_12 : decode cX3_adds 12 = .ok (.iconst (-1), 1) := dk_2 (dk_at dksX3_adds_0 12 rfl rfl)
theorem dX3_adds_13 : decode cX3_adds 13 = .ok (.ireturn, 1) := dk_172 (dk_at dksX3_adds_0 13 rfl rfl)
theorem dX3_adds_14 : decode cX3_adds 14 = .ok (.aload_n 0, 1) := dk_42 (dk_at dksX3_adds_0 14 rfl rfl)
theorem dX3_adds_15 : decode cX3_adds 15 = .ok (.iload_n 1, 1) := dk_27 (dk_at dksX3_adds_0 15 rfl rfl)
theorem dX3_adds_16 : decode cX3_adds 16 = .ok (.aload_n 0, 1) := dk_42 (dk_at dksX3_adds_0 16 rfl rfl)
theorem dX3_adds_17 : decode cX3_adds 17 = .ok (.iload_n 2, 1) := dk_28 (dk_at dksX3_adds_0 17 rfl rfl)
theorem dX3_adds_18 : decode cX3_adds 18 = .ok (.invokevirtual 69, 3) := dk_182 0 69 (dk_at dksX3_adds_0 18 rfl rfl)
theorem dX3_adds_21 : decode cX3_adds 21 = .ok (.invokevirtual 121, 3) := dk_182 0 121 (dk_at dksX3_adds_0 21 rfl rfl)
theorem dX3_adds_24 : decode cX3_adds 24 = .ok (.ifCond .eq 7, 3) := dk_153 0 7 (dk_at dksX3_adds_1 0 rfl rfl)
theorem dX3_adds_27 : decode cX3_adds 27 = .ok (.iconst 1, 1) := dk_4 (dk_at dksX3_adds_1 3 rfl rfl)
theorem dX3_adds_28 : decode cX3_adds 28 = .ok (.goto 4, 3) := dk_167 0 4 (dk_at dksX3_adds_1 4 rfl rfl)
theorem dX3_adds_31 : decode cX3_adds 31 = .ok (.iconst 0, 1) := dk_3 (dk_at dksX3_adds_1 7 rfl rfl)
theorem dX3_adds_32 : decode cX3_adds 32 = .ok (.ireturn, 1) := dk_172 (dk_at dksX3_adds_1 8 rfl rfl)
abbrev cX3_comes : ByteArray := prog_10_method_25_code
def yX3_comes : MethodName := ⟨RX3, "comes", "(IJ)Z"⟩
def dkwX3_comes_2 : List UInt8 := [42, 180, 0, 13, 27, 46, 164, 0, 8, 42, 27, 182, 0, 107, 4, 172]
abbrev dktX3_comes_2 : List UInt8 := dkwX3_comes_2 ++ []
def dkwX3_comes_1 : List UInt8 := [153, 0, 5, 3, 172, 42, 27, 32, 182, 0, 103, 42, 27, 32, 182, 0, 96, 87, 42, 180, 0, 24, 27, 46]
abbrev dktX3_comes_1 : List UInt8 := dkwX3_comes_1 ++ dktX3_comes_2
def dkwX3_comes_0 : List UInt8 := [42, 180, 0, 16, 27, 51, 153, 0, 10, 42, 27, 32, 182, 0, 96, 172, 42, 27, 32, 182, 0, 100]
abbrev dktX3_comes_0 : List UInt8 := dkwX3_comes_0 ++ dktX3_comes_1
theorem dksX3_comes_0 : cX3_comes.data.toList.drop 0 = dktX3_comes_0 := by decide +kernel
theorem dksX3_comes_1 : cX3_comes.data.toList.drop 22 = dktX3_comes_1 := dk_seg dksX3_comes_0 22 rfl rfl
theorem dksX3_comes_2 : cX3_comes.data.toList.drop 46 = dktX3_comes_2 := dk_seg dksX3_comes_1 24 rfl rfl
theorem dX3_comes_0 : decode cX3_comes 0 = .ok (.aload_n 0, 1) := dk_42 (dk_at dksX3_comes_0 0 rfl rfl)
theorem dX3_comes_1 : decode cX3_comes 1 = .ok (.getfield 16, 3) := dk_180 0 16 (dk_at dksX3_comes_0 1 rfl rfl)
theorem dX3_comes_4 : decode cX3_comes 4 = .ok (.iload_n 1, 1) := dk_27 (dk_at dksX3_comes_0 4 rfl rfl)
theorem dX3_comes_5 : decode cX3_comes 5 = .ok (.baload, 1) := dk_51 (dk_at dksX3_comes_0 5 rfl rfl)
theorem dX3_comes_6 : decode cX3_comes 6 = .ok (.ifCond .eq 10, 3) := dk_153 0 10 (dk_at dksX3_comes_0 6 rfl rfl)
theorem dX3_comes_9 : decode cX3_comes 9 = .ok (.aload_n 0, 1) := dk_42 (dk_at dksX3_comes_0 9 rfl rfl)
theorem dX3_comes_10 : decode cX3_comes 10 = .ok (.iload_n 1, 1) := dk_27 (dk_at dksX3_comes_0 10 rfl rfl)
theorem dX3_comes_11 : decode cX3_comes 11 = .ok (.lload_n 2, 1) := dk_32 (dk_at dksX3_comes_0 11 rfl rfl)
theorem dX3_comes_12 : decode cX3_comes 12 = .ok (.invokevirtual 96, 3) := dk_182 0 96 (dk_at dksX3_comes_0 12 rfl rfl)
theorem dX3_comes_15 : decode cX3_comes 15 = .ok (.ireturn, 1) := dk_172 (dk_at dksX3_comes_0 15 rfl rfl)
theorem dX3_comes_16 : decode cX3_comes 16 = .ok (.aload_n 0, 1) := dk_42 (dk_at dksX3_comes_0 16 rfl rfl)
theorem dX3_comes_17 : decode cX3_comes 17 = .ok (.iload_n 1, 1) := dk_27 (dk_at dksX3_comes_0 17 rfl rfl)
theorem dX3_comes_18 : decode cX3_comes 18 = .ok (.lload_n 2, 1) := dk_32 (dk_at dksX3_comes_0 18 rfl rfl)
theorem dX3_comes_19 : decode cX3_comes 19 = .ok (.invokevirtual 100, 3) := dk_182 0 100 (dk_at dksX3_comes_0 19 rfl rfl)
theorem dX3_comes_22 : decode cX3_comes 22 = .ok (.ifCond .eq 5, 3) := dk_153 0 5 (dk_at dksX3_comes_1 0 rfl rfl)
theorem dX3_comes_25 : decode cX3_comes 25 = .ok (.iconst 0, 1) := dk_3 (dk_at dksX3_comes_1 3 rfl rfl)
theorem dX3_comes_26 : decode cX3_comes 26 = .ok (.ireturn, 1) := dk_172 (dk_at dksX3_comes_1 4 rfl rfl)
theorem dX3_comes_27 : decode cX3_comes 27 = .ok (.aload_n 0, 1) := dk_42 (dk_at dksX3_comes_1 5 rfl rfl)
theorem dX3_comes_28 : decode cX3_comes 28 = .ok (.iload_n 1, 1) := dk_27 (dk_at dksX3_comes_1 6 rfl rfl)
theorem dX3_comes_29 : decode cX3_comes 29 = .ok (.lload_n 2, 1) := dk_32 (dk_at dksX3_comes_1 7 rfl rfl)
theorem dX3_comes_30 : decode cX3_comes 30 = .ok (.invokevirtual 103, 3) := dk_182 0 103 (dk_at dksX3_comes_1 8 rfl rfl)
theorem dX3_comes_33 : decode cX3_comes 33 = .ok (.aload_n 0, 1) := dk_42 (dk_at dksX3_comes_1 11 rfl rfl)
theorem dX3_comes_34 : decode cX3_comes 34 = .ok (.iload_n 1, 1) := dk_27 (dk_at dksX3_comes_1 12 rfl rfl)
theorem dX3_comes_35 : decode cX3_comes 35 = .ok (.lload_n 2, 1) := dk_32 (dk_at dksX3_comes_1 13 rfl rfl)
theorem dX3_comes_36 : decode cX3_comes 36 = .ok (.invokevirtual 96, 3) := dk_182 0 96 (dk_at dksX3_comes_1 14 rfl rfl)
theorem dX3_comes_39 : decode cX3_comes 39 = .ok (.pop, 1) := dk_87 (dk_at dksX3_comes_1 17 rfl rfl)
theorem dX3_comes_40 : decode cX3_comes 40 = .ok (.aload_n 0, 1) := dk_42 (dk_at dksX3_comes_1 18 rfl rfl)
theorem dX3_comes_41 : decode cX3_comes 41 = .ok (.getfield 24, 3) := dk_180 0 24 (dk_at dksX3_comes_1 19 rfl rfl)
theorem dX3_comes_44 : decode cX3_comes 44 = .ok (.iload_n 1, 1) := dk_27 (dk_at dksX3_comes_1 22 rfl rfl)
theorem dX3_comes_45 : decode cX3_comes 45 = .ok (.iaload, 1) := dk_46 (dk_at dksX3_comes_1 23 rfl rfl)
theorem dX3_comes_46 : decode cX3_comes 46 = .ok (.aload_n 0, 1) := dk_42 (dk_at dksX3_comes_2 0 rfl rfl)
theorem dX3_comes_47 : decode cX3_comes 47 = .ok (.getfield 13, 3) := dk_180 0 13 (dk_at dksX3_comes_2 1 rfl rfl)
theorem dX3_comes_50 : decode cX3_comes 50 = .ok (.iload_n 1, 1) := dk_27 (dk_at dksX3_comes_2 4 rfl rfl)
theorem dX3_comes_51 : decode cX3_comes 51 = .ok (.iaload, 1) := dk_46 (dk_at dksX3_comes_2 5 rfl rfl)
theorem dX3_comes_52 : decode cX3_comes 52 = .ok (.if_icmp .le 8, 3) := dk_164 0 8 (dk_at dksX3_comes_2 6 rfl rfl)
theorem dX3_comes_55 : decode cX3_comes 55 = .ok (.aload_n 0, 1) := dk_42 (dk_at dksX3_comes_2 9 rfl rfl)
theorem dX3_comes_56 : decode cX3_comes 56 = .ok (.iload_n 1, 1) := dk_27 (dk_at dksX3_comes_2 10 rfl rfl)
theorem dX3_comes_57 : decode cX3_comes 57 = .ok (.invokevirtual 107, 3) := dk_182 0 107 (dk_at dksX3_comes_2 11 rfl rfl)
theorem dX3_comes_60 : decode cX3_comes 60 = .ok (.iconst 1, 1) := dk_4 (dk_at dksX3_comes_2 14 rfl rfl)
theorem dX3_comes_61 : decode cX3_comes 61 = .ok (.ireturn, 1) := dk_172 (dk_at dksX3_comes_2 15 rfl rfl)
abbrev cX3_raises : ByteArray := prog_10_method_20_code
def yX3_raises : MethodName := ⟨RX3, "raises", "(IJ)Z"⟩
def dkwX3_raises_2 : List UInt8 := [21, 4, 21, 5, 79, 4, 172]
abbrev dktX3_raises_2 : List UInt8 := dkwX3_raises_2 ++ []
def dkwX3_raises_1 : List UInt8 := [184, 0, 77, 54, 5, 42, 180, 0, 27, 21, 4, 46, 21, 5, 161, 0, 5, 3, 172, 42, 180, 0, 27]
abbrev dktX3_raises_1 : List UInt8 := dkwX3_raises_1 ++ dktX3_raises_2
def dkwX3_raises_0 : List UInt8 := [27, 32, 42, 180, 0, 7, 27, 46, 184, 0, 85, 184, 0, 92, 54, 4, 32, 42, 180, 0, 7, 27, 46]
abbrev dktX3_raises_0 : List UInt8 := dkwX3_raises_0 ++ dktX3_raises_1
theorem dksX3_raises_0 : cX3_raises.data.toList.drop 0 = dktX3_raises_0 := by decide +kernel
theorem dksX3_raises_1 : cX3_raises.data.toList.drop 23 = dktX3_raises_1 := dk_seg dksX3_raises_0 23 rfl rfl
theorem dksX3_raises_2 : cX3_raises.data.toList.drop 46 = dktX3_raises_2 := dk_seg dksX3_raises_1 23 rfl rfl
theorem dX3_raises_0 : decode cX3_raises 0 = .ok (.iload_n 1, 1) := dk_27 (dk_at dksX3_raises_0 0 rfl rfl)
theorem dX3_raises_1 : decode cX3_raises 1 = .ok (.lload_n 2, 1) := dk_32 (dk_at dksX3_raises_0 1 rfl rfl)
theorem dX3_raises_2 : decode cX3_raises 2 = .ok (.aload_n 0, 1) := dk_42 (dk_at dksX3_raises_0 2 rfl rfl)
theorem dX3_raises_3 : decode cX3_raises 3 = .ok (.getfield 7, 3) := dk_180 0 7 (dk_at dksX3_raises_0 3 rfl rfl)
theorem dX3_raises_6 : decode cX3_raises 6 = .ok (.iload_n 1, 1) := dk_27 (dk_at dksX3_raises_0 6 rfl rfl)
theorem dX3_raises_7 : decode cX3_raises 7 = .ok (.iaload, 1) := dk_46 (dk_at dksX3_raises_0 7 rfl rfl)
theorem dX3_raises_8 : decode cX3_raises 8 = .ok (.invokestatic 85, 3) := dk_184 0 85 (dk_at dksX3_raises_0 8 rfl rfl)
theorem dX3_raises_11 : decode cX3_raises 11 = .ok (.invokestatic 92, 3) := dk_184 0 92 (dk_at dksX3_raises_0 11 rfl rfl)
theorem dX3_raises_14 : decode cX3_raises 14 = .ok (.istore 4, 2) := dk_54 4 (dk_at dksX3_raises_0 14 rfl rfl)
theorem dX3_raises_16 : decode cX3_raises 16 = .ok (.lload_n 2, 1) := dk_32 (dk_at dksX3_raises_0 16 rfl rfl)
theorem dX3_raises_17 : decode cX3_raises 17 = .ok (.aload_n 0, 1) := dk_42 (dk_at dksX3_raises_0 17 rfl rfl)
theorem dX3_raises_18 : decode cX3_raises 18 = .ok (.getfield 7, 3) := dk_180 0 7 (dk_at dksX3_raises_0 18 rfl rfl)
theorem dX3_raises_21 : decode cX3_raises 21 = .ok (.iload_n 1, 1) := dk_27 (dk_at dksX3_raises_0 21 rfl rfl)
theorem dX3_raises_22 : decode cX3_raises 22 = .ok (.iaload, 1) := dk_46 (dk_at dksX3_raises_0 22 rfl rfl)
theorem dX3_raises_23 : decode cX3_raises 23 = .ok (.invokestatic 77, 3) := dk_184 0 77 (dk_at dksX3_raises_1 0 rfl rfl)
theorem dX3_raises_26 : decode cX3_raises 26 = .ok (.istore 5, 2) := dk_54 5 (dk_at dksX3_raises_1 3 rfl rfl)
theorem dX3_raises_28 : decode cX3_raises 28 = .ok (.aload_n 0, 1) := dk_42 (dk_at dksX3_raises_1 5 rfl rfl)
theorem dX3_raises_29 : decode cX3_raises 29 = .ok (.getfield 27, 3) := dk_180 0 27 (dk_at dksX3_raises_1 6 rfl rfl)
theorem dX3_raises_32 : decode cX3_raises 32 = .ok (.iload 4, 2) := dk_21 4 (dk_at dksX3_raises_1 9 rfl rfl)
theorem dX3_raises_34 : decode cX3_raises 34 = .ok (.iaload, 1) := dk_46 (dk_at dksX3_raises_1 11 rfl rfl)
theorem dX3_raises_35 : decode cX3_raises 35 = .ok (.iload 5, 2) := dk_21 5 (dk_at dksX3_raises_1 12 rfl rfl)
theorem dX3_raises_37 : decode cX3_raises 37 = .ok (.if_icmp .lt 5, 3) := dk_161 0 5 (dk_at dksX3_raises_1 14 rfl rfl)
theorem dX3_raises_40 : decode cX3_raises 40 = .ok (.iconst 0, 1) := dk_3 (dk_at dksX3_raises_1 17 rfl rfl)
theorem dX3_raises_41 : decode cX3_raises 41 = .ok (.ireturn, 1) := dk_172 (dk_at dksX3_raises_1 18 rfl rfl)
theorem dX3_raises_42 : decode cX3_raises 42 = .ok (.aload_n 0, 1) := dk_42 (dk_at dksX3_raises_1 19 rfl rfl)
theorem dX3_raises_43 : decode cX3_raises 43 = .ok (.getfield 27, 3) := dk_180 0 27 (dk_at dksX3_raises_1 20 rfl rfl)
theorem dX3_raises_46 : decode cX3_raises 46 = .ok (.iload 4, 2) := dk_21 4 (dk_at dksX3_raises_2 0 rfl rfl)
theorem dX3_raises_48 : decode cX3_raises 48 = .ok (.iload 5, 2) := dk_21 5 (dk_at dksX3_raises_2 2 rfl rfl)
theorem dX3_raises_50 : decode cX3_raises 50 = .ok (.iastore, 1) := dk_79 (dk_at dksX3_raises_2 4 rfl rfl)
theorem dX3_raises_51 : decode cX3_raises 51 = .ok (.iconst 1, 1) := dk_4 (dk_at dksX3_raises_2 5 rfl rfl)
theorem dX3_raises_52 : decode cX3_raises 52 = .ok (.ireturn, 1) := dk_172 (dk_at dksX3_raises_2 6 rfl rfl)
abbrev cX3_hasMark : ByteArray := prog_10_method_22_code
def yX3_hasMark : MethodName := ⟨RX3, "hasMark", "(IJ)Z"⟩
def dkwX3_hasMark_1 : List UInt8 := [96, 47, 32, 148, 154, 0, 5, 4, 172, 132, 4, 1, 167, 255, 223, 3, 172]
abbrev dktX3_hasMark_1 : List UInt8 := dkwX3_hasMark_1 ++ []
def dkwX3_hasMark_0 : List UInt8 := [3, 54, 4, 21, 4, 42, 180, 0, 24, 27, 46, 162, 0, 28, 42, 180, 0, 20, 16, 64, 27, 104, 21, 4]
abbrev dktX3_hasMark_0 : List UInt8 := dkwX3_hasMark_0 ++ dktX3_hasMark_1
theorem dksX3_hasMark_0 : cX3_hasMark.data.toList.drop 0 = dktX3_hasMark_0 := by decide +kernel
theorem dksX3_hasMark_1 : cX3_hasMark.data.toList.drop 24 = dktX3_hasMark_1 := dk_seg dksX3_hasMark_0 24 rfl rfl
theorem dX3_hasMark_0 : decode cX3_hasMark 0 = .ok (.iconst 0, 1) := dk_3 (dk_at dksX3_hasMark_0 0 rfl rfl)
theorem dX3_hasMark_1 : decode cX3_hasMark 1 = .ok (.istore 4, 2) := dk_54 4 (dk_at dksX3_hasMark_0 1 rfl rfl)
theorem dX3_hasMark_3 : decode cX3_hasMark 3 = .ok (.iload 4, 2) := dk_21 4 (dk_at dksX3_hasMark_0 3 rfl rfl)
theorem dX3_hasMark_5 : decode cX3_hasMark 5 = .ok (.aload_n 0, 1) := dk_42 (dk_at dksX3_hasMark_0 5 rfl rfl)
theorem dX3_hasMark_6 : decode cX3_hasMark 6 = .ok (.getfield 24, 3) := dk_180 0 24 (dk_at dksX3_hasMark_0 6 rfl rfl)
theorem dX3_hasMark_9 : decode cX3_hasMark 9 = .ok (.iload_n 1, 1) := dk_27 (dk_at dksX3_hasMark_0 9 rfl rfl)
theorem dX3_hasMark_10 : decode cX3_hasMark 10 = .ok (.iaload, 1) := dk_46 (dk_at dksX3_hasMark_0 10 rfl rfl)
theorem dX3_hasMark_11 : decode cX3_hasMark 11 = .ok (.if_icmp .ge 28, 3) := dk_162 0 28 (dk_at dksX3_hasMark_0 11 rfl rfl)
theorem dX3_hasMark_14 : decode cX3_hasMark 14 = .ok (.aload_n 0, 1) := dk_42 (dk_at dksX3_hasMark_0 14 rfl rfl)
theorem dX3_hasMark_15 : decode cX3_hasMark 15 = .ok (.getfield 20, 3) := dk_180 0 20 (dk_at dksX3_hasMark_0 15 rfl rfl)
theorem dX3_hasMark_18 : decode cX3_hasMark 18 = .ok (.bipush 64, 2) := dk_16 64 (dk_at dksX3_hasMark_0 18 rfl rfl)
theorem dX3_hasMark_20 : decode cX3_hasMark 20 = .ok (.iload_n 1, 1) := dk_27 (dk_at dksX3_hasMark_0 20 rfl rfl)
theorem dX3_hasMark_21 : decode cX3_hasMark 21 = .ok (.imul, 1) := dk_104 (dk_at dksX3_hasMark_0 21 rfl rfl)
theorem dX3_hasMark_22 : decode cX3_hasMark 22 = .ok (.iload 4, 2) := dk_21 4 (dk_at dksX3_hasMark_0 22 rfl rfl)
theorem dX3_hasMark_24 : decode cX3_hasMark 24 = .ok (.iadd, 1) := dk_96 (dk_at dksX3_hasMark_1 0 rfl rfl)
theorem dX3_hasMark_25 : decode cX3_hasMark 25 = .ok (.laload, 1) := dk_47 (dk_at dksX3_hasMark_1 1 rfl rfl)
theorem dX3_hasMark_26 : decode cX3_hasMark 26 = .ok (.lload_n 2, 1) := dk_32 (dk_at dksX3_hasMark_1 2 rfl rfl)
theorem dX3_hasMark_27 : decode cX3_hasMark 27 = .ok (.lcmp, 1) := dk_148 (dk_at dksX3_hasMark_1 3 rfl rfl)
theorem dX3_hasMark_28 : decode cX3_hasMark 28 = .ok (.ifCond .ne 5, 3) := dk_154 0 5 (dk_at dksX3_hasMark_1 4 rfl rfl)
theorem dX3_hasMark_31 : decode cX3_hasMark 31 = .ok (.iconst 1, 1) := dk_4 (dk_at dksX3_hasMark_1 7 rfl rfl)
theorem dX3_hasMark_32 : decode cX3_hasMark 32 = .ok (.ireturn, 1) := dk_172 (dk_at dksX3_hasMark_1 8 rfl rfl)
theorem dX3_hasMark_33 : decode cX3_hasMark 33 = .ok (.iinc 4 1, 3) := dk_132 4 1 (dk_at dksX3_hasMark_1 9 rfl rfl)
theorem dX3_hasMark_36 : decode cX3_hasMark 36 = .ok (.goto (-33), 3) := dk_167 255 223 (dk_at dksX3_hasMark_1 12 rfl rfl)
theorem dX3_hasMark_39 : decode cX3_hasMark 39 = .ok (.iconst 0, 1) := dk_3 (dk_at dksX3_hasMark_1 15 rfl rfl)
theorem dX3_hasMark_40 : decode cX3_hasMark 40 = .ok (.ireturn, 1) := dk_172 (dk_at dksX3_hasMark_1 16 rfl rfl)
abbrev cX3_insert : ByteArray := prog_10_method_23_code
def yX3_insert : MethodName := ⟨RX3, "insert", "(IJ)V"⟩
def dkwX3_insert_3 : List UInt8 := [104, 21, 4, 96, 32, 80, 42, 180, 0, 24, 27, 92, 46, 4, 96, 79, 177]
abbrev dktX3_insert_3 : List UInt8 := dkwX3_insert_3 ++ []
def dkwX3_insert_2 : List UInt8 := [16, 64, 27, 104, 21, 4, 96, 4, 100, 47, 80, 132, 4, 255, 167, 255, 203, 42, 180, 0, 20, 16, 64, 27]
abbrev dktX3_insert_2 : List UInt8 := dkwX3_insert_2 ++ dktX3_insert_3
def dkwX3_insert_1 : List UInt8 := [4, 100, 47, 32, 148, 158, 0, 35, 42, 180, 0, 20, 16, 64, 27, 104, 21, 4, 96, 42, 180, 0, 20]
abbrev dktX3_insert_1 : List UInt8 := dkwX3_insert_1 ++ dktX3_insert_2
def dkwX3_insert_0 : List UInt8 := [42, 180, 0, 24, 27, 46, 54, 4, 21, 4, 158, 0, 54, 42, 180, 0, 20, 16, 64, 27, 104, 21, 4, 96]
abbrev dktX3_insert_0 : List UInt8 := dkwX3_insert_0 ++ dktX3_insert_1
theorem dksX3_insert_0 : cX3_insert.data.toList.drop 0 = dktX3_insert_0 := by decide +kernel
theorem dksX3_insert_1 : cX3_insert.data.toList.drop 24 = dktX3_insert_1 := dk_seg dksX3_insert_0 24 rfl rfl
theorem dksX3_insert_2 : cX3_insert.data.toList.drop 47 = dktX3_insert_2 := dk_seg dksX3_insert_1 23 rfl rfl
theorem dksX3_insert_3 : cX3_insert.data.toList.drop 71 = dktX3_insert_3 := dk_seg dksX3_insert_2 24 rfl rfl
theorem dX3_insert_0 : decode cX3_insert 0 = .ok (.aload_n 0, 1) := dk_42 (dk_at dksX3_insert_0 0 rfl rfl)
theorem dX3_insert_1 : decode cX3_insert 1 = .ok (.getfield 24, 3) := dk_180 0 24 (dk_at dksX3_insert_0 1 rfl rfl)
theorem dX3_insert_4 : decode cX3_insert 4 = .ok (.iload_n 1, 1) := dk_27 (dk_at dksX3_insert_0 4 rfl rfl)
theorem dX3_insert_5 : decode cX3_insert 5 = .ok (.iaload, 1) := dk_46 (dk_at dksX3_insert_0 5 rfl rfl)
theorem dX3_insert_6 : decode cX3_insert 6 = .ok (.istore 4, 2) := dk_54 4 (dk_at dksX3_insert_0 6 rfl rfl)
theorem dX3_insert_8 : decode cX3_insert 8 = .ok (.iload 4, 2) := dk_21 4 (dk_at dksX3_insert_0 8 rfl rfl)
theorem dX3_insert_10 : decode cX3_insert 10 = .ok (.ifCond .le 54, 3) := dk_158 0 54 (dk_at dksX3_insert_0 10 rfl rfl)
theorem dX3_insert_13 : decode cX3_insert 13 = .ok (.aload_n 0, 1) := dk_42 (dk_at dksX3_insert_0 13 rfl rfl)
theorem dX3_insert_14 : decode cX3_insert 14 = .ok (.getfield 20, 3) := dk_180 0 20 (dk_at dksX3_insert_0 14 rfl rfl)
theorem dX3_insert_17 : decode cX3_insert 17 = .ok (.bipush 64, 2) := dk_16 64 (dk_at dksX3_insert_0 17 rfl rfl)
theorem dX3_insert_19 : decode cX3_insert 19 = .ok (.iload_n 1, 1) := dk_27 (dk_at dksX3_insert_0 19 rfl rfl)
theorem dX3_insert_20 : decode cX3_insert 20 = .ok (.imul, 1) := dk_104 (dk_at dksX3_insert_0 20 rfl rfl)
theorem dX3_insert_21 : decode cX3_insert 21 = .ok (.iload 4, 2) := dk_21 4 (dk_at dksX3_insert_0 21 rfl rfl)
theorem dX3_insert_23 : decode cX3_insert 23 = .ok (.iadd, 1) := dk_96 (dk_at dksX3_insert_0 23 rfl rfl)
theorem dX3_insert_24 : decode cX3_insert 24 = .ok (.iconst 1, 1) := dk_4 (dk_at dksX3_insert_1 0 rfl rfl)
theorem dX3_insert_25 : decode cX3_insert 25 = .ok (.isub, 1) := dk_100 (dk_at dksX3_insert_1 1 rfl rfl)
theorem dX3_insert_26 : decode cX3_insert 26 = .ok (.laload, 1) := dk_47 (dk_at dksX3_insert_1 2 rfl rfl)
theorem dX3_insert_27 : decode cX3_insert 27 = .ok (.lload_n 2, 1) := dk_32 (dk_at dksX3_insert_1 3 rfl rfl)
theorem dX3_insert_28 : decode cX3_insert 28 = .ok (.lcmp, 1) := dk_148 (dk_at dksX3_insert_1 4 rfl rfl)
theorem dX3_insert_29 : decode cX3_insert 29 = .ok (.ifCond .le 35, 3) := dk_158 0 35 (dk_at dksX3_insert_1 5 rfl rfl)
theorem dX3_insert_32 : decode cX3_insert 32 = .ok (.aload_n 0, 1) := dk_42 (dk_at dksX3_insert_1 8 rfl rfl)
theorem dX3_insert_33 : decode cX3_insert 33 = .ok (.getfield 20, 3) := dk_180 0 20 (dk_at dksX3_insert_1 9 rfl rfl)
theorem dX3_insert_36 : decode cX3_insert 36 = .ok (.bipush 64, 2) := dk_16 64 (dk_at dksX3_insert_1 12 rfl rfl)
theorem dX3_insert_38 : decode cX3_insert 38 = .ok (.iload_n 1, 1) := dk_27 (dk_at dksX3_insert_1 14 rfl rfl)
theorem dX3_insert_39 : decode cX3_insert 39 = .ok (.imul, 1) := dk_104 (dk_at dksX3_insert_1 15 rfl rfl)
theorem dX3_insert_40 : decode cX3_insert 40 = .ok (.iload 4, 2) := dk_21 4 (dk_at dksX3_insert_1 16 rfl rfl)
theorem dX3_insert_42 : decode cX3_insert 42 = .ok (.iadd, 1) := dk_96 (dk_at dksX3_insert_1 18 rfl rfl)
theorem dX3_insert_43 : decode cX3_insert 43 = .ok (.aload_n 0, 1) := dk_42 (dk_at dksX3_insert_1 19 rfl rfl)
theorem dX3_insert_44 : decode cX3_insert 44 = .ok (.getfield 20, 3) := dk_180 0 20 (dk_at dksX3_insert_1 20 rfl rfl)
theorem dX3_insert_47 : decode cX3_insert 47 = .ok (.bipush 64, 2) := dk_16 64 (dk_at dksX3_insert_2 0 rfl rfl)
theorem dX3_insert_49 : decode cX3_insert 49 = .ok (.iload_n 1, 1) := dk_27 (dk_at dksX3_insert_2 2 rfl rfl)
theorem dX3_insert_50 : decode cX3_insert 50 = .ok (.imul, 1) := dk_104 (dk_at dksX3_insert_2 3 rfl rfl)
theorem dX3_insert_51 : decode cX3_insert 51 = .ok (.iload 4, 2) := dk_21 4 (dk_at dksX3_insert_2 4 rfl rfl)
theorem dX3_insert_53 : decode cX3_insert 53 = .ok (.iadd, 1) := dk_96 (dk_at dksX3_insert_2 6 rfl rfl)
theorem dX3_insert_54 : decode cX3_insert 54 = .ok (.iconst 1, 1) := dk_4 (dk_at dksX3_insert_2 7 rfl rfl)
theorem dX3_insert_55 : decode cX3_insert 55 = .ok (.isub, 1) := dk_100 (dk_at dksX3_insert_2 8 rfl rfl)
theorem dX3_insert_56 : decode cX3_insert 56 = .ok (.laload, 1) := dk_47 (dk_at dksX3_insert_2 9 rfl rfl)
theorem dX3_insert_57 : decode cX3_insert 57 = .ok (.lastore, 1) := dk_80 (dk_at dksX3_insert_2 10 rfl rfl)
theorem dX3_insert_58 : decode cX3_insert 58 = .ok (.iinc 4 (-1), 3) := dk_132 4 255 (dk_at dksX3_insert_2 11 rfl rfl)
theorem dX3_insert_61 : decode cX3_insert 61 = .ok (.goto (-53), 3) := dk_167 255 203 (dk_at dksX3_insert_2 14 rfl rfl)
theorem dX3_insert_64 : decode cX3_insert 64 = .ok (.aload_n 0, 1) := dk_42 (dk_at dksX3_insert_2 17 rfl rfl)
theorem dX3_insert_65 : decode cX3_insert 65 = .ok (.getfield 20, 3) := dk_180 0 20 (dk_at dksX3_insert_2 18 rfl rfl)
theorem dX3_insert_68 : decode cX3_insert 68 = .ok (.bipush 64, 2) := dk_16 64 (dk_at dksX3_insert_2 21 rfl rfl)
theorem dX3_insert_70 : decode cX3_insert 70 = .ok (.iload_n 1, 1) := dk_27 (dk_at dksX3_insert_2 23 rfl rfl)
theorem dX3_insert_71 : decode cX3_insert 71 = .ok (.imul, 1) := dk_104 (dk_at dksX3_insert_3 0 rfl rfl)
theorem dX3_insert_72 : decode cX3_insert 72 = .ok (.iload 4, 2) := dk_21 4 (dk_at dksX3_insert_3 1 rfl rfl)
theorem dX3_insert_74 : decode cX3_insert 74 = .ok (.iadd, 1) := dk_96 (dk_at dksX3_insert_3 3 rfl rfl)
theorem dX3_insert_75 : decode cX3_insert 75 = .ok (.lload_n 2, 1) := dk_32 (dk_at dksX3_insert_3 4 rfl rfl)
theorem dX3_insert_76 : decode cX3_insert 76 = .ok (.lastore, 1) := dk_80 (dk_at dksX3_insert_3 5 rfl rfl)
theorem dX3_insert_77 : decode cX3_insert 77 = .ok (.aload_n 0, 1) := dk_42 (dk_at dksX3_insert_3 6 rfl rfl)
theorem dX3_insert_78 : decode cX3_insert 78 = .ok (.getfield 24, 3) := dk_180 0 24 (dk_at dksX3_insert_3 7 rfl rfl)
theorem dX3_insert_81 : decode cX3_insert 81 = .ok (.iload_n 1, 1) := dk_27 (dk_at dksX3_insert_3 10 rfl rfl)
theorem dX3_insert_82 : decode cX3_insert 82 = .ok (.dup2, 1) := dk_92 (dk_at dksX3_insert_3 11 rfl rfl)
theorem dX3_insert_83 : decode cX3_insert 83 = .ok (.iaload, 1) := dk_46 (dk_at dksX3_insert_3 12 rfl rfl)
theorem dX3_insert_84 : decode cX3_insert 84 = .ok (.iconst 1, 1) := dk_4 (dk_at dksX3_insert_3 13 rfl rfl)
theorem dX3_insert_85 : decode cX3_insert 85 = .ok (.iadd, 1) := dk_96 (dk_at dksX3_insert_3 14 rfl rfl)
theorem dX3_insert_86 : decode cX3_insert 86 = .ok (.iastore, 1) := dk_79 (dk_at dksX3_insert_3 15 rfl rfl)
theorem dX3_insert_87 : decode cX3_insert 87 = .ok (.return_, 1) := dk_177 (dk_at dksX3_insert_3 16 rfl rfl)
abbrev cX3_becomesDense : ByteArray := prog_10_method_24_code
def yX3_becomesDense : MethodName := ⟨RX3, "becomesDense", "(I)V"⟩
def dkwX3_becomesDense_0 : List UInt8 := [42, 180, 0, 16, 27, 4, 84, 42, 180, 0, 24, 27, 3, 79, 177]
abbrev dktX3_becomesDense_0 : List UInt8 := dkwX3_becomesDense_0 ++ []
theorem dksX3_becomesDense_0 : cX3_becomesDense.data.toList.drop 0 = dktX3_becomesDense_0 := by decide +kernel
theorem dX3_becomesDense_0 : decode cX3_becomesDense 0 = .ok (.aload_n 0, 1) := dk_42 (dk_at dksX3_becomesDense_0 0 rfl rfl)
theorem dX3_becomesDense_1 : decode cX3_becomesDense 1 = .ok (.getfield 16, 3) := dk_180 0 16 (dk_at dksX3_becomesDense_0 1 rfl rfl)
theorem dX3_becomesDense_4 : decode cX3_becomesDense 4 = .ok (.iload_n 1, 1) := dk_27 (dk_at dksX3_becomesDense_0 4 rfl rfl)
theorem dX3_becomesDense_5 : decode cX3_becomesDense 5 = .ok (.iconst 1, 1) := dk_4 (dk_at dksX3_becomesDense_0 5 rfl rfl)
theorem dX3_becomesDense_6 : decode cX3_becomesDense 6 = .ok (.bastore, 1) := dk_84 (dk_at dksX3_becomesDense_0 6 rfl rfl)
theorem dX3_becomesDense_7 : decode cX3_becomesDense 7 = .ok (.aload_n 0, 1) := dk_42 (dk_at dksX3_becomesDense_0 7 rfl rfl)
theorem dX3_becomesDense_8 : decode cX3_becomesDense 8 = .ok (.getfield 24, 3) := dk_180 0 24 (dk_at dksX3_becomesDense_0 8 rfl rfl)
theorem dX3_becomesDense_11 : decode cX3_becomesDense 11 = .ok (.iload_n 1, 1) := dk_27 (dk_at dksX3_becomesDense_0 11 rfl rfl)
theorem dX3_becomesDense_12 : decode cX3_becomesDense 12 = .ok (.iconst 0, 1) := dk_3 (dk_at dksX3_becomesDense_0 12 rfl rfl)
theorem dX3_becomesDense_13 : decode cX3_becomesDense 13 = .ok (.iastore, 1) := dk_79 (dk_at dksX3_becomesDense_0 13 rfl rfl)
theorem dX3_becomesDense_14 : decode cX3_becomesDense 14 = .ok (.return_, 1) := dk_177 (dk_at dksX3_becomesDense_0 14 rfl rfl)
abbrev cX3_runs : ByteArray := prog_10_method_30_code
def yX3_runs : MethodName := ⟨RX3, "runs", "(IIII)I"⟩
def dkwX3_runs_1 : List UInt8 := [42, 27, 28, 29, 21, 4, 182, 0, 126, 167, 0, 4, 2, 172]
abbrev dktX3_runs_1 : List UInt8 := dkwX3_runs_1 ++ []
def dkwX3_runs_0 : List UInt8 := [42, 3, 181, 0, 51, 27, 184, 0, 111, 153, 0, 27, 29, 133, 9, 20, 0, 124, 184, 0, 60, 153, 0, 15]
abbrev dktX3_runs_0 : List UInt8 := dkwX3_runs_0 ++ dktX3_runs_1
theorem dksX3_runs_0 : cX3_runs.data.toList.drop 0 = dktX3_runs_0 := by decide +kernel
theorem dksX3_runs_1 : cX3_runs.data.toList.drop 24 = dktX3_runs_1 := dk_seg dksX3_runs_0 24 rfl rfl
theorem dX3_runs_0 : decode cX3_runs 0 = .ok (.aload_n 0, 1) := dk_42 (dk_at dksX3_runs_0 0 rfl rfl)
theorem dX3_runs_1 : decode cX3_runs 1 = .ok (.iconst 0, 1) := dk_3 (dk_at dksX3_runs_0 1 rfl rfl)
theorem dX3_runs_2 : decode cX3_runs 2 = .ok (.putfield 51, 3) := dk_181 0 51 (dk_at dksX3_runs_0 2 rfl rfl)
theorem dX3_runs_5 : decode cX3_runs 5 = .ok (.iload_n 1, 1) := dk_27 (dk_at dksX3_runs_0 5 rfl rfl)
theorem dX3_runs_6 : decode cX3_runs 6 = .ok (.invokestatic 111, 3) := dk_184 0 111 (dk_at dksX3_runs_0 6 rfl rfl)
theorem dX3_runs_9 : decode cX3_runs 9 = .ok (.ifCond .eq 27, 3) := dk_153 0 27 (dk_at dksX3_runs_0 9 rfl rfl)
theorem dX3_runs_12 : decode cX3_runs 12 = .ok (.iload_n 3, 1) := dk_29 (dk_at dksX3_runs_0 12 rfl rfl)
theorem dX3_runs_13 : decode cX3_runs 13 = .ok (.i2l, 1) := dk_133 (dk_at dksX3_runs_0 13 rfl rfl)
theorem dX3_runs_14 : decode cX3_runs 14 = .ok (.lconst 0, 1) := dk_9 (dk_at dksX3_runs_0 14 rfl rfl)
theorem dX3_runs_15 : decode cX3_runs 15 = .ok (.ldc2_w 124, 3) := dk_20 0 124 (dk_at dksX3_runs_0 15 rfl rfl)
theorem dX3_runs_18 : decode cX3_runs 18 = .ok (.invokestatic 60, 3) := dk_184 0 60 (dk_at dksX3_runs_0 18 rfl rfl)
theorem dX3_runs_21 : decode cX3_runs 21 = .ok (.ifCond .eq 15, 3) := dk_153 0 15 (dk_at dksX3_runs_0 21 rfl rfl)
theorem dX3_runs_24 : decode cX3_runs 24 = .ok (.aload_n 0, 1) := dk_42 (dk_at dksX3_runs_1 0 rfl rfl)
theorem dX3_runs_25 : decode cX3_runs 25 = .ok (.iload_n 1, 1) := dk_27 (dk_at dksX3_runs_1 1 rfl rfl)
theorem dX3_runs_26 : decode cX3_runs 26 = .ok (.iload_n 2, 1) := dk_28 (dk_at dksX3_runs_1 2 rfl rfl)
theorem dX3_runs_27 : decode cX3_runs 27 = .ok (.iload_n 3, 1) := dk_29 (dk_at dksX3_runs_1 3 rfl rfl)
theorem dX3_runs_28 : decode cX3_runs 28 = .ok (.iload 4, 2) := dk_21 4 (dk_at dksX3_runs_1 4 rfl rfl)
theorem dX3_runs_30 : decode cX3_runs 30 = .ok (.invokevirtual 126, 3) := dk_182 0 126 (dk_at dksX3_runs_1 6 rfl rfl)
theorem dX3_runs_33 : decode cX3_runs 33 = .ok (.goto 4, 3) := dk_167 0 4 (dk_at dksX3_runs_1 9 rfl rfl)
theorem dX3_runs_36 : decode cX3_runs 36 = .ok (.iconst (-1), 1) := dk_2 (dk_at dksX3_runs_1 12 rfl rfl)
theorem dX3_runs_37 : decode cX3_runs 37 = .ok (.ireturn, 1) := dk_172 (dk_at dksX3_runs_1 13 rfl rfl)
abbrev cX3_runsInto : ByteArray := prog_10_method_29_code
def yX3_runsInto : MethodName := ⟨RX3, "runsInto", "(IIII)I"⟩
def dkwX3_runsInto_2 : List UInt8 := [132, 7, 1, 167, 255, 216, 21, 5, 172]
abbrev dktX3_runsInto_2 : List UInt8 := dkwX3_runsInto_2 ++ []
def dkwX3_runsInto_1 : List UInt8 := [182, 0, 69, 182, 0, 121, 153, 0, 7, 4, 167, 0, 4, 3, 96, 54, 5, 21, 6, 21, 4, 96, 54, 6]
abbrev dktX3_runsInto_1 : List UInt8 := dkwX3_runsInto_1 ++ dktX3_runsInto_2
def dkwX3_runsInto_0 : List UInt8 := [3, 54, 5, 28, 54, 6, 3, 54, 7, 21, 7, 29, 162, 0, 40, 21, 5, 42, 27, 42, 21, 6]
abbrev dktX3_runsInto_0 : List UInt8 := dkwX3_runsInto_0 ++ dktX3_runsInto_1
theorem dksX3_runsInto_0 : cX3_runsInto.data.toList.drop 0 = dktX3_runsInto_0 := by decide +kernel
theorem dksX3_runsInto_1 : cX3_runsInto.data.toList.drop 22 = dktX3_runsInto_1 := dk_seg dksX3_runsInto_0 22 rfl rfl
theorem dksX3_runsInto_2 : cX3_runsInto.data.toList.drop 46 = dktX3_runsInto_2 := dk_seg dksX3_runsInto_1 24 rfl rfl
theorem dX3_runsInto_0 : decode cX3_runsInto 0 = .ok (.iconst 0, 1) := dk_3 (dk_at dksX3_runsInto_0 0 rfl rfl)
theorem dX3_runsInto_1 : decode cX3_runsInto 1 = .ok (.istore 5, 2) := dk_54 5 (dk_at dksX3_runsInto_0 1 rfl rfl)
theorem dX3_runsInto_3 : decode cX3_runsInto 3 = .ok (.iload_n 2, 1) := dk_28 (dk_at dksX3_runsInto_0 3 rfl rfl)
theorem dX3_runsInto_4 : decode cX3_runsInto 4 = .ok (.istore 6, 2) := dk_54 6 (dk_at dksX3_runsInto_0 4 rfl rfl)
theorem dX3_runsInto_6 : decode cX3_runsInto 6 = .ok (.iconst 0, 1) := dk_3 (dk_at dksX3_runsInto_0 6 rfl rfl)
theorem dX3_runsInto_7 : decode cX3_runsInto 7 = .ok (.istore 7, 2) := dk_54 7 (dk_at dksX3_runsInto_0 7 rfl rfl)
theorem dX3_runsInto_9 : decode cX3_runsInto 9 = .ok (.iload 7, 2) := dk_21 7 (dk_at dksX3_runsInto_0 9 rfl rfl)
theorem dX3_runsInto_11 : decode cX3_runsInto 11 = .ok (.iload_n 3, 1) := dk_29 (dk_at dksX3_runsInto_0 11 rfl rfl)
theorem dX3_runsInto_12 : decode cX3_runsInto 12 = .ok (.if_icmp .ge 40, 3) := dk_162 0 40 (dk_at dksX3_runsInto_0 12 rfl rfl)
theorem dX3_runsInto_15 : decode cX3_runsInto 15 = .ok (.iload 5, 2) := dk_21 5 (dk_at dksX3_runsInto_0 15 rfl rfl)
theorem dX3_runsInto_17 : decode cX3_runsInto 17 = .ok (.aload_n 0, 1) := dk_42 (dk_at dksX3_runsInto_0 17 rfl rfl)
theorem dX3_runsInto_18 : decode cX3_runsInto 18 = .ok (.iload_n 1, 1) := dk_27 (dk_at dksX3_runsInto_0 18 rfl rfl)
theorem dX3_runsInto_19 : decode cX3_runsInto 19 = .ok (.aload_n 0, 1) := dk_42 (dk_at dksX3_runsInto_0 19 rfl rfl)
theorem dX3_runsInto_20 : decode cX3_runsInto 20 = .ok (.iload 6, 2) := dk_21 6 (dk_at dksX3_runsInto_0 20 rfl rfl)
theorem dX3_runsInto_22 : decode cX3_runsInto 22 = .ok (.invokevirtual 69, 3) := dk_182 0 69 (dk_at dksX3_runsInto_1 0 rfl rfl)
theorem dX3_runsInto_25 : decode cX3_runsInto 25 = .ok (.invokevirtual 121, 3) := dk_182 0 121 (dk_at dksX3_runsInto_1 3 rfl rfl)
theorem dX3_runsInto_28 : decode cX3_runsInto 28 = .ok (.ifCond .eq 7, 3) := dk_153 0 7 (dk_at dksX3_runsInto_1 6 rfl rfl)
theorem dX3_runsInto_31 : decode cX3_runsInto 31 = .ok (.iconst 1, 1) := dk_4 (dk_at dksX3_runsInto_1 9 rfl rfl)
theorem dX3_runsInto_32 : decode cX3_runsInto 32 = .ok (.goto 4, 3) := dk_167 0 4 (dk_at dksX3_runsInto_1 10 rfl rfl)
theorem dX3_runsInto_35 : decode cX3_runsInto 35 = .ok (.iconst 0, 1) := dk_3 (dk_at dksX3_runsInto_1 13 rfl rfl)
theorem dX3_runsInto_36 : decode cX3_runsInto 36 = .ok (.iadd, 1) := dk_96 (dk_at dksX3_runsInto_1 14 rfl rfl)
theorem dX3_runsInto_37 : decode cX3_runsInto 37 = .ok (.istore 5, 2) := dk_54 5 (dk_at dksX3_runsInto_1 15 rfl rfl)
theorem dX3_runsInto_39 : decode cX3_runsInto 39 = .ok (.iload 6, 2) := dk_21 6 (dk_at dksX3_runsInto_1 17 rfl rfl)
theorem dX3_runsInto_41 : decode cX3_runsInto 41 = .ok (.iload 4, 2) := dk_21 4 (dk_at dksX3_runsInto_1 19 rfl rfl)
theorem dX3_runsInto_43 : decode cX3_runsInto 43 = .ok (.iadd, 1) := dk_96 (dk_at dksX3_runsInto_1 21 rfl rfl)
theorem dX3_runsInto_44 : decode cX3_runsInto 44 = .ok (.istore 6, 2) := dk_54 6 (dk_at dksX3_runsInto_1 22 rfl rfl)
theorem dX3_runsInto_46 : decode cX3_runsInto 46 = .ok (.iinc 7 1, 3) := dk_132 7 1 (dk_at dksX3_runsInto_2 0 rfl rfl)
theorem dX3_runsInto_49 : decode cX3_runsInto 49 = .ok (.goto (-40), 3) := dk_167 255 216 (dk_at dksX3_runsInto_2 3 rfl rfl)
theorem dX3_runsInto_52 : decode cX3_runsInto 52 = .ok (.iload 5, 2) := dk_21 5 (dk_at dksX3_runsInto_2 6 rfl rfl)
theorem dX3_runsInto_54 : decode cX3_runsInto 54 = .ok (.ireturn, 1) := dk_172 (dk_at dksX3_runsInto_2 8 rfl rfl)
abbrev cX3_tells : ByteArray := prog_10_method_35_code
def yX3_tells : MethodName := ⟨RX3, "tells", "(I)I"⟩
def dkwX3_tells_3 : List UInt8 := [132, 3, 1, 167, 255, 219, 28, 172]
abbrev dktX3_tells_3 : List UInt8 := dkwX3_tells_3 ++ []
def dkwX3_tells_2 : List UInt8 := [27, 42, 42, 180, 0, 41, 29, 46, 182, 0, 69, 182, 0, 121, 153, 0, 7, 4, 167, 0, 4, 3, 96, 61]
abbrev dktX3_tells_2 : List UInt8 := dkwX3_tells_2 ++ dktX3_tells_3
def dkwX3_tells_1 : List UInt8 := [172, 27, 184, 0, 111, 154, 0, 5, 2, 172, 3, 61, 3, 62, 29, 42, 180, 0, 142, 162, 0, 35, 28, 42]
abbrev dktX3_tells_1 : List UInt8 := dkwX3_tells_1 ++ dktX3_tells_2
def dkwX3_tells_0 : List UInt8 := [42, 3, 181, 0, 51, 42, 182, 0, 149, 42, 182, 0, 152, 154, 0, 12, 17, 248, 48, 42, 180, 0, 133, 100]
abbrev dktX3_tells_0 : List UInt8 := dkwX3_tells_0 ++ dktX3_tells_1
theorem dksX3_tells_0 : cX3_tells.data.toList.drop 0 = dktX3_tells_0 := by decide +kernel
theorem dksX3_tells_1 : cX3_tells.data.toList.drop 24 = dktX3_tells_1 := dk_seg dksX3_tells_0 24 rfl rfl
theorem dksX3_tells_2 : cX3_tells.data.toList.drop 48 = dktX3_tells_2 := dk_seg dksX3_tells_1 24 rfl rfl
theorem dksX3_tells_3 : cX3_tells.data.toList.drop 72 = dktX3_tells_3 := dk_seg dksX3_tells_2 24 rfl rfl
theorem dX3_tells_0 : decode cX3_tells 0 = .ok (.aload_n 0, 1) := dk_42 (dk_at dksX3_tells_0 0 rfl rfl)
theorem dX3_tells_1 : decode cX3_tells 1 = .ok (.iconst 0, 1) := dk_3 (dk_at dksX3_tells_0 1 rfl rfl)
theorem dX3_tells_2 : decode cX3_tells 2 = .ok (.putfield 51, 3) := dk_181 0 51 (dk_at dksX3_tells_0 2 rfl rfl)
theorem dX3_tells_5 : decode cX3_tells 5 = .ok (.aload_n 0, 1) := dk_42 (dk_at dksX3_tells_0 5 rfl rfl)
theorem dX3_tells_6 : decode cX3_tells 6 = .ok (.invokevirtual 149, 3) := dk_182 0 149 (dk_at dksX3_tells_0 6 rfl rfl)
theorem dX3_tells_9 : decode cX3_tells 9 = .ok (.aload_n 0, 1) := dk_42 (dk_at dksX3_tells_0 9 rfl rfl)
theorem dX3_tells_10 : decode cX3_tells 10 = .ok (.invokevirtual 152, 3) := dk_182 0 152 (dk_at dksX3_tells_0 10 rfl rfl)
theorem dX3_tells_13 : decode cX3_tells 13 = .ok (.ifCond .ne 12, 3) := dk_154 0 12 (dk_at dksX3_tells_0 13 rfl rfl)
theorem dX3_tells_16 : decode cX3_tells 16 = .ok (.sipush (-2000), 3) := dk_17 248 48 (dk_at dksX3_tells_0 16 rfl rfl)
theorem dX3_tells_19 : decode cX3_tells 19 = .ok (.aload_n 0, 1) := dk_42 (dk_at dksX3_tells_0 19 rfl rfl)
theorem dX3_tells_20 : decode cX3_tells 20 = .ok (.getfield 133, 3) := dk_180 0 133 (dk_at dksX3_tells_0 20 rfl rfl)
theorem dX3_tells_23 : decode cX3_tells 23 = .ok (.isub, 1) := dk_100 (dk_at dksX3_tells_0 23 rfl rfl)
theorem dX3_tells_24 : decode cX3_tells 24 = .ok (.ireturn, 1) := dk_172 (dk_at dksX3_tells_1 0 rfl rfl)
theorem dX3_tells_25 : decode cX3_tells 25 = .ok (.iload_n 1, 1) := dk_27 (dk_at dksX3_tells_1 1 rfl rfl)
theorem dX3_tells_26 : decode cX3_tells 26 = .ok (.invokestatic 111, 3) := dk_184 0 111 (dk_at dksX3_tells_1 2 rfl rfl)
theorem dX3_tells_29 : decode cX3_tells 29 = .ok (.ifCond .ne 5, 3) := dk_154 0 5 (dk_at dksX3_tells_1 5 rfl rfl)
theorem dX3_tells_32 : decode cX3_tells 32 = .ok (.iconst (-1), 1) := dk_2 (dk_at dksX3_tells_1 8 rfl rfl)
theorem dX3_tells_33 : decode cX3_tells 33 = .ok (.ireturn, 1) := dk_172 (dk_at dksX3_tells_1 9 rfl rfl)
theorem dX3_tells_34 : decode cX3_tells 34 = .ok (.iconst 0, 1) := dk_3 (dk_at dksX3_tells_1 10 rfl rfl)
theorem dX3_tells_35 : decode cX3_tells 35 = .ok (.istore_n 2, 1) := dk_61 (dk_at dksX3_tells_1 11 rfl rfl)
theorem dX3_tells_36 : decode cX3_tells 36 = .ok (.iconst 0, 1) := dk_3 (dk_at dksX3_tells_1 12 rfl rfl)
theorem dX3_tells_37 : decode cX3_tells 37 = .ok (.istore_n 3, 1) := dk_62 (dk_at dksX3_tells_1 13 rfl rfl)
theorem dX3_tells_38 : decode cX3_tells 38 = .ok (.iload_n 3, 1) := dk_29 (dk_at dksX3_tells_1 14 rfl rfl)
theorem dX3_tells_39 : decode cX3_tells 39 = .ok (.aload_n 0, 1) := dk_42 (dk_at dksX3_tells_1 15 rfl rfl)
theorem dX3_tells_40 : decode cX3_tells 40 = .ok (.getfield 142, 3) := dk_180 0 142 (dk_at dksX3_tells_1 16 rfl rfl)
theorem dX3_tells_43 : decode cX3_tells 43 = .ok (.if_icmp .ge 35, 3) := dk_162 0 35 (dk_at dksX3_tells_1 19 rfl rfl)
theorem dX3_tells_46 : decode cX3_tells 46 = .ok (.iload_n 2, 1) := dk_28 (dk_at dksX3_tells_1 22 rfl rfl)
theorem dX3_tells_47 : decode cX3_tells 47 = .ok (.aload_n 0, 1) := dk_42 (dk_at dksX3_tells_1 23 rfl rfl)
theorem dX3_tells_48 : decode cX3_tells 48 = .ok (.iload_n 1, 1) := dk_27 (dk_at dksX3_tells_2 0 rfl rfl)
theorem dX3_tells_49 : decode cX3_tells 49 = .ok (.aload_n 0, 1) := dk_42 (dk_at dksX3_tells_2 1 rfl rfl)
theorem dX3_tells_50 : decode cX3_tells 50 = .ok (.aload_n 0, 1) := dk_42 (dk_at dksX3_tells_2 2 rfl rfl)
theorem dX3_tells_51 : decode cX3_tells 51 = .ok (.getfield 41, 3) := dk_180 0 41 (dk_at dksX3_tells_2 3 rfl rfl)
theorem dX3_tells_54 : decode cX3_tells 54 = .ok (.iload_n 3, 1) := dk_29 (dk_at dksX3_tells_2 6 rfl rfl)
theorem dX3_tells_55 : decode cX3_tells 55 = .ok (.iaload, 1) := dk_46 (dk_at dksX3_tells_2 7 rfl rfl)
theorem dX3_tells_56 : decode cX3_tells 56 = .ok (.invokevirtual 69, 3) := dk_182 0 69 (dk_at dksX3_tells_2 8 rfl rfl)
theorem dX3_tells_59 : decode cX3_tells 59 = .ok (.invokevirtual 121, 3) := dk_182 0 121 (dk_at dksX3_tells_2 11 rfl rfl)
theorem dX3_tells_62 : decode cX3_tells 62 = .ok (.ifCond .eq 7, 3) := dk_153 0 7 (dk_at dksX3_tells_2 14 rfl rfl)
theorem dX3_tells_65 : decode cX3_tells 65 = .ok (.iconst 1, 1) := dk_4 (dk_at dksX3_tells_2 17 rfl rfl)
theorem dX3_tells_66 : decode cX3_tells 66 = .ok (.goto 4, 3) := dk_167 0 4 (dk_at dksX3_tells_2 18 rfl rfl)
theorem dX3_tells_69 : decode cX3_tells 69 = .ok (.iconst 0, 1) := dk_3 (dk_at dksX3_tells_2 21 rfl rfl)
theorem dX3_tells_70 : decode cX3_tells 70 = .ok (.iadd, 1) := dk_96 (dk_at dksX3_tells_2 22 rfl rfl)
theorem dX3_tells_71 : decode cX3_tells 71 = .ok (.istore_n 2, 1) := dk_61 (dk_at dksX3_tells_2 23 rfl rfl)
theorem dX3_tells_72 : decode cX3_tells 72 = .ok (.iinc 3 1, 3) := dk_132 3 1 (dk_at dksX3_tells_3 0 rfl rfl)
theorem dX3_tells_75 : decode cX3_tells 75 = .ok (.goto (-37), 3) := dk_167 255 219 (dk_at dksX3_tells_3 3 rfl rfl)
theorem dX3_tells_78 : decode cX3_tells 78 = .ok (.iload_n 2, 1) := dk_28 (dk_at dksX3_tells_3 6 rfl rfl)
theorem dX3_tells_79 : decode cX3_tells 79 = .ok (.ireturn, 1) := dk_172 (dk_at dksX3_tells_3 7 rfl rfl)
abbrev cX3_begin : ByteArray := prog_10_method_31_code
def yX3_begin : MethodName := ⟨RX3, "begin", "()V"⟩
def dkwX3_begin_0 : List UInt8 := [42, 42, 180, 0, 57, 181, 0, 130, 42, 3, 181, 0, 57, 42, 3, 181, 0, 133, 177]
abbrev dktX3_begin_0 : List UInt8 := dkwX3_begin_0 ++ []
theorem dksX3_begin_0 : cX3_begin.data.toList.drop 0 = dktX3_begin_0 := by decide +kernel
theorem dX3_begin_0 : decode cX3_begin 0 = .ok (.aload_n 0, 1) := dk_42 (dk_at dksX3_begin_0 0 rfl rfl)
theorem dX3_begin_1 : decode cX3_begin 1 = .ok (.aload_n 0, 1) := dk_42 (dk_at dksX3_begin_0 1 rfl rfl)
theorem dX3_begin_2 : decode cX3_begin 2 = .ok (.getfield 57, 3) := dk_180 0 57 (dk_at dksX3_begin_0 2 rfl rfl)
theorem dX3_begin_5 : decode cX3_begin 5 = .ok (.putfield 130, 3) := dk_181 0 130 (dk_at dksX3_begin_0 5 rfl rfl)
theorem dX3_begin_8 : decode cX3_begin 8 = .ok (.aload_n 0, 1) := dk_42 (dk_at dksX3_begin_0 8 rfl rfl)
theorem dX3_begin_9 : decode cX3_begin 9 = .ok (.iconst 0, 1) := dk_3 (dk_at dksX3_begin_0 9 rfl rfl)
theorem dX3_begin_10 : decode cX3_begin 10 = .ok (.putfield 57, 3) := dk_181 0 57 (dk_at dksX3_begin_0 10 rfl rfl)
theorem dX3_begin_13 : decode cX3_begin 13 = .ok (.aload_n 0, 1) := dk_42 (dk_at dksX3_begin_0 13 rfl rfl)
theorem dX3_begin_14 : decode cX3_begin 14 = .ok (.iconst 0, 1) := dk_3 (dk_at dksX3_begin_0 14 rfl rfl)
theorem dX3_begin_15 : decode cX3_begin 15 = .ok (.putfield 133, 3) := dk_181 0 133 (dk_at dksX3_begin_0 15 rfl rfl)
theorem dX3_begin_18 : decode cX3_begin 18 = .ok (.return_, 1) := dk_177 (dk_at dksX3_begin_0 18 rfl rfl)
abbrev cX3_readsThings : ByteArray := prog_10_method_34_code
def yX3_readsThings : MethodName := ⟨RX3, "readsThings", "()Z"⟩
def dkwX3_readsThings_2 : List UInt8 := [89, 180, 0, 133, 4, 96, 181, 0, 133, 167, 255, 213]
abbrev dktX3_readsThings_2 : List UInt8 := dkwX3_readsThings_2 ++ []
def dkwX3_readsThings_1 : List UInt8 := [180, 0, 133, 42, 180, 0, 130, 160, 0, 5, 4, 172, 42, 182, 0, 136, 16, 44, 159, 0, 5, 3, 172, 42]
abbrev dktX3_readsThings_1 : List UInt8 := dkwX3_readsThings_1 ++ dktX3_readsThings_2
def dkwX3_readsThings_0 : List UInt8 := [42, 3, 181, 0, 142, 42, 180, 0, 130, 154, 0, 5, 4, 172, 42, 182, 0, 145, 154, 0, 5, 3, 172, 42]
abbrev dktX3_readsThings_0 : List UInt8 := dkwX3_readsThings_0 ++ dktX3_readsThings_1
theorem dksX3_readsThings_0 : cX3_readsThings.data.toList.drop 0 = dktX3_readsThings_0 := by decide +kernel
theorem dksX3_readsThings_1 : cX3_readsThings.data.toList.drop 24 = dktX3_readsThings_1 := dk_seg dksX3_readsThings_0 24 rfl rfl
theorem dksX3_readsThings_2 : cX3_readsThings.data.toList.drop 48 = dktX3_readsThings_2 := dk_seg dksX3_readsThings_1 24 rfl rfl
theorem dX3_readsThings_0 : decode cX3_readsThings 0 = .ok (.aload_n 0, 1) := dk_42 (dk_at dksX3_readsThings_0 0 rfl rfl)
theorem dX3_readsThings_1 : decode cX3_readsThings 1 = .ok (.iconst 0, 1) := dk_3 (dk_at dksX3_readsThings_0 1 rfl rfl)
theorem dX3_readsThings_2 : decode cX3_readsThings 2 = .ok (.putfield 142, 3) := dk_181 0 142 (dk_at dksX3_readsThings_0 2 rfl rfl)
theorem dX3_readsThings_5 : decode cX3_readsThings 5 = .ok (.aload_n 0, 1) := dk_42 (dk_at dksX3_readsThings_0 5 rfl rfl)
theorem dX3_readsThings_6 : decode cX3_readsThings 6 = .ok (.getfield 130, 3) := dk_180 0 130 (dk_at dksX3_readsThings_0 6 rfl rfl)
theorem dX3_readsThings_9 : decode cX3_readsThings 9 = .ok (.ifCond .ne 5, 3) := dk_154 0 5 (dk_at dksX3_readsThings_0 9 rfl rfl)
theorem dX3_readsThings_12 : decode cX3_readsThings 12 = .ok (.iconst 1, 1) := dk_4 (dk_at dksX3_readsThings_0 12 rfl rfl)
theorem dX3_readsThings_13 : decode cX3_readsThings 13 = .ok (.ireturn, 1) := dk_172 (dk_at dksX3_readsThings_0 13 rfl rfl)
theorem dX3_readsThings_14 : decode cX3_readsThings 14 = .ok (.aload_n 0, 1) := dk_42 (dk_at dksX3_readsThings_0 14 rfl rfl)
theorem dX3_readsThings_15 : decode cX3_readsThings 15 = .ok (.invokevirtual 145, 3) := dk_182 0 145 (dk_at dksX3_readsThings_0 15 rfl rfl)
theorem dX3_readsThings_18 : decode cX3_readsThings 18 = .ok (.ifCond .ne 5, 3) := dk_154 0 5 (dk_at dksX3_readsThings_0 18 rfl rfl)
theorem dX3_readsThings_21 : decode cX3_readsThings 21 = .ok (.iconst 0, 1) := dk_3 (dk_at dksX3_readsThings_0 21 rfl rfl)
theorem dX3_readsThings_22 : decode cX3_readsThings 22 = .ok (.ireturn, 1) := dk_172 (dk_at dksX3_readsThings_0 22 rfl rfl)
theorem dX3_readsThings_23 : decode cX3_readsThings 23 = .ok (.aload_n 0, 1) := dk_42 (dk_at dksX3_readsThings_0 23 rfl rfl)
theorem dX3_readsThings_24 : decode cX3_readsThings 24 = .ok (.getfield 133, 3) := dk_180 0 133 (dk_at dksX3_readsThings_1 0 rfl rfl)
theorem dX3_readsThings_27 : decode cX3_readsThings 27 = .ok (.aload_n 0, 1) := dk_42 (dk_at dksX3_readsThings_1 3 rfl rfl)
theorem dX3_readsThings_28 : decode cX3_readsThings 28 = .ok (.getfield 130, 3) := dk_180 0 130 (dk_at dksX3_readsThings_1 4 rfl rfl)
theorem dX3_readsThings_31 : decode cX3_readsThings 31 = .ok (.if_icmp .ne 5, 3) := dk_160 0 5 (dk_at dksX3_readsThings_1 7 rfl rfl)
theorem dX3_readsThings_34 : decode cX3_readsThings 34 = .ok (.iconst 1, 1) := dk_4 (dk_at dksX3_readsThings_1 10 rfl rfl)
theorem dX3_readsThings_35 : decode cX3_readsThings 35 = .ok (.ireturn, 1) := dk_172 (dk_at dksX3_readsThings_1 11 rfl rfl)
theorem dX3_readsThings_36 : decode cX3_readsThings 36 = .ok (.aload_n 0, 1) := dk_42 (dk_at dksX3_readsThings_1 12 rfl rfl)
theorem dX3_readsThings_37 : decode cX3_readsThings 37 = .ok (.invokevirtual 136, 3) := dk_182 0 136 (dk_at dksX3_readsThings_1 13 rfl rfl)
theorem dX3_readsThings_40 : decode cX3_readsThings 40 = .ok (.bipush 44, 2) := dk_16 44 (dk_at dksX3_readsThings_1 16 rfl rfl)
theorem dX3_readsThings_42 : decode cX3_readsThings 42 = .ok (.if_icmp .eq 5, 3) := dk_159 0 5 (dk_at dksX3_readsThings_1 18 rfl rfl)
theorem dX3_readsThings_45 : decode cX3_readsThings 45 = .ok (.iconst 0, 1) := dk_3 (dk_at dksX3_readsThings_1 21 rfl rfl)
theorem dX3_readsThings_46 : decode cX3_readsThings 46 = .ok (.ireturn, 1) := dk_172 (dk_at dksX3_readsThings_1 22 rfl rfl)
theorem dX3_readsThings_47 : decode cX3_readsThings 47 = .ok (.aload_n 0, 1) := dk_42 (dk_at dksX3_readsThings_1 23 rfl rfl)
theorem dX3_readsThings_48 : decode cX3_readsThings 48 = .ok (.dup, 1) := dk_89 (dk_at dksX3_readsThings_2 0 rfl rfl)
theorem dX3_readsThings_49 : decode cX3_readsThings 49 = .ok (.getfield 133, 3) := dk_180 0 133 (dk_at dksX3_readsThings_2 1 rfl rfl)
theorem dX3_readsThings_52 : decode cX3_readsThings 52 = .ok (.iconst 1, 1) := dk_4 (dk_at dksX3_readsThings_2 4 rfl rfl)
theorem dX3_readsThings_53 : decode cX3_readsThings 53 = .ok (.iadd, 1) := dk_96 (dk_at dksX3_readsThings_2 5 rfl rfl)
theorem dX3_readsThings_54 : decode cX3_readsThings 54 = .ok (.putfield 133, 3) := dk_181 0 133 (dk_at dksX3_readsThings_2 6 rfl rfl)
theorem dX3_readsThings_57 : decode cX3_readsThings 57 = .ok (.goto (-43), 3) := dk_167 255 213 (dk_at dksX3_readsThings_2 9 rfl rfl)
abbrev cX3_readsNumber : ByteArray := prog_10_method_33_code
def yX3_readsNumber : MethodName := ⟨RX3, "readsNumber", "()Z"⟩
def dkwX3_readsNumber_5 : List UInt8 := [158, 0, 7, 4, 167, 0, 4, 3, 172]
abbrev dktX3_readsNumber_5 : List UInt8 := dkwX3_readsNumber_5 ++ []
def dkwX3_readsNumber_4 : List UInt8 := [27, 153, 0, 8, 28, 116, 167, 0, 4, 28, 79, 42, 89, 180, 0, 142, 4, 96, 181, 0, 142, 29]
abbrev dktX3_readsNumber_4 : List UInt8 := dkwX3_readsNumber_4 ++ dktX3_readsNumber_5
def dkwX3_readsNumber_3 : List UInt8 := [132, 3, 1, 42, 89, 180, 0, 133, 4, 96, 181, 0, 133, 167, 255, 207, 42, 180, 0, 41, 42, 180, 0, 142]
abbrev dktX3_readsNumber_3 : List UInt8 := dkwX3_readsNumber_3 ++ dktX3_readsNumber_4
def dkwX3_readsNumber_2 : List UInt8 := [20, 0, 140, 184, 0, 60, 153, 0, 32, 16, 10, 28, 104, 42, 182, 0, 136, 96, 16, 48, 100, 61]
abbrev dktX3_readsNumber_2 : List UInt8 := dkwX3_readsNumber_2 ++ dktX3_readsNumber_3
def dkwX3_readsNumber_1 : List UInt8 := [4, 96, 181, 0, 133, 3, 61, 3, 62, 29, 16, 9, 162, 0, 49, 42, 182, 0, 136, 133, 20, 0, 115]
abbrev dktX3_readsNumber_1 : List UInt8 := dkwX3_readsNumber_1 ++ dktX3_readsNumber_2
def dkwX3_readsNumber_0 : List UInt8 := [42, 182, 0, 136, 16, 45, 160, 0, 7, 4, 167, 0, 4, 3, 60, 27, 153, 0, 13, 42, 89, 180, 0, 133]
abbrev dktX3_readsNumber_0 : List UInt8 := dkwX3_readsNumber_0 ++ dktX3_readsNumber_1
theorem dksX3_readsNumber_0 : cX3_readsNumber.data.toList.drop 0 = dktX3_readsNumber_0 := by decide +kernel
theorem dksX3_readsNumber_1 : cX3_readsNumber.data.toList.drop 24 = dktX3_readsNumber_1 := dk_seg dksX3_readsNumber_0 24 rfl rfl
theorem dksX3_readsNumber_2 : cX3_readsNumber.data.toList.drop 47 = dktX3_readsNumber_2 := dk_seg dksX3_readsNumber_1 23 rfl rfl
theorem dksX3_readsNumber_3 : cX3_readsNumber.data.toList.drop 69 = dktX3_readsNumber_3 := dk_seg dksX3_readsNumber_2 22 rfl rfl
theorem dksX3_readsNumber_4 : cX3_readsNumber.data.toList.drop 93 = dktX3_readsNumber_4 := dk_seg dksX3_readsNumber_3 24 rfl rfl
theorem dksX3_readsNumber_5 : cX3_readsNumber.data.toList.drop 115 = dktX3_readsNumber_5 := dk_seg dksX3_readsNumber_4 22 rfl rfl
theorem dX3_readsNumber_0 : decode cX3_readsNumber 0 = .ok (.aload_n 0, 1) := dk_42 (dk_at dksX3_readsNumber_0 0 rfl rfl)
theorem dX3_readsNumber_1 : decode cX3_readsNumber 1 = .ok (.invokevirtual 136, 3) := dk_182 0 136 (dk_at dksX3_readsNumber_0 1 rfl rfl)
theorem dX3_readsNumber_4 : decode cX3_readsNumber 4 = .ok (.bipush 45, 2) := dk_16 45 (dk_at dksX3_readsNumber_0 4 rfl rfl)
theorem dX3_readsNumber_6 : decode cX3_readsNumber 6 = .ok (.if_icmp .ne 7, 3) := dk_160 0 7 (dk_at dksX3_readsNumber_0 6 rfl rfl)
theorem dX3_readsNumber_9 : decode cX3_readsNumber 9 = .ok (.iconst 1, 1) := dk_4 (dk_at dksX3_readsNumber_0 9 rfl rfl)
theorem dX3_readsNumber_10 : decode cX3_readsNumber 10 = .ok (.goto 4, 3) := dk_167 0 4 (dk_at dksX3_readsNumber_0 10 rfl rfl)
theorem dX3_readsNumber_13 : decode cX3_readsNumber 13 = .ok (.iconst 0, 1) := dk_3 (dk_at dksX3_readsNumber_0 13 rfl rfl)
theorem dX3_readsNumber_14 : decode cX3_readsNumber 14 = .ok (.istore_n 1, 1) := dk_60 (dk_at dksX3_readsNumber_0 14 rfl rfl)
theorem dX3_readsNumber_15 : decode cX3_readsNumber 15 = .ok (.iload_n 1, 1) := dk_27 (dk_at dksX3_readsNumber_0 15 rfl rfl)
theorem dX3_readsNumber_16 : decode cX3_readsNumber 16 = .ok (.ifCond .eq 13, 3) := dk_153 0 13 (dk_at dksX3_readsNumber_0 16 rfl rfl)
theorem dX3_readsNumber_19 : decode cX3_readsNumber 19 = .ok (.aload_n 0, 1) := dk_42 (dk_at dksX3_readsNumber_0 19 rfl rfl)
theorem dX3_readsNumber_20 : decode cX3_readsNumber 20 = .ok (.dup, 1) := dk_89 (dk_at dksX3_readsNumber_0 20 rfl rfl)
theorem dX3_readsNumber_21 : decode cX3_readsNumber 21 = .ok (.getfield 133, 3) := dk_180 0 133 (dk_at dksX3_readsNumber_0 21 rfl rfl)
theorem dX3_readsNumber_24 : decode cX3_readsNumber 24 = .ok (.iconst 1, 1) := dk_4 (dk_at dksX3_readsNumber_1 0 rfl rfl)
theorem dX3_readsNumber_25 : decode cX3_readsNumber 25 = .ok (.iadd, 1) := dk_96 (dk_at dksX3_readsNumber_1 1 rfl rfl)
theorem dX3_readsNumber_26 : decode cX3_readsNumber 26 = .ok (.putfield 133, 3) := dk_181 0 133 (dk_at dksX3_readsNumber_1 2 rfl rfl)
theorem dX3_readsNumber_29 : decode cX3_readsNumber 29 = .ok (.iconst 0, 1) := dk_3 (dk_at dksX3_readsNumber_1 5 rfl rfl)
theorem dX3_readsNumber_30 : decode cX3_readsNumber 30 = .ok (.istore_n 2, 1) := dk_61 (dk_at dksX3_readsNumber_1 6 rfl rfl)
theorem dX3_readsNumber_31 : decode cX3_readsNumber 31 = .ok (.iconst 0, 1) := dk_3 (dk_at dksX3_readsNumber_1 7 rfl rfl)
theorem dX3_readsNumber_32 : decode cX3_readsNumber 32 = .ok (.istore_n 3, 1) := dk_62 (dk_at dksX3_readsNumber_1 8 rfl rfl)
theorem dX3_readsNumber_33 : decode cX3_readsNumber 33 = .ok (.iload_n 3, 1) := dk_29 (dk_at dksX3_readsNumber_1 9 rfl rfl)
theorem dX3_readsNumber_34 : decode cX3_readsNumber 34 = .ok (.bipush 9, 2) := dk_16 9 (dk_at dksX3_readsNumber_1 10 rfl rfl)
theorem dX3_readsNumber_36 : decode cX3_readsNumber 36 = .ok (.if_icmp .ge 49, 3) := dk_162 0 49 (dk_at dksX3_readsNumber_1 12 rfl rfl)
theorem dX3_readsNumber_39 : decode cX3_readsNumber 39 = .ok (.aload_n 0, 1) := dk_42 (dk_at dksX3_readsNumber_1 15 rfl rfl)
theorem dX3_readsNumber_40 : decode cX3_readsNumber 40 = .ok (.invokevirtual 136, 3) := dk_182 0 136 (dk_at dksX3_readsNumber_1 16 rfl rfl)
theorem dX3_readsNumber_43 : decode cX3_readsNumber 43 = .ok (.i2l, 1) := dk_133 (dk_at dksX3_readsNumber_1 19 rfl rfl)
theorem dX3_readsNumber_44 : decode cX3_readsNumber 44 = .ok (.ldc2_w 115, 3) := dk_20 0 115 (dk_at dksX3_readsNumber_1 20 rfl rfl)
theorem dX3_readsNumber_47 : decode cX3_readsNumber 47 = .ok (.ldc2_w 140, 3) := dk_20 0 140 (dk_at dksX3_readsNumber_2 0 rfl rfl)
theorem dX3_readsNumber_50 : decode cX3_readsNumber 50 = .ok (.invokestatic 60, 3) := dk_184 0 60 (dk_at dksX3_readsNumber_2 3 rfl rfl)
theorem dX3_readsNumber_53 : decode cX3_readsNumber 53 = .ok (.ifCond .eq 32, 3) := dk_153 0 32 (dk_at dksX3_readsNumber_2 6 rfl rfl)
theorem dX3_readsNumber_56 : decode cX3_readsNumber 56 = .ok (.bipush 10, 2) := dk_16 10 (dk_at dksX3_readsNumber_2 9 rfl rfl)
theorem dX3_readsNumber_58 : decode cX3_readsNumber 58 = .ok (.iload_n 2, 1) := dk_28 (dk_at dksX3_readsNumber_2 11 rfl rfl)
theorem dX3_readsNumber_59 : decode cX3_readsNumber 59 = .ok (.imul, 1) := dk_104 (dk_at dksX3_readsNumber_2 12 rfl rfl)
theorem dX3_readsNumber_60 : decode cX3_readsNumber 60 = .ok (.aload_n 0, 1) := dk_42 (dk_at dksX3_readsNumber_2 13 rfl rfl)
theorem dX3_readsNumber_61 : decode cX3_readsNumber 61 = .ok (.invokevirtual 136, 3) := dk_182 0 136 (dk_at dksX3_readsNumber_2 14 rfl rfl)
theorem dX3_readsNumber_64 : decode cX3_readsNumber 64 = .ok (.iadd, 1) := dk_96 (dk_at dksX3_readsNumber_2 17 rfl rfl)
theorem dX3_readsNumber_65 : decode cX3_readsNumber 65 = .ok (.bipush 48, 2) := dk_16 48 (dk_at dksX3_readsNumber_2 18 rfl rfl)
theorem dX3_readsNumber_67 : decode cX3_readsNumber 67 = .ok (.isub, 1) := dk_100 (dk_at dksX3_readsNumber_2 20 rfl rfl)
theorem dX3_readsNumber_68 : decode cX3_readsNumber 68 = .ok (.istore_n 2, 1) := dk_61 (dk_at dksX3_readsNumber_2 21 rfl rfl)
theorem dX3_readsNumber_69 : decode cX3_readsNumber 69 = .ok (.iinc 3 1, 3) := dk_132 3 1 (dk_at dksX3_readsNumber_3 0 rfl rfl)
theorem dX3_readsNumber_72 : decode cX3_readsNumber 72 = .ok (.aload_n 0, 1) := dk_42 (dk_at dksX3_readsNumber_3 3 rfl rfl)
theorem dX3_readsNumber_73 : decode cX3_readsNumber 73 = .ok (.dup, 1) := dk_89 (dk_at dksX3_readsNumber_3 4 rfl rfl)
theorem dX3_readsNumber_74 : decode cX3_readsNumber 74 = .ok (.getfield 133, 3) := dk_180 0 133 (dk_at dksX3_readsNumber_3 5 rfl rfl)
theorem dX3_readsNumber_77 : decode cX3_readsNumber 77 = .ok (.iconst 1, 1) := dk_4 (dk_at dksX3_readsNumber_3 8 rfl rfl)
theorem dX3_readsNumber_78 : decode cX3_readsNumber 78 = .ok (.iadd, 1) := dk_96 (dk_at dksX3_readsNumber_3 9 rfl rfl)
theorem dX3_readsNumber_79 : decode cX3_readsNumber 79 = .ok (.putfield 133, 3) := dk_181 0 133 (dk_at dksX3_readsNumber_3 10 rfl rfl)
theorem dX3_readsNumber_82 : decode cX3_readsNumber 82 = .ok (.goto (-49), 3) := dk_167 255 207 (dk_at dksX3_readsNumber_3 13 rfl rfl)
theorem dX3_readsNumber_85 : decode cX3_readsNumber 85 = .ok (.aload_n 0, 1) := dk_42 (dk_at dksX3_readsNumber_3 16 rfl rfl)
theorem dX3_readsNumber_86 : decode cX3_readsNumber 86 = .ok (.getfield 41, 3) := dk_180 0 41 (dk_at dksX3_readsNumber_3 17 rfl rfl)
theorem dX3_readsNumber_89 : decode cX3_readsNumber 89 = .ok (.aload_n 0, 1) := dk_42 (dk_at dksX3_readsNumber_3 20 rfl rfl)
theorem dX3_readsNumber_90 : decode cX3_readsNumber 90 = .ok (.getfield 142, 3) := dk_180 0 142 (dk_at dksX3_readsNumber_3 21 rfl rfl)
theorem dX3_readsNumber_93 : decode cX3_readsNumber 93 = .ok (.iload_n 1, 1) := dk_27 (dk_at dksX3_readsNumber_4 0 rfl rfl)
theorem dX3_readsNumber_94 : decode cX3_readsNumber 94 = .ok (.ifCond .eq 8, 3) := dk_153 0 8 (dk_at dksX3_readsNumber_4 1 rfl rfl)
theorem dX3_readsNumber_97 : decode cX3_readsNumber 97 = .ok (.iload_n 2, 1) := dk_28 (dk_at dksX3_readsNumber_4 4 rfl rfl)
theorem dX3_readsNumber_98 : decode cX3_readsNumber 98 = .ok (.ineg, 1) := dk_116 (dk_at dksX3_readsNumber_4 5 rfl rfl)
theorem dX3_readsNumber_99 : decode cX3_readsNumber 99 = .ok (.goto 4, 3) := dk_167 0 4 (dk_at dksX3_readsNumber_4 6 rfl rfl)
theorem dX3_readsNumber_102 : decode cX3_readsNumber 102 = .ok (.iload_n 2, 1) := dk_28 (dk_at dksX3_readsNumber_4 9 rfl rfl)
theorem dX3_readsNumber_103 : decode cX3_readsNumber 103 = .ok (.iastore, 1) := dk_79 (dk_at dksX3_readsNumber_4 10 rfl rfl)
theorem dX3_readsNumber_104 : decode cX3_readsNumber 104 = .ok (.aload_n 0, 1) := dk_42 (dk_at dksX3_readsNumber_4 11 rfl rfl)
theorem dX3_readsNumber_105 : decode cX3_readsNumber 105 = .ok (.dup, 1) := dk_89 (dk_at dksX3_readsNumber_4 12 rfl rfl)
theorem dX3_readsNumber_106 : decode cX3_readsNumber 106 = .ok (.getfield 142, 3) := dk_180 0 142 (dk_at dksX3_readsNumber_4 13 rfl rfl)
theorem dX3_readsNumber_109 : decode cX3_readsNumber 109 = .ok (.iconst 1, 1) := dk_4 (dk_at dksX3_readsNumber_4 16 rfl rfl)
theorem dX3_readsNumber_110 : decode cX3_readsNumber 110 = .ok (.iadd, 1) := dk_96 (dk_at dksX3_readsNumber_4 17 rfl rfl)
theorem dX3_readsNumber_111 : decode cX3_readsNumber 111 = .ok (.putfield 142, 3) := dk_181 0 142 (dk_at dksX3_readsNumber_4 18 rfl rfl)
theorem dX3_readsNumber_114 : decode cX3_readsNumber 114 = .ok (.iload_n 3, 1) := dk_29 (dk_at dksX3_readsNumber_4 21 rfl rfl)
theorem dX3_readsNumber_115 : decode cX3_readsNumber 115 = .ok (.ifCond .le 7, 3) := dk_158 0 7 (dk_at dksX3_readsNumber_5 0 rfl rfl)
theorem dX3_readsNumber_118 : decode cX3_readsNumber 118 = .ok (.iconst 1, 1) := dk_4 (dk_at dksX3_readsNumber_5 3 rfl rfl)
theorem dX3_readsNumber_119 : decode cX3_readsNumber 119 = .ok (.goto 4, 3) := dk_167 0 4 (dk_at dksX3_readsNumber_5 4 rfl rfl)
theorem dX3_readsNumber_122 : decode cX3_readsNumber 122 = .ok (.iconst 0, 1) := dk_3 (dk_at dksX3_readsNumber_5 7 rfl rfl)
theorem dX3_readsNumber_123 : decode cX3_readsNumber 123 = .ok (.ireturn, 1) := dk_172 (dk_at dksX3_readsNumber_5 8 rfl rfl)
abbrev cX3_sees : ByteArray := prog_10_method_32_code
def yX3_sees : MethodName := ⟨RX3, "sees", "()I"⟩
def dkwX3_sees_1 : List UInt8 := [167, 0, 4, 2, 172]
abbrev dktX3_sees_1 : List UInt8 := dkwX3_sees_1 ++ []
def dkwX3_sees_0 : List UInt8 := [42, 180, 0, 133, 42, 180, 0, 130, 162, 0, 19, 42, 180, 0, 34, 42, 180, 0, 133, 51, 17, 0, 255, 126]
abbrev dktX3_sees_0 : List UInt8 := dkwX3_sees_0 ++ dktX3_sees_1
theorem dksX3_sees_0 : cX3_sees.data.toList.drop 0 = dktX3_sees_0 := by decide +kernel
theorem dksX3_sees_1 : cX3_sees.data.toList.drop 24 = dktX3_sees_1 := dk_seg dksX3_sees_0 24 rfl rfl
theorem dX3_sees_0 : decode cX3_sees 0 = .ok (.aload_n 0, 1) := dk_42 (dk_at dksX3_sees_0 0 rfl rfl)
theorem dX3_sees_1 : decode cX3_sees 1 = .ok (.getfield 133, 3) := dk_180 0 133 (dk_at dksX3_sees_0 1 rfl rfl)
theorem dX3_sees_4 : decode cX3_sees 4 = .ok (.aload_n 0, 1) := dk_42 (dk_at dksX3_sees_0 4 rfl rfl)
theorem dX3_sees_5 : decode cX3_sees 5 = .ok (.getfield 130, 3) := dk_180 0 130 (dk_at dksX3_sees_0 5 rfl rfl)
theorem dX3_sees_8 : decode cX3_sees 8 = .ok (.if_icmp .ge 19, 3) := dk_162 0 19 (dk_at dksX3_sees_0 8 rfl rfl)
theorem dX3_sees_11 : decode cX3_sees 11 = .ok (.aload_n 0, 1) := dk_42 (dk_at dksX3_sees_0 11 rfl rfl)
theorem dX3_sees_12 : decode cX3_sees 12 = .ok (.getfield 34, 3) := dk_180 0 34 (dk_at dksX3_sees_0 12 rfl rfl)
theorem dX3_sees_15 : decode cX3_sees 15 = .ok (.aload_n 0, 1) := dk_42 (dk_at dksX3_sees_0 15 rfl rfl)
theorem dX3_sees_16 : decode cX3_sees 16 = .ok (.getfield 133, 3) := dk_180 0 133 (dk_at dksX3_sees_0 16 rfl rfl)
theorem dX3_sees_19 : decode cX3_sees 19 = .ok (.baload, 1) := dk_51 (dk_at dksX3_sees_0 19 rfl rfl)
theorem dX3_sees_20 : decode cX3_sees 20 = .ok (.sipush 255, 3) := dk_17 0 255 (dk_at dksX3_sees_0 20 rfl rfl)
theorem dX3_sees_23 : decode cX3_sees 23 = .ok (.iand, 1) := dk_126 (dk_at dksX3_sees_0 23 rfl rfl)
theorem dX3_sees_24 : decode cX3_sees 24 = .ok (.goto 4, 3) := dk_167 0 4 (dk_at dksX3_sees_1 0 rfl rfl)
theorem dX3_sees_27 : decode cX3_sees 27 = .ok (.iconst (-1), 1) := dk_2 (dk_at dksX3_sees_1 3 rfl rfl)
theorem dX3_sees_28 : decode cX3_sees 28 = .ok (.ireturn, 1) := dk_172 (dk_at dksX3_sees_1 4 rfl rfl)
abbrev cX3_takes : ByteArray := prog_10_method_36_code
def yX3_takes : MethodName := ⟨RX3, "takes", "(II)I"⟩
def dkwX3_takes_5 : List UInt8 := [27, 21, 5, 79, 42, 27, 182, 0, 155, 21, 6, 172]
abbrev dktX3_takes_5 : List UInt8 := dkwX3_takes_5 ++ []
def dkwX3_takes_4 : List UInt8 := [132, 5, 1, 132, 6, 1, 167, 255, 195, 42, 180, 0, 24, 27, 46, 21, 5, 100, 54, 6, 42, 180, 0, 24]
abbrev dktX3_takes_4 : List UInt8 := dkwX3_takes_4 ++ dktX3_takes_5
def dkwX3_takes_3 : List UInt8 := [180, 0, 20, 16, 64, 27, 104, 21, 5, 96, 42, 180, 0, 20, 16, 64, 27, 104, 21, 6, 96, 47, 80]
abbrev dktX3_takes_3 : List UInt8 := dkwX3_takes_3 ++ dktX3_takes_4
def dkwX3_takes_2 : List UInt8 := [162, 0, 56, 42, 180, 0, 20, 16, 64, 27, 104, 21, 6, 96, 47, 33, 148, 154, 0, 6, 167, 0, 30, 42]
abbrev dktX3_takes_2 : List UInt8 := dkwX3_takes_2 ++ dktX3_takes_3
def dkwX3_takes_1 : List UInt8 := [16, 254, 172, 42, 28, 182, 0, 69, 66, 3, 54, 5, 3, 54, 6, 21, 6, 42, 180, 0, 24, 27, 46]
abbrev dktX3_takes_1 : List UInt8 := dkwX3_takes_1 ++ dktX3_takes_2
def dkwX3_takes_0 : List UInt8 := [42, 3, 181, 0, 51, 27, 184, 0, 111, 154, 0, 5, 2, 172, 42, 180, 0, 16, 27, 51, 153, 0, 6]
abbrev dktX3_takes_0 : List UInt8 := dkwX3_takes_0 ++ dktX3_takes_1
theorem dksX3_takes_0 : cX3_takes.data.toList.drop 0 = dktX3_takes_0 := by decide +kernel
theorem dksX3_takes_1 : cX3_takes.data.toList.drop 23 = dktX3_takes_1 := dk_seg dksX3_takes_0 23 rfl rfl
theorem dksX3_takes_2 : cX3_takes.data.toList.drop 46 = dktX3_takes_2 := dk_seg dksX3_takes_1 23 rfl rfl
theorem dksX3_takes_3 : cX3_takes.data.toList.drop 70 = dktX3_takes_3 := dk_seg dksX3_takes_2 24 rfl rfl
theorem dksX3_takes_4 : cX3_takes.data.toList.drop 93 = dktX3_takes_4 := dk_seg dksX3_takes_3 23 rfl rfl
theorem dksX3_takes_5 : cX3_takes.data.toList.drop 117 = dktX3_takes_5 := dk_seg dksX3_takes_4 24 rfl rfl
theorem dX3_takes_0 : decode cX3_takes 0 = .ok (.aload_n 0, 1) := dk_42 (dk_at dksX3_takes_0 0 rfl rfl)
theorem dX3_takes_1 : decode cX3_takes 1 = .ok (.iconst 0, 1) := dk_3 (dk_at dksX3_takes_0 1 rfl rfl)
theorem dX3_takes_2 : decode cX3_takes 2 = .ok (.putfield 51, 3) := dk_181 0 51 (dk_at dksX3_takes_0 2 rfl rfl)
theorem dX3_takes_5 : decode cX3_takes 5 = .ok (.iload_n 1, 1) := dk_27 (dk_at dksX3_takes_0 5 rfl rfl)
theorem dX3_takes_6 : decode cX3_takes 6 = .ok (.invokestatic 111, 3) := dk_184 0 111 (dk_at dksX3_takes_0 6 rfl rfl)
theorem dX3_takes_9 : decode cX3_takes 9 = .ok (.ifCond .ne 5, 3) := dk_154 0 5 (dk_at dksX3_takes_0 9 rfl rfl)
theorem dX3_takes_12 : decode cX3_takes 12 = .ok (.iconst (-1), 1) := dk_2 (dk_at dksX3_takes_0 12 rfl rfl)
theorem dX3_takes_13 : decode cX3_takes 13 = .ok (.ireturn, 1) := dk_172 (dk_at dksX3_takes_0 13 rfl rfl)
theorem dX3_takes_14 : decode cX3_takes 14 = .ok (.aload_n 0, 1) := dk_42 (dk_at dksX3_takes_0 14 rfl rfl)
theorem dX3_takes_15 : decode cX3_takes 15 = .ok (.getfield 16, 3) := dk_180 0 16 (dk_at dksX3_takes_0 15 rfl rfl)
theorem dX3_takes_18 : decode cX3_takes 18 = .ok (.iload_n 1, 1) := dk_27 (dk_at dksX3_takes_0 18 rfl rfl)
theorem dX3_takes_19 : decode cX3_takes 19 = .ok (.baload, 1) := dk_51 (dk_at dksX3_takes_0 19 rfl rfl)
theorem dX3_takes_20 : decode cX3_takes 20 = .ok (.ifCond .eq 6, 3) := dk_153 0 6 (dk_at dksX3_takes_0 20 rfl rfl)
theorem dX3_takes_23 : decode cX3_takes 23 = .ok (.bipush (-2), 2) := dk_16 254 (dk_at dksX3_takes_1 0 rfl rfl)
theorem dX3_takes_25 : decode cX3_takes 25 = .ok (.ireturn, 1) := dk_172 (dk_at dksX3_takes_1 2 rfl rfl)
theorem dX3_takes_26 : decode cX3_takes 26 = .ok (.aload_n 0, 1) := dk_42 (dk_at dksX3_takes_1 3 rfl rfl)
theorem dX3_takes_27 : decode cX3_takes 27 = .ok (.iload_n 2, 1) := dk_28 (dk_at dksX3_takes_1 4 rfl rfl)
theorem dX3_takes_28 : decode cX3_takes 28 = .ok (.invokevirtual 69, 3) := dk_182 0 69 (dk_at dksX3_takes_1 5 rfl rfl)
theorem dX3_takes_31 : decode cX3_takes 31 = .ok (.lstore_n 3, 1) := dk_66 (dk_at dksX3_takes_1 8 rfl rfl)
theorem dX3_takes_32 : decode cX3_takes 32 = .ok (.iconst 0, 1) := dk_3 (dk_at dksX3_takes_1 9 rfl rfl)
theorem dX3_takes_33 : decode cX3_takes 33 = .ok (.istore 5, 2) := dk_54 5 (dk_at dksX3_takes_1 10 rfl rfl)
theorem dX3_takes_35 : decode cX3_takes 35 = .ok (.iconst 0, 1) := dk_3 (dk_at dksX3_takes_1 12 rfl rfl)
theorem dX3_takes_36 : decode cX3_takes 36 = .ok (.istore 6, 2) := dk_54 6 (dk_at dksX3_takes_1 13 rfl rfl)
theorem dX3_takes_38 : decode cX3_takes 38 = .ok (.iload 6, 2) := dk_21 6 (dk_at dksX3_takes_1 15 rfl rfl)
theorem dX3_takes_40 : decode cX3_takes 40 = .ok (.aload_n 0, 1) := dk_42 (dk_at dksX3_takes_1 17 rfl rfl)
theorem dX3_takes_41 : decode cX3_takes 41 = .ok (.getfield 24, 3) := dk_180 0 24 (dk_at dksX3_takes_1 18 rfl rfl)
theorem dX3_takes_44 : decode cX3_takes 44 = .ok (.iload_n 1, 1) := dk_27 (dk_at dksX3_takes_1 21 rfl rfl)
theorem dX3_takes_45 : decode cX3_takes 45 = .ok (.iaload, 1) := dk_46 (dk_at dksX3_takes_1 22 rfl rfl)
theorem dX3_takes_46 : decode cX3_takes 46 = .ok (.if_icmp .ge 56, 3) := dk_162 0 56 (dk_at dksX3_takes_2 0 rfl rfl)
theorem dX3_takes_49 : decode cX3_takes 49 = .ok (.aload_n 0, 1) := dk_42 (dk_at dksX3_takes_2 3 rfl rfl)
theorem dX3_takes_50 : decode cX3_takes 50 = .ok (.getfield 20, 3) := dk_180 0 20 (dk_at dksX3_takes_2 4 rfl rfl)
theorem dX3_takes_53 : decode cX3_takes 53 = .ok (.bipush 64, 2) := dk_16 64 (dk_at dksX3_takes_2 7 rfl rfl)
theorem dX3_takes_55 : decode cX3_takes 55 = .ok (.iload_n 1, 1) := dk_27 (dk_at dksX3_takes_2 9 rfl rfl)
theorem dX3_takes_56 : decode cX3_takes 56 = .ok (.imul, 1) := dk_104 (dk_at dksX3_takes_2 10 rfl rfl)
theorem dX3_takes_57 : decode cX3_takes 57 = .ok (.iload 6, 2) := dk_21 6 (dk_at dksX3_takes_2 11 rfl rfl)
theorem dX3_takes_59 : decode cX3_takes 59 = .ok (.iadd, 1) := dk_96 (dk_at dksX3_takes_2 13 rfl rfl)
theorem dX3_takes_60 : decode cX3_takes 60 = .ok (.laload, 1) := dk_47 (dk_at dksX3_takes_2 14 rfl rfl)
theorem dX3_takes_61 : decode cX3_takes 61 = .ok (.lload_n 3, 1) := dk_33 (dk_at dksX3_takes_2 15 rfl rfl)
theorem dX3_takes_62 : decode cX3_takes 62 = .ok (.lcmp, 1) := dk_148 (dk_at dksX3_takes_2 16 rfl rfl)
theorem dX3_takes_63 : decode cX3_takes 63 = .ok (.ifCond .ne 6, 3) := dk_154 0 6 (dk_at dksX3_takes_2 17 rfl rfl)
theorem dX3_takes_66 : decode cX3_takes 66 = .ok (.goto 30, 3) := dk_167 0 30 (dk_at dksX3_takes_2 20 rfl rfl)
theorem dX3_takes_69 : decode cX3_takes 69 = .ok (.aload_n 0, 1) := dk_42 (dk_at dksX3_takes_2 23 rfl rfl)
theorem dX3_takes_70 : decode cX3_takes 70 = .ok (.getfield 20, 3) := dk_180 0 20 (dk_at dksX3_takes_3 0 rfl rfl)
theorem dX3_takes_73 : decode cX3_takes 73 = .ok (.bipush 64, 2) := dk_16 64 (dk_at dksX3_takes_3 3 rfl rfl)
theorem dX3_takes_75 : decode cX3_takes 75 = .ok (.iload_n 1, 1) := dk_27 (dk_at dksX3_takes_3 5 rfl rfl)
theorem dX3_takes_76 : decode cX3_takes 76 = .ok (.imul, 1) := dk_104 (dk_at dksX3_takes_3 6 rfl rfl)
theorem dX3_takes_77 : decode cX3_takes 77 = .ok (.iload 5, 2) := dk_21 5 (dk_at dksX3_takes_3 7 rfl rfl)
theorem dX3_takes_79 : decode cX3_takes 79 = .ok (.iadd, 1) := dk_96 (dk_at dksX3_takes_3 9 rfl rfl)
theorem dX3_takes_80 : decode cX3_takes 80 = .ok (.aload_n 0, 1) := dk_42 (dk_at dksX3_takes_3 10 rfl rfl)
theorem dX3_takes_81 : decode cX3_takes 81 = .ok (.getfield 20, 3) := dk_180 0 20 (dk_at dksX3_takes_3 11 rfl rfl)
theorem dX3_takes_84 : decode cX3_takes 84 = .ok (.bipush 64, 2) := dk_16 64 (dk_at dksX3_takes_3 14 rfl rfl)
theorem dX3_takes_86 : decode cX3_takes 86 = .ok (.iload_n 1, 1) := dk_27 (dk_at dksX3_takes_3 16 rfl rfl)
theorem dX3_takes_87 : decode cX3_takes 87 = .ok (.imul, 1) := dk_104 (dk_at dksX3_takes_3 17 rfl rfl)
theorem dX3_takes_88 : decode cX3_takes 88 = .ok (.iload 6, 2) := dk_21 6 (dk_at dksX3_takes_3 18 rfl rfl)
theorem dX3_takes_90 : decode cX3_takes 90 = .ok (.iadd, 1) := dk_96 (dk_at dksX3_takes_3 20 rfl rfl)
theorem dX3_takes_91 : decode cX3_takes 91 = .ok (.laload, 1) := dk_47 (dk_at dksX3_takes_3 21 rfl rfl)
theorem dX3_takes_92 : decode cX3_takes 92 = .ok (.lastore, 1) := dk_80 (dk_at dksX3_takes_3 22 rfl rfl)
theorem dX3_takes_93 : decode cX3_takes 93 = .ok (.iinc 5 1, 3) := dk_132 5 1 (dk_at dksX3_takes_4 0 rfl rfl)
theorem dX3_takes_96 : decode cX3_takes 96 = .ok (.iinc 6 1, 3) := dk_132 6 1 (dk_at dksX3_takes_4 3 rfl rfl)
theorem dX3_takes_99 : decode cX3_takes 99 = .ok (.goto (-61), 3) := dk_167 255 195 (dk_at dksX3_takes_4 6 rfl rfl)
theorem dX3_takes_102 : decode cX3_takes 102 = .ok (.aload_n 0, 1) := dk_42 (dk_at dksX3_takes_4 9 rfl rfl)
theorem dX3_takes_103 : decode cX3_takes 103 = .ok (.getfield 24, 3) := dk_180 0 24 (dk_at dksX3_takes_4 10 rfl rfl)
theorem dX3_takes_106 : decode cX3_takes 106 = .ok (.iload_n 1, 1) := dk_27 (dk_at dksX3_takes_4 13 rfl rfl)
theorem dX3_takes_107 : decode cX3_takes 107 = .ok (.iaload, 1) := dk_46 (dk_at dksX3_takes_4 14 rfl rfl)
theorem dX3_takes_108 : decode cX3_takes 108 = .ok (.iload 5, 2) := dk_21 5 (dk_at dksX3_takes_4 15 rfl rfl)
theorem dX3_takes_110 : decode cX3_takes 110 = .ok (.isub, 1) := dk_100 (dk_at dksX3_takes_4 17 rfl rfl)
theorem dX3_takes_111 : decode cX3_takes 111 = .ok (.istore 6, 2) := dk_54 6 (dk_at dksX3_takes_4 18 rfl rfl)
theorem dX3_takes_113 : decode cX3_takes 113 = .ok (.aload_n 0, 1) := dk_42 (dk_at dksX3_takes_4 20 rfl rfl)
theorem dX3_takes_114 : decode cX3_takes 114 = .ok (.getfield 24, 3) := dk_180 0 24 (dk_at dksX3_takes_4 21 rfl rfl)
theorem dX3_takes_117 : decode cX3_takes 117 = .ok (.iload_n 1, 1) := dk_27 (dk_at dksX3_takes_5 0 rfl rfl)
theorem dX3_takes_118 : decode cX3_takes 118 = .ok (.iload 5, 2) := dk_21 5 (dk_at dksX3_takes_5 1 rfl rfl)
theorem dX3_takes_120 : decode cX3_takes 120 = .ok (.iastore, 1) := dk_79 (dk_at dksX3_takes_5 3 rfl rfl)
theorem dX3_takes_121 : decode cX3_takes 121 = .ok (.aload_n 0, 1) := dk_42 (dk_at dksX3_takes_5 4 rfl rfl)
theorem dX3_takes_122 : decode cX3_takes 122 = .ok (.iload_n 1, 1) := dk_27 (dk_at dksX3_takes_5 5 rfl rfl)
theorem dX3_takes_123 : decode cX3_takes 123 = .ok (.invokevirtual 155, 3) := dk_182 0 155 (dk_at dksX3_takes_5 6 rfl rfl)
theorem dX3_takes_126 : decode cX3_takes 126 = .ok (.iload 6, 2) := dk_21 6 (dk_at dksX3_takes_5 9 rfl rfl)
theorem dX3_takes_128 : decode cX3_takes 128 = .ok (.ireturn, 1) := dk_172 (dk_at dksX3_takes_5 11 rfl rfl)
abbrev cX3_laysRanks : ByteArray := prog_10_method_21_code
def yX3_laysRanks : MethodName := ⟨RX3, "laysRanks", "(I)V"⟩
def dkwX3_laysRanks_2 : List UInt8 := [104, 28, 96, 47, 182, 0, 96, 87, 132, 2, 1, 167, 255, 226, 177]
abbrev dktX3_laysRanks_2 : List UInt8 := dkwX3_laysRanks_2 ++ []
def dkwX3_laysRanks_1 : List UInt8 := [167, 255, 235, 3, 61, 28, 42, 180, 0, 24, 27, 46, 162, 0, 26, 42, 27, 42, 180, 0, 20, 16, 64, 27]
abbrev dktX3_laysRanks_1 : List UInt8 := dkwX3_laysRanks_1 ++ dktX3_laysRanks_2
def dkwX3_laysRanks_0 : List UInt8 := [3, 61, 28, 17, 1, 0, 162, 0, 20, 42, 180, 0, 27, 27, 28, 184, 0, 92, 3, 79, 132, 2, 1]
abbrev dktX3_laysRanks_0 : List UInt8 := dkwX3_laysRanks_0 ++ dktX3_laysRanks_1
theorem dksX3_laysRanks_0 : cX3_laysRanks.data.toList.drop 0 = dktX3_laysRanks_0 := by decide +kernel
theorem dksX3_laysRanks_1 : cX3_laysRanks.data.toList.drop 23 = dktX3_laysRanks_1 := dk_seg dksX3_laysRanks_0 23 rfl rfl
theorem dksX3_laysRanks_2 : cX3_laysRanks.data.toList.drop 47 = dktX3_laysRanks_2 := dk_seg dksX3_laysRanks_1 24 rfl rfl
theorem dX3_laysRanks_0 : decode cX3_laysRanks 0 = .ok (.iconst 0, 1) := dk_3 (dk_at dksX3_laysRanks_0 0 rfl rfl)
theorem dX3_laysRanks_1 : decode cX3_laysRanks 1 = .ok (.istore_n 2, 1) := dk_61 (dk_at dksX3_laysRanks_0 1 rfl rfl)
theorem dX3_laysRanks_2 : decode cX3_laysRanks 2 = .ok (.iload_n 2, 1) := dk_28 (dk_at dksX3_laysRanks_0 2 rfl rfl)
theorem dX3_laysRanks_3 : decode cX3_laysRanks 3 = .ok (.sipush 256, 3) := dk_17 1 0 (dk_at dksX3_laysRanks_0 3 rfl rfl)
theorem dX3_laysRanks_6 : decode cX3_laysRanks 6 = .ok (.if_icmp .ge 20, 3) := dk_162 0 20 (dk_at dksX3_laysRanks_0 6 rfl rfl)
theorem dX3_laysRanks_9 : decode cX3_laysRanks 9 = .ok (.aload_n 0, 1) := dk_42 (dk_at dksX3_laysRanks_0 9 rfl rfl)
theorem dX3_laysRanks_10 : decode cX3_laysRanks 10 = .ok (.getfield 27, 3) := dk_180 0 27 (dk_at dksX3_laysRanks_0 10 rfl rfl)
theorem dX3_laysRanks_13 : decode cX3_laysRanks 13 = .ok (.iload_n 1, 1) := dk_27 (dk_at dksX3_laysRanks_0 13 rfl rfl)
theorem dX3_laysRanks_14 : decode cX3_laysRanks 14 = .ok (.iload_n 2, 1) := dk_28 (dk_at dksX3_laysRanks_0 14 rfl rfl)
theorem dX3_laysRanks_15 : decode cX3_laysRanks 15 = .ok (.invokestatic 92, 3) := dk_184 0 92 (dk_at dksX3_laysRanks_0 15 rfl rfl)
theorem dX3_laysRanks_18 : decode cX3_laysRanks 18 = .ok (.iconst 0, 1) := dk_3 (dk_at dksX3_laysRanks_0 18 rfl rfl)
theorem dX3_laysRanks_19 : decode cX3_laysRanks 19 = .ok (.iastore, 1) := dk_79 (dk_at dksX3_laysRanks_0 19 rfl rfl)
theorem dX3_laysRanks_20 : decode cX3_laysRanks 20 = .ok (.iinc 2 1, 3) := dk_132 2 1 (dk_at dksX3_laysRanks_0 20 rfl rfl)
theorem dX3_laysRanks_23 : decode cX3_laysRanks 23 = .ok (.goto (-21), 3) := dk_167 255 235 (dk_at dksX3_laysRanks_1 0 rfl rfl)
theorem dX3_laysRanks_26 : decode cX3_laysRanks 26 = .ok (.iconst 0, 1) := dk_3 (dk_at dksX3_laysRanks_1 3 rfl rfl)
theorem dX3_laysRanks_27 : decode cX3_laysRanks 27 = .ok (.istore_n 2, 1) := dk_61 (dk_at dksX3_laysRanks_1 4 rfl rfl)
theorem dX3_laysRanks_28 : decode cX3_laysRanks 28 = .ok (.iload_n 2, 1) := dk_28 (dk_at dksX3_laysRanks_1 5 rfl rfl)
theorem dX3_laysRanks_29 : decode cX3_laysRanks 29 = .ok (.aload_n 0, 1) := dk_42 (dk_at dksX3_laysRanks_1 6 rfl rfl)
theorem dX3_laysRanks_30 : decode cX3_laysRanks 30 = .ok (.getfield 24, 3) := dk_180 0 24 (dk_at dksX3_laysRanks_1 7 rfl rfl)
theorem dX3_laysRanks_33 : decode cX3_laysRanks 33 = .ok (.iload_n 1, 1) := dk_27 (dk_at dksX3_laysRanks_1 10 rfl rfl)
theorem dX3_laysRanks_34 : decode cX3_laysRanks 34 = .ok (.iaload, 1) := dk_46 (dk_at dksX3_laysRanks_1 11 rfl rfl)
theorem dX3_laysRanks_35 : decode cX3_laysRanks 35 = .ok (.if_icmp .ge 26, 3) := dk_162 0 26 (dk_at dksX3_laysRanks_1 12 rfl rfl)
theorem dX3_laysRanks_38 : decode cX3_laysRanks 38 = .ok (.aload_n 0, 1) := dk_42 (dk_at dksX3_laysRanks_1 15 rfl rfl)
theorem dX3_laysRanks_39 : decode cX3_laysRanks 39 = .ok (.iload_n 1, 1) := dk_27 (dk_at dksX3_laysRanks_1 16 rfl rfl)
theorem dX3_laysRanks_40 : decode cX3_laysRanks 40 = .ok (.aload_n 0, 1) := dk_42 (dk_at dksX3_laysRanks_1 17 rfl rfl)
theorem dX3_laysRanks_41 : decode cX3_laysRanks 41 = .ok (.getfield 20, 3) := dk_180 0 20 (dk_at dksX3_laysRanks_1 18 rfl rfl)
theorem dX3_laysRanks_44 : decode cX3_laysRanks 44 = .ok (.bipush 64, 2) := dk_16 64 (dk_at dksX3_laysRanks_1 21 rfl rfl)
theorem dX3_laysRanks_46 : decode cX3_laysRanks 46 = .ok (.iload_n 1, 1) := dk_27 (dk_at dksX3_laysRanks_1 23 rfl rfl)
theorem dX3_laysRanks_47 : decode cX3_laysRanks 47 = .ok (.imul, 1) := dk_104 (dk_at dksX3_laysRanks_2 0 rfl rfl)
theorem dX3_laysRanks_48 : decode cX3_laysRanks 48 = .ok (.iload_n 2, 1) := dk_28 (dk_at dksX3_laysRanks_2 1 rfl rfl)
theorem dX3_laysRanks_49 : decode cX3_laysRanks 49 = .ok (.iadd, 1) := dk_96 (dk_at dksX3_laysRanks_2 2 rfl rfl)
theorem dX3_laysRanks_50 : decode cX3_laysRanks 50 = .ok (.laload, 1) := dk_47 (dk_at dksX3_laysRanks_2 3 rfl rfl)
theorem dX3_laysRanks_51 : decode cX3_laysRanks 51 = .ok (.invokevirtual 96, 3) := dk_182 0 96 (dk_at dksX3_laysRanks_2 4 rfl rfl)
theorem dX3_laysRanks_54 : decode cX3_laysRanks 54 = .ok (.pop, 1) := dk_87 (dk_at dksX3_laysRanks_2 7 rfl rfl)
theorem dX3_laysRanks_55 : decode cX3_laysRanks 55 = .ok (.iinc 2 1, 3) := dk_132 2 1 (dk_at dksX3_laysRanks_2 8 rfl rfl)
theorem dX3_laysRanks_58 : decode cX3_laysRanks 58 = .ok (.goto (-30), 3) := dk_167 255 226 (dk_at dksX3_laysRanks_2 11 rfl rfl)
theorem dX3_laysRanks_61 : decode cX3_laysRanks 61 = .ok (.return_, 1) := dk_177 (dk_at dksX3_laysRanks_2 14 rfl rfl)
abbrev cX3_dense : ByteArray := prog_10_method_38_code
def yX3_dense : MethodName := ⟨RX3, "dense", "(I)I"⟩
def dkwX3_dense_1 : List UInt8 := [16, 254, 172, 42, 27, 182, 0, 107, 42, 27, 182, 0, 158, 172]
abbrev dktX3_dense_1 : List UInt8 := dkwX3_dense_1 ++ []
def dkwX3_dense_0 : List UInt8 := [42, 3, 181, 0, 51, 27, 184, 0, 111, 154, 0, 5, 2, 172, 42, 180, 0, 16, 27, 51, 153, 0, 6]
abbrev dktX3_dense_0 : List UInt8 := dkwX3_dense_0 ++ dktX3_dense_1
theorem dksX3_dense_0 : cX3_dense.data.toList.drop 0 = dktX3_dense_0 := by decide +kernel
theorem dksX3_dense_1 : cX3_dense.data.toList.drop 23 = dktX3_dense_1 := dk_seg dksX3_dense_0 23 rfl rfl
theorem dX3_dense_0 : decode cX3_dense 0 = .ok (.aload_n 0, 1) := dk_42 (dk_at dksX3_dense_0 0 rfl rfl)
theorem dX3_dense_1 : decode cX3_dense 1 = .ok (.iconst 0, 1) := dk_3 (dk_at dksX3_dense_0 1 rfl rfl)
theorem dX3_dense_2 : decode cX3_dense 2 = .ok (.putfield 51, 3) := dk_181 0 51 (dk_at dksX3_dense_0 2 rfl rfl)
theorem dX3_dense_5 : decode cX3_dense 5 = .ok (.iload_n 1, 1) := dk_27 (dk_at dksX3_dense_0 5 rfl rfl)
theorem dX3_dense_6 : decode cX3_dense 6 = .ok (.invokestatic 111, 3) := dk_184 0 111 (dk_at dksX3_dense_0 6 rfl rfl)
theorem dX3_dense_9 : decode cX3_dense 9 = .ok (.ifCond .ne 5, 3) := dk_154 0 5 (dk_at dksX3_dense_0 9 rfl rfl)
theorem dX3_dense_12 : decode cX3_dense 12 = .ok (.iconst (-1), 1) := dk_2 (dk_at dksX3_dense_0 12 rfl rfl)
theorem dX3_dense_13 : decode cX3_dense 13 = .ok (.ireturn, 1) := dk_172 (dk_at dksX3_dense_0 13 rfl rfl)
theorem dX3_dense_14 : decode cX3_dense 14 = .ok (.aload_n 0, 1) := dk_42 (dk_at dksX3_dense_0 14 rfl rfl)
theorem dX3_dense_15 : decode cX3_dense 15 = .ok (.getfield 16, 3) := dk_180 0 16 (dk_at dksX3_dense_0 15 rfl rfl)
theorem dX3_dense_18 : decode cX3_dense 18 = .ok (.iload_n 1, 1) := dk_27 (dk_at dksX3_dense_0 18 rfl rfl)
theorem dX3_dense_19 : decode cX3_dense 19 = .ok (.baload, 1) := dk_51 (dk_at dksX3_dense_0 19 rfl rfl)
theorem dX3_dense_20 : decode cX3_dense 20 = .ok (.ifCond .eq 6, 3) := dk_153 0 6 (dk_at dksX3_dense_0 20 rfl rfl)
theorem dX3_dense_23 : decode cX3_dense 23 = .ok (.bipush (-2), 2) := dk_16 254 (dk_at dksX3_dense_1 0 rfl rfl)
theorem dX3_dense_25 : decode cX3_dense 25 = .ok (.ireturn, 1) := dk_172 (dk_at dksX3_dense_1 2 rfl rfl)
theorem dX3_dense_26 : decode cX3_dense 26 = .ok (.aload_n 0, 1) := dk_42 (dk_at dksX3_dense_1 3 rfl rfl)
theorem dX3_dense_27 : decode cX3_dense 27 = .ok (.iload_n 1, 1) := dk_27 (dk_at dksX3_dense_1 4 rfl rfl)
theorem dX3_dense_28 : decode cX3_dense 28 = .ok (.invokevirtual 107, 3) := dk_182 0 107 (dk_at dksX3_dense_1 5 rfl rfl)
theorem dX3_dense_31 : decode cX3_dense 31 = .ok (.aload_n 0, 1) := dk_42 (dk_at dksX3_dense_1 8 rfl rfl)
theorem dX3_dense_32 : decode cX3_dense 32 = .ok (.iload_n 1, 1) := dk_27 (dk_at dksX3_dense_1 9 rfl rfl)
theorem dX3_dense_33 : decode cX3_dense 33 = .ok (.invokevirtual 158, 3) := dk_182 0 158 (dk_at dksX3_dense_1 10 rfl rfl)
theorem dX3_dense_36 : decode cX3_dense 36 = .ok (.ireturn, 1) := dk_172 (dk_at dksX3_dense_1 13 rfl rfl)
abbrev cX3_ranked : ByteArray := prog_10_method_37_code
def yX3_ranked : MethodName := ⟨RX3, "ranked", "(I)I"⟩
def dkwX3_ranked_1 : List UInt8 := [158, 0, 7, 4, 167, 0, 4, 3, 96, 61, 132, 3, 1, 167, 255, 223, 28, 172]
abbrev dktX3_ranked_1 : List UInt8 := dkwX3_ranked_1 ++ []
def dkwX3_ranked_0 : List UInt8 := [3, 61, 3, 62, 29, 42, 27, 182, 0, 117, 162, 0, 30, 28, 42, 180, 0, 27, 27, 29, 184, 0, 92, 46]
abbrev dktX3_ranked_0 : List UInt8 := dkwX3_ranked_0 ++ dktX3_ranked_1
theorem dksX3_ranked_0 : cX3_ranked.data.toList.drop 0 = dktX3_ranked_0 := by decide +kernel
theorem dksX3_ranked_1 : cX3_ranked.data.toList.drop 24 = dktX3_ranked_1 := dk_seg dksX3_ranked_0 24 rfl rfl
theorem dX3_ranked_0 : decode cX3_ranked 0 = .ok (.iconst 0, 1) := dk_3 (dk_at dksX3_ranked_0 0 rfl rfl)
theorem dX3_ranked_1 : decode cX3_ranked 1 = .ok (.istore_n 2, 1) := dk_61 (dk_at dksX3_ranked_0 1 rfl rfl)
theorem dX3_ranked_2 : decode cX3_ranked 2 = .ok (.iconst 0, 1) := dk_3 (dk_at dksX3_ranked_0 2 rfl rfl)
theorem dX3_ranked_3 : decode cX3_ranked 3 = .ok (.istore_n 3, 1) := dk_62 (dk_at dksX3_ranked_0 3 rfl rfl)
theorem dX3_ranked_4 : decode cX3_ranked 4 = .ok (.iload_n 3, 1) := dk_29 (dk_at dksX3_ranked_0 4 rfl rfl)
theorem dX3_ranked_5 : decode cX3_ranked 5 = .ok (.aload_n 0, 1) := dk_42 (dk_at dksX3_ranked_0 5 rfl rfl)
theorem dX3_ranked_6 : decode cX3_ranked 6 = .ok (.iload_n 1, 1) := dk_27 (dk_at dksX3_ranked_0 6 rfl rfl)
theorem dX3_ranked_7 : decode cX3_ranked 7 = .ok (.invokevirtual 117, 3) := dk_182 0 117 (dk_at dksX3_ranked_0 7 rfl rfl)
theorem dX3_ranked_10 : decode cX3_ranked 10 = .ok (.if_icmp .ge 30, 3) := dk_162 0 30 (dk_at dksX3_ranked_0 10 rfl rfl)
theorem dX3_ranked_13 : decode cX3_ranked 13 = .ok (.iload_n 2, 1) := dk_28 (dk_at dksX3_ranked_0 13 rfl rfl)
theorem dX3_ranked_14 : decode cX3_ranked 14 = .ok (.aload_n 0, 1) := dk_42 (dk_at dksX3_ranked_0 14 rfl rfl)
theorem dX3_ranked_15 : decode cX3_ranked 15 = .ok (.getfield 27, 3) := dk_180 0 27 (dk_at dksX3_ranked_0 15 rfl rfl)
theorem dX3_ranked_18 : decode cX3_ranked 18 = .ok (.iload_n 1, 1) := dk_27 (dk_at dksX3_ranked_0 18 rfl rfl)
theorem dX3_ranked_19 : decode cX3_ranked 19 = .ok (.iload_n 3, 1) := dk_29 (dk_at dksX3_ranked_0 19 rfl rfl)
theorem dX3_ranked_20 : decode cX3_ranked 20 = .ok (.invokestatic 92, 3) := dk_184 0 92 (dk_at dksX3_ranked_0 20 rfl rfl)
theorem dX3_ranked_23 : decode cX3_ranked 23 = .ok (.iaload, 1) := dk_46 (dk_at dksX3_ranked_0 23 rfl rfl)
theorem dX3_ranked_24 : decode cX3_ranked 24 = .ok (.ifCond .le 7, 3) := dk_158 0 7 (dk_at dksX3_ranked_1 0 rfl rfl)
theorem dX3_ranked_27 : decode cX3_ranked 27 = .ok (.iconst 1, 1) := dk_4 (dk_at dksX3_ranked_1 3 rfl rfl)
theorem dX3_ranked_28 : decode cX3_ranked 28 = .ok (.goto 4, 3) := dk_167 0 4 (dk_at dksX3_ranked_1 4 rfl rfl)
theorem dX3_ranked_31 : decode cX3_ranked 31 = .ok (.iconst 0, 1) := dk_3 (dk_at dksX3_ranked_1 7 rfl rfl)
theorem dX3_ranked_32 : decode cX3_ranked 32 = .ok (.iadd, 1) := dk_96 (dk_at dksX3_ranked_1 8 rfl rfl)
theorem dX3_ranked_33 : decode cX3_ranked 33 = .ok (.istore_n 2, 1) := dk_61 (dk_at dksX3_ranked_1 9 rfl rfl)
theorem dX3_ranked_34 : decode cX3_ranked 34 = .ok (.iinc 3 1, 3) := dk_132 3 1 (dk_at dksX3_ranked_1 10 rfl rfl)
theorem dX3_ranked_37 : decode cX3_ranked 37 = .ok (.goto (-33), 3) := dk_167 255 223 (dk_at dksX3_ranked_1 13 rfl rfl)
theorem dX3_ranked_40 : decode cX3_ranked 40 = .ok (.iload_n 2, 1) := dk_28 (dk_at dksX3_ranked_1 16 rfl rfl)
theorem dX3_ranked_41 : decode cX3_ranked 41 = .ok (.ireturn, 1) := dk_172 (dk_at dksX3_ranked_1 17 rfl rfl)
abbrev cX3_folds : ByteArray := prog_10_method_40_code
def yX3_folds : MethodName := ⟨RX3, "folds", "(II)I"⟩
def dkwX3_folds_2 : List UInt8 := [182, 0, 166, 42, 27, 182, 0, 158, 172]
abbrev dktX3_folds_2 : List UInt8 := dkwX3_folds_2 ++ []
def dkwX3_folds_1 : List UInt8 := [184, 0, 60, 154, 0, 5, 2, 172, 28, 42, 180, 0, 7, 27, 46, 160, 0, 6, 16, 254, 172, 42, 27, 28]
abbrev dktX3_folds_1 : List UInt8 := dkwX3_folds_1 ++ dktX3_folds_2
def dkwX3_folds_0 : List UInt8 := [42, 3, 181, 0, 51, 27, 184, 0, 111, 153, 0, 21, 28, 133, 20, 0, 73, 42, 180, 0, 7, 27, 46, 133]
abbrev dktX3_folds_0 : List UInt8 := dkwX3_folds_0 ++ dktX3_folds_1
theorem dksX3_folds_0 : cX3_folds.data.toList.drop 0 = dktX3_folds_0 := by decide +kernel
theorem dksX3_folds_1 : cX3_folds.data.toList.drop 24 = dktX3_folds_1 := dk_seg dksX3_folds_0 24 rfl rfl
theorem dksX3_folds_2 : cX3_folds.data.toList.drop 48 = dktX3_folds_2 := dk_seg dksX3_folds_1 24 rfl rfl
theorem dX3_folds_0 : decode cX3_folds 0 = .ok (.aload_n 0, 1) := dk_42 (dk_at dksX3_folds_0 0 rfl rfl)
theorem dX3_folds_1 : decode cX3_folds 1 = .ok (.iconst 0, 1) := dk_3 (dk_at dksX3_folds_0 1 rfl rfl)
theorem dX3_folds_2 : decode cX3_folds 2 = .ok (.putfield 51, 3) := dk_181 0 51 (dk_at dksX3_folds_0 2 rfl rfl)
theorem dX3_folds_5 : decode cX3_folds 5 = .ok (.iload_n 1, 1) := dk_27 (dk_at dksX3_folds_0 5 rfl rfl)
theorem dX3_folds_6 : decode cX3_folds 6 = .ok (.invokestatic 111, 3) := dk_184 0 111 (dk_at dksX3_folds_0 6 rfl rfl)
theorem dX3_folds_9 : decode cX3_folds 9 = .ok (.ifCond .eq 21, 3) := dk_153 0 21 (dk_at dksX3_folds_0 9 rfl rfl)
theorem dX3_folds_12 : decode cX3_folds 12 = .ok (.iload_n 2, 1) := dk_28 (dk_at dksX3_folds_0 12 rfl rfl)
theorem dX3_folds_13 : decode cX3_folds 13 = .ok (.i2l, 1) := dk_133 (dk_at dksX3_folds_0 13 rfl rfl)
theorem dX3_folds_14 : decode cX3_folds 14 = .ok (.ldc2_w 73, 3) := dk_20 0 73 (dk_at dksX3_folds_0 14 rfl rfl)
theorem dX3_folds_17 : decode cX3_folds 17 = .ok (.aload_n 0, 1) := dk_42 (dk_at dksX3_folds_0 17 rfl rfl)
theorem dX3_folds_18 : decode cX3_folds 18 = .ok (.getfield 7, 3) := dk_180 0 7 (dk_at dksX3_folds_0 18 rfl rfl)
theorem dX3_folds_21 : decode cX3_folds 21 = .ok (.iload_n 1, 1) := dk_27 (dk_at dksX3_folds_0 21 rfl rfl)
theorem dX3_folds_22 : decode cX3_folds 22 = .ok (.iaload, 1) := dk_46 (dk_at dksX3_folds_0 22 rfl rfl)
theorem dX3_folds_23 : decode cX3_folds 23 = .ok (.i2l, 1) := dk_133 (dk_at dksX3_folds_0 23 rfl rfl)
theorem dX3_folds_24 : decode cX3_folds 24 = .ok (.invokestatic 60, 3) := dk_184 0 60 (dk_at dksX3_folds_1 0 rfl rfl)
theorem dX3_folds_27 : decode cX3_folds 27 = .ok (.ifCond .ne 5, 3) := dk_154 0 5 (dk_at dksX3_folds_1 3 rfl rfl)
theorem dX3_folds_30 : decode cX3_folds 30 = .ok (.iconst (-1), 1) := dk_2 (dk_at dksX3_folds_1 6 rfl rfl)
theorem dX3_folds_31 : decode cX3_folds 31 = .ok (.ireturn, 1) := dk_172 (dk_at dksX3_folds_1 7 rfl rfl)
theorem dX3_folds_32 : decode cX3_folds 32 = .ok (.iload_n 2, 1) := dk_28 (dk_at dksX3_folds_1 8 rfl rfl)
theorem dX3_folds_33 : decode cX3_folds 33 = .ok (.aload_n 0, 1) := dk_42 (dk_at dksX3_folds_1 9 rfl rfl)
theorem dX3_folds_34 : decode cX3_folds 34 = .ok (.getfield 7, 3) := dk_180 0 7 (dk_at dksX3_folds_1 10 rfl rfl)
theorem dX3_folds_37 : decode cX3_folds 37 = .ok (.iload_n 1, 1) := dk_27 (dk_at dksX3_folds_1 13 rfl rfl)
theorem dX3_folds_38 : decode cX3_folds 38 = .ok (.iaload, 1) := dk_46 (dk_at dksX3_folds_1 14 rfl rfl)
theorem dX3_folds_39 : decode cX3_folds 39 = .ok (.if_icmp .ne 6, 3) := dk_160 0 6 (dk_at dksX3_folds_1 15 rfl rfl)
theorem dX3_folds_42 : decode cX3_folds 42 = .ok (.bipush (-2), 2) := dk_16 254 (dk_at dksX3_folds_1 18 rfl rfl)
theorem dX3_folds_44 : decode cX3_folds 44 = .ok (.ireturn, 1) := dk_172 (dk_at dksX3_folds_1 20 rfl rfl)
theorem dX3_folds_45 : decode cX3_folds 45 = .ok (.aload_n 0, 1) := dk_42 (dk_at dksX3_folds_1 21 rfl rfl)
theorem dX3_folds_46 : decode cX3_folds 46 = .ok (.iload_n 1, 1) := dk_27 (dk_at dksX3_folds_1 22 rfl rfl)
theorem dX3_folds_47 : decode cX3_folds 47 = .ok (.iload_n 2, 1) := dk_28 (dk_at dksX3_folds_1 23 rfl rfl)
theorem dX3_folds_48 : decode cX3_folds 48 = .ok (.invokevirtual 166, 3) := dk_182 0 166 (dk_at dksX3_folds_2 0 rfl rfl)
theorem dX3_folds_51 : decode cX3_folds 51 = .ok (.aload_n 0, 1) := dk_42 (dk_at dksX3_folds_2 3 rfl rfl)
theorem dX3_folds_52 : decode cX3_folds 52 = .ok (.iload_n 1, 1) := dk_27 (dk_at dksX3_folds_2 4 rfl rfl)
theorem dX3_folds_53 : decode cX3_folds 53 = .ok (.invokevirtual 158, 3) := dk_182 0 158 (dk_at dksX3_folds_2 5 rfl rfl)
theorem dX3_folds_56 : decode cX3_folds 56 = .ok (.ireturn, 1) := dk_172 (dk_at dksX3_folds_2 8 rfl rfl)
abbrev cX3_foldsSlot : ByteArray := prog_10_method_39_code
def yX3_foldsSlot : MethodName := ⟨RX3, "foldsSlot", "(II)V"⟩
def dkwX3_foldsSlot_9 : List UInt8 := [46, 79, 132, 4, 1, 167, 255, 227, 177]
abbrev dktX3_foldsSlot_9 : List UInt8 := dkwX3_foldsSlot_9 ++ []
def dkwX3_foldsSlot_8 : List UInt8 := [21, 4, 17, 1, 0, 162, 0, 27, 42, 180, 0, 27, 27, 21, 4, 184, 0, 92, 42, 180, 0, 44, 21, 4]
abbrev dktX3_foldsSlot_8 : List UInt8 := dkwX3_foldsSlot_8 ++ dktX3_foldsSlot_9
def dkwX3_foldsSlot_7 : List UInt8 := [122, 46, 21, 8, 184, 0, 161, 79, 132, 4, 1, 167, 255, 139, 42, 180, 0, 7, 27, 28, 79, 3, 54, 4]
abbrev dktX3_foldsSlot_7 : List UInt8 := dkwX3_foldsSlot_7 ++ dktX3_foldsSlot_8
def dkwX3_foldsSlot_6 : List UInt8 := [167, 0, 7, 29, 21, 5, 96, 54, 8, 42, 180, 0, 44, 21, 4, 29, 122, 42, 180, 0, 44, 21, 4, 29]
abbrev dktX3_foldsSlot_6 : List UInt8 := dkwX3_foldsSlot_6 ++ dktX3_foldsSlot_7
def dkwX3_foldsSlot_5 : List UInt8 := [4, 126, 154, 0, 12, 132, 7, 1, 132, 8, 255, 167, 255, 235, 21, 6, 153, 0, 10, 21, 7, 4, 96]
abbrev dktX3_foldsSlot_5 : List UInt8 := dkwX3_foldsSlot_5 ++ dktX3_foldsSlot_6
def dkwX3_foldsSlot_4 : List UInt8 := [120, 4, 100, 126, 54, 6, 3, 54, 7, 29, 4, 100, 54, 8, 21, 8, 155, 0, 22, 21, 6, 21, 8, 122]
abbrev dktX3_foldsSlot_4 : List UInt8 := dkwX3_foldsSlot_4 ++ dktX3_foldsSlot_5
def dkwX3_foldsSlot_3 : List UInt8 := [180, 0, 27, 27, 21, 4, 184, 0, 92, 46, 54, 5, 21, 5, 154, 0, 6, 167, 0, 86, 21, 4, 4, 29]
abbrev dktX3_foldsSlot_3 : List UInt8 := dkwX3_foldsSlot_3 ++ dktX3_foldsSlot_4
def dkwX3_foldsSlot_2 : List UInt8 := [3, 79, 132, 4, 1, 167, 255, 237, 3, 54, 4, 21, 4, 42, 27, 182, 0, 117, 162, 0, 113, 42]
abbrev dktX3_foldsSlot_2 : List UInt8 := dkwX3_foldsSlot_2 ++ dktX3_foldsSlot_3
def dkwX3_foldsSlot_1 : List UInt8 := [79, 42, 27, 182, 0, 155, 177, 3, 54, 4, 21, 4, 17, 1, 0, 162, 0, 17, 42, 180, 0, 44, 21, 4]
abbrev dktX3_foldsSlot_1 : List UInt8 := dkwX3_foldsSlot_1 ++ dktX3_foldsSlot_2
def dkwX3_foldsSlot_0 : List UInt8 := [42, 180, 0, 7, 27, 46, 28, 100, 62, 42, 180, 0, 16, 27, 51, 154, 0, 16, 42, 180, 0, 7, 27, 28]
abbrev dktX3_foldsSlot_0 : List UInt8 := dkwX3_foldsSlot_0 ++ dktX3_foldsSlot_1
theorem dksX3_foldsSlot_0 : cX3_foldsSlot.data.toList.drop 0 = dktX3_foldsSlot_0 := by decide +kernel
theorem dksX3_foldsSlot_1 : cX3_foldsSlot.data.toList.drop 24 = dktX3_foldsSlot_1 := dk_seg dksX3_foldsSlot_0 24 rfl rfl
theorem dksX3_foldsSlot_2 : cX3_foldsSlot.data.toList.drop 48 = dktX3_foldsSlot_2 := dk_seg dksX3_foldsSlot_1 24 rfl rfl
theorem dksX3_foldsSlot_3 : cX3_foldsSlot.data.toList.drop 70 = dktX3_foldsSlot_3 := dk_seg dksX3_foldsSlot_2 22 rfl rfl
theorem dksX3_foldsSlot_4 : cX3_foldsSlot.data.toList.drop 94 = dktX3_foldsSlot_4 := dk_seg dksX3_foldsSlot_3 24 rfl rfl
theorem dksX3_foldsSlot_5 : cX3_foldsSlot.data.toList.drop 118 = dktX3_foldsSlot_5 := dk_seg dksX3_foldsSlot_4 24 rfl rfl
theorem dksX3_foldsSlot_6 : cX3_foldsSlot.data.toList.drop 141 = dktX3_foldsSlot_6 := dk_seg dksX3_foldsSlot_5 23 rfl rfl
theorem dksX3_foldsSlot_7 : cX3_foldsSlot.data.toList.drop 165 = dktX3_foldsSlot_7 := dk_seg dksX3_foldsSlot_6 24 rfl rfl
theorem dksX3_foldsSlot_8 : cX3_foldsSlot.data.toList.drop 189 = dktX3_foldsSlot_8 := dk_seg dksX3_foldsSlot_7 24 rfl rfl
theorem dksX3_foldsSlot_9 : cX3_foldsSlot.data.toList.drop 213 = dktX3_foldsSlot_9 := dk_seg dksX3_foldsSlot_8 24 rfl rfl
theorem dX3_foldsSlot_0 : decode cX3_foldsSlot 0 = .ok (.aload_n 0, 1) := dk_42 (dk_at dksX3_foldsSlot_0 0 rfl rfl)
theorem dX3_foldsSlot_1 : decode cX3_foldsSlot 1 = .ok (.getfield 7, 3) := dk_180 0 7 (dk_at dksX3_foldsSlot_0 1 rfl rfl)
theorem dX3_foldsSlot_4 : decode cX3_foldsSlot 4 = .ok (.iload_n 1, 1) := dk_27 (dk_at dksX3_foldsSlot_0 4 rfl rfl)
theorem dX3_foldsSlot_5 : decode cX3_foldsSlot 5 = .ok (.iaload, 1) := dk_46 (dk_at dksX3_foldsSlot_0 5 rfl rfl)
theorem dX3_foldsSlot_6 : decode cX3_foldsSlot 6 = .ok (.iload_n 2, 1) := dk_28 (dk_at dksX3_foldsSlot_0 6 rfl rfl)
theorem dX3_foldsSlot_7 : decode cX3_foldsSlot 7 = .ok (.isub, 1) := dk_100 (dk_at dksX3_foldsSlot_0 7 rfl rfl)
theorem dX3_foldsSlot_8 : decode cX3_foldsSlot 8 = .ok (.istore_n 3, 1) := dk_62 (dk_at dksX3_foldsSlot_0 8 rfl rfl)
theorem dX3_foldsSlot_9 : decode cX3_foldsSlot 9 = .ok (.aload_n 0, 1) := dk_42 (dk_at dksX3_foldsSlot_0 9 rfl rfl)
theorem dX3_foldsSlot_10 : decode cX3_foldsSlot 10 = .ok (.getfield 16, 3) := dk_180 0 16 (dk_at dksX3_foldsSlot_0 10 rfl rfl)
theorem dX3_foldsSlot_13 : decode cX3_foldsSlot 13 = .ok (.iload_n 1, 1) := dk_27 (dk_at dksX3_foldsSlot_0 13 rfl rfl)
theorem dX3_foldsSlot_14 : decode cX3_foldsSlot 14 = .ok (.baload, 1) := dk_51 (dk_at dksX3_foldsSlot_0 14 rfl rfl)
theorem dX3_foldsSlot_15 : decode cX3_foldsSlot 15 = .ok (.ifCond .ne 16, 3) := dk_154 0 16 (dk_at dksX3_foldsSlot_0 15 rfl rfl)
theorem dX3_foldsSlot_18 : decode cX3_foldsSlot 18 = .ok (.aload_n 0, 1) := dk_42 (dk_at dksX3_foldsSlot_0 18 rfl rfl)
theorem dX3_foldsSlot_19 : decode cX3_foldsSlot 19 = .ok (.getfield 7, 3) := dk_180 0 7 (dk_at dksX3_foldsSlot_0 19 rfl rfl)
theorem dX3_foldsSlot_22 : decode cX3_foldsSlot 22 = .ok (.iload_n 1, 1) := dk_27 (dk_at dksX3_foldsSlot_0 22 rfl rfl)
theorem dX3_foldsSlot_23 : decode cX3_foldsSlot 23 = .ok (.iload_n 2, 1) := dk_28 (dk_at dksX3_foldsSlot_0 23 rfl rfl)
theorem dX3_foldsSlot_24 : decode cX3_foldsSlot 24 = .ok (.iastore, 1) := dk_79 (dk_at dksX3_foldsSlot_1 0 rfl rfl)
theorem dX3_foldsSlot_25 : decode cX3_foldsSlot 25 = .ok (.aload_n 0, 1) := dk_42 (dk_at dksX3_foldsSlot_1 1 rfl rfl)
theorem dX3_foldsSlot_26 : decode cX3_foldsSlot 26 = .ok (.iload_n 1, 1) := dk_27 (dk_at dksX3_foldsSlot_1 2 rfl rfl)
theorem dX3_foldsSlot_27 : decode cX3_foldsSlot 27 = .ok (.invokevirtual 155, 3) := dk_182 0 155 (dk_at dksX3_foldsSlot_1 3 rfl rfl)
theorem dX3_foldsSlot_30 : decode cX3_foldsSlot 30 = .ok (.return_, 1) := dk_177 (dk_at dksX3_foldsSlot_1 6 rfl rfl)
theorem dX3_foldsSlot_31 : decode cX3_foldsSlot 31 = .ok (.iconst 0, 1) := dk_3 (dk_at dksX3_foldsSlot_1 7 rfl rfl)
theorem dX3_foldsSlot_32 : decode cX3_foldsSlot 32 = .ok (.istore 4, 2) := dk_54 4 (dk_at dksX3_foldsSlot_1 8 rfl rfl)
theorem dX3_foldsSlot_34 : decode cX3_foldsSlot 34 = .ok (.iload 4, 2) := dk_21 4 (dk_at dksX3_foldsSlot_1 10 rfl rfl)
theorem dX3_foldsSlot_36 : decode cX3_foldsSlot 36 = .ok (.sipush 256, 3) := dk_17 1 0 (dk_at dksX3_foldsSlot_1 12 rfl rfl)
theorem dX3_foldsSlot_39 : decode cX3_foldsSlot 39 = .ok (.if_icmp .ge 17, 3) := dk_162 0 17 (dk_at dksX3_foldsSlot_1 15 rfl rfl)
theorem dX3_foldsSlot_42 : decode cX3_foldsSlot 42 = .ok (.aload_n 0, 1) := dk_42 (dk_at dksX3_foldsSlot_1 18 rfl rfl)
theorem dX3_foldsSlot_43 : decode cX3_foldsSlot 43 = .ok (.getfield 44, 3) := dk_180 0 44 (dk_at dksX3_foldsSlot_1 19 rfl rfl)
theorem dX3_foldsSlot_46 : decode cX3_foldsSlot 46 = .ok (.iload 4, 2) := dk_21 4 (dk_at dksX3_foldsSlot_1 22 rfl rfl)
theorem dX3_foldsSlot_48 : decode cX3_foldsSlot 48 = .ok (.iconst 0, 1) := dk_3 (dk_at dksX3_foldsSlot_2 0 rfl rfl)
theorem dX3_foldsSlot_49 : decode cX3_foldsSlot 49 = .ok (.iastore, 1) := dk_79 (dk_at dksX3_foldsSlot_2 1 rfl rfl)
theorem dX3_foldsSlot_50 : decode cX3_foldsSlot 50 = .ok (.iinc 4 1, 3) := dk_132 4 1 (dk_at dksX3_foldsSlot_2 2 rfl rfl)
theorem dX3_foldsSlot_53 : decode cX3_foldsSlot 53 = .ok (.goto (-19), 3) := dk_167 255 237 (dk_at dksX3_foldsSlot_2 5 rfl rfl)
theorem dX3_foldsSlot_56 : decode cX3_foldsSlot 56 = .ok (.iconst 0, 1) := dk_3 (dk_at dksX3_foldsSlot_2 8 rfl rfl)
theorem dX3_foldsSlot_57 : decode cX3_foldsSlot 57 = .ok (.istore 4, 2) := dk_54 4 (dk_at dksX3_foldsSlot_2 9 rfl rfl)
theorem dX3_foldsSlot_59 : decode cX3_foldsSlot 59 = .ok (.iload 4, 2) := dk_21 4 (dk_at dksX3_foldsSlot_2 11 rfl rfl)
theorem dX3_foldsSlot_61 : decode cX3_foldsSlot 61 = .ok (.aload_n 0, 1) := dk_42 (dk_at dksX3_foldsSlot_2 13 rfl rfl)
theorem dX3_foldsSlot_62 : decode cX3_foldsSlot 62 = .ok (.iload_n 1, 1) := dk_27 (dk_at dksX3_foldsSlot_2 14 rfl rfl)
theorem dX3_foldsSlot_63 : decode cX3_foldsSlot 63 = .ok (.invokevirtual 117, 3) := dk_182 0 117 (dk_at dksX3_foldsSlot_2 15 rfl rfl)
theorem dX3_foldsSlot_66 : decode cX3_foldsSlot 66 = .ok (.if_icmp .ge 113, 3) := dk_162 0 113 (dk_at dksX3_foldsSlot_2 18 rfl rfl)
theorem dX3_foldsSlot_69 : decode cX3_foldsSlot 69 = .ok (.aload_n 0, 1) := dk_42 (dk_at dksX3_foldsSlot_2 21 rfl rfl)
theorem dX3_foldsSlot_70 : decode cX3_foldsSlot 70 = .ok (.getfield 27, 3) := dk_180 0 27 (dk_at dksX3_foldsSlot_3 0 rfl rfl)
theorem dX3_foldsSlot_73 : decode cX3_foldsSlot 73 = .ok (.iload_n 1, 1) := dk_27 (dk_at dksX3_foldsSlot_3 3 rfl rfl)
theorem dX3_foldsSlot_74 : decode cX3_foldsSlot 74 = .ok (.iload 4, 2) := dk_21 4 (dk_at dksX3_foldsSlot_3 4 rfl rfl)
theorem dX3_foldsSlot_76 : decode cX3_foldsSlot 76 = .ok (.invokestatic 92, 3) := dk_184 0 92 (dk_at dksX3_foldsSlot_3 6 rfl rfl)
theorem dX3_foldsSlot_79 : decode cX3_foldsSlot 79 = .ok (.iaload, 1) := dk_46 (dk_at dksX3_foldsSlot_3 9 rfl rfl)
theorem dX3_foldsSlot_80 : decode cX3_foldsSlot 80 = .ok (.istore 5, 2) := dk_54 5 (dk_at dksX3_foldsSlot_3 10 rfl rfl)
theorem dX3_foldsSlot_82 : decode cX3_foldsSlot 82 = .ok (.iload 5, 2) := dk_21 5 (dk_at dksX3_foldsSlot_3 12 rfl rfl)
theorem dX3_foldsSlot_84 : decode cX3_foldsSlot 84 = .ok (.ifCond .ne 6, 3) := dk_154 0 6 (dk_at dksX3_foldsSlot_3 14 rfl rfl)
theorem dX3_foldsSlot_87 : decode cX3_foldsSlot 87 = .ok (.goto 86, 3) := dk_167 0 86 (dk_at dksX3_foldsSlot_3 17 rfl rfl)
theorem dX3_foldsSlot_90 : decode cX3_foldsSlot 90 = .ok (.iload 4, 2) := dk_21 4 (dk_at dksX3_foldsSlot_3 20 rfl rfl)
theorem dX3_foldsSlot_92 : decode cX3_foldsSlot 92 = .ok (.iconst 1, 1) := dk_4 (dk_at dksX3_foldsSlot_3 22 rfl rfl)
theorem dX3_foldsSlot_93 : decode cX3_foldsSlot 93 = .ok (.iload_n 3, 1) := dk_29 (dk_at dksX3_foldsSlot_3 23 rfl rfl)
theorem dX3_foldsSlot_94 : decode cX3_foldsSlot 94 = .ok (.ishl, 1) := dk_120 (dk_at dksX3_foldsSlot_4 0 rfl rfl)
theorem dX3_foldsSlot_95 : decode cX3_foldsSlot 95 = .ok (.iconst 1, 1) := dk_4 (dk_at dksX3_foldsSlot_4 1 rfl rfl)
theorem dX3_foldsSlot_96 : decode cX3_foldsSlot 96 = .ok (.isub, 1) := dk_100 (dk_at dksX3_foldsSlot_4 2 rfl rfl)
theorem dX3_foldsSlot_97 : decode cX3_foldsSlot 97 = .ok (.iand, 1) := dk_126 (dk_at dksX3_foldsSlot_4 3 rfl rfl)
theorem dX3_foldsSlot_98 : decode cX3_foldsSlot 98 = .ok (.istore 6, 2) := dk_54 6 (dk_at dksX3_foldsSlot_4 4 rfl rfl)
theorem dX3_foldsSlot_100 : decode cX3_foldsSlot 100 = .ok (.iconst 0, 1) := dk_3 (dk_at dksX3_foldsSlot_4 6 rfl rfl)
theorem dX3_foldsSlot_101 : decode cX3_foldsSlot 101 = .ok (.istore 7, 2) := dk_54 7 (dk_at dksX3_foldsSlot_4 7 rfl rfl)
theorem dX3_foldsSlot_103 : decode cX3_foldsSlot 103 = .ok (.iload_n 3, 1) := dk_29 (dk_at dksX3_foldsSlot_4 9 rfl rfl)
theorem dX3_foldsSlot_104 : decode cX3_foldsSlot 104 = .ok (.iconst 1, 1) := dk_4 (dk_at dksX3_foldsSlot_4 10 rfl rfl)
theorem dX3_foldsSlot_105 : decode cX3_foldsSlot 105 = .ok (.isub, 1) := dk_100 (dk_at dksX3_foldsSlot_4 11 rfl rfl)
theorem dX3_foldsSlot_106 : decode cX3_foldsSlot 106 = .ok (.istore 8, 2) := dk_54 8 (dk_at dksX3_foldsSlot_4 12 rfl rfl)
theorem dX3_foldsSlot_108 : decode cX3_foldsSlot 108 = .ok (.iload 8, 2) := dk_21 8 (dk_at dksX3_foldsSlot_4 14 rfl rfl)
theorem dX3_foldsSlot_110 : decode cX3_foldsSlot 110 = .ok (.ifCond .lt 22, 3) := dk_155 0 22 (dk_at dksX3_foldsSlot_4 16 rfl rfl)
theorem dX3_foldsSlot_113 : decode cX3_foldsSlot 113 = .ok (.iload 6, 2) := dk_21 6 (dk_at dksX3_foldsSlot_4 19 rfl rfl)
theorem dX3_foldsSlot_115 : decode cX3_foldsSlot 115 = .ok (.iload 8, 2) := dk_21 8 (dk_at dksX3_foldsSlot_4 21 rfl rfl)
theorem dX3_foldsSlot_117 : decode cX3_foldsSlot 117 = .ok (.ishr, 1) := dk_122 (dk_at dksX3_foldsSlot_4 23 rfl rfl)
theorem dX3_foldsSlot_118 : decode cX3_foldsSlot 118 = .ok (.iconst 1, 1) := dk_4 (dk_at dksX3_foldsSlot_5 0 rfl rfl)
theorem dX3_foldsSlot_119 : decode cX3_foldsSlot 119 = .ok (.iand, 1) := dk_126 (dk_at dksX3_foldsSlot_5 1 rfl rfl)
theorem dX3_foldsSlot_120 : decode cX3_foldsSlot 120 = .ok (.ifCond .ne 12, 3) := dk_154 0 12 (dk_at dksX3_foldsSlot_5 2 rfl rfl)
theorem dX3_foldsSlot_123 : decode cX3_foldsSlot 123 = .ok (.iinc 7 1, 3) := dk_132 7 1 (dk_at dksX3_foldsSlot_5 5 rfl rfl)
theorem dX3_foldsSlot_126 : decode cX3_foldsSlot 126 = .ok (.iinc 8 (-1), 3) := dk_132 8 255 (dk_at dksX3_foldsSlot_5 8 rfl rfl)
theorem dX3_foldsSlot_129 : decode cX3_foldsSlot 129 = .ok (.goto (-21), 3) := dk_167 255 235 (dk_at dksX3_foldsSlot_5 11 rfl rfl)
theorem dX3_foldsSlot_132 : decode cX3_foldsSlot 132 = .ok (.iload 6, 2) := dk_21 6 (dk_at dksX3_foldsSlot_5 14 rfl rfl)
theorem dX3_foldsSlot_134 : decode cX3_foldsSlot 134 = .ok (.ifCond .eq 10, 3) := dk_153 0 10 (dk_at dksX3_foldsSlot_5 16 rfl rfl)
theorem dX3_foldsSlot_137 : decode cX3_foldsSlot 137 = .ok (.iload 7, 2) := dk_21 7 (dk_at dksX3_foldsSlot_5 19 rfl rfl)
theorem dX3_foldsSlot_139 : decode cX3_foldsSlot 139 = .ok (.iconst 1, 1) := dk_4 (dk_at dksX3_foldsSlot_5 21 rfl rfl)
theorem dX3_foldsSlot_140 : decode cX3_foldsSlot 140 = .ok (.iadd, 1) := dk_96 (dk_at dksX3_foldsSlot_5 22 rfl rfl)
theorem dX3_foldsSlot_141 : decode cX3_foldsSlot 141 = .ok (.goto 7, 3) := dk_167 0 7 (dk_at dksX3_foldsSlot_6 0 rfl rfl)
theorem dX3_foldsSlot_144 : decode cX3_foldsSlot 144 = .ok (.iload_n 3, 1) := dk_29 (dk_at dksX3_foldsSlot_6 3 rfl rfl)
theorem dX3_foldsSlot_145 : decode cX3_foldsSlot 145 = .ok (.iload 5, 2) := dk_21 5 (dk_at dksX3_foldsSlot_6 4 rfl rfl)
theorem dX3_foldsSlot_147 : decode cX3_foldsSlot 147 = .ok (.iadd, 1) := dk_96 (dk_at dksX3_foldsSlot_6 6 rfl rfl)
theorem dX3_foldsSlot_148 : decode cX3_foldsSlot 148 = .ok (.istore 8, 2) := dk_54 8 (dk_at dksX3_foldsSlot_6 7 rfl rfl)
theorem dX3_foldsSlot_150 : decode cX3_foldsSlot 150 = .ok (.aload_n 0, 1) := dk_42 (dk_at dksX3_foldsSlot_6 9 rfl rfl)
theorem dX3_foldsSlot_151 : decode cX3_foldsSlot 151 = .ok (.getfield 44, 3) := dk_180 0 44 (dk_at dksX3_foldsSlot_6 10 rfl rfl)
theorem dX3_foldsSlot_154 : decode cX3_foldsSlot 154 = .ok (.iload 4, 2) := dk_21 4 (dk_at dksX3_foldsSlot_6 13 rfl rfl)
theorem dX3_foldsSlot_156 : decode cX3_foldsSlot 156 = .ok (.iload_n 3, 1) := dk_29 (dk_at dksX3_foldsSlot_6 15 rfl rfl)
theorem dX3_foldsSlot_157 : decode cX3_foldsSlot 157 = .ok (.ishr, 1) := dk_122 (dk_at dksX3_foldsSlot_6 16 rfl rfl)
theorem dX3_foldsSlot_158 : decode cX3_foldsSlot 158 = .ok (.aload_n 0, 1) := dk_42 (dk_at dksX3_foldsSlot_6 17 rfl rfl)
theorem dX3_foldsSlot_159 : decode cX3_foldsSlot 159 = .ok (.getfield 44, 3) := dk_180 0 44 (dk_at dksX3_foldsSlot_6 18 rfl rfl)
theorem dX3_foldsSlot_162 : decode cX3_foldsSlot 162 = .ok (.iload 4, 2) := dk_21 4 (dk_at dksX3_foldsSlot_6 21 rfl rfl)
theorem dX3_foldsSlot_164 : decode cX3_foldsSlot 164 = .ok (.iload_n 3, 1) := dk_29 (dk_at dksX3_foldsSlot_6 23 rfl rfl)
theorem dX3_foldsSlot_165 : decode cX3_foldsSlot 165 = .ok (.ishr, 1) := dk_122 (dk_at dksX3_foldsSlot_7 0 rfl rfl)
theorem dX3_foldsSlot_166 : decode cX3_foldsSlot 166 = .ok (.iaload, 1) := dk_46 (dk_at dksX3_foldsSlot_7 1 rfl rfl)
theorem dX3_foldsSlot_167 : decode cX3_foldsSlot 167 = .ok (.iload 8, 2) := dk_21 8 (dk_at dksX3_foldsSlot_7 2 rfl rfl)
theorem dX3_foldsSlot_169 : decode cX3_foldsSlot 169 = .ok (.invokestatic 161, 3) := dk_184 0 161 (dk_at dksX3_foldsSlot_7 4 rfl rfl)
theorem dX3_foldsSlot_172 : decode cX3_foldsSlot 172 = .ok (.iastore, 1) := dk_79 (dk_at dksX3_foldsSlot_7 7 rfl rfl)
theorem dX3_foldsSlot_173 : decode cX3_foldsSlot 173 = .ok (.iinc 4 1, 3) := dk_132 4 1 (dk_at dksX3_foldsSlot_7 8 rfl rfl)
theorem dX3_foldsSlot_176 : decode cX3_foldsSlot 176 = .ok (.goto (-117), 3) := dk_167 255 139 (dk_at dksX3_foldsSlot_7 11 rfl rfl)
theorem dX3_foldsSlot_179 : decode cX3_foldsSlot 179 = .ok (.aload_n 0, 1) := dk_42 (dk_at dksX3_foldsSlot_7 14 rfl rfl)
theorem dX3_foldsSlot_180 : decode cX3_foldsSlot 180 = .ok (.getfield 7, 3) := dk_180 0 7 (dk_at dksX3_foldsSlot_7 15 rfl rfl)
theorem dX3_foldsSlot_183 : decode cX3_foldsSlot 183 = .ok (.iload_n 1, 1) := dk_27 (dk_at dksX3_foldsSlot_7 18 rfl rfl)
theorem dX3_foldsSlot_184 : decode cX3_foldsSlot 184 = .ok (.iload_n 2, 1) := dk_28 (dk_at dksX3_foldsSlot_7 19 rfl rfl)
theorem dX3_foldsSlot_185 : decode cX3_foldsSlot 185 = .ok (.iastore, 1) := dk_79 (dk_at dksX3_foldsSlot_7 20 rfl rfl)
theorem dX3_foldsSlot_186 : decode cX3_foldsSlot 186 = .ok (.iconst 0, 1) := dk_3 (dk_at dksX3_foldsSlot_7 21 rfl rfl)
theorem dX3_foldsSlot_187 : decode cX3_foldsSlot 187 = .ok (.istore 4, 2) := dk_54 4 (dk_at dksX3_foldsSlot_7 22 rfl rfl)
theorem dX3_foldsSlot_189 : decode cX3_foldsSlot 189 = .ok (.iload 4, 2) := dk_21 4 (dk_at dksX3_foldsSlot_8 0 rfl rfl)
theorem dX3_foldsSlot_191 : decode cX3_foldsSlot 191 = .ok (.sipush 256, 3) := dk_17 1 0 (dk_at dksX3_foldsSlot_8 2 rfl rfl)
theorem dX3_foldsSlot_194 : decode cX3_foldsSlot 194 = .ok (.if_icmp .ge 27, 3) := dk_162 0 27 (dk_at dksX3_foldsSlot_8 5 rfl rfl)
theorem dX3_foldsSlot_197 : decode cX3_foldsSlot 197 = .ok (.aload_n 0, 1) := dk_42 (dk_at dksX3_foldsSlot_8 8 rfl rfl)
theorem dX3_foldsSlot_198 : decode cX3_foldsSlot 198 = .ok (.getfield 27, 3) := dk_180 0 27 (dk_at dksX3_foldsSlot_8 9 rfl rfl)
theorem dX3_foldsSlot_201 : decode cX3_foldsSlot 201 = .ok (.iload_n 1, 1) := dk_27 (dk_at dksX3_foldsSlot_8 12 rfl rfl)
theorem dX3_foldsSlot_202 : decode cX3_foldsSlot 202 = .ok (.iload 4, 2) := dk_21 4 (dk_at dksX3_foldsSlot_8 13 rfl rfl)
theorem dX3_foldsSlot_204 : decode cX3_foldsSlot 204 = .ok (.invokestatic 92, 3) := dk_184 0 92 (dk_at dksX3_foldsSlot_8 15 rfl rfl)
theorem dX3_foldsSlot_207 : decode cX3_foldsSlot 207 = .ok (.aload_n 0, 1) := dk_42 (dk_at dksX3_foldsSlot_8 18 rfl rfl)
theorem dX3_foldsSlot_208 : decode cX3_foldsSlot 208 = .ok (.getfield 44, 3) := dk_180 0 44 (dk_at dksX3_foldsSlot_8 19 rfl rfl)
theorem dX3_foldsSlot_211 : decode cX3_foldsSlot 211 = .ok (.iload 4, 2) := dk_21 4 (dk_at dksX3_foldsSlot_8 22 rfl rfl)
theorem dX3_foldsSlot_213 : decode cX3_foldsSlot 213 = .ok (.iaload, 1) := dk_46 (dk_at dksX3_foldsSlot_9 0 rfl rfl)
theorem dX3_foldsSlot_214 : decode cX3_foldsSlot 214 = .ok (.iastore, 1) := dk_79 (dk_at dksX3_foldsSlot_9 1 rfl rfl)
theorem dX3_foldsSlot_215 : decode cX3_foldsSlot 215 = .ok (.iinc 4 1, 3) := dk_132 4 1 (dk_at dksX3_foldsSlot_9 2 rfl rfl)
theorem dX3_foldsSlot_218 : decode cX3_foldsSlot 218 = .ok (.goto (-29), 3) := dk_167 255 227 (dk_at dksX3_foldsSlot_9 5 rfl rfl)
theorem dX3_foldsSlot_221 : decode cX3_foldsSlot 221 = .ok (.return_, 1) := dk_177 (dk_at dksX3_foldsSlot_9 8 rfl rfl)
abbrev cX3_copies : ByteArray := prog_10_method_53_code
def yX3_copies : MethodName := ⟨RX3, "copies", "(II)I"⟩
def dkwX3_copies_1 : List UInt8 := [159, 0, 9, 42, 27, 28, 182, 0, 170, 42, 28, 182, 0, 211, 172]
abbrev dktX3_copies_1 : List UInt8 := dkwX3_copies_1 ++ []
def dkwX3_copies_0 : List UInt8 := [42, 3, 181, 0, 51, 27, 184, 0, 111, 153, 0, 10, 28, 184, 0, 111, 154, 0, 5, 2, 172, 27, 28]
abbrev dktX3_copies_0 : List UInt8 := dkwX3_copies_0 ++ dktX3_copies_1
theorem dksX3_copies_0 : cX3_copies.data.toList.drop 0 = dktX3_copies_0 := by decide +kernel
theorem dksX3_copies_1 : cX3_copies.data.toList.drop 23 = dktX3_copies_1 := dk_seg dksX3_copies_0 23 rfl rfl
theorem dX3_copies_0 : decode cX3_copies 0 = .ok (.aload_n 0, 1) := dk_42 (dk_at dksX3_copies_0 0 rfl rfl)
theorem dX3_copies_1 : decode cX3_copies 1 = .ok (.iconst 0, 1) := dk_3 (dk_at dksX3_copies_0 1 rfl rfl)
theorem dX3_copies_2 : decode cX3_copies 2 = .ok (.putfield 51, 3) := dk_181 0 51 (dk_at dksX3_copies_0 2 rfl rfl)
theorem dX3_copies_5 : decode cX3_copies 5 = .ok (.iload_n 1, 1) := dk_27 (dk_at dksX3_copies_0 5 rfl rfl)
theorem dX3_copies_6 : decode cX3_copies 6 = .ok (.invokestatic 111, 3) := dk_184 0 111 (dk_at dksX3_copies_0 6 rfl rfl)
theorem dX3_copies_9 : decode cX3_copies 9 = .ok (.ifCond .eq 10, 3) := dk_153 0 10 (dk_at dksX3_copies_0 9 rfl rfl)
theorem dX3_copies_12 : decode cX3_copies 12 = .ok (.iload_n 2, 1) := dk_28 (dk_at dksX3_copies_0 12 rfl rfl)
theorem dX3_copies_13 : decode cX3_copies 13 = .ok (.invokestatic 111, 3) := dk_184 0 111 (dk_at dksX3_copies_0 13 rfl rfl)
theorem dX3_copies_16 : decode cX3_copies 16 = .ok (.ifCond .ne 5, 3) := dk_154 0 5 (dk_at dksX3_copies_0 16 rfl rfl)
theorem dX3_copies_19 : decode cX3_copies 19 = .ok (.iconst (-1), 1) := dk_2 (dk_at dksX3_copies_0 19 rfl rfl)
theorem dX3_copies_20 : decode cX3_copies 20 = .ok (.ireturn, 1) := dk_172 (dk_at dksX3_copies_0 20 rfl rfl)
theorem dX3_copies_21 : decode cX3_copies 21 = .ok (.iload_n 1, 1) := dk_27 (dk_at dksX3_copies_0 21 rfl rfl)
theorem dX3_copies_22 : decode cX3_copies 22 = .ok (.iload_n 2, 1) := dk_28 (dk_at dksX3_copies_0 22 rfl rfl)
theorem dX3_copies_23 : decode cX3_copies 23 = .ok (.if_icmp .eq 9, 3) := dk_159 0 9 (dk_at dksX3_copies_1 0 rfl rfl)
theorem dX3_copies_26 : decode cX3_copies 26 = .ok (.aload_n 0, 1) := dk_42 (dk_at dksX3_copies_1 3 rfl rfl)
theorem dX3_copies_27 : decode cX3_copies 27 = .ok (.iload_n 1, 1) := dk_27 (dk_at dksX3_copies_1 4 rfl rfl)
theorem dX3_copies_28 : decode cX3_copies 28 = .ok (.iload_n 2, 1) := dk_28 (dk_at dksX3_copies_1 5 rfl rfl)
theorem dX3_copies_29 : decode cX3_copies 29 = .ok (.invokevirtual 170, 3) := dk_182 0 170 (dk_at dksX3_copies_1 6 rfl rfl)
theorem dX3_copies_32 : decode cX3_copies 32 = .ok (.aload_n 0, 1) := dk_42 (dk_at dksX3_copies_1 9 rfl rfl)
theorem dX3_copies_33 : decode cX3_copies 33 = .ok (.iload_n 2, 1) := dk_28 (dk_at dksX3_copies_1 10 rfl rfl)
theorem dX3_copies_34 : decode cX3_copies 34 = .ok (.invokevirtual 211, 3) := dk_182 0 211 (dk_at dksX3_copies_1 11 rfl rfl)
theorem dX3_copies_37 : decode cX3_copies 37 = .ok (.ireturn, 1) := dk_172 (dk_at dksX3_copies_1 14 rfl rfl)
abbrev cX3_copiesSlot : ByteArray := prog_10_method_19_code
def yX3_copiesSlot : MethodName := ⟨RX3, "copiesSlot", "(II)V"⟩
def dkwX3_copiesSlot_5 : List UInt8 := [167, 255, 226, 177]
abbrev dktX3_copiesSlot_5 : List UInt8 := dkwX3_copiesSlot_5 ++ []
def dkwX3_copiesSlot_4 : List UInt8 := [180, 0, 27, 28, 29, 184, 0, 92, 42, 180, 0, 27, 27, 29, 184, 0, 92, 46, 79, 132, 3, 1]
abbrev dktX3_copiesSlot_4 : List UInt8 := dkwX3_copiesSlot_4 ++ dktX3_copiesSlot_5
def dkwX3_copiesSlot_3 : List UInt8 := [27, 104, 29, 96, 47, 80, 132, 3, 1, 167, 255, 225, 3, 62, 29, 17, 1, 0, 162, 0, 29, 42]
abbrev dktX3_copiesSlot_3 : List UInt8 := dkwX3_copiesSlot_3 ++ dktX3_copiesSlot_4
def dkwX3_copiesSlot_2 : List UInt8 := [3, 62, 29, 16, 64, 162, 0, 31, 42, 180, 0, 20, 16, 64, 28, 104, 29, 96, 42, 180, 0, 20, 16, 64]
abbrev dktX3_copiesSlot_2 : List UInt8 := dkwX3_copiesSlot_2 ++ dktX3_copiesSlot_3
def dkwX3_copiesSlot_1 : List UInt8 := [42, 180, 0, 16, 28, 42, 180, 0, 16, 27, 51, 84, 42, 180, 0, 24, 28, 42, 180, 0, 24, 27, 46, 79]
abbrev dktX3_copiesSlot_1 : List UInt8 := dkwX3_copiesSlot_1 ++ dktX3_copiesSlot_2
def dkwX3_copiesSlot_0 : List UInt8 := [42, 180, 0, 7, 28, 42, 180, 0, 7, 27, 46, 79, 42, 180, 0, 13, 28, 42, 180, 0, 13, 27, 46, 79]
abbrev dktX3_copiesSlot_0 : List UInt8 := dkwX3_copiesSlot_0 ++ dktX3_copiesSlot_1
theorem dksX3_copiesSlot_0 : cX3_copiesSlot.data.toList.drop 0 = dktX3_copiesSlot_0 := by decide +kernel
theorem dksX3_copiesSlot_1 : cX3_copiesSlot.data.toList.drop 24 = dktX3_copiesSlot_1 := dk_seg dksX3_copiesSlot_0 24 rfl rfl
theorem dksX3_copiesSlot_2 : cX3_copiesSlot.data.toList.drop 48 = dktX3_copiesSlot_2 := dk_seg dksX3_copiesSlot_1 24 rfl rfl
theorem dksX3_copiesSlot_3 : cX3_copiesSlot.data.toList.drop 72 = dktX3_copiesSlot_3 := dk_seg dksX3_copiesSlot_2 24 rfl rfl
theorem dksX3_copiesSlot_4 : cX3_copiesSlot.data.toList.drop 94 = dktX3_copiesSlot_4 := dk_seg dksX3_copiesSlot_3 22 rfl rfl
theorem dksX3_copiesSlot_5 : cX3_copiesSlot.data.toList.drop 116 = dktX3_copiesSlot_5 := dk_seg dksX3_copiesSlot_4 22 rfl rfl
theorem dX3_copiesSlot_0 : decode cX3_copiesSlot 0 = .ok (.aload_n 0, 1) := dk_42 (dk_at dksX3_copiesSlot_0 0 rfl rfl)
theorem dX3_copiesSlot_1 : decode cX3_copiesSlot 1 = .ok (.getfield 7, 3) := dk_180 0 7 (dk_at dksX3_copiesSlot_0 1 rfl rfl)
theorem dX3_copiesSlot_4 : decode cX3_copiesSlot 4 = .ok (.iload_n 2, 1) := dk_28 (dk_at dksX3_copiesSlot_0 4 rfl rfl)
theorem dX3_copiesSlot_5 : decode cX3_copiesSlot 5 = .ok (.aload_n 0, 1) := dk_42 (dk_at dksX3_copiesSlot_0 5 rfl rfl)
theorem dX3_copiesSlot_6 : decode cX3_copiesSlot 6 = .ok (.getfield 7, 3) := dk_180 0 7 (dk_at dksX3_copiesSlot_0 6 rfl rfl)
theorem dX3_copiesSlot_9 : decode cX3_copiesSlot 9 = .ok (.iload_n 1, 1) := dk_27 (dk_at dksX3_copiesSlot_0 9 rfl rfl)
theorem dX3_copiesSlot_10 : decode cX3_copiesSlot 10 = .ok (.iaload, 1) := dk_46 (dk_at dksX3_copiesSlot_0 10 rfl rfl)
theorem dX3_copiesSlot_11 : decode cX3_copiesSlot 11 = .ok (.iastore, 1) := dk_79 (dk_at dksX3_copiesSlot_0 11 rfl rfl)
theorem dX3_copiesSlot_12 : decode cX3_copiesSlot 12 = .ok (.aload_n 0, 1) := dk_42 (dk_at dksX3_copiesSlot_0 12 rfl rfl)
theorem dX3_copiesSlot_13 : decode cX3_copiesSlot 13 = .ok (.getfield 13, 3) := dk_180 0 13 (dk_at dksX3_copiesSlot_0 13 rfl rfl)
theorem dX3_copiesSlot_16 : decode cX3_copiesSlot 16 = .ok (.iload_n 2, 1) := dk_28 (dk_at dksX3_copiesSlot_0 16 rfl rfl)
theorem dX3_copiesSlot_17 : decode cX3_copiesSlot 17 = .ok (.aload_n 0, 1) := dk_42 (dk_at dksX3_copiesSlot_0 17 rfl rfl)
theorem dX3_copiesSlot_18 : decode cX3_copiesSlot 18 = .ok (.getfield 13, 3) := dk_180 0 13 (dk_at dksX3_copiesSlot_0 18 rfl rfl)
theorem dX3_copiesSlot_21 : decode cX3_copiesSlot 21 = .ok (.iload_n 1, 1) := dk_27 (dk_at dksX3_copiesSlot_0 21 rfl rfl)
theorem dX3_copiesSlot_22 : decode cX3_copiesSlot 22 = .ok (.iaload, 1) := dk_46 (dk_at dksX3_copiesSlot_0 22 rfl rfl)
theorem dX3_copiesSlot_23 : decode cX3_copiesSlot 23 = .ok (.iastore, 1) := dk_79 (dk_at dksX3_copiesSlot_0 23 rfl rfl)
theorem dX3_copiesSlot_24 : decode cX3_copiesSlot 24 = .ok (.aload_n 0, 1) := dk_42 (dk_at dksX3_copiesSlot_1 0 rfl rfl)
theorem dX3_copiesSlot_25 : decode cX3_copiesSlot 25 = .ok (.getfield 16, 3) := dk_180 0 16 (dk_at dksX3_copiesSlot_1 1 rfl rfl)
theorem dX3_copiesSlot_28 : decode cX3_copiesSlot 28 = .ok (.iload_n 2, 1) := dk_28 (dk_at dksX3_copiesSlot_1 4 rfl rfl)
theorem dX3_copiesSlot_29 : decode cX3_copiesSlot 29 = .ok (.aload_n 0, 1) := dk_42 (dk_at dksX3_copiesSlot_1 5 rfl rfl)
theorem dX3_copiesSlot_30 : decode cX3_copiesSlot 30 = .ok (.getfield 16, 3) := dk_180 0 16 (dk_at dksX3_copiesSlot_1 6 rfl rfl)
theorem dX3_copiesSlot_33 : decode cX3_copiesSlot 33 = .ok (.iload_n 1, 1) := dk_27 (dk_at dksX3_copiesSlot_1 9 rfl rfl)
theorem dX3_copiesSlot_34 : decode cX3_copiesSlot 34 = .ok (.baload, 1) := dk_51 (dk_at dksX3_copiesSlot_1 10 rfl rfl)
theorem dX3_copiesSlot_35 : decode cX3_copiesSlot 35 = .ok (.bastore, 1) := dk_84 (dk_at dksX3_copiesSlot_1 11 rfl rfl)
theorem dX3_copiesSlot_36 : decode cX3_copiesSlot 36 = .ok (.aload_n 0, 1) := dk_42 (dk_at dksX3_copiesSlot_1 12 rfl rfl)
theorem dX3_copiesSlot_37 : decode cX3_copiesSlot 37 = .ok (.getfield 24, 3) := dk_180 0 24 (dk_at dksX3_copiesSlot_1 13 rfl rfl)
theorem dX3_copiesSlot_40 : decode cX3_copiesSlot 40 = .ok (.iload_n 2, 1) := dk_28 (dk_at dksX3_copiesSlot_1 16 rfl rfl)
theorem dX3_copiesSlot_41 : decode cX3_copiesSlot 41 = .ok (.aload_n 0, 1) := dk_42 (dk_at dksX3_copiesSlot_1 17 rfl rfl)
theorem dX3_copiesSlot_42 : decode cX3_copiesSlot 42 = .ok (.getfield 24, 3) := dk_180 0 24 (dk_at dksX3_copiesSlot_1 18 rfl rfl)
theorem dX3_copiesSlot_45 : decode cX3_copiesSlot 45 = .ok (.iload_n 1, 1) := dk_27 (dk_at dksX3_copiesSlot_1 21 rfl rfl)
theorem dX3_copiesSlot_46 : decode cX3_copiesSlot 46 = .ok (.iaload, 1) := dk_46 (dk_at dksX3_copiesSlot_1 22 rfl rfl)
theorem dX3_copiesSlot_47 : decode cX3_copiesSlot 47 = .ok (.iastore, 1) := dk_79 (dk_at dksX3_copiesSlot_1 23 rfl rfl)
theorem dX3_copiesSlot_48 : decode cX3_copiesSlot 48 = .ok (.iconst 0, 1) := dk_3 (dk_at dksX3_copiesSlot_2 0 rfl rfl)
theorem dX3_copiesSlot_49 : decode cX3_copiesSlot 49 = .ok (.istore_n 3, 1) := dk_62 (dk_at dksX3_copiesSlot_2 1 rfl rfl)
theorem dX3_copiesSlot_50 : decode cX3_copiesSlot 50 = .ok (.iload_n 3, 1) := dk_29 (dk_at dksX3_copiesSlot_2 2 rfl rfl)
theorem dX3_copiesSlot_51 : decode cX3_copiesSlot 51 = .ok (.bipush 64, 2) := dk_16 64 (dk_at dksX3_copiesSlot_2 3 rfl rfl)
theorem dX3_copiesSlot_53 : decode cX3_copiesSlot 53 = .ok (.if_icmp .ge 31, 3) := dk_162 0 31 (dk_at dksX3_copiesSlot_2 5 rfl rfl)
theorem dX3_copiesSlot_56 : decode cX3_copiesSlot 56 = .ok (.aload_n 0, 1) := dk_42 (dk_at dksX3_copiesSlot_2 8 rfl rfl)
theorem dX3_copiesSlot_57 : decode cX3_copiesSlot 57 = .ok (.getfield 20, 3) := dk_180 0 20 (dk_at dksX3_copiesSlot_2 9 rfl rfl)
theorem dX3_copiesSlot_60 : decode cX3_copiesSlot 60 = .ok (.bipush 64, 2) := dk_16 64 (dk_at dksX3_copiesSlot_2 12 rfl rfl)
theorem dX3_copiesSlot_62 : decode cX3_copiesSlot 62 = .ok (.iload_n 2, 1) := dk_28 (dk_at dksX3_copiesSlot_2 14 rfl rfl)
theorem dX3_copiesSlot_63 : decode cX3_copiesSlot 63 = .ok (.imul, 1) := dk_104 (dk_at dksX3_copiesSlot_2 15 rfl rfl)
theorem dX3_copiesSlot_64 : decode cX3_copiesSlot 64 = .ok (.iload_n 3, 1) := dk_29 (dk_at dksX3_copiesSlot_2 16 rfl rfl)
theorem dX3_copiesSlot_65 : decode cX3_copiesSlot 65 = .ok (.iadd, 1) := dk_96 (dk_at dksX3_copiesSlot_2 17 rfl rfl)
theorem dX3_copiesSlot_66 : decode cX3_copiesSlot 66 = .ok (.aload_n 0, 1) := dk_42 (dk_at dksX3_copiesSlot_2 18 rfl rfl)
theorem dX3_copiesSlot_67 : decode cX3_copiesSlot 67 = .ok (.getfield 20, 3) := dk_180 0 20 (dk_at dksX3_copiesSlot_2 19 rfl rfl)
theorem dX3_copiesSlot_70 : decode cX3_copiesSlot 70 = .ok (.bipush 64, 2) := dk_16 64 (dk_at dksX3_copiesSlot_2 22 rfl rfl)
theorem dX3_copiesSlot_72 : decode cX3_copiesSlot 72 = .ok (.iload_n 1, 1) := dk_27 (dk_at dksX3_copiesSlot_3 0 rfl rfl)
theorem dX3_copiesSlot_73 : decode cX3_copiesSlot 73 = .ok (.imul, 1) := dk_104 (dk_at dksX3_copiesSlot_3 1 rfl rfl)
theorem dX3_copiesSlot_74 : decode cX3_copiesSlot 74 = .ok (.iload_n 3, 1) := dk_29 (dk_at dksX3_copiesSlot_3 2 rfl rfl)
theorem dX3_copiesSlot_75 : decode cX3_copiesSlot 75 = .ok (.iadd, 1) := dk_96 (dk_at dksX3_copiesSlot_3 3 rfl rfl)
theorem dX3_copiesSlot_76 : decode cX3_copiesSlot 76 = .ok (.laload, 1) := dk_47 (dk_at dksX3_copiesSlot_3 4 rfl rfl)
theorem dX3_copiesSlot_77 : decode cX3_copiesSlot 77 = .ok (.lastore, 1) := dk_80 (dk_at dksX3_copiesSlot_3 5 rfl rfl)
theorem dX3_copiesSlot_78 : decode cX3_copiesSlot 78 = .ok (.iinc 3 1, 3) := dk_132 3 1 (dk_at dksX3_copiesSlot_3 6 rfl rfl)
theorem dX3_copiesSlot_81 : decode cX3_copiesSlot 81 = .ok (.goto (-31), 3) := dk_167 255 225 (dk_at dksX3_copiesSlot_3 9 rfl rfl)
theorem dX3_copiesSlot_84 : decode cX3_copiesSlot 84 = .ok (.iconst 0, 1) := dk_3 (dk_at dksX3_copiesSlot_3 12 rfl rfl)
theorem dX3_copiesSlot_85 : decode cX3_copiesSlot 85 = .ok (.istore_n 3, 1) := dk_62 (dk_at dksX3_copiesSlot_3 13 rfl rfl)
theorem dX3_copiesSlot_86 : decode cX3_copiesSlot 86 = .ok (.iload_n 3, 1) := dk_29 (dk_at dksX3_copiesSlot_3 14 rfl rfl)
theorem dX3_copiesSlot_87 : decode cX3_copiesSlot 87 = .ok (.sipush 256, 3) := dk_17 1 0 (dk_at dksX3_copiesSlot_3 15 rfl rfl)
theorem dX3_copiesSlot_90 : decode cX3_copiesSlot 90 = .ok (.if_icmp .ge 29, 3) := dk_162 0 29 (dk_at dksX3_copiesSlot_3 18 rfl rfl)
theorem dX3_copiesSlot_93 : decode cX3_copiesSlot 93 = .ok (.aload_n 0, 1) := dk_42 (dk_at dksX3_copiesSlot_3 21 rfl rfl)
theorem dX3_copiesSlot_94 : decode cX3_copiesSlot 94 = .ok (.getfield 27, 3) := dk_180 0 27 (dk_at dksX3_copiesSlot_4 0 rfl rfl)
theorem dX3_copiesSlot_97 : decode cX3_copiesSlot 97 = .ok (.iload_n 2, 1) := dk_28 (dk_at dksX3_copiesSlot_4 3 rfl rfl)
theorem dX3_copiesSlot_98 : decode cX3_copiesSlot 98 = .ok (.iload_n 3, 1) := dk_29 (dk_at dksX3_copiesSlot_4 4 rfl rfl)
theorem dX3_copiesSlot_99 : decode cX3_copiesSlot 99 = .ok (.invokestatic 92, 3) := dk_184 0 92 (dk_at dksX3_copiesSlot_4 5 rfl rfl)
theorem dX3_copiesSlot_102 : decode cX3_copiesSlot 102 = .ok (.aload_n 0, 1) := dk_42 (dk_at dksX3_copiesSlot_4 8 rfl rfl)
theorem dX3_copiesSlot_103 : decode cX3_copiesSlot 103 = .ok (.getfield 27, 3) := dk_180 0 27 (dk_at dksX3_copiesSlot_4 9 rfl rfl)
theorem dX3_copiesSlot_106 : decode cX3_copiesSlot 106 = .ok (.iload_n 1, 1) := dk_27 (dk_at dksX3_copiesSlot_4 12 rfl rfl)
theorem dX3_copiesSlot_107 : decode cX3_copiesSlot 107 = .ok (.iload_n 3, 1) := dk_29 (dk_at dksX3_copiesSlot_4 13 rfl rfl)
theorem dX3_copiesSlot_108 : decode cX3_copiesSlot 108 = .ok (.invokestatic 92, 3) := dk_184 0 92 (dk_at dksX3_copiesSlot_4 14 rfl rfl)
theorem dX3_copiesSlot_111 : decode cX3_copiesSlot 111 = .ok (.iaload, 1) := dk_46 (dk_at dksX3_copiesSlot_4 17 rfl rfl)
theorem dX3_copiesSlot_112 : decode cX3_copiesSlot 112 = .ok (.iastore, 1) := dk_79 (dk_at dksX3_copiesSlot_4 18 rfl rfl)
theorem dX3_copiesSlot_113 : decode cX3_copiesSlot 113 = .ok (.iinc 3 1, 3) := dk_132 3 1 (dk_at dksX3_copiesSlot_4 19 rfl rfl)
theorem dX3_copiesSlot_116 : decode cX3_copiesSlot 116 = .ok (.goto (-30), 3) := dk_167 255 226 (dk_at dksX3_copiesSlot_5 0 rfl rfl)
theorem dX3_copiesSlot_119 : decode cX3_copiesSlot 119 = .ok (.return_, 1) := dk_177 (dk_at dksX3_copiesSlot_5 3 rfl rfl)
abbrev cX3_guessOf : ByteArray := prog_10_method_50_code
def yX3_guessOf : MethodName := ⟨RX3, "guessOf", "(I)I"⟩
def dkwX3_guessOf_1 : List UInt8 := [27, 46, 172]
abbrev dktX3_guessOf_1 : List UInt8 := dkwX3_guessOf_1 ++ []
def dkwX3_guessOf_0 : List UInt8 := [42, 180, 0, 16, 27, 51, 153, 0, 9, 42, 27, 182, 0, 205, 172, 42, 3, 181, 0, 182, 42, 180, 0, 24]
abbrev dktX3_guessOf_0 : List UInt8 := dkwX3_guessOf_0 ++ dktX3_guessOf_1
theorem dksX3_guessOf_0 : cX3_guessOf.data.toList.drop 0 = dktX3_guessOf_0 := by decide +kernel
theorem dksX3_guessOf_1 : cX3_guessOf.data.toList.drop 24 = dktX3_guessOf_1 := dk_seg dksX3_guessOf_0 24 rfl rfl
theorem dX3_guessOf_0 : decode cX3_guessOf 0 = .ok (.aload_n 0, 1) := dk_42 (dk_at dksX3_guessOf_0 0 rfl rfl)
theorem dX3_guessOf_1 : decode cX3_guessOf 1 = .ok (.getfield 16, 3) := dk_180 0 16 (dk_at dksX3_guessOf_0 1 rfl rfl)
theorem dX3_guessOf_4 : decode cX3_guessOf 4 = .ok (.iload_n 1, 1) := dk_27 (dk_at dksX3_guessOf_0 4 rfl rfl)
theorem dX3_guessOf_5 : decode cX3_guessOf 5 = .ok (.baload, 1) := dk_51 (dk_at dksX3_guessOf_0 5 rfl rfl)
theorem dX3_guessOf_6 : decode cX3_guessOf 6 = .ok (.ifCond .eq 9, 3) := dk_153 0 9 (dk_at dksX3_guessOf_0 6 rfl rfl)
theorem dX3_guessOf_9 : decode cX3_guessOf 9 = .ok (.aload_n 0, 1) := dk_42 (dk_at dksX3_guessOf_0 9 rfl rfl)
theorem dX3_guessOf_10 : decode cX3_guessOf 10 = .ok (.iload_n 1, 1) := dk_27 (dk_at dksX3_guessOf_0 10 rfl rfl)
theorem dX3_guessOf_11 : decode cX3_guessOf 11 = .ok (.invokevirtual 205, 3) := dk_182 0 205 (dk_at dksX3_guessOf_0 11 rfl rfl)
theorem dX3_guessOf_14 : decode cX3_guessOf 14 = .ok (.ireturn, 1) := dk_172 (dk_at dksX3_guessOf_0 14 rfl rfl)
theorem dX3_guessOf_15 : decode cX3_guessOf 15 = .ok (.aload_n 0, 1) := dk_42 (dk_at dksX3_guessOf_0 15 rfl rfl)
theorem dX3_guessOf_16 : decode cX3_guessOf 16 = .ok (.iconst 0, 1) := dk_3 (dk_at dksX3_guessOf_0 16 rfl rfl)
theorem dX3_guessOf_17 : decode cX3_guessOf 17 = .ok (.putfield 182, 3) := dk_181 0 182 (dk_at dksX3_guessOf_0 17 rfl rfl)
theorem dX3_guessOf_20 : decode cX3_guessOf 20 = .ok (.aload_n 0, 1) := dk_42 (dk_at dksX3_guessOf_0 20 rfl rfl)
theorem dX3_guessOf_21 : decode cX3_guessOf 21 = .ok (.getfield 24, 3) := dk_180 0 24 (dk_at dksX3_guessOf_0 21 rfl rfl)
theorem dX3_guessOf_24 : decode cX3_guessOf 24 = .ok (.iload_n 1, 1) := dk_27 (dk_at dksX3_guessOf_1 0 rfl rfl)
theorem dX3_guessOf_25 : decode cX3_guessOf 25 = .ok (.iaload, 1) := dk_46 (dk_at dksX3_guessOf_1 1 rfl rfl)
theorem dX3_guessOf_26 : decode cX3_guessOf 26 = .ok (.ireturn, 1) := dk_172 (dk_at dksX3_guessOf_1 2 rfl rfl)
abbrev cX3_denseGuess : ByteArray := prog_10_method_49_code
def yX3_denseGuess : MethodName := ⟨RX3, "denseGuess", "(I)I"⟩
def dkwX3_denseGuess_0 : List UInt8 := [42, 42, 180, 0, 7, 27, 46, 42, 27, 182, 0, 195, 42, 27, 182, 0, 198, 182, 0, 201, 172]
abbrev dktX3_denseGuess_0 : List UInt8 := dkwX3_denseGuess_0 ++ []
theorem dksX3_denseGuess_0 : cX3_denseGuess.data.toList.drop 0 = dktX3_denseGuess_0 := by decide +kernel
theorem dX3_denseGuess_0 : decode cX3_denseGuess 0 = .ok (.aload_n 0, 1) := dk_42 (dk_at dksX3_denseGuess_0 0 rfl rfl)
theorem dX3_denseGuess_1 : decode cX3_denseGuess 1 = .ok (.aload_n 0, 1) := dk_42 (dk_at dksX3_denseGuess_0 1 rfl rfl)
theorem dX3_denseGuess_2 : decode cX3_denseGuess 2 = .ok (.getfield 7, 3) := dk_180 0 7 (dk_at dksX3_denseGuess_0 2 rfl rfl)
theorem dX3_denseGuess_5 : decode cX3_denseGuess 5 = .ok (.iload_n 1, 1) := dk_27 (dk_at dksX3_denseGuess_0 5 rfl rfl)
theorem dX3_denseGuess_6 : decode cX3_denseGuess 6 = .ok (.iaload, 1) := dk_46 (dk_at dksX3_denseGuess_0 6 rfl rfl)
theorem dX3_denseGuess_7 : decode cX3_denseGuess 7 = .ok (.aload_n 0, 1) := dk_42 (dk_at dksX3_denseGuess_0 7 rfl rfl)
theorem dX3_denseGuess_8 : decode cX3_denseGuess 8 = .ok (.iload_n 1, 1) := dk_27 (dk_at dksX3_denseGuess_0 8 rfl rfl)
theorem dX3_denseGuess_9 : decode cX3_denseGuess 9 = .ok (.invokevirtual 195, 3) := dk_182 0 195 (dk_at dksX3_denseGuess_0 9 rfl rfl)
theorem dX3_denseGuess_12 : decode cX3_denseGuess 12 = .ok (.aload_n 0, 1) := dk_42 (dk_at dksX3_denseGuess_0 12 rfl rfl)
theorem dX3_denseGuess_13 : decode cX3_denseGuess 13 = .ok (.iload_n 1, 1) := dk_27 (dk_at dksX3_denseGuess_0 13 rfl rfl)
theorem dX3_denseGuess_14 : decode cX3_denseGuess 14 = .ok (.invokevirtual 198, 3) := dk_182 0 198 (dk_at dksX3_denseGuess_0 14 rfl rfl)
theorem dX3_denseGuess_17 : decode cX3_denseGuess 17 = .ok (.invokevirtual 201, 3) := dk_182 0 201 (dk_at dksX3_denseGuess_0 17 rfl rfl)
theorem dX3_denseGuess_20 : decode cX3_denseGuess 20 = .ok (.ireturn, 1) := dk_172 (dk_at dksX3_denseGuess_0 20 rfl rfl)
abbrev cX3_zeros : ByteArray := prog_10_method_46_code
def yX3_zeros : MethodName := ⟨RX3, "zeros", "(I)I"⟩
def dkwX3_zeros_0 : List UInt8 := [42, 27, 182, 0, 117, 42, 27, 182, 0, 158, 100, 172]
abbrev dktX3_zeros_0 : List UInt8 := dkwX3_zeros_0 ++ []
theorem dksX3_zeros_0 : cX3_zeros.data.toList.drop 0 = dktX3_zeros_0 := by decide +kernel
theorem dX3_zeros_0 : decode cX3_zeros 0 = .ok (.aload_n 0, 1) := dk_42 (dk_at dksX3_zeros_0 0 rfl rfl)
theorem dX3_zeros_1 : decode cX3_zeros 1 = .ok (.iload_n 1, 1) := dk_27 (dk_at dksX3_zeros_0 1 rfl rfl)
theorem dX3_zeros_2 : decode cX3_zeros 2 = .ok (.invokevirtual 117, 3) := dk_182 0 117 (dk_at dksX3_zeros_0 2 rfl rfl)
theorem dX3_zeros_5 : decode cX3_zeros 5 = .ok (.aload_n 0, 1) := dk_42 (dk_at dksX3_zeros_0 5 rfl rfl)
theorem dX3_zeros_6 : decode cX3_zeros 6 = .ok (.iload_n 1, 1) := dk_27 (dk_at dksX3_zeros_0 6 rfl rfl)
theorem dX3_zeros_7 : decode cX3_zeros 7 = .ok (.invokevirtual 158, 3) := dk_182 0 158 (dk_at dksX3_zeros_0 7 rfl rfl)
theorem dX3_zeros_10 : decode cX3_zeros 10 = .ok (.isub, 1) := dk_100 (dk_at dksX3_zeros_0 10 rfl rfl)
theorem dX3_zeros_11 : decode cX3_zeros 11 = .ok (.ireturn, 1) := dk_172 (dk_at dksX3_zeros_0 11 rfl rfl)
abbrev cX3_allOf : ByteArray := prog_10_method_47_code
def yX3_allOf : MethodName := ⟨RX3, "allOf", "(I)J"⟩
def dkwX3_allOf_1 : List UInt8 := [21, 4, 184, 0, 92, 46, 100, 121, 97, 65, 132, 4, 1, 167, 255, 224, 32, 173]
abbrev dktX3_allOf_1 : List UInt8 := dkwX3_allOf_1 ++ []
def dkwX3_allOf_0 : List UInt8 := [9, 65, 3, 54, 4, 21, 4, 42, 27, 182, 0, 117, 162, 0, 28, 32, 10, 16, 29, 42, 180, 0, 27, 27]
abbrev dktX3_allOf_0 : List UInt8 := dkwX3_allOf_0 ++ dktX3_allOf_1
theorem dksX3_allOf_0 : cX3_allOf.data.toList.drop 0 = dktX3_allOf_0 := by decide +kernel
theorem dksX3_allOf_1 : cX3_allOf.data.toList.drop 24 = dktX3_allOf_1 := dk_seg dksX3_allOf_0 24 rfl rfl
theorem dX3_allOf_0 : decode cX3_allOf 0 = .ok (.lconst 0, 1) := dk_9 (dk_at dksX3_allOf_0 0 rfl rfl)
theorem dX3_allOf_1 : decode cX3_allOf 1 = .ok (.lstore_n 2, 1) := dk_65 (dk_at dksX3_allOf_0 1 rfl rfl)
theorem dX3_allOf_2 : decode cX3_allOf 2 = .ok (.iconst 0, 1) := dk_3 (dk_at dksX3_allOf_0 2 rfl rfl)
theorem dX3_allOf_3 : decode cX3_allOf 3 = .ok (.istore 4, 2) := dk_54 4 (dk_at dksX3_allOf_0 3 rfl rfl)
theorem dX3_allOf_5 : decode cX3_allOf 5 = .ok (.iload 4, 2) := dk_21 4 (dk_at dksX3_allOf_0 5 rfl rfl)
theorem dX3_allOf_7 : decode cX3_allOf 7 = .ok (.aload_n 0, 1) := dk_42 (dk_at dksX3_allOf_0 7 rfl rfl)
theorem dX3_allOf_8 : decode cX3_allOf 8 = .ok (.iload_n 1, 1) := dk_27 (dk_at dksX3_allOf_0 8 rfl rfl)
theorem dX3_allOf_9 : decode cX3_allOf 9 = .ok (.invokevirtual 117, 3) := dk_182 0 117 (dk_at dksX3_allOf_0 9 rfl rfl)
theorem dX3_allOf_12 : decode cX3_allOf 12 = .ok (.if_icmp .ge 28, 3) := dk_162 0 28 (dk_at dksX3_allOf_0 12 rfl rfl)
theorem dX3_allOf_15 : decode cX3_allOf 15 = .ok (.lload_n 2, 1) := dk_32 (dk_at dksX3_allOf_0 15 rfl rfl)
theorem dX3_allOf_16 : decode cX3_allOf 16 = .ok (.lconst 1, 1) := dk_10 (dk_at dksX3_allOf_0 16 rfl rfl)
theorem dX3_allOf_17 : decode cX3_allOf 17 = .ok (.bipush 29, 2) := dk_16 29 (dk_at dksX3_allOf_0 17 rfl rfl)
theorem dX3_allOf_19 : decode cX3_allOf 19 = .ok (.aload_n 0, 1) := dk_42 (dk_at dksX3_allOf_0 19 rfl rfl)
theorem dX3_allOf_20 : decode cX3_allOf 20 = .ok (.getfield 27, 3) := dk_180 0 27 (dk_at dksX3_allOf_0 20 rfl rfl)
theorem dX3_allOf_23 : decode cX3_allOf 23 = .ok (.iload_n 1, 1) := dk_27 (dk_at dksX3_allOf_0 23 rfl rfl)
theorem dX3_allOf_24 : decode cX3_allOf 24 = .ok (.iload 4, 2) := dk_21 4 (dk_at dksX3_allOf_1 0 rfl rfl)
theorem dX3_allOf_26 : decode cX3_allOf 26 = .ok (.invokestatic 92, 3) := dk_184 0 92 (dk_at dksX3_allOf_1 2 rfl rfl)
theorem dX3_allOf_29 : decode cX3_allOf 29 = .ok (.iaload, 1) := dk_46 (dk_at dksX3_allOf_1 5 rfl rfl)
theorem dX3_allOf_30 : decode cX3_allOf 30 = .ok (.isub, 1) := dk_100 (dk_at dksX3_allOf_1 6 rfl rfl)
theorem dX3_allOf_31 : decode cX3_allOf 31 = .ok (.lshl, 1) := dk_121 (dk_at dksX3_allOf_1 7 rfl rfl)
theorem dX3_allOf_32 : decode cX3_allOf 32 = .ok (.ladd, 1) := dk_97 (dk_at dksX3_allOf_1 8 rfl rfl)
theorem dX3_allOf_33 : decode cX3_allOf 33 = .ok (.lstore_n 2, 1) := dk_65 (dk_at dksX3_allOf_1 9 rfl rfl)
theorem dX3_allOf_34 : decode cX3_allOf 34 = .ok (.iinc 4 1, 3) := dk_132 4 1 (dk_at dksX3_allOf_1 10 rfl rfl)
theorem dX3_allOf_37 : decode cX3_allOf 37 = .ok (.goto (-32), 3) := dk_167 255 224 (dk_at dksX3_allOf_1 13 rfl rfl)
theorem dX3_allOf_40 : decode cX3_allOf 40 = .ok (.lload_n 2, 1) := dk_32 (dk_at dksX3_allOf_1 16 rfl rfl)
theorem dX3_allOf_41 : decode cX3_allOf 41 = .ok (.lreturn, 1) := dk_173 (dk_at dksX3_allOf_1 17 rfl rfl)
abbrev cX3_guessBy : ByteArray := prog_10_method_48_code
def yX3_guessBy : MethodName := ⟨RX3, "guessBy", "(IIJ)I"⟩
def dkwX3_guessBy_3 : List UInt8 := [20, 0, 188, 105, 20, 0, 124, 33, 105, 109, 55, 7, 20, 0, 190, 22, 7, 184, 0, 192, 136, 172]
abbrev dktX3_guessBy_3 : List UInt8 := dkwX3_guessBy_3 ++ []
def dkwX3_guessBy_2 : List UInt8 := [17, 1, 244, 96, 17, 3, 232, 108, 172, 27, 184, 0, 185, 133, 21, 5, 133, 105, 21, 5, 133, 105]
abbrev dktX3_guessBy_2 : List UInt8 := dkwX3_guessBy_2 ++ dktX3_guessBy_3
def dkwX3_guessBy_1 : List UInt8 := [104, 163, 0, 7, 4, 167, 0, 4, 5, 181, 0, 182, 42, 180, 0, 182, 4, 160, 0, 14, 21, 6]
abbrev dktX3_guessBy_1 : List UInt8 := dkwX3_guessBy_1 ++ dktX3_guessBy_2
def dkwX3_guessBy_0 : List UInt8 := [4, 27, 120, 54, 5, 27, 28, 184, 0, 179, 54, 6, 42, 28, 158, 0, 18, 21, 6, 17, 9, 196, 21, 5]
abbrev dktX3_guessBy_0 : List UInt8 := dkwX3_guessBy_0 ++ dktX3_guessBy_1
theorem dksX3_guessBy_0 : cX3_guessBy.data.toList.drop 0 = dktX3_guessBy_0 := by decide +kernel
theorem dksX3_guessBy_1 : cX3_guessBy.data.toList.drop 24 = dktX3_guessBy_1 := dk_seg dksX3_guessBy_0 24 rfl rfl
theorem dksX3_guessBy_2 : cX3_guessBy.data.toList.drop 46 = dktX3_guessBy_2 := dk_seg dksX3_guessBy_1 22 rfl rfl
theorem dksX3_guessBy_3 : cX3_guessBy.data.toList.drop 68 = dktX3_guessBy_3 := dk_seg dksX3_guessBy_2 22 rfl rfl
theorem dX3_guessBy_0 : decode cX3_guessBy 0 = .ok (.iconst 1, 1) := dk_4 (dk_at dksX3_guessBy_0 0 rfl rfl)
theorem dX3_guessBy_1 : decode cX3_guessBy 1 = .ok (.iload_n 1, 1) := dk_27 (dk_at dksX3_guessBy_0 1 rfl rfl)
theorem dX3_guessBy_2 : decode cX3_guessBy 2 = .ok (.ishl, 1) := dk_120 (dk_at dksX3_guessBy_0 2 rfl rfl)
theorem dX3_guessBy_3 : decode cX3_guessBy 3 = .ok (.istore 5, 2) := dk_54 5 (dk_at dksX3_guessBy_0 3 rfl rfl)
theorem dX3_guessBy_5 : decode cX3_guessBy 5 = .ok (.iload_n 1, 1) := dk_27 (dk_at dksX3_guessBy_0 5 rfl rfl)
theorem dX3_guessBy_6 : decode cX3_guessBy 6 = .ok (.iload_n 2, 1) := dk_28 (dk_at dksX3_guessBy_0 6 rfl rfl)
theorem dX3_guessBy_7 : decode cX3_guessBy 7 = .ok (.invokestatic 179, 3) := dk_184 0 179 (dk_at dksX3_guessBy_0 7 rfl rfl)
theorem dX3_guessBy_10 : decode cX3_guessBy 10 = .ok (.istore 6, 2) := dk_54 6 (dk_at dksX3_guessBy_0 10 rfl rfl)
theorem dX3_guessBy_12 : decode cX3_guessBy 12 = .ok (.aload_n 0, 1) := dk_42 (dk_at dksX3_guessBy_0 12 rfl rfl)
theorem dX3_guessBy_13 : decode cX3_guessBy 13 = .ok (.iload_n 2, 1) := dk_28 (dk_at dksX3_guessBy_0 13 rfl rfl)
theorem dX3_guessBy_14 : decode cX3_guessBy 14 = .ok (.ifCond .le 18, 3) := dk_158 0 18 (dk_at dksX3_guessBy_0 14 rfl rfl)
theorem dX3_guessBy_17 : decode cX3_guessBy 17 = .ok (.iload 6, 2) := dk_21 6 (dk_at dksX3_guessBy_0 17 rfl rfl)
theorem dX3_guessBy_19 : decode cX3_guessBy 19 = .ok (.sipush 2500, 3) := dk_17 9 196 (dk_at dksX3_guessBy_0 19 rfl rfl)
theorem dX3_guessBy_22 : decode cX3_guessBy 22 = .ok (.iload 5, 2) := dk_21 5 (dk_at dksX3_guessBy_0 22 rfl rfl)
theorem dX3_guessBy_24 : decode cX3_guessBy 24 = .ok (.imul, 1) := dk_104 (dk_at dksX3_guessBy_1 0 rfl rfl)
theorem dX3_guessBy_25 : decode cX3_guessBy 25 = .ok (.if_icmp .gt 7, 3) := dk_163 0 7 (dk_at dksX3_guessBy_1 1 rfl rfl)
theorem dX3_guessBy_28 : decode cX3_guessBy 28 = .ok (.iconst 1, 1) := dk_4 (dk_at dksX3_guessBy_1 4 rfl rfl)
theorem dX3_guessBy_29 : decode cX3_guessBy 29 = .ok (.goto 4, 3) := dk_167 0 4 (dk_at dksX3_guessBy_1 5 rfl rfl)
theorem dX3_guessBy_32 : decode cX3_guessBy 32 = .ok (.iconst 2, 1) := dk_5 (dk_at dksX3_guessBy_1 8 rfl rfl)
theorem dX3_guessBy_33 : decode cX3_guessBy 33 = .ok (.putfield 182, 3) := dk_181 0 182 (dk_at dksX3_guessBy_1 9 rfl rfl)
theorem dX3_guessBy_36 : decode cX3_guessBy 36 = .ok (.aload_n 0, 1) := dk_42 (dk_at dksX3_guessBy_1 12 rfl rfl)
theorem dX3_guessBy_37 : decode cX3_guessBy 37 = .ok (.getfield 182, 3) := dk_180 0 182 (dk_at dksX3_guessBy_1 13 rfl rfl)
theorem dX3_guessBy_40 : decode cX3_guessBy 40 = .ok (.iconst 1, 1) := dk_4 (dk_at dksX3_guessBy_1 16 rfl rfl)
theorem dX3_guessBy_41 : decode cX3_guessBy 41 = .ok (.if_icmp .ne 14, 3) := dk_160 0 14 (dk_at dksX3_guessBy_1 17 rfl rfl)
theorem dX3_guessBy_44 : decode cX3_guessBy 44 = .ok (.iload 6, 2) := dk_21 6 (dk_at dksX3_guessBy_1 20 rfl rfl)
theorem dX3_guessBy_46 : decode cX3_guessBy 46 = .ok (.sipush 500, 3) := dk_17 1 244 (dk_at dksX3_guessBy_2 0 rfl rfl)
theorem dX3_guessBy_49 : decode cX3_guessBy 49 = .ok (.iadd, 1) := dk_96 (dk_at dksX3_guessBy_2 3 rfl rfl)
theorem dX3_guessBy_50 : decode cX3_guessBy 50 = .ok (.sipush 1000, 3) := dk_17 3 232 (dk_at dksX3_guessBy_2 4 rfl rfl)
theorem dX3_guessBy_53 : decode cX3_guessBy 53 = .ok (.idiv, 1) := dk_108 (dk_at dksX3_guessBy_2 7 rfl rfl)
theorem dX3_guessBy_54 : decode cX3_guessBy 54 = .ok (.ireturn, 1) := dk_172 (dk_at dksX3_guessBy_2 8 rfl rfl)
theorem dX3_guessBy_55 : decode cX3_guessBy 55 = .ok (.iload_n 1, 1) := dk_27 (dk_at dksX3_guessBy_2 9 rfl rfl)
theorem dX3_guessBy_56 : decode cX3_guessBy 56 = .ok (.invokestatic 185, 3) := dk_184 0 185 (dk_at dksX3_guessBy_2 10 rfl rfl)
theorem dX3_guessBy_59 : decode cX3_guessBy 59 = .ok (.i2l, 1) := dk_133 (dk_at dksX3_guessBy_2 13 rfl rfl)
theorem dX3_guessBy_60 : decode cX3_guessBy 60 = .ok (.iload 5, 2) := dk_21 5 (dk_at dksX3_guessBy_2 14 rfl rfl)
theorem dX3_guessBy_62 : decode cX3_guessBy 62 = .ok (.i2l, 1) := dk_133 (dk_at dksX3_guessBy_2 16 rfl rfl)
theorem dX3_guessBy_63 : decode cX3_guessBy 63 = .ok (.lmul, 1) := dk_105 (dk_at dksX3_guessBy_2 17 rfl rfl)
theorem dX3_guessBy_64 : decode cX3_guessBy 64 = .ok (.iload 5, 2) := dk_21 5 (dk_at dksX3_guessBy_2 18 rfl rfl)
theorem dX3_guessBy_66 : decode cX3_guessBy 66 = .ok (.i2l, 1) := dk_133 (dk_at dksX3_guessBy_2 20 rfl rfl)
theorem dX3_guessBy_67 : decode cX3_guessBy 67 = .ok (.lmul, 1) := dk_105 (dk_at dksX3_guessBy_2 21 rfl rfl)
theorem dX3_guessBy_68 : decode cX3_guessBy 68 = .ok (.ldc2_w 188, 3) := dk_20 0 188 (dk_at dksX3_guessBy_3 0 rfl rfl)
theorem dX3_guessBy_71 : decode cX3_guessBy 71 = .ok (.lmul, 1) := dk_105 (dk_at dksX3_guessBy_3 3 rfl rfl)
theorem dX3_guessBy_72 : decode cX3_guessBy 72 = .ok (.ldc2_w 124, 3) := dk_20 0 124 (dk_at dksX3_guessBy_3 4 rfl rfl)
theorem dX3_guessBy_75 : decode cX3_guessBy 75 = .ok (.lload_n 3, 1) := dk_33 (dk_at dksX3_guessBy_3 7 rfl rfl)
theorem dX3_guessBy_76 : decode cX3_guessBy 76 = .ok (.lmul, 1) := dk_105 (dk_at dksX3_guessBy_3 8 rfl rfl)
theorem dX3_guessBy_77 : decode cX3_guessBy 77 = .ok (.ldiv, 1) := dk_109 (dk_at dksX3_guessBy_3 9 rfl rfl)
theorem dX3_guessBy_78 : decode cX3_guessBy 78 = .ok (.lstore 7, 2) := dk_55 7 (dk_at dksX3_guessBy_3 10 rfl rfl)
theorem dX3_guessBy_80 : decode cX3_guessBy 80 = .ok (.ldc2_w 190, 3) := dk_20 0 190 (dk_at dksX3_guessBy_3 12 rfl rfl)
theorem dX3_guessBy_83 : decode cX3_guessBy 83 = .ok (.lload 7, 2) := dk_22 7 (dk_at dksX3_guessBy_3 15 rfl rfl)
theorem dX3_guessBy_85 : decode cX3_guessBy 85 = .ok (.invokestatic 192, 3) := dk_184 0 192 (dk_at dksX3_guessBy_3 17 rfl rfl)
theorem dX3_guessBy_88 : decode cX3_guessBy 88 = .ok (.l2i, 1) := dk_136 (dk_at dksX3_guessBy_3 20 rfl rfl)
theorem dX3_guessBy_89 : decode cX3_guessBy 89 = .ok (.ireturn, 1) := dk_172 (dk_at dksX3_guessBy_3 21 rfl rfl)
abbrev cX3_tableOf : ByteArray := prog_10_method_45_code
def yX3_tableOf : MethodName := ⟨RX3, "tableOf", "(II)I"⟩
def dkwX3_tableOf_1 : List UInt8 := [21, 4, 108, 96, 62, 132, 4, 1, 167, 255, 236, 29, 172]
abbrev dktX3_tableOf_1 : List UInt8 := dkwX3_tableOf_1 ++ []
def dkwX3_tableOf_0 : List UInt8 := [4, 26, 120, 61, 3, 62, 27, 4, 96, 54, 4, 21, 4, 28, 163, 0, 20, 29, 17, 3, 232, 28, 104]
abbrev dktX3_tableOf_0 : List UInt8 := dkwX3_tableOf_0 ++ dktX3_tableOf_1
theorem dksX3_tableOf_0 : cX3_tableOf.data.toList.drop 0 = dktX3_tableOf_0 := by decide +kernel
theorem dksX3_tableOf_1 : cX3_tableOf.data.toList.drop 23 = dktX3_tableOf_1 := dk_seg dksX3_tableOf_0 23 rfl rfl
theorem dX3_tableOf_0 : decode cX3_tableOf 0 = .ok (.iconst 1, 1) := dk_4 (dk_at dksX3_tableOf_0 0 rfl rfl)
theorem dX3_tableOf_1 : decode cX3_tableOf 1 = .ok (.iload_n 0, 1) := dk_26 (dk_at dksX3_tableOf_0 1 rfl rfl)
theorem dX3_tableOf_2 : decode cX3_tableOf 2 = .ok (.ishl, 1) := dk_120 (dk_at dksX3_tableOf_0 2 rfl rfl)
theorem dX3_tableOf_3 : decode cX3_tableOf 3 = .ok (.istore_n 2, 1) := dk_61 (dk_at dksX3_tableOf_0 3 rfl rfl)
theorem dX3_tableOf_4 : decode cX3_tableOf 4 = .ok (.iconst 0, 1) := dk_3 (dk_at dksX3_tableOf_0 4 rfl rfl)
theorem dX3_tableOf_5 : decode cX3_tableOf 5 = .ok (.istore_n 3, 1) := dk_62 (dk_at dksX3_tableOf_0 5 rfl rfl)
theorem dX3_tableOf_6 : decode cX3_tableOf 6 = .ok (.iload_n 1, 1) := dk_27 (dk_at dksX3_tableOf_0 6 rfl rfl)
theorem dX3_tableOf_7 : decode cX3_tableOf 7 = .ok (.iconst 1, 1) := dk_4 (dk_at dksX3_tableOf_0 7 rfl rfl)
theorem dX3_tableOf_8 : decode cX3_tableOf 8 = .ok (.iadd, 1) := dk_96 (dk_at dksX3_tableOf_0 8 rfl rfl)
theorem dX3_tableOf_9 : decode cX3_tableOf 9 = .ok (.istore 4, 2) := dk_54 4 (dk_at dksX3_tableOf_0 9 rfl rfl)
theorem dX3_tableOf_11 : decode cX3_tableOf 11 = .ok (.iload 4, 2) := dk_21 4 (dk_at dksX3_tableOf_0 11 rfl rfl)
theorem dX3_tableOf_13 : decode cX3_tableOf 13 = .ok (.iload_n 2, 1) := dk_28 (dk_at dksX3_tableOf_0 13 rfl rfl)
theorem dX3_tableOf_14 : decode cX3_tableOf 14 = .ok (.if_icmp .gt 20, 3) := dk_163 0 20 (dk_at dksX3_tableOf_0 14 rfl rfl)
theorem dX3_tableOf_17 : decode cX3_tableOf 17 = .ok (.iload_n 3, 1) := dk_29 (dk_at dksX3_tableOf_0 17 rfl rfl)
theorem dX3_tableOf_18 : decode cX3_tableOf 18 = .ok (.sipush 1000, 3) := dk_17 3 232 (dk_at dksX3_tableOf_0 18 rfl rfl)
theorem dX3_tableOf_21 : decode cX3_tableOf 21 = .ok (.iload_n 2, 1) := dk_28 (dk_at dksX3_tableOf_0 21 rfl rfl)
theorem dX3_tableOf_22 : decode cX3_tableOf 22 = .ok (.imul, 1) := dk_104 (dk_at dksX3_tableOf_0 22 rfl rfl)
theorem dX3_tableOf_23 : decode cX3_tableOf 23 = .ok (.iload 4, 2) := dk_21 4 (dk_at dksX3_tableOf_1 0 rfl rfl)
theorem dX3_tableOf_25 : decode cX3_tableOf 25 = .ok (.idiv, 1) := dk_108 (dk_at dksX3_tableOf_1 2 rfl rfl)
theorem dX3_tableOf_26 : decode cX3_tableOf 26 = .ok (.iadd, 1) := dk_96 (dk_at dksX3_tableOf_1 3 rfl rfl)
theorem dX3_tableOf_27 : decode cX3_tableOf 27 = .ok (.istore_n 3, 1) := dk_62 (dk_at dksX3_tableOf_1 4 rfl rfl)
theorem dX3_tableOf_28 : decode cX3_tableOf 28 = .ok (.iinc 4 1, 3) := dk_132 4 1 (dk_at dksX3_tableOf_1 5 rfl rfl)
theorem dX3_tableOf_31 : decode cX3_tableOf 31 = .ok (.goto (-20), 3) := dk_167 255 236 (dk_at dksX3_tableOf_1 8 rfl rfl)
theorem dX3_tableOf_34 : decode cX3_tableOf 34 = .ok (.iload_n 3, 1) := dk_29 (dk_at dksX3_tableOf_1 11 rfl rfl)
theorem dX3_tableOf_35 : decode cX3_tableOf 35 = .ok (.ireturn, 1) := dk_172 (dk_at dksX3_tableOf_1 12 rfl rfl)
abbrev cX3_alpha : ByteArray := prog_10_method_44_code
def yX3_alpha : MethodName := ⟨RX3, "alpha", "(I)I"⟩
def dkwX3_alpha_2 : List UInt8 := [17, 2, 161, 172, 17, 2, 185, 172, 17, 2, 197, 172, 17, 2, 203, 172, 17, 2, 206, 172]
abbrev dktX3_alpha_2 : List UInt8 := dkwX3_alpha_2 ++ []
def dkwX3_alpha_1 : List UInt8 := [170, 0, 0, 0, 0, 0, 47, 0, 0, 0, 4, 0, 0, 0, 7, 0, 0, 0, 31, 0, 0, 0, 35, 0, 0, 0, 39, 0, 0, 0, 43]
abbrev dktX3_alpha_1 : List UInt8 := dkwX3_alpha_1 ++ dktX3_alpha_2
def dkwX3_alpha_0 : List UInt8 := [26]
abbrev dktX3_alpha_0 : List UInt8 := dkwX3_alpha_0 ++ dktX3_alpha_1
theorem dksX3_alpha_0 : cX3_alpha.data.toList.drop 0 = dktX3_alpha_0 := by decide +kernel
theorem dksX3_alpha_1 : cX3_alpha.data.toList.drop 1 = dktX3_alpha_1 := dk_seg dksX3_alpha_0 1 rfl rfl
theorem dksX3_alpha_2 : cX3_alpha.data.toList.drop 32 = dktX3_alpha_2 := dk_seg dksX3_alpha_1 31 rfl rfl
theorem dX3_alpha_0 : decode cX3_alpha 0 = .ok (.iload_n 0, 1) := dk_26 (dk_at dksX3_alpha_0 0 rfl rfl)
theorem dX3_alpha_1 : decode cX3_alpha 1 = .ok (.tableswitch 47 4 7 #[31, 35, 39, 43], 31) := by decide +kernel
theorem dX3_alpha_32 : decode cX3_alpha 32 = .ok (.sipush 673, 3) := dk_17 2 161 (dk_at dksX3_alpha_2 0 rfl rfl)
theorem dX3_alpha_35 : decode cX3_alpha 35 = .ok (.ireturn, 1) := dk_172 (dk_at dksX3_alpha_2 3 rfl rfl)
theorem dX3_alpha_36 : decode cX3_alpha 36 = .ok (.sipush 697, 3) := dk_17 2 185 (dk_at dksX3_alpha_2 4 rfl rfl)
theorem dX3_alpha_39 : decode cX3_alpha 39 = .ok (.ireturn, 1) := dk_172 (dk_at dksX3_alpha_2 7 rfl rfl)
theorem dX3_alpha_40 : decode cX3_alpha 40 = .ok (.sipush 709, 3) := dk_17 2 197 (dk_at dksX3_alpha_2 8 rfl rfl)
theorem dX3_alpha_43 : decode cX3_alpha 43 = .ok (.ireturn, 1) := dk_172 (dk_at dksX3_alpha_2 11 rfl rfl)
theorem dX3_alpha_44 : decode cX3_alpha 44 = .ok (.sipush 715, 3) := dk_17 2 203 (dk_at dksX3_alpha_2 12 rfl rfl)
theorem dX3_alpha_47 : decode cX3_alpha 47 = .ok (.ireturn, 1) := dk_172 (dk_at dksX3_alpha_2 15 rfl rfl)
theorem dX3_alpha_48 : decode cX3_alpha 48 = .ok (.sipush 718, 3) := dk_17 2 206 (dk_at dksX3_alpha_2 16 rfl rfl)
theorem dX3_alpha_51 : decode cX3_alpha 51 = .ok (.ireturn, 1) := dk_172 (dk_at dksX3_alpha_2 19 rfl rfl)
abbrev cX3_joins : ByteArray := prog_10_method_54_code
def yX3_joins : MethodName := ⟨RX3, "joins", "(III)I"⟩
def dkwX3_joins_1 : List UInt8 := [154, 0, 5, 2, 172, 42, 27, 28, 182, 0, 214, 42, 16, 6, 29, 182, 0, 170, 42, 29, 182, 0, 211, 172]
abbrev dktX3_joins_1 : List UInt8 := dkwX3_joins_1 ++ []
def dkwX3_joins_0 : List UInt8 := [42, 3, 181, 0, 51, 27, 184, 0, 111, 153, 0, 17, 28, 184, 0, 111, 153, 0, 10, 29, 184, 0, 111]
abbrev dktX3_joins_0 : List UInt8 := dkwX3_joins_0 ++ dktX3_joins_1
theorem dksX3_joins_0 : cX3_joins.data.toList.drop 0 = dktX3_joins_0 := by decide +kernel
theorem dksX3_joins_1 : cX3_joins.data.toList.drop 23 = dktX3_joins_1 := dk_seg dksX3_joins_0 23 rfl rfl
theorem dX3_joins_0 : decode cX3_joins 0 = .ok (.aload_n 0, 1) := dk_42 (dk_at dksX3_joins_0 0 rfl rfl)
theorem dX3_joins_1 : decode cX3_joins 1 = .ok (.iconst 0, 1) := dk_3 (dk_at dksX3_joins_0 1 rfl rfl)
theorem dX3_joins_2 : decode cX3_joins 2 = .ok (.putfield 51, 3) := dk_181 0 51 (dk_at dksX3_joins_0 2 rfl rfl)
theorem dX3_joins_5 : decode cX3_joins 5 = .ok (.iload_n 1, 1) := dk_27 (dk_at dksX3_joins_0 5 rfl rfl)
theorem dX3_joins_6 : decode cX3_joins 6 = .ok (.invokestatic 111, 3) := dk_184 0 111 (dk_at dksX3_joins_0 6 rfl rfl)
theorem dX3_joins_9 : decode cX3_joins 9 = .ok (.ifCond .eq 17, 3) := dk_153 0 17 (dk_at dksX3_joins_0 9 rfl rfl)
theorem dX3_joins_12 : decode cX3_joins 12 = .ok (.iload_n 2, 1) := dk_28 (dk_at dksX3_joins_0 12 rfl rfl)
theorem dX3_joins_13 : decode cX3_joins 13 = .ok (.invokestatic 111, 3) := dk_184 0 111 (dk_at dksX3_joins_0 13 rfl rfl)
theorem dX3_joins_16 : decode cX3_joins 16 = .ok (.ifCond .eq 10, 3) := dk_153 0 10 (dk_at dksX3_joins_0 16 rfl rfl)
theorem dX3_joins_19 : decode cX3_joins 19 = .ok (.iload_n 3, 1) := dk_29 (dk_at dksX3_joins_0 19 rfl rfl)
theorem dX3_joins_20 : decode cX3_joins 20 = .ok (.invokestatic 111, 3) := dk_184 0 111 (dk_at dksX3_joins_0 20 rfl rfl)
theorem dX3_joins_23 : decode cX3_joins 23 = .ok (.ifCond .ne 5, 3) := dk_154 0 5 (dk_at dksX3_joins_1 0 rfl rfl)
theorem dX3_joins_26 : decode cX3_joins 26 = .ok (.iconst (-1), 1) := dk_2 (dk_at dksX3_joins_1 3 rfl rfl)
theorem dX3_joins_27 : decode cX3_joins 27 = .ok (.ireturn, 1) := dk_172 (dk_at dksX3_joins_1 4 rfl rfl)
theorem dX3_joins_28 : decode cX3_joins 28 = .ok (.aload_n 0, 1) := dk_42 (dk_at dksX3_joins_1 5 rfl rfl)
theorem dX3_joins_29 : decode cX3_joins 29 = .ok (.iload_n 1, 1) := dk_27 (dk_at dksX3_joins_1 6 rfl rfl)
theorem dX3_joins_30 : decode cX3_joins 30 = .ok (.iload_n 2, 1) := dk_28 (dk_at dksX3_joins_1 7 rfl rfl)
theorem dX3_joins_31 : decode cX3_joins 31 = .ok (.invokevirtual 214, 3) := dk_182 0 214 (dk_at dksX3_joins_1 8 rfl rfl)
theorem dX3_joins_34 : decode cX3_joins 34 = .ok (.aload_n 0, 1) := dk_42 (dk_at dksX3_joins_1 11 rfl rfl)
theorem dX3_joins_35 : decode cX3_joins 35 = .ok (.bipush 6, 2) := dk_16 6 (dk_at dksX3_joins_1 12 rfl rfl)
theorem dX3_joins_37 : decode cX3_joins 37 = .ok (.iload_n 3, 1) := dk_29 (dk_at dksX3_joins_1 14 rfl rfl)
theorem dX3_joins_38 : decode cX3_joins 38 = .ok (.invokevirtual 170, 3) := dk_182 0 170 (dk_at dksX3_joins_1 15 rfl rfl)
theorem dX3_joins_41 : decode cX3_joins 41 = .ok (.aload_n 0, 1) := dk_42 (dk_at dksX3_joins_1 18 rfl rfl)
theorem dX3_joins_42 : decode cX3_joins 42 = .ok (.iload_n 3, 1) := dk_29 (dk_at dksX3_joins_1 19 rfl rfl)
theorem dX3_joins_43 : decode cX3_joins 43 = .ok (.invokevirtual 211, 3) := dk_182 0 211 (dk_at dksX3_joins_1 20 rfl rfl)
theorem dX3_joins_46 : decode cX3_joins 46 = .ok (.ireturn, 1) := dk_172 (dk_at dksX3_joins_1 23 rfl rfl)
abbrev cX3_joinsTwo : ByteArray := prog_10_method_43_code
def yX3_joinsTwo : MethodName := ⟨RX3, "joinsTwo", "(II)V"⟩
def dkwX3_joinsTwo_1 : List UInt8 := [42, 180, 0, 24, 16, 6, 46, 42, 180, 0, 13, 16, 6, 46, 164, 0, 9, 42, 16, 6, 182, 0, 107, 177]
abbrev dktX3_joinsTwo_1 : List UInt8 := dkwX3_joinsTwo_1 ++ []
def dkwX3_joinsTwo_0 : List UInt8 := [42, 27, 16, 6, 182, 0, 170, 42, 16, 6, 28, 182, 0, 176, 42, 180, 0, 16, 16, 6, 51, 154, 0, 26]
abbrev dktX3_joinsTwo_0 : List UInt8 := dkwX3_joinsTwo_0 ++ dktX3_joinsTwo_1
theorem dksX3_joinsTwo_0 : cX3_joinsTwo.data.toList.drop 0 = dktX3_joinsTwo_0 := by decide +kernel
theorem dksX3_joinsTwo_1 : cX3_joinsTwo.data.toList.drop 24 = dktX3_joinsTwo_1 := dk_seg dksX3_joinsTwo_0 24 rfl rfl
theorem dX3_joinsTwo_0 : decode cX3_joinsTwo 0 = .ok (.aload_n 0, 1) := dk_42 (dk_at dksX3_joinsTwo_0 0 rfl rfl)
theorem dX3_joinsTwo_1 : decode cX3_joinsTwo 1 = .ok (.iload_n 1, 1) := dk_27 (dk_at dksX3_joinsTwo_0 1 rfl rfl)
theorem dX3_joinsTwo_2 : decode cX3_joinsTwo 2 = .ok (.bipush 6, 2) := dk_16 6 (dk_at dksX3_joinsTwo_0 2 rfl rfl)
theorem dX3_joinsTwo_4 : decode cX3_joinsTwo 4 = .ok (.invokevirtual 170, 3) := dk_182 0 170 (dk_at dksX3_joinsTwo_0 4 rfl rfl)
theorem dX3_joinsTwo_7 : decode cX3_joinsTwo 7 = .ok (.aload_n 0, 1) := dk_42 (dk_at dksX3_joinsTwo_0 7 rfl rfl)
theorem dX3_joinsTwo_8 : decode cX3_joinsTwo 8 = .ok (.bipush 6, 2) := dk_16 6 (dk_at dksX3_joinsTwo_0 8 rfl rfl)
theorem dX3_joinsTwo_10 : decode cX3_joinsTwo 10 = .ok (.iload_n 2, 1) := dk_28 (dk_at dksX3_joinsTwo_0 10 rfl rfl)
theorem dX3_joinsTwo_11 : decode cX3_joinsTwo 11 = .ok (.invokevirtual 176, 3) := dk_182 0 176 (dk_at dksX3_joinsTwo_0 11 rfl rfl)
theorem dX3_joinsTwo_14 : decode cX3_joinsTwo 14 = .ok (.aload_n 0, 1) := dk_42 (dk_at dksX3_joinsTwo_0 14 rfl rfl)
theorem dX3_joinsTwo_15 : decode cX3_joinsTwo 15 = .ok (.getfield 16, 3) := dk_180 0 16 (dk_at dksX3_joinsTwo_0 15 rfl rfl)
theorem dX3_joinsTwo_18 : decode cX3_joinsTwo 18 = .ok (.bipush 6, 2) := dk_16 6 (dk_at dksX3_joinsTwo_0 18 rfl rfl)
theorem dX3_joinsTwo_20 : decode cX3_joinsTwo 20 = .ok (.baload, 1) := dk_51 (dk_at dksX3_joinsTwo_0 20 rfl rfl)
theorem dX3_joinsTwo_21 : decode cX3_joinsTwo 21 = .ok (.ifCond .ne 26, 3) := dk_154 0 26 (dk_at dksX3_joinsTwo_0 21 rfl rfl)
theorem dX3_joinsTwo_24 : decode cX3_joinsTwo 24 = .ok (.aload_n 0, 1) := dk_42 (dk_at dksX3_joinsTwo_1 0 rfl rfl)
theorem dX3_joinsTwo_25 : decode cX3_joinsTwo 25 = .ok (.getfield 24, 3) := dk_180 0 24 (dk_at dksX3_joinsTwo_1 1 rfl rfl)
theorem dX3_joinsTwo_28 : decode cX3_joinsTwo 28 = .ok (.bipush 6, 2) := dk_16 6 (dk_at dksX3_joinsTwo_1 4 rfl rfl)
theorem dX3_joinsTwo_30 : decode cX3_joinsTwo 30 = .ok (.iaload, 1) := dk_46 (dk_at dksX3_joinsTwo_1 6 rfl rfl)
theorem dX3_joinsTwo_31 : decode cX3_joinsTwo 31 = .ok (.aload_n 0, 1) := dk_42 (dk_at dksX3_joinsTwo_1 7 rfl rfl)
theorem dX3_joinsTwo_32 : decode cX3_joinsTwo 32 = .ok (.getfield 13, 3) := dk_180 0 13 (dk_at dksX3_joinsTwo_1 8 rfl rfl)
theorem dX3_joinsTwo_35 : decode cX3_joinsTwo 35 = .ok (.bipush 6, 2) := dk_16 6 (dk_at dksX3_joinsTwo_1 11 rfl rfl)
theorem dX3_joinsTwo_37 : decode cX3_joinsTwo 37 = .ok (.iaload, 1) := dk_46 (dk_at dksX3_joinsTwo_1 13 rfl rfl)
theorem dX3_joinsTwo_38 : decode cX3_joinsTwo 38 = .ok (.if_icmp .le 9, 3) := dk_164 0 9 (dk_at dksX3_joinsTwo_1 14 rfl rfl)
theorem dX3_joinsTwo_41 : decode cX3_joinsTwo 41 = .ok (.aload_n 0, 1) := dk_42 (dk_at dksX3_joinsTwo_1 17 rfl rfl)
theorem dX3_joinsTwo_42 : decode cX3_joinsTwo 42 = .ok (.bipush 6, 2) := dk_16 6 (dk_at dksX3_joinsTwo_1 18 rfl rfl)
theorem dX3_joinsTwo_44 : decode cX3_joinsTwo 44 = .ok (.invokevirtual 107, 3) := dk_182 0 107 (dk_at dksX3_joinsTwo_1 20 rfl rfl)
theorem dX3_joinsTwo_47 : decode cX3_joinsTwo 47 = .ok (.return_, 1) := dk_177 (dk_at dksX3_joinsTwo_1 23 rfl rfl)
abbrev cX3_joinsInto : ByteArray := prog_10_method_41_code
def yX3_joinsInto : MethodName := ⟨RX3, "joinsInto", "(II)V"⟩
def dkwX3_joinsInto_9 : List UInt8 := [182, 0, 103, 132, 4, 1, 167, 255, 180, 177]
abbrev dktX3_joinsInto_9 : List UInt8 := dkwX3_joinsInto_9 ++ []
def dkwX3_joinsInto_8 : List UInt8 := [180, 0, 24, 27, 46, 16, 64, 160, 0, 11, 42, 27, 182, 0, 107, 167, 0, 10, 42, 27, 22, 5]
abbrev dktX3_joinsInto_8 : List UInt8 := dkwX3_joinsInto_8 ++ dktX3_joinsInto_9
def dkwX3_joinsInto_7 : List UInt8 := [17, 1, 192, 21, 4, 96, 47, 55, 5, 42, 27, 22, 5, 182, 0, 100, 153, 0, 6, 167, 0, 29, 42]
abbrev dktX3_joinsInto_7 : List UInt8 := dkwX3_joinsInto_7 ++ dktX3_joinsInto_8
def dkwX3_joinsInto_6 : List UInt8 := [180, 0, 24, 16, 7, 46, 162, 0, 70, 42, 180, 0, 16, 27, 51, 154, 0, 61, 42, 180, 0, 20]
abbrev dktX3_joinsInto_6 : List UInt8 := dkwX3_joinsInto_6 ++ dktX3_joinsInto_7
def dkwX3_joinsInto_5 : List UInt8 := [16, 7, 21, 4, 184, 0, 92, 46, 184, 0, 161, 79, 132, 4, 1, 167, 255, 208, 3, 54, 4, 21, 4, 42]
abbrev dktX3_joinsInto_5 : List UInt8 := dkwX3_joinsInto_5 ++ dktX3_joinsInto_6
def dkwX3_joinsInto_4 : List UInt8 := [180, 0, 27, 27, 21, 4, 184, 0, 92, 42, 180, 0, 27, 27, 21, 4, 184, 0, 92, 46, 42, 180, 0, 27]
abbrev dktX3_joinsInto_4 : List UInt8 := dkwX3_joinsInto_4 ++ dktX3_joinsInto_5
def dkwX3_joinsInto_3 : List UInt8 := [16, 7, 51, 153, 0, 8, 42, 27, 182, 0, 107, 3, 54, 4, 21, 4, 4, 29, 120, 162, 0, 46, 42]
abbrev dktX3_joinsInto_3 : List UInt8 := dkwX3_joinsInto_3 ++ dktX3_joinsInto_4
def dkwX3_joinsInto_2 : List UInt8 := [29, 182, 0, 166, 42, 16, 7, 29, 182, 0, 166, 42, 180, 0, 16, 27, 51, 154, 0, 13, 42, 180, 0, 16]
abbrev dktX3_joinsInto_2 : List UInt8 := dkwX3_joinsInto_2 ++ dktX3_joinsInto_3
def dkwX3_joinsInto_1 : List UInt8 := [42, 180, 0, 13, 27, 42, 180, 0, 13, 27, 46, 42, 180, 0, 13, 16, 7, 46, 184, 0, 173, 79, 42, 27]
abbrev dktX3_joinsInto_1 : List UInt8 := dkwX3_joinsInto_1 ++ dktX3_joinsInto_2
def dkwX3_joinsInto_0 : List UInt8 := [42, 28, 16, 7, 182, 0, 170, 42, 180, 0, 7, 27, 46, 42, 180, 0, 7, 16, 7, 46, 184, 0, 173, 62]
abbrev dktX3_joinsInto_0 : List UInt8 := dkwX3_joinsInto_0 ++ dktX3_joinsInto_1
theorem dksX3_joinsInto_0 : cX3_joinsInto.data.toList.drop 0 = dktX3_joinsInto_0 := by decide +kernel
theorem dksX3_joinsInto_1 : cX3_joinsInto.data.toList.drop 24 = dktX3_joinsInto_1 := dk_seg dksX3_joinsInto_0 24 rfl rfl
theorem dksX3_joinsInto_2 : cX3_joinsInto.data.toList.drop 48 = dktX3_joinsInto_2 := dk_seg dksX3_joinsInto_1 24 rfl rfl
theorem dksX3_joinsInto_3 : cX3_joinsInto.data.toList.drop 72 = dktX3_joinsInto_3 := dk_seg dksX3_joinsInto_2 24 rfl rfl
theorem dksX3_joinsInto_4 : cX3_joinsInto.data.toList.drop 95 = dktX3_joinsInto_4 := dk_seg dksX3_joinsInto_3 23 rfl rfl
theorem dksX3_joinsInto_5 : cX3_joinsInto.data.toList.drop 119 = dktX3_joinsInto_5 := dk_seg dksX3_joinsInto_4 24 rfl rfl
theorem dksX3_joinsInto_6 : cX3_joinsInto.data.toList.drop 143 = dktX3_joinsInto_6 := dk_seg dksX3_joinsInto_5 24 rfl rfl
theorem dksX3_joinsInto_7 : cX3_joinsInto.data.toList.drop 165 = dktX3_joinsInto_7 := dk_seg dksX3_joinsInto_6 22 rfl rfl
theorem dksX3_joinsInto_8 : cX3_joinsInto.data.toList.drop 188 = dktX3_joinsInto_8 := dk_seg dksX3_joinsInto_7 23 rfl rfl
theorem dksX3_joinsInto_9 : cX3_joinsInto.data.toList.drop 210 = dktX3_joinsInto_9 := dk_seg dksX3_joinsInto_8 22 rfl rfl
theorem dX3_joinsInto_0 : decode cX3_joinsInto 0 = .ok (.aload_n 0, 1) := dk_42 (dk_at dksX3_joinsInto_0 0 rfl rfl)
theorem dX3_joinsInto_1 : decode cX3_joinsInto 1 = .ok (.iload_n 2, 1) := dk_28 (dk_at dksX3_joinsInto_0 1 rfl rfl)
theorem dX3_joinsInto_2 : decode cX3_joinsInto 2 = .ok (.bipush 7, 2) := dk_16 7 (dk_at dksX3_joinsInto_0 2 rfl rfl)
theorem dX3_joinsInto_4 : decode cX3_joinsInto 4 = .ok (.invokevirtual 170, 3) := dk_182 0 170 (dk_at dksX3_joinsInto_0 4 rfl rfl)
theorem dX3_joinsInto_7 : decode cX3_joinsInto 7 = .ok (.aload_n 0, 1) := dk_42 (dk_at dksX3_joinsInto_0 7 rfl rfl)
theorem dX3_joinsInto_8 : decode cX3_joinsInto 8 = .ok (.getfield 7, 3) := dk_180 0 7 (dk_at dksX3_joinsInto_0 8 rfl rfl)
theorem dX3_joinsInto_11 : decode cX3_joinsInto 11 = .ok (.iload_n 1, 1) := dk_27 (dk_at dksX3_joinsInto_0 11 rfl rfl)
theorem dX3_joinsInto_12 : decode cX3_joinsInto 12 = .ok (.iaload, 1) := dk_46 (dk_at dksX3_joinsInto_0 12 rfl rfl)
theorem dX3_joinsInto_13 : decode cX3_joinsInto 13 = .ok (.aload_n 0, 1) := dk_42 (dk_at dksX3_joinsInto_0 13 rfl rfl)
theorem dX3_joinsInto_14 : decode cX3_joinsInto 14 = .ok (.getfield 7, 3) := dk_180 0 7 (dk_at dksX3_joinsInto_0 14 rfl rfl)
theorem dX3_joinsInto_17 : decode cX3_joinsInto 17 = .ok (.bipush 7, 2) := dk_16 7 (dk_at dksX3_joinsInto_0 17 rfl rfl)
theorem dX3_joinsInto_19 : decode cX3_joinsInto 19 = .ok (.iaload, 1) := dk_46 (dk_at dksX3_joinsInto_0 19 rfl rfl)
theorem dX3_joinsInto_20 : decode cX3_joinsInto 20 = .ok (.invokestatic 173, 3) := dk_184 0 173 (dk_at dksX3_joinsInto_0 20 rfl rfl)
theorem dX3_joinsInto_23 : decode cX3_joinsInto 23 = .ok (.istore_n 3, 1) := dk_62 (dk_at dksX3_joinsInto_0 23 rfl rfl)
theorem dX3_joinsInto_24 : decode cX3_joinsInto 24 = .ok (.aload_n 0, 1) := dk_42 (dk_at dksX3_joinsInto_1 0 rfl rfl)
theorem dX3_joinsInto_25 : decode cX3_joinsInto 25 = .ok (.getfield 13, 3) := dk_180 0 13 (dk_at dksX3_joinsInto_1 1 rfl rfl)
theorem dX3_joinsInto_28 : decode cX3_joinsInto 28 = .ok (.iload_n 1, 1) := dk_27 (dk_at dksX3_joinsInto_1 4 rfl rfl)
theorem dX3_joinsInto_29 : decode cX3_joinsInto 29 = .ok (.aload_n 0, 1) := dk_42 (dk_at dksX3_joinsInto_1 5 rfl rfl)
theorem dX3_joinsInto_30 : decode cX3_joinsInto 30 = .ok (.getfield 13, 3) := dk_180 0 13 (dk_at dksX3_joinsInto_1 6 rfl rfl)
theorem dX3_joinsInto_33 : decode cX3_joinsInto 33 = .ok (.iload_n 1, 1) := dk_27 (dk_at dksX3_joinsInto_1 9 rfl rfl)
theorem dX3_joinsInto_34 : decode cX3_joinsInto 34 = .ok (.iaload, 1) := dk_46 (dk_at dksX3_joinsInto_1 10 rfl rfl)
theorem dX3_joinsInto_35 : decode cX3_joinsInto 35 = .ok (.aload_n 0, 1) := dk_42 (dk_at dksX3_joinsInto_1 11 rfl rfl)
theorem dX3_joinsInto_36 : decode cX3_joinsInto 36 = .ok (.getfield 13, 3) := dk_180 0 13 (dk_at dksX3_joinsInto_1 12 rfl rfl)
theorem dX3_joinsInto_39 : decode cX3_joinsInto 39 = .ok (.bipush 7, 2) := dk_16 7 (dk_at dksX3_joinsInto_1 15 rfl rfl)
theorem dX3_joinsInto_41 : decode cX3_joinsInto 41 = .ok (.iaload, 1) := dk_46 (dk_at dksX3_joinsInto_1 17 rfl rfl)
theorem dX3_joinsInto_42 : decode cX3_joinsInto 42 = .ok (.invokestatic 173, 3) := dk_184 0 173 (dk_at dksX3_joinsInto_1 18 rfl rfl)
theorem dX3_joinsInto_45 : decode cX3_joinsInto 45 = .ok (.iastore, 1) := dk_79 (dk_at dksX3_joinsInto_1 21 rfl rfl)
theorem dX3_joinsInto_46 : decode cX3_joinsInto 46 = .ok (.aload_n 0, 1) := dk_42 (dk_at dksX3_joinsInto_1 22 rfl rfl)
theorem dX3_joinsInto_47 : decode cX3_joinsInto 47 = .ok (.iload_n 1, 1) := dk_27 (dk_at dksX3_joinsInto_1 23 rfl rfl)
theorem dX3_joinsInto_48 : decode cX3_joinsInto 48 = .ok (.iload_n 3, 1) := dk_29 (dk_at dksX3_joinsInto_2 0 rfl rfl)
theorem dX3_joinsInto_49 : decode cX3_joinsInto 49 = .ok (.invokevirtual 166, 3) := dk_182 0 166 (dk_at dksX3_joinsInto_2 1 rfl rfl)
theorem dX3_joinsInto_52 : decode cX3_joinsInto 52 = .ok (.aload_n 0, 1) := dk_42 (dk_at dksX3_joinsInto_2 4 rfl rfl)
theorem dX3_joinsInto_53 : decode cX3_joinsInto 53 = .ok (.bipush 7, 2) := dk_16 7 (dk_at dksX3_joinsInto_2 5 rfl rfl)
theorem dX3_joinsInto_55 : decode cX3_joinsInto 55 = .ok (.iload_n 3, 1) := dk_29 (dk_at dksX3_joinsInto_2 7 rfl rfl)
theorem dX3_joinsInto_56 : decode cX3_joinsInto 56 = .ok (.invokevirtual 166, 3) := dk_182 0 166 (dk_at dksX3_joinsInto_2 8 rfl rfl)
theorem dX3_joinsInto_59 : decode cX3_joinsInto 59 = .ok (.aload_n 0, 1) := dk_42 (dk_at dksX3_joinsInto_2 11 rfl rfl)
theorem dX3_joinsInto_60 : decode cX3_joinsInto 60 = .ok (.getfield 16, 3) := dk_180 0 16 (dk_at dksX3_joinsInto_2 12 rfl rfl)
theorem dX3_joinsInto_63 : decode cX3_joinsInto 63 = .ok (.iload_n 1, 1) := dk_27 (dk_at dksX3_joinsInto_2 15 rfl rfl)
theorem dX3_joinsInto_64 : decode cX3_joinsInto 64 = .ok (.baload, 1) := dk_51 (dk_at dksX3_joinsInto_2 16 rfl rfl)
theorem dX3_joinsInto_65 : decode cX3_joinsInto 65 = .ok (.ifCond .ne 13, 3) := dk_154 0 13 (dk_at dksX3_joinsInto_2 17 rfl rfl)
theorem dX3_joinsInto_68 : decode cX3_joinsInto 68 = .ok (.aload_n 0, 1) := dk_42 (dk_at dksX3_joinsInto_2 20 rfl rfl)
theorem dX3_joinsInto_69 : decode cX3_joinsInto 69 = .ok (.getfield 16, 3) := dk_180 0 16 (dk_at dksX3_joinsInto_2 21 rfl rfl)
theorem dX3_joinsInto_72 : decode cX3_joinsInto 72 = .ok (.bipush 7, 2) := dk_16 7 (dk_at dksX3_joinsInto_3 0 rfl rfl)
theorem dX3_joinsInto_74 : decode cX3_joinsInto 74 = .ok (.baload, 1) := dk_51 (dk_at dksX3_joinsInto_3 2 rfl rfl)
theorem dX3_joinsInto_75 : decode cX3_joinsInto 75 = .ok (.ifCond .eq 8, 3) := dk_153 0 8 (dk_at dksX3_joinsInto_3 3 rfl rfl)
theorem dX3_joinsInto_78 : decode cX3_joinsInto 78 = .ok (.aload_n 0, 1) := dk_42 (dk_at dksX3_joinsInto_3 6 rfl rfl)
theorem dX3_joinsInto_79 : decode cX3_joinsInto 79 = .ok (.iload_n 1, 1) := dk_27 (dk_at dksX3_joinsInto_3 7 rfl rfl)
theorem dX3_joinsInto_80 : decode cX3_joinsInto 80 = .ok (.invokevirtual 107, 3) := dk_182 0 107 (dk_at dksX3_joinsInto_3 8 rfl rfl)
theorem dX3_joinsInto_83 : decode cX3_joinsInto 83 = .ok (.iconst 0, 1) := dk_3 (dk_at dksX3_joinsInto_3 11 rfl rfl)
theorem dX3_joinsInto_84 : decode cX3_joinsInto 84 = .ok (.istore 4, 2) := dk_54 4 (dk_at dksX3_joinsInto_3 12 rfl rfl)
theorem dX3_joinsInto_86 : decode cX3_joinsInto 86 = .ok (.iload 4, 2) := dk_21 4 (dk_at dksX3_joinsInto_3 14 rfl rfl)
theorem dX3_joinsInto_88 : decode cX3_joinsInto 88 = .ok (.iconst 1, 1) := dk_4 (dk_at dksX3_joinsInto_3 16 rfl rfl)
theorem dX3_joinsInto_89 : decode cX3_joinsInto 89 = .ok (.iload_n 3, 1) := dk_29 (dk_at dksX3_joinsInto_3 17 rfl rfl)
theorem dX3_joinsInto_90 : decode cX3_joinsInto 90 = .ok (.ishl, 1) := dk_120 (dk_at dksX3_joinsInto_3 18 rfl rfl)
theorem dX3_joinsInto_91 : decode cX3_joinsInto 91 = .ok (.if_icmp .ge 46, 3) := dk_162 0 46 (dk_at dksX3_joinsInto_3 19 rfl rfl)
theorem dX3_joinsInto_94 : decode cX3_joinsInto 94 = .ok (.aload_n 0, 1) := dk_42 (dk_at dksX3_joinsInto_3 22 rfl rfl)
theorem dX3_joinsInto_95 : decode cX3_joinsInto 95 = .ok (.getfield 27, 3) := dk_180 0 27 (dk_at dksX3_joinsInto_4 0 rfl rfl)
theorem dX3_joinsInto_98 : decode cX3_joinsInto 98 = .ok (.iload_n 1, 1) := dk_27 (dk_at dksX3_joinsInto_4 3 rfl rfl)
theorem dX3_joinsInto_99 : decode cX3_joinsInto 99 = .ok (.iload 4, 2) := dk_21 4 (dk_at dksX3_joinsInto_4 4 rfl rfl)
theorem dX3_joinsInto_101 : decode cX3_joinsInto 101 = .ok (.invokestatic 92, 3) := dk_184 0 92 (dk_at dksX3_joinsInto_4 6 rfl rfl)
theorem dX3_joinsInto_104 : decode cX3_joinsInto 104 = .ok (.aload_n 0, 1) := dk_42 (dk_at dksX3_joinsInto_4 9 rfl rfl)
theorem dX3_joinsInto_105 : decode cX3_joinsInto 105 = .ok (.getfield 27, 3) := dk_180 0 27 (dk_at dksX3_joinsInto_4 10 rfl rfl)
theorem dX3_joinsInto_108 : decode cX3_joinsInto 108 = .ok (.iload_n 1, 1) := dk_27 (dk_at dksX3_joinsInto_4 13 rfl rfl)
theorem dX3_joinsInto_109 : decode cX3_joinsInto 109 = .ok (.iload 4, 2) := dk_21 4 (dk_at dksX3_joinsInto_4 14 rfl rfl)
theorem dX3_joinsInto_111 : decode cX3_joinsInto 111 = .ok (.invokestatic 92, 3) := dk_184 0 92 (dk_at dksX3_joinsInto_4 16 rfl rfl)
theorem dX3_joinsInto_114 : decode cX3_joinsInto 114 = .ok (.iaload, 1) := dk_46 (dk_at dksX3_joinsInto_4 19 rfl rfl)
theorem dX3_joinsInto_115 : decode cX3_joinsInto 115 = .ok (.aload_n 0, 1) := dk_42 (dk_at dksX3_joinsInto_4 20 rfl rfl)
theorem dX3_joinsInto_116 : decode cX3_joinsInto 116 = .ok (.getfield 27, 3) := dk_180 0 27 (dk_at dksX3_joinsInto_4 21 rfl rfl)
theorem dX3_joinsInto_119 : decode cX3_joinsInto 119 = .ok (.bipush 7, 2) := dk_16 7 (dk_at dksX3_joinsInto_5 0 rfl rfl)
theorem dX3_joinsInto_121 : decode cX3_joinsInto 121 = .ok (.iload 4, 2) := dk_21 4 (dk_at dksX3_joinsInto_5 2 rfl rfl)
theorem dX3_joinsInto_123 : decode cX3_joinsInto 123 = .ok (.invokestatic 92, 3) := dk_184 0 92 (dk_at dksX3_joinsInto_5 4 rfl rfl)
theorem dX3_joinsInto_126 : decode cX3_joinsInto 126 = .ok (.iaload, 1) := dk_46 (dk_at dksX3_joinsInto_5 7 rfl rfl)
theorem dX3_joinsInto_127 : decode cX3_joinsInto 127 = .ok (.invokestatic 161, 3) := dk_184 0 161 (dk_at dksX3_joinsInto_5 8 rfl rfl)
theorem dX3_joinsInto_130 : decode cX3_joinsInto 130 = .ok (.iastore, 1) := dk_79 (dk_at dksX3_joinsInto_5 11 rfl rfl)
theorem dX3_joinsInto_131 : decode cX3_joinsInto 131 = .ok (.iinc 4 1, 3) := dk_132 4 1 (dk_at dksX3_joinsInto_5 12 rfl rfl)
theorem dX3_joinsInto_134 : decode cX3_joinsInto 134 = .ok (.goto (-48), 3) := dk_167 255 208 (dk_at dksX3_joinsInto_5 15 rfl rfl)
theorem dX3_joinsInto_137 : decode cX3_joinsInto 137 = .ok (.iconst 0, 1) := dk_3 (dk_at dksX3_joinsInto_5 18 rfl rfl)
theorem dX3_joinsInto_138 : decode cX3_joinsInto 138 = .ok (.istore 4, 2) := dk_54 4 (dk_at dksX3_joinsInto_5 19 rfl rfl)
theorem dX3_joinsInto_140 : decode cX3_joinsInto 140 = .ok (.iload 4, 2) := dk_21 4 (dk_at dksX3_joinsInto_5 21 rfl rfl)
theorem dX3_joinsInto_142 : decode cX3_joinsInto 142 = .ok (.aload_n 0, 1) := dk_42 (dk_at dksX3_joinsInto_5 23 rfl rfl)
theorem dX3_joinsInto_143 : decode cX3_joinsInto 143 = .ok (.getfield 24, 3) := dk_180 0 24 (dk_at dksX3_joinsInto_6 0 rfl rfl)
theorem dX3_joinsInto_146 : decode cX3_joinsInto 146 = .ok (.bipush 7, 2) := dk_16 7 (dk_at dksX3_joinsInto_6 3 rfl rfl)
theorem dX3_joinsInto_148 : decode cX3_joinsInto 148 = .ok (.iaload, 1) := dk_46 (dk_at dksX3_joinsInto_6 5 rfl rfl)
theorem dX3_joinsInto_149 : decode cX3_joinsInto 149 = .ok (.if_icmp .ge 70, 3) := dk_162 0 70 (dk_at dksX3_joinsInto_6 6 rfl rfl)
theorem dX3_joinsInto_152 : decode cX3_joinsInto 152 = .ok (.aload_n 0, 1) := dk_42 (dk_at dksX3_joinsInto_6 9 rfl rfl)
theorem dX3_joinsInto_153 : decode cX3_joinsInto 153 = .ok (.getfield 16, 3) := dk_180 0 16 (dk_at dksX3_joinsInto_6 10 rfl rfl)
theorem dX3_joinsInto_156 : decode cX3_joinsInto 156 = .ok (.iload_n 1, 1) := dk_27 (dk_at dksX3_joinsInto_6 13 rfl rfl)
theorem dX3_joinsInto_157 : decode cX3_joinsInto 157 = .ok (.baload, 1) := dk_51 (dk_at dksX3_joinsInto_6 14 rfl rfl)
theorem dX3_joinsInto_158 : decode cX3_joinsInto 158 = .ok (.ifCond .ne 61, 3) := dk_154 0 61 (dk_at dksX3_joinsInto_6 15 rfl rfl)
theorem dX3_joinsInto_161 : decode cX3_joinsInto 161 = .ok (.aload_n 0, 1) := dk_42 (dk_at dksX3_joinsInto_6 18 rfl rfl)
theorem dX3_joinsInto_162 : decode cX3_joinsInto 162 = .ok (.getfield 20, 3) := dk_180 0 20 (dk_at dksX3_joinsInto_6 19 rfl rfl)
theorem dX3_joinsInto_165 : decode cX3_joinsInto 165 = .ok (.sipush 448, 3) := dk_17 1 192 (dk_at dksX3_joinsInto_7 0 rfl rfl)
theorem dX3_joinsInto_168 : decode cX3_joinsInto 168 = .ok (.iload 4, 2) := dk_21 4 (dk_at dksX3_joinsInto_7 3 rfl rfl)
theorem dX3_joinsInto_170 : decode cX3_joinsInto 170 = .ok (.iadd, 1) := dk_96 (dk_at dksX3_joinsInto_7 5 rfl rfl)
theorem dX3_joinsInto_171 : decode cX3_joinsInto 171 = .ok (.laload, 1) := dk_47 (dk_at dksX3_joinsInto_7 6 rfl rfl)
theorem dX3_joinsInto_172 : decode cX3_joinsInto 172 = .ok (.lstore 5, 2) := dk_55 5 (dk_at dksX3_joinsInto_7 7 rfl rfl)
theorem dX3_joinsInto_174 : decode cX3_joinsInto 174 = .ok (.aload_n 0, 1) := dk_42 (dk_at dksX3_joinsInto_7 9 rfl rfl)
theorem dX3_joinsInto_175 : decode cX3_joinsInto 175 = .ok (.iload_n 1, 1) := dk_27 (dk_at dksX3_joinsInto_7 10 rfl rfl)
theorem dX3_joinsInto_176 : decode cX3_joinsInto 176 = .ok (.lload 5, 2) := dk_22 5 (dk_at dksX3_joinsInto_7 11 rfl rfl)
theorem dX3_joinsInto_178 : decode cX3_joinsInto 178 = .ok (.invokevirtual 100, 3) := dk_182 0 100 (dk_at dksX3_joinsInto_7 13 rfl rfl)
theorem dX3_joinsInto_181 : decode cX3_joinsInto 181 = .ok (.ifCond .eq 6, 3) := dk_153 0 6 (dk_at dksX3_joinsInto_7 16 rfl rfl)
theorem dX3_joinsInto_184 : decode cX3_joinsInto 184 = .ok (.goto 29, 3) := dk_167 0 29 (dk_at dksX3_joinsInto_7 19 rfl rfl)
theorem dX3_joinsInto_187 : decode cX3_joinsInto 187 = .ok (.aload_n 0, 1) := dk_42 (dk_at dksX3_joinsInto_7 22 rfl rfl)
theorem dX3_joinsInto_188 : decode cX3_joinsInto 188 = .ok (.getfield 24, 3) := dk_180 0 24 (dk_at dksX3_joinsInto_8 0 rfl rfl)
theorem dX3_joinsInto_191 : decode cX3_joinsInto 191 = .ok (.iload_n 1, 1) := dk_27 (dk_at dksX3_joinsInto_8 3 rfl rfl)
theorem dX3_joinsInto_192 : decode cX3_joinsInto 192 = .ok (.iaload, 1) := dk_46 (dk_at dksX3_joinsInto_8 4 rfl rfl)
theorem dX3_joinsInto_193 : decode cX3_joinsInto 193 = .ok (.bipush 64, 2) := dk_16 64 (dk_at dksX3_joinsInto_8 5 rfl rfl)
theorem dX3_joinsInto_195 : decode cX3_joinsInto 195 = .ok (.if_icmp .ne 11, 3) := dk_160 0 11 (dk_at dksX3_joinsInto_8 7 rfl rfl)
theorem dX3_joinsInto_198 : decode cX3_joinsInto 198 = .ok (.aload_n 0, 1) := dk_42 (dk_at dksX3_joinsInto_8 10 rfl rfl)
theorem dX3_joinsInto_199 : decode cX3_joinsInto 199 = .ok (.iload_n 1, 1) := dk_27 (dk_at dksX3_joinsInto_8 11 rfl rfl)
theorem dX3_joinsInto_200 : decode cX3_joinsInto 200 = .ok (.invokevirtual 107, 3) := dk_182 0 107 (dk_at dksX3_joinsInto_8 12 rfl rfl)
theorem dX3_joinsInto_203 : decode cX3_joinsInto 203 = .ok (.goto 10, 3) := dk_167 0 10 (dk_at dksX3_joinsInto_8 15 rfl rfl)
theorem dX3_joinsInto_206 : decode cX3_joinsInto 206 = .ok (.aload_n 0, 1) := dk_42 (dk_at dksX3_joinsInto_8 18 rfl rfl)
theorem dX3_joinsInto_207 : decode cX3_joinsInto 207 = .ok (.iload_n 1, 1) := dk_27 (dk_at dksX3_joinsInto_8 19 rfl rfl)
theorem dX3_joinsInto_208 : decode cX3_joinsInto 208 = .ok (.lload 5, 2) := dk_22 5 (dk_at dksX3_joinsInto_8 20 rfl rfl)
theorem dX3_joinsInto_210 : decode cX3_joinsInto 210 = .ok (.invokevirtual 103, 3) := dk_182 0 103 (dk_at dksX3_joinsInto_9 0 rfl rfl)
theorem dX3_joinsInto_213 : decode cX3_joinsInto 213 = .ok (.iinc 4 1, 3) := dk_132 4 1 (dk_at dksX3_joinsInto_9 3 rfl rfl)
theorem dX3_joinsInto_216 : decode cX3_joinsInto 216 = .ok (.goto (-76), 3) := dk_167 255 180 (dk_at dksX3_joinsInto_9 6 rfl rfl)
theorem dX3_joinsInto_219 : decode cX3_joinsInto 219 = .ok (.return_, 1) := dk_177 (dk_at dksX3_joinsInto_9 9 rfl rfl)
abbrev cX3_gathers : ByteArray := prog_10_method_55_code
def yX3_gathers : MethodName := ⟨RX3, "gathers", "(II)I"⟩
def dkwX3_gathers_1 : List UInt8 := [182, 0, 208, 42, 16, 6, 28, 182, 0, 170, 42, 28, 182, 0, 211, 172]
abbrev dktX3_gathers_1 : List UInt8 := dkwX3_gathers_1 ++ []
def dkwX3_gathers_0 : List UInt8 := [42, 3, 181, 0, 51, 27, 184, 0, 217, 153, 0, 10, 28, 184, 0, 111, 154, 0, 5, 2, 172, 42, 27]
abbrev dktX3_gathers_0 : List UInt8 := dkwX3_gathers_0 ++ dktX3_gathers_1
theorem dksX3_gathers_0 : cX3_gathers.data.toList.drop 0 = dktX3_gathers_0 := by decide +kernel
theorem dksX3_gathers_1 : cX3_gathers.data.toList.drop 23 = dktX3_gathers_1 := dk_seg dksX3_gathers_0 23 rfl rfl
theorem dX3_gathers_0 : decode cX3_gathers 0 = .ok (.aload_n 0, 1) := dk_42 (dk_at dksX3_gathers_0 0 rfl rfl)
theorem dX3_gathers_1 : decode cX3_gathers 1 = .ok (.iconst 0, 1) := dk_3 (dk_at dksX3_gathers_0 1 rfl rfl)
theorem dX3_gathers_2 : decode cX3_gathers 2 = .ok (.putfield 51, 3) := dk_181 0 51 (dk_at dksX3_gathers_0 2 rfl rfl)
theorem dX3_gathers_5 : decode cX3_gathers 5 = .ok (.iload_n 1, 1) := dk_27 (dk_at dksX3_gathers_0 5 rfl rfl)
theorem dX3_gathers_6 : decode cX3_gathers 6 = .ok (.invokestatic 217, 3) := dk_184 0 217 (dk_at dksX3_gathers_0 6 rfl rfl)
theorem dX3_gathers_9 : decode cX3_gathers 9 = .ok (.ifCond .eq 10, 3) := dk_153 0 10 (dk_at dksX3_gathers_0 9 rfl rfl)
theorem dX3_gathers_12 : decode cX3_gathers 12 = .ok (.iload_n 2, 1) := dk_28 (dk_at dksX3_gathers_0 12 rfl rfl)
theorem dX3_gathers_13 : decode cX3_gathers 13 = .ok (.invokestatic 111, 3) := dk_184 0 111 (dk_at dksX3_gathers_0 13 rfl rfl)
theorem dX3_gathers_16 : decode cX3_gathers 16 = .ok (.ifCond .ne 5, 3) := dk_154 0 5 (dk_at dksX3_gathers_0 16 rfl rfl)
theorem dX3_gathers_19 : decode cX3_gathers 19 = .ok (.iconst (-1), 1) := dk_2 (dk_at dksX3_gathers_0 19 rfl rfl)
theorem dX3_gathers_20 : decode cX3_gathers 20 = .ok (.ireturn, 1) := dk_172 (dk_at dksX3_gathers_0 20 rfl rfl)
theorem dX3_gathers_21 : decode cX3_gathers 21 = .ok (.aload_n 0, 1) := dk_42 (dk_at dksX3_gathers_0 21 rfl rfl)
theorem dX3_gathers_22 : decode cX3_gathers 22 = .ok (.iload_n 1, 1) := dk_27 (dk_at dksX3_gathers_0 22 rfl rfl)
theorem dX3_gathers_23 : decode cX3_gathers 23 = .ok (.invokevirtual 208, 3) := dk_182 0 208 (dk_at dksX3_gathers_1 0 rfl rfl)
theorem dX3_gathers_26 : decode cX3_gathers 26 = .ok (.aload_n 0, 1) := dk_42 (dk_at dksX3_gathers_1 3 rfl rfl)
theorem dX3_gathers_27 : decode cX3_gathers 27 = .ok (.bipush 6, 2) := dk_16 6 (dk_at dksX3_gathers_1 4 rfl rfl)
theorem dX3_gathers_29 : decode cX3_gathers 29 = .ok (.iload_n 2, 1) := dk_28 (dk_at dksX3_gathers_1 6 rfl rfl)
theorem dX3_gathers_30 : decode cX3_gathers 30 = .ok (.invokevirtual 170, 3) := dk_182 0 170 (dk_at dksX3_gathers_1 7 rfl rfl)
theorem dX3_gathers_33 : decode cX3_gathers 33 = .ok (.aload_n 0, 1) := dk_42 (dk_at dksX3_gathers_1 10 rfl rfl)
theorem dX3_gathers_34 : decode cX3_gathers 34 = .ok (.iload_n 2, 1) := dk_28 (dk_at dksX3_gathers_1 11 rfl rfl)
theorem dX3_gathers_35 : decode cX3_gathers 35 = .ok (.invokevirtual 211, 3) := dk_182 0 211 (dk_at dksX3_gathers_1 12 rfl rfl)
theorem dX3_gathers_38 : decode cX3_gathers 38 = .ok (.ireturn, 1) := dk_172 (dk_at dksX3_gathers_1 15 rfl rfl)
abbrev cX3_isSet : ByteArray := prog_10_method_15_code
def yX3_isSet : MethodName := ⟨RX3, "isSet", "(I)Z"⟩
def dkwX3_isSet_0 : List UInt8 := [26, 133, 10, 20, 0, 90, 184, 0, 60, 172]
abbrev dktX3_isSet_0 : List UInt8 := dkwX3_isSet_0 ++ []
theorem dksX3_isSet_0 : cX3_isSet.data.toList.drop 0 = dktX3_isSet_0 := by decide +kernel
theorem dX3_isSet_0 : decode cX3_isSet 0 = .ok (.iload_n 0, 1) := dk_26 (dk_at dksX3_isSet_0 0 rfl rfl)
theorem dX3_isSet_1 : decode cX3_isSet 1 = .ok (.i2l, 1) := dk_133 (dk_at dksX3_isSet_0 1 rfl rfl)
theorem dX3_isSet_2 : decode cX3_isSet 2 = .ok (.lconst 1, 1) := dk_10 (dk_at dksX3_isSet_0 2 rfl rfl)
theorem dX3_isSet_3 : decode cX3_isSet 3 = .ok (.ldc2_w 90, 3) := dk_20 0 90 (dk_at dksX3_isSet_0 3 rfl rfl)
theorem dX3_isSet_6 : decode cX3_isSet 6 = .ok (.invokestatic 60, 3) := dk_184 0 60 (dk_at dksX3_isSet_0 6 rfl rfl)
theorem dX3_isSet_9 : decode cX3_isSet 9 = .ok (.ireturn, 1) := dk_172 (dk_at dksX3_isSet_0 9 rfl rfl)
abbrev cX3_joinsSet : ByteArray := prog_10_method_42_code
def yX3_joinsSet : MethodName := ⟨RX3, "joinsSet", "(I)V"⟩
def dkwX3_joinsSet_5 : List UInt8 := [164, 0, 9, 42, 16, 6, 182, 0, 107, 132, 4, 1, 167, 255, 174, 177]
abbrev dktX3_joinsSet_5 : List UInt8 := dkwX3_joinsSet_5 ++ []
def dkwX3_joinsSet_4 : List UInt8 := [126, 153, 0, 30, 42, 180, 0, 16, 16, 6, 51, 154, 0, 20, 42, 180, 0, 24, 16, 6, 46, 29]
abbrev dktX3_joinsSet_4 : List UInt8 := dkwX3_joinsSet_4 ++ dktX3_joinsSet_5
def dkwX3_joinsSet_3 : List UInt8 := [21, 4, 16, 6, 182, 0, 170, 167, 0, 11, 42, 16, 6, 21, 4, 182, 0, 176, 3, 61, 27, 27, 4, 100]
abbrev dktX3_joinsSet_3 : List UInt8 := dkwX3_joinsSet_3 ++ dktX3_joinsSet_4
def dkwX3_joinsSet_2 : List UInt8 := [21, 4, 16, 6, 162, 0, 81, 27, 21, 4, 122, 4, 126, 154, 0, 6, 167, 0, 63, 28, 153, 0, 14, 42]
abbrev dktX3_joinsSet_2 : List UInt8 := dkwX3_joinsSet_2 ++ dktX3_joinsSet_3
def dkwX3_joinsSet_1 : List UInt8 := [160, 0, 15, 29, 42, 180, 0, 13, 21, 4, 46, 184, 0, 173, 62, 132, 4, 1, 167, 255, 224, 3, 54, 4]
abbrev dktX3_joinsSet_1 : List UInt8 := dkwX3_joinsSet_1 ++ dktX3_joinsSet_2
def dkwX3_joinsSet_0 : List UInt8 := [4, 61, 16, 48, 62, 3, 54, 4, 21, 4, 16, 6, 162, 0, 31, 27, 21, 4, 122, 4, 126, 4]
abbrev dktX3_joinsSet_0 : List UInt8 := dkwX3_joinsSet_0 ++ dktX3_joinsSet_1
theorem dksX3_joinsSet_0 : cX3_joinsSet.data.toList.drop 0 = dktX3_joinsSet_0 := by decide +kernel
theorem dksX3_joinsSet_1 : cX3_joinsSet.data.toList.drop 22 = dktX3_joinsSet_1 := dk_seg dksX3_joinsSet_0 22 rfl rfl
theorem dksX3_joinsSet_2 : cX3_joinsSet.data.toList.drop 46 = dktX3_joinsSet_2 := dk_seg dksX3_joinsSet_1 24 rfl rfl
theorem dksX3_joinsSet_3 : cX3_joinsSet.data.toList.drop 70 = dktX3_joinsSet_3 := dk_seg dksX3_joinsSet_2 24 rfl rfl
theorem dksX3_joinsSet_4 : cX3_joinsSet.data.toList.drop 94 = dktX3_joinsSet_4 := dk_seg dksX3_joinsSet_3 24 rfl rfl
theorem dksX3_joinsSet_5 : cX3_joinsSet.data.toList.drop 116 = dktX3_joinsSet_5 := dk_seg dksX3_joinsSet_4 22 rfl rfl
theorem dX3_joinsSet_0 : decode cX3_joinsSet 0 = .ok (.iconst 1, 1) := dk_4 (dk_at dksX3_joinsSet_0 0 rfl rfl)
theorem dX3_joinsSet_1 : decode cX3_joinsSet 1 = .ok (.istore_n 2, 1) := dk_61 (dk_at dksX3_joinsSet_0 1 rfl rfl)
theorem dX3_joinsSet_2 : decode cX3_joinsSet 2 = .ok (.bipush 48, 2) := dk_16 48 (dk_at dksX3_joinsSet_0 2 rfl rfl)
theorem dX3_joinsSet_4 : decode cX3_joinsSet 4 = .ok (.istore_n 3, 1) := dk_62 (dk_at dksX3_joinsSet_0 4 rfl rfl)
theorem dX3_joinsSet_5 : decode cX3_joinsSet 5 = .ok (.iconst 0, 1) := dk_3 (dk_at dksX3_joinsSet_0 5 rfl rfl)
theorem dX3_joinsSet_6 : decode cX3_joinsSet 6 = .ok (.istore 4, 2) := dk_54 4 (dk_at dksX3_joinsSet_0 6 rfl rfl)
theorem dX3_joinsSet_8 : decode cX3_joinsSet 8 = .ok (.iload 4, 2) := dk_21 4 (dk_at dksX3_joinsSet_0 8 rfl rfl)
theorem dX3_joinsSet_10 : decode cX3_joinsSet 10 = .ok (.bipush 6, 2) := dk_16 6 (dk_at dksX3_joinsSet_0 10 rfl rfl)
theorem dX3_joinsSet_12 : decode cX3_joinsSet 12 = .ok (.if_icmp .ge 31, 3) := dk_162 0 31 (dk_at dksX3_joinsSet_0 12 rfl rfl)
theorem dX3_joinsSet_15 : decode cX3_joinsSet 15 = .ok (.iload_n 1, 1) := dk_27 (dk_at dksX3_joinsSet_0 15 rfl rfl)
theorem dX3_joinsSet_16 : decode cX3_joinsSet 16 = .ok (.iload 4, 2) := dk_21 4 (dk_at dksX3_joinsSet_0 16 rfl rfl)
theorem dX3_joinsSet_18 : decode cX3_joinsSet 18 = .ok (.ishr, 1) := dk_122 (dk_at dksX3_joinsSet_0 18 rfl rfl)
theorem dX3_joinsSet_19 : decode cX3_joinsSet 19 = .ok (.iconst 1, 1) := dk_4 (dk_at dksX3_joinsSet_0 19 rfl rfl)
theorem dX3_joinsSet_20 : decode cX3_joinsSet 20 = .ok (.iand, 1) := dk_126 (dk_at dksX3_joinsSet_0 20 rfl rfl)
theorem dX3_joinsSet_21 : decode cX3_joinsSet 21 = .ok (.iconst 1, 1) := dk_4 (dk_at dksX3_joinsSet_0 21 rfl rfl)
theorem dX3_joinsSet_22 : decode cX3_joinsSet 22 = .ok (.if_icmp .ne 15, 3) := dk_160 0 15 (dk_at dksX3_joinsSet_1 0 rfl rfl)
theorem dX3_joinsSet_25 : decode cX3_joinsSet 25 = .ok (.iload_n 3, 1) := dk_29 (dk_at dksX3_joinsSet_1 3 rfl rfl)
theorem dX3_joinsSet_26 : decode cX3_joinsSet 26 = .ok (.aload_n 0, 1) := dk_42 (dk_at dksX3_joinsSet_1 4 rfl rfl)
theorem dX3_joinsSet_27 : decode cX3_joinsSet 27 = .ok (.getfield 13, 3) := dk_180 0 13 (dk_at dksX3_joinsSet_1 5 rfl rfl)
theorem dX3_joinsSet_30 : decode cX3_joinsSet 30 = .ok (.iload 4, 2) := dk_21 4 (dk_at dksX3_joinsSet_1 8 rfl rfl)
theorem dX3_joinsSet_32 : decode cX3_joinsSet 32 = .ok (.iaload, 1) := dk_46 (dk_at dksX3_joinsSet_1 10 rfl rfl)
theorem dX3_joinsSet_33 : decode cX3_joinsSet 33 = .ok (.invokestatic 173, 3) := dk_184 0 173 (dk_at dksX3_joinsSet_1 11 rfl rfl)
theorem dX3_joinsSet_36 : decode cX3_joinsSet 36 = .ok (.istore_n 3, 1) := dk_62 (dk_at dksX3_joinsSet_1 14 rfl rfl)
theorem dX3_joinsSet_37 : decode cX3_joinsSet 37 = .ok (.iinc 4 1, 3) := dk_132 4 1 (dk_at dksX3_joinsSet_1 15 rfl rfl)
theorem dX3_joinsSet_40 : decode cX3_joinsSet 40 = .ok (.goto (-32), 3) := dk_167 255 224 (dk_at dksX3_joinsSet_1 18 rfl rfl)
theorem dX3_joinsSet_43 : decode cX3_joinsSet 43 = .ok (.iconst 0, 1) := dk_3 (dk_at dksX3_joinsSet_1 21 rfl rfl)
theorem dX3_joinsSet_44 : decode cX3_joinsSet 44 = .ok (.istore 4, 2) := dk_54 4 (dk_at dksX3_joinsSet_1 22 rfl rfl)
theorem dX3_joinsSet_46 : decode cX3_joinsSet 46 = .ok (.iload 4, 2) := dk_21 4 (dk_at dksX3_joinsSet_2 0 rfl rfl)
theorem dX3_joinsSet_48 : decode cX3_joinsSet 48 = .ok (.bipush 6, 2) := dk_16 6 (dk_at dksX3_joinsSet_2 2 rfl rfl)
theorem dX3_joinsSet_50 : decode cX3_joinsSet 50 = .ok (.if_icmp .ge 81, 3) := dk_162 0 81 (dk_at dksX3_joinsSet_2 4 rfl rfl)
theorem dX3_joinsSet_53 : decode cX3_joinsSet 53 = .ok (.iload_n 1, 1) := dk_27 (dk_at dksX3_joinsSet_2 7 rfl rfl)
theorem dX3_joinsSet_54 : decode cX3_joinsSet 54 = .ok (.iload 4, 2) := dk_21 4 (dk_at dksX3_joinsSet_2 8 rfl rfl)
theorem dX3_joinsSet_56 : decode cX3_joinsSet 56 = .ok (.ishr, 1) := dk_122 (dk_at dksX3_joinsSet_2 10 rfl rfl)
theorem dX3_joinsSet_57 : decode cX3_joinsSet 57 = .ok (.iconst 1, 1) := dk_4 (dk_at dksX3_joinsSet_2 11 rfl rfl)
theorem dX3_joinsSet_58 : decode cX3_joinsSet 58 = .ok (.iand, 1) := dk_126 (dk_at dksX3_joinsSet_2 12 rfl rfl)
theorem dX3_joinsSet_59 : decode cX3_joinsSet 59 = .ok (.ifCond .ne 6, 3) := dk_154 0 6 (dk_at dksX3_joinsSet_2 13 rfl rfl)
theorem dX3_joinsSet_62 : decode cX3_joinsSet 62 = .ok (.goto 63, 3) := dk_167 0 63 (dk_at dksX3_joinsSet_2 16 rfl rfl)
theorem dX3_joinsSet_65 : decode cX3_joinsSet 65 = .ok (.iload_n 2, 1) := dk_28 (dk_at dksX3_joinsSet_2 19 rfl rfl)
theorem dX3_joinsSet_66 : decode cX3_joinsSet 66 = .ok (.ifCond .eq 14, 3) := dk_153 0 14 (dk_at dksX3_joinsSet_2 20 rfl rfl)
theorem dX3_joinsSet_69 : decode cX3_joinsSet 69 = .ok (.aload_n 0, 1) := dk_42 (dk_at dksX3_joinsSet_2 23 rfl rfl)
theorem dX3_joinsSet_70 : decode cX3_joinsSet 70 = .ok (.iload 4, 2) := dk_21 4 (dk_at dksX3_joinsSet_3 0 rfl rfl)
theorem dX3_joinsSet_72 : decode cX3_joinsSet 72 = .ok (.bipush 6, 2) := dk_16 6 (dk_at dksX3_joinsSet_3 2 rfl rfl)
theorem dX3_joinsSet_74 : decode cX3_joinsSet 74 = .ok (.invokevirtual 170, 3) := dk_182 0 170 (dk_at dksX3_joinsSet_3 4 rfl rfl)
theorem dX3_joinsSet_77 : decode cX3_joinsSet 77 = .ok (.goto 11, 3) := dk_167 0 11 (dk_at dksX3_joinsSet_3 7 rfl rfl)
theorem dX3_joinsSet_80 : decode cX3_joinsSet 80 = .ok (.aload_n 0, 1) := dk_42 (dk_at dksX3_joinsSet_3 10 rfl rfl)
theorem dX3_joinsSet_81 : decode cX3_joinsSet 81 = .ok (.bipush 6, 2) := dk_16 6 (dk_at dksX3_joinsSet_3 11 rfl rfl)
theorem dX3_joinsSet_83 : decode cX3_joinsSet 83 = .ok (.iload 4, 2) := dk_21 4 (dk_at dksX3_joinsSet_3 13 rfl rfl)
theorem dX3_joinsSet_85 : decode cX3_joinsSet 85 = .ok (.invokevirtual 176, 3) := dk_182 0 176 (dk_at dksX3_joinsSet_3 15 rfl rfl)
theorem dX3_joinsSet_88 : decode cX3_joinsSet 88 = .ok (.iconst 0, 1) := dk_3 (dk_at dksX3_joinsSet_3 18 rfl rfl)
theorem dX3_joinsSet_89 : decode cX3_joinsSet 89 = .ok (.istore_n 2, 1) := dk_61 (dk_at dksX3_joinsSet_3 19 rfl rfl)
theorem dX3_joinsSet_90 : decode cX3_joinsSet 90 = .ok (.iload_n 1, 1) := dk_27 (dk_at dksX3_joinsSet_3 20 rfl rfl)
theorem dX3_joinsSet_91 : decode cX3_joinsSet 91 = .ok (.iload_n 1, 1) := dk_27 (dk_at dksX3_joinsSet_3 21 rfl rfl)
theorem dX3_joinsSet_92 : decode cX3_joinsSet 92 = .ok (.iconst 1, 1) := dk_4 (dk_at dksX3_joinsSet_3 22 rfl rfl)
theorem dX3_joinsSet_93 : decode cX3_joinsSet 93 = .ok (.isub, 1) := dk_100 (dk_at dksX3_joinsSet_3 23 rfl rfl)
theorem dX3_joinsSet_94 : decode cX3_joinsSet 94 = .ok (.iand, 1) := dk_126 (dk_at dksX3_joinsSet_4 0 rfl rfl)
theorem dX3_joinsSet_95 : decode cX3_joinsSet 95 = .ok (.ifCond .eq 30, 3) := dk_153 0 30 (dk_at dksX3_joinsSet_4 1 rfl rfl)
theorem dX3_joinsSet_98 : decode cX3_joinsSet 98 = .ok (.aload_n 0, 1) := dk_42 (dk_at dksX3_joinsSet_4 4 rfl rfl)
theorem dX3_joinsSet_99 : decode cX3_joinsSet 99 = .ok (.getfield 16, 3) := dk_180 0 16 (dk_at dksX3_joinsSet_4 5 rfl rfl)
theorem dX3_joinsSet_102 : decode cX3_joinsSet 102 = .ok (.bipush 6, 2) := dk_16 6 (dk_at dksX3_joinsSet_4 8 rfl rfl)
theorem dX3_joinsSet_104 : decode cX3_joinsSet 104 = .ok (.baload, 1) := dk_51 (dk_at dksX3_joinsSet_4 10 rfl rfl)
theorem dX3_joinsSet_105 : decode cX3_joinsSet 105 = .ok (.ifCond .ne 20, 3) := dk_154 0 20 (dk_at dksX3_joinsSet_4 11 rfl rfl)
theorem dX3_joinsSet_108 : decode cX3_joinsSet 108 = .ok (.aload_n 0, 1) := dk_42 (dk_at dksX3_joinsSet_4 14 rfl rfl)
theorem dX3_joinsSet_109 : decode cX3_joinsSet 109 = .ok (.getfield 24, 3) := dk_180 0 24 (dk_at dksX3_joinsSet_4 15 rfl rfl)
theorem dX3_joinsSet_112 : decode cX3_joinsSet 112 = .ok (.bipush 6, 2) := dk_16 6 (dk_at dksX3_joinsSet_4 18 rfl rfl)
theorem dX3_joinsSet_114 : decode cX3_joinsSet 114 = .ok (.iaload, 1) := dk_46 (dk_at dksX3_joinsSet_4 20 rfl rfl)
theorem dX3_joinsSet_115 : decode cX3_joinsSet 115 = .ok (.iload_n 3, 1) := dk_29 (dk_at dksX3_joinsSet_4 21 rfl rfl)
theorem dX3_joinsSet_116 : decode cX3_joinsSet 116 = .ok (.if_icmp .le 9, 3) := dk_164 0 9 (dk_at dksX3_joinsSet_5 0 rfl rfl)
theorem dX3_joinsSet_119 : decode cX3_joinsSet 119 = .ok (.aload_n 0, 1) := dk_42 (dk_at dksX3_joinsSet_5 3 rfl rfl)
theorem dX3_joinsSet_120 : decode cX3_joinsSet 120 = .ok (.bipush 6, 2) := dk_16 6 (dk_at dksX3_joinsSet_5 4 rfl rfl)
theorem dX3_joinsSet_122 : decode cX3_joinsSet 122 = .ok (.invokevirtual 107, 3) := dk_182 0 107 (dk_at dksX3_joinsSet_5 6 rfl rfl)
theorem dX3_joinsSet_125 : decode cX3_joinsSet 125 = .ok (.iinc 4 1, 3) := dk_132 4 1 (dk_at dksX3_joinsSet_5 9 rfl rfl)
theorem dX3_joinsSet_128 : decode cX3_joinsSet 128 = .ok (.goto (-82), 3) := dk_167 255 174 (dk_at dksX3_joinsSet_5 12 rfl rfl)
theorem dX3_joinsSet_131 : decode cX3_joinsSet 131 = .ok (.return_, 1) := dk_177 (dk_at dksX3_joinsSet_5 15 rfl rfl)
abbrev cX3_puts : ByteArray := prog_10_method_57_code
def yX3_puts : MethodName := ⟨RX3, "puts", "(IIJ)I"⟩
def dkwX3_puts_8 : List UInt8 := [16, 12, 28, 104, 21, 6, 96, 184, 0, 92, 21, 7, 79, 132, 6, 1, 167, 255, 169, 21, 5, 172]
abbrev dktX3_puts_8 : List UInt8 := dkwX3_puts_8 ++ []
def dkwX3_puts_7 : List UInt8 := [96, 184, 0, 92, 46, 21, 7, 159, 0, 7, 4, 167, 0, 4, 3, 96, 54, 5, 42, 180, 0, 27, 27]
abbrev dktX3_puts_7 : List UInt8 := dkwX3_puts_7 ++ dktX3_puts_8
def dkwX3_puts_6 : List UInt8 := [21, 6, 104, 123, 20, 0, 224, 127, 136, 54, 7, 21, 5, 42, 180, 0, 27, 27, 16, 12, 28, 104, 21, 6]
abbrev dktX3_puts_6 : List UInt8 := dkwX3_puts_6 ++ dktX3_puts_7
def dkwX3_puts_5 : List UInt8 := [21, 6, 16, 12, 162, 0, 86, 16, 12, 28, 104, 21, 6, 96, 42, 27, 182, 0, 117, 162, 0, 71, 33, 8]
abbrev dktX3_puts_5 : List UInt8 := dkwX3_puts_5 ++ dktX3_puts_6
def dkwX3_puts_4 : List UInt8 := [167, 0, 4, 3, 133, 148, 158, 0, 6, 16, 253, 172, 132, 5, 1, 167, 255, 196, 3, 54, 5, 3, 54, 6]
abbrev dktX3_puts_4 : List UInt8 := dkwX3_puts_4 ++ dktX3_puts_5
def dkwX3_puts_3 : List UInt8 := [16, 12, 28, 104, 21, 5, 96, 42, 27, 182, 0, 117, 162, 0, 15, 16, 33, 42, 180, 0, 7, 27, 46, 100]
abbrev dktX3_puts_3 : List UInt8 := dkwX3_puts_3 ++ dktX3_puts_4
def dkwX3_puts_2 : List UInt8 := [54, 5, 21, 5, 16, 12, 162, 0, 59, 33, 8, 21, 5, 104, 123, 20, 0, 224, 127, 55, 6, 22, 6]
abbrev dktX3_puts_2 : List UInt8 := dkwX3_puts_2 ++ dktX3_puts_3
def dkwX3_puts_1 : List UInt8 := [180, 0, 16, 27, 51, 154, 0, 6, 16, 254, 172, 33, 16, 60, 123, 9, 148, 153, 0, 6, 16, 253, 172, 3]
abbrev dktX3_puts_1 : List UInt8 := dkwX3_puts_1 ++ dktX3_puts_2
def dkwX3_puts_0 : List UInt8 := [42, 3, 181, 0, 51, 27, 184, 0, 111, 153, 0, 12, 42, 27, 28, 182, 0, 220, 154, 0, 5, 2, 172, 42]
abbrev dktX3_puts_0 : List UInt8 := dkwX3_puts_0 ++ dktX3_puts_1
theorem dksX3_puts_0 : cX3_puts.data.toList.drop 0 = dktX3_puts_0 := by decide +kernel
theorem dksX3_puts_1 : cX3_puts.data.toList.drop 24 = dktX3_puts_1 := dk_seg dksX3_puts_0 24 rfl rfl
theorem dksX3_puts_2 : cX3_puts.data.toList.drop 48 = dktX3_puts_2 := dk_seg dksX3_puts_1 24 rfl rfl
theorem dksX3_puts_3 : cX3_puts.data.toList.drop 71 = dktX3_puts_3 := dk_seg dksX3_puts_2 23 rfl rfl
theorem dksX3_puts_4 : cX3_puts.data.toList.drop 95 = dktX3_puts_4 := dk_seg dksX3_puts_3 24 rfl rfl
theorem dksX3_puts_5 : cX3_puts.data.toList.drop 119 = dktX3_puts_5 := dk_seg dksX3_puts_4 24 rfl rfl
theorem dksX3_puts_6 : cX3_puts.data.toList.drop 143 = dktX3_puts_6 := dk_seg dksX3_puts_5 24 rfl rfl
theorem dksX3_puts_7 : cX3_puts.data.toList.drop 167 = dktX3_puts_7 := dk_seg dksX3_puts_6 24 rfl rfl
theorem dksX3_puts_8 : cX3_puts.data.toList.drop 190 = dktX3_puts_8 := dk_seg dksX3_puts_7 23 rfl rfl
theorem dX3_puts_0 : decode cX3_puts 0 = .ok (.aload_n 0, 1) := dk_42 (dk_at dksX3_puts_0 0 rfl rfl)
theorem dX3_puts_1 : decode cX3_puts 1 = .ok (.iconst 0, 1) := dk_3 (dk_at dksX3_puts_0 1 rfl rfl)
theorem dX3_puts_2 : decode cX3_puts 2 = .ok (.putfield 51, 3) := dk_181 0 51 (dk_at dksX3_puts_0 2 rfl rfl)
theorem dX3_puts_5 : decode cX3_puts 5 = .ok (.iload_n 1, 1) := dk_27 (dk_at dksX3_puts_0 5 rfl rfl)
theorem dX3_puts_6 : decode cX3_puts 6 = .ok (.invokestatic 111, 3) := dk_184 0 111 (dk_at dksX3_puts_0 6 rfl rfl)
theorem dX3_puts_9 : decode cX3_puts 9 = .ok (.ifCond .eq 12, 3) := dk_153 0 12 (dk_at dksX3_puts_0 9 rfl rfl)
theorem dX3_puts_12 : decode cX3_puts 12 = .ok (.aload_n 0, 1) := dk_42 (dk_at dksX3_puts_0 12 rfl rfl)
theorem dX3_puts_13 : decode cX3_puts 13 = .ok (.iload_n 1, 1) := dk_27 (dk_at dksX3_puts_0 13 rfl rfl)
theorem dX3_puts_14 : decode cX3_puts 14 = .ok (.iload_n 2, 1) := dk_28 (dk_at dksX3_puts_0 14 rfl rfl)
theorem dX3_puts_15 : decode cX3_puts 15 = .ok (.invokevirtual 220, 3) := dk_182 0 220 (dk_at dksX3_puts_0 15 rfl rfl)
theorem dX3_puts_18 : decode cX3_puts 18 = .ok (.ifCond .ne 5, 3) := dk_154 0 5 (dk_at dksX3_puts_0 18 rfl rfl)
theorem dX3_puts_21 : decode cX3_puts 21 = .ok (.iconst (-1), 1) := dk_2 (dk_at dksX3_puts_0 21 rfl rfl)
theorem dX3_puts_22 : decode cX3_puts 22 = .ok (.ireturn, 1) := dk_172 (dk_at dksX3_puts_0 22 rfl rfl)
theorem dX3_puts_23 : decode cX3_puts 23 = .ok (.aload_n 0, 1) := dk_42 (dk_at dksX3_puts_0 23 rfl rfl)
theorem dX3_puts_24 : decode cX3_puts 24 = .ok (.getfield 16, 3) := dk_180 0 16 (dk_at dksX3_puts_1 0 rfl rfl)
theorem dX3_puts_27 : decode cX3_puts 27 = .ok (.iload_n 1, 1) := dk_27 (dk_at dksX3_puts_1 3 rfl rfl)
theorem dX3_puts_28 : decode cX3_puts 28 = .ok (.baload, 1) := dk_51 (dk_at dksX3_puts_1 4 rfl rfl)
theorem dX3_puts_29 : decode cX3_puts 29 = .ok (.ifCond .ne 6, 3) := dk_154 0 6 (dk_at dksX3_puts_1 5 rfl rfl)
theorem dX3_puts_32 : decode cX3_puts 32 = .ok (.bipush (-2), 2) := dk_16 254 (dk_at dksX3_puts_1 8 rfl rfl)
theorem dX3_puts_34 : decode cX3_puts 34 = .ok (.ireturn, 1) := dk_172 (dk_at dksX3_puts_1 10 rfl rfl)
theorem dX3_puts_35 : decode cX3_puts 35 = .ok (.lload_n 3, 1) := dk_33 (dk_at dksX3_puts_1 11 rfl rfl)
theorem dX3_puts_36 : decode cX3_puts 36 = .ok (.bipush 60, 2) := dk_16 60 (dk_at dksX3_puts_1 12 rfl rfl)
theorem dX3_puts_38 : decode cX3_puts 38 = .ok (.lshr, 1) := dk_123 (dk_at dksX3_puts_1 14 rfl rfl)
theorem dX3_puts_39 : decode cX3_puts 39 = .ok (.lconst 0, 1) := dk_9 (dk_at dksX3_puts_1 15 rfl rfl)
theorem dX3_puts_40 : decode cX3_puts 40 = .ok (.lcmp, 1) := dk_148 (dk_at dksX3_puts_1 16 rfl rfl)
theorem dX3_puts_41 : decode cX3_puts 41 = .ok (.ifCond .eq 6, 3) := dk_153 0 6 (dk_at dksX3_puts_1 17 rfl rfl)
theorem dX3_puts_44 : decode cX3_puts 44 = .ok (.bipush (-3), 2) := dk_16 253 (dk_at dksX3_puts_1 20 rfl rfl)
theorem dX3_puts_46 : decode cX3_puts 46 = .ok (.ireturn, 1) := dk_172 (dk_at dksX3_puts_1 22 rfl rfl)
theorem dX3_puts_47 : decode cX3_puts 47 = .ok (.iconst 0, 1) := dk_3 (dk_at dksX3_puts_1 23 rfl rfl)
theorem dX3_puts_48 : decode cX3_puts 48 = .ok (.istore 5, 2) := dk_54 5 (dk_at dksX3_puts_2 0 rfl rfl)
theorem dX3_puts_50 : decode cX3_puts 50 = .ok (.iload 5, 2) := dk_21 5 (dk_at dksX3_puts_2 2 rfl rfl)
theorem dX3_puts_52 : decode cX3_puts 52 = .ok (.bipush 12, 2) := dk_16 12 (dk_at dksX3_puts_2 4 rfl rfl)
theorem dX3_puts_54 : decode cX3_puts 54 = .ok (.if_icmp .ge 59, 3) := dk_162 0 59 (dk_at dksX3_puts_2 6 rfl rfl)
theorem dX3_puts_57 : decode cX3_puts 57 = .ok (.lload_n 3, 1) := dk_33 (dk_at dksX3_puts_2 9 rfl rfl)
theorem dX3_puts_58 : decode cX3_puts 58 = .ok (.iconst 5, 1) := dk_8 (dk_at dksX3_puts_2 10 rfl rfl)
theorem dX3_puts_59 : decode cX3_puts 59 = .ok (.iload 5, 2) := dk_21 5 (dk_at dksX3_puts_2 11 rfl rfl)
theorem dX3_puts_61 : decode cX3_puts 61 = .ok (.imul, 1) := dk_104 (dk_at dksX3_puts_2 13 rfl rfl)
theorem dX3_puts_62 : decode cX3_puts 62 = .ok (.lshr, 1) := dk_123 (dk_at dksX3_puts_2 14 rfl rfl)
theorem dX3_puts_63 : decode cX3_puts 63 = .ok (.ldc2_w 224, 3) := dk_20 0 224 (dk_at dksX3_puts_2 15 rfl rfl)
theorem dX3_puts_66 : decode cX3_puts 66 = .ok (.land, 1) := dk_127 (dk_at dksX3_puts_2 18 rfl rfl)
theorem dX3_puts_67 : decode cX3_puts 67 = .ok (.lstore 6, 2) := dk_55 6 (dk_at dksX3_puts_2 19 rfl rfl)
theorem dX3_puts_69 : decode cX3_puts 69 = .ok (.lload 6, 2) := dk_22 6 (dk_at dksX3_puts_2 21 rfl rfl)
theorem dX3_puts_71 : decode cX3_puts 71 = .ok (.bipush 12, 2) := dk_16 12 (dk_at dksX3_puts_3 0 rfl rfl)
theorem dX3_puts_73 : decode cX3_puts 73 = .ok (.iload_n 2, 1) := dk_28 (dk_at dksX3_puts_3 2 rfl rfl)
theorem dX3_puts_74 : decode cX3_puts 74 = .ok (.imul, 1) := dk_104 (dk_at dksX3_puts_3 3 rfl rfl)
theorem dX3_puts_75 : decode cX3_puts 75 = .ok (.iload 5, 2) := dk_21 5 (dk_at dksX3_puts_3 4 rfl rfl)
theorem dX3_puts_77 : decode cX3_puts 77 = .ok (.iadd, 1) := dk_96 (dk_at dksX3_puts_3 6 rfl rfl)
theorem dX3_puts_78 : decode cX3_puts 78 = .ok (.aload_n 0, 1) := dk_42 (dk_at dksX3_puts_3 7 rfl rfl)
theorem dX3_puts_79 : decode cX3_puts 79 = .ok (.iload_n 1, 1) := dk_27 (dk_at dksX3_puts_3 8 rfl rfl)
theorem dX3_puts_80 : decode cX3_puts 80 = .ok (.invokevirtual 117, 3) := dk_182 0 117 (dk_at dksX3_puts_3 9 rfl rfl)
theorem dX3_puts_83 : decode cX3_puts 83 = .ok (.if_icmp .ge 15, 3) := dk_162 0 15 (dk_at dksX3_puts_3 12 rfl rfl)
theorem dX3_puts_86 : decode cX3_puts 86 = .ok (.bipush 33, 2) := dk_16 33 (dk_at dksX3_puts_3 15 rfl rfl)
theorem dX3_puts_88 : decode cX3_puts 88 = .ok (.aload_n 0, 1) := dk_42 (dk_at dksX3_puts_3 17 rfl rfl)
theorem dX3_puts_89 : decode cX3_puts 89 = .ok (.getfield 7, 3) := dk_180 0 7 (dk_at dksX3_puts_3 18 rfl rfl)
theorem dX3_puts_92 : decode cX3_puts 92 = .ok (.iload_n 1, 1) := dk_27 (dk_at dksX3_puts_3 21 rfl rfl)
theorem dX3_puts_93 : decode cX3_puts 93 = .ok (.iaload, 1) := dk_46 (dk_at dksX3_puts_3 22 rfl rfl)
theorem dX3_puts_94 : decode cX3_puts 94 = .ok (.isub, 1) := dk_100 (dk_at dksX3_puts_3 23 rfl rfl)
theorem dX3_puts_95 : decode cX3_puts 95 = .ok (.goto 4, 3) := dk_167 0 4 (dk_at dksX3_puts_4 0 rfl rfl)
theorem dX3_puts_98 : decode cX3_puts 98 = .ok (.iconst 0, 1) := dk_3 (dk_at dksX3_puts_4 3 rfl rfl)
theorem dX3_puts_99 : decode cX3_puts 99 = .ok (.i2l, 1) := dk_133 (dk_at dksX3_puts_4 4 rfl rfl)
theorem dX3_puts_100 : decode cX3_puts 100 = .ok (.lcmp, 1) := dk_148 (dk_at dksX3_puts_4 5 rfl rfl)
theorem dX3_puts_101 : decode cX3_puts 101 = .ok (.ifCond .le 6, 3) := dk_158 0 6 (dk_at dksX3_puts_4 6 rfl rfl)
theorem dX3_puts_104 : decode cX3_puts 104 = .ok (.bipush (-3), 2) := dk_16 253 (dk_at dksX3_puts_4 9 rfl rfl)
theorem dX3_puts_106 : decode cX3_puts 106 = .ok (.ireturn, 1) := dk_172 (dk_at dksX3_puts_4 11 rfl rfl)
theorem dX3_puts_107 : decode cX3_puts 107 = .ok (.iinc 5 1, 3) := dk_132 5 1 (dk_at dksX3_puts_4 12 rfl rfl)
theorem dX3_puts_110 : decode cX3_puts 110 = .ok (.goto (-60), 3) := dk_167 255 196 (dk_at dksX3_puts_4 15 rfl rfl)
theorem dX3_puts_113 : decode cX3_puts 113 = .ok (.iconst 0, 1) := dk_3 (dk_at dksX3_puts_4 18 rfl rfl)
theorem dX3_puts_114 : decode cX3_puts 114 = .ok (.istore 5, 2) := dk_54 5 (dk_at dksX3_puts_4 19 rfl rfl)
theorem dX3_puts_116 : decode cX3_puts 116 = .ok (.iconst 0, 1) := dk_3 (dk_at dksX3_puts_4 21 rfl rfl)
theorem dX3_puts_117 : decode cX3_puts 117 = .ok (.istore 6, 2) := dk_54 6 (dk_at dksX3_puts_4 22 rfl rfl)
theorem dX3_puts_119 : decode cX3_puts 119 = .ok (.iload 6, 2) := dk_21 6 (dk_at dksX3_puts_5 0 rfl rfl)
theorem dX3_puts_121 : decode cX3_puts 121 = .ok (.bipush 12, 2) := dk_16 12 (dk_at dksX3_puts_5 2 rfl rfl)
theorem dX3_puts_123 : decode cX3_puts 123 = .ok (.if_icmp .ge 86, 3) := dk_162 0 86 (dk_at dksX3_puts_5 4 rfl rfl)
theorem dX3_puts_126 : decode cX3_puts 126 = .ok (.bipush 12, 2) := dk_16 12 (dk_at dksX3_puts_5 7 rfl rfl)
theorem dX3_puts_128 : decode cX3_puts 128 = .ok (.iload_n 2, 1) := dk_28 (dk_at dksX3_puts_5 9 rfl rfl)
theorem dX3_puts_129 : decode cX3_puts 129 = .ok (.imul, 1) := dk_104 (dk_at dksX3_puts_5 10 rfl rfl)
theorem dX3_puts_130 : decode cX3_puts 130 = .ok (.iload 6, 2) := dk_21 6 (dk_at dksX3_puts_5 11 rfl rfl)
theorem dX3_puts_132 : decode cX3_puts 132 = .ok (.iadd, 1) := dk_96 (dk_at dksX3_puts_5 13 rfl rfl)
theorem dX3_puts_133 : decode cX3_puts 133 = .ok (.aload_n 0, 1) := dk_42 (dk_at dksX3_puts_5 14 rfl rfl)
theorem dX3_puts_134 : decode cX3_puts 134 = .ok (.iload_n 1, 1) := dk_27 (dk_at dksX3_puts_5 15 rfl rfl)
theorem dX3_puts_135 : decode cX3_puts 135 = .ok (.invokevirtual 117, 3) := dk_182 0 117 (dk_at dksX3_puts_5 16 rfl rfl)
theorem dX3_puts_138 : decode cX3_puts 138 = .ok (.if_icmp .ge 71, 3) := dk_162 0 71 (dk_at dksX3_puts_5 19 rfl rfl)
theorem dX3_puts_141 : decode cX3_puts 141 = .ok (.lload_n 3, 1) := dk_33 (dk_at dksX3_puts_5 22 rfl rfl)
theorem dX3_puts_142 : decode cX3_puts 142 = .ok (.iconst 5, 1) := dk_8 (dk_at dksX3_puts_5 23 rfl rfl)
theorem dX3_puts_143 : decode cX3_puts 143 = .ok (.iload 6, 2) := dk_21 6 (dk_at dksX3_puts_6 0 rfl rfl)
theorem dX3_puts_145 : decode cX3_puts 145 = .ok (.imul, 1) := dk_104 (dk_at dksX3_puts_6 2 rfl rfl)
theorem dX3_puts_146 : decode cX3_puts 146 = .ok (.lshr, 1) := dk_123 (dk_at dksX3_puts_6 3 rfl rfl)
theorem dX3_puts_147 : decode cX3_puts 147 = .ok (.ldc2_w 224, 3) := dk_20 0 224 (dk_at dksX3_puts_6 4 rfl rfl)
theorem dX3_puts_150 : decode cX3_puts 150 = .ok (.land, 1) := dk_127 (dk_at dksX3_puts_6 7 rfl rfl)
theorem dX3_puts_151 : decode cX3_puts 151 = .ok (.l2i, 1) := dk_136 (dk_at dksX3_puts_6 8 rfl rfl)
theorem dX3_puts_152 : decode cX3_puts 152 = .ok (.istore 7, 2) := dk_54 7 (dk_at dksX3_puts_6 9 rfl rfl)
theorem dX3_puts_154 : decode cX3_puts 154 = .ok (.iload 5, 2) := dk_21 5 (dk_at dksX3_puts_6 11 rfl rfl)
theorem dX3_puts_156 : decode cX3_puts 156 = .ok (.aload_n 0, 1) := dk_42 (dk_at dksX3_puts_6 13 rfl rfl)
theorem dX3_puts_157 : decode cX3_puts 157 = .ok (.getfield 27, 3) := dk_180 0 27 (dk_at dksX3_puts_6 14 rfl rfl)
theorem dX3_puts_160 : decode cX3_puts 160 = .ok (.iload_n 1, 1) := dk_27 (dk_at dksX3_puts_6 17 rfl rfl)
theorem dX3_puts_161 : decode cX3_puts 161 = .ok (.bipush 12, 2) := dk_16 12 (dk_at dksX3_puts_6 18 rfl rfl)
theorem dX3_puts_163 : decode cX3_puts 163 = .ok (.iload_n 2, 1) := dk_28 (dk_at dksX3_puts_6 20 rfl rfl)
theorem dX3_puts_164 : decode cX3_puts 164 = .ok (.imul, 1) := dk_104 (dk_at dksX3_puts_6 21 rfl rfl)
theorem dX3_puts_165 : decode cX3_puts 165 = .ok (.iload 6, 2) := dk_21 6 (dk_at dksX3_puts_6 22 rfl rfl)
theorem dX3_puts_167 : decode cX3_puts 167 = .ok (.iadd, 1) := dk_96 (dk_at dksX3_puts_7 0 rfl rfl)
theorem dX3_puts_168 : decode cX3_puts 168 = .ok (.invokestatic 92, 3) := dk_184 0 92 (dk_at dksX3_puts_7 1 rfl rfl)
theorem dX3_puts_171 : decode cX3_puts 171 = .ok (.iaload, 1) := dk_46 (dk_at dksX3_puts_7 4 rfl rfl)
theorem dX3_puts_172 : decode cX3_puts 172 = .ok (.iload 7, 2) := dk_21 7 (dk_at dksX3_puts_7 5 rfl rfl)
theorem dX3_puts_174 : decode cX3_puts 174 = .ok (.if_icmp .eq 7, 3) := dk_159 0 7 (dk_at dksX3_puts_7 7 rfl rfl)
theorem dX3_puts_177 : decode cX3_puts 177 = .ok (.iconst 1, 1) := dk_4 (dk_at dksX3_puts_7 10 rfl rfl)
theorem dX3_puts_178 : decode cX3_puts 178 = .ok (.goto 4, 3) := dk_167 0 4 (dk_at dksX3_puts_7 11 rfl rfl)
theorem dX3_puts_181 : decode cX3_puts 181 = .ok (.iconst 0, 1) := dk_3 (dk_at dksX3_puts_7 14 rfl rfl)
theorem dX3_puts_182 : decode cX3_puts 182 = .ok (.iadd, 1) := dk_96 (dk_at dksX3_puts_7 15 rfl rfl)
theorem dX3_puts_183 : decode cX3_puts 183 = .ok (.istore 5, 2) := dk_54 5 (dk_at dksX3_puts_7 16 rfl rfl)
theorem dX3_puts_185 : decode cX3_puts 185 = .ok (.aload_n 0, 1) := dk_42 (dk_at dksX3_puts_7 18 rfl rfl)
theorem dX3_puts_186 : decode cX3_puts 186 = .ok (.getfield 27, 3) := dk_180 0 27 (dk_at dksX3_puts_7 19 rfl rfl)
theorem dX3_puts_189 : decode cX3_puts 189 = .ok (.iload_n 1, 1) := dk_27 (dk_at dksX3_puts_7 22 rfl rfl)
theorem dX3_puts_190 : decode cX3_puts 190 = .ok (.bipush 12, 2) := dk_16 12 (dk_at dksX3_puts_8 0 rfl rfl)
theorem dX3_puts_192 : decode cX3_puts 192 = .ok (.iload_n 2, 1) := dk_28 (dk_at dksX3_puts_8 2 rfl rfl)
theorem dX3_puts_193 : decode cX3_puts 193 = .ok (.imul, 1) := dk_104 (dk_at dksX3_puts_8 3 rfl rfl)
theorem dX3_puts_194 : decode cX3_puts 194 = .ok (.iload 6, 2) := dk_21 6 (dk_at dksX3_puts_8 4 rfl rfl)
theorem dX3_puts_196 : decode cX3_puts 196 = .ok (.iadd, 1) := dk_96 (dk_at dksX3_puts_8 6 rfl rfl)
theorem dX3_puts_197 : decode cX3_puts 197 = .ok (.invokestatic 92, 3) := dk_184 0 92 (dk_at dksX3_puts_8 7 rfl rfl)
theorem dX3_puts_200 : decode cX3_puts 200 = .ok (.iload 7, 2) := dk_21 7 (dk_at dksX3_puts_8 10 rfl rfl)
theorem dX3_puts_202 : decode cX3_puts 202 = .ok (.iastore, 1) := dk_79 (dk_at dksX3_puts_8 12 rfl rfl)
theorem dX3_puts_203 : decode cX3_puts 203 = .ok (.iinc 6 1, 3) := dk_132 6 1 (dk_at dksX3_puts_8 13 rfl rfl)
theorem dX3_puts_206 : decode cX3_puts 206 = .ok (.goto (-87), 3) := dk_167 255 169 (dk_at dksX3_puts_8 16 rfl rfl)
theorem dX3_puts_209 : decode cX3_puts 209 = .ok (.iload 5, 2) := dk_21 5 (dk_at dksX3_puts_8 19 rfl rfl)
theorem dX3_puts_211 : decode cX3_puts 211 = .ok (.ireturn, 1) := dk_172 (dk_at dksX3_puts_8 21 rfl rfl)
abbrev cX3_isRow : ByteArray := prog_10_method_56_code
def yX3_isRow : MethodName := ⟨RX3, "isRow", "(II)Z"⟩
def dkwX3_isRow_0 : List UInt8 := [28, 133, 9, 42, 27, 182, 0, 117, 4, 100, 16, 12, 108, 133, 184, 0, 60, 172]
abbrev dktX3_isRow_0 : List UInt8 := dkwX3_isRow_0 ++ []
theorem dksX3_isRow_0 : cX3_isRow.data.toList.drop 0 = dktX3_isRow_0 := by decide +kernel
theorem dX3_isRow_0 : decode cX3_isRow 0 = .ok (.iload_n 2, 1) := dk_28 (dk_at dksX3_isRow_0 0 rfl rfl)
theorem dX3_isRow_1 : decode cX3_isRow 1 = .ok (.i2l, 1) := dk_133 (dk_at dksX3_isRow_0 1 rfl rfl)
theorem dX3_isRow_2 : decode cX3_isRow 2 = .ok (.lconst 0, 1) := dk_9 (dk_at dksX3_isRow_0 2 rfl rfl)
theorem dX3_isRow_3 : decode cX3_isRow 3 = .ok (.aload_n 0, 1) := dk_42 (dk_at dksX3_isRow_0 3 rfl rfl)
theorem dX3_isRow_4 : decode cX3_isRow 4 = .ok (.iload_n 1, 1) := dk_27 (dk_at dksX3_isRow_0 4 rfl rfl)
theorem dX3_isRow_5 : decode cX3_isRow 5 = .ok (.invokevirtual 117, 3) := dk_182 0 117 (dk_at dksX3_isRow_0 5 rfl rfl)
theorem dX3_isRow_8 : decode cX3_isRow 8 = .ok (.iconst 1, 1) := dk_4 (dk_at dksX3_isRow_0 8 rfl rfl)
theorem dX3_isRow_9 : decode cX3_isRow 9 = .ok (.isub, 1) := dk_100 (dk_at dksX3_isRow_0 9 rfl rfl)
theorem dX3_isRow_10 : decode cX3_isRow 10 = .ok (.bipush 12, 2) := dk_16 12 (dk_at dksX3_isRow_0 10 rfl rfl)
theorem dX3_isRow_12 : decode cX3_isRow 12 = .ok (.idiv, 1) := dk_108 (dk_at dksX3_isRow_0 12 rfl rfl)
theorem dX3_isRow_13 : decode cX3_isRow 13 = .ok (.i2l, 1) := dk_133 (dk_at dksX3_isRow_0 13 rfl rfl)
theorem dX3_isRow_14 : decode cX3_isRow 14 = .ok (.invokestatic 60, 3) := dk_184 0 60 (dk_at dksX3_isRow_0 14 rfl rfl)
theorem dX3_isRow_17 : decode cX3_isRow 17 = .ok (.ireturn, 1) := dk_172 (dk_at dksX3_isRow_0 17 rfl rfl)
abbrev cX3_swaps : ByteArray := prog_10_method_58_code
def yX3_swaps : MethodName := ⟨RX3, "swaps", "(II)I"⟩
def dkwX3_swaps_2 : List UInt8 := [27, 182, 0, 211, 172]
abbrev dktX3_swaps_2 : List UInt8 := dkwX3_swaps_2 ++ []
def dkwX3_swaps_1 : List UInt8 := [159, 0, 23, 42, 27, 16, 7, 182, 0, 170, 42, 28, 27, 182, 0, 170, 42, 16, 7, 28, 182, 0, 170, 42]
abbrev dktX3_swaps_1 : List UInt8 := dkwX3_swaps_1 ++ dktX3_swaps_2
def dkwX3_swaps_0 : List UInt8 := [42, 3, 181, 0, 51, 27, 184, 0, 111, 153, 0, 10, 28, 184, 0, 111, 154, 0, 5, 2, 172, 27, 28]
abbrev dktX3_swaps_0 : List UInt8 := dkwX3_swaps_0 ++ dktX3_swaps_1
theorem dksX3_swaps_0 : cX3_swaps.data.toList.drop 0 = dktX3_swaps_0 := by decide +kernel
theorem dksX3_swaps_1 : cX3_swaps.data.toList.drop 23 = dktX3_swaps_1 := dk_seg dksX3_swaps_0 23 rfl rfl
theorem dksX3_swaps_2 : cX3_swaps.data.toList.drop 47 = dktX3_swaps_2 := dk_seg dksX3_swaps_1 24 rfl rfl
theorem dX3_swaps_0 : decode cX3_swaps 0 = .ok (.aload_n 0, 1) := dk_42 (dk_at dksX3_swaps_0 0 rfl rfl)
theorem dX3_swaps_1 : decode cX3_swaps 1 = .ok (.iconst 0, 1) := dk_3 (dk_at dksX3_swaps_0 1 rfl rfl)
theorem dX3_swaps_2 : decode cX3_swaps 2 = .ok (.putfield 51, 3) := dk_181 0 51 (dk_at dksX3_swaps_0 2 rfl rfl)
theorem dX3_swaps_5 : decode cX3_swaps 5 = .ok (.iload_n 1, 1) := dk_27 (dk_at dksX3_swaps_0 5 rfl rfl)
theorem dX3_swaps_6 : decode cX3_swaps 6 = .ok (.invokestatic 111, 3) := dk_184 0 111 (dk_at dksX3_swaps_0 6 rfl rfl)
theorem dX3_swaps_9 : decode cX3_swaps 9 = .ok (.ifCond .eq 10, 3) := dk_153 0 10 (dk_at dksX3_swaps_0 9 rfl rfl)
theorem dX3_swaps_12 : decode cX3_swaps 12 = .ok (.iload_n 2, 1) := dk_28 (dk_at dksX3_swaps_0 12 rfl rfl)
theorem dX3_swaps_13 : decode cX3_swaps 13 = .ok (.invokestatic 111, 3) := dk_184 0 111 (dk_at dksX3_swaps_0 13 rfl rfl)
theorem dX3_swaps_16 : decode cX3_swaps 16 = .ok (.ifCond .ne 5, 3) := dk_154 0 5 (dk_at dksX3_swaps_0 16 rfl rfl)
theorem dX3_swaps_19 : decode cX3_swaps 19 = .ok (.iconst (-1), 1) := dk_2 (dk_at dksX3_swaps_0 19 rfl rfl)
theorem dX3_swaps_20 : decode cX3_swaps 20 = .ok (.ireturn, 1) := dk_172 (dk_at dksX3_swaps_0 20 rfl rfl)
theorem dX3_swaps_21 : decode cX3_swaps 21 = .ok (.iload_n 1, 1) := dk_27 (dk_at dksX3_swaps_0 21 rfl rfl)
theorem dX3_swaps_22 : decode cX3_swaps 22 = .ok (.iload_n 2, 1) := dk_28 (dk_at dksX3_swaps_0 22 rfl rfl)
theorem dX3_swaps_23 : decode cX3_swaps 23 = .ok (.if_icmp .eq 23, 3) := dk_159 0 23 (dk_at dksX3_swaps_1 0 rfl rfl)
theorem dX3_swaps_26 : decode cX3_swaps 26 = .ok (.aload_n 0, 1) := dk_42 (dk_at dksX3_swaps_1 3 rfl rfl)
theorem dX3_swaps_27 : decode cX3_swaps 27 = .ok (.iload_n 1, 1) := dk_27 (dk_at dksX3_swaps_1 4 rfl rfl)
theorem dX3_swaps_28 : decode cX3_swaps 28 = .ok (.bipush 7, 2) := dk_16 7 (dk_at dksX3_swaps_1 5 rfl rfl)
theorem dX3_swaps_30 : decode cX3_swaps 30 = .ok (.invokevirtual 170, 3) := dk_182 0 170 (dk_at dksX3_swaps_1 7 rfl rfl)
theorem dX3_swaps_33 : decode cX3_swaps 33 = .ok (.aload_n 0, 1) := dk_42 (dk_at dksX3_swaps_1 10 rfl rfl)
theorem dX3_swaps_34 : decode cX3_swaps 34 = .ok (.iload_n 2, 1) := dk_28 (dk_at dksX3_swaps_1 11 rfl rfl)
theorem dX3_swaps_35 : decode cX3_swaps 35 = .ok (.iload_n 1, 1) := dk_27 (dk_at dksX3_swaps_1 12 rfl rfl)
theorem dX3_swaps_36 : decode cX3_swaps 36 = .ok (.invokevirtual 170, 3) := dk_182 0 170 (dk_at dksX3_swaps_1 13 rfl rfl)
theorem dX3_swaps_39 : decode cX3_swaps 39 = .ok (.aload_n 0, 1) := dk_42 (dk_at dksX3_swaps_1 16 rfl rfl)
theorem dX3_swaps_40 : decode cX3_swaps 40 = .ok (.bipush 7, 2) := dk_16 7 (dk_at dksX3_swaps_1 17 rfl rfl)
theorem dX3_swaps_42 : decode cX3_swaps 42 = .ok (.iload_n 2, 1) := dk_28 (dk_at dksX3_swaps_1 19 rfl rfl)
theorem dX3_swaps_43 : decode cX3_swaps 43 = .ok (.invokevirtual 170, 3) := dk_182 0 170 (dk_at dksX3_swaps_1 20 rfl rfl)
theorem dX3_swaps_46 : decode cX3_swaps 46 = .ok (.aload_n 0, 1) := dk_42 (dk_at dksX3_swaps_1 23 rfl rfl)
theorem dX3_swaps_47 : decode cX3_swaps 47 = .ok (.iload_n 1, 1) := dk_27 (dk_at dksX3_swaps_2 0 rfl rfl)
theorem dX3_swaps_48 : decode cX3_swaps 48 = .ok (.invokevirtual 211, 3) := dk_182 0 211 (dk_at dksX3_swaps_2 1 rfl rfl)
theorem dX3_swaps_51 : decode cX3_swaps 51 = .ok (.ireturn, 1) := dk_172 (dk_at dksX3_swaps_2 4 rfl rfl)
abbrev cX3_keeps : ByteArray := prog_10_method_60_code
def yX3_keeps : MethodName := ⟨RX3, "keeps", "(III)I"⟩
def dkwX3_keeps_4 : List UInt8 := [182, 0, 170, 21, 4, 172]
abbrev dktX3_keeps_4 : List UInt8 := dkwX3_keeps_4 ++ []
def dkwX3_keeps_3 : List UInt8 := [180, 0, 13, 27, 46, 42, 180, 0, 13, 28, 46, 184, 0, 173, 182, 0, 226, 54, 4, 42, 16, 8, 29]
abbrev dktX3_keeps_3 : List UInt8 := dkwX3_keeps_3 ++ dktX3_keeps_4
def dkwX3_keeps_2 : List UInt8 := [16, 254, 172, 42, 27, 28, 4, 42, 180, 0, 7, 27, 46, 42, 180, 0, 7, 28, 46, 184, 0, 173, 42]
abbrev dktX3_keeps_2 : List UInt8 := dkwX3_keeps_2 ++ dktX3_keeps_3
def dkwX3_keeps_1 : List UInt8 := [154, 0, 5, 2, 172, 42, 180, 0, 16, 27, 51, 154, 0, 12, 42, 180, 0, 16, 28, 51, 153, 0, 6]
abbrev dktX3_keeps_1 : List UInt8 := dkwX3_keeps_1 ++ dktX3_keeps_2
def dkwX3_keeps_0 : List UInt8 := [42, 3, 181, 0, 51, 27, 184, 0, 111, 153, 0, 17, 28, 184, 0, 111, 153, 0, 10, 29, 184, 0, 111]
abbrev dktX3_keeps_0 : List UInt8 := dkwX3_keeps_0 ++ dktX3_keeps_1
theorem dksX3_keeps_0 : cX3_keeps.data.toList.drop 0 = dktX3_keeps_0 := by decide +kernel
theorem dksX3_keeps_1 : cX3_keeps.data.toList.drop 23 = dktX3_keeps_1 := dk_seg dksX3_keeps_0 23 rfl rfl
theorem dksX3_keeps_2 : cX3_keeps.data.toList.drop 46 = dktX3_keeps_2 := dk_seg dksX3_keeps_1 23 rfl rfl
theorem dksX3_keeps_3 : cX3_keeps.data.toList.drop 69 = dktX3_keeps_3 := dk_seg dksX3_keeps_2 23 rfl rfl
theorem dksX3_keeps_4 : cX3_keeps.data.toList.drop 92 = dktX3_keeps_4 := dk_seg dksX3_keeps_3 23 rfl rfl
theorem dX3_keeps_0 : decode cX3_keeps 0 = .ok (.aload_n 0, 1) := dk_42 (dk_at dksX3_keeps_0 0 rfl rfl)
theorem dX3_keeps_1 : decode cX3_keeps 1 = .ok (.iconst 0, 1) := dk_3 (dk_at dksX3_keeps_0 1 rfl rfl)
theorem dX3_keeps_2 : decode cX3_keeps 2 = .ok (.putfield 51, 3) := dk_181 0 51 (dk_at dksX3_keeps_0 2 rfl rfl)
theorem dX3_keeps_5 : decode cX3_keeps 5 = .ok (.iload_n 1, 1) := dk_27 (dk_at dksX3_keeps_0 5 rfl rfl)
theorem dX3_keeps_6 : decode cX3_keeps 6 = .ok (.invokestatic 111, 3) := dk_184 0 111 (dk_at dksX3_keeps_0 6 rfl rfl)
theorem dX3_keeps_9 : decode cX3_keeps 9 = .ok (.ifCond .eq 17, 3) := dk_153 0 17 (dk_at dksX3_keeps_0 9 rfl rfl)
theorem dX3_keeps_12 : decode cX3_keeps 12 = .ok (.iload_n 2, 1) := dk_28 (dk_at dksX3_keeps_0 12 rfl rfl)
theorem dX3_keeps_13 : decode cX3_keeps 13 = .ok (.invokestatic 111, 3) := dk_184 0 111 (dk_at dksX3_keeps_0 13 rfl rfl)
theorem dX3_keeps_16 : decode cX3_keeps 16 = .ok (.ifCond .eq 10, 3) := dk_153 0 10 (dk_at dksX3_keeps_0 16 rfl rfl)
theorem dX3_keeps_19 : decode cX3_keeps 19 = .ok (.iload_n 3, 1) := dk_29 (dk_at dksX3_keeps_0 19 rfl rfl)
theorem dX3_keeps_20 : decode cX3_keeps 20 = .ok (.invokestatic 111, 3) := dk_184 0 111 (dk_at dksX3_keeps_0 20 rfl rfl)
theorem dX3_keeps_23 : decode cX3_keeps 23 = .ok (.ifCond .ne 5, 3) := dk_154 0 5 (dk_at dksX3_keeps_1 0 rfl rfl)
theorem dX3_keeps_26 : decode cX3_keeps 26 = .ok (.iconst (-1), 1) := dk_2 (dk_at dksX3_keeps_1 3 rfl rfl)
theorem dX3_keeps_27 : decode cX3_keeps 27 = .ok (.ireturn, 1) := dk_172 (dk_at dksX3_keeps_1 4 rfl rfl)
theorem dX3_keeps_28 : decode cX3_keeps 28 = .ok (.aload_n 0, 1) := dk_42 (dk_at dksX3_keeps_1 5 rfl rfl)
theorem dX3_keeps_29 : decode cX3_keeps 29 = .ok (.getfield 16, 3) := dk_180 0 16 (dk_at dksX3_keeps_1 6 rfl rfl)
theorem dX3_keeps_32 : decode cX3_keeps 32 = .ok (.iload_n 1, 1) := dk_27 (dk_at dksX3_keeps_1 9 rfl rfl)
theorem dX3_keeps_33 : decode cX3_keeps 33 = .ok (.baload, 1) := dk_51 (dk_at dksX3_keeps_1 10 rfl rfl)
theorem dX3_keeps_34 : decode cX3_keeps 34 = .ok (.ifCond .ne 12, 3) := dk_154 0 12 (dk_at dksX3_keeps_1 11 rfl rfl)
theorem dX3_keeps_37 : decode cX3_keeps 37 = .ok (.aload_n 0, 1) := dk_42 (dk_at dksX3_keeps_1 14 rfl rfl)
theorem dX3_keeps_38 : decode cX3_keeps 38 = .ok (.getfield 16, 3) := dk_180 0 16 (dk_at dksX3_keeps_1 15 rfl rfl)
theorem dX3_keeps_41 : decode cX3_keeps 41 = .ok (.iload_n 2, 1) := dk_28 (dk_at dksX3_keeps_1 18 rfl rfl)
theorem dX3_keeps_42 : decode cX3_keeps 42 = .ok (.baload, 1) := dk_51 (dk_at dksX3_keeps_1 19 rfl rfl)
theorem dX3_keeps_43 : decode cX3_keeps 43 = .ok (.ifCond .eq 6, 3) := dk_153 0 6 (dk_at dksX3_keeps_1 20 rfl rfl)
theorem dX3_keeps_46 : decode cX3_keeps 46 = .ok (.bipush (-2), 2) := dk_16 254 (dk_at dksX3_keeps_2 0 rfl rfl)
theorem dX3_keeps_48 : decode cX3_keeps 48 = .ok (.ireturn, 1) := dk_172 (dk_at dksX3_keeps_2 2 rfl rfl)
theorem dX3_keeps_49 : decode cX3_keeps 49 = .ok (.aload_n 0, 1) := dk_42 (dk_at dksX3_keeps_2 3 rfl rfl)
theorem dX3_keeps_50 : decode cX3_keeps 50 = .ok (.iload_n 1, 1) := dk_27 (dk_at dksX3_keeps_2 4 rfl rfl)
theorem dX3_keeps_51 : decode cX3_keeps 51 = .ok (.iload_n 2, 1) := dk_28 (dk_at dksX3_keeps_2 5 rfl rfl)
theorem dX3_keeps_52 : decode cX3_keeps 52 = .ok (.iconst 1, 1) := dk_4 (dk_at dksX3_keeps_2 6 rfl rfl)
theorem dX3_keeps_53 : decode cX3_keeps 53 = .ok (.aload_n 0, 1) := dk_42 (dk_at dksX3_keeps_2 7 rfl rfl)
theorem dX3_keeps_54 : decode cX3_keeps 54 = .ok (.getfield 7, 3) := dk_180 0 7 (dk_at dksX3_keeps_2 8 rfl rfl)
theorem dX3_keeps_57 : decode cX3_keeps 57 = .ok (.iload_n 1, 1) := dk_27 (dk_at dksX3_keeps_2 11 rfl rfl)
theorem dX3_keeps_58 : decode cX3_keeps 58 = .ok (.iaload, 1) := dk_46 (dk_at dksX3_keeps_2 12 rfl rfl)
theorem dX3_keeps_59 : decode cX3_keeps 59 = .ok (.aload_n 0, 1) := dk_42 (dk_at dksX3_keeps_2 13 rfl rfl)
theorem dX3_keeps_60 : decode cX3_keeps 60 = .ok (.getfield 7, 3) := dk_180 0 7 (dk_at dksX3_keeps_2 14 rfl rfl)
theorem dX3_keeps_63 : decode cX3_keeps 63 = .ok (.iload_n 2, 1) := dk_28 (dk_at dksX3_keeps_2 17 rfl rfl)
theorem dX3_keeps_64 : decode cX3_keeps 64 = .ok (.iaload, 1) := dk_46 (dk_at dksX3_keeps_2 18 rfl rfl)
theorem dX3_keeps_65 : decode cX3_keeps 65 = .ok (.invokestatic 173, 3) := dk_184 0 173 (dk_at dksX3_keeps_2 19 rfl rfl)
theorem dX3_keeps_68 : decode cX3_keeps 68 = .ok (.aload_n 0, 1) := dk_42 (dk_at dksX3_keeps_2 22 rfl rfl)
theorem dX3_keeps_69 : decode cX3_keeps 69 = .ok (.getfield 13, 3) := dk_180 0 13 (dk_at dksX3_keeps_3 0 rfl rfl)
theorem dX3_keeps_72 : decode cX3_keeps 72 = .ok (.iload_n 1, 1) := dk_27 (dk_at dksX3_keeps_3 3 rfl rfl)
theorem dX3_keeps_73 : decode cX3_keeps 73 = .ok (.iaload, 1) := dk_46 (dk_at dksX3_keeps_3 4 rfl rfl)
theorem dX3_keeps_74 : decode cX3_keeps 74 = .ok (.aload_n 0, 1) := dk_42 (dk_at dksX3_keeps_3 5 rfl rfl)
theorem dX3_keeps_75 : decode cX3_keeps 75 = .ok (.getfield 13, 3) := dk_180 0 13 (dk_at dksX3_keeps_3 6 rfl rfl)
theorem dX3_keeps_78 : decode cX3_keeps 78 = .ok (.iload_n 2, 1) := dk_28 (dk_at dksX3_keeps_3 9 rfl rfl)
theorem dX3_keeps_79 : decode cX3_keeps 79 = .ok (.iaload, 1) := dk_46 (dk_at dksX3_keeps_3 10 rfl rfl)
theorem dX3_keeps_80 : decode cX3_keeps 80 = .ok (.invokestatic 173, 3) := dk_184 0 173 (dk_at dksX3_keeps_3 11 rfl rfl)
theorem dX3_keeps_83 : decode cX3_keeps 83 = .ok (.invokevirtual 226, 3) := dk_182 0 226 (dk_at dksX3_keeps_3 14 rfl rfl)
theorem dX3_keeps_86 : decode cX3_keeps 86 = .ok (.istore 4, 2) := dk_54 4 (dk_at dksX3_keeps_3 17 rfl rfl)
theorem dX3_keeps_88 : decode cX3_keeps 88 = .ok (.aload_n 0, 1) := dk_42 (dk_at dksX3_keeps_3 19 rfl rfl)
theorem dX3_keeps_89 : decode cX3_keeps 89 = .ok (.bipush 8, 2) := dk_16 8 (dk_at dksX3_keeps_3 20 rfl rfl)
theorem dX3_keeps_91 : decode cX3_keeps 91 = .ok (.iload_n 3, 1) := dk_29 (dk_at dksX3_keeps_3 22 rfl rfl)
theorem dX3_keeps_92 : decode cX3_keeps 92 = .ok (.invokevirtual 170, 3) := dk_182 0 170 (dk_at dksX3_keeps_4 0 rfl rfl)
theorem dX3_keeps_95 : decode cX3_keeps 95 = .ok (.iload 4, 2) := dk_21 4 (dk_at dksX3_keeps_4 3 rfl rfl)
theorem dX3_keeps_97 : decode cX3_keeps 97 = .ok (.ireturn, 1) := dk_172 (dk_at dksX3_keeps_4 5 rfl rfl)
abbrev cX3_sieves : ByteArray := prog_10_method_59_code
def yX3_sieves : MethodName := ⟨RX3, "sieves", "(IIZII)I"⟩
def dkwX3_sieves_3 : List UInt8 := [182, 0, 155, 42, 180, 0, 24, 16, 8, 46, 172]
abbrev dktX3_sieves_3 : List UInt8 := dkwX3_sieves_3 ++ []
def dkwX3_sieves_2 : List UInt8 := [42, 180, 0, 20, 16, 64, 27, 104, 21, 6, 96, 47, 182, 0, 103, 132, 6, 1, 167, 255, 203, 42, 16, 8]
abbrev dktX3_sieves_2 : List UInt8 := dkwX3_sieves_2 ++ dktX3_sieves_3
def dkwX3_sieves_1 : List UInt8 := [42, 28, 42, 180, 0, 20, 16, 64, 27, 104, 21, 6, 96, 47, 182, 0, 100, 29, 160, 0, 21, 42, 16, 8]
abbrev dktX3_sieves_1 : List UInt8 := dkwX3_sieves_1 ++ dktX3_sieves_2
def dkwX3_sieves_0 : List UInt8 := [42, 16, 8, 21, 4, 21, 5, 182, 0, 47, 3, 54, 6, 21, 6, 42, 180, 0, 24, 27, 46, 162, 0, 48]
abbrev dktX3_sieves_0 : List UInt8 := dkwX3_sieves_0 ++ dktX3_sieves_1
theorem dksX3_sieves_0 : cX3_sieves.data.toList.drop 0 = dktX3_sieves_0 := by decide +kernel
theorem dksX3_sieves_1 : cX3_sieves.data.toList.drop 24 = dktX3_sieves_1 := dk_seg dksX3_sieves_0 24 rfl rfl
theorem dksX3_sieves_2 : cX3_sieves.data.toList.drop 48 = dktX3_sieves_2 := dk_seg dksX3_sieves_1 24 rfl rfl
theorem dksX3_sieves_3 : cX3_sieves.data.toList.drop 72 = dktX3_sieves_3 := dk_seg dksX3_sieves_2 24 rfl rfl
theorem dX3_sieves_0 : decode cX3_sieves 0 = .ok (.aload_n 0, 1) := dk_42 (dk_at dksX3_sieves_0 0 rfl rfl)
theorem dX3_sieves_1 : decode cX3_sieves 1 = .ok (.bipush 8, 2) := dk_16 8 (dk_at dksX3_sieves_0 1 rfl rfl)
theorem dX3_sieves_3 : decode cX3_sieves 3 = .ok (.iload 4, 2) := dk_21 4 (dk_at dksX3_sieves_0 3 rfl rfl)
theorem dX3_sieves_5 : decode cX3_sieves 5 = .ok (.iload 5, 2) := dk_21 5 (dk_at dksX3_sieves_0 5 rfl rfl)
theorem dX3_sieves_7 : decode cX3_sieves 7 = .ok (.invokevirtual 47, 3) := dk_182 0 47 (dk_at dksX3_sieves_0 7 rfl rfl)
theorem dX3_sieves_10 : decode cX3_sieves 10 = .ok (.iconst 0, 1) := dk_3 (dk_at dksX3_sieves_0 10 rfl rfl)
theorem dX3_sieves_11 : decode cX3_sieves 11 = .ok (.istore 6, 2) := dk_54 6 (dk_at dksX3_sieves_0 11 rfl rfl)
theorem dX3_sieves_13 : decode cX3_sieves 13 = .ok (.iload 6, 2) := dk_21 6 (dk_at dksX3_sieves_0 13 rfl rfl)
theorem dX3_sieves_15 : decode cX3_sieves 15 = .ok (.aload_n 0, 1) := dk_42 (dk_at dksX3_sieves_0 15 rfl rfl)
theorem dX3_sieves_16 : decode cX3_sieves 16 = .ok (.getfield 24, 3) := dk_180 0 24 (dk_at dksX3_sieves_0 16 rfl rfl)
theorem dX3_sieves_19 : decode cX3_sieves 19 = .ok (.iload_n 1, 1) := dk_27 (dk_at dksX3_sieves_0 19 rfl rfl)
theorem dX3_sieves_20 : decode cX3_sieves 20 = .ok (.iaload, 1) := dk_46 (dk_at dksX3_sieves_0 20 rfl rfl)
theorem dX3_sieves_21 : decode cX3_sieves 21 = .ok (.if_icmp .ge 48, 3) := dk_162 0 48 (dk_at dksX3_sieves_0 21 rfl rfl)
theorem dX3_sieves_24 : decode cX3_sieves 24 = .ok (.aload_n 0, 1) := dk_42 (dk_at dksX3_sieves_1 0 rfl rfl)
theorem dX3_sieves_25 : decode cX3_sieves 25 = .ok (.iload_n 2, 1) := dk_28 (dk_at dksX3_sieves_1 1 rfl rfl)
theorem dX3_sieves_26 : decode cX3_sieves 26 = .ok (.aload_n 0, 1) := dk_42 (dk_at dksX3_sieves_1 2 rfl rfl)
theorem dX3_sieves_27 : decode cX3_sieves 27 = .ok (.getfield 20, 3) := dk_180 0 20 (dk_at dksX3_sieves_1 3 rfl rfl)
theorem dX3_sieves_30 : decode cX3_sieves 30 = .ok (.bipush 64, 2) := dk_16 64 (dk_at dksX3_sieves_1 6 rfl rfl)
theorem dX3_sieves_32 : decode cX3_sieves 32 = .ok (.iload_n 1, 1) := dk_27 (dk_at dksX3_sieves_1 8 rfl rfl)
theorem dX3_sieves_33 : decode cX3_sieves 33 = .ok (.imul, 1) := dk_104 (dk_at dksX3_sieves_1 9 rfl rfl)
theorem dX3_sieves_34 : decode cX3_sieves 34 = .ok (.iload 6, 2) := dk_21 6 (dk_at dksX3_sieves_1 10 rfl rfl)
theorem dX3_sieves_36 : decode cX3_sieves 36 = .ok (.iadd, 1) := dk_96 (dk_at dksX3_sieves_1 12 rfl rfl)
theorem dX3_sieves_37 : decode cX3_sieves 37 = .ok (.laload, 1) := dk_47 (dk_at dksX3_sieves_1 13 rfl rfl)
theorem dX3_sieves_38 : decode cX3_sieves 38 = .ok (.invokevirtual 100, 3) := dk_182 0 100 (dk_at dksX3_sieves_1 14 rfl rfl)
theorem dX3_sieves_41 : decode cX3_sieves 41 = .ok (.iload_n 3, 1) := dk_29 (dk_at dksX3_sieves_1 17 rfl rfl)
theorem dX3_sieves_42 : decode cX3_sieves 42 = .ok (.if_icmp .ne 21, 3) := dk_160 0 21 (dk_at dksX3_sieves_1 18 rfl rfl)
theorem dX3_sieves_45 : decode cX3_sieves 45 = .ok (.aload_n 0, 1) := dk_42 (dk_at dksX3_sieves_1 21 rfl rfl)
theorem dX3_sieves_46 : decode cX3_sieves 46 = .ok (.bipush 8, 2) := dk_16 8 (dk_at dksX3_sieves_1 22 rfl rfl)
theorem dX3_sieves_48 : decode cX3_sieves 48 = .ok (.aload_n 0, 1) := dk_42 (dk_at dksX3_sieves_2 0 rfl rfl)
theorem dX3_sieves_49 : decode cX3_sieves 49 = .ok (.getfield 20, 3) := dk_180 0 20 (dk_at dksX3_sieves_2 1 rfl rfl)
theorem dX3_sieves_52 : decode cX3_sieves 52 = .ok (.bipush 64, 2) := dk_16 64 (dk_at dksX3_sieves_2 4 rfl rfl)
theorem dX3_sieves_54 : decode cX3_sieves 54 = .ok (.iload_n 1, 1) := dk_27 (dk_at dksX3_sieves_2 6 rfl rfl)
theorem dX3_sieves_55 : decode cX3_sieves 55 = .ok (.imul, 1) := dk_104 (dk_at dksX3_sieves_2 7 rfl rfl)
theorem dX3_sieves_56 : decode cX3_sieves 56 = .ok (.iload 6, 2) := dk_21 6 (dk_at dksX3_sieves_2 8 rfl rfl)
theorem dX3_sieves_58 : decode cX3_sieves 58 = .ok (.iadd, 1) := dk_96 (dk_at dksX3_sieves_2 10 rfl rfl)
theorem dX3_sieves_59 : decode cX3_sieves 59 = .ok (.laload, 1) := dk_47 (dk_at dksX3_sieves_2 11 rfl rfl)
theorem dX3_sieves_60 : decode cX3_sieves 60 = .ok (.invokevirtual 103, 3) := dk_182 0 103 (dk_at dksX3_sieves_2 12 rfl rfl)
theorem dX3_sieves_63 : decode cX3_sieves 63 = .ok (.iinc 6 1, 3) := dk_132 6 1 (dk_at dksX3_sieves_2 15 rfl rfl)
theorem dX3_sieves_66 : decode cX3_sieves 66 = .ok (.goto (-53), 3) := dk_167 255 203 (dk_at dksX3_sieves_2 18 rfl rfl)
theorem dX3_sieves_69 : decode cX3_sieves 69 = .ok (.aload_n 0, 1) := dk_42 (dk_at dksX3_sieves_2 21 rfl rfl)
theorem dX3_sieves_70 : decode cX3_sieves 70 = .ok (.bipush 8, 2) := dk_16 8 (dk_at dksX3_sieves_2 22 rfl rfl)
theorem dX3_sieves_72 : decode cX3_sieves 72 = .ok (.invokevirtual 155, 3) := dk_182 0 155 (dk_at dksX3_sieves_3 0 rfl rfl)
theorem dX3_sieves_75 : decode cX3_sieves 75 = .ok (.aload_n 0, 1) := dk_42 (dk_at dksX3_sieves_3 3 rfl rfl)
theorem dX3_sieves_76 : decode cX3_sieves 76 = .ok (.getfield 24, 3) := dk_180 0 24 (dk_at dksX3_sieves_3 4 rfl rfl)
theorem dX3_sieves_79 : decode cX3_sieves 79 = .ok (.bipush 8, 2) := dk_16 8 (dk_at dksX3_sieves_3 7 rfl rfl)
theorem dX3_sieves_81 : decode cX3_sieves 81 = .ok (.iaload, 1) := dk_46 (dk_at dksX3_sieves_3 9 rfl rfl)
theorem dX3_sieves_82 : decode cX3_sieves 82 = .ok (.ireturn, 1) := dk_172 (dk_at dksX3_sieves_3 10 rfl rfl)
abbrev cX3_less : ByteArray := prog_10_method_61_code
def yX3_less : MethodName := ⟨RX3, "less", "(III)I"⟩
def dkwX3_less_3 : List UInt8 := [42, 16, 8, 29, 182, 0, 170, 21, 4, 172]
abbrev dktX3_less_3 : List UInt8 := dkwX3_less_3 ++ []
def dkwX3_less_2 : List UInt8 := [16, 254, 172, 42, 27, 28, 3, 42, 180, 0, 7, 27, 46, 42, 180, 0, 13, 27, 46, 182, 0, 226, 54, 4]
abbrev dktX3_less_2 : List UInt8 := dkwX3_less_2 ++ dktX3_less_3
def dkwX3_less_1 : List UInt8 := [154, 0, 5, 2, 172, 42, 180, 0, 16, 27, 51, 154, 0, 12, 42, 180, 0, 16, 28, 51, 153, 0, 6]
abbrev dktX3_less_1 : List UInt8 := dkwX3_less_1 ++ dktX3_less_2
def dkwX3_less_0 : List UInt8 := [42, 3, 181, 0, 51, 27, 184, 0, 111, 153, 0, 17, 28, 184, 0, 111, 153, 0, 10, 29, 184, 0, 111]
abbrev dktX3_less_0 : List UInt8 := dkwX3_less_0 ++ dktX3_less_1
theorem dksX3_less_0 : cX3_less.data.toList.drop 0 = dktX3_less_0 := by decide +kernel
theorem dksX3_less_1 : cX3_less.data.toList.drop 23 = dktX3_less_1 := dk_seg dksX3_less_0 23 rfl rfl
theorem dksX3_less_2 : cX3_less.data.toList.drop 46 = dktX3_less_2 := dk_seg dksX3_less_1 23 rfl rfl
theorem dksX3_less_3 : cX3_less.data.toList.drop 70 = dktX3_less_3 := dk_seg dksX3_less_2 24 rfl rfl
theorem dX3_less_0 : decode cX3_less 0 = .ok (.aload_n 0, 1) := dk_42 (dk_at dksX3_less_0 0 rfl rfl)
theorem dX3_less_1 : decode cX3_less 1 = .ok (.iconst 0, 1) := dk_3 (dk_at dksX3_less_0 1 rfl rfl)
theorem dX3_less_2 : decode cX3_less 2 = .ok (.putfield 51, 3) := dk_181 0 51 (dk_at dksX3_less_0 2 rfl rfl)
theorem dX3_less_5 : decode cX3_less 5 = .ok (.iload_n 1, 1) := dk_27 (dk_at dksX3_less_0 5 rfl rfl)
theorem dX3_less_6 : decode cX3_less 6 = .ok (.invokestatic 111, 3) := dk_184 0 111 (dk_at dksX3_less_0 6 rfl rfl)
theorem dX3_less_9 : decode cX3_less 9 = .ok (.ifCond .eq 17, 3) := dk_153 0 17 (dk_at dksX3_less_0 9 rfl rfl)
theorem dX3_less_12 : decode cX3_less 12 = .ok (.iload_n 2, 1) := dk_28 (dk_at dksX3_less_0 12 rfl rfl)
theorem dX3_less_13 : decode cX3_less 13 = .ok (.invokestatic 111, 3) := dk_184 0 111 (dk_at dksX3_less_0 13 rfl rfl)
theorem dX3_less_16 : decode cX3_less 16 = .ok (.ifCond .eq 10, 3) := dk_153 0 10 (dk_at dksX3_less_0 16 rfl rfl)
theorem dX3_less_19 : decode cX3_less 19 = .ok (.iload_n 3, 1) := dk_29 (dk_at dksX3_less_0 19 rfl rfl)
theorem dX3_less_20 : decode cX3_less 20 = .ok (.invokestatic 111, 3) := dk_184 0 111 (dk_at dksX3_less_0 20 rfl rfl)
theorem dX3_less_23 : decode cX3_less 23 = .ok (.ifCond .ne 5, 3) := dk_154 0 5 (dk_at dksX3_less_1 0 rfl rfl)
theorem dX3_less_26 : decode cX3_less 26 = .ok (.iconst (-1), 1) := dk_2 (dk_at dksX3_less_1 3 rfl rfl)
theorem dX3_less_27 : decode cX3_less 27 = .ok (.ireturn, 1) := dk_172 (dk_at dksX3_less_1 4 rfl rfl)
theorem dX3_less_28 : decode cX3_less 28 = .ok (.aload_n 0, 1) := dk_42 (dk_at dksX3_less_1 5 rfl rfl)
theorem dX3_less_29 : decode cX3_less 29 = .ok (.getfield 16, 3) := dk_180 0 16 (dk_at dksX3_less_1 6 rfl rfl)
theorem dX3_less_32 : decode cX3_less 32 = .ok (.iload_n 1, 1) := dk_27 (dk_at dksX3_less_1 9 rfl rfl)
theorem dX3_less_33 : decode cX3_less 33 = .ok (.baload, 1) := dk_51 (dk_at dksX3_less_1 10 rfl rfl)
theorem dX3_less_34 : decode cX3_less 34 = .ok (.ifCond .ne 12, 3) := dk_154 0 12 (dk_at dksX3_less_1 11 rfl rfl)
theorem dX3_less_37 : decode cX3_less 37 = .ok (.aload_n 0, 1) := dk_42 (dk_at dksX3_less_1 14 rfl rfl)
theorem dX3_less_38 : decode cX3_less 38 = .ok (.getfield 16, 3) := dk_180 0 16 (dk_at dksX3_less_1 15 rfl rfl)
theorem dX3_less_41 : decode cX3_less 41 = .ok (.iload_n 2, 1) := dk_28 (dk_at dksX3_less_1 18 rfl rfl)
theorem dX3_less_42 : decode cX3_less 42 = .ok (.baload, 1) := dk_51 (dk_at dksX3_less_1 19 rfl rfl)
theorem dX3_less_43 : decode cX3_less 43 = .ok (.ifCond .eq 6, 3) := dk_153 0 6 (dk_at dksX3_less_1 20 rfl rfl)
theorem dX3_less_46 : decode cX3_less 46 = .ok (.bipush (-2), 2) := dk_16 254 (dk_at dksX3_less_2 0 rfl rfl)
theorem dX3_less_48 : decode cX3_less 48 = .ok (.ireturn, 1) := dk_172 (dk_at dksX3_less_2 2 rfl rfl)
theorem dX3_less_49 : decode cX3_less 49 = .ok (.aload_n 0, 1) := dk_42 (dk_at dksX3_less_2 3 rfl rfl)
theorem dX3_less_50 : decode cX3_less 50 = .ok (.iload_n 1, 1) := dk_27 (dk_at dksX3_less_2 4 rfl rfl)
theorem dX3_less_51 : decode cX3_less 51 = .ok (.iload_n 2, 1) := dk_28 (dk_at dksX3_less_2 5 rfl rfl)
theorem dX3_less_52 : decode cX3_less 52 = .ok (.iconst 0, 1) := dk_3 (dk_at dksX3_less_2 6 rfl rfl)
theorem dX3_less_53 : decode cX3_less 53 = .ok (.aload_n 0, 1) := dk_42 (dk_at dksX3_less_2 7 rfl rfl)
theorem dX3_less_54 : decode cX3_less 54 = .ok (.getfield 7, 3) := dk_180 0 7 (dk_at dksX3_less_2 8 rfl rfl)
theorem dX3_less_57 : decode cX3_less 57 = .ok (.iload_n 1, 1) := dk_27 (dk_at dksX3_less_2 11 rfl rfl)
theorem dX3_less_58 : decode cX3_less 58 = .ok (.iaload, 1) := dk_46 (dk_at dksX3_less_2 12 rfl rfl)
theorem dX3_less_59 : decode cX3_less 59 = .ok (.aload_n 0, 1) := dk_42 (dk_at dksX3_less_2 13 rfl rfl)
theorem dX3_less_60 : decode cX3_less 60 = .ok (.getfield 13, 3) := dk_180 0 13 (dk_at dksX3_less_2 14 rfl rfl)
theorem dX3_less_63 : decode cX3_less 63 = .ok (.iload_n 1, 1) := dk_27 (dk_at dksX3_less_2 17 rfl rfl)
theorem dX3_less_64 : decode cX3_less 64 = .ok (.iaload, 1) := dk_46 (dk_at dksX3_less_2 18 rfl rfl)
theorem dX3_less_65 : decode cX3_less 65 = .ok (.invokevirtual 226, 3) := dk_182 0 226 (dk_at dksX3_less_2 19 rfl rfl)
theorem dX3_less_68 : decode cX3_less 68 = .ok (.istore 4, 2) := dk_54 4 (dk_at dksX3_less_2 22 rfl rfl)
theorem dX3_less_70 : decode cX3_less 70 = .ok (.aload_n 0, 1) := dk_42 (dk_at dksX3_less_3 0 rfl rfl)
theorem dX3_less_71 : decode cX3_less 71 = .ok (.bipush 8, 2) := dk_16 8 (dk_at dksX3_less_3 1 rfl rfl)
theorem dX3_less_73 : decode cX3_less 73 = .ok (.iload_n 3, 1) := dk_29 (dk_at dksX3_less_3 3 rfl rfl)
theorem dX3_less_74 : decode cX3_less 74 = .ok (.invokevirtual 170, 3) := dk_182 0 170 (dk_at dksX3_less_3 4 rfl rfl)
theorem dX3_less_77 : decode cX3_less 77 = .ok (.iload 4, 2) := dk_21 4 (dk_at dksX3_less_3 7 rfl rfl)
theorem dX3_less_79 : decode cX3_less 79 = .ok (.ireturn, 1) := dk_172 (dk_at dksX3_less_3 9 rfl rfl)
abbrev cX3_splits : ByteArray := prog_10_method_62_code
def yX3_splits : MethodName := ⟨RX3, "splits", "(III)I"⟩
def dkwX3_splits_7 : List UInt8 := [28, 46, 172]
abbrev dktX3_splits_7 : List UInt8 := dkwX3_splits_7 ++ []
def dkwX3_splits_6 : List UInt8 := [47, 182, 0, 103, 132, 4, 1, 167, 255, 203, 42, 28, 182, 0, 155, 42, 29, 182, 0, 155, 42, 180, 0, 24]
abbrev dktX3_splits_6 : List UInt8 := dkwX3_splits_6 ++ dktX3_splits_7
def dkwX3_splits_5 : List UInt8 := [96, 47, 20, 0, 230, 148, 156, 0, 7, 28, 167, 0, 4, 29, 42, 180, 0, 20, 17, 2, 0, 21, 4, 96]
abbrev dktX3_splits_5 : List UInt8 := dkwX3_splits_5 ++ dktX3_splits_6
def dkwX3_splits_4 : List UInt8 := [54, 4, 21, 4, 42, 180, 0, 24, 16, 8, 46, 162, 0, 47, 42, 42, 180, 0, 20, 17, 2, 0, 21, 4]
abbrev dktX3_splits_4 : List UInt8 := dkwX3_splits_4 ++ dktX3_splits_5
def dkwX3_splits_3 : List UInt8 := [182, 0, 47, 42, 29, 42, 180, 0, 7, 16, 8, 46, 42, 180, 0, 13, 16, 8, 46, 182, 0, 47, 3]
abbrev dktX3_splits_3 : List UInt8 := dkwX3_splits_3 ++ dktX3_splits_4
def dkwX3_splits_2 : List UInt8 := [172, 42, 27, 16, 8, 182, 0, 170, 42, 28, 42, 180, 0, 7, 16, 8, 46, 42, 180, 0, 13, 16, 8, 46]
abbrev dktX3_splits_2 : List UInt8 := dkwX3_splits_2 ++ dktX3_splits_3
def dkwX3_splits_1 : List UInt8 := [154, 0, 5, 2, 172, 42, 180, 0, 16, 27, 51, 153, 0, 6, 16, 254, 172, 28, 29, 160, 0, 6, 16, 253]
abbrev dktX3_splits_1 : List UInt8 := dkwX3_splits_1 ++ dktX3_splits_2
def dkwX3_splits_0 : List UInt8 := [42, 3, 181, 0, 51, 27, 184, 0, 111, 153, 0, 17, 28, 184, 0, 111, 153, 0, 10, 29, 184, 0, 111]
abbrev dktX3_splits_0 : List UInt8 := dkwX3_splits_0 ++ dktX3_splits_1
theorem dksX3_splits_0 : cX3_splits.data.toList.drop 0 = dktX3_splits_0 := by decide +kernel
theorem dksX3_splits_1 : cX3_splits.data.toList.drop 23 = dktX3_splits_1 := dk_seg dksX3_splits_0 23 rfl rfl
theorem dksX3_splits_2 : cX3_splits.data.toList.drop 47 = dktX3_splits_2 := dk_seg dksX3_splits_1 24 rfl rfl
theorem dksX3_splits_3 : cX3_splits.data.toList.drop 71 = dktX3_splits_3 := dk_seg dksX3_splits_2 24 rfl rfl
theorem dksX3_splits_4 : cX3_splits.data.toList.drop 94 = dktX3_splits_4 := dk_seg dksX3_splits_3 23 rfl rfl
theorem dksX3_splits_5 : cX3_splits.data.toList.drop 118 = dktX3_splits_5 := dk_seg dksX3_splits_4 24 rfl rfl
theorem dksX3_splits_6 : cX3_splits.data.toList.drop 142 = dktX3_splits_6 := dk_seg dksX3_splits_5 24 rfl rfl
theorem dksX3_splits_7 : cX3_splits.data.toList.drop 166 = dktX3_splits_7 := dk_seg dksX3_splits_6 24 rfl rfl
theorem dX3_splits_0 : decode cX3_splits 0 = .ok (.aload_n 0, 1) := dk_42 (dk_at dksX3_splits_0 0 rfl rfl)
theorem dX3_splits_1 : decode cX3_splits 1 = .ok (.iconst 0, 1) := dk_3 (dk_at dksX3_splits_0 1 rfl rfl)
theorem dX3_splits_2 : decode cX3_splits 2 = .ok (.putfield 51, 3) := dk_181 0 51 (dk_at dksX3_splits_0 2 rfl rfl)
theorem dX3_splits_5 : decode cX3_splits 5 = .ok (.iload_n 1, 1) := dk_27 (dk_at dksX3_splits_0 5 rfl rfl)
theorem dX3_splits_6 : decode cX3_splits 6 = .ok (.invokestatic 111, 3) := dk_184 0 111 (dk_at dksX3_splits_0 6 rfl rfl)
theorem dX3_splits_9 : decode cX3_splits 9 = .ok (.ifCond .eq 17, 3) := dk_153 0 17 (dk_at dksX3_splits_0 9 rfl rfl)
theorem dX3_splits_12 : decode cX3_splits 12 = .ok (.iload_n 2, 1) := dk_28 (dk_at dksX3_splits_0 12 rfl rfl)
theorem dX3_splits_13 : decode cX3_splits 13 = .ok (.invokestatic 111, 3) := dk_184 0 111 (dk_at dksX3_splits_0 13 rfl rfl)
theorem dX3_splits_16 : decode cX3_splits 16 = .ok (.ifCond .eq 10, 3) := dk_153 0 10 (dk_at dksX3_splits_0 16 rfl rfl)
theorem dX3_splits_19 : decode cX3_splits 19 = .ok (.iload_n 3, 1) := dk_29 (dk_at dksX3_splits_0 19 rfl rfl)
theorem dX3_splits_20 : decode cX3_splits 20 = .ok (.invokestatic 111, 3) := dk_184 0 111 (dk_at dksX3_splits_0 20 rfl rfl)
theorem dX3_splits_23 : decode cX3_splits 23 = .ok (.ifCond .ne 5, 3) := dk_154 0 5 (dk_at dksX3_splits_1 0 rfl rfl)
theorem dX3_splits_26 : decode cX3_splits 26 = .ok (.iconst (-1), 1) := dk_2 (dk_at dksX3_splits_1 3 rfl rfl)
theorem dX3_splits_27 : decode cX3_splits 27 = .ok (.ireturn, 1) := dk_172 (dk_at dksX3_splits_1 4 rfl rfl)
theorem dX3_splits_28 : decode cX3_splits 28 = .ok (.aload_n 0, 1) := dk_42 (dk_at dksX3_splits_1 5 rfl rfl)
theorem dX3_splits_29 : decode cX3_splits 29 = .ok (.getfield 16, 3) := dk_180 0 16 (dk_at dksX3_splits_1 6 rfl rfl)
theorem dX3_splits_32 : decode cX3_splits 32 = .ok (.iload_n 1, 1) := dk_27 (dk_at dksX3_splits_1 9 rfl rfl)
theorem dX3_splits_33 : decode cX3_splits 33 = .ok (.baload, 1) := dk_51 (dk_at dksX3_splits_1 10 rfl rfl)
theorem dX3_splits_34 : decode cX3_splits 34 = .ok (.ifCond .eq 6, 3) := dk_153 0 6 (dk_at dksX3_splits_1 11 rfl rfl)
theorem dX3_splits_37 : decode cX3_splits 37 = .ok (.bipush (-2), 2) := dk_16 254 (dk_at dksX3_splits_1 14 rfl rfl)
theorem dX3_splits_39 : decode cX3_splits 39 = .ok (.ireturn, 1) := dk_172 (dk_at dksX3_splits_1 16 rfl rfl)
theorem dX3_splits_40 : decode cX3_splits 40 = .ok (.iload_n 2, 1) := dk_28 (dk_at dksX3_splits_1 17 rfl rfl)
theorem dX3_splits_41 : decode cX3_splits 41 = .ok (.iload_n 3, 1) := dk_29 (dk_at dksX3_splits_1 18 rfl rfl)
theorem dX3_splits_42 : decode cX3_splits 42 = .ok (.if_icmp .ne 6, 3) := dk_160 0 6 (dk_at dksX3_splits_1 19 rfl rfl)
theorem dX3_splits_45 : decode cX3_splits 45 = .ok (.bipush (-3), 2) := dk_16 253 (dk_at dksX3_splits_1 22 rfl rfl)
theorem dX3_splits_47 : decode cX3_splits 47 = .ok (.ireturn, 1) := dk_172 (dk_at dksX3_splits_2 0 rfl rfl)
theorem dX3_splits_48 : decode cX3_splits 48 = .ok (.aload_n 0, 1) := dk_42 (dk_at dksX3_splits_2 1 rfl rfl)
theorem dX3_splits_49 : decode cX3_splits 49 = .ok (.iload_n 1, 1) := dk_27 (dk_at dksX3_splits_2 2 rfl rfl)
theorem dX3_splits_50 : decode cX3_splits 50 = .ok (.bipush 8, 2) := dk_16 8 (dk_at dksX3_splits_2 3 rfl rfl)
theorem dX3_splits_52 : decode cX3_splits 52 = .ok (.invokevirtual 170, 3) := dk_182 0 170 (dk_at dksX3_splits_2 5 rfl rfl)
theorem dX3_splits_55 : decode cX3_splits 55 = .ok (.aload_n 0, 1) := dk_42 (dk_at dksX3_splits_2 8 rfl rfl)
theorem dX3_splits_56 : decode cX3_splits 56 = .ok (.iload_n 2, 1) := dk_28 (dk_at dksX3_splits_2 9 rfl rfl)
theorem dX3_splits_57 : decode cX3_splits 57 = .ok (.aload_n 0, 1) := dk_42 (dk_at dksX3_splits_2 10 rfl rfl)
theorem dX3_splits_58 : decode cX3_splits 58 = .ok (.getfield 7, 3) := dk_180 0 7 (dk_at dksX3_splits_2 11 rfl rfl)
theorem dX3_splits_61 : decode cX3_splits 61 = .ok (.bipush 8, 2) := dk_16 8 (dk_at dksX3_splits_2 14 rfl rfl)
theorem dX3_splits_63 : decode cX3_splits 63 = .ok (.iaload, 1) := dk_46 (dk_at dksX3_splits_2 16 rfl rfl)
theorem dX3_splits_64 : decode cX3_splits 64 = .ok (.aload_n 0, 1) := dk_42 (dk_at dksX3_splits_2 17 rfl rfl)
theorem dX3_splits_65 : decode cX3_splits 65 = .ok (.getfield 13, 3) := dk_180 0 13 (dk_at dksX3_splits_2 18 rfl rfl)
theorem dX3_splits_68 : decode cX3_splits 68 = .ok (.bipush 8, 2) := dk_16 8 (dk_at dksX3_splits_2 21 rfl rfl)
theorem dX3_splits_70 : decode cX3_splits 70 = .ok (.iaload, 1) := dk_46 (dk_at dksX3_splits_2 23 rfl rfl)
theorem dX3_splits_71 : decode cX3_splits 71 = .ok (.invokevirtual 47, 3) := dk_182 0 47 (dk_at dksX3_splits_3 0 rfl rfl)
theorem dX3_splits_74 : decode cX3_splits 74 = .ok (.aload_n 0, 1) := dk_42 (dk_at dksX3_splits_3 3 rfl rfl)
theorem dX3_splits_75 : decode cX3_splits 75 = .ok (.iload_n 3, 1) := dk_29 (dk_at dksX3_splits_3 4 rfl rfl)
theorem dX3_splits_76 : decode cX3_splits 76 = .ok (.aload_n 0, 1) := dk_42 (dk_at dksX3_splits_3 5 rfl rfl)
theorem dX3_splits_77 : decode cX3_splits 77 = .ok (.getfield 7, 3) := dk_180 0 7 (dk_at dksX3_splits_3 6 rfl rfl)
theorem dX3_splits_80 : decode cX3_splits 80 = .ok (.bipush 8, 2) := dk_16 8 (dk_at dksX3_splits_3 9 rfl rfl)
theorem dX3_splits_82 : decode cX3_splits 82 = .ok (.iaload, 1) := dk_46 (dk_at dksX3_splits_3 11 rfl rfl)
theorem dX3_splits_83 : decode cX3_splits 83 = .ok (.aload_n 0, 1) := dk_42 (dk_at dksX3_splits_3 12 rfl rfl)
theorem dX3_splits_84 : decode cX3_splits 84 = .ok (.getfield 13, 3) := dk_180 0 13 (dk_at dksX3_splits_3 13 rfl rfl)
theorem dX3_splits_87 : decode cX3_splits 87 = .ok (.bipush 8, 2) := dk_16 8 (dk_at dksX3_splits_3 16 rfl rfl)
theorem dX3_splits_89 : decode cX3_splits 89 = .ok (.iaload, 1) := dk_46 (dk_at dksX3_splits_3 18 rfl rfl)
theorem dX3_splits_90 : decode cX3_splits 90 = .ok (.invokevirtual 47, 3) := dk_182 0 47 (dk_at dksX3_splits_3 19 rfl rfl)
theorem dX3_splits_93 : decode cX3_splits 93 = .ok (.iconst 0, 1) := dk_3 (dk_at dksX3_splits_3 22 rfl rfl)
theorem dX3_splits_94 : decode cX3_splits 94 = .ok (.istore 4, 2) := dk_54 4 (dk_at dksX3_splits_4 0 rfl rfl)
theorem dX3_splits_96 : decode cX3_splits 96 = .ok (.iload 4, 2) := dk_21 4 (dk_at dksX3_splits_4 2 rfl rfl)
theorem dX3_splits_98 : decode cX3_splits 98 = .ok (.aload_n 0, 1) := dk_42 (dk_at dksX3_splits_4 4 rfl rfl)
theorem dX3_splits_99 : decode cX3_splits 99 = .ok (.getfield 24, 3) := dk_180 0 24 (dk_at dksX3_splits_4 5 rfl rfl)
theorem dX3_splits_102 : decode cX3_splits 102 = .ok (.bipush 8, 2) := dk_16 8 (dk_at dksX3_splits_4 8 rfl rfl)
theorem dX3_splits_104 : decode cX3_splits 104 = .ok (.iaload, 1) := dk_46 (dk_at dksX3_splits_4 10 rfl rfl)
theorem dX3_splits_105 : decode cX3_splits 105 = .ok (.if_icmp .ge 47, 3) := dk_162 0 47 (dk_at dksX3_splits_4 11 rfl rfl)
theorem dX3_splits_108 : decode cX3_splits 108 = .ok (.aload_n 0, 1) := dk_42 (dk_at dksX3_splits_4 14 rfl rfl)
theorem dX3_splits_109 : decode cX3_splits 109 = .ok (.aload_n 0, 1) := dk_42 (dk_at dksX3_splits_4 15 rfl rfl)
theorem dX3_splits_110 : decode cX3_splits 110 = .ok (.getfield 20, 3) := dk_180 0 20 (dk_at dksX3_splits_4 16 rfl rfl)
theorem dX3_splits_113 : decode cX3_splits 113 = .ok (.sipush 512, 3) := dk_17 2 0 (dk_at dksX3_splits_4 19 rfl rfl)
theorem dX3_splits_116 : decode cX3_splits 116 = .ok (.iload 4, 2) := dk_21 4 (dk_at dksX3_splits_4 22 rfl rfl)
theorem dX3_splits_118 : decode cX3_splits 118 = .ok (.iadd, 1) := dk_96 (dk_at dksX3_splits_5 0 rfl rfl)
theorem dX3_splits_119 : decode cX3_splits 119 = .ok (.laload, 1) := dk_47 (dk_at dksX3_splits_5 1 rfl rfl)
theorem dX3_splits_120 : decode cX3_splits 120 = .ok (.ldc2_w 230, 3) := dk_20 0 230 (dk_at dksX3_splits_5 2 rfl rfl)
theorem dX3_splits_123 : decode cX3_splits 123 = .ok (.lcmp, 1) := dk_148 (dk_at dksX3_splits_5 5 rfl rfl)
theorem dX3_splits_124 : decode cX3_splits 124 = .ok (.ifCond .ge 7, 3) := dk_156 0 7 (dk_at dksX3_splits_5 6 rfl rfl)
theorem dX3_splits_127 : decode cX3_splits 127 = .ok (.iload_n 2, 1) := dk_28 (dk_at dksX3_splits_5 9 rfl rfl)
theorem dX3_splits_128 : decode cX3_splits 128 = .ok (.goto 4, 3) := dk_167 0 4 (dk_at dksX3_splits_5 10 rfl rfl)
theorem dX3_splits_131 : decode cX3_splits 131 = .ok (.iload_n 3, 1) := dk_29 (dk_at dksX3_splits_5 13 rfl rfl)
theorem dX3_splits_132 : decode cX3_splits 132 = .ok (.aload_n 0, 1) := dk_42 (dk_at dksX3_splits_5 14 rfl rfl)
theorem dX3_splits_133 : decode cX3_splits 133 = .ok (.getfield 20, 3) := dk_180 0 20 (dk_at dksX3_splits_5 15 rfl rfl)
theorem dX3_splits_136 : decode cX3_splits 136 = .ok (.sipush 512, 3) := dk_17 2 0 (dk_at dksX3_splits_5 18 rfl rfl)
theorem dX3_splits_139 : decode cX3_splits 139 = .ok (.iload 4, 2) := dk_21 4 (dk_at dksX3_splits_5 21 rfl rfl)
theorem dX3_splits_141 : decode cX3_splits 141 = .ok (.iadd, 1) := dk_96 (dk_at dksX3_splits_5 23 rfl rfl)
theorem dX3_splits_142 : decode cX3_splits 142 = .ok (.laload, 1) := dk_47 (dk_at dksX3_splits_6 0 rfl rfl)
theorem dX3_splits_143 : decode cX3_splits 143 = .ok (.invokevirtual 103, 3) := dk_182 0 103 (dk_at dksX3_splits_6 1 rfl rfl)
theorem dX3_splits_146 : decode cX3_splits 146 = .ok (.iinc 4 1, 3) := dk_132 4 1 (dk_at dksX3_splits_6 4 rfl rfl)
theorem dX3_splits_149 : decode cX3_splits 149 = .ok (.goto (-53), 3) := dk_167 255 203 (dk_at dksX3_splits_6 7 rfl rfl)
theorem dX3_splits_152 : decode cX3_splits 152 = .ok (.aload_n 0, 1) := dk_42 (dk_at dksX3_splits_6 10 rfl rfl)
theorem dX3_splits_153 : decode cX3_splits 153 = .ok (.iload_n 2, 1) := dk_28 (dk_at dksX3_splits_6 11 rfl rfl)
theorem dX3_splits_154 : decode cX3_splits 154 = .ok (.invokevirtual 155, 3) := dk_182 0 155 (dk_at dksX3_splits_6 12 rfl rfl)
theorem dX3_splits_157 : decode cX3_splits 157 = .ok (.aload_n 0, 1) := dk_42 (dk_at dksX3_splits_6 15 rfl rfl)
theorem dX3_splits_158 : decode cX3_splits 158 = .ok (.iload_n 3, 1) := dk_29 (dk_at dksX3_splits_6 16 rfl rfl)
theorem dX3_splits_159 : decode cX3_splits 159 = .ok (.invokevirtual 155, 3) := dk_182 0 155 (dk_at dksX3_splits_6 17 rfl rfl)
theorem dX3_splits_162 : decode cX3_splits 162 = .ok (.aload_n 0, 1) := dk_42 (dk_at dksX3_splits_6 20 rfl rfl)
theorem dX3_splits_163 : decode cX3_splits 163 = .ok (.getfield 24, 3) := dk_180 0 24 (dk_at dksX3_splits_6 21 rfl rfl)
theorem dX3_splits_166 : decode cX3_splits 166 = .ok (.iload_n 2, 1) := dk_28 (dk_at dksX3_splits_7 0 rfl rfl)
theorem dX3_splits_167 : decode cX3_splits 167 = .ok (.iaload, 1) := dk_46 (dk_at dksX3_splits_7 1 rfl rfl)
theorem dX3_splits_168 : decode cX3_splits 168 = .ok (.ireturn, 1) := dk_172 (dk_at dksX3_splits_7 2 rfl rfl)
abbrev cX3_guess : ByteArray := prog_10_method_63_code
def yX3_guess : MethodName := ⟨RX3, "guess", "(I)I"⟩
def dkwX3_guess_1 : List UInt8 := [181, 0, 54, 42, 42, 180, 0, 182, 133, 182, 0, 81, 42, 42, 27, 182, 0, 195, 133, 182, 0, 81, 28, 172]
abbrev dktX3_guess_1 : List UInt8 := dkwX3_guess_1 ++ []
def dkwX3_guess_0 : List UInt8 := [42, 3, 181, 0, 51, 27, 184, 0, 111, 154, 0, 5, 2, 172, 42, 27, 182, 0, 211, 61, 42, 3]
abbrev dktX3_guess_0 : List UInt8 := dkwX3_guess_0 ++ dktX3_guess_1
theorem dksX3_guess_0 : cX3_guess.data.toList.drop 0 = dktX3_guess_0 := by decide +kernel
theorem dksX3_guess_1 : cX3_guess.data.toList.drop 22 = dktX3_guess_1 := dk_seg dksX3_guess_0 22 rfl rfl
theorem dX3_guess_0 : decode cX3_guess 0 = .ok (.aload_n 0, 1) := dk_42 (dk_at dksX3_guess_0 0 rfl rfl)
theorem dX3_guess_1 : decode cX3_guess 1 = .ok (.iconst 0, 1) := dk_3 (dk_at dksX3_guess_0 1 rfl rfl)
theorem dX3_guess_2 : decode cX3_guess 2 = .ok (.putfield 51, 3) := dk_181 0 51 (dk_at dksX3_guess_0 2 rfl rfl)
theorem dX3_guess_5 : decode cX3_guess 5 = .ok (.iload_n 1, 1) := dk_27 (dk_at dksX3_guess_0 5 rfl rfl)
theorem dX3_guess_6 : decode cX3_guess 6 = .ok (.invokestatic 111, 3) := dk_184 0 111 (dk_at dksX3_guess_0 6 rfl rfl)
theorem dX3_guess_9 : decode cX3_guess 9 = .ok (.ifCond .ne 5, 3) := dk_154 0 5 (dk_at dksX3_guess_0 9 rfl rfl)
theorem dX3_guess_12 : decode cX3_guess 12 = .ok (.iconst (-1), 1) := dk_2 (dk_at dksX3_guess_0 12 rfl rfl)
theorem dX3_guess_13 : decode cX3_guess 13 = .ok (.ireturn, 1) := dk_172 (dk_at dksX3_guess_0 13 rfl rfl)
theorem dX3_guess_14 : decode cX3_guess 14 = .ok (.aload_n 0, 1) := dk_42 (dk_at dksX3_guess_0 14 rfl rfl)
theorem dX3_guess_15 : decode cX3_guess 15 = .ok (.iload_n 1, 1) := dk_27 (dk_at dksX3_guess_0 15 rfl rfl)
theorem dX3_guess_16 : decode cX3_guess 16 = .ok (.invokevirtual 211, 3) := dk_182 0 211 (dk_at dksX3_guess_0 16 rfl rfl)
theorem dX3_guess_19 : decode cX3_guess 19 = .ok (.istore_n 2, 1) := dk_61 (dk_at dksX3_guess_0 19 rfl rfl)
theorem dX3_guess_20 : decode cX3_guess 20 = .ok (.aload_n 0, 1) := dk_42 (dk_at dksX3_guess_0 20 rfl rfl)
theorem dX3_guess_21 : decode cX3_guess 21 = .ok (.iconst 0, 1) := dk_3 (dk_at dksX3_guess_0 21 rfl rfl)
theorem dX3_guess_22 : decode cX3_guess 22 = .ok (.putfield 54, 3) := dk_181 0 54 (dk_at dksX3_guess_1 0 rfl rfl)
theorem dX3_guess_25 : decode cX3_guess 25 = .ok (.aload_n 0, 1) := dk_42 (dk_at dksX3_guess_1 3 rfl rfl)
theorem dX3_guess_26 : decode cX3_guess 26 = .ok (.aload_n 0, 1) := dk_42 (dk_at dksX3_guess_1 4 rfl rfl)
theorem dX3_guess_27 : decode cX3_guess 27 = .ok (.getfield 182, 3) := dk_180 0 182 (dk_at dksX3_guess_1 5 rfl rfl)
theorem dX3_guess_30 : decode cX3_guess 30 = .ok (.i2l, 1) := dk_133 (dk_at dksX3_guess_1 8 rfl rfl)
theorem dX3_guess_31 : decode cX3_guess 31 = .ok (.invokevirtual 81, 3) := dk_182 0 81 (dk_at dksX3_guess_1 9 rfl rfl)
theorem dX3_guess_34 : decode cX3_guess 34 = .ok (.aload_n 0, 1) := dk_42 (dk_at dksX3_guess_1 12 rfl rfl)
theorem dX3_guess_35 : decode cX3_guess 35 = .ok (.aload_n 0, 1) := dk_42 (dk_at dksX3_guess_1 13 rfl rfl)
theorem dX3_guess_36 : decode cX3_guess 36 = .ok (.iload_n 1, 1) := dk_27 (dk_at dksX3_guess_1 14 rfl rfl)
theorem dX3_guess_37 : decode cX3_guess 37 = .ok (.invokevirtual 195, 3) := dk_182 0 195 (dk_at dksX3_guess_1 15 rfl rfl)
theorem dX3_guess_40 : decode cX3_guess 40 = .ok (.i2l, 1) := dk_133 (dk_at dksX3_guess_1 18 rfl rfl)
theorem dX3_guess_41 : decode cX3_guess 41 = .ok (.invokevirtual 81, 3) := dk_182 0 81 (dk_at dksX3_guess_1 19 rfl rfl)
theorem dX3_guess_44 : decode cX3_guess 44 = .ok (.iload_n 2, 1) := dk_28 (dk_at dksX3_guess_1 22 rfl rfl)
theorem dX3_guess_45 : decode cX3_guess 45 = .ok (.ireturn, 1) := dk_172 (dk_at dksX3_guess_1 23 rfl rfl)
abbrev cX3_roughly : ByteArray := prog_10_method_64_code
def yX3_roughly : MethodName := ⟨RX3, "roughly", "(I)I"⟩
def dkwX3_roughly_1 : List UInt8 := [181, 0, 54, 42, 42, 180, 0, 182, 133, 182, 0, 81, 42, 42, 27, 182, 0, 195, 133, 182, 0, 81, 28, 172]
abbrev dktX3_roughly_1 : List UInt8 := dkwX3_roughly_1 ++ []
def dkwX3_roughly_0 : List UInt8 := [42, 3, 181, 0, 51, 27, 184, 0, 111, 154, 0, 5, 2, 172, 42, 27, 182, 0, 205, 61, 42, 3]
abbrev dktX3_roughly_0 : List UInt8 := dkwX3_roughly_0 ++ dktX3_roughly_1
theorem dksX3_roughly_0 : cX3_roughly.data.toList.drop 0 = dktX3_roughly_0 := by decide +kernel
theorem dksX3_roughly_1 : cX3_roughly.data.toList.drop 22 = dktX3_roughly_1 := dk_seg dksX3_roughly_0 22 rfl rfl
theorem dX3_roughly_0 : decode cX3_roughly 0 = .ok (.aload_n 0, 1) := dk_42 (dk_at dksX3_roughly_0 0 rfl rfl)
theorem dX3_roughly_1 : decode cX3_roughly 1 = .ok (.iconst 0, 1) := dk_3 (dk_at dksX3_roughly_0 1 rfl rfl)
theorem dX3_roughly_2 : decode cX3_roughly 2 = .ok (.putfield 51, 3) := dk_181 0 51 (dk_at dksX3_roughly_0 2 rfl rfl)
theorem dX3_roughly_5 : decode cX3_roughly 5 = .ok (.iload_n 1, 1) := dk_27 (dk_at dksX3_roughly_0 5 rfl rfl)
theorem dX3_roughly_6 : decode cX3_roughly 6 = .ok (.invokestatic 111, 3) := dk_184 0 111 (dk_at dksX3_roughly_0 6 rfl rfl)
theorem dX3_roughly_9 : decode cX3_roughly 9 = .ok (.ifCond .ne 5, 3) := dk_154 0 5 (dk_at dksX3_roughly_0 9 rfl rfl)
theorem dX3_roughly_12 : decode cX3_roughly 12 = .ok (.iconst (-1), 1) := dk_2 (dk_at dksX3_roughly_0 12 rfl rfl)
theorem dX3_roughly_13 : decode cX3_roughly 13 = .ok (.ireturn, 1) := dk_172 (dk_at dksX3_roughly_0 13 rfl rfl)
theorem dX3_roughly_14 : decode cX3_roughly 14 = .ok (.aload_n 0, 1) := dk_42 (dk_at dksX3_roughly_0 14 rfl rfl)
theorem dX3_roughly_15 : decode cX3_roughly 15 = .ok (.iload_n 1, 1) := dk_27 (dk_at dksX3_roughly_0 15 rfl rfl)
theorem dX3_roughly_16 : decode cX3_roughly 16 = .ok (.invokevirtual 205, 3) := dk_182 0 205 (dk_at dksX3_roughly_0 16 rfl rfl)
theorem dX3_roughly_19 : decode cX3_roughly 19 = .ok (.istore_n 2, 1) := dk_61 (dk_at dksX3_roughly_0 19 rfl rfl)
theorem dX3_roughly_20 : decode cX3_roughly 20 = .ok (.aload_n 0, 1) := dk_42 (dk_at dksX3_roughly_0 20 rfl rfl)
theorem dX3_roughly_21 : decode cX3_roughly 21 = .ok (.iconst 0, 1) := dk_3 (dk_at dksX3_roughly_0 21 rfl rfl)
theorem dX3_roughly_22 : decode cX3_roughly 22 = .ok (.putfield 54, 3) := dk_181 0 54 (dk_at dksX3_roughly_1 0 rfl rfl)
theorem dX3_roughly_25 : decode cX3_roughly 25 = .ok (.aload_n 0, 1) := dk_42 (dk_at dksX3_roughly_1 3 rfl rfl)
theorem dX3_roughly_26 : decode cX3_roughly 26 = .ok (.aload_n 0, 1) := dk_42 (dk_at dksX3_roughly_1 4 rfl rfl)
theorem dX3_roughly_27 : decode cX3_roughly 27 = .ok (.getfield 182, 3) := dk_180 0 182 (dk_at dksX3_roughly_1 5 rfl rfl)
theorem dX3_roughly_30 : decode cX3_roughly 30 = .ok (.i2l, 1) := dk_133 (dk_at dksX3_roughly_1 8 rfl rfl)
theorem dX3_roughly_31 : decode cX3_roughly 31 = .ok (.invokevirtual 81, 3) := dk_182 0 81 (dk_at dksX3_roughly_1 9 rfl rfl)
theorem dX3_roughly_34 : decode cX3_roughly 34 = .ok (.aload_n 0, 1) := dk_42 (dk_at dksX3_roughly_1 12 rfl rfl)
theorem dX3_roughly_35 : decode cX3_roughly 35 = .ok (.aload_n 0, 1) := dk_42 (dk_at dksX3_roughly_1 13 rfl rfl)
theorem dX3_roughly_36 : decode cX3_roughly 36 = .ok (.iload_n 1, 1) := dk_27 (dk_at dksX3_roughly_1 14 rfl rfl)
theorem dX3_roughly_37 : decode cX3_roughly 37 = .ok (.invokevirtual 195, 3) := dk_182 0 195 (dk_at dksX3_roughly_1 15 rfl rfl)
theorem dX3_roughly_40 : decode cX3_roughly 40 = .ok (.i2l, 1) := dk_133 (dk_at dksX3_roughly_1 18 rfl rfl)
theorem dX3_roughly_41 : decode cX3_roughly 41 = .ok (.invokevirtual 81, 3) := dk_182 0 81 (dk_at dksX3_roughly_1 19 rfl rfl)
theorem dX3_roughly_44 : decode cX3_roughly 44 = .ok (.iload_n 2, 1) := dk_28 (dk_at dksX3_roughly_1 22 rfl rfl)
theorem dX3_roughly_45 : decode cX3_roughly 45 = .ok (.ireturn, 1) := dk_172 (dk_at dksX3_roughly_1 23 rfl rfl)
abbrev cX3_form : ByteArray := prog_10_method_66_code
def yX3_form : MethodName := ⟨RX3, "form", "(II)I"⟩
def dkwX3_form_4 : List UInt8 := [172, 42, 27, 182, 0, 232, 172, 42, 27, 182, 0, 195, 172, 2, 172]
abbrev dktX3_form_4 : List UInt8 := dkwX3_form_4 ++ []
def dkwX3_form_3 : List UInt8 := [167, 0, 4, 3, 172, 42, 180, 0, 16, 27, 51, 153, 0, 7, 2, 167, 0, 9, 42, 180, 0, 24, 27, 46]
abbrev dktX3_form_3 : List UInt8 := dkwX3_form_3 ++ dktX3_form_4
def dkwX3_form_2 : List UInt8 := [42, 180, 0, 7, 27, 46, 172, 42, 180, 0, 13, 27, 46, 172, 42, 180, 0, 16, 27, 51, 153, 0, 7, 4]
abbrev dktX3_form_2 : List UInt8 := dkwX3_form_2 ++ dktX3_form_3
def dkwX3_form_1 : List UInt8 := [170, 0, 0, 0, 98, 0, 0, 0, 0, 0, 0, 0, 5, 0, 0, 0, 37, 0, 0, 0, 44, 0, 0, 0, 51, 0, 0, 0, 66, 0, 0, 0, 86, 0, 0, 0, 92]
abbrev dktX3_form_1 : List UInt8 := dkwX3_form_1 ++ dktX3_form_2
def dkwX3_form_0 : List UInt8 := [42, 3, 181, 0, 51, 27, 184, 0, 111, 154, 0, 5, 2, 172, 28]
abbrev dktX3_form_0 : List UInt8 := dkwX3_form_0 ++ dktX3_form_1
theorem dksX3_form_0 : cX3_form.data.toList.drop 0 = dktX3_form_0 := by decide +kernel
theorem dksX3_form_1 : cX3_form.data.toList.drop 15 = dktX3_form_1 := dk_seg dksX3_form_0 15 rfl rfl
theorem dksX3_form_2 : cX3_form.data.toList.drop 52 = dktX3_form_2 := dk_seg dksX3_form_1 37 rfl rfl
theorem dksX3_form_3 : cX3_form.data.toList.drop 76 = dktX3_form_3 := dk_seg dksX3_form_2 24 rfl rfl
theorem dksX3_form_4 : cX3_form.data.toList.drop 100 = dktX3_form_4 := dk_seg dksX3_form_3 24 rfl rfl
theorem dX3_form_0 : decode cX3_form 0 = .ok (.aload_n 0, 1) := dk_42 (dk_at dksX3_form_0 0 rfl rfl)
theorem dX3_form_1 : decode cX3_form 1 = .ok (.iconst 0, 1) := dk_3 (dk_at dksX3_form_0 1 rfl rfl)
theorem dX3_form_2 : decode cX3_form 2 = .ok (.putfield 51, 3) := dk_181 0 51 (dk_at dksX3_form_0 2 rfl rfl)
theorem dX3_form_5 : decode cX3_form 5 = .ok (.iload_n 1, 1) := dk_27 (dk_at dksX3_form_0 5 rfl rfl)
theorem dX3_form_6 : decode cX3_form 6 = .ok (.invokestatic 111, 3) := dk_184 0 111 (dk_at dksX3_form_0 6 rfl rfl)
theorem dX3_form_9 : decode cX3_form 9 = .ok (.ifCond .ne 5, 3) := dk_154 0 5 (dk_at dksX3_form_0 9 rfl rfl)
theorem dX3_form_12 : decode cX3_form 12 = .ok (.iconst (-1), 1) := dk_2 (dk_at dksX3_form_0 12 rfl rfl)
theorem dX3_form_13 : decode cX3_form 13 = .ok (.ireturn, 1) := dk_172 (dk_at dksX3_form_0 13 rfl rfl)
theorem dX3_form_14 : decode cX3_form 14 = .ok (.iload_n 2, 1) := dk_28 (dk_at dksX3_form_0 14 rfl rfl)
theorem dX3_form_15 : decode cX3_form 15 = .ok (.tableswitch 98 0 5 #[37, 44, 51, 66, 86, 92], 37) := by decide +kernel
theorem dX3_form_52 : decode cX3_form 52 = .ok (.aload_n 0, 1) := dk_42 (dk_at dksX3_form_2 0 rfl rfl)
theorem dX3_form_53 : decode cX3_form 53 = .ok (.getfield 7, 3) := dk_180 0 7 (dk_at dksX3_form_2 1 rfl rfl)
theorem dX3_form_56 : decode cX3_form 56 = .ok (.iload_n 1, 1) := dk_27 (dk_at dksX3_form_2 4 rfl rfl)
theorem dX3_form_57 : decode cX3_form 57 = .ok (.iaload, 1) := dk_46 (dk_at dksX3_form_2 5 rfl rfl)
theorem dX3_form_58 : decode cX3_form 58 = .ok (.ireturn, 1) := dk_172 (dk_at dksX3_form_2 6 rfl rfl)
theorem dX3_form_59 : decode cX3_form 59 = .ok (.aload_n 0, 1) := dk_42 (dk_at dksX3_form_2 7 rfl rfl)
theorem dX3_form_60 : decode cX3_form 60 = .ok (.getfield 13, 3) := dk_180 0 13 (dk_at dksX3_form_2 8 rfl rfl)
theorem dX3_form_63 : decode cX3_form 63 = .ok (.iload_n 1, 1) := dk_27 (dk_at dksX3_form_2 11 rfl rfl)
theorem dX3_form_64 : decode cX3_form 64 = .ok (.iaload, 1) := dk_46 (dk_at dksX3_form_2 12 rfl rfl)
theorem dX3_form_65 : decode cX3_form 65 = .ok (.ireturn, 1) := dk_172 (dk_at dksX3_form_2 13 rfl rfl)
theorem dX3_form_66 : decode cX3_form 66 = .ok (.aload_n 0, 1) := dk_42 (dk_at dksX3_form_2 14 rfl rfl)
theorem dX3_form_67 : decode cX3_form 67 = .ok (.getfield 16, 3) := dk_180 0 16 (dk_at dksX3_form_2 15 rfl rfl)
theorem dX3_form_70 : decode cX3_form 70 = .ok (.iload_n 1, 1) := dk_27 (dk_at dksX3_form_2 18 rfl rfl)
theorem dX3_form_71 : decode cX3_form 71 = .ok (.baload, 1) := dk_51 (dk_at dksX3_form_2 19 rfl rfl)
theorem dX3_form_72 : decode cX3_form 72 = .ok (.ifCond .eq 7, 3) := dk_153 0 7 (dk_at dksX3_form_2 20 rfl rfl)
theorem dX3_form_75 : decode cX3_form 75 = .ok (.iconst 1, 1) := dk_4 (dk_at dksX3_form_2 23 rfl rfl)
theorem dX3_form_76 : decode cX3_form 76 = .ok (.goto 4, 3) := dk_167 0 4 (dk_at dksX3_form_3 0 rfl rfl)
theorem dX3_form_79 : decode cX3_form 79 = .ok (.iconst 0, 1) := dk_3 (dk_at dksX3_form_3 3 rfl rfl)
theorem dX3_form_80 : decode cX3_form 80 = .ok (.ireturn, 1) := dk_172 (dk_at dksX3_form_3 4 rfl rfl)
theorem dX3_form_81 : decode cX3_form 81 = .ok (.aload_n 0, 1) := dk_42 (dk_at dksX3_form_3 5 rfl rfl)
theorem dX3_form_82 : decode cX3_form 82 = .ok (.getfield 16, 3) := dk_180 0 16 (dk_at dksX3_form_3 6 rfl rfl)
theorem dX3_form_85 : decode cX3_form 85 = .ok (.iload_n 1, 1) := dk_27 (dk_at dksX3_form_3 9 rfl rfl)
theorem dX3_form_86 : decode cX3_form 86 = .ok (.baload, 1) := dk_51 (dk_at dksX3_form_3 10 rfl rfl)
theorem dX3_form_87 : decode cX3_form 87 = .ok (.ifCond .eq 7, 3) := dk_153 0 7 (dk_at dksX3_form_3 11 rfl rfl)
theorem dX3_form_90 : decode cX3_form 90 = .ok (.iconst (-1), 1) := dk_2 (dk_at dksX3_form_3 14 rfl rfl)
theorem dX3_form_91 : decode cX3_form 91 = .ok (.goto 9, 3) := dk_167 0 9 (dk_at dksX3_form_3 15 rfl rfl)
theorem dX3_form_94 : decode cX3_form 94 = .ok (.aload_n 0, 1) := dk_42 (dk_at dksX3_form_3 18 rfl rfl)
theorem dX3_form_95 : decode cX3_form 95 = .ok (.getfield 24, 3) := dk_180 0 24 (dk_at dksX3_form_3 19 rfl rfl)
theorem dX3_form_98 : decode cX3_form 98 = .ok (.iload_n 1, 1) := dk_27 (dk_at dksX3_form_3 22 rfl rfl)
theorem dX3_form_99 : decode cX3_form 99 = .ok (.iaload, 1) := dk_46 (dk_at dksX3_form_3 23 rfl rfl)
theorem dX3_form_100 : decode cX3_form 100 = .ok (.ireturn, 1) := dk_172 (dk_at dksX3_form_4 0 rfl rfl)
theorem dX3_form_101 : decode cX3_form 101 = .ok (.aload_n 0, 1) := dk_42 (dk_at dksX3_form_4 1 rfl rfl)
theorem dX3_form_102 : decode cX3_form 102 = .ok (.iload_n 1, 1) := dk_27 (dk_at dksX3_form_4 2 rfl rfl)
theorem dX3_form_103 : decode cX3_form 103 = .ok (.invokevirtual 232, 3) := dk_182 0 232 (dk_at dksX3_form_4 3 rfl rfl)
theorem dX3_form_106 : decode cX3_form 106 = .ok (.ireturn, 1) := dk_172 (dk_at dksX3_form_4 6 rfl rfl)
theorem dX3_form_107 : decode cX3_form 107 = .ok (.aload_n 0, 1) := dk_42 (dk_at dksX3_form_4 7 rfl rfl)
theorem dX3_form_108 : decode cX3_form 108 = .ok (.iload_n 1, 1) := dk_27 (dk_at dksX3_form_4 8 rfl rfl)
theorem dX3_form_109 : decode cX3_form 109 = .ok (.invokevirtual 195, 3) := dk_182 0 195 (dk_at dksX3_form_4 9 rfl rfl)
theorem dX3_form_112 : decode cX3_form 112 = .ok (.ireturn, 1) := dk_172 (dk_at dksX3_form_4 12 rfl rfl)
theorem dX3_form_113 : decode cX3_form 113 = .ok (.iconst (-1), 1) := dk_2 (dk_at dksX3_form_4 13 rfl rfl)
theorem dX3_form_114 : decode cX3_form 114 = .ok (.ireturn, 1) := dk_172 (dk_at dksX3_form_4 14 rfl rfl)
abbrev cX3_greatest : ByteArray := prog_10_method_65_code
def yX3_greatest : MethodName := ⟨RX3, "greatest", "(I)I"⟩
def dkwX3_greatest_1 : List UInt8 := [184, 0, 161, 61, 132, 3, 1, 167, 255, 229, 28, 172]
abbrev dktX3_greatest_1 : List UInt8 := dkwX3_greatest_1 ++ []
def dkwX3_greatest_0 : List UInt8 := [3, 61, 3, 62, 29, 42, 27, 182, 0, 117, 162, 0, 24, 28, 42, 180, 0, 27, 27, 29, 184, 0, 92, 46]
abbrev dktX3_greatest_0 : List UInt8 := dkwX3_greatest_0 ++ dktX3_greatest_1
theorem dksX3_greatest_0 : cX3_greatest.data.toList.drop 0 = dktX3_greatest_0 := by decide +kernel
theorem dksX3_greatest_1 : cX3_greatest.data.toList.drop 24 = dktX3_greatest_1 := dk_seg dksX3_greatest_0 24 rfl rfl
theorem dX3_greatest_0 : decode cX3_greatest 0 = .ok (.iconst 0, 1) := dk_3 (dk_at dksX3_greatest_0 0 rfl rfl)
theorem dX3_greatest_1 : decode cX3_greatest 1 = .ok (.istore_n 2, 1) := dk_61 (dk_at dksX3_greatest_0 1 rfl rfl)
theorem dX3_greatest_2 : decode cX3_greatest 2 = .ok (.iconst 0, 1) := dk_3 (dk_at dksX3_greatest_0 2 rfl rfl)
theorem dX3_greatest_3 : decode cX3_greatest 3 = .ok (.istore_n 3, 1) := dk_62 (dk_at dksX3_greatest_0 3 rfl rfl)
theorem dX3_greatest_4 : decode cX3_greatest 4 = .ok (.iload_n 3, 1) := dk_29 (dk_at dksX3_greatest_0 4 rfl rfl)
theorem dX3_greatest_5 : decode cX3_greatest 5 = .ok (.aload_n 0, 1) := dk_42 (dk_at dksX3_greatest_0 5 rfl rfl)
theorem dX3_greatest_6 : decode cX3_greatest 6 = .ok (.iload_n 1, 1) := dk_27 (dk_at dksX3_greatest_0 6 rfl rfl)
theorem dX3_greatest_7 : decode cX3_greatest 7 = .ok (.invokevirtual 117, 3) := dk_182 0 117 (dk_at dksX3_greatest_0 7 rfl rfl)
theorem dX3_greatest_10 : decode cX3_greatest 10 = .ok (.if_icmp .ge 24, 3) := dk_162 0 24 (dk_at dksX3_greatest_0 10 rfl rfl)
theorem dX3_greatest_13 : decode cX3_greatest 13 = .ok (.iload_n 2, 1) := dk_28 (dk_at dksX3_greatest_0 13 rfl rfl)
theorem dX3_greatest_14 : decode cX3_greatest 14 = .ok (.aload_n 0, 1) := dk_42 (dk_at dksX3_greatest_0 14 rfl rfl)
theorem dX3_greatest_15 : decode cX3_greatest 15 = .ok (.getfield 27, 3) := dk_180 0 27 (dk_at dksX3_greatest_0 15 rfl rfl)
theorem dX3_greatest_18 : decode cX3_greatest 18 = .ok (.iload_n 1, 1) := dk_27 (dk_at dksX3_greatest_0 18 rfl rfl)
theorem dX3_greatest_19 : decode cX3_greatest 19 = .ok (.iload_n 3, 1) := dk_29 (dk_at dksX3_greatest_0 19 rfl rfl)
theorem dX3_greatest_20 : decode cX3_greatest 20 = .ok (.invokestatic 92, 3) := dk_184 0 92 (dk_at dksX3_greatest_0 20 rfl rfl)
theorem dX3_greatest_23 : decode cX3_greatest 23 = .ok (.iaload, 1) := dk_46 (dk_at dksX3_greatest_0 23 rfl rfl)
theorem dX3_greatest_24 : decode cX3_greatest 24 = .ok (.invokestatic 161, 3) := dk_184 0 161 (dk_at dksX3_greatest_1 0 rfl rfl)
theorem dX3_greatest_27 : decode cX3_greatest 27 = .ok (.istore_n 2, 1) := dk_61 (dk_at dksX3_greatest_1 3 rfl rfl)
theorem dX3_greatest_28 : decode cX3_greatest 28 = .ok (.iinc 3 1, 3) := dk_132 3 1 (dk_at dksX3_greatest_1 4 rfl rfl)
theorem dX3_greatest_31 : decode cX3_greatest 31 = .ok (.goto (-27), 3) := dk_167 255 229 (dk_at dksX3_greatest_1 7 rfl rfl)
theorem dX3_greatest_34 : decode cX3_greatest 34 = .ok (.iload_n 2, 1) := dk_28 (dk_at dksX3_greatest_1 10 rfl rfl)
theorem dX3_greatest_35 : decode cX3_greatest 35 = .ok (.ireturn, 1) := dk_172 (dk_at dksX3_greatest_1 11 rfl rfl)
abbrev cX3_rank : ByteArray := prog_10_method_67_code
def yX3_rank : MethodName := ⟨RX3, "rank", "(II)I"⟩
def dkwX3_rank_1 : List UInt8 := [184, 0, 60, 153, 0, 16, 42, 180, 0, 27, 27, 28, 184, 0, 92, 46, 167, 0, 4, 2, 172]
abbrev dktX3_rank_1 : List UInt8 := dkwX3_rank_1 ++ []
def dkwX3_rank_0 : List UInt8 := [42, 3, 181, 0, 51, 27, 184, 0, 111, 153, 0, 33, 28, 133, 9, 42, 27, 182, 0, 117, 4, 100, 133]
abbrev dktX3_rank_0 : List UInt8 := dkwX3_rank_0 ++ dktX3_rank_1
theorem dksX3_rank_0 : cX3_rank.data.toList.drop 0 = dktX3_rank_0 := by decide +kernel
theorem dksX3_rank_1 : cX3_rank.data.toList.drop 23 = dktX3_rank_1 := dk_seg dksX3_rank_0 23 rfl rfl
theorem dX3_rank_0 : decode cX3_rank 0 = .ok (.aload_n 0, 1) := dk_42 (dk_at dksX3_rank_0 0 rfl rfl)
theorem dX3_rank_1 : decode cX3_rank 1 = .ok (.iconst 0, 1) := dk_3 (dk_at dksX3_rank_0 1 rfl rfl)
theorem dX3_rank_2 : decode cX3_rank 2 = .ok (.putfield 51, 3) := dk_181 0 51 (dk_at dksX3_rank_0 2 rfl rfl)
theorem dX3_rank_5 : decode cX3_rank 5 = .ok (.iload_n 1, 1) := dk_27 (dk_at dksX3_rank_0 5 rfl rfl)
theorem dX3_rank_6 : decode cX3_rank 6 = .ok (.invokestatic 111, 3) := dk_184 0 111 (dk_at dksX3_rank_0 6 rfl rfl)
theorem dX3_rank_9 : decode cX3_rank 9 = .ok (.ifCond .eq 33, 3) := dk_153 0 33 (dk_at dksX3_rank_0 9 rfl rfl)
theorem dX3_rank_12 : decode cX3_rank 12 = .ok (.iload_n 2, 1) := dk_28 (dk_at dksX3_rank_0 12 rfl rfl)
theorem dX3_rank_13 : decode cX3_rank 13 = .ok (.i2l, 1) := dk_133 (dk_at dksX3_rank_0 13 rfl rfl)
theorem dX3_rank_14 : decode cX3_rank 14 = .ok (.lconst 0, 1) := dk_9 (dk_at dksX3_rank_0 14 rfl rfl)
theorem dX3_rank_15 : decode cX3_rank 15 = .ok (.aload_n 0, 1) := dk_42 (dk_at dksX3_rank_0 15 rfl rfl)
theorem dX3_rank_16 : decode cX3_rank 16 = .ok (.iload_n 1, 1) := dk_27 (dk_at dksX3_rank_0 16 rfl rfl)
theorem dX3_rank_17 : decode cX3_rank 17 = .ok (.invokevirtual 117, 3) := dk_182 0 117 (dk_at dksX3_rank_0 17 rfl rfl)
theorem dX3_rank_20 : decode cX3_rank 20 = .ok (.iconst 1, 1) := dk_4 (dk_at dksX3_rank_0 20 rfl rfl)
theorem dX3_rank_21 : decode cX3_rank 21 = .ok (.isub, 1) := dk_100 (dk_at dksX3_rank_0 21 rfl rfl)
theorem dX3_rank_22 : decode cX3_rank 22 = .ok (.i2l, 1) := dk_133 (dk_at dksX3_rank_0 22 rfl rfl)
theorem dX3_rank_23 : decode cX3_rank 23 = .ok (.invokestatic 60, 3) := dk_184 0 60 (dk_at dksX3_rank_1 0 rfl rfl)
theorem dX3_rank_26 : decode cX3_rank 26 = .ok (.ifCond .eq 16, 3) := dk_153 0 16 (dk_at dksX3_rank_1 3 rfl rfl)
theorem dX3_rank_29 : decode cX3_rank 29 = .ok (.aload_n 0, 1) := dk_42 (dk_at dksX3_rank_1 6 rfl rfl)
theorem dX3_rank_30 : decode cX3_rank 30 = .ok (.getfield 27, 3) := dk_180 0 27 (dk_at dksX3_rank_1 7 rfl rfl)
theorem dX3_rank_33 : decode cX3_rank 33 = .ok (.iload_n 1, 1) := dk_27 (dk_at dksX3_rank_1 10 rfl rfl)
theorem dX3_rank_34 : decode cX3_rank 34 = .ok (.iload_n 2, 1) := dk_28 (dk_at dksX3_rank_1 11 rfl rfl)
theorem dX3_rank_35 : decode cX3_rank 35 = .ok (.invokestatic 92, 3) := dk_184 0 92 (dk_at dksX3_rank_1 12 rfl rfl)
theorem dX3_rank_38 : decode cX3_rank 38 = .ok (.iaload, 1) := dk_46 (dk_at dksX3_rank_1 15 rfl rfl)
theorem dX3_rank_39 : decode cX3_rank 39 = .ok (.goto 4, 3) := dk_167 0 4 (dk_at dksX3_rank_1 16 rfl rfl)
theorem dX3_rank_42 : decode cX3_rank 42 = .ok (.iconst (-1), 1) := dk_2 (dk_at dksX3_rank_1 19 rfl rfl)
theorem dX3_rank_43 : decode cX3_rank 43 = .ok (.ireturn, 1) := dk_172 (dk_at dksX3_rank_1 20 rfl rfl)
abbrev cX3_ranks : ByteArray := prog_10_method_68_code
def yX3_ranks : MethodName := ⟨RX3, "ranks", "(II)I"⟩
def dkwX3_ranks_4 : List UInt8 := [181, 0, 54, 42, 21, 4, 133, 182, 0, 81, 42, 21, 5, 133, 182, 0, 81, 29, 172]
abbrev dktX3_ranks_4 : List UInt8 := dkwX3_ranks_4 ++ []
def dkwX3_ranks_3 : List UInt8 := [167, 0, 5, 21, 4, 54, 4, 21, 6, 54, 5, 132, 3, 1, 132, 6, 1, 167, 255, 205, 42, 3]
abbrev dktX3_ranks_3 : List UInt8 := dkwX3_ranks_3 ++ dktX3_ranks_4
def dkwX3_ranks_2 : List UInt8 := [180, 0, 27, 27, 21, 6, 184, 0, 92, 46, 28, 159, 0, 6, 167, 0, 23, 29, 154, 0, 8, 21, 6]
abbrev dktX3_ranks_2 : List UInt8 := dkwX3_ranks_2 ++ dktX3_ranks_3
def dkwX3_ranks_1 : List UInt8 := [2, 172, 3, 62, 2, 54, 4, 2, 54, 5, 3, 54, 6, 21, 6, 42, 27, 182, 0, 117, 162, 0, 47, 42]
abbrev dktX3_ranks_1 : List UInt8 := dkwX3_ranks_1 ++ dktX3_ranks_2
def dkwX3_ranks_0 : List UInt8 := [42, 3, 181, 0, 51, 27, 184, 0, 111, 153, 0, 15, 28, 133, 9, 20, 0, 235, 184, 0, 60, 154, 0, 5]
abbrev dktX3_ranks_0 : List UInt8 := dkwX3_ranks_0 ++ dktX3_ranks_1
theorem dksX3_ranks_0 : cX3_ranks.data.toList.drop 0 = dktX3_ranks_0 := by decide +kernel
theorem dksX3_ranks_1 : cX3_ranks.data.toList.drop 24 = dktX3_ranks_1 := dk_seg dksX3_ranks_0 24 rfl rfl
theorem dksX3_ranks_2 : cX3_ranks.data.toList.drop 48 = dktX3_ranks_2 := dk_seg dksX3_ranks_1 24 rfl rfl
theorem dksX3_ranks_3 : cX3_ranks.data.toList.drop 71 = dktX3_ranks_3 := dk_seg dksX3_ranks_2 23 rfl rfl
theorem dksX3_ranks_4 : cX3_ranks.data.toList.drop 93 = dktX3_ranks_4 := dk_seg dksX3_ranks_3 22 rfl rfl
theorem dX3_ranks_0 : decode cX3_ranks 0 = .ok (.aload_n 0, 1) := dk_42 (dk_at dksX3_ranks_0 0 rfl rfl)
theorem dX3_ranks_1 : decode cX3_ranks 1 = .ok (.iconst 0, 1) := dk_3 (dk_at dksX3_ranks_0 1 rfl rfl)
theorem dX3_ranks_2 : decode cX3_ranks 2 = .ok (.putfield 51, 3) := dk_181 0 51 (dk_at dksX3_ranks_0 2 rfl rfl)
theorem dX3_ranks_5 : decode cX3_ranks 5 = .ok (.iload_n 1, 1) := dk_27 (dk_at dksX3_ranks_0 5 rfl rfl)
theorem dX3_ranks_6 : decode cX3_ranks 6 = .ok (.invokestatic 111, 3) := dk_184 0 111 (dk_at dksX3_ranks_0 6 rfl rfl)
theorem dX3_ranks_9 : decode cX3_ranks 9 = .ok (.ifCond .eq 15, 3) := dk_153 0 15 (dk_at dksX3_ranks_0 9 rfl rfl)
theorem dX3_ranks_12 : decode cX3_ranks 12 = .ok (.iload_n 2, 1) := dk_28 (dk_at dksX3_ranks_0 12 rfl rfl)
theorem dX3_ranks_13 : decode cX3_ranks 13 = .ok (.i2l, 1) := dk_133 (dk_at dksX3_ranks_0 13 rfl rfl)
theorem dX3_ranks_14 : decode cX3_ranks 14 = .ok (.lconst 0, 1) := dk_9 (dk_at dksX3_ranks_0 14 rfl rfl)
theorem dX3_ranks_15 : decode cX3_ranks 15 = .ok (.ldc2_w 235, 3) := dk_20 0 235 (dk_at dksX3_ranks_0 15 rfl rfl)
theorem dX3_ranks_18 : decode cX3_ranks 18 = .ok (.invokestatic 60, 3) := dk_184 0 60 (dk_at dksX3_ranks_0 18 rfl rfl)
theorem dX3_ranks_21 : decode cX3_ranks 21 = .ok (.ifCond .ne 5, 3) := dk_154 0 5 (dk_at dksX3_ranks_0 21 rfl rfl)
theorem dX3_ranks_24 : decode cX3_ranks 24 = .ok (.iconst (-1), 1) := dk_2 (dk_at dksX3_ranks_1 0 rfl rfl)
theorem dX3_ranks_25 : decode cX3_ranks 25 = .ok (.ireturn, 1) := dk_172 (dk_at dksX3_ranks_1 1 rfl rfl)
theorem dX3_ranks_26 : decode cX3_ranks 26 = .ok (.iconst 0, 1) := dk_3 (dk_at dksX3_ranks_1 2 rfl rfl)
theorem dX3_ranks_27 : decode cX3_ranks 27 = .ok (.istore_n 3, 1) := dk_62 (dk_at dksX3_ranks_1 3 rfl rfl)
theorem dX3_ranks_28 : decode cX3_ranks 28 = .ok (.iconst (-1), 1) := dk_2 (dk_at dksX3_ranks_1 4 rfl rfl)
theorem dX3_ranks_29 : decode cX3_ranks 29 = .ok (.istore 4, 2) := dk_54 4 (dk_at dksX3_ranks_1 5 rfl rfl)
theorem dX3_ranks_31 : decode cX3_ranks 31 = .ok (.iconst (-1), 1) := dk_2 (dk_at dksX3_ranks_1 7 rfl rfl)
theorem dX3_ranks_32 : decode cX3_ranks 32 = .ok (.istore 5, 2) := dk_54 5 (dk_at dksX3_ranks_1 8 rfl rfl)
theorem dX3_ranks_34 : decode cX3_ranks 34 = .ok (.iconst 0, 1) := dk_3 (dk_at dksX3_ranks_1 10 rfl rfl)
theorem dX3_ranks_35 : decode cX3_ranks 35 = .ok (.istore 6, 2) := dk_54 6 (dk_at dksX3_ranks_1 11 rfl rfl)
theorem dX3_ranks_37 : decode cX3_ranks 37 = .ok (.iload 6, 2) := dk_21 6 (dk_at dksX3_ranks_1 13 rfl rfl)
theorem dX3_ranks_39 : decode cX3_ranks 39 = .ok (.aload_n 0, 1) := dk_42 (dk_at dksX3_ranks_1 15 rfl rfl)
theorem dX3_ranks_40 : decode cX3_ranks 40 = .ok (.iload_n 1, 1) := dk_27 (dk_at dksX3_ranks_1 16 rfl rfl)
theorem dX3_ranks_41 : decode cX3_ranks 41 = .ok (.invokevirtual 117, 3) := dk_182 0 117 (dk_at dksX3_ranks_1 17 rfl rfl)
theorem dX3_ranks_44 : decode cX3_ranks 44 = .ok (.if_icmp .ge 47, 3) := dk_162 0 47 (dk_at dksX3_ranks_1 20 rfl rfl)
theorem dX3_ranks_47 : decode cX3_ranks 47 = .ok (.aload_n 0, 1) := dk_42 (dk_at dksX3_ranks_1 23 rfl rfl)
theorem dX3_ranks_48 : decode cX3_ranks 48 = .ok (.getfield 27, 3) := dk_180 0 27 (dk_at dksX3_ranks_2 0 rfl rfl)
theorem dX3_ranks_51 : decode cX3_ranks 51 = .ok (.iload_n 1, 1) := dk_27 (dk_at dksX3_ranks_2 3 rfl rfl)
theorem dX3_ranks_52 : decode cX3_ranks 52 = .ok (.iload 6, 2) := dk_21 6 (dk_at dksX3_ranks_2 4 rfl rfl)
theorem dX3_ranks_54 : decode cX3_ranks 54 = .ok (.invokestatic 92, 3) := dk_184 0 92 (dk_at dksX3_ranks_2 6 rfl rfl)
theorem dX3_ranks_57 : decode cX3_ranks 57 = .ok (.iaload, 1) := dk_46 (dk_at dksX3_ranks_2 9 rfl rfl)
theorem dX3_ranks_58 : decode cX3_ranks 58 = .ok (.iload_n 2, 1) := dk_28 (dk_at dksX3_ranks_2 10 rfl rfl)
theorem dX3_ranks_59 : decode cX3_ranks 59 = .ok (.if_icmp .eq 6, 3) := dk_159 0 6 (dk_at dksX3_ranks_2 11 rfl rfl)
theorem dX3_ranks_62 : decode cX3_ranks 62 = .ok (.goto 23, 3) := dk_167 0 23 (dk_at dksX3_ranks_2 14 rfl rfl)
theorem dX3_ranks_65 : decode cX3_ranks 65 = .ok (.iload_n 3, 1) := dk_29 (dk_at dksX3_ranks_2 17 rfl rfl)
theorem dX3_ranks_66 : decode cX3_ranks 66 = .ok (.ifCond .ne 8, 3) := dk_154 0 8 (dk_at dksX3_ranks_2 18 rfl rfl)
theorem dX3_ranks_69 : decode cX3_ranks 69 = .ok (.iload 6, 2) := dk_21 6 (dk_at dksX3_ranks_2 21 rfl rfl)
theorem dX3_ranks_71 : decode cX3_ranks 71 = .ok (.goto 5, 3) := dk_167 0 5 (dk_at dksX3_ranks_3 0 rfl rfl)
theorem dX3_ranks_74 : decode cX3_ranks 74 = .ok (.iload 4, 2) := dk_21 4 (dk_at dksX3_ranks_3 3 rfl rfl)
theorem dX3_ranks_76 : decode cX3_ranks 76 = .ok (.istore 4, 2) := dk_54 4 (dk_at dksX3_ranks_3 5 rfl rfl)
theorem dX3_ranks_78 : decode cX3_ranks 78 = .ok (.iload 6, 2) := dk_21 6 (dk_at dksX3_ranks_3 7 rfl rfl)
theorem dX3_ranks_80 : decode cX3_ranks 80 = .ok (.istore 5, 2) := dk_54 5 (dk_at dksX3_ranks_3 9 rfl rfl)
theorem dX3_ranks_82 : decode cX3_ranks 82 = .ok (.iinc 3 1, 3) := dk_132 3 1 (dk_at dksX3_ranks_3 11 rfl rfl)
theorem dX3_ranks_85 : decode cX3_ranks 85 = .ok (.iinc 6 1, 3) := dk_132 6 1 (dk_at dksX3_ranks_3 14 rfl rfl)
theorem dX3_ranks_88 : decode cX3_ranks 88 = .ok (.goto (-51), 3) := dk_167 255 205 (dk_at dksX3_ranks_3 17 rfl rfl)
theorem dX3_ranks_91 : decode cX3_ranks 91 = .ok (.aload_n 0, 1) := dk_42 (dk_at dksX3_ranks_3 20 rfl rfl)
theorem dX3_ranks_92 : decode cX3_ranks 92 = .ok (.iconst 0, 1) := dk_3 (dk_at dksX3_ranks_3 21 rfl rfl)
theorem dX3_ranks_93 : decode cX3_ranks 93 = .ok (.putfield 54, 3) := dk_181 0 54 (dk_at dksX3_ranks_4 0 rfl rfl)
theorem dX3_ranks_96 : decode cX3_ranks 96 = .ok (.aload_n 0, 1) := dk_42 (dk_at dksX3_ranks_4 3 rfl rfl)
theorem dX3_ranks_97 : decode cX3_ranks 97 = .ok (.iload 4, 2) := dk_21 4 (dk_at dksX3_ranks_4 4 rfl rfl)
theorem dX3_ranks_99 : decode cX3_ranks 99 = .ok (.i2l, 1) := dk_133 (dk_at dksX3_ranks_4 6 rfl rfl)
theorem dX3_ranks_100 : decode cX3_ranks 100 = .ok (.invokevirtual 81, 3) := dk_182 0 81 (dk_at dksX3_ranks_4 7 rfl rfl)
theorem dX3_ranks_103 : decode cX3_ranks 103 = .ok (.aload_n 0, 1) := dk_42 (dk_at dksX3_ranks_4 10 rfl rfl)
theorem dX3_ranks_104 : decode cX3_ranks 104 = .ok (.iload 5, 2) := dk_21 5 (dk_at dksX3_ranks_4 11 rfl rfl)
theorem dX3_ranks_106 : decode cX3_ranks 106 = .ok (.i2l, 1) := dk_133 (dk_at dksX3_ranks_4 13 rfl rfl)
theorem dX3_ranks_107 : decode cX3_ranks 107 = .ok (.invokevirtual 81, 3) := dk_182 0 81 (dk_at dksX3_ranks_4 14 rfl rfl)
theorem dX3_ranks_110 : decode cX3_ranks 110 = .ok (.iload_n 3, 1) := dk_29 (dk_at dksX3_ranks_4 17 rfl rfl)
theorem dX3_ranks_111 : decode cX3_ranks 111 = .ok (.ireturn, 1) := dk_172 (dk_at dksX3_ranks_4 18 rfl rfl)
abbrev cX3_marked : ByteArray := prog_10_method_69_code
def yX3_marked : MethodName := ⟨RX3, "marked", "(II)J"⟩
def dkwX3_marked_3 : List UInt8 := [167, 0, 6, 20, 0, 237, 173]
abbrev dktX3_marked_3 : List UInt8 := dkwX3_marked_3 ++ []
def dkwX3_marked_2 : List UInt8 := [27, 46, 4, 100, 133, 184, 0, 60, 153, 0, 17, 42, 180, 0, 20, 16, 64, 27, 104, 28, 96, 47]
abbrev dktX3_marked_2 : List UInt8 := dkwX3_marked_2 ++ dktX3_marked_3
def dkwX3_marked_1 : List UInt8 := [153, 0, 17, 28, 156, 0, 9, 20, 0, 237, 167, 0, 6, 20, 0, 239, 173, 28, 133, 9, 42, 180, 0, 24]
abbrev dktX3_marked_1 : List UInt8 := dkwX3_marked_1 ++ dktX3_marked_2
def dkwX3_marked_0 : List UInt8 := [42, 3, 181, 0, 51, 27, 184, 0, 111, 154, 0, 7, 20, 0, 237, 173, 42, 180, 0, 16, 27, 51]
abbrev dktX3_marked_0 : List UInt8 := dkwX3_marked_0 ++ dktX3_marked_1
theorem dksX3_marked_0 : cX3_marked.data.toList.drop 0 = dktX3_marked_0 := by decide +kernel
theorem dksX3_marked_1 : cX3_marked.data.toList.drop 22 = dktX3_marked_1 := dk_seg dksX3_marked_0 22 rfl rfl
theorem dksX3_marked_2 : cX3_marked.data.toList.drop 46 = dktX3_marked_2 := dk_seg dksX3_marked_1 24 rfl rfl
theorem dksX3_marked_3 : cX3_marked.data.toList.drop 68 = dktX3_marked_3 := dk_seg dksX3_marked_2 22 rfl rfl
theorem dX3_marked_0 : decode cX3_marked 0 = .ok (.aload_n 0, 1) := dk_42 (dk_at dksX3_marked_0 0 rfl rfl)
theorem dX3_marked_1 : decode cX3_marked 1 = .ok (.iconst 0, 1) := dk_3 (dk_at dksX3_marked_0 1 rfl rfl)
theorem dX3_marked_2 : decode cX3_marked 2 = .ok (.putfield 51, 3) := dk_181 0 51 (dk_at dksX3_marked_0 2 rfl rfl)
theorem dX3_marked_5 : decode cX3_marked 5 = .ok (.iload_n 1, 1) := dk_27 (dk_at dksX3_marked_0 5 rfl rfl)
theorem dX3_marked_6 : decode cX3_marked 6 = .ok (.invokestatic 111, 3) := dk_184 0 111 (dk_at dksX3_marked_0 6 rfl rfl)
theorem dX3_marked_9 : decode cX3_marked 9 = .ok (.ifCond .ne 7, 3) := dk_154 0 7 (dk_at dksX3_marked_0 9 rfl rfl)
theorem dX3_marked_12 : decode cX3_marked 12 = .ok (.ldc2_w 237, 3) := dk_20 0 237 (dk_at dksX3_marked_0 12 rfl rfl)
theorem dX3_marked_15 : decode cX3_marked 15 = .ok (.lreturn, 1) := dk_173 (dk_at dksX3_marked_0 15 rfl rfl)
theorem dX3_marked_16 : decode cX3_marked 16 = .ok (.aload_n 0, 1) := dk_42 (dk_at dksX3_marked_0 16 rfl rfl)
theorem dX3_marked_17 : decode cX3_marked 17 = .ok (.getfield 16, 3) := dk_180 0 16 (dk_at dksX3_marked_0 17 rfl rfl)
theorem dX3_marked_20 : decode cX3_marked 20 = .ok (.iload_n 1, 1) := dk_27 (dk_at dksX3_marked_0 20 rfl rfl)
theorem dX3_marked_21 : decode cX3_marked 21 = .ok (.baload, 1) := dk_51 (dk_at dksX3_marked_0 21 rfl rfl)
theorem dX3_marked_22 : decode cX3_marked 22 = .ok (.ifCond .eq 17, 3) := dk_153 0 17 (dk_at dksX3_marked_1 0 rfl rfl)
theorem dX3_marked_25 : decode cX3_marked 25 = .ok (.iload_n 2, 1) := dk_28 (dk_at dksX3_marked_1 3 rfl rfl)
theorem dX3_marked_26 : decode cX3_marked 26 = .ok (.ifCond .ge 9, 3) := dk_156 0 9 (dk_at dksX3_marked_1 4 rfl rfl)
theorem dX3_marked_29 : decode cX3_marked 29 = .ok (.ldc2_w 237, 3) := dk_20 0 237 (dk_at dksX3_marked_1 7 rfl rfl)
theorem dX3_marked_32 : decode cX3_marked 32 = .ok (.goto 6, 3) := dk_167 0 6 (dk_at dksX3_marked_1 10 rfl rfl)
theorem dX3_marked_35 : decode cX3_marked 35 = .ok (.ldc2_w 239, 3) := dk_20 0 239 (dk_at dksX3_marked_1 13 rfl rfl)
theorem dX3_marked_38 : decode cX3_marked 38 = .ok (.lreturn, 1) := dk_173 (dk_at dksX3_marked_1 16 rfl rfl)
theorem dX3_marked_39 : decode cX3_marked 39 = .ok (.iload_n 2, 1) := dk_28 (dk_at dksX3_marked_1 17 rfl rfl)
theorem dX3_marked_40 : decode cX3_marked 40 = .ok (.i2l, 1) := dk_133 (dk_at dksX3_marked_1 18 rfl rfl)
theorem dX3_marked_41 : decode cX3_marked 41 = .ok (.lconst 0, 1) := dk_9 (dk_at dksX3_marked_1 19 rfl rfl)
theorem dX3_marked_42 : decode cX3_marked 42 = .ok (.aload_n 0, 1) := dk_42 (dk_at dksX3_marked_1 20 rfl rfl)
theorem dX3_marked_43 : decode cX3_marked 43 = .ok (.getfield 24, 3) := dk_180 0 24 (dk_at dksX3_marked_1 21 rfl rfl)
theorem dX3_marked_46 : decode cX3_marked 46 = .ok (.iload_n 1, 1) := dk_27 (dk_at dksX3_marked_2 0 rfl rfl)
theorem dX3_marked_47 : decode cX3_marked 47 = .ok (.iaload, 1) := dk_46 (dk_at dksX3_marked_2 1 rfl rfl)
theorem dX3_marked_48 : decode cX3_marked 48 = .ok (.iconst 1, 1) := dk_4 (dk_at dksX3_marked_2 2 rfl rfl)
theorem dX3_marked_49 : decode cX3_marked 49 = .ok (.isub, 1) := dk_100 (dk_at dksX3_marked_2 3 rfl rfl)
theorem dX3_marked_50 : decode cX3_marked 50 = .ok (.i2l, 1) := dk_133 (dk_at dksX3_marked_2 4 rfl rfl)
theorem dX3_marked_51 : decode cX3_marked 51 = .ok (.invokestatic 60, 3) := dk_184 0 60 (dk_at dksX3_marked_2 5 rfl rfl)
theorem dX3_marked_54 : decode cX3_marked 54 = .ok (.ifCond .eq 17, 3) := dk_153 0 17 (dk_at dksX3_marked_2 8 rfl rfl)
theorem dX3_marked_57 : decode cX3_marked 57 = .ok (.aload_n 0, 1) := dk_42 (dk_at dksX3_marked_2 11 rfl rfl)
theorem dX3_marked_58 : decode cX3_marked 58 = .ok (.getfield 20, 3) := dk_180 0 20 (dk_at dksX3_marked_2 12 rfl rfl)
theorem dX3_marked_61 : decode cX3_marked 61 = .ok (.bipush 64, 2) := dk_16 64 (dk_at dksX3_marked_2 15 rfl rfl)
theorem dX3_marked_63 : decode cX3_marked 63 = .ok (.iload_n 1, 1) := dk_27 (dk_at dksX3_marked_2 17 rfl rfl)
theorem dX3_marked_64 : decode cX3_marked 64 = .ok (.imul, 1) := dk_104 (dk_at dksX3_marked_2 18 rfl rfl)
theorem dX3_marked_65 : decode cX3_marked 65 = .ok (.iload_n 2, 1) := dk_28 (dk_at dksX3_marked_2 19 rfl rfl)
theorem dX3_marked_66 : decode cX3_marked 66 = .ok (.iadd, 1) := dk_96 (dk_at dksX3_marked_2 20 rfl rfl)
theorem dX3_marked_67 : decode cX3_marked 67 = .ok (.laload, 1) := dk_47 (dk_at dksX3_marked_2 21 rfl rfl)
theorem dX3_marked_68 : decode cX3_marked 68 = .ok (.goto 6, 3) := dk_167 0 6 (dk_at dksX3_marked_3 0 rfl rfl)
theorem dX3_marked_71 : decode cX3_marked 71 = .ok (.ldc2_w 237, 3) := dk_20 0 237 (dk_at dksX3_marked_3 3 rfl rfl)
theorem dX3_marked_74 : decode cX3_marked 74 = .ok (.lreturn, 1) := dk_173 (dk_at dksX3_marked_3 6 rfl rfl)
abbrev cX3_may : ByteArray := prog_10_method_70_code
def yX3_may : MethodName := ⟨RX3, "may", "(II)I"⟩
def dkwX3_may_1 : List UInt8 := [182, 0, 241, 153, 0, 7, 3, 167, 0, 4, 4, 172]
abbrev dktX3_may_1 : List UInt8 := dkwX3_may_1 ++ []
def dkwX3_may_0 : List UInt8 := [42, 3, 181, 0, 51, 27, 184, 0, 111, 154, 0, 7, 2, 167, 0, 21, 42, 27, 42, 28, 182, 0, 69]
abbrev dktX3_may_0 : List UInt8 := dkwX3_may_0 ++ dktX3_may_1
theorem dksX3_may_0 : cX3_may.data.toList.drop 0 = dktX3_may_0 := by decide +kernel
theorem dksX3_may_1 : cX3_may.data.toList.drop 23 = dktX3_may_1 := dk_seg dksX3_may_0 23 rfl rfl
theorem dX3_may_0 : decode cX3_may 0 = .ok (.aload_n 0, 1) := dk_42 (dk_at dksX3_may_0 0 rfl rfl)
theorem dX3_may_1 : decode cX3_may 1 = .ok (.iconst 0, 1) := dk_3 (dk_at dksX3_may_0 1 rfl rfl)
theorem dX3_may_2 : decode cX3_may 2 = .ok (.putfield 51, 3) := dk_181 0 51 (dk_at dksX3_may_0 2 rfl rfl)
theorem dX3_may_5 : decode cX3_may 5 = .ok (.iload_n 1, 1) := dk_27 (dk_at dksX3_may_0 5 rfl rfl)
theorem dX3_may_6 : decode cX3_may 6 = .ok (.invokestatic 111, 3) := dk_184 0 111 (dk_at dksX3_may_0 6 rfl rfl)
theorem dX3_may_9 : decode cX3_may 9 = .ok (.ifCond .ne 7, 3) := dk_154 0 7 (dk_at dksX3_may_0 9 rfl rfl)
theorem dX3_may_12 : decode cX3_may 12 = .ok (.iconst (-1), 1) := dk_2 (dk_at dksX3_may_0 12 rfl rfl)
theorem dX3_may_13 : decode cX3_may 13 = .ok (.goto 21, 3) := dk_167 0 21 (dk_at dksX3_may_0 13 rfl rfl)
theorem dX3_may_16 : decode cX3_may 16 = .ok (.aload_n 0, 1) := dk_42 (dk_at dksX3_may_0 16 rfl rfl)
theorem dX3_may_17 : decode cX3_may 17 = .ok (.iload_n 1, 1) := dk_27 (dk_at dksX3_may_0 17 rfl rfl)
theorem dX3_may_18 : decode cX3_may 18 = .ok (.aload_n 0, 1) := dk_42 (dk_at dksX3_may_0 18 rfl rfl)
theorem dX3_may_19 : decode cX3_may 19 = .ok (.iload_n 2, 1) := dk_28 (dk_at dksX3_may_0 19 rfl rfl)
theorem dX3_may_20 : decode cX3_may 20 = .ok (.invokevirtual 69, 3) := dk_182 0 69 (dk_at dksX3_may_0 20 rfl rfl)
theorem dX3_may_23 : decode cX3_may 23 = .ok (.invokevirtual 241, 3) := dk_182 0 241 (dk_at dksX3_may_1 0 rfl rfl)
theorem dX3_may_26 : decode cX3_may 26 = .ok (.ifCond .eq 7, 3) := dk_153 0 7 (dk_at dksX3_may_1 3 rfl rfl)
theorem dX3_may_29 : decode cX3_may 29 = .ok (.iconst 0, 1) := dk_3 (dk_at dksX3_may_1 6 rfl rfl)
theorem dX3_may_30 : decode cX3_may 30 = .ok (.goto 4, 3) := dk_167 0 4 (dk_at dksX3_may_1 7 rfl rfl)
theorem dX3_may_33 : decode cX3_may 33 = .ok (.iconst 1, 1) := dk_4 (dk_at dksX3_may_1 10 rfl rfl)
theorem dX3_may_34 : decode cX3_may 34 = .ok (.ireturn, 1) := dk_172 (dk_at dksX3_may_1 11 rfl rfl)
abbrev cX3_wouldChange : ByteArray := prog_10_method_26_code
def yX3_wouldChange : MethodName := ⟨RX3, "wouldChange", "(IJ)Z"⟩
def dkwX3_wouldChange_2 : List UInt8 := [167, 0, 17, 42, 27, 32, 182, 0, 100, 154, 0, 7, 4, 167, 0, 4, 3, 172]
abbrev dktX3_wouldChange_2 : List UInt8 := dkwX3_wouldChange_2 ++ []
def dkwX3_wouldChange_1 : List UInt8 := [184, 0, 92, 46, 32, 42, 180, 0, 7, 27, 46, 184, 0, 77, 162, 0, 7, 4, 167, 0, 21, 3]
abbrev dktX3_wouldChange_1 : List UInt8 := dkwX3_wouldChange_1 ++ dktX3_wouldChange_2
def dkwX3_wouldChange_0 : List UInt8 := [42, 180, 0, 16, 27, 51, 153, 0, 43, 42, 180, 0, 27, 27, 32, 42, 180, 0, 7, 27, 46, 184, 0, 85]
abbrev dktX3_wouldChange_0 : List UInt8 := dkwX3_wouldChange_0 ++ dktX3_wouldChange_1
theorem dksX3_wouldChange_0 : cX3_wouldChange.data.toList.drop 0 = dktX3_wouldChange_0 := by decide +kernel
theorem dksX3_wouldChange_1 : cX3_wouldChange.data.toList.drop 24 = dktX3_wouldChange_1 := dk_seg dksX3_wouldChange_0 24 rfl rfl
theorem dksX3_wouldChange_2 : cX3_wouldChange.data.toList.drop 46 = dktX3_wouldChange_2 := dk_seg dksX3_wouldChange_1 22 rfl rfl
theorem dX3_wouldChange_0 : decode cX3_wouldChange 0 = .ok (.aload_n 0, 1) := dk_42 (dk_at dksX3_wouldChange_0 0 rfl rfl)
theorem dX3_wouldChange_1 : decode cX3_wouldChange 1 = .ok (.getfield 16, 3) := dk_180 0 16 (dk_at dksX3_wouldChange_0 1 rfl rfl)
theorem dX3_wouldChange_4 : decode cX3_wouldChange 4 = .ok (.iload_n 1, 1) := dk_27 (dk_at dksX3_wouldChange_0 4 rfl rfl)
theorem dX3_wouldChange_5 : decode cX3_wouldChange 5 = .ok (.baload, 1) := dk_51 (dk_at dksX3_wouldChange_0 5 rfl rfl)
theorem dX3_wouldChange_6 : decode cX3_wouldChange 6 = .ok (.ifCond .eq 43, 3) := dk_153 0 43 (dk_at dksX3_wouldChange_0 6 rfl rfl)
theorem dX3_wouldChange_9 : decode cX3_wouldChange 9 = .ok (.aload_n 0, 1) := dk_42 (dk_at dksX3_wouldChange_0 9 rfl rfl)
theorem dX3_wouldChange_10 : decode cX3_wouldChange 10 = .ok (.getfield 27, 3) := dk_180 0 27 (dk_at dksX3_wouldChange_0 10 rfl rfl)
theorem dX3_wouldChange_13 : decode cX3_wouldChange 13 = .ok (.iload_n 1, 1) := dk_27 (dk_at dksX3_wouldChange_0 13 rfl rfl)
theorem dX3_wouldChange_14 : decode cX3_wouldChange 14 = .ok (.lload_n 2, 1) := dk_32 (dk_at dksX3_wouldChange_0 14 rfl rfl)
theorem dX3_wouldChange_15 : decode cX3_wouldChange 15 = .ok (.aload_n 0, 1) := dk_42 (dk_at dksX3_wouldChange_0 15 rfl rfl)
theorem dX3_wouldChange_16 : decode cX3_wouldChange 16 = .ok (.getfield 7, 3) := dk_180 0 7 (dk_at dksX3_wouldChange_0 16 rfl rfl)
theorem dX3_wouldChange_19 : decode cX3_wouldChange 19 = .ok (.iload_n 1, 1) := dk_27 (dk_at dksX3_wouldChange_0 19 rfl rfl)
theorem dX3_wouldChange_20 : decode cX3_wouldChange 20 = .ok (.iaload, 1) := dk_46 (dk_at dksX3_wouldChange_0 20 rfl rfl)
theorem dX3_wouldChange_21 : decode cX3_wouldChange 21 = .ok (.invokestatic 85, 3) := dk_184 0 85 (dk_at dksX3_wouldChange_0 21 rfl rfl)
theorem dX3_wouldChange_24 : decode cX3_wouldChange 24 = .ok (.invokestatic 92, 3) := dk_184 0 92 (dk_at dksX3_wouldChange_1 0 rfl rfl)
theorem dX3_wouldChange_27 : decode cX3_wouldChange 27 = .ok (.iaload, 1) := dk_46 (dk_at dksX3_wouldChange_1 3 rfl rfl)
theorem dX3_wouldChange_28 : decode cX3_wouldChange 28 = .ok (.lload_n 2, 1) := dk_32 (dk_at dksX3_wouldChange_1 4 rfl rfl)
theorem dX3_wouldChange_29 : decode cX3_wouldChange 29 = .ok (.aload_n 0, 1) := dk_42 (dk_at dksX3_wouldChange_1 5 rfl rfl)
theorem dX3_wouldChange_30 : decode cX3_wouldChange 30 = .ok (.getfield 7, 3) := dk_180 0 7 (dk_at dksX3_wouldChange_1 6 rfl rfl)
theorem dX3_wouldChange_33 : decode cX3_wouldChange 33 = .ok (.iload_n 1, 1) := dk_27 (dk_at dksX3_wouldChange_1 9 rfl rfl)
theorem dX3_wouldChange_34 : decode cX3_wouldChange 34 = .ok (.iaload, 1) := dk_46 (dk_at dksX3_wouldChange_1 10 rfl rfl)
theorem dX3_wouldChange_35 : decode cX3_wouldChange 35 = .ok (.invokestatic 77, 3) := dk_184 0 77 (dk_at dksX3_wouldChange_1 11 rfl rfl)
theorem dX3_wouldChange_38 : decode cX3_wouldChange 38 = .ok (.if_icmp .ge 7, 3) := dk_162 0 7 (dk_at dksX3_wouldChange_1 14 rfl rfl)
theorem dX3_wouldChange_41 : decode cX3_wouldChange 41 = .ok (.iconst 1, 1) := dk_4 (dk_at dksX3_wouldChange_1 17 rfl rfl)
theorem dX3_wouldChange_42 : decode cX3_wouldChange 42 = .ok (.goto 21, 3) := dk_167 0 21 (dk_at dksX3_wouldChange_1 18 rfl rfl)
theorem dX3_wouldChange_45 : decode cX3_wouldChange 45 = .ok (.iconst 0, 1) := dk_3 (dk_at dksX3_wouldChange_1 21 rfl rfl)
theorem dX3_wouldChange_46 : decode cX3_wouldChange 46 = .ok (.goto 17, 3) := dk_167 0 17 (dk_at dksX3_wouldChange_2 0 rfl rfl)
theorem dX3_wouldChange_49 : decode cX3_wouldChange 49 = .ok (.aload_n 0, 1) := dk_42 (dk_at dksX3_wouldChange_2 3 rfl rfl)
theorem dX3_wouldChange_50 : decode cX3_wouldChange 50 = .ok (.iload_n 1, 1) := dk_27 (dk_at dksX3_wouldChange_2 4 rfl rfl)
theorem dX3_wouldChange_51 : decode cX3_wouldChange 51 = .ok (.lload_n 2, 1) := dk_32 (dk_at dksX3_wouldChange_2 5 rfl rfl)
theorem dX3_wouldChange_52 : decode cX3_wouldChange 52 = .ok (.invokevirtual 100, 3) := dk_182 0 100 (dk_at dksX3_wouldChange_2 6 rfl rfl)
theorem dX3_wouldChange_55 : decode cX3_wouldChange 55 = .ok (.ifCond .ne 7, 3) := dk_154 0 7 (dk_at dksX3_wouldChange_2 9 rfl rfl)
theorem dX3_wouldChange_58 : decode cX3_wouldChange 58 = .ok (.iconst 1, 1) := dk_4 (dk_at dksX3_wouldChange_2 12 rfl rfl)
theorem dX3_wouldChange_59 : decode cX3_wouldChange 59 = .ok (.goto 4, 3) := dk_167 0 4 (dk_at dksX3_wouldChange_2 13 rfl rfl)
theorem dX3_wouldChange_62 : decode cX3_wouldChange 62 = .ok (.iconst 0, 1) := dk_3 (dk_at dksX3_wouldChange_2 16 rfl rfl)
theorem dX3_wouldChange_63 : decode cX3_wouldChange 63 = .ok (.ireturn, 1) := dk_172 (dk_at dksX3_wouldChange_2 17 rfl rfl)
abbrev cX3_first : ByteArray := prog_10_method_71_code
def yX3_first : MethodName := ⟨RX3, "first", "(IIII)I"⟩
def dkwX3_first_3 : List UInt8 := [21, 5, 29, 96, 54, 5, 132, 6, 1, 167, 255, 211, 16, 254, 172]
abbrev dktX3_first_3 : List UInt8 := dkwX3_first_3 ++ []
def dkwX3_first_2 : List UInt8 := [182, 0, 69, 182, 0, 241, 153, 0, 18, 42, 3, 181, 0, 54, 42, 21, 5, 133, 182, 0, 81, 21, 6, 172]
abbrev dktX3_first_2 : List UInt8 := dkwX3_first_2 ++ dktX3_first_3
def dkwX3_first_1 : List UInt8 := [154, 0, 5, 2, 172, 28, 54, 5, 3, 54, 6, 21, 6, 21, 4, 162, 0, 44, 42, 27, 42, 21, 5]
abbrev dktX3_first_1 : List UInt8 := dkwX3_first_1 ++ dktX3_first_2
def dkwX3_first_0 : List UInt8 := [42, 3, 181, 0, 51, 27, 184, 0, 111, 153, 0, 16, 21, 4, 133, 10, 20, 0, 124, 184, 0, 60]
abbrev dktX3_first_0 : List UInt8 := dkwX3_first_0 ++ dktX3_first_1
theorem dksX3_first_0 : cX3_first.data.toList.drop 0 = dktX3_first_0 := by decide +kernel
theorem dksX3_first_1 : cX3_first.data.toList.drop 22 = dktX3_first_1 := dk_seg dksX3_first_0 22 rfl rfl
theorem dksX3_first_2 : cX3_first.data.toList.drop 45 = dktX3_first_2 := dk_seg dksX3_first_1 23 rfl rfl
theorem dksX3_first_3 : cX3_first.data.toList.drop 69 = dktX3_first_3 := dk_seg dksX3_first_2 24 rfl rfl
theorem dX3_first_0 : decode cX3_first 0 = .ok (.aload_n 0, 1) := dk_42 (dk_at dksX3_first_0 0 rfl rfl)
theorem dX3_first_1 : decode cX3_first 1 = .ok (.iconst 0, 1) := dk_3 (dk_at dksX3_first_0 1 rfl rfl)
theorem dX3_first_2 : decode cX3_first 2 = .ok (.putfield 51, 3) := dk_181 0 51 (dk_at dksX3_first_0 2 rfl rfl)
theorem dX3_first_5 : decode cX3_first 5 = .ok (.iload_n 1, 1) := dk_27 (dk_at dksX3_first_0 5 rfl rfl)
theorem dX3_first_6 : decode cX3_first 6 = .ok (.invokestatic 111, 3) := dk_184 0 111 (dk_at dksX3_first_0 6 rfl rfl)
theorem dX3_first_9 : decode cX3_first 9 = .ok (.ifCond .eq 16, 3) := dk_153 0 16 (dk_at dksX3_first_0 9 rfl rfl)
theorem dX3_first_12 : decode cX3_first 12 = .ok (.iload 4, 2) := dk_21 4 (dk_at dksX3_first_0 12 rfl rfl)
theorem dX3_first_14 : decode cX3_first 14 = .ok (.i2l, 1) := dk_133 (dk_at dksX3_first_0 14 rfl rfl)
theorem dX3_first_15 : decode cX3_first 15 = .ok (.lconst 1, 1) := dk_10 (dk_at dksX3_first_0 15 rfl rfl)
theorem dX3_first_16 : decode cX3_first 16 = .ok (.ldc2_w 124, 3) := dk_20 0 124 (dk_at dksX3_first_0 16 rfl rfl)
theorem dX3_first_19 : decode cX3_first 19 = .ok (.invokestatic 60, 3) := dk_184 0 60 (dk_at dksX3_first_0 19 rfl rfl)
theorem dX3_first_22 : decode cX3_first 22 = .ok (.ifCond .ne 5, 3) := dk_154 0 5 (dk_at dksX3_first_1 0 rfl rfl)
theorem dX3_first_25 : decode cX3_first 25 = .ok (.iconst (-1), 1) := dk_2 (dk_at dksX3_first_1 3 rfl rfl)
theorem dX3_first_26 : decode cX3_first 26 = .ok (.ireturn, 1) := dk_172 (dk_at dksX3_first_1 4 rfl rfl)
theorem dX3_first_27 : decode cX3_first 27 = .ok (.iload_n 2, 1) := dk_28 (dk_at dksX3_first_1 5 rfl rfl)
theorem dX3_first_28 : decode cX3_first 28 = .ok (.istore 5, 2) := dk_54 5 (dk_at dksX3_first_1 6 rfl rfl)
theorem dX3_first_30 : decode cX3_first 30 = .ok (.iconst 0, 1) := dk_3 (dk_at dksX3_first_1 8 rfl rfl)
theorem dX3_first_31 : decode cX3_first 31 = .ok (.istore 6, 2) := dk_54 6 (dk_at dksX3_first_1 9 rfl rfl)
theorem dX3_first_33 : decode cX3_first 33 = .ok (.iload 6, 2) := dk_21 6 (dk_at dksX3_first_1 11 rfl rfl)
theorem dX3_first_35 : decode cX3_first 35 = .ok (.iload 4, 2) := dk_21 4 (dk_at dksX3_first_1 13 rfl rfl)
theorem dX3_first_37 : decode cX3_first 37 = .ok (.if_icmp .ge 44, 3) := dk_162 0 44 (dk_at dksX3_first_1 15 rfl rfl)
theorem dX3_first_40 : decode cX3_first 40 = .ok (.aload_n 0, 1) := dk_42 (dk_at dksX3_first_1 18 rfl rfl)
theorem dX3_first_41 : decode cX3_first 41 = .ok (.iload_n 1, 1) := dk_27 (dk_at dksX3_first_1 19 rfl rfl)
theorem dX3_first_42 : decode cX3_first 42 = .ok (.aload_n 0, 1) := dk_42 (dk_at dksX3_first_1 20 rfl rfl)
theorem dX3_first_43 : decode cX3_first 43 = .ok (.iload 5, 2) := dk_21 5 (dk_at dksX3_first_1 21 rfl rfl)
theorem dX3_first_45 : decode cX3_first 45 = .ok (.invokevirtual 69, 3) := dk_182 0 69 (dk_at dksX3_first_2 0 rfl rfl)
theorem dX3_first_48 : decode cX3_first 48 = .ok (.invokevirtual 241, 3) := dk_182 0 241 (dk_at dksX3_first_2 3 rfl rfl)
theorem dX3_first_51 : decode cX3_first 51 = .ok (.ifCond .eq 18, 3) := dk_153 0 18 (dk_at dksX3_first_2 6 rfl rfl)
theorem dX3_first_54 : decode cX3_first 54 = .ok (.aload_n 0, 1) := dk_42 (dk_at dksX3_first_2 9 rfl rfl)
theorem dX3_first_55 : decode cX3_first 55 = .ok (.iconst 0, 1) := dk_3 (dk_at dksX3_first_2 10 rfl rfl)
theorem dX3_first_56 : decode cX3_first 56 = .ok (.putfield 54, 3) := dk_181 0 54 (dk_at dksX3_first_2 11 rfl rfl)
theorem dX3_first_59 : decode cX3_first 59 = .ok (.aload_n 0, 1) := dk_42 (dk_at dksX3_first_2 14 rfl rfl)
theorem dX3_first_60 : decode cX3_first 60 = .ok (.iload 5, 2) := dk_21 5 (dk_at dksX3_first_2 15 rfl rfl)
theorem dX3_first_62 : decode cX3_first 62 = .ok (.i2l, 1) := dk_133 (dk_at dksX3_first_2 17 rfl rfl)
theorem dX3_first_63 : decode cX3_first 63 = .ok (.invokevirtual 81, 3) := dk_182 0 81 (dk_at dksX3_first_2 18 rfl rfl)
theorem dX3_first_66 : decode cX3_first 66 = .ok (.iload 6, 2) := dk_21 6 (dk_at dksX3_first_2 21 rfl rfl)
theorem dX3_first_68 : decode cX3_first 68 = .ok (.ireturn, 1) := dk_172 (dk_at dksX3_first_2 23 rfl rfl)
theorem dX3_first_69 : decode cX3_first 69 = .ok (.iload 5, 2) := dk_21 5 (dk_at dksX3_first_3 0 rfl rfl)
theorem dX3_first_71 : decode cX3_first 71 = .ok (.iload_n 3, 1) := dk_29 (dk_at dksX3_first_3 2 rfl rfl)
theorem dX3_first_72 : decode cX3_first 72 = .ok (.iadd, 1) := dk_96 (dk_at dksX3_first_3 3 rfl rfl)
theorem dX3_first_73 : decode cX3_first 73 = .ok (.istore 5, 2) := dk_54 5 (dk_at dksX3_first_3 4 rfl rfl)
theorem dX3_first_75 : decode cX3_first 75 = .ok (.iinc 6 1, 3) := dk_132 6 1 (dk_at dksX3_first_3 6 rfl rfl)
theorem dX3_first_78 : decode cX3_first 78 = .ok (.goto (-45), 3) := dk_167 255 211 (dk_at dksX3_first_3 9 rfl rfl)
theorem dX3_first_81 : decode cX3_first 81 = .ok (.bipush (-2), 2) := dk_16 254 (dk_at dksX3_first_3 12 rfl rfl)
theorem dX3_first_83 : decode cX3_first 83 = .ok (.ireturn, 1) := dk_172 (dk_at dksX3_first_3 14 rfl rfl)
abbrev cX3_bits : ByteArray := prog_10_method_72_code
def yX3_bits : MethodName := ⟨RX3, "bits", "(II)J"⟩
def dkwX3_bits_3 : List UInt8 := [8, 21, 5, 104, 121, 129, 66, 132, 5, 1, 167, 255, 206, 33, 173]
abbrev dktX3_bits_3 : List UInt8 := dkwX3_bits_3 ++ []
def dkwX3_bits_2 : List UInt8 := [182, 0, 117, 162, 0, 34, 33, 42, 180, 0, 27, 27, 16, 12, 28, 104, 21, 5, 96, 184, 0, 92, 46, 133]
abbrev dktX3_bits_2 : List UInt8 := dkwX3_bits_2 ++ dktX3_bits_3
def dkwX3_bits_1 : List UInt8 := [173, 9, 66, 3, 54, 5, 21, 5, 16, 12, 162, 0, 49, 16, 12, 28, 104, 21, 5, 96, 42, 27]
abbrev dktX3_bits_1 : List UInt8 := dkwX3_bits_1 ++ dktX3_bits_2
def dkwX3_bits_0 : List UInt8 := [42, 3, 181, 0, 51, 27, 184, 0, 111, 153, 0, 12, 42, 27, 28, 182, 0, 220, 154, 0, 7, 20, 0, 237]
abbrev dktX3_bits_0 : List UInt8 := dkwX3_bits_0 ++ dktX3_bits_1
theorem dksX3_bits_0 : cX3_bits.data.toList.drop 0 = dktX3_bits_0 := by decide +kernel
theorem dksX3_bits_1 : cX3_bits.data.toList.drop 24 = dktX3_bits_1 := dk_seg dksX3_bits_0 24 rfl rfl
theorem dksX3_bits_2 : cX3_bits.data.toList.drop 46 = dktX3_bits_2 := dk_seg dksX3_bits_1 22 rfl rfl
theorem dksX3_bits_3 : cX3_bits.data.toList.drop 70 = dktX3_bits_3 := dk_seg dksX3_bits_2 24 rfl rfl
theorem dX3_bits_0 : decode cX3_bits 0 = .ok (.aload_n 0, 1) := dk_42 (dk_at dksX3_bits_0 0 rfl rfl)
theorem dX3_bits_1 : decode cX3_bits 1 = .ok (.iconst 0, 1) := dk_3 (dk_at dksX3_bits_0 1 rfl rfl)
theorem dX3_bits_2 : decode cX3_bits 2 = .ok (.putfield 51, 3) := dk_181 0 51 (dk_at dksX3_bits_0 2 rfl rfl)
theorem dX3_bits_5 : decode cX3_bits 5 = .ok (.iload_n 1, 1) := dk_27 (dk_at dksX3_bits_0 5 rfl rfl)
theorem dX3_bits_6 : decode cX3_bits 6 = .ok (.invokestatic 111, 3) := dk_184 0 111 (dk_at dksX3_bits_0 6 rfl rfl)
theorem dX3_bits_9 : decode cX3_bits 9 = .ok (.ifCond .eq 12, 3) := dk_153 0 12 (dk_at dksX3_bits_0 9 rfl rfl)
theorem dX3_bits_12 : decode cX3_bits 12 = .ok (.aload_n 0, 1) := dk_42 (dk_at dksX3_bits_0 12 rfl rfl)
theorem dX3_bits_13 : decode cX3_bits 13 = .ok (.iload_n 1, 1) := dk_27 (dk_at dksX3_bits_0 13 rfl rfl)
theorem dX3_bits_14 : decode cX3_bits 14 = .ok (.iload_n 2, 1) := dk_28 (dk_at dksX3_bits_0 14 rfl rfl)
theorem dX3_bits_15 : decode cX3_bits 15 = .ok (.invokevirtual 220, 3) := dk_182 0 220 (dk_at dksX3_bits_0 15 rfl rfl)
theorem dX3_bits_18 : decode cX3_bits 18 = .ok (.ifCond .ne 7, 3) := dk_154 0 7 (dk_at dksX3_bits_0 18 rfl rfl)
theorem dX3_bits_21 : decode cX3_bits 21 = .ok (.ldc2_w 237, 3) := dk_20 0 237 (dk_at dksX3_bits_0 21 rfl rfl)
theorem dX3_bits_24 : decode cX3_bits 24 = .ok (.lreturn, 1) := dk_173 (dk_at dksX3_bits_1 0 rfl rfl)
theorem dX3_bits_25 : decode cX3_bits 25 = .ok (.lconst 0, 1) := dk_9 (dk_at dksX3_bits_1 1 rfl rfl)
theorem dX3_bits_26 : decode cX3_bits 26 = .ok (.lstore_n 3, 1) := dk_66 (dk_at dksX3_bits_1 2 rfl rfl)
theorem dX3_bits_27 : decode cX3_bits 27 = .ok (.iconst 0, 1) := dk_3 (dk_at dksX3_bits_1 3 rfl rfl)
theorem dX3_bits_28 : decode cX3_bits 28 = .ok (.istore 5, 2) := dk_54 5 (dk_at dksX3_bits_1 4 rfl rfl)
theorem dX3_bits_30 : decode cX3_bits 30 = .ok (.iload 5, 2) := dk_21 5 (dk_at dksX3_bits_1 6 rfl rfl)
theorem dX3_bits_32 : decode cX3_bits 32 = .ok (.bipush 12, 2) := dk_16 12 (dk_at dksX3_bits_1 8 rfl rfl)
theorem dX3_bits_34 : decode cX3_bits 34 = .ok (.if_icmp .ge 49, 3) := dk_162 0 49 (dk_at dksX3_bits_1 10 rfl rfl)
theorem dX3_bits_37 : decode cX3_bits 37 = .ok (.bipush 12, 2) := dk_16 12 (dk_at dksX3_bits_1 13 rfl rfl)
theorem dX3_bits_39 : decode cX3_bits 39 = .ok (.iload_n 2, 1) := dk_28 (dk_at dksX3_bits_1 15 rfl rfl)
theorem dX3_bits_40 : decode cX3_bits 40 = .ok (.imul, 1) := dk_104 (dk_at dksX3_bits_1 16 rfl rfl)
theorem dX3_bits_41 : decode cX3_bits 41 = .ok (.iload 5, 2) := dk_21 5 (dk_at dksX3_bits_1 17 rfl rfl)
theorem dX3_bits_43 : decode cX3_bits 43 = .ok (.iadd, 1) := dk_96 (dk_at dksX3_bits_1 19 rfl rfl)
theorem dX3_bits_44 : decode cX3_bits 44 = .ok (.aload_n 0, 1) := dk_42 (dk_at dksX3_bits_1 20 rfl rfl)
theorem dX3_bits_45 : decode cX3_bits 45 = .ok (.iload_n 1, 1) := dk_27 (dk_at dksX3_bits_1 21 rfl rfl)
theorem dX3_bits_46 : decode cX3_bits 46 = .ok (.invokevirtual 117, 3) := dk_182 0 117 (dk_at dksX3_bits_2 0 rfl rfl)
theorem dX3_bits_49 : decode cX3_bits 49 = .ok (.if_icmp .ge 34, 3) := dk_162 0 34 (dk_at dksX3_bits_2 3 rfl rfl)
theorem dX3_bits_52 : decode cX3_bits 52 = .ok (.lload_n 3, 1) := dk_33 (dk_at dksX3_bits_2 6 rfl rfl)
theorem dX3_bits_53 : decode cX3_bits 53 = .ok (.aload_n 0, 1) := dk_42 (dk_at dksX3_bits_2 7 rfl rfl)
theorem dX3_bits_54 : decode cX3_bits 54 = .ok (.getfield 27, 3) := dk_180 0 27 (dk_at dksX3_bits_2 8 rfl rfl)
theorem dX3_bits_57 : decode cX3_bits 57 = .ok (.iload_n 1, 1) := dk_27 (dk_at dksX3_bits_2 11 rfl rfl)
theorem dX3_bits_58 : decode cX3_bits 58 = .ok (.bipush 12, 2) := dk_16 12 (dk_at dksX3_bits_2 12 rfl rfl)
theorem dX3_bits_60 : decode cX3_bits 60 = .ok (.iload_n 2, 1) := dk_28 (dk_at dksX3_bits_2 14 rfl rfl)
theorem dX3_bits_61 : decode cX3_bits 61 = .ok (.imul, 1) := dk_104 (dk_at dksX3_bits_2 15 rfl rfl)
theorem dX3_bits_62 : decode cX3_bits 62 = .ok (.iload 5, 2) := dk_21 5 (dk_at dksX3_bits_2 16 rfl rfl)
theorem dX3_bits_64 : decode cX3_bits 64 = .ok (.iadd, 1) := dk_96 (dk_at dksX3_bits_2 18 rfl rfl)
theorem dX3_bits_65 : decode cX3_bits 65 = .ok (.invokestatic 92, 3) := dk_184 0 92 (dk_at dksX3_bits_2 19 rfl rfl)
theorem dX3_bits_68 : decode cX3_bits 68 = .ok (.iaload, 1) := dk_46 (dk_at dksX3_bits_2 22 rfl rfl)
theorem dX3_bits_69 : decode cX3_bits 69 = .ok (.i2l, 1) := dk_133 (dk_at dksX3_bits_2 23 rfl rfl)
theorem dX3_bits_70 : decode cX3_bits 70 = .ok (.iconst 5, 1) := dk_8 (dk_at dksX3_bits_3 0 rfl rfl)
theorem dX3_bits_71 : decode cX3_bits 71 = .ok (.iload 5, 2) := dk_21 5 (dk_at dksX3_bits_3 1 rfl rfl)
theorem dX3_bits_73 : decode cX3_bits 73 = .ok (.imul, 1) := dk_104 (dk_at dksX3_bits_3 3 rfl rfl)
theorem dX3_bits_74 : decode cX3_bits 74 = .ok (.lshl, 1) := dk_121 (dk_at dksX3_bits_3 4 rfl rfl)
theorem dX3_bits_75 : decode cX3_bits 75 = .ok (.lor, 1) := dk_129 (dk_at dksX3_bits_3 5 rfl rfl)
theorem dX3_bits_76 : decode cX3_bits 76 = .ok (.lstore_n 3, 1) := dk_66 (dk_at dksX3_bits_3 6 rfl rfl)
theorem dX3_bits_77 : decode cX3_bits 77 = .ok (.iinc 5 1, 3) := dk_132 5 1 (dk_at dksX3_bits_3 7 rfl rfl)
theorem dX3_bits_80 : decode cX3_bits 80 = .ok (.goto (-50), 3) := dk_167 255 206 (dk_at dksX3_bits_3 10 rfl rfl)
theorem dX3_bits_83 : decode cX3_bits 83 = .ok (.lload_n 3, 1) := dk_33 (dk_at dksX3_bits_3 13 rfl rfl)
theorem dX3_bits_84 : decode cX3_bits 84 = .ok (.lreturn, 1) := dk_173 (dk_at dksX3_bits_3 14 rfl rfl)
abbrev cX3_slice : ByteArray := prog_10_method_73_code
def yX3_slice : MethodName := ⟨RX3, "slice", "(III)J"⟩
def dkwX3_slice_4 : List UInt8 := [132, 6, 1, 167, 255, 202, 22, 4, 173]
abbrev dktX3_slice_4 : List UInt8 := dkwX3_slice_4 ++ []
def dkwX3_slice_3 : List UInt8 := [27, 16, 64, 29, 104, 21, 6, 96, 184, 0, 92, 46, 28, 122, 4, 126, 133, 21, 6, 121, 129, 55, 4]
abbrev dktX3_slice_3 : List UInt8 := dkwX3_slice_3 ++ dktX3_slice_4
def dkwX3_slice_2 : List UInt8 := [162, 0, 53, 16, 64, 29, 104, 21, 6, 96, 42, 27, 182, 0, 117, 162, 0, 38, 22, 4, 42, 180, 0, 27]
abbrev dktX3_slice_2 : List UInt8 := dkwX3_slice_2 ++ dktX3_slice_3
def dkwX3_slice_1 : List UInt8 := [29, 133, 9, 20, 0, 244, 184, 0, 60, 154, 0, 5, 9, 173, 9, 55, 4, 3, 54, 6, 21, 6, 16, 64]
abbrev dktX3_slice_1 : List UInt8 := dkwX3_slice_1 ++ dktX3_slice_2
def dkwX3_slice_0 : List UInt8 := [42, 3, 181, 0, 51, 27, 184, 0, 111, 153, 0, 27, 28, 133, 9, 20, 0, 73, 184, 0, 60, 153, 0, 15]
abbrev dktX3_slice_0 : List UInt8 := dkwX3_slice_0 ++ dktX3_slice_1
theorem dksX3_slice_0 : cX3_slice.data.toList.drop 0 = dktX3_slice_0 := by decide +kernel
theorem dksX3_slice_1 : cX3_slice.data.toList.drop 24 = dktX3_slice_1 := dk_seg dksX3_slice_0 24 rfl rfl
theorem dksX3_slice_2 : cX3_slice.data.toList.drop 48 = dktX3_slice_2 := dk_seg dksX3_slice_1 24 rfl rfl
theorem dksX3_slice_3 : cX3_slice.data.toList.drop 72 = dktX3_slice_3 := dk_seg dksX3_slice_2 24 rfl rfl
theorem dksX3_slice_4 : cX3_slice.data.toList.drop 95 = dktX3_slice_4 := dk_seg dksX3_slice_3 23 rfl rfl
theorem dX3_slice_0 : decode cX3_slice 0 = .ok (.aload_n 0, 1) := dk_42 (dk_at dksX3_slice_0 0 rfl rfl)
theorem dX3_slice_1 : decode cX3_slice 1 = .ok (.iconst 0, 1) := dk_3 (dk_at dksX3_slice_0 1 rfl rfl)
theorem dX3_slice_2 : decode cX3_slice 2 = .ok (.putfield 51, 3) := dk_181 0 51 (dk_at dksX3_slice_0 2 rfl rfl)
theorem dX3_slice_5 : decode cX3_slice 5 = .ok (.iload_n 1, 1) := dk_27 (dk_at dksX3_slice_0 5 rfl rfl)
theorem dX3_slice_6 : decode cX3_slice 6 = .ok (.invokestatic 111, 3) := dk_184 0 111 (dk_at dksX3_slice_0 6 rfl rfl)
theorem dX3_slice_9 : decode cX3_slice 9 = .ok (.ifCond .eq 27, 3) := dk_153 0 27 (dk_at dksX3_slice_0 9 rfl rfl)
theorem dX3_slice_12 : decode cX3_slice 12 = .ok (.iload_n 2, 1) := dk_28 (dk_at dksX3_slice_0 12 rfl rfl)
theorem dX3_slice_13 : decode cX3_slice 13 = .ok (.i2l, 1) := dk_133 (dk_at dksX3_slice_0 13 rfl rfl)
theorem dX3_slice_14 : decode cX3_slice 14 = .ok (.lconst 0, 1) := dk_9 (dk_at dksX3_slice_0 14 rfl rfl)
theorem dX3_slice_15 : decode cX3_slice 15 = .ok (.ldc2_w 73, 3) := dk_20 0 73 (dk_at dksX3_slice_0 15 rfl rfl)
theorem dX3_slice_18 : decode cX3_slice 18 = .ok (.invokestatic 60, 3) := dk_184 0 60 (dk_at dksX3_slice_0 18 rfl rfl)
theorem dX3_slice_21 : decode cX3_slice 21 = .ok (.ifCond .eq 15, 3) := dk_153 0 15 (dk_at dksX3_slice_0 21 rfl rfl)
theorem dX3_slice_24 : decode cX3_slice 24 = .ok (.iload_n 3, 1) := dk_29 (dk_at dksX3_slice_1 0 rfl rfl)
theorem dX3_slice_25 : decode cX3_slice 25 = .ok (.i2l, 1) := dk_133 (dk_at dksX3_slice_1 1 rfl rfl)
theorem dX3_slice_26 : decode cX3_slice 26 = .ok (.lconst 0, 1) := dk_9 (dk_at dksX3_slice_1 2 rfl rfl)
theorem dX3_slice_27 : decode cX3_slice 27 = .ok (.ldc2_w 244, 3) := dk_20 0 244 (dk_at dksX3_slice_1 3 rfl rfl)
theorem dX3_slice_30 : decode cX3_slice 30 = .ok (.invokestatic 60, 3) := dk_184 0 60 (dk_at dksX3_slice_1 6 rfl rfl)
theorem dX3_slice_33 : decode cX3_slice 33 = .ok (.ifCond .ne 5, 3) := dk_154 0 5 (dk_at dksX3_slice_1 9 rfl rfl)
theorem dX3_slice_36 : decode cX3_slice 36 = .ok (.lconst 0, 1) := dk_9 (dk_at dksX3_slice_1 12 rfl rfl)
theorem dX3_slice_37 : decode cX3_slice 37 = .ok (.lreturn, 1) := dk_173 (dk_at dksX3_slice_1 13 rfl rfl)
theorem dX3_slice_38 : decode cX3_slice 38 = .ok (.lconst 0, 1) := dk_9 (dk_at dksX3_slice_1 14 rfl rfl)
theorem dX3_slice_39 : decode cX3_slice 39 = .ok (.lstore 4, 2) := dk_55 4 (dk_at dksX3_slice_1 15 rfl rfl)
theorem dX3_slice_41 : decode cX3_slice 41 = .ok (.iconst 0, 1) := dk_3 (dk_at dksX3_slice_1 17 rfl rfl)
theorem dX3_slice_42 : decode cX3_slice 42 = .ok (.istore 6, 2) := dk_54 6 (dk_at dksX3_slice_1 18 rfl rfl)
theorem dX3_slice_44 : decode cX3_slice 44 = .ok (.iload 6, 2) := dk_21 6 (dk_at dksX3_slice_1 20 rfl rfl)
theorem dX3_slice_46 : decode cX3_slice 46 = .ok (.bipush 64, 2) := dk_16 64 (dk_at dksX3_slice_1 22 rfl rfl)
theorem dX3_slice_48 : decode cX3_slice 48 = .ok (.if_icmp .ge 53, 3) := dk_162 0 53 (dk_at dksX3_slice_2 0 rfl rfl)
theorem dX3_slice_51 : decode cX3_slice 51 = .ok (.bipush 64, 2) := dk_16 64 (dk_at dksX3_slice_2 3 rfl rfl)
theorem dX3_slice_53 : decode cX3_slice 53 = .ok (.iload_n 3, 1) := dk_29 (dk_at dksX3_slice_2 5 rfl rfl)
theorem dX3_slice_54 : decode cX3_slice 54 = .ok (.imul, 1) := dk_104 (dk_at dksX3_slice_2 6 rfl rfl)
theorem dX3_slice_55 : decode cX3_slice 55 = .ok (.iload 6, 2) := dk_21 6 (dk_at dksX3_slice_2 7 rfl rfl)
theorem dX3_slice_57 : decode cX3_slice 57 = .ok (.iadd, 1) := dk_96 (dk_at dksX3_slice_2 9 rfl rfl)
theorem dX3_slice_58 : decode cX3_slice 58 = .ok (.aload_n 0, 1) := dk_42 (dk_at dksX3_slice_2 10 rfl rfl)
theorem dX3_slice_59 : decode cX3_slice 59 = .ok (.iload_n 1, 1) := dk_27 (dk_at dksX3_slice_2 11 rfl rfl)
theorem dX3_slice_60 : decode cX3_slice 60 = .ok (.invokevirtual 117, 3) := dk_182 0 117 (dk_at dksX3_slice_2 12 rfl rfl)
theorem dX3_slice_63 : decode cX3_slice 63 = .ok (.if_icmp .ge 38, 3) := dk_162 0 38 (dk_at dksX3_slice_2 15 rfl rfl)
theorem dX3_slice_66 : decode cX3_slice 66 = .ok (.lload 4, 2) := dk_22 4 (dk_at dksX3_slice_2 18 rfl rfl)
theorem dX3_slice_68 : decode cX3_slice 68 = .ok (.aload_n 0, 1) := dk_42 (dk_at dksX3_slice_2 20 rfl rfl)
theorem dX3_slice_69 : decode cX3_slice 69 = .ok (.getfield 27, 3) := dk_180 0 27 (dk_at dksX3_slice_2 21 rfl rfl)
theorem dX3_slice_72 : decode cX3_slice 72 = .ok (.iload_n 1, 1) := dk_27 (dk_at dksX3_slice_3 0 rfl rfl)
theorem dX3_slice_73 : decode cX3_slice 73 = .ok (.bipush 64, 2) := dk_16 64 (dk_at dksX3_slice_3 1 rfl rfl)
theorem dX3_slice_75 : decode cX3_slice 75 = .ok (.iload_n 3, 1) := dk_29 (dk_at dksX3_slice_3 3 rfl rfl)
theorem dX3_slice_76 : decode cX3_slice 76 = .ok (.imul, 1) := dk_104 (dk_at dksX3_slice_3 4 rfl rfl)
theorem dX3_slice_77 : decode cX3_slice 77 = .ok (.iload 6, 2) := dk_21 6 (dk_at dksX3_slice_3 5 rfl rfl)
theorem dX3_slice_79 : decode cX3_slice 79 = .ok (.iadd, 1) := dk_96 (dk_at dksX3_slice_3 7 rfl rfl)
theorem dX3_slice_80 : decode cX3_slice 80 = .ok (.invokestatic 92, 3) := dk_184 0 92 (dk_at dksX3_slice_3 8 rfl rfl)
theorem dX3_slice_83 : decode cX3_slice 83 = .ok (.iaload, 1) := dk_46 (dk_at dksX3_slice_3 11 rfl rfl)
theorem dX3_slice_84 : decode cX3_slice 84 = .ok (.iload_n 2, 1) := dk_28 (dk_at dksX3_slice_3 12 rfl rfl)
theorem dX3_slice_85 : decode cX3_slice 85 = .ok (.ishr, 1) := dk_122 (dk_at dksX3_slice_3 13 rfl rfl)
theorem dX3_slice_86 : decode cX3_slice 86 = .ok (.iconst 1, 1) := dk_4 (dk_at dksX3_slice_3 14 rfl rfl)
theorem dX3_slice_87 : decode cX3_slice 87 = .ok (.iand, 1) := dk_126 (dk_at dksX3_slice_3 15 rfl rfl)
theorem dX3_slice_88 : decode cX3_slice 88 = .ok (.i2l, 1) := dk_133 (dk_at dksX3_slice_3 16 rfl rfl)
theorem dX3_slice_89 : decode cX3_slice 89 = .ok (.iload 6, 2) := dk_21 6 (dk_at dksX3_slice_3 17 rfl rfl)
theorem dX3_slice_91 : decode cX3_slice 91 = .ok (.lshl, 1) := dk_121 (dk_at dksX3_slice_3 19 rfl rfl)
theorem dX3_slice_92 : decode cX3_slice 92 = .ok (.lor, 1) := dk_129 (dk_at dksX3_slice_3 20 rfl rfl)
theorem dX3_slice_93 : decode cX3_slice 93 = .ok (.lstore 4, 2) := dk_55 4 (dk_at dksX3_slice_3 21 rfl rfl)
theorem dX3_slice_95 : decode cX3_slice 95 = .ok (.iinc 6 1, 3) := dk_132 6 1 (dk_at dksX3_slice_4 0 rfl rfl)
theorem dX3_slice_98 : decode cX3_slice 98 = .ok (.goto (-54), 3) := dk_167 255 202 (dk_at dksX3_slice_4 3 rfl rfl)
theorem dX3_slice_101 : decode cX3_slice 101 = .ok (.lload 4, 2) := dk_22 4 (dk_at dksX3_slice_4 6 rfl rfl)
theorem dX3_slice_103 : decode cX3_slice 103 = .ok (.lreturn, 1) := dk_173 (dk_at dksX3_slice_4 8 rfl rfl)
abbrev cX3_runsOf : ByteArray := prog_10_method_74_code
def yX3_runsOf : MethodName := ⟨RX3, "runsOf", "(I)I"⟩
def dkwX3_runsOf_6 : List UInt8 := [182, 0, 81, 28, 172]
abbrev dktX3_runsOf_6 : List UInt8 := dkwX3_runsOf_6 ++ []
def dkwX3_runsOf_5 : List UInt8 := [182, 0, 81, 42, 21, 4, 133, 182, 0, 81, 42, 42, 180, 0, 27, 27, 21, 4, 184, 0, 92, 46, 133]
abbrev dktX3_runsOf_5 : List UInt8 := dkwX3_runsOf_5 ++ dktX3_runsOf_6
def dkwX3_runsOf_4 : List UInt8 := [21, 5, 100, 62, 21, 5, 54, 4, 132, 6, 1, 167, 255, 178, 42, 3, 181, 0, 54, 42, 29, 133]
abbrev dktX3_runsOf_4 : List UInt8 := dkwX3_runsOf_4 ++ dktX3_runsOf_5
def dkwX3_runsOf_3 : List UInt8 := [54, 5, 132, 2, 1, 21, 6, 4, 96, 21, 5, 100, 29, 163, 0, 6, 167, 0, 15, 21, 6, 4, 96]
abbrev dktX3_runsOf_3 : List UInt8 := dkwX3_runsOf_3 ++ dktX3_runsOf_4
def dkwX3_runsOf_2 : List UInt8 := [21, 6, 184, 0, 92, 46, 42, 180, 0, 27, 27, 21, 6, 4, 100, 184, 0, 92, 46, 159, 0, 10, 21, 6]
abbrev dktX3_runsOf_2 : List UInt8 := dkwX3_runsOf_2 ++ dktX3_runsOf_3
def dkwX3_runsOf_1 : List UInt8 := [3, 54, 6, 21, 6, 42, 27, 182, 0, 117, 162, 0, 74, 21, 6, 153, 0, 30, 42, 180, 0, 27, 27]
abbrev dktX3_runsOf_1 : List UInt8 := dkwX3_runsOf_1 ++ dktX3_runsOf_2
def dkwX3_runsOf_0 : List UInt8 := [42, 3, 181, 0, 51, 27, 184, 0, 111, 154, 0, 5, 2, 172, 3, 61, 3, 62, 3, 54, 4, 3, 54, 5]
abbrev dktX3_runsOf_0 : List UInt8 := dkwX3_runsOf_0 ++ dktX3_runsOf_1
theorem dksX3_runsOf_0 : cX3_runsOf.data.toList.drop 0 = dktX3_runsOf_0 := by decide +kernel
theorem dksX3_runsOf_1 : cX3_runsOf.data.toList.drop 24 = dktX3_runsOf_1 := dk_seg dksX3_runsOf_0 24 rfl rfl
theorem dksX3_runsOf_2 : cX3_runsOf.data.toList.drop 47 = dktX3_runsOf_2 := dk_seg dksX3_runsOf_1 23 rfl rfl
theorem dksX3_runsOf_3 : cX3_runsOf.data.toList.drop 71 = dktX3_runsOf_3 := dk_seg dksX3_runsOf_2 24 rfl rfl
theorem dksX3_runsOf_4 : cX3_runsOf.data.toList.drop 94 = dktX3_runsOf_4 := dk_seg dksX3_runsOf_3 23 rfl rfl
theorem dksX3_runsOf_5 : cX3_runsOf.data.toList.drop 116 = dktX3_runsOf_5 := dk_seg dksX3_runsOf_4 22 rfl rfl
theorem dksX3_runsOf_6 : cX3_runsOf.data.toList.drop 139 = dktX3_runsOf_6 := dk_seg dksX3_runsOf_5 23 rfl rfl
theorem dX3_runsOf_0 : decode cX3_runsOf 0 = .ok (.aload_n 0, 1) := dk_42 (dk_at dksX3_runsOf_0 0 rfl rfl)
theorem dX3_runsOf_1 : decode cX3_runsOf 1 = .ok (.iconst 0, 1) := dk_3 (dk_at dksX3_runsOf_0 1 rfl rfl)
theorem dX3_runsOf_2 : decode cX3_runsOf 2 = .ok (.putfield 51, 3) := dk_181 0 51 (dk_at dksX3_runsOf_0 2 rfl rfl)
theorem dX3_runsOf_5 : decode cX3_runsOf 5 = .ok (.iload_n 1, 1) := dk_27 (dk_at dksX3_runsOf_0 5 rfl rfl)
theorem dX3_runsOf_6 : decode cX3_runsOf 6 = .ok (.invokestatic 111, 3) := dk_184 0 111 (dk_at dksX3_runsOf_0 6 rfl rfl)
theorem dX3_runsOf_9 : decode cX3_runsOf 9 = .ok (.ifCond .ne 5, 3) := dk_154 0 5 (dk_at dksX3_runsOf_0 9 rfl rfl)
theorem dX3_runsOf_12 : decode cX3_runsOf 12 = .ok (.iconst (-1), 1) := dk_2 (dk_at dksX3_runsOf_0 12 rfl rfl)
theorem dX3_runsOf_13 : decode cX3_runsOf 13 = .ok (.ireturn, 1) := dk_172 (dk_at dksX3_runsOf_0 13 rfl rfl)
theorem dX3_runsOf_14 : decode cX3_runsOf 14 = .ok (.iconst 0, 1) := dk_3 (dk_at dksX3_runsOf_0 14 rfl rfl)
theorem dX3_runsOf_15 : decode cX3_runsOf 15 = .ok (.istore_n 2, 1) := dk_61 (dk_at dksX3_runsOf_0 15 rfl rfl)
theorem dX3_runsOf_16 : decode cX3_runsOf 16 = .ok (.iconst 0, 1) := dk_3 (dk_at dksX3_runsOf_0 16 rfl rfl)
theorem dX3_runsOf_17 : decode cX3_runsOf 17 = .ok (.istore_n 3, 1) := dk_62 (dk_at dksX3_runsOf_0 17 rfl rfl)
theorem dX3_runsOf_18 : decode cX3_runsOf 18 = .ok (.iconst 0, 1) := dk_3 (dk_at dksX3_runsOf_0 18 rfl rfl)
theorem dX3_runsOf_19 : decode cX3_runsOf 19 = .ok (.istore 4, 2) := dk_54 4 (dk_at dksX3_runsOf_0 19 rfl rfl)
theorem dX3_runsOf_21 : decode cX3_runsOf 21 = .ok (.iconst 0, 1) := dk_3 (dk_at dksX3_runsOf_0 21 rfl rfl)
theorem dX3_runsOf_22 : decode cX3_runsOf 22 = .ok (.istore 5, 2) := dk_54 5 (dk_at dksX3_runsOf_0 22 rfl rfl)
theorem dX3_runsOf_24 : decode cX3_runsOf 24 = .ok (.iconst 0, 1) := dk_3 (dk_at dksX3_runsOf_1 0 rfl rfl)
theorem dX3_runsOf_25 : decode cX3_runsOf 25 = .ok (.istore 6, 2) := dk_54 6 (dk_at dksX3_runsOf_1 1 rfl rfl)
theorem dX3_runsOf_27 : decode cX3_runsOf 27 = .ok (.iload 6, 2) := dk_21 6 (dk_at dksX3_runsOf_1 3 rfl rfl)
theorem dX3_runsOf_29 : decode cX3_runsOf 29 = .ok (.aload_n 0, 1) := dk_42 (dk_at dksX3_runsOf_1 5 rfl rfl)
theorem dX3_runsOf_30 : decode cX3_runsOf 30 = .ok (.iload_n 1, 1) := dk_27 (dk_at dksX3_runsOf_1 6 rfl rfl)
theorem dX3_runsOf_31 : decode cX3_runsOf 31 = .ok (.invokevirtual 117, 3) := dk_182 0 117 (dk_at dksX3_runsOf_1 7 rfl rfl)
theorem dX3_runsOf_34 : decode cX3_runsOf 34 = .ok (.if_icmp .ge 74, 3) := dk_162 0 74 (dk_at dksX3_runsOf_1 10 rfl rfl)
theorem dX3_runsOf_37 : decode cX3_runsOf 37 = .ok (.iload 6, 2) := dk_21 6 (dk_at dksX3_runsOf_1 13 rfl rfl)
theorem dX3_runsOf_39 : decode cX3_runsOf 39 = .ok (.ifCond .eq 30, 3) := dk_153 0 30 (dk_at dksX3_runsOf_1 15 rfl rfl)
theorem dX3_runsOf_42 : decode cX3_runsOf 42 = .ok (.aload_n 0, 1) := dk_42 (dk_at dksX3_runsOf_1 18 rfl rfl)
theorem dX3_runsOf_43 : decode cX3_runsOf 43 = .ok (.getfield 27, 3) := dk_180 0 27 (dk_at dksX3_runsOf_1 19 rfl rfl)
theorem dX3_runsOf_46 : decode cX3_runsOf 46 = .ok (.iload_n 1, 1) := dk_27 (dk_at dksX3_runsOf_1 22 rfl rfl)
theorem dX3_runsOf_47 : decode cX3_runsOf 47 = .ok (.iload 6, 2) := dk_21 6 (dk_at dksX3_runsOf_2 0 rfl rfl)
theorem dX3_runsOf_49 : decode cX3_runsOf 49 = .ok (.invokestatic 92, 3) := dk_184 0 92 (dk_at dksX3_runsOf_2 2 rfl rfl)
theorem dX3_runsOf_52 : decode cX3_runsOf 52 = .ok (.iaload, 1) := dk_46 (dk_at dksX3_runsOf_2 5 rfl rfl)
theorem dX3_runsOf_53 : decode cX3_runsOf 53 = .ok (.aload_n 0, 1) := dk_42 (dk_at dksX3_runsOf_2 6 rfl rfl)
theorem dX3_runsOf_54 : decode cX3_runsOf 54 = .ok (.getfield 27, 3) := dk_180 0 27 (dk_at dksX3_runsOf_2 7 rfl rfl)
theorem dX3_runsOf_57 : decode cX3_runsOf 57 = .ok (.iload_n 1, 1) := dk_27 (dk_at dksX3_runsOf_2 10 rfl rfl)
theorem dX3_runsOf_58 : decode cX3_runsOf 58 = .ok (.iload 6, 2) := dk_21 6 (dk_at dksX3_runsOf_2 11 rfl rfl)
theorem dX3_runsOf_60 : decode cX3_runsOf 60 = .ok (.iconst 1, 1) := dk_4 (dk_at dksX3_runsOf_2 13 rfl rfl)
theorem dX3_runsOf_61 : decode cX3_runsOf 61 = .ok (.isub, 1) := dk_100 (dk_at dksX3_runsOf_2 14 rfl rfl)
theorem dX3_runsOf_62 : decode cX3_runsOf 62 = .ok (.invokestatic 92, 3) := dk_184 0 92 (dk_at dksX3_runsOf_2 15 rfl rfl)
theorem dX3_runsOf_65 : decode cX3_runsOf 65 = .ok (.iaload, 1) := dk_46 (dk_at dksX3_runsOf_2 18 rfl rfl)
theorem dX3_runsOf_66 : decode cX3_runsOf 66 = .ok (.if_icmp .eq 10, 3) := dk_159 0 10 (dk_at dksX3_runsOf_2 19 rfl rfl)
theorem dX3_runsOf_69 : decode cX3_runsOf 69 = .ok (.iload 6, 2) := dk_21 6 (dk_at dksX3_runsOf_2 22 rfl rfl)
theorem dX3_runsOf_71 : decode cX3_runsOf 71 = .ok (.istore 5, 2) := dk_54 5 (dk_at dksX3_runsOf_3 0 rfl rfl)
theorem dX3_runsOf_73 : decode cX3_runsOf 73 = .ok (.iinc 2 1, 3) := dk_132 2 1 (dk_at dksX3_runsOf_3 2 rfl rfl)
theorem dX3_runsOf_76 : decode cX3_runsOf 76 = .ok (.iload 6, 2) := dk_21 6 (dk_at dksX3_runsOf_3 5 rfl rfl)
theorem dX3_runsOf_78 : decode cX3_runsOf 78 = .ok (.iconst 1, 1) := dk_4 (dk_at dksX3_runsOf_3 7 rfl rfl)
theorem dX3_runsOf_79 : decode cX3_runsOf 79 = .ok (.iadd, 1) := dk_96 (dk_at dksX3_runsOf_3 8 rfl rfl)
theorem dX3_runsOf_80 : decode cX3_runsOf 80 = .ok (.iload 5, 2) := dk_21 5 (dk_at dksX3_runsOf_3 9 rfl rfl)
theorem dX3_runsOf_82 : decode cX3_runsOf 82 = .ok (.isub, 1) := dk_100 (dk_at dksX3_runsOf_3 11 rfl rfl)
theorem dX3_runsOf_83 : decode cX3_runsOf 83 = .ok (.iload_n 3, 1) := dk_29 (dk_at dksX3_runsOf_3 12 rfl rfl)
theorem dX3_runsOf_84 : decode cX3_runsOf 84 = .ok (.if_icmp .gt 6, 3) := dk_163 0 6 (dk_at dksX3_runsOf_3 13 rfl rfl)
theorem dX3_runsOf_87 : decode cX3_runsOf 87 = .ok (.goto 15, 3) := dk_167 0 15 (dk_at dksX3_runsOf_3 16 rfl rfl)
theorem dX3_runsOf_90 : decode cX3_runsOf 90 = .ok (.iload 6, 2) := dk_21 6 (dk_at dksX3_runsOf_3 19 rfl rfl)
theorem dX3_runsOf_92 : decode cX3_runsOf 92 = .ok (.iconst 1, 1) := dk_4 (dk_at dksX3_runsOf_3 21 rfl rfl)
theorem dX3_runsOf_93 : decode cX3_runsOf 93 = .ok (.iadd, 1) := dk_96 (dk_at dksX3_runsOf_3 22 rfl rfl)
theorem dX3_runsOf_94 : decode cX3_runsOf 94 = .ok (.iload 5, 2) := dk_21 5 (dk_at dksX3_runsOf_4 0 rfl rfl)
theorem dX3_runsOf_96 : decode cX3_runsOf 96 = .ok (.isub, 1) := dk_100 (dk_at dksX3_runsOf_4 2 rfl rfl)
theorem dX3_runsOf_97 : decode cX3_runsOf 97 = .ok (.istore_n 3, 1) := dk_62 (dk_at dksX3_runsOf_4 3 rfl rfl)
theorem dX3_runsOf_98 : decode cX3_runsOf 98 = .ok (.iload 5, 2) := dk_21 5 (dk_at dksX3_runsOf_4 4 rfl rfl)
theorem dX3_runsOf_100 : decode cX3_runsOf 100 = .ok (.istore 4, 2) := dk_54 4 (dk_at dksX3_runsOf_4 6 rfl rfl)
theorem dX3_runsOf_102 : decode cX3_runsOf 102 = .ok (.iinc 6 1, 3) := dk_132 6 1 (dk_at dksX3_runsOf_4 8 rfl rfl)
theorem dX3_runsOf_105 : decode cX3_runsOf 105 = .ok (.goto (-78), 3) := dk_167 255 178 (dk_at dksX3_runsOf_4 11 rfl rfl)
theorem dX3_runsOf_108 : decode cX3_runsOf 108 = .ok (.aload_n 0, 1) := dk_42 (dk_at dksX3_runsOf_4 14 rfl rfl)
theorem dX3_runsOf_109 : decode cX3_runsOf 109 = .ok (.iconst 0, 1) := dk_3 (dk_at dksX3_runsOf_4 15 rfl rfl)
theorem dX3_runsOf_110 : decode cX3_runsOf 110 = .ok (.putfield 54, 3) := dk_181 0 54 (dk_at dksX3_runsOf_4 16 rfl rfl)
theorem dX3_runsOf_113 : decode cX3_runsOf 113 = .ok (.aload_n 0, 1) := dk_42 (dk_at dksX3_runsOf_4 19 rfl rfl)
theorem dX3_runsOf_114 : decode cX3_runsOf 114 = .ok (.iload_n 3, 1) := dk_29 (dk_at dksX3_runsOf_4 20 rfl rfl)
theorem dX3_runsOf_115 : decode cX3_runsOf 115 = .ok (.i2l, 1) := dk_133 (dk_at dksX3_runsOf_4 21 rfl rfl)
theorem dX3_runsOf_116 : decode cX3_runsOf 116 = .ok (.invokevirtual 81, 3) := dk_182 0 81 (dk_at dksX3_runsOf_5 0 rfl rfl)
theorem dX3_runsOf_119 : decode cX3_runsOf 119 = .ok (.aload_n 0, 1) := dk_42 (dk_at dksX3_runsOf_5 3 rfl rfl)
theorem dX3_runsOf_120 : decode cX3_runsOf 120 = .ok (.iload 4, 2) := dk_21 4 (dk_at dksX3_runsOf_5 4 rfl rfl)
theorem dX3_runsOf_122 : decode cX3_runsOf 122 = .ok (.i2l, 1) := dk_133 (dk_at dksX3_runsOf_5 6 rfl rfl)
theorem dX3_runsOf_123 : decode cX3_runsOf 123 = .ok (.invokevirtual 81, 3) := dk_182 0 81 (dk_at dksX3_runsOf_5 7 rfl rfl)
theorem dX3_runsOf_126 : decode cX3_runsOf 126 = .ok (.aload_n 0, 1) := dk_42 (dk_at dksX3_runsOf_5 10 rfl rfl)
theorem dX3_runsOf_127 : decode cX3_runsOf 127 = .ok (.aload_n 0, 1) := dk_42 (dk_at dksX3_runsOf_5 11 rfl rfl)
theorem dX3_runsOf_128 : decode cX3_runsOf 128 = .ok (.getfield 27, 3) := dk_180 0 27 (dk_at dksX3_runsOf_5 12 rfl rfl)
theorem dX3_runsOf_131 : decode cX3_runsOf 131 = .ok (.iload_n 1, 1) := dk_27 (dk_at dksX3_runsOf_5 15 rfl rfl)
theorem dX3_runsOf_132 : decode cX3_runsOf 132 = .ok (.iload 4, 2) := dk_21 4 (dk_at dksX3_runsOf_5 16 rfl rfl)
theorem dX3_runsOf_134 : decode cX3_runsOf 134 = .ok (.invokestatic 92, 3) := dk_184 0 92 (dk_at dksX3_runsOf_5 18 rfl rfl)
theorem dX3_runsOf_137 : decode cX3_runsOf 137 = .ok (.iaload, 1) := dk_46 (dk_at dksX3_runsOf_5 21 rfl rfl)
theorem dX3_runsOf_138 : decode cX3_runsOf 138 = .ok (.i2l, 1) := dk_133 (dk_at dksX3_runsOf_5 22 rfl rfl)
theorem dX3_runsOf_139 : decode cX3_runsOf 139 = .ok (.invokevirtual 81, 3) := dk_182 0 81 (dk_at dksX3_runsOf_6 0 rfl rfl)
theorem dX3_runsOf_142 : decode cX3_runsOf 142 = .ok (.iload_n 2, 1) := dk_28 (dk_at dksX3_runsOf_6 3 rfl rfl)
theorem dX3_runsOf_143 : decode cX3_runsOf 143 = .ok (.ireturn, 1) := dk_172 (dk_at dksX3_runsOf_6 4 rfl rfl)
abbrev cX3_replays : ByteArray := prog_10_method_75_code
def yX3_replays : MethodName := ⟨RX3, "replays", "(I)I"⟩
def dkwX3_replays_4 : List UInt8 := [132, 5, 1, 167, 255, 201, 42, 3, 181, 0, 54, 42, 33, 182, 0, 81, 28, 172]
abbrev dktX3_replays_4 : List UInt8 := dkwX3_replays_4 ++ []
def dkwX3_replays_3 : List UInt8 := [167, 0, 24, 132, 2, 1, 33, 21, 5, 16, 60, 162, 0, 10, 10, 21, 5, 121, 167, 0, 4, 9, 129, 66]
abbrev dktX3_replays_3 : List UInt8 := dkwX3_replays_3 ++ dktX3_replays_4
def dkwX3_replays_2 : List UInt8 := [162, 0, 52, 42, 27, 42, 42, 180, 0, 41, 21, 5, 46, 182, 0, 69, 182, 0, 241, 154, 0, 6]
abbrev dktX3_replays_2 : List UInt8 := dkwX3_replays_2 ++ dktX3_replays_3
def dkwX3_replays_1 : List UInt8 := [172, 27, 184, 0, 111, 154, 0, 5, 2, 172, 3, 61, 9, 66, 3, 54, 5, 21, 5, 42, 180, 0, 142]
abbrev dktX3_replays_1 : List UInt8 := dkwX3_replays_1 ++ dktX3_replays_2
def dkwX3_replays_0 : List UInt8 := [42, 3, 181, 0, 51, 42, 182, 0, 149, 42, 182, 0, 152, 154, 0, 12, 17, 248, 48, 42, 180, 0, 133, 100]
abbrev dktX3_replays_0 : List UInt8 := dkwX3_replays_0 ++ dktX3_replays_1
theorem dksX3_replays_0 : cX3_replays.data.toList.drop 0 = dktX3_replays_0 := by decide +kernel
theorem dksX3_replays_1 : cX3_replays.data.toList.drop 24 = dktX3_replays_1 := dk_seg dksX3_replays_0 24 rfl rfl
theorem dksX3_replays_2 : cX3_replays.data.toList.drop 47 = dktX3_replays_2 := dk_seg dksX3_replays_1 23 rfl rfl
theorem dksX3_replays_3 : cX3_replays.data.toList.drop 69 = dktX3_replays_3 := dk_seg dksX3_replays_2 22 rfl rfl
theorem dksX3_replays_4 : cX3_replays.data.toList.drop 93 = dktX3_replays_4 := dk_seg dksX3_replays_3 24 rfl rfl
theorem dX3_replays_0 : decode cX3_replays 0 = .ok (.aload_n 0, 1) := dk_42 (dk_at dksX3_replays_0 0 rfl rfl)
theorem dX3_replays_1 : decode cX3_replays 1 = .ok (.iconst 0, 1) := dk_3 (dk_at dksX3_replays_0 1 rfl rfl)
theorem dX3_replays_2 : decode cX3_replays 2 = .ok (.putfield 51, 3) := dk_181 0 51 (dk_at dksX3_replays_0 2 rfl rfl)
theorem dX3_replays_5 : decode cX3_replays 5 = .ok (.aload_n 0, 1) := dk_42 (dk_at dksX3_replays_0 5 rfl rfl)
theorem dX3_replays_6 : decode cX3_replays 6 = .ok (.invokevirtual 149, 3) := dk_182 0 149 (dk_at dksX3_replays_0 6 rfl rfl)
theorem dX3_replays_9 : decode cX3_replays 9 = .ok (.aload_n 0, 1) := dk_42 (dk_at dksX3_replays_0 9 rfl rfl)
theorem dX3_replays_10 : decode cX3_replays 10 = .ok (.invokevirtual 152, 3) := dk_182 0 152 (dk_at dksX3_replays_0 10 rfl rfl)
theorem dX3_replays_13 : decode cX3_replays 13 = .ok (.ifCond .ne 12, 3) := dk_154 0 12 (dk_at dksX3_replays_0 13 rfl rfl)
theorem dX3_replays_16 : decode cX3_replays 16 = .ok (.sipush (-2000), 3) := dk_17 248 48 (dk_at dksX3_replays_0 16 rfl rfl)
theorem dX3_replays_19 : decode cX3_replays 19 = .ok (.aload_n 0, 1) := dk_42 (dk_at dksX3_replays_0 19 rfl rfl)
theorem dX3_replays_20 : decode cX3_replays 20 = .ok (.getfield 133, 3) := dk_180 0 133 (dk_at dksX3_replays_0 20 rfl rfl)
theorem dX3_replays_23 : decode cX3_replays 23 = .ok (.isub, 1) := dk_100 (dk_at dksX3_replays_0 23 rfl rfl)
theorem dX3_replays_24 : decode cX3_replays 24 = .ok (.ireturn, 1) := dk_172 (dk_at dksX3_replays_1 0 rfl rfl)
theorem dX3_replays_25 : decode cX3_replays 25 = .ok (.iload_n 1, 1) := dk_27 (dk_at dksX3_replays_1 1 rfl rfl)
theorem dX3_replays_26 : decode cX3_replays 26 = .ok (.invokestatic 111, 3) := dk_184 0 111 (dk_at dksX3_replays_1 2 rfl rfl)
theorem dX3_replays_29 : decode cX3_replays 29 = .ok (.ifCond .ne 5, 3) := dk_154 0 5 (dk_at dksX3_replays_1 5 rfl rfl)
theorem dX3_replays_32 : decode cX3_replays 32 = .ok (.iconst (-1), 1) := dk_2 (dk_at dksX3_replays_1 8 rfl rfl)
theorem dX3_replays_33 : decode cX3_replays 33 = .ok (.ireturn, 1) := dk_172 (dk_at dksX3_replays_1 9 rfl rfl)
theorem dX3_replays_34 : decode cX3_replays 34 = .ok (.iconst 0, 1) := dk_3 (dk_at dksX3_replays_1 10 rfl rfl)
theorem dX3_replays_35 : decode cX3_replays 35 = .ok (.istore_n 2, 1) := dk_61 (dk_at dksX3_replays_1 11 rfl rfl)
theorem dX3_replays_36 : decode cX3_replays 36 = .ok (.lconst 0, 1) := dk_9 (dk_at dksX3_replays_1 12 rfl rfl)
theorem dX3_replays_37 : decode cX3_replays 37 = .ok (.lstore_n 3, 1) := dk_66 (dk_at dksX3_replays_1 13 rfl rfl)
theorem dX3_replays_38 : decode cX3_replays 38 = .ok (.iconst 0, 1) := dk_3 (dk_at dksX3_replays_1 14 rfl rfl)
theorem dX3_replays_39 : decode cX3_replays 39 = .ok (.istore 5, 2) := dk_54 5 (dk_at dksX3_replays_1 15 rfl rfl)
theorem dX3_replays_41 : decode cX3_replays 41 = .ok (.iload 5, 2) := dk_21 5 (dk_at dksX3_replays_1 17 rfl rfl)
theorem dX3_replays_43 : decode cX3_replays 43 = .ok (.aload_n 0, 1) := dk_42 (dk_at dksX3_replays_1 19 rfl rfl)
theorem dX3_replays_44 : decode cX3_replays 44 = .ok (.getfield 142, 3) := dk_180 0 142 (dk_at dksX3_replays_1 20 rfl rfl)
theorem dX3_replays_47 : decode cX3_replays 47 = .ok (.if_icmp .ge 52, 3) := dk_162 0 52 (dk_at dksX3_replays_2 0 rfl rfl)
theorem dX3_replays_50 : decode cX3_replays 50 = .ok (.aload_n 0, 1) := dk_42 (dk_at dksX3_replays_2 3 rfl rfl)
theorem dX3_replays_51 : decode cX3_replays 51 = .ok (.iload_n 1, 1) := dk_27 (dk_at dksX3_replays_2 4 rfl rfl)
theorem dX3_replays_52 : decode cX3_replays 52 = .ok (.aload_n 0, 1) := dk_42 (dk_at dksX3_replays_2 5 rfl rfl)
theorem dX3_replays_53 : decode cX3_replays 53 = .ok (.aload_n 0, 1) := dk_42 (dk_at dksX3_replays_2 6 rfl rfl)
theorem dX3_replays_54 : decode cX3_replays 54 = .ok (.getfield 41, 3) := dk_180 0 41 (dk_at dksX3_replays_2 7 rfl rfl)
theorem dX3_replays_57 : decode cX3_replays 57 = .ok (.iload 5, 2) := dk_21 5 (dk_at dksX3_replays_2 10 rfl rfl)
theorem dX3_replays_59 : decode cX3_replays 59 = .ok (.iaload, 1) := dk_46 (dk_at dksX3_replays_2 12 rfl rfl)
theorem dX3_replays_60 : decode cX3_replays 60 = .ok (.invokevirtual 69, 3) := dk_182 0 69 (dk_at dksX3_replays_2 13 rfl rfl)
theorem dX3_replays_63 : decode cX3_replays 63 = .ok (.invokevirtual 241, 3) := dk_182 0 241 (dk_at dksX3_replays_2 16 rfl rfl)
theorem dX3_replays_66 : decode cX3_replays 66 = .ok (.ifCond .ne 6, 3) := dk_154 0 6 (dk_at dksX3_replays_2 19 rfl rfl)
theorem dX3_replays_69 : decode cX3_replays 69 = .ok (.goto 24, 3) := dk_167 0 24 (dk_at dksX3_replays_3 0 rfl rfl)
theorem dX3_replays_72 : decode cX3_replays 72 = .ok (.iinc 2 1, 3) := dk_132 2 1 (dk_at dksX3_replays_3 3 rfl rfl)
theorem dX3_replays_75 : decode cX3_replays 75 = .ok (.lload_n 3, 1) := dk_33 (dk_at dksX3_replays_3 6 rfl rfl)
theorem dX3_replays_76 : decode cX3_replays 76 = .ok (.iload 5, 2) := dk_21 5 (dk_at dksX3_replays_3 7 rfl rfl)
theorem dX3_replays_78 : decode cX3_replays 78 = .ok (.bipush 60, 2) := dk_16 60 (dk_at dksX3_replays_3 9 rfl rfl)
theorem dX3_replays_80 : decode cX3_replays 80 = .ok (.if_icmp .ge 10, 3) := dk_162 0 10 (dk_at dksX3_replays_3 11 rfl rfl)
theorem dX3_replays_83 : decode cX3_replays 83 = .ok (.lconst 1, 1) := dk_10 (dk_at dksX3_replays_3 14 rfl rfl)
theorem dX3_replays_84 : decode cX3_replays 84 = .ok (.iload 5, 2) := dk_21 5 (dk_at dksX3_replays_3 15 rfl rfl)
theorem dX3_replays_86 : decode cX3_replays 86 = .ok (.lshl, 1) := dk_121 (dk_at dksX3_replays_3 17 rfl rfl)
theorem dX3_replays_87 : decode cX3_replays 87 = .ok (.goto 4, 3) := dk_167 0 4 (dk_at dksX3_replays_3 18 rfl rfl)
theorem dX3_replays_90 : decode cX3_replays 90 = .ok (.lconst 0, 1) := dk_9 (dk_at dksX3_replays_3 21 rfl rfl)
theorem dX3_replays_91 : decode cX3_replays 91 = .ok (.lor, 1) := dk_129 (dk_at dksX3_replays_3 22 rfl rfl)
theorem dX3_replays_92 : decode cX3_replays 92 = .ok (.lstore_n 3, 1) := dk_66 (dk_at dksX3_replays_3 23 rfl rfl)
theorem dX3_replays_93 : decode cX3_replays 93 = .ok (.iinc 5 1, 3) := dk_132 5 1 (dk_at dksX3_replays_4 0 rfl rfl)
theorem dX3_replays_96 : decode cX3_replays 96 = .ok (.goto (-55), 3) := dk_167 255 201 (dk_at dksX3_replays_4 3 rfl rfl)
theorem dX3_replays_99 : decode cX3_replays 99 = .ok (.aload_n 0, 1) := dk_42 (dk_at dksX3_replays_4 6 rfl rfl)
theorem dX3_replays_100 : decode cX3_replays 100 = .ok (.iconst 0, 1) := dk_3 (dk_at dksX3_replays_4 7 rfl rfl)
theorem dX3_replays_101 : decode cX3_replays 101 = .ok (.putfield 54, 3) := dk_181 0 54 (dk_at dksX3_replays_4 8 rfl rfl)
theorem dX3_replays_104 : decode cX3_replays 104 = .ok (.aload_n 0, 1) := dk_42 (dk_at dksX3_replays_4 11 rfl rfl)
theorem dX3_replays_105 : decode cX3_replays 105 = .ok (.lload_n 3, 1) := dk_33 (dk_at dksX3_replays_4 12 rfl rfl)
theorem dX3_replays_106 : decode cX3_replays 106 = .ok (.invokevirtual 81, 3) := dk_182 0 81 (dk_at dksX3_replays_4 13 rfl rfl)
theorem dX3_replays_109 : decode cX3_replays 109 = .ok (.iload_n 2, 1) := dk_28 (dk_at dksX3_replays_4 16 rfl rfl)
theorem dX3_replays_110 : decode cX3_replays 110 = .ok (.ireturn, 1) := dk_172 (dk_at dksX3_replays_4 17 rfl rfl)
abbrev cX3_gap : ByteArray := prog_10_method_76_code
def yX3_gap : MethodName := ⟨RX3, "gap", "(I)I"⟩
def dkwX3_gap_4 : List UInt8 := [42, 21, 4, 133, 182, 0, 81, 29, 172]
abbrev dktX3_gap_4 : List UInt8 := dkwX3_gap_4 ++ []
def dkwX3_gap_3 : List UInt8 := [163, 0, 6, 167, 0, 10, 21, 6, 62, 21, 5, 54, 4, 132, 5, 1, 167, 255, 197, 42, 3, 181, 0, 54]
abbrev dktX3_gap_3 : List UInt8 := dkwX3_gap_3 ++ dktX3_gap_4
def dkwX3_gap_2 : List UInt8 := [27, 21, 5, 21, 6, 96, 28, 112, 184, 0, 92, 46, 154, 0, 9, 132, 6, 1, 167, 255, 228, 21, 6, 29]
abbrev dktX3_gap_2 : List UInt8 := dkwX3_gap_2 ++ dktX3_gap_3
def dkwX3_gap_1 : List UInt8 := [54, 4, 3, 54, 5, 21, 5, 28, 162, 0, 59, 3, 54, 6, 21, 6, 28, 162, 0, 28, 42, 180, 0, 27]
abbrev dktX3_gap_1 : List UInt8 := dkwX3_gap_1 ++ dktX3_gap_2
def dkwX3_gap_0 : List UInt8 := [42, 3, 181, 0, 51, 27, 184, 0, 111, 154, 0, 5, 2, 172, 42, 27, 182, 0, 117, 61, 3, 62, 2]
abbrev dktX3_gap_0 : List UInt8 := dkwX3_gap_0 ++ dktX3_gap_1
theorem dksX3_gap_0 : cX3_gap.data.toList.drop 0 = dktX3_gap_0 := by decide +kernel
theorem dksX3_gap_1 : cX3_gap.data.toList.drop 23 = dktX3_gap_1 := dk_seg dksX3_gap_0 23 rfl rfl
theorem dksX3_gap_2 : cX3_gap.data.toList.drop 47 = dktX3_gap_2 := dk_seg dksX3_gap_1 24 rfl rfl
theorem dksX3_gap_3 : cX3_gap.data.toList.drop 71 = dktX3_gap_3 := dk_seg dksX3_gap_2 24 rfl rfl
theorem dksX3_gap_4 : cX3_gap.data.toList.drop 95 = dktX3_gap_4 := dk_seg dksX3_gap_3 24 rfl rfl
theorem dX3_gap_0 : decode cX3_gap 0 = .ok (.aload_n 0, 1) := dk_42 (dk_at dksX3_gap_0 0 rfl rfl)
theorem dX3_gap_1 : decode cX3_gap 1 = .ok (.iconst 0, 1) := dk_3 (dk_at dksX3_gap_0 1 rfl rfl)
theorem dX3_gap_2 : decode cX3_gap 2 = .ok (.putfield 51, 3) := dk_181 0 51 (dk_at dksX3_gap_0 2 rfl rfl)
theorem dX3_gap_5 : decode cX3_gap 5 = .ok (.iload_n 1, 1) := dk_27 (dk_at dksX3_gap_0 5 rfl rfl)
theorem dX3_gap_6 : decode cX3_gap 6 = .ok (.invokestatic 111, 3) := dk_184 0 111 (dk_at dksX3_gap_0 6 rfl rfl)
theorem dX3_gap_9 : decode cX3_gap 9 = .ok (.ifCond .ne 5, 3) := dk_154 0 5 (dk_at dksX3_gap_0 9 rfl rfl)
theorem dX3_gap_12 : decode cX3_gap 12 = .ok (.iconst (-1), 1) := dk_2 (dk_at dksX3_gap_0 12 rfl rfl)
theorem dX3_gap_13 : decode cX3_gap 13 = .ok (.ireturn, 1) := dk_172 (dk_at dksX3_gap_0 13 rfl rfl)
theorem dX3_gap_14 : decode cX3_gap 14 = .ok (.aload_n 0, 1) := dk_42 (dk_at dksX3_gap_0 14 rfl rfl)
theorem dX3_gap_15 : decode cX3_gap 15 = .ok (.iload_n 1, 1) := dk_27 (dk_at dksX3_gap_0 15 rfl rfl)
theorem dX3_gap_16 : decode cX3_gap 16 = .ok (.invokevirtual 117, 3) := dk_182 0 117 (dk_at dksX3_gap_0 16 rfl rfl)
theorem dX3_gap_19 : decode cX3_gap 19 = .ok (.istore_n 2, 1) := dk_61 (dk_at dksX3_gap_0 19 rfl rfl)
theorem dX3_gap_20 : decode cX3_gap 20 = .ok (.iconst 0, 1) := dk_3 (dk_at dksX3_gap_0 20 rfl rfl)
theorem dX3_gap_21 : decode cX3_gap 21 = .ok (.istore_n 3, 1) := dk_62 (dk_at dksX3_gap_0 21 rfl rfl)
theorem dX3_gap_22 : decode cX3_gap 22 = .ok (.iconst (-1), 1) := dk_2 (dk_at dksX3_gap_0 22 rfl rfl)
theorem dX3_gap_23 : decode cX3_gap 23 = .ok (.istore 4, 2) := dk_54 4 (dk_at dksX3_gap_1 0 rfl rfl)
theorem dX3_gap_25 : decode cX3_gap 25 = .ok (.iconst 0, 1) := dk_3 (dk_at dksX3_gap_1 2 rfl rfl)
theorem dX3_gap_26 : decode cX3_gap 26 = .ok (.istore 5, 2) := dk_54 5 (dk_at dksX3_gap_1 3 rfl rfl)
theorem dX3_gap_28 : decode cX3_gap 28 = .ok (.iload 5, 2) := dk_21 5 (dk_at dksX3_gap_1 5 rfl rfl)
theorem dX3_gap_30 : decode cX3_gap 30 = .ok (.iload_n 2, 1) := dk_28 (dk_at dksX3_gap_1 7 rfl rfl)
theorem dX3_gap_31 : decode cX3_gap 31 = .ok (.if_icmp .ge 59, 3) := dk_162 0 59 (dk_at dksX3_gap_1 8 rfl rfl)
theorem dX3_gap_34 : decode cX3_gap 34 = .ok (.iconst 0, 1) := dk_3 (dk_at dksX3_gap_1 11 rfl rfl)
theorem dX3_gap_35 : decode cX3_gap 35 = .ok (.istore 6, 2) := dk_54 6 (dk_at dksX3_gap_1 12 rfl rfl)
theorem dX3_gap_37 : decode cX3_gap 37 = .ok (.iload 6, 2) := dk_21 6 (dk_at dksX3_gap_1 14 rfl rfl)
theorem dX3_gap_39 : decode cX3_gap 39 = .ok (.iload_n 2, 1) := dk_28 (dk_at dksX3_gap_1 16 rfl rfl)
theorem dX3_gap_40 : decode cX3_gap 40 = .ok (.if_icmp .ge 28, 3) := dk_162 0 28 (dk_at dksX3_gap_1 17 rfl rfl)
theorem dX3_gap_43 : decode cX3_gap 43 = .ok (.aload_n 0, 1) := dk_42 (dk_at dksX3_gap_1 20 rfl rfl)
theorem dX3_gap_44 : decode cX3_gap 44 = .ok (.getfield 27, 3) := dk_180 0 27 (dk_at dksX3_gap_1 21 rfl rfl)
theorem dX3_gap_47 : decode cX3_gap 47 = .ok (.iload_n 1, 1) := dk_27 (dk_at dksX3_gap_2 0 rfl rfl)
theorem dX3_gap_48 : decode cX3_gap 48 = .ok (.iload 5, 2) := dk_21 5 (dk_at dksX3_gap_2 1 rfl rfl)
theorem dX3_gap_50 : decode cX3_gap 50 = .ok (.iload 6, 2) := dk_21 6 (dk_at dksX3_gap_2 3 rfl rfl)
theorem dX3_gap_52 : decode cX3_gap 52 = .ok (.iadd, 1) := dk_96 (dk_at dksX3_gap_2 5 rfl rfl)
theorem dX3_gap_53 : decode cX3_gap 53 = .ok (.iload_n 2, 1) := dk_28 (dk_at dksX3_gap_2 6 rfl rfl)
theorem dX3_gap_54 : decode cX3_gap 54 = .ok (.irem, 1) := dk_112 (dk_at dksX3_gap_2 7 rfl rfl)
theorem dX3_gap_55 : decode cX3_gap 55 = .ok (.invokestatic 92, 3) := dk_184 0 92 (dk_at dksX3_gap_2 8 rfl rfl)
theorem dX3_gap_58 : decode cX3_gap 58 = .ok (.iaload, 1) := dk_46 (dk_at dksX3_gap_2 11 rfl rfl)
theorem dX3_gap_59 : decode cX3_gap 59 = .ok (.ifCond .ne 9, 3) := dk_154 0 9 (dk_at dksX3_gap_2 12 rfl rfl)
theorem dX3_gap_62 : decode cX3_gap 62 = .ok (.iinc 6 1, 3) := dk_132 6 1 (dk_at dksX3_gap_2 15 rfl rfl)
theorem dX3_gap_65 : decode cX3_gap 65 = .ok (.goto (-28), 3) := dk_167 255 228 (dk_at dksX3_gap_2 18 rfl rfl)
theorem dX3_gap_68 : decode cX3_gap 68 = .ok (.iload 6, 2) := dk_21 6 (dk_at dksX3_gap_2 21 rfl rfl)
theorem dX3_gap_70 : decode cX3_gap 70 = .ok (.iload_n 3, 1) := dk_29 (dk_at dksX3_gap_2 23 rfl rfl)
theorem dX3_gap_71 : decode cX3_gap 71 = .ok (.if_icmp .gt 6, 3) := dk_163 0 6 (dk_at dksX3_gap_3 0 rfl rfl)
theorem dX3_gap_74 : decode cX3_gap 74 = .ok (.goto 10, 3) := dk_167 0 10 (dk_at dksX3_gap_3 3 rfl rfl)
theorem dX3_gap_77 : decode cX3_gap 77 = .ok (.iload 6, 2) := dk_21 6 (dk_at dksX3_gap_3 6 rfl rfl)
theorem dX3_gap_79 : decode cX3_gap 79 = .ok (.istore_n 3, 1) := dk_62 (dk_at dksX3_gap_3 8 rfl rfl)
theorem dX3_gap_80 : decode cX3_gap 80 = .ok (.iload 5, 2) := dk_21 5 (dk_at dksX3_gap_3 9 rfl rfl)
theorem dX3_gap_82 : decode cX3_gap 82 = .ok (.istore 4, 2) := dk_54 4 (dk_at dksX3_gap_3 11 rfl rfl)
theorem dX3_gap_84 : decode cX3_gap 84 = .ok (.iinc 5 1, 3) := dk_132 5 1 (dk_at dksX3_gap_3 13 rfl rfl)
theorem dX3_gap_87 : decode cX3_gap 87 = .ok (.goto (-59), 3) := dk_167 255 197 (dk_at dksX3_gap_3 16 rfl rfl)
theorem dX3_gap_90 : decode cX3_gap 90 = .ok (.aload_n 0, 1) := dk_42 (dk_at dksX3_gap_3 19 rfl rfl)
theorem dX3_gap_91 : decode cX3_gap 91 = .ok (.iconst 0, 1) := dk_3 (dk_at dksX3_gap_3 20 rfl rfl)
theorem dX3_gap_92 : decode cX3_gap 92 = .ok (.putfield 54, 3) := dk_181 0 54 (dk_at dksX3_gap_3 21 rfl rfl)
theorem dX3_gap_95 : decode cX3_gap 95 = .ok (.aload_n 0, 1) := dk_42 (dk_at dksX3_gap_4 0 rfl rfl)
theorem dX3_gap_96 : decode cX3_gap 96 = .ok (.iload 4, 2) := dk_21 4 (dk_at dksX3_gap_4 1 rfl rfl)
theorem dX3_gap_98 : decode cX3_gap 98 = .ok (.i2l, 1) := dk_133 (dk_at dksX3_gap_4 3 rfl rfl)
theorem dX3_gap_99 : decode cX3_gap 99 = .ok (.invokevirtual 81, 3) := dk_182 0 81 (dk_at dksX3_gap_4 4 rfl rfl)
theorem dX3_gap_102 : decode cX3_gap 102 = .ok (.iload_n 3, 1) := dk_29 (dk_at dksX3_gap_4 7 rfl rfl)
theorem dX3_gap_103 : decode cX3_gap 103 = .ok (.ireturn, 1) := dk_172 (dk_at dksX3_gap_4 8 rfl rfl)
abbrev cX3_chain : ByteArray := prog_10_method_77_code
def yX3_chain : MethodName := ⟨RX3, "chain", "(I)I"⟩
def dkwX3_chain_4 : List UInt8 := [21, 4, 172]
abbrev dktX3_chain_4 : List UInt8 := dkwX3_chain_4 ++ []
def dkwX3_chain_3 : List UInt8 := [21, 6, 29, 164, 0, 7, 4, 167, 0, 4, 3, 96, 54, 4, 21, 6, 62, 132, 5, 1, 167, 255, 194]
abbrev dktX3_chain_3 : List UInt8 := dkwX3_chain_3 ++ dktX3_chain_4
def dkwX3_chain_2 : List UInt8 := [28, 4, 21, 5, 120, 128, 61, 42, 28, 182, 0, 246, 54, 6, 42, 21, 6, 133, 182, 0, 81, 21, 4]
abbrev dktX3_chain_2 : List UInt8 := dkwX3_chain_2 ++ dktX3_chain_3
def dkwX3_chain_1 : List UInt8 := [54, 4, 3, 54, 5, 21, 5, 16, 6, 162, 0, 61, 27, 21, 5, 122, 4, 126, 154, 0, 6, 167, 0, 43]
abbrev dktX3_chain_1 : List UInt8 := dkwX3_chain_1 ++ dktX3_chain_2
def dkwX3_chain_0 : List UInt8 := [42, 3, 181, 0, 51, 27, 184, 0, 217, 154, 0, 5, 2, 172, 42, 3, 181, 0, 54, 3, 61, 3, 62, 3]
abbrev dktX3_chain_0 : List UInt8 := dkwX3_chain_0 ++ dktX3_chain_1
theorem dksX3_chain_0 : cX3_chain.data.toList.drop 0 = dktX3_chain_0 := by decide +kernel
theorem dksX3_chain_1 : cX3_chain.data.toList.drop 24 = dktX3_chain_1 := dk_seg dksX3_chain_0 24 rfl rfl
theorem dksX3_chain_2 : cX3_chain.data.toList.drop 48 = dktX3_chain_2 := dk_seg dksX3_chain_1 24 rfl rfl
theorem dksX3_chain_3 : cX3_chain.data.toList.drop 71 = dktX3_chain_3 := dk_seg dksX3_chain_2 23 rfl rfl
theorem dksX3_chain_4 : cX3_chain.data.toList.drop 94 = dktX3_chain_4 := dk_seg dksX3_chain_3 23 rfl rfl
theorem dX3_chain_0 : decode cX3_chain 0 = .ok (.aload_n 0, 1) := dk_42 (dk_at dksX3_chain_0 0 rfl rfl)
theorem dX3_chain_1 : decode cX3_chain 1 = .ok (.iconst 0, 1) := dk_3 (dk_at dksX3_chain_0 1 rfl rfl)
theorem dX3_chain_2 : decode cX3_chain 2 = .ok (.putfield 51, 3) := dk_181 0 51 (dk_at dksX3_chain_0 2 rfl rfl)
theorem dX3_chain_5 : decode cX3_chain 5 = .ok (.iload_n 1, 1) := dk_27 (dk_at dksX3_chain_0 5 rfl rfl)
theorem dX3_chain_6 : decode cX3_chain 6 = .ok (.invokestatic 217, 3) := dk_184 0 217 (dk_at dksX3_chain_0 6 rfl rfl)
theorem dX3_chain_9 : decode cX3_chain 9 = .ok (.ifCond .ne 5, 3) := dk_154 0 5 (dk_at dksX3_chain_0 9 rfl rfl)
theorem dX3_chain_12 : decode cX3_chain 12 = .ok (.iconst (-1), 1) := dk_2 (dk_at dksX3_chain_0 12 rfl rfl)
theorem dX3_chain_13 : decode cX3_chain 13 = .ok (.ireturn, 1) := dk_172 (dk_at dksX3_chain_0 13 rfl rfl)
theorem dX3_chain_14 : decode cX3_chain 14 = .ok (.aload_n 0, 1) := dk_42 (dk_at dksX3_chain_0 14 rfl rfl)
theorem dX3_chain_15 : decode cX3_chain 15 = .ok (.iconst 0, 1) := dk_3 (dk_at dksX3_chain_0 15 rfl rfl)
theorem dX3_chain_16 : decode cX3_chain 16 = .ok (.putfield 54, 3) := dk_181 0 54 (dk_at dksX3_chain_0 16 rfl rfl)
theorem dX3_chain_19 : decode cX3_chain 19 = .ok (.iconst 0, 1) := dk_3 (dk_at dksX3_chain_0 19 rfl rfl)
theorem dX3_chain_20 : decode cX3_chain 20 = .ok (.istore_n 2, 1) := dk_61 (dk_at dksX3_chain_0 20 rfl rfl)
theorem dX3_chain_21 : decode cX3_chain 21 = .ok (.iconst 0, 1) := dk_3 (dk_at dksX3_chain_0 21 rfl rfl)
theorem dX3_chain_22 : decode cX3_chain 22 = .ok (.istore_n 3, 1) := dk_62 (dk_at dksX3_chain_0 22 rfl rfl)
theorem dX3_chain_23 : decode cX3_chain 23 = .ok (.iconst 0, 1) := dk_3 (dk_at dksX3_chain_0 23 rfl rfl)
theorem dX3_chain_24 : decode cX3_chain 24 = .ok (.istore 4, 2) := dk_54 4 (dk_at dksX3_chain_1 0 rfl rfl)
theorem dX3_chain_26 : decode cX3_chain 26 = .ok (.iconst 0, 1) := dk_3 (dk_at dksX3_chain_1 2 rfl rfl)
theorem dX3_chain_27 : decode cX3_chain 27 = .ok (.istore 5, 2) := dk_54 5 (dk_at dksX3_chain_1 3 rfl rfl)
theorem dX3_chain_29 : decode cX3_chain 29 = .ok (.iload 5, 2) := dk_21 5 (dk_at dksX3_chain_1 5 rfl rfl)
theorem dX3_chain_31 : decode cX3_chain 31 = .ok (.bipush 6, 2) := dk_16 6 (dk_at dksX3_chain_1 7 rfl rfl)
theorem dX3_chain_33 : decode cX3_chain 33 = .ok (.if_icmp .ge 61, 3) := dk_162 0 61 (dk_at dksX3_chain_1 9 rfl rfl)
theorem dX3_chain_36 : decode cX3_chain 36 = .ok (.iload_n 1, 1) := dk_27 (dk_at dksX3_chain_1 12 rfl rfl)
theorem dX3_chain_37 : decode cX3_chain 37 = .ok (.iload 5, 2) := dk_21 5 (dk_at dksX3_chain_1 13 rfl rfl)
theorem dX3_chain_39 : decode cX3_chain 39 = .ok (.ishr, 1) := dk_122 (dk_at dksX3_chain_1 15 rfl rfl)
theorem dX3_chain_40 : decode cX3_chain 40 = .ok (.iconst 1, 1) := dk_4 (dk_at dksX3_chain_1 16 rfl rfl)
theorem dX3_chain_41 : decode cX3_chain 41 = .ok (.iand, 1) := dk_126 (dk_at dksX3_chain_1 17 rfl rfl)
theorem dX3_chain_42 : decode cX3_chain 42 = .ok (.ifCond .ne 6, 3) := dk_154 0 6 (dk_at dksX3_chain_1 18 rfl rfl)
theorem dX3_chain_45 : decode cX3_chain 45 = .ok (.goto 43, 3) := dk_167 0 43 (dk_at dksX3_chain_1 21 rfl rfl)
theorem dX3_chain_48 : decode cX3_chain 48 = .ok (.iload_n 2, 1) := dk_28 (dk_at dksX3_chain_2 0 rfl rfl)
theorem dX3_chain_49 : decode cX3_chain 49 = .ok (.iconst 1, 1) := dk_4 (dk_at dksX3_chain_2 1 rfl rfl)
theorem dX3_chain_50 : decode cX3_chain 50 = .ok (.iload 5, 2) := dk_21 5 (dk_at dksX3_chain_2 2 rfl rfl)
theorem dX3_chain_52 : decode cX3_chain 52 = .ok (.ishl, 1) := dk_120 (dk_at dksX3_chain_2 4 rfl rfl)
theorem dX3_chain_53 : decode cX3_chain 53 = .ok (.ior, 1) := dk_128 (dk_at dksX3_chain_2 5 rfl rfl)
theorem dX3_chain_54 : decode cX3_chain 54 = .ok (.istore_n 2, 1) := dk_61 (dk_at dksX3_chain_2 6 rfl rfl)
theorem dX3_chain_55 : decode cX3_chain 55 = .ok (.aload_n 0, 1) := dk_42 (dk_at dksX3_chain_2 7 rfl rfl)
theorem dX3_chain_56 : decode cX3_chain 56 = .ok (.iload_n 2, 1) := dk_28 (dk_at dksX3_chain_2 8 rfl rfl)
theorem dX3_chain_57 : decode cX3_chain 57 = .ok (.invokevirtual 246, 3) := dk_182 0 246 (dk_at dksX3_chain_2 9 rfl rfl)
theorem dX3_chain_60 : decode cX3_chain 60 = .ok (.istore 6, 2) := dk_54 6 (dk_at dksX3_chain_2 12 rfl rfl)
theorem dX3_chain_62 : decode cX3_chain 62 = .ok (.aload_n 0, 1) := dk_42 (dk_at dksX3_chain_2 14 rfl rfl)
theorem dX3_chain_63 : decode cX3_chain 63 = .ok (.iload 6, 2) := dk_21 6 (dk_at dksX3_chain_2 15 rfl rfl)
theorem dX3_chain_65 : decode cX3_chain 65 = .ok (.i2l, 1) := dk_133 (dk_at dksX3_chain_2 17 rfl rfl)
theorem dX3_chain_66 : decode cX3_chain 66 = .ok (.invokevirtual 81, 3) := dk_182 0 81 (dk_at dksX3_chain_2 18 rfl rfl)
theorem dX3_chain_69 : decode cX3_chain 69 = .ok (.iload 4, 2) := dk_21 4 (dk_at dksX3_chain_2 21 rfl rfl)
theorem dX3_chain_71 : decode cX3_chain 71 = .ok (.iload 6, 2) := dk_21 6 (dk_at dksX3_chain_3 0 rfl rfl)
theorem dX3_chain_73 : decode cX3_chain 73 = .ok (.iload_n 3, 1) := dk_29 (dk_at dksX3_chain_3 2 rfl rfl)
theorem dX3_chain_74 : decode cX3_chain 74 = .ok (.if_icmp .le 7, 3) := dk_164 0 7 (dk_at dksX3_chain_3 3 rfl rfl)
theorem dX3_chain_77 : decode cX3_chain 77 = .ok (.iconst 1, 1) := dk_4 (dk_at dksX3_chain_3 6 rfl rfl)
theorem dX3_chain_78 : decode cX3_chain 78 = .ok (.goto 4, 3) := dk_167 0 4 (dk_at dksX3_chain_3 7 rfl rfl)
theorem dX3_chain_81 : decode cX3_chain 81 = .ok (.iconst 0, 1) := dk_3 (dk_at dksX3_chain_3 10 rfl rfl)
theorem dX3_chain_82 : decode cX3_chain 82 = .ok (.iadd, 1) := dk_96 (dk_at dksX3_chain_3 11 rfl rfl)
theorem dX3_chain_83 : decode cX3_chain 83 = .ok (.istore 4, 2) := dk_54 4 (dk_at dksX3_chain_3 12 rfl rfl)
theorem dX3_chain_85 : decode cX3_chain 85 = .ok (.iload 6, 2) := dk_21 6 (dk_at dksX3_chain_3 14 rfl rfl)
theorem dX3_chain_87 : decode cX3_chain 87 = .ok (.istore_n 3, 1) := dk_62 (dk_at dksX3_chain_3 16 rfl rfl)
theorem dX3_chain_88 : decode cX3_chain 88 = .ok (.iinc 5 1, 3) := dk_132 5 1 (dk_at dksX3_chain_3 17 rfl rfl)
theorem dX3_chain_91 : decode cX3_chain 91 = .ok (.goto (-62), 3) := dk_167 255 194 (dk_at dksX3_chain_3 20 rfl rfl)
theorem dX3_chain_94 : decode cX3_chain 94 = .ok (.iload 4, 2) := dk_21 4 (dk_at dksX3_chain_4 0 rfl rfl)
theorem dX3_chain_96 : decode cX3_chain 96 = .ok (.ireturn, 1) := dk_172 (dk_at dksX3_chain_4 2 rfl rfl)
abbrev cX3_jointGuess : ByteArray := prog_10_method_51_code
def yX3_jointGuess : MethodName := ⟨RX3, "jointGuess", "(I)I"⟩
def dkwX3_jointGuess_0 : List UInt8 := [42, 27, 182, 0, 208, 42, 16, 6, 182, 0, 211, 172]
abbrev dktX3_jointGuess_0 : List UInt8 := dkwX3_jointGuess_0 ++ []
theorem dksX3_jointGuess_0 : cX3_jointGuess.data.toList.drop 0 = dktX3_jointGuess_0 := by decide +kernel
theorem dX3_jointGuess_0 : decode cX3_jointGuess 0 = .ok (.aload_n 0, 1) := dk_42 (dk_at dksX3_jointGuess_0 0 rfl rfl)
theorem dX3_jointGuess_1 : decode cX3_jointGuess 1 = .ok (.iload_n 1, 1) := dk_27 (dk_at dksX3_jointGuess_0 1 rfl rfl)
theorem dX3_jointGuess_2 : decode cX3_jointGuess 2 = .ok (.invokevirtual 208, 3) := dk_182 0 208 (dk_at dksX3_jointGuess_0 2 rfl rfl)
theorem dX3_jointGuess_5 : decode cX3_jointGuess 5 = .ok (.aload_n 0, 1) := dk_42 (dk_at dksX3_jointGuess_0 5 rfl rfl)
theorem dX3_jointGuess_6 : decode cX3_jointGuess 6 = .ok (.bipush 6, 2) := dk_16 6 (dk_at dksX3_jointGuess_0 6 rfl rfl)
theorem dX3_jointGuess_8 : decode cX3_jointGuess 8 = .ok (.invokevirtual 211, 3) := dk_182 0 211 (dk_at dksX3_jointGuess_0 8 rfl rfl)
theorem dX3_jointGuess_11 : decode cX3_jointGuess 11 = .ok (.ireturn, 1) := dk_172 (dk_at dksX3_jointGuess_0 11 rfl rfl)
abbrev cX3_lessers : ByteArray := prog_10_method_78_code
def yX3_lessers : MethodName := ⟨RX3, "lessers", "(III)I"⟩
def dkwX3_lessers_5 : List UInt8 := [16, 7, 182, 0, 107, 42, 16, 7, 29, 182, 0, 170, 42, 29, 182, 0, 211, 172]
abbrev dktX3_lessers_5 : List UInt8 := dkwX3_lessers_5 ++ []
def dkwX3_lessers_4 : List UInt8 := [184, 0, 92, 46, 184, 0, 173, 79, 132, 6, 1, 167, 255, 207, 42, 180, 0, 13, 16, 7, 21, 4, 79, 42]
abbrev dktX3_lessers_4 : List UInt8 := dkwX3_lessers_4 ++ dktX3_lessers_5
def dkwX3_lessers_3 : List UInt8 := [184, 0, 92, 42, 180, 0, 27, 16, 7, 21, 6, 184, 0, 92, 46, 42, 180, 0, 27, 16, 8, 21, 6]
abbrev dktX3_lessers_3 : List UInt8 := dkwX3_lessers_3 ++ dktX3_lessers_4
def dkwX3_lessers_2 : List UInt8 := [28, 182, 0, 249, 54, 5, 3, 54, 6, 21, 6, 21, 5, 162, 0, 48, 42, 180, 0, 27, 16, 7, 21, 6]
abbrev dktX3_lessers_2 : List UInt8 := dkwX3_lessers_2 ++ dktX3_lessers_3
def dkwX3_lessers_1 : List UInt8 := [154, 0, 5, 2, 172, 42, 180, 0, 13, 27, 46, 42, 180, 0, 13, 28, 46, 184, 0, 173, 54, 4, 42, 27]
abbrev dktX3_lessers_1 : List UInt8 := dkwX3_lessers_1 ++ dktX3_lessers_2
def dkwX3_lessers_0 : List UInt8 := [42, 3, 181, 0, 51, 27, 184, 0, 111, 153, 0, 17, 28, 184, 0, 111, 153, 0, 10, 29, 184, 0, 111]
abbrev dktX3_lessers_0 : List UInt8 := dkwX3_lessers_0 ++ dktX3_lessers_1
theorem dksX3_lessers_0 : cX3_lessers.data.toList.drop 0 = dktX3_lessers_0 := by decide +kernel
theorem dksX3_lessers_1 : cX3_lessers.data.toList.drop 23 = dktX3_lessers_1 := dk_seg dksX3_lessers_0 23 rfl rfl
theorem dksX3_lessers_2 : cX3_lessers.data.toList.drop 47 = dktX3_lessers_2 := dk_seg dksX3_lessers_1 24 rfl rfl
theorem dksX3_lessers_3 : cX3_lessers.data.toList.drop 71 = dktX3_lessers_3 := dk_seg dksX3_lessers_2 24 rfl rfl
theorem dksX3_lessers_4 : cX3_lessers.data.toList.drop 94 = dktX3_lessers_4 := dk_seg dksX3_lessers_3 23 rfl rfl
theorem dksX3_lessers_5 : cX3_lessers.data.toList.drop 118 = dktX3_lessers_5 := dk_seg dksX3_lessers_4 24 rfl rfl
theorem dX3_lessers_0 : decode cX3_lessers 0 = .ok (.aload_n 0, 1) := dk_42 (dk_at dksX3_lessers_0 0 rfl rfl)
theorem dX3_lessers_1 : decode cX3_lessers 1 = .ok (.iconst 0, 1) := dk_3 (dk_at dksX3_lessers_0 1 rfl rfl)
theorem dX3_lessers_2 : decode cX3_lessers 2 = .ok (.putfield 51, 3) := dk_181 0 51 (dk_at dksX3_lessers_0 2 rfl rfl)
theorem dX3_lessers_5 : decode cX3_lessers 5 = .ok (.iload_n 1, 1) := dk_27 (dk_at dksX3_lessers_0 5 rfl rfl)
theorem dX3_lessers_6 : decode cX3_lessers 6 = .ok (.invokestatic 111, 3) := dk_184 0 111 (dk_at dksX3_lessers_0 6 rfl rfl)
theorem dX3_lessers_9 : decode cX3_lessers 9 = .ok (.ifCond .eq 17, 3) := dk_153 0 17 (dk_at dksX3_lessers_0 9 rfl rfl)
theorem dX3_lessers_12 : decode cX3_lessers 12 = .ok (.iload_n 2, 1) := dk_28 (dk_at dksX3_lessers_0 12 rfl rfl)
theorem dX3_lessers_13 : decode cX3_lessers 13 = .ok (.invokestatic 111, 3) := dk_184 0 111 (dk_at dksX3_lessers_0 13 rfl rfl)
theorem dX3_lessers_16 : decode cX3_lessers 16 = .ok (.ifCond .eq 10, 3) := dk_153 0 10 (dk_at dksX3_lessers_0 16 rfl rfl)
theorem dX3_lessers_19 : decode cX3_lessers 19 = .ok (.iload_n 3, 1) := dk_29 (dk_at dksX3_lessers_0 19 rfl rfl)
theorem dX3_lessers_20 : decode cX3_lessers 20 = .ok (.invokestatic 111, 3) := dk_184 0 111 (dk_at dksX3_lessers_0 20 rfl rfl)
theorem dX3_lessers_23 : decode cX3_lessers 23 = .ok (.ifCond .ne 5, 3) := dk_154 0 5 (dk_at dksX3_lessers_1 0 rfl rfl)
theorem dX3_lessers_26 : decode cX3_lessers 26 = .ok (.iconst (-1), 1) := dk_2 (dk_at dksX3_lessers_1 3 rfl rfl)
theorem dX3_lessers_27 : decode cX3_lessers 27 = .ok (.ireturn, 1) := dk_172 (dk_at dksX3_lessers_1 4 rfl rfl)
theorem dX3_lessers_28 : decode cX3_lessers 28 = .ok (.aload_n 0, 1) := dk_42 (dk_at dksX3_lessers_1 5 rfl rfl)
theorem dX3_lessers_29 : decode cX3_lessers 29 = .ok (.getfield 13, 3) := dk_180 0 13 (dk_at dksX3_lessers_1 6 rfl rfl)
theorem dX3_lessers_32 : decode cX3_lessers 32 = .ok (.iload_n 1, 1) := dk_27 (dk_at dksX3_lessers_1 9 rfl rfl)
theorem dX3_lessers_33 : decode cX3_lessers 33 = .ok (.iaload, 1) := dk_46 (dk_at dksX3_lessers_1 10 rfl rfl)
theorem dX3_lessers_34 : decode cX3_lessers 34 = .ok (.aload_n 0, 1) := dk_42 (dk_at dksX3_lessers_1 11 rfl rfl)
theorem dX3_lessers_35 : decode cX3_lessers 35 = .ok (.getfield 13, 3) := dk_180 0 13 (dk_at dksX3_lessers_1 12 rfl rfl)
theorem dX3_lessers_38 : decode cX3_lessers 38 = .ok (.iload_n 2, 1) := dk_28 (dk_at dksX3_lessers_1 15 rfl rfl)
theorem dX3_lessers_39 : decode cX3_lessers 39 = .ok (.iaload, 1) := dk_46 (dk_at dksX3_lessers_1 16 rfl rfl)
theorem dX3_lessers_40 : decode cX3_lessers 40 = .ok (.invokestatic 173, 3) := dk_184 0 173 (dk_at dksX3_lessers_1 17 rfl rfl)
theorem dX3_lessers_43 : decode cX3_lessers 43 = .ok (.istore 4, 2) := dk_54 4 (dk_at dksX3_lessers_1 20 rfl rfl)
theorem dX3_lessers_45 : decode cX3_lessers 45 = .ok (.aload_n 0, 1) := dk_42 (dk_at dksX3_lessers_1 22 rfl rfl)
theorem dX3_lessers_46 : decode cX3_lessers 46 = .ok (.iload_n 1, 1) := dk_27 (dk_at dksX3_lessers_1 23 rfl rfl)
theorem dX3_lessers_47 : decode cX3_lessers 47 = .ok (.iload_n 2, 1) := dk_28 (dk_at dksX3_lessers_2 0 rfl rfl)
theorem dX3_lessers_48 : decode cX3_lessers 48 = .ok (.invokevirtual 249, 3) := dk_182 0 249 (dk_at dksX3_lessers_2 1 rfl rfl)
theorem dX3_lessers_51 : decode cX3_lessers 51 = .ok (.istore 5, 2) := dk_54 5 (dk_at dksX3_lessers_2 4 rfl rfl)
theorem dX3_lessers_53 : decode cX3_lessers 53 = .ok (.iconst 0, 1) := dk_3 (dk_at dksX3_lessers_2 6 rfl rfl)
theorem dX3_lessers_54 : decode cX3_lessers 54 = .ok (.istore 6, 2) := dk_54 6 (dk_at dksX3_lessers_2 7 rfl rfl)
theorem dX3_lessers_56 : decode cX3_lessers 56 = .ok (.iload 6, 2) := dk_21 6 (dk_at dksX3_lessers_2 9 rfl rfl)
theorem dX3_lessers_58 : decode cX3_lessers 58 = .ok (.iload 5, 2) := dk_21 5 (dk_at dksX3_lessers_2 11 rfl rfl)
theorem dX3_lessers_60 : decode cX3_lessers 60 = .ok (.if_icmp .ge 48, 3) := dk_162 0 48 (dk_at dksX3_lessers_2 13 rfl rfl)
theorem dX3_lessers_63 : decode cX3_lessers 63 = .ok (.aload_n 0, 1) := dk_42 (dk_at dksX3_lessers_2 16 rfl rfl)
theorem dX3_lessers_64 : decode cX3_lessers 64 = .ok (.getfield 27, 3) := dk_180 0 27 (dk_at dksX3_lessers_2 17 rfl rfl)
theorem dX3_lessers_67 : decode cX3_lessers 67 = .ok (.bipush 7, 2) := dk_16 7 (dk_at dksX3_lessers_2 20 rfl rfl)
theorem dX3_lessers_69 : decode cX3_lessers 69 = .ok (.iload 6, 2) := dk_21 6 (dk_at dksX3_lessers_2 22 rfl rfl)
theorem dX3_lessers_71 : decode cX3_lessers 71 = .ok (.invokestatic 92, 3) := dk_184 0 92 (dk_at dksX3_lessers_3 0 rfl rfl)
theorem dX3_lessers_74 : decode cX3_lessers 74 = .ok (.aload_n 0, 1) := dk_42 (dk_at dksX3_lessers_3 3 rfl rfl)
theorem dX3_lessers_75 : decode cX3_lessers 75 = .ok (.getfield 27, 3) := dk_180 0 27 (dk_at dksX3_lessers_3 4 rfl rfl)
theorem dX3_lessers_78 : decode cX3_lessers 78 = .ok (.bipush 7, 2) := dk_16 7 (dk_at dksX3_lessers_3 7 rfl rfl)
theorem dX3_lessers_80 : decode cX3_lessers 80 = .ok (.iload 6, 2) := dk_21 6 (dk_at dksX3_lessers_3 9 rfl rfl)
theorem dX3_lessers_82 : decode cX3_lessers 82 = .ok (.invokestatic 92, 3) := dk_184 0 92 (dk_at dksX3_lessers_3 11 rfl rfl)
theorem dX3_lessers_85 : decode cX3_lessers 85 = .ok (.iaload, 1) := dk_46 (dk_at dksX3_lessers_3 14 rfl rfl)
theorem dX3_lessers_86 : decode cX3_lessers 86 = .ok (.aload_n 0, 1) := dk_42 (dk_at dksX3_lessers_3 15 rfl rfl)
theorem dX3_lessers_87 : decode cX3_lessers 87 = .ok (.getfield 27, 3) := dk_180 0 27 (dk_at dksX3_lessers_3 16 rfl rfl)
theorem dX3_lessers_90 : decode cX3_lessers 90 = .ok (.bipush 8, 2) := dk_16 8 (dk_at dksX3_lessers_3 19 rfl rfl)
theorem dX3_lessers_92 : decode cX3_lessers 92 = .ok (.iload 6, 2) := dk_21 6 (dk_at dksX3_lessers_3 21 rfl rfl)
theorem dX3_lessers_94 : decode cX3_lessers 94 = .ok (.invokestatic 92, 3) := dk_184 0 92 (dk_at dksX3_lessers_4 0 rfl rfl)
theorem dX3_lessers_97 : decode cX3_lessers 97 = .ok (.iaload, 1) := dk_46 (dk_at dksX3_lessers_4 3 rfl rfl)
theorem dX3_lessers_98 : decode cX3_lessers 98 = .ok (.invokestatic 173, 3) := dk_184 0 173 (dk_at dksX3_lessers_4 4 rfl rfl)
theorem dX3_lessers_101 : decode cX3_lessers 101 = .ok (.iastore, 1) := dk_79 (dk_at dksX3_lessers_4 7 rfl rfl)
theorem dX3_lessers_102 : decode cX3_lessers 102 = .ok (.iinc 6 1, 3) := dk_132 6 1 (dk_at dksX3_lessers_4 8 rfl rfl)
theorem dX3_lessers_105 : decode cX3_lessers 105 = .ok (.goto (-49), 3) := dk_167 255 207 (dk_at dksX3_lessers_4 11 rfl rfl)
theorem dX3_lessers_108 : decode cX3_lessers 108 = .ok (.aload_n 0, 1) := dk_42 (dk_at dksX3_lessers_4 14 rfl rfl)
theorem dX3_lessers_109 : decode cX3_lessers 109 = .ok (.getfield 13, 3) := dk_180 0 13 (dk_at dksX3_lessers_4 15 rfl rfl)
theorem dX3_lessers_112 : decode cX3_lessers 112 = .ok (.bipush 7, 2) := dk_16 7 (dk_at dksX3_lessers_4 18 rfl rfl)
theorem dX3_lessers_114 : decode cX3_lessers 114 = .ok (.iload 4, 2) := dk_21 4 (dk_at dksX3_lessers_4 20 rfl rfl)
theorem dX3_lessers_116 : decode cX3_lessers 116 = .ok (.iastore, 1) := dk_79 (dk_at dksX3_lessers_4 22 rfl rfl)
theorem dX3_lessers_117 : decode cX3_lessers 117 = .ok (.aload_n 0, 1) := dk_42 (dk_at dksX3_lessers_4 23 rfl rfl)
theorem dX3_lessers_118 : decode cX3_lessers 118 = .ok (.bipush 7, 2) := dk_16 7 (dk_at dksX3_lessers_5 0 rfl rfl)
theorem dX3_lessers_120 : decode cX3_lessers 120 = .ok (.invokevirtual 107, 3) := dk_182 0 107 (dk_at dksX3_lessers_5 2 rfl rfl)
theorem dX3_lessers_123 : decode cX3_lessers 123 = .ok (.aload_n 0, 1) := dk_42 (dk_at dksX3_lessers_5 5 rfl rfl)
theorem dX3_lessers_124 : decode cX3_lessers 124 = .ok (.bipush 7, 2) := dk_16 7 (dk_at dksX3_lessers_5 6 rfl rfl)
theorem dX3_lessers_126 : decode cX3_lessers 126 = .ok (.iload_n 3, 1) := dk_29 (dk_at dksX3_lessers_5 8 rfl rfl)
theorem dX3_lessers_127 : decode cX3_lessers 127 = .ok (.invokevirtual 170, 3) := dk_182 0 170 (dk_at dksX3_lessers_5 9 rfl rfl)
theorem dX3_lessers_130 : decode cX3_lessers 130 = .ok (.aload_n 0, 1) := dk_42 (dk_at dksX3_lessers_5 12 rfl rfl)
theorem dX3_lessers_131 : decode cX3_lessers 131 = .ok (.iload_n 3, 1) := dk_29 (dk_at dksX3_lessers_5 13 rfl rfl)
theorem dX3_lessers_132 : decode cX3_lessers 132 = .ok (.invokevirtual 211, 3) := dk_182 0 211 (dk_at dksX3_lessers_5 14 rfl rfl)
theorem dX3_lessers_135 : decode cX3_lessers 135 = .ok (.ireturn, 1) := dk_172 (dk_at dksX3_lessers_5 17 rfl rfl)
abbrev cX3_foldsBoth : ByteArray := prog_10_method_90_code
def yX3_foldsBoth : MethodName := ⟨RX3, "foldsBoth", "(II)I"⟩
def dkwX3_foldsBoth_1 : List UInt8 := [28, 16, 8, 182, 0, 170, 42, 16, 7, 29, 182, 0, 166, 42, 16, 8, 29, 182, 0, 166, 4, 29, 120, 172]
abbrev dktX3_foldsBoth_1 : List UInt8 := dkwX3_foldsBoth_1 ++ []
def dkwX3_foldsBoth_0 : List UInt8 := [42, 180, 0, 7, 27, 46, 42, 180, 0, 7, 28, 46, 184, 0, 173, 62, 42, 27, 16, 7, 182, 0, 170, 42]
abbrev dktX3_foldsBoth_0 : List UInt8 := dkwX3_foldsBoth_0 ++ dktX3_foldsBoth_1
theorem dksX3_foldsBoth_0 : cX3_foldsBoth.data.toList.drop 0 = dktX3_foldsBoth_0 := by decide +kernel
theorem dksX3_foldsBoth_1 : cX3_foldsBoth.data.toList.drop 24 = dktX3_foldsBoth_1 := dk_seg dksX3_foldsBoth_0 24 rfl rfl
theorem dX3_foldsBoth_0 : decode cX3_foldsBoth 0 = .ok (.aload_n 0, 1) := dk_42 (dk_at dksX3_foldsBoth_0 0 rfl rfl)
theorem dX3_foldsBoth_1 : decode cX3_foldsBoth 1 = .ok (.getfield 7, 3) := dk_180 0 7 (dk_at dksX3_foldsBoth_0 1 rfl rfl)
theorem dX3_foldsBoth_4 : decode cX3_foldsBoth 4 = .ok (.iload_n 1, 1) := dk_27 (dk_at dksX3_foldsBoth_0 4 rfl rfl)
theorem dX3_foldsBoth_5 : decode cX3_foldsBoth 5 = .ok (.iaload, 1) := dk_46 (dk_at dksX3_foldsBoth_0 5 rfl rfl)
theorem dX3_foldsBoth_6 : decode cX3_foldsBoth 6 = .ok (.aload_n 0, 1) := dk_42 (dk_at dksX3_foldsBoth_0 6 rfl rfl)
theorem dX3_foldsBoth_7 : decode cX3_foldsBoth 7 = .ok (.getfield 7, 3) := dk_180 0 7 (dk_at dksX3_foldsBoth_0 7 rfl rfl)
theorem dX3_foldsBoth_10 : decode cX3_foldsBoth 10 = .ok (.iload_n 2, 1) := dk_28 (dk_at dksX3_foldsBoth_0 10 rfl rfl)
theorem dX3_foldsBoth_11 : decode cX3_foldsBoth 11 = .ok (.iaload, 1) := dk_46 (dk_at dksX3_foldsBoth_0 11 rfl rfl)
theorem dX3_foldsBoth_12 : decode cX3_foldsBoth 12 = .ok (.invokestatic 173, 3) := dk_184 0 173 (dk_at dksX3_foldsBoth_0 12 rfl rfl)
theorem dX3_foldsBoth_15 : decode cX3_foldsBoth 15 = .ok (.istore_n 3, 1) := dk_62 (dk_at dksX3_foldsBoth_0 15 rfl rfl)
theorem dX3_foldsBoth_16 : decode cX3_foldsBoth 16 = .ok (.aload_n 0, 1) := dk_42 (dk_at dksX3_foldsBoth_0 16 rfl rfl)
theorem dX3_foldsBoth_17 : decode cX3_foldsBoth 17 = .ok (.iload_n 1, 1) := dk_27 (dk_at dksX3_foldsBoth_0 17 rfl rfl)
theorem dX3_foldsBoth_18 : decode cX3_foldsBoth 18 = .ok (.bipush 7, 2) := dk_16 7 (dk_at dksX3_foldsBoth_0 18 rfl rfl)
theorem dX3_foldsBoth_20 : decode cX3_foldsBoth 20 = .ok (.invokevirtual 170, 3) := dk_182 0 170 (dk_at dksX3_foldsBoth_0 20 rfl rfl)
theorem dX3_foldsBoth_23 : decode cX3_foldsBoth 23 = .ok (.aload_n 0, 1) := dk_42 (dk_at dksX3_foldsBoth_0 23 rfl rfl)
theorem dX3_foldsBoth_24 : decode cX3_foldsBoth 24 = .ok (.iload_n 2, 1) := dk_28 (dk_at dksX3_foldsBoth_1 0 rfl rfl)
theorem dX3_foldsBoth_25 : decode cX3_foldsBoth 25 = .ok (.bipush 8, 2) := dk_16 8 (dk_at dksX3_foldsBoth_1 1 rfl rfl)
theorem dX3_foldsBoth_27 : decode cX3_foldsBoth 27 = .ok (.invokevirtual 170, 3) := dk_182 0 170 (dk_at dksX3_foldsBoth_1 3 rfl rfl)
theorem dX3_foldsBoth_30 : decode cX3_foldsBoth 30 = .ok (.aload_n 0, 1) := dk_42 (dk_at dksX3_foldsBoth_1 6 rfl rfl)
theorem dX3_foldsBoth_31 : decode cX3_foldsBoth 31 = .ok (.bipush 7, 2) := dk_16 7 (dk_at dksX3_foldsBoth_1 7 rfl rfl)
theorem dX3_foldsBoth_33 : decode cX3_foldsBoth 33 = .ok (.iload_n 3, 1) := dk_29 (dk_at dksX3_foldsBoth_1 9 rfl rfl)
theorem dX3_foldsBoth_34 : decode cX3_foldsBoth 34 = .ok (.invokevirtual 166, 3) := dk_182 0 166 (dk_at dksX3_foldsBoth_1 10 rfl rfl)
theorem dX3_foldsBoth_37 : decode cX3_foldsBoth 37 = .ok (.aload_n 0, 1) := dk_42 (dk_at dksX3_foldsBoth_1 13 rfl rfl)
theorem dX3_foldsBoth_38 : decode cX3_foldsBoth 38 = .ok (.bipush 8, 2) := dk_16 8 (dk_at dksX3_foldsBoth_1 14 rfl rfl)
theorem dX3_foldsBoth_40 : decode cX3_foldsBoth 40 = .ok (.iload_n 3, 1) := dk_29 (dk_at dksX3_foldsBoth_1 16 rfl rfl)
theorem dX3_foldsBoth_41 : decode cX3_foldsBoth 41 = .ok (.invokevirtual 166, 3) := dk_182 0 166 (dk_at dksX3_foldsBoth_1 17 rfl rfl)
theorem dX3_foldsBoth_44 : decode cX3_foldsBoth 44 = .ok (.iconst 1, 1) := dk_4 (dk_at dksX3_foldsBoth_1 20 rfl rfl)
theorem dX3_foldsBoth_45 : decode cX3_foldsBoth 45 = .ok (.iload_n 3, 1) := dk_29 (dk_at dksX3_foldsBoth_1 21 rfl rfl)
theorem dX3_foldsBoth_46 : decode cX3_foldsBoth 46 = .ok (.ishl, 1) := dk_120 (dk_at dksX3_foldsBoth_1 22 rfl rfl)
theorem dX3_foldsBoth_47 : decode cX3_foldsBoth 47 = .ok (.ireturn, 1) := dk_172 (dk_at dksX3_foldsBoth_1 23 rfl rfl)
abbrev cX3_table : ByteArray := prog_10_method_79_code
def yX3_table : MethodName := ⟨RX3, "table", "(II)I"⟩
def dkwX3_table_1 : List UInt8 := [120, 133, 184, 0, 60, 153, 0, 11, 27, 28, 184, 0, 179, 167, 0, 4, 2, 172]
abbrev dktX3_table_1 : List UInt8 := dkwX3_table_1 ++ []
def dkwX3_table_0 : List UInt8 := [42, 3, 181, 0, 51, 27, 133, 20, 0, 73, 20, 0, 75, 184, 0, 60, 153, 0, 24, 28, 133, 9, 4, 27]
abbrev dktX3_table_0 : List UInt8 := dkwX3_table_0 ++ dktX3_table_1
theorem dksX3_table_0 : cX3_table.data.toList.drop 0 = dktX3_table_0 := by decide +kernel
theorem dksX3_table_1 : cX3_table.data.toList.drop 24 = dktX3_table_1 := dk_seg dksX3_table_0 24 rfl rfl
theorem dX3_table_0 : decode cX3_table 0 = .ok (.aload_n 0, 1) := dk_42 (dk_at dksX3_table_0 0 rfl rfl)
theorem dX3_table_1 : decode cX3_table 1 = .ok (.iconst 0, 1) := dk_3 (dk_at dksX3_table_0 1 rfl rfl)
theorem dX3_table_2 : decode cX3_table 2 = .ok (.putfield 51, 3) := dk_181 0 51 (dk_at dksX3_table_0 2 rfl rfl)
theorem dX3_table_5 : decode cX3_table 5 = .ok (.iload_n 1, 1) := dk_27 (dk_at dksX3_table_0 5 rfl rfl)
theorem dX3_table_6 : decode cX3_table 6 = .ok (.i2l, 1) := dk_133 (dk_at dksX3_table_0 6 rfl rfl)
theorem dX3_table_7 : decode cX3_table 7 = .ok (.ldc2_w 73, 3) := dk_20 0 73 (dk_at dksX3_table_0 7 rfl rfl)
theorem dX3_table_10 : decode cX3_table 10 = .ok (.ldc2_w 75, 3) := dk_20 0 75 (dk_at dksX3_table_0 10 rfl rfl)
theorem dX3_table_13 : decode cX3_table 13 = .ok (.invokestatic 60, 3) := dk_184 0 60 (dk_at dksX3_table_0 13 rfl rfl)
theorem dX3_table_16 : decode cX3_table 16 = .ok (.ifCond .eq 24, 3) := dk_153 0 24 (dk_at dksX3_table_0 16 rfl rfl)
theorem dX3_table_19 : decode cX3_table 19 = .ok (.iload_n 2, 1) := dk_28 (dk_at dksX3_table_0 19 rfl rfl)
theorem dX3_table_20 : decode cX3_table 20 = .ok (.i2l, 1) := dk_133 (dk_at dksX3_table_0 20 rfl rfl)
theorem dX3_table_21 : decode cX3_table 21 = .ok (.lconst 0, 1) := dk_9 (dk_at dksX3_table_0 21 rfl rfl)
theorem dX3_table_22 : decode cX3_table 22 = .ok (.iconst 1, 1) := dk_4 (dk_at dksX3_table_0 22 rfl rfl)
theorem dX3_table_23 : decode cX3_table 23 = .ok (.iload_n 1, 1) := dk_27 (dk_at dksX3_table_0 23 rfl rfl)
theorem dX3_table_24 : decode cX3_table 24 = .ok (.ishl, 1) := dk_120 (dk_at dksX3_table_1 0 rfl rfl)
theorem dX3_table_25 : decode cX3_table 25 = .ok (.i2l, 1) := dk_133 (dk_at dksX3_table_1 1 rfl rfl)
theorem dX3_table_26 : decode cX3_table 26 = .ok (.invokestatic 60, 3) := dk_184 0 60 (dk_at dksX3_table_1 2 rfl rfl)
theorem dX3_table_29 : decode cX3_table 29 = .ok (.ifCond .eq 11, 3) := dk_153 0 11 (dk_at dksX3_table_1 5 rfl rfl)
theorem dX3_table_32 : decode cX3_table 32 = .ok (.iload_n 1, 1) := dk_27 (dk_at dksX3_table_1 8 rfl rfl)
theorem dX3_table_33 : decode cX3_table 33 = .ok (.iload_n 2, 1) := dk_28 (dk_at dksX3_table_1 9 rfl rfl)
theorem dX3_table_34 : decode cX3_table 34 = .ok (.invokestatic 179, 3) := dk_184 0 179 (dk_at dksX3_table_1 10 rfl rfl)
theorem dX3_table_37 : decode cX3_table 37 = .ok (.goto 4, 3) := dk_167 0 4 (dk_at dksX3_table_1 13 rfl rfl)
theorem dX3_table_40 : decode cX3_table 40 = .ok (.iconst (-1), 1) := dk_2 (dk_at dksX3_table_1 16 rfl rfl)
theorem dX3_table_41 : decode cX3_table 41 = .ok (.ireturn, 1) := dk_172 (dk_at dksX3_table_1 17 rfl rfl)
abbrev cX3_all : ByteArray := prog_10_method_80_code
def yX3_all : MethodName := ⟨RX3, "all", "(I)J"⟩
def dkwX3_all_0 : List UInt8 := [42, 3, 181, 0, 51, 27, 184, 0, 111, 153, 0, 11, 42, 27, 182, 0, 198, 167, 0, 6, 20, 0, 237, 173]
abbrev dktX3_all_0 : List UInt8 := dkwX3_all_0 ++ []
theorem dksX3_all_0 : cX3_all.data.toList.drop 0 = dktX3_all_0 := by decide +kernel
theorem dX3_all_0 : decode cX3_all 0 = .ok (.aload_n 0, 1) := dk_42 (dk_at dksX3_all_0 0 rfl rfl)
theorem dX3_all_1 : decode cX3_all 1 = .ok (.iconst 0, 1) := dk_3 (dk_at dksX3_all_0 1 rfl rfl)
theorem dX3_all_2 : decode cX3_all 2 = .ok (.putfield 51, 3) := dk_181 0 51 (dk_at dksX3_all_0 2 rfl rfl)
theorem dX3_all_5 : decode cX3_all 5 = .ok (.iload_n 1, 1) := dk_27 (dk_at dksX3_all_0 5 rfl rfl)
theorem dX3_all_6 : decode cX3_all 6 = .ok (.invokestatic 111, 3) := dk_184 0 111 (dk_at dksX3_all_0 6 rfl rfl)
theorem dX3_all_9 : decode cX3_all 9 = .ok (.ifCond .eq 11, 3) := dk_153 0 11 (dk_at dksX3_all_0 9 rfl rfl)
theorem dX3_all_12 : decode cX3_all 12 = .ok (.aload_n 0, 1) := dk_42 (dk_at dksX3_all_0 12 rfl rfl)
theorem dX3_all_13 : decode cX3_all 13 = .ok (.iload_n 1, 1) := dk_27 (dk_at dksX3_all_0 13 rfl rfl)
theorem dX3_all_14 : decode cX3_all 14 = .ok (.invokevirtual 198, 3) := dk_182 0 198 (dk_at dksX3_all_0 14 rfl rfl)
theorem dX3_all_17 : decode cX3_all 17 = .ok (.goto 6, 3) := dk_167 0 6 (dk_at dksX3_all_0 17 rfl rfl)
theorem dX3_all_20 : decode cX3_all 20 = .ok (.ldc2_w 237, 3) := dk_20 0 237 (dk_at dksX3_all_0 20 rfl rfl)
theorem dX3_all_23 : decode cX3_all 23 = .ok (.lreturn, 1) := dk_173 (dk_at dksX3_all_0 23 rfl rfl)
abbrev cX3_lacks : ByteArray := prog_10_method_81_code
def yX3_lacks : MethodName := ⟨RX3, "lacks", "(II)I"⟩
def dkwX3_lacks_3 : List UInt8 := [132, 6, 1, 167, 255, 216, 16, 254, 172]
abbrev dktX3_lacks_3 : List UInt8 := dkwX3_lacks_3 ++ []
def dkwX3_lacks_2 : List UInt8 := [21, 6, 100, 22, 4, 21, 6, 133, 20, 0, 252, 105, 101, 182, 0, 201, 28, 161, 0, 6, 21, 6, 172]
abbrev dktX3_lacks_2 : List UInt8 := dkwX3_lacks_2 ++ dktX3_lacks_3
def dkwX3_lacks_1 : List UInt8 := [42, 27, 182, 0, 198, 55, 4, 3, 54, 6, 21, 6, 29, 163, 0, 40, 42, 42, 180, 0, 7, 27, 46, 29]
abbrev dktX3_lacks_1 : List UInt8 := dkwX3_lacks_1 ++ dktX3_lacks_2
def dkwX3_lacks_0 : List UInt8 := [42, 3, 181, 0, 51, 27, 184, 0, 111, 153, 0, 7, 28, 156, 0, 5, 2, 172, 42, 27, 182, 0, 195, 62]
abbrev dktX3_lacks_0 : List UInt8 := dkwX3_lacks_0 ++ dktX3_lacks_1
theorem dksX3_lacks_0 : cX3_lacks.data.toList.drop 0 = dktX3_lacks_0 := by decide +kernel
theorem dksX3_lacks_1 : cX3_lacks.data.toList.drop 24 = dktX3_lacks_1 := dk_seg dksX3_lacks_0 24 rfl rfl
theorem dksX3_lacks_2 : cX3_lacks.data.toList.drop 48 = dktX3_lacks_2 := dk_seg dksX3_lacks_1 24 rfl rfl
theorem dksX3_lacks_3 : cX3_lacks.data.toList.drop 71 = dktX3_lacks_3 := dk_seg dksX3_lacks_2 23 rfl rfl
theorem dX3_lacks_0 : decode cX3_lacks 0 = .ok (.aload_n 0, 1) := dk_42 (dk_at dksX3_lacks_0 0 rfl rfl)
theorem dX3_lacks_1 : decode cX3_lacks 1 = .ok (.iconst 0, 1) := dk_3 (dk_at dksX3_lacks_0 1 rfl rfl)
theorem dX3_lacks_2 : decode cX3_lacks 2 = .ok (.putfield 51, 3) := dk_181 0 51 (dk_at dksX3_lacks_0 2 rfl rfl)
theorem dX3_lacks_5 : decode cX3_lacks 5 = .ok (.iload_n 1, 1) := dk_27 (dk_at dksX3_lacks_0 5 rfl rfl)
theorem dX3_lacks_6 : decode cX3_lacks 6 = .ok (.invokestatic 111, 3) := dk_184 0 111 (dk_at dksX3_lacks_0 6 rfl rfl)
theorem dX3_lacks_9 : decode cX3_lacks 9 = .ok (.ifCond .eq 7, 3) := dk_153 0 7 (dk_at dksX3_lacks_0 9 rfl rfl)
theorem dX3_lacks_12 : decode cX3_lacks 12 = .ok (.iload_n 2, 1) := dk_28 (dk_at dksX3_lacks_0 12 rfl rfl)
theorem dX3_lacks_13 : decode cX3_lacks 13 = .ok (.ifCond .ge 5, 3) := dk_156 0 5 (dk_at dksX3_lacks_0 13 rfl rfl)
theorem dX3_lacks_16 : decode cX3_lacks 16 = .ok (.iconst (-1), 1) := dk_2 (dk_at dksX3_lacks_0 16 rfl rfl)
theorem dX3_lacks_17 : decode cX3_lacks 17 = .ok (.ireturn, 1) := dk_172 (dk_at dksX3_lacks_0 17 rfl rfl)
theorem dX3_lacks_18 : decode cX3_lacks 18 = .ok (.aload_n 0, 1) := dk_42 (dk_at dksX3_lacks_0 18 rfl rfl)
theorem dX3_lacks_19 : decode cX3_lacks 19 = .ok (.iload_n 1, 1) := dk_27 (dk_at dksX3_lacks_0 19 rfl rfl)
theorem dX3_lacks_20 : decode cX3_lacks 20 = .ok (.invokevirtual 195, 3) := dk_182 0 195 (dk_at dksX3_lacks_0 20 rfl rfl)
theorem dX3_lacks_23 : decode cX3_lacks 23 = .ok (.istore_n 3, 1) := dk_62 (dk_at dksX3_lacks_0 23 rfl rfl)
theorem dX3_lacks_24 : decode cX3_lacks 24 = .ok (.aload_n 0, 1) := dk_42 (dk_at dksX3_lacks_1 0 rfl rfl)
theorem dX3_lacks_25 : decode cX3_lacks 25 = .ok (.iload_n 1, 1) := dk_27 (dk_at dksX3_lacks_1 1 rfl rfl)
theorem dX3_lacks_26 : decode cX3_lacks 26 = .ok (.invokevirtual 198, 3) := dk_182 0 198 (dk_at dksX3_lacks_1 2 rfl rfl)
theorem dX3_lacks_29 : decode cX3_lacks 29 = .ok (.lstore 4, 2) := dk_55 4 (dk_at dksX3_lacks_1 5 rfl rfl)
theorem dX3_lacks_31 : decode cX3_lacks 31 = .ok (.iconst 0, 1) := dk_3 (dk_at dksX3_lacks_1 7 rfl rfl)
theorem dX3_lacks_32 : decode cX3_lacks 32 = .ok (.istore 6, 2) := dk_54 6 (dk_at dksX3_lacks_1 8 rfl rfl)
theorem dX3_lacks_34 : decode cX3_lacks 34 = .ok (.iload 6, 2) := dk_21 6 (dk_at dksX3_lacks_1 10 rfl rfl)
theorem dX3_lacks_36 : decode cX3_lacks 36 = .ok (.iload_n 3, 1) := dk_29 (dk_at dksX3_lacks_1 12 rfl rfl)
theorem dX3_lacks_37 : decode cX3_lacks 37 = .ok (.if_icmp .gt 40, 3) := dk_163 0 40 (dk_at dksX3_lacks_1 13 rfl rfl)
theorem dX3_lacks_40 : decode cX3_lacks 40 = .ok (.aload_n 0, 1) := dk_42 (dk_at dksX3_lacks_1 16 rfl rfl)
theorem dX3_lacks_41 : decode cX3_lacks 41 = .ok (.aload_n 0, 1) := dk_42 (dk_at dksX3_lacks_1 17 rfl rfl)
theorem dX3_lacks_42 : decode cX3_lacks 42 = .ok (.getfield 7, 3) := dk_180 0 7 (dk_at dksX3_lacks_1 18 rfl rfl)
theorem dX3_lacks_45 : decode cX3_lacks 45 = .ok (.iload_n 1, 1) := dk_27 (dk_at dksX3_lacks_1 21 rfl rfl)
theorem dX3_lacks_46 : decode cX3_lacks 46 = .ok (.iaload, 1) := dk_46 (dk_at dksX3_lacks_1 22 rfl rfl)
theorem dX3_lacks_47 : decode cX3_lacks 47 = .ok (.iload_n 3, 1) := dk_29 (dk_at dksX3_lacks_1 23 rfl rfl)
theorem dX3_lacks_48 : decode cX3_lacks 48 = .ok (.iload 6, 2) := dk_21 6 (dk_at dksX3_lacks_2 0 rfl rfl)
theorem dX3_lacks_50 : decode cX3_lacks 50 = .ok (.isub, 1) := dk_100 (dk_at dksX3_lacks_2 2 rfl rfl)
theorem dX3_lacks_51 : decode cX3_lacks 51 = .ok (.lload 4, 2) := dk_22 4 (dk_at dksX3_lacks_2 3 rfl rfl)
theorem dX3_lacks_53 : decode cX3_lacks 53 = .ok (.iload 6, 2) := dk_21 6 (dk_at dksX3_lacks_2 5 rfl rfl)
theorem dX3_lacks_55 : decode cX3_lacks 55 = .ok (.i2l, 1) := dk_133 (dk_at dksX3_lacks_2 7 rfl rfl)
theorem dX3_lacks_56 : decode cX3_lacks 56 = .ok (.ldc2_w 252, 3) := dk_20 0 252 (dk_at dksX3_lacks_2 8 rfl rfl)
theorem dX3_lacks_59 : decode cX3_lacks 59 = .ok (.lmul, 1) := dk_105 (dk_at dksX3_lacks_2 11 rfl rfl)
theorem dX3_lacks_60 : decode cX3_lacks 60 = .ok (.lsub, 1) := dk_101 (dk_at dksX3_lacks_2 12 rfl rfl)
theorem dX3_lacks_61 : decode cX3_lacks 61 = .ok (.invokevirtual 201, 3) := dk_182 0 201 (dk_at dksX3_lacks_2 13 rfl rfl)
theorem dX3_lacks_64 : decode cX3_lacks 64 = .ok (.iload_n 2, 1) := dk_28 (dk_at dksX3_lacks_2 16 rfl rfl)
theorem dX3_lacks_65 : decode cX3_lacks 65 = .ok (.if_icmp .lt 6, 3) := dk_161 0 6 (dk_at dksX3_lacks_2 17 rfl rfl)
theorem dX3_lacks_68 : decode cX3_lacks 68 = .ok (.iload 6, 2) := dk_21 6 (dk_at dksX3_lacks_2 20 rfl rfl)
theorem dX3_lacks_70 : decode cX3_lacks 70 = .ok (.ireturn, 1) := dk_172 (dk_at dksX3_lacks_2 22 rfl rfl)
theorem dX3_lacks_71 : decode cX3_lacks 71 = .ok (.iinc 6 1, 3) := dk_132 6 1 (dk_at dksX3_lacks_3 0 rfl rfl)
theorem dX3_lacks_74 : decode cX3_lacks 74 = .ok (.goto (-40), 3) := dk_167 255 216 (dk_at dksX3_lacks_3 3 rfl rfl)
theorem dX3_lacks_77 : decode cX3_lacks 77 = .ok (.bipush (-2), 2) := dk_16 254 (dk_at dksX3_lacks_3 6 rfl rfl)
theorem dX3_lacks_79 : decode cX3_lacks 79 = .ok (.ireturn, 1) := dk_172 (dk_at dksX3_lacks_3 8 rfl rfl)
abbrev cX3_common : ByteArray := prog_10_method_83_code
def yX3_common : MethodName := ⟨RX3, "common", "(II)J"⟩
def dkwX3_common_2 : List UInt8 := [182, 0, 211, 133, 182, 0, 81, 42, 42, 27, 28, 182, 0, 254, 133, 182, 0, 81, 33, 173]
abbrev dktX3_common_2 : List UInt8 := dkwX3_common_2 ++ []
def dkwX3_common_1 : List UInt8 := [27, 28, 182, 1, 3, 66, 42, 3, 181, 0, 54, 42, 42, 27, 182, 0, 211, 133, 182, 0, 81, 42, 42, 28]
abbrev dktX3_common_1 : List UInt8 := dkwX3_common_1 ++ dktX3_common_2
def dkwX3_common_0 : List UInt8 := [42, 3, 181, 0, 51, 27, 184, 0, 111, 153, 0, 10, 28, 184, 0, 111, 154, 0, 7, 20, 0, 237, 173, 42]
abbrev dktX3_common_0 : List UInt8 := dkwX3_common_0 ++ dktX3_common_1
theorem dksX3_common_0 : cX3_common.data.toList.drop 0 = dktX3_common_0 := by decide +kernel
theorem dksX3_common_1 : cX3_common.data.toList.drop 24 = dktX3_common_1 := dk_seg dksX3_common_0 24 rfl rfl
theorem dksX3_common_2 : cX3_common.data.toList.drop 48 = dktX3_common_2 := dk_seg dksX3_common_1 24 rfl rfl
theorem dX3_common_0 : decode cX3_common 0 = .ok (.aload_n 0, 1) := dk_42 (dk_at dksX3_common_0 0 rfl rfl)
theorem dX3_common_1 : decode cX3_common 1 = .ok (.iconst 0, 1) := dk_3 (dk_at dksX3_common_0 1 rfl rfl)
theorem dX3_common_2 : decode cX3_common 2 = .ok (.putfield 51, 3) := dk_181 0 51 (dk_at dksX3_common_0 2 rfl rfl)
theorem dX3_common_5 : decode cX3_common 5 = .ok (.iload_n 1, 1) := dk_27 (dk_at dksX3_common_0 5 rfl rfl)
theorem dX3_common_6 : decode cX3_common 6 = .ok (.invokestatic 111, 3) := dk_184 0 111 (dk_at dksX3_common_0 6 rfl rfl)
theorem dX3_common_9 : decode cX3_common 9 = .ok (.ifCond .eq 10, 3) := dk_153 0 10 (dk_at dksX3_common_0 9 rfl rfl)
theorem dX3_common_12 : decode cX3_common 12 = .ok (.iload_n 2, 1) := dk_28 (dk_at dksX3_common_0 12 rfl rfl)
theorem dX3_common_13 : decode cX3_common 13 = .ok (.invokestatic 111, 3) := dk_184 0 111 (dk_at dksX3_common_0 13 rfl rfl)
theorem dX3_common_16 : decode cX3_common 16 = .ok (.ifCond .ne 7, 3) := dk_154 0 7 (dk_at dksX3_common_0 16 rfl rfl)
theorem dX3_common_19 : decode cX3_common 19 = .ok (.ldc2_w 237, 3) := dk_20 0 237 (dk_at dksX3_common_0 19 rfl rfl)
theorem dX3_common_22 : decode cX3_common 22 = .ok (.lreturn, 1) := dk_173 (dk_at dksX3_common_0 22 rfl rfl)
theorem dX3_common_23 : decode cX3_common 23 = .ok (.aload_n 0, 1) := dk_42 (dk_at dksX3_common_0 23 rfl rfl)
theorem dX3_common_24 : decode cX3_common 24 = .ok (.iload_n 1, 1) := dk_27 (dk_at dksX3_common_1 0 rfl rfl)
theorem dX3_common_25 : decode cX3_common 25 = .ok (.iload_n 2, 1) := dk_28 (dk_at dksX3_common_1 1 rfl rfl)
theorem dX3_common_26 : decode cX3_common 26 = .ok (.invokevirtual 259, 3) := dk_182 1 3 (dk_at dksX3_common_1 2 rfl rfl)
theorem dX3_common_29 : decode cX3_common 29 = .ok (.lstore_n 3, 1) := dk_66 (dk_at dksX3_common_1 5 rfl rfl)
theorem dX3_common_30 : decode cX3_common 30 = .ok (.aload_n 0, 1) := dk_42 (dk_at dksX3_common_1 6 rfl rfl)
theorem dX3_common_31 : decode cX3_common 31 = .ok (.iconst 0, 1) := dk_3 (dk_at dksX3_common_1 7 rfl rfl)
theorem dX3_common_32 : decode cX3_common 32 = .ok (.putfield 54, 3) := dk_181 0 54 (dk_at dksX3_common_1 8 rfl rfl)
theorem dX3_common_35 : decode cX3_common 35 = .ok (.aload_n 0, 1) := dk_42 (dk_at dksX3_common_1 11 rfl rfl)
theorem dX3_common_36 : decode cX3_common 36 = .ok (.aload_n 0, 1) := dk_42 (dk_at dksX3_common_1 12 rfl rfl)
theorem dX3_common_37 : decode cX3_common 37 = .ok (.iload_n 1, 1) := dk_27 (dk_at dksX3_common_1 13 rfl rfl)
theorem dX3_common_38 : decode cX3_common 38 = .ok (.invokevirtual 211, 3) := dk_182 0 211 (dk_at dksX3_common_1 14 rfl rfl)
theorem dX3_common_41 : decode cX3_common 41 = .ok (.i2l, 1) := dk_133 (dk_at dksX3_common_1 17 rfl rfl)
theorem dX3_common_42 : decode cX3_common 42 = .ok (.invokevirtual 81, 3) := dk_182 0 81 (dk_at dksX3_common_1 18 rfl rfl)
theorem dX3_common_45 : decode cX3_common 45 = .ok (.aload_n 0, 1) := dk_42 (dk_at dksX3_common_1 21 rfl rfl)
theorem dX3_common_46 : decode cX3_common 46 = .ok (.aload_n 0, 1) := dk_42 (dk_at dksX3_common_1 22 rfl rfl)
theorem dX3_common_47 : decode cX3_common 47 = .ok (.iload_n 2, 1) := dk_28 (dk_at dksX3_common_1 23 rfl rfl)
theorem dX3_common_48 : decode cX3_common 48 = .ok (.invokevirtual 211, 3) := dk_182 0 211 (dk_at dksX3_common_2 0 rfl rfl)
theorem dX3_common_51 : decode cX3_common 51 = .ok (.i2l, 1) := dk_133 (dk_at dksX3_common_2 3 rfl rfl)
theorem dX3_common_52 : decode cX3_common 52 = .ok (.invokevirtual 81, 3) := dk_182 0 81 (dk_at dksX3_common_2 4 rfl rfl)
theorem dX3_common_55 : decode cX3_common 55 = .ok (.aload_n 0, 1) := dk_42 (dk_at dksX3_common_2 7 rfl rfl)
theorem dX3_common_56 : decode cX3_common 56 = .ok (.aload_n 0, 1) := dk_42 (dk_at dksX3_common_2 8 rfl rfl)
theorem dX3_common_57 : decode cX3_common 57 = .ok (.iload_n 1, 1) := dk_27 (dk_at dksX3_common_2 9 rfl rfl)
theorem dX3_common_58 : decode cX3_common 58 = .ok (.iload_n 2, 1) := dk_28 (dk_at dksX3_common_2 10 rfl rfl)
theorem dX3_common_59 : decode cX3_common 59 = .ok (.invokevirtual 254, 3) := dk_182 0 254 (dk_at dksX3_common_2 11 rfl rfl)
theorem dX3_common_62 : decode cX3_common 62 = .ok (.i2l, 1) := dk_133 (dk_at dksX3_common_2 14 rfl rfl)
theorem dX3_common_63 : decode cX3_common 63 = .ok (.invokevirtual 81, 3) := dk_182 0 81 (dk_at dksX3_common_2 15 rfl rfl)
theorem dX3_common_66 : decode cX3_common 66 = .ok (.lload_n 3, 1) := dk_33 (dk_at dksX3_common_2 18 rfl rfl)
theorem dX3_common_67 : decode cX3_common 67 = .ok (.lreturn, 1) := dk_173 (dk_at dksX3_common_2 19 rfl rfl)
abbrev cX3_commonOf : ByteArray := prog_10_method_82_code
def yX3_commonOf : MethodName := ⟨RX3, "commonOf", "(II)J"⟩
def dkwX3_commonOf_1 : List UInt8 := [184, 1, 1, 173]
abbrev dktX3_commonOf_1 : List UInt8 := dkwX3_commonOf_1 ++ []
def dkwX3_commonOf_0 : List UInt8 := [9, 42, 27, 182, 0, 211, 133, 42, 28, 182, 0, 211, 133, 97, 42, 27, 28, 182, 0, 254, 133, 101]
abbrev dktX3_commonOf_0 : List UInt8 := dkwX3_commonOf_0 ++ dktX3_commonOf_1
theorem dksX3_commonOf_0 : cX3_commonOf.data.toList.drop 0 = dktX3_commonOf_0 := by decide +kernel
theorem dksX3_commonOf_1 : cX3_commonOf.data.toList.drop 22 = dktX3_commonOf_1 := dk_seg dksX3_commonOf_0 22 rfl rfl
theorem dX3_commonOf_0 : decode cX3_commonOf 0 = .ok (.lconst 0, 1) := dk_9 (dk_at dksX3_commonOf_0 0 rfl rfl)
theorem dX3_commonOf_1 : decode cX3_commonOf 1 = .ok (.aload_n 0, 1) := dk_42 (dk_at dksX3_commonOf_0 1 rfl rfl)
theorem dX3_commonOf_2 : decode cX3_commonOf 2 = .ok (.iload_n 1, 1) := dk_27 (dk_at dksX3_commonOf_0 2 rfl rfl)
theorem dX3_commonOf_3 : decode cX3_commonOf 3 = .ok (.invokevirtual 211, 3) := dk_182 0 211 (dk_at dksX3_commonOf_0 3 rfl rfl)
theorem dX3_commonOf_6 : decode cX3_commonOf 6 = .ok (.i2l, 1) := dk_133 (dk_at dksX3_commonOf_0 6 rfl rfl)
theorem dX3_commonOf_7 : decode cX3_commonOf 7 = .ok (.aload_n 0, 1) := dk_42 (dk_at dksX3_commonOf_0 7 rfl rfl)
theorem dX3_commonOf_8 : decode cX3_commonOf 8 = .ok (.iload_n 2, 1) := dk_28 (dk_at dksX3_commonOf_0 8 rfl rfl)
theorem dX3_commonOf_9 : decode cX3_commonOf 9 = .ok (.invokevirtual 211, 3) := dk_182 0 211 (dk_at dksX3_commonOf_0 9 rfl rfl)
theorem dX3_commonOf_12 : decode cX3_commonOf 12 = .ok (.i2l, 1) := dk_133 (dk_at dksX3_commonOf_0 12 rfl rfl)
theorem dX3_commonOf_13 : decode cX3_commonOf 13 = .ok (.ladd, 1) := dk_97 (dk_at dksX3_commonOf_0 13 rfl rfl)
theorem dX3_commonOf_14 : decode cX3_commonOf 14 = .ok (.aload_n 0, 1) := dk_42 (dk_at dksX3_commonOf_0 14 rfl rfl)
theorem dX3_commonOf_15 : decode cX3_commonOf 15 = .ok (.iload_n 1, 1) := dk_27 (dk_at dksX3_commonOf_0 15 rfl rfl)
theorem dX3_commonOf_16 : decode cX3_commonOf 16 = .ok (.iload_n 2, 1) := dk_28 (dk_at dksX3_commonOf_0 16 rfl rfl)
theorem dX3_commonOf_17 : decode cX3_commonOf 17 = .ok (.invokevirtual 254, 3) := dk_182 0 254 (dk_at dksX3_commonOf_0 17 rfl rfl)
theorem dX3_commonOf_20 : decode cX3_commonOf 20 = .ok (.i2l, 1) := dk_133 (dk_at dksX3_commonOf_0 20 rfl rfl)
theorem dX3_commonOf_21 : decode cX3_commonOf 21 = .ok (.lsub, 1) := dk_101 (dk_at dksX3_commonOf_0 21 rfl rfl)
theorem dX3_commonOf_22 : decode cX3_commonOf 22 = .ok (.invokestatic 257, 3) := dk_184 1 1 (dk_at dksX3_commonOf_1 0 rfl rfl)
theorem dX3_commonOf_25 : decode cX3_commonOf 25 = .ok (.lreturn, 1) := dk_173 (dk_at dksX3_commonOf_1 3 rfl rfl)
abbrev cX3_bothGuess : ByteArray := prog_10_method_52_code
def yX3_bothGuess : MethodName := ⟨RX3, "bothGuess", "(II)I"⟩
def dkwX3_bothGuess_0 : List UInt8 := [42, 27, 28, 182, 0, 214, 42, 16, 6, 182, 0, 211, 172]
abbrev dktX3_bothGuess_0 : List UInt8 := dkwX3_bothGuess_0 ++ []
theorem dksX3_bothGuess_0 : cX3_bothGuess.data.toList.drop 0 = dktX3_bothGuess_0 := by decide +kernel
theorem dX3_bothGuess_0 : decode cX3_bothGuess 0 = .ok (.aload_n 0, 1) := dk_42 (dk_at dksX3_bothGuess_0 0 rfl rfl)
theorem dX3_bothGuess_1 : decode cX3_bothGuess 1 = .ok (.iload_n 1, 1) := dk_27 (dk_at dksX3_bothGuess_0 1 rfl rfl)
theorem dX3_bothGuess_2 : decode cX3_bothGuess 2 = .ok (.iload_n 2, 1) := dk_28 (dk_at dksX3_bothGuess_0 2 rfl rfl)
theorem dX3_bothGuess_3 : decode cX3_bothGuess 3 = .ok (.invokevirtual 214, 3) := dk_182 0 214 (dk_at dksX3_bothGuess_0 3 rfl rfl)
theorem dX3_bothGuess_6 : decode cX3_bothGuess 6 = .ok (.aload_n 0, 1) := dk_42 (dk_at dksX3_bothGuess_0 6 rfl rfl)
theorem dX3_bothGuess_7 : decode cX3_bothGuess 7 = .ok (.bipush 6, 2) := dk_16 6 (dk_at dksX3_bothGuess_0 7 rfl rfl)
theorem dX3_bothGuess_9 : decode cX3_bothGuess 9 = .ok (.invokevirtual 211, 3) := dk_182 0 211 (dk_at dksX3_bothGuess_0 9 rfl rfl)
theorem dX3_bothGuess_12 : decode cX3_bothGuess 12 = .ok (.ireturn, 1) := dk_172 (dk_at dksX3_bothGuess_0 12 rfl rfl)
abbrev cX3_alone : ByteArray := prog_10_method_84_code
def yX3_alone : MethodName := ⟨RX3, "alone", "(II)J"⟩
def dkwX3_alone_1 : List UInt8 := [42, 27, 28, 182, 0, 254, 133, 42, 28, 182, 0, 211, 133, 101, 184, 1, 1, 173]
abbrev dktX3_alone_1 : List UInt8 := dkwX3_alone_1 ++ []
def dkwX3_alone_0 : List UInt8 := [42, 3, 181, 0, 51, 27, 184, 0, 111, 153, 0, 10, 28, 184, 0, 111, 154, 0, 7, 20, 0, 237, 173, 9]
abbrev dktX3_alone_0 : List UInt8 := dkwX3_alone_0 ++ dktX3_alone_1
theorem dksX3_alone_0 : cX3_alone.data.toList.drop 0 = dktX3_alone_0 := by decide +kernel
theorem dksX3_alone_1 : cX3_alone.data.toList.drop 24 = dktX3_alone_1 := dk_seg dksX3_alone_0 24 rfl rfl
theorem dX3_alone_0 : decode cX3_alone 0 = .ok (.aload_n 0, 1) := dk_42 (dk_at dksX3_alone_0 0 rfl rfl)
theorem dX3_alone_1 : decode cX3_alone 1 = .ok (.iconst 0, 1) := dk_3 (dk_at dksX3_alone_0 1 rfl rfl)
theorem dX3_alone_2 : decode cX3_alone 2 = .ok (.putfield 51, 3) := dk_181 0 51 (dk_at dksX3_alone_0 2 rfl rfl)
theorem dX3_alone_5 : decode cX3_alone 5 = .ok (.iload_n 1, 1) := dk_27 (dk_at dksX3_alone_0 5 rfl rfl)
theorem dX3_alone_6 : decode cX3_alone 6 = .ok (.invokestatic 111, 3) := dk_184 0 111 (dk_at dksX3_alone_0 6 rfl rfl)
theorem dX3_alone_9 : decode cX3_alone 9 = .ok (.ifCond .eq 10, 3) := dk_153 0 10 (dk_at dksX3_alone_0 9 rfl rfl)
theorem dX3_alone_12 : decode cX3_alone 12 = .ok (.iload_n 2, 1) := dk_28 (dk_at dksX3_alone_0 12 rfl rfl)
theorem dX3_alone_13 : decode cX3_alone 13 = .ok (.invokestatic 111, 3) := dk_184 0 111 (dk_at dksX3_alone_0 13 rfl rfl)
theorem dX3_alone_16 : decode cX3_alone 16 = .ok (.ifCond .ne 7, 3) := dk_154 0 7 (dk_at dksX3_alone_0 16 rfl rfl)
theorem dX3_alone_19 : decode cX3_alone 19 = .ok (.ldc2_w 237, 3) := dk_20 0 237 (dk_at dksX3_alone_0 19 rfl rfl)
theorem dX3_alone_22 : decode cX3_alone 22 = .ok (.lreturn, 1) := dk_173 (dk_at dksX3_alone_0 22 rfl rfl)
theorem dX3_alone_23 : decode cX3_alone 23 = .ok (.lconst 0, 1) := dk_9 (dk_at dksX3_alone_0 23 rfl rfl)
theorem dX3_alone_24 : decode cX3_alone 24 = .ok (.aload_n 0, 1) := dk_42 (dk_at dksX3_alone_1 0 rfl rfl)
theorem dX3_alone_25 : decode cX3_alone 25 = .ok (.iload_n 1, 1) := dk_27 (dk_at dksX3_alone_1 1 rfl rfl)
theorem dX3_alone_26 : decode cX3_alone 26 = .ok (.iload_n 2, 1) := dk_28 (dk_at dksX3_alone_1 2 rfl rfl)
theorem dX3_alone_27 : decode cX3_alone 27 = .ok (.invokevirtual 254, 3) := dk_182 0 254 (dk_at dksX3_alone_1 3 rfl rfl)
theorem dX3_alone_30 : decode cX3_alone 30 = .ok (.i2l, 1) := dk_133 (dk_at dksX3_alone_1 6 rfl rfl)
theorem dX3_alone_31 : decode cX3_alone 31 = .ok (.aload_n 0, 1) := dk_42 (dk_at dksX3_alone_1 7 rfl rfl)
theorem dX3_alone_32 : decode cX3_alone 32 = .ok (.iload_n 2, 1) := dk_28 (dk_at dksX3_alone_1 8 rfl rfl)
theorem dX3_alone_33 : decode cX3_alone 33 = .ok (.invokevirtual 211, 3) := dk_182 0 211 (dk_at dksX3_alone_1 9 rfl rfl)
theorem dX3_alone_36 : decode cX3_alone 36 = .ok (.i2l, 1) := dk_133 (dk_at dksX3_alone_1 12 rfl rfl)
theorem dX3_alone_37 : decode cX3_alone 37 = .ok (.lsub, 1) := dk_101 (dk_at dksX3_alone_1 13 rfl rfl)
theorem dX3_alone_38 : decode cX3_alone 38 = .ok (.invokestatic 257, 3) := dk_184 1 1 (dk_at dksX3_alone_1 14 rfl rfl)
theorem dX3_alone_41 : decode cX3_alone 41 = .ok (.lreturn, 1) := dk_173 (dk_at dksX3_alone_1 17 rfl rfl)
abbrev cX3_alike : ByteArray := prog_10_method_86_code
def yX3_alike : MethodName := ⟨RX3, "alike", "(II)I"⟩
def dkwX3_alike_1 : List UInt8 := [182, 1, 7, 167, 0, 4, 2, 172]
abbrev dktX3_alike_1 : List UInt8 := dkwX3_alike_1 ++ []
def dkwX3_alike_0 : List UInt8 := [42, 3, 181, 0, 51, 27, 184, 0, 111, 153, 0, 19, 28, 184, 0, 111, 153, 0, 12, 42, 27, 28]
abbrev dktX3_alike_0 : List UInt8 := dkwX3_alike_0 ++ dktX3_alike_1
theorem dksX3_alike_0 : cX3_alike.data.toList.drop 0 = dktX3_alike_0 := by decide +kernel
theorem dksX3_alike_1 : cX3_alike.data.toList.drop 22 = dktX3_alike_1 := dk_seg dksX3_alike_0 22 rfl rfl
theorem dX3_alike_0 : decode cX3_alike 0 = .ok (.aload_n 0, 1) := dk_42 (dk_at dksX3_alike_0 0 rfl rfl)
theorem dX3_alike_1 : decode cX3_alike 1 = .ok (.iconst 0, 1) := dk_3 (dk_at dksX3_alike_0 1 rfl rfl)
theorem dX3_alike_2 : decode cX3_alike 2 = .ok (.putfield 51, 3) := dk_181 0 51 (dk_at dksX3_alike_0 2 rfl rfl)
theorem dX3_alike_5 : decode cX3_alike 5 = .ok (.iload_n 1, 1) := dk_27 (dk_at dksX3_alike_0 5 rfl rfl)
theorem dX3_alike_6 : decode cX3_alike 6 = .ok (.invokestatic 111, 3) := dk_184 0 111 (dk_at dksX3_alike_0 6 rfl rfl)
theorem dX3_alike_9 : decode cX3_alike 9 = .ok (.ifCond .eq 19, 3) := dk_153 0 19 (dk_at dksX3_alike_0 9 rfl rfl)
theorem dX3_alike_12 : decode cX3_alike 12 = .ok (.iload_n 2, 1) := dk_28 (dk_at dksX3_alike_0 12 rfl rfl)
theorem dX3_alike_13 : decode cX3_alike 13 = .ok (.invokestatic 111, 3) := dk_184 0 111 (dk_at dksX3_alike_0 13 rfl rfl)
theorem dX3_alike_16 : decode cX3_alike 16 = .ok (.ifCond .eq 12, 3) := dk_153 0 12 (dk_at dksX3_alike_0 16 rfl rfl)
theorem dX3_alike_19 : decode cX3_alike 19 = .ok (.aload_n 0, 1) := dk_42 (dk_at dksX3_alike_0 19 rfl rfl)
theorem dX3_alike_20 : decode cX3_alike 20 = .ok (.iload_n 1, 1) := dk_27 (dk_at dksX3_alike_0 20 rfl rfl)
theorem dX3_alike_21 : decode cX3_alike 21 = .ok (.iload_n 2, 1) := dk_28 (dk_at dksX3_alike_0 21 rfl rfl)
theorem dX3_alike_22 : decode cX3_alike 22 = .ok (.invokevirtual 263, 3) := dk_182 1 7 (dk_at dksX3_alike_1 0 rfl rfl)
theorem dX3_alike_25 : decode cX3_alike 25 = .ok (.goto 4, 3) := dk_167 0 4 (dk_at dksX3_alike_1 3 rfl rfl)
theorem dX3_alike_28 : decode cX3_alike 28 = .ok (.iconst (-1), 1) := dk_2 (dk_at dksX3_alike_1 6 rfl rfl)
theorem dX3_alike_29 : decode cX3_alike 29 = .ok (.ireturn, 1) := dk_172 (dk_at dksX3_alike_1 7 rfl rfl)
abbrev cX3_alikeOf : ByteArray := prog_10_method_85_code
def yX3_alikeOf : MethodName := ⟨RX3, "alikeOf", "(II)I"⟩
def dkwX3_alikeOf_1 : List UInt8 := [27, 28, 182, 1, 3, 105, 29, 133, 109, 184, 0, 192, 136, 172]
abbrev dktX3_alikeOf_1 : List UInt8 := dkwX3_alikeOf_1 ++ []
def dkwX3_alikeOf_0 : List UInt8 := [42, 27, 28, 182, 0, 254, 62, 29, 154, 0, 9, 17, 3, 232, 167, 0, 23, 20, 0, 124, 20, 0, 124, 42]
abbrev dktX3_alikeOf_0 : List UInt8 := dkwX3_alikeOf_0 ++ dktX3_alikeOf_1
theorem dksX3_alikeOf_0 : cX3_alikeOf.data.toList.drop 0 = dktX3_alikeOf_0 := by decide +kernel
theorem dksX3_alikeOf_1 : cX3_alikeOf.data.toList.drop 24 = dktX3_alikeOf_1 := dk_seg dksX3_alikeOf_0 24 rfl rfl
theorem dX3_alikeOf_0 : decode cX3_alikeOf 0 = .ok (.aload_n 0, 1) := dk_42 (dk_at dksX3_alikeOf_0 0 rfl rfl)
theorem dX3_alikeOf_1 : decode cX3_alikeOf 1 = .ok (.iload_n 1, 1) := dk_27 (dk_at dksX3_alikeOf_0 1 rfl rfl)
theorem dX3_alikeOf_2 : decode cX3_alikeOf 2 = .ok (.iload_n 2, 1) := dk_28 (dk_at dksX3_alikeOf_0 2 rfl rfl)
theorem dX3_alikeOf_3 : decode cX3_alikeOf 3 = .ok (.invokevirtual 254, 3) := dk_182 0 254 (dk_at dksX3_alikeOf_0 3 rfl rfl)
theorem dX3_alikeOf_6 : decode cX3_alikeOf 6 = .ok (.istore_n 3, 1) := dk_62 (dk_at dksX3_alikeOf_0 6 rfl rfl)
theorem dX3_alikeOf_7 : decode cX3_alikeOf 7 = .ok (.iload_n 3, 1) := dk_29 (dk_at dksX3_alikeOf_0 7 rfl rfl)
theorem dX3_alikeOf_8 : decode cX3_alikeOf 8 = .ok (.ifCond .ne 9, 3) := dk_154 0 9 (dk_at dksX3_alikeOf_0 8 rfl rfl)
theorem dX3_alikeOf_11 : decode cX3_alikeOf 11 = .ok (.sipush 1000, 3) := dk_17 3 232 (dk_at dksX3_alikeOf_0 11 rfl rfl)
theorem dX3_alikeOf_14 : decode cX3_alikeOf 14 = .ok (.goto 23, 3) := dk_167 0 23 (dk_at dksX3_alikeOf_0 14 rfl rfl)
theorem dX3_alikeOf_17 : decode cX3_alikeOf 17 = .ok (.ldc2_w 124, 3) := dk_20 0 124 (dk_at dksX3_alikeOf_0 17 rfl rfl)
theorem dX3_alikeOf_20 : decode cX3_alikeOf 20 = .ok (.ldc2_w 124, 3) := dk_20 0 124 (dk_at dksX3_alikeOf_0 20 rfl rfl)
theorem dX3_alikeOf_23 : decode cX3_alikeOf 23 = .ok (.aload_n 0, 1) := dk_42 (dk_at dksX3_alikeOf_0 23 rfl rfl)
theorem dX3_alikeOf_24 : decode cX3_alikeOf 24 = .ok (.iload_n 1, 1) := dk_27 (dk_at dksX3_alikeOf_1 0 rfl rfl)
theorem dX3_alikeOf_25 : decode cX3_alikeOf 25 = .ok (.iload_n 2, 1) := dk_28 (dk_at dksX3_alikeOf_1 1 rfl rfl)
theorem dX3_alikeOf_26 : decode cX3_alikeOf 26 = .ok (.invokevirtual 259, 3) := dk_182 1 3 (dk_at dksX3_alikeOf_1 2 rfl rfl)
theorem dX3_alikeOf_29 : decode cX3_alikeOf 29 = .ok (.lmul, 1) := dk_105 (dk_at dksX3_alikeOf_1 5 rfl rfl)
theorem dX3_alikeOf_30 : decode cX3_alikeOf 30 = .ok (.iload_n 3, 1) := dk_29 (dk_at dksX3_alikeOf_1 6 rfl rfl)
theorem dX3_alikeOf_31 : decode cX3_alikeOf 31 = .ok (.i2l, 1) := dk_133 (dk_at dksX3_alikeOf_1 7 rfl rfl)
theorem dX3_alikeOf_32 : decode cX3_alikeOf 32 = .ok (.ldiv, 1) := dk_109 (dk_at dksX3_alikeOf_1 8 rfl rfl)
theorem dX3_alikeOf_33 : decode cX3_alikeOf 33 = .ok (.invokestatic 192, 3) := dk_184 0 192 (dk_at dksX3_alikeOf_1 9 rfl rfl)
theorem dX3_alikeOf_36 : decode cX3_alikeOf 36 = .ok (.l2i, 1) := dk_136 (dk_at dksX3_alikeOf_1 12 rfl rfl)
theorem dX3_alikeOf_37 : decode cX3_alikeOf 37 = .ok (.ireturn, 1) := dk_172 (dk_at dksX3_alikeOf_1 13 rfl rfl)
abbrev cX3_nearest : ByteArray := prog_10_method_87_code
def yX3_nearest : MethodName := ⟨RX3, "nearest", "(I)I"⟩
def dkwX3_nearest_3 : List UInt8 := [167, 255, 208, 42, 3, 181, 0, 54, 42, 29, 133, 182, 0, 81, 28, 172]
abbrev dktX3_nearest_3 : List UInt8 := dkwX3_nearest_3 ++ []
def dkwX3_nearest_2 : List UInt8 := [2, 159, 0, 12, 21, 5, 29, 163, 0, 6, 167, 0, 9, 21, 4, 61, 21, 5, 62, 132, 4, 1]
abbrev dktX3_nearest_2 : List UInt8 := dkwX3_nearest_2 ++ dktX3_nearest_3
def dkwX3_nearest_1 : List UInt8 := [16, 6, 162, 0, 47, 21, 4, 27, 160, 0, 6, 167, 0, 32, 42, 27, 21, 4, 182, 1, 7, 54, 5, 28]
abbrev dktX3_nearest_1 : List UInt8 := dkwX3_nearest_1 ++ dktX3_nearest_2
def dkwX3_nearest_0 : List UInt8 := [42, 3, 181, 0, 51, 27, 184, 0, 111, 154, 0, 5, 2, 172, 2, 61, 3, 62, 3, 54, 4, 21, 4]
abbrev dktX3_nearest_0 : List UInt8 := dkwX3_nearest_0 ++ dktX3_nearest_1
theorem dksX3_nearest_0 : cX3_nearest.data.toList.drop 0 = dktX3_nearest_0 := by decide +kernel
theorem dksX3_nearest_1 : cX3_nearest.data.toList.drop 23 = dktX3_nearest_1 := dk_seg dksX3_nearest_0 23 rfl rfl
theorem dksX3_nearest_2 : cX3_nearest.data.toList.drop 47 = dktX3_nearest_2 := dk_seg dksX3_nearest_1 24 rfl rfl
theorem dksX3_nearest_3 : cX3_nearest.data.toList.drop 69 = dktX3_nearest_3 := dk_seg dksX3_nearest_2 22 rfl rfl
theorem dX3_nearest_0 : decode cX3_nearest 0 = .ok (.aload_n 0, 1) := dk_42 (dk_at dksX3_nearest_0 0 rfl rfl)
theorem dX3_nearest_1 : decode cX3_nearest 1 = .ok (.iconst 0, 1) := dk_3 (dk_at dksX3_nearest_0 1 rfl rfl)
theorem dX3_nearest_2 : decode cX3_nearest 2 = .ok (.putfield 51, 3) := dk_181 0 51 (dk_at dksX3_nearest_0 2 rfl rfl)
theorem dX3_nearest_5 : decode cX3_nearest 5 = .ok (.iload_n 1, 1) := dk_27 (dk_at dksX3_nearest_0 5 rfl rfl)
theorem dX3_nearest_6 : decode cX3_nearest 6 = .ok (.invokestatic 111, 3) := dk_184 0 111 (dk_at dksX3_nearest_0 6 rfl rfl)
theorem dX3_nearest_9 : decode cX3_nearest 9 = .ok (.ifCond .ne 5, 3) := dk_154 0 5 (dk_at dksX3_nearest_0 9 rfl rfl)
theorem dX3_nearest_12 : decode cX3_nearest 12 = .ok (.iconst (-1), 1) := dk_2 (dk_at dksX3_nearest_0 12 rfl rfl)
theorem dX3_nearest_13 : decode cX3_nearest 13 = .ok (.ireturn, 1) := dk_172 (dk_at dksX3_nearest_0 13 rfl rfl)
theorem dX3_nearest_14 : decode cX3_nearest 14 = .ok (.iconst (-1), 1) := dk_2 (dk_at dksX3_nearest_0 14 rfl rfl)
theorem dX3_nearest_15 : decode cX3_nearest 15 = .ok (.istore_n 2, 1) := dk_61 (dk_at dksX3_nearest_0 15 rfl rfl)
theorem dX3_nearest_16 : decode cX3_nearest 16 = .ok (.iconst 0, 1) := dk_3 (dk_at dksX3_nearest_0 16 rfl rfl)
theorem dX3_nearest_17 : decode cX3_nearest 17 = .ok (.istore_n 3, 1) := dk_62 (dk_at dksX3_nearest_0 17 rfl rfl)
theorem dX3_nearest_18 : decode cX3_nearest 18 = .ok (.iconst 0, 1) := dk_3 (dk_at dksX3_nearest_0 18 rfl rfl)
theorem dX3_nearest_19 : decode cX3_nearest 19 = .ok (.istore 4, 2) := dk_54 4 (dk_at dksX3_nearest_0 19 rfl rfl)
theorem dX3_nearest_21 : decode cX3_nearest 21 = .ok (.iload 4, 2) := dk_21 4 (dk_at dksX3_nearest_0 21 rfl rfl)
theorem dX3_nearest_23 : decode cX3_nearest 23 = .ok (.bipush 6, 2) := dk_16 6 (dk_at dksX3_nearest_1 0 rfl rfl)
theorem dX3_nearest_25 : decode cX3_nearest 25 = .ok (.if_icmp .ge 47, 3) := dk_162 0 47 (dk_at dksX3_nearest_1 2 rfl rfl)
theorem dX3_nearest_28 : decode cX3_nearest 28 = .ok (.iload 4, 2) := dk_21 4 (dk_at dksX3_nearest_1 5 rfl rfl)
theorem dX3_nearest_30 : decode cX3_nearest 30 = .ok (.iload_n 1, 1) := dk_27 (dk_at dksX3_nearest_1 7 rfl rfl)
theorem dX3_nearest_31 : decode cX3_nearest 31 = .ok (.if_icmp .ne 6, 3) := dk_160 0 6 (dk_at dksX3_nearest_1 8 rfl rfl)
theorem dX3_nearest_34 : decode cX3_nearest 34 = .ok (.goto 32, 3) := dk_167 0 32 (dk_at dksX3_nearest_1 11 rfl rfl)
theorem dX3_nearest_37 : decode cX3_nearest 37 = .ok (.aload_n 0, 1) := dk_42 (dk_at dksX3_nearest_1 14 rfl rfl)
theorem dX3_nearest_38 : decode cX3_nearest 38 = .ok (.iload_n 1, 1) := dk_27 (dk_at dksX3_nearest_1 15 rfl rfl)
theorem dX3_nearest_39 : decode cX3_nearest 39 = .ok (.iload 4, 2) := dk_21 4 (dk_at dksX3_nearest_1 16 rfl rfl)
theorem dX3_nearest_41 : decode cX3_nearest 41 = .ok (.invokevirtual 263, 3) := dk_182 1 7 (dk_at dksX3_nearest_1 18 rfl rfl)
theorem dX3_nearest_44 : decode cX3_nearest 44 = .ok (.istore 5, 2) := dk_54 5 (dk_at dksX3_nearest_1 21 rfl rfl)
theorem dX3_nearest_46 : decode cX3_nearest 46 = .ok (.iload_n 2, 1) := dk_28 (dk_at dksX3_nearest_1 23 rfl rfl)
theorem dX3_nearest_47 : decode cX3_nearest 47 = .ok (.iconst (-1), 1) := dk_2 (dk_at dksX3_nearest_2 0 rfl rfl)
theorem dX3_nearest_48 : decode cX3_nearest 48 = .ok (.if_icmp .eq 12, 3) := dk_159 0 12 (dk_at dksX3_nearest_2 1 rfl rfl)
theorem dX3_nearest_51 : decode cX3_nearest 51 = .ok (.iload 5, 2) := dk_21 5 (dk_at dksX3_nearest_2 4 rfl rfl)
theorem dX3_nearest_53 : decode cX3_nearest 53 = .ok (.iload_n 3, 1) := dk_29 (dk_at dksX3_nearest_2 6 rfl rfl)
theorem dX3_nearest_54 : decode cX3_nearest 54 = .ok (.if_icmp .gt 6, 3) := dk_163 0 6 (dk_at dksX3_nearest_2 7 rfl rfl)
theorem dX3_nearest_57 : decode cX3_nearest 57 = .ok (.goto 9, 3) := dk_167 0 9 (dk_at dksX3_nearest_2 10 rfl rfl)
theorem dX3_nearest_60 : decode cX3_nearest 60 = .ok (.iload 4, 2) := dk_21 4 (dk_at dksX3_nearest_2 13 rfl rfl)
theorem dX3_nearest_62 : decode cX3_nearest 62 = .ok (.istore_n 2, 1) := dk_61 (dk_at dksX3_nearest_2 15 rfl rfl)
theorem dX3_nearest_63 : decode cX3_nearest 63 = .ok (.iload 5, 2) := dk_21 5 (dk_at dksX3_nearest_2 16 rfl rfl)
theorem dX3_nearest_65 : decode cX3_nearest 65 = .ok (.istore_n 3, 1) := dk_62 (dk_at dksX3_nearest_2 18 rfl rfl)
theorem dX3_nearest_66 : decode cX3_nearest 66 = .ok (.iinc 4 1, 3) := dk_132 4 1 (dk_at dksX3_nearest_2 19 rfl rfl)
theorem dX3_nearest_69 : decode cX3_nearest 69 = .ok (.goto (-48), 3) := dk_167 255 208 (dk_at dksX3_nearest_3 0 rfl rfl)
theorem dX3_nearest_72 : decode cX3_nearest 72 = .ok (.aload_n 0, 1) := dk_42 (dk_at dksX3_nearest_3 3 rfl rfl)
theorem dX3_nearest_73 : decode cX3_nearest 73 = .ok (.iconst 0, 1) := dk_3 (dk_at dksX3_nearest_3 4 rfl rfl)
theorem dX3_nearest_74 : decode cX3_nearest 74 = .ok (.putfield 54, 3) := dk_181 0 54 (dk_at dksX3_nearest_3 5 rfl rfl)
theorem dX3_nearest_77 : decode cX3_nearest 77 = .ok (.aload_n 0, 1) := dk_42 (dk_at dksX3_nearest_3 8 rfl rfl)
theorem dX3_nearest_78 : decode cX3_nearest 78 = .ok (.iload_n 3, 1) := dk_29 (dk_at dksX3_nearest_3 9 rfl rfl)
theorem dX3_nearest_79 : decode cX3_nearest 79 = .ok (.i2l, 1) := dk_133 (dk_at dksX3_nearest_3 10 rfl rfl)
theorem dX3_nearest_80 : decode cX3_nearest 80 = .ok (.invokevirtual 81, 3) := dk_182 0 81 (dk_at dksX3_nearest_3 11 rfl rfl)
theorem dX3_nearest_83 : decode cX3_nearest 83 = .ok (.iload_n 2, 1) := dk_28 (dk_at dksX3_nearest_3 14 rfl rfl)
theorem dX3_nearest_84 : decode cX3_nearest 84 = .ok (.ireturn, 1) := dk_172 (dk_at dksX3_nearest_3 15 rfl rfl)
abbrev cX3_meet : ByteArray := prog_10_method_89_code
def yX3_meet : MethodName := ⟨RX3, "meet", "(I)J"⟩
def dkwX3_meet_4 : List UInt8 := [133, 182, 0, 81, 9, 32, 184, 1, 1, 173]
abbrev dktX3_meet_4 : List UInt8 := dkwX3_meet_4 ++ []
def dkwX3_meet_3 : List UInt8 := [97, 65, 132, 4, 1, 132, 5, 1, 167, 255, 200, 42, 3, 181, 0, 54, 42, 32, 182, 0, 81, 42, 21, 4]
abbrev dktX3_meet_3 : List UInt8 := dkwX3_meet_3 ++ dktX3_meet_4
def dkwX3_meet_2 : List UInt8 := [5, 112, 4, 160, 0, 13, 42, 21, 5, 182, 0, 246, 133, 167, 0, 11, 42, 21, 5, 182, 0, 246, 116, 133]
abbrev dktX3_meet_2 : List UInt8 := dkwX3_meet_2 ++ dktX3_meet_3
def dkwX3_meet_1 : List UInt8 := [21, 5, 27, 163, 0, 56, 21, 5, 27, 2, 130, 126, 153, 0, 6, 167, 0, 38, 32, 21, 5, 184, 1, 10]
abbrev dktX3_meet_1 : List UInt8 := dkwX3_meet_1 ++ dktX3_meet_2
def dkwX3_meet_0 : List UInt8 := [42, 3, 181, 0, 51, 27, 184, 0, 217, 154, 0, 7, 20, 0, 237, 173, 9, 65, 3, 54, 4, 4, 54, 5]
abbrev dktX3_meet_0 : List UInt8 := dkwX3_meet_0 ++ dktX3_meet_1
theorem dksX3_meet_0 : cX3_meet.data.toList.drop 0 = dktX3_meet_0 := by decide +kernel
theorem dksX3_meet_1 : cX3_meet.data.toList.drop 24 = dktX3_meet_1 := dk_seg dksX3_meet_0 24 rfl rfl
theorem dksX3_meet_2 : cX3_meet.data.toList.drop 48 = dktX3_meet_2 := dk_seg dksX3_meet_1 24 rfl rfl
theorem dksX3_meet_3 : cX3_meet.data.toList.drop 72 = dktX3_meet_3 := dk_seg dksX3_meet_2 24 rfl rfl
theorem dksX3_meet_4 : cX3_meet.data.toList.drop 96 = dktX3_meet_4 := dk_seg dksX3_meet_3 24 rfl rfl
theorem dX3_meet_0 : decode cX3_meet 0 = .ok (.aload_n 0, 1) := dk_42 (dk_at dksX3_meet_0 0 rfl rfl)
theorem dX3_meet_1 : decode cX3_meet 1 = .ok (.iconst 0, 1) := dk_3 (dk_at dksX3_meet_0 1 rfl rfl)
theorem dX3_meet_2 : decode cX3_meet 2 = .ok (.putfield 51, 3) := dk_181 0 51 (dk_at dksX3_meet_0 2 rfl rfl)
theorem dX3_meet_5 : decode cX3_meet 5 = .ok (.iload_n 1, 1) := dk_27 (dk_at dksX3_meet_0 5 rfl rfl)
theorem dX3_meet_6 : decode cX3_meet 6 = .ok (.invokestatic 217, 3) := dk_184 0 217 (dk_at dksX3_meet_0 6 rfl rfl)
theorem dX3_meet_9 : decode cX3_meet 9 = .ok (.ifCond .ne 7, 3) := dk_154 0 7 (dk_at dksX3_meet_0 9 rfl rfl)
theorem dX3_meet_12 : decode cX3_meet 12 = .ok (.ldc2_w 237, 3) := dk_20 0 237 (dk_at dksX3_meet_0 12 rfl rfl)
theorem dX3_meet_15 : decode cX3_meet 15 = .ok (.lreturn, 1) := dk_173 (dk_at dksX3_meet_0 15 rfl rfl)
theorem dX3_meet_16 : decode cX3_meet 16 = .ok (.lconst 0, 1) := dk_9 (dk_at dksX3_meet_0 16 rfl rfl)
theorem dX3_meet_17 : decode cX3_meet 17 = .ok (.lstore_n 2, 1) := dk_65 (dk_at dksX3_meet_0 17 rfl rfl)
theorem dX3_meet_18 : decode cX3_meet 18 = .ok (.iconst 0, 1) := dk_3 (dk_at dksX3_meet_0 18 rfl rfl)
theorem dX3_meet_19 : decode cX3_meet 19 = .ok (.istore 4, 2) := dk_54 4 (dk_at dksX3_meet_0 19 rfl rfl)
theorem dX3_meet_21 : decode cX3_meet 21 = .ok (.iconst 1, 1) := dk_4 (dk_at dksX3_meet_0 21 rfl rfl)
theorem dX3_meet_22 : decode cX3_meet 22 = .ok (.istore 5, 2) := dk_54 5 (dk_at dksX3_meet_0 22 rfl rfl)
theorem dX3_meet_24 : decode cX3_meet 24 = .ok (.iload 5, 2) := dk_21 5 (dk_at dksX3_meet_1 0 rfl rfl)
theorem dX3_meet_26 : decode cX3_meet 26 = .ok (.iload_n 1, 1) := dk_27 (dk_at dksX3_meet_1 2 rfl rfl)
theorem dX3_meet_27 : decode cX3_meet 27 = .ok (.if_icmp .gt 56, 3) := dk_163 0 56 (dk_at dksX3_meet_1 3 rfl rfl)
theorem dX3_meet_30 : decode cX3_meet 30 = .ok (.iload 5, 2) := dk_21 5 (dk_at dksX3_meet_1 6 rfl rfl)
theorem dX3_meet_32 : decode cX3_meet 32 = .ok (.iload_n 1, 1) := dk_27 (dk_at dksX3_meet_1 8 rfl rfl)
theorem dX3_meet_33 : decode cX3_meet 33 = .ok (.iconst (-1), 1) := dk_2 (dk_at dksX3_meet_1 9 rfl rfl)
theorem dX3_meet_34 : decode cX3_meet 34 = .ok (.ixor, 1) := dk_130 (dk_at dksX3_meet_1 10 rfl rfl)
theorem dX3_meet_35 : decode cX3_meet 35 = .ok (.iand, 1) := dk_126 (dk_at dksX3_meet_1 11 rfl rfl)
theorem dX3_meet_36 : decode cX3_meet 36 = .ok (.ifCond .eq 6, 3) := dk_153 0 6 (dk_at dksX3_meet_1 12 rfl rfl)
theorem dX3_meet_39 : decode cX3_meet 39 = .ok (.goto 38, 3) := dk_167 0 38 (dk_at dksX3_meet_1 15 rfl rfl)
theorem dX3_meet_42 : decode cX3_meet 42 = .ok (.lload_n 2, 1) := dk_32 (dk_at dksX3_meet_1 18 rfl rfl)
theorem dX3_meet_43 : decode cX3_meet 43 = .ok (.iload 5, 2) := dk_21 5 (dk_at dksX3_meet_1 19 rfl rfl)
theorem dX3_meet_45 : decode cX3_meet 45 = .ok (.invokestatic 266, 3) := dk_184 1 10 (dk_at dksX3_meet_1 21 rfl rfl)
theorem dX3_meet_48 : decode cX3_meet 48 = .ok (.iconst 2, 1) := dk_5 (dk_at dksX3_meet_2 0 rfl rfl)
theorem dX3_meet_49 : decode cX3_meet 49 = .ok (.irem, 1) := dk_112 (dk_at dksX3_meet_2 1 rfl rfl)
theorem dX3_meet_50 : decode cX3_meet 50 = .ok (.iconst 1, 1) := dk_4 (dk_at dksX3_meet_2 2 rfl rfl)
theorem dX3_meet_51 : decode cX3_meet 51 = .ok (.if_icmp .ne 13, 3) := dk_160 0 13 (dk_at dksX3_meet_2 3 rfl rfl)
theorem dX3_meet_54 : decode cX3_meet 54 = .ok (.aload_n 0, 1) := dk_42 (dk_at dksX3_meet_2 6 rfl rfl)
theorem dX3_meet_55 : decode cX3_meet 55 = .ok (.iload 5, 2) := dk_21 5 (dk_at dksX3_meet_2 7 rfl rfl)
theorem dX3_meet_57 : decode cX3_meet 57 = .ok (.invokevirtual 246, 3) := dk_182 0 246 (dk_at dksX3_meet_2 9 rfl rfl)
theorem dX3_meet_60 : decode cX3_meet 60 = .ok (.i2l, 1) := dk_133 (dk_at dksX3_meet_2 12 rfl rfl)
theorem dX3_meet_61 : decode cX3_meet 61 = .ok (.goto 11, 3) := dk_167 0 11 (dk_at dksX3_meet_2 13 rfl rfl)
theorem dX3_meet_64 : decode cX3_meet 64 = .ok (.aload_n 0, 1) := dk_42 (dk_at dksX3_meet_2 16 rfl rfl)
theorem dX3_meet_65 : decode cX3_meet 65 = .ok (.iload 5, 2) := dk_21 5 (dk_at dksX3_meet_2 17 rfl rfl)
theorem dX3_meet_67 : decode cX3_meet 67 = .ok (.invokevirtual 246, 3) := dk_182 0 246 (dk_at dksX3_meet_2 19 rfl rfl)
theorem dX3_meet_70 : decode cX3_meet 70 = .ok (.ineg, 1) := dk_116 (dk_at dksX3_meet_2 22 rfl rfl)
theorem dX3_meet_71 : decode cX3_meet 71 = .ok (.i2l, 1) := dk_133 (dk_at dksX3_meet_2 23 rfl rfl)
theorem dX3_meet_72 : decode cX3_meet 72 = .ok (.ladd, 1) := dk_97 (dk_at dksX3_meet_3 0 rfl rfl)
theorem dX3_meet_73 : decode cX3_meet 73 = .ok (.lstore_n 2, 1) := dk_65 (dk_at dksX3_meet_3 1 rfl rfl)
theorem dX3_meet_74 : decode cX3_meet 74 = .ok (.iinc 4 1, 3) := dk_132 4 1 (dk_at dksX3_meet_3 2 rfl rfl)
theorem dX3_meet_77 : decode cX3_meet 77 = .ok (.iinc 5 1, 3) := dk_132 5 1 (dk_at dksX3_meet_3 5 rfl rfl)
theorem dX3_meet_80 : decode cX3_meet 80 = .ok (.goto (-56), 3) := dk_167 255 200 (dk_at dksX3_meet_3 8 rfl rfl)
theorem dX3_meet_83 : decode cX3_meet 83 = .ok (.aload_n 0, 1) := dk_42 (dk_at dksX3_meet_3 11 rfl rfl)
theorem dX3_meet_84 : decode cX3_meet 84 = .ok (.iconst 0, 1) := dk_3 (dk_at dksX3_meet_3 12 rfl rfl)
theorem dX3_meet_85 : decode cX3_meet 85 = .ok (.putfield 54, 3) := dk_181 0 54 (dk_at dksX3_meet_3 13 rfl rfl)
theorem dX3_meet_88 : decode cX3_meet 88 = .ok (.aload_n 0, 1) := dk_42 (dk_at dksX3_meet_3 16 rfl rfl)
theorem dX3_meet_89 : decode cX3_meet 89 = .ok (.lload_n 2, 1) := dk_32 (dk_at dksX3_meet_3 17 rfl rfl)
theorem dX3_meet_90 : decode cX3_meet 90 = .ok (.invokevirtual 81, 3) := dk_182 0 81 (dk_at dksX3_meet_3 18 rfl rfl)
theorem dX3_meet_93 : decode cX3_meet 93 = .ok (.aload_n 0, 1) := dk_42 (dk_at dksX3_meet_3 21 rfl rfl)
theorem dX3_meet_94 : decode cX3_meet 94 = .ok (.iload 4, 2) := dk_21 4 (dk_at dksX3_meet_3 22 rfl rfl)
theorem dX3_meet_96 : decode cX3_meet 96 = .ok (.i2l, 1) := dk_133 (dk_at dksX3_meet_4 0 rfl rfl)
theorem dX3_meet_97 : decode cX3_meet 97 = .ok (.invokevirtual 81, 3) := dk_182 0 81 (dk_at dksX3_meet_4 1 rfl rfl)
theorem dX3_meet_100 : decode cX3_meet 100 = .ok (.lconst 0, 1) := dk_9 (dk_at dksX3_meet_4 4 rfl rfl)
theorem dX3_meet_101 : decode cX3_meet 101 = .ok (.lload_n 2, 1) := dk_32 (dk_at dksX3_meet_4 5 rfl rfl)
theorem dX3_meet_102 : decode cX3_meet 102 = .ok (.invokestatic 257, 3) := dk_184 1 1 (dk_at dksX3_meet_4 6 rfl rfl)
theorem dX3_meet_105 : decode cX3_meet 105 = .ok (.lreturn, 1) := dk_173 (dk_at dksX3_meet_4 9 rfl rfl)
abbrev cX3_ones : ByteArray := prog_10_method_88_code
def yX3_ones : MethodName := ⟨RX3, "ones", "(I)I"⟩
def dkwX3_ones_0 : List UInt8 := [3, 60, 26, 61, 28, 153, 0, 15, 132, 1, 1, 28, 28, 4, 100, 126, 61, 167, 255, 243, 27, 172]
abbrev dktX3_ones_0 : List UInt8 := dkwX3_ones_0 ++ []
theorem dksX3_ones_0 : cX3_ones.data.toList.drop 0 = dktX3_ones_0 := by decide +kernel
theorem dX3_ones_0 : decode cX3_ones 0 = .ok (.iconst 0, 1) := dk_3 (dk_at dksX3_ones_0 0 rfl rfl)
theorem dX3_ones_1 : decode cX3_ones 1 = .ok (.istore_n 1, 1) := dk_60 (dk_at dksX3_ones_0 1 rfl rfl)
theorem dX3_ones_2 : decode cX3_ones 2 = .ok (.iload_n 0, 1) := dk_26 (dk_at dksX3_ones_0 2 rfl rfl)
theorem dX3_ones_3 : decode cX3_ones 3 = .ok (.istore_n 2, 1) := dk_61 (dk_at dksX3_ones_0 3 rfl rfl)
theorem dX3_ones_4 : decode cX3_ones 4 = .ok (.iload_n 2, 1) := dk_28 (dk_at dksX3_ones_0 4 rfl rfl)
theorem dX3_ones_5 : decode cX3_ones 5 = .ok (.ifCond .eq 15, 3) := dk_153 0 15 (dk_at dksX3_ones_0 5 rfl rfl)
theorem dX3_ones_8 : decode cX3_ones 8 = .ok (.iinc 1 1, 3) := dk_132 1 1 (dk_at dksX3_ones_0 8 rfl rfl)
theorem dX3_ones_11 : decode cX3_ones 11 = .ok (.iload_n 2, 1) := dk_28 (dk_at dksX3_ones_0 11 rfl rfl)
theorem dX3_ones_12 : decode cX3_ones 12 = .ok (.iload_n 2, 1) := dk_28 (dk_at dksX3_ones_0 12 rfl rfl)
theorem dX3_ones_13 : decode cX3_ones 13 = .ok (.iconst 1, 1) := dk_4 (dk_at dksX3_ones_0 13 rfl rfl)
theorem dX3_ones_14 : decode cX3_ones 14 = .ok (.isub, 1) := dk_100 (dk_at dksX3_ones_0 14 rfl rfl)
theorem dX3_ones_15 : decode cX3_ones 15 = .ok (.iand, 1) := dk_126 (dk_at dksX3_ones_0 15 rfl rfl)
theorem dX3_ones_16 : decode cX3_ones 16 = .ok (.istore_n 2, 1) := dk_61 (dk_at dksX3_ones_0 16 rfl rfl)
theorem dX3_ones_17 : decode cX3_ones 17 = .ok (.goto (-13), 3) := dk_167 255 243 (dk_at dksX3_ones_0 17 rfl rfl)
theorem dX3_ones_20 : decode cX3_ones 20 = .ok (.iload_n 1, 1) := dk_27 (dk_at dksX3_ones_0 20 rfl rfl)
theorem dX3_ones_21 : decode cX3_ones 21 = .ok (.ireturn, 1) := dk_172 (dk_at dksX3_ones_0 21 rfl rfl)
abbrev cX3_unlike : ByteArray := prog_10_method_91_code
def yX3_unlike : MethodName := ⟨RX3, "unlike", "(II)I"⟩
def dkwX3_unlike_6 : List UInt8 := [182, 0, 81, 21, 4, 21, 5, 96, 172]
abbrev dktX3_unlike_6 : List UInt8 := dkwX3_unlike_6 ++ []
def dkwX3_unlike_5 : List UInt8 := [132, 6, 1, 167, 255, 173, 42, 3, 181, 0, 54, 42, 21, 4, 133, 182, 0, 81, 42, 21, 5, 133]
abbrev dktX3_unlike_5 : List UInt8 := dkwX3_unlike_5 ++ dktX3_unlike_6
def dkwX3_unlike_4 : List UInt8 := [46, 42, 180, 0, 27, 16, 8, 21, 6, 184, 0, 92, 46, 162, 0, 7, 4, 167, 0, 4, 3, 96, 54, 5]
abbrev dktX3_unlike_4 : List UInt8 := dkwX3_unlike_4 ++ dktX3_unlike_5
def dkwX3_unlike_3 : List UInt8 := [164, 0, 7, 4, 167, 0, 4, 3, 96, 54, 4, 21, 5, 42, 180, 0, 27, 16, 7, 21, 6, 184, 0, 92]
abbrev dktX3_unlike_3 : List UInt8 := dkwX3_unlike_3 ++ dktX3_unlike_4
def dkwX3_unlike_2 : List UInt8 := [180, 0, 27, 16, 7, 21, 6, 184, 0, 92, 46, 42, 180, 0, 27, 16, 8, 21, 6, 184, 0, 92, 46]
abbrev dktX3_unlike_2 : List UInt8 := dkwX3_unlike_2 ++ dktX3_unlike_3
def dkwX3_unlike_1 : List UInt8 := [182, 0, 249, 62, 3, 54, 4, 3, 54, 5, 3, 54, 6, 21, 6, 29, 162, 0, 83, 21, 4, 42]
abbrev dktX3_unlike_1 : List UInt8 := dkwX3_unlike_1 ++ dktX3_unlike_2
def dkwX3_unlike_0 : List UInt8 := [42, 3, 181, 0, 51, 27, 184, 0, 111, 153, 0, 10, 28, 184, 0, 111, 154, 0, 5, 2, 172, 42, 27, 28]
abbrev dktX3_unlike_0 : List UInt8 := dkwX3_unlike_0 ++ dktX3_unlike_1
theorem dksX3_unlike_0 : cX3_unlike.data.toList.drop 0 = dktX3_unlike_0 := by decide +kernel
theorem dksX3_unlike_1 : cX3_unlike.data.toList.drop 24 = dktX3_unlike_1 := dk_seg dksX3_unlike_0 24 rfl rfl
theorem dksX3_unlike_2 : cX3_unlike.data.toList.drop 46 = dktX3_unlike_2 := dk_seg dksX3_unlike_1 22 rfl rfl
theorem dksX3_unlike_3 : cX3_unlike.data.toList.drop 69 = dktX3_unlike_3 := dk_seg dksX3_unlike_2 23 rfl rfl
theorem dksX3_unlike_4 : cX3_unlike.data.toList.drop 93 = dktX3_unlike_4 := dk_seg dksX3_unlike_3 24 rfl rfl
theorem dksX3_unlike_5 : cX3_unlike.data.toList.drop 117 = dktX3_unlike_5 := dk_seg dksX3_unlike_4 24 rfl rfl
theorem dksX3_unlike_6 : cX3_unlike.data.toList.drop 139 = dktX3_unlike_6 := dk_seg dksX3_unlike_5 22 rfl rfl
theorem dX3_unlike_0 : decode cX3_unlike 0 = .ok (.aload_n 0, 1) := dk_42 (dk_at dksX3_unlike_0 0 rfl rfl)
theorem dX3_unlike_1 : decode cX3_unlike 1 = .ok (.iconst 0, 1) := dk_3 (dk_at dksX3_unlike_0 1 rfl rfl)
theorem dX3_unlike_2 : decode cX3_unlike 2 = .ok (.putfield 51, 3) := dk_181 0 51 (dk_at dksX3_unlike_0 2 rfl rfl)
theorem dX3_unlike_5 : decode cX3_unlike 5 = .ok (.iload_n 1, 1) := dk_27 (dk_at dksX3_unlike_0 5 rfl rfl)
theorem dX3_unlike_6 : decode cX3_unlike 6 = .ok (.invokestatic 111, 3) := dk_184 0 111 (dk_at dksX3_unlike_0 6 rfl rfl)
theorem dX3_unlike_9 : decode cX3_unlike 9 = .ok (.ifCond .eq 10, 3) := dk_153 0 10 (dk_at dksX3_unlike_0 9 rfl rfl)
theorem dX3_unlike_12 : decode cX3_unlike 12 = .ok (.iload_n 2, 1) := dk_28 (dk_at dksX3_unlike_0 12 rfl rfl)
theorem dX3_unlike_13 : decode cX3_unlike 13 = .ok (.invokestatic 111, 3) := dk_184 0 111 (dk_at dksX3_unlike_0 13 rfl rfl)
theorem dX3_unlike_16 : decode cX3_unlike 16 = .ok (.ifCond .ne 5, 3) := dk_154 0 5 (dk_at dksX3_unlike_0 16 rfl rfl)
theorem dX3_unlike_19 : decode cX3_unlike 19 = .ok (.iconst (-1), 1) := dk_2 (dk_at dksX3_unlike_0 19 rfl rfl)
theorem dX3_unlike_20 : decode cX3_unlike 20 = .ok (.ireturn, 1) := dk_172 (dk_at dksX3_unlike_0 20 rfl rfl)
theorem dX3_unlike_21 : decode cX3_unlike 21 = .ok (.aload_n 0, 1) := dk_42 (dk_at dksX3_unlike_0 21 rfl rfl)
theorem dX3_unlike_22 : decode cX3_unlike 22 = .ok (.iload_n 1, 1) := dk_27 (dk_at dksX3_unlike_0 22 rfl rfl)
theorem dX3_unlike_23 : decode cX3_unlike 23 = .ok (.iload_n 2, 1) := dk_28 (dk_at dksX3_unlike_0 23 rfl rfl)
theorem dX3_unlike_24 : decode cX3_unlike 24 = .ok (.invokevirtual 249, 3) := dk_182 0 249 (dk_at dksX3_unlike_1 0 rfl rfl)
theorem dX3_unlike_27 : decode cX3_unlike 27 = .ok (.istore_n 3, 1) := dk_62 (dk_at dksX3_unlike_1 3 rfl rfl)
theorem dX3_unlike_28 : decode cX3_unlike 28 = .ok (.iconst 0, 1) := dk_3 (dk_at dksX3_unlike_1 4 rfl rfl)
theorem dX3_unlike_29 : decode cX3_unlike 29 = .ok (.istore 4, 2) := dk_54 4 (dk_at dksX3_unlike_1 5 rfl rfl)
theorem dX3_unlike_31 : decode cX3_unlike 31 = .ok (.iconst 0, 1) := dk_3 (dk_at dksX3_unlike_1 7 rfl rfl)
theorem dX3_unlike_32 : decode cX3_unlike 32 = .ok (.istore 5, 2) := dk_54 5 (dk_at dksX3_unlike_1 8 rfl rfl)
theorem dX3_unlike_34 : decode cX3_unlike 34 = .ok (.iconst 0, 1) := dk_3 (dk_at dksX3_unlike_1 10 rfl rfl)
theorem dX3_unlike_35 : decode cX3_unlike 35 = .ok (.istore 6, 2) := dk_54 6 (dk_at dksX3_unlike_1 11 rfl rfl)
theorem dX3_unlike_37 : decode cX3_unlike 37 = .ok (.iload 6, 2) := dk_21 6 (dk_at dksX3_unlike_1 13 rfl rfl)
theorem dX3_unlike_39 : decode cX3_unlike 39 = .ok (.iload_n 3, 1) := dk_29 (dk_at dksX3_unlike_1 15 rfl rfl)
theorem dX3_unlike_40 : decode cX3_unlike 40 = .ok (.if_icmp .ge 83, 3) := dk_162 0 83 (dk_at dksX3_unlike_1 16 rfl rfl)
theorem dX3_unlike_43 : decode cX3_unlike 43 = .ok (.iload 4, 2) := dk_21 4 (dk_at dksX3_unlike_1 19 rfl rfl)
theorem dX3_unlike_45 : decode cX3_unlike 45 = .ok (.aload_n 0, 1) := dk_42 (dk_at dksX3_unlike_1 21 rfl rfl)
theorem dX3_unlike_46 : decode cX3_unlike 46 = .ok (.getfield 27, 3) := dk_180 0 27 (dk_at dksX3_unlike_2 0 rfl rfl)
theorem dX3_unlike_49 : decode cX3_unlike 49 = .ok (.bipush 7, 2) := dk_16 7 (dk_at dksX3_unlike_2 3 rfl rfl)
theorem dX3_unlike_51 : decode cX3_unlike 51 = .ok (.iload 6, 2) := dk_21 6 (dk_at dksX3_unlike_2 5 rfl rfl)
theorem dX3_unlike_53 : decode cX3_unlike 53 = .ok (.invokestatic 92, 3) := dk_184 0 92 (dk_at dksX3_unlike_2 7 rfl rfl)
theorem dX3_unlike_56 : decode cX3_unlike 56 = .ok (.iaload, 1) := dk_46 (dk_at dksX3_unlike_2 10 rfl rfl)
theorem dX3_unlike_57 : decode cX3_unlike 57 = .ok (.aload_n 0, 1) := dk_42 (dk_at dksX3_unlike_2 11 rfl rfl)
theorem dX3_unlike_58 : decode cX3_unlike 58 = .ok (.getfield 27, 3) := dk_180 0 27 (dk_at dksX3_unlike_2 12 rfl rfl)
theorem dX3_unlike_61 : decode cX3_unlike 61 = .ok (.bipush 8, 2) := dk_16 8 (dk_at dksX3_unlike_2 15 rfl rfl)
theorem dX3_unlike_63 : decode cX3_unlike 63 = .ok (.iload 6, 2) := dk_21 6 (dk_at dksX3_unlike_2 17 rfl rfl)
theorem dX3_unlike_65 : decode cX3_unlike 65 = .ok (.invokestatic 92, 3) := dk_184 0 92 (dk_at dksX3_unlike_2 19 rfl rfl)
theorem dX3_unlike_68 : decode cX3_unlike 68 = .ok (.iaload, 1) := dk_46 (dk_at dksX3_unlike_2 22 rfl rfl)
theorem dX3_unlike_69 : decode cX3_unlike 69 = .ok (.if_icmp .le 7, 3) := dk_164 0 7 (dk_at dksX3_unlike_3 0 rfl rfl)
theorem dX3_unlike_72 : decode cX3_unlike 72 = .ok (.iconst 1, 1) := dk_4 (dk_at dksX3_unlike_3 3 rfl rfl)
theorem dX3_unlike_73 : decode cX3_unlike 73 = .ok (.goto 4, 3) := dk_167 0 4 (dk_at dksX3_unlike_3 4 rfl rfl)
theorem dX3_unlike_76 : decode cX3_unlike 76 = .ok (.iconst 0, 1) := dk_3 (dk_at dksX3_unlike_3 7 rfl rfl)
theorem dX3_unlike_77 : decode cX3_unlike 77 = .ok (.iadd, 1) := dk_96 (dk_at dksX3_unlike_3 8 rfl rfl)
theorem dX3_unlike_78 : decode cX3_unlike 78 = .ok (.istore 4, 2) := dk_54 4 (dk_at dksX3_unlike_3 9 rfl rfl)
theorem dX3_unlike_80 : decode cX3_unlike 80 = .ok (.iload 5, 2) := dk_21 5 (dk_at dksX3_unlike_3 11 rfl rfl)
theorem dX3_unlike_82 : decode cX3_unlike 82 = .ok (.aload_n 0, 1) := dk_42 (dk_at dksX3_unlike_3 13 rfl rfl)
theorem dX3_unlike_83 : decode cX3_unlike 83 = .ok (.getfield 27, 3) := dk_180 0 27 (dk_at dksX3_unlike_3 14 rfl rfl)
theorem dX3_unlike_86 : decode cX3_unlike 86 = .ok (.bipush 7, 2) := dk_16 7 (dk_at dksX3_unlike_3 17 rfl rfl)
theorem dX3_unlike_88 : decode cX3_unlike 88 = .ok (.iload 6, 2) := dk_21 6 (dk_at dksX3_unlike_3 19 rfl rfl)
theorem dX3_unlike_90 : decode cX3_unlike 90 = .ok (.invokestatic 92, 3) := dk_184 0 92 (dk_at dksX3_unlike_3 21 rfl rfl)
theorem dX3_unlike_93 : decode cX3_unlike 93 = .ok (.iaload, 1) := dk_46 (dk_at dksX3_unlike_4 0 rfl rfl)
theorem dX3_unlike_94 : decode cX3_unlike 94 = .ok (.aload_n 0, 1) := dk_42 (dk_at dksX3_unlike_4 1 rfl rfl)
theorem dX3_unlike_95 : decode cX3_unlike 95 = .ok (.getfield 27, 3) := dk_180 0 27 (dk_at dksX3_unlike_4 2 rfl rfl)
theorem dX3_unlike_98 : decode cX3_unlike 98 = .ok (.bipush 8, 2) := dk_16 8 (dk_at dksX3_unlike_4 5 rfl rfl)
theorem dX3_unlike_100 : decode cX3_unlike 100 = .ok (.iload 6, 2) := dk_21 6 (dk_at dksX3_unlike_4 7 rfl rfl)
theorem dX3_unlike_102 : decode cX3_unlike 102 = .ok (.invokestatic 92, 3) := dk_184 0 92 (dk_at dksX3_unlike_4 9 rfl rfl)
theorem dX3_unlike_105 : decode cX3_unlike 105 = .ok (.iaload, 1) := dk_46 (dk_at dksX3_unlike_4 12 rfl rfl)
theorem dX3_unlike_106 : decode cX3_unlike 106 = .ok (.if_icmp .ge 7, 3) := dk_162 0 7 (dk_at dksX3_unlike_4 13 rfl rfl)
theorem dX3_unlike_109 : decode cX3_unlike 109 = .ok (.iconst 1, 1) := dk_4 (dk_at dksX3_unlike_4 16 rfl rfl)
theorem dX3_unlike_110 : decode cX3_unlike 110 = .ok (.goto 4, 3) := dk_167 0 4 (dk_at dksX3_unlike_4 17 rfl rfl)
theorem dX3_unlike_113 : decode cX3_unlike 113 = .ok (.iconst 0, 1) := dk_3 (dk_at dksX3_unlike_4 20 rfl rfl)
theorem dX3_unlike_114 : decode cX3_unlike 114 = .ok (.iadd, 1) := dk_96 (dk_at dksX3_unlike_4 21 rfl rfl)
theorem dX3_unlike_115 : decode cX3_unlike 115 = .ok (.istore 5, 2) := dk_54 5 (dk_at dksX3_unlike_4 22 rfl rfl)
theorem dX3_unlike_117 : decode cX3_unlike 117 = .ok (.iinc 6 1, 3) := dk_132 6 1 (dk_at dksX3_unlike_5 0 rfl rfl)
theorem dX3_unlike_120 : decode cX3_unlike 120 = .ok (.goto (-83), 3) := dk_167 255 173 (dk_at dksX3_unlike_5 3 rfl rfl)
theorem dX3_unlike_123 : decode cX3_unlike 123 = .ok (.aload_n 0, 1) := dk_42 (dk_at dksX3_unlike_5 6 rfl rfl)
theorem dX3_unlike_124 : decode cX3_unlike 124 = .ok (.iconst 0, 1) := dk_3 (dk_at dksX3_unlike_5 7 rfl rfl)
theorem dX3_unlike_125 : decode cX3_unlike 125 = .ok (.putfield 54, 3) := dk_181 0 54 (dk_at dksX3_unlike_5 8 rfl rfl)
theorem dX3_unlike_128 : decode cX3_unlike 128 = .ok (.aload_n 0, 1) := dk_42 (dk_at dksX3_unlike_5 11 rfl rfl)
theorem dX3_unlike_129 : decode cX3_unlike 129 = .ok (.iload 4, 2) := dk_21 4 (dk_at dksX3_unlike_5 12 rfl rfl)
theorem dX3_unlike_131 : decode cX3_unlike 131 = .ok (.i2l, 1) := dk_133 (dk_at dksX3_unlike_5 14 rfl rfl)
theorem dX3_unlike_132 : decode cX3_unlike 132 = .ok (.invokevirtual 81, 3) := dk_182 0 81 (dk_at dksX3_unlike_5 15 rfl rfl)
theorem dX3_unlike_135 : decode cX3_unlike 135 = .ok (.aload_n 0, 1) := dk_42 (dk_at dksX3_unlike_5 18 rfl rfl)
theorem dX3_unlike_136 : decode cX3_unlike 136 = .ok (.iload 5, 2) := dk_21 5 (dk_at dksX3_unlike_5 19 rfl rfl)
theorem dX3_unlike_138 : decode cX3_unlike 138 = .ok (.i2l, 1) := dk_133 (dk_at dksX3_unlike_5 21 rfl rfl)
theorem dX3_unlike_139 : decode cX3_unlike 139 = .ok (.invokevirtual 81, 3) := dk_182 0 81 (dk_at dksX3_unlike_6 0 rfl rfl)
theorem dX3_unlike_142 : decode cX3_unlike 142 = .ok (.iload 4, 2) := dk_21 4 (dk_at dksX3_unlike_6 3 rfl rfl)
theorem dX3_unlike_144 : decode cX3_unlike 144 = .ok (.iload 5, 2) := dk_21 5 (dk_at dksX3_unlike_6 5 rfl rfl)
theorem dX3_unlike_146 : decode cX3_unlike 146 = .ok (.iadd, 1) := dk_96 (dk_at dksX3_unlike_6 7 rfl rfl)
theorem dX3_unlike_147 : decode cX3_unlike 147 = .ok (.ireturn, 1) := dk_172 (dk_at dksX3_unlike_6 8 rfl rfl)
abbrev cX3_apart : ByteArray := prog_10_method_92_code
def yX3_apart : MethodName := ⟨RX3, "apart", "(II)I"⟩
def dkwX3_apart_5 : List UInt8 := [42, 21, 6, 133, 182, 0, 81, 21, 4, 172]
abbrev dktX3_apart_5 : List UInt8 := dkwX3_apart_5 ++ []
def dkwX3_apart_4 : List UInt8 := [54, 5, 21, 7, 54, 6, 132, 7, 1, 167, 255, 192, 42, 3, 181, 0, 54, 42, 21, 5, 133, 182, 0, 81]
abbrev dktX3_apart_4 : List UInt8 := dkwX3_apart_4 ++ dktX3_apart_5
def dkwX3_apart_3 : List UInt8 := [184, 1, 13, 54, 8, 21, 4, 21, 8, 96, 54, 4, 21, 8, 21, 5, 163, 0, 6, 167, 0, 11, 21, 8]
abbrev dktX3_apart_3 : List UInt8 := dkwX3_apart_3 ++ dktX3_apart_4
def dkwX3_apart_2 : List UInt8 := [180, 0, 27, 16, 7, 21, 7, 184, 0, 92, 46, 42, 180, 0, 27, 16, 8, 21, 7, 184, 0, 92, 46, 100]
abbrev dktX3_apart_2 : List UInt8 := dkwX3_apart_2 ++ dktX3_apart_3
def dkwX3_apart_1 : List UInt8 := [182, 0, 249, 62, 3, 54, 4, 3, 54, 5, 3, 54, 6, 3, 54, 7, 21, 7, 29, 162, 0, 64, 42]
abbrev dktX3_apart_1 : List UInt8 := dkwX3_apart_1 ++ dktX3_apart_2
def dkwX3_apart_0 : List UInt8 := [42, 3, 181, 0, 51, 27, 184, 0, 111, 153, 0, 10, 28, 184, 0, 111, 154, 0, 5, 2, 172, 42, 27, 28]
abbrev dktX3_apart_0 : List UInt8 := dkwX3_apart_0 ++ dktX3_apart_1
theorem dksX3_apart_0 : cX3_apart.data.toList.drop 0 = dktX3_apart_0 := by decide +kernel
theorem dksX3_apart_1 : cX3_apart.data.toList.drop 24 = dktX3_apart_1 := dk_seg dksX3_apart_0 24 rfl rfl
theorem dksX3_apart_2 : cX3_apart.data.toList.drop 47 = dktX3_apart_2 := dk_seg dksX3_apart_1 23 rfl rfl
theorem dksX3_apart_3 : cX3_apart.data.toList.drop 71 = dktX3_apart_3 := dk_seg dksX3_apart_2 24 rfl rfl
theorem dksX3_apart_4 : cX3_apart.data.toList.drop 95 = dktX3_apart_4 := dk_seg dksX3_apart_3 24 rfl rfl
theorem dksX3_apart_5 : cX3_apart.data.toList.drop 119 = dktX3_apart_5 := dk_seg dksX3_apart_4 24 rfl rfl
theorem dX3_apart_0 : decode cX3_apart 0 = .ok (.aload_n 0, 1) := dk_42 (dk_at dksX3_apart_0 0 rfl rfl)
theorem dX3_apart_1 : decode cX3_apart 1 = .ok (.iconst 0, 1) := dk_3 (dk_at dksX3_apart_0 1 rfl rfl)
theorem dX3_apart_2 : decode cX3_apart 2 = .ok (.putfield 51, 3) := dk_181 0 51 (dk_at dksX3_apart_0 2 rfl rfl)
theorem dX3_apart_5 : decode cX3_apart 5 = .ok (.iload_n 1, 1) := dk_27 (dk_at dksX3_apart_0 5 rfl rfl)
theorem dX3_apart_6 : decode cX3_apart 6 = .ok (.invokestatic 111, 3) := dk_184 0 111 (dk_at dksX3_apart_0 6 rfl rfl)
theorem dX3_apart_9 : decode cX3_apart 9 = .ok (.ifCond .eq 10, 3) := dk_153 0 10 (dk_at dksX3_apart_0 9 rfl rfl)
theorem dX3_apart_12 : decode cX3_apart 12 = .ok (.iload_n 2, 1) := dk_28 (dk_at dksX3_apart_0 12 rfl rfl)
theorem dX3_apart_13 : decode cX3_apart 13 = .ok (.invokestatic 111, 3) := dk_184 0 111 (dk_at dksX3_apart_0 13 rfl rfl)
theorem dX3_apart_16 : decode cX3_apart 16 = .ok (.ifCond .ne 5, 3) := dk_154 0 5 (dk_at dksX3_apart_0 16 rfl rfl)
theorem dX3_apart_19 : decode cX3_apart 19 = .ok (.iconst (-1), 1) := dk_2 (dk_at dksX3_apart_0 19 rfl rfl)
theorem dX3_apart_20 : decode cX3_apart 20 = .ok (.ireturn, 1) := dk_172 (dk_at dksX3_apart_0 20 rfl rfl)
theorem dX3_apart_21 : decode cX3_apart 21 = .ok (.aload_n 0, 1) := dk_42 (dk_at dksX3_apart_0 21 rfl rfl)
theorem dX3_apart_22 : decode cX3_apart 22 = .ok (.iload_n 1, 1) := dk_27 (dk_at dksX3_apart_0 22 rfl rfl)
theorem dX3_apart_23 : decode cX3_apart 23 = .ok (.iload_n 2, 1) := dk_28 (dk_at dksX3_apart_0 23 rfl rfl)
theorem dX3_apart_24 : decode cX3_apart 24 = .ok (.invokevirtual 249, 3) := dk_182 0 249 (dk_at dksX3_apart_1 0 rfl rfl)
theorem dX3_apart_27 : decode cX3_apart 27 = .ok (.istore_n 3, 1) := dk_62 (dk_at dksX3_apart_1 3 rfl rfl)
theorem dX3_apart_28 : decode cX3_apart 28 = .ok (.iconst 0, 1) := dk_3 (dk_at dksX3_apart_1 4 rfl rfl)
theorem dX3_apart_29 : decode cX3_apart 29 = .ok (.istore 4, 2) := dk_54 4 (dk_at dksX3_apart_1 5 rfl rfl)
theorem dX3_apart_31 : decode cX3_apart 31 = .ok (.iconst 0, 1) := dk_3 (dk_at dksX3_apart_1 7 rfl rfl)
theorem dX3_apart_32 : decode cX3_apart 32 = .ok (.istore 5, 2) := dk_54 5 (dk_at dksX3_apart_1 8 rfl rfl)
theorem dX3_apart_34 : decode cX3_apart 34 = .ok (.iconst 0, 1) := dk_3 (dk_at dksX3_apart_1 10 rfl rfl)
theorem dX3_apart_35 : decode cX3_apart 35 = .ok (.istore 6, 2) := dk_54 6 (dk_at dksX3_apart_1 11 rfl rfl)
theorem dX3_apart_37 : decode cX3_apart 37 = .ok (.iconst 0, 1) := dk_3 (dk_at dksX3_apart_1 13 rfl rfl)
theorem dX3_apart_38 : decode cX3_apart 38 = .ok (.istore 7, 2) := dk_54 7 (dk_at dksX3_apart_1 14 rfl rfl)
theorem dX3_apart_40 : decode cX3_apart 40 = .ok (.iload 7, 2) := dk_21 7 (dk_at dksX3_apart_1 16 rfl rfl)
theorem dX3_apart_42 : decode cX3_apart 42 = .ok (.iload_n 3, 1) := dk_29 (dk_at dksX3_apart_1 18 rfl rfl)
theorem dX3_apart_43 : decode cX3_apart 43 = .ok (.if_icmp .ge 64, 3) := dk_162 0 64 (dk_at dksX3_apart_1 19 rfl rfl)
theorem dX3_apart_46 : decode cX3_apart 46 = .ok (.aload_n 0, 1) := dk_42 (dk_at dksX3_apart_1 22 rfl rfl)
theorem dX3_apart_47 : decode cX3_apart 47 = .ok (.getfield 27, 3) := dk_180 0 27 (dk_at dksX3_apart_2 0 rfl rfl)
theorem dX3_apart_50 : decode cX3_apart 50 = .ok (.bipush 7, 2) := dk_16 7 (dk_at dksX3_apart_2 3 rfl rfl)
theorem dX3_apart_52 : decode cX3_apart 52 = .ok (.iload 7, 2) := dk_21 7 (dk_at dksX3_apart_2 5 rfl rfl)
theorem dX3_apart_54 : decode cX3_apart 54 = .ok (.invokestatic 92, 3) := dk_184 0 92 (dk_at dksX3_apart_2 7 rfl rfl)
theorem dX3_apart_57 : decode cX3_apart 57 = .ok (.iaload, 1) := dk_46 (dk_at dksX3_apart_2 10 rfl rfl)
theorem dX3_apart_58 : decode cX3_apart 58 = .ok (.aload_n 0, 1) := dk_42 (dk_at dksX3_apart_2 11 rfl rfl)
theorem dX3_apart_59 : decode cX3_apart 59 = .ok (.getfield 27, 3) := dk_180 0 27 (dk_at dksX3_apart_2 12 rfl rfl)
theorem dX3_apart_62 : decode cX3_apart 62 = .ok (.bipush 8, 2) := dk_16 8 (dk_at dksX3_apart_2 15 rfl rfl)
theorem dX3_apart_64 : decode cX3_apart 64 = .ok (.iload 7, 2) := dk_21 7 (dk_at dksX3_apart_2 17 rfl rfl)
theorem dX3_apart_66 : decode cX3_apart 66 = .ok (.invokestatic 92, 3) := dk_184 0 92 (dk_at dksX3_apart_2 19 rfl rfl)
theorem dX3_apart_69 : decode cX3_apart 69 = .ok (.iaload, 1) := dk_46 (dk_at dksX3_apart_2 22 rfl rfl)
theorem dX3_apart_70 : decode cX3_apart 70 = .ok (.isub, 1) := dk_100 (dk_at dksX3_apart_2 23 rfl rfl)
theorem dX3_apart_71 : decode cX3_apart 71 = .ok (.invokestatic 269, 3) := dk_184 1 13 (dk_at dksX3_apart_3 0 rfl rfl)
theorem dX3_apart_74 : decode cX3_apart 74 = .ok (.istore 8, 2) := dk_54 8 (dk_at dksX3_apart_3 3 rfl rfl)
theorem dX3_apart_76 : decode cX3_apart 76 = .ok (.iload 4, 2) := dk_21 4 (dk_at dksX3_apart_3 5 rfl rfl)
theorem dX3_apart_78 : decode cX3_apart 78 = .ok (.iload 8, 2) := dk_21 8 (dk_at dksX3_apart_3 7 rfl rfl)
theorem dX3_apart_80 : decode cX3_apart 80 = .ok (.iadd, 1) := dk_96 (dk_at dksX3_apart_3 9 rfl rfl)
theorem dX3_apart_81 : decode cX3_apart 81 = .ok (.istore 4, 2) := dk_54 4 (dk_at dksX3_apart_3 10 rfl rfl)
theorem dX3_apart_83 : decode cX3_apart 83 = .ok (.iload 8, 2) := dk_21 8 (dk_at dksX3_apart_3 12 rfl rfl)
theorem dX3_apart_85 : decode cX3_apart 85 = .ok (.iload 5, 2) := dk_21 5 (dk_at dksX3_apart_3 14 rfl rfl)
theorem dX3_apart_87 : decode cX3_apart 87 = .ok (.if_icmp .gt 6, 3) := dk_163 0 6 (dk_at dksX3_apart_3 16 rfl rfl)
theorem dX3_apart_90 : decode cX3_apart 90 = .ok (.goto 11, 3) := dk_167 0 11 (dk_at dksX3_apart_3 19 rfl rfl)
theorem dX3_apart_93 : decode cX3_apart 93 = .ok (.iload 8, 2) := dk_21 8 (dk_at dksX3_apart_3 22 rfl rfl)
theorem dX3_apart_95 : decode cX3_apart 95 = .ok (.istore 5, 2) := dk_54 5 (dk_at dksX3_apart_4 0 rfl rfl)
theorem dX3_apart_97 : decode cX3_apart 97 = .ok (.iload 7, 2) := dk_21 7 (dk_at dksX3_apart_4 2 rfl rfl)
theorem dX3_apart_99 : decode cX3_apart 99 = .ok (.istore 6, 2) := dk_54 6 (dk_at dksX3_apart_4 4 rfl rfl)
theorem dX3_apart_101 : decode cX3_apart 101 = .ok (.iinc 7 1, 3) := dk_132 7 1 (dk_at dksX3_apart_4 6 rfl rfl)
theorem dX3_apart_104 : decode cX3_apart 104 = .ok (.goto (-64), 3) := dk_167 255 192 (dk_at dksX3_apart_4 9 rfl rfl)
theorem dX3_apart_107 : decode cX3_apart 107 = .ok (.aload_n 0, 1) := dk_42 (dk_at dksX3_apart_4 12 rfl rfl)
theorem dX3_apart_108 : decode cX3_apart 108 = .ok (.iconst 0, 1) := dk_3 (dk_at dksX3_apart_4 13 rfl rfl)
theorem dX3_apart_109 : decode cX3_apart 109 = .ok (.putfield 54, 3) := dk_181 0 54 (dk_at dksX3_apart_4 14 rfl rfl)
theorem dX3_apart_112 : decode cX3_apart 112 = .ok (.aload_n 0, 1) := dk_42 (dk_at dksX3_apart_4 17 rfl rfl)
theorem dX3_apart_113 : decode cX3_apart 113 = .ok (.iload 5, 2) := dk_21 5 (dk_at dksX3_apart_4 18 rfl rfl)
theorem dX3_apart_115 : decode cX3_apart 115 = .ok (.i2l, 1) := dk_133 (dk_at dksX3_apart_4 20 rfl rfl)
theorem dX3_apart_116 : decode cX3_apart 116 = .ok (.invokevirtual 81, 3) := dk_182 0 81 (dk_at dksX3_apart_4 21 rfl rfl)
theorem dX3_apart_119 : decode cX3_apart 119 = .ok (.aload_n 0, 1) := dk_42 (dk_at dksX3_apart_5 0 rfl rfl)
theorem dX3_apart_120 : decode cX3_apart 120 = .ok (.iload 6, 2) := dk_21 6 (dk_at dksX3_apart_5 1 rfl rfl)
theorem dX3_apart_122 : decode cX3_apart 122 = .ok (.i2l, 1) := dk_133 (dk_at dksX3_apart_5 3 rfl rfl)
theorem dX3_apart_123 : decode cX3_apart 123 = .ok (.invokevirtual 81, 3) := dk_182 0 81 (dk_at dksX3_apart_5 4 rfl rfl)
theorem dX3_apart_126 : decode cX3_apart 126 = .ok (.iload 4, 2) := dk_21 4 (dk_at dksX3_apart_5 7 rfl rfl)
theorem dX3_apart_128 : decode cX3_apart 128 = .ok (.ireturn, 1) := dk_172 (dk_at dksX3_apart_5 9 rfl rfl)
abbrev cX3_order : ByteArray := prog_10_method_93_code
def yX3_order : MethodName := ⟨RX3, "order", "()I"⟩
def dkwX3_order_3 : List UInt8 := [29, 120, 128, 60, 42, 29, 133, 182, 0, 81, 132, 2, 1, 167, 255, 186, 42, 180, 0, 38, 3, 47, 136, 172]
abbrev dktX3_order_3 : List UInt8 := dkwX3_order_3 ++ []
def dkwX3_order_2 : List UInt8 := [21, 4, 182, 0, 211, 42, 29, 182, 0, 211, 164, 0, 6, 21, 4, 62, 132, 4, 1, 167, 255, 215, 27, 4]
abbrev dktX3_order_2 : List UInt8 := dkwX3_order_2 ++ dktX3_order_3
def dkwX3_order_1 : List UInt8 := [54, 4, 21, 4, 16, 6, 162, 0, 40, 27, 21, 4, 122, 4, 126, 154, 0, 25, 29, 2, 159, 0, 17, 42]
abbrev dktX3_order_1 : List UInt8 := dkwX3_order_1 ++ dktX3_order_2
def dkwX3_order_0 : List UInt8 := [42, 3, 181, 0, 51, 42, 3, 181, 0, 54, 3, 60, 3, 61, 28, 16, 6, 162, 0, 70, 2, 62, 3]
abbrev dktX3_order_0 : List UInt8 := dkwX3_order_0 ++ dktX3_order_1
theorem dksX3_order_0 : cX3_order.data.toList.drop 0 = dktX3_order_0 := by decide +kernel
theorem dksX3_order_1 : cX3_order.data.toList.drop 23 = dktX3_order_1 := dk_seg dksX3_order_0 23 rfl rfl
theorem dksX3_order_2 : cX3_order.data.toList.drop 47 = dktX3_order_2 := dk_seg dksX3_order_1 24 rfl rfl
theorem dksX3_order_3 : cX3_order.data.toList.drop 71 = dktX3_order_3 := dk_seg dksX3_order_2 24 rfl rfl
theorem dX3_order_0 : decode cX3_order 0 = .ok (.aload_n 0, 1) := dk_42 (dk_at dksX3_order_0 0 rfl rfl)
theorem dX3_order_1 : decode cX3_order 1 = .ok (.iconst 0, 1) := dk_3 (dk_at dksX3_order_0 1 rfl rfl)
theorem dX3_order_2 : decode cX3_order 2 = .ok (.putfield 51, 3) := dk_181 0 51 (dk_at dksX3_order_0 2 rfl rfl)
theorem dX3_order_5 : decode cX3_order 5 = .ok (.aload_n 0, 1) := dk_42 (dk_at dksX3_order_0 5 rfl rfl)
theorem dX3_order_6 : decode cX3_order 6 = .ok (.iconst 0, 1) := dk_3 (dk_at dksX3_order_0 6 rfl rfl)
theorem dX3_order_7 : decode cX3_order 7 = .ok (.putfield 54, 3) := dk_181 0 54 (dk_at dksX3_order_0 7 rfl rfl)
theorem dX3_order_10 : decode cX3_order 10 = .ok (.iconst 0, 1) := dk_3 (dk_at dksX3_order_0 10 rfl rfl)
theorem dX3_order_11 : decode cX3_order 11 = .ok (.istore_n 1, 1) := dk_60 (dk_at dksX3_order_0 11 rfl rfl)
theorem dX3_order_12 : decode cX3_order 12 = .ok (.iconst 0, 1) := dk_3 (dk_at dksX3_order_0 12 rfl rfl)
theorem dX3_order_13 : decode cX3_order 13 = .ok (.istore_n 2, 1) := dk_61 (dk_at dksX3_order_0 13 rfl rfl)
theorem dX3_order_14 : decode cX3_order 14 = .ok (.iload_n 2, 1) := dk_28 (dk_at dksX3_order_0 14 rfl rfl)
theorem dX3_order_15 : decode cX3_order 15 = .ok (.bipush 6, 2) := dk_16 6 (dk_at dksX3_order_0 15 rfl rfl)
theorem dX3_order_17 : decode cX3_order 17 = .ok (.if_icmp .ge 70, 3) := dk_162 0 70 (dk_at dksX3_order_0 17 rfl rfl)
theorem dX3_order_20 : decode cX3_order 20 = .ok (.iconst (-1), 1) := dk_2 (dk_at dksX3_order_0 20 rfl rfl)
theorem dX3_order_21 : decode cX3_order 21 = .ok (.istore_n 3, 1) := dk_62 (dk_at dksX3_order_0 21 rfl rfl)
theorem dX3_order_22 : decode cX3_order 22 = .ok (.iconst 0, 1) := dk_3 (dk_at dksX3_order_0 22 rfl rfl)
theorem dX3_order_23 : decode cX3_order 23 = .ok (.istore 4, 2) := dk_54 4 (dk_at dksX3_order_1 0 rfl rfl)
theorem dX3_order_25 : decode cX3_order 25 = .ok (.iload 4, 2) := dk_21 4 (dk_at dksX3_order_1 2 rfl rfl)
theorem dX3_order_27 : decode cX3_order 27 = .ok (.bipush 6, 2) := dk_16 6 (dk_at dksX3_order_1 4 rfl rfl)
theorem dX3_order_29 : decode cX3_order 29 = .ok (.if_icmp .ge 40, 3) := dk_162 0 40 (dk_at dksX3_order_1 6 rfl rfl)
theorem dX3_order_32 : decode cX3_order 32 = .ok (.iload_n 1, 1) := dk_27 (dk_at dksX3_order_1 9 rfl rfl)
theorem dX3_order_33 : decode cX3_order 33 = .ok (.iload 4, 2) := dk_21 4 (dk_at dksX3_order_1 10 rfl rfl)
theorem dX3_order_35 : decode cX3_order 35 = .ok (.ishr, 1) := dk_122 (dk_at dksX3_order_1 12 rfl rfl)
theorem dX3_order_36 : decode cX3_order 36 = .ok (.iconst 1, 1) := dk_4 (dk_at dksX3_order_1 13 rfl rfl)
theorem dX3_order_37 : decode cX3_order 37 = .ok (.iand, 1) := dk_126 (dk_at dksX3_order_1 14 rfl rfl)
theorem dX3_order_38 : decode cX3_order 38 = .ok (.ifCond .ne 25, 3) := dk_154 0 25 (dk_at dksX3_order_1 15 rfl rfl)
theorem dX3_order_41 : decode cX3_order 41 = .ok (.iload_n 3, 1) := dk_29 (dk_at dksX3_order_1 18 rfl rfl)
theorem dX3_order_42 : decode cX3_order 42 = .ok (.iconst (-1), 1) := dk_2 (dk_at dksX3_order_1 19 rfl rfl)
theorem dX3_order_43 : decode cX3_order 43 = .ok (.if_icmp .eq 17, 3) := dk_159 0 17 (dk_at dksX3_order_1 20 rfl rfl)
theorem dX3_order_46 : decode cX3_order 46 = .ok (.aload_n 0, 1) := dk_42 (dk_at dksX3_order_1 23 rfl rfl)
theorem dX3_order_47 : decode cX3_order 47 = .ok (.iload 4, 2) := dk_21 4 (dk_at dksX3_order_2 0 rfl rfl)
theorem dX3_order_49 : decode cX3_order 49 = .ok (.invokevirtual 211, 3) := dk_182 0 211 (dk_at dksX3_order_2 2 rfl rfl)
theorem dX3_order_52 : decode cX3_order 52 = .ok (.aload_n 0, 1) := dk_42 (dk_at dksX3_order_2 5 rfl rfl)
theorem dX3_order_53 : decode cX3_order 53 = .ok (.iload_n 3, 1) := dk_29 (dk_at dksX3_order_2 6 rfl rfl)
theorem dX3_order_54 : decode cX3_order 54 = .ok (.invokevirtual 211, 3) := dk_182 0 211 (dk_at dksX3_order_2 7 rfl rfl)
theorem dX3_order_57 : decode cX3_order 57 = .ok (.if_icmp .le 6, 3) := dk_164 0 6 (dk_at dksX3_order_2 10 rfl rfl)
theorem dX3_order_60 : decode cX3_order 60 = .ok (.iload 4, 2) := dk_21 4 (dk_at dksX3_order_2 13 rfl rfl)
theorem dX3_order_62 : decode cX3_order 62 = .ok (.istore_n 3, 1) := dk_62 (dk_at dksX3_order_2 15 rfl rfl)
theorem dX3_order_63 : decode cX3_order 63 = .ok (.iinc 4 1, 3) := dk_132 4 1 (dk_at dksX3_order_2 16 rfl rfl)
theorem dX3_order_66 : decode cX3_order 66 = .ok (.goto (-41), 3) := dk_167 255 215 (dk_at dksX3_order_2 19 rfl rfl)
theorem dX3_order_69 : decode cX3_order 69 = .ok (.iload_n 1, 1) := dk_27 (dk_at dksX3_order_2 22 rfl rfl)
theorem dX3_order_70 : decode cX3_order 70 = .ok (.iconst 1, 1) := dk_4 (dk_at dksX3_order_2 23 rfl rfl)
theorem dX3_order_71 : decode cX3_order 71 = .ok (.iload_n 3, 1) := dk_29 (dk_at dksX3_order_3 0 rfl rfl)
theorem dX3_order_72 : decode cX3_order 72 = .ok (.ishl, 1) := dk_120 (dk_at dksX3_order_3 1 rfl rfl)
theorem dX3_order_73 : decode cX3_order 73 = .ok (.ior, 1) := dk_128 (dk_at dksX3_order_3 2 rfl rfl)
theorem dX3_order_74 : decode cX3_order 74 = .ok (.istore_n 1, 1) := dk_60 (dk_at dksX3_order_3 3 rfl rfl)
theorem dX3_order_75 : decode cX3_order 75 = .ok (.aload_n 0, 1) := dk_42 (dk_at dksX3_order_3 4 rfl rfl)
theorem dX3_order_76 : decode cX3_order 76 = .ok (.iload_n 3, 1) := dk_29 (dk_at dksX3_order_3 5 rfl rfl)
theorem dX3_order_77 : decode cX3_order 77 = .ok (.i2l, 1) := dk_133 (dk_at dksX3_order_3 6 rfl rfl)
theorem dX3_order_78 : decode cX3_order 78 = .ok (.invokevirtual 81, 3) := dk_182 0 81 (dk_at dksX3_order_3 7 rfl rfl)
theorem dX3_order_81 : decode cX3_order 81 = .ok (.iinc 2 1, 3) := dk_132 2 1 (dk_at dksX3_order_3 10 rfl rfl)
theorem dX3_order_84 : decode cX3_order 84 = .ok (.goto (-70), 3) := dk_167 255 186 (dk_at dksX3_order_3 13 rfl rfl)
theorem dX3_order_87 : decode cX3_order 87 = .ok (.aload_n 0, 1) := dk_42 (dk_at dksX3_order_3 16 rfl rfl)
theorem dX3_order_88 : decode cX3_order 88 = .ok (.getfield 38, 3) := dk_180 0 38 (dk_at dksX3_order_3 17 rfl rfl)
theorem dX3_order_91 : decode cX3_order 91 = .ok (.iconst 0, 1) := dk_3 (dk_at dksX3_order_3 20 rfl rfl)
theorem dX3_order_92 : decode cX3_order 92 = .ok (.laload, 1) := dk_47 (dk_at dksX3_order_3 21 rfl rfl)
theorem dX3_order_93 : decode cX3_order 93 = .ok (.l2i, 1) := dk_136 (dk_at dksX3_order_3 22 rfl rfl)
theorem dX3_order_94 : decode cX3_order 94 = .ok (.ireturn, 1) := dk_172 (dk_at dksX3_order_3 23 rfl rfl)
abbrev cX3_within : ByteArray := prog_10_method_94_code
def yX3_within : MethodName := ⟨RX3, "within", "(II)I"⟩
def dkwX3_within_5 : List UInt8 := [167, 0, 4, 3, 172]
abbrev dktX3_within_5 : List UInt8 := dkwX3_within_5 ++ []
def dkwX3_within_4 : List UInt8 := [163, 0, 7, 4, 167, 0, 4, 3, 54, 5, 132, 6, 1, 167, 255, 207, 21, 5, 153, 0, 7, 4]
abbrev dktX3_within_4 : List UInt8 := dkwX3_within_4 ++ dktX3_within_5
def dkwX3_within_3 : List UInt8 := [180, 0, 27, 16, 8, 21, 6, 184, 0, 92, 46, 42, 180, 0, 27, 16, 7, 21, 6, 184, 0, 92, 46]
abbrev dktX3_within_3 : List UInt8 := dkwX3_within_3 ++ dktX3_within_4
def dkwX3_within_2 : List UInt8 := [167, 0, 4, 3, 54, 5, 3, 54, 6, 21, 6, 21, 4, 162, 0, 48, 21, 5, 153, 0, 34, 42]
abbrev dktX3_within_2 : List UInt8 := dkwX3_within_2 ++ dktX3_within_3
def dkwX3_within_1 : List UInt8 := [182, 0, 254, 62, 42, 27, 28, 182, 0, 249, 54, 4, 29, 42, 16, 7, 182, 0, 211, 160, 0, 7, 4]
abbrev dktX3_within_1 : List UInt8 := dkwX3_within_1 ++ dktX3_within_2
def dkwX3_within_0 : List UInt8 := [42, 3, 181, 0, 51, 27, 184, 0, 111, 153, 0, 10, 28, 184, 0, 111, 154, 0, 5, 2, 172, 42, 27, 28]
abbrev dktX3_within_0 : List UInt8 := dkwX3_within_0 ++ dktX3_within_1
theorem dksX3_within_0 : cX3_within.data.toList.drop 0 = dktX3_within_0 := by decide +kernel
theorem dksX3_within_1 : cX3_within.data.toList.drop 24 = dktX3_within_1 := dk_seg dksX3_within_0 24 rfl rfl
theorem dksX3_within_2 : cX3_within.data.toList.drop 47 = dktX3_within_2 := dk_seg dksX3_within_1 23 rfl rfl
theorem dksX3_within_3 : cX3_within.data.toList.drop 69 = dktX3_within_3 := dk_seg dksX3_within_2 22 rfl rfl
theorem dksX3_within_4 : cX3_within.data.toList.drop 92 = dktX3_within_4 := dk_seg dksX3_within_3 23 rfl rfl
theorem dksX3_within_5 : cX3_within.data.toList.drop 114 = dktX3_within_5 := dk_seg dksX3_within_4 22 rfl rfl
theorem dX3_within_0 : decode cX3_within 0 = .ok (.aload_n 0, 1) := dk_42 (dk_at dksX3_within_0 0 rfl rfl)
theorem dX3_within_1 : decode cX3_within 1 = .ok (.iconst 0, 1) := dk_3 (dk_at dksX3_within_0 1 rfl rfl)
theorem dX3_within_2 : decode cX3_within 2 = .ok (.putfield 51, 3) := dk_181 0 51 (dk_at dksX3_within_0 2 rfl rfl)
theorem dX3_within_5 : decode cX3_within 5 = .ok (.iload_n 1, 1) := dk_27 (dk_at dksX3_within_0 5 rfl rfl)
theorem dX3_within_6 : decode cX3_within 6 = .ok (.invokestatic 111, 3) := dk_184 0 111 (dk_at dksX3_within_0 6 rfl rfl)
theorem dX3_within_9 : decode cX3_within 9 = .ok (.ifCond .eq 10, 3) := dk_153 0 10 (dk_at dksX3_within_0 9 rfl rfl)
theorem dX3_within_12 : decode cX3_within 12 = .ok (.iload_n 2, 1) := dk_28 (dk_at dksX3_within_0 12 rfl rfl)
theorem dX3_within_13 : decode cX3_within 13 = .ok (.invokestatic 111, 3) := dk_184 0 111 (dk_at dksX3_within_0 13 rfl rfl)
theorem dX3_within_16 : decode cX3_within 16 = .ok (.ifCond .ne 5, 3) := dk_154 0 5 (dk_at dksX3_within_0 16 rfl rfl)
theorem dX3_within_19 : decode cX3_within 19 = .ok (.iconst (-1), 1) := dk_2 (dk_at dksX3_within_0 19 rfl rfl)
theorem dX3_within_20 : decode cX3_within 20 = .ok (.ireturn, 1) := dk_172 (dk_at dksX3_within_0 20 rfl rfl)
theorem dX3_within_21 : decode cX3_within 21 = .ok (.aload_n 0, 1) := dk_42 (dk_at dksX3_within_0 21 rfl rfl)
theorem dX3_within_22 : decode cX3_within 22 = .ok (.iload_n 1, 1) := dk_27 (dk_at dksX3_within_0 22 rfl rfl)
theorem dX3_within_23 : decode cX3_within 23 = .ok (.iload_n 2, 1) := dk_28 (dk_at dksX3_within_0 23 rfl rfl)
theorem dX3_within_24 : decode cX3_within 24 = .ok (.invokevirtual 254, 3) := dk_182 0 254 (dk_at dksX3_within_1 0 rfl rfl)
theorem dX3_within_27 : decode cX3_within 27 = .ok (.istore_n 3, 1) := dk_62 (dk_at dksX3_within_1 3 rfl rfl)
theorem dX3_within_28 : decode cX3_within 28 = .ok (.aload_n 0, 1) := dk_42 (dk_at dksX3_within_1 4 rfl rfl)
theorem dX3_within_29 : decode cX3_within 29 = .ok (.iload_n 1, 1) := dk_27 (dk_at dksX3_within_1 5 rfl rfl)
theorem dX3_within_30 : decode cX3_within 30 = .ok (.iload_n 2, 1) := dk_28 (dk_at dksX3_within_1 6 rfl rfl)
theorem dX3_within_31 : decode cX3_within 31 = .ok (.invokevirtual 249, 3) := dk_182 0 249 (dk_at dksX3_within_1 7 rfl rfl)
theorem dX3_within_34 : decode cX3_within 34 = .ok (.istore 4, 2) := dk_54 4 (dk_at dksX3_within_1 10 rfl rfl)
theorem dX3_within_36 : decode cX3_within 36 = .ok (.iload_n 3, 1) := dk_29 (dk_at dksX3_within_1 12 rfl rfl)
theorem dX3_within_37 : decode cX3_within 37 = .ok (.aload_n 0, 1) := dk_42 (dk_at dksX3_within_1 13 rfl rfl)
theorem dX3_within_38 : decode cX3_within 38 = .ok (.bipush 7, 2) := dk_16 7 (dk_at dksX3_within_1 14 rfl rfl)
theorem dX3_within_40 : decode cX3_within 40 = .ok (.invokevirtual 211, 3) := dk_182 0 211 (dk_at dksX3_within_1 16 rfl rfl)
theorem dX3_within_43 : decode cX3_within 43 = .ok (.if_icmp .ne 7, 3) := dk_160 0 7 (dk_at dksX3_within_1 19 rfl rfl)
theorem dX3_within_46 : decode cX3_within 46 = .ok (.iconst 1, 1) := dk_4 (dk_at dksX3_within_1 22 rfl rfl)
theorem dX3_within_47 : decode cX3_within 47 = .ok (.goto 4, 3) := dk_167 0 4 (dk_at dksX3_within_2 0 rfl rfl)
theorem dX3_within_50 : decode cX3_within 50 = .ok (.iconst 0, 1) := dk_3 (dk_at dksX3_within_2 3 rfl rfl)
theorem dX3_within_51 : decode cX3_within 51 = .ok (.istore 5, 2) := dk_54 5 (dk_at dksX3_within_2 4 rfl rfl)
theorem dX3_within_53 : decode cX3_within 53 = .ok (.iconst 0, 1) := dk_3 (dk_at dksX3_within_2 6 rfl rfl)
theorem dX3_within_54 : decode cX3_within 54 = .ok (.istore 6, 2) := dk_54 6 (dk_at dksX3_within_2 7 rfl rfl)
theorem dX3_within_56 : decode cX3_within 56 = .ok (.iload 6, 2) := dk_21 6 (dk_at dksX3_within_2 9 rfl rfl)
theorem dX3_within_58 : decode cX3_within 58 = .ok (.iload 4, 2) := dk_21 4 (dk_at dksX3_within_2 11 rfl rfl)
theorem dX3_within_60 : decode cX3_within 60 = .ok (.if_icmp .ge 48, 3) := dk_162 0 48 (dk_at dksX3_within_2 13 rfl rfl)
theorem dX3_within_63 : decode cX3_within 63 = .ok (.iload 5, 2) := dk_21 5 (dk_at dksX3_within_2 16 rfl rfl)
theorem dX3_within_65 : decode cX3_within 65 = .ok (.ifCond .eq 34, 3) := dk_153 0 34 (dk_at dksX3_within_2 18 rfl rfl)
theorem dX3_within_68 : decode cX3_within 68 = .ok (.aload_n 0, 1) := dk_42 (dk_at dksX3_within_2 21 rfl rfl)
theorem dX3_within_69 : decode cX3_within 69 = .ok (.getfield 27, 3) := dk_180 0 27 (dk_at dksX3_within_3 0 rfl rfl)
theorem dX3_within_72 : decode cX3_within 72 = .ok (.bipush 8, 2) := dk_16 8 (dk_at dksX3_within_3 3 rfl rfl)
theorem dX3_within_74 : decode cX3_within 74 = .ok (.iload 6, 2) := dk_21 6 (dk_at dksX3_within_3 5 rfl rfl)
theorem dX3_within_76 : decode cX3_within 76 = .ok (.invokestatic 92, 3) := dk_184 0 92 (dk_at dksX3_within_3 7 rfl rfl)
theorem dX3_within_79 : decode cX3_within 79 = .ok (.iaload, 1) := dk_46 (dk_at dksX3_within_3 10 rfl rfl)
theorem dX3_within_80 : decode cX3_within 80 = .ok (.aload_n 0, 1) := dk_42 (dk_at dksX3_within_3 11 rfl rfl)
theorem dX3_within_81 : decode cX3_within 81 = .ok (.getfield 27, 3) := dk_180 0 27 (dk_at dksX3_within_3 12 rfl rfl)
theorem dX3_within_84 : decode cX3_within 84 = .ok (.bipush 7, 2) := dk_16 7 (dk_at dksX3_within_3 15 rfl rfl)
theorem dX3_within_86 : decode cX3_within 86 = .ok (.iload 6, 2) := dk_21 6 (dk_at dksX3_within_3 17 rfl rfl)
theorem dX3_within_88 : decode cX3_within 88 = .ok (.invokestatic 92, 3) := dk_184 0 92 (dk_at dksX3_within_3 19 rfl rfl)
theorem dX3_within_91 : decode cX3_within 91 = .ok (.iaload, 1) := dk_46 (dk_at dksX3_within_3 22 rfl rfl)
theorem dX3_within_92 : decode cX3_within 92 = .ok (.if_icmp .gt 7, 3) := dk_163 0 7 (dk_at dksX3_within_4 0 rfl rfl)
theorem dX3_within_95 : decode cX3_within 95 = .ok (.iconst 1, 1) := dk_4 (dk_at dksX3_within_4 3 rfl rfl)
theorem dX3_within_96 : decode cX3_within 96 = .ok (.goto 4, 3) := dk_167 0 4 (dk_at dksX3_within_4 4 rfl rfl)
theorem dX3_within_99 : decode cX3_within 99 = .ok (.iconst 0, 1) := dk_3 (dk_at dksX3_within_4 7 rfl rfl)
theorem dX3_within_100 : decode cX3_within 100 = .ok (.istore 5, 2) := dk_54 5 (dk_at dksX3_within_4 8 rfl rfl)
theorem dX3_within_102 : decode cX3_within 102 = .ok (.iinc 6 1, 3) := dk_132 6 1 (dk_at dksX3_within_4 10 rfl rfl)
theorem dX3_within_105 : decode cX3_within 105 = .ok (.goto (-49), 3) := dk_167 255 207 (dk_at dksX3_within_4 13 rfl rfl)
theorem dX3_within_108 : decode cX3_within 108 = .ok (.iload 5, 2) := dk_21 5 (dk_at dksX3_within_4 16 rfl rfl)
theorem dX3_within_110 : decode cX3_within 110 = .ok (.ifCond .eq 7, 3) := dk_153 0 7 (dk_at dksX3_within_4 18 rfl rfl)
theorem dX3_within_113 : decode cX3_within 113 = .ok (.iconst 1, 1) := dk_4 (dk_at dksX3_within_4 21 rfl rfl)
theorem dX3_within_114 : decode cX3_within 114 = .ok (.goto 4, 3) := dk_167 0 4 (dk_at dksX3_within_5 0 rfl rfl)
theorem dX3_within_117 : decode cX3_within 117 = .ok (.iconst 0, 1) := dk_3 (dk_at dksX3_within_5 3 rfl rfl)
theorem dX3_within_118 : decode cX3_within 118 = .ok (.ireturn, 1) := dk_172 (dk_at dksX3_within_5 4 rfl rfl)
abbrev cX3_cover : ByteArray := prog_10_method_95_code
def yX3_cover : MethodName := ⟨RX3, "cover", "(I)I"⟩
def dkwX3_cover_4 : List UInt8 := [172]
abbrev dktX3_cover_4 : List UInt8 := dkwX3_cover_4 ++ []
def dkwX3_cover_3 : List UInt8 := [21, 4, 62, 132, 4, 1, 167, 255, 206, 42, 3, 181, 0, 54, 42, 29, 133, 182, 0, 81, 29, 184, 1, 10]
abbrev dktX3_cover_3 : List UInt8 := dkwX3_cover_3 ++ dktX3_cover_4
def dkwX3_cover_2 : List UInt8 := [184, 1, 10, 29, 184, 1, 10, 162, 0, 19, 42, 21, 4, 182, 0, 246, 28, 159, 0, 6, 167, 0, 6]
abbrev dktX3_cover_2 : List UInt8 := dkwX3_cover_2 ++ dktX3_cover_3
def dkwX3_cover_1 : List UInt8 := [54, 4, 21, 4, 27, 163, 0, 50, 21, 4, 27, 2, 130, 126, 154, 0, 35, 29, 153, 0, 15, 21, 4]
abbrev dktX3_cover_1 : List UInt8 := dkwX3_cover_1 ++ dktX3_cover_2
def dkwX3_cover_0 : List UInt8 := [42, 3, 181, 0, 51, 27, 184, 0, 217, 154, 0, 5, 2, 172, 42, 27, 182, 0, 246, 61, 3, 62, 4]
abbrev dktX3_cover_0 : List UInt8 := dkwX3_cover_0 ++ dktX3_cover_1
theorem dksX3_cover_0 : cX3_cover.data.toList.drop 0 = dktX3_cover_0 := by decide +kernel
theorem dksX3_cover_1 : cX3_cover.data.toList.drop 23 = dktX3_cover_1 := dk_seg dksX3_cover_0 23 rfl rfl
theorem dksX3_cover_2 : cX3_cover.data.toList.drop 46 = dktX3_cover_2 := dk_seg dksX3_cover_1 23 rfl rfl
theorem dksX3_cover_3 : cX3_cover.data.toList.drop 69 = dktX3_cover_3 := dk_seg dksX3_cover_2 23 rfl rfl
theorem dksX3_cover_4 : cX3_cover.data.toList.drop 93 = dktX3_cover_4 := dk_seg dksX3_cover_3 24 rfl rfl
theorem dX3_cover_0 : decode cX3_cover 0 = .ok (.aload_n 0, 1) := dk_42 (dk_at dksX3_cover_0 0 rfl rfl)
theorem dX3_cover_1 : decode cX3_cover 1 = .ok (.iconst 0, 1) := dk_3 (dk_at dksX3_cover_0 1 rfl rfl)
theorem dX3_cover_2 : decode cX3_cover 2 = .ok (.putfield 51, 3) := dk_181 0 51 (dk_at dksX3_cover_0 2 rfl rfl)
theorem dX3_cover_5 : decode cX3_cover 5 = .ok (.iload_n 1, 1) := dk_27 (dk_at dksX3_cover_0 5 rfl rfl)
theorem dX3_cover_6 : decode cX3_cover 6 = .ok (.invokestatic 217, 3) := dk_184 0 217 (dk_at dksX3_cover_0 6 rfl rfl)
theorem dX3_cover_9 : decode cX3_cover 9 = .ok (.ifCond .ne 5, 3) := dk_154 0 5 (dk_at dksX3_cover_0 9 rfl rfl)
theorem dX3_cover_12 : decode cX3_cover 12 = .ok (.iconst (-1), 1) := dk_2 (dk_at dksX3_cover_0 12 rfl rfl)
theorem dX3_cover_13 : decode cX3_cover 13 = .ok (.ireturn, 1) := dk_172 (dk_at dksX3_cover_0 13 rfl rfl)
theorem dX3_cover_14 : decode cX3_cover 14 = .ok (.aload_n 0, 1) := dk_42 (dk_at dksX3_cover_0 14 rfl rfl)
theorem dX3_cover_15 : decode cX3_cover 15 = .ok (.iload_n 1, 1) := dk_27 (dk_at dksX3_cover_0 15 rfl rfl)
theorem dX3_cover_16 : decode cX3_cover 16 = .ok (.invokevirtual 246, 3) := dk_182 0 246 (dk_at dksX3_cover_0 16 rfl rfl)
theorem dX3_cover_19 : decode cX3_cover 19 = .ok (.istore_n 2, 1) := dk_61 (dk_at dksX3_cover_0 19 rfl rfl)
theorem dX3_cover_20 : decode cX3_cover 20 = .ok (.iconst 0, 1) := dk_3 (dk_at dksX3_cover_0 20 rfl rfl)
theorem dX3_cover_21 : decode cX3_cover 21 = .ok (.istore_n 3, 1) := dk_62 (dk_at dksX3_cover_0 21 rfl rfl)
theorem dX3_cover_22 : decode cX3_cover 22 = .ok (.iconst 1, 1) := dk_4 (dk_at dksX3_cover_0 22 rfl rfl)
theorem dX3_cover_23 : decode cX3_cover 23 = .ok (.istore 4, 2) := dk_54 4 (dk_at dksX3_cover_1 0 rfl rfl)
theorem dX3_cover_25 : decode cX3_cover 25 = .ok (.iload 4, 2) := dk_21 4 (dk_at dksX3_cover_1 2 rfl rfl)
theorem dX3_cover_27 : decode cX3_cover 27 = .ok (.iload_n 1, 1) := dk_27 (dk_at dksX3_cover_1 4 rfl rfl)
theorem dX3_cover_28 : decode cX3_cover 28 = .ok (.if_icmp .gt 50, 3) := dk_163 0 50 (dk_at dksX3_cover_1 5 rfl rfl)
theorem dX3_cover_31 : decode cX3_cover 31 = .ok (.iload 4, 2) := dk_21 4 (dk_at dksX3_cover_1 8 rfl rfl)
theorem dX3_cover_33 : decode cX3_cover 33 = .ok (.iload_n 1, 1) := dk_27 (dk_at dksX3_cover_1 10 rfl rfl)
theorem dX3_cover_34 : decode cX3_cover 34 = .ok (.iconst (-1), 1) := dk_2 (dk_at dksX3_cover_1 11 rfl rfl)
theorem dX3_cover_35 : decode cX3_cover 35 = .ok (.ixor, 1) := dk_130 (dk_at dksX3_cover_1 12 rfl rfl)
theorem dX3_cover_36 : decode cX3_cover 36 = .ok (.iand, 1) := dk_126 (dk_at dksX3_cover_1 13 rfl rfl)
theorem dX3_cover_37 : decode cX3_cover 37 = .ok (.ifCond .ne 35, 3) := dk_154 0 35 (dk_at dksX3_cover_1 14 rfl rfl)
theorem dX3_cover_40 : decode cX3_cover 40 = .ok (.iload_n 3, 1) := dk_29 (dk_at dksX3_cover_1 17 rfl rfl)
theorem dX3_cover_41 : decode cX3_cover 41 = .ok (.ifCond .eq 15, 3) := dk_153 0 15 (dk_at dksX3_cover_1 18 rfl rfl)
theorem dX3_cover_44 : decode cX3_cover 44 = .ok (.iload 4, 2) := dk_21 4 (dk_at dksX3_cover_1 21 rfl rfl)
theorem dX3_cover_46 : decode cX3_cover 46 = .ok (.invokestatic 266, 3) := dk_184 1 10 (dk_at dksX3_cover_2 0 rfl rfl)
theorem dX3_cover_49 : decode cX3_cover 49 = .ok (.iload_n 3, 1) := dk_29 (dk_at dksX3_cover_2 3 rfl rfl)
theorem dX3_cover_50 : decode cX3_cover 50 = .ok (.invokestatic 266, 3) := dk_184 1 10 (dk_at dksX3_cover_2 4 rfl rfl)
theorem dX3_cover_53 : decode cX3_cover 53 = .ok (.if_icmp .ge 19, 3) := dk_162 0 19 (dk_at dksX3_cover_2 7 rfl rfl)
theorem dX3_cover_56 : decode cX3_cover 56 = .ok (.aload_n 0, 1) := dk_42 (dk_at dksX3_cover_2 10 rfl rfl)
theorem dX3_cover_57 : decode cX3_cover 57 = .ok (.iload 4, 2) := dk_21 4 (dk_at dksX3_cover_2 11 rfl rfl)
theorem dX3_cover_59 : decode cX3_cover 59 = .ok (.invokevirtual 246, 3) := dk_182 0 246 (dk_at dksX3_cover_2 13 rfl rfl)
theorem dX3_cover_62 : decode cX3_cover 62 = .ok (.iload_n 2, 1) := dk_28 (dk_at dksX3_cover_2 16 rfl rfl)
theorem dX3_cover_63 : decode cX3_cover 63 = .ok (.if_icmp .eq 6, 3) := dk_159 0 6 (dk_at dksX3_cover_2 17 rfl rfl)
theorem dX3_cover_66 : decode cX3_cover 66 = .ok (.goto 6, 3) := dk_167 0 6 (dk_at dksX3_cover_2 20 rfl rfl)
theorem dX3_cover_69 : decode cX3_cover 69 = .ok (.iload 4, 2) := dk_21 4 (dk_at dksX3_cover_3 0 rfl rfl)
theorem dX3_cover_71 : decode cX3_cover 71 = .ok (.istore_n 3, 1) := dk_62 (dk_at dksX3_cover_3 2 rfl rfl)
theorem dX3_cover_72 : decode cX3_cover 72 = .ok (.iinc 4 1, 3) := dk_132 4 1 (dk_at dksX3_cover_3 3 rfl rfl)
theorem dX3_cover_75 : decode cX3_cover 75 = .ok (.goto (-50), 3) := dk_167 255 206 (dk_at dksX3_cover_3 6 rfl rfl)
theorem dX3_cover_78 : decode cX3_cover 78 = .ok (.aload_n 0, 1) := dk_42 (dk_at dksX3_cover_3 9 rfl rfl)
theorem dX3_cover_79 : decode cX3_cover 79 = .ok (.iconst 0, 1) := dk_3 (dk_at dksX3_cover_3 10 rfl rfl)
theorem dX3_cover_80 : decode cX3_cover 80 = .ok (.putfield 54, 3) := dk_181 0 54 (dk_at dksX3_cover_3 11 rfl rfl)
theorem dX3_cover_83 : decode cX3_cover 83 = .ok (.aload_n 0, 1) := dk_42 (dk_at dksX3_cover_3 14 rfl rfl)
theorem dX3_cover_84 : decode cX3_cover 84 = .ok (.iload_n 3, 1) := dk_29 (dk_at dksX3_cover_3 15 rfl rfl)
theorem dX3_cover_85 : decode cX3_cover 85 = .ok (.i2l, 1) := dk_133 (dk_at dksX3_cover_3 16 rfl rfl)
theorem dX3_cover_86 : decode cX3_cover 86 = .ok (.invokevirtual 81, 3) := dk_182 0 81 (dk_at dksX3_cover_3 17 rfl rfl)
theorem dX3_cover_89 : decode cX3_cover 89 = .ok (.iload_n 3, 1) := dk_29 (dk_at dksX3_cover_3 20 rfl rfl)
theorem dX3_cover_90 : decode cX3_cover 90 = .ok (.invokestatic 266, 3) := dk_184 1 10 (dk_at dksX3_cover_3 21 rfl rfl)
theorem dX3_cover_93 : decode cX3_cover 93 = .ok (.ireturn, 1) := dk_172 (dk_at dksX3_cover_4 0 rfl rfl)
abbrev cX3_errs : ByteArray := prog_10_method_98_code
def yX3_errs : MethodName := ⟨RX3, "errs", "(IIII)I"⟩
def dkwX3_errs_5 : List UInt8 := [181, 0, 54, 42, 21, 6, 133, 182, 0, 81, 42, 42, 16, 8, 182, 0, 211, 133, 182, 0, 81, 21, 5, 172]
abbrev dktX3_errs_5 : List UInt8 := dkwX3_errs_5 ++ []
def dkwX3_errs_4 : List UInt8 := [163, 0, 6, 167, 0, 11, 21, 9, 54, 5, 21, 8, 54, 6, 132, 8, 1, 167, 255, 195, 42, 3]
abbrev dktX3_errs_4 : List UInt8 := dkwX3_errs_4 ++ dktX3_errs_5
def dkwX3_errs_3 : List UInt8 := [21, 4, 96, 54, 7, 42, 16, 8, 182, 0, 211, 21, 8, 100, 184, 1, 13, 54, 9, 21, 9, 21, 5]
abbrev dktX3_errs_3 : List UInt8 := dkwX3_errs_3 ++ dktX3_errs_4
def dkwX3_errs_2 : List UInt8 := [54, 8, 21, 8, 29, 163, 0, 61, 42, 16, 8, 42, 21, 7, 182, 0, 69, 182, 0, 121, 87, 21, 7]
abbrev dktX3_errs_2 : List UInt8 := dkwX3_errs_2 ++ dktX3_errs_3
def dkwX3_errs_1 : List UInt8 := [184, 1, 16, 154, 0, 5, 2, 172, 42, 27, 182, 1, 19, 2, 54, 5, 3, 54, 6, 28, 54, 7, 4]
abbrev dktX3_errs_1 : List UInt8 := dkwX3_errs_1 ++ dktX3_errs_2
def dkwX3_errs_0 : List UInt8 := [42, 3, 181, 0, 51, 27, 133, 20, 0, 73, 20, 0, 75, 184, 0, 60, 153, 0, 12, 29, 21, 4]
abbrev dktX3_errs_0 : List UInt8 := dkwX3_errs_0 ++ dktX3_errs_1
theorem dksX3_errs_0 : cX3_errs.data.toList.drop 0 = dktX3_errs_0 := by decide +kernel
theorem dksX3_errs_1 : cX3_errs.data.toList.drop 22 = dktX3_errs_1 := dk_seg dksX3_errs_0 22 rfl rfl
theorem dksX3_errs_2 : cX3_errs.data.toList.drop 45 = dktX3_errs_2 := dk_seg dksX3_errs_1 23 rfl rfl
theorem dksX3_errs_3 : cX3_errs.data.toList.drop 68 = dktX3_errs_3 := dk_seg dksX3_errs_2 23 rfl rfl
theorem dksX3_errs_4 : cX3_errs.data.toList.drop 91 = dktX3_errs_4 := dk_seg dksX3_errs_3 23 rfl rfl
theorem dksX3_errs_5 : cX3_errs.data.toList.drop 113 = dktX3_errs_5 := dk_seg dksX3_errs_4 22 rfl rfl
theorem dX3_errs_0 : decode cX3_errs 0 = .ok (.aload_n 0, 1) := dk_42 (dk_at dksX3_errs_0 0 rfl rfl)
theorem dX3_errs_1 : decode cX3_errs 1 = .ok (.iconst 0, 1) := dk_3 (dk_at dksX3_errs_0 1 rfl rfl)
theorem dX3_errs_2 : decode cX3_errs 2 = .ok (.putfield 51, 3) := dk_181 0 51 (dk_at dksX3_errs_0 2 rfl rfl)
theorem dX3_errs_5 : decode cX3_errs 5 = .ok (.iload_n 1, 1) := dk_27 (dk_at dksX3_errs_0 5 rfl rfl)
theorem dX3_errs_6 : decode cX3_errs 6 = .ok (.i2l, 1) := dk_133 (dk_at dksX3_errs_0 6 rfl rfl)
theorem dX3_errs_7 : decode cX3_errs 7 = .ok (.ldc2_w 73, 3) := dk_20 0 73 (dk_at dksX3_errs_0 7 rfl rfl)
theorem dX3_errs_10 : decode cX3_errs 10 = .ok (.ldc2_w 75, 3) := dk_20 0 75 (dk_at dksX3_errs_0 10 rfl rfl)
theorem dX3_errs_13 : decode cX3_errs 13 = .ok (.invokestatic 60, 3) := dk_184 0 60 (dk_at dksX3_errs_0 13 rfl rfl)
theorem dX3_errs_16 : decode cX3_errs 16 = .ok (.ifCond .eq 12, 3) := dk_153 0 12 (dk_at dksX3_errs_0 16 rfl rfl)
theorem dX3_errs_19 : decode cX3_errs 19 = .ok (.iload_n 3, 1) := dk_29 (dk_at dksX3_errs_0 19 rfl rfl)
theorem dX3_errs_20 : decode cX3_errs 20 = .ok (.iload 4, 2) := dk_21 4 (dk_at dksX3_errs_0 20 rfl rfl)
theorem dX3_errs_22 : decode cX3_errs 22 = .ok (.invokestatic 272, 3) := dk_184 1 16 (dk_at dksX3_errs_1 0 rfl rfl)
theorem dX3_errs_25 : decode cX3_errs 25 = .ok (.ifCond .ne 5, 3) := dk_154 0 5 (dk_at dksX3_errs_1 3 rfl rfl)
theorem dX3_errs_28 : decode cX3_errs 28 = .ok (.iconst (-1), 1) := dk_2 (dk_at dksX3_errs_1 6 rfl rfl)
theorem dX3_errs_29 : decode cX3_errs 29 = .ok (.ireturn, 1) := dk_172 (dk_at dksX3_errs_1 7 rfl rfl)
theorem dX3_errs_30 : decode cX3_errs 30 = .ok (.aload_n 0, 1) := dk_42 (dk_at dksX3_errs_1 8 rfl rfl)
theorem dX3_errs_31 : decode cX3_errs 31 = .ok (.iload_n 1, 1) := dk_27 (dk_at dksX3_errs_1 9 rfl rfl)
theorem dX3_errs_32 : decode cX3_errs 32 = .ok (.invokevirtual 275, 3) := dk_182 1 19 (dk_at dksX3_errs_1 10 rfl rfl)
theorem dX3_errs_35 : decode cX3_errs 35 = .ok (.iconst (-1), 1) := dk_2 (dk_at dksX3_errs_1 13 rfl rfl)
theorem dX3_errs_36 : decode cX3_errs 36 = .ok (.istore 5, 2) := dk_54 5 (dk_at dksX3_errs_1 14 rfl rfl)
theorem dX3_errs_38 : decode cX3_errs 38 = .ok (.iconst 0, 1) := dk_3 (dk_at dksX3_errs_1 16 rfl rfl)
theorem dX3_errs_39 : decode cX3_errs 39 = .ok (.istore 6, 2) := dk_54 6 (dk_at dksX3_errs_1 17 rfl rfl)
theorem dX3_errs_41 : decode cX3_errs 41 = .ok (.iload_n 2, 1) := dk_28 (dk_at dksX3_errs_1 19 rfl rfl)
theorem dX3_errs_42 : decode cX3_errs 42 = .ok (.istore 7, 2) := dk_54 7 (dk_at dksX3_errs_1 20 rfl rfl)
theorem dX3_errs_44 : decode cX3_errs 44 = .ok (.iconst 1, 1) := dk_4 (dk_at dksX3_errs_1 22 rfl rfl)
theorem dX3_errs_45 : decode cX3_errs 45 = .ok (.istore 8, 2) := dk_54 8 (dk_at dksX3_errs_2 0 rfl rfl)
theorem dX3_errs_47 : decode cX3_errs 47 = .ok (.iload 8, 2) := dk_21 8 (dk_at dksX3_errs_2 2 rfl rfl)
theorem dX3_errs_49 : decode cX3_errs 49 = .ok (.iload_n 3, 1) := dk_29 (dk_at dksX3_errs_2 4 rfl rfl)
theorem dX3_errs_50 : decode cX3_errs 50 = .ok (.if_icmp .gt 61, 3) := dk_163 0 61 (dk_at dksX3_errs_2 5 rfl rfl)
theorem dX3_errs_53 : decode cX3_errs 53 = .ok (.aload_n 0, 1) := dk_42 (dk_at dksX3_errs_2 8 rfl rfl)
theorem dX3_errs_54 : decode cX3_errs 54 = .ok (.bipush 8, 2) := dk_16 8 (dk_at dksX3_errs_2 9 rfl rfl)
theorem dX3_errs_56 : decode cX3_errs 56 = .ok (.aload_n 0, 1) := dk_42 (dk_at dksX3_errs_2 11 rfl rfl)
theorem dX3_errs_57 : decode cX3_errs 57 = .ok (.iload 7, 2) := dk_21 7 (dk_at dksX3_errs_2 12 rfl rfl)
theorem dX3_errs_59 : decode cX3_errs 59 = .ok (.invokevirtual 69, 3) := dk_182 0 69 (dk_at dksX3_errs_2 14 rfl rfl)
theorem dX3_errs_62 : decode cX3_errs 62 = .ok (.invokevirtual 121, 3) := dk_182 0 121 (dk_at dksX3_errs_2 17 rfl rfl)
theorem dX3_errs_65 : decode cX3_errs 65 = .ok (.pop, 1) := dk_87 (dk_at dksX3_errs_2 20 rfl rfl)
theorem dX3_errs_66 : decode cX3_errs 66 = .ok (.iload 7, 2) := dk_21 7 (dk_at dksX3_errs_2 21 rfl rfl)
theorem dX3_errs_68 : decode cX3_errs 68 = .ok (.iload 4, 2) := dk_21 4 (dk_at dksX3_errs_3 0 rfl rfl)
theorem dX3_errs_70 : decode cX3_errs 70 = .ok (.iadd, 1) := dk_96 (dk_at dksX3_errs_3 2 rfl rfl)
theorem dX3_errs_71 : decode cX3_errs 71 = .ok (.istore 7, 2) := dk_54 7 (dk_at dksX3_errs_3 3 rfl rfl)
theorem dX3_errs_73 : decode cX3_errs 73 = .ok (.aload_n 0, 1) := dk_42 (dk_at dksX3_errs_3 5 rfl rfl)
theorem dX3_errs_74 : decode cX3_errs 74 = .ok (.bipush 8, 2) := dk_16 8 (dk_at dksX3_errs_3 6 rfl rfl)
theorem dX3_errs_76 : decode cX3_errs 76 = .ok (.invokevirtual 211, 3) := dk_182 0 211 (dk_at dksX3_errs_3 8 rfl rfl)
theorem dX3_errs_79 : decode cX3_errs 79 = .ok (.iload 8, 2) := dk_21 8 (dk_at dksX3_errs_3 11 rfl rfl)
theorem dX3_errs_81 : decode cX3_errs 81 = .ok (.isub, 1) := dk_100 (dk_at dksX3_errs_3 13 rfl rfl)
theorem dX3_errs_82 : decode cX3_errs 82 = .ok (.invokestatic 269, 3) := dk_184 1 13 (dk_at dksX3_errs_3 14 rfl rfl)
theorem dX3_errs_85 : decode cX3_errs 85 = .ok (.istore 9, 2) := dk_54 9 (dk_at dksX3_errs_3 17 rfl rfl)
theorem dX3_errs_87 : decode cX3_errs 87 = .ok (.iload 9, 2) := dk_21 9 (dk_at dksX3_errs_3 19 rfl rfl)
theorem dX3_errs_89 : decode cX3_errs 89 = .ok (.iload 5, 2) := dk_21 5 (dk_at dksX3_errs_3 21 rfl rfl)
theorem dX3_errs_91 : decode cX3_errs 91 = .ok (.if_icmp .gt 6, 3) := dk_163 0 6 (dk_at dksX3_errs_4 0 rfl rfl)
theorem dX3_errs_94 : decode cX3_errs 94 = .ok (.goto 11, 3) := dk_167 0 11 (dk_at dksX3_errs_4 3 rfl rfl)
theorem dX3_errs_97 : decode cX3_errs 97 = .ok (.iload 9, 2) := dk_21 9 (dk_at dksX3_errs_4 6 rfl rfl)
theorem dX3_errs_99 : decode cX3_errs 99 = .ok (.istore 5, 2) := dk_54 5 (dk_at dksX3_errs_4 8 rfl rfl)
theorem dX3_errs_101 : decode cX3_errs 101 = .ok (.iload 8, 2) := dk_21 8 (dk_at dksX3_errs_4 10 rfl rfl)
theorem dX3_errs_103 : decode cX3_errs 103 = .ok (.istore 6, 2) := dk_54 6 (dk_at dksX3_errs_4 12 rfl rfl)
theorem dX3_errs_105 : decode cX3_errs 105 = .ok (.iinc 8 1, 3) := dk_132 8 1 (dk_at dksX3_errs_4 14 rfl rfl)
theorem dX3_errs_108 : decode cX3_errs 108 = .ok (.goto (-61), 3) := dk_167 255 195 (dk_at dksX3_errs_4 17 rfl rfl)
theorem dX3_errs_111 : decode cX3_errs 111 = .ok (.aload_n 0, 1) := dk_42 (dk_at dksX3_errs_4 20 rfl rfl)
theorem dX3_errs_112 : decode cX3_errs 112 = .ok (.iconst 0, 1) := dk_3 (dk_at dksX3_errs_4 21 rfl rfl)
theorem dX3_errs_113 : decode cX3_errs 113 = .ok (.putfield 54, 3) := dk_181 0 54 (dk_at dksX3_errs_5 0 rfl rfl)
theorem dX3_errs_116 : decode cX3_errs 116 = .ok (.aload_n 0, 1) := dk_42 (dk_at dksX3_errs_5 3 rfl rfl)
theorem dX3_errs_117 : decode cX3_errs 117 = .ok (.iload 6, 2) := dk_21 6 (dk_at dksX3_errs_5 4 rfl rfl)
theorem dX3_errs_119 : decode cX3_errs 119 = .ok (.i2l, 1) := dk_133 (dk_at dksX3_errs_5 6 rfl rfl)
theorem dX3_errs_120 : decode cX3_errs 120 = .ok (.invokevirtual 81, 3) := dk_182 0 81 (dk_at dksX3_errs_5 7 rfl rfl)
theorem dX3_errs_123 : decode cX3_errs 123 = .ok (.aload_n 0, 1) := dk_42 (dk_at dksX3_errs_5 10 rfl rfl)
theorem dX3_errs_124 : decode cX3_errs 124 = .ok (.aload_n 0, 1) := dk_42 (dk_at dksX3_errs_5 11 rfl rfl)
theorem dX3_errs_125 : decode cX3_errs 125 = .ok (.bipush 8, 2) := dk_16 8 (dk_at dksX3_errs_5 12 rfl rfl)
theorem dX3_errs_127 : decode cX3_errs 127 = .ok (.invokevirtual 211, 3) := dk_182 0 211 (dk_at dksX3_errs_5 14 rfl rfl)
theorem dX3_errs_130 : decode cX3_errs 130 = .ok (.i2l, 1) := dk_133 (dk_at dksX3_errs_5 17 rfl rfl)
theorem dX3_errs_131 : decode cX3_errs 131 = .ok (.invokevirtual 81, 3) := dk_182 0 81 (dk_at dksX3_errs_5 18 rfl rfl)
theorem dX3_errs_134 : decode cX3_errs 134 = .ok (.iload 5, 2) := dk_21 5 (dk_at dksX3_errs_5 21 rfl rfl)
theorem dX3_errs_136 : decode cX3_errs 136 = .ok (.ireturn, 1) := dk_172 (dk_at dksX3_errs_5 23 rfl rfl)
abbrev cX3_isRun : ByteArray := prog_10_method_97_code
def yX3_isRun : MethodName := ⟨RX3, "isRun", "(II)Z"⟩
def dkwX3_isRun_0 : List UInt8 := [26, 133, 10, 20, 0, 124, 184, 0, 60, 153, 0, 11, 27, 153, 0, 7, 4, 167, 0, 4, 3, 172]
abbrev dktX3_isRun_0 : List UInt8 := dkwX3_isRun_0 ++ []
theorem dksX3_isRun_0 : cX3_isRun.data.toList.drop 0 = dktX3_isRun_0 := by decide +kernel
theorem dX3_isRun_0 : decode cX3_isRun 0 = .ok (.iload_n 0, 1) := dk_26 (dk_at dksX3_isRun_0 0 rfl rfl)
theorem dX3_isRun_1 : decode cX3_isRun 1 = .ok (.i2l, 1) := dk_133 (dk_at dksX3_isRun_0 1 rfl rfl)
theorem dX3_isRun_2 : decode cX3_isRun 2 = .ok (.lconst 1, 1) := dk_10 (dk_at dksX3_isRun_0 2 rfl rfl)
theorem dX3_isRun_3 : decode cX3_isRun 3 = .ok (.ldc2_w 124, 3) := dk_20 0 124 (dk_at dksX3_isRun_0 3 rfl rfl)
theorem dX3_isRun_6 : decode cX3_isRun 6 = .ok (.invokestatic 60, 3) := dk_184 0 60 (dk_at dksX3_isRun_0 6 rfl rfl)
theorem dX3_isRun_9 : decode cX3_isRun 9 = .ok (.ifCond .eq 11, 3) := dk_153 0 11 (dk_at dksX3_isRun_0 9 rfl rfl)
theorem dX3_isRun_12 : decode cX3_isRun 12 = .ok (.iload_n 1, 1) := dk_27 (dk_at dksX3_isRun_0 12 rfl rfl)
theorem dX3_isRun_13 : decode cX3_isRun 13 = .ok (.ifCond .eq 7, 3) := dk_153 0 7 (dk_at dksX3_isRun_0 13 rfl rfl)
theorem dX3_isRun_16 : decode cX3_isRun 16 = .ok (.iconst 1, 1) := dk_4 (dk_at dksX3_isRun_0 16 rfl rfl)
theorem dX3_isRun_17 : decode cX3_isRun 17 = .ok (.goto 4, 3) := dk_167 0 4 (dk_at dksX3_isRun_0 17 rfl rfl)
theorem dX3_isRun_20 : decode cX3_isRun 20 = .ok (.iconst 0, 1) := dk_3 (dk_at dksX3_isRun_0 20 rfl rfl)
theorem dX3_isRun_21 : decode cX3_isRun 21 = .ok (.ireturn, 1) := dk_172 (dk_at dksX3_isRun_0 21 rfl rfl)
abbrev cX3_opensTrial : ByteArray := prog_10_method_96_code
def yX3_opensTrial : MethodName := ⟨RX3, "opensTrial", "(I)V"⟩
def dkwX3_opensTrial_0 : List UInt8 := [42, 16, 8, 27, 4, 182, 0, 47, 42, 16, 8, 182, 0, 107, 177]
abbrev dktX3_opensTrial_0 : List UInt8 := dkwX3_opensTrial_0 ++ []
theorem dksX3_opensTrial_0 : cX3_opensTrial.data.toList.drop 0 = dktX3_opensTrial_0 := by decide +kernel
theorem dX3_opensTrial_0 : decode cX3_opensTrial 0 = .ok (.aload_n 0, 1) := dk_42 (dk_at dksX3_opensTrial_0 0 rfl rfl)
theorem dX3_opensTrial_1 : decode cX3_opensTrial 1 = .ok (.bipush 8, 2) := dk_16 8 (dk_at dksX3_opensTrial_0 1 rfl rfl)
theorem dX3_opensTrial_3 : decode cX3_opensTrial 3 = .ok (.iload_n 1, 1) := dk_27 (dk_at dksX3_opensTrial_0 3 rfl rfl)
theorem dX3_opensTrial_4 : decode cX3_opensTrial 4 = .ok (.iconst 1, 1) := dk_4 (dk_at dksX3_opensTrial_0 4 rfl rfl)
theorem dX3_opensTrial_5 : decode cX3_opensTrial 5 = .ok (.invokevirtual 47, 3) := dk_182 0 47 (dk_at dksX3_opensTrial_0 5 rfl rfl)
theorem dX3_opensTrial_8 : decode cX3_opensTrial 8 = .ok (.aload_n 0, 1) := dk_42 (dk_at dksX3_opensTrial_0 8 rfl rfl)
theorem dX3_opensTrial_9 : decode cX3_opensTrial 9 = .ok (.bipush 8, 2) := dk_16 8 (dk_at dksX3_opensTrial_0 9 rfl rfl)
theorem dX3_opensTrial_11 : decode cX3_opensTrial 11 = .ok (.invokevirtual 107, 3) := dk_182 0 107 (dk_at dksX3_opensTrial_0 11 rfl rfl)
theorem dX3_opensTrial_14 : decode cX3_opensTrial 14 = .ok (.return_, 1) := dk_177 (dk_at dksX3_opensTrial_0 14 rfl rfl)
abbrev cX3_least : ByteArray := prog_10_method_99_code
def yX3_least : MethodName := ⟨RX3, "least", "(IIII)I"⟩
def dkwX3_least_3 : List UInt8 := [181, 0, 54, 42, 21, 6, 133, 182, 0, 81, 21, 5, 172, 132, 5, 1, 167, 255, 192, 16, 254, 172]
abbrev dktX3_least_3 : List UInt8 := dkwX3_least_3 ++ []
def dkwX3_least_2 : List UInt8 := [16, 8, 182, 0, 211, 28, 100, 184, 1, 13, 54, 6, 21, 6, 21, 4, 164, 0, 6, 167, 0, 18, 42, 3]
abbrev dktX3_least_2 : List UInt8 := dkwX3_least_2 ++ dktX3_least_3
def dkwX3_least_1 : List UInt8 := [21, 5, 16, 8, 163, 0, 63, 42, 21, 5, 182, 1, 19, 42, 16, 8, 27, 28, 29, 182, 0, 126, 87, 42]
abbrev dktX3_least_1 : List UInt8 := dkwX3_least_1 ++ dktX3_least_2
def dkwX3_least_0 : List UInt8 := [42, 3, 181, 0, 51, 28, 29, 184, 1, 16, 153, 0, 8, 21, 4, 156, 0, 5, 2, 172, 7, 54, 5]
abbrev dktX3_least_0 : List UInt8 := dkwX3_least_0 ++ dktX3_least_1
theorem dksX3_least_0 : cX3_least.data.toList.drop 0 = dktX3_least_0 := by decide +kernel
theorem dksX3_least_1 : cX3_least.data.toList.drop 23 = dktX3_least_1 := dk_seg dksX3_least_0 23 rfl rfl
theorem dksX3_least_2 : cX3_least.data.toList.drop 47 = dktX3_least_2 := dk_seg dksX3_least_1 24 rfl rfl
theorem dksX3_least_3 : cX3_least.data.toList.drop 71 = dktX3_least_3 := dk_seg dksX3_least_2 24 rfl rfl
theorem dX3_least_0 : decode cX3_least 0 = .ok (.aload_n 0, 1) := dk_42 (dk_at dksX3_least_0 0 rfl rfl)
theorem dX3_least_1 : decode cX3_least 1 = .ok (.iconst 0, 1) := dk_3 (dk_at dksX3_least_0 1 rfl rfl)
theorem dX3_least_2 : decode cX3_least 2 = .ok (.putfield 51, 3) := dk_181 0 51 (dk_at dksX3_least_0 2 rfl rfl)
theorem dX3_least_5 : decode cX3_least 5 = .ok (.iload_n 2, 1) := dk_28 (dk_at dksX3_least_0 5 rfl rfl)
theorem dX3_least_6 : decode cX3_least 6 = .ok (.iload_n 3, 1) := dk_29 (dk_at dksX3_least_0 6 rfl rfl)
theorem dX3_least_7 : decode cX3_least 7 = .ok (.invokestatic 272, 3) := dk_184 1 16 (dk_at dksX3_least_0 7 rfl rfl)
theorem dX3_least_10 : decode cX3_least 10 = .ok (.ifCond .eq 8, 3) := dk_153 0 8 (dk_at dksX3_least_0 10 rfl rfl)
theorem dX3_least_13 : decode cX3_least 13 = .ok (.iload 4, 2) := dk_21 4 (dk_at dksX3_least_0 13 rfl rfl)
theorem dX3_least_15 : decode cX3_least 15 = .ok (.ifCond .ge 5, 3) := dk_156 0 5 (dk_at dksX3_least_0 15 rfl rfl)
theorem dX3_least_18 : decode cX3_least 18 = .ok (.iconst (-1), 1) := dk_2 (dk_at dksX3_least_0 18 rfl rfl)
theorem dX3_least_19 : decode cX3_least 19 = .ok (.ireturn, 1) := dk_172 (dk_at dksX3_least_0 19 rfl rfl)
theorem dX3_least_20 : decode cX3_least 20 = .ok (.iconst 4, 1) := dk_7 (dk_at dksX3_least_0 20 rfl rfl)
theorem dX3_least_21 : decode cX3_least 21 = .ok (.istore 5, 2) := dk_54 5 (dk_at dksX3_least_0 21 rfl rfl)
theorem dX3_least_23 : decode cX3_least 23 = .ok (.iload 5, 2) := dk_21 5 (dk_at dksX3_least_1 0 rfl rfl)
theorem dX3_least_25 : decode cX3_least 25 = .ok (.bipush 8, 2) := dk_16 8 (dk_at dksX3_least_1 2 rfl rfl)
theorem dX3_least_27 : decode cX3_least 27 = .ok (.if_icmp .gt 63, 3) := dk_163 0 63 (dk_at dksX3_least_1 4 rfl rfl)
theorem dX3_least_30 : decode cX3_least 30 = .ok (.aload_n 0, 1) := dk_42 (dk_at dksX3_least_1 7 rfl rfl)
theorem dX3_least_31 : decode cX3_least 31 = .ok (.iload 5, 2) := dk_21 5 (dk_at dksX3_least_1 8 rfl rfl)
theorem dX3_least_33 : decode cX3_least 33 = .ok (.invokevirtual 275, 3) := dk_182 1 19 (dk_at dksX3_least_1 10 rfl rfl)
theorem dX3_least_36 : decode cX3_least 36 = .ok (.aload_n 0, 1) := dk_42 (dk_at dksX3_least_1 13 rfl rfl)
theorem dX3_least_37 : decode cX3_least 37 = .ok (.bipush 8, 2) := dk_16 8 (dk_at dksX3_least_1 14 rfl rfl)
theorem dX3_least_39 : decode cX3_least 39 = .ok (.iload_n 1, 1) := dk_27 (dk_at dksX3_least_1 16 rfl rfl)
theorem dX3_least_40 : decode cX3_least 40 = .ok (.iload_n 2, 1) := dk_28 (dk_at dksX3_least_1 17 rfl rfl)
theorem dX3_least_41 : decode cX3_least 41 = .ok (.iload_n 3, 1) := dk_29 (dk_at dksX3_least_1 18 rfl rfl)
theorem dX3_least_42 : decode cX3_least 42 = .ok (.invokevirtual 126, 3) := dk_182 0 126 (dk_at dksX3_least_1 19 rfl rfl)
theorem dX3_least_45 : decode cX3_least 45 = .ok (.pop, 1) := dk_87 (dk_at dksX3_least_1 22 rfl rfl)
theorem dX3_least_46 : decode cX3_least 46 = .ok (.aload_n 0, 1) := dk_42 (dk_at dksX3_least_1 23 rfl rfl)
theorem dX3_least_47 : decode cX3_least 47 = .ok (.bipush 8, 2) := dk_16 8 (dk_at dksX3_least_2 0 rfl rfl)
theorem dX3_least_49 : decode cX3_least 49 = .ok (.invokevirtual 211, 3) := dk_182 0 211 (dk_at dksX3_least_2 2 rfl rfl)
theorem dX3_least_52 : decode cX3_least 52 = .ok (.iload_n 2, 1) := dk_28 (dk_at dksX3_least_2 5 rfl rfl)
theorem dX3_least_53 : decode cX3_least 53 = .ok (.isub, 1) := dk_100 (dk_at dksX3_least_2 6 rfl rfl)
theorem dX3_least_54 : decode cX3_least 54 = .ok (.invokestatic 269, 3) := dk_184 1 13 (dk_at dksX3_least_2 7 rfl rfl)
theorem dX3_least_57 : decode cX3_least 57 = .ok (.istore 6, 2) := dk_54 6 (dk_at dksX3_least_2 10 rfl rfl)
theorem dX3_least_59 : decode cX3_least 59 = .ok (.iload 6, 2) := dk_21 6 (dk_at dksX3_least_2 12 rfl rfl)
theorem dX3_least_61 : decode cX3_least 61 = .ok (.iload 4, 2) := dk_21 4 (dk_at dksX3_least_2 14 rfl rfl)
theorem dX3_least_63 : decode cX3_least 63 = .ok (.if_icmp .le 6, 3) := dk_164 0 6 (dk_at dksX3_least_2 16 rfl rfl)
theorem dX3_least_66 : decode cX3_least 66 = .ok (.goto 18, 3) := dk_167 0 18 (dk_at dksX3_least_2 19 rfl rfl)
theorem dX3_least_69 : decode cX3_least 69 = .ok (.aload_n 0, 1) := dk_42 (dk_at dksX3_least_2 22 rfl rfl)
theorem dX3_least_70 : decode cX3_least 70 = .ok (.iconst 0, 1) := dk_3 (dk_at dksX3_least_2 23 rfl rfl)
theorem dX3_least_71 : decode cX3_least 71 = .ok (.putfield 54, 3) := dk_181 0 54 (dk_at dksX3_least_3 0 rfl rfl)
theorem dX3_least_74 : decode cX3_least 74 = .ok (.aload_n 0, 1) := dk_42 (dk_at dksX3_least_3 3 rfl rfl)
theorem dX3_least_75 : decode cX3_least 75 = .ok (.iload 6, 2) := dk_21 6 (dk_at dksX3_least_3 4 rfl rfl)
theorem dX3_least_77 : decode cX3_least 77 = .ok (.i2l, 1) := dk_133 (dk_at dksX3_least_3 6 rfl rfl)
theorem dX3_least_78 : decode cX3_least 78 = .ok (.invokevirtual 81, 3) := dk_182 0 81 (dk_at dksX3_least_3 7 rfl rfl)
theorem dX3_least_81 : decode cX3_least 81 = .ok (.iload 5, 2) := dk_21 5 (dk_at dksX3_least_3 10 rfl rfl)
theorem dX3_least_83 : decode cX3_least 83 = .ok (.ireturn, 1) := dk_172 (dk_at dksX3_least_3 12 rfl rfl)
theorem dX3_least_84 : decode cX3_least 84 = .ok (.iinc 5 1, 3) := dk_132 5 1 (dk_at dksX3_least_3 13 rfl rfl)
theorem dX3_least_87 : decode cX3_least 87 = .ok (.goto (-64), 3) := dk_167 255 192 (dk_at dksX3_least_3 16 rfl rfl)
theorem dX3_least_90 : decode cX3_least 90 = .ok (.bipush (-2), 2) := dk_16 254 (dk_at dksX3_least_3 19 rfl rfl)
theorem dX3_least_92 : decode cX3_least 92 = .ok (.ireturn, 1) := dk_172 (dk_at dksX3_least_3 21 rfl rfl)
abbrev cX3_expects : ByteArray := prog_10_method_100_code
def yX3_expects : MethodName := ⟨RX3, "expects", "(II)I"⟩
def dkwX3_expects_3 : List UInt8 := [21, 4, 172]
abbrev dktX3_expects_3 : List UInt8 := dkwX3_expects_3 ++ []
def dkwX3_expects_2 : List UInt8 := [54, 5, 21, 5, 28, 162, 0, 18, 21, 4, 21, 4, 29, 108, 100, 54, 4, 132, 5, 1, 167, 255, 238]
abbrev dktX3_expects_2 : List UInt8 := dkwX3_expects_2 ++ dktX3_expects_3
def dkwX3_expects_1 : List UInt8 := [20, 1, 22, 184, 0, 60, 154, 0, 5, 2, 172, 4, 27, 120, 62, 17, 3, 232, 29, 104, 54, 4, 3]
abbrev dktX3_expects_1 : List UInt8 := dkwX3_expects_1 ++ dktX3_expects_2
def dkwX3_expects_0 : List UInt8 := [42, 3, 181, 0, 51, 27, 133, 20, 0, 73, 20, 0, 75, 184, 0, 60, 153, 0, 15, 28, 133, 9]
abbrev dktX3_expects_0 : List UInt8 := dkwX3_expects_0 ++ dktX3_expects_1
theorem dksX3_expects_0 : cX3_expects.data.toList.drop 0 = dktX3_expects_0 := by decide +kernel
theorem dksX3_expects_1 : cX3_expects.data.toList.drop 22 = dktX3_expects_1 := dk_seg dksX3_expects_0 22 rfl rfl
theorem dksX3_expects_2 : cX3_expects.data.toList.drop 45 = dktX3_expects_2 := dk_seg dksX3_expects_1 23 rfl rfl
theorem dksX3_expects_3 : cX3_expects.data.toList.drop 68 = dktX3_expects_3 := dk_seg dksX3_expects_2 23 rfl rfl
theorem dX3_expects_0 : decode cX3_expects 0 = .ok (.aload_n 0, 1) := dk_42 (dk_at dksX3_expects_0 0 rfl rfl)
theorem dX3_expects_1 : decode cX3_expects 1 = .ok (.iconst 0, 1) := dk_3 (dk_at dksX3_expects_0 1 rfl rfl)
theorem dX3_expects_2 : decode cX3_expects 2 = .ok (.putfield 51, 3) := dk_181 0 51 (dk_at dksX3_expects_0 2 rfl rfl)
theorem dX3_expects_5 : decode cX3_expects 5 = .ok (.iload_n 1, 1) := dk_27 (dk_at dksX3_expects_0 5 rfl rfl)
theorem dX3_expects_6 : decode cX3_expects 6 = .ok (.i2l, 1) := dk_133 (dk_at dksX3_expects_0 6 rfl rfl)
theorem dX3_expects_7 : decode cX3_expects 7 = .ok (.ldc2_w 73, 3) := dk_20 0 73 (dk_at dksX3_expects_0 7 rfl rfl)
theorem dX3_expects_10 : decode cX3_expects 10 = .ok (.ldc2_w 75, 3) := dk_20 0 75 (dk_at dksX3_expects_0 10 rfl rfl)
theorem dX3_expects_13 : decode cX3_expects 13 = .ok (.invokestatic 60, 3) := dk_184 0 60 (dk_at dksX3_expects_0 13 rfl rfl)
theorem dX3_expects_16 : decode cX3_expects 16 = .ok (.ifCond .eq 15, 3) := dk_153 0 15 (dk_at dksX3_expects_0 16 rfl rfl)
theorem dX3_expects_19 : decode cX3_expects 19 = .ok (.iload_n 2, 1) := dk_28 (dk_at dksX3_expects_0 19 rfl rfl)
theorem dX3_expects_20 : decode cX3_expects 20 = .ok (.i2l, 1) := dk_133 (dk_at dksX3_expects_0 20 rfl rfl)
theorem dX3_expects_21 : decode cX3_expects 21 = .ok (.lconst 0, 1) := dk_9 (dk_at dksX3_expects_0 21 rfl rfl)
theorem dX3_expects_22 : decode cX3_expects 22 = .ok (.ldc2_w 278, 3) := dk_20 1 22 (dk_at dksX3_expects_1 0 rfl rfl)
theorem dX3_expects_25 : decode cX3_expects 25 = .ok (.invokestatic 60, 3) := dk_184 0 60 (dk_at dksX3_expects_1 3 rfl rfl)
theorem dX3_expects_28 : decode cX3_expects 28 = .ok (.ifCond .ne 5, 3) := dk_154 0 5 (dk_at dksX3_expects_1 6 rfl rfl)
theorem dX3_expects_31 : decode cX3_expects 31 = .ok (.iconst (-1), 1) := dk_2 (dk_at dksX3_expects_1 9 rfl rfl)
theorem dX3_expects_32 : decode cX3_expects 32 = .ok (.ireturn, 1) := dk_172 (dk_at dksX3_expects_1 10 rfl rfl)
theorem dX3_expects_33 : decode cX3_expects 33 = .ok (.iconst 1, 1) := dk_4 (dk_at dksX3_expects_1 11 rfl rfl)
theorem dX3_expects_34 : decode cX3_expects 34 = .ok (.iload_n 1, 1) := dk_27 (dk_at dksX3_expects_1 12 rfl rfl)
theorem dX3_expects_35 : decode cX3_expects 35 = .ok (.ishl, 1) := dk_120 (dk_at dksX3_expects_1 13 rfl rfl)
theorem dX3_expects_36 : decode cX3_expects 36 = .ok (.istore_n 3, 1) := dk_62 (dk_at dksX3_expects_1 14 rfl rfl)
theorem dX3_expects_37 : decode cX3_expects 37 = .ok (.sipush 1000, 3) := dk_17 3 232 (dk_at dksX3_expects_1 15 rfl rfl)
theorem dX3_expects_40 : decode cX3_expects 40 = .ok (.iload_n 3, 1) := dk_29 (dk_at dksX3_expects_1 18 rfl rfl)
theorem dX3_expects_41 : decode cX3_expects 41 = .ok (.imul, 1) := dk_104 (dk_at dksX3_expects_1 19 rfl rfl)
theorem dX3_expects_42 : decode cX3_expects 42 = .ok (.istore 4, 2) := dk_54 4 (dk_at dksX3_expects_1 20 rfl rfl)
theorem dX3_expects_44 : decode cX3_expects 44 = .ok (.iconst 0, 1) := dk_3 (dk_at dksX3_expects_1 22 rfl rfl)
theorem dX3_expects_45 : decode cX3_expects 45 = .ok (.istore 5, 2) := dk_54 5 (dk_at dksX3_expects_2 0 rfl rfl)
theorem dX3_expects_47 : decode cX3_expects 47 = .ok (.iload 5, 2) := dk_21 5 (dk_at dksX3_expects_2 2 rfl rfl)
theorem dX3_expects_49 : decode cX3_expects 49 = .ok (.iload_n 2, 1) := dk_28 (dk_at dksX3_expects_2 4 rfl rfl)
theorem dX3_expects_50 : decode cX3_expects 50 = .ok (.if_icmp .ge 18, 3) := dk_162 0 18 (dk_at dksX3_expects_2 5 rfl rfl)
theorem dX3_expects_53 : decode cX3_expects 53 = .ok (.iload 4, 2) := dk_21 4 (dk_at dksX3_expects_2 8 rfl rfl)
theorem dX3_expects_55 : decode cX3_expects 55 = .ok (.iload 4, 2) := dk_21 4 (dk_at dksX3_expects_2 10 rfl rfl)
theorem dX3_expects_57 : decode cX3_expects 57 = .ok (.iload_n 3, 1) := dk_29 (dk_at dksX3_expects_2 12 rfl rfl)
theorem dX3_expects_58 : decode cX3_expects 58 = .ok (.idiv, 1) := dk_108 (dk_at dksX3_expects_2 13 rfl rfl)
theorem dX3_expects_59 : decode cX3_expects 59 = .ok (.isub, 1) := dk_100 (dk_at dksX3_expects_2 14 rfl rfl)
theorem dX3_expects_60 : decode cX3_expects 60 = .ok (.istore 4, 2) := dk_54 4 (dk_at dksX3_expects_2 15 rfl rfl)
theorem dX3_expects_62 : decode cX3_expects 62 = .ok (.iinc 5 1, 3) := dk_132 5 1 (dk_at dksX3_expects_2 17 rfl rfl)
theorem dX3_expects_65 : decode cX3_expects 65 = .ok (.goto (-18), 3) := dk_167 255 238 (dk_at dksX3_expects_2 20 rfl rfl)
theorem dX3_expects_68 : decode cX3_expects 68 = .ok (.iload 4, 2) := dk_21 4 (dk_at dksX3_expects_3 0 rfl rfl)
theorem dX3_expects_70 : decode cX3_expects 70 = .ok (.ireturn, 1) := dk_172 (dk_at dksX3_expects_3 2 rfl rfl)
abbrev cX3_things : ByteArray := prog_10_method_101_code
def yX3_things : MethodName := ⟨RX3, "things", "(II)I"⟩
def dkwX3_things_3 : List UInt8 := [16, 254, 172]
abbrev dktX3_things_3 : List UInt8 := dkwX3_things_3 ++ []
def dkwX3_things_2 : List UInt8 := [21, 4, 28, 163, 0, 6, 21, 5, 172, 21, 4, 21, 4, 29, 108, 100, 54, 4, 132, 5, 1, 167, 255, 227]
abbrev dktX3_things_2 : List UInt8 := dkwX3_things_2 ++ dktX3_things_3
def dkwX3_things_1 : List UInt8 := [172, 4, 27, 120, 62, 17, 3, 232, 29, 104, 54, 4, 3, 54, 5, 21, 5, 19, 1, 24, 163, 0, 27]
abbrev dktX3_things_1 : List UInt8 := dkwX3_things_1 ++ dktX3_things_2
def dkwX3_things_0 : List UInt8 := [42, 3, 181, 0, 51, 27, 133, 20, 0, 73, 20, 0, 75, 184, 0, 60, 153, 0, 7, 28, 156, 0, 5, 2]
abbrev dktX3_things_0 : List UInt8 := dkwX3_things_0 ++ dktX3_things_1
theorem dksX3_things_0 : cX3_things.data.toList.drop 0 = dktX3_things_0 := by decide +kernel
theorem dksX3_things_1 : cX3_things.data.toList.drop 24 = dktX3_things_1 := dk_seg dksX3_things_0 24 rfl rfl
theorem dksX3_things_2 : cX3_things.data.toList.drop 47 = dktX3_things_2 := dk_seg dksX3_things_1 23 rfl rfl
theorem dksX3_things_3 : cX3_things.data.toList.drop 71 = dktX3_things_3 := dk_seg dksX3_things_2 24 rfl rfl
theorem dX3_things_0 : decode cX3_things 0 = .ok (.aload_n 0, 1) := dk_42 (dk_at dksX3_things_0 0 rfl rfl)
theorem dX3_things_1 : decode cX3_things 1 = .ok (.iconst 0, 1) := dk_3 (dk_at dksX3_things_0 1 rfl rfl)
theorem dX3_things_2 : decode cX3_things 2 = .ok (.putfield 51, 3) := dk_181 0 51 (dk_at dksX3_things_0 2 rfl rfl)
theorem dX3_things_5 : decode cX3_things 5 = .ok (.iload_n 1, 1) := dk_27 (dk_at dksX3_things_0 5 rfl rfl)
theorem dX3_things_6 : decode cX3_things 6 = .ok (.i2l, 1) := dk_133 (dk_at dksX3_things_0 6 rfl rfl)
theorem dX3_things_7 : decode cX3_things 7 = .ok (.ldc2_w 73, 3) := dk_20 0 73 (dk_at dksX3_things_0 7 rfl rfl)
theorem dX3_things_10 : decode cX3_things 10 = .ok (.ldc2_w 75, 3) := dk_20 0 75 (dk_at dksX3_things_0 10 rfl rfl)
theorem dX3_things_13 : decode cX3_things 13 = .ok (.invokestatic 60, 3) := dk_184 0 60 (dk_at dksX3_things_0 13 rfl rfl)
theorem dX3_things_16 : decode cX3_things 16 = .ok (.ifCond .eq 7, 3) := dk_153 0 7 (dk_at dksX3_things_0 16 rfl rfl)
theorem dX3_things_19 : decode cX3_things 19 = .ok (.iload_n 2, 1) := dk_28 (dk_at dksX3_things_0 19 rfl rfl)
theorem dX3_things_20 : decode cX3_things 20 = .ok (.ifCond .ge 5, 3) := dk_156 0 5 (dk_at dksX3_things_0 20 rfl rfl)
theorem dX3_things_23 : decode cX3_things 23 = .ok (.iconst (-1), 1) := dk_2 (dk_at dksX3_things_0 23 rfl rfl)
theorem dX3_things_24 : decode cX3_things 24 = .ok (.ireturn, 1) := dk_172 (dk_at dksX3_things_1 0 rfl rfl)
theorem dX3_things_25 : decode cX3_things 25 = .ok (.iconst 1, 1) := dk_4 (dk_at dksX3_things_1 1 rfl rfl)
theorem dX3_things_26 : decode cX3_things 26 = .ok (.iload_n 1, 1) := dk_27 (dk_at dksX3_things_1 2 rfl rfl)
theorem dX3_things_27 : decode cX3_things 27 = .ok (.ishl, 1) := dk_120 (dk_at dksX3_things_1 3 rfl rfl)
theorem dX3_things_28 : decode cX3_things 28 = .ok (.istore_n 3, 1) := dk_62 (dk_at dksX3_things_1 4 rfl rfl)
theorem dX3_things_29 : decode cX3_things 29 = .ok (.sipush 1000, 3) := dk_17 3 232 (dk_at dksX3_things_1 5 rfl rfl)
theorem dX3_things_32 : decode cX3_things 32 = .ok (.iload_n 3, 1) := dk_29 (dk_at dksX3_things_1 8 rfl rfl)
theorem dX3_things_33 : decode cX3_things 33 = .ok (.imul, 1) := dk_104 (dk_at dksX3_things_1 9 rfl rfl)
theorem dX3_things_34 : decode cX3_things 34 = .ok (.istore 4, 2) := dk_54 4 (dk_at dksX3_things_1 10 rfl rfl)
theorem dX3_things_36 : decode cX3_things 36 = .ok (.iconst 0, 1) := dk_3 (dk_at dksX3_things_1 12 rfl rfl)
theorem dX3_things_37 : decode cX3_things 37 = .ok (.istore 5, 2) := dk_54 5 (dk_at dksX3_things_1 13 rfl rfl)
theorem dX3_things_39 : decode cX3_things 39 = .ok (.iload 5, 2) := dk_21 5 (dk_at dksX3_things_1 15 rfl rfl)
theorem dX3_things_41 : decode cX3_things 41 = .ok (.ldc_w 280, 3) := dk_19 1 24 (dk_at dksX3_things_1 17 rfl rfl)
theorem dX3_things_44 : decode cX3_things 44 = .ok (.if_icmp .gt 27, 3) := dk_163 0 27 (dk_at dksX3_things_1 20 rfl rfl)
theorem dX3_things_47 : decode cX3_things 47 = .ok (.iload 4, 2) := dk_21 4 (dk_at dksX3_things_2 0 rfl rfl)
theorem dX3_things_49 : decode cX3_things 49 = .ok (.iload_n 2, 1) := dk_28 (dk_at dksX3_things_2 2 rfl rfl)
theorem dX3_things_50 : decode cX3_things 50 = .ok (.if_icmp .gt 6, 3) := dk_163 0 6 (dk_at dksX3_things_2 3 rfl rfl)
theorem dX3_things_53 : decode cX3_things 53 = .ok (.iload 5, 2) := dk_21 5 (dk_at dksX3_things_2 6 rfl rfl)
theorem dX3_things_55 : decode cX3_things 55 = .ok (.ireturn, 1) := dk_172 (dk_at dksX3_things_2 8 rfl rfl)
theorem dX3_things_56 : decode cX3_things 56 = .ok (.iload 4, 2) := dk_21 4 (dk_at dksX3_things_2 9 rfl rfl)
theorem dX3_things_58 : decode cX3_things 58 = .ok (.iload 4, 2) := dk_21 4 (dk_at dksX3_things_2 11 rfl rfl)
theorem dX3_things_60 : decode cX3_things 60 = .ok (.iload_n 3, 1) := dk_29 (dk_at dksX3_things_2 13 rfl rfl)
theorem dX3_things_61 : decode cX3_things 61 = .ok (.idiv, 1) := dk_108 (dk_at dksX3_things_2 14 rfl rfl)
theorem dX3_things_62 : decode cX3_things 62 = .ok (.isub, 1) := dk_100 (dk_at dksX3_things_2 15 rfl rfl)
theorem dX3_things_63 : decode cX3_things 63 = .ok (.istore 4, 2) := dk_54 4 (dk_at dksX3_things_2 16 rfl rfl)
theorem dX3_things_65 : decode cX3_things 65 = .ok (.iinc 5 1, 3) := dk_132 5 1 (dk_at dksX3_things_2 18 rfl rfl)
theorem dX3_things_68 : decode cX3_things 68 = .ok (.goto (-29), 3) := dk_167 255 227 (dk_at dksX3_things_2 21 rfl rfl)
theorem dX3_things_71 : decode cX3_things 71 = .ok (.bipush (-2), 2) := dk_16 254 (dk_at dksX3_things_3 0 rfl rfl)
theorem dX3_things_73 : decode cX3_things 73 = .ok (.ireturn, 1) := dk_172 (dk_at dksX3_things_3 2 rfl rfl)
abbrev cX3_would : ByteArray := prog_10_method_102_code
def yX3_would : MethodName := ⟨RX3, "would", "(IIII)I"⟩
def dkwX3_would_3 : List UInt8 := [167, 0, 4, 9, 182, 0, 81, 42, 16, 8, 182, 0, 211, 172]
abbrev dktX3_would_3 : List UInt8 := dkwX3_would_3 ++ []
def dkwX3_would_2 : List UInt8 := [181, 0, 54, 42, 21, 5, 133, 182, 0, 81, 42, 42, 180, 0, 16, 16, 8, 51, 153, 0, 7, 10]
abbrev dktX3_would_2 : List UInt8 := dkwX3_would_2 ++ dktX3_would_3
def dkwX3_would_1 : List UInt8 := [2, 172, 42, 27, 16, 8, 182, 0, 170, 42, 16, 8, 28, 29, 21, 4, 182, 0, 126, 54, 5, 42, 3]
abbrev dktX3_would_1 : List UInt8 := dkwX3_would_1 ++ dktX3_would_2
def dkwX3_would_0 : List UInt8 := [42, 3, 181, 0, 51, 27, 184, 0, 111, 153, 0, 15, 29, 133, 9, 20, 0, 124, 184, 0, 60, 154, 0, 5]
abbrev dktX3_would_0 : List UInt8 := dkwX3_would_0 ++ dktX3_would_1
theorem dksX3_would_0 : cX3_would.data.toList.drop 0 = dktX3_would_0 := by decide +kernel
theorem dksX3_would_1 : cX3_would.data.toList.drop 24 = dktX3_would_1 := dk_seg dksX3_would_0 24 rfl rfl
theorem dksX3_would_2 : cX3_would.data.toList.drop 47 = dktX3_would_2 := dk_seg dksX3_would_1 23 rfl rfl
theorem dksX3_would_3 : cX3_would.data.toList.drop 69 = dktX3_would_3 := dk_seg dksX3_would_2 22 rfl rfl
theorem dX3_would_0 : decode cX3_would 0 = .ok (.aload_n 0, 1) := dk_42 (dk_at dksX3_would_0 0 rfl rfl)
theorem dX3_would_1 : decode cX3_would 1 = .ok (.iconst 0, 1) := dk_3 (dk_at dksX3_would_0 1 rfl rfl)
theorem dX3_would_2 : decode cX3_would 2 = .ok (.putfield 51, 3) := dk_181 0 51 (dk_at dksX3_would_0 2 rfl rfl)
theorem dX3_would_5 : decode cX3_would 5 = .ok (.iload_n 1, 1) := dk_27 (dk_at dksX3_would_0 5 rfl rfl)
theorem dX3_would_6 : decode cX3_would 6 = .ok (.invokestatic 111, 3) := dk_184 0 111 (dk_at dksX3_would_0 6 rfl rfl)
theorem dX3_would_9 : decode cX3_would 9 = .ok (.ifCond .eq 15, 3) := dk_153 0 15 (dk_at dksX3_would_0 9 rfl rfl)
theorem dX3_would_12 : decode cX3_would 12 = .ok (.iload_n 3, 1) := dk_29 (dk_at dksX3_would_0 12 rfl rfl)
theorem dX3_would_13 : decode cX3_would 13 = .ok (.i2l, 1) := dk_133 (dk_at dksX3_would_0 13 rfl rfl)
theorem dX3_would_14 : decode cX3_would 14 = .ok (.lconst 0, 1) := dk_9 (dk_at dksX3_would_0 14 rfl rfl)
theorem dX3_would_15 : decode cX3_would 15 = .ok (.ldc2_w 124, 3) := dk_20 0 124 (dk_at dksX3_would_0 15 rfl rfl)
theorem dX3_would_18 : decode cX3_would 18 = .ok (.invokestatic 60, 3) := dk_184 0 60 (dk_at dksX3_would_0 18 rfl rfl)
theorem dX3_would_21 : decode cX3_would 21 = .ok (.ifCond .ne 5, 3) := dk_154 0 5 (dk_at dksX3_would_0 21 rfl rfl)
theorem dX3_would_24 : decode cX3_would 24 = .ok (.iconst (-1), 1) := dk_2 (dk_at dksX3_would_1 0 rfl rfl)
theorem dX3_would_25 : decode cX3_would 25 = .ok (.ireturn, 1) := dk_172 (dk_at dksX3_would_1 1 rfl rfl)
theorem dX3_would_26 : decode cX3_would 26 = .ok (.aload_n 0, 1) := dk_42 (dk_at dksX3_would_1 2 rfl rfl)
theorem dX3_would_27 : decode cX3_would 27 = .ok (.iload_n 1, 1) := dk_27 (dk_at dksX3_would_1 3 rfl rfl)
theorem dX3_would_28 : decode cX3_would 28 = .ok (.bipush 8, 2) := dk_16 8 (dk_at dksX3_would_1 4 rfl rfl)
theorem dX3_would_30 : decode cX3_would 30 = .ok (.invokevirtual 170, 3) := dk_182 0 170 (dk_at dksX3_would_1 6 rfl rfl)
theorem dX3_would_33 : decode cX3_would 33 = .ok (.aload_n 0, 1) := dk_42 (dk_at dksX3_would_1 9 rfl rfl)
theorem dX3_would_34 : decode cX3_would 34 = .ok (.bipush 8, 2) := dk_16 8 (dk_at dksX3_would_1 10 rfl rfl)
theorem dX3_would_36 : decode cX3_would 36 = .ok (.iload_n 2, 1) := dk_28 (dk_at dksX3_would_1 12 rfl rfl)
theorem dX3_would_37 : decode cX3_would 37 = .ok (.iload_n 3, 1) := dk_29 (dk_at dksX3_would_1 13 rfl rfl)
theorem dX3_would_38 : decode cX3_would 38 = .ok (.iload 4, 2) := dk_21 4 (dk_at dksX3_would_1 14 rfl rfl)
theorem dX3_would_40 : decode cX3_would 40 = .ok (.invokevirtual 126, 3) := dk_182 0 126 (dk_at dksX3_would_1 16 rfl rfl)
theorem dX3_would_43 : decode cX3_would 43 = .ok (.istore 5, 2) := dk_54 5 (dk_at dksX3_would_1 19 rfl rfl)
theorem dX3_would_45 : decode cX3_would 45 = .ok (.aload_n 0, 1) := dk_42 (dk_at dksX3_would_1 21 rfl rfl)
theorem dX3_would_46 : decode cX3_would 46 = .ok (.iconst 0, 1) := dk_3 (dk_at dksX3_would_1 22 rfl rfl)
theorem dX3_would_47 : decode cX3_would 47 = .ok (.putfield 54, 3) := dk_181 0 54 (dk_at dksX3_would_2 0 rfl rfl)
theorem dX3_would_50 : decode cX3_would 50 = .ok (.aload_n 0, 1) := dk_42 (dk_at dksX3_would_2 3 rfl rfl)
theorem dX3_would_51 : decode cX3_would 51 = .ok (.iload 5, 2) := dk_21 5 (dk_at dksX3_would_2 4 rfl rfl)
theorem dX3_would_53 : decode cX3_would 53 = .ok (.i2l, 1) := dk_133 (dk_at dksX3_would_2 6 rfl rfl)
theorem dX3_would_54 : decode cX3_would 54 = .ok (.invokevirtual 81, 3) := dk_182 0 81 (dk_at dksX3_would_2 7 rfl rfl)
theorem dX3_would_57 : decode cX3_would 57 = .ok (.aload_n 0, 1) := dk_42 (dk_at dksX3_would_2 10 rfl rfl)
theorem dX3_would_58 : decode cX3_would 58 = .ok (.aload_n 0, 1) := dk_42 (dk_at dksX3_would_2 11 rfl rfl)
theorem dX3_would_59 : decode cX3_would 59 = .ok (.getfield 16, 3) := dk_180 0 16 (dk_at dksX3_would_2 12 rfl rfl)
theorem dX3_would_62 : decode cX3_would 62 = .ok (.bipush 8, 2) := dk_16 8 (dk_at dksX3_would_2 15 rfl rfl)
theorem dX3_would_64 : decode cX3_would 64 = .ok (.baload, 1) := dk_51 (dk_at dksX3_would_2 17 rfl rfl)
theorem dX3_would_65 : decode cX3_would 65 = .ok (.ifCond .eq 7, 3) := dk_153 0 7 (dk_at dksX3_would_2 18 rfl rfl)
theorem dX3_would_68 : decode cX3_would 68 = .ok (.lconst 1, 1) := dk_10 (dk_at dksX3_would_2 21 rfl rfl)
theorem dX3_would_69 : decode cX3_would 69 = .ok (.goto 4, 3) := dk_167 0 4 (dk_at dksX3_would_3 0 rfl rfl)
theorem dX3_would_72 : decode cX3_would 72 = .ok (.lconst 0, 1) := dk_9 (dk_at dksX3_would_3 3 rfl rfl)
theorem dX3_would_73 : decode cX3_would 73 = .ok (.invokevirtual 81, 3) := dk_182 0 81 (dk_at dksX3_would_3 4 rfl rfl)
theorem dX3_would_76 : decode cX3_would 76 = .ok (.aload_n 0, 1) := dk_42 (dk_at dksX3_would_3 7 rfl rfl)
theorem dX3_would_77 : decode cX3_would 77 = .ok (.bipush 8, 2) := dk_16 8 (dk_at dksX3_would_3 8 rfl rfl)
theorem dX3_would_79 : decode cX3_would 79 = .ok (.invokevirtual 211, 3) := dk_182 0 211 (dk_at dksX3_would_3 10 rfl rfl)
theorem dX3_would_82 : decode cX3_would 82 = .ok (.ireturn, 1) := dk_172 (dk_at dksX3_would_3 13 rfl rfl)
abbrev cX3_reaches : ByteArray := prog_10_method_103_code
def yX3_reaches : MethodName := ⟨RX3, "reaches", "(IIII)I"⟩
def dkwX3_reaches_4 : List UInt8 := [167, 255, 196, 16, 254, 172]
abbrev dktX3_reaches_4 : List UInt8 := dkwX3_reaches_4 ++ []
def dkwX3_reaches_3 : List UInt8 := [42, 16, 8, 42, 21, 5, 182, 0, 69, 182, 0, 121, 87, 21, 5, 29, 96, 54, 5, 132, 6, 1]
abbrev dktX3_reaches_3 : List UInt8 := dkwX3_reaches_3 ++ dktX3_reaches_4
def dkwX3_reaches_2 : List UInt8 := [21, 4, 161, 0, 22, 42, 3, 181, 0, 54, 42, 42, 16, 8, 182, 0, 211, 133, 182, 0, 81, 21, 6, 172]
abbrev dktX3_reaches_2 : List UInt8 := dkwX3_reaches_2 ++ dktX3_reaches_3
def dkwX3_reaches_1 : List UInt8 := [182, 0, 170, 28, 54, 5, 3, 54, 6, 21, 6, 17, 3, 232, 163, 0, 58, 42, 16, 8, 182, 0, 211]
abbrev dktX3_reaches_1 : List UInt8 := dkwX3_reaches_1 ++ dktX3_reaches_2
def dkwX3_reaches_0 : List UInt8 := [42, 3, 181, 0, 51, 27, 184, 0, 111, 153, 0, 8, 21, 4, 156, 0, 5, 2, 172, 42, 27, 16, 8]
abbrev dktX3_reaches_0 : List UInt8 := dkwX3_reaches_0 ++ dktX3_reaches_1
theorem dksX3_reaches_0 : cX3_reaches.data.toList.drop 0 = dktX3_reaches_0 := by decide +kernel
theorem dksX3_reaches_1 : cX3_reaches.data.toList.drop 23 = dktX3_reaches_1 := dk_seg dksX3_reaches_0 23 rfl rfl
theorem dksX3_reaches_2 : cX3_reaches.data.toList.drop 46 = dktX3_reaches_2 := dk_seg dksX3_reaches_1 23 rfl rfl
theorem dksX3_reaches_3 : cX3_reaches.data.toList.drop 70 = dktX3_reaches_3 := dk_seg dksX3_reaches_2 24 rfl rfl
theorem dksX3_reaches_4 : cX3_reaches.data.toList.drop 92 = dktX3_reaches_4 := dk_seg dksX3_reaches_3 22 rfl rfl
theorem dX3_reaches_0 : decode cX3_reaches 0 = .ok (.aload_n 0, 1) := dk_42 (dk_at dksX3_reaches_0 0 rfl rfl)
theorem dX3_reaches_1 : decode cX3_reaches 1 = .ok (.iconst 0, 1) := dk_3 (dk_at dksX3_reaches_0 1 rfl rfl)
theorem dX3_reaches_2 : decode cX3_reaches 2 = .ok (.putfield 51, 3) := dk_181 0 51 (dk_at dksX3_reaches_0 2 rfl rfl)
theorem dX3_reaches_5 : decode cX3_reaches 5 = .ok (.iload_n 1, 1) := dk_27 (dk_at dksX3_reaches_0 5 rfl rfl)
theorem dX3_reaches_6 : decode cX3_reaches 6 = .ok (.invokestatic 111, 3) := dk_184 0 111 (dk_at dksX3_reaches_0 6 rfl rfl)
theorem dX3_reaches_9 : decode cX3_reaches 9 = .ok (.ifCond .eq 8, 3) := dk_153 0 8 (dk_at dksX3_reaches_0 9 rfl rfl)
theorem dX3_reaches_12 : decode cX3_reaches 12 = .ok (.iload 4, 2) := dk_21 4 (dk_at dksX3_reaches_0 12 rfl rfl)
theorem dX3_reaches_14 : decode cX3_reaches 14 = .ok (.ifCond .ge 5, 3) := dk_156 0 5 (dk_at dksX3_reaches_0 14 rfl rfl)
theorem dX3_reaches_17 : decode cX3_reaches 17 = .ok (.iconst (-1), 1) := dk_2 (dk_at dksX3_reaches_0 17 rfl rfl)
theorem dX3_reaches_18 : decode cX3_reaches 18 = .ok (.ireturn, 1) := dk_172 (dk_at dksX3_reaches_0 18 rfl rfl)
theorem dX3_reaches_19 : decode cX3_reaches 19 = .ok (.aload_n 0, 1) := dk_42 (dk_at dksX3_reaches_0 19 rfl rfl)
theorem dX3_reaches_20 : decode cX3_reaches 20 = .ok (.iload_n 1, 1) := dk_27 (dk_at dksX3_reaches_0 20 rfl rfl)
theorem dX3_reaches_21 : decode cX3_reaches 21 = .ok (.bipush 8, 2) := dk_16 8 (dk_at dksX3_reaches_0 21 rfl rfl)
theorem dX3_reaches_23 : decode cX3_reaches 23 = .ok (.invokevirtual 170, 3) := dk_182 0 170 (dk_at dksX3_reaches_1 0 rfl rfl)
theorem dX3_reaches_26 : decode cX3_reaches 26 = .ok (.iload_n 2, 1) := dk_28 (dk_at dksX3_reaches_1 3 rfl rfl)
theorem dX3_reaches_27 : decode cX3_reaches 27 = .ok (.istore 5, 2) := dk_54 5 (dk_at dksX3_reaches_1 4 rfl rfl)
theorem dX3_reaches_29 : decode cX3_reaches 29 = .ok (.iconst 0, 1) := dk_3 (dk_at dksX3_reaches_1 6 rfl rfl)
theorem dX3_reaches_30 : decode cX3_reaches 30 = .ok (.istore 6, 2) := dk_54 6 (dk_at dksX3_reaches_1 7 rfl rfl)
theorem dX3_reaches_32 : decode cX3_reaches 32 = .ok (.iload 6, 2) := dk_21 6 (dk_at dksX3_reaches_1 9 rfl rfl)
theorem dX3_reaches_34 : decode cX3_reaches 34 = .ok (.sipush 1000, 3) := dk_17 3 232 (dk_at dksX3_reaches_1 11 rfl rfl)
theorem dX3_reaches_37 : decode cX3_reaches 37 = .ok (.if_icmp .gt 58, 3) := dk_163 0 58 (dk_at dksX3_reaches_1 14 rfl rfl)
theorem dX3_reaches_40 : decode cX3_reaches 40 = .ok (.aload_n 0, 1) := dk_42 (dk_at dksX3_reaches_1 17 rfl rfl)
theorem dX3_reaches_41 : decode cX3_reaches 41 = .ok (.bipush 8, 2) := dk_16 8 (dk_at dksX3_reaches_1 18 rfl rfl)
theorem dX3_reaches_43 : decode cX3_reaches 43 = .ok (.invokevirtual 211, 3) := dk_182 0 211 (dk_at dksX3_reaches_1 20 rfl rfl)
theorem dX3_reaches_46 : decode cX3_reaches 46 = .ok (.iload 4, 2) := dk_21 4 (dk_at dksX3_reaches_2 0 rfl rfl)
theorem dX3_reaches_48 : decode cX3_reaches 48 = .ok (.if_icmp .lt 22, 3) := dk_161 0 22 (dk_at dksX3_reaches_2 2 rfl rfl)
theorem dX3_reaches_51 : decode cX3_reaches 51 = .ok (.aload_n 0, 1) := dk_42 (dk_at dksX3_reaches_2 5 rfl rfl)
theorem dX3_reaches_52 : decode cX3_reaches 52 = .ok (.iconst 0, 1) := dk_3 (dk_at dksX3_reaches_2 6 rfl rfl)
theorem dX3_reaches_53 : decode cX3_reaches 53 = .ok (.putfield 54, 3) := dk_181 0 54 (dk_at dksX3_reaches_2 7 rfl rfl)
theorem dX3_reaches_56 : decode cX3_reaches 56 = .ok (.aload_n 0, 1) := dk_42 (dk_at dksX3_reaches_2 10 rfl rfl)
theorem dX3_reaches_57 : decode cX3_reaches 57 = .ok (.aload_n 0, 1) := dk_42 (dk_at dksX3_reaches_2 11 rfl rfl)
theorem dX3_reaches_58 : decode cX3_reaches 58 = .ok (.bipush 8, 2) := dk_16 8 (dk_at dksX3_reaches_2 12 rfl rfl)
theorem dX3_reaches_60 : decode cX3_reaches 60 = .ok (.invokevirtual 211, 3) := dk_182 0 211 (dk_at dksX3_reaches_2 14 rfl rfl)
theorem dX3_reaches_63 : decode cX3_reaches 63 = .ok (.i2l, 1) := dk_133 (dk_at dksX3_reaches_2 17 rfl rfl)
theorem dX3_reaches_64 : decode cX3_reaches 64 = .ok (.invokevirtual 81, 3) := dk_182 0 81 (dk_at dksX3_reaches_2 18 rfl rfl)
theorem dX3_reaches_67 : decode cX3_reaches 67 = .ok (.iload 6, 2) := dk_21 6 (dk_at dksX3_reaches_2 21 rfl rfl)
theorem dX3_reaches_69 : decode cX3_reaches 69 = .ok (.ireturn, 1) := dk_172 (dk_at dksX3_reaches_2 23 rfl rfl)
theorem dX3_reaches_70 : decode cX3_reaches 70 = .ok (.aload_n 0, 1) := dk_42 (dk_at dksX3_reaches_3 0 rfl rfl)
theorem dX3_reaches_71 : decode cX3_reaches 71 = .ok (.bipush 8, 2) := dk_16 8 (dk_at dksX3_reaches_3 1 rfl rfl)
theorem dX3_reaches_73 : decode cX3_reaches 73 = .ok (.aload_n 0, 1) := dk_42 (dk_at dksX3_reaches_3 3 rfl rfl)
theorem dX3_reaches_74 : decode cX3_reaches 74 = .ok (.iload 5, 2) := dk_21 5 (dk_at dksX3_reaches_3 4 rfl rfl)
theorem dX3_reaches_76 : decode cX3_reaches 76 = .ok (.invokevirtual 69, 3) := dk_182 0 69 (dk_at dksX3_reaches_3 6 rfl rfl)
theorem dX3_reaches_79 : decode cX3_reaches 79 = .ok (.invokevirtual 121, 3) := dk_182 0 121 (dk_at dksX3_reaches_3 9 rfl rfl)
theorem dX3_reaches_82 : decode cX3_reaches 82 = .ok (.pop, 1) := dk_87 (dk_at dksX3_reaches_3 12 rfl rfl)
theorem dX3_reaches_83 : decode cX3_reaches 83 = .ok (.iload 5, 2) := dk_21 5 (dk_at dksX3_reaches_3 13 rfl rfl)
theorem dX3_reaches_85 : decode cX3_reaches 85 = .ok (.iload_n 3, 1) := dk_29 (dk_at dksX3_reaches_3 15 rfl rfl)
theorem dX3_reaches_86 : decode cX3_reaches 86 = .ok (.iadd, 1) := dk_96 (dk_at dksX3_reaches_3 16 rfl rfl)
theorem dX3_reaches_87 : decode cX3_reaches 87 = .ok (.istore 5, 2) := dk_54 5 (dk_at dksX3_reaches_3 17 rfl rfl)
theorem dX3_reaches_89 : decode cX3_reaches 89 = .ok (.iinc 6 1, 3) := dk_132 6 1 (dk_at dksX3_reaches_3 19 rfl rfl)
theorem dX3_reaches_92 : decode cX3_reaches 92 = .ok (.goto (-60), 3) := dk_167 255 196 (dk_at dksX3_reaches_4 0 rfl rfl)
theorem dX3_reaches_95 : decode cX3_reaches 95 = .ok (.bipush (-2), 2) := dk_16 254 (dk_at dksX3_reaches_4 3 rfl rfl)
theorem dX3_reaches_97 : decode cX3_reaches 97 = .ok (.ireturn, 1) := dk_172 (dk_at dksX3_reaches_4 5 rfl rfl)
abbrev cX3_over : ByteArray := prog_10_method_104_code
def yX3_over : MethodName := ⟨RX3, "over", "(I)J"⟩
def dkwX3_over_3 : List UInt8 := [42, 32, 182, 0, 81, 42, 21, 4, 133, 182, 0, 81, 32, 21, 4, 133, 101, 173]
abbrev dktX3_over_3 : List UInt8 := dkwX3_over_3 ++ []
def dkwX3_over_2 : List UInt8 := [167, 0, 4, 9, 97, 65, 132, 4, 1, 167, 255, 222, 42, 27, 182, 0, 246, 54, 4, 42, 3, 181, 0, 54]
abbrev dktX3_over_2 : List UInt8 := dkwX3_over_2 ++ dktX3_over_3
def dkwX3_over_1 : List UInt8 := [16, 6, 162, 0, 33, 32, 27, 21, 4, 122, 4, 126, 4, 160, 0, 13, 42, 21, 4, 182, 0, 211, 133]
abbrev dktX3_over_1 : List UInt8 := dkwX3_over_1 ++ dktX3_over_2
def dkwX3_over_0 : List UInt8 := [42, 3, 181, 0, 51, 27, 184, 0, 217, 154, 0, 7, 20, 0, 237, 173, 9, 65, 3, 54, 4, 21, 4]
abbrev dktX3_over_0 : List UInt8 := dkwX3_over_0 ++ dktX3_over_1
theorem dksX3_over_0 : cX3_over.data.toList.drop 0 = dktX3_over_0 := by decide +kernel
theorem dksX3_over_1 : cX3_over.data.toList.drop 23 = dktX3_over_1 := dk_seg dksX3_over_0 23 rfl rfl
theorem dksX3_over_2 : cX3_over.data.toList.drop 46 = dktX3_over_2 := dk_seg dksX3_over_1 23 rfl rfl
theorem dksX3_over_3 : cX3_over.data.toList.drop 70 = dktX3_over_3 := dk_seg dksX3_over_2 24 rfl rfl
theorem dX3_over_0 : decode cX3_over 0 = .ok (.aload_n 0, 1) := dk_42 (dk_at dksX3_over_0 0 rfl rfl)
theorem dX3_over_1 : decode cX3_over 1 = .ok (.iconst 0, 1) := dk_3 (dk_at dksX3_over_0 1 rfl rfl)
theorem dX3_over_2 : decode cX3_over 2 = .ok (.putfield 51, 3) := dk_181 0 51 (dk_at dksX3_over_0 2 rfl rfl)
theorem dX3_over_5 : decode cX3_over 5 = .ok (.iload_n 1, 1) := dk_27 (dk_at dksX3_over_0 5 rfl rfl)
theorem dX3_over_6 : decode cX3_over 6 = .ok (.invokestatic 217, 3) := dk_184 0 217 (dk_at dksX3_over_0 6 rfl rfl)
theorem dX3_over_9 : decode cX3_over 9 = .ok (.ifCond .ne 7, 3) := dk_154 0 7 (dk_at dksX3_over_0 9 rfl rfl)
theorem dX3_over_12 : decode cX3_over 12 = .ok (.ldc2_w 237, 3) := dk_20 0 237 (dk_at dksX3_over_0 12 rfl rfl)
theorem dX3_over_15 : decode cX3_over 15 = .ok (.lreturn, 1) := dk_173 (dk_at dksX3_over_0 15 rfl rfl)
theorem dX3_over_16 : decode cX3_over 16 = .ok (.lconst 0, 1) := dk_9 (dk_at dksX3_over_0 16 rfl rfl)
theorem dX3_over_17 : decode cX3_over 17 = .ok (.lstore_n 2, 1) := dk_65 (dk_at dksX3_over_0 17 rfl rfl)
theorem dX3_over_18 : decode cX3_over 18 = .ok (.iconst 0, 1) := dk_3 (dk_at dksX3_over_0 18 rfl rfl)
theorem dX3_over_19 : decode cX3_over 19 = .ok (.istore 4, 2) := dk_54 4 (dk_at dksX3_over_0 19 rfl rfl)
theorem dX3_over_21 : decode cX3_over 21 = .ok (.iload 4, 2) := dk_21 4 (dk_at dksX3_over_0 21 rfl rfl)
theorem dX3_over_23 : decode cX3_over 23 = .ok (.bipush 6, 2) := dk_16 6 (dk_at dksX3_over_1 0 rfl rfl)
theorem dX3_over_25 : decode cX3_over 25 = .ok (.if_icmp .ge 33, 3) := dk_162 0 33 (dk_at dksX3_over_1 2 rfl rfl)
theorem dX3_over_28 : decode cX3_over 28 = .ok (.lload_n 2, 1) := dk_32 (dk_at dksX3_over_1 5 rfl rfl)
theorem dX3_over_29 : decode cX3_over 29 = .ok (.iload_n 1, 1) := dk_27 (dk_at dksX3_over_1 6 rfl rfl)
theorem dX3_over_30 : decode cX3_over 30 = .ok (.iload 4, 2) := dk_21 4 (dk_at dksX3_over_1 7 rfl rfl)
theorem dX3_over_32 : decode cX3_over 32 = .ok (.ishr, 1) := dk_122 (dk_at dksX3_over_1 9 rfl rfl)
theorem dX3_over_33 : decode cX3_over 33 = .ok (.iconst 1, 1) := dk_4 (dk_at dksX3_over_1 10 rfl rfl)
theorem dX3_over_34 : decode cX3_over 34 = .ok (.iand, 1) := dk_126 (dk_at dksX3_over_1 11 rfl rfl)
theorem dX3_over_35 : decode cX3_over 35 = .ok (.iconst 1, 1) := dk_4 (dk_at dksX3_over_1 12 rfl rfl)
theorem dX3_over_36 : decode cX3_over 36 = .ok (.if_icmp .ne 13, 3) := dk_160 0 13 (dk_at dksX3_over_1 13 rfl rfl)
theorem dX3_over_39 : decode cX3_over 39 = .ok (.aload_n 0, 1) := dk_42 (dk_at dksX3_over_1 16 rfl rfl)
theorem dX3_over_40 : decode cX3_over 40 = .ok (.iload 4, 2) := dk_21 4 (dk_at dksX3_over_1 17 rfl rfl)
theorem dX3_over_42 : decode cX3_over 42 = .ok (.invokevirtual 211, 3) := dk_182 0 211 (dk_at dksX3_over_1 19 rfl rfl)
theorem dX3_over_45 : decode cX3_over 45 = .ok (.i2l, 1) := dk_133 (dk_at dksX3_over_1 22 rfl rfl)
theorem dX3_over_46 : decode cX3_over 46 = .ok (.goto 4, 3) := dk_167 0 4 (dk_at dksX3_over_2 0 rfl rfl)
theorem dX3_over_49 : decode cX3_over 49 = .ok (.lconst 0, 1) := dk_9 (dk_at dksX3_over_2 3 rfl rfl)
theorem dX3_over_50 : decode cX3_over 50 = .ok (.ladd, 1) := dk_97 (dk_at dksX3_over_2 4 rfl rfl)
theorem dX3_over_51 : decode cX3_over 51 = .ok (.lstore_n 2, 1) := dk_65 (dk_at dksX3_over_2 5 rfl rfl)
theorem dX3_over_52 : decode cX3_over 52 = .ok (.iinc 4 1, 3) := dk_132 4 1 (dk_at dksX3_over_2 6 rfl rfl)
theorem dX3_over_55 : decode cX3_over 55 = .ok (.goto (-34), 3) := dk_167 255 222 (dk_at dksX3_over_2 9 rfl rfl)
theorem dX3_over_58 : decode cX3_over 58 = .ok (.aload_n 0, 1) := dk_42 (dk_at dksX3_over_2 12 rfl rfl)
theorem dX3_over_59 : decode cX3_over 59 = .ok (.iload_n 1, 1) := dk_27 (dk_at dksX3_over_2 13 rfl rfl)
theorem dX3_over_60 : decode cX3_over 60 = .ok (.invokevirtual 246, 3) := dk_182 0 246 (dk_at dksX3_over_2 14 rfl rfl)
theorem dX3_over_63 : decode cX3_over 63 = .ok (.istore 4, 2) := dk_54 4 (dk_at dksX3_over_2 17 rfl rfl)
theorem dX3_over_65 : decode cX3_over 65 = .ok (.aload_n 0, 1) := dk_42 (dk_at dksX3_over_2 19 rfl rfl)
theorem dX3_over_66 : decode cX3_over 66 = .ok (.iconst 0, 1) := dk_3 (dk_at dksX3_over_2 20 rfl rfl)
theorem dX3_over_67 : decode cX3_over 67 = .ok (.putfield 54, 3) := dk_181 0 54 (dk_at dksX3_over_2 21 rfl rfl)
theorem dX3_over_70 : decode cX3_over 70 = .ok (.aload_n 0, 1) := dk_42 (dk_at dksX3_over_3 0 rfl rfl)
theorem dX3_over_71 : decode cX3_over 71 = .ok (.lload_n 2, 1) := dk_32 (dk_at dksX3_over_3 1 rfl rfl)
theorem dX3_over_72 : decode cX3_over 72 = .ok (.invokevirtual 81, 3) := dk_182 0 81 (dk_at dksX3_over_3 2 rfl rfl)
theorem dX3_over_75 : decode cX3_over 75 = .ok (.aload_n 0, 1) := dk_42 (dk_at dksX3_over_3 5 rfl rfl)
theorem dX3_over_76 : decode cX3_over 76 = .ok (.iload 4, 2) := dk_21 4 (dk_at dksX3_over_3 6 rfl rfl)
theorem dX3_over_78 : decode cX3_over 78 = .ok (.i2l, 1) := dk_133 (dk_at dksX3_over_3 8 rfl rfl)
theorem dX3_over_79 : decode cX3_over 79 = .ok (.invokevirtual 81, 3) := dk_182 0 81 (dk_at dksX3_over_3 9 rfl rfl)
theorem dX3_over_82 : decode cX3_over 82 = .ok (.lload_n 2, 1) := dk_32 (dk_at dksX3_over_3 12 rfl rfl)
theorem dX3_over_83 : decode cX3_over 83 = .ok (.iload 4, 2) := dk_21 4 (dk_at dksX3_over_3 13 rfl rfl)
theorem dX3_over_85 : decode cX3_over 85 = .ok (.i2l, 1) := dk_133 (dk_at dksX3_over_3 15 rfl rfl)
theorem dX3_over_86 : decode cX3_over 86 = .ok (.lsub, 1) := dk_101 (dk_at dksX3_over_3 16 rfl rfl)
theorem dX3_over_87 : decode cX3_over 87 = .ok (.lreturn, 1) := dk_173 (dk_at dksX3_over_3 17 rfl rfl)
abbrev cX3_greedy : ByteArray := prog_10_method_105_code
def yX3_greedy : MethodName := ⟨RX3, "greedy", "(I)I"⟩
def dkwX3_greedy_5 : List UInt8 := [167, 255, 162, 42, 180, 0, 38, 3, 47, 136, 172]
abbrev dktX3_greedy_5 : List UInt8 := dkwX3_greedy_5 ++ []
def dkwX3_greedy_4 : List UInt8 := [21, 6, 54, 4, 132, 5, 1, 167, 255, 190, 28, 4, 29, 120, 128, 61, 42, 29, 133, 182, 0, 81]
abbrev dktX3_greedy_4 : List UInt8 := dkwX3_greedy_4 ++ dktX3_greedy_5
def dkwX3_greedy_3 : List UInt8 := [182, 0, 246, 54, 6, 29, 2, 159, 0, 13, 21, 6, 21, 4, 163, 0, 6, 167, 0, 10, 21, 5, 62]
abbrev dktX3_greedy_3 : List UInt8 := dkwX3_greedy_3 ++ dktX3_greedy_4
def dkwX3_greedy_2 : List UInt8 := [153, 0, 50, 28, 21, 5, 122, 4, 126, 4, 160, 0, 6, 167, 0, 37, 42, 28, 4, 21, 5, 120, 128]
abbrev dktX3_greedy_2 : List UInt8 := dkwX3_greedy_2 ++ dktX3_greedy_3
def dkwX3_greedy_1 : List UInt8 := [159, 0, 95, 2, 62, 3, 54, 4, 3, 54, 5, 21, 5, 16, 6, 162, 0, 65, 27, 21, 5, 122, 4, 126]
abbrev dktX3_greedy_1 : List UInt8 := dkwX3_greedy_1 ++ dktX3_greedy_2
def dkwX3_greedy_0 : List UInt8 := [42, 3, 181, 0, 51, 27, 184, 0, 217, 154, 0, 5, 2, 172, 42, 3, 181, 0, 54, 3, 61, 28, 27]
abbrev dktX3_greedy_0 : List UInt8 := dkwX3_greedy_0 ++ dktX3_greedy_1
theorem dksX3_greedy_0 : cX3_greedy.data.toList.drop 0 = dktX3_greedy_0 := by decide +kernel
theorem dksX3_greedy_1 : cX3_greedy.data.toList.drop 23 = dktX3_greedy_1 := dk_seg dksX3_greedy_0 23 rfl rfl
theorem dksX3_greedy_2 : cX3_greedy.data.toList.drop 47 = dktX3_greedy_2 := dk_seg dksX3_greedy_1 24 rfl rfl
theorem dksX3_greedy_3 : cX3_greedy.data.toList.drop 70 = dktX3_greedy_3 := dk_seg dksX3_greedy_2 23 rfl rfl
theorem dksX3_greedy_4 : cX3_greedy.data.toList.drop 93 = dktX3_greedy_4 := dk_seg dksX3_greedy_3 23 rfl rfl
theorem dksX3_greedy_5 : cX3_greedy.data.toList.drop 115 = dktX3_greedy_5 := dk_seg dksX3_greedy_4 22 rfl rfl
theorem dX3_greedy_0 : decode cX3_greedy 0 = .ok (.aload_n 0, 1) := dk_42 (dk_at dksX3_greedy_0 0 rfl rfl)
theorem dX3_greedy_1 : decode cX3_greedy 1 = .ok (.iconst 0, 1) := dk_3 (dk_at dksX3_greedy_0 1 rfl rfl)
theorem dX3_greedy_2 : decode cX3_greedy 2 = .ok (.putfield 51, 3) := dk_181 0 51 (dk_at dksX3_greedy_0 2 rfl rfl)
theorem dX3_greedy_5 : decode cX3_greedy 5 = .ok (.iload_n 1, 1) := dk_27 (dk_at dksX3_greedy_0 5 rfl rfl)
theorem dX3_greedy_6 : decode cX3_greedy 6 = .ok (.invokestatic 217, 3) := dk_184 0 217 (dk_at dksX3_greedy_0 6 rfl rfl)
theorem dX3_greedy_9 : decode cX3_greedy 9 = .ok (.ifCond .ne 5, 3) := dk_154 0 5 (dk_at dksX3_greedy_0 9 rfl rfl)
theorem dX3_greedy_12 : decode cX3_greedy 12 = .ok (.iconst (-1), 1) := dk_2 (dk_at dksX3_greedy_0 12 rfl rfl)
theorem dX3_greedy_13 : decode cX3_greedy 13 = .ok (.ireturn, 1) := dk_172 (dk_at dksX3_greedy_0 13 rfl rfl)
theorem dX3_greedy_14 : decode cX3_greedy 14 = .ok (.aload_n 0, 1) := dk_42 (dk_at dksX3_greedy_0 14 rfl rfl)
theorem dX3_greedy_15 : decode cX3_greedy 15 = .ok (.iconst 0, 1) := dk_3 (dk_at dksX3_greedy_0 15 rfl rfl)
theorem dX3_greedy_16 : decode cX3_greedy 16 = .ok (.putfield 54, 3) := dk_181 0 54 (dk_at dksX3_greedy_0 16 rfl rfl)
theorem dX3_greedy_19 : decode cX3_greedy 19 = .ok (.iconst 0, 1) := dk_3 (dk_at dksX3_greedy_0 19 rfl rfl)
theorem dX3_greedy_20 : decode cX3_greedy 20 = .ok (.istore_n 2, 1) := dk_61 (dk_at dksX3_greedy_0 20 rfl rfl)
theorem dX3_greedy_21 : decode cX3_greedy 21 = .ok (.iload_n 2, 1) := dk_28 (dk_at dksX3_greedy_0 21 rfl rfl)
theorem dX3_greedy_22 : decode cX3_greedy 22 = .ok (.iload_n 1, 1) := dk_27 (dk_at dksX3_greedy_0 22 rfl rfl)
theorem dX3_greedy_23 : decode cX3_greedy 23 = .ok (.if_icmp .eq 95, 3) := dk_159 0 95 (dk_at dksX3_greedy_1 0 rfl rfl)
theorem dX3_greedy_26 : decode cX3_greedy 26 = .ok (.iconst (-1), 1) := dk_2 (dk_at dksX3_greedy_1 3 rfl rfl)
theorem dX3_greedy_27 : decode cX3_greedy 27 = .ok (.istore_n 3, 1) := dk_62 (dk_at dksX3_greedy_1 4 rfl rfl)
theorem dX3_greedy_28 : decode cX3_greedy 28 = .ok (.iconst 0, 1) := dk_3 (dk_at dksX3_greedy_1 5 rfl rfl)
theorem dX3_greedy_29 : decode cX3_greedy 29 = .ok (.istore 4, 2) := dk_54 4 (dk_at dksX3_greedy_1 6 rfl rfl)
theorem dX3_greedy_31 : decode cX3_greedy 31 = .ok (.iconst 0, 1) := dk_3 (dk_at dksX3_greedy_1 8 rfl rfl)
theorem dX3_greedy_32 : decode cX3_greedy 32 = .ok (.istore 5, 2) := dk_54 5 (dk_at dksX3_greedy_1 9 rfl rfl)
theorem dX3_greedy_34 : decode cX3_greedy 34 = .ok (.iload 5, 2) := dk_21 5 (dk_at dksX3_greedy_1 11 rfl rfl)
theorem dX3_greedy_36 : decode cX3_greedy 36 = .ok (.bipush 6, 2) := dk_16 6 (dk_at dksX3_greedy_1 13 rfl rfl)
theorem dX3_greedy_38 : decode cX3_greedy 38 = .ok (.if_icmp .ge 65, 3) := dk_162 0 65 (dk_at dksX3_greedy_1 15 rfl rfl)
theorem dX3_greedy_41 : decode cX3_greedy 41 = .ok (.iload_n 1, 1) := dk_27 (dk_at dksX3_greedy_1 18 rfl rfl)
theorem dX3_greedy_42 : decode cX3_greedy 42 = .ok (.iload 5, 2) := dk_21 5 (dk_at dksX3_greedy_1 19 rfl rfl)
theorem dX3_greedy_44 : decode cX3_greedy 44 = .ok (.ishr, 1) := dk_122 (dk_at dksX3_greedy_1 21 rfl rfl)
theorem dX3_greedy_45 : decode cX3_greedy 45 = .ok (.iconst 1, 1) := dk_4 (dk_at dksX3_greedy_1 22 rfl rfl)
theorem dX3_greedy_46 : decode cX3_greedy 46 = .ok (.iand, 1) := dk_126 (dk_at dksX3_greedy_1 23 rfl rfl)
theorem dX3_greedy_47 : decode cX3_greedy 47 = .ok (.ifCond .eq 50, 3) := dk_153 0 50 (dk_at dksX3_greedy_2 0 rfl rfl)
theorem dX3_greedy_50 : decode cX3_greedy 50 = .ok (.iload_n 2, 1) := dk_28 (dk_at dksX3_greedy_2 3 rfl rfl)
theorem dX3_greedy_51 : decode cX3_greedy 51 = .ok (.iload 5, 2) := dk_21 5 (dk_at dksX3_greedy_2 4 rfl rfl)
theorem dX3_greedy_53 : decode cX3_greedy 53 = .ok (.ishr, 1) := dk_122 (dk_at dksX3_greedy_2 6 rfl rfl)
theorem dX3_greedy_54 : decode cX3_greedy 54 = .ok (.iconst 1, 1) := dk_4 (dk_at dksX3_greedy_2 7 rfl rfl)
theorem dX3_greedy_55 : decode cX3_greedy 55 = .ok (.iand, 1) := dk_126 (dk_at dksX3_greedy_2 8 rfl rfl)
theorem dX3_greedy_56 : decode cX3_greedy 56 = .ok (.iconst 1, 1) := dk_4 (dk_at dksX3_greedy_2 9 rfl rfl)
theorem dX3_greedy_57 : decode cX3_greedy 57 = .ok (.if_icmp .ne 6, 3) := dk_160 0 6 (dk_at dksX3_greedy_2 10 rfl rfl)
theorem dX3_greedy_60 : decode cX3_greedy 60 = .ok (.goto 37, 3) := dk_167 0 37 (dk_at dksX3_greedy_2 13 rfl rfl)
theorem dX3_greedy_63 : decode cX3_greedy 63 = .ok (.aload_n 0, 1) := dk_42 (dk_at dksX3_greedy_2 16 rfl rfl)
theorem dX3_greedy_64 : decode cX3_greedy 64 = .ok (.iload_n 2, 1) := dk_28 (dk_at dksX3_greedy_2 17 rfl rfl)
theorem dX3_greedy_65 : decode cX3_greedy 65 = .ok (.iconst 1, 1) := dk_4 (dk_at dksX3_greedy_2 18 rfl rfl)
theorem dX3_greedy_66 : decode cX3_greedy 66 = .ok (.iload 5, 2) := dk_21 5 (dk_at dksX3_greedy_2 19 rfl rfl)
theorem dX3_greedy_68 : decode cX3_greedy 68 = .ok (.ishl, 1) := dk_120 (dk_at dksX3_greedy_2 21 rfl rfl)
theorem dX3_greedy_69 : decode cX3_greedy 69 = .ok (.ior, 1) := dk_128 (dk_at dksX3_greedy_2 22 rfl rfl)
theorem dX3_greedy_70 : decode cX3_greedy 70 = .ok (.invokevirtual 246, 3) := dk_182 0 246 (dk_at dksX3_greedy_3 0 rfl rfl)
theorem dX3_greedy_73 : decode cX3_greedy 73 = .ok (.istore 6, 2) := dk_54 6 (dk_at dksX3_greedy_3 3 rfl rfl)
theorem dX3_greedy_75 : decode cX3_greedy 75 = .ok (.iload_n 3, 1) := dk_29 (dk_at dksX3_greedy_3 5 rfl rfl)
theorem dX3_greedy_76 : decode cX3_greedy 76 = .ok (.iconst (-1), 1) := dk_2 (dk_at dksX3_greedy_3 6 rfl rfl)
theorem dX3_greedy_77 : decode cX3_greedy 77 = .ok (.if_icmp .eq 13, 3) := dk_159 0 13 (dk_at dksX3_greedy_3 7 rfl rfl)
theorem dX3_greedy_80 : decode cX3_greedy 80 = .ok (.iload 6, 2) := dk_21 6 (dk_at dksX3_greedy_3 10 rfl rfl)
theorem dX3_greedy_82 : decode cX3_greedy 82 = .ok (.iload 4, 2) := dk_21 4 (dk_at dksX3_greedy_3 12 rfl rfl)
theorem dX3_greedy_84 : decode cX3_greedy 84 = .ok (.if_icmp .gt 6, 3) := dk_163 0 6 (dk_at dksX3_greedy_3 14 rfl rfl)
theorem dX3_greedy_87 : decode cX3_greedy 87 = .ok (.goto 10, 3) := dk_167 0 10 (dk_at dksX3_greedy_3 17 rfl rfl)
theorem dX3_greedy_90 : decode cX3_greedy 90 = .ok (.iload 5, 2) := dk_21 5 (dk_at dksX3_greedy_3 20 rfl rfl)
theorem dX3_greedy_92 : decode cX3_greedy 92 = .ok (.istore_n 3, 1) := dk_62 (dk_at dksX3_greedy_3 22 rfl rfl)
theorem dX3_greedy_93 : decode cX3_greedy 93 = .ok (.iload 6, 2) := dk_21 6 (dk_at dksX3_greedy_4 0 rfl rfl)
theorem dX3_greedy_95 : decode cX3_greedy 95 = .ok (.istore 4, 2) := dk_54 4 (dk_at dksX3_greedy_4 2 rfl rfl)
theorem dX3_greedy_97 : decode cX3_greedy 97 = .ok (.iinc 5 1, 3) := dk_132 5 1 (dk_at dksX3_greedy_4 4 rfl rfl)
theorem dX3_greedy_100 : decode cX3_greedy 100 = .ok (.goto (-66), 3) := dk_167 255 190 (dk_at dksX3_greedy_4 7 rfl rfl)
theorem dX3_greedy_103 : decode cX3_greedy 103 = .ok (.iload_n 2, 1) := dk_28 (dk_at dksX3_greedy_4 10 rfl rfl)
theorem dX3_greedy_104 : decode cX3_greedy 104 = .ok (.iconst 1, 1) := dk_4 (dk_at dksX3_greedy_4 11 rfl rfl)
theorem dX3_greedy_105 : decode cX3_greedy 105 = .ok (.iload_n 3, 1) := dk_29 (dk_at dksX3_greedy_4 12 rfl rfl)
theorem dX3_greedy_106 : decode cX3_greedy 106 = .ok (.ishl, 1) := dk_120 (dk_at dksX3_greedy_4 13 rfl rfl)
theorem dX3_greedy_107 : decode cX3_greedy 107 = .ok (.ior, 1) := dk_128 (dk_at dksX3_greedy_4 14 rfl rfl)
theorem dX3_greedy_108 : decode cX3_greedy 108 = .ok (.istore_n 2, 1) := dk_61 (dk_at dksX3_greedy_4 15 rfl rfl)
theorem dX3_greedy_109 : decode cX3_greedy 109 = .ok (.aload_n 0, 1) := dk_42 (dk_at dksX3_greedy_4 16 rfl rfl)
theorem dX3_greedy_110 : decode cX3_greedy 110 = .ok (.iload_n 3, 1) := dk_29 (dk_at dksX3_greedy_4 17 rfl rfl)
theorem dX3_greedy_111 : decode cX3_greedy 111 = .ok (.i2l, 1) := dk_133 (dk_at dksX3_greedy_4 18 rfl rfl)
theorem dX3_greedy_112 : decode cX3_greedy 112 = .ok (.invokevirtual 81, 3) := dk_182 0 81 (dk_at dksX3_greedy_4 19 rfl rfl)
theorem dX3_greedy_115 : decode cX3_greedy 115 = .ok (.goto (-94), 3) := dk_167 255 162 (dk_at dksX3_greedy_5 0 rfl rfl)
theorem dX3_greedy_118 : decode cX3_greedy 118 = .ok (.aload_n 0, 1) := dk_42 (dk_at dksX3_greedy_5 3 rfl rfl)
theorem dX3_greedy_119 : decode cX3_greedy 119 = .ok (.getfield 38, 3) := dk_180 0 38 (dk_at dksX3_greedy_5 4 rfl rfl)
theorem dX3_greedy_122 : decode cX3_greedy 122 = .ok (.iconst 0, 1) := dk_3 (dk_at dksX3_greedy_5 7 rfl rfl)
theorem dX3_greedy_123 : decode cX3_greedy 123 = .ok (.laload, 1) := dk_47 (dk_at dksX3_greedy_5 8 rfl rfl)
theorem dX3_greedy_124 : decode cX3_greedy 124 = .ok (.l2i, 1) := dk_136 (dk_at dksX3_greedy_5 9 rfl rfl)
theorem dX3_greedy_125 : decode cX3_greedy 125 = .ok (.ireturn, 1) := dk_172 (dk_at dksX3_greedy_5 10 rfl rfl)
abbrev cX3_written : ByteArray := prog_10_method_109_code
def yX3_written : MethodName := ⟨RX3, "written", "(II)I"⟩
def dkwX3_written_3 : List UInt8 := [182, 1, 33, 167, 0, 4, 2, 172]
abbrev dktX3_written_3 : List UInt8 := dkwX3_written_3 ++ []
def dkwX3_written_2 : List UInt8 := [2, 160, 0, 5, 29, 172, 28, 133, 9, 29, 4, 100, 133, 184, 0, 60, 153, 0, 12, 42, 27, 28]
abbrev dktX3_written_2 : List UInt8 := dkwX3_written_2 ++ dktX3_written_3
def dkwX3_written_1 : List UInt8 := [51, 153, 0, 11, 42, 27, 182, 0, 117, 167, 0, 12, 16, 8, 42, 180, 0, 24, 27, 46, 104, 96, 62, 28]
abbrev dktX3_written_1 : List UInt8 := dkwX3_written_1 ++ dktX3_written_2
def dkwX3_written_0 : List UInt8 := [42, 3, 181, 0, 51, 27, 184, 0, 111, 154, 0, 5, 2, 172, 42, 27, 182, 1, 25, 42, 180, 0, 16, 27]
abbrev dktX3_written_0 : List UInt8 := dkwX3_written_0 ++ dktX3_written_1
theorem dksX3_written_0 : cX3_written.data.toList.drop 0 = dktX3_written_0 := by decide +kernel
theorem dksX3_written_1 : cX3_written.data.toList.drop 24 = dktX3_written_1 := dk_seg dksX3_written_0 24 rfl rfl
theorem dksX3_written_2 : cX3_written.data.toList.drop 48 = dktX3_written_2 := dk_seg dksX3_written_1 24 rfl rfl
theorem dksX3_written_3 : cX3_written.data.toList.drop 70 = dktX3_written_3 := dk_seg dksX3_written_2 22 rfl rfl
theorem dX3_written_0 : decode cX3_written 0 = .ok (.aload_n 0, 1) := dk_42 (dk_at dksX3_written_0 0 rfl rfl)
theorem dX3_written_1 : decode cX3_written 1 = .ok (.iconst 0, 1) := dk_3 (dk_at dksX3_written_0 1 rfl rfl)
theorem dX3_written_2 : decode cX3_written 2 = .ok (.putfield 51, 3) := dk_181 0 51 (dk_at dksX3_written_0 2 rfl rfl)
theorem dX3_written_5 : decode cX3_written 5 = .ok (.iload_n 1, 1) := dk_27 (dk_at dksX3_written_0 5 rfl rfl)
theorem dX3_written_6 : decode cX3_written 6 = .ok (.invokestatic 111, 3) := dk_184 0 111 (dk_at dksX3_written_0 6 rfl rfl)
theorem dX3_written_9 : decode cX3_written 9 = .ok (.ifCond .ne 5, 3) := dk_154 0 5 (dk_at dksX3_written_0 9 rfl rfl)
theorem dX3_written_12 : decode cX3_written 12 = .ok (.iconst (-1), 1) := dk_2 (dk_at dksX3_written_0 12 rfl rfl)
theorem dX3_written_13 : decode cX3_written 13 = .ok (.ireturn, 1) := dk_172 (dk_at dksX3_written_0 13 rfl rfl)
theorem dX3_written_14 : decode cX3_written 14 = .ok (.aload_n 0, 1) := dk_42 (dk_at dksX3_written_0 14 rfl rfl)
theorem dX3_written_15 : decode cX3_written 15 = .ok (.iload_n 1, 1) := dk_27 (dk_at dksX3_written_0 15 rfl rfl)
theorem dX3_written_16 : decode cX3_written 16 = .ok (.invokevirtual 281, 3) := dk_182 1 25 (dk_at dksX3_written_0 16 rfl rfl)
theorem dX3_written_19 : decode cX3_written 19 = .ok (.aload_n 0, 1) := dk_42 (dk_at dksX3_written_0 19 rfl rfl)
theorem dX3_written_20 : decode cX3_written 20 = .ok (.getfield 16, 3) := dk_180 0 16 (dk_at dksX3_written_0 20 rfl rfl)
theorem dX3_written_23 : decode cX3_written 23 = .ok (.iload_n 1, 1) := dk_27 (dk_at dksX3_written_0 23 rfl rfl)
theorem dX3_written_24 : decode cX3_written 24 = .ok (.baload, 1) := dk_51 (dk_at dksX3_written_1 0 rfl rfl)
theorem dX3_written_25 : decode cX3_written 25 = .ok (.ifCond .eq 11, 3) := dk_153 0 11 (dk_at dksX3_written_1 1 rfl rfl)
theorem dX3_written_28 : decode cX3_written 28 = .ok (.aload_n 0, 1) := dk_42 (dk_at dksX3_written_1 4 rfl rfl)
theorem dX3_written_29 : decode cX3_written 29 = .ok (.iload_n 1, 1) := dk_27 (dk_at dksX3_written_1 5 rfl rfl)
theorem dX3_written_30 : decode cX3_written 30 = .ok (.invokevirtual 117, 3) := dk_182 0 117 (dk_at dksX3_written_1 6 rfl rfl)
theorem dX3_written_33 : decode cX3_written 33 = .ok (.goto 12, 3) := dk_167 0 12 (dk_at dksX3_written_1 9 rfl rfl)
theorem dX3_written_36 : decode cX3_written 36 = .ok (.bipush 8, 2) := dk_16 8 (dk_at dksX3_written_1 12 rfl rfl)
theorem dX3_written_38 : decode cX3_written 38 = .ok (.aload_n 0, 1) := dk_42 (dk_at dksX3_written_1 14 rfl rfl)
theorem dX3_written_39 : decode cX3_written 39 = .ok (.getfield 24, 3) := dk_180 0 24 (dk_at dksX3_written_1 15 rfl rfl)
theorem dX3_written_42 : decode cX3_written 42 = .ok (.iload_n 1, 1) := dk_27 (dk_at dksX3_written_1 18 rfl rfl)
theorem dX3_written_43 : decode cX3_written 43 = .ok (.iaload, 1) := dk_46 (dk_at dksX3_written_1 19 rfl rfl)
theorem dX3_written_44 : decode cX3_written 44 = .ok (.imul, 1) := dk_104 (dk_at dksX3_written_1 20 rfl rfl)
theorem dX3_written_45 : decode cX3_written 45 = .ok (.iadd, 1) := dk_96 (dk_at dksX3_written_1 21 rfl rfl)
theorem dX3_written_46 : decode cX3_written 46 = .ok (.istore_n 3, 1) := dk_62 (dk_at dksX3_written_1 22 rfl rfl)
theorem dX3_written_47 : decode cX3_written 47 = .ok (.iload_n 2, 1) := dk_28 (dk_at dksX3_written_1 23 rfl rfl)
theorem dX3_written_48 : decode cX3_written 48 = .ok (.iconst (-1), 1) := dk_2 (dk_at dksX3_written_2 0 rfl rfl)
theorem dX3_written_49 : decode cX3_written 49 = .ok (.if_icmp .ne 5, 3) := dk_160 0 5 (dk_at dksX3_written_2 1 rfl rfl)
theorem dX3_written_52 : decode cX3_written 52 = .ok (.iload_n 3, 1) := dk_29 (dk_at dksX3_written_2 4 rfl rfl)
theorem dX3_written_53 : decode cX3_written 53 = .ok (.ireturn, 1) := dk_172 (dk_at dksX3_written_2 5 rfl rfl)
theorem dX3_written_54 : decode cX3_written 54 = .ok (.iload_n 2, 1) := dk_28 (dk_at dksX3_written_2 6 rfl rfl)
theorem dX3_written_55 : decode cX3_written 55 = .ok (.i2l, 1) := dk_133 (dk_at dksX3_written_2 7 rfl rfl)
theorem dX3_written_56 : decode cX3_written 56 = .ok (.lconst 0, 1) := dk_9 (dk_at dksX3_written_2 8 rfl rfl)
theorem dX3_written_57 : decode cX3_written 57 = .ok (.iload_n 3, 1) := dk_29 (dk_at dksX3_written_2 9 rfl rfl)
theorem dX3_written_58 : decode cX3_written 58 = .ok (.iconst 1, 1) := dk_4 (dk_at dksX3_written_2 10 rfl rfl)
theorem dX3_written_59 : decode cX3_written 59 = .ok (.isub, 1) := dk_100 (dk_at dksX3_written_2 11 rfl rfl)
theorem dX3_written_60 : decode cX3_written 60 = .ok (.i2l, 1) := dk_133 (dk_at dksX3_written_2 12 rfl rfl)
theorem dX3_written_61 : decode cX3_written 61 = .ok (.invokestatic 60, 3) := dk_184 0 60 (dk_at dksX3_written_2 13 rfl rfl)
theorem dX3_written_64 : decode cX3_written 64 = .ok (.ifCond .eq 12, 3) := dk_153 0 12 (dk_at dksX3_written_2 16 rfl rfl)
theorem dX3_written_67 : decode cX3_written 67 = .ok (.aload_n 0, 1) := dk_42 (dk_at dksX3_written_2 19 rfl rfl)
theorem dX3_written_68 : decode cX3_written 68 = .ok (.iload_n 1, 1) := dk_27 (dk_at dksX3_written_2 20 rfl rfl)
theorem dX3_written_69 : decode cX3_written 69 = .ok (.iload_n 2, 1) := dk_28 (dk_at dksX3_written_2 21 rfl rfl)
theorem dX3_written_70 : decode cX3_written 70 = .ok (.invokevirtual 289, 3) := dk_182 1 33 (dk_at dksX3_written_3 0 rfl rfl)
theorem dX3_written_73 : decode cX3_written 73 = .ok (.goto 4, 3) := dk_167 0 4 (dk_at dksX3_written_3 3 rfl rfl)
theorem dX3_written_76 : decode cX3_written 76 = .ok (.iconst (-1), 1) := dk_2 (dk_at dksX3_written_3 6 rfl rfl)
theorem dX3_written_77 : decode cX3_written 77 = .ok (.ireturn, 1) := dk_172 (dk_at dksX3_written_3 7 rfl rfl)
abbrev cX3_headSigns : ByteArray := prog_10_method_107_code
def yX3_headSigns : MethodName := ⟨RX3, "headSigns", "(I)I"⟩
def dkwX3_headSigns_0 : List UInt8 := [42, 180, 0, 13, 27, 46, 16, 10, 162, 0, 7, 6, 167, 0, 4, 7, 172]
abbrev dktX3_headSigns_0 : List UInt8 := dkwX3_headSigns_0 ++ []
theorem dksX3_headSigns_0 : cX3_headSigns.data.toList.drop 0 = dktX3_headSigns_0 := by decide +kernel
theorem dX3_headSigns_0 : decode cX3_headSigns 0 = .ok (.aload_n 0, 1) := dk_42 (dk_at dksX3_headSigns_0 0 rfl rfl)
theorem dX3_headSigns_1 : decode cX3_headSigns 1 = .ok (.getfield 13, 3) := dk_180 0 13 (dk_at dksX3_headSigns_0 1 rfl rfl)
theorem dX3_headSigns_4 : decode cX3_headSigns 4 = .ok (.iload_n 1, 1) := dk_27 (dk_at dksX3_headSigns_0 4 rfl rfl)
theorem dX3_headSigns_5 : decode cX3_headSigns 5 = .ok (.iaload, 1) := dk_46 (dk_at dksX3_headSigns_0 5 rfl rfl)
theorem dX3_headSigns_6 : decode cX3_headSigns 6 = .ok (.bipush 10, 2) := dk_16 10 (dk_at dksX3_headSigns_0 6 rfl rfl)
theorem dX3_headSigns_8 : decode cX3_headSigns 8 = .ok (.if_icmp .ge 7, 3) := dk_162 0 7 (dk_at dksX3_headSigns_0 8 rfl rfl)
theorem dX3_headSigns_11 : decode cX3_headSigns 11 = .ok (.iconst 3, 1) := dk_6 (dk_at dksX3_headSigns_0 11 rfl rfl)
theorem dX3_headSigns_12 : decode cX3_headSigns 12 = .ok (.goto 4, 3) := dk_167 0 4 (dk_at dksX3_headSigns_0 12 rfl rfl)
theorem dX3_headSigns_15 : decode cX3_headSigns 15 = .ok (.iconst 4, 1) := dk_7 (dk_at dksX3_headSigns_0 15 rfl rfl)
theorem dX3_headSigns_16 : decode cX3_headSigns 16 = .ok (.ireturn, 1) := dk_172 (dk_at dksX3_headSigns_0 16 rfl rfl)
abbrev cX3_signAt : ByteArray := prog_10_method_108_code
def yX3_signAt : MethodName := ⟨RX3, "signAt", "(II)I"⟩
def dkwX3_signAt_6 : List UInt8 := [123, 20, 1, 31, 127, 136, 184, 1, 28, 172]
abbrev dktX3_signAt_6 : List UInt8 := dkwX3_signAt_6 ++ []
def dkwX3_signAt_5 : List UInt8 := [180, 0, 20, 16, 64, 27, 104, 21, 4, 16, 8, 108, 96, 47, 16, 28, 7, 21, 4, 16, 8, 112, 104, 100]
abbrev dktX3_signAt_5 : List UInt8 := dkwX3_signAt_5 ++ dktX3_signAt_6
def dkwX3_signAt_4 : List UInt8 := [180, 0, 16, 27, 51, 153, 0, 18, 42, 180, 0, 27, 27, 21, 4, 184, 0, 92, 46, 184, 1, 28, 172, 42]
abbrev dktX3_signAt_4 : List UInt8 := dkwX3_signAt_4 ++ dktX3_signAt_5
def dkwX3_signAt_3 : List UInt8 := [96, 167, 0, 15, 16, 48, 42, 180, 0, 13, 27, 46, 16, 10, 112, 96, 172, 28, 29, 100, 54, 4, 42]
abbrev dktX3_signAt_3 : List UInt8 := dkwX3_signAt_3 ++ dktX3_signAt_4
def dkwX3_signAt_2 : List UInt8 := [162, 0, 41, 28, 4, 160, 0, 23, 29, 7, 160, 0, 18, 16, 48, 42, 180, 0, 13, 27, 46, 16, 10, 108]
abbrev dktX3_signAt_2 : List UInt8 := dkwX3_signAt_2 ++ dktX3_signAt_3
def dkwX3_signAt_1 : List UInt8 := [160, 0, 20, 42, 180, 0, 16, 27, 51, 153, 0, 8, 16, 100, 167, 0, 5, 16, 115, 172, 28, 29]
abbrev dktX3_signAt_1 : List UInt8 := dkwX3_signAt_1 ++ dktX3_signAt_2
def dkwX3_signAt_0 : List UInt8 := [42, 27, 182, 1, 25, 62, 28, 154, 0, 13, 16, 48, 42, 180, 0, 7, 27, 46, 96, 172, 28, 29, 4, 100]
abbrev dktX3_signAt_0 : List UInt8 := dkwX3_signAt_0 ++ dktX3_signAt_1
theorem dksX3_signAt_0 : cX3_signAt.data.toList.drop 0 = dktX3_signAt_0 := by decide +kernel
theorem dksX3_signAt_1 : cX3_signAt.data.toList.drop 24 = dktX3_signAt_1 := dk_seg dksX3_signAt_0 24 rfl rfl
theorem dksX3_signAt_2 : cX3_signAt.data.toList.drop 46 = dktX3_signAt_2 := dk_seg dksX3_signAt_1 22 rfl rfl
theorem dksX3_signAt_3 : cX3_signAt.data.toList.drop 70 = dktX3_signAt_3 := dk_seg dksX3_signAt_2 24 rfl rfl
theorem dksX3_signAt_4 : cX3_signAt.data.toList.drop 93 = dktX3_signAt_4 := dk_seg dksX3_signAt_3 23 rfl rfl
theorem dksX3_signAt_5 : cX3_signAt.data.toList.drop 117 = dktX3_signAt_5 := dk_seg dksX3_signAt_4 24 rfl rfl
theorem dksX3_signAt_6 : cX3_signAt.data.toList.drop 141 = dktX3_signAt_6 := dk_seg dksX3_signAt_5 24 rfl rfl
theorem dX3_signAt_0 : decode cX3_signAt 0 = .ok (.aload_n 0, 1) := dk_42 (dk_at dksX3_signAt_0 0 rfl rfl)
theorem dX3_signAt_1 : decode cX3_signAt 1 = .ok (.iload_n 1, 1) := dk_27 (dk_at dksX3_signAt_0 1 rfl rfl)
theorem dX3_signAt_2 : decode cX3_signAt 2 = .ok (.invokevirtual 281, 3) := dk_182 1 25 (dk_at dksX3_signAt_0 2 rfl rfl)
theorem dX3_signAt_5 : decode cX3_signAt 5 = .ok (.istore_n 3, 1) := dk_62 (dk_at dksX3_signAt_0 5 rfl rfl)
theorem dX3_signAt_6 : decode cX3_signAt 6 = .ok (.iload_n 2, 1) := dk_28 (dk_at dksX3_signAt_0 6 rfl rfl)
theorem dX3_signAt_7 : decode cX3_signAt 7 = .ok (.ifCond .ne 13, 3) := dk_154 0 13 (dk_at dksX3_signAt_0 7 rfl rfl)
theorem dX3_signAt_10 : decode cX3_signAt 10 = .ok (.bipush 48, 2) := dk_16 48 (dk_at dksX3_signAt_0 10 rfl rfl)
theorem dX3_signAt_12 : decode cX3_signAt 12 = .ok (.aload_n 0, 1) := dk_42 (dk_at dksX3_signAt_0 12 rfl rfl)
theorem dX3_signAt_13 : decode cX3_signAt 13 = .ok (.getfield 7, 3) := dk_180 0 7 (dk_at dksX3_signAt_0 13 rfl rfl)
theorem dX3_signAt_16 : decode cX3_signAt 16 = .ok (.iload_n 1, 1) := dk_27 (dk_at dksX3_signAt_0 16 rfl rfl)
theorem dX3_signAt_17 : decode cX3_signAt 17 = .ok (.iaload, 1) := dk_46 (dk_at dksX3_signAt_0 17 rfl rfl)
theorem dX3_signAt_18 : decode cX3_signAt 18 = .ok (.iadd, 1) := dk_96 (dk_at dksX3_signAt_0 18 rfl rfl)
theorem dX3_signAt_19 : decode cX3_signAt 19 = .ok (.ireturn, 1) := dk_172 (dk_at dksX3_signAt_0 19 rfl rfl)
theorem dX3_signAt_20 : decode cX3_signAt 20 = .ok (.iload_n 2, 1) := dk_28 (dk_at dksX3_signAt_0 20 rfl rfl)
theorem dX3_signAt_21 : decode cX3_signAt 21 = .ok (.iload_n 3, 1) := dk_29 (dk_at dksX3_signAt_0 21 rfl rfl)
theorem dX3_signAt_22 : decode cX3_signAt 22 = .ok (.iconst 1, 1) := dk_4 (dk_at dksX3_signAt_0 22 rfl rfl)
theorem dX3_signAt_23 : decode cX3_signAt 23 = .ok (.isub, 1) := dk_100 (dk_at dksX3_signAt_0 23 rfl rfl)
theorem dX3_signAt_24 : decode cX3_signAt 24 = .ok (.if_icmp .ne 20, 3) := dk_160 0 20 (dk_at dksX3_signAt_1 0 rfl rfl)
theorem dX3_signAt_27 : decode cX3_signAt 27 = .ok (.aload_n 0, 1) := dk_42 (dk_at dksX3_signAt_1 3 rfl rfl)
theorem dX3_signAt_28 : decode cX3_signAt 28 = .ok (.getfield 16, 3) := dk_180 0 16 (dk_at dksX3_signAt_1 4 rfl rfl)
theorem dX3_signAt_31 : decode cX3_signAt 31 = .ok (.iload_n 1, 1) := dk_27 (dk_at dksX3_signAt_1 7 rfl rfl)
theorem dX3_signAt_32 : decode cX3_signAt 32 = .ok (.baload, 1) := dk_51 (dk_at dksX3_signAt_1 8 rfl rfl)
theorem dX3_signAt_33 : decode cX3_signAt 33 = .ok (.ifCond .eq 8, 3) := dk_153 0 8 (dk_at dksX3_signAt_1 9 rfl rfl)
theorem dX3_signAt_36 : decode cX3_signAt 36 = .ok (.bipush 100, 2) := dk_16 100 (dk_at dksX3_signAt_1 12 rfl rfl)
theorem dX3_signAt_38 : decode cX3_signAt 38 = .ok (.goto 5, 3) := dk_167 0 5 (dk_at dksX3_signAt_1 14 rfl rfl)
theorem dX3_signAt_41 : decode cX3_signAt 41 = .ok (.bipush 115, 2) := dk_16 115 (dk_at dksX3_signAt_1 17 rfl rfl)
theorem dX3_signAt_43 : decode cX3_signAt 43 = .ok (.ireturn, 1) := dk_172 (dk_at dksX3_signAt_1 19 rfl rfl)
theorem dX3_signAt_44 : decode cX3_signAt 44 = .ok (.iload_n 2, 1) := dk_28 (dk_at dksX3_signAt_1 20 rfl rfl)
theorem dX3_signAt_45 : decode cX3_signAt 45 = .ok (.iload_n 3, 1) := dk_29 (dk_at dksX3_signAt_1 21 rfl rfl)
theorem dX3_signAt_46 : decode cX3_signAt 46 = .ok (.if_icmp .ge 41, 3) := dk_162 0 41 (dk_at dksX3_signAt_2 0 rfl rfl)
theorem dX3_signAt_49 : decode cX3_signAt 49 = .ok (.iload_n 2, 1) := dk_28 (dk_at dksX3_signAt_2 3 rfl rfl)
theorem dX3_signAt_50 : decode cX3_signAt 50 = .ok (.iconst 1, 1) := dk_4 (dk_at dksX3_signAt_2 4 rfl rfl)
theorem dX3_signAt_51 : decode cX3_signAt 51 = .ok (.if_icmp .ne 23, 3) := dk_160 0 23 (dk_at dksX3_signAt_2 5 rfl rfl)
theorem dX3_signAt_54 : decode cX3_signAt 54 = .ok (.iload_n 3, 1) := dk_29 (dk_at dksX3_signAt_2 8 rfl rfl)
theorem dX3_signAt_55 : decode cX3_signAt 55 = .ok (.iconst 4, 1) := dk_7 (dk_at dksX3_signAt_2 9 rfl rfl)
theorem dX3_signAt_56 : decode cX3_signAt 56 = .ok (.if_icmp .ne 18, 3) := dk_160 0 18 (dk_at dksX3_signAt_2 10 rfl rfl)
theorem dX3_signAt_59 : decode cX3_signAt 59 = .ok (.bipush 48, 2) := dk_16 48 (dk_at dksX3_signAt_2 13 rfl rfl)
theorem dX3_signAt_61 : decode cX3_signAt 61 = .ok (.aload_n 0, 1) := dk_42 (dk_at dksX3_signAt_2 15 rfl rfl)
theorem dX3_signAt_62 : decode cX3_signAt 62 = .ok (.getfield 13, 3) := dk_180 0 13 (dk_at dksX3_signAt_2 16 rfl rfl)
theorem dX3_signAt_65 : decode cX3_signAt 65 = .ok (.iload_n 1, 1) := dk_27 (dk_at dksX3_signAt_2 19 rfl rfl)
theorem dX3_signAt_66 : decode cX3_signAt 66 = .ok (.iaload, 1) := dk_46 (dk_at dksX3_signAt_2 20 rfl rfl)
theorem dX3_signAt_67 : decode cX3_signAt 67 = .ok (.bipush 10, 2) := dk_16 10 (dk_at dksX3_signAt_2 21 rfl rfl)
theorem dX3_signAt_69 : decode cX3_signAt 69 = .ok (.idiv, 1) := dk_108 (dk_at dksX3_signAt_2 23 rfl rfl)
theorem dX3_signAt_70 : decode cX3_signAt 70 = .ok (.iadd, 1) := dk_96 (dk_at dksX3_signAt_3 0 rfl rfl)
theorem dX3_signAt_71 : decode cX3_signAt 71 = .ok (.goto 15, 3) := dk_167 0 15 (dk_at dksX3_signAt_3 1 rfl rfl)
theorem dX3_signAt_74 : decode cX3_signAt 74 = .ok (.bipush 48, 2) := dk_16 48 (dk_at dksX3_signAt_3 4 rfl rfl)
theorem dX3_signAt_76 : decode cX3_signAt 76 = .ok (.aload_n 0, 1) := dk_42 (dk_at dksX3_signAt_3 6 rfl rfl)
theorem dX3_signAt_77 : decode cX3_signAt 77 = .ok (.getfield 13, 3) := dk_180 0 13 (dk_at dksX3_signAt_3 7 rfl rfl)
theorem dX3_signAt_80 : decode cX3_signAt 80 = .ok (.iload_n 1, 1) := dk_27 (dk_at dksX3_signAt_3 10 rfl rfl)
theorem dX3_signAt_81 : decode cX3_signAt 81 = .ok (.iaload, 1) := dk_46 (dk_at dksX3_signAt_3 11 rfl rfl)
theorem dX3_signAt_82 : decode cX3_signAt 82 = .ok (.bipush 10, 2) := dk_16 10 (dk_at dksX3_signAt_3 12 rfl rfl)
theorem dX3_signAt_84 : decode cX3_signAt 84 = .ok (.irem, 1) := dk_112 (dk_at dksX3_signAt_3 14 rfl rfl)
theorem dX3_signAt_85 : decode cX3_signAt 85 = .ok (.iadd, 1) := dk_96 (dk_at dksX3_signAt_3 15 rfl rfl)
theorem dX3_signAt_86 : decode cX3_signAt 86 = .ok (.ireturn, 1) := dk_172 (dk_at dksX3_signAt_3 16 rfl rfl)
theorem dX3_signAt_87 : decode cX3_signAt 87 = .ok (.iload_n 2, 1) := dk_28 (dk_at dksX3_signAt_3 17 rfl rfl)
theorem dX3_signAt_88 : decode cX3_signAt 88 = .ok (.iload_n 3, 1) := dk_29 (dk_at dksX3_signAt_3 18 rfl rfl)
theorem dX3_signAt_89 : decode cX3_signAt 89 = .ok (.isub, 1) := dk_100 (dk_at dksX3_signAt_3 19 rfl rfl)
theorem dX3_signAt_90 : decode cX3_signAt 90 = .ok (.istore 4, 2) := dk_54 4 (dk_at dksX3_signAt_3 20 rfl rfl)
theorem dX3_signAt_92 : decode cX3_signAt 92 = .ok (.aload_n 0, 1) := dk_42 (dk_at dksX3_signAt_3 22 rfl rfl)
theorem dX3_signAt_93 : decode cX3_signAt 93 = .ok (.getfield 16, 3) := dk_180 0 16 (dk_at dksX3_signAt_4 0 rfl rfl)
theorem dX3_signAt_96 : decode cX3_signAt 96 = .ok (.iload_n 1, 1) := dk_27 (dk_at dksX3_signAt_4 3 rfl rfl)
theorem dX3_signAt_97 : decode cX3_signAt 97 = .ok (.baload, 1) := dk_51 (dk_at dksX3_signAt_4 4 rfl rfl)
theorem dX3_signAt_98 : decode cX3_signAt 98 = .ok (.ifCond .eq 18, 3) := dk_153 0 18 (dk_at dksX3_signAt_4 5 rfl rfl)
theorem dX3_signAt_101 : decode cX3_signAt 101 = .ok (.aload_n 0, 1) := dk_42 (dk_at dksX3_signAt_4 8 rfl rfl)
theorem dX3_signAt_102 : decode cX3_signAt 102 = .ok (.getfield 27, 3) := dk_180 0 27 (dk_at dksX3_signAt_4 9 rfl rfl)
theorem dX3_signAt_105 : decode cX3_signAt 105 = .ok (.iload_n 1, 1) := dk_27 (dk_at dksX3_signAt_4 12 rfl rfl)
theorem dX3_signAt_106 : decode cX3_signAt 106 = .ok (.iload 4, 2) := dk_21 4 (dk_at dksX3_signAt_4 13 rfl rfl)
theorem dX3_signAt_108 : decode cX3_signAt 108 = .ok (.invokestatic 92, 3) := dk_184 0 92 (dk_at dksX3_signAt_4 15 rfl rfl)
theorem dX3_signAt_111 : decode cX3_signAt 111 = .ok (.iaload, 1) := dk_46 (dk_at dksX3_signAt_4 18 rfl rfl)
theorem dX3_signAt_112 : decode cX3_signAt 112 = .ok (.invokestatic 284, 3) := dk_184 1 28 (dk_at dksX3_signAt_4 19 rfl rfl)
theorem dX3_signAt_115 : decode cX3_signAt 115 = .ok (.ireturn, 1) := dk_172 (dk_at dksX3_signAt_4 22 rfl rfl)
theorem dX3_signAt_116 : decode cX3_signAt 116 = .ok (.aload_n 0, 1) := dk_42 (dk_at dksX3_signAt_4 23 rfl rfl)
theorem dX3_signAt_117 : decode cX3_signAt 117 = .ok (.getfield 20, 3) := dk_180 0 20 (dk_at dksX3_signAt_5 0 rfl rfl)
theorem dX3_signAt_120 : decode cX3_signAt 120 = .ok (.bipush 64, 2) := dk_16 64 (dk_at dksX3_signAt_5 3 rfl rfl)
theorem dX3_signAt_122 : decode cX3_signAt 122 = .ok (.iload_n 1, 1) := dk_27 (dk_at dksX3_signAt_5 5 rfl rfl)
theorem dX3_signAt_123 : decode cX3_signAt 123 = .ok (.imul, 1) := dk_104 (dk_at dksX3_signAt_5 6 rfl rfl)
theorem dX3_signAt_124 : decode cX3_signAt 124 = .ok (.iload 4, 2) := dk_21 4 (dk_at dksX3_signAt_5 7 rfl rfl)
theorem dX3_signAt_126 : decode cX3_signAt 126 = .ok (.bipush 8, 2) := dk_16 8 (dk_at dksX3_signAt_5 9 rfl rfl)
theorem dX3_signAt_128 : decode cX3_signAt 128 = .ok (.idiv, 1) := dk_108 (dk_at dksX3_signAt_5 11 rfl rfl)
theorem dX3_signAt_129 : decode cX3_signAt 129 = .ok (.iadd, 1) := dk_96 (dk_at dksX3_signAt_5 12 rfl rfl)
theorem dX3_signAt_130 : decode cX3_signAt 130 = .ok (.laload, 1) := dk_47 (dk_at dksX3_signAt_5 13 rfl rfl)
theorem dX3_signAt_131 : decode cX3_signAt 131 = .ok (.bipush 28, 2) := dk_16 28 (dk_at dksX3_signAt_5 14 rfl rfl)
theorem dX3_signAt_133 : decode cX3_signAt 133 = .ok (.iconst 4, 1) := dk_7 (dk_at dksX3_signAt_5 16 rfl rfl)
theorem dX3_signAt_134 : decode cX3_signAt 134 = .ok (.iload 4, 2) := dk_21 4 (dk_at dksX3_signAt_5 17 rfl rfl)
theorem dX3_signAt_136 : decode cX3_signAt 136 = .ok (.bipush 8, 2) := dk_16 8 (dk_at dksX3_signAt_5 19 rfl rfl)
theorem dX3_signAt_138 : decode cX3_signAt 138 = .ok (.irem, 1) := dk_112 (dk_at dksX3_signAt_5 21 rfl rfl)
theorem dX3_signAt_139 : decode cX3_signAt 139 = .ok (.imul, 1) := dk_104 (dk_at dksX3_signAt_5 22 rfl rfl)
theorem dX3_signAt_140 : decode cX3_signAt 140 = .ok (.isub, 1) := dk_100 (dk_at dksX3_signAt_5 23 rfl rfl)
theorem dX3_signAt_141 : decode cX3_signAt 141 = .ok (.lshr, 1) := dk_123 (dk_at dksX3_signAt_6 0 rfl rfl)
theorem dX3_signAt_142 : decode cX3_signAt 142 = .ok (.ldc2_w 287, 3) := dk_20 1 31 (dk_at dksX3_signAt_6 1 rfl rfl)
theorem dX3_signAt_145 : decode cX3_signAt 145 = .ok (.land, 1) := dk_127 (dk_at dksX3_signAt_6 4 rfl rfl)
theorem dX3_signAt_146 : decode cX3_signAt 146 = .ok (.l2i, 1) := dk_136 (dk_at dksX3_signAt_6 5 rfl rfl)
theorem dX3_signAt_147 : decode cX3_signAt 147 = .ok (.invokestatic 284, 3) := dk_184 1 28 (dk_at dksX3_signAt_6 6 rfl rfl)
theorem dX3_signAt_150 : decode cX3_signAt 150 = .ok (.ireturn, 1) := dk_172 (dk_at dksX3_signAt_6 9 rfl rfl)
abbrev cX3_signOf : ByteArray := prog_10_method_106_code
def yX3_signOf : MethodName := ⟨RX3, "signOf", "(I)I"⟩
def dkwX3_signOf_0 : List UInt8 := [26, 16, 10, 162, 0, 10, 16, 48, 26, 96, 167, 0, 10, 16, 97, 26, 96, 16, 10, 100, 172]
abbrev dktX3_signOf_0 : List UInt8 := dkwX3_signOf_0 ++ []
theorem dksX3_signOf_0 : cX3_signOf.data.toList.drop 0 = dktX3_signOf_0 := by decide +kernel
theorem dX3_signOf_0 : decode cX3_signOf 0 = .ok (.iload_n 0, 1) := dk_26 (dk_at dksX3_signOf_0 0 rfl rfl)
theorem dX3_signOf_1 : decode cX3_signOf 1 = .ok (.bipush 10, 2) := dk_16 10 (dk_at dksX3_signOf_0 1 rfl rfl)
theorem dX3_signOf_3 : decode cX3_signOf 3 = .ok (.if_icmp .ge 10, 3) := dk_162 0 10 (dk_at dksX3_signOf_0 3 rfl rfl)
theorem dX3_signOf_6 : decode cX3_signOf 6 = .ok (.bipush 48, 2) := dk_16 48 (dk_at dksX3_signOf_0 6 rfl rfl)
theorem dX3_signOf_8 : decode cX3_signOf 8 = .ok (.iload_n 0, 1) := dk_26 (dk_at dksX3_signOf_0 8 rfl rfl)
theorem dX3_signOf_9 : decode cX3_signOf 9 = .ok (.iadd, 1) := dk_96 (dk_at dksX3_signOf_0 9 rfl rfl)
theorem dX3_signOf_10 : decode cX3_signOf 10 = .ok (.goto 10, 3) := dk_167 0 10 (dk_at dksX3_signOf_0 10 rfl rfl)
theorem dX3_signOf_13 : decode cX3_signOf 13 = .ok (.bipush 97, 2) := dk_16 97 (dk_at dksX3_signOf_0 13 rfl rfl)
theorem dX3_signOf_15 : decode cX3_signOf 15 = .ok (.iload_n 0, 1) := dk_26 (dk_at dksX3_signOf_0 15 rfl rfl)
theorem dX3_signOf_16 : decode cX3_signOf 16 = .ok (.iadd, 1) := dk_96 (dk_at dksX3_signOf_0 16 rfl rfl)
theorem dX3_signOf_17 : decode cX3_signOf 17 = .ok (.bipush 10, 2) := dk_16 10 (dk_at dksX3_signOf_0 17 rfl rfl)
theorem dX3_signOf_19 : decode cX3_signOf 19 = .ok (.isub, 1) := dk_100 (dk_at dksX3_signOf_0 19 rfl rfl)
theorem dX3_signOf_20 : decode cX3_signOf 20 = .ok (.ireturn, 1) := dk_172 (dk_at dksX3_signOf_0 20 rfl rfl)
abbrev cX3_reads : ByteArray := prog_10_method_114_code
def yX3_reads : MethodName := ⟨RX3, "reads", "(I)I"⟩
def dkwX3_reads_1 : List UInt8 := [172, 27, 184, 0, 111, 154, 0, 5, 2, 172, 42, 16, 9, 27, 182, 0, 170, 42, 27, 182, 0, 211, 172]
abbrev dktX3_reads_1 : List UInt8 := dkwX3_reads_1 ++ []
def dkwX3_reads_0 : List UInt8 := [42, 3, 181, 0, 51, 42, 182, 0, 149, 42, 182, 1, 57, 154, 0, 12, 17, 248, 48, 42, 180, 0, 133, 100]
abbrev dktX3_reads_0 : List UInt8 := dkwX3_reads_0 ++ dktX3_reads_1
theorem dksX3_reads_0 : cX3_reads.data.toList.drop 0 = dktX3_reads_0 := by decide +kernel
theorem dksX3_reads_1 : cX3_reads.data.toList.drop 24 = dktX3_reads_1 := dk_seg dksX3_reads_0 24 rfl rfl
theorem dX3_reads_0 : decode cX3_reads 0 = .ok (.aload_n 0, 1) := dk_42 (dk_at dksX3_reads_0 0 rfl rfl)
theorem dX3_reads_1 : decode cX3_reads 1 = .ok (.iconst 0, 1) := dk_3 (dk_at dksX3_reads_0 1 rfl rfl)
theorem dX3_reads_2 : decode cX3_reads 2 = .ok (.putfield 51, 3) := dk_181 0 51 (dk_at dksX3_reads_0 2 rfl rfl)
theorem dX3_reads_5 : decode cX3_reads 5 = .ok (.aload_n 0, 1) := dk_42 (dk_at dksX3_reads_0 5 rfl rfl)
theorem dX3_reads_6 : decode cX3_reads 6 = .ok (.invokevirtual 149, 3) := dk_182 0 149 (dk_at dksX3_reads_0 6 rfl rfl)
theorem dX3_reads_9 : decode cX3_reads 9 = .ok (.aload_n 0, 1) := dk_42 (dk_at dksX3_reads_0 9 rfl rfl)
theorem dX3_reads_10 : decode cX3_reads 10 = .ok (.invokevirtual 313, 3) := dk_182 1 57 (dk_at dksX3_reads_0 10 rfl rfl)
theorem dX3_reads_13 : decode cX3_reads 13 = .ok (.ifCond .ne 12, 3) := dk_154 0 12 (dk_at dksX3_reads_0 13 rfl rfl)
theorem dX3_reads_16 : decode cX3_reads 16 = .ok (.sipush (-2000), 3) := dk_17 248 48 (dk_at dksX3_reads_0 16 rfl rfl)
theorem dX3_reads_19 : decode cX3_reads 19 = .ok (.aload_n 0, 1) := dk_42 (dk_at dksX3_reads_0 19 rfl rfl)
theorem dX3_reads_20 : decode cX3_reads 20 = .ok (.getfield 133, 3) := dk_180 0 133 (dk_at dksX3_reads_0 20 rfl rfl)
theorem dX3_reads_23 : decode cX3_reads 23 = .ok (.isub, 1) := dk_100 (dk_at dksX3_reads_0 23 rfl rfl)
theorem dX3_reads_24 : decode cX3_reads 24 = .ok (.ireturn, 1) := dk_172 (dk_at dksX3_reads_1 0 rfl rfl)
theorem dX3_reads_25 : decode cX3_reads 25 = .ok (.iload_n 1, 1) := dk_27 (dk_at dksX3_reads_1 1 rfl rfl)
theorem dX3_reads_26 : decode cX3_reads 26 = .ok (.invokestatic 111, 3) := dk_184 0 111 (dk_at dksX3_reads_1 2 rfl rfl)
theorem dX3_reads_29 : decode cX3_reads 29 = .ok (.ifCond .ne 5, 3) := dk_154 0 5 (dk_at dksX3_reads_1 5 rfl rfl)
theorem dX3_reads_32 : decode cX3_reads 32 = .ok (.iconst (-1), 1) := dk_2 (dk_at dksX3_reads_1 8 rfl rfl)
theorem dX3_reads_33 : decode cX3_reads 33 = .ok (.ireturn, 1) := dk_172 (dk_at dksX3_reads_1 9 rfl rfl)
theorem dX3_reads_34 : decode cX3_reads 34 = .ok (.aload_n 0, 1) := dk_42 (dk_at dksX3_reads_1 10 rfl rfl)
theorem dX3_reads_35 : decode cX3_reads 35 = .ok (.bipush 9, 2) := dk_16 9 (dk_at dksX3_reads_1 11 rfl rfl)
theorem dX3_reads_37 : decode cX3_reads 37 = .ok (.iload_n 1, 1) := dk_27 (dk_at dksX3_reads_1 13 rfl rfl)
theorem dX3_reads_38 : decode cX3_reads 38 = .ok (.invokevirtual 170, 3) := dk_182 0 170 (dk_at dksX3_reads_1 14 rfl rfl)
theorem dX3_reads_41 : decode cX3_reads 41 = .ok (.aload_n 0, 1) := dk_42 (dk_at dksX3_reads_1 17 rfl rfl)
theorem dX3_reads_42 : decode cX3_reads 42 = .ok (.iload_n 1, 1) := dk_27 (dk_at dksX3_reads_1 18 rfl rfl)
theorem dX3_reads_43 : decode cX3_reads 43 = .ok (.invokevirtual 211, 3) := dk_182 0 211 (dk_at dksX3_reads_1 19 rfl rfl)
theorem dX3_reads_46 : decode cX3_reads 46 = .ok (.ireturn, 1) := dk_172 (dk_at dksX3_reads_1 22 rfl rfl)
abbrev cX3_readsCounter : ByteArray := prog_10_method_113_code
def yX3_readsCounter : MethodName := ⟨RX3, "readsCounter", "()Z"⟩
def dkwX3_readsCounter_7 : List UInt8 := [180, 0, 133, 4, 96, 181, 0, 133, 29, 153, 0, 10, 42, 182, 1, 51, 167, 0, 7, 42, 182, 1, 54, 172]
abbrev dktX3_readsCounter_7 : List UInt8 := dkwX3_readsCounter_7 ++ []
def dkwX3_readsCounter_6 : List UInt8 := [167, 0, 4, 3, 62, 29, 154, 0, 14, 42, 182, 0, 136, 16, 100, 159, 0, 5, 3, 172, 42, 89]
abbrev dktX3_readsCounter_6 : List UInt8 := dkwX3_readsCounter_6 ++ dktX3_readsCounter_7
def dkwX3_readsCounter_5 : List UInt8 := [4, 96, 181, 0, 133, 42, 16, 9, 27, 28, 182, 0, 47, 42, 182, 0, 136, 16, 115, 160, 0, 7, 4]
abbrev dktX3_readsCounter_5 : List UInt8 := dkwX3_readsCounter_5 ++ dktX3_readsCounter_6
def dkwX3_readsCounter_4 : List UInt8 := [28, 104, 42, 182, 0, 136, 96, 16, 48, 100, 61, 28, 16, 48, 164, 0, 5, 3, 172, 42, 89, 180, 0, 133]
abbrev dktX3_readsCounter_4 : List UInt8 := dkwX3_readsCounter_4 ++ dktX3_readsCounter_5
def dkwX3_readsCounter_3 : List UInt8 := [4, 96, 181, 0, 133, 42, 182, 0, 136, 133, 20, 0, 115, 20, 0, 140, 184, 0, 60, 153, 0, 34, 16, 10]
abbrev dktX3_readsCounter_3 : List UInt8 := dkwX3_readsCounter_3 ++ dktX3_readsCounter_4
def dkwX3_readsCounter_2 : List UInt8 := [20, 0, 140, 184, 0, 60, 154, 0, 5, 3, 172, 42, 182, 0, 136, 16, 48, 100, 61, 42, 89, 180, 0, 133]
abbrev dktX3_readsCounter_2 : List UInt8 := dkwX3_readsCounter_2 ++ dktX3_readsCounter_3
def dkwX3_readsCounter_1 : List UInt8 := [16, 48, 100, 60, 42, 89, 180, 0, 133, 4, 96, 181, 0, 133, 42, 182, 0, 136, 133, 20, 1, 49]
abbrev dktX3_readsCounter_1 : List UInt8 := dkwX3_readsCounter_1 ++ dktX3_readsCounter_2
def dkwX3_readsCounter_0 : List UInt8 := [42, 182, 0, 136, 133, 20, 1, 45, 20, 1, 47, 184, 0, 60, 154, 0, 5, 3, 172, 42, 182, 0, 136]
abbrev dktX3_readsCounter_0 : List UInt8 := dkwX3_readsCounter_0 ++ dktX3_readsCounter_1
theorem dksX3_readsCounter_0 : cX3_readsCounter.data.toList.drop 0 = dktX3_readsCounter_0 := by decide +kernel
theorem dksX3_readsCounter_1 : cX3_readsCounter.data.toList.drop 23 = dktX3_readsCounter_1 := dk_seg dksX3_readsCounter_0 23 rfl rfl
theorem dksX3_readsCounter_2 : cX3_readsCounter.data.toList.drop 45 = dktX3_readsCounter_2 := dk_seg dksX3_readsCounter_1 22 rfl rfl
theorem dksX3_readsCounter_3 : cX3_readsCounter.data.toList.drop 69 = dktX3_readsCounter_3 := dk_seg dksX3_readsCounter_2 24 rfl rfl
theorem dksX3_readsCounter_4 : cX3_readsCounter.data.toList.drop 93 = dktX3_readsCounter_4 := dk_seg dksX3_readsCounter_3 24 rfl rfl
theorem dksX3_readsCounter_5 : cX3_readsCounter.data.toList.drop 117 = dktX3_readsCounter_5 := dk_seg dksX3_readsCounter_4 24 rfl rfl
theorem dksX3_readsCounter_6 : cX3_readsCounter.data.toList.drop 140 = dktX3_readsCounter_6 := dk_seg dksX3_readsCounter_5 23 rfl rfl
theorem dksX3_readsCounter_7 : cX3_readsCounter.data.toList.drop 162 = dktX3_readsCounter_7 := dk_seg dksX3_readsCounter_6 22 rfl rfl
theorem dX3_readsCounter_0 : decode cX3_readsCounter 0 = .ok (.aload_n 0, 1) := dk_42 (dk_at dksX3_readsCounter_0 0 rfl rfl)
theorem dX3_readsCounter_1 : decode cX3_readsCounter 1 = .ok (.invokevirtual 136, 3) := dk_182 0 136 (dk_at dksX3_readsCounter_0 1 rfl rfl)
theorem dX3_readsCounter_4 : decode cX3_readsCounter 4 = .ok (.i2l, 1) := dk_133 (dk_at dksX3_readsCounter_0 4 rfl rfl)
theorem dX3_readsCounter_5 : decode cX3_readsCounter 5 = .ok (.ldc2_w 301, 3) := dk_20 1 45 (dk_at dksX3_readsCounter_0 5 rfl rfl)
theorem dX3_readsCounter_8 : decode cX3_readsCounter 8 = .ok (.ldc2_w 303, 3) := dk_20 1 47 (dk_at dksX3_readsCounter_0 8 rfl rfl)
theorem dX3_readsCounter_11 : decode cX3_readsCounter 11 = .ok (.invokestatic 60, 3) := dk_184 0 60 (dk_at dksX3_readsCounter_0 11 rfl rfl)
theorem dX3_readsCounter_14 : decode cX3_readsCounter 14 = .ok (.ifCond .ne 5, 3) := dk_154 0 5 (dk_at dksX3_readsCounter_0 14 rfl rfl)
theorem dX3_readsCounter_17 : decode cX3_readsCounter 17 = .ok (.iconst 0, 1) := dk_3 (dk_at dksX3_readsCounter_0 17 rfl rfl)
theorem dX3_readsCounter_18 : decode cX3_readsCounter 18 = .ok (.ireturn, 1) := dk_172 (dk_at dksX3_readsCounter_0 18 rfl rfl)
theorem dX3_readsCounter_19 : decode cX3_readsCounter 19 = .ok (.aload_n 0, 1) := dk_42 (dk_at dksX3_readsCounter_0 19 rfl rfl)
theorem dX3_readsCounter_20 : decode cX3_readsCounter 20 = .ok (.invokevirtual 136, 3) := dk_182 0 136 (dk_at dksX3_readsCounter_0 20 rfl rfl)
theorem dX3_readsCounter_23 : decode cX3_readsCounter 23 = .ok (.bipush 48, 2) := dk_16 48 (dk_at dksX3_readsCounter_1 0 rfl rfl)
theorem dX3_readsCounter_25 : decode cX3_readsCounter 25 = .ok (.isub, 1) := dk_100 (dk_at dksX3_readsCounter_1 2 rfl rfl)
theorem dX3_readsCounter_26 : decode cX3_readsCounter 26 = .ok (.istore_n 1, 1) := dk_60 (dk_at dksX3_readsCounter_1 3 rfl rfl)
theorem dX3_readsCounter_27 : decode cX3_readsCounter 27 = .ok (.aload_n 0, 1) := dk_42 (dk_at dksX3_readsCounter_1 4 rfl rfl)
theorem dX3_readsCounter_28 : decode cX3_readsCounter 28 = .ok (.dup, 1) := dk_89 (dk_at dksX3_readsCounter_1 5 rfl rfl)
theorem dX3_readsCounter_29 : decode cX3_readsCounter 29 = .ok (.getfield 133, 3) := dk_180 0 133 (dk_at dksX3_readsCounter_1 6 rfl rfl)
theorem dX3_readsCounter_32 : decode cX3_readsCounter 32 = .ok (.iconst 1, 1) := dk_4 (dk_at dksX3_readsCounter_1 9 rfl rfl)
theorem dX3_readsCounter_33 : decode cX3_readsCounter 33 = .ok (.iadd, 1) := dk_96 (dk_at dksX3_readsCounter_1 10 rfl rfl)
theorem dX3_readsCounter_34 : decode cX3_readsCounter 34 = .ok (.putfield 133, 3) := dk_181 0 133 (dk_at dksX3_readsCounter_1 11 rfl rfl)
theorem dX3_readsCounter_37 : decode cX3_readsCounter 37 = .ok (.aload_n 0, 1) := dk_42 (dk_at dksX3_readsCounter_1 14 rfl rfl)
theorem dX3_readsCounter_38 : decode cX3_readsCounter 38 = .ok (.invokevirtual 136, 3) := dk_182 0 136 (dk_at dksX3_readsCounter_1 15 rfl rfl)
theorem dX3_readsCounter_41 : decode cX3_readsCounter 41 = .ok (.i2l, 1) := dk_133 (dk_at dksX3_readsCounter_1 18 rfl rfl)
theorem dX3_readsCounter_42 : decode cX3_readsCounter 42 = .ok (.ldc2_w 305, 3) := dk_20 1 49 (dk_at dksX3_readsCounter_1 19 rfl rfl)
theorem dX3_readsCounter_45 : decode cX3_readsCounter 45 = .ok (.ldc2_w 140, 3) := dk_20 0 140 (dk_at dksX3_readsCounter_2 0 rfl rfl)
theorem dX3_readsCounter_48 : decode cX3_readsCounter 48 = .ok (.invokestatic 60, 3) := dk_184 0 60 (dk_at dksX3_readsCounter_2 3 rfl rfl)
theorem dX3_readsCounter_51 : decode cX3_readsCounter 51 = .ok (.ifCond .ne 5, 3) := dk_154 0 5 (dk_at dksX3_readsCounter_2 6 rfl rfl)
theorem dX3_readsCounter_54 : decode cX3_readsCounter 54 = .ok (.iconst 0, 1) := dk_3 (dk_at dksX3_readsCounter_2 9 rfl rfl)
theorem dX3_readsCounter_55 : decode cX3_readsCounter 55 = .ok (.ireturn, 1) := dk_172 (dk_at dksX3_readsCounter_2 10 rfl rfl)
theorem dX3_readsCounter_56 : decode cX3_readsCounter 56 = .ok (.aload_n 0, 1) := dk_42 (dk_at dksX3_readsCounter_2 11 rfl rfl)
theorem dX3_readsCounter_57 : decode cX3_readsCounter 57 = .ok (.invokevirtual 136, 3) := dk_182 0 136 (dk_at dksX3_readsCounter_2 12 rfl rfl)
theorem dX3_readsCounter_60 : decode cX3_readsCounter 60 = .ok (.bipush 48, 2) := dk_16 48 (dk_at dksX3_readsCounter_2 15 rfl rfl)
theorem dX3_readsCounter_62 : decode cX3_readsCounter 62 = .ok (.isub, 1) := dk_100 (dk_at dksX3_readsCounter_2 17 rfl rfl)
theorem dX3_readsCounter_63 : decode cX3_readsCounter 63 = .ok (.istore_n 2, 1) := dk_61 (dk_at dksX3_readsCounter_2 18 rfl rfl)
theorem dX3_readsCounter_64 : decode cX3_readsCounter 64 = .ok (.aload_n 0, 1) := dk_42 (dk_at dksX3_readsCounter_2 19 rfl rfl)
theorem dX3_readsCounter_65 : decode cX3_readsCounter 65 = .ok (.dup, 1) := dk_89 (dk_at dksX3_readsCounter_2 20 rfl rfl)
theorem dX3_readsCounter_66 : decode cX3_readsCounter 66 = .ok (.getfield 133, 3) := dk_180 0 133 (dk_at dksX3_readsCounter_2 21 rfl rfl)
theorem dX3_readsCounter_69 : decode cX3_readsCounter 69 = .ok (.iconst 1, 1) := dk_4 (dk_at dksX3_readsCounter_3 0 rfl rfl)
theorem dX3_readsCounter_70 : decode cX3_readsCounter 70 = .ok (.iadd, 1) := dk_96 (dk_at dksX3_readsCounter_3 1 rfl rfl)
theorem dX3_readsCounter_71 : decode cX3_readsCounter 71 = .ok (.putfield 133, 3) := dk_181 0 133 (dk_at dksX3_readsCounter_3 2 rfl rfl)
theorem dX3_readsCounter_74 : decode cX3_readsCounter 74 = .ok (.aload_n 0, 1) := dk_42 (dk_at dksX3_readsCounter_3 5 rfl rfl)
theorem dX3_readsCounter_75 : decode cX3_readsCounter 75 = .ok (.invokevirtual 136, 3) := dk_182 0 136 (dk_at dksX3_readsCounter_3 6 rfl rfl)
theorem dX3_readsCounter_78 : decode cX3_readsCounter 78 = .ok (.i2l, 1) := dk_133 (dk_at dksX3_readsCounter_3 9 rfl rfl)
theorem dX3_readsCounter_79 : decode cX3_readsCounter 79 = .ok (.ldc2_w 115, 3) := dk_20 0 115 (dk_at dksX3_readsCounter_3 10 rfl rfl)
theorem dX3_readsCounter_82 : decode cX3_readsCounter 82 = .ok (.ldc2_w 140, 3) := dk_20 0 140 (dk_at dksX3_readsCounter_3 13 rfl rfl)
theorem dX3_readsCounter_85 : decode cX3_readsCounter 85 = .ok (.invokestatic 60, 3) := dk_184 0 60 (dk_at dksX3_readsCounter_3 16 rfl rfl)
theorem dX3_readsCounter_88 : decode cX3_readsCounter 88 = .ok (.ifCond .eq 34, 3) := dk_153 0 34 (dk_at dksX3_readsCounter_3 19 rfl rfl)
theorem dX3_readsCounter_91 : decode cX3_readsCounter 91 = .ok (.bipush 10, 2) := dk_16 10 (dk_at dksX3_readsCounter_3 22 rfl rfl)
theorem dX3_readsCounter_93 : decode cX3_readsCounter 93 = .ok (.iload_n 2, 1) := dk_28 (dk_at dksX3_readsCounter_4 0 rfl rfl)
theorem dX3_readsCounter_94 : decode cX3_readsCounter 94 = .ok (.imul, 1) := dk_104 (dk_at dksX3_readsCounter_4 1 rfl rfl)
theorem dX3_readsCounter_95 : decode cX3_readsCounter 95 = .ok (.aload_n 0, 1) := dk_42 (dk_at dksX3_readsCounter_4 2 rfl rfl)
theorem dX3_readsCounter_96 : decode cX3_readsCounter 96 = .ok (.invokevirtual 136, 3) := dk_182 0 136 (dk_at dksX3_readsCounter_4 3 rfl rfl)
theorem dX3_readsCounter_99 : decode cX3_readsCounter 99 = .ok (.iadd, 1) := dk_96 (dk_at dksX3_readsCounter_4 6 rfl rfl)
theorem dX3_readsCounter_100 : decode cX3_readsCounter 100 = .ok (.bipush 48, 2) := dk_16 48 (dk_at dksX3_readsCounter_4 7 rfl rfl)
theorem dX3_readsCounter_102 : decode cX3_readsCounter 102 = .ok (.isub, 1) := dk_100 (dk_at dksX3_readsCounter_4 9 rfl rfl)
theorem dX3_readsCounter_103 : decode cX3_readsCounter 103 = .ok (.istore_n 2, 1) := dk_61 (dk_at dksX3_readsCounter_4 10 rfl rfl)
theorem dX3_readsCounter_104 : decode cX3_readsCounter 104 = .ok (.iload_n 2, 1) := dk_28 (dk_at dksX3_readsCounter_4 11 rfl rfl)
theorem dX3_readsCounter_105 : decode cX3_readsCounter 105 = .ok (.bipush 48, 2) := dk_16 48 (dk_at dksX3_readsCounter_4 12 rfl rfl)
theorem dX3_readsCounter_107 : decode cX3_readsCounter 107 = .ok (.if_icmp .le 5, 3) := dk_164 0 5 (dk_at dksX3_readsCounter_4 14 rfl rfl)
theorem dX3_readsCounter_110 : decode cX3_readsCounter 110 = .ok (.iconst 0, 1) := dk_3 (dk_at dksX3_readsCounter_4 17 rfl rfl)
theorem dX3_readsCounter_111 : decode cX3_readsCounter 111 = .ok (.ireturn, 1) := dk_172 (dk_at dksX3_readsCounter_4 18 rfl rfl)
theorem dX3_readsCounter_112 : decode cX3_readsCounter 112 = .ok (.aload_n 0, 1) := dk_42 (dk_at dksX3_readsCounter_4 19 rfl rfl)
theorem dX3_readsCounter_113 : decode cX3_readsCounter 113 = .ok (.dup, 1) := dk_89 (dk_at dksX3_readsCounter_4 20 rfl rfl)
theorem dX3_readsCounter_114 : decode cX3_readsCounter 114 = .ok (.getfield 133, 3) := dk_180 0 133 (dk_at dksX3_readsCounter_4 21 rfl rfl)
theorem dX3_readsCounter_117 : decode cX3_readsCounter 117 = .ok (.iconst 1, 1) := dk_4 (dk_at dksX3_readsCounter_5 0 rfl rfl)
theorem dX3_readsCounter_118 : decode cX3_readsCounter 118 = .ok (.iadd, 1) := dk_96 (dk_at dksX3_readsCounter_5 1 rfl rfl)
theorem dX3_readsCounter_119 : decode cX3_readsCounter 119 = .ok (.putfield 133, 3) := dk_181 0 133 (dk_at dksX3_readsCounter_5 2 rfl rfl)
theorem dX3_readsCounter_122 : decode cX3_readsCounter 122 = .ok (.aload_n 0, 1) := dk_42 (dk_at dksX3_readsCounter_5 5 rfl rfl)
theorem dX3_readsCounter_123 : decode cX3_readsCounter 123 = .ok (.bipush 9, 2) := dk_16 9 (dk_at dksX3_readsCounter_5 6 rfl rfl)
theorem dX3_readsCounter_125 : decode cX3_readsCounter 125 = .ok (.iload_n 1, 1) := dk_27 (dk_at dksX3_readsCounter_5 8 rfl rfl)
theorem dX3_readsCounter_126 : decode cX3_readsCounter 126 = .ok (.iload_n 2, 1) := dk_28 (dk_at dksX3_readsCounter_5 9 rfl rfl)
theorem dX3_readsCounter_127 : decode cX3_readsCounter 127 = .ok (.invokevirtual 47, 3) := dk_182 0 47 (dk_at dksX3_readsCounter_5 10 rfl rfl)
theorem dX3_readsCounter_130 : decode cX3_readsCounter 130 = .ok (.aload_n 0, 1) := dk_42 (dk_at dksX3_readsCounter_5 13 rfl rfl)
theorem dX3_readsCounter_131 : decode cX3_readsCounter 131 = .ok (.invokevirtual 136, 3) := dk_182 0 136 (dk_at dksX3_readsCounter_5 14 rfl rfl)
theorem dX3_readsCounter_134 : decode cX3_readsCounter 134 = .ok (.bipush 115, 2) := dk_16 115 (dk_at dksX3_readsCounter_5 17 rfl rfl)
theorem dX3_readsCounter_136 : decode cX3_readsCounter 136 = .ok (.if_icmp .ne 7, 3) := dk_160 0 7 (dk_at dksX3_readsCounter_5 19 rfl rfl)
theorem dX3_readsCounter_139 : decode cX3_readsCounter 139 = .ok (.iconst 1, 1) := dk_4 (dk_at dksX3_readsCounter_5 22 rfl rfl)
theorem dX3_readsCounter_140 : decode cX3_readsCounter 140 = .ok (.goto 4, 3) := dk_167 0 4 (dk_at dksX3_readsCounter_6 0 rfl rfl)
theorem dX3_readsCounter_143 : decode cX3_readsCounter 143 = .ok (.iconst 0, 1) := dk_3 (dk_at dksX3_readsCounter_6 3 rfl rfl)
theorem dX3_readsCounter_144 : decode cX3_readsCounter 144 = .ok (.istore_n 3, 1) := dk_62 (dk_at dksX3_readsCounter_6 4 rfl rfl)
theorem dX3_readsCounter_145 : decode cX3_readsCounter 145 = .ok (.iload_n 3, 1) := dk_29 (dk_at dksX3_readsCounter_6 5 rfl rfl)
theorem dX3_readsCounter_146 : decode cX3_readsCounter 146 = .ok (.ifCond .ne 14, 3) := dk_154 0 14 (dk_at dksX3_readsCounter_6 6 rfl rfl)
theorem dX3_readsCounter_149 : decode cX3_readsCounter 149 = .ok (.aload_n 0, 1) := dk_42 (dk_at dksX3_readsCounter_6 9 rfl rfl)
theorem dX3_readsCounter_150 : decode cX3_readsCounter 150 = .ok (.invokevirtual 136, 3) := dk_182 0 136 (dk_at dksX3_readsCounter_6 10 rfl rfl)
theorem dX3_readsCounter_153 : decode cX3_readsCounter 153 = .ok (.bipush 100, 2) := dk_16 100 (dk_at dksX3_readsCounter_6 13 rfl rfl)
theorem dX3_readsCounter_155 : decode cX3_readsCounter 155 = .ok (.if_icmp .eq 5, 3) := dk_159 0 5 (dk_at dksX3_readsCounter_6 15 rfl rfl)
theorem dX3_readsCounter_158 : decode cX3_readsCounter 158 = .ok (.iconst 0, 1) := dk_3 (dk_at dksX3_readsCounter_6 18 rfl rfl)
theorem dX3_readsCounter_159 : decode cX3_readsCounter 159 = .ok (.ireturn, 1) := dk_172 (dk_at dksX3_readsCounter_6 19 rfl rfl)
theorem dX3_readsCounter_160 : decode cX3_readsCounter 160 = .ok (.aload_n 0, 1) := dk_42 (dk_at dksX3_readsCounter_6 20 rfl rfl)
theorem dX3_readsCounter_161 : decode cX3_readsCounter 161 = .ok (.dup, 1) := dk_89 (dk_at dksX3_readsCounter_6 21 rfl rfl)
theorem dX3_readsCounter_162 : decode cX3_readsCounter 162 = .ok (.getfield 133, 3) := dk_180 0 133 (dk_at dksX3_readsCounter_7 0 rfl rfl)
theorem dX3_readsCounter_165 : decode cX3_readsCounter 165 = .ok (.iconst 1, 1) := dk_4 (dk_at dksX3_readsCounter_7 3 rfl rfl)
theorem dX3_readsCounter_166 : decode cX3_readsCounter 166 = .ok (.iadd, 1) := dk_96 (dk_at dksX3_readsCounter_7 4 rfl rfl)
theorem dX3_readsCounter_167 : decode cX3_readsCounter 167 = .ok (.putfield 133, 3) := dk_181 0 133 (dk_at dksX3_readsCounter_7 5 rfl rfl)
theorem dX3_readsCounter_170 : decode cX3_readsCounter 170 = .ok (.iload_n 3, 1) := dk_29 (dk_at dksX3_readsCounter_7 8 rfl rfl)
theorem dX3_readsCounter_171 : decode cX3_readsCounter 171 = .ok (.ifCond .eq 10, 3) := dk_153 0 10 (dk_at dksX3_readsCounter_7 9 rfl rfl)
theorem dX3_readsCounter_174 : decode cX3_readsCounter 174 = .ok (.aload_n 0, 1) := dk_42 (dk_at dksX3_readsCounter_7 12 rfl rfl)
theorem dX3_readsCounter_175 : decode cX3_readsCounter 175 = .ok (.invokevirtual 307, 3) := dk_182 1 51 (dk_at dksX3_readsCounter_7 13 rfl rfl)
theorem dX3_readsCounter_178 : decode cX3_readsCounter 178 = .ok (.goto 7, 3) := dk_167 0 7 (dk_at dksX3_readsCounter_7 16 rfl rfl)
theorem dX3_readsCounter_181 : decode cX3_readsCounter 181 = .ok (.aload_n 0, 1) := dk_42 (dk_at dksX3_readsCounter_7 19 rfl rfl)
theorem dX3_readsCounter_182 : decode cX3_readsCounter 182 = .ok (.invokevirtual 310, 3) := dk_182 1 54 (dk_at dksX3_readsCounter_7 20 rfl rfl)
theorem dX3_readsCounter_185 : decode cX3_readsCounter 185 = .ok (.ireturn, 1) := dk_172 (dk_at dksX3_readsCounter_7 23 rfl rfl)
abbrev cX3_readsMarks : ByteArray := prog_10_method_111_code
def yX3_readsMarks : MethodName := ⟨RX3, "readsMarks", "()Z"⟩
def dkwX3_readsMarks_5 : List UInt8 := [31, 182, 0, 103, 167, 255, 132, 42, 16, 9, 182, 0, 155, 4, 172]
abbrev dktX3_readsMarks_5 : List UInt8 := dkwX3_readsMarks_5 ++ []
def dkwX3_readsMarks_4 : List UInt8 := [46, 96, 4, 100, 47, 148, 157, 0, 15, 42, 89, 180, 0, 133, 4, 100, 181, 0, 133, 3, 172, 42, 16, 9]
abbrev dktX3_readsMarks_4 : List UInt8 := dkwX3_readsMarks_4 ++ dktX3_readsMarks_5
def dkwX3_readsMarks_3 : List UInt8 := [42, 180, 0, 24, 16, 9, 46, 158, 0, 38, 31, 42, 180, 0, 20, 17, 2, 64, 42, 180, 0, 24, 16, 9]
abbrev dktX3_readsMarks_3 : List UInt8 := dkwX3_readsMarks_3 ++ dktX3_readsMarks_4
def dkwX3_readsMarks_2 : List UInt8 := [21, 4, 2, 160, 0, 5, 3, 172, 20, 1, 43, 31, 105, 21, 4, 133, 97, 64, 132, 3, 1, 167, 255, 221]
abbrev dktX3_readsMarks_2 : List UInt8 := dkwX3_readsMarks_2 ++ dktX3_readsMarks_3
def dkwX3_readsMarks_1 : List UInt8 := [46, 160, 0, 5, 3, 172, 9, 64, 3, 62, 29, 16, 8, 162, 0, 35, 42, 16, 16, 182, 1, 40, 54, 4]
abbrev dktX3_readsMarks_1 : List UInt8 := dkwX3_readsMarks_1 ++ dktX3_readsMarks_2
def dkwX3_readsMarks_0 : List UInt8 := [42, 180, 0, 133, 42, 180, 0, 130, 162, 0, 119, 42, 180, 0, 24, 16, 9, 46, 42, 180, 0, 13, 16, 9]
abbrev dktX3_readsMarks_0 : List UInt8 := dkwX3_readsMarks_0 ++ dktX3_readsMarks_1
theorem dksX3_readsMarks_0 : cX3_readsMarks.data.toList.drop 0 = dktX3_readsMarks_0 := by decide +kernel
theorem dksX3_readsMarks_1 : cX3_readsMarks.data.toList.drop 24 = dktX3_readsMarks_1 := dk_seg dksX3_readsMarks_0 24 rfl rfl
theorem dksX3_readsMarks_2 : cX3_readsMarks.data.toList.drop 48 = dktX3_readsMarks_2 := dk_seg dksX3_readsMarks_1 24 rfl rfl
theorem dksX3_readsMarks_3 : cX3_readsMarks.data.toList.drop 72 = dktX3_readsMarks_3 := dk_seg dksX3_readsMarks_2 24 rfl rfl
theorem dksX3_readsMarks_4 : cX3_readsMarks.data.toList.drop 96 = dktX3_readsMarks_4 := dk_seg dksX3_readsMarks_3 24 rfl rfl
theorem dksX3_readsMarks_5 : cX3_readsMarks.data.toList.drop 120 = dktX3_readsMarks_5 := dk_seg dksX3_readsMarks_4 24 rfl rfl
theorem dX3_readsMarks_0 : decode cX3_readsMarks 0 = .ok (.aload_n 0, 1) := dk_42 (dk_at dksX3_readsMarks_0 0 rfl rfl)
theorem dX3_readsMarks_1 : decode cX3_readsMarks 1 = .ok (.getfield 133, 3) := dk_180 0 133 (dk_at dksX3_readsMarks_0 1 rfl rfl)
theorem dX3_readsMarks_4 : decode cX3_readsMarks 4 = .ok (.aload_n 0, 1) := dk_42 (dk_at dksX3_readsMarks_0 4 rfl rfl)
theorem dX3_readsMarks_5 : decode cX3_readsMarks 5 = .ok (.getfield 130, 3) := dk_180 0 130 (dk_at dksX3_readsMarks_0 5 rfl rfl)
theorem dX3_readsMarks_8 : decode cX3_readsMarks 8 = .ok (.if_icmp .ge 119, 3) := dk_162 0 119 (dk_at dksX3_readsMarks_0 8 rfl rfl)
theorem dX3_readsMarks_11 : decode cX3_readsMarks 11 = .ok (.aload_n 0, 1) := dk_42 (dk_at dksX3_readsMarks_0 11 rfl rfl)
theorem dX3_readsMarks_12 : decode cX3_readsMarks 12 = .ok (.getfield 24, 3) := dk_180 0 24 (dk_at dksX3_readsMarks_0 12 rfl rfl)
theorem dX3_readsMarks_15 : decode cX3_readsMarks 15 = .ok (.bipush 9, 2) := dk_16 9 (dk_at dksX3_readsMarks_0 15 rfl rfl)
theorem dX3_readsMarks_17 : decode cX3_readsMarks 17 = .ok (.iaload, 1) := dk_46 (dk_at dksX3_readsMarks_0 17 rfl rfl)
theorem dX3_readsMarks_18 : decode cX3_readsMarks 18 = .ok (.aload_n 0, 1) := dk_42 (dk_at dksX3_readsMarks_0 18 rfl rfl)
theorem dX3_readsMarks_19 : decode cX3_readsMarks 19 = .ok (.getfield 13, 3) := dk_180 0 13 (dk_at dksX3_readsMarks_0 19 rfl rfl)
theorem dX3_readsMarks_22 : decode cX3_readsMarks 22 = .ok (.bipush 9, 2) := dk_16 9 (dk_at dksX3_readsMarks_0 22 rfl rfl)
theorem dX3_readsMarks_24 : decode cX3_readsMarks 24 = .ok (.iaload, 1) := dk_46 (dk_at dksX3_readsMarks_1 0 rfl rfl)
theorem dX3_readsMarks_25 : decode cX3_readsMarks 25 = .ok (.if_icmp .ne 5, 3) := dk_160 0 5 (dk_at dksX3_readsMarks_1 1 rfl rfl)
theorem dX3_readsMarks_28 : decode cX3_readsMarks 28 = .ok (.iconst 0, 1) := dk_3 (dk_at dksX3_readsMarks_1 4 rfl rfl)
theorem dX3_readsMarks_29 : decode cX3_readsMarks 29 = .ok (.ireturn, 1) := dk_172 (dk_at dksX3_readsMarks_1 5 rfl rfl)
theorem dX3_readsMarks_30 : decode cX3_readsMarks 30 = .ok (.lconst 0, 1) := dk_9 (dk_at dksX3_readsMarks_1 6 rfl rfl)
theorem dX3_readsMarks_31 : decode cX3_readsMarks 31 = .ok (.lstore_n 1, 1) := dk_64 (dk_at dksX3_readsMarks_1 7 rfl rfl)
theorem dX3_readsMarks_32 : decode cX3_readsMarks 32 = .ok (.iconst 0, 1) := dk_3 (dk_at dksX3_readsMarks_1 8 rfl rfl)
theorem dX3_readsMarks_33 : decode cX3_readsMarks 33 = .ok (.istore_n 3, 1) := dk_62 (dk_at dksX3_readsMarks_1 9 rfl rfl)
theorem dX3_readsMarks_34 : decode cX3_readsMarks 34 = .ok (.iload_n 3, 1) := dk_29 (dk_at dksX3_readsMarks_1 10 rfl rfl)
theorem dX3_readsMarks_35 : decode cX3_readsMarks 35 = .ok (.bipush 8, 2) := dk_16 8 (dk_at dksX3_readsMarks_1 11 rfl rfl)
theorem dX3_readsMarks_37 : decode cX3_readsMarks 37 = .ok (.if_icmp .ge 35, 3) := dk_162 0 35 (dk_at dksX3_readsMarks_1 13 rfl rfl)
theorem dX3_readsMarks_40 : decode cX3_readsMarks 40 = .ok (.aload_n 0, 1) := dk_42 (dk_at dksX3_readsMarks_1 16 rfl rfl)
theorem dX3_readsMarks_41 : decode cX3_readsMarks 41 = .ok (.bipush 16, 2) := dk_16 16 (dk_at dksX3_readsMarks_1 17 rfl rfl)
theorem dX3_readsMarks_43 : decode cX3_readsMarks 43 = .ok (.invokevirtual 296, 3) := dk_182 1 40 (dk_at dksX3_readsMarks_1 19 rfl rfl)
theorem dX3_readsMarks_46 : decode cX3_readsMarks 46 = .ok (.istore 4, 2) := dk_54 4 (dk_at dksX3_readsMarks_1 22 rfl rfl)
theorem dX3_readsMarks_48 : decode cX3_readsMarks 48 = .ok (.iload 4, 2) := dk_21 4 (dk_at dksX3_readsMarks_2 0 rfl rfl)
theorem dX3_readsMarks_50 : decode cX3_readsMarks 50 = .ok (.iconst (-1), 1) := dk_2 (dk_at dksX3_readsMarks_2 2 rfl rfl)
theorem dX3_readsMarks_51 : decode cX3_readsMarks 51 = .ok (.if_icmp .ne 5, 3) := dk_160 0 5 (dk_at dksX3_readsMarks_2 3 rfl rfl)
theorem dX3_readsMarks_54 : decode cX3_readsMarks 54 = .ok (.iconst 0, 1) := dk_3 (dk_at dksX3_readsMarks_2 6 rfl rfl)
theorem dX3_readsMarks_55 : decode cX3_readsMarks 55 = .ok (.ireturn, 1) := dk_172 (dk_at dksX3_readsMarks_2 7 rfl rfl)
theorem dX3_readsMarks_56 : decode cX3_readsMarks 56 = .ok (.ldc2_w 299, 3) := dk_20 1 43 (dk_at dksX3_readsMarks_2 8 rfl rfl)
theorem dX3_readsMarks_59 : decode cX3_readsMarks 59 = .ok (.lload_n 1, 1) := dk_31 (dk_at dksX3_readsMarks_2 11 rfl rfl)
theorem dX3_readsMarks_60 : decode cX3_readsMarks 60 = .ok (.lmul, 1) := dk_105 (dk_at dksX3_readsMarks_2 12 rfl rfl)
theorem dX3_readsMarks_61 : decode cX3_readsMarks 61 = .ok (.iload 4, 2) := dk_21 4 (dk_at dksX3_readsMarks_2 13 rfl rfl)
theorem dX3_readsMarks_63 : decode cX3_readsMarks 63 = .ok (.i2l, 1) := dk_133 (dk_at dksX3_readsMarks_2 15 rfl rfl)
theorem dX3_readsMarks_64 : decode cX3_readsMarks 64 = .ok (.ladd, 1) := dk_97 (dk_at dksX3_readsMarks_2 16 rfl rfl)
theorem dX3_readsMarks_65 : decode cX3_readsMarks 65 = .ok (.lstore_n 1, 1) := dk_64 (dk_at dksX3_readsMarks_2 17 rfl rfl)
theorem dX3_readsMarks_66 : decode cX3_readsMarks 66 = .ok (.iinc 3 1, 3) := dk_132 3 1 (dk_at dksX3_readsMarks_2 18 rfl rfl)
theorem dX3_readsMarks_69 : decode cX3_readsMarks 69 = .ok (.goto (-35), 3) := dk_167 255 221 (dk_at dksX3_readsMarks_2 21 rfl rfl)
theorem dX3_readsMarks_72 : decode cX3_readsMarks 72 = .ok (.aload_n 0, 1) := dk_42 (dk_at dksX3_readsMarks_3 0 rfl rfl)
theorem dX3_readsMarks_73 : decode cX3_readsMarks 73 = .ok (.getfield 24, 3) := dk_180 0 24 (dk_at dksX3_readsMarks_3 1 rfl rfl)
theorem dX3_readsMarks_76 : decode cX3_readsMarks 76 = .ok (.bipush 9, 2) := dk_16 9 (dk_at dksX3_readsMarks_3 4 rfl rfl)
theorem dX3_readsMarks_78 : decode cX3_readsMarks 78 = .ok (.iaload, 1) := dk_46 (dk_at dksX3_readsMarks_3 6 rfl rfl)
theorem dX3_readsMarks_79 : decode cX3_readsMarks 79 = .ok (.ifCond .le 38, 3) := dk_158 0 38 (dk_at dksX3_readsMarks_3 7 rfl rfl)
theorem dX3_readsMarks_82 : decode cX3_readsMarks 82 = .ok (.lload_n 1, 1) := dk_31 (dk_at dksX3_readsMarks_3 10 rfl rfl)
theorem dX3_readsMarks_83 : decode cX3_readsMarks 83 = .ok (.aload_n 0, 1) := dk_42 (dk_at dksX3_readsMarks_3 11 rfl rfl)
theorem dX3_readsMarks_84 : decode cX3_readsMarks 84 = .ok (.getfield 20, 3) := dk_180 0 20 (dk_at dksX3_readsMarks_3 12 rfl rfl)
theorem dX3_readsMarks_87 : decode cX3_readsMarks 87 = .ok (.sipush 576, 3) := dk_17 2 64 (dk_at dksX3_readsMarks_3 15 rfl rfl)
theorem dX3_readsMarks_90 : decode cX3_readsMarks 90 = .ok (.aload_n 0, 1) := dk_42 (dk_at dksX3_readsMarks_3 18 rfl rfl)
theorem dX3_readsMarks_91 : decode cX3_readsMarks 91 = .ok (.getfield 24, 3) := dk_180 0 24 (dk_at dksX3_readsMarks_3 19 rfl rfl)
theorem dX3_readsMarks_94 : decode cX3_readsMarks 94 = .ok (.bipush 9, 2) := dk_16 9 (dk_at dksX3_readsMarks_3 22 rfl rfl)
theorem dX3_readsMarks_96 : decode cX3_readsMarks 96 = .ok (.iaload, 1) := dk_46 (dk_at dksX3_readsMarks_4 0 rfl rfl)
theorem dX3_readsMarks_97 : decode cX3_readsMarks 97 = .ok (.iadd, 1) := dk_96 (dk_at dksX3_readsMarks_4 1 rfl rfl)
theorem dX3_readsMarks_98 : decode cX3_readsMarks 98 = .ok (.iconst 1, 1) := dk_4 (dk_at dksX3_readsMarks_4 2 rfl rfl)
theorem dX3_readsMarks_99 : decode cX3_readsMarks 99 = .ok (.isub, 1) := dk_100 (dk_at dksX3_readsMarks_4 3 rfl rfl)
theorem dX3_readsMarks_100 : decode cX3_readsMarks 100 = .ok (.laload, 1) := dk_47 (dk_at dksX3_readsMarks_4 4 rfl rfl)
theorem dX3_readsMarks_101 : decode cX3_readsMarks 101 = .ok (.lcmp, 1) := dk_148 (dk_at dksX3_readsMarks_4 5 rfl rfl)
theorem dX3_readsMarks_102 : decode cX3_readsMarks 102 = .ok (.ifCond .gt 15, 3) := dk_157 0 15 (dk_at dksX3_readsMarks_4 6 rfl rfl)
theorem dX3_readsMarks_105 : decode cX3_readsMarks 105 = .ok (.aload_n 0, 1) := dk_42 (dk_at dksX3_readsMarks_4 9 rfl rfl)
theorem dX3_readsMarks_106 : decode cX3_readsMarks 106 = .ok (.dup, 1) := dk_89 (dk_at dksX3_readsMarks_4 10 rfl rfl)
theorem dX3_readsMarks_107 : decode cX3_readsMarks 107 = .ok (.getfield 133, 3) := dk_180 0 133 (dk_at dksX3_readsMarks_4 11 rfl rfl)
theorem dX3_readsMarks_110 : decode cX3_readsMarks 110 = .ok (.iconst 1, 1) := dk_4 (dk_at dksX3_readsMarks_4 14 rfl rfl)
theorem dX3_readsMarks_111 : decode cX3_readsMarks 111 = .ok (.isub, 1) := dk_100 (dk_at dksX3_readsMarks_4 15 rfl rfl)
theorem dX3_readsMarks_112 : decode cX3_readsMarks 112 = .ok (.putfield 133, 3) := dk_181 0 133 (dk_at dksX3_readsMarks_4 16 rfl rfl)
theorem dX3_readsMarks_115 : decode cX3_readsMarks 115 = .ok (.iconst 0, 1) := dk_3 (dk_at dksX3_readsMarks_4 19 rfl rfl)
theorem dX3_readsMarks_116 : decode cX3_readsMarks 116 = .ok (.ireturn, 1) := dk_172 (dk_at dksX3_readsMarks_4 20 rfl rfl)
theorem dX3_readsMarks_117 : decode cX3_readsMarks 117 = .ok (.aload_n 0, 1) := dk_42 (dk_at dksX3_readsMarks_4 21 rfl rfl)
theorem dX3_readsMarks_118 : decode cX3_readsMarks 118 = .ok (.bipush 9, 2) := dk_16 9 (dk_at dksX3_readsMarks_4 22 rfl rfl)
theorem dX3_readsMarks_120 : decode cX3_readsMarks 120 = .ok (.lload_n 1, 1) := dk_31 (dk_at dksX3_readsMarks_5 0 rfl rfl)
theorem dX3_readsMarks_121 : decode cX3_readsMarks 121 = .ok (.invokevirtual 103, 3) := dk_182 0 103 (dk_at dksX3_readsMarks_5 1 rfl rfl)
theorem dX3_readsMarks_124 : decode cX3_readsMarks 124 = .ok (.goto (-124), 3) := dk_167 255 132 (dk_at dksX3_readsMarks_5 4 rfl rfl)
theorem dX3_readsMarks_127 : decode cX3_readsMarks 127 = .ok (.aload_n 0, 1) := dk_42 (dk_at dksX3_readsMarks_5 7 rfl rfl)
theorem dX3_readsMarks_128 : decode cX3_readsMarks 128 = .ok (.bipush 9, 2) := dk_16 9 (dk_at dksX3_readsMarks_5 8 rfl rfl)
theorem dX3_readsMarks_130 : decode cX3_readsMarks 130 = .ok (.invokevirtual 155, 3) := dk_182 0 155 (dk_at dksX3_readsMarks_5 10 rfl rfl)
theorem dX3_readsMarks_133 : decode cX3_readsMarks 133 = .ok (.iconst 1, 1) := dk_4 (dk_at dksX3_readsMarks_5 13 rfl rfl)
theorem dX3_readsMarks_134 : decode cX3_readsMarks 134 = .ok (.ireturn, 1) := dk_172 (dk_at dksX3_readsMarks_5 14 rfl rfl)
abbrev cX3_readsSign : ByteArray := prog_10_method_110_code
def yX3_readsSign : MethodName := ⟨RX3, "readsSign", "(I)I"⟩
def dkwX3_readsSign_3 : List UInt8 := [181, 0, 133, 29, 172]
abbrev dktX3_readsSign_3 : List UInt8 := dkwX3_readsSign_3 ++ []
def dkwX3_readsSign_2 : List UInt8 := [167, 0, 4, 2, 62, 29, 155, 0, 8, 29, 27, 161, 0, 5, 2, 172, 42, 89, 180, 0, 133, 4, 96]
abbrev dktX3_readsSign_2 : List UInt8 := dkwX3_readsSign_2 ++ dktX3_readsSign_3
def dkwX3_readsSign_1 : List UInt8 := [167, 0, 28, 28, 133, 20, 1, 36, 20, 1, 38, 184, 0, 60, 153, 0, 13, 28, 16, 97, 100, 16, 10, 96]
abbrev dktX3_readsSign_1 : List UInt8 := dkwX3_readsSign_1 ++ dktX3_readsSign_2
def dkwX3_readsSign_0 : List UInt8 := [42, 182, 0, 136, 61, 28, 133, 20, 0, 115, 20, 0, 140, 184, 0, 60, 153, 0, 10, 28, 16, 48, 100]
abbrev dktX3_readsSign_0 : List UInt8 := dkwX3_readsSign_0 ++ dktX3_readsSign_1
theorem dksX3_readsSign_0 : cX3_readsSign.data.toList.drop 0 = dktX3_readsSign_0 := by decide +kernel
theorem dksX3_readsSign_1 : cX3_readsSign.data.toList.drop 23 = dktX3_readsSign_1 := dk_seg dksX3_readsSign_0 23 rfl rfl
theorem dksX3_readsSign_2 : cX3_readsSign.data.toList.drop 47 = dktX3_readsSign_2 := dk_seg dksX3_readsSign_1 24 rfl rfl
theorem dksX3_readsSign_3 : cX3_readsSign.data.toList.drop 70 = dktX3_readsSign_3 := dk_seg dksX3_readsSign_2 23 rfl rfl
theorem dX3_readsSign_0 : decode cX3_readsSign 0 = .ok (.aload_n 0, 1) := dk_42 (dk_at dksX3_readsSign_0 0 rfl rfl)
theorem dX3_readsSign_1 : decode cX3_readsSign 1 = .ok (.invokevirtual 136, 3) := dk_182 0 136 (dk_at dksX3_readsSign_0 1 rfl rfl)
theorem dX3_readsSign_4 : decode cX3_readsSign 4 = .ok (.istore_n 2, 1) := dk_61 (dk_at dksX3_readsSign_0 4 rfl rfl)
theorem dX3_readsSign_5 : decode cX3_readsSign 5 = .ok (.iload_n 2, 1) := dk_28 (dk_at dksX3_readsSign_0 5 rfl rfl)
theorem dX3_readsSign_6 : decode cX3_readsSign 6 = .ok (.i2l, 1) := dk_133 (dk_at dksX3_readsSign_0 6 rfl rfl)
theorem dX3_readsSign_7 : decode cX3_readsSign 7 = .ok (.ldc2_w 115, 3) := dk_20 0 115 (dk_at dksX3_readsSign_0 7 rfl rfl)
theorem dX3_readsSign_10 : decode cX3_readsSign 10 = .ok (.ldc2_w 140, 3) := dk_20 0 140 (dk_at dksX3_readsSign_0 10 rfl rfl)
theorem dX3_readsSign_13 : decode cX3_readsSign 13 = .ok (.invokestatic 60, 3) := dk_184 0 60 (dk_at dksX3_readsSign_0 13 rfl rfl)
theorem dX3_readsSign_16 : decode cX3_readsSign 16 = .ok (.ifCond .eq 10, 3) := dk_153 0 10 (dk_at dksX3_readsSign_0 16 rfl rfl)
theorem dX3_readsSign_19 : decode cX3_readsSign 19 = .ok (.iload_n 2, 1) := dk_28 (dk_at dksX3_readsSign_0 19 rfl rfl)
theorem dX3_readsSign_20 : decode cX3_readsSign 20 = .ok (.bipush 48, 2) := dk_16 48 (dk_at dksX3_readsSign_0 20 rfl rfl)
theorem dX3_readsSign_22 : decode cX3_readsSign 22 = .ok (.isub, 1) := dk_100 (dk_at dksX3_readsSign_0 22 rfl rfl)
theorem dX3_readsSign_23 : decode cX3_readsSign 23 = .ok (.goto 28, 3) := dk_167 0 28 (dk_at dksX3_readsSign_1 0 rfl rfl)
theorem dX3_readsSign_26 : decode cX3_readsSign 26 = .ok (.iload_n 2, 1) := dk_28 (dk_at dksX3_readsSign_1 3 rfl rfl)
theorem dX3_readsSign_27 : decode cX3_readsSign 27 = .ok (.i2l, 1) := dk_133 (dk_at dksX3_readsSign_1 4 rfl rfl)
theorem dX3_readsSign_28 : decode cX3_readsSign 28 = .ok (.ldc2_w 292, 3) := dk_20 1 36 (dk_at dksX3_readsSign_1 5 rfl rfl)
theorem dX3_readsSign_31 : decode cX3_readsSign 31 = .ok (.ldc2_w 294, 3) := dk_20 1 38 (dk_at dksX3_readsSign_1 8 rfl rfl)
theorem dX3_readsSign_34 : decode cX3_readsSign 34 = .ok (.invokestatic 60, 3) := dk_184 0 60 (dk_at dksX3_readsSign_1 11 rfl rfl)
theorem dX3_readsSign_37 : decode cX3_readsSign 37 = .ok (.ifCond .eq 13, 3) := dk_153 0 13 (dk_at dksX3_readsSign_1 14 rfl rfl)
theorem dX3_readsSign_40 : decode cX3_readsSign 40 = .ok (.iload_n 2, 1) := dk_28 (dk_at dksX3_readsSign_1 17 rfl rfl)
theorem dX3_readsSign_41 : decode cX3_readsSign 41 = .ok (.bipush 97, 2) := dk_16 97 (dk_at dksX3_readsSign_1 18 rfl rfl)
theorem dX3_readsSign_43 : decode cX3_readsSign 43 = .ok (.isub, 1) := dk_100 (dk_at dksX3_readsSign_1 20 rfl rfl)
theorem dX3_readsSign_44 : decode cX3_readsSign 44 = .ok (.bipush 10, 2) := dk_16 10 (dk_at dksX3_readsSign_1 21 rfl rfl)
theorem dX3_readsSign_46 : decode cX3_readsSign 46 = .ok (.iadd, 1) := dk_96 (dk_at dksX3_readsSign_1 23 rfl rfl)
theorem dX3_readsSign_47 : decode cX3_readsSign 47 = .ok (.goto 4, 3) := dk_167 0 4 (dk_at dksX3_readsSign_2 0 rfl rfl)
theorem dX3_readsSign_50 : decode cX3_readsSign 50 = .ok (.iconst (-1), 1) := dk_2 (dk_at dksX3_readsSign_2 3 rfl rfl)
theorem dX3_readsSign_51 : decode cX3_readsSign 51 = .ok (.istore_n 3, 1) := dk_62 (dk_at dksX3_readsSign_2 4 rfl rfl)
theorem dX3_readsSign_52 : decode cX3_readsSign 52 = .ok (.iload_n 3, 1) := dk_29 (dk_at dksX3_readsSign_2 5 rfl rfl)
theorem dX3_readsSign_53 : decode cX3_readsSign 53 = .ok (.ifCond .lt 8, 3) := dk_155 0 8 (dk_at dksX3_readsSign_2 6 rfl rfl)
theorem dX3_readsSign_56 : decode cX3_readsSign 56 = .ok (.iload_n 3, 1) := dk_29 (dk_at dksX3_readsSign_2 9 rfl rfl)
theorem dX3_readsSign_57 : decode cX3_readsSign 57 = .ok (.iload_n 1, 1) := dk_27 (dk_at dksX3_readsSign_2 10 rfl rfl)
theorem dX3_readsSign_58 : decode cX3_readsSign 58 = .ok (.if_icmp .lt 5, 3) := dk_161 0 5 (dk_at dksX3_readsSign_2 11 rfl rfl)
theorem dX3_readsSign_61 : decode cX3_readsSign 61 = .ok (.iconst (-1), 1) := dk_2 (dk_at dksX3_readsSign_2 14 rfl rfl)
theorem dX3_readsSign_62 : decode cX3_readsSign 62 = .ok (.ireturn, 1) := dk_172 (dk_at dksX3_readsSign_2 15 rfl rfl)
theorem dX3_readsSign_63 : decode cX3_readsSign 63 = .ok (.aload_n 0, 1) := dk_42 (dk_at dksX3_readsSign_2 16 rfl rfl)
theorem dX3_readsSign_64 : decode cX3_readsSign 64 = .ok (.dup, 1) := dk_89 (dk_at dksX3_readsSign_2 17 rfl rfl)
theorem dX3_readsSign_65 : decode cX3_readsSign 65 = .ok (.getfield 133, 3) := dk_180 0 133 (dk_at dksX3_readsSign_2 18 rfl rfl)
theorem dX3_readsSign_68 : decode cX3_readsSign 68 = .ok (.iconst 1, 1) := dk_4 (dk_at dksX3_readsSign_2 21 rfl rfl)
theorem dX3_readsSign_69 : decode cX3_readsSign 69 = .ok (.iadd, 1) := dk_96 (dk_at dksX3_readsSign_2 22 rfl rfl)
theorem dX3_readsSign_70 : decode cX3_readsSign 70 = .ok (.putfield 133, 3) := dk_181 0 133 (dk_at dksX3_readsSign_3 0 rfl rfl)
theorem dX3_readsSign_73 : decode cX3_readsSign 73 = .ok (.iload_n 3, 1) := dk_29 (dk_at dksX3_readsSign_3 3 rfl rfl)
theorem dX3_readsSign_74 : decode cX3_readsSign 74 = .ok (.ireturn, 1) := dk_172 (dk_at dksX3_readsSign_3 4 rfl rfl)
abbrev cX3_readsRanks : ByteArray := prog_10_method_112_code
def yX3_readsRanks : MethodName := ⟨RX3, "readsRanks", "()Z"⟩
def dkwX3_readsRanks_3 : List UInt8 := [167, 0, 4, 3, 172]
abbrev dktX3_readsRanks_3 : List UInt8 := dkwX3_readsRanks_3 ++ []
def dkwX3_readsRanks_2 : List UInt8 := [27, 184, 0, 92, 28, 79, 132, 1, 1, 167, 255, 209, 42, 180, 0, 133, 42, 180, 0, 130, 160, 0, 7, 4]
abbrev dktX3_readsRanks_2 : List UInt8 := dkwX3_readsRanks_2 ++ dktX3_readsRanks_3
def dkwX3_readsRanks_1 : List UInt8 := [180, 0, 7, 16, 9, 46, 100, 182, 1, 40, 61, 28, 2, 160, 0, 5, 3, 172, 42, 180, 0, 27, 16, 9]
abbrev dktX3_readsRanks_1 : List UInt8 := dkwX3_readsRanks_1 ++ dktX3_readsRanks_2
def dkwX3_readsRanks_0 : List UInt8 := [42, 16, 9, 182, 0, 107, 3, 60, 27, 42, 16, 9, 182, 0, 117, 162, 0, 43, 42, 16, 34, 42]
abbrev dktX3_readsRanks_0 : List UInt8 := dkwX3_readsRanks_0 ++ dktX3_readsRanks_1
theorem dksX3_readsRanks_0 : cX3_readsRanks.data.toList.drop 0 = dktX3_readsRanks_0 := by decide +kernel
theorem dksX3_readsRanks_1 : cX3_readsRanks.data.toList.drop 22 = dktX3_readsRanks_1 := dk_seg dksX3_readsRanks_0 22 rfl rfl
theorem dksX3_readsRanks_2 : cX3_readsRanks.data.toList.drop 46 = dktX3_readsRanks_2 := dk_seg dksX3_readsRanks_1 24 rfl rfl
theorem dksX3_readsRanks_3 : cX3_readsRanks.data.toList.drop 70 = dktX3_readsRanks_3 := dk_seg dksX3_readsRanks_2 24 rfl rfl
theorem dX3_readsRanks_0 : decode cX3_readsRanks 0 = .ok (.aload_n 0, 1) := dk_42 (dk_at dksX3_readsRanks_0 0 rfl rfl)
theorem dX3_readsRanks_1 : decode cX3_readsRanks 1 = .ok (.bipush 9, 2) := dk_16 9 (dk_at dksX3_readsRanks_0 1 rfl rfl)
theorem dX3_readsRanks_3 : decode cX3_readsRanks 3 = .ok (.invokevirtual 107, 3) := dk_182 0 107 (dk_at dksX3_readsRanks_0 3 rfl rfl)
theorem dX3_readsRanks_6 : decode cX3_readsRanks 6 = .ok (.iconst 0, 1) := dk_3 (dk_at dksX3_readsRanks_0 6 rfl rfl)
theorem dX3_readsRanks_7 : decode cX3_readsRanks 7 = .ok (.istore_n 1, 1) := dk_60 (dk_at dksX3_readsRanks_0 7 rfl rfl)
theorem dX3_readsRanks_8 : decode cX3_readsRanks 8 = .ok (.iload_n 1, 1) := dk_27 (dk_at dksX3_readsRanks_0 8 rfl rfl)
theorem dX3_readsRanks_9 : decode cX3_readsRanks 9 = .ok (.aload_n 0, 1) := dk_42 (dk_at dksX3_readsRanks_0 9 rfl rfl)
theorem dX3_readsRanks_10 : decode cX3_readsRanks 10 = .ok (.bipush 9, 2) := dk_16 9 (dk_at dksX3_readsRanks_0 10 rfl rfl)
theorem dX3_readsRanks_12 : decode cX3_readsRanks 12 = .ok (.invokevirtual 117, 3) := dk_182 0 117 (dk_at dksX3_readsRanks_0 12 rfl rfl)
theorem dX3_readsRanks_15 : decode cX3_readsRanks 15 = .ok (.if_icmp .ge 43, 3) := dk_162 0 43 (dk_at dksX3_readsRanks_0 15 rfl rfl)
theorem dX3_readsRanks_18 : decode cX3_readsRanks 18 = .ok (.aload_n 0, 1) := dk_42 (dk_at dksX3_readsRanks_0 18 rfl rfl)
theorem dX3_readsRanks_19 : decode cX3_readsRanks 19 = .ok (.bipush 34, 2) := dk_16 34 (dk_at dksX3_readsRanks_0 19 rfl rfl)
theorem dX3_readsRanks_21 : decode cX3_readsRanks 21 = .ok (.aload_n 0, 1) := dk_42 (dk_at dksX3_readsRanks_0 21 rfl rfl)
theorem dX3_readsRanks_22 : decode cX3_readsRanks 22 = .ok (.getfield 7, 3) := dk_180 0 7 (dk_at dksX3_readsRanks_1 0 rfl rfl)
theorem dX3_readsRanks_25 : decode cX3_readsRanks 25 = .ok (.bipush 9, 2) := dk_16 9 (dk_at dksX3_readsRanks_1 3 rfl rfl)
theorem dX3_readsRanks_27 : decode cX3_readsRanks 27 = .ok (.iaload, 1) := dk_46 (dk_at dksX3_readsRanks_1 5 rfl rfl)
theorem dX3_readsRanks_28 : decode cX3_readsRanks 28 = .ok (.isub, 1) := dk_100 (dk_at dksX3_readsRanks_1 6 rfl rfl)
theorem dX3_readsRanks_29 : decode cX3_readsRanks 29 = .ok (.invokevirtual 296, 3) := dk_182 1 40 (dk_at dksX3_readsRanks_1 7 rfl rfl)
theorem dX3_readsRanks_32 : decode cX3_readsRanks 32 = .ok (.istore_n 2, 1) := dk_61 (dk_at dksX3_readsRanks_1 10 rfl rfl)
theorem dX3_readsRanks_33 : decode cX3_readsRanks 33 = .ok (.iload_n 2, 1) := dk_28 (dk_at dksX3_readsRanks_1 11 rfl rfl)
theorem dX3_readsRanks_34 : decode cX3_readsRanks 34 = .ok (.iconst (-1), 1) := dk_2 (dk_at dksX3_readsRanks_1 12 rfl rfl)
theorem dX3_readsRanks_35 : decode cX3_readsRanks 35 = .ok (.if_icmp .ne 5, 3) := dk_160 0 5 (dk_at dksX3_readsRanks_1 13 rfl rfl)
theorem dX3_readsRanks_38 : decode cX3_readsRanks 38 = .ok (.iconst 0, 1) := dk_3 (dk_at dksX3_readsRanks_1 16 rfl rfl)
theorem dX3_readsRanks_39 : decode cX3_readsRanks 39 = .ok (.ireturn, 1) := dk_172 (dk_at dksX3_readsRanks_1 17 rfl rfl)
theorem dX3_readsRanks_40 : decode cX3_readsRanks 40 = .ok (.aload_n 0, 1) := dk_42 (dk_at dksX3_readsRanks_1 18 rfl rfl)
theorem dX3_readsRanks_41 : decode cX3_readsRanks 41 = .ok (.getfield 27, 3) := dk_180 0 27 (dk_at dksX3_readsRanks_1 19 rfl rfl)
theorem dX3_readsRanks_44 : decode cX3_readsRanks 44 = .ok (.bipush 9, 2) := dk_16 9 (dk_at dksX3_readsRanks_1 22 rfl rfl)
theorem dX3_readsRanks_46 : decode cX3_readsRanks 46 = .ok (.iload_n 1, 1) := dk_27 (dk_at dksX3_readsRanks_2 0 rfl rfl)
theorem dX3_readsRanks_47 : decode cX3_readsRanks 47 = .ok (.invokestatic 92, 3) := dk_184 0 92 (dk_at dksX3_readsRanks_2 1 rfl rfl)
theorem dX3_readsRanks_50 : decode cX3_readsRanks 50 = .ok (.iload_n 2, 1) := dk_28 (dk_at dksX3_readsRanks_2 4 rfl rfl)
theorem dX3_readsRanks_51 : decode cX3_readsRanks 51 = .ok (.iastore, 1) := dk_79 (dk_at dksX3_readsRanks_2 5 rfl rfl)
theorem dX3_readsRanks_52 : decode cX3_readsRanks 52 = .ok (.iinc 1 1, 3) := dk_132 1 1 (dk_at dksX3_readsRanks_2 6 rfl rfl)
theorem dX3_readsRanks_55 : decode cX3_readsRanks 55 = .ok (.goto (-47), 3) := dk_167 255 209 (dk_at dksX3_readsRanks_2 9 rfl rfl)
theorem dX3_readsRanks_58 : decode cX3_readsRanks 58 = .ok (.aload_n 0, 1) := dk_42 (dk_at dksX3_readsRanks_2 12 rfl rfl)
theorem dX3_readsRanks_59 : decode cX3_readsRanks 59 = .ok (.getfield 133, 3) := dk_180 0 133 (dk_at dksX3_readsRanks_2 13 rfl rfl)
theorem dX3_readsRanks_62 : decode cX3_readsRanks 62 = .ok (.aload_n 0, 1) := dk_42 (dk_at dksX3_readsRanks_2 16 rfl rfl)
theorem dX3_readsRanks_63 : decode cX3_readsRanks 63 = .ok (.getfield 130, 3) := dk_180 0 130 (dk_at dksX3_readsRanks_2 17 rfl rfl)
theorem dX3_readsRanks_66 : decode cX3_readsRanks 66 = .ok (.if_icmp .ne 7, 3) := dk_160 0 7 (dk_at dksX3_readsRanks_2 20 rfl rfl)
theorem dX3_readsRanks_69 : decode cX3_readsRanks 69 = .ok (.iconst 1, 1) := dk_4 (dk_at dksX3_readsRanks_2 23 rfl rfl)
theorem dX3_readsRanks_70 : decode cX3_readsRanks 70 = .ok (.goto 4, 3) := dk_167 0 4 (dk_at dksX3_readsRanks_3 0 rfl rfl)
theorem dX3_readsRanks_73 : decode cX3_readsRanks 73 = .ok (.iconst 0, 1) := dk_3 (dk_at dksX3_readsRanks_3 3 rfl rfl)
theorem dX3_readsRanks_74 : decode cX3_readsRanks 74 = .ok (.ireturn, 1) := dk_172 (dk_at dksX3_readsRanks_3 4 rfl rfl)
abbrev cX3_count : ByteArray := prog_10_method_119_code
def yX3_count : MethodName := ⟨RX3, "count", "(I)I"⟩
def dkwX3_count_3 : List UInt8 := [172, 42, 180, 0, 57, 172, 42, 182, 1, 66, 172, 42, 182, 1, 69, 172, 2, 172]
abbrev dktX3_count_3 : List UInt8 := dkwX3_count_3 ++ []
def dkwX3_count_2 : List UInt8 := [42, 180, 0, 30, 172, 42, 180, 0, 64, 172, 42, 182, 1, 60, 172, 42, 182, 1, 63, 172, 42, 180, 0, 54]
abbrev dktX3_count_2 : List UInt8 := dkwX3_count_2 ++ dktX3_count_3
def dkwX3_count_1 : List UInt8 := [170, 0, 0, 0, 0, 86, 0, 0, 0, 0, 0, 0, 0, 7, 0, 0, 0, 46, 0, 0, 0, 51, 0, 0, 0, 56, 0, 0, 0, 61, 0, 0, 0, 66, 0, 0, 0, 71, 0, 0, 0, 76, 0, 0, 0, 81]
abbrev dktX3_count_1 : List UInt8 := dkwX3_count_1 ++ dktX3_count_2
def dkwX3_count_0 : List UInt8 := [42, 3, 181, 0, 51, 27]
abbrev dktX3_count_0 : List UInt8 := dkwX3_count_0 ++ dktX3_count_1
theorem dksX3_count_0 : cX3_count.data.toList.drop 0 = dktX3_count_0 := by decide +kernel
theorem dksX3_count_1 : cX3_count.data.toList.drop 6 = dktX3_count_1 := dk_seg dksX3_count_0 6 rfl rfl
theorem dksX3_count_2 : cX3_count.data.toList.drop 52 = dktX3_count_2 := dk_seg dksX3_count_1 46 rfl rfl
theorem dksX3_count_3 : cX3_count.data.toList.drop 76 = dktX3_count_3 := dk_seg dksX3_count_2 24 rfl rfl
theorem dX3_count_0 : decode cX3_count 0 = .ok (.aload_n 0, 1) := dk_42 (dk_at dksX3_count_0 0 rfl rfl)
theorem dX3_count_1 : decode cX3_count 1 = .ok (.iconst 0, 1) := dk_3 (dk_at dksX3_count_0 1 rfl rfl)
theorem dX3_count_2 : decode cX3_count 2 = .ok (.putfield 51, 3) := dk_181 0 51 (dk_at dksX3_count_0 2 rfl rfl)
theorem dX3_count_5 : decode cX3_count 5 = .ok (.iload_n 1, 1) := dk_27 (dk_at dksX3_count_0 5 rfl rfl)
theorem dX3_count_6 : decode cX3_count 6 = .ok (.tableswitch 86 0 7 #[46, 51, 56, 61, 66, 71, 76, 81], 46) := by decide +kernel
theorem dX3_count_52 : decode cX3_count 52 = .ok (.aload_n 0, 1) := dk_42 (dk_at dksX3_count_2 0 rfl rfl)
theorem dX3_count_53 : decode cX3_count 53 = .ok (.getfield 30, 3) := dk_180 0 30 (dk_at dksX3_count_2 1 rfl rfl)
theorem dX3_count_56 : decode cX3_count 56 = .ok (.ireturn, 1) := dk_172 (dk_at dksX3_count_2 4 rfl rfl)
theorem dX3_count_57 : decode cX3_count 57 = .ok (.aload_n 0, 1) := dk_42 (dk_at dksX3_count_2 5 rfl rfl)
theorem dX3_count_58 : decode cX3_count 58 = .ok (.getfield 64, 3) := dk_180 0 64 (dk_at dksX3_count_2 6 rfl rfl)
theorem dX3_count_61 : decode cX3_count 61 = .ok (.ireturn, 1) := dk_172 (dk_at dksX3_count_2 9 rfl rfl)
theorem dX3_count_62 : decode cX3_count 62 = .ok (.aload_n 0, 1) := dk_42 (dk_at dksX3_count_2 10 rfl rfl)
theorem dX3_count_63 : decode cX3_count 63 = .ok (.invokevirtual 316, 3) := dk_182 1 60 (dk_at dksX3_count_2 11 rfl rfl)
theorem dX3_count_66 : decode cX3_count 66 = .ok (.ireturn, 1) := dk_172 (dk_at dksX3_count_2 14 rfl rfl)
theorem dX3_count_67 : decode cX3_count 67 = .ok (.aload_n 0, 1) := dk_42 (dk_at dksX3_count_2 15 rfl rfl)
theorem dX3_count_68 : decode cX3_count 68 = .ok (.invokevirtual 319, 3) := dk_182 1 63 (dk_at dksX3_count_2 16 rfl rfl)
theorem dX3_count_71 : decode cX3_count 71 = .ok (.ireturn, 1) := dk_172 (dk_at dksX3_count_2 19 rfl rfl)
theorem dX3_count_72 : decode cX3_count 72 = .ok (.aload_n 0, 1) := dk_42 (dk_at dksX3_count_2 20 rfl rfl)
theorem dX3_count_73 : decode cX3_count 73 = .ok (.getfield 54, 3) := dk_180 0 54 (dk_at dksX3_count_2 21 rfl rfl)
theorem dX3_count_76 : decode cX3_count 76 = .ok (.ireturn, 1) := dk_172 (dk_at dksX3_count_3 0 rfl rfl)
theorem dX3_count_77 : decode cX3_count 77 = .ok (.aload_n 0, 1) := dk_42 (dk_at dksX3_count_3 1 rfl rfl)
theorem dX3_count_78 : decode cX3_count 78 = .ok (.getfield 57, 3) := dk_180 0 57 (dk_at dksX3_count_3 2 rfl rfl)
theorem dX3_count_81 : decode cX3_count 81 = .ok (.ireturn, 1) := dk_172 (dk_at dksX3_count_3 5 rfl rfl)
theorem dX3_count_82 : decode cX3_count 82 = .ok (.aload_n 0, 1) := dk_42 (dk_at dksX3_count_3 6 rfl rfl)
theorem dX3_count_83 : decode cX3_count 83 = .ok (.invokevirtual 322, 3) := dk_182 1 66 (dk_at dksX3_count_3 7 rfl rfl)
theorem dX3_count_86 : decode cX3_count 86 = .ok (.ireturn, 1) := dk_172 (dk_at dksX3_count_3 10 rfl rfl)
theorem dX3_count_87 : decode cX3_count 87 = .ok (.aload_n 0, 1) := dk_42 (dk_at dksX3_count_3 11 rfl rfl)
theorem dX3_count_88 : decode cX3_count 88 = .ok (.invokevirtual 325, 3) := dk_182 1 69 (dk_at dksX3_count_3 12 rfl rfl)
theorem dX3_count_91 : decode cX3_count 91 = .ok (.ireturn, 1) := dk_172 (dk_at dksX3_count_3 15 rfl rfl)
theorem dX3_count_92 : decode cX3_count 92 = .ok (.iconst (-1), 1) := dk_2 (dk_at dksX3_count_3 16 rfl rfl)
theorem dX3_count_93 : decode cX3_count 93 = .ok (.ireturn, 1) := dk_172 (dk_at dksX3_count_3 17 rfl rfl)
abbrev cX3_denseBits : ByteArray := prog_10_method_115_code
def yX3_denseBits : MethodName := ⟨RX3, "denseBits", "()I"⟩
def dkwX3_denseBits_1 : List UInt8 := [167, 0, 4, 3, 128, 60, 132, 2, 1, 167, 255, 228, 27, 172]
abbrev dktX3_denseBits_1 : List UInt8 := dkwX3_denseBits_1 ++ []
def dkwX3_denseBits_0 : List UInt8 := [3, 60, 3, 61, 28, 16, 6, 162, 0, 28, 27, 42, 180, 0, 16, 28, 51, 153, 0, 9, 4, 28, 120]
abbrev dktX3_denseBits_0 : List UInt8 := dkwX3_denseBits_0 ++ dktX3_denseBits_1
theorem dksX3_denseBits_0 : cX3_denseBits.data.toList.drop 0 = dktX3_denseBits_0 := by decide +kernel
theorem dksX3_denseBits_1 : cX3_denseBits.data.toList.drop 23 = dktX3_denseBits_1 := dk_seg dksX3_denseBits_0 23 rfl rfl
theorem dX3_denseBits_0 : decode cX3_denseBits 0 = .ok (.iconst 0, 1) := dk_3 (dk_at dksX3_denseBits_0 0 rfl rfl)
theorem dX3_denseBits_1 : decode cX3_denseBits 1 = .ok (.istore_n 1, 1) := dk_60 (dk_at dksX3_denseBits_0 1 rfl rfl)
theorem dX3_denseBits_2 : decode cX3_denseBits 2 = .ok (.iconst 0, 1) := dk_3 (dk_at dksX3_denseBits_0 2 rfl rfl)
theorem dX3_denseBits_3 : decode cX3_denseBits 3 = .ok (.istore_n 2, 1) := dk_61 (dk_at dksX3_denseBits_0 3 rfl rfl)
theorem dX3_denseBits_4 : decode cX3_denseBits 4 = .ok (.iload_n 2, 1) := dk_28 (dk_at dksX3_denseBits_0 4 rfl rfl)
theorem dX3_denseBits_5 : decode cX3_denseBits 5 = .ok (.bipush 6, 2) := dk_16 6 (dk_at dksX3_denseBits_0 5 rfl rfl)
theorem dX3_denseBits_7 : decode cX3_denseBits 7 = .ok (.if_icmp .ge 28, 3) := dk_162 0 28 (dk_at dksX3_denseBits_0 7 rfl rfl)
theorem dX3_denseBits_10 : decode cX3_denseBits 10 = .ok (.iload_n 1, 1) := dk_27 (dk_at dksX3_denseBits_0 10 rfl rfl)
theorem dX3_denseBits_11 : decode cX3_denseBits 11 = .ok (.aload_n 0, 1) := dk_42 (dk_at dksX3_denseBits_0 11 rfl rfl)
theorem dX3_denseBits_12 : decode cX3_denseBits 12 = .ok (.getfield 16, 3) := dk_180 0 16 (dk_at dksX3_denseBits_0 12 rfl rfl)
theorem dX3_denseBits_15 : decode cX3_denseBits 15 = .ok (.iload_n 2, 1) := dk_28 (dk_at dksX3_denseBits_0 15 rfl rfl)
theorem dX3_denseBits_16 : decode cX3_denseBits 16 = .ok (.baload, 1) := dk_51 (dk_at dksX3_denseBits_0 16 rfl rfl)
theorem dX3_denseBits_17 : decode cX3_denseBits 17 = .ok (.ifCond .eq 9, 3) := dk_153 0 9 (dk_at dksX3_denseBits_0 17 rfl rfl)
theorem dX3_denseBits_20 : decode cX3_denseBits 20 = .ok (.iconst 1, 1) := dk_4 (dk_at dksX3_denseBits_0 20 rfl rfl)
theorem dX3_denseBits_21 : decode cX3_denseBits 21 = .ok (.iload_n 2, 1) := dk_28 (dk_at dksX3_denseBits_0 21 rfl rfl)
theorem dX3_denseBits_22 : decode cX3_denseBits 22 = .ok (.ishl, 1) := dk_120 (dk_at dksX3_denseBits_0 22 rfl rfl)
theorem dX3_denseBits_23 : decode cX3_denseBits 23 = .ok (.goto 4, 3) := dk_167 0 4 (dk_at dksX3_denseBits_1 0 rfl rfl)
theorem dX3_denseBits_26 : decode cX3_denseBits 26 = .ok (.iconst 0, 1) := dk_3 (dk_at dksX3_denseBits_1 3 rfl rfl)
theorem dX3_denseBits_27 : decode cX3_denseBits 27 = .ok (.ior, 1) := dk_128 (dk_at dksX3_denseBits_1 4 rfl rfl)
theorem dX3_denseBits_28 : decode cX3_denseBits 28 = .ok (.istore_n 1, 1) := dk_60 (dk_at dksX3_denseBits_1 5 rfl rfl)
theorem dX3_denseBits_29 : decode cX3_denseBits 29 = .ok (.iinc 2 1, 3) := dk_132 2 1 (dk_at dksX3_denseBits_1 6 rfl rfl)
theorem dX3_denseBits_32 : decode cX3_denseBits 32 = .ok (.goto (-28), 3) := dk_167 255 228 (dk_at dksX3_denseBits_1 9 rfl rfl)
theorem dX3_denseBits_35 : decode cX3_denseBits 35 = .ok (.iload_n 1, 1) := dk_27 (dk_at dksX3_denseBits_1 12 rfl rfl)
theorem dX3_denseBits_36 : decode cX3_denseBits 36 = .ok (.ireturn, 1) := dk_172 (dk_at dksX3_denseBits_1 13 rfl rfl)
abbrev cX3_rankedBits : ByteArray := prog_10_method_116_code
def yX3_rankedBits : MethodName := ⟨RX3, "rankedBits", "()I"⟩
def dkwX3_rankedBits_1 : List UInt8 := [167, 0, 4, 3, 128, 60, 132, 2, 1, 167, 255, 229, 27, 172]
abbrev dktX3_rankedBits_1 : List UInt8 := dkwX3_rankedBits_1 ++ []
def dkwX3_rankedBits_0 : List UInt8 := [3, 60, 3, 61, 28, 16, 6, 162, 0, 27, 27, 42, 28, 182, 0, 158, 158, 0, 9, 4, 28, 120]
abbrev dktX3_rankedBits_0 : List UInt8 := dkwX3_rankedBits_0 ++ dktX3_rankedBits_1
theorem dksX3_rankedBits_0 : cX3_rankedBits.data.toList.drop 0 = dktX3_rankedBits_0 := by decide +kernel
theorem dksX3_rankedBits_1 : cX3_rankedBits.data.toList.drop 22 = dktX3_rankedBits_1 := dk_seg dksX3_rankedBits_0 22 rfl rfl
theorem dX3_rankedBits_0 : decode cX3_rankedBits 0 = .ok (.iconst 0, 1) := dk_3 (dk_at dksX3_rankedBits_0 0 rfl rfl)
theorem dX3_rankedBits_1 : decode cX3_rankedBits 1 = .ok (.istore_n 1, 1) := dk_60 (dk_at dksX3_rankedBits_0 1 rfl rfl)
theorem dX3_rankedBits_2 : decode cX3_rankedBits 2 = .ok (.iconst 0, 1) := dk_3 (dk_at dksX3_rankedBits_0 2 rfl rfl)
theorem dX3_rankedBits_3 : decode cX3_rankedBits 3 = .ok (.istore_n 2, 1) := dk_61 (dk_at dksX3_rankedBits_0 3 rfl rfl)
theorem dX3_rankedBits_4 : decode cX3_rankedBits 4 = .ok (.iload_n 2, 1) := dk_28 (dk_at dksX3_rankedBits_0 4 rfl rfl)
theorem dX3_rankedBits_5 : decode cX3_rankedBits 5 = .ok (.bipush 6, 2) := dk_16 6 (dk_at dksX3_rankedBits_0 5 rfl rfl)
theorem dX3_rankedBits_7 : decode cX3_rankedBits 7 = .ok (.if_icmp .ge 27, 3) := dk_162 0 27 (dk_at dksX3_rankedBits_0 7 rfl rfl)
theorem dX3_rankedBits_10 : decode cX3_rankedBits 10 = .ok (.iload_n 1, 1) := dk_27 (dk_at dksX3_rankedBits_0 10 rfl rfl)
theorem dX3_rankedBits_11 : decode cX3_rankedBits 11 = .ok (.aload_n 0, 1) := dk_42 (dk_at dksX3_rankedBits_0 11 rfl rfl)
theorem dX3_rankedBits_12 : decode cX3_rankedBits 12 = .ok (.iload_n 2, 1) := dk_28 (dk_at dksX3_rankedBits_0 12 rfl rfl)
theorem dX3_rankedBits_13 : decode cX3_rankedBits 13 = .ok (.invokevirtual 158, 3) := dk_182 0 158 (dk_at dksX3_rankedBits_0 13 rfl rfl)
theorem dX3_rankedBits_16 : decode cX3_rankedBits 16 = .ok (.ifCond .le 9, 3) := dk_158 0 9 (dk_at dksX3_rankedBits_0 16 rfl rfl)
theorem dX3_rankedBits_19 : decode cX3_rankedBits 19 = .ok (.iconst 1, 1) := dk_4 (dk_at dksX3_rankedBits_0 19 rfl rfl)
theorem dX3_rankedBits_20 : decode cX3_rankedBits 20 = .ok (.iload_n 2, 1) := dk_28 (dk_at dksX3_rankedBits_0 20 rfl rfl)
theorem dX3_rankedBits_21 : decode cX3_rankedBits 21 = .ok (.ishl, 1) := dk_120 (dk_at dksX3_rankedBits_0 21 rfl rfl)
theorem dX3_rankedBits_22 : decode cX3_rankedBits 22 = .ok (.goto 4, 3) := dk_167 0 4 (dk_at dksX3_rankedBits_1 0 rfl rfl)
theorem dX3_rankedBits_25 : decode cX3_rankedBits 25 = .ok (.iconst 0, 1) := dk_3 (dk_at dksX3_rankedBits_1 3 rfl rfl)
theorem dX3_rankedBits_26 : decode cX3_rankedBits 26 = .ok (.ior, 1) := dk_128 (dk_at dksX3_rankedBits_1 4 rfl rfl)
theorem dX3_rankedBits_27 : decode cX3_rankedBits 27 = .ok (.istore_n 1, 1) := dk_60 (dk_at dksX3_rankedBits_1 5 rfl rfl)
theorem dX3_rankedBits_28 : decode cX3_rankedBits 28 = .ok (.iinc 2 1, 3) := dk_132 2 1 (dk_at dksX3_rankedBits_1 6 rfl rfl)
theorem dX3_rankedBits_31 : decode cX3_rankedBits 31 = .ok (.goto (-27), 3) := dk_167 255 229 (dk_at dksX3_rankedBits_1 9 rfl rfl)
theorem dX3_rankedBits_34 : decode cX3_rankedBits 34 = .ok (.iload_n 1, 1) := dk_27 (dk_at dksX3_rankedBits_1 12 rfl rfl)
theorem dX3_rankedBits_35 : decode cX3_rankedBits 35 = .ok (.ireturn, 1) := dk_172 (dk_at dksX3_rankedBits_1 13 rfl rfl)
abbrev cX3_markSum : ByteArray := prog_10_method_117_code
def yX3_markSum : MethodName := ⟨RX3, "markSum", "()I"⟩
def dkwX3_markSum_1 : List UInt8 := [167, 255, 238, 27, 172]
abbrev dktX3_markSum_1 : List UInt8 := dkwX3_markSum_1 ++ []
def dkwX3_markSum_0 : List UInt8 := [3, 60, 3, 61, 28, 16, 6, 162, 0, 18, 27, 42, 180, 0, 24, 28, 46, 96, 60, 132, 2, 1]
abbrev dktX3_markSum_0 : List UInt8 := dkwX3_markSum_0 ++ dktX3_markSum_1
theorem dksX3_markSum_0 : cX3_markSum.data.toList.drop 0 = dktX3_markSum_0 := by decide +kernel
theorem dksX3_markSum_1 : cX3_markSum.data.toList.drop 22 = dktX3_markSum_1 := dk_seg dksX3_markSum_0 22 rfl rfl
theorem dX3_markSum_0 : decode cX3_markSum 0 = .ok (.iconst 0, 1) := dk_3 (dk_at dksX3_markSum_0 0 rfl rfl)
theorem dX3_markSum_1 : decode cX3_markSum 1 = .ok (.istore_n 1, 1) := dk_60 (dk_at dksX3_markSum_0 1 rfl rfl)
theorem dX3_markSum_2 : decode cX3_markSum 2 = .ok (.iconst 0, 1) := dk_3 (dk_at dksX3_markSum_0 2 rfl rfl)
theorem dX3_markSum_3 : decode cX3_markSum 3 = .ok (.istore_n 2, 1) := dk_61 (dk_at dksX3_markSum_0 3 rfl rfl)
theorem dX3_markSum_4 : decode cX3_markSum 4 = .ok (.iload_n 2, 1) := dk_28 (dk_at dksX3_markSum_0 4 rfl rfl)
theorem dX3_markSum_5 : decode cX3_markSum 5 = .ok (.bipush 6, 2) := dk_16 6 (dk_at dksX3_markSum_0 5 rfl rfl)
theorem dX3_markSum_7 : decode cX3_markSum 7 = .ok (.if_icmp .ge 18, 3) := dk_162 0 18 (dk_at dksX3_markSum_0 7 rfl rfl)
theorem dX3_markSum_10 : decode cX3_markSum 10 = .ok (.iload_n 1, 1) := dk_27 (dk_at dksX3_markSum_0 10 rfl rfl)
theorem dX3_markSum_11 : decode cX3_markSum 11 = .ok (.aload_n 0, 1) := dk_42 (dk_at dksX3_markSum_0 11 rfl rfl)
theorem dX3_markSum_12 : decode cX3_markSum 12 = .ok (.getfield 24, 3) := dk_180 0 24 (dk_at dksX3_markSum_0 12 rfl rfl)
theorem dX3_markSum_15 : decode cX3_markSum 15 = .ok (.iload_n 2, 1) := dk_28 (dk_at dksX3_markSum_0 15 rfl rfl)
theorem dX3_markSum_16 : decode cX3_markSum 16 = .ok (.iaload, 1) := dk_46 (dk_at dksX3_markSum_0 16 rfl rfl)
theorem dX3_markSum_17 : decode cX3_markSum 17 = .ok (.iadd, 1) := dk_96 (dk_at dksX3_markSum_0 17 rfl rfl)
theorem dX3_markSum_18 : decode cX3_markSum 18 = .ok (.istore_n 1, 1) := dk_60 (dk_at dksX3_markSum_0 18 rfl rfl)
theorem dX3_markSum_19 : decode cX3_markSum 19 = .ok (.iinc 2 1, 3) := dk_132 2 1 (dk_at dksX3_markSum_0 19 rfl rfl)
theorem dX3_markSum_22 : decode cX3_markSum 22 = .ok (.goto (-18), 3) := dk_167 255 238 (dk_at dksX3_markSum_1 0 rfl rfl)
theorem dX3_markSum_25 : decode cX3_markSum 25 = .ok (.iload_n 1, 1) := dk_27 (dk_at dksX3_markSum_1 3 rfl rfl)
theorem dX3_markSum_26 : decode cX3_markSum 26 = .ok (.ireturn, 1) := dk_172 (dk_at dksX3_markSum_1 4 rfl rfl)
abbrev cX3_placeSum : ByteArray := prog_10_method_118_code
def yX3_placeSum : MethodName := ⟨RX3, "placeSum", "()I"⟩
def dkwX3_placeSum_1 : List UInt8 := [27, 172]
abbrev dktX3_placeSum_1 : List UInt8 := dkwX3_placeSum_1 ++ []
def dkwX3_placeSum_0 : List UInt8 := [3, 60, 3, 61, 28, 16, 6, 162, 0, 17, 27, 42, 28, 182, 0, 117, 96, 60, 132, 2, 1, 167, 255, 239]
abbrev dktX3_placeSum_0 : List UInt8 := dkwX3_placeSum_0 ++ dktX3_placeSum_1
theorem dksX3_placeSum_0 : cX3_placeSum.data.toList.drop 0 = dktX3_placeSum_0 := by decide +kernel
theorem dksX3_placeSum_1 : cX3_placeSum.data.toList.drop 24 = dktX3_placeSum_1 := dk_seg dksX3_placeSum_0 24 rfl rfl
theorem dX3_placeSum_0 : decode cX3_placeSum 0 = .ok (.iconst 0, 1) := dk_3 (dk_at dksX3_placeSum_0 0 rfl rfl)
theorem dX3_placeSum_1 : decode cX3_placeSum 1 = .ok (.istore_n 1, 1) := dk_60 (dk_at dksX3_placeSum_0 1 rfl rfl)
theorem dX3_placeSum_2 : decode cX3_placeSum 2 = .ok (.iconst 0, 1) := dk_3 (dk_at dksX3_placeSum_0 2 rfl rfl)
theorem dX3_placeSum_3 : decode cX3_placeSum 3 = .ok (.istore_n 2, 1) := dk_61 (dk_at dksX3_placeSum_0 3 rfl rfl)
theorem dX3_placeSum_4 : decode cX3_placeSum 4 = .ok (.iload_n 2, 1) := dk_28 (dk_at dksX3_placeSum_0 4 rfl rfl)
theorem dX3_placeSum_5 : decode cX3_placeSum 5 = .ok (.bipush 6, 2) := dk_16 6 (dk_at dksX3_placeSum_0 5 rfl rfl)
theorem dX3_placeSum_7 : decode cX3_placeSum 7 = .ok (.if_icmp .ge 17, 3) := dk_162 0 17 (dk_at dksX3_placeSum_0 7 rfl rfl)
theorem dX3_placeSum_10 : decode cX3_placeSum 10 = .ok (.iload_n 1, 1) := dk_27 (dk_at dksX3_placeSum_0 10 rfl rfl)
theorem dX3_placeSum_11 : decode cX3_placeSum 11 = .ok (.aload_n 0, 1) := dk_42 (dk_at dksX3_placeSum_0 11 rfl rfl)
theorem dX3_placeSum_12 : decode cX3_placeSum 12 = .ok (.iload_n 2, 1) := dk_28 (dk_at dksX3_placeSum_0 12 rfl rfl)
theorem dX3_placeSum_13 : decode cX3_placeSum 13 = .ok (.invokevirtual 117, 3) := dk_182 0 117 (dk_at dksX3_placeSum_0 13 rfl rfl)
theorem dX3_placeSum_16 : decode cX3_placeSum 16 = .ok (.iadd, 1) := dk_96 (dk_at dksX3_placeSum_0 16 rfl rfl)
theorem dX3_placeSum_17 : decode cX3_placeSum 17 = .ok (.istore_n 1, 1) := dk_60 (dk_at dksX3_placeSum_0 17 rfl rfl)
theorem dX3_placeSum_18 : decode cX3_placeSum 18 = .ok (.iinc 2 1, 3) := dk_132 2 1 (dk_at dksX3_placeSum_0 18 rfl rfl)
theorem dX3_placeSum_21 : decode cX3_placeSum 21 = .ok (.goto (-17), 3) := dk_167 255 239 (dk_at dksX3_placeSum_0 21 rfl rfl)
theorem dX3_placeSum_24 : decode cX3_placeSum 24 = .ok (.iload_n 1, 1) := dk_27 (dk_at dksX3_placeSum_1 0 rfl rfl)
theorem dX3_placeSum_25 : decode cX3_placeSum 25 = .ok (.ireturn, 1) := dk_172 (dk_at dksX3_placeSum_1 1 rfl rfl)
abbrev cX3_row : ByteArray := prog_10_method_120_code
def yX3_row : MethodName := ⟨RX3, "row", "(I)J"⟩
def dkwX3_row_1 : List UInt8 := [180, 0, 38, 27, 47, 167, 0, 8, 42, 182, 1, 72, 133, 173]
abbrev dktX3_row_1 : List UInt8 := dkwX3_row_1 ++ []
def dkwX3_row_0 : List UInt8 := [42, 3, 181, 0, 51, 27, 133, 9, 42, 180, 0, 54, 4, 100, 133, 184, 0, 60, 153, 0, 12, 42]
abbrev dktX3_row_0 : List UInt8 := dkwX3_row_0 ++ dktX3_row_1
theorem dksX3_row_0 : cX3_row.data.toList.drop 0 = dktX3_row_0 := by decide +kernel
theorem dksX3_row_1 : cX3_row.data.toList.drop 22 = dktX3_row_1 := dk_seg dksX3_row_0 22 rfl rfl
theorem dX3_row_0 : decode cX3_row 0 = .ok (.aload_n 0, 1) := dk_42 (dk_at dksX3_row_0 0 rfl rfl)
theorem dX3_row_1 : decode cX3_row 1 = .ok (.iconst 0, 1) := dk_3 (dk_at dksX3_row_0 1 rfl rfl)
theorem dX3_row_2 : decode cX3_row 2 = .ok (.putfield 51, 3) := dk_181 0 51 (dk_at dksX3_row_0 2 rfl rfl)
theorem dX3_row_5 : decode cX3_row 5 = .ok (.iload_n 1, 1) := dk_27 (dk_at dksX3_row_0 5 rfl rfl)
theorem dX3_row_6 : decode cX3_row 6 = .ok (.i2l, 1) := dk_133 (dk_at dksX3_row_0 6 rfl rfl)
theorem dX3_row_7 : decode cX3_row 7 = .ok (.lconst 0, 1) := dk_9 (dk_at dksX3_row_0 7 rfl rfl)
theorem dX3_row_8 : decode cX3_row 8 = .ok (.aload_n 0, 1) := dk_42 (dk_at dksX3_row_0 8 rfl rfl)
theorem dX3_row_9 : decode cX3_row 9 = .ok (.getfield 54, 3) := dk_180 0 54 (dk_at dksX3_row_0 9 rfl rfl)
theorem dX3_row_12 : decode cX3_row 12 = .ok (.iconst 1, 1) := dk_4 (dk_at dksX3_row_0 12 rfl rfl)
theorem dX3_row_13 : decode cX3_row 13 = .ok (.isub, 1) := dk_100 (dk_at dksX3_row_0 13 rfl rfl)
theorem dX3_row_14 : decode cX3_row 14 = .ok (.i2l, 1) := dk_133 (dk_at dksX3_row_0 14 rfl rfl)
theorem dX3_row_15 : decode cX3_row 15 = .ok (.invokestatic 60, 3) := dk_184 0 60 (dk_at dksX3_row_0 15 rfl rfl)
theorem dX3_row_18 : decode cX3_row 18 = .ok (.ifCond .eq 12, 3) := dk_153 0 12 (dk_at dksX3_row_0 18 rfl rfl)
theorem dX3_row_21 : decode cX3_row 21 = .ok (.aload_n 0, 1) := dk_42 (dk_at dksX3_row_0 21 rfl rfl)
theorem dX3_row_22 : decode cX3_row 22 = .ok (.getfield 38, 3) := dk_180 0 38 (dk_at dksX3_row_1 0 rfl rfl)
theorem dX3_row_25 : decode cX3_row 25 = .ok (.iload_n 1, 1) := dk_27 (dk_at dksX3_row_1 3 rfl rfl)
theorem dX3_row_26 : decode cX3_row 26 = .ok (.laload, 1) := dk_47 (dk_at dksX3_row_1 4 rfl rfl)
theorem dX3_row_27 : decode cX3_row 27 = .ok (.goto 8, 3) := dk_167 0 8 (dk_at dksX3_row_1 5 rfl rfl)
theorem dX3_row_30 : decode cX3_row 30 = .ok (.aload_n 0, 1) := dk_42 (dk_at dksX3_row_1 8 rfl rfl)
theorem dX3_row_31 : decode cX3_row 31 = .ok (.invokevirtual 328, 3) := dk_182 1 72 (dk_at dksX3_row_1 9 rfl rfl)
theorem dX3_row_34 : decode cX3_row 34 = .ok (.i2l, 1) := dk_133 (dk_at dksX3_row_1 12 rfl rfl)
theorem dX3_row_35 : decode cX3_row 35 = .ok (.lreturn, 1) := dk_173 (dk_at dksX3_row_1 13 rfl rfl)
abbrev cX3_lost : ByteArray := prog_10_method_4_code
def yX3_lost : MethodName := ⟨RX3, "lost", "()I"⟩
def dkwX3_lost_0 : List UInt8 := [42, 4, 181, 0, 51, 3, 172]
abbrev dktX3_lost_0 : List UInt8 := dkwX3_lost_0 ++ []
theorem dksX3_lost_0 : cX3_lost.data.toList.drop 0 = dktX3_lost_0 := by decide +kernel
theorem dX3_lost_0 : decode cX3_lost 0 = .ok (.aload_n 0, 1) := dk_42 (dk_at dksX3_lost_0 0 rfl rfl)
theorem dX3_lost_1 : decode cX3_lost 1 = .ok (.iconst 1, 1) := dk_4 (dk_at dksX3_lost_0 1 rfl rfl)
theorem dX3_lost_2 : decode cX3_lost 2 = .ok (.putfield 51, 3) := dk_181 0 51 (dk_at dksX3_lost_0 2 rfl rfl)
theorem dX3_lost_5 : decode cX3_lost 5 = .ok (.iconst 0, 1) := dk_3 (dk_at dksX3_lost_0 5 rfl rfl)
theorem dX3_lost_6 : decode cX3_lost 6 = .ok (.ireturn, 1) := dk_172 (dk_at dksX3_lost_0 6 rfl rfl)
theorem q85 : (Jvm.Cond.initialized "DistinctMarksModel") ∈ lw_all := lw_g (lw_at lw_m1 3 rfl) rfl
theorem q1146 : (Jvm.Cond.instantiable "DistinctMarksModel" (19 : Nat)) ∈ lw_all := lw_g (lw_at lw_m5 104 rfl) rfl
theorem q1148 : (Jvm.Cond.instanceMethod ({ cls := "DistinctMarksModel", name := "<init>", desc := "()V" } : Jvm.MethodName)) ∈ lw_all := lw_g (lw_at lw_m5 106 rfl) rfl
theorem q1149 : (Jvm.Cond.code ({ cls := "DistinctMarksModel", name := "<init>", desc := "()V" } : Jvm.MethodName) prog_10_method_1_code (2 : Nat) (Option.none : Option Jvm.ClassFile.FieldType)) ∈ lw_all := lw_g (lw_at lw_m5 107 rfl) rfl
theorem q1150 : (Jvm.Cond.methodLink "DistinctMarksModel" (1 : Nat) ({ cls := "java/lang/Object", name := "<init>", desc := "()V" } : Jvm.MethodName)) ∈ lw_all := lw_g (lw_at lw_m5 108 rfl) rfl
theorem q1151 : (Jvm.Cond.methodLink "DistinctMarksModel" (47 : Nat) ({ cls := "DistinctMarksModel", name := "opensSlot", desc := "(III)V" } : Jvm.MethodName)) ∈ lw_all := lw_g (lw_at lw_m5 109 rfl) rfl
theorem q1152 : (Jvm.Cond.privateMethod ({ cls := "DistinctMarksModel", name := "opensSlot", desc := "(III)V" } : Jvm.MethodName)) ∈ lw_tbl := lw_at lw_m5 110 rfl
theorem q1153 : (Jvm.Cond.instanceMethod ({ cls := "DistinctMarksModel", name := "opensSlot", desc := "(III)V" } : Jvm.MethodName)) ∈ lw_all := lw_g (lw_at lw_m5 111 rfl) rfl
theorem q1154 : (Jvm.Cond.code ({ cls := "DistinctMarksModel", name := "opensSlot", desc := "(III)V" } : Jvm.MethodName) prog_10_method_18_code (5 : Nat) (Option.none : Option Jvm.ClassFile.FieldType)) ∈ lw_all := lw_g (lw_at lw_m5 112 rfl) rfl
theorem q1155 : (Jvm.Cond.methodLink "DistinctMarksModel" (92 : Nat) ({ cls := "DistinctMarksModel", name := "at", desc := "(II)I" } : Jvm.MethodName)) ∈ lw_all := lw_g (lw_at lw_m5 113 rfl) rfl
theorem q1156 : (Jvm.Cond.static ({ cls := "DistinctMarksModel", name := "at", desc := "(II)I" } : Jvm.MethodName)) ∈ lw_all := lw_g (lw_at lw_m5 114 rfl) rfl
theorem q1157 : (Jvm.Cond.code ({ cls := "DistinctMarksModel", name := "at", desc := "(II)I" } : Jvm.MethodName) prog_10_method_17_code (2 : Nat) (Option.some Jvm.ClassFile.FieldType.int)) ∈ lw_all := lw_g (lw_at lw_m5 115 rfl) rfl
theorem q1158 : (Jvm.Cond.fieldLink "DistinctMarksModel" (7 : Nat) "DistinctMarksModel" "bits" "[I") ∈ lw_all := lw_g (lw_at lw_m5 116 rfl) rfl
theorem q1159 : (Jvm.Cond.fieldLink "DistinctMarksModel" (13 : Nat) "DistinctMarksModel" "limit" "[I") ∈ lw_all := lw_g (lw_at lw_m5 117 rfl) rfl
theorem q1160 : (Jvm.Cond.fieldLink "DistinctMarksModel" (16 : Nat) "DistinctMarksModel" "isDense" "[Z") ∈ lw_all := lw_g (lw_at lw_m5 118 rfl) rfl
theorem q1161 : (Jvm.Cond.fieldLink "DistinctMarksModel" (20 : Nat) "DistinctMarksModel" "marks" "[J") ∈ lw_all := lw_g (lw_at lw_m5 119 rfl) rfl
theorem q1162 : (Jvm.Cond.fieldLink "DistinctMarksModel" (24 : Nat) "DistinctMarksModel" "markMany" "[I") ∈ lw_all := lw_g (lw_at lw_m5 120 rfl) rfl
theorem q1163 : (Jvm.Cond.fieldLink "DistinctMarksModel" (27 : Nat) "DistinctMarksModel" "rank" "[I") ∈ lw_all := lw_g (lw_at lw_m5 121 rfl) rfl
theorem q1164 : (Jvm.Cond.fieldLink "DistinctMarksModel" (30 : Nat) "DistinctMarksModel" "times" "I") ∈ lw_all := lw_g (lw_at lw_m5 122 rfl) rfl
theorem q1165 : (Jvm.Cond.fieldLink "DistinctMarksModel" (64 : Nat) "DistinctMarksModel" "more" "I") ∈ lw_all := lw_g (lw_at lw_m5 123 rfl) rfl
theorem q1166 : (Jvm.Cond.fieldLink "DistinctMarksModel" (34 : Nat) "DistinctMarksModel" "text" "[B") ∈ lw_all := lw_g (lw_at lw_m5 124 rfl) rfl
theorem q1167 : (Jvm.Cond.fieldLink "DistinctMarksModel" (57 : Nat) "DistinctMarksModel" "typed" "I") ∈ lw_all := lw_g (lw_at lw_m5 125 rfl) rfl
theorem q1168 : (Jvm.Cond.fieldLink "DistinctMarksModel" (38 : Nat) "DistinctMarksModel" "row" "[J") ∈ lw_all := lw_g (lw_at lw_m5 126 rfl) rfl
theorem q1169 : (Jvm.Cond.fieldLink "DistinctMarksModel" (54 : Nat) "DistinctMarksModel" "rowMany" "I") ∈ lw_all := lw_g (lw_at lw_m5 127 rfl) rfl
theorem q1170 : (Jvm.Cond.fieldLink "DistinctMarksModel" (51 : Nat) "DistinctMarksModel" "thrown" "I") ∈ lw_all := lw_g (lw_at lw_m5 128 rfl) rfl
theorem q1171 : (Jvm.Cond.fieldLink "DistinctMarksModel" (41 : Nat) "DistinctMarksModel" "things" "[I") ∈ lw_all := lw_g (lw_at lw_m5 129 rfl) rfl
theorem q1172 : (Jvm.Cond.fieldLink "DistinctMarksModel" (142 : Nat) "DistinctMarksModel" "thingMany" "I") ∈ lw_all := lw_g (lw_at lw_m5 130 rfl) rfl
theorem q1173 : (Jvm.Cond.fieldLink "DistinctMarksModel" (130 : Nat) "DistinctMarksModel" "size" "I") ∈ lw_all := lw_g (lw_at lw_m5 131 rfl) rfl
theorem q1174 : (Jvm.Cond.fieldLink "DistinctMarksModel" (133 : Nat) "DistinctMarksModel" "here" "I") ∈ lw_all := lw_g (lw_at lw_m5 132 rfl) rfl
theorem q1175 : (Jvm.Cond.fieldLink "DistinctMarksModel" (44 : Nat) "DistinctMarksModel" "folded" "[I") ∈ lw_all := lw_g (lw_at lw_m5 133 rfl) rfl
theorem q1176 : (Jvm.Cond.fieldLink "DistinctMarksModel" (182 : Nat) "DistinctMarksModel" "how" "I") ∈ lw_all := lw_g (lw_at lw_m5 134 rfl) rfl
theorem q1177 : (Jvm.Cond.laysFinal "DistinctMarksModel" "DistinctMarksModel" "bits" "[I") ∈ lw_all := lw_g (lw_at lw_m5 135 rfl) rfl
theorem q1178 : (Jvm.Cond.soleField "DistinctMarksModel" "bits") ∈ lw_all := lw_g (lw_at lw_m5 136 rfl) rfl
theorem q1179 : (Jvm.Cond.laysFinal "DistinctMarksModel" "DistinctMarksModel" "limit" "[I") ∈ lw_all := lw_g (lw_at lw_m5 137 rfl) rfl
theorem q1180 : (Jvm.Cond.soleField "DistinctMarksModel" "limit") ∈ lw_all := lw_g (lw_at lw_m5 138 rfl) rfl
theorem q1181 : (Jvm.Cond.laysFinal "DistinctMarksModel" "DistinctMarksModel" "isDense" "[Z") ∈ lw_all := lw_g (lw_at lw_m5 139 rfl) rfl
theorem q1182 : (Jvm.Cond.soleField "DistinctMarksModel" "isDense") ∈ lw_all := lw_g (lw_at lw_m5 140 rfl) rfl
theorem q1183 : (Jvm.Cond.laysFinal "DistinctMarksModel" "DistinctMarksModel" "marks" "[J") ∈ lw_all := lw_g (lw_at lw_m5 141 rfl) rfl
theorem q1184 : (Jvm.Cond.soleField "DistinctMarksModel" "marks") ∈ lw_all := lw_g (lw_at lw_m5 142 rfl) rfl
theorem q1185 : (Jvm.Cond.laysFinal "DistinctMarksModel" "DistinctMarksModel" "markMany" "[I") ∈ lw_all := lw_g (lw_at lw_m5 143 rfl) rfl
theorem q1186 : (Jvm.Cond.soleField "DistinctMarksModel" "markMany") ∈ lw_all := lw_g (lw_at lw_m5 144 rfl) rfl
theorem q1187 : (Jvm.Cond.laysFinal "DistinctMarksModel" "DistinctMarksModel" "rank" "[I") ∈ lw_all := lw_g (lw_at lw_m5 145 rfl) rfl
theorem q1188 : (Jvm.Cond.soleField "DistinctMarksModel" "rank") ∈ lw_all := lw_g (lw_at lw_m5 146 rfl) rfl
theorem q1189 : (Jvm.Cond.lays "DistinctMarksModel" "DistinctMarksModel" "times" "I") ∈ lw_all := lw_g (lw_at lw_m5 147 rfl) rfl
theorem q1190 : (Jvm.Cond.soleField "DistinctMarksModel" "times") ∈ lw_all := lw_g (lw_at lw_m5 148 rfl) rfl
theorem q1191 : (Jvm.Cond.lays "DistinctMarksModel" "DistinctMarksModel" "more" "I") ∈ lw_all := lw_g (lw_at lw_m5 149 rfl) rfl
theorem q1192 : (Jvm.Cond.soleField "DistinctMarksModel" "more") ∈ lw_all := lw_g (lw_at lw_m5 150 rfl) rfl
theorem q1193 : (Jvm.Cond.laysFinal "DistinctMarksModel" "DistinctMarksModel" "text" "[B") ∈ lw_all := lw_g (lw_at lw_m5 151 rfl) rfl
theorem q1194 : (Jvm.Cond.soleField "DistinctMarksModel" "text") ∈ lw_all := lw_g (lw_at lw_m5 152 rfl) rfl
theorem q1195 : (Jvm.Cond.lays "DistinctMarksModel" "DistinctMarksModel" "typed" "I") ∈ lw_all := lw_g (lw_at lw_m5 153 rfl) rfl
theorem q1196 : (Jvm.Cond.soleField "DistinctMarksModel" "typed") ∈ lw_all := lw_g (lw_at lw_m5 154 rfl) rfl
theorem q1197 : (Jvm.Cond.laysFinal "DistinctMarksModel" "DistinctMarksModel" "row" "[J") ∈ lw_all := lw_g (lw_at lw_m5 155 rfl) rfl
theorem q1198 : (Jvm.Cond.soleField "DistinctMarksModel" "row") ∈ lw_all := lw_g (lw_at lw_m5 156 rfl) rfl
theorem q1199 : (Jvm.Cond.lays "DistinctMarksModel" "DistinctMarksModel" "rowMany" "I") ∈ lw_all := lw_g (lw_at lw_m5 157 rfl) rfl
theorem q1200 : (Jvm.Cond.soleField "DistinctMarksModel" "rowMany") ∈ lw_all := lw_g (lw_at lw_m5 158 rfl) rfl
theorem q1201 : (Jvm.Cond.lays "DistinctMarksModel" "DistinctMarksModel" "thrown" "I") ∈ lw_all := lw_g (lw_at lw_m5 159 rfl) rfl
theorem q1202 : (Jvm.Cond.soleField "DistinctMarksModel" "thrown") ∈ lw_all := lw_g (lw_at lw_m5 160 rfl) rfl
theorem q1203 : (Jvm.Cond.laysFinal "DistinctMarksModel" "DistinctMarksModel" "things" "[I") ∈ lw_all := lw_g (lw_at lw_m5 161 rfl) rfl
theorem q1204 : (Jvm.Cond.soleField "DistinctMarksModel" "things") ∈ lw_all := lw_g (lw_at lw_m5 162 rfl) rfl
theorem q1205 : (Jvm.Cond.lays "DistinctMarksModel" "DistinctMarksModel" "thingMany" "I") ∈ lw_all := lw_g (lw_at lw_m5 163 rfl) rfl
theorem q1206 : (Jvm.Cond.soleField "DistinctMarksModel" "thingMany") ∈ lw_all := lw_g (lw_at lw_m5 164 rfl) rfl
theorem q1207 : (Jvm.Cond.lays "DistinctMarksModel" "DistinctMarksModel" "size" "I") ∈ lw_all := lw_g (lw_at lw_m5 165 rfl) rfl
theorem q1208 : (Jvm.Cond.soleField "DistinctMarksModel" "size") ∈ lw_all := lw_g (lw_at lw_m5 166 rfl) rfl
theorem q1209 : (Jvm.Cond.lays "DistinctMarksModel" "DistinctMarksModel" "here" "I") ∈ lw_all := lw_g (lw_at lw_m5 167 rfl) rfl
theorem q1210 : (Jvm.Cond.soleField "DistinctMarksModel" "here") ∈ lw_all := lw_g (lw_at lw_m5 168 rfl) rfl
theorem q1211 : (Jvm.Cond.laysFinal "DistinctMarksModel" "DistinctMarksModel" "folded" "[I") ∈ lw_all := lw_g (lw_at lw_m5 169 rfl) rfl
theorem q1212 : (Jvm.Cond.soleField "DistinctMarksModel" "folded") ∈ lw_all := lw_g (lw_at lw_m5 170 rfl) rfl
theorem q1213 : (Jvm.Cond.lays "DistinctMarksModel" "DistinctMarksModel" "how" "I") ∈ lw_all := lw_g (lw_at lw_m5 171 rfl) rfl
theorem q1214 : (Jvm.Cond.soleField "DistinctMarksModel" "how") ∈ lw_all := lw_g (lw_at lw_m5 172 rfl) rfl
theorem q1215 : (Jvm.Cond.superclass "DistinctMarksModel" "java/lang/Object") ∈ lw_all := lw_g (lw_at lw_m5 173 rfl) rfl
theorem q1218 : (Jvm.Cond.instanceMethod ({ cls := "DistinctMarksModel", name := "thrown", desc := "()I" } : Jvm.MethodName)) ∈ lw_all := lw_g (lw_at lw_m5 176 rfl) rfl
theorem q1219 : (Jvm.Cond.selects "DistinctMarksModel" ({ cls := "DistinctMarksModel", name := "thrown", desc := "()I" } : Jvm.MethodName) ({ cls := "DistinctMarksModel", name := "thrown", desc := "()I" } : Jvm.MethodName)) ∈ lw_all := lw_g (lw_at lw_m5 177 rfl) rfl
theorem q1220 : (Jvm.Cond.code ({ cls := "DistinctMarksModel", name := "thrown", desc := "()I" } : Jvm.MethodName) prog_10_method_2_code (1 : Nat) (Option.some Jvm.ClassFile.FieldType.int)) ∈ lw_all := lw_g (lw_at lw_m5 178 rfl) rfl
theorem q1222 : (Jvm.Cond.instanceMethod ({ cls := "DistinctMarksModel", name := "sign", desc := "(I)I" } : Jvm.MethodName)) ∈ lw_all := lw_g (lw_at lw_m5 180 rfl) rfl
theorem q1223 : (Jvm.Cond.selects "DistinctMarksModel" ({ cls := "DistinctMarksModel", name := "sign", desc := "(I)I" } : Jvm.MethodName) ({ cls := "DistinctMarksModel", name := "sign", desc := "(I)I" } : Jvm.MethodName)) ∈ lw_all := lw_g (lw_at lw_m5 181 rfl) rfl
theorem q1224 : (Jvm.Cond.code ({ cls := "DistinctMarksModel", name := "sign", desc := "(I)I" } : Jvm.MethodName) prog_10_method_6_code (3 : Nat) (Option.some Jvm.ClassFile.FieldType.int)) ∈ lw_all := lw_g (lw_at lw_m5 182 rfl) rfl
theorem q1226 : (Jvm.Cond.instanceMethod ({ cls := "DistinctMarksModel", name := "end", desc := "(I)Z" } : Jvm.MethodName)) ∈ lw_all := lw_g (lw_at lw_m5 184 rfl) rfl
theorem q1227 : (Jvm.Cond.selects "DistinctMarksModel" ({ cls := "DistinctMarksModel", name := "end", desc := "(I)Z" } : Jvm.MethodName) ({ cls := "DistinctMarksModel", name := "end", desc := "(I)Z" } : Jvm.MethodName)) ∈ lw_all := lw_g (lw_at lw_m5 185 rfl) rfl
theorem q1228 : (Jvm.Cond.code ({ cls := "DistinctMarksModel", name := "end", desc := "(I)Z" } : Jvm.MethodName) prog_10_method_7_code (2 : Nat) (Option.some Jvm.ClassFile.FieldType.boolean)) ∈ lw_all := lw_g (lw_at lw_m5 186 rfl) rfl
theorem q1229 : (Jvm.Cond.methodLink "DistinctMarksModel" (60 : Nat) ({ cls := "DistinctMarksModel", name := "in", desc := "(JJJ)Z" } : Jvm.MethodName)) ∈ lw_all := lw_g (lw_at lw_m5 187 rfl) rfl
theorem q1230 : (Jvm.Cond.static ({ cls := "DistinctMarksModel", name := "in", desc := "(JJJ)Z" } : Jvm.MethodName)) ∈ lw_all := lw_g (lw_at lw_m5 188 rfl) rfl
theorem q1231 : (Jvm.Cond.code ({ cls := "DistinctMarksModel", name := "in", desc := "(JJJ)Z" } : Jvm.MethodName) prog_10_method_3_code (6 : Nat) (Option.some Jvm.ClassFile.FieldType.boolean)) ∈ lw_all := lw_g (lw_at lw_m5 189 rfl) rfl
theorem q1233 : (Jvm.Cond.instanceMethod ({ cls := "DistinctMarksModel", name := "mixes", desc := "(II)Z" } : Jvm.MethodName)) ∈ lw_all := lw_g (lw_at lw_m5 191 rfl) rfl
theorem q1234 : (Jvm.Cond.selects "DistinctMarksModel" ({ cls := "DistinctMarksModel", name := "mixes", desc := "(II)Z" } : Jvm.MethodName) ({ cls := "DistinctMarksModel", name := "mixes", desc := "(II)Z" } : Jvm.MethodName)) ∈ lw_all := lw_g (lw_at lw_m5 192 rfl) rfl
theorem q1235 : (Jvm.Cond.code ({ cls := "DistinctMarksModel", name := "mixes", desc := "(II)Z" } : Jvm.MethodName) prog_10_method_8_code (3 : Nat) (Option.some Jvm.ClassFile.FieldType.boolean)) ∈ lw_all := lw_g (lw_at lw_m5 193 rfl) rfl
theorem q1237 : (Jvm.Cond.instanceMethod ({ cls := "DistinctMarksModel", name := "mark", desc := "(I)I" } : Jvm.MethodName)) ∈ lw_all := lw_g (lw_at lw_m5 195 rfl) rfl
theorem q1238 : (Jvm.Cond.selects "DistinctMarksModel" ({ cls := "DistinctMarksModel", name := "mark", desc := "(I)I" } : Jvm.MethodName) ({ cls := "DistinctMarksModel", name := "mark", desc := "(I)I" } : Jvm.MethodName)) ∈ lw_all := lw_g (lw_at lw_m5 196 rfl) rfl
theorem q1239 : (Jvm.Cond.code ({ cls := "DistinctMarksModel", name := "mark", desc := "(I)I" } : Jvm.MethodName) prog_10_method_12_code (2 : Nat) (Option.some Jvm.ClassFile.FieldType.int)) ∈ lw_all := lw_g (lw_at lw_m5 197 rfl) rfl
theorem q1240 : (Jvm.Cond.methodLink "DistinctMarksModel" (69 : Nat) ({ cls := "DistinctMarksModel", name := "markOf", desc := "(I)J" } : Jvm.MethodName)) ∈ lw_all := lw_g (lw_at lw_m5 198 rfl) rfl
theorem q1241 : (Jvm.Cond.privateMethod ({ cls := "DistinctMarksModel", name := "markOf", desc := "(I)J" } : Jvm.MethodName)) ∈ lw_tbl := lw_at lw_m5 199 rfl
theorem q1242 : (Jvm.Cond.instanceMethod ({ cls := "DistinctMarksModel", name := "markOf", desc := "(I)J" } : Jvm.MethodName)) ∈ lw_all := lw_g (lw_at lw_m5 200 rfl) rfl
theorem q1243 : (Jvm.Cond.code ({ cls := "DistinctMarksModel", name := "markOf", desc := "(I)J" } : Jvm.MethodName) prog_10_method_9_code (2 : Nat) (Option.some Jvm.ClassFile.FieldType.long)) ∈ lw_all := lw_g (lw_at lw_m5 201 rfl) rfl
theorem q1244 : (Jvm.Cond.constantLong "DistinctMarksModel" (67 : Nat) (4294967295 : Int64)) ∈ lw_all := lw_g (lw_at lw_m5 202 rfl) rfl
theorem q1246 : (Jvm.Cond.instanceMethod ({ cls := "DistinctMarksModel", name := "place", desc := "(II)I" } : Jvm.MethodName)) ∈ lw_all := lw_g (lw_at lw_m5 204 rfl) rfl
theorem q1247 : (Jvm.Cond.selects "DistinctMarksModel" ({ cls := "DistinctMarksModel", name := "place", desc := "(II)I" } : Jvm.MethodName) ({ cls := "DistinctMarksModel", name := "place", desc := "(II)I" } : Jvm.MethodName)) ∈ lw_all := lw_g (lw_at lw_m5 205 rfl) rfl
theorem q1248 : (Jvm.Cond.code ({ cls := "DistinctMarksModel", name := "place", desc := "(II)I" } : Jvm.MethodName) prog_10_method_13_code (3 : Nat) (Option.some Jvm.ClassFile.FieldType.int)) ∈ lw_all := lw_g (lw_at lw_m5 206 rfl) rfl
theorem q1249 : (Jvm.Cond.constantLong "DistinctMarksModel" (73 : Nat) (4 : Int64)) ∈ lw_all := lw_g (lw_at lw_m5 207 rfl) rfl
theorem q1250 : (Jvm.Cond.constantLong "DistinctMarksModel" (75 : Nat) (8 : Int64)) ∈ lw_all := lw_g (lw_at lw_m5 208 rfl) rfl
theorem q1251 : (Jvm.Cond.methodLink "DistinctMarksModel" (77 : Nat) ({ cls := "DistinctMarksModel", name := "rankOf", desc := "(JI)I" } : Jvm.MethodName)) ∈ lw_all := lw_g (lw_at lw_m5 209 rfl) rfl
theorem q1252 : (Jvm.Cond.static ({ cls := "DistinctMarksModel", name := "rankOf", desc := "(JI)I" } : Jvm.MethodName)) ∈ lw_all := lw_g (lw_at lw_m5 210 rfl) rfl
theorem q1253 : (Jvm.Cond.code ({ cls := "DistinctMarksModel", name := "rankOf", desc := "(JI)I" } : Jvm.MethodName) prog_10_method_11_code (7 : Nat) (Option.some Jvm.ClassFile.FieldType.int)) ∈ lw_all := lw_g (lw_at lw_m5 211 rfl) rfl
theorem q1254 : (Jvm.Cond.methodLink "DistinctMarksModel" (81 : Nat) ({ cls := "DistinctMarksModel", name := "tell", desc := "(J)V" } : Jvm.MethodName)) ∈ lw_all := lw_g (lw_at lw_m5 212 rfl) rfl
theorem q1255 : (Jvm.Cond.privateMethod ({ cls := "DistinctMarksModel", name := "tell", desc := "(J)V" } : Jvm.MethodName)) ∈ lw_tbl := lw_at lw_m5 213 rfl
theorem q1256 : (Jvm.Cond.instanceMethod ({ cls := "DistinctMarksModel", name := "tell", desc := "(J)V" } : Jvm.MethodName)) ∈ lw_all := lw_g (lw_at lw_m5 214 rfl) rfl
theorem q1257 : (Jvm.Cond.code ({ cls := "DistinctMarksModel", name := "tell", desc := "(J)V" } : Jvm.MethodName) prog_10_method_5_code (3 : Nat) (Option.none : Option Jvm.ClassFile.FieldType)) ∈ lw_all := lw_g (lw_at lw_m5 215 rfl) rfl
theorem q1258 : (Jvm.Cond.methodLink "DistinctMarksModel" (85 : Nat) ({ cls := "DistinctMarksModel", name := "placeOf", desc := "(JI)I" } : Jvm.MethodName)) ∈ lw_all := lw_g (lw_at lw_m5 216 rfl) rfl
theorem q1259 : (Jvm.Cond.static ({ cls := "DistinctMarksModel", name := "placeOf", desc := "(JI)I" } : Jvm.MethodName)) ∈ lw_all := lw_g (lw_at lw_m5 217 rfl) rfl
theorem q1260 : (Jvm.Cond.code ({ cls := "DistinctMarksModel", name := "placeOf", desc := "(JI)I" } : Jvm.MethodName) prog_10_method_10_code (3 : Nat) (Option.some Jvm.ClassFile.FieldType.int)) ∈ lw_all := lw_g (lw_at lw_m5 218 rfl) rfl
theorem q1262 : (Jvm.Cond.instanceMethod ({ cls := "DistinctMarksModel", name := "opens", desc := "(III)I" } : Jvm.MethodName)) ∈ lw_all := lw_g (lw_at lw_m5 220 rfl) rfl
theorem q1263 : (Jvm.Cond.selects "DistinctMarksModel" ({ cls := "DistinctMarksModel", name := "opens", desc := "(III)I" } : Jvm.MethodName) ({ cls := "DistinctMarksModel", name := "opens", desc := "(III)I" } : Jvm.MethodName)) ∈ lw_all := lw_g (lw_at lw_m5 221 rfl) rfl
theorem q1264 : (Jvm.Cond.code ({ cls := "DistinctMarksModel", name := "opens", desc := "(III)I" } : Jvm.MethodName) prog_10_method_27_code (4 : Nat) (Option.some Jvm.ClassFile.FieldType.int)) ∈ lw_all := lw_g (lw_at lw_m5 222 rfl) rfl
theorem q1265 : (Jvm.Cond.methodLink "DistinctMarksModel" (111 : Nat) ({ cls := "DistinctMarksModel", name := "isCounter", desc := "(I)Z" } : Jvm.MethodName)) ∈ lw_all := lw_g (lw_at lw_m5 223 rfl) rfl
theorem q1266 : (Jvm.Cond.static ({ cls := "DistinctMarksModel", name := "isCounter", desc := "(I)Z" } : Jvm.MethodName)) ∈ lw_all := lw_g (lw_at lw_m5 224 rfl) rfl
theorem q1267 : (Jvm.Cond.code ({ cls := "DistinctMarksModel", name := "isCounter", desc := "(I)Z" } : Jvm.MethodName) prog_10_method_14_code (1 : Nat) (Option.some Jvm.ClassFile.FieldType.boolean)) ∈ lw_all := lw_g (lw_at lw_m5 225 rfl) rfl
theorem q1268 : (Jvm.Cond.constantLong "DistinctMarksModel" (88 : Nat) (5 : Int64)) ∈ lw_all := lw_g (lw_at lw_m5 226 rfl) rfl
theorem q1269 : (Jvm.Cond.constantLong "DistinctMarksModel" (115 : Nat) (48 : Int64)) ∈ lw_all := lw_g (lw_at lw_m5 227 rfl) rfl
theorem q1270 : (Jvm.Cond.methodLink "DistinctMarksModel" (117 : Nat) ({ cls := "DistinctMarksModel", name := "places", desc := "(I)I" } : Jvm.MethodName)) ∈ lw_all := lw_g (lw_at lw_m5 228 rfl) rfl
theorem q1271 : (Jvm.Cond.privateMethod ({ cls := "DistinctMarksModel", name := "places", desc := "(I)I" } : Jvm.MethodName)) ∈ lw_tbl := lw_at lw_m5 229 rfl
theorem q1272 : (Jvm.Cond.instanceMethod ({ cls := "DistinctMarksModel", name := "places", desc := "(I)I" } : Jvm.MethodName)) ∈ lw_all := lw_g (lw_at lw_m5 230 rfl) rfl
theorem q1273 : (Jvm.Cond.code ({ cls := "DistinctMarksModel", name := "places", desc := "(I)I" } : Jvm.MethodName) prog_10_method_16_code (2 : Nat) (Option.some Jvm.ClassFile.FieldType.int)) ∈ lw_all := lw_g (lw_at lw_m5 231 rfl) rfl
theorem q1275 : (Jvm.Cond.instanceMethod ({ cls := "DistinctMarksModel", name := "adds", desc := "(II)I" } : Jvm.MethodName)) ∈ lw_all := lw_g (lw_at lw_m5 233 rfl) rfl
theorem q1276 : (Jvm.Cond.selects "DistinctMarksModel" ({ cls := "DistinctMarksModel", name := "adds", desc := "(II)I" } : Jvm.MethodName) ({ cls := "DistinctMarksModel", name := "adds", desc := "(II)I" } : Jvm.MethodName)) ∈ lw_all := lw_g (lw_at lw_m5 234 rfl) rfl
theorem q1277 : (Jvm.Cond.code ({ cls := "DistinctMarksModel", name := "adds", desc := "(II)I" } : Jvm.MethodName) prog_10_method_28_code (3 : Nat) (Option.some Jvm.ClassFile.FieldType.int)) ∈ lw_all := lw_g (lw_at lw_m5 235 rfl) rfl
theorem q1278 : (Jvm.Cond.methodLink "DistinctMarksModel" (121 : Nat) ({ cls := "DistinctMarksModel", name := "comes", desc := "(IJ)Z" } : Jvm.MethodName)) ∈ lw_all := lw_g (lw_at lw_m5 236 rfl) rfl
theorem q1279 : (Jvm.Cond.privateMethod ({ cls := "DistinctMarksModel", name := "comes", desc := "(IJ)Z" } : Jvm.MethodName)) ∈ lw_tbl := lw_at lw_m5 237 rfl
theorem q1280 : (Jvm.Cond.instanceMethod ({ cls := "DistinctMarksModel", name := "comes", desc := "(IJ)Z" } : Jvm.MethodName)) ∈ lw_all := lw_g (lw_at lw_m5 238 rfl) rfl
theorem q1281 : (Jvm.Cond.code ({ cls := "DistinctMarksModel", name := "comes", desc := "(IJ)Z" } : Jvm.MethodName) prog_10_method_25_code (4 : Nat) (Option.some Jvm.ClassFile.FieldType.boolean)) ∈ lw_all := lw_g (lw_at lw_m5 239 rfl) rfl
theorem q1282 : (Jvm.Cond.methodLink "DistinctMarksModel" (96 : Nat) ({ cls := "DistinctMarksModel", name := "raises", desc := "(IJ)Z" } : Jvm.MethodName)) ∈ lw_all := lw_g (lw_at lw_m6 0 rfl) rfl
theorem q1283 : (Jvm.Cond.privateMethod ({ cls := "DistinctMarksModel", name := "raises", desc := "(IJ)Z" } : Jvm.MethodName)) ∈ lw_tbl := lw_at lw_m6 1 rfl
theorem q1284 : (Jvm.Cond.instanceMethod ({ cls := "DistinctMarksModel", name := "raises", desc := "(IJ)Z" } : Jvm.MethodName)) ∈ lw_all := lw_g (lw_at lw_m6 2 rfl) rfl
theorem q1285 : (Jvm.Cond.code ({ cls := "DistinctMarksModel", name := "raises", desc := "(IJ)Z" } : Jvm.MethodName) prog_10_method_20_code (6 : Nat) (Option.some Jvm.ClassFile.FieldType.boolean)) ∈ lw_all := lw_g (lw_at lw_m6 3 rfl) rfl
theorem q1286 : (Jvm.Cond.methodLink "DistinctMarksModel" (100 : Nat) ({ cls := "DistinctMarksModel", name := "hasMark", desc := "(IJ)Z" } : Jvm.MethodName)) ∈ lw_all := lw_g (lw_at lw_m6 4 rfl) rfl
theorem q1287 : (Jvm.Cond.privateMethod ({ cls := "DistinctMarksModel", name := "hasMark", desc := "(IJ)Z" } : Jvm.MethodName)) ∈ lw_tbl := lw_at lw_m6 5 rfl
theorem q1288 : (Jvm.Cond.instanceMethod ({ cls := "DistinctMarksModel", name := "hasMark", desc := "(IJ)Z" } : Jvm.MethodName)) ∈ lw_all := lw_g (lw_at lw_m6 6 rfl) rfl
theorem q1289 : (Jvm.Cond.code ({ cls := "DistinctMarksModel", name := "hasMark", desc := "(IJ)Z" } : Jvm.MethodName) prog_10_method_22_code (5 : Nat) (Option.some Jvm.ClassFile.FieldType.boolean)) ∈ lw_all := lw_g (lw_at lw_m6 7 rfl) rfl
theorem q1290 : (Jvm.Cond.methodLink "DistinctMarksModel" (103 : Nat) ({ cls := "DistinctMarksModel", name := "insert", desc := "(IJ)V" } : Jvm.MethodName)) ∈ lw_all := lw_g (lw_at lw_m6 8 rfl) rfl
theorem q1291 : (Jvm.Cond.privateMethod ({ cls := "DistinctMarksModel", name := "insert", desc := "(IJ)V" } : Jvm.MethodName)) ∈ lw_tbl := lw_at lw_m6 9 rfl
theorem q1292 : (Jvm.Cond.instanceMethod ({ cls := "DistinctMarksModel", name := "insert", desc := "(IJ)V" } : Jvm.MethodName)) ∈ lw_all := lw_g (lw_at lw_m6 10 rfl) rfl
theorem q1293 : (Jvm.Cond.code ({ cls := "DistinctMarksModel", name := "insert", desc := "(IJ)V" } : Jvm.MethodName) prog_10_method_23_code (5 : Nat) (Option.none : Option Jvm.ClassFile.FieldType)) ∈ lw_all := lw_g (lw_at lw_m6 11 rfl) rfl
theorem q1294 : (Jvm.Cond.methodLink "DistinctMarksModel" (107 : Nat) ({ cls := "DistinctMarksModel", name := "becomesDense", desc := "(I)V" } : Jvm.MethodName)) ∈ lw_all := lw_g (lw_at lw_m6 12 rfl) rfl
theorem q1295 : (Jvm.Cond.privateMethod ({ cls := "DistinctMarksModel", name := "becomesDense", desc := "(I)V" } : Jvm.MethodName)) ∈ lw_tbl := lw_at lw_m6 13 rfl
theorem q1296 : (Jvm.Cond.instanceMethod ({ cls := "DistinctMarksModel", name := "becomesDense", desc := "(I)V" } : Jvm.MethodName)) ∈ lw_all := lw_g (lw_at lw_m6 14 rfl) rfl
theorem q1297 : (Jvm.Cond.code ({ cls := "DistinctMarksModel", name := "becomesDense", desc := "(I)V" } : Jvm.MethodName) prog_10_method_24_code (2 : Nat) (Option.none : Option Jvm.ClassFile.FieldType)) ∈ lw_all := lw_g (lw_at lw_m6 15 rfl) rfl
theorem q1299 : (Jvm.Cond.instanceMethod ({ cls := "DistinctMarksModel", name := "runs", desc := "(IIII)I" } : Jvm.MethodName)) ∈ lw_all := lw_g (lw_at lw_m6 17 rfl) rfl
theorem q1300 : (Jvm.Cond.selects "DistinctMarksModel" ({ cls := "DistinctMarksModel", name := "runs", desc := "(IIII)I" } : Jvm.MethodName) ({ cls := "DistinctMarksModel", name := "runs", desc := "(IIII)I" } : Jvm.MethodName)) ∈ lw_all := lw_g (lw_at lw_m6 18 rfl) rfl
theorem q1301 : (Jvm.Cond.code ({ cls := "DistinctMarksModel", name := "runs", desc := "(IIII)I" } : Jvm.MethodName) prog_10_method_30_code (5 : Nat) (Option.some Jvm.ClassFile.FieldType.int)) ∈ lw_all := lw_g (lw_at lw_m6 19 rfl) rfl
theorem q1302 : (Jvm.Cond.constantLong "DistinctMarksModel" (124 : Nat) (1000 : Int64)) ∈ lw_all := lw_g (lw_at lw_m6 20 rfl) rfl
theorem q1303 : (Jvm.Cond.methodLink "DistinctMarksModel" (126 : Nat) ({ cls := "DistinctMarksModel", name := "runsInto", desc := "(IIII)I" } : Jvm.MethodName)) ∈ lw_all := lw_g (lw_at lw_m6 21 rfl) rfl
theorem q1304 : (Jvm.Cond.privateMethod ({ cls := "DistinctMarksModel", name := "runsInto", desc := "(IIII)I" } : Jvm.MethodName)) ∈ lw_tbl := lw_at lw_m6 22 rfl
theorem q1305 : (Jvm.Cond.instanceMethod ({ cls := "DistinctMarksModel", name := "runsInto", desc := "(IIII)I" } : Jvm.MethodName)) ∈ lw_all := lw_g (lw_at lw_m6 23 rfl) rfl
theorem q1306 : (Jvm.Cond.code ({ cls := "DistinctMarksModel", name := "runsInto", desc := "(IIII)I" } : Jvm.MethodName) prog_10_method_29_code (8 : Nat) (Option.some Jvm.ClassFile.FieldType.int)) ∈ lw_all := lw_g (lw_at lw_m6 24 rfl) rfl
theorem q1308 : (Jvm.Cond.instanceMethod ({ cls := "DistinctMarksModel", name := "tells", desc := "(I)I" } : Jvm.MethodName)) ∈ lw_all := lw_g (lw_at lw_m6 26 rfl) rfl
theorem q1309 : (Jvm.Cond.selects "DistinctMarksModel" ({ cls := "DistinctMarksModel", name := "tells", desc := "(I)I" } : Jvm.MethodName) ({ cls := "DistinctMarksModel", name := "tells", desc := "(I)I" } : Jvm.MethodName)) ∈ lw_all := lw_g (lw_at lw_m6 27 rfl) rfl
theorem q1310 : (Jvm.Cond.code ({ cls := "DistinctMarksModel", name := "tells", desc := "(I)I" } : Jvm.MethodName) prog_10_method_35_code (4 : Nat) (Option.some Jvm.ClassFile.FieldType.int)) ∈ lw_all := lw_g (lw_at lw_m6 28 rfl) rfl
theorem q1311 : (Jvm.Cond.methodLink "DistinctMarksModel" (149 : Nat) ({ cls := "DistinctMarksModel", name := "begin", desc := "()V" } : Jvm.MethodName)) ∈ lw_all := lw_g (lw_at lw_m6 29 rfl) rfl
theorem q1312 : (Jvm.Cond.privateMethod ({ cls := "DistinctMarksModel", name := "begin", desc := "()V" } : Jvm.MethodName)) ∈ lw_tbl := lw_at lw_m6 30 rfl
theorem q1313 : (Jvm.Cond.instanceMethod ({ cls := "DistinctMarksModel", name := "begin", desc := "()V" } : Jvm.MethodName)) ∈ lw_all := lw_g (lw_at lw_m6 31 rfl) rfl
theorem q1314 : (Jvm.Cond.code ({ cls := "DistinctMarksModel", name := "begin", desc := "()V" } : Jvm.MethodName) prog_10_method_31_code (1 : Nat) (Option.none : Option Jvm.ClassFile.FieldType)) ∈ lw_all := lw_g (lw_at lw_m6 32 rfl) rfl
theorem q1315 : (Jvm.Cond.methodLink "DistinctMarksModel" (152 : Nat) ({ cls := "DistinctMarksModel", name := "readsThings", desc := "()Z" } : Jvm.MethodName)) ∈ lw_all := lw_g (lw_at lw_m6 33 rfl) rfl
theorem q1316 : (Jvm.Cond.privateMethod ({ cls := "DistinctMarksModel", name := "readsThings", desc := "()Z" } : Jvm.MethodName)) ∈ lw_tbl := lw_at lw_m6 34 rfl
theorem q1317 : (Jvm.Cond.instanceMethod ({ cls := "DistinctMarksModel", name := "readsThings", desc := "()Z" } : Jvm.MethodName)) ∈ lw_all := lw_g (lw_at lw_m6 35 rfl) rfl
theorem q1318 : (Jvm.Cond.code ({ cls := "DistinctMarksModel", name := "readsThings", desc := "()Z" } : Jvm.MethodName) prog_10_method_34_code (1 : Nat) (Option.some Jvm.ClassFile.FieldType.boolean)) ∈ lw_all := lw_g (lw_at lw_m6 36 rfl) rfl
theorem q1319 : (Jvm.Cond.methodLink "DistinctMarksModel" (145 : Nat) ({ cls := "DistinctMarksModel", name := "readsNumber", desc := "()Z" } : Jvm.MethodName)) ∈ lw_all := lw_g (lw_at lw_m6 37 rfl) rfl
theorem q1320 : (Jvm.Cond.privateMethod ({ cls := "DistinctMarksModel", name := "readsNumber", desc := "()Z" } : Jvm.MethodName)) ∈ lw_tbl := lw_at lw_m6 38 rfl
theorem q1321 : (Jvm.Cond.instanceMethod ({ cls := "DistinctMarksModel", name := "readsNumber", desc := "()Z" } : Jvm.MethodName)) ∈ lw_all := lw_g (lw_at lw_m6 39 rfl) rfl
theorem q1322 : (Jvm.Cond.code ({ cls := "DistinctMarksModel", name := "readsNumber", desc := "()Z" } : Jvm.MethodName) prog_10_method_33_code (4 : Nat) (Option.some Jvm.ClassFile.FieldType.boolean)) ∈ lw_all := lw_g (lw_at lw_m6 40 rfl) rfl
theorem q1323 : (Jvm.Cond.methodLink "DistinctMarksModel" (136 : Nat) ({ cls := "DistinctMarksModel", name := "sees", desc := "()I" } : Jvm.MethodName)) ∈ lw_all := lw_g (lw_at lw_m6 41 rfl) rfl
theorem q1324 : (Jvm.Cond.privateMethod ({ cls := "DistinctMarksModel", name := "sees", desc := "()I" } : Jvm.MethodName)) ∈ lw_tbl := lw_at lw_m6 42 rfl
theorem q1325 : (Jvm.Cond.instanceMethod ({ cls := "DistinctMarksModel", name := "sees", desc := "()I" } : Jvm.MethodName)) ∈ lw_all := lw_g (lw_at lw_m6 43 rfl) rfl
theorem q1326 : (Jvm.Cond.code ({ cls := "DistinctMarksModel", name := "sees", desc := "()I" } : Jvm.MethodName) prog_10_method_32_code (1 : Nat) (Option.some Jvm.ClassFile.FieldType.int)) ∈ lw_all := lw_g (lw_at lw_m6 44 rfl) rfl
theorem q1327 : (Jvm.Cond.constantLong "DistinctMarksModel" (140 : Nat) (57 : Int64)) ∈ lw_all := lw_g (lw_at lw_m6 45 rfl) rfl
theorem q1329 : (Jvm.Cond.instanceMethod ({ cls := "DistinctMarksModel", name := "takes", desc := "(II)I" } : Jvm.MethodName)) ∈ lw_all := lw_g (lw_at lw_m6 47 rfl) rfl
theorem q1330 : (Jvm.Cond.selects "DistinctMarksModel" ({ cls := "DistinctMarksModel", name := "takes", desc := "(II)I" } : Jvm.MethodName) ({ cls := "DistinctMarksModel", name := "takes", desc := "(II)I" } : Jvm.MethodName)) ∈ lw_all := lw_g (lw_at lw_m6 48 rfl) rfl
theorem q1331 : (Jvm.Cond.code ({ cls := "DistinctMarksModel", name := "takes", desc := "(II)I" } : Jvm.MethodName) prog_10_method_36_code (7 : Nat) (Option.some Jvm.ClassFile.FieldType.int)) ∈ lw_all := lw_g (lw_at lw_m6 49 rfl) rfl
theorem q1332 : (Jvm.Cond.methodLink "DistinctMarksModel" (155 : Nat) ({ cls := "DistinctMarksModel", name := "laysRanks", desc := "(I)V" } : Jvm.MethodName)) ∈ lw_all := lw_g (lw_at lw_m6 50 rfl) rfl
theorem q1333 : (Jvm.Cond.privateMethod ({ cls := "DistinctMarksModel", name := "laysRanks", desc := "(I)V" } : Jvm.MethodName)) ∈ lw_tbl := lw_at lw_m6 51 rfl
theorem q1334 : (Jvm.Cond.instanceMethod ({ cls := "DistinctMarksModel", name := "laysRanks", desc := "(I)V" } : Jvm.MethodName)) ∈ lw_all := lw_g (lw_at lw_m6 52 rfl) rfl
theorem q1335 : (Jvm.Cond.code ({ cls := "DistinctMarksModel", name := "laysRanks", desc := "(I)V" } : Jvm.MethodName) prog_10_method_21_code (3 : Nat) (Option.none : Option Jvm.ClassFile.FieldType)) ∈ lw_all := lw_g (lw_at lw_m6 53 rfl) rfl
theorem q1337 : (Jvm.Cond.instanceMethod ({ cls := "DistinctMarksModel", name := "dense", desc := "(I)I" } : Jvm.MethodName)) ∈ lw_all := lw_g (lw_at lw_m6 55 rfl) rfl
theorem q1338 : (Jvm.Cond.selects "DistinctMarksModel" ({ cls := "DistinctMarksModel", name := "dense", desc := "(I)I" } : Jvm.MethodName) ({ cls := "DistinctMarksModel", name := "dense", desc := "(I)I" } : Jvm.MethodName)) ∈ lw_all := lw_g (lw_at lw_m6 56 rfl) rfl
theorem q1339 : (Jvm.Cond.code ({ cls := "DistinctMarksModel", name := "dense", desc := "(I)I" } : Jvm.MethodName) prog_10_method_38_code (2 : Nat) (Option.some Jvm.ClassFile.FieldType.int)) ∈ lw_all := lw_g (lw_at lw_m6 57 rfl) rfl
theorem q1340 : (Jvm.Cond.methodLink "DistinctMarksModel" (158 : Nat) ({ cls := "DistinctMarksModel", name := "ranked", desc := "(I)I" } : Jvm.MethodName)) ∈ lw_all := lw_g (lw_at lw_m6 58 rfl) rfl
theorem q1341 : (Jvm.Cond.privateMethod ({ cls := "DistinctMarksModel", name := "ranked", desc := "(I)I" } : Jvm.MethodName)) ∈ lw_tbl := lw_at lw_m6 59 rfl
theorem q1342 : (Jvm.Cond.instanceMethod ({ cls := "DistinctMarksModel", name := "ranked", desc := "(I)I" } : Jvm.MethodName)) ∈ lw_all := lw_g (lw_at lw_m6 60 rfl) rfl
theorem q1343 : (Jvm.Cond.code ({ cls := "DistinctMarksModel", name := "ranked", desc := "(I)I" } : Jvm.MethodName) prog_10_method_37_code (4 : Nat) (Option.some Jvm.ClassFile.FieldType.int)) ∈ lw_all := lw_g (lw_at lw_m6 61 rfl) rfl
theorem q1345 : (Jvm.Cond.instanceMethod ({ cls := "DistinctMarksModel", name := "folds", desc := "(II)I" } : Jvm.MethodName)) ∈ lw_all := lw_g (lw_at lw_m6 63 rfl) rfl
theorem q1346 : (Jvm.Cond.selects "DistinctMarksModel" ({ cls := "DistinctMarksModel", name := "folds", desc := "(II)I" } : Jvm.MethodName) ({ cls := "DistinctMarksModel", name := "folds", desc := "(II)I" } : Jvm.MethodName)) ∈ lw_all := lw_g (lw_at lw_m6 64 rfl) rfl
theorem q1347 : (Jvm.Cond.code ({ cls := "DistinctMarksModel", name := "folds", desc := "(II)I" } : Jvm.MethodName) prog_10_method_40_code (3 : Nat) (Option.some Jvm.ClassFile.FieldType.int)) ∈ lw_all := lw_g (lw_at lw_m6 65 rfl) rfl
theorem q1348 : (Jvm.Cond.methodLink "DistinctMarksModel" (166 : Nat) ({ cls := "DistinctMarksModel", name := "foldsSlot", desc := "(II)V" } : Jvm.MethodName)) ∈ lw_all := lw_g (lw_at lw_m6 66 rfl) rfl
theorem q1349 : (Jvm.Cond.privateMethod ({ cls := "DistinctMarksModel", name := "foldsSlot", desc := "(II)V" } : Jvm.MethodName)) ∈ lw_tbl := lw_at lw_m6 67 rfl
theorem q1350 : (Jvm.Cond.instanceMethod ({ cls := "DistinctMarksModel", name := "foldsSlot", desc := "(II)V" } : Jvm.MethodName)) ∈ lw_all := lw_g (lw_at lw_m6 68 rfl) rfl
theorem q1351 : (Jvm.Cond.code ({ cls := "DistinctMarksModel", name := "foldsSlot", desc := "(II)V" } : Jvm.MethodName) prog_10_method_39_code (9 : Nat) (Option.none : Option Jvm.ClassFile.FieldType)) ∈ lw_all := lw_g (lw_at lw_m6 69 rfl) rfl
theorem q1352 : (Jvm.Cond.methodLink "DistinctMarksModel" (161 : Nat) ({ cls := "java/lang/Math", name := "max", desc := "(II)I" } : Jvm.MethodName)) ∈ lw_all := lw_g (lw_at lw_m6 70 rfl) rfl
theorem q1354 : (Jvm.Cond.instanceMethod ({ cls := "DistinctMarksModel", name := "copies", desc := "(II)I" } : Jvm.MethodName)) ∈ lw_all := lw_g (lw_at lw_m6 72 rfl) rfl
theorem q1355 : (Jvm.Cond.selects "DistinctMarksModel" ({ cls := "DistinctMarksModel", name := "copies", desc := "(II)I" } : Jvm.MethodName) ({ cls := "DistinctMarksModel", name := "copies", desc := "(II)I" } : Jvm.MethodName)) ∈ lw_all := lw_g (lw_at lw_m6 73 rfl) rfl
theorem q1356 : (Jvm.Cond.code ({ cls := "DistinctMarksModel", name := "copies", desc := "(II)I" } : Jvm.MethodName) prog_10_method_53_code (3 : Nat) (Option.some Jvm.ClassFile.FieldType.int)) ∈ lw_all := lw_g (lw_at lw_m6 74 rfl) rfl
theorem q1357 : (Jvm.Cond.methodLink "DistinctMarksModel" (170 : Nat) ({ cls := "DistinctMarksModel", name := "copiesSlot", desc := "(II)V" } : Jvm.MethodName)) ∈ lw_all := lw_g (lw_at lw_m6 75 rfl) rfl
theorem q1358 : (Jvm.Cond.privateMethod ({ cls := "DistinctMarksModel", name := "copiesSlot", desc := "(II)V" } : Jvm.MethodName)) ∈ lw_tbl := lw_at lw_m6 76 rfl
theorem q1359 : (Jvm.Cond.instanceMethod ({ cls := "DistinctMarksModel", name := "copiesSlot", desc := "(II)V" } : Jvm.MethodName)) ∈ lw_all := lw_g (lw_at lw_m6 77 rfl) rfl
theorem q1360 : (Jvm.Cond.code ({ cls := "DistinctMarksModel", name := "copiesSlot", desc := "(II)V" } : Jvm.MethodName) prog_10_method_19_code (4 : Nat) (Option.none : Option Jvm.ClassFile.FieldType)) ∈ lw_all := lw_g (lw_at lw_m6 78 rfl) rfl
theorem q1361 : (Jvm.Cond.methodLink "DistinctMarksModel" (211 : Nat) ({ cls := "DistinctMarksModel", name := "guessOf", desc := "(I)I" } : Jvm.MethodName)) ∈ lw_all := lw_g (lw_at lw_m6 79 rfl) rfl
theorem q1362 : (Jvm.Cond.privateMethod ({ cls := "DistinctMarksModel", name := "guessOf", desc := "(I)I" } : Jvm.MethodName)) ∈ lw_tbl := lw_at lw_m6 80 rfl
theorem q1363 : (Jvm.Cond.instanceMethod ({ cls := "DistinctMarksModel", name := "guessOf", desc := "(I)I" } : Jvm.MethodName)) ∈ lw_all := lw_g (lw_at lw_m6 81 rfl) rfl
theorem q1364 : (Jvm.Cond.code ({ cls := "DistinctMarksModel", name := "guessOf", desc := "(I)I" } : Jvm.MethodName) prog_10_method_50_code (2 : Nat) (Option.some Jvm.ClassFile.FieldType.int)) ∈ lw_all := lw_g (lw_at lw_m6 82 rfl) rfl
theorem q1365 : (Jvm.Cond.methodLink "DistinctMarksModel" (205 : Nat) ({ cls := "DistinctMarksModel", name := "denseGuess", desc := "(I)I" } : Jvm.MethodName)) ∈ lw_all := lw_g (lw_at lw_m6 83 rfl) rfl
theorem q1366 : (Jvm.Cond.privateMethod ({ cls := "DistinctMarksModel", name := "denseGuess", desc := "(I)I" } : Jvm.MethodName)) ∈ lw_tbl := lw_at lw_m6 84 rfl
theorem q1367 : (Jvm.Cond.instanceMethod ({ cls := "DistinctMarksModel", name := "denseGuess", desc := "(I)I" } : Jvm.MethodName)) ∈ lw_all := lw_g (lw_at lw_m6 85 rfl) rfl
theorem q1368 : (Jvm.Cond.code ({ cls := "DistinctMarksModel", name := "denseGuess", desc := "(I)I" } : Jvm.MethodName) prog_10_method_49_code (2 : Nat) (Option.some Jvm.ClassFile.FieldType.int)) ∈ lw_all := lw_g (lw_at lw_m6 86 rfl) rfl
theorem q1369 : (Jvm.Cond.methodLink "DistinctMarksModel" (195 : Nat) ({ cls := "DistinctMarksModel", name := "zeros", desc := "(I)I" } : Jvm.MethodName)) ∈ lw_all := lw_g (lw_at lw_m6 87 rfl) rfl
theorem q1370 : (Jvm.Cond.privateMethod ({ cls := "DistinctMarksModel", name := "zeros", desc := "(I)I" } : Jvm.MethodName)) ∈ lw_tbl := lw_at lw_m6 88 rfl
theorem q1371 : (Jvm.Cond.instanceMethod ({ cls := "DistinctMarksModel", name := "zeros", desc := "(I)I" } : Jvm.MethodName)) ∈ lw_all := lw_g (lw_at lw_m6 89 rfl) rfl
theorem q1372 : (Jvm.Cond.code ({ cls := "DistinctMarksModel", name := "zeros", desc := "(I)I" } : Jvm.MethodName) prog_10_method_46_code (2 : Nat) (Option.some Jvm.ClassFile.FieldType.int)) ∈ lw_all := lw_g (lw_at lw_m6 90 rfl) rfl
theorem q1373 : (Jvm.Cond.methodLink "DistinctMarksModel" (198 : Nat) ({ cls := "DistinctMarksModel", name := "allOf", desc := "(I)J" } : Jvm.MethodName)) ∈ lw_all := lw_g (lw_at lw_m6 91 rfl) rfl
theorem q1374 : (Jvm.Cond.privateMethod ({ cls := "DistinctMarksModel", name := "allOf", desc := "(I)J" } : Jvm.MethodName)) ∈ lw_tbl := lw_at lw_m6 92 rfl
theorem q1375 : (Jvm.Cond.instanceMethod ({ cls := "DistinctMarksModel", name := "allOf", desc := "(I)J" } : Jvm.MethodName)) ∈ lw_all := lw_g (lw_at lw_m6 93 rfl) rfl
theorem q1376 : (Jvm.Cond.code ({ cls := "DistinctMarksModel", name := "allOf", desc := "(I)J" } : Jvm.MethodName) prog_10_method_47_code (5 : Nat) (Option.some Jvm.ClassFile.FieldType.long)) ∈ lw_all := lw_g (lw_at lw_m6 94 rfl) rfl
theorem q1377 : (Jvm.Cond.methodLink "DistinctMarksModel" (201 : Nat) ({ cls := "DistinctMarksModel", name := "guessBy", desc := "(IIJ)I" } : Jvm.MethodName)) ∈ lw_all := lw_g (lw_at lw_m6 95 rfl) rfl
theorem q1378 : (Jvm.Cond.privateMethod ({ cls := "DistinctMarksModel", name := "guessBy", desc := "(IIJ)I" } : Jvm.MethodName)) ∈ lw_tbl := lw_at lw_m6 96 rfl
theorem q1379 : (Jvm.Cond.instanceMethod ({ cls := "DistinctMarksModel", name := "guessBy", desc := "(IIJ)I" } : Jvm.MethodName)) ∈ lw_all := lw_g (lw_at lw_m6 97 rfl) rfl
theorem q1380 : (Jvm.Cond.code ({ cls := "DistinctMarksModel", name := "guessBy", desc := "(IIJ)I" } : Jvm.MethodName) prog_10_method_48_code (9 : Nat) (Option.some Jvm.ClassFile.FieldType.int)) ∈ lw_all := lw_g (lw_at lw_m6 98 rfl) rfl
theorem q1381 : (Jvm.Cond.methodLink "DistinctMarksModel" (179 : Nat) ({ cls := "DistinctMarksModel", name := "tableOf", desc := "(II)I" } : Jvm.MethodName)) ∈ lw_all := lw_g (lw_at lw_m6 99 rfl) rfl
theorem q1382 : (Jvm.Cond.static ({ cls := "DistinctMarksModel", name := "tableOf", desc := "(II)I" } : Jvm.MethodName)) ∈ lw_all := lw_g (lw_at lw_m6 100 rfl) rfl
theorem q1383 : (Jvm.Cond.code ({ cls := "DistinctMarksModel", name := "tableOf", desc := "(II)I" } : Jvm.MethodName) prog_10_method_45_code (5 : Nat) (Option.some Jvm.ClassFile.FieldType.int)) ∈ lw_all := lw_g (lw_at lw_m6 101 rfl) rfl
theorem q1384 : (Jvm.Cond.methodLink "DistinctMarksModel" (185 : Nat) ({ cls := "DistinctMarksModel", name := "alpha", desc := "(I)I" } : Jvm.MethodName)) ∈ lw_all := lw_g (lw_at lw_m6 102 rfl) rfl
theorem q1385 : (Jvm.Cond.static ({ cls := "DistinctMarksModel", name := "alpha", desc := "(I)I" } : Jvm.MethodName)) ∈ lw_all := lw_g (lw_at lw_m6 103 rfl) rfl
theorem q1386 : (Jvm.Cond.code ({ cls := "DistinctMarksModel", name := "alpha", desc := "(I)I" } : Jvm.MethodName) prog_10_method_44_code (1 : Nat) (Option.some Jvm.ClassFile.FieldType.int)) ∈ lw_all := lw_g (lw_at lw_m6 104 rfl) rfl
theorem q1387 : (Jvm.Cond.constantLong "DistinctMarksModel" (188 : Nat) (536870912 : Int64)) ∈ lw_all := lw_g (lw_at lw_m6 105 rfl) rfl
theorem q1388 : (Jvm.Cond.constantLong "DistinctMarksModel" (190 : Nat) (2000000000 : Int64)) ∈ lw_all := lw_g (lw_at lw_m6 106 rfl) rfl
theorem q1389 : (Jvm.Cond.methodLink "DistinctMarksModel" (192 : Nat) ({ cls := "java/lang/Math", name := "min", desc := "(JJ)J" } : Jvm.MethodName)) ∈ lw_all := lw_g (lw_at lw_m6 107 rfl) rfl
theorem q1391 : (Jvm.Cond.instanceMethod ({ cls := "DistinctMarksModel", name := "joins", desc := "(III)I" } : Jvm.MethodName)) ∈ lw_all := lw_g (lw_at lw_m6 109 rfl) rfl
theorem q1392 : (Jvm.Cond.selects "DistinctMarksModel" ({ cls := "DistinctMarksModel", name := "joins", desc := "(III)I" } : Jvm.MethodName) ({ cls := "DistinctMarksModel", name := "joins", desc := "(III)I" } : Jvm.MethodName)) ∈ lw_all := lw_g (lw_at lw_m6 110 rfl) rfl
theorem q1393 : (Jvm.Cond.code ({ cls := "DistinctMarksModel", name := "joins", desc := "(III)I" } : Jvm.MethodName) prog_10_method_54_code (4 : Nat) (Option.some Jvm.ClassFile.FieldType.int)) ∈ lw_all := lw_g (lw_at lw_m6 111 rfl) rfl
theorem q1394 : (Jvm.Cond.methodLink "DistinctMarksModel" (214 : Nat) ({ cls := "DistinctMarksModel", name := "joinsTwo", desc := "(II)V" } : Jvm.MethodName)) ∈ lw_all := lw_g (lw_at lw_m6 112 rfl) rfl
theorem q1395 : (Jvm.Cond.privateMethod ({ cls := "DistinctMarksModel", name := "joinsTwo", desc := "(II)V" } : Jvm.MethodName)) ∈ lw_tbl := lw_at lw_m6 113 rfl
theorem q1396 : (Jvm.Cond.instanceMethod ({ cls := "DistinctMarksModel", name := "joinsTwo", desc := "(II)V" } : Jvm.MethodName)) ∈ lw_all := lw_g (lw_at lw_m6 114 rfl) rfl
theorem q1397 : (Jvm.Cond.code ({ cls := "DistinctMarksModel", name := "joinsTwo", desc := "(II)V" } : Jvm.MethodName) prog_10_method_43_code (3 : Nat) (Option.none : Option Jvm.ClassFile.FieldType)) ∈ lw_all := lw_g (lw_at lw_m6 115 rfl) rfl
theorem q1398 : (Jvm.Cond.methodLink "DistinctMarksModel" (176 : Nat) ({ cls := "DistinctMarksModel", name := "joinsInto", desc := "(II)V" } : Jvm.MethodName)) ∈ lw_all := lw_g (lw_at lw_m6 116 rfl) rfl
theorem q1399 : (Jvm.Cond.privateMethod ({ cls := "DistinctMarksModel", name := "joinsInto", desc := "(II)V" } : Jvm.MethodName)) ∈ lw_tbl := lw_at lw_m6 117 rfl
theorem q1400 : (Jvm.Cond.instanceMethod ({ cls := "DistinctMarksModel", name := "joinsInto", desc := "(II)V" } : Jvm.MethodName)) ∈ lw_all := lw_g (lw_at lw_m6 118 rfl) rfl
theorem q1401 : (Jvm.Cond.code ({ cls := "DistinctMarksModel", name := "joinsInto", desc := "(II)V" } : Jvm.MethodName) prog_10_method_41_code (7 : Nat) (Option.none : Option Jvm.ClassFile.FieldType)) ∈ lw_all := lw_g (lw_at lw_m6 119 rfl) rfl
theorem q1402 : (Jvm.Cond.methodLink "DistinctMarksModel" (173 : Nat) ({ cls := "java/lang/Math", name := "min", desc := "(II)I" } : Jvm.MethodName)) ∈ lw_all := lw_g (lw_at lw_m6 120 rfl) rfl
theorem q1404 : (Jvm.Cond.instanceMethod ({ cls := "DistinctMarksModel", name := "gathers", desc := "(II)I" } : Jvm.MethodName)) ∈ lw_all := lw_g (lw_at lw_m6 122 rfl) rfl
theorem q1405 : (Jvm.Cond.selects "DistinctMarksModel" ({ cls := "DistinctMarksModel", name := "gathers", desc := "(II)I" } : Jvm.MethodName) ({ cls := "DistinctMarksModel", name := "gathers", desc := "(II)I" } : Jvm.MethodName)) ∈ lw_all := lw_g (lw_at lw_m6 123 rfl) rfl
theorem q1406 : (Jvm.Cond.code ({ cls := "DistinctMarksModel", name := "gathers", desc := "(II)I" } : Jvm.MethodName) prog_10_method_55_code (3 : Nat) (Option.some Jvm.ClassFile.FieldType.int)) ∈ lw_all := lw_g (lw_at lw_m6 124 rfl) rfl
theorem q1407 : (Jvm.Cond.methodLink "DistinctMarksModel" (217 : Nat) ({ cls := "DistinctMarksModel", name := "isSet", desc := "(I)Z" } : Jvm.MethodName)) ∈ lw_all := lw_g (lw_at lw_m6 125 rfl) rfl
theorem q1408 : (Jvm.Cond.static ({ cls := "DistinctMarksModel", name := "isSet", desc := "(I)Z" } : Jvm.MethodName)) ∈ lw_all := lw_g (lw_at lw_m6 126 rfl) rfl
theorem q1409 : (Jvm.Cond.code ({ cls := "DistinctMarksModel", name := "isSet", desc := "(I)Z" } : Jvm.MethodName) prog_10_method_15_code (1 : Nat) (Option.some Jvm.ClassFile.FieldType.boolean)) ∈ lw_all := lw_g (lw_at lw_m6 127 rfl) rfl
theorem q1410 : (Jvm.Cond.constantLong "DistinctMarksModel" (90 : Nat) (63 : Int64)) ∈ lw_all := lw_g (lw_at lw_m6 128 rfl) rfl
theorem q1411 : (Jvm.Cond.methodLink "DistinctMarksModel" (208 : Nat) ({ cls := "DistinctMarksModel", name := "joinsSet", desc := "(I)V" } : Jvm.MethodName)) ∈ lw_all := lw_g (lw_at lw_m6 129 rfl) rfl
theorem q1412 : (Jvm.Cond.privateMethod ({ cls := "DistinctMarksModel", name := "joinsSet", desc := "(I)V" } : Jvm.MethodName)) ∈ lw_tbl := lw_at lw_m6 130 rfl
theorem q1413 : (Jvm.Cond.instanceMethod ({ cls := "DistinctMarksModel", name := "joinsSet", desc := "(I)V" } : Jvm.MethodName)) ∈ lw_all := lw_g (lw_at lw_m6 131 rfl) rfl
theorem q1414 : (Jvm.Cond.code ({ cls := "DistinctMarksModel", name := "joinsSet", desc := "(I)V" } : Jvm.MethodName) prog_10_method_42_code (5 : Nat) (Option.none : Option Jvm.ClassFile.FieldType)) ∈ lw_all := lw_g (lw_at lw_m6 132 rfl) rfl
theorem q1416 : (Jvm.Cond.instanceMethod ({ cls := "DistinctMarksModel", name := "puts", desc := "(IIJ)I" } : Jvm.MethodName)) ∈ lw_all := lw_g (lw_at lw_m6 134 rfl) rfl
theorem q1417 : (Jvm.Cond.selects "DistinctMarksModel" ({ cls := "DistinctMarksModel", name := "puts", desc := "(IIJ)I" } : Jvm.MethodName) ({ cls := "DistinctMarksModel", name := "puts", desc := "(IIJ)I" } : Jvm.MethodName)) ∈ lw_all := lw_g (lw_at lw_m6 135 rfl) rfl
theorem q1418 : (Jvm.Cond.code ({ cls := "DistinctMarksModel", name := "puts", desc := "(IIJ)I" } : Jvm.MethodName) prog_10_method_57_code (8 : Nat) (Option.some Jvm.ClassFile.FieldType.int)) ∈ lw_all := lw_g (lw_at lw_m6 136 rfl) rfl
theorem q1419 : (Jvm.Cond.methodLink "DistinctMarksModel" (220 : Nat) ({ cls := "DistinctMarksModel", name := "isRow", desc := "(II)Z" } : Jvm.MethodName)) ∈ lw_all := lw_g (lw_at lw_m6 137 rfl) rfl
theorem q1420 : (Jvm.Cond.privateMethod ({ cls := "DistinctMarksModel", name := "isRow", desc := "(II)Z" } : Jvm.MethodName)) ∈ lw_tbl := lw_at lw_m6 138 rfl
theorem q1421 : (Jvm.Cond.instanceMethod ({ cls := "DistinctMarksModel", name := "isRow", desc := "(II)Z" } : Jvm.MethodName)) ∈ lw_all := lw_g (lw_at lw_m6 139 rfl) rfl
theorem q1422 : (Jvm.Cond.code ({ cls := "DistinctMarksModel", name := "isRow", desc := "(II)Z" } : Jvm.MethodName) prog_10_method_56_code (3 : Nat) (Option.some Jvm.ClassFile.FieldType.boolean)) ∈ lw_all := lw_g (lw_at lw_m6 140 rfl) rfl
theorem q1423 : (Jvm.Cond.constantLong "DistinctMarksModel" (224 : Nat) (31 : Int64)) ∈ lw_all := lw_g (lw_at lw_m6 141 rfl) rfl
theorem q1425 : (Jvm.Cond.instanceMethod ({ cls := "DistinctMarksModel", name := "swaps", desc := "(II)I" } : Jvm.MethodName)) ∈ lw_all := lw_g (lw_at lw_m6 143 rfl) rfl
theorem q1426 : (Jvm.Cond.selects "DistinctMarksModel" ({ cls := "DistinctMarksModel", name := "swaps", desc := "(II)I" } : Jvm.MethodName) ({ cls := "DistinctMarksModel", name := "swaps", desc := "(II)I" } : Jvm.MethodName)) ∈ lw_all := lw_g (lw_at lw_m6 144 rfl) rfl
theorem q1427 : (Jvm.Cond.code ({ cls := "DistinctMarksModel", name := "swaps", desc := "(II)I" } : Jvm.MethodName) prog_10_method_58_code (3 : Nat) (Option.some Jvm.ClassFile.FieldType.int)) ∈ lw_all := lw_g (lw_at lw_m6 145 rfl) rfl
theorem q1429 : (Jvm.Cond.instanceMethod ({ cls := "DistinctMarksModel", name := "keeps", desc := "(III)I" } : Jvm.MethodName)) ∈ lw_all := lw_g (lw_at lw_m6 147 rfl) rfl
theorem q1430 : (Jvm.Cond.selects "DistinctMarksModel" ({ cls := "DistinctMarksModel", name := "keeps", desc := "(III)I" } : Jvm.MethodName) ({ cls := "DistinctMarksModel", name := "keeps", desc := "(III)I" } : Jvm.MethodName)) ∈ lw_all := lw_g (lw_at lw_m6 148 rfl) rfl
theorem q1431 : (Jvm.Cond.code ({ cls := "DistinctMarksModel", name := "keeps", desc := "(III)I" } : Jvm.MethodName) prog_10_method_60_code (5 : Nat) (Option.some Jvm.ClassFile.FieldType.int)) ∈ lw_all := lw_g (lw_at lw_m6 149 rfl) rfl
theorem q1432 : (Jvm.Cond.methodLink "DistinctMarksModel" (226 : Nat) ({ cls := "DistinctMarksModel", name := "sieves", desc := "(IIZII)I" } : Jvm.MethodName)) ∈ lw_all := lw_g (lw_at lw_m6 150 rfl) rfl
theorem q1433 : (Jvm.Cond.privateMethod ({ cls := "DistinctMarksModel", name := "sieves", desc := "(IIZII)I" } : Jvm.MethodName)) ∈ lw_tbl := lw_at lw_m6 151 rfl
theorem q1434 : (Jvm.Cond.instanceMethod ({ cls := "DistinctMarksModel", name := "sieves", desc := "(IIZII)I" } : Jvm.MethodName)) ∈ lw_all := lw_g (lw_at lw_m6 152 rfl) rfl
theorem q1435 : (Jvm.Cond.code ({ cls := "DistinctMarksModel", name := "sieves", desc := "(IIZII)I" } : Jvm.MethodName) prog_10_method_59_code (7 : Nat) (Option.some Jvm.ClassFile.FieldType.int)) ∈ lw_all := lw_g (lw_at lw_m6 153 rfl) rfl
theorem q1437 : (Jvm.Cond.instanceMethod ({ cls := "DistinctMarksModel", name := "less", desc := "(III)I" } : Jvm.MethodName)) ∈ lw_all := lw_g (lw_at lw_m6 155 rfl) rfl
theorem q1438 : (Jvm.Cond.selects "DistinctMarksModel" ({ cls := "DistinctMarksModel", name := "less", desc := "(III)I" } : Jvm.MethodName) ({ cls := "DistinctMarksModel", name := "less", desc := "(III)I" } : Jvm.MethodName)) ∈ lw_all := lw_g (lw_at lw_m6 156 rfl) rfl
theorem q1439 : (Jvm.Cond.code ({ cls := "DistinctMarksModel", name := "less", desc := "(III)I" } : Jvm.MethodName) prog_10_method_61_code (5 : Nat) (Option.some Jvm.ClassFile.FieldType.int)) ∈ lw_all := lw_g (lw_at lw_m6 157 rfl) rfl
theorem q1441 : (Jvm.Cond.instanceMethod ({ cls := "DistinctMarksModel", name := "splits", desc := "(III)I" } : Jvm.MethodName)) ∈ lw_all := lw_g (lw_at lw_m6 159 rfl) rfl
theorem q1442 : (Jvm.Cond.selects "DistinctMarksModel" ({ cls := "DistinctMarksModel", name := "splits", desc := "(III)I" } : Jvm.MethodName) ({ cls := "DistinctMarksModel", name := "splits", desc := "(III)I" } : Jvm.MethodName)) ∈ lw_all := lw_g (lw_at lw_m6 160 rfl) rfl
theorem q1443 : (Jvm.Cond.code ({ cls := "DistinctMarksModel", name := "splits", desc := "(III)I" } : Jvm.MethodName) prog_10_method_62_code (5 : Nat) (Option.some Jvm.ClassFile.FieldType.int)) ∈ lw_all := lw_g (lw_at lw_m6 161 rfl) rfl
theorem q1444 : (Jvm.Cond.constantLong "DistinctMarksModel" (230 : Nat) (2147483648 : Int64)) ∈ lw_all := lw_g (lw_at lw_m6 162 rfl) rfl
theorem q1446 : (Jvm.Cond.instanceMethod ({ cls := "DistinctMarksModel", name := "guess", desc := "(I)I" } : Jvm.MethodName)) ∈ lw_all := lw_g (lw_at lw_m6 164 rfl) rfl
theorem q1447 : (Jvm.Cond.selects "DistinctMarksModel" ({ cls := "DistinctMarksModel", name := "guess", desc := "(I)I" } : Jvm.MethodName) ({ cls := "DistinctMarksModel", name := "guess", desc := "(I)I" } : Jvm.MethodName)) ∈ lw_all := lw_g (lw_at lw_m6 165 rfl) rfl
theorem q1448 : (Jvm.Cond.code ({ cls := "DistinctMarksModel", name := "guess", desc := "(I)I" } : Jvm.MethodName) prog_10_method_63_code (3 : Nat) (Option.some Jvm.ClassFile.FieldType.int)) ∈ lw_all := lw_g (lw_at lw_m6 166 rfl) rfl
theorem q1450 : (Jvm.Cond.instanceMethod ({ cls := "DistinctMarksModel", name := "roughly", desc := "(I)I" } : Jvm.MethodName)) ∈ lw_all := lw_g (lw_at lw_m6 168 rfl) rfl
theorem q1451 : (Jvm.Cond.selects "DistinctMarksModel" ({ cls := "DistinctMarksModel", name := "roughly", desc := "(I)I" } : Jvm.MethodName) ({ cls := "DistinctMarksModel", name := "roughly", desc := "(I)I" } : Jvm.MethodName)) ∈ lw_all := lw_g (lw_at lw_m6 169 rfl) rfl
theorem q1452 : (Jvm.Cond.code ({ cls := "DistinctMarksModel", name := "roughly", desc := "(I)I" } : Jvm.MethodName) prog_10_method_64_code (3 : Nat) (Option.some Jvm.ClassFile.FieldType.int)) ∈ lw_all := lw_g (lw_at lw_m6 170 rfl) rfl
theorem q1454 : (Jvm.Cond.instanceMethod ({ cls := "DistinctMarksModel", name := "form", desc := "(II)I" } : Jvm.MethodName)) ∈ lw_all := lw_g (lw_at lw_m6 172 rfl) rfl
theorem q1455 : (Jvm.Cond.selects "DistinctMarksModel" ({ cls := "DistinctMarksModel", name := "form", desc := "(II)I" } : Jvm.MethodName) ({ cls := "DistinctMarksModel", name := "form", desc := "(II)I" } : Jvm.MethodName)) ∈ lw_all := lw_g (lw_at lw_m6 173 rfl) rfl
theorem q1456 : (Jvm.Cond.code ({ cls := "DistinctMarksModel", name := "form", desc := "(II)I" } : Jvm.MethodName) prog_10_method_66_code (3 : Nat) (Option.some Jvm.ClassFile.FieldType.int)) ∈ lw_all := lw_g (lw_at lw_m6 174 rfl) rfl
theorem q1457 : (Jvm.Cond.methodLink "DistinctMarksModel" (232 : Nat) ({ cls := "DistinctMarksModel", name := "greatest", desc := "(I)I" } : Jvm.MethodName)) ∈ lw_all := lw_g (lw_at lw_m6 175 rfl) rfl
theorem q1458 : (Jvm.Cond.privateMethod ({ cls := "DistinctMarksModel", name := "greatest", desc := "(I)I" } : Jvm.MethodName)) ∈ lw_tbl := lw_at lw_m6 176 rfl
theorem q1459 : (Jvm.Cond.instanceMethod ({ cls := "DistinctMarksModel", name := "greatest", desc := "(I)I" } : Jvm.MethodName)) ∈ lw_all := lw_g (lw_at lw_m6 177 rfl) rfl
theorem q1460 : (Jvm.Cond.code ({ cls := "DistinctMarksModel", name := "greatest", desc := "(I)I" } : Jvm.MethodName) prog_10_method_65_code (4 : Nat) (Option.some Jvm.ClassFile.FieldType.int)) ∈ lw_all := lw_g (lw_at lw_m6 178 rfl) rfl
theorem q1462 : (Jvm.Cond.instanceMethod ({ cls := "DistinctMarksModel", name := "rank", desc := "(II)I" } : Jvm.MethodName)) ∈ lw_all := lw_g (lw_at lw_m6 180 rfl) rfl
theorem q1463 : (Jvm.Cond.selects "DistinctMarksModel" ({ cls := "DistinctMarksModel", name := "rank", desc := "(II)I" } : Jvm.MethodName) ({ cls := "DistinctMarksModel", name := "rank", desc := "(II)I" } : Jvm.MethodName)) ∈ lw_all := lw_g (lw_at lw_m6 181 rfl) rfl
theorem q1464 : (Jvm.Cond.code ({ cls := "DistinctMarksModel", name := "rank", desc := "(II)I" } : Jvm.MethodName) prog_10_method_67_code (3 : Nat) (Option.some Jvm.ClassFile.FieldType.int)) ∈ lw_all := lw_g (lw_at lw_m6 182 rfl) rfl
theorem q1466 : (Jvm.Cond.instanceMethod ({ cls := "DistinctMarksModel", name := "ranks", desc := "(II)I" } : Jvm.MethodName)) ∈ lw_all := lw_g (lw_at lw_m6 184 rfl) rfl
theorem q1467 : (Jvm.Cond.selects "DistinctMarksModel" ({ cls := "DistinctMarksModel", name := "ranks", desc := "(II)I" } : Jvm.MethodName) ({ cls := "DistinctMarksModel", name := "ranks", desc := "(II)I" } : Jvm.MethodName)) ∈ lw_all := lw_g (lw_at lw_m6 185 rfl) rfl
theorem q1468 : (Jvm.Cond.code ({ cls := "DistinctMarksModel", name := "ranks", desc := "(II)I" } : Jvm.MethodName) prog_10_method_68_code (7 : Nat) (Option.some Jvm.ClassFile.FieldType.int)) ∈ lw_all := lw_g (lw_at lw_m6 186 rfl) rfl
theorem q1469 : (Jvm.Cond.constantLong "DistinctMarksModel" (235 : Nat) (29 : Int64)) ∈ lw_all := lw_g (lw_at lw_m6 187 rfl) rfl
theorem q1471 : (Jvm.Cond.instanceMethod ({ cls := "DistinctMarksModel", name := "marked", desc := "(II)J" } : Jvm.MethodName)) ∈ lw_all := lw_g (lw_at lw_m6 189 rfl) rfl
theorem q1472 : (Jvm.Cond.selects "DistinctMarksModel" ({ cls := "DistinctMarksModel", name := "marked", desc := "(II)J" } : Jvm.MethodName) ({ cls := "DistinctMarksModel", name := "marked", desc := "(II)J" } : Jvm.MethodName)) ∈ lw_all := lw_g (lw_at lw_m6 190 rfl) rfl
theorem q1473 : (Jvm.Cond.code ({ cls := "DistinctMarksModel", name := "marked", desc := "(II)J" } : Jvm.MethodName) prog_10_method_69_code (3 : Nat) (Option.some Jvm.ClassFile.FieldType.long)) ∈ lw_all := lw_g (lw_at lw_m6 191 rfl) rfl
theorem q1474 : (Jvm.Cond.constantLong "DistinctMarksModel" (237 : Nat) (-1 : Int64)) ∈ lw_all := lw_g (lw_at lw_m6 192 rfl) rfl
theorem q1475 : (Jvm.Cond.constantLong "DistinctMarksModel" (239 : Nat) (-2 : Int64)) ∈ lw_all := lw_g (lw_at lw_m6 193 rfl) rfl
theorem q1477 : (Jvm.Cond.instanceMethod ({ cls := "DistinctMarksModel", name := "may", desc := "(II)I" } : Jvm.MethodName)) ∈ lw_all := lw_g (lw_at lw_m6 195 rfl) rfl
theorem q1478 : (Jvm.Cond.selects "DistinctMarksModel" ({ cls := "DistinctMarksModel", name := "may", desc := "(II)I" } : Jvm.MethodName) ({ cls := "DistinctMarksModel", name := "may", desc := "(II)I" } : Jvm.MethodName)) ∈ lw_all := lw_g (lw_at lw_m6 196 rfl) rfl
theorem q1479 : (Jvm.Cond.code ({ cls := "DistinctMarksModel", name := "may", desc := "(II)I" } : Jvm.MethodName) prog_10_method_70_code (3 : Nat) (Option.some Jvm.ClassFile.FieldType.int)) ∈ lw_all := lw_g (lw_at lw_m6 197 rfl) rfl
theorem q1480 : (Jvm.Cond.methodLink "DistinctMarksModel" (241 : Nat) ({ cls := "DistinctMarksModel", name := "wouldChange", desc := "(IJ)Z" } : Jvm.MethodName)) ∈ lw_all := lw_g (lw_at lw_m6 198 rfl) rfl
theorem q1481 : (Jvm.Cond.privateMethod ({ cls := "DistinctMarksModel", name := "wouldChange", desc := "(IJ)Z" } : Jvm.MethodName)) ∈ lw_tbl := lw_at lw_m6 199 rfl
theorem q1482 : (Jvm.Cond.instanceMethod ({ cls := "DistinctMarksModel", name := "wouldChange", desc := "(IJ)Z" } : Jvm.MethodName)) ∈ lw_all := lw_g (lw_at lw_m6 200 rfl) rfl
theorem q1483 : (Jvm.Cond.code ({ cls := "DistinctMarksModel", name := "wouldChange", desc := "(IJ)Z" } : Jvm.MethodName) prog_10_method_26_code (4 : Nat) (Option.some Jvm.ClassFile.FieldType.boolean)) ∈ lw_all := lw_g (lw_at lw_m6 201 rfl) rfl
theorem q1485 : (Jvm.Cond.instanceMethod ({ cls := "DistinctMarksModel", name := "first", desc := "(IIII)I" } : Jvm.MethodName)) ∈ lw_all := lw_g (lw_at lw_m6 203 rfl) rfl
theorem q1486 : (Jvm.Cond.selects "DistinctMarksModel" ({ cls := "DistinctMarksModel", name := "first", desc := "(IIII)I" } : Jvm.MethodName) ({ cls := "DistinctMarksModel", name := "first", desc := "(IIII)I" } : Jvm.MethodName)) ∈ lw_all := lw_g (lw_at lw_m6 204 rfl) rfl
theorem q1487 : (Jvm.Cond.code ({ cls := "DistinctMarksModel", name := "first", desc := "(IIII)I" } : Jvm.MethodName) prog_10_method_71_code (7 : Nat) (Option.some Jvm.ClassFile.FieldType.int)) ∈ lw_all := lw_g (lw_at lw_m6 205 rfl) rfl
theorem q1489 : (Jvm.Cond.instanceMethod ({ cls := "DistinctMarksModel", name := "bits", desc := "(II)J" } : Jvm.MethodName)) ∈ lw_all := lw_g (lw_at lw_m6 207 rfl) rfl
theorem q1490 : (Jvm.Cond.selects "DistinctMarksModel" ({ cls := "DistinctMarksModel", name := "bits", desc := "(II)J" } : Jvm.MethodName) ({ cls := "DistinctMarksModel", name := "bits", desc := "(II)J" } : Jvm.MethodName)) ∈ lw_all := lw_g (lw_at lw_m6 208 rfl) rfl
theorem q1491 : (Jvm.Cond.code ({ cls := "DistinctMarksModel", name := "bits", desc := "(II)J" } : Jvm.MethodName) prog_10_method_72_code (6 : Nat) (Option.some Jvm.ClassFile.FieldType.long)) ∈ lw_all := lw_g (lw_at lw_m6 209 rfl) rfl
theorem q1493 : (Jvm.Cond.instanceMethod ({ cls := "DistinctMarksModel", name := "slice", desc := "(III)J" } : Jvm.MethodName)) ∈ lw_all := lw_g (lw_at lw_m6 211 rfl) rfl
theorem q1494 : (Jvm.Cond.selects "DistinctMarksModel" ({ cls := "DistinctMarksModel", name := "slice", desc := "(III)J" } : Jvm.MethodName) ({ cls := "DistinctMarksModel", name := "slice", desc := "(III)J" } : Jvm.MethodName)) ∈ lw_all := lw_g (lw_at lw_m6 212 rfl) rfl
theorem q1495 : (Jvm.Cond.code ({ cls := "DistinctMarksModel", name := "slice", desc := "(III)J" } : Jvm.MethodName) prog_10_method_73_code (7 : Nat) (Option.some Jvm.ClassFile.FieldType.long)) ∈ lw_all := lw_g (lw_at lw_m6 213 rfl) rfl
theorem q1496 : (Jvm.Cond.constantLong "DistinctMarksModel" (244 : Nat) (3 : Int64)) ∈ lw_all := lw_g (lw_at lw_m6 214 rfl) rfl
theorem q1498 : (Jvm.Cond.instanceMethod ({ cls := "DistinctMarksModel", name := "runsOf", desc := "(I)I" } : Jvm.MethodName)) ∈ lw_all := lw_g (lw_at lw_m6 216 rfl) rfl
theorem q1499 : (Jvm.Cond.selects "DistinctMarksModel" ({ cls := "DistinctMarksModel", name := "runsOf", desc := "(I)I" } : Jvm.MethodName) ({ cls := "DistinctMarksModel", name := "runsOf", desc := "(I)I" } : Jvm.MethodName)) ∈ lw_all := lw_g (lw_at lw_m6 217 rfl) rfl
theorem q1500 : (Jvm.Cond.code ({ cls := "DistinctMarksModel", name := "runsOf", desc := "(I)I" } : Jvm.MethodName) prog_10_method_74_code (7 : Nat) (Option.some Jvm.ClassFile.FieldType.int)) ∈ lw_all := lw_g (lw_at lw_m6 218 rfl) rfl
theorem q1502 : (Jvm.Cond.instanceMethod ({ cls := "DistinctMarksModel", name := "replays", desc := "(I)I" } : Jvm.MethodName)) ∈ lw_all := lw_g (lw_at lw_m6 220 rfl) rfl
theorem q1503 : (Jvm.Cond.selects "DistinctMarksModel" ({ cls := "DistinctMarksModel", name := "replays", desc := "(I)I" } : Jvm.MethodName) ({ cls := "DistinctMarksModel", name := "replays", desc := "(I)I" } : Jvm.MethodName)) ∈ lw_all := lw_g (lw_at lw_m6 221 rfl) rfl
theorem q1504 : (Jvm.Cond.code ({ cls := "DistinctMarksModel", name := "replays", desc := "(I)I" } : Jvm.MethodName) prog_10_method_75_code (6 : Nat) (Option.some Jvm.ClassFile.FieldType.int)) ∈ lw_all := lw_g (lw_at lw_m6 222 rfl) rfl
theorem q1506 : (Jvm.Cond.instanceMethod ({ cls := "DistinctMarksModel", name := "gap", desc := "(I)I" } : Jvm.MethodName)) ∈ lw_all := lw_g (lw_at lw_m6 224 rfl) rfl
theorem q1507 : (Jvm.Cond.selects "DistinctMarksModel" ({ cls := "DistinctMarksModel", name := "gap", desc := "(I)I" } : Jvm.MethodName) ({ cls := "DistinctMarksModel", name := "gap", desc := "(I)I" } : Jvm.MethodName)) ∈ lw_all := lw_g (lw_at lw_m6 225 rfl) rfl
theorem q1508 : (Jvm.Cond.code ({ cls := "DistinctMarksModel", name := "gap", desc := "(I)I" } : Jvm.MethodName) prog_10_method_76_code (7 : Nat) (Option.some Jvm.ClassFile.FieldType.int)) ∈ lw_all := lw_g (lw_at lw_m6 226 rfl) rfl
theorem q1510 : (Jvm.Cond.instanceMethod ({ cls := "DistinctMarksModel", name := "chain", desc := "(I)I" } : Jvm.MethodName)) ∈ lw_all := lw_g (lw_at lw_m6 228 rfl) rfl
theorem q1511 : (Jvm.Cond.selects "DistinctMarksModel" ({ cls := "DistinctMarksModel", name := "chain", desc := "(I)I" } : Jvm.MethodName) ({ cls := "DistinctMarksModel", name := "chain", desc := "(I)I" } : Jvm.MethodName)) ∈ lw_all := lw_g (lw_at lw_m6 229 rfl) rfl
theorem q1512 : (Jvm.Cond.code ({ cls := "DistinctMarksModel", name := "chain", desc := "(I)I" } : Jvm.MethodName) prog_10_method_77_code (7 : Nat) (Option.some Jvm.ClassFile.FieldType.int)) ∈ lw_all := lw_g (lw_at lw_m6 230 rfl) rfl
theorem q1513 : (Jvm.Cond.methodLink "DistinctMarksModel" (246 : Nat) ({ cls := "DistinctMarksModel", name := "jointGuess", desc := "(I)I" } : Jvm.MethodName)) ∈ lw_all := lw_g (lw_at lw_m6 231 rfl) rfl
theorem q1514 : (Jvm.Cond.privateMethod ({ cls := "DistinctMarksModel", name := "jointGuess", desc := "(I)I" } : Jvm.MethodName)) ∈ lw_tbl := lw_at lw_m6 232 rfl
theorem q1515 : (Jvm.Cond.instanceMethod ({ cls := "DistinctMarksModel", name := "jointGuess", desc := "(I)I" } : Jvm.MethodName)) ∈ lw_all := lw_g (lw_at lw_m6 233 rfl) rfl
theorem q1516 : (Jvm.Cond.code ({ cls := "DistinctMarksModel", name := "jointGuess", desc := "(I)I" } : Jvm.MethodName) prog_10_method_51_code (2 : Nat) (Option.some Jvm.ClassFile.FieldType.int)) ∈ lw_all := lw_g (lw_at lw_m6 234 rfl) rfl
theorem q1518 : (Jvm.Cond.instanceMethod ({ cls := "DistinctMarksModel", name := "lessers", desc := "(III)I" } : Jvm.MethodName)) ∈ lw_all := lw_g (lw_at lw_m6 236 rfl) rfl
theorem q1519 : (Jvm.Cond.selects "DistinctMarksModel" ({ cls := "DistinctMarksModel", name := "lessers", desc := "(III)I" } : Jvm.MethodName) ({ cls := "DistinctMarksModel", name := "lessers", desc := "(III)I" } : Jvm.MethodName)) ∈ lw_all := lw_g (lw_at lw_m6 237 rfl) rfl
theorem q1520 : (Jvm.Cond.code ({ cls := "DistinctMarksModel", name := "lessers", desc := "(III)I" } : Jvm.MethodName) prog_10_method_78_code (7 : Nat) (Option.some Jvm.ClassFile.FieldType.int)) ∈ lw_all := lw_g (lw_at lw_m6 238 rfl) rfl
theorem q1521 : (Jvm.Cond.methodLink "DistinctMarksModel" (249 : Nat) ({ cls := "DistinctMarksModel", name := "foldsBoth", desc := "(II)I" } : Jvm.MethodName)) ∈ lw_all := lw_g (lw_at lw_m6 239 rfl) rfl
theorem q1522 : (Jvm.Cond.privateMethod ({ cls := "DistinctMarksModel", name := "foldsBoth", desc := "(II)I" } : Jvm.MethodName)) ∈ lw_tbl := lw_at lw_m7 0 rfl
theorem q1523 : (Jvm.Cond.instanceMethod ({ cls := "DistinctMarksModel", name := "foldsBoth", desc := "(II)I" } : Jvm.MethodName)) ∈ lw_all := lw_g (lw_at lw_m7 1 rfl) rfl
theorem q1524 : (Jvm.Cond.code ({ cls := "DistinctMarksModel", name := "foldsBoth", desc := "(II)I" } : Jvm.MethodName) prog_10_method_90_code (4 : Nat) (Option.some Jvm.ClassFile.FieldType.int)) ∈ lw_all := lw_g (lw_at lw_m7 2 rfl) rfl
theorem q1526 : (Jvm.Cond.instanceMethod ({ cls := "DistinctMarksModel", name := "table", desc := "(II)I" } : Jvm.MethodName)) ∈ lw_all := lw_g (lw_at lw_m7 4 rfl) rfl
theorem q1527 : (Jvm.Cond.selects "DistinctMarksModel" ({ cls := "DistinctMarksModel", name := "table", desc := "(II)I" } : Jvm.MethodName) ({ cls := "DistinctMarksModel", name := "table", desc := "(II)I" } : Jvm.MethodName)) ∈ lw_all := lw_g (lw_at lw_m7 5 rfl) rfl
theorem q1528 : (Jvm.Cond.code ({ cls := "DistinctMarksModel", name := "table", desc := "(II)I" } : Jvm.MethodName) prog_10_method_79_code (3 : Nat) (Option.some Jvm.ClassFile.FieldType.int)) ∈ lw_all := lw_g (lw_at lw_m7 6 rfl) rfl
theorem q1530 : (Jvm.Cond.instanceMethod ({ cls := "DistinctMarksModel", name := "all", desc := "(I)J" } : Jvm.MethodName)) ∈ lw_all := lw_g (lw_at lw_m7 8 rfl) rfl
theorem q1531 : (Jvm.Cond.selects "DistinctMarksModel" ({ cls := "DistinctMarksModel", name := "all", desc := "(I)J" } : Jvm.MethodName) ({ cls := "DistinctMarksModel", name := "all", desc := "(I)J" } : Jvm.MethodName)) ∈ lw_all := lw_g (lw_at lw_m7 9 rfl) rfl
theorem q1532 : (Jvm.Cond.code ({ cls := "DistinctMarksModel", name := "all", desc := "(I)J" } : Jvm.MethodName) prog_10_method_80_code (2 : Nat) (Option.some Jvm.ClassFile.FieldType.long)) ∈ lw_all := lw_g (lw_at lw_m7 10 rfl) rfl
theorem q1534 : (Jvm.Cond.instanceMethod ({ cls := "DistinctMarksModel", name := "lacks", desc := "(II)I" } : Jvm.MethodName)) ∈ lw_all := lw_g (lw_at lw_m7 12 rfl) rfl
theorem q1535 : (Jvm.Cond.selects "DistinctMarksModel" ({ cls := "DistinctMarksModel", name := "lacks", desc := "(II)I" } : Jvm.MethodName) ({ cls := "DistinctMarksModel", name := "lacks", desc := "(II)I" } : Jvm.MethodName)) ∈ lw_all := lw_g (lw_at lw_m7 13 rfl) rfl
theorem q1536 : (Jvm.Cond.code ({ cls := "DistinctMarksModel", name := "lacks", desc := "(II)I" } : Jvm.MethodName) prog_10_method_81_code (7 : Nat) (Option.some Jvm.ClassFile.FieldType.int)) ∈ lw_all := lw_g (lw_at lw_m7 14 rfl) rfl
theorem q1537 : (Jvm.Cond.constantLong "DistinctMarksModel" (252 : Nat) (268435456 : Int64)) ∈ lw_all := lw_g (lw_at lw_m7 15 rfl) rfl
theorem q1539 : (Jvm.Cond.instanceMethod ({ cls := "DistinctMarksModel", name := "common", desc := "(II)J" } : Jvm.MethodName)) ∈ lw_all := lw_g (lw_at lw_m7 17 rfl) rfl
theorem q1540 : (Jvm.Cond.selects "DistinctMarksModel" ({ cls := "DistinctMarksModel", name := "common", desc := "(II)J" } : Jvm.MethodName) ({ cls := "DistinctMarksModel", name := "common", desc := "(II)J" } : Jvm.MethodName)) ∈ lw_all := lw_g (lw_at lw_m7 18 rfl) rfl
theorem q1541 : (Jvm.Cond.code ({ cls := "DistinctMarksModel", name := "common", desc := "(II)J" } : Jvm.MethodName) prog_10_method_83_code (5 : Nat) (Option.some Jvm.ClassFile.FieldType.long)) ∈ lw_all := lw_g (lw_at lw_m7 19 rfl) rfl
theorem q1542 : (Jvm.Cond.methodLink "DistinctMarksModel" (259 : Nat) ({ cls := "DistinctMarksModel", name := "commonOf", desc := "(II)J" } : Jvm.MethodName)) ∈ lw_all := lw_g (lw_at lw_m7 20 rfl) rfl
theorem q1543 : (Jvm.Cond.privateMethod ({ cls := "DistinctMarksModel", name := "commonOf", desc := "(II)J" } : Jvm.MethodName)) ∈ lw_tbl := lw_at lw_m7 21 rfl
theorem q1544 : (Jvm.Cond.instanceMethod ({ cls := "DistinctMarksModel", name := "commonOf", desc := "(II)J" } : Jvm.MethodName)) ∈ lw_all := lw_g (lw_at lw_m7 22 rfl) rfl
theorem q1545 : (Jvm.Cond.code ({ cls := "DistinctMarksModel", name := "commonOf", desc := "(II)J" } : Jvm.MethodName) prog_10_method_82_code (3 : Nat) (Option.some Jvm.ClassFile.FieldType.long)) ∈ lw_all := lw_g (lw_at lw_m7 23 rfl) rfl
theorem q1546 : (Jvm.Cond.methodLink "DistinctMarksModel" (254 : Nat) ({ cls := "DistinctMarksModel", name := "bothGuess", desc := "(II)I" } : Jvm.MethodName)) ∈ lw_all := lw_g (lw_at lw_m7 24 rfl) rfl
theorem q1547 : (Jvm.Cond.privateMethod ({ cls := "DistinctMarksModel", name := "bothGuess", desc := "(II)I" } : Jvm.MethodName)) ∈ lw_tbl := lw_at lw_m7 25 rfl
theorem q1548 : (Jvm.Cond.instanceMethod ({ cls := "DistinctMarksModel", name := "bothGuess", desc := "(II)I" } : Jvm.MethodName)) ∈ lw_all := lw_g (lw_at lw_m7 26 rfl) rfl
theorem q1549 : (Jvm.Cond.code ({ cls := "DistinctMarksModel", name := "bothGuess", desc := "(II)I" } : Jvm.MethodName) prog_10_method_52_code (3 : Nat) (Option.some Jvm.ClassFile.FieldType.int)) ∈ lw_all := lw_g (lw_at lw_m7 27 rfl) rfl
theorem q1550 : (Jvm.Cond.methodLink "DistinctMarksModel" (257 : Nat) ({ cls := "java/lang/Math", name := "max", desc := "(JJ)J" } : Jvm.MethodName)) ∈ lw_all := lw_g (lw_at lw_m7 28 rfl) rfl
theorem q1552 : (Jvm.Cond.instanceMethod ({ cls := "DistinctMarksModel", name := "alone", desc := "(II)J" } : Jvm.MethodName)) ∈ lw_all := lw_g (lw_at lw_m7 30 rfl) rfl
theorem q1553 : (Jvm.Cond.selects "DistinctMarksModel" ({ cls := "DistinctMarksModel", name := "alone", desc := "(II)J" } : Jvm.MethodName) ({ cls := "DistinctMarksModel", name := "alone", desc := "(II)J" } : Jvm.MethodName)) ∈ lw_all := lw_g (lw_at lw_m7 31 rfl) rfl
theorem q1554 : (Jvm.Cond.code ({ cls := "DistinctMarksModel", name := "alone", desc := "(II)J" } : Jvm.MethodName) prog_10_method_84_code (3 : Nat) (Option.some Jvm.ClassFile.FieldType.long)) ∈ lw_all := lw_g (lw_at lw_m7 32 rfl) rfl
theorem q1556 : (Jvm.Cond.instanceMethod ({ cls := "DistinctMarksModel", name := "alike", desc := "(II)I" } : Jvm.MethodName)) ∈ lw_all := lw_g (lw_at lw_m7 34 rfl) rfl
theorem q1557 : (Jvm.Cond.selects "DistinctMarksModel" ({ cls := "DistinctMarksModel", name := "alike", desc := "(II)I" } : Jvm.MethodName) ({ cls := "DistinctMarksModel", name := "alike", desc := "(II)I" } : Jvm.MethodName)) ∈ lw_all := lw_g (lw_at lw_m7 35 rfl) rfl
theorem q1558 : (Jvm.Cond.code ({ cls := "DistinctMarksModel", name := "alike", desc := "(II)I" } : Jvm.MethodName) prog_10_method_86_code (3 : Nat) (Option.some Jvm.ClassFile.FieldType.int)) ∈ lw_all := lw_g (lw_at lw_m7 36 rfl) rfl
theorem q1559 : (Jvm.Cond.methodLink "DistinctMarksModel" (263 : Nat) ({ cls := "DistinctMarksModel", name := "alikeOf", desc := "(II)I" } : Jvm.MethodName)) ∈ lw_all := lw_g (lw_at lw_m7 37 rfl) rfl
theorem q1560 : (Jvm.Cond.privateMethod ({ cls := "DistinctMarksModel", name := "alikeOf", desc := "(II)I" } : Jvm.MethodName)) ∈ lw_tbl := lw_at lw_m7 38 rfl
theorem q1561 : (Jvm.Cond.instanceMethod ({ cls := "DistinctMarksModel", name := "alikeOf", desc := "(II)I" } : Jvm.MethodName)) ∈ lw_all := lw_g (lw_at lw_m7 39 rfl) rfl
theorem q1562 : (Jvm.Cond.code ({ cls := "DistinctMarksModel", name := "alikeOf", desc := "(II)I" } : Jvm.MethodName) prog_10_method_85_code (4 : Nat) (Option.some Jvm.ClassFile.FieldType.int)) ∈ lw_all := lw_g (lw_at lw_m7 40 rfl) rfl
theorem q1564 : (Jvm.Cond.instanceMethod ({ cls := "DistinctMarksModel", name := "nearest", desc := "(I)I" } : Jvm.MethodName)) ∈ lw_all := lw_g (lw_at lw_m7 42 rfl) rfl
theorem q1565 : (Jvm.Cond.selects "DistinctMarksModel" ({ cls := "DistinctMarksModel", name := "nearest", desc := "(I)I" } : Jvm.MethodName) ({ cls := "DistinctMarksModel", name := "nearest", desc := "(I)I" } : Jvm.MethodName)) ∈ lw_all := lw_g (lw_at lw_m7 43 rfl) rfl
theorem q1566 : (Jvm.Cond.code ({ cls := "DistinctMarksModel", name := "nearest", desc := "(I)I" } : Jvm.MethodName) prog_10_method_87_code (6 : Nat) (Option.some Jvm.ClassFile.FieldType.int)) ∈ lw_all := lw_g (lw_at lw_m7 44 rfl) rfl
theorem q1568 : (Jvm.Cond.instanceMethod ({ cls := "DistinctMarksModel", name := "meet", desc := "(I)J" } : Jvm.MethodName)) ∈ lw_all := lw_g (lw_at lw_m7 46 rfl) rfl
theorem q1569 : (Jvm.Cond.selects "DistinctMarksModel" ({ cls := "DistinctMarksModel", name := "meet", desc := "(I)J" } : Jvm.MethodName) ({ cls := "DistinctMarksModel", name := "meet", desc := "(I)J" } : Jvm.MethodName)) ∈ lw_all := lw_g (lw_at lw_m7 47 rfl) rfl
theorem q1570 : (Jvm.Cond.code ({ cls := "DistinctMarksModel", name := "meet", desc := "(I)J" } : Jvm.MethodName) prog_10_method_89_code (6 : Nat) (Option.some Jvm.ClassFile.FieldType.long)) ∈ lw_all := lw_g (lw_at lw_m7 48 rfl) rfl
theorem q1571 : (Jvm.Cond.methodLink "DistinctMarksModel" (266 : Nat) ({ cls := "DistinctMarksModel", name := "ones", desc := "(I)I" } : Jvm.MethodName)) ∈ lw_all := lw_g (lw_at lw_m7 49 rfl) rfl
theorem q1572 : (Jvm.Cond.static ({ cls := "DistinctMarksModel", name := "ones", desc := "(I)I" } : Jvm.MethodName)) ∈ lw_all := lw_g (lw_at lw_m7 50 rfl) rfl
theorem q1573 : (Jvm.Cond.code ({ cls := "DistinctMarksModel", name := "ones", desc := "(I)I" } : Jvm.MethodName) prog_10_method_88_code (3 : Nat) (Option.some Jvm.ClassFile.FieldType.int)) ∈ lw_all := lw_g (lw_at lw_m7 51 rfl) rfl
theorem q1575 : (Jvm.Cond.instanceMethod ({ cls := "DistinctMarksModel", name := "unlike", desc := "(II)I" } : Jvm.MethodName)) ∈ lw_all := lw_g (lw_at lw_m7 53 rfl) rfl
theorem q1576 : (Jvm.Cond.selects "DistinctMarksModel" ({ cls := "DistinctMarksModel", name := "unlike", desc := "(II)I" } : Jvm.MethodName) ({ cls := "DistinctMarksModel", name := "unlike", desc := "(II)I" } : Jvm.MethodName)) ∈ lw_all := lw_g (lw_at lw_m7 54 rfl) rfl
theorem q1577 : (Jvm.Cond.code ({ cls := "DistinctMarksModel", name := "unlike", desc := "(II)I" } : Jvm.MethodName) prog_10_method_91_code (7 : Nat) (Option.some Jvm.ClassFile.FieldType.int)) ∈ lw_all := lw_g (lw_at lw_m7 55 rfl) rfl
theorem q1579 : (Jvm.Cond.instanceMethod ({ cls := "DistinctMarksModel", name := "apart", desc := "(II)I" } : Jvm.MethodName)) ∈ lw_all := lw_g (lw_at lw_m7 57 rfl) rfl
theorem q1580 : (Jvm.Cond.selects "DistinctMarksModel" ({ cls := "DistinctMarksModel", name := "apart", desc := "(II)I" } : Jvm.MethodName) ({ cls := "DistinctMarksModel", name := "apart", desc := "(II)I" } : Jvm.MethodName)) ∈ lw_all := lw_g (lw_at lw_m7 58 rfl) rfl
theorem q1581 : (Jvm.Cond.code ({ cls := "DistinctMarksModel", name := "apart", desc := "(II)I" } : Jvm.MethodName) prog_10_method_92_code (9 : Nat) (Option.some Jvm.ClassFile.FieldType.int)) ∈ lw_all := lw_g (lw_at lw_m7 59 rfl) rfl
theorem q1582 : (Jvm.Cond.methodLink "DistinctMarksModel" (269 : Nat) ({ cls := "java/lang/Math", name := "abs", desc := "(I)I" } : Jvm.MethodName)) ∈ lw_all := lw_g (lw_at lw_m7 60 rfl) rfl
theorem q1584 : (Jvm.Cond.instanceMethod ({ cls := "DistinctMarksModel", name := "order", desc := "()I" } : Jvm.MethodName)) ∈ lw_all := lw_g (lw_at lw_m7 62 rfl) rfl
theorem q1585 : (Jvm.Cond.selects "DistinctMarksModel" ({ cls := "DistinctMarksModel", name := "order", desc := "()I" } : Jvm.MethodName) ({ cls := "DistinctMarksModel", name := "order", desc := "()I" } : Jvm.MethodName)) ∈ lw_all := lw_g (lw_at lw_m7 63 rfl) rfl
theorem q1586 : (Jvm.Cond.code ({ cls := "DistinctMarksModel", name := "order", desc := "()I" } : Jvm.MethodName) prog_10_method_93_code (5 : Nat) (Option.some Jvm.ClassFile.FieldType.int)) ∈ lw_all := lw_g (lw_at lw_m7 64 rfl) rfl
theorem q1588 : (Jvm.Cond.instanceMethod ({ cls := "DistinctMarksModel", name := "within", desc := "(II)I" } : Jvm.MethodName)) ∈ lw_all := lw_g (lw_at lw_m7 66 rfl) rfl
theorem q1589 : (Jvm.Cond.selects "DistinctMarksModel" ({ cls := "DistinctMarksModel", name := "within", desc := "(II)I" } : Jvm.MethodName) ({ cls := "DistinctMarksModel", name := "within", desc := "(II)I" } : Jvm.MethodName)) ∈ lw_all := lw_g (lw_at lw_m7 67 rfl) rfl
theorem q1590 : (Jvm.Cond.code ({ cls := "DistinctMarksModel", name := "within", desc := "(II)I" } : Jvm.MethodName) prog_10_method_94_code (7 : Nat) (Option.some Jvm.ClassFile.FieldType.int)) ∈ lw_all := lw_g (lw_at lw_m7 68 rfl) rfl
theorem q1592 : (Jvm.Cond.instanceMethod ({ cls := "DistinctMarksModel", name := "cover", desc := "(I)I" } : Jvm.MethodName)) ∈ lw_all := lw_g (lw_at lw_m7 70 rfl) rfl
theorem q1593 : (Jvm.Cond.selects "DistinctMarksModel" ({ cls := "DistinctMarksModel", name := "cover", desc := "(I)I" } : Jvm.MethodName) ({ cls := "DistinctMarksModel", name := "cover", desc := "(I)I" } : Jvm.MethodName)) ∈ lw_all := lw_g (lw_at lw_m7 71 rfl) rfl
theorem q1594 : (Jvm.Cond.code ({ cls := "DistinctMarksModel", name := "cover", desc := "(I)I" } : Jvm.MethodName) prog_10_method_95_code (5 : Nat) (Option.some Jvm.ClassFile.FieldType.int)) ∈ lw_all := lw_g (lw_at lw_m7 72 rfl) rfl
theorem q1596 : (Jvm.Cond.instanceMethod ({ cls := "DistinctMarksModel", name := "errs", desc := "(IIII)I" } : Jvm.MethodName)) ∈ lw_all := lw_g (lw_at lw_m7 74 rfl) rfl
theorem q1597 : (Jvm.Cond.selects "DistinctMarksModel" ({ cls := "DistinctMarksModel", name := "errs", desc := "(IIII)I" } : Jvm.MethodName) ({ cls := "DistinctMarksModel", name := "errs", desc := "(IIII)I" } : Jvm.MethodName)) ∈ lw_all := lw_g (lw_at lw_m7 75 rfl) rfl
theorem q1598 : (Jvm.Cond.code ({ cls := "DistinctMarksModel", name := "errs", desc := "(IIII)I" } : Jvm.MethodName) prog_10_method_98_code (10 : Nat) (Option.some Jvm.ClassFile.FieldType.int)) ∈ lw_all := lw_g (lw_at lw_m7 76 rfl) rfl
theorem q1599 : (Jvm.Cond.methodLink "DistinctMarksModel" (272 : Nat) ({ cls := "DistinctMarksModel", name := "isRun", desc := "(II)Z" } : Jvm.MethodName)) ∈ lw_all := lw_g (lw_at lw_m7 77 rfl) rfl
theorem q1600 : (Jvm.Cond.static ({ cls := "DistinctMarksModel", name := "isRun", desc := "(II)Z" } : Jvm.MethodName)) ∈ lw_all := lw_g (lw_at lw_m7 78 rfl) rfl
theorem q1601 : (Jvm.Cond.code ({ cls := "DistinctMarksModel", name := "isRun", desc := "(II)Z" } : Jvm.MethodName) prog_10_method_97_code (2 : Nat) (Option.some Jvm.ClassFile.FieldType.boolean)) ∈ lw_all := lw_g (lw_at lw_m7 79 rfl) rfl
theorem q1602 : (Jvm.Cond.methodLink "DistinctMarksModel" (275 : Nat) ({ cls := "DistinctMarksModel", name := "opensTrial", desc := "(I)V" } : Jvm.MethodName)) ∈ lw_all := lw_g (lw_at lw_m7 80 rfl) rfl
theorem q1603 : (Jvm.Cond.privateMethod ({ cls := "DistinctMarksModel", name := "opensTrial", desc := "(I)V" } : Jvm.MethodName)) ∈ lw_tbl := lw_at lw_m7 81 rfl
theorem q1604 : (Jvm.Cond.instanceMethod ({ cls := "DistinctMarksModel", name := "opensTrial", desc := "(I)V" } : Jvm.MethodName)) ∈ lw_all := lw_g (lw_at lw_m7 82 rfl) rfl
theorem q1605 : (Jvm.Cond.code ({ cls := "DistinctMarksModel", name := "opensTrial", desc := "(I)V" } : Jvm.MethodName) prog_10_method_96_code (2 : Nat) (Option.none : Option Jvm.ClassFile.FieldType)) ∈ lw_all := lw_g (lw_at lw_m7 83 rfl) rfl
theorem q1607 : (Jvm.Cond.instanceMethod ({ cls := "DistinctMarksModel", name := "least", desc := "(IIII)I" } : Jvm.MethodName)) ∈ lw_all := lw_g (lw_at lw_m7 85 rfl) rfl
theorem q1608 : (Jvm.Cond.selects "DistinctMarksModel" ({ cls := "DistinctMarksModel", name := "least", desc := "(IIII)I" } : Jvm.MethodName) ({ cls := "DistinctMarksModel", name := "least", desc := "(IIII)I" } : Jvm.MethodName)) ∈ lw_all := lw_g (lw_at lw_m7 86 rfl) rfl
theorem q1609 : (Jvm.Cond.code ({ cls := "DistinctMarksModel", name := "least", desc := "(IIII)I" } : Jvm.MethodName) prog_10_method_99_code (7 : Nat) (Option.some Jvm.ClassFile.FieldType.int)) ∈ lw_all := lw_g (lw_at lw_m7 87 rfl) rfl
theorem q1611 : (Jvm.Cond.instanceMethod ({ cls := "DistinctMarksModel", name := "expects", desc := "(II)I" } : Jvm.MethodName)) ∈ lw_all := lw_g (lw_at lw_m7 89 rfl) rfl
theorem q1612 : (Jvm.Cond.selects "DistinctMarksModel" ({ cls := "DistinctMarksModel", name := "expects", desc := "(II)I" } : Jvm.MethodName) ({ cls := "DistinctMarksModel", name := "expects", desc := "(II)I" } : Jvm.MethodName)) ∈ lw_all := lw_g (lw_at lw_m7 90 rfl) rfl
theorem q1613 : (Jvm.Cond.code ({ cls := "DistinctMarksModel", name := "expects", desc := "(II)I" } : Jvm.MethodName) prog_10_method_100_code (6 : Nat) (Option.some Jvm.ClassFile.FieldType.int)) ∈ lw_all := lw_g (lw_at lw_m7 91 rfl) rfl
theorem q1614 : (Jvm.Cond.constantLong "DistinctMarksModel" (278 : Nat) (100000 : Int64)) ∈ lw_all := lw_g (lw_at lw_m7 92 rfl) rfl
theorem q1616 : (Jvm.Cond.instanceMethod ({ cls := "DistinctMarksModel", name := "things", desc := "(II)I" } : Jvm.MethodName)) ∈ lw_all := lw_g (lw_at lw_m7 94 rfl) rfl
theorem q1617 : (Jvm.Cond.selects "DistinctMarksModel" ({ cls := "DistinctMarksModel", name := "things", desc := "(II)I" } : Jvm.MethodName) ({ cls := "DistinctMarksModel", name := "things", desc := "(II)I" } : Jvm.MethodName)) ∈ lw_all := lw_g (lw_at lw_m7 95 rfl) rfl
theorem q1618 : (Jvm.Cond.code ({ cls := "DistinctMarksModel", name := "things", desc := "(II)I" } : Jvm.MethodName) prog_10_method_101_code (6 : Nat) (Option.some Jvm.ClassFile.FieldType.int)) ∈ lw_all := lw_g (lw_at lw_m7 96 rfl) rfl
theorem q1619 : (Jvm.Cond.constant "DistinctMarksModel" (280 : Nat) (100000 : Int32)) ∈ lw_all := lw_g (lw_at lw_m7 97 rfl) rfl
theorem q1621 : (Jvm.Cond.instanceMethod ({ cls := "DistinctMarksModel", name := "would", desc := "(IIII)I" } : Jvm.MethodName)) ∈ lw_all := lw_g (lw_at lw_m7 99 rfl) rfl
theorem q1622 : (Jvm.Cond.selects "DistinctMarksModel" ({ cls := "DistinctMarksModel", name := "would", desc := "(IIII)I" } : Jvm.MethodName) ({ cls := "DistinctMarksModel", name := "would", desc := "(IIII)I" } : Jvm.MethodName)) ∈ lw_all := lw_g (lw_at lw_m7 100 rfl) rfl
theorem q1623 : (Jvm.Cond.code ({ cls := "DistinctMarksModel", name := "would", desc := "(IIII)I" } : Jvm.MethodName) prog_10_method_102_code (6 : Nat) (Option.some Jvm.ClassFile.FieldType.int)) ∈ lw_all := lw_g (lw_at lw_m7 101 rfl) rfl
theorem q1625 : (Jvm.Cond.instanceMethod ({ cls := "DistinctMarksModel", name := "reaches", desc := "(IIII)I" } : Jvm.MethodName)) ∈ lw_all := lw_g (lw_at lw_m7 103 rfl) rfl
theorem q1626 : (Jvm.Cond.selects "DistinctMarksModel" ({ cls := "DistinctMarksModel", name := "reaches", desc := "(IIII)I" } : Jvm.MethodName) ({ cls := "DistinctMarksModel", name := "reaches", desc := "(IIII)I" } : Jvm.MethodName)) ∈ lw_all := lw_g (lw_at lw_m7 104 rfl) rfl
theorem q1627 : (Jvm.Cond.code ({ cls := "DistinctMarksModel", name := "reaches", desc := "(IIII)I" } : Jvm.MethodName) prog_10_method_103_code (7 : Nat) (Option.some Jvm.ClassFile.FieldType.int)) ∈ lw_all := lw_g (lw_at lw_m7 105 rfl) rfl
theorem q1629 : (Jvm.Cond.instanceMethod ({ cls := "DistinctMarksModel", name := "over", desc := "(I)J" } : Jvm.MethodName)) ∈ lw_all := lw_g (lw_at lw_m7 107 rfl) rfl
theorem q1630 : (Jvm.Cond.selects "DistinctMarksModel" ({ cls := "DistinctMarksModel", name := "over", desc := "(I)J" } : Jvm.MethodName) ({ cls := "DistinctMarksModel", name := "over", desc := "(I)J" } : Jvm.MethodName)) ∈ lw_all := lw_g (lw_at lw_m7 108 rfl) rfl
theorem q1631 : (Jvm.Cond.code ({ cls := "DistinctMarksModel", name := "over", desc := "(I)J" } : Jvm.MethodName) prog_10_method_104_code (5 : Nat) (Option.some Jvm.ClassFile.FieldType.long)) ∈ lw_all := lw_g (lw_at lw_m7 109 rfl) rfl
theorem q1633 : (Jvm.Cond.instanceMethod ({ cls := "DistinctMarksModel", name := "greedy", desc := "(I)I" } : Jvm.MethodName)) ∈ lw_all := lw_g (lw_at lw_m7 111 rfl) rfl
theorem q1634 : (Jvm.Cond.selects "DistinctMarksModel" ({ cls := "DistinctMarksModel", name := "greedy", desc := "(I)I" } : Jvm.MethodName) ({ cls := "DistinctMarksModel", name := "greedy", desc := "(I)I" } : Jvm.MethodName)) ∈ lw_all := lw_g (lw_at lw_m7 112 rfl) rfl
theorem q1635 : (Jvm.Cond.code ({ cls := "DistinctMarksModel", name := "greedy", desc := "(I)I" } : Jvm.MethodName) prog_10_method_105_code (7 : Nat) (Option.some Jvm.ClassFile.FieldType.int)) ∈ lw_all := lw_g (lw_at lw_m7 113 rfl) rfl
theorem q1637 : (Jvm.Cond.instanceMethod ({ cls := "DistinctMarksModel", name := "written", desc := "(II)I" } : Jvm.MethodName)) ∈ lw_all := lw_g (lw_at lw_m7 115 rfl) rfl
theorem q1638 : (Jvm.Cond.selects "DistinctMarksModel" ({ cls := "DistinctMarksModel", name := "written", desc := "(II)I" } : Jvm.MethodName) ({ cls := "DistinctMarksModel", name := "written", desc := "(II)I" } : Jvm.MethodName)) ∈ lw_all := lw_g (lw_at lw_m7 116 rfl) rfl
theorem q1639 : (Jvm.Cond.code ({ cls := "DistinctMarksModel", name := "written", desc := "(II)I" } : Jvm.MethodName) prog_10_method_109_code (4 : Nat) (Option.some Jvm.ClassFile.FieldType.int)) ∈ lw_all := lw_g (lw_at lw_m7 117 rfl) rfl
theorem q1640 : (Jvm.Cond.methodLink "DistinctMarksModel" (281 : Nat) ({ cls := "DistinctMarksModel", name := "headSigns", desc := "(I)I" } : Jvm.MethodName)) ∈ lw_all := lw_g (lw_at lw_m7 118 rfl) rfl
theorem q1641 : (Jvm.Cond.privateMethod ({ cls := "DistinctMarksModel", name := "headSigns", desc := "(I)I" } : Jvm.MethodName)) ∈ lw_tbl := lw_at lw_m7 119 rfl
theorem q1642 : (Jvm.Cond.instanceMethod ({ cls := "DistinctMarksModel", name := "headSigns", desc := "(I)I" } : Jvm.MethodName)) ∈ lw_all := lw_g (lw_at lw_m7 120 rfl) rfl
theorem q1643 : (Jvm.Cond.code ({ cls := "DistinctMarksModel", name := "headSigns", desc := "(I)I" } : Jvm.MethodName) prog_10_method_107_code (2 : Nat) (Option.some Jvm.ClassFile.FieldType.int)) ∈ lw_all := lw_g (lw_at lw_m7 121 rfl) rfl
theorem q1644 : (Jvm.Cond.methodLink "DistinctMarksModel" (289 : Nat) ({ cls := "DistinctMarksModel", name := "signAt", desc := "(II)I" } : Jvm.MethodName)) ∈ lw_all := lw_g (lw_at lw_m7 122 rfl) rfl
theorem q1645 : (Jvm.Cond.privateMethod ({ cls := "DistinctMarksModel", name := "signAt", desc := "(II)I" } : Jvm.MethodName)) ∈ lw_tbl := lw_at lw_m7 123 rfl
theorem q1646 : (Jvm.Cond.instanceMethod ({ cls := "DistinctMarksModel", name := "signAt", desc := "(II)I" } : Jvm.MethodName)) ∈ lw_all := lw_g (lw_at lw_m7 124 rfl) rfl
theorem q1647 : (Jvm.Cond.code ({ cls := "DistinctMarksModel", name := "signAt", desc := "(II)I" } : Jvm.MethodName) prog_10_method_108_code (5 : Nat) (Option.some Jvm.ClassFile.FieldType.int)) ∈ lw_all := lw_g (lw_at lw_m7 125 rfl) rfl
theorem q1648 : (Jvm.Cond.methodLink "DistinctMarksModel" (284 : Nat) ({ cls := "DistinctMarksModel", name := "signOf", desc := "(I)I" } : Jvm.MethodName)) ∈ lw_all := lw_g (lw_at lw_m7 126 rfl) rfl
theorem q1649 : (Jvm.Cond.static ({ cls := "DistinctMarksModel", name := "signOf", desc := "(I)I" } : Jvm.MethodName)) ∈ lw_all := lw_g (lw_at lw_m7 127 rfl) rfl
theorem q1650 : (Jvm.Cond.code ({ cls := "DistinctMarksModel", name := "signOf", desc := "(I)I" } : Jvm.MethodName) prog_10_method_106_code (1 : Nat) (Option.some Jvm.ClassFile.FieldType.int)) ∈ lw_all := lw_g (lw_at lw_m7 128 rfl) rfl
theorem q1651 : (Jvm.Cond.constantLong "DistinctMarksModel" (287 : Nat) (15 : Int64)) ∈ lw_all := lw_g (lw_at lw_m7 129 rfl) rfl
theorem q1653 : (Jvm.Cond.instanceMethod ({ cls := "DistinctMarksModel", name := "reads", desc := "(I)I" } : Jvm.MethodName)) ∈ lw_all := lw_g (lw_at lw_m7 131 rfl) rfl
theorem q1654 : (Jvm.Cond.selects "DistinctMarksModel" ({ cls := "DistinctMarksModel", name := "reads", desc := "(I)I" } : Jvm.MethodName) ({ cls := "DistinctMarksModel", name := "reads", desc := "(I)I" } : Jvm.MethodName)) ∈ lw_all := lw_g (lw_at lw_m7 132 rfl) rfl
theorem q1655 : (Jvm.Cond.code ({ cls := "DistinctMarksModel", name := "reads", desc := "(I)I" } : Jvm.MethodName) prog_10_method_114_code (2 : Nat) (Option.some Jvm.ClassFile.FieldType.int)) ∈ lw_all := lw_g (lw_at lw_m7 133 rfl) rfl
theorem q1656 : (Jvm.Cond.methodLink "DistinctMarksModel" (313 : Nat) ({ cls := "DistinctMarksModel", name := "readsCounter", desc := "()Z" } : Jvm.MethodName)) ∈ lw_all := lw_g (lw_at lw_m7 134 rfl) rfl
theorem q1657 : (Jvm.Cond.privateMethod ({ cls := "DistinctMarksModel", name := "readsCounter", desc := "()Z" } : Jvm.MethodName)) ∈ lw_tbl := lw_at lw_m7 135 rfl
theorem q1658 : (Jvm.Cond.instanceMethod ({ cls := "DistinctMarksModel", name := "readsCounter", desc := "()Z" } : Jvm.MethodName)) ∈ lw_all := lw_g (lw_at lw_m7 136 rfl) rfl
theorem q1659 : (Jvm.Cond.code ({ cls := "DistinctMarksModel", name := "readsCounter", desc := "()Z" } : Jvm.MethodName) prog_10_method_113_code (4 : Nat) (Option.some Jvm.ClassFile.FieldType.boolean)) ∈ lw_all := lw_g (lw_at lw_m7 137 rfl) rfl
theorem q1660 : (Jvm.Cond.constantLong "DistinctMarksModel" (301 : Nat) (52 : Int64)) ∈ lw_all := lw_g (lw_at lw_m7 138 rfl) rfl
theorem q1661 : (Jvm.Cond.constantLong "DistinctMarksModel" (303 : Nat) (56 : Int64)) ∈ lw_all := lw_g (lw_at lw_m7 139 rfl) rfl
theorem q1662 : (Jvm.Cond.constantLong "DistinctMarksModel" (305 : Nat) (49 : Int64)) ∈ lw_all := lw_g (lw_at lw_m7 140 rfl) rfl
theorem q1663 : (Jvm.Cond.methodLink "DistinctMarksModel" (307 : Nat) ({ cls := "DistinctMarksModel", name := "readsMarks", desc := "()Z" } : Jvm.MethodName)) ∈ lw_all := lw_g (lw_at lw_m7 141 rfl) rfl
theorem q1664 : (Jvm.Cond.privateMethod ({ cls := "DistinctMarksModel", name := "readsMarks", desc := "()Z" } : Jvm.MethodName)) ∈ lw_tbl := lw_at lw_m7 142 rfl
theorem q1665 : (Jvm.Cond.instanceMethod ({ cls := "DistinctMarksModel", name := "readsMarks", desc := "()Z" } : Jvm.MethodName)) ∈ lw_all := lw_g (lw_at lw_m7 143 rfl) rfl
theorem q1666 : (Jvm.Cond.code ({ cls := "DistinctMarksModel", name := "readsMarks", desc := "()Z" } : Jvm.MethodName) prog_10_method_111_code (5 : Nat) (Option.some Jvm.ClassFile.FieldType.boolean)) ∈ lw_all := lw_g (lw_at lw_m7 144 rfl) rfl
theorem q1667 : (Jvm.Cond.methodLink "DistinctMarksModel" (296 : Nat) ({ cls := "DistinctMarksModel", name := "readsSign", desc := "(I)I" } : Jvm.MethodName)) ∈ lw_all := lw_g (lw_at lw_m7 145 rfl) rfl
theorem q1668 : (Jvm.Cond.privateMethod ({ cls := "DistinctMarksModel", name := "readsSign", desc := "(I)I" } : Jvm.MethodName)) ∈ lw_tbl := lw_at lw_m7 146 rfl
theorem q1669 : (Jvm.Cond.instanceMethod ({ cls := "DistinctMarksModel", name := "readsSign", desc := "(I)I" } : Jvm.MethodName)) ∈ lw_all := lw_g (lw_at lw_m7 147 rfl) rfl
theorem q1670 : (Jvm.Cond.code ({ cls := "DistinctMarksModel", name := "readsSign", desc := "(I)I" } : Jvm.MethodName) prog_10_method_110_code (4 : Nat) (Option.some Jvm.ClassFile.FieldType.int)) ∈ lw_all := lw_g (lw_at lw_m7 148 rfl) rfl
theorem q1671 : (Jvm.Cond.constantLong "DistinctMarksModel" (292 : Nat) (97 : Int64)) ∈ lw_all := lw_g (lw_at lw_m7 149 rfl) rfl
theorem q1672 : (Jvm.Cond.constantLong "DistinctMarksModel" (294 : Nat) (122 : Int64)) ∈ lw_all := lw_g (lw_at lw_m7 150 rfl) rfl
theorem q1673 : (Jvm.Cond.constantLong "DistinctMarksModel" (299 : Nat) (16 : Int64)) ∈ lw_all := lw_g (lw_at lw_m7 151 rfl) rfl
theorem q1674 : (Jvm.Cond.methodLink "DistinctMarksModel" (310 : Nat) ({ cls := "DistinctMarksModel", name := "readsRanks", desc := "()Z" } : Jvm.MethodName)) ∈ lw_all := lw_g (lw_at lw_m7 152 rfl) rfl
theorem q1675 : (Jvm.Cond.privateMethod ({ cls := "DistinctMarksModel", name := "readsRanks", desc := "()Z" } : Jvm.MethodName)) ∈ lw_tbl := lw_at lw_m7 153 rfl
theorem q1676 : (Jvm.Cond.instanceMethod ({ cls := "DistinctMarksModel", name := "readsRanks", desc := "()Z" } : Jvm.MethodName)) ∈ lw_all := lw_g (lw_at lw_m7 154 rfl) rfl
theorem q1677 : (Jvm.Cond.code ({ cls := "DistinctMarksModel", name := "readsRanks", desc := "()Z" } : Jvm.MethodName) prog_10_method_112_code (3 : Nat) (Option.some Jvm.ClassFile.FieldType.boolean)) ∈ lw_all := lw_g (lw_at lw_m7 155 rfl) rfl
theorem q1679 : (Jvm.Cond.instanceMethod ({ cls := "DistinctMarksModel", name := "count", desc := "(I)I" } : Jvm.MethodName)) ∈ lw_all := lw_g (lw_at lw_m7 157 rfl) rfl
theorem q1680 : (Jvm.Cond.selects "DistinctMarksModel" ({ cls := "DistinctMarksModel", name := "count", desc := "(I)I" } : Jvm.MethodName) ({ cls := "DistinctMarksModel", name := "count", desc := "(I)I" } : Jvm.MethodName)) ∈ lw_all := lw_g (lw_at lw_m7 158 rfl) rfl
theorem q1681 : (Jvm.Cond.code ({ cls := "DistinctMarksModel", name := "count", desc := "(I)I" } : Jvm.MethodName) prog_10_method_119_code (2 : Nat) (Option.some Jvm.ClassFile.FieldType.int)) ∈ lw_all := lw_g (lw_at lw_m7 159 rfl) rfl
theorem q1682 : (Jvm.Cond.methodLink "DistinctMarksModel" (316 : Nat) ({ cls := "DistinctMarksModel", name := "denseBits", desc := "()I" } : Jvm.MethodName)) ∈ lw_all := lw_g (lw_at lw_m7 160 rfl) rfl
theorem q1683 : (Jvm.Cond.privateMethod ({ cls := "DistinctMarksModel", name := "denseBits", desc := "()I" } : Jvm.MethodName)) ∈ lw_tbl := lw_at lw_m7 161 rfl
theorem q1684 : (Jvm.Cond.instanceMethod ({ cls := "DistinctMarksModel", name := "denseBits", desc := "()I" } : Jvm.MethodName)) ∈ lw_all := lw_g (lw_at lw_m7 162 rfl) rfl
theorem q1685 : (Jvm.Cond.code ({ cls := "DistinctMarksModel", name := "denseBits", desc := "()I" } : Jvm.MethodName) prog_10_method_115_code (3 : Nat) (Option.some Jvm.ClassFile.FieldType.int)) ∈ lw_all := lw_g (lw_at lw_m7 163 rfl) rfl
theorem q1686 : (Jvm.Cond.methodLink "DistinctMarksModel" (319 : Nat) ({ cls := "DistinctMarksModel", name := "rankedBits", desc := "()I" } : Jvm.MethodName)) ∈ lw_all := lw_g (lw_at lw_m7 164 rfl) rfl
theorem q1687 : (Jvm.Cond.privateMethod ({ cls := "DistinctMarksModel", name := "rankedBits", desc := "()I" } : Jvm.MethodName)) ∈ lw_tbl := lw_at lw_m7 165 rfl
theorem q1688 : (Jvm.Cond.instanceMethod ({ cls := "DistinctMarksModel", name := "rankedBits", desc := "()I" } : Jvm.MethodName)) ∈ lw_all := lw_g (lw_at lw_m7 166 rfl) rfl
theorem q1689 : (Jvm.Cond.code ({ cls := "DistinctMarksModel", name := "rankedBits", desc := "()I" } : Jvm.MethodName) prog_10_method_116_code (3 : Nat) (Option.some Jvm.ClassFile.FieldType.int)) ∈ lw_all := lw_g (lw_at lw_m7 167 rfl) rfl
theorem q1690 : (Jvm.Cond.methodLink "DistinctMarksModel" (322 : Nat) ({ cls := "DistinctMarksModel", name := "markSum", desc := "()I" } : Jvm.MethodName)) ∈ lw_all := lw_g (lw_at lw_m7 168 rfl) rfl
theorem q1691 : (Jvm.Cond.privateMethod ({ cls := "DistinctMarksModel", name := "markSum", desc := "()I" } : Jvm.MethodName)) ∈ lw_tbl := lw_at lw_m7 169 rfl
theorem q1692 : (Jvm.Cond.instanceMethod ({ cls := "DistinctMarksModel", name := "markSum", desc := "()I" } : Jvm.MethodName)) ∈ lw_all := lw_g (lw_at lw_m7 170 rfl) rfl
theorem q1693 : (Jvm.Cond.code ({ cls := "DistinctMarksModel", name := "markSum", desc := "()I" } : Jvm.MethodName) prog_10_method_117_code (3 : Nat) (Option.some Jvm.ClassFile.FieldType.int)) ∈ lw_all := lw_g (lw_at lw_m7 171 rfl) rfl
theorem q1694 : (Jvm.Cond.methodLink "DistinctMarksModel" (325 : Nat) ({ cls := "DistinctMarksModel", name := "placeSum", desc := "()I" } : Jvm.MethodName)) ∈ lw_all := lw_g (lw_at lw_m7 172 rfl) rfl
theorem q1695 : (Jvm.Cond.privateMethod ({ cls := "DistinctMarksModel", name := "placeSum", desc := "()I" } : Jvm.MethodName)) ∈ lw_tbl := lw_at lw_m7 173 rfl
theorem q1696 : (Jvm.Cond.instanceMethod ({ cls := "DistinctMarksModel", name := "placeSum", desc := "()I" } : Jvm.MethodName)) ∈ lw_all := lw_g (lw_at lw_m7 174 rfl) rfl
theorem q1697 : (Jvm.Cond.code ({ cls := "DistinctMarksModel", name := "placeSum", desc := "()I" } : Jvm.MethodName) prog_10_method_118_code (3 : Nat) (Option.some Jvm.ClassFile.FieldType.int)) ∈ lw_all := lw_g (lw_at lw_m7 175 rfl) rfl
theorem q1699 : (Jvm.Cond.instanceMethod ({ cls := "DistinctMarksModel", name := "row", desc := "(I)J" } : Jvm.MethodName)) ∈ lw_all := lw_g (lw_at lw_m7 177 rfl) rfl
theorem q1700 : (Jvm.Cond.selects "DistinctMarksModel" ({ cls := "DistinctMarksModel", name := "row", desc := "(I)J" } : Jvm.MethodName) ({ cls := "DistinctMarksModel", name := "row", desc := "(I)J" } : Jvm.MethodName)) ∈ lw_all := lw_g (lw_at lw_m7 178 rfl) rfl
theorem q1701 : (Jvm.Cond.code ({ cls := "DistinctMarksModel", name := "row", desc := "(I)J" } : Jvm.MethodName) prog_10_method_120_code (2 : Nat) (Option.some Jvm.ClassFile.FieldType.long)) ∈ lw_all := lw_g (lw_at lw_m7 179 rfl) rfl
theorem q1702 : (Jvm.Cond.methodLink "DistinctMarksModel" (328 : Nat) ({ cls := "DistinctMarksModel", name := "lost", desc := "()I" } : Jvm.MethodName)) ∈ lw_all := lw_g (lw_at lw_m7 180 rfl) rfl
theorem q1703 : (Jvm.Cond.privateMethod ({ cls := "DistinctMarksModel", name := "lost", desc := "()I" } : Jvm.MethodName)) ∈ lw_tbl := lw_at lw_m7 181 rfl
theorem q1704 : (Jvm.Cond.instanceMethod ({ cls := "DistinctMarksModel", name := "lost", desc := "()I" } : Jvm.MethodName)) ∈ lw_all := lw_g (lw_at lw_m7 182 rfl) rfl
theorem q1705 : (Jvm.Cond.code ({ cls := "DistinctMarksModel", name := "lost", desc := "()I" } : Jvm.MethodName) prog_10_method_4_code (1 : Nat) (Option.some Jvm.ClassFile.FieldType.int)) ∈ lw_all := lw_g (lw_at lw_m7 183 rfl) rfl
theorem q1715 : (Jvm.Cond.castable "DistinctMarksModel" "java/lang/Object") ∈ lw_tbl := lw_at lw_m7 193 rfl
theorem in_X3 : ∀ w ∈ wsX30, w ∈ lw_all := lw_in wsX30 [1177, 1179, 1181, 1183, 1185, 1187, 1189, 1191, 1193, 1195, 1197, 1199, 1201, 1203, 1205, 1207, 1209, 1211, 1213] (by decide +kernel) (by decide +kernel)
