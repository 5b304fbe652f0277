/-! DistinctMarksLaw -/
set_option maxRecDepth 100000
def RX0 : String := "DistinctMarksLaw"
abbrev cX0_row : ByteArray := method_3_code
def yX0_row : MethodName := ⟨RX0, "row", "(LDistinctMarks;I[J)I"⟩
def dkwX0_row_0 : List UInt8 := [44, 3, 42, 27, 182, 0, 7, 80, 167, 0, 6, 78, 4, 172, 3, 172]
abbrev dktX0_row_0 : List UInt8 := dkwX0_row_0 ++ []
theorem dksX0_row_0 : cX0_row.data.toList.drop 0 = dktX0_row_0 := by decide +kernel
theorem dX0_row_0 : decode cX0_row 0 = .ok (.aload_n 2, 1) := dk_44 (dk_at dksX0_row_0 0 rfl rfl)
theorem dX0_row_1 : decode cX0_row 1 = .ok (.iconst 0, 1) := dk_3 (dk_at dksX0_row_0 1 rfl rfl)
theorem dX0_row_2 : decode cX0_row 2 = .ok (.aload_n 0, 1) := dk_42 (dk_at dksX0_row_0 2 rfl rfl)
theorem dX0_row_3 : decode cX0_row 3 = .ok (.iload_n 1, 1) := dk_27 (dk_at dksX0_row_0 3 rfl rfl)
theorem dX0_row_4 : decode cX0_row 4 = .ok (.invokevirtual 7, 3) := dk_182 0 7 (dk_at dksX0_row_0 4 rfl rfl)
theorem dX0_row_7 : decode cX0_row 7 = .ok (.lastore, 1) := dk_80 (dk_at dksX0_row_0 7 rfl rfl)
theorem dX0_row_8 : decode cX0_row 8 = .ok (.goto 6, 3) := dk_167 0 6 (dk_at dksX0_row_0 8 rfl rfl)
theorem dX0_row_11 : decode cX0_row 11 = .ok (.astore_n 3, 1) := dk_78 (dk_at dksX0_row_0 11 rfl rfl)
theorem dX0_row_12 : decode cX0_row 12 = .ok (.iconst 1, 1) := dk_4 (dk_at dksX0_row_0 12 rfl rfl)
theorem dX0_row_13 : decode cX0_row 13 = .ok (.ireturn, 1) := dk_172 (dk_at dksX0_row_0 13 rfl rfl)
theorem dX0_row_14 : decode cX0_row 14 = .ok (.iconst 0, 1) := dk_3 (dk_at dksX0_row_0 14 rfl rfl)
theorem dX0_row_15 : decode cX0_row 15 = .ok (.ireturn, 1) := dk_172 (dk_at dksX0_row_0 15 rfl rfl)
theorem q82 : (Jvm.Cond.initialized "DistinctMarksLaw") ∈ lw_all := lw_g (lw_at lw_m1 0 rfl) rfl
theorem q104 : (Jvm.Cond.methodLink "DistinctMarksLaw" (19 : Nat) ({ cls := "DistinctMarks", name := "mixes", desc := "(II)Z" } : Jvm.MethodName)) ∈ lw_all := lw_g (lw_at lw_m1 22 rfl) rfl
theorem q108 : (Jvm.Cond.methodLink "DistinctMarksLaw" (24 : Nat) ({ cls := "DistinctMarks", name := "mark", desc := "(I)I" } : Jvm.MethodName)) ∈ lw_all := lw_g (lw_at lw_m1 26 rfl) rfl
theorem q117 : (Jvm.Cond.methodLink "DistinctMarksLaw" (29 : Nat) ({ cls := "DistinctMarks", name := "place", desc := "(II)I" } : Jvm.MethodName)) ∈ lw_all := lw_g (lw_at lw_m1 35 rfl) rfl
theorem q151 : (Jvm.Cond.classLink "DistinctMarksLaw" (8 : Nat) "DistinctMarks") ∈ lw_all := lw_g (lw_at lw_m1 69 rfl) rfl
theorem q152 : (Jvm.Cond.methodLink "DistinctMarksLaw" (15 : Nat) ({ cls := "DistinctMarks", name := "<init>", desc := "()V" } : Jvm.MethodName)) ∈ lw_all := lw_g (lw_at lw_m1 70 rfl) rfl
theorem q246 : (Jvm.Cond.methodLink "DistinctMarksLaw" (34 : Nat) ({ cls := "DistinctMarks", name := "opens", desc := "(III)I" } : Jvm.MethodName)) ∈ lw_all := lw_g (lw_at lw_m1 164 rfl) rfl
theorem q259 : (Jvm.Cond.methodLink "DistinctMarksLaw" (39 : Nat) ({ cls := "DistinctMarks", name := "adds", desc := "(II)I" } : Jvm.MethodName)) ∈ lw_all := lw_g (lw_at lw_m1 177 rfl) rfl
theorem q291 : (Jvm.Cond.methodLink "DistinctMarksLaw" (43 : Nat) ({ cls := "DistinctMarks", name := "runs", desc := "(IIII)I" } : Jvm.MethodName)) ∈ lw_all := lw_g (lw_at lw_m1 209 rfl) rfl
theorem q296 : (Jvm.Cond.methodLink "DistinctMarksLaw" (48 : Nat) ({ cls := "DistinctMarks", name := "sign", desc := "(I)I" } : Jvm.MethodName)) ∈ lw_all := lw_g (lw_at lw_m1 214 rfl) rfl
theorem q300 : (Jvm.Cond.methodLink "DistinctMarksLaw" (52 : Nat) ({ cls := "DistinctMarks", name := "end", desc := "(I)Z" } : Jvm.MethodName)) ∈ lw_all := lw_g (lw_at lw_m1 218 rfl) rfl
theorem q304 : (Jvm.Cond.methodLink "DistinctMarksLaw" (57 : Nat) ({ cls := "DistinctMarks", name := "tells", desc := "(I)I" } : Jvm.MethodName)) ∈ lw_all := lw_g (lw_at lw_m1 222 rfl) rfl
theorem q397 : (Jvm.Cond.methodLink "DistinctMarksLaw" (154 : Nat) ({ cls := "DistinctMarks", name := "replays", desc := "(I)I" } : Jvm.MethodName)) ∈ lw_all := lw_g (lw_at lw_m2 75 rfl) rfl
theorem q405 : (Jvm.Cond.methodLink "DistinctMarksLaw" (61 : Nat) ({ cls := "DistinctMarks", name := "takes", desc := "(II)I" } : Jvm.MethodName)) ∈ lw_all := lw_g (lw_at lw_m2 83 rfl) rfl
theorem q413 : (Jvm.Cond.methodLink "DistinctMarksLaw" (65 : Nat) ({ cls := "DistinctMarks", name := "dense", desc := "(I)I" } : Jvm.MethodName)) ∈ lw_all := lw_g (lw_at lw_m2 91 rfl) rfl
theorem q425 : (Jvm.Cond.methodLink "DistinctMarksLaw" (69 : Nat) ({ cls := "DistinctMarks", name := "folds", desc := "(II)I" } : Jvm.MethodName)) ∈ lw_all := lw_g (lw_at lw_m2 103 rfl) rfl
theorem q454 : (Jvm.Cond.methodLink "DistinctMarksLaw" (73 : Nat) ({ cls := "DistinctMarks", name := "copies", desc := "(II)I" } : Jvm.MethodName)) ∈ lw_all := lw_g (lw_at lw_m2 132 rfl) rfl
theorem q493 : (Jvm.Cond.methodLink "DistinctMarksLaw" (77 : Nat) ({ cls := "DistinctMarks", name := "joins", desc := "(III)I" } : Jvm.MethodName)) ∈ lw_all := lw_g (lw_at lw_m2 171 rfl) rfl
theorem q497 : (Jvm.Cond.methodLink "DistinctMarksLaw" (81 : Nat) ({ cls := "DistinctMarks", name := "gathers", desc := "(II)I" } : Jvm.MethodName)) ∈ lw_all := lw_g (lw_at lw_m2 175 rfl) rfl
theorem q515 : (Jvm.Cond.methodLink "DistinctMarksLaw" (87 : Nat) ({ cls := "DistinctMarks", name := "puts", desc := "(IIJ)I" } : Jvm.MethodName)) ∈ lw_all := lw_g (lw_at lw_m2 193 rfl) rfl
theorem q523 : (Jvm.Cond.methodLink "DistinctMarksLaw" (92 : Nat) ({ cls := "DistinctMarks", name := "swaps", desc := "(II)I" } : Jvm.MethodName)) ∈ lw_all := lw_g (lw_at lw_m2 201 rfl) rfl
theorem q527 : (Jvm.Cond.methodLink "DistinctMarksLaw" (96 : Nat) ({ cls := "DistinctMarks", name := "keeps", desc := "(III)I" } : Jvm.MethodName)) ∈ lw_all := lw_g (lw_at lw_m2 205 rfl) rfl
theorem q542 : (Jvm.Cond.methodLink "DistinctMarksLaw" (100 : Nat) ({ cls := "DistinctMarks", name := "less", desc := "(III)I" } : Jvm.MethodName)) ∈ lw_all := lw_g (lw_at lw_m2 220 rfl) rfl
theorem q548 : (Jvm.Cond.methodLink "DistinctMarksLaw" (104 : Nat) ({ cls := "DistinctMarks", name := "splits", desc := "(III)I" } : Jvm.MethodName)) ∈ lw_all := lw_g (lw_at lw_m2 226 rfl) rfl
theorem q556 : (Jvm.Cond.methodLink "DistinctMarksLaw" (108 : Nat) ({ cls := "DistinctMarks", name := "guess", desc := "(I)I" } : Jvm.MethodName)) ∈ lw_all := lw_g (lw_at lw_m2 234 rfl) rfl
theorem q564 : (Jvm.Cond.methodLink "DistinctMarksLaw" (112 : Nat) ({ cls := "DistinctMarks", name := "roughly", desc := "(I)I" } : Jvm.MethodName)) ∈ lw_all := lw_g (lw_at lw_m3 2 rfl) rfl
theorem q569 : (Jvm.Cond.methodLink "DistinctMarksLaw" (116 : Nat) ({ cls := "DistinctMarks", name := "form", desc := "(II)I" } : Jvm.MethodName)) ∈ lw_all := lw_g (lw_at lw_m3 7 rfl) rfl
theorem q580 : (Jvm.Cond.methodLink "DistinctMarksLaw" (120 : Nat) ({ cls := "DistinctMarks", name := "rank", desc := "(II)I" } : Jvm.MethodName)) ∈ lw_all := lw_g (lw_at lw_m3 18 rfl) rfl
theorem q588 : (Jvm.Cond.methodLink "DistinctMarksLaw" (124 : Nat) ({ cls := "DistinctMarks", name := "ranks", desc := "(II)I" } : Jvm.MethodName)) ∈ lw_all := lw_g (lw_at lw_m3 26 rfl) rfl
theorem q593 : (Jvm.Cond.methodLink "DistinctMarksLaw" (128 : Nat) ({ cls := "DistinctMarks", name := "marked", desc := "(II)J" } : Jvm.MethodName)) ∈ lw_all := lw_g (lw_at lw_m3 31 rfl) rfl
theorem q603 : (Jvm.Cond.methodLink "DistinctMarksLaw" (133 : Nat) ({ cls := "DistinctMarks", name := "may", desc := "(II)I" } : Jvm.MethodName)) ∈ lw_all := lw_g (lw_at lw_m3 41 rfl) rfl
theorem q607 : (Jvm.Cond.methodLink "DistinctMarksLaw" (137 : Nat) ({ cls := "DistinctMarks", name := "first", desc := "(IIII)I" } : Jvm.MethodName)) ∈ lw_all := lw_g (lw_at lw_m3 45 rfl) rfl
theorem q611 : (Jvm.Cond.methodLink "DistinctMarksLaw" (141 : Nat) ({ cls := "DistinctMarks", name := "bits", desc := "(II)J" } : Jvm.MethodName)) ∈ lw_all := lw_g (lw_at lw_m3 49 rfl) rfl
theorem q615 : (Jvm.Cond.methodLink "DistinctMarksLaw" (145 : Nat) ({ cls := "DistinctMarks", name := "slice", desc := "(III)J" } : Jvm.MethodName)) ∈ lw_all := lw_g (lw_at lw_m3 53 rfl) rfl
theorem q622 : (Jvm.Cond.methodLink "DistinctMarksLaw" (150 : Nat) ({ cls := "DistinctMarks", name := "runsOf", desc := "(I)I" } : Jvm.MethodName)) ∈ lw_all := lw_g (lw_at lw_m3 60 rfl) rfl
theorem q626 : (Jvm.Cond.methodLink "DistinctMarksLaw" (158 : Nat) ({ cls := "DistinctMarks", name := "gap", desc := "(I)I" } : Jvm.MethodName)) ∈ lw_all := lw_g (lw_at lw_m3 64 rfl) rfl
theorem q630 : (Jvm.Cond.methodLink "DistinctMarksLaw" (162 : Nat) ({ cls := "DistinctMarks", name := "table", desc := "(II)I" } : Jvm.MethodName)) ∈ lw_all := lw_g (lw_at lw_m3 68 rfl) rfl
theorem q634 : (Jvm.Cond.methodLink "DistinctMarksLaw" (166 : Nat) ({ cls := "DistinctMarks", name := "all", desc := "(I)J" } : Jvm.MethodName)) ∈ lw_all := lw_g (lw_at lw_m3 72 rfl) rfl
theorem q639 : (Jvm.Cond.methodLink "DistinctMarksLaw" (170 : Nat) ({ cls := "DistinctMarks", name := "lacks", desc := "(II)I" } : Jvm.MethodName)) ∈ lw_all := lw_g (lw_at lw_m3 77 rfl) rfl
theorem q644 : (Jvm.Cond.methodLink "DistinctMarksLaw" (174 : Nat) ({ cls := "DistinctMarks", name := "common", desc := "(II)J" } : Jvm.MethodName)) ∈ lw_all := lw_g (lw_at lw_m3 82 rfl) rfl
theorem q659 : (Jvm.Cond.methodLink "DistinctMarksLaw" (178 : Nat) ({ cls := "DistinctMarks", name := "alone", desc := "(II)J" } : Jvm.MethodName)) ∈ lw_all := lw_g (lw_at lw_m3 97 rfl) rfl
theorem q663 : (Jvm.Cond.methodLink "DistinctMarksLaw" (182 : Nat) ({ cls := "DistinctMarks", name := "alike", desc := "(II)I" } : Jvm.MethodName)) ∈ lw_all := lw_g (lw_at lw_m3 101 rfl) rfl
theorem q672 : (Jvm.Cond.methodLink "DistinctMarksLaw" (186 : Nat) ({ cls := "DistinctMarks", name := "nearest", desc := "(I)I" } : Jvm.MethodName)) ∈ lw_all := lw_g (lw_at lw_m3 110 rfl) rfl
theorem q676 : (Jvm.Cond.methodLink "DistinctMarksLaw" (190 : Nat) ({ cls := "DistinctMarks", name := "meet", desc := "(I)J" } : Jvm.MethodName)) ∈ lw_all := lw_g (lw_at lw_m3 114 rfl) rfl
theorem q690 : (Jvm.Cond.methodLink "DistinctMarksLaw" (194 : Nat) ({ cls := "DistinctMarks", name := "unlike", desc := "(II)I" } : Jvm.MethodName)) ∈ lw_all := lw_g (lw_at lw_m3 128 rfl) rfl
theorem q698 : (Jvm.Cond.methodLink "DistinctMarksLaw" (198 : Nat) ({ cls := "DistinctMarks", name := "apart", desc := "(II)I" } : Jvm.MethodName)) ∈ lw_all := lw_g (lw_at lw_m3 136 rfl) rfl
theorem q705 : (Jvm.Cond.methodLink "DistinctMarksLaw" (202 : Nat) ({ cls := "DistinctMarks", name := "order", desc := "()I" } : Jvm.MethodName)) ∈ lw_all := lw_g (lw_at lw_m3 143 rfl) rfl
theorem q709 : (Jvm.Cond.methodLink "DistinctMarksLaw" (207 : Nat) ({ cls := "DistinctMarks", name := "within", desc := "(II)I" } : Jvm.MethodName)) ∈ lw_all := lw_g (lw_at lw_m3 147 rfl) rfl
theorem q713 : (Jvm.Cond.methodLink "DistinctMarksLaw" (211 : Nat) ({ cls := "DistinctMarks", name := "cover", desc := "(I)I" } : Jvm.MethodName)) ∈ lw_all := lw_g (lw_at lw_m3 151 rfl) rfl
theorem q720 : (Jvm.Cond.methodLink "DistinctMarksLaw" (215 : Nat) ({ cls := "DistinctMarks", name := "errs", desc := "(IIII)I" } : Jvm.MethodName)) ∈ lw_all := lw_g (lw_at lw_m3 158 rfl) rfl
theorem q731 : (Jvm.Cond.methodLink "DistinctMarksLaw" (219 : Nat) ({ cls := "DistinctMarks", name := "least", desc := "(IIII)I" } : Jvm.MethodName)) ∈ lw_all := lw_g (lw_at lw_m3 169 rfl) rfl
theorem q739 : (Jvm.Cond.methodLink "DistinctMarksLaw" (223 : Nat) ({ cls := "DistinctMarks", name := "expects", desc := "(II)I" } : Jvm.MethodName)) ∈ lw_all := lw_g (lw_at lw_m3 177 rfl) rfl
theorem q744 : (Jvm.Cond.methodLink "DistinctMarksLaw" (227 : Nat) ({ cls := "DistinctMarks", name := "things", desc := "(II)I" } : Jvm.MethodName)) ∈ lw_all := lw_g (lw_at lw_m3 182 rfl) rfl
theorem q749 : (Jvm.Cond.methodLink "DistinctMarksLaw" (231 : Nat) ({ cls := "DistinctMarks", name := "would", desc := "(IIII)I" } : Jvm.MethodName)) ∈ lw_all := lw_g (lw_at lw_m3 187 rfl) rfl
theorem q753 : (Jvm.Cond.methodLink "DistinctMarksLaw" (235 : Nat) ({ cls := "DistinctMarks", name := "reaches", desc := "(IIII)I" } : Jvm.MethodName)) ∈ lw_all := lw_g (lw_at lw_m3 191 rfl) rfl
theorem q757 : (Jvm.Cond.methodLink "DistinctMarksLaw" (239 : Nat) ({ cls := "DistinctMarks", name := "over", desc := "(I)J" } : Jvm.MethodName)) ∈ lw_all := lw_g (lw_at lw_m3 195 rfl) rfl
theorem q761 : (Jvm.Cond.methodLink "DistinctMarksLaw" (243 : Nat) ({ cls := "DistinctMarks", name := "chain", desc := "(I)I" } : Jvm.MethodName)) ∈ lw_all := lw_g (lw_at lw_m3 199 rfl) rfl
theorem q765 : (Jvm.Cond.methodLink "DistinctMarksLaw" (247 : Nat) ({ cls := "DistinctMarks", name := "lessers", desc := "(III)I" } : Jvm.MethodName)) ∈ lw_all := lw_g (lw_at lw_m3 203 rfl) rfl
theorem q772 : (Jvm.Cond.methodLink "DistinctMarksLaw" (251 : Nat) ({ cls := "DistinctMarks", name := "greedy", desc := "(I)I" } : Jvm.MethodName)) ∈ lw_all := lw_g (lw_at lw_m3 210 rfl) rfl
theorem q776 : (Jvm.Cond.methodLink "DistinctMarksLaw" (255 : Nat) ({ cls := "DistinctMarks", name := "written", desc := "(II)I" } : Jvm.MethodName)) ∈ lw_all := lw_g (lw_at lw_m3 214 rfl) rfl
theorem q1023 : (Jvm.Cond.methodLink "DistinctMarksLaw" (259 : Nat) ({ cls := "DistinctMarks", name := "reads", desc := "(I)I" } : Jvm.MethodName)) ∈ lw_all := lw_g (lw_at lw_m4 221 rfl) rfl
theorem q1086 : (Jvm.Cond.methodLink "DistinctMarksLaw" (263 : Nat) ({ cls := "DistinctMarks", name := "count", desc := "(I)I" } : Jvm.MethodName)) ∈ lw_all := lw_g (lw_at lw_m5 44 rfl) rfl
theorem q1114 : (Jvm.Cond.methodLink "DistinctMarksLaw" (267 : Nat) ({ cls := "DistinctMarksLaw", name := "row", desc := "(LDistinctMarks;I[J)I" } : Jvm.MethodName)) ∈ lw_all := lw_g (lw_at lw_m5 72 rfl) rfl
theorem q1115 : (Jvm.Cond.static ({ cls := "DistinctMarksLaw", name := "row", desc := "(LDistinctMarks;I[J)I" } : Jvm.MethodName)) ∈ lw_all := lw_g (lw_at lw_m5 73 rfl) rfl
theorem q1116 : (Jvm.Cond.codeWith ({ cls := "DistinctMarksLaw", name := "row", desc := "(LDistinctMarks;I[J)I" } : Jvm.MethodName) method_3_code (4 : Nat) (Option.some Jvm.ClassFile.FieldType.int) [((0 : Nat), (8 : Nat), (11 : Nat), (13 : Nat))]) ∈ lw_all := lw_g (lw_at lw_m5 74 rfl) rfl
theorem q1117 : (Jvm.Cond.classLink "DistinctMarksLaw" (13 : Nat) "java/util/NoSuchElementException") ∈ lw_all := lw_g (lw_at lw_m5 75 rfl) rfl
theorem q1118 : (Jvm.Cond.methodLink "DistinctMarksLaw" (7 : Nat) ({ cls := "DistinctMarks", name := "row", desc := "(I)J" } : Jvm.MethodName)) ∈ lw_all := lw_g (lw_at lw_m5 76 rfl) rfl
theorem q1145 : (Jvm.Cond.classLink "DistinctMarksLaw" (16 : Nat) "DistinctMarksModel") ∈ lw_all := lw_g (lw_at lw_m5 103 rfl) rfl
theorem q1147 : (Jvm.Cond.methodLink "DistinctMarksLaw" (18 : Nat) ({ cls := "DistinctMarksModel", name := "<init>", desc := "()V" } : Jvm.MethodName)) ∈ lw_all := lw_g (lw_at lw_m5 105 rfl) rfl
theorem q1217 : (Jvm.Cond.methodLink "DistinctMarksLaw" (273 : Nat) ({ cls := "DistinctMarksModel", name := "thrown", desc := "()I" } : Jvm.MethodName)) ∈ lw_all := lw_g (lw_at lw_m5 175 rfl) rfl
theorem q1221 : (Jvm.Cond.methodLink "DistinctMarksLaw" (51 : Nat) ({ cls := "DistinctMarksModel", name := "sign", desc := "(I)I" } : Jvm.MethodName)) ∈ lw_all := lw_g (lw_at lw_m5 179 rfl) rfl
theorem q1225 : (Jvm.Cond.methodLink "DistinctMarksLaw" (56 : Nat) ({ cls := "DistinctMarksModel", name := "end", desc := "(I)Z" } : Jvm.MethodName)) ∈ lw_all := lw_g (lw_at lw_m5 183 rfl) rfl
theorem q1232 : (Jvm.Cond.methodLink "DistinctMarksLaw" (23 : Nat) ({ cls := "DistinctMarksModel", name := "mixes", desc := "(II)Z" } : Jvm.MethodName)) ∈ lw_all := lw_g (lw_at lw_m5 190 rfl) rfl
theorem q1236 : (Jvm.Cond.methodLink "DistinctMarksLaw" (28 : Nat) ({ cls := "DistinctMarksModel", name := "mark", desc := "(I)I" } : Jvm.MethodName)) ∈ lw_all := lw_g (lw_at lw_m5 194 rfl) rfl
theorem q1245 : (Jvm.Cond.methodLink "DistinctMarksLaw" (33 : Nat) ({ cls := "DistinctMarksModel", name := "place", desc := "(II)I" } : Jvm.MethodName)) ∈ lw_all := lw_g (lw_at lw_m5 203 rfl) rfl
theorem q1261 : (Jvm.Cond.methodLink "DistinctMarksLaw" (38 : Nat) ({ cls := "DistinctMarksModel", name := "opens", desc := "(III)I" } : Jvm.MethodName)) ∈ lw_all := lw_g (lw_at lw_m5 219 rfl) rfl
theorem q1274 : (Jvm.Cond.methodLink "DistinctMarksLaw" (42 : Nat) ({ cls := "DistinctMarksModel", name := "adds", desc := "(II)I" } : Jvm.MethodName)) ∈ lw_all := lw_g (lw_at lw_m5 232 rfl) rfl
theorem q1298 : (Jvm.Cond.methodLink "DistinctMarksLaw" (47 : Nat) ({ cls := "DistinctMarksModel", name := "runs", desc := "(IIII)I" } : Jvm.MethodName)) ∈ lw_all := lw_g (lw_at lw_m6 16 rfl) rfl
theorem q1307 : (Jvm.Cond.methodLink "DistinctMarksLaw" (60 : Nat) ({ cls := "DistinctMarksModel", name := "tells", desc := "(I)I" } : Jvm.MethodName)) ∈ lw_all := lw_g (lw_at lw_m6 25 rfl) rfl
theorem q1328 : (Jvm.Cond.methodLink "DistinctMarksLaw" (64 : Nat) ({ cls := "DistinctMarksModel", name := "takes", desc := "(II)I" } : Jvm.MethodName)) ∈ lw_all := lw_g (lw_at lw_m6 46 rfl) rfl
theorem q1336 : (Jvm.Cond.methodLink "DistinctMarksLaw" (68 : Nat) ({ cls := "DistinctMarksModel", name := "dense", desc := "(I)I" } : Jvm.MethodName)) ∈ lw_all := lw_g (lw_at lw_m6 54 rfl) rfl
theorem q1344 : (Jvm.Cond.methodLink "DistinctMarksLaw" (72 : Nat) ({ cls := "DistinctMarksModel", name := "folds", desc := "(II)I" } : Jvm.MethodName)) ∈ lw_all := lw_g (lw_at lw_m6 62 rfl) rfl
theorem q1353 : (Jvm.Cond.methodLink "DistinctMarksLaw" (76 : Nat) ({ cls := "DistinctMarksModel", name := "copies", desc := "(II)I" } : Jvm.MethodName)) ∈ lw_all := lw_g (lw_at lw_m6 71 rfl) rfl
theorem q1390 : (Jvm.Cond.methodLink "DistinctMarksLaw" (80 : Nat) ({ cls := "DistinctMarksModel", name := "joins", desc := "(III)I" } : Jvm.MethodName)) ∈ lw_all := lw_g (lw_at lw_m6 108 rfl) rfl
theorem q1403 : (Jvm.Cond.methodLink "DistinctMarksLaw" (84 : Nat) ({ cls := "DistinctMarksModel", name := "gathers", desc := "(II)I" } : Jvm.MethodName)) ∈ lw_all := lw_g (lw_at lw_m6 121 rfl) rfl
theorem q1415 : (Jvm.Cond.methodLink "DistinctMarksLaw" (91 : Nat) ({ cls := "DistinctMarksModel", name := "puts", desc := "(IIJ)I" } : Jvm.MethodName)) ∈ lw_all := lw_g (lw_at lw_m6 133 rfl) rfl
theorem q1424 : (Jvm.Cond.methodLink "DistinctMarksLaw" (95 : Nat) ({ cls := "DistinctMarksModel", name := "swaps", desc := "(II)I" } : Jvm.MethodName)) ∈ lw_all := lw_g (lw_at lw_m6 142 rfl) rfl
theorem q1428 : (Jvm.Cond.methodLink "DistinctMarksLaw" (99 : Nat) ({ cls := "DistinctMarksModel", name := "keeps", desc := "(III)I" } : Jvm.MethodName)) ∈ lw_all := lw_g (lw_at lw_m6 146 rfl) rfl
theorem q1436 : (Jvm.Cond.methodLink "DistinctMarksLaw" (103 : Nat) ({ cls := "DistinctMarksModel", name := "less", desc := "(III)I" } : Jvm.MethodName)) ∈ lw_all := lw_g (lw_at lw_m6 154 rfl) rfl
theorem q1440 : (Jvm.Cond.methodLink "DistinctMarksLaw" (107 : Nat) ({ cls := "DistinctMarksModel", name := "splits", desc := "(III)I" } : Jvm.MethodName)) ∈ lw_all := lw_g (lw_at lw_m6 158 rfl) rfl
theorem q1445 : (Jvm.Cond.methodLink "DistinctMarksLaw" (111 : Nat) ({ cls := "DistinctMarksModel", name := "guess", desc := "(I)I" } : Jvm.MethodName)) ∈ lw_all := lw_g (lw_at lw_m6 163 rfl) rfl
theorem q1449 : (Jvm.Cond.methodLink "DistinctMarksLaw" (115 : Nat) ({ cls := "DistinctMarksModel", name := "roughly", desc := "(I)I" } : Jvm.MethodName)) ∈ lw_all := lw_g (lw_at lw_m6 167 rfl) rfl
theorem q1453 : (Jvm.Cond.methodLink "DistinctMarksLaw" (119 : Nat) ({ cls := "DistinctMarksModel", name := "form", desc := "(II)I" } : Jvm.MethodName)) ∈ lw_all := lw_g (lw_at lw_m6 171 rfl) rfl
theorem q1461 : (Jvm.Cond.methodLink "DistinctMarksLaw" (123 : Nat) ({ cls := "DistinctMarksModel", name := "rank", desc := "(II)I" } : Jvm.MethodName)) ∈ lw_all := lw_g (lw_at lw_m6 179 rfl) rfl
theorem q1465 : (Jvm.Cond.methodLink "DistinctMarksLaw" (127 : Nat) ({ cls := "DistinctMarksModel", name := "ranks", desc := "(II)I" } : Jvm.MethodName)) ∈ lw_all := lw_g (lw_at lw_m6 183 rfl) rfl
theorem q1470 : (Jvm.Cond.methodLink "DistinctMarksLaw" (132 : Nat) ({ cls := "DistinctMarksModel", name := "marked", desc := "(II)J" } : Jvm.MethodName)) ∈ lw_all := lw_g (lw_at lw_m6 188 rfl) rfl
theorem q1476 : (Jvm.Cond.methodLink "DistinctMarksLaw" (136 : Nat) ({ cls := "DistinctMarksModel", name := "may", desc := "(II)I" } : Jvm.MethodName)) ∈ lw_all := lw_g (lw_at lw_m6 194 rfl) rfl
theorem q1484 : (Jvm.Cond.methodLink "DistinctMarksLaw" (140 : Nat) ({ cls := "DistinctMarksModel", name := "first", desc := "(IIII)I" } : Jvm.MethodName)) ∈ lw_all := lw_g (lw_at lw_m6 202 rfl) rfl
theorem q1488 : (Jvm.Cond.methodLink "DistinctMarksLaw" (144 : Nat) ({ cls := "DistinctMarksModel", name := "bits", desc := "(II)J" } : Jvm.MethodName)) ∈ lw_all := lw_g (lw_at lw_m6 206 rfl) rfl
theorem q1492 : (Jvm.Cond.methodLink "DistinctMarksLaw" (149 : Nat) ({ cls := "DistinctMarksModel", name := "slice", desc := "(III)J" } : Jvm.MethodName)) ∈ lw_all := lw_g (lw_at lw_m6 210 rfl) rfl
theorem q1497 : (Jvm.Cond.methodLink "DistinctMarksLaw" (153 : Nat) ({ cls := "DistinctMarksModel", name := "runsOf", desc := "(I)I" } : Jvm.MethodName)) ∈ lw_all := lw_g (lw_at lw_m6 215 rfl) rfl
theorem q1501 : (Jvm.Cond.methodLink "DistinctMarksLaw" (157 : Nat) ({ cls := "DistinctMarksModel", name := "replays", desc := "(I)I" } : Jvm.MethodName)) ∈ lw_all := lw_g (lw_at lw_m6 219 rfl) rfl
theorem q1505 : (Jvm.Cond.methodLink "DistinctMarksLaw" (161 : Nat) ({ cls := "DistinctMarksModel", name := "gap", desc := "(I)I" } : Jvm.MethodName)) ∈ lw_all := lw_g (lw_at lw_m6 223 rfl) rfl
theorem q1509 : (Jvm.Cond.methodLink "DistinctMarksLaw" (246 : Nat) ({ cls := "DistinctMarksModel", name := "chain", desc := "(I)I" } : Jvm.MethodName)) ∈ lw_all := lw_g (lw_at lw_m6 227 rfl) rfl
theorem q1517 : (Jvm.Cond.methodLink "DistinctMarksLaw" (250 : Nat) ({ cls := "DistinctMarksModel", name := "lessers", desc := "(III)I" } : Jvm.MethodName)) ∈ lw_all := lw_g (lw_at lw_m6 235 rfl) rfl
theorem q1525 : (Jvm.Cond.methodLink "DistinctMarksLaw" (165 : Nat) ({ cls := "DistinctMarksModel", name := "table", desc := "(II)I" } : Jvm.MethodName)) ∈ lw_all := lw_g (lw_at lw_m7 3 rfl) rfl
theorem q1529 : (Jvm.Cond.methodLink "DistinctMarksLaw" (169 : Nat) ({ cls := "DistinctMarksModel", name := "all", desc := "(I)J" } : Jvm.MethodName)) ∈ lw_all := lw_g (lw_at lw_m7 7 rfl) rfl
theorem q1533 : (Jvm.Cond.methodLink "DistinctMarksLaw" (173 : Nat) ({ cls := "DistinctMarksModel", name := "lacks", desc := "(II)I" } : Jvm.MethodName)) ∈ lw_all := lw_g (lw_at lw_m7 11 rfl) rfl
theorem q1538 : (Jvm.Cond.methodLink "DistinctMarksLaw" (177 : Nat) ({ cls := "DistinctMarksModel", name := "common", desc := "(II)J" } : Jvm.MethodName)) ∈ lw_all := lw_g (lw_at lw_m7 16 rfl) rfl
theorem q1551 : (Jvm.Cond.methodLink "DistinctMarksLaw" (181 : Nat) ({ cls := "DistinctMarksModel", name := "alone", desc := "(II)J" } : Jvm.MethodName)) ∈ lw_all := lw_g (lw_at lw_m7 29 rfl) rfl
theorem q1555 : (Jvm.Cond.methodLink "DistinctMarksLaw" (185 : Nat) ({ cls := "DistinctMarksModel", name := "alike", desc := "(II)I" } : Jvm.MethodName)) ∈ lw_all := lw_g (lw_at lw_m7 33 rfl) rfl
theorem q1563 : (Jvm.Cond.methodLink "DistinctMarksLaw" (189 : Nat) ({ cls := "DistinctMarksModel", name := "nearest", desc := "(I)I" } : Jvm.MethodName)) ∈ lw_all := lw_g (lw_at lw_m7 41 rfl) rfl
theorem q1567 : (Jvm.Cond.methodLink "DistinctMarksLaw" (193 : Nat) ({ cls := "DistinctMarksModel", name := "meet", desc := "(I)J" } : Jvm.MethodName)) ∈ lw_all := lw_g (lw_at lw_m7 45 rfl) rfl
theorem q1574 : (Jvm.Cond.methodLink "DistinctMarksLaw" (197 : Nat) ({ cls := "DistinctMarksModel", name := "unlike", desc := "(II)I" } : Jvm.MethodName)) ∈ lw_all := lw_g (lw_at lw_m7 52 rfl) rfl
theorem q1578 : (Jvm.Cond.methodLink "DistinctMarksLaw" (201 : Nat) ({ cls := "DistinctMarksModel", name := "apart", desc := "(II)I" } : Jvm.MethodName)) ∈ lw_all := lw_g (lw_at lw_m7 56 rfl) rfl
theorem q1583 : (Jvm.Cond.methodLink "DistinctMarksLaw" (206 : Nat) ({ cls := "DistinctMarksModel", name := "order", desc := "()I" } : Jvm.MethodName)) ∈ lw_all := lw_g (lw_at lw_m7 61 rfl) rfl
theorem q1587 : (Jvm.Cond.methodLink "DistinctMarksLaw" (210 : Nat) ({ cls := "DistinctMarksModel", name := "within", desc := "(II)I" } : Jvm.MethodName)) ∈ lw_all := lw_g (lw_at lw_m7 65 rfl) rfl
theorem q1591 : (Jvm.Cond.methodLink "DistinctMarksLaw" (214 : Nat) ({ cls := "DistinctMarksModel", name := "cover", desc := "(I)I" } : Jvm.MethodName)) ∈ lw_all := lw_g (lw_at lw_m7 69 rfl) rfl
theorem q1595 : (Jvm.Cond.methodLink "DistinctMarksLaw" (218 : Nat) ({ cls := "DistinctMarksModel", name := "errs", desc := "(IIII)I" } : Jvm.MethodName)) ∈ lw_all := lw_g (lw_at lw_m7 73 rfl) rfl
theorem q1606 : (Jvm.Cond.methodLink "DistinctMarksLaw" (222 : Nat) ({ cls := "DistinctMarksModel", name := "least", desc := "(IIII)I" } : Jvm.MethodName)) ∈ lw_all := lw_g (lw_at lw_m7 84 rfl) rfl
theorem q1610 : (Jvm.Cond.methodLink "DistinctMarksLaw" (226 : Nat) ({ cls := "DistinctMarksModel", name := "expects", desc := "(II)I" } : Jvm.MethodName)) ∈ lw_all := lw_g (lw_at lw_m7 88 rfl) rfl
theorem q1615 : (Jvm.Cond.methodLink "DistinctMarksLaw" (230 : Nat) ({ cls := "DistinctMarksModel", name := "things", desc := "(II)I" } : Jvm.MethodName)) ∈ lw_all := lw_g (lw_at lw_m7 93 rfl) rfl
theorem q1620 : (Jvm.Cond.methodLink "DistinctMarksLaw" (234 : Nat) ({ cls := "DistinctMarksModel", name := "would", desc := "(IIII)I" } : Jvm.MethodName)) ∈ lw_all := lw_g (lw_at lw_m7 98 rfl) rfl
theorem q1624 : (Jvm.Cond.methodLink "DistinctMarksLaw" (238 : Nat) ({ cls := "DistinctMarksModel", name := "reaches", desc := "(IIII)I" } : Jvm.MethodName)) ∈ lw_all := lw_g (lw_at lw_m7 102 rfl) rfl
theorem q1628 : (Jvm.Cond.methodLink "DistinctMarksLaw" (242 : Nat) ({ cls := "DistinctMarksModel", name := "over", desc := "(I)J" } : Jvm.MethodName)) ∈ lw_all := lw_g (lw_at lw_m7 106 rfl) rfl
theorem q1632 : (Jvm.Cond.methodLink "DistinctMarksLaw" (254 : Nat) ({ cls := "DistinctMarksModel", name := "greedy", desc := "(I)I" } : Jvm.MethodName)) ∈ lw_all := lw_g (lw_at lw_m7 110 rfl) rfl
theorem q1636 : (Jvm.Cond.methodLink "DistinctMarksLaw" (258 : Nat) ({ cls := "DistinctMarksModel", name := "written", desc := "(II)I" } : Jvm.MethodName)) ∈ lw_all := lw_g (lw_at lw_m7 114 rfl) rfl
theorem q1652 : (Jvm.Cond.methodLink "DistinctMarksLaw" (262 : Nat) ({ cls := "DistinctMarksModel", name := "reads", desc := "(I)I" } : Jvm.MethodName)) ∈ lw_all := lw_g (lw_at lw_m7 130 rfl) rfl
theorem q1678 : (Jvm.Cond.methodLink "DistinctMarksLaw" (266 : Nat) ({ cls := "DistinctMarksModel", name := "count", desc := "(I)I" } : Jvm.MethodName)) ∈ lw_all := lw_g (lw_at lw_m7 156 rfl) rfl
theorem q1698 : (Jvm.Cond.methodLink "DistinctMarksLaw" (272 : Nat) ({ cls := "DistinctMarksModel", name := "row", desc := "(I)J" } : Jvm.MethodName)) ∈ lw_all := lw_g (lw_at lw_m7 176 rfl) rfl
theorem q1706 : (Jvm.Cond.constantLong "DistinctMarksLaw" (85 : Nat) (4294967295 : Int64)) ∈ lw_all := lw_g (lw_at lw_m7 184 rfl) rfl

/-! DistinctMarks$Counter -/
set_option maxRecDepth 100000
def RX2 : String := "DistinctMarks$Counter"
def TX2 : u_T := fun k => match k with
  | 0 => ("DistinctMarks$Counter", "p", "I", true)
  | 1 => ("DistinctMarks$Counter", "limit", "I", true)
  | 2 => ("DistinctMarks$Counter", "marks", "[I", true)
  | 3 => ("DistinctMarks$Counter", "ranks", "[B", true)
  | 4 => ("DistinctMarks$Counter", "many", "I", false)
  | 5 => ("DistinctMarks$Counter", "isDense", "Z", false)
  | _ => ("DistinctMarks$Counter", "this$0", "LDistinctMarks;", true)
def tyX2 : Nat → FieldType := fun k => match k with
  | 0 => .int
  | 1 => .int
  | 2 => .array .int
  | 3 => .array .byte
  | 4 => .int
  | 5 => .boolean
  | _ => .object "DistinctMarks"
abbrev wsX20 : List Cond := u_ws RX2 TX2 7
theorem nmX2 : ∀ a, a < 7 → ∀ b, b < 7 → a ≠ b → (TX2 a).2.1 ≠ (TX2 b).2.1 := by decide +kernel
theorem tyX2_ok : ∀ k, k < 7 → parseFieldDescriptor (TX2 k).2.2.1 = some (tyX2 k) := by decide +kernel
abbrev cX2_init : ByteArray := prog_2_method_1_code
def yX2_init : MethodName := ⟨RX2, "<init>", "(LDistinctMarks;II)V"⟩
def dkwX2_init_1 : List UInt8 := [181, 0, 19, 42, 28, 181, 0, 23, 42, 29, 181, 0, 27, 177]
abbrev dktX2_init_1 : List UInt8 := dkwX2_init_1 ++ []
def dkwX2_init_0 : List UInt8 := [42, 43, 181, 0, 3, 42, 183, 0, 9, 42, 16, 49, 188, 10, 181, 0, 15, 42, 17, 1, 0, 188, 8]
abbrev dktX2_init_0 : List UInt8 := dkwX2_init_0 ++ dktX2_init_1
theorem dksX2_init_0 : cX2_init.data.toList.drop 0 = dktX2_init_0 := by decide +kernel
theorem dksX2_init_1 : cX2_init.data.toList.drop 23 = dktX2_init_1 := dk_seg dksX2_init_0 23 rfl rfl
theorem dX2_init_0 : decode cX2_init 0 = .ok (.aload_n 0, 1) := dk_42 (dk_at dksX2_init_0 0 rfl rfl)
theorem dX2_init_1 : decode cX2_init 1 = .ok (.aload_n 1, 1) := dk_43 (dk_at dksX2_init_0 1 rfl rfl)
theorem dX2_init_2 : decode cX2_init 2 = .ok (.putfield 3, 3) := dk_181 0 3 (dk_at dksX2_init_0 2 rfl rfl)
theorem dX2_init_5 : decode cX2_init 5 = .ok (.aload_n 0, 1) := dk_42 (dk_at dksX2_init_0 5 rfl rfl)
theorem dX2_init_6 : decode cX2_init 6 = .ok (.invokespecial 9, 3) := dk_183 0 9 (dk_at dksX2_init_0 6 rfl rfl)
theorem dX2_init_9 : decode cX2_init 9 = .ok (.aload_n 0, 1) := dk_42 (dk_at dksX2_init_0 9 rfl rfl)
theorem dX2_init_10 : decode cX2_init 10 = .ok (.bipush 49, 2) := dk_16 49 (dk_at dksX2_init_0 10 rfl rfl)
theorem dX2_init_12 : decode cX2_init 12 = .ok (.newarray .int, 2) := dk_188_10 (dk_at dksX2_init_0 12 rfl rfl)
theorem dX2_init_14 : decode cX2_init 14 = .ok (.putfield 15, 3) := dk_181 0 15 (dk_at dksX2_init_0 14 rfl rfl)
theorem dX2_init_17 : decode cX2_init 17 = .ok (.aload_n 0, 1) := dk_42 (dk_at dksX2_init_0 17 rfl rfl)
theorem dX2_init_18 : decode cX2_init 18 = .ok (.sipush 256, 3) := dk_17 1 0 (dk_at dksX2_init_0 18 rfl rfl)
theorem dX2_init_21 : decode cX2_init 21 = .ok (.newarray .byte, 2) := dk_188_8 (dk_at dksX2_init_0 21 rfl rfl)
theorem dX2_init_23 : decode cX2_init 23 = .ok (.putfield 19, 3) := dk_181 0 19 (dk_at dksX2_init_1 0 rfl rfl)
theorem dX2_init_26 : decode cX2_init 26 = .ok (.aload_n 0, 1) := dk_42 (dk_at dksX2_init_1 3 rfl rfl)
theorem dX2_init_27 : decode cX2_init 27 = .ok (.iload_n 2, 1) := dk_28 (dk_at dksX2_init_1 4 rfl rfl)
theorem dX2_init_28 : decode cX2_init 28 = .ok (.putfield 23, 3) := dk_181 0 23 (dk_at dksX2_init_1 5 rfl rfl)
theorem dX2_init_31 : decode cX2_init 31 = .ok (.aload_n 0, 1) := dk_42 (dk_at dksX2_init_1 8 rfl rfl)
theorem dX2_init_32 : decode cX2_init 32 = .ok (.iload_n 3, 1) := dk_29 (dk_at dksX2_init_1 9 rfl rfl)
theorem dX2_init_33 : decode cX2_init 33 = .ok (.putfield 27, 3) := dk_181 0 27 (dk_at dksX2_init_1 10 rfl rfl)
theorem dX2_init_36 : decode cX2_init 36 = .ok (.return_, 1) := dk_177 (dk_at dksX2_init_1 13 rfl rfl)
abbrev cX2_m : ByteArray := prog_2_method_3_code
def yX2_m : MethodName := ⟨RX2, "m", "()I"⟩
def dkwX2_m_0 : List UInt8 := [4, 42, 180, 0, 23, 120, 172]
abbrev dktX2_m_0 : List UInt8 := dkwX2_m_0 ++ []
theorem dksX2_m_0 : cX2_m.data.toList.drop 0 = dktX2_m_0 := by decide +kernel
theorem dX2_m_0 : decode cX2_m 0 = .ok (.iconst 1, 1) := dk_4 (dk_at dksX2_m_0 0 rfl rfl)
theorem dX2_m_1 : decode cX2_m 1 = .ok (.aload_n 0, 1) := dk_42 (dk_at dksX2_m_0 1 rfl rfl)
theorem dX2_m_2 : decode cX2_m 2 = .ok (.getfield 23, 3) := dk_180 0 23 (dk_at dksX2_m_0 2 rfl rfl)
theorem dX2_m_5 : decode cX2_m 5 = .ok (.ishl, 1) := dk_120 (dk_at dksX2_m_0 5 rfl rfl)
theorem dX2_m_6 : decode cX2_m 6 = .ok (.ireturn, 1) := dk_172 (dk_at dksX2_m_0 6 rfl rfl)
abbrev cX2_adds : ByteArray := prog_2_method_7_code
def yX2_adds : MethodName := ⟨RX2, "adds", "(I)Z"⟩
def dkwX2_adds_4 : List UInt8 := [4, 172]
abbrev dktX2_adds_4 : List UInt8 := dkwX2_adds_4 ++ []
def dkwX2_adds_3 : List UInt8 := [182, 0, 60, 87, 42, 42, 180, 0, 37, 42, 180, 0, 27, 164, 0, 7, 4, 167, 0, 4, 3, 181, 0, 56]
abbrev dktX2_adds_3 : List UInt8 := dkwX2_adds_3 ++ dktX2_adds_4
def dkwX2_adds_2 : List UInt8 := [184, 0, 67, 42, 180, 0, 15, 28, 27, 79, 42, 89, 180, 0, 37, 4, 96, 181, 0, 37, 42, 27]
abbrev dktX2_adds_2 : List UInt8 := dkwX2_adds_2 ++ dktX2_adds_3
def dkwX2_adds_1 : List UInt8 := [156, 0, 5, 3, 172, 42, 180, 0, 15, 28, 42, 180, 0, 15, 28, 4, 96, 42, 180, 0, 37, 28, 100]
abbrev dktX2_adds_1 : List UInt8 := dkwX2_adds_1 ++ dktX2_adds_2
def dkwX2_adds_0 : List UInt8 := [42, 180, 0, 56, 153, 0, 9, 42, 27, 182, 0, 60, 172, 2, 42, 27, 182, 0, 63, 100, 61, 28]
abbrev dktX2_adds_0 : List UInt8 := dkwX2_adds_0 ++ dktX2_adds_1
theorem dksX2_adds_0 : cX2_adds.data.toList.drop 0 = dktX2_adds_0 := by decide +kernel
theorem dksX2_adds_1 : cX2_adds.data.toList.drop 22 = dktX2_adds_1 := dk_seg dksX2_adds_0 22 rfl rfl
theorem dksX2_adds_2 : cX2_adds.data.toList.drop 45 = dktX2_adds_2 := dk_seg dksX2_adds_1 23 rfl rfl
theorem dksX2_adds_3 : cX2_adds.data.toList.drop 67 = dktX2_adds_3 := dk_seg dksX2_adds_2 22 rfl rfl
theorem dksX2_adds_4 : cX2_adds.data.toList.drop 91 = dktX2_adds_4 := dk_seg dksX2_adds_3 24 rfl rfl
theorem dX2_adds_0 : decode cX2_adds 0 = .ok (.aload_n 0, 1) := dk_42 (dk_at dksX2_adds_0 0 rfl rfl)
theorem dX2_adds_1 : decode cX2_adds 1 = .ok (.getfield 56, 3) := dk_180 0 56 (dk_at dksX2_adds_0 1 rfl rfl)
theorem dX2_adds_4 : decode cX2_adds 4 = .ok (.ifCond .eq 9, 3) := dk_153 0 9 (dk_at dksX2_adds_0 4 rfl rfl)
theorem dX2_adds_7 : decode cX2_adds 7 = .ok (.aload_n 0, 1) := dk_42 (dk_at dksX2_adds_0 7 rfl rfl)
theorem dX2_adds_8 : decode cX2_adds 8 = .ok (.iload_n 1, 1) := dk_27 (dk_at dksX2_adds_0 8 rfl rfl)
theorem dX2_adds_9 : decode cX2_adds 9 = .ok (.invokevirtual 60, 3) := dk_182 0 60 (dk_at dksX2_adds_0 9 rfl rfl)
theorem dX2_adds_12 : decode cX2_adds 12 = .ok (.ireturn, 1) := dk_172 (dk_at dksX2_adds_0 12 rfl rfl)
theorem dX2_adds_13 : decode cX2_adds 13 = .ok (.iconst (-1), 1) := dk_2 (dk_at dksX2_adds_0 13 rfl rfl)
theorem dX2_adds_14 : decode cX2_adds 14 = .ok (.aload_n 0, 1) := dk_42 (dk_at dksX2_adds_0 14 rfl rfl)
theorem dX2_adds_15 : decode cX2_adds 15 = .ok (.iload_n 1, 1) := dk_27 (dk_at dksX2_adds_0 15 rfl rfl)
theorem dX2_adds_16 : decode cX2_adds 16 = .ok (.invokevirtual 63, 3) := dk_182 0 63 (dk_at dksX2_adds_0 16 rfl rfl)
theorem dX2_adds_19 : decode cX2_adds 19 = .ok (.isub, 1) := dk_100 (dk_at dksX2_adds_0 19 rfl rfl)
theorem dX2_adds_20 : decode cX2_adds 20 = .ok (.istore_n 2, 1) := dk_61 (dk_at dksX2_adds_0 20 rfl rfl)
theorem dX2_adds_21 : decode cX2_adds 21 = .ok (.iload_n 2, 1) := dk_28 (dk_at dksX2_adds_0 21 rfl rfl)
theorem dX2_adds_22 : decode cX2_adds 22 = .ok (.ifCond .ge 5, 3) := dk_156 0 5 (dk_at dksX2_adds_1 0 rfl rfl)
theorem dX2_adds_25 : decode cX2_adds 25 = .ok (.iconst 0, 1) := dk_3 (dk_at dksX2_adds_1 3 rfl rfl)
theorem dX2_adds_26 : decode cX2_adds 26 = .ok (.ireturn, 1) := dk_172 (dk_at dksX2_adds_1 4 rfl rfl)
theorem dX2_adds_27 : decode cX2_adds 27 = .ok (.aload_n 0, 1) := dk_42 (dk_at dksX2_adds_1 5 rfl rfl)
theorem dX2_adds_28 : decode cX2_adds 28 = .ok (.getfield 15, 3) := dk_180 0 15 (dk_at dksX2_adds_1 6 rfl rfl)
theorem dX2_adds_31 : decode cX2_adds 31 = .ok (.iload_n 2, 1) := dk_28 (dk_at dksX2_adds_1 9 rfl rfl)
theorem dX2_adds_32 : decode cX2_adds 32 = .ok (.aload_n 0, 1) := dk_42 (dk_at dksX2_adds_1 10 rfl rfl)
theorem dX2_adds_33 : decode cX2_adds 33 = .ok (.getfield 15, 3) := dk_180 0 15 (dk_at dksX2_adds_1 11 rfl rfl)
theorem dX2_adds_36 : decode cX2_adds 36 = .ok (.iload_n 2, 1) := dk_28 (dk_at dksX2_adds_1 14 rfl rfl)
theorem dX2_adds_37 : decode cX2_adds 37 = .ok (.iconst 1, 1) := dk_4 (dk_at dksX2_adds_1 15 rfl rfl)
theorem dX2_adds_38 : decode cX2_adds 38 = .ok (.iadd, 1) := dk_96 (dk_at dksX2_adds_1 16 rfl rfl)
theorem dX2_adds_39 : decode cX2_adds 39 = .ok (.aload_n 0, 1) := dk_42 (dk_at dksX2_adds_1 17 rfl rfl)
theorem dX2_adds_40 : decode cX2_adds 40 = .ok (.getfield 37, 3) := dk_180 0 37 (dk_at dksX2_adds_1 18 rfl rfl)
theorem dX2_adds_43 : decode cX2_adds 43 = .ok (.iload_n 2, 1) := dk_28 (dk_at dksX2_adds_1 21 rfl rfl)
theorem dX2_adds_44 : decode cX2_adds 44 = .ok (.isub, 1) := dk_100 (dk_at dksX2_adds_1 22 rfl rfl)
theorem dX2_adds_45 : decode cX2_adds 45 = .ok (.invokestatic 67, 3) := dk_184 0 67 (dk_at dksX2_adds_2 0 rfl rfl)
theorem dX2_adds_48 : decode cX2_adds 48 = .ok (.aload_n 0, 1) := dk_42 (dk_at dksX2_adds_2 3 rfl rfl)
theorem dX2_adds_49 : decode cX2_adds 49 = .ok (.getfield 15, 3) := dk_180 0 15 (dk_at dksX2_adds_2 4 rfl rfl)
theorem dX2_adds_52 : decode cX2_adds 52 = .ok (.iload_n 2, 1) := dk_28 (dk_at dksX2_adds_2 7 rfl rfl)
theorem dX2_adds_53 : decode cX2_adds 53 = .ok (.iload_n 1, 1) := dk_27 (dk_at dksX2_adds_2 8 rfl rfl)
theorem dX2_adds_54 : decode cX2_adds 54 = .ok (.iastore, 1) := dk_79 (dk_at dksX2_adds_2 9 rfl rfl)
theorem dX2_adds_55 : decode cX2_adds 55 = .ok (.aload_n 0, 1) := dk_42 (dk_at dksX2_adds_2 10 rfl rfl)
theorem dX2_adds_56 : decode cX2_adds 56 = .ok (.dup, 1) := dk_89 (dk_at dksX2_adds_2 11 rfl rfl)
theorem dX2_adds_57 : decode cX2_adds 57 = .ok (.getfield 37, 3) := dk_180 0 37 (dk_at dksX2_adds_2 12 rfl rfl)
theorem dX2_adds_60 : decode cX2_adds 60 = .ok (.iconst 1, 1) := dk_4 (dk_at dksX2_adds_2 15 rfl rfl)
theorem dX2_adds_61 : decode cX2_adds 61 = .ok (.iadd, 1) := dk_96 (dk_at dksX2_adds_2 16 rfl rfl)
theorem dX2_adds_62 : decode cX2_adds 62 = .ok (.putfield 37, 3) := dk_181 0 37 (dk_at dksX2_adds_2 17 rfl rfl)
theorem dX2_adds_65 : decode cX2_adds 65 = .ok (.aload_n 0, 1) := dk_42 (dk_at dksX2_adds_2 20 rfl rfl)
theorem dX2_adds_66 : decode cX2_adds 66 = .ok (.iload_n 1, 1) := dk_27 (dk_at dksX2_adds_2 21 rfl rfl)
theorem dX2_adds_67 : decode cX2_adds 67 = .ok (.invokevirtual 60, 3) := dk_182 0 60 (dk_at dksX2_adds_3 0 rfl rfl)
theorem dX2_adds_70 : decode cX2_adds 70 = .ok (.pop, 1) := dk_87 (dk_at dksX2_adds_3 3 rfl rfl)
theorem dX2_adds_71 : decode cX2_adds 71 = .ok (.aload_n 0, 1) := dk_42 (dk_at dksX2_adds_3 4 rfl rfl)
theorem dX2_adds_72 : decode cX2_adds 72 = .ok (.aload_n 0, 1) := dk_42 (dk_at dksX2_adds_3 5 rfl rfl)
theorem dX2_adds_73 : decode cX2_adds 73 = .ok (.getfield 37, 3) := dk_180 0 37 (dk_at dksX2_adds_3 6 rfl rfl)
theorem dX2_adds_76 : decode cX2_adds 76 = .ok (.aload_n 0, 1) := dk_42 (dk_at dksX2_adds_3 9 rfl rfl)
theorem dX2_adds_77 : decode cX2_adds 77 = .ok (.getfield 27, 3) := dk_180 0 27 (dk_at dksX2_adds_3 10 rfl rfl)
theorem dX2_adds_80 : decode cX2_adds 80 = .ok (.if_icmp .le 7, 3) := dk_164 0 7 (dk_at dksX2_adds_3 13 rfl rfl)
theorem dX2_adds_83 : decode cX2_adds 83 = .ok (.iconst 1, 1) := dk_4 (dk_at dksX2_adds_3 16 rfl rfl)
theorem dX2_adds_84 : decode cX2_adds 84 = .ok (.goto 4, 3) := dk_167 0 4 (dk_at dksX2_adds_3 17 rfl rfl)
theorem dX2_adds_87 : decode cX2_adds 87 = .ok (.iconst 0, 1) := dk_3 (dk_at dksX2_adds_3 20 rfl rfl)
theorem dX2_adds_88 : decode cX2_adds 88 = .ok (.putfield 56, 3) := dk_181 0 56 (dk_at dksX2_adds_3 21 rfl rfl)
theorem dX2_adds_91 : decode cX2_adds 91 = .ok (.iconst 1, 1) := dk_4 (dk_at dksX2_adds_4 0 rfl rfl)
theorem dX2_adds_92 : decode cX2_adds 92 = .ok (.ireturn, 1) := dk_172 (dk_at dksX2_adds_4 1 rfl rfl)
abbrev cX2_raises : ByteArray := prog_2_method_6_code
def yX2_raises : MethodName := ⟨RX2, "raises", "(I)Z"⟩
def dkwX2_raises_0 : List UInt8 := [42, 27, 42, 180, 0, 23, 184, 0, 46, 27, 42, 180, 0, 23, 184, 0, 49, 182, 0, 52, 172]
abbrev dktX2_raises_0 : List UInt8 := dkwX2_raises_0 ++ []
theorem dksX2_raises_0 : cX2_raises.data.toList.drop 0 = dktX2_raises_0 := by decide +kernel
theorem dX2_raises_0 : decode cX2_raises 0 = .ok (.aload_n 0, 1) := dk_42 (dk_at dksX2_raises_0 0 rfl rfl)
theorem dX2_raises_1 : decode cX2_raises 1 = .ok (.iload_n 1, 1) := dk_27 (dk_at dksX2_raises_0 1 rfl rfl)
theorem dX2_raises_2 : decode cX2_raises 2 = .ok (.aload_n 0, 1) := dk_42 (dk_at dksX2_raises_0 2 rfl rfl)
theorem dX2_raises_3 : decode cX2_raises 3 = .ok (.getfield 23, 3) := dk_180 0 23 (dk_at dksX2_raises_0 3 rfl rfl)
theorem dX2_raises_6 : decode cX2_raises 6 = .ok (.invokestatic 46, 3) := dk_184 0 46 (dk_at dksX2_raises_0 6 rfl rfl)
theorem dX2_raises_9 : decode cX2_raises 9 = .ok (.iload_n 1, 1) := dk_27 (dk_at dksX2_raises_0 9 rfl rfl)
theorem dX2_raises_10 : decode cX2_raises 10 = .ok (.aload_n 0, 1) := dk_42 (dk_at dksX2_raises_0 10 rfl rfl)
theorem dX2_raises_11 : decode cX2_raises 11 = .ok (.getfield 23, 3) := dk_180 0 23 (dk_at dksX2_raises_0 11 rfl rfl)
theorem dX2_raises_14 : decode cX2_raises 14 = .ok (.invokestatic 49, 3) := dk_184 0 49 (dk_at dksX2_raises_0 14 rfl rfl)
theorem dX2_raises_17 : decode cX2_raises 17 = .ok (.invokevirtual 52, 3) := dk_182 0 52 (dk_at dksX2_raises_0 17 rfl rfl)
theorem dX2_raises_20 : decode cX2_raises 20 = .ok (.ireturn, 1) := dk_172 (dk_at dksX2_raises_0 20 rfl rfl)
abbrev cX2_raises_2 : ByteArray := prog_2_method_5_code
def yX2_raises_2 : MethodName := ⟨RX2, "raises", "(II)Z"⟩
def dkwX2_raises_2_0 : List UInt8 := [42, 180, 0, 19, 27, 51, 28, 161, 0, 5, 3, 172, 42, 180, 0, 19, 27, 28, 145, 84, 4, 172]
abbrev dktX2_raises_2_0 : List UInt8 := dkwX2_raises_2_0 ++ []
theorem dksX2_raises_2_0 : cX2_raises_2.data.toList.drop 0 = dktX2_raises_2_0 := by decide +kernel
theorem dX2_raises_2_0 : decode cX2_raises_2 0 = .ok (.aload_n 0, 1) := dk_42 (dk_at dksX2_raises_2_0 0 rfl rfl)
theorem dX2_raises_2_1 : decode cX2_raises_2 1 = .ok (.getfield 19, 3) := dk_180 0 19 (dk_at dksX2_raises_2_0 1 rfl rfl)
theorem dX2_raises_2_4 : decode cX2_raises_2 4 = .ok (.iload_n 1, 1) := dk_27 (dk_at dksX2_raises_2_0 4 rfl rfl)
theorem dX2_raises_2_5 : decode cX2_raises_2 5 = .ok (.baload, 1) := dk_51 (dk_at dksX2_raises_2_0 5 rfl rfl)
theorem dX2_raises_2_6 : decode cX2_raises_2 6 = .ok (.iload_n 2, 1) := dk_28 (dk_at dksX2_raises_2_0 6 rfl rfl)
theorem dX2_raises_2_7 : decode cX2_raises_2 7 = .ok (.if_icmp .lt 5, 3) := dk_161 0 5 (dk_at dksX2_raises_2_0 7 rfl rfl)
theorem dX2_raises_2_10 : decode cX2_raises_2 10 = .ok (.iconst 0, 1) := dk_3 (dk_at dksX2_raises_2_0 10 rfl rfl)
theorem dX2_raises_2_11 : decode cX2_raises_2 11 = .ok (.ireturn, 1) := dk_172 (dk_at dksX2_raises_2_0 11 rfl rfl)
theorem dX2_raises_2_12 : decode cX2_raises_2 12 = .ok (.aload_n 0, 1) := dk_42 (dk_at dksX2_raises_2_0 12 rfl rfl)
theorem dX2_raises_2_13 : decode cX2_raises_2 13 = .ok (.getfield 19, 3) := dk_180 0 19 (dk_at dksX2_raises_2_0 13 rfl rfl)
theorem dX2_raises_2_16 : decode cX2_raises_2 16 = .ok (.iload_n 1, 1) := dk_27 (dk_at dksX2_raises_2_0 16 rfl rfl)
theorem dX2_raises_2_17 : decode cX2_raises_2 17 = .ok (.iload_n 2, 1) := dk_28 (dk_at dksX2_raises_2_0 17 rfl rfl)
theorem dX2_raises_2_18 : decode cX2_raises_2 18 = .ok (.i2b, 1) := dk_145 (dk_at dksX2_raises_2_0 18 rfl rfl)
theorem dX2_raises_2_19 : decode cX2_raises_2 19 = .ok (.bastore, 1) := dk_84 (dk_at dksX2_raises_2_0 19 rfl rfl)
theorem dX2_raises_2_20 : decode cX2_raises_2 20 = .ok (.iconst 1, 1) := dk_4 (dk_at dksX2_raises_2_0 20 rfl rfl)
theorem dX2_raises_2_21 : decode cX2_raises_2 21 = .ok (.ireturn, 1) := dk_172 (dk_at dksX2_raises_2_0 21 rfl rfl)
abbrev cX2_find : ByteArray := prog_2_method_4_code
def yX2_find : MethodName := ⟨RX2, "find", "(I)I"⟩
def dkwX2_find_3 : List UInt8 := [100, 172]
abbrev dktX2_find_3 : List UInt8 := dkwX2_find_3 ++ []
def dkwX2_find_2 : List UInt8 := [28, 42, 180, 0, 37, 162, 0, 17, 42, 180, 0, 15, 28, 46, 27, 160, 0, 7, 28, 167, 0, 6, 2, 28]
abbrev dktX2_find_2 : List UInt8 := dkwX2_find_2 ++ dktX2_find_3
def dkwX2_find_1 : List UInt8 := [21, 4, 46, 27, 184, 0, 40, 156, 0, 11, 21, 4, 4, 96, 61, 167, 0, 6, 21, 4, 62, 167, 255, 219]
abbrev dktX2_find_1 : List UInt8 := dkwX2_find_1 ++ dktX2_find_2
def dkwX2_find_0 : List UInt8 := [3, 61, 42, 180, 0, 37, 62, 28, 29, 162, 0, 38, 28, 29, 96, 4, 124, 54, 4, 42, 180, 0, 15]
abbrev dktX2_find_0 : List UInt8 := dkwX2_find_0 ++ dktX2_find_1
theorem dksX2_find_0 : cX2_find.data.toList.drop 0 = dktX2_find_0 := by decide +kernel
theorem dksX2_find_1 : cX2_find.data.toList.drop 23 = dktX2_find_1 := dk_seg dksX2_find_0 23 rfl rfl
theorem dksX2_find_2 : cX2_find.data.toList.drop 47 = dktX2_find_2 := dk_seg dksX2_find_1 24 rfl rfl
theorem dksX2_find_3 : cX2_find.data.toList.drop 71 = dktX2_find_3 := dk_seg dksX2_find_2 24 rfl rfl
theorem dX2_find_0 : decode cX2_find 0 = .ok (.iconst 0, 1) := dk_3 (dk_at dksX2_find_0 0 rfl rfl)
theorem dX2_find_1 : decode cX2_find 1 = .ok (.istore_n 2, 1) := dk_61 (dk_at dksX2_find_0 1 rfl rfl)
theorem dX2_find_2 : decode cX2_find 2 = .ok (.aload_n 0, 1) := dk_42 (dk_at dksX2_find_0 2 rfl rfl)
theorem dX2_find_3 : decode cX2_find 3 = .ok (.getfield 37, 3) := dk_180 0 37 (dk_at dksX2_find_0 3 rfl rfl)
theorem dX2_find_6 : decode cX2_find 6 = .ok (.istore_n 3, 1) := dk_62 (dk_at dksX2_find_0 6 rfl rfl)
theorem dX2_find_7 : decode cX2_find 7 = .ok (.iload_n 2, 1) := dk_28 (dk_at dksX2_find_0 7 rfl rfl)
theorem dX2_find_8 : decode cX2_find 8 = .ok (.iload_n 3, 1) := dk_29 (dk_at dksX2_find_0 8 rfl rfl)
theorem dX2_find_9 : decode cX2_find 9 = .ok (.if_icmp .ge 38, 3) := dk_162 0 38 (dk_at dksX2_find_0 9 rfl rfl)
theorem dX2_find_12 : decode cX2_find 12 = .ok (.iload_n 2, 1) := dk_28 (dk_at dksX2_find_0 12 rfl rfl)
theorem dX2_find_13 : decode cX2_find 13 = .ok (.iload_n 3, 1) := dk_29 (dk_at dksX2_find_0 13 rfl rfl)
theorem dX2_find_14 : decode cX2_find 14 = .ok (.iadd, 1) := dk_96 (dk_at dksX2_find_0 14 rfl rfl)
theorem dX2_find_15 : decode cX2_find 15 = .ok (.iconst 1, 1) := dk_4 (dk_at dksX2_find_0 15 rfl rfl)
theorem dX2_find_16 : decode cX2_find 16 = .ok (.iushr, 1) := dk_124 (dk_at dksX2_find_0 16 rfl rfl)
theorem dX2_find_17 : decode cX2_find 17 = .ok (.istore 4, 2) := dk_54 4 (dk_at dksX2_find_0 17 rfl rfl)
theorem dX2_find_19 : decode cX2_find 19 = .ok (.aload_n 0, 1) := dk_42 (dk_at dksX2_find_0 19 rfl rfl)
theorem dX2_find_20 : decode cX2_find 20 = .ok (.getfield 15, 3) := dk_180 0 15 (dk_at dksX2_find_0 20 rfl rfl)
theorem dX2_find_23 : decode cX2_find 23 = .ok (.iload 4, 2) := dk_21 4 (dk_at dksX2_find_1 0 rfl rfl)
theorem dX2_find_25 : decode cX2_find 25 = .ok (.iaload, 1) := dk_46 (dk_at dksX2_find_1 2 rfl rfl)
theorem dX2_find_26 : decode cX2_find 26 = .ok (.iload_n 1, 1) := dk_27 (dk_at dksX2_find_1 3 rfl rfl)
theorem dX2_find_27 : decode cX2_find 27 = .ok (.invokestatic 40, 3) := dk_184 0 40 (dk_at dksX2_find_1 4 rfl rfl)
theorem dX2_find_30 : decode cX2_find 30 = .ok (.ifCond .ge 11, 3) := dk_156 0 11 (dk_at dksX2_find_1 7 rfl rfl)
theorem dX2_find_33 : decode cX2_find 33 = .ok (.iload 4, 2) := dk_21 4 (dk_at dksX2_find_1 10 rfl rfl)
theorem dX2_find_35 : decode cX2_find 35 = .ok (.iconst 1, 1) := dk_4 (dk_at dksX2_find_1 12 rfl rfl)
theorem dX2_find_36 : decode cX2_find 36 = .ok (.iadd, 1) := dk_96 (dk_at dksX2_find_1 13 rfl rfl)
theorem dX2_find_37 : decode cX2_find 37 = .ok (.istore_n 2, 1) := dk_61 (dk_at dksX2_find_1 14 rfl rfl)
theorem dX2_find_38 : decode cX2_find 38 = .ok (.goto 6, 3) := dk_167 0 6 (dk_at dksX2_find_1 15 rfl rfl)
theorem dX2_find_41 : decode cX2_find 41 = .ok (.iload 4, 2) := dk_21 4 (dk_at dksX2_find_1 18 rfl rfl)
theorem dX2_find_43 : decode cX2_find 43 = .ok (.istore_n 3, 1) := dk_62 (dk_at dksX2_find_1 20 rfl rfl)
theorem dX2_find_44 : decode cX2_find 44 = .ok (.goto (-37), 3) := dk_167 255 219 (dk_at dksX2_find_1 21 rfl rfl)
theorem dX2_find_47 : decode cX2_find 47 = .ok (.iload_n 2, 1) := dk_28 (dk_at dksX2_find_2 0 rfl rfl)
theorem dX2_find_48 : decode cX2_find 48 = .ok (.aload_n 0, 1) := dk_42 (dk_at dksX2_find_2 1 rfl rfl)
theorem dX2_find_49 : decode cX2_find 49 = .ok (.getfield 37, 3) := dk_180 0 37 (dk_at dksX2_find_2 2 rfl rfl)
theorem dX2_find_52 : decode cX2_find 52 = .ok (.if_icmp .ge 17, 3) := dk_162 0 17 (dk_at dksX2_find_2 5 rfl rfl)
theorem dX2_find_55 : decode cX2_find 55 = .ok (.aload_n 0, 1) := dk_42 (dk_at dksX2_find_2 8 rfl rfl)
theorem dX2_find_56 : decode cX2_find 56 = .ok (.getfield 15, 3) := dk_180 0 15 (dk_at dksX2_find_2 9 rfl rfl)
theorem dX2_find_59 : decode cX2_find 59 = .ok (.iload_n 2, 1) := dk_28 (dk_at dksX2_find_2 12 rfl rfl)
theorem dX2_find_60 : decode cX2_find 60 = .ok (.iaload, 1) := dk_46 (dk_at dksX2_find_2 13 rfl rfl)
theorem dX2_find_61 : decode cX2_find 61 = .ok (.iload_n 1, 1) := dk_27 (dk_at dksX2_find_2 14 rfl rfl)
theorem dX2_find_62 : decode cX2_find 62 = .ok (.if_icmp .ne 7, 3) := dk_160 0 7 (dk_at dksX2_find_2 15 rfl rfl)
theorem dX2_find_65 : decode cX2_find 65 = .ok (.iload_n 2, 1) := dk_28 (dk_at dksX2_find_2 18 rfl rfl)
theorem dX2_find_66 : decode cX2_find 66 = .ok (.goto 6, 3) := dk_167 0 6 (dk_at dksX2_find_2 19 rfl rfl)
theorem dX2_find_69 : decode cX2_find 69 = .ok (.iconst (-1), 1) := dk_2 (dk_at dksX2_find_2 22 rfl rfl)
theorem dX2_find_70 : decode cX2_find 70 = .ok (.iload_n 2, 1) := dk_28 (dk_at dksX2_find_2 23 rfl rfl)
theorem dX2_find_71 : decode cX2_find 71 = .ok (.isub, 1) := dk_100 (dk_at dksX2_find_3 0 rfl rfl)
theorem dX2_find_72 : decode cX2_find 72 = .ok (.ireturn, 1) := dk_172 (dk_at dksX2_find_3 1 rfl rfl)
abbrev cX2_wouldChange : ByteArray := prog_2_method_8_code
def yX2_wouldChange : MethodName := ⟨RX2, "wouldChange", "(I)Z"⟩
def dkwX2_wouldChange_2 : List UInt8 := [156, 0, 7, 4, 167, 0, 4, 3, 172]
abbrev dktX2_wouldChange_2 : List UInt8 := dkwX2_wouldChange_2 ++ []
def dkwX2_wouldChange_1 : List UInt8 := [180, 0, 23, 184, 0, 49, 162, 0, 7, 4, 167, 0, 20, 3, 167, 0, 16, 42, 27, 182, 0, 63]
abbrev dktX2_wouldChange_1 : List UInt8 := dkwX2_wouldChange_1 ++ dktX2_wouldChange_2
def dkwX2_wouldChange_0 : List UInt8 := [42, 180, 0, 56, 153, 0, 35, 42, 180, 0, 19, 27, 42, 180, 0, 23, 184, 0, 46, 51, 27, 42]
abbrev dktX2_wouldChange_0 : List UInt8 := dkwX2_wouldChange_0 ++ dktX2_wouldChange_1
theorem dksX2_wouldChange_0 : cX2_wouldChange.data.toList.drop 0 = dktX2_wouldChange_0 := by decide +kernel
theorem dksX2_wouldChange_1 : cX2_wouldChange.data.toList.drop 22 = dktX2_wouldChange_1 := dk_seg dksX2_wouldChange_0 22 rfl rfl
theorem dksX2_wouldChange_2 : cX2_wouldChange.data.toList.drop 44 = dktX2_wouldChange_2 := dk_seg dksX2_wouldChange_1 22 rfl rfl
theorem dX2_wouldChange_0 : decode cX2_wouldChange 0 = .ok (.aload_n 0, 1) := dk_42 (dk_at dksX2_wouldChange_0 0 rfl rfl)
theorem dX2_wouldChange_1 : decode cX2_wouldChange 1 = .ok (.getfield 56, 3) := dk_180 0 56 (dk_at dksX2_wouldChange_0 1 rfl rfl)
theorem dX2_wouldChange_4 : decode cX2_wouldChange 4 = .ok (.ifCond .eq 35, 3) := dk_153 0 35 (dk_at dksX2_wouldChange_0 4 rfl rfl)
theorem dX2_wouldChange_7 : decode cX2_wouldChange 7 = .ok (.aload_n 0, 1) := dk_42 (dk_at dksX2_wouldChange_0 7 rfl rfl)
theorem dX2_wouldChange_8 : decode cX2_wouldChange 8 = .ok (.getfield 19, 3) := dk_180 0 19 (dk_at dksX2_wouldChange_0 8 rfl rfl)
theorem dX2_wouldChange_11 : decode cX2_wouldChange 11 = .ok (.iload_n 1, 1) := dk_27 (dk_at dksX2_wouldChange_0 11 rfl rfl)
theorem dX2_wouldChange_12 : decode cX2_wouldChange 12 = .ok (.aload_n 0, 1) := dk_42 (dk_at dksX2_wouldChange_0 12 rfl rfl)
theorem dX2_wouldChange_13 : decode cX2_wouldChange 13 = .ok (.getfield 23, 3) := dk_180 0 23 (dk_at dksX2_wouldChange_0 13 rfl rfl)
theorem dX2_wouldChange_16 : decode cX2_wouldChange 16 = .ok (.invokestatic 46, 3) := dk_184 0 46 (dk_at dksX2_wouldChange_0 16 rfl rfl)
theorem dX2_wouldChange_19 : decode cX2_wouldChange 19 = .ok (.baload, 1) := dk_51 (dk_at dksX2_wouldChange_0 19 rfl rfl)
theorem dX2_wouldChange_20 : decode cX2_wouldChange 20 = .ok (.iload_n 1, 1) := dk_27 (dk_at dksX2_wouldChange_0 20 rfl rfl)
theorem dX2_wouldChange_21 : decode cX2_wouldChange 21 = .ok (.aload_n 0, 1) := dk_42 (dk_at dksX2_wouldChange_0 21 rfl rfl)
theorem dX2_wouldChange_22 : decode cX2_wouldChange 22 = .ok (.getfield 23, 3) := dk_180 0 23 (dk_at dksX2_wouldChange_1 0 rfl rfl)
theorem dX2_wouldChange_25 : decode cX2_wouldChange 25 = .ok (.invokestatic 49, 3) := dk_184 0 49 (dk_at dksX2_wouldChange_1 3 rfl rfl)
theorem dX2_wouldChange_28 : decode cX2_wouldChange 28 = .ok (.if_icmp .ge 7, 3) := dk_162 0 7 (dk_at dksX2_wouldChange_1 6 rfl rfl)
theorem dX2_wouldChange_31 : decode cX2_wouldChange 31 = .ok (.iconst 1, 1) := dk_4 (dk_at dksX2_wouldChange_1 9 rfl rfl)
theorem dX2_wouldChange_32 : decode cX2_wouldChange 32 = .ok (.goto 20, 3) := dk_167 0 20 (dk_at dksX2_wouldChange_1 10 rfl rfl)
theorem dX2_wouldChange_35 : decode cX2_wouldChange 35 = .ok (.iconst 0, 1) := dk_3 (dk_at dksX2_wouldChange_1 13 rfl rfl)
theorem dX2_wouldChange_36 : decode cX2_wouldChange 36 = .ok (.goto 16, 3) := dk_167 0 16 (dk_at dksX2_wouldChange_1 14 rfl rfl)
theorem dX2_wouldChange_39 : decode cX2_wouldChange 39 = .ok (.aload_n 0, 1) := dk_42 (dk_at dksX2_wouldChange_1 17 rfl rfl)
theorem dX2_wouldChange_40 : decode cX2_wouldChange 40 = .ok (.iload_n 1, 1) := dk_27 (dk_at dksX2_wouldChange_1 18 rfl rfl)
theorem dX2_wouldChange_41 : decode cX2_wouldChange 41 = .ok (.invokevirtual 63, 3) := dk_182 0 63 (dk_at dksX2_wouldChange_1 19 rfl rfl)
theorem dX2_wouldChange_44 : decode cX2_wouldChange 44 = .ok (.ifCond .ge 7, 3) := dk_156 0 7 (dk_at dksX2_wouldChange_2 0 rfl rfl)
theorem dX2_wouldChange_47 : decode cX2_wouldChange 47 = .ok (.iconst 1, 1) := dk_4 (dk_at dksX2_wouldChange_2 3 rfl rfl)
theorem dX2_wouldChange_48 : decode cX2_wouldChange 48 = .ok (.goto 4, 3) := dk_167 0 4 (dk_at dksX2_wouldChange_2 4 rfl rfl)
theorem dX2_wouldChange_51 : decode cX2_wouldChange 51 = .ok (.iconst 0, 1) := dk_3 (dk_at dksX2_wouldChange_2 7 rfl rfl)
theorem dX2_wouldChange_52 : decode cX2_wouldChange 52 = .ok (.ireturn, 1) := dk_172 (dk_at dksX2_wouldChange_2 8 rfl rfl)
abbrev cX2_drops : ByteArray := prog_2_method_9_code
def yX2_drops : MethodName := ⟨RX2, "drops", "(I)Z"⟩
def dkwX2_drops_4 : List UInt8 := [172]
abbrev dktX2_drops_4 : List UInt8 := dkwX2_drops_4 ++ []
def dkwX2_drops_3 : List UInt8 := [180, 0, 37, 162, 0, 20, 42, 42, 180, 0, 15, 29, 46, 182, 0, 60, 87, 132, 3, 1, 167, 255, 234, 4]
abbrev dktX2_drops_3 : List UInt8 := dkwX2_drops_3 ++ dktX2_drops_4
def dkwX2_drops_2 : List UInt8 := [17, 1, 0, 162, 0, 16, 42, 180, 0, 19, 29, 3, 84, 132, 3, 1, 167, 255, 239, 3, 62, 29, 42]
abbrev dktX2_drops_2 : List UInt8 := dkwX2_drops_2 ++ dktX2_drops_3
def dkwX2_drops_1 : List UInt8 := [42, 180, 0, 37, 28, 100, 4, 100, 184, 0, 67, 42, 89, 180, 0, 37, 4, 100, 181, 0, 37, 3, 62, 29]
abbrev dktX2_drops_1 : List UInt8 := dkwX2_drops_1 ++ dktX2_drops_2
def dkwX2_drops_0 : List UInt8 := [42, 27, 182, 0, 63, 61, 28, 156, 0, 5, 3, 172, 42, 180, 0, 15, 28, 4, 96, 42, 180, 0, 15, 28]
abbrev dktX2_drops_0 : List UInt8 := dkwX2_drops_0 ++ dktX2_drops_1
theorem dksX2_drops_0 : cX2_drops.data.toList.drop 0 = dktX2_drops_0 := by decide +kernel
theorem dksX2_drops_1 : cX2_drops.data.toList.drop 24 = dktX2_drops_1 := dk_seg dksX2_drops_0 24 rfl rfl
theorem dksX2_drops_2 : cX2_drops.data.toList.drop 48 = dktX2_drops_2 := dk_seg dksX2_drops_1 24 rfl rfl
theorem dksX2_drops_3 : cX2_drops.data.toList.drop 71 = dktX2_drops_3 := dk_seg dksX2_drops_2 23 rfl rfl
theorem dksX2_drops_4 : cX2_drops.data.toList.drop 95 = dktX2_drops_4 := dk_seg dksX2_drops_3 24 rfl rfl
theorem dX2_drops_0 : decode cX2_drops 0 = .ok (.aload_n 0, 1) := dk_42 (dk_at dksX2_drops_0 0 rfl rfl)
theorem dX2_drops_1 : decode cX2_drops 1 = .ok (.iload_n 1, 1) := dk_27 (dk_at dksX2_drops_0 1 rfl rfl)
theorem dX2_drops_2 : decode cX2_drops 2 = .ok (.invokevirtual 63, 3) := dk_182 0 63 (dk_at dksX2_drops_0 2 rfl rfl)
theorem dX2_drops_5 : decode cX2_drops 5 = .ok (.istore_n 2, 1) := dk_61 (dk_at dksX2_drops_0 5 rfl rfl)
theorem dX2_drops_6 : decode cX2_drops 6 = .ok (.iload_n 2, 1) := dk_28 (dk_at dksX2_drops_0 6 rfl rfl)
theorem dX2_drops_7 : decode cX2_drops 7 = .ok (.ifCond .ge 5, 3) := dk_156 0 5 (dk_at dksX2_drops_0 7 rfl rfl)
theorem dX2_drops_10 : decode cX2_drops 10 = .ok (.iconst 0, 1) := dk_3 (dk_at dksX2_drops_0 10 rfl rfl)
theorem dX2_drops_11 : decode cX2_drops 11 = .ok (.ireturn, 1) := dk_172 (dk_at dksX2_drops_0 11 rfl rfl)
theorem dX2_drops_12 : decode cX2_drops 12 = .ok (.aload_n 0, 1) := dk_42 (dk_at dksX2_drops_0 12 rfl rfl)
theorem dX2_drops_13 : decode cX2_drops 13 = .ok (.getfield 15, 3) := dk_180 0 15 (dk_at dksX2_drops_0 13 rfl rfl)
theorem dX2_drops_16 : decode cX2_drops 16 = .ok (.iload_n 2, 1) := dk_28 (dk_at dksX2_drops_0 16 rfl rfl)
theorem dX2_drops_17 : decode cX2_drops 17 = .ok (.iconst 1, 1) := dk_4 (dk_at dksX2_drops_0 17 rfl rfl)
theorem dX2_drops_18 : decode cX2_drops 18 = .ok (.iadd, 1) := dk_96 (dk_at dksX2_drops_0 18 rfl rfl)
theorem dX2_drops_19 : decode cX2_drops 19 = .ok (.aload_n 0, 1) := dk_42 (dk_at dksX2_drops_0 19 rfl rfl)
theorem dX2_drops_20 : decode cX2_drops 20 = .ok (.getfield 15, 3) := dk_180 0 15 (dk_at dksX2_drops_0 20 rfl rfl)
theorem dX2_drops_23 : decode cX2_drops 23 = .ok (.iload_n 2, 1) := dk_28 (dk_at dksX2_drops_0 23 rfl rfl)
theorem dX2_drops_24 : decode cX2_drops 24 = .ok (.aload_n 0, 1) := dk_42 (dk_at dksX2_drops_1 0 rfl rfl)
theorem dX2_drops_25 : decode cX2_drops 25 = .ok (.getfield 37, 3) := dk_180 0 37 (dk_at dksX2_drops_1 1 rfl rfl)
theorem dX2_drops_28 : decode cX2_drops 28 = .ok (.iload_n 2, 1) := dk_28 (dk_at dksX2_drops_1 4 rfl rfl)
theorem dX2_drops_29 : decode cX2_drops 29 = .ok (.isub, 1) := dk_100 (dk_at dksX2_drops_1 5 rfl rfl)
theorem dX2_drops_30 : decode cX2_drops 30 = .ok (.iconst 1, 1) := dk_4 (dk_at dksX2_drops_1 6 rfl rfl)
theorem dX2_drops_31 : decode cX2_drops 31 = .ok (.isub, 1) := dk_100 (dk_at dksX2_drops_1 7 rfl rfl)
theorem dX2_drops_32 : decode cX2_drops 32 = .ok (.invokestatic 67, 3) := dk_184 0 67 (dk_at dksX2_drops_1 8 rfl rfl)
theorem dX2_drops_35 : decode cX2_drops 35 = .ok (.aload_n 0, 1) := dk_42 (dk_at dksX2_drops_1 11 rfl rfl)
theorem dX2_drops_36 : decode cX2_drops 36 = .ok (.dup, 1) := dk_89 (dk_at dksX2_drops_1 12 rfl rfl)
theorem dX2_drops_37 : decode cX2_drops 37 = .ok (.getfield 37, 3) := dk_180 0 37 (dk_at dksX2_drops_1 13 rfl rfl)
theorem dX2_drops_40 : decode cX2_drops 40 = .ok (.iconst 1, 1) := dk_4 (dk_at dksX2_drops_1 16 rfl rfl)
theorem dX2_drops_41 : decode cX2_drops 41 = .ok (.isub, 1) := dk_100 (dk_at dksX2_drops_1 17 rfl rfl)
theorem dX2_drops_42 : decode cX2_drops 42 = .ok (.putfield 37, 3) := dk_181 0 37 (dk_at dksX2_drops_1 18 rfl rfl)
theorem dX2_drops_45 : decode cX2_drops 45 = .ok (.iconst 0, 1) := dk_3 (dk_at dksX2_drops_1 21 rfl rfl)
theorem dX2_drops_46 : decode cX2_drops 46 = .ok (.istore_n 3, 1) := dk_62 (dk_at dksX2_drops_1 22 rfl rfl)
theorem dX2_drops_47 : decode cX2_drops 47 = .ok (.iload_n 3, 1) := dk_29 (dk_at dksX2_drops_1 23 rfl rfl)
theorem dX2_drops_48 : decode cX2_drops 48 = .ok (.sipush 256, 3) := dk_17 1 0 (dk_at dksX2_drops_2 0 rfl rfl)
theorem dX2_drops_51 : decode cX2_drops 51 = .ok (.if_icmp .ge 16, 3) := dk_162 0 16 (dk_at dksX2_drops_2 3 rfl rfl)
theorem dX2_drops_54 : decode cX2_drops 54 = .ok (.aload_n 0, 1) := dk_42 (dk_at dksX2_drops_2 6 rfl rfl)
theorem dX2_drops_55 : decode cX2_drops 55 = .ok (.getfield 19, 3) := dk_180 0 19 (dk_at dksX2_drops_2 7 rfl rfl)
theorem dX2_drops_58 : decode cX2_drops 58 = .ok (.iload_n 3, 1) := dk_29 (dk_at dksX2_drops_2 10 rfl rfl)
theorem dX2_drops_59 : decode cX2_drops 59 = .ok (.iconst 0, 1) := dk_3 (dk_at dksX2_drops_2 11 rfl rfl)
theorem dX2_drops_60 : decode cX2_drops 60 = .ok (.bastore, 1) := dk_84 (dk_at dksX2_drops_2 12 rfl rfl)
theorem dX2_drops_61 : decode cX2_drops 61 = .ok (.iinc 3 1, 3) := dk_132 3 1 (dk_at dksX2_drops_2 13 rfl rfl)
theorem dX2_drops_64 : decode cX2_drops 64 = .ok (.goto (-17), 3) := dk_167 255 239 (dk_at dksX2_drops_2 16 rfl rfl)
theorem dX2_drops_67 : decode cX2_drops 67 = .ok (.iconst 0, 1) := dk_3 (dk_at dksX2_drops_2 19 rfl rfl)
theorem dX2_drops_68 : decode cX2_drops 68 = .ok (.istore_n 3, 1) := dk_62 (dk_at dksX2_drops_2 20 rfl rfl)
theorem dX2_drops_69 : decode cX2_drops 69 = .ok (.iload_n 3, 1) := dk_29 (dk_at dksX2_drops_2 21 rfl rfl)
theorem dX2_drops_70 : decode cX2_drops 70 = .ok (.aload_n 0, 1) := dk_42 (dk_at dksX2_drops_2 22 rfl rfl)
theorem dX2_drops_71 : decode cX2_drops 71 = .ok (.getfield 37, 3) := dk_180 0 37 (dk_at dksX2_drops_3 0 rfl rfl)
theorem dX2_drops_74 : decode cX2_drops 74 = .ok (.if_icmp .ge 20, 3) := dk_162 0 20 (dk_at dksX2_drops_3 3 rfl rfl)
theorem dX2_drops_77 : decode cX2_drops 77 = .ok (.aload_n 0, 1) := dk_42 (dk_at dksX2_drops_3 6 rfl rfl)
theorem dX2_drops_78 : decode cX2_drops 78 = .ok (.aload_n 0, 1) := dk_42 (dk_at dksX2_drops_3 7 rfl rfl)
theorem dX2_drops_79 : decode cX2_drops 79 = .ok (.getfield 15, 3) := dk_180 0 15 (dk_at dksX2_drops_3 8 rfl rfl)
theorem dX2_drops_82 : decode cX2_drops 82 = .ok (.iload_n 3, 1) := dk_29 (dk_at dksX2_drops_3 11 rfl rfl)
theorem dX2_drops_83 : decode cX2_drops 83 = .ok (.iaload, 1) := dk_46 (dk_at dksX2_drops_3 12 rfl rfl)
theorem dX2_drops_84 : decode cX2_drops 84 = .ok (.invokevirtual 60, 3) := dk_182 0 60 (dk_at dksX2_drops_3 13 rfl rfl)
theorem dX2_drops_87 : decode cX2_drops 87 = .ok (.pop, 1) := dk_87 (dk_at dksX2_drops_3 16 rfl rfl)
theorem dX2_drops_88 : decode cX2_drops 88 = .ok (.iinc 3 1, 3) := dk_132 3 1 (dk_at dksX2_drops_3 17 rfl rfl)
theorem dX2_drops_91 : decode cX2_drops 91 = .ok (.goto (-22), 3) := dk_167 255 234 (dk_at dksX2_drops_3 20 rfl rfl)
theorem dX2_drops_94 : decode cX2_drops 94 = .ok (.iconst 1, 1) := dk_4 (dk_at dksX2_drops_3 23 rfl rfl)
theorem dX2_drops_95 : decode cX2_drops 95 = .ok (.ireturn, 1) := dk_172 (dk_at dksX2_drops_4 0 rfl rfl)
abbrev cX2_empty : ByteArray := prog_2_method_13_code
def yX2_empty : MethodName := ⟨RX2, "empty", "()I"⟩
def dkwX2_empty_1 : List UInt8 := [158, 0, 7, 4, 167, 0, 4, 3, 100, 60, 132, 2, 1, 167, 255, 228, 27, 172]
abbrev dktX2_empty_1 : List UInt8 := dkwX2_empty_1 ++ []
def dkwX2_empty_0 : List UInt8 := [42, 182, 0, 87, 60, 3, 61, 28, 42, 182, 0, 87, 162, 0, 26, 27, 42, 180, 0, 19, 28, 51]
abbrev dktX2_empty_0 : List UInt8 := dkwX2_empty_0 ++ dktX2_empty_1
theorem dksX2_empty_0 : cX2_empty.data.toList.drop 0 = dktX2_empty_0 := by decide +kernel
theorem dksX2_empty_1 : cX2_empty.data.toList.drop 22 = dktX2_empty_1 := dk_seg dksX2_empty_0 22 rfl rfl
theorem dX2_empty_0 : decode cX2_empty 0 = .ok (.aload_n 0, 1) := dk_42 (dk_at dksX2_empty_0 0 rfl rfl)
theorem dX2_empty_1 : decode cX2_empty 1 = .ok (.invokevirtual 87, 3) := dk_182 0 87 (dk_at dksX2_empty_0 1 rfl rfl)
theorem dX2_empty_4 : decode cX2_empty 4 = .ok (.istore_n 1, 1) := dk_60 (dk_at dksX2_empty_0 4 rfl rfl)
theorem dX2_empty_5 : decode cX2_empty 5 = .ok (.iconst 0, 1) := dk_3 (dk_at dksX2_empty_0 5 rfl rfl)
theorem dX2_empty_6 : decode cX2_empty 6 = .ok (.istore_n 2, 1) := dk_61 (dk_at dksX2_empty_0 6 rfl rfl)
theorem dX2_empty_7 : decode cX2_empty 7 = .ok (.iload_n 2, 1) := dk_28 (dk_at dksX2_empty_0 7 rfl rfl)
theorem dX2_empty_8 : decode cX2_empty 8 = .ok (.aload_n 0, 1) := dk_42 (dk_at dksX2_empty_0 8 rfl rfl)
theorem dX2_empty_9 : decode cX2_empty 9 = .ok (.invokevirtual 87, 3) := dk_182 0 87 (dk_at dksX2_empty_0 9 rfl rfl)
theorem dX2_empty_12 : decode cX2_empty 12 = .ok (.if_icmp .ge 26, 3) := dk_162 0 26 (dk_at dksX2_empty_0 12 rfl rfl)
theorem dX2_empty_15 : decode cX2_empty 15 = .ok (.iload_n 1, 1) := dk_27 (dk_at dksX2_empty_0 15 rfl rfl)
theorem dX2_empty_16 : decode cX2_empty 16 = .ok (.aload_n 0, 1) := dk_42 (dk_at dksX2_empty_0 16 rfl rfl)
theorem dX2_empty_17 : decode cX2_empty 17 = .ok (.getfield 19, 3) := dk_180 0 19 (dk_at dksX2_empty_0 17 rfl rfl)
theorem dX2_empty_20 : decode cX2_empty 20 = .ok (.iload_n 2, 1) := dk_28 (dk_at dksX2_empty_0 20 rfl rfl)
theorem dX2_empty_21 : decode cX2_empty 21 = .ok (.baload, 1) := dk_51 (dk_at dksX2_empty_0 21 rfl rfl)
theorem dX2_empty_22 : decode cX2_empty 22 = .ok (.ifCond .le 7, 3) := dk_158 0 7 (dk_at dksX2_empty_1 0 rfl rfl)
theorem dX2_empty_25 : decode cX2_empty 25 = .ok (.iconst 1, 1) := dk_4 (dk_at dksX2_empty_1 3 rfl rfl)
theorem dX2_empty_26 : decode cX2_empty 26 = .ok (.goto 4, 3) := dk_167 0 4 (dk_at dksX2_empty_1 4 rfl rfl)
theorem dX2_empty_29 : decode cX2_empty 29 = .ok (.iconst 0, 1) := dk_3 (dk_at dksX2_empty_1 7 rfl rfl)
theorem dX2_empty_30 : decode cX2_empty 30 = .ok (.isub, 1) := dk_100 (dk_at dksX2_empty_1 8 rfl rfl)
theorem dX2_empty_31 : decode cX2_empty 31 = .ok (.istore_n 1, 1) := dk_60 (dk_at dksX2_empty_1 9 rfl rfl)
theorem dX2_empty_32 : decode cX2_empty 32 = .ok (.iinc 2 1, 3) := dk_132 2 1 (dk_at dksX2_empty_1 10 rfl rfl)
theorem dX2_empty_35 : decode cX2_empty 35 = .ok (.goto (-28), 3) := dk_167 255 228 (dk_at dksX2_empty_1 13 rfl rfl)
theorem dX2_empty_38 : decode cX2_empty 38 = .ok (.iload_n 1, 1) := dk_27 (dk_at dksX2_empty_1 16 rfl rfl)
theorem dX2_empty_39 : decode cX2_empty 39 = .ok (.ireturn, 1) := dk_172 (dk_at dksX2_empty_1 17 rfl rfl)
abbrev cX2_init_2 : ByteArray := prog_2_method_2_code
def yX2_init_2 : MethodName := ⟨RX2, "<init>", "(LDistinctMarks;LDistinctMarks$Counter;I)V"⟩
def dkwX2_init_2_0 : List UInt8 := [42, 43, 29, 44, 180, 0, 27, 183, 0, 30, 42, 44, 182, 0, 33, 177]
abbrev dktX2_init_2_0 : List UInt8 := dkwX2_init_2_0 ++ []
theorem dksX2_init_2_0 : cX2_init_2.data.toList.drop 0 = dktX2_init_2_0 := by decide +kernel
theorem dX2_init_2_0 : decode cX2_init_2 0 = .ok (.aload_n 0, 1) := dk_42 (dk_at dksX2_init_2_0 0 rfl rfl)
theorem dX2_init_2_1 : decode cX2_init_2 1 = .ok (.aload_n 1, 1) := dk_43 (dk_at dksX2_init_2_0 1 rfl rfl)
theorem dX2_init_2_2 : decode cX2_init_2 2 = .ok (.iload_n 3, 1) := dk_29 (dk_at dksX2_init_2_0 2 rfl rfl)
theorem dX2_init_2_3 : decode cX2_init_2 3 = .ok (.aload_n 2, 1) := dk_44 (dk_at dksX2_init_2_0 3 rfl rfl)
theorem dX2_init_2_4 : decode cX2_init_2 4 = .ok (.getfield 27, 3) := dk_180 0 27 (dk_at dksX2_init_2_0 4 rfl rfl)
theorem dX2_init_2_7 : decode cX2_init_2 7 = .ok (.invokespecial 30, 3) := dk_183 0 30 (dk_at dksX2_init_2_0 7 rfl rfl)
theorem dX2_init_2_10 : decode cX2_init_2 10 = .ok (.aload_n 0, 1) := dk_42 (dk_at dksX2_init_2_0 10 rfl rfl)
theorem dX2_init_2_11 : decode cX2_init_2 11 = .ok (.aload_n 2, 1) := dk_44 (dk_at dksX2_init_2_0 11 rfl rfl)
theorem dX2_init_2_12 : decode cX2_init_2 12 = .ok (.invokevirtual 33, 3) := dk_182 0 33 (dk_at dksX2_init_2_0 12 rfl rfl)
theorem dX2_init_2_15 : decode cX2_init_2 15 = .ok (.return_, 1) := dk_177 (dk_at dksX2_init_2_0 15 rfl rfl)
abbrev cX2_takes : ByteArray := prog_2_method_10_code
def yX2_takes : MethodName := ⟨RX2, "takes", "(LDistinctMarks$Counter;)V"⟩
def dkwX2_takes_4 : List UInt8 := [177]
abbrev dktX2_takes_4 : List UInt8 := dkwX2_takes_4 ++ []
def dkwX2_takes_3 : List UInt8 := [182, 0, 60, 87, 132, 2, 1, 167, 255, 234, 167, 0, 14, 43, 42, 43, 186, 0, 76, 0, 0, 182, 0, 80]
abbrev dktX2_takes_3 : List UInt8 := dkwX2_takes_3 ++ dktX2_takes_4
def dkwX2_takes_2 : List UInt8 := [180, 0, 56, 154, 0, 33, 3, 61, 28, 43, 180, 0, 37, 162, 0, 20, 42, 43, 180, 0, 15, 28, 46]
abbrev dktX2_takes_2 : List UInt8 := dkwX2_takes_2 ++ dktX2_takes_3
def dkwX2_takes_1 : List UInt8 := [42, 43, 180, 0, 15, 28, 46, 182, 0, 73, 87, 132, 2, 1, 167, 255, 234, 177, 42, 4, 181, 0, 56, 43]
abbrev dktX2_takes_1 : List UInt8 := dkwX2_takes_1 ++ dktX2_takes_2
def dkwX2_takes_0 : List UInt8 := [43, 180, 0, 56, 154, 0, 38, 42, 180, 0, 56, 154, 0, 31, 3, 61, 28, 43, 180, 0, 37, 162, 0, 20]
abbrev dktX2_takes_0 : List UInt8 := dkwX2_takes_0 ++ dktX2_takes_1
theorem dksX2_takes_0 : cX2_takes.data.toList.drop 0 = dktX2_takes_0 := by decide +kernel
theorem dksX2_takes_1 : cX2_takes.data.toList.drop 24 = dktX2_takes_1 := dk_seg dksX2_takes_0 24 rfl rfl
theorem dksX2_takes_2 : cX2_takes.data.toList.drop 48 = dktX2_takes_2 := dk_seg dksX2_takes_1 24 rfl rfl
theorem dksX2_takes_3 : cX2_takes.data.toList.drop 71 = dktX2_takes_3 := dk_seg dksX2_takes_2 23 rfl rfl
theorem dksX2_takes_4 : cX2_takes.data.toList.drop 95 = dktX2_takes_4 := dk_seg dksX2_takes_3 24 rfl rfl
theorem dX2_takes_0 : decode cX2_takes 0 = .ok (.aload_n 1, 1) := dk_43 (dk_at dksX2_takes_0 0 rfl rfl)
theorem dX2_takes_1 : decode cX2_takes 1 = .ok (.getfield 56, 3) := dk_180 0 56 (dk_at dksX2_takes_0 1 rfl rfl)
theorem dX2_takes_4 : decode cX2_takes 4 = .ok (.ifCond .ne 38, 3) := dk_154 0 38 (dk_at dksX2_takes_0 4 rfl rfl)
theorem dX2_takes_7 : decode cX2_takes 7 = .ok (.aload_n 0, 1) := dk_42 (dk_at dksX2_takes_0 7 rfl rfl)
theorem dX2_takes_8 : decode cX2_takes 8 = .ok (.getfield 56, 3) := dk_180 0 56 (dk_at dksX2_takes_0 8 rfl rfl)
theorem dX2_takes_11 : decode cX2_takes 11 = .ok (.ifCond .ne 31, 3) := dk_154 0 31 (dk_at dksX2_takes_0 11 rfl rfl)
theorem dX2_takes_14 : decode cX2_takes 14 = .ok (.iconst 0, 1) := dk_3 (dk_at dksX2_takes_0 14 rfl rfl)
theorem dX2_takes_15 : decode cX2_takes 15 = .ok (.istore_n 2, 1) := dk_61 (dk_at dksX2_takes_0 15 rfl rfl)
theorem dX2_takes_16 : decode cX2_takes 16 = .ok (.iload_n 2, 1) := dk_28 (dk_at dksX2_takes_0 16 rfl rfl)
theorem dX2_takes_17 : decode cX2_takes 17 = .ok (.aload_n 1, 1) := dk_43 (dk_at dksX2_takes_0 17 rfl rfl)
theorem dX2_takes_18 : decode cX2_takes 18 = .ok (.getfield 37, 3) := dk_180 0 37 (dk_at dksX2_takes_0 18 rfl rfl)
theorem dX2_takes_21 : decode cX2_takes 21 = .ok (.if_icmp .ge 20, 3) := dk_162 0 20 (dk_at dksX2_takes_0 21 rfl rfl)
theorem dX2_takes_24 : decode cX2_takes 24 = .ok (.aload_n 0, 1) := dk_42 (dk_at dksX2_takes_1 0 rfl rfl)
theorem dX2_takes_25 : decode cX2_takes 25 = .ok (.aload_n 1, 1) := dk_43 (dk_at dksX2_takes_1 1 rfl rfl)
theorem dX2_takes_26 : decode cX2_takes 26 = .ok (.getfield 15, 3) := dk_180 0 15 (dk_at dksX2_takes_1 2 rfl rfl)
theorem dX2_takes_29 : decode cX2_takes 29 = .ok (.iload_n 2, 1) := dk_28 (dk_at dksX2_takes_1 5 rfl rfl)
theorem dX2_takes_30 : decode cX2_takes 30 = .ok (.iaload, 1) := dk_46 (dk_at dksX2_takes_1 6 rfl rfl)
theorem dX2_takes_31 : decode cX2_takes 31 = .ok (.invokevirtual 73, 3) := dk_182 0 73 (dk_at dksX2_takes_1 7 rfl rfl)
theorem dX2_takes_34 : decode cX2_takes 34 = .ok (.pop, 1) := dk_87 (dk_at dksX2_takes_1 10 rfl rfl)
theorem dX2_takes_35 : decode cX2_takes 35 = .ok (.iinc 2 1, 3) := dk_132 2 1 (dk_at dksX2_takes_1 11 rfl rfl)
theorem dX2_takes_38 : decode cX2_takes 38 = .ok (.goto (-22), 3) := dk_167 255 234 (dk_at dksX2_takes_1 14 rfl rfl)
theorem dX2_takes_41 : decode cX2_takes 41 = .ok (.return_, 1) := dk_177 (dk_at dksX2_takes_1 17 rfl rfl)
theorem dX2_takes_42 : decode cX2_takes 42 = .ok (.aload_n 0, 1) := dk_42 (dk_at dksX2_takes_1 18 rfl rfl)
theorem dX2_takes_43 : decode cX2_takes 43 = .ok (.iconst 1, 1) := dk_4 (dk_at dksX2_takes_1 19 rfl rfl)
theorem dX2_takes_44 : decode cX2_takes 44 = .ok (.putfield 56, 3) := dk_181 0 56 (dk_at dksX2_takes_1 20 rfl rfl)
theorem dX2_takes_47 : decode cX2_takes 47 = .ok (.aload_n 1, 1) := dk_43 (dk_at dksX2_takes_1 23 rfl rfl)
theorem dX2_takes_48 : decode cX2_takes 48 = .ok (.getfield 56, 3) := dk_180 0 56 (dk_at dksX2_takes_2 0 rfl rfl)
theorem dX2_takes_51 : decode cX2_takes 51 = .ok (.ifCond .ne 33, 3) := dk_154 0 33 (dk_at dksX2_takes_2 3 rfl rfl)
theorem dX2_takes_54 : decode cX2_takes 54 = .ok (.iconst 0, 1) := dk_3 (dk_at dksX2_takes_2 6 rfl rfl)
theorem dX2_takes_55 : decode cX2_takes 55 = .ok (.istore_n 2, 1) := dk_61 (dk_at dksX2_takes_2 7 rfl rfl)
theorem dX2_takes_56 : decode cX2_takes 56 = .ok (.iload_n 2, 1) := dk_28 (dk_at dksX2_takes_2 8 rfl rfl)
theorem dX2_takes_57 : decode cX2_takes 57 = .ok (.aload_n 1, 1) := dk_43 (dk_at dksX2_takes_2 9 rfl rfl)
theorem dX2_takes_58 : decode cX2_takes 58 = .ok (.getfield 37, 3) := dk_180 0 37 (dk_at dksX2_takes_2 10 rfl rfl)
theorem dX2_takes_61 : decode cX2_takes 61 = .ok (.if_icmp .ge 20, 3) := dk_162 0 20 (dk_at dksX2_takes_2 13 rfl rfl)
theorem dX2_takes_64 : decode cX2_takes 64 = .ok (.aload_n 0, 1) := dk_42 (dk_at dksX2_takes_2 16 rfl rfl)
theorem dX2_takes_65 : decode cX2_takes 65 = .ok (.aload_n 1, 1) := dk_43 (dk_at dksX2_takes_2 17 rfl rfl)
theorem dX2_takes_66 : decode cX2_takes 66 = .ok (.getfield 15, 3) := dk_180 0 15 (dk_at dksX2_takes_2 18 rfl rfl)
theorem dX2_takes_69 : decode cX2_takes 69 = .ok (.iload_n 2, 1) := dk_28 (dk_at dksX2_takes_2 21 rfl rfl)
theorem dX2_takes_70 : decode cX2_takes 70 = .ok (.iaload, 1) := dk_46 (dk_at dksX2_takes_2 22 rfl rfl)
theorem dX2_takes_71 : decode cX2_takes 71 = .ok (.invokevirtual 60, 3) := dk_182 0 60 (dk_at dksX2_takes_3 0 rfl rfl)
theorem dX2_takes_74 : decode cX2_takes 74 = .ok (.pop, 1) := dk_87 (dk_at dksX2_takes_3 3 rfl rfl)
theorem dX2_takes_75 : decode cX2_takes 75 = .ok (.iinc 2 1, 3) := dk_132 2 1 (dk_at dksX2_takes_3 4 rfl rfl)
theorem dX2_takes_78 : decode cX2_takes 78 = .ok (.goto (-22), 3) := dk_167 255 234 (dk_at dksX2_takes_3 7 rfl rfl)
theorem dX2_takes_81 : decode cX2_takes 81 = .ok (.goto 14, 3) := dk_167 0 14 (dk_at dksX2_takes_3 10 rfl rfl)
theorem dX2_takes_84 : decode cX2_takes 84 = .ok (.aload_n 1, 1) := dk_43 (dk_at dksX2_takes_3 13 rfl rfl)
theorem dX2_takes_85 : decode cX2_takes 85 = .ok (.aload_n 0, 1) := dk_42 (dk_at dksX2_takes_3 14 rfl rfl)
theorem dX2_takes_86 : decode cX2_takes 86 = .ok (.aload_n 1, 1) := dk_43 (dk_at dksX2_takes_3 15 rfl rfl)
theorem dX2_takes_87 : decode cX2_takes 87 = .ok (.invokedynamic 76, 5) := by decide +kernel
theorem dX2_takes_92 : decode cX2_takes 92 = .ok (.invokevirtual 80, 3) := dk_182 0 80 (dk_at dksX2_takes_3 21 rfl rfl)
theorem dX2_takes_95 : decode cX2_takes 95 = .ok (.return_, 1) := dk_177 (dk_at dksX2_takes_4 0 rfl rfl)
abbrev cX2_lambda_takes_0 : ByteArray := prog_2_method_21_code
def yX2_lambda_takes_0 : MethodName := ⟨RX2, "lambda$takes$0", "(LDistinctMarks$Counter;II)V"⟩
def dkwX2_lambda_takes_0_1 : List UInt8 := [182, 0, 133, 182, 0, 52, 87, 177]
abbrev dktX2_lambda_takes_0_1 : List UInt8 := dkwX2_lambda_takes_0_1 ++ []
def dkwX2_lambda_takes_0_0 : List UInt8 := [42, 28, 43, 180, 0, 23, 42, 180, 0, 23, 100, 122, 42, 28, 29, 43, 180, 0, 23, 42, 180, 0, 23, 100]
abbrev dktX2_lambda_takes_0_0 : List UInt8 := dkwX2_lambda_takes_0_0 ++ dktX2_lambda_takes_0_1
theorem dksX2_lambda_takes_0_0 : cX2_lambda_takes_0.data.toList.drop 0 = dktX2_lambda_takes_0_0 := by decide +kernel
theorem dksX2_lambda_takes_0_1 : cX2_lambda_takes_0.data.toList.drop 24 = dktX2_lambda_takes_0_1 := dk_seg dksX2_lambda_takes_0_0 24 rfl rfl
theorem dX2_lambda_takes_0_0 : decode cX2_lambda_takes_0 0 = .ok (.aload_n 0, 1) := dk_42 (dk_at dksX2_lambda_takes_0_0 0 rfl rfl)
theorem dX2_lambda_takes_0_1 : decode cX2_lambda_takes_0 1 = .ok (.iload_n 2, 1) := dk_28 (dk_at dksX2_lambda_takes_0_0 1 rfl rfl)
theorem dX2_lambda_takes_0_2 : decode cX2_lambda_takes_0 2 = .ok (.aload_n 1, 1) := dk_43 (dk_at dksX2_lambda_takes_0_0 2 rfl rfl)
theorem dX2_lambda_takes_0_3 : decode cX2_lambda_takes_0 3 = .ok (.getfield 23, 3) := dk_180 0 23 (dk_at dksX2_lambda_takes_0_0 3 rfl rfl)
theorem dX2_lambda_takes_0_6 : decode cX2_lambda_takes_0 6 = .ok (.aload_n 0, 1) := dk_42 (dk_at dksX2_lambda_takes_0_0 6 rfl rfl)
theorem dX2_lambda_takes_0_7 : decode cX2_lambda_takes_0 7 = .ok (.getfield 23, 3) := dk_180 0 23 (dk_at dksX2_lambda_takes_0_0 7 rfl rfl)
theorem dX2_lambda_takes_0_10 : decode cX2_lambda_takes_0 10 = .ok (.isub, 1) := dk_100 (dk_at dksX2_lambda_takes_0_0 10 rfl rfl)
theorem dX2_lambda_takes_0_11 : decode cX2_lambda_takes_0 11 = .ok (.ishr, 1) := dk_122 (dk_at dksX2_lambda_takes_0_0 11 rfl rfl)
theorem dX2_lambda_takes_0_12 : decode cX2_lambda_takes_0 12 = .ok (.aload_n 0, 1) := dk_42 (dk_at dksX2_lambda_takes_0_0 12 rfl rfl)
theorem dX2_lambda_takes_0_13 : decode cX2_lambda_takes_0 13 = .ok (.iload_n 2, 1) := dk_28 (dk_at dksX2_lambda_takes_0_0 13 rfl rfl)
theorem dX2_lambda_takes_0_14 : decode cX2_lambda_takes_0 14 = .ok (.iload_n 3, 1) := dk_29 (dk_at dksX2_lambda_takes_0_0 14 rfl rfl)
theorem dX2_lambda_takes_0_15 : decode cX2_lambda_takes_0 15 = .ok (.aload_n 1, 1) := dk_43 (dk_at dksX2_lambda_takes_0_0 15 rfl rfl)
theorem dX2_lambda_takes_0_16 : decode cX2_lambda_takes_0 16 = .ok (.getfield 23, 3) := dk_180 0 23 (dk_at dksX2_lambda_takes_0_0 16 rfl rfl)
theorem dX2_lambda_takes_0_19 : decode cX2_lambda_takes_0 19 = .ok (.aload_n 0, 1) := dk_42 (dk_at dksX2_lambda_takes_0_0 19 rfl rfl)
theorem dX2_lambda_takes_0_20 : decode cX2_lambda_takes_0 20 = .ok (.getfield 23, 3) := dk_180 0 23 (dk_at dksX2_lambda_takes_0_0 20 rfl rfl)
theorem dX2_lambda_takes_0_23 : decode cX2_lambda_takes_0 23 = .ok (.isub, 1) := dk_100 (dk_at dksX2_lambda_takes_0_0 23 rfl rfl)
theorem dX2_lambda_takes_0_24 : decode cX2_lambda_takes_0 24 = .ok (.invokevirtual 133, 3) := dk_182 0 133 (dk_at dksX2_lambda_takes_0_1 0 rfl rfl)
theorem dX2_lambda_takes_0_27 : decode cX2_lambda_takes_0 27 = .ok (.invokevirtual 52, 3) := dk_182 0 52 (dk_at dksX2_lambda_takes_0_1 3 rfl rfl)
theorem dX2_lambda_takes_0_30 : decode cX2_lambda_takes_0 30 = .ok (.pop, 1) := dk_87 (dk_at dksX2_lambda_takes_0_1 6 rfl rfl)
theorem dX2_lambda_takes_0_31 : decode cX2_lambda_takes_0 31 = .ok (.return_, 1) := dk_177 (dk_at dksX2_lambda_takes_0_1 7 rfl rfl)
abbrev cX2_folded : ByteArray := prog_2_method_11_code
def yX2_folded : MethodName := ⟨RX2, "folded", "(III)I"⟩
def dkwX2_folded_1 : List UInt8 := [21, 4, 184, 0, 84, 100, 100, 172]
abbrev dktX2_folded_1 : List UInt8 := dkwX2_folded_1 ++ []
def dkwX2_folded_0 : List UInt8 := [27, 4, 29, 120, 4, 100, 126, 54, 4, 21, 4, 154, 0, 9, 29, 28, 96, 167, 0, 13, 29, 16, 31]
abbrev dktX2_folded_0 : List UInt8 := dkwX2_folded_0 ++ dktX2_folded_1
theorem dksX2_folded_0 : cX2_folded.data.toList.drop 0 = dktX2_folded_0 := by decide +kernel
theorem dksX2_folded_1 : cX2_folded.data.toList.drop 23 = dktX2_folded_1 := dk_seg dksX2_folded_0 23 rfl rfl
theorem dX2_folded_0 : decode cX2_folded 0 = .ok (.iload_n 1, 1) := dk_27 (dk_at dksX2_folded_0 0 rfl rfl)
theorem dX2_folded_1 : decode cX2_folded 1 = .ok (.iconst 1, 1) := dk_4 (dk_at dksX2_folded_0 1 rfl rfl)
theorem dX2_folded_2 : decode cX2_folded 2 = .ok (.iload_n 3, 1) := dk_29 (dk_at dksX2_folded_0 2 rfl rfl)
theorem dX2_folded_3 : decode cX2_folded 3 = .ok (.ishl, 1) := dk_120 (dk_at dksX2_folded_0 3 rfl rfl)
theorem dX2_folded_4 : decode cX2_folded 4 = .ok (.iconst 1, 1) := dk_4 (dk_at dksX2_folded_0 4 rfl rfl)
theorem dX2_folded_5 : decode cX2_folded 5 = .ok (.isub, 1) := dk_100 (dk_at dksX2_folded_0 5 rfl rfl)
theorem dX2_folded_6 : decode cX2_folded 6 = .ok (.iand, 1) := dk_126 (dk_at dksX2_folded_0 6 rfl rfl)
theorem dX2_folded_7 : decode cX2_folded 7 = .ok (.istore 4, 2) := dk_54 4 (dk_at dksX2_folded_0 7 rfl rfl)
theorem dX2_folded_9 : decode cX2_folded 9 = .ok (.iload 4, 2) := dk_21 4 (dk_at dksX2_folded_0 9 rfl rfl)
theorem dX2_folded_11 : decode cX2_folded 11 = .ok (.ifCond .ne 9, 3) := dk_154 0 9 (dk_at dksX2_folded_0 11 rfl rfl)
theorem dX2_folded_14 : decode cX2_folded 14 = .ok (.iload_n 3, 1) := dk_29 (dk_at dksX2_folded_0 14 rfl rfl)
theorem dX2_folded_15 : decode cX2_folded 15 = .ok (.iload_n 2, 1) := dk_28 (dk_at dksX2_folded_0 15 rfl rfl)
theorem dX2_folded_16 : decode cX2_folded 16 = .ok (.iadd, 1) := dk_96 (dk_at dksX2_folded_0 16 rfl rfl)
theorem dX2_folded_17 : decode cX2_folded 17 = .ok (.goto 13, 3) := dk_167 0 13 (dk_at dksX2_folded_0 17 rfl rfl)
theorem dX2_folded_20 : decode cX2_folded 20 = .ok (.iload_n 3, 1) := dk_29 (dk_at dksX2_folded_0 20 rfl rfl)
theorem dX2_folded_21 : decode cX2_folded 21 = .ok (.bipush 31, 2) := dk_16 31 (dk_at dksX2_folded_0 21 rfl rfl)
theorem dX2_folded_23 : decode cX2_folded 23 = .ok (.iload 4, 2) := dk_21 4 (dk_at dksX2_folded_1 0 rfl rfl)
theorem dX2_folded_25 : decode cX2_folded 25 = .ok (.invokestatic 84, 3) := dk_184 0 84 (dk_at dksX2_folded_1 2 rfl rfl)
theorem dX2_folded_28 : decode cX2_folded 28 = .ok (.isub, 1) := dk_100 (dk_at dksX2_folded_1 5 rfl rfl)
theorem dX2_folded_29 : decode cX2_folded 29 = .ok (.isub, 1) := dk_100 (dk_at dksX2_folded_1 6 rfl rfl)
theorem dX2_folded_30 : decode cX2_folded 30 = .ok (.ireturn, 1) := dk_172 (dk_at dksX2_folded_1 7 rfl rfl)
abbrev cX2_each : ByteArray := prog_2_method_12_code
def yX2_each : MethodName := ⟨RX2, "each", "(LDistinctMarks$Ranked;)V"⟩
def dkwX2_each_1 : List UInt8 := [180, 0, 19, 28, 51, 185, 0, 91, 3, 0, 132, 2, 1, 167, 255, 223, 177]
abbrev dktX2_each_1 : List UInt8 := dkwX2_each_1 ++ []
def dkwX2_each_0 : List UInt8 := [3, 61, 28, 42, 182, 0, 87, 162, 0, 31, 42, 180, 0, 19, 28, 51, 158, 0, 16, 43, 28, 42]
abbrev dktX2_each_0 : List UInt8 := dkwX2_each_0 ++ dktX2_each_1
theorem dksX2_each_0 : cX2_each.data.toList.drop 0 = dktX2_each_0 := by decide +kernel
theorem dksX2_each_1 : cX2_each.data.toList.drop 22 = dktX2_each_1 := dk_seg dksX2_each_0 22 rfl rfl
theorem dX2_each_0 : decode cX2_each 0 = .ok (.iconst 0, 1) := dk_3 (dk_at dksX2_each_0 0 rfl rfl)
theorem dX2_each_1 : decode cX2_each 1 = .ok (.istore_n 2, 1) := dk_61 (dk_at dksX2_each_0 1 rfl rfl)
theorem dX2_each_2 : decode cX2_each 2 = .ok (.iload_n 2, 1) := dk_28 (dk_at dksX2_each_0 2 rfl rfl)
theorem dX2_each_3 : decode cX2_each 3 = .ok (.aload_n 0, 1) := dk_42 (dk_at dksX2_each_0 3 rfl rfl)
theorem dX2_each_4 : decode cX2_each 4 = .ok (.invokevirtual 87, 3) := dk_182 0 87 (dk_at dksX2_each_0 4 rfl rfl)
theorem dX2_each_7 : decode cX2_each 7 = .ok (.if_icmp .ge 31, 3) := dk_162 0 31 (dk_at dksX2_each_0 7 rfl rfl)
theorem dX2_each_10 : decode cX2_each 10 = .ok (.aload_n 0, 1) := dk_42 (dk_at dksX2_each_0 10 rfl rfl)
theorem dX2_each_11 : decode cX2_each 11 = .ok (.getfield 19, 3) := dk_180 0 19 (dk_at dksX2_each_0 11 rfl rfl)
theorem dX2_each_14 : decode cX2_each 14 = .ok (.iload_n 2, 1) := dk_28 (dk_at dksX2_each_0 14 rfl rfl)
theorem dX2_each_15 : decode cX2_each 15 = .ok (.baload, 1) := dk_51 (dk_at dksX2_each_0 15 rfl rfl)
theorem dX2_each_16 : decode cX2_each 16 = .ok (.ifCond .le 16, 3) := dk_158 0 16 (dk_at dksX2_each_0 16 rfl rfl)
theorem dX2_each_19 : decode cX2_each 19 = .ok (.aload_n 1, 1) := dk_43 (dk_at dksX2_each_0 19 rfl rfl)
theorem dX2_each_20 : decode cX2_each 20 = .ok (.iload_n 2, 1) := dk_28 (dk_at dksX2_each_0 20 rfl rfl)
theorem dX2_each_21 : decode cX2_each 21 = .ok (.aload_n 0, 1) := dk_42 (dk_at dksX2_each_0 21 rfl rfl)
theorem dX2_each_22 : decode cX2_each 22 = .ok (.getfield 19, 3) := dk_180 0 19 (dk_at dksX2_each_1 0 rfl rfl)
theorem dX2_each_25 : decode cX2_each 25 = .ok (.iload_n 2, 1) := dk_28 (dk_at dksX2_each_1 3 rfl rfl)
theorem dX2_each_26 : decode cX2_each 26 = .ok (.baload, 1) := dk_51 (dk_at dksX2_each_1 4 rfl rfl)
theorem dX2_each_27 : decode cX2_each 27 = .ok (.invokeinterface 91 3, 5) := by decide +kernel
theorem dX2_each_32 : decode cX2_each 32 = .ok (.iinc 2 1, 3) := dk_132 2 1 (dk_at dksX2_each_1 10 rfl rfl)
theorem dX2_each_35 : decode cX2_each 35 = .ok (.goto (-33), 3) := dk_167 255 223 (dk_at dksX2_each_1 13 rfl rfl)
theorem dX2_each_38 : decode cX2_each 38 = .ok (.return_, 1) := dk_177 (dk_at dksX2_each_1 16 rfl rfl)
abbrev cX2_guess : ByteArray := prog_2_method_19_code
def yX2_guess : MethodName := ⟨RX2, "guess", "()I"⟩
def dkwX2_guess_0 : List UInt8 := [42, 180, 0, 56, 153, 0, 10, 42, 182, 0, 130, 167, 0, 7, 42, 180, 0, 37, 172]
abbrev dktX2_guess_0 : List UInt8 := dkwX2_guess_0 ++ []
theorem dksX2_guess_0 : cX2_guess.data.toList.drop 0 = dktX2_guess_0 := by decide +kernel
theorem dX2_guess_0 : decode cX2_guess 0 = .ok (.aload_n 0, 1) := dk_42 (dk_at dksX2_guess_0 0 rfl rfl)
theorem dX2_guess_1 : decode cX2_guess 1 = .ok (.getfield 56, 3) := dk_180 0 56 (dk_at dksX2_guess_0 1 rfl rfl)
theorem dX2_guess_4 : decode cX2_guess 4 = .ok (.ifCond .eq 10, 3) := dk_153 0 10 (dk_at dksX2_guess_0 4 rfl rfl)
theorem dX2_guess_7 : decode cX2_guess 7 = .ok (.aload_n 0, 1) := dk_42 (dk_at dksX2_guess_0 7 rfl rfl)
theorem dX2_guess_8 : decode cX2_guess 8 = .ok (.invokevirtual 130, 3) := dk_182 0 130 (dk_at dksX2_guess_0 8 rfl rfl)
theorem dX2_guess_11 : decode cX2_guess 11 = .ok (.goto 7, 3) := dk_167 0 7 (dk_at dksX2_guess_0 11 rfl rfl)
theorem dX2_guess_14 : decode cX2_guess 14 = .ok (.aload_n 0, 1) := dk_42 (dk_at dksX2_guess_0 14 rfl rfl)
theorem dX2_guess_15 : decode cX2_guess 15 = .ok (.getfield 37, 3) := dk_180 0 37 (dk_at dksX2_guess_0 15 rfl rfl)
theorem dX2_guess_18 : decode cX2_guess 18 = .ok (.ireturn, 1) := dk_172 (dk_at dksX2_guess_0 18 rfl rfl)
abbrev cX2_roughly : ByteArray := prog_2_method_18_code
def yX2_roughly : MethodName := ⟨RX2, "roughly", "()I"⟩
def dkwX2_roughly_0 : List UInt8 := [42, 42, 182, 0, 119, 42, 182, 0, 122, 182, 0, 126, 172]
abbrev dktX2_roughly_0 : List UInt8 := dkwX2_roughly_0 ++ []
theorem dksX2_roughly_0 : cX2_roughly.data.toList.drop 0 = dktX2_roughly_0 := by decide +kernel
theorem dX2_roughly_0 : decode cX2_roughly 0 = .ok (.aload_n 0, 1) := dk_42 (dk_at dksX2_roughly_0 0 rfl rfl)
theorem dX2_roughly_1 : decode cX2_roughly 1 = .ok (.aload_n 0, 1) := dk_42 (dk_at dksX2_roughly_0 1 rfl rfl)
theorem dX2_roughly_2 : decode cX2_roughly 2 = .ok (.invokevirtual 119, 3) := dk_182 0 119 (dk_at dksX2_roughly_0 2 rfl rfl)
theorem dX2_roughly_5 : decode cX2_roughly 5 = .ok (.aload_n 0, 1) := dk_42 (dk_at dksX2_roughly_0 5 rfl rfl)
theorem dX2_roughly_6 : decode cX2_roughly 6 = .ok (.invokevirtual 122, 3) := dk_182 0 122 (dk_at dksX2_roughly_0 6 rfl rfl)
theorem dX2_roughly_9 : decode cX2_roughly 9 = .ok (.invokevirtual 126, 3) := dk_182 0 126 (dk_at dksX2_roughly_0 9 rfl rfl)
theorem dX2_roughly_12 : decode cX2_roughly 12 = .ok (.ireturn, 1) := dk_172 (dk_at dksX2_roughly_0 12 rfl rfl)
abbrev cX2_all : ByteArray := prog_2_method_15_code
def yX2_all : MethodName := ⟨RX2, "all", "()J"⟩
def dkwX2_all_1 : List UInt8 := [97, 64, 132, 3, 1, 167, 255, 231, 31, 173]
abbrev dktX2_all_1 : List UInt8 := dkwX2_all_1 ++ []
def dkwX2_all_0 : List UInt8 := [9, 64, 3, 62, 29, 42, 182, 0, 87, 162, 0, 23, 31, 10, 16, 29, 42, 180, 0, 19, 29, 51, 100, 121]
abbrev dktX2_all_0 : List UInt8 := dkwX2_all_0 ++ dktX2_all_1
theorem dksX2_all_0 : cX2_all.data.toList.drop 0 = dktX2_all_0 := by decide +kernel
theorem dksX2_all_1 : cX2_all.data.toList.drop 24 = dktX2_all_1 := dk_seg dksX2_all_0 24 rfl rfl
theorem dX2_all_0 : decode cX2_all 0 = .ok (.lconst 0, 1) := dk_9 (dk_at dksX2_all_0 0 rfl rfl)
theorem dX2_all_1 : decode cX2_all 1 = .ok (.lstore_n 1, 1) := dk_64 (dk_at dksX2_all_0 1 rfl rfl)
theorem dX2_all_2 : decode cX2_all 2 = .ok (.iconst 0, 1) := dk_3 (dk_at dksX2_all_0 2 rfl rfl)
theorem dX2_all_3 : decode cX2_all 3 = .ok (.istore_n 3, 1) := dk_62 (dk_at dksX2_all_0 3 rfl rfl)
theorem dX2_all_4 : decode cX2_all 4 = .ok (.iload_n 3, 1) := dk_29 (dk_at dksX2_all_0 4 rfl rfl)
theorem dX2_all_5 : decode cX2_all 5 = .ok (.aload_n 0, 1) := dk_42 (dk_at dksX2_all_0 5 rfl rfl)
theorem dX2_all_6 : decode cX2_all 6 = .ok (.invokevirtual 87, 3) := dk_182 0 87 (dk_at dksX2_all_0 6 rfl rfl)
theorem dX2_all_9 : decode cX2_all 9 = .ok (.if_icmp .ge 23, 3) := dk_162 0 23 (dk_at dksX2_all_0 9 rfl rfl)
theorem dX2_all_12 : decode cX2_all 12 = .ok (.lload_n 1, 1) := dk_31 (dk_at dksX2_all_0 12 rfl rfl)
theorem dX2_all_13 : decode cX2_all 13 = .ok (.lconst 1, 1) := dk_10 (dk_at dksX2_all_0 13 rfl rfl)
theorem dX2_all_14 : decode cX2_all 14 = .ok (.bipush 29, 2) := dk_16 29 (dk_at dksX2_all_0 14 rfl rfl)
theorem dX2_all_16 : decode cX2_all 16 = .ok (.aload_n 0, 1) := dk_42 (dk_at dksX2_all_0 16 rfl rfl)
theorem dX2_all_17 : decode cX2_all 17 = .ok (.getfield 19, 3) := dk_180 0 19 (dk_at dksX2_all_0 17 rfl rfl)
theorem dX2_all_20 : decode cX2_all 20 = .ok (.iload_n 3, 1) := dk_29 (dk_at dksX2_all_0 20 rfl rfl)
theorem dX2_all_21 : decode cX2_all 21 = .ok (.baload, 1) := dk_51 (dk_at dksX2_all_0 21 rfl rfl)
theorem dX2_all_22 : decode cX2_all 22 = .ok (.isub, 1) := dk_100 (dk_at dksX2_all_0 22 rfl rfl)
theorem dX2_all_23 : decode cX2_all 23 = .ok (.lshl, 1) := dk_121 (dk_at dksX2_all_0 23 rfl rfl)
theorem dX2_all_24 : decode cX2_all 24 = .ok (.ladd, 1) := dk_97 (dk_at dksX2_all_1 0 rfl rfl)
theorem dX2_all_25 : decode cX2_all 25 = .ok (.lstore_n 1, 1) := dk_64 (dk_at dksX2_all_1 1 rfl rfl)
theorem dX2_all_26 : decode cX2_all 26 = .ok (.iinc 3 1, 3) := dk_132 3 1 (dk_at dksX2_all_1 2 rfl rfl)
theorem dX2_all_29 : decode cX2_all 29 = .ok (.goto (-25), 3) := dk_167 255 231 (dk_at dksX2_all_1 5 rfl rfl)
theorem dX2_all_32 : decode cX2_all 32 = .ok (.lload_n 1, 1) := dk_31 (dk_at dksX2_all_1 8 rfl rfl)
theorem dX2_all_33 : decode cX2_all 33 = .ok (.lreturn, 1) := dk_173 (dk_at dksX2_all_1 9 rfl rfl)
abbrev cX2_guessBy : ByteArray := prog_2_method_17_code
def yX2_guessBy : MethodName := ⟨RX2, "guessBy", "(IJ)I"⟩
def dkwX2_guessBy_3 : List UInt8 := [20, 0, 113, 22, 4, 184, 0, 115, 136, 172]
abbrev dktX2_guessBy_3 : List UInt8 := dkwX2_guessBy_3 ++ []
def dkwX2_guessBy_2 : List UInt8 := [42, 182, 0, 87, 133, 105, 42, 182, 0, 87, 133, 105, 16, 29, 121, 20, 0, 111, 32, 105, 109, 55, 4]
abbrev dktX2_guessBy_2 : List UInt8 := dkwX2_guessBy_2 ++ dktX2_guessBy_3
def dkwX2_guessBy_1 : List UInt8 := [17, 1, 244, 96, 17, 3, 232, 108, 172, 42, 180, 0, 3, 180, 0, 108, 42, 180, 0, 23, 7, 100, 46, 133]
abbrev dktX2_guessBy_1 : List UInt8 := dkwX2_guessBy_1 ++ dktX2_guessBy_2
def dkwX2_guessBy_0 : List UInt8 := [42, 27, 182, 0, 105, 153, 0, 26, 42, 180, 0, 3, 180, 0, 101, 42, 180, 0, 23, 50, 27, 46]
abbrev dktX2_guessBy_0 : List UInt8 := dkwX2_guessBy_0 ++ dktX2_guessBy_1
theorem dksX2_guessBy_0 : cX2_guessBy.data.toList.drop 0 = dktX2_guessBy_0 := by decide +kernel
theorem dksX2_guessBy_1 : cX2_guessBy.data.toList.drop 22 = dktX2_guessBy_1 := dk_seg dksX2_guessBy_0 22 rfl rfl
theorem dksX2_guessBy_2 : cX2_guessBy.data.toList.drop 46 = dktX2_guessBy_2 := dk_seg dksX2_guessBy_1 24 rfl rfl
theorem dksX2_guessBy_3 : cX2_guessBy.data.toList.drop 69 = dktX2_guessBy_3 := dk_seg dksX2_guessBy_2 23 rfl rfl
theorem dX2_guessBy_0 : decode cX2_guessBy 0 = .ok (.aload_n 0, 1) := dk_42 (dk_at dksX2_guessBy_0 0 rfl rfl)
theorem dX2_guessBy_1 : decode cX2_guessBy 1 = .ok (.iload_n 1, 1) := dk_27 (dk_at dksX2_guessBy_0 1 rfl rfl)
theorem dX2_guessBy_2 : decode cX2_guessBy 2 = .ok (.invokevirtual 105, 3) := dk_182 0 105 (dk_at dksX2_guessBy_0 2 rfl rfl)
theorem dX2_guessBy_5 : decode cX2_guessBy 5 = .ok (.ifCond .eq 26, 3) := dk_153 0 26 (dk_at dksX2_guessBy_0 5 rfl rfl)
theorem dX2_guessBy_8 : decode cX2_guessBy 8 = .ok (.aload_n 0, 1) := dk_42 (dk_at dksX2_guessBy_0 8 rfl rfl)
theorem dX2_guessBy_9 : decode cX2_guessBy 9 = .ok (.getfield 3, 3) := dk_180 0 3 (dk_at dksX2_guessBy_0 9 rfl rfl)
theorem dX2_guessBy_12 : decode cX2_guessBy 12 = .ok (.getfield 101, 3) := dk_180 0 101 (dk_at dksX2_guessBy_0 12 rfl rfl)
theorem dX2_guessBy_15 : decode cX2_guessBy 15 = .ok (.aload_n 0, 1) := dk_42 (dk_at dksX2_guessBy_0 15 rfl rfl)
theorem dX2_guessBy_16 : decode cX2_guessBy 16 = .ok (.getfield 23, 3) := dk_180 0 23 (dk_at dksX2_guessBy_0 16 rfl rfl)
theorem dX2_guessBy_19 : decode cX2_guessBy 19 = .ok (.aaload, 1) := dk_50 (dk_at dksX2_guessBy_0 19 rfl rfl)
theorem dX2_guessBy_20 : decode cX2_guessBy 20 = .ok (.iload_n 1, 1) := dk_27 (dk_at dksX2_guessBy_0 20 rfl rfl)
theorem dX2_guessBy_21 : decode cX2_guessBy 21 = .ok (.iaload, 1) := dk_46 (dk_at dksX2_guessBy_0 21 rfl rfl)
theorem dX2_guessBy_22 : decode cX2_guessBy 22 = .ok (.sipush 500, 3) := dk_17 1 244 (dk_at dksX2_guessBy_1 0 rfl rfl)
theorem dX2_guessBy_25 : decode cX2_guessBy 25 = .ok (.iadd, 1) := dk_96 (dk_at dksX2_guessBy_1 3 rfl rfl)
theorem dX2_guessBy_26 : decode cX2_guessBy 26 = .ok (.sipush 1000, 3) := dk_17 3 232 (dk_at dksX2_guessBy_1 4 rfl rfl)
theorem dX2_guessBy_29 : decode cX2_guessBy 29 = .ok (.idiv, 1) := dk_108 (dk_at dksX2_guessBy_1 7 rfl rfl)
theorem dX2_guessBy_30 : decode cX2_guessBy 30 = .ok (.ireturn, 1) := dk_172 (dk_at dksX2_guessBy_1 8 rfl rfl)
theorem dX2_guessBy_31 : decode cX2_guessBy 31 = .ok (.aload_n 0, 1) := dk_42 (dk_at dksX2_guessBy_1 9 rfl rfl)
theorem dX2_guessBy_32 : decode cX2_guessBy 32 = .ok (.getfield 3, 3) := dk_180 0 3 (dk_at dksX2_guessBy_1 10 rfl rfl)
theorem dX2_guessBy_35 : decode cX2_guessBy 35 = .ok (.getfield 108, 3) := dk_180 0 108 (dk_at dksX2_guessBy_1 13 rfl rfl)
theorem dX2_guessBy_38 : decode cX2_guessBy 38 = .ok (.aload_n 0, 1) := dk_42 (dk_at dksX2_guessBy_1 16 rfl rfl)
theorem dX2_guessBy_39 : decode cX2_guessBy 39 = .ok (.getfield 23, 3) := dk_180 0 23 (dk_at dksX2_guessBy_1 17 rfl rfl)
theorem dX2_guessBy_42 : decode cX2_guessBy 42 = .ok (.iconst 4, 1) := dk_7 (dk_at dksX2_guessBy_1 20 rfl rfl)
theorem dX2_guessBy_43 : decode cX2_guessBy 43 = .ok (.isub, 1) := dk_100 (dk_at dksX2_guessBy_1 21 rfl rfl)
theorem dX2_guessBy_44 : decode cX2_guessBy 44 = .ok (.iaload, 1) := dk_46 (dk_at dksX2_guessBy_1 22 rfl rfl)
theorem dX2_guessBy_45 : decode cX2_guessBy 45 = .ok (.i2l, 1) := dk_133 (dk_at dksX2_guessBy_1 23 rfl rfl)
theorem dX2_guessBy_46 : decode cX2_guessBy 46 = .ok (.aload_n 0, 1) := dk_42 (dk_at dksX2_guessBy_2 0 rfl rfl)
theorem dX2_guessBy_47 : decode cX2_guessBy 47 = .ok (.invokevirtual 87, 3) := dk_182 0 87 (dk_at dksX2_guessBy_2 1 rfl rfl)
theorem dX2_guessBy_50 : decode cX2_guessBy 50 = .ok (.i2l, 1) := dk_133 (dk_at dksX2_guessBy_2 4 rfl rfl)
theorem dX2_guessBy_51 : decode cX2_guessBy 51 = .ok (.lmul, 1) := dk_105 (dk_at dksX2_guessBy_2 5 rfl rfl)
theorem dX2_guessBy_52 : decode cX2_guessBy 52 = .ok (.aload_n 0, 1) := dk_42 (dk_at dksX2_guessBy_2 6 rfl rfl)
theorem dX2_guessBy_53 : decode cX2_guessBy 53 = .ok (.invokevirtual 87, 3) := dk_182 0 87 (dk_at dksX2_guessBy_2 7 rfl rfl)
theorem dX2_guessBy_56 : decode cX2_guessBy 56 = .ok (.i2l, 1) := dk_133 (dk_at dksX2_guessBy_2 10 rfl rfl)
theorem dX2_guessBy_57 : decode cX2_guessBy 57 = .ok (.lmul, 1) := dk_105 (dk_at dksX2_guessBy_2 11 rfl rfl)
theorem dX2_guessBy_58 : decode cX2_guessBy 58 = .ok (.bipush 29, 2) := dk_16 29 (dk_at dksX2_guessBy_2 12 rfl rfl)
theorem dX2_guessBy_60 : decode cX2_guessBy 60 = .ok (.lshl, 1) := dk_121 (dk_at dksX2_guessBy_2 14 rfl rfl)
theorem dX2_guessBy_61 : decode cX2_guessBy 61 = .ok (.ldc2_w 111, 3) := dk_20 0 111 (dk_at dksX2_guessBy_2 15 rfl rfl)
theorem dX2_guessBy_64 : decode cX2_guessBy 64 = .ok (.lload_n 2, 1) := dk_32 (dk_at dksX2_guessBy_2 18 rfl rfl)
theorem dX2_guessBy_65 : decode cX2_guessBy 65 = .ok (.lmul, 1) := dk_105 (dk_at dksX2_guessBy_2 19 rfl rfl)
theorem dX2_guessBy_66 : decode cX2_guessBy 66 = .ok (.ldiv, 1) := dk_109 (dk_at dksX2_guessBy_2 20 rfl rfl)
theorem dX2_guessBy_67 : decode cX2_guessBy 67 = .ok (.lstore 4, 2) := dk_55 4 (dk_at dksX2_guessBy_2 21 rfl rfl)
theorem dX2_guessBy_69 : decode cX2_guessBy 69 = .ok (.ldc2_w 113, 3) := dk_20 0 113 (dk_at dksX2_guessBy_3 0 rfl rfl)
theorem dX2_guessBy_72 : decode cX2_guessBy 72 = .ok (.lload 4, 2) := dk_22 4 (dk_at dksX2_guessBy_3 3 rfl rfl)
theorem dX2_guessBy_74 : decode cX2_guessBy 74 = .ok (.invokestatic 115, 3) := dk_184 0 115 (dk_at dksX2_guessBy_3 5 rfl rfl)
theorem dX2_guessBy_77 : decode cX2_guessBy 77 = .ok (.l2i, 1) := dk_136 (dk_at dksX2_guessBy_3 8 rfl rfl)
theorem dX2_guessBy_78 : decode cX2_guessBy 78 = .ok (.ireturn, 1) := dk_172 (dk_at dksX2_guessBy_3 9 rfl rfl)
abbrev cX2_isByTable : ByteArray := prog_2_method_16_code
def yX2_isByTable : MethodName := ⟨RX2, "isByTable", "(I)Z"⟩
def dkwX2_isByTable_1 : List UInt8 := [182, 0, 87, 104, 163, 0, 7, 4, 167, 0, 4, 3, 172]
abbrev dktX2_isByTable_1 : List UInt8 := dkwX2_isByTable_1 ++ []
def dkwX2_isByTable_0 : List UInt8 := [27, 158, 0, 32, 42, 180, 0, 3, 180, 0, 101, 42, 180, 0, 23, 50, 27, 46, 17, 9, 196, 42]
abbrev dktX2_isByTable_0 : List UInt8 := dkwX2_isByTable_0 ++ dktX2_isByTable_1
theorem dksX2_isByTable_0 : cX2_isByTable.data.toList.drop 0 = dktX2_isByTable_0 := by decide +kernel
theorem dksX2_isByTable_1 : cX2_isByTable.data.toList.drop 22 = dktX2_isByTable_1 := dk_seg dksX2_isByTable_0 22 rfl rfl
theorem dX2_isByTable_0 : decode cX2_isByTable 0 = .ok (.iload_n 1, 1) := dk_27 (dk_at dksX2_isByTable_0 0 rfl rfl)
theorem dX2_isByTable_1 : decode cX2_isByTable 1 = .ok (.ifCond .le 32, 3) := dk_158 0 32 (dk_at dksX2_isByTable_0 1 rfl rfl)
theorem dX2_isByTable_4 : decode cX2_isByTable 4 = .ok (.aload_n 0, 1) := dk_42 (dk_at dksX2_isByTable_0 4 rfl rfl)
theorem dX2_isByTable_5 : decode cX2_isByTable 5 = .ok (.getfield 3, 3) := dk_180 0 3 (dk_at dksX2_isByTable_0 5 rfl rfl)
theorem dX2_isByTable_8 : decode cX2_isByTable 8 = .ok (.getfield 101, 3) := dk_180 0 101 (dk_at dksX2_isByTable_0 8 rfl rfl)
theorem dX2_isByTable_11 : decode cX2_isByTable 11 = .ok (.aload_n 0, 1) := dk_42 (dk_at dksX2_isByTable_0 11 rfl rfl)
theorem dX2_isByTable_12 : decode cX2_isByTable 12 = .ok (.getfield 23, 3) := dk_180 0 23 (dk_at dksX2_isByTable_0 12 rfl rfl)
theorem dX2_isByTable_15 : decode cX2_isByTable 15 = .ok (.aaload, 1) := dk_50 (dk_at dksX2_isByTable_0 15 rfl rfl)
theorem dX2_isByTable_16 : decode cX2_isByTable 16 = .ok (.iload_n 1, 1) := dk_27 (dk_at dksX2_isByTable_0 16 rfl rfl)
theorem dX2_isByTable_17 : decode cX2_isByTable 17 = .ok (.iaload, 1) := dk_46 (dk_at dksX2_isByTable_0 17 rfl rfl)
theorem dX2_isByTable_18 : decode cX2_isByTable 18 = .ok (.sipush 2500, 3) := dk_17 9 196 (dk_at dksX2_isByTable_0 18 rfl rfl)
theorem dX2_isByTable_21 : decode cX2_isByTable 21 = .ok (.aload_n 0, 1) := dk_42 (dk_at dksX2_isByTable_0 21 rfl rfl)
theorem dX2_isByTable_22 : decode cX2_isByTable 22 = .ok (.invokevirtual 87, 3) := dk_182 0 87 (dk_at dksX2_isByTable_1 0 rfl rfl)
theorem dX2_isByTable_25 : decode cX2_isByTable 25 = .ok (.imul, 1) := dk_104 (dk_at dksX2_isByTable_1 3 rfl rfl)
theorem dX2_isByTable_26 : decode cX2_isByTable 26 = .ok (.if_icmp .gt 7, 3) := dk_163 0 7 (dk_at dksX2_isByTable_1 4 rfl rfl)
theorem dX2_isByTable_29 : decode cX2_isByTable 29 = .ok (.iconst 1, 1) := dk_4 (dk_at dksX2_isByTable_1 7 rfl rfl)
theorem dX2_isByTable_30 : decode cX2_isByTable 30 = .ok (.goto 4, 3) := dk_167 0 4 (dk_at dksX2_isByTable_1 8 rfl rfl)
theorem dX2_isByTable_33 : decode cX2_isByTable 33 = .ok (.iconst 0, 1) := dk_3 (dk_at dksX2_isByTable_1 11 rfl rfl)
theorem dX2_isByTable_34 : decode cX2_isByTable 34 = .ok (.ireturn, 1) := dk_172 (dk_at dksX2_isByTable_1 12 rfl rfl)
abbrev cX2_how : ByteArray := prog_2_method_20_code
def yX2_how : MethodName := ⟨RX2, "how", "()I"⟩
def dkwX2_how_0 : List UInt8 := [42, 42, 182, 0, 119, 182, 0, 105, 153, 0, 7, 4, 167, 0, 4, 5, 172]
abbrev dktX2_how_0 : List UInt8 := dkwX2_how_0 ++ []
theorem dksX2_how_0 : cX2_how.data.toList.drop 0 = dktX2_how_0 := by decide +kernel
theorem dX2_how_0 : decode cX2_how 0 = .ok (.aload_n 0, 1) := dk_42 (dk_at dksX2_how_0 0 rfl rfl)
theorem dX2_how_1 : decode cX2_how 1 = .ok (.aload_n 0, 1) := dk_42 (dk_at dksX2_how_0 1 rfl rfl)
theorem dX2_how_2 : decode cX2_how 2 = .ok (.invokevirtual 119, 3) := dk_182 0 119 (dk_at dksX2_how_0 2 rfl rfl)
theorem dX2_how_5 : decode cX2_how 5 = .ok (.invokevirtual 105, 3) := dk_182 0 105 (dk_at dksX2_how_0 5 rfl rfl)
theorem dX2_how_8 : decode cX2_how 8 = .ok (.ifCond .eq 7, 3) := dk_153 0 7 (dk_at dksX2_how_0 8 rfl rfl)
theorem dX2_how_11 : decode cX2_how 11 = .ok (.iconst 1, 1) := dk_4 (dk_at dksX2_how_0 11 rfl rfl)
theorem dX2_how_12 : decode cX2_how 12 = .ok (.goto 4, 3) := dk_167 0 4 (dk_at dksX2_how_0 12 rfl rfl)
theorem dX2_how_15 : decode cX2_how 15 = .ok (.iconst 2, 1) := dk_5 (dk_at dksX2_how_0 15 rfl rfl)
theorem dX2_how_16 : decode cX2_how 16 = .ok (.ireturn, 1) := dk_172 (dk_at dksX2_how_0 16 rfl rfl)
abbrev cX2_greatest : ByteArray := prog_2_method_14_code
def yX2_greatest : MethodName := ⟨RX2, "greatest", "()I"⟩
def dkwX2_greatest_1 : List UInt8 := [132, 2, 1, 167, 255, 234, 27, 172]
abbrev dktX2_greatest_1 : List UInt8 := dkwX2_greatest_1 ++ []
def dkwX2_greatest_0 : List UInt8 := [3, 60, 3, 61, 28, 42, 182, 0, 87, 162, 0, 20, 27, 42, 180, 0, 19, 28, 51, 184, 0, 96, 60]
abbrev dktX2_greatest_0 : List UInt8 := dkwX2_greatest_0 ++ dktX2_greatest_1
theorem dksX2_greatest_0 : cX2_greatest.data.toList.drop 0 = dktX2_greatest_0 := by decide +kernel
theorem dksX2_greatest_1 : cX2_greatest.data.toList.drop 23 = dktX2_greatest_1 := dk_seg dksX2_greatest_0 23 rfl rfl
theorem dX2_greatest_0 : decode cX2_greatest 0 = .ok (.iconst 0, 1) := dk_3 (dk_at dksX2_greatest_0 0 rfl rfl)
theorem dX2_greatest_1 : decode cX2_greatest 1 = .ok (.istore_n 1, 1) := dk_60 (dk_at dksX2_greatest_0 1 rfl rfl)
theorem dX2_greatest_2 : decode cX2_greatest 2 = .ok (.iconst 0, 1) := dk_3 (dk_at dksX2_greatest_0 2 rfl rfl)
theorem dX2_greatest_3 : decode cX2_greatest 3 = .ok (.istore_n 2, 1) := dk_61 (dk_at dksX2_greatest_0 3 rfl rfl)
theorem dX2_greatest_4 : decode cX2_greatest 4 = .ok (.iload_n 2, 1) := dk_28 (dk_at dksX2_greatest_0 4 rfl rfl)
theorem dX2_greatest_5 : decode cX2_greatest 5 = .ok (.aload_n 0, 1) := dk_42 (dk_at dksX2_greatest_0 5 rfl rfl)
theorem dX2_greatest_6 : decode cX2_greatest 6 = .ok (.invokevirtual 87, 3) := dk_182 0 87 (dk_at dksX2_greatest_0 6 rfl rfl)
theorem dX2_greatest_9 : decode cX2_greatest 9 = .ok (.if_icmp .ge 20, 3) := dk_162 0 20 (dk_at dksX2_greatest_0 9 rfl rfl)
theorem dX2_greatest_12 : decode cX2_greatest 12 = .ok (.iload_n 1, 1) := dk_27 (dk_at dksX2_greatest_0 12 rfl rfl)
theorem dX2_greatest_13 : decode cX2_greatest 13 = .ok (.aload_n 0, 1) := dk_42 (dk_at dksX2_greatest_0 13 rfl rfl)
theorem dX2_greatest_14 : decode cX2_greatest 14 = .ok (.getfield 19, 3) := dk_180 0 19 (dk_at dksX2_greatest_0 14 rfl rfl)
theorem dX2_greatest_17 : decode cX2_greatest 17 = .ok (.iload_n 2, 1) := dk_28 (dk_at dksX2_greatest_0 17 rfl rfl)
theorem dX2_greatest_18 : decode cX2_greatest 18 = .ok (.baload, 1) := dk_51 (dk_at dksX2_greatest_0 18 rfl rfl)
theorem dX2_greatest_19 : decode cX2_greatest 19 = .ok (.invokestatic 96, 3) := dk_184 0 96 (dk_at dksX2_greatest_0 19 rfl rfl)
theorem dX2_greatest_22 : decode cX2_greatest 22 = .ok (.istore_n 1, 1) := dk_60 (dk_at dksX2_greatest_0 22 rfl rfl)
theorem dX2_greatest_23 : decode cX2_greatest 23 = .ok (.iinc 2 1, 3) := dk_132 2 1 (dk_at dksX2_greatest_1 0 rfl rfl)
theorem dX2_greatest_26 : decode cX2_greatest 26 = .ok (.goto (-22), 3) := dk_167 255 234 (dk_at dksX2_greatest_1 3 rfl rfl)
theorem dX2_greatest_29 : decode cX2_greatest 29 = .ok (.iload_n 1, 1) := dk_27 (dk_at dksX2_greatest_1 6 rfl rfl)
theorem dX2_greatest_30 : decode cX2_greatest 30 = .ok (.ireturn, 1) := dk_172 (dk_at dksX2_greatest_1 7 rfl rfl)
theorem q84 : (Jvm.Cond.initialized "DistinctMarks$Counter") ∈ lw_all := lw_g (lw_at lw_m1 2 rfl) rfl
theorem q169 : (Jvm.Cond.instantiable "DistinctMarks$Counter" (7 : Nat)) ∈ lw_all := lw_g (lw_at lw_m1 87 rfl) rfl
theorem q171 : (Jvm.Cond.instanceMethod ({ cls := "DistinctMarks$Counter", name := "<init>", desc := "(LDistinctMarks;II)V" } : Jvm.MethodName)) ∈ lw_all := lw_g (lw_at lw_m1 89 rfl) rfl
theorem q172 : (Jvm.Cond.code ({ cls := "DistinctMarks$Counter", name := "<init>", desc := "(LDistinctMarks;II)V" } : Jvm.MethodName) prog_2_method_1_code (4 : Nat) (Option.none : Option Jvm.ClassFile.FieldType)) ∈ lw_all := lw_g (lw_at lw_m1 90 rfl) rfl
theorem q173 : (Jvm.Cond.methodLink "DistinctMarks$Counter" (9 : Nat) ({ cls := "java/lang/Object", name := "<init>", desc := "()V" } : Jvm.MethodName)) ∈ lw_all := lw_g (lw_at lw_m1 91 rfl) rfl
theorem q174 : (Jvm.Cond.fieldLink "DistinctMarks$Counter" (23 : Nat) "DistinctMarks$Counter" "p" "I") ∈ lw_all := lw_g (lw_at lw_m1 92 rfl) rfl
theorem q176 : (Jvm.Cond.fieldLink "DistinctMarks$Counter" (27 : Nat) "DistinctMarks$Counter" "limit" "I") ∈ lw_all := lw_g (lw_at lw_m1 94 rfl) rfl
theorem q178 : (Jvm.Cond.fieldLink "DistinctMarks$Counter" (15 : Nat) "DistinctMarks$Counter" "marks" "[I") ∈ lw_all := lw_g (lw_at lw_m1 96 rfl) rfl
theorem q180 : (Jvm.Cond.fieldLink "DistinctMarks$Counter" (19 : Nat) "DistinctMarks$Counter" "ranks" "[B") ∈ lw_all := lw_g (lw_at lw_m1 98 rfl) rfl
theorem q182 : (Jvm.Cond.fieldLink "DistinctMarks$Counter" (37 : Nat) "DistinctMarks$Counter" "many" "I") ∈ lw_all := lw_g (lw_at lw_m1 100 rfl) rfl
theorem q184 : (Jvm.Cond.fieldLink "DistinctMarks$Counter" (56 : Nat) "DistinctMarks$Counter" "isDense" "Z") ∈ lw_all := lw_g (lw_at lw_m1 102 rfl) rfl
theorem q186 : (Jvm.Cond.fieldLink "DistinctMarks$Counter" (3 : Nat) "DistinctMarks$Counter" "this$0" "LDistinctMarks;") ∈ lw_all := lw_g (lw_at lw_m1 104 rfl) rfl
theorem q187 : (Jvm.Cond.laysFinal "DistinctMarks$Counter" "DistinctMarks$Counter" "p" "I") ∈ lw_all := lw_g (lw_at lw_m1 105 rfl) rfl
theorem q188 : (Jvm.Cond.soleField "DistinctMarks$Counter" "p") ∈ lw_all := lw_g (lw_at lw_m1 106 rfl) rfl
theorem q189 : (Jvm.Cond.laysFinal "DistinctMarks$Counter" "DistinctMarks$Counter" "limit" "I") ∈ lw_all := lw_g (lw_at lw_m1 107 rfl) rfl
theorem q190 : (Jvm.Cond.soleField "DistinctMarks$Counter" "limit") ∈ lw_all := lw_g (lw_at lw_m1 108 rfl) rfl
theorem q191 : (Jvm.Cond.laysFinal "DistinctMarks$Counter" "DistinctMarks$Counter" "marks" "[I") ∈ lw_all := lw_g (lw_at lw_m1 109 rfl) rfl
theorem q192 : (Jvm.Cond.soleField "DistinctMarks$Counter" "marks") ∈ lw_all := lw_g (lw_at lw_m1 110 rfl) rfl
theorem q193 : (Jvm.Cond.laysFinal "DistinctMarks$Counter" "DistinctMarks$Counter" "ranks" "[B") ∈ lw_all := lw_g (lw_at lw_m1 111 rfl) rfl
theorem q194 : (Jvm.Cond.soleField "DistinctMarks$Counter" "ranks") ∈ lw_all := lw_g (lw_at lw_m1 112 rfl) rfl
theorem q195 : (Jvm.Cond.lays "DistinctMarks$Counter" "DistinctMarks$Counter" "many" "I") ∈ lw_all := lw_g (lw_at lw_m1 113 rfl) rfl
theorem q196 : (Jvm.Cond.soleField "DistinctMarks$Counter" "many") ∈ lw_all := lw_g (lw_at lw_m1 114 rfl) rfl
theorem q197 : (Jvm.Cond.lays "DistinctMarks$Counter" "DistinctMarks$Counter" "isDense" "Z") ∈ lw_all := lw_g (lw_at lw_m1 115 rfl) rfl
theorem q198 : (Jvm.Cond.soleField "DistinctMarks$Counter" "isDense") ∈ lw_all := lw_g (lw_at lw_m1 116 rfl) rfl
theorem q199 : (Jvm.Cond.laysFinal "DistinctMarks$Counter" "DistinctMarks$Counter" "this$0" "LDistinctMarks;") ∈ lw_all := lw_g (lw_at lw_m1 117 rfl) rfl
theorem q200 : (Jvm.Cond.soleField "DistinctMarks$Counter" "this$0") ∈ lw_all := lw_g (lw_at lw_m1 118 rfl) rfl
theorem q201 : (Jvm.Cond.superclass "DistinctMarks$Counter" "java/lang/Object") ∈ lw_all := lw_g (lw_at lw_m1 119 rfl) rfl
theorem q205 : (Jvm.Cond.fieldLinkNest "DistinctMarks$Counter" (108 : Nat) "DistinctMarks" "alpha" "[I" "DistinctMarks") ∈ lw_tbl := lw_at lw_m1 123 rfl
theorem q207 : (Jvm.Cond.fieldLinkNest "DistinctMarks$Counter" (101 : Nat) "DistinctMarks" "tables" "[[I" "DistinctMarks") ∈ lw_tbl := lw_at lw_m1 125 rfl
theorem q256 : (Jvm.Cond.instanceMethod ({ cls := "DistinctMarks$Counter", name := "m", desc := "()I" } : Jvm.MethodName)) ∈ lw_all := lw_g (lw_at lw_m1 174 rfl) rfl
theorem q257 : (Jvm.Cond.selects "DistinctMarks$Counter" ({ cls := "DistinctMarks$Counter", name := "m", desc := "()I" } : Jvm.MethodName) ({ cls := "DistinctMarks$Counter", name := "m", desc := "()I" } : Jvm.MethodName)) ∈ lw_all := lw_g (lw_at lw_m1 175 rfl) rfl
theorem q258 : (Jvm.Cond.code ({ cls := "DistinctMarks$Counter", name := "m", desc := "()I" } : Jvm.MethodName) prog_2_method_3_code (1 : Nat) (Option.some Jvm.ClassFile.FieldType.int)) ∈ lw_all := lw_g (lw_at lw_m1 176 rfl) rfl
theorem q264 : (Jvm.Cond.instanceMethod ({ cls := "DistinctMarks$Counter", name := "adds", desc := "(I)Z" } : Jvm.MethodName)) ∈ lw_all := lw_g (lw_at lw_m1 182 rfl) rfl
theorem q265 : (Jvm.Cond.selects "DistinctMarks$Counter" ({ cls := "DistinctMarks$Counter", name := "adds", desc := "(I)Z" } : Jvm.MethodName) ({ cls := "DistinctMarks$Counter", name := "adds", desc := "(I)Z" } : Jvm.MethodName)) ∈ lw_all := lw_g (lw_at lw_m1 183 rfl) rfl
theorem q266 : (Jvm.Cond.code ({ cls := "DistinctMarks$Counter", name := "adds", desc := "(I)Z" } : Jvm.MethodName) prog_2_method_7_code (3 : Nat) (Option.some Jvm.ClassFile.FieldType.boolean)) ∈ lw_all := lw_g (lw_at lw_m1 184 rfl) rfl
theorem q267 : (Jvm.Cond.methodLink "DistinctMarks$Counter" (60 : Nat) ({ cls := "DistinctMarks$Counter", name := "raises", desc := "(I)Z" } : Jvm.MethodName)) ∈ lw_all := lw_g (lw_at lw_m1 185 rfl) rfl
theorem q268 : (Jvm.Cond.privateMethod ({ cls := "DistinctMarks$Counter", name := "raises", desc := "(I)Z" } : Jvm.MethodName)) ∈ lw_tbl := lw_at lw_m1 186 rfl
theorem q269 : (Jvm.Cond.instanceMethod ({ cls := "DistinctMarks$Counter", name := "raises", desc := "(I)Z" } : Jvm.MethodName)) ∈ lw_all := lw_g (lw_at lw_m1 187 rfl) rfl
theorem q270 : (Jvm.Cond.code ({ cls := "DistinctMarks$Counter", name := "raises", desc := "(I)Z" } : Jvm.MethodName) prog_2_method_6_code (2 : Nat) (Option.some Jvm.ClassFile.FieldType.boolean)) ∈ lw_all := lw_g (lw_at lw_m1 188 rfl) rfl
theorem q271 : (Jvm.Cond.methodLinkNest "DistinctMarks$Counter" (46 : Nat) ({ cls := "DistinctMarks", name := "placeOf", desc := "(II)I" } : Jvm.MethodName) "DistinctMarks") ∈ lw_tbl := lw_at lw_m1 189 rfl
theorem q272 : (Jvm.Cond.methodLinkNest "DistinctMarks$Counter" (49 : Nat) ({ cls := "DistinctMarks", name := "rankOf", desc := "(II)I" } : Jvm.MethodName) "DistinctMarks") ∈ lw_tbl := lw_at lw_m1 190 rfl
theorem q273 : (Jvm.Cond.methodLink "DistinctMarks$Counter" (52 : Nat) ({ cls := "DistinctMarks$Counter", name := "raises", desc := "(II)Z" } : Jvm.MethodName)) ∈ lw_all := lw_g (lw_at lw_m1 191 rfl) rfl
theorem q274 : (Jvm.Cond.privateMethod ({ cls := "DistinctMarks$Counter", name := "raises", desc := "(II)Z" } : Jvm.MethodName)) ∈ lw_tbl := lw_at lw_m1 192 rfl
theorem q275 : (Jvm.Cond.instanceMethod ({ cls := "DistinctMarks$Counter", name := "raises", desc := "(II)Z" } : Jvm.MethodName)) ∈ lw_all := lw_g (lw_at lw_m1 193 rfl) rfl
theorem q276 : (Jvm.Cond.code ({ cls := "DistinctMarks$Counter", name := "raises", desc := "(II)Z" } : Jvm.MethodName) prog_2_method_5_code (3 : Nat) (Option.some Jvm.ClassFile.FieldType.boolean)) ∈ lw_all := lw_g (lw_at lw_m1 194 rfl) rfl
theorem q277 : (Jvm.Cond.methodLink "DistinctMarks$Counter" (63 : Nat) ({ cls := "DistinctMarks$Counter", name := "find", desc := "(I)I" } : Jvm.MethodName)) ∈ lw_all := lw_g (lw_at lw_m1 195 rfl) rfl
theorem q278 : (Jvm.Cond.instanceMethod ({ cls := "DistinctMarks$Counter", name := "find", desc := "(I)I" } : Jvm.MethodName)) ∈ lw_all := lw_g (lw_at lw_m1 196 rfl) rfl
theorem q279 : (Jvm.Cond.selects "DistinctMarks$Counter" ({ cls := "DistinctMarks$Counter", name := "find", desc := "(I)I" } : Jvm.MethodName) ({ cls := "DistinctMarks$Counter", name := "find", desc := "(I)I" } : Jvm.MethodName)) ∈ lw_all := lw_g (lw_at lw_m1 197 rfl) rfl
theorem q280 : (Jvm.Cond.code ({ cls := "DistinctMarks$Counter", name := "find", desc := "(I)I" } : Jvm.MethodName) prog_2_method_4_code (5 : Nat) (Option.some Jvm.ClassFile.FieldType.int)) ∈ lw_all := lw_g (lw_at lw_m1 198 rfl) rfl
theorem q281 : (Jvm.Cond.methodLink "DistinctMarks$Counter" (40 : Nat) ({ cls := "java/lang/Integer", name := "compareUnsigned", desc := "(II)I" } : Jvm.MethodName)) ∈ lw_all := lw_g (lw_at lw_m1 199 rfl) rfl
theorem q288 : (Jvm.Cond.methodLink "DistinctMarks$Counter" (67 : Nat) ({ cls := "java/lang/System", name := "arraycopy", desc := "(Ljava/lang/Object;ILjava/lang/Object;II)V" } : Jvm.MethodName)) ∈ lw_all := lw_g (lw_at lw_m1 206 rfl) rfl
theorem q402 : (Jvm.Cond.instanceMethod ({ cls := "DistinctMarks$Counter", name := "wouldChange", desc := "(I)Z" } : Jvm.MethodName)) ∈ lw_all := lw_g (lw_at lw_m2 80 rfl) rfl
theorem q403 : (Jvm.Cond.selects "DistinctMarks$Counter" ({ cls := "DistinctMarks$Counter", name := "wouldChange", desc := "(I)Z" } : Jvm.MethodName) ({ cls := "DistinctMarks$Counter", name := "wouldChange", desc := "(I)Z" } : Jvm.MethodName)) ∈ lw_all := lw_g (lw_at lw_m2 81 rfl) rfl
theorem q404 : (Jvm.Cond.code ({ cls := "DistinctMarks$Counter", name := "wouldChange", desc := "(I)Z" } : Jvm.MethodName) prog_2_method_8_code (2 : Nat) (Option.some Jvm.ClassFile.FieldType.boolean)) ∈ lw_all := lw_g (lw_at lw_m2 82 rfl) rfl
theorem q410 : (Jvm.Cond.instanceMethod ({ cls := "DistinctMarks$Counter", name := "drops", desc := "(I)Z" } : Jvm.MethodName)) ∈ lw_all := lw_g (lw_at lw_m2 88 rfl) rfl
theorem q411 : (Jvm.Cond.selects "DistinctMarks$Counter" ({ cls := "DistinctMarks$Counter", name := "drops", desc := "(I)Z" } : Jvm.MethodName) ({ cls := "DistinctMarks$Counter", name := "drops", desc := "(I)Z" } : Jvm.MethodName)) ∈ lw_all := lw_g (lw_at lw_m2 89 rfl) rfl
theorem q412 : (Jvm.Cond.code ({ cls := "DistinctMarks$Counter", name := "drops", desc := "(I)Z" } : Jvm.MethodName) prog_2_method_9_code (4 : Nat) (Option.some Jvm.ClassFile.FieldType.boolean)) ∈ lw_all := lw_g (lw_at lw_m2 90 rfl) rfl
theorem q421 : (Jvm.Cond.instanceMethod ({ cls := "DistinctMarks$Counter", name := "empty", desc := "()I" } : Jvm.MethodName)) ∈ lw_all := lw_g (lw_at lw_m2 99 rfl) rfl
theorem q422 : (Jvm.Cond.selects "DistinctMarks$Counter" ({ cls := "DistinctMarks$Counter", name := "empty", desc := "()I" } : Jvm.MethodName) ({ cls := "DistinctMarks$Counter", name := "empty", desc := "()I" } : Jvm.MethodName)) ∈ lw_all := lw_g (lw_at lw_m2 100 rfl) rfl
theorem q423 : (Jvm.Cond.code ({ cls := "DistinctMarks$Counter", name := "empty", desc := "()I" } : Jvm.MethodName) prog_2_method_13_code (3 : Nat) (Option.some Jvm.ClassFile.FieldType.int)) ∈ lw_all := lw_g (lw_at lw_m2 101 rfl) rfl
theorem q424 : (Jvm.Cond.methodLink "DistinctMarks$Counter" (87 : Nat) ({ cls := "DistinctMarks$Counter", name := "m", desc := "()I" } : Jvm.MethodName)) ∈ lw_all := lw_g (lw_at lw_m2 102 rfl) rfl
theorem q430 : (Jvm.Cond.instanceMethod ({ cls := "DistinctMarks$Counter", name := "<init>", desc := "(LDistinctMarks;LDistinctMarks$Counter;I)V" } : Jvm.MethodName)) ∈ lw_all := lw_g (lw_at lw_m2 108 rfl) rfl
theorem q431 : (Jvm.Cond.code ({ cls := "DistinctMarks$Counter", name := "<init>", desc := "(LDistinctMarks;LDistinctMarks$Counter;I)V" } : Jvm.MethodName) prog_2_method_2_code (4 : Nat) (Option.none : Option Jvm.ClassFile.FieldType)) ∈ lw_all := lw_g (lw_at lw_m2 109 rfl) rfl
theorem q432 : (Jvm.Cond.methodLink "DistinctMarks$Counter" (30 : Nat) ({ cls := "DistinctMarks$Counter", name := "<init>", desc := "(LDistinctMarks;II)V" } : Jvm.MethodName)) ∈ lw_all := lw_g (lw_at lw_m2 110 rfl) rfl
theorem q433 : (Jvm.Cond.methodLink "DistinctMarks$Counter" (33 : Nat) ({ cls := "DistinctMarks$Counter", name := "takes", desc := "(LDistinctMarks$Counter;)V" } : Jvm.MethodName)) ∈ lw_all := lw_g (lw_at lw_m2 111 rfl) rfl
theorem q434 : (Jvm.Cond.instanceMethod ({ cls := "DistinctMarks$Counter", name := "takes", desc := "(LDistinctMarks$Counter;)V" } : Jvm.MethodName)) ∈ lw_all := lw_g (lw_at lw_m2 112 rfl) rfl
theorem q435 : (Jvm.Cond.selects "DistinctMarks$Counter" ({ cls := "DistinctMarks$Counter", name := "takes", desc := "(LDistinctMarks$Counter;)V" } : Jvm.MethodName) ({ cls := "DistinctMarks$Counter", name := "takes", desc := "(LDistinctMarks$Counter;)V" } : Jvm.MethodName)) ∈ lw_all := lw_g (lw_at lw_m2 113 rfl) rfl
theorem q436 : (Jvm.Cond.code ({ cls := "DistinctMarks$Counter", name := "takes", desc := "(LDistinctMarks$Counter;)V" } : Jvm.MethodName) prog_2_method_10_code (3 : Nat) (Option.none : Option Jvm.ClassFile.FieldType)) ∈ lw_all := lw_g (lw_at lw_m2 114 rfl) rfl
theorem q437 : (Jvm.Cond.methodLink "DistinctMarks$Counter" (73 : Nat) ({ cls := "DistinctMarks$Counter", name := "adds", desc := "(I)Z" } : Jvm.MethodName)) ∈ lw_all := lw_g (lw_at lw_m2 115 rfl) rfl
theorem q438 : (Jvm.Cond.privateMethod ({ cls := "DistinctMarks$Counter", name := "lambda$takes$0", desc := "(LDistinctMarks$Counter;II)V" } : Jvm.MethodName)) ∈ lw_tbl := lw_at lw_m2 116 rfl
theorem q439 : (Jvm.Cond.instanceMethod ({ cls := "DistinctMarks$Counter", name := "lambda$takes$0", desc := "(LDistinctMarks$Counter;II)V" } : Jvm.MethodName)) ∈ lw_all := lw_g (lw_at lw_m2 117 rfl) rfl
theorem q440 : (Jvm.Cond.code ({ cls := "DistinctMarks$Counter", name := "lambda$takes$0", desc := "(LDistinctMarks$Counter;II)V" } : Jvm.MethodName) prog_2_method_21_code (4 : Nat) (Option.none : Option Jvm.ClassFile.FieldType)) ∈ lw_all := lw_g (lw_at lw_m2 118 rfl) rfl
theorem q441 : (Jvm.Cond.methodLink "DistinctMarks$Counter" (133 : Nat) ({ cls := "DistinctMarks$Counter", name := "folded", desc := "(III)I" } : Jvm.MethodName)) ∈ lw_all := lw_g (lw_at lw_m2 119 rfl) rfl
theorem q442 : (Jvm.Cond.privateMethod ({ cls := "DistinctMarks$Counter", name := "folded", desc := "(III)I" } : Jvm.MethodName)) ∈ lw_tbl := lw_at lw_m2 120 rfl
theorem q443 : (Jvm.Cond.instanceMethod ({ cls := "DistinctMarks$Counter", name := "folded", desc := "(III)I" } : Jvm.MethodName)) ∈ lw_all := lw_g (lw_at lw_m2 121 rfl) rfl
theorem q444 : (Jvm.Cond.code ({ cls := "DistinctMarks$Counter", name := "folded", desc := "(III)I" } : Jvm.MethodName) prog_2_method_11_code (5 : Nat) (Option.some Jvm.ClassFile.FieldType.int)) ∈ lw_all := lw_g (lw_at lw_m2 122 rfl) rfl
theorem q445 : (Jvm.Cond.methodLink "DistinctMarks$Counter" (84 : Nat) ({ cls := "java/lang/Integer", name := "numberOfLeadingZeros", desc := "(I)I" } : Jvm.MethodName)) ∈ lw_all := lw_g (lw_at lw_m2 123 rfl) rfl
theorem q446 : (Jvm.Cond.methodLink "DistinctMarks$Counter" (80 : Nat) ({ cls := "DistinctMarks$Counter", name := "each", desc := "(LDistinctMarks$Ranked;)V" } : Jvm.MethodName)) ∈ lw_all := lw_g (lw_at lw_m2 124 rfl) rfl
theorem q447 : (Jvm.Cond.instanceMethod ({ cls := "DistinctMarks$Counter", name := "each", desc := "(LDistinctMarks$Ranked;)V" } : Jvm.MethodName)) ∈ lw_all := lw_g (lw_at lw_m2 125 rfl) rfl
theorem q448 : (Jvm.Cond.selects "DistinctMarks$Counter" ({ cls := "DistinctMarks$Counter", name := "each", desc := "(LDistinctMarks$Ranked;)V" } : Jvm.MethodName) ({ cls := "DistinctMarks$Counter", name := "each", desc := "(LDistinctMarks$Ranked;)V" } : Jvm.MethodName)) ∈ lw_all := lw_g (lw_at lw_m2 126 rfl) rfl
theorem q449 : (Jvm.Cond.code ({ cls := "DistinctMarks$Counter", name := "each", desc := "(LDistinctMarks$Ranked;)V" } : Jvm.MethodName) prog_2_method_12_code (3 : Nat) (Option.none : Option Jvm.ClassFile.FieldType)) ∈ lw_all := lw_g (lw_at lw_m2 127 rfl) rfl
theorem q450 : (Jvm.Cond.interfaceEntry "DistinctMarks$Counter" (91 : Nat)) ∈ lw_tbl := lw_at lw_m2 128 rfl
theorem q451 : (Jvm.Cond.methodLink "DistinctMarks$Counter" (91 : Nat) ({ cls := "DistinctMarks$Ranked", name := "at", desc := "(II)V" } : Jvm.MethodName)) ∈ lw_all := lw_g (lw_at lw_m2 129 rfl) rfl
theorem q468 : (Jvm.Cond.instanceMethod ({ cls := "DistinctMarks$Counter", name := "guess", desc := "()I" } : Jvm.MethodName)) ∈ lw_all := lw_g (lw_at lw_m2 146 rfl) rfl
theorem q469 : (Jvm.Cond.selects "DistinctMarks$Counter" ({ cls := "DistinctMarks$Counter", name := "guess", desc := "()I" } : Jvm.MethodName) ({ cls := "DistinctMarks$Counter", name := "guess", desc := "()I" } : Jvm.MethodName)) ∈ lw_all := lw_g (lw_at lw_m2 147 rfl) rfl
theorem q470 : (Jvm.Cond.code ({ cls := "DistinctMarks$Counter", name := "guess", desc := "()I" } : Jvm.MethodName) prog_2_method_19_code (1 : Nat) (Option.some Jvm.ClassFile.FieldType.int)) ∈ lw_all := lw_g (lw_at lw_m2 148 rfl) rfl
theorem q471 : (Jvm.Cond.methodLink "DistinctMarks$Counter" (130 : Nat) ({ cls := "DistinctMarks$Counter", name := "roughly", desc := "()I" } : Jvm.MethodName)) ∈ lw_all := lw_g (lw_at lw_m2 149 rfl) rfl
theorem q472 : (Jvm.Cond.instanceMethod ({ cls := "DistinctMarks$Counter", name := "roughly", desc := "()I" } : Jvm.MethodName)) ∈ lw_all := lw_g (lw_at lw_m2 150 rfl) rfl
theorem q473 : (Jvm.Cond.selects "DistinctMarks$Counter" ({ cls := "DistinctMarks$Counter", name := "roughly", desc := "()I" } : Jvm.MethodName) ({ cls := "DistinctMarks$Counter", name := "roughly", desc := "()I" } : Jvm.MethodName)) ∈ lw_all := lw_g (lw_at lw_m2 151 rfl) rfl
theorem q474 : (Jvm.Cond.code ({ cls := "DistinctMarks$Counter", name := "roughly", desc := "()I" } : Jvm.MethodName) prog_2_method_18_code (1 : Nat) (Option.some Jvm.ClassFile.FieldType.int)) ∈ lw_all := lw_g (lw_at lw_m2 152 rfl) rfl
theorem q475 : (Jvm.Cond.methodLink "DistinctMarks$Counter" (119 : Nat) ({ cls := "DistinctMarks$Counter", name := "empty", desc := "()I" } : Jvm.MethodName)) ∈ lw_all := lw_g (lw_at lw_m2 153 rfl) rfl
theorem q476 : (Jvm.Cond.methodLink "DistinctMarks$Counter" (122 : Nat) ({ cls := "DistinctMarks$Counter", name := "all", desc := "()J" } : Jvm.MethodName)) ∈ lw_all := lw_g (lw_at lw_m2 154 rfl) rfl
theorem q477 : (Jvm.Cond.instanceMethod ({ cls := "DistinctMarks$Counter", name := "all", desc := "()J" } : Jvm.MethodName)) ∈ lw_all := lw_g (lw_at lw_m2 155 rfl) rfl
theorem q478 : (Jvm.Cond.selects "DistinctMarks$Counter" ({ cls := "DistinctMarks$Counter", name := "all", desc := "()J" } : Jvm.MethodName) ({ cls := "DistinctMarks$Counter", name := "all", desc := "()J" } : Jvm.MethodName)) ∈ lw_all := lw_g (lw_at lw_m2 156 rfl) rfl
theorem q479 : (Jvm.Cond.code ({ cls := "DistinctMarks$Counter", name := "all", desc := "()J" } : Jvm.MethodName) prog_2_method_15_code (4 : Nat) (Option.some Jvm.ClassFile.FieldType.long)) ∈ lw_all := lw_g (lw_at lw_m2 157 rfl) rfl
theorem q480 : (Jvm.Cond.methodLink "DistinctMarks$Counter" (126 : Nat) ({ cls := "DistinctMarks$Counter", name := "guessBy", desc := "(IJ)I" } : Jvm.MethodName)) ∈ lw_all := lw_g (lw_at lw_m2 158 rfl) rfl
theorem q481 : (Jvm.Cond.instanceMethod ({ cls := "DistinctMarks$Counter", name := "guessBy", desc := "(IJ)I" } : Jvm.MethodName)) ∈ lw_all := lw_g (lw_at lw_m2 159 rfl) rfl
theorem q482 : (Jvm.Cond.selects "DistinctMarks$Counter" ({ cls := "DistinctMarks$Counter", name := "guessBy", desc := "(IJ)I" } : Jvm.MethodName) ({ cls := "DistinctMarks$Counter", name := "guessBy", desc := "(IJ)I" } : Jvm.MethodName)) ∈ lw_all := lw_g (lw_at lw_m2 160 rfl) rfl
theorem q483 : (Jvm.Cond.code ({ cls := "DistinctMarks$Counter", name := "guessBy", desc := "(IJ)I" } : Jvm.MethodName) prog_2_method_17_code (6 : Nat) (Option.some Jvm.ClassFile.FieldType.int)) ∈ lw_all := lw_g (lw_at lw_m2 161 rfl) rfl
theorem q484 : (Jvm.Cond.methodLink "DistinctMarks$Counter" (105 : Nat) ({ cls := "DistinctMarks$Counter", name := "isByTable", desc := "(I)Z" } : Jvm.MethodName)) ∈ lw_all := lw_g (lw_at lw_m2 162 rfl) rfl
theorem q485 : (Jvm.Cond.instanceMethod ({ cls := "DistinctMarks$Counter", name := "isByTable", desc := "(I)Z" } : Jvm.MethodName)) ∈ lw_all := lw_g (lw_at lw_m2 163 rfl) rfl
theorem q486 : (Jvm.Cond.selects "DistinctMarks$Counter" ({ cls := "DistinctMarks$Counter", name := "isByTable", desc := "(I)Z" } : Jvm.MethodName) ({ cls := "DistinctMarks$Counter", name := "isByTable", desc := "(I)Z" } : Jvm.MethodName)) ∈ lw_all := lw_g (lw_at lw_m2 164 rfl) rfl
theorem q487 : (Jvm.Cond.code ({ cls := "DistinctMarks$Counter", name := "isByTable", desc := "(I)Z" } : Jvm.MethodName) prog_2_method_16_code (2 : Nat) (Option.some Jvm.ClassFile.FieldType.boolean)) ∈ lw_all := lw_g (lw_at lw_m2 165 rfl) rfl
theorem q488 : (Jvm.Cond.constantLong "DistinctMarks$Counter" (111 : Nat) (1000 : Int64)) ∈ lw_all := lw_g (lw_at lw_m2 166 rfl) rfl
theorem q489 : (Jvm.Cond.constantLong "DistinctMarks$Counter" (113 : Nat) (2000000000 : Int64)) ∈ lw_all := lw_g (lw_at lw_m2 167 rfl) rfl
theorem q490 : (Jvm.Cond.methodLink "DistinctMarks$Counter" (115 : Nat) ({ cls := "java/lang/Math", name := "min", desc := "(JJ)J" } : Jvm.MethodName)) ∈ lw_all := lw_g (lw_at lw_m2 168 rfl) rfl
theorem q561 : (Jvm.Cond.instanceMethod ({ cls := "DistinctMarks$Counter", name := "how", desc := "()I" } : Jvm.MethodName)) ∈ lw_all := lw_g (lw_at lw_m2 239 rfl) rfl
theorem q562 : (Jvm.Cond.selects "DistinctMarks$Counter" ({ cls := "DistinctMarks$Counter", name := "how", desc := "()I" } : Jvm.MethodName) ({ cls := "DistinctMarks$Counter", name := "how", desc := "()I" } : Jvm.MethodName)) ∈ lw_all := lw_g (lw_at lw_m3 0 rfl) rfl
theorem q563 : (Jvm.Cond.code ({ cls := "DistinctMarks$Counter", name := "how", desc := "()I" } : Jvm.MethodName) prog_2_method_20_code (1 : Nat) (Option.some Jvm.ClassFile.FieldType.int)) ∈ lw_all := lw_g (lw_at lw_m3 1 rfl) rfl
theorem q574 : (Jvm.Cond.instanceMethod ({ cls := "DistinctMarks$Counter", name := "greatest", desc := "()I" } : Jvm.MethodName)) ∈ lw_all := lw_g (lw_at lw_m3 12 rfl) rfl
theorem q575 : (Jvm.Cond.selects "DistinctMarks$Counter" ({ cls := "DistinctMarks$Counter", name := "greatest", desc := "()I" } : Jvm.MethodName) ({ cls := "DistinctMarks$Counter", name := "greatest", desc := "()I" } : Jvm.MethodName)) ∈ lw_all := lw_g (lw_at lw_m3 13 rfl) rfl
theorem q576 : (Jvm.Cond.code ({ cls := "DistinctMarks$Counter", name := "greatest", desc := "()I" } : Jvm.MethodName) prog_2_method_14_code (3 : Nat) (Option.some Jvm.ClassFile.FieldType.int)) ∈ lw_all := lw_g (lw_at lw_m3 14 rfl) rfl
theorem q577 : (Jvm.Cond.methodLink "DistinctMarks$Counter" (96 : Nat) ({ cls := "java/lang/Math", name := "max", desc := "(II)I" } : Jvm.MethodName)) ∈ lw_all := lw_g (lw_at lw_m3 15 rfl) rfl
theorem q1714 : (Jvm.Cond.castable "DistinctMarks$Counter" "java/lang/Object") ∈ lw_tbl := lw_at lw_m7 192 rfl
theorem in_X2 : ∀ w ∈ wsX20, w ∈ lw_all := lw_in wsX20 [187, 189, 191, 193, 195, 197, 199] (by decide +kernel) (by decide +kernel)

/-! DistinctMarks$Wrong -/
set_option maxRecDepth 100000
def RX4 : String := "DistinctMarks$Wrong"
def TX4 : u_T := fun k => match k with
  | 0 => ("java/lang/Throwable", "cause", "Ljava/lang/Throwable;", false)
  | 1 => ("java/lang/Throwable", "stackTrace", "[Ljava/lang/StackTraceElement;", false)
  | 2 => ("java/lang/Throwable", "suppressedExceptions", "Ljava/util/List;", false)
  | 3 => ("java/lang/Throwable", "detailMessage", "Ljava/lang/String;", false)
  | 4 => ("java/lang/Throwable", "backtrace", "Ljava/lang/Object;", false)
  | _ => ("java/lang/Throwable", "depth", "I", false)
def tyX4 : Nat → FieldType := fun k => match k with
  | 0 => .object "java/lang/Throwable"
  | 1 => .array (.object "java/lang/StackTraceElement")
  | 2 => .object "java/util/List"
  | 3 => .object "java/lang/String"
  | 4 => .object "java/lang/Object"
  | _ => .int
abbrev wsX40 : List Cond := u_ws RX4 TX4 6
theorem nmX4 : ∀ a, a < 6 → ∀ b, b < 6 → a ≠ b → (TX4 a).2.1 ≠ (TX4 b).2.1 := by decide +kernel
theorem tyX4_ok : ∀ k, k < 6 → parseFieldDescriptor (TX4 k).2.2.1 = some (tyX4 k) := by decide +kernel
abbrev cX4_init : ByteArray := prog_8_method_1_code
def yX4_init : MethodName := ⟨RX4, "<init>", "()V"⟩
def dkwX4_init_0 : List UInt8 := [42, 1, 1, 3, 3, 183, 0, 1, 177]
abbrev dktX4_init_0 : List UInt8 := dkwX4_init_0 ++ []
theorem dksX4_init_0 : cX4_init.data.toList.drop 0 = dktX4_init_0 := by decide +kernel
theorem dX4_init_0 : decode cX4_init 0 = .ok (.aload_n 0, 1) := dk_42 (dk_at dksX4_init_0 0 rfl rfl)
theorem dX4_init_1 : decode cX4_init 1 = .ok (.aconst_null, 1) := dk_1 (dk_at dksX4_init_0 1 rfl rfl)
theorem dX4_init_2 : decode cX4_init 2 = .ok (.aconst_null, 1) := dk_1 (dk_at dksX4_init_0 2 rfl rfl)
theorem dX4_init_3 : decode cX4_init 3 = .ok (.iconst 0, 1) := dk_3 (dk_at dksX4_init_0 3 rfl rfl)
theorem dX4_init_4 : decode cX4_init 4 = .ok (.iconst 0, 1) := dk_3 (dk_at dksX4_init_0 4 rfl rfl)
theorem dX4_init_5 : decode cX4_init 5 = .ok (.invokespecial 1, 3) := dk_183 0 1 (dk_at dksX4_init_0 5 rfl rfl)
theorem dX4_init_8 : decode cX4_init 8 = .ok (.return_, 1) := dk_177 (dk_at dksX4_init_0 8 rfl rfl)
theorem q92 : (Jvm.Cond.initialized "DistinctMarks$Wrong") ∈ lw_all := lw_g (lw_at lw_m1 10 rfl) rfl
theorem q334 : (Jvm.Cond.instantiable "DistinctMarks$Wrong" (6 : Nat)) ∈ lw_all := lw_g (lw_at lw_m2 12 rfl) rfl
theorem q335 : (Jvm.Cond.castable "DistinctMarks$Wrong" "DistinctMarks$Wrong") ∈ lw_tbl := lw_at lw_m2 13 rfl
theorem q340 : (Jvm.Cond.selects "DistinctMarks$Wrong" ({ cls := "java/lang/Throwable", name := "fillInStackTrace", desc := "(I)Ljava/lang/Throwable;" } : Jvm.MethodName) ({ cls := "java/lang/Throwable", name := "fillInStackTrace", desc := "(I)Ljava/lang/Throwable;" } : Jvm.MethodName)) ∈ lw_all := lw_g (lw_at lw_m2 18 rfl) rfl
theorem q341 : (Jvm.Cond.selects "DistinctMarks$Wrong" ({ cls := "java/lang/Throwable", name := "fillInStackTrace", desc := "()Ljava/lang/Throwable;" } : Jvm.MethodName) ({ cls := "java/lang/Throwable", name := "fillInStackTrace", desc := "()Ljava/lang/Throwable;" } : Jvm.MethodName)) ∈ lw_all := lw_g (lw_at lw_m2 19 rfl) rfl
theorem q342 : (Jvm.Cond.lays "DistinctMarks$Wrong" "java/lang/Throwable" "cause" "Ljava/lang/Throwable;") ∈ lw_all := lw_g (lw_at lw_m2 20 rfl) rfl
theorem q344 : (Jvm.Cond.lays "DistinctMarks$Wrong" "java/lang/Throwable" "stackTrace" "[Ljava/lang/StackTraceElement;") ∈ lw_all := lw_g (lw_at lw_m2 22 rfl) rfl
theorem q346 : (Jvm.Cond.lays "DistinctMarks$Wrong" "java/lang/Throwable" "suppressedExceptions" "Ljava/util/List;") ∈ lw_all := lw_g (lw_at lw_m2 24 rfl) rfl
theorem q348 : (Jvm.Cond.lays "DistinctMarks$Wrong" "java/lang/Throwable" "detailMessage" "Ljava/lang/String;") ∈ lw_all := lw_g (lw_at lw_m2 26 rfl) rfl
theorem q350 : (Jvm.Cond.lays "DistinctMarks$Wrong" "java/lang/Throwable" "backtrace" "Ljava/lang/Object;") ∈ lw_all := lw_g (lw_at lw_m2 28 rfl) rfl
theorem q372 : (Jvm.Cond.instanceMethod ({ cls := "DistinctMarks$Wrong", name := "<init>", desc := "()V" } : Jvm.MethodName)) ∈ lw_all := lw_g (lw_at lw_m2 50 rfl) rfl
theorem q373 : (Jvm.Cond.code ({ cls := "DistinctMarks$Wrong", name := "<init>", desc := "()V" } : Jvm.MethodName) prog_8_method_1_code (1 : Nat) (Option.none : Option Jvm.ClassFile.FieldType)) ∈ lw_all := lw_g (lw_at lw_m2 51 rfl) rfl
theorem q374 : (Jvm.Cond.methodLink "DistinctMarks$Wrong" (1 : Nat) ({ cls := "java/lang/Exception", name := "<init>", desc := "(Ljava/lang/String;Ljava/lang/Throwable;ZZ)V" } : Jvm.MethodName)) ∈ lw_all := lw_g (lw_at lw_m2 52 rfl) rfl
theorem q389 : (Jvm.Cond.lays "DistinctMarks$Wrong" "java/lang/Throwable" "depth" "I") ∈ lw_all := lw_g (lw_at lw_m2 67 rfl) rfl
theorem q392 : (Jvm.Cond.superclass "DistinctMarks$Wrong" "java/lang/Exception") ∈ lw_all := lw_g (lw_at lw_m2 70 rfl) rfl
theorem q1716 : (Jvm.Cond.castable "DistinctMarks$Wrong" "java/lang/Object") ∈ lw_tbl := lw_at lw_m7 194 rfl
theorem in_X4 : ∀ w ∈ wsX40, w ∈ lw_all := lw_in wsX40 [342, 344, 346, 348, 350, 389] (by decide +kernel) (by decide +kernel)

theorem q1098 : (Jvm.Cond.interfaceMethod "DistinctMarks$Held" "DistinctMarks$Held" "by" "(LDistinctMarks$Counter;)Z") ∈ lw_tbl := lw_at lw_m5 56 rfl
set_option maxRecDepth 100000
theorem q1099 : (Jvm.Cond.declares ({ cls := "DistinctMarks$Held", name := "by", desc := "(LDistinctMarks$Counter;)Z" } : Jvm.MethodName)) ∈ lw_tbl := lw_at lw_m5 57 rfl

theorem q688 : (Jvm.Cond.interfaceMethod "DistinctMarks$Parted" "DistinctMarks$Parted" "with" "(I)V") ∈ lw_tbl := lw_at lw_m3 126 rfl
set_option maxRecDepth 100000
theorem q689 : (Jvm.Cond.declares ({ cls := "DistinctMarks$Parted", name := "with", desc := "(I)V" } : Jvm.MethodName)) ∈ lw_tbl := lw_at lw_m3 127 rfl

theorem q452 : (Jvm.Cond.interfaceMethod "DistinctMarks$Ranked" "DistinctMarks$Ranked" "at" "(II)V") ∈ lw_tbl := lw_at lw_m2 130 rfl
set_option maxRecDepth 100000
theorem q453 : (Jvm.Cond.declares ({ cls := "DistinctMarks$Ranked", name := "at", desc := "(II)V" } : Jvm.MethodName)) ∈ lw_tbl := lw_at lw_m2 131 rfl

theorem q1110 : (Jvm.Cond.interfaceMethod "DistinctMarks$Summed" "DistinctMarks$Summed" "of" "(LDistinctMarks$Counter;)I") ∈ lw_tbl := lw_at lw_m5 68 rfl
set_option maxRecDepth 100000
theorem q1111 : (Jvm.Cond.declares ({ cls := "DistinctMarks$Summed", name := "of", desc := "(LDistinctMarks$Counter;)I" } : Jvm.MethodName)) ∈ lw_tbl := lw_at lw_m5 69 rfl

theorem q540 : (Jvm.Cond.interfaceMethod "DistinctMarks$Wanted" "DistinctMarks$Wanted" "is" "(I)Z") ∈ lw_tbl := lw_at lw_m2 218 rfl
set_option maxRecDepth 100000
theorem q541 : (Jvm.Cond.declares ({ cls := "DistinctMarks$Wanted", name := "is", desc := "(I)Z" } : Jvm.MethodName)) ∈ lw_tbl := lw_at lw_m2 219 rfl

theorem q846 : (Jvm.Cond.sameMethod "[B" "java/lang/Object" "clone" "()Ljava/lang/Object;") ∈ lw_all := lw_g (lw_at lw_m4 44 rfl) rfl
set_option maxRecDepth 100000
theorem q849 : (Jvm.Cond.selects "[B" ({ cls := "[B", name := "clone", desc := "()Ljava/lang/Object;" } : Jvm.MethodName) ({ cls := "java/lang/Object", name := "clone", desc := "()Ljava/lang/Object;" } : Jvm.MethodName)) ∈ lw_all := lw_g (lw_at lw_m4 47 rfl) rfl
theorem q850 : (Jvm.Cond.castable "[B" "java/lang/Cloneable") ∈ lw_tbl := lw_at lw_m4 48 rfl

theorem q86 : (Jvm.Cond.initialized "java/lang/Number") ∈ lw_all := lw_g (lw_at lw_m1 4 rfl) rfl
set_option maxRecDepth 100000

theorem q89 : (Jvm.Cond.initialized "java/lang/System") ∈ lw_all := lw_g (lw_at lw_m1 7 rfl) rfl
set_option maxRecDepth 100000
theorem q289 : (Jvm.Cond.static ({ cls := "java/lang/System", name := "arraycopy", desc := "(Ljava/lang/Object;ILjava/lang/Object;II)V" } : Jvm.MethodName)) ∈ lw_all := lw_g (lw_at lw_m1 207 rfl) rfl
theorem q290 : (Jvm.Cond.native ({ cls := "java/lang/System", name := "arraycopy", desc := "(Ljava/lang/Object;ILjava/lang/Object;II)V" } : Jvm.MethodName)) ∈ lw_all := lw_g (lw_at lw_m1 208 rfl) rfl

theorem q150 : (Jvm.Cond.arrayClass Jvm.ClassFile.FieldType.long) ∈ lw_all := lw_g (lw_at lw_m1 68 rfl) rfl
set_option maxRecDepth 100000
theorem q162 : (Jvm.Cond.arrayOver (Jvm.ClassFile.FieldType.array Jvm.ClassFile.FieldType.int)) ∈ lw_tbl := lw_at lw_m1 80 rfl
theorem q168 : (Jvm.Cond.arrayOver (Jvm.ClassFile.FieldType.object "DistinctMarks$Counter")) ∈ lw_tbl := lw_at lw_m1 86 rfl
theorem q202 : (Jvm.Cond.arrayClass Jvm.ClassFile.FieldType.int) ∈ lw_all := lw_g (lw_at lw_m1 120 rfl) rfl
theorem q203 : (Jvm.Cond.arrayClass Jvm.ClassFile.FieldType.byte) ∈ lw_all := lw_g (lw_at lw_m1 121 rfl) rfl
theorem q1216 : (Jvm.Cond.arrayClass Jvm.ClassFile.FieldType.boolean) ∈ lw_all := lw_g (lw_at lw_m5 174 rfl) rfl
