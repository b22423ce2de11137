/-! ProofPagesModel -/
set_option maxRecDepth 100000
def RX3 : String := "ProofPagesModel"
def TX3 : u_T := fun k => match k with
  | 0 => ("ProofPagesModel", "thrown", "I", false)
  | 1 => ("ProofPagesModel", "width", "I", false)
  | 2 => ("ProofPagesModel", "height", "I", false)
  | 3 => ("ProofPagesModel", "paragraphs", "I", false)
  | 4 => ("ProofPagesModel", "isFrozen", "[Z", true)
  | 5 => ("ProofPagesModel", "many", "[I", true)
  | 6 => ("ProofPagesModel", "wordAt", "[I", true)
  | 7 => ("ProofPagesModel", "words", "I", false)
  | 8 => ("ProofPagesModel", "letters", "[I", true)
  | 9 => ("ProofPagesModel", "ofParagraph", "[I", true)
  | 10 => ("ProofPagesModel", "placeIn", "[I", true)
  | 11 => ("ProofPagesModel", "scores", "[I", true)
  | 12 => ("ProofPagesModel", "isEnd", "[Z", true)
  | 13 => ("ProofPagesModel", "isKept", "[Z", true)
  | 14 => ("ProofPagesModel", "least", "[I", true)
  | 15 => ("ProofPagesModel", "next", "[I", true)
  | 16 => ("ProofPagesModel", "linesIn", "[I", true)
  | 17 => ("ProofPagesModel", "errors", "I", false)
  | 18 => ("ProofPagesModel", "readers", "[I", true)
  | 19 => ("ProofPagesModel", "errorWords", "[I", true)
  | _ => ("ProofPagesModel", "states", "[I", true)
def tyX3 : Nat → FieldType := fun k => match k with
  | 0 => .int
  | 1 => .int
  | 2 => .int
  | 3 => .int
  | 4 => .array .boolean
  | 5 => .array .int
  | 6 => .array .int
  | 7 => .int
  | 8 => .array .int
  | 9 => .array .int
  | 10 => .array .int
  | 11 => .array .int
  | 12 => .array .boolean
  | 13 => .array .boolean
  | 14 => .array .int
  | 15 => .array .int
  | 16 => .array .int
  | 17 => .int
  | 18 => .array .int
  | 19 => .array .int
  | _ => .array .int
abbrev wsX30 : List Cond := u_ws RX3 TX3 21
set_option maxRecDepth 100000 in
theorem nmX3 : ∀ a, a < 21 → ∀ b, b < 21 → a ≠ b → (TX3 a).2.1 ≠ (TX3 b).2.1 := by decide +kernel
set_option maxRecDepth 100000 in
theorem tyX3_ok : ∀ k, k < 21 → parseFieldDescriptor (TX3 k).2.2.1 = some (tyX3 k) := by decide +kernel
abbrev cX3_init : ByteArray := prog_7_method_1_code
def yX3_init : MethodName := ⟨RX3, "<init>", "()V"⟩
def dkwX3_init_6 : List UInt8 := [181, 0, 60, 177]
abbrev dktX3_init_6 : List UInt8 := dkwX3_init_6 ++ []
def dkwX3_init_5 : List UInt8 := [181, 0, 51, 42, 16, 30, 188, 10, 181, 0, 54, 42, 16, 30, 188, 10, 181, 0, 57, 42, 16, 30, 188, 10]
abbrev dktX3_init_5 : List UInt8 := dkwX3_init_5 ++ dktX3_init_6
def dkwX3_init_4 : List UInt8 := [17, 3, 208, 188, 10, 181, 0, 45, 42, 17, 3, 208, 188, 10, 181, 0, 48, 42, 16, 6, 188, 10]
abbrev dktX3_init_4 : List UInt8 := dkwX3_init_4 ++ dktX3_init_5
def dkwX3_init_3 : List UInt8 := [188, 10, 181, 0, 36, 42, 17, 3, 192, 188, 4, 181, 0, 39, 42, 17, 3, 192, 188, 4, 181, 0, 42, 42]
abbrev dktX3_init_3 : List UInt8 := dkwX3_init_3 ++ dktX3_init_4
def dkwX3_init_2 : List UInt8 := [181, 0, 27, 42, 16, 60, 188, 10, 181, 0, 30, 42, 16, 60, 188, 10, 181, 0, 33, 42, 17, 3, 192]
abbrev dktX3_init_2 : List UInt8 := dkwX3_init_2 ++ dktX3_init_3
def dkwX3_init_1 : List UInt8 := [42, 16, 6, 188, 10, 181, 0, 20, 42, 17, 1, 104, 188, 10, 181, 0, 24, 42, 16, 60, 188, 10]
abbrev dktX3_init_1 : List UInt8 := dkwX3_init_1 ++ dktX3_init_2
def dkwX3_init_0 : List UInt8 := [42, 183, 0, 1, 42, 16, 30, 181, 0, 7, 42, 16, 10, 181, 0, 13, 42, 16, 6, 188, 4, 181, 0, 16]
abbrev dktX3_init_0 : List UInt8 := dkwX3_init_0 ++ dktX3_init_1
theorem dksX3_init_0 : cX3_init.data.toList.drop 0 = dktX3_init_0 := by decide +kernel
theorem dksX3_init_1 : cX3_init.data.toList.drop 24 = dktX3_init_1 := dk_seg dksX3_init_0 24 rfl rfl
theorem dksX3_init_2 : cX3_init.data.toList.drop 46 = dktX3_init_2 := dk_seg dksX3_init_1 22 rfl rfl
theorem dksX3_init_3 : cX3_init.data.toList.drop 69 = dktX3_init_3 := dk_seg dksX3_init_2 23 rfl rfl
theorem dksX3_init_4 : cX3_init.data.toList.drop 93 = dktX3_init_4 := dk_seg dksX3_init_3 24 rfl rfl
theorem dksX3_init_5 : cX3_init.data.toList.drop 115 = dktX3_init_5 := dk_seg dksX3_init_4 22 rfl rfl
theorem dksX3_init_6 : cX3_init.data.toList.drop 139 = dktX3_init_6 := dk_seg dksX3_init_5 24 rfl rfl
theorem dX3_init_0 : decode cX3_init 0 = .ok (.aload_n 0, 1) := dk_42 (dk_at dksX3_init_0 0 rfl rfl)
theorem dX3_init_1 : decode cX3_init 1 = .ok (.invokespecial 1, 3) := dk_183 0 1 (dk_at dksX3_init_0 1 rfl rfl)
theorem dX3_init_4 : decode cX3_init 4 = .ok (.aload_n 0, 1) := dk_42 (dk_at dksX3_init_0 4 rfl rfl)
theorem dX3_init_5 : decode cX3_init 5 = .ok (.bipush 30, 2) := dk_16 30 (dk_at dksX3_init_0 5 rfl rfl)
theorem dX3_init_7 : decode cX3_init 7 = .ok (.putfield 7, 3) := dk_181 0 7 (dk_at dksX3_init_0 7 rfl rfl)
theorem dX3_init_10 : decode cX3_init 10 = .ok (.aload_n 0, 1) := dk_42 (dk_at dksX3_init_0 10 rfl rfl)
theorem dX3_init_11 : decode cX3_init 11 = .ok (.bipush 10, 2) := dk_16 10 (dk_at dksX3_init_0 11 rfl rfl)
theorem dX3_init_13 : decode cX3_init 13 = .ok (.putfield 13, 3) := dk_181 0 13 (dk_at dksX3_init_0 13 rfl rfl)
theorem dX3_init_16 : decode cX3_init 16 = .ok (.aload_n 0, 1) := dk_42 (dk_at dksX3_init_0 16 rfl rfl)
theorem dX3_init_17 : decode cX3_init 17 = .ok (.bipush 6, 2) := dk_16 6 (dk_at dksX3_init_0 17 rfl rfl)
theorem dX3_init_19 : decode cX3_init 19 = .ok (.newarray .boolean, 2) := dk_188_4 (dk_at dksX3_init_0 19 rfl rfl)
theorem dX3_init_21 : decode cX3_init 21 = .ok (.putfield 16, 3) := dk_181 0 16 (dk_at dksX3_init_0 21 rfl rfl)
theorem dX3_init_24 : decode cX3_init 24 = .ok (.aload_n 0, 1) := dk_42 (dk_at dksX3_init_1 0 rfl rfl)
theorem dX3_init_25 : decode cX3_init 25 = .ok (.bipush 6, 2) := dk_16 6 (dk_at dksX3_init_1 1 rfl rfl)
theorem dX3_init_27 : decode cX3_init 27 = .ok (.newarray .int, 2) := dk_188_10 (dk_at dksX3_init_1 3 rfl rfl)
theorem dX3_init_29 : decode cX3_init 29 = .ok (.putfield 20, 3) := dk_181 0 20 (dk_at dksX3_init_1 5 rfl rfl)
theorem dX3_init_32 : decode cX3_init 32 = .ok (.aload_n 0, 1) := dk_42 (dk_at dksX3_init_1 8 rfl rfl)
theorem dX3_init_33 : decode cX3_init 33 = .ok (.sipush 360, 3) := dk_17 1 104 (dk_at dksX3_init_1 9 rfl rfl)
theorem dX3_init_36 : decode cX3_init 36 = .ok (.newarray .int, 2) := dk_188_10 (dk_at dksX3_init_1 12 rfl rfl)
theorem dX3_init_38 : decode cX3_init 38 = .ok (.putfield 24, 3) := dk_181 0 24 (dk_at dksX3_init_1 14 rfl rfl)
theorem dX3_init_41 : decode cX3_init 41 = .ok (.aload_n 0, 1) := dk_42 (dk_at dksX3_init_1 17 rfl rfl)
theorem dX3_init_42 : decode cX3_init 42 = .ok (.bipush 60, 2) := dk_16 60 (dk_at dksX3_init_1 18 rfl rfl)
theorem dX3_init_44 : decode cX3_init 44 = .ok (.newarray .int, 2) := dk_188_10 (dk_at dksX3_init_1 20 rfl rfl)
theorem dX3_init_46 : decode cX3_init 46 = .ok (.putfield 27, 3) := dk_181 0 27 (dk_at dksX3_init_2 0 rfl rfl)
theorem dX3_init_49 : decode cX3_init 49 = .ok (.aload_n 0, 1) := dk_42 (dk_at dksX3_init_2 3 rfl rfl)
theorem dX3_init_50 : decode cX3_init 50 = .ok (.bipush 60, 2) := dk_16 60 (dk_at dksX3_init_2 4 rfl rfl)
theorem dX3_init_52 : decode cX3_init 52 = .ok (.newarray .int, 2) := dk_188_10 (dk_at dksX3_init_2 6 rfl rfl)
theorem dX3_init_54 : decode cX3_init 54 = .ok (.putfield 30, 3) := dk_181 0 30 (dk_at dksX3_init_2 8 rfl rfl)
theorem dX3_init_57 : decode cX3_init 57 = .ok (.aload_n 0, 1) := dk_42 (dk_at dksX3_init_2 11 rfl rfl)
theorem dX3_init_58 : decode cX3_init 58 = .ok (.bipush 60, 2) := dk_16 60 (dk_at dksX3_init_2 12 rfl rfl)
theorem dX3_init_60 : decode cX3_init 60 = .ok (.newarray .int, 2) := dk_188_10 (dk_at dksX3_init_2 14 rfl rfl)
theorem dX3_init_62 : decode cX3_init 62 = .ok (.putfield 33, 3) := dk_181 0 33 (dk_at dksX3_init_2 16 rfl rfl)
theorem dX3_init_65 : decode cX3_init 65 = .ok (.aload_n 0, 1) := dk_42 (dk_at dksX3_init_2 19 rfl rfl)
theorem dX3_init_66 : decode cX3_init 66 = .ok (.sipush 960, 3) := dk_17 3 192 (dk_at dksX3_init_2 20 rfl rfl)
theorem dX3_init_69 : decode cX3_init 69 = .ok (.newarray .int, 2) := dk_188_10 (dk_at dksX3_init_3 0 rfl rfl)
theorem dX3_init_71 : decode cX3_init 71 = .ok (.putfield 36, 3) := dk_181 0 36 (dk_at dksX3_init_3 2 rfl rfl)
theorem dX3_init_74 : decode cX3_init 74 = .ok (.aload_n 0, 1) := dk_42 (dk_at dksX3_init_3 5 rfl rfl)
theorem dX3_init_75 : decode cX3_init 75 = .ok (.sipush 960, 3) := dk_17 3 192 (dk_at dksX3_init_3 6 rfl rfl)
theorem dX3_init_78 : decode cX3_init 78 = .ok (.newarray .boolean, 2) := dk_188_4 (dk_at dksX3_init_3 9 rfl rfl)
theorem dX3_init_80 : decode cX3_init 80 = .ok (.putfield 39, 3) := dk_181 0 39 (dk_at dksX3_init_3 11 rfl rfl)
theorem dX3_init_83 : decode cX3_init 83 = .ok (.aload_n 0, 1) := dk_42 (dk_at dksX3_init_3 14 rfl rfl)
theorem dX3_init_84 : decode cX3_init 84 = .ok (.sipush 960, 3) := dk_17 3 192 (dk_at dksX3_init_3 15 rfl rfl)
theorem dX3_init_87 : decode cX3_init 87 = .ok (.newarray .boolean, 2) := dk_188_4 (dk_at dksX3_init_3 18 rfl rfl)
theorem dX3_init_89 : decode cX3_init 89 = .ok (.putfield 42, 3) := dk_181 0 42 (dk_at dksX3_init_3 20 rfl rfl)
theorem dX3_init_92 : decode cX3_init 92 = .ok (.aload_n 0, 1) := dk_42 (dk_at dksX3_init_3 23 rfl rfl)
theorem dX3_init_93 : decode cX3_init 93 = .ok (.sipush 976, 3) := dk_17 3 208 (dk_at dksX3_init_4 0 rfl rfl)
theorem dX3_init_96 : decode cX3_init 96 = .ok (.newarray .int, 2) := dk_188_10 (dk_at dksX3_init_4 3 rfl rfl)
theorem dX3_init_98 : decode cX3_init 98 = .ok (.putfield 45, 3) := dk_181 0 45 (dk_at dksX3_init_4 5 rfl rfl)
theorem dX3_init_101 : decode cX3_init 101 = .ok (.aload_n 0, 1) := dk_42 (dk_at dksX3_init_4 8 rfl rfl)
theorem dX3_init_102 : decode cX3_init 102 = .ok (.sipush 976, 3) := dk_17 3 208 (dk_at dksX3_init_4 9 rfl rfl)
theorem dX3_init_105 : decode cX3_init 105 = .ok (.newarray .int, 2) := dk_188_10 (dk_at dksX3_init_4 12 rfl rfl)
theorem dX3_init_107 : decode cX3_init 107 = .ok (.putfield 48, 3) := dk_181 0 48 (dk_at dksX3_init_4 14 rfl rfl)
theorem dX3_init_110 : decode cX3_init 110 = .ok (.aload_n 0, 1) := dk_42 (dk_at dksX3_init_4 17 rfl rfl)
theorem dX3_init_111 : decode cX3_init 111 = .ok (.bipush 6, 2) := dk_16 6 (dk_at dksX3_init_4 18 rfl rfl)
theorem dX3_init_113 : decode cX3_init 113 = .ok (.newarray .int, 2) := dk_188_10 (dk_at dksX3_init_4 20 rfl rfl)
theorem dX3_init_115 : decode cX3_init 115 = .ok (.putfield 51, 3) := dk_181 0 51 (dk_at dksX3_init_5 0 rfl rfl)
theorem dX3_init_118 : decode cX3_init 118 = .ok (.aload_n 0, 1) := dk_42 (dk_at dksX3_init_5 3 rfl rfl)
theorem dX3_init_119 : decode cX3_init 119 = .ok (.bipush 30, 2) := dk_16 30 (dk_at dksX3_init_5 4 rfl rfl)
theorem dX3_init_121 : decode cX3_init 121 = .ok (.newarray .int, 2) := dk_188_10 (dk_at dksX3_init_5 6 rfl rfl)
theorem dX3_init_123 : decode cX3_init 123 = .ok (.putfield 54, 3) := dk_181 0 54 (dk_at dksX3_init_5 8 rfl rfl)
theorem dX3_init_126 : decode cX3_init 126 = .ok (.aload_n 0, 1) := dk_42 (dk_at dksX3_init_5 11 rfl rfl)
theorem dX3_init_127 : decode cX3_init 127 = .ok (.bipush 30, 2) := dk_16 30 (dk_at dksX3_init_5 12 rfl rfl)
theorem dX3_init_129 : decode cX3_init 129 = .ok (.newarray .int, 2) := dk_188_10 (dk_at dksX3_init_5 14 rfl rfl)
theorem dX3_init_131 : decode cX3_init 131 = .ok (.putfield 57, 3) := dk_181 0 57 (dk_at dksX3_init_5 16 rfl rfl)
theorem dX3_init_134 : decode cX3_init 134 = .ok (.aload_n 0, 1) := dk_42 (dk_at dksX3_init_5 19 rfl rfl)
theorem dX3_init_135 : decode cX3_init 135 = .ok (.bipush 30, 2) := dk_16 30 (dk_at dksX3_init_5 20 rfl rfl)
theorem dX3_init_137 : decode cX3_init 137 = .ok (.newarray .int, 2) := dk_188_10 (dk_at dksX3_init_5 22 rfl rfl)
theorem dX3_init_139 : decode cX3_init 139 = .ok (.putfield 60, 3) := dk_181 0 60 (dk_at dksX3_init_6 0 rfl rfl)
theorem dX3_init_142 : decode cX3_init 142 = .ok (.return_, 1) := dk_177 (dk_at dksX3_init_6 3 rfl rfl)
abbrev cX3_thrown : ByteArray := prog_7_method_2_code
def yX3_thrown : MethodName := ⟨RX3, "thrown", "()I"⟩
theorem dX3_thrown_0 : decode cX3_thrown 0 = .ok (.aload_n 0, 1) := by decide +kernel
theorem dX3_thrown_1 : decode cX3_thrown 1 = .ok (.getfield 63, 3) := by decide +kernel
theorem dX3_thrown_4 : decode cX3_thrown 4 = .ok (.ireturn, 1) := by decide +kernel
abbrev cX3_addParagraph : ByteArray := prog_7_method_7_code
def yX3_addParagraph : MethodName := ⟨RX3, "addParagraph", "()I"⟩
def dkwX3_addParagraph_1 : List UInt8 := [89, 180, 0, 66, 4, 96, 181, 0, 66, 42, 180, 0, 66, 4, 100, 172]
abbrev dktX3_addParagraph_1 : List UInt8 := dkwX3_addParagraph_1 ++ []
def dkwX3_addParagraph_0 : List UInt8 := [42, 42, 180, 0, 66, 16, 6, 160, 0, 7, 4, 167, 0, 4, 3, 182, 0, 76, 154, 0, 5, 3, 172, 42]
abbrev dktX3_addParagraph_0 : List UInt8 := dkwX3_addParagraph_0 ++ dktX3_addParagraph_1
theorem dksX3_addParagraph_0 : cX3_addParagraph.data.toList.drop 0 = dktX3_addParagraph_0 := by decide +kernel
theorem dksX3_addParagraph_1 : cX3_addParagraph.data.toList.drop 24 = dktX3_addParagraph_1 := dk_seg dksX3_addParagraph_0 24 rfl rfl
theorem dX3_addParagraph_0 : decode cX3_addParagraph 0 = .ok (.aload_n 0, 1) := dk_42 (dk_at dksX3_addParagraph_0 0 rfl rfl)
theorem dX3_addParagraph_1 : decode cX3_addParagraph 1 = .ok (.aload_n 0, 1) := dk_42 (dk_at dksX3_addParagraph_0 1 rfl rfl)
theorem dX3_addParagraph_2 : decode cX3_addParagraph 2 = .ok (.getfield 66, 3) := dk_180 0 66 (dk_at dksX3_addParagraph_0 2 rfl rfl)
theorem dX3_addParagraph_5 : decode cX3_addParagraph 5 = .ok (.bipush 6, 2) := dk_16 6 (dk_at dksX3_addParagraph_0 5 rfl rfl)
theorem dX3_addParagraph_7 : decode cX3_addParagraph 7 = .ok (.if_icmp .ne 7, 3) := dk_160 0 7 (dk_at dksX3_addParagraph_0 7 rfl rfl)
theorem dX3_addParagraph_10 : decode cX3_addParagraph 10 = .ok (.iconst 1, 1) := dk_4 (dk_at dksX3_addParagraph_0 10 rfl rfl)
theorem dX3_addParagraph_11 : decode cX3_addParagraph 11 = .ok (.goto 4, 3) := dk_167 0 4 (dk_at dksX3_addParagraph_0 11 rfl rfl)
theorem dX3_addParagraph_14 : decode cX3_addParagraph 14 = .ok (.iconst 0, 1) := dk_3 (dk_at dksX3_addParagraph_0 14 rfl rfl)
theorem dX3_addParagraph_15 : decode cX3_addParagraph 15 = .ok (.invokevirtual 76, 3) := dk_182 0 76 (dk_at dksX3_addParagraph_0 15 rfl rfl)
theorem dX3_addParagraph_18 : decode cX3_addParagraph 18 = .ok (.ifCond .ne 5, 3) := dk_154 0 5 (dk_at dksX3_addParagraph_0 18 rfl rfl)
theorem dX3_addParagraph_21 : decode cX3_addParagraph 21 = .ok (.iconst 0, 1) := dk_3 (dk_at dksX3_addParagraph_0 21 rfl rfl)
theorem dX3_addParagraph_22 : decode cX3_addParagraph 22 = .ok (.ireturn, 1) := dk_172 (dk_at dksX3_addParagraph_0 22 rfl rfl)
theorem dX3_addParagraph_23 : decode cX3_addParagraph 23 = .ok (.aload_n 0, 1) := dk_42 (dk_at dksX3_addParagraph_0 23 rfl rfl)
theorem dX3_addParagraph_24 : decode cX3_addParagraph 24 = .ok (.dup, 1) := dk_89 (dk_at dksX3_addParagraph_1 0 rfl rfl)
theorem dX3_addParagraph_25 : decode cX3_addParagraph 25 = .ok (.getfield 66, 3) := dk_180 0 66 (dk_at dksX3_addParagraph_1 1 rfl rfl)
theorem dX3_addParagraph_28 : decode cX3_addParagraph 28 = .ok (.iconst 1, 1) := dk_4 (dk_at dksX3_addParagraph_1 4 rfl rfl)
theorem dX3_addParagraph_29 : decode cX3_addParagraph 29 = .ok (.iadd, 1) := dk_96 (dk_at dksX3_addParagraph_1 5 rfl rfl)
theorem dX3_addParagraph_30 : decode cX3_addParagraph 30 = .ok (.putfield 66, 3) := dk_181 0 66 (dk_at dksX3_addParagraph_1 6 rfl rfl)
theorem dX3_addParagraph_33 : decode cX3_addParagraph 33 = .ok (.aload_n 0, 1) := dk_42 (dk_at dksX3_addParagraph_1 9 rfl rfl)
theorem dX3_addParagraph_34 : decode cX3_addParagraph 34 = .ok (.getfield 66, 3) := dk_180 0 66 (dk_at dksX3_addParagraph_1 10 rfl rfl)
theorem dX3_addParagraph_37 : decode cX3_addParagraph 37 = .ok (.iconst 1, 1) := dk_4 (dk_at dksX3_addParagraph_1 13 rfl rfl)
theorem dX3_addParagraph_38 : decode cX3_addParagraph 38 = .ok (.isub, 1) := dk_100 (dk_at dksX3_addParagraph_1 14 rfl rfl)
theorem dX3_addParagraph_39 : decode cX3_addParagraph 39 = .ok (.ireturn, 1) := dk_172 (dk_at dksX3_addParagraph_1 15 rfl rfl)
abbrev cX3_holds : ByteArray := prog_7_method_3_code
def yX3_holds : MethodName := ⟨RX3, "holds", "(I)Z"⟩
def dkwX3_holds_0 : List UInt8 := [42, 27, 181, 0, 63, 27, 154, 0, 7, 4, 167, 0, 4, 3, 172]
abbrev dktX3_holds_0 : List UInt8 := dkwX3_holds_0 ++ []
theorem dksX3_holds_0 : cX3_holds.data.toList.drop 0 = dktX3_holds_0 := by decide +kernel
theorem dX3_holds_0 : decode cX3_holds 0 = .ok (.aload_n 0, 1) := dk_42 (dk_at dksX3_holds_0 0 rfl rfl)
theorem dX3_holds_1 : decode cX3_holds 1 = .ok (.iload_n 1, 1) := dk_27 (dk_at dksX3_holds_0 1 rfl rfl)
theorem dX3_holds_2 : decode cX3_holds 2 = .ok (.putfield 63, 3) := dk_181 0 63 (dk_at dksX3_holds_0 2 rfl rfl)
theorem dX3_holds_5 : decode cX3_holds 5 = .ok (.iload_n 1, 1) := dk_27 (dk_at dksX3_holds_0 5 rfl rfl)
theorem dX3_holds_6 : decode cX3_holds 6 = .ok (.ifCond .ne 7, 3) := dk_154 0 7 (dk_at dksX3_holds_0 6 rfl rfl)
theorem dX3_holds_9 : decode cX3_holds 9 = .ok (.iconst 1, 1) := dk_4 (dk_at dksX3_holds_0 9 rfl rfl)
theorem dX3_holds_10 : decode cX3_holds 10 = .ok (.goto 4, 3) := dk_167 0 4 (dk_at dksX3_holds_0 10 rfl rfl)
theorem dX3_holds_13 : decode cX3_holds 13 = .ok (.iconst 0, 1) := dk_3 (dk_at dksX3_holds_0 13 rfl rfl)
theorem dX3_holds_14 : decode cX3_holds 14 = .ok (.ireturn, 1) := dk_172 (dk_at dksX3_holds_0 14 rfl rfl)
abbrev cX3_addWord : ByteArray := prog_7_method_8_code
def yX3_addWord : MethodName := ⟨RX3, "addWord", "(II)I"⟩
def dkwX3_addWord_6 : List UInt8 := [96, 79, 42, 89, 180, 0, 73, 4, 96, 181, 0, 73, 42, 180, 0, 73, 4, 100, 172]
abbrev dktX3_addWord_6 : List UInt8 := dkwX3_addWord_6 ++ []
def dkwX3_addWord_5 : List UInt8 := [16, 60, 27, 104, 42, 180, 0, 20, 27, 46, 96, 42, 180, 0, 73, 79, 42, 180, 0, 20, 27, 92, 46, 4]
abbrev dktX3_addWord_5 : List UInt8 := dkwX3_addWord_5 ++ dktX3_addWord_6
def dkwX3_addWord_4 : List UInt8 := [180, 0, 73, 27, 79, 42, 180, 0, 33, 42, 180, 0, 73, 42, 180, 0, 20, 27, 46, 79, 42, 180, 0, 24]
abbrev dktX3_addWord_4 : List UInt8 := dkwX3_addWord_4 ++ dktX3_addWord_5
def dkwX3_addWord_3 : List UInt8 := [182, 0, 76, 154, 0, 5, 3, 172, 42, 180, 0, 27, 42, 180, 0, 73, 28, 79, 42, 180, 0, 30, 42]
abbrev dktX3_addWord_3 : List UInt8 := dkwX3_addWord_3 ++ dktX3_addWord_4
def dkwX3_addWord_2 : List UInt8 := [16, 15, 184, 0, 69, 154, 0, 7, 5, 167, 0, 13, 21, 4, 153, 0, 7, 3, 167, 0, 4, 6]
abbrev dktX3_addWord_2 : List UInt8 := dkwX3_addWord_2 ++ dktX3_addWord_3
def dkwX3_addWord_1 : List UInt8 := [16, 60, 162, 0, 7, 4, 167, 0, 4, 3, 54, 4, 42, 29, 154, 0, 7, 4, 167, 0, 27, 28, 4]
abbrev dktX3_addWord_1 : List UInt8 := dkwX3_addWord_1 ++ dktX3_addWord_2
def dkwX3_addWord_0 : List UInt8 := [42, 27, 182, 0, 80, 62, 29, 153, 0, 25, 42, 180, 0, 16, 27, 51, 154, 0, 16, 42, 180, 0, 73]
abbrev dktX3_addWord_0 : List UInt8 := dkwX3_addWord_0 ++ dktX3_addWord_1
theorem dksX3_addWord_0 : cX3_addWord.data.toList.drop 0 = dktX3_addWord_0 := by decide +kernel
theorem dksX3_addWord_1 : cX3_addWord.data.toList.drop 23 = dktX3_addWord_1 := dk_seg dksX3_addWord_0 23 rfl rfl
theorem dksX3_addWord_2 : cX3_addWord.data.toList.drop 46 = dktX3_addWord_2 := dk_seg dksX3_addWord_1 23 rfl rfl
theorem dksX3_addWord_3 : cX3_addWord.data.toList.drop 68 = dktX3_addWord_3 := dk_seg dksX3_addWord_2 22 rfl rfl
theorem dksX3_addWord_4 : cX3_addWord.data.toList.drop 91 = dktX3_addWord_4 := dk_seg dksX3_addWord_3 23 rfl rfl
theorem dksX3_addWord_5 : cX3_addWord.data.toList.drop 115 = dktX3_addWord_5 := dk_seg dksX3_addWord_4 24 rfl rfl
theorem dksX3_addWord_6 : cX3_addWord.data.toList.drop 139 = dktX3_addWord_6 := dk_seg dksX3_addWord_5 24 rfl rfl
theorem dX3_addWord_0 : decode cX3_addWord 0 = .ok (.aload_n 0, 1) := dk_42 (dk_at dksX3_addWord_0 0 rfl rfl)
theorem dX3_addWord_1 : decode cX3_addWord 1 = .ok (.iload_n 1, 1) := dk_27 (dk_at dksX3_addWord_0 1 rfl rfl)
theorem dX3_addWord_2 : decode cX3_addWord 2 = .ok (.invokevirtual 80, 3) := dk_182 0 80 (dk_at dksX3_addWord_0 2 rfl rfl)
theorem dX3_addWord_5 : decode cX3_addWord 5 = .ok (.istore_n 3, 1) := dk_62 (dk_at dksX3_addWord_0 5 rfl rfl)
theorem dX3_addWord_6 : decode cX3_addWord 6 = .ok (.iload_n 3, 1) := dk_29 (dk_at dksX3_addWord_0 6 rfl rfl)
theorem dX3_addWord_7 : decode cX3_addWord 7 = .ok (.ifCond .eq 25, 3) := dk_153 0 25 (dk_at dksX3_addWord_0 7 rfl rfl)
theorem dX3_addWord_10 : decode cX3_addWord 10 = .ok (.aload_n 0, 1) := dk_42 (dk_at dksX3_addWord_0 10 rfl rfl)
theorem dX3_addWord_11 : decode cX3_addWord 11 = .ok (.getfield 16, 3) := dk_180 0 16 (dk_at dksX3_addWord_0 11 rfl rfl)
theorem dX3_addWord_14 : decode cX3_addWord 14 = .ok (.iload_n 1, 1) := dk_27 (dk_at dksX3_addWord_0 14 rfl rfl)
theorem dX3_addWord_15 : decode cX3_addWord 15 = .ok (.baload, 1) := dk_51 (dk_at dksX3_addWord_0 15 rfl rfl)
theorem dX3_addWord_16 : decode cX3_addWord 16 = .ok (.ifCond .ne 16, 3) := dk_154 0 16 (dk_at dksX3_addWord_0 16 rfl rfl)
theorem dX3_addWord_19 : decode cX3_addWord 19 = .ok (.aload_n 0, 1) := dk_42 (dk_at dksX3_addWord_0 19 rfl rfl)
theorem dX3_addWord_20 : decode cX3_addWord 20 = .ok (.getfield 73, 3) := dk_180 0 73 (dk_at dksX3_addWord_0 20 rfl rfl)
theorem dX3_addWord_23 : decode cX3_addWord 23 = .ok (.bipush 60, 2) := dk_16 60 (dk_at dksX3_addWord_1 0 rfl rfl)
theorem dX3_addWord_25 : decode cX3_addWord 25 = .ok (.if_icmp .ge 7, 3) := dk_162 0 7 (dk_at dksX3_addWord_1 2 rfl rfl)
theorem dX3_addWord_28 : decode cX3_addWord 28 = .ok (.iconst 1, 1) := dk_4 (dk_at dksX3_addWord_1 5 rfl rfl)
theorem dX3_addWord_29 : decode cX3_addWord 29 = .ok (.goto 4, 3) := dk_167 0 4 (dk_at dksX3_addWord_1 6 rfl rfl)
theorem dX3_addWord_32 : decode cX3_addWord 32 = .ok (.iconst 0, 1) := dk_3 (dk_at dksX3_addWord_1 9 rfl rfl)
theorem dX3_addWord_33 : decode cX3_addWord 33 = .ok (.istore 4, 2) := dk_54 4 (dk_at dksX3_addWord_1 10 rfl rfl)
theorem dX3_addWord_35 : decode cX3_addWord 35 = .ok (.aload_n 0, 1) := dk_42 (dk_at dksX3_addWord_1 12 rfl rfl)
theorem dX3_addWord_36 : decode cX3_addWord 36 = .ok (.iload_n 3, 1) := dk_29 (dk_at dksX3_addWord_1 13 rfl rfl)
theorem dX3_addWord_37 : decode cX3_addWord 37 = .ok (.ifCond .ne 7, 3) := dk_154 0 7 (dk_at dksX3_addWord_1 14 rfl rfl)
theorem dX3_addWord_40 : decode cX3_addWord 40 = .ok (.iconst 1, 1) := dk_4 (dk_at dksX3_addWord_1 17 rfl rfl)
theorem dX3_addWord_41 : decode cX3_addWord 41 = .ok (.goto 27, 3) := dk_167 0 27 (dk_at dksX3_addWord_1 18 rfl rfl)
theorem dX3_addWord_44 : decode cX3_addWord 44 = .ok (.iload_n 2, 1) := dk_28 (dk_at dksX3_addWord_1 21 rfl rfl)
theorem dX3_addWord_45 : decode cX3_addWord 45 = .ok (.iconst 1, 1) := dk_4 (dk_at dksX3_addWord_1 22 rfl rfl)
theorem dX3_addWord_46 : decode cX3_addWord 46 = .ok (.bipush 15, 2) := dk_16 15 (dk_at dksX3_addWord_2 0 rfl rfl)
theorem dX3_addWord_48 : decode cX3_addWord 48 = .ok (.invokestatic 69, 3) := dk_184 0 69 (dk_at dksX3_addWord_2 2 rfl rfl)
theorem dX3_addWord_51 : decode cX3_addWord 51 = .ok (.ifCond .ne 7, 3) := dk_154 0 7 (dk_at dksX3_addWord_2 5 rfl rfl)
theorem dX3_addWord_54 : decode cX3_addWord 54 = .ok (.iconst 2, 1) := dk_5 (dk_at dksX3_addWord_2 8 rfl rfl)
theorem dX3_addWord_55 : decode cX3_addWord 55 = .ok (.goto 13, 3) := dk_167 0 13 (dk_at dksX3_addWord_2 9 rfl rfl)
theorem dX3_addWord_58 : decode cX3_addWord 58 = .ok (.iload 4, 2) := dk_21 4 (dk_at dksX3_addWord_2 12 rfl rfl)
theorem dX3_addWord_60 : decode cX3_addWord 60 = .ok (.ifCond .eq 7, 3) := dk_153 0 7 (dk_at dksX3_addWord_2 14 rfl rfl)
theorem dX3_addWord_63 : decode cX3_addWord 63 = .ok (.iconst 0, 1) := dk_3 (dk_at dksX3_addWord_2 17 rfl rfl)
theorem dX3_addWord_64 : decode cX3_addWord 64 = .ok (.goto 4, 3) := dk_167 0 4 (dk_at dksX3_addWord_2 18 rfl rfl)
theorem dX3_addWord_67 : decode cX3_addWord 67 = .ok (.iconst 3, 1) := dk_6 (dk_at dksX3_addWord_2 21 rfl rfl)
theorem dX3_addWord_68 : decode cX3_addWord 68 = .ok (.invokevirtual 76, 3) := dk_182 0 76 (dk_at dksX3_addWord_3 0 rfl rfl)
theorem dX3_addWord_71 : decode cX3_addWord 71 = .ok (.ifCond .ne 5, 3) := dk_154 0 5 (dk_at dksX3_addWord_3 3 rfl rfl)
theorem dX3_addWord_74 : decode cX3_addWord 74 = .ok (.iconst 0, 1) := dk_3 (dk_at dksX3_addWord_3 6 rfl rfl)
theorem dX3_addWord_75 : decode cX3_addWord 75 = .ok (.ireturn, 1) := dk_172 (dk_at dksX3_addWord_3 7 rfl rfl)
theorem dX3_addWord_76 : decode cX3_addWord 76 = .ok (.aload_n 0, 1) := dk_42 (dk_at dksX3_addWord_3 8 rfl rfl)
theorem dX3_addWord_77 : decode cX3_addWord 77 = .ok (.getfield 27, 3) := dk_180 0 27 (dk_at dksX3_addWord_3 9 rfl rfl)
theorem dX3_addWord_80 : decode cX3_addWord 80 = .ok (.aload_n 0, 1) := dk_42 (dk_at dksX3_addWord_3 12 rfl rfl)
theorem dX3_addWord_81 : decode cX3_addWord 81 = .ok (.getfield 73, 3) := dk_180 0 73 (dk_at dksX3_addWord_3 13 rfl rfl)
theorem dX3_addWord_84 : decode cX3_addWord 84 = .ok (.iload_n 2, 1) := dk_28 (dk_at dksX3_addWord_3 16 rfl rfl)
theorem dX3_addWord_85 : decode cX3_addWord 85 = .ok (.iastore, 1) := dk_79 (dk_at dksX3_addWord_3 17 rfl rfl)
theorem dX3_addWord_86 : decode cX3_addWord 86 = .ok (.aload_n 0, 1) := dk_42 (dk_at dksX3_addWord_3 18 rfl rfl)
theorem dX3_addWord_87 : decode cX3_addWord 87 = .ok (.getfield 30, 3) := dk_180 0 30 (dk_at dksX3_addWord_3 19 rfl rfl)
theorem dX3_addWord_90 : decode cX3_addWord 90 = .ok (.aload_n 0, 1) := dk_42 (dk_at dksX3_addWord_3 22 rfl rfl)
theorem dX3_addWord_91 : decode cX3_addWord 91 = .ok (.getfield 73, 3) := dk_180 0 73 (dk_at dksX3_addWord_4 0 rfl rfl)
theorem dX3_addWord_94 : decode cX3_addWord 94 = .ok (.iload_n 1, 1) := dk_27 (dk_at dksX3_addWord_4 3 rfl rfl)
theorem dX3_addWord_95 : decode cX3_addWord 95 = .ok (.iastore, 1) := dk_79 (dk_at dksX3_addWord_4 4 rfl rfl)
theorem dX3_addWord_96 : decode cX3_addWord 96 = .ok (.aload_n 0, 1) := dk_42 (dk_at dksX3_addWord_4 5 rfl rfl)
theorem dX3_addWord_97 : decode cX3_addWord 97 = .ok (.getfield 33, 3) := dk_180 0 33 (dk_at dksX3_addWord_4 6 rfl rfl)
theorem dX3_addWord_100 : decode cX3_addWord 100 = .ok (.aload_n 0, 1) := dk_42 (dk_at dksX3_addWord_4 9 rfl rfl)
theorem dX3_addWord_101 : decode cX3_addWord 101 = .ok (.getfield 73, 3) := dk_180 0 73 (dk_at dksX3_addWord_4 10 rfl rfl)
theorem dX3_addWord_104 : decode cX3_addWord 104 = .ok (.aload_n 0, 1) := dk_42 (dk_at dksX3_addWord_4 13 rfl rfl)
theorem dX3_addWord_105 : decode cX3_addWord 105 = .ok (.getfield 20, 3) := dk_180 0 20 (dk_at dksX3_addWord_4 14 rfl rfl)
theorem dX3_addWord_108 : decode cX3_addWord 108 = .ok (.iload_n 1, 1) := dk_27 (dk_at dksX3_addWord_4 17 rfl rfl)
theorem dX3_addWord_109 : decode cX3_addWord 109 = .ok (.iaload, 1) := dk_46 (dk_at dksX3_addWord_4 18 rfl rfl)
theorem dX3_addWord_110 : decode cX3_addWord 110 = .ok (.iastore, 1) := dk_79 (dk_at dksX3_addWord_4 19 rfl rfl)
theorem dX3_addWord_111 : decode cX3_addWord 111 = .ok (.aload_n 0, 1) := dk_42 (dk_at dksX3_addWord_4 20 rfl rfl)
theorem dX3_addWord_112 : decode cX3_addWord 112 = .ok (.getfield 24, 3) := dk_180 0 24 (dk_at dksX3_addWord_4 21 rfl rfl)
theorem dX3_addWord_115 : decode cX3_addWord 115 = .ok (.bipush 60, 2) := dk_16 60 (dk_at dksX3_addWord_5 0 rfl rfl)
theorem dX3_addWord_117 : decode cX3_addWord 117 = .ok (.iload_n 1, 1) := dk_27 (dk_at dksX3_addWord_5 2 rfl rfl)
theorem dX3_addWord_118 : decode cX3_addWord 118 = .ok (.imul, 1) := dk_104 (dk_at dksX3_addWord_5 3 rfl rfl)
theorem dX3_addWord_119 : decode cX3_addWord 119 = .ok (.aload_n 0, 1) := dk_42 (dk_at dksX3_addWord_5 4 rfl rfl)
theorem dX3_addWord_120 : decode cX3_addWord 120 = .ok (.getfield 20, 3) := dk_180 0 20 (dk_at dksX3_addWord_5 5 rfl rfl)
theorem dX3_addWord_123 : decode cX3_addWord 123 = .ok (.iload_n 1, 1) := dk_27 (dk_at dksX3_addWord_5 8 rfl rfl)
theorem dX3_addWord_124 : decode cX3_addWord 124 = .ok (.iaload, 1) := dk_46 (dk_at dksX3_addWord_5 9 rfl rfl)
theorem dX3_addWord_125 : decode cX3_addWord 125 = .ok (.iadd, 1) := dk_96 (dk_at dksX3_addWord_5 10 rfl rfl)
theorem dX3_addWord_126 : decode cX3_addWord 126 = .ok (.aload_n 0, 1) := dk_42 (dk_at dksX3_addWord_5 11 rfl rfl)
theorem dX3_addWord_127 : decode cX3_addWord 127 = .ok (.getfield 73, 3) := dk_180 0 73 (dk_at dksX3_addWord_5 12 rfl rfl)
theorem dX3_addWord_130 : decode cX3_addWord 130 = .ok (.iastore, 1) := dk_79 (dk_at dksX3_addWord_5 15 rfl rfl)
theorem dX3_addWord_131 : decode cX3_addWord 131 = .ok (.aload_n 0, 1) := dk_42 (dk_at dksX3_addWord_5 16 rfl rfl)
theorem dX3_addWord_132 : decode cX3_addWord 132 = .ok (.getfield 20, 3) := dk_180 0 20 (dk_at dksX3_addWord_5 17 rfl rfl)
theorem dX3_addWord_135 : decode cX3_addWord 135 = .ok (.iload_n 1, 1) := dk_27 (dk_at dksX3_addWord_5 20 rfl rfl)
theorem dX3_addWord_136 : decode cX3_addWord 136 = .ok (.dup2, 1) := dk_92 (dk_at dksX3_addWord_5 21 rfl rfl)
theorem dX3_addWord_137 : decode cX3_addWord 137 = .ok (.iaload, 1) := dk_46 (dk_at dksX3_addWord_5 22 rfl rfl)
theorem dX3_addWord_138 : decode cX3_addWord 138 = .ok (.iconst 1, 1) := dk_4 (dk_at dksX3_addWord_5 23 rfl rfl)
theorem dX3_addWord_139 : decode cX3_addWord 139 = .ok (.iadd, 1) := dk_96 (dk_at dksX3_addWord_6 0 rfl rfl)
theorem dX3_addWord_140 : decode cX3_addWord 140 = .ok (.iastore, 1) := dk_79 (dk_at dksX3_addWord_6 1 rfl rfl)
theorem dX3_addWord_141 : decode cX3_addWord 141 = .ok (.aload_n 0, 1) := dk_42 (dk_at dksX3_addWord_6 2 rfl rfl)
theorem dX3_addWord_142 : decode cX3_addWord 142 = .ok (.dup, 1) := dk_89 (dk_at dksX3_addWord_6 3 rfl rfl)
theorem dX3_addWord_143 : decode cX3_addWord 143 = .ok (.getfield 73, 3) := dk_180 0 73 (dk_at dksX3_addWord_6 4 rfl rfl)
theorem dX3_addWord_146 : decode cX3_addWord 146 = .ok (.iconst 1, 1) := dk_4 (dk_at dksX3_addWord_6 7 rfl rfl)
theorem dX3_addWord_147 : decode cX3_addWord 147 = .ok (.iadd, 1) := dk_96 (dk_at dksX3_addWord_6 8 rfl rfl)
theorem dX3_addWord_148 : decode cX3_addWord 148 = .ok (.putfield 73, 3) := dk_181 0 73 (dk_at dksX3_addWord_6 9 rfl rfl)
theorem dX3_addWord_151 : decode cX3_addWord 151 = .ok (.aload_n 0, 1) := dk_42 (dk_at dksX3_addWord_6 12 rfl rfl)
theorem dX3_addWord_152 : decode cX3_addWord 152 = .ok (.getfield 73, 3) := dk_180 0 73 (dk_at dksX3_addWord_6 13 rfl rfl)
theorem dX3_addWord_155 : decode cX3_addWord 155 = .ok (.iconst 1, 1) := dk_4 (dk_at dksX3_addWord_6 16 rfl rfl)
theorem dX3_addWord_156 : decode cX3_addWord 156 = .ok (.isub, 1) := dk_100 (dk_at dksX3_addWord_6 17 rfl rfl)
theorem dX3_addWord_157 : decode cX3_addWord 157 = .ok (.ireturn, 1) := dk_172 (dk_at dksX3_addWord_6 18 rfl rfl)
abbrev cX3_isParagraph : ByteArray := prog_7_method_5_code
def yX3_isParagraph : MethodName := ⟨RX3, "isParagraph", "(I)Z"⟩
def dkwX3_isParagraph_0 : List UInt8 := [27, 3, 42, 180, 0, 66, 4, 100, 184, 0, 69, 172]
abbrev dktX3_isParagraph_0 : List UInt8 := dkwX3_isParagraph_0 ++ []
theorem dksX3_isParagraph_0 : cX3_isParagraph.data.toList.drop 0 = dktX3_isParagraph_0 := by decide +kernel
theorem dX3_isParagraph_0 : decode cX3_isParagraph 0 = .ok (.iload_n 1, 1) := dk_27 (dk_at dksX3_isParagraph_0 0 rfl rfl)
theorem dX3_isParagraph_1 : decode cX3_isParagraph 1 = .ok (.iconst 0, 1) := dk_3 (dk_at dksX3_isParagraph_0 1 rfl rfl)
theorem dX3_isParagraph_2 : decode cX3_isParagraph 2 = .ok (.aload_n 0, 1) := dk_42 (dk_at dksX3_isParagraph_0 2 rfl rfl)
theorem dX3_isParagraph_3 : decode cX3_isParagraph 3 = .ok (.getfield 66, 3) := dk_180 0 66 (dk_at dksX3_isParagraph_0 3 rfl rfl)
theorem dX3_isParagraph_6 : decode cX3_isParagraph 6 = .ok (.iconst 1, 1) := dk_4 (dk_at dksX3_isParagraph_0 6 rfl rfl)
theorem dX3_isParagraph_7 : decode cX3_isParagraph 7 = .ok (.isub, 1) := dk_100 (dk_at dksX3_isParagraph_0 7 rfl rfl)
theorem dX3_isParagraph_8 : decode cX3_isParagraph 8 = .ok (.invokestatic 69, 3) := dk_184 0 69 (dk_at dksX3_isParagraph_0 8 rfl rfl)
theorem dX3_isParagraph_11 : decode cX3_isParagraph 11 = .ok (.ireturn, 1) := dk_172 (dk_at dksX3_isParagraph_0 11 rfl rfl)
abbrev cX3_isIn : ByteArray := prog_7_method_4_code
def yX3_isIn : MethodName := ⟨RX3, "isIn", "(III)Z"⟩
def dkwX3_isIn_0 : List UInt8 := [26, 27, 161, 0, 12, 26, 28, 163, 0, 7, 4, 167, 0, 4, 3, 172]
abbrev dktX3_isIn_0 : List UInt8 := dkwX3_isIn_0 ++ []
theorem dksX3_isIn_0 : cX3_isIn.data.toList.drop 0 = dktX3_isIn_0 := by decide +kernel
theorem dX3_isIn_0 : decode cX3_isIn 0 = .ok (.iload_n 0, 1) := dk_26 (dk_at dksX3_isIn_0 0 rfl rfl)
theorem dX3_isIn_1 : decode cX3_isIn 1 = .ok (.iload_n 1, 1) := dk_27 (dk_at dksX3_isIn_0 1 rfl rfl)
theorem dX3_isIn_2 : decode cX3_isIn 2 = .ok (.if_icmp .lt 12, 3) := dk_161 0 12 (dk_at dksX3_isIn_0 2 rfl rfl)
theorem dX3_isIn_5 : decode cX3_isIn 5 = .ok (.iload_n 0, 1) := dk_26 (dk_at dksX3_isIn_0 5 rfl rfl)
theorem dX3_isIn_6 : decode cX3_isIn 6 = .ok (.iload_n 2, 1) := dk_28 (dk_at dksX3_isIn_0 6 rfl rfl)
theorem dX3_isIn_7 : decode cX3_isIn 7 = .ok (.if_icmp .gt 7, 3) := dk_163 0 7 (dk_at dksX3_isIn_0 7 rfl rfl)
theorem dX3_isIn_10 : decode cX3_isIn 10 = .ok (.iconst 1, 1) := dk_4 (dk_at dksX3_isIn_0 10 rfl rfl)
theorem dX3_isIn_11 : decode cX3_isIn 11 = .ok (.goto 4, 3) := dk_167 0 4 (dk_at dksX3_isIn_0 11 rfl rfl)
theorem dX3_isIn_14 : decode cX3_isIn 14 = .ok (.iconst 0, 1) := dk_3 (dk_at dksX3_isIn_0 14 rfl rfl)
theorem dX3_isIn_15 : decode cX3_isIn 15 = .ok (.ireturn, 1) := dk_172 (dk_at dksX3_isIn_0 15 rfl rfl)
abbrev cX3_vote : ByteArray := prog_7_method_9_code
def yX3_vote : MethodName := ⟨RX3, "vote", "(IIZ)I"⟩
def dkwX3_vote_5 : List UInt8 := [46, 172]
abbrev dktX3_vote_5 : List UInt8 := dkwX3_vote_5 ++ []
def dkwX3_vote_4 : List UInt8 := [180, 0, 36, 21, 5, 92, 46, 29, 153, 0, 7, 4, 167, 0, 4, 2, 96, 79, 42, 180, 0, 36, 21, 5]
abbrev dktX3_vote_4 : List UInt8 := dkwX3_vote_4 ++ dktX3_vote_5
def dkwX3_vote_3 : List UInt8 := [167, 0, 5, 16, 156, 160, 0, 7, 5, 167, 0, 4, 3, 182, 0, 76, 154, 0, 5, 3, 172, 42]
abbrev dktX3_vote_3 : List UInt8 := dkwX3_vote_3 ++ dktX3_vote_4
def dkwX3_vote_2 : List UInt8 := [42, 21, 4, 154, 0, 7, 4, 167, 0, 29, 42, 180, 0, 36, 21, 5, 46, 29, 153, 0, 8, 16, 100]
abbrev dktX3_vote_2 : List UInt8 := dkwX3_vote_2 ++ dktX3_vote_3
def dkwX3_vote_1 : List UInt8 := [4, 167, 0, 4, 3, 54, 4, 21, 4, 153, 0, 12, 16, 16, 27, 104, 28, 96, 167, 0, 4, 3, 54, 5]
abbrev dktX3_vote_1 : List UInt8 := dkwX3_vote_1 ++ dktX3_vote_2
def dkwX3_vote_0 : List UInt8 := [42, 27, 182, 0, 83, 153, 0, 23, 28, 4, 42, 180, 0, 27, 27, 46, 4, 100, 184, 0, 69, 153, 0, 7]
abbrev dktX3_vote_0 : List UInt8 := dkwX3_vote_0 ++ dktX3_vote_1
theorem dksX3_vote_0 : cX3_vote.data.toList.drop 0 = dktX3_vote_0 := by decide +kernel
theorem dksX3_vote_1 : cX3_vote.data.toList.drop 24 = dktX3_vote_1 := dk_seg dksX3_vote_0 24 rfl rfl
theorem dksX3_vote_2 : cX3_vote.data.toList.drop 48 = dktX3_vote_2 := dk_seg dksX3_vote_1 24 rfl rfl
theorem dksX3_vote_3 : cX3_vote.data.toList.drop 71 = dktX3_vote_3 := dk_seg dksX3_vote_2 23 rfl rfl
theorem dksX3_vote_4 : cX3_vote.data.toList.drop 93 = dktX3_vote_4 := dk_seg dksX3_vote_3 22 rfl rfl
theorem dksX3_vote_5 : cX3_vote.data.toList.drop 117 = dktX3_vote_5 := dk_seg dksX3_vote_4 24 rfl rfl
theorem dX3_vote_0 : decode cX3_vote 0 = .ok (.aload_n 0, 1) := dk_42 (dk_at dksX3_vote_0 0 rfl rfl)
theorem dX3_vote_1 : decode cX3_vote 1 = .ok (.iload_n 1, 1) := dk_27 (dk_at dksX3_vote_0 1 rfl rfl)
theorem dX3_vote_2 : decode cX3_vote 2 = .ok (.invokevirtual 83, 3) := dk_182 0 83 (dk_at dksX3_vote_0 2 rfl rfl)
theorem dX3_vote_5 : decode cX3_vote 5 = .ok (.ifCond .eq 23, 3) := dk_153 0 23 (dk_at dksX3_vote_0 5 rfl rfl)
theorem dX3_vote_8 : decode cX3_vote 8 = .ok (.iload_n 2, 1) := dk_28 (dk_at dksX3_vote_0 8 rfl rfl)
theorem dX3_vote_9 : decode cX3_vote 9 = .ok (.iconst 1, 1) := dk_4 (dk_at dksX3_vote_0 9 rfl rfl)
theorem dX3_vote_10 : decode cX3_vote 10 = .ok (.aload_n 0, 1) := dk_42 (dk_at dksX3_vote_0 10 rfl rfl)
theorem dX3_vote_11 : decode cX3_vote 11 = .ok (.getfield 27, 3) := dk_180 0 27 (dk_at dksX3_vote_0 11 rfl rfl)
theorem dX3_vote_14 : decode cX3_vote 14 = .ok (.iload_n 1, 1) := dk_27 (dk_at dksX3_vote_0 14 rfl rfl)
theorem dX3_vote_15 : decode cX3_vote 15 = .ok (.iaload, 1) := dk_46 (dk_at dksX3_vote_0 15 rfl rfl)
theorem dX3_vote_16 : decode cX3_vote 16 = .ok (.iconst 1, 1) := dk_4 (dk_at dksX3_vote_0 16 rfl rfl)
theorem dX3_vote_17 : decode cX3_vote 17 = .ok (.isub, 1) := dk_100 (dk_at dksX3_vote_0 17 rfl rfl)
theorem dX3_vote_18 : decode cX3_vote 18 = .ok (.invokestatic 69, 3) := dk_184 0 69 (dk_at dksX3_vote_0 18 rfl rfl)
theorem dX3_vote_21 : decode cX3_vote 21 = .ok (.ifCond .eq 7, 3) := dk_153 0 7 (dk_at dksX3_vote_0 21 rfl rfl)
theorem dX3_vote_24 : decode cX3_vote 24 = .ok (.iconst 1, 1) := dk_4 (dk_at dksX3_vote_1 0 rfl rfl)
theorem dX3_vote_25 : decode cX3_vote 25 = .ok (.goto 4, 3) := dk_167 0 4 (dk_at dksX3_vote_1 1 rfl rfl)
theorem dX3_vote_28 : decode cX3_vote 28 = .ok (.iconst 0, 1) := dk_3 (dk_at dksX3_vote_1 4 rfl rfl)
theorem dX3_vote_29 : decode cX3_vote 29 = .ok (.istore 4, 2) := dk_54 4 (dk_at dksX3_vote_1 5 rfl rfl)
theorem dX3_vote_31 : decode cX3_vote 31 = .ok (.iload 4, 2) := dk_21 4 (dk_at dksX3_vote_1 7 rfl rfl)
theorem dX3_vote_33 : decode cX3_vote 33 = .ok (.ifCond .eq 12, 3) := dk_153 0 12 (dk_at dksX3_vote_1 9 rfl rfl)
theorem dX3_vote_36 : decode cX3_vote 36 = .ok (.bipush 16, 2) := dk_16 16 (dk_at dksX3_vote_1 12 rfl rfl)
theorem dX3_vote_38 : decode cX3_vote 38 = .ok (.iload_n 1, 1) := dk_27 (dk_at dksX3_vote_1 14 rfl rfl)
theorem dX3_vote_39 : decode cX3_vote 39 = .ok (.imul, 1) := dk_104 (dk_at dksX3_vote_1 15 rfl rfl)
theorem dX3_vote_40 : decode cX3_vote 40 = .ok (.iload_n 2, 1) := dk_28 (dk_at dksX3_vote_1 16 rfl rfl)
theorem dX3_vote_41 : decode cX3_vote 41 = .ok (.iadd, 1) := dk_96 (dk_at dksX3_vote_1 17 rfl rfl)
theorem dX3_vote_42 : decode cX3_vote 42 = .ok (.goto 4, 3) := dk_167 0 4 (dk_at dksX3_vote_1 18 rfl rfl)
theorem dX3_vote_45 : decode cX3_vote 45 = .ok (.iconst 0, 1) := dk_3 (dk_at dksX3_vote_1 21 rfl rfl)
theorem dX3_vote_46 : decode cX3_vote 46 = .ok (.istore 5, 2) := dk_54 5 (dk_at dksX3_vote_1 22 rfl rfl)
theorem dX3_vote_48 : decode cX3_vote 48 = .ok (.aload_n 0, 1) := dk_42 (dk_at dksX3_vote_2 0 rfl rfl)
theorem dX3_vote_49 : decode cX3_vote 49 = .ok (.iload 4, 2) := dk_21 4 (dk_at dksX3_vote_2 1 rfl rfl)
theorem dX3_vote_51 : decode cX3_vote 51 = .ok (.ifCond .ne 7, 3) := dk_154 0 7 (dk_at dksX3_vote_2 3 rfl rfl)
theorem dX3_vote_54 : decode cX3_vote 54 = .ok (.iconst 1, 1) := dk_4 (dk_at dksX3_vote_2 6 rfl rfl)
theorem dX3_vote_55 : decode cX3_vote 55 = .ok (.goto 29, 3) := dk_167 0 29 (dk_at dksX3_vote_2 7 rfl rfl)
theorem dX3_vote_58 : decode cX3_vote 58 = .ok (.aload_n 0, 1) := dk_42 (dk_at dksX3_vote_2 10 rfl rfl)
theorem dX3_vote_59 : decode cX3_vote 59 = .ok (.getfield 36, 3) := dk_180 0 36 (dk_at dksX3_vote_2 11 rfl rfl)
theorem dX3_vote_62 : decode cX3_vote 62 = .ok (.iload 5, 2) := dk_21 5 (dk_at dksX3_vote_2 14 rfl rfl)
theorem dX3_vote_64 : decode cX3_vote 64 = .ok (.iaload, 1) := dk_46 (dk_at dksX3_vote_2 16 rfl rfl)
theorem dX3_vote_65 : decode cX3_vote 65 = .ok (.iload_n 3, 1) := dk_29 (dk_at dksX3_vote_2 17 rfl rfl)
theorem dX3_vote_66 : decode cX3_vote 66 = .ok (.ifCond .eq 8, 3) := dk_153 0 8 (dk_at dksX3_vote_2 18 rfl rfl)
theorem dX3_vote_69 : decode cX3_vote 69 = .ok (.bipush 100, 2) := dk_16 100 (dk_at dksX3_vote_2 21 rfl rfl)
theorem dX3_vote_71 : decode cX3_vote 71 = .ok (.goto 5, 3) := dk_167 0 5 (dk_at dksX3_vote_3 0 rfl rfl)
theorem dX3_vote_74 : decode cX3_vote 74 = .ok (.bipush (-100), 2) := dk_16 156 (dk_at dksX3_vote_3 3 rfl rfl)
theorem dX3_vote_76 : decode cX3_vote 76 = .ok (.if_icmp .ne 7, 3) := dk_160 0 7 (dk_at dksX3_vote_3 5 rfl rfl)
theorem dX3_vote_79 : decode cX3_vote 79 = .ok (.iconst 2, 1) := dk_5 (dk_at dksX3_vote_3 8 rfl rfl)
theorem dX3_vote_80 : decode cX3_vote 80 = .ok (.goto 4, 3) := dk_167 0 4 (dk_at dksX3_vote_3 9 rfl rfl)
theorem dX3_vote_83 : decode cX3_vote 83 = .ok (.iconst 0, 1) := dk_3 (dk_at dksX3_vote_3 12 rfl rfl)
theorem dX3_vote_84 : decode cX3_vote 84 = .ok (.invokevirtual 76, 3) := dk_182 0 76 (dk_at dksX3_vote_3 13 rfl rfl)
theorem dX3_vote_87 : decode cX3_vote 87 = .ok (.ifCond .ne 5, 3) := dk_154 0 5 (dk_at dksX3_vote_3 16 rfl rfl)
theorem dX3_vote_90 : decode cX3_vote 90 = .ok (.iconst 0, 1) := dk_3 (dk_at dksX3_vote_3 19 rfl rfl)
theorem dX3_vote_91 : decode cX3_vote 91 = .ok (.ireturn, 1) := dk_172 (dk_at dksX3_vote_3 20 rfl rfl)
theorem dX3_vote_92 : decode cX3_vote 92 = .ok (.aload_n 0, 1) := dk_42 (dk_at dksX3_vote_3 21 rfl rfl)
theorem dX3_vote_93 : decode cX3_vote 93 = .ok (.getfield 36, 3) := dk_180 0 36 (dk_at dksX3_vote_4 0 rfl rfl)
theorem dX3_vote_96 : decode cX3_vote 96 = .ok (.iload 5, 2) := dk_21 5 (dk_at dksX3_vote_4 3 rfl rfl)
theorem dX3_vote_98 : decode cX3_vote 98 = .ok (.dup2, 1) := dk_92 (dk_at dksX3_vote_4 5 rfl rfl)
theorem dX3_vote_99 : decode cX3_vote 99 = .ok (.iaload, 1) := dk_46 (dk_at dksX3_vote_4 6 rfl rfl)
theorem dX3_vote_100 : decode cX3_vote 100 = .ok (.iload_n 3, 1) := dk_29 (dk_at dksX3_vote_4 7 rfl rfl)
theorem dX3_vote_101 : decode cX3_vote 101 = .ok (.ifCond .eq 7, 3) := dk_153 0 7 (dk_at dksX3_vote_4 8 rfl rfl)
theorem dX3_vote_104 : decode cX3_vote 104 = .ok (.iconst 1, 1) := dk_4 (dk_at dksX3_vote_4 11 rfl rfl)
theorem dX3_vote_105 : decode cX3_vote 105 = .ok (.goto 4, 3) := dk_167 0 4 (dk_at dksX3_vote_4 12 rfl rfl)
theorem dX3_vote_108 : decode cX3_vote 108 = .ok (.iconst (-1), 1) := dk_2 (dk_at dksX3_vote_4 15 rfl rfl)
theorem dX3_vote_109 : decode cX3_vote 109 = .ok (.iadd, 1) := dk_96 (dk_at dksX3_vote_4 16 rfl rfl)
theorem dX3_vote_110 : decode cX3_vote 110 = .ok (.iastore, 1) := dk_79 (dk_at dksX3_vote_4 17 rfl rfl)
theorem dX3_vote_111 : decode cX3_vote 111 = .ok (.aload_n 0, 1) := dk_42 (dk_at dksX3_vote_4 18 rfl rfl)
theorem dX3_vote_112 : decode cX3_vote 112 = .ok (.getfield 36, 3) := dk_180 0 36 (dk_at dksX3_vote_4 19 rfl rfl)
theorem dX3_vote_115 : decode cX3_vote 115 = .ok (.iload 5, 2) := dk_21 5 (dk_at dksX3_vote_4 22 rfl rfl)
theorem dX3_vote_117 : decode cX3_vote 117 = .ok (.iaload, 1) := dk_46 (dk_at dksX3_vote_5 0 rfl rfl)
theorem dX3_vote_118 : decode cX3_vote 118 = .ok (.ireturn, 1) := dk_172 (dk_at dksX3_vote_5 1 rfl rfl)
abbrev cX3_isWord : ByteArray := prog_7_method_6_code
def yX3_isWord : MethodName := ⟨RX3, "isWord", "(I)Z"⟩
def dkwX3_isWord_0 : List UInt8 := [27, 3, 42, 180, 0, 73, 4, 100, 184, 0, 69, 172]
abbrev dktX3_isWord_0 : List UInt8 := dkwX3_isWord_0 ++ []
theorem dksX3_isWord_0 : cX3_isWord.data.toList.drop 0 = dktX3_isWord_0 := by decide +kernel
theorem dX3_isWord_0 : decode cX3_isWord 0 = .ok (.iload_n 1, 1) := dk_27 (dk_at dksX3_isWord_0 0 rfl rfl)
theorem dX3_isWord_1 : decode cX3_isWord 1 = .ok (.iconst 0, 1) := dk_3 (dk_at dksX3_isWord_0 1 rfl rfl)
theorem dX3_isWord_2 : decode cX3_isWord 2 = .ok (.aload_n 0, 1) := dk_42 (dk_at dksX3_isWord_0 2 rfl rfl)
theorem dX3_isWord_3 : decode cX3_isWord 3 = .ok (.getfield 73, 3) := dk_180 0 73 (dk_at dksX3_isWord_0 3 rfl rfl)
theorem dX3_isWord_6 : decode cX3_isWord 6 = .ok (.iconst 1, 1) := dk_4 (dk_at dksX3_isWord_0 6 rfl rfl)
theorem dX3_isWord_7 : decode cX3_isWord 7 = .ok (.isub, 1) := dk_100 (dk_at dksX3_isWord_0 7 rfl rfl)
theorem dX3_isWord_8 : decode cX3_isWord 8 = .ok (.invokestatic 69, 3) := dk_184 0 69 (dk_at dksX3_isWord_0 8 rfl rfl)
theorem dX3_isWord_11 : decode cX3_isWord 11 = .ok (.ireturn, 1) := dk_172 (dk_at dksX3_isWord_0 11 rfl rfl)
abbrev cX3_setPage : ByteArray := prog_7_method_10_code
def yX3_setPage : MethodName := ⟨RX3, "setPage", "(II)I"⟩
def dkwX3_setPage_2 : List UInt8 := [181, 0, 13, 29, 172]
abbrev dktX3_setPage_2 : List UInt8 := dkwX3_setPage_2 ++ []
def dkwX3_setPage_1 : List UInt8 := [167, 0, 4, 4, 182, 0, 76, 154, 0, 5, 3, 172, 42, 180, 0, 7, 62, 42, 27, 181, 0, 7, 42, 28]
abbrev dktX3_setPage_1 : List UInt8 := dkwX3_setPage_1 ++ dktX3_setPage_2
def dkwX3_setPage_0 : List UInt8 := [42, 27, 16, 10, 16, 60, 184, 0, 69, 153, 0, 17, 28, 6, 16, 20, 184, 0, 69, 153, 0, 7, 3]
abbrev dktX3_setPage_0 : List UInt8 := dkwX3_setPage_0 ++ dktX3_setPage_1
theorem dksX3_setPage_0 : cX3_setPage.data.toList.drop 0 = dktX3_setPage_0 := by decide +kernel
theorem dksX3_setPage_1 : cX3_setPage.data.toList.drop 23 = dktX3_setPage_1 := dk_seg dksX3_setPage_0 23 rfl rfl
theorem dksX3_setPage_2 : cX3_setPage.data.toList.drop 47 = dktX3_setPage_2 := dk_seg dksX3_setPage_1 24 rfl rfl
theorem dX3_setPage_0 : decode cX3_setPage 0 = .ok (.aload_n 0, 1) := dk_42 (dk_at dksX3_setPage_0 0 rfl rfl)
theorem dX3_setPage_1 : decode cX3_setPage 1 = .ok (.iload_n 1, 1) := dk_27 (dk_at dksX3_setPage_0 1 rfl rfl)
theorem dX3_setPage_2 : decode cX3_setPage 2 = .ok (.bipush 10, 2) := dk_16 10 (dk_at dksX3_setPage_0 2 rfl rfl)
theorem dX3_setPage_4 : decode cX3_setPage 4 = .ok (.bipush 60, 2) := dk_16 60 (dk_at dksX3_setPage_0 4 rfl rfl)
theorem dX3_setPage_6 : decode cX3_setPage 6 = .ok (.invokestatic 69, 3) := dk_184 0 69 (dk_at dksX3_setPage_0 6 rfl rfl)
theorem dX3_setPage_9 : decode cX3_setPage 9 = .ok (.ifCond .eq 17, 3) := dk_153 0 17 (dk_at dksX3_setPage_0 9 rfl rfl)
theorem dX3_setPage_12 : decode cX3_setPage 12 = .ok (.iload_n 2, 1) := dk_28 (dk_at dksX3_setPage_0 12 rfl rfl)
theorem dX3_setPage_13 : decode cX3_setPage 13 = .ok (.iconst 3, 1) := dk_6 (dk_at dksX3_setPage_0 13 rfl rfl)
theorem dX3_setPage_14 : decode cX3_setPage 14 = .ok (.bipush 20, 2) := dk_16 20 (dk_at dksX3_setPage_0 14 rfl rfl)
theorem dX3_setPage_16 : decode cX3_setPage 16 = .ok (.invokestatic 69, 3) := dk_184 0 69 (dk_at dksX3_setPage_0 16 rfl rfl)
theorem dX3_setPage_19 : decode cX3_setPage 19 = .ok (.ifCond .eq 7, 3) := dk_153 0 7 (dk_at dksX3_setPage_0 19 rfl rfl)
theorem dX3_setPage_22 : decode cX3_setPage 22 = .ok (.iconst 0, 1) := dk_3 (dk_at dksX3_setPage_0 22 rfl rfl)
theorem dX3_setPage_23 : decode cX3_setPage 23 = .ok (.goto 4, 3) := dk_167 0 4 (dk_at dksX3_setPage_1 0 rfl rfl)
theorem dX3_setPage_26 : decode cX3_setPage 26 = .ok (.iconst 1, 1) := dk_4 (dk_at dksX3_setPage_1 3 rfl rfl)
theorem dX3_setPage_27 : decode cX3_setPage 27 = .ok (.invokevirtual 76, 3) := dk_182 0 76 (dk_at dksX3_setPage_1 4 rfl rfl)
theorem dX3_setPage_30 : decode cX3_setPage 30 = .ok (.ifCond .ne 5, 3) := dk_154 0 5 (dk_at dksX3_setPage_1 7 rfl rfl)
theorem dX3_setPage_33 : decode cX3_setPage 33 = .ok (.iconst 0, 1) := dk_3 (dk_at dksX3_setPage_1 10 rfl rfl)
theorem dX3_setPage_34 : decode cX3_setPage 34 = .ok (.ireturn, 1) := dk_172 (dk_at dksX3_setPage_1 11 rfl rfl)
theorem dX3_setPage_35 : decode cX3_setPage 35 = .ok (.aload_n 0, 1) := dk_42 (dk_at dksX3_setPage_1 12 rfl rfl)
theorem dX3_setPage_36 : decode cX3_setPage 36 = .ok (.getfield 7, 3) := dk_180 0 7 (dk_at dksX3_setPage_1 13 rfl rfl)
theorem dX3_setPage_39 : decode cX3_setPage 39 = .ok (.istore_n 3, 1) := dk_62 (dk_at dksX3_setPage_1 16 rfl rfl)
theorem dX3_setPage_40 : decode cX3_setPage 40 = .ok (.aload_n 0, 1) := dk_42 (dk_at dksX3_setPage_1 17 rfl rfl)
theorem dX3_setPage_41 : decode cX3_setPage 41 = .ok (.iload_n 1, 1) := dk_27 (dk_at dksX3_setPage_1 18 rfl rfl)
theorem dX3_setPage_42 : decode cX3_setPage 42 = .ok (.putfield 7, 3) := dk_181 0 7 (dk_at dksX3_setPage_1 19 rfl rfl)
theorem dX3_setPage_45 : decode cX3_setPage 45 = .ok (.aload_n 0, 1) := dk_42 (dk_at dksX3_setPage_1 22 rfl rfl)
theorem dX3_setPage_46 : decode cX3_setPage 46 = .ok (.iload_n 2, 1) := dk_28 (dk_at dksX3_setPage_1 23 rfl rfl)
theorem dX3_setPage_47 : decode cX3_setPage 47 = .ok (.putfield 13, 3) := dk_181 0 13 (dk_at dksX3_setPage_2 0 rfl rfl)
theorem dX3_setPage_50 : decode cX3_setPage 50 = .ok (.iload_n 3, 1) := dk_29 (dk_at dksX3_setPage_2 3 rfl rfl)
theorem dX3_setPage_51 : decode cX3_setPage 51 = .ok (.ireturn, 1) := dk_172 (dk_at dksX3_setPage_2 4 rfl rfl)
abbrev cX3_freeze : ByteArray := prog_7_method_19_code
def yX3_freeze : MethodName := ⟨RX3, "freeze", "(I)I"⟩
def dkwX3_freeze_4 : List UInt8 := [21, 5, 51, 84, 132, 4, 1, 167, 255, 218, 132, 3, 1, 167, 255, 199, 42, 180, 0, 51, 27, 46, 172]
abbrev dktX3_freeze_4 : List UInt8 := dkwX3_freeze_4 ++ []
def dkwX3_freeze_3 : List UInt8 := [16, 16, 42, 27, 29, 182, 0, 87, 104, 21, 4, 96, 54, 5, 42, 180, 0, 42, 21, 5, 42, 180, 0, 39]
abbrev dktX3_freeze_3 : List UInt8 := dkwX3_freeze_3 ++ dktX3_freeze_4
def dkwX3_freeze_2 : List UInt8 := [84, 3, 62, 29, 42, 180, 0, 20, 27, 46, 162, 0, 53, 3, 54, 4, 21, 4, 16, 16, 162, 0, 37]
abbrev dktX3_freeze_2 : List UInt8 := dkwX3_freeze_2 ++ dktX3_freeze_3
def dkwX3_freeze_1 : List UInt8 := [5, 167, 0, 4, 3, 182, 0, 76, 154, 0, 5, 3, 172, 42, 27, 182, 0, 110, 42, 180, 0, 16, 27, 4]
abbrev dktX3_freeze_1 : List UInt8 := dkwX3_freeze_1 ++ dktX3_freeze_2
def dkwX3_freeze_0 : List UInt8 := [42, 27, 182, 0, 80, 61, 42, 28, 154, 0, 7, 4, 167, 0, 17, 42, 180, 0, 16, 27, 51, 153, 0, 7]
abbrev dktX3_freeze_0 : List UInt8 := dkwX3_freeze_0 ++ dktX3_freeze_1
theorem dksX3_freeze_0 : cX3_freeze.data.toList.drop 0 = dktX3_freeze_0 := by decide +kernel
theorem dksX3_freeze_1 : cX3_freeze.data.toList.drop 24 = dktX3_freeze_1 := dk_seg dksX3_freeze_0 24 rfl rfl
theorem dksX3_freeze_2 : cX3_freeze.data.toList.drop 48 = dktX3_freeze_2 := dk_seg dksX3_freeze_1 24 rfl rfl
theorem dksX3_freeze_3 : cX3_freeze.data.toList.drop 71 = dktX3_freeze_3 := dk_seg dksX3_freeze_2 23 rfl rfl
theorem dksX3_freeze_4 : cX3_freeze.data.toList.drop 95 = dktX3_freeze_4 := dk_seg dksX3_freeze_3 24 rfl rfl
theorem dX3_freeze_0 : decode cX3_freeze 0 = .ok (.aload_n 0, 1) := dk_42 (dk_at dksX3_freeze_0 0 rfl rfl)
theorem dX3_freeze_1 : decode cX3_freeze 1 = .ok (.iload_n 1, 1) := dk_27 (dk_at dksX3_freeze_0 1 rfl rfl)
theorem dX3_freeze_2 : decode cX3_freeze 2 = .ok (.invokevirtual 80, 3) := dk_182 0 80 (dk_at dksX3_freeze_0 2 rfl rfl)
theorem dX3_freeze_5 : decode cX3_freeze 5 = .ok (.istore_n 2, 1) := dk_61 (dk_at dksX3_freeze_0 5 rfl rfl)
theorem dX3_freeze_6 : decode cX3_freeze 6 = .ok (.aload_n 0, 1) := dk_42 (dk_at dksX3_freeze_0 6 rfl rfl)
theorem dX3_freeze_7 : decode cX3_freeze 7 = .ok (.iload_n 2, 1) := dk_28 (dk_at dksX3_freeze_0 7 rfl rfl)
theorem dX3_freeze_8 : decode cX3_freeze 8 = .ok (.ifCond .ne 7, 3) := dk_154 0 7 (dk_at dksX3_freeze_0 8 rfl rfl)
theorem dX3_freeze_11 : decode cX3_freeze 11 = .ok (.iconst 1, 1) := dk_4 (dk_at dksX3_freeze_0 11 rfl rfl)
theorem dX3_freeze_12 : decode cX3_freeze 12 = .ok (.goto 17, 3) := dk_167 0 17 (dk_at dksX3_freeze_0 12 rfl rfl)
theorem dX3_freeze_15 : decode cX3_freeze 15 = .ok (.aload_n 0, 1) := dk_42 (dk_at dksX3_freeze_0 15 rfl rfl)
theorem dX3_freeze_16 : decode cX3_freeze 16 = .ok (.getfield 16, 3) := dk_180 0 16 (dk_at dksX3_freeze_0 16 rfl rfl)
theorem dX3_freeze_19 : decode cX3_freeze 19 = .ok (.iload_n 1, 1) := dk_27 (dk_at dksX3_freeze_0 19 rfl rfl)
theorem dX3_freeze_20 : decode cX3_freeze 20 = .ok (.baload, 1) := dk_51 (dk_at dksX3_freeze_0 20 rfl rfl)
theorem dX3_freeze_21 : decode cX3_freeze 21 = .ok (.ifCond .eq 7, 3) := dk_153 0 7 (dk_at dksX3_freeze_0 21 rfl rfl)
theorem dX3_freeze_24 : decode cX3_freeze 24 = .ok (.iconst 2, 1) := dk_5 (dk_at dksX3_freeze_1 0 rfl rfl)
theorem dX3_freeze_25 : decode cX3_freeze 25 = .ok (.goto 4, 3) := dk_167 0 4 (dk_at dksX3_freeze_1 1 rfl rfl)
theorem dX3_freeze_28 : decode cX3_freeze 28 = .ok (.iconst 0, 1) := dk_3 (dk_at dksX3_freeze_1 4 rfl rfl)
theorem dX3_freeze_29 : decode cX3_freeze 29 = .ok (.invokevirtual 76, 3) := dk_182 0 76 (dk_at dksX3_freeze_1 5 rfl rfl)
theorem dX3_freeze_32 : decode cX3_freeze 32 = .ok (.ifCond .ne 5, 3) := dk_154 0 5 (dk_at dksX3_freeze_1 8 rfl rfl)
theorem dX3_freeze_35 : decode cX3_freeze 35 = .ok (.iconst 0, 1) := dk_3 (dk_at dksX3_freeze_1 11 rfl rfl)
theorem dX3_freeze_36 : decode cX3_freeze 36 = .ok (.ireturn, 1) := dk_172 (dk_at dksX3_freeze_1 12 rfl rfl)
theorem dX3_freeze_37 : decode cX3_freeze 37 = .ok (.aload_n 0, 1) := dk_42 (dk_at dksX3_freeze_1 13 rfl rfl)
theorem dX3_freeze_38 : decode cX3_freeze 38 = .ok (.iload_n 1, 1) := dk_27 (dk_at dksX3_freeze_1 14 rfl rfl)
theorem dX3_freeze_39 : decode cX3_freeze 39 = .ok (.invokevirtual 110, 3) := dk_182 0 110 (dk_at dksX3_freeze_1 15 rfl rfl)
theorem dX3_freeze_42 : decode cX3_freeze 42 = .ok (.aload_n 0, 1) := dk_42 (dk_at dksX3_freeze_1 18 rfl rfl)
theorem dX3_freeze_43 : decode cX3_freeze 43 = .ok (.getfield 16, 3) := dk_180 0 16 (dk_at dksX3_freeze_1 19 rfl rfl)
theorem dX3_freeze_46 : decode cX3_freeze 46 = .ok (.iload_n 1, 1) := dk_27 (dk_at dksX3_freeze_1 22 rfl rfl)
theorem dX3_freeze_47 : decode cX3_freeze 47 = .ok (.iconst 1, 1) := dk_4 (dk_at dksX3_freeze_1 23 rfl rfl)
theorem dX3_freeze_48 : decode cX3_freeze 48 = .ok (.bastore, 1) := dk_84 (dk_at dksX3_freeze_2 0 rfl rfl)
theorem dX3_freeze_49 : decode cX3_freeze 49 = .ok (.iconst 0, 1) := dk_3 (dk_at dksX3_freeze_2 1 rfl rfl)
theorem dX3_freeze_50 : decode cX3_freeze 50 = .ok (.istore_n 3, 1) := dk_62 (dk_at dksX3_freeze_2 2 rfl rfl)
theorem dX3_freeze_51 : decode cX3_freeze 51 = .ok (.iload_n 3, 1) := dk_29 (dk_at dksX3_freeze_2 3 rfl rfl)
theorem dX3_freeze_52 : decode cX3_freeze 52 = .ok (.aload_n 0, 1) := dk_42 (dk_at dksX3_freeze_2 4 rfl rfl)
theorem dX3_freeze_53 : decode cX3_freeze 53 = .ok (.getfield 20, 3) := dk_180 0 20 (dk_at dksX3_freeze_2 5 rfl rfl)
theorem dX3_freeze_56 : decode cX3_freeze 56 = .ok (.iload_n 1, 1) := dk_27 (dk_at dksX3_freeze_2 8 rfl rfl)
theorem dX3_freeze_57 : decode cX3_freeze 57 = .ok (.iaload, 1) := dk_46 (dk_at dksX3_freeze_2 9 rfl rfl)
theorem dX3_freeze_58 : decode cX3_freeze 58 = .ok (.if_icmp .ge 53, 3) := dk_162 0 53 (dk_at dksX3_freeze_2 10 rfl rfl)
theorem dX3_freeze_61 : decode cX3_freeze 61 = .ok (.iconst 0, 1) := dk_3 (dk_at dksX3_freeze_2 13 rfl rfl)
theorem dX3_freeze_62 : decode cX3_freeze 62 = .ok (.istore 4, 2) := dk_54 4 (dk_at dksX3_freeze_2 14 rfl rfl)
theorem dX3_freeze_64 : decode cX3_freeze 64 = .ok (.iload 4, 2) := dk_21 4 (dk_at dksX3_freeze_2 16 rfl rfl)
theorem dX3_freeze_66 : decode cX3_freeze 66 = .ok (.bipush 16, 2) := dk_16 16 (dk_at dksX3_freeze_2 18 rfl rfl)
theorem dX3_freeze_68 : decode cX3_freeze 68 = .ok (.if_icmp .ge 37, 3) := dk_162 0 37 (dk_at dksX3_freeze_2 20 rfl rfl)
theorem dX3_freeze_71 : decode cX3_freeze 71 = .ok (.bipush 16, 2) := dk_16 16 (dk_at dksX3_freeze_3 0 rfl rfl)
theorem dX3_freeze_73 : decode cX3_freeze 73 = .ok (.aload_n 0, 1) := dk_42 (dk_at dksX3_freeze_3 2 rfl rfl)
theorem dX3_freeze_74 : decode cX3_freeze 74 = .ok (.iload_n 1, 1) := dk_27 (dk_at dksX3_freeze_3 3 rfl rfl)
theorem dX3_freeze_75 : decode cX3_freeze 75 = .ok (.iload_n 3, 1) := dk_29 (dk_at dksX3_freeze_3 4 rfl rfl)
theorem dX3_freeze_76 : decode cX3_freeze 76 = .ok (.invokevirtual 87, 3) := dk_182 0 87 (dk_at dksX3_freeze_3 5 rfl rfl)
theorem dX3_freeze_79 : decode cX3_freeze 79 = .ok (.imul, 1) := dk_104 (dk_at dksX3_freeze_3 8 rfl rfl)
theorem dX3_freeze_80 : decode cX3_freeze 80 = .ok (.iload 4, 2) := dk_21 4 (dk_at dksX3_freeze_3 9 rfl rfl)
theorem dX3_freeze_82 : decode cX3_freeze 82 = .ok (.iadd, 1) := dk_96 (dk_at dksX3_freeze_3 11 rfl rfl)
theorem dX3_freeze_83 : decode cX3_freeze 83 = .ok (.istore 5, 2) := dk_54 5 (dk_at dksX3_freeze_3 12 rfl rfl)
theorem dX3_freeze_85 : decode cX3_freeze 85 = .ok (.aload_n 0, 1) := dk_42 (dk_at dksX3_freeze_3 14 rfl rfl)
theorem dX3_freeze_86 : decode cX3_freeze 86 = .ok (.getfield 42, 3) := dk_180 0 42 (dk_at dksX3_freeze_3 15 rfl rfl)
theorem dX3_freeze_89 : decode cX3_freeze 89 = .ok (.iload 5, 2) := dk_21 5 (dk_at dksX3_freeze_3 18 rfl rfl)
theorem dX3_freeze_91 : decode cX3_freeze 91 = .ok (.aload_n 0, 1) := dk_42 (dk_at dksX3_freeze_3 20 rfl rfl)
theorem dX3_freeze_92 : decode cX3_freeze 92 = .ok (.getfield 39, 3) := dk_180 0 39 (dk_at dksX3_freeze_3 21 rfl rfl)
theorem dX3_freeze_95 : decode cX3_freeze 95 = .ok (.iload 5, 2) := dk_21 5 (dk_at dksX3_freeze_4 0 rfl rfl)
theorem dX3_freeze_97 : decode cX3_freeze 97 = .ok (.baload, 1) := dk_51 (dk_at dksX3_freeze_4 2 rfl rfl)
theorem dX3_freeze_98 : decode cX3_freeze 98 = .ok (.bastore, 1) := dk_84 (dk_at dksX3_freeze_4 3 rfl rfl)
theorem dX3_freeze_99 : decode cX3_freeze 99 = .ok (.iinc 4 1, 3) := dk_132 4 1 (dk_at dksX3_freeze_4 4 rfl rfl)
theorem dX3_freeze_102 : decode cX3_freeze 102 = .ok (.goto (-38), 3) := dk_167 255 218 (dk_at dksX3_freeze_4 7 rfl rfl)
theorem dX3_freeze_105 : decode cX3_freeze 105 = .ok (.iinc 3 1, 3) := dk_132 3 1 (dk_at dksX3_freeze_4 10 rfl rfl)
theorem dX3_freeze_108 : decode cX3_freeze 108 = .ok (.goto (-57), 3) := dk_167 255 199 (dk_at dksX3_freeze_4 13 rfl rfl)
theorem dX3_freeze_111 : decode cX3_freeze 111 = .ok (.aload_n 0, 1) := dk_42 (dk_at dksX3_freeze_4 16 rfl rfl)
theorem dX3_freeze_112 : decode cX3_freeze 112 = .ok (.getfield 51, 3) := dk_180 0 51 (dk_at dksX3_freeze_4 17 rfl rfl)
theorem dX3_freeze_115 : decode cX3_freeze 115 = .ok (.iload_n 1, 1) := dk_27 (dk_at dksX3_freeze_4 20 rfl rfl)
theorem dX3_freeze_116 : decode cX3_freeze 116 = .ok (.iaload, 1) := dk_46 (dk_at dksX3_freeze_4 21 rfl rfl)
theorem dX3_freeze_117 : decode cX3_freeze 117 = .ok (.ireturn, 1) := dk_172 (dk_at dksX3_freeze_4 22 rfl rfl)
abbrev cX3_marks : ByteArray := prog_7_method_16_code
def yX3_marks : MethodName := ⟨RX3, "marks", "(I)V"⟩
def dkwX3_marks_7 : List UInt8 := [180, 0, 51, 27, 42, 27, 42, 180, 0, 20, 27, 46, 182, 0, 107, 79, 177]
abbrev dktX3_marks_7 : List UInt8 := dkwX3_marks_7 ++ []
def dkwX3_marks_6 : List UInt8 := [167, 0, 17, 16, 16, 42, 27, 28, 16, 16, 108, 4, 100, 182, 0, 87, 104, 4, 84, 167, 255, 190, 42]
abbrev dktX3_marks_6 : List UInt8 := dkwX3_marks_6 ++ dktX3_marks_7
def dkwX3_marks_5 : List UInt8 := [42, 180, 0, 39, 29, 158, 0, 20, 16, 16, 42, 27, 28, 16, 16, 108, 182, 0, 87, 104, 29, 96]
abbrev dktX3_marks_5 : List UInt8 := dkwX3_marks_5 ++ dktX3_marks_6
def dkwX3_marks_4 : List UInt8 := [16, 16, 42, 180, 0, 20, 27, 46, 104, 162, 0, 59, 42, 180, 0, 48, 28, 46, 61, 28, 16, 16, 112, 62]
abbrev dktX3_marks_4 : List UInt8 := dkwX3_marks_4 ++ dktX3_marks_5
def dkwX3_marks_3 : List UInt8 := [132, 2, 1, 167, 255, 185, 42, 180, 0, 16, 27, 51, 154, 0, 79, 42, 27, 182, 0, 103, 3, 61, 28]
abbrev dktX3_marks_3 : List UInt8 := dkwX3_marks_3 ++ dktX3_marks_4
def dkwX3_marks_2 : List UInt8 := [42, 180, 0, 42, 21, 4, 51, 153, 0, 7, 4, 167, 0, 4, 3, 84, 132, 3, 1, 167, 255, 203]
abbrev dktX3_marks_2 : List UInt8 := dkwX3_marks_2 ++ dktX3_marks_3
def dkwX3_marks_1 : List UInt8 := [28, 182, 0, 87, 104, 29, 96, 54, 4, 42, 180, 0, 39, 21, 4, 42, 180, 0, 16, 27, 51, 153, 0, 17]
abbrev dktX3_marks_1 : List UInt8 := dkwX3_marks_1 ++ dktX3_marks_2
def dkwX3_marks_0 : List UInt8 := [3, 61, 28, 42, 180, 0, 20, 27, 46, 162, 0, 67, 3, 62, 29, 16, 16, 162, 0, 53, 16, 16, 42, 27]
abbrev dktX3_marks_0 : List UInt8 := dkwX3_marks_0 ++ dktX3_marks_1
theorem dksX3_marks_0 : cX3_marks.data.toList.drop 0 = dktX3_marks_0 := by decide +kernel
theorem dksX3_marks_1 : cX3_marks.data.toList.drop 24 = dktX3_marks_1 := dk_seg dksX3_marks_0 24 rfl rfl
theorem dksX3_marks_2 : cX3_marks.data.toList.drop 48 = dktX3_marks_2 := dk_seg dksX3_marks_1 24 rfl rfl
theorem dksX3_marks_3 : cX3_marks.data.toList.drop 70 = dktX3_marks_3 := dk_seg dksX3_marks_2 22 rfl rfl
theorem dksX3_marks_4 : cX3_marks.data.toList.drop 93 = dktX3_marks_4 := dk_seg dksX3_marks_3 23 rfl rfl
theorem dksX3_marks_5 : cX3_marks.data.toList.drop 117 = dktX3_marks_5 := dk_seg dksX3_marks_4 24 rfl rfl
theorem dksX3_marks_6 : cX3_marks.data.toList.drop 139 = dktX3_marks_6 := dk_seg dksX3_marks_5 22 rfl rfl
theorem dksX3_marks_7 : cX3_marks.data.toList.drop 162 = dktX3_marks_7 := dk_seg dksX3_marks_6 23 rfl rfl
theorem dX3_marks_0 : decode cX3_marks 0 = .ok (.iconst 0, 1) := dk_3 (dk_at dksX3_marks_0 0 rfl rfl)
theorem dX3_marks_1 : decode cX3_marks 1 = .ok (.istore_n 2, 1) := dk_61 (dk_at dksX3_marks_0 1 rfl rfl)
theorem dX3_marks_2 : decode cX3_marks 2 = .ok (.iload_n 2, 1) := dk_28 (dk_at dksX3_marks_0 2 rfl rfl)
theorem dX3_marks_3 : decode cX3_marks 3 = .ok (.aload_n 0, 1) := dk_42 (dk_at dksX3_marks_0 3 rfl rfl)
theorem dX3_marks_4 : decode cX3_marks 4 = .ok (.getfield 20, 3) := dk_180 0 20 (dk_at dksX3_marks_0 4 rfl rfl)
theorem dX3_marks_7 : decode cX3_marks 7 = .ok (.iload_n 1, 1) := dk_27 (dk_at dksX3_marks_0 7 rfl rfl)
theorem dX3_marks_8 : decode cX3_marks 8 = .ok (.iaload, 1) := dk_46 (dk_at dksX3_marks_0 8 rfl rfl)
theorem dX3_marks_9 : decode cX3_marks 9 = .ok (.if_icmp .ge 67, 3) := dk_162 0 67 (dk_at dksX3_marks_0 9 rfl rfl)
theorem dX3_marks_12 : decode cX3_marks 12 = .ok (.iconst 0, 1) := dk_3 (dk_at dksX3_marks_0 12 rfl rfl)
theorem dX3_marks_13 : decode cX3_marks 13 = .ok (.istore_n 3, 1) := dk_62 (dk_at dksX3_marks_0 13 rfl rfl)
theorem dX3_marks_14 : decode cX3_marks 14 = .ok (.iload_n 3, 1) := dk_29 (dk_at dksX3_marks_0 14 rfl rfl)
theorem dX3_marks_15 : decode cX3_marks 15 = .ok (.bipush 16, 2) := dk_16 16 (dk_at dksX3_marks_0 15 rfl rfl)
theorem dX3_marks_17 : decode cX3_marks 17 = .ok (.if_icmp .ge 53, 3) := dk_162 0 53 (dk_at dksX3_marks_0 17 rfl rfl)
theorem dX3_marks_20 : decode cX3_marks 20 = .ok (.bipush 16, 2) := dk_16 16 (dk_at dksX3_marks_0 20 rfl rfl)
theorem dX3_marks_22 : decode cX3_marks 22 = .ok (.aload_n 0, 1) := dk_42 (dk_at dksX3_marks_0 22 rfl rfl)
theorem dX3_marks_23 : decode cX3_marks 23 = .ok (.iload_n 1, 1) := dk_27 (dk_at dksX3_marks_0 23 rfl rfl)
theorem dX3_marks_24 : decode cX3_marks 24 = .ok (.iload_n 2, 1) := dk_28 (dk_at dksX3_marks_1 0 rfl rfl)
theorem dX3_marks_25 : decode cX3_marks 25 = .ok (.invokevirtual 87, 3) := dk_182 0 87 (dk_at dksX3_marks_1 1 rfl rfl)
theorem dX3_marks_28 : decode cX3_marks 28 = .ok (.imul, 1) := dk_104 (dk_at dksX3_marks_1 4 rfl rfl)
theorem dX3_marks_29 : decode cX3_marks 29 = .ok (.iload_n 3, 1) := dk_29 (dk_at dksX3_marks_1 5 rfl rfl)
theorem dX3_marks_30 : decode cX3_marks 30 = .ok (.iadd, 1) := dk_96 (dk_at dksX3_marks_1 6 rfl rfl)
theorem dX3_marks_31 : decode cX3_marks 31 = .ok (.istore 4, 2) := dk_54 4 (dk_at dksX3_marks_1 7 rfl rfl)
theorem dX3_marks_33 : decode cX3_marks 33 = .ok (.aload_n 0, 1) := dk_42 (dk_at dksX3_marks_1 9 rfl rfl)
theorem dX3_marks_34 : decode cX3_marks 34 = .ok (.getfield 39, 3) := dk_180 0 39 (dk_at dksX3_marks_1 10 rfl rfl)
theorem dX3_marks_37 : decode cX3_marks 37 = .ok (.iload 4, 2) := dk_21 4 (dk_at dksX3_marks_1 13 rfl rfl)
theorem dX3_marks_39 : decode cX3_marks 39 = .ok (.aload_n 0, 1) := dk_42 (dk_at dksX3_marks_1 15 rfl rfl)
theorem dX3_marks_40 : decode cX3_marks 40 = .ok (.getfield 16, 3) := dk_180 0 16 (dk_at dksX3_marks_1 16 rfl rfl)
theorem dX3_marks_43 : decode cX3_marks 43 = .ok (.iload_n 1, 1) := dk_27 (dk_at dksX3_marks_1 19 rfl rfl)
theorem dX3_marks_44 : decode cX3_marks 44 = .ok (.baload, 1) := dk_51 (dk_at dksX3_marks_1 20 rfl rfl)
theorem dX3_marks_45 : decode cX3_marks 45 = .ok (.ifCond .eq 17, 3) := dk_153 0 17 (dk_at dksX3_marks_1 21 rfl rfl)
theorem dX3_marks_48 : decode cX3_marks 48 = .ok (.aload_n 0, 1) := dk_42 (dk_at dksX3_marks_2 0 rfl rfl)
theorem dX3_marks_49 : decode cX3_marks 49 = .ok (.getfield 42, 3) := dk_180 0 42 (dk_at dksX3_marks_2 1 rfl rfl)
theorem dX3_marks_52 : decode cX3_marks 52 = .ok (.iload 4, 2) := dk_21 4 (dk_at dksX3_marks_2 4 rfl rfl)
theorem dX3_marks_54 : decode cX3_marks 54 = .ok (.baload, 1) := dk_51 (dk_at dksX3_marks_2 6 rfl rfl)
theorem dX3_marks_55 : decode cX3_marks 55 = .ok (.ifCond .eq 7, 3) := dk_153 0 7 (dk_at dksX3_marks_2 7 rfl rfl)
theorem dX3_marks_58 : decode cX3_marks 58 = .ok (.iconst 1, 1) := dk_4 (dk_at dksX3_marks_2 10 rfl rfl)
theorem dX3_marks_59 : decode cX3_marks 59 = .ok (.goto 4, 3) := dk_167 0 4 (dk_at dksX3_marks_2 11 rfl rfl)
theorem dX3_marks_62 : decode cX3_marks 62 = .ok (.iconst 0, 1) := dk_3 (dk_at dksX3_marks_2 14 rfl rfl)
theorem dX3_marks_63 : decode cX3_marks 63 = .ok (.bastore, 1) := dk_84 (dk_at dksX3_marks_2 15 rfl rfl)
theorem dX3_marks_64 : decode cX3_marks 64 = .ok (.iinc 3 1, 3) := dk_132 3 1 (dk_at dksX3_marks_2 16 rfl rfl)
theorem dX3_marks_67 : decode cX3_marks 67 = .ok (.goto (-53), 3) := dk_167 255 203 (dk_at dksX3_marks_2 19 rfl rfl)
theorem dX3_marks_70 : decode cX3_marks 70 = .ok (.iinc 2 1, 3) := dk_132 2 1 (dk_at dksX3_marks_3 0 rfl rfl)
theorem dX3_marks_73 : decode cX3_marks 73 = .ok (.goto (-71), 3) := dk_167 255 185 (dk_at dksX3_marks_3 3 rfl rfl)
theorem dX3_marks_76 : decode cX3_marks 76 = .ok (.aload_n 0, 1) := dk_42 (dk_at dksX3_marks_3 6 rfl rfl)
theorem dX3_marks_77 : decode cX3_marks 77 = .ok (.getfield 16, 3) := dk_180 0 16 (dk_at dksX3_marks_3 7 rfl rfl)
theorem dX3_marks_80 : decode cX3_marks 80 = .ok (.iload_n 1, 1) := dk_27 (dk_at dksX3_marks_3 10 rfl rfl)
theorem dX3_marks_81 : decode cX3_marks 81 = .ok (.baload, 1) := dk_51 (dk_at dksX3_marks_3 11 rfl rfl)
theorem dX3_marks_82 : decode cX3_marks 82 = .ok (.ifCond .ne 79, 3) := dk_154 0 79 (dk_at dksX3_marks_3 12 rfl rfl)
theorem dX3_marks_85 : decode cX3_marks 85 = .ok (.aload_n 0, 1) := dk_42 (dk_at dksX3_marks_3 15 rfl rfl)
theorem dX3_marks_86 : decode cX3_marks 86 = .ok (.iload_n 1, 1) := dk_27 (dk_at dksX3_marks_3 16 rfl rfl)
theorem dX3_marks_87 : decode cX3_marks 87 = .ok (.invokevirtual 103, 3) := dk_182 0 103 (dk_at dksX3_marks_3 17 rfl rfl)
theorem dX3_marks_90 : decode cX3_marks 90 = .ok (.iconst 0, 1) := dk_3 (dk_at dksX3_marks_3 20 rfl rfl)
theorem dX3_marks_91 : decode cX3_marks 91 = .ok (.istore_n 2, 1) := dk_61 (dk_at dksX3_marks_3 21 rfl rfl)
theorem dX3_marks_92 : decode cX3_marks 92 = .ok (.iload_n 2, 1) := dk_28 (dk_at dksX3_marks_3 22 rfl rfl)
theorem dX3_marks_93 : decode cX3_marks 93 = .ok (.bipush 16, 2) := dk_16 16 (dk_at dksX3_marks_4 0 rfl rfl)
theorem dX3_marks_95 : decode cX3_marks 95 = .ok (.aload_n 0, 1) := dk_42 (dk_at dksX3_marks_4 2 rfl rfl)
theorem dX3_marks_96 : decode cX3_marks 96 = .ok (.getfield 20, 3) := dk_180 0 20 (dk_at dksX3_marks_4 3 rfl rfl)
theorem dX3_marks_99 : decode cX3_marks 99 = .ok (.iload_n 1, 1) := dk_27 (dk_at dksX3_marks_4 6 rfl rfl)
theorem dX3_marks_100 : decode cX3_marks 100 = .ok (.iaload, 1) := dk_46 (dk_at dksX3_marks_4 7 rfl rfl)
theorem dX3_marks_101 : decode cX3_marks 101 = .ok (.imul, 1) := dk_104 (dk_at dksX3_marks_4 8 rfl rfl)
theorem dX3_marks_102 : decode cX3_marks 102 = .ok (.if_icmp .ge 59, 3) := dk_162 0 59 (dk_at dksX3_marks_4 9 rfl rfl)
theorem dX3_marks_105 : decode cX3_marks 105 = .ok (.aload_n 0, 1) := dk_42 (dk_at dksX3_marks_4 12 rfl rfl)
theorem dX3_marks_106 : decode cX3_marks 106 = .ok (.getfield 48, 3) := dk_180 0 48 (dk_at dksX3_marks_4 13 rfl rfl)
theorem dX3_marks_109 : decode cX3_marks 109 = .ok (.iload_n 2, 1) := dk_28 (dk_at dksX3_marks_4 16 rfl rfl)
theorem dX3_marks_110 : decode cX3_marks 110 = .ok (.iaload, 1) := dk_46 (dk_at dksX3_marks_4 17 rfl rfl)
theorem dX3_marks_111 : decode cX3_marks 111 = .ok (.istore_n 2, 1) := dk_61 (dk_at dksX3_marks_4 18 rfl rfl)
theorem dX3_marks_112 : decode cX3_marks 112 = .ok (.iload_n 2, 1) := dk_28 (dk_at dksX3_marks_4 19 rfl rfl)
theorem dX3_marks_113 : decode cX3_marks 113 = .ok (.bipush 16, 2) := dk_16 16 (dk_at dksX3_marks_4 20 rfl rfl)
theorem dX3_marks_115 : decode cX3_marks 115 = .ok (.irem, 1) := dk_112 (dk_at dksX3_marks_4 22 rfl rfl)
theorem dX3_marks_116 : decode cX3_marks 116 = .ok (.istore_n 3, 1) := dk_62 (dk_at dksX3_marks_4 23 rfl rfl)
theorem dX3_marks_117 : decode cX3_marks 117 = .ok (.aload_n 0, 1) := dk_42 (dk_at dksX3_marks_5 0 rfl rfl)
theorem dX3_marks_118 : decode cX3_marks 118 = .ok (.getfield 39, 3) := dk_180 0 39 (dk_at dksX3_marks_5 1 rfl rfl)
theorem dX3_marks_121 : decode cX3_marks 121 = .ok (.iload_n 3, 1) := dk_29 (dk_at dksX3_marks_5 4 rfl rfl)
theorem dX3_marks_122 : decode cX3_marks 122 = .ok (.ifCond .le 20, 3) := dk_158 0 20 (dk_at dksX3_marks_5 5 rfl rfl)
theorem dX3_marks_125 : decode cX3_marks 125 = .ok (.bipush 16, 2) := dk_16 16 (dk_at dksX3_marks_5 8 rfl rfl)
theorem dX3_marks_127 : decode cX3_marks 127 = .ok (.aload_n 0, 1) := dk_42 (dk_at dksX3_marks_5 10 rfl rfl)
theorem dX3_marks_128 : decode cX3_marks 128 = .ok (.iload_n 1, 1) := dk_27 (dk_at dksX3_marks_5 11 rfl rfl)
theorem dX3_marks_129 : decode cX3_marks 129 = .ok (.iload_n 2, 1) := dk_28 (dk_at dksX3_marks_5 12 rfl rfl)
theorem dX3_marks_130 : decode cX3_marks 130 = .ok (.bipush 16, 2) := dk_16 16 (dk_at dksX3_marks_5 13 rfl rfl)
theorem dX3_marks_132 : decode cX3_marks 132 = .ok (.idiv, 1) := dk_108 (dk_at dksX3_marks_5 15 rfl rfl)
theorem dX3_marks_133 : decode cX3_marks 133 = .ok (.invokevirtual 87, 3) := dk_182 0 87 (dk_at dksX3_marks_5 16 rfl rfl)
theorem dX3_marks_136 : decode cX3_marks 136 = .ok (.imul, 1) := dk_104 (dk_at dksX3_marks_5 19 rfl rfl)
theorem dX3_marks_137 : decode cX3_marks 137 = .ok (.iload_n 3, 1) := dk_29 (dk_at dksX3_marks_5 20 rfl rfl)
theorem dX3_marks_138 : decode cX3_marks 138 = .ok (.iadd, 1) := dk_96 (dk_at dksX3_marks_5 21 rfl rfl)
theorem dX3_marks_139 : decode cX3_marks 139 = .ok (.goto 17, 3) := dk_167 0 17 (dk_at dksX3_marks_6 0 rfl rfl)
theorem dX3_marks_142 : decode cX3_marks 142 = .ok (.bipush 16, 2) := dk_16 16 (dk_at dksX3_marks_6 3 rfl rfl)
theorem dX3_marks_144 : decode cX3_marks 144 = .ok (.aload_n 0, 1) := dk_42 (dk_at dksX3_marks_6 5 rfl rfl)
theorem dX3_marks_145 : decode cX3_marks 145 = .ok (.iload_n 1, 1) := dk_27 (dk_at dksX3_marks_6 6 rfl rfl)
theorem dX3_marks_146 : decode cX3_marks 146 = .ok (.iload_n 2, 1) := dk_28 (dk_at dksX3_marks_6 7 rfl rfl)
theorem dX3_marks_147 : decode cX3_marks 147 = .ok (.bipush 16, 2) := dk_16 16 (dk_at dksX3_marks_6 8 rfl rfl)
theorem dX3_marks_149 : decode cX3_marks 149 = .ok (.idiv, 1) := dk_108 (dk_at dksX3_marks_6 10 rfl rfl)
theorem dX3_marks_150 : decode cX3_marks 150 = .ok (.iconst 1, 1) := dk_4 (dk_at dksX3_marks_6 11 rfl rfl)
theorem dX3_marks_151 : decode cX3_marks 151 = .ok (.isub, 1) := dk_100 (dk_at dksX3_marks_6 12 rfl rfl)
theorem dX3_marks_152 : decode cX3_marks 152 = .ok (.invokevirtual 87, 3) := dk_182 0 87 (dk_at dksX3_marks_6 13 rfl rfl)
theorem dX3_marks_155 : decode cX3_marks 155 = .ok (.imul, 1) := dk_104 (dk_at dksX3_marks_6 16 rfl rfl)
theorem dX3_marks_156 : decode cX3_marks 156 = .ok (.iconst 1, 1) := dk_4 (dk_at dksX3_marks_6 17 rfl rfl)
theorem dX3_marks_157 : decode cX3_marks 157 = .ok (.bastore, 1) := dk_84 (dk_at dksX3_marks_6 18 rfl rfl)
theorem dX3_marks_158 : decode cX3_marks 158 = .ok (.goto (-66), 3) := dk_167 255 190 (dk_at dksX3_marks_6 19 rfl rfl)
theorem dX3_marks_161 : decode cX3_marks 161 = .ok (.aload_n 0, 1) := dk_42 (dk_at dksX3_marks_6 22 rfl rfl)
theorem dX3_marks_162 : decode cX3_marks 162 = .ok (.getfield 51, 3) := dk_180 0 51 (dk_at dksX3_marks_7 0 rfl rfl)
theorem dX3_marks_165 : decode cX3_marks 165 = .ok (.iload_n 1, 1) := dk_27 (dk_at dksX3_marks_7 3 rfl rfl)
theorem dX3_marks_166 : decode cX3_marks 166 = .ok (.aload_n 0, 1) := dk_42 (dk_at dksX3_marks_7 4 rfl rfl)
theorem dX3_marks_167 : decode cX3_marks 167 = .ok (.iload_n 1, 1) := dk_27 (dk_at dksX3_marks_7 5 rfl rfl)
theorem dX3_marks_168 : decode cX3_marks 168 = .ok (.aload_n 0, 1) := dk_42 (dk_at dksX3_marks_7 6 rfl rfl)
theorem dX3_marks_169 : decode cX3_marks 169 = .ok (.getfield 20, 3) := dk_180 0 20 (dk_at dksX3_marks_7 7 rfl rfl)
theorem dX3_marks_172 : decode cX3_marks 172 = .ok (.iload_n 1, 1) := dk_27 (dk_at dksX3_marks_7 10 rfl rfl)
theorem dX3_marks_173 : decode cX3_marks 173 = .ok (.iaload, 1) := dk_46 (dk_at dksX3_marks_7 11 rfl rfl)
theorem dX3_marks_174 : decode cX3_marks 174 = .ok (.invokevirtual 107, 3) := dk_182 0 107 (dk_at dksX3_marks_7 12 rfl rfl)
theorem dX3_marks_177 : decode cX3_marks 177 = .ok (.iastore, 1) := dk_79 (dk_at dksX3_marks_7 15 rfl rfl)
theorem dX3_marks_178 : decode cX3_marks 178 = .ok (.return_, 1) := dk_177 (dk_at dksX3_marks_7 16 rfl rfl)
abbrev cX3_word : ByteArray := prog_7_method_11_code
def yX3_word : MethodName := ⟨RX3, "word", "(II)I"⟩
def dkwX3_word_0 : List UInt8 := [42, 180, 0, 24, 16, 60, 27, 104, 28, 96, 46, 172]
abbrev dktX3_word_0 : List UInt8 := dkwX3_word_0 ++ []
theorem dksX3_word_0 : cX3_word.data.toList.drop 0 = dktX3_word_0 := by decide +kernel
theorem dX3_word_0 : decode cX3_word 0 = .ok (.aload_n 0, 1) := dk_42 (dk_at dksX3_word_0 0 rfl rfl)
theorem dX3_word_1 : decode cX3_word 1 = .ok (.getfield 24, 3) := dk_180 0 24 (dk_at dksX3_word_0 1 rfl rfl)
theorem dX3_word_4 : decode cX3_word 4 = .ok (.bipush 60, 2) := dk_16 60 (dk_at dksX3_word_0 4 rfl rfl)
theorem dX3_word_6 : decode cX3_word 6 = .ok (.iload_n 1, 1) := dk_27 (dk_at dksX3_word_0 6 rfl rfl)
theorem dX3_word_7 : decode cX3_word 7 = .ok (.imul, 1) := dk_104 (dk_at dksX3_word_0 7 rfl rfl)
theorem dX3_word_8 : decode cX3_word 8 = .ok (.iload_n 2, 1) := dk_28 (dk_at dksX3_word_0 8 rfl rfl)
theorem dX3_word_9 : decode cX3_word 9 = .ok (.iadd, 1) := dk_96 (dk_at dksX3_word_0 9 rfl rfl)
theorem dX3_word_10 : decode cX3_word 10 = .ok (.iaload, 1) := dk_46 (dk_at dksX3_word_0 10 rfl rfl)
theorem dX3_word_11 : decode cX3_word 11 = .ok (.ireturn, 1) := dk_172 (dk_at dksX3_word_0 11 rfl rfl)
abbrev cX3_breaks : ByteArray := prog_7_method_15_code
def yX3_breaks : MethodName := ⟨RX3, "breaks", "(I)V"⟩
def dkwX3_breaks_3 : List UInt8 := [27, 28, 21, 4, 182, 0, 99, 132, 4, 255, 167, 255, 220, 132, 2, 255, 167, 255, 193, 177]
abbrev dktX3_breaks_3 : List UInt8 := dkwX3_breaks_3 ++ []
def dkwX3_breaks_2 : List UInt8 := [155, 0, 37, 21, 4, 153, 0, 18, 42, 180, 0, 36, 16, 16, 29, 104, 21, 4, 96, 46, 158, 0, 11, 42]
abbrev dktX3_breaks_2 : List UInt8 := dkwX3_breaks_2 ++ dktX3_breaks_3
def dkwX3_breaks_1 : List UInt8 := [28, 155, 0, 65, 42, 27, 28, 182, 0, 87, 62, 42, 180, 0, 27, 29, 46, 4, 100, 54, 4, 21, 4]
abbrev dktX3_breaks_1 : List UInt8 := dkwX3_breaks_1 ++ dktX3_breaks_2
def dkwX3_breaks_0 : List UInt8 := [42, 180, 0, 45, 16, 16, 42, 180, 0, 20, 27, 46, 104, 3, 79, 42, 180, 0, 20, 27, 46, 4, 100, 61]
abbrev dktX3_breaks_0 : List UInt8 := dkwX3_breaks_0 ++ dktX3_breaks_1
theorem dksX3_breaks_0 : cX3_breaks.data.toList.drop 0 = dktX3_breaks_0 := by decide +kernel
theorem dksX3_breaks_1 : cX3_breaks.data.toList.drop 24 = dktX3_breaks_1 := dk_seg dksX3_breaks_0 24 rfl rfl
theorem dksX3_breaks_2 : cX3_breaks.data.toList.drop 47 = dktX3_breaks_2 := dk_seg dksX3_breaks_1 23 rfl rfl
theorem dksX3_breaks_3 : cX3_breaks.data.toList.drop 71 = dktX3_breaks_3 := dk_seg dksX3_breaks_2 24 rfl rfl
theorem dX3_breaks_0 : decode cX3_breaks 0 = .ok (.aload_n 0, 1) := dk_42 (dk_at dksX3_breaks_0 0 rfl rfl)
theorem dX3_breaks_1 : decode cX3_breaks 1 = .ok (.getfield 45, 3) := dk_180 0 45 (dk_at dksX3_breaks_0 1 rfl rfl)
theorem dX3_breaks_4 : decode cX3_breaks 4 = .ok (.bipush 16, 2) := dk_16 16 (dk_at dksX3_breaks_0 4 rfl rfl)
theorem dX3_breaks_6 : decode cX3_breaks 6 = .ok (.aload_n 0, 1) := dk_42 (dk_at dksX3_breaks_0 6 rfl rfl)
theorem dX3_breaks_7 : decode cX3_breaks 7 = .ok (.getfield 20, 3) := dk_180 0 20 (dk_at dksX3_breaks_0 7 rfl rfl)
theorem dX3_breaks_10 : decode cX3_breaks 10 = .ok (.iload_n 1, 1) := dk_27 (dk_at dksX3_breaks_0 10 rfl rfl)
theorem dX3_breaks_11 : decode cX3_breaks 11 = .ok (.iaload, 1) := dk_46 (dk_at dksX3_breaks_0 11 rfl rfl)
theorem dX3_breaks_12 : decode cX3_breaks 12 = .ok (.imul, 1) := dk_104 (dk_at dksX3_breaks_0 12 rfl rfl)
theorem dX3_breaks_13 : decode cX3_breaks 13 = .ok (.iconst 0, 1) := dk_3 (dk_at dksX3_breaks_0 13 rfl rfl)
theorem dX3_breaks_14 : decode cX3_breaks 14 = .ok (.iastore, 1) := dk_79 (dk_at dksX3_breaks_0 14 rfl rfl)
theorem dX3_breaks_15 : decode cX3_breaks 15 = .ok (.aload_n 0, 1) := dk_42 (dk_at dksX3_breaks_0 15 rfl rfl)
theorem dX3_breaks_16 : decode cX3_breaks 16 = .ok (.getfield 20, 3) := dk_180 0 20 (dk_at dksX3_breaks_0 16 rfl rfl)
theorem dX3_breaks_19 : decode cX3_breaks 19 = .ok (.iload_n 1, 1) := dk_27 (dk_at dksX3_breaks_0 19 rfl rfl)
theorem dX3_breaks_20 : decode cX3_breaks 20 = .ok (.iaload, 1) := dk_46 (dk_at dksX3_breaks_0 20 rfl rfl)
theorem dX3_breaks_21 : decode cX3_breaks 21 = .ok (.iconst 1, 1) := dk_4 (dk_at dksX3_breaks_0 21 rfl rfl)
theorem dX3_breaks_22 : decode cX3_breaks 22 = .ok (.isub, 1) := dk_100 (dk_at dksX3_breaks_0 22 rfl rfl)
theorem dX3_breaks_23 : decode cX3_breaks 23 = .ok (.istore_n 2, 1) := dk_61 (dk_at dksX3_breaks_0 23 rfl rfl)
theorem dX3_breaks_24 : decode cX3_breaks 24 = .ok (.iload_n 2, 1) := dk_28 (dk_at dksX3_breaks_1 0 rfl rfl)
theorem dX3_breaks_25 : decode cX3_breaks 25 = .ok (.ifCond .lt 65, 3) := dk_155 0 65 (dk_at dksX3_breaks_1 1 rfl rfl)
theorem dX3_breaks_28 : decode cX3_breaks 28 = .ok (.aload_n 0, 1) := dk_42 (dk_at dksX3_breaks_1 4 rfl rfl)
theorem dX3_breaks_29 : decode cX3_breaks 29 = .ok (.iload_n 1, 1) := dk_27 (dk_at dksX3_breaks_1 5 rfl rfl)
theorem dX3_breaks_30 : decode cX3_breaks 30 = .ok (.iload_n 2, 1) := dk_28 (dk_at dksX3_breaks_1 6 rfl rfl)
theorem dX3_breaks_31 : decode cX3_breaks 31 = .ok (.invokevirtual 87, 3) := dk_182 0 87 (dk_at dksX3_breaks_1 7 rfl rfl)
theorem dX3_breaks_34 : decode cX3_breaks 34 = .ok (.istore_n 3, 1) := dk_62 (dk_at dksX3_breaks_1 10 rfl rfl)
theorem dX3_breaks_35 : decode cX3_breaks 35 = .ok (.aload_n 0, 1) := dk_42 (dk_at dksX3_breaks_1 11 rfl rfl)
theorem dX3_breaks_36 : decode cX3_breaks 36 = .ok (.getfield 27, 3) := dk_180 0 27 (dk_at dksX3_breaks_1 12 rfl rfl)
theorem dX3_breaks_39 : decode cX3_breaks 39 = .ok (.iload_n 3, 1) := dk_29 (dk_at dksX3_breaks_1 15 rfl rfl)
theorem dX3_breaks_40 : decode cX3_breaks 40 = .ok (.iaload, 1) := dk_46 (dk_at dksX3_breaks_1 16 rfl rfl)
theorem dX3_breaks_41 : decode cX3_breaks 41 = .ok (.iconst 1, 1) := dk_4 (dk_at dksX3_breaks_1 17 rfl rfl)
theorem dX3_breaks_42 : decode cX3_breaks 42 = .ok (.isub, 1) := dk_100 (dk_at dksX3_breaks_1 18 rfl rfl)
theorem dX3_breaks_43 : decode cX3_breaks 43 = .ok (.istore 4, 2) := dk_54 4 (dk_at dksX3_breaks_1 19 rfl rfl)
theorem dX3_breaks_45 : decode cX3_breaks 45 = .ok (.iload 4, 2) := dk_21 4 (dk_at dksX3_breaks_1 21 rfl rfl)
theorem dX3_breaks_47 : decode cX3_breaks 47 = .ok (.ifCond .lt 37, 3) := dk_155 0 37 (dk_at dksX3_breaks_2 0 rfl rfl)
theorem dX3_breaks_50 : decode cX3_breaks 50 = .ok (.iload 4, 2) := dk_21 4 (dk_at dksX3_breaks_2 3 rfl rfl)
theorem dX3_breaks_52 : decode cX3_breaks 52 = .ok (.ifCond .eq 18, 3) := dk_153 0 18 (dk_at dksX3_breaks_2 5 rfl rfl)
theorem dX3_breaks_55 : decode cX3_breaks 55 = .ok (.aload_n 0, 1) := dk_42 (dk_at dksX3_breaks_2 8 rfl rfl)
theorem dX3_breaks_56 : decode cX3_breaks 56 = .ok (.getfield 36, 3) := dk_180 0 36 (dk_at dksX3_breaks_2 9 rfl rfl)
theorem dX3_breaks_59 : decode cX3_breaks 59 = .ok (.bipush 16, 2) := dk_16 16 (dk_at dksX3_breaks_2 12 rfl rfl)
theorem dX3_breaks_61 : decode cX3_breaks 61 = .ok (.iload_n 3, 1) := dk_29 (dk_at dksX3_breaks_2 14 rfl rfl)
theorem dX3_breaks_62 : decode cX3_breaks 62 = .ok (.imul, 1) := dk_104 (dk_at dksX3_breaks_2 15 rfl rfl)
theorem dX3_breaks_63 : decode cX3_breaks 63 = .ok (.iload 4, 2) := dk_21 4 (dk_at dksX3_breaks_2 16 rfl rfl)
theorem dX3_breaks_65 : decode cX3_breaks 65 = .ok (.iadd, 1) := dk_96 (dk_at dksX3_breaks_2 18 rfl rfl)
theorem dX3_breaks_66 : decode cX3_breaks 66 = .ok (.iaload, 1) := dk_46 (dk_at dksX3_breaks_2 19 rfl rfl)
theorem dX3_breaks_67 : decode cX3_breaks 67 = .ok (.ifCond .le 11, 3) := dk_158 0 11 (dk_at dksX3_breaks_2 20 rfl rfl)
theorem dX3_breaks_70 : decode cX3_breaks 70 = .ok (.aload_n 0, 1) := dk_42 (dk_at dksX3_breaks_2 23 rfl rfl)
theorem dX3_breaks_71 : decode cX3_breaks 71 = .ok (.iload_n 1, 1) := dk_27 (dk_at dksX3_breaks_3 0 rfl rfl)
theorem dX3_breaks_72 : decode cX3_breaks 72 = .ok (.iload_n 2, 1) := dk_28 (dk_at dksX3_breaks_3 1 rfl rfl)
theorem dX3_breaks_73 : decode cX3_breaks 73 = .ok (.iload 4, 2) := dk_21 4 (dk_at dksX3_breaks_3 2 rfl rfl)
theorem dX3_breaks_75 : decode cX3_breaks 75 = .ok (.invokevirtual 99, 3) := dk_182 0 99 (dk_at dksX3_breaks_3 4 rfl rfl)
theorem dX3_breaks_78 : decode cX3_breaks 78 = .ok (.iinc 4 (-1), 3) := dk_132 4 255 (dk_at dksX3_breaks_3 7 rfl rfl)
theorem dX3_breaks_81 : decode cX3_breaks 81 = .ok (.goto (-36), 3) := dk_167 255 220 (dk_at dksX3_breaks_3 10 rfl rfl)
theorem dX3_breaks_84 : decode cX3_breaks 84 = .ok (.iinc 2 (-1), 3) := dk_132 2 255 (dk_at dksX3_breaks_3 13 rfl rfl)
theorem dX3_breaks_87 : decode cX3_breaks 87 = .ok (.goto (-63), 3) := dk_167 255 193 (dk_at dksX3_breaks_3 16 rfl rfl)
theorem dX3_breaks_90 : decode cX3_breaks 90 = .ok (.return_, 1) := dk_177 (dk_at dksX3_breaks_3 19 rfl rfl)
abbrev cX3_finds : ByteArray := prog_7_method_14_code
def yX3_finds : MethodName := ⟨RX3, "finds", "(III)V"⟩
def dkwX3_finds_12 : List UInt8 := [21, 5, 42, 180, 0, 27, 21, 9, 46, 96, 54, 5, 132, 8, 1, 167, 254, 249, 177]
abbrev dktX3_finds_12 : List UInt8 := dkwX3_finds_12 ++ []
def dkwX3_finds_11 : List UInt8 := [21, 4, 21, 14, 79, 42, 180, 0, 48, 21, 4, 21, 13, 79, 3, 54, 7, 132, 10, 1, 167, 255, 67]
abbrev dktX3_finds_11 : List UInt8 := dkwX3_finds_11 ++ dktX3_finds_12
def dkwX3_finds_10 : List UInt8 := [96, 54, 14, 21, 6, 153, 0, 33, 21, 14, 42, 180, 0, 45, 21, 4, 46, 163, 0, 21, 42, 180, 0, 45]
abbrev dktX3_finds_10 : List UInt8 := dkwX3_finds_10 ++ dktX3_finds_11
def dkwX3_finds_9 : List UInt8 := [180, 0, 20, 27, 46, 104, 160, 0, 7, 4, 167, 0, 4, 3, 182, 0, 95, 42, 180, 0, 45, 21, 13, 46]
abbrev dktX3_finds_9 : List UInt8 := dkwX3_finds_9 ++ dktX3_finds_10
def dkwX3_finds_8 : List UInt8 := [167, 0, 10, 16, 16, 21, 8, 4, 96, 104, 54, 13, 42, 21, 12, 21, 11, 21, 13, 16, 16, 42]
abbrev dktX3_finds_8 : List UInt8 := dkwX3_finds_8 ++ dktX3_finds_9
def dkwX3_finds_7 : List UInt8 := [163, 0, 7, 4, 167, 0, 4, 3, 54, 6, 21, 11, 153, 0, 14, 16, 16, 21, 8, 104, 21, 10, 96]
abbrev dktX3_finds_7 : List UInt8 := dkwX3_finds_7 ++ dktX3_finds_8
def dkwX3_finds_6 : List UInt8 := [153, 0, 7, 4, 167, 0, 4, 3, 96, 54, 12, 21, 7, 154, 0, 12, 21, 12, 42, 180, 0, 7]
abbrev dktX3_finds_6 : List UInt8 := dkwX3_finds_6 ++ dktX3_finds_7
def dkwX3_finds_5 : List UInt8 := [180, 0, 27, 21, 9, 46, 162, 0, 7, 4, 167, 0, 4, 3, 54, 11, 21, 5, 21, 10, 96, 21, 11]
abbrev dktX3_finds_5 : List UInt8 := dkwX3_finds_5 ++ dktX3_finds_6
def dkwX3_finds_4 : List UInt8 := [163, 0, 183, 21, 6, 153, 0, 178, 42, 21, 9, 21, 10, 182, 0, 91, 153, 0, 161, 21, 10, 42]
abbrev dktX3_finds_4 : List UInt8 := dkwX3_finds_4 ++ dktX3_finds_5
def dkwX3_finds_3 : List UInt8 := [21, 8, 28, 160, 0, 9, 29, 4, 96, 167, 0, 4, 4, 54, 10, 21, 10, 42, 180, 0, 27, 21, 9, 46]
abbrev dktX3_finds_3 : List UInt8 := dkwX3_finds_3 ++ dktX3_finds_4
def dkwX3_finds_2 : List UInt8 := [21, 8, 182, 0, 87, 54, 9, 21, 5, 21, 8, 28, 160, 0, 7, 3, 167, 0, 4, 4, 96, 54, 5]
abbrev dktX3_finds_2 : List UInt8 := dkwX3_finds_2 ++ dktX3_finds_3
def dkwX3_finds_1 : List UInt8 := [18, 86, 79, 28, 54, 8, 21, 8, 42, 180, 0, 20, 27, 46, 162, 1, 2, 21, 6, 153, 0, 253, 42, 27]
abbrev dktX3_finds_1 : List UInt8 := dkwX3_finds_1 ++ dktX3_finds_2
def dkwX3_finds_0 : List UInt8 := [16, 16, 28, 104, 29, 96, 54, 4, 29, 116, 54, 5, 4, 54, 6, 4, 54, 7, 42, 180, 0, 45, 21, 4]
abbrev dktX3_finds_0 : List UInt8 := dkwX3_finds_0 ++ dktX3_finds_1
theorem dksX3_finds_0 : cX3_finds.data.toList.drop 0 = dktX3_finds_0 := by decide +kernel
theorem dksX3_finds_1 : cX3_finds.data.toList.drop 24 = dktX3_finds_1 := dk_seg dksX3_finds_0 24 rfl rfl
theorem dksX3_finds_2 : cX3_finds.data.toList.drop 48 = dktX3_finds_2 := dk_seg dksX3_finds_1 24 rfl rfl
theorem dksX3_finds_3 : cX3_finds.data.toList.drop 71 = dktX3_finds_3 := dk_seg dksX3_finds_2 23 rfl rfl
theorem dksX3_finds_4 : cX3_finds.data.toList.drop 95 = dktX3_finds_4 := dk_seg dksX3_finds_3 24 rfl rfl
theorem dksX3_finds_5 : cX3_finds.data.toList.drop 117 = dktX3_finds_5 := dk_seg dksX3_finds_4 22 rfl rfl
theorem dksX3_finds_6 : cX3_finds.data.toList.drop 140 = dktX3_finds_6 := dk_seg dksX3_finds_5 23 rfl rfl
theorem dksX3_finds_7 : cX3_finds.data.toList.drop 162 = dktX3_finds_7 := dk_seg dksX3_finds_6 22 rfl rfl
theorem dksX3_finds_8 : cX3_finds.data.toList.drop 185 = dktX3_finds_8 := dk_seg dksX3_finds_7 23 rfl rfl
theorem dksX3_finds_9 : cX3_finds.data.toList.drop 207 = dktX3_finds_9 := dk_seg dksX3_finds_8 22 rfl rfl
theorem dksX3_finds_10 : cX3_finds.data.toList.drop 231 = dktX3_finds_10 := dk_seg dksX3_finds_9 24 rfl rfl
theorem dksX3_finds_11 : cX3_finds.data.toList.drop 255 = dktX3_finds_11 := dk_seg dksX3_finds_10 24 rfl rfl
theorem dksX3_finds_12 : cX3_finds.data.toList.drop 278 = dktX3_finds_12 := dk_seg dksX3_finds_11 23 rfl rfl
theorem dX3_finds_0 : decode cX3_finds 0 = .ok (.bipush 16, 2) := dk_16 16 (dk_at dksX3_finds_0 0 rfl rfl)
theorem dX3_finds_2 : decode cX3_finds 2 = .ok (.iload_n 2, 1) := dk_28 (dk_at dksX3_finds_0 2 rfl rfl)
theorem dX3_finds_3 : decode cX3_finds 3 = .ok (.imul, 1) := dk_104 (dk_at dksX3_finds_0 3 rfl rfl)
theorem dX3_finds_4 : decode cX3_finds 4 = .ok (.iload_n 3, 1) := dk_29 (dk_at dksX3_finds_0 4 rfl rfl)
theorem dX3_finds_5 : decode cX3_finds 5 = .ok (.iadd, 1) := dk_96 (dk_at dksX3_finds_0 5 rfl rfl)
theorem dX3_finds_6 : decode cX3_finds 6 = .ok (.istore 4, 2) := dk_54 4 (dk_at dksX3_finds_0 6 rfl rfl)
theorem dX3_finds_8 : decode cX3_finds 8 = .ok (.iload_n 3, 1) := dk_29 (dk_at dksX3_finds_0 8 rfl rfl)
theorem dX3_finds_9 : decode cX3_finds 9 = .ok (.ineg, 1) := dk_116 (dk_at dksX3_finds_0 9 rfl rfl)
theorem dX3_finds_10 : decode cX3_finds 10 = .ok (.istore 5, 2) := dk_54 5 (dk_at dksX3_finds_0 10 rfl rfl)
theorem dX3_finds_12 : decode cX3_finds 12 = .ok (.iconst 1, 1) := dk_4 (dk_at dksX3_finds_0 12 rfl rfl)
theorem dX3_finds_13 : decode cX3_finds 13 = .ok (.istore 6, 2) := dk_54 6 (dk_at dksX3_finds_0 13 rfl rfl)
theorem dX3_finds_15 : decode cX3_finds 15 = .ok (.iconst 1, 1) := dk_4 (dk_at dksX3_finds_0 15 rfl rfl)
theorem dX3_finds_16 : decode cX3_finds 16 = .ok (.istore 7, 2) := dk_54 7 (dk_at dksX3_finds_0 16 rfl rfl)
theorem dX3_finds_18 : decode cX3_finds 18 = .ok (.aload_n 0, 1) := dk_42 (dk_at dksX3_finds_0 18 rfl rfl)
theorem dX3_finds_19 : decode cX3_finds 19 = .ok (.getfield 45, 3) := dk_180 0 45 (dk_at dksX3_finds_0 19 rfl rfl)
theorem dX3_finds_22 : decode cX3_finds 22 = .ok (.iload 4, 2) := dk_21 4 (dk_at dksX3_finds_0 22 rfl rfl)
theorem dX3_finds_24 : decode cX3_finds 24 = .ok (.ldc 86, 2) := dk_18 86 (dk_at dksX3_finds_1 0 rfl rfl)
theorem dX3_finds_26 : decode cX3_finds 26 = .ok (.iastore, 1) := dk_79 (dk_at dksX3_finds_1 2 rfl rfl)
theorem dX3_finds_27 : decode cX3_finds 27 = .ok (.iload_n 2, 1) := dk_28 (dk_at dksX3_finds_1 3 rfl rfl)
theorem dX3_finds_28 : decode cX3_finds 28 = .ok (.istore 8, 2) := dk_54 8 (dk_at dksX3_finds_1 4 rfl rfl)
theorem dX3_finds_30 : decode cX3_finds 30 = .ok (.iload 8, 2) := dk_21 8 (dk_at dksX3_finds_1 6 rfl rfl)
theorem dX3_finds_32 : decode cX3_finds 32 = .ok (.aload_n 0, 1) := dk_42 (dk_at dksX3_finds_1 8 rfl rfl)
theorem dX3_finds_33 : decode cX3_finds 33 = .ok (.getfield 20, 3) := dk_180 0 20 (dk_at dksX3_finds_1 9 rfl rfl)
theorem dX3_finds_36 : decode cX3_finds 36 = .ok (.iload_n 1, 1) := dk_27 (dk_at dksX3_finds_1 12 rfl rfl)
theorem dX3_finds_37 : decode cX3_finds 37 = .ok (.iaload, 1) := dk_46 (dk_at dksX3_finds_1 13 rfl rfl)
theorem dX3_finds_38 : decode cX3_finds 38 = .ok (.if_icmp .ge 258, 3) := dk_162 1 2 (dk_at dksX3_finds_1 14 rfl rfl)
theorem dX3_finds_41 : decode cX3_finds 41 = .ok (.iload 6, 2) := dk_21 6 (dk_at dksX3_finds_1 17 rfl rfl)
theorem dX3_finds_43 : decode cX3_finds 43 = .ok (.ifCond .eq 253, 3) := dk_153 0 253 (dk_at dksX3_finds_1 19 rfl rfl)
theorem dX3_finds_46 : decode cX3_finds 46 = .ok (.aload_n 0, 1) := dk_42 (dk_at dksX3_finds_1 22 rfl rfl)
theorem dX3_finds_47 : decode cX3_finds 47 = .ok (.iload_n 1, 1) := dk_27 (dk_at dksX3_finds_1 23 rfl rfl)
theorem dX3_finds_48 : decode cX3_finds 48 = .ok (.iload 8, 2) := dk_21 8 (dk_at dksX3_finds_2 0 rfl rfl)
theorem dX3_finds_50 : decode cX3_finds 50 = .ok (.invokevirtual 87, 3) := dk_182 0 87 (dk_at dksX3_finds_2 2 rfl rfl)
theorem dX3_finds_53 : decode cX3_finds 53 = .ok (.istore 9, 2) := dk_54 9 (dk_at dksX3_finds_2 5 rfl rfl)
theorem dX3_finds_55 : decode cX3_finds 55 = .ok (.iload 5, 2) := dk_21 5 (dk_at dksX3_finds_2 7 rfl rfl)
theorem dX3_finds_57 : decode cX3_finds 57 = .ok (.iload 8, 2) := dk_21 8 (dk_at dksX3_finds_2 9 rfl rfl)
theorem dX3_finds_59 : decode cX3_finds 59 = .ok (.iload_n 2, 1) := dk_28 (dk_at dksX3_finds_2 11 rfl rfl)
theorem dX3_finds_60 : decode cX3_finds 60 = .ok (.if_icmp .ne 7, 3) := dk_160 0 7 (dk_at dksX3_finds_2 12 rfl rfl)
theorem dX3_finds_63 : decode cX3_finds 63 = .ok (.iconst 0, 1) := dk_3 (dk_at dksX3_finds_2 15 rfl rfl)
theorem dX3_finds_64 : decode cX3_finds 64 = .ok (.goto 4, 3) := dk_167 0 4 (dk_at dksX3_finds_2 16 rfl rfl)
theorem dX3_finds_67 : decode cX3_finds 67 = .ok (.iconst 1, 1) := dk_4 (dk_at dksX3_finds_2 19 rfl rfl)
theorem dX3_finds_68 : decode cX3_finds 68 = .ok (.iadd, 1) := dk_96 (dk_at dksX3_finds_2 20 rfl rfl)
theorem dX3_finds_69 : decode cX3_finds 69 = .ok (.istore 5, 2) := dk_54 5 (dk_at dksX3_finds_2 21 rfl rfl)
theorem dX3_finds_71 : decode cX3_finds 71 = .ok (.iload 8, 2) := dk_21 8 (dk_at dksX3_finds_3 0 rfl rfl)
theorem dX3_finds_73 : decode cX3_finds 73 = .ok (.iload_n 2, 1) := dk_28 (dk_at dksX3_finds_3 2 rfl rfl)
theorem dX3_finds_74 : decode cX3_finds 74 = .ok (.if_icmp .ne 9, 3) := dk_160 0 9 (dk_at dksX3_finds_3 3 rfl rfl)
theorem dX3_finds_77 : decode cX3_finds 77 = .ok (.iload_n 3, 1) := dk_29 (dk_at dksX3_finds_3 6 rfl rfl)
theorem dX3_finds_78 : decode cX3_finds 78 = .ok (.iconst 1, 1) := dk_4 (dk_at dksX3_finds_3 7 rfl rfl)
theorem dX3_finds_79 : decode cX3_finds 79 = .ok (.iadd, 1) := dk_96 (dk_at dksX3_finds_3 8 rfl rfl)
theorem dX3_finds_80 : decode cX3_finds 80 = .ok (.goto 4, 3) := dk_167 0 4 (dk_at dksX3_finds_3 9 rfl rfl)
theorem dX3_finds_83 : decode cX3_finds 83 = .ok (.iconst 1, 1) := dk_4 (dk_at dksX3_finds_3 12 rfl rfl)
theorem dX3_finds_84 : decode cX3_finds 84 = .ok (.istore 10, 2) := dk_54 10 (dk_at dksX3_finds_3 13 rfl rfl)
theorem dX3_finds_86 : decode cX3_finds 86 = .ok (.iload 10, 2) := dk_21 10 (dk_at dksX3_finds_3 15 rfl rfl)
theorem dX3_finds_88 : decode cX3_finds 88 = .ok (.aload_n 0, 1) := dk_42 (dk_at dksX3_finds_3 17 rfl rfl)
theorem dX3_finds_89 : decode cX3_finds 89 = .ok (.getfield 27, 3) := dk_180 0 27 (dk_at dksX3_finds_3 18 rfl rfl)
theorem dX3_finds_92 : decode cX3_finds 92 = .ok (.iload 9, 2) := dk_21 9 (dk_at dksX3_finds_3 21 rfl rfl)
theorem dX3_finds_94 : decode cX3_finds 94 = .ok (.iaload, 1) := dk_46 (dk_at dksX3_finds_3 23 rfl rfl)
theorem dX3_finds_95 : decode cX3_finds 95 = .ok (.if_icmp .gt 183, 3) := dk_163 0 183 (dk_at dksX3_finds_4 0 rfl rfl)
theorem dX3_finds_98 : decode cX3_finds 98 = .ok (.iload 6, 2) := dk_21 6 (dk_at dksX3_finds_4 3 rfl rfl)
theorem dX3_finds_100 : decode cX3_finds 100 = .ok (.ifCond .eq 178, 3) := dk_153 0 178 (dk_at dksX3_finds_4 5 rfl rfl)
theorem dX3_finds_103 : decode cX3_finds 103 = .ok (.aload_n 0, 1) := dk_42 (dk_at dksX3_finds_4 8 rfl rfl)
theorem dX3_finds_104 : decode cX3_finds 104 = .ok (.iload 9, 2) := dk_21 9 (dk_at dksX3_finds_4 9 rfl rfl)
theorem dX3_finds_106 : decode cX3_finds 106 = .ok (.iload 10, 2) := dk_21 10 (dk_at dksX3_finds_4 11 rfl rfl)
theorem dX3_finds_108 : decode cX3_finds 108 = .ok (.invokevirtual 91, 3) := dk_182 0 91 (dk_at dksX3_finds_4 13 rfl rfl)
theorem dX3_finds_111 : decode cX3_finds 111 = .ok (.ifCond .eq 161, 3) := dk_153 0 161 (dk_at dksX3_finds_4 16 rfl rfl)
theorem dX3_finds_114 : decode cX3_finds 114 = .ok (.iload 10, 2) := dk_21 10 (dk_at dksX3_finds_4 19 rfl rfl)
theorem dX3_finds_116 : decode cX3_finds 116 = .ok (.aload_n 0, 1) := dk_42 (dk_at dksX3_finds_4 21 rfl rfl)
theorem dX3_finds_117 : decode cX3_finds 117 = .ok (.getfield 27, 3) := dk_180 0 27 (dk_at dksX3_finds_5 0 rfl rfl)
theorem dX3_finds_120 : decode cX3_finds 120 = .ok (.iload 9, 2) := dk_21 9 (dk_at dksX3_finds_5 3 rfl rfl)
theorem dX3_finds_122 : decode cX3_finds 122 = .ok (.iaload, 1) := dk_46 (dk_at dksX3_finds_5 5 rfl rfl)
theorem dX3_finds_123 : decode cX3_finds 123 = .ok (.if_icmp .ge 7, 3) := dk_162 0 7 (dk_at dksX3_finds_5 6 rfl rfl)
theorem dX3_finds_126 : decode cX3_finds 126 = .ok (.iconst 1, 1) := dk_4 (dk_at dksX3_finds_5 9 rfl rfl)
theorem dX3_finds_127 : decode cX3_finds 127 = .ok (.goto 4, 3) := dk_167 0 4 (dk_at dksX3_finds_5 10 rfl rfl)
theorem dX3_finds_130 : decode cX3_finds 130 = .ok (.iconst 0, 1) := dk_3 (dk_at dksX3_finds_5 13 rfl rfl)
theorem dX3_finds_131 : decode cX3_finds 131 = .ok (.istore 11, 2) := dk_54 11 (dk_at dksX3_finds_5 14 rfl rfl)
theorem dX3_finds_133 : decode cX3_finds 133 = .ok (.iload 5, 2) := dk_21 5 (dk_at dksX3_finds_5 16 rfl rfl)
theorem dX3_finds_135 : decode cX3_finds 135 = .ok (.iload 10, 2) := dk_21 10 (dk_at dksX3_finds_5 18 rfl rfl)
theorem dX3_finds_137 : decode cX3_finds 137 = .ok (.iadd, 1) := dk_96 (dk_at dksX3_finds_5 20 rfl rfl)
theorem dX3_finds_138 : decode cX3_finds 138 = .ok (.iload 11, 2) := dk_21 11 (dk_at dksX3_finds_5 21 rfl rfl)
theorem dX3_finds_140 : decode cX3_finds 140 = .ok (.ifCond .eq 7, 3) := dk_153 0 7 (dk_at dksX3_finds_6 0 rfl rfl)
theorem dX3_finds_143 : decode cX3_finds 143 = .ok (.iconst 1, 1) := dk_4 (dk_at dksX3_finds_6 3 rfl rfl)
theorem dX3_finds_144 : decode cX3_finds 144 = .ok (.goto 4, 3) := dk_167 0 4 (dk_at dksX3_finds_6 4 rfl rfl)
theorem dX3_finds_147 : decode cX3_finds 147 = .ok (.iconst 0, 1) := dk_3 (dk_at dksX3_finds_6 7 rfl rfl)
theorem dX3_finds_148 : decode cX3_finds 148 = .ok (.iadd, 1) := dk_96 (dk_at dksX3_finds_6 8 rfl rfl)
theorem dX3_finds_149 : decode cX3_finds 149 = .ok (.istore 12, 2) := dk_54 12 (dk_at dksX3_finds_6 9 rfl rfl)
theorem dX3_finds_151 : decode cX3_finds 151 = .ok (.iload 7, 2) := dk_21 7 (dk_at dksX3_finds_6 11 rfl rfl)
theorem dX3_finds_153 : decode cX3_finds 153 = .ok (.ifCond .ne 12, 3) := dk_154 0 12 (dk_at dksX3_finds_6 13 rfl rfl)
theorem dX3_finds_156 : decode cX3_finds 156 = .ok (.iload 12, 2) := dk_21 12 (dk_at dksX3_finds_6 16 rfl rfl)
theorem dX3_finds_158 : decode cX3_finds 158 = .ok (.aload_n 0, 1) := dk_42 (dk_at dksX3_finds_6 18 rfl rfl)
theorem dX3_finds_159 : decode cX3_finds 159 = .ok (.getfield 7, 3) := dk_180 0 7 (dk_at dksX3_finds_6 19 rfl rfl)
theorem dX3_finds_162 : decode cX3_finds 162 = .ok (.if_icmp .gt 7, 3) := dk_163 0 7 (dk_at dksX3_finds_7 0 rfl rfl)
theorem dX3_finds_165 : decode cX3_finds 165 = .ok (.iconst 1, 1) := dk_4 (dk_at dksX3_finds_7 3 rfl rfl)
theorem dX3_finds_166 : decode cX3_finds 166 = .ok (.goto 4, 3) := dk_167 0 4 (dk_at dksX3_finds_7 4 rfl rfl)
theorem dX3_finds_169 : decode cX3_finds 169 = .ok (.iconst 0, 1) := dk_3 (dk_at dksX3_finds_7 7 rfl rfl)
theorem dX3_finds_170 : decode cX3_finds 170 = .ok (.istore 6, 2) := dk_54 6 (dk_at dksX3_finds_7 8 rfl rfl)
theorem dX3_finds_172 : decode cX3_finds 172 = .ok (.iload 11, 2) := dk_21 11 (dk_at dksX3_finds_7 10 rfl rfl)
theorem dX3_finds_174 : decode cX3_finds 174 = .ok (.ifCond .eq 14, 3) := dk_153 0 14 (dk_at dksX3_finds_7 12 rfl rfl)
theorem dX3_finds_177 : decode cX3_finds 177 = .ok (.bipush 16, 2) := dk_16 16 (dk_at dksX3_finds_7 15 rfl rfl)
theorem dX3_finds_179 : decode cX3_finds 179 = .ok (.iload 8, 2) := dk_21 8 (dk_at dksX3_finds_7 17 rfl rfl)
theorem dX3_finds_181 : decode cX3_finds 181 = .ok (.imul, 1) := dk_104 (dk_at dksX3_finds_7 19 rfl rfl)
theorem dX3_finds_182 : decode cX3_finds 182 = .ok (.iload 10, 2) := dk_21 10 (dk_at dksX3_finds_7 20 rfl rfl)
theorem dX3_finds_184 : decode cX3_finds 184 = .ok (.iadd, 1) := dk_96 (dk_at dksX3_finds_7 22 rfl rfl)
theorem dX3_finds_185 : decode cX3_finds 185 = .ok (.goto 10, 3) := dk_167 0 10 (dk_at dksX3_finds_8 0 rfl rfl)
theorem dX3_finds_188 : decode cX3_finds 188 = .ok (.bipush 16, 2) := dk_16 16 (dk_at dksX3_finds_8 3 rfl rfl)
theorem dX3_finds_190 : decode cX3_finds 190 = .ok (.iload 8, 2) := dk_21 8 (dk_at dksX3_finds_8 5 rfl rfl)
theorem dX3_finds_192 : decode cX3_finds 192 = .ok (.iconst 1, 1) := dk_4 (dk_at dksX3_finds_8 7 rfl rfl)
theorem dX3_finds_193 : decode cX3_finds 193 = .ok (.iadd, 1) := dk_96 (dk_at dksX3_finds_8 8 rfl rfl)
theorem dX3_finds_194 : decode cX3_finds 194 = .ok (.imul, 1) := dk_104 (dk_at dksX3_finds_8 9 rfl rfl)
theorem dX3_finds_195 : decode cX3_finds 195 = .ok (.istore 13, 2) := dk_54 13 (dk_at dksX3_finds_8 10 rfl rfl)
theorem dX3_finds_197 : decode cX3_finds 197 = .ok (.aload_n 0, 1) := dk_42 (dk_at dksX3_finds_8 12 rfl rfl)
theorem dX3_finds_198 : decode cX3_finds 198 = .ok (.iload 12, 2) := dk_21 12 (dk_at dksX3_finds_8 13 rfl rfl)
theorem dX3_finds_200 : decode cX3_finds 200 = .ok (.iload 11, 2) := dk_21 11 (dk_at dksX3_finds_8 15 rfl rfl)
theorem dX3_finds_202 : decode cX3_finds 202 = .ok (.iload 13, 2) := dk_21 13 (dk_at dksX3_finds_8 17 rfl rfl)
theorem dX3_finds_204 : decode cX3_finds 204 = .ok (.bipush 16, 2) := dk_16 16 (dk_at dksX3_finds_8 19 rfl rfl)
theorem dX3_finds_206 : decode cX3_finds 206 = .ok (.aload_n 0, 1) := dk_42 (dk_at dksX3_finds_8 21 rfl rfl)
theorem dX3_finds_207 : decode cX3_finds 207 = .ok (.getfield 20, 3) := dk_180 0 20 (dk_at dksX3_finds_9 0 rfl rfl)
theorem dX3_finds_210 : decode cX3_finds 210 = .ok (.iload_n 1, 1) := dk_27 (dk_at dksX3_finds_9 3 rfl rfl)
theorem dX3_finds_211 : decode cX3_finds 211 = .ok (.iaload, 1) := dk_46 (dk_at dksX3_finds_9 4 rfl rfl)
theorem dX3_finds_212 : decode cX3_finds 212 = .ok (.imul, 1) := dk_104 (dk_at dksX3_finds_9 5 rfl rfl)
theorem dX3_finds_213 : decode cX3_finds 213 = .ok (.if_icmp .ne 7, 3) := dk_160 0 7 (dk_at dksX3_finds_9 6 rfl rfl)
theorem dX3_finds_216 : decode cX3_finds 216 = .ok (.iconst 1, 1) := dk_4 (dk_at dksX3_finds_9 9 rfl rfl)
theorem dX3_finds_217 : decode cX3_finds 217 = .ok (.goto 4, 3) := dk_167 0 4 (dk_at dksX3_finds_9 10 rfl rfl)
theorem dX3_finds_220 : decode cX3_finds 220 = .ok (.iconst 0, 1) := dk_3 (dk_at dksX3_finds_9 13 rfl rfl)
theorem dX3_finds_221 : decode cX3_finds 221 = .ok (.invokevirtual 95, 3) := dk_182 0 95 (dk_at dksX3_finds_9 14 rfl rfl)
theorem dX3_finds_224 : decode cX3_finds 224 = .ok (.aload_n 0, 1) := dk_42 (dk_at dksX3_finds_9 17 rfl rfl)
theorem dX3_finds_225 : decode cX3_finds 225 = .ok (.getfield 45, 3) := dk_180 0 45 (dk_at dksX3_finds_9 18 rfl rfl)
theorem dX3_finds_228 : decode cX3_finds 228 = .ok (.iload 13, 2) := dk_21 13 (dk_at dksX3_finds_9 21 rfl rfl)
theorem dX3_finds_230 : decode cX3_finds 230 = .ok (.iaload, 1) := dk_46 (dk_at dksX3_finds_9 23 rfl rfl)
theorem dX3_finds_231 : decode cX3_finds 231 = .ok (.iadd, 1) := dk_96 (dk_at dksX3_finds_10 0 rfl rfl)
theorem dX3_finds_232 : decode cX3_finds 232 = .ok (.istore 14, 2) := dk_54 14 (dk_at dksX3_finds_10 1 rfl rfl)
theorem dX3_finds_234 : decode cX3_finds 234 = .ok (.iload 6, 2) := dk_21 6 (dk_at dksX3_finds_10 3 rfl rfl)
theorem dX3_finds_236 : decode cX3_finds 236 = .ok (.ifCond .eq 33, 3) := dk_153 0 33 (dk_at dksX3_finds_10 5 rfl rfl)
theorem dX3_finds_239 : decode cX3_finds 239 = .ok (.iload 14, 2) := dk_21 14 (dk_at dksX3_finds_10 8 rfl rfl)
theorem dX3_finds_241 : decode cX3_finds 241 = .ok (.aload_n 0, 1) := dk_42 (dk_at dksX3_finds_10 10 rfl rfl)
theorem dX3_finds_242 : decode cX3_finds 242 = .ok (.getfield 45, 3) := dk_180 0 45 (dk_at dksX3_finds_10 11 rfl rfl)
theorem dX3_finds_245 : decode cX3_finds 245 = .ok (.iload 4, 2) := dk_21 4 (dk_at dksX3_finds_10 14 rfl rfl)
theorem dX3_finds_247 : decode cX3_finds 247 = .ok (.iaload, 1) := dk_46 (dk_at dksX3_finds_10 16 rfl rfl)
theorem dX3_finds_248 : decode cX3_finds 248 = .ok (.if_icmp .gt 21, 3) := dk_163 0 21 (dk_at dksX3_finds_10 17 rfl rfl)
theorem dX3_finds_251 : decode cX3_finds 251 = .ok (.aload_n 0, 1) := dk_42 (dk_at dksX3_finds_10 20 rfl rfl)
theorem dX3_finds_252 : decode cX3_finds 252 = .ok (.getfield 45, 3) := dk_180 0 45 (dk_at dksX3_finds_10 21 rfl rfl)
theorem dX3_finds_255 : decode cX3_finds 255 = .ok (.iload 4, 2) := dk_21 4 (dk_at dksX3_finds_11 0 rfl rfl)
theorem dX3_finds_257 : decode cX3_finds 257 = .ok (.iload 14, 2) := dk_21 14 (dk_at dksX3_finds_11 2 rfl rfl)
theorem dX3_finds_259 : decode cX3_finds 259 = .ok (.iastore, 1) := dk_79 (dk_at dksX3_finds_11 4 rfl rfl)
theorem dX3_finds_260 : decode cX3_finds 260 = .ok (.aload_n 0, 1) := dk_42 (dk_at dksX3_finds_11 5 rfl rfl)
theorem dX3_finds_261 : decode cX3_finds 261 = .ok (.getfield 48, 3) := dk_180 0 48 (dk_at dksX3_finds_11 6 rfl rfl)
theorem dX3_finds_264 : decode cX3_finds 264 = .ok (.iload 4, 2) := dk_21 4 (dk_at dksX3_finds_11 9 rfl rfl)
theorem dX3_finds_266 : decode cX3_finds 266 = .ok (.iload 13, 2) := dk_21 13 (dk_at dksX3_finds_11 11 rfl rfl)
theorem dX3_finds_268 : decode cX3_finds 268 = .ok (.iastore, 1) := dk_79 (dk_at dksX3_finds_11 13 rfl rfl)
theorem dX3_finds_269 : decode cX3_finds 269 = .ok (.iconst 0, 1) := dk_3 (dk_at dksX3_finds_11 14 rfl rfl)
theorem dX3_finds_270 : decode cX3_finds 270 = .ok (.istore 7, 2) := dk_54 7 (dk_at dksX3_finds_11 15 rfl rfl)
theorem dX3_finds_272 : decode cX3_finds 272 = .ok (.iinc 10 1, 3) := dk_132 10 1 (dk_at dksX3_finds_11 17 rfl rfl)
theorem dX3_finds_275 : decode cX3_finds 275 = .ok (.goto (-189), 3) := dk_167 255 67 (dk_at dksX3_finds_11 20 rfl rfl)
theorem dX3_finds_278 : decode cX3_finds 278 = .ok (.iload 5, 2) := dk_21 5 (dk_at dksX3_finds_12 0 rfl rfl)
theorem dX3_finds_280 : decode cX3_finds 280 = .ok (.aload_n 0, 1) := dk_42 (dk_at dksX3_finds_12 2 rfl rfl)
theorem dX3_finds_281 : decode cX3_finds 281 = .ok (.getfield 27, 3) := dk_180 0 27 (dk_at dksX3_finds_12 3 rfl rfl)
theorem dX3_finds_284 : decode cX3_finds 284 = .ok (.iload 9, 2) := dk_21 9 (dk_at dksX3_finds_12 6 rfl rfl)
theorem dX3_finds_286 : decode cX3_finds 286 = .ok (.iaload, 1) := dk_46 (dk_at dksX3_finds_12 8 rfl rfl)
theorem dX3_finds_287 : decode cX3_finds 287 = .ok (.iadd, 1) := dk_96 (dk_at dksX3_finds_12 9 rfl rfl)
theorem dX3_finds_288 : decode cX3_finds 288 = .ok (.istore 5, 2) := dk_54 5 (dk_at dksX3_finds_12 10 rfl rfl)
theorem dX3_finds_290 : decode cX3_finds 290 = .ok (.iinc 8 1, 3) := dk_132 8 1 (dk_at dksX3_finds_12 12 rfl rfl)
theorem dX3_finds_293 : decode cX3_finds 293 = .ok (.goto (-263), 3) := dk_167 254 249 (dk_at dksX3_finds_12 15 rfl rfl)
theorem dX3_finds_296 : decode cX3_finds 296 = .ok (.return_, 1) := dk_177 (dk_at dksX3_finds_12 18 rfl rfl)
abbrev cX3_canEnd : ByteArray := prog_7_method_12_code
def yX3_canEnd : MethodName := ⟨RX3, "canEnd", "(II)Z"⟩
def dkwX3_canEnd_1 : List UInt8 := [4, 167, 0, 4, 3, 172]
abbrev dktX3_canEnd_1 : List UInt8 := dkwX3_canEnd_1 ++ []
def dkwX3_canEnd_0 : List UInt8 := [28, 42, 180, 0, 27, 27, 46, 159, 0, 17, 42, 180, 0, 36, 16, 16, 27, 104, 28, 96, 46, 158, 0, 7]
abbrev dktX3_canEnd_0 : List UInt8 := dkwX3_canEnd_0 ++ dktX3_canEnd_1
theorem dksX3_canEnd_0 : cX3_canEnd.data.toList.drop 0 = dktX3_canEnd_0 := by decide +kernel
theorem dksX3_canEnd_1 : cX3_canEnd.data.toList.drop 24 = dktX3_canEnd_1 := dk_seg dksX3_canEnd_0 24 rfl rfl
theorem dX3_canEnd_0 : decode cX3_canEnd 0 = .ok (.iload_n 2, 1) := dk_28 (dk_at dksX3_canEnd_0 0 rfl rfl)
theorem dX3_canEnd_1 : decode cX3_canEnd 1 = .ok (.aload_n 0, 1) := dk_42 (dk_at dksX3_canEnd_0 1 rfl rfl)
theorem dX3_canEnd_2 : decode cX3_canEnd 2 = .ok (.getfield 27, 3) := dk_180 0 27 (dk_at dksX3_canEnd_0 2 rfl rfl)
theorem dX3_canEnd_5 : decode cX3_canEnd 5 = .ok (.iload_n 1, 1) := dk_27 (dk_at dksX3_canEnd_0 5 rfl rfl)
theorem dX3_canEnd_6 : decode cX3_canEnd 6 = .ok (.iaload, 1) := dk_46 (dk_at dksX3_canEnd_0 6 rfl rfl)
theorem dX3_canEnd_7 : decode cX3_canEnd 7 = .ok (.if_icmp .eq 17, 3) := dk_159 0 17 (dk_at dksX3_canEnd_0 7 rfl rfl)
theorem dX3_canEnd_10 : decode cX3_canEnd 10 = .ok (.aload_n 0, 1) := dk_42 (dk_at dksX3_canEnd_0 10 rfl rfl)
theorem dX3_canEnd_11 : decode cX3_canEnd 11 = .ok (.getfield 36, 3) := dk_180 0 36 (dk_at dksX3_canEnd_0 11 rfl rfl)
theorem dX3_canEnd_14 : decode cX3_canEnd 14 = .ok (.bipush 16, 2) := dk_16 16 (dk_at dksX3_canEnd_0 14 rfl rfl)
theorem dX3_canEnd_16 : decode cX3_canEnd 16 = .ok (.iload_n 1, 1) := dk_27 (dk_at dksX3_canEnd_0 16 rfl rfl)
theorem dX3_canEnd_17 : decode cX3_canEnd 17 = .ok (.imul, 1) := dk_104 (dk_at dksX3_canEnd_0 17 rfl rfl)
theorem dX3_canEnd_18 : decode cX3_canEnd 18 = .ok (.iload_n 2, 1) := dk_28 (dk_at dksX3_canEnd_0 18 rfl rfl)
theorem dX3_canEnd_19 : decode cX3_canEnd 19 = .ok (.iadd, 1) := dk_96 (dk_at dksX3_canEnd_0 19 rfl rfl)
theorem dX3_canEnd_20 : decode cX3_canEnd 20 = .ok (.iaload, 1) := dk_46 (dk_at dksX3_canEnd_0 20 rfl rfl)
theorem dX3_canEnd_21 : decode cX3_canEnd 21 = .ok (.ifCond .le 7, 3) := dk_158 0 7 (dk_at dksX3_canEnd_0 21 rfl rfl)
theorem dX3_canEnd_24 : decode cX3_canEnd 24 = .ok (.iconst 1, 1) := dk_4 (dk_at dksX3_canEnd_1 0 rfl rfl)
theorem dX3_canEnd_25 : decode cX3_canEnd 25 = .ok (.goto 4, 3) := dk_167 0 4 (dk_at dksX3_canEnd_1 1 rfl rfl)
theorem dX3_canEnd_28 : decode cX3_canEnd 28 = .ok (.iconst 0, 1) := dk_3 (dk_at dksX3_canEnd_1 4 rfl rfl)
theorem dX3_canEnd_29 : decode cX3_canEnd 29 = .ok (.ireturn, 1) := dk_172 (dk_at dksX3_canEnd_1 5 rfl rfl)
abbrev cX3_badnessOf : ByteArray := prog_7_method_13_code
def yX3_badnessOf : MethodName := ⟨RX3, "badnessOf", "(IZZ)I"⟩
def dkwX3_badnessOf_2 : List UInt8 := [153, 0, 8, 16, 30, 167, 0, 4, 3, 96, 172]
abbrev dktX3_badnessOf_2 : List UInt8 := dkwX3_badnessOf_2 ++ []
def dkwX3_badnessOf_1 : List UInt8 := [54, 5, 29, 153, 0, 18, 21, 4, 155, 0, 7, 3, 167, 0, 22, 17, 39, 16, 167, 0, 16, 21, 5, 28]
abbrev dktX3_badnessOf_1 : List UInt8 := dkwX3_badnessOf_1 ++ dktX3_badnessOf_2
def dkwX3_badnessOf_0 : List UInt8 := [42, 180, 0, 7, 27, 100, 54, 4, 21, 4, 155, 0, 11, 21, 4, 21, 4, 104, 167, 0, 6, 17, 39, 16]
abbrev dktX3_badnessOf_0 : List UInt8 := dkwX3_badnessOf_0 ++ dktX3_badnessOf_1
theorem dksX3_badnessOf_0 : cX3_badnessOf.data.toList.drop 0 = dktX3_badnessOf_0 := by decide +kernel
theorem dksX3_badnessOf_1 : cX3_badnessOf.data.toList.drop 24 = dktX3_badnessOf_1 := dk_seg dksX3_badnessOf_0 24 rfl rfl
theorem dksX3_badnessOf_2 : cX3_badnessOf.data.toList.drop 48 = dktX3_badnessOf_2 := dk_seg dksX3_badnessOf_1 24 rfl rfl
theorem dX3_badnessOf_0 : decode cX3_badnessOf 0 = .ok (.aload_n 0, 1) := dk_42 (dk_at dksX3_badnessOf_0 0 rfl rfl)
theorem dX3_badnessOf_1 : decode cX3_badnessOf 1 = .ok (.getfield 7, 3) := dk_180 0 7 (dk_at dksX3_badnessOf_0 1 rfl rfl)
theorem dX3_badnessOf_4 : decode cX3_badnessOf 4 = .ok (.iload_n 1, 1) := dk_27 (dk_at dksX3_badnessOf_0 4 rfl rfl)
theorem dX3_badnessOf_5 : decode cX3_badnessOf 5 = .ok (.isub, 1) := dk_100 (dk_at dksX3_badnessOf_0 5 rfl rfl)
theorem dX3_badnessOf_6 : decode cX3_badnessOf 6 = .ok (.istore 4, 2) := dk_54 4 (dk_at dksX3_badnessOf_0 6 rfl rfl)
theorem dX3_badnessOf_8 : decode cX3_badnessOf 8 = .ok (.iload 4, 2) := dk_21 4 (dk_at dksX3_badnessOf_0 8 rfl rfl)
theorem dX3_badnessOf_10 : decode cX3_badnessOf 10 = .ok (.ifCond .lt 11, 3) := dk_155 0 11 (dk_at dksX3_badnessOf_0 10 rfl rfl)
theorem dX3_badnessOf_13 : decode cX3_badnessOf 13 = .ok (.iload 4, 2) := dk_21 4 (dk_at dksX3_badnessOf_0 13 rfl rfl)
theorem dX3_badnessOf_15 : decode cX3_badnessOf 15 = .ok (.iload 4, 2) := dk_21 4 (dk_at dksX3_badnessOf_0 15 rfl rfl)
theorem dX3_badnessOf_17 : decode cX3_badnessOf 17 = .ok (.imul, 1) := dk_104 (dk_at dksX3_badnessOf_0 17 rfl rfl)
theorem dX3_badnessOf_18 : decode cX3_badnessOf 18 = .ok (.goto 6, 3) := dk_167 0 6 (dk_at dksX3_badnessOf_0 18 rfl rfl)
theorem dX3_badnessOf_21 : decode cX3_badnessOf 21 = .ok (.sipush 10000, 3) := dk_17 39 16 (dk_at dksX3_badnessOf_0 21 rfl rfl)
theorem dX3_badnessOf_24 : decode cX3_badnessOf 24 = .ok (.istore 5, 2) := dk_54 5 (dk_at dksX3_badnessOf_1 0 rfl rfl)
theorem dX3_badnessOf_26 : decode cX3_badnessOf 26 = .ok (.iload_n 3, 1) := dk_29 (dk_at dksX3_badnessOf_1 2 rfl rfl)
theorem dX3_badnessOf_27 : decode cX3_badnessOf 27 = .ok (.ifCond .eq 18, 3) := dk_153 0 18 (dk_at dksX3_badnessOf_1 3 rfl rfl)
theorem dX3_badnessOf_30 : decode cX3_badnessOf 30 = .ok (.iload 4, 2) := dk_21 4 (dk_at dksX3_badnessOf_1 6 rfl rfl)
theorem dX3_badnessOf_32 : decode cX3_badnessOf 32 = .ok (.ifCond .lt 7, 3) := dk_155 0 7 (dk_at dksX3_badnessOf_1 8 rfl rfl)
theorem dX3_badnessOf_35 : decode cX3_badnessOf 35 = .ok (.iconst 0, 1) := dk_3 (dk_at dksX3_badnessOf_1 11 rfl rfl)
theorem dX3_badnessOf_36 : decode cX3_badnessOf 36 = .ok (.goto 22, 3) := dk_167 0 22 (dk_at dksX3_badnessOf_1 12 rfl rfl)
theorem dX3_badnessOf_39 : decode cX3_badnessOf 39 = .ok (.sipush 10000, 3) := dk_17 39 16 (dk_at dksX3_badnessOf_1 15 rfl rfl)
theorem dX3_badnessOf_42 : decode cX3_badnessOf 42 = .ok (.goto 16, 3) := dk_167 0 16 (dk_at dksX3_badnessOf_1 18 rfl rfl)
theorem dX3_badnessOf_45 : decode cX3_badnessOf 45 = .ok (.iload 5, 2) := dk_21 5 (dk_at dksX3_badnessOf_1 21 rfl rfl)
theorem dX3_badnessOf_47 : decode cX3_badnessOf 47 = .ok (.iload_n 2, 1) := dk_28 (dk_at dksX3_badnessOf_1 23 rfl rfl)
theorem dX3_badnessOf_48 : decode cX3_badnessOf 48 = .ok (.ifCond .eq 8, 3) := dk_153 0 8 (dk_at dksX3_badnessOf_2 0 rfl rfl)
theorem dX3_badnessOf_51 : decode cX3_badnessOf 51 = .ok (.bipush 30, 2) := dk_16 30 (dk_at dksX3_badnessOf_2 3 rfl rfl)
theorem dX3_badnessOf_53 : decode cX3_badnessOf 53 = .ok (.goto 4, 3) := dk_167 0 4 (dk_at dksX3_badnessOf_2 5 rfl rfl)
theorem dX3_badnessOf_56 : decode cX3_badnessOf 56 = .ok (.iconst 0, 1) := dk_3 (dk_at dksX3_badnessOf_2 8 rfl rfl)
theorem dX3_badnessOf_57 : decode cX3_badnessOf 57 = .ok (.iadd, 1) := dk_96 (dk_at dksX3_badnessOf_2 9 rfl rfl)
theorem dX3_badnessOf_58 : decode cX3_badnessOf 58 = .ok (.ireturn, 1) := dk_172 (dk_at dksX3_badnessOf_2 10 rfl rfl)
abbrev cX3_endsIn : ByteArray := prog_7_method_17_code
def yX3_endsIn : MethodName := ⟨RX3, "endsIn", "(II)I"⟩
def dkwX3_endsIn_2 : List UInt8 := [3, 96, 62, 132, 5, 1, 167, 255, 217, 132, 4, 1, 167, 255, 202, 29, 172]
abbrev dktX3_endsIn_2 : List UInt8 := dkwX3_endsIn_2 ++ []
def dkwX3_endsIn_1 : List UInt8 := [180, 0, 39, 16, 16, 42, 27, 21, 4, 182, 0, 87, 104, 21, 5, 96, 51, 153, 0, 7, 4, 167, 0, 4]
abbrev dktX3_endsIn_1 : List UInt8 := dkwX3_endsIn_1 ++ dktX3_endsIn_2
def dkwX3_endsIn_0 : List UInt8 := [3, 62, 3, 54, 4, 21, 4, 28, 162, 0, 54, 3, 54, 5, 21, 5, 16, 16, 162, 0, 38, 29, 42]
abbrev dktX3_endsIn_0 : List UInt8 := dkwX3_endsIn_0 ++ dktX3_endsIn_1
theorem dksX3_endsIn_0 : cX3_endsIn.data.toList.drop 0 = dktX3_endsIn_0 := by decide +kernel
theorem dksX3_endsIn_1 : cX3_endsIn.data.toList.drop 23 = dktX3_endsIn_1 := dk_seg dksX3_endsIn_0 23 rfl rfl
theorem dksX3_endsIn_2 : cX3_endsIn.data.toList.drop 47 = dktX3_endsIn_2 := dk_seg dksX3_endsIn_1 24 rfl rfl
theorem dX3_endsIn_0 : decode cX3_endsIn 0 = .ok (.iconst 0, 1) := dk_3 (dk_at dksX3_endsIn_0 0 rfl rfl)
theorem dX3_endsIn_1 : decode cX3_endsIn 1 = .ok (.istore_n 3, 1) := dk_62 (dk_at dksX3_endsIn_0 1 rfl rfl)
theorem dX3_endsIn_2 : decode cX3_endsIn 2 = .ok (.iconst 0, 1) := dk_3 (dk_at dksX3_endsIn_0 2 rfl rfl)
theorem dX3_endsIn_3 : decode cX3_endsIn 3 = .ok (.istore 4, 2) := dk_54 4 (dk_at dksX3_endsIn_0 3 rfl rfl)
theorem dX3_endsIn_5 : decode cX3_endsIn 5 = .ok (.iload 4, 2) := dk_21 4 (dk_at dksX3_endsIn_0 5 rfl rfl)
theorem dX3_endsIn_7 : decode cX3_endsIn 7 = .ok (.iload_n 2, 1) := dk_28 (dk_at dksX3_endsIn_0 7 rfl rfl)
theorem dX3_endsIn_8 : decode cX3_endsIn 8 = .ok (.if_icmp .ge 54, 3) := dk_162 0 54 (dk_at dksX3_endsIn_0 8 rfl rfl)
theorem dX3_endsIn_11 : decode cX3_endsIn 11 = .ok (.iconst 0, 1) := dk_3 (dk_at dksX3_endsIn_0 11 rfl rfl)
theorem dX3_endsIn_12 : decode cX3_endsIn 12 = .ok (.istore 5, 2) := dk_54 5 (dk_at dksX3_endsIn_0 12 rfl rfl)
theorem dX3_endsIn_14 : decode cX3_endsIn 14 = .ok (.iload 5, 2) := dk_21 5 (dk_at dksX3_endsIn_0 14 rfl rfl)
theorem dX3_endsIn_16 : decode cX3_endsIn 16 = .ok (.bipush 16, 2) := dk_16 16 (dk_at dksX3_endsIn_0 16 rfl rfl)
theorem dX3_endsIn_18 : decode cX3_endsIn 18 = .ok (.if_icmp .ge 38, 3) := dk_162 0 38 (dk_at dksX3_endsIn_0 18 rfl rfl)
theorem dX3_endsIn_21 : decode cX3_endsIn 21 = .ok (.iload_n 3, 1) := dk_29 (dk_at dksX3_endsIn_0 21 rfl rfl)
theorem dX3_endsIn_22 : decode cX3_endsIn 22 = .ok (.aload_n 0, 1) := dk_42 (dk_at dksX3_endsIn_0 22 rfl rfl)
theorem dX3_endsIn_23 : decode cX3_endsIn 23 = .ok (.getfield 39, 3) := dk_180 0 39 (dk_at dksX3_endsIn_1 0 rfl rfl)
theorem dX3_endsIn_26 : decode cX3_endsIn 26 = .ok (.bipush 16, 2) := dk_16 16 (dk_at dksX3_endsIn_1 3 rfl rfl)
theorem dX3_endsIn_28 : decode cX3_endsIn 28 = .ok (.aload_n 0, 1) := dk_42 (dk_at dksX3_endsIn_1 5 rfl rfl)
theorem dX3_endsIn_29 : decode cX3_endsIn 29 = .ok (.iload_n 1, 1) := dk_27 (dk_at dksX3_endsIn_1 6 rfl rfl)
theorem dX3_endsIn_30 : decode cX3_endsIn 30 = .ok (.iload 4, 2) := dk_21 4 (dk_at dksX3_endsIn_1 7 rfl rfl)
theorem dX3_endsIn_32 : decode cX3_endsIn 32 = .ok (.invokevirtual 87, 3) := dk_182 0 87 (dk_at dksX3_endsIn_1 9 rfl rfl)
theorem dX3_endsIn_35 : decode cX3_endsIn 35 = .ok (.imul, 1) := dk_104 (dk_at dksX3_endsIn_1 12 rfl rfl)
theorem dX3_endsIn_36 : decode cX3_endsIn 36 = .ok (.iload 5, 2) := dk_21 5 (dk_at dksX3_endsIn_1 13 rfl rfl)
theorem dX3_endsIn_38 : decode cX3_endsIn 38 = .ok (.iadd, 1) := dk_96 (dk_at dksX3_endsIn_1 15 rfl rfl)
theorem dX3_endsIn_39 : decode cX3_endsIn 39 = .ok (.baload, 1) := dk_51 (dk_at dksX3_endsIn_1 16 rfl rfl)
theorem dX3_endsIn_40 : decode cX3_endsIn 40 = .ok (.ifCond .eq 7, 3) := dk_153 0 7 (dk_at dksX3_endsIn_1 17 rfl rfl)
theorem dX3_endsIn_43 : decode cX3_endsIn 43 = .ok (.iconst 1, 1) := dk_4 (dk_at dksX3_endsIn_1 20 rfl rfl)
theorem dX3_endsIn_44 : decode cX3_endsIn 44 = .ok (.goto 4, 3) := dk_167 0 4 (dk_at dksX3_endsIn_1 21 rfl rfl)
theorem dX3_endsIn_47 : decode cX3_endsIn 47 = .ok (.iconst 0, 1) := dk_3 (dk_at dksX3_endsIn_2 0 rfl rfl)
theorem dX3_endsIn_48 : decode cX3_endsIn 48 = .ok (.iadd, 1) := dk_96 (dk_at dksX3_endsIn_2 1 rfl rfl)
theorem dX3_endsIn_49 : decode cX3_endsIn 49 = .ok (.istore_n 3, 1) := dk_62 (dk_at dksX3_endsIn_2 2 rfl rfl)
theorem dX3_endsIn_50 : decode cX3_endsIn 50 = .ok (.iinc 5 1, 3) := dk_132 5 1 (dk_at dksX3_endsIn_2 3 rfl rfl)
theorem dX3_endsIn_53 : decode cX3_endsIn 53 = .ok (.goto (-39), 3) := dk_167 255 217 (dk_at dksX3_endsIn_2 6 rfl rfl)
theorem dX3_endsIn_56 : decode cX3_endsIn 56 = .ok (.iinc 4 1, 3) := dk_132 4 1 (dk_at dksX3_endsIn_2 9 rfl rfl)
theorem dX3_endsIn_59 : decode cX3_endsIn 59 = .ok (.goto (-54), 3) := dk_167 255 202 (dk_at dksX3_endsIn_2 12 rfl rfl)
theorem dX3_endsIn_62 : decode cX3_endsIn 62 = .ok (.iload_n 3, 1) := dk_29 (dk_at dksX3_endsIn_2 15 rfl rfl)
theorem dX3_endsIn_63 : decode cX3_endsIn 63 = .ok (.ireturn, 1) := dk_172 (dk_at dksX3_endsIn_2 16 rfl rfl)
abbrev cX3_words : ByteArray := prog_7_method_20_code
def yX3_words : MethodName := ⟨RX3, "words", "()I"⟩
def dkwX3_words_0 : List UInt8 := [42, 3, 181, 0, 63, 42, 180, 0, 73, 172]
abbrev dktX3_words_0 : List UInt8 := dkwX3_words_0 ++ []
theorem dksX3_words_0 : cX3_words.data.toList.drop 0 = dktX3_words_0 := by decide +kernel
theorem dX3_words_0 : decode cX3_words 0 = .ok (.aload_n 0, 1) := dk_42 (dk_at dksX3_words_0 0 rfl rfl)
theorem dX3_words_1 : decode cX3_words 1 = .ok (.iconst 0, 1) := dk_3 (dk_at dksX3_words_0 1 rfl rfl)
theorem dX3_words_2 : decode cX3_words 2 = .ok (.putfield 63, 3) := dk_181 0 63 (dk_at dksX3_words_0 2 rfl rfl)
theorem dX3_words_5 : decode cX3_words 5 = .ok (.aload_n 0, 1) := dk_42 (dk_at dksX3_words_0 5 rfl rfl)
theorem dX3_words_6 : decode cX3_words 6 = .ok (.getfield 73, 3) := dk_180 0 73 (dk_at dksX3_words_0 6 rfl rfl)
theorem dX3_words_9 : decode cX3_words 9 = .ok (.ireturn, 1) := dk_172 (dk_at dksX3_words_0 9 rfl rfl)
abbrev cX3_lines : ByteArray := prog_7_method_22_code
def yX3_lines : MethodName := ⟨RX3, "lines", "(I)I"⟩
def dkwX3_lines_1 : List UInt8 := [182, 0, 113, 167, 0, 4, 3, 172]
abbrev dktX3_lines_1 : List UInt8 := dkwX3_lines_1 ++ []
def dkwX3_lines_0 : List UInt8 := [42, 42, 27, 182, 0, 80, 153, 0, 7, 3, 167, 0, 4, 4, 182, 0, 76, 153, 0, 11, 42, 27]
abbrev dktX3_lines_0 : List UInt8 := dkwX3_lines_0 ++ dktX3_lines_1
theorem dksX3_lines_0 : cX3_lines.data.toList.drop 0 = dktX3_lines_0 := by decide +kernel
theorem dksX3_lines_1 : cX3_lines.data.toList.drop 22 = dktX3_lines_1 := dk_seg dksX3_lines_0 22 rfl rfl
theorem dX3_lines_0 : decode cX3_lines 0 = .ok (.aload_n 0, 1) := dk_42 (dk_at dksX3_lines_0 0 rfl rfl)
theorem dX3_lines_1 : decode cX3_lines 1 = .ok (.aload_n 0, 1) := dk_42 (dk_at dksX3_lines_0 1 rfl rfl)
theorem dX3_lines_2 : decode cX3_lines 2 = .ok (.iload_n 1, 1) := dk_27 (dk_at dksX3_lines_0 2 rfl rfl)
theorem dX3_lines_3 : decode cX3_lines 3 = .ok (.invokevirtual 80, 3) := dk_182 0 80 (dk_at dksX3_lines_0 3 rfl rfl)
theorem dX3_lines_6 : decode cX3_lines 6 = .ok (.ifCond .eq 7, 3) := dk_153 0 7 (dk_at dksX3_lines_0 6 rfl rfl)
theorem dX3_lines_9 : decode cX3_lines 9 = .ok (.iconst 0, 1) := dk_3 (dk_at dksX3_lines_0 9 rfl rfl)
theorem dX3_lines_10 : decode cX3_lines 10 = .ok (.goto 4, 3) := dk_167 0 4 (dk_at dksX3_lines_0 10 rfl rfl)
theorem dX3_lines_13 : decode cX3_lines 13 = .ok (.iconst 1, 1) := dk_4 (dk_at dksX3_lines_0 13 rfl rfl)
theorem dX3_lines_14 : decode cX3_lines 14 = .ok (.invokevirtual 76, 3) := dk_182 0 76 (dk_at dksX3_lines_0 14 rfl rfl)
theorem dX3_lines_17 : decode cX3_lines 17 = .ok (.ifCond .eq 11, 3) := dk_153 0 11 (dk_at dksX3_lines_0 17 rfl rfl)
theorem dX3_lines_20 : decode cX3_lines 20 = .ok (.aload_n 0, 1) := dk_42 (dk_at dksX3_lines_0 20 rfl rfl)
theorem dX3_lines_21 : decode cX3_lines 21 = .ok (.iload_n 1, 1) := dk_27 (dk_at dksX3_lines_0 21 rfl rfl)
theorem dX3_lines_22 : decode cX3_lines 22 = .ok (.invokevirtual 113, 3) := dk_182 0 113 (dk_at dksX3_lines_1 0 rfl rfl)
theorem dX3_lines_25 : decode cX3_lines 25 = .ok (.goto 4, 3) := dk_167 0 4 (dk_at dksX3_lines_1 3 rfl rfl)
theorem dX3_lines_28 : decode cX3_lines 28 = .ok (.iconst 0, 1) := dk_3 (dk_at dksX3_lines_1 6 rfl rfl)
theorem dX3_lines_29 : decode cX3_lines 29 = .ok (.ireturn, 1) := dk_172 (dk_at dksX3_lines_1 7 rfl rfl)
abbrev cX3_linesOf : ByteArray := prog_7_method_21_code
def yX3_linesOf : MethodName := ⟨RX3, "linesOf", "(I)I"⟩
def dkwX3_linesOf_0 : List UInt8 := [42, 27, 182, 0, 110, 42, 180, 0, 51, 27, 46, 172]
abbrev dktX3_linesOf_0 : List UInt8 := dkwX3_linesOf_0 ++ []
theorem dksX3_linesOf_0 : cX3_linesOf.data.toList.drop 0 = dktX3_linesOf_0 := by decide +kernel
theorem dX3_linesOf_0 : decode cX3_linesOf 0 = .ok (.aload_n 0, 1) := dk_42 (dk_at dksX3_linesOf_0 0 rfl rfl)
theorem dX3_linesOf_1 : decode cX3_linesOf 1 = .ok (.iload_n 1, 1) := dk_27 (dk_at dksX3_linesOf_0 1 rfl rfl)
theorem dX3_linesOf_2 : decode cX3_linesOf 2 = .ok (.invokevirtual 110, 3) := dk_182 0 110 (dk_at dksX3_linesOf_0 2 rfl rfl)
theorem dX3_linesOf_5 : decode cX3_linesOf 5 = .ok (.aload_n 0, 1) := dk_42 (dk_at dksX3_linesOf_0 5 rfl rfl)
theorem dX3_linesOf_6 : decode cX3_linesOf 6 = .ok (.getfield 51, 3) := dk_180 0 51 (dk_at dksX3_linesOf_0 6 rfl rfl)
theorem dX3_linesOf_9 : decode cX3_linesOf 9 = .ok (.iload_n 1, 1) := dk_27 (dk_at dksX3_linesOf_0 9 rfl rfl)
theorem dX3_linesOf_10 : decode cX3_linesOf 10 = .ok (.iaload, 1) := dk_46 (dk_at dksX3_linesOf_0 10 rfl rfl)
theorem dX3_linesOf_11 : decode cX3_linesOf 11 = .ok (.ireturn, 1) := dk_172 (dk_at dksX3_linesOf_0 11 rfl rfl)
abbrev cX3_lineEnd : ByteArray := prog_7_method_24_code
def yX3_lineEnd : MethodName := ⟨RX3, "lineEnd", "(II)I"⟩
def dkwX3_lineEnd_3 : List UInt8 := [160, 0, 7, 3, 167, 0, 5, 21, 5, 96, 172]
abbrev dktX3_lineEnd_3 : List UInt8 := dkwX3_lineEnd_3 ++ []
def dkwX3_lineEnd_2 : List UInt8 := [100, 16, 16, 108, 104, 100, 54, 5, 16, 100, 21, 4, 104, 21, 5, 42, 180, 0, 27, 21, 4, 46]
abbrev dktX3_lineEnd_2 : List UInt8 := dkwX3_lineEnd_2 ++ dktX3_lineEnd_3
def dkwX3_lineEnd_1 : List UInt8 := [27, 28, 182, 0, 120, 62, 42, 27, 29, 4, 100, 16, 16, 108, 182, 0, 87, 54, 4, 29, 16, 16, 29, 4]
abbrev dktX3_lineEnd_1 : List UInt8 := dkwX3_lineEnd_1 ++ dktX3_lineEnd_2
def dkwX3_lineEnd_0 : List UInt8 := [42, 42, 27, 28, 182, 0, 117, 153, 0, 7, 3, 167, 0, 4, 4, 182, 0, 76, 154, 0, 5, 3, 172, 42]
abbrev dktX3_lineEnd_0 : List UInt8 := dkwX3_lineEnd_0 ++ dktX3_lineEnd_1
theorem dksX3_lineEnd_0 : cX3_lineEnd.data.toList.drop 0 = dktX3_lineEnd_0 := by decide +kernel
theorem dksX3_lineEnd_1 : cX3_lineEnd.data.toList.drop 24 = dktX3_lineEnd_1 := dk_seg dksX3_lineEnd_0 24 rfl rfl
theorem dksX3_lineEnd_2 : cX3_lineEnd.data.toList.drop 48 = dktX3_lineEnd_2 := dk_seg dksX3_lineEnd_1 24 rfl rfl
theorem dksX3_lineEnd_3 : cX3_lineEnd.data.toList.drop 70 = dktX3_lineEnd_3 := dk_seg dksX3_lineEnd_2 22 rfl rfl
theorem dX3_lineEnd_0 : decode cX3_lineEnd 0 = .ok (.aload_n 0, 1) := dk_42 (dk_at dksX3_lineEnd_0 0 rfl rfl)
theorem dX3_lineEnd_1 : decode cX3_lineEnd 1 = .ok (.aload_n 0, 1) := dk_42 (dk_at dksX3_lineEnd_0 1 rfl rfl)
theorem dX3_lineEnd_2 : decode cX3_lineEnd 2 = .ok (.iload_n 1, 1) := dk_27 (dk_at dksX3_lineEnd_0 2 rfl rfl)
theorem dX3_lineEnd_3 : decode cX3_lineEnd 3 = .ok (.iload_n 2, 1) := dk_28 (dk_at dksX3_lineEnd_0 3 rfl rfl)
theorem dX3_lineEnd_4 : decode cX3_lineEnd 4 = .ok (.invokevirtual 117, 3) := dk_182 0 117 (dk_at dksX3_lineEnd_0 4 rfl rfl)
theorem dX3_lineEnd_7 : decode cX3_lineEnd 7 = .ok (.ifCond .eq 7, 3) := dk_153 0 7 (dk_at dksX3_lineEnd_0 7 rfl rfl)
theorem dX3_lineEnd_10 : decode cX3_lineEnd 10 = .ok (.iconst 0, 1) := dk_3 (dk_at dksX3_lineEnd_0 10 rfl rfl)
theorem dX3_lineEnd_11 : decode cX3_lineEnd 11 = .ok (.goto 4, 3) := dk_167 0 4 (dk_at dksX3_lineEnd_0 11 rfl rfl)
theorem dX3_lineEnd_14 : decode cX3_lineEnd 14 = .ok (.iconst 1, 1) := dk_4 (dk_at dksX3_lineEnd_0 14 rfl rfl)
theorem dX3_lineEnd_15 : decode cX3_lineEnd 15 = .ok (.invokevirtual 76, 3) := dk_182 0 76 (dk_at dksX3_lineEnd_0 15 rfl rfl)
theorem dX3_lineEnd_18 : decode cX3_lineEnd 18 = .ok (.ifCond .ne 5, 3) := dk_154 0 5 (dk_at dksX3_lineEnd_0 18 rfl rfl)
theorem dX3_lineEnd_21 : decode cX3_lineEnd 21 = .ok (.iconst 0, 1) := dk_3 (dk_at dksX3_lineEnd_0 21 rfl rfl)
theorem dX3_lineEnd_22 : decode cX3_lineEnd 22 = .ok (.ireturn, 1) := dk_172 (dk_at dksX3_lineEnd_0 22 rfl rfl)
theorem dX3_lineEnd_23 : decode cX3_lineEnd 23 = .ok (.aload_n 0, 1) := dk_42 (dk_at dksX3_lineEnd_0 23 rfl rfl)
theorem dX3_lineEnd_24 : decode cX3_lineEnd 24 = .ok (.iload_n 1, 1) := dk_27 (dk_at dksX3_lineEnd_1 0 rfl rfl)
theorem dX3_lineEnd_25 : decode cX3_lineEnd 25 = .ok (.iload_n 2, 1) := dk_28 (dk_at dksX3_lineEnd_1 1 rfl rfl)
theorem dX3_lineEnd_26 : decode cX3_lineEnd 26 = .ok (.invokevirtual 120, 3) := dk_182 0 120 (dk_at dksX3_lineEnd_1 2 rfl rfl)
theorem dX3_lineEnd_29 : decode cX3_lineEnd 29 = .ok (.istore_n 3, 1) := dk_62 (dk_at dksX3_lineEnd_1 5 rfl rfl)
theorem dX3_lineEnd_30 : decode cX3_lineEnd 30 = .ok (.aload_n 0, 1) := dk_42 (dk_at dksX3_lineEnd_1 6 rfl rfl)
theorem dX3_lineEnd_31 : decode cX3_lineEnd 31 = .ok (.iload_n 1, 1) := dk_27 (dk_at dksX3_lineEnd_1 7 rfl rfl)
theorem dX3_lineEnd_32 : decode cX3_lineEnd 32 = .ok (.iload_n 3, 1) := dk_29 (dk_at dksX3_lineEnd_1 8 rfl rfl)
theorem dX3_lineEnd_33 : decode cX3_lineEnd 33 = .ok (.iconst 1, 1) := dk_4 (dk_at dksX3_lineEnd_1 9 rfl rfl)
theorem dX3_lineEnd_34 : decode cX3_lineEnd 34 = .ok (.isub, 1) := dk_100 (dk_at dksX3_lineEnd_1 10 rfl rfl)
theorem dX3_lineEnd_35 : decode cX3_lineEnd 35 = .ok (.bipush 16, 2) := dk_16 16 (dk_at dksX3_lineEnd_1 11 rfl rfl)
theorem dX3_lineEnd_37 : decode cX3_lineEnd 37 = .ok (.idiv, 1) := dk_108 (dk_at dksX3_lineEnd_1 13 rfl rfl)
theorem dX3_lineEnd_38 : decode cX3_lineEnd 38 = .ok (.invokevirtual 87, 3) := dk_182 0 87 (dk_at dksX3_lineEnd_1 14 rfl rfl)
theorem dX3_lineEnd_41 : decode cX3_lineEnd 41 = .ok (.istore 4, 2) := dk_54 4 (dk_at dksX3_lineEnd_1 17 rfl rfl)
theorem dX3_lineEnd_43 : decode cX3_lineEnd 43 = .ok (.iload_n 3, 1) := dk_29 (dk_at dksX3_lineEnd_1 19 rfl rfl)
theorem dX3_lineEnd_44 : decode cX3_lineEnd 44 = .ok (.bipush 16, 2) := dk_16 16 (dk_at dksX3_lineEnd_1 20 rfl rfl)
theorem dX3_lineEnd_46 : decode cX3_lineEnd 46 = .ok (.iload_n 3, 1) := dk_29 (dk_at dksX3_lineEnd_1 22 rfl rfl)
theorem dX3_lineEnd_47 : decode cX3_lineEnd 47 = .ok (.iconst 1, 1) := dk_4 (dk_at dksX3_lineEnd_1 23 rfl rfl)
theorem dX3_lineEnd_48 : decode cX3_lineEnd 48 = .ok (.isub, 1) := dk_100 (dk_at dksX3_lineEnd_2 0 rfl rfl)
theorem dX3_lineEnd_49 : decode cX3_lineEnd 49 = .ok (.bipush 16, 2) := dk_16 16 (dk_at dksX3_lineEnd_2 1 rfl rfl)
theorem dX3_lineEnd_51 : decode cX3_lineEnd 51 = .ok (.idiv, 1) := dk_108 (dk_at dksX3_lineEnd_2 3 rfl rfl)
theorem dX3_lineEnd_52 : decode cX3_lineEnd 52 = .ok (.imul, 1) := dk_104 (dk_at dksX3_lineEnd_2 4 rfl rfl)
theorem dX3_lineEnd_53 : decode cX3_lineEnd 53 = .ok (.isub, 1) := dk_100 (dk_at dksX3_lineEnd_2 5 rfl rfl)
theorem dX3_lineEnd_54 : decode cX3_lineEnd 54 = .ok (.istore 5, 2) := dk_54 5 (dk_at dksX3_lineEnd_2 6 rfl rfl)
theorem dX3_lineEnd_56 : decode cX3_lineEnd 56 = .ok (.bipush 100, 2) := dk_16 100 (dk_at dksX3_lineEnd_2 8 rfl rfl)
theorem dX3_lineEnd_58 : decode cX3_lineEnd 58 = .ok (.iload 4, 2) := dk_21 4 (dk_at dksX3_lineEnd_2 10 rfl rfl)
theorem dX3_lineEnd_60 : decode cX3_lineEnd 60 = .ok (.imul, 1) := dk_104 (dk_at dksX3_lineEnd_2 12 rfl rfl)
theorem dX3_lineEnd_61 : decode cX3_lineEnd 61 = .ok (.iload 5, 2) := dk_21 5 (dk_at dksX3_lineEnd_2 13 rfl rfl)
theorem dX3_lineEnd_63 : decode cX3_lineEnd 63 = .ok (.aload_n 0, 1) := dk_42 (dk_at dksX3_lineEnd_2 15 rfl rfl)
theorem dX3_lineEnd_64 : decode cX3_lineEnd 64 = .ok (.getfield 27, 3) := dk_180 0 27 (dk_at dksX3_lineEnd_2 16 rfl rfl)
theorem dX3_lineEnd_67 : decode cX3_lineEnd 67 = .ok (.iload 4, 2) := dk_21 4 (dk_at dksX3_lineEnd_2 19 rfl rfl)
theorem dX3_lineEnd_69 : decode cX3_lineEnd 69 = .ok (.iaload, 1) := dk_46 (dk_at dksX3_lineEnd_2 21 rfl rfl)
theorem dX3_lineEnd_70 : decode cX3_lineEnd 70 = .ok (.if_icmp .ne 7, 3) := dk_160 0 7 (dk_at dksX3_lineEnd_3 0 rfl rfl)
theorem dX3_lineEnd_73 : decode cX3_lineEnd 73 = .ok (.iconst 0, 1) := dk_3 (dk_at dksX3_lineEnd_3 3 rfl rfl)
theorem dX3_lineEnd_74 : decode cX3_lineEnd 74 = .ok (.goto 5, 3) := dk_167 0 5 (dk_at dksX3_lineEnd_3 4 rfl rfl)
theorem dX3_lineEnd_77 : decode cX3_lineEnd 77 = .ok (.iload 5, 2) := dk_21 5 (dk_at dksX3_lineEnd_3 7 rfl rfl)
theorem dX3_lineEnd_79 : decode cX3_lineEnd 79 = .ok (.iadd, 1) := dk_96 (dk_at dksX3_lineEnd_3 9 rfl rfl)
theorem dX3_lineEnd_80 : decode cX3_lineEnd 80 = .ok (.ireturn, 1) := dk_172 (dk_at dksX3_lineEnd_3 10 rfl rfl)
abbrev cX3_isLine : ByteArray := prog_7_method_23_code
def yX3_isLine : MethodName := ⟨RX3, "isLine", "(II)Z"⟩
def dkwX3_isLine_1 : List UInt8 := [167, 0, 4, 3, 172]
abbrev dktX3_isLine_1 : List UInt8 := dkwX3_isLine_1 ++ []
def dkwX3_isLine_0 : List UInt8 := [42, 27, 182, 0, 80, 153, 0, 22, 28, 3, 42, 27, 182, 0, 113, 4, 100, 184, 0, 69, 153, 0, 7, 4]
abbrev dktX3_isLine_0 : List UInt8 := dkwX3_isLine_0 ++ dktX3_isLine_1
theorem dksX3_isLine_0 : cX3_isLine.data.toList.drop 0 = dktX3_isLine_0 := by decide +kernel
theorem dksX3_isLine_1 : cX3_isLine.data.toList.drop 24 = dktX3_isLine_1 := dk_seg dksX3_isLine_0 24 rfl rfl
theorem dX3_isLine_0 : decode cX3_isLine 0 = .ok (.aload_n 0, 1) := dk_42 (dk_at dksX3_isLine_0 0 rfl rfl)
theorem dX3_isLine_1 : decode cX3_isLine 1 = .ok (.iload_n 1, 1) := dk_27 (dk_at dksX3_isLine_0 1 rfl rfl)
theorem dX3_isLine_2 : decode cX3_isLine 2 = .ok (.invokevirtual 80, 3) := dk_182 0 80 (dk_at dksX3_isLine_0 2 rfl rfl)
theorem dX3_isLine_5 : decode cX3_isLine 5 = .ok (.ifCond .eq 22, 3) := dk_153 0 22 (dk_at dksX3_isLine_0 5 rfl rfl)
theorem dX3_isLine_8 : decode cX3_isLine 8 = .ok (.iload_n 2, 1) := dk_28 (dk_at dksX3_isLine_0 8 rfl rfl)
theorem dX3_isLine_9 : decode cX3_isLine 9 = .ok (.iconst 0, 1) := dk_3 (dk_at dksX3_isLine_0 9 rfl rfl)
theorem dX3_isLine_10 : decode cX3_isLine 10 = .ok (.aload_n 0, 1) := dk_42 (dk_at dksX3_isLine_0 10 rfl rfl)
theorem dX3_isLine_11 : decode cX3_isLine 11 = .ok (.iload_n 1, 1) := dk_27 (dk_at dksX3_isLine_0 11 rfl rfl)
theorem dX3_isLine_12 : decode cX3_isLine 12 = .ok (.invokevirtual 113, 3) := dk_182 0 113 (dk_at dksX3_isLine_0 12 rfl rfl)
theorem dX3_isLine_15 : decode cX3_isLine 15 = .ok (.iconst 1, 1) := dk_4 (dk_at dksX3_isLine_0 15 rfl rfl)
theorem dX3_isLine_16 : decode cX3_isLine 16 = .ok (.isub, 1) := dk_100 (dk_at dksX3_isLine_0 16 rfl rfl)
theorem dX3_isLine_17 : decode cX3_isLine 17 = .ok (.invokestatic 69, 3) := dk_184 0 69 (dk_at dksX3_isLine_0 17 rfl rfl)
theorem dX3_isLine_20 : decode cX3_isLine 20 = .ok (.ifCond .eq 7, 3) := dk_153 0 7 (dk_at dksX3_isLine_0 20 rfl rfl)
theorem dX3_isLine_23 : decode cX3_isLine 23 = .ok (.iconst 1, 1) := dk_4 (dk_at dksX3_isLine_0 23 rfl rfl)
theorem dX3_isLine_24 : decode cX3_isLine 24 = .ok (.goto 4, 3) := dk_167 0 4 (dk_at dksX3_isLine_1 0 rfl rfl)
theorem dX3_isLine_27 : decode cX3_isLine 27 = .ok (.iconst 0, 1) := dk_3 (dk_at dksX3_isLine_1 3 rfl rfl)
theorem dX3_isLine_28 : decode cX3_isLine 28 = .ok (.ireturn, 1) := dk_172 (dk_at dksX3_isLine_1 4 rfl rfl)
abbrev cX3_endOf : ByteArray := prog_7_method_18_code
def yX3_endOf : MethodName := ⟨RX3, "endOf", "(II)I"⟩
def dkwX3_endOf_4 : List UInt8 := [153, 0, 7, 4, 167, 0, 4, 3, 96, 62, 132, 6, 1, 167, 255, 178, 132, 4, 1, 167, 255, 149, 2, 172]
abbrev dktX3_endOf_4 : List UInt8 := dkwX3_endOf_4 ++ []
def dkwX3_endOf_3 : List UInt8 := [54, 7, 21, 7, 153, 0, 17, 29, 28, 160, 0, 12, 16, 16, 21, 4, 104, 21, 6, 96, 172, 29, 21, 7]
abbrev dktX3_endOf_3 : List UInt8 := dkwX3_endOf_3 ++ dktX3_endOf_4
def dkwX3_endOf_2 : List UInt8 := [21, 5, 104, 21, 6, 42, 180, 0, 27, 21, 5, 46, 160, 0, 7, 3, 167, 0, 5, 21, 6, 96, 51]
abbrev dktX3_endOf_2 : List UInt8 := dkwX3_endOf_2 ++ dktX3_endOf_3
def dkwX3_endOf_1 : List UInt8 := [54, 5, 4, 54, 6, 21, 6, 42, 180, 0, 27, 21, 5, 46, 163, 0, 72, 42, 180, 0, 39, 16, 16]
abbrev dktX3_endOf_1 : List UInt8 := dkwX3_endOf_1 ++ dktX3_endOf_2
def dkwX3_endOf_0 : List UInt8 := [3, 62, 3, 54, 4, 21, 4, 42, 180, 0, 20, 27, 46, 162, 0, 102, 42, 27, 21, 4, 182, 0, 87]
abbrev dktX3_endOf_0 : List UInt8 := dkwX3_endOf_0 ++ dktX3_endOf_1
theorem dksX3_endOf_0 : cX3_endOf.data.toList.drop 0 = dktX3_endOf_0 := by decide +kernel
theorem dksX3_endOf_1 : cX3_endOf.data.toList.drop 23 = dktX3_endOf_1 := dk_seg dksX3_endOf_0 23 rfl rfl
theorem dksX3_endOf_2 : cX3_endOf.data.toList.drop 46 = dktX3_endOf_2 := dk_seg dksX3_endOf_1 23 rfl rfl
theorem dksX3_endOf_3 : cX3_endOf.data.toList.drop 69 = dktX3_endOf_3 := dk_seg dksX3_endOf_2 23 rfl rfl
theorem dksX3_endOf_4 : cX3_endOf.data.toList.drop 93 = dktX3_endOf_4 := dk_seg dksX3_endOf_3 24 rfl rfl
theorem dX3_endOf_0 : decode cX3_endOf 0 = .ok (.iconst 0, 1) := dk_3 (dk_at dksX3_endOf_0 0 rfl rfl)
theorem dX3_endOf_1 : decode cX3_endOf 1 = .ok (.istore_n 3, 1) := dk_62 (dk_at dksX3_endOf_0 1 rfl rfl)
theorem dX3_endOf_2 : decode cX3_endOf 2 = .ok (.iconst 0, 1) := dk_3 (dk_at dksX3_endOf_0 2 rfl rfl)
theorem dX3_endOf_3 : decode cX3_endOf 3 = .ok (.istore 4, 2) := dk_54 4 (dk_at dksX3_endOf_0 3 rfl rfl)
theorem dX3_endOf_5 : decode cX3_endOf 5 = .ok (.iload 4, 2) := dk_21 4 (dk_at dksX3_endOf_0 5 rfl rfl)
theorem dX3_endOf_7 : decode cX3_endOf 7 = .ok (.aload_n 0, 1) := dk_42 (dk_at dksX3_endOf_0 7 rfl rfl)
theorem dX3_endOf_8 : decode cX3_endOf 8 = .ok (.getfield 20, 3) := dk_180 0 20 (dk_at dksX3_endOf_0 8 rfl rfl)
theorem dX3_endOf_11 : decode cX3_endOf 11 = .ok (.iload_n 1, 1) := dk_27 (dk_at dksX3_endOf_0 11 rfl rfl)
theorem dX3_endOf_12 : decode cX3_endOf 12 = .ok (.iaload, 1) := dk_46 (dk_at dksX3_endOf_0 12 rfl rfl)
theorem dX3_endOf_13 : decode cX3_endOf 13 = .ok (.if_icmp .ge 102, 3) := dk_162 0 102 (dk_at dksX3_endOf_0 13 rfl rfl)
theorem dX3_endOf_16 : decode cX3_endOf 16 = .ok (.aload_n 0, 1) := dk_42 (dk_at dksX3_endOf_0 16 rfl rfl)
theorem dX3_endOf_17 : decode cX3_endOf 17 = .ok (.iload_n 1, 1) := dk_27 (dk_at dksX3_endOf_0 17 rfl rfl)
theorem dX3_endOf_18 : decode cX3_endOf 18 = .ok (.iload 4, 2) := dk_21 4 (dk_at dksX3_endOf_0 18 rfl rfl)
theorem dX3_endOf_20 : decode cX3_endOf 20 = .ok (.invokevirtual 87, 3) := dk_182 0 87 (dk_at dksX3_endOf_0 20 rfl rfl)
theorem dX3_endOf_23 : decode cX3_endOf 23 = .ok (.istore 5, 2) := dk_54 5 (dk_at dksX3_endOf_1 0 rfl rfl)
theorem dX3_endOf_25 : decode cX3_endOf 25 = .ok (.iconst 1, 1) := dk_4 (dk_at dksX3_endOf_1 2 rfl rfl)
theorem dX3_endOf_26 : decode cX3_endOf 26 = .ok (.istore 6, 2) := dk_54 6 (dk_at dksX3_endOf_1 3 rfl rfl)
theorem dX3_endOf_28 : decode cX3_endOf 28 = .ok (.iload 6, 2) := dk_21 6 (dk_at dksX3_endOf_1 5 rfl rfl)
theorem dX3_endOf_30 : decode cX3_endOf 30 = .ok (.aload_n 0, 1) := dk_42 (dk_at dksX3_endOf_1 7 rfl rfl)
theorem dX3_endOf_31 : decode cX3_endOf 31 = .ok (.getfield 27, 3) := dk_180 0 27 (dk_at dksX3_endOf_1 8 rfl rfl)
theorem dX3_endOf_34 : decode cX3_endOf 34 = .ok (.iload 5, 2) := dk_21 5 (dk_at dksX3_endOf_1 11 rfl rfl)
theorem dX3_endOf_36 : decode cX3_endOf 36 = .ok (.iaload, 1) := dk_46 (dk_at dksX3_endOf_1 13 rfl rfl)
theorem dX3_endOf_37 : decode cX3_endOf 37 = .ok (.if_icmp .gt 72, 3) := dk_163 0 72 (dk_at dksX3_endOf_1 14 rfl rfl)
theorem dX3_endOf_40 : decode cX3_endOf 40 = .ok (.aload_n 0, 1) := dk_42 (dk_at dksX3_endOf_1 17 rfl rfl)
theorem dX3_endOf_41 : decode cX3_endOf 41 = .ok (.getfield 39, 3) := dk_180 0 39 (dk_at dksX3_endOf_1 18 rfl rfl)
theorem dX3_endOf_44 : decode cX3_endOf 44 = .ok (.bipush 16, 2) := dk_16 16 (dk_at dksX3_endOf_1 21 rfl rfl)
theorem dX3_endOf_46 : decode cX3_endOf 46 = .ok (.iload 5, 2) := dk_21 5 (dk_at dksX3_endOf_2 0 rfl rfl)
theorem dX3_endOf_48 : decode cX3_endOf 48 = .ok (.imul, 1) := dk_104 (dk_at dksX3_endOf_2 2 rfl rfl)
theorem dX3_endOf_49 : decode cX3_endOf 49 = .ok (.iload 6, 2) := dk_21 6 (dk_at dksX3_endOf_2 3 rfl rfl)
theorem dX3_endOf_51 : decode cX3_endOf 51 = .ok (.aload_n 0, 1) := dk_42 (dk_at dksX3_endOf_2 5 rfl rfl)
theorem dX3_endOf_52 : decode cX3_endOf 52 = .ok (.getfield 27, 3) := dk_180 0 27 (dk_at dksX3_endOf_2 6 rfl rfl)
theorem dX3_endOf_55 : decode cX3_endOf 55 = .ok (.iload 5, 2) := dk_21 5 (dk_at dksX3_endOf_2 9 rfl rfl)
theorem dX3_endOf_57 : decode cX3_endOf 57 = .ok (.iaload, 1) := dk_46 (dk_at dksX3_endOf_2 11 rfl rfl)
theorem dX3_endOf_58 : decode cX3_endOf 58 = .ok (.if_icmp .ne 7, 3) := dk_160 0 7 (dk_at dksX3_endOf_2 12 rfl rfl)
theorem dX3_endOf_61 : decode cX3_endOf 61 = .ok (.iconst 0, 1) := dk_3 (dk_at dksX3_endOf_2 15 rfl rfl)
theorem dX3_endOf_62 : decode cX3_endOf 62 = .ok (.goto 5, 3) := dk_167 0 5 (dk_at dksX3_endOf_2 16 rfl rfl)
theorem dX3_endOf_65 : decode cX3_endOf 65 = .ok (.iload 6, 2) := dk_21 6 (dk_at dksX3_endOf_2 19 rfl rfl)
theorem dX3_endOf_67 : decode cX3_endOf 67 = .ok (.iadd, 1) := dk_96 (dk_at dksX3_endOf_2 21 rfl rfl)
theorem dX3_endOf_68 : decode cX3_endOf 68 = .ok (.baload, 1) := dk_51 (dk_at dksX3_endOf_2 22 rfl rfl)
theorem dX3_endOf_69 : decode cX3_endOf 69 = .ok (.istore 7, 2) := dk_54 7 (dk_at dksX3_endOf_3 0 rfl rfl)
theorem dX3_endOf_71 : decode cX3_endOf 71 = .ok (.iload 7, 2) := dk_21 7 (dk_at dksX3_endOf_3 2 rfl rfl)
theorem dX3_endOf_73 : decode cX3_endOf 73 = .ok (.ifCond .eq 17, 3) := dk_153 0 17 (dk_at dksX3_endOf_3 4 rfl rfl)
theorem dX3_endOf_76 : decode cX3_endOf 76 = .ok (.iload_n 3, 1) := dk_29 (dk_at dksX3_endOf_3 7 rfl rfl)
theorem dX3_endOf_77 : decode cX3_endOf 77 = .ok (.iload_n 2, 1) := dk_28 (dk_at dksX3_endOf_3 8 rfl rfl)
theorem dX3_endOf_78 : decode cX3_endOf 78 = .ok (.if_icmp .ne 12, 3) := dk_160 0 12 (dk_at dksX3_endOf_3 9 rfl rfl)
theorem dX3_endOf_81 : decode cX3_endOf 81 = .ok (.bipush 16, 2) := dk_16 16 (dk_at dksX3_endOf_3 12 rfl rfl)
theorem dX3_endOf_83 : decode cX3_endOf 83 = .ok (.iload 4, 2) := dk_21 4 (dk_at dksX3_endOf_3 14 rfl rfl)
theorem dX3_endOf_85 : decode cX3_endOf 85 = .ok (.imul, 1) := dk_104 (dk_at dksX3_endOf_3 16 rfl rfl)
theorem dX3_endOf_86 : decode cX3_endOf 86 = .ok (.iload 6, 2) := dk_21 6 (dk_at dksX3_endOf_3 17 rfl rfl)
theorem dX3_endOf_88 : decode cX3_endOf 88 = .ok (.iadd, 1) := dk_96 (dk_at dksX3_endOf_3 19 rfl rfl)
theorem dX3_endOf_89 : decode cX3_endOf 89 = .ok (.ireturn, 1) := dk_172 (dk_at dksX3_endOf_3 20 rfl rfl)
theorem dX3_endOf_90 : decode cX3_endOf 90 = .ok (.iload_n 3, 1) := dk_29 (dk_at dksX3_endOf_3 21 rfl rfl)
theorem dX3_endOf_91 : decode cX3_endOf 91 = .ok (.iload 7, 2) := dk_21 7 (dk_at dksX3_endOf_3 22 rfl rfl)
theorem dX3_endOf_93 : decode cX3_endOf 93 = .ok (.ifCond .eq 7, 3) := dk_153 0 7 (dk_at dksX3_endOf_4 0 rfl rfl)
theorem dX3_endOf_96 : decode cX3_endOf 96 = .ok (.iconst 1, 1) := dk_4 (dk_at dksX3_endOf_4 3 rfl rfl)
theorem dX3_endOf_97 : decode cX3_endOf 97 = .ok (.goto 4, 3) := dk_167 0 4 (dk_at dksX3_endOf_4 4 rfl rfl)
theorem dX3_endOf_100 : decode cX3_endOf 100 = .ok (.iconst 0, 1) := dk_3 (dk_at dksX3_endOf_4 7 rfl rfl)
theorem dX3_endOf_101 : decode cX3_endOf 101 = .ok (.iadd, 1) := dk_96 (dk_at dksX3_endOf_4 8 rfl rfl)
theorem dX3_endOf_102 : decode cX3_endOf 102 = .ok (.istore_n 3, 1) := dk_62 (dk_at dksX3_endOf_4 9 rfl rfl)
theorem dX3_endOf_103 : decode cX3_endOf 103 = .ok (.iinc 6 1, 3) := dk_132 6 1 (dk_at dksX3_endOf_4 10 rfl rfl)
theorem dX3_endOf_106 : decode cX3_endOf 106 = .ok (.goto (-78), 3) := dk_167 255 178 (dk_at dksX3_endOf_4 13 rfl rfl)
theorem dX3_endOf_109 : decode cX3_endOf 109 = .ok (.iinc 4 1, 3) := dk_132 4 1 (dk_at dksX3_endOf_4 16 rfl rfl)
theorem dX3_endOf_112 : decode cX3_endOf 112 = .ok (.goto (-107), 3) := dk_167 255 149 (dk_at dksX3_endOf_4 19 rfl rfl)
theorem dX3_endOf_115 : decode cX3_endOf 115 = .ok (.iconst (-1), 1) := dk_2 (dk_at dksX3_endOf_4 22 rfl rfl)
theorem dX3_endOf_116 : decode cX3_endOf 116 = .ok (.ireturn, 1) := dk_172 (dk_at dksX3_endOf_4 23 rfl rfl)
abbrev cX3_length : ByteArray := prog_7_method_25_code
def yX3_length : MethodName := ⟨RX3, "length", "(II)I"⟩
def dkwX3_length_8 : List UInt8 := [167, 255, 229, 21, 9, 172]
abbrev dktX3_length_8 : List UInt8 := dkwX3_length_8 ++ []
def dkwX3_length_7 : List UInt8 := [162, 0, 26, 21, 9, 42, 180, 0, 27, 42, 27, 21, 10, 182, 0, 87, 46, 96, 54, 9, 132, 10, 1]
abbrev dktX3_length_7 : List UInt8 := dkwX3_length_7 ++ dktX3_length_8
def dkwX3_length_6 : List UInt8 := [182, 0, 87, 46, 162, 0, 7, 4, 167, 0, 4, 3, 96, 54, 9, 21, 5, 54, 10, 21, 10, 21, 6]
abbrev dktX3_length_6 : List UInt8 := dkwX3_length_6 ++ dktX3_length_7
def dkwX3_length_5 : List UInt8 := [54, 7, 21, 8, 21, 7, 100, 21, 6, 96, 21, 5, 100, 21, 8, 42, 180, 0, 27, 42, 27, 21, 6]
abbrev dktX3_length_5 : List UInt8 := dkwX3_length_5 ++ dktX3_length_6
def dkwX3_length_4 : List UInt8 := [158, 0, 26, 21, 7, 42, 180, 0, 27, 42, 27, 21, 5, 182, 0, 87, 46, 160, 0, 9, 132, 5, 1, 3]
abbrev dktX3_length_4 : List UInt8 := dkwX3_length_4 ++ dktX3_length_5
def dkwX3_length_3 : List UInt8 := [54, 6, 29, 16, 16, 21, 5, 104, 100, 54, 7, 21, 4, 16, 16, 21, 6, 104, 100, 54, 8, 28]
abbrev dktX3_length_3 : List UInt8 := dkwX3_length_3 ++ dktX3_length_4
def dkwX3_length_2 : List UInt8 := [29, 154, 0, 7, 3, 167, 0, 9, 29, 4, 100, 16, 16, 108, 54, 5, 21, 4, 4, 100, 16, 16, 108]
abbrev dktX3_length_2 : List UInt8 := dkwX3_length_2 ++ dktX3_length_3
def dkwX3_length_1 : List UInt8 := [154, 0, 7, 3, 167, 0, 11, 42, 27, 28, 4, 100, 182, 0, 120, 62, 42, 27, 28, 182, 0, 120, 54, 4]
abbrev dktX3_length_1 : List UInt8 := dkwX3_length_1 ++ dktX3_length_2
def dkwX3_length_0 : List UInt8 := [42, 42, 27, 28, 182, 0, 117, 153, 0, 7, 3, 167, 0, 4, 4, 182, 0, 76, 154, 0, 5, 3, 172, 28]
abbrev dktX3_length_0 : List UInt8 := dkwX3_length_0 ++ dktX3_length_1
theorem dksX3_length_0 : cX3_length.data.toList.drop 0 = dktX3_length_0 := by decide +kernel
theorem dksX3_length_1 : cX3_length.data.toList.drop 24 = dktX3_length_1 := dk_seg dksX3_length_0 24 rfl rfl
theorem dksX3_length_2 : cX3_length.data.toList.drop 48 = dktX3_length_2 := dk_seg dksX3_length_1 24 rfl rfl
theorem dksX3_length_3 : cX3_length.data.toList.drop 71 = dktX3_length_3 := dk_seg dksX3_length_2 23 rfl rfl
theorem dksX3_length_4 : cX3_length.data.toList.drop 93 = dktX3_length_4 := dk_seg dksX3_length_3 22 rfl rfl
theorem dksX3_length_5 : cX3_length.data.toList.drop 117 = dktX3_length_5 := dk_seg dksX3_length_4 24 rfl rfl
theorem dksX3_length_6 : cX3_length.data.toList.drop 140 = dktX3_length_6 := dk_seg dksX3_length_5 23 rfl rfl
theorem dksX3_length_7 : cX3_length.data.toList.drop 163 = dktX3_length_7 := dk_seg dksX3_length_6 23 rfl rfl
theorem dksX3_length_8 : cX3_length.data.toList.drop 186 = dktX3_length_8 := dk_seg dksX3_length_7 23 rfl rfl
theorem dX3_length_0 : decode cX3_length 0 = .ok (.aload_n 0, 1) := dk_42 (dk_at dksX3_length_0 0 rfl rfl)
theorem dX3_length_1 : decode cX3_length 1 = .ok (.aload_n 0, 1) := dk_42 (dk_at dksX3_length_0 1 rfl rfl)
theorem dX3_length_2 : decode cX3_length 2 = .ok (.iload_n 1, 1) := dk_27 (dk_at dksX3_length_0 2 rfl rfl)
theorem dX3_length_3 : decode cX3_length 3 = .ok (.iload_n 2, 1) := dk_28 (dk_at dksX3_length_0 3 rfl rfl)
theorem dX3_length_4 : decode cX3_length 4 = .ok (.invokevirtual 117, 3) := dk_182 0 117 (dk_at dksX3_length_0 4 rfl rfl)
theorem dX3_length_7 : decode cX3_length 7 = .ok (.ifCond .eq 7, 3) := dk_153 0 7 (dk_at dksX3_length_0 7 rfl rfl)
theorem dX3_length_10 : decode cX3_length 10 = .ok (.iconst 0, 1) := dk_3 (dk_at dksX3_length_0 10 rfl rfl)
theorem dX3_length_11 : decode cX3_length 11 = .ok (.goto 4, 3) := dk_167 0 4 (dk_at dksX3_length_0 11 rfl rfl)
theorem dX3_length_14 : decode cX3_length 14 = .ok (.iconst 1, 1) := dk_4 (dk_at dksX3_length_0 14 rfl rfl)
theorem dX3_length_15 : decode cX3_length 15 = .ok (.invokevirtual 76, 3) := dk_182 0 76 (dk_at dksX3_length_0 15 rfl rfl)
theorem dX3_length_18 : decode cX3_length 18 = .ok (.ifCond .ne 5, 3) := dk_154 0 5 (dk_at dksX3_length_0 18 rfl rfl)
theorem dX3_length_21 : decode cX3_length 21 = .ok (.iconst 0, 1) := dk_3 (dk_at dksX3_length_0 21 rfl rfl)
theorem dX3_length_22 : decode cX3_length 22 = .ok (.ireturn, 1) := dk_172 (dk_at dksX3_length_0 22 rfl rfl)
theorem dX3_length_23 : decode cX3_length 23 = .ok (.iload_n 2, 1) := dk_28 (dk_at dksX3_length_0 23 rfl rfl)
theorem dX3_length_24 : decode cX3_length 24 = .ok (.ifCond .ne 7, 3) := dk_154 0 7 (dk_at dksX3_length_1 0 rfl rfl)
theorem dX3_length_27 : decode cX3_length 27 = .ok (.iconst 0, 1) := dk_3 (dk_at dksX3_length_1 3 rfl rfl)
theorem dX3_length_28 : decode cX3_length 28 = .ok (.goto 11, 3) := dk_167 0 11 (dk_at dksX3_length_1 4 rfl rfl)
theorem dX3_length_31 : decode cX3_length 31 = .ok (.aload_n 0, 1) := dk_42 (dk_at dksX3_length_1 7 rfl rfl)
theorem dX3_length_32 : decode cX3_length 32 = .ok (.iload_n 1, 1) := dk_27 (dk_at dksX3_length_1 8 rfl rfl)
theorem dX3_length_33 : decode cX3_length 33 = .ok (.iload_n 2, 1) := dk_28 (dk_at dksX3_length_1 9 rfl rfl)
theorem dX3_length_34 : decode cX3_length 34 = .ok (.iconst 1, 1) := dk_4 (dk_at dksX3_length_1 10 rfl rfl)
theorem dX3_length_35 : decode cX3_length 35 = .ok (.isub, 1) := dk_100 (dk_at dksX3_length_1 11 rfl rfl)
theorem dX3_length_36 : decode cX3_length 36 = .ok (.invokevirtual 120, 3) := dk_182 0 120 (dk_at dksX3_length_1 12 rfl rfl)
theorem dX3_length_39 : decode cX3_length 39 = .ok (.istore_n 3, 1) := dk_62 (dk_at dksX3_length_1 15 rfl rfl)
theorem dX3_length_40 : decode cX3_length 40 = .ok (.aload_n 0, 1) := dk_42 (dk_at dksX3_length_1 16 rfl rfl)
theorem dX3_length_41 : decode cX3_length 41 = .ok (.iload_n 1, 1) := dk_27 (dk_at dksX3_length_1 17 rfl rfl)
theorem dX3_length_42 : decode cX3_length 42 = .ok (.iload_n 2, 1) := dk_28 (dk_at dksX3_length_1 18 rfl rfl)
theorem dX3_length_43 : decode cX3_length 43 = .ok (.invokevirtual 120, 3) := dk_182 0 120 (dk_at dksX3_length_1 19 rfl rfl)
theorem dX3_length_46 : decode cX3_length 46 = .ok (.istore 4, 2) := dk_54 4 (dk_at dksX3_length_1 22 rfl rfl)
theorem dX3_length_48 : decode cX3_length 48 = .ok (.iload_n 3, 1) := dk_29 (dk_at dksX3_length_2 0 rfl rfl)
theorem dX3_length_49 : decode cX3_length 49 = .ok (.ifCond .ne 7, 3) := dk_154 0 7 (dk_at dksX3_length_2 1 rfl rfl)
theorem dX3_length_52 : decode cX3_length 52 = .ok (.iconst 0, 1) := dk_3 (dk_at dksX3_length_2 4 rfl rfl)
theorem dX3_length_53 : decode cX3_length 53 = .ok (.goto 9, 3) := dk_167 0 9 (dk_at dksX3_length_2 5 rfl rfl)
theorem dX3_length_56 : decode cX3_length 56 = .ok (.iload_n 3, 1) := dk_29 (dk_at dksX3_length_2 8 rfl rfl)
theorem dX3_length_57 : decode cX3_length 57 = .ok (.iconst 1, 1) := dk_4 (dk_at dksX3_length_2 9 rfl rfl)
theorem dX3_length_58 : decode cX3_length 58 = .ok (.isub, 1) := dk_100 (dk_at dksX3_length_2 10 rfl rfl)
theorem dX3_length_59 : decode cX3_length 59 = .ok (.bipush 16, 2) := dk_16 16 (dk_at dksX3_length_2 11 rfl rfl)
theorem dX3_length_61 : decode cX3_length 61 = .ok (.idiv, 1) := dk_108 (dk_at dksX3_length_2 13 rfl rfl)
theorem dX3_length_62 : decode cX3_length 62 = .ok (.istore 5, 2) := dk_54 5 (dk_at dksX3_length_2 14 rfl rfl)
theorem dX3_length_64 : decode cX3_length 64 = .ok (.iload 4, 2) := dk_21 4 (dk_at dksX3_length_2 16 rfl rfl)
theorem dX3_length_66 : decode cX3_length 66 = .ok (.iconst 1, 1) := dk_4 (dk_at dksX3_length_2 18 rfl rfl)
theorem dX3_length_67 : decode cX3_length 67 = .ok (.isub, 1) := dk_100 (dk_at dksX3_length_2 19 rfl rfl)
theorem dX3_length_68 : decode cX3_length 68 = .ok (.bipush 16, 2) := dk_16 16 (dk_at dksX3_length_2 20 rfl rfl)
theorem dX3_length_70 : decode cX3_length 70 = .ok (.idiv, 1) := dk_108 (dk_at dksX3_length_2 22 rfl rfl)
theorem dX3_length_71 : decode cX3_length 71 = .ok (.istore 6, 2) := dk_54 6 (dk_at dksX3_length_3 0 rfl rfl)
theorem dX3_length_73 : decode cX3_length 73 = .ok (.iload_n 3, 1) := dk_29 (dk_at dksX3_length_3 2 rfl rfl)
theorem dX3_length_74 : decode cX3_length 74 = .ok (.bipush 16, 2) := dk_16 16 (dk_at dksX3_length_3 3 rfl rfl)
theorem dX3_length_76 : decode cX3_length 76 = .ok (.iload 5, 2) := dk_21 5 (dk_at dksX3_length_3 5 rfl rfl)
theorem dX3_length_78 : decode cX3_length 78 = .ok (.imul, 1) := dk_104 (dk_at dksX3_length_3 7 rfl rfl)
theorem dX3_length_79 : decode cX3_length 79 = .ok (.isub, 1) := dk_100 (dk_at dksX3_length_3 8 rfl rfl)
theorem dX3_length_80 : decode cX3_length 80 = .ok (.istore 7, 2) := dk_54 7 (dk_at dksX3_length_3 9 rfl rfl)
theorem dX3_length_82 : decode cX3_length 82 = .ok (.iload 4, 2) := dk_21 4 (dk_at dksX3_length_3 11 rfl rfl)
theorem dX3_length_84 : decode cX3_length 84 = .ok (.bipush 16, 2) := dk_16 16 (dk_at dksX3_length_3 13 rfl rfl)
theorem dX3_length_86 : decode cX3_length 86 = .ok (.iload 6, 2) := dk_21 6 (dk_at dksX3_length_3 15 rfl rfl)
theorem dX3_length_88 : decode cX3_length 88 = .ok (.imul, 1) := dk_104 (dk_at dksX3_length_3 17 rfl rfl)
theorem dX3_length_89 : decode cX3_length 89 = .ok (.isub, 1) := dk_100 (dk_at dksX3_length_3 18 rfl rfl)
theorem dX3_length_90 : decode cX3_length 90 = .ok (.istore 8, 2) := dk_54 8 (dk_at dksX3_length_3 19 rfl rfl)
theorem dX3_length_92 : decode cX3_length 92 = .ok (.iload_n 2, 1) := dk_28 (dk_at dksX3_length_3 21 rfl rfl)
theorem dX3_length_93 : decode cX3_length 93 = .ok (.ifCond .le 26, 3) := dk_158 0 26 (dk_at dksX3_length_4 0 rfl rfl)
theorem dX3_length_96 : decode cX3_length 96 = .ok (.iload 7, 2) := dk_21 7 (dk_at dksX3_length_4 3 rfl rfl)
theorem dX3_length_98 : decode cX3_length 98 = .ok (.aload_n 0, 1) := dk_42 (dk_at dksX3_length_4 5 rfl rfl)
theorem dX3_length_99 : decode cX3_length 99 = .ok (.getfield 27, 3) := dk_180 0 27 (dk_at dksX3_length_4 6 rfl rfl)
theorem dX3_length_102 : decode cX3_length 102 = .ok (.aload_n 0, 1) := dk_42 (dk_at dksX3_length_4 9 rfl rfl)
theorem dX3_length_103 : decode cX3_length 103 = .ok (.iload_n 1, 1) := dk_27 (dk_at dksX3_length_4 10 rfl rfl)
theorem dX3_length_104 : decode cX3_length 104 = .ok (.iload 5, 2) := dk_21 5 (dk_at dksX3_length_4 11 rfl rfl)
theorem dX3_length_106 : decode cX3_length 106 = .ok (.invokevirtual 87, 3) := dk_182 0 87 (dk_at dksX3_length_4 13 rfl rfl)
theorem dX3_length_109 : decode cX3_length 109 = .ok (.iaload, 1) := dk_46 (dk_at dksX3_length_4 16 rfl rfl)
theorem dX3_length_110 : decode cX3_length 110 = .ok (.if_icmp .ne 9, 3) := dk_160 0 9 (dk_at dksX3_length_4 17 rfl rfl)
theorem dX3_length_113 : decode cX3_length 113 = .ok (.iinc 5 1, 3) := dk_132 5 1 (dk_at dksX3_length_4 20 rfl rfl)
theorem dX3_length_116 : decode cX3_length 116 = .ok (.iconst 0, 1) := dk_3 (dk_at dksX3_length_4 23 rfl rfl)
theorem dX3_length_117 : decode cX3_length 117 = .ok (.istore 7, 2) := dk_54 7 (dk_at dksX3_length_5 0 rfl rfl)
theorem dX3_length_119 : decode cX3_length 119 = .ok (.iload 8, 2) := dk_21 8 (dk_at dksX3_length_5 2 rfl rfl)
theorem dX3_length_121 : decode cX3_length 121 = .ok (.iload 7, 2) := dk_21 7 (dk_at dksX3_length_5 4 rfl rfl)
theorem dX3_length_123 : decode cX3_length 123 = .ok (.isub, 1) := dk_100 (dk_at dksX3_length_5 6 rfl rfl)
theorem dX3_length_124 : decode cX3_length 124 = .ok (.iload 6, 2) := dk_21 6 (dk_at dksX3_length_5 7 rfl rfl)
theorem dX3_length_126 : decode cX3_length 126 = .ok (.iadd, 1) := dk_96 (dk_at dksX3_length_5 9 rfl rfl)
theorem dX3_length_127 : decode cX3_length 127 = .ok (.iload 5, 2) := dk_21 5 (dk_at dksX3_length_5 10 rfl rfl)
theorem dX3_length_129 : decode cX3_length 129 = .ok (.isub, 1) := dk_100 (dk_at dksX3_length_5 12 rfl rfl)
theorem dX3_length_130 : decode cX3_length 130 = .ok (.iload 8, 2) := dk_21 8 (dk_at dksX3_length_5 13 rfl rfl)
theorem dX3_length_132 : decode cX3_length 132 = .ok (.aload_n 0, 1) := dk_42 (dk_at dksX3_length_5 15 rfl rfl)
theorem dX3_length_133 : decode cX3_length 133 = .ok (.getfield 27, 3) := dk_180 0 27 (dk_at dksX3_length_5 16 rfl rfl)
theorem dX3_length_136 : decode cX3_length 136 = .ok (.aload_n 0, 1) := dk_42 (dk_at dksX3_length_5 19 rfl rfl)
theorem dX3_length_137 : decode cX3_length 137 = .ok (.iload_n 1, 1) := dk_27 (dk_at dksX3_length_5 20 rfl rfl)
theorem dX3_length_138 : decode cX3_length 138 = .ok (.iload 6, 2) := dk_21 6 (dk_at dksX3_length_5 21 rfl rfl)
theorem dX3_length_140 : decode cX3_length 140 = .ok (.invokevirtual 87, 3) := dk_182 0 87 (dk_at dksX3_length_6 0 rfl rfl)
theorem dX3_length_143 : decode cX3_length 143 = .ok (.iaload, 1) := dk_46 (dk_at dksX3_length_6 3 rfl rfl)
theorem dX3_length_144 : decode cX3_length 144 = .ok (.if_icmp .ge 7, 3) := dk_162 0 7 (dk_at dksX3_length_6 4 rfl rfl)
theorem dX3_length_147 : decode cX3_length 147 = .ok (.iconst 1, 1) := dk_4 (dk_at dksX3_length_6 7 rfl rfl)
theorem dX3_length_148 : decode cX3_length 148 = .ok (.goto 4, 3) := dk_167 0 4 (dk_at dksX3_length_6 8 rfl rfl)
theorem dX3_length_151 : decode cX3_length 151 = .ok (.iconst 0, 1) := dk_3 (dk_at dksX3_length_6 11 rfl rfl)
theorem dX3_length_152 : decode cX3_length 152 = .ok (.iadd, 1) := dk_96 (dk_at dksX3_length_6 12 rfl rfl)
theorem dX3_length_153 : decode cX3_length 153 = .ok (.istore 9, 2) := dk_54 9 (dk_at dksX3_length_6 13 rfl rfl)
theorem dX3_length_155 : decode cX3_length 155 = .ok (.iload 5, 2) := dk_21 5 (dk_at dksX3_length_6 15 rfl rfl)
theorem dX3_length_157 : decode cX3_length 157 = .ok (.istore 10, 2) := dk_54 10 (dk_at dksX3_length_6 17 rfl rfl)
theorem dX3_length_159 : decode cX3_length 159 = .ok (.iload 10, 2) := dk_21 10 (dk_at dksX3_length_6 19 rfl rfl)
theorem dX3_length_161 : decode cX3_length 161 = .ok (.iload 6, 2) := dk_21 6 (dk_at dksX3_length_6 21 rfl rfl)
theorem dX3_length_163 : decode cX3_length 163 = .ok (.if_icmp .ge 26, 3) := dk_162 0 26 (dk_at dksX3_length_7 0 rfl rfl)
theorem dX3_length_166 : decode cX3_length 166 = .ok (.iload 9, 2) := dk_21 9 (dk_at dksX3_length_7 3 rfl rfl)
theorem dX3_length_168 : decode cX3_length 168 = .ok (.aload_n 0, 1) := dk_42 (dk_at dksX3_length_7 5 rfl rfl)
theorem dX3_length_169 : decode cX3_length 169 = .ok (.getfield 27, 3) := dk_180 0 27 (dk_at dksX3_length_7 6 rfl rfl)
theorem dX3_length_172 : decode cX3_length 172 = .ok (.aload_n 0, 1) := dk_42 (dk_at dksX3_length_7 9 rfl rfl)
theorem dX3_length_173 : decode cX3_length 173 = .ok (.iload_n 1, 1) := dk_27 (dk_at dksX3_length_7 10 rfl rfl)
theorem dX3_length_174 : decode cX3_length 174 = .ok (.iload 10, 2) := dk_21 10 (dk_at dksX3_length_7 11 rfl rfl)
theorem dX3_length_176 : decode cX3_length 176 = .ok (.invokevirtual 87, 3) := dk_182 0 87 (dk_at dksX3_length_7 13 rfl rfl)
theorem dX3_length_179 : decode cX3_length 179 = .ok (.iaload, 1) := dk_46 (dk_at dksX3_length_7 16 rfl rfl)
theorem dX3_length_180 : decode cX3_length 180 = .ok (.iadd, 1) := dk_96 (dk_at dksX3_length_7 17 rfl rfl)
theorem dX3_length_181 : decode cX3_length 181 = .ok (.istore 9, 2) := dk_54 9 (dk_at dksX3_length_7 18 rfl rfl)
theorem dX3_length_183 : decode cX3_length 183 = .ok (.iinc 10 1, 3) := dk_132 10 1 (dk_at dksX3_length_7 20 rfl rfl)
theorem dX3_length_186 : decode cX3_length 186 = .ok (.goto (-27), 3) := dk_167 255 229 (dk_at dksX3_length_8 0 rfl rfl)
theorem dX3_length_189 : decode cX3_length 189 = .ok (.iload 9, 2) := dk_21 9 (dk_at dksX3_length_8 3 rfl rfl)
theorem dX3_length_191 : decode cX3_length 191 = .ok (.ireturn, 1) := dk_172 (dk_at dksX3_length_8 5 rfl rfl)
abbrev cX3_badness : ByteArray := prog_7_method_27_code
def yX3_badness : MethodName := ⟨RX3, "badness", "(I)I"⟩
def dkwX3_badness_1 : List UInt8 := [182, 0, 123, 167, 0, 4, 3, 172]
abbrev dktX3_badness_1 : List UInt8 := dkwX3_badness_1 ++ []
def dkwX3_badness_0 : List UInt8 := [42, 42, 27, 182, 0, 80, 153, 0, 7, 3, 167, 0, 4, 4, 182, 0, 76, 153, 0, 11, 42, 27]
abbrev dktX3_badness_0 : List UInt8 := dkwX3_badness_0 ++ dktX3_badness_1
theorem dksX3_badness_0 : cX3_badness.data.toList.drop 0 = dktX3_badness_0 := by decide +kernel
theorem dksX3_badness_1 : cX3_badness.data.toList.drop 22 = dktX3_badness_1 := dk_seg dksX3_badness_0 22 rfl rfl
theorem dX3_badness_0 : decode cX3_badness 0 = .ok (.aload_n 0, 1) := dk_42 (dk_at dksX3_badness_0 0 rfl rfl)
theorem dX3_badness_1 : decode cX3_badness 1 = .ok (.aload_n 0, 1) := dk_42 (dk_at dksX3_badness_0 1 rfl rfl)
theorem dX3_badness_2 : decode cX3_badness 2 = .ok (.iload_n 1, 1) := dk_27 (dk_at dksX3_badness_0 2 rfl rfl)
theorem dX3_badness_3 : decode cX3_badness 3 = .ok (.invokevirtual 80, 3) := dk_182 0 80 (dk_at dksX3_badness_0 3 rfl rfl)
theorem dX3_badness_6 : decode cX3_badness 6 = .ok (.ifCond .eq 7, 3) := dk_153 0 7 (dk_at dksX3_badness_0 6 rfl rfl)
theorem dX3_badness_9 : decode cX3_badness 9 = .ok (.iconst 0, 1) := dk_3 (dk_at dksX3_badness_0 9 rfl rfl)
theorem dX3_badness_10 : decode cX3_badness 10 = .ok (.goto 4, 3) := dk_167 0 4 (dk_at dksX3_badness_0 10 rfl rfl)
theorem dX3_badness_13 : decode cX3_badness 13 = .ok (.iconst 1, 1) := dk_4 (dk_at dksX3_badness_0 13 rfl rfl)
theorem dX3_badness_14 : decode cX3_badness 14 = .ok (.invokevirtual 76, 3) := dk_182 0 76 (dk_at dksX3_badness_0 14 rfl rfl)
theorem dX3_badness_17 : decode cX3_badness 17 = .ok (.ifCond .eq 11, 3) := dk_153 0 11 (dk_at dksX3_badness_0 17 rfl rfl)
theorem dX3_badness_20 : decode cX3_badness 20 = .ok (.aload_n 0, 1) := dk_42 (dk_at dksX3_badness_0 20 rfl rfl)
theorem dX3_badness_21 : decode cX3_badness 21 = .ok (.iload_n 1, 1) := dk_27 (dk_at dksX3_badness_0 21 rfl rfl)
theorem dX3_badness_22 : decode cX3_badness 22 = .ok (.invokevirtual 123, 3) := dk_182 0 123 (dk_at dksX3_badness_1 0 rfl rfl)
theorem dX3_badness_25 : decode cX3_badness 25 = .ok (.goto 4, 3) := dk_167 0 4 (dk_at dksX3_badness_1 3 rfl rfl)
theorem dX3_badness_28 : decode cX3_badness 28 = .ok (.iconst 0, 1) := dk_3 (dk_at dksX3_badness_1 6 rfl rfl)
theorem dX3_badness_29 : decode cX3_badness 29 = .ok (.ireturn, 1) := dk_172 (dk_at dksX3_badness_1 7 rfl rfl)
abbrev cX3_badnessNow : ByteArray := prog_7_method_26_code
def yX3_badnessNow : MethodName := ⟨RX3, "badnessNow", "(I)I"⟩
def dkwX3_badnessNow_0 : List UInt8 := [42, 27, 182, 0, 103, 42, 180, 0, 45, 3, 46, 172]
abbrev dktX3_badnessNow_0 : List UInt8 := dkwX3_badnessNow_0 ++ []
theorem dksX3_badnessNow_0 : cX3_badnessNow.data.toList.drop 0 = dktX3_badnessNow_0 := by decide +kernel
theorem dX3_badnessNow_0 : decode cX3_badnessNow 0 = .ok (.aload_n 0, 1) := dk_42 (dk_at dksX3_badnessNow_0 0 rfl rfl)
theorem dX3_badnessNow_1 : decode cX3_badnessNow 1 = .ok (.iload_n 1, 1) := dk_27 (dk_at dksX3_badnessNow_0 1 rfl rfl)
theorem dX3_badnessNow_2 : decode cX3_badnessNow 2 = .ok (.invokevirtual 103, 3) := dk_182 0 103 (dk_at dksX3_badnessNow_0 2 rfl rfl)
theorem dX3_badnessNow_5 : decode cX3_badnessNow 5 = .ok (.aload_n 0, 1) := dk_42 (dk_at dksX3_badnessNow_0 5 rfl rfl)
theorem dX3_badnessNow_6 : decode cX3_badnessNow 6 = .ok (.getfield 45, 3) := dk_180 0 45 (dk_at dksX3_badnessNow_0 6 rfl rfl)
theorem dX3_badnessNow_9 : decode cX3_badnessNow 9 = .ok (.iconst 0, 1) := dk_3 (dk_at dksX3_badnessNow_0 9 rfl rfl)
theorem dX3_badnessNow_10 : decode cX3_badnessNow 10 = .ok (.iaload, 1) := dk_46 (dk_at dksX3_badnessNow_0 10 rfl rfl)
theorem dX3_badnessNow_11 : decode cX3_badnessNow 11 = .ok (.ireturn, 1) := dk_172 (dk_at dksX3_badnessNow_0 11 rfl rfl)
abbrev cX3_badnessForwards : ByteArray := prog_7_method_28_code
def yX3_badnessForwards : MethodName := ⟨RX3, "badnessForwards", "(I)I"⟩
def dkwX3_badnessForwards_1 : List UInt8 := [182, 0, 123, 167, 0, 4, 3, 172]
abbrev dktX3_badnessForwards_1 : List UInt8 := dkwX3_badnessForwards_1 ++ []
def dkwX3_badnessForwards_0 : List UInt8 := [42, 42, 27, 182, 0, 80, 153, 0, 7, 3, 167, 0, 4, 4, 182, 0, 76, 153, 0, 11, 42, 27]
abbrev dktX3_badnessForwards_0 : List UInt8 := dkwX3_badnessForwards_0 ++ dktX3_badnessForwards_1
theorem dksX3_badnessForwards_0 : cX3_badnessForwards.data.toList.drop 0 = dktX3_badnessForwards_0 := by decide +kernel
theorem dksX3_badnessForwards_1 : cX3_badnessForwards.data.toList.drop 22 = dktX3_badnessForwards_1 := dk_seg dksX3_badnessForwards_0 22 rfl rfl
theorem dX3_badnessForwards_0 : decode cX3_badnessForwards 0 = .ok (.aload_n 0, 1) := dk_42 (dk_at dksX3_badnessForwards_0 0 rfl rfl)
theorem dX3_badnessForwards_1 : decode cX3_badnessForwards 1 = .ok (.aload_n 0, 1) := dk_42 (dk_at dksX3_badnessForwards_0 1 rfl rfl)
theorem dX3_badnessForwards_2 : decode cX3_badnessForwards 2 = .ok (.iload_n 1, 1) := dk_27 (dk_at dksX3_badnessForwards_0 2 rfl rfl)
theorem dX3_badnessForwards_3 : decode cX3_badnessForwards 3 = .ok (.invokevirtual 80, 3) := dk_182 0 80 (dk_at dksX3_badnessForwards_0 3 rfl rfl)
theorem dX3_badnessForwards_6 : decode cX3_badnessForwards 6 = .ok (.ifCond .eq 7, 3) := dk_153 0 7 (dk_at dksX3_badnessForwards_0 6 rfl rfl)
theorem dX3_badnessForwards_9 : decode cX3_badnessForwards 9 = .ok (.iconst 0, 1) := dk_3 (dk_at dksX3_badnessForwards_0 9 rfl rfl)
theorem dX3_badnessForwards_10 : decode cX3_badnessForwards 10 = .ok (.goto 4, 3) := dk_167 0 4 (dk_at dksX3_badnessForwards_0 10 rfl rfl)
theorem dX3_badnessForwards_13 : decode cX3_badnessForwards 13 = .ok (.iconst 1, 1) := dk_4 (dk_at dksX3_badnessForwards_0 13 rfl rfl)
theorem dX3_badnessForwards_14 : decode cX3_badnessForwards 14 = .ok (.invokevirtual 76, 3) := dk_182 0 76 (dk_at dksX3_badnessForwards_0 14 rfl rfl)
theorem dX3_badnessForwards_17 : decode cX3_badnessForwards 17 = .ok (.ifCond .eq 11, 3) := dk_153 0 11 (dk_at dksX3_badnessForwards_0 17 rfl rfl)
theorem dX3_badnessForwards_20 : decode cX3_badnessForwards 20 = .ok (.aload_n 0, 1) := dk_42 (dk_at dksX3_badnessForwards_0 20 rfl rfl)
theorem dX3_badnessForwards_21 : decode cX3_badnessForwards 21 = .ok (.iload_n 1, 1) := dk_27 (dk_at dksX3_badnessForwards_0 21 rfl rfl)
theorem dX3_badnessForwards_22 : decode cX3_badnessForwards 22 = .ok (.invokevirtual 123, 3) := dk_182 0 123 (dk_at dksX3_badnessForwards_1 0 rfl rfl)
theorem dX3_badnessForwards_25 : decode cX3_badnessForwards 25 = .ok (.goto 4, 3) := dk_167 0 4 (dk_at dksX3_badnessForwards_1 3 rfl rfl)
theorem dX3_badnessForwards_28 : decode cX3_badnessForwards 28 = .ok (.iconst 0, 1) := dk_3 (dk_at dksX3_badnessForwards_1 6 rfl rfl)
theorem dX3_badnessForwards_29 : decode cX3_badnessForwards 29 = .ok (.ireturn, 1) := dk_172 (dk_at dksX3_badnessForwards_1 7 rfl rfl)
abbrev cX3_pages : ByteArray := prog_7_method_35_code
def yX3_pages : MethodName := ⟨RX3, "pages", "()I"⟩
def dkwX3_pages_1 : List UInt8 := [162, 0, 18, 29, 42, 29, 27, 182, 0, 141, 96, 62, 132, 2, 1, 167, 255, 239, 28, 172]
abbrev dktX3_pages_1 : List UInt8 := dkwX3_pages_1 ++ []
def dkwX3_pages_0 : List UInt8 := [42, 3, 181, 0, 63, 42, 182, 0, 138, 42, 42, 180, 0, 66, 182, 0, 126, 60, 3, 61, 3, 62, 29, 27]
abbrev dktX3_pages_0 : List UInt8 := dkwX3_pages_0 ++ dktX3_pages_1
theorem dksX3_pages_0 : cX3_pages.data.toList.drop 0 = dktX3_pages_0 := by decide +kernel
theorem dksX3_pages_1 : cX3_pages.data.toList.drop 24 = dktX3_pages_1 := dk_seg dksX3_pages_0 24 rfl rfl
theorem dX3_pages_0 : decode cX3_pages 0 = .ok (.aload_n 0, 1) := dk_42 (dk_at dksX3_pages_0 0 rfl rfl)
theorem dX3_pages_1 : decode cX3_pages 1 = .ok (.iconst 0, 1) := dk_3 (dk_at dksX3_pages_0 1 rfl rfl)
theorem dX3_pages_2 : decode cX3_pages 2 = .ok (.putfield 63, 3) := dk_181 0 63 (dk_at dksX3_pages_0 2 rfl rfl)
theorem dX3_pages_5 : decode cX3_pages 5 = .ok (.aload_n 0, 1) := dk_42 (dk_at dksX3_pages_0 5 rfl rfl)
theorem dX3_pages_6 : decode cX3_pages 6 = .ok (.invokevirtual 138, 3) := dk_182 0 138 (dk_at dksX3_pages_0 6 rfl rfl)
theorem dX3_pages_9 : decode cX3_pages 9 = .ok (.aload_n 0, 1) := dk_42 (dk_at dksX3_pages_0 9 rfl rfl)
theorem dX3_pages_10 : decode cX3_pages 10 = .ok (.aload_n 0, 1) := dk_42 (dk_at dksX3_pages_0 10 rfl rfl)
theorem dX3_pages_11 : decode cX3_pages 11 = .ok (.getfield 66, 3) := dk_180 0 66 (dk_at dksX3_pages_0 11 rfl rfl)
theorem dX3_pages_14 : decode cX3_pages 14 = .ok (.invokevirtual 126, 3) := dk_182 0 126 (dk_at dksX3_pages_0 14 rfl rfl)
theorem dX3_pages_17 : decode cX3_pages 17 = .ok (.istore_n 1, 1) := dk_60 (dk_at dksX3_pages_0 17 rfl rfl)
theorem dX3_pages_18 : decode cX3_pages 18 = .ok (.iconst 0, 1) := dk_3 (dk_at dksX3_pages_0 18 rfl rfl)
theorem dX3_pages_19 : decode cX3_pages 19 = .ok (.istore_n 2, 1) := dk_61 (dk_at dksX3_pages_0 19 rfl rfl)
theorem dX3_pages_20 : decode cX3_pages 20 = .ok (.iconst 0, 1) := dk_3 (dk_at dksX3_pages_0 20 rfl rfl)
theorem dX3_pages_21 : decode cX3_pages 21 = .ok (.istore_n 3, 1) := dk_62 (dk_at dksX3_pages_0 21 rfl rfl)
theorem dX3_pages_22 : decode cX3_pages 22 = .ok (.iload_n 3, 1) := dk_29 (dk_at dksX3_pages_0 22 rfl rfl)
theorem dX3_pages_23 : decode cX3_pages 23 = .ok (.iload_n 1, 1) := dk_27 (dk_at dksX3_pages_0 23 rfl rfl)
theorem dX3_pages_24 : decode cX3_pages 24 = .ok (.if_icmp .ge 18, 3) := dk_162 0 18 (dk_at dksX3_pages_1 0 rfl rfl)
theorem dX3_pages_27 : decode cX3_pages 27 = .ok (.iload_n 3, 1) := dk_29 (dk_at dksX3_pages_1 3 rfl rfl)
theorem dX3_pages_28 : decode cX3_pages 28 = .ok (.aload_n 0, 1) := dk_42 (dk_at dksX3_pages_1 4 rfl rfl)
theorem dX3_pages_29 : decode cX3_pages 29 = .ok (.iload_n 3, 1) := dk_29 (dk_at dksX3_pages_1 5 rfl rfl)
theorem dX3_pages_30 : decode cX3_pages 30 = .ok (.iload_n 1, 1) := dk_27 (dk_at dksX3_pages_1 6 rfl rfl)
theorem dX3_pages_31 : decode cX3_pages 31 = .ok (.invokevirtual 141, 3) := dk_182 0 141 (dk_at dksX3_pages_1 7 rfl rfl)
theorem dX3_pages_34 : decode cX3_pages 34 = .ok (.iadd, 1) := dk_96 (dk_at dksX3_pages_1 10 rfl rfl)
theorem dX3_pages_35 : decode cX3_pages 35 = .ok (.istore_n 3, 1) := dk_62 (dk_at dksX3_pages_1 11 rfl rfl)
theorem dX3_pages_36 : decode cX3_pages 36 = .ok (.iinc 2 1, 3) := dk_132 2 1 (dk_at dksX3_pages_1 12 rfl rfl)
theorem dX3_pages_39 : decode cX3_pages 39 = .ok (.goto (-17), 3) := dk_167 255 239 (dk_at dksX3_pages_1 15 rfl rfl)
theorem dX3_pages_42 : decode cX3_pages 42 = .ok (.iload_n 2, 1) := dk_28 (dk_at dksX3_pages_1 18 rfl rfl)
theorem dX3_pages_43 : decode cX3_pages 43 = .ok (.ireturn, 1) := dk_172 (dk_at dksX3_pages_1 19 rfl rfl)
abbrev cX3_marksAll : ByteArray := prog_7_method_30_code
def yX3_marksAll : MethodName := ⟨RX3, "marksAll", "()V"⟩
def dkwX3_marksAll_0 : List UInt8 := [3, 60, 27, 42, 180, 0, 66, 162, 0, 14, 42, 27, 182, 0, 110, 132, 1, 1, 167, 255, 240, 177]
abbrev dktX3_marksAll_0 : List UInt8 := dkwX3_marksAll_0 ++ []
theorem dksX3_marksAll_0 : cX3_marksAll.data.toList.drop 0 = dktX3_marksAll_0 := by decide +kernel
theorem dX3_marksAll_0 : decode cX3_marksAll 0 = .ok (.iconst 0, 1) := dk_3 (dk_at dksX3_marksAll_0 0 rfl rfl)
theorem dX3_marksAll_1 : decode cX3_marksAll 1 = .ok (.istore_n 1, 1) := dk_60 (dk_at dksX3_marksAll_0 1 rfl rfl)
theorem dX3_marksAll_2 : decode cX3_marksAll 2 = .ok (.iload_n 1, 1) := dk_27 (dk_at dksX3_marksAll_0 2 rfl rfl)
theorem dX3_marksAll_3 : decode cX3_marksAll 3 = .ok (.aload_n 0, 1) := dk_42 (dk_at dksX3_marksAll_0 3 rfl rfl)
theorem dX3_marksAll_4 : decode cX3_marksAll 4 = .ok (.getfield 66, 3) := dk_180 0 66 (dk_at dksX3_marksAll_0 4 rfl rfl)
theorem dX3_marksAll_7 : decode cX3_marksAll 7 = .ok (.if_icmp .ge 14, 3) := dk_162 0 14 (dk_at dksX3_marksAll_0 7 rfl rfl)
theorem dX3_marksAll_10 : decode cX3_marksAll 10 = .ok (.aload_n 0, 1) := dk_42 (dk_at dksX3_marksAll_0 10 rfl rfl)
theorem dX3_marksAll_11 : decode cX3_marksAll 11 = .ok (.iload_n 1, 1) := dk_27 (dk_at dksX3_marksAll_0 11 rfl rfl)
theorem dX3_marksAll_12 : decode cX3_marksAll 12 = .ok (.invokevirtual 110, 3) := dk_182 0 110 (dk_at dksX3_marksAll_0 12 rfl rfl)
theorem dX3_marksAll_15 : decode cX3_marksAll 15 = .ok (.iinc 1 1, 3) := dk_132 1 1 (dk_at dksX3_marksAll_0 15 rfl rfl)
theorem dX3_marksAll_18 : decode cX3_marksAll 18 = .ok (.goto (-16), 3) := dk_167 255 240 (dk_at dksX3_marksAll_0 18 rfl rfl)
theorem dX3_marksAll_21 : decode cX3_marksAll 21 = .ok (.return_, 1) := dk_177 (dk_at dksX3_marksAll_0 21 rfl rfl)
abbrev cX3_ahead : ByteArray := prog_7_method_29_code
def yX3_ahead : MethodName := ⟨RX3, "ahead", "(I)I"⟩
def dkwX3_ahead_1 : List UInt8 := [28, 172]
abbrev dktX3_ahead_1 : List UInt8 := dkwX3_ahead_1 ++ []
def dkwX3_ahead_0 : List UInt8 := [3, 61, 3, 62, 29, 27, 162, 0, 18, 28, 42, 180, 0, 51, 29, 46, 96, 61, 132, 3, 1, 167, 255, 239]
abbrev dktX3_ahead_0 : List UInt8 := dkwX3_ahead_0 ++ dktX3_ahead_1
theorem dksX3_ahead_0 : cX3_ahead.data.toList.drop 0 = dktX3_ahead_0 := by decide +kernel
theorem dksX3_ahead_1 : cX3_ahead.data.toList.drop 24 = dktX3_ahead_1 := dk_seg dksX3_ahead_0 24 rfl rfl
theorem dX3_ahead_0 : decode cX3_ahead 0 = .ok (.iconst 0, 1) := dk_3 (dk_at dksX3_ahead_0 0 rfl rfl)
theorem dX3_ahead_1 : decode cX3_ahead 1 = .ok (.istore_n 2, 1) := dk_61 (dk_at dksX3_ahead_0 1 rfl rfl)
theorem dX3_ahead_2 : decode cX3_ahead 2 = .ok (.iconst 0, 1) := dk_3 (dk_at dksX3_ahead_0 2 rfl rfl)
theorem dX3_ahead_3 : decode cX3_ahead 3 = .ok (.istore_n 3, 1) := dk_62 (dk_at dksX3_ahead_0 3 rfl rfl)
theorem dX3_ahead_4 : decode cX3_ahead 4 = .ok (.iload_n 3, 1) := dk_29 (dk_at dksX3_ahead_0 4 rfl rfl)
theorem dX3_ahead_5 : decode cX3_ahead 5 = .ok (.iload_n 1, 1) := dk_27 (dk_at dksX3_ahead_0 5 rfl rfl)
theorem dX3_ahead_6 : decode cX3_ahead 6 = .ok (.if_icmp .ge 18, 3) := dk_162 0 18 (dk_at dksX3_ahead_0 6 rfl rfl)
theorem dX3_ahead_9 : decode cX3_ahead 9 = .ok (.iload_n 2, 1) := dk_28 (dk_at dksX3_ahead_0 9 rfl rfl)
theorem dX3_ahead_10 : decode cX3_ahead 10 = .ok (.aload_n 0, 1) := dk_42 (dk_at dksX3_ahead_0 10 rfl rfl)
theorem dX3_ahead_11 : decode cX3_ahead 11 = .ok (.getfield 51, 3) := dk_180 0 51 (dk_at dksX3_ahead_0 11 rfl rfl)
theorem dX3_ahead_14 : decode cX3_ahead 14 = .ok (.iload_n 3, 1) := dk_29 (dk_at dksX3_ahead_0 14 rfl rfl)
theorem dX3_ahead_15 : decode cX3_ahead 15 = .ok (.iaload, 1) := dk_46 (dk_at dksX3_ahead_0 15 rfl rfl)
theorem dX3_ahead_16 : decode cX3_ahead 16 = .ok (.iadd, 1) := dk_96 (dk_at dksX3_ahead_0 16 rfl rfl)
theorem dX3_ahead_17 : decode cX3_ahead 17 = .ok (.istore_n 2, 1) := dk_61 (dk_at dksX3_ahead_0 17 rfl rfl)
theorem dX3_ahead_18 : decode cX3_ahead 18 = .ok (.iinc 3 1, 3) := dk_132 3 1 (dk_at dksX3_ahead_0 18 rfl rfl)
theorem dX3_ahead_21 : decode cX3_ahead 21 = .ok (.goto (-17), 3) := dk_167 255 239 (dk_at dksX3_ahead_0 21 rfl rfl)
theorem dX3_ahead_24 : decode cX3_ahead 24 = .ok (.iload_n 2, 1) := dk_28 (dk_at dksX3_ahead_1 0 rfl rfl)
theorem dX3_ahead_25 : decode cX3_ahead 25 = .ok (.ireturn, 1) := dk_172 (dk_at dksX3_ahead_1 1 rfl rfl)
abbrev cX3_puts : ByteArray := prog_7_method_34_code
def yX3_puts : MethodName := ⟨RX3, "puts", "(II)I"⟩
def dkwX3_puts_4 : List UInt8 := [167, 0, 9, 42, 180, 0, 13, 4, 100, 172, 42, 180, 0, 13, 172]
abbrev dktX3_puts_4 : List UInt8 := dkwX3_puts_4 ++ []
def dkwX3_puts_3 : List UInt8 := [153, 0, 27, 42, 29, 5, 100, 182, 0, 129, 42, 29, 182, 0, 129, 160, 0, 12, 42, 180, 0, 13, 5, 100]
abbrev dktX3_puts_3 : List UInt8 := dkwX3_puts_3 ++ dktX3_puts_4
def dkwX3_puts_2 : List UInt8 := [42, 29, 182, 0, 135, 153, 0, 52, 42, 29, 182, 0, 132, 154, 0, 44, 42, 29, 5, 100, 182, 0, 132]
abbrev dktX3_puts_2 : List UInt8 := dkwX3_puts_2 ++ dktX3_puts_3
def dkwX3_puts_1 : List UInt8 := [100, 182, 0, 132, 153, 0, 20, 42, 29, 4, 100, 182, 0, 135, 154, 0, 10, 42, 180, 0, 13, 4, 100, 172]
abbrev dktX3_puts_1 : List UInt8 := dkwX3_puts_1 ++ dktX3_puts_2
def dkwX3_puts_0 : List UInt8 := [28, 27, 100, 42, 180, 0, 13, 163, 0, 7, 28, 27, 100, 172, 27, 42, 180, 0, 13, 96, 62, 42, 29, 4]
abbrev dktX3_puts_0 : List UInt8 := dkwX3_puts_0 ++ dktX3_puts_1
theorem dksX3_puts_0 : cX3_puts.data.toList.drop 0 = dktX3_puts_0 := by decide +kernel
theorem dksX3_puts_1 : cX3_puts.data.toList.drop 24 = dktX3_puts_1 := dk_seg dksX3_puts_0 24 rfl rfl
theorem dksX3_puts_2 : cX3_puts.data.toList.drop 48 = dktX3_puts_2 := dk_seg dksX3_puts_1 24 rfl rfl
theorem dksX3_puts_3 : cX3_puts.data.toList.drop 71 = dktX3_puts_3 := dk_seg dksX3_puts_2 23 rfl rfl
theorem dksX3_puts_4 : cX3_puts.data.toList.drop 95 = dktX3_puts_4 := dk_seg dksX3_puts_3 24 rfl rfl
theorem dX3_puts_0 : decode cX3_puts 0 = .ok (.iload_n 2, 1) := dk_28 (dk_at dksX3_puts_0 0 rfl rfl)
theorem dX3_puts_1 : decode cX3_puts 1 = .ok (.iload_n 1, 1) := dk_27 (dk_at dksX3_puts_0 1 rfl rfl)
theorem dX3_puts_2 : decode cX3_puts 2 = .ok (.isub, 1) := dk_100 (dk_at dksX3_puts_0 2 rfl rfl)
theorem dX3_puts_3 : decode cX3_puts 3 = .ok (.aload_n 0, 1) := dk_42 (dk_at dksX3_puts_0 3 rfl rfl)
theorem dX3_puts_4 : decode cX3_puts 4 = .ok (.getfield 13, 3) := dk_180 0 13 (dk_at dksX3_puts_0 4 rfl rfl)
theorem dX3_puts_7 : decode cX3_puts 7 = .ok (.if_icmp .gt 7, 3) := dk_163 0 7 (dk_at dksX3_puts_0 7 rfl rfl)
theorem dX3_puts_10 : decode cX3_puts 10 = .ok (.iload_n 2, 1) := dk_28 (dk_at dksX3_puts_0 10 rfl rfl)
theorem dX3_puts_11 : decode cX3_puts 11 = .ok (.iload_n 1, 1) := dk_27 (dk_at dksX3_puts_0 11 rfl rfl)
theorem dX3_puts_12 : decode cX3_puts 12 = .ok (.isub, 1) := dk_100 (dk_at dksX3_puts_0 12 rfl rfl)
theorem dX3_puts_13 : decode cX3_puts 13 = .ok (.ireturn, 1) := dk_172 (dk_at dksX3_puts_0 13 rfl rfl)
theorem dX3_puts_14 : decode cX3_puts 14 = .ok (.iload_n 1, 1) := dk_27 (dk_at dksX3_puts_0 14 rfl rfl)
theorem dX3_puts_15 : decode cX3_puts 15 = .ok (.aload_n 0, 1) := dk_42 (dk_at dksX3_puts_0 15 rfl rfl)
theorem dX3_puts_16 : decode cX3_puts 16 = .ok (.getfield 13, 3) := dk_180 0 13 (dk_at dksX3_puts_0 16 rfl rfl)
theorem dX3_puts_19 : decode cX3_puts 19 = .ok (.iadd, 1) := dk_96 (dk_at dksX3_puts_0 19 rfl rfl)
theorem dX3_puts_20 : decode cX3_puts 20 = .ok (.istore_n 3, 1) := dk_62 (dk_at dksX3_puts_0 20 rfl rfl)
theorem dX3_puts_21 : decode cX3_puts 21 = .ok (.aload_n 0, 1) := dk_42 (dk_at dksX3_puts_0 21 rfl rfl)
theorem dX3_puts_22 : decode cX3_puts 22 = .ok (.iload_n 3, 1) := dk_29 (dk_at dksX3_puts_0 22 rfl rfl)
theorem dX3_puts_23 : decode cX3_puts 23 = .ok (.iconst 1, 1) := dk_4 (dk_at dksX3_puts_0 23 rfl rfl)
theorem dX3_puts_24 : decode cX3_puts 24 = .ok (.isub, 1) := dk_100 (dk_at dksX3_puts_1 0 rfl rfl)
theorem dX3_puts_25 : decode cX3_puts 25 = .ok (.invokevirtual 132, 3) := dk_182 0 132 (dk_at dksX3_puts_1 1 rfl rfl)
theorem dX3_puts_28 : decode cX3_puts 28 = .ok (.ifCond .eq 20, 3) := dk_153 0 20 (dk_at dksX3_puts_1 4 rfl rfl)
theorem dX3_puts_31 : decode cX3_puts 31 = .ok (.aload_n 0, 1) := dk_42 (dk_at dksX3_puts_1 7 rfl rfl)
theorem dX3_puts_32 : decode cX3_puts 32 = .ok (.iload_n 3, 1) := dk_29 (dk_at dksX3_puts_1 8 rfl rfl)
theorem dX3_puts_33 : decode cX3_puts 33 = .ok (.iconst 1, 1) := dk_4 (dk_at dksX3_puts_1 9 rfl rfl)
theorem dX3_puts_34 : decode cX3_puts 34 = .ok (.isub, 1) := dk_100 (dk_at dksX3_puts_1 10 rfl rfl)
theorem dX3_puts_35 : decode cX3_puts 35 = .ok (.invokevirtual 135, 3) := dk_182 0 135 (dk_at dksX3_puts_1 11 rfl rfl)
theorem dX3_puts_38 : decode cX3_puts 38 = .ok (.ifCond .ne 10, 3) := dk_154 0 10 (dk_at dksX3_puts_1 14 rfl rfl)
theorem dX3_puts_41 : decode cX3_puts 41 = .ok (.aload_n 0, 1) := dk_42 (dk_at dksX3_puts_1 17 rfl rfl)
theorem dX3_puts_42 : decode cX3_puts 42 = .ok (.getfield 13, 3) := dk_180 0 13 (dk_at dksX3_puts_1 18 rfl rfl)
theorem dX3_puts_45 : decode cX3_puts 45 = .ok (.iconst 1, 1) := dk_4 (dk_at dksX3_puts_1 21 rfl rfl)
theorem dX3_puts_46 : decode cX3_puts 46 = .ok (.isub, 1) := dk_100 (dk_at dksX3_puts_1 22 rfl rfl)
theorem dX3_puts_47 : decode cX3_puts 47 = .ok (.ireturn, 1) := dk_172 (dk_at dksX3_puts_1 23 rfl rfl)
theorem dX3_puts_48 : decode cX3_puts 48 = .ok (.aload_n 0, 1) := dk_42 (dk_at dksX3_puts_2 0 rfl rfl)
theorem dX3_puts_49 : decode cX3_puts 49 = .ok (.iload_n 3, 1) := dk_29 (dk_at dksX3_puts_2 1 rfl rfl)
theorem dX3_puts_50 : decode cX3_puts 50 = .ok (.invokevirtual 135, 3) := dk_182 0 135 (dk_at dksX3_puts_2 2 rfl rfl)
theorem dX3_puts_53 : decode cX3_puts 53 = .ok (.ifCond .eq 52, 3) := dk_153 0 52 (dk_at dksX3_puts_2 5 rfl rfl)
theorem dX3_puts_56 : decode cX3_puts 56 = .ok (.aload_n 0, 1) := dk_42 (dk_at dksX3_puts_2 8 rfl rfl)
theorem dX3_puts_57 : decode cX3_puts 57 = .ok (.iload_n 3, 1) := dk_29 (dk_at dksX3_puts_2 9 rfl rfl)
theorem dX3_puts_58 : decode cX3_puts 58 = .ok (.invokevirtual 132, 3) := dk_182 0 132 (dk_at dksX3_puts_2 10 rfl rfl)
theorem dX3_puts_61 : decode cX3_puts 61 = .ok (.ifCond .ne 44, 3) := dk_154 0 44 (dk_at dksX3_puts_2 13 rfl rfl)
theorem dX3_puts_64 : decode cX3_puts 64 = .ok (.aload_n 0, 1) := dk_42 (dk_at dksX3_puts_2 16 rfl rfl)
theorem dX3_puts_65 : decode cX3_puts 65 = .ok (.iload_n 3, 1) := dk_29 (dk_at dksX3_puts_2 17 rfl rfl)
theorem dX3_puts_66 : decode cX3_puts 66 = .ok (.iconst 2, 1) := dk_5 (dk_at dksX3_puts_2 18 rfl rfl)
theorem dX3_puts_67 : decode cX3_puts 67 = .ok (.isub, 1) := dk_100 (dk_at dksX3_puts_2 19 rfl rfl)
theorem dX3_puts_68 : decode cX3_puts 68 = .ok (.invokevirtual 132, 3) := dk_182 0 132 (dk_at dksX3_puts_2 20 rfl rfl)
theorem dX3_puts_71 : decode cX3_puts 71 = .ok (.ifCond .eq 27, 3) := dk_153 0 27 (dk_at dksX3_puts_3 0 rfl rfl)
theorem dX3_puts_74 : decode cX3_puts 74 = .ok (.aload_n 0, 1) := dk_42 (dk_at dksX3_puts_3 3 rfl rfl)
theorem dX3_puts_75 : decode cX3_puts 75 = .ok (.iload_n 3, 1) := dk_29 (dk_at dksX3_puts_3 4 rfl rfl)
theorem dX3_puts_76 : decode cX3_puts 76 = .ok (.iconst 2, 1) := dk_5 (dk_at dksX3_puts_3 5 rfl rfl)
theorem dX3_puts_77 : decode cX3_puts 77 = .ok (.isub, 1) := dk_100 (dk_at dksX3_puts_3 6 rfl rfl)
theorem dX3_puts_78 : decode cX3_puts 78 = .ok (.invokevirtual 129, 3) := dk_182 0 129 (dk_at dksX3_puts_3 7 rfl rfl)
theorem dX3_puts_81 : decode cX3_puts 81 = .ok (.aload_n 0, 1) := dk_42 (dk_at dksX3_puts_3 10 rfl rfl)
theorem dX3_puts_82 : decode cX3_puts 82 = .ok (.iload_n 3, 1) := dk_29 (dk_at dksX3_puts_3 11 rfl rfl)
theorem dX3_puts_83 : decode cX3_puts 83 = .ok (.invokevirtual 129, 3) := dk_182 0 129 (dk_at dksX3_puts_3 12 rfl rfl)
theorem dX3_puts_86 : decode cX3_puts 86 = .ok (.if_icmp .ne 12, 3) := dk_160 0 12 (dk_at dksX3_puts_3 15 rfl rfl)
theorem dX3_puts_89 : decode cX3_puts 89 = .ok (.aload_n 0, 1) := dk_42 (dk_at dksX3_puts_3 18 rfl rfl)
theorem dX3_puts_90 : decode cX3_puts 90 = .ok (.getfield 13, 3) := dk_180 0 13 (dk_at dksX3_puts_3 19 rfl rfl)
theorem dX3_puts_93 : decode cX3_puts 93 = .ok (.iconst 2, 1) := dk_5 (dk_at dksX3_puts_3 22 rfl rfl)
theorem dX3_puts_94 : decode cX3_puts 94 = .ok (.isub, 1) := dk_100 (dk_at dksX3_puts_3 23 rfl rfl)
theorem dX3_puts_95 : decode cX3_puts 95 = .ok (.goto 9, 3) := dk_167 0 9 (dk_at dksX3_puts_4 0 rfl rfl)
theorem dX3_puts_98 : decode cX3_puts 98 = .ok (.aload_n 0, 1) := dk_42 (dk_at dksX3_puts_4 3 rfl rfl)
theorem dX3_puts_99 : decode cX3_puts 99 = .ok (.getfield 13, 3) := dk_180 0 13 (dk_at dksX3_puts_4 4 rfl rfl)
theorem dX3_puts_102 : decode cX3_puts 102 = .ok (.iconst 1, 1) := dk_4 (dk_at dksX3_puts_4 7 rfl rfl)
theorem dX3_puts_103 : decode cX3_puts 103 = .ok (.isub, 1) := dk_100 (dk_at dksX3_puts_4 8 rfl rfl)
theorem dX3_puts_104 : decode cX3_puts 104 = .ok (.ireturn, 1) := dk_172 (dk_at dksX3_puts_4 9 rfl rfl)
theorem dX3_puts_105 : decode cX3_puts 105 = .ok (.aload_n 0, 1) := dk_42 (dk_at dksX3_puts_4 10 rfl rfl)
theorem dX3_puts_106 : decode cX3_puts 106 = .ok (.getfield 13, 3) := dk_180 0 13 (dk_at dksX3_puts_4 11 rfl rfl)
theorem dX3_puts_109 : decode cX3_puts 109 = .ok (.ireturn, 1) := dk_172 (dk_at dksX3_puts_4 14 rfl rfl)
abbrev cX3_isFirstLine : ByteArray := prog_7_method_32_code
def yX3_isFirstLine : MethodName := ⟨RX3, "isFirstLine", "(I)Z"⟩
def dkwX3_isFirstLine_0 : List UInt8 := [27, 42, 42, 27, 182, 0, 129, 182, 0, 126, 160, 0, 7, 4, 167, 0, 4, 3, 172]
abbrev dktX3_isFirstLine_0 : List UInt8 := dkwX3_isFirstLine_0 ++ []
theorem dksX3_isFirstLine_0 : cX3_isFirstLine.data.toList.drop 0 = dktX3_isFirstLine_0 := by decide +kernel
theorem dX3_isFirstLine_0 : decode cX3_isFirstLine 0 = .ok (.iload_n 1, 1) := dk_27 (dk_at dksX3_isFirstLine_0 0 rfl rfl)
theorem dX3_isFirstLine_1 : decode cX3_isFirstLine 1 = .ok (.aload_n 0, 1) := dk_42 (dk_at dksX3_isFirstLine_0 1 rfl rfl)
theorem dX3_isFirstLine_2 : decode cX3_isFirstLine 2 = .ok (.aload_n 0, 1) := dk_42 (dk_at dksX3_isFirstLine_0 2 rfl rfl)
theorem dX3_isFirstLine_3 : decode cX3_isFirstLine 3 = .ok (.iload_n 1, 1) := dk_27 (dk_at dksX3_isFirstLine_0 3 rfl rfl)
theorem dX3_isFirstLine_4 : decode cX3_isFirstLine 4 = .ok (.invokevirtual 129, 3) := dk_182 0 129 (dk_at dksX3_isFirstLine_0 4 rfl rfl)
theorem dX3_isFirstLine_7 : decode cX3_isFirstLine 7 = .ok (.invokevirtual 126, 3) := dk_182 0 126 (dk_at dksX3_isFirstLine_0 7 rfl rfl)
theorem dX3_isFirstLine_10 : decode cX3_isFirstLine 10 = .ok (.if_icmp .ne 7, 3) := dk_160 0 7 (dk_at dksX3_isFirstLine_0 10 rfl rfl)
theorem dX3_isFirstLine_13 : decode cX3_isFirstLine 13 = .ok (.iconst 1, 1) := dk_4 (dk_at dksX3_isFirstLine_0 13 rfl rfl)
theorem dX3_isFirstLine_14 : decode cX3_isFirstLine 14 = .ok (.goto 4, 3) := dk_167 0 4 (dk_at dksX3_isFirstLine_0 14 rfl rfl)
theorem dX3_isFirstLine_17 : decode cX3_isFirstLine 17 = .ok (.iconst 0, 1) := dk_3 (dk_at dksX3_isFirstLine_0 17 rfl rfl)
theorem dX3_isFirstLine_18 : decode cX3_isFirstLine 18 = .ok (.ireturn, 1) := dk_172 (dk_at dksX3_isFirstLine_0 18 rfl rfl)
abbrev cX3_paragraphOf : ByteArray := prog_7_method_31_code
def yX3_paragraphOf : MethodName := ⟨RX3, "paragraphOf", "(I)I"⟩
def dkwX3_paragraphOf_2 : List UInt8 := [132, 3, 255, 167, 255, 217, 28, 172]
abbrev dktX3_paragraphOf_2 : List UInt8 := dkwX3_paragraphOf_2 ++ []
def dkwX3_paragraphOf_1 : List UInt8 := [161, 0, 20, 27, 21, 4, 42, 180, 0, 51, 29, 46, 96, 162, 0, 7, 29, 167, 0, 4, 28, 61]
abbrev dktX3_paragraphOf_1 : List UInt8 := dkwX3_paragraphOf_1 ++ dktX3_paragraphOf_2
def dkwX3_paragraphOf_0 : List UInt8 := [2, 61, 42, 180, 0, 66, 4, 100, 62, 29, 155, 0, 41, 42, 29, 182, 0, 126, 54, 4, 27, 21, 4]
abbrev dktX3_paragraphOf_0 : List UInt8 := dkwX3_paragraphOf_0 ++ dktX3_paragraphOf_1
theorem dksX3_paragraphOf_0 : cX3_paragraphOf.data.toList.drop 0 = dktX3_paragraphOf_0 := by decide +kernel
theorem dksX3_paragraphOf_1 : cX3_paragraphOf.data.toList.drop 23 = dktX3_paragraphOf_1 := dk_seg dksX3_paragraphOf_0 23 rfl rfl
theorem dksX3_paragraphOf_2 : cX3_paragraphOf.data.toList.drop 45 = dktX3_paragraphOf_2 := dk_seg dksX3_paragraphOf_1 22 rfl rfl
theorem dX3_paragraphOf_0 : decode cX3_paragraphOf 0 = .ok (.iconst (-1), 1) := dk_2 (dk_at dksX3_paragraphOf_0 0 rfl rfl)
theorem dX3_paragraphOf_1 : decode cX3_paragraphOf 1 = .ok (.istore_n 2, 1) := dk_61 (dk_at dksX3_paragraphOf_0 1 rfl rfl)
theorem dX3_paragraphOf_2 : decode cX3_paragraphOf 2 = .ok (.aload_n 0, 1) := dk_42 (dk_at dksX3_paragraphOf_0 2 rfl rfl)
theorem dX3_paragraphOf_3 : decode cX3_paragraphOf 3 = .ok (.getfield 66, 3) := dk_180 0 66 (dk_at dksX3_paragraphOf_0 3 rfl rfl)
theorem dX3_paragraphOf_6 : decode cX3_paragraphOf 6 = .ok (.iconst 1, 1) := dk_4 (dk_at dksX3_paragraphOf_0 6 rfl rfl)
theorem dX3_paragraphOf_7 : decode cX3_paragraphOf 7 = .ok (.isub, 1) := dk_100 (dk_at dksX3_paragraphOf_0 7 rfl rfl)
theorem dX3_paragraphOf_8 : decode cX3_paragraphOf 8 = .ok (.istore_n 3, 1) := dk_62 (dk_at dksX3_paragraphOf_0 8 rfl rfl)
theorem dX3_paragraphOf_9 : decode cX3_paragraphOf 9 = .ok (.iload_n 3, 1) := dk_29 (dk_at dksX3_paragraphOf_0 9 rfl rfl)
theorem dX3_paragraphOf_10 : decode cX3_paragraphOf 10 = .ok (.ifCond .lt 41, 3) := dk_155 0 41 (dk_at dksX3_paragraphOf_0 10 rfl rfl)
theorem dX3_paragraphOf_13 : decode cX3_paragraphOf 13 = .ok (.aload_n 0, 1) := dk_42 (dk_at dksX3_paragraphOf_0 13 rfl rfl)
theorem dX3_paragraphOf_14 : decode cX3_paragraphOf 14 = .ok (.iload_n 3, 1) := dk_29 (dk_at dksX3_paragraphOf_0 14 rfl rfl)
theorem dX3_paragraphOf_15 : decode cX3_paragraphOf 15 = .ok (.invokevirtual 126, 3) := dk_182 0 126 (dk_at dksX3_paragraphOf_0 15 rfl rfl)
theorem dX3_paragraphOf_18 : decode cX3_paragraphOf 18 = .ok (.istore 4, 2) := dk_54 4 (dk_at dksX3_paragraphOf_0 18 rfl rfl)
theorem dX3_paragraphOf_20 : decode cX3_paragraphOf 20 = .ok (.iload_n 1, 1) := dk_27 (dk_at dksX3_paragraphOf_0 20 rfl rfl)
theorem dX3_paragraphOf_21 : decode cX3_paragraphOf 21 = .ok (.iload 4, 2) := dk_21 4 (dk_at dksX3_paragraphOf_0 21 rfl rfl)
theorem dX3_paragraphOf_23 : decode cX3_paragraphOf 23 = .ok (.if_icmp .lt 20, 3) := dk_161 0 20 (dk_at dksX3_paragraphOf_1 0 rfl rfl)
theorem dX3_paragraphOf_26 : decode cX3_paragraphOf 26 = .ok (.iload_n 1, 1) := dk_27 (dk_at dksX3_paragraphOf_1 3 rfl rfl)
theorem dX3_paragraphOf_27 : decode cX3_paragraphOf 27 = .ok (.iload 4, 2) := dk_21 4 (dk_at dksX3_paragraphOf_1 4 rfl rfl)
theorem dX3_paragraphOf_29 : decode cX3_paragraphOf 29 = .ok (.aload_n 0, 1) := dk_42 (dk_at dksX3_paragraphOf_1 6 rfl rfl)
theorem dX3_paragraphOf_30 : decode cX3_paragraphOf 30 = .ok (.getfield 51, 3) := dk_180 0 51 (dk_at dksX3_paragraphOf_1 7 rfl rfl)
theorem dX3_paragraphOf_33 : decode cX3_paragraphOf 33 = .ok (.iload_n 3, 1) := dk_29 (dk_at dksX3_paragraphOf_1 10 rfl rfl)
theorem dX3_paragraphOf_34 : decode cX3_paragraphOf 34 = .ok (.iaload, 1) := dk_46 (dk_at dksX3_paragraphOf_1 11 rfl rfl)
theorem dX3_paragraphOf_35 : decode cX3_paragraphOf 35 = .ok (.iadd, 1) := dk_96 (dk_at dksX3_paragraphOf_1 12 rfl rfl)
theorem dX3_paragraphOf_36 : decode cX3_paragraphOf 36 = .ok (.if_icmp .ge 7, 3) := dk_162 0 7 (dk_at dksX3_paragraphOf_1 13 rfl rfl)
theorem dX3_paragraphOf_39 : decode cX3_paragraphOf 39 = .ok (.iload_n 3, 1) := dk_29 (dk_at dksX3_paragraphOf_1 16 rfl rfl)
theorem dX3_paragraphOf_40 : decode cX3_paragraphOf 40 = .ok (.goto 4, 3) := dk_167 0 4 (dk_at dksX3_paragraphOf_1 17 rfl rfl)
theorem dX3_paragraphOf_43 : decode cX3_paragraphOf 43 = .ok (.iload_n 2, 1) := dk_28 (dk_at dksX3_paragraphOf_1 20 rfl rfl)
theorem dX3_paragraphOf_44 : decode cX3_paragraphOf 44 = .ok (.istore_n 2, 1) := dk_61 (dk_at dksX3_paragraphOf_1 21 rfl rfl)
theorem dX3_paragraphOf_45 : decode cX3_paragraphOf 45 = .ok (.iinc 3 (-1), 3) := dk_132 3 255 (dk_at dksX3_paragraphOf_2 0 rfl rfl)
theorem dX3_paragraphOf_48 : decode cX3_paragraphOf 48 = .ok (.goto (-39), 3) := dk_167 255 217 (dk_at dksX3_paragraphOf_2 3 rfl rfl)
theorem dX3_paragraphOf_51 : decode cX3_paragraphOf 51 = .ok (.iload_n 2, 1) := dk_28 (dk_at dksX3_paragraphOf_2 6 rfl rfl)
theorem dX3_paragraphOf_52 : decode cX3_paragraphOf 52 = .ok (.ireturn, 1) := dk_172 (dk_at dksX3_paragraphOf_2 7 rfl rfl)
abbrev cX3_isLastLine : ByteArray := prog_7_method_33_code
def yX3_isLastLine : MethodName := ⟨RX3, "isLastLine", "(I)Z"⟩
def dkwX3_isLastLine_0 : List UInt8 := [27, 4, 96, 42, 42, 27, 182, 0, 129, 4, 96, 182, 0, 126, 160, 0, 7, 4, 167, 0, 4, 3, 172]
abbrev dktX3_isLastLine_0 : List UInt8 := dkwX3_isLastLine_0 ++ []
theorem dksX3_isLastLine_0 : cX3_isLastLine.data.toList.drop 0 = dktX3_isLastLine_0 := by decide +kernel
theorem dX3_isLastLine_0 : decode cX3_isLastLine 0 = .ok (.iload_n 1, 1) := dk_27 (dk_at dksX3_isLastLine_0 0 rfl rfl)
theorem dX3_isLastLine_1 : decode cX3_isLastLine 1 = .ok (.iconst 1, 1) := dk_4 (dk_at dksX3_isLastLine_0 1 rfl rfl)
theorem dX3_isLastLine_2 : decode cX3_isLastLine 2 = .ok (.iadd, 1) := dk_96 (dk_at dksX3_isLastLine_0 2 rfl rfl)
theorem dX3_isLastLine_3 : decode cX3_isLastLine 3 = .ok (.aload_n 0, 1) := dk_42 (dk_at dksX3_isLastLine_0 3 rfl rfl)
theorem dX3_isLastLine_4 : decode cX3_isLastLine 4 = .ok (.aload_n 0, 1) := dk_42 (dk_at dksX3_isLastLine_0 4 rfl rfl)
theorem dX3_isLastLine_5 : decode cX3_isLastLine 5 = .ok (.iload_n 1, 1) := dk_27 (dk_at dksX3_isLastLine_0 5 rfl rfl)
theorem dX3_isLastLine_6 : decode cX3_isLastLine 6 = .ok (.invokevirtual 129, 3) := dk_182 0 129 (dk_at dksX3_isLastLine_0 6 rfl rfl)
theorem dX3_isLastLine_9 : decode cX3_isLastLine 9 = .ok (.iconst 1, 1) := dk_4 (dk_at dksX3_isLastLine_0 9 rfl rfl)
theorem dX3_isLastLine_10 : decode cX3_isLastLine 10 = .ok (.iadd, 1) := dk_96 (dk_at dksX3_isLastLine_0 10 rfl rfl)
theorem dX3_isLastLine_11 : decode cX3_isLastLine 11 = .ok (.invokevirtual 126, 3) := dk_182 0 126 (dk_at dksX3_isLastLine_0 11 rfl rfl)
theorem dX3_isLastLine_14 : decode cX3_isLastLine 14 = .ok (.if_icmp .ne 7, 3) := dk_160 0 7 (dk_at dksX3_isLastLine_0 14 rfl rfl)
theorem dX3_isLastLine_17 : decode cX3_isLastLine 17 = .ok (.iconst 1, 1) := dk_4 (dk_at dksX3_isLastLine_0 17 rfl rfl)
theorem dX3_isLastLine_18 : decode cX3_isLastLine 18 = .ok (.goto 4, 3) := dk_167 0 4 (dk_at dksX3_isLastLine_0 18 rfl rfl)
theorem dX3_isLastLine_21 : decode cX3_isLastLine 21 = .ok (.iconst 0, 1) := dk_3 (dk_at dksX3_isLastLine_0 21 rfl rfl)
theorem dX3_isLastLine_22 : decode cX3_isLastLine 22 = .ok (.ireturn, 1) := dk_172 (dk_at dksX3_isLastLine_0 22 rfl rfl)
abbrev cX3_linesOn : ByteArray := prog_7_method_36_code
def yX3_linesOn : MethodName := ⟨RX3, "linesOn", "(I)I"⟩
def dkwX3_linesOn_3 : List UInt8 := [167, 255, 223, 3, 172]
abbrev dktX3_linesOn_3 : List UInt8 := dkwX3_linesOn_3 ++ []
def dkwX3_linesOn_2 : List UInt8 := [182, 0, 141, 54, 5, 29, 27, 160, 0, 6, 21, 5, 172, 21, 4, 21, 5, 96, 54, 4, 132, 3, 1]
abbrev dktX3_linesOn_2 : List UInt8 := dkwX3_linesOn_2 ++ dktX3_linesOn_3
def dkwX3_linesOn_1 : List UInt8 := [180, 0, 66, 182, 0, 126, 61, 3, 62, 3, 54, 4, 21, 4, 28, 162, 0, 33, 42, 21, 4, 28]
abbrev dktX3_linesOn_1 : List UInt8 := dkwX3_linesOn_1 ++ dktX3_linesOn_2
def dkwX3_linesOn_0 : List UInt8 := [42, 27, 155, 0, 7, 3, 167, 0, 4, 4, 182, 0, 76, 154, 0, 5, 3, 172, 42, 182, 0, 138, 42, 42]
abbrev dktX3_linesOn_0 : List UInt8 := dkwX3_linesOn_0 ++ dktX3_linesOn_1
theorem dksX3_linesOn_0 : cX3_linesOn.data.toList.drop 0 = dktX3_linesOn_0 := by decide +kernel
theorem dksX3_linesOn_1 : cX3_linesOn.data.toList.drop 24 = dktX3_linesOn_1 := dk_seg dksX3_linesOn_0 24 rfl rfl
theorem dksX3_linesOn_2 : cX3_linesOn.data.toList.drop 46 = dktX3_linesOn_2 := dk_seg dksX3_linesOn_1 22 rfl rfl
theorem dksX3_linesOn_3 : cX3_linesOn.data.toList.drop 69 = dktX3_linesOn_3 := dk_seg dksX3_linesOn_2 23 rfl rfl
theorem dX3_linesOn_0 : decode cX3_linesOn 0 = .ok (.aload_n 0, 1) := dk_42 (dk_at dksX3_linesOn_0 0 rfl rfl)
theorem dX3_linesOn_1 : decode cX3_linesOn 1 = .ok (.iload_n 1, 1) := dk_27 (dk_at dksX3_linesOn_0 1 rfl rfl)
theorem dX3_linesOn_2 : decode cX3_linesOn 2 = .ok (.ifCond .lt 7, 3) := dk_155 0 7 (dk_at dksX3_linesOn_0 2 rfl rfl)
theorem dX3_linesOn_5 : decode cX3_linesOn 5 = .ok (.iconst 0, 1) := dk_3 (dk_at dksX3_linesOn_0 5 rfl rfl)
theorem dX3_linesOn_6 : decode cX3_linesOn 6 = .ok (.goto 4, 3) := dk_167 0 4 (dk_at dksX3_linesOn_0 6 rfl rfl)
theorem dX3_linesOn_9 : decode cX3_linesOn 9 = .ok (.iconst 1, 1) := dk_4 (dk_at dksX3_linesOn_0 9 rfl rfl)
theorem dX3_linesOn_10 : decode cX3_linesOn 10 = .ok (.invokevirtual 76, 3) := dk_182 0 76 (dk_at dksX3_linesOn_0 10 rfl rfl)
theorem dX3_linesOn_13 : decode cX3_linesOn 13 = .ok (.ifCond .ne 5, 3) := dk_154 0 5 (dk_at dksX3_linesOn_0 13 rfl rfl)
theorem dX3_linesOn_16 : decode cX3_linesOn 16 = .ok (.iconst 0, 1) := dk_3 (dk_at dksX3_linesOn_0 16 rfl rfl)
theorem dX3_linesOn_17 : decode cX3_linesOn 17 = .ok (.ireturn, 1) := dk_172 (dk_at dksX3_linesOn_0 17 rfl rfl)
theorem dX3_linesOn_18 : decode cX3_linesOn 18 = .ok (.aload_n 0, 1) := dk_42 (dk_at dksX3_linesOn_0 18 rfl rfl)
theorem dX3_linesOn_19 : decode cX3_linesOn 19 = .ok (.invokevirtual 138, 3) := dk_182 0 138 (dk_at dksX3_linesOn_0 19 rfl rfl)
theorem dX3_linesOn_22 : decode cX3_linesOn 22 = .ok (.aload_n 0, 1) := dk_42 (dk_at dksX3_linesOn_0 22 rfl rfl)
theorem dX3_linesOn_23 : decode cX3_linesOn 23 = .ok (.aload_n 0, 1) := dk_42 (dk_at dksX3_linesOn_0 23 rfl rfl)
theorem dX3_linesOn_24 : decode cX3_linesOn 24 = .ok (.getfield 66, 3) := dk_180 0 66 (dk_at dksX3_linesOn_1 0 rfl rfl)
theorem dX3_linesOn_27 : decode cX3_linesOn 27 = .ok (.invokevirtual 126, 3) := dk_182 0 126 (dk_at dksX3_linesOn_1 3 rfl rfl)
theorem dX3_linesOn_30 : decode cX3_linesOn 30 = .ok (.istore_n 2, 1) := dk_61 (dk_at dksX3_linesOn_1 6 rfl rfl)
theorem dX3_linesOn_31 : decode cX3_linesOn 31 = .ok (.iconst 0, 1) := dk_3 (dk_at dksX3_linesOn_1 7 rfl rfl)
theorem dX3_linesOn_32 : decode cX3_linesOn 32 = .ok (.istore_n 3, 1) := dk_62 (dk_at dksX3_linesOn_1 8 rfl rfl)
theorem dX3_linesOn_33 : decode cX3_linesOn 33 = .ok (.iconst 0, 1) := dk_3 (dk_at dksX3_linesOn_1 9 rfl rfl)
theorem dX3_linesOn_34 : decode cX3_linesOn 34 = .ok (.istore 4, 2) := dk_54 4 (dk_at dksX3_linesOn_1 10 rfl rfl)
theorem dX3_linesOn_36 : decode cX3_linesOn 36 = .ok (.iload 4, 2) := dk_21 4 (dk_at dksX3_linesOn_1 12 rfl rfl)
theorem dX3_linesOn_38 : decode cX3_linesOn 38 = .ok (.iload_n 2, 1) := dk_28 (dk_at dksX3_linesOn_1 14 rfl rfl)
theorem dX3_linesOn_39 : decode cX3_linesOn 39 = .ok (.if_icmp .ge 33, 3) := dk_162 0 33 (dk_at dksX3_linesOn_1 15 rfl rfl)
theorem dX3_linesOn_42 : decode cX3_linesOn 42 = .ok (.aload_n 0, 1) := dk_42 (dk_at dksX3_linesOn_1 18 rfl rfl)
theorem dX3_linesOn_43 : decode cX3_linesOn 43 = .ok (.iload 4, 2) := dk_21 4 (dk_at dksX3_linesOn_1 19 rfl rfl)
theorem dX3_linesOn_45 : decode cX3_linesOn 45 = .ok (.iload_n 2, 1) := dk_28 (dk_at dksX3_linesOn_1 21 rfl rfl)
theorem dX3_linesOn_46 : decode cX3_linesOn 46 = .ok (.invokevirtual 141, 3) := dk_182 0 141 (dk_at dksX3_linesOn_2 0 rfl rfl)
theorem dX3_linesOn_49 : decode cX3_linesOn 49 = .ok (.istore 5, 2) := dk_54 5 (dk_at dksX3_linesOn_2 3 rfl rfl)
theorem dX3_linesOn_51 : decode cX3_linesOn 51 = .ok (.iload_n 3, 1) := dk_29 (dk_at dksX3_linesOn_2 5 rfl rfl)
theorem dX3_linesOn_52 : decode cX3_linesOn 52 = .ok (.iload_n 1, 1) := dk_27 (dk_at dksX3_linesOn_2 6 rfl rfl)
theorem dX3_linesOn_53 : decode cX3_linesOn 53 = .ok (.if_icmp .ne 6, 3) := dk_160 0 6 (dk_at dksX3_linesOn_2 7 rfl rfl)
theorem dX3_linesOn_56 : decode cX3_linesOn 56 = .ok (.iload 5, 2) := dk_21 5 (dk_at dksX3_linesOn_2 10 rfl rfl)
theorem dX3_linesOn_58 : decode cX3_linesOn 58 = .ok (.ireturn, 1) := dk_172 (dk_at dksX3_linesOn_2 12 rfl rfl)
theorem dX3_linesOn_59 : decode cX3_linesOn 59 = .ok (.iload 4, 2) := dk_21 4 (dk_at dksX3_linesOn_2 13 rfl rfl)
theorem dX3_linesOn_61 : decode cX3_linesOn 61 = .ok (.iload 5, 2) := dk_21 5 (dk_at dksX3_linesOn_2 15 rfl rfl)
theorem dX3_linesOn_63 : decode cX3_linesOn 63 = .ok (.iadd, 1) := dk_96 (dk_at dksX3_linesOn_2 17 rfl rfl)
theorem dX3_linesOn_64 : decode cX3_linesOn 64 = .ok (.istore 4, 2) := dk_54 4 (dk_at dksX3_linesOn_2 18 rfl rfl)
theorem dX3_linesOn_66 : decode cX3_linesOn 66 = .ok (.iinc 3 1, 3) := dk_132 3 1 (dk_at dksX3_linesOn_2 20 rfl rfl)
theorem dX3_linesOn_69 : decode cX3_linesOn 69 = .ok (.goto (-33), 3) := dk_167 255 223 (dk_at dksX3_linesOn_3 0 rfl rfl)
theorem dX3_linesOn_72 : decode cX3_linesOn 72 = .ok (.iconst 0, 1) := dk_3 (dk_at dksX3_linesOn_3 3 rfl rfl)
theorem dX3_linesOn_73 : decode cX3_linesOn 73 = .ok (.ireturn, 1) := dk_172 (dk_at dksX3_linesOn_3 4 rfl rfl)
abbrev cX3_where : ByteArray := prog_7_method_38_code
def yX3_where : MethodName := ⟨RX3, "where", "(I)I"⟩
def dkwX3_where_1 : List UInt8 := [182, 0, 144, 167, 0, 4, 3, 172]
abbrev dktX3_where_1 : List UInt8 := dkwX3_where_1 ++ []
def dkwX3_where_0 : List UInt8 := [42, 42, 27, 182, 0, 83, 153, 0, 7, 3, 167, 0, 4, 4, 182, 0, 76, 153, 0, 11, 42, 27]
abbrev dktX3_where_0 : List UInt8 := dkwX3_where_0 ++ dktX3_where_1
theorem dksX3_where_0 : cX3_where.data.toList.drop 0 = dktX3_where_0 := by decide +kernel
theorem dksX3_where_1 : cX3_where.data.toList.drop 22 = dktX3_where_1 := dk_seg dksX3_where_0 22 rfl rfl
theorem dX3_where_0 : decode cX3_where 0 = .ok (.aload_n 0, 1) := dk_42 (dk_at dksX3_where_0 0 rfl rfl)
theorem dX3_where_1 : decode cX3_where 1 = .ok (.aload_n 0, 1) := dk_42 (dk_at dksX3_where_0 1 rfl rfl)
theorem dX3_where_2 : decode cX3_where 2 = .ok (.iload_n 1, 1) := dk_27 (dk_at dksX3_where_0 2 rfl rfl)
theorem dX3_where_3 : decode cX3_where 3 = .ok (.invokevirtual 83, 3) := dk_182 0 83 (dk_at dksX3_where_0 3 rfl rfl)
theorem dX3_where_6 : decode cX3_where 6 = .ok (.ifCond .eq 7, 3) := dk_153 0 7 (dk_at dksX3_where_0 6 rfl rfl)
theorem dX3_where_9 : decode cX3_where 9 = .ok (.iconst 0, 1) := dk_3 (dk_at dksX3_where_0 9 rfl rfl)
theorem dX3_where_10 : decode cX3_where 10 = .ok (.goto 4, 3) := dk_167 0 4 (dk_at dksX3_where_0 10 rfl rfl)
theorem dX3_where_13 : decode cX3_where 13 = .ok (.iconst 1, 1) := dk_4 (dk_at dksX3_where_0 13 rfl rfl)
theorem dX3_where_14 : decode cX3_where 14 = .ok (.invokevirtual 76, 3) := dk_182 0 76 (dk_at dksX3_where_0 14 rfl rfl)
theorem dX3_where_17 : decode cX3_where 17 = .ok (.ifCond .eq 11, 3) := dk_153 0 11 (dk_at dksX3_where_0 17 rfl rfl)
theorem dX3_where_20 : decode cX3_where 20 = .ok (.aload_n 0, 1) := dk_42 (dk_at dksX3_where_0 20 rfl rfl)
theorem dX3_where_21 : decode cX3_where 21 = .ok (.iload_n 1, 1) := dk_27 (dk_at dksX3_where_0 21 rfl rfl)
theorem dX3_where_22 : decode cX3_where 22 = .ok (.invokevirtual 144, 3) := dk_182 0 144 (dk_at dksX3_where_1 0 rfl rfl)
theorem dX3_where_25 : decode cX3_where 25 = .ok (.goto 4, 3) := dk_167 0 4 (dk_at dksX3_where_1 3 rfl rfl)
theorem dX3_where_28 : decode cX3_where 28 = .ok (.iconst 0, 1) := dk_3 (dk_at dksX3_where_1 6 rfl rfl)
theorem dX3_where_29 : decode cX3_where 29 = .ok (.ireturn, 1) := dk_172 (dk_at dksX3_where_1 7 rfl rfl)
abbrev cX3_whereOf : ByteArray := prog_7_method_37_code
def yX3_whereOf : MethodName := ⟨RX3, "whereOf", "(I)I"⟩
def dkwX3_whereOf_3 : List UInt8 := [54, 5, 132, 4, 1, 167, 255, 227, 16, 100, 21, 4, 104, 29, 96, 21, 5, 100, 172]
abbrev dktX3_whereOf_3 : List UInt8 := dkwX3_whereOf_3 ++ []
def dkwX3_whereOf_2 : List UInt8 := [21, 5, 42, 21, 5, 28, 182, 0, 141, 96, 29, 163, 0, 21, 21, 5, 42, 21, 5, 28, 182, 0, 141, 96]
abbrev dktX3_whereOf_2 : List UInt8 := dkwX3_whereOf_2 ++ dktX3_whereOf_3
def dkwX3_whereOf_1 : List UInt8 := [42, 180, 0, 30, 27, 46, 42, 180, 0, 33, 27, 46, 182, 0, 107, 96, 62, 3, 54, 4, 3, 54, 5]
abbrev dktX3_whereOf_1 : List UInt8 := dkwX3_whereOf_1 ++ dktX3_whereOf_2
def dkwX3_whereOf_0 : List UInt8 := [42, 182, 0, 138, 42, 42, 180, 0, 66, 182, 0, 126, 61, 42, 42, 180, 0, 30, 27, 46, 182, 0, 126, 42]
abbrev dktX3_whereOf_0 : List UInt8 := dkwX3_whereOf_0 ++ dktX3_whereOf_1
theorem dksX3_whereOf_0 : cX3_whereOf.data.toList.drop 0 = dktX3_whereOf_0 := by decide +kernel
theorem dksX3_whereOf_1 : cX3_whereOf.data.toList.drop 24 = dktX3_whereOf_1 := dk_seg dksX3_whereOf_0 24 rfl rfl
theorem dksX3_whereOf_2 : cX3_whereOf.data.toList.drop 47 = dktX3_whereOf_2 := dk_seg dksX3_whereOf_1 23 rfl rfl
theorem dksX3_whereOf_3 : cX3_whereOf.data.toList.drop 71 = dktX3_whereOf_3 := dk_seg dksX3_whereOf_2 24 rfl rfl
theorem dX3_whereOf_0 : decode cX3_whereOf 0 = .ok (.aload_n 0, 1) := dk_42 (dk_at dksX3_whereOf_0 0 rfl rfl)
theorem dX3_whereOf_1 : decode cX3_whereOf 1 = .ok (.invokevirtual 138, 3) := dk_182 0 138 (dk_at dksX3_whereOf_0 1 rfl rfl)
theorem dX3_whereOf_4 : decode cX3_whereOf 4 = .ok (.aload_n 0, 1) := dk_42 (dk_at dksX3_whereOf_0 4 rfl rfl)
theorem dX3_whereOf_5 : decode cX3_whereOf 5 = .ok (.aload_n 0, 1) := dk_42 (dk_at dksX3_whereOf_0 5 rfl rfl)
theorem dX3_whereOf_6 : decode cX3_whereOf 6 = .ok (.getfield 66, 3) := dk_180 0 66 (dk_at dksX3_whereOf_0 6 rfl rfl)
theorem dX3_whereOf_9 : decode cX3_whereOf 9 = .ok (.invokevirtual 126, 3) := dk_182 0 126 (dk_at dksX3_whereOf_0 9 rfl rfl)
theorem dX3_whereOf_12 : decode cX3_whereOf 12 = .ok (.istore_n 2, 1) := dk_61 (dk_at dksX3_whereOf_0 12 rfl rfl)
theorem dX3_whereOf_13 : decode cX3_whereOf 13 = .ok (.aload_n 0, 1) := dk_42 (dk_at dksX3_whereOf_0 13 rfl rfl)
theorem dX3_whereOf_14 : decode cX3_whereOf 14 = .ok (.aload_n 0, 1) := dk_42 (dk_at dksX3_whereOf_0 14 rfl rfl)
theorem dX3_whereOf_15 : decode cX3_whereOf 15 = .ok (.getfield 30, 3) := dk_180 0 30 (dk_at dksX3_whereOf_0 15 rfl rfl)
theorem dX3_whereOf_18 : decode cX3_whereOf 18 = .ok (.iload_n 1, 1) := dk_27 (dk_at dksX3_whereOf_0 18 rfl rfl)
theorem dX3_whereOf_19 : decode cX3_whereOf 19 = .ok (.iaload, 1) := dk_46 (dk_at dksX3_whereOf_0 19 rfl rfl)
theorem dX3_whereOf_20 : decode cX3_whereOf 20 = .ok (.invokevirtual 126, 3) := dk_182 0 126 (dk_at dksX3_whereOf_0 20 rfl rfl)
theorem dX3_whereOf_23 : decode cX3_whereOf 23 = .ok (.aload_n 0, 1) := dk_42 (dk_at dksX3_whereOf_0 23 rfl rfl)
theorem dX3_whereOf_24 : decode cX3_whereOf 24 = .ok (.aload_n 0, 1) := dk_42 (dk_at dksX3_whereOf_1 0 rfl rfl)
theorem dX3_whereOf_25 : decode cX3_whereOf 25 = .ok (.getfield 30, 3) := dk_180 0 30 (dk_at dksX3_whereOf_1 1 rfl rfl)
theorem dX3_whereOf_28 : decode cX3_whereOf 28 = .ok (.iload_n 1, 1) := dk_27 (dk_at dksX3_whereOf_1 4 rfl rfl)
theorem dX3_whereOf_29 : decode cX3_whereOf 29 = .ok (.iaload, 1) := dk_46 (dk_at dksX3_whereOf_1 5 rfl rfl)
theorem dX3_whereOf_30 : decode cX3_whereOf 30 = .ok (.aload_n 0, 1) := dk_42 (dk_at dksX3_whereOf_1 6 rfl rfl)
theorem dX3_whereOf_31 : decode cX3_whereOf 31 = .ok (.getfield 33, 3) := dk_180 0 33 (dk_at dksX3_whereOf_1 7 rfl rfl)
theorem dX3_whereOf_34 : decode cX3_whereOf 34 = .ok (.iload_n 1, 1) := dk_27 (dk_at dksX3_whereOf_1 10 rfl rfl)
theorem dX3_whereOf_35 : decode cX3_whereOf 35 = .ok (.iaload, 1) := dk_46 (dk_at dksX3_whereOf_1 11 rfl rfl)
theorem dX3_whereOf_36 : decode cX3_whereOf 36 = .ok (.invokevirtual 107, 3) := dk_182 0 107 (dk_at dksX3_whereOf_1 12 rfl rfl)
theorem dX3_whereOf_39 : decode cX3_whereOf 39 = .ok (.iadd, 1) := dk_96 (dk_at dksX3_whereOf_1 15 rfl rfl)
theorem dX3_whereOf_40 : decode cX3_whereOf 40 = .ok (.istore_n 3, 1) := dk_62 (dk_at dksX3_whereOf_1 16 rfl rfl)
theorem dX3_whereOf_41 : decode cX3_whereOf 41 = .ok (.iconst 0, 1) := dk_3 (dk_at dksX3_whereOf_1 17 rfl rfl)
theorem dX3_whereOf_42 : decode cX3_whereOf 42 = .ok (.istore 4, 2) := dk_54 4 (dk_at dksX3_whereOf_1 18 rfl rfl)
theorem dX3_whereOf_44 : decode cX3_whereOf 44 = .ok (.iconst 0, 1) := dk_3 (dk_at dksX3_whereOf_1 20 rfl rfl)
theorem dX3_whereOf_45 : decode cX3_whereOf 45 = .ok (.istore 5, 2) := dk_54 5 (dk_at dksX3_whereOf_1 21 rfl rfl)
theorem dX3_whereOf_47 : decode cX3_whereOf 47 = .ok (.iload 5, 2) := dk_21 5 (dk_at dksX3_whereOf_2 0 rfl rfl)
theorem dX3_whereOf_49 : decode cX3_whereOf 49 = .ok (.aload_n 0, 1) := dk_42 (dk_at dksX3_whereOf_2 2 rfl rfl)
theorem dX3_whereOf_50 : decode cX3_whereOf 50 = .ok (.iload 5, 2) := dk_21 5 (dk_at dksX3_whereOf_2 3 rfl rfl)
theorem dX3_whereOf_52 : decode cX3_whereOf 52 = .ok (.iload_n 2, 1) := dk_28 (dk_at dksX3_whereOf_2 5 rfl rfl)
theorem dX3_whereOf_53 : decode cX3_whereOf 53 = .ok (.invokevirtual 141, 3) := dk_182 0 141 (dk_at dksX3_whereOf_2 6 rfl rfl)
theorem dX3_whereOf_56 : decode cX3_whereOf 56 = .ok (.iadd, 1) := dk_96 (dk_at dksX3_whereOf_2 9 rfl rfl)
theorem dX3_whereOf_57 : decode cX3_whereOf 57 = .ok (.iload_n 3, 1) := dk_29 (dk_at dksX3_whereOf_2 10 rfl rfl)
theorem dX3_whereOf_58 : decode cX3_whereOf 58 = .ok (.if_icmp .gt 21, 3) := dk_163 0 21 (dk_at dksX3_whereOf_2 11 rfl rfl)
theorem dX3_whereOf_61 : decode cX3_whereOf 61 = .ok (.iload 5, 2) := dk_21 5 (dk_at dksX3_whereOf_2 14 rfl rfl)
theorem dX3_whereOf_63 : decode cX3_whereOf 63 = .ok (.aload_n 0, 1) := dk_42 (dk_at dksX3_whereOf_2 16 rfl rfl)
theorem dX3_whereOf_64 : decode cX3_whereOf 64 = .ok (.iload 5, 2) := dk_21 5 (dk_at dksX3_whereOf_2 17 rfl rfl)
theorem dX3_whereOf_66 : decode cX3_whereOf 66 = .ok (.iload_n 2, 1) := dk_28 (dk_at dksX3_whereOf_2 19 rfl rfl)
theorem dX3_whereOf_67 : decode cX3_whereOf 67 = .ok (.invokevirtual 141, 3) := dk_182 0 141 (dk_at dksX3_whereOf_2 20 rfl rfl)
theorem dX3_whereOf_70 : decode cX3_whereOf 70 = .ok (.iadd, 1) := dk_96 (dk_at dksX3_whereOf_2 23 rfl rfl)
theorem dX3_whereOf_71 : decode cX3_whereOf 71 = .ok (.istore 5, 2) := dk_54 5 (dk_at dksX3_whereOf_3 0 rfl rfl)
theorem dX3_whereOf_73 : decode cX3_whereOf 73 = .ok (.iinc 4 1, 3) := dk_132 4 1 (dk_at dksX3_whereOf_3 2 rfl rfl)
theorem dX3_whereOf_76 : decode cX3_whereOf 76 = .ok (.goto (-29), 3) := dk_167 255 227 (dk_at dksX3_whereOf_3 5 rfl rfl)
theorem dX3_whereOf_79 : decode cX3_whereOf 79 = .ok (.bipush 100, 2) := dk_16 100 (dk_at dksX3_whereOf_3 8 rfl rfl)
theorem dX3_whereOf_81 : decode cX3_whereOf 81 = .ok (.iload 4, 2) := dk_21 4 (dk_at dksX3_whereOf_3 10 rfl rfl)
theorem dX3_whereOf_83 : decode cX3_whereOf 83 = .ok (.imul, 1) := dk_104 (dk_at dksX3_whereOf_3 12 rfl rfl)
theorem dX3_whereOf_84 : decode cX3_whereOf 84 = .ok (.iload_n 3, 1) := dk_29 (dk_at dksX3_whereOf_3 13 rfl rfl)
theorem dX3_whereOf_85 : decode cX3_whereOf 85 = .ok (.iadd, 1) := dk_96 (dk_at dksX3_whereOf_3 14 rfl rfl)
theorem dX3_whereOf_86 : decode cX3_whereOf 86 = .ok (.iload 5, 2) := dk_21 5 (dk_at dksX3_whereOf_3 15 rfl rfl)
theorem dX3_whereOf_88 : decode cX3_whereOf 88 = .ok (.isub, 1) := dk_100 (dk_at dksX3_whereOf_3 17 rfl rfl)
theorem dX3_whereOf_89 : decode cX3_whereOf 89 = .ok (.ireturn, 1) := dk_172 (dk_at dksX3_whereOf_3 18 rfl rfl)
abbrev cX3_report : ByteArray := prog_7_method_40_code
def yX3_report : MethodName := ⟨RX3, "report", "(II)I"⟩
def dkwX3_report_4 : List UInt8 := [180, 0, 147, 4, 96, 181, 0, 147, 42, 180, 0, 147, 4, 100, 172]
abbrev dktX3_report_4 : List UInt8 := dkwX3_report_4 ++ []
def dkwX3_report_3 : List UInt8 := [27, 79, 42, 180, 0, 57, 42, 180, 0, 147, 28, 79, 42, 180, 0, 60, 42, 180, 0, 147, 3, 79, 42, 89]
abbrev dktX3_report_3 : List UInt8 := dkwX3_report_3 ++ dktX3_report_4
def dkwX3_report_2 : List UInt8 := [160, 0, 7, 5, 167, 0, 4, 3, 182, 0, 76, 154, 0, 5, 3, 172, 42, 180, 0, 54, 42, 180, 0, 147]
abbrev dktX3_report_2 : List UInt8 := dkwX3_report_2 ++ dktX3_report_3
def dkwX3_report_1 : List UInt8 := [29, 154, 0, 7, 4, 167, 0, 25, 42, 28, 182, 0, 150, 154, 0, 12, 42, 180, 0, 147, 16, 30]
abbrev dktX3_report_1 : List UInt8 := dkwX3_report_1 ++ dktX3_report_2
def dkwX3_report_0 : List UInt8 := [27, 3, 7, 184, 0, 69, 153, 0, 15, 42, 28, 182, 0, 83, 153, 0, 7, 4, 167, 0, 4, 3, 62, 42]
abbrev dktX3_report_0 : List UInt8 := dkwX3_report_0 ++ dktX3_report_1
theorem dksX3_report_0 : cX3_report.data.toList.drop 0 = dktX3_report_0 := by decide +kernel
theorem dksX3_report_1 : cX3_report.data.toList.drop 24 = dktX3_report_1 := dk_seg dksX3_report_0 24 rfl rfl
theorem dksX3_report_2 : cX3_report.data.toList.drop 46 = dktX3_report_2 := dk_seg dksX3_report_1 22 rfl rfl
theorem dksX3_report_3 : cX3_report.data.toList.drop 70 = dktX3_report_3 := dk_seg dksX3_report_2 24 rfl rfl
theorem dksX3_report_4 : cX3_report.data.toList.drop 94 = dktX3_report_4 := dk_seg dksX3_report_3 24 rfl rfl
theorem dX3_report_0 : decode cX3_report 0 = .ok (.iload_n 1, 1) := dk_27 (dk_at dksX3_report_0 0 rfl rfl)
theorem dX3_report_1 : decode cX3_report 1 = .ok (.iconst 0, 1) := dk_3 (dk_at dksX3_report_0 1 rfl rfl)
theorem dX3_report_2 : decode cX3_report 2 = .ok (.iconst 4, 1) := dk_7 (dk_at dksX3_report_0 2 rfl rfl)
theorem dX3_report_3 : decode cX3_report 3 = .ok (.invokestatic 69, 3) := dk_184 0 69 (dk_at dksX3_report_0 3 rfl rfl)
theorem dX3_report_6 : decode cX3_report 6 = .ok (.ifCond .eq 15, 3) := dk_153 0 15 (dk_at dksX3_report_0 6 rfl rfl)
theorem dX3_report_9 : decode cX3_report 9 = .ok (.aload_n 0, 1) := dk_42 (dk_at dksX3_report_0 9 rfl rfl)
theorem dX3_report_10 : decode cX3_report 10 = .ok (.iload_n 2, 1) := dk_28 (dk_at dksX3_report_0 10 rfl rfl)
theorem dX3_report_11 : decode cX3_report 11 = .ok (.invokevirtual 83, 3) := dk_182 0 83 (dk_at dksX3_report_0 11 rfl rfl)
theorem dX3_report_14 : decode cX3_report 14 = .ok (.ifCond .eq 7, 3) := dk_153 0 7 (dk_at dksX3_report_0 14 rfl rfl)
theorem dX3_report_17 : decode cX3_report 17 = .ok (.iconst 1, 1) := dk_4 (dk_at dksX3_report_0 17 rfl rfl)
theorem dX3_report_18 : decode cX3_report 18 = .ok (.goto 4, 3) := dk_167 0 4 (dk_at dksX3_report_0 18 rfl rfl)
theorem dX3_report_21 : decode cX3_report 21 = .ok (.iconst 0, 1) := dk_3 (dk_at dksX3_report_0 21 rfl rfl)
theorem dX3_report_22 : decode cX3_report 22 = .ok (.istore_n 3, 1) := dk_62 (dk_at dksX3_report_0 22 rfl rfl)
theorem dX3_report_23 : decode cX3_report 23 = .ok (.aload_n 0, 1) := dk_42 (dk_at dksX3_report_0 23 rfl rfl)
theorem dX3_report_24 : decode cX3_report 24 = .ok (.iload_n 3, 1) := dk_29 (dk_at dksX3_report_1 0 rfl rfl)
theorem dX3_report_25 : decode cX3_report 25 = .ok (.ifCond .ne 7, 3) := dk_154 0 7 (dk_at dksX3_report_1 1 rfl rfl)
theorem dX3_report_28 : decode cX3_report 28 = .ok (.iconst 1, 1) := dk_4 (dk_at dksX3_report_1 4 rfl rfl)
theorem dX3_report_29 : decode cX3_report 29 = .ok (.goto 25, 3) := dk_167 0 25 (dk_at dksX3_report_1 5 rfl rfl)
theorem dX3_report_32 : decode cX3_report 32 = .ok (.aload_n 0, 1) := dk_42 (dk_at dksX3_report_1 8 rfl rfl)
theorem dX3_report_33 : decode cX3_report 33 = .ok (.iload_n 2, 1) := dk_28 (dk_at dksX3_report_1 9 rfl rfl)
theorem dX3_report_34 : decode cX3_report 34 = .ok (.invokevirtual 150, 3) := dk_182 0 150 (dk_at dksX3_report_1 10 rfl rfl)
theorem dX3_report_37 : decode cX3_report 37 = .ok (.ifCond .ne 12, 3) := dk_154 0 12 (dk_at dksX3_report_1 13 rfl rfl)
theorem dX3_report_40 : decode cX3_report 40 = .ok (.aload_n 0, 1) := dk_42 (dk_at dksX3_report_1 16 rfl rfl)
theorem dX3_report_41 : decode cX3_report 41 = .ok (.getfield 147, 3) := dk_180 0 147 (dk_at dksX3_report_1 17 rfl rfl)
theorem dX3_report_44 : decode cX3_report 44 = .ok (.bipush 30, 2) := dk_16 30 (dk_at dksX3_report_1 20 rfl rfl)
theorem dX3_report_46 : decode cX3_report 46 = .ok (.if_icmp .ne 7, 3) := dk_160 0 7 (dk_at dksX3_report_2 0 rfl rfl)
theorem dX3_report_49 : decode cX3_report 49 = .ok (.iconst 2, 1) := dk_5 (dk_at dksX3_report_2 3 rfl rfl)
theorem dX3_report_50 : decode cX3_report 50 = .ok (.goto 4, 3) := dk_167 0 4 (dk_at dksX3_report_2 4 rfl rfl)
theorem dX3_report_53 : decode cX3_report 53 = .ok (.iconst 0, 1) := dk_3 (dk_at dksX3_report_2 7 rfl rfl)
theorem dX3_report_54 : decode cX3_report 54 = .ok (.invokevirtual 76, 3) := dk_182 0 76 (dk_at dksX3_report_2 8 rfl rfl)
theorem dX3_report_57 : decode cX3_report 57 = .ok (.ifCond .ne 5, 3) := dk_154 0 5 (dk_at dksX3_report_2 11 rfl rfl)
theorem dX3_report_60 : decode cX3_report 60 = .ok (.iconst 0, 1) := dk_3 (dk_at dksX3_report_2 14 rfl rfl)
theorem dX3_report_61 : decode cX3_report 61 = .ok (.ireturn, 1) := dk_172 (dk_at dksX3_report_2 15 rfl rfl)
theorem dX3_report_62 : decode cX3_report 62 = .ok (.aload_n 0, 1) := dk_42 (dk_at dksX3_report_2 16 rfl rfl)
theorem dX3_report_63 : decode cX3_report 63 = .ok (.getfield 54, 3) := dk_180 0 54 (dk_at dksX3_report_2 17 rfl rfl)
theorem dX3_report_66 : decode cX3_report 66 = .ok (.aload_n 0, 1) := dk_42 (dk_at dksX3_report_2 20 rfl rfl)
theorem dX3_report_67 : decode cX3_report 67 = .ok (.getfield 147, 3) := dk_180 0 147 (dk_at dksX3_report_2 21 rfl rfl)
theorem dX3_report_70 : decode cX3_report 70 = .ok (.iload_n 1, 1) := dk_27 (dk_at dksX3_report_3 0 rfl rfl)
theorem dX3_report_71 : decode cX3_report 71 = .ok (.iastore, 1) := dk_79 (dk_at dksX3_report_3 1 rfl rfl)
theorem dX3_report_72 : decode cX3_report 72 = .ok (.aload_n 0, 1) := dk_42 (dk_at dksX3_report_3 2 rfl rfl)
theorem dX3_report_73 : decode cX3_report 73 = .ok (.getfield 57, 3) := dk_180 0 57 (dk_at dksX3_report_3 3 rfl rfl)
theorem dX3_report_76 : decode cX3_report 76 = .ok (.aload_n 0, 1) := dk_42 (dk_at dksX3_report_3 6 rfl rfl)
theorem dX3_report_77 : decode cX3_report 77 = .ok (.getfield 147, 3) := dk_180 0 147 (dk_at dksX3_report_3 7 rfl rfl)
theorem dX3_report_80 : decode cX3_report 80 = .ok (.iload_n 2, 1) := dk_28 (dk_at dksX3_report_3 10 rfl rfl)
theorem dX3_report_81 : decode cX3_report 81 = .ok (.iastore, 1) := dk_79 (dk_at dksX3_report_3 11 rfl rfl)
theorem dX3_report_82 : decode cX3_report 82 = .ok (.aload_n 0, 1) := dk_42 (dk_at dksX3_report_3 12 rfl rfl)
theorem dX3_report_83 : decode cX3_report 83 = .ok (.getfield 60, 3) := dk_180 0 60 (dk_at dksX3_report_3 13 rfl rfl)
theorem dX3_report_86 : decode cX3_report 86 = .ok (.aload_n 0, 1) := dk_42 (dk_at dksX3_report_3 16 rfl rfl)
theorem dX3_report_87 : decode cX3_report 87 = .ok (.getfield 147, 3) := dk_180 0 147 (dk_at dksX3_report_3 17 rfl rfl)
theorem dX3_report_90 : decode cX3_report 90 = .ok (.iconst 0, 1) := dk_3 (dk_at dksX3_report_3 20 rfl rfl)
theorem dX3_report_91 : decode cX3_report 91 = .ok (.iastore, 1) := dk_79 (dk_at dksX3_report_3 21 rfl rfl)
theorem dX3_report_92 : decode cX3_report 92 = .ok (.aload_n 0, 1) := dk_42 (dk_at dksX3_report_3 22 rfl rfl)
theorem dX3_report_93 : decode cX3_report 93 = .ok (.dup, 1) := dk_89 (dk_at dksX3_report_3 23 rfl rfl)
theorem dX3_report_94 : decode cX3_report 94 = .ok (.getfield 147, 3) := dk_180 0 147 (dk_at dksX3_report_4 0 rfl rfl)
theorem dX3_report_97 : decode cX3_report 97 = .ok (.iconst 1, 1) := dk_4 (dk_at dksX3_report_4 3 rfl rfl)
theorem dX3_report_98 : decode cX3_report 98 = .ok (.iadd, 1) := dk_96 (dk_at dksX3_report_4 4 rfl rfl)
theorem dX3_report_99 : decode cX3_report 99 = .ok (.putfield 147, 3) := dk_181 0 147 (dk_at dksX3_report_4 5 rfl rfl)
theorem dX3_report_102 : decode cX3_report 102 = .ok (.aload_n 0, 1) := dk_42 (dk_at dksX3_report_4 8 rfl rfl)
theorem dX3_report_103 : decode cX3_report 103 = .ok (.getfield 147, 3) := dk_180 0 147 (dk_at dksX3_report_4 9 rfl rfl)
theorem dX3_report_106 : decode cX3_report 106 = .ok (.iconst 1, 1) := dk_4 (dk_at dksX3_report_4 12 rfl rfl)
theorem dX3_report_107 : decode cX3_report 107 = .ok (.isub, 1) := dk_100 (dk_at dksX3_report_4 13 rfl rfl)
theorem dX3_report_108 : decode cX3_report 108 = .ok (.ireturn, 1) := dk_172 (dk_at dksX3_report_4 14 rfl rfl)
abbrev cX3_hasOpen : ByteArray := prog_7_method_39_code
def yX3_hasOpen : MethodName := ⟨RX3, "hasOpen", "(I)Z"⟩
def dkwX3_hasOpen_2 : List UInt8 := [28, 172]
abbrev dktX3_hasOpen_2 : List UInt8 := dkwX3_hasOpen_2 ++ []
def dkwX3_hasOpen_1 : List UInt8 := [160, 0, 16, 42, 180, 0, 60, 29, 46, 154, 0, 7, 4, 167, 0, 4, 3, 61, 132, 3, 1, 167, 255, 216]
abbrev dktX3_hasOpen_1 : List UInt8 := dkwX3_hasOpen_1 ++ dktX3_hasOpen_2
def dkwX3_hasOpen_0 : List UInt8 := [3, 61, 3, 62, 29, 42, 180, 0, 147, 162, 0, 38, 28, 154, 0, 22, 42, 180, 0, 57, 29, 46, 27]
abbrev dktX3_hasOpen_0 : List UInt8 := dkwX3_hasOpen_0 ++ dktX3_hasOpen_1
theorem dksX3_hasOpen_0 : cX3_hasOpen.data.toList.drop 0 = dktX3_hasOpen_0 := by decide +kernel
theorem dksX3_hasOpen_1 : cX3_hasOpen.data.toList.drop 23 = dktX3_hasOpen_1 := dk_seg dksX3_hasOpen_0 23 rfl rfl
theorem dksX3_hasOpen_2 : cX3_hasOpen.data.toList.drop 47 = dktX3_hasOpen_2 := dk_seg dksX3_hasOpen_1 24 rfl rfl
theorem dX3_hasOpen_0 : decode cX3_hasOpen 0 = .ok (.iconst 0, 1) := dk_3 (dk_at dksX3_hasOpen_0 0 rfl rfl)
theorem dX3_hasOpen_1 : decode cX3_hasOpen 1 = .ok (.istore_n 2, 1) := dk_61 (dk_at dksX3_hasOpen_0 1 rfl rfl)
theorem dX3_hasOpen_2 : decode cX3_hasOpen 2 = .ok (.iconst 0, 1) := dk_3 (dk_at dksX3_hasOpen_0 2 rfl rfl)
theorem dX3_hasOpen_3 : decode cX3_hasOpen 3 = .ok (.istore_n 3, 1) := dk_62 (dk_at dksX3_hasOpen_0 3 rfl rfl)
theorem dX3_hasOpen_4 : decode cX3_hasOpen 4 = .ok (.iload_n 3, 1) := dk_29 (dk_at dksX3_hasOpen_0 4 rfl rfl)
theorem dX3_hasOpen_5 : decode cX3_hasOpen 5 = .ok (.aload_n 0, 1) := dk_42 (dk_at dksX3_hasOpen_0 5 rfl rfl)
theorem dX3_hasOpen_6 : decode cX3_hasOpen 6 = .ok (.getfield 147, 3) := dk_180 0 147 (dk_at dksX3_hasOpen_0 6 rfl rfl)
theorem dX3_hasOpen_9 : decode cX3_hasOpen 9 = .ok (.if_icmp .ge 38, 3) := dk_162 0 38 (dk_at dksX3_hasOpen_0 9 rfl rfl)
theorem dX3_hasOpen_12 : decode cX3_hasOpen 12 = .ok (.iload_n 2, 1) := dk_28 (dk_at dksX3_hasOpen_0 12 rfl rfl)
theorem dX3_hasOpen_13 : decode cX3_hasOpen 13 = .ok (.ifCond .ne 22, 3) := dk_154 0 22 (dk_at dksX3_hasOpen_0 13 rfl rfl)
theorem dX3_hasOpen_16 : decode cX3_hasOpen 16 = .ok (.aload_n 0, 1) := dk_42 (dk_at dksX3_hasOpen_0 16 rfl rfl)
theorem dX3_hasOpen_17 : decode cX3_hasOpen 17 = .ok (.getfield 57, 3) := dk_180 0 57 (dk_at dksX3_hasOpen_0 17 rfl rfl)
theorem dX3_hasOpen_20 : decode cX3_hasOpen 20 = .ok (.iload_n 3, 1) := dk_29 (dk_at dksX3_hasOpen_0 20 rfl rfl)
theorem dX3_hasOpen_21 : decode cX3_hasOpen 21 = .ok (.iaload, 1) := dk_46 (dk_at dksX3_hasOpen_0 21 rfl rfl)
theorem dX3_hasOpen_22 : decode cX3_hasOpen 22 = .ok (.iload_n 1, 1) := dk_27 (dk_at dksX3_hasOpen_0 22 rfl rfl)
theorem dX3_hasOpen_23 : decode cX3_hasOpen 23 = .ok (.if_icmp .ne 16, 3) := dk_160 0 16 (dk_at dksX3_hasOpen_1 0 rfl rfl)
theorem dX3_hasOpen_26 : decode cX3_hasOpen 26 = .ok (.aload_n 0, 1) := dk_42 (dk_at dksX3_hasOpen_1 3 rfl rfl)
theorem dX3_hasOpen_27 : decode cX3_hasOpen 27 = .ok (.getfield 60, 3) := dk_180 0 60 (dk_at dksX3_hasOpen_1 4 rfl rfl)
theorem dX3_hasOpen_30 : decode cX3_hasOpen 30 = .ok (.iload_n 3, 1) := dk_29 (dk_at dksX3_hasOpen_1 7 rfl rfl)
theorem dX3_hasOpen_31 : decode cX3_hasOpen 31 = .ok (.iaload, 1) := dk_46 (dk_at dksX3_hasOpen_1 8 rfl rfl)
theorem dX3_hasOpen_32 : decode cX3_hasOpen 32 = .ok (.ifCond .ne 7, 3) := dk_154 0 7 (dk_at dksX3_hasOpen_1 9 rfl rfl)
theorem dX3_hasOpen_35 : decode cX3_hasOpen 35 = .ok (.iconst 1, 1) := dk_4 (dk_at dksX3_hasOpen_1 12 rfl rfl)
theorem dX3_hasOpen_36 : decode cX3_hasOpen 36 = .ok (.goto 4, 3) := dk_167 0 4 (dk_at dksX3_hasOpen_1 13 rfl rfl)
theorem dX3_hasOpen_39 : decode cX3_hasOpen 39 = .ok (.iconst 0, 1) := dk_3 (dk_at dksX3_hasOpen_1 16 rfl rfl)
theorem dX3_hasOpen_40 : decode cX3_hasOpen 40 = .ok (.istore_n 2, 1) := dk_61 (dk_at dksX3_hasOpen_1 17 rfl rfl)
theorem dX3_hasOpen_41 : decode cX3_hasOpen 41 = .ok (.iinc 3 1, 3) := dk_132 3 1 (dk_at dksX3_hasOpen_1 18 rfl rfl)
theorem dX3_hasOpen_44 : decode cX3_hasOpen 44 = .ok (.goto (-40), 3) := dk_167 255 216 (dk_at dksX3_hasOpen_1 21 rfl rfl)
theorem dX3_hasOpen_47 : decode cX3_hasOpen 47 = .ok (.iload_n 2, 1) := dk_28 (dk_at dksX3_hasOpen_2 0 rfl rfl)
theorem dX3_hasOpen_48 : decode cX3_hasOpen 48 = .ok (.ireturn, 1) := dk_172 (dk_at dksX3_hasOpen_2 1 rfl rfl)
abbrev cX3_judge : ByteArray := prog_7_method_43_code
def yX3_judge : MethodName := ⟨RX3, "judge", "(IZ)I"⟩
def dkwX3_judge_2 : List UInt8 := [167, 0, 4, 5, 79, 42, 42, 180, 0, 54, 27, 46, 182, 0, 156, 172]
abbrev dktX3_judge_2 : List UInt8 := dkwX3_judge_2 ++ []
def dkwX3_judge_1 : List UInt8 := [3, 167, 0, 4, 5, 182, 0, 76, 154, 0, 5, 3, 172, 42, 180, 0, 60, 27, 28, 153, 0, 7, 4]
abbrev dktX3_judge_1 : List UInt8 := dkwX3_judge_1 ++ dktX3_judge_2
def dkwX3_judge_0 : List UInt8 := [42, 27, 182, 0, 153, 62, 42, 29, 154, 0, 7, 4, 167, 0, 17, 42, 180, 0, 60, 27, 46, 154, 0, 7]
abbrev dktX3_judge_0 : List UInt8 := dkwX3_judge_0 ++ dktX3_judge_1
theorem dksX3_judge_0 : cX3_judge.data.toList.drop 0 = dktX3_judge_0 := by decide +kernel
theorem dksX3_judge_1 : cX3_judge.data.toList.drop 24 = dktX3_judge_1 := dk_seg dksX3_judge_0 24 rfl rfl
theorem dksX3_judge_2 : cX3_judge.data.toList.drop 47 = dktX3_judge_2 := dk_seg dksX3_judge_1 23 rfl rfl
theorem dX3_judge_0 : decode cX3_judge 0 = .ok (.aload_n 0, 1) := dk_42 (dk_at dksX3_judge_0 0 rfl rfl)
theorem dX3_judge_1 : decode cX3_judge 1 = .ok (.iload_n 1, 1) := dk_27 (dk_at dksX3_judge_0 1 rfl rfl)
theorem dX3_judge_2 : decode cX3_judge 2 = .ok (.invokevirtual 153, 3) := dk_182 0 153 (dk_at dksX3_judge_0 2 rfl rfl)
theorem dX3_judge_5 : decode cX3_judge 5 = .ok (.istore_n 3, 1) := dk_62 (dk_at dksX3_judge_0 5 rfl rfl)
theorem dX3_judge_6 : decode cX3_judge 6 = .ok (.aload_n 0, 1) := dk_42 (dk_at dksX3_judge_0 6 rfl rfl)
theorem dX3_judge_7 : decode cX3_judge 7 = .ok (.iload_n 3, 1) := dk_29 (dk_at dksX3_judge_0 7 rfl rfl)
theorem dX3_judge_8 : decode cX3_judge 8 = .ok (.ifCond .ne 7, 3) := dk_154 0 7 (dk_at dksX3_judge_0 8 rfl rfl)
theorem dX3_judge_11 : decode cX3_judge 11 = .ok (.iconst 1, 1) := dk_4 (dk_at dksX3_judge_0 11 rfl rfl)
theorem dX3_judge_12 : decode cX3_judge 12 = .ok (.goto 17, 3) := dk_167 0 17 (dk_at dksX3_judge_0 12 rfl rfl)
theorem dX3_judge_15 : decode cX3_judge 15 = .ok (.aload_n 0, 1) := dk_42 (dk_at dksX3_judge_0 15 rfl rfl)
theorem dX3_judge_16 : decode cX3_judge 16 = .ok (.getfield 60, 3) := dk_180 0 60 (dk_at dksX3_judge_0 16 rfl rfl)
theorem dX3_judge_19 : decode cX3_judge 19 = .ok (.iload_n 1, 1) := dk_27 (dk_at dksX3_judge_0 19 rfl rfl)
theorem dX3_judge_20 : decode cX3_judge 20 = .ok (.iaload, 1) := dk_46 (dk_at dksX3_judge_0 20 rfl rfl)
theorem dX3_judge_21 : decode cX3_judge 21 = .ok (.ifCond .ne 7, 3) := dk_154 0 7 (dk_at dksX3_judge_0 21 rfl rfl)
theorem dX3_judge_24 : decode cX3_judge 24 = .ok (.iconst 0, 1) := dk_3 (dk_at dksX3_judge_1 0 rfl rfl)
theorem dX3_judge_25 : decode cX3_judge 25 = .ok (.goto 4, 3) := dk_167 0 4 (dk_at dksX3_judge_1 1 rfl rfl)
theorem dX3_judge_28 : decode cX3_judge 28 = .ok (.iconst 2, 1) := dk_5 (dk_at dksX3_judge_1 4 rfl rfl)
theorem dX3_judge_29 : decode cX3_judge 29 = .ok (.invokevirtual 76, 3) := dk_182 0 76 (dk_at dksX3_judge_1 5 rfl rfl)
theorem dX3_judge_32 : decode cX3_judge 32 = .ok (.ifCond .ne 5, 3) := dk_154 0 5 (dk_at dksX3_judge_1 8 rfl rfl)
theorem dX3_judge_35 : decode cX3_judge 35 = .ok (.iconst 0, 1) := dk_3 (dk_at dksX3_judge_1 11 rfl rfl)
theorem dX3_judge_36 : decode cX3_judge 36 = .ok (.ireturn, 1) := dk_172 (dk_at dksX3_judge_1 12 rfl rfl)
theorem dX3_judge_37 : decode cX3_judge 37 = .ok (.aload_n 0, 1) := dk_42 (dk_at dksX3_judge_1 13 rfl rfl)
theorem dX3_judge_38 : decode cX3_judge 38 = .ok (.getfield 60, 3) := dk_180 0 60 (dk_at dksX3_judge_1 14 rfl rfl)
theorem dX3_judge_41 : decode cX3_judge 41 = .ok (.iload_n 1, 1) := dk_27 (dk_at dksX3_judge_1 17 rfl rfl)
theorem dX3_judge_42 : decode cX3_judge 42 = .ok (.iload_n 2, 1) := dk_28 (dk_at dksX3_judge_1 18 rfl rfl)
theorem dX3_judge_43 : decode cX3_judge 43 = .ok (.ifCond .eq 7, 3) := dk_153 0 7 (dk_at dksX3_judge_1 19 rfl rfl)
theorem dX3_judge_46 : decode cX3_judge 46 = .ok (.iconst 1, 1) := dk_4 (dk_at dksX3_judge_1 22 rfl rfl)
theorem dX3_judge_47 : decode cX3_judge 47 = .ok (.goto 4, 3) := dk_167 0 4 (dk_at dksX3_judge_2 0 rfl rfl)
theorem dX3_judge_50 : decode cX3_judge 50 = .ok (.iconst 2, 1) := dk_5 (dk_at dksX3_judge_2 3 rfl rfl)
theorem dX3_judge_51 : decode cX3_judge 51 = .ok (.iastore, 1) := dk_79 (dk_at dksX3_judge_2 4 rfl rfl)
theorem dX3_judge_52 : decode cX3_judge 52 = .ok (.aload_n 0, 1) := dk_42 (dk_at dksX3_judge_2 5 rfl rfl)
theorem dX3_judge_53 : decode cX3_judge 53 = .ok (.aload_n 0, 1) := dk_42 (dk_at dksX3_judge_2 6 rfl rfl)
theorem dX3_judge_54 : decode cX3_judge 54 = .ok (.getfield 54, 3) := dk_180 0 54 (dk_at dksX3_judge_2 7 rfl rfl)
theorem dX3_judge_57 : decode cX3_judge 57 = .ok (.iload_n 1, 1) := dk_27 (dk_at dksX3_judge_2 10 rfl rfl)
theorem dX3_judge_58 : decode cX3_judge 58 = .ok (.iaload, 1) := dk_46 (dk_at dksX3_judge_2 11 rfl rfl)
theorem dX3_judge_59 : decode cX3_judge 59 = .ok (.invokevirtual 156, 3) := dk_182 0 156 (dk_at dksX3_judge_2 12 rfl rfl)
theorem dX3_judge_62 : decode cX3_judge 62 = .ok (.ireturn, 1) := dk_172 (dk_at dksX3_judge_2 15 rfl rfl)
abbrev cX3_isError : ByteArray := prog_7_method_42_code
def yX3_isError : MethodName := ⟨RX3, "isError", "(I)Z"⟩
def dkwX3_isError_0 : List UInt8 := [27, 3, 42, 180, 0, 147, 4, 100, 184, 0, 69, 172]
abbrev dktX3_isError_0 : List UInt8 := dkwX3_isError_0 ++ []
theorem dksX3_isError_0 : cX3_isError.data.toList.drop 0 = dktX3_isError_0 := by decide +kernel
theorem dX3_isError_0 : decode cX3_isError 0 = .ok (.iload_n 1, 1) := dk_27 (dk_at dksX3_isError_0 0 rfl rfl)
theorem dX3_isError_1 : decode cX3_isError 1 = .ok (.iconst 0, 1) := dk_3 (dk_at dksX3_isError_0 1 rfl rfl)
theorem dX3_isError_2 : decode cX3_isError 2 = .ok (.aload_n 0, 1) := dk_42 (dk_at dksX3_isError_0 2 rfl rfl)
theorem dX3_isError_3 : decode cX3_isError 3 = .ok (.getfield 147, 3) := dk_180 0 147 (dk_at dksX3_isError_0 3 rfl rfl)
theorem dX3_isError_6 : decode cX3_isError 6 = .ok (.iconst 1, 1) := dk_4 (dk_at dksX3_isError_0 6 rfl rfl)
theorem dX3_isError_7 : decode cX3_isError 7 = .ok (.isub, 1) := dk_100 (dk_at dksX3_isError_0 7 rfl rfl)
theorem dX3_isError_8 : decode cX3_isError 8 = .ok (.invokestatic 69, 3) := dk_184 0 69 (dk_at dksX3_isError_0 8 rfl rfl)
theorem dX3_isError_11 : decode cX3_isError 11 = .ok (.ireturn, 1) := dk_172 (dk_at dksX3_isError_0 11 rfl rfl)
abbrev cX3_points : ByteArray := prog_7_method_41_code
def yX3_points : MethodName := ⟨RX3, "points", "(I)I"⟩
def dkwX3_points_3 : List UInt8 := [167, 255, 192, 28, 172]
abbrev dktX3_points_3 : List UInt8 := dkwX3_points_3 ++ []
def dkwX3_points_2 : List UInt8 := [167, 0, 18, 42, 180, 0, 60, 29, 46, 4, 160, 0, 7, 6, 167, 0, 4, 2, 96, 61, 132, 3, 1]
abbrev dktX3_points_2 : List UInt8 := dkwX3_points_2 ++ dktX3_points_3
def dkwX3_points_1 : List UInt8 := [167, 0, 4, 3, 54, 4, 28, 21, 4, 153, 0, 12, 42, 180, 0, 60, 29, 46, 154, 0, 7, 3]
abbrev dktX3_points_1 : List UInt8 := dkwX3_points_1 ++ dktX3_points_2
def dkwX3_points_0 : List UInt8 := [3, 61, 3, 62, 29, 42, 180, 0, 147, 162, 0, 62, 42, 180, 0, 54, 29, 46, 27, 160, 0, 7, 4]
abbrev dktX3_points_0 : List UInt8 := dkwX3_points_0 ++ dktX3_points_1
theorem dksX3_points_0 : cX3_points.data.toList.drop 0 = dktX3_points_0 := by decide +kernel
theorem dksX3_points_1 : cX3_points.data.toList.drop 23 = dktX3_points_1 := dk_seg dksX3_points_0 23 rfl rfl
theorem dksX3_points_2 : cX3_points.data.toList.drop 45 = dktX3_points_2 := dk_seg dksX3_points_1 22 rfl rfl
theorem dksX3_points_3 : cX3_points.data.toList.drop 68 = dktX3_points_3 := dk_seg dksX3_points_2 23 rfl rfl
theorem dX3_points_0 : decode cX3_points 0 = .ok (.iconst 0, 1) := dk_3 (dk_at dksX3_points_0 0 rfl rfl)
theorem dX3_points_1 : decode cX3_points 1 = .ok (.istore_n 2, 1) := dk_61 (dk_at dksX3_points_0 1 rfl rfl)
theorem dX3_points_2 : decode cX3_points 2 = .ok (.iconst 0, 1) := dk_3 (dk_at dksX3_points_0 2 rfl rfl)
theorem dX3_points_3 : decode cX3_points 3 = .ok (.istore_n 3, 1) := dk_62 (dk_at dksX3_points_0 3 rfl rfl)
theorem dX3_points_4 : decode cX3_points 4 = .ok (.iload_n 3, 1) := dk_29 (dk_at dksX3_points_0 4 rfl rfl)
theorem dX3_points_5 : decode cX3_points 5 = .ok (.aload_n 0, 1) := dk_42 (dk_at dksX3_points_0 5 rfl rfl)
theorem dX3_points_6 : decode cX3_points 6 = .ok (.getfield 147, 3) := dk_180 0 147 (dk_at dksX3_points_0 6 rfl rfl)
theorem dX3_points_9 : decode cX3_points 9 = .ok (.if_icmp .ge 62, 3) := dk_162 0 62 (dk_at dksX3_points_0 9 rfl rfl)
theorem dX3_points_12 : decode cX3_points 12 = .ok (.aload_n 0, 1) := dk_42 (dk_at dksX3_points_0 12 rfl rfl)
theorem dX3_points_13 : decode cX3_points 13 = .ok (.getfield 54, 3) := dk_180 0 54 (dk_at dksX3_points_0 13 rfl rfl)
theorem dX3_points_16 : decode cX3_points 16 = .ok (.iload_n 3, 1) := dk_29 (dk_at dksX3_points_0 16 rfl rfl)
theorem dX3_points_17 : decode cX3_points 17 = .ok (.iaload, 1) := dk_46 (dk_at dksX3_points_0 17 rfl rfl)
theorem dX3_points_18 : decode cX3_points 18 = .ok (.iload_n 1, 1) := dk_27 (dk_at dksX3_points_0 18 rfl rfl)
theorem dX3_points_19 : decode cX3_points 19 = .ok (.if_icmp .ne 7, 3) := dk_160 0 7 (dk_at dksX3_points_0 19 rfl rfl)
theorem dX3_points_22 : decode cX3_points 22 = .ok (.iconst 1, 1) := dk_4 (dk_at dksX3_points_0 22 rfl rfl)
theorem dX3_points_23 : decode cX3_points 23 = .ok (.goto 4, 3) := dk_167 0 4 (dk_at dksX3_points_1 0 rfl rfl)
theorem dX3_points_26 : decode cX3_points 26 = .ok (.iconst 0, 1) := dk_3 (dk_at dksX3_points_1 3 rfl rfl)
theorem dX3_points_27 : decode cX3_points 27 = .ok (.istore 4, 2) := dk_54 4 (dk_at dksX3_points_1 4 rfl rfl)
theorem dX3_points_29 : decode cX3_points 29 = .ok (.iload_n 2, 1) := dk_28 (dk_at dksX3_points_1 6 rfl rfl)
theorem dX3_points_30 : decode cX3_points 30 = .ok (.iload 4, 2) := dk_21 4 (dk_at dksX3_points_1 7 rfl rfl)
theorem dX3_points_32 : decode cX3_points 32 = .ok (.ifCond .eq 12, 3) := dk_153 0 12 (dk_at dksX3_points_1 9 rfl rfl)
theorem dX3_points_35 : decode cX3_points 35 = .ok (.aload_n 0, 1) := dk_42 (dk_at dksX3_points_1 12 rfl rfl)
theorem dX3_points_36 : decode cX3_points 36 = .ok (.getfield 60, 3) := dk_180 0 60 (dk_at dksX3_points_1 13 rfl rfl)
theorem dX3_points_39 : decode cX3_points 39 = .ok (.iload_n 3, 1) := dk_29 (dk_at dksX3_points_1 16 rfl rfl)
theorem dX3_points_40 : decode cX3_points 40 = .ok (.iaload, 1) := dk_46 (dk_at dksX3_points_1 17 rfl rfl)
theorem dX3_points_41 : decode cX3_points 41 = .ok (.ifCond .ne 7, 3) := dk_154 0 7 (dk_at dksX3_points_1 18 rfl rfl)
theorem dX3_points_44 : decode cX3_points 44 = .ok (.iconst 0, 1) := dk_3 (dk_at dksX3_points_1 21 rfl rfl)
theorem dX3_points_45 : decode cX3_points 45 = .ok (.goto 18, 3) := dk_167 0 18 (dk_at dksX3_points_2 0 rfl rfl)
theorem dX3_points_48 : decode cX3_points 48 = .ok (.aload_n 0, 1) := dk_42 (dk_at dksX3_points_2 3 rfl rfl)
theorem dX3_points_49 : decode cX3_points 49 = .ok (.getfield 60, 3) := dk_180 0 60 (dk_at dksX3_points_2 4 rfl rfl)
theorem dX3_points_52 : decode cX3_points 52 = .ok (.iload_n 3, 1) := dk_29 (dk_at dksX3_points_2 7 rfl rfl)
theorem dX3_points_53 : decode cX3_points 53 = .ok (.iaload, 1) := dk_46 (dk_at dksX3_points_2 8 rfl rfl)
theorem dX3_points_54 : decode cX3_points 54 = .ok (.iconst 1, 1) := dk_4 (dk_at dksX3_points_2 9 rfl rfl)
theorem dX3_points_55 : decode cX3_points 55 = .ok (.if_icmp .ne 7, 3) := dk_160 0 7 (dk_at dksX3_points_2 10 rfl rfl)
theorem dX3_points_58 : decode cX3_points 58 = .ok (.iconst 3, 1) := dk_6 (dk_at dksX3_points_2 13 rfl rfl)
theorem dX3_points_59 : decode cX3_points 59 = .ok (.goto 4, 3) := dk_167 0 4 (dk_at dksX3_points_2 14 rfl rfl)
theorem dX3_points_62 : decode cX3_points 62 = .ok (.iconst (-1), 1) := dk_2 (dk_at dksX3_points_2 17 rfl rfl)
theorem dX3_points_63 : decode cX3_points 63 = .ok (.iadd, 1) := dk_96 (dk_at dksX3_points_2 18 rfl rfl)
theorem dX3_points_64 : decode cX3_points 64 = .ok (.istore_n 2, 1) := dk_61 (dk_at dksX3_points_2 19 rfl rfl)
theorem dX3_points_65 : decode cX3_points 65 = .ok (.iinc 3 1, 3) := dk_132 3 1 (dk_at dksX3_points_2 20 rfl rfl)
theorem dX3_points_68 : decode cX3_points 68 = .ok (.goto (-64), 3) := dk_167 255 192 (dk_at dksX3_points_3 0 rfl rfl)
theorem dX3_points_71 : decode cX3_points 71 = .ok (.iload_n 2, 1) := dk_28 (dk_at dksX3_points_3 3 rfl rfl)
theorem dX3_points_72 : decode cX3_points 72 = .ok (.ireturn, 1) := dk_172 (dk_at dksX3_points_3 4 rfl rfl)
abbrev cX3_errorAt : ByteArray := prog_7_method_44_code
def yX3_errorAt : MethodName := ⟨RX3, "errorAt", "(I)I"⟩
def dkwX3_errorAt_1 : List UInt8 := [180, 0, 57, 27, 46, 182, 0, 144, 167, 0, 4, 3, 172]
abbrev dktX3_errorAt_1 : List UInt8 := dkwX3_errorAt_1 ++ []
def dkwX3_errorAt_0 : List UInt8 := [42, 42, 27, 182, 0, 153, 153, 0, 7, 3, 167, 0, 4, 4, 182, 0, 76, 153, 0, 16, 42, 42]
abbrev dktX3_errorAt_0 : List UInt8 := dkwX3_errorAt_0 ++ dktX3_errorAt_1
theorem dksX3_errorAt_0 : cX3_errorAt.data.toList.drop 0 = dktX3_errorAt_0 := by decide +kernel
theorem dksX3_errorAt_1 : cX3_errorAt.data.toList.drop 22 = dktX3_errorAt_1 := dk_seg dksX3_errorAt_0 22 rfl rfl
theorem dX3_errorAt_0 : decode cX3_errorAt 0 = .ok (.aload_n 0, 1) := dk_42 (dk_at dksX3_errorAt_0 0 rfl rfl)
theorem dX3_errorAt_1 : decode cX3_errorAt 1 = .ok (.aload_n 0, 1) := dk_42 (dk_at dksX3_errorAt_0 1 rfl rfl)
theorem dX3_errorAt_2 : decode cX3_errorAt 2 = .ok (.iload_n 1, 1) := dk_27 (dk_at dksX3_errorAt_0 2 rfl rfl)
theorem dX3_errorAt_3 : decode cX3_errorAt 3 = .ok (.invokevirtual 153, 3) := dk_182 0 153 (dk_at dksX3_errorAt_0 3 rfl rfl)
theorem dX3_errorAt_6 : decode cX3_errorAt 6 = .ok (.ifCond .eq 7, 3) := dk_153 0 7 (dk_at dksX3_errorAt_0 6 rfl rfl)
theorem dX3_errorAt_9 : decode cX3_errorAt 9 = .ok (.iconst 0, 1) := dk_3 (dk_at dksX3_errorAt_0 9 rfl rfl)
theorem dX3_errorAt_10 : decode cX3_errorAt 10 = .ok (.goto 4, 3) := dk_167 0 4 (dk_at dksX3_errorAt_0 10 rfl rfl)
theorem dX3_errorAt_13 : decode cX3_errorAt 13 = .ok (.iconst 1, 1) := dk_4 (dk_at dksX3_errorAt_0 13 rfl rfl)
theorem dX3_errorAt_14 : decode cX3_errorAt 14 = .ok (.invokevirtual 76, 3) := dk_182 0 76 (dk_at dksX3_errorAt_0 14 rfl rfl)
theorem dX3_errorAt_17 : decode cX3_errorAt 17 = .ok (.ifCond .eq 16, 3) := dk_153 0 16 (dk_at dksX3_errorAt_0 17 rfl rfl)
theorem dX3_errorAt_20 : decode cX3_errorAt 20 = .ok (.aload_n 0, 1) := dk_42 (dk_at dksX3_errorAt_0 20 rfl rfl)
theorem dX3_errorAt_21 : decode cX3_errorAt 21 = .ok (.aload_n 0, 1) := dk_42 (dk_at dksX3_errorAt_0 21 rfl rfl)
theorem dX3_errorAt_22 : decode cX3_errorAt 22 = .ok (.getfield 57, 3) := dk_180 0 57 (dk_at dksX3_errorAt_1 0 rfl rfl)
theorem dX3_errorAt_25 : decode cX3_errorAt 25 = .ok (.iload_n 1, 1) := dk_27 (dk_at dksX3_errorAt_1 3 rfl rfl)
theorem dX3_errorAt_26 : decode cX3_errorAt 26 = .ok (.iaload, 1) := dk_46 (dk_at dksX3_errorAt_1 4 rfl rfl)
theorem dX3_errorAt_27 : decode cX3_errorAt 27 = .ok (.invokevirtual 144, 3) := dk_182 0 144 (dk_at dksX3_errorAt_1 5 rfl rfl)
theorem dX3_errorAt_30 : decode cX3_errorAt 30 = .ok (.goto 4, 3) := dk_167 0 4 (dk_at dksX3_errorAt_1 8 rfl rfl)
theorem dX3_errorAt_33 : decode cX3_errorAt 33 = .ok (.iconst 0, 1) := dk_3 (dk_at dksX3_errorAt_1 11 rfl rfl)
theorem dX3_errorAt_34 : decode cX3_errorAt 34 = .ok (.ireturn, 1) := dk_172 (dk_at dksX3_errorAt_1 12 rfl rfl)
abbrev cX3_stateOf : ByteArray := prog_7_method_45_code
def yX3_stateOf : MethodName := ⟨RX3, "stateOf", "(I)I"⟩
def dkwX3_stateOf_1 : List UInt8 := [27, 46, 167, 0, 4, 3, 172]
abbrev dktX3_stateOf_1 : List UInt8 := dkwX3_stateOf_1 ++ []
def dkwX3_stateOf_0 : List UInt8 := [42, 42, 27, 182, 0, 153, 153, 0, 7, 3, 167, 0, 4, 4, 182, 0, 76, 153, 0, 12, 42, 180, 0, 60]
abbrev dktX3_stateOf_0 : List UInt8 := dkwX3_stateOf_0 ++ dktX3_stateOf_1
theorem dksX3_stateOf_0 : cX3_stateOf.data.toList.drop 0 = dktX3_stateOf_0 := by decide +kernel
theorem dksX3_stateOf_1 : cX3_stateOf.data.toList.drop 24 = dktX3_stateOf_1 := dk_seg dksX3_stateOf_0 24 rfl rfl
theorem dX3_stateOf_0 : decode cX3_stateOf 0 = .ok (.aload_n 0, 1) := dk_42 (dk_at dksX3_stateOf_0 0 rfl rfl)
theorem dX3_stateOf_1 : decode cX3_stateOf 1 = .ok (.aload_n 0, 1) := dk_42 (dk_at dksX3_stateOf_0 1 rfl rfl)
theorem dX3_stateOf_2 : decode cX3_stateOf 2 = .ok (.iload_n 1, 1) := dk_27 (dk_at dksX3_stateOf_0 2 rfl rfl)
theorem dX3_stateOf_3 : decode cX3_stateOf 3 = .ok (.invokevirtual 153, 3) := dk_182 0 153 (dk_at dksX3_stateOf_0 3 rfl rfl)
theorem dX3_stateOf_6 : decode cX3_stateOf 6 = .ok (.ifCond .eq 7, 3) := dk_153 0 7 (dk_at dksX3_stateOf_0 6 rfl rfl)
theorem dX3_stateOf_9 : decode cX3_stateOf 9 = .ok (.iconst 0, 1) := dk_3 (dk_at dksX3_stateOf_0 9 rfl rfl)
theorem dX3_stateOf_10 : decode cX3_stateOf 10 = .ok (.goto 4, 3) := dk_167 0 4 (dk_at dksX3_stateOf_0 10 rfl rfl)
theorem dX3_stateOf_13 : decode cX3_stateOf 13 = .ok (.iconst 1, 1) := dk_4 (dk_at dksX3_stateOf_0 13 rfl rfl)
theorem dX3_stateOf_14 : decode cX3_stateOf 14 = .ok (.invokevirtual 76, 3) := dk_182 0 76 (dk_at dksX3_stateOf_0 14 rfl rfl)
theorem dX3_stateOf_17 : decode cX3_stateOf 17 = .ok (.ifCond .eq 12, 3) := dk_153 0 12 (dk_at dksX3_stateOf_0 17 rfl rfl)
theorem dX3_stateOf_20 : decode cX3_stateOf 20 = .ok (.aload_n 0, 1) := dk_42 (dk_at dksX3_stateOf_0 20 rfl rfl)
theorem dX3_stateOf_21 : decode cX3_stateOf 21 = .ok (.getfield 60, 3) := dk_180 0 60 (dk_at dksX3_stateOf_0 21 rfl rfl)
theorem dX3_stateOf_24 : decode cX3_stateOf 24 = .ok (.iload_n 1, 1) := dk_27 (dk_at dksX3_stateOf_1 0 rfl rfl)
theorem dX3_stateOf_25 : decode cX3_stateOf 25 = .ok (.iaload, 1) := dk_46 (dk_at dksX3_stateOf_1 1 rfl rfl)
theorem dX3_stateOf_26 : decode cX3_stateOf 26 = .ok (.goto 4, 3) := dk_167 0 4 (dk_at dksX3_stateOf_1 2 rfl rfl)
theorem dX3_stateOf_29 : decode cX3_stateOf 29 = .ok (.iconst 0, 1) := dk_3 (dk_at dksX3_stateOf_1 5 rfl rfl)
theorem dX3_stateOf_30 : decode cX3_stateOf 30 = .ok (.ireturn, 1) := dk_172 (dk_at dksX3_stateOf_1 6 rfl rfl)
abbrev cX3_readerAt : ByteArray := prog_7_method_46_code
def yX3_readerAt : MethodName := ⟨RX3, "readerAt", "(I)I"⟩
def dkwX3_readerAt_4 : List UInt8 := [160, 0, 7, 29, 167, 0, 4, 28, 61, 132, 3, 1, 167, 255, 178, 28, 172]
abbrev dktX3_readerAt_4 : List UInt8 := dkwX3_readerAt_4 ++ []
def dkwX3_readerAt_3 : List UInt8 := [21, 5, 29, 162, 0, 7, 4, 167, 0, 4, 3, 96, 54, 4, 132, 5, 1, 167, 255, 207, 21, 4, 27]
abbrev dktX3_readerAt_3 : List UInt8 := dkwX3_readerAt_3 ++ dktX3_readerAt_4
def dkwX3_readerAt_2 : List UInt8 := [182, 0, 156, 42, 29, 182, 0, 156, 100, 54, 6, 21, 4, 21, 6, 157, 0, 14, 21, 6, 154, 0, 13]
abbrev dktX3_readerAt_2 : List UInt8 := dkwX3_readerAt_2 ++ dktX3_readerAt_3
def dkwX3_readerAt_1 : List UInt8 := [61, 3, 62, 29, 8, 162, 0, 79, 3, 54, 4, 3, 54, 5, 21, 5, 8, 162, 0, 49, 42, 21, 5]
abbrev dktX3_readerAt_1 : List UInt8 := dkwX3_readerAt_1 ++ dktX3_readerAt_2
def dkwX3_readerAt_0 : List UInt8 := [42, 27, 3, 7, 184, 0, 69, 153, 0, 7, 3, 167, 0, 4, 4, 182, 0, 76, 154, 0, 5, 3, 172, 3]
abbrev dktX3_readerAt_0 : List UInt8 := dkwX3_readerAt_0 ++ dktX3_readerAt_1
theorem dksX3_readerAt_0 : cX3_readerAt.data.toList.drop 0 = dktX3_readerAt_0 := by decide +kernel
theorem dksX3_readerAt_1 : cX3_readerAt.data.toList.drop 24 = dktX3_readerAt_1 := dk_seg dksX3_readerAt_0 24 rfl rfl
theorem dksX3_readerAt_2 : cX3_readerAt.data.toList.drop 47 = dktX3_readerAt_2 := dk_seg dksX3_readerAt_1 23 rfl rfl
theorem dksX3_readerAt_3 : cX3_readerAt.data.toList.drop 70 = dktX3_readerAt_3 := dk_seg dksX3_readerAt_2 23 rfl rfl
theorem dksX3_readerAt_4 : cX3_readerAt.data.toList.drop 93 = dktX3_readerAt_4 := dk_seg dksX3_readerAt_3 23 rfl rfl
theorem dX3_readerAt_0 : decode cX3_readerAt 0 = .ok (.aload_n 0, 1) := dk_42 (dk_at dksX3_readerAt_0 0 rfl rfl)
theorem dX3_readerAt_1 : decode cX3_readerAt 1 = .ok (.iload_n 1, 1) := dk_27 (dk_at dksX3_readerAt_0 1 rfl rfl)
theorem dX3_readerAt_2 : decode cX3_readerAt 2 = .ok (.iconst 0, 1) := dk_3 (dk_at dksX3_readerAt_0 2 rfl rfl)
theorem dX3_readerAt_3 : decode cX3_readerAt 3 = .ok (.iconst 4, 1) := dk_7 (dk_at dksX3_readerAt_0 3 rfl rfl)
theorem dX3_readerAt_4 : decode cX3_readerAt 4 = .ok (.invokestatic 69, 3) := dk_184 0 69 (dk_at dksX3_readerAt_0 4 rfl rfl)
theorem dX3_readerAt_7 : decode cX3_readerAt 7 = .ok (.ifCond .eq 7, 3) := dk_153 0 7 (dk_at dksX3_readerAt_0 7 rfl rfl)
theorem dX3_readerAt_10 : decode cX3_readerAt 10 = .ok (.iconst 0, 1) := dk_3 (dk_at dksX3_readerAt_0 10 rfl rfl)
theorem dX3_readerAt_11 : decode cX3_readerAt 11 = .ok (.goto 4, 3) := dk_167 0 4 (dk_at dksX3_readerAt_0 11 rfl rfl)
theorem dX3_readerAt_14 : decode cX3_readerAt 14 = .ok (.iconst 1, 1) := dk_4 (dk_at dksX3_readerAt_0 14 rfl rfl)
theorem dX3_readerAt_15 : decode cX3_readerAt 15 = .ok (.invokevirtual 76, 3) := dk_182 0 76 (dk_at dksX3_readerAt_0 15 rfl rfl)
theorem dX3_readerAt_18 : decode cX3_readerAt 18 = .ok (.ifCond .ne 5, 3) := dk_154 0 5 (dk_at dksX3_readerAt_0 18 rfl rfl)
theorem dX3_readerAt_21 : decode cX3_readerAt 21 = .ok (.iconst 0, 1) := dk_3 (dk_at dksX3_readerAt_0 21 rfl rfl)
theorem dX3_readerAt_22 : decode cX3_readerAt 22 = .ok (.ireturn, 1) := dk_172 (dk_at dksX3_readerAt_0 22 rfl rfl)
theorem dX3_readerAt_23 : decode cX3_readerAt 23 = .ok (.iconst 0, 1) := dk_3 (dk_at dksX3_readerAt_0 23 rfl rfl)
theorem dX3_readerAt_24 : decode cX3_readerAt 24 = .ok (.istore_n 2, 1) := dk_61 (dk_at dksX3_readerAt_1 0 rfl rfl)
theorem dX3_readerAt_25 : decode cX3_readerAt 25 = .ok (.iconst 0, 1) := dk_3 (dk_at dksX3_readerAt_1 1 rfl rfl)
theorem dX3_readerAt_26 : decode cX3_readerAt 26 = .ok (.istore_n 3, 1) := dk_62 (dk_at dksX3_readerAt_1 2 rfl rfl)
theorem dX3_readerAt_27 : decode cX3_readerAt 27 = .ok (.iload_n 3, 1) := dk_29 (dk_at dksX3_readerAt_1 3 rfl rfl)
theorem dX3_readerAt_28 : decode cX3_readerAt 28 = .ok (.iconst 5, 1) := dk_8 (dk_at dksX3_readerAt_1 4 rfl rfl)
theorem dX3_readerAt_29 : decode cX3_readerAt 29 = .ok (.if_icmp .ge 79, 3) := dk_162 0 79 (dk_at dksX3_readerAt_1 5 rfl rfl)
theorem dX3_readerAt_32 : decode cX3_readerAt 32 = .ok (.iconst 0, 1) := dk_3 (dk_at dksX3_readerAt_1 8 rfl rfl)
theorem dX3_readerAt_33 : decode cX3_readerAt 33 = .ok (.istore 4, 2) := dk_54 4 (dk_at dksX3_readerAt_1 9 rfl rfl)
theorem dX3_readerAt_35 : decode cX3_readerAt 35 = .ok (.iconst 0, 1) := dk_3 (dk_at dksX3_readerAt_1 11 rfl rfl)
theorem dX3_readerAt_36 : decode cX3_readerAt 36 = .ok (.istore 5, 2) := dk_54 5 (dk_at dksX3_readerAt_1 12 rfl rfl)
theorem dX3_readerAt_38 : decode cX3_readerAt 38 = .ok (.iload 5, 2) := dk_21 5 (dk_at dksX3_readerAt_1 14 rfl rfl)
theorem dX3_readerAt_40 : decode cX3_readerAt 40 = .ok (.iconst 5, 1) := dk_8 (dk_at dksX3_readerAt_1 16 rfl rfl)
theorem dX3_readerAt_41 : decode cX3_readerAt 41 = .ok (.if_icmp .ge 49, 3) := dk_162 0 49 (dk_at dksX3_readerAt_1 17 rfl rfl)
theorem dX3_readerAt_44 : decode cX3_readerAt 44 = .ok (.aload_n 0, 1) := dk_42 (dk_at dksX3_readerAt_1 20 rfl rfl)
theorem dX3_readerAt_45 : decode cX3_readerAt 45 = .ok (.iload 5, 2) := dk_21 5 (dk_at dksX3_readerAt_1 21 rfl rfl)
theorem dX3_readerAt_47 : decode cX3_readerAt 47 = .ok (.invokevirtual 156, 3) := dk_182 0 156 (dk_at dksX3_readerAt_2 0 rfl rfl)
theorem dX3_readerAt_50 : decode cX3_readerAt 50 = .ok (.aload_n 0, 1) := dk_42 (dk_at dksX3_readerAt_2 3 rfl rfl)
theorem dX3_readerAt_51 : decode cX3_readerAt 51 = .ok (.iload_n 3, 1) := dk_29 (dk_at dksX3_readerAt_2 4 rfl rfl)
theorem dX3_readerAt_52 : decode cX3_readerAt 52 = .ok (.invokevirtual 156, 3) := dk_182 0 156 (dk_at dksX3_readerAt_2 5 rfl rfl)
theorem dX3_readerAt_55 : decode cX3_readerAt 55 = .ok (.isub, 1) := dk_100 (dk_at dksX3_readerAt_2 8 rfl rfl)
theorem dX3_readerAt_56 : decode cX3_readerAt 56 = .ok (.istore 6, 2) := dk_54 6 (dk_at dksX3_readerAt_2 9 rfl rfl)
theorem dX3_readerAt_58 : decode cX3_readerAt 58 = .ok (.iload 4, 2) := dk_21 4 (dk_at dksX3_readerAt_2 11 rfl rfl)
theorem dX3_readerAt_60 : decode cX3_readerAt 60 = .ok (.iload 6, 2) := dk_21 6 (dk_at dksX3_readerAt_2 13 rfl rfl)
theorem dX3_readerAt_62 : decode cX3_readerAt 62 = .ok (.ifCond .gt 14, 3) := dk_157 0 14 (dk_at dksX3_readerAt_2 15 rfl rfl)
theorem dX3_readerAt_65 : decode cX3_readerAt 65 = .ok (.iload 6, 2) := dk_21 6 (dk_at dksX3_readerAt_2 18 rfl rfl)
theorem dX3_readerAt_67 : decode cX3_readerAt 67 = .ok (.ifCond .ne 13, 3) := dk_154 0 13 (dk_at dksX3_readerAt_2 20 rfl rfl)
theorem dX3_readerAt_70 : decode cX3_readerAt 70 = .ok (.iload 5, 2) := dk_21 5 (dk_at dksX3_readerAt_3 0 rfl rfl)
theorem dX3_readerAt_72 : decode cX3_readerAt 72 = .ok (.iload_n 3, 1) := dk_29 (dk_at dksX3_readerAt_3 2 rfl rfl)
theorem dX3_readerAt_73 : decode cX3_readerAt 73 = .ok (.if_icmp .ge 7, 3) := dk_162 0 7 (dk_at dksX3_readerAt_3 3 rfl rfl)
theorem dX3_readerAt_76 : decode cX3_readerAt 76 = .ok (.iconst 1, 1) := dk_4 (dk_at dksX3_readerAt_3 6 rfl rfl)
theorem dX3_readerAt_77 : decode cX3_readerAt 77 = .ok (.goto 4, 3) := dk_167 0 4 (dk_at dksX3_readerAt_3 7 rfl rfl)
theorem dX3_readerAt_80 : decode cX3_readerAt 80 = .ok (.iconst 0, 1) := dk_3 (dk_at dksX3_readerAt_3 10 rfl rfl)
theorem dX3_readerAt_81 : decode cX3_readerAt 81 = .ok (.iadd, 1) := dk_96 (dk_at dksX3_readerAt_3 11 rfl rfl)
theorem dX3_readerAt_82 : decode cX3_readerAt 82 = .ok (.istore 4, 2) := dk_54 4 (dk_at dksX3_readerAt_3 12 rfl rfl)
theorem dX3_readerAt_84 : decode cX3_readerAt 84 = .ok (.iinc 5 1, 3) := dk_132 5 1 (dk_at dksX3_readerAt_3 14 rfl rfl)
theorem dX3_readerAt_87 : decode cX3_readerAt 87 = .ok (.goto (-49), 3) := dk_167 255 207 (dk_at dksX3_readerAt_3 17 rfl rfl)
theorem dX3_readerAt_90 : decode cX3_readerAt 90 = .ok (.iload 4, 2) := dk_21 4 (dk_at dksX3_readerAt_3 20 rfl rfl)
theorem dX3_readerAt_92 : decode cX3_readerAt 92 = .ok (.iload_n 1, 1) := dk_27 (dk_at dksX3_readerAt_3 22 rfl rfl)
theorem dX3_readerAt_93 : decode cX3_readerAt 93 = .ok (.if_icmp .ne 7, 3) := dk_160 0 7 (dk_at dksX3_readerAt_4 0 rfl rfl)
theorem dX3_readerAt_96 : decode cX3_readerAt 96 = .ok (.iload_n 3, 1) := dk_29 (dk_at dksX3_readerAt_4 3 rfl rfl)
theorem dX3_readerAt_97 : decode cX3_readerAt 97 = .ok (.goto 4, 3) := dk_167 0 4 (dk_at dksX3_readerAt_4 4 rfl rfl)
theorem dX3_readerAt_100 : decode cX3_readerAt 100 = .ok (.iload_n 2, 1) := dk_28 (dk_at dksX3_readerAt_4 7 rfl rfl)
theorem dX3_readerAt_101 : decode cX3_readerAt 101 = .ok (.istore_n 2, 1) := dk_61 (dk_at dksX3_readerAt_4 8 rfl rfl)
theorem dX3_readerAt_102 : decode cX3_readerAt 102 = .ok (.iinc 3 1, 3) := dk_132 3 1 (dk_at dksX3_readerAt_4 9 rfl rfl)
theorem dX3_readerAt_105 : decode cX3_readerAt 105 = .ok (.goto (-78), 3) := dk_167 255 178 (dk_at dksX3_readerAt_4 12 rfl rfl)
theorem dX3_readerAt_108 : decode cX3_readerAt 108 = .ok (.iload_n 2, 1) := dk_28 (dk_at dksX3_readerAt_4 15 rfl rfl)
theorem dX3_readerAt_109 : decode cX3_readerAt 109 = .ok (.ireturn, 1) := dk_172 (dk_at dksX3_readerAt_4 16 rfl rfl)
theorem q61 : (Jvm.Cond.initialized "ProofPagesModel") ∈ lw_all := lw_g (lw_at lw_m1 21 rfl) rfl
theorem q648 : (Jvm.Cond.selects "ProofPagesModel" ({ cls := "java/lang/Object", name := "getClass", desc := "()Ljava/lang/Class;" } : Jvm.MethodName) ({ cls := "java/lang/Object", name := "getClass", desc := "()Ljava/lang/Class;" } : Jvm.MethodName)) ∈ lw_all := lw_g (lw_at lw_m3 128 rfl) rfl
theorem q916 : (Jvm.Cond.instantiable "ProofPagesModel" (21 : Nat)) ∈ lw_all := lw_g (lw_at lw_m4 156 rfl) rfl
theorem q918 : (Jvm.Cond.instanceMethod ({ cls := "ProofPagesModel", name := "<init>", desc := "()V" } : Jvm.MethodName)) ∈ lw_all := lw_g (lw_at lw_m4 158 rfl) rfl
theorem q919 : (Jvm.Cond.code ({ cls := "ProofPagesModel", name := "<init>", desc := "()V" } : Jvm.MethodName) prog_7_method_1_code (1 : Nat) (Option.none : Option Jvm.ClassFile.FieldType)) ∈ lw_all := lw_g (lw_at lw_m4 159 rfl) rfl
theorem q920 : (Jvm.Cond.methodLink "ProofPagesModel" (1 : Nat) ({ cls := "java/lang/Object", name := "<init>", desc := "()V" } : Jvm.MethodName)) ∈ lw_all := lw_g (lw_at lw_m4 160 rfl) rfl
theorem q921 : (Jvm.Cond.fieldLink "ProofPagesModel" (63 : Nat) "ProofPagesModel" "thrown" "I") ∈ lw_all := lw_g (lw_at lw_m4 161 rfl) rfl
theorem q922 : (Jvm.Cond.fieldLink "ProofPagesModel" (7 : Nat) "ProofPagesModel" "width" "I") ∈ lw_all := lw_g (lw_at lw_m4 162 rfl) rfl
theorem q923 : (Jvm.Cond.fieldLink "ProofPagesModel" (13 : Nat) "ProofPagesModel" "height" "I") ∈ lw_all := lw_g (lw_at lw_m4 163 rfl) rfl
theorem q924 : (Jvm.Cond.fieldLink "ProofPagesModel" (66 : Nat) "ProofPagesModel" "paragraphs" "I") ∈ lw_all := lw_g (lw_at lw_m4 164 rfl) rfl
theorem q925 : (Jvm.Cond.fieldLink "ProofPagesModel" (16 : Nat) "ProofPagesModel" "isFrozen" "[Z") ∈ lw_all := lw_g (lw_at lw_m4 165 rfl) rfl
theorem q926 : (Jvm.Cond.fieldLink "ProofPagesModel" (20 : Nat) "ProofPagesModel" "many" "[I") ∈ lw_all := lw_g (lw_at lw_m4 166 rfl) rfl
theorem q927 : (Jvm.Cond.fieldLink "ProofPagesModel" (24 : Nat) "ProofPagesModel" "wordAt" "[I") ∈ lw_all := lw_g (lw_at lw_m4 167 rfl) rfl
theorem q928 : (Jvm.Cond.fieldLink "ProofPagesModel" (73 : Nat) "ProofPagesModel" "words" "I") ∈ lw_all := lw_g (lw_at lw_m4 168 rfl) rfl
theorem q929 : (Jvm.Cond.fieldLink "ProofPagesModel" (27 : Nat) "ProofPagesModel" "letters" "[I") ∈ lw_all := lw_g (lw_at lw_m4 169 rfl) rfl
theorem q930 : (Jvm.Cond.fieldLink "ProofPagesModel" (30 : Nat) "ProofPagesModel" "ofParagraph" "[I") ∈ lw_all := lw_g (lw_at lw_m4 170 rfl) rfl
theorem q931 : (Jvm.Cond.fieldLink "ProofPagesModel" (33 : Nat) "ProofPagesModel" "placeIn" "[I") ∈ lw_all := lw_g (lw_at lw_m4 171 rfl) rfl
theorem q932 : (Jvm.Cond.fieldLink "ProofPagesModel" (36 : Nat) "ProofPagesModel" "scores" "[I") ∈ lw_all := lw_g (lw_at lw_m4 172 rfl) rfl
theorem q933 : (Jvm.Cond.fieldLink "ProofPagesModel" (39 : Nat) "ProofPagesModel" "isEnd" "[Z") ∈ lw_all := lw_g (lw_at lw_m4 173 rfl) rfl
theorem q934 : (Jvm.Cond.fieldLink "ProofPagesModel" (42 : Nat) "ProofPagesModel" "isKept" "[Z") ∈ lw_all := lw_g (lw_at lw_m4 174 rfl) rfl
theorem q935 : (Jvm.Cond.fieldLink "ProofPagesModel" (45 : Nat) "ProofPagesModel" "least" "[I") ∈ lw_all := lw_g (lw_at lw_m4 175 rfl) rfl
theorem q936 : (Jvm.Cond.fieldLink "ProofPagesModel" (48 : Nat) "ProofPagesModel" "next" "[I") ∈ lw_all := lw_g (lw_at lw_m4 176 rfl) rfl
theorem q937 : (Jvm.Cond.fieldLink "ProofPagesModel" (51 : Nat) "ProofPagesModel" "linesIn" "[I") ∈ lw_all := lw_g (lw_at lw_m4 177 rfl) rfl
theorem q938 : (Jvm.Cond.fieldLink "ProofPagesModel" (147 : Nat) "ProofPagesModel" "errors" "I") ∈ lw_all := lw_g (lw_at lw_m4 178 rfl) rfl
theorem q939 : (Jvm.Cond.fieldLink "ProofPagesModel" (54 : Nat) "ProofPagesModel" "readers" "[I") ∈ lw_all := lw_g (lw_at lw_m4 179 rfl) rfl
theorem q940 : (Jvm.Cond.fieldLink "ProofPagesModel" (57 : Nat) "ProofPagesModel" "errorWords" "[I") ∈ lw_all := lw_g (lw_at lw_m4 180 rfl) rfl
theorem q941 : (Jvm.Cond.fieldLink "ProofPagesModel" (60 : Nat) "ProofPagesModel" "states" "[I") ∈ lw_all := lw_g (lw_at lw_m4 181 rfl) rfl
theorem q942 : (Jvm.Cond.lays "ProofPagesModel" "ProofPagesModel" "thrown" "I") ∈ lw_all := lw_g (lw_at lw_m4 182 rfl) rfl
theorem q943 : (Jvm.Cond.soleField "ProofPagesModel" "thrown") ∈ lw_all := lw_g (lw_at lw_m4 183 rfl) rfl
theorem q944 : (Jvm.Cond.lays "ProofPagesModel" "ProofPagesModel" "width" "I") ∈ lw_all := lw_g (lw_at lw_m4 184 rfl) rfl
theorem q945 : (Jvm.Cond.soleField "ProofPagesModel" "width") ∈ lw_all := lw_g (lw_at lw_m4 185 rfl) rfl
theorem q946 : (Jvm.Cond.lays "ProofPagesModel" "ProofPagesModel" "height" "I") ∈ lw_all := lw_g (lw_at lw_m4 186 rfl) rfl
theorem q947 : (Jvm.Cond.soleField "ProofPagesModel" "height") ∈ lw_all := lw_g (lw_at lw_m4 187 rfl) rfl
theorem q948 : (Jvm.Cond.lays "ProofPagesModel" "ProofPagesModel" "paragraphs" "I") ∈ lw_all := lw_g (lw_at lw_m4 188 rfl) rfl
theorem q949 : (Jvm.Cond.soleField "ProofPagesModel" "paragraphs") ∈ lw_all := lw_g (lw_at lw_m4 189 rfl) rfl
theorem q950 : (Jvm.Cond.laysFinal "ProofPagesModel" "ProofPagesModel" "isFrozen" "[Z") ∈ lw_all := lw_g (lw_at lw_m4 190 rfl) rfl
theorem q951 : (Jvm.Cond.soleField "ProofPagesModel" "isFrozen") ∈ lw_all := lw_g (lw_at lw_m4 191 rfl) rfl
theorem q952 : (Jvm.Cond.laysFinal "ProofPagesModel" "ProofPagesModel" "many" "[I") ∈ lw_all := lw_g (lw_at lw_m4 192 rfl) rfl
theorem q953 : (Jvm.Cond.soleField "ProofPagesModel" "many") ∈ lw_all := lw_g (lw_at lw_m4 193 rfl) rfl
theorem q954 : (Jvm.Cond.laysFinal "ProofPagesModel" "ProofPagesModel" "wordAt" "[I") ∈ lw_all := lw_g (lw_at lw_m4 194 rfl) rfl
theorem q955 : (Jvm.Cond.soleField "ProofPagesModel" "wordAt") ∈ lw_all := lw_g (lw_at lw_m4 195 rfl) rfl
theorem q956 : (Jvm.Cond.lays "ProofPagesModel" "ProofPagesModel" "words" "I") ∈ lw_all := lw_g (lw_at lw_m4 196 rfl) rfl
theorem q957 : (Jvm.Cond.soleField "ProofPagesModel" "words") ∈ lw_all := lw_g (lw_at lw_m4 197 rfl) rfl
theorem q958 : (Jvm.Cond.laysFinal "ProofPagesModel" "ProofPagesModel" "letters" "[I") ∈ lw_all := lw_g (lw_at lw_m4 198 rfl) rfl
theorem q959 : (Jvm.Cond.soleField "ProofPagesModel" "letters") ∈ lw_all := lw_g (lw_at lw_m4 199 rfl) rfl
theorem q960 : (Jvm.Cond.laysFinal "ProofPagesModel" "ProofPagesModel" "ofParagraph" "[I") ∈ lw_all := lw_g (lw_at lw_m4 200 rfl) rfl
theorem q961 : (Jvm.Cond.soleField "ProofPagesModel" "ofParagraph") ∈ lw_all := lw_g (lw_at lw_m4 201 rfl) rfl
theorem q962 : (Jvm.Cond.laysFinal "ProofPagesModel" "ProofPagesModel" "placeIn" "[I") ∈ lw_all := lw_g (lw_at lw_m4 202 rfl) rfl
theorem q963 : (Jvm.Cond.soleField "ProofPagesModel" "placeIn") ∈ lw_all := lw_g (lw_at lw_m4 203 rfl) rfl
theorem q964 : (Jvm.Cond.laysFinal "ProofPagesModel" "ProofPagesModel" "scores" "[I") ∈ lw_all := lw_g (lw_at lw_m4 204 rfl) rfl
theorem q965 : (Jvm.Cond.soleField "ProofPagesModel" "scores") ∈ lw_all := lw_g (lw_at lw_m4 205 rfl) rfl
theorem q966 : (Jvm.Cond.laysFinal "ProofPagesModel" "ProofPagesModel" "isEnd" "[Z") ∈ lw_all := lw_g (lw_at lw_m4 206 rfl) rfl
theorem q967 : (Jvm.Cond.soleField "ProofPagesModel" "isEnd") ∈ lw_all := lw_g (lw_at lw_m4 207 rfl) rfl
theorem q968 : (Jvm.Cond.laysFinal "ProofPagesModel" "ProofPagesModel" "isKept" "[Z") ∈ lw_all := lw_g (lw_at lw_m4 208 rfl) rfl
theorem q969 : (Jvm.Cond.soleField "ProofPagesModel" "isKept") ∈ lw_all := lw_g (lw_at lw_m4 209 rfl) rfl
theorem q970 : (Jvm.Cond.laysFinal "ProofPagesModel" "ProofPagesModel" "least" "[I") ∈ lw_all := lw_g (lw_at lw_m4 210 rfl) rfl
theorem q971 : (Jvm.Cond.soleField "ProofPagesModel" "least") ∈ lw_all := lw_g (lw_at lw_m4 211 rfl) rfl
theorem q972 : (Jvm.Cond.laysFinal "ProofPagesModel" "ProofPagesModel" "next" "[I") ∈ lw_all := lw_g (lw_at lw_m4 212 rfl) rfl
theorem q973 : (Jvm.Cond.soleField "ProofPagesModel" "next") ∈ lw_all := lw_g (lw_at lw_m4 213 rfl) rfl
theorem q974 : (Jvm.Cond.laysFinal "ProofPagesModel" "ProofPagesModel" "linesIn" "[I") ∈ lw_all := lw_g (lw_at lw_m4 214 rfl) rfl
theorem q975 : (Jvm.Cond.soleField "ProofPagesModel" "linesIn") ∈ lw_all := lw_g (lw_at lw_m4 215 rfl) rfl
theorem q976 : (Jvm.Cond.lays "ProofPagesModel" "ProofPagesModel" "errors" "I") ∈ lw_all := lw_g (lw_at lw_m4 216 rfl) rfl
theorem q977 : (Jvm.Cond.soleField "ProofPagesModel" "errors") ∈ lw_all := lw_g (lw_at lw_m4 217 rfl) rfl
theorem q978 : (Jvm.Cond.laysFinal "ProofPagesModel" "ProofPagesModel" "readers" "[I") ∈ lw_all := lw_g (lw_at lw_m4 218 rfl) rfl
theorem q979 : (Jvm.Cond.soleField "ProofPagesModel" "readers") ∈ lw_all := lw_g (lw_at lw_m4 219 rfl) rfl
theorem q980 : (Jvm.Cond.laysFinal "ProofPagesModel" "ProofPagesModel" "errorWords" "[I") ∈ lw_all := lw_g (lw_at lw_m4 220 rfl) rfl
theorem q981 : (Jvm.Cond.soleField "ProofPagesModel" "errorWords") ∈ lw_all := lw_g (lw_at lw_m4 221 rfl) rfl
theorem q982 : (Jvm.Cond.laysFinal "ProofPagesModel" "ProofPagesModel" "states" "[I") ∈ lw_all := lw_g (lw_at lw_m4 222 rfl) rfl
theorem q983 : (Jvm.Cond.soleField "ProofPagesModel" "states") ∈ lw_all := lw_g (lw_at lw_m4 223 rfl) rfl
theorem q984 : (Jvm.Cond.superclass "ProofPagesModel" "java/lang/Object") ∈ lw_all := lw_g (lw_at lw_m4 224 rfl) rfl
theorem q987 : (Jvm.Cond.instanceMethod ({ cls := "ProofPagesModel", name := "thrown", desc := "()I" } : Jvm.MethodName)) ∈ lw_all := lw_g (lw_at lw_m4 227 rfl) rfl
theorem q988 : (Jvm.Cond.selects "ProofPagesModel" ({ cls := "ProofPagesModel", name := "thrown", desc := "()I" } : Jvm.MethodName) ({ cls := "ProofPagesModel", name := "thrown", desc := "()I" } : Jvm.MethodName)) ∈ lw_all := lw_g (lw_at lw_m4 228 rfl) rfl
theorem q989 : (Jvm.Cond.code ({ cls := "ProofPagesModel", name := "thrown", desc := "()I" } : Jvm.MethodName) prog_7_method_2_code (1 : Nat) (Option.some Jvm.ClassFile.FieldType.int)) ∈ lw_all := lw_g (lw_at lw_m4 229 rfl) rfl
theorem q991 : (Jvm.Cond.instanceMethod ({ cls := "ProofPagesModel", name := "addParagraph", desc := "()I" } : Jvm.MethodName)) ∈ lw_all := lw_g (lw_at lw_m4 231 rfl) rfl
theorem q992 : (Jvm.Cond.selects "ProofPagesModel" ({ cls := "ProofPagesModel", name := "addParagraph", desc := "()I" } : Jvm.MethodName) ({ cls := "ProofPagesModel", name := "addParagraph", desc := "()I" } : Jvm.MethodName)) ∈ lw_all := lw_g (lw_at lw_m4 232 rfl) rfl
theorem q993 : (Jvm.Cond.code ({ cls := "ProofPagesModel", name := "addParagraph", desc := "()I" } : Jvm.MethodName) prog_7_method_7_code (1 : Nat) (Option.some Jvm.ClassFile.FieldType.int)) ∈ lw_all := lw_g (lw_at lw_m4 233 rfl) rfl
theorem q994 : (Jvm.Cond.methodLink "ProofPagesModel" (76 : Nat) ({ cls := "ProofPagesModel", name := "holds", desc := "(I)Z" } : Jvm.MethodName)) ∈ lw_all := lw_g (lw_at lw_m4 234 rfl) rfl
theorem q995 : (Jvm.Cond.privateMethod ({ cls := "ProofPagesModel", name := "holds", desc := "(I)Z" } : Jvm.MethodName)) ∈ lw_tbl := lw_at lw_m4 235 rfl
theorem q996 : (Jvm.Cond.instanceMethod ({ cls := "ProofPagesModel", name := "holds", desc := "(I)Z" } : Jvm.MethodName)) ∈ lw_all := lw_g (lw_at lw_m4 236 rfl) rfl
theorem q997 : (Jvm.Cond.code ({ cls := "ProofPagesModel", name := "holds", desc := "(I)Z" } : Jvm.MethodName) prog_7_method_3_code (2 : Nat) (Option.some Jvm.ClassFile.FieldType.boolean)) ∈ lw_all := lw_g (lw_at lw_m4 237 rfl) rfl
theorem q999 : (Jvm.Cond.instanceMethod ({ cls := "ProofPagesModel", name := "addWord", desc := "(II)I" } : Jvm.MethodName)) ∈ lw_all := lw_g (lw_at lw_m4 239 rfl) rfl
theorem q1000 : (Jvm.Cond.selects "ProofPagesModel" ({ cls := "ProofPagesModel", name := "addWord", desc := "(II)I" } : Jvm.MethodName) ({ cls := "ProofPagesModel", name := "addWord", desc := "(II)I" } : Jvm.MethodName)) ∈ lw_all := lw_g (lw_at lw_m5 0 rfl) rfl
theorem q1001 : (Jvm.Cond.code ({ cls := "ProofPagesModel", name := "addWord", desc := "(II)I" } : Jvm.MethodName) prog_7_method_8_code (5 : Nat) (Option.some Jvm.ClassFile.FieldType.int)) ∈ lw_all := lw_g (lw_at lw_m5 1 rfl) rfl
theorem q1002 : (Jvm.Cond.methodLink "ProofPagesModel" (80 : Nat) ({ cls := "ProofPagesModel", name := "isParagraph", desc := "(I)Z" } : Jvm.MethodName)) ∈ lw_all := lw_g (lw_at lw_m5 2 rfl) rfl
theorem q1003 : (Jvm.Cond.privateMethod ({ cls := "ProofPagesModel", name := "isParagraph", desc := "(I)Z" } : Jvm.MethodName)) ∈ lw_tbl := lw_at lw_m5 3 rfl
theorem q1004 : (Jvm.Cond.instanceMethod ({ cls := "ProofPagesModel", name := "isParagraph", desc := "(I)Z" } : Jvm.MethodName)) ∈ lw_all := lw_g (lw_at lw_m5 4 rfl) rfl
theorem q1005 : (Jvm.Cond.code ({ cls := "ProofPagesModel", name := "isParagraph", desc := "(I)Z" } : Jvm.MethodName) prog_7_method_5_code (2 : Nat) (Option.some Jvm.ClassFile.FieldType.boolean)) ∈ lw_all := lw_g (lw_at lw_m5 5 rfl) rfl
theorem q1006 : (Jvm.Cond.methodLink "ProofPagesModel" (69 : Nat) ({ cls := "ProofPagesModel", name := "isIn", desc := "(III)Z" } : Jvm.MethodName)) ∈ lw_all := lw_g (lw_at lw_m5 6 rfl) rfl
theorem q1007 : (Jvm.Cond.static ({ cls := "ProofPagesModel", name := "isIn", desc := "(III)Z" } : Jvm.MethodName)) ∈ lw_all := lw_g (lw_at lw_m5 7 rfl) rfl
theorem q1008 : (Jvm.Cond.code ({ cls := "ProofPagesModel", name := "isIn", desc := "(III)Z" } : Jvm.MethodName) prog_7_method_4_code (3 : Nat) (Option.some Jvm.ClassFile.FieldType.boolean)) ∈ lw_all := lw_g (lw_at lw_m5 8 rfl) rfl
theorem q1010 : (Jvm.Cond.instanceMethod ({ cls := "ProofPagesModel", name := "vote", desc := "(IIZ)I" } : Jvm.MethodName)) ∈ lw_all := lw_g (lw_at lw_m5 10 rfl) rfl
theorem q1011 : (Jvm.Cond.selects "ProofPagesModel" ({ cls := "ProofPagesModel", name := "vote", desc := "(IIZ)I" } : Jvm.MethodName) ({ cls := "ProofPagesModel", name := "vote", desc := "(IIZ)I" } : Jvm.MethodName)) ∈ lw_all := lw_g (lw_at lw_m5 11 rfl) rfl
theorem q1012 : (Jvm.Cond.code ({ cls := "ProofPagesModel", name := "vote", desc := "(IIZ)I" } : Jvm.MethodName) prog_7_method_9_code (6 : Nat) (Option.some Jvm.ClassFile.FieldType.int)) ∈ lw_all := lw_g (lw_at lw_m5 12 rfl) rfl
theorem q1013 : (Jvm.Cond.methodLink "ProofPagesModel" (83 : Nat) ({ cls := "ProofPagesModel", name := "isWord", desc := "(I)Z" } : Jvm.MethodName)) ∈ lw_all := lw_g (lw_at lw_m5 13 rfl) rfl
theorem q1014 : (Jvm.Cond.privateMethod ({ cls := "ProofPagesModel", name := "isWord", desc := "(I)Z" } : Jvm.MethodName)) ∈ lw_tbl := lw_at lw_m5 14 rfl
theorem q1015 : (Jvm.Cond.instanceMethod ({ cls := "ProofPagesModel", name := "isWord", desc := "(I)Z" } : Jvm.MethodName)) ∈ lw_all := lw_g (lw_at lw_m5 15 rfl) rfl
theorem q1016 : (Jvm.Cond.code ({ cls := "ProofPagesModel", name := "isWord", desc := "(I)Z" } : Jvm.MethodName) prog_7_method_6_code (2 : Nat) (Option.some Jvm.ClassFile.FieldType.boolean)) ∈ lw_all := lw_g (lw_at lw_m5 16 rfl) rfl
theorem q1018 : (Jvm.Cond.instanceMethod ({ cls := "ProofPagesModel", name := "setPage", desc := "(II)I" } : Jvm.MethodName)) ∈ lw_all := lw_g (lw_at lw_m5 18 rfl) rfl
theorem q1019 : (Jvm.Cond.selects "ProofPagesModel" ({ cls := "ProofPagesModel", name := "setPage", desc := "(II)I" } : Jvm.MethodName) ({ cls := "ProofPagesModel", name := "setPage", desc := "(II)I" } : Jvm.MethodName)) ∈ lw_all := lw_g (lw_at lw_m5 19 rfl) rfl
theorem q1020 : (Jvm.Cond.code ({ cls := "ProofPagesModel", name := "setPage", desc := "(II)I" } : Jvm.MethodName) prog_7_method_10_code (4 : Nat) (Option.some Jvm.ClassFile.FieldType.int)) ∈ lw_all := lw_g (lw_at lw_m5 20 rfl) rfl
theorem q1022 : (Jvm.Cond.instanceMethod ({ cls := "ProofPagesModel", name := "freeze", desc := "(I)I" } : Jvm.MethodName)) ∈ lw_all := lw_g (lw_at lw_m5 22 rfl) rfl
theorem q1023 : (Jvm.Cond.selects "ProofPagesModel" ({ cls := "ProofPagesModel", name := "freeze", desc := "(I)I" } : Jvm.MethodName) ({ cls := "ProofPagesModel", name := "freeze", desc := "(I)I" } : Jvm.MethodName)) ∈ lw_all := lw_g (lw_at lw_m5 23 rfl) rfl
theorem q1024 : (Jvm.Cond.code ({ cls := "ProofPagesModel", name := "freeze", desc := "(I)I" } : Jvm.MethodName) prog_7_method_19_code (6 : Nat) (Option.some Jvm.ClassFile.FieldType.int)) ∈ lw_all := lw_g (lw_at lw_m5 24 rfl) rfl
theorem q1025 : (Jvm.Cond.methodLink "ProofPagesModel" (110 : Nat) ({ cls := "ProofPagesModel", name := "marks", desc := "(I)V" } : Jvm.MethodName)) ∈ lw_all := lw_g (lw_at lw_m5 25 rfl) rfl
theorem q1026 : (Jvm.Cond.privateMethod ({ cls := "ProofPagesModel", name := "marks", desc := "(I)V" } : Jvm.MethodName)) ∈ lw_tbl := lw_at lw_m5 26 rfl
theorem q1027 : (Jvm.Cond.instanceMethod ({ cls := "ProofPagesModel", name := "marks", desc := "(I)V" } : Jvm.MethodName)) ∈ lw_all := lw_g (lw_at lw_m5 27 rfl) rfl
theorem q1028 : (Jvm.Cond.code ({ cls := "ProofPagesModel", name := "marks", desc := "(I)V" } : Jvm.MethodName) prog_7_method_16_code (5 : Nat) (Option.none : Option Jvm.ClassFile.FieldType)) ∈ lw_all := lw_g (lw_at lw_m5 28 rfl) rfl
theorem q1029 : (Jvm.Cond.methodLink "ProofPagesModel" (87 : Nat) ({ cls := "ProofPagesModel", name := "word", desc := "(II)I" } : Jvm.MethodName)) ∈ lw_all := lw_g (lw_at lw_m5 29 rfl) rfl
theorem q1030 : (Jvm.Cond.privateMethod ({ cls := "ProofPagesModel", name := "word", desc := "(II)I" } : Jvm.MethodName)) ∈ lw_tbl := lw_at lw_m5 30 rfl
theorem q1031 : (Jvm.Cond.instanceMethod ({ cls := "ProofPagesModel", name := "word", desc := "(II)I" } : Jvm.MethodName)) ∈ lw_all := lw_g (lw_at lw_m5 31 rfl) rfl
theorem q1032 : (Jvm.Cond.code ({ cls := "ProofPagesModel", name := "word", desc := "(II)I" } : Jvm.MethodName) prog_7_method_11_code (3 : Nat) (Option.some Jvm.ClassFile.FieldType.int)) ∈ lw_all := lw_g (lw_at lw_m5 32 rfl) rfl
theorem q1033 : (Jvm.Cond.methodLink "ProofPagesModel" (103 : Nat) ({ cls := "ProofPagesModel", name := "breaks", desc := "(I)V" } : Jvm.MethodName)) ∈ lw_all := lw_g (lw_at lw_m5 33 rfl) rfl
theorem q1034 : (Jvm.Cond.privateMethod ({ cls := "ProofPagesModel", name := "breaks", desc := "(I)V" } : Jvm.MethodName)) ∈ lw_tbl := lw_at lw_m5 34 rfl
theorem q1035 : (Jvm.Cond.instanceMethod ({ cls := "ProofPagesModel", name := "breaks", desc := "(I)V" } : Jvm.MethodName)) ∈ lw_all := lw_g (lw_at lw_m5 35 rfl) rfl
theorem q1036 : (Jvm.Cond.code ({ cls := "ProofPagesModel", name := "breaks", desc := "(I)V" } : Jvm.MethodName) prog_7_method_15_code (5 : Nat) (Option.none : Option Jvm.ClassFile.FieldType)) ∈ lw_all := lw_g (lw_at lw_m5 36 rfl) rfl
theorem q1037 : (Jvm.Cond.methodLink "ProofPagesModel" (99 : Nat) ({ cls := "ProofPagesModel", name := "finds", desc := "(III)V" } : Jvm.MethodName)) ∈ lw_all := lw_g (lw_at lw_m5 37 rfl) rfl
theorem q1038 : (Jvm.Cond.privateMethod ({ cls := "ProofPagesModel", name := "finds", desc := "(III)V" } : Jvm.MethodName)) ∈ lw_tbl := lw_at lw_m5 38 rfl
theorem q1039 : (Jvm.Cond.instanceMethod ({ cls := "ProofPagesModel", name := "finds", desc := "(III)V" } : Jvm.MethodName)) ∈ lw_all := lw_g (lw_at lw_m5 39 rfl) rfl
theorem q1040 : (Jvm.Cond.code ({ cls := "ProofPagesModel", name := "finds", desc := "(III)V" } : Jvm.MethodName) prog_7_method_14_code (15 : Nat) (Option.none : Option Jvm.ClassFile.FieldType)) ∈ lw_all := lw_g (lw_at lw_m5 40 rfl) rfl
theorem q1041 : (Jvm.Cond.constant "ProofPagesModel" (86 : Nat) (1000000000 : Int32)) ∈ lw_all := lw_g (lw_at lw_m5 41 rfl) rfl
theorem q1042 : (Jvm.Cond.methodLink "ProofPagesModel" (91 : Nat) ({ cls := "ProofPagesModel", name := "canEnd", desc := "(II)Z" } : Jvm.MethodName)) ∈ lw_all := lw_g (lw_at lw_m5 42 rfl) rfl
theorem q1043 : (Jvm.Cond.privateMethod ({ cls := "ProofPagesModel", name := "canEnd", desc := "(II)Z" } : Jvm.MethodName)) ∈ lw_tbl := lw_at lw_m5 43 rfl
theorem q1044 : (Jvm.Cond.instanceMethod ({ cls := "ProofPagesModel", name := "canEnd", desc := "(II)Z" } : Jvm.MethodName)) ∈ lw_all := lw_g (lw_at lw_m5 44 rfl) rfl
theorem q1045 : (Jvm.Cond.code ({ cls := "ProofPagesModel", name := "canEnd", desc := "(II)Z" } : Jvm.MethodName) prog_7_method_12_code (3 : Nat) (Option.some Jvm.ClassFile.FieldType.boolean)) ∈ lw_all := lw_g (lw_at lw_m5 45 rfl) rfl
theorem q1046 : (Jvm.Cond.methodLink "ProofPagesModel" (95 : Nat) ({ cls := "ProofPagesModel", name := "badnessOf", desc := "(IZZ)I" } : Jvm.MethodName)) ∈ lw_all := lw_g (lw_at lw_m5 46 rfl) rfl
theorem q1047 : (Jvm.Cond.privateMethod ({ cls := "ProofPagesModel", name := "badnessOf", desc := "(IZZ)I" } : Jvm.MethodName)) ∈ lw_tbl := lw_at lw_m5 47 rfl
theorem q1048 : (Jvm.Cond.instanceMethod ({ cls := "ProofPagesModel", name := "badnessOf", desc := "(IZZ)I" } : Jvm.MethodName)) ∈ lw_all := lw_g (lw_at lw_m5 48 rfl) rfl
theorem q1049 : (Jvm.Cond.code ({ cls := "ProofPagesModel", name := "badnessOf", desc := "(IZZ)I" } : Jvm.MethodName) prog_7_method_13_code (6 : Nat) (Option.some Jvm.ClassFile.FieldType.int)) ∈ lw_all := lw_g (lw_at lw_m5 49 rfl) rfl
theorem q1050 : (Jvm.Cond.methodLink "ProofPagesModel" (107 : Nat) ({ cls := "ProofPagesModel", name := "endsIn", desc := "(II)I" } : Jvm.MethodName)) ∈ lw_all := lw_g (lw_at lw_m5 50 rfl) rfl
theorem q1051 : (Jvm.Cond.privateMethod ({ cls := "ProofPagesModel", name := "endsIn", desc := "(II)I" } : Jvm.MethodName)) ∈ lw_tbl := lw_at lw_m5 51 rfl
theorem q1052 : (Jvm.Cond.instanceMethod ({ cls := "ProofPagesModel", name := "endsIn", desc := "(II)I" } : Jvm.MethodName)) ∈ lw_all := lw_g (lw_at lw_m5 52 rfl) rfl
theorem q1053 : (Jvm.Cond.code ({ cls := "ProofPagesModel", name := "endsIn", desc := "(II)I" } : Jvm.MethodName) prog_7_method_17_code (6 : Nat) (Option.some Jvm.ClassFile.FieldType.int)) ∈ lw_all := lw_g (lw_at lw_m5 53 rfl) rfl
theorem q1055 : (Jvm.Cond.instanceMethod ({ cls := "ProofPagesModel", name := "words", desc := "()I" } : Jvm.MethodName)) ∈ lw_all := lw_g (lw_at lw_m5 55 rfl) rfl
theorem q1056 : (Jvm.Cond.selects "ProofPagesModel" ({ cls := "ProofPagesModel", name := "words", desc := "()I" } : Jvm.MethodName) ({ cls := "ProofPagesModel", name := "words", desc := "()I" } : Jvm.MethodName)) ∈ lw_all := lw_g (lw_at lw_m5 56 rfl) rfl
theorem q1057 : (Jvm.Cond.code ({ cls := "ProofPagesModel", name := "words", desc := "()I" } : Jvm.MethodName) prog_7_method_20_code (1 : Nat) (Option.some Jvm.ClassFile.FieldType.int)) ∈ lw_all := lw_g (lw_at lw_m5 57 rfl) rfl
theorem q1059 : (Jvm.Cond.instanceMethod ({ cls := "ProofPagesModel", name := "lines", desc := "(I)I" } : Jvm.MethodName)) ∈ lw_all := lw_g (lw_at lw_m5 59 rfl) rfl
theorem q1060 : (Jvm.Cond.selects "ProofPagesModel" ({ cls := "ProofPagesModel", name := "lines", desc := "(I)I" } : Jvm.MethodName) ({ cls := "ProofPagesModel", name := "lines", desc := "(I)I" } : Jvm.MethodName)) ∈ lw_all := lw_g (lw_at lw_m5 60 rfl) rfl
theorem q1061 : (Jvm.Cond.code ({ cls := "ProofPagesModel", name := "lines", desc := "(I)I" } : Jvm.MethodName) prog_7_method_22_code (2 : Nat) (Option.some Jvm.ClassFile.FieldType.int)) ∈ lw_all := lw_g (lw_at lw_m5 61 rfl) rfl
theorem q1062 : (Jvm.Cond.methodLink "ProofPagesModel" (113 : Nat) ({ cls := "ProofPagesModel", name := "linesOf", desc := "(I)I" } : Jvm.MethodName)) ∈ lw_all := lw_g (lw_at lw_m5 62 rfl) rfl
theorem q1063 : (Jvm.Cond.privateMethod ({ cls := "ProofPagesModel", name := "linesOf", desc := "(I)I" } : Jvm.MethodName)) ∈ lw_tbl := lw_at lw_m5 63 rfl
theorem q1064 : (Jvm.Cond.instanceMethod ({ cls := "ProofPagesModel", name := "linesOf", desc := "(I)I" } : Jvm.MethodName)) ∈ lw_all := lw_g (lw_at lw_m5 64 rfl) rfl
theorem q1065 : (Jvm.Cond.code ({ cls := "ProofPagesModel", name := "linesOf", desc := "(I)I" } : Jvm.MethodName) prog_7_method_21_code (2 : Nat) (Option.some Jvm.ClassFile.FieldType.int)) ∈ lw_all := lw_g (lw_at lw_m5 65 rfl) rfl
theorem q1067 : (Jvm.Cond.instanceMethod ({ cls := "ProofPagesModel", name := "lineEnd", desc := "(II)I" } : Jvm.MethodName)) ∈ lw_all := lw_g (lw_at lw_m5 67 rfl) rfl
theorem q1068 : (Jvm.Cond.selects "ProofPagesModel" ({ cls := "ProofPagesModel", name := "lineEnd", desc := "(II)I" } : Jvm.MethodName) ({ cls := "ProofPagesModel", name := "lineEnd", desc := "(II)I" } : Jvm.MethodName)) ∈ lw_all := lw_g (lw_at lw_m5 68 rfl) rfl
theorem q1069 : (Jvm.Cond.code ({ cls := "ProofPagesModel", name := "lineEnd", desc := "(II)I" } : Jvm.MethodName) prog_7_method_24_code (6 : Nat) (Option.some Jvm.ClassFile.FieldType.int)) ∈ lw_all := lw_g (lw_at lw_m5 69 rfl) rfl
theorem q1070 : (Jvm.Cond.methodLink "ProofPagesModel" (117 : Nat) ({ cls := "ProofPagesModel", name := "isLine", desc := "(II)Z" } : Jvm.MethodName)) ∈ lw_all := lw_g (lw_at lw_m5 70 rfl) rfl
theorem q1071 : (Jvm.Cond.privateMethod ({ cls := "ProofPagesModel", name := "isLine", desc := "(II)Z" } : Jvm.MethodName)) ∈ lw_tbl := lw_at lw_m5 71 rfl
theorem q1072 : (Jvm.Cond.instanceMethod ({ cls := "ProofPagesModel", name := "isLine", desc := "(II)Z" } : Jvm.MethodName)) ∈ lw_all := lw_g (lw_at lw_m5 72 rfl) rfl
theorem q1073 : (Jvm.Cond.code ({ cls := "ProofPagesModel", name := "isLine", desc := "(II)Z" } : Jvm.MethodName) prog_7_method_23_code (3 : Nat) (Option.some Jvm.ClassFile.FieldType.boolean)) ∈ lw_all := lw_g (lw_at lw_m5 73 rfl) rfl
theorem q1074 : (Jvm.Cond.methodLink "ProofPagesModel" (120 : Nat) ({ cls := "ProofPagesModel", name := "endOf", desc := "(II)I" } : Jvm.MethodName)) ∈ lw_all := lw_g (lw_at lw_m5 74 rfl) rfl
theorem q1075 : (Jvm.Cond.privateMethod ({ cls := "ProofPagesModel", name := "endOf", desc := "(II)I" } : Jvm.MethodName)) ∈ lw_tbl := lw_at lw_m5 75 rfl
theorem q1076 : (Jvm.Cond.instanceMethod ({ cls := "ProofPagesModel", name := "endOf", desc := "(II)I" } : Jvm.MethodName)) ∈ lw_all := lw_g (lw_at lw_m5 76 rfl) rfl
theorem q1077 : (Jvm.Cond.code ({ cls := "ProofPagesModel", name := "endOf", desc := "(II)I" } : Jvm.MethodName) prog_7_method_18_code (8 : Nat) (Option.some Jvm.ClassFile.FieldType.int)) ∈ lw_all := lw_g (lw_at lw_m5 77 rfl) rfl
theorem q1079 : (Jvm.Cond.instanceMethod ({ cls := "ProofPagesModel", name := "length", desc := "(II)I" } : Jvm.MethodName)) ∈ lw_all := lw_g (lw_at lw_m5 79 rfl) rfl
theorem q1080 : (Jvm.Cond.selects "ProofPagesModel" ({ cls := "ProofPagesModel", name := "length", desc := "(II)I" } : Jvm.MethodName) ({ cls := "ProofPagesModel", name := "length", desc := "(II)I" } : Jvm.MethodName)) ∈ lw_all := lw_g (lw_at lw_m5 80 rfl) rfl
theorem q1081 : (Jvm.Cond.code ({ cls := "ProofPagesModel", name := "length", desc := "(II)I" } : Jvm.MethodName) prog_7_method_25_code (11 : Nat) (Option.some Jvm.ClassFile.FieldType.int)) ∈ lw_all := lw_g (lw_at lw_m5 81 rfl) rfl
theorem q1083 : (Jvm.Cond.instanceMethod ({ cls := "ProofPagesModel", name := "badness", desc := "(I)I" } : Jvm.MethodName)) ∈ lw_all := lw_g (lw_at lw_m5 83 rfl) rfl
theorem q1084 : (Jvm.Cond.selects "ProofPagesModel" ({ cls := "ProofPagesModel", name := "badness", desc := "(I)I" } : Jvm.MethodName) ({ cls := "ProofPagesModel", name := "badness", desc := "(I)I" } : Jvm.MethodName)) ∈ lw_all := lw_g (lw_at lw_m5 84 rfl) rfl
theorem q1085 : (Jvm.Cond.code ({ cls := "ProofPagesModel", name := "badness", desc := "(I)I" } : Jvm.MethodName) prog_7_method_27_code (2 : Nat) (Option.some Jvm.ClassFile.FieldType.int)) ∈ lw_all := lw_g (lw_at lw_m5 85 rfl) rfl
theorem q1086 : (Jvm.Cond.methodLink "ProofPagesModel" (123 : Nat) ({ cls := "ProofPagesModel", name := "badnessNow", desc := "(I)I" } : Jvm.MethodName)) ∈ lw_all := lw_g (lw_at lw_m5 86 rfl) rfl
theorem q1087 : (Jvm.Cond.privateMethod ({ cls := "ProofPagesModel", name := "badnessNow", desc := "(I)I" } : Jvm.MethodName)) ∈ lw_tbl := lw_at lw_m5 87 rfl
theorem q1088 : (Jvm.Cond.instanceMethod ({ cls := "ProofPagesModel", name := "badnessNow", desc := "(I)I" } : Jvm.MethodName)) ∈ lw_all := lw_g (lw_at lw_m5 88 rfl) rfl
theorem q1089 : (Jvm.Cond.code ({ cls := "ProofPagesModel", name := "badnessNow", desc := "(I)I" } : Jvm.MethodName) prog_7_method_26_code (2 : Nat) (Option.some Jvm.ClassFile.FieldType.int)) ∈ lw_all := lw_g (lw_at lw_m5 89 rfl) rfl
theorem q1091 : (Jvm.Cond.instanceMethod ({ cls := "ProofPagesModel", name := "badnessForwards", desc := "(I)I" } : Jvm.MethodName)) ∈ lw_all := lw_g (lw_at lw_m5 91 rfl) rfl
theorem q1092 : (Jvm.Cond.selects "ProofPagesModel" ({ cls := "ProofPagesModel", name := "badnessForwards", desc := "(I)I" } : Jvm.MethodName) ({ cls := "ProofPagesModel", name := "badnessForwards", desc := "(I)I" } : Jvm.MethodName)) ∈ lw_all := lw_g (lw_at lw_m5 92 rfl) rfl
theorem q1093 : (Jvm.Cond.code ({ cls := "ProofPagesModel", name := "badnessForwards", desc := "(I)I" } : Jvm.MethodName) prog_7_method_28_code (2 : Nat) (Option.some Jvm.ClassFile.FieldType.int)) ∈ lw_all := lw_g (lw_at lw_m5 93 rfl) rfl
theorem q1095 : (Jvm.Cond.instanceMethod ({ cls := "ProofPagesModel", name := "pages", desc := "()I" } : Jvm.MethodName)) ∈ lw_all := lw_g (lw_at lw_m5 95 rfl) rfl
theorem q1096 : (Jvm.Cond.selects "ProofPagesModel" ({ cls := "ProofPagesModel", name := "pages", desc := "()I" } : Jvm.MethodName) ({ cls := "ProofPagesModel", name := "pages", desc := "()I" } : Jvm.MethodName)) ∈ lw_all := lw_g (lw_at lw_m5 96 rfl) rfl
theorem q1097 : (Jvm.Cond.code ({ cls := "ProofPagesModel", name := "pages", desc := "()I" } : Jvm.MethodName) prog_7_method_35_code (4 : Nat) (Option.some Jvm.ClassFile.FieldType.int)) ∈ lw_all := lw_g (lw_at lw_m5 97 rfl) rfl
theorem q1098 : (Jvm.Cond.methodLink "ProofPagesModel" (138 : Nat) ({ cls := "ProofPagesModel", name := "marksAll", desc := "()V" } : Jvm.MethodName)) ∈ lw_all := lw_g (lw_at lw_m5 98 rfl) rfl
theorem q1099 : (Jvm.Cond.privateMethod ({ cls := "ProofPagesModel", name := "marksAll", desc := "()V" } : Jvm.MethodName)) ∈ lw_tbl := lw_at lw_m5 99 rfl
theorem q1100 : (Jvm.Cond.instanceMethod ({ cls := "ProofPagesModel", name := "marksAll", desc := "()V" } : Jvm.MethodName)) ∈ lw_all := lw_g (lw_at lw_m5 100 rfl) rfl
theorem q1101 : (Jvm.Cond.code ({ cls := "ProofPagesModel", name := "marksAll", desc := "()V" } : Jvm.MethodName) prog_7_method_30_code (2 : Nat) (Option.none : Option Jvm.ClassFile.FieldType)) ∈ lw_all := lw_g (lw_at lw_m5 101 rfl) rfl
theorem q1102 : (Jvm.Cond.methodLink "ProofPagesModel" (126 : Nat) ({ cls := "ProofPagesModel", name := "ahead", desc := "(I)I" } : Jvm.MethodName)) ∈ lw_all := lw_g (lw_at lw_m5 102 rfl) rfl
theorem q1103 : (Jvm.Cond.privateMethod ({ cls := "ProofPagesModel", name := "ahead", desc := "(I)I" } : Jvm.MethodName)) ∈ lw_tbl := lw_at lw_m5 103 rfl
theorem q1104 : (Jvm.Cond.instanceMethod ({ cls := "ProofPagesModel", name := "ahead", desc := "(I)I" } : Jvm.MethodName)) ∈ lw_all := lw_g (lw_at lw_m5 104 rfl) rfl
theorem q1105 : (Jvm.Cond.code ({ cls := "ProofPagesModel", name := "ahead", desc := "(I)I" } : Jvm.MethodName) prog_7_method_29_code (4 : Nat) (Option.some Jvm.ClassFile.FieldType.int)) ∈ lw_all := lw_g (lw_at lw_m5 105 rfl) rfl
theorem q1106 : (Jvm.Cond.methodLink "ProofPagesModel" (141 : Nat) ({ cls := "ProofPagesModel", name := "puts", desc := "(II)I" } : Jvm.MethodName)) ∈ lw_all := lw_g (lw_at lw_m5 106 rfl) rfl
theorem q1107 : (Jvm.Cond.privateMethod ({ cls := "ProofPagesModel", name := "puts", desc := "(II)I" } : Jvm.MethodName)) ∈ lw_tbl := lw_at lw_m5 107 rfl
theorem q1108 : (Jvm.Cond.instanceMethod ({ cls := "ProofPagesModel", name := "puts", desc := "(II)I" } : Jvm.MethodName)) ∈ lw_all := lw_g (lw_at lw_m5 108 rfl) rfl
theorem q1109 : (Jvm.Cond.code ({ cls := "ProofPagesModel", name := "puts", desc := "(II)I" } : Jvm.MethodName) prog_7_method_34_code (4 : Nat) (Option.some Jvm.ClassFile.FieldType.int)) ∈ lw_all := lw_g (lw_at lw_m5 109 rfl) rfl
theorem q1110 : (Jvm.Cond.methodLink "ProofPagesModel" (132 : Nat) ({ cls := "ProofPagesModel", name := "isFirstLine", desc := "(I)Z" } : Jvm.MethodName)) ∈ lw_all := lw_g (lw_at lw_m5 110 rfl) rfl
theorem q1111 : (Jvm.Cond.privateMethod ({ cls := "ProofPagesModel", name := "isFirstLine", desc := "(I)Z" } : Jvm.MethodName)) ∈ lw_tbl := lw_at lw_m5 111 rfl
theorem q1112 : (Jvm.Cond.instanceMethod ({ cls := "ProofPagesModel", name := "isFirstLine", desc := "(I)Z" } : Jvm.MethodName)) ∈ lw_all := lw_g (lw_at lw_m5 112 rfl) rfl
theorem q1113 : (Jvm.Cond.code ({ cls := "ProofPagesModel", name := "isFirstLine", desc := "(I)Z" } : Jvm.MethodName) prog_7_method_32_code (2 : Nat) (Option.some Jvm.ClassFile.FieldType.boolean)) ∈ lw_all := lw_g (lw_at lw_m5 113 rfl) rfl
theorem q1114 : (Jvm.Cond.methodLink "ProofPagesModel" (129 : Nat) ({ cls := "ProofPagesModel", name := "paragraphOf", desc := "(I)I" } : Jvm.MethodName)) ∈ lw_all := lw_g (lw_at lw_m5 114 rfl) rfl
theorem q1115 : (Jvm.Cond.privateMethod ({ cls := "ProofPagesModel", name := "paragraphOf", desc := "(I)I" } : Jvm.MethodName)) ∈ lw_tbl := lw_at lw_m5 115 rfl
theorem q1116 : (Jvm.Cond.instanceMethod ({ cls := "ProofPagesModel", name := "paragraphOf", desc := "(I)I" } : Jvm.MethodName)) ∈ lw_all := lw_g (lw_at lw_m5 116 rfl) rfl
theorem q1117 : (Jvm.Cond.code ({ cls := "ProofPagesModel", name := "paragraphOf", desc := "(I)I" } : Jvm.MethodName) prog_7_method_31_code (5 : Nat) (Option.some Jvm.ClassFile.FieldType.int)) ∈ lw_all := lw_g (lw_at lw_m5 117 rfl) rfl
theorem q1118 : (Jvm.Cond.methodLink "ProofPagesModel" (135 : Nat) ({ cls := "ProofPagesModel", name := "isLastLine", desc := "(I)Z" } : Jvm.MethodName)) ∈ lw_all := lw_g (lw_at lw_m5 118 rfl) rfl
theorem q1119 : (Jvm.Cond.privateMethod ({ cls := "ProofPagesModel", name := "isLastLine", desc := "(I)Z" } : Jvm.MethodName)) ∈ lw_tbl := lw_at lw_m5 119 rfl
theorem q1120 : (Jvm.Cond.instanceMethod ({ cls := "ProofPagesModel", name := "isLastLine", desc := "(I)Z" } : Jvm.MethodName)) ∈ lw_all := lw_g (lw_at lw_m5 120 rfl) rfl
theorem q1121 : (Jvm.Cond.code ({ cls := "ProofPagesModel", name := "isLastLine", desc := "(I)Z" } : Jvm.MethodName) prog_7_method_33_code (2 : Nat) (Option.some Jvm.ClassFile.FieldType.boolean)) ∈ lw_all := lw_g (lw_at lw_m5 121 rfl) rfl
theorem q1123 : (Jvm.Cond.instanceMethod ({ cls := "ProofPagesModel", name := "linesOn", desc := "(I)I" } : Jvm.MethodName)) ∈ lw_all := lw_g (lw_at lw_m5 123 rfl) rfl
theorem q1124 : (Jvm.Cond.selects "ProofPagesModel" ({ cls := "ProofPagesModel", name := "linesOn", desc := "(I)I" } : Jvm.MethodName) ({ cls := "ProofPagesModel", name := "linesOn", desc := "(I)I" } : Jvm.MethodName)) ∈ lw_all := lw_g (lw_at lw_m5 124 rfl) rfl
theorem q1125 : (Jvm.Cond.code ({ cls := "ProofPagesModel", name := "linesOn", desc := "(I)I" } : Jvm.MethodName) prog_7_method_36_code (6 : Nat) (Option.some Jvm.ClassFile.FieldType.int)) ∈ lw_all := lw_g (lw_at lw_m5 125 rfl) rfl
theorem q1127 : (Jvm.Cond.instanceMethod ({ cls := "ProofPagesModel", name := "where", desc := "(I)I" } : Jvm.MethodName)) ∈ lw_all := lw_g (lw_at lw_m5 127 rfl) rfl
theorem q1128 : (Jvm.Cond.selects "ProofPagesModel" ({ cls := "ProofPagesModel", name := "where", desc := "(I)I" } : Jvm.MethodName) ({ cls := "ProofPagesModel", name := "where", desc := "(I)I" } : Jvm.MethodName)) ∈ lw_all := lw_g (lw_at lw_m5 128 rfl) rfl
theorem q1129 : (Jvm.Cond.code ({ cls := "ProofPagesModel", name := "where", desc := "(I)I" } : Jvm.MethodName) prog_7_method_38_code (2 : Nat) (Option.some Jvm.ClassFile.FieldType.int)) ∈ lw_all := lw_g (lw_at lw_m5 129 rfl) rfl
theorem q1130 : (Jvm.Cond.methodLink "ProofPagesModel" (144 : Nat) ({ cls := "ProofPagesModel", name := "whereOf", desc := "(I)I" } : Jvm.MethodName)) ∈ lw_all := lw_g (lw_at lw_m5 130 rfl) rfl
theorem q1131 : (Jvm.Cond.privateMethod ({ cls := "ProofPagesModel", name := "whereOf", desc := "(I)I" } : Jvm.MethodName)) ∈ lw_tbl := lw_at lw_m5 131 rfl
theorem q1132 : (Jvm.Cond.instanceMethod ({ cls := "ProofPagesModel", name := "whereOf", desc := "(I)I" } : Jvm.MethodName)) ∈ lw_all := lw_g (lw_at lw_m5 132 rfl) rfl
theorem q1133 : (Jvm.Cond.code ({ cls := "ProofPagesModel", name := "whereOf", desc := "(I)I" } : Jvm.MethodName) prog_7_method_37_code (6 : Nat) (Option.some Jvm.ClassFile.FieldType.int)) ∈ lw_all := lw_g (lw_at lw_m5 133 rfl) rfl
theorem q1135 : (Jvm.Cond.instanceMethod ({ cls := "ProofPagesModel", name := "report", desc := "(II)I" } : Jvm.MethodName)) ∈ lw_all := lw_g (lw_at lw_m5 135 rfl) rfl
theorem q1136 : (Jvm.Cond.selects "ProofPagesModel" ({ cls := "ProofPagesModel", name := "report", desc := "(II)I" } : Jvm.MethodName) ({ cls := "ProofPagesModel", name := "report", desc := "(II)I" } : Jvm.MethodName)) ∈ lw_all := lw_g (lw_at lw_m5 136 rfl) rfl
theorem q1137 : (Jvm.Cond.code ({ cls := "ProofPagesModel", name := "report", desc := "(II)I" } : Jvm.MethodName) prog_7_method_40_code (4 : Nat) (Option.some Jvm.ClassFile.FieldType.int)) ∈ lw_all := lw_g (lw_at lw_m5 137 rfl) rfl
theorem q1138 : (Jvm.Cond.methodLink "ProofPagesModel" (150 : Nat) ({ cls := "ProofPagesModel", name := "hasOpen", desc := "(I)Z" } : Jvm.MethodName)) ∈ lw_all := lw_g (lw_at lw_m5 138 rfl) rfl
theorem q1139 : (Jvm.Cond.privateMethod ({ cls := "ProofPagesModel", name := "hasOpen", desc := "(I)Z" } : Jvm.MethodName)) ∈ lw_tbl := lw_at lw_m5 139 rfl
theorem q1140 : (Jvm.Cond.instanceMethod ({ cls := "ProofPagesModel", name := "hasOpen", desc := "(I)Z" } : Jvm.MethodName)) ∈ lw_all := lw_g (lw_at lw_m5 140 rfl) rfl
theorem q1141 : (Jvm.Cond.code ({ cls := "ProofPagesModel", name := "hasOpen", desc := "(I)Z" } : Jvm.MethodName) prog_7_method_39_code (4 : Nat) (Option.some Jvm.ClassFile.FieldType.boolean)) ∈ lw_all := lw_g (lw_at lw_m5 141 rfl) rfl
theorem q1143 : (Jvm.Cond.instanceMethod ({ cls := "ProofPagesModel", name := "judge", desc := "(IZ)I" } : Jvm.MethodName)) ∈ lw_all := lw_g (lw_at lw_m5 143 rfl) rfl
theorem q1144 : (Jvm.Cond.selects "ProofPagesModel" ({ cls := "ProofPagesModel", name := "judge", desc := "(IZ)I" } : Jvm.MethodName) ({ cls := "ProofPagesModel", name := "judge", desc := "(IZ)I" } : Jvm.MethodName)) ∈ lw_all := lw_g (lw_at lw_m5 144 rfl) rfl
theorem q1145 : (Jvm.Cond.code ({ cls := "ProofPagesModel", name := "judge", desc := "(IZ)I" } : Jvm.MethodName) prog_7_method_43_code (4 : Nat) (Option.some Jvm.ClassFile.FieldType.int)) ∈ lw_all := lw_g (lw_at lw_m5 145 rfl) rfl
theorem q1146 : (Jvm.Cond.methodLink "ProofPagesModel" (153 : Nat) ({ cls := "ProofPagesModel", name := "isError", desc := "(I)Z" } : Jvm.MethodName)) ∈ lw_all := lw_g (lw_at lw_m5 146 rfl) rfl
theorem q1147 : (Jvm.Cond.privateMethod ({ cls := "ProofPagesModel", name := "isError", desc := "(I)Z" } : Jvm.MethodName)) ∈ lw_tbl := lw_at lw_m5 147 rfl
theorem q1148 : (Jvm.Cond.instanceMethod ({ cls := "ProofPagesModel", name := "isError", desc := "(I)Z" } : Jvm.MethodName)) ∈ lw_all := lw_g (lw_at lw_m5 148 rfl) rfl
theorem q1149 : (Jvm.Cond.code ({ cls := "ProofPagesModel", name := "isError", desc := "(I)Z" } : Jvm.MethodName) prog_7_method_42_code (2 : Nat) (Option.some Jvm.ClassFile.FieldType.boolean)) ∈ lw_all := lw_g (lw_at lw_m5 149 rfl) rfl
theorem q1150 : (Jvm.Cond.methodLink "ProofPagesModel" (156 : Nat) ({ cls := "ProofPagesModel", name := "points", desc := "(I)I" } : Jvm.MethodName)) ∈ lw_all := lw_g (lw_at lw_m5 150 rfl) rfl
theorem q1151 : (Jvm.Cond.privateMethod ({ cls := "ProofPagesModel", name := "points", desc := "(I)I" } : Jvm.MethodName)) ∈ lw_tbl := lw_at lw_m5 151 rfl
theorem q1152 : (Jvm.Cond.instanceMethod ({ cls := "ProofPagesModel", name := "points", desc := "(I)I" } : Jvm.MethodName)) ∈ lw_all := lw_g (lw_at lw_m5 152 rfl) rfl
theorem q1153 : (Jvm.Cond.code ({ cls := "ProofPagesModel", name := "points", desc := "(I)I" } : Jvm.MethodName) prog_7_method_41_code (5 : Nat) (Option.some Jvm.ClassFile.FieldType.int)) ∈ lw_all := lw_g (lw_at lw_m5 153 rfl) rfl
theorem q1155 : (Jvm.Cond.instanceMethod ({ cls := "ProofPagesModel", name := "errorAt", desc := "(I)I" } : Jvm.MethodName)) ∈ lw_all := lw_g (lw_at lw_m5 155 rfl) rfl
theorem q1156 : (Jvm.Cond.selects "ProofPagesModel" ({ cls := "ProofPagesModel", name := "errorAt", desc := "(I)I" } : Jvm.MethodName) ({ cls := "ProofPagesModel", name := "errorAt", desc := "(I)I" } : Jvm.MethodName)) ∈ lw_all := lw_g (lw_at lw_m5 156 rfl) rfl
theorem q1157 : (Jvm.Cond.code ({ cls := "ProofPagesModel", name := "errorAt", desc := "(I)I" } : Jvm.MethodName) prog_7_method_44_code (2 : Nat) (Option.some Jvm.ClassFile.FieldType.int)) ∈ lw_all := lw_g (lw_at lw_m5 157 rfl) rfl
theorem q1159 : (Jvm.Cond.instanceMethod ({ cls := "ProofPagesModel", name := "stateOf", desc := "(I)I" } : Jvm.MethodName)) ∈ lw_all := lw_g (lw_at lw_m5 159 rfl) rfl
theorem q1160 : (Jvm.Cond.selects "ProofPagesModel" ({ cls := "ProofPagesModel", name := "stateOf", desc := "(I)I" } : Jvm.MethodName) ({ cls := "ProofPagesModel", name := "stateOf", desc := "(I)I" } : Jvm.MethodName)) ∈ lw_all := lw_g (lw_at lw_m5 160 rfl) rfl
theorem q1161 : (Jvm.Cond.code ({ cls := "ProofPagesModel", name := "stateOf", desc := "(I)I" } : Jvm.MethodName) prog_7_method_45_code (2 : Nat) (Option.some Jvm.ClassFile.FieldType.int)) ∈ lw_all := lw_g (lw_at lw_m5 161 rfl) rfl
theorem q1163 : (Jvm.Cond.instanceMethod ({ cls := "ProofPagesModel", name := "readerAt", desc := "(I)I" } : Jvm.MethodName)) ∈ lw_all := lw_g (lw_at lw_m5 163 rfl) rfl
theorem q1164 : (Jvm.Cond.selects "ProofPagesModel" ({ cls := "ProofPagesModel", name := "readerAt", desc := "(I)I" } : Jvm.MethodName) ({ cls := "ProofPagesModel", name := "readerAt", desc := "(I)I" } : Jvm.MethodName)) ∈ lw_all := lw_g (lw_at lw_m5 164 rfl) rfl
theorem q1165 : (Jvm.Cond.code ({ cls := "ProofPagesModel", name := "readerAt", desc := "(I)I" } : Jvm.MethodName) prog_7_method_46_code (7 : Nat) (Option.some Jvm.ClassFile.FieldType.int)) ∈ lw_all := lw_g (lw_at lw_m5 165 rfl) rfl
theorem q1184 : (Jvm.Cond.castable "ProofPagesModel" "java/lang/Object") ∈ lw_tbl := lw_at lw_m5 184 rfl
theorem in_X3 : ∀ w ∈ wsX30, w ∈ lw_all := lw_in wsX30 [942, 944, 946, 948, 950, 952, 954, 956, 958, 960, 962, 964, 966, 968, 970, 972, 974, 976, 978, 980, 982] (by decide +kernel) (by decide +kernel)
