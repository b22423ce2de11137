/-! ProofPagesLaw -/
set_option maxRecDepth 100000
def RX0 : String := "ProofPagesLaw"
abbrev cX0_addParagraph : ByteArray := method_3_code
def yX0_addParagraph : MethodName := ⟨RX0, "addParagraph", "(LProofPages;[J)I"⟩
def dkwX0_addParagraph_0 : List UInt8 := [43, 3, 42, 182, 0, 7, 133, 80, 167, 0, 6, 77, 4, 172, 3, 172]
abbrev dktX0_addParagraph_0 : List UInt8 := dkwX0_addParagraph_0 ++ []
theorem dksX0_addParagraph_0 : cX0_addParagraph.data.toList.drop 0 = dktX0_addParagraph_0 := by decide +kernel
theorem dX0_addParagraph_0 : decode cX0_addParagraph 0 = .ok (.aload_n 1, 1) := dk_43 (dk_at dksX0_addParagraph_0 0 rfl rfl)
theorem dX0_addParagraph_1 : decode cX0_addParagraph 1 = .ok (.iconst 0, 1) := dk_3 (dk_at dksX0_addParagraph_0 1 rfl rfl)
theorem dX0_addParagraph_2 : decode cX0_addParagraph 2 = .ok (.aload_n 0, 1) := dk_42 (dk_at dksX0_addParagraph_0 2 rfl rfl)
theorem dX0_addParagraph_3 : decode cX0_addParagraph 3 = .ok (.invokevirtual 7, 3) := dk_182 0 7 (dk_at dksX0_addParagraph_0 3 rfl rfl)
theorem dX0_addParagraph_6 : decode cX0_addParagraph 6 = .ok (.i2l, 1) := dk_133 (dk_at dksX0_addParagraph_0 6 rfl rfl)
theorem dX0_addParagraph_7 : decode cX0_addParagraph 7 = .ok (.lastore, 1) := dk_80 (dk_at dksX0_addParagraph_0 7 rfl rfl)
theorem dX0_addParagraph_8 : decode cX0_addParagraph 8 = .ok (.goto 6, 3) := dk_167 0 6 (dk_at dksX0_addParagraph_0 8 rfl rfl)
theorem dX0_addParagraph_11 : decode cX0_addParagraph 11 = .ok (.astore_n 2, 1) := dk_77 (dk_at dksX0_addParagraph_0 11 rfl rfl)
theorem dX0_addParagraph_12 : decode cX0_addParagraph 12 = .ok (.iconst 1, 1) := dk_4 (dk_at dksX0_addParagraph_0 12 rfl rfl)
theorem dX0_addParagraph_13 : decode cX0_addParagraph 13 = .ok (.ireturn, 1) := dk_172 (dk_at dksX0_addParagraph_0 13 rfl rfl)
theorem dX0_addParagraph_14 : decode cX0_addParagraph 14 = .ok (.iconst 0, 1) := dk_3 (dk_at dksX0_addParagraph_0 14 rfl rfl)
theorem dX0_addParagraph_15 : decode cX0_addParagraph 15 = .ok (.ireturn, 1) := dk_172 (dk_at dksX0_addParagraph_0 15 rfl rfl)
abbrev cX0_addWord : ByteArray := method_4_code
def yX0_addWord : MethodName := ⟨RX0, "addWord", "(LProofPages;II[J)I"⟩
def dkwX0_addWord_1 : List UInt8 := [172, 3, 172]
abbrev dktX0_addWord_1 : List UInt8 := dkwX0_addWord_1 ++ []
def dkwX0_addWord_0 : List UInt8 := [45, 3, 42, 27, 28, 182, 0, 15, 133, 80, 167, 0, 15, 58, 4, 4, 172, 58, 4, 5, 172, 58, 4, 6]
abbrev dktX0_addWord_0 : List UInt8 := dkwX0_addWord_0 ++ dktX0_addWord_1
theorem dksX0_addWord_0 : cX0_addWord.data.toList.drop 0 = dktX0_addWord_0 := by decide +kernel
theorem dksX0_addWord_1 : cX0_addWord.data.toList.drop 24 = dktX0_addWord_1 := dk_seg dksX0_addWord_0 24 rfl rfl
theorem dX0_addWord_0 : decode cX0_addWord 0 = .ok (.aload_n 3, 1) := dk_45 (dk_at dksX0_addWord_0 0 rfl rfl)
theorem dX0_addWord_1 : decode cX0_addWord 1 = .ok (.iconst 0, 1) := dk_3 (dk_at dksX0_addWord_0 1 rfl rfl)
theorem dX0_addWord_2 : decode cX0_addWord 2 = .ok (.aload_n 0, 1) := dk_42 (dk_at dksX0_addWord_0 2 rfl rfl)
theorem dX0_addWord_3 : decode cX0_addWord 3 = .ok (.iload_n 1, 1) := dk_27 (dk_at dksX0_addWord_0 3 rfl rfl)
theorem dX0_addWord_4 : decode cX0_addWord 4 = .ok (.iload_n 2, 1) := dk_28 (dk_at dksX0_addWord_0 4 rfl rfl)
theorem dX0_addWord_5 : decode cX0_addWord 5 = .ok (.invokevirtual 15, 3) := dk_182 0 15 (dk_at dksX0_addWord_0 5 rfl rfl)
theorem dX0_addWord_8 : decode cX0_addWord 8 = .ok (.i2l, 1) := dk_133 (dk_at dksX0_addWord_0 8 rfl rfl)
theorem dX0_addWord_9 : decode cX0_addWord 9 = .ok (.lastore, 1) := dk_80 (dk_at dksX0_addWord_0 9 rfl rfl)
theorem dX0_addWord_10 : decode cX0_addWord 10 = .ok (.goto 15, 3) := dk_167 0 15 (dk_at dksX0_addWord_0 10 rfl rfl)
theorem dX0_addWord_13 : decode cX0_addWord 13 = .ok (.astore 4, 2) := dk_58 4 (dk_at dksX0_addWord_0 13 rfl rfl)
theorem dX0_addWord_15 : decode cX0_addWord 15 = .ok (.iconst 1, 1) := dk_4 (dk_at dksX0_addWord_0 15 rfl rfl)
theorem dX0_addWord_16 : decode cX0_addWord 16 = .ok (.ireturn, 1) := dk_172 (dk_at dksX0_addWord_0 16 rfl rfl)
theorem dX0_addWord_17 : decode cX0_addWord 17 = .ok (.astore 4, 2) := dk_58 4 (dk_at dksX0_addWord_0 17 rfl rfl)
theorem dX0_addWord_19 : decode cX0_addWord 19 = .ok (.iconst 2, 1) := dk_5 (dk_at dksX0_addWord_0 19 rfl rfl)
theorem dX0_addWord_20 : decode cX0_addWord 20 = .ok (.ireturn, 1) := dk_172 (dk_at dksX0_addWord_0 20 rfl rfl)
theorem dX0_addWord_21 : decode cX0_addWord 21 = .ok (.astore 4, 2) := dk_58 4 (dk_at dksX0_addWord_0 21 rfl rfl)
theorem dX0_addWord_23 : decode cX0_addWord 23 = .ok (.iconst 3, 1) := dk_6 (dk_at dksX0_addWord_0 23 rfl rfl)
theorem dX0_addWord_24 : decode cX0_addWord 24 = .ok (.ireturn, 1) := dk_172 (dk_at dksX0_addWord_1 0 rfl rfl)
theorem dX0_addWord_25 : decode cX0_addWord 25 = .ok (.iconst 0, 1) := dk_3 (dk_at dksX0_addWord_1 1 rfl rfl)
theorem dX0_addWord_26 : decode cX0_addWord 26 = .ok (.ireturn, 1) := dk_172 (dk_at dksX0_addWord_1 2 rfl rfl)
abbrev cX0_vote : ByteArray := method_5_code
def yX0_vote : MethodName := ⟨RX0, "vote", "(LProofPages;IIZ[J)I"⟩
def dkwX0_vote_1 : List UInt8 := [172]
abbrev dktX0_vote_1 : List UInt8 := dkwX0_vote_1 ++ []
def dkwX0_vote_0 : List UInt8 := [25, 4, 3, 42, 27, 28, 29, 182, 0, 23, 133, 80, 167, 0, 11, 58, 5, 4, 172, 58, 5, 5, 172, 3]
abbrev dktX0_vote_0 : List UInt8 := dkwX0_vote_0 ++ dktX0_vote_1
theorem dksX0_vote_0 : cX0_vote.data.toList.drop 0 = dktX0_vote_0 := by decide +kernel
theorem dksX0_vote_1 : cX0_vote.data.toList.drop 24 = dktX0_vote_1 := dk_seg dksX0_vote_0 24 rfl rfl
theorem dX0_vote_0 : decode cX0_vote 0 = .ok (.aload 4, 2) := dk_25 4 (dk_at dksX0_vote_0 0 rfl rfl)
theorem dX0_vote_2 : decode cX0_vote 2 = .ok (.iconst 0, 1) := dk_3 (dk_at dksX0_vote_0 2 rfl rfl)
theorem dX0_vote_3 : decode cX0_vote 3 = .ok (.aload_n 0, 1) := dk_42 (dk_at dksX0_vote_0 3 rfl rfl)
theorem dX0_vote_4 : decode cX0_vote 4 = .ok (.iload_n 1, 1) := dk_27 (dk_at dksX0_vote_0 4 rfl rfl)
theorem dX0_vote_5 : decode cX0_vote 5 = .ok (.iload_n 2, 1) := dk_28 (dk_at dksX0_vote_0 5 rfl rfl)
theorem dX0_vote_6 : decode cX0_vote 6 = .ok (.iload_n 3, 1) := dk_29 (dk_at dksX0_vote_0 6 rfl rfl)
theorem dX0_vote_7 : decode cX0_vote 7 = .ok (.invokevirtual 23, 3) := dk_182 0 23 (dk_at dksX0_vote_0 7 rfl rfl)
theorem dX0_vote_10 : decode cX0_vote 10 = .ok (.i2l, 1) := dk_133 (dk_at dksX0_vote_0 10 rfl rfl)
theorem dX0_vote_11 : decode cX0_vote 11 = .ok (.lastore, 1) := dk_80 (dk_at dksX0_vote_0 11 rfl rfl)
theorem dX0_vote_12 : decode cX0_vote 12 = .ok (.goto 11, 3) := dk_167 0 11 (dk_at dksX0_vote_0 12 rfl rfl)
theorem dX0_vote_15 : decode cX0_vote 15 = .ok (.astore 5, 2) := dk_58 5 (dk_at dksX0_vote_0 15 rfl rfl)
theorem dX0_vote_17 : decode cX0_vote 17 = .ok (.iconst 1, 1) := dk_4 (dk_at dksX0_vote_0 17 rfl rfl)
theorem dX0_vote_18 : decode cX0_vote 18 = .ok (.ireturn, 1) := dk_172 (dk_at dksX0_vote_0 18 rfl rfl)
theorem dX0_vote_19 : decode cX0_vote 19 = .ok (.astore 5, 2) := dk_58 5 (dk_at dksX0_vote_0 19 rfl rfl)
theorem dX0_vote_21 : decode cX0_vote 21 = .ok (.iconst 2, 1) := dk_5 (dk_at dksX0_vote_0 21 rfl rfl)
theorem dX0_vote_22 : decode cX0_vote 22 = .ok (.ireturn, 1) := dk_172 (dk_at dksX0_vote_0 22 rfl rfl)
theorem dX0_vote_23 : decode cX0_vote 23 = .ok (.iconst 0, 1) := dk_3 (dk_at dksX0_vote_0 23 rfl rfl)
theorem dX0_vote_24 : decode cX0_vote 24 = .ok (.ireturn, 1) := dk_172 (dk_at dksX0_vote_1 0 rfl rfl)
abbrev cX0_setPage : ByteArray := method_6_code
def yX0_setPage : MethodName := ⟨RX0, "setPage", "(LProofPages;II[J)I"⟩
def dkwX0_setPage_0 : List UInt8 := [45, 3, 42, 27, 28, 182, 0, 27, 133, 80, 167, 0, 7, 58, 4, 4, 172, 3, 172]
abbrev dktX0_setPage_0 : List UInt8 := dkwX0_setPage_0 ++ []
theorem dksX0_setPage_0 : cX0_setPage.data.toList.drop 0 = dktX0_setPage_0 := by decide +kernel
theorem dX0_setPage_0 : decode cX0_setPage 0 = .ok (.aload_n 3, 1) := dk_45 (dk_at dksX0_setPage_0 0 rfl rfl)
theorem dX0_setPage_1 : decode cX0_setPage 1 = .ok (.iconst 0, 1) := dk_3 (dk_at dksX0_setPage_0 1 rfl rfl)
theorem dX0_setPage_2 : decode cX0_setPage 2 = .ok (.aload_n 0, 1) := dk_42 (dk_at dksX0_setPage_0 2 rfl rfl)
theorem dX0_setPage_3 : decode cX0_setPage 3 = .ok (.iload_n 1, 1) := dk_27 (dk_at dksX0_setPage_0 3 rfl rfl)
theorem dX0_setPage_4 : decode cX0_setPage 4 = .ok (.iload_n 2, 1) := dk_28 (dk_at dksX0_setPage_0 4 rfl rfl)
theorem dX0_setPage_5 : decode cX0_setPage 5 = .ok (.invokevirtual 27, 3) := dk_182 0 27 (dk_at dksX0_setPage_0 5 rfl rfl)
theorem dX0_setPage_8 : decode cX0_setPage 8 = .ok (.i2l, 1) := dk_133 (dk_at dksX0_setPage_0 8 rfl rfl)
theorem dX0_setPage_9 : decode cX0_setPage 9 = .ok (.lastore, 1) := dk_80 (dk_at dksX0_setPage_0 9 rfl rfl)
theorem dX0_setPage_10 : decode cX0_setPage 10 = .ok (.goto 7, 3) := dk_167 0 7 (dk_at dksX0_setPage_0 10 rfl rfl)
theorem dX0_setPage_13 : decode cX0_setPage 13 = .ok (.astore 4, 2) := dk_58 4 (dk_at dksX0_setPage_0 13 rfl rfl)
theorem dX0_setPage_15 : decode cX0_setPage 15 = .ok (.iconst 1, 1) := dk_4 (dk_at dksX0_setPage_0 15 rfl rfl)
theorem dX0_setPage_16 : decode cX0_setPage 16 = .ok (.ireturn, 1) := dk_172 (dk_at dksX0_setPage_0 16 rfl rfl)
theorem dX0_setPage_17 : decode cX0_setPage 17 = .ok (.iconst 0, 1) := dk_3 (dk_at dksX0_setPage_0 17 rfl rfl)
theorem dX0_setPage_18 : decode cX0_setPage 18 = .ok (.ireturn, 1) := dk_172 (dk_at dksX0_setPage_0 18 rfl rfl)
abbrev cX0_freeze : ByteArray := method_7_code
def yX0_freeze : MethodName := ⟨RX0, "freeze", "(LProofPages;I[J)I"⟩
def dkwX0_freeze_0 : List UInt8 := [44, 3, 42, 27, 182, 0, 30, 133, 80, 167, 0, 9, 78, 4, 172, 78, 5, 172, 3, 172]
abbrev dktX0_freeze_0 : List UInt8 := dkwX0_freeze_0 ++ []
theorem dksX0_freeze_0 : cX0_freeze.data.toList.drop 0 = dktX0_freeze_0 := by decide +kernel
theorem dX0_freeze_0 : decode cX0_freeze 0 = .ok (.aload_n 2, 1) := dk_44 (dk_at dksX0_freeze_0 0 rfl rfl)
theorem dX0_freeze_1 : decode cX0_freeze 1 = .ok (.iconst 0, 1) := dk_3 (dk_at dksX0_freeze_0 1 rfl rfl)
theorem dX0_freeze_2 : decode cX0_freeze 2 = .ok (.aload_n 0, 1) := dk_42 (dk_at dksX0_freeze_0 2 rfl rfl)
theorem dX0_freeze_3 : decode cX0_freeze 3 = .ok (.iload_n 1, 1) := dk_27 (dk_at dksX0_freeze_0 3 rfl rfl)
theorem dX0_freeze_4 : decode cX0_freeze 4 = .ok (.invokevirtual 30, 3) := dk_182 0 30 (dk_at dksX0_freeze_0 4 rfl rfl)
theorem dX0_freeze_7 : decode cX0_freeze 7 = .ok (.i2l, 1) := dk_133 (dk_at dksX0_freeze_0 7 rfl rfl)
theorem dX0_freeze_8 : decode cX0_freeze 8 = .ok (.lastore, 1) := dk_80 (dk_at dksX0_freeze_0 8 rfl rfl)
theorem dX0_freeze_9 : decode cX0_freeze 9 = .ok (.goto 9, 3) := dk_167 0 9 (dk_at dksX0_freeze_0 9 rfl rfl)
theorem dX0_freeze_12 : decode cX0_freeze 12 = .ok (.astore_n 3, 1) := dk_78 (dk_at dksX0_freeze_0 12 rfl rfl)
theorem dX0_freeze_13 : decode cX0_freeze 13 = .ok (.iconst 1, 1) := dk_4 (dk_at dksX0_freeze_0 13 rfl rfl)
theorem dX0_freeze_14 : decode cX0_freeze 14 = .ok (.ireturn, 1) := dk_172 (dk_at dksX0_freeze_0 14 rfl rfl)
theorem dX0_freeze_15 : decode cX0_freeze 15 = .ok (.astore_n 3, 1) := dk_78 (dk_at dksX0_freeze_0 15 rfl rfl)
theorem dX0_freeze_16 : decode cX0_freeze 16 = .ok (.iconst 2, 1) := dk_5 (dk_at dksX0_freeze_0 16 rfl rfl)
theorem dX0_freeze_17 : decode cX0_freeze 17 = .ok (.ireturn, 1) := dk_172 (dk_at dksX0_freeze_0 17 rfl rfl)
theorem dX0_freeze_18 : decode cX0_freeze 18 = .ok (.iconst 0, 1) := dk_3 (dk_at dksX0_freeze_0 18 rfl rfl)
theorem dX0_freeze_19 : decode cX0_freeze 19 = .ok (.ireturn, 1) := dk_172 (dk_at dksX0_freeze_0 19 rfl rfl)
abbrev cX0_lines : ByteArray := method_8_code
def yX0_lines : MethodName := ⟨RX0, "lines", "(LProofPages;I[J)I"⟩
def dkwX0_lines_0 : List UInt8 := [44, 3, 42, 27, 182, 0, 34, 133, 80, 167, 0, 6, 78, 4, 172, 3, 172]
abbrev dktX0_lines_0 : List UInt8 := dkwX0_lines_0 ++ []
theorem dksX0_lines_0 : cX0_lines.data.toList.drop 0 = dktX0_lines_0 := by decide +kernel
theorem dX0_lines_0 : decode cX0_lines 0 = .ok (.aload_n 2, 1) := dk_44 (dk_at dksX0_lines_0 0 rfl rfl)
theorem dX0_lines_1 : decode cX0_lines 1 = .ok (.iconst 0, 1) := dk_3 (dk_at dksX0_lines_0 1 rfl rfl)
theorem dX0_lines_2 : decode cX0_lines 2 = .ok (.aload_n 0, 1) := dk_42 (dk_at dksX0_lines_0 2 rfl rfl)
theorem dX0_lines_3 : decode cX0_lines 3 = .ok (.iload_n 1, 1) := dk_27 (dk_at dksX0_lines_0 3 rfl rfl)
theorem dX0_lines_4 : decode cX0_lines 4 = .ok (.invokevirtual 34, 3) := dk_182 0 34 (dk_at dksX0_lines_0 4 rfl rfl)
theorem dX0_lines_7 : decode cX0_lines 7 = .ok (.i2l, 1) := dk_133 (dk_at dksX0_lines_0 7 rfl rfl)
theorem dX0_lines_8 : decode cX0_lines 8 = .ok (.lastore, 1) := dk_80 (dk_at dksX0_lines_0 8 rfl rfl)
theorem dX0_lines_9 : decode cX0_lines 9 = .ok (.goto 6, 3) := dk_167 0 6 (dk_at dksX0_lines_0 9 rfl rfl)
theorem dX0_lines_12 : decode cX0_lines 12 = .ok (.astore_n 3, 1) := dk_78 (dk_at dksX0_lines_0 12 rfl rfl)
theorem dX0_lines_13 : decode cX0_lines 13 = .ok (.iconst 1, 1) := dk_4 (dk_at dksX0_lines_0 13 rfl rfl)
theorem dX0_lines_14 : decode cX0_lines 14 = .ok (.ireturn, 1) := dk_172 (dk_at dksX0_lines_0 14 rfl rfl)
theorem dX0_lines_15 : decode cX0_lines 15 = .ok (.iconst 0, 1) := dk_3 (dk_at dksX0_lines_0 15 rfl rfl)
theorem dX0_lines_16 : decode cX0_lines 16 = .ok (.ireturn, 1) := dk_172 (dk_at dksX0_lines_0 16 rfl rfl)
abbrev cX0_lineEnd : ByteArray := method_9_code
def yX0_lineEnd : MethodName := ⟨RX0, "lineEnd", "(LProofPages;II[J)I"⟩
def dkwX0_lineEnd_0 : List UInt8 := [45, 3, 42, 27, 28, 182, 0, 37, 133, 80, 167, 0, 7, 58, 4, 4, 172, 3, 172]
abbrev dktX0_lineEnd_0 : List UInt8 := dkwX0_lineEnd_0 ++ []
theorem dksX0_lineEnd_0 : cX0_lineEnd.data.toList.drop 0 = dktX0_lineEnd_0 := by decide +kernel
theorem dX0_lineEnd_0 : decode cX0_lineEnd 0 = .ok (.aload_n 3, 1) := dk_45 (dk_at dksX0_lineEnd_0 0 rfl rfl)
theorem dX0_lineEnd_1 : decode cX0_lineEnd 1 = .ok (.iconst 0, 1) := dk_3 (dk_at dksX0_lineEnd_0 1 rfl rfl)
theorem dX0_lineEnd_2 : decode cX0_lineEnd 2 = .ok (.aload_n 0, 1) := dk_42 (dk_at dksX0_lineEnd_0 2 rfl rfl)
theorem dX0_lineEnd_3 : decode cX0_lineEnd 3 = .ok (.iload_n 1, 1) := dk_27 (dk_at dksX0_lineEnd_0 3 rfl rfl)
theorem dX0_lineEnd_4 : decode cX0_lineEnd 4 = .ok (.iload_n 2, 1) := dk_28 (dk_at dksX0_lineEnd_0 4 rfl rfl)
theorem dX0_lineEnd_5 : decode cX0_lineEnd 5 = .ok (.invokevirtual 37, 3) := dk_182 0 37 (dk_at dksX0_lineEnd_0 5 rfl rfl)
theorem dX0_lineEnd_8 : decode cX0_lineEnd 8 = .ok (.i2l, 1) := dk_133 (dk_at dksX0_lineEnd_0 8 rfl rfl)
theorem dX0_lineEnd_9 : decode cX0_lineEnd 9 = .ok (.lastore, 1) := dk_80 (dk_at dksX0_lineEnd_0 9 rfl rfl)
theorem dX0_lineEnd_10 : decode cX0_lineEnd 10 = .ok (.goto 7, 3) := dk_167 0 7 (dk_at dksX0_lineEnd_0 10 rfl rfl)
theorem dX0_lineEnd_13 : decode cX0_lineEnd 13 = .ok (.astore 4, 2) := dk_58 4 (dk_at dksX0_lineEnd_0 13 rfl rfl)
theorem dX0_lineEnd_15 : decode cX0_lineEnd 15 = .ok (.iconst 1, 1) := dk_4 (dk_at dksX0_lineEnd_0 15 rfl rfl)
theorem dX0_lineEnd_16 : decode cX0_lineEnd 16 = .ok (.ireturn, 1) := dk_172 (dk_at dksX0_lineEnd_0 16 rfl rfl)
theorem dX0_lineEnd_17 : decode cX0_lineEnd 17 = .ok (.iconst 0, 1) := dk_3 (dk_at dksX0_lineEnd_0 17 rfl rfl)
theorem dX0_lineEnd_18 : decode cX0_lineEnd 18 = .ok (.ireturn, 1) := dk_172 (dk_at dksX0_lineEnd_0 18 rfl rfl)
abbrev cX0_length : ByteArray := method_10_code
def yX0_length : MethodName := ⟨RX0, "length", "(LProofPages;II[J)I"⟩
def dkwX0_length_0 : List UInt8 := [45, 3, 42, 27, 28, 182, 0, 40, 133, 80, 167, 0, 7, 58, 4, 4, 172, 3, 172]
abbrev dktX0_length_0 : List UInt8 := dkwX0_length_0 ++ []
theorem dksX0_length_0 : cX0_length.data.toList.drop 0 = dktX0_length_0 := by decide +kernel
theorem dX0_length_0 : decode cX0_length 0 = .ok (.aload_n 3, 1) := dk_45 (dk_at dksX0_length_0 0 rfl rfl)
theorem dX0_length_1 : decode cX0_length 1 = .ok (.iconst 0, 1) := dk_3 (dk_at dksX0_length_0 1 rfl rfl)
theorem dX0_length_2 : decode cX0_length 2 = .ok (.aload_n 0, 1) := dk_42 (dk_at dksX0_length_0 2 rfl rfl)
theorem dX0_length_3 : decode cX0_length 3 = .ok (.iload_n 1, 1) := dk_27 (dk_at dksX0_length_0 3 rfl rfl)
theorem dX0_length_4 : decode cX0_length 4 = .ok (.iload_n 2, 1) := dk_28 (dk_at dksX0_length_0 4 rfl rfl)
theorem dX0_length_5 : decode cX0_length 5 = .ok (.invokevirtual 40, 3) := dk_182 0 40 (dk_at dksX0_length_0 5 rfl rfl)
theorem dX0_length_8 : decode cX0_length 8 = .ok (.i2l, 1) := dk_133 (dk_at dksX0_length_0 8 rfl rfl)
theorem dX0_length_9 : decode cX0_length 9 = .ok (.lastore, 1) := dk_80 (dk_at dksX0_length_0 9 rfl rfl)
theorem dX0_length_10 : decode cX0_length 10 = .ok (.goto 7, 3) := dk_167 0 7 (dk_at dksX0_length_0 10 rfl rfl)
theorem dX0_length_13 : decode cX0_length 13 = .ok (.astore 4, 2) := dk_58 4 (dk_at dksX0_length_0 13 rfl rfl)
theorem dX0_length_15 : decode cX0_length 15 = .ok (.iconst 1, 1) := dk_4 (dk_at dksX0_length_0 15 rfl rfl)
theorem dX0_length_16 : decode cX0_length 16 = .ok (.ireturn, 1) := dk_172 (dk_at dksX0_length_0 16 rfl rfl)
theorem dX0_length_17 : decode cX0_length 17 = .ok (.iconst 0, 1) := dk_3 (dk_at dksX0_length_0 17 rfl rfl)
theorem dX0_length_18 : decode cX0_length 18 = .ok (.ireturn, 1) := dk_172 (dk_at dksX0_length_0 18 rfl rfl)
abbrev cX0_badness : ByteArray := method_11_code
def yX0_badness : MethodName := ⟨RX0, "badness", "(LProofPages;I[J)I"⟩
def dkwX0_badness_0 : List UInt8 := [44, 3, 42, 27, 182, 0, 43, 133, 80, 167, 0, 6, 78, 4, 172, 3, 172]
abbrev dktX0_badness_0 : List UInt8 := dkwX0_badness_0 ++ []
theorem dksX0_badness_0 : cX0_badness.data.toList.drop 0 = dktX0_badness_0 := by decide +kernel
theorem dX0_badness_0 : decode cX0_badness 0 = .ok (.aload_n 2, 1) := dk_44 (dk_at dksX0_badness_0 0 rfl rfl)
theorem dX0_badness_1 : decode cX0_badness 1 = .ok (.iconst 0, 1) := dk_3 (dk_at dksX0_badness_0 1 rfl rfl)
theorem dX0_badness_2 : decode cX0_badness 2 = .ok (.aload_n 0, 1) := dk_42 (dk_at dksX0_badness_0 2 rfl rfl)
theorem dX0_badness_3 : decode cX0_badness 3 = .ok (.iload_n 1, 1) := dk_27 (dk_at dksX0_badness_0 3 rfl rfl)
theorem dX0_badness_4 : decode cX0_badness 4 = .ok (.invokevirtual 43, 3) := dk_182 0 43 (dk_at dksX0_badness_0 4 rfl rfl)
theorem dX0_badness_7 : decode cX0_badness 7 = .ok (.i2l, 1) := dk_133 (dk_at dksX0_badness_0 7 rfl rfl)
theorem dX0_badness_8 : decode cX0_badness 8 = .ok (.lastore, 1) := dk_80 (dk_at dksX0_badness_0 8 rfl rfl)
theorem dX0_badness_9 : decode cX0_badness 9 = .ok (.goto 6, 3) := dk_167 0 6 (dk_at dksX0_badness_0 9 rfl rfl)
theorem dX0_badness_12 : decode cX0_badness 12 = .ok (.astore_n 3, 1) := dk_78 (dk_at dksX0_badness_0 12 rfl rfl)
theorem dX0_badness_13 : decode cX0_badness 13 = .ok (.iconst 1, 1) := dk_4 (dk_at dksX0_badness_0 13 rfl rfl)
theorem dX0_badness_14 : decode cX0_badness 14 = .ok (.ireturn, 1) := dk_172 (dk_at dksX0_badness_0 14 rfl rfl)
theorem dX0_badness_15 : decode cX0_badness 15 = .ok (.iconst 0, 1) := dk_3 (dk_at dksX0_badness_0 15 rfl rfl)
theorem dX0_badness_16 : decode cX0_badness 16 = .ok (.ireturn, 1) := dk_172 (dk_at dksX0_badness_0 16 rfl rfl)
abbrev cX0_badnessForwards : ByteArray := method_12_code
def yX0_badnessForwards : MethodName := ⟨RX0, "badnessForwards", "(LProofPages;I[J)I"⟩
def dkwX0_badnessForwards_0 : List UInt8 := [44, 3, 42, 27, 182, 0, 46, 133, 80, 167, 0, 6, 78, 4, 172, 3, 172]
abbrev dktX0_badnessForwards_0 : List UInt8 := dkwX0_badnessForwards_0 ++ []
theorem dksX0_badnessForwards_0 : cX0_badnessForwards.data.toList.drop 0 = dktX0_badnessForwards_0 := by decide +kernel
theorem dX0_badnessForwards_0 : decode cX0_badnessForwards 0 = .ok (.aload_n 2, 1) := dk_44 (dk_at dksX0_badnessForwards_0 0 rfl rfl)
theorem dX0_badnessForwards_1 : decode cX0_badnessForwards 1 = .ok (.iconst 0, 1) := dk_3 (dk_at dksX0_badnessForwards_0 1 rfl rfl)
theorem dX0_badnessForwards_2 : decode cX0_badnessForwards 2 = .ok (.aload_n 0, 1) := dk_42 (dk_at dksX0_badnessForwards_0 2 rfl rfl)
theorem dX0_badnessForwards_3 : decode cX0_badnessForwards 3 = .ok (.iload_n 1, 1) := dk_27 (dk_at dksX0_badnessForwards_0 3 rfl rfl)
theorem dX0_badnessForwards_4 : decode cX0_badnessForwards 4 = .ok (.invokevirtual 46, 3) := dk_182 0 46 (dk_at dksX0_badnessForwards_0 4 rfl rfl)
theorem dX0_badnessForwards_7 : decode cX0_badnessForwards 7 = .ok (.i2l, 1) := dk_133 (dk_at dksX0_badnessForwards_0 7 rfl rfl)
theorem dX0_badnessForwards_8 : decode cX0_badnessForwards 8 = .ok (.lastore, 1) := dk_80 (dk_at dksX0_badnessForwards_0 8 rfl rfl)
theorem dX0_badnessForwards_9 : decode cX0_badnessForwards 9 = .ok (.goto 6, 3) := dk_167 0 6 (dk_at dksX0_badnessForwards_0 9 rfl rfl)
theorem dX0_badnessForwards_12 : decode cX0_badnessForwards 12 = .ok (.astore_n 3, 1) := dk_78 (dk_at dksX0_badnessForwards_0 12 rfl rfl)
theorem dX0_badnessForwards_13 : decode cX0_badnessForwards 13 = .ok (.iconst 1, 1) := dk_4 (dk_at dksX0_badnessForwards_0 13 rfl rfl)
theorem dX0_badnessForwards_14 : decode cX0_badnessForwards 14 = .ok (.ireturn, 1) := dk_172 (dk_at dksX0_badnessForwards_0 14 rfl rfl)
theorem dX0_badnessForwards_15 : decode cX0_badnessForwards 15 = .ok (.iconst 0, 1) := dk_3 (dk_at dksX0_badnessForwards_0 15 rfl rfl)
theorem dX0_badnessForwards_16 : decode cX0_badnessForwards 16 = .ok (.ireturn, 1) := dk_172 (dk_at dksX0_badnessForwards_0 16 rfl rfl)
abbrev cX0_linesOn : ByteArray := method_13_code
def yX0_linesOn : MethodName := ⟨RX0, "linesOn", "(LProofPages;I[J)I"⟩
def dkwX0_linesOn_0 : List UInt8 := [44, 3, 42, 27, 182, 0, 49, 133, 80, 167, 0, 6, 78, 4, 172, 3, 172]
abbrev dktX0_linesOn_0 : List UInt8 := dkwX0_linesOn_0 ++ []
theorem dksX0_linesOn_0 : cX0_linesOn.data.toList.drop 0 = dktX0_linesOn_0 := by decide +kernel
theorem dX0_linesOn_0 : decode cX0_linesOn 0 = .ok (.aload_n 2, 1) := dk_44 (dk_at dksX0_linesOn_0 0 rfl rfl)
theorem dX0_linesOn_1 : decode cX0_linesOn 1 = .ok (.iconst 0, 1) := dk_3 (dk_at dksX0_linesOn_0 1 rfl rfl)
theorem dX0_linesOn_2 : decode cX0_linesOn 2 = .ok (.aload_n 0, 1) := dk_42 (dk_at dksX0_linesOn_0 2 rfl rfl)
theorem dX0_linesOn_3 : decode cX0_linesOn 3 = .ok (.iload_n 1, 1) := dk_27 (dk_at dksX0_linesOn_0 3 rfl rfl)
theorem dX0_linesOn_4 : decode cX0_linesOn 4 = .ok (.invokevirtual 49, 3) := dk_182 0 49 (dk_at dksX0_linesOn_0 4 rfl rfl)
theorem dX0_linesOn_7 : decode cX0_linesOn 7 = .ok (.i2l, 1) := dk_133 (dk_at dksX0_linesOn_0 7 rfl rfl)
theorem dX0_linesOn_8 : decode cX0_linesOn 8 = .ok (.lastore, 1) := dk_80 (dk_at dksX0_linesOn_0 8 rfl rfl)
theorem dX0_linesOn_9 : decode cX0_linesOn 9 = .ok (.goto 6, 3) := dk_167 0 6 (dk_at dksX0_linesOn_0 9 rfl rfl)
theorem dX0_linesOn_12 : decode cX0_linesOn 12 = .ok (.astore_n 3, 1) := dk_78 (dk_at dksX0_linesOn_0 12 rfl rfl)
theorem dX0_linesOn_13 : decode cX0_linesOn 13 = .ok (.iconst 1, 1) := dk_4 (dk_at dksX0_linesOn_0 13 rfl rfl)
theorem dX0_linesOn_14 : decode cX0_linesOn 14 = .ok (.ireturn, 1) := dk_172 (dk_at dksX0_linesOn_0 14 rfl rfl)
theorem dX0_linesOn_15 : decode cX0_linesOn 15 = .ok (.iconst 0, 1) := dk_3 (dk_at dksX0_linesOn_0 15 rfl rfl)
theorem dX0_linesOn_16 : decode cX0_linesOn 16 = .ok (.ireturn, 1) := dk_172 (dk_at dksX0_linesOn_0 16 rfl rfl)
abbrev cX0_where : ByteArray := method_14_code
def yX0_where : MethodName := ⟨RX0, "where", "(LProofPages;I[J)I"⟩
def dkwX0_where_0 : List UInt8 := [44, 3, 42, 27, 182, 0, 52, 133, 80, 167, 0, 6, 78, 4, 172, 3, 172]
abbrev dktX0_where_0 : List UInt8 := dkwX0_where_0 ++ []
theorem dksX0_where_0 : cX0_where.data.toList.drop 0 = dktX0_where_0 := by decide +kernel
theorem dX0_where_0 : decode cX0_where 0 = .ok (.aload_n 2, 1) := dk_44 (dk_at dksX0_where_0 0 rfl rfl)
theorem dX0_where_1 : decode cX0_where 1 = .ok (.iconst 0, 1) := dk_3 (dk_at dksX0_where_0 1 rfl rfl)
theorem dX0_where_2 : decode cX0_where 2 = .ok (.aload_n 0, 1) := dk_42 (dk_at dksX0_where_0 2 rfl rfl)
theorem dX0_where_3 : decode cX0_where 3 = .ok (.iload_n 1, 1) := dk_27 (dk_at dksX0_where_0 3 rfl rfl)
theorem dX0_where_4 : decode cX0_where 4 = .ok (.invokevirtual 52, 3) := dk_182 0 52 (dk_at dksX0_where_0 4 rfl rfl)
theorem dX0_where_7 : decode cX0_where 7 = .ok (.i2l, 1) := dk_133 (dk_at dksX0_where_0 7 rfl rfl)
theorem dX0_where_8 : decode cX0_where 8 = .ok (.lastore, 1) := dk_80 (dk_at dksX0_where_0 8 rfl rfl)
theorem dX0_where_9 : decode cX0_where 9 = .ok (.goto 6, 3) := dk_167 0 6 (dk_at dksX0_where_0 9 rfl rfl)
theorem dX0_where_12 : decode cX0_where 12 = .ok (.astore_n 3, 1) := dk_78 (dk_at dksX0_where_0 12 rfl rfl)
theorem dX0_where_13 : decode cX0_where 13 = .ok (.iconst 1, 1) := dk_4 (dk_at dksX0_where_0 13 rfl rfl)
theorem dX0_where_14 : decode cX0_where 14 = .ok (.ireturn, 1) := dk_172 (dk_at dksX0_where_0 14 rfl rfl)
theorem dX0_where_15 : decode cX0_where 15 = .ok (.iconst 0, 1) := dk_3 (dk_at dksX0_where_0 15 rfl rfl)
theorem dX0_where_16 : decode cX0_where 16 = .ok (.ireturn, 1) := dk_172 (dk_at dksX0_where_0 16 rfl rfl)
abbrev cX0_report : ByteArray := method_15_code
def yX0_report : MethodName := ⟨RX0, "report", "(LProofPages;II[J)I"⟩
def dkwX0_report_0 : List UInt8 := [45, 3, 42, 27, 28, 182, 0, 55, 133, 80, 167, 0, 11, 58, 4, 4, 172, 58, 4, 5, 172, 3, 172]
abbrev dktX0_report_0 : List UInt8 := dkwX0_report_0 ++ []
theorem dksX0_report_0 : cX0_report.data.toList.drop 0 = dktX0_report_0 := by decide +kernel
theorem dX0_report_0 : decode cX0_report 0 = .ok (.aload_n 3, 1) := dk_45 (dk_at dksX0_report_0 0 rfl rfl)
theorem dX0_report_1 : decode cX0_report 1 = .ok (.iconst 0, 1) := dk_3 (dk_at dksX0_report_0 1 rfl rfl)
theorem dX0_report_2 : decode cX0_report 2 = .ok (.aload_n 0, 1) := dk_42 (dk_at dksX0_report_0 2 rfl rfl)
theorem dX0_report_3 : decode cX0_report 3 = .ok (.iload_n 1, 1) := dk_27 (dk_at dksX0_report_0 3 rfl rfl)
theorem dX0_report_4 : decode cX0_report 4 = .ok (.iload_n 2, 1) := dk_28 (dk_at dksX0_report_0 4 rfl rfl)
theorem dX0_report_5 : decode cX0_report 5 = .ok (.invokevirtual 55, 3) := dk_182 0 55 (dk_at dksX0_report_0 5 rfl rfl)
theorem dX0_report_8 : decode cX0_report 8 = .ok (.i2l, 1) := dk_133 (dk_at dksX0_report_0 8 rfl rfl)
theorem dX0_report_9 : decode cX0_report 9 = .ok (.lastore, 1) := dk_80 (dk_at dksX0_report_0 9 rfl rfl)
theorem dX0_report_10 : decode cX0_report 10 = .ok (.goto 11, 3) := dk_167 0 11 (dk_at dksX0_report_0 10 rfl rfl)
theorem dX0_report_13 : decode cX0_report 13 = .ok (.astore 4, 2) := dk_58 4 (dk_at dksX0_report_0 13 rfl rfl)
theorem dX0_report_15 : decode cX0_report 15 = .ok (.iconst 1, 1) := dk_4 (dk_at dksX0_report_0 15 rfl rfl)
theorem dX0_report_16 : decode cX0_report 16 = .ok (.ireturn, 1) := dk_172 (dk_at dksX0_report_0 16 rfl rfl)
theorem dX0_report_17 : decode cX0_report 17 = .ok (.astore 4, 2) := dk_58 4 (dk_at dksX0_report_0 17 rfl rfl)
theorem dX0_report_19 : decode cX0_report 19 = .ok (.iconst 2, 1) := dk_5 (dk_at dksX0_report_0 19 rfl rfl)
theorem dX0_report_20 : decode cX0_report 20 = .ok (.ireturn, 1) := dk_172 (dk_at dksX0_report_0 20 rfl rfl)
theorem dX0_report_21 : decode cX0_report 21 = .ok (.iconst 0, 1) := dk_3 (dk_at dksX0_report_0 21 rfl rfl)
theorem dX0_report_22 : decode cX0_report 22 = .ok (.ireturn, 1) := dk_172 (dk_at dksX0_report_0 22 rfl rfl)
abbrev cX0_judge : ByteArray := method_16_code
def yX0_judge : MethodName := ⟨RX0, "judge", "(LProofPages;IZ[J)I"⟩
def dkwX0_judge_0 : List UInt8 := [45, 3, 42, 27, 28, 182, 0, 58, 133, 80, 167, 0, 11, 58, 4, 4, 172, 58, 4, 5, 172, 3, 172]
abbrev dktX0_judge_0 : List UInt8 := dkwX0_judge_0 ++ []
theorem dksX0_judge_0 : cX0_judge.data.toList.drop 0 = dktX0_judge_0 := by decide +kernel
theorem dX0_judge_0 : decode cX0_judge 0 = .ok (.aload_n 3, 1) := dk_45 (dk_at dksX0_judge_0 0 rfl rfl)
theorem dX0_judge_1 : decode cX0_judge 1 = .ok (.iconst 0, 1) := dk_3 (dk_at dksX0_judge_0 1 rfl rfl)
theorem dX0_judge_2 : decode cX0_judge 2 = .ok (.aload_n 0, 1) := dk_42 (dk_at dksX0_judge_0 2 rfl rfl)
theorem dX0_judge_3 : decode cX0_judge 3 = .ok (.iload_n 1, 1) := dk_27 (dk_at dksX0_judge_0 3 rfl rfl)
theorem dX0_judge_4 : decode cX0_judge 4 = .ok (.iload_n 2, 1) := dk_28 (dk_at dksX0_judge_0 4 rfl rfl)
theorem dX0_judge_5 : decode cX0_judge 5 = .ok (.invokevirtual 58, 3) := dk_182 0 58 (dk_at dksX0_judge_0 5 rfl rfl)
theorem dX0_judge_8 : decode cX0_judge 8 = .ok (.i2l, 1) := dk_133 (dk_at dksX0_judge_0 8 rfl rfl)
theorem dX0_judge_9 : decode cX0_judge 9 = .ok (.lastore, 1) := dk_80 (dk_at dksX0_judge_0 9 rfl rfl)
theorem dX0_judge_10 : decode cX0_judge 10 = .ok (.goto 11, 3) := dk_167 0 11 (dk_at dksX0_judge_0 10 rfl rfl)
theorem dX0_judge_13 : decode cX0_judge 13 = .ok (.astore 4, 2) := dk_58 4 (dk_at dksX0_judge_0 13 rfl rfl)
theorem dX0_judge_15 : decode cX0_judge 15 = .ok (.iconst 1, 1) := dk_4 (dk_at dksX0_judge_0 15 rfl rfl)
theorem dX0_judge_16 : decode cX0_judge 16 = .ok (.ireturn, 1) := dk_172 (dk_at dksX0_judge_0 16 rfl rfl)
theorem dX0_judge_17 : decode cX0_judge 17 = .ok (.astore 4, 2) := dk_58 4 (dk_at dksX0_judge_0 17 rfl rfl)
theorem dX0_judge_19 : decode cX0_judge 19 = .ok (.iconst 2, 1) := dk_5 (dk_at dksX0_judge_0 19 rfl rfl)
theorem dX0_judge_20 : decode cX0_judge 20 = .ok (.ireturn, 1) := dk_172 (dk_at dksX0_judge_0 20 rfl rfl)
theorem dX0_judge_21 : decode cX0_judge 21 = .ok (.iconst 0, 1) := dk_3 (dk_at dksX0_judge_0 21 rfl rfl)
theorem dX0_judge_22 : decode cX0_judge 22 = .ok (.ireturn, 1) := dk_172 (dk_at dksX0_judge_0 22 rfl rfl)
abbrev cX0_errorAt : ByteArray := method_17_code
def yX0_errorAt : MethodName := ⟨RX0, "errorAt", "(LProofPages;I[J)I"⟩
def dkwX0_errorAt_0 : List UInt8 := [44, 3, 42, 27, 182, 0, 62, 133, 80, 167, 0, 6, 78, 4, 172, 3, 172]
abbrev dktX0_errorAt_0 : List UInt8 := dkwX0_errorAt_0 ++ []
theorem dksX0_errorAt_0 : cX0_errorAt.data.toList.drop 0 = dktX0_errorAt_0 := by decide +kernel
theorem dX0_errorAt_0 : decode cX0_errorAt 0 = .ok (.aload_n 2, 1) := dk_44 (dk_at dksX0_errorAt_0 0 rfl rfl)
theorem dX0_errorAt_1 : decode cX0_errorAt 1 = .ok (.iconst 0, 1) := dk_3 (dk_at dksX0_errorAt_0 1 rfl rfl)
theorem dX0_errorAt_2 : decode cX0_errorAt 2 = .ok (.aload_n 0, 1) := dk_42 (dk_at dksX0_errorAt_0 2 rfl rfl)
theorem dX0_errorAt_3 : decode cX0_errorAt 3 = .ok (.iload_n 1, 1) := dk_27 (dk_at dksX0_errorAt_0 3 rfl rfl)
theorem dX0_errorAt_4 : decode cX0_errorAt 4 = .ok (.invokevirtual 62, 3) := dk_182 0 62 (dk_at dksX0_errorAt_0 4 rfl rfl)
theorem dX0_errorAt_7 : decode cX0_errorAt 7 = .ok (.i2l, 1) := dk_133 (dk_at dksX0_errorAt_0 7 rfl rfl)
theorem dX0_errorAt_8 : decode cX0_errorAt 8 = .ok (.lastore, 1) := dk_80 (dk_at dksX0_errorAt_0 8 rfl rfl)
theorem dX0_errorAt_9 : decode cX0_errorAt 9 = .ok (.goto 6, 3) := dk_167 0 6 (dk_at dksX0_errorAt_0 9 rfl rfl)
theorem dX0_errorAt_12 : decode cX0_errorAt 12 = .ok (.astore_n 3, 1) := dk_78 (dk_at dksX0_errorAt_0 12 rfl rfl)
theorem dX0_errorAt_13 : decode cX0_errorAt 13 = .ok (.iconst 1, 1) := dk_4 (dk_at dksX0_errorAt_0 13 rfl rfl)
theorem dX0_errorAt_14 : decode cX0_errorAt 14 = .ok (.ireturn, 1) := dk_172 (dk_at dksX0_errorAt_0 14 rfl rfl)
theorem dX0_errorAt_15 : decode cX0_errorAt 15 = .ok (.iconst 0, 1) := dk_3 (dk_at dksX0_errorAt_0 15 rfl rfl)
theorem dX0_errorAt_16 : decode cX0_errorAt 16 = .ok (.ireturn, 1) := dk_172 (dk_at dksX0_errorAt_0 16 rfl rfl)
abbrev cX0_stateOf : ByteArray := method_18_code
def yX0_stateOf : MethodName := ⟨RX0, "stateOf", "(LProofPages;I[J)I"⟩
def dkwX0_stateOf_0 : List UInt8 := [44, 3, 42, 27, 182, 0, 65, 133, 80, 167, 0, 6, 78, 4, 172, 3, 172]
abbrev dktX0_stateOf_0 : List UInt8 := dkwX0_stateOf_0 ++ []
theorem dksX0_stateOf_0 : cX0_stateOf.data.toList.drop 0 = dktX0_stateOf_0 := by decide +kernel
theorem dX0_stateOf_0 : decode cX0_stateOf 0 = .ok (.aload_n 2, 1) := dk_44 (dk_at dksX0_stateOf_0 0 rfl rfl)
theorem dX0_stateOf_1 : decode cX0_stateOf 1 = .ok (.iconst 0, 1) := dk_3 (dk_at dksX0_stateOf_0 1 rfl rfl)
theorem dX0_stateOf_2 : decode cX0_stateOf 2 = .ok (.aload_n 0, 1) := dk_42 (dk_at dksX0_stateOf_0 2 rfl rfl)
theorem dX0_stateOf_3 : decode cX0_stateOf 3 = .ok (.iload_n 1, 1) := dk_27 (dk_at dksX0_stateOf_0 3 rfl rfl)
theorem dX0_stateOf_4 : decode cX0_stateOf 4 = .ok (.invokevirtual 65, 3) := dk_182 0 65 (dk_at dksX0_stateOf_0 4 rfl rfl)
theorem dX0_stateOf_7 : decode cX0_stateOf 7 = .ok (.i2l, 1) := dk_133 (dk_at dksX0_stateOf_0 7 rfl rfl)
theorem dX0_stateOf_8 : decode cX0_stateOf 8 = .ok (.lastore, 1) := dk_80 (dk_at dksX0_stateOf_0 8 rfl rfl)
theorem dX0_stateOf_9 : decode cX0_stateOf 9 = .ok (.goto 6, 3) := dk_167 0 6 (dk_at dksX0_stateOf_0 9 rfl rfl)
theorem dX0_stateOf_12 : decode cX0_stateOf 12 = .ok (.astore_n 3, 1) := dk_78 (dk_at dksX0_stateOf_0 12 rfl rfl)
theorem dX0_stateOf_13 : decode cX0_stateOf 13 = .ok (.iconst 1, 1) := dk_4 (dk_at dksX0_stateOf_0 13 rfl rfl)
theorem dX0_stateOf_14 : decode cX0_stateOf 14 = .ok (.ireturn, 1) := dk_172 (dk_at dksX0_stateOf_0 14 rfl rfl)
theorem dX0_stateOf_15 : decode cX0_stateOf 15 = .ok (.iconst 0, 1) := dk_3 (dk_at dksX0_stateOf_0 15 rfl rfl)
theorem dX0_stateOf_16 : decode cX0_stateOf 16 = .ok (.ireturn, 1) := dk_172 (dk_at dksX0_stateOf_0 16 rfl rfl)
abbrev cX0_readerAt : ByteArray := method_19_code
def yX0_readerAt : MethodName := ⟨RX0, "readerAt", "(LProofPages;I[J)I"⟩
def dkwX0_readerAt_0 : List UInt8 := [44, 3, 42, 27, 182, 0, 68, 133, 80, 167, 0, 6, 78, 4, 172, 3, 172]
abbrev dktX0_readerAt_0 : List UInt8 := dkwX0_readerAt_0 ++ []
theorem dksX0_readerAt_0 : cX0_readerAt.data.toList.drop 0 = dktX0_readerAt_0 := by decide +kernel
theorem dX0_readerAt_0 : decode cX0_readerAt 0 = .ok (.aload_n 2, 1) := dk_44 (dk_at dksX0_readerAt_0 0 rfl rfl)
theorem dX0_readerAt_1 : decode cX0_readerAt 1 = .ok (.iconst 0, 1) := dk_3 (dk_at dksX0_readerAt_0 1 rfl rfl)
theorem dX0_readerAt_2 : decode cX0_readerAt 2 = .ok (.aload_n 0, 1) := dk_42 (dk_at dksX0_readerAt_0 2 rfl rfl)
theorem dX0_readerAt_3 : decode cX0_readerAt 3 = .ok (.iload_n 1, 1) := dk_27 (dk_at dksX0_readerAt_0 3 rfl rfl)
theorem dX0_readerAt_4 : decode cX0_readerAt 4 = .ok (.invokevirtual 68, 3) := dk_182 0 68 (dk_at dksX0_readerAt_0 4 rfl rfl)
theorem dX0_readerAt_7 : decode cX0_readerAt 7 = .ok (.i2l, 1) := dk_133 (dk_at dksX0_readerAt_0 7 rfl rfl)
theorem dX0_readerAt_8 : decode cX0_readerAt 8 = .ok (.lastore, 1) := dk_80 (dk_at dksX0_readerAt_0 8 rfl rfl)
theorem dX0_readerAt_9 : decode cX0_readerAt 9 = .ok (.goto 6, 3) := dk_167 0 6 (dk_at dksX0_readerAt_0 9 rfl rfl)
theorem dX0_readerAt_12 : decode cX0_readerAt 12 = .ok (.astore_n 3, 1) := dk_78 (dk_at dksX0_readerAt_0 12 rfl rfl)
theorem dX0_readerAt_13 : decode cX0_readerAt 13 = .ok (.iconst 1, 1) := dk_4 (dk_at dksX0_readerAt_0 13 rfl rfl)
theorem dX0_readerAt_14 : decode cX0_readerAt 14 = .ok (.ireturn, 1) := dk_172 (dk_at dksX0_readerAt_0 14 rfl rfl)
theorem dX0_readerAt_15 : decode cX0_readerAt 15 = .ok (.iconst 0, 1) := dk_3 (dk_at dksX0_readerAt_0 15 rfl rfl)
theorem dX0_readerAt_16 : decode cX0_readerAt 16 = .ok (.ireturn, 1) := dk_172 (dk_at dksX0_readerAt_0 16 rfl rfl)
theorem q40 : (Jvm.Cond.initialized "ProofPagesLaw") ∈ lw_all := lw_g (lw_at lw_m1 0 rfl) rfl
theorem q69 : (Jvm.Cond.classLink "ProofPagesLaw" (8 : Nat) "ProofPages") ∈ lw_all := lw_g (lw_at lw_m1 29 rfl) rfl
theorem q71 : (Jvm.Cond.methodLink "ProofPagesLaw" (71 : Nat) ({ cls := "ProofPages", name := "<init>", desc := "()V" } : Jvm.MethodName)) ∈ lw_all := lw_g (lw_at lw_m1 31 rfl) rfl
theorem q464 : (Jvm.Cond.methodLink "ProofPagesLaw" (99 : Nat) ({ cls := "ProofPages", name := "words", desc := "()I" } : Jvm.MethodName)) ∈ lw_all := lw_g (lw_at lw_m2 184 rfl) rfl
theorem q478 : (Jvm.Cond.methodLink "ProofPagesLaw" (118 : Nat) ({ cls := "ProofPages", name := "pages", desc := "()I" } : Jvm.MethodName)) ∈ lw_all := lw_g (lw_at lw_m2 198 rfl) rfl
theorem q549 : (Jvm.Cond.methodLink "ProofPagesLaw" (75 : Nat) ({ cls := "ProofPagesLaw", name := "addParagraph", desc := "(LProofPages;[J)I" } : Jvm.MethodName)) ∈ lw_all := lw_g (lw_at lw_m3 29 rfl) rfl
theorem q550 : (Jvm.Cond.static ({ cls := "ProofPagesLaw", name := "addParagraph", desc := "(LProofPages;[J)I" } : Jvm.MethodName)) ∈ lw_all := lw_g (lw_at lw_m3 30 rfl) rfl
theorem q551 : (Jvm.Cond.codeWith ({ cls := "ProofPagesLaw", name := "addParagraph", desc := "(LProofPages;[J)I" } : Jvm.MethodName) method_3_code (3 : Nat) (Option.some Jvm.ClassFile.FieldType.int) [((0 : Nat), (8 : Nat), (11 : Nat), (13 : Nat))]) ∈ lw_all := lw_g (lw_at lw_m3 31 rfl) rfl
theorem q552 : (Jvm.Cond.classLink "ProofPagesLaw" (13 : Nat) "java/lang/IllegalStateException") ∈ lw_all := lw_g (lw_at lw_m3 32 rfl) rfl
theorem q553 : (Jvm.Cond.methodLink "ProofPagesLaw" (7 : Nat) ({ cls := "ProofPages", name := "addParagraph", desc := "()I" } : Jvm.MethodName)) ∈ lw_all := lw_g (lw_at lw_m3 33 rfl) rfl
theorem q663 : (Jvm.Cond.methodLink "ProofPagesLaw" (84 : Nat) ({ cls := "ProofPagesLaw", name := "addWord", desc := "(LProofPages;II[J)I" } : Jvm.MethodName)) ∈ lw_all := lw_g (lw_at lw_m3 143 rfl) rfl
theorem q664 : (Jvm.Cond.static ({ cls := "ProofPagesLaw", name := "addWord", desc := "(LProofPages;II[J)I" } : Jvm.MethodName)) ∈ lw_all := lw_g (lw_at lw_m3 144 rfl) rfl
theorem q665 : (Jvm.Cond.codeWith ({ cls := "ProofPagesLaw", name := "addWord", desc := "(LProofPages;II[J)I" } : Jvm.MethodName) method_4_code (5 : Nat) (Option.some Jvm.ClassFile.FieldType.int) [((0 : Nat), (10 : Nat), (13 : Nat), (19 : Nat)), ((0 : Nat), (10 : Nat), (17 : Nat), (21 : Nat)), ((0 : Nat), (10 : Nat), (21 : Nat), (13 : Nat))]) ∈ lw_all := lw_g (lw_at lw_m3 145 rfl) rfl
theorem q666 : (Jvm.Cond.classLink "ProofPagesLaw" (19 : Nat) "java/lang/IndexOutOfBoundsException") ∈ lw_all := lw_g (lw_at lw_m3 146 rfl) rfl
theorem q685 : (Jvm.Cond.classLink "ProofPagesLaw" (21 : Nat) "java/lang/IllegalArgumentException") ∈ lw_all := lw_g (lw_at lw_m3 165 rfl) rfl
theorem q686 : (Jvm.Cond.methodLink "ProofPagesLaw" (15 : Nat) ({ cls := "ProofPages", name := "addWord", desc := "(II)I" } : Jvm.MethodName)) ∈ lw_all := lw_g (lw_at lw_m3 166 rfl) rfl
theorem q751 : (Jvm.Cond.methodLink "ProofPagesLaw" (88 : Nat) ({ cls := "ProofPagesLaw", name := "vote", desc := "(LProofPages;IIZ[J)I" } : Jvm.MethodName)) ∈ lw_all := lw_g (lw_at lw_m3 231 rfl) rfl
theorem q752 : (Jvm.Cond.static ({ cls := "ProofPagesLaw", name := "vote", desc := "(LProofPages;IIZ[J)I" } : Jvm.MethodName)) ∈ lw_all := lw_g (lw_at lw_m3 232 rfl) rfl
theorem q753 : (Jvm.Cond.codeWith ({ cls := "ProofPagesLaw", name := "vote", desc := "(LProofPages;IIZ[J)I" } : Jvm.MethodName) method_5_code (6 : Nat) (Option.some Jvm.ClassFile.FieldType.int) [((0 : Nat), (12 : Nat), (15 : Nat), (19 : Nat)), ((0 : Nat), (12 : Nat), (19 : Nat), (13 : Nat))]) ∈ lw_all := lw_g (lw_at lw_m3 233 rfl) rfl
theorem q754 : (Jvm.Cond.methodLink "ProofPagesLaw" (23 : Nat) ({ cls := "ProofPages", name := "vote", desc := "(IIZ)I" } : Jvm.MethodName)) ∈ lw_all := lw_g (lw_at lw_m3 234 rfl) rfl
theorem q765 : (Jvm.Cond.methodLink "ProofPagesLaw" (92 : Nat) ({ cls := "ProofPagesLaw", name := "setPage", desc := "(LProofPages;II[J)I" } : Jvm.MethodName)) ∈ lw_all := lw_g (lw_at lw_m4 5 rfl) rfl
theorem q766 : (Jvm.Cond.static ({ cls := "ProofPagesLaw", name := "setPage", desc := "(LProofPages;II[J)I" } : Jvm.MethodName)) ∈ lw_all := lw_g (lw_at lw_m4 6 rfl) rfl
theorem q767 : (Jvm.Cond.codeWith ({ cls := "ProofPagesLaw", name := "setPage", desc := "(LProofPages;II[J)I" } : Jvm.MethodName) method_6_code (5 : Nat) (Option.some Jvm.ClassFile.FieldType.int) [((0 : Nat), (10 : Nat), (13 : Nat), (21 : Nat))]) ∈ lw_all := lw_g (lw_at lw_m4 7 rfl) rfl
theorem q768 : (Jvm.Cond.methodLink "ProofPagesLaw" (27 : Nat) ({ cls := "ProofPages", name := "setPage", desc := "(II)I" } : Jvm.MethodName)) ∈ lw_all := lw_g (lw_at lw_m4 8 rfl) rfl
theorem q772 : (Jvm.Cond.methodLink "ProofPagesLaw" (95 : Nat) ({ cls := "ProofPagesLaw", name := "freeze", desc := "(LProofPages;I[J)I" } : Jvm.MethodName)) ∈ lw_all := lw_g (lw_at lw_m4 12 rfl) rfl
theorem q773 : (Jvm.Cond.static ({ cls := "ProofPagesLaw", name := "freeze", desc := "(LProofPages;I[J)I" } : Jvm.MethodName)) ∈ lw_all := lw_g (lw_at lw_m4 13 rfl) rfl
theorem q774 : (Jvm.Cond.codeWith ({ cls := "ProofPagesLaw", name := "freeze", desc := "(LProofPages;I[J)I" } : Jvm.MethodName) method_7_code (4 : Nat) (Option.some Jvm.ClassFile.FieldType.int) [((0 : Nat), (9 : Nat), (12 : Nat), (19 : Nat)), ((0 : Nat), (9 : Nat), (15 : Nat), (13 : Nat))]) ∈ lw_all := lw_g (lw_at lw_m4 14 rfl) rfl
theorem q775 : (Jvm.Cond.methodLink "ProofPagesLaw" (30 : Nat) ({ cls := "ProofPages", name := "freeze", desc := "(I)I" } : Jvm.MethodName)) ∈ lw_all := lw_g (lw_at lw_m4 15 rfl) rfl
theorem q779 : (Jvm.Cond.methodLink "ProofPagesLaw" (103 : Nat) ({ cls := "ProofPagesLaw", name := "lines", desc := "(LProofPages;I[J)I" } : Jvm.MethodName)) ∈ lw_all := lw_g (lw_at lw_m4 19 rfl) rfl
theorem q780 : (Jvm.Cond.static ({ cls := "ProofPagesLaw", name := "lines", desc := "(LProofPages;I[J)I" } : Jvm.MethodName)) ∈ lw_all := lw_g (lw_at lw_m4 20 rfl) rfl
theorem q781 : (Jvm.Cond.codeWith ({ cls := "ProofPagesLaw", name := "lines", desc := "(LProofPages;I[J)I" } : Jvm.MethodName) method_8_code (4 : Nat) (Option.some Jvm.ClassFile.FieldType.int) [((0 : Nat), (9 : Nat), (12 : Nat), (19 : Nat))]) ∈ lw_all := lw_g (lw_at lw_m4 21 rfl) rfl
theorem q782 : (Jvm.Cond.methodLink "ProofPagesLaw" (34 : Nat) ({ cls := "ProofPages", name := "lines", desc := "(I)I" } : Jvm.MethodName)) ∈ lw_all := lw_g (lw_at lw_m4 22 rfl) rfl
theorem q786 : (Jvm.Cond.methodLink "ProofPagesLaw" (106 : Nat) ({ cls := "ProofPagesLaw", name := "lineEnd", desc := "(LProofPages;II[J)I" } : Jvm.MethodName)) ∈ lw_all := lw_g (lw_at lw_m4 26 rfl) rfl
theorem q787 : (Jvm.Cond.static ({ cls := "ProofPagesLaw", name := "lineEnd", desc := "(LProofPages;II[J)I" } : Jvm.MethodName)) ∈ lw_all := lw_g (lw_at lw_m4 27 rfl) rfl
theorem q788 : (Jvm.Cond.codeWith ({ cls := "ProofPagesLaw", name := "lineEnd", desc := "(LProofPages;II[J)I" } : Jvm.MethodName) method_9_code (5 : Nat) (Option.some Jvm.ClassFile.FieldType.int) [((0 : Nat), (10 : Nat), (13 : Nat), (19 : Nat))]) ∈ lw_all := lw_g (lw_at lw_m4 28 rfl) rfl
theorem q789 : (Jvm.Cond.methodLink "ProofPagesLaw" (37 : Nat) ({ cls := "ProofPages", name := "lineEnd", desc := "(II)I" } : Jvm.MethodName)) ∈ lw_all := lw_g (lw_at lw_m4 29 rfl) rfl
theorem q797 : (Jvm.Cond.methodLink "ProofPagesLaw" (109 : Nat) ({ cls := "ProofPagesLaw", name := "length", desc := "(LProofPages;II[J)I" } : Jvm.MethodName)) ∈ lw_all := lw_g (lw_at lw_m4 37 rfl) rfl
theorem q798 : (Jvm.Cond.static ({ cls := "ProofPagesLaw", name := "length", desc := "(LProofPages;II[J)I" } : Jvm.MethodName)) ∈ lw_all := lw_g (lw_at lw_m4 38 rfl) rfl
theorem q799 : (Jvm.Cond.codeWith ({ cls := "ProofPagesLaw", name := "length", desc := "(LProofPages;II[J)I" } : Jvm.MethodName) method_10_code (5 : Nat) (Option.some Jvm.ClassFile.FieldType.int) [((0 : Nat), (10 : Nat), (13 : Nat), (19 : Nat))]) ∈ lw_all := lw_g (lw_at lw_m4 39 rfl) rfl
theorem q800 : (Jvm.Cond.methodLink "ProofPagesLaw" (40 : Nat) ({ cls := "ProofPages", name := "length", desc := "(II)I" } : Jvm.MethodName)) ∈ lw_all := lw_g (lw_at lw_m4 40 rfl) rfl
theorem q806 : (Jvm.Cond.methodLink "ProofPagesLaw" (112 : Nat) ({ cls := "ProofPagesLaw", name := "badness", desc := "(LProofPages;I[J)I" } : Jvm.MethodName)) ∈ lw_all := lw_g (lw_at lw_m4 46 rfl) rfl
theorem q807 : (Jvm.Cond.static ({ cls := "ProofPagesLaw", name := "badness", desc := "(LProofPages;I[J)I" } : Jvm.MethodName)) ∈ lw_all := lw_g (lw_at lw_m4 47 rfl) rfl
theorem q808 : (Jvm.Cond.codeWith ({ cls := "ProofPagesLaw", name := "badness", desc := "(LProofPages;I[J)I" } : Jvm.MethodName) method_11_code (4 : Nat) (Option.some Jvm.ClassFile.FieldType.int) [((0 : Nat), (9 : Nat), (12 : Nat), (19 : Nat))]) ∈ lw_all := lw_g (lw_at lw_m4 48 rfl) rfl
theorem q809 : (Jvm.Cond.methodLink "ProofPagesLaw" (43 : Nat) ({ cls := "ProofPages", name := "badness", desc := "(I)I" } : Jvm.MethodName)) ∈ lw_all := lw_g (lw_at lw_m4 49 rfl) rfl
theorem q814 : (Jvm.Cond.methodLink "ProofPagesLaw" (115 : Nat) ({ cls := "ProofPagesLaw", name := "badnessForwards", desc := "(LProofPages;I[J)I" } : Jvm.MethodName)) ∈ lw_all := lw_g (lw_at lw_m4 54 rfl) rfl
theorem q815 : (Jvm.Cond.static ({ cls := "ProofPagesLaw", name := "badnessForwards", desc := "(LProofPages;I[J)I" } : Jvm.MethodName)) ∈ lw_all := lw_g (lw_at lw_m4 55 rfl) rfl
theorem q816 : (Jvm.Cond.codeWith ({ cls := "ProofPagesLaw", name := "badnessForwards", desc := "(LProofPages;I[J)I" } : Jvm.MethodName) method_12_code (4 : Nat) (Option.some Jvm.ClassFile.FieldType.int) [((0 : Nat), (9 : Nat), (12 : Nat), (19 : Nat))]) ∈ lw_all := lw_g (lw_at lw_m4 56 rfl) rfl
theorem q817 : (Jvm.Cond.methodLink "ProofPagesLaw" (46 : Nat) ({ cls := "ProofPages", name := "badnessForwards", desc := "(I)I" } : Jvm.MethodName)) ∈ lw_all := lw_g (lw_at lw_m4 57 rfl) rfl
theorem q826 : (Jvm.Cond.methodLink "ProofPagesLaw" (122 : Nat) ({ cls := "ProofPagesLaw", name := "linesOn", desc := "(LProofPages;I[J)I" } : Jvm.MethodName)) ∈ lw_all := lw_g (lw_at lw_m4 66 rfl) rfl
theorem q827 : (Jvm.Cond.static ({ cls := "ProofPagesLaw", name := "linesOn", desc := "(LProofPages;I[J)I" } : Jvm.MethodName)) ∈ lw_all := lw_g (lw_at lw_m4 67 rfl) rfl
theorem q828 : (Jvm.Cond.codeWith ({ cls := "ProofPagesLaw", name := "linesOn", desc := "(LProofPages;I[J)I" } : Jvm.MethodName) method_13_code (4 : Nat) (Option.some Jvm.ClassFile.FieldType.int) [((0 : Nat), (9 : Nat), (12 : Nat), (21 : Nat))]) ∈ lw_all := lw_g (lw_at lw_m4 68 rfl) rfl
theorem q829 : (Jvm.Cond.methodLink "ProofPagesLaw" (49 : Nat) ({ cls := "ProofPages", name := "linesOn", desc := "(I)I" } : Jvm.MethodName)) ∈ lw_all := lw_g (lw_at lw_m4 69 rfl) rfl
theorem q834 : (Jvm.Cond.methodLink "ProofPagesLaw" (125 : Nat) ({ cls := "ProofPagesLaw", name := "where", desc := "(LProofPages;I[J)I" } : Jvm.MethodName)) ∈ lw_all := lw_g (lw_at lw_m4 74 rfl) rfl
theorem q835 : (Jvm.Cond.static ({ cls := "ProofPagesLaw", name := "where", desc := "(LProofPages;I[J)I" } : Jvm.MethodName)) ∈ lw_all := lw_g (lw_at lw_m4 75 rfl) rfl
theorem q836 : (Jvm.Cond.codeWith ({ cls := "ProofPagesLaw", name := "where", desc := "(LProofPages;I[J)I" } : Jvm.MethodName) method_14_code (4 : Nat) (Option.some Jvm.ClassFile.FieldType.int) [((0 : Nat), (9 : Nat), (12 : Nat), (19 : Nat))]) ∈ lw_all := lw_g (lw_at lw_m4 76 rfl) rfl
theorem q837 : (Jvm.Cond.methodLink "ProofPagesLaw" (52 : Nat) ({ cls := "ProofPages", name := "where", desc := "(I)I" } : Jvm.MethodName)) ∈ lw_all := lw_g (lw_at lw_m4 77 rfl) rfl
theorem q849 : (Jvm.Cond.methodLink "ProofPagesLaw" (128 : Nat) ({ cls := "ProofPagesLaw", name := "report", desc := "(LProofPages;II[J)I" } : Jvm.MethodName)) ∈ lw_all := lw_g (lw_at lw_m4 89 rfl) rfl
theorem q850 : (Jvm.Cond.static ({ cls := "ProofPagesLaw", name := "report", desc := "(LProofPages;II[J)I" } : Jvm.MethodName)) ∈ lw_all := lw_g (lw_at lw_m4 90 rfl) rfl
theorem q851 : (Jvm.Cond.codeWith ({ cls := "ProofPagesLaw", name := "report", desc := "(LProofPages;II[J)I" } : Jvm.MethodName) method_15_code (5 : Nat) (Option.some Jvm.ClassFile.FieldType.int) [((0 : Nat), (10 : Nat), (13 : Nat), (19 : Nat)), ((0 : Nat), (10 : Nat), (17 : Nat), (13 : Nat))]) ∈ lw_all := lw_g (lw_at lw_m4 91 rfl) rfl
theorem q852 : (Jvm.Cond.methodLink "ProofPagesLaw" (55 : Nat) ({ cls := "ProofPages", name := "report", desc := "(II)I" } : Jvm.MethodName)) ∈ lw_all := lw_g (lw_at lw_m4 92 rfl) rfl
theorem q875 : (Jvm.Cond.methodLink "ProofPagesLaw" (131 : Nat) ({ cls := "ProofPagesLaw", name := "judge", desc := "(LProofPages;IZ[J)I" } : Jvm.MethodName)) ∈ lw_all := lw_g (lw_at lw_m4 115 rfl) rfl
theorem q876 : (Jvm.Cond.static ({ cls := "ProofPagesLaw", name := "judge", desc := "(LProofPages;IZ[J)I" } : Jvm.MethodName)) ∈ lw_all := lw_g (lw_at lw_m4 116 rfl) rfl
theorem q877 : (Jvm.Cond.codeWith ({ cls := "ProofPagesLaw", name := "judge", desc := "(LProofPages;IZ[J)I" } : Jvm.MethodName) method_16_code (5 : Nat) (Option.some Jvm.ClassFile.FieldType.int) [((0 : Nat), (10 : Nat), (13 : Nat), (19 : Nat)), ((0 : Nat), (10 : Nat), (17 : Nat), (13 : Nat))]) ∈ lw_all := lw_g (lw_at lw_m4 117 rfl) rfl
theorem q878 : (Jvm.Cond.methodLink "ProofPagesLaw" (58 : Nat) ({ cls := "ProofPages", name := "judge", desc := "(IZ)I" } : Jvm.MethodName)) ∈ lw_all := lw_g (lw_at lw_m4 118 rfl) rfl
theorem q894 : (Jvm.Cond.methodLink "ProofPagesLaw" (135 : Nat) ({ cls := "ProofPagesLaw", name := "errorAt", desc := "(LProofPages;I[J)I" } : Jvm.MethodName)) ∈ lw_all := lw_g (lw_at lw_m4 134 rfl) rfl
theorem q895 : (Jvm.Cond.static ({ cls := "ProofPagesLaw", name := "errorAt", desc := "(LProofPages;I[J)I" } : Jvm.MethodName)) ∈ lw_all := lw_g (lw_at lw_m4 135 rfl) rfl
theorem q896 : (Jvm.Cond.codeWith ({ cls := "ProofPagesLaw", name := "errorAt", desc := "(LProofPages;I[J)I" } : Jvm.MethodName) method_17_code (4 : Nat) (Option.some Jvm.ClassFile.FieldType.int) [((0 : Nat), (9 : Nat), (12 : Nat), (19 : Nat))]) ∈ lw_all := lw_g (lw_at lw_m4 136 rfl) rfl
theorem q897 : (Jvm.Cond.methodLink "ProofPagesLaw" (62 : Nat) ({ cls := "ProofPages", name := "errorAt", desc := "(I)I" } : Jvm.MethodName)) ∈ lw_all := lw_g (lw_at lw_m4 137 rfl) rfl
theorem q901 : (Jvm.Cond.methodLink "ProofPagesLaw" (138 : Nat) ({ cls := "ProofPagesLaw", name := "stateOf", desc := "(LProofPages;I[J)I" } : Jvm.MethodName)) ∈ lw_all := lw_g (lw_at lw_m4 141 rfl) rfl
theorem q902 : (Jvm.Cond.static ({ cls := "ProofPagesLaw", name := "stateOf", desc := "(LProofPages;I[J)I" } : Jvm.MethodName)) ∈ lw_all := lw_g (lw_at lw_m4 142 rfl) rfl
theorem q903 : (Jvm.Cond.codeWith ({ cls := "ProofPagesLaw", name := "stateOf", desc := "(LProofPages;I[J)I" } : Jvm.MethodName) method_18_code (4 : Nat) (Option.some Jvm.ClassFile.FieldType.int) [((0 : Nat), (9 : Nat), (12 : Nat), (19 : Nat))]) ∈ lw_all := lw_g (lw_at lw_m4 143 rfl) rfl
theorem q904 : (Jvm.Cond.methodLink "ProofPagesLaw" (65 : Nat) ({ cls := "ProofPages", name := "stateOf", desc := "(I)I" } : Jvm.MethodName)) ∈ lw_all := lw_g (lw_at lw_m4 144 rfl) rfl
theorem q908 : (Jvm.Cond.methodLink "ProofPagesLaw" (141 : Nat) ({ cls := "ProofPagesLaw", name := "readerAt", desc := "(LProofPages;I[J)I" } : Jvm.MethodName)) ∈ lw_all := lw_g (lw_at lw_m4 148 rfl) rfl
theorem q909 : (Jvm.Cond.static ({ cls := "ProofPagesLaw", name := "readerAt", desc := "(LProofPages;I[J)I" } : Jvm.MethodName)) ∈ lw_all := lw_g (lw_at lw_m4 149 rfl) rfl
theorem q910 : (Jvm.Cond.codeWith ({ cls := "ProofPagesLaw", name := "readerAt", desc := "(LProofPages;I[J)I" } : Jvm.MethodName) method_19_code (4 : Nat) (Option.some Jvm.ClassFile.FieldType.int) [((0 : Nat), (9 : Nat), (12 : Nat), (19 : Nat))]) ∈ lw_all := lw_g (lw_at lw_m4 150 rfl) rfl
theorem q911 : (Jvm.Cond.methodLink "ProofPagesLaw" (68 : Nat) ({ cls := "ProofPages", name := "readerAt", desc := "(I)I" } : Jvm.MethodName)) ∈ lw_all := lw_g (lw_at lw_m4 151 rfl) rfl
theorem q915 : (Jvm.Cond.classLink "ProofPagesLaw" (72 : Nat) "ProofPagesModel") ∈ lw_all := lw_g (lw_at lw_m4 155 rfl) rfl
theorem q917 : (Jvm.Cond.methodLink "ProofPagesLaw" (74 : Nat) ({ cls := "ProofPagesModel", name := "<init>", desc := "()V" } : Jvm.MethodName)) ∈ lw_all := lw_g (lw_at lw_m4 157 rfl) rfl
theorem q986 : (Jvm.Cond.methodLink "ProofPagesLaw" (81 : Nat) ({ cls := "ProofPagesModel", name := "thrown", desc := "()I" } : Jvm.MethodName)) ∈ lw_all := lw_g (lw_at lw_m4 226 rfl) rfl
theorem q990 : (Jvm.Cond.methodLink "ProofPagesLaw" (80 : Nat) ({ cls := "ProofPagesModel", name := "addParagraph", desc := "()I" } : Jvm.MethodName)) ∈ lw_all := lw_g (lw_at lw_m4 230 rfl) rfl
theorem q998 : (Jvm.Cond.methodLink "ProofPagesLaw" (87 : Nat) ({ cls := "ProofPagesModel", name := "addWord", desc := "(II)I" } : Jvm.MethodName)) ∈ lw_all := lw_g (lw_at lw_m4 238 rfl) rfl
theorem q1009 : (Jvm.Cond.methodLink "ProofPagesLaw" (91 : Nat) ({ cls := "ProofPagesModel", name := "vote", desc := "(IIZ)I" } : Jvm.MethodName)) ∈ lw_all := lw_g (lw_at lw_m5 9 rfl) rfl
theorem q1017 : (Jvm.Cond.methodLink "ProofPagesLaw" (94 : Nat) ({ cls := "ProofPagesModel", name := "setPage", desc := "(II)I" } : Jvm.MethodName)) ∈ lw_all := lw_g (lw_at lw_m5 17 rfl) rfl
theorem q1021 : (Jvm.Cond.methodLink "ProofPagesLaw" (98 : Nat) ({ cls := "ProofPagesModel", name := "freeze", desc := "(I)I" } : Jvm.MethodName)) ∈ lw_all := lw_g (lw_at lw_m5 21 rfl) rfl
theorem q1054 : (Jvm.Cond.methodLink "ProofPagesLaw" (102 : Nat) ({ cls := "ProofPagesModel", name := "words", desc := "()I" } : Jvm.MethodName)) ∈ lw_all := lw_g (lw_at lw_m5 54 rfl) rfl
theorem q1058 : (Jvm.Cond.methodLink "ProofPagesLaw" (105 : Nat) ({ cls := "ProofPagesModel", name := "lines", desc := "(I)I" } : Jvm.MethodName)) ∈ lw_all := lw_g (lw_at lw_m5 58 rfl) rfl
theorem q1066 : (Jvm.Cond.methodLink "ProofPagesLaw" (108 : Nat) ({ cls := "ProofPagesModel", name := "lineEnd", desc := "(II)I" } : Jvm.MethodName)) ∈ lw_all := lw_g (lw_at lw_m5 66 rfl) rfl
theorem q1078 : (Jvm.Cond.methodLink "ProofPagesLaw" (111 : Nat) ({ cls := "ProofPagesModel", name := "length", desc := "(II)I" } : Jvm.MethodName)) ∈ lw_all := lw_g (lw_at lw_m5 78 rfl) rfl
theorem q1082 : (Jvm.Cond.methodLink "ProofPagesLaw" (114 : Nat) ({ cls := "ProofPagesModel", name := "badness", desc := "(I)I" } : Jvm.MethodName)) ∈ lw_all := lw_g (lw_at lw_m5 82 rfl) rfl
theorem q1090 : (Jvm.Cond.methodLink "ProofPagesLaw" (117 : Nat) ({ cls := "ProofPagesModel", name := "badnessForwards", desc := "(I)I" } : Jvm.MethodName)) ∈ lw_all := lw_g (lw_at lw_m5 90 rfl) rfl
theorem q1094 : (Jvm.Cond.methodLink "ProofPagesLaw" (121 : Nat) ({ cls := "ProofPagesModel", name := "pages", desc := "()I" } : Jvm.MethodName)) ∈ lw_all := lw_g (lw_at lw_m5 94 rfl) rfl
theorem q1122 : (Jvm.Cond.methodLink "ProofPagesLaw" (124 : Nat) ({ cls := "ProofPagesModel", name := "linesOn", desc := "(I)I" } : Jvm.MethodName)) ∈ lw_all := lw_g (lw_at lw_m5 122 rfl) rfl
theorem q1126 : (Jvm.Cond.methodLink "ProofPagesLaw" (127 : Nat) ({ cls := "ProofPagesModel", name := "where", desc := "(I)I" } : Jvm.MethodName)) ∈ lw_all := lw_g (lw_at lw_m5 126 rfl) rfl
theorem q1134 : (Jvm.Cond.methodLink "ProofPagesLaw" (130 : Nat) ({ cls := "ProofPagesModel", name := "report", desc := "(II)I" } : Jvm.MethodName)) ∈ lw_all := lw_g (lw_at lw_m5 134 rfl) rfl
theorem q1142 : (Jvm.Cond.methodLink "ProofPagesLaw" (134 : Nat) ({ cls := "ProofPagesModel", name := "judge", desc := "(IZ)I" } : Jvm.MethodName)) ∈ lw_all := lw_g (lw_at lw_m5 142 rfl) rfl
theorem q1154 : (Jvm.Cond.methodLink "ProofPagesLaw" (137 : Nat) ({ cls := "ProofPagesModel", name := "errorAt", desc := "(I)I" } : Jvm.MethodName)) ∈ lw_all := lw_g (lw_at lw_m5 154 rfl) rfl
theorem q1158 : (Jvm.Cond.methodLink "ProofPagesLaw" (140 : Nat) ({ cls := "ProofPagesModel", name := "stateOf", desc := "(I)I" } : Jvm.MethodName)) ∈ lw_all := lw_g (lw_at lw_m5 158 rfl) rfl
theorem q1162 : (Jvm.Cond.methodLink "ProofPagesLaw" (143 : Nat) ({ cls := "ProofPagesModel", name := "readerAt", desc := "(I)I" } : Jvm.MethodName)) ∈ lw_all := lw_g (lw_at lw_m5 162 rfl) rfl

/-! ProofPages -/
set_option maxRecDepth 100000
def RX1 : String := "ProofPages"
def TX1 : u_T := fun k => match k with
  | 0 => ("ProofPages", "paragraphs", "Ljava/util/List;", true)
  | 1 => ("ProofPages", "words", "Ljava/util/List;", true)
  | 2 => ("ProofPages", "errors", "Ljava/util/List;", true)
  | 3 => ("ProofPages", "breaker", "LProofPages$Breaker;", true)
  | 4 => ("ProofPages", "width", "I", false)
  | _ => ("ProofPages", "height", "I", false)
def tyX1 : Nat → FieldType := fun k => match k with
  | 0 => .object "java/util/List"
  | 1 => .object "java/util/List"
  | 2 => .object "java/util/List"
  | 3 => .object "ProofPages$Breaker"
  | 4 => .int
  | _ => .int
abbrev wsX10 : List Cond := u_ws RX1 TX1 6
theorem nmX1 : ∀ a, a < 6 → ∀ b, b < 6 → a ≠ b → (TX1 a).2.1 ≠ (TX1 b).2.1 := by decide +kernel
theorem tyX1_ok : ∀ k, k < 6 → parseFieldDescriptor (TX1 k).2.2.1 = some (tyX1 k) := by decide +kernel
abbrev cX1_init : ByteArray := prog_1_method_1_code
def yX1_init : MethodName := ⟨RX1, "<init>", "()V"⟩
def dkwX1_init_2 : List UInt8 := [42, 183, 0, 26, 181, 0, 29, 42, 16, 30, 181, 0, 33, 42, 16, 10, 181, 0, 37, 177]
abbrev dktX1_init_2 : List UInt8 := dkwX1_init_2 ++ []
def dkwX1_init_1 : List UInt8 := [183, 0, 11, 181, 0, 18, 42, 187, 0, 9, 89, 16, 30, 183, 0, 11, 181, 0, 21, 42, 187, 0, 24, 89]
abbrev dktX1_init_1 : List UInt8 := dkwX1_init_1 ++ dktX1_init_2
def dkwX1_init_0 : List UInt8 := [42, 183, 0, 3, 42, 187, 0, 9, 89, 16, 6, 183, 0, 11, 181, 0, 14, 42, 187, 0, 9, 89, 16, 60]
abbrev dktX1_init_0 : List UInt8 := dkwX1_init_0 ++ dktX1_init_1
theorem dksX1_init_0 : cX1_init.data.toList.drop 0 = dktX1_init_0 := by decide +kernel
theorem dksX1_init_1 : cX1_init.data.toList.drop 24 = dktX1_init_1 := dk_seg dksX1_init_0 24 rfl rfl
theorem dksX1_init_2 : cX1_init.data.toList.drop 48 = dktX1_init_2 := dk_seg dksX1_init_1 24 rfl rfl
theorem dX1_init_0 : decode cX1_init 0 = .ok (.aload_n 0, 1) := dk_42 (dk_at dksX1_init_0 0 rfl rfl)
theorem dX1_init_1 : decode cX1_init 1 = .ok (.invokespecial 3, 3) := dk_183 0 3 (dk_at dksX1_init_0 1 rfl rfl)
theorem dX1_init_4 : decode cX1_init 4 = .ok (.aload_n 0, 1) := dk_42 (dk_at dksX1_init_0 4 rfl rfl)
theorem dX1_init_5 : decode cX1_init 5 = .ok (.new 9, 3) := dk_187 0 9 (dk_at dksX1_init_0 5 rfl rfl)
theorem dX1_init_8 : decode cX1_init 8 = .ok (.dup, 1) := dk_89 (dk_at dksX1_init_0 8 rfl rfl)
theorem dX1_init_9 : decode cX1_init 9 = .ok (.bipush 6, 2) := dk_16 6 (dk_at dksX1_init_0 9 rfl rfl)
theorem dX1_init_11 : decode cX1_init 11 = .ok (.invokespecial 11, 3) := dk_183 0 11 (dk_at dksX1_init_0 11 rfl rfl)
theorem dX1_init_14 : decode cX1_init 14 = .ok (.putfield 14, 3) := dk_181 0 14 (dk_at dksX1_init_0 14 rfl rfl)
theorem dX1_init_17 : decode cX1_init 17 = .ok (.aload_n 0, 1) := dk_42 (dk_at dksX1_init_0 17 rfl rfl)
theorem dX1_init_18 : decode cX1_init 18 = .ok (.new 9, 3) := dk_187 0 9 (dk_at dksX1_init_0 18 rfl rfl)
theorem dX1_init_21 : decode cX1_init 21 = .ok (.dup, 1) := dk_89 (dk_at dksX1_init_0 21 rfl rfl)
theorem dX1_init_22 : decode cX1_init 22 = .ok (.bipush 60, 2) := dk_16 60 (dk_at dksX1_init_0 22 rfl rfl)
theorem dX1_init_24 : decode cX1_init 24 = .ok (.invokespecial 11, 3) := dk_183 0 11 (dk_at dksX1_init_1 0 rfl rfl)
theorem dX1_init_27 : decode cX1_init 27 = .ok (.putfield 18, 3) := dk_181 0 18 (dk_at dksX1_init_1 3 rfl rfl)
theorem dX1_init_30 : decode cX1_init 30 = .ok (.aload_n 0, 1) := dk_42 (dk_at dksX1_init_1 6 rfl rfl)
theorem dX1_init_31 : decode cX1_init 31 = .ok (.new 9, 3) := dk_187 0 9 (dk_at dksX1_init_1 7 rfl rfl)
theorem dX1_init_34 : decode cX1_init 34 = .ok (.dup, 1) := dk_89 (dk_at dksX1_init_1 10 rfl rfl)
theorem dX1_init_35 : decode cX1_init 35 = .ok (.bipush 30, 2) := dk_16 30 (dk_at dksX1_init_1 11 rfl rfl)
theorem dX1_init_37 : decode cX1_init 37 = .ok (.invokespecial 11, 3) := dk_183 0 11 (dk_at dksX1_init_1 13 rfl rfl)
theorem dX1_init_40 : decode cX1_init 40 = .ok (.putfield 21, 3) := dk_181 0 21 (dk_at dksX1_init_1 16 rfl rfl)
theorem dX1_init_43 : decode cX1_init 43 = .ok (.aload_n 0, 1) := dk_42 (dk_at dksX1_init_1 19 rfl rfl)
theorem dX1_init_44 : decode cX1_init 44 = .ok (.new 24, 3) := dk_187 0 24 (dk_at dksX1_init_1 20 rfl rfl)
theorem dX1_init_47 : decode cX1_init 47 = .ok (.dup, 1) := dk_89 (dk_at dksX1_init_1 23 rfl rfl)
theorem dX1_init_48 : decode cX1_init 48 = .ok (.aload_n 0, 1) := dk_42 (dk_at dksX1_init_2 0 rfl rfl)
theorem dX1_init_49 : decode cX1_init 49 = .ok (.invokespecial 26, 3) := dk_183 0 26 (dk_at dksX1_init_2 1 rfl rfl)
theorem dX1_init_52 : decode cX1_init 52 = .ok (.putfield 29, 3) := dk_181 0 29 (dk_at dksX1_init_2 4 rfl rfl)
theorem dX1_init_55 : decode cX1_init 55 = .ok (.aload_n 0, 1) := dk_42 (dk_at dksX1_init_2 7 rfl rfl)
theorem dX1_init_56 : decode cX1_init 56 = .ok (.bipush 30, 2) := dk_16 30 (dk_at dksX1_init_2 8 rfl rfl)
theorem dX1_init_58 : decode cX1_init 58 = .ok (.putfield 33, 3) := dk_181 0 33 (dk_at dksX1_init_2 10 rfl rfl)
theorem dX1_init_61 : decode cX1_init 61 = .ok (.aload_n 0, 1) := dk_42 (dk_at dksX1_init_2 13 rfl rfl)
theorem dX1_init_62 : decode cX1_init 62 = .ok (.bipush 10, 2) := dk_16 10 (dk_at dksX1_init_2 14 rfl rfl)
theorem dX1_init_64 : decode cX1_init 64 = .ok (.putfield 37, 3) := dk_181 0 37 (dk_at dksX1_init_2 16 rfl rfl)
theorem dX1_init_67 : decode cX1_init 67 = .ok (.return_, 1) := dk_177 (dk_at dksX1_init_2 19 rfl rfl)
abbrev cX1_words : ByteArray := prog_1_method_14_code
def yX1_words : MethodName := ⟨RX1, "words", "()I"⟩
def dkwX1_words_0 : List UInt8 := [42, 180, 0, 18, 185, 0, 43, 1, 0, 172]
abbrev dktX1_words_0 : List UInt8 := dkwX1_words_0 ++ []
theorem dksX1_words_0 : cX1_words.data.toList.drop 0 = dktX1_words_0 := by decide +kernel
theorem dX1_words_0 : decode cX1_words 0 = .ok (.aload_n 0, 1) := dk_42 (dk_at dksX1_words_0 0 rfl rfl)
theorem dX1_words_1 : decode cX1_words 1 = .ok (.getfield 18, 3) := dk_180 0 18 (dk_at dksX1_words_0 1 rfl rfl)
theorem dX1_words_4 : decode cX1_words 4 = .ok (.invokeinterface 43 1, 5) := by decide +kernel
theorem dX1_words_9 : decode cX1_words 9 = .ok (.ireturn, 1) := dk_172 (dk_at dksX1_words_0 9 rfl rfl)
abbrev cX1_pages : ByteArray := prog_1_method_24_code
def yX1_pages : MethodName := ⟨RX1, "pages", "()I"⟩
def dkwX1_pages_1 : List UInt8 := [167, 255, 241, 28, 172]
abbrev dktX1_pages_1 : List UInt8 := dkwX1_pages_1 ++ []
def dkwX1_pages_0 : List UInt8 := [42, 182, 0, 158, 60, 3, 61, 3, 62, 29, 27, 162, 0, 16, 132, 2, 1, 42, 29, 27, 182, 0, 161, 62]
abbrev dktX1_pages_0 : List UInt8 := dkwX1_pages_0 ++ dktX1_pages_1
theorem dksX1_pages_0 : cX1_pages.data.toList.drop 0 = dktX1_pages_0 := by decide +kernel
theorem dksX1_pages_1 : cX1_pages.data.toList.drop 24 = dktX1_pages_1 := dk_seg dksX1_pages_0 24 rfl rfl
theorem dX1_pages_0 : decode cX1_pages 0 = .ok (.aload_n 0, 1) := dk_42 (dk_at dksX1_pages_0 0 rfl rfl)
theorem dX1_pages_1 : decode cX1_pages 1 = .ok (.invokevirtual 158, 3) := dk_182 0 158 (dk_at dksX1_pages_0 1 rfl rfl)
theorem dX1_pages_4 : decode cX1_pages 4 = .ok (.istore_n 1, 1) := dk_60 (dk_at dksX1_pages_0 4 rfl rfl)
theorem dX1_pages_5 : decode cX1_pages 5 = .ok (.iconst 0, 1) := dk_3 (dk_at dksX1_pages_0 5 rfl rfl)
theorem dX1_pages_6 : decode cX1_pages 6 = .ok (.istore_n 2, 1) := dk_61 (dk_at dksX1_pages_0 6 rfl rfl)
theorem dX1_pages_7 : decode cX1_pages 7 = .ok (.iconst 0, 1) := dk_3 (dk_at dksX1_pages_0 7 rfl rfl)
theorem dX1_pages_8 : decode cX1_pages 8 = .ok (.istore_n 3, 1) := dk_62 (dk_at dksX1_pages_0 8 rfl rfl)
theorem dX1_pages_9 : decode cX1_pages 9 = .ok (.iload_n 3, 1) := dk_29 (dk_at dksX1_pages_0 9 rfl rfl)
theorem dX1_pages_10 : decode cX1_pages 10 = .ok (.iload_n 1, 1) := dk_27 (dk_at dksX1_pages_0 10 rfl rfl)
theorem dX1_pages_11 : decode cX1_pages 11 = .ok (.if_icmp .ge 16, 3) := dk_162 0 16 (dk_at dksX1_pages_0 11 rfl rfl)
theorem dX1_pages_14 : decode cX1_pages 14 = .ok (.iinc 2 1, 3) := dk_132 2 1 (dk_at dksX1_pages_0 14 rfl rfl)
theorem dX1_pages_17 : decode cX1_pages 17 = .ok (.aload_n 0, 1) := dk_42 (dk_at dksX1_pages_0 17 rfl rfl)
theorem dX1_pages_18 : decode cX1_pages 18 = .ok (.iload_n 3, 1) := dk_29 (dk_at dksX1_pages_0 18 rfl rfl)
theorem dX1_pages_19 : decode cX1_pages 19 = .ok (.iload_n 1, 1) := dk_27 (dk_at dksX1_pages_0 19 rfl rfl)
theorem dX1_pages_20 : decode cX1_pages 20 = .ok (.invokevirtual 161, 3) := dk_182 0 161 (dk_at dksX1_pages_0 20 rfl rfl)
theorem dX1_pages_23 : decode cX1_pages 23 = .ok (.istore_n 3, 1) := dk_62 (dk_at dksX1_pages_0 23 rfl rfl)
theorem dX1_pages_24 : decode cX1_pages 24 = .ok (.goto (-15), 3) := dk_167 255 241 (dk_at dksX1_pages_1 0 rfl rfl)
theorem dX1_pages_27 : decode cX1_pages 27 = .ok (.iload_n 2, 1) := dk_28 (dk_at dksX1_pages_1 3 rfl rfl)
theorem dX1_pages_28 : decode cX1_pages 28 = .ok (.ireturn, 1) := dk_172 (dk_at dksX1_pages_1 4 rfl rfl)
abbrev cX1_allLines : ByteArray := prog_1_method_21_code
def yX1_allLines : MethodName := ⟨RX1, "allLines", "()I"⟩
def dkwX1_allLines_1 : List UInt8 := [185, 0, 53, 2, 0, 192, 0, 57, 182, 0, 124, 180, 0, 128, 96, 60, 132, 2, 1, 167, 255, 217, 27, 172]
abbrev dktX1_allLines_1 : List UInt8 := dkwX1_allLines_1 ++ []
def dkwX1_allLines_0 : List UInt8 := [3, 60, 3, 61, 28, 42, 180, 0, 14, 185, 0, 43, 1, 0, 162, 0, 32, 27, 42, 42, 180, 0, 14, 28]
abbrev dktX1_allLines_0 : List UInt8 := dkwX1_allLines_0 ++ dktX1_allLines_1
theorem dksX1_allLines_0 : cX1_allLines.data.toList.drop 0 = dktX1_allLines_0 := by decide +kernel
theorem dksX1_allLines_1 : cX1_allLines.data.toList.drop 24 = dktX1_allLines_1 := dk_seg dksX1_allLines_0 24 rfl rfl
theorem dX1_allLines_0 : decode cX1_allLines 0 = .ok (.iconst 0, 1) := dk_3 (dk_at dksX1_allLines_0 0 rfl rfl)
theorem dX1_allLines_1 : decode cX1_allLines 1 = .ok (.istore_n 1, 1) := dk_60 (dk_at dksX1_allLines_0 1 rfl rfl)
theorem dX1_allLines_2 : decode cX1_allLines 2 = .ok (.iconst 0, 1) := dk_3 (dk_at dksX1_allLines_0 2 rfl rfl)
theorem dX1_allLines_3 : decode cX1_allLines 3 = .ok (.istore_n 2, 1) := dk_61 (dk_at dksX1_allLines_0 3 rfl rfl)
theorem dX1_allLines_4 : decode cX1_allLines 4 = .ok (.iload_n 2, 1) := dk_28 (dk_at dksX1_allLines_0 4 rfl rfl)
theorem dX1_allLines_5 : decode cX1_allLines 5 = .ok (.aload_n 0, 1) := dk_42 (dk_at dksX1_allLines_0 5 rfl rfl)
theorem dX1_allLines_6 : decode cX1_allLines 6 = .ok (.getfield 14, 3) := dk_180 0 14 (dk_at dksX1_allLines_0 6 rfl rfl)
theorem dX1_allLines_9 : decode cX1_allLines 9 = .ok (.invokeinterface 43 1, 5) := by decide +kernel
theorem dX1_allLines_14 : decode cX1_allLines 14 = .ok (.if_icmp .ge 32, 3) := dk_162 0 32 (dk_at dksX1_allLines_0 14 rfl rfl)
theorem dX1_allLines_17 : decode cX1_allLines 17 = .ok (.iload_n 1, 1) := dk_27 (dk_at dksX1_allLines_0 17 rfl rfl)
theorem dX1_allLines_18 : decode cX1_allLines 18 = .ok (.aload_n 0, 1) := dk_42 (dk_at dksX1_allLines_0 18 rfl rfl)
theorem dX1_allLines_19 : decode cX1_allLines 19 = .ok (.aload_n 0, 1) := dk_42 (dk_at dksX1_allLines_0 19 rfl rfl)
theorem dX1_allLines_20 : decode cX1_allLines 20 = .ok (.getfield 14, 3) := dk_180 0 14 (dk_at dksX1_allLines_0 20 rfl rfl)
theorem dX1_allLines_23 : decode cX1_allLines 23 = .ok (.iload_n 2, 1) := dk_28 (dk_at dksX1_allLines_0 23 rfl rfl)
theorem dX1_allLines_24 : decode cX1_allLines 24 = .ok (.invokeinterface 53 2, 5) := by decide +kernel
theorem dX1_allLines_29 : decode cX1_allLines 29 = .ok (.checkcast 57, 3) := dk_192 0 57 (dk_at dksX1_allLines_1 5 rfl rfl)
theorem dX1_allLines_32 : decode cX1_allLines 32 = .ok (.invokevirtual 124, 3) := dk_182 0 124 (dk_at dksX1_allLines_1 8 rfl rfl)
theorem dX1_allLines_35 : decode cX1_allLines 35 = .ok (.getfield 128, 3) := dk_180 0 128 (dk_at dksX1_allLines_1 11 rfl rfl)
theorem dX1_allLines_38 : decode cX1_allLines 38 = .ok (.iadd, 1) := dk_96 (dk_at dksX1_allLines_1 14 rfl rfl)
theorem dX1_allLines_39 : decode cX1_allLines 39 = .ok (.istore_n 1, 1) := dk_60 (dk_at dksX1_allLines_1 15 rfl rfl)
theorem dX1_allLines_40 : decode cX1_allLines 40 = .ok (.iinc 2 1, 3) := dk_132 2 1 (dk_at dksX1_allLines_1 16 rfl rfl)
theorem dX1_allLines_43 : decode cX1_allLines 43 = .ok (.goto (-39), 3) := dk_167 255 217 (dk_at dksX1_allLines_1 19 rfl rfl)
theorem dX1_allLines_46 : decode cX1_allLines 46 = .ok (.iload_n 1, 1) := dk_27 (dk_at dksX1_allLines_1 22 rfl rfl)
theorem dX1_allLines_47 : decode cX1_allLines 47 = .ok (.ireturn, 1) := dk_172 (dk_at dksX1_allLines_1 23 rfl rfl)
abbrev cX1_laid : ByteArray := prog_1_method_12_code
def yX1_laid : MethodName := ⟨RX1, "laid", "(LProofPages$Paragraph;)LProofPages$Paragraph;"⟩
def dkwX1_laid_0 : List UInt8 := [43, 180, 0, 94, 154, 0, 16, 42, 180, 0, 29, 43, 182, 0, 120, 43, 4, 181, 0, 94, 43, 176]
abbrev dktX1_laid_0 : List UInt8 := dkwX1_laid_0 ++ []
theorem dksX1_laid_0 : cX1_laid.data.toList.drop 0 = dktX1_laid_0 := by decide +kernel
theorem dX1_laid_0 : decode cX1_laid 0 = .ok (.aload_n 1, 1) := dk_43 (dk_at dksX1_laid_0 0 rfl rfl)
theorem dX1_laid_1 : decode cX1_laid 1 = .ok (.getfield 94, 3) := dk_180 0 94 (dk_at dksX1_laid_0 1 rfl rfl)
theorem dX1_laid_4 : decode cX1_laid 4 = .ok (.ifCond .ne 16, 3) := dk_154 0 16 (dk_at dksX1_laid_0 4 rfl rfl)
theorem dX1_laid_7 : decode cX1_laid 7 = .ok (.aload_n 0, 1) := dk_42 (dk_at dksX1_laid_0 7 rfl rfl)
theorem dX1_laid_8 : decode cX1_laid 8 = .ok (.getfield 29, 3) := dk_180 0 29 (dk_at dksX1_laid_0 8 rfl rfl)
theorem dX1_laid_11 : decode cX1_laid 11 = .ok (.aload_n 1, 1) := dk_43 (dk_at dksX1_laid_0 11 rfl rfl)
theorem dX1_laid_12 : decode cX1_laid 12 = .ok (.invokevirtual 120, 3) := dk_182 0 120 (dk_at dksX1_laid_0 12 rfl rfl)
theorem dX1_laid_15 : decode cX1_laid 15 = .ok (.aload_n 1, 1) := dk_43 (dk_at dksX1_laid_0 15 rfl rfl)
theorem dX1_laid_16 : decode cX1_laid 16 = .ok (.iconst 1, 1) := dk_4 (dk_at dksX1_laid_0 16 rfl rfl)
theorem dX1_laid_17 : decode cX1_laid 17 = .ok (.putfield 94, 3) := dk_181 0 94 (dk_at dksX1_laid_0 17 rfl rfl)
theorem dX1_laid_20 : decode cX1_laid 20 = .ok (.aload_n 1, 1) := dk_43 (dk_at dksX1_laid_0 20 rfl rfl)
theorem dX1_laid_21 : decode cX1_laid 21 = .ok (.areturn, 1) := dk_176 (dk_at dksX1_laid_0 21 rfl rfl)
abbrev cX1_pageEnd : ByteArray := prog_1_method_23_code
def yX1_pageEnd : MethodName := ⟨RX1, "pageEnd", "(II)I"⟩
def dkwX1_pageEnd_2 : List UInt8 := [29, 4, 100, 3, 182, 0, 154, 154, 0, 7, 4, 167, 0, 4, 3, 100, 62, 29, 172]
abbrev dktX1_pageEnd_2 : List UInt8 := dkwX1_pageEnd_2 ++ []
def dkwX1_pageEnd_1 : List UInt8 := [182, 0, 154, 154, 0, 7, 29, 4, 100, 172, 42, 29, 4, 182, 0, 154, 154, 0, 25, 132, 3, 255, 29, 42]
abbrev dktX1_pageEnd_1 : List UInt8 := dkwX1_pageEnd_1 ++ dktX1_pageEnd_2
def dkwX1_pageEnd_0 : List UInt8 := [28, 27, 42, 180, 0, 37, 96, 184, 0, 151, 62, 29, 28, 160, 0, 5, 28, 172, 42, 29, 4, 100, 3]
abbrev dktX1_pageEnd_0 : List UInt8 := dkwX1_pageEnd_0 ++ dktX1_pageEnd_1
theorem dksX1_pageEnd_0 : cX1_pageEnd.data.toList.drop 0 = dktX1_pageEnd_0 := by decide +kernel
theorem dksX1_pageEnd_1 : cX1_pageEnd.data.toList.drop 23 = dktX1_pageEnd_1 := dk_seg dksX1_pageEnd_0 23 rfl rfl
theorem dksX1_pageEnd_2 : cX1_pageEnd.data.toList.drop 47 = dktX1_pageEnd_2 := dk_seg dksX1_pageEnd_1 24 rfl rfl
theorem dX1_pageEnd_0 : decode cX1_pageEnd 0 = .ok (.iload_n 2, 1) := dk_28 (dk_at dksX1_pageEnd_0 0 rfl rfl)
theorem dX1_pageEnd_1 : decode cX1_pageEnd 1 = .ok (.iload_n 1, 1) := dk_27 (dk_at dksX1_pageEnd_0 1 rfl rfl)
theorem dX1_pageEnd_2 : decode cX1_pageEnd 2 = .ok (.aload_n 0, 1) := dk_42 (dk_at dksX1_pageEnd_0 2 rfl rfl)
theorem dX1_pageEnd_3 : decode cX1_pageEnd 3 = .ok (.getfield 37, 3) := dk_180 0 37 (dk_at dksX1_pageEnd_0 3 rfl rfl)
theorem dX1_pageEnd_6 : decode cX1_pageEnd 6 = .ok (.iadd, 1) := dk_96 (dk_at dksX1_pageEnd_0 6 rfl rfl)
theorem dX1_pageEnd_7 : decode cX1_pageEnd 7 = .ok (.invokestatic 151, 3) := dk_184 0 151 (dk_at dksX1_pageEnd_0 7 rfl rfl)
theorem dX1_pageEnd_10 : decode cX1_pageEnd 10 = .ok (.istore_n 3, 1) := dk_62 (dk_at dksX1_pageEnd_0 10 rfl rfl)
theorem dX1_pageEnd_11 : decode cX1_pageEnd 11 = .ok (.iload_n 3, 1) := dk_29 (dk_at dksX1_pageEnd_0 11 rfl rfl)
theorem dX1_pageEnd_12 : decode cX1_pageEnd 12 = .ok (.iload_n 2, 1) := dk_28 (dk_at dksX1_pageEnd_0 12 rfl rfl)
theorem dX1_pageEnd_13 : decode cX1_pageEnd 13 = .ok (.if_icmp .ne 5, 3) := dk_160 0 5 (dk_at dksX1_pageEnd_0 13 rfl rfl)
theorem dX1_pageEnd_16 : decode cX1_pageEnd 16 = .ok (.iload_n 2, 1) := dk_28 (dk_at dksX1_pageEnd_0 16 rfl rfl)
theorem dX1_pageEnd_17 : decode cX1_pageEnd 17 = .ok (.ireturn, 1) := dk_172 (dk_at dksX1_pageEnd_0 17 rfl rfl)
theorem dX1_pageEnd_18 : decode cX1_pageEnd 18 = .ok (.aload_n 0, 1) := dk_42 (dk_at dksX1_pageEnd_0 18 rfl rfl)
theorem dX1_pageEnd_19 : decode cX1_pageEnd 19 = .ok (.iload_n 3, 1) := dk_29 (dk_at dksX1_pageEnd_0 19 rfl rfl)
theorem dX1_pageEnd_20 : decode cX1_pageEnd 20 = .ok (.iconst 1, 1) := dk_4 (dk_at dksX1_pageEnd_0 20 rfl rfl)
theorem dX1_pageEnd_21 : decode cX1_pageEnd 21 = .ok (.isub, 1) := dk_100 (dk_at dksX1_pageEnd_0 21 rfl rfl)
theorem dX1_pageEnd_22 : decode cX1_pageEnd 22 = .ok (.iconst 0, 1) := dk_3 (dk_at dksX1_pageEnd_0 22 rfl rfl)
theorem dX1_pageEnd_23 : decode cX1_pageEnd 23 = .ok (.invokevirtual 154, 3) := dk_182 0 154 (dk_at dksX1_pageEnd_1 0 rfl rfl)
theorem dX1_pageEnd_26 : decode cX1_pageEnd 26 = .ok (.ifCond .ne 7, 3) := dk_154 0 7 (dk_at dksX1_pageEnd_1 3 rfl rfl)
theorem dX1_pageEnd_29 : decode cX1_pageEnd 29 = .ok (.iload_n 3, 1) := dk_29 (dk_at dksX1_pageEnd_1 6 rfl rfl)
theorem dX1_pageEnd_30 : decode cX1_pageEnd 30 = .ok (.iconst 1, 1) := dk_4 (dk_at dksX1_pageEnd_1 7 rfl rfl)
theorem dX1_pageEnd_31 : decode cX1_pageEnd 31 = .ok (.isub, 1) := dk_100 (dk_at dksX1_pageEnd_1 8 rfl rfl)
theorem dX1_pageEnd_32 : decode cX1_pageEnd 32 = .ok (.ireturn, 1) := dk_172 (dk_at dksX1_pageEnd_1 9 rfl rfl)
theorem dX1_pageEnd_33 : decode cX1_pageEnd 33 = .ok (.aload_n 0, 1) := dk_42 (dk_at dksX1_pageEnd_1 10 rfl rfl)
theorem dX1_pageEnd_34 : decode cX1_pageEnd 34 = .ok (.iload_n 3, 1) := dk_29 (dk_at dksX1_pageEnd_1 11 rfl rfl)
theorem dX1_pageEnd_35 : decode cX1_pageEnd 35 = .ok (.iconst 1, 1) := dk_4 (dk_at dksX1_pageEnd_1 12 rfl rfl)
theorem dX1_pageEnd_36 : decode cX1_pageEnd 36 = .ok (.invokevirtual 154, 3) := dk_182 0 154 (dk_at dksX1_pageEnd_1 13 rfl rfl)
theorem dX1_pageEnd_39 : decode cX1_pageEnd 39 = .ok (.ifCond .ne 25, 3) := dk_154 0 25 (dk_at dksX1_pageEnd_1 16 rfl rfl)
theorem dX1_pageEnd_42 : decode cX1_pageEnd 42 = .ok (.iinc 3 (-1), 3) := dk_132 3 255 (dk_at dksX1_pageEnd_1 19 rfl rfl)
theorem dX1_pageEnd_45 : decode cX1_pageEnd 45 = .ok (.iload_n 3, 1) := dk_29 (dk_at dksX1_pageEnd_1 22 rfl rfl)
theorem dX1_pageEnd_46 : decode cX1_pageEnd 46 = .ok (.aload_n 0, 1) := dk_42 (dk_at dksX1_pageEnd_1 23 rfl rfl)
theorem dX1_pageEnd_47 : decode cX1_pageEnd 47 = .ok (.iload_n 3, 1) := dk_29 (dk_at dksX1_pageEnd_2 0 rfl rfl)
theorem dX1_pageEnd_48 : decode cX1_pageEnd 48 = .ok (.iconst 1, 1) := dk_4 (dk_at dksX1_pageEnd_2 1 rfl rfl)
theorem dX1_pageEnd_49 : decode cX1_pageEnd 49 = .ok (.isub, 1) := dk_100 (dk_at dksX1_pageEnd_2 2 rfl rfl)
theorem dX1_pageEnd_50 : decode cX1_pageEnd 50 = .ok (.iconst 0, 1) := dk_3 (dk_at dksX1_pageEnd_2 3 rfl rfl)
theorem dX1_pageEnd_51 : decode cX1_pageEnd 51 = .ok (.invokevirtual 154, 3) := dk_182 0 154 (dk_at dksX1_pageEnd_2 4 rfl rfl)
theorem dX1_pageEnd_54 : decode cX1_pageEnd 54 = .ok (.ifCond .ne 7, 3) := dk_154 0 7 (dk_at dksX1_pageEnd_2 7 rfl rfl)
theorem dX1_pageEnd_57 : decode cX1_pageEnd 57 = .ok (.iconst 1, 1) := dk_4 (dk_at dksX1_pageEnd_2 10 rfl rfl)
theorem dX1_pageEnd_58 : decode cX1_pageEnd 58 = .ok (.goto 4, 3) := dk_167 0 4 (dk_at dksX1_pageEnd_2 11 rfl rfl)
theorem dX1_pageEnd_61 : decode cX1_pageEnd 61 = .ok (.iconst 0, 1) := dk_3 (dk_at dksX1_pageEnd_2 14 rfl rfl)
theorem dX1_pageEnd_62 : decode cX1_pageEnd 62 = .ok (.isub, 1) := dk_100 (dk_at dksX1_pageEnd_2 15 rfl rfl)
theorem dX1_pageEnd_63 : decode cX1_pageEnd 63 = .ok (.istore_n 3, 1) := dk_62 (dk_at dksX1_pageEnd_2 16 rfl rfl)
theorem dX1_pageEnd_64 : decode cX1_pageEnd 64 = .ok (.iload_n 3, 1) := dk_29 (dk_at dksX1_pageEnd_2 17 rfl rfl)
theorem dX1_pageEnd_65 : decode cX1_pageEnd 65 = .ok (.ireturn, 1) := dk_172 (dk_at dksX1_pageEnd_2 18 rfl rfl)
abbrev cX1_inParagraph : ByteArray := prog_1_method_22_code
def yX1_inParagraph : MethodName := ⟨RX1, "inParagraph", "(IZ)I"⟩
def dkwX1_inParagraph_4 : List UInt8 := [167, 0, 4, 29, 172]
abbrev dktX1_inParagraph_4 : List UInt8 := dkwX1_inParagraph_4 ++ []
def dkwX1_inParagraph_3 : List UInt8 := [54, 5, 21, 5, 4, 160, 0, 7, 2, 167, 0, 17, 28, 153, 0, 12, 21, 5, 4, 100, 29, 100]
abbrev dktX1_inParagraph_3 : List UInt8 := dkwX1_inParagraph_3 ++ dktX1_inParagraph_4
def dkwX1_inParagraph_2 : List UInt8 := [132, 4, 1, 167, 255, 212, 42, 180, 0, 14, 21, 4, 185, 0, 53, 2, 0, 192, 0, 57, 180, 0, 128]
abbrev dktX1_inParagraph_2 : List UInt8 := dkwX1_inParagraph_2 ++ dktX1_inParagraph_3
def dkwX1_inParagraph_1 : List UInt8 := [161, 0, 29, 29, 42, 180, 0, 14, 21, 4, 185, 0, 53, 2, 0, 192, 0, 57, 180, 0, 128, 100, 62]
abbrev dktX1_inParagraph_1 : List UInt8 := dkwX1_inParagraph_1 ++ dktX1_inParagraph_2
def dkwX1_inParagraph_0 : List UInt8 := [27, 62, 3, 54, 4, 29, 42, 180, 0, 14, 21, 4, 185, 0, 53, 2, 0, 192, 0, 57, 180, 0, 128]
abbrev dktX1_inParagraph_0 : List UInt8 := dkwX1_inParagraph_0 ++ dktX1_inParagraph_1
theorem dksX1_inParagraph_0 : cX1_inParagraph.data.toList.drop 0 = dktX1_inParagraph_0 := by decide +kernel
theorem dksX1_inParagraph_1 : cX1_inParagraph.data.toList.drop 23 = dktX1_inParagraph_1 := dk_seg dksX1_inParagraph_0 23 rfl rfl
theorem dksX1_inParagraph_2 : cX1_inParagraph.data.toList.drop 46 = dktX1_inParagraph_2 := dk_seg dksX1_inParagraph_1 23 rfl rfl
theorem dksX1_inParagraph_3 : cX1_inParagraph.data.toList.drop 69 = dktX1_inParagraph_3 := dk_seg dksX1_inParagraph_2 23 rfl rfl
theorem dksX1_inParagraph_4 : cX1_inParagraph.data.toList.drop 91 = dktX1_inParagraph_4 := dk_seg dksX1_inParagraph_3 22 rfl rfl
theorem dX1_inParagraph_0 : decode cX1_inParagraph 0 = .ok (.iload_n 1, 1) := dk_27 (dk_at dksX1_inParagraph_0 0 rfl rfl)
theorem dX1_inParagraph_1 : decode cX1_inParagraph 1 = .ok (.istore_n 3, 1) := dk_62 (dk_at dksX1_inParagraph_0 1 rfl rfl)
theorem dX1_inParagraph_2 : decode cX1_inParagraph 2 = .ok (.iconst 0, 1) := dk_3 (dk_at dksX1_inParagraph_0 2 rfl rfl)
theorem dX1_inParagraph_3 : decode cX1_inParagraph 3 = .ok (.istore 4, 2) := dk_54 4 (dk_at dksX1_inParagraph_0 3 rfl rfl)
theorem dX1_inParagraph_5 : decode cX1_inParagraph 5 = .ok (.iload_n 3, 1) := dk_29 (dk_at dksX1_inParagraph_0 5 rfl rfl)
theorem dX1_inParagraph_6 : decode cX1_inParagraph 6 = .ok (.aload_n 0, 1) := dk_42 (dk_at dksX1_inParagraph_0 6 rfl rfl)
theorem dX1_inParagraph_7 : decode cX1_inParagraph 7 = .ok (.getfield 14, 3) := dk_180 0 14 (dk_at dksX1_inParagraph_0 7 rfl rfl)
theorem dX1_inParagraph_10 : decode cX1_inParagraph 10 = .ok (.iload 4, 2) := dk_21 4 (dk_at dksX1_inParagraph_0 10 rfl rfl)
theorem dX1_inParagraph_12 : decode cX1_inParagraph 12 = .ok (.invokeinterface 53 2, 5) := by decide +kernel
theorem dX1_inParagraph_17 : decode cX1_inParagraph 17 = .ok (.checkcast 57, 3) := dk_192 0 57 (dk_at dksX1_inParagraph_0 17 rfl rfl)
theorem dX1_inParagraph_20 : decode cX1_inParagraph 20 = .ok (.getfield 128, 3) := dk_180 0 128 (dk_at dksX1_inParagraph_0 20 rfl rfl)
theorem dX1_inParagraph_23 : decode cX1_inParagraph 23 = .ok (.if_icmp .lt 29, 3) := dk_161 0 29 (dk_at dksX1_inParagraph_1 0 rfl rfl)
theorem dX1_inParagraph_26 : decode cX1_inParagraph 26 = .ok (.iload_n 3, 1) := dk_29 (dk_at dksX1_inParagraph_1 3 rfl rfl)
theorem dX1_inParagraph_27 : decode cX1_inParagraph 27 = .ok (.aload_n 0, 1) := dk_42 (dk_at dksX1_inParagraph_1 4 rfl rfl)
theorem dX1_inParagraph_28 : decode cX1_inParagraph 28 = .ok (.getfield 14, 3) := dk_180 0 14 (dk_at dksX1_inParagraph_1 5 rfl rfl)
theorem dX1_inParagraph_31 : decode cX1_inParagraph 31 = .ok (.iload 4, 2) := dk_21 4 (dk_at dksX1_inParagraph_1 8 rfl rfl)
theorem dX1_inParagraph_33 : decode cX1_inParagraph 33 = .ok (.invokeinterface 53 2, 5) := by decide +kernel
theorem dX1_inParagraph_38 : decode cX1_inParagraph 38 = .ok (.checkcast 57, 3) := dk_192 0 57 (dk_at dksX1_inParagraph_1 15 rfl rfl)
theorem dX1_inParagraph_41 : decode cX1_inParagraph 41 = .ok (.getfield 128, 3) := dk_180 0 128 (dk_at dksX1_inParagraph_1 18 rfl rfl)
theorem dX1_inParagraph_44 : decode cX1_inParagraph 44 = .ok (.isub, 1) := dk_100 (dk_at dksX1_inParagraph_1 21 rfl rfl)
theorem dX1_inParagraph_45 : decode cX1_inParagraph 45 = .ok (.istore_n 3, 1) := dk_62 (dk_at dksX1_inParagraph_1 22 rfl rfl)
theorem dX1_inParagraph_46 : decode cX1_inParagraph 46 = .ok (.iinc 4 1, 3) := dk_132 4 1 (dk_at dksX1_inParagraph_2 0 rfl rfl)
theorem dX1_inParagraph_49 : decode cX1_inParagraph 49 = .ok (.goto (-44), 3) := dk_167 255 212 (dk_at dksX1_inParagraph_2 3 rfl rfl)
theorem dX1_inParagraph_52 : decode cX1_inParagraph 52 = .ok (.aload_n 0, 1) := dk_42 (dk_at dksX1_inParagraph_2 6 rfl rfl)
theorem dX1_inParagraph_53 : decode cX1_inParagraph 53 = .ok (.getfield 14, 3) := dk_180 0 14 (dk_at dksX1_inParagraph_2 7 rfl rfl)
theorem dX1_inParagraph_56 : decode cX1_inParagraph 56 = .ok (.iload 4, 2) := dk_21 4 (dk_at dksX1_inParagraph_2 10 rfl rfl)
theorem dX1_inParagraph_58 : decode cX1_inParagraph 58 = .ok (.invokeinterface 53 2, 5) := by decide +kernel
theorem dX1_inParagraph_63 : decode cX1_inParagraph 63 = .ok (.checkcast 57, 3) := dk_192 0 57 (dk_at dksX1_inParagraph_2 17 rfl rfl)
theorem dX1_inParagraph_66 : decode cX1_inParagraph 66 = .ok (.getfield 128, 3) := dk_180 0 128 (dk_at dksX1_inParagraph_2 20 rfl rfl)
theorem dX1_inParagraph_69 : decode cX1_inParagraph 69 = .ok (.istore 5, 2) := dk_54 5 (dk_at dksX1_inParagraph_3 0 rfl rfl)
theorem dX1_inParagraph_71 : decode cX1_inParagraph 71 = .ok (.iload 5, 2) := dk_21 5 (dk_at dksX1_inParagraph_3 2 rfl rfl)
theorem dX1_inParagraph_73 : decode cX1_inParagraph 73 = .ok (.iconst 1, 1) := dk_4 (dk_at dksX1_inParagraph_3 4 rfl rfl)
theorem dX1_inParagraph_74 : decode cX1_inParagraph 74 = .ok (.if_icmp .ne 7, 3) := dk_160 0 7 (dk_at dksX1_inParagraph_3 5 rfl rfl)
theorem dX1_inParagraph_77 : decode cX1_inParagraph 77 = .ok (.iconst (-1), 1) := dk_2 (dk_at dksX1_inParagraph_3 8 rfl rfl)
theorem dX1_inParagraph_78 : decode cX1_inParagraph 78 = .ok (.goto 17, 3) := dk_167 0 17 (dk_at dksX1_inParagraph_3 9 rfl rfl)
theorem dX1_inParagraph_81 : decode cX1_inParagraph 81 = .ok (.iload_n 2, 1) := dk_28 (dk_at dksX1_inParagraph_3 12 rfl rfl)
theorem dX1_inParagraph_82 : decode cX1_inParagraph 82 = .ok (.ifCond .eq 12, 3) := dk_153 0 12 (dk_at dksX1_inParagraph_3 13 rfl rfl)
theorem dX1_inParagraph_85 : decode cX1_inParagraph 85 = .ok (.iload 5, 2) := dk_21 5 (dk_at dksX1_inParagraph_3 16 rfl rfl)
theorem dX1_inParagraph_87 : decode cX1_inParagraph 87 = .ok (.iconst 1, 1) := dk_4 (dk_at dksX1_inParagraph_3 18 rfl rfl)
theorem dX1_inParagraph_88 : decode cX1_inParagraph 88 = .ok (.isub, 1) := dk_100 (dk_at dksX1_inParagraph_3 19 rfl rfl)
theorem dX1_inParagraph_89 : decode cX1_inParagraph 89 = .ok (.iload_n 3, 1) := dk_29 (dk_at dksX1_inParagraph_3 20 rfl rfl)
theorem dX1_inParagraph_90 : decode cX1_inParagraph 90 = .ok (.isub, 1) := dk_100 (dk_at dksX1_inParagraph_3 21 rfl rfl)
theorem dX1_inParagraph_91 : decode cX1_inParagraph 91 = .ok (.goto 4, 3) := dk_167 0 4 (dk_at dksX1_inParagraph_4 0 rfl rfl)
theorem dX1_inParagraph_94 : decode cX1_inParagraph 94 = .ok (.iload_n 3, 1) := dk_29 (dk_at dksX1_inParagraph_4 3 rfl rfl)
theorem dX1_inParagraph_95 : decode cX1_inParagraph 95 = .ok (.ireturn, 1) := dk_172 (dk_at dksX1_inParagraph_4 4 rfl rfl)
abbrev cX1_addParagraph : ByteArray := prog_1_method_8_code
def yX1_addParagraph : MethodName := ⟨RX1, "addParagraph", "()I"⟩
def dkwX1_addParagraph_2 : List UInt8 := [185, 0, 43, 1, 0, 4, 100, 172]
abbrev dktX1_addParagraph_2 : List UInt8 := dkwX1_addParagraph_2 ++ []
def dkwX1_addParagraph_1 : List UInt8 := [180, 0, 14, 187, 0, 57, 89, 183, 0, 73, 185, 0, 74, 2, 0, 87, 42, 180, 0, 14]
abbrev dktX1_addParagraph_1 : List UInt8 := dkwX1_addParagraph_1 ++ dktX1_addParagraph_2
def dkwX1_addParagraph_0 : List UInt8 := [42, 180, 0, 14, 185, 0, 43, 1, 0, 16, 6, 162, 0, 7, 4, 167, 0, 4, 3, 184, 0, 69, 42]
abbrev dktX1_addParagraph_0 : List UInt8 := dkwX1_addParagraph_0 ++ dktX1_addParagraph_1
theorem dksX1_addParagraph_0 : cX1_addParagraph.data.toList.drop 0 = dktX1_addParagraph_0 := by decide +kernel
theorem dksX1_addParagraph_1 : cX1_addParagraph.data.toList.drop 23 = dktX1_addParagraph_1 := dk_seg dksX1_addParagraph_0 23 rfl rfl
theorem dksX1_addParagraph_2 : cX1_addParagraph.data.toList.drop 43 = dktX1_addParagraph_2 := dk_seg dksX1_addParagraph_1 20 rfl rfl
theorem dX1_addParagraph_0 : decode cX1_addParagraph 0 = .ok (.aload_n 0, 1) := dk_42 (dk_at dksX1_addParagraph_0 0 rfl rfl)
theorem dX1_addParagraph_1 : decode cX1_addParagraph 1 = .ok (.getfield 14, 3) := dk_180 0 14 (dk_at dksX1_addParagraph_0 1 rfl rfl)
theorem dX1_addParagraph_4 : decode cX1_addParagraph 4 = .ok (.invokeinterface 43 1, 5) := by decide +kernel
theorem dX1_addParagraph_9 : decode cX1_addParagraph 9 = .ok (.bipush 6, 2) := dk_16 6 (dk_at dksX1_addParagraph_0 9 rfl rfl)
theorem dX1_addParagraph_11 : decode cX1_addParagraph 11 = .ok (.if_icmp .ge 7, 3) := dk_162 0 7 (dk_at dksX1_addParagraph_0 11 rfl rfl)
theorem dX1_addParagraph_14 : decode cX1_addParagraph 14 = .ok (.iconst 1, 1) := dk_4 (dk_at dksX1_addParagraph_0 14 rfl rfl)
theorem dX1_addParagraph_15 : decode cX1_addParagraph 15 = .ok (.goto 4, 3) := dk_167 0 4 (dk_at dksX1_addParagraph_0 15 rfl rfl)
theorem dX1_addParagraph_18 : decode cX1_addParagraph 18 = .ok (.iconst 0, 1) := dk_3 (dk_at dksX1_addParagraph_0 18 rfl rfl)
theorem dX1_addParagraph_19 : decode cX1_addParagraph 19 = .ok (.invokestatic 69, 3) := dk_184 0 69 (dk_at dksX1_addParagraph_0 19 rfl rfl)
theorem dX1_addParagraph_22 : decode cX1_addParagraph 22 = .ok (.aload_n 0, 1) := dk_42 (dk_at dksX1_addParagraph_0 22 rfl rfl)
theorem dX1_addParagraph_23 : decode cX1_addParagraph 23 = .ok (.getfield 14, 3) := dk_180 0 14 (dk_at dksX1_addParagraph_1 0 rfl rfl)
theorem dX1_addParagraph_26 : decode cX1_addParagraph 26 = .ok (.new 57, 3) := dk_187 0 57 (dk_at dksX1_addParagraph_1 3 rfl rfl)
theorem dX1_addParagraph_29 : decode cX1_addParagraph 29 = .ok (.dup, 1) := dk_89 (dk_at dksX1_addParagraph_1 6 rfl rfl)
theorem dX1_addParagraph_30 : decode cX1_addParagraph 30 = .ok (.invokespecial 73, 3) := dk_183 0 73 (dk_at dksX1_addParagraph_1 7 rfl rfl)
theorem dX1_addParagraph_33 : decode cX1_addParagraph 33 = .ok (.invokeinterface 74 2, 5) := by decide +kernel
theorem dX1_addParagraph_38 : decode cX1_addParagraph 38 = .ok (.pop, 1) := dk_87 (dk_at dksX1_addParagraph_1 15 rfl rfl)
theorem dX1_addParagraph_39 : decode cX1_addParagraph 39 = .ok (.aload_n 0, 1) := dk_42 (dk_at dksX1_addParagraph_1 16 rfl rfl)
theorem dX1_addParagraph_40 : decode cX1_addParagraph 40 = .ok (.getfield 14, 3) := dk_180 0 14 (dk_at dksX1_addParagraph_1 17 rfl rfl)
theorem dX1_addParagraph_43 : decode cX1_addParagraph 43 = .ok (.invokeinterface 43 1, 5) := by decide +kernel
theorem dX1_addParagraph_48 : decode cX1_addParagraph 48 = .ok (.iconst 1, 1) := dk_4 (dk_at dksX1_addParagraph_2 5 rfl rfl)
theorem dX1_addParagraph_49 : decode cX1_addParagraph 49 = .ok (.isub, 1) := dk_100 (dk_at dksX1_addParagraph_2 6 rfl rfl)
theorem dX1_addParagraph_50 : decode cX1_addParagraph 50 = .ok (.ireturn, 1) := dk_172 (dk_at dksX1_addParagraph_2 7 rfl rfl)
abbrev cX1_checkState : ByteArray := prog_1_method_7_code
def yX1_checkState : MethodName := ⟨RX1, "checkState", "(Z)V"⟩
def dkwX1_checkState_0 : List UInt8 := [26, 154, 0, 11, 187, 0, 66, 89, 183, 0, 68, 191, 177]
abbrev dktX1_checkState_0 : List UInt8 := dkwX1_checkState_0 ++ []
theorem dksX1_checkState_0 : cX1_checkState.data.toList.drop 0 = dktX1_checkState_0 := by decide +kernel
theorem dX1_checkState_0 : decode cX1_checkState 0 = .ok (.iload_n 0, 1) := dk_26 (dk_at dksX1_checkState_0 0 rfl rfl)
theorem dX1_checkState_1 : decode cX1_checkState 1 = .ok (.ifCond .ne 11, 3) := dk_154 0 11 (dk_at dksX1_checkState_0 1 rfl rfl)
theorem dX1_checkState_4 : decode cX1_checkState 4 = .ok (.new 66, 3) := dk_187 0 66 (dk_at dksX1_checkState_0 4 rfl rfl)
theorem dX1_checkState_7 : decode cX1_checkState 7 = .ok (.dup, 1) := dk_89 (dk_at dksX1_checkState_0 7 rfl rfl)
theorem dX1_checkState_8 : decode cX1_checkState 8 = .ok (.invokespecial 68, 3) := dk_183 0 68 (dk_at dksX1_checkState_0 8 rfl rfl)
theorem dX1_checkState_11 : decode cX1_checkState 11 = .ok (.athrow, 1) := dk_191 (dk_at dksX1_checkState_0 11 rfl rfl)
theorem dX1_checkState_12 : decode cX1_checkState 12 = .ok (.return_, 1) := dk_177 (dk_at dksX1_checkState_0 12 rfl rfl)
abbrev cX1_addWord : ByteArray := prog_1_method_9_code
def yX1_addWord : MethodName := ⟨RX1, "addWord", "(II)I"⟩
def dkwX1_addWord_4 : List UInt8 := [25, 4, 180, 0, 97, 172]
abbrev dktX1_addWord_4 : List UInt8 := dkwX1_addWord_4 ++ []
def dkwX1_addWord_3 : List UInt8 := [185, 0, 74, 2, 0, 87, 45, 180, 0, 93, 25, 4, 185, 0, 74, 2, 0, 87, 45, 3, 181, 0, 94]
abbrev dktX1_addWord_3 : List UInt8 := dkwX1_addWord_3 ++ dktX1_addWord_4
def dkwX1_addWord_2 : List UInt8 := [180, 0, 18, 185, 0, 43, 1, 0, 45, 28, 183, 0, 90, 58, 4, 42, 180, 0, 18, 25, 4]
abbrev dktX1_addWord_2 : List UInt8 := dkwX1_addWord_2 ++ dktX1_addWord_3
def dkwX1_addWord_1 : List UInt8 := [185, 0, 43, 1, 0, 16, 60, 162, 0, 7, 4, 167, 0, 4, 3, 184, 0, 69, 187, 0, 59, 89, 42]
abbrev dktX1_addWord_1 : List UInt8 := dkwX1_addWord_1 ++ dktX1_addWord_2
def dkwX1_addWord_0 : List UInt8 := [42, 27, 182, 0, 78, 78, 28, 4, 16, 15, 184, 0, 82, 45, 180, 0, 86, 154, 0, 21, 42, 180, 0, 18]
abbrev dktX1_addWord_0 : List UInt8 := dkwX1_addWord_0 ++ dktX1_addWord_1
theorem dksX1_addWord_0 : cX1_addWord.data.toList.drop 0 = dktX1_addWord_0 := by decide +kernel
theorem dksX1_addWord_1 : cX1_addWord.data.toList.drop 24 = dktX1_addWord_1 := dk_seg dksX1_addWord_0 24 rfl rfl
theorem dksX1_addWord_2 : cX1_addWord.data.toList.drop 47 = dktX1_addWord_2 := dk_seg dksX1_addWord_1 23 rfl rfl
theorem dksX1_addWord_3 : cX1_addWord.data.toList.drop 68 = dktX1_addWord_3 := dk_seg dksX1_addWord_2 21 rfl rfl
theorem dksX1_addWord_4 : cX1_addWord.data.toList.drop 91 = dktX1_addWord_4 := dk_seg dksX1_addWord_3 23 rfl rfl
theorem dX1_addWord_0 : decode cX1_addWord 0 = .ok (.aload_n 0, 1) := dk_42 (dk_at dksX1_addWord_0 0 rfl rfl)
theorem dX1_addWord_1 : decode cX1_addWord 1 = .ok (.iload_n 1, 1) := dk_27 (dk_at dksX1_addWord_0 1 rfl rfl)
theorem dX1_addWord_2 : decode cX1_addWord 2 = .ok (.invokevirtual 78, 3) := dk_182 0 78 (dk_at dksX1_addWord_0 2 rfl rfl)
theorem dX1_addWord_5 : decode cX1_addWord 5 = .ok (.astore_n 3, 1) := dk_78 (dk_at dksX1_addWord_0 5 rfl rfl)
theorem dX1_addWord_6 : decode cX1_addWord 6 = .ok (.iload_n 2, 1) := dk_28 (dk_at dksX1_addWord_0 6 rfl rfl)
theorem dX1_addWord_7 : decode cX1_addWord 7 = .ok (.iconst 1, 1) := dk_4 (dk_at dksX1_addWord_0 7 rfl rfl)
theorem dX1_addWord_8 : decode cX1_addWord 8 = .ok (.bipush 15, 2) := dk_16 15 (dk_at dksX1_addWord_0 8 rfl rfl)
theorem dX1_addWord_10 : decode cX1_addWord 10 = .ok (.invokestatic 82, 3) := dk_184 0 82 (dk_at dksX1_addWord_0 10 rfl rfl)
theorem dX1_addWord_13 : decode cX1_addWord 13 = .ok (.aload_n 3, 1) := dk_45 (dk_at dksX1_addWord_0 13 rfl rfl)
theorem dX1_addWord_14 : decode cX1_addWord 14 = .ok (.getfield 86, 3) := dk_180 0 86 (dk_at dksX1_addWord_0 14 rfl rfl)
theorem dX1_addWord_17 : decode cX1_addWord 17 = .ok (.ifCond .ne 21, 3) := dk_154 0 21 (dk_at dksX1_addWord_0 17 rfl rfl)
theorem dX1_addWord_20 : decode cX1_addWord 20 = .ok (.aload_n 0, 1) := dk_42 (dk_at dksX1_addWord_0 20 rfl rfl)
theorem dX1_addWord_21 : decode cX1_addWord 21 = .ok (.getfield 18, 3) := dk_180 0 18 (dk_at dksX1_addWord_0 21 rfl rfl)
theorem dX1_addWord_24 : decode cX1_addWord 24 = .ok (.invokeinterface 43 1, 5) := by decide +kernel
theorem dX1_addWord_29 : decode cX1_addWord 29 = .ok (.bipush 60, 2) := dk_16 60 (dk_at dksX1_addWord_1 5 rfl rfl)
theorem dX1_addWord_31 : decode cX1_addWord 31 = .ok (.if_icmp .ge 7, 3) := dk_162 0 7 (dk_at dksX1_addWord_1 7 rfl rfl)
theorem dX1_addWord_34 : decode cX1_addWord 34 = .ok (.iconst 1, 1) := dk_4 (dk_at dksX1_addWord_1 10 rfl rfl)
theorem dX1_addWord_35 : decode cX1_addWord 35 = .ok (.goto 4, 3) := dk_167 0 4 (dk_at dksX1_addWord_1 11 rfl rfl)
theorem dX1_addWord_38 : decode cX1_addWord 38 = .ok (.iconst 0, 1) := dk_3 (dk_at dksX1_addWord_1 14 rfl rfl)
theorem dX1_addWord_39 : decode cX1_addWord 39 = .ok (.invokestatic 69, 3) := dk_184 0 69 (dk_at dksX1_addWord_1 15 rfl rfl)
theorem dX1_addWord_42 : decode cX1_addWord 42 = .ok (.new 59, 3) := dk_187 0 59 (dk_at dksX1_addWord_1 18 rfl rfl)
theorem dX1_addWord_45 : decode cX1_addWord 45 = .ok (.dup, 1) := dk_89 (dk_at dksX1_addWord_1 21 rfl rfl)
theorem dX1_addWord_46 : decode cX1_addWord 46 = .ok (.aload_n 0, 1) := dk_42 (dk_at dksX1_addWord_1 22 rfl rfl)
theorem dX1_addWord_47 : decode cX1_addWord 47 = .ok (.getfield 18, 3) := dk_180 0 18 (dk_at dksX1_addWord_2 0 rfl rfl)
theorem dX1_addWord_50 : decode cX1_addWord 50 = .ok (.invokeinterface 43 1, 5) := by decide +kernel
theorem dX1_addWord_55 : decode cX1_addWord 55 = .ok (.aload_n 3, 1) := dk_45 (dk_at dksX1_addWord_2 8 rfl rfl)
theorem dX1_addWord_56 : decode cX1_addWord 56 = .ok (.iload_n 2, 1) := dk_28 (dk_at dksX1_addWord_2 9 rfl rfl)
theorem dX1_addWord_57 : decode cX1_addWord 57 = .ok (.invokespecial 90, 3) := dk_183 0 90 (dk_at dksX1_addWord_2 10 rfl rfl)
theorem dX1_addWord_60 : decode cX1_addWord 60 = .ok (.astore 4, 2) := dk_58 4 (dk_at dksX1_addWord_2 13 rfl rfl)
theorem dX1_addWord_62 : decode cX1_addWord 62 = .ok (.aload_n 0, 1) := dk_42 (dk_at dksX1_addWord_2 15 rfl rfl)
theorem dX1_addWord_63 : decode cX1_addWord 63 = .ok (.getfield 18, 3) := dk_180 0 18 (dk_at dksX1_addWord_2 16 rfl rfl)
theorem dX1_addWord_66 : decode cX1_addWord 66 = .ok (.aload 4, 2) := dk_25 4 (dk_at dksX1_addWord_2 19 rfl rfl)
theorem dX1_addWord_68 : decode cX1_addWord 68 = .ok (.invokeinterface 74 2, 5) := by decide +kernel
theorem dX1_addWord_73 : decode cX1_addWord 73 = .ok (.pop, 1) := dk_87 (dk_at dksX1_addWord_3 5 rfl rfl)
theorem dX1_addWord_74 : decode cX1_addWord 74 = .ok (.aload_n 3, 1) := dk_45 (dk_at dksX1_addWord_3 6 rfl rfl)
theorem dX1_addWord_75 : decode cX1_addWord 75 = .ok (.getfield 93, 3) := dk_180 0 93 (dk_at dksX1_addWord_3 7 rfl rfl)
theorem dX1_addWord_78 : decode cX1_addWord 78 = .ok (.aload 4, 2) := dk_25 4 (dk_at dksX1_addWord_3 10 rfl rfl)
theorem dX1_addWord_80 : decode cX1_addWord 80 = .ok (.invokeinterface 74 2, 5) := by decide +kernel
theorem dX1_addWord_85 : decode cX1_addWord 85 = .ok (.pop, 1) := dk_87 (dk_at dksX1_addWord_3 17 rfl rfl)
theorem dX1_addWord_86 : decode cX1_addWord 86 = .ok (.aload_n 3, 1) := dk_45 (dk_at dksX1_addWord_3 18 rfl rfl)
theorem dX1_addWord_87 : decode cX1_addWord 87 = .ok (.iconst 0, 1) := dk_3 (dk_at dksX1_addWord_3 19 rfl rfl)
theorem dX1_addWord_88 : decode cX1_addWord 88 = .ok (.putfield 94, 3) := dk_181 0 94 (dk_at dksX1_addWord_3 20 rfl rfl)
theorem dX1_addWord_91 : decode cX1_addWord 91 = .ok (.aload 4, 2) := dk_25 4 (dk_at dksX1_addWord_4 0 rfl rfl)
theorem dX1_addWord_93 : decode cX1_addWord 93 = .ok (.getfield 97, 3) := dk_180 0 97 (dk_at dksX1_addWord_4 2 rfl rfl)
theorem dX1_addWord_96 : decode cX1_addWord 96 = .ok (.ireturn, 1) := dk_172 (dk_at dksX1_addWord_4 5 rfl rfl)
abbrev cX1_paragraph : ByteArray := prog_1_method_3_code
def yX1_paragraph : MethodName := ⟨RX1, "paragraph", "(I)LProofPages$Paragraph;"⟩
def dkwX1_paragraph_1 : List UInt8 := [192, 0, 57, 176]
abbrev dktX1_paragraph_1 : List UInt8 := dkwX1_paragraph_1 ++ []
def dkwX1_paragraph_0 : List UInt8 := [27, 42, 180, 0, 14, 185, 0, 43, 1, 0, 184, 0, 49, 42, 180, 0, 14, 27, 185, 0, 53, 2, 0]
abbrev dktX1_paragraph_0 : List UInt8 := dkwX1_paragraph_0 ++ dktX1_paragraph_1
theorem dksX1_paragraph_0 : cX1_paragraph.data.toList.drop 0 = dktX1_paragraph_0 := by decide +kernel
theorem dksX1_paragraph_1 : cX1_paragraph.data.toList.drop 23 = dktX1_paragraph_1 := dk_seg dksX1_paragraph_0 23 rfl rfl
theorem dX1_paragraph_0 : decode cX1_paragraph 0 = .ok (.iload_n 1, 1) := dk_27 (dk_at dksX1_paragraph_0 0 rfl rfl)
theorem dX1_paragraph_1 : decode cX1_paragraph 1 = .ok (.aload_n 0, 1) := dk_42 (dk_at dksX1_paragraph_0 1 rfl rfl)
theorem dX1_paragraph_2 : decode cX1_paragraph 2 = .ok (.getfield 14, 3) := dk_180 0 14 (dk_at dksX1_paragraph_0 2 rfl rfl)
theorem dX1_paragraph_5 : decode cX1_paragraph 5 = .ok (.invokeinterface 43 1, 5) := by decide +kernel
theorem dX1_paragraph_10 : decode cX1_paragraph 10 = .ok (.invokestatic 49, 3) := dk_184 0 49 (dk_at dksX1_paragraph_0 10 rfl rfl)
theorem dX1_paragraph_13 : decode cX1_paragraph 13 = .ok (.aload_n 0, 1) := dk_42 (dk_at dksX1_paragraph_0 13 rfl rfl)
theorem dX1_paragraph_14 : decode cX1_paragraph 14 = .ok (.getfield 14, 3) := dk_180 0 14 (dk_at dksX1_paragraph_0 14 rfl rfl)
theorem dX1_paragraph_17 : decode cX1_paragraph 17 = .ok (.iload_n 1, 1) := dk_27 (dk_at dksX1_paragraph_0 17 rfl rfl)
theorem dX1_paragraph_18 : decode cX1_paragraph 18 = .ok (.invokeinterface 53 2, 5) := by decide +kernel
theorem dX1_paragraph_23 : decode cX1_paragraph 23 = .ok (.checkcast 57, 3) := dk_192 0 57 (dk_at dksX1_paragraph_1 0 rfl rfl)
theorem dX1_paragraph_26 : decode cX1_paragraph 26 = .ok (.areturn, 1) := dk_176 (dk_at dksX1_paragraph_1 3 rfl rfl)
abbrev cX1_checkIndex : ByteArray := prog_1_method_2_code
def yX1_checkIndex : MethodName := ⟨RX1, "checkIndex", "(II)V"⟩
def dkwX1_checkIndex_0 : List UInt8 := [26, 155, 0, 8, 26, 27, 161, 0, 11, 187, 0, 40, 89, 183, 0, 42, 191, 177]
abbrev dktX1_checkIndex_0 : List UInt8 := dkwX1_checkIndex_0 ++ []
theorem dksX1_checkIndex_0 : cX1_checkIndex.data.toList.drop 0 = dktX1_checkIndex_0 := by decide +kernel
theorem dX1_checkIndex_0 : decode cX1_checkIndex 0 = .ok (.iload_n 0, 1) := dk_26 (dk_at dksX1_checkIndex_0 0 rfl rfl)
theorem dX1_checkIndex_1 : decode cX1_checkIndex 1 = .ok (.ifCond .lt 8, 3) := dk_155 0 8 (dk_at dksX1_checkIndex_0 1 rfl rfl)
theorem dX1_checkIndex_4 : decode cX1_checkIndex 4 = .ok (.iload_n 0, 1) := dk_26 (dk_at dksX1_checkIndex_0 4 rfl rfl)
theorem dX1_checkIndex_5 : decode cX1_checkIndex 5 = .ok (.iload_n 1, 1) := dk_27 (dk_at dksX1_checkIndex_0 5 rfl rfl)
theorem dX1_checkIndex_6 : decode cX1_checkIndex 6 = .ok (.if_icmp .lt 11, 3) := dk_161 0 11 (dk_at dksX1_checkIndex_0 6 rfl rfl)
theorem dX1_checkIndex_9 : decode cX1_checkIndex 9 = .ok (.new 40, 3) := dk_187 0 40 (dk_at dksX1_checkIndex_0 9 rfl rfl)
theorem dX1_checkIndex_12 : decode cX1_checkIndex 12 = .ok (.dup, 1) := dk_89 (dk_at dksX1_checkIndex_0 12 rfl rfl)
theorem dX1_checkIndex_13 : decode cX1_checkIndex 13 = .ok (.invokespecial 42, 3) := dk_183 0 42 (dk_at dksX1_checkIndex_0 13 rfl rfl)
theorem dX1_checkIndex_16 : decode cX1_checkIndex 16 = .ok (.athrow, 1) := dk_191 (dk_at dksX1_checkIndex_0 16 rfl rfl)
theorem dX1_checkIndex_17 : decode cX1_checkIndex 17 = .ok (.return_, 1) := dk_177 (dk_at dksX1_checkIndex_0 17 rfl rfl)
abbrev cX1_checkRange : ByteArray := prog_1_method_6_code
def yX1_checkRange : MethodName := ⟨RX1, "checkRange", "(III)V"⟩
def dkwX1_checkRange_0 : List UInt8 := [26, 27, 161, 0, 8, 26, 28, 164, 0, 11, 187, 0, 63, 89, 183, 0, 65, 191, 177]
abbrev dktX1_checkRange_0 : List UInt8 := dkwX1_checkRange_0 ++ []
theorem dksX1_checkRange_0 : cX1_checkRange.data.toList.drop 0 = dktX1_checkRange_0 := by decide +kernel
theorem dX1_checkRange_0 : decode cX1_checkRange 0 = .ok (.iload_n 0, 1) := dk_26 (dk_at dksX1_checkRange_0 0 rfl rfl)
theorem dX1_checkRange_1 : decode cX1_checkRange 1 = .ok (.iload_n 1, 1) := dk_27 (dk_at dksX1_checkRange_0 1 rfl rfl)
theorem dX1_checkRange_2 : decode cX1_checkRange 2 = .ok (.if_icmp .lt 8, 3) := dk_161 0 8 (dk_at dksX1_checkRange_0 2 rfl rfl)
theorem dX1_checkRange_5 : decode cX1_checkRange 5 = .ok (.iload_n 0, 1) := dk_26 (dk_at dksX1_checkRange_0 5 rfl rfl)
theorem dX1_checkRange_6 : decode cX1_checkRange 6 = .ok (.iload_n 2, 1) := dk_28 (dk_at dksX1_checkRange_0 6 rfl rfl)
theorem dX1_checkRange_7 : decode cX1_checkRange 7 = .ok (.if_icmp .le 11, 3) := dk_164 0 11 (dk_at dksX1_checkRange_0 7 rfl rfl)
theorem dX1_checkRange_10 : decode cX1_checkRange 10 = .ok (.new 63, 3) := dk_187 0 63 (dk_at dksX1_checkRange_0 10 rfl rfl)
theorem dX1_checkRange_13 : decode cX1_checkRange 13 = .ok (.dup, 1) := dk_89 (dk_at dksX1_checkRange_0 13 rfl rfl)
theorem dX1_checkRange_14 : decode cX1_checkRange 14 = .ok (.invokespecial 65, 3) := dk_183 0 65 (dk_at dksX1_checkRange_0 14 rfl rfl)
theorem dX1_checkRange_17 : decode cX1_checkRange 17 = .ok (.athrow, 1) := dk_191 (dk_at dksX1_checkRange_0 17 rfl rfl)
theorem dX1_checkRange_18 : decode cX1_checkRange 18 = .ok (.return_, 1) := dk_177 (dk_at dksX1_checkRange_0 18 rfl rfl)
abbrev cX1_vote : ByteArray := prog_1_method_10_code
def yX1_vote : MethodName := ⟨RX1, "vote", "(IIZ)I"⟩
def dkwX1_vote_3 : List UInt8 := [180, 0, 117, 25, 4, 180, 0, 117, 180, 0, 86, 181, 0, 94, 21, 5, 172]
abbrev dktX1_vote_3 : List UInt8 := dkwX1_vote_3 ++ []
def dkwX1_vote_2 : List UInt8 := [163, 0, 7, 4, 167, 0, 4, 3, 184, 0, 69, 25, 4, 180, 0, 107, 28, 21, 5, 79, 25, 4]
abbrev dktX1_vote_2 : List UInt8 := dkwX1_vote_2 ++ dktX1_vote_3
def dkwX1_vote_1 : List UInt8 := [180, 0, 107, 28, 46, 29, 153, 0, 7, 4, 167, 0, 4, 2, 96, 54, 5, 21, 5, 184, 0, 111, 16, 100]
abbrev dktX1_vote_1 : List UInt8 := dkwX1_vote_1 ++ dktX1_vote_2
def dkwX1_vote_0 : List UInt8 := [42, 27, 182, 0, 100, 58, 4, 28, 4, 100, 25, 4, 180, 0, 104, 4, 100, 184, 0, 49, 25, 4]
abbrev dktX1_vote_0 : List UInt8 := dkwX1_vote_0 ++ dktX1_vote_1
theorem dksX1_vote_0 : cX1_vote.data.toList.drop 0 = dktX1_vote_0 := by decide +kernel
theorem dksX1_vote_1 : cX1_vote.data.toList.drop 22 = dktX1_vote_1 := dk_seg dksX1_vote_0 22 rfl rfl
theorem dksX1_vote_2 : cX1_vote.data.toList.drop 46 = dktX1_vote_2 := dk_seg dksX1_vote_1 24 rfl rfl
theorem dksX1_vote_3 : cX1_vote.data.toList.drop 68 = dktX1_vote_3 := dk_seg dksX1_vote_2 22 rfl rfl
theorem dX1_vote_0 : decode cX1_vote 0 = .ok (.aload_n 0, 1) := dk_42 (dk_at dksX1_vote_0 0 rfl rfl)
theorem dX1_vote_1 : decode cX1_vote 1 = .ok (.iload_n 1, 1) := dk_27 (dk_at dksX1_vote_0 1 rfl rfl)
theorem dX1_vote_2 : decode cX1_vote 2 = .ok (.invokevirtual 100, 3) := dk_182 0 100 (dk_at dksX1_vote_0 2 rfl rfl)
theorem dX1_vote_5 : decode cX1_vote 5 = .ok (.astore 4, 2) := dk_58 4 (dk_at dksX1_vote_0 5 rfl rfl)
theorem dX1_vote_7 : decode cX1_vote 7 = .ok (.iload_n 2, 1) := dk_28 (dk_at dksX1_vote_0 7 rfl rfl)
theorem dX1_vote_8 : decode cX1_vote 8 = .ok (.iconst 1, 1) := dk_4 (dk_at dksX1_vote_0 8 rfl rfl)
theorem dX1_vote_9 : decode cX1_vote 9 = .ok (.isub, 1) := dk_100 (dk_at dksX1_vote_0 9 rfl rfl)
theorem dX1_vote_10 : decode cX1_vote 10 = .ok (.aload 4, 2) := dk_25 4 (dk_at dksX1_vote_0 10 rfl rfl)
theorem dX1_vote_12 : decode cX1_vote 12 = .ok (.getfield 104, 3) := dk_180 0 104 (dk_at dksX1_vote_0 12 rfl rfl)
theorem dX1_vote_15 : decode cX1_vote 15 = .ok (.iconst 1, 1) := dk_4 (dk_at dksX1_vote_0 15 rfl rfl)
theorem dX1_vote_16 : decode cX1_vote 16 = .ok (.isub, 1) := dk_100 (dk_at dksX1_vote_0 16 rfl rfl)
theorem dX1_vote_17 : decode cX1_vote 17 = .ok (.invokestatic 49, 3) := dk_184 0 49 (dk_at dksX1_vote_0 17 rfl rfl)
theorem dX1_vote_20 : decode cX1_vote 20 = .ok (.aload 4, 2) := dk_25 4 (dk_at dksX1_vote_0 20 rfl rfl)
theorem dX1_vote_22 : decode cX1_vote 22 = .ok (.getfield 107, 3) := dk_180 0 107 (dk_at dksX1_vote_1 0 rfl rfl)
theorem dX1_vote_25 : decode cX1_vote 25 = .ok (.iload_n 2, 1) := dk_28 (dk_at dksX1_vote_1 3 rfl rfl)
theorem dX1_vote_26 : decode cX1_vote 26 = .ok (.iaload, 1) := dk_46 (dk_at dksX1_vote_1 4 rfl rfl)
theorem dX1_vote_27 : decode cX1_vote 27 = .ok (.iload_n 3, 1) := dk_29 (dk_at dksX1_vote_1 5 rfl rfl)
theorem dX1_vote_28 : decode cX1_vote 28 = .ok (.ifCond .eq 7, 3) := dk_153 0 7 (dk_at dksX1_vote_1 6 rfl rfl)
theorem dX1_vote_31 : decode cX1_vote 31 = .ok (.iconst 1, 1) := dk_4 (dk_at dksX1_vote_1 9 rfl rfl)
theorem dX1_vote_32 : decode cX1_vote 32 = .ok (.goto 4, 3) := dk_167 0 4 (dk_at dksX1_vote_1 10 rfl rfl)
theorem dX1_vote_35 : decode cX1_vote 35 = .ok (.iconst (-1), 1) := dk_2 (dk_at dksX1_vote_1 13 rfl rfl)
theorem dX1_vote_36 : decode cX1_vote 36 = .ok (.iadd, 1) := dk_96 (dk_at dksX1_vote_1 14 rfl rfl)
theorem dX1_vote_37 : decode cX1_vote 37 = .ok (.istore 5, 2) := dk_54 5 (dk_at dksX1_vote_1 15 rfl rfl)
theorem dX1_vote_39 : decode cX1_vote 39 = .ok (.iload 5, 2) := dk_21 5 (dk_at dksX1_vote_1 17 rfl rfl)
theorem dX1_vote_41 : decode cX1_vote 41 = .ok (.invokestatic 111, 3) := dk_184 0 111 (dk_at dksX1_vote_1 19 rfl rfl)
theorem dX1_vote_44 : decode cX1_vote 44 = .ok (.bipush 100, 2) := dk_16 100 (dk_at dksX1_vote_1 22 rfl rfl)
theorem dX1_vote_46 : decode cX1_vote 46 = .ok (.if_icmp .gt 7, 3) := dk_163 0 7 (dk_at dksX1_vote_2 0 rfl rfl)
theorem dX1_vote_49 : decode cX1_vote 49 = .ok (.iconst 1, 1) := dk_4 (dk_at dksX1_vote_2 3 rfl rfl)
theorem dX1_vote_50 : decode cX1_vote 50 = .ok (.goto 4, 3) := dk_167 0 4 (dk_at dksX1_vote_2 4 rfl rfl)
theorem dX1_vote_53 : decode cX1_vote 53 = .ok (.iconst 0, 1) := dk_3 (dk_at dksX1_vote_2 7 rfl rfl)
theorem dX1_vote_54 : decode cX1_vote 54 = .ok (.invokestatic 69, 3) := dk_184 0 69 (dk_at dksX1_vote_2 8 rfl rfl)
theorem dX1_vote_57 : decode cX1_vote 57 = .ok (.aload 4, 2) := dk_25 4 (dk_at dksX1_vote_2 11 rfl rfl)
theorem dX1_vote_59 : decode cX1_vote 59 = .ok (.getfield 107, 3) := dk_180 0 107 (dk_at dksX1_vote_2 13 rfl rfl)
theorem dX1_vote_62 : decode cX1_vote 62 = .ok (.iload_n 2, 1) := dk_28 (dk_at dksX1_vote_2 16 rfl rfl)
theorem dX1_vote_63 : decode cX1_vote 63 = .ok (.iload 5, 2) := dk_21 5 (dk_at dksX1_vote_2 17 rfl rfl)
theorem dX1_vote_65 : decode cX1_vote 65 = .ok (.iastore, 1) := dk_79 (dk_at dksX1_vote_2 19 rfl rfl)
theorem dX1_vote_66 : decode cX1_vote 66 = .ok (.aload 4, 2) := dk_25 4 (dk_at dksX1_vote_2 20 rfl rfl)
theorem dX1_vote_68 : decode cX1_vote 68 = .ok (.getfield 117, 3) := dk_180 0 117 (dk_at dksX1_vote_3 0 rfl rfl)
theorem dX1_vote_71 : decode cX1_vote 71 = .ok (.aload 4, 2) := dk_25 4 (dk_at dksX1_vote_3 3 rfl rfl)
theorem dX1_vote_73 : decode cX1_vote 73 = .ok (.getfield 117, 3) := dk_180 0 117 (dk_at dksX1_vote_3 5 rfl rfl)
theorem dX1_vote_76 : decode cX1_vote 76 = .ok (.getfield 86, 3) := dk_180 0 86 (dk_at dksX1_vote_3 8 rfl rfl)
theorem dX1_vote_79 : decode cX1_vote 79 = .ok (.putfield 94, 3) := dk_181 0 94 (dk_at dksX1_vote_3 11 rfl rfl)
theorem dX1_vote_82 : decode cX1_vote 82 = .ok (.iload 5, 2) := dk_21 5 (dk_at dksX1_vote_3 14 rfl rfl)
theorem dX1_vote_84 : decode cX1_vote 84 = .ok (.ireturn, 1) := dk_172 (dk_at dksX1_vote_3 16 rfl rfl)
abbrev cX1_word : ByteArray := prog_1_method_4_code
def yX1_word : MethodName := ⟨RX1, "word", "(I)LProofPages$Word;"⟩
def dkwX1_word_1 : List UInt8 := [192, 0, 59, 176]
abbrev dktX1_word_1 : List UInt8 := dkwX1_word_1 ++ []
def dkwX1_word_0 : List UInt8 := [27, 42, 180, 0, 18, 185, 0, 43, 1, 0, 184, 0, 49, 42, 180, 0, 18, 27, 185, 0, 53, 2, 0]
abbrev dktX1_word_0 : List UInt8 := dkwX1_word_0 ++ dktX1_word_1
theorem dksX1_word_0 : cX1_word.data.toList.drop 0 = dktX1_word_0 := by decide +kernel
theorem dksX1_word_1 : cX1_word.data.toList.drop 23 = dktX1_word_1 := dk_seg dksX1_word_0 23 rfl rfl
theorem dX1_word_0 : decode cX1_word 0 = .ok (.iload_n 1, 1) := dk_27 (dk_at dksX1_word_0 0 rfl rfl)
theorem dX1_word_1 : decode cX1_word 1 = .ok (.aload_n 0, 1) := dk_42 (dk_at dksX1_word_0 1 rfl rfl)
theorem dX1_word_2 : decode cX1_word 2 = .ok (.getfield 18, 3) := dk_180 0 18 (dk_at dksX1_word_0 2 rfl rfl)
theorem dX1_word_5 : decode cX1_word 5 = .ok (.invokeinterface 43 1, 5) := by decide +kernel
theorem dX1_word_10 : decode cX1_word 10 = .ok (.invokestatic 49, 3) := dk_184 0 49 (dk_at dksX1_word_0 10 rfl rfl)
theorem dX1_word_13 : decode cX1_word 13 = .ok (.aload_n 0, 1) := dk_42 (dk_at dksX1_word_0 13 rfl rfl)
theorem dX1_word_14 : decode cX1_word 14 = .ok (.getfield 18, 3) := dk_180 0 18 (dk_at dksX1_word_0 14 rfl rfl)
theorem dX1_word_17 : decode cX1_word 17 = .ok (.iload_n 1, 1) := dk_27 (dk_at dksX1_word_0 17 rfl rfl)
theorem dX1_word_18 : decode cX1_word 18 = .ok (.invokeinterface 53 2, 5) := by decide +kernel
theorem dX1_word_23 : decode cX1_word 23 = .ok (.checkcast 59, 3) := dk_192 0 59 (dk_at dksX1_word_1 0 rfl rfl)
theorem dX1_word_26 : decode cX1_word 26 = .ok (.areturn, 1) := dk_176 (dk_at dksX1_word_1 3 rfl rfl)
abbrev cX1_setPage : ByteArray := prog_1_method_11_code
def yX1_setPage : MethodName := ⟨RX1, "setPage", "(II)I"⟩
def dkwX1_setPage_3 : List UInt8 := [185, 0, 53, 2, 0, 192, 0, 57, 180, 0, 86, 181, 0, 94, 132, 4, 1, 167, 255, 205, 29, 172]
abbrev dktX1_setPage_3 : List UInt8 := dkwX1_setPage_3 ++ []
def dkwX1_setPage_2 : List UInt8 := [162, 0, 43, 42, 180, 0, 14, 21, 4, 185, 0, 53, 2, 0, 192, 0, 57, 42, 180, 0, 14, 21, 4]
abbrev dktX1_setPage_2 : List UInt8 := dkwX1_setPage_2 ++ dktX1_setPage_3
def dkwX1_setPage_1 : List UInt8 := [181, 0, 33, 42, 28, 181, 0, 37, 3, 54, 4, 21, 4, 42, 180, 0, 14, 185, 0, 43, 1, 0]
abbrev dktX1_setPage_1 : List UInt8 := dkwX1_setPage_1 ++ dktX1_setPage_2
def dkwX1_setPage_0 : List UInt8 := [27, 16, 10, 16, 60, 184, 0, 82, 28, 6, 16, 20, 184, 0, 82, 42, 180, 0, 33, 62, 42, 27]
abbrev dktX1_setPage_0 : List UInt8 := dkwX1_setPage_0 ++ dktX1_setPage_1
theorem dksX1_setPage_0 : cX1_setPage.data.toList.drop 0 = dktX1_setPage_0 := by decide +kernel
theorem dksX1_setPage_1 : cX1_setPage.data.toList.drop 22 = dktX1_setPage_1 := dk_seg dksX1_setPage_0 22 rfl rfl
theorem dksX1_setPage_2 : cX1_setPage.data.toList.drop 44 = dktX1_setPage_2 := dk_seg dksX1_setPage_1 22 rfl rfl
theorem dksX1_setPage_3 : cX1_setPage.data.toList.drop 67 = dktX1_setPage_3 := dk_seg dksX1_setPage_2 23 rfl rfl
theorem dX1_setPage_0 : decode cX1_setPage 0 = .ok (.iload_n 1, 1) := dk_27 (dk_at dksX1_setPage_0 0 rfl rfl)
theorem dX1_setPage_1 : decode cX1_setPage 1 = .ok (.bipush 10, 2) := dk_16 10 (dk_at dksX1_setPage_0 1 rfl rfl)
theorem dX1_setPage_3 : decode cX1_setPage 3 = .ok (.bipush 60, 2) := dk_16 60 (dk_at dksX1_setPage_0 3 rfl rfl)
theorem dX1_setPage_5 : decode cX1_setPage 5 = .ok (.invokestatic 82, 3) := dk_184 0 82 (dk_at dksX1_setPage_0 5 rfl rfl)
theorem dX1_setPage_8 : decode cX1_setPage 8 = .ok (.iload_n 2, 1) := dk_28 (dk_at dksX1_setPage_0 8 rfl rfl)
theorem dX1_setPage_9 : decode cX1_setPage 9 = .ok (.iconst 3, 1) := dk_6 (dk_at dksX1_setPage_0 9 rfl rfl)
theorem dX1_setPage_10 : decode cX1_setPage 10 = .ok (.bipush 20, 2) := dk_16 20 (dk_at dksX1_setPage_0 10 rfl rfl)
theorem dX1_setPage_12 : decode cX1_setPage 12 = .ok (.invokestatic 82, 3) := dk_184 0 82 (dk_at dksX1_setPage_0 12 rfl rfl)
theorem dX1_setPage_15 : decode cX1_setPage 15 = .ok (.aload_n 0, 1) := dk_42 (dk_at dksX1_setPage_0 15 rfl rfl)
theorem dX1_setPage_16 : decode cX1_setPage 16 = .ok (.getfield 33, 3) := dk_180 0 33 (dk_at dksX1_setPage_0 16 rfl rfl)
theorem dX1_setPage_19 : decode cX1_setPage 19 = .ok (.istore_n 3, 1) := dk_62 (dk_at dksX1_setPage_0 19 rfl rfl)
theorem dX1_setPage_20 : decode cX1_setPage 20 = .ok (.aload_n 0, 1) := dk_42 (dk_at dksX1_setPage_0 20 rfl rfl)
theorem dX1_setPage_21 : decode cX1_setPage 21 = .ok (.iload_n 1, 1) := dk_27 (dk_at dksX1_setPage_0 21 rfl rfl)
theorem dX1_setPage_22 : decode cX1_setPage 22 = .ok (.putfield 33, 3) := dk_181 0 33 (dk_at dksX1_setPage_1 0 rfl rfl)
theorem dX1_setPage_25 : decode cX1_setPage 25 = .ok (.aload_n 0, 1) := dk_42 (dk_at dksX1_setPage_1 3 rfl rfl)
theorem dX1_setPage_26 : decode cX1_setPage 26 = .ok (.iload_n 2, 1) := dk_28 (dk_at dksX1_setPage_1 4 rfl rfl)
theorem dX1_setPage_27 : decode cX1_setPage 27 = .ok (.putfield 37, 3) := dk_181 0 37 (dk_at dksX1_setPage_1 5 rfl rfl)
theorem dX1_setPage_30 : decode cX1_setPage 30 = .ok (.iconst 0, 1) := dk_3 (dk_at dksX1_setPage_1 8 rfl rfl)
theorem dX1_setPage_31 : decode cX1_setPage 31 = .ok (.istore 4, 2) := dk_54 4 (dk_at dksX1_setPage_1 9 rfl rfl)
theorem dX1_setPage_33 : decode cX1_setPage 33 = .ok (.iload 4, 2) := dk_21 4 (dk_at dksX1_setPage_1 11 rfl rfl)
theorem dX1_setPage_35 : decode cX1_setPage 35 = .ok (.aload_n 0, 1) := dk_42 (dk_at dksX1_setPage_1 13 rfl rfl)
theorem dX1_setPage_36 : decode cX1_setPage 36 = .ok (.getfield 14, 3) := dk_180 0 14 (dk_at dksX1_setPage_1 14 rfl rfl)
theorem dX1_setPage_39 : decode cX1_setPage 39 = .ok (.invokeinterface 43 1, 5) := by decide +kernel
theorem dX1_setPage_44 : decode cX1_setPage 44 = .ok (.if_icmp .ge 43, 3) := dk_162 0 43 (dk_at dksX1_setPage_2 0 rfl rfl)
theorem dX1_setPage_47 : decode cX1_setPage 47 = .ok (.aload_n 0, 1) := dk_42 (dk_at dksX1_setPage_2 3 rfl rfl)
theorem dX1_setPage_48 : decode cX1_setPage 48 = .ok (.getfield 14, 3) := dk_180 0 14 (dk_at dksX1_setPage_2 4 rfl rfl)
theorem dX1_setPage_51 : decode cX1_setPage 51 = .ok (.iload 4, 2) := dk_21 4 (dk_at dksX1_setPage_2 7 rfl rfl)
theorem dX1_setPage_53 : decode cX1_setPage 53 = .ok (.invokeinterface 53 2, 5) := by decide +kernel
theorem dX1_setPage_58 : decode cX1_setPage 58 = .ok (.checkcast 57, 3) := dk_192 0 57 (dk_at dksX1_setPage_2 14 rfl rfl)
theorem dX1_setPage_61 : decode cX1_setPage 61 = .ok (.aload_n 0, 1) := dk_42 (dk_at dksX1_setPage_2 17 rfl rfl)
theorem dX1_setPage_62 : decode cX1_setPage 62 = .ok (.getfield 14, 3) := dk_180 0 14 (dk_at dksX1_setPage_2 18 rfl rfl)
theorem dX1_setPage_65 : decode cX1_setPage 65 = .ok (.iload 4, 2) := dk_21 4 (dk_at dksX1_setPage_2 21 rfl rfl)
theorem dX1_setPage_67 : decode cX1_setPage 67 = .ok (.invokeinterface 53 2, 5) := by decide +kernel
theorem dX1_setPage_72 : decode cX1_setPage 72 = .ok (.checkcast 57, 3) := dk_192 0 57 (dk_at dksX1_setPage_3 5 rfl rfl)
theorem dX1_setPage_75 : decode cX1_setPage 75 = .ok (.getfield 86, 3) := dk_180 0 86 (dk_at dksX1_setPage_3 8 rfl rfl)
theorem dX1_setPage_78 : decode cX1_setPage 78 = .ok (.putfield 94, 3) := dk_181 0 94 (dk_at dksX1_setPage_3 11 rfl rfl)
theorem dX1_setPage_81 : decode cX1_setPage 81 = .ok (.iinc 4 1, 3) := dk_132 4 1 (dk_at dksX1_setPage_3 14 rfl rfl)
theorem dX1_setPage_84 : decode cX1_setPage 84 = .ok (.goto (-51), 3) := dk_167 255 205 (dk_at dksX1_setPage_3 17 rfl rfl)
theorem dX1_setPage_87 : decode cX1_setPage 87 = .ok (.iload_n 3, 1) := dk_29 (dk_at dksX1_setPage_3 20 rfl rfl)
theorem dX1_setPage_88 : decode cX1_setPage 88 = .ok (.ireturn, 1) := dk_172 (dk_at dksX1_setPage_3 21 rfl rfl)
abbrev cX1_freeze : ByteArray := prog_1_method_13_code
def yX1_freeze : MethodName := ⟨RX1, "freeze", "(I)I"⟩
def dkwX1_freeze_1 : List UInt8 := [182, 0, 124, 87, 44, 4, 181, 0, 86, 44, 180, 0, 128, 172]
abbrev dktX1_freeze_1 : List UInt8 := dkwX1_freeze_1 ++ []
def dkwX1_freeze_0 : List UInt8 := [42, 27, 182, 0, 78, 77, 44, 180, 0, 86, 154, 0, 7, 4, 167, 0, 4, 3, 184, 0, 69, 42, 44]
abbrev dktX1_freeze_0 : List UInt8 := dkwX1_freeze_0 ++ dktX1_freeze_1
theorem dksX1_freeze_0 : cX1_freeze.data.toList.drop 0 = dktX1_freeze_0 := by decide +kernel
theorem dksX1_freeze_1 : cX1_freeze.data.toList.drop 23 = dktX1_freeze_1 := dk_seg dksX1_freeze_0 23 rfl rfl
theorem dX1_freeze_0 : decode cX1_freeze 0 = .ok (.aload_n 0, 1) := dk_42 (dk_at dksX1_freeze_0 0 rfl rfl)
theorem dX1_freeze_1 : decode cX1_freeze 1 = .ok (.iload_n 1, 1) := dk_27 (dk_at dksX1_freeze_0 1 rfl rfl)
theorem dX1_freeze_2 : decode cX1_freeze 2 = .ok (.invokevirtual 78, 3) := dk_182 0 78 (dk_at dksX1_freeze_0 2 rfl rfl)
theorem dX1_freeze_5 : decode cX1_freeze 5 = .ok (.astore_n 2, 1) := dk_77 (dk_at dksX1_freeze_0 5 rfl rfl)
theorem dX1_freeze_6 : decode cX1_freeze 6 = .ok (.aload_n 2, 1) := dk_44 (dk_at dksX1_freeze_0 6 rfl rfl)
theorem dX1_freeze_7 : decode cX1_freeze 7 = .ok (.getfield 86, 3) := dk_180 0 86 (dk_at dksX1_freeze_0 7 rfl rfl)
theorem dX1_freeze_10 : decode cX1_freeze 10 = .ok (.ifCond .ne 7, 3) := dk_154 0 7 (dk_at dksX1_freeze_0 10 rfl rfl)
theorem dX1_freeze_13 : decode cX1_freeze 13 = .ok (.iconst 1, 1) := dk_4 (dk_at dksX1_freeze_0 13 rfl rfl)
theorem dX1_freeze_14 : decode cX1_freeze 14 = .ok (.goto 4, 3) := dk_167 0 4 (dk_at dksX1_freeze_0 14 rfl rfl)
theorem dX1_freeze_17 : decode cX1_freeze 17 = .ok (.iconst 0, 1) := dk_3 (dk_at dksX1_freeze_0 17 rfl rfl)
theorem dX1_freeze_18 : decode cX1_freeze 18 = .ok (.invokestatic 69, 3) := dk_184 0 69 (dk_at dksX1_freeze_0 18 rfl rfl)
theorem dX1_freeze_21 : decode cX1_freeze 21 = .ok (.aload_n 0, 1) := dk_42 (dk_at dksX1_freeze_0 21 rfl rfl)
theorem dX1_freeze_22 : decode cX1_freeze 22 = .ok (.aload_n 2, 1) := dk_44 (dk_at dksX1_freeze_0 22 rfl rfl)
theorem dX1_freeze_23 : decode cX1_freeze 23 = .ok (.invokevirtual 124, 3) := dk_182 0 124 (dk_at dksX1_freeze_1 0 rfl rfl)
theorem dX1_freeze_26 : decode cX1_freeze 26 = .ok (.pop, 1) := dk_87 (dk_at dksX1_freeze_1 3 rfl rfl)
theorem dX1_freeze_27 : decode cX1_freeze 27 = .ok (.aload_n 2, 1) := dk_44 (dk_at dksX1_freeze_1 4 rfl rfl)
theorem dX1_freeze_28 : decode cX1_freeze 28 = .ok (.iconst 1, 1) := dk_4 (dk_at dksX1_freeze_1 5 rfl rfl)
theorem dX1_freeze_29 : decode cX1_freeze 29 = .ok (.putfield 86, 3) := dk_181 0 86 (dk_at dksX1_freeze_1 6 rfl rfl)
theorem dX1_freeze_32 : decode cX1_freeze 32 = .ok (.aload_n 2, 1) := dk_44 (dk_at dksX1_freeze_1 9 rfl rfl)
theorem dX1_freeze_33 : decode cX1_freeze 33 = .ok (.getfield 128, 3) := dk_180 0 128 (dk_at dksX1_freeze_1 10 rfl rfl)
theorem dX1_freeze_36 : decode cX1_freeze 36 = .ok (.ireturn, 1) := dk_172 (dk_at dksX1_freeze_1 13 rfl rfl)
abbrev cX1_lines : ByteArray := prog_1_method_15_code
def yX1_lines : MethodName := ⟨RX1, "lines", "(I)I"⟩
def dkwX1_lines_0 : List UInt8 := [42, 42, 27, 182, 0, 78, 182, 0, 124, 180, 0, 128, 172]
abbrev dktX1_lines_0 : List UInt8 := dkwX1_lines_0 ++ []
theorem dksX1_lines_0 : cX1_lines.data.toList.drop 0 = dktX1_lines_0 := by decide +kernel
theorem dX1_lines_0 : decode cX1_lines 0 = .ok (.aload_n 0, 1) := dk_42 (dk_at dksX1_lines_0 0 rfl rfl)
theorem dX1_lines_1 : decode cX1_lines 1 = .ok (.aload_n 0, 1) := dk_42 (dk_at dksX1_lines_0 1 rfl rfl)
theorem dX1_lines_2 : decode cX1_lines 2 = .ok (.iload_n 1, 1) := dk_27 (dk_at dksX1_lines_0 2 rfl rfl)
theorem dX1_lines_3 : decode cX1_lines 3 = .ok (.invokevirtual 78, 3) := dk_182 0 78 (dk_at dksX1_lines_0 3 rfl rfl)
theorem dX1_lines_6 : decode cX1_lines 6 = .ok (.invokevirtual 124, 3) := dk_182 0 124 (dk_at dksX1_lines_0 6 rfl rfl)
theorem dX1_lines_9 : decode cX1_lines 9 = .ok (.getfield 128, 3) := dk_180 0 128 (dk_at dksX1_lines_0 9 rfl rfl)
theorem dX1_lines_12 : decode cX1_lines 12 = .ok (.ireturn, 1) := dk_172 (dk_at dksX1_lines_0 12 rfl rfl)
abbrev cX1_lineEnd : ByteArray := prog_1_method_17_code
def yX1_lineEnd : MethodName := ⟨RX1, "lineEnd", "(II)I"⟩
def dkwX1_lineEnd_2 : List UInt8 := [185, 0, 53, 2, 0, 192, 0, 59, 58, 6, 16, 100, 25, 6, 180, 0, 97, 104, 21, 5, 96, 172]
abbrev dktX1_lineEnd_2 : List UInt8 := dkwX1_lineEnd_2 ++ []
def dkwX1_lineEnd_1 : List UInt8 := [45, 180, 0, 93, 21, 5, 158, 0, 11, 21, 4, 16, 16, 108, 167, 0, 10, 21, 4, 16, 16, 108, 4, 100]
abbrev dktX1_lineEnd_1 : List UInt8 := dkwX1_lineEnd_1 ++ dktX1_lineEnd_2
def dkwX1_lineEnd_0 : List UInt8 := [42, 27, 28, 182, 0, 131, 78, 45, 180, 0, 135, 28, 4, 96, 46, 54, 4, 21, 4, 16, 16, 112, 54, 5]
abbrev dktX1_lineEnd_0 : List UInt8 := dkwX1_lineEnd_0 ++ dktX1_lineEnd_1
theorem dksX1_lineEnd_0 : cX1_lineEnd.data.toList.drop 0 = dktX1_lineEnd_0 := by decide +kernel
theorem dksX1_lineEnd_1 : cX1_lineEnd.data.toList.drop 24 = dktX1_lineEnd_1 := dk_seg dksX1_lineEnd_0 24 rfl rfl
theorem dksX1_lineEnd_2 : cX1_lineEnd.data.toList.drop 48 = dktX1_lineEnd_2 := dk_seg dksX1_lineEnd_1 24 rfl rfl
theorem dX1_lineEnd_0 : decode cX1_lineEnd 0 = .ok (.aload_n 0, 1) := dk_42 (dk_at dksX1_lineEnd_0 0 rfl rfl)
theorem dX1_lineEnd_1 : decode cX1_lineEnd 1 = .ok (.iload_n 1, 1) := dk_27 (dk_at dksX1_lineEnd_0 1 rfl rfl)
theorem dX1_lineEnd_2 : decode cX1_lineEnd 2 = .ok (.iload_n 2, 1) := dk_28 (dk_at dksX1_lineEnd_0 2 rfl rfl)
theorem dX1_lineEnd_3 : decode cX1_lineEnd 3 = .ok (.invokevirtual 131, 3) := dk_182 0 131 (dk_at dksX1_lineEnd_0 3 rfl rfl)
theorem dX1_lineEnd_6 : decode cX1_lineEnd 6 = .ok (.astore_n 3, 1) := dk_78 (dk_at dksX1_lineEnd_0 6 rfl rfl)
theorem dX1_lineEnd_7 : decode cX1_lineEnd 7 = .ok (.aload_n 3, 1) := dk_45 (dk_at dksX1_lineEnd_0 7 rfl rfl)
theorem dX1_lineEnd_8 : decode cX1_lineEnd 8 = .ok (.getfield 135, 3) := dk_180 0 135 (dk_at dksX1_lineEnd_0 8 rfl rfl)
theorem dX1_lineEnd_11 : decode cX1_lineEnd 11 = .ok (.iload_n 2, 1) := dk_28 (dk_at dksX1_lineEnd_0 11 rfl rfl)
theorem dX1_lineEnd_12 : decode cX1_lineEnd 12 = .ok (.iconst 1, 1) := dk_4 (dk_at dksX1_lineEnd_0 12 rfl rfl)
theorem dX1_lineEnd_13 : decode cX1_lineEnd 13 = .ok (.iadd, 1) := dk_96 (dk_at dksX1_lineEnd_0 13 rfl rfl)
theorem dX1_lineEnd_14 : decode cX1_lineEnd 14 = .ok (.iaload, 1) := dk_46 (dk_at dksX1_lineEnd_0 14 rfl rfl)
theorem dX1_lineEnd_15 : decode cX1_lineEnd 15 = .ok (.istore 4, 2) := dk_54 4 (dk_at dksX1_lineEnd_0 15 rfl rfl)
theorem dX1_lineEnd_17 : decode cX1_lineEnd 17 = .ok (.iload 4, 2) := dk_21 4 (dk_at dksX1_lineEnd_0 17 rfl rfl)
theorem dX1_lineEnd_19 : decode cX1_lineEnd 19 = .ok (.bipush 16, 2) := dk_16 16 (dk_at dksX1_lineEnd_0 19 rfl rfl)
theorem dX1_lineEnd_21 : decode cX1_lineEnd 21 = .ok (.irem, 1) := dk_112 (dk_at dksX1_lineEnd_0 21 rfl rfl)
theorem dX1_lineEnd_22 : decode cX1_lineEnd 22 = .ok (.istore 5, 2) := dk_54 5 (dk_at dksX1_lineEnd_0 22 rfl rfl)
theorem dX1_lineEnd_24 : decode cX1_lineEnd 24 = .ok (.aload_n 3, 1) := dk_45 (dk_at dksX1_lineEnd_1 0 rfl rfl)
theorem dX1_lineEnd_25 : decode cX1_lineEnd 25 = .ok (.getfield 93, 3) := dk_180 0 93 (dk_at dksX1_lineEnd_1 1 rfl rfl)
theorem dX1_lineEnd_28 : decode cX1_lineEnd 28 = .ok (.iload 5, 2) := dk_21 5 (dk_at dksX1_lineEnd_1 4 rfl rfl)
theorem dX1_lineEnd_30 : decode cX1_lineEnd 30 = .ok (.ifCond .le 11, 3) := dk_158 0 11 (dk_at dksX1_lineEnd_1 6 rfl rfl)
theorem dX1_lineEnd_33 : decode cX1_lineEnd 33 = .ok (.iload 4, 2) := dk_21 4 (dk_at dksX1_lineEnd_1 9 rfl rfl)
theorem dX1_lineEnd_35 : decode cX1_lineEnd 35 = .ok (.bipush 16, 2) := dk_16 16 (dk_at dksX1_lineEnd_1 11 rfl rfl)
theorem dX1_lineEnd_37 : decode cX1_lineEnd 37 = .ok (.idiv, 1) := dk_108 (dk_at dksX1_lineEnd_1 13 rfl rfl)
theorem dX1_lineEnd_38 : decode cX1_lineEnd 38 = .ok (.goto 10, 3) := dk_167 0 10 (dk_at dksX1_lineEnd_1 14 rfl rfl)
theorem dX1_lineEnd_41 : decode cX1_lineEnd 41 = .ok (.iload 4, 2) := dk_21 4 (dk_at dksX1_lineEnd_1 17 rfl rfl)
theorem dX1_lineEnd_43 : decode cX1_lineEnd 43 = .ok (.bipush 16, 2) := dk_16 16 (dk_at dksX1_lineEnd_1 19 rfl rfl)
theorem dX1_lineEnd_45 : decode cX1_lineEnd 45 = .ok (.idiv, 1) := dk_108 (dk_at dksX1_lineEnd_1 21 rfl rfl)
theorem dX1_lineEnd_46 : decode cX1_lineEnd 46 = .ok (.iconst 1, 1) := dk_4 (dk_at dksX1_lineEnd_1 22 rfl rfl)
theorem dX1_lineEnd_47 : decode cX1_lineEnd 47 = .ok (.isub, 1) := dk_100 (dk_at dksX1_lineEnd_1 23 rfl rfl)
theorem dX1_lineEnd_48 : decode cX1_lineEnd 48 = .ok (.invokeinterface 53 2, 5) := by decide +kernel
theorem dX1_lineEnd_53 : decode cX1_lineEnd 53 = .ok (.checkcast 59, 3) := dk_192 0 59 (dk_at dksX1_lineEnd_2 5 rfl rfl)
theorem dX1_lineEnd_56 : decode cX1_lineEnd 56 = .ok (.astore 6, 2) := dk_58 6 (dk_at dksX1_lineEnd_2 8 rfl rfl)
theorem dX1_lineEnd_58 : decode cX1_lineEnd 58 = .ok (.bipush 100, 2) := dk_16 100 (dk_at dksX1_lineEnd_2 10 rfl rfl)
theorem dX1_lineEnd_60 : decode cX1_lineEnd 60 = .ok (.aload 6, 2) := dk_25 6 (dk_at dksX1_lineEnd_2 12 rfl rfl)
theorem dX1_lineEnd_62 : decode cX1_lineEnd 62 = .ok (.getfield 97, 3) := dk_180 0 97 (dk_at dksX1_lineEnd_2 14 rfl rfl)
theorem dX1_lineEnd_65 : decode cX1_lineEnd 65 = .ok (.imul, 1) := dk_104 (dk_at dksX1_lineEnd_2 17 rfl rfl)
theorem dX1_lineEnd_66 : decode cX1_lineEnd 66 = .ok (.iload 5, 2) := dk_21 5 (dk_at dksX1_lineEnd_2 18 rfl rfl)
theorem dX1_lineEnd_68 : decode cX1_lineEnd 68 = .ok (.iadd, 1) := dk_96 (dk_at dksX1_lineEnd_2 20 rfl rfl)
theorem dX1_lineEnd_69 : decode cX1_lineEnd 69 = .ok (.ireturn, 1) := dk_172 (dk_at dksX1_lineEnd_2 21 rfl rfl)
abbrev cX1_withLine : ByteArray := prog_1_method_16_code
def yX1_withLine : MethodName := ⟨RX1, "withLine", "(II)LProofPages$Paragraph;"⟩
def dkwX1_withLine_0 : List UInt8 := [42, 42, 27, 182, 0, 78, 182, 0, 124, 78, 28, 45, 180, 0, 128, 184, 0, 49, 45, 176]
abbrev dktX1_withLine_0 : List UInt8 := dkwX1_withLine_0 ++ []
theorem dksX1_withLine_0 : cX1_withLine.data.toList.drop 0 = dktX1_withLine_0 := by decide +kernel
theorem dX1_withLine_0 : decode cX1_withLine 0 = .ok (.aload_n 0, 1) := dk_42 (dk_at dksX1_withLine_0 0 rfl rfl)
theorem dX1_withLine_1 : decode cX1_withLine 1 = .ok (.aload_n 0, 1) := dk_42 (dk_at dksX1_withLine_0 1 rfl rfl)
theorem dX1_withLine_2 : decode cX1_withLine 2 = .ok (.iload_n 1, 1) := dk_27 (dk_at dksX1_withLine_0 2 rfl rfl)
theorem dX1_withLine_3 : decode cX1_withLine 3 = .ok (.invokevirtual 78, 3) := dk_182 0 78 (dk_at dksX1_withLine_0 3 rfl rfl)
theorem dX1_withLine_6 : decode cX1_withLine 6 = .ok (.invokevirtual 124, 3) := dk_182 0 124 (dk_at dksX1_withLine_0 6 rfl rfl)
theorem dX1_withLine_9 : decode cX1_withLine 9 = .ok (.astore_n 3, 1) := dk_78 (dk_at dksX1_withLine_0 9 rfl rfl)
theorem dX1_withLine_10 : decode cX1_withLine 10 = .ok (.iload_n 2, 1) := dk_28 (dk_at dksX1_withLine_0 10 rfl rfl)
theorem dX1_withLine_11 : decode cX1_withLine 11 = .ok (.aload_n 3, 1) := dk_45 (dk_at dksX1_withLine_0 11 rfl rfl)
theorem dX1_withLine_12 : decode cX1_withLine 12 = .ok (.getfield 128, 3) := dk_180 0 128 (dk_at dksX1_withLine_0 12 rfl rfl)
theorem dX1_withLine_15 : decode cX1_withLine 15 = .ok (.invokestatic 49, 3) := dk_184 0 49 (dk_at dksX1_withLine_0 15 rfl rfl)
theorem dX1_withLine_18 : decode cX1_withLine 18 = .ok (.aload_n 3, 1) := dk_45 (dk_at dksX1_withLine_0 18 rfl rfl)
theorem dX1_withLine_19 : decode cX1_withLine 19 = .ok (.areturn, 1) := dk_176 (dk_at dksX1_withLine_0 19 rfl rfl)
abbrev cX1_length : ByteArray := prog_1_method_18_code
def yX1_length : MethodName := ⟨RX1, "length", "(II)I"⟩
def dkwX1_length_1 : List UInt8 := [46, 45, 180, 0, 135, 28, 4, 96, 46, 182, 0, 141, 172]
abbrev dktX1_length_1 : List UInt8 := dkwX1_length_1 ++ []
def dkwX1_length_0 : List UInt8 := [42, 27, 28, 182, 0, 131, 78, 42, 180, 0, 29, 45, 182, 0, 138, 42, 180, 0, 29, 45, 180, 0, 135, 28]
abbrev dktX1_length_0 : List UInt8 := dkwX1_length_0 ++ dktX1_length_1
theorem dksX1_length_0 : cX1_length.data.toList.drop 0 = dktX1_length_0 := by decide +kernel
theorem dksX1_length_1 : cX1_length.data.toList.drop 24 = dktX1_length_1 := dk_seg dksX1_length_0 24 rfl rfl
theorem dX1_length_0 : decode cX1_length 0 = .ok (.aload_n 0, 1) := dk_42 (dk_at dksX1_length_0 0 rfl rfl)
theorem dX1_length_1 : decode cX1_length 1 = .ok (.iload_n 1, 1) := dk_27 (dk_at dksX1_length_0 1 rfl rfl)
theorem dX1_length_2 : decode cX1_length 2 = .ok (.iload_n 2, 1) := dk_28 (dk_at dksX1_length_0 2 rfl rfl)
theorem dX1_length_3 : decode cX1_length 3 = .ok (.invokevirtual 131, 3) := dk_182 0 131 (dk_at dksX1_length_0 3 rfl rfl)
theorem dX1_length_6 : decode cX1_length 6 = .ok (.astore_n 3, 1) := dk_78 (dk_at dksX1_length_0 6 rfl rfl)
theorem dX1_length_7 : decode cX1_length 7 = .ok (.aload_n 0, 1) := dk_42 (dk_at dksX1_length_0 7 rfl rfl)
theorem dX1_length_8 : decode cX1_length 8 = .ok (.getfield 29, 3) := dk_180 0 29 (dk_at dksX1_length_0 8 rfl rfl)
theorem dX1_length_11 : decode cX1_length 11 = .ok (.aload_n 3, 1) := dk_45 (dk_at dksX1_length_0 11 rfl rfl)
theorem dX1_length_12 : decode cX1_length 12 = .ok (.invokevirtual 138, 3) := dk_182 0 138 (dk_at dksX1_length_0 12 rfl rfl)
theorem dX1_length_15 : decode cX1_length 15 = .ok (.aload_n 0, 1) := dk_42 (dk_at dksX1_length_0 15 rfl rfl)
theorem dX1_length_16 : decode cX1_length 16 = .ok (.getfield 29, 3) := dk_180 0 29 (dk_at dksX1_length_0 16 rfl rfl)
theorem dX1_length_19 : decode cX1_length 19 = .ok (.aload_n 3, 1) := dk_45 (dk_at dksX1_length_0 19 rfl rfl)
theorem dX1_length_20 : decode cX1_length 20 = .ok (.getfield 135, 3) := dk_180 0 135 (dk_at dksX1_length_0 20 rfl rfl)
theorem dX1_length_23 : decode cX1_length 23 = .ok (.iload_n 2, 1) := dk_28 (dk_at dksX1_length_0 23 rfl rfl)
theorem dX1_length_24 : decode cX1_length 24 = .ok (.iaload, 1) := dk_46 (dk_at dksX1_length_1 0 rfl rfl)
theorem dX1_length_25 : decode cX1_length 25 = .ok (.aload_n 3, 1) := dk_45 (dk_at dksX1_length_1 1 rfl rfl)
theorem dX1_length_26 : decode cX1_length 26 = .ok (.getfield 135, 3) := dk_180 0 135 (dk_at dksX1_length_1 2 rfl rfl)
theorem dX1_length_29 : decode cX1_length 29 = .ok (.iload_n 2, 1) := dk_28 (dk_at dksX1_length_1 5 rfl rfl)
theorem dX1_length_30 : decode cX1_length 30 = .ok (.iconst 1, 1) := dk_4 (dk_at dksX1_length_1 6 rfl rfl)
theorem dX1_length_31 : decode cX1_length 31 = .ok (.iadd, 1) := dk_96 (dk_at dksX1_length_1 7 rfl rfl)
theorem dX1_length_32 : decode cX1_length 32 = .ok (.iaload, 1) := dk_46 (dk_at dksX1_length_1 8 rfl rfl)
theorem dX1_length_33 : decode cX1_length 33 = .ok (.invokevirtual 141, 3) := dk_182 0 141 (dk_at dksX1_length_1 9 rfl rfl)
theorem dX1_length_36 : decode cX1_length 36 = .ok (.ireturn, 1) := dk_172 (dk_at dksX1_length_1 12 rfl rfl)
abbrev cX1_badness : ByteArray := prog_1_method_19_code
def yX1_badness : MethodName := ⟨RX1, "badness", "(I)I"⟩
def dkwX1_badness_0 : List UInt8 := [42, 180, 0, 29, 42, 27, 182, 0, 78, 182, 0, 138, 42, 180, 0, 29, 182, 0, 145, 172]
abbrev dktX1_badness_0 : List UInt8 := dkwX1_badness_0 ++ []
theorem dksX1_badness_0 : cX1_badness.data.toList.drop 0 = dktX1_badness_0 := by decide +kernel
theorem dX1_badness_0 : decode cX1_badness 0 = .ok (.aload_n 0, 1) := dk_42 (dk_at dksX1_badness_0 0 rfl rfl)
theorem dX1_badness_1 : decode cX1_badness 1 = .ok (.getfield 29, 3) := dk_180 0 29 (dk_at dksX1_badness_0 1 rfl rfl)
theorem dX1_badness_4 : decode cX1_badness 4 = .ok (.aload_n 0, 1) := dk_42 (dk_at dksX1_badness_0 4 rfl rfl)
theorem dX1_badness_5 : decode cX1_badness 5 = .ok (.iload_n 1, 1) := dk_27 (dk_at dksX1_badness_0 5 rfl rfl)
theorem dX1_badness_6 : decode cX1_badness 6 = .ok (.invokevirtual 78, 3) := dk_182 0 78 (dk_at dksX1_badness_0 6 rfl rfl)
theorem dX1_badness_9 : decode cX1_badness 9 = .ok (.invokevirtual 138, 3) := dk_182 0 138 (dk_at dksX1_badness_0 9 rfl rfl)
theorem dX1_badness_12 : decode cX1_badness 12 = .ok (.aload_n 0, 1) := dk_42 (dk_at dksX1_badness_0 12 rfl rfl)
theorem dX1_badness_13 : decode cX1_badness 13 = .ok (.getfield 29, 3) := dk_180 0 29 (dk_at dksX1_badness_0 13 rfl rfl)
theorem dX1_badness_16 : decode cX1_badness 16 = .ok (.invokevirtual 145, 3) := dk_182 0 145 (dk_at dksX1_badness_0 16 rfl rfl)
theorem dX1_badness_19 : decode cX1_badness 19 = .ok (.ireturn, 1) := dk_172 (dk_at dksX1_badness_0 19 rfl rfl)
abbrev cX1_badnessForwards : ByteArray := prog_1_method_20_code
def yX1_badnessForwards : MethodName := ⟨RX1, "badnessForwards", "(I)I"⟩
def dkwX1_badnessForwards_0 : List UInt8 := [42, 180, 0, 29, 42, 27, 182, 0, 78, 182, 0, 138, 42, 180, 0, 29, 182, 0, 148, 172]
abbrev dktX1_badnessForwards_0 : List UInt8 := dkwX1_badnessForwards_0 ++ []
theorem dksX1_badnessForwards_0 : cX1_badnessForwards.data.toList.drop 0 = dktX1_badnessForwards_0 := by decide +kernel
theorem dX1_badnessForwards_0 : decode cX1_badnessForwards 0 = .ok (.aload_n 0, 1) := dk_42 (dk_at dksX1_badnessForwards_0 0 rfl rfl)
theorem dX1_badnessForwards_1 : decode cX1_badnessForwards 1 = .ok (.getfield 29, 3) := dk_180 0 29 (dk_at dksX1_badnessForwards_0 1 rfl rfl)
theorem dX1_badnessForwards_4 : decode cX1_badnessForwards 4 = .ok (.aload_n 0, 1) := dk_42 (dk_at dksX1_badnessForwards_0 4 rfl rfl)
theorem dX1_badnessForwards_5 : decode cX1_badnessForwards 5 = .ok (.iload_n 1, 1) := dk_27 (dk_at dksX1_badnessForwards_0 5 rfl rfl)
theorem dX1_badnessForwards_6 : decode cX1_badnessForwards 6 = .ok (.invokevirtual 78, 3) := dk_182 0 78 (dk_at dksX1_badnessForwards_0 6 rfl rfl)
theorem dX1_badnessForwards_9 : decode cX1_badnessForwards 9 = .ok (.invokevirtual 138, 3) := dk_182 0 138 (dk_at dksX1_badnessForwards_0 9 rfl rfl)
theorem dX1_badnessForwards_12 : decode cX1_badnessForwards 12 = .ok (.aload_n 0, 1) := dk_42 (dk_at dksX1_badnessForwards_0 12 rfl rfl)
theorem dX1_badnessForwards_13 : decode cX1_badnessForwards 13 = .ok (.getfield 29, 3) := dk_180 0 29 (dk_at dksX1_badnessForwards_0 13 rfl rfl)
theorem dX1_badnessForwards_16 : decode cX1_badnessForwards 16 = .ok (.invokevirtual 148, 3) := dk_182 0 148 (dk_at dksX1_badnessForwards_0 16 rfl rfl)
theorem dX1_badnessForwards_19 : decode cX1_badnessForwards 19 = .ok (.ireturn, 1) := dk_172 (dk_at dksX1_badnessForwards_0 19 rfl rfl)
abbrev cX1_linesOn : ByteArray := prog_1_method_25_code
def yX1_linesOn : MethodName := ⟨RX1, "linesOn", "(I)I"⟩
def dkwX1_linesOn_2 : List UInt8 := [54, 4, 167, 255, 223, 3, 172]
abbrev dktX1_linesOn_2 : List UInt8 := dkwX1_linesOn_2 ++ []
def dkwX1_linesOn_1 : List UInt8 := [154, 0, 14, 42, 21, 4, 28, 182, 0, 161, 21, 4, 100, 172, 132, 3, 255, 42, 21, 4, 28, 182, 0, 161]
abbrev dktX1_linesOn_1 : List UInt8 := dkwX1_linesOn_1 ++ dktX1_linesOn_2
def dkwX1_linesOn_0 : List UInt8 := [27, 3, 18, 166, 184, 0, 82, 42, 182, 0, 158, 61, 27, 62, 3, 54, 4, 21, 4, 28, 162, 0, 33, 29]
abbrev dktX1_linesOn_0 : List UInt8 := dkwX1_linesOn_0 ++ dktX1_linesOn_1
theorem dksX1_linesOn_0 : cX1_linesOn.data.toList.drop 0 = dktX1_linesOn_0 := by decide +kernel
theorem dksX1_linesOn_1 : cX1_linesOn.data.toList.drop 24 = dktX1_linesOn_1 := dk_seg dksX1_linesOn_0 24 rfl rfl
theorem dksX1_linesOn_2 : cX1_linesOn.data.toList.drop 48 = dktX1_linesOn_2 := dk_seg dksX1_linesOn_1 24 rfl rfl
theorem dX1_linesOn_0 : decode cX1_linesOn 0 = .ok (.iload_n 1, 1) := dk_27 (dk_at dksX1_linesOn_0 0 rfl rfl)
theorem dX1_linesOn_1 : decode cX1_linesOn 1 = .ok (.iconst 0, 1) := dk_3 (dk_at dksX1_linesOn_0 1 rfl rfl)
theorem dX1_linesOn_2 : decode cX1_linesOn 2 = .ok (.ldc 166, 2) := dk_18 166 (dk_at dksX1_linesOn_0 2 rfl rfl)
theorem dX1_linesOn_4 : decode cX1_linesOn 4 = .ok (.invokestatic 82, 3) := dk_184 0 82 (dk_at dksX1_linesOn_0 4 rfl rfl)
theorem dX1_linesOn_7 : decode cX1_linesOn 7 = .ok (.aload_n 0, 1) := dk_42 (dk_at dksX1_linesOn_0 7 rfl rfl)
theorem dX1_linesOn_8 : decode cX1_linesOn 8 = .ok (.invokevirtual 158, 3) := dk_182 0 158 (dk_at dksX1_linesOn_0 8 rfl rfl)
theorem dX1_linesOn_11 : decode cX1_linesOn 11 = .ok (.istore_n 2, 1) := dk_61 (dk_at dksX1_linesOn_0 11 rfl rfl)
theorem dX1_linesOn_12 : decode cX1_linesOn 12 = .ok (.iload_n 1, 1) := dk_27 (dk_at dksX1_linesOn_0 12 rfl rfl)
theorem dX1_linesOn_13 : decode cX1_linesOn 13 = .ok (.istore_n 3, 1) := dk_62 (dk_at dksX1_linesOn_0 13 rfl rfl)
theorem dX1_linesOn_14 : decode cX1_linesOn 14 = .ok (.iconst 0, 1) := dk_3 (dk_at dksX1_linesOn_0 14 rfl rfl)
theorem dX1_linesOn_15 : decode cX1_linesOn 15 = .ok (.istore 4, 2) := dk_54 4 (dk_at dksX1_linesOn_0 15 rfl rfl)
theorem dX1_linesOn_17 : decode cX1_linesOn 17 = .ok (.iload 4, 2) := dk_21 4 (dk_at dksX1_linesOn_0 17 rfl rfl)
theorem dX1_linesOn_19 : decode cX1_linesOn 19 = .ok (.iload_n 2, 1) := dk_28 (dk_at dksX1_linesOn_0 19 rfl rfl)
theorem dX1_linesOn_20 : decode cX1_linesOn 20 = .ok (.if_icmp .ge 33, 3) := dk_162 0 33 (dk_at dksX1_linesOn_0 20 rfl rfl)
theorem dX1_linesOn_23 : decode cX1_linesOn 23 = .ok (.iload_n 3, 1) := dk_29 (dk_at dksX1_linesOn_0 23 rfl rfl)
theorem dX1_linesOn_24 : decode cX1_linesOn 24 = .ok (.ifCond .ne 14, 3) := dk_154 0 14 (dk_at dksX1_linesOn_1 0 rfl rfl)
theorem dX1_linesOn_27 : decode cX1_linesOn 27 = .ok (.aload_n 0, 1) := dk_42 (dk_at dksX1_linesOn_1 3 rfl rfl)
theorem dX1_linesOn_28 : decode cX1_linesOn 28 = .ok (.iload 4, 2) := dk_21 4 (dk_at dksX1_linesOn_1 4 rfl rfl)
theorem dX1_linesOn_30 : decode cX1_linesOn 30 = .ok (.iload_n 2, 1) := dk_28 (dk_at dksX1_linesOn_1 6 rfl rfl)
theorem dX1_linesOn_31 : decode cX1_linesOn 31 = .ok (.invokevirtual 161, 3) := dk_182 0 161 (dk_at dksX1_linesOn_1 7 rfl rfl)
theorem dX1_linesOn_34 : decode cX1_linesOn 34 = .ok (.iload 4, 2) := dk_21 4 (dk_at dksX1_linesOn_1 10 rfl rfl)
theorem dX1_linesOn_36 : decode cX1_linesOn 36 = .ok (.isub, 1) := dk_100 (dk_at dksX1_linesOn_1 12 rfl rfl)
theorem dX1_linesOn_37 : decode cX1_linesOn 37 = .ok (.ireturn, 1) := dk_172 (dk_at dksX1_linesOn_1 13 rfl rfl)
theorem dX1_linesOn_38 : decode cX1_linesOn 38 = .ok (.iinc 3 (-1), 3) := dk_132 3 255 (dk_at dksX1_linesOn_1 14 rfl rfl)
theorem dX1_linesOn_41 : decode cX1_linesOn 41 = .ok (.aload_n 0, 1) := dk_42 (dk_at dksX1_linesOn_1 17 rfl rfl)
theorem dX1_linesOn_42 : decode cX1_linesOn 42 = .ok (.iload 4, 2) := dk_21 4 (dk_at dksX1_linesOn_1 18 rfl rfl)
theorem dX1_linesOn_44 : decode cX1_linesOn 44 = .ok (.iload_n 2, 1) := dk_28 (dk_at dksX1_linesOn_1 20 rfl rfl)
theorem dX1_linesOn_45 : decode cX1_linesOn 45 = .ok (.invokevirtual 161, 3) := dk_182 0 161 (dk_at dksX1_linesOn_1 21 rfl rfl)
theorem dX1_linesOn_48 : decode cX1_linesOn 48 = .ok (.istore 4, 2) := dk_54 4 (dk_at dksX1_linesOn_2 0 rfl rfl)
theorem dX1_linesOn_50 : decode cX1_linesOn 50 = .ok (.goto (-33), 3) := dk_167 255 223 (dk_at dksX1_linesOn_2 2 rfl rfl)
theorem dX1_linesOn_53 : decode cX1_linesOn 53 = .ok (.iconst 0, 1) := dk_3 (dk_at dksX1_linesOn_2 5 rfl rfl)
theorem dX1_linesOn_54 : decode cX1_linesOn 54 = .ok (.ireturn, 1) := dk_172 (dk_at dksX1_linesOn_2 6 rfl rfl)
abbrev cX1_where : ByteArray := prog_1_method_27_code
def yX1_where : MethodName := ⟨RX1, "where", "(I)I"⟩
def dkwX1_where_0 : List UInt8 := [42, 42, 27, 182, 0, 100, 182, 0, 173, 172]
abbrev dktX1_where_0 : List UInt8 := dkwX1_where_0 ++ []
theorem dksX1_where_0 : cX1_where.data.toList.drop 0 = dktX1_where_0 := by decide +kernel
theorem dX1_where_0 : decode cX1_where 0 = .ok (.aload_n 0, 1) := dk_42 (dk_at dksX1_where_0 0 rfl rfl)
theorem dX1_where_1 : decode cX1_where 1 = .ok (.aload_n 0, 1) := dk_42 (dk_at dksX1_where_0 1 rfl rfl)
theorem dX1_where_2 : decode cX1_where 2 = .ok (.iload_n 1, 1) := dk_27 (dk_at dksX1_where_0 2 rfl rfl)
theorem dX1_where_3 : decode cX1_where 3 = .ok (.invokevirtual 100, 3) := dk_182 0 100 (dk_at dksX1_where_0 3 rfl rfl)
theorem dX1_where_6 : decode cX1_where 6 = .ok (.invokevirtual 173, 3) := dk_182 0 173 (dk_at dksX1_where_0 6 rfl rfl)
theorem dX1_where_9 : decode cX1_where 9 = .ok (.ireturn, 1) := dk_172 (dk_at dksX1_where_0 9 rfl rfl)
abbrev cX1_whereIs : ByteArray := prog_1_method_26_code
def yX1_whereIs : MethodName := ⟨RX1, "whereIs", "(LProofPages$Word;)I"⟩
def dkwX1_whereIs_5 : List UInt8 := [21, 5, 100, 172]
abbrev dktX1_whereIs_5 : List UInt8 := dkwX1_whereIs_5 ++ []
def dkwX1_whereIs_4 : List UInt8 := [21, 6, 54, 5, 42, 21, 5, 28, 182, 0, 161, 54, 6, 167, 255, 234, 16, 100, 21, 4, 104, 29, 96]
abbrev dktX1_whereIs_4 : List UInt8 := dkwX1_whereIs_4 ++ dktX1_whereIs_5
def dkwX1_whereIs_3 : List UInt8 := [3, 54, 4, 3, 54, 5, 42, 21, 5, 28, 182, 0, 161, 54, 6, 21, 6, 29, 163, 0, 22, 132, 4, 1]
abbrev dktX1_whereIs_3 : List UInt8 := dkwX1_whereIs_3 ++ dktX1_whereIs_4
def dkwX1_whereIs_2 : List UInt8 := [180, 0, 14, 21, 4, 185, 0, 53, 2, 0, 192, 0, 57, 180, 0, 128, 96, 62, 132, 4, 1, 167, 255, 215]
abbrev dktX1_whereIs_2 : List UInt8 := dkwX1_whereIs_2 ++ dktX1_whereIs_3
def dkwX1_whereIs_1 : List UInt8 := [3, 54, 4, 42, 180, 0, 14, 21, 4, 185, 0, 53, 2, 0, 43, 180, 0, 117, 165, 0, 29, 29, 42]
abbrev dktX1_whereIs_1 : List UInt8 := dkwX1_whereIs_1 ++ dktX1_whereIs_2
def dkwX1_whereIs_0 : List UInt8 := [42, 182, 0, 158, 61, 42, 43, 180, 0, 117, 182, 0, 124, 16, 16, 43, 180, 0, 167, 104, 182, 0, 170, 62]
abbrev dktX1_whereIs_0 : List UInt8 := dkwX1_whereIs_0 ++ dktX1_whereIs_1
theorem dksX1_whereIs_0 : cX1_whereIs.data.toList.drop 0 = dktX1_whereIs_0 := by decide +kernel
theorem dksX1_whereIs_1 : cX1_whereIs.data.toList.drop 24 = dktX1_whereIs_1 := dk_seg dksX1_whereIs_0 24 rfl rfl
theorem dksX1_whereIs_2 : cX1_whereIs.data.toList.drop 47 = dktX1_whereIs_2 := dk_seg dksX1_whereIs_1 23 rfl rfl
theorem dksX1_whereIs_3 : cX1_whereIs.data.toList.drop 71 = dktX1_whereIs_3 := dk_seg dksX1_whereIs_2 24 rfl rfl
theorem dksX1_whereIs_4 : cX1_whereIs.data.toList.drop 95 = dktX1_whereIs_4 := dk_seg dksX1_whereIs_3 24 rfl rfl
theorem dksX1_whereIs_5 : cX1_whereIs.data.toList.drop 118 = dktX1_whereIs_5 := dk_seg dksX1_whereIs_4 23 rfl rfl
theorem dX1_whereIs_0 : decode cX1_whereIs 0 = .ok (.aload_n 0, 1) := dk_42 (dk_at dksX1_whereIs_0 0 rfl rfl)
theorem dX1_whereIs_1 : decode cX1_whereIs 1 = .ok (.invokevirtual 158, 3) := dk_182 0 158 (dk_at dksX1_whereIs_0 1 rfl rfl)
theorem dX1_whereIs_4 : decode cX1_whereIs 4 = .ok (.istore_n 2, 1) := dk_61 (dk_at dksX1_whereIs_0 4 rfl rfl)
theorem dX1_whereIs_5 : decode cX1_whereIs 5 = .ok (.aload_n 0, 1) := dk_42 (dk_at dksX1_whereIs_0 5 rfl rfl)
theorem dX1_whereIs_6 : decode cX1_whereIs 6 = .ok (.aload_n 1, 1) := dk_43 (dk_at dksX1_whereIs_0 6 rfl rfl)
theorem dX1_whereIs_7 : decode cX1_whereIs 7 = .ok (.getfield 117, 3) := dk_180 0 117 (dk_at dksX1_whereIs_0 7 rfl rfl)
theorem dX1_whereIs_10 : decode cX1_whereIs 10 = .ok (.invokevirtual 124, 3) := dk_182 0 124 (dk_at dksX1_whereIs_0 10 rfl rfl)
theorem dX1_whereIs_13 : decode cX1_whereIs 13 = .ok (.bipush 16, 2) := dk_16 16 (dk_at dksX1_whereIs_0 13 rfl rfl)
theorem dX1_whereIs_15 : decode cX1_whereIs 15 = .ok (.aload_n 1, 1) := dk_43 (dk_at dksX1_whereIs_0 15 rfl rfl)
theorem dX1_whereIs_16 : decode cX1_whereIs 16 = .ok (.getfield 167, 3) := dk_180 0 167 (dk_at dksX1_whereIs_0 16 rfl rfl)
theorem dX1_whereIs_19 : decode cX1_whereIs 19 = .ok (.imul, 1) := dk_104 (dk_at dksX1_whereIs_0 19 rfl rfl)
theorem dX1_whereIs_20 : decode cX1_whereIs 20 = .ok (.invokevirtual 170, 3) := dk_182 0 170 (dk_at dksX1_whereIs_0 20 rfl rfl)
theorem dX1_whereIs_23 : decode cX1_whereIs 23 = .ok (.istore_n 3, 1) := dk_62 (dk_at dksX1_whereIs_0 23 rfl rfl)
theorem dX1_whereIs_24 : decode cX1_whereIs 24 = .ok (.iconst 0, 1) := dk_3 (dk_at dksX1_whereIs_1 0 rfl rfl)
theorem dX1_whereIs_25 : decode cX1_whereIs 25 = .ok (.istore 4, 2) := dk_54 4 (dk_at dksX1_whereIs_1 1 rfl rfl)
theorem dX1_whereIs_27 : decode cX1_whereIs 27 = .ok (.aload_n 0, 1) := dk_42 (dk_at dksX1_whereIs_1 3 rfl rfl)
theorem dX1_whereIs_28 : decode cX1_whereIs 28 = .ok (.getfield 14, 3) := dk_180 0 14 (dk_at dksX1_whereIs_1 4 rfl rfl)
theorem dX1_whereIs_31 : decode cX1_whereIs 31 = .ok (.iload 4, 2) := dk_21 4 (dk_at dksX1_whereIs_1 7 rfl rfl)
theorem dX1_whereIs_33 : decode cX1_whereIs 33 = .ok (.invokeinterface 53 2, 5) := by decide +kernel
theorem dX1_whereIs_38 : decode cX1_whereIs 38 = .ok (.aload_n 1, 1) := dk_43 (dk_at dksX1_whereIs_1 14 rfl rfl)
theorem dX1_whereIs_39 : decode cX1_whereIs 39 = .ok (.getfield 117, 3) := dk_180 0 117 (dk_at dksX1_whereIs_1 15 rfl rfl)
theorem dX1_whereIs_42 : decode cX1_whereIs 42 = .ok (.if_acmp .eq 29, 3) := dk_165 0 29 (dk_at dksX1_whereIs_1 18 rfl rfl)
theorem dX1_whereIs_45 : decode cX1_whereIs 45 = .ok (.iload_n 3, 1) := dk_29 (dk_at dksX1_whereIs_1 21 rfl rfl)
theorem dX1_whereIs_46 : decode cX1_whereIs 46 = .ok (.aload_n 0, 1) := dk_42 (dk_at dksX1_whereIs_1 22 rfl rfl)
theorem dX1_whereIs_47 : decode cX1_whereIs 47 = .ok (.getfield 14, 3) := dk_180 0 14 (dk_at dksX1_whereIs_2 0 rfl rfl)
theorem dX1_whereIs_50 : decode cX1_whereIs 50 = .ok (.iload 4, 2) := dk_21 4 (dk_at dksX1_whereIs_2 3 rfl rfl)
theorem dX1_whereIs_52 : decode cX1_whereIs 52 = .ok (.invokeinterface 53 2, 5) := by decide +kernel
theorem dX1_whereIs_57 : decode cX1_whereIs 57 = .ok (.checkcast 57, 3) := dk_192 0 57 (dk_at dksX1_whereIs_2 10 rfl rfl)
theorem dX1_whereIs_60 : decode cX1_whereIs 60 = .ok (.getfield 128, 3) := dk_180 0 128 (dk_at dksX1_whereIs_2 13 rfl rfl)
theorem dX1_whereIs_63 : decode cX1_whereIs 63 = .ok (.iadd, 1) := dk_96 (dk_at dksX1_whereIs_2 16 rfl rfl)
theorem dX1_whereIs_64 : decode cX1_whereIs 64 = .ok (.istore_n 3, 1) := dk_62 (dk_at dksX1_whereIs_2 17 rfl rfl)
theorem dX1_whereIs_65 : decode cX1_whereIs 65 = .ok (.iinc 4 1, 3) := dk_132 4 1 (dk_at dksX1_whereIs_2 18 rfl rfl)
theorem dX1_whereIs_68 : decode cX1_whereIs 68 = .ok (.goto (-41), 3) := dk_167 255 215 (dk_at dksX1_whereIs_2 21 rfl rfl)
theorem dX1_whereIs_71 : decode cX1_whereIs 71 = .ok (.iconst 0, 1) := dk_3 (dk_at dksX1_whereIs_3 0 rfl rfl)
theorem dX1_whereIs_72 : decode cX1_whereIs 72 = .ok (.istore 4, 2) := dk_54 4 (dk_at dksX1_whereIs_3 1 rfl rfl)
theorem dX1_whereIs_74 : decode cX1_whereIs 74 = .ok (.iconst 0, 1) := dk_3 (dk_at dksX1_whereIs_3 3 rfl rfl)
theorem dX1_whereIs_75 : decode cX1_whereIs 75 = .ok (.istore 5, 2) := dk_54 5 (dk_at dksX1_whereIs_3 4 rfl rfl)
theorem dX1_whereIs_77 : decode cX1_whereIs 77 = .ok (.aload_n 0, 1) := dk_42 (dk_at dksX1_whereIs_3 6 rfl rfl)
theorem dX1_whereIs_78 : decode cX1_whereIs 78 = .ok (.iload 5, 2) := dk_21 5 (dk_at dksX1_whereIs_3 7 rfl rfl)
theorem dX1_whereIs_80 : decode cX1_whereIs 80 = .ok (.iload_n 2, 1) := dk_28 (dk_at dksX1_whereIs_3 9 rfl rfl)
theorem dX1_whereIs_81 : decode cX1_whereIs 81 = .ok (.invokevirtual 161, 3) := dk_182 0 161 (dk_at dksX1_whereIs_3 10 rfl rfl)
theorem dX1_whereIs_84 : decode cX1_whereIs 84 = .ok (.istore 6, 2) := dk_54 6 (dk_at dksX1_whereIs_3 13 rfl rfl)
theorem dX1_whereIs_86 : decode cX1_whereIs 86 = .ok (.iload 6, 2) := dk_21 6 (dk_at dksX1_whereIs_3 15 rfl rfl)
theorem dX1_whereIs_88 : decode cX1_whereIs 88 = .ok (.iload_n 3, 1) := dk_29 (dk_at dksX1_whereIs_3 17 rfl rfl)
theorem dX1_whereIs_89 : decode cX1_whereIs 89 = .ok (.if_icmp .gt 22, 3) := dk_163 0 22 (dk_at dksX1_whereIs_3 18 rfl rfl)
theorem dX1_whereIs_92 : decode cX1_whereIs 92 = .ok (.iinc 4 1, 3) := dk_132 4 1 (dk_at dksX1_whereIs_3 21 rfl rfl)
theorem dX1_whereIs_95 : decode cX1_whereIs 95 = .ok (.iload 6, 2) := dk_21 6 (dk_at dksX1_whereIs_4 0 rfl rfl)
theorem dX1_whereIs_97 : decode cX1_whereIs 97 = .ok (.istore 5, 2) := dk_54 5 (dk_at dksX1_whereIs_4 2 rfl rfl)
theorem dX1_whereIs_99 : decode cX1_whereIs 99 = .ok (.aload_n 0, 1) := dk_42 (dk_at dksX1_whereIs_4 4 rfl rfl)
theorem dX1_whereIs_100 : decode cX1_whereIs 100 = .ok (.iload 5, 2) := dk_21 5 (dk_at dksX1_whereIs_4 5 rfl rfl)
theorem dX1_whereIs_102 : decode cX1_whereIs 102 = .ok (.iload_n 2, 1) := dk_28 (dk_at dksX1_whereIs_4 7 rfl rfl)
theorem dX1_whereIs_103 : decode cX1_whereIs 103 = .ok (.invokevirtual 161, 3) := dk_182 0 161 (dk_at dksX1_whereIs_4 8 rfl rfl)
theorem dX1_whereIs_106 : decode cX1_whereIs 106 = .ok (.istore 6, 2) := dk_54 6 (dk_at dksX1_whereIs_4 11 rfl rfl)
theorem dX1_whereIs_108 : decode cX1_whereIs 108 = .ok (.goto (-22), 3) := dk_167 255 234 (dk_at dksX1_whereIs_4 13 rfl rfl)
theorem dX1_whereIs_111 : decode cX1_whereIs 111 = .ok (.bipush 100, 2) := dk_16 100 (dk_at dksX1_whereIs_4 16 rfl rfl)
theorem dX1_whereIs_113 : decode cX1_whereIs 113 = .ok (.iload 4, 2) := dk_21 4 (dk_at dksX1_whereIs_4 18 rfl rfl)
theorem dX1_whereIs_115 : decode cX1_whereIs 115 = .ok (.imul, 1) := dk_104 (dk_at dksX1_whereIs_4 20 rfl rfl)
theorem dX1_whereIs_116 : decode cX1_whereIs 116 = .ok (.iload_n 3, 1) := dk_29 (dk_at dksX1_whereIs_4 21 rfl rfl)
theorem dX1_whereIs_117 : decode cX1_whereIs 117 = .ok (.iadd, 1) := dk_96 (dk_at dksX1_whereIs_4 22 rfl rfl)
theorem dX1_whereIs_118 : decode cX1_whereIs 118 = .ok (.iload 5, 2) := dk_21 5 (dk_at dksX1_whereIs_5 0 rfl rfl)
theorem dX1_whereIs_120 : decode cX1_whereIs 120 = .ok (.isub, 1) := dk_100 (dk_at dksX1_whereIs_5 2 rfl rfl)
theorem dX1_whereIs_121 : decode cX1_whereIs 121 = .ok (.ireturn, 1) := dk_172 (dk_at dksX1_whereIs_5 3 rfl rfl)
abbrev cX1_report : ByteArray := prog_1_method_28_code
def yX1_report : MethodName := ⟨RX1, "report", "(II)I"⟩
def dkwX1_report_6 : List UInt8 := [185, 0, 43, 1, 0, 4, 100, 172]
abbrev dktX1_report_6 : List UInt8 := dkwX1_report_6 ++ []
def dkwX1_report_5 : List UInt8 := [180, 0, 21, 187, 0, 61, 89, 27, 45, 183, 0, 183, 185, 0, 74, 2, 0, 87, 42, 180, 0, 21]
abbrev dktX1_report_5 : List UInt8 := dkwX1_report_5 ++ dktX1_report_6
def dkwX1_report_4 : List UInt8 := [180, 0, 21, 185, 0, 43, 1, 0, 16, 30, 162, 0, 7, 4, 167, 0, 4, 3, 184, 0, 69, 42]
abbrev dktX1_report_4 : List UInt8 := dkwX1_report_4 ++ dktX1_report_5
def dkwX1_report_3 : List UInt8 := [154, 0, 7, 4, 167, 0, 4, 3, 128, 54, 4, 132, 5, 1, 167, 255, 188, 21, 4, 154, 0, 21, 42]
abbrev dktX1_report_3 : List UInt8 := dkwX1_report_3 ++ dktX1_report_4
def dkwX1_report_2 : List UInt8 := [180, 0, 177, 45, 166, 0, 27, 42, 180, 0, 21, 21, 5, 185, 0, 53, 2, 0, 192, 0, 61, 180, 0, 180]
abbrev dktX1_report_2 : List UInt8 := dkwX1_report_2 ++ dktX1_report_3
def dkwX1_report_1 : List UInt8 := [185, 0, 43, 1, 0, 162, 0, 60, 21, 4, 42, 180, 0, 21, 21, 5, 185, 0, 53, 2, 0, 192, 0, 61]
abbrev dktX1_report_1 : List UInt8 := dkwX1_report_1 ++ dktX1_report_2
def dkwX1_report_0 : List UInt8 := [27, 8, 184, 0, 49, 42, 28, 182, 0, 100, 78, 3, 54, 4, 3, 54, 5, 21, 5, 42, 180, 0, 21]
abbrev dktX1_report_0 : List UInt8 := dkwX1_report_0 ++ dktX1_report_1
theorem dksX1_report_0 : cX1_report.data.toList.drop 0 = dktX1_report_0 := by decide +kernel
theorem dksX1_report_1 : cX1_report.data.toList.drop 23 = dktX1_report_1 := dk_seg dksX1_report_0 23 rfl rfl
theorem dksX1_report_2 : cX1_report.data.toList.drop 47 = dktX1_report_2 := dk_seg dksX1_report_1 24 rfl rfl
theorem dksX1_report_3 : cX1_report.data.toList.drop 71 = dktX1_report_3 := dk_seg dksX1_report_2 24 rfl rfl
theorem dksX1_report_4 : cX1_report.data.toList.drop 94 = dktX1_report_4 := dk_seg dksX1_report_3 23 rfl rfl
theorem dksX1_report_5 : cX1_report.data.toList.drop 116 = dktX1_report_5 := dk_seg dksX1_report_4 22 rfl rfl
theorem dksX1_report_6 : cX1_report.data.toList.drop 138 = dktX1_report_6 := dk_seg dksX1_report_5 22 rfl rfl
theorem dX1_report_0 : decode cX1_report 0 = .ok (.iload_n 1, 1) := dk_27 (dk_at dksX1_report_0 0 rfl rfl)
theorem dX1_report_1 : decode cX1_report 1 = .ok (.iconst 5, 1) := dk_8 (dk_at dksX1_report_0 1 rfl rfl)
theorem dX1_report_2 : decode cX1_report 2 = .ok (.invokestatic 49, 3) := dk_184 0 49 (dk_at dksX1_report_0 2 rfl rfl)
theorem dX1_report_5 : decode cX1_report 5 = .ok (.aload_n 0, 1) := dk_42 (dk_at dksX1_report_0 5 rfl rfl)
theorem dX1_report_6 : decode cX1_report 6 = .ok (.iload_n 2, 1) := dk_28 (dk_at dksX1_report_0 6 rfl rfl)
theorem dX1_report_7 : decode cX1_report 7 = .ok (.invokevirtual 100, 3) := dk_182 0 100 (dk_at dksX1_report_0 7 rfl rfl)
theorem dX1_report_10 : decode cX1_report 10 = .ok (.astore_n 3, 1) := dk_78 (dk_at dksX1_report_0 10 rfl rfl)
theorem dX1_report_11 : decode cX1_report 11 = .ok (.iconst 0, 1) := dk_3 (dk_at dksX1_report_0 11 rfl rfl)
theorem dX1_report_12 : decode cX1_report 12 = .ok (.istore 4, 2) := dk_54 4 (dk_at dksX1_report_0 12 rfl rfl)
theorem dX1_report_14 : decode cX1_report 14 = .ok (.iconst 0, 1) := dk_3 (dk_at dksX1_report_0 14 rfl rfl)
theorem dX1_report_15 : decode cX1_report 15 = .ok (.istore 5, 2) := dk_54 5 (dk_at dksX1_report_0 15 rfl rfl)
theorem dX1_report_17 : decode cX1_report 17 = .ok (.iload 5, 2) := dk_21 5 (dk_at dksX1_report_0 17 rfl rfl)
theorem dX1_report_19 : decode cX1_report 19 = .ok (.aload_n 0, 1) := dk_42 (dk_at dksX1_report_0 19 rfl rfl)
theorem dX1_report_20 : decode cX1_report 20 = .ok (.getfield 21, 3) := dk_180 0 21 (dk_at dksX1_report_0 20 rfl rfl)
theorem dX1_report_23 : decode cX1_report 23 = .ok (.invokeinterface 43 1, 5) := by decide +kernel
theorem dX1_report_28 : decode cX1_report 28 = .ok (.if_icmp .ge 60, 3) := dk_162 0 60 (dk_at dksX1_report_1 5 rfl rfl)
theorem dX1_report_31 : decode cX1_report 31 = .ok (.iload 4, 2) := dk_21 4 (dk_at dksX1_report_1 8 rfl rfl)
theorem dX1_report_33 : decode cX1_report 33 = .ok (.aload_n 0, 1) := dk_42 (dk_at dksX1_report_1 10 rfl rfl)
theorem dX1_report_34 : decode cX1_report 34 = .ok (.getfield 21, 3) := dk_180 0 21 (dk_at dksX1_report_1 11 rfl rfl)
theorem dX1_report_37 : decode cX1_report 37 = .ok (.iload 5, 2) := dk_21 5 (dk_at dksX1_report_1 14 rfl rfl)
theorem dX1_report_39 : decode cX1_report 39 = .ok (.invokeinterface 53 2, 5) := by decide +kernel
theorem dX1_report_44 : decode cX1_report 44 = .ok (.checkcast 61, 3) := dk_192 0 61 (dk_at dksX1_report_1 21 rfl rfl)
theorem dX1_report_47 : decode cX1_report 47 = .ok (.getfield 177, 3) := dk_180 0 177 (dk_at dksX1_report_2 0 rfl rfl)
theorem dX1_report_50 : decode cX1_report 50 = .ok (.aload_n 3, 1) := dk_45 (dk_at dksX1_report_2 3 rfl rfl)
theorem dX1_report_51 : decode cX1_report 51 = .ok (.if_acmp .ne 27, 3) := dk_166 0 27 (dk_at dksX1_report_2 4 rfl rfl)
theorem dX1_report_54 : decode cX1_report 54 = .ok (.aload_n 0, 1) := dk_42 (dk_at dksX1_report_2 7 rfl rfl)
theorem dX1_report_55 : decode cX1_report 55 = .ok (.getfield 21, 3) := dk_180 0 21 (dk_at dksX1_report_2 8 rfl rfl)
theorem dX1_report_58 : decode cX1_report 58 = .ok (.iload 5, 2) := dk_21 5 (dk_at dksX1_report_2 11 rfl rfl)
theorem dX1_report_60 : decode cX1_report 60 = .ok (.invokeinterface 53 2, 5) := by decide +kernel
theorem dX1_report_65 : decode cX1_report 65 = .ok (.checkcast 61, 3) := dk_192 0 61 (dk_at dksX1_report_2 18 rfl rfl)
theorem dX1_report_68 : decode cX1_report 68 = .ok (.getfield 180, 3) := dk_180 0 180 (dk_at dksX1_report_2 21 rfl rfl)
theorem dX1_report_71 : decode cX1_report 71 = .ok (.ifCond .ne 7, 3) := dk_154 0 7 (dk_at dksX1_report_3 0 rfl rfl)
theorem dX1_report_74 : decode cX1_report 74 = .ok (.iconst 1, 1) := dk_4 (dk_at dksX1_report_3 3 rfl rfl)
theorem dX1_report_75 : decode cX1_report 75 = .ok (.goto 4, 3) := dk_167 0 4 (dk_at dksX1_report_3 4 rfl rfl)
theorem dX1_report_78 : decode cX1_report 78 = .ok (.iconst 0, 1) := dk_3 (dk_at dksX1_report_3 7 rfl rfl)
theorem dX1_report_79 : decode cX1_report 79 = .ok (.ior, 1) := dk_128 (dk_at dksX1_report_3 8 rfl rfl)
theorem dX1_report_80 : decode cX1_report 80 = .ok (.istore 4, 2) := dk_54 4 (dk_at dksX1_report_3 9 rfl rfl)
theorem dX1_report_82 : decode cX1_report 82 = .ok (.iinc 5 1, 3) := dk_132 5 1 (dk_at dksX1_report_3 11 rfl rfl)
theorem dX1_report_85 : decode cX1_report 85 = .ok (.goto (-68), 3) := dk_167 255 188 (dk_at dksX1_report_3 14 rfl rfl)
theorem dX1_report_88 : decode cX1_report 88 = .ok (.iload 4, 2) := dk_21 4 (dk_at dksX1_report_3 17 rfl rfl)
theorem dX1_report_90 : decode cX1_report 90 = .ok (.ifCond .ne 21, 3) := dk_154 0 21 (dk_at dksX1_report_3 19 rfl rfl)
theorem dX1_report_93 : decode cX1_report 93 = .ok (.aload_n 0, 1) := dk_42 (dk_at dksX1_report_3 22 rfl rfl)
theorem dX1_report_94 : decode cX1_report 94 = .ok (.getfield 21, 3) := dk_180 0 21 (dk_at dksX1_report_4 0 rfl rfl)
theorem dX1_report_97 : decode cX1_report 97 = .ok (.invokeinterface 43 1, 5) := by decide +kernel
theorem dX1_report_102 : decode cX1_report 102 = .ok (.bipush 30, 2) := dk_16 30 (dk_at dksX1_report_4 8 rfl rfl)
theorem dX1_report_104 : decode cX1_report 104 = .ok (.if_icmp .ge 7, 3) := dk_162 0 7 (dk_at dksX1_report_4 10 rfl rfl)
theorem dX1_report_107 : decode cX1_report 107 = .ok (.iconst 1, 1) := dk_4 (dk_at dksX1_report_4 13 rfl rfl)
theorem dX1_report_108 : decode cX1_report 108 = .ok (.goto 4, 3) := dk_167 0 4 (dk_at dksX1_report_4 14 rfl rfl)
theorem dX1_report_111 : decode cX1_report 111 = .ok (.iconst 0, 1) := dk_3 (dk_at dksX1_report_4 17 rfl rfl)
theorem dX1_report_112 : decode cX1_report 112 = .ok (.invokestatic 69, 3) := dk_184 0 69 (dk_at dksX1_report_4 18 rfl rfl)
theorem dX1_report_115 : decode cX1_report 115 = .ok (.aload_n 0, 1) := dk_42 (dk_at dksX1_report_4 21 rfl rfl)
theorem dX1_report_116 : decode cX1_report 116 = .ok (.getfield 21, 3) := dk_180 0 21 (dk_at dksX1_report_5 0 rfl rfl)
theorem dX1_report_119 : decode cX1_report 119 = .ok (.new 61, 3) := dk_187 0 61 (dk_at dksX1_report_5 3 rfl rfl)
theorem dX1_report_122 : decode cX1_report 122 = .ok (.dup, 1) := dk_89 (dk_at dksX1_report_5 6 rfl rfl)
theorem dX1_report_123 : decode cX1_report 123 = .ok (.iload_n 1, 1) := dk_27 (dk_at dksX1_report_5 7 rfl rfl)
theorem dX1_report_124 : decode cX1_report 124 = .ok (.aload_n 3, 1) := dk_45 (dk_at dksX1_report_5 8 rfl rfl)
theorem dX1_report_125 : decode cX1_report 125 = .ok (.invokespecial 183, 3) := dk_183 0 183 (dk_at dksX1_report_5 9 rfl rfl)
theorem dX1_report_128 : decode cX1_report 128 = .ok (.invokeinterface 74 2, 5) := by decide +kernel
theorem dX1_report_133 : decode cX1_report 133 = .ok (.pop, 1) := dk_87 (dk_at dksX1_report_5 17 rfl rfl)
theorem dX1_report_134 : decode cX1_report 134 = .ok (.aload_n 0, 1) := dk_42 (dk_at dksX1_report_5 18 rfl rfl)
theorem dX1_report_135 : decode cX1_report 135 = .ok (.getfield 21, 3) := dk_180 0 21 (dk_at dksX1_report_5 19 rfl rfl)
theorem dX1_report_138 : decode cX1_report 138 = .ok (.invokeinterface 43 1, 5) := by decide +kernel
theorem dX1_report_143 : decode cX1_report 143 = .ok (.iconst 1, 1) := dk_4 (dk_at dksX1_report_6 5 rfl rfl)
theorem dX1_report_144 : decode cX1_report 144 = .ok (.isub, 1) := dk_100 (dk_at dksX1_report_6 6 rfl rfl)
theorem dX1_report_145 : decode cX1_report 145 = .ok (.ireturn, 1) := dk_172 (dk_at dksX1_report_6 7 rfl rfl)
abbrev cX1_judge : ByteArray := prog_1_method_30_code
def yX1_judge : MethodName := ⟨RX1, "judge", "(IZ)I"⟩
def dkwX1_judge_1 : List UInt8 := [153, 0, 7, 4, 167, 0, 4, 5, 181, 0, 180, 42, 45, 180, 0, 186, 182, 0, 196, 172]
abbrev dktX1_judge_1 : List UInt8 := dkwX1_judge_1 ++ []
def dkwX1_judge_0 : List UInt8 := [42, 27, 182, 0, 192, 78, 45, 180, 0, 180, 154, 0, 7, 4, 167, 0, 4, 3, 184, 0, 69, 45, 28]
abbrev dktX1_judge_0 : List UInt8 := dkwX1_judge_0 ++ dktX1_judge_1
theorem dksX1_judge_0 : cX1_judge.data.toList.drop 0 = dktX1_judge_0 := by decide +kernel
theorem dksX1_judge_1 : cX1_judge.data.toList.drop 23 = dktX1_judge_1 := dk_seg dksX1_judge_0 23 rfl rfl
theorem dX1_judge_0 : decode cX1_judge 0 = .ok (.aload_n 0, 1) := dk_42 (dk_at dksX1_judge_0 0 rfl rfl)
theorem dX1_judge_1 : decode cX1_judge 1 = .ok (.iload_n 1, 1) := dk_27 (dk_at dksX1_judge_0 1 rfl rfl)
theorem dX1_judge_2 : decode cX1_judge 2 = .ok (.invokevirtual 192, 3) := dk_182 0 192 (dk_at dksX1_judge_0 2 rfl rfl)
theorem dX1_judge_5 : decode cX1_judge 5 = .ok (.astore_n 3, 1) := dk_78 (dk_at dksX1_judge_0 5 rfl rfl)
theorem dX1_judge_6 : decode cX1_judge 6 = .ok (.aload_n 3, 1) := dk_45 (dk_at dksX1_judge_0 6 rfl rfl)
theorem dX1_judge_7 : decode cX1_judge 7 = .ok (.getfield 180, 3) := dk_180 0 180 (dk_at dksX1_judge_0 7 rfl rfl)
theorem dX1_judge_10 : decode cX1_judge 10 = .ok (.ifCond .ne 7, 3) := dk_154 0 7 (dk_at dksX1_judge_0 10 rfl rfl)
theorem dX1_judge_13 : decode cX1_judge 13 = .ok (.iconst 1, 1) := dk_4 (dk_at dksX1_judge_0 13 rfl rfl)
theorem dX1_judge_14 : decode cX1_judge 14 = .ok (.goto 4, 3) := dk_167 0 4 (dk_at dksX1_judge_0 14 rfl rfl)
theorem dX1_judge_17 : decode cX1_judge 17 = .ok (.iconst 0, 1) := dk_3 (dk_at dksX1_judge_0 17 rfl rfl)
theorem dX1_judge_18 : decode cX1_judge 18 = .ok (.invokestatic 69, 3) := dk_184 0 69 (dk_at dksX1_judge_0 18 rfl rfl)
theorem dX1_judge_21 : decode cX1_judge 21 = .ok (.aload_n 3, 1) := dk_45 (dk_at dksX1_judge_0 21 rfl rfl)
theorem dX1_judge_22 : decode cX1_judge 22 = .ok (.iload_n 2, 1) := dk_28 (dk_at dksX1_judge_0 22 rfl rfl)
theorem dX1_judge_23 : decode cX1_judge 23 = .ok (.ifCond .eq 7, 3) := dk_153 0 7 (dk_at dksX1_judge_1 0 rfl rfl)
theorem dX1_judge_26 : decode cX1_judge 26 = .ok (.iconst 1, 1) := dk_4 (dk_at dksX1_judge_1 3 rfl rfl)
theorem dX1_judge_27 : decode cX1_judge 27 = .ok (.goto 4, 3) := dk_167 0 4 (dk_at dksX1_judge_1 4 rfl rfl)
theorem dX1_judge_30 : decode cX1_judge 30 = .ok (.iconst 2, 1) := dk_5 (dk_at dksX1_judge_1 7 rfl rfl)
theorem dX1_judge_31 : decode cX1_judge 31 = .ok (.putfield 180, 3) := dk_181 0 180 (dk_at dksX1_judge_1 8 rfl rfl)
theorem dX1_judge_34 : decode cX1_judge 34 = .ok (.aload_n 0, 1) := dk_42 (dk_at dksX1_judge_1 11 rfl rfl)
theorem dX1_judge_35 : decode cX1_judge 35 = .ok (.aload_n 3, 1) := dk_45 (dk_at dksX1_judge_1 12 rfl rfl)
theorem dX1_judge_36 : decode cX1_judge 36 = .ok (.getfield 186, 3) := dk_180 0 186 (dk_at dksX1_judge_1 13 rfl rfl)
theorem dX1_judge_39 : decode cX1_judge 39 = .ok (.invokevirtual 196, 3) := dk_182 0 196 (dk_at dksX1_judge_1 16 rfl rfl)
theorem dX1_judge_42 : decode cX1_judge 42 = .ok (.ireturn, 1) := dk_172 (dk_at dksX1_judge_1 19 rfl rfl)
abbrev cX1_error : ByteArray := prog_1_method_5_code
def yX1_error : MethodName := ⟨RX1, "error", "(I)LProofPages$Mistake;"⟩
def dkwX1_error_1 : List UInt8 := [192, 0, 61, 176]
abbrev dktX1_error_1 : List UInt8 := dkwX1_error_1 ++ []
def dkwX1_error_0 : List UInt8 := [27, 42, 180, 0, 21, 185, 0, 43, 1, 0, 184, 0, 49, 42, 180, 0, 21, 27, 185, 0, 53, 2, 0]
abbrev dktX1_error_0 : List UInt8 := dkwX1_error_0 ++ dktX1_error_1
theorem dksX1_error_0 : cX1_error.data.toList.drop 0 = dktX1_error_0 := by decide +kernel
theorem dksX1_error_1 : cX1_error.data.toList.drop 23 = dktX1_error_1 := dk_seg dksX1_error_0 23 rfl rfl
theorem dX1_error_0 : decode cX1_error 0 = .ok (.iload_n 1, 1) := dk_27 (dk_at dksX1_error_0 0 rfl rfl)
theorem dX1_error_1 : decode cX1_error 1 = .ok (.aload_n 0, 1) := dk_42 (dk_at dksX1_error_0 1 rfl rfl)
theorem dX1_error_2 : decode cX1_error 2 = .ok (.getfield 21, 3) := dk_180 0 21 (dk_at dksX1_error_0 2 rfl rfl)
theorem dX1_error_5 : decode cX1_error 5 = .ok (.invokeinterface 43 1, 5) := by decide +kernel
theorem dX1_error_10 : decode cX1_error 10 = .ok (.invokestatic 49, 3) := dk_184 0 49 (dk_at dksX1_error_0 10 rfl rfl)
theorem dX1_error_13 : decode cX1_error 13 = .ok (.aload_n 0, 1) := dk_42 (dk_at dksX1_error_0 13 rfl rfl)
theorem dX1_error_14 : decode cX1_error 14 = .ok (.getfield 21, 3) := dk_180 0 21 (dk_at dksX1_error_0 14 rfl rfl)
theorem dX1_error_17 : decode cX1_error 17 = .ok (.iload_n 1, 1) := dk_27 (dk_at dksX1_error_0 17 rfl rfl)
theorem dX1_error_18 : decode cX1_error 18 = .ok (.invokeinterface 53 2, 5) := by decide +kernel
theorem dX1_error_23 : decode cX1_error 23 = .ok (.checkcast 61, 3) := dk_192 0 61 (dk_at dksX1_error_1 0 rfl rfl)
theorem dX1_error_26 : decode cX1_error 26 = .ok (.areturn, 1) := dk_176 (dk_at dksX1_error_1 3 rfl rfl)
abbrev cX1_points : ByteArray := prog_1_method_29_code
def yX1_points : MethodName := ⟨RX1, "points", "(I)I"⟩
def dkwX1_points_3 : List UInt8 := [172]
abbrev dktX1_points_3 : List UInt8 := dkwX1_points_3 ++ []
def dkwX1_points_2 : List UInt8 := [185, 0, 53, 2, 0, 192, 0, 61, 182, 0, 189, 167, 0, 4, 3, 96, 61, 132, 3, 1, 167, 255, 197, 28]
abbrev dktX1_points_2 : List UInt8 := dkwX1_points_2 ++ dktX1_points_3
def dkwX1_points_1 : List UInt8 := [185, 0, 53, 2, 0, 192, 0, 61, 180, 0, 186, 27, 160, 0, 22, 42, 180, 0, 21, 29]
abbrev dktX1_points_1 : List UInt8 := dkwX1_points_1 ++ dktX1_points_2
def dkwX1_points_0 : List UInt8 := [3, 61, 3, 62, 29, 42, 180, 0, 21, 185, 0, 43, 1, 0, 162, 0, 52, 28, 42, 180, 0, 21, 29]
abbrev dktX1_points_0 : List UInt8 := dkwX1_points_0 ++ dktX1_points_1
theorem dksX1_points_0 : cX1_points.data.toList.drop 0 = dktX1_points_0 := by decide +kernel
theorem dksX1_points_1 : cX1_points.data.toList.drop 23 = dktX1_points_1 := dk_seg dksX1_points_0 23 rfl rfl
theorem dksX1_points_2 : cX1_points.data.toList.drop 43 = dktX1_points_2 := dk_seg dksX1_points_1 20 rfl rfl
theorem dksX1_points_3 : cX1_points.data.toList.drop 67 = dktX1_points_3 := dk_seg dksX1_points_2 24 rfl rfl
theorem dX1_points_0 : decode cX1_points 0 = .ok (.iconst 0, 1) := dk_3 (dk_at dksX1_points_0 0 rfl rfl)
theorem dX1_points_1 : decode cX1_points 1 = .ok (.istore_n 2, 1) := dk_61 (dk_at dksX1_points_0 1 rfl rfl)
theorem dX1_points_2 : decode cX1_points 2 = .ok (.iconst 0, 1) := dk_3 (dk_at dksX1_points_0 2 rfl rfl)
theorem dX1_points_3 : decode cX1_points 3 = .ok (.istore_n 3, 1) := dk_62 (dk_at dksX1_points_0 3 rfl rfl)
theorem dX1_points_4 : decode cX1_points 4 = .ok (.iload_n 3, 1) := dk_29 (dk_at dksX1_points_0 4 rfl rfl)
theorem dX1_points_5 : decode cX1_points 5 = .ok (.aload_n 0, 1) := dk_42 (dk_at dksX1_points_0 5 rfl rfl)
theorem dX1_points_6 : decode cX1_points 6 = .ok (.getfield 21, 3) := dk_180 0 21 (dk_at dksX1_points_0 6 rfl rfl)
theorem dX1_points_9 : decode cX1_points 9 = .ok (.invokeinterface 43 1, 5) := by decide +kernel
theorem dX1_points_14 : decode cX1_points 14 = .ok (.if_icmp .ge 52, 3) := dk_162 0 52 (dk_at dksX1_points_0 14 rfl rfl)
theorem dX1_points_17 : decode cX1_points 17 = .ok (.iload_n 2, 1) := dk_28 (dk_at dksX1_points_0 17 rfl rfl)
theorem dX1_points_18 : decode cX1_points 18 = .ok (.aload_n 0, 1) := dk_42 (dk_at dksX1_points_0 18 rfl rfl)
theorem dX1_points_19 : decode cX1_points 19 = .ok (.getfield 21, 3) := dk_180 0 21 (dk_at dksX1_points_0 19 rfl rfl)
theorem dX1_points_22 : decode cX1_points 22 = .ok (.iload_n 3, 1) := dk_29 (dk_at dksX1_points_0 22 rfl rfl)
theorem dX1_points_23 : decode cX1_points 23 = .ok (.invokeinterface 53 2, 5) := by decide +kernel
theorem dX1_points_28 : decode cX1_points 28 = .ok (.checkcast 61, 3) := dk_192 0 61 (dk_at dksX1_points_1 5 rfl rfl)
theorem dX1_points_31 : decode cX1_points 31 = .ok (.getfield 186, 3) := dk_180 0 186 (dk_at dksX1_points_1 8 rfl rfl)
theorem dX1_points_34 : decode cX1_points 34 = .ok (.iload_n 1, 1) := dk_27 (dk_at dksX1_points_1 11 rfl rfl)
theorem dX1_points_35 : decode cX1_points 35 = .ok (.if_icmp .ne 22, 3) := dk_160 0 22 (dk_at dksX1_points_1 12 rfl rfl)
theorem dX1_points_38 : decode cX1_points 38 = .ok (.aload_n 0, 1) := dk_42 (dk_at dksX1_points_1 15 rfl rfl)
theorem dX1_points_39 : decode cX1_points 39 = .ok (.getfield 21, 3) := dk_180 0 21 (dk_at dksX1_points_1 16 rfl rfl)
theorem dX1_points_42 : decode cX1_points 42 = .ok (.iload_n 3, 1) := dk_29 (dk_at dksX1_points_1 19 rfl rfl)
theorem dX1_points_43 : decode cX1_points 43 = .ok (.invokeinterface 53 2, 5) := by decide +kernel
theorem dX1_points_48 : decode cX1_points 48 = .ok (.checkcast 61, 3) := dk_192 0 61 (dk_at dksX1_points_2 5 rfl rfl)
theorem dX1_points_51 : decode cX1_points 51 = .ok (.invokevirtual 189, 3) := dk_182 0 189 (dk_at dksX1_points_2 8 rfl rfl)
theorem dX1_points_54 : decode cX1_points 54 = .ok (.goto 4, 3) := dk_167 0 4 (dk_at dksX1_points_2 11 rfl rfl)
theorem dX1_points_57 : decode cX1_points 57 = .ok (.iconst 0, 1) := dk_3 (dk_at dksX1_points_2 14 rfl rfl)
theorem dX1_points_58 : decode cX1_points 58 = .ok (.iadd, 1) := dk_96 (dk_at dksX1_points_2 15 rfl rfl)
theorem dX1_points_59 : decode cX1_points 59 = .ok (.istore_n 2, 1) := dk_61 (dk_at dksX1_points_2 16 rfl rfl)
theorem dX1_points_60 : decode cX1_points 60 = .ok (.iinc 3 1, 3) := dk_132 3 1 (dk_at dksX1_points_2 17 rfl rfl)
theorem dX1_points_63 : decode cX1_points 63 = .ok (.goto (-59), 3) := dk_167 255 197 (dk_at dksX1_points_2 20 rfl rfl)
theorem dX1_points_66 : decode cX1_points 66 = .ok (.iload_n 2, 1) := dk_28 (dk_at dksX1_points_2 23 rfl rfl)
theorem dX1_points_67 : decode cX1_points 67 = .ok (.ireturn, 1) := dk_172 (dk_at dksX1_points_3 0 rfl rfl)
abbrev cX1_errorAt : ByteArray := prog_1_method_31_code
def yX1_errorAt : MethodName := ⟨RX1, "errorAt", "(I)I"⟩
def dkwX1_errorAt_0 : List UInt8 := [42, 42, 27, 182, 0, 192, 180, 0, 177, 182, 0, 173, 172]
abbrev dktX1_errorAt_0 : List UInt8 := dkwX1_errorAt_0 ++ []
theorem dksX1_errorAt_0 : cX1_errorAt.data.toList.drop 0 = dktX1_errorAt_0 := by decide +kernel
theorem dX1_errorAt_0 : decode cX1_errorAt 0 = .ok (.aload_n 0, 1) := dk_42 (dk_at dksX1_errorAt_0 0 rfl rfl)
theorem dX1_errorAt_1 : decode cX1_errorAt 1 = .ok (.aload_n 0, 1) := dk_42 (dk_at dksX1_errorAt_0 1 rfl rfl)
theorem dX1_errorAt_2 : decode cX1_errorAt 2 = .ok (.iload_n 1, 1) := dk_27 (dk_at dksX1_errorAt_0 2 rfl rfl)
theorem dX1_errorAt_3 : decode cX1_errorAt 3 = .ok (.invokevirtual 192, 3) := dk_182 0 192 (dk_at dksX1_errorAt_0 3 rfl rfl)
theorem dX1_errorAt_6 : decode cX1_errorAt 6 = .ok (.getfield 177, 3) := dk_180 0 177 (dk_at dksX1_errorAt_0 6 rfl rfl)
theorem dX1_errorAt_9 : decode cX1_errorAt 9 = .ok (.invokevirtual 173, 3) := dk_182 0 173 (dk_at dksX1_errorAt_0 9 rfl rfl)
theorem dX1_errorAt_12 : decode cX1_errorAt 12 = .ok (.ireturn, 1) := dk_172 (dk_at dksX1_errorAt_0 12 rfl rfl)
abbrev cX1_stateOf : ByteArray := prog_1_method_32_code
def yX1_stateOf : MethodName := ⟨RX1, "stateOf", "(I)I"⟩
def dkwX1_stateOf_0 : List UInt8 := [42, 27, 182, 0, 192, 180, 0, 180, 172]
abbrev dktX1_stateOf_0 : List UInt8 := dkwX1_stateOf_0 ++ []
theorem dksX1_stateOf_0 : cX1_stateOf.data.toList.drop 0 = dktX1_stateOf_0 := by decide +kernel
theorem dX1_stateOf_0 : decode cX1_stateOf 0 = .ok (.aload_n 0, 1) := dk_42 (dk_at dksX1_stateOf_0 0 rfl rfl)
theorem dX1_stateOf_1 : decode cX1_stateOf 1 = .ok (.iload_n 1, 1) := dk_27 (dk_at dksX1_stateOf_0 1 rfl rfl)
theorem dX1_stateOf_2 : decode cX1_stateOf 2 = .ok (.invokevirtual 192, 3) := dk_182 0 192 (dk_at dksX1_stateOf_0 2 rfl rfl)
theorem dX1_stateOf_5 : decode cX1_stateOf 5 = .ok (.getfield 180, 3) := dk_180 0 180 (dk_at dksX1_stateOf_0 5 rfl rfl)
theorem dX1_stateOf_8 : decode cX1_stateOf 8 = .ok (.ireturn, 1) := dk_172 (dk_at dksX1_stateOf_0 8 rfl rfl)
abbrev cX1_readerAt : ByteArray := prog_1_method_33_code
def yX1_readerAt : MethodName := ⟨RX1, "readerAt", "(I)I"⟩
def dkwX1_readerAt_3 : List UInt8 := [28, 172, 132, 2, 1, 167, 255, 186, 2, 172]
abbrev dktX1_readerAt_3 : List UInt8 := dkwX1_readerAt_3 ++ []
def dkwX1_readerAt_2 : List UInt8 := [21, 4, 28, 162, 0, 7, 4, 167, 0, 4, 3, 96, 62, 132, 4, 1, 167, 255, 209, 29, 27, 160, 0, 5]
abbrev dktX1_readerAt_2 : List UInt8 := dkwX1_readerAt_2 ++ dktX1_readerAt_3
def dkwX1_readerAt_1 : List UInt8 := [21, 4, 182, 0, 196, 42, 28, 182, 0, 196, 100, 54, 5, 29, 21, 5, 157, 0, 14, 21, 5, 154, 0, 13]
abbrev dktX1_readerAt_1 : List UInt8 := dkwX1_readerAt_1 ++ dktX1_readerAt_2
def dkwX1_readerAt_0 : List UInt8 := [27, 8, 184, 0, 49, 3, 61, 28, 8, 162, 0, 71, 3, 62, 3, 54, 4, 21, 4, 8, 162, 0, 47, 42]
abbrev dktX1_readerAt_0 : List UInt8 := dkwX1_readerAt_0 ++ dktX1_readerAt_1
theorem dksX1_readerAt_0 : cX1_readerAt.data.toList.drop 0 = dktX1_readerAt_0 := by decide +kernel
theorem dksX1_readerAt_1 : cX1_readerAt.data.toList.drop 24 = dktX1_readerAt_1 := dk_seg dksX1_readerAt_0 24 rfl rfl
theorem dksX1_readerAt_2 : cX1_readerAt.data.toList.drop 48 = dktX1_readerAt_2 := dk_seg dksX1_readerAt_1 24 rfl rfl
theorem dksX1_readerAt_3 : cX1_readerAt.data.toList.drop 72 = dktX1_readerAt_3 := dk_seg dksX1_readerAt_2 24 rfl rfl
theorem dX1_readerAt_0 : decode cX1_readerAt 0 = .ok (.iload_n 1, 1) := dk_27 (dk_at dksX1_readerAt_0 0 rfl rfl)
theorem dX1_readerAt_1 : decode cX1_readerAt 1 = .ok (.iconst 5, 1) := dk_8 (dk_at dksX1_readerAt_0 1 rfl rfl)
theorem dX1_readerAt_2 : decode cX1_readerAt 2 = .ok (.invokestatic 49, 3) := dk_184 0 49 (dk_at dksX1_readerAt_0 2 rfl rfl)
theorem dX1_readerAt_5 : decode cX1_readerAt 5 = .ok (.iconst 0, 1) := dk_3 (dk_at dksX1_readerAt_0 5 rfl rfl)
theorem dX1_readerAt_6 : decode cX1_readerAt 6 = .ok (.istore_n 2, 1) := dk_61 (dk_at dksX1_readerAt_0 6 rfl rfl)
theorem dX1_readerAt_7 : decode cX1_readerAt 7 = .ok (.iload_n 2, 1) := dk_28 (dk_at dksX1_readerAt_0 7 rfl rfl)
theorem dX1_readerAt_8 : decode cX1_readerAt 8 = .ok (.iconst 5, 1) := dk_8 (dk_at dksX1_readerAt_0 8 rfl rfl)
theorem dX1_readerAt_9 : decode cX1_readerAt 9 = .ok (.if_icmp .ge 71, 3) := dk_162 0 71 (dk_at dksX1_readerAt_0 9 rfl rfl)
theorem dX1_readerAt_12 : decode cX1_readerAt 12 = .ok (.iconst 0, 1) := dk_3 (dk_at dksX1_readerAt_0 12 rfl rfl)
theorem dX1_readerAt_13 : decode cX1_readerAt 13 = .ok (.istore_n 3, 1) := dk_62 (dk_at dksX1_readerAt_0 13 rfl rfl)
theorem dX1_readerAt_14 : decode cX1_readerAt 14 = .ok (.iconst 0, 1) := dk_3 (dk_at dksX1_readerAt_0 14 rfl rfl)
theorem dX1_readerAt_15 : decode cX1_readerAt 15 = .ok (.istore 4, 2) := dk_54 4 (dk_at dksX1_readerAt_0 15 rfl rfl)
theorem dX1_readerAt_17 : decode cX1_readerAt 17 = .ok (.iload 4, 2) := dk_21 4 (dk_at dksX1_readerAt_0 17 rfl rfl)
theorem dX1_readerAt_19 : decode cX1_readerAt 19 = .ok (.iconst 5, 1) := dk_8 (dk_at dksX1_readerAt_0 19 rfl rfl)
theorem dX1_readerAt_20 : decode cX1_readerAt 20 = .ok (.if_icmp .ge 47, 3) := dk_162 0 47 (dk_at dksX1_readerAt_0 20 rfl rfl)
theorem dX1_readerAt_23 : decode cX1_readerAt 23 = .ok (.aload_n 0, 1) := dk_42 (dk_at dksX1_readerAt_0 23 rfl rfl)
theorem dX1_readerAt_24 : decode cX1_readerAt 24 = .ok (.iload 4, 2) := dk_21 4 (dk_at dksX1_readerAt_1 0 rfl rfl)
theorem dX1_readerAt_26 : decode cX1_readerAt 26 = .ok (.invokevirtual 196, 3) := dk_182 0 196 (dk_at dksX1_readerAt_1 2 rfl rfl)
theorem dX1_readerAt_29 : decode cX1_readerAt 29 = .ok (.aload_n 0, 1) := dk_42 (dk_at dksX1_readerAt_1 5 rfl rfl)
theorem dX1_readerAt_30 : decode cX1_readerAt 30 = .ok (.iload_n 2, 1) := dk_28 (dk_at dksX1_readerAt_1 6 rfl rfl)
theorem dX1_readerAt_31 : decode cX1_readerAt 31 = .ok (.invokevirtual 196, 3) := dk_182 0 196 (dk_at dksX1_readerAt_1 7 rfl rfl)
theorem dX1_readerAt_34 : decode cX1_readerAt 34 = .ok (.isub, 1) := dk_100 (dk_at dksX1_readerAt_1 10 rfl rfl)
theorem dX1_readerAt_35 : decode cX1_readerAt 35 = .ok (.istore 5, 2) := dk_54 5 (dk_at dksX1_readerAt_1 11 rfl rfl)
theorem dX1_readerAt_37 : decode cX1_readerAt 37 = .ok (.iload_n 3, 1) := dk_29 (dk_at dksX1_readerAt_1 13 rfl rfl)
theorem dX1_readerAt_38 : decode cX1_readerAt 38 = .ok (.iload 5, 2) := dk_21 5 (dk_at dksX1_readerAt_1 14 rfl rfl)
theorem dX1_readerAt_40 : decode cX1_readerAt 40 = .ok (.ifCond .gt 14, 3) := dk_157 0 14 (dk_at dksX1_readerAt_1 16 rfl rfl)
theorem dX1_readerAt_43 : decode cX1_readerAt 43 = .ok (.iload 5, 2) := dk_21 5 (dk_at dksX1_readerAt_1 19 rfl rfl)
theorem dX1_readerAt_45 : decode cX1_readerAt 45 = .ok (.ifCond .ne 13, 3) := dk_154 0 13 (dk_at dksX1_readerAt_1 21 rfl rfl)
theorem dX1_readerAt_48 : decode cX1_readerAt 48 = .ok (.iload 4, 2) := dk_21 4 (dk_at dksX1_readerAt_2 0 rfl rfl)
theorem dX1_readerAt_50 : decode cX1_readerAt 50 = .ok (.iload_n 2, 1) := dk_28 (dk_at dksX1_readerAt_2 2 rfl rfl)
theorem dX1_readerAt_51 : decode cX1_readerAt 51 = .ok (.if_icmp .ge 7, 3) := dk_162 0 7 (dk_at dksX1_readerAt_2 3 rfl rfl)
theorem dX1_readerAt_54 : decode cX1_readerAt 54 = .ok (.iconst 1, 1) := dk_4 (dk_at dksX1_readerAt_2 6 rfl rfl)
theorem dX1_readerAt_55 : decode cX1_readerAt 55 = .ok (.goto 4, 3) := dk_167 0 4 (dk_at dksX1_readerAt_2 7 rfl rfl)
theorem dX1_readerAt_58 : decode cX1_readerAt 58 = .ok (.iconst 0, 1) := dk_3 (dk_at dksX1_readerAt_2 10 rfl rfl)
theorem dX1_readerAt_59 : decode cX1_readerAt 59 = .ok (.iadd, 1) := dk_96 (dk_at dksX1_readerAt_2 11 rfl rfl)
theorem dX1_readerAt_60 : decode cX1_readerAt 60 = .ok (.istore_n 3, 1) := dk_62 (dk_at dksX1_readerAt_2 12 rfl rfl)
theorem dX1_readerAt_61 : decode cX1_readerAt 61 = .ok (.iinc 4 1, 3) := dk_132 4 1 (dk_at dksX1_readerAt_2 13 rfl rfl)
theorem dX1_readerAt_64 : decode cX1_readerAt 64 = .ok (.goto (-47), 3) := dk_167 255 209 (dk_at dksX1_readerAt_2 16 rfl rfl)
theorem dX1_readerAt_67 : decode cX1_readerAt 67 = .ok (.iload_n 3, 1) := dk_29 (dk_at dksX1_readerAt_2 19 rfl rfl)
theorem dX1_readerAt_68 : decode cX1_readerAt 68 = .ok (.iload_n 1, 1) := dk_27 (dk_at dksX1_readerAt_2 20 rfl rfl)
theorem dX1_readerAt_69 : decode cX1_readerAt 69 = .ok (.if_icmp .ne 5, 3) := dk_160 0 5 (dk_at dksX1_readerAt_2 21 rfl rfl)
theorem dX1_readerAt_72 : decode cX1_readerAt 72 = .ok (.iload_n 2, 1) := dk_28 (dk_at dksX1_readerAt_3 0 rfl rfl)
theorem dX1_readerAt_73 : decode cX1_readerAt 73 = .ok (.ireturn, 1) := dk_172 (dk_at dksX1_readerAt_3 1 rfl rfl)
theorem dX1_readerAt_74 : decode cX1_readerAt 74 = .ok (.iinc 2 1, 3) := dk_132 2 1 (dk_at dksX1_readerAt_3 2 rfl rfl)
theorem dX1_readerAt_77 : decode cX1_readerAt 77 = .ok (.goto (-70), 3) := dk_167 255 186 (dk_at dksX1_readerAt_3 5 rfl rfl)
theorem dX1_readerAt_80 : decode cX1_readerAt 80 = .ok (.iconst (-1), 1) := dk_2 (dk_at dksX1_readerAt_3 8 rfl rfl)
theorem dX1_readerAt_81 : decode cX1_readerAt 81 = .ok (.ireturn, 1) := dk_172 (dk_at dksX1_readerAt_3 9 rfl rfl)
theorem q41 : (Jvm.Cond.initialized "ProofPages") ∈ lw_all := lw_g (lw_at lw_m1 1 rfl) rfl
theorem q70 : (Jvm.Cond.instantiable "ProofPages" (6 : Nat)) ∈ lw_all := lw_g (lw_at lw_m1 30 rfl) rfl
theorem q72 : (Jvm.Cond.instanceMethod ({ cls := "ProofPages", name := "<init>", desc := "()V" } : Jvm.MethodName)) ∈ lw_all := lw_g (lw_at lw_m1 32 rfl) rfl
theorem q73 : (Jvm.Cond.code ({ cls := "ProofPages", name := "<init>", desc := "()V" } : Jvm.MethodName) prog_1_method_1_code (1 : Nat) (Option.none : Option Jvm.ClassFile.FieldType)) ∈ lw_all := lw_g (lw_at lw_m1 33 rfl) rfl
theorem q74 : (Jvm.Cond.methodLink "ProofPages" (3 : Nat) ({ cls := "java/lang/Object", name := "<init>", desc := "()V" } : Jvm.MethodName)) ∈ lw_all := lw_g (lw_at lw_m1 34 rfl) rfl
theorem q77 : (Jvm.Cond.classLink "ProofPages" (9 : Nat) "java/util/ArrayList") ∈ lw_all := lw_g (lw_at lw_m1 37 rfl) rfl
theorem q79 : (Jvm.Cond.methodLink "ProofPages" (11 : Nat) ({ cls := "java/util/ArrayList", name := "<init>", desc := "(I)V" } : Jvm.MethodName)) ∈ lw_all := lw_g (lw_at lw_m1 39 rfl) rfl
theorem q418 : (Jvm.Cond.classLink "ProofPages" (24 : Nat) "ProofPages$Breaker") ∈ lw_all := lw_g (lw_at lw_m2 138 rfl) rfl
theorem q420 : (Jvm.Cond.methodLinkNest "ProofPages" (26 : Nat) ({ cls := "ProofPages$Breaker", name := "<init>", desc := "(LProofPages;)V" } : Jvm.MethodName) "ProofPages") ∈ lw_tbl := lw_at lw_m2 140 rfl
theorem q444 : (Jvm.Cond.fieldLink "ProofPages" (14 : Nat) "ProofPages" "paragraphs" "Ljava/util/List;") ∈ lw_all := lw_g (lw_at lw_m2 164 rfl) rfl
theorem q445 : (Jvm.Cond.fieldLink "ProofPages" (18 : Nat) "ProofPages" "words" "Ljava/util/List;") ∈ lw_all := lw_g (lw_at lw_m2 165 rfl) rfl
theorem q446 : (Jvm.Cond.fieldLink "ProofPages" (21 : Nat) "ProofPages" "errors" "Ljava/util/List;") ∈ lw_all := lw_g (lw_at lw_m2 166 rfl) rfl
theorem q447 : (Jvm.Cond.fieldLink "ProofPages" (29 : Nat) "ProofPages" "breaker" "LProofPages$Breaker;") ∈ lw_all := lw_g (lw_at lw_m2 167 rfl) rfl
theorem q448 : (Jvm.Cond.fieldLink "ProofPages" (33 : Nat) "ProofPages" "width" "I") ∈ lw_all := lw_g (lw_at lw_m2 168 rfl) rfl
theorem q450 : (Jvm.Cond.fieldLink "ProofPages" (37 : Nat) "ProofPages" "height" "I") ∈ lw_all := lw_g (lw_at lw_m2 170 rfl) rfl
theorem q451 : (Jvm.Cond.laysFinal "ProofPages" "ProofPages" "paragraphs" "Ljava/util/List;") ∈ lw_all := lw_g (lw_at lw_m2 171 rfl) rfl
theorem q452 : (Jvm.Cond.soleField "ProofPages" "paragraphs") ∈ lw_all := lw_g (lw_at lw_m2 172 rfl) rfl
theorem q453 : (Jvm.Cond.laysFinal "ProofPages" "ProofPages" "words" "Ljava/util/List;") ∈ lw_all := lw_g (lw_at lw_m2 173 rfl) rfl
theorem q454 : (Jvm.Cond.soleField "ProofPages" "words") ∈ lw_all := lw_g (lw_at lw_m2 174 rfl) rfl
theorem q455 : (Jvm.Cond.laysFinal "ProofPages" "ProofPages" "errors" "Ljava/util/List;") ∈ lw_all := lw_g (lw_at lw_m2 175 rfl) rfl
theorem q456 : (Jvm.Cond.soleField "ProofPages" "errors") ∈ lw_all := lw_g (lw_at lw_m2 176 rfl) rfl
theorem q457 : (Jvm.Cond.laysFinal "ProofPages" "ProofPages" "breaker" "LProofPages$Breaker;") ∈ lw_all := lw_g (lw_at lw_m2 177 rfl) rfl
theorem q458 : (Jvm.Cond.soleField "ProofPages" "breaker") ∈ lw_all := lw_g (lw_at lw_m2 178 rfl) rfl
theorem q459 : (Jvm.Cond.lays "ProofPages" "ProofPages" "width" "I") ∈ lw_all := lw_g (lw_at lw_m2 179 rfl) rfl
theorem q460 : (Jvm.Cond.soleField "ProofPages" "width") ∈ lw_all := lw_g (lw_at lw_m2 180 rfl) rfl
theorem q461 : (Jvm.Cond.lays "ProofPages" "ProofPages" "height" "I") ∈ lw_all := lw_g (lw_at lw_m2 181 rfl) rfl
theorem q462 : (Jvm.Cond.soleField "ProofPages" "height") ∈ lw_all := lw_g (lw_at lw_m2 182 rfl) rfl
theorem q463 : (Jvm.Cond.superclass "ProofPages" "java/lang/Object") ∈ lw_all := lw_g (lw_at lw_m2 183 rfl) rfl
theorem q465 : (Jvm.Cond.instanceMethod ({ cls := "ProofPages", name := "words", desc := "()I" } : Jvm.MethodName)) ∈ lw_all := lw_g (lw_at lw_m2 185 rfl) rfl
theorem q466 : (Jvm.Cond.selects "ProofPages" ({ cls := "ProofPages", name := "words", desc := "()I" } : Jvm.MethodName) ({ cls := "ProofPages", name := "words", desc := "()I" } : Jvm.MethodName)) ∈ lw_all := lw_g (lw_at lw_m2 186 rfl) rfl
theorem q467 : (Jvm.Cond.code ({ cls := "ProofPages", name := "words", desc := "()I" } : Jvm.MethodName) prog_1_method_14_code (1 : Nat) (Option.some Jvm.ClassFile.FieldType.int)) ∈ lw_all := lw_g (lw_at lw_m2 187 rfl) rfl
theorem q468 : (Jvm.Cond.interfaceEntry "ProofPages" (43 : Nat)) ∈ lw_tbl := lw_at lw_m2 188 rfl
theorem q469 : (Jvm.Cond.methodLink "ProofPages" (43 : Nat) ({ cls := "java/util/List", name := "size", desc := "()I" } : Jvm.MethodName)) ∈ lw_all := lw_g (lw_at lw_m2 189 rfl) rfl
theorem q479 : (Jvm.Cond.instanceMethod ({ cls := "ProofPages", name := "pages", desc := "()I" } : Jvm.MethodName)) ∈ lw_all := lw_g (lw_at lw_m2 199 rfl) rfl
theorem q480 : (Jvm.Cond.selects "ProofPages" ({ cls := "ProofPages", name := "pages", desc := "()I" } : Jvm.MethodName) ({ cls := "ProofPages", name := "pages", desc := "()I" } : Jvm.MethodName)) ∈ lw_all := lw_g (lw_at lw_m2 200 rfl) rfl
theorem q481 : (Jvm.Cond.code ({ cls := "ProofPages", name := "pages", desc := "()I" } : Jvm.MethodName) prog_1_method_24_code (4 : Nat) (Option.some Jvm.ClassFile.FieldType.int)) ∈ lw_all := lw_g (lw_at lw_m2 201 rfl) rfl
theorem q482 : (Jvm.Cond.methodLink "ProofPages" (158 : Nat) ({ cls := "ProofPages", name := "allLines", desc := "()I" } : Jvm.MethodName)) ∈ lw_all := lw_g (lw_at lw_m2 202 rfl) rfl
theorem q483 : (Jvm.Cond.privateMethod ({ cls := "ProofPages", name := "allLines", desc := "()I" } : Jvm.MethodName)) ∈ lw_tbl := lw_at lw_m2 203 rfl
theorem q484 : (Jvm.Cond.instanceMethod ({ cls := "ProofPages", name := "allLines", desc := "()I" } : Jvm.MethodName)) ∈ lw_all := lw_g (lw_at lw_m2 204 rfl) rfl
theorem q485 : (Jvm.Cond.code ({ cls := "ProofPages", name := "allLines", desc := "()I" } : Jvm.MethodName) prog_1_method_21_code (3 : Nat) (Option.some Jvm.ClassFile.FieldType.int)) ∈ lw_all := lw_g (lw_at lw_m2 205 rfl) rfl
theorem q486 : (Jvm.Cond.interfaceEntry "ProofPages" (53 : Nat)) ∈ lw_tbl := lw_at lw_m2 206 rfl
theorem q487 : (Jvm.Cond.methodLink "ProofPages" (53 : Nat) ({ cls := "java/util/List", name := "get", desc := "(I)Ljava/lang/Object;" } : Jvm.MethodName)) ∈ lw_all := lw_g (lw_at lw_m2 207 rfl) rfl
theorem q505 : (Jvm.Cond.classLink "ProofPages" (57 : Nat) "ProofPages$Paragraph") ∈ lw_all := lw_g (lw_at lw_m2 225 rfl) rfl
theorem q506 : (Jvm.Cond.methodLink "ProofPages" (124 : Nat) ({ cls := "ProofPages", name := "laid", desc := "(LProofPages$Paragraph;)LProofPages$Paragraph;" } : Jvm.MethodName)) ∈ lw_all := lw_g (lw_at lw_m2 226 rfl) rfl
theorem q507 : (Jvm.Cond.privateMethod ({ cls := "ProofPages", name := "laid", desc := "(LProofPages$Paragraph;)LProofPages$Paragraph;" } : Jvm.MethodName)) ∈ lw_tbl := lw_at lw_m2 227 rfl
theorem q508 : (Jvm.Cond.instanceMethod ({ cls := "ProofPages", name := "laid", desc := "(LProofPages$Paragraph;)LProofPages$Paragraph;" } : Jvm.MethodName)) ∈ lw_all := lw_g (lw_at lw_m2 228 rfl) rfl
theorem q509 : (Jvm.Cond.code ({ cls := "ProofPages", name := "laid", desc := "(LProofPages$Paragraph;)LProofPages$Paragraph;" } : Jvm.MethodName) prog_1_method_12_code (2 : Nat) (Option.some (Jvm.ClassFile.FieldType.object "ProofPages$Paragraph"))) ∈ lw_all := lw_g (lw_at lw_m2 229 rfl) rfl
theorem q510 : (Jvm.Cond.methodLink "ProofPages" (120 : Nat) ({ cls := "ProofPages$Breaker", name := "breakLines", desc := "(LProofPages$Paragraph;)V" } : Jvm.MethodName)) ∈ lw_all := lw_g (lw_at lw_m2 230 rfl) rfl
theorem q540 : (Jvm.Cond.methodLink "ProofPages" (161 : Nat) ({ cls := "ProofPages", name := "pageEnd", desc := "(II)I" } : Jvm.MethodName)) ∈ lw_all := lw_g (lw_at lw_m3 20 rfl) rfl
theorem q541 : (Jvm.Cond.privateMethod ({ cls := "ProofPages", name := "pageEnd", desc := "(II)I" } : Jvm.MethodName)) ∈ lw_tbl := lw_at lw_m3 21 rfl
theorem q542 : (Jvm.Cond.instanceMethod ({ cls := "ProofPages", name := "pageEnd", desc := "(II)I" } : Jvm.MethodName)) ∈ lw_all := lw_g (lw_at lw_m3 22 rfl) rfl
theorem q543 : (Jvm.Cond.code ({ cls := "ProofPages", name := "pageEnd", desc := "(II)I" } : Jvm.MethodName) prog_1_method_23_code (4 : Nat) (Option.some Jvm.ClassFile.FieldType.int)) ∈ lw_all := lw_g (lw_at lw_m3 23 rfl) rfl
theorem q544 : (Jvm.Cond.methodLink "ProofPages" (151 : Nat) ({ cls := "java/lang/Math", name := "min", desc := "(II)I" } : Jvm.MethodName)) ∈ lw_all := lw_g (lw_at lw_m3 24 rfl) rfl
theorem q545 : (Jvm.Cond.methodLink "ProofPages" (154 : Nat) ({ cls := "ProofPages", name := "inParagraph", desc := "(IZ)I" } : Jvm.MethodName)) ∈ lw_all := lw_g (lw_at lw_m3 25 rfl) rfl
theorem q546 : (Jvm.Cond.privateMethod ({ cls := "ProofPages", name := "inParagraph", desc := "(IZ)I" } : Jvm.MethodName)) ∈ lw_tbl := lw_at lw_m3 26 rfl
theorem q547 : (Jvm.Cond.instanceMethod ({ cls := "ProofPages", name := "inParagraph", desc := "(IZ)I" } : Jvm.MethodName)) ∈ lw_all := lw_g (lw_at lw_m3 27 rfl) rfl
theorem q548 : (Jvm.Cond.code ({ cls := "ProofPages", name := "inParagraph", desc := "(IZ)I" } : Jvm.MethodName) prog_1_method_22_code (6 : Nat) (Option.some Jvm.ClassFile.FieldType.int)) ∈ lw_all := lw_g (lw_at lw_m3 28 rfl) rfl
theorem q554 : (Jvm.Cond.instanceMethod ({ cls := "ProofPages", name := "addParagraph", desc := "()I" } : Jvm.MethodName)) ∈ lw_all := lw_g (lw_at lw_m3 34 rfl) rfl
theorem q555 : (Jvm.Cond.selects "ProofPages" ({ cls := "ProofPages", name := "addParagraph", desc := "()I" } : Jvm.MethodName) ({ cls := "ProofPages", name := "addParagraph", desc := "()I" } : Jvm.MethodName)) ∈ lw_all := lw_g (lw_at lw_m3 35 rfl) rfl
theorem q556 : (Jvm.Cond.code ({ cls := "ProofPages", name := "addParagraph", desc := "()I" } : Jvm.MethodName) prog_1_method_8_code (1 : Nat) (Option.some Jvm.ClassFile.FieldType.int)) ∈ lw_all := lw_g (lw_at lw_m3 36 rfl) rfl
theorem q557 : (Jvm.Cond.methodLink "ProofPages" (69 : Nat) ({ cls := "ProofPages", name := "checkState", desc := "(Z)V" } : Jvm.MethodName)) ∈ lw_all := lw_g (lw_at lw_m3 37 rfl) rfl
theorem q558 : (Jvm.Cond.static ({ cls := "ProofPages", name := "checkState", desc := "(Z)V" } : Jvm.MethodName)) ∈ lw_all := lw_g (lw_at lw_m3 38 rfl) rfl
theorem q559 : (Jvm.Cond.code ({ cls := "ProofPages", name := "checkState", desc := "(Z)V" } : Jvm.MethodName) prog_1_method_7_code (1 : Nat) (Option.none : Option Jvm.ClassFile.FieldType)) ∈ lw_all := lw_g (lw_at lw_m3 39 rfl) rfl
theorem q560 : (Jvm.Cond.classLink "ProofPages" (66 : Nat) "java/lang/IllegalStateException") ∈ lw_all := lw_g (lw_at lw_m3 40 rfl) rfl
theorem q569 : (Jvm.Cond.methodLink "ProofPages" (68 : Nat) ({ cls := "java/lang/IllegalStateException", name := "<init>", desc := "()V" } : Jvm.MethodName)) ∈ lw_all := lw_g (lw_at lw_m3 49 rfl) rfl
theorem q582 : (Jvm.Cond.methodLinkNest "ProofPages" (73 : Nat) ({ cls := "ProofPages$Paragraph", name := "<init>", desc := "()V" } : Jvm.MethodName) "ProofPages") ∈ lw_tbl := lw_at lw_m3 62 rfl
theorem q595 : (Jvm.Cond.fieldLinkNest "ProofPages" (93 : Nat) "ProofPages$Paragraph" "words" "Ljava/util/List;" "ProofPages") ∈ lw_tbl := lw_at lw_m3 75 rfl
theorem q598 : (Jvm.Cond.fieldLinkNest "ProofPages" (135 : Nat) "ProofPages$Paragraph" "breaks" "[I" "ProofPages") ∈ lw_tbl := lw_at lw_m3 78 rfl
theorem q600 : (Jvm.Cond.fieldLinkNest "ProofPages" (128 : Nat) "ProofPages$Paragraph" "lines" "I" "ProofPages") ∈ lw_tbl := lw_at lw_m3 80 rfl
theorem q602 : (Jvm.Cond.fieldLinkNest "ProofPages" (94 : Nat) "ProofPages$Paragraph" "isLaid" "Z" "ProofPages") ∈ lw_tbl := lw_at lw_m3 82 rfl
theorem q603 : (Jvm.Cond.fieldLinkNest "ProofPages" (86 : Nat) "ProofPages$Paragraph" "isFrozen" "Z" "ProofPages") ∈ lw_tbl := lw_at lw_m3 83 rfl
theorem q615 : (Jvm.Cond.interfaceEntry "ProofPages" (74 : Nat)) ∈ lw_tbl := lw_at lw_m3 95 rfl
theorem q616 : (Jvm.Cond.methodLink "ProofPages" (74 : Nat) ({ cls := "java/util/List", name := "add", desc := "(Ljava/lang/Object;)Z" } : Jvm.MethodName)) ∈ lw_all := lw_g (lw_at lw_m3 96 rfl) rfl
theorem q643 : (Jvm.Cond.selects "ProofPages" ({ cls := "java/lang/Object", name := "getClass", desc := "()Ljava/lang/Class;" } : Jvm.MethodName) ({ cls := "java/lang/Object", name := "getClass", desc := "()Ljava/lang/Class;" } : Jvm.MethodName)) ∈ lw_all := lw_g (lw_at lw_m3 123 rfl) rfl
theorem q687 : (Jvm.Cond.instanceMethod ({ cls := "ProofPages", name := "addWord", desc := "(II)I" } : Jvm.MethodName)) ∈ lw_all := lw_g (lw_at lw_m3 167 rfl) rfl
theorem q688 : (Jvm.Cond.selects "ProofPages" ({ cls := "ProofPages", name := "addWord", desc := "(II)I" } : Jvm.MethodName) ({ cls := "ProofPages", name := "addWord", desc := "(II)I" } : Jvm.MethodName)) ∈ lw_all := lw_g (lw_at lw_m3 168 rfl) rfl
theorem q689 : (Jvm.Cond.code ({ cls := "ProofPages", name := "addWord", desc := "(II)I" } : Jvm.MethodName) prog_1_method_9_code (5 : Nat) (Option.some Jvm.ClassFile.FieldType.int)) ∈ lw_all := lw_g (lw_at lw_m3 169 rfl) rfl
theorem q690 : (Jvm.Cond.methodLink "ProofPages" (78 : Nat) ({ cls := "ProofPages", name := "paragraph", desc := "(I)LProofPages$Paragraph;" } : Jvm.MethodName)) ∈ lw_all := lw_g (lw_at lw_m3 170 rfl) rfl
theorem q691 : (Jvm.Cond.privateMethod ({ cls := "ProofPages", name := "paragraph", desc := "(I)LProofPages$Paragraph;" } : Jvm.MethodName)) ∈ lw_tbl := lw_at lw_m3 171 rfl
theorem q692 : (Jvm.Cond.instanceMethod ({ cls := "ProofPages", name := "paragraph", desc := "(I)LProofPages$Paragraph;" } : Jvm.MethodName)) ∈ lw_all := lw_g (lw_at lw_m3 172 rfl) rfl
theorem q693 : (Jvm.Cond.code ({ cls := "ProofPages", name := "paragraph", desc := "(I)LProofPages$Paragraph;" } : Jvm.MethodName) prog_1_method_3_code (2 : Nat) (Option.some (Jvm.ClassFile.FieldType.object "ProofPages$Paragraph"))) ∈ lw_all := lw_g (lw_at lw_m3 173 rfl) rfl
theorem q694 : (Jvm.Cond.methodLink "ProofPages" (49 : Nat) ({ cls := "ProofPages", name := "checkIndex", desc := "(II)V" } : Jvm.MethodName)) ∈ lw_all := lw_g (lw_at lw_m3 174 rfl) rfl
theorem q695 : (Jvm.Cond.static ({ cls := "ProofPages", name := "checkIndex", desc := "(II)V" } : Jvm.MethodName)) ∈ lw_all := lw_g (lw_at lw_m3 175 rfl) rfl
theorem q696 : (Jvm.Cond.code ({ cls := "ProofPages", name := "checkIndex", desc := "(II)V" } : Jvm.MethodName) prog_1_method_2_code (2 : Nat) (Option.none : Option Jvm.ClassFile.FieldType)) ∈ lw_all := lw_g (lw_at lw_m3 176 rfl) rfl
theorem q697 : (Jvm.Cond.classLink "ProofPages" (40 : Nat) "java/lang/IndexOutOfBoundsException") ∈ lw_all := lw_g (lw_at lw_m3 177 rfl) rfl
theorem q706 : (Jvm.Cond.methodLink "ProofPages" (42 : Nat) ({ cls := "java/lang/IndexOutOfBoundsException", name := "<init>", desc := "()V" } : Jvm.MethodName)) ∈ lw_all := lw_g (lw_at lw_m3 186 rfl) rfl
theorem q712 : (Jvm.Cond.methodLink "ProofPages" (82 : Nat) ({ cls := "ProofPages", name := "checkRange", desc := "(III)V" } : Jvm.MethodName)) ∈ lw_all := lw_g (lw_at lw_m3 192 rfl) rfl
theorem q713 : (Jvm.Cond.static ({ cls := "ProofPages", name := "checkRange", desc := "(III)V" } : Jvm.MethodName)) ∈ lw_all := lw_g (lw_at lw_m3 193 rfl) rfl
theorem q714 : (Jvm.Cond.code ({ cls := "ProofPages", name := "checkRange", desc := "(III)V" } : Jvm.MethodName) prog_1_method_6_code (3 : Nat) (Option.none : Option Jvm.ClassFile.FieldType)) ∈ lw_all := lw_g (lw_at lw_m3 194 rfl) rfl
theorem q715 : (Jvm.Cond.classLink "ProofPages" (63 : Nat) "java/lang/IllegalArgumentException") ∈ lw_all := lw_g (lw_at lw_m3 195 rfl) rfl
theorem q716 : (Jvm.Cond.methodLink "ProofPages" (65 : Nat) ({ cls := "java/lang/IllegalArgumentException", name := "<init>", desc := "()V" } : Jvm.MethodName)) ∈ lw_all := lw_g (lw_at lw_m3 196 rfl) rfl
theorem q720 : (Jvm.Cond.classLink "ProofPages" (59 : Nat) "ProofPages$Word") ∈ lw_all := lw_g (lw_at lw_m3 200 rfl) rfl
theorem q722 : (Jvm.Cond.methodLink "ProofPages" (90 : Nat) ({ cls := "ProofPages$Word", name := "<init>", desc := "(ILProofPages$Paragraph;I)V" } : Jvm.MethodName)) ∈ lw_all := lw_g (lw_at lw_m3 202 rfl) rfl
theorem q729 : (Jvm.Cond.fieldLinkNest "ProofPages" (97 : Nat) "ProofPages$Word" "number" "I" "ProofPages") ∈ lw_tbl := lw_at lw_m3 209 rfl
theorem q731 : (Jvm.Cond.fieldLinkNest "ProofPages" (117 : Nat) "ProofPages$Word" "paragraph" "LProofPages$Paragraph;" "ProofPages") ∈ lw_tbl := lw_at lw_m3 211 rfl
theorem q733 : (Jvm.Cond.fieldLinkNest "ProofPages" (167 : Nat) "ProofPages$Word" "index" "I" "ProofPages") ∈ lw_tbl := lw_at lw_m3 213 rfl
theorem q736 : (Jvm.Cond.fieldLinkNest "ProofPages" (104 : Nat) "ProofPages$Word" "letters" "I" "ProofPages") ∈ lw_tbl := lw_at lw_m3 216 rfl
theorem q739 : (Jvm.Cond.fieldLinkNest "ProofPages" (107 : Nat) "ProofPages$Word" "scores" "[I" "ProofPages") ∈ lw_tbl := lw_at lw_m3 219 rfl
theorem q755 : (Jvm.Cond.instanceMethod ({ cls := "ProofPages", name := "vote", desc := "(IIZ)I" } : Jvm.MethodName)) ∈ lw_all := lw_g (lw_at lw_m3 235 rfl) rfl
theorem q756 : (Jvm.Cond.selects "ProofPages" ({ cls := "ProofPages", name := "vote", desc := "(IIZ)I" } : Jvm.MethodName) ({ cls := "ProofPages", name := "vote", desc := "(IIZ)I" } : Jvm.MethodName)) ∈ lw_all := lw_g (lw_at lw_m3 236 rfl) rfl
theorem q757 : (Jvm.Cond.code ({ cls := "ProofPages", name := "vote", desc := "(IIZ)I" } : Jvm.MethodName) prog_1_method_10_code (6 : Nat) (Option.some Jvm.ClassFile.FieldType.int)) ∈ lw_all := lw_g (lw_at lw_m3 237 rfl) rfl
theorem q758 : (Jvm.Cond.methodLink "ProofPages" (100 : Nat) ({ cls := "ProofPages", name := "word", desc := "(I)LProofPages$Word;" } : Jvm.MethodName)) ∈ lw_all := lw_g (lw_at lw_m3 238 rfl) rfl
theorem q759 : (Jvm.Cond.privateMethod ({ cls := "ProofPages", name := "word", desc := "(I)LProofPages$Word;" } : Jvm.MethodName)) ∈ lw_tbl := lw_at lw_m3 239 rfl
theorem q760 : (Jvm.Cond.instanceMethod ({ cls := "ProofPages", name := "word", desc := "(I)LProofPages$Word;" } : Jvm.MethodName)) ∈ lw_all := lw_g (lw_at lw_m4 0 rfl) rfl
theorem q761 : (Jvm.Cond.code ({ cls := "ProofPages", name := "word", desc := "(I)LProofPages$Word;" } : Jvm.MethodName) prog_1_method_4_code (2 : Nat) (Option.some (Jvm.ClassFile.FieldType.object "ProofPages$Word"))) ∈ lw_all := lw_g (lw_at lw_m4 1 rfl) rfl
theorem q762 : (Jvm.Cond.methodLink "ProofPages" (111 : Nat) ({ cls := "java/lang/Math", name := "abs", desc := "(I)I" } : Jvm.MethodName)) ∈ lw_all := lw_g (lw_at lw_m4 2 rfl) rfl
theorem q769 : (Jvm.Cond.instanceMethod ({ cls := "ProofPages", name := "setPage", desc := "(II)I" } : Jvm.MethodName)) ∈ lw_all := lw_g (lw_at lw_m4 9 rfl) rfl
theorem q770 : (Jvm.Cond.selects "ProofPages" ({ cls := "ProofPages", name := "setPage", desc := "(II)I" } : Jvm.MethodName) ({ cls := "ProofPages", name := "setPage", desc := "(II)I" } : Jvm.MethodName)) ∈ lw_all := lw_g (lw_at lw_m4 10 rfl) rfl
theorem q771 : (Jvm.Cond.code ({ cls := "ProofPages", name := "setPage", desc := "(II)I" } : Jvm.MethodName) prog_1_method_11_code (5 : Nat) (Option.some Jvm.ClassFile.FieldType.int)) ∈ lw_all := lw_g (lw_at lw_m4 11 rfl) rfl
theorem q776 : (Jvm.Cond.instanceMethod ({ cls := "ProofPages", name := "freeze", desc := "(I)I" } : Jvm.MethodName)) ∈ lw_all := lw_g (lw_at lw_m4 16 rfl) rfl
theorem q777 : (Jvm.Cond.selects "ProofPages" ({ cls := "ProofPages", name := "freeze", desc := "(I)I" } : Jvm.MethodName) ({ cls := "ProofPages", name := "freeze", desc := "(I)I" } : Jvm.MethodName)) ∈ lw_all := lw_g (lw_at lw_m4 17 rfl) rfl
theorem q778 : (Jvm.Cond.code ({ cls := "ProofPages", name := "freeze", desc := "(I)I" } : Jvm.MethodName) prog_1_method_13_code (3 : Nat) (Option.some Jvm.ClassFile.FieldType.int)) ∈ lw_all := lw_g (lw_at lw_m4 18 rfl) rfl
theorem q783 : (Jvm.Cond.instanceMethod ({ cls := "ProofPages", name := "lines", desc := "(I)I" } : Jvm.MethodName)) ∈ lw_all := lw_g (lw_at lw_m4 23 rfl) rfl
theorem q784 : (Jvm.Cond.selects "ProofPages" ({ cls := "ProofPages", name := "lines", desc := "(I)I" } : Jvm.MethodName) ({ cls := "ProofPages", name := "lines", desc := "(I)I" } : Jvm.MethodName)) ∈ lw_all := lw_g (lw_at lw_m4 24 rfl) rfl
theorem q785 : (Jvm.Cond.code ({ cls := "ProofPages", name := "lines", desc := "(I)I" } : Jvm.MethodName) prog_1_method_15_code (2 : Nat) (Option.some Jvm.ClassFile.FieldType.int)) ∈ lw_all := lw_g (lw_at lw_m4 25 rfl) rfl
theorem q790 : (Jvm.Cond.instanceMethod ({ cls := "ProofPages", name := "lineEnd", desc := "(II)I" } : Jvm.MethodName)) ∈ lw_all := lw_g (lw_at lw_m4 30 rfl) rfl
theorem q791 : (Jvm.Cond.selects "ProofPages" ({ cls := "ProofPages", name := "lineEnd", desc := "(II)I" } : Jvm.MethodName) ({ cls := "ProofPages", name := "lineEnd", desc := "(II)I" } : Jvm.MethodName)) ∈ lw_all := lw_g (lw_at lw_m4 31 rfl) rfl
theorem q792 : (Jvm.Cond.code ({ cls := "ProofPages", name := "lineEnd", desc := "(II)I" } : Jvm.MethodName) prog_1_method_17_code (7 : Nat) (Option.some Jvm.ClassFile.FieldType.int)) ∈ lw_all := lw_g (lw_at lw_m4 32 rfl) rfl
theorem q793 : (Jvm.Cond.methodLink "ProofPages" (131 : Nat) ({ cls := "ProofPages", name := "withLine", desc := "(II)LProofPages$Paragraph;" } : Jvm.MethodName)) ∈ lw_all := lw_g (lw_at lw_m4 33 rfl) rfl
theorem q794 : (Jvm.Cond.privateMethod ({ cls := "ProofPages", name := "withLine", desc := "(II)LProofPages$Paragraph;" } : Jvm.MethodName)) ∈ lw_tbl := lw_at lw_m4 34 rfl
theorem q795 : (Jvm.Cond.instanceMethod ({ cls := "ProofPages", name := "withLine", desc := "(II)LProofPages$Paragraph;" } : Jvm.MethodName)) ∈ lw_all := lw_g (lw_at lw_m4 35 rfl) rfl
theorem q796 : (Jvm.Cond.code ({ cls := "ProofPages", name := "withLine", desc := "(II)LProofPages$Paragraph;" } : Jvm.MethodName) prog_1_method_16_code (4 : Nat) (Option.some (Jvm.ClassFile.FieldType.object "ProofPages$Paragraph"))) ∈ lw_all := lw_g (lw_at lw_m4 36 rfl) rfl
theorem q801 : (Jvm.Cond.instanceMethod ({ cls := "ProofPages", name := "length", desc := "(II)I" } : Jvm.MethodName)) ∈ lw_all := lw_g (lw_at lw_m4 41 rfl) rfl
theorem q802 : (Jvm.Cond.selects "ProofPages" ({ cls := "ProofPages", name := "length", desc := "(II)I" } : Jvm.MethodName) ({ cls := "ProofPages", name := "length", desc := "(II)I" } : Jvm.MethodName)) ∈ lw_all := lw_g (lw_at lw_m4 42 rfl) rfl
theorem q803 : (Jvm.Cond.code ({ cls := "ProofPages", name := "length", desc := "(II)I" } : Jvm.MethodName) prog_1_method_18_code (4 : Nat) (Option.some Jvm.ClassFile.FieldType.int)) ∈ lw_all := lw_g (lw_at lw_m4 43 rfl) rfl
theorem q804 : (Jvm.Cond.methodLink "ProofPages" (138 : Nat) ({ cls := "ProofPages$Breaker", name := "lay", desc := "(LProofPages$Paragraph;)V" } : Jvm.MethodName)) ∈ lw_all := lw_g (lw_at lw_m4 44 rfl) rfl
theorem q805 : (Jvm.Cond.methodLink "ProofPages" (141 : Nat) ({ cls := "ProofPages$Breaker", name := "length", desc := "(II)I" } : Jvm.MethodName)) ∈ lw_all := lw_g (lw_at lw_m4 45 rfl) rfl
theorem q810 : (Jvm.Cond.instanceMethod ({ cls := "ProofPages", name := "badness", desc := "(I)I" } : Jvm.MethodName)) ∈ lw_all := lw_g (lw_at lw_m4 50 rfl) rfl
theorem q811 : (Jvm.Cond.selects "ProofPages" ({ cls := "ProofPages", name := "badness", desc := "(I)I" } : Jvm.MethodName) ({ cls := "ProofPages", name := "badness", desc := "(I)I" } : Jvm.MethodName)) ∈ lw_all := lw_g (lw_at lw_m4 51 rfl) rfl
theorem q812 : (Jvm.Cond.code ({ cls := "ProofPages", name := "badness", desc := "(I)I" } : Jvm.MethodName) prog_1_method_19_code (2 : Nat) (Option.some Jvm.ClassFile.FieldType.int)) ∈ lw_all := lw_g (lw_at lw_m4 52 rfl) rfl
theorem q813 : (Jvm.Cond.methodLink "ProofPages" (145 : Nat) ({ cls := "ProofPages$Breaker", name := "backwards", desc := "()I" } : Jvm.MethodName)) ∈ lw_all := lw_g (lw_at lw_m4 53 rfl) rfl
theorem q818 : (Jvm.Cond.instanceMethod ({ cls := "ProofPages", name := "badnessForwards", desc := "(I)I" } : Jvm.MethodName)) ∈ lw_all := lw_g (lw_at lw_m4 58 rfl) rfl
theorem q819 : (Jvm.Cond.selects "ProofPages" ({ cls := "ProofPages", name := "badnessForwards", desc := "(I)I" } : Jvm.MethodName) ({ cls := "ProofPages", name := "badnessForwards", desc := "(I)I" } : Jvm.MethodName)) ∈ lw_all := lw_g (lw_at lw_m4 59 rfl) rfl
theorem q820 : (Jvm.Cond.code ({ cls := "ProofPages", name := "badnessForwards", desc := "(I)I" } : Jvm.MethodName) prog_1_method_20_code (2 : Nat) (Option.some Jvm.ClassFile.FieldType.int)) ∈ lw_all := lw_g (lw_at lw_m4 60 rfl) rfl
theorem q821 : (Jvm.Cond.methodLink "ProofPages" (148 : Nat) ({ cls := "ProofPages$Breaker", name := "forwards", desc := "()I" } : Jvm.MethodName)) ∈ lw_all := lw_g (lw_at lw_m4 61 rfl) rfl
theorem q830 : (Jvm.Cond.instanceMethod ({ cls := "ProofPages", name := "linesOn", desc := "(I)I" } : Jvm.MethodName)) ∈ lw_all := lw_g (lw_at lw_m4 70 rfl) rfl
theorem q831 : (Jvm.Cond.selects "ProofPages" ({ cls := "ProofPages", name := "linesOn", desc := "(I)I" } : Jvm.MethodName) ({ cls := "ProofPages", name := "linesOn", desc := "(I)I" } : Jvm.MethodName)) ∈ lw_all := lw_g (lw_at lw_m4 71 rfl) rfl
theorem q832 : (Jvm.Cond.code ({ cls := "ProofPages", name := "linesOn", desc := "(I)I" } : Jvm.MethodName) prog_1_method_25_code (5 : Nat) (Option.some Jvm.ClassFile.FieldType.int)) ∈ lw_all := lw_g (lw_at lw_m4 72 rfl) rfl
theorem q833 : (Jvm.Cond.constant "ProofPages" (166 : Nat) (2147483647 : Int32)) ∈ lw_all := lw_g (lw_at lw_m4 73 rfl) rfl
theorem q838 : (Jvm.Cond.instanceMethod ({ cls := "ProofPages", name := "where", desc := "(I)I" } : Jvm.MethodName)) ∈ lw_all := lw_g (lw_at lw_m4 78 rfl) rfl
theorem q839 : (Jvm.Cond.selects "ProofPages" ({ cls := "ProofPages", name := "where", desc := "(I)I" } : Jvm.MethodName) ({ cls := "ProofPages", name := "where", desc := "(I)I" } : Jvm.MethodName)) ∈ lw_all := lw_g (lw_at lw_m4 79 rfl) rfl
theorem q840 : (Jvm.Cond.code ({ cls := "ProofPages", name := "where", desc := "(I)I" } : Jvm.MethodName) prog_1_method_27_code (2 : Nat) (Option.some Jvm.ClassFile.FieldType.int)) ∈ lw_all := lw_g (lw_at lw_m4 80 rfl) rfl
theorem q841 : (Jvm.Cond.methodLink "ProofPages" (173 : Nat) ({ cls := "ProofPages", name := "whereIs", desc := "(LProofPages$Word;)I" } : Jvm.MethodName)) ∈ lw_all := lw_g (lw_at lw_m4 81 rfl) rfl
theorem q842 : (Jvm.Cond.privateMethod ({ cls := "ProofPages", name := "whereIs", desc := "(LProofPages$Word;)I" } : Jvm.MethodName)) ∈ lw_tbl := lw_at lw_m4 82 rfl
theorem q843 : (Jvm.Cond.instanceMethod ({ cls := "ProofPages", name := "whereIs", desc := "(LProofPages$Word;)I" } : Jvm.MethodName)) ∈ lw_all := lw_g (lw_at lw_m4 83 rfl) rfl
theorem q844 : (Jvm.Cond.code ({ cls := "ProofPages", name := "whereIs", desc := "(LProofPages$Word;)I" } : Jvm.MethodName) prog_1_method_26_code (7 : Nat) (Option.some Jvm.ClassFile.FieldType.int)) ∈ lw_all := lw_g (lw_at lw_m4 84 rfl) rfl
theorem q845 : (Jvm.Cond.methodLink "ProofPages" (170 : Nat) ({ cls := "ProofPages$Paragraph", name := "lineWith", desc := "(I)I" } : Jvm.MethodName)) ∈ lw_all := lw_g (lw_at lw_m4 85 rfl) rfl
theorem q853 : (Jvm.Cond.instanceMethod ({ cls := "ProofPages", name := "report", desc := "(II)I" } : Jvm.MethodName)) ∈ lw_all := lw_g (lw_at lw_m4 93 rfl) rfl
theorem q854 : (Jvm.Cond.selects "ProofPages" ({ cls := "ProofPages", name := "report", desc := "(II)I" } : Jvm.MethodName) ({ cls := "ProofPages", name := "report", desc := "(II)I" } : Jvm.MethodName)) ∈ lw_all := lw_g (lw_at lw_m4 94 rfl) rfl
theorem q855 : (Jvm.Cond.code ({ cls := "ProofPages", name := "report", desc := "(II)I" } : Jvm.MethodName) prog_1_method_28_code (6 : Nat) (Option.some Jvm.ClassFile.FieldType.int)) ∈ lw_all := lw_g (lw_at lw_m4 95 rfl) rfl
theorem q856 : (Jvm.Cond.classLink "ProofPages" (61 : Nat) "ProofPages$Mistake") ∈ lw_all := lw_g (lw_at lw_m4 96 rfl) rfl
theorem q858 : (Jvm.Cond.methodLink "ProofPages" (183 : Nat) ({ cls := "ProofPages$Mistake", name := "<init>", desc := "(ILProofPages$Word;)V" } : Jvm.MethodName)) ∈ lw_all := lw_g (lw_at lw_m4 98 rfl) rfl
theorem q863 : (Jvm.Cond.fieldLinkNest "ProofPages" (186 : Nat) "ProofPages$Mistake" "reader" "I" "ProofPages") ∈ lw_tbl := lw_at lw_m4 103 rfl
theorem q865 : (Jvm.Cond.fieldLinkNest "ProofPages" (177 : Nat) "ProofPages$Mistake" "word" "LProofPages$Word;" "ProofPages") ∈ lw_tbl := lw_at lw_m4 105 rfl
theorem q867 : (Jvm.Cond.fieldLinkNest "ProofPages" (180 : Nat) "ProofPages$Mistake" "state" "I" "ProofPages") ∈ lw_tbl := lw_at lw_m4 107 rfl
theorem q879 : (Jvm.Cond.instanceMethod ({ cls := "ProofPages", name := "judge", desc := "(IZ)I" } : Jvm.MethodName)) ∈ lw_all := lw_g (lw_at lw_m4 119 rfl) rfl
theorem q880 : (Jvm.Cond.selects "ProofPages" ({ cls := "ProofPages", name := "judge", desc := "(IZ)I" } : Jvm.MethodName) ({ cls := "ProofPages", name := "judge", desc := "(IZ)I" } : Jvm.MethodName)) ∈ lw_all := lw_g (lw_at lw_m4 120 rfl) rfl
theorem q881 : (Jvm.Cond.code ({ cls := "ProofPages", name := "judge", desc := "(IZ)I" } : Jvm.MethodName) prog_1_method_30_code (4 : Nat) (Option.some Jvm.ClassFile.FieldType.int)) ∈ lw_all := lw_g (lw_at lw_m4 121 rfl) rfl
theorem q882 : (Jvm.Cond.methodLink "ProofPages" (192 : Nat) ({ cls := "ProofPages", name := "error", desc := "(I)LProofPages$Mistake;" } : Jvm.MethodName)) ∈ lw_all := lw_g (lw_at lw_m4 122 rfl) rfl
theorem q883 : (Jvm.Cond.privateMethod ({ cls := "ProofPages", name := "error", desc := "(I)LProofPages$Mistake;" } : Jvm.MethodName)) ∈ lw_tbl := lw_at lw_m4 123 rfl
theorem q884 : (Jvm.Cond.instanceMethod ({ cls := "ProofPages", name := "error", desc := "(I)LProofPages$Mistake;" } : Jvm.MethodName)) ∈ lw_all := lw_g (lw_at lw_m4 124 rfl) rfl
theorem q885 : (Jvm.Cond.code ({ cls := "ProofPages", name := "error", desc := "(I)LProofPages$Mistake;" } : Jvm.MethodName) prog_1_method_5_code (2 : Nat) (Option.some (Jvm.ClassFile.FieldType.object "ProofPages$Mistake"))) ∈ lw_all := lw_g (lw_at lw_m4 125 rfl) rfl
theorem q886 : (Jvm.Cond.methodLink "ProofPages" (196 : Nat) ({ cls := "ProofPages", name := "points", desc := "(I)I" } : Jvm.MethodName)) ∈ lw_all := lw_g (lw_at lw_m4 126 rfl) rfl
theorem q887 : (Jvm.Cond.privateMethod ({ cls := "ProofPages", name := "points", desc := "(I)I" } : Jvm.MethodName)) ∈ lw_tbl := lw_at lw_m4 127 rfl
theorem q888 : (Jvm.Cond.instanceMethod ({ cls := "ProofPages", name := "points", desc := "(I)I" } : Jvm.MethodName)) ∈ lw_all := lw_g (lw_at lw_m4 128 rfl) rfl
theorem q889 : (Jvm.Cond.code ({ cls := "ProofPages", name := "points", desc := "(I)I" } : Jvm.MethodName) prog_1_method_29_code (4 : Nat) (Option.some Jvm.ClassFile.FieldType.int)) ∈ lw_all := lw_g (lw_at lw_m4 129 rfl) rfl
theorem q890 : (Jvm.Cond.methodLink "ProofPages" (189 : Nat) ({ cls := "ProofPages$Mistake", name := "points", desc := "()I" } : Jvm.MethodName)) ∈ lw_all := lw_g (lw_at lw_m4 130 rfl) rfl
theorem q898 : (Jvm.Cond.instanceMethod ({ cls := "ProofPages", name := "errorAt", desc := "(I)I" } : Jvm.MethodName)) ∈ lw_all := lw_g (lw_at lw_m4 138 rfl) rfl
theorem q899 : (Jvm.Cond.selects "ProofPages" ({ cls := "ProofPages", name := "errorAt", desc := "(I)I" } : Jvm.MethodName) ({ cls := "ProofPages", name := "errorAt", desc := "(I)I" } : Jvm.MethodName)) ∈ lw_all := lw_g (lw_at lw_m4 139 rfl) rfl
theorem q900 : (Jvm.Cond.code ({ cls := "ProofPages", name := "errorAt", desc := "(I)I" } : Jvm.MethodName) prog_1_method_31_code (2 : Nat) (Option.some Jvm.ClassFile.FieldType.int)) ∈ lw_all := lw_g (lw_at lw_m4 140 rfl) rfl
theorem q905 : (Jvm.Cond.instanceMethod ({ cls := "ProofPages", name := "stateOf", desc := "(I)I" } : Jvm.MethodName)) ∈ lw_all := lw_g (lw_at lw_m4 145 rfl) rfl
theorem q906 : (Jvm.Cond.selects "ProofPages" ({ cls := "ProofPages", name := "stateOf", desc := "(I)I" } : Jvm.MethodName) ({ cls := "ProofPages", name := "stateOf", desc := "(I)I" } : Jvm.MethodName)) ∈ lw_all := lw_g (lw_at lw_m4 146 rfl) rfl
theorem q907 : (Jvm.Cond.code ({ cls := "ProofPages", name := "stateOf", desc := "(I)I" } : Jvm.MethodName) prog_1_method_32_code (2 : Nat) (Option.some Jvm.ClassFile.FieldType.int)) ∈ lw_all := lw_g (lw_at lw_m4 147 rfl) rfl
theorem q912 : (Jvm.Cond.instanceMethod ({ cls := "ProofPages", name := "readerAt", desc := "(I)I" } : Jvm.MethodName)) ∈ lw_all := lw_g (lw_at lw_m4 152 rfl) rfl
theorem q913 : (Jvm.Cond.selects "ProofPages" ({ cls := "ProofPages", name := "readerAt", desc := "(I)I" } : Jvm.MethodName) ({ cls := "ProofPages", name := "readerAt", desc := "(I)I" } : Jvm.MethodName)) ∈ lw_all := lw_g (lw_at lw_m4 153 rfl) rfl
theorem q914 : (Jvm.Cond.code ({ cls := "ProofPages", name := "readerAt", desc := "(I)I" } : Jvm.MethodName) prog_1_method_33_code (6 : Nat) (Option.some Jvm.ClassFile.FieldType.int)) ∈ lw_all := lw_g (lw_at lw_m4 154 rfl) rfl
theorem q1178 : (Jvm.Cond.castable "ProofPages" "java/lang/Object") ∈ lw_tbl := lw_at lw_m5 178 rfl
theorem in_X1 : ∀ w ∈ wsX10, w ∈ lw_all := lw_in wsX10 [451, 453, 455, 457, 459, 461] (by decide +kernel) (by decide +kernel)

/-! ProofPages$Breaker -/
set_option maxRecDepth 100000
def RX2 : String := "ProofPages$Breaker"
def TX2 : u_T := fun k => match k with
  | 0 => ("ProofPages$Breaker", "spots", "[I", true)
  | 1 => ("ProofPages$Breaker", "ahead", "[I", true)
  | 2 => ("ProofPages$Breaker", "best", "[I", true)
  | 3 => ("ProofPages$Breaker", "next", "[I", true)
  | 4 => ("ProofPages$Breaker", "count", "I", false)
  | _ => ("ProofPages$Breaker", "this$0", "LProofPages;", true)
def tyX2 : Nat → FieldType := fun k => match k with
  | 0 => .array .int
  | 1 => .array .int
  | 2 => .array .int
  | 3 => .array .int
  | 4 => .int
  | _ => .object "ProofPages"
abbrev wsX20 : List Cond := u_ws RX2 TX2 6
theorem nmX2 : ∀ a, a < 6 → ∀ b, b < 6 → a ≠ b → (TX2 a).2.1 ≠ (TX2 b).2.1 := by decide +kernel
theorem tyX2_ok : ∀ k, k < 6 → parseFieldDescriptor (TX2 k).2.2.1 = some (tyX2 k) := by decide +kernel
abbrev cX2_init : ByteArray := prog_2_method_1_code
def yX2_init : MethodName := ⟨RX2, "<init>", "(LProofPages;)V"⟩
def dkwX2_init_1 : List UInt8 := [181, 0, 19, 42, 17, 3, 133, 188, 10, 181, 0, 22, 42, 17, 3, 133, 188, 10, 181, 0, 25, 177]
abbrev dktX2_init_1 : List UInt8 := dkwX2_init_1 ++ []
def dkwX2_init_0 : List UInt8 := [42, 43, 181, 0, 3, 42, 183, 0, 9, 42, 17, 3, 133, 188, 10, 181, 0, 15, 42, 16, 61, 188, 10]
abbrev dktX2_init_0 : List UInt8 := dkwX2_init_0 ++ dktX2_init_1
theorem dksX2_init_0 : cX2_init.data.toList.drop 0 = dktX2_init_0 := by decide +kernel
theorem dksX2_init_1 : cX2_init.data.toList.drop 23 = dktX2_init_1 := dk_seg dksX2_init_0 23 rfl rfl
theorem dX2_init_0 : decode cX2_init 0 = .ok (.aload_n 0, 1) := dk_42 (dk_at dksX2_init_0 0 rfl rfl)
theorem dX2_init_1 : decode cX2_init 1 = .ok (.aload_n 1, 1) := dk_43 (dk_at dksX2_init_0 1 rfl rfl)
theorem dX2_init_2 : decode cX2_init 2 = .ok (.putfield 3, 3) := dk_181 0 3 (dk_at dksX2_init_0 2 rfl rfl)
theorem dX2_init_5 : decode cX2_init 5 = .ok (.aload_n 0, 1) := dk_42 (dk_at dksX2_init_0 5 rfl rfl)
theorem dX2_init_6 : decode cX2_init 6 = .ok (.invokespecial 9, 3) := dk_183 0 9 (dk_at dksX2_init_0 6 rfl rfl)
theorem dX2_init_9 : decode cX2_init 9 = .ok (.aload_n 0, 1) := dk_42 (dk_at dksX2_init_0 9 rfl rfl)
theorem dX2_init_10 : decode cX2_init 10 = .ok (.sipush 901, 3) := dk_17 3 133 (dk_at dksX2_init_0 10 rfl rfl)
theorem dX2_init_13 : decode cX2_init 13 = .ok (.newarray .int, 2) := dk_188_10 (dk_at dksX2_init_0 13 rfl rfl)
theorem dX2_init_15 : decode cX2_init 15 = .ok (.putfield 15, 3) := dk_181 0 15 (dk_at dksX2_init_0 15 rfl rfl)
theorem dX2_init_18 : decode cX2_init 18 = .ok (.aload_n 0, 1) := dk_42 (dk_at dksX2_init_0 18 rfl rfl)
theorem dX2_init_19 : decode cX2_init 19 = .ok (.bipush 61, 2) := dk_16 61 (dk_at dksX2_init_0 19 rfl rfl)
theorem dX2_init_21 : decode cX2_init 21 = .ok (.newarray .int, 2) := dk_188_10 (dk_at dksX2_init_0 21 rfl rfl)
theorem dX2_init_23 : decode cX2_init 23 = .ok (.putfield 19, 3) := dk_181 0 19 (dk_at dksX2_init_1 0 rfl rfl)
theorem dX2_init_26 : decode cX2_init 26 = .ok (.aload_n 0, 1) := dk_42 (dk_at dksX2_init_1 3 rfl rfl)
theorem dX2_init_27 : decode cX2_init 27 = .ok (.sipush 901, 3) := dk_17 3 133 (dk_at dksX2_init_1 4 rfl rfl)
theorem dX2_init_30 : decode cX2_init 30 = .ok (.newarray .int, 2) := dk_188_10 (dk_at dksX2_init_1 7 rfl rfl)
theorem dX2_init_32 : decode cX2_init 32 = .ok (.putfield 22, 3) := dk_181 0 22 (dk_at dksX2_init_1 9 rfl rfl)
theorem dX2_init_35 : decode cX2_init 35 = .ok (.aload_n 0, 1) := dk_42 (dk_at dksX2_init_1 12 rfl rfl)
theorem dX2_init_36 : decode cX2_init 36 = .ok (.sipush 901, 3) := dk_17 3 133 (dk_at dksX2_init_1 13 rfl rfl)
theorem dX2_init_39 : decode cX2_init 39 = .ok (.newarray .int, 2) := dk_188_10 (dk_at dksX2_init_1 16 rfl rfl)
theorem dX2_init_41 : decode cX2_init 41 = .ok (.putfield 25, 3) := dk_181 0 25 (dk_at dksX2_init_1 18 rfl rfl)
theorem dX2_init_44 : decode cX2_init 44 = .ok (.return_, 1) := dk_177 (dk_at dksX2_init_1 21 rfl rfl)
abbrev cX2_breakLines : ByteArray := prog_2_method_8_code
def yX2_breakLines : MethodName := ⟨RX2, "breakLines", "(LProofPages$Paragraph;)V"⟩
def dkwX2_breakLines_2 : List UInt8 := [29, 46, 46, 79, 42, 180, 0, 25, 29, 46, 62, 167, 255, 219, 43, 28, 181, 0, 88, 177]
abbrev dktX2_breakLines_2 : List UInt8 := dkwX2_breakLines_2 ++ []
def dkwX2_breakLines_1 : List UInt8 := [180, 0, 28, 4, 100, 162, 0, 33, 132, 2, 1, 43, 180, 0, 85, 28, 42, 180, 0, 15, 42, 180, 0, 25]
abbrev dktX2_breakLines_1 : List UInt8 := dkwX2_breakLines_1 ++ dktX2_breakLines_2
def dkwX2_breakLines_0 : List UInt8 := [42, 43, 182, 0, 78, 42, 182, 0, 82, 87, 3, 61, 43, 180, 0, 85, 3, 3, 79, 3, 62, 29, 42]
abbrev dktX2_breakLines_0 : List UInt8 := dkwX2_breakLines_0 ++ dktX2_breakLines_1
theorem dksX2_breakLines_0 : cX2_breakLines.data.toList.drop 0 = dktX2_breakLines_0 := by decide +kernel
theorem dksX2_breakLines_1 : cX2_breakLines.data.toList.drop 23 = dktX2_breakLines_1 := dk_seg dksX2_breakLines_0 23 rfl rfl
theorem dksX2_breakLines_2 : cX2_breakLines.data.toList.drop 47 = dktX2_breakLines_2 := dk_seg dksX2_breakLines_1 24 rfl rfl
theorem dX2_breakLines_0 : decode cX2_breakLines 0 = .ok (.aload_n 0, 1) := dk_42 (dk_at dksX2_breakLines_0 0 rfl rfl)
theorem dX2_breakLines_1 : decode cX2_breakLines 1 = .ok (.aload_n 1, 1) := dk_43 (dk_at dksX2_breakLines_0 1 rfl rfl)
theorem dX2_breakLines_2 : decode cX2_breakLines 2 = .ok (.invokevirtual 78, 3) := dk_182 0 78 (dk_at dksX2_breakLines_0 2 rfl rfl)
theorem dX2_breakLines_5 : decode cX2_breakLines 5 = .ok (.aload_n 0, 1) := dk_42 (dk_at dksX2_breakLines_0 5 rfl rfl)
theorem dX2_breakLines_6 : decode cX2_breakLines 6 = .ok (.invokevirtual 82, 3) := dk_182 0 82 (dk_at dksX2_breakLines_0 6 rfl rfl)
theorem dX2_breakLines_9 : decode cX2_breakLines 9 = .ok (.pop, 1) := dk_87 (dk_at dksX2_breakLines_0 9 rfl rfl)
theorem dX2_breakLines_10 : decode cX2_breakLines 10 = .ok (.iconst 0, 1) := dk_3 (dk_at dksX2_breakLines_0 10 rfl rfl)
theorem dX2_breakLines_11 : decode cX2_breakLines 11 = .ok (.istore_n 2, 1) := dk_61 (dk_at dksX2_breakLines_0 11 rfl rfl)
theorem dX2_breakLines_12 : decode cX2_breakLines 12 = .ok (.aload_n 1, 1) := dk_43 (dk_at dksX2_breakLines_0 12 rfl rfl)
theorem dX2_breakLines_13 : decode cX2_breakLines 13 = .ok (.getfield 85, 3) := dk_180 0 85 (dk_at dksX2_breakLines_0 13 rfl rfl)
theorem dX2_breakLines_16 : decode cX2_breakLines 16 = .ok (.iconst 0, 1) := dk_3 (dk_at dksX2_breakLines_0 16 rfl rfl)
theorem dX2_breakLines_17 : decode cX2_breakLines 17 = .ok (.iconst 0, 1) := dk_3 (dk_at dksX2_breakLines_0 17 rfl rfl)
theorem dX2_breakLines_18 : decode cX2_breakLines 18 = .ok (.iastore, 1) := dk_79 (dk_at dksX2_breakLines_0 18 rfl rfl)
theorem dX2_breakLines_19 : decode cX2_breakLines 19 = .ok (.iconst 0, 1) := dk_3 (dk_at dksX2_breakLines_0 19 rfl rfl)
theorem dX2_breakLines_20 : decode cX2_breakLines 20 = .ok (.istore_n 3, 1) := dk_62 (dk_at dksX2_breakLines_0 20 rfl rfl)
theorem dX2_breakLines_21 : decode cX2_breakLines 21 = .ok (.iload_n 3, 1) := dk_29 (dk_at dksX2_breakLines_0 21 rfl rfl)
theorem dX2_breakLines_22 : decode cX2_breakLines 22 = .ok (.aload_n 0, 1) := dk_42 (dk_at dksX2_breakLines_0 22 rfl rfl)
theorem dX2_breakLines_23 : decode cX2_breakLines 23 = .ok (.getfield 28, 3) := dk_180 0 28 (dk_at dksX2_breakLines_1 0 rfl rfl)
theorem dX2_breakLines_26 : decode cX2_breakLines 26 = .ok (.iconst 1, 1) := dk_4 (dk_at dksX2_breakLines_1 3 rfl rfl)
theorem dX2_breakLines_27 : decode cX2_breakLines 27 = .ok (.isub, 1) := dk_100 (dk_at dksX2_breakLines_1 4 rfl rfl)
theorem dX2_breakLines_28 : decode cX2_breakLines 28 = .ok (.if_icmp .ge 33, 3) := dk_162 0 33 (dk_at dksX2_breakLines_1 5 rfl rfl)
theorem dX2_breakLines_31 : decode cX2_breakLines 31 = .ok (.iinc 2 1, 3) := dk_132 2 1 (dk_at dksX2_breakLines_1 8 rfl rfl)
theorem dX2_breakLines_34 : decode cX2_breakLines 34 = .ok (.aload_n 1, 1) := dk_43 (dk_at dksX2_breakLines_1 11 rfl rfl)
theorem dX2_breakLines_35 : decode cX2_breakLines 35 = .ok (.getfield 85, 3) := dk_180 0 85 (dk_at dksX2_breakLines_1 12 rfl rfl)
theorem dX2_breakLines_38 : decode cX2_breakLines 38 = .ok (.iload_n 2, 1) := dk_28 (dk_at dksX2_breakLines_1 15 rfl rfl)
theorem dX2_breakLines_39 : decode cX2_breakLines 39 = .ok (.aload_n 0, 1) := dk_42 (dk_at dksX2_breakLines_1 16 rfl rfl)
theorem dX2_breakLines_40 : decode cX2_breakLines 40 = .ok (.getfield 15, 3) := dk_180 0 15 (dk_at dksX2_breakLines_1 17 rfl rfl)
theorem dX2_breakLines_43 : decode cX2_breakLines 43 = .ok (.aload_n 0, 1) := dk_42 (dk_at dksX2_breakLines_1 20 rfl rfl)
theorem dX2_breakLines_44 : decode cX2_breakLines 44 = .ok (.getfield 25, 3) := dk_180 0 25 (dk_at dksX2_breakLines_1 21 rfl rfl)
theorem dX2_breakLines_47 : decode cX2_breakLines 47 = .ok (.iload_n 3, 1) := dk_29 (dk_at dksX2_breakLines_2 0 rfl rfl)
theorem dX2_breakLines_48 : decode cX2_breakLines 48 = .ok (.iaload, 1) := dk_46 (dk_at dksX2_breakLines_2 1 rfl rfl)
theorem dX2_breakLines_49 : decode cX2_breakLines 49 = .ok (.iaload, 1) := dk_46 (dk_at dksX2_breakLines_2 2 rfl rfl)
theorem dX2_breakLines_50 : decode cX2_breakLines 50 = .ok (.iastore, 1) := dk_79 (dk_at dksX2_breakLines_2 3 rfl rfl)
theorem dX2_breakLines_51 : decode cX2_breakLines 51 = .ok (.aload_n 0, 1) := dk_42 (dk_at dksX2_breakLines_2 4 rfl rfl)
theorem dX2_breakLines_52 : decode cX2_breakLines 52 = .ok (.getfield 25, 3) := dk_180 0 25 (dk_at dksX2_breakLines_2 5 rfl rfl)
theorem dX2_breakLines_55 : decode cX2_breakLines 55 = .ok (.iload_n 3, 1) := dk_29 (dk_at dksX2_breakLines_2 8 rfl rfl)
theorem dX2_breakLines_56 : decode cX2_breakLines 56 = .ok (.iaload, 1) := dk_46 (dk_at dksX2_breakLines_2 9 rfl rfl)
theorem dX2_breakLines_57 : decode cX2_breakLines 57 = .ok (.istore_n 3, 1) := dk_62 (dk_at dksX2_breakLines_2 10 rfl rfl)
theorem dX2_breakLines_58 : decode cX2_breakLines 58 = .ok (.goto (-37), 3) := dk_167 255 219 (dk_at dksX2_breakLines_2 11 rfl rfl)
theorem dX2_breakLines_61 : decode cX2_breakLines 61 = .ok (.aload_n 1, 1) := dk_43 (dk_at dksX2_breakLines_2 14 rfl rfl)
theorem dX2_breakLines_62 : decode cX2_breakLines 62 = .ok (.iload_n 2, 1) := dk_28 (dk_at dksX2_breakLines_2 15 rfl rfl)
theorem dX2_breakLines_63 : decode cX2_breakLines 63 = .ok (.putfield 88, 3) := dk_181 0 88 (dk_at dksX2_breakLines_2 16 rfl rfl)
theorem dX2_breakLines_66 : decode cX2_breakLines 66 = .ok (.return_, 1) := dk_177 (dk_at dksX2_breakLines_2 19 rfl rfl)
abbrev cX2_lay : ByteArray := prog_2_method_2_code
def yX2_lay : MethodName := ⟨RX2, "lay", "(LProofPages$Paragraph;)V"⟩
def dkwX2_lay_6 : List UInt8 := [180, 0, 28, 4, 96, 181, 0, 28, 177]
abbrev dktX2_lay_6 : List UInt8 := dkwX2_lay_6 ++ []
def dkwX2_lay_5 : List UInt8 := [180, 0, 15, 42, 180, 0, 28, 16, 16, 43, 180, 0, 32, 185, 0, 38, 1, 0, 104, 79, 42, 89]
abbrev dktX2_lay_5 : List UInt8 := dkwX2_lay_5 ++ dktX2_lay_6
def dkwX2_lay_4 : List UInt8 := [79, 42, 89, 180, 0, 28, 4, 96, 181, 0, 28, 132, 4, 1, 167, 255, 203, 132, 2, 1, 167, 255, 148, 42]
abbrev dktX2_lay_4 : List UInt8 := dkwX2_lay_4 ++ dktX2_lay_5
def dkwX2_lay_3 : List UInt8 := [180, 0, 53, 21, 4, 46, 158, 0, 29, 42, 180, 0, 15, 42, 180, 0, 28, 16, 16, 28, 104, 21, 4, 96]
abbrev dktX2_lay_3 : List UInt8 := dkwX2_lay_3 ++ dktX2_lay_4
def dkwX2_lay_2 : List UInt8 := [180, 0, 50, 96, 79, 3, 54, 4, 21, 4, 45, 180, 0, 50, 162, 0, 50, 21, 4, 153, 0, 13, 45]
abbrev dktX2_lay_2 : List UInt8 := dkwX2_lay_2 ++ dktX2_lay_3
def dkwX2_lay_1 : List UInt8 := [28, 185, 0, 44, 2, 0, 192, 0, 48, 78, 42, 180, 0, 19, 28, 4, 96, 42, 180, 0, 19, 28, 46, 45]
abbrev dktX2_lay_1 : List UInt8 := dkwX2_lay_1 ++ dktX2_lay_2
def dkwX2_lay_0 : List UInt8 := [42, 3, 181, 0, 28, 3, 61, 28, 43, 180, 0, 32, 185, 0, 38, 1, 0, 162, 0, 101, 43, 180, 0, 32]
abbrev dktX2_lay_0 : List UInt8 := dkwX2_lay_0 ++ dktX2_lay_1
theorem dksX2_lay_0 : cX2_lay.data.toList.drop 0 = dktX2_lay_0 := by decide +kernel
theorem dksX2_lay_1 : cX2_lay.data.toList.drop 24 = dktX2_lay_1 := dk_seg dksX2_lay_0 24 rfl rfl
theorem dksX2_lay_2 : cX2_lay.data.toList.drop 48 = dktX2_lay_2 := dk_seg dksX2_lay_1 24 rfl rfl
theorem dksX2_lay_3 : cX2_lay.data.toList.drop 71 = dktX2_lay_3 := dk_seg dksX2_lay_2 23 rfl rfl
theorem dksX2_lay_4 : cX2_lay.data.toList.drop 95 = dktX2_lay_4 := dk_seg dksX2_lay_3 24 rfl rfl
theorem dksX2_lay_5 : cX2_lay.data.toList.drop 119 = dktX2_lay_5 := dk_seg dksX2_lay_4 24 rfl rfl
theorem dksX2_lay_6 : cX2_lay.data.toList.drop 141 = dktX2_lay_6 := dk_seg dksX2_lay_5 22 rfl rfl
theorem dX2_lay_0 : decode cX2_lay 0 = .ok (.aload_n 0, 1) := dk_42 (dk_at dksX2_lay_0 0 rfl rfl)
theorem dX2_lay_1 : decode cX2_lay 1 = .ok (.iconst 0, 1) := dk_3 (dk_at dksX2_lay_0 1 rfl rfl)
theorem dX2_lay_2 : decode cX2_lay 2 = .ok (.putfield 28, 3) := dk_181 0 28 (dk_at dksX2_lay_0 2 rfl rfl)
theorem dX2_lay_5 : decode cX2_lay 5 = .ok (.iconst 0, 1) := dk_3 (dk_at dksX2_lay_0 5 rfl rfl)
theorem dX2_lay_6 : decode cX2_lay 6 = .ok (.istore_n 2, 1) := dk_61 (dk_at dksX2_lay_0 6 rfl rfl)
theorem dX2_lay_7 : decode cX2_lay 7 = .ok (.iload_n 2, 1) := dk_28 (dk_at dksX2_lay_0 7 rfl rfl)
theorem dX2_lay_8 : decode cX2_lay 8 = .ok (.aload_n 1, 1) := dk_43 (dk_at dksX2_lay_0 8 rfl rfl)
theorem dX2_lay_9 : decode cX2_lay 9 = .ok (.getfield 32, 3) := dk_180 0 32 (dk_at dksX2_lay_0 9 rfl rfl)
theorem dX2_lay_12 : decode cX2_lay 12 = .ok (.invokeinterface 38 1, 5) := by decide +kernel
theorem dX2_lay_17 : decode cX2_lay 17 = .ok (.if_icmp .ge 101, 3) := dk_162 0 101 (dk_at dksX2_lay_0 17 rfl rfl)
theorem dX2_lay_20 : decode cX2_lay 20 = .ok (.aload_n 1, 1) := dk_43 (dk_at dksX2_lay_0 20 rfl rfl)
theorem dX2_lay_21 : decode cX2_lay 21 = .ok (.getfield 32, 3) := dk_180 0 32 (dk_at dksX2_lay_0 21 rfl rfl)
theorem dX2_lay_24 : decode cX2_lay 24 = .ok (.iload_n 2, 1) := dk_28 (dk_at dksX2_lay_1 0 rfl rfl)
theorem dX2_lay_25 : decode cX2_lay 25 = .ok (.invokeinterface 44 2, 5) := by decide +kernel
theorem dX2_lay_30 : decode cX2_lay 30 = .ok (.checkcast 48, 3) := dk_192 0 48 (dk_at dksX2_lay_1 6 rfl rfl)
theorem dX2_lay_33 : decode cX2_lay 33 = .ok (.astore_n 3, 1) := dk_78 (dk_at dksX2_lay_1 9 rfl rfl)
theorem dX2_lay_34 : decode cX2_lay 34 = .ok (.aload_n 0, 1) := dk_42 (dk_at dksX2_lay_1 10 rfl rfl)
theorem dX2_lay_35 : decode cX2_lay 35 = .ok (.getfield 19, 3) := dk_180 0 19 (dk_at dksX2_lay_1 11 rfl rfl)
theorem dX2_lay_38 : decode cX2_lay 38 = .ok (.iload_n 2, 1) := dk_28 (dk_at dksX2_lay_1 14 rfl rfl)
theorem dX2_lay_39 : decode cX2_lay 39 = .ok (.iconst 1, 1) := dk_4 (dk_at dksX2_lay_1 15 rfl rfl)
theorem dX2_lay_40 : decode cX2_lay 40 = .ok (.iadd, 1) := dk_96 (dk_at dksX2_lay_1 16 rfl rfl)
theorem dX2_lay_41 : decode cX2_lay 41 = .ok (.aload_n 0, 1) := dk_42 (dk_at dksX2_lay_1 17 rfl rfl)
theorem dX2_lay_42 : decode cX2_lay 42 = .ok (.getfield 19, 3) := dk_180 0 19 (dk_at dksX2_lay_1 18 rfl rfl)
theorem dX2_lay_45 : decode cX2_lay 45 = .ok (.iload_n 2, 1) := dk_28 (dk_at dksX2_lay_1 21 rfl rfl)
theorem dX2_lay_46 : decode cX2_lay 46 = .ok (.iaload, 1) := dk_46 (dk_at dksX2_lay_1 22 rfl rfl)
theorem dX2_lay_47 : decode cX2_lay 47 = .ok (.aload_n 3, 1) := dk_45 (dk_at dksX2_lay_1 23 rfl rfl)
theorem dX2_lay_48 : decode cX2_lay 48 = .ok (.getfield 50, 3) := dk_180 0 50 (dk_at dksX2_lay_2 0 rfl rfl)
theorem dX2_lay_51 : decode cX2_lay 51 = .ok (.iadd, 1) := dk_96 (dk_at dksX2_lay_2 3 rfl rfl)
theorem dX2_lay_52 : decode cX2_lay 52 = .ok (.iastore, 1) := dk_79 (dk_at dksX2_lay_2 4 rfl rfl)
theorem dX2_lay_53 : decode cX2_lay 53 = .ok (.iconst 0, 1) := dk_3 (dk_at dksX2_lay_2 5 rfl rfl)
theorem dX2_lay_54 : decode cX2_lay 54 = .ok (.istore 4, 2) := dk_54 4 (dk_at dksX2_lay_2 6 rfl rfl)
theorem dX2_lay_56 : decode cX2_lay 56 = .ok (.iload 4, 2) := dk_21 4 (dk_at dksX2_lay_2 8 rfl rfl)
theorem dX2_lay_58 : decode cX2_lay 58 = .ok (.aload_n 3, 1) := dk_45 (dk_at dksX2_lay_2 10 rfl rfl)
theorem dX2_lay_59 : decode cX2_lay 59 = .ok (.getfield 50, 3) := dk_180 0 50 (dk_at dksX2_lay_2 11 rfl rfl)
theorem dX2_lay_62 : decode cX2_lay 62 = .ok (.if_icmp .ge 50, 3) := dk_162 0 50 (dk_at dksX2_lay_2 14 rfl rfl)
theorem dX2_lay_65 : decode cX2_lay 65 = .ok (.iload 4, 2) := dk_21 4 (dk_at dksX2_lay_2 17 rfl rfl)
theorem dX2_lay_67 : decode cX2_lay 67 = .ok (.ifCond .eq 13, 3) := dk_153 0 13 (dk_at dksX2_lay_2 19 rfl rfl)
theorem dX2_lay_70 : decode cX2_lay 70 = .ok (.aload_n 3, 1) := dk_45 (dk_at dksX2_lay_2 22 rfl rfl)
theorem dX2_lay_71 : decode cX2_lay 71 = .ok (.getfield 53, 3) := dk_180 0 53 (dk_at dksX2_lay_3 0 rfl rfl)
theorem dX2_lay_74 : decode cX2_lay 74 = .ok (.iload 4, 2) := dk_21 4 (dk_at dksX2_lay_3 3 rfl rfl)
theorem dX2_lay_76 : decode cX2_lay 76 = .ok (.iaload, 1) := dk_46 (dk_at dksX2_lay_3 5 rfl rfl)
theorem dX2_lay_77 : decode cX2_lay 77 = .ok (.ifCond .le 29, 3) := dk_158 0 29 (dk_at dksX2_lay_3 6 rfl rfl)
theorem dX2_lay_80 : decode cX2_lay 80 = .ok (.aload_n 0, 1) := dk_42 (dk_at dksX2_lay_3 9 rfl rfl)
theorem dX2_lay_81 : decode cX2_lay 81 = .ok (.getfield 15, 3) := dk_180 0 15 (dk_at dksX2_lay_3 10 rfl rfl)
theorem dX2_lay_84 : decode cX2_lay 84 = .ok (.aload_n 0, 1) := dk_42 (dk_at dksX2_lay_3 13 rfl rfl)
theorem dX2_lay_85 : decode cX2_lay 85 = .ok (.getfield 28, 3) := dk_180 0 28 (dk_at dksX2_lay_3 14 rfl rfl)
theorem dX2_lay_88 : decode cX2_lay 88 = .ok (.bipush 16, 2) := dk_16 16 (dk_at dksX2_lay_3 17 rfl rfl)
theorem dX2_lay_90 : decode cX2_lay 90 = .ok (.iload_n 2, 1) := dk_28 (dk_at dksX2_lay_3 19 rfl rfl)
theorem dX2_lay_91 : decode cX2_lay 91 = .ok (.imul, 1) := dk_104 (dk_at dksX2_lay_3 20 rfl rfl)
theorem dX2_lay_92 : decode cX2_lay 92 = .ok (.iload 4, 2) := dk_21 4 (dk_at dksX2_lay_3 21 rfl rfl)
theorem dX2_lay_94 : decode cX2_lay 94 = .ok (.iadd, 1) := dk_96 (dk_at dksX2_lay_3 23 rfl rfl)
theorem dX2_lay_95 : decode cX2_lay 95 = .ok (.iastore, 1) := dk_79 (dk_at dksX2_lay_4 0 rfl rfl)
theorem dX2_lay_96 : decode cX2_lay 96 = .ok (.aload_n 0, 1) := dk_42 (dk_at dksX2_lay_4 1 rfl rfl)
theorem dX2_lay_97 : decode cX2_lay 97 = .ok (.dup, 1) := dk_89 (dk_at dksX2_lay_4 2 rfl rfl)
theorem dX2_lay_98 : decode cX2_lay 98 = .ok (.getfield 28, 3) := dk_180 0 28 (dk_at dksX2_lay_4 3 rfl rfl)
theorem dX2_lay_101 : decode cX2_lay 101 = .ok (.iconst 1, 1) := dk_4 (dk_at dksX2_lay_4 6 rfl rfl)
theorem dX2_lay_102 : decode cX2_lay 102 = .ok (.iadd, 1) := dk_96 (dk_at dksX2_lay_4 7 rfl rfl)
theorem dX2_lay_103 : decode cX2_lay 103 = .ok (.putfield 28, 3) := dk_181 0 28 (dk_at dksX2_lay_4 8 rfl rfl)
theorem dX2_lay_106 : decode cX2_lay 106 = .ok (.iinc 4 1, 3) := dk_132 4 1 (dk_at dksX2_lay_4 11 rfl rfl)
theorem dX2_lay_109 : decode cX2_lay 109 = .ok (.goto (-53), 3) := dk_167 255 203 (dk_at dksX2_lay_4 14 rfl rfl)
theorem dX2_lay_112 : decode cX2_lay 112 = .ok (.iinc 2 1, 3) := dk_132 2 1 (dk_at dksX2_lay_4 17 rfl rfl)
theorem dX2_lay_115 : decode cX2_lay 115 = .ok (.goto (-108), 3) := dk_167 255 148 (dk_at dksX2_lay_4 20 rfl rfl)
theorem dX2_lay_118 : decode cX2_lay 118 = .ok (.aload_n 0, 1) := dk_42 (dk_at dksX2_lay_4 23 rfl rfl)
theorem dX2_lay_119 : decode cX2_lay 119 = .ok (.getfield 15, 3) := dk_180 0 15 (dk_at dksX2_lay_5 0 rfl rfl)
theorem dX2_lay_122 : decode cX2_lay 122 = .ok (.aload_n 0, 1) := dk_42 (dk_at dksX2_lay_5 3 rfl rfl)
theorem dX2_lay_123 : decode cX2_lay 123 = .ok (.getfield 28, 3) := dk_180 0 28 (dk_at dksX2_lay_5 4 rfl rfl)
theorem dX2_lay_126 : decode cX2_lay 126 = .ok (.bipush 16, 2) := dk_16 16 (dk_at dksX2_lay_5 7 rfl rfl)
theorem dX2_lay_128 : decode cX2_lay 128 = .ok (.aload_n 1, 1) := dk_43 (dk_at dksX2_lay_5 9 rfl rfl)
theorem dX2_lay_129 : decode cX2_lay 129 = .ok (.getfield 32, 3) := dk_180 0 32 (dk_at dksX2_lay_5 10 rfl rfl)
theorem dX2_lay_132 : decode cX2_lay 132 = .ok (.invokeinterface 38 1, 5) := by decide +kernel
theorem dX2_lay_137 : decode cX2_lay 137 = .ok (.imul, 1) := dk_104 (dk_at dksX2_lay_5 18 rfl rfl)
theorem dX2_lay_138 : decode cX2_lay 138 = .ok (.iastore, 1) := dk_79 (dk_at dksX2_lay_5 19 rfl rfl)
theorem dX2_lay_139 : decode cX2_lay 139 = .ok (.aload_n 0, 1) := dk_42 (dk_at dksX2_lay_5 20 rfl rfl)
theorem dX2_lay_140 : decode cX2_lay 140 = .ok (.dup, 1) := dk_89 (dk_at dksX2_lay_5 21 rfl rfl)
theorem dX2_lay_141 : decode cX2_lay 141 = .ok (.getfield 28, 3) := dk_180 0 28 (dk_at dksX2_lay_6 0 rfl rfl)
theorem dX2_lay_144 : decode cX2_lay 144 = .ok (.iconst 1, 1) := dk_4 (dk_at dksX2_lay_6 3 rfl rfl)
theorem dX2_lay_145 : decode cX2_lay 145 = .ok (.iadd, 1) := dk_96 (dk_at dksX2_lay_6 4 rfl rfl)
theorem dX2_lay_146 : decode cX2_lay 146 = .ok (.putfield 28, 3) := dk_181 0 28 (dk_at dksX2_lay_6 5 rfl rfl)
theorem dX2_lay_149 : decode cX2_lay 149 = .ok (.return_, 1) := dk_177 (dk_at dksX2_lay_6 8 rfl rfl)
abbrev cX2_backwards : ByteArray := prog_2_method_6_code
def yX2_backwards : MethodName := ⟨RX2, "backwards", "()I"⟩
def dkwX2_backwards_5 : List UInt8 := [180, 0, 22, 3, 46, 172]
abbrev dktX2_backwards_5 : List UInt8 := dkwX2_backwards_5 ++ []
def dkwX2_backwards_4 : List UInt8 := [162, 0, 12, 42, 27, 28, 182, 0, 70, 167, 0, 4, 2, 62, 167, 255, 191, 132, 1, 255, 167, 255, 162, 42]
abbrev dktX2_backwards_4 : List UInt8 := dkwX2_backwards_4 ++ dktX2_backwards_5
def dkwX2_backwards_3 : List UInt8 := [180, 0, 22, 28, 46, 96, 79, 42, 180, 0, 25, 27, 28, 79, 132, 2, 1, 28, 42, 180, 0, 28]
abbrev dktX2_backwards_3 : List UInt8 := dkwX2_backwards_3 ++ dktX2_backwards_4
def dkwX2_backwards_2 : List UInt8 := [42, 180, 0, 22, 28, 46, 96, 42, 180, 0, 22, 27, 46, 163, 0, 24, 42, 180, 0, 22, 27, 29, 42]
abbrev dktX2_backwards_2 : List UInt8 := dkwX2_backwards_2 ++ dktX2_backwards_3
def dkwX2_backwards_1 : List UInt8 := [180, 0, 22, 27, 18, 69, 79, 27, 4, 96, 61, 42, 27, 28, 182, 0, 70, 62, 29, 2, 159, 0, 66, 29]
abbrev dktX2_backwards_1 : List UInt8 := dkwX2_backwards_1 ++ dktX2_backwards_2
def dkwX2_backwards_0 : List UInt8 := [42, 180, 0, 22, 42, 180, 0, 28, 4, 100, 3, 79, 42, 180, 0, 28, 5, 100, 60, 27, 155, 0, 96, 42]
abbrev dktX2_backwards_0 : List UInt8 := dkwX2_backwards_0 ++ dktX2_backwards_1
theorem dksX2_backwards_0 : cX2_backwards.data.toList.drop 0 = dktX2_backwards_0 := by decide +kernel
theorem dksX2_backwards_1 : cX2_backwards.data.toList.drop 24 = dktX2_backwards_1 := dk_seg dksX2_backwards_0 24 rfl rfl
theorem dksX2_backwards_2 : cX2_backwards.data.toList.drop 48 = dktX2_backwards_2 := dk_seg dksX2_backwards_1 24 rfl rfl
theorem dksX2_backwards_3 : cX2_backwards.data.toList.drop 71 = dktX2_backwards_3 := dk_seg dksX2_backwards_2 23 rfl rfl
theorem dksX2_backwards_4 : cX2_backwards.data.toList.drop 93 = dktX2_backwards_4 := dk_seg dksX2_backwards_3 22 rfl rfl
theorem dksX2_backwards_5 : cX2_backwards.data.toList.drop 117 = dktX2_backwards_5 := dk_seg dksX2_backwards_4 24 rfl rfl
theorem dX2_backwards_0 : decode cX2_backwards 0 = .ok (.aload_n 0, 1) := dk_42 (dk_at dksX2_backwards_0 0 rfl rfl)
theorem dX2_backwards_1 : decode cX2_backwards 1 = .ok (.getfield 22, 3) := dk_180 0 22 (dk_at dksX2_backwards_0 1 rfl rfl)
theorem dX2_backwards_4 : decode cX2_backwards 4 = .ok (.aload_n 0, 1) := dk_42 (dk_at dksX2_backwards_0 4 rfl rfl)
theorem dX2_backwards_5 : decode cX2_backwards 5 = .ok (.getfield 28, 3) := dk_180 0 28 (dk_at dksX2_backwards_0 5 rfl rfl)
theorem dX2_backwards_8 : decode cX2_backwards 8 = .ok (.iconst 1, 1) := dk_4 (dk_at dksX2_backwards_0 8 rfl rfl)
theorem dX2_backwards_9 : decode cX2_backwards 9 = .ok (.isub, 1) := dk_100 (dk_at dksX2_backwards_0 9 rfl rfl)
theorem dX2_backwards_10 : decode cX2_backwards 10 = .ok (.iconst 0, 1) := dk_3 (dk_at dksX2_backwards_0 10 rfl rfl)
theorem dX2_backwards_11 : decode cX2_backwards 11 = .ok (.iastore, 1) := dk_79 (dk_at dksX2_backwards_0 11 rfl rfl)
theorem dX2_backwards_12 : decode cX2_backwards 12 = .ok (.aload_n 0, 1) := dk_42 (dk_at dksX2_backwards_0 12 rfl rfl)
theorem dX2_backwards_13 : decode cX2_backwards 13 = .ok (.getfield 28, 3) := dk_180 0 28 (dk_at dksX2_backwards_0 13 rfl rfl)
theorem dX2_backwards_16 : decode cX2_backwards 16 = .ok (.iconst 2, 1) := dk_5 (dk_at dksX2_backwards_0 16 rfl rfl)
theorem dX2_backwards_17 : decode cX2_backwards 17 = .ok (.isub, 1) := dk_100 (dk_at dksX2_backwards_0 17 rfl rfl)
theorem dX2_backwards_18 : decode cX2_backwards 18 = .ok (.istore_n 1, 1) := dk_60 (dk_at dksX2_backwards_0 18 rfl rfl)
theorem dX2_backwards_19 : decode cX2_backwards 19 = .ok (.iload_n 1, 1) := dk_27 (dk_at dksX2_backwards_0 19 rfl rfl)
theorem dX2_backwards_20 : decode cX2_backwards 20 = .ok (.ifCond .lt 96, 3) := dk_155 0 96 (dk_at dksX2_backwards_0 20 rfl rfl)
theorem dX2_backwards_23 : decode cX2_backwards 23 = .ok (.aload_n 0, 1) := dk_42 (dk_at dksX2_backwards_0 23 rfl rfl)
theorem dX2_backwards_24 : decode cX2_backwards 24 = .ok (.getfield 22, 3) := dk_180 0 22 (dk_at dksX2_backwards_1 0 rfl rfl)
theorem dX2_backwards_27 : decode cX2_backwards 27 = .ok (.iload_n 1, 1) := dk_27 (dk_at dksX2_backwards_1 3 rfl rfl)
theorem dX2_backwards_28 : decode cX2_backwards 28 = .ok (.ldc 69, 2) := dk_18 69 (dk_at dksX2_backwards_1 4 rfl rfl)
theorem dX2_backwards_30 : decode cX2_backwards 30 = .ok (.iastore, 1) := dk_79 (dk_at dksX2_backwards_1 6 rfl rfl)
theorem dX2_backwards_31 : decode cX2_backwards 31 = .ok (.iload_n 1, 1) := dk_27 (dk_at dksX2_backwards_1 7 rfl rfl)
theorem dX2_backwards_32 : decode cX2_backwards 32 = .ok (.iconst 1, 1) := dk_4 (dk_at dksX2_backwards_1 8 rfl rfl)
theorem dX2_backwards_33 : decode cX2_backwards 33 = .ok (.iadd, 1) := dk_96 (dk_at dksX2_backwards_1 9 rfl rfl)
theorem dX2_backwards_34 : decode cX2_backwards 34 = .ok (.istore_n 2, 1) := dk_61 (dk_at dksX2_backwards_1 10 rfl rfl)
theorem dX2_backwards_35 : decode cX2_backwards 35 = .ok (.aload_n 0, 1) := dk_42 (dk_at dksX2_backwards_1 11 rfl rfl)
theorem dX2_backwards_36 : decode cX2_backwards 36 = .ok (.iload_n 1, 1) := dk_27 (dk_at dksX2_backwards_1 12 rfl rfl)
theorem dX2_backwards_37 : decode cX2_backwards 37 = .ok (.iload_n 2, 1) := dk_28 (dk_at dksX2_backwards_1 13 rfl rfl)
theorem dX2_backwards_38 : decode cX2_backwards 38 = .ok (.invokevirtual 70, 3) := dk_182 0 70 (dk_at dksX2_backwards_1 14 rfl rfl)
theorem dX2_backwards_41 : decode cX2_backwards 41 = .ok (.istore_n 3, 1) := dk_62 (dk_at dksX2_backwards_1 17 rfl rfl)
theorem dX2_backwards_42 : decode cX2_backwards 42 = .ok (.iload_n 3, 1) := dk_29 (dk_at dksX2_backwards_1 18 rfl rfl)
theorem dX2_backwards_43 : decode cX2_backwards 43 = .ok (.iconst (-1), 1) := dk_2 (dk_at dksX2_backwards_1 19 rfl rfl)
theorem dX2_backwards_44 : decode cX2_backwards 44 = .ok (.if_icmp .eq 66, 3) := dk_159 0 66 (dk_at dksX2_backwards_1 20 rfl rfl)
theorem dX2_backwards_47 : decode cX2_backwards 47 = .ok (.iload_n 3, 1) := dk_29 (dk_at dksX2_backwards_1 23 rfl rfl)
theorem dX2_backwards_48 : decode cX2_backwards 48 = .ok (.aload_n 0, 1) := dk_42 (dk_at dksX2_backwards_2 0 rfl rfl)
theorem dX2_backwards_49 : decode cX2_backwards 49 = .ok (.getfield 22, 3) := dk_180 0 22 (dk_at dksX2_backwards_2 1 rfl rfl)
theorem dX2_backwards_52 : decode cX2_backwards 52 = .ok (.iload_n 2, 1) := dk_28 (dk_at dksX2_backwards_2 4 rfl rfl)
theorem dX2_backwards_53 : decode cX2_backwards 53 = .ok (.iaload, 1) := dk_46 (dk_at dksX2_backwards_2 5 rfl rfl)
theorem dX2_backwards_54 : decode cX2_backwards 54 = .ok (.iadd, 1) := dk_96 (dk_at dksX2_backwards_2 6 rfl rfl)
theorem dX2_backwards_55 : decode cX2_backwards 55 = .ok (.aload_n 0, 1) := dk_42 (dk_at dksX2_backwards_2 7 rfl rfl)
theorem dX2_backwards_56 : decode cX2_backwards 56 = .ok (.getfield 22, 3) := dk_180 0 22 (dk_at dksX2_backwards_2 8 rfl rfl)
theorem dX2_backwards_59 : decode cX2_backwards 59 = .ok (.iload_n 1, 1) := dk_27 (dk_at dksX2_backwards_2 11 rfl rfl)
theorem dX2_backwards_60 : decode cX2_backwards 60 = .ok (.iaload, 1) := dk_46 (dk_at dksX2_backwards_2 12 rfl rfl)
theorem dX2_backwards_61 : decode cX2_backwards 61 = .ok (.if_icmp .gt 24, 3) := dk_163 0 24 (dk_at dksX2_backwards_2 13 rfl rfl)
theorem dX2_backwards_64 : decode cX2_backwards 64 = .ok (.aload_n 0, 1) := dk_42 (dk_at dksX2_backwards_2 16 rfl rfl)
theorem dX2_backwards_65 : decode cX2_backwards 65 = .ok (.getfield 22, 3) := dk_180 0 22 (dk_at dksX2_backwards_2 17 rfl rfl)
theorem dX2_backwards_68 : decode cX2_backwards 68 = .ok (.iload_n 1, 1) := dk_27 (dk_at dksX2_backwards_2 20 rfl rfl)
theorem dX2_backwards_69 : decode cX2_backwards 69 = .ok (.iload_n 3, 1) := dk_29 (dk_at dksX2_backwards_2 21 rfl rfl)
theorem dX2_backwards_70 : decode cX2_backwards 70 = .ok (.aload_n 0, 1) := dk_42 (dk_at dksX2_backwards_2 22 rfl rfl)
theorem dX2_backwards_71 : decode cX2_backwards 71 = .ok (.getfield 22, 3) := dk_180 0 22 (dk_at dksX2_backwards_3 0 rfl rfl)
theorem dX2_backwards_74 : decode cX2_backwards 74 = .ok (.iload_n 2, 1) := dk_28 (dk_at dksX2_backwards_3 3 rfl rfl)
theorem dX2_backwards_75 : decode cX2_backwards 75 = .ok (.iaload, 1) := dk_46 (dk_at dksX2_backwards_3 4 rfl rfl)
theorem dX2_backwards_76 : decode cX2_backwards 76 = .ok (.iadd, 1) := dk_96 (dk_at dksX2_backwards_3 5 rfl rfl)
theorem dX2_backwards_77 : decode cX2_backwards 77 = .ok (.iastore, 1) := dk_79 (dk_at dksX2_backwards_3 6 rfl rfl)
theorem dX2_backwards_78 : decode cX2_backwards 78 = .ok (.aload_n 0, 1) := dk_42 (dk_at dksX2_backwards_3 7 rfl rfl)
theorem dX2_backwards_79 : decode cX2_backwards 79 = .ok (.getfield 25, 3) := dk_180 0 25 (dk_at dksX2_backwards_3 8 rfl rfl)
theorem dX2_backwards_82 : decode cX2_backwards 82 = .ok (.iload_n 1, 1) := dk_27 (dk_at dksX2_backwards_3 11 rfl rfl)
theorem dX2_backwards_83 : decode cX2_backwards 83 = .ok (.iload_n 2, 1) := dk_28 (dk_at dksX2_backwards_3 12 rfl rfl)
theorem dX2_backwards_84 : decode cX2_backwards 84 = .ok (.iastore, 1) := dk_79 (dk_at dksX2_backwards_3 13 rfl rfl)
theorem dX2_backwards_85 : decode cX2_backwards 85 = .ok (.iinc 2 1, 3) := dk_132 2 1 (dk_at dksX2_backwards_3 14 rfl rfl)
theorem dX2_backwards_88 : decode cX2_backwards 88 = .ok (.iload_n 2, 1) := dk_28 (dk_at dksX2_backwards_3 17 rfl rfl)
theorem dX2_backwards_89 : decode cX2_backwards 89 = .ok (.aload_n 0, 1) := dk_42 (dk_at dksX2_backwards_3 18 rfl rfl)
theorem dX2_backwards_90 : decode cX2_backwards 90 = .ok (.getfield 28, 3) := dk_180 0 28 (dk_at dksX2_backwards_3 19 rfl rfl)
theorem dX2_backwards_93 : decode cX2_backwards 93 = .ok (.if_icmp .ge 12, 3) := dk_162 0 12 (dk_at dksX2_backwards_4 0 rfl rfl)
theorem dX2_backwards_96 : decode cX2_backwards 96 = .ok (.aload_n 0, 1) := dk_42 (dk_at dksX2_backwards_4 3 rfl rfl)
theorem dX2_backwards_97 : decode cX2_backwards 97 = .ok (.iload_n 1, 1) := dk_27 (dk_at dksX2_backwards_4 4 rfl rfl)
theorem dX2_backwards_98 : decode cX2_backwards 98 = .ok (.iload_n 2, 1) := dk_28 (dk_at dksX2_backwards_4 5 rfl rfl)
theorem dX2_backwards_99 : decode cX2_backwards 99 = .ok (.invokevirtual 70, 3) := dk_182 0 70 (dk_at dksX2_backwards_4 6 rfl rfl)
theorem dX2_backwards_102 : decode cX2_backwards 102 = .ok (.goto 4, 3) := dk_167 0 4 (dk_at dksX2_backwards_4 9 rfl rfl)
theorem dX2_backwards_105 : decode cX2_backwards 105 = .ok (.iconst (-1), 1) := dk_2 (dk_at dksX2_backwards_4 12 rfl rfl)
theorem dX2_backwards_106 : decode cX2_backwards 106 = .ok (.istore_n 3, 1) := dk_62 (dk_at dksX2_backwards_4 13 rfl rfl)
theorem dX2_backwards_107 : decode cX2_backwards 107 = .ok (.goto (-65), 3) := dk_167 255 191 (dk_at dksX2_backwards_4 14 rfl rfl)
theorem dX2_backwards_110 : decode cX2_backwards 110 = .ok (.iinc 1 (-1), 3) := dk_132 1 255 (dk_at dksX2_backwards_4 17 rfl rfl)
theorem dX2_backwards_113 : decode cX2_backwards 113 = .ok (.goto (-94), 3) := dk_167 255 162 (dk_at dksX2_backwards_4 20 rfl rfl)
theorem dX2_backwards_116 : decode cX2_backwards 116 = .ok (.aload_n 0, 1) := dk_42 (dk_at dksX2_backwards_4 23 rfl rfl)
theorem dX2_backwards_117 : decode cX2_backwards 117 = .ok (.getfield 22, 3) := dk_180 0 22 (dk_at dksX2_backwards_5 0 rfl rfl)
theorem dX2_backwards_120 : decode cX2_backwards 120 = .ok (.iconst 0, 1) := dk_3 (dk_at dksX2_backwards_5 3 rfl rfl)
theorem dX2_backwards_121 : decode cX2_backwards 121 = .ok (.iaload, 1) := dk_46 (dk_at dksX2_backwards_5 4 rfl rfl)
theorem dX2_backwards_122 : decode cX2_backwards 122 = .ok (.ireturn, 1) := dk_172 (dk_at dksX2_backwards_5 5 rfl rfl)
abbrev cX2_cost : ByteArray := prog_2_method_4_code
def yX2_cost : MethodName := ⟨RX2, "cost", "(II)I"⟩
def dkwX2_cost_3 : List UInt8 := [180, 0, 60, 29, 100, 42, 180, 0, 3, 180, 0, 60, 29, 100, 104, 42, 28, 182, 0, 63, 96, 172]
abbrev dktX2_cost_3 : List UInt8 := dkwX2_cost_3 ++ []
def dkwX2_cost_2 : List UInt8 := [182, 0, 63, 96, 172, 28, 42, 180, 0, 28, 4, 100, 160, 0, 7, 3, 167, 0, 28, 42, 180, 0, 3]
abbrev dktX2_cost_2 : List UInt8 := dkwX2_cost_2 ++ dktX2_cost_3
def dkwX2_cost_1 : List UInt8 := [180, 0, 60, 164, 0, 24, 28, 27, 4, 96, 164, 0, 7, 2, 167, 0, 12, 17, 39, 16, 42, 28]
abbrev dktX2_cost_1 : List UInt8 := dkwX2_cost_1 ++ dktX2_cost_2
def dkwX2_cost_0 : List UInt8 := [42, 42, 180, 0, 15, 27, 46, 42, 180, 0, 15, 28, 46, 182, 0, 56, 62, 29, 42, 180, 0, 3]
abbrev dktX2_cost_0 : List UInt8 := dkwX2_cost_0 ++ dktX2_cost_1
theorem dksX2_cost_0 : cX2_cost.data.toList.drop 0 = dktX2_cost_0 := by decide +kernel
theorem dksX2_cost_1 : cX2_cost.data.toList.drop 22 = dktX2_cost_1 := dk_seg dksX2_cost_0 22 rfl rfl
theorem dksX2_cost_2 : cX2_cost.data.toList.drop 44 = dktX2_cost_2 := dk_seg dksX2_cost_1 22 rfl rfl
theorem dksX2_cost_3 : cX2_cost.data.toList.drop 67 = dktX2_cost_3 := dk_seg dksX2_cost_2 23 rfl rfl
theorem dX2_cost_0 : decode cX2_cost 0 = .ok (.aload_n 0, 1) := dk_42 (dk_at dksX2_cost_0 0 rfl rfl)
theorem dX2_cost_1 : decode cX2_cost 1 = .ok (.aload_n 0, 1) := dk_42 (dk_at dksX2_cost_0 1 rfl rfl)
theorem dX2_cost_2 : decode cX2_cost 2 = .ok (.getfield 15, 3) := dk_180 0 15 (dk_at dksX2_cost_0 2 rfl rfl)
theorem dX2_cost_5 : decode cX2_cost 5 = .ok (.iload_n 1, 1) := dk_27 (dk_at dksX2_cost_0 5 rfl rfl)
theorem dX2_cost_6 : decode cX2_cost 6 = .ok (.iaload, 1) := dk_46 (dk_at dksX2_cost_0 6 rfl rfl)
theorem dX2_cost_7 : decode cX2_cost 7 = .ok (.aload_n 0, 1) := dk_42 (dk_at dksX2_cost_0 7 rfl rfl)
theorem dX2_cost_8 : decode cX2_cost 8 = .ok (.getfield 15, 3) := dk_180 0 15 (dk_at dksX2_cost_0 8 rfl rfl)
theorem dX2_cost_11 : decode cX2_cost 11 = .ok (.iload_n 2, 1) := dk_28 (dk_at dksX2_cost_0 11 rfl rfl)
theorem dX2_cost_12 : decode cX2_cost 12 = .ok (.iaload, 1) := dk_46 (dk_at dksX2_cost_0 12 rfl rfl)
theorem dX2_cost_13 : decode cX2_cost 13 = .ok (.invokevirtual 56, 3) := dk_182 0 56 (dk_at dksX2_cost_0 13 rfl rfl)
theorem dX2_cost_16 : decode cX2_cost 16 = .ok (.istore_n 3, 1) := dk_62 (dk_at dksX2_cost_0 16 rfl rfl)
theorem dX2_cost_17 : decode cX2_cost 17 = .ok (.iload_n 3, 1) := dk_29 (dk_at dksX2_cost_0 17 rfl rfl)
theorem dX2_cost_18 : decode cX2_cost 18 = .ok (.aload_n 0, 1) := dk_42 (dk_at dksX2_cost_0 18 rfl rfl)
theorem dX2_cost_19 : decode cX2_cost 19 = .ok (.getfield 3, 3) := dk_180 0 3 (dk_at dksX2_cost_0 19 rfl rfl)
theorem dX2_cost_22 : decode cX2_cost 22 = .ok (.getfield 60, 3) := dk_180 0 60 (dk_at dksX2_cost_1 0 rfl rfl)
theorem dX2_cost_25 : decode cX2_cost 25 = .ok (.if_icmp .le 24, 3) := dk_164 0 24 (dk_at dksX2_cost_1 3 rfl rfl)
theorem dX2_cost_28 : decode cX2_cost 28 = .ok (.iload_n 2, 1) := dk_28 (dk_at dksX2_cost_1 6 rfl rfl)
theorem dX2_cost_29 : decode cX2_cost 29 = .ok (.iload_n 1, 1) := dk_27 (dk_at dksX2_cost_1 7 rfl rfl)
theorem dX2_cost_30 : decode cX2_cost 30 = .ok (.iconst 1, 1) := dk_4 (dk_at dksX2_cost_1 8 rfl rfl)
theorem dX2_cost_31 : decode cX2_cost 31 = .ok (.iadd, 1) := dk_96 (dk_at dksX2_cost_1 9 rfl rfl)
theorem dX2_cost_32 : decode cX2_cost 32 = .ok (.if_icmp .le 7, 3) := dk_164 0 7 (dk_at dksX2_cost_1 10 rfl rfl)
theorem dX2_cost_35 : decode cX2_cost 35 = .ok (.iconst (-1), 1) := dk_2 (dk_at dksX2_cost_1 13 rfl rfl)
theorem dX2_cost_36 : decode cX2_cost 36 = .ok (.goto 12, 3) := dk_167 0 12 (dk_at dksX2_cost_1 14 rfl rfl)
theorem dX2_cost_39 : decode cX2_cost 39 = .ok (.sipush 10000, 3) := dk_17 39 16 (dk_at dksX2_cost_1 17 rfl rfl)
theorem dX2_cost_42 : decode cX2_cost 42 = .ok (.aload_n 0, 1) := dk_42 (dk_at dksX2_cost_1 20 rfl rfl)
theorem dX2_cost_43 : decode cX2_cost 43 = .ok (.iload_n 2, 1) := dk_28 (dk_at dksX2_cost_1 21 rfl rfl)
theorem dX2_cost_44 : decode cX2_cost 44 = .ok (.invokevirtual 63, 3) := dk_182 0 63 (dk_at dksX2_cost_2 0 rfl rfl)
theorem dX2_cost_47 : decode cX2_cost 47 = .ok (.iadd, 1) := dk_96 (dk_at dksX2_cost_2 3 rfl rfl)
theorem dX2_cost_48 : decode cX2_cost 48 = .ok (.ireturn, 1) := dk_172 (dk_at dksX2_cost_2 4 rfl rfl)
theorem dX2_cost_49 : decode cX2_cost 49 = .ok (.iload_n 2, 1) := dk_28 (dk_at dksX2_cost_2 5 rfl rfl)
theorem dX2_cost_50 : decode cX2_cost 50 = .ok (.aload_n 0, 1) := dk_42 (dk_at dksX2_cost_2 6 rfl rfl)
theorem dX2_cost_51 : decode cX2_cost 51 = .ok (.getfield 28, 3) := dk_180 0 28 (dk_at dksX2_cost_2 7 rfl rfl)
theorem dX2_cost_54 : decode cX2_cost 54 = .ok (.iconst 1, 1) := dk_4 (dk_at dksX2_cost_2 10 rfl rfl)
theorem dX2_cost_55 : decode cX2_cost 55 = .ok (.isub, 1) := dk_100 (dk_at dksX2_cost_2 11 rfl rfl)
theorem dX2_cost_56 : decode cX2_cost 56 = .ok (.if_icmp .ne 7, 3) := dk_160 0 7 (dk_at dksX2_cost_2 12 rfl rfl)
theorem dX2_cost_59 : decode cX2_cost 59 = .ok (.iconst 0, 1) := dk_3 (dk_at dksX2_cost_2 15 rfl rfl)
theorem dX2_cost_60 : decode cX2_cost 60 = .ok (.goto 28, 3) := dk_167 0 28 (dk_at dksX2_cost_2 16 rfl rfl)
theorem dX2_cost_63 : decode cX2_cost 63 = .ok (.aload_n 0, 1) := dk_42 (dk_at dksX2_cost_2 19 rfl rfl)
theorem dX2_cost_64 : decode cX2_cost 64 = .ok (.getfield 3, 3) := dk_180 0 3 (dk_at dksX2_cost_2 20 rfl rfl)
theorem dX2_cost_67 : decode cX2_cost 67 = .ok (.getfield 60, 3) := dk_180 0 60 (dk_at dksX2_cost_3 0 rfl rfl)
theorem dX2_cost_70 : decode cX2_cost 70 = .ok (.iload_n 3, 1) := dk_29 (dk_at dksX2_cost_3 3 rfl rfl)
theorem dX2_cost_71 : decode cX2_cost 71 = .ok (.isub, 1) := dk_100 (dk_at dksX2_cost_3 4 rfl rfl)
theorem dX2_cost_72 : decode cX2_cost 72 = .ok (.aload_n 0, 1) := dk_42 (dk_at dksX2_cost_3 5 rfl rfl)
theorem dX2_cost_73 : decode cX2_cost 73 = .ok (.getfield 3, 3) := dk_180 0 3 (dk_at dksX2_cost_3 6 rfl rfl)
theorem dX2_cost_76 : decode cX2_cost 76 = .ok (.getfield 60, 3) := dk_180 0 60 (dk_at dksX2_cost_3 9 rfl rfl)
theorem dX2_cost_79 : decode cX2_cost 79 = .ok (.iload_n 3, 1) := dk_29 (dk_at dksX2_cost_3 12 rfl rfl)
theorem dX2_cost_80 : decode cX2_cost 80 = .ok (.isub, 1) := dk_100 (dk_at dksX2_cost_3 13 rfl rfl)
theorem dX2_cost_81 : decode cX2_cost 81 = .ok (.imul, 1) := dk_104 (dk_at dksX2_cost_3 14 rfl rfl)
theorem dX2_cost_82 : decode cX2_cost 82 = .ok (.aload_n 0, 1) := dk_42 (dk_at dksX2_cost_3 15 rfl rfl)
theorem dX2_cost_83 : decode cX2_cost 83 = .ok (.iload_n 2, 1) := dk_28 (dk_at dksX2_cost_3 16 rfl rfl)
theorem dX2_cost_84 : decode cX2_cost 84 = .ok (.invokevirtual 63, 3) := dk_182 0 63 (dk_at dksX2_cost_3 17 rfl rfl)
theorem dX2_cost_87 : decode cX2_cost 87 = .ok (.iadd, 1) := dk_96 (dk_at dksX2_cost_3 20 rfl rfl)
theorem dX2_cost_88 : decode cX2_cost 88 = .ok (.ireturn, 1) := dk_172 (dk_at dksX2_cost_3 21 rfl rfl)
abbrev cX2_length : ByteArray := prog_2_method_3_code
def yX2_length : MethodName := ⟨RX2, "length", "(II)I"⟩
def dkwX2_length_3 : List UInt8 := [172]
abbrev dktX2_length_3 : List UInt8 := dkwX2_length_3 ++ []
def dkwX2_length_2 : List UInt8 := [4, 100, 54, 5, 21, 4, 21, 5, 96, 27, 16, 16, 108, 100, 29, 158, 0, 7, 4, 167, 0, 4, 3, 96]
abbrev dktX2_length_2 : List UInt8 := dkwX2_length_2 ++ dktX2_length_3
def dkwX2_length_1 : List UInt8 := [46, 100, 27, 16, 16, 112, 100, 54, 4, 29, 158, 0, 10, 28, 16, 16, 108, 167, 0, 9, 28, 16, 16, 108]
abbrev dktX2_length_1 : List UInt8 := dkwX2_length_1 ++ dktX2_length_2
def dkwX2_length_0 : List UInt8 := [28, 16, 16, 112, 62, 42, 180, 0, 19, 28, 16, 16, 108, 46, 29, 96, 42, 180, 0, 19, 27, 16, 16, 108]
abbrev dktX2_length_0 : List UInt8 := dkwX2_length_0 ++ dktX2_length_1
theorem dksX2_length_0 : cX2_length.data.toList.drop 0 = dktX2_length_0 := by decide +kernel
theorem dksX2_length_1 : cX2_length.data.toList.drop 24 = dktX2_length_1 := dk_seg dksX2_length_0 24 rfl rfl
theorem dksX2_length_2 : cX2_length.data.toList.drop 48 = dktX2_length_2 := dk_seg dksX2_length_1 24 rfl rfl
theorem dksX2_length_3 : cX2_length.data.toList.drop 72 = dktX2_length_3 := dk_seg dksX2_length_2 24 rfl rfl
theorem dX2_length_0 : decode cX2_length 0 = .ok (.iload_n 2, 1) := dk_28 (dk_at dksX2_length_0 0 rfl rfl)
theorem dX2_length_1 : decode cX2_length 1 = .ok (.bipush 16, 2) := dk_16 16 (dk_at dksX2_length_0 1 rfl rfl)
theorem dX2_length_3 : decode cX2_length 3 = .ok (.irem, 1) := dk_112 (dk_at dksX2_length_0 3 rfl rfl)
theorem dX2_length_4 : decode cX2_length 4 = .ok (.istore_n 3, 1) := dk_62 (dk_at dksX2_length_0 4 rfl rfl)
theorem dX2_length_5 : decode cX2_length 5 = .ok (.aload_n 0, 1) := dk_42 (dk_at dksX2_length_0 5 rfl rfl)
theorem dX2_length_6 : decode cX2_length 6 = .ok (.getfield 19, 3) := dk_180 0 19 (dk_at dksX2_length_0 6 rfl rfl)
theorem dX2_length_9 : decode cX2_length 9 = .ok (.iload_n 2, 1) := dk_28 (dk_at dksX2_length_0 9 rfl rfl)
theorem dX2_length_10 : decode cX2_length 10 = .ok (.bipush 16, 2) := dk_16 16 (dk_at dksX2_length_0 10 rfl rfl)
theorem dX2_length_12 : decode cX2_length 12 = .ok (.idiv, 1) := dk_108 (dk_at dksX2_length_0 12 rfl rfl)
theorem dX2_length_13 : decode cX2_length 13 = .ok (.iaload, 1) := dk_46 (dk_at dksX2_length_0 13 rfl rfl)
theorem dX2_length_14 : decode cX2_length 14 = .ok (.iload_n 3, 1) := dk_29 (dk_at dksX2_length_0 14 rfl rfl)
theorem dX2_length_15 : decode cX2_length 15 = .ok (.iadd, 1) := dk_96 (dk_at dksX2_length_0 15 rfl rfl)
theorem dX2_length_16 : decode cX2_length 16 = .ok (.aload_n 0, 1) := dk_42 (dk_at dksX2_length_0 16 rfl rfl)
theorem dX2_length_17 : decode cX2_length 17 = .ok (.getfield 19, 3) := dk_180 0 19 (dk_at dksX2_length_0 17 rfl rfl)
theorem dX2_length_20 : decode cX2_length 20 = .ok (.iload_n 1, 1) := dk_27 (dk_at dksX2_length_0 20 rfl rfl)
theorem dX2_length_21 : decode cX2_length 21 = .ok (.bipush 16, 2) := dk_16 16 (dk_at dksX2_length_0 21 rfl rfl)
theorem dX2_length_23 : decode cX2_length 23 = .ok (.idiv, 1) := dk_108 (dk_at dksX2_length_0 23 rfl rfl)
theorem dX2_length_24 : decode cX2_length 24 = .ok (.iaload, 1) := dk_46 (dk_at dksX2_length_1 0 rfl rfl)
theorem dX2_length_25 : decode cX2_length 25 = .ok (.isub, 1) := dk_100 (dk_at dksX2_length_1 1 rfl rfl)
theorem dX2_length_26 : decode cX2_length 26 = .ok (.iload_n 1, 1) := dk_27 (dk_at dksX2_length_1 2 rfl rfl)
theorem dX2_length_27 : decode cX2_length 27 = .ok (.bipush 16, 2) := dk_16 16 (dk_at dksX2_length_1 3 rfl rfl)
theorem dX2_length_29 : decode cX2_length 29 = .ok (.irem, 1) := dk_112 (dk_at dksX2_length_1 5 rfl rfl)
theorem dX2_length_30 : decode cX2_length 30 = .ok (.isub, 1) := dk_100 (dk_at dksX2_length_1 6 rfl rfl)
theorem dX2_length_31 : decode cX2_length 31 = .ok (.istore 4, 2) := dk_54 4 (dk_at dksX2_length_1 7 rfl rfl)
theorem dX2_length_33 : decode cX2_length 33 = .ok (.iload_n 3, 1) := dk_29 (dk_at dksX2_length_1 9 rfl rfl)
theorem dX2_length_34 : decode cX2_length 34 = .ok (.ifCond .le 10, 3) := dk_158 0 10 (dk_at dksX2_length_1 10 rfl rfl)
theorem dX2_length_37 : decode cX2_length 37 = .ok (.iload_n 2, 1) := dk_28 (dk_at dksX2_length_1 13 rfl rfl)
theorem dX2_length_38 : decode cX2_length 38 = .ok (.bipush 16, 2) := dk_16 16 (dk_at dksX2_length_1 14 rfl rfl)
theorem dX2_length_40 : decode cX2_length 40 = .ok (.idiv, 1) := dk_108 (dk_at dksX2_length_1 16 rfl rfl)
theorem dX2_length_41 : decode cX2_length 41 = .ok (.goto 9, 3) := dk_167 0 9 (dk_at dksX2_length_1 17 rfl rfl)
theorem dX2_length_44 : decode cX2_length 44 = .ok (.iload_n 2, 1) := dk_28 (dk_at dksX2_length_1 20 rfl rfl)
theorem dX2_length_45 : decode cX2_length 45 = .ok (.bipush 16, 2) := dk_16 16 (dk_at dksX2_length_1 21 rfl rfl)
theorem dX2_length_47 : decode cX2_length 47 = .ok (.idiv, 1) := dk_108 (dk_at dksX2_length_1 23 rfl rfl)
theorem dX2_length_48 : decode cX2_length 48 = .ok (.iconst 1, 1) := dk_4 (dk_at dksX2_length_2 0 rfl rfl)
theorem dX2_length_49 : decode cX2_length 49 = .ok (.isub, 1) := dk_100 (dk_at dksX2_length_2 1 rfl rfl)
theorem dX2_length_50 : decode cX2_length 50 = .ok (.istore 5, 2) := dk_54 5 (dk_at dksX2_length_2 2 rfl rfl)
theorem dX2_length_52 : decode cX2_length 52 = .ok (.iload 4, 2) := dk_21 4 (dk_at dksX2_length_2 4 rfl rfl)
theorem dX2_length_54 : decode cX2_length 54 = .ok (.iload 5, 2) := dk_21 5 (dk_at dksX2_length_2 6 rfl rfl)
theorem dX2_length_56 : decode cX2_length 56 = .ok (.iadd, 1) := dk_96 (dk_at dksX2_length_2 8 rfl rfl)
theorem dX2_length_57 : decode cX2_length 57 = .ok (.iload_n 1, 1) := dk_27 (dk_at dksX2_length_2 9 rfl rfl)
theorem dX2_length_58 : decode cX2_length 58 = .ok (.bipush 16, 2) := dk_16 16 (dk_at dksX2_length_2 10 rfl rfl)
theorem dX2_length_60 : decode cX2_length 60 = .ok (.idiv, 1) := dk_108 (dk_at dksX2_length_2 12 rfl rfl)
theorem dX2_length_61 : decode cX2_length 61 = .ok (.isub, 1) := dk_100 (dk_at dksX2_length_2 13 rfl rfl)
theorem dX2_length_62 : decode cX2_length 62 = .ok (.iload_n 3, 1) := dk_29 (dk_at dksX2_length_2 14 rfl rfl)
theorem dX2_length_63 : decode cX2_length 63 = .ok (.ifCond .le 7, 3) := dk_158 0 7 (dk_at dksX2_length_2 15 rfl rfl)
theorem dX2_length_66 : decode cX2_length 66 = .ok (.iconst 1, 1) := dk_4 (dk_at dksX2_length_2 18 rfl rfl)
theorem dX2_length_67 : decode cX2_length 67 = .ok (.goto 4, 3) := dk_167 0 4 (dk_at dksX2_length_2 19 rfl rfl)
theorem dX2_length_70 : decode cX2_length 70 = .ok (.iconst 0, 1) := dk_3 (dk_at dksX2_length_2 22 rfl rfl)
theorem dX2_length_71 : decode cX2_length 71 = .ok (.iadd, 1) := dk_96 (dk_at dksX2_length_2 23 rfl rfl)
theorem dX2_length_72 : decode cX2_length 72 = .ok (.ireturn, 1) := dk_172 (dk_at dksX2_length_3 0 rfl rfl)
abbrev cX2_hyphen : ByteArray := prog_2_method_5_code
def yX2_hyphen : MethodName := ⟨RX2, "hyphen", "(I)I"⟩
def dkwX2_hyphen_0 : List UInt8 := [42, 180, 0, 15, 27, 46, 16, 16, 112, 158, 0, 8, 16, 30, 167, 0, 4, 3, 172]
abbrev dktX2_hyphen_0 : List UInt8 := dkwX2_hyphen_0 ++ []
theorem dksX2_hyphen_0 : cX2_hyphen.data.toList.drop 0 = dktX2_hyphen_0 := by decide +kernel
theorem dX2_hyphen_0 : decode cX2_hyphen 0 = .ok (.aload_n 0, 1) := dk_42 (dk_at dksX2_hyphen_0 0 rfl rfl)
theorem dX2_hyphen_1 : decode cX2_hyphen 1 = .ok (.getfield 15, 3) := dk_180 0 15 (dk_at dksX2_hyphen_0 1 rfl rfl)
theorem dX2_hyphen_4 : decode cX2_hyphen 4 = .ok (.iload_n 1, 1) := dk_27 (dk_at dksX2_hyphen_0 4 rfl rfl)
theorem dX2_hyphen_5 : decode cX2_hyphen 5 = .ok (.iaload, 1) := dk_46 (dk_at dksX2_hyphen_0 5 rfl rfl)
theorem dX2_hyphen_6 : decode cX2_hyphen 6 = .ok (.bipush 16, 2) := dk_16 16 (dk_at dksX2_hyphen_0 6 rfl rfl)
theorem dX2_hyphen_8 : decode cX2_hyphen 8 = .ok (.irem, 1) := dk_112 (dk_at dksX2_hyphen_0 8 rfl rfl)
theorem dX2_hyphen_9 : decode cX2_hyphen 9 = .ok (.ifCond .le 8, 3) := dk_158 0 8 (dk_at dksX2_hyphen_0 9 rfl rfl)
theorem dX2_hyphen_12 : decode cX2_hyphen 12 = .ok (.bipush 30, 2) := dk_16 30 (dk_at dksX2_hyphen_0 12 rfl rfl)
theorem dX2_hyphen_14 : decode cX2_hyphen 14 = .ok (.goto 4, 3) := dk_167 0 4 (dk_at dksX2_hyphen_0 14 rfl rfl)
theorem dX2_hyphen_17 : decode cX2_hyphen 17 = .ok (.iconst 0, 1) := dk_3 (dk_at dksX2_hyphen_0 17 rfl rfl)
theorem dX2_hyphen_18 : decode cX2_hyphen 18 = .ok (.ireturn, 1) := dk_172 (dk_at dksX2_hyphen_0 18 rfl rfl)
abbrev cX2_forwards : ByteArray := prog_2_method_7_code
def yX2_forwards : MethodName := ⟨RX2, "forwards", "()I"⟩
def dkwX2_forwards_4 : List UInt8 := [42, 180, 0, 28, 4, 100, 46, 172]
abbrev dktX2_forwards_4 : List UInt8 := dkwX2_forwards_4 ++ []
def dkwX2_forwards_3 : List UInt8 := [42, 28, 27, 182, 0, 70, 167, 0, 4, 2, 62, 167, 255, 210, 132, 1, 1, 167, 255, 177, 42, 180, 0, 22]
abbrev dktX2_forwards_3 : List UInt8 := dkwX2_forwards_3 ++ dktX2_forwards_4
def dkwX2_forwards_2 : List UInt8 := [180, 0, 22, 27, 46, 42, 180, 0, 22, 28, 46, 29, 96, 184, 0, 73, 79, 132, 2, 255, 28, 155, 0, 12]
abbrev dktX2_forwards_2 : List UInt8 := dkwX2_forwards_2 ++ dktX2_forwards_3
def dkwX2_forwards_1 : List UInt8 := [79, 27, 4, 100, 61, 42, 28, 27, 182, 0, 70, 62, 29, 2, 159, 0, 47, 42, 180, 0, 22, 27, 42]
abbrev dktX2_forwards_1 : List UInt8 := dkwX2_forwards_1 ++ dktX2_forwards_2
def dkwX2_forwards_0 : List UInt8 := [42, 180, 0, 22, 3, 3, 79, 4, 60, 27, 42, 180, 0, 28, 162, 0, 77, 42, 180, 0, 22, 27, 18, 69]
abbrev dktX2_forwards_0 : List UInt8 := dkwX2_forwards_0 ++ dktX2_forwards_1
theorem dksX2_forwards_0 : cX2_forwards.data.toList.drop 0 = dktX2_forwards_0 := by decide +kernel
theorem dksX2_forwards_1 : cX2_forwards.data.toList.drop 24 = dktX2_forwards_1 := dk_seg dksX2_forwards_0 24 rfl rfl
theorem dksX2_forwards_2 : cX2_forwards.data.toList.drop 47 = dktX2_forwards_2 := dk_seg dksX2_forwards_1 23 rfl rfl
theorem dksX2_forwards_3 : cX2_forwards.data.toList.drop 71 = dktX2_forwards_3 := dk_seg dksX2_forwards_2 24 rfl rfl
theorem dksX2_forwards_4 : cX2_forwards.data.toList.drop 95 = dktX2_forwards_4 := dk_seg dksX2_forwards_3 24 rfl rfl
theorem dX2_forwards_0 : decode cX2_forwards 0 = .ok (.aload_n 0, 1) := dk_42 (dk_at dksX2_forwards_0 0 rfl rfl)
theorem dX2_forwards_1 : decode cX2_forwards 1 = .ok (.getfield 22, 3) := dk_180 0 22 (dk_at dksX2_forwards_0 1 rfl rfl)
theorem dX2_forwards_4 : decode cX2_forwards 4 = .ok (.iconst 0, 1) := dk_3 (dk_at dksX2_forwards_0 4 rfl rfl)
theorem dX2_forwards_5 : decode cX2_forwards 5 = .ok (.iconst 0, 1) := dk_3 (dk_at dksX2_forwards_0 5 rfl rfl)
theorem dX2_forwards_6 : decode cX2_forwards 6 = .ok (.iastore, 1) := dk_79 (dk_at dksX2_forwards_0 6 rfl rfl)
theorem dX2_forwards_7 : decode cX2_forwards 7 = .ok (.iconst 1, 1) := dk_4 (dk_at dksX2_forwards_0 7 rfl rfl)
theorem dX2_forwards_8 : decode cX2_forwards 8 = .ok (.istore_n 1, 1) := dk_60 (dk_at dksX2_forwards_0 8 rfl rfl)
theorem dX2_forwards_9 : decode cX2_forwards 9 = .ok (.iload_n 1, 1) := dk_27 (dk_at dksX2_forwards_0 9 rfl rfl)
theorem dX2_forwards_10 : decode cX2_forwards 10 = .ok (.aload_n 0, 1) := dk_42 (dk_at dksX2_forwards_0 10 rfl rfl)
theorem dX2_forwards_11 : decode cX2_forwards 11 = .ok (.getfield 28, 3) := dk_180 0 28 (dk_at dksX2_forwards_0 11 rfl rfl)
theorem dX2_forwards_14 : decode cX2_forwards 14 = .ok (.if_icmp .ge 77, 3) := dk_162 0 77 (dk_at dksX2_forwards_0 14 rfl rfl)
theorem dX2_forwards_17 : decode cX2_forwards 17 = .ok (.aload_n 0, 1) := dk_42 (dk_at dksX2_forwards_0 17 rfl rfl)
theorem dX2_forwards_18 : decode cX2_forwards 18 = .ok (.getfield 22, 3) := dk_180 0 22 (dk_at dksX2_forwards_0 18 rfl rfl)
theorem dX2_forwards_21 : decode cX2_forwards 21 = .ok (.iload_n 1, 1) := dk_27 (dk_at dksX2_forwards_0 21 rfl rfl)
theorem dX2_forwards_22 : decode cX2_forwards 22 = .ok (.ldc 69, 2) := dk_18 69 (dk_at dksX2_forwards_0 22 rfl rfl)
theorem dX2_forwards_24 : decode cX2_forwards 24 = .ok (.iastore, 1) := dk_79 (dk_at dksX2_forwards_1 0 rfl rfl)
theorem dX2_forwards_25 : decode cX2_forwards 25 = .ok (.iload_n 1, 1) := dk_27 (dk_at dksX2_forwards_1 1 rfl rfl)
theorem dX2_forwards_26 : decode cX2_forwards 26 = .ok (.iconst 1, 1) := dk_4 (dk_at dksX2_forwards_1 2 rfl rfl)
theorem dX2_forwards_27 : decode cX2_forwards 27 = .ok (.isub, 1) := dk_100 (dk_at dksX2_forwards_1 3 rfl rfl)
theorem dX2_forwards_28 : decode cX2_forwards 28 = .ok (.istore_n 2, 1) := dk_61 (dk_at dksX2_forwards_1 4 rfl rfl)
theorem dX2_forwards_29 : decode cX2_forwards 29 = .ok (.aload_n 0, 1) := dk_42 (dk_at dksX2_forwards_1 5 rfl rfl)
theorem dX2_forwards_30 : decode cX2_forwards 30 = .ok (.iload_n 2, 1) := dk_28 (dk_at dksX2_forwards_1 6 rfl rfl)
theorem dX2_forwards_31 : decode cX2_forwards 31 = .ok (.iload_n 1, 1) := dk_27 (dk_at dksX2_forwards_1 7 rfl rfl)
theorem dX2_forwards_32 : decode cX2_forwards 32 = .ok (.invokevirtual 70, 3) := dk_182 0 70 (dk_at dksX2_forwards_1 8 rfl rfl)
theorem dX2_forwards_35 : decode cX2_forwards 35 = .ok (.istore_n 3, 1) := dk_62 (dk_at dksX2_forwards_1 11 rfl rfl)
theorem dX2_forwards_36 : decode cX2_forwards 36 = .ok (.iload_n 3, 1) := dk_29 (dk_at dksX2_forwards_1 12 rfl rfl)
theorem dX2_forwards_37 : decode cX2_forwards 37 = .ok (.iconst (-1), 1) := dk_2 (dk_at dksX2_forwards_1 13 rfl rfl)
theorem dX2_forwards_38 : decode cX2_forwards 38 = .ok (.if_icmp .eq 47, 3) := dk_159 0 47 (dk_at dksX2_forwards_1 14 rfl rfl)
theorem dX2_forwards_41 : decode cX2_forwards 41 = .ok (.aload_n 0, 1) := dk_42 (dk_at dksX2_forwards_1 17 rfl rfl)
theorem dX2_forwards_42 : decode cX2_forwards 42 = .ok (.getfield 22, 3) := dk_180 0 22 (dk_at dksX2_forwards_1 18 rfl rfl)
theorem dX2_forwards_45 : decode cX2_forwards 45 = .ok (.iload_n 1, 1) := dk_27 (dk_at dksX2_forwards_1 21 rfl rfl)
theorem dX2_forwards_46 : decode cX2_forwards 46 = .ok (.aload_n 0, 1) := dk_42 (dk_at dksX2_forwards_1 22 rfl rfl)
theorem dX2_forwards_47 : decode cX2_forwards 47 = .ok (.getfield 22, 3) := dk_180 0 22 (dk_at dksX2_forwards_2 0 rfl rfl)
theorem dX2_forwards_50 : decode cX2_forwards 50 = .ok (.iload_n 1, 1) := dk_27 (dk_at dksX2_forwards_2 3 rfl rfl)
theorem dX2_forwards_51 : decode cX2_forwards 51 = .ok (.iaload, 1) := dk_46 (dk_at dksX2_forwards_2 4 rfl rfl)
theorem dX2_forwards_52 : decode cX2_forwards 52 = .ok (.aload_n 0, 1) := dk_42 (dk_at dksX2_forwards_2 5 rfl rfl)
theorem dX2_forwards_53 : decode cX2_forwards 53 = .ok (.getfield 22, 3) := dk_180 0 22 (dk_at dksX2_forwards_2 6 rfl rfl)
theorem dX2_forwards_56 : decode cX2_forwards 56 = .ok (.iload_n 2, 1) := dk_28 (dk_at dksX2_forwards_2 9 rfl rfl)
theorem dX2_forwards_57 : decode cX2_forwards 57 = .ok (.iaload, 1) := dk_46 (dk_at dksX2_forwards_2 10 rfl rfl)
theorem dX2_forwards_58 : decode cX2_forwards 58 = .ok (.iload_n 3, 1) := dk_29 (dk_at dksX2_forwards_2 11 rfl rfl)
theorem dX2_forwards_59 : decode cX2_forwards 59 = .ok (.iadd, 1) := dk_96 (dk_at dksX2_forwards_2 12 rfl rfl)
theorem dX2_forwards_60 : decode cX2_forwards 60 = .ok (.invokestatic 73, 3) := dk_184 0 73 (dk_at dksX2_forwards_2 13 rfl rfl)
theorem dX2_forwards_63 : decode cX2_forwards 63 = .ok (.iastore, 1) := dk_79 (dk_at dksX2_forwards_2 16 rfl rfl)
theorem dX2_forwards_64 : decode cX2_forwards 64 = .ok (.iinc 2 (-1), 3) := dk_132 2 255 (dk_at dksX2_forwards_2 17 rfl rfl)
theorem dX2_forwards_67 : decode cX2_forwards 67 = .ok (.iload_n 2, 1) := dk_28 (dk_at dksX2_forwards_2 20 rfl rfl)
theorem dX2_forwards_68 : decode cX2_forwards 68 = .ok (.ifCond .lt 12, 3) := dk_155 0 12 (dk_at dksX2_forwards_2 21 rfl rfl)
theorem dX2_forwards_71 : decode cX2_forwards 71 = .ok (.aload_n 0, 1) := dk_42 (dk_at dksX2_forwards_3 0 rfl rfl)
theorem dX2_forwards_72 : decode cX2_forwards 72 = .ok (.iload_n 2, 1) := dk_28 (dk_at dksX2_forwards_3 1 rfl rfl)
theorem dX2_forwards_73 : decode cX2_forwards 73 = .ok (.iload_n 1, 1) := dk_27 (dk_at dksX2_forwards_3 2 rfl rfl)
theorem dX2_forwards_74 : decode cX2_forwards 74 = .ok (.invokevirtual 70, 3) := dk_182 0 70 (dk_at dksX2_forwards_3 3 rfl rfl)
theorem dX2_forwards_77 : decode cX2_forwards 77 = .ok (.goto 4, 3) := dk_167 0 4 (dk_at dksX2_forwards_3 6 rfl rfl)
theorem dX2_forwards_80 : decode cX2_forwards 80 = .ok (.iconst (-1), 1) := dk_2 (dk_at dksX2_forwards_3 9 rfl rfl)
theorem dX2_forwards_81 : decode cX2_forwards 81 = .ok (.istore_n 3, 1) := dk_62 (dk_at dksX2_forwards_3 10 rfl rfl)
theorem dX2_forwards_82 : decode cX2_forwards 82 = .ok (.goto (-46), 3) := dk_167 255 210 (dk_at dksX2_forwards_3 11 rfl rfl)
theorem dX2_forwards_85 : decode cX2_forwards 85 = .ok (.iinc 1 1, 3) := dk_132 1 1 (dk_at dksX2_forwards_3 14 rfl rfl)
theorem dX2_forwards_88 : decode cX2_forwards 88 = .ok (.goto (-79), 3) := dk_167 255 177 (dk_at dksX2_forwards_3 17 rfl rfl)
theorem dX2_forwards_91 : decode cX2_forwards 91 = .ok (.aload_n 0, 1) := dk_42 (dk_at dksX2_forwards_3 20 rfl rfl)
theorem dX2_forwards_92 : decode cX2_forwards 92 = .ok (.getfield 22, 3) := dk_180 0 22 (dk_at dksX2_forwards_3 21 rfl rfl)
theorem dX2_forwards_95 : decode cX2_forwards 95 = .ok (.aload_n 0, 1) := dk_42 (dk_at dksX2_forwards_4 0 rfl rfl)
theorem dX2_forwards_96 : decode cX2_forwards 96 = .ok (.getfield 28, 3) := dk_180 0 28 (dk_at dksX2_forwards_4 1 rfl rfl)
theorem dX2_forwards_99 : decode cX2_forwards 99 = .ok (.iconst 1, 1) := dk_4 (dk_at dksX2_forwards_4 4 rfl rfl)
theorem dX2_forwards_100 : decode cX2_forwards 100 = .ok (.isub, 1) := dk_100 (dk_at dksX2_forwards_4 5 rfl rfl)
theorem dX2_forwards_101 : decode cX2_forwards 101 = .ok (.iaload, 1) := dk_46 (dk_at dksX2_forwards_4 6 rfl rfl)
theorem dX2_forwards_102 : decode cX2_forwards 102 = .ok (.ireturn, 1) := dk_172 (dk_at dksX2_forwards_4 7 rfl rfl)
theorem q60 : (Jvm.Cond.initialized "ProofPages$Breaker") ∈ lw_all := lw_g (lw_at lw_m1 20 rfl) rfl
theorem q419 : (Jvm.Cond.instantiable "ProofPages$Breaker" (6 : Nat)) ∈ lw_all := lw_g (lw_at lw_m2 139 rfl) rfl
theorem q421 : (Jvm.Cond.instanceMethod ({ cls := "ProofPages$Breaker", name := "<init>", desc := "(LProofPages;)V" } : Jvm.MethodName)) ∈ lw_all := lw_g (lw_at lw_m2 141 rfl) rfl
theorem q422 : (Jvm.Cond.code ({ cls := "ProofPages$Breaker", name := "<init>", desc := "(LProofPages;)V" } : Jvm.MethodName) prog_2_method_1_code (2 : Nat) (Option.none : Option Jvm.ClassFile.FieldType)) ∈ lw_all := lw_g (lw_at lw_m2 142 rfl) rfl
theorem q423 : (Jvm.Cond.methodLink "ProofPages$Breaker" (9 : Nat) ({ cls := "java/lang/Object", name := "<init>", desc := "()V" } : Jvm.MethodName)) ∈ lw_all := lw_g (lw_at lw_m2 143 rfl) rfl
theorem q424 : (Jvm.Cond.fieldLink "ProofPages$Breaker" (15 : Nat) "ProofPages$Breaker" "spots" "[I") ∈ lw_all := lw_g (lw_at lw_m2 144 rfl) rfl
theorem q425 : (Jvm.Cond.fieldLink "ProofPages$Breaker" (19 : Nat) "ProofPages$Breaker" "ahead" "[I") ∈ lw_all := lw_g (lw_at lw_m2 145 rfl) rfl
theorem q426 : (Jvm.Cond.fieldLink "ProofPages$Breaker" (22 : Nat) "ProofPages$Breaker" "best" "[I") ∈ lw_all := lw_g (lw_at lw_m2 146 rfl) rfl
theorem q427 : (Jvm.Cond.fieldLink "ProofPages$Breaker" (25 : Nat) "ProofPages$Breaker" "next" "[I") ∈ lw_all := lw_g (lw_at lw_m2 147 rfl) rfl
theorem q428 : (Jvm.Cond.fieldLink "ProofPages$Breaker" (28 : Nat) "ProofPages$Breaker" "count" "I") ∈ lw_all := lw_g (lw_at lw_m2 148 rfl) rfl
theorem q429 : (Jvm.Cond.fieldLink "ProofPages$Breaker" (3 : Nat) "ProofPages$Breaker" "this$0" "LProofPages;") ∈ lw_all := lw_g (lw_at lw_m2 149 rfl) rfl
theorem q430 : (Jvm.Cond.laysFinal "ProofPages$Breaker" "ProofPages$Breaker" "spots" "[I") ∈ lw_all := lw_g (lw_at lw_m2 150 rfl) rfl
theorem q431 : (Jvm.Cond.soleField "ProofPages$Breaker" "spots") ∈ lw_all := lw_g (lw_at lw_m2 151 rfl) rfl
theorem q432 : (Jvm.Cond.laysFinal "ProofPages$Breaker" "ProofPages$Breaker" "ahead" "[I") ∈ lw_all := lw_g (lw_at lw_m2 152 rfl) rfl
theorem q433 : (Jvm.Cond.soleField "ProofPages$Breaker" "ahead") ∈ lw_all := lw_g (lw_at lw_m2 153 rfl) rfl
theorem q434 : (Jvm.Cond.laysFinal "ProofPages$Breaker" "ProofPages$Breaker" "best" "[I") ∈ lw_all := lw_g (lw_at lw_m2 154 rfl) rfl
theorem q435 : (Jvm.Cond.soleField "ProofPages$Breaker" "best") ∈ lw_all := lw_g (lw_at lw_m2 155 rfl) rfl
theorem q436 : (Jvm.Cond.laysFinal "ProofPages$Breaker" "ProofPages$Breaker" "next" "[I") ∈ lw_all := lw_g (lw_at lw_m2 156 rfl) rfl
theorem q437 : (Jvm.Cond.soleField "ProofPages$Breaker" "next") ∈ lw_all := lw_g (lw_at lw_m2 157 rfl) rfl
theorem q438 : (Jvm.Cond.lays "ProofPages$Breaker" "ProofPages$Breaker" "count" "I") ∈ lw_all := lw_g (lw_at lw_m2 158 rfl) rfl
theorem q439 : (Jvm.Cond.soleField "ProofPages$Breaker" "count") ∈ lw_all := lw_g (lw_at lw_m2 159 rfl) rfl
theorem q440 : (Jvm.Cond.laysFinal "ProofPages$Breaker" "ProofPages$Breaker" "this$0" "LProofPages;") ∈ lw_all := lw_g (lw_at lw_m2 160 rfl) rfl
theorem q441 : (Jvm.Cond.soleField "ProofPages$Breaker" "this$0") ∈ lw_all := lw_g (lw_at lw_m2 161 rfl) rfl
theorem q442 : (Jvm.Cond.superclass "ProofPages$Breaker" "java/lang/Object") ∈ lw_all := lw_g (lw_at lw_m2 162 rfl) rfl
theorem q449 : (Jvm.Cond.fieldLinkNest "ProofPages$Breaker" (60 : Nat) "ProofPages" "width" "I" "ProofPages") ∈ lw_tbl := lw_at lw_m2 169 rfl
theorem q511 : (Jvm.Cond.instanceMethod ({ cls := "ProofPages$Breaker", name := "breakLines", desc := "(LProofPages$Paragraph;)V" } : Jvm.MethodName)) ∈ lw_all := lw_g (lw_at lw_m2 231 rfl) rfl
theorem q512 : (Jvm.Cond.selects "ProofPages$Breaker" ({ cls := "ProofPages$Breaker", name := "breakLines", desc := "(LProofPages$Paragraph;)V" } : Jvm.MethodName) ({ cls := "ProofPages$Breaker", name := "breakLines", desc := "(LProofPages$Paragraph;)V" } : Jvm.MethodName)) ∈ lw_all := lw_g (lw_at lw_m2 232 rfl) rfl
theorem q513 : (Jvm.Cond.code ({ cls := "ProofPages$Breaker", name := "breakLines", desc := "(LProofPages$Paragraph;)V" } : Jvm.MethodName) prog_2_method_8_code (4 : Nat) (Option.none : Option Jvm.ClassFile.FieldType)) ∈ lw_all := lw_g (lw_at lw_m2 233 rfl) rfl
theorem q514 : (Jvm.Cond.methodLink "ProofPages$Breaker" (78 : Nat) ({ cls := "ProofPages$Breaker", name := "lay", desc := "(LProofPages$Paragraph;)V" } : Jvm.MethodName)) ∈ lw_all := lw_g (lw_at lw_m2 234 rfl) rfl
theorem q515 : (Jvm.Cond.instanceMethod ({ cls := "ProofPages$Breaker", name := "lay", desc := "(LProofPages$Paragraph;)V" } : Jvm.MethodName)) ∈ lw_all := lw_g (lw_at lw_m2 235 rfl) rfl
theorem q516 : (Jvm.Cond.selects "ProofPages$Breaker" ({ cls := "ProofPages$Breaker", name := "lay", desc := "(LProofPages$Paragraph;)V" } : Jvm.MethodName) ({ cls := "ProofPages$Breaker", name := "lay", desc := "(LProofPages$Paragraph;)V" } : Jvm.MethodName)) ∈ lw_all := lw_g (lw_at lw_m2 236 rfl) rfl
theorem q517 : (Jvm.Cond.code ({ cls := "ProofPages$Breaker", name := "lay", desc := "(LProofPages$Paragraph;)V" } : Jvm.MethodName) prog_2_method_2_code (5 : Nat) (Option.none : Option Jvm.ClassFile.FieldType)) ∈ lw_all := lw_g (lw_at lw_m2 237 rfl) rfl
theorem q518 : (Jvm.Cond.interfaceEntry "ProofPages$Breaker" (38 : Nat)) ∈ lw_tbl := lw_at lw_m2 238 rfl
theorem q519 : (Jvm.Cond.methodLink "ProofPages$Breaker" (38 : Nat) ({ cls := "java/util/List", name := "size", desc := "()I" } : Jvm.MethodName)) ∈ lw_all := lw_g (lw_at lw_m2 239 rfl) rfl
theorem q520 : (Jvm.Cond.interfaceEntry "ProofPages$Breaker" (44 : Nat)) ∈ lw_tbl := lw_at lw_m3 0 rfl
theorem q521 : (Jvm.Cond.methodLink "ProofPages$Breaker" (44 : Nat) ({ cls := "java/util/List", name := "get", desc := "(I)Ljava/lang/Object;" } : Jvm.MethodName)) ∈ lw_all := lw_g (lw_at lw_m3 1 rfl) rfl
theorem q522 : (Jvm.Cond.classLink "ProofPages$Breaker" (48 : Nat) "ProofPages$Word") ∈ lw_all := lw_g (lw_at lw_m3 2 rfl) rfl
theorem q523 : (Jvm.Cond.methodLink "ProofPages$Breaker" (82 : Nat) ({ cls := "ProofPages$Breaker", name := "backwards", desc := "()I" } : Jvm.MethodName)) ∈ lw_all := lw_g (lw_at lw_m3 3 rfl) rfl
theorem q524 : (Jvm.Cond.instanceMethod ({ cls := "ProofPages$Breaker", name := "backwards", desc := "()I" } : Jvm.MethodName)) ∈ lw_all := lw_g (lw_at lw_m3 4 rfl) rfl
theorem q525 : (Jvm.Cond.selects "ProofPages$Breaker" ({ cls := "ProofPages$Breaker", name := "backwards", desc := "()I" } : Jvm.MethodName) ({ cls := "ProofPages$Breaker", name := "backwards", desc := "()I" } : Jvm.MethodName)) ∈ lw_all := lw_g (lw_at lw_m3 5 rfl) rfl
theorem q526 : (Jvm.Cond.code ({ cls := "ProofPages$Breaker", name := "backwards", desc := "()I" } : Jvm.MethodName) prog_2_method_6_code (4 : Nat) (Option.some Jvm.ClassFile.FieldType.int)) ∈ lw_all := lw_g (lw_at lw_m3 6 rfl) rfl
theorem q527 : (Jvm.Cond.constant "ProofPages$Breaker" (69 : Nat) (2147483647 : Int32)) ∈ lw_all := lw_g (lw_at lw_m3 7 rfl) rfl
theorem q528 : (Jvm.Cond.methodLink "ProofPages$Breaker" (70 : Nat) ({ cls := "ProofPages$Breaker", name := "cost", desc := "(II)I" } : Jvm.MethodName)) ∈ lw_all := lw_g (lw_at lw_m3 8 rfl) rfl
theorem q529 : (Jvm.Cond.privateMethod ({ cls := "ProofPages$Breaker", name := "cost", desc := "(II)I" } : Jvm.MethodName)) ∈ lw_tbl := lw_at lw_m3 9 rfl
theorem q530 : (Jvm.Cond.instanceMethod ({ cls := "ProofPages$Breaker", name := "cost", desc := "(II)I" } : Jvm.MethodName)) ∈ lw_all := lw_g (lw_at lw_m3 10 rfl) rfl
theorem q531 : (Jvm.Cond.code ({ cls := "ProofPages$Breaker", name := "cost", desc := "(II)I" } : Jvm.MethodName) prog_2_method_4_code (4 : Nat) (Option.some Jvm.ClassFile.FieldType.int)) ∈ lw_all := lw_g (lw_at lw_m3 11 rfl) rfl
theorem q532 : (Jvm.Cond.methodLink "ProofPages$Breaker" (56 : Nat) ({ cls := "ProofPages$Breaker", name := "length", desc := "(II)I" } : Jvm.MethodName)) ∈ lw_all := lw_g (lw_at lw_m3 12 rfl) rfl
theorem q533 : (Jvm.Cond.instanceMethod ({ cls := "ProofPages$Breaker", name := "length", desc := "(II)I" } : Jvm.MethodName)) ∈ lw_all := lw_g (lw_at lw_m3 13 rfl) rfl
theorem q534 : (Jvm.Cond.selects "ProofPages$Breaker" ({ cls := "ProofPages$Breaker", name := "length", desc := "(II)I" } : Jvm.MethodName) ({ cls := "ProofPages$Breaker", name := "length", desc := "(II)I" } : Jvm.MethodName)) ∈ lw_all := lw_g (lw_at lw_m3 14 rfl) rfl
theorem q535 : (Jvm.Cond.code ({ cls := "ProofPages$Breaker", name := "length", desc := "(II)I" } : Jvm.MethodName) prog_2_method_3_code (6 : Nat) (Option.some Jvm.ClassFile.FieldType.int)) ∈ lw_all := lw_g (lw_at lw_m3 15 rfl) rfl
theorem q536 : (Jvm.Cond.methodLink "ProofPages$Breaker" (63 : Nat) ({ cls := "ProofPages$Breaker", name := "hyphen", desc := "(I)I" } : Jvm.MethodName)) ∈ lw_all := lw_g (lw_at lw_m3 16 rfl) rfl
theorem q537 : (Jvm.Cond.privateMethod ({ cls := "ProofPages$Breaker", name := "hyphen", desc := "(I)I" } : Jvm.MethodName)) ∈ lw_tbl := lw_at lw_m3 17 rfl
theorem q538 : (Jvm.Cond.instanceMethod ({ cls := "ProofPages$Breaker", name := "hyphen", desc := "(I)I" } : Jvm.MethodName)) ∈ lw_all := lw_g (lw_at lw_m3 18 rfl) rfl
theorem q539 : (Jvm.Cond.code ({ cls := "ProofPages$Breaker", name := "hyphen", desc := "(I)I" } : Jvm.MethodName) prog_2_method_5_code (2 : Nat) (Option.some Jvm.ClassFile.FieldType.int)) ∈ lw_all := lw_g (lw_at lw_m3 19 rfl) rfl
theorem q594 : (Jvm.Cond.fieldLinkNest "ProofPages$Breaker" (32 : Nat) "ProofPages$Paragraph" "words" "Ljava/util/List;" "ProofPages") ∈ lw_tbl := lw_at lw_m3 74 rfl
theorem q597 : (Jvm.Cond.fieldLinkNest "ProofPages$Breaker" (85 : Nat) "ProofPages$Paragraph" "breaks" "[I" "ProofPages") ∈ lw_tbl := lw_at lw_m3 77 rfl
theorem q599 : (Jvm.Cond.fieldLinkNest "ProofPages$Breaker" (88 : Nat) "ProofPages$Paragraph" "lines" "I" "ProofPages") ∈ lw_tbl := lw_at lw_m3 79 rfl
theorem q644 : (Jvm.Cond.selects "ProofPages$Breaker" ({ cls := "java/lang/Object", name := "getClass", desc := "()Ljava/lang/Class;" } : Jvm.MethodName) ({ cls := "java/lang/Object", name := "getClass", desc := "()Ljava/lang/Class;" } : Jvm.MethodName)) ∈ lw_all := lw_g (lw_at lw_m3 124 rfl) rfl
theorem q735 : (Jvm.Cond.fieldLinkNest "ProofPages$Breaker" (50 : Nat) "ProofPages$Word" "letters" "I" "ProofPages") ∈ lw_tbl := lw_at lw_m3 215 rfl
theorem q738 : (Jvm.Cond.fieldLinkNest "ProofPages$Breaker" (53 : Nat) "ProofPages$Word" "scores" "[I" "ProofPages") ∈ lw_tbl := lw_at lw_m3 218 rfl
theorem q822 : (Jvm.Cond.instanceMethod ({ cls := "ProofPages$Breaker", name := "forwards", desc := "()I" } : Jvm.MethodName)) ∈ lw_all := lw_g (lw_at lw_m4 62 rfl) rfl
theorem q823 : (Jvm.Cond.selects "ProofPages$Breaker" ({ cls := "ProofPages$Breaker", name := "forwards", desc := "()I" } : Jvm.MethodName) ({ cls := "ProofPages$Breaker", name := "forwards", desc := "()I" } : Jvm.MethodName)) ∈ lw_all := lw_g (lw_at lw_m4 63 rfl) rfl
theorem q824 : (Jvm.Cond.code ({ cls := "ProofPages$Breaker", name := "forwards", desc := "()I" } : Jvm.MethodName) prog_2_method_7_code (4 : Nat) (Option.some Jvm.ClassFile.FieldType.int)) ∈ lw_all := lw_g (lw_at lw_m4 64 rfl) rfl
theorem q825 : (Jvm.Cond.methodLink "ProofPages$Breaker" (73 : Nat) ({ cls := "java/lang/Math", name := "min", desc := "(II)I" } : Jvm.MethodName)) ∈ lw_all := lw_g (lw_at lw_m4 65 rfl) rfl
theorem q1183 : (Jvm.Cond.castable "ProofPages$Breaker" "java/lang/Object") ∈ lw_tbl := lw_at lw_m5 183 rfl
theorem in_X2 : ∀ w ∈ wsX20, w ∈ lw_all := lw_in wsX20 [430, 432, 434, 436, 438, 440] (by decide +kernel) (by decide +kernel)

/-! ProofPages$Paragraph -/
set_option maxRecDepth 100000
def RX4 : String := "ProofPages$Paragraph"
def TX4 : u_T := fun k => match k with
  | 0 => ("ProofPages$Paragraph", "words", "Ljava/util/List;", true)
  | 1 => ("ProofPages$Paragraph", "breaks", "[I", true)
  | 2 => ("ProofPages$Paragraph", "lines", "I", false)
  | 3 => ("ProofPages$Paragraph", "isLaid", "Z", false)
  | _ => ("ProofPages$Paragraph", "isFrozen", "Z", false)
def tyX4 : Nat → FieldType := fun k => match k with
  | 0 => .object "java/util/List"
  | 1 => .array .int
  | 2 => .int
  | 3 => .boolean
  | _ => .boolean
abbrev wsX40 : List Cond := u_ws RX4 TX4 5
theorem nmX4 : ∀ a, a < 5 → ∀ b, b < 5 → a ≠ b → (TX4 a).2.1 ≠ (TX4 b).2.1 := by decide +kernel
theorem tyX4_ok : ∀ k, k < 5 → parseFieldDescriptor (TX4 k).2.2.1 = some (tyX4 k) := by decide +kernel
abbrev cX4_init : ByteArray := prog_4_method_1_code
def yX4_init : MethodName := ⟨RX4, "<init>", "()V"⟩
def dkwX4_init_1 : List UInt8 := [42, 4, 181, 0, 22, 177]
abbrev dktX4_init_1 : List UInt8 := dkwX4_init_1 ++ []
def dkwX4_init_0 : List UInt8 := [42, 183, 0, 3, 42, 187, 0, 9, 89, 183, 0, 11, 181, 0, 12, 42, 17, 3, 133, 188, 10, 181, 0, 18]
abbrev dktX4_init_0 : List UInt8 := dkwX4_init_0 ++ dktX4_init_1
theorem dksX4_init_0 : cX4_init.data.toList.drop 0 = dktX4_init_0 := by decide +kernel
theorem dksX4_init_1 : cX4_init.data.toList.drop 24 = dktX4_init_1 := dk_seg dksX4_init_0 24 rfl rfl
theorem dX4_init_0 : decode cX4_init 0 = .ok (.aload_n 0, 1) := dk_42 (dk_at dksX4_init_0 0 rfl rfl)
theorem dX4_init_1 : decode cX4_init 1 = .ok (.invokespecial 3, 3) := dk_183 0 3 (dk_at dksX4_init_0 1 rfl rfl)
theorem dX4_init_4 : decode cX4_init 4 = .ok (.aload_n 0, 1) := dk_42 (dk_at dksX4_init_0 4 rfl rfl)
theorem dX4_init_5 : decode cX4_init 5 = .ok (.new 9, 3) := dk_187 0 9 (dk_at dksX4_init_0 5 rfl rfl)
theorem dX4_init_8 : decode cX4_init 8 = .ok (.dup, 1) := dk_89 (dk_at dksX4_init_0 8 rfl rfl)
theorem dX4_init_9 : decode cX4_init 9 = .ok (.invokespecial 11, 3) := dk_183 0 11 (dk_at dksX4_init_0 9 rfl rfl)
theorem dX4_init_12 : decode cX4_init 12 = .ok (.putfield 12, 3) := dk_181 0 12 (dk_at dksX4_init_0 12 rfl rfl)
theorem dX4_init_15 : decode cX4_init 15 = .ok (.aload_n 0, 1) := dk_42 (dk_at dksX4_init_0 15 rfl rfl)
theorem dX4_init_16 : decode cX4_init 16 = .ok (.sipush 901, 3) := dk_17 3 133 (dk_at dksX4_init_0 16 rfl rfl)
theorem dX4_init_19 : decode cX4_init 19 = .ok (.newarray .int, 2) := dk_188_10 (dk_at dksX4_init_0 19 rfl rfl)
theorem dX4_init_21 : decode cX4_init 21 = .ok (.putfield 18, 3) := dk_181 0 18 (dk_at dksX4_init_0 21 rfl rfl)
theorem dX4_init_24 : decode cX4_init 24 = .ok (.aload_n 0, 1) := dk_42 (dk_at dksX4_init_1 0 rfl rfl)
theorem dX4_init_25 : decode cX4_init 25 = .ok (.iconst 1, 1) := dk_4 (dk_at dksX4_init_1 1 rfl rfl)
theorem dX4_init_26 : decode cX4_init 26 = .ok (.putfield 22, 3) := dk_181 0 22 (dk_at dksX4_init_1 2 rfl rfl)
theorem dX4_init_29 : decode cX4_init 29 = .ok (.return_, 1) := dk_177 (dk_at dksX4_init_1 5 rfl rfl)
abbrev cX4_lineWith : ByteArray := prog_4_method_2_code
def yX4_lineWith : MethodName := ⟨RX4, "lineWith", "(I)I"⟩
def dkwX4_lineWith_0 : List UInt8 := [3, 61, 42, 180, 0, 18, 28, 4, 96, 46, 27, 163, 0, 9, 132, 2, 1, 167, 255, 241, 28, 172]
abbrev dktX4_lineWith_0 : List UInt8 := dkwX4_lineWith_0 ++ []
theorem dksX4_lineWith_0 : cX4_lineWith.data.toList.drop 0 = dktX4_lineWith_0 := by decide +kernel
theorem dX4_lineWith_0 : decode cX4_lineWith 0 = .ok (.iconst 0, 1) := dk_3 (dk_at dksX4_lineWith_0 0 rfl rfl)
theorem dX4_lineWith_1 : decode cX4_lineWith 1 = .ok (.istore_n 2, 1) := dk_61 (dk_at dksX4_lineWith_0 1 rfl rfl)
theorem dX4_lineWith_2 : decode cX4_lineWith 2 = .ok (.aload_n 0, 1) := dk_42 (dk_at dksX4_lineWith_0 2 rfl rfl)
theorem dX4_lineWith_3 : decode cX4_lineWith 3 = .ok (.getfield 18, 3) := dk_180 0 18 (dk_at dksX4_lineWith_0 3 rfl rfl)
theorem dX4_lineWith_6 : decode cX4_lineWith 6 = .ok (.iload_n 2, 1) := dk_28 (dk_at dksX4_lineWith_0 6 rfl rfl)
theorem dX4_lineWith_7 : decode cX4_lineWith 7 = .ok (.iconst 1, 1) := dk_4 (dk_at dksX4_lineWith_0 7 rfl rfl)
theorem dX4_lineWith_8 : decode cX4_lineWith 8 = .ok (.iadd, 1) := dk_96 (dk_at dksX4_lineWith_0 8 rfl rfl)
theorem dX4_lineWith_9 : decode cX4_lineWith 9 = .ok (.iaload, 1) := dk_46 (dk_at dksX4_lineWith_0 9 rfl rfl)
theorem dX4_lineWith_10 : decode cX4_lineWith 10 = .ok (.iload_n 1, 1) := dk_27 (dk_at dksX4_lineWith_0 10 rfl rfl)
theorem dX4_lineWith_11 : decode cX4_lineWith 11 = .ok (.if_icmp .gt 9, 3) := dk_163 0 9 (dk_at dksX4_lineWith_0 11 rfl rfl)
theorem dX4_lineWith_14 : decode cX4_lineWith 14 = .ok (.iinc 2 1, 3) := dk_132 2 1 (dk_at dksX4_lineWith_0 14 rfl rfl)
theorem dX4_lineWith_17 : decode cX4_lineWith 17 = .ok (.goto (-15), 3) := dk_167 255 241 (dk_at dksX4_lineWith_0 17 rfl rfl)
theorem dX4_lineWith_20 : decode cX4_lineWith 20 = .ok (.iload_n 2, 1) := dk_28 (dk_at dksX4_lineWith_0 20 rfl rfl)
theorem dX4_lineWith_21 : decode cX4_lineWith 21 = .ok (.ireturn, 1) := dk_172 (dk_at dksX4_lineWith_0 21 rfl rfl)
theorem q63 : (Jvm.Cond.initialized "ProofPages$Paragraph") ∈ lw_all := lw_g (lw_at lw_m1 23 rfl) rfl
theorem q581 : (Jvm.Cond.instantiable "ProofPages$Paragraph" (5 : Nat)) ∈ lw_all := lw_g (lw_at lw_m3 61 rfl) rfl
theorem q583 : (Jvm.Cond.instanceMethod ({ cls := "ProofPages$Paragraph", name := "<init>", desc := "()V" } : Jvm.MethodName)) ∈ lw_all := lw_g (lw_at lw_m3 63 rfl) rfl
theorem q584 : (Jvm.Cond.code ({ cls := "ProofPages$Paragraph", name := "<init>", desc := "()V" } : Jvm.MethodName) prog_4_method_1_code (1 : Nat) (Option.none : Option Jvm.ClassFile.FieldType)) ∈ lw_all := lw_g (lw_at lw_m3 64 rfl) rfl
theorem q585 : (Jvm.Cond.methodLink "ProofPages$Paragraph" (3 : Nat) ({ cls := "java/lang/Object", name := "<init>", desc := "()V" } : Jvm.MethodName)) ∈ lw_all := lw_g (lw_at lw_m3 65 rfl) rfl
theorem q586 : (Jvm.Cond.classLink "ProofPages$Paragraph" (9 : Nat) "java/util/ArrayList") ∈ lw_all := lw_g (lw_at lw_m3 66 rfl) rfl
theorem q587 : (Jvm.Cond.methodLink "ProofPages$Paragraph" (11 : Nat) ({ cls := "java/util/ArrayList", name := "<init>", desc := "()V" } : Jvm.MethodName)) ∈ lw_all := lw_g (lw_at lw_m3 67 rfl) rfl
theorem q592 : (Jvm.Cond.fieldLink "ProofPages$Paragraph" (12 : Nat) "ProofPages$Paragraph" "words" "Ljava/util/List;") ∈ lw_all := lw_g (lw_at lw_m3 72 rfl) rfl
theorem q596 : (Jvm.Cond.fieldLink "ProofPages$Paragraph" (18 : Nat) "ProofPages$Paragraph" "breaks" "[I") ∈ lw_all := lw_g (lw_at lw_m3 76 rfl) rfl
theorem q601 : (Jvm.Cond.fieldLink "ProofPages$Paragraph" (22 : Nat) "ProofPages$Paragraph" "isLaid" "Z") ∈ lw_all := lw_g (lw_at lw_m3 81 rfl) rfl
theorem q604 : (Jvm.Cond.laysFinal "ProofPages$Paragraph" "ProofPages$Paragraph" "words" "Ljava/util/List;") ∈ lw_all := lw_g (lw_at lw_m3 84 rfl) rfl
theorem q605 : (Jvm.Cond.soleField "ProofPages$Paragraph" "words") ∈ lw_all := lw_g (lw_at lw_m3 85 rfl) rfl
theorem q606 : (Jvm.Cond.laysFinal "ProofPages$Paragraph" "ProofPages$Paragraph" "breaks" "[I") ∈ lw_all := lw_g (lw_at lw_m3 86 rfl) rfl
theorem q607 : (Jvm.Cond.soleField "ProofPages$Paragraph" "breaks") ∈ lw_all := lw_g (lw_at lw_m3 87 rfl) rfl
theorem q608 : (Jvm.Cond.lays "ProofPages$Paragraph" "ProofPages$Paragraph" "lines" "I") ∈ lw_all := lw_g (lw_at lw_m3 88 rfl) rfl
theorem q609 : (Jvm.Cond.soleField "ProofPages$Paragraph" "lines") ∈ lw_all := lw_g (lw_at lw_m3 89 rfl) rfl
theorem q610 : (Jvm.Cond.lays "ProofPages$Paragraph" "ProofPages$Paragraph" "isLaid" "Z") ∈ lw_all := lw_g (lw_at lw_m3 90 rfl) rfl
theorem q611 : (Jvm.Cond.soleField "ProofPages$Paragraph" "isLaid") ∈ lw_all := lw_g (lw_at lw_m3 91 rfl) rfl
theorem q612 : (Jvm.Cond.lays "ProofPages$Paragraph" "ProofPages$Paragraph" "isFrozen" "Z") ∈ lw_all := lw_g (lw_at lw_m3 92 rfl) rfl
theorem q613 : (Jvm.Cond.soleField "ProofPages$Paragraph" "isFrozen") ∈ lw_all := lw_g (lw_at lw_m3 93 rfl) rfl
theorem q614 : (Jvm.Cond.superclass "ProofPages$Paragraph" "java/lang/Object") ∈ lw_all := lw_g (lw_at lw_m3 94 rfl) rfl
theorem q646 : (Jvm.Cond.selects "ProofPages$Paragraph" ({ cls := "java/lang/Object", name := "getClass", desc := "()Ljava/lang/Class;" } : Jvm.MethodName) ({ cls := "java/lang/Object", name := "getClass", desc := "()Ljava/lang/Class;" } : Jvm.MethodName)) ∈ lw_all := lw_g (lw_at lw_m3 126 rfl) rfl
theorem q846 : (Jvm.Cond.instanceMethod ({ cls := "ProofPages$Paragraph", name := "lineWith", desc := "(I)I" } : Jvm.MethodName)) ∈ lw_all := lw_g (lw_at lw_m4 86 rfl) rfl
theorem q847 : (Jvm.Cond.selects "ProofPages$Paragraph" ({ cls := "ProofPages$Paragraph", name := "lineWith", desc := "(I)I" } : Jvm.MethodName) ({ cls := "ProofPages$Paragraph", name := "lineWith", desc := "(I)I" } : Jvm.MethodName)) ∈ lw_all := lw_g (lw_at lw_m4 87 rfl) rfl
theorem q848 : (Jvm.Cond.code ({ cls := "ProofPages$Paragraph", name := "lineWith", desc := "(I)I" } : Jvm.MethodName) prog_4_method_2_code (3 : Nat) (Option.some Jvm.ClassFile.FieldType.int)) ∈ lw_all := lw_g (lw_at lw_m4 88 rfl) rfl
theorem q1186 : (Jvm.Cond.castable "ProofPages$Paragraph" "java/lang/Object") ∈ lw_tbl := lw_at lw_m5 186 rfl
theorem in_X4 : ∀ w ∈ wsX40, w ∈ lw_all := lw_in wsX40 [604, 606, 608, 610, 612] (by decide +kernel) (by decide +kernel)

/-! ProofPages$Word -/
set_option maxRecDepth 100000
def RX5 : String := "ProofPages$Word"
def TX5 : u_T := fun k => match k with
  | 0 => ("ProofPages$Word", "number", "I", true)
  | 1 => ("ProofPages$Word", "paragraph", "LProofPages$Paragraph;", true)
  | 2 => ("ProofPages$Word", "index", "I", true)
  | 3 => ("ProofPages$Word", "letters", "I", true)
  | _ => ("ProofPages$Word", "scores", "[I", true)
def tyX5 : Nat → FieldType := fun k => match k with
  | 0 => .int
  | 1 => .object "ProofPages$Paragraph"
  | 2 => .int
  | 3 => .int
  | _ => .array .int
abbrev wsX50 : List Cond := u_ws RX5 TX5 5
theorem nmX5 : ∀ a, a < 5 → ∀ b, b < 5 → a ≠ b → (TX5 a).2.1 ≠ (TX5 b).2.1 := by decide +kernel
theorem tyX5_ok : ∀ k, k < 5 → parseFieldDescriptor (TX5 k).2.2.1 = some (tyX5 k) := by decide +kernel
abbrev cX5_init : ByteArray := prog_5_method_1_code
def yX5_init : MethodName := ⟨RX5, "<init>", "(ILProofPages$Paragraph;I)V"⟩
def dkwX5_init_1 : List UInt8 := [185, 0, 26, 1, 0, 181, 0, 32, 42, 29, 188, 10, 181, 0, 35, 177]
abbrev dktX5_init_1 : List UInt8 := dkwX5_init_1 ++ []
def dkwX5_init_0 : List UInt8 := [42, 183, 0, 1, 42, 27, 181, 0, 7, 42, 44, 181, 0, 13, 42, 29, 181, 0, 17, 42, 44, 180, 0, 20]
abbrev dktX5_init_0 : List UInt8 := dkwX5_init_0 ++ dktX5_init_1
theorem dksX5_init_0 : cX5_init.data.toList.drop 0 = dktX5_init_0 := by decide +kernel
theorem dksX5_init_1 : cX5_init.data.toList.drop 24 = dktX5_init_1 := dk_seg dksX5_init_0 24 rfl rfl
theorem dX5_init_0 : decode cX5_init 0 = .ok (.aload_n 0, 1) := dk_42 (dk_at dksX5_init_0 0 rfl rfl)
theorem dX5_init_1 : decode cX5_init 1 = .ok (.invokespecial 1, 3) := dk_183 0 1 (dk_at dksX5_init_0 1 rfl rfl)
theorem dX5_init_4 : decode cX5_init 4 = .ok (.aload_n 0, 1) := dk_42 (dk_at dksX5_init_0 4 rfl rfl)
theorem dX5_init_5 : decode cX5_init 5 = .ok (.iload_n 1, 1) := dk_27 (dk_at dksX5_init_0 5 rfl rfl)
theorem dX5_init_6 : decode cX5_init 6 = .ok (.putfield 7, 3) := dk_181 0 7 (dk_at dksX5_init_0 6 rfl rfl)
theorem dX5_init_9 : decode cX5_init 9 = .ok (.aload_n 0, 1) := dk_42 (dk_at dksX5_init_0 9 rfl rfl)
theorem dX5_init_10 : decode cX5_init 10 = .ok (.aload_n 2, 1) := dk_44 (dk_at dksX5_init_0 10 rfl rfl)
theorem dX5_init_11 : decode cX5_init 11 = .ok (.putfield 13, 3) := dk_181 0 13 (dk_at dksX5_init_0 11 rfl rfl)
theorem dX5_init_14 : decode cX5_init 14 = .ok (.aload_n 0, 1) := dk_42 (dk_at dksX5_init_0 14 rfl rfl)
theorem dX5_init_15 : decode cX5_init 15 = .ok (.iload_n 3, 1) := dk_29 (dk_at dksX5_init_0 15 rfl rfl)
theorem dX5_init_16 : decode cX5_init 16 = .ok (.putfield 17, 3) := dk_181 0 17 (dk_at dksX5_init_0 16 rfl rfl)
theorem dX5_init_19 : decode cX5_init 19 = .ok (.aload_n 0, 1) := dk_42 (dk_at dksX5_init_0 19 rfl rfl)
theorem dX5_init_20 : decode cX5_init 20 = .ok (.aload_n 2, 1) := dk_44 (dk_at dksX5_init_0 20 rfl rfl)
theorem dX5_init_21 : decode cX5_init 21 = .ok (.getfield 20, 3) := dk_180 0 20 (dk_at dksX5_init_0 21 rfl rfl)
theorem dX5_init_24 : decode cX5_init 24 = .ok (.invokeinterface 26 1, 5) := by decide +kernel
theorem dX5_init_29 : decode cX5_init 29 = .ok (.putfield 32, 3) := dk_181 0 32 (dk_at dksX5_init_1 5 rfl rfl)
theorem dX5_init_32 : decode cX5_init 32 = .ok (.aload_n 0, 1) := dk_42 (dk_at dksX5_init_1 8 rfl rfl)
theorem dX5_init_33 : decode cX5_init 33 = .ok (.iload_n 3, 1) := dk_29 (dk_at dksX5_init_1 9 rfl rfl)
theorem dX5_init_34 : decode cX5_init 34 = .ok (.newarray .int, 2) := dk_188_10 (dk_at dksX5_init_1 10 rfl rfl)
theorem dX5_init_36 : decode cX5_init 36 = .ok (.putfield 35, 3) := dk_181 0 35 (dk_at dksX5_init_1 12 rfl rfl)
theorem dX5_init_39 : decode cX5_init 39 = .ok (.return_, 1) := dk_177 (dk_at dksX5_init_1 15 rfl rfl)
theorem q67 : (Jvm.Cond.initialized "ProofPages$Word") ∈ lw_all := lw_g (lw_at lw_m1 27 rfl) rfl
theorem q593 : (Jvm.Cond.fieldLinkNest "ProofPages$Word" (20 : Nat) "ProofPages$Paragraph" "words" "Ljava/util/List;" "ProofPages") ∈ lw_tbl := lw_at lw_m3 73 rfl
theorem q647 : (Jvm.Cond.selects "ProofPages$Word" ({ cls := "java/lang/Object", name := "getClass", desc := "()Ljava/lang/Class;" } : Jvm.MethodName) ({ cls := "java/lang/Object", name := "getClass", desc := "()Ljava/lang/Class;" } : Jvm.MethodName)) ∈ lw_all := lw_g (lw_at lw_m3 127 rfl) rfl
theorem q721 : (Jvm.Cond.instantiable "ProofPages$Word" (5 : Nat)) ∈ lw_all := lw_g (lw_at lw_m3 201 rfl) rfl
theorem q723 : (Jvm.Cond.instanceMethod ({ cls := "ProofPages$Word", name := "<init>", desc := "(ILProofPages$Paragraph;I)V" } : Jvm.MethodName)) ∈ lw_all := lw_g (lw_at lw_m3 203 rfl) rfl
theorem q724 : (Jvm.Cond.code ({ cls := "ProofPages$Word", name := "<init>", desc := "(ILProofPages$Paragraph;I)V" } : Jvm.MethodName) prog_5_method_1_code (4 : Nat) (Option.none : Option Jvm.ClassFile.FieldType)) ∈ lw_all := lw_g (lw_at lw_m3 204 rfl) rfl
theorem q725 : (Jvm.Cond.methodLink "ProofPages$Word" (1 : Nat) ({ cls := "java/lang/Object", name := "<init>", desc := "()V" } : Jvm.MethodName)) ∈ lw_all := lw_g (lw_at lw_m3 205 rfl) rfl
theorem q726 : (Jvm.Cond.interfaceEntry "ProofPages$Word" (26 : Nat)) ∈ lw_tbl := lw_at lw_m3 206 rfl
theorem q727 : (Jvm.Cond.methodLink "ProofPages$Word" (26 : Nat) ({ cls := "java/util/List", name := "size", desc := "()I" } : Jvm.MethodName)) ∈ lw_all := lw_g (lw_at lw_m3 207 rfl) rfl
theorem q728 : (Jvm.Cond.fieldLink "ProofPages$Word" (7 : Nat) "ProofPages$Word" "number" "I") ∈ lw_all := lw_g (lw_at lw_m3 208 rfl) rfl
theorem q730 : (Jvm.Cond.fieldLink "ProofPages$Word" (13 : Nat) "ProofPages$Word" "paragraph" "LProofPages$Paragraph;") ∈ lw_all := lw_g (lw_at lw_m3 210 rfl) rfl
theorem q732 : (Jvm.Cond.fieldLink "ProofPages$Word" (32 : Nat) "ProofPages$Word" "index" "I") ∈ lw_all := lw_g (lw_at lw_m3 212 rfl) rfl
theorem q734 : (Jvm.Cond.fieldLink "ProofPages$Word" (17 : Nat) "ProofPages$Word" "letters" "I") ∈ lw_all := lw_g (lw_at lw_m3 214 rfl) rfl
theorem q737 : (Jvm.Cond.fieldLink "ProofPages$Word" (35 : Nat) "ProofPages$Word" "scores" "[I") ∈ lw_all := lw_g (lw_at lw_m3 217 rfl) rfl
theorem q740 : (Jvm.Cond.laysFinal "ProofPages$Word" "ProofPages$Word" "number" "I") ∈ lw_all := lw_g (lw_at lw_m3 220 rfl) rfl
theorem q741 : (Jvm.Cond.soleField "ProofPages$Word" "number") ∈ lw_all := lw_g (lw_at lw_m3 221 rfl) rfl
theorem q742 : (Jvm.Cond.laysFinal "ProofPages$Word" "ProofPages$Word" "paragraph" "LProofPages$Paragraph;") ∈ lw_all := lw_g (lw_at lw_m3 222 rfl) rfl
theorem q743 : (Jvm.Cond.soleField "ProofPages$Word" "paragraph") ∈ lw_all := lw_g (lw_at lw_m3 223 rfl) rfl
theorem q744 : (Jvm.Cond.laysFinal "ProofPages$Word" "ProofPages$Word" "index" "I") ∈ lw_all := lw_g (lw_at lw_m3 224 rfl) rfl
theorem q745 : (Jvm.Cond.soleField "ProofPages$Word" "index") ∈ lw_all := lw_g (lw_at lw_m3 225 rfl) rfl
theorem q746 : (Jvm.Cond.laysFinal "ProofPages$Word" "ProofPages$Word" "letters" "I") ∈ lw_all := lw_g (lw_at lw_m3 226 rfl) rfl
theorem q747 : (Jvm.Cond.soleField "ProofPages$Word" "letters") ∈ lw_all := lw_g (lw_at lw_m3 227 rfl) rfl
theorem q748 : (Jvm.Cond.laysFinal "ProofPages$Word" "ProofPages$Word" "scores" "[I") ∈ lw_all := lw_g (lw_at lw_m3 228 rfl) rfl
theorem q749 : (Jvm.Cond.soleField "ProofPages$Word" "scores") ∈ lw_all := lw_g (lw_at lw_m3 229 rfl) rfl
theorem q750 : (Jvm.Cond.superclass "ProofPages$Word" "java/lang/Object") ∈ lw_all := lw_g (lw_at lw_m3 230 rfl) rfl
theorem q1189 : (Jvm.Cond.castable "ProofPages$Word" "java/lang/Object") ∈ lw_tbl := lw_at lw_m5 189 rfl
theorem in_X5 : ∀ w ∈ wsX50, w ∈ lw_all := lw_in wsX50 [740, 742, 744, 746, 748] (by decide +kernel) (by decide +kernel)

/-! ProofPages$Mistake -/
set_option maxRecDepth 100000
def RX6 : String := "ProofPages$Mistake"
def TX6 : u_T := fun k => match k with
  | 0 => ("ProofPages$Mistake", "reader", "I", true)
  | 1 => ("ProofPages$Mistake", "word", "LProofPages$Word;", true)
  | _ => ("ProofPages$Mistake", "state", "I", false)
def tyX6 : Nat → FieldType := fun k => match k with
  | 0 => .int
  | 1 => .object "ProofPages$Word"
  | _ => .int
abbrev wsX60 : List Cond := u_ws RX6 TX6 3
theorem nmX6 : ∀ a, a < 3 → ∀ b, b < 3 → a ≠ b → (TX6 a).2.1 ≠ (TX6 b).2.1 := by decide +kernel
theorem tyX6_ok : ∀ k, k < 3 → parseFieldDescriptor (TX6 k).2.2.1 = some (tyX6 k) := by decide +kernel
abbrev cX6_init : ByteArray := prog_3_method_1_code
def yX6_init : MethodName := ⟨RX6, "<init>", "(ILProofPages$Word;)V"⟩
def dkwX6_init_0 : List UInt8 := [42, 183, 0, 3, 42, 3, 181, 0, 9, 42, 27, 181, 0, 15, 42, 44, 181, 0, 18, 177]
abbrev dktX6_init_0 : List UInt8 := dkwX6_init_0 ++ []
theorem dksX6_init_0 : cX6_init.data.toList.drop 0 = dktX6_init_0 := by decide +kernel
theorem dX6_init_0 : decode cX6_init 0 = .ok (.aload_n 0, 1) := dk_42 (dk_at dksX6_init_0 0 rfl rfl)
theorem dX6_init_1 : decode cX6_init 1 = .ok (.invokespecial 3, 3) := dk_183 0 3 (dk_at dksX6_init_0 1 rfl rfl)
theorem dX6_init_4 : decode cX6_init 4 = .ok (.aload_n 0, 1) := dk_42 (dk_at dksX6_init_0 4 rfl rfl)
theorem dX6_init_5 : decode cX6_init 5 = .ok (.iconst 0, 1) := dk_3 (dk_at dksX6_init_0 5 rfl rfl)
theorem dX6_init_6 : decode cX6_init 6 = .ok (.putfield 9, 3) := dk_181 0 9 (dk_at dksX6_init_0 6 rfl rfl)
theorem dX6_init_9 : decode cX6_init 9 = .ok (.aload_n 0, 1) := dk_42 (dk_at dksX6_init_0 9 rfl rfl)
theorem dX6_init_10 : decode cX6_init 10 = .ok (.iload_n 1, 1) := dk_27 (dk_at dksX6_init_0 10 rfl rfl)
theorem dX6_init_11 : decode cX6_init 11 = .ok (.putfield 15, 3) := dk_181 0 15 (dk_at dksX6_init_0 11 rfl rfl)
theorem dX6_init_14 : decode cX6_init 14 = .ok (.aload_n 0, 1) := dk_42 (dk_at dksX6_init_0 14 rfl rfl)
theorem dX6_init_15 : decode cX6_init 15 = .ok (.aload_n 2, 1) := dk_44 (dk_at dksX6_init_0 15 rfl rfl)
theorem dX6_init_16 : decode cX6_init 16 = .ok (.putfield 18, 3) := dk_181 0 18 (dk_at dksX6_init_0 16 rfl rfl)
theorem dX6_init_19 : decode cX6_init 19 = .ok (.return_, 1) := dk_177 (dk_at dksX6_init_0 19 rfl rfl)
abbrev cX6_points : ByteArray := prog_3_method_2_code
def yX6_points : MethodName := ⟨RX6, "points", "()I"⟩
def dkwX6_points_1 : List UInt8 := [3, 172]
abbrev dktX6_points_1 : List UInt8 := dkwX6_points_1 ++ []
def dkwX6_points_0 : List UInt8 := [42, 180, 0, 9, 4, 160, 0, 7, 6, 167, 0, 16, 42, 180, 0, 9, 5, 160, 0, 7, 2, 167, 0, 4]
abbrev dktX6_points_0 : List UInt8 := dkwX6_points_0 ++ dktX6_points_1
theorem dksX6_points_0 : cX6_points.data.toList.drop 0 = dktX6_points_0 := by decide +kernel
theorem dksX6_points_1 : cX6_points.data.toList.drop 24 = dktX6_points_1 := dk_seg dksX6_points_0 24 rfl rfl
theorem dX6_points_0 : decode cX6_points 0 = .ok (.aload_n 0, 1) := dk_42 (dk_at dksX6_points_0 0 rfl rfl)
theorem dX6_points_1 : decode cX6_points 1 = .ok (.getfield 9, 3) := dk_180 0 9 (dk_at dksX6_points_0 1 rfl rfl)
theorem dX6_points_4 : decode cX6_points 4 = .ok (.iconst 1, 1) := dk_4 (dk_at dksX6_points_0 4 rfl rfl)
theorem dX6_points_5 : decode cX6_points 5 = .ok (.if_icmp .ne 7, 3) := dk_160 0 7 (dk_at dksX6_points_0 5 rfl rfl)
theorem dX6_points_8 : decode cX6_points 8 = .ok (.iconst 3, 1) := dk_6 (dk_at dksX6_points_0 8 rfl rfl)
theorem dX6_points_9 : decode cX6_points 9 = .ok (.goto 16, 3) := dk_167 0 16 (dk_at dksX6_points_0 9 rfl rfl)
theorem dX6_points_12 : decode cX6_points 12 = .ok (.aload_n 0, 1) := dk_42 (dk_at dksX6_points_0 12 rfl rfl)
theorem dX6_points_13 : decode cX6_points 13 = .ok (.getfield 9, 3) := dk_180 0 9 (dk_at dksX6_points_0 13 rfl rfl)
theorem dX6_points_16 : decode cX6_points 16 = .ok (.iconst 2, 1) := dk_5 (dk_at dksX6_points_0 16 rfl rfl)
theorem dX6_points_17 : decode cX6_points 17 = .ok (.if_icmp .ne 7, 3) := dk_160 0 7 (dk_at dksX6_points_0 17 rfl rfl)
theorem dX6_points_20 : decode cX6_points 20 = .ok (.iconst (-1), 1) := dk_2 (dk_at dksX6_points_0 20 rfl rfl)
theorem dX6_points_21 : decode cX6_points 21 = .ok (.goto 4, 3) := dk_167 0 4 (dk_at dksX6_points_0 21 rfl rfl)
theorem dX6_points_24 : decode cX6_points 24 = .ok (.iconst 0, 1) := dk_3 (dk_at dksX6_points_1 0 rfl rfl)
theorem dX6_points_25 : decode cX6_points 25 = .ok (.ireturn, 1) := dk_172 (dk_at dksX6_points_1 1 rfl rfl)
theorem q68 : (Jvm.Cond.initialized "ProofPages$Mistake") ∈ lw_all := lw_g (lw_at lw_m1 28 rfl) rfl
theorem q645 : (Jvm.Cond.selects "ProofPages$Mistake" ({ cls := "java/lang/Object", name := "getClass", desc := "()Ljava/lang/Class;" } : Jvm.MethodName) ({ cls := "java/lang/Object", name := "getClass", desc := "()Ljava/lang/Class;" } : Jvm.MethodName)) ∈ lw_all := lw_g (lw_at lw_m3 125 rfl) rfl
theorem q857 : (Jvm.Cond.instantiable "ProofPages$Mistake" (3 : Nat)) ∈ lw_all := lw_g (lw_at lw_m4 97 rfl) rfl
theorem q859 : (Jvm.Cond.instanceMethod ({ cls := "ProofPages$Mistake", name := "<init>", desc := "(ILProofPages$Word;)V" } : Jvm.MethodName)) ∈ lw_all := lw_g (lw_at lw_m4 99 rfl) rfl
theorem q860 : (Jvm.Cond.code ({ cls := "ProofPages$Mistake", name := "<init>", desc := "(ILProofPages$Word;)V" } : Jvm.MethodName) prog_3_method_1_code (3 : Nat) (Option.none : Option Jvm.ClassFile.FieldType)) ∈ lw_all := lw_g (lw_at lw_m4 100 rfl) rfl
theorem q861 : (Jvm.Cond.methodLink "ProofPages$Mistake" (3 : Nat) ({ cls := "java/lang/Object", name := "<init>", desc := "()V" } : Jvm.MethodName)) ∈ lw_all := lw_g (lw_at lw_m4 101 rfl) rfl
theorem q862 : (Jvm.Cond.fieldLink "ProofPages$Mistake" (15 : Nat) "ProofPages$Mistake" "reader" "I") ∈ lw_all := lw_g (lw_at lw_m4 102 rfl) rfl
theorem q864 : (Jvm.Cond.fieldLink "ProofPages$Mistake" (18 : Nat) "ProofPages$Mistake" "word" "LProofPages$Word;") ∈ lw_all := lw_g (lw_at lw_m4 104 rfl) rfl
theorem q866 : (Jvm.Cond.fieldLink "ProofPages$Mistake" (9 : Nat) "ProofPages$Mistake" "state" "I") ∈ lw_all := lw_g (lw_at lw_m4 106 rfl) rfl
theorem q868 : (Jvm.Cond.laysFinal "ProofPages$Mistake" "ProofPages$Mistake" "reader" "I") ∈ lw_all := lw_g (lw_at lw_m4 108 rfl) rfl
theorem q869 : (Jvm.Cond.soleField "ProofPages$Mistake" "reader") ∈ lw_all := lw_g (lw_at lw_m4 109 rfl) rfl
theorem q870 : (Jvm.Cond.laysFinal "ProofPages$Mistake" "ProofPages$Mistake" "word" "LProofPages$Word;") ∈ lw_all := lw_g (lw_at lw_m4 110 rfl) rfl
theorem q871 : (Jvm.Cond.soleField "ProofPages$Mistake" "word") ∈ lw_all := lw_g (lw_at lw_m4 111 rfl) rfl
theorem q872 : (Jvm.Cond.lays "ProofPages$Mistake" "ProofPages$Mistake" "state" "I") ∈ lw_all := lw_g (lw_at lw_m4 112 rfl) rfl
theorem q873 : (Jvm.Cond.soleField "ProofPages$Mistake" "state") ∈ lw_all := lw_g (lw_at lw_m4 113 rfl) rfl
theorem q874 : (Jvm.Cond.superclass "ProofPages$Mistake" "java/lang/Object") ∈ lw_all := lw_g (lw_at lw_m4 114 rfl) rfl
theorem q891 : (Jvm.Cond.instanceMethod ({ cls := "ProofPages$Mistake", name := "points", desc := "()I" } : Jvm.MethodName)) ∈ lw_all := lw_g (lw_at lw_m4 131 rfl) rfl
theorem q892 : (Jvm.Cond.selects "ProofPages$Mistake" ({ cls := "ProofPages$Mistake", name := "points", desc := "()I" } : Jvm.MethodName) ({ cls := "ProofPages$Mistake", name := "points", desc := "()I" } : Jvm.MethodName)) ∈ lw_all := lw_g (lw_at lw_m4 132 rfl) rfl
theorem q893 : (Jvm.Cond.code ({ cls := "ProofPages$Mistake", name := "points", desc := "()I" } : Jvm.MethodName) prog_3_method_2_code (1 : Nat) (Option.some Jvm.ClassFile.FieldType.int)) ∈ lw_all := lw_g (lw_at lw_m4 133 rfl) rfl
theorem q1190 : (Jvm.Cond.castable "ProofPages$Mistake" "java/lang/Object") ∈ lw_tbl := lw_at lw_m5 190 rfl
theorem in_X6 : ∀ w ∈ wsX60, w ∈ lw_all := lw_in wsX60 [868, 870, 872] (by decide +kernel) (by decide +kernel)

/-! the law's own entry -/
set_option maxRecDepth 100000
abbrev cL_law : ByteArray := code
def dkwL_law_50 : List UInt8 := [167, 0, 3, 132, 4, 4, 167, 251, 78, 4, 172]
abbrev dktL_law_50 : List UInt8 := dkwL_law_50 ++ []
def dkwL_law_49 : List UInt8 := [21, 5, 159, 0, 5, 3, 172, 21, 5, 154, 0, 15, 45, 3, 47, 21, 6, 133, 148, 153, 0, 5, 3, 172]
abbrev dktL_law_49 : List UInt8 := dkwL_law_49 ++ dktL_law_50
def dkwL_law_48 : List UInt8 := [46, 45, 184, 0, 141, 54, 5, 44, 42, 21, 4, 4, 96, 46, 182, 0, 143, 54, 6, 44, 182, 0, 81]
abbrev dktL_law_48 : List UInt8 := dkwL_law_48 ++ dktL_law_49
def dkwL_law_47 : List UInt8 := [154, 0, 15, 45, 3, 47, 21, 6, 133, 148, 153, 0, 5, 3, 172, 167, 0, 59, 43, 42, 21, 4, 4, 96]
abbrev dktL_law_47 : List UInt8 := dkwL_law_47 ++ dktL_law_48
def dkwL_law_46 : List UInt8 := [21, 4, 4, 96, 46, 182, 0, 140, 54, 6, 44, 182, 0, 81, 21, 5, 159, 0, 5, 3, 172, 21, 5]
abbrev dktL_law_46 : List UInt8 := dkwL_law_46 ++ dktL_law_47
def dkwL_law_45 : List UInt8 := [153, 0, 5, 3, 172, 167, 0, 115, 43, 42, 21, 4, 4, 96, 46, 45, 184, 0, 138, 54, 5, 44, 42]
abbrev dktL_law_45 : List UInt8 := dkwL_law_45 ++ dktL_law_46
def dkwL_law_44 : List UInt8 := [182, 0, 81, 21, 5, 159, 0, 5, 3, 172, 21, 5, 154, 0, 15, 45, 3, 47, 21, 6, 133, 148]
abbrev dktL_law_44 : List UInt8 := dkwL_law_44 ++ dktL_law_45
def dkwL_law_43 : List UInt8 := [4, 96, 46, 45, 184, 0, 135, 54, 5, 44, 42, 21, 4, 4, 96, 46, 182, 0, 137, 54, 6, 44]
abbrev dktL_law_43 : List UInt8 := dkwL_law_43 ++ dktL_law_44
def dkwL_law_42 : List UInt8 := [21, 5, 154, 0, 15, 45, 3, 47, 21, 6, 133, 148, 153, 0, 5, 3, 172, 167, 0, 171, 43, 42, 21, 4]
abbrev dktL_law_42 : List UInt8 := dkwL_law_42 ++ dktL_law_43
def dkwL_law_41 : List UInt8 := [153, 0, 7, 4, 167, 0, 4, 3, 182, 0, 134, 54, 6, 44, 182, 0, 81, 21, 5, 159, 0, 5, 3, 172]
abbrev dktL_law_41 : List UInt8 := dkwL_law_41 ++ dktL_law_42
def dkwL_law_40 : List UInt8 := [4, 167, 0, 4, 3, 45, 184, 0, 131, 54, 5, 44, 42, 21, 4, 4, 96, 46, 42, 21, 4, 5, 96, 46]
abbrev dktL_law_40 : List UInt8 := dkwL_law_40 ++ dktL_law_41
def dkwL_law_39 : List UInt8 := [153, 0, 5, 3, 172, 167, 0, 255, 43, 42, 21, 4, 4, 96, 46, 42, 21, 4, 5, 96, 46, 153, 0, 7]
abbrev dktL_law_39 : List UInt8 := dkwL_law_39 ++ dktL_law_40
def dkwL_law_38 : List UInt8 := [182, 0, 81, 21, 5, 159, 0, 5, 3, 172, 21, 5, 154, 0, 15, 45, 3, 47, 21, 6, 133, 148]
abbrev dktL_law_38 : List UInt8 := dkwL_law_38 ++ dktL_law_39
def dkwL_law_37 : List UInt8 := [184, 0, 128, 54, 5, 44, 42, 21, 4, 4, 96, 46, 42, 21, 4, 5, 96, 46, 182, 0, 130, 54, 6, 44]
abbrev dktL_law_37 : List UInt8 := dkwL_law_37 ++ dktL_law_38
def dkwL_law_36 : List UInt8 := [153, 0, 5, 3, 172, 167, 1, 67, 43, 42, 21, 4, 4, 96, 46, 42, 21, 4, 5, 96, 46, 45]
abbrev dktL_law_36 : List UInt8 := dkwL_law_36 ++ dktL_law_37
def dkwL_law_35 : List UInt8 := [182, 0, 81, 21, 5, 159, 0, 5, 3, 172, 21, 5, 154, 0, 15, 45, 3, 47, 21, 6, 133, 148]
abbrev dktL_law_35 : List UInt8 := dkwL_law_35 ++ dktL_law_36
def dkwL_law_34 : List UInt8 := [21, 4, 4, 96, 46, 45, 184, 0, 125, 54, 5, 44, 42, 21, 4, 4, 96, 46, 182, 0, 127, 54, 6, 44]
abbrev dktL_law_34 : List UInt8 := dkwL_law_34 ++ dktL_law_35
def dkwL_law_33 : List UInt8 := [172, 21, 5, 154, 0, 15, 45, 3, 47, 21, 6, 133, 148, 153, 0, 5, 3, 172, 167, 1, 123, 43, 42]
abbrev dktL_law_33 : List UInt8 := dkwL_law_33 ++ dktL_law_34
def dkwL_law_32 : List UInt8 := [54, 5, 44, 42, 21, 4, 4, 96, 46, 182, 0, 124, 54, 6, 44, 182, 0, 81, 21, 5, 159, 0, 5, 3]
abbrev dktL_law_32 : List UInt8 := dkwL_law_32 ++ dktL_law_33
def dkwL_law_31 : List UInt8 := [182, 0, 118, 44, 182, 0, 121, 159, 1, 181, 3, 172, 43, 42, 21, 4, 4, 96, 46, 45, 184, 0, 122]
abbrev dktL_law_31 : List UInt8 := dkwL_law_31 ++ dktL_law_32
def dkwL_law_30 : List UInt8 := [172, 21, 5, 154, 0, 15, 45, 3, 47, 21, 6, 133, 148, 153, 0, 5, 3, 172, 167, 1, 192, 43]
abbrev dktL_law_30 : List UInt8 := dkwL_law_30 ++ dktL_law_31
def dkwL_law_29 : List UInt8 := [54, 5, 44, 42, 21, 4, 4, 96, 46, 182, 0, 117, 54, 6, 44, 182, 0, 81, 21, 5, 159, 0, 5, 3]
abbrev dktL_law_29 : List UInt8 := dkwL_law_29 ++ dktL_law_30
def dkwL_law_28 : List UInt8 := [21, 6, 133, 148, 153, 0, 5, 3, 172, 167, 1, 248, 43, 42, 21, 4, 4, 96, 46, 45, 184, 0, 115]
abbrev dktL_law_28 : List UInt8 := dkwL_law_28 ++ dktL_law_29
def dkwL_law_27 : List UInt8 := [182, 0, 114, 54, 6, 44, 182, 0, 81, 21, 5, 159, 0, 5, 3, 172, 21, 5, 154, 0, 15, 45, 3, 47]
abbrev dktL_law_27 : List UInt8 := dkwL_law_27 ++ dktL_law_28
def dkwL_law_26 : List UInt8 := [167, 2, 48, 43, 42, 21, 4, 4, 96, 46, 45, 184, 0, 112, 54, 5, 44, 42, 21, 4, 4, 96, 46]
abbrev dktL_law_26 : List UInt8 := dkwL_law_26 ++ dktL_law_27
def dkwL_law_25 : List UInt8 := [159, 0, 5, 3, 172, 21, 5, 154, 0, 15, 45, 3, 47, 21, 6, 133, 148, 153, 0, 5, 3, 172]
abbrev dktL_law_25 : List UInt8 := dkwL_law_25 ++ dktL_law_26
def dkwL_law_24 : List UInt8 := [21, 4, 4, 96, 46, 42, 21, 4, 5, 96, 46, 182, 0, 111, 54, 6, 44, 182, 0, 81, 21, 5]
abbrev dktL_law_24 : List UInt8 := dkwL_law_24 ++ dktL_law_25
def dkwL_law_23 : List UInt8 := [167, 2, 116, 43, 42, 21, 4, 4, 96, 46, 42, 21, 4, 5, 96, 46, 45, 184, 0, 109, 54, 5, 44, 42]
abbrev dktL_law_23 : List UInt8 := dkwL_law_23 ++ dktL_law_24
def dkwL_law_22 : List UInt8 := [159, 0, 5, 3, 172, 21, 5, 154, 0, 15, 45, 3, 47, 21, 6, 133, 148, 153, 0, 5, 3, 172]
abbrev dktL_law_22 : List UInt8 := dkwL_law_22 ++ dktL_law_23
def dkwL_law_21 : List UInt8 := [21, 4, 4, 96, 46, 42, 21, 4, 5, 96, 46, 182, 0, 108, 54, 6, 44, 182, 0, 81, 21, 5]
abbrev dktL_law_21 : List UInt8 := dkwL_law_21 ++ dktL_law_22
def dkwL_law_20 : List UInt8 := [167, 2, 184, 43, 42, 21, 4, 4, 96, 46, 42, 21, 4, 5, 96, 46, 45, 184, 0, 106, 54, 5, 44, 42]
abbrev dktL_law_20 : List UInt8 := dkwL_law_20 ++ dktL_law_21
def dkwL_law_19 : List UInt8 := [159, 0, 5, 3, 172, 21, 5, 154, 0, 15, 45, 3, 47, 21, 6, 133, 148, 153, 0, 5, 3, 172]
abbrev dktL_law_19 : List UInt8 := dkwL_law_19 ++ dktL_law_20
def dkwL_law_18 : List UInt8 := [184, 0, 103, 54, 5, 44, 42, 21, 4, 4, 96, 46, 182, 0, 105, 54, 6, 44, 182, 0, 81, 21, 5]
abbrev dktL_law_18 : List UInt8 := dkwL_law_18 ++ dktL_law_19
def dkwL_law_17 : List UInt8 := [167, 2, 253, 43, 182, 0, 99, 44, 182, 0, 102, 159, 2, 242, 3, 172, 43, 42, 21, 4, 4, 96, 46, 45]
abbrev dktL_law_17 : List UInt8 := dkwL_law_17 ++ dktL_law_18
def dkwL_law_16 : List UInt8 := [21, 5, 159, 0, 5, 3, 172, 21, 5, 154, 0, 15, 45, 3, 47, 21, 6, 133, 148, 153, 0, 5, 3, 172]
abbrev dktL_law_16 : List UInt8 := dkwL_law_16 ++ dktL_law_17
def dkwL_law_15 : List UInt8 := [46, 45, 184, 0, 95, 54, 5, 44, 42, 21, 4, 4, 96, 46, 182, 0, 98, 54, 6, 44, 182, 0, 81]
abbrev dktL_law_15 : List UInt8 := dkwL_law_15 ++ dktL_law_16
def dkwL_law_14 : List UInt8 := [154, 0, 15, 45, 3, 47, 21, 6, 133, 148, 153, 0, 5, 3, 172, 167, 3, 53, 43, 42, 21, 4, 4, 96]
abbrev dktL_law_14 : List UInt8 := dkwL_law_14 ++ dktL_law_15
def dkwL_law_13 : List UInt8 := [21, 4, 5, 96, 46, 182, 0, 94, 54, 6, 44, 182, 0, 81, 21, 5, 159, 0, 5, 3, 172, 21, 5]
abbrev dktL_law_13 : List UInt8 := dkwL_law_13 ++ dktL_law_14
def dkwL_law_12 : List UInt8 := [4, 96, 46, 42, 21, 4, 5, 96, 46, 45, 184, 0, 92, 54, 5, 44, 42, 21, 4, 4, 96, 46, 42]
abbrev dktL_law_12 : List UInt8 := dkwL_law_12 ++ dktL_law_13
def dkwL_law_11 : List UInt8 := [21, 5, 154, 0, 15, 45, 3, 47, 21, 6, 133, 148, 153, 0, 5, 3, 172, 167, 3, 121, 43, 42, 21, 4]
abbrev dktL_law_11 : List UInt8 := dkwL_law_11 ++ dktL_law_12
def dkwL_law_10 : List UInt8 := [153, 0, 7, 4, 167, 0, 4, 3, 182, 0, 91, 54, 6, 44, 182, 0, 81, 21, 5, 159, 0, 5, 3, 172]
abbrev dktL_law_10 : List UInt8 := dkwL_law_10 ++ dktL_law_11
def dkwL_law_9 : List UInt8 := [184, 0, 88, 54, 5, 44, 42, 21, 4, 4, 96, 46, 42, 21, 4, 5, 96, 46, 42, 21, 4, 6, 96, 46]
abbrev dktL_law_9 : List UInt8 := dkwL_law_9 ++ dktL_law_10
def dkwL_law_8 : List UInt8 := [46, 42, 21, 4, 5, 96, 46, 42, 21, 4, 6, 96, 46, 153, 0, 7, 4, 167, 0, 4, 3, 45]
abbrev dktL_law_8 : List UInt8 := dkwL_law_8 ++ dktL_law_9
def dkwL_law_7 : List UInt8 := [154, 0, 15, 45, 3, 47, 21, 6, 133, 148, 153, 0, 5, 3, 172, 167, 3, 217, 43, 42, 21, 4, 4, 96]
abbrev dktL_law_7 : List UInt8 := dkwL_law_7 ++ dktL_law_8
def dkwL_law_6 : List UInt8 := [21, 4, 5, 96, 46, 182, 0, 87, 54, 6, 44, 182, 0, 81, 21, 5, 159, 0, 5, 3, 172, 21, 5]
abbrev dktL_law_6 : List UInt8 := dkwL_law_6 ++ dktL_law_7
def dkwL_law_5 : List UInt8 := [4, 96, 46, 42, 21, 4, 5, 96, 46, 45, 184, 0, 84, 54, 5, 44, 42, 21, 4, 4, 96, 46, 42]
abbrev dktL_law_5 : List UInt8 := dkwL_law_5 ++ dktL_law_6
def dkwL_law_4 : List UInt8 := [21, 5, 154, 0, 15, 45, 3, 47, 21, 6, 133, 148, 153, 0, 5, 3, 172, 167, 4, 29, 43, 42, 21, 4]
abbrev dktL_law_4 : List UInt8 := dkwL_law_4 ++ dktL_law_5
def dkwL_law_3 : List UInt8 := [43, 45, 184, 0, 75, 54, 5, 44, 182, 0, 80, 54, 6, 44, 182, 0, 81, 21, 5, 159, 0, 5, 3, 172]
abbrev dktL_law_3 : List UInt8 := dkwL_law_3 ++ dktL_law_4
def dkwL_law_2 : List UInt8 := [170, 0, 0, 4, 159, 0, 0, 0, 0, 0, 0, 0, 18, 0, 0, 0, 89, 0, 0, 0, 133, 0, 0, 0, 201, 0, 0, 1, 41, 0, 0, 1, 109, 0, 0, 1, 165, 0, 0, 1, 178, 0, 0, 1, 234, 0, 0, 2, 46, 0, 0, 2, 114, 0, 0, 2, 170, 0, 0, 2, 226, 0, 0, 2, 239, 0, 0, 3, 39, 0, 0, 3, 95, 0, 0, 3, 163, 0, 0, 3, 247, 0, 0, 4, 47, 0, 0, 4, 103]
abbrev dktL_law_2 : List UInt8 := dkwL_law_2 ++ dktL_law_3
def dkwL_law_1 : List UInt8 := [21, 4, 42, 190, 7, 100, 163, 4, 175, 42, 21, 4, 46, 16, 31, 126]
abbrev dktL_law_1 : List UInt8 := dkwL_law_1 ++ dktL_law_2
def dkwL_law_0 : List UInt8 := [187, 0, 8, 89, 183, 0, 71, 76, 187, 0, 72, 89, 183, 0, 74, 77, 4, 188, 11, 78, 3, 54, 4]
abbrev dktL_law_0 : List UInt8 := dkwL_law_0 ++ dktL_law_1
theorem dksL_law_0 : cL_law.data.toList.drop 0 = dktL_law_0 := by decide +kernel
theorem dksL_law_1 : cL_law.data.toList.drop 23 = dktL_law_1 := dk_seg dksL_law_0 23 rfl rfl
theorem dksL_law_2 : cL_law.data.toList.drop 39 = dktL_law_2 := dk_seg dksL_law_1 16 rfl rfl
theorem dksL_law_3 : cL_law.data.toList.drop 128 = dktL_law_3 := dk_seg dksL_law_2 89 rfl rfl
theorem dksL_law_4 : cL_law.data.toList.drop 152 = dktL_law_4 := dk_seg dksL_law_3 24 rfl rfl
theorem dksL_law_5 : cL_law.data.toList.drop 176 = dktL_law_5 := dk_seg dksL_law_4 24 rfl rfl
theorem dksL_law_6 : cL_law.data.toList.drop 199 = dktL_law_6 := dk_seg dksL_law_5 23 rfl rfl
theorem dksL_law_7 : cL_law.data.toList.drop 222 = dktL_law_7 := dk_seg dksL_law_6 23 rfl rfl
theorem dksL_law_8 : cL_law.data.toList.drop 246 = dktL_law_8 := dk_seg dksL_law_7 24 rfl rfl
theorem dksL_law_9 : cL_law.data.toList.drop 268 = dktL_law_9 := dk_seg dksL_law_8 22 rfl rfl
theorem dksL_law_10 : cL_law.data.toList.drop 292 = dktL_law_10 := dk_seg dksL_law_9 24 rfl rfl
theorem dksL_law_11 : cL_law.data.toList.drop 316 = dktL_law_11 := dk_seg dksL_law_10 24 rfl rfl
theorem dksL_law_12 : cL_law.data.toList.drop 340 = dktL_law_12 := dk_seg dksL_law_11 24 rfl rfl
theorem dksL_law_13 : cL_law.data.toList.drop 363 = dktL_law_13 := dk_seg dksL_law_12 23 rfl rfl
theorem dksL_law_14 : cL_law.data.toList.drop 386 = dktL_law_14 := dk_seg dksL_law_13 23 rfl rfl
theorem dksL_law_15 : cL_law.data.toList.drop 410 = dktL_law_15 := dk_seg dksL_law_14 24 rfl rfl
theorem dksL_law_16 : cL_law.data.toList.drop 433 = dktL_law_16 := dk_seg dksL_law_15 23 rfl rfl
theorem dksL_law_17 : cL_law.data.toList.drop 457 = dktL_law_17 := dk_seg dksL_law_16 24 rfl rfl
theorem dksL_law_18 : cL_law.data.toList.drop 481 = dktL_law_18 := dk_seg dksL_law_17 24 rfl rfl
theorem dksL_law_19 : cL_law.data.toList.drop 504 = dktL_law_19 := dk_seg dksL_law_18 23 rfl rfl
theorem dksL_law_20 : cL_law.data.toList.drop 526 = dktL_law_20 := dk_seg dksL_law_19 22 rfl rfl
theorem dksL_law_21 : cL_law.data.toList.drop 550 = dktL_law_21 := dk_seg dksL_law_20 24 rfl rfl
theorem dksL_law_22 : cL_law.data.toList.drop 572 = dktL_law_22 := dk_seg dksL_law_21 22 rfl rfl
theorem dksL_law_23 : cL_law.data.toList.drop 594 = dktL_law_23 := dk_seg dksL_law_22 22 rfl rfl
theorem dksL_law_24 : cL_law.data.toList.drop 618 = dktL_law_24 := dk_seg dksL_law_23 24 rfl rfl
theorem dksL_law_25 : cL_law.data.toList.drop 640 = dktL_law_25 := dk_seg dksL_law_24 22 rfl rfl
theorem dksL_law_26 : cL_law.data.toList.drop 662 = dktL_law_26 := dk_seg dksL_law_25 22 rfl rfl
theorem dksL_law_27 : cL_law.data.toList.drop 685 = dktL_law_27 := dk_seg dksL_law_26 23 rfl rfl
theorem dksL_law_28 : cL_law.data.toList.drop 709 = dktL_law_28 := dk_seg dksL_law_27 24 rfl rfl
theorem dksL_law_29 : cL_law.data.toList.drop 732 = dktL_law_29 := dk_seg dksL_law_28 23 rfl rfl
theorem dksL_law_30 : cL_law.data.toList.drop 756 = dktL_law_30 := dk_seg dksL_law_29 24 rfl rfl
theorem dksL_law_31 : cL_law.data.toList.drop 778 = dktL_law_31 := dk_seg dksL_law_30 22 rfl rfl
theorem dksL_law_32 : cL_law.data.toList.drop 801 = dktL_law_32 := dk_seg dksL_law_31 23 rfl rfl
theorem dksL_law_33 : cL_law.data.toList.drop 825 = dktL_law_33 := dk_seg dksL_law_32 24 rfl rfl
theorem dksL_law_34 : cL_law.data.toList.drop 848 = dktL_law_34 := dk_seg dksL_law_33 23 rfl rfl
theorem dksL_law_35 : cL_law.data.toList.drop 872 = dktL_law_35 := dk_seg dksL_law_34 24 rfl rfl
theorem dksL_law_36 : cL_law.data.toList.drop 894 = dktL_law_36 := dk_seg dksL_law_35 22 rfl rfl
theorem dksL_law_37 : cL_law.data.toList.drop 916 = dktL_law_37 := dk_seg dksL_law_36 22 rfl rfl
theorem dksL_law_38 : cL_law.data.toList.drop 940 = dktL_law_38 := dk_seg dksL_law_37 24 rfl rfl
theorem dksL_law_39 : cL_law.data.toList.drop 962 = dktL_law_39 := dk_seg dksL_law_38 22 rfl rfl
theorem dksL_law_40 : cL_law.data.toList.drop 986 = dktL_law_40 := dk_seg dksL_law_39 24 rfl rfl
theorem dksL_law_41 : cL_law.data.toList.drop 1010 = dktL_law_41 := dk_seg dksL_law_40 24 rfl rfl
theorem dksL_law_42 : cL_law.data.toList.drop 1034 = dktL_law_42 := dk_seg dksL_law_41 24 rfl rfl
theorem dksL_law_43 : cL_law.data.toList.drop 1058 = dktL_law_43 := dk_seg dksL_law_42 24 rfl rfl
theorem dksL_law_44 : cL_law.data.toList.drop 1080 = dktL_law_44 := dk_seg dksL_law_43 22 rfl rfl
theorem dksL_law_45 : cL_law.data.toList.drop 1102 = dktL_law_45 := dk_seg dksL_law_44 22 rfl rfl
theorem dksL_law_46 : cL_law.data.toList.drop 1125 = dktL_law_46 := dk_seg dksL_law_45 23 rfl rfl
theorem dksL_law_47 : cL_law.data.toList.drop 1148 = dktL_law_47 := dk_seg dksL_law_46 23 rfl rfl
theorem dksL_law_48 : cL_law.data.toList.drop 1172 = dktL_law_48 := dk_seg dksL_law_47 24 rfl rfl
theorem dksL_law_49 : cL_law.data.toList.drop 1195 = dktL_law_49 := dk_seg dksL_law_48 23 rfl rfl
theorem dksL_law_50 : cL_law.data.toList.drop 1219 = dktL_law_50 := dk_seg dksL_law_49 24 rfl rfl
theorem dL_law_0 : decode cL_law 0 = .ok (.new 8, 3) := dk_187 0 8 (dk_at dksL_law_0 0 rfl rfl)
theorem dL_law_3 : decode cL_law 3 = .ok (.dup, 1) := dk_89 (dk_at dksL_law_0 3 rfl rfl)
theorem dL_law_4 : decode cL_law 4 = .ok (.invokespecial 71, 3) := dk_183 0 71 (dk_at dksL_law_0 4 rfl rfl)
theorem dL_law_7 : decode cL_law 7 = .ok (.astore_n 1, 1) := dk_76 (dk_at dksL_law_0 7 rfl rfl)
theorem dL_law_8 : decode cL_law 8 = .ok (.new 72, 3) := dk_187 0 72 (dk_at dksL_law_0 8 rfl rfl)
theorem dL_law_11 : decode cL_law 11 = .ok (.dup, 1) := dk_89 (dk_at dksL_law_0 11 rfl rfl)
theorem dL_law_12 : decode cL_law 12 = .ok (.invokespecial 74, 3) := dk_183 0 74 (dk_at dksL_law_0 12 rfl rfl)
theorem dL_law_15 : decode cL_law 15 = .ok (.astore_n 2, 1) := dk_77 (dk_at dksL_law_0 15 rfl rfl)
theorem dL_law_16 : decode cL_law 16 = .ok (.iconst 1, 1) := dk_4 (dk_at dksL_law_0 16 rfl rfl)
theorem dL_law_17 : decode cL_law 17 = .ok (.newarray .long, 2) := dk_188_11 (dk_at dksL_law_0 17 rfl rfl)
theorem dL_law_19 : decode cL_law 19 = .ok (.astore_n 3, 1) := dk_78 (dk_at dksL_law_0 19 rfl rfl)
theorem dL_law_20 : decode cL_law 20 = .ok (.iconst 0, 1) := dk_3 (dk_at dksL_law_0 20 rfl rfl)
theorem dL_law_21 : decode cL_law 21 = .ok (.istore 4, 2) := dk_54 4 (dk_at dksL_law_0 21 rfl rfl)
theorem dL_law_23 : decode cL_law 23 = .ok (.iload 4, 2) := dk_21 4 (dk_at dksL_law_1 0 rfl rfl)
theorem dL_law_25 : decode cL_law 25 = .ok (.aload_n 0, 1) := dk_42 (dk_at dksL_law_1 2 rfl rfl)
theorem dL_law_26 : decode cL_law 26 = .ok (.arraylength, 1) := dk_190 (dk_at dksL_law_1 3 rfl rfl)
theorem dL_law_27 : decode cL_law 27 = .ok (.iconst 4, 1) := dk_7 (dk_at dksL_law_1 4 rfl rfl)
theorem dL_law_28 : decode cL_law 28 = .ok (.isub, 1) := dk_100 (dk_at dksL_law_1 5 rfl rfl)
theorem dL_law_29 : decode cL_law 29 = .ok (.if_icmp .gt 1199, 3) := dk_163 4 175 (dk_at dksL_law_1 6 rfl rfl)
theorem dL_law_32 : decode cL_law 32 = .ok (.aload_n 0, 1) := dk_42 (dk_at dksL_law_1 9 rfl rfl)
theorem dL_law_33 : decode cL_law 33 = .ok (.iload 4, 2) := dk_21 4 (dk_at dksL_law_1 10 rfl rfl)
theorem dL_law_35 : decode cL_law 35 = .ok (.iaload, 1) := dk_46 (dk_at dksL_law_1 12 rfl rfl)
theorem dL_law_36 : decode cL_law 36 = .ok (.bipush 31, 2) := dk_16 31 (dk_at dksL_law_1 13 rfl rfl)
theorem dL_law_38 : decode cL_law 38 = .ok (.iand, 1) := dk_126 (dk_at dksL_law_1 15 rfl rfl)
theorem dL_law_39 : decode cL_law 39 = .ok (.tableswitch 1183 0 18 #[89, 133, 201, 297, 365, 421, 434, 490, 558, 626, 682, 738, 751, 807, 863, 931, 1015, 1071, 1127], 89) := by decide +kernel
theorem dL_law_128 : decode cL_law 128 = .ok (.aload_n 1, 1) := dk_43 (dk_at dksL_law_3 0 rfl rfl)
theorem dL_law_129 : decode cL_law 129 = .ok (.aload_n 3, 1) := dk_45 (dk_at dksL_law_3 1 rfl rfl)
theorem dL_law_130 : decode cL_law 130 = .ok (.invokestatic 75, 3) := dk_184 0 75 (dk_at dksL_law_3 2 rfl rfl)
theorem dL_law_133 : decode cL_law 133 = .ok (.istore 5, 2) := dk_54 5 (dk_at dksL_law_3 5 rfl rfl)
theorem dL_law_135 : decode cL_law 135 = .ok (.aload_n 2, 1) := dk_44 (dk_at dksL_law_3 7 rfl rfl)
theorem dL_law_136 : decode cL_law 136 = .ok (.invokevirtual 80, 3) := dk_182 0 80 (dk_at dksL_law_3 8 rfl rfl)
theorem dL_law_139 : decode cL_law 139 = .ok (.istore 6, 2) := dk_54 6 (dk_at dksL_law_3 11 rfl rfl)
theorem dL_law_141 : decode cL_law 141 = .ok (.aload_n 2, 1) := dk_44 (dk_at dksL_law_3 13 rfl rfl)
theorem dL_law_142 : decode cL_law 142 = .ok (.invokevirtual 81, 3) := dk_182 0 81 (dk_at dksL_law_3 14 rfl rfl)
theorem dL_law_145 : decode cL_law 145 = .ok (.iload 5, 2) := dk_21 5 (dk_at dksL_law_3 17 rfl rfl)
theorem dL_law_147 : decode cL_law 147 = .ok (.if_icmp .eq 5, 3) := dk_159 0 5 (dk_at dksL_law_3 19 rfl rfl)
theorem dL_law_150 : decode cL_law 150 = .ok (.iconst 0, 1) := dk_3 (dk_at dksL_law_3 22 rfl rfl)
theorem dL_law_151 : decode cL_law 151 = .ok (.ireturn, 1) := dk_172 (dk_at dksL_law_3 23 rfl rfl)
theorem dL_law_152 : decode cL_law 152 = .ok (.iload 5, 2) := dk_21 5 (dk_at dksL_law_4 0 rfl rfl)
theorem dL_law_154 : decode cL_law 154 = .ok (.ifCond .ne 15, 3) := dk_154 0 15 (dk_at dksL_law_4 2 rfl rfl)
theorem dL_law_157 : decode cL_law 157 = .ok (.aload_n 3, 1) := dk_45 (dk_at dksL_law_4 5 rfl rfl)
theorem dL_law_158 : decode cL_law 158 = .ok (.iconst 0, 1) := dk_3 (dk_at dksL_law_4 6 rfl rfl)
theorem dL_law_159 : decode cL_law 159 = .ok (.laload, 1) := dk_47 (dk_at dksL_law_4 7 rfl rfl)
theorem dL_law_160 : decode cL_law 160 = .ok (.iload 6, 2) := dk_21 6 (dk_at dksL_law_4 8 rfl rfl)
theorem dL_law_162 : decode cL_law 162 = .ok (.i2l, 1) := dk_133 (dk_at dksL_law_4 10 rfl rfl)
theorem dL_law_163 : decode cL_law 163 = .ok (.lcmp, 1) := dk_148 (dk_at dksL_law_4 11 rfl rfl)
theorem dL_law_164 : decode cL_law 164 = .ok (.ifCond .eq 5, 3) := dk_153 0 5 (dk_at dksL_law_4 12 rfl rfl)
theorem dL_law_167 : decode cL_law 167 = .ok (.iconst 0, 1) := dk_3 (dk_at dksL_law_4 15 rfl rfl)
theorem dL_law_168 : decode cL_law 168 = .ok (.ireturn, 1) := dk_172 (dk_at dksL_law_4 16 rfl rfl)
theorem dL_law_169 : decode cL_law 169 = .ok (.goto 1053, 3) := dk_167 4 29 (dk_at dksL_law_4 17 rfl rfl)
theorem dL_law_172 : decode cL_law 172 = .ok (.aload_n 1, 1) := dk_43 (dk_at dksL_law_4 20 rfl rfl)
theorem dL_law_173 : decode cL_law 173 = .ok (.aload_n 0, 1) := dk_42 (dk_at dksL_law_4 21 rfl rfl)
theorem dL_law_174 : decode cL_law 174 = .ok (.iload 4, 2) := dk_21 4 (dk_at dksL_law_4 22 rfl rfl)
theorem dL_law_176 : decode cL_law 176 = .ok (.iconst 1, 1) := dk_4 (dk_at dksL_law_5 0 rfl rfl)
theorem dL_law_177 : decode cL_law 177 = .ok (.iadd, 1) := dk_96 (dk_at dksL_law_5 1 rfl rfl)
theorem dL_law_178 : decode cL_law 178 = .ok (.iaload, 1) := dk_46 (dk_at dksL_law_5 2 rfl rfl)
theorem dL_law_179 : decode cL_law 179 = .ok (.aload_n 0, 1) := dk_42 (dk_at dksL_law_5 3 rfl rfl)
theorem dL_law_180 : decode cL_law 180 = .ok (.iload 4, 2) := dk_21 4 (dk_at dksL_law_5 4 rfl rfl)
theorem dL_law_182 : decode cL_law 182 = .ok (.iconst 2, 1) := dk_5 (dk_at dksL_law_5 6 rfl rfl)
theorem dL_law_183 : decode cL_law 183 = .ok (.iadd, 1) := dk_96 (dk_at dksL_law_5 7 rfl rfl)
theorem dL_law_184 : decode cL_law 184 = .ok (.iaload, 1) := dk_46 (dk_at dksL_law_5 8 rfl rfl)
theorem dL_law_185 : decode cL_law 185 = .ok (.aload_n 3, 1) := dk_45 (dk_at dksL_law_5 9 rfl rfl)
theorem dL_law_186 : decode cL_law 186 = .ok (.invokestatic 84, 3) := dk_184 0 84 (dk_at dksL_law_5 10 rfl rfl)
theorem dL_law_189 : decode cL_law 189 = .ok (.istore 5, 2) := dk_54 5 (dk_at dksL_law_5 13 rfl rfl)
theorem dL_law_191 : decode cL_law 191 = .ok (.aload_n 2, 1) := dk_44 (dk_at dksL_law_5 15 rfl rfl)
theorem dL_law_192 : decode cL_law 192 = .ok (.aload_n 0, 1) := dk_42 (dk_at dksL_law_5 16 rfl rfl)
theorem dL_law_193 : decode cL_law 193 = .ok (.iload 4, 2) := dk_21 4 (dk_at dksL_law_5 17 rfl rfl)
theorem dL_law_195 : decode cL_law 195 = .ok (.iconst 1, 1) := dk_4 (dk_at dksL_law_5 19 rfl rfl)
theorem dL_law_196 : decode cL_law 196 = .ok (.iadd, 1) := dk_96 (dk_at dksL_law_5 20 rfl rfl)
theorem dL_law_197 : decode cL_law 197 = .ok (.iaload, 1) := dk_46 (dk_at dksL_law_5 21 rfl rfl)
theorem dL_law_198 : decode cL_law 198 = .ok (.aload_n 0, 1) := dk_42 (dk_at dksL_law_5 22 rfl rfl)
theorem dL_law_199 : decode cL_law 199 = .ok (.iload 4, 2) := dk_21 4 (dk_at dksL_law_6 0 rfl rfl)
theorem dL_law_201 : decode cL_law 201 = .ok (.iconst 2, 1) := dk_5 (dk_at dksL_law_6 2 rfl rfl)
theorem dL_law_202 : decode cL_law 202 = .ok (.iadd, 1) := dk_96 (dk_at dksL_law_6 3 rfl rfl)
theorem dL_law_203 : decode cL_law 203 = .ok (.iaload, 1) := dk_46 (dk_at dksL_law_6 4 rfl rfl)
theorem dL_law_204 : decode cL_law 204 = .ok (.invokevirtual 87, 3) := dk_182 0 87 (dk_at dksL_law_6 5 rfl rfl)
theorem dL_law_207 : decode cL_law 207 = .ok (.istore 6, 2) := dk_54 6 (dk_at dksL_law_6 8 rfl rfl)
theorem dL_law_209 : decode cL_law 209 = .ok (.aload_n 2, 1) := dk_44 (dk_at dksL_law_6 10 rfl rfl)
theorem dL_law_210 : decode cL_law 210 = .ok (.invokevirtual 81, 3) := dk_182 0 81 (dk_at dksL_law_6 11 rfl rfl)
theorem dL_law_213 : decode cL_law 213 = .ok (.iload 5, 2) := dk_21 5 (dk_at dksL_law_6 14 rfl rfl)
theorem dL_law_215 : decode cL_law 215 = .ok (.if_icmp .eq 5, 3) := dk_159 0 5 (dk_at dksL_law_6 16 rfl rfl)
theorem dL_law_218 : decode cL_law 218 = .ok (.iconst 0, 1) := dk_3 (dk_at dksL_law_6 19 rfl rfl)
theorem dL_law_219 : decode cL_law 219 = .ok (.ireturn, 1) := dk_172 (dk_at dksL_law_6 20 rfl rfl)
theorem dL_law_220 : decode cL_law 220 = .ok (.iload 5, 2) := dk_21 5 (dk_at dksL_law_6 21 rfl rfl)
theorem dL_law_222 : decode cL_law 222 = .ok (.ifCond .ne 15, 3) := dk_154 0 15 (dk_at dksL_law_7 0 rfl rfl)
theorem dL_law_225 : decode cL_law 225 = .ok (.aload_n 3, 1) := dk_45 (dk_at dksL_law_7 3 rfl rfl)
theorem dL_law_226 : decode cL_law 226 = .ok (.iconst 0, 1) := dk_3 (dk_at dksL_law_7 4 rfl rfl)
theorem dL_law_227 : decode cL_law 227 = .ok (.laload, 1) := dk_47 (dk_at dksL_law_7 5 rfl rfl)
theorem dL_law_228 : decode cL_law 228 = .ok (.iload 6, 2) := dk_21 6 (dk_at dksL_law_7 6 rfl rfl)
theorem dL_law_230 : decode cL_law 230 = .ok (.i2l, 1) := dk_133 (dk_at dksL_law_7 8 rfl rfl)
theorem dL_law_231 : decode cL_law 231 = .ok (.lcmp, 1) := dk_148 (dk_at dksL_law_7 9 rfl rfl)
theorem dL_law_232 : decode cL_law 232 = .ok (.ifCond .eq 5, 3) := dk_153 0 5 (dk_at dksL_law_7 10 rfl rfl)
theorem dL_law_235 : decode cL_law 235 = .ok (.iconst 0, 1) := dk_3 (dk_at dksL_law_7 13 rfl rfl)
theorem dL_law_236 : decode cL_law 236 = .ok (.ireturn, 1) := dk_172 (dk_at dksL_law_7 14 rfl rfl)
theorem dL_law_237 : decode cL_law 237 = .ok (.goto 985, 3) := dk_167 3 217 (dk_at dksL_law_7 15 rfl rfl)
theorem dL_law_240 : decode cL_law 240 = .ok (.aload_n 1, 1) := dk_43 (dk_at dksL_law_7 18 rfl rfl)
theorem dL_law_241 : decode cL_law 241 = .ok (.aload_n 0, 1) := dk_42 (dk_at dksL_law_7 19 rfl rfl)
theorem dL_law_242 : decode cL_law 242 = .ok (.iload 4, 2) := dk_21 4 (dk_at dksL_law_7 20 rfl rfl)
theorem dL_law_244 : decode cL_law 244 = .ok (.iconst 1, 1) := dk_4 (dk_at dksL_law_7 22 rfl rfl)
theorem dL_law_245 : decode cL_law 245 = .ok (.iadd, 1) := dk_96 (dk_at dksL_law_7 23 rfl rfl)
theorem dL_law_246 : decode cL_law 246 = .ok (.iaload, 1) := dk_46 (dk_at dksL_law_8 0 rfl rfl)
theorem dL_law_247 : decode cL_law 247 = .ok (.aload_n 0, 1) := dk_42 (dk_at dksL_law_8 1 rfl rfl)
theorem dL_law_248 : decode cL_law 248 = .ok (.iload 4, 2) := dk_21 4 (dk_at dksL_law_8 2 rfl rfl)
theorem dL_law_250 : decode cL_law 250 = .ok (.iconst 2, 1) := dk_5 (dk_at dksL_law_8 4 rfl rfl)
theorem dL_law_251 : decode cL_law 251 = .ok (.iadd, 1) := dk_96 (dk_at dksL_law_8 5 rfl rfl)
theorem dL_law_252 : decode cL_law 252 = .ok (.iaload, 1) := dk_46 (dk_at dksL_law_8 6 rfl rfl)
theorem dL_law_253 : decode cL_law 253 = .ok (.aload_n 0, 1) := dk_42 (dk_at dksL_law_8 7 rfl rfl)
theorem dL_law_254 : decode cL_law 254 = .ok (.iload 4, 2) := dk_21 4 (dk_at dksL_law_8 8 rfl rfl)
theorem dL_law_256 : decode cL_law 256 = .ok (.iconst 3, 1) := dk_6 (dk_at dksL_law_8 10 rfl rfl)
theorem dL_law_257 : decode cL_law 257 = .ok (.iadd, 1) := dk_96 (dk_at dksL_law_8 11 rfl rfl)
theorem dL_law_258 : decode cL_law 258 = .ok (.iaload, 1) := dk_46 (dk_at dksL_law_8 12 rfl rfl)
theorem dL_law_259 : decode cL_law 259 = .ok (.ifCond .eq 7, 3) := dk_153 0 7 (dk_at dksL_law_8 13 rfl rfl)
theorem dL_law_262 : decode cL_law 262 = .ok (.iconst 1, 1) := dk_4 (dk_at dksL_law_8 16 rfl rfl)
theorem dL_law_263 : decode cL_law 263 = .ok (.goto 4, 3) := dk_167 0 4 (dk_at dksL_law_8 17 rfl rfl)
theorem dL_law_266 : decode cL_law 266 = .ok (.iconst 0, 1) := dk_3 (dk_at dksL_law_8 20 rfl rfl)
theorem dL_law_267 : decode cL_law 267 = .ok (.aload_n 3, 1) := dk_45 (dk_at dksL_law_8 21 rfl rfl)
theorem dL_law_268 : decode cL_law 268 = .ok (.invokestatic 88, 3) := dk_184 0 88 (dk_at dksL_law_9 0 rfl rfl)
theorem dL_law_271 : decode cL_law 271 = .ok (.istore 5, 2) := dk_54 5 (dk_at dksL_law_9 3 rfl rfl)
theorem dL_law_273 : decode cL_law 273 = .ok (.aload_n 2, 1) := dk_44 (dk_at dksL_law_9 5 rfl rfl)
theorem dL_law_274 : decode cL_law 274 = .ok (.aload_n 0, 1) := dk_42 (dk_at dksL_law_9 6 rfl rfl)
theorem dL_law_275 : decode cL_law 275 = .ok (.iload 4, 2) := dk_21 4 (dk_at dksL_law_9 7 rfl rfl)
theorem dL_law_277 : decode cL_law 277 = .ok (.iconst 1, 1) := dk_4 (dk_at dksL_law_9 9 rfl rfl)
theorem dL_law_278 : decode cL_law 278 = .ok (.iadd, 1) := dk_96 (dk_at dksL_law_9 10 rfl rfl)
theorem dL_law_279 : decode cL_law 279 = .ok (.iaload, 1) := dk_46 (dk_at dksL_law_9 11 rfl rfl)
theorem dL_law_280 : decode cL_law 280 = .ok (.aload_n 0, 1) := dk_42 (dk_at dksL_law_9 12 rfl rfl)
theorem dL_law_281 : decode cL_law 281 = .ok (.iload 4, 2) := dk_21 4 (dk_at dksL_law_9 13 rfl rfl)
theorem dL_law_283 : decode cL_law 283 = .ok (.iconst 2, 1) := dk_5 (dk_at dksL_law_9 15 rfl rfl)
theorem dL_law_284 : decode cL_law 284 = .ok (.iadd, 1) := dk_96 (dk_at dksL_law_9 16 rfl rfl)
theorem dL_law_285 : decode cL_law 285 = .ok (.iaload, 1) := dk_46 (dk_at dksL_law_9 17 rfl rfl)
theorem dL_law_286 : decode cL_law 286 = .ok (.aload_n 0, 1) := dk_42 (dk_at dksL_law_9 18 rfl rfl)
theorem dL_law_287 : decode cL_law 287 = .ok (.iload 4, 2) := dk_21 4 (dk_at dksL_law_9 19 rfl rfl)
theorem dL_law_289 : decode cL_law 289 = .ok (.iconst 3, 1) := dk_6 (dk_at dksL_law_9 21 rfl rfl)
theorem dL_law_290 : decode cL_law 290 = .ok (.iadd, 1) := dk_96 (dk_at dksL_law_9 22 rfl rfl)
theorem dL_law_291 : decode cL_law 291 = .ok (.iaload, 1) := dk_46 (dk_at dksL_law_9 23 rfl rfl)
theorem dL_law_292 : decode cL_law 292 = .ok (.ifCond .eq 7, 3) := dk_153 0 7 (dk_at dksL_law_10 0 rfl rfl)
theorem dL_law_295 : decode cL_law 295 = .ok (.iconst 1, 1) := dk_4 (dk_at dksL_law_10 3 rfl rfl)
theorem dL_law_296 : decode cL_law 296 = .ok (.goto 4, 3) := dk_167 0 4 (dk_at dksL_law_10 4 rfl rfl)
theorem dL_law_299 : decode cL_law 299 = .ok (.iconst 0, 1) := dk_3 (dk_at dksL_law_10 7 rfl rfl)
theorem dL_law_300 : decode cL_law 300 = .ok (.invokevirtual 91, 3) := dk_182 0 91 (dk_at dksL_law_10 8 rfl rfl)
theorem dL_law_303 : decode cL_law 303 = .ok (.istore 6, 2) := dk_54 6 (dk_at dksL_law_10 11 rfl rfl)
theorem dL_law_305 : decode cL_law 305 = .ok (.aload_n 2, 1) := dk_44 (dk_at dksL_law_10 13 rfl rfl)
theorem dL_law_306 : decode cL_law 306 = .ok (.invokevirtual 81, 3) := dk_182 0 81 (dk_at dksL_law_10 14 rfl rfl)
theorem dL_law_309 : decode cL_law 309 = .ok (.iload 5, 2) := dk_21 5 (dk_at dksL_law_10 17 rfl rfl)
theorem dL_law_311 : decode cL_law 311 = .ok (.if_icmp .eq 5, 3) := dk_159 0 5 (dk_at dksL_law_10 19 rfl rfl)
theorem dL_law_314 : decode cL_law 314 = .ok (.iconst 0, 1) := dk_3 (dk_at dksL_law_10 22 rfl rfl)
theorem dL_law_315 : decode cL_law 315 = .ok (.ireturn, 1) := dk_172 (dk_at dksL_law_10 23 rfl rfl)
theorem dL_law_316 : decode cL_law 316 = .ok (.iload 5, 2) := dk_21 5 (dk_at dksL_law_11 0 rfl rfl)
theorem dL_law_318 : decode cL_law 318 = .ok (.ifCond .ne 15, 3) := dk_154 0 15 (dk_at dksL_law_11 2 rfl rfl)
theorem dL_law_321 : decode cL_law 321 = .ok (.aload_n 3, 1) := dk_45 (dk_at dksL_law_11 5 rfl rfl)
theorem dL_law_322 : decode cL_law 322 = .ok (.iconst 0, 1) := dk_3 (dk_at dksL_law_11 6 rfl rfl)
theorem dL_law_323 : decode cL_law 323 = .ok (.laload, 1) := dk_47 (dk_at dksL_law_11 7 rfl rfl)
theorem dL_law_324 : decode cL_law 324 = .ok (.iload 6, 2) := dk_21 6 (dk_at dksL_law_11 8 rfl rfl)
theorem dL_law_326 : decode cL_law 326 = .ok (.i2l, 1) := dk_133 (dk_at dksL_law_11 10 rfl rfl)
theorem dL_law_327 : decode cL_law 327 = .ok (.lcmp, 1) := dk_148 (dk_at dksL_law_11 11 rfl rfl)
theorem dL_law_328 : decode cL_law 328 = .ok (.ifCond .eq 5, 3) := dk_153 0 5 (dk_at dksL_law_11 12 rfl rfl)
theorem dL_law_331 : decode cL_law 331 = .ok (.iconst 0, 1) := dk_3 (dk_at dksL_law_11 15 rfl rfl)
theorem dL_law_332 : decode cL_law 332 = .ok (.ireturn, 1) := dk_172 (dk_at dksL_law_11 16 rfl rfl)
theorem dL_law_333 : decode cL_law 333 = .ok (.goto 889, 3) := dk_167 3 121 (dk_at dksL_law_11 17 rfl rfl)
theorem dL_law_336 : decode cL_law 336 = .ok (.aload_n 1, 1) := dk_43 (dk_at dksL_law_11 20 rfl rfl)
theorem dL_law_337 : decode cL_law 337 = .ok (.aload_n 0, 1) := dk_42 (dk_at dksL_law_11 21 rfl rfl)
theorem dL_law_338 : decode cL_law 338 = .ok (.iload 4, 2) := dk_21 4 (dk_at dksL_law_11 22 rfl rfl)
theorem dL_law_340 : decode cL_law 340 = .ok (.iconst 1, 1) := dk_4 (dk_at dksL_law_12 0 rfl rfl)
theorem dL_law_341 : decode cL_law 341 = .ok (.iadd, 1) := dk_96 (dk_at dksL_law_12 1 rfl rfl)
theorem dL_law_342 : decode cL_law 342 = .ok (.iaload, 1) := dk_46 (dk_at dksL_law_12 2 rfl rfl)
theorem dL_law_343 : decode cL_law 343 = .ok (.aload_n 0, 1) := dk_42 (dk_at dksL_law_12 3 rfl rfl)
theorem dL_law_344 : decode cL_law 344 = .ok (.iload 4, 2) := dk_21 4 (dk_at dksL_law_12 4 rfl rfl)
theorem dL_law_346 : decode cL_law 346 = .ok (.iconst 2, 1) := dk_5 (dk_at dksL_law_12 6 rfl rfl)
theorem dL_law_347 : decode cL_law 347 = .ok (.iadd, 1) := dk_96 (dk_at dksL_law_12 7 rfl rfl)
theorem dL_law_348 : decode cL_law 348 = .ok (.iaload, 1) := dk_46 (dk_at dksL_law_12 8 rfl rfl)
theorem dL_law_349 : decode cL_law 349 = .ok (.aload_n 3, 1) := dk_45 (dk_at dksL_law_12 9 rfl rfl)
theorem dL_law_350 : decode cL_law 350 = .ok (.invokestatic 92, 3) := dk_184 0 92 (dk_at dksL_law_12 10 rfl rfl)
theorem dL_law_353 : decode cL_law 353 = .ok (.istore 5, 2) := dk_54 5 (dk_at dksL_law_12 13 rfl rfl)
theorem dL_law_355 : decode cL_law 355 = .ok (.aload_n 2, 1) := dk_44 (dk_at dksL_law_12 15 rfl rfl)
theorem dL_law_356 : decode cL_law 356 = .ok (.aload_n 0, 1) := dk_42 (dk_at dksL_law_12 16 rfl rfl)
theorem dL_law_357 : decode cL_law 357 = .ok (.iload 4, 2) := dk_21 4 (dk_at dksL_law_12 17 rfl rfl)
theorem dL_law_359 : decode cL_law 359 = .ok (.iconst 1, 1) := dk_4 (dk_at dksL_law_12 19 rfl rfl)
theorem dL_law_360 : decode cL_law 360 = .ok (.iadd, 1) := dk_96 (dk_at dksL_law_12 20 rfl rfl)
theorem dL_law_361 : decode cL_law 361 = .ok (.iaload, 1) := dk_46 (dk_at dksL_law_12 21 rfl rfl)
theorem dL_law_362 : decode cL_law 362 = .ok (.aload_n 0, 1) := dk_42 (dk_at dksL_law_12 22 rfl rfl)
theorem dL_law_363 : decode cL_law 363 = .ok (.iload 4, 2) := dk_21 4 (dk_at dksL_law_13 0 rfl rfl)
theorem dL_law_365 : decode cL_law 365 = .ok (.iconst 2, 1) := dk_5 (dk_at dksL_law_13 2 rfl rfl)
theorem dL_law_366 : decode cL_law 366 = .ok (.iadd, 1) := dk_96 (dk_at dksL_law_13 3 rfl rfl)
theorem dL_law_367 : decode cL_law 367 = .ok (.iaload, 1) := dk_46 (dk_at dksL_law_13 4 rfl rfl)
theorem dL_law_368 : decode cL_law 368 = .ok (.invokevirtual 94, 3) := dk_182 0 94 (dk_at dksL_law_13 5 rfl rfl)
theorem dL_law_371 : decode cL_law 371 = .ok (.istore 6, 2) := dk_54 6 (dk_at dksL_law_13 8 rfl rfl)
theorem dL_law_373 : decode cL_law 373 = .ok (.aload_n 2, 1) := dk_44 (dk_at dksL_law_13 10 rfl rfl)
theorem dL_law_374 : decode cL_law 374 = .ok (.invokevirtual 81, 3) := dk_182 0 81 (dk_at dksL_law_13 11 rfl rfl)
theorem dL_law_377 : decode cL_law 377 = .ok (.iload 5, 2) := dk_21 5 (dk_at dksL_law_13 14 rfl rfl)
theorem dL_law_379 : decode cL_law 379 = .ok (.if_icmp .eq 5, 3) := dk_159 0 5 (dk_at dksL_law_13 16 rfl rfl)
theorem dL_law_382 : decode cL_law 382 = .ok (.iconst 0, 1) := dk_3 (dk_at dksL_law_13 19 rfl rfl)
theorem dL_law_383 : decode cL_law 383 = .ok (.ireturn, 1) := dk_172 (dk_at dksL_law_13 20 rfl rfl)
theorem dL_law_384 : decode cL_law 384 = .ok (.iload 5, 2) := dk_21 5 (dk_at dksL_law_13 21 rfl rfl)
theorem dL_law_386 : decode cL_law 386 = .ok (.ifCond .ne 15, 3) := dk_154 0 15 (dk_at dksL_law_14 0 rfl rfl)
theorem dL_law_389 : decode cL_law 389 = .ok (.aload_n 3, 1) := dk_45 (dk_at dksL_law_14 3 rfl rfl)
theorem dL_law_390 : decode cL_law 390 = .ok (.iconst 0, 1) := dk_3 (dk_at dksL_law_14 4 rfl rfl)
theorem dL_law_391 : decode cL_law 391 = .ok (.laload, 1) := dk_47 (dk_at dksL_law_14 5 rfl rfl)
theorem dL_law_392 : decode cL_law 392 = .ok (.iload 6, 2) := dk_21 6 (dk_at dksL_law_14 6 rfl rfl)
theorem dL_law_394 : decode cL_law 394 = .ok (.i2l, 1) := dk_133 (dk_at dksL_law_14 8 rfl rfl)
theorem dL_law_395 : decode cL_law 395 = .ok (.lcmp, 1) := dk_148 (dk_at dksL_law_14 9 rfl rfl)
theorem dL_law_396 : decode cL_law 396 = .ok (.ifCond .eq 5, 3) := dk_153 0 5 (dk_at dksL_law_14 10 rfl rfl)
theorem dL_law_399 : decode cL_law 399 = .ok (.iconst 0, 1) := dk_3 (dk_at dksL_law_14 13 rfl rfl)
theorem dL_law_400 : decode cL_law 400 = .ok (.ireturn, 1) := dk_172 (dk_at dksL_law_14 14 rfl rfl)
theorem dL_law_401 : decode cL_law 401 = .ok (.goto 821, 3) := dk_167 3 53 (dk_at dksL_law_14 15 rfl rfl)
theorem dL_law_404 : decode cL_law 404 = .ok (.aload_n 1, 1) := dk_43 (dk_at dksL_law_14 18 rfl rfl)
theorem dL_law_405 : decode cL_law 405 = .ok (.aload_n 0, 1) := dk_42 (dk_at dksL_law_14 19 rfl rfl)
theorem dL_law_406 : decode cL_law 406 = .ok (.iload 4, 2) := dk_21 4 (dk_at dksL_law_14 20 rfl rfl)
theorem dL_law_408 : decode cL_law 408 = .ok (.iconst 1, 1) := dk_4 (dk_at dksL_law_14 22 rfl rfl)
theorem dL_law_409 : decode cL_law 409 = .ok (.iadd, 1) := dk_96 (dk_at dksL_law_14 23 rfl rfl)
theorem dL_law_410 : decode cL_law 410 = .ok (.iaload, 1) := dk_46 (dk_at dksL_law_15 0 rfl rfl)
theorem dL_law_411 : decode cL_law 411 = .ok (.aload_n 3, 1) := dk_45 (dk_at dksL_law_15 1 rfl rfl)
theorem dL_law_412 : decode cL_law 412 = .ok (.invokestatic 95, 3) := dk_184 0 95 (dk_at dksL_law_15 2 rfl rfl)
theorem dL_law_415 : decode cL_law 415 = .ok (.istore 5, 2) := dk_54 5 (dk_at dksL_law_15 5 rfl rfl)
theorem dL_law_417 : decode cL_law 417 = .ok (.aload_n 2, 1) := dk_44 (dk_at dksL_law_15 7 rfl rfl)
theorem dL_law_418 : decode cL_law 418 = .ok (.aload_n 0, 1) := dk_42 (dk_at dksL_law_15 8 rfl rfl)
theorem dL_law_419 : decode cL_law 419 = .ok (.iload 4, 2) := dk_21 4 (dk_at dksL_law_15 9 rfl rfl)
theorem dL_law_421 : decode cL_law 421 = .ok (.iconst 1, 1) := dk_4 (dk_at dksL_law_15 11 rfl rfl)
theorem dL_law_422 : decode cL_law 422 = .ok (.iadd, 1) := dk_96 (dk_at dksL_law_15 12 rfl rfl)
theorem dL_law_423 : decode cL_law 423 = .ok (.iaload, 1) := dk_46 (dk_at dksL_law_15 13 rfl rfl)
theorem dL_law_424 : decode cL_law 424 = .ok (.invokevirtual 98, 3) := dk_182 0 98 (dk_at dksL_law_15 14 rfl rfl)
theorem dL_law_427 : decode cL_law 427 = .ok (.istore 6, 2) := dk_54 6 (dk_at dksL_law_15 17 rfl rfl)
theorem dL_law_429 : decode cL_law 429 = .ok (.aload_n 2, 1) := dk_44 (dk_at dksL_law_15 19 rfl rfl)
theorem dL_law_430 : decode cL_law 430 = .ok (.invokevirtual 81, 3) := dk_182 0 81 (dk_at dksL_law_15 20 rfl rfl)
theorem dL_law_433 : decode cL_law 433 = .ok (.iload 5, 2) := dk_21 5 (dk_at dksL_law_16 0 rfl rfl)
theorem dL_law_435 : decode cL_law 435 = .ok (.if_icmp .eq 5, 3) := dk_159 0 5 (dk_at dksL_law_16 2 rfl rfl)
theorem dL_law_438 : decode cL_law 438 = .ok (.iconst 0, 1) := dk_3 (dk_at dksL_law_16 5 rfl rfl)
theorem dL_law_439 : decode cL_law 439 = .ok (.ireturn, 1) := dk_172 (dk_at dksL_law_16 6 rfl rfl)
theorem dL_law_440 : decode cL_law 440 = .ok (.iload 5, 2) := dk_21 5 (dk_at dksL_law_16 7 rfl rfl)
theorem dL_law_442 : decode cL_law 442 = .ok (.ifCond .ne 15, 3) := dk_154 0 15 (dk_at dksL_law_16 9 rfl rfl)
theorem dL_law_445 : decode cL_law 445 = .ok (.aload_n 3, 1) := dk_45 (dk_at dksL_law_16 12 rfl rfl)
theorem dL_law_446 : decode cL_law 446 = .ok (.iconst 0, 1) := dk_3 (dk_at dksL_law_16 13 rfl rfl)
theorem dL_law_447 : decode cL_law 447 = .ok (.laload, 1) := dk_47 (dk_at dksL_law_16 14 rfl rfl)
theorem dL_law_448 : decode cL_law 448 = .ok (.iload 6, 2) := dk_21 6 (dk_at dksL_law_16 15 rfl rfl)
theorem dL_law_450 : decode cL_law 450 = .ok (.i2l, 1) := dk_133 (dk_at dksL_law_16 17 rfl rfl)
theorem dL_law_451 : decode cL_law 451 = .ok (.lcmp, 1) := dk_148 (dk_at dksL_law_16 18 rfl rfl)
theorem dL_law_452 : decode cL_law 452 = .ok (.ifCond .eq 5, 3) := dk_153 0 5 (dk_at dksL_law_16 19 rfl rfl)
theorem dL_law_455 : decode cL_law 455 = .ok (.iconst 0, 1) := dk_3 (dk_at dksL_law_16 22 rfl rfl)
theorem dL_law_456 : decode cL_law 456 = .ok (.ireturn, 1) := dk_172 (dk_at dksL_law_16 23 rfl rfl)
theorem dL_law_457 : decode cL_law 457 = .ok (.goto 765, 3) := dk_167 2 253 (dk_at dksL_law_17 0 rfl rfl)
theorem dL_law_460 : decode cL_law 460 = .ok (.aload_n 1, 1) := dk_43 (dk_at dksL_law_17 3 rfl rfl)
theorem dL_law_461 : decode cL_law 461 = .ok (.invokevirtual 99, 3) := dk_182 0 99 (dk_at dksL_law_17 4 rfl rfl)
theorem dL_law_464 : decode cL_law 464 = .ok (.aload_n 2, 1) := dk_44 (dk_at dksL_law_17 7 rfl rfl)
theorem dL_law_465 : decode cL_law 465 = .ok (.invokevirtual 102, 3) := dk_182 0 102 (dk_at dksL_law_17 8 rfl rfl)
theorem dL_law_468 : decode cL_law 468 = .ok (.if_icmp .eq 754, 3) := dk_159 2 242 (dk_at dksL_law_17 11 rfl rfl)
theorem dL_law_471 : decode cL_law 471 = .ok (.iconst 0, 1) := dk_3 (dk_at dksL_law_17 14 rfl rfl)
theorem dL_law_472 : decode cL_law 472 = .ok (.ireturn, 1) := dk_172 (dk_at dksL_law_17 15 rfl rfl)
theorem dL_law_473 : decode cL_law 473 = .ok (.aload_n 1, 1) := dk_43 (dk_at dksL_law_17 16 rfl rfl)
theorem dL_law_474 : decode cL_law 474 = .ok (.aload_n 0, 1) := dk_42 (dk_at dksL_law_17 17 rfl rfl)
theorem dL_law_475 : decode cL_law 475 = .ok (.iload 4, 2) := dk_21 4 (dk_at dksL_law_17 18 rfl rfl)
theorem dL_law_477 : decode cL_law 477 = .ok (.iconst 1, 1) := dk_4 (dk_at dksL_law_17 20 rfl rfl)
theorem dL_law_478 : decode cL_law 478 = .ok (.iadd, 1) := dk_96 (dk_at dksL_law_17 21 rfl rfl)
theorem dL_law_479 : decode cL_law 479 = .ok (.iaload, 1) := dk_46 (dk_at dksL_law_17 22 rfl rfl)
theorem dL_law_480 : decode cL_law 480 = .ok (.aload_n 3, 1) := dk_45 (dk_at dksL_law_17 23 rfl rfl)
theorem dL_law_481 : decode cL_law 481 = .ok (.invokestatic 103, 3) := dk_184 0 103 (dk_at dksL_law_18 0 rfl rfl)
theorem dL_law_484 : decode cL_law 484 = .ok (.istore 5, 2) := dk_54 5 (dk_at dksL_law_18 3 rfl rfl)
theorem dL_law_486 : decode cL_law 486 = .ok (.aload_n 2, 1) := dk_44 (dk_at dksL_law_18 5 rfl rfl)
theorem dL_law_487 : decode cL_law 487 = .ok (.aload_n 0, 1) := dk_42 (dk_at dksL_law_18 6 rfl rfl)
theorem dL_law_488 : decode cL_law 488 = .ok (.iload 4, 2) := dk_21 4 (dk_at dksL_law_18 7 rfl rfl)
theorem dL_law_490 : decode cL_law 490 = .ok (.iconst 1, 1) := dk_4 (dk_at dksL_law_18 9 rfl rfl)
theorem dL_law_491 : decode cL_law 491 = .ok (.iadd, 1) := dk_96 (dk_at dksL_law_18 10 rfl rfl)
theorem dL_law_492 : decode cL_law 492 = .ok (.iaload, 1) := dk_46 (dk_at dksL_law_18 11 rfl rfl)
theorem dL_law_493 : decode cL_law 493 = .ok (.invokevirtual 105, 3) := dk_182 0 105 (dk_at dksL_law_18 12 rfl rfl)
theorem dL_law_496 : decode cL_law 496 = .ok (.istore 6, 2) := dk_54 6 (dk_at dksL_law_18 15 rfl rfl)
theorem dL_law_498 : decode cL_law 498 = .ok (.aload_n 2, 1) := dk_44 (dk_at dksL_law_18 17 rfl rfl)
theorem dL_law_499 : decode cL_law 499 = .ok (.invokevirtual 81, 3) := dk_182 0 81 (dk_at dksL_law_18 18 rfl rfl)
theorem dL_law_502 : decode cL_law 502 = .ok (.iload 5, 2) := dk_21 5 (dk_at dksL_law_18 21 rfl rfl)
theorem dL_law_504 : decode cL_law 504 = .ok (.if_icmp .eq 5, 3) := dk_159 0 5 (dk_at dksL_law_19 0 rfl rfl)
theorem dL_law_507 : decode cL_law 507 = .ok (.iconst 0, 1) := dk_3 (dk_at dksL_law_19 3 rfl rfl)
theorem dL_law_508 : decode cL_law 508 = .ok (.ireturn, 1) := dk_172 (dk_at dksL_law_19 4 rfl rfl)
theorem dL_law_509 : decode cL_law 509 = .ok (.iload 5, 2) := dk_21 5 (dk_at dksL_law_19 5 rfl rfl)
theorem dL_law_511 : decode cL_law 511 = .ok (.ifCond .ne 15, 3) := dk_154 0 15 (dk_at dksL_law_19 7 rfl rfl)
theorem dL_law_514 : decode cL_law 514 = .ok (.aload_n 3, 1) := dk_45 (dk_at dksL_law_19 10 rfl rfl)
theorem dL_law_515 : decode cL_law 515 = .ok (.iconst 0, 1) := dk_3 (dk_at dksL_law_19 11 rfl rfl)
theorem dL_law_516 : decode cL_law 516 = .ok (.laload, 1) := dk_47 (dk_at dksL_law_19 12 rfl rfl)
theorem dL_law_517 : decode cL_law 517 = .ok (.iload 6, 2) := dk_21 6 (dk_at dksL_law_19 13 rfl rfl)
theorem dL_law_519 : decode cL_law 519 = .ok (.i2l, 1) := dk_133 (dk_at dksL_law_19 15 rfl rfl)
theorem dL_law_520 : decode cL_law 520 = .ok (.lcmp, 1) := dk_148 (dk_at dksL_law_19 16 rfl rfl)
theorem dL_law_521 : decode cL_law 521 = .ok (.ifCond .eq 5, 3) := dk_153 0 5 (dk_at dksL_law_19 17 rfl rfl)
theorem dL_law_524 : decode cL_law 524 = .ok (.iconst 0, 1) := dk_3 (dk_at dksL_law_19 20 rfl rfl)
theorem dL_law_525 : decode cL_law 525 = .ok (.ireturn, 1) := dk_172 (dk_at dksL_law_19 21 rfl rfl)
theorem dL_law_526 : decode cL_law 526 = .ok (.goto 696, 3) := dk_167 2 184 (dk_at dksL_law_20 0 rfl rfl)
theorem dL_law_529 : decode cL_law 529 = .ok (.aload_n 1, 1) := dk_43 (dk_at dksL_law_20 3 rfl rfl)
theorem dL_law_530 : decode cL_law 530 = .ok (.aload_n 0, 1) := dk_42 (dk_at dksL_law_20 4 rfl rfl)
theorem dL_law_531 : decode cL_law 531 = .ok (.iload 4, 2) := dk_21 4 (dk_at dksL_law_20 5 rfl rfl)
theorem dL_law_533 : decode cL_law 533 = .ok (.iconst 1, 1) := dk_4 (dk_at dksL_law_20 7 rfl rfl)
theorem dL_law_534 : decode cL_law 534 = .ok (.iadd, 1) := dk_96 (dk_at dksL_law_20 8 rfl rfl)
theorem dL_law_535 : decode cL_law 535 = .ok (.iaload, 1) := dk_46 (dk_at dksL_law_20 9 rfl rfl)
theorem dL_law_536 : decode cL_law 536 = .ok (.aload_n 0, 1) := dk_42 (dk_at dksL_law_20 10 rfl rfl)
theorem dL_law_537 : decode cL_law 537 = .ok (.iload 4, 2) := dk_21 4 (dk_at dksL_law_20 11 rfl rfl)
theorem dL_law_539 : decode cL_law 539 = .ok (.iconst 2, 1) := dk_5 (dk_at dksL_law_20 13 rfl rfl)
theorem dL_law_540 : decode cL_law 540 = .ok (.iadd, 1) := dk_96 (dk_at dksL_law_20 14 rfl rfl)
theorem dL_law_541 : decode cL_law 541 = .ok (.iaload, 1) := dk_46 (dk_at dksL_law_20 15 rfl rfl)
theorem dL_law_542 : decode cL_law 542 = .ok (.aload_n 3, 1) := dk_45 (dk_at dksL_law_20 16 rfl rfl)
theorem dL_law_543 : decode cL_law 543 = .ok (.invokestatic 106, 3) := dk_184 0 106 (dk_at dksL_law_20 17 rfl rfl)
theorem dL_law_546 : decode cL_law 546 = .ok (.istore 5, 2) := dk_54 5 (dk_at dksL_law_20 20 rfl rfl)
theorem dL_law_548 : decode cL_law 548 = .ok (.aload_n 2, 1) := dk_44 (dk_at dksL_law_20 22 rfl rfl)
theorem dL_law_549 : decode cL_law 549 = .ok (.aload_n 0, 1) := dk_42 (dk_at dksL_law_20 23 rfl rfl)
theorem dL_law_550 : decode cL_law 550 = .ok (.iload 4, 2) := dk_21 4 (dk_at dksL_law_21 0 rfl rfl)
theorem dL_law_552 : decode cL_law 552 = .ok (.iconst 1, 1) := dk_4 (dk_at dksL_law_21 2 rfl rfl)
theorem dL_law_553 : decode cL_law 553 = .ok (.iadd, 1) := dk_96 (dk_at dksL_law_21 3 rfl rfl)
theorem dL_law_554 : decode cL_law 554 = .ok (.iaload, 1) := dk_46 (dk_at dksL_law_21 4 rfl rfl)
theorem dL_law_555 : decode cL_law 555 = .ok (.aload_n 0, 1) := dk_42 (dk_at dksL_law_21 5 rfl rfl)
theorem dL_law_556 : decode cL_law 556 = .ok (.iload 4, 2) := dk_21 4 (dk_at dksL_law_21 6 rfl rfl)
theorem dL_law_558 : decode cL_law 558 = .ok (.iconst 2, 1) := dk_5 (dk_at dksL_law_21 8 rfl rfl)
theorem dL_law_559 : decode cL_law 559 = .ok (.iadd, 1) := dk_96 (dk_at dksL_law_21 9 rfl rfl)
theorem dL_law_560 : decode cL_law 560 = .ok (.iaload, 1) := dk_46 (dk_at dksL_law_21 10 rfl rfl)
theorem dL_law_561 : decode cL_law 561 = .ok (.invokevirtual 108, 3) := dk_182 0 108 (dk_at dksL_law_21 11 rfl rfl)
theorem dL_law_564 : decode cL_law 564 = .ok (.istore 6, 2) := dk_54 6 (dk_at dksL_law_21 14 rfl rfl)
theorem dL_law_566 : decode cL_law 566 = .ok (.aload_n 2, 1) := dk_44 (dk_at dksL_law_21 16 rfl rfl)
theorem dL_law_567 : decode cL_law 567 = .ok (.invokevirtual 81, 3) := dk_182 0 81 (dk_at dksL_law_21 17 rfl rfl)
theorem dL_law_570 : decode cL_law 570 = .ok (.iload 5, 2) := dk_21 5 (dk_at dksL_law_21 20 rfl rfl)
theorem dL_law_572 : decode cL_law 572 = .ok (.if_icmp .eq 5, 3) := dk_159 0 5 (dk_at dksL_law_22 0 rfl rfl)
theorem dL_law_575 : decode cL_law 575 = .ok (.iconst 0, 1) := dk_3 (dk_at dksL_law_22 3 rfl rfl)
theorem dL_law_576 : decode cL_law 576 = .ok (.ireturn, 1) := dk_172 (dk_at dksL_law_22 4 rfl rfl)
theorem dL_law_577 : decode cL_law 577 = .ok (.iload 5, 2) := dk_21 5 (dk_at dksL_law_22 5 rfl rfl)
theorem dL_law_579 : decode cL_law 579 = .ok (.ifCond .ne 15, 3) := dk_154 0 15 (dk_at dksL_law_22 7 rfl rfl)
theorem dL_law_582 : decode cL_law 582 = .ok (.aload_n 3, 1) := dk_45 (dk_at dksL_law_22 10 rfl rfl)
theorem dL_law_583 : decode cL_law 583 = .ok (.iconst 0, 1) := dk_3 (dk_at dksL_law_22 11 rfl rfl)
theorem dL_law_584 : decode cL_law 584 = .ok (.laload, 1) := dk_47 (dk_at dksL_law_22 12 rfl rfl)
theorem dL_law_585 : decode cL_law 585 = .ok (.iload 6, 2) := dk_21 6 (dk_at dksL_law_22 13 rfl rfl)
theorem dL_law_587 : decode cL_law 587 = .ok (.i2l, 1) := dk_133 (dk_at dksL_law_22 15 rfl rfl)
theorem dL_law_588 : decode cL_law 588 = .ok (.lcmp, 1) := dk_148 (dk_at dksL_law_22 16 rfl rfl)
theorem dL_law_589 : decode cL_law 589 = .ok (.ifCond .eq 5, 3) := dk_153 0 5 (dk_at dksL_law_22 17 rfl rfl)
theorem dL_law_592 : decode cL_law 592 = .ok (.iconst 0, 1) := dk_3 (dk_at dksL_law_22 20 rfl rfl)
theorem dL_law_593 : decode cL_law 593 = .ok (.ireturn, 1) := dk_172 (dk_at dksL_law_22 21 rfl rfl)
theorem dL_law_594 : decode cL_law 594 = .ok (.goto 628, 3) := dk_167 2 116 (dk_at dksL_law_23 0 rfl rfl)
theorem dL_law_597 : decode cL_law 597 = .ok (.aload_n 1, 1) := dk_43 (dk_at dksL_law_23 3 rfl rfl)
theorem dL_law_598 : decode cL_law 598 = .ok (.aload_n 0, 1) := dk_42 (dk_at dksL_law_23 4 rfl rfl)
theorem dL_law_599 : decode cL_law 599 = .ok (.iload 4, 2) := dk_21 4 (dk_at dksL_law_23 5 rfl rfl)
theorem dL_law_601 : decode cL_law 601 = .ok (.iconst 1, 1) := dk_4 (dk_at dksL_law_23 7 rfl rfl)
theorem dL_law_602 : decode cL_law 602 = .ok (.iadd, 1) := dk_96 (dk_at dksL_law_23 8 rfl rfl)
theorem dL_law_603 : decode cL_law 603 = .ok (.iaload, 1) := dk_46 (dk_at dksL_law_23 9 rfl rfl)
theorem dL_law_604 : decode cL_law 604 = .ok (.aload_n 0, 1) := dk_42 (dk_at dksL_law_23 10 rfl rfl)
theorem dL_law_605 : decode cL_law 605 = .ok (.iload 4, 2) := dk_21 4 (dk_at dksL_law_23 11 rfl rfl)
theorem dL_law_607 : decode cL_law 607 = .ok (.iconst 2, 1) := dk_5 (dk_at dksL_law_23 13 rfl rfl)
theorem dL_law_608 : decode cL_law 608 = .ok (.iadd, 1) := dk_96 (dk_at dksL_law_23 14 rfl rfl)
theorem dL_law_609 : decode cL_law 609 = .ok (.iaload, 1) := dk_46 (dk_at dksL_law_23 15 rfl rfl)
theorem dL_law_610 : decode cL_law 610 = .ok (.aload_n 3, 1) := dk_45 (dk_at dksL_law_23 16 rfl rfl)
theorem dL_law_611 : decode cL_law 611 = .ok (.invokestatic 109, 3) := dk_184 0 109 (dk_at dksL_law_23 17 rfl rfl)
theorem dL_law_614 : decode cL_law 614 = .ok (.istore 5, 2) := dk_54 5 (dk_at dksL_law_23 20 rfl rfl)
theorem dL_law_616 : decode cL_law 616 = .ok (.aload_n 2, 1) := dk_44 (dk_at dksL_law_23 22 rfl rfl)
theorem dL_law_617 : decode cL_law 617 = .ok (.aload_n 0, 1) := dk_42 (dk_at dksL_law_23 23 rfl rfl)
theorem dL_law_618 : decode cL_law 618 = .ok (.iload 4, 2) := dk_21 4 (dk_at dksL_law_24 0 rfl rfl)
theorem dL_law_620 : decode cL_law 620 = .ok (.iconst 1, 1) := dk_4 (dk_at dksL_law_24 2 rfl rfl)
theorem dL_law_621 : decode cL_law 621 = .ok (.iadd, 1) := dk_96 (dk_at dksL_law_24 3 rfl rfl)
theorem dL_law_622 : decode cL_law 622 = .ok (.iaload, 1) := dk_46 (dk_at dksL_law_24 4 rfl rfl)
theorem dL_law_623 : decode cL_law 623 = .ok (.aload_n 0, 1) := dk_42 (dk_at dksL_law_24 5 rfl rfl)
theorem dL_law_624 : decode cL_law 624 = .ok (.iload 4, 2) := dk_21 4 (dk_at dksL_law_24 6 rfl rfl)
theorem dL_law_626 : decode cL_law 626 = .ok (.iconst 2, 1) := dk_5 (dk_at dksL_law_24 8 rfl rfl)
theorem dL_law_627 : decode cL_law 627 = .ok (.iadd, 1) := dk_96 (dk_at dksL_law_24 9 rfl rfl)
theorem dL_law_628 : decode cL_law 628 = .ok (.iaload, 1) := dk_46 (dk_at dksL_law_24 10 rfl rfl)
theorem dL_law_629 : decode cL_law 629 = .ok (.invokevirtual 111, 3) := dk_182 0 111 (dk_at dksL_law_24 11 rfl rfl)
theorem dL_law_632 : decode cL_law 632 = .ok (.istore 6, 2) := dk_54 6 (dk_at dksL_law_24 14 rfl rfl)
theorem dL_law_634 : decode cL_law 634 = .ok (.aload_n 2, 1) := dk_44 (dk_at dksL_law_24 16 rfl rfl)
theorem dL_law_635 : decode cL_law 635 = .ok (.invokevirtual 81, 3) := dk_182 0 81 (dk_at dksL_law_24 17 rfl rfl)
theorem dL_law_638 : decode cL_law 638 = .ok (.iload 5, 2) := dk_21 5 (dk_at dksL_law_24 20 rfl rfl)
theorem dL_law_640 : decode cL_law 640 = .ok (.if_icmp .eq 5, 3) := dk_159 0 5 (dk_at dksL_law_25 0 rfl rfl)
theorem dL_law_643 : decode cL_law 643 = .ok (.iconst 0, 1) := dk_3 (dk_at dksL_law_25 3 rfl rfl)
theorem dL_law_644 : decode cL_law 644 = .ok (.ireturn, 1) := dk_172 (dk_at dksL_law_25 4 rfl rfl)
theorem dL_law_645 : decode cL_law 645 = .ok (.iload 5, 2) := dk_21 5 (dk_at dksL_law_25 5 rfl rfl)
theorem dL_law_647 : decode cL_law 647 = .ok (.ifCond .ne 15, 3) := dk_154 0 15 (dk_at dksL_law_25 7 rfl rfl)
theorem dL_law_650 : decode cL_law 650 = .ok (.aload_n 3, 1) := dk_45 (dk_at dksL_law_25 10 rfl rfl)
theorem dL_law_651 : decode cL_law 651 = .ok (.iconst 0, 1) := dk_3 (dk_at dksL_law_25 11 rfl rfl)
theorem dL_law_652 : decode cL_law 652 = .ok (.laload, 1) := dk_47 (dk_at dksL_law_25 12 rfl rfl)
theorem dL_law_653 : decode cL_law 653 = .ok (.iload 6, 2) := dk_21 6 (dk_at dksL_law_25 13 rfl rfl)
theorem dL_law_655 : decode cL_law 655 = .ok (.i2l, 1) := dk_133 (dk_at dksL_law_25 15 rfl rfl)
theorem dL_law_656 : decode cL_law 656 = .ok (.lcmp, 1) := dk_148 (dk_at dksL_law_25 16 rfl rfl)
theorem dL_law_657 : decode cL_law 657 = .ok (.ifCond .eq 5, 3) := dk_153 0 5 (dk_at dksL_law_25 17 rfl rfl)
theorem dL_law_660 : decode cL_law 660 = .ok (.iconst 0, 1) := dk_3 (dk_at dksL_law_25 20 rfl rfl)
theorem dL_law_661 : decode cL_law 661 = .ok (.ireturn, 1) := dk_172 (dk_at dksL_law_25 21 rfl rfl)
theorem dL_law_662 : decode cL_law 662 = .ok (.goto 560, 3) := dk_167 2 48 (dk_at dksL_law_26 0 rfl rfl)
theorem dL_law_665 : decode cL_law 665 = .ok (.aload_n 1, 1) := dk_43 (dk_at dksL_law_26 3 rfl rfl)
theorem dL_law_666 : decode cL_law 666 = .ok (.aload_n 0, 1) := dk_42 (dk_at dksL_law_26 4 rfl rfl)
theorem dL_law_667 : decode cL_law 667 = .ok (.iload 4, 2) := dk_21 4 (dk_at dksL_law_26 5 rfl rfl)
theorem dL_law_669 : decode cL_law 669 = .ok (.iconst 1, 1) := dk_4 (dk_at dksL_law_26 7 rfl rfl)
theorem dL_law_670 : decode cL_law 670 = .ok (.iadd, 1) := dk_96 (dk_at dksL_law_26 8 rfl rfl)
theorem dL_law_671 : decode cL_law 671 = .ok (.iaload, 1) := dk_46 (dk_at dksL_law_26 9 rfl rfl)
theorem dL_law_672 : decode cL_law 672 = .ok (.aload_n 3, 1) := dk_45 (dk_at dksL_law_26 10 rfl rfl)
theorem dL_law_673 : decode cL_law 673 = .ok (.invokestatic 112, 3) := dk_184 0 112 (dk_at dksL_law_26 11 rfl rfl)
theorem dL_law_676 : decode cL_law 676 = .ok (.istore 5, 2) := dk_54 5 (dk_at dksL_law_26 14 rfl rfl)
theorem dL_law_678 : decode cL_law 678 = .ok (.aload_n 2, 1) := dk_44 (dk_at dksL_law_26 16 rfl rfl)
theorem dL_law_679 : decode cL_law 679 = .ok (.aload_n 0, 1) := dk_42 (dk_at dksL_law_26 17 rfl rfl)
theorem dL_law_680 : decode cL_law 680 = .ok (.iload 4, 2) := dk_21 4 (dk_at dksL_law_26 18 rfl rfl)
theorem dL_law_682 : decode cL_law 682 = .ok (.iconst 1, 1) := dk_4 (dk_at dksL_law_26 20 rfl rfl)
theorem dL_law_683 : decode cL_law 683 = .ok (.iadd, 1) := dk_96 (dk_at dksL_law_26 21 rfl rfl)
theorem dL_law_684 : decode cL_law 684 = .ok (.iaload, 1) := dk_46 (dk_at dksL_law_26 22 rfl rfl)
theorem dL_law_685 : decode cL_law 685 = .ok (.invokevirtual 114, 3) := dk_182 0 114 (dk_at dksL_law_27 0 rfl rfl)
theorem dL_law_688 : decode cL_law 688 = .ok (.istore 6, 2) := dk_54 6 (dk_at dksL_law_27 3 rfl rfl)
theorem dL_law_690 : decode cL_law 690 = .ok (.aload_n 2, 1) := dk_44 (dk_at dksL_law_27 5 rfl rfl)
theorem dL_law_691 : decode cL_law 691 = .ok (.invokevirtual 81, 3) := dk_182 0 81 (dk_at dksL_law_27 6 rfl rfl)
theorem dL_law_694 : decode cL_law 694 = .ok (.iload 5, 2) := dk_21 5 (dk_at dksL_law_27 9 rfl rfl)
theorem dL_law_696 : decode cL_law 696 = .ok (.if_icmp .eq 5, 3) := dk_159 0 5 (dk_at dksL_law_27 11 rfl rfl)
theorem dL_law_699 : decode cL_law 699 = .ok (.iconst 0, 1) := dk_3 (dk_at dksL_law_27 14 rfl rfl)
theorem dL_law_700 : decode cL_law 700 = .ok (.ireturn, 1) := dk_172 (dk_at dksL_law_27 15 rfl rfl)
theorem dL_law_701 : decode cL_law 701 = .ok (.iload 5, 2) := dk_21 5 (dk_at dksL_law_27 16 rfl rfl)
theorem dL_law_703 : decode cL_law 703 = .ok (.ifCond .ne 15, 3) := dk_154 0 15 (dk_at dksL_law_27 18 rfl rfl)
theorem dL_law_706 : decode cL_law 706 = .ok (.aload_n 3, 1) := dk_45 (dk_at dksL_law_27 21 rfl rfl)
theorem dL_law_707 : decode cL_law 707 = .ok (.iconst 0, 1) := dk_3 (dk_at dksL_law_27 22 rfl rfl)
theorem dL_law_708 : decode cL_law 708 = .ok (.laload, 1) := dk_47 (dk_at dksL_law_27 23 rfl rfl)
theorem dL_law_709 : decode cL_law 709 = .ok (.iload 6, 2) := dk_21 6 (dk_at dksL_law_28 0 rfl rfl)
theorem dL_law_711 : decode cL_law 711 = .ok (.i2l, 1) := dk_133 (dk_at dksL_law_28 2 rfl rfl)
theorem dL_law_712 : decode cL_law 712 = .ok (.lcmp, 1) := dk_148 (dk_at dksL_law_28 3 rfl rfl)
theorem dL_law_713 : decode cL_law 713 = .ok (.ifCond .eq 5, 3) := dk_153 0 5 (dk_at dksL_law_28 4 rfl rfl)
theorem dL_law_716 : decode cL_law 716 = .ok (.iconst 0, 1) := dk_3 (dk_at dksL_law_28 7 rfl rfl)
theorem dL_law_717 : decode cL_law 717 = .ok (.ireturn, 1) := dk_172 (dk_at dksL_law_28 8 rfl rfl)
theorem dL_law_718 : decode cL_law 718 = .ok (.goto 504, 3) := dk_167 1 248 (dk_at dksL_law_28 9 rfl rfl)
theorem dL_law_721 : decode cL_law 721 = .ok (.aload_n 1, 1) := dk_43 (dk_at dksL_law_28 12 rfl rfl)
theorem dL_law_722 : decode cL_law 722 = .ok (.aload_n 0, 1) := dk_42 (dk_at dksL_law_28 13 rfl rfl)
theorem dL_law_723 : decode cL_law 723 = .ok (.iload 4, 2) := dk_21 4 (dk_at dksL_law_28 14 rfl rfl)
theorem dL_law_725 : decode cL_law 725 = .ok (.iconst 1, 1) := dk_4 (dk_at dksL_law_28 16 rfl rfl)
theorem dL_law_726 : decode cL_law 726 = .ok (.iadd, 1) := dk_96 (dk_at dksL_law_28 17 rfl rfl)
theorem dL_law_727 : decode cL_law 727 = .ok (.iaload, 1) := dk_46 (dk_at dksL_law_28 18 rfl rfl)
theorem dL_law_728 : decode cL_law 728 = .ok (.aload_n 3, 1) := dk_45 (dk_at dksL_law_28 19 rfl rfl)
theorem dL_law_729 : decode cL_law 729 = .ok (.invokestatic 115, 3) := dk_184 0 115 (dk_at dksL_law_28 20 rfl rfl)
theorem dL_law_732 : decode cL_law 732 = .ok (.istore 5, 2) := dk_54 5 (dk_at dksL_law_29 0 rfl rfl)
theorem dL_law_734 : decode cL_law 734 = .ok (.aload_n 2, 1) := dk_44 (dk_at dksL_law_29 2 rfl rfl)
theorem dL_law_735 : decode cL_law 735 = .ok (.aload_n 0, 1) := dk_42 (dk_at dksL_law_29 3 rfl rfl)
theorem dL_law_736 : decode cL_law 736 = .ok (.iload 4, 2) := dk_21 4 (dk_at dksL_law_29 4 rfl rfl)
theorem dL_law_738 : decode cL_law 738 = .ok (.iconst 1, 1) := dk_4 (dk_at dksL_law_29 6 rfl rfl)
theorem dL_law_739 : decode cL_law 739 = .ok (.iadd, 1) := dk_96 (dk_at dksL_law_29 7 rfl rfl)
theorem dL_law_740 : decode cL_law 740 = .ok (.iaload, 1) := dk_46 (dk_at dksL_law_29 8 rfl rfl)
theorem dL_law_741 : decode cL_law 741 = .ok (.invokevirtual 117, 3) := dk_182 0 117 (dk_at dksL_law_29 9 rfl rfl)
theorem dL_law_744 : decode cL_law 744 = .ok (.istore 6, 2) := dk_54 6 (dk_at dksL_law_29 12 rfl rfl)
theorem dL_law_746 : decode cL_law 746 = .ok (.aload_n 2, 1) := dk_44 (dk_at dksL_law_29 14 rfl rfl)
theorem dL_law_747 : decode cL_law 747 = .ok (.invokevirtual 81, 3) := dk_182 0 81 (dk_at dksL_law_29 15 rfl rfl)
theorem dL_law_750 : decode cL_law 750 = .ok (.iload 5, 2) := dk_21 5 (dk_at dksL_law_29 18 rfl rfl)
theorem dL_law_752 : decode cL_law 752 = .ok (.if_icmp .eq 5, 3) := dk_159 0 5 (dk_at dksL_law_29 20 rfl rfl)
theorem dL_law_755 : decode cL_law 755 = .ok (.iconst 0, 1) := dk_3 (dk_at dksL_law_29 23 rfl rfl)
theorem dL_law_756 : decode cL_law 756 = .ok (.ireturn, 1) := dk_172 (dk_at dksL_law_30 0 rfl rfl)
theorem dL_law_757 : decode cL_law 757 = .ok (.iload 5, 2) := dk_21 5 (dk_at dksL_law_30 1 rfl rfl)
theorem dL_law_759 : decode cL_law 759 = .ok (.ifCond .ne 15, 3) := dk_154 0 15 (dk_at dksL_law_30 3 rfl rfl)
theorem dL_law_762 : decode cL_law 762 = .ok (.aload_n 3, 1) := dk_45 (dk_at dksL_law_30 6 rfl rfl)
theorem dL_law_763 : decode cL_law 763 = .ok (.iconst 0, 1) := dk_3 (dk_at dksL_law_30 7 rfl rfl)
theorem dL_law_764 : decode cL_law 764 = .ok (.laload, 1) := dk_47 (dk_at dksL_law_30 8 rfl rfl)
theorem dL_law_765 : decode cL_law 765 = .ok (.iload 6, 2) := dk_21 6 (dk_at dksL_law_30 9 rfl rfl)
theorem dL_law_767 : decode cL_law 767 = .ok (.i2l, 1) := dk_133 (dk_at dksL_law_30 11 rfl rfl)
theorem dL_law_768 : decode cL_law 768 = .ok (.lcmp, 1) := dk_148 (dk_at dksL_law_30 12 rfl rfl)
theorem dL_law_769 : decode cL_law 769 = .ok (.ifCond .eq 5, 3) := dk_153 0 5 (dk_at dksL_law_30 13 rfl rfl)
theorem dL_law_772 : decode cL_law 772 = .ok (.iconst 0, 1) := dk_3 (dk_at dksL_law_30 16 rfl rfl)
theorem dL_law_773 : decode cL_law 773 = .ok (.ireturn, 1) := dk_172 (dk_at dksL_law_30 17 rfl rfl)
theorem dL_law_774 : decode cL_law 774 = .ok (.goto 448, 3) := dk_167 1 192 (dk_at dksL_law_30 18 rfl rfl)
theorem dL_law_777 : decode cL_law 777 = .ok (.aload_n 1, 1) := dk_43 (dk_at dksL_law_30 21 rfl rfl)
theorem dL_law_778 : decode cL_law 778 = .ok (.invokevirtual 118, 3) := dk_182 0 118 (dk_at dksL_law_31 0 rfl rfl)
theorem dL_law_781 : decode cL_law 781 = .ok (.aload_n 2, 1) := dk_44 (dk_at dksL_law_31 3 rfl rfl)
theorem dL_law_782 : decode cL_law 782 = .ok (.invokevirtual 121, 3) := dk_182 0 121 (dk_at dksL_law_31 4 rfl rfl)
theorem dL_law_785 : decode cL_law 785 = .ok (.if_icmp .eq 437, 3) := dk_159 1 181 (dk_at dksL_law_31 7 rfl rfl)
theorem dL_law_788 : decode cL_law 788 = .ok (.iconst 0, 1) := dk_3 (dk_at dksL_law_31 10 rfl rfl)
theorem dL_law_789 : decode cL_law 789 = .ok (.ireturn, 1) := dk_172 (dk_at dksL_law_31 11 rfl rfl)
theorem dL_law_790 : decode cL_law 790 = .ok (.aload_n 1, 1) := dk_43 (dk_at dksL_law_31 12 rfl rfl)
theorem dL_law_791 : decode cL_law 791 = .ok (.aload_n 0, 1) := dk_42 (dk_at dksL_law_31 13 rfl rfl)
theorem dL_law_792 : decode cL_law 792 = .ok (.iload 4, 2) := dk_21 4 (dk_at dksL_law_31 14 rfl rfl)
theorem dL_law_794 : decode cL_law 794 = .ok (.iconst 1, 1) := dk_4 (dk_at dksL_law_31 16 rfl rfl)
theorem dL_law_795 : decode cL_law 795 = .ok (.iadd, 1) := dk_96 (dk_at dksL_law_31 17 rfl rfl)
theorem dL_law_796 : decode cL_law 796 = .ok (.iaload, 1) := dk_46 (dk_at dksL_law_31 18 rfl rfl)
theorem dL_law_797 : decode cL_law 797 = .ok (.aload_n 3, 1) := dk_45 (dk_at dksL_law_31 19 rfl rfl)
theorem dL_law_798 : decode cL_law 798 = .ok (.invokestatic 122, 3) := dk_184 0 122 (dk_at dksL_law_31 20 rfl rfl)
theorem dL_law_801 : decode cL_law 801 = .ok (.istore 5, 2) := dk_54 5 (dk_at dksL_law_32 0 rfl rfl)
theorem dL_law_803 : decode cL_law 803 = .ok (.aload_n 2, 1) := dk_44 (dk_at dksL_law_32 2 rfl rfl)
theorem dL_law_804 : decode cL_law 804 = .ok (.aload_n 0, 1) := dk_42 (dk_at dksL_law_32 3 rfl rfl)
theorem dL_law_805 : decode cL_law 805 = .ok (.iload 4, 2) := dk_21 4 (dk_at dksL_law_32 4 rfl rfl)
theorem dL_law_807 : decode cL_law 807 = .ok (.iconst 1, 1) := dk_4 (dk_at dksL_law_32 6 rfl rfl)
theorem dL_law_808 : decode cL_law 808 = .ok (.iadd, 1) := dk_96 (dk_at dksL_law_32 7 rfl rfl)
theorem dL_law_809 : decode cL_law 809 = .ok (.iaload, 1) := dk_46 (dk_at dksL_law_32 8 rfl rfl)
theorem dL_law_810 : decode cL_law 810 = .ok (.invokevirtual 124, 3) := dk_182 0 124 (dk_at dksL_law_32 9 rfl rfl)
theorem dL_law_813 : decode cL_law 813 = .ok (.istore 6, 2) := dk_54 6 (dk_at dksL_law_32 12 rfl rfl)
theorem dL_law_815 : decode cL_law 815 = .ok (.aload_n 2, 1) := dk_44 (dk_at dksL_law_32 14 rfl rfl)
theorem dL_law_816 : decode cL_law 816 = .ok (.invokevirtual 81, 3) := dk_182 0 81 (dk_at dksL_law_32 15 rfl rfl)
theorem dL_law_819 : decode cL_law 819 = .ok (.iload 5, 2) := dk_21 5 (dk_at dksL_law_32 18 rfl rfl)
theorem dL_law_821 : decode cL_law 821 = .ok (.if_icmp .eq 5, 3) := dk_159 0 5 (dk_at dksL_law_32 20 rfl rfl)
theorem dL_law_824 : decode cL_law 824 = .ok (.iconst 0, 1) := dk_3 (dk_at dksL_law_32 23 rfl rfl)
theorem dL_law_825 : decode cL_law 825 = .ok (.ireturn, 1) := dk_172 (dk_at dksL_law_33 0 rfl rfl)
theorem dL_law_826 : decode cL_law 826 = .ok (.iload 5, 2) := dk_21 5 (dk_at dksL_law_33 1 rfl rfl)
theorem dL_law_828 : decode cL_law 828 = .ok (.ifCond .ne 15, 3) := dk_154 0 15 (dk_at dksL_law_33 3 rfl rfl)
theorem dL_law_831 : decode cL_law 831 = .ok (.aload_n 3, 1) := dk_45 (dk_at dksL_law_33 6 rfl rfl)
theorem dL_law_832 : decode cL_law 832 = .ok (.iconst 0, 1) := dk_3 (dk_at dksL_law_33 7 rfl rfl)
theorem dL_law_833 : decode cL_law 833 = .ok (.laload, 1) := dk_47 (dk_at dksL_law_33 8 rfl rfl)
theorem dL_law_834 : decode cL_law 834 = .ok (.iload 6, 2) := dk_21 6 (dk_at dksL_law_33 9 rfl rfl)
theorem dL_law_836 : decode cL_law 836 = .ok (.i2l, 1) := dk_133 (dk_at dksL_law_33 11 rfl rfl)
theorem dL_law_837 : decode cL_law 837 = .ok (.lcmp, 1) := dk_148 (dk_at dksL_law_33 12 rfl rfl)
theorem dL_law_838 : decode cL_law 838 = .ok (.ifCond .eq 5, 3) := dk_153 0 5 (dk_at dksL_law_33 13 rfl rfl)
theorem dL_law_841 : decode cL_law 841 = .ok (.iconst 0, 1) := dk_3 (dk_at dksL_law_33 16 rfl rfl)
theorem dL_law_842 : decode cL_law 842 = .ok (.ireturn, 1) := dk_172 (dk_at dksL_law_33 17 rfl rfl)
theorem dL_law_843 : decode cL_law 843 = .ok (.goto 379, 3) := dk_167 1 123 (dk_at dksL_law_33 18 rfl rfl)
theorem dL_law_846 : decode cL_law 846 = .ok (.aload_n 1, 1) := dk_43 (dk_at dksL_law_33 21 rfl rfl)
theorem dL_law_847 : decode cL_law 847 = .ok (.aload_n 0, 1) := dk_42 (dk_at dksL_law_33 22 rfl rfl)
theorem dL_law_848 : decode cL_law 848 = .ok (.iload 4, 2) := dk_21 4 (dk_at dksL_law_34 0 rfl rfl)
theorem dL_law_850 : decode cL_law 850 = .ok (.iconst 1, 1) := dk_4 (dk_at dksL_law_34 2 rfl rfl)
theorem dL_law_851 : decode cL_law 851 = .ok (.iadd, 1) := dk_96 (dk_at dksL_law_34 3 rfl rfl)
theorem dL_law_852 : decode cL_law 852 = .ok (.iaload, 1) := dk_46 (dk_at dksL_law_34 4 rfl rfl)
theorem dL_law_853 : decode cL_law 853 = .ok (.aload_n 3, 1) := dk_45 (dk_at dksL_law_34 5 rfl rfl)
theorem dL_law_854 : decode cL_law 854 = .ok (.invokestatic 125, 3) := dk_184 0 125 (dk_at dksL_law_34 6 rfl rfl)
theorem dL_law_857 : decode cL_law 857 = .ok (.istore 5, 2) := dk_54 5 (dk_at dksL_law_34 9 rfl rfl)
theorem dL_law_859 : decode cL_law 859 = .ok (.aload_n 2, 1) := dk_44 (dk_at dksL_law_34 11 rfl rfl)
theorem dL_law_860 : decode cL_law 860 = .ok (.aload_n 0, 1) := dk_42 (dk_at dksL_law_34 12 rfl rfl)
theorem dL_law_861 : decode cL_law 861 = .ok (.iload 4, 2) := dk_21 4 (dk_at dksL_law_34 13 rfl rfl)
theorem dL_law_863 : decode cL_law 863 = .ok (.iconst 1, 1) := dk_4 (dk_at dksL_law_34 15 rfl rfl)
theorem dL_law_864 : decode cL_law 864 = .ok (.iadd, 1) := dk_96 (dk_at dksL_law_34 16 rfl rfl)
theorem dL_law_865 : decode cL_law 865 = .ok (.iaload, 1) := dk_46 (dk_at dksL_law_34 17 rfl rfl)
theorem dL_law_866 : decode cL_law 866 = .ok (.invokevirtual 127, 3) := dk_182 0 127 (dk_at dksL_law_34 18 rfl rfl)
theorem dL_law_869 : decode cL_law 869 = .ok (.istore 6, 2) := dk_54 6 (dk_at dksL_law_34 21 rfl rfl)
theorem dL_law_871 : decode cL_law 871 = .ok (.aload_n 2, 1) := dk_44 (dk_at dksL_law_34 23 rfl rfl)
theorem dL_law_872 : decode cL_law 872 = .ok (.invokevirtual 81, 3) := dk_182 0 81 (dk_at dksL_law_35 0 rfl rfl)
theorem dL_law_875 : decode cL_law 875 = .ok (.iload 5, 2) := dk_21 5 (dk_at dksL_law_35 3 rfl rfl)
theorem dL_law_877 : decode cL_law 877 = .ok (.if_icmp .eq 5, 3) := dk_159 0 5 (dk_at dksL_law_35 5 rfl rfl)
theorem dL_law_880 : decode cL_law 880 = .ok (.iconst 0, 1) := dk_3 (dk_at dksL_law_35 8 rfl rfl)
theorem dL_law_881 : decode cL_law 881 = .ok (.ireturn, 1) := dk_172 (dk_at dksL_law_35 9 rfl rfl)
theorem dL_law_882 : decode cL_law 882 = .ok (.iload 5, 2) := dk_21 5 (dk_at dksL_law_35 10 rfl rfl)
theorem dL_law_884 : decode cL_law 884 = .ok (.ifCond .ne 15, 3) := dk_154 0 15 (dk_at dksL_law_35 12 rfl rfl)
theorem dL_law_887 : decode cL_law 887 = .ok (.aload_n 3, 1) := dk_45 (dk_at dksL_law_35 15 rfl rfl)
theorem dL_law_888 : decode cL_law 888 = .ok (.iconst 0, 1) := dk_3 (dk_at dksL_law_35 16 rfl rfl)
theorem dL_law_889 : decode cL_law 889 = .ok (.laload, 1) := dk_47 (dk_at dksL_law_35 17 rfl rfl)
theorem dL_law_890 : decode cL_law 890 = .ok (.iload 6, 2) := dk_21 6 (dk_at dksL_law_35 18 rfl rfl)
theorem dL_law_892 : decode cL_law 892 = .ok (.i2l, 1) := dk_133 (dk_at dksL_law_35 20 rfl rfl)
theorem dL_law_893 : decode cL_law 893 = .ok (.lcmp, 1) := dk_148 (dk_at dksL_law_35 21 rfl rfl)
theorem dL_law_894 : decode cL_law 894 = .ok (.ifCond .eq 5, 3) := dk_153 0 5 (dk_at dksL_law_36 0 rfl rfl)
theorem dL_law_897 : decode cL_law 897 = .ok (.iconst 0, 1) := dk_3 (dk_at dksL_law_36 3 rfl rfl)
theorem dL_law_898 : decode cL_law 898 = .ok (.ireturn, 1) := dk_172 (dk_at dksL_law_36 4 rfl rfl)
theorem dL_law_899 : decode cL_law 899 = .ok (.goto 323, 3) := dk_167 1 67 (dk_at dksL_law_36 5 rfl rfl)
theorem dL_law_902 : decode cL_law 902 = .ok (.aload_n 1, 1) := dk_43 (dk_at dksL_law_36 8 rfl rfl)
theorem dL_law_903 : decode cL_law 903 = .ok (.aload_n 0, 1) := dk_42 (dk_at dksL_law_36 9 rfl rfl)
theorem dL_law_904 : decode cL_law 904 = .ok (.iload 4, 2) := dk_21 4 (dk_at dksL_law_36 10 rfl rfl)
theorem dL_law_906 : decode cL_law 906 = .ok (.iconst 1, 1) := dk_4 (dk_at dksL_law_36 12 rfl rfl)
theorem dL_law_907 : decode cL_law 907 = .ok (.iadd, 1) := dk_96 (dk_at dksL_law_36 13 rfl rfl)
theorem dL_law_908 : decode cL_law 908 = .ok (.iaload, 1) := dk_46 (dk_at dksL_law_36 14 rfl rfl)
theorem dL_law_909 : decode cL_law 909 = .ok (.aload_n 0, 1) := dk_42 (dk_at dksL_law_36 15 rfl rfl)
theorem dL_law_910 : decode cL_law 910 = .ok (.iload 4, 2) := dk_21 4 (dk_at dksL_law_36 16 rfl rfl)
theorem dL_law_912 : decode cL_law 912 = .ok (.iconst 2, 1) := dk_5 (dk_at dksL_law_36 18 rfl rfl)
theorem dL_law_913 : decode cL_law 913 = .ok (.iadd, 1) := dk_96 (dk_at dksL_law_36 19 rfl rfl)
theorem dL_law_914 : decode cL_law 914 = .ok (.iaload, 1) := dk_46 (dk_at dksL_law_36 20 rfl rfl)
theorem dL_law_915 : decode cL_law 915 = .ok (.aload_n 3, 1) := dk_45 (dk_at dksL_law_36 21 rfl rfl)
theorem dL_law_916 : decode cL_law 916 = .ok (.invokestatic 128, 3) := dk_184 0 128 (dk_at dksL_law_37 0 rfl rfl)
theorem dL_law_919 : decode cL_law 919 = .ok (.istore 5, 2) := dk_54 5 (dk_at dksL_law_37 3 rfl rfl)
theorem dL_law_921 : decode cL_law 921 = .ok (.aload_n 2, 1) := dk_44 (dk_at dksL_law_37 5 rfl rfl)
theorem dL_law_922 : decode cL_law 922 = .ok (.aload_n 0, 1) := dk_42 (dk_at dksL_law_37 6 rfl rfl)
theorem dL_law_923 : decode cL_law 923 = .ok (.iload 4, 2) := dk_21 4 (dk_at dksL_law_37 7 rfl rfl)
theorem dL_law_925 : decode cL_law 925 = .ok (.iconst 1, 1) := dk_4 (dk_at dksL_law_37 9 rfl rfl)
theorem dL_law_926 : decode cL_law 926 = .ok (.iadd, 1) := dk_96 (dk_at dksL_law_37 10 rfl rfl)
theorem dL_law_927 : decode cL_law 927 = .ok (.iaload, 1) := dk_46 (dk_at dksL_law_37 11 rfl rfl)
theorem dL_law_928 : decode cL_law 928 = .ok (.aload_n 0, 1) := dk_42 (dk_at dksL_law_37 12 rfl rfl)
theorem dL_law_929 : decode cL_law 929 = .ok (.iload 4, 2) := dk_21 4 (dk_at dksL_law_37 13 rfl rfl)
theorem dL_law_931 : decode cL_law 931 = .ok (.iconst 2, 1) := dk_5 (dk_at dksL_law_37 15 rfl rfl)
theorem dL_law_932 : decode cL_law 932 = .ok (.iadd, 1) := dk_96 (dk_at dksL_law_37 16 rfl rfl)
theorem dL_law_933 : decode cL_law 933 = .ok (.iaload, 1) := dk_46 (dk_at dksL_law_37 17 rfl rfl)
theorem dL_law_934 : decode cL_law 934 = .ok (.invokevirtual 130, 3) := dk_182 0 130 (dk_at dksL_law_37 18 rfl rfl)
theorem dL_law_937 : decode cL_law 937 = .ok (.istore 6, 2) := dk_54 6 (dk_at dksL_law_37 21 rfl rfl)
theorem dL_law_939 : decode cL_law 939 = .ok (.aload_n 2, 1) := dk_44 (dk_at dksL_law_37 23 rfl rfl)
theorem dL_law_940 : decode cL_law 940 = .ok (.invokevirtual 81, 3) := dk_182 0 81 (dk_at dksL_law_38 0 rfl rfl)
theorem dL_law_943 : decode cL_law 943 = .ok (.iload 5, 2) := dk_21 5 (dk_at dksL_law_38 3 rfl rfl)
theorem dL_law_945 : decode cL_law 945 = .ok (.if_icmp .eq 5, 3) := dk_159 0 5 (dk_at dksL_law_38 5 rfl rfl)
theorem dL_law_948 : decode cL_law 948 = .ok (.iconst 0, 1) := dk_3 (dk_at dksL_law_38 8 rfl rfl)
theorem dL_law_949 : decode cL_law 949 = .ok (.ireturn, 1) := dk_172 (dk_at dksL_law_38 9 rfl rfl)
theorem dL_law_950 : decode cL_law 950 = .ok (.iload 5, 2) := dk_21 5 (dk_at dksL_law_38 10 rfl rfl)
theorem dL_law_952 : decode cL_law 952 = .ok (.ifCond .ne 15, 3) := dk_154 0 15 (dk_at dksL_law_38 12 rfl rfl)
theorem dL_law_955 : decode cL_law 955 = .ok (.aload_n 3, 1) := dk_45 (dk_at dksL_law_38 15 rfl rfl)
theorem dL_law_956 : decode cL_law 956 = .ok (.iconst 0, 1) := dk_3 (dk_at dksL_law_38 16 rfl rfl)
theorem dL_law_957 : decode cL_law 957 = .ok (.laload, 1) := dk_47 (dk_at dksL_law_38 17 rfl rfl)
theorem dL_law_958 : decode cL_law 958 = .ok (.iload 6, 2) := dk_21 6 (dk_at dksL_law_38 18 rfl rfl)
theorem dL_law_960 : decode cL_law 960 = .ok (.i2l, 1) := dk_133 (dk_at dksL_law_38 20 rfl rfl)
theorem dL_law_961 : decode cL_law 961 = .ok (.lcmp, 1) := dk_148 (dk_at dksL_law_38 21 rfl rfl)
theorem dL_law_962 : decode cL_law 962 = .ok (.ifCond .eq 5, 3) := dk_153 0 5 (dk_at dksL_law_39 0 rfl rfl)
theorem dL_law_965 : decode cL_law 965 = .ok (.iconst 0, 1) := dk_3 (dk_at dksL_law_39 3 rfl rfl)
theorem dL_law_966 : decode cL_law 966 = .ok (.ireturn, 1) := dk_172 (dk_at dksL_law_39 4 rfl rfl)
theorem dL_law_967 : decode cL_law 967 = .ok (.goto 255, 3) := dk_167 0 255 (dk_at dksL_law_39 5 rfl rfl)
theorem dL_law_970 : decode cL_law 970 = .ok (.aload_n 1, 1) := dk_43 (dk_at dksL_law_39 8 rfl rfl)
theorem dL_law_971 : decode cL_law 971 = .ok (.aload_n 0, 1) := dk_42 (dk_at dksL_law_39 9 rfl rfl)
theorem dL_law_972 : decode cL_law 972 = .ok (.iload 4, 2) := dk_21 4 (dk_at dksL_law_39 10 rfl rfl)
theorem dL_law_974 : decode cL_law 974 = .ok (.iconst 1, 1) := dk_4 (dk_at dksL_law_39 12 rfl rfl)
theorem dL_law_975 : decode cL_law 975 = .ok (.iadd, 1) := dk_96 (dk_at dksL_law_39 13 rfl rfl)
theorem dL_law_976 : decode cL_law 976 = .ok (.iaload, 1) := dk_46 (dk_at dksL_law_39 14 rfl rfl)
theorem dL_law_977 : decode cL_law 977 = .ok (.aload_n 0, 1) := dk_42 (dk_at dksL_law_39 15 rfl rfl)
theorem dL_law_978 : decode cL_law 978 = .ok (.iload 4, 2) := dk_21 4 (dk_at dksL_law_39 16 rfl rfl)
theorem dL_law_980 : decode cL_law 980 = .ok (.iconst 2, 1) := dk_5 (dk_at dksL_law_39 18 rfl rfl)
theorem dL_law_981 : decode cL_law 981 = .ok (.iadd, 1) := dk_96 (dk_at dksL_law_39 19 rfl rfl)
theorem dL_law_982 : decode cL_law 982 = .ok (.iaload, 1) := dk_46 (dk_at dksL_law_39 20 rfl rfl)
theorem dL_law_983 : decode cL_law 983 = .ok (.ifCond .eq 7, 3) := dk_153 0 7 (dk_at dksL_law_39 21 rfl rfl)
theorem dL_law_986 : decode cL_law 986 = .ok (.iconst 1, 1) := dk_4 (dk_at dksL_law_40 0 rfl rfl)
theorem dL_law_987 : decode cL_law 987 = .ok (.goto 4, 3) := dk_167 0 4 (dk_at dksL_law_40 1 rfl rfl)
theorem dL_law_990 : decode cL_law 990 = .ok (.iconst 0, 1) := dk_3 (dk_at dksL_law_40 4 rfl rfl)
theorem dL_law_991 : decode cL_law 991 = .ok (.aload_n 3, 1) := dk_45 (dk_at dksL_law_40 5 rfl rfl)
theorem dL_law_992 : decode cL_law 992 = .ok (.invokestatic 131, 3) := dk_184 0 131 (dk_at dksL_law_40 6 rfl rfl)
theorem dL_law_995 : decode cL_law 995 = .ok (.istore 5, 2) := dk_54 5 (dk_at dksL_law_40 9 rfl rfl)
theorem dL_law_997 : decode cL_law 997 = .ok (.aload_n 2, 1) := dk_44 (dk_at dksL_law_40 11 rfl rfl)
theorem dL_law_998 : decode cL_law 998 = .ok (.aload_n 0, 1) := dk_42 (dk_at dksL_law_40 12 rfl rfl)
theorem dL_law_999 : decode cL_law 999 = .ok (.iload 4, 2) := dk_21 4 (dk_at dksL_law_40 13 rfl rfl)
theorem dL_law_1001 : decode cL_law 1001 = .ok (.iconst 1, 1) := dk_4 (dk_at dksL_law_40 15 rfl rfl)
theorem dL_law_1002 : decode cL_law 1002 = .ok (.iadd, 1) := dk_96 (dk_at dksL_law_40 16 rfl rfl)
theorem dL_law_1003 : decode cL_law 1003 = .ok (.iaload, 1) := dk_46 (dk_at dksL_law_40 17 rfl rfl)
theorem dL_law_1004 : decode cL_law 1004 = .ok (.aload_n 0, 1) := dk_42 (dk_at dksL_law_40 18 rfl rfl)
theorem dL_law_1005 : decode cL_law 1005 = .ok (.iload 4, 2) := dk_21 4 (dk_at dksL_law_40 19 rfl rfl)
theorem dL_law_1007 : decode cL_law 1007 = .ok (.iconst 2, 1) := dk_5 (dk_at dksL_law_40 21 rfl rfl)
theorem dL_law_1008 : decode cL_law 1008 = .ok (.iadd, 1) := dk_96 (dk_at dksL_law_40 22 rfl rfl)
theorem dL_law_1009 : decode cL_law 1009 = .ok (.iaload, 1) := dk_46 (dk_at dksL_law_40 23 rfl rfl)
theorem dL_law_1010 : decode cL_law 1010 = .ok (.ifCond .eq 7, 3) := dk_153 0 7 (dk_at dksL_law_41 0 rfl rfl)
theorem dL_law_1013 : decode cL_law 1013 = .ok (.iconst 1, 1) := dk_4 (dk_at dksL_law_41 3 rfl rfl)
theorem dL_law_1014 : decode cL_law 1014 = .ok (.goto 4, 3) := dk_167 0 4 (dk_at dksL_law_41 4 rfl rfl)
theorem dL_law_1017 : decode cL_law 1017 = .ok (.iconst 0, 1) := dk_3 (dk_at dksL_law_41 7 rfl rfl)
theorem dL_law_1018 : decode cL_law 1018 = .ok (.invokevirtual 134, 3) := dk_182 0 134 (dk_at dksL_law_41 8 rfl rfl)
theorem dL_law_1021 : decode cL_law 1021 = .ok (.istore 6, 2) := dk_54 6 (dk_at dksL_law_41 11 rfl rfl)
theorem dL_law_1023 : decode cL_law 1023 = .ok (.aload_n 2, 1) := dk_44 (dk_at dksL_law_41 13 rfl rfl)
theorem dL_law_1024 : decode cL_law 1024 = .ok (.invokevirtual 81, 3) := dk_182 0 81 (dk_at dksL_law_41 14 rfl rfl)
theorem dL_law_1027 : decode cL_law 1027 = .ok (.iload 5, 2) := dk_21 5 (dk_at dksL_law_41 17 rfl rfl)
theorem dL_law_1029 : decode cL_law 1029 = .ok (.if_icmp .eq 5, 3) := dk_159 0 5 (dk_at dksL_law_41 19 rfl rfl)
theorem dL_law_1032 : decode cL_law 1032 = .ok (.iconst 0, 1) := dk_3 (dk_at dksL_law_41 22 rfl rfl)
theorem dL_law_1033 : decode cL_law 1033 = .ok (.ireturn, 1) := dk_172 (dk_at dksL_law_41 23 rfl rfl)
theorem dL_law_1034 : decode cL_law 1034 = .ok (.iload 5, 2) := dk_21 5 (dk_at dksL_law_42 0 rfl rfl)
theorem dL_law_1036 : decode cL_law 1036 = .ok (.ifCond .ne 15, 3) := dk_154 0 15 (dk_at dksL_law_42 2 rfl rfl)
theorem dL_law_1039 : decode cL_law 1039 = .ok (.aload_n 3, 1) := dk_45 (dk_at dksL_law_42 5 rfl rfl)
theorem dL_law_1040 : decode cL_law 1040 = .ok (.iconst 0, 1) := dk_3 (dk_at dksL_law_42 6 rfl rfl)
theorem dL_law_1041 : decode cL_law 1041 = .ok (.laload, 1) := dk_47 (dk_at dksL_law_42 7 rfl rfl)
theorem dL_law_1042 : decode cL_law 1042 = .ok (.iload 6, 2) := dk_21 6 (dk_at dksL_law_42 8 rfl rfl)
theorem dL_law_1044 : decode cL_law 1044 = .ok (.i2l, 1) := dk_133 (dk_at dksL_law_42 10 rfl rfl)
theorem dL_law_1045 : decode cL_law 1045 = .ok (.lcmp, 1) := dk_148 (dk_at dksL_law_42 11 rfl rfl)
theorem dL_law_1046 : decode cL_law 1046 = .ok (.ifCond .eq 5, 3) := dk_153 0 5 (dk_at dksL_law_42 12 rfl rfl)
theorem dL_law_1049 : decode cL_law 1049 = .ok (.iconst 0, 1) := dk_3 (dk_at dksL_law_42 15 rfl rfl)
theorem dL_law_1050 : decode cL_law 1050 = .ok (.ireturn, 1) := dk_172 (dk_at dksL_law_42 16 rfl rfl)
theorem dL_law_1051 : decode cL_law 1051 = .ok (.goto 171, 3) := dk_167 0 171 (dk_at dksL_law_42 17 rfl rfl)
theorem dL_law_1054 : decode cL_law 1054 = .ok (.aload_n 1, 1) := dk_43 (dk_at dksL_law_42 20 rfl rfl)
theorem dL_law_1055 : decode cL_law 1055 = .ok (.aload_n 0, 1) := dk_42 (dk_at dksL_law_42 21 rfl rfl)
theorem dL_law_1056 : decode cL_law 1056 = .ok (.iload 4, 2) := dk_21 4 (dk_at dksL_law_42 22 rfl rfl)
theorem dL_law_1058 : decode cL_law 1058 = .ok (.iconst 1, 1) := dk_4 (dk_at dksL_law_43 0 rfl rfl)
theorem dL_law_1059 : decode cL_law 1059 = .ok (.iadd, 1) := dk_96 (dk_at dksL_law_43 1 rfl rfl)
theorem dL_law_1060 : decode cL_law 1060 = .ok (.iaload, 1) := dk_46 (dk_at dksL_law_43 2 rfl rfl)
theorem dL_law_1061 : decode cL_law 1061 = .ok (.aload_n 3, 1) := dk_45 (dk_at dksL_law_43 3 rfl rfl)
theorem dL_law_1062 : decode cL_law 1062 = .ok (.invokestatic 135, 3) := dk_184 0 135 (dk_at dksL_law_43 4 rfl rfl)
theorem dL_law_1065 : decode cL_law 1065 = .ok (.istore 5, 2) := dk_54 5 (dk_at dksL_law_43 7 rfl rfl)
theorem dL_law_1067 : decode cL_law 1067 = .ok (.aload_n 2, 1) := dk_44 (dk_at dksL_law_43 9 rfl rfl)
theorem dL_law_1068 : decode cL_law 1068 = .ok (.aload_n 0, 1) := dk_42 (dk_at dksL_law_43 10 rfl rfl)
theorem dL_law_1069 : decode cL_law 1069 = .ok (.iload 4, 2) := dk_21 4 (dk_at dksL_law_43 11 rfl rfl)
theorem dL_law_1071 : decode cL_law 1071 = .ok (.iconst 1, 1) := dk_4 (dk_at dksL_law_43 13 rfl rfl)
theorem dL_law_1072 : decode cL_law 1072 = .ok (.iadd, 1) := dk_96 (dk_at dksL_law_43 14 rfl rfl)
theorem dL_law_1073 : decode cL_law 1073 = .ok (.iaload, 1) := dk_46 (dk_at dksL_law_43 15 rfl rfl)
theorem dL_law_1074 : decode cL_law 1074 = .ok (.invokevirtual 137, 3) := dk_182 0 137 (dk_at dksL_law_43 16 rfl rfl)
theorem dL_law_1077 : decode cL_law 1077 = .ok (.istore 6, 2) := dk_54 6 (dk_at dksL_law_43 19 rfl rfl)
theorem dL_law_1079 : decode cL_law 1079 = .ok (.aload_n 2, 1) := dk_44 (dk_at dksL_law_43 21 rfl rfl)
theorem dL_law_1080 : decode cL_law 1080 = .ok (.invokevirtual 81, 3) := dk_182 0 81 (dk_at dksL_law_44 0 rfl rfl)
theorem dL_law_1083 : decode cL_law 1083 = .ok (.iload 5, 2) := dk_21 5 (dk_at dksL_law_44 3 rfl rfl)
theorem dL_law_1085 : decode cL_law 1085 = .ok (.if_icmp .eq 5, 3) := dk_159 0 5 (dk_at dksL_law_44 5 rfl rfl)
theorem dL_law_1088 : decode cL_law 1088 = .ok (.iconst 0, 1) := dk_3 (dk_at dksL_law_44 8 rfl rfl)
theorem dL_law_1089 : decode cL_law 1089 = .ok (.ireturn, 1) := dk_172 (dk_at dksL_law_44 9 rfl rfl)
theorem dL_law_1090 : decode cL_law 1090 = .ok (.iload 5, 2) := dk_21 5 (dk_at dksL_law_44 10 rfl rfl)
theorem dL_law_1092 : decode cL_law 1092 = .ok (.ifCond .ne 15, 3) := dk_154 0 15 (dk_at dksL_law_44 12 rfl rfl)
theorem dL_law_1095 : decode cL_law 1095 = .ok (.aload_n 3, 1) := dk_45 (dk_at dksL_law_44 15 rfl rfl)
theorem dL_law_1096 : decode cL_law 1096 = .ok (.iconst 0, 1) := dk_3 (dk_at dksL_law_44 16 rfl rfl)
theorem dL_law_1097 : decode cL_law 1097 = .ok (.laload, 1) := dk_47 (dk_at dksL_law_44 17 rfl rfl)
theorem dL_law_1098 : decode cL_law 1098 = .ok (.iload 6, 2) := dk_21 6 (dk_at dksL_law_44 18 rfl rfl)
theorem dL_law_1100 : decode cL_law 1100 = .ok (.i2l, 1) := dk_133 (dk_at dksL_law_44 20 rfl rfl)
theorem dL_law_1101 : decode cL_law 1101 = .ok (.lcmp, 1) := dk_148 (dk_at dksL_law_44 21 rfl rfl)
theorem dL_law_1102 : decode cL_law 1102 = .ok (.ifCond .eq 5, 3) := dk_153 0 5 (dk_at dksL_law_45 0 rfl rfl)
theorem dL_law_1105 : decode cL_law 1105 = .ok (.iconst 0, 1) := dk_3 (dk_at dksL_law_45 3 rfl rfl)
theorem dL_law_1106 : decode cL_law 1106 = .ok (.ireturn, 1) := dk_172 (dk_at dksL_law_45 4 rfl rfl)
theorem dL_law_1107 : decode cL_law 1107 = .ok (.goto 115, 3) := dk_167 0 115 (dk_at dksL_law_45 5 rfl rfl)
theorem dL_law_1110 : decode cL_law 1110 = .ok (.aload_n 1, 1) := dk_43 (dk_at dksL_law_45 8 rfl rfl)
theorem dL_law_1111 : decode cL_law 1111 = .ok (.aload_n 0, 1) := dk_42 (dk_at dksL_law_45 9 rfl rfl)
theorem dL_law_1112 : decode cL_law 1112 = .ok (.iload 4, 2) := dk_21 4 (dk_at dksL_law_45 10 rfl rfl)
theorem dL_law_1114 : decode cL_law 1114 = .ok (.iconst 1, 1) := dk_4 (dk_at dksL_law_45 12 rfl rfl)
theorem dL_law_1115 : decode cL_law 1115 = .ok (.iadd, 1) := dk_96 (dk_at dksL_law_45 13 rfl rfl)
theorem dL_law_1116 : decode cL_law 1116 = .ok (.iaload, 1) := dk_46 (dk_at dksL_law_45 14 rfl rfl)
theorem dL_law_1117 : decode cL_law 1117 = .ok (.aload_n 3, 1) := dk_45 (dk_at dksL_law_45 15 rfl rfl)
theorem dL_law_1118 : decode cL_law 1118 = .ok (.invokestatic 138, 3) := dk_184 0 138 (dk_at dksL_law_45 16 rfl rfl)
theorem dL_law_1121 : decode cL_law 1121 = .ok (.istore 5, 2) := dk_54 5 (dk_at dksL_law_45 19 rfl rfl)
theorem dL_law_1123 : decode cL_law 1123 = .ok (.aload_n 2, 1) := dk_44 (dk_at dksL_law_45 21 rfl rfl)
theorem dL_law_1124 : decode cL_law 1124 = .ok (.aload_n 0, 1) := dk_42 (dk_at dksL_law_45 22 rfl rfl)
theorem dL_law_1125 : decode cL_law 1125 = .ok (.iload 4, 2) := dk_21 4 (dk_at dksL_law_46 0 rfl rfl)
theorem dL_law_1127 : decode cL_law 1127 = .ok (.iconst 1, 1) := dk_4 (dk_at dksL_law_46 2 rfl rfl)
theorem dL_law_1128 : decode cL_law 1128 = .ok (.iadd, 1) := dk_96 (dk_at dksL_law_46 3 rfl rfl)
theorem dL_law_1129 : decode cL_law 1129 = .ok (.iaload, 1) := dk_46 (dk_at dksL_law_46 4 rfl rfl)
theorem dL_law_1130 : decode cL_law 1130 = .ok (.invokevirtual 140, 3) := dk_182 0 140 (dk_at dksL_law_46 5 rfl rfl)
theorem dL_law_1133 : decode cL_law 1133 = .ok (.istore 6, 2) := dk_54 6 (dk_at dksL_law_46 8 rfl rfl)
theorem dL_law_1135 : decode cL_law 1135 = .ok (.aload_n 2, 1) := dk_44 (dk_at dksL_law_46 10 rfl rfl)
theorem dL_law_1136 : decode cL_law 1136 = .ok (.invokevirtual 81, 3) := dk_182 0 81 (dk_at dksL_law_46 11 rfl rfl)
theorem dL_law_1139 : decode cL_law 1139 = .ok (.iload 5, 2) := dk_21 5 (dk_at dksL_law_46 14 rfl rfl)
theorem dL_law_1141 : decode cL_law 1141 = .ok (.if_icmp .eq 5, 3) := dk_159 0 5 (dk_at dksL_law_46 16 rfl rfl)
theorem dL_law_1144 : decode cL_law 1144 = .ok (.iconst 0, 1) := dk_3 (dk_at dksL_law_46 19 rfl rfl)
theorem dL_law_1145 : decode cL_law 1145 = .ok (.ireturn, 1) := dk_172 (dk_at dksL_law_46 20 rfl rfl)
theorem dL_law_1146 : decode cL_law 1146 = .ok (.iload 5, 2) := dk_21 5 (dk_at dksL_law_46 21 rfl rfl)
theorem dL_law_1148 : decode cL_law 1148 = .ok (.ifCond .ne 15, 3) := dk_154 0 15 (dk_at dksL_law_47 0 rfl rfl)
theorem dL_law_1151 : decode cL_law 1151 = .ok (.aload_n 3, 1) := dk_45 (dk_at dksL_law_47 3 rfl rfl)
theorem dL_law_1152 : decode cL_law 1152 = .ok (.iconst 0, 1) := dk_3 (dk_at dksL_law_47 4 rfl rfl)
theorem dL_law_1153 : decode cL_law 1153 = .ok (.laload, 1) := dk_47 (dk_at dksL_law_47 5 rfl rfl)
theorem dL_law_1154 : decode cL_law 1154 = .ok (.iload 6, 2) := dk_21 6 (dk_at dksL_law_47 6 rfl rfl)
theorem dL_law_1156 : decode cL_law 1156 = .ok (.i2l, 1) := dk_133 (dk_at dksL_law_47 8 rfl rfl)
theorem dL_law_1157 : decode cL_law 1157 = .ok (.lcmp, 1) := dk_148 (dk_at dksL_law_47 9 rfl rfl)
theorem dL_law_1158 : decode cL_law 1158 = .ok (.ifCond .eq 5, 3) := dk_153 0 5 (dk_at dksL_law_47 10 rfl rfl)
theorem dL_law_1161 : decode cL_law 1161 = .ok (.iconst 0, 1) := dk_3 (dk_at dksL_law_47 13 rfl rfl)
theorem dL_law_1162 : decode cL_law 1162 = .ok (.ireturn, 1) := dk_172 (dk_at dksL_law_47 14 rfl rfl)
theorem dL_law_1163 : decode cL_law 1163 = .ok (.goto 59, 3) := dk_167 0 59 (dk_at dksL_law_47 15 rfl rfl)
theorem dL_law_1166 : decode cL_law 1166 = .ok (.aload_n 1, 1) := dk_43 (dk_at dksL_law_47 18 rfl rfl)
theorem dL_law_1167 : decode cL_law 1167 = .ok (.aload_n 0, 1) := dk_42 (dk_at dksL_law_47 19 rfl rfl)
theorem dL_law_1168 : decode cL_law 1168 = .ok (.iload 4, 2) := dk_21 4 (dk_at dksL_law_47 20 rfl rfl)
theorem dL_law_1170 : decode cL_law 1170 = .ok (.iconst 1, 1) := dk_4 (dk_at dksL_law_47 22 rfl rfl)
theorem dL_law_1171 : decode cL_law 1171 = .ok (.iadd, 1) := dk_96 (dk_at dksL_law_47 23 rfl rfl)
theorem dL_law_1172 : decode cL_law 1172 = .ok (.iaload, 1) := dk_46 (dk_at dksL_law_48 0 rfl rfl)
theorem dL_law_1173 : decode cL_law 1173 = .ok (.aload_n 3, 1) := dk_45 (dk_at dksL_law_48 1 rfl rfl)
theorem dL_law_1174 : decode cL_law 1174 = .ok (.invokestatic 141, 3) := dk_184 0 141 (dk_at dksL_law_48 2 rfl rfl)
theorem dL_law_1177 : decode cL_law 1177 = .ok (.istore 5, 2) := dk_54 5 (dk_at dksL_law_48 5 rfl rfl)
theorem dL_law_1179 : decode cL_law 1179 = .ok (.aload_n 2, 1) := dk_44 (dk_at dksL_law_48 7 rfl rfl)
theorem dL_law_1180 : decode cL_law 1180 = .ok (.aload_n 0, 1) := dk_42 (dk_at dksL_law_48 8 rfl rfl)
theorem dL_law_1181 : decode cL_law 1181 = .ok (.iload 4, 2) := dk_21 4 (dk_at dksL_law_48 9 rfl rfl)
theorem dL_law_1183 : decode cL_law 1183 = .ok (.iconst 1, 1) := dk_4 (dk_at dksL_law_48 11 rfl rfl)
theorem dL_law_1184 : decode cL_law 1184 = .ok (.iadd, 1) := dk_96 (dk_at dksL_law_48 12 rfl rfl)
theorem dL_law_1185 : decode cL_law 1185 = .ok (.iaload, 1) := dk_46 (dk_at dksL_law_48 13 rfl rfl)
theorem dL_law_1186 : decode cL_law 1186 = .ok (.invokevirtual 143, 3) := dk_182 0 143 (dk_at dksL_law_48 14 rfl rfl)
theorem dL_law_1189 : decode cL_law 1189 = .ok (.istore 6, 2) := dk_54 6 (dk_at dksL_law_48 17 rfl rfl)
theorem dL_law_1191 : decode cL_law 1191 = .ok (.aload_n 2, 1) := dk_44 (dk_at dksL_law_48 19 rfl rfl)
theorem dL_law_1192 : decode cL_law 1192 = .ok (.invokevirtual 81, 3) := dk_182 0 81 (dk_at dksL_law_48 20 rfl rfl)
theorem dL_law_1195 : decode cL_law 1195 = .ok (.iload 5, 2) := dk_21 5 (dk_at dksL_law_49 0 rfl rfl)
theorem dL_law_1197 : decode cL_law 1197 = .ok (.if_icmp .eq 5, 3) := dk_159 0 5 (dk_at dksL_law_49 2 rfl rfl)
theorem dL_law_1200 : decode cL_law 1200 = .ok (.iconst 0, 1) := dk_3 (dk_at dksL_law_49 5 rfl rfl)
theorem dL_law_1201 : decode cL_law 1201 = .ok (.ireturn, 1) := dk_172 (dk_at dksL_law_49 6 rfl rfl)
theorem dL_law_1202 : decode cL_law 1202 = .ok (.iload 5, 2) := dk_21 5 (dk_at dksL_law_49 7 rfl rfl)
theorem dL_law_1204 : decode cL_law 1204 = .ok (.ifCond .ne 15, 3) := dk_154 0 15 (dk_at dksL_law_49 9 rfl rfl)
theorem dL_law_1207 : decode cL_law 1207 = .ok (.aload_n 3, 1) := dk_45 (dk_at dksL_law_49 12 rfl rfl)
theorem dL_law_1208 : decode cL_law 1208 = .ok (.iconst 0, 1) := dk_3 (dk_at dksL_law_49 13 rfl rfl)
theorem dL_law_1209 : decode cL_law 1209 = .ok (.laload, 1) := dk_47 (dk_at dksL_law_49 14 rfl rfl)
theorem dL_law_1210 : decode cL_law 1210 = .ok (.iload 6, 2) := dk_21 6 (dk_at dksL_law_49 15 rfl rfl)
theorem dL_law_1212 : decode cL_law 1212 = .ok (.i2l, 1) := dk_133 (dk_at dksL_law_49 17 rfl rfl)
theorem dL_law_1213 : decode cL_law 1213 = .ok (.lcmp, 1) := dk_148 (dk_at dksL_law_49 18 rfl rfl)
theorem dL_law_1214 : decode cL_law 1214 = .ok (.ifCond .eq 5, 3) := dk_153 0 5 (dk_at dksL_law_49 19 rfl rfl)
theorem dL_law_1217 : decode cL_law 1217 = .ok (.iconst 0, 1) := dk_3 (dk_at dksL_law_49 22 rfl rfl)
theorem dL_law_1218 : decode cL_law 1218 = .ok (.ireturn, 1) := dk_172 (dk_at dksL_law_49 23 rfl rfl)
theorem dL_law_1219 : decode cL_law 1219 = .ok (.goto 3, 3) := dk_167 0 3 (dk_at dksL_law_50 0 rfl rfl)
theorem dL_law_1222 : decode cL_law 1222 = .ok (.iinc 4 4, 3) := dk_132 4 4 (dk_at dksL_law_50 3 rfl rfl)
theorem dL_law_1225 : decode cL_law 1225 = .ok (.goto (-1202), 3) := dk_167 251 78 (dk_at dksL_law_50 6 rfl rfl)
theorem dL_law_1228 : decode cL_law 1228 = .ok (.iconst 1, 1) := dk_4 (dk_at dksL_law_50 9 rfl rfl)
theorem dL_law_1229 : decode cL_law 1229 = .ok (.ireturn, 1) := dk_172 (dk_at dksL_law_50 10 rfl rfl)
