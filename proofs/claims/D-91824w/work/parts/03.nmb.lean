/-! LoanNames -/
set_option maxRecDepth 100000
def RX0 : String := "LoanNames"
def TX0 : u_T := fun k => match k with
  | 0 => ("LoanNames", "families", "[I", true)
  | 1 => ("LoanNames", "deals", "[LLoanNames$Deal;", true)
  | 2 => ("LoanNames", "words", "[LLoanNames$Law;", true)
  | 3 => ("LoanNames", "honests", "[LLoanNames$Bundle;", true)
  | 4 => ("LoanNames", "offered", "[LLoanNames$Deal;", true)
  | 5 => ("LoanNames", "tape", "[B", true)
  | 6 => ("LoanNames", "law", "LLoanNames$Law;", false)
  | 7 => ("LoanNames", "bundle", "LLoanNames$Bundle;", true)
  | 8 => ("LoanNames", "other", "LLoanNames$Bundle;", true)
  | 9 => ("LoanNames", "taped", "I", false)
  | 10 => ("LoanNames", "dealMany", "I", false)
  | 11 => ("LoanNames", "laws", "I", false)
  | 12 => ("LoanNames", "wordMany", "I", false)
  | 13 => ("LoanNames", "honestMany", "I", false)
  | 14 => ("LoanNames", "offeredMany", "I", false)
  | 15 => ("LoanNames", "fault", "I", false)
  | _ => ("LoanNames", "groupOf", "[I", true)
def tyX0 : Nat → FieldType := fun k => match k with
  | 0 => .array .int
  | 1 => .array (.object "LoanNames$Deal")
  | 2 => .array (.object "LoanNames$Law")
  | 3 => .array (.object "LoanNames$Bundle")
  | 4 => .array (.object "LoanNames$Deal")
  | 5 => .array .byte
  | 6 => .object "LoanNames$Law"
  | 7 => .object "LoanNames$Bundle"
  | 8 => .object "LoanNames$Bundle"
  | 9 => .int
  | 10 => .int
  | 11 => .int
  | 12 => .int
  | 13 => .int
  | 14 => .int
  | 15 => .int
  | _ => .array .int
abbrev wsX00 : List Cond := u_ws RX0 TX0 17
set_option maxRecDepth 100000 in
theorem nmX0 : ∀ a, a < 17 → ∀ b, b < 17 → a ≠ b → (TX0 a).2.1 ≠ (TX0 b).2.1 := by decide +kernel
set_option maxRecDepth 100000 in
theorem tyX0_ok : ∀ k, k < 17 → parseFieldDescriptor (TX0 k).2.2.1 = some (tyX0 k) := by decide +kernel
abbrev cX0_init : ByteArray := prog_1_method_5_code
def yX0_init : MethodName := ⟨RX0, "<init>", "()V"⟩
def dkwX0_init_6 : List UInt8 := [177]
abbrev dktX0_init_6 : List UInt8 := dkwX0_init_6 ++ []
def dkwX0_init_5 : List UInt8 := [187, 0, 35, 89, 42, 183, 0, 53, 181, 0, 60, 42, 2, 181, 0, 63, 42, 16, 24, 188, 10, 181, 0, 67]
abbrev dktX0_init_5 : List UInt8 := dkwX0_init_5 ++ dktX0_init_6
def dkwX0_init_4 : List UInt8 := [187, 0, 29, 89, 183, 0, 48, 181, 0, 49, 42, 187, 0, 35, 89, 42, 183, 0, 53, 181, 0, 56, 42]
abbrev dktX0_init_4 : List UInt8 := dkwX0_init_4 ++ dktX0_init_5
def dkwX0_init_3 : List UInt8 := [181, 0, 37, 42, 16, 10, 189, 0, 23, 181, 0, 41, 42, 17, 2, 88, 188, 8, 181, 0, 44, 42]
abbrev dktX0_init_3 : List UInt8 := dkwX0_init_3 ++ dktX0_init_4
def dkwX0_init_2 : List UInt8 := [42, 16, 24, 189, 0, 23, 181, 0, 25, 42, 16, 12, 189, 0, 29, 181, 0, 31, 42, 16, 6, 189, 0, 35]
abbrev dktX0_init_2 : List UInt8 := dkwX0_init_2 ++ dktX0_init_3
def dkwX0_init_1 : List UInt8 := [79, 89, 7, 7, 79, 89, 8, 8, 79, 89, 16, 6, 16, 6, 79, 89, 16, 7, 16, 7, 79, 181, 0, 19]
abbrev dktX0_init_1 : List UInt8 := dkwX0_init_1 ++ dktX0_init_2
def dkwX0_init_0 : List UInt8 := [42, 183, 0, 13, 42, 16, 8, 188, 10, 89, 3, 3, 79, 89, 4, 4, 79, 89, 5, 5, 79, 89, 6, 6]
abbrev dktX0_init_0 : List UInt8 := dkwX0_init_0 ++ dktX0_init_1
theorem dksX0_init_0 : cX0_init.data.toList.drop 0 = dktX0_init_0 := by decide +kernel
theorem dksX0_init_1 : cX0_init.data.toList.drop 24 = dktX0_init_1 := dk_seg dksX0_init_0 24 rfl rfl
theorem dksX0_init_2 : cX0_init.data.toList.drop 48 = dktX0_init_2 := dk_seg dksX0_init_1 24 rfl rfl
theorem dksX0_init_3 : cX0_init.data.toList.drop 72 = dktX0_init_3 := dk_seg dksX0_init_2 24 rfl rfl
theorem dksX0_init_4 : cX0_init.data.toList.drop 94 = dktX0_init_4 := dk_seg dksX0_init_3 22 rfl rfl
theorem dksX0_init_5 : cX0_init.data.toList.drop 117 = dktX0_init_5 := dk_seg dksX0_init_4 23 rfl rfl
theorem dksX0_init_6 : cX0_init.data.toList.drop 141 = dktX0_init_6 := dk_seg dksX0_init_5 24 rfl rfl
theorem dX0_init_0 : decode cX0_init 0 = .ok (.aload_n 0, 1) := dk_42 (dk_at dksX0_init_0 0 rfl rfl)
theorem dX0_init_1 : decode cX0_init 1 = .ok (.invokespecial 13, 3) := dk_183 0 13 (dk_at dksX0_init_0 1 rfl rfl)
theorem dX0_init_4 : decode cX0_init 4 = .ok (.aload_n 0, 1) := dk_42 (dk_at dksX0_init_0 4 rfl rfl)
theorem dX0_init_5 : decode cX0_init 5 = .ok (.bipush 8, 2) := dk_16 8 (dk_at dksX0_init_0 5 rfl rfl)
theorem dX0_init_7 : decode cX0_init 7 = .ok (.newarray .int, 2) := dk_188_10 (dk_at dksX0_init_0 7 rfl rfl)
theorem dX0_init_9 : decode cX0_init 9 = .ok (.dup, 1) := dk_89 (dk_at dksX0_init_0 9 rfl rfl)
theorem dX0_init_10 : decode cX0_init 10 = .ok (.iconst 0, 1) := dk_3 (dk_at dksX0_init_0 10 rfl rfl)
theorem dX0_init_11 : decode cX0_init 11 = .ok (.iconst 0, 1) := dk_3 (dk_at dksX0_init_0 11 rfl rfl)
theorem dX0_init_12 : decode cX0_init 12 = .ok (.iastore, 1) := dk_79 (dk_at dksX0_init_0 12 rfl rfl)
theorem dX0_init_13 : decode cX0_init 13 = .ok (.dup, 1) := dk_89 (dk_at dksX0_init_0 13 rfl rfl)
theorem dX0_init_14 : decode cX0_init 14 = .ok (.iconst 1, 1) := dk_4 (dk_at dksX0_init_0 14 rfl rfl)
theorem dX0_init_15 : decode cX0_init 15 = .ok (.iconst 1, 1) := dk_4 (dk_at dksX0_init_0 15 rfl rfl)
theorem dX0_init_16 : decode cX0_init 16 = .ok (.iastore, 1) := dk_79 (dk_at dksX0_init_0 16 rfl rfl)
theorem dX0_init_17 : decode cX0_init 17 = .ok (.dup, 1) := dk_89 (dk_at dksX0_init_0 17 rfl rfl)
theorem dX0_init_18 : decode cX0_init 18 = .ok (.iconst 2, 1) := dk_5 (dk_at dksX0_init_0 18 rfl rfl)
theorem dX0_init_19 : decode cX0_init 19 = .ok (.iconst 2, 1) := dk_5 (dk_at dksX0_init_0 19 rfl rfl)
theorem dX0_init_20 : decode cX0_init 20 = .ok (.iastore, 1) := dk_79 (dk_at dksX0_init_0 20 rfl rfl)
theorem dX0_init_21 : decode cX0_init 21 = .ok (.dup, 1) := dk_89 (dk_at dksX0_init_0 21 rfl rfl)
theorem dX0_init_22 : decode cX0_init 22 = .ok (.iconst 3, 1) := dk_6 (dk_at dksX0_init_0 22 rfl rfl)
theorem dX0_init_23 : decode cX0_init 23 = .ok (.iconst 3, 1) := dk_6 (dk_at dksX0_init_0 23 rfl rfl)
theorem dX0_init_24 : decode cX0_init 24 = .ok (.iastore, 1) := dk_79 (dk_at dksX0_init_1 0 rfl rfl)
theorem dX0_init_25 : decode cX0_init 25 = .ok (.dup, 1) := dk_89 (dk_at dksX0_init_1 1 rfl rfl)
theorem dX0_init_26 : decode cX0_init 26 = .ok (.iconst 4, 1) := dk_7 (dk_at dksX0_init_1 2 rfl rfl)
theorem dX0_init_27 : decode cX0_init 27 = .ok (.iconst 4, 1) := dk_7 (dk_at dksX0_init_1 3 rfl rfl)
theorem dX0_init_28 : decode cX0_init 28 = .ok (.iastore, 1) := dk_79 (dk_at dksX0_init_1 4 rfl rfl)
theorem dX0_init_29 : decode cX0_init 29 = .ok (.dup, 1) := dk_89 (dk_at dksX0_init_1 5 rfl rfl)
theorem dX0_init_30 : decode cX0_init 30 = .ok (.iconst 5, 1) := dk_8 (dk_at dksX0_init_1 6 rfl rfl)
theorem dX0_init_31 : decode cX0_init 31 = .ok (.iconst 5, 1) := dk_8 (dk_at dksX0_init_1 7 rfl rfl)
theorem dX0_init_32 : decode cX0_init 32 = .ok (.iastore, 1) := dk_79 (dk_at dksX0_init_1 8 rfl rfl)
theorem dX0_init_33 : decode cX0_init 33 = .ok (.dup, 1) := dk_89 (dk_at dksX0_init_1 9 rfl rfl)
theorem dX0_init_34 : decode cX0_init 34 = .ok (.bipush 6, 2) := dk_16 6 (dk_at dksX0_init_1 10 rfl rfl)
theorem dX0_init_36 : decode cX0_init 36 = .ok (.bipush 6, 2) := dk_16 6 (dk_at dksX0_init_1 12 rfl rfl)
theorem dX0_init_38 : decode cX0_init 38 = .ok (.iastore, 1) := dk_79 (dk_at dksX0_init_1 14 rfl rfl)
theorem dX0_init_39 : decode cX0_init 39 = .ok (.dup, 1) := dk_89 (dk_at dksX0_init_1 15 rfl rfl)
theorem dX0_init_40 : decode cX0_init 40 = .ok (.bipush 7, 2) := dk_16 7 (dk_at dksX0_init_1 16 rfl rfl)
theorem dX0_init_42 : decode cX0_init 42 = .ok (.bipush 7, 2) := dk_16 7 (dk_at dksX0_init_1 18 rfl rfl)
theorem dX0_init_44 : decode cX0_init 44 = .ok (.iastore, 1) := dk_79 (dk_at dksX0_init_1 20 rfl rfl)
theorem dX0_init_45 : decode cX0_init 45 = .ok (.putfield 19, 3) := dk_181 0 19 (dk_at dksX0_init_1 21 rfl rfl)
theorem dX0_init_48 : decode cX0_init 48 = .ok (.aload_n 0, 1) := dk_42 (dk_at dksX0_init_2 0 rfl rfl)
theorem dX0_init_49 : decode cX0_init 49 = .ok (.bipush 24, 2) := dk_16 24 (dk_at dksX0_init_2 1 rfl rfl)
theorem dX0_init_51 : decode cX0_init 51 = .ok (.anewarray 23, 3) := dk_189 0 23 (dk_at dksX0_init_2 3 rfl rfl)
theorem dX0_init_54 : decode cX0_init 54 = .ok (.putfield 25, 3) := dk_181 0 25 (dk_at dksX0_init_2 6 rfl rfl)
theorem dX0_init_57 : decode cX0_init 57 = .ok (.aload_n 0, 1) := dk_42 (dk_at dksX0_init_2 9 rfl rfl)
theorem dX0_init_58 : decode cX0_init 58 = .ok (.bipush 12, 2) := dk_16 12 (dk_at dksX0_init_2 10 rfl rfl)
theorem dX0_init_60 : decode cX0_init 60 = .ok (.anewarray 29, 3) := dk_189 0 29 (dk_at dksX0_init_2 12 rfl rfl)
theorem dX0_init_63 : decode cX0_init 63 = .ok (.putfield 31, 3) := dk_181 0 31 (dk_at dksX0_init_2 15 rfl rfl)
theorem dX0_init_66 : decode cX0_init 66 = .ok (.aload_n 0, 1) := dk_42 (dk_at dksX0_init_2 18 rfl rfl)
theorem dX0_init_67 : decode cX0_init 67 = .ok (.bipush 6, 2) := dk_16 6 (dk_at dksX0_init_2 19 rfl rfl)
theorem dX0_init_69 : decode cX0_init 69 = .ok (.anewarray 35, 3) := dk_189 0 35 (dk_at dksX0_init_2 21 rfl rfl)
theorem dX0_init_72 : decode cX0_init 72 = .ok (.putfield 37, 3) := dk_181 0 37 (dk_at dksX0_init_3 0 rfl rfl)
theorem dX0_init_75 : decode cX0_init 75 = .ok (.aload_n 0, 1) := dk_42 (dk_at dksX0_init_3 3 rfl rfl)
theorem dX0_init_76 : decode cX0_init 76 = .ok (.bipush 10, 2) := dk_16 10 (dk_at dksX0_init_3 4 rfl rfl)
theorem dX0_init_78 : decode cX0_init 78 = .ok (.anewarray 23, 3) := dk_189 0 23 (dk_at dksX0_init_3 6 rfl rfl)
theorem dX0_init_81 : decode cX0_init 81 = .ok (.putfield 41, 3) := dk_181 0 41 (dk_at dksX0_init_3 9 rfl rfl)
theorem dX0_init_84 : decode cX0_init 84 = .ok (.aload_n 0, 1) := dk_42 (dk_at dksX0_init_3 12 rfl rfl)
theorem dX0_init_85 : decode cX0_init 85 = .ok (.sipush 600, 3) := dk_17 2 88 (dk_at dksX0_init_3 13 rfl rfl)
theorem dX0_init_88 : decode cX0_init 88 = .ok (.newarray .byte, 2) := dk_188_8 (dk_at dksX0_init_3 16 rfl rfl)
theorem dX0_init_90 : decode cX0_init 90 = .ok (.putfield 44, 3) := dk_181 0 44 (dk_at dksX0_init_3 18 rfl rfl)
theorem dX0_init_93 : decode cX0_init 93 = .ok (.aload_n 0, 1) := dk_42 (dk_at dksX0_init_3 21 rfl rfl)
theorem dX0_init_94 : decode cX0_init 94 = .ok (.new 29, 3) := dk_187 0 29 (dk_at dksX0_init_4 0 rfl rfl)
theorem dX0_init_97 : decode cX0_init 97 = .ok (.dup, 1) := dk_89 (dk_at dksX0_init_4 3 rfl rfl)
theorem dX0_init_98 : decode cX0_init 98 = .ok (.invokespecial 48, 3) := dk_183 0 48 (dk_at dksX0_init_4 4 rfl rfl)
theorem dX0_init_101 : decode cX0_init 101 = .ok (.putfield 49, 3) := dk_181 0 49 (dk_at dksX0_init_4 7 rfl rfl)
theorem dX0_init_104 : decode cX0_init 104 = .ok (.aload_n 0, 1) := dk_42 (dk_at dksX0_init_4 10 rfl rfl)
theorem dX0_init_105 : decode cX0_init 105 = .ok (.new 35, 3) := dk_187 0 35 (dk_at dksX0_init_4 11 rfl rfl)
theorem dX0_init_108 : decode cX0_init 108 = .ok (.dup, 1) := dk_89 (dk_at dksX0_init_4 14 rfl rfl)
theorem dX0_init_109 : decode cX0_init 109 = .ok (.aload_n 0, 1) := dk_42 (dk_at dksX0_init_4 15 rfl rfl)
theorem dX0_init_110 : decode cX0_init 110 = .ok (.invokespecial 53, 3) := dk_183 0 53 (dk_at dksX0_init_4 16 rfl rfl)
theorem dX0_init_113 : decode cX0_init 113 = .ok (.putfield 56, 3) := dk_181 0 56 (dk_at dksX0_init_4 19 rfl rfl)
theorem dX0_init_116 : decode cX0_init 116 = .ok (.aload_n 0, 1) := dk_42 (dk_at dksX0_init_4 22 rfl rfl)
theorem dX0_init_117 : decode cX0_init 117 = .ok (.new 35, 3) := dk_187 0 35 (dk_at dksX0_init_5 0 rfl rfl)
theorem dX0_init_120 : decode cX0_init 120 = .ok (.dup, 1) := dk_89 (dk_at dksX0_init_5 3 rfl rfl)
theorem dX0_init_121 : decode cX0_init 121 = .ok (.aload_n 0, 1) := dk_42 (dk_at dksX0_init_5 4 rfl rfl)
theorem dX0_init_122 : decode cX0_init 122 = .ok (.invokespecial 53, 3) := dk_183 0 53 (dk_at dksX0_init_5 5 rfl rfl)
theorem dX0_init_125 : decode cX0_init 125 = .ok (.putfield 60, 3) := dk_181 0 60 (dk_at dksX0_init_5 8 rfl rfl)
theorem dX0_init_128 : decode cX0_init 128 = .ok (.aload_n 0, 1) := dk_42 (dk_at dksX0_init_5 11 rfl rfl)
theorem dX0_init_129 : decode cX0_init 129 = .ok (.iconst (-1), 1) := dk_2 (dk_at dksX0_init_5 12 rfl rfl)
theorem dX0_init_130 : decode cX0_init 130 = .ok (.putfield 63, 3) := dk_181 0 63 (dk_at dksX0_init_5 13 rfl rfl)
theorem dX0_init_133 : decode cX0_init 133 = .ok (.aload_n 0, 1) := dk_42 (dk_at dksX0_init_5 16 rfl rfl)
theorem dX0_init_134 : decode cX0_init 134 = .ok (.bipush 24, 2) := dk_16 24 (dk_at dksX0_init_5 17 rfl rfl)
theorem dX0_init_136 : decode cX0_init 136 = .ok (.newarray .int, 2) := dk_188_10 (dk_at dksX0_init_5 19 rfl rfl)
theorem dX0_init_138 : decode cX0_init 138 = .ok (.putfield 67, 3) := dk_181 0 67 (dk_at dksX0_init_5 21 rfl rfl)
theorem dX0_init_141 : decode cX0_init 141 = .ok (.return_, 1) := dk_177 (dk_at dksX0_init_6 0 rfl rfl)
abbrev cX0_family : ByteArray := prog_1_method_6_code
def yX0_family : MethodName := ⟨RX0, "family", "(II)Z"⟩
def dkwX0_family_1 : List UInt8 := [180, 0, 19, 27, 28, 79, 4, 172]
abbrev dktX0_family_1 : List UInt8 := dkwX0_family_1 ++ []
def dkwX0_family_0 : List UInt8 := [27, 3, 16, 7, 184, 0, 70, 153, 0, 13, 28, 3, 16, 7, 184, 0, 70, 154, 0, 5, 3, 172, 42]
abbrev dktX0_family_0 : List UInt8 := dkwX0_family_0 ++ dktX0_family_1
theorem dksX0_family_0 : cX0_family.data.toList.drop 0 = dktX0_family_0 := by decide +kernel
theorem dksX0_family_1 : cX0_family.data.toList.drop 23 = dktX0_family_1 := dk_seg dksX0_family_0 23 rfl rfl
theorem dX0_family_0 : decode cX0_family 0 = .ok (.iload_n 1, 1) := dk_27 (dk_at dksX0_family_0 0 rfl rfl)
theorem dX0_family_1 : decode cX0_family 1 = .ok (.iconst 0, 1) := dk_3 (dk_at dksX0_family_0 1 rfl rfl)
theorem dX0_family_2 : decode cX0_family 2 = .ok (.bipush 7, 2) := dk_16 7 (dk_at dksX0_family_0 2 rfl rfl)
theorem dX0_family_4 : decode cX0_family 4 = .ok (.invokestatic 70, 3) := dk_184 0 70 (dk_at dksX0_family_0 4 rfl rfl)
theorem dX0_family_7 : decode cX0_family 7 = .ok (.ifCond .eq 13, 3) := dk_153 0 13 (dk_at dksX0_family_0 7 rfl rfl)
theorem dX0_family_10 : decode cX0_family 10 = .ok (.iload_n 2, 1) := dk_28 (dk_at dksX0_family_0 10 rfl rfl)
theorem dX0_family_11 : decode cX0_family 11 = .ok (.iconst 0, 1) := dk_3 (dk_at dksX0_family_0 11 rfl rfl)
theorem dX0_family_12 : decode cX0_family 12 = .ok (.bipush 7, 2) := dk_16 7 (dk_at dksX0_family_0 12 rfl rfl)
theorem dX0_family_14 : decode cX0_family 14 = .ok (.invokestatic 70, 3) := dk_184 0 70 (dk_at dksX0_family_0 14 rfl rfl)
theorem dX0_family_17 : decode cX0_family 17 = .ok (.ifCond .ne 5, 3) := dk_154 0 5 (dk_at dksX0_family_0 17 rfl rfl)
theorem dX0_family_20 : decode cX0_family 20 = .ok (.iconst 0, 1) := dk_3 (dk_at dksX0_family_0 20 rfl rfl)
theorem dX0_family_21 : decode cX0_family 21 = .ok (.ireturn, 1) := dk_172 (dk_at dksX0_family_0 21 rfl rfl)
theorem dX0_family_22 : decode cX0_family 22 = .ok (.aload_n 0, 1) := dk_42 (dk_at dksX0_family_0 22 rfl rfl)
theorem dX0_family_23 : decode cX0_family 23 = .ok (.getfield 19, 3) := dk_180 0 19 (dk_at dksX0_family_1 0 rfl rfl)
theorem dX0_family_26 : decode cX0_family 26 = .ok (.iload_n 1, 1) := dk_27 (dk_at dksX0_family_1 3 rfl rfl)
theorem dX0_family_27 : decode cX0_family 27 = .ok (.iload_n 2, 1) := dk_28 (dk_at dksX0_family_1 4 rfl rfl)
theorem dX0_family_28 : decode cX0_family 28 = .ok (.iastore, 1) := dk_79 (dk_at dksX0_family_1 5 rfl rfl)
theorem dX0_family_29 : decode cX0_family 29 = .ok (.iconst 1, 1) := dk_4 (dk_at dksX0_family_1 6 rfl rfl)
theorem dX0_family_30 : decode cX0_family 30 = .ok (.ireturn, 1) := dk_172 (dk_at dksX0_family_1 7 rfl rfl)
abbrev cX0_isIn : ByteArray := prog_1_method_1_code
def yX0_isIn : MethodName := ⟨RX0, "isIn", "(III)Z"⟩
def dkwX0_isIn_0 : List UInt8 := [26, 27, 161, 0, 12, 26, 28, 163, 0, 7, 4, 167, 0, 4, 3, 172]
abbrev dktX0_isIn_0 : List UInt8 := dkwX0_isIn_0 ++ []
theorem dksX0_isIn_0 : cX0_isIn.data.toList.drop 0 = dktX0_isIn_0 := by decide +kernel
theorem dX0_isIn_0 : decode cX0_isIn 0 = .ok (.iload_n 0, 1) := dk_26 (dk_at dksX0_isIn_0 0 rfl rfl)
theorem dX0_isIn_1 : decode cX0_isIn 1 = .ok (.iload_n 1, 1) := dk_27 (dk_at dksX0_isIn_0 1 rfl rfl)
theorem dX0_isIn_2 : decode cX0_isIn 2 = .ok (.if_icmp .lt 12, 3) := dk_161 0 12 (dk_at dksX0_isIn_0 2 rfl rfl)
theorem dX0_isIn_5 : decode cX0_isIn 5 = .ok (.iload_n 0, 1) := dk_26 (dk_at dksX0_isIn_0 5 rfl rfl)
theorem dX0_isIn_6 : decode cX0_isIn 6 = .ok (.iload_n 2, 1) := dk_28 (dk_at dksX0_isIn_0 6 rfl rfl)
theorem dX0_isIn_7 : decode cX0_isIn 7 = .ok (.if_icmp .gt 7, 3) := dk_163 0 7 (dk_at dksX0_isIn_0 7 rfl rfl)
theorem dX0_isIn_10 : decode cX0_isIn 10 = .ok (.iconst 1, 1) := dk_4 (dk_at dksX0_isIn_0 10 rfl rfl)
theorem dX0_isIn_11 : decode cX0_isIn 11 = .ok (.goto 4, 3) := dk_167 0 4 (dk_at dksX0_isIn_0 11 rfl rfl)
theorem dX0_isIn_14 : decode cX0_isIn 14 = .ok (.iconst 0, 1) := dk_3 (dk_at dksX0_isIn_0 14 rfl rfl)
theorem dX0_isIn_15 : decode cX0_isIn 15 = .ok (.ireturn, 1) := dk_172 (dk_at dksX0_isIn_0 15 rfl rfl)
abbrev cX0_feed : ByteArray := prog_1_method_7_code
def yX0_feed : MethodName := ⟨RX0, "feed", "(IIIII)I"⟩
def dkwX0_feed_4 : List UInt8 := [16, 20, 96, 181, 0, 74, 42, 180, 0, 74, 172]
abbrev dktX0_feed_4 : List UInt8 := dkwX0_feed_4 ++ []
def dkwX0_feed_3 : List UInt8 := [16, 24, 16, 8, 21, 7, 7, 112, 104, 100, 122, 145, 84, 132, 7, 1, 167, 255, 215, 42, 89, 180, 0, 74]
abbrev dktX0_feed_3 : List UInt8 := dkwX0_feed_3 ++ dktX0_feed_4
def dkwX0_feed_2 : List UInt8 := [16, 20, 162, 0, 40, 42, 180, 0, 44, 42, 180, 0, 74, 21, 7, 96, 25, 6, 21, 7, 7, 108, 46]
abbrev dktX0_feed_2 : List UInt8 := dkwX0_feed_2 ++ dktX0_feed_3
def dkwX0_feed_1 : List UInt8 := [28, 79, 89, 5, 29, 79, 89, 6, 21, 4, 79, 89, 7, 21, 5, 79, 58, 6, 3, 54, 7, 21, 7]
abbrev dktX0_feed_1 : List UInt8 := dkwX0_feed_1 ++ dktX0_feed_2
def dkwX0_feed_0 : List UInt8 := [42, 180, 0, 74, 16, 20, 96, 17, 2, 88, 164, 0, 5, 2, 172, 8, 188, 10, 89, 3, 27, 79, 89, 4]
abbrev dktX0_feed_0 : List UInt8 := dkwX0_feed_0 ++ dktX0_feed_1
theorem dksX0_feed_0 : cX0_feed.data.toList.drop 0 = dktX0_feed_0 := by decide +kernel
theorem dksX0_feed_1 : cX0_feed.data.toList.drop 24 = dktX0_feed_1 := dk_seg dksX0_feed_0 24 rfl rfl
theorem dksX0_feed_2 : cX0_feed.data.toList.drop 47 = dktX0_feed_2 := dk_seg dksX0_feed_1 23 rfl rfl
theorem dksX0_feed_3 : cX0_feed.data.toList.drop 70 = dktX0_feed_3 := dk_seg dksX0_feed_2 23 rfl rfl
theorem dksX0_feed_4 : cX0_feed.data.toList.drop 94 = dktX0_feed_4 := dk_seg dksX0_feed_3 24 rfl rfl
theorem dX0_feed_0 : decode cX0_feed 0 = .ok (.aload_n 0, 1) := dk_42 (dk_at dksX0_feed_0 0 rfl rfl)
theorem dX0_feed_1 : decode cX0_feed 1 = .ok (.getfield 74, 3) := dk_180 0 74 (dk_at dksX0_feed_0 1 rfl rfl)
theorem dX0_feed_4 : decode cX0_feed 4 = .ok (.bipush 20, 2) := dk_16 20 (dk_at dksX0_feed_0 4 rfl rfl)
theorem dX0_feed_6 : decode cX0_feed 6 = .ok (.iadd, 1) := dk_96 (dk_at dksX0_feed_0 6 rfl rfl)
theorem dX0_feed_7 : decode cX0_feed 7 = .ok (.sipush 600, 3) := dk_17 2 88 (dk_at dksX0_feed_0 7 rfl rfl)
theorem dX0_feed_10 : decode cX0_feed 10 = .ok (.if_icmp .le 5, 3) := dk_164 0 5 (dk_at dksX0_feed_0 10 rfl rfl)
theorem dX0_feed_13 : decode cX0_feed 13 = .ok (.iconst (-1), 1) := dk_2 (dk_at dksX0_feed_0 13 rfl rfl)
theorem dX0_feed_14 : decode cX0_feed 14 = .ok (.ireturn, 1) := dk_172 (dk_at dksX0_feed_0 14 rfl rfl)
theorem dX0_feed_15 : decode cX0_feed 15 = .ok (.iconst 5, 1) := dk_8 (dk_at dksX0_feed_0 15 rfl rfl)
theorem dX0_feed_16 : decode cX0_feed 16 = .ok (.newarray .int, 2) := dk_188_10 (dk_at dksX0_feed_0 16 rfl rfl)
theorem dX0_feed_18 : decode cX0_feed 18 = .ok (.dup, 1) := dk_89 (dk_at dksX0_feed_0 18 rfl rfl)
theorem dX0_feed_19 : decode cX0_feed 19 = .ok (.iconst 0, 1) := dk_3 (dk_at dksX0_feed_0 19 rfl rfl)
theorem dX0_feed_20 : decode cX0_feed 20 = .ok (.iload_n 1, 1) := dk_27 (dk_at dksX0_feed_0 20 rfl rfl)
theorem dX0_feed_21 : decode cX0_feed 21 = .ok (.iastore, 1) := dk_79 (dk_at dksX0_feed_0 21 rfl rfl)
theorem dX0_feed_22 : decode cX0_feed 22 = .ok (.dup, 1) := dk_89 (dk_at dksX0_feed_0 22 rfl rfl)
theorem dX0_feed_23 : decode cX0_feed 23 = .ok (.iconst 1, 1) := dk_4 (dk_at dksX0_feed_0 23 rfl rfl)
theorem dX0_feed_24 : decode cX0_feed 24 = .ok (.iload_n 2, 1) := dk_28 (dk_at dksX0_feed_1 0 rfl rfl)
theorem dX0_feed_25 : decode cX0_feed 25 = .ok (.iastore, 1) := dk_79 (dk_at dksX0_feed_1 1 rfl rfl)
theorem dX0_feed_26 : decode cX0_feed 26 = .ok (.dup, 1) := dk_89 (dk_at dksX0_feed_1 2 rfl rfl)
theorem dX0_feed_27 : decode cX0_feed 27 = .ok (.iconst 2, 1) := dk_5 (dk_at dksX0_feed_1 3 rfl rfl)
theorem dX0_feed_28 : decode cX0_feed 28 = .ok (.iload_n 3, 1) := dk_29 (dk_at dksX0_feed_1 4 rfl rfl)
theorem dX0_feed_29 : decode cX0_feed 29 = .ok (.iastore, 1) := dk_79 (dk_at dksX0_feed_1 5 rfl rfl)
theorem dX0_feed_30 : decode cX0_feed 30 = .ok (.dup, 1) := dk_89 (dk_at dksX0_feed_1 6 rfl rfl)
theorem dX0_feed_31 : decode cX0_feed 31 = .ok (.iconst 3, 1) := dk_6 (dk_at dksX0_feed_1 7 rfl rfl)
theorem dX0_feed_32 : decode cX0_feed 32 = .ok (.iload 4, 2) := dk_21 4 (dk_at dksX0_feed_1 8 rfl rfl)
theorem dX0_feed_34 : decode cX0_feed 34 = .ok (.iastore, 1) := dk_79 (dk_at dksX0_feed_1 10 rfl rfl)
theorem dX0_feed_35 : decode cX0_feed 35 = .ok (.dup, 1) := dk_89 (dk_at dksX0_feed_1 11 rfl rfl)
theorem dX0_feed_36 : decode cX0_feed 36 = .ok (.iconst 4, 1) := dk_7 (dk_at dksX0_feed_1 12 rfl rfl)
theorem dX0_feed_37 : decode cX0_feed 37 = .ok (.iload 5, 2) := dk_21 5 (dk_at dksX0_feed_1 13 rfl rfl)
theorem dX0_feed_39 : decode cX0_feed 39 = .ok (.iastore, 1) := dk_79 (dk_at dksX0_feed_1 15 rfl rfl)
theorem dX0_feed_40 : decode cX0_feed 40 = .ok (.astore 6, 2) := dk_58 6 (dk_at dksX0_feed_1 16 rfl rfl)
theorem dX0_feed_42 : decode cX0_feed 42 = .ok (.iconst 0, 1) := dk_3 (dk_at dksX0_feed_1 18 rfl rfl)
theorem dX0_feed_43 : decode cX0_feed 43 = .ok (.istore 7, 2) := dk_54 7 (dk_at dksX0_feed_1 19 rfl rfl)
theorem dX0_feed_45 : decode cX0_feed 45 = .ok (.iload 7, 2) := dk_21 7 (dk_at dksX0_feed_1 21 rfl rfl)
theorem dX0_feed_47 : decode cX0_feed 47 = .ok (.bipush 20, 2) := dk_16 20 (dk_at dksX0_feed_2 0 rfl rfl)
theorem dX0_feed_49 : decode cX0_feed 49 = .ok (.if_icmp .ge 40, 3) := dk_162 0 40 (dk_at dksX0_feed_2 2 rfl rfl)
theorem dX0_feed_52 : decode cX0_feed 52 = .ok (.aload_n 0, 1) := dk_42 (dk_at dksX0_feed_2 5 rfl rfl)
theorem dX0_feed_53 : decode cX0_feed 53 = .ok (.getfield 44, 3) := dk_180 0 44 (dk_at dksX0_feed_2 6 rfl rfl)
theorem dX0_feed_56 : decode cX0_feed 56 = .ok (.aload_n 0, 1) := dk_42 (dk_at dksX0_feed_2 9 rfl rfl)
theorem dX0_feed_57 : decode cX0_feed 57 = .ok (.getfield 74, 3) := dk_180 0 74 (dk_at dksX0_feed_2 10 rfl rfl)
theorem dX0_feed_60 : decode cX0_feed 60 = .ok (.iload 7, 2) := dk_21 7 (dk_at dksX0_feed_2 13 rfl rfl)
theorem dX0_feed_62 : decode cX0_feed 62 = .ok (.iadd, 1) := dk_96 (dk_at dksX0_feed_2 15 rfl rfl)
theorem dX0_feed_63 : decode cX0_feed 63 = .ok (.aload 6, 2) := dk_25 6 (dk_at dksX0_feed_2 16 rfl rfl)
theorem dX0_feed_65 : decode cX0_feed 65 = .ok (.iload 7, 2) := dk_21 7 (dk_at dksX0_feed_2 18 rfl rfl)
theorem dX0_feed_67 : decode cX0_feed 67 = .ok (.iconst 4, 1) := dk_7 (dk_at dksX0_feed_2 20 rfl rfl)
theorem dX0_feed_68 : decode cX0_feed 68 = .ok (.idiv, 1) := dk_108 (dk_at dksX0_feed_2 21 rfl rfl)
theorem dX0_feed_69 : decode cX0_feed 69 = .ok (.iaload, 1) := dk_46 (dk_at dksX0_feed_2 22 rfl rfl)
theorem dX0_feed_70 : decode cX0_feed 70 = .ok (.bipush 24, 2) := dk_16 24 (dk_at dksX0_feed_3 0 rfl rfl)
theorem dX0_feed_72 : decode cX0_feed 72 = .ok (.bipush 8, 2) := dk_16 8 (dk_at dksX0_feed_3 2 rfl rfl)
theorem dX0_feed_74 : decode cX0_feed 74 = .ok (.iload 7, 2) := dk_21 7 (dk_at dksX0_feed_3 4 rfl rfl)
theorem dX0_feed_76 : decode cX0_feed 76 = .ok (.iconst 4, 1) := dk_7 (dk_at dksX0_feed_3 6 rfl rfl)
theorem dX0_feed_77 : decode cX0_feed 77 = .ok (.irem, 1) := dk_112 (dk_at dksX0_feed_3 7 rfl rfl)
theorem dX0_feed_78 : decode cX0_feed 78 = .ok (.imul, 1) := dk_104 (dk_at dksX0_feed_3 8 rfl rfl)
theorem dX0_feed_79 : decode cX0_feed 79 = .ok (.isub, 1) := dk_100 (dk_at dksX0_feed_3 9 rfl rfl)
theorem dX0_feed_80 : decode cX0_feed 80 = .ok (.ishr, 1) := dk_122 (dk_at dksX0_feed_3 10 rfl rfl)
theorem dX0_feed_81 : decode cX0_feed 81 = .ok (.i2b, 1) := dk_145 (dk_at dksX0_feed_3 11 rfl rfl)
theorem dX0_feed_82 : decode cX0_feed 82 = .ok (.bastore, 1) := dk_84 (dk_at dksX0_feed_3 12 rfl rfl)
theorem dX0_feed_83 : decode cX0_feed 83 = .ok (.iinc 7 1, 3) := dk_132 7 1 (dk_at dksX0_feed_3 13 rfl rfl)
theorem dX0_feed_86 : decode cX0_feed 86 = .ok (.goto (-41), 3) := dk_167 255 215 (dk_at dksX0_feed_3 16 rfl rfl)
theorem dX0_feed_89 : decode cX0_feed 89 = .ok (.aload_n 0, 1) := dk_42 (dk_at dksX0_feed_3 19 rfl rfl)
theorem dX0_feed_90 : decode cX0_feed 90 = .ok (.dup, 1) := dk_89 (dk_at dksX0_feed_3 20 rfl rfl)
theorem dX0_feed_91 : decode cX0_feed 91 = .ok (.getfield 74, 3) := dk_180 0 74 (dk_at dksX0_feed_3 21 rfl rfl)
theorem dX0_feed_94 : decode cX0_feed 94 = .ok (.bipush 20, 2) := dk_16 20 (dk_at dksX0_feed_4 0 rfl rfl)
theorem dX0_feed_96 : decode cX0_feed 96 = .ok (.iadd, 1) := dk_96 (dk_at dksX0_feed_4 2 rfl rfl)
theorem dX0_feed_97 : decode cX0_feed 97 = .ok (.putfield 74, 3) := dk_181 0 74 (dk_at dksX0_feed_4 3 rfl rfl)
theorem dX0_feed_100 : decode cX0_feed 100 = .ok (.aload_n 0, 1) := dk_42 (dk_at dksX0_feed_4 6 rfl rfl)
theorem dX0_feed_101 : decode cX0_feed 101 = .ok (.getfield 74, 3) := dk_180 0 74 (dk_at dksX0_feed_4 7 rfl rfl)
theorem dX0_feed_104 : decode cX0_feed 104 = .ok (.ireturn, 1) := dk_172 (dk_at dksX0_feed_4 10 rfl rfl)
abbrev cX0_deal : ByteArray := prog_1_method_8_code
def yX0_deal : MethodName := ⟨RX0, "deal", "(II)I"⟩
def dkwX0_deal_5 : List UInt8 := [183, 0, 98, 83, 42, 89, 180, 0, 77, 4, 96, 181, 0, 77, 42, 180, 0, 77, 4, 100, 172]
abbrev dktX0_deal_5 : List UInt8 := dkwX0_deal_5 ++ []
def dkwX0_deal_4 : List UInt8 := [180, 0, 77, 187, 0, 23, 89, 42, 180, 0, 77, 28, 25, 4, 45, 180, 0, 92, 45, 180, 0, 95]
abbrev dktX0_deal_4 : List UInt8 := dkwX0_deal_4 ++ dktX0_deal_5
def dkwX0_deal_3 : List UInt8 := [182, 0, 89, 167, 0, 4, 2, 181, 0, 63, 25, 4, 199, 0, 5, 2, 172, 42, 180, 0, 25, 42]
abbrev dktX0_deal_3 : List UInt8 := dkwX0_deal_3 ++ dktX0_deal_4
def dkwX0_deal_2 : List UInt8 := [183, 0, 82, 78, 45, 182, 0, 85, 58, 4, 42, 3, 181, 0, 74, 42, 25, 4, 199, 0, 10, 45]
abbrev dktX0_deal_2 : List UInt8 := dkwX0_deal_2 ++ dktX0_deal_3
def dkwX0_deal_1 : List UInt8 := [16, 254, 172, 42, 180, 0, 77, 16, 24, 160, 0, 6, 16, 253, 172, 187, 0, 80, 89, 42, 180, 0, 44, 27]
abbrev dktX0_deal_1 : List UInt8 := dkwX0_deal_1 ++ dktX0_deal_2
def dkwX0_deal_0 : List UInt8 := [27, 3, 42, 180, 0, 74, 184, 0, 70, 153, 0, 14, 28, 3, 17, 1, 143, 184, 0, 70, 154, 0, 6]
abbrev dktX0_deal_0 : List UInt8 := dkwX0_deal_0 ++ dktX0_deal_1
theorem dksX0_deal_0 : cX0_deal.data.toList.drop 0 = dktX0_deal_0 := by decide +kernel
theorem dksX0_deal_1 : cX0_deal.data.toList.drop 23 = dktX0_deal_1 := dk_seg dksX0_deal_0 23 rfl rfl
theorem dksX0_deal_2 : cX0_deal.data.toList.drop 47 = dktX0_deal_2 := dk_seg dksX0_deal_1 24 rfl rfl
theorem dksX0_deal_3 : cX0_deal.data.toList.drop 69 = dktX0_deal_3 := dk_seg dksX0_deal_2 22 rfl rfl
theorem dksX0_deal_4 : cX0_deal.data.toList.drop 91 = dktX0_deal_4 := dk_seg dksX0_deal_3 22 rfl rfl
theorem dksX0_deal_5 : cX0_deal.data.toList.drop 113 = dktX0_deal_5 := dk_seg dksX0_deal_4 22 rfl rfl
theorem dX0_deal_0 : decode cX0_deal 0 = .ok (.iload_n 1, 1) := dk_27 (dk_at dksX0_deal_0 0 rfl rfl)
theorem dX0_deal_1 : decode cX0_deal 1 = .ok (.iconst 0, 1) := dk_3 (dk_at dksX0_deal_0 1 rfl rfl)
theorem dX0_deal_2 : decode cX0_deal 2 = .ok (.aload_n 0, 1) := dk_42 (dk_at dksX0_deal_0 2 rfl rfl)
theorem dX0_deal_3 : decode cX0_deal 3 = .ok (.getfield 74, 3) := dk_180 0 74 (dk_at dksX0_deal_0 3 rfl rfl)
theorem dX0_deal_6 : decode cX0_deal 6 = .ok (.invokestatic 70, 3) := dk_184 0 70 (dk_at dksX0_deal_0 6 rfl rfl)
theorem dX0_deal_9 : decode cX0_deal 9 = .ok (.ifCond .eq 14, 3) := dk_153 0 14 (dk_at dksX0_deal_0 9 rfl rfl)
theorem dX0_deal_12 : decode cX0_deal 12 = .ok (.iload_n 2, 1) := dk_28 (dk_at dksX0_deal_0 12 rfl rfl)
theorem dX0_deal_13 : decode cX0_deal 13 = .ok (.iconst 0, 1) := dk_3 (dk_at dksX0_deal_0 13 rfl rfl)
theorem dX0_deal_14 : decode cX0_deal 14 = .ok (.sipush 399, 3) := dk_17 1 143 (dk_at dksX0_deal_0 14 rfl rfl)
theorem dX0_deal_17 : decode cX0_deal 17 = .ok (.invokestatic 70, 3) := dk_184 0 70 (dk_at dksX0_deal_0 17 rfl rfl)
theorem dX0_deal_20 : decode cX0_deal 20 = .ok (.ifCond .ne 6, 3) := dk_154 0 6 (dk_at dksX0_deal_0 20 rfl rfl)
theorem dX0_deal_23 : decode cX0_deal 23 = .ok (.bipush (-2), 2) := dk_16 254 (dk_at dksX0_deal_1 0 rfl rfl)
theorem dX0_deal_25 : decode cX0_deal 25 = .ok (.ireturn, 1) := dk_172 (dk_at dksX0_deal_1 2 rfl rfl)
theorem dX0_deal_26 : decode cX0_deal 26 = .ok (.aload_n 0, 1) := dk_42 (dk_at dksX0_deal_1 3 rfl rfl)
theorem dX0_deal_27 : decode cX0_deal 27 = .ok (.getfield 77, 3) := dk_180 0 77 (dk_at dksX0_deal_1 4 rfl rfl)
theorem dX0_deal_30 : decode cX0_deal 30 = .ok (.bipush 24, 2) := dk_16 24 (dk_at dksX0_deal_1 7 rfl rfl)
theorem dX0_deal_32 : decode cX0_deal 32 = .ok (.if_icmp .ne 6, 3) := dk_160 0 6 (dk_at dksX0_deal_1 9 rfl rfl)
theorem dX0_deal_35 : decode cX0_deal 35 = .ok (.bipush (-3), 2) := dk_16 253 (dk_at dksX0_deal_1 12 rfl rfl)
theorem dX0_deal_37 : decode cX0_deal 37 = .ok (.ireturn, 1) := dk_172 (dk_at dksX0_deal_1 14 rfl rfl)
theorem dX0_deal_38 : decode cX0_deal 38 = .ok (.new 80, 3) := dk_187 0 80 (dk_at dksX0_deal_1 15 rfl rfl)
theorem dX0_deal_41 : decode cX0_deal 41 = .ok (.dup, 1) := dk_89 (dk_at dksX0_deal_1 18 rfl rfl)
theorem dX0_deal_42 : decode cX0_deal 42 = .ok (.aload_n 0, 1) := dk_42 (dk_at dksX0_deal_1 19 rfl rfl)
theorem dX0_deal_43 : decode cX0_deal 43 = .ok (.getfield 44, 3) := dk_180 0 44 (dk_at dksX0_deal_1 20 rfl rfl)
theorem dX0_deal_46 : decode cX0_deal 46 = .ok (.iload_n 1, 1) := dk_27 (dk_at dksX0_deal_1 23 rfl rfl)
theorem dX0_deal_47 : decode cX0_deal 47 = .ok (.invokespecial 82, 3) := dk_183 0 82 (dk_at dksX0_deal_2 0 rfl rfl)
theorem dX0_deal_50 : decode cX0_deal 50 = .ok (.astore_n 3, 1) := dk_78 (dk_at dksX0_deal_2 3 rfl rfl)
theorem dX0_deal_51 : decode cX0_deal 51 = .ok (.aload_n 3, 1) := dk_45 (dk_at dksX0_deal_2 4 rfl rfl)
theorem dX0_deal_52 : decode cX0_deal 52 = .ok (.invokevirtual 85, 3) := dk_182 0 85 (dk_at dksX0_deal_2 5 rfl rfl)
theorem dX0_deal_55 : decode cX0_deal 55 = .ok (.astore 4, 2) := dk_58 4 (dk_at dksX0_deal_2 8 rfl rfl)
theorem dX0_deal_57 : decode cX0_deal 57 = .ok (.aload_n 0, 1) := dk_42 (dk_at dksX0_deal_2 10 rfl rfl)
theorem dX0_deal_58 : decode cX0_deal 58 = .ok (.iconst 0, 1) := dk_3 (dk_at dksX0_deal_2 11 rfl rfl)
theorem dX0_deal_59 : decode cX0_deal 59 = .ok (.putfield 74, 3) := dk_181 0 74 (dk_at dksX0_deal_2 12 rfl rfl)
theorem dX0_deal_62 : decode cX0_deal 62 = .ok (.aload_n 0, 1) := dk_42 (dk_at dksX0_deal_2 15 rfl rfl)
theorem dX0_deal_63 : decode cX0_deal 63 = .ok (.aload 4, 2) := dk_25 4 (dk_at dksX0_deal_2 16 rfl rfl)
theorem dX0_deal_65 : decode cX0_deal 65 = .ok (.ifnonnull 10, 3) := dk_199 0 10 (dk_at dksX0_deal_2 18 rfl rfl)
theorem dX0_deal_68 : decode cX0_deal 68 = .ok (.aload_n 3, 1) := dk_45 (dk_at dksX0_deal_2 21 rfl rfl)
theorem dX0_deal_69 : decode cX0_deal 69 = .ok (.invokevirtual 89, 3) := dk_182 0 89 (dk_at dksX0_deal_3 0 rfl rfl)
theorem dX0_deal_72 : decode cX0_deal 72 = .ok (.goto 4, 3) := dk_167 0 4 (dk_at dksX0_deal_3 3 rfl rfl)
theorem dX0_deal_75 : decode cX0_deal 75 = .ok (.iconst (-1), 1) := dk_2 (dk_at dksX0_deal_3 6 rfl rfl)
theorem dX0_deal_76 : decode cX0_deal 76 = .ok (.putfield 63, 3) := dk_181 0 63 (dk_at dksX0_deal_3 7 rfl rfl)
theorem dX0_deal_79 : decode cX0_deal 79 = .ok (.aload 4, 2) := dk_25 4 (dk_at dksX0_deal_3 10 rfl rfl)
theorem dX0_deal_81 : decode cX0_deal 81 = .ok (.ifnonnull 5, 3) := dk_199 0 5 (dk_at dksX0_deal_3 12 rfl rfl)
theorem dX0_deal_84 : decode cX0_deal 84 = .ok (.iconst (-1), 1) := dk_2 (dk_at dksX0_deal_3 15 rfl rfl)
theorem dX0_deal_85 : decode cX0_deal 85 = .ok (.ireturn, 1) := dk_172 (dk_at dksX0_deal_3 16 rfl rfl)
theorem dX0_deal_86 : decode cX0_deal 86 = .ok (.aload_n 0, 1) := dk_42 (dk_at dksX0_deal_3 17 rfl rfl)
theorem dX0_deal_87 : decode cX0_deal 87 = .ok (.getfield 25, 3) := dk_180 0 25 (dk_at dksX0_deal_3 18 rfl rfl)
theorem dX0_deal_90 : decode cX0_deal 90 = .ok (.aload_n 0, 1) := dk_42 (dk_at dksX0_deal_3 21 rfl rfl)
theorem dX0_deal_91 : decode cX0_deal 91 = .ok (.getfield 77, 3) := dk_180 0 77 (dk_at dksX0_deal_4 0 rfl rfl)
theorem dX0_deal_94 : decode cX0_deal 94 = .ok (.new 23, 3) := dk_187 0 23 (dk_at dksX0_deal_4 3 rfl rfl)
theorem dX0_deal_97 : decode cX0_deal 97 = .ok (.dup, 1) := dk_89 (dk_at dksX0_deal_4 6 rfl rfl)
theorem dX0_deal_98 : decode cX0_deal 98 = .ok (.aload_n 0, 1) := dk_42 (dk_at dksX0_deal_4 7 rfl rfl)
theorem dX0_deal_99 : decode cX0_deal 99 = .ok (.getfield 77, 3) := dk_180 0 77 (dk_at dksX0_deal_4 8 rfl rfl)
theorem dX0_deal_102 : decode cX0_deal 102 = .ok (.iload_n 2, 1) := dk_28 (dk_at dksX0_deal_4 11 rfl rfl)
theorem dX0_deal_103 : decode cX0_deal 103 = .ok (.aload 4, 2) := dk_25 4 (dk_at dksX0_deal_4 12 rfl rfl)
theorem dX0_deal_105 : decode cX0_deal 105 = .ok (.aload_n 3, 1) := dk_45 (dk_at dksX0_deal_4 14 rfl rfl)
theorem dX0_deal_106 : decode cX0_deal 106 = .ok (.getfield 92, 3) := dk_180 0 92 (dk_at dksX0_deal_4 15 rfl rfl)
theorem dX0_deal_109 : decode cX0_deal 109 = .ok (.aload_n 3, 1) := dk_45 (dk_at dksX0_deal_4 18 rfl rfl)
theorem dX0_deal_110 : decode cX0_deal 110 = .ok (.getfield 95, 3) := dk_180 0 95 (dk_at dksX0_deal_4 19 rfl rfl)
theorem dX0_deal_113 : decode cX0_deal 113 = .ok (.invokespecial 98, 3) := dk_183 0 98 (dk_at dksX0_deal_5 0 rfl rfl)
theorem dX0_deal_116 : decode cX0_deal 116 = .ok (.aastore, 1) := dk_83 (dk_at dksX0_deal_5 3 rfl rfl)
theorem dX0_deal_117 : decode cX0_deal 117 = .ok (.aload_n 0, 1) := dk_42 (dk_at dksX0_deal_5 4 rfl rfl)
theorem dX0_deal_118 : decode cX0_deal 118 = .ok (.dup, 1) := dk_89 (dk_at dksX0_deal_5 5 rfl rfl)
theorem dX0_deal_119 : decode cX0_deal 119 = .ok (.getfield 77, 3) := dk_180 0 77 (dk_at dksX0_deal_5 6 rfl rfl)
theorem dX0_deal_122 : decode cX0_deal 122 = .ok (.iconst 1, 1) := dk_4 (dk_at dksX0_deal_5 9 rfl rfl)
theorem dX0_deal_123 : decode cX0_deal 123 = .ok (.iadd, 1) := dk_96 (dk_at dksX0_deal_5 10 rfl rfl)
theorem dX0_deal_124 : decode cX0_deal 124 = .ok (.putfield 77, 3) := dk_181 0 77 (dk_at dksX0_deal_5 11 rfl rfl)
theorem dX0_deal_127 : decode cX0_deal 127 = .ok (.aload_n 0, 1) := dk_42 (dk_at dksX0_deal_5 14 rfl rfl)
theorem dX0_deal_128 : decode cX0_deal 128 = .ok (.getfield 77, 3) := dk_180 0 77 (dk_at dksX0_deal_5 15 rfl rfl)
theorem dX0_deal_131 : decode cX0_deal 131 = .ok (.iconst 1, 1) := dk_4 (dk_at dksX0_deal_5 18 rfl rfl)
theorem dX0_deal_132 : decode cX0_deal 132 = .ok (.isub, 1) := dk_100 (dk_at dksX0_deal_5 19 rfl rfl)
theorem dX0_deal_133 : decode cX0_deal 133 = .ok (.ireturn, 1) := dk_172 (dk_at dksX0_deal_5 20 rfl rfl)
abbrev cX0_find : ByteArray := prog_1_method_4_code
def yX0_find : MethodName := ⟨RX0, "find", "([JJ)I"⟩
def dkwX0_find_1 : List UInt8 := [2, 172]
abbrev dktX0_find_1 : List UInt8 := dkwX0_find_1 ++ []
def dkwX0_find_0 : List UInt8 := [3, 62, 29, 42, 190, 162, 0, 19, 42, 29, 47, 31, 148, 154, 0, 5, 29, 172, 132, 3, 1, 167, 255, 237]
abbrev dktX0_find_0 : List UInt8 := dkwX0_find_0 ++ dktX0_find_1
theorem dksX0_find_0 : cX0_find.data.toList.drop 0 = dktX0_find_0 := by decide +kernel
theorem dksX0_find_1 : cX0_find.data.toList.drop 24 = dktX0_find_1 := dk_seg dksX0_find_0 24 rfl rfl
theorem dX0_find_0 : decode cX0_find 0 = .ok (.iconst 0, 1) := dk_3 (dk_at dksX0_find_0 0 rfl rfl)
theorem dX0_find_1 : decode cX0_find 1 = .ok (.istore_n 3, 1) := dk_62 (dk_at dksX0_find_0 1 rfl rfl)
theorem dX0_find_2 : decode cX0_find 2 = .ok (.iload_n 3, 1) := dk_29 (dk_at dksX0_find_0 2 rfl rfl)
theorem dX0_find_3 : decode cX0_find 3 = .ok (.aload_n 0, 1) := dk_42 (dk_at dksX0_find_0 3 rfl rfl)
theorem dX0_find_4 : decode cX0_find 4 = .ok (.arraylength, 1) := dk_190 (dk_at dksX0_find_0 4 rfl rfl)
theorem dX0_find_5 : decode cX0_find 5 = .ok (.if_icmp .ge 19, 3) := dk_162 0 19 (dk_at dksX0_find_0 5 rfl rfl)
theorem dX0_find_8 : decode cX0_find 8 = .ok (.aload_n 0, 1) := dk_42 (dk_at dksX0_find_0 8 rfl rfl)
theorem dX0_find_9 : decode cX0_find 9 = .ok (.iload_n 3, 1) := dk_29 (dk_at dksX0_find_0 9 rfl rfl)
theorem dX0_find_10 : decode cX0_find 10 = .ok (.laload, 1) := dk_47 (dk_at dksX0_find_0 10 rfl rfl)
theorem dX0_find_11 : decode cX0_find 11 = .ok (.lload_n 1, 1) := dk_31 (dk_at dksX0_find_0 11 rfl rfl)
theorem dX0_find_12 : decode cX0_find 12 = .ok (.lcmp, 1) := dk_148 (dk_at dksX0_find_0 12 rfl rfl)
theorem dX0_find_13 : decode cX0_find 13 = .ok (.ifCond .ne 5, 3) := dk_154 0 5 (dk_at dksX0_find_0 13 rfl rfl)
theorem dX0_find_16 : decode cX0_find 16 = .ok (.iload_n 3, 1) := dk_29 (dk_at dksX0_find_0 16 rfl rfl)
theorem dX0_find_17 : decode cX0_find 17 = .ok (.ireturn, 1) := dk_172 (dk_at dksX0_find_0 17 rfl rfl)
theorem dX0_find_18 : decode cX0_find 18 = .ok (.iinc 3 1, 3) := dk_132 3 1 (dk_at dksX0_find_0 18 rfl rfl)
theorem dX0_find_21 : decode cX0_find 21 = .ok (.goto (-19), 3) := dk_167 255 237 (dk_at dksX0_find_0 21 rfl rfl)
theorem dX0_find_24 : decode cX0_find 24 = .ok (.iconst (-1), 1) := dk_2 (dk_at dksX0_find_1 0 rfl rfl)
theorem dX0_find_25 : decode cX0_find 25 = .ok (.ireturn, 1) := dk_172 (dk_at dksX0_find_1 1 rfl rfl)
abbrev cX0_law : ByteArray := prog_1_method_10_code
def yX0_law : MethodName := ⟨RX0, "law", "(I)I"⟩
def dkwX0_law_2 : List UInt8 := [89, 180, 0, 109, 4, 96, 181, 0, 109, 42, 180, 0, 109, 4, 100, 172]
abbrev dktX0_law_2 : List UInt8 := dkwX0_law_2 ++ []
def dkwX0_law_1 : List UInt8 := [16, 253, 172, 42, 27, 3, 16, 16, 182, 0, 112, 77, 44, 199, 0, 5, 2, 172, 42, 44, 181, 0, 49, 42]
abbrev dktX0_law_1 : List UInt8 := dkwX0_law_1 ++ dktX0_law_2
def dkwX0_law_0 : List UInt8 := [27, 3, 42, 180, 0, 74, 184, 0, 70, 154, 0, 6, 16, 254, 172, 42, 180, 0, 109, 16, 6, 160, 0, 6]
abbrev dktX0_law_0 : List UInt8 := dkwX0_law_0 ++ dktX0_law_1
theorem dksX0_law_0 : cX0_law.data.toList.drop 0 = dktX0_law_0 := by decide +kernel
theorem dksX0_law_1 : cX0_law.data.toList.drop 24 = dktX0_law_1 := dk_seg dksX0_law_0 24 rfl rfl
theorem dksX0_law_2 : cX0_law.data.toList.drop 48 = dktX0_law_2 := dk_seg dksX0_law_1 24 rfl rfl
theorem dX0_law_0 : decode cX0_law 0 = .ok (.iload_n 1, 1) := dk_27 (dk_at dksX0_law_0 0 rfl rfl)
theorem dX0_law_1 : decode cX0_law 1 = .ok (.iconst 0, 1) := dk_3 (dk_at dksX0_law_0 1 rfl rfl)
theorem dX0_law_2 : decode cX0_law 2 = .ok (.aload_n 0, 1) := dk_42 (dk_at dksX0_law_0 2 rfl rfl)
theorem dX0_law_3 : decode cX0_law 3 = .ok (.getfield 74, 3) := dk_180 0 74 (dk_at dksX0_law_0 3 rfl rfl)
theorem dX0_law_6 : decode cX0_law 6 = .ok (.invokestatic 70, 3) := dk_184 0 70 (dk_at dksX0_law_0 6 rfl rfl)
theorem dX0_law_9 : decode cX0_law 9 = .ok (.ifCond .ne 6, 3) := dk_154 0 6 (dk_at dksX0_law_0 9 rfl rfl)
theorem dX0_law_12 : decode cX0_law 12 = .ok (.bipush (-2), 2) := dk_16 254 (dk_at dksX0_law_0 12 rfl rfl)
theorem dX0_law_14 : decode cX0_law 14 = .ok (.ireturn, 1) := dk_172 (dk_at dksX0_law_0 14 rfl rfl)
theorem dX0_law_15 : decode cX0_law 15 = .ok (.aload_n 0, 1) := dk_42 (dk_at dksX0_law_0 15 rfl rfl)
theorem dX0_law_16 : decode cX0_law 16 = .ok (.getfield 109, 3) := dk_180 0 109 (dk_at dksX0_law_0 16 rfl rfl)
theorem dX0_law_19 : decode cX0_law 19 = .ok (.bipush 6, 2) := dk_16 6 (dk_at dksX0_law_0 19 rfl rfl)
theorem dX0_law_21 : decode cX0_law 21 = .ok (.if_icmp .ne 6, 3) := dk_160 0 6 (dk_at dksX0_law_0 21 rfl rfl)
theorem dX0_law_24 : decode cX0_law 24 = .ok (.bipush (-3), 2) := dk_16 253 (dk_at dksX0_law_1 0 rfl rfl)
theorem dX0_law_26 : decode cX0_law 26 = .ok (.ireturn, 1) := dk_172 (dk_at dksX0_law_1 2 rfl rfl)
theorem dX0_law_27 : decode cX0_law 27 = .ok (.aload_n 0, 1) := dk_42 (dk_at dksX0_law_1 3 rfl rfl)
theorem dX0_law_28 : decode cX0_law 28 = .ok (.iload_n 1, 1) := dk_27 (dk_at dksX0_law_1 4 rfl rfl)
theorem dX0_law_29 : decode cX0_law 29 = .ok (.iconst 0, 1) := dk_3 (dk_at dksX0_law_1 5 rfl rfl)
theorem dX0_law_30 : decode cX0_law 30 = .ok (.bipush 16, 2) := dk_16 16 (dk_at dksX0_law_1 6 rfl rfl)
theorem dX0_law_32 : decode cX0_law 32 = .ok (.invokevirtual 112, 3) := dk_182 0 112 (dk_at dksX0_law_1 8 rfl rfl)
theorem dX0_law_35 : decode cX0_law 35 = .ok (.astore_n 2, 1) := dk_77 (dk_at dksX0_law_1 11 rfl rfl)
theorem dX0_law_36 : decode cX0_law 36 = .ok (.aload_n 2, 1) := dk_44 (dk_at dksX0_law_1 12 rfl rfl)
theorem dX0_law_37 : decode cX0_law 37 = .ok (.ifnonnull 5, 3) := dk_199 0 5 (dk_at dksX0_law_1 13 rfl rfl)
theorem dX0_law_40 : decode cX0_law 40 = .ok (.iconst (-1), 1) := dk_2 (dk_at dksX0_law_1 16 rfl rfl)
theorem dX0_law_41 : decode cX0_law 41 = .ok (.ireturn, 1) := dk_172 (dk_at dksX0_law_1 17 rfl rfl)
theorem dX0_law_42 : decode cX0_law 42 = .ok (.aload_n 0, 1) := dk_42 (dk_at dksX0_law_1 18 rfl rfl)
theorem dX0_law_43 : decode cX0_law 43 = .ok (.aload_n 2, 1) := dk_44 (dk_at dksX0_law_1 19 rfl rfl)
theorem dX0_law_44 : decode cX0_law 44 = .ok (.putfield 49, 3) := dk_181 0 49 (dk_at dksX0_law_1 20 rfl rfl)
theorem dX0_law_47 : decode cX0_law 47 = .ok (.aload_n 0, 1) := dk_42 (dk_at dksX0_law_1 23 rfl rfl)
theorem dX0_law_48 : decode cX0_law 48 = .ok (.dup, 1) := dk_89 (dk_at dksX0_law_2 0 rfl rfl)
theorem dX0_law_49 : decode cX0_law 49 = .ok (.getfield 109, 3) := dk_180 0 109 (dk_at dksX0_law_2 1 rfl rfl)
theorem dX0_law_52 : decode cX0_law 52 = .ok (.iconst 1, 1) := dk_4 (dk_at dksX0_law_2 4 rfl rfl)
theorem dX0_law_53 : decode cX0_law 53 = .ok (.iadd, 1) := dk_96 (dk_at dksX0_law_2 5 rfl rfl)
theorem dX0_law_54 : decode cX0_law 54 = .ok (.putfield 109, 3) := dk_181 0 109 (dk_at dksX0_law_2 6 rfl rfl)
theorem dX0_law_57 : decode cX0_law 57 = .ok (.aload_n 0, 1) := dk_42 (dk_at dksX0_law_2 9 rfl rfl)
theorem dX0_law_58 : decode cX0_law 58 = .ok (.getfield 109, 3) := dk_180 0 109 (dk_at dksX0_law_2 10 rfl rfl)
theorem dX0_law_61 : decode cX0_law 61 = .ok (.iconst 1, 1) := dk_4 (dk_at dksX0_law_2 13 rfl rfl)
theorem dX0_law_62 : decode cX0_law 62 = .ok (.isub, 1) := dk_100 (dk_at dksX0_law_2 14 rfl rfl)
theorem dX0_law_63 : decode cX0_law 63 = .ok (.ireturn, 1) := dk_172 (dk_at dksX0_law_2 15 rfl rfl)
abbrev cX0_reads : ByteArray := prog_1_method_9_code
def yX0_reads : MethodName := ⟨RX0, "reads", "(III)LLoanNames$Law;"⟩
def dkwX0_reads_2 : List UInt8 := [153, 0, 11, 25, 4, 180, 0, 108, 167, 0, 4, 1, 176]
abbrev dktX0_reads_2 : List UInt8 := dkwX0_reads_2 ++ []
def dkwX0_reads_1 : List UInt8 := [3, 181, 0, 74, 42, 21, 5, 153, 0, 7, 2, 167, 0, 8, 25, 4, 182, 0, 107, 181, 0, 63, 21, 5]
abbrev dktX0_reads_1 : List UInt8 := dkwX0_reads_1 ++ dktX0_reads_2
def dkwX0_reads_0 : List UInt8 := [187, 0, 101, 89, 42, 180, 0, 44, 27, 183, 0, 103, 58, 4, 25, 4, 28, 29, 182, 0, 104, 54, 5, 42]
abbrev dktX0_reads_0 : List UInt8 := dkwX0_reads_0 ++ dktX0_reads_1
theorem dksX0_reads_0 : cX0_reads.data.toList.drop 0 = dktX0_reads_0 := by decide +kernel
theorem dksX0_reads_1 : cX0_reads.data.toList.drop 24 = dktX0_reads_1 := dk_seg dksX0_reads_0 24 rfl rfl
theorem dksX0_reads_2 : cX0_reads.data.toList.drop 48 = dktX0_reads_2 := dk_seg dksX0_reads_1 24 rfl rfl
theorem dX0_reads_0 : decode cX0_reads 0 = .ok (.new 101, 3) := dk_187 0 101 (dk_at dksX0_reads_0 0 rfl rfl)
theorem dX0_reads_3 : decode cX0_reads 3 = .ok (.dup, 1) := dk_89 (dk_at dksX0_reads_0 3 rfl rfl)
theorem dX0_reads_4 : decode cX0_reads 4 = .ok (.aload_n 0, 1) := dk_42 (dk_at dksX0_reads_0 4 rfl rfl)
theorem dX0_reads_5 : decode cX0_reads 5 = .ok (.getfield 44, 3) := dk_180 0 44 (dk_at dksX0_reads_0 5 rfl rfl)
theorem dX0_reads_8 : decode cX0_reads 8 = .ok (.iload_n 1, 1) := dk_27 (dk_at dksX0_reads_0 8 rfl rfl)
theorem dX0_reads_9 : decode cX0_reads 9 = .ok (.invokespecial 103, 3) := dk_183 0 103 (dk_at dksX0_reads_0 9 rfl rfl)
theorem dX0_reads_12 : decode cX0_reads 12 = .ok (.astore 4, 2) := dk_58 4 (dk_at dksX0_reads_0 12 rfl rfl)
theorem dX0_reads_14 : decode cX0_reads 14 = .ok (.aload 4, 2) := dk_25 4 (dk_at dksX0_reads_0 14 rfl rfl)
theorem dX0_reads_16 : decode cX0_reads 16 = .ok (.iload_n 2, 1) := dk_28 (dk_at dksX0_reads_0 16 rfl rfl)
theorem dX0_reads_17 : decode cX0_reads 17 = .ok (.iload_n 3, 1) := dk_29 (dk_at dksX0_reads_0 17 rfl rfl)
theorem dX0_reads_18 : decode cX0_reads 18 = .ok (.invokevirtual 104, 3) := dk_182 0 104 (dk_at dksX0_reads_0 18 rfl rfl)
theorem dX0_reads_21 : decode cX0_reads 21 = .ok (.istore 5, 2) := dk_54 5 (dk_at dksX0_reads_0 21 rfl rfl)
theorem dX0_reads_23 : decode cX0_reads 23 = .ok (.aload_n 0, 1) := dk_42 (dk_at dksX0_reads_0 23 rfl rfl)
theorem dX0_reads_24 : decode cX0_reads 24 = .ok (.iconst 0, 1) := dk_3 (dk_at dksX0_reads_1 0 rfl rfl)
theorem dX0_reads_25 : decode cX0_reads 25 = .ok (.putfield 74, 3) := dk_181 0 74 (dk_at dksX0_reads_1 1 rfl rfl)
theorem dX0_reads_28 : decode cX0_reads 28 = .ok (.aload_n 0, 1) := dk_42 (dk_at dksX0_reads_1 4 rfl rfl)
theorem dX0_reads_29 : decode cX0_reads 29 = .ok (.iload 5, 2) := dk_21 5 (dk_at dksX0_reads_1 5 rfl rfl)
theorem dX0_reads_31 : decode cX0_reads 31 = .ok (.ifCond .eq 7, 3) := dk_153 0 7 (dk_at dksX0_reads_1 7 rfl rfl)
theorem dX0_reads_34 : decode cX0_reads 34 = .ok (.iconst (-1), 1) := dk_2 (dk_at dksX0_reads_1 10 rfl rfl)
theorem dX0_reads_35 : decode cX0_reads 35 = .ok (.goto 8, 3) := dk_167 0 8 (dk_at dksX0_reads_1 11 rfl rfl)
theorem dX0_reads_38 : decode cX0_reads 38 = .ok (.aload 4, 2) := dk_25 4 (dk_at dksX0_reads_1 14 rfl rfl)
theorem dX0_reads_40 : decode cX0_reads 40 = .ok (.invokevirtual 107, 3) := dk_182 0 107 (dk_at dksX0_reads_1 16 rfl rfl)
theorem dX0_reads_43 : decode cX0_reads 43 = .ok (.putfield 63, 3) := dk_181 0 63 (dk_at dksX0_reads_1 19 rfl rfl)
theorem dX0_reads_46 : decode cX0_reads 46 = .ok (.iload 5, 2) := dk_21 5 (dk_at dksX0_reads_1 22 rfl rfl)
theorem dX0_reads_48 : decode cX0_reads 48 = .ok (.ifCond .eq 11, 3) := dk_153 0 11 (dk_at dksX0_reads_2 0 rfl rfl)
theorem dX0_reads_51 : decode cX0_reads 51 = .ok (.aload 4, 2) := dk_25 4 (dk_at dksX0_reads_2 3 rfl rfl)
theorem dX0_reads_53 : decode cX0_reads 53 = .ok (.getfield 108, 3) := dk_180 0 108 (dk_at dksX0_reads_2 5 rfl rfl)
theorem dX0_reads_56 : decode cX0_reads 56 = .ok (.goto 4, 3) := dk_167 0 4 (dk_at dksX0_reads_2 8 rfl rfl)
theorem dX0_reads_59 : decode cX0_reads 59 = .ok (.aconst_null, 1) := dk_1 (dk_at dksX0_reads_2 11 rfl rfl)
theorem dX0_reads_60 : decode cX0_reads 60 = .ok (.areturn, 1) := dk_176 (dk_at dksX0_reads_2 12 rfl rfl)
abbrev cX0_word : ByteArray := prog_1_method_11_code
def yX0_word : MethodName := ⟨RX0, "word", "(I)I"⟩
def dkwX0_word_2 : List UInt8 := [180, 0, 115, 44, 83, 42, 89, 180, 0, 115, 4, 96, 181, 0, 115, 42, 180, 0, 115, 4, 100, 172]
abbrev dktX0_word_2 : List UInt8 := dkwX0_word_2 ++ []
def dkwX0_word_1 : List UInt8 := [16, 253, 172, 42, 27, 4, 16, 12, 182, 0, 112, 77, 44, 199, 0, 5, 2, 172, 42, 180, 0, 31, 42]
abbrev dktX0_word_1 : List UInt8 := dkwX0_word_1 ++ dktX0_word_2
def dkwX0_word_0 : List UInt8 := [27, 3, 42, 180, 0, 74, 184, 0, 70, 154, 0, 6, 16, 254, 172, 42, 180, 0, 115, 16, 12, 160, 0, 6]
abbrev dktX0_word_0 : List UInt8 := dkwX0_word_0 ++ dktX0_word_1
theorem dksX0_word_0 : cX0_word.data.toList.drop 0 = dktX0_word_0 := by decide +kernel
theorem dksX0_word_1 : cX0_word.data.toList.drop 24 = dktX0_word_1 := dk_seg dksX0_word_0 24 rfl rfl
theorem dksX0_word_2 : cX0_word.data.toList.drop 47 = dktX0_word_2 := dk_seg dksX0_word_1 23 rfl rfl
theorem dX0_word_0 : decode cX0_word 0 = .ok (.iload_n 1, 1) := dk_27 (dk_at dksX0_word_0 0 rfl rfl)
theorem dX0_word_1 : decode cX0_word 1 = .ok (.iconst 0, 1) := dk_3 (dk_at dksX0_word_0 1 rfl rfl)
theorem dX0_word_2 : decode cX0_word 2 = .ok (.aload_n 0, 1) := dk_42 (dk_at dksX0_word_0 2 rfl rfl)
theorem dX0_word_3 : decode cX0_word 3 = .ok (.getfield 74, 3) := dk_180 0 74 (dk_at dksX0_word_0 3 rfl rfl)
theorem dX0_word_6 : decode cX0_word 6 = .ok (.invokestatic 70, 3) := dk_184 0 70 (dk_at dksX0_word_0 6 rfl rfl)
theorem dX0_word_9 : decode cX0_word 9 = .ok (.ifCond .ne 6, 3) := dk_154 0 6 (dk_at dksX0_word_0 9 rfl rfl)
theorem dX0_word_12 : decode cX0_word 12 = .ok (.bipush (-2), 2) := dk_16 254 (dk_at dksX0_word_0 12 rfl rfl)
theorem dX0_word_14 : decode cX0_word 14 = .ok (.ireturn, 1) := dk_172 (dk_at dksX0_word_0 14 rfl rfl)
theorem dX0_word_15 : decode cX0_word 15 = .ok (.aload_n 0, 1) := dk_42 (dk_at dksX0_word_0 15 rfl rfl)
theorem dX0_word_16 : decode cX0_word 16 = .ok (.getfield 115, 3) := dk_180 0 115 (dk_at dksX0_word_0 16 rfl rfl)
theorem dX0_word_19 : decode cX0_word 19 = .ok (.bipush 12, 2) := dk_16 12 (dk_at dksX0_word_0 19 rfl rfl)
theorem dX0_word_21 : decode cX0_word 21 = .ok (.if_icmp .ne 6, 3) := dk_160 0 6 (dk_at dksX0_word_0 21 rfl rfl)
theorem dX0_word_24 : decode cX0_word 24 = .ok (.bipush (-3), 2) := dk_16 253 (dk_at dksX0_word_1 0 rfl rfl)
theorem dX0_word_26 : decode cX0_word 26 = .ok (.ireturn, 1) := dk_172 (dk_at dksX0_word_1 2 rfl rfl)
theorem dX0_word_27 : decode cX0_word 27 = .ok (.aload_n 0, 1) := dk_42 (dk_at dksX0_word_1 3 rfl rfl)
theorem dX0_word_28 : decode cX0_word 28 = .ok (.iload_n 1, 1) := dk_27 (dk_at dksX0_word_1 4 rfl rfl)
theorem dX0_word_29 : decode cX0_word 29 = .ok (.iconst 1, 1) := dk_4 (dk_at dksX0_word_1 5 rfl rfl)
theorem dX0_word_30 : decode cX0_word 30 = .ok (.bipush 12, 2) := dk_16 12 (dk_at dksX0_word_1 6 rfl rfl)
theorem dX0_word_32 : decode cX0_word 32 = .ok (.invokevirtual 112, 3) := dk_182 0 112 (dk_at dksX0_word_1 8 rfl rfl)
theorem dX0_word_35 : decode cX0_word 35 = .ok (.astore_n 2, 1) := dk_77 (dk_at dksX0_word_1 11 rfl rfl)
theorem dX0_word_36 : decode cX0_word 36 = .ok (.aload_n 2, 1) := dk_44 (dk_at dksX0_word_1 12 rfl rfl)
theorem dX0_word_37 : decode cX0_word 37 = .ok (.ifnonnull 5, 3) := dk_199 0 5 (dk_at dksX0_word_1 13 rfl rfl)
theorem dX0_word_40 : decode cX0_word 40 = .ok (.iconst (-1), 1) := dk_2 (dk_at dksX0_word_1 16 rfl rfl)
theorem dX0_word_41 : decode cX0_word 41 = .ok (.ireturn, 1) := dk_172 (dk_at dksX0_word_1 17 rfl rfl)
theorem dX0_word_42 : decode cX0_word 42 = .ok (.aload_n 0, 1) := dk_42 (dk_at dksX0_word_1 18 rfl rfl)
theorem dX0_word_43 : decode cX0_word 43 = .ok (.getfield 31, 3) := dk_180 0 31 (dk_at dksX0_word_1 19 rfl rfl)
theorem dX0_word_46 : decode cX0_word 46 = .ok (.aload_n 0, 1) := dk_42 (dk_at dksX0_word_1 22 rfl rfl)
theorem dX0_word_47 : decode cX0_word 47 = .ok (.getfield 115, 3) := dk_180 0 115 (dk_at dksX0_word_2 0 rfl rfl)
theorem dX0_word_50 : decode cX0_word 50 = .ok (.aload_n 2, 1) := dk_44 (dk_at dksX0_word_2 3 rfl rfl)
theorem dX0_word_51 : decode cX0_word 51 = .ok (.aastore, 1) := dk_83 (dk_at dksX0_word_2 4 rfl rfl)
theorem dX0_word_52 : decode cX0_word 52 = .ok (.aload_n 0, 1) := dk_42 (dk_at dksX0_word_2 5 rfl rfl)
theorem dX0_word_53 : decode cX0_word 53 = .ok (.dup, 1) := dk_89 (dk_at dksX0_word_2 6 rfl rfl)
theorem dX0_word_54 : decode cX0_word 54 = .ok (.getfield 115, 3) := dk_180 0 115 (dk_at dksX0_word_2 7 rfl rfl)
theorem dX0_word_57 : decode cX0_word 57 = .ok (.iconst 1, 1) := dk_4 (dk_at dksX0_word_2 10 rfl rfl)
theorem dX0_word_58 : decode cX0_word 58 = .ok (.iadd, 1) := dk_96 (dk_at dksX0_word_2 11 rfl rfl)
theorem dX0_word_59 : decode cX0_word 59 = .ok (.putfield 115, 3) := dk_181 0 115 (dk_at dksX0_word_2 12 rfl rfl)
theorem dX0_word_62 : decode cX0_word 62 = .ok (.aload_n 0, 1) := dk_42 (dk_at dksX0_word_2 15 rfl rfl)
theorem dX0_word_63 : decode cX0_word 63 = .ok (.getfield 115, 3) := dk_180 0 115 (dk_at dksX0_word_2 16 rfl rfl)
theorem dX0_word_66 : decode cX0_word 66 = .ok (.iconst 1, 1) := dk_4 (dk_at dksX0_word_2 19 rfl rfl)
theorem dX0_word_67 : decode cX0_word 67 = .ok (.isub, 1) := dk_100 (dk_at dksX0_word_2 20 rfl rfl)
theorem dX0_word_68 : decode cX0_word 68 = .ok (.ireturn, 1) := dk_172 (dk_at dksX0_word_2 21 rfl rfl)
abbrev cX0_fault : ByteArray := prog_1_method_12_code
def yX0_fault : MethodName := ⟨RX0, "fault", "()I"⟩
theorem dX0_fault_0 : decode cX0_fault 0 = .ok (.aload_n 0, 1) := by decide +kernel
theorem dX0_fault_1 : decode cX0_fault 1 = .ok (.getfield 63, 3) := by decide +kernel
theorem dX0_fault_4 : decode cX0_fault 4 = .ok (.ireturn, 1) := by decide +kernel
abbrev cX0_size : ByteArray := prog_1_method_15_code
def yX0_size : MethodName := ⟨RX0, "size", "(II)I"⟩
def dkwX0_size_3 : List UInt8 := [45, 182, 0, 148, 172, 45, 182, 0, 152, 172, 2, 172]
abbrev dktX0_size_3 : List UInt8 := dkwX0_size_3 ++ []
def dkwX0_size_2 : List UInt8 := [45, 180, 0, 118, 180, 0, 122, 172, 45, 180, 0, 143, 172, 45, 180, 0, 144, 172, 45, 180, 0, 145, 172, 42]
abbrev dktX0_size_2 : List UInt8 := dkwX0_size_2 ++ dktX0_size_3
def dkwX0_size_1 : List UInt8 := [170, 0, 0, 0, 0, 0, 73, 0, 0, 0, 0, 0, 0, 0, 5, 0, 0, 0, 39, 0, 0, 0, 47, 0, 0, 0, 52, 0, 0, 0, 57, 0, 0, 0, 62, 0, 0, 0, 68]
abbrev dktX0_size_1 : List UInt8 := dkwX0_size_1 ++ dktX0_size_2
def dkwX0_size_0 : List UInt8 := [42, 27, 182, 0, 139, 78, 45, 199, 0, 5, 2, 172, 28]
abbrev dktX0_size_0 : List UInt8 := dkwX0_size_0 ++ dktX0_size_1
theorem dksX0_size_0 : cX0_size.data.toList.drop 0 = dktX0_size_0 := by decide +kernel
theorem dksX0_size_1 : cX0_size.data.toList.drop 13 = dktX0_size_1 := dk_seg dksX0_size_0 13 rfl rfl
theorem dksX0_size_2 : cX0_size.data.toList.drop 52 = dktX0_size_2 := dk_seg dksX0_size_1 39 rfl rfl
theorem dksX0_size_3 : cX0_size.data.toList.drop 76 = dktX0_size_3 := dk_seg dksX0_size_2 24 rfl rfl
theorem dX0_size_0 : decode cX0_size 0 = .ok (.aload_n 0, 1) := dk_42 (dk_at dksX0_size_0 0 rfl rfl)
theorem dX0_size_1 : decode cX0_size 1 = .ok (.iload_n 1, 1) := dk_27 (dk_at dksX0_size_0 1 rfl rfl)
theorem dX0_size_2 : decode cX0_size 2 = .ok (.invokevirtual 139, 3) := dk_182 0 139 (dk_at dksX0_size_0 2 rfl rfl)
theorem dX0_size_5 : decode cX0_size 5 = .ok (.astore_n 3, 1) := dk_78 (dk_at dksX0_size_0 5 rfl rfl)
theorem dX0_size_6 : decode cX0_size 6 = .ok (.aload_n 3, 1) := dk_45 (dk_at dksX0_size_0 6 rfl rfl)
theorem dX0_size_7 : decode cX0_size 7 = .ok (.ifnonnull 5, 3) := dk_199 0 5 (dk_at dksX0_size_0 7 rfl rfl)
theorem dX0_size_10 : decode cX0_size 10 = .ok (.iconst (-1), 1) := dk_2 (dk_at dksX0_size_0 10 rfl rfl)
theorem dX0_size_11 : decode cX0_size 11 = .ok (.ireturn, 1) := dk_172 (dk_at dksX0_size_0 11 rfl rfl)
theorem dX0_size_12 : decode cX0_size 12 = .ok (.iload_n 2, 1) := dk_28 (dk_at dksX0_size_0 12 rfl rfl)
theorem dX0_size_13 : decode cX0_size 13 = .ok (.tableswitch 73 0 5 #[39, 47, 52, 57, 62, 68], 39) := by decide +kernel
theorem dX0_size_52 : decode cX0_size 52 = .ok (.aload_n 3, 1) := dk_45 (dk_at dksX0_size_2 0 rfl rfl)
theorem dX0_size_53 : decode cX0_size 53 = .ok (.getfield 118, 3) := dk_180 0 118 (dk_at dksX0_size_2 1 rfl rfl)
theorem dX0_size_56 : decode cX0_size 56 = .ok (.getfield 122, 3) := dk_180 0 122 (dk_at dksX0_size_2 4 rfl rfl)
theorem dX0_size_59 : decode cX0_size 59 = .ok (.ireturn, 1) := dk_172 (dk_at dksX0_size_2 7 rfl rfl)
theorem dX0_size_60 : decode cX0_size 60 = .ok (.aload_n 3, 1) := dk_45 (dk_at dksX0_size_2 8 rfl rfl)
theorem dX0_size_61 : decode cX0_size 61 = .ok (.getfield 143, 3) := dk_180 0 143 (dk_at dksX0_size_2 9 rfl rfl)
theorem dX0_size_64 : decode cX0_size 64 = .ok (.ireturn, 1) := dk_172 (dk_at dksX0_size_2 12 rfl rfl)
theorem dX0_size_65 : decode cX0_size 65 = .ok (.aload_n 3, 1) := dk_45 (dk_at dksX0_size_2 13 rfl rfl)
theorem dX0_size_66 : decode cX0_size 66 = .ok (.getfield 144, 3) := dk_180 0 144 (dk_at dksX0_size_2 14 rfl rfl)
theorem dX0_size_69 : decode cX0_size 69 = .ok (.ireturn, 1) := dk_172 (dk_at dksX0_size_2 17 rfl rfl)
theorem dX0_size_70 : decode cX0_size 70 = .ok (.aload_n 3, 1) := dk_45 (dk_at dksX0_size_2 18 rfl rfl)
theorem dX0_size_71 : decode cX0_size 71 = .ok (.getfield 145, 3) := dk_180 0 145 (dk_at dksX0_size_2 19 rfl rfl)
theorem dX0_size_74 : decode cX0_size 74 = .ok (.ireturn, 1) := dk_172 (dk_at dksX0_size_2 22 rfl rfl)
theorem dX0_size_75 : decode cX0_size 75 = .ok (.aload_n 0, 1) := dk_42 (dk_at dksX0_size_2 23 rfl rfl)
theorem dX0_size_76 : decode cX0_size 76 = .ok (.aload_n 3, 1) := dk_45 (dk_at dksX0_size_3 0 rfl rfl)
theorem dX0_size_77 : decode cX0_size 77 = .ok (.invokevirtual 148, 3) := dk_182 0 148 (dk_at dksX0_size_3 1 rfl rfl)
theorem dX0_size_80 : decode cX0_size 80 = .ok (.ireturn, 1) := dk_172 (dk_at dksX0_size_3 4 rfl rfl)
theorem dX0_size_81 : decode cX0_size 81 = .ok (.aload_n 3, 1) := dk_45 (dk_at dksX0_size_3 5 rfl rfl)
theorem dX0_size_82 : decode cX0_size 82 = .ok (.invokevirtual 152, 3) := dk_182 0 152 (dk_at dksX0_size_3 6 rfl rfl)
theorem dX0_size_85 : decode cX0_size 85 = .ok (.ireturn, 1) := dk_172 (dk_at dksX0_size_3 9 rfl rfl)
theorem dX0_size_86 : decode cX0_size 86 = .ok (.iconst (-1), 1) := dk_2 (dk_at dksX0_size_3 10 rfl rfl)
theorem dX0_size_87 : decode cX0_size 87 = .ok (.ireturn, 1) := dk_172 (dk_at dksX0_size_3 11 rfl rfl)
abbrev cX0_dealAt : ByteArray := prog_1_method_13_code
def yX0_dealAt : MethodName := ⟨RX0, "dealAt", "(I)LLoanNames$Deal;"⟩
def dkwX0_dealAt_1 : List UInt8 := [176]
abbrev dktX0_dealAt_1 : List UInt8 := dkwX0_dealAt_1 ++ []
def dkwX0_dealAt_0 : List UInt8 := [27, 3, 42, 180, 0, 77, 4, 100, 184, 0, 70, 153, 0, 12, 42, 180, 0, 25, 27, 50, 167, 0, 4, 1]
abbrev dktX0_dealAt_0 : List UInt8 := dkwX0_dealAt_0 ++ dktX0_dealAt_1
theorem dksX0_dealAt_0 : cX0_dealAt.data.toList.drop 0 = dktX0_dealAt_0 := by decide +kernel
theorem dksX0_dealAt_1 : cX0_dealAt.data.toList.drop 24 = dktX0_dealAt_1 := dk_seg dksX0_dealAt_0 24 rfl rfl
theorem dX0_dealAt_0 : decode cX0_dealAt 0 = .ok (.iload_n 1, 1) := dk_27 (dk_at dksX0_dealAt_0 0 rfl rfl)
theorem dX0_dealAt_1 : decode cX0_dealAt 1 = .ok (.iconst 0, 1) := dk_3 (dk_at dksX0_dealAt_0 1 rfl rfl)
theorem dX0_dealAt_2 : decode cX0_dealAt 2 = .ok (.aload_n 0, 1) := dk_42 (dk_at dksX0_dealAt_0 2 rfl rfl)
theorem dX0_dealAt_3 : decode cX0_dealAt 3 = .ok (.getfield 77, 3) := dk_180 0 77 (dk_at dksX0_dealAt_0 3 rfl rfl)
theorem dX0_dealAt_6 : decode cX0_dealAt 6 = .ok (.iconst 1, 1) := dk_4 (dk_at dksX0_dealAt_0 6 rfl rfl)
theorem dX0_dealAt_7 : decode cX0_dealAt 7 = .ok (.isub, 1) := dk_100 (dk_at dksX0_dealAt_0 7 rfl rfl)
theorem dX0_dealAt_8 : decode cX0_dealAt 8 = .ok (.invokestatic 70, 3) := dk_184 0 70 (dk_at dksX0_dealAt_0 8 rfl rfl)
theorem dX0_dealAt_11 : decode cX0_dealAt 11 = .ok (.ifCond .eq 12, 3) := dk_153 0 12 (dk_at dksX0_dealAt_0 11 rfl rfl)
theorem dX0_dealAt_14 : decode cX0_dealAt 14 = .ok (.aload_n 0, 1) := dk_42 (dk_at dksX0_dealAt_0 14 rfl rfl)
theorem dX0_dealAt_15 : decode cX0_dealAt 15 = .ok (.getfield 25, 3) := dk_180 0 25 (dk_at dksX0_dealAt_0 15 rfl rfl)
theorem dX0_dealAt_18 : decode cX0_dealAt 18 = .ok (.iload_n 1, 1) := dk_27 (dk_at dksX0_dealAt_0 18 rfl rfl)
theorem dX0_dealAt_19 : decode cX0_dealAt 19 = .ok (.aaload, 1) := dk_50 (dk_at dksX0_dealAt_0 19 rfl rfl)
theorem dX0_dealAt_20 : decode cX0_dealAt 20 = .ok (.goto 4, 3) := dk_167 0 4 (dk_at dksX0_dealAt_0 20 rfl rfl)
theorem dX0_dealAt_23 : decode cX0_dealAt 23 = .ok (.aconst_null, 1) := dk_1 (dk_at dksX0_dealAt_0 23 rfl rfl)
theorem dX0_dealAt_24 : decode cX0_dealAt 24 = .ok (.areturn, 1) := dk_176 (dk_at dksX0_dealAt_1 0 rfl rfl)
abbrev cX0_familiesOf : ByteArray := prog_1_method_14_code
def yX0_familiesOf : MethodName := ⟨RX0, "familiesOf", "(LLoanNames$Deal;)I"⟩
def dkwX0_familiesOf_2 : List UInt8 := [180, 0, 127, 29, 50, 180, 0, 136, 46, 120, 128, 128, 61, 132, 3, 1, 167, 255, 200, 28, 172]
abbrev dktX0_familiesOf_2 : List UInt8 := dkwX0_familiesOf_2 ++ []
def dkwX0_familiesOf_1 : List UInt8 := [180, 0, 118, 180, 0, 127, 29, 50, 180, 0, 131, 46, 120, 4, 42, 180, 0, 19, 43, 180, 0, 118]
abbrev dktX0_familiesOf_1 : List UInt8 := dkwX0_familiesOf_1 ++ dktX0_familiesOf_2
def dkwX0_familiesOf_0 : List UInt8 := [3, 61, 3, 62, 29, 43, 180, 0, 118, 180, 0, 122, 162, 0, 51, 28, 4, 42, 180, 0, 19, 43]
abbrev dktX0_familiesOf_0 : List UInt8 := dkwX0_familiesOf_0 ++ dktX0_familiesOf_1
theorem dksX0_familiesOf_0 : cX0_familiesOf.data.toList.drop 0 = dktX0_familiesOf_0 := by decide +kernel
theorem dksX0_familiesOf_1 : cX0_familiesOf.data.toList.drop 22 = dktX0_familiesOf_1 := dk_seg dksX0_familiesOf_0 22 rfl rfl
theorem dksX0_familiesOf_2 : cX0_familiesOf.data.toList.drop 44 = dktX0_familiesOf_2 := dk_seg dksX0_familiesOf_1 22 rfl rfl
theorem dX0_familiesOf_0 : decode cX0_familiesOf 0 = .ok (.iconst 0, 1) := dk_3 (dk_at dksX0_familiesOf_0 0 rfl rfl)
theorem dX0_familiesOf_1 : decode cX0_familiesOf 1 = .ok (.istore_n 2, 1) := dk_61 (dk_at dksX0_familiesOf_0 1 rfl rfl)
theorem dX0_familiesOf_2 : decode cX0_familiesOf 2 = .ok (.iconst 0, 1) := dk_3 (dk_at dksX0_familiesOf_0 2 rfl rfl)
theorem dX0_familiesOf_3 : decode cX0_familiesOf 3 = .ok (.istore_n 3, 1) := dk_62 (dk_at dksX0_familiesOf_0 3 rfl rfl)
theorem dX0_familiesOf_4 : decode cX0_familiesOf 4 = .ok (.iload_n 3, 1) := dk_29 (dk_at dksX0_familiesOf_0 4 rfl rfl)
theorem dX0_familiesOf_5 : decode cX0_familiesOf 5 = .ok (.aload_n 1, 1) := dk_43 (dk_at dksX0_familiesOf_0 5 rfl rfl)
theorem dX0_familiesOf_6 : decode cX0_familiesOf 6 = .ok (.getfield 118, 3) := dk_180 0 118 (dk_at dksX0_familiesOf_0 6 rfl rfl)
theorem dX0_familiesOf_9 : decode cX0_familiesOf 9 = .ok (.getfield 122, 3) := dk_180 0 122 (dk_at dksX0_familiesOf_0 9 rfl rfl)
theorem dX0_familiesOf_12 : decode cX0_familiesOf 12 = .ok (.if_icmp .ge 51, 3) := dk_162 0 51 (dk_at dksX0_familiesOf_0 12 rfl rfl)
theorem dX0_familiesOf_15 : decode cX0_familiesOf 15 = .ok (.iload_n 2, 1) := dk_28 (dk_at dksX0_familiesOf_0 15 rfl rfl)
theorem dX0_familiesOf_16 : decode cX0_familiesOf 16 = .ok (.iconst 1, 1) := dk_4 (dk_at dksX0_familiesOf_0 16 rfl rfl)
theorem dX0_familiesOf_17 : decode cX0_familiesOf 17 = .ok (.aload_n 0, 1) := dk_42 (dk_at dksX0_familiesOf_0 17 rfl rfl)
theorem dX0_familiesOf_18 : decode cX0_familiesOf 18 = .ok (.getfield 19, 3) := dk_180 0 19 (dk_at dksX0_familiesOf_0 18 rfl rfl)
theorem dX0_familiesOf_21 : decode cX0_familiesOf 21 = .ok (.aload_n 1, 1) := dk_43 (dk_at dksX0_familiesOf_0 21 rfl rfl)
theorem dX0_familiesOf_22 : decode cX0_familiesOf 22 = .ok (.getfield 118, 3) := dk_180 0 118 (dk_at dksX0_familiesOf_1 0 rfl rfl)
theorem dX0_familiesOf_25 : decode cX0_familiesOf 25 = .ok (.getfield 127, 3) := dk_180 0 127 (dk_at dksX0_familiesOf_1 3 rfl rfl)
theorem dX0_familiesOf_28 : decode cX0_familiesOf 28 = .ok (.iload_n 3, 1) := dk_29 (dk_at dksX0_familiesOf_1 6 rfl rfl)
theorem dX0_familiesOf_29 : decode cX0_familiesOf 29 = .ok (.aaload, 1) := dk_50 (dk_at dksX0_familiesOf_1 7 rfl rfl)
theorem dX0_familiesOf_30 : decode cX0_familiesOf 30 = .ok (.getfield 131, 3) := dk_180 0 131 (dk_at dksX0_familiesOf_1 8 rfl rfl)
theorem dX0_familiesOf_33 : decode cX0_familiesOf 33 = .ok (.iaload, 1) := dk_46 (dk_at dksX0_familiesOf_1 11 rfl rfl)
theorem dX0_familiesOf_34 : decode cX0_familiesOf 34 = .ok (.ishl, 1) := dk_120 (dk_at dksX0_familiesOf_1 12 rfl rfl)
theorem dX0_familiesOf_35 : decode cX0_familiesOf 35 = .ok (.iconst 1, 1) := dk_4 (dk_at dksX0_familiesOf_1 13 rfl rfl)
theorem dX0_familiesOf_36 : decode cX0_familiesOf 36 = .ok (.aload_n 0, 1) := dk_42 (dk_at dksX0_familiesOf_1 14 rfl rfl)
theorem dX0_familiesOf_37 : decode cX0_familiesOf 37 = .ok (.getfield 19, 3) := dk_180 0 19 (dk_at dksX0_familiesOf_1 15 rfl rfl)
theorem dX0_familiesOf_40 : decode cX0_familiesOf 40 = .ok (.aload_n 1, 1) := dk_43 (dk_at dksX0_familiesOf_1 18 rfl rfl)
theorem dX0_familiesOf_41 : decode cX0_familiesOf 41 = .ok (.getfield 118, 3) := dk_180 0 118 (dk_at dksX0_familiesOf_1 19 rfl rfl)
theorem dX0_familiesOf_44 : decode cX0_familiesOf 44 = .ok (.getfield 127, 3) := dk_180 0 127 (dk_at dksX0_familiesOf_2 0 rfl rfl)
theorem dX0_familiesOf_47 : decode cX0_familiesOf 47 = .ok (.iload_n 3, 1) := dk_29 (dk_at dksX0_familiesOf_2 3 rfl rfl)
theorem dX0_familiesOf_48 : decode cX0_familiesOf 48 = .ok (.aaload, 1) := dk_50 (dk_at dksX0_familiesOf_2 4 rfl rfl)
theorem dX0_familiesOf_49 : decode cX0_familiesOf 49 = .ok (.getfield 136, 3) := dk_180 0 136 (dk_at dksX0_familiesOf_2 5 rfl rfl)
theorem dX0_familiesOf_52 : decode cX0_familiesOf 52 = .ok (.iaload, 1) := dk_46 (dk_at dksX0_familiesOf_2 8 rfl rfl)
theorem dX0_familiesOf_53 : decode cX0_familiesOf 53 = .ok (.ishl, 1) := dk_120 (dk_at dksX0_familiesOf_2 9 rfl rfl)
theorem dX0_familiesOf_54 : decode cX0_familiesOf 54 = .ok (.ior, 1) := dk_128 (dk_at dksX0_familiesOf_2 10 rfl rfl)
theorem dX0_familiesOf_55 : decode cX0_familiesOf 55 = .ok (.ior, 1) := dk_128 (dk_at dksX0_familiesOf_2 11 rfl rfl)
theorem dX0_familiesOf_56 : decode cX0_familiesOf 56 = .ok (.istore_n 2, 1) := dk_61 (dk_at dksX0_familiesOf_2 12 rfl rfl)
theorem dX0_familiesOf_57 : decode cX0_familiesOf 57 = .ok (.iinc 3 1, 3) := dk_132 3 1 (dk_at dksX0_familiesOf_2 13 rfl rfl)
theorem dX0_familiesOf_60 : decode cX0_familiesOf 60 = .ok (.goto (-56), 3) := dk_167 255 200 (dk_at dksX0_familiesOf_2 16 rfl rfl)
theorem dX0_familiesOf_63 : decode cX0_familiesOf 63 = .ok (.iload_n 2, 1) := dk_28 (dk_at dksX0_familiesOf_2 19 rfl rfl)
theorem dX0_familiesOf_64 : decode cX0_familiesOf 64 = .ok (.ireturn, 1) := dk_172 (dk_at dksX0_familiesOf_2 20 rfl rfl)
abbrev cX0_leaf : ByteArray := prog_1_method_16_code
def yX0_leaf : MethodName := ⟨RX0, "leaf", "(III)I"⟩
def dkwX0_leaf_5 : List UInt8 := [182, 0, 171, 25, 4, 180, 0, 118, 180, 0, 174, 28, 46, 96, 172, 2, 172]
abbrev dktX0_leaf_5 : List UInt8 := dkwX0_leaf_5 ++ []
def dkwX0_leaf_4 : List UInt8 := [25, 5, 180, 0, 161, 172, 25, 5, 182, 0, 164, 172, 25, 4, 180, 0, 118, 28, 182, 0, 167, 172, 25, 5]
abbrev dktX0_leaf_4 : List UInt8 := dkwX0_leaf_4 ++ dktX0_leaf_5
def dkwX0_leaf_3 : List UInt8 := [25, 5, 182, 0, 155, 172, 25, 5, 180, 0, 131, 172, 25, 5, 180, 0, 136, 172, 25, 5, 180, 0, 158, 172]
abbrev dktX0_leaf_3 : List UInt8 := dkwX0_leaf_3 ++ dktX0_leaf_4
def dkwX0_leaf_2 : List UInt8 := [170, 0, 0, 0, 0, 0, 110, 0, 0, 0, 0, 0, 0, 0, 7, 0, 0, 0, 47, 0, 0, 0, 53, 0, 0, 0, 59, 0, 0, 0, 65, 0, 0, 0, 71, 0, 0, 0, 77, 0, 0, 0, 83, 0, 0, 0, 93]
abbrev dktX0_leaf_2 : List UInt8 := dkwX0_leaf_2 ++ dktX0_leaf_3
def dkwX0_leaf_1 : List UInt8 := [184, 0, 70, 154, 0, 5, 2, 172, 25, 4, 180, 0, 118, 180, 0, 127, 28, 50, 58, 5, 29]
abbrev dktX0_leaf_1 : List UInt8 := dkwX0_leaf_1 ++ dktX0_leaf_2
def dkwX0_leaf_0 : List UInt8 := [42, 27, 182, 0, 139, 58, 4, 25, 4, 198, 0, 21, 28, 3, 25, 4, 180, 0, 118, 180, 0, 122, 4, 100]
abbrev dktX0_leaf_0 : List UInt8 := dkwX0_leaf_0 ++ dktX0_leaf_1
theorem dksX0_leaf_0 : cX0_leaf.data.toList.drop 0 = dktX0_leaf_0 := by decide +kernel
theorem dksX0_leaf_1 : cX0_leaf.data.toList.drop 24 = dktX0_leaf_1 := dk_seg dksX0_leaf_0 24 rfl rfl
theorem dksX0_leaf_2 : cX0_leaf.data.toList.drop 45 = dktX0_leaf_2 := dk_seg dksX0_leaf_1 21 rfl rfl
theorem dksX0_leaf_3 : cX0_leaf.data.toList.drop 92 = dktX0_leaf_3 := dk_seg dksX0_leaf_2 47 rfl rfl
theorem dksX0_leaf_4 : cX0_leaf.data.toList.drop 116 = dktX0_leaf_4 := dk_seg dksX0_leaf_3 24 rfl rfl
theorem dksX0_leaf_5 : cX0_leaf.data.toList.drop 140 = dktX0_leaf_5 := dk_seg dksX0_leaf_4 24 rfl rfl
theorem dX0_leaf_0 : decode cX0_leaf 0 = .ok (.aload_n 0, 1) := dk_42 (dk_at dksX0_leaf_0 0 rfl rfl)
theorem dX0_leaf_1 : decode cX0_leaf 1 = .ok (.iload_n 1, 1) := dk_27 (dk_at dksX0_leaf_0 1 rfl rfl)
theorem dX0_leaf_2 : decode cX0_leaf 2 = .ok (.invokevirtual 139, 3) := dk_182 0 139 (dk_at dksX0_leaf_0 2 rfl rfl)
theorem dX0_leaf_5 : decode cX0_leaf 5 = .ok (.astore 4, 2) := dk_58 4 (dk_at dksX0_leaf_0 5 rfl rfl)
theorem dX0_leaf_7 : decode cX0_leaf 7 = .ok (.aload 4, 2) := dk_25 4 (dk_at dksX0_leaf_0 7 rfl rfl)
theorem dX0_leaf_9 : decode cX0_leaf 9 = .ok (.ifnull 21, 3) := dk_198 0 21 (dk_at dksX0_leaf_0 9 rfl rfl)
theorem dX0_leaf_12 : decode cX0_leaf 12 = .ok (.iload_n 2, 1) := dk_28 (dk_at dksX0_leaf_0 12 rfl rfl)
theorem dX0_leaf_13 : decode cX0_leaf 13 = .ok (.iconst 0, 1) := dk_3 (dk_at dksX0_leaf_0 13 rfl rfl)
theorem dX0_leaf_14 : decode cX0_leaf 14 = .ok (.aload 4, 2) := dk_25 4 (dk_at dksX0_leaf_0 14 rfl rfl)
theorem dX0_leaf_16 : decode cX0_leaf 16 = .ok (.getfield 118, 3) := dk_180 0 118 (dk_at dksX0_leaf_0 16 rfl rfl)
theorem dX0_leaf_19 : decode cX0_leaf 19 = .ok (.getfield 122, 3) := dk_180 0 122 (dk_at dksX0_leaf_0 19 rfl rfl)
theorem dX0_leaf_22 : decode cX0_leaf 22 = .ok (.iconst 1, 1) := dk_4 (dk_at dksX0_leaf_0 22 rfl rfl)
theorem dX0_leaf_23 : decode cX0_leaf 23 = .ok (.isub, 1) := dk_100 (dk_at dksX0_leaf_0 23 rfl rfl)
theorem dX0_leaf_24 : decode cX0_leaf 24 = .ok (.invokestatic 70, 3) := dk_184 0 70 (dk_at dksX0_leaf_1 0 rfl rfl)
theorem dX0_leaf_27 : decode cX0_leaf 27 = .ok (.ifCond .ne 5, 3) := dk_154 0 5 (dk_at dksX0_leaf_1 3 rfl rfl)
theorem dX0_leaf_30 : decode cX0_leaf 30 = .ok (.iconst (-1), 1) := dk_2 (dk_at dksX0_leaf_1 6 rfl rfl)
theorem dX0_leaf_31 : decode cX0_leaf 31 = .ok (.ireturn, 1) := dk_172 (dk_at dksX0_leaf_1 7 rfl rfl)
theorem dX0_leaf_32 : decode cX0_leaf 32 = .ok (.aload 4, 2) := dk_25 4 (dk_at dksX0_leaf_1 8 rfl rfl)
theorem dX0_leaf_34 : decode cX0_leaf 34 = .ok (.getfield 118, 3) := dk_180 0 118 (dk_at dksX0_leaf_1 10 rfl rfl)
theorem dX0_leaf_37 : decode cX0_leaf 37 = .ok (.getfield 127, 3) := dk_180 0 127 (dk_at dksX0_leaf_1 13 rfl rfl)
theorem dX0_leaf_40 : decode cX0_leaf 40 = .ok (.iload_n 2, 1) := dk_28 (dk_at dksX0_leaf_1 16 rfl rfl)
theorem dX0_leaf_41 : decode cX0_leaf 41 = .ok (.aaload, 1) := dk_50 (dk_at dksX0_leaf_1 17 rfl rfl)
theorem dX0_leaf_42 : decode cX0_leaf 42 = .ok (.astore 5, 2) := dk_58 5 (dk_at dksX0_leaf_1 18 rfl rfl)
theorem dX0_leaf_44 : decode cX0_leaf 44 = .ok (.iload_n 3, 1) := dk_29 (dk_at dksX0_leaf_1 20 rfl rfl)
theorem dX0_leaf_45 : decode cX0_leaf 45 = .ok (.tableswitch 110 0 7 #[47, 53, 59, 65, 71, 77, 83, 93], 47) := by decide +kernel
theorem dX0_leaf_92 : decode cX0_leaf 92 = .ok (.aload 5, 2) := dk_25 5 (dk_at dksX0_leaf_3 0 rfl rfl)
theorem dX0_leaf_94 : decode cX0_leaf 94 = .ok (.invokevirtual 155, 3) := dk_182 0 155 (dk_at dksX0_leaf_3 2 rfl rfl)
theorem dX0_leaf_97 : decode cX0_leaf 97 = .ok (.ireturn, 1) := dk_172 (dk_at dksX0_leaf_3 5 rfl rfl)
theorem dX0_leaf_98 : decode cX0_leaf 98 = .ok (.aload 5, 2) := dk_25 5 (dk_at dksX0_leaf_3 6 rfl rfl)
theorem dX0_leaf_100 : decode cX0_leaf 100 = .ok (.getfield 131, 3) := dk_180 0 131 (dk_at dksX0_leaf_3 8 rfl rfl)
theorem dX0_leaf_103 : decode cX0_leaf 103 = .ok (.ireturn, 1) := dk_172 (dk_at dksX0_leaf_3 11 rfl rfl)
theorem dX0_leaf_104 : decode cX0_leaf 104 = .ok (.aload 5, 2) := dk_25 5 (dk_at dksX0_leaf_3 12 rfl rfl)
theorem dX0_leaf_106 : decode cX0_leaf 106 = .ok (.getfield 136, 3) := dk_180 0 136 (dk_at dksX0_leaf_3 14 rfl rfl)
theorem dX0_leaf_109 : decode cX0_leaf 109 = .ok (.ireturn, 1) := dk_172 (dk_at dksX0_leaf_3 17 rfl rfl)
theorem dX0_leaf_110 : decode cX0_leaf 110 = .ok (.aload 5, 2) := dk_25 5 (dk_at dksX0_leaf_3 18 rfl rfl)
theorem dX0_leaf_112 : decode cX0_leaf 112 = .ok (.getfield 158, 3) := dk_180 0 158 (dk_at dksX0_leaf_3 20 rfl rfl)
theorem dX0_leaf_115 : decode cX0_leaf 115 = .ok (.ireturn, 1) := dk_172 (dk_at dksX0_leaf_3 23 rfl rfl)
theorem dX0_leaf_116 : decode cX0_leaf 116 = .ok (.aload 5, 2) := dk_25 5 (dk_at dksX0_leaf_4 0 rfl rfl)
theorem dX0_leaf_118 : decode cX0_leaf 118 = .ok (.getfield 161, 3) := dk_180 0 161 (dk_at dksX0_leaf_4 2 rfl rfl)
theorem dX0_leaf_121 : decode cX0_leaf 121 = .ok (.ireturn, 1) := dk_172 (dk_at dksX0_leaf_4 5 rfl rfl)
theorem dX0_leaf_122 : decode cX0_leaf 122 = .ok (.aload 5, 2) := dk_25 5 (dk_at dksX0_leaf_4 6 rfl rfl)
theorem dX0_leaf_124 : decode cX0_leaf 124 = .ok (.invokevirtual 164, 3) := dk_182 0 164 (dk_at dksX0_leaf_4 8 rfl rfl)
theorem dX0_leaf_127 : decode cX0_leaf 127 = .ok (.ireturn, 1) := dk_172 (dk_at dksX0_leaf_4 11 rfl rfl)
theorem dX0_leaf_128 : decode cX0_leaf 128 = .ok (.aload 4, 2) := dk_25 4 (dk_at dksX0_leaf_4 12 rfl rfl)
theorem dX0_leaf_130 : decode cX0_leaf 130 = .ok (.getfield 118, 3) := dk_180 0 118 (dk_at dksX0_leaf_4 14 rfl rfl)
theorem dX0_leaf_133 : decode cX0_leaf 133 = .ok (.iload_n 2, 1) := dk_28 (dk_at dksX0_leaf_4 17 rfl rfl)
theorem dX0_leaf_134 : decode cX0_leaf 134 = .ok (.invokevirtual 167, 3) := dk_182 0 167 (dk_at dksX0_leaf_4 18 rfl rfl)
theorem dX0_leaf_137 : decode cX0_leaf 137 = .ok (.ireturn, 1) := dk_172 (dk_at dksX0_leaf_4 21 rfl rfl)
theorem dX0_leaf_138 : decode cX0_leaf 138 = .ok (.aload 5, 2) := dk_25 5 (dk_at dksX0_leaf_4 22 rfl rfl)
theorem dX0_leaf_140 : decode cX0_leaf 140 = .ok (.invokevirtual 171, 3) := dk_182 0 171 (dk_at dksX0_leaf_5 0 rfl rfl)
theorem dX0_leaf_143 : decode cX0_leaf 143 = .ok (.aload 4, 2) := dk_25 4 (dk_at dksX0_leaf_5 3 rfl rfl)
theorem dX0_leaf_145 : decode cX0_leaf 145 = .ok (.getfield 118, 3) := dk_180 0 118 (dk_at dksX0_leaf_5 5 rfl rfl)
theorem dX0_leaf_148 : decode cX0_leaf 148 = .ok (.getfield 174, 3) := dk_180 0 174 (dk_at dksX0_leaf_5 8 rfl rfl)
theorem dX0_leaf_151 : decode cX0_leaf 151 = .ok (.iload_n 2, 1) := dk_28 (dk_at dksX0_leaf_5 11 rfl rfl)
theorem dX0_leaf_152 : decode cX0_leaf 152 = .ok (.iaload, 1) := dk_46 (dk_at dksX0_leaf_5 12 rfl rfl)
theorem dX0_leaf_153 : decode cX0_leaf 153 = .ok (.iadd, 1) := dk_96 (dk_at dksX0_leaf_5 13 rfl rfl)
theorem dX0_leaf_154 : decode cX0_leaf 154 = .ok (.ireturn, 1) := dk_172 (dk_at dksX0_leaf_5 14 rfl rfl)
theorem dX0_leaf_155 : decode cX0_leaf 155 = .ok (.iconst (-1), 1) := dk_2 (dk_at dksX0_leaf_5 15 rfl rfl)
theorem dX0_leaf_156 : decode cX0_leaf 156 = .ok (.ireturn, 1) := dk_172 (dk_at dksX0_leaf_5 16 rfl rfl)
abbrev cX0_plain : ByteArray := prog_1_method_17_code
def yX0_plain : MethodName := ⟨RX0, "plain", "(II)I"⟩
def dkwX0_plain_3 : List UInt8 := [180, 0, 122, 172]
abbrev dktX0_plain_3 : List UInt8 := dkwX0_plain_3 ++ []
def dkwX0_plain_2 : List UInt8 := [58, 6, 25, 5, 25, 6, 3, 182, 0, 191, 28, 154, 0, 11, 25, 4, 180, 0, 194, 167, 0, 8, 25, 6]
abbrev dktX0_plain_2 : List UInt8 := dkwX0_plain_2 ++ dktX0_plain_3
def dkwX0_plain_1 : List UInt8 := [89, 183, 0, 179, 58, 4, 45, 180, 0, 180, 25, 4, 182, 0, 184, 58, 5, 187, 0, 123, 89, 183, 0, 190]
abbrev dktX0_plain_1 : List UInt8 := dkwX0_plain_1 ++ dktX0_plain_2
def dkwX0_plain_0 : List UInt8 := [42, 27, 182, 0, 139, 78, 45, 198, 0, 12, 28, 3, 4, 184, 0, 70, 154, 0, 5, 2, 172, 187, 0, 177]
abbrev dktX0_plain_0 : List UInt8 := dkwX0_plain_0 ++ dktX0_plain_1
theorem dksX0_plain_0 : cX0_plain.data.toList.drop 0 = dktX0_plain_0 := by decide +kernel
theorem dksX0_plain_1 : cX0_plain.data.toList.drop 24 = dktX0_plain_1 := dk_seg dksX0_plain_0 24 rfl rfl
theorem dksX0_plain_2 : cX0_plain.data.toList.drop 48 = dktX0_plain_2 := dk_seg dksX0_plain_1 24 rfl rfl
theorem dksX0_plain_3 : cX0_plain.data.toList.drop 72 = dktX0_plain_3 := dk_seg dksX0_plain_2 24 rfl rfl
theorem dX0_plain_0 : decode cX0_plain 0 = .ok (.aload_n 0, 1) := dk_42 (dk_at dksX0_plain_0 0 rfl rfl)
theorem dX0_plain_1 : decode cX0_plain 1 = .ok (.iload_n 1, 1) := dk_27 (dk_at dksX0_plain_0 1 rfl rfl)
theorem dX0_plain_2 : decode cX0_plain 2 = .ok (.invokevirtual 139, 3) := dk_182 0 139 (dk_at dksX0_plain_0 2 rfl rfl)
theorem dX0_plain_5 : decode cX0_plain 5 = .ok (.astore_n 3, 1) := dk_78 (dk_at dksX0_plain_0 5 rfl rfl)
theorem dX0_plain_6 : decode cX0_plain 6 = .ok (.aload_n 3, 1) := dk_45 (dk_at dksX0_plain_0 6 rfl rfl)
theorem dX0_plain_7 : decode cX0_plain 7 = .ok (.ifnull 12, 3) := dk_198 0 12 (dk_at dksX0_plain_0 7 rfl rfl)
theorem dX0_plain_10 : decode cX0_plain 10 = .ok (.iload_n 2, 1) := dk_28 (dk_at dksX0_plain_0 10 rfl rfl)
theorem dX0_plain_11 : decode cX0_plain 11 = .ok (.iconst 0, 1) := dk_3 (dk_at dksX0_plain_0 11 rfl rfl)
theorem dX0_plain_12 : decode cX0_plain 12 = .ok (.iconst 1, 1) := dk_4 (dk_at dksX0_plain_0 12 rfl rfl)
theorem dX0_plain_13 : decode cX0_plain 13 = .ok (.invokestatic 70, 3) := dk_184 0 70 (dk_at dksX0_plain_0 13 rfl rfl)
theorem dX0_plain_16 : decode cX0_plain 16 = .ok (.ifCond .ne 5, 3) := dk_154 0 5 (dk_at dksX0_plain_0 16 rfl rfl)
theorem dX0_plain_19 : decode cX0_plain 19 = .ok (.iconst (-1), 1) := dk_2 (dk_at dksX0_plain_0 19 rfl rfl)
theorem dX0_plain_20 : decode cX0_plain 20 = .ok (.ireturn, 1) := dk_172 (dk_at dksX0_plain_0 20 rfl rfl)
theorem dX0_plain_21 : decode cX0_plain 21 = .ok (.new 177, 3) := dk_187 0 177 (dk_at dksX0_plain_0 21 rfl rfl)
theorem dX0_plain_24 : decode cX0_plain 24 = .ok (.dup, 1) := dk_89 (dk_at dksX0_plain_1 0 rfl rfl)
theorem dX0_plain_25 : decode cX0_plain 25 = .ok (.invokespecial 179, 3) := dk_183 0 179 (dk_at dksX0_plain_1 1 rfl rfl)
theorem dX0_plain_28 : decode cX0_plain 28 = .ok (.astore 4, 2) := dk_58 4 (dk_at dksX0_plain_1 4 rfl rfl)
theorem dX0_plain_30 : decode cX0_plain 30 = .ok (.aload_n 3, 1) := dk_45 (dk_at dksX0_plain_1 6 rfl rfl)
theorem dX0_plain_31 : decode cX0_plain 31 = .ok (.getfield 180, 3) := dk_180 0 180 (dk_at dksX0_plain_1 7 rfl rfl)
theorem dX0_plain_34 : decode cX0_plain 34 = .ok (.aload 4, 2) := dk_25 4 (dk_at dksX0_plain_1 10 rfl rfl)
theorem dX0_plain_36 : decode cX0_plain 36 = .ok (.invokevirtual 184, 3) := dk_182 0 184 (dk_at dksX0_plain_1 12 rfl rfl)
theorem dX0_plain_39 : decode cX0_plain 39 = .ok (.astore 5, 2) := dk_58 5 (dk_at dksX0_plain_1 15 rfl rfl)
theorem dX0_plain_41 : decode cX0_plain 41 = .ok (.new 123, 3) := dk_187 0 123 (dk_at dksX0_plain_1 17 rfl rfl)
theorem dX0_plain_44 : decode cX0_plain 44 = .ok (.dup, 1) := dk_89 (dk_at dksX0_plain_1 20 rfl rfl)
theorem dX0_plain_45 : decode cX0_plain 45 = .ok (.invokespecial 190, 3) := dk_183 0 190 (dk_at dksX0_plain_1 21 rfl rfl)
theorem dX0_plain_48 : decode cX0_plain 48 = .ok (.astore 6, 2) := dk_58 6 (dk_at dksX0_plain_2 0 rfl rfl)
theorem dX0_plain_50 : decode cX0_plain 50 = .ok (.aload 5, 2) := dk_25 5 (dk_at dksX0_plain_2 2 rfl rfl)
theorem dX0_plain_52 : decode cX0_plain 52 = .ok (.aload 6, 2) := dk_25 6 (dk_at dksX0_plain_2 4 rfl rfl)
theorem dX0_plain_54 : decode cX0_plain 54 = .ok (.iconst 0, 1) := dk_3 (dk_at dksX0_plain_2 6 rfl rfl)
theorem dX0_plain_55 : decode cX0_plain 55 = .ok (.invokevirtual 191, 3) := dk_182 0 191 (dk_at dksX0_plain_2 7 rfl rfl)
theorem dX0_plain_58 : decode cX0_plain 58 = .ok (.iload_n 2, 1) := dk_28 (dk_at dksX0_plain_2 10 rfl rfl)
theorem dX0_plain_59 : decode cX0_plain 59 = .ok (.ifCond .ne 11, 3) := dk_154 0 11 (dk_at dksX0_plain_2 11 rfl rfl)
theorem dX0_plain_62 : decode cX0_plain 62 = .ok (.aload 4, 2) := dk_25 4 (dk_at dksX0_plain_2 14 rfl rfl)
theorem dX0_plain_64 : decode cX0_plain 64 = .ok (.getfield 194, 3) := dk_180 0 194 (dk_at dksX0_plain_2 16 rfl rfl)
theorem dX0_plain_67 : decode cX0_plain 67 = .ok (.goto 8, 3) := dk_167 0 8 (dk_at dksX0_plain_2 19 rfl rfl)
theorem dX0_plain_70 : decode cX0_plain 70 = .ok (.aload 6, 2) := dk_25 6 (dk_at dksX0_plain_2 22 rfl rfl)
theorem dX0_plain_72 : decode cX0_plain 72 = .ok (.getfield 122, 3) := dk_180 0 122 (dk_at dksX0_plain_3 0 rfl rfl)
theorem dX0_plain_75 : decode cX0_plain 75 = .ok (.ireturn, 1) := dk_172 (dk_at dksX0_plain_3 3 rfl rfl)
abbrev cX0_same : ByteArray := prog_1_method_20_code
def yX0_same : MethodName := ⟨RX0, "same", "(II)I"⟩
def dkwX0_same_5 : List UInt8 := [132, 7, 1, 167, 255, 181, 2, 172]
abbrev dktX0_same_5 : List UInt8 := dkwX0_same_5 ++ []
def dkwX0_same_4 : List UInt8 := [25, 6, 3, 10, 21, 7, 182, 0, 225, 25, 5, 25, 6, 184, 0, 229, 154, 0, 6, 21, 7, 172]
abbrev dktX0_same_4 : List UInt8 := dkwX0_same_4 ++ dktX0_same_5
def dkwX0_same_3 : List UInt8 := [25, 6, 3, 181, 0, 197, 45, 180, 0, 180, 25, 5, 3, 10, 21, 7, 182, 0, 225, 25, 4, 180, 0, 180]
abbrev dktX0_same_3 : List UInt8 := dkwX0_same_3 ++ dktX0_same_4
def dkwX0_same_2 : List UInt8 := [16, 32, 45, 180, 0, 143, 25, 4, 180, 0, 143, 184, 0, 219, 120, 162, 0, 61, 25, 5, 3, 181, 0, 197]
abbrev dktX0_same_2 : List UInt8 := dkwX0_same_2 ++ dktX0_same_3
def dkwX0_same_1 : List UInt8 := [172, 187, 0, 198, 89, 183, 0, 218, 58, 5, 187, 0, 198, 89, 183, 0, 218, 58, 6, 3, 54, 7, 21, 7]
abbrev dktX0_same_1 : List UInt8 := dkwX0_same_1 ++ dktX0_same_2
def dkwX0_same_0 : List UInt8 := [42, 27, 182, 0, 139, 78, 42, 28, 182, 0, 139, 58, 4, 45, 198, 0, 8, 25, 4, 199, 0, 6, 16, 254]
abbrev dktX0_same_0 : List UInt8 := dkwX0_same_0 ++ dktX0_same_1
theorem dksX0_same_0 : cX0_same.data.toList.drop 0 = dktX0_same_0 := by decide +kernel
theorem dksX0_same_1 : cX0_same.data.toList.drop 24 = dktX0_same_1 := dk_seg dksX0_same_0 24 rfl rfl
theorem dksX0_same_2 : cX0_same.data.toList.drop 48 = dktX0_same_2 := dk_seg dksX0_same_1 24 rfl rfl
theorem dksX0_same_3 : cX0_same.data.toList.drop 72 = dktX0_same_3 := dk_seg dksX0_same_2 24 rfl rfl
theorem dksX0_same_4 : cX0_same.data.toList.drop 96 = dktX0_same_4 := dk_seg dksX0_same_3 24 rfl rfl
theorem dksX0_same_5 : cX0_same.data.toList.drop 118 = dktX0_same_5 := dk_seg dksX0_same_4 22 rfl rfl
theorem dX0_same_0 : decode cX0_same 0 = .ok (.aload_n 0, 1) := dk_42 (dk_at dksX0_same_0 0 rfl rfl)
theorem dX0_same_1 : decode cX0_same 1 = .ok (.iload_n 1, 1) := dk_27 (dk_at dksX0_same_0 1 rfl rfl)
theorem dX0_same_2 : decode cX0_same 2 = .ok (.invokevirtual 139, 3) := dk_182 0 139 (dk_at dksX0_same_0 2 rfl rfl)
theorem dX0_same_5 : decode cX0_same 5 = .ok (.astore_n 3, 1) := dk_78 (dk_at dksX0_same_0 5 rfl rfl)
theorem dX0_same_6 : decode cX0_same 6 = .ok (.aload_n 0, 1) := dk_42 (dk_at dksX0_same_0 6 rfl rfl)
theorem dX0_same_7 : decode cX0_same 7 = .ok (.iload_n 2, 1) := dk_28 (dk_at dksX0_same_0 7 rfl rfl)
theorem dX0_same_8 : decode cX0_same 8 = .ok (.invokevirtual 139, 3) := dk_182 0 139 (dk_at dksX0_same_0 8 rfl rfl)
theorem dX0_same_11 : decode cX0_same 11 = .ok (.astore 4, 2) := dk_58 4 (dk_at dksX0_same_0 11 rfl rfl)
theorem dX0_same_13 : decode cX0_same 13 = .ok (.aload_n 3, 1) := dk_45 (dk_at dksX0_same_0 13 rfl rfl)
theorem dX0_same_14 : decode cX0_same 14 = .ok (.ifnull 8, 3) := dk_198 0 8 (dk_at dksX0_same_0 14 rfl rfl)
theorem dX0_same_17 : decode cX0_same 17 = .ok (.aload 4, 2) := dk_25 4 (dk_at dksX0_same_0 17 rfl rfl)
theorem dX0_same_19 : decode cX0_same 19 = .ok (.ifnonnull 6, 3) := dk_199 0 6 (dk_at dksX0_same_0 19 rfl rfl)
theorem dX0_same_22 : decode cX0_same 22 = .ok (.bipush (-2), 2) := dk_16 254 (dk_at dksX0_same_0 22 rfl rfl)
theorem dX0_same_24 : decode cX0_same 24 = .ok (.ireturn, 1) := dk_172 (dk_at dksX0_same_1 0 rfl rfl)
theorem dX0_same_25 : decode cX0_same 25 = .ok (.new 198, 3) := dk_187 0 198 (dk_at dksX0_same_1 1 rfl rfl)
theorem dX0_same_28 : decode cX0_same 28 = .ok (.dup, 1) := dk_89 (dk_at dksX0_same_1 4 rfl rfl)
theorem dX0_same_29 : decode cX0_same 29 = .ok (.invokespecial 218, 3) := dk_183 0 218 (dk_at dksX0_same_1 5 rfl rfl)
theorem dX0_same_32 : decode cX0_same 32 = .ok (.astore 5, 2) := dk_58 5 (dk_at dksX0_same_1 8 rfl rfl)
theorem dX0_same_34 : decode cX0_same 34 = .ok (.new 198, 3) := dk_187 0 198 (dk_at dksX0_same_1 10 rfl rfl)
theorem dX0_same_37 : decode cX0_same 37 = .ok (.dup, 1) := dk_89 (dk_at dksX0_same_1 13 rfl rfl)
theorem dX0_same_38 : decode cX0_same 38 = .ok (.invokespecial 218, 3) := dk_183 0 218 (dk_at dksX0_same_1 14 rfl rfl)
theorem dX0_same_41 : decode cX0_same 41 = .ok (.astore 6, 2) := dk_58 6 (dk_at dksX0_same_1 17 rfl rfl)
theorem dX0_same_43 : decode cX0_same 43 = .ok (.iconst 0, 1) := dk_3 (dk_at dksX0_same_1 19 rfl rfl)
theorem dX0_same_44 : decode cX0_same 44 = .ok (.istore 7, 2) := dk_54 7 (dk_at dksX0_same_1 20 rfl rfl)
theorem dX0_same_46 : decode cX0_same 46 = .ok (.iload 7, 2) := dk_21 7 (dk_at dksX0_same_1 22 rfl rfl)
theorem dX0_same_48 : decode cX0_same 48 = .ok (.bipush 32, 2) := dk_16 32 (dk_at dksX0_same_2 0 rfl rfl)
theorem dX0_same_50 : decode cX0_same 50 = .ok (.aload_n 3, 1) := dk_45 (dk_at dksX0_same_2 2 rfl rfl)
theorem dX0_same_51 : decode cX0_same 51 = .ok (.getfield 143, 3) := dk_180 0 143 (dk_at dksX0_same_2 3 rfl rfl)
theorem dX0_same_54 : decode cX0_same 54 = .ok (.aload 4, 2) := dk_25 4 (dk_at dksX0_same_2 6 rfl rfl)
theorem dX0_same_56 : decode cX0_same 56 = .ok (.getfield 143, 3) := dk_180 0 143 (dk_at dksX0_same_2 8 rfl rfl)
theorem dX0_same_59 : decode cX0_same 59 = .ok (.invokestatic 219, 3) := dk_184 0 219 (dk_at dksX0_same_2 11 rfl rfl)
theorem dX0_same_62 : decode cX0_same 62 = .ok (.ishl, 1) := dk_120 (dk_at dksX0_same_2 14 rfl rfl)
theorem dX0_same_63 : decode cX0_same 63 = .ok (.if_icmp .ge 61, 3) := dk_162 0 61 (dk_at dksX0_same_2 15 rfl rfl)
theorem dX0_same_66 : decode cX0_same 66 = .ok (.aload 5, 2) := dk_25 5 (dk_at dksX0_same_2 18 rfl rfl)
theorem dX0_same_68 : decode cX0_same 68 = .ok (.iconst 0, 1) := dk_3 (dk_at dksX0_same_2 20 rfl rfl)
theorem dX0_same_69 : decode cX0_same 69 = .ok (.putfield 197, 3) := dk_181 0 197 (dk_at dksX0_same_2 21 rfl rfl)
theorem dX0_same_72 : decode cX0_same 72 = .ok (.aload 6, 2) := dk_25 6 (dk_at dksX0_same_3 0 rfl rfl)
theorem dX0_same_74 : decode cX0_same 74 = .ok (.iconst 0, 1) := dk_3 (dk_at dksX0_same_3 2 rfl rfl)
theorem dX0_same_75 : decode cX0_same 75 = .ok (.putfield 197, 3) := dk_181 0 197 (dk_at dksX0_same_3 3 rfl rfl)
theorem dX0_same_78 : decode cX0_same 78 = .ok (.aload_n 3, 1) := dk_45 (dk_at dksX0_same_3 6 rfl rfl)
theorem dX0_same_79 : decode cX0_same 79 = .ok (.getfield 180, 3) := dk_180 0 180 (dk_at dksX0_same_3 7 rfl rfl)
theorem dX0_same_82 : decode cX0_same 82 = .ok (.aload 5, 2) := dk_25 5 (dk_at dksX0_same_3 10 rfl rfl)
theorem dX0_same_84 : decode cX0_same 84 = .ok (.iconst 0, 1) := dk_3 (dk_at dksX0_same_3 12 rfl rfl)
theorem dX0_same_85 : decode cX0_same 85 = .ok (.lconst 1, 1) := dk_10 (dk_at dksX0_same_3 13 rfl rfl)
theorem dX0_same_86 : decode cX0_same 86 = .ok (.iload 7, 2) := dk_21 7 (dk_at dksX0_same_3 14 rfl rfl)
theorem dX0_same_88 : decode cX0_same 88 = .ok (.invokevirtual 225, 3) := dk_182 0 225 (dk_at dksX0_same_3 16 rfl rfl)
theorem dX0_same_91 : decode cX0_same 91 = .ok (.aload 4, 2) := dk_25 4 (dk_at dksX0_same_3 19 rfl rfl)
theorem dX0_same_93 : decode cX0_same 93 = .ok (.getfield 180, 3) := dk_180 0 180 (dk_at dksX0_same_3 21 rfl rfl)
theorem dX0_same_96 : decode cX0_same 96 = .ok (.aload 6, 2) := dk_25 6 (dk_at dksX0_same_4 0 rfl rfl)
theorem dX0_same_98 : decode cX0_same 98 = .ok (.iconst 0, 1) := dk_3 (dk_at dksX0_same_4 2 rfl rfl)
theorem dX0_same_99 : decode cX0_same 99 = .ok (.lconst 1, 1) := dk_10 (dk_at dksX0_same_4 3 rfl rfl)
theorem dX0_same_100 : decode cX0_same 100 = .ok (.iload 7, 2) := dk_21 7 (dk_at dksX0_same_4 4 rfl rfl)
theorem dX0_same_102 : decode cX0_same 102 = .ok (.invokevirtual 225, 3) := dk_182 0 225 (dk_at dksX0_same_4 6 rfl rfl)
theorem dX0_same_105 : decode cX0_same 105 = .ok (.aload 5, 2) := dk_25 5 (dk_at dksX0_same_4 9 rfl rfl)
theorem dX0_same_107 : decode cX0_same 107 = .ok (.aload 6, 2) := dk_25 6 (dk_at dksX0_same_4 11 rfl rfl)
theorem dX0_same_109 : decode cX0_same 109 = .ok (.invokestatic 229, 3) := dk_184 0 229 (dk_at dksX0_same_4 13 rfl rfl)
theorem dX0_same_112 : decode cX0_same 112 = .ok (.ifCond .ne 6, 3) := dk_154 0 6 (dk_at dksX0_same_4 16 rfl rfl)
theorem dX0_same_115 : decode cX0_same 115 = .ok (.iload 7, 2) := dk_21 7 (dk_at dksX0_same_4 19 rfl rfl)
theorem dX0_same_117 : decode cX0_same 117 = .ok (.ireturn, 1) := dk_172 (dk_at dksX0_same_4 21 rfl rfl)
theorem dX0_same_118 : decode cX0_same 118 = .ok (.iinc 7 1, 3) := dk_132 7 1 (dk_at dksX0_same_5 0 rfl rfl)
theorem dX0_same_121 : decode cX0_same 121 = .ok (.goto (-75), 3) := dk_167 255 181 (dk_at dksX0_same_5 3 rfl rfl)
theorem dX0_same_124 : decode cX0_same 124 = .ok (.iconst (-1), 1) := dk_2 (dk_at dksX0_same_5 6 rfl rfl)
theorem dX0_same_125 : decode cX0_same 125 = .ok (.ireturn, 1) := dk_172 (dk_at dksX0_same_5 7 rfl rfl)
abbrev cX0_has : ByteArray := prog_1_method_2_code
def yX0_has : MethodName := ⟨RX0, "has", "(II)Z"⟩
def dkwX0_has_0 : List UInt8 := [26, 27, 122, 4, 126, 4, 160, 0, 7, 4, 167, 0, 4, 3, 172]
abbrev dktX0_has_0 : List UInt8 := dkwX0_has_0 ++ []
theorem dksX0_has_0 : cX0_has.data.toList.drop 0 = dktX0_has_0 := by decide +kernel
theorem dX0_has_0 : decode cX0_has 0 = .ok (.iload_n 0, 1) := dk_26 (dk_at dksX0_has_0 0 rfl rfl)
theorem dX0_has_1 : decode cX0_has 1 = .ok (.iload_n 1, 1) := dk_27 (dk_at dksX0_has_0 1 rfl rfl)
theorem dX0_has_2 : decode cX0_has 2 = .ok (.ishr, 1) := dk_122 (dk_at dksX0_has_0 2 rfl rfl)
theorem dX0_has_3 : decode cX0_has 3 = .ok (.iconst 1, 1) := dk_4 (dk_at dksX0_has_0 3 rfl rfl)
theorem dX0_has_4 : decode cX0_has 4 = .ok (.iand, 1) := dk_126 (dk_at dksX0_has_0 4 rfl rfl)
theorem dX0_has_5 : decode cX0_has 5 = .ok (.iconst 1, 1) := dk_4 (dk_at dksX0_has_0 5 rfl rfl)
theorem dX0_has_6 : decode cX0_has 6 = .ok (.if_icmp .ne 7, 3) := dk_160 0 7 (dk_at dksX0_has_0 6 rfl rfl)
theorem dX0_has_9 : decode cX0_has 9 = .ok (.iconst 1, 1) := dk_4 (dk_at dksX0_has_0 9 rfl rfl)
theorem dX0_has_10 : decode cX0_has 10 = .ok (.goto 4, 3) := dk_167 0 4 (dk_at dksX0_has_0 10 rfl rfl)
theorem dX0_has_13 : decode cX0_has 13 = .ok (.iconst 0, 1) := dk_3 (dk_at dksX0_has_0 13 rfl rfl)
theorem dX0_has_14 : decode cX0_has 14 = .ok (.ireturn, 1) := dk_172 (dk_at dksX0_has_0 14 rfl rfl)
abbrev cX0_isSame : ByteArray := prog_1_method_18_code
def yX0_isSame : MethodName := ⟨RX0, "isSame", "(LLoanNames$Sink;LLoanNames$Sink;)Z"⟩
def dkwX0_isSame_5 : List UInt8 := [148, 153, 0, 5, 3, 172, 132, 4, 1, 167, 255, 148, 132, 2, 1, 167, 255, 124, 4, 172]
abbrev dktX0_isSame_5 : List UInt8 := dkwX0_isSame_5 ++ []
def dkwX0_isSame_4 : List UInt8 := [153, 0, 15, 22, 5, 43, 180, 0, 204, 21, 7, 47, 101, 55, 5, 132, 7, 1, 167, 255, 220, 22, 5, 9]
abbrev dktX0_isSame_4 : List UInt8 := dkwX0_isSame_4 ++ dktX0_isSame_5
def dkwX0_isSame_3 : List UInt8 := [167, 255, 220, 3, 54, 7, 21, 7, 43, 180, 0, 197, 162, 0, 33, 45, 21, 4, 43, 21, 7, 184, 0, 200]
abbrev dktX0_isSame_3 : List UInt8 := dkwX0_isSame_3 ++ dktX0_isSame_4
def dkwX0_isSame_2 : List UInt8 := [42, 21, 7, 184, 0, 200, 153, 0, 15, 22, 5, 42, 180, 0, 204, 21, 7, 47, 97, 55, 5, 132, 7, 1]
abbrev dktX0_isSame_2 : List UInt8 := dkwX0_isSame_2 ++ dktX0_isSame_3
def dkwX0_isSame_1 : List UInt8 := [180, 0, 197, 162, 0, 105, 9, 55, 5, 3, 54, 7, 21, 7, 42, 180, 0, 197, 162, 0, 33, 45, 21, 4]
abbrev dktX0_isSame_1 : List UInt8 := dkwX0_isSame_1 ++ dktX0_isSame_2
def dkwX0_isSame_0 : List UInt8 := [3, 61, 28, 5, 162, 0, 133, 28, 154, 0, 7, 42, 167, 0, 4, 43, 78, 3, 54, 4, 21, 4, 45]
abbrev dktX0_isSame_0 : List UInt8 := dkwX0_isSame_0 ++ dktX0_isSame_1
theorem dksX0_isSame_0 : cX0_isSame.data.toList.drop 0 = dktX0_isSame_0 := by decide +kernel
theorem dksX0_isSame_1 : cX0_isSame.data.toList.drop 23 = dktX0_isSame_1 := dk_seg dksX0_isSame_0 23 rfl rfl
theorem dksX0_isSame_2 : cX0_isSame.data.toList.drop 47 = dktX0_isSame_2 := dk_seg dksX0_isSame_1 24 rfl rfl
theorem dksX0_isSame_3 : cX0_isSame.data.toList.drop 71 = dktX0_isSame_3 := dk_seg dksX0_isSame_2 24 rfl rfl
theorem dksX0_isSame_4 : cX0_isSame.data.toList.drop 95 = dktX0_isSame_4 := dk_seg dksX0_isSame_3 24 rfl rfl
theorem dksX0_isSame_5 : cX0_isSame.data.toList.drop 119 = dktX0_isSame_5 := dk_seg dksX0_isSame_4 24 rfl rfl
theorem dX0_isSame_0 : decode cX0_isSame 0 = .ok (.iconst 0, 1) := dk_3 (dk_at dksX0_isSame_0 0 rfl rfl)
theorem dX0_isSame_1 : decode cX0_isSame 1 = .ok (.istore_n 2, 1) := dk_61 (dk_at dksX0_isSame_0 1 rfl rfl)
theorem dX0_isSame_2 : decode cX0_isSame 2 = .ok (.iload_n 2, 1) := dk_28 (dk_at dksX0_isSame_0 2 rfl rfl)
theorem dX0_isSame_3 : decode cX0_isSame 3 = .ok (.iconst 2, 1) := dk_5 (dk_at dksX0_isSame_0 3 rfl rfl)
theorem dX0_isSame_4 : decode cX0_isSame 4 = .ok (.if_icmp .ge 133, 3) := dk_162 0 133 (dk_at dksX0_isSame_0 4 rfl rfl)
theorem dX0_isSame_7 : decode cX0_isSame 7 = .ok (.iload_n 2, 1) := dk_28 (dk_at dksX0_isSame_0 7 rfl rfl)
theorem dX0_isSame_8 : decode cX0_isSame 8 = .ok (.ifCond .ne 7, 3) := dk_154 0 7 (dk_at dksX0_isSame_0 8 rfl rfl)
theorem dX0_isSame_11 : decode cX0_isSame 11 = .ok (.aload_n 0, 1) := dk_42 (dk_at dksX0_isSame_0 11 rfl rfl)
theorem dX0_isSame_12 : decode cX0_isSame 12 = .ok (.goto 4, 3) := dk_167 0 4 (dk_at dksX0_isSame_0 12 rfl rfl)
theorem dX0_isSame_15 : decode cX0_isSame 15 = .ok (.aload_n 1, 1) := dk_43 (dk_at dksX0_isSame_0 15 rfl rfl)
theorem dX0_isSame_16 : decode cX0_isSame 16 = .ok (.astore_n 3, 1) := dk_78 (dk_at dksX0_isSame_0 16 rfl rfl)
theorem dX0_isSame_17 : decode cX0_isSame 17 = .ok (.iconst 0, 1) := dk_3 (dk_at dksX0_isSame_0 17 rfl rfl)
theorem dX0_isSame_18 : decode cX0_isSame 18 = .ok (.istore 4, 2) := dk_54 4 (dk_at dksX0_isSame_0 18 rfl rfl)
theorem dX0_isSame_20 : decode cX0_isSame 20 = .ok (.iload 4, 2) := dk_21 4 (dk_at dksX0_isSame_0 20 rfl rfl)
theorem dX0_isSame_22 : decode cX0_isSame 22 = .ok (.aload_n 3, 1) := dk_45 (dk_at dksX0_isSame_0 22 rfl rfl)
theorem dX0_isSame_23 : decode cX0_isSame 23 = .ok (.getfield 197, 3) := dk_180 0 197 (dk_at dksX0_isSame_1 0 rfl rfl)
theorem dX0_isSame_26 : decode cX0_isSame 26 = .ok (.if_icmp .ge 105, 3) := dk_162 0 105 (dk_at dksX0_isSame_1 3 rfl rfl)
theorem dX0_isSame_29 : decode cX0_isSame 29 = .ok (.lconst 0, 1) := dk_9 (dk_at dksX0_isSame_1 6 rfl rfl)
theorem dX0_isSame_30 : decode cX0_isSame 30 = .ok (.lstore 5, 2) := dk_55 5 (dk_at dksX0_isSame_1 7 rfl rfl)
theorem dX0_isSame_32 : decode cX0_isSame 32 = .ok (.iconst 0, 1) := dk_3 (dk_at dksX0_isSame_1 9 rfl rfl)
theorem dX0_isSame_33 : decode cX0_isSame 33 = .ok (.istore 7, 2) := dk_54 7 (dk_at dksX0_isSame_1 10 rfl rfl)
theorem dX0_isSame_35 : decode cX0_isSame 35 = .ok (.iload 7, 2) := dk_21 7 (dk_at dksX0_isSame_1 12 rfl rfl)
theorem dX0_isSame_37 : decode cX0_isSame 37 = .ok (.aload_n 0, 1) := dk_42 (dk_at dksX0_isSame_1 14 rfl rfl)
theorem dX0_isSame_38 : decode cX0_isSame 38 = .ok (.getfield 197, 3) := dk_180 0 197 (dk_at dksX0_isSame_1 15 rfl rfl)
theorem dX0_isSame_41 : decode cX0_isSame 41 = .ok (.if_icmp .ge 33, 3) := dk_162 0 33 (dk_at dksX0_isSame_1 18 rfl rfl)
theorem dX0_isSame_44 : decode cX0_isSame 44 = .ok (.aload_n 3, 1) := dk_45 (dk_at dksX0_isSame_1 21 rfl rfl)
theorem dX0_isSame_45 : decode cX0_isSame 45 = .ok (.iload 4, 2) := dk_21 4 (dk_at dksX0_isSame_1 22 rfl rfl)
theorem dX0_isSame_47 : decode cX0_isSame 47 = .ok (.aload_n 0, 1) := dk_42 (dk_at dksX0_isSame_2 0 rfl rfl)
theorem dX0_isSame_48 : decode cX0_isSame 48 = .ok (.iload 7, 2) := dk_21 7 (dk_at dksX0_isSame_2 1 rfl rfl)
theorem dX0_isSame_50 : decode cX0_isSame 50 = .ok (.invokestatic 200, 3) := dk_184 0 200 (dk_at dksX0_isSame_2 3 rfl rfl)
theorem dX0_isSame_53 : decode cX0_isSame 53 = .ok (.ifCond .eq 15, 3) := dk_153 0 15 (dk_at dksX0_isSame_2 6 rfl rfl)
theorem dX0_isSame_56 : decode cX0_isSame 56 = .ok (.lload 5, 2) := dk_22 5 (dk_at dksX0_isSame_2 9 rfl rfl)
theorem dX0_isSame_58 : decode cX0_isSame 58 = .ok (.aload_n 0, 1) := dk_42 (dk_at dksX0_isSame_2 11 rfl rfl)
theorem dX0_isSame_59 : decode cX0_isSame 59 = .ok (.getfield 204, 3) := dk_180 0 204 (dk_at dksX0_isSame_2 12 rfl rfl)
theorem dX0_isSame_62 : decode cX0_isSame 62 = .ok (.iload 7, 2) := dk_21 7 (dk_at dksX0_isSame_2 15 rfl rfl)
theorem dX0_isSame_64 : decode cX0_isSame 64 = .ok (.laload, 1) := dk_47 (dk_at dksX0_isSame_2 17 rfl rfl)
theorem dX0_isSame_65 : decode cX0_isSame 65 = .ok (.ladd, 1) := dk_97 (dk_at dksX0_isSame_2 18 rfl rfl)
theorem dX0_isSame_66 : decode cX0_isSame 66 = .ok (.lstore 5, 2) := dk_55 5 (dk_at dksX0_isSame_2 19 rfl rfl)
theorem dX0_isSame_68 : decode cX0_isSame 68 = .ok (.iinc 7 1, 3) := dk_132 7 1 (dk_at dksX0_isSame_2 21 rfl rfl)
theorem dX0_isSame_71 : decode cX0_isSame 71 = .ok (.goto (-36), 3) := dk_167 255 220 (dk_at dksX0_isSame_3 0 rfl rfl)
theorem dX0_isSame_74 : decode cX0_isSame 74 = .ok (.iconst 0, 1) := dk_3 (dk_at dksX0_isSame_3 3 rfl rfl)
theorem dX0_isSame_75 : decode cX0_isSame 75 = .ok (.istore 7, 2) := dk_54 7 (dk_at dksX0_isSame_3 4 rfl rfl)
theorem dX0_isSame_77 : decode cX0_isSame 77 = .ok (.iload 7, 2) := dk_21 7 (dk_at dksX0_isSame_3 6 rfl rfl)
theorem dX0_isSame_79 : decode cX0_isSame 79 = .ok (.aload_n 1, 1) := dk_43 (dk_at dksX0_isSame_3 8 rfl rfl)
theorem dX0_isSame_80 : decode cX0_isSame 80 = .ok (.getfield 197, 3) := dk_180 0 197 (dk_at dksX0_isSame_3 9 rfl rfl)
theorem dX0_isSame_83 : decode cX0_isSame 83 = .ok (.if_icmp .ge 33, 3) := dk_162 0 33 (dk_at dksX0_isSame_3 12 rfl rfl)
theorem dX0_isSame_86 : decode cX0_isSame 86 = .ok (.aload_n 3, 1) := dk_45 (dk_at dksX0_isSame_3 15 rfl rfl)
theorem dX0_isSame_87 : decode cX0_isSame 87 = .ok (.iload 4, 2) := dk_21 4 (dk_at dksX0_isSame_3 16 rfl rfl)
theorem dX0_isSame_89 : decode cX0_isSame 89 = .ok (.aload_n 1, 1) := dk_43 (dk_at dksX0_isSame_3 18 rfl rfl)
theorem dX0_isSame_90 : decode cX0_isSame 90 = .ok (.iload 7, 2) := dk_21 7 (dk_at dksX0_isSame_3 19 rfl rfl)
theorem dX0_isSame_92 : decode cX0_isSame 92 = .ok (.invokestatic 200, 3) := dk_184 0 200 (dk_at dksX0_isSame_3 21 rfl rfl)
theorem dX0_isSame_95 : decode cX0_isSame 95 = .ok (.ifCond .eq 15, 3) := dk_153 0 15 (dk_at dksX0_isSame_4 0 rfl rfl)
theorem dX0_isSame_98 : decode cX0_isSame 98 = .ok (.lload 5, 2) := dk_22 5 (dk_at dksX0_isSame_4 3 rfl rfl)
theorem dX0_isSame_100 : decode cX0_isSame 100 = .ok (.aload_n 1, 1) := dk_43 (dk_at dksX0_isSame_4 5 rfl rfl)
theorem dX0_isSame_101 : decode cX0_isSame 101 = .ok (.getfield 204, 3) := dk_180 0 204 (dk_at dksX0_isSame_4 6 rfl rfl)
theorem dX0_isSame_104 : decode cX0_isSame 104 = .ok (.iload 7, 2) := dk_21 7 (dk_at dksX0_isSame_4 9 rfl rfl)
theorem dX0_isSame_106 : decode cX0_isSame 106 = .ok (.laload, 1) := dk_47 (dk_at dksX0_isSame_4 11 rfl rfl)
theorem dX0_isSame_107 : decode cX0_isSame 107 = .ok (.lsub, 1) := dk_101 (dk_at dksX0_isSame_4 12 rfl rfl)
theorem dX0_isSame_108 : decode cX0_isSame 108 = .ok (.lstore 5, 2) := dk_55 5 (dk_at dksX0_isSame_4 13 rfl rfl)
theorem dX0_isSame_110 : decode cX0_isSame 110 = .ok (.iinc 7 1, 3) := dk_132 7 1 (dk_at dksX0_isSame_4 15 rfl rfl)
theorem dX0_isSame_113 : decode cX0_isSame 113 = .ok (.goto (-36), 3) := dk_167 255 220 (dk_at dksX0_isSame_4 18 rfl rfl)
theorem dX0_isSame_116 : decode cX0_isSame 116 = .ok (.lload 5, 2) := dk_22 5 (dk_at dksX0_isSame_4 21 rfl rfl)
theorem dX0_isSame_118 : decode cX0_isSame 118 = .ok (.lconst 0, 1) := dk_9 (dk_at dksX0_isSame_4 23 rfl rfl)
theorem dX0_isSame_119 : decode cX0_isSame 119 = .ok (.lcmp, 1) := dk_148 (dk_at dksX0_isSame_5 0 rfl rfl)
theorem dX0_isSame_120 : decode cX0_isSame 120 = .ok (.ifCond .eq 5, 3) := dk_153 0 5 (dk_at dksX0_isSame_5 1 rfl rfl)
theorem dX0_isSame_123 : decode cX0_isSame 123 = .ok (.iconst 0, 1) := dk_3 (dk_at dksX0_isSame_5 4 rfl rfl)
theorem dX0_isSame_124 : decode cX0_isSame 124 = .ok (.ireturn, 1) := dk_172 (dk_at dksX0_isSame_5 5 rfl rfl)
theorem dX0_isSame_125 : decode cX0_isSame 125 = .ok (.iinc 4 1, 3) := dk_132 4 1 (dk_at dksX0_isSame_5 6 rfl rfl)
theorem dX0_isSame_128 : decode cX0_isSame 128 = .ok (.goto (-108), 3) := dk_167 255 148 (dk_at dksX0_isSame_5 9 rfl rfl)
theorem dX0_isSame_131 : decode cX0_isSame 131 = .ok (.iinc 2 1, 3) := dk_132 2 1 (dk_at dksX0_isSame_5 12 rfl rfl)
theorem dX0_isSame_134 : decode cX0_isSame 134 = .ok (.goto (-132), 3) := dk_167 255 124 (dk_at dksX0_isSame_5 15 rfl rfl)
theorem dX0_isSame_137 : decode cX0_isSame 137 = .ok (.iconst 1, 1) := dk_4 (dk_at dksX0_isSame_5 18 rfl rfl)
theorem dX0_isSame_138 : decode cX0_isSame 138 = .ok (.ireturn, 1) := dk_172 (dk_at dksX0_isSame_5 19 rfl rfl)
abbrev cX0_isRow : ByteArray := prog_1_method_19_code
def yX0_isRow : MethodName := ⟨RX0, "isRow", "(LLoanNames$Sink;ILLoanNames$Sink;I)Z"⟩
def dkwX0_isRow_2 : List UInt8 := [180, 0, 216, 27, 46, 44, 180, 0, 216, 29, 46, 160, 0, 7, 4, 167, 0, 4, 3, 172]
abbrev dktX0_isRow_2 : List UInt8 := dkwX0_isRow_2 ++ []
def dkwX0_isRow_1 : List UInt8 := [180, 0, 210, 29, 46, 160, 0, 37, 42, 180, 0, 213, 27, 46, 44, 180, 0, 213, 29, 46, 160, 0, 22, 42]
abbrev dktX0_isRow_1 : List UInt8 := dkwX0_isRow_1 ++ dktX0_isRow_2
def dkwX0_isRow_0 : List UInt8 := [42, 180, 0, 207, 27, 46, 44, 180, 0, 207, 29, 46, 160, 0, 52, 42, 180, 0, 210, 27, 46, 44]
abbrev dktX0_isRow_0 : List UInt8 := dkwX0_isRow_0 ++ dktX0_isRow_1
theorem dksX0_isRow_0 : cX0_isRow.data.toList.drop 0 = dktX0_isRow_0 := by decide +kernel
theorem dksX0_isRow_1 : cX0_isRow.data.toList.drop 22 = dktX0_isRow_1 := dk_seg dksX0_isRow_0 22 rfl rfl
theorem dksX0_isRow_2 : cX0_isRow.data.toList.drop 46 = dktX0_isRow_2 := dk_seg dksX0_isRow_1 24 rfl rfl
theorem dX0_isRow_0 : decode cX0_isRow 0 = .ok (.aload_n 0, 1) := dk_42 (dk_at dksX0_isRow_0 0 rfl rfl)
theorem dX0_isRow_1 : decode cX0_isRow 1 = .ok (.getfield 207, 3) := dk_180 0 207 (dk_at dksX0_isRow_0 1 rfl rfl)
theorem dX0_isRow_4 : decode cX0_isRow 4 = .ok (.iload_n 1, 1) := dk_27 (dk_at dksX0_isRow_0 4 rfl rfl)
theorem dX0_isRow_5 : decode cX0_isRow 5 = .ok (.iaload, 1) := dk_46 (dk_at dksX0_isRow_0 5 rfl rfl)
theorem dX0_isRow_6 : decode cX0_isRow 6 = .ok (.aload_n 2, 1) := dk_44 (dk_at dksX0_isRow_0 6 rfl rfl)
theorem dX0_isRow_7 : decode cX0_isRow 7 = .ok (.getfield 207, 3) := dk_180 0 207 (dk_at dksX0_isRow_0 7 rfl rfl)
theorem dX0_isRow_10 : decode cX0_isRow 10 = .ok (.iload_n 3, 1) := dk_29 (dk_at dksX0_isRow_0 10 rfl rfl)
theorem dX0_isRow_11 : decode cX0_isRow 11 = .ok (.iaload, 1) := dk_46 (dk_at dksX0_isRow_0 11 rfl rfl)
theorem dX0_isRow_12 : decode cX0_isRow 12 = .ok (.if_icmp .ne 52, 3) := dk_160 0 52 (dk_at dksX0_isRow_0 12 rfl rfl)
theorem dX0_isRow_15 : decode cX0_isRow 15 = .ok (.aload_n 0, 1) := dk_42 (dk_at dksX0_isRow_0 15 rfl rfl)
theorem dX0_isRow_16 : decode cX0_isRow 16 = .ok (.getfield 210, 3) := dk_180 0 210 (dk_at dksX0_isRow_0 16 rfl rfl)
theorem dX0_isRow_19 : decode cX0_isRow 19 = .ok (.iload_n 1, 1) := dk_27 (dk_at dksX0_isRow_0 19 rfl rfl)
theorem dX0_isRow_20 : decode cX0_isRow 20 = .ok (.iaload, 1) := dk_46 (dk_at dksX0_isRow_0 20 rfl rfl)
theorem dX0_isRow_21 : decode cX0_isRow 21 = .ok (.aload_n 2, 1) := dk_44 (dk_at dksX0_isRow_0 21 rfl rfl)
theorem dX0_isRow_22 : decode cX0_isRow 22 = .ok (.getfield 210, 3) := dk_180 0 210 (dk_at dksX0_isRow_1 0 rfl rfl)
theorem dX0_isRow_25 : decode cX0_isRow 25 = .ok (.iload_n 3, 1) := dk_29 (dk_at dksX0_isRow_1 3 rfl rfl)
theorem dX0_isRow_26 : decode cX0_isRow 26 = .ok (.iaload, 1) := dk_46 (dk_at dksX0_isRow_1 4 rfl rfl)
theorem dX0_isRow_27 : decode cX0_isRow 27 = .ok (.if_icmp .ne 37, 3) := dk_160 0 37 (dk_at dksX0_isRow_1 5 rfl rfl)
theorem dX0_isRow_30 : decode cX0_isRow 30 = .ok (.aload_n 0, 1) := dk_42 (dk_at dksX0_isRow_1 8 rfl rfl)
theorem dX0_isRow_31 : decode cX0_isRow 31 = .ok (.getfield 213, 3) := dk_180 0 213 (dk_at dksX0_isRow_1 9 rfl rfl)
theorem dX0_isRow_34 : decode cX0_isRow 34 = .ok (.iload_n 1, 1) := dk_27 (dk_at dksX0_isRow_1 12 rfl rfl)
theorem dX0_isRow_35 : decode cX0_isRow 35 = .ok (.iaload, 1) := dk_46 (dk_at dksX0_isRow_1 13 rfl rfl)
theorem dX0_isRow_36 : decode cX0_isRow 36 = .ok (.aload_n 2, 1) := dk_44 (dk_at dksX0_isRow_1 14 rfl rfl)
theorem dX0_isRow_37 : decode cX0_isRow 37 = .ok (.getfield 213, 3) := dk_180 0 213 (dk_at dksX0_isRow_1 15 rfl rfl)
theorem dX0_isRow_40 : decode cX0_isRow 40 = .ok (.iload_n 3, 1) := dk_29 (dk_at dksX0_isRow_1 18 rfl rfl)
theorem dX0_isRow_41 : decode cX0_isRow 41 = .ok (.iaload, 1) := dk_46 (dk_at dksX0_isRow_1 19 rfl rfl)
theorem dX0_isRow_42 : decode cX0_isRow 42 = .ok (.if_icmp .ne 22, 3) := dk_160 0 22 (dk_at dksX0_isRow_1 20 rfl rfl)
theorem dX0_isRow_45 : decode cX0_isRow 45 = .ok (.aload_n 0, 1) := dk_42 (dk_at dksX0_isRow_1 23 rfl rfl)
theorem dX0_isRow_46 : decode cX0_isRow 46 = .ok (.getfield 216, 3) := dk_180 0 216 (dk_at dksX0_isRow_2 0 rfl rfl)
theorem dX0_isRow_49 : decode cX0_isRow 49 = .ok (.iload_n 1, 1) := dk_27 (dk_at dksX0_isRow_2 3 rfl rfl)
theorem dX0_isRow_50 : decode cX0_isRow 50 = .ok (.iaload, 1) := dk_46 (dk_at dksX0_isRow_2 4 rfl rfl)
theorem dX0_isRow_51 : decode cX0_isRow 51 = .ok (.aload_n 2, 1) := dk_44 (dk_at dksX0_isRow_2 5 rfl rfl)
theorem dX0_isRow_52 : decode cX0_isRow 52 = .ok (.getfield 216, 3) := dk_180 0 216 (dk_at dksX0_isRow_2 6 rfl rfl)
theorem dX0_isRow_55 : decode cX0_isRow 55 = .ok (.iload_n 3, 1) := dk_29 (dk_at dksX0_isRow_2 9 rfl rfl)
theorem dX0_isRow_56 : decode cX0_isRow 56 = .ok (.iaload, 1) := dk_46 (dk_at dksX0_isRow_2 10 rfl rfl)
theorem dX0_isRow_57 : decode cX0_isRow 57 = .ok (.if_icmp .ne 7, 3) := dk_160 0 7 (dk_at dksX0_isRow_2 11 rfl rfl)
theorem dX0_isRow_60 : decode cX0_isRow 60 = .ok (.iconst 1, 1) := dk_4 (dk_at dksX0_isRow_2 14 rfl rfl)
theorem dX0_isRow_61 : decode cX0_isRow 61 = .ok (.goto 4, 3) := dk_167 0 4 (dk_at dksX0_isRow_2 15 rfl rfl)
theorem dX0_isRow_64 : decode cX0_isRow 64 = .ok (.iconst 0, 1) := dk_3 (dk_at dksX0_isRow_2 18 rfl rfl)
theorem dX0_isRow_65 : decode cX0_isRow 65 = .ok (.ireturn, 1) := dk_172 (dk_at dksX0_isRow_2 19 rfl rfl)
abbrev cX0_add : ByteArray := prog_1_method_21_code
def yX0_add : MethodName := ⟨RX0, "add", "(I)I"⟩
def dkwX0_add_2 : List UInt8 := [180, 0, 233, 172]
abbrev dktX0_add_2 : List UInt8 := dkwX0_add_2 ++ []
def dkwX0_add_1 : List UInt8 := [180, 0, 56, 44, 182, 0, 234, 153, 0, 5, 2, 172, 42, 180, 0, 56, 44, 182, 0, 238, 42, 180, 0, 56]
abbrev dktX0_add_1 : List UInt8 := dkwX0_add_1 ++ dktX0_add_2
def dkwX0_add_0 : List UInt8 := [42, 27, 182, 0, 139, 77, 44, 198, 0, 26, 42, 180, 0, 56, 180, 0, 233, 16, 6, 159, 0, 14, 42]
abbrev dktX0_add_0 : List UInt8 := dkwX0_add_0 ++ dktX0_add_1
theorem dksX0_add_0 : cX0_add.data.toList.drop 0 = dktX0_add_0 := by decide +kernel
theorem dksX0_add_1 : cX0_add.data.toList.drop 23 = dktX0_add_1 := dk_seg dksX0_add_0 23 rfl rfl
theorem dksX0_add_2 : cX0_add.data.toList.drop 47 = dktX0_add_2 := dk_seg dksX0_add_1 24 rfl rfl
theorem dX0_add_0 : decode cX0_add 0 = .ok (.aload_n 0, 1) := dk_42 (dk_at dksX0_add_0 0 rfl rfl)
theorem dX0_add_1 : decode cX0_add 1 = .ok (.iload_n 1, 1) := dk_27 (dk_at dksX0_add_0 1 rfl rfl)
theorem dX0_add_2 : decode cX0_add 2 = .ok (.invokevirtual 139, 3) := dk_182 0 139 (dk_at dksX0_add_0 2 rfl rfl)
theorem dX0_add_5 : decode cX0_add 5 = .ok (.astore_n 2, 1) := dk_77 (dk_at dksX0_add_0 5 rfl rfl)
theorem dX0_add_6 : decode cX0_add 6 = .ok (.aload_n 2, 1) := dk_44 (dk_at dksX0_add_0 6 rfl rfl)
theorem dX0_add_7 : decode cX0_add 7 = .ok (.ifnull 26, 3) := dk_198 0 26 (dk_at dksX0_add_0 7 rfl rfl)
theorem dX0_add_10 : decode cX0_add 10 = .ok (.aload_n 0, 1) := dk_42 (dk_at dksX0_add_0 10 rfl rfl)
theorem dX0_add_11 : decode cX0_add 11 = .ok (.getfield 56, 3) := dk_180 0 56 (dk_at dksX0_add_0 11 rfl rfl)
theorem dX0_add_14 : decode cX0_add 14 = .ok (.getfield 233, 3) := dk_180 0 233 (dk_at dksX0_add_0 14 rfl rfl)
theorem dX0_add_17 : decode cX0_add 17 = .ok (.bipush 6, 2) := dk_16 6 (dk_at dksX0_add_0 17 rfl rfl)
theorem dX0_add_19 : decode cX0_add 19 = .ok (.if_icmp .eq 14, 3) := dk_159 0 14 (dk_at dksX0_add_0 19 rfl rfl)
theorem dX0_add_22 : decode cX0_add 22 = .ok (.aload_n 0, 1) := dk_42 (dk_at dksX0_add_0 22 rfl rfl)
theorem dX0_add_23 : decode cX0_add 23 = .ok (.getfield 56, 3) := dk_180 0 56 (dk_at dksX0_add_1 0 rfl rfl)
theorem dX0_add_26 : decode cX0_add 26 = .ok (.aload_n 2, 1) := dk_44 (dk_at dksX0_add_1 3 rfl rfl)
theorem dX0_add_27 : decode cX0_add 27 = .ok (.invokevirtual 234, 3) := dk_182 0 234 (dk_at dksX0_add_1 4 rfl rfl)
theorem dX0_add_30 : decode cX0_add 30 = .ok (.ifCond .eq 5, 3) := dk_153 0 5 (dk_at dksX0_add_1 7 rfl rfl)
theorem dX0_add_33 : decode cX0_add 33 = .ok (.iconst (-1), 1) := dk_2 (dk_at dksX0_add_1 10 rfl rfl)
theorem dX0_add_34 : decode cX0_add 34 = .ok (.ireturn, 1) := dk_172 (dk_at dksX0_add_1 11 rfl rfl)
theorem dX0_add_35 : decode cX0_add 35 = .ok (.aload_n 0, 1) := dk_42 (dk_at dksX0_add_1 12 rfl rfl)
theorem dX0_add_36 : decode cX0_add 36 = .ok (.getfield 56, 3) := dk_180 0 56 (dk_at dksX0_add_1 13 rfl rfl)
theorem dX0_add_39 : decode cX0_add 39 = .ok (.aload_n 2, 1) := dk_44 (dk_at dksX0_add_1 16 rfl rfl)
theorem dX0_add_40 : decode cX0_add 40 = .ok (.invokevirtual 238, 3) := dk_182 0 238 (dk_at dksX0_add_1 17 rfl rfl)
theorem dX0_add_43 : decode cX0_add 43 = .ok (.aload_n 0, 1) := dk_42 (dk_at dksX0_add_1 20 rfl rfl)
theorem dX0_add_44 : decode cX0_add 44 = .ok (.getfield 56, 3) := dk_180 0 56 (dk_at dksX0_add_1 21 rfl rfl)
theorem dX0_add_47 : decode cX0_add 47 = .ok (.getfield 233, 3) := dk_180 0 233 (dk_at dksX0_add_2 0 rfl rfl)
theorem dX0_add_50 : decode cX0_add 50 = .ok (.ireturn, 1) := dk_172 (dk_at dksX0_add_2 3 rfl rfl)
abbrev cX0_clear : ByteArray := prog_1_method_22_code
def yX0_clear : MethodName := ⟨RX0, "clear", "()I"⟩
def dkwX0_clear_0 : List UInt8 := [42, 180, 0, 56, 180, 0, 233, 60, 42, 180, 0, 56, 182, 0, 242, 27, 172]
abbrev dktX0_clear_0 : List UInt8 := dkwX0_clear_0 ++ []
theorem dksX0_clear_0 : cX0_clear.data.toList.drop 0 = dktX0_clear_0 := by decide +kernel
theorem dX0_clear_0 : decode cX0_clear 0 = .ok (.aload_n 0, 1) := dk_42 (dk_at dksX0_clear_0 0 rfl rfl)
theorem dX0_clear_1 : decode cX0_clear 1 = .ok (.getfield 56, 3) := dk_180 0 56 (dk_at dksX0_clear_0 1 rfl rfl)
theorem dX0_clear_4 : decode cX0_clear 4 = .ok (.getfield 233, 3) := dk_180 0 233 (dk_at dksX0_clear_0 4 rfl rfl)
theorem dX0_clear_7 : decode cX0_clear 7 = .ok (.istore_n 1, 1) := dk_60 (dk_at dksX0_clear_0 7 rfl rfl)
theorem dX0_clear_8 : decode cX0_clear 8 = .ok (.aload_n 0, 1) := dk_42 (dk_at dksX0_clear_0 8 rfl rfl)
theorem dX0_clear_9 : decode cX0_clear 9 = .ok (.getfield 56, 3) := dk_180 0 56 (dk_at dksX0_clear_0 9 rfl rfl)
theorem dX0_clear_12 : decode cX0_clear 12 = .ok (.invokevirtual 242, 3) := dk_182 0 242 (dk_at dksX0_clear_0 12 rfl rfl)
theorem dX0_clear_15 : decode cX0_clear 15 = .ok (.iload_n 1, 1) := dk_27 (dk_at dksX0_clear_0 15 rfl rfl)
theorem dX0_clear_16 : decode cX0_clear 16 = .ok (.ireturn, 1) := dk_172 (dk_at dksX0_clear_0 16 rfl rfl)
abbrev cX0_passed : ByteArray := prog_1_method_23_code
def yX0_passed : MethodName := ⟨RX0, "passed", "(III)J"⟩
def dkwX0_passed_5 : List UInt8 := [46, 133, 173, 25, 4, 180, 0, 216, 28, 46, 133, 173, 25, 4, 180, 0, 204, 28, 47, 173, 20, 0, 249, 173]
abbrev dktX0_passed_5 : List UInt8 := dkwX0_passed_5 ++ []
def dkwX0_passed_4 : List UInt8 := [25, 4, 180, 0, 207, 28, 46, 133, 173, 25, 4, 180, 0, 210, 28, 46, 133, 173, 25, 4, 180, 0, 213, 28]
abbrev dktX0_passed_4 : List UInt8 := dkwX0_passed_4 ++ dktX0_passed_5
def dkwX0_passed_3 : List UInt8 := [170, 0, 0, 0, 77, 0, 0, 0, 0, 0, 0, 0, 4, 0, 0, 0, 33, 0, 0, 0, 42, 0, 0, 0, 51, 0, 0, 0, 60, 0, 0, 0, 69]
abbrev dktX0_passed_3 : List UInt8 := dkwX0_passed_3 ++ dktX0_passed_4
def dkwX0_passed_2 : List UInt8 := [28, 3, 25, 4, 180, 0, 197, 4, 100, 184, 0, 70, 154, 0, 7, 20, 0, 249, 173, 29]
abbrev dktX0_passed_2 : List UInt8 := dkwX0_passed_2 ++ dktX0_passed_3
def dkwX0_passed_1 : List UInt8 := [58, 4, 28, 2, 160, 0, 20, 29, 154, 0, 12, 25, 4, 180, 0, 197, 133, 167, 0, 6, 20, 0, 249, 173]
abbrev dktX0_passed_1 : List UInt8 := dkwX0_passed_1 ++ dktX0_passed_2
def dkwX0_passed_0 : List UInt8 := [42, 180, 0, 56, 27, 182, 0, 245, 154, 0, 7, 20, 0, 249, 173, 42, 180, 0, 56, 27, 182, 0, 251]
abbrev dktX0_passed_0 : List UInt8 := dkwX0_passed_0 ++ dktX0_passed_1
theorem dksX0_passed_0 : cX0_passed.data.toList.drop 0 = dktX0_passed_0 := by decide +kernel
theorem dksX0_passed_1 : cX0_passed.data.toList.drop 23 = dktX0_passed_1 := dk_seg dksX0_passed_0 23 rfl rfl
theorem dksX0_passed_2 : cX0_passed.data.toList.drop 47 = dktX0_passed_2 := dk_seg dksX0_passed_1 24 rfl rfl
theorem dksX0_passed_3 : cX0_passed.data.toList.drop 67 = dktX0_passed_3 := dk_seg dksX0_passed_2 20 rfl rfl
theorem dksX0_passed_4 : cX0_passed.data.toList.drop 100 = dktX0_passed_4 := dk_seg dksX0_passed_3 33 rfl rfl
theorem dksX0_passed_5 : cX0_passed.data.toList.drop 124 = dktX0_passed_5 := dk_seg dksX0_passed_4 24 rfl rfl
theorem dX0_passed_0 : decode cX0_passed 0 = .ok (.aload_n 0, 1) := dk_42 (dk_at dksX0_passed_0 0 rfl rfl)
theorem dX0_passed_1 : decode cX0_passed 1 = .ok (.getfield 56, 3) := dk_180 0 56 (dk_at dksX0_passed_0 1 rfl rfl)
theorem dX0_passed_4 : decode cX0_passed 4 = .ok (.iload_n 1, 1) := dk_27 (dk_at dksX0_passed_0 4 rfl rfl)
theorem dX0_passed_5 : decode cX0_passed 5 = .ok (.invokevirtual 245, 3) := dk_182 0 245 (dk_at dksX0_passed_0 5 rfl rfl)
theorem dX0_passed_8 : decode cX0_passed 8 = .ok (.ifCond .ne 7, 3) := dk_154 0 7 (dk_at dksX0_passed_0 8 rfl rfl)
theorem dX0_passed_11 : decode cX0_passed 11 = .ok (.ldc2_w 249, 3) := dk_20 0 249 (dk_at dksX0_passed_0 11 rfl rfl)
theorem dX0_passed_14 : decode cX0_passed 14 = .ok (.lreturn, 1) := dk_173 (dk_at dksX0_passed_0 14 rfl rfl)
theorem dX0_passed_15 : decode cX0_passed 15 = .ok (.aload_n 0, 1) := dk_42 (dk_at dksX0_passed_0 15 rfl rfl)
theorem dX0_passed_16 : decode cX0_passed 16 = .ok (.getfield 56, 3) := dk_180 0 56 (dk_at dksX0_passed_0 16 rfl rfl)
theorem dX0_passed_19 : decode cX0_passed 19 = .ok (.iload_n 1, 1) := dk_27 (dk_at dksX0_passed_0 19 rfl rfl)
theorem dX0_passed_20 : decode cX0_passed 20 = .ok (.invokevirtual 251, 3) := dk_182 0 251 (dk_at dksX0_passed_0 20 rfl rfl)
theorem dX0_passed_23 : decode cX0_passed 23 = .ok (.astore 4, 2) := dk_58 4 (dk_at dksX0_passed_1 0 rfl rfl)
theorem dX0_passed_25 : decode cX0_passed 25 = .ok (.iload_n 2, 1) := dk_28 (dk_at dksX0_passed_1 2 rfl rfl)
theorem dX0_passed_26 : decode cX0_passed 26 = .ok (.iconst (-1), 1) := dk_2 (dk_at dksX0_passed_1 3 rfl rfl)
theorem dX0_passed_27 : decode cX0_passed 27 = .ok (.if_icmp .ne 20, 3) := dk_160 0 20 (dk_at dksX0_passed_1 4 rfl rfl)
theorem dX0_passed_30 : decode cX0_passed 30 = .ok (.iload_n 3, 1) := dk_29 (dk_at dksX0_passed_1 7 rfl rfl)
theorem dX0_passed_31 : decode cX0_passed 31 = .ok (.ifCond .ne 12, 3) := dk_154 0 12 (dk_at dksX0_passed_1 8 rfl rfl)
theorem dX0_passed_34 : decode cX0_passed 34 = .ok (.aload 4, 2) := dk_25 4 (dk_at dksX0_passed_1 11 rfl rfl)
theorem dX0_passed_36 : decode cX0_passed 36 = .ok (.getfield 197, 3) := dk_180 0 197 (dk_at dksX0_passed_1 13 rfl rfl)
theorem dX0_passed_39 : decode cX0_passed 39 = .ok (.i2l, 1) := dk_133 (dk_at dksX0_passed_1 16 rfl rfl)
theorem dX0_passed_40 : decode cX0_passed 40 = .ok (.goto 6, 3) := dk_167 0 6 (dk_at dksX0_passed_1 17 rfl rfl)
theorem dX0_passed_43 : decode cX0_passed 43 = .ok (.ldc2_w 249, 3) := dk_20 0 249 (dk_at dksX0_passed_1 20 rfl rfl)
theorem dX0_passed_46 : decode cX0_passed 46 = .ok (.lreturn, 1) := dk_173 (dk_at dksX0_passed_1 23 rfl rfl)
theorem dX0_passed_47 : decode cX0_passed 47 = .ok (.iload_n 2, 1) := dk_28 (dk_at dksX0_passed_2 0 rfl rfl)
theorem dX0_passed_48 : decode cX0_passed 48 = .ok (.iconst 0, 1) := dk_3 (dk_at dksX0_passed_2 1 rfl rfl)
theorem dX0_passed_49 : decode cX0_passed 49 = .ok (.aload 4, 2) := dk_25 4 (dk_at dksX0_passed_2 2 rfl rfl)
theorem dX0_passed_51 : decode cX0_passed 51 = .ok (.getfield 197, 3) := dk_180 0 197 (dk_at dksX0_passed_2 4 rfl rfl)
theorem dX0_passed_54 : decode cX0_passed 54 = .ok (.iconst 1, 1) := dk_4 (dk_at dksX0_passed_2 7 rfl rfl)
theorem dX0_passed_55 : decode cX0_passed 55 = .ok (.isub, 1) := dk_100 (dk_at dksX0_passed_2 8 rfl rfl)
theorem dX0_passed_56 : decode cX0_passed 56 = .ok (.invokestatic 70, 3) := dk_184 0 70 (dk_at dksX0_passed_2 9 rfl rfl)
theorem dX0_passed_59 : decode cX0_passed 59 = .ok (.ifCond .ne 7, 3) := dk_154 0 7 (dk_at dksX0_passed_2 12 rfl rfl)
theorem dX0_passed_62 : decode cX0_passed 62 = .ok (.ldc2_w 249, 3) := dk_20 0 249 (dk_at dksX0_passed_2 15 rfl rfl)
theorem dX0_passed_65 : decode cX0_passed 65 = .ok (.lreturn, 1) := dk_173 (dk_at dksX0_passed_2 18 rfl rfl)
theorem dX0_passed_66 : decode cX0_passed 66 = .ok (.iload_n 3, 1) := dk_29 (dk_at dksX0_passed_2 19 rfl rfl)
theorem dX0_passed_67 : decode cX0_passed 67 = .ok (.tableswitch 77 0 4 #[33, 42, 51, 60, 69], 33) := by decide +kernel
theorem dX0_passed_100 : decode cX0_passed 100 = .ok (.aload 4, 2) := dk_25 4 (dk_at dksX0_passed_4 0 rfl rfl)
theorem dX0_passed_102 : decode cX0_passed 102 = .ok (.getfield 207, 3) := dk_180 0 207 (dk_at dksX0_passed_4 2 rfl rfl)
theorem dX0_passed_105 : decode cX0_passed 105 = .ok (.iload_n 2, 1) := dk_28 (dk_at dksX0_passed_4 5 rfl rfl)
theorem dX0_passed_106 : decode cX0_passed 106 = .ok (.iaload, 1) := dk_46 (dk_at dksX0_passed_4 6 rfl rfl)
theorem dX0_passed_107 : decode cX0_passed 107 = .ok (.i2l, 1) := dk_133 (dk_at dksX0_passed_4 7 rfl rfl)
theorem dX0_passed_108 : decode cX0_passed 108 = .ok (.lreturn, 1) := dk_173 (dk_at dksX0_passed_4 8 rfl rfl)
theorem dX0_passed_109 : decode cX0_passed 109 = .ok (.aload 4, 2) := dk_25 4 (dk_at dksX0_passed_4 9 rfl rfl)
theorem dX0_passed_111 : decode cX0_passed 111 = .ok (.getfield 210, 3) := dk_180 0 210 (dk_at dksX0_passed_4 11 rfl rfl)
theorem dX0_passed_114 : decode cX0_passed 114 = .ok (.iload_n 2, 1) := dk_28 (dk_at dksX0_passed_4 14 rfl rfl)
theorem dX0_passed_115 : decode cX0_passed 115 = .ok (.iaload, 1) := dk_46 (dk_at dksX0_passed_4 15 rfl rfl)
theorem dX0_passed_116 : decode cX0_passed 116 = .ok (.i2l, 1) := dk_133 (dk_at dksX0_passed_4 16 rfl rfl)
theorem dX0_passed_117 : decode cX0_passed 117 = .ok (.lreturn, 1) := dk_173 (dk_at dksX0_passed_4 17 rfl rfl)
theorem dX0_passed_118 : decode cX0_passed 118 = .ok (.aload 4, 2) := dk_25 4 (dk_at dksX0_passed_4 18 rfl rfl)
theorem dX0_passed_120 : decode cX0_passed 120 = .ok (.getfield 213, 3) := dk_180 0 213 (dk_at dksX0_passed_4 20 rfl rfl)
theorem dX0_passed_123 : decode cX0_passed 123 = .ok (.iload_n 2, 1) := dk_28 (dk_at dksX0_passed_4 23 rfl rfl)
theorem dX0_passed_124 : decode cX0_passed 124 = .ok (.iaload, 1) := dk_46 (dk_at dksX0_passed_5 0 rfl rfl)
theorem dX0_passed_125 : decode cX0_passed 125 = .ok (.i2l, 1) := dk_133 (dk_at dksX0_passed_5 1 rfl rfl)
theorem dX0_passed_126 : decode cX0_passed 126 = .ok (.lreturn, 1) := dk_173 (dk_at dksX0_passed_5 2 rfl rfl)
theorem dX0_passed_127 : decode cX0_passed 127 = .ok (.aload 4, 2) := dk_25 4 (dk_at dksX0_passed_5 3 rfl rfl)
theorem dX0_passed_129 : decode cX0_passed 129 = .ok (.getfield 216, 3) := dk_180 0 216 (dk_at dksX0_passed_5 5 rfl rfl)
theorem dX0_passed_132 : decode cX0_passed 132 = .ok (.iload_n 2, 1) := dk_28 (dk_at dksX0_passed_5 8 rfl rfl)
theorem dX0_passed_133 : decode cX0_passed 133 = .ok (.iaload, 1) := dk_46 (dk_at dksX0_passed_5 9 rfl rfl)
theorem dX0_passed_134 : decode cX0_passed 134 = .ok (.i2l, 1) := dk_133 (dk_at dksX0_passed_5 10 rfl rfl)
theorem dX0_passed_135 : decode cX0_passed 135 = .ok (.lreturn, 1) := dk_173 (dk_at dksX0_passed_5 11 rfl rfl)
theorem dX0_passed_136 : decode cX0_passed 136 = .ok (.aload 4, 2) := dk_25 4 (dk_at dksX0_passed_5 12 rfl rfl)
theorem dX0_passed_138 : decode cX0_passed 138 = .ok (.getfield 204, 3) := dk_180 0 204 (dk_at dksX0_passed_5 14 rfl rfl)
theorem dX0_passed_141 : decode cX0_passed 141 = .ok (.iload_n 2, 1) := dk_28 (dk_at dksX0_passed_5 17 rfl rfl)
theorem dX0_passed_142 : decode cX0_passed 142 = .ok (.laload, 1) := dk_47 (dk_at dksX0_passed_5 18 rfl rfl)
theorem dX0_passed_143 : decode cX0_passed 143 = .ok (.lreturn, 1) := dk_173 (dk_at dksX0_passed_5 19 rfl rfl)
theorem dX0_passed_144 : decode cX0_passed 144 = .ok (.ldc2_w 249, 3) := dk_20 0 249 (dk_at dksX0_passed_5 20 rfl rfl)
theorem dX0_passed_147 : decode cX0_passed 147 = .ok (.lreturn, 1) := dk_173 (dk_at dksX0_passed_5 23 rfl rfl)
abbrev cX0_net : ByteArray := prog_1_method_25_code
def yX0_net : MethodName := ⟨RX0, "net", "(IIII)J"⟩
def dkwX0_net_2 : List UInt8 := [182, 1, 1, 167, 0, 6, 20, 1, 5, 173]
abbrev dktX0_net_2 : List UInt8 := dkwX0_net_2 ++ []
def dkwX0_net_1 : List UInt8 := [153, 0, 30, 21, 4, 2, 17, 39, 15, 184, 0, 70, 153, 0, 18, 42, 180, 0, 56, 27, 28, 29, 21, 4]
abbrev dktX0_net_1 : List UInt8 := dkwX0_net_1 ++ dktX0_net_2
def dkwX0_net_0 : List UInt8 := [42, 180, 0, 56, 27, 182, 0, 245, 153, 0, 46, 28, 184, 0, 254, 153, 0, 39, 29, 3, 8, 184, 0, 70]
abbrev dktX0_net_0 : List UInt8 := dkwX0_net_0 ++ dktX0_net_1
theorem dksX0_net_0 : cX0_net.data.toList.drop 0 = dktX0_net_0 := by decide +kernel
theorem dksX0_net_1 : cX0_net.data.toList.drop 24 = dktX0_net_1 := dk_seg dksX0_net_0 24 rfl rfl
theorem dksX0_net_2 : cX0_net.data.toList.drop 48 = dktX0_net_2 := dk_seg dksX0_net_1 24 rfl rfl
theorem dX0_net_0 : decode cX0_net 0 = .ok (.aload_n 0, 1) := dk_42 (dk_at dksX0_net_0 0 rfl rfl)
theorem dX0_net_1 : decode cX0_net 1 = .ok (.getfield 56, 3) := dk_180 0 56 (dk_at dksX0_net_0 1 rfl rfl)
theorem dX0_net_4 : decode cX0_net 4 = .ok (.iload_n 1, 1) := dk_27 (dk_at dksX0_net_0 4 rfl rfl)
theorem dX0_net_5 : decode cX0_net 5 = .ok (.invokevirtual 245, 3) := dk_182 0 245 (dk_at dksX0_net_0 5 rfl rfl)
theorem dX0_net_8 : decode cX0_net 8 = .ok (.ifCond .eq 46, 3) := dk_153 0 46 (dk_at dksX0_net_0 8 rfl rfl)
theorem dX0_net_11 : decode cX0_net 11 = .ok (.iload_n 2, 1) := dk_28 (dk_at dksX0_net_0 11 rfl rfl)
theorem dX0_net_12 : decode cX0_net 12 = .ok (.invokestatic 254, 3) := dk_184 0 254 (dk_at dksX0_net_0 12 rfl rfl)
theorem dX0_net_15 : decode cX0_net 15 = .ok (.ifCond .eq 39, 3) := dk_153 0 39 (dk_at dksX0_net_0 15 rfl rfl)
theorem dX0_net_18 : decode cX0_net 18 = .ok (.iload_n 3, 1) := dk_29 (dk_at dksX0_net_0 18 rfl rfl)
theorem dX0_net_19 : decode cX0_net 19 = .ok (.iconst 0, 1) := dk_3 (dk_at dksX0_net_0 19 rfl rfl)
theorem dX0_net_20 : decode cX0_net 20 = .ok (.iconst 5, 1) := dk_8 (dk_at dksX0_net_0 20 rfl rfl)
theorem dX0_net_21 : decode cX0_net 21 = .ok (.invokestatic 70, 3) := dk_184 0 70 (dk_at dksX0_net_0 21 rfl rfl)
theorem dX0_net_24 : decode cX0_net 24 = .ok (.ifCond .eq 30, 3) := dk_153 0 30 (dk_at dksX0_net_1 0 rfl rfl)
theorem dX0_net_27 : decode cX0_net 27 = .ok (.iload 4, 2) := dk_21 4 (dk_at dksX0_net_1 3 rfl rfl)
theorem dX0_net_29 : decode cX0_net 29 = .ok (.iconst (-1), 1) := dk_2 (dk_at dksX0_net_1 5 rfl rfl)
theorem dX0_net_30 : decode cX0_net 30 = .ok (.sipush 9999, 3) := dk_17 39 15 (dk_at dksX0_net_1 6 rfl rfl)
theorem dX0_net_33 : decode cX0_net 33 = .ok (.invokestatic 70, 3) := dk_184 0 70 (dk_at dksX0_net_1 9 rfl rfl)
theorem dX0_net_36 : decode cX0_net 36 = .ok (.ifCond .eq 18, 3) := dk_153 0 18 (dk_at dksX0_net_1 12 rfl rfl)
theorem dX0_net_39 : decode cX0_net 39 = .ok (.aload_n 0, 1) := dk_42 (dk_at dksX0_net_1 15 rfl rfl)
theorem dX0_net_40 : decode cX0_net 40 = .ok (.getfield 56, 3) := dk_180 0 56 (dk_at dksX0_net_1 16 rfl rfl)
theorem dX0_net_43 : decode cX0_net 43 = .ok (.iload_n 1, 1) := dk_27 (dk_at dksX0_net_1 19 rfl rfl)
theorem dX0_net_44 : decode cX0_net 44 = .ok (.iload_n 2, 1) := dk_28 (dk_at dksX0_net_1 20 rfl rfl)
theorem dX0_net_45 : decode cX0_net 45 = .ok (.iload_n 3, 1) := dk_29 (dk_at dksX0_net_1 21 rfl rfl)
theorem dX0_net_46 : decode cX0_net 46 = .ok (.iload 4, 2) := dk_21 4 (dk_at dksX0_net_1 22 rfl rfl)
theorem dX0_net_48 : decode cX0_net 48 = .ok (.invokevirtual 257, 3) := dk_182 1 1 (dk_at dksX0_net_2 0 rfl rfl)
theorem dX0_net_51 : decode cX0_net 51 = .ok (.goto 6, 3) := dk_167 0 6 (dk_at dksX0_net_2 3 rfl rfl)
theorem dX0_net_54 : decode cX0_net 54 = .ok (.ldc2_w 261, 3) := dk_20 1 5 (dk_at dksX0_net_2 6 rfl rfl)
theorem dX0_net_57 : decode cX0_net 57 = .ok (.lreturn, 1) := dk_173 (dk_at dksX0_net_2 9 rfl rfl)
abbrev cX0_isFamily : ByteArray := prog_1_method_24_code
def yX0_isFamily : MethodName := ⟨RX0, "isFamily", "(I)Z"⟩
def dkwX0_isFamily_0 : List UInt8 := [26, 3, 16, 7, 184, 0, 70, 172]
abbrev dktX0_isFamily_0 : List UInt8 := dkwX0_isFamily_0 ++ []
theorem dksX0_isFamily_0 : cX0_isFamily.data.toList.drop 0 = dktX0_isFamily_0 := by decide +kernel
theorem dX0_isFamily_0 : decode cX0_isFamily 0 = .ok (.iload_n 0, 1) := dk_26 (dk_at dksX0_isFamily_0 0 rfl rfl)
theorem dX0_isFamily_1 : decode cX0_isFamily 1 = .ok (.iconst 0, 1) := dk_3 (dk_at dksX0_isFamily_0 1 rfl rfl)
theorem dX0_isFamily_2 : decode cX0_isFamily 2 = .ok (.bipush 7, 2) := dk_16 7 (dk_at dksX0_isFamily_0 2 rfl rfl)
theorem dX0_isFamily_4 : decode cX0_isFamily 4 = .ok (.invokestatic 70, 3) := dk_184 0 70 (dk_at dksX0_isFamily_0 4 rfl rfl)
theorem dX0_isFamily_7 : decode cX0_isFamily 7 = .ok (.ireturn, 1) := dk_172 (dk_at dksX0_isFamily_0 7 rfl rfl)
abbrev cX0_codes : ByteArray := prog_1_method_26_code
def yX0_codes : MethodName := ⟨RX0, "codes", "()I"⟩
def dkwX0_codes_0 : List UInt8 := [42, 180, 0, 56, 182, 1, 7, 153, 0, 13, 42, 180, 0, 56, 182, 1, 11, 167, 0, 4, 2, 172]
abbrev dktX0_codes_0 : List UInt8 := dkwX0_codes_0 ++ []
theorem dksX0_codes_0 : cX0_codes.data.toList.drop 0 = dktX0_codes_0 := by decide +kernel
theorem dX0_codes_0 : decode cX0_codes 0 = .ok (.aload_n 0, 1) := dk_42 (dk_at dksX0_codes_0 0 rfl rfl)
theorem dX0_codes_1 : decode cX0_codes 1 = .ok (.getfield 56, 3) := dk_180 0 56 (dk_at dksX0_codes_0 1 rfl rfl)
theorem dX0_codes_4 : decode cX0_codes 4 = .ok (.invokevirtual 263, 3) := dk_182 1 7 (dk_at dksX0_codes_0 4 rfl rfl)
theorem dX0_codes_7 : decode cX0_codes 7 = .ok (.ifCond .eq 13, 3) := dk_153 0 13 (dk_at dksX0_codes_0 7 rfl rfl)
theorem dX0_codes_10 : decode cX0_codes 10 = .ok (.aload_n 0, 1) := dk_42 (dk_at dksX0_codes_0 10 rfl rfl)
theorem dX0_codes_11 : decode cX0_codes 11 = .ok (.getfield 56, 3) := dk_180 0 56 (dk_at dksX0_codes_0 11 rfl rfl)
theorem dX0_codes_14 : decode cX0_codes 14 = .ok (.invokevirtual 267, 3) := dk_182 1 11 (dk_at dksX0_codes_0 14 rfl rfl)
theorem dX0_codes_17 : decode cX0_codes 17 = .ok (.goto 4, 3) := dk_167 0 4 (dk_at dksX0_codes_0 17 rfl rfl)
theorem dX0_codes_20 : decode cX0_codes 20 = .ok (.iconst (-1), 1) := dk_2 (dk_at dksX0_codes_0 20 rfl rfl)
theorem dX0_codes_21 : decode cX0_codes 21 = .ok (.ireturn, 1) := dk_172 (dk_at dksX0_codes_0 21 rfl rfl)
abbrev cX0_lends : ByteArray := prog_1_method_28_code
def yX0_lends : MethodName := ⟨RX0, "lends", "(II)I"⟩
def dkwX0_lends_1 : List UInt8 := [28, 182, 1, 17, 167, 0, 4, 2, 172]
abbrev dktX0_lends_1 : List UInt8 := dkwX0_lends_1 ++ []
def dkwX0_lends_0 : List UInt8 := [42, 180, 0, 56, 182, 1, 7, 153, 0, 24, 42, 27, 28, 182, 1, 14, 153, 0, 15, 42, 180, 0, 56, 27]
abbrev dktX0_lends_0 : List UInt8 := dkwX0_lends_0 ++ dktX0_lends_1
theorem dksX0_lends_0 : cX0_lends.data.toList.drop 0 = dktX0_lends_0 := by decide +kernel
theorem dksX0_lends_1 : cX0_lends.data.toList.drop 24 = dktX0_lends_1 := dk_seg dksX0_lends_0 24 rfl rfl
theorem dX0_lends_0 : decode cX0_lends 0 = .ok (.aload_n 0, 1) := dk_42 (dk_at dksX0_lends_0 0 rfl rfl)
theorem dX0_lends_1 : decode cX0_lends 1 = .ok (.getfield 56, 3) := dk_180 0 56 (dk_at dksX0_lends_0 1 rfl rfl)
theorem dX0_lends_4 : decode cX0_lends 4 = .ok (.invokevirtual 263, 3) := dk_182 1 7 (dk_at dksX0_lends_0 4 rfl rfl)
theorem dX0_lends_7 : decode cX0_lends 7 = .ok (.ifCond .eq 24, 3) := dk_153 0 24 (dk_at dksX0_lends_0 7 rfl rfl)
theorem dX0_lends_10 : decode cX0_lends 10 = .ok (.aload_n 0, 1) := dk_42 (dk_at dksX0_lends_0 10 rfl rfl)
theorem dX0_lends_11 : decode cX0_lends 11 = .ok (.iload_n 1, 1) := dk_27 (dk_at dksX0_lends_0 11 rfl rfl)
theorem dX0_lends_12 : decode cX0_lends 12 = .ok (.iload_n 2, 1) := dk_28 (dk_at dksX0_lends_0 12 rfl rfl)
theorem dX0_lends_13 : decode cX0_lends 13 = .ok (.invokevirtual 270, 3) := dk_182 1 14 (dk_at dksX0_lends_0 13 rfl rfl)
theorem dX0_lends_16 : decode cX0_lends 16 = .ok (.ifCond .eq 15, 3) := dk_153 0 15 (dk_at dksX0_lends_0 16 rfl rfl)
theorem dX0_lends_19 : decode cX0_lends 19 = .ok (.aload_n 0, 1) := dk_42 (dk_at dksX0_lends_0 19 rfl rfl)
theorem dX0_lends_20 : decode cX0_lends 20 = .ok (.getfield 56, 3) := dk_180 0 56 (dk_at dksX0_lends_0 20 rfl rfl)
theorem dX0_lends_23 : decode cX0_lends 23 = .ok (.iload_n 1, 1) := dk_27 (dk_at dksX0_lends_0 23 rfl rfl)
theorem dX0_lends_24 : decode cX0_lends 24 = .ok (.iload_n 2, 1) := dk_28 (dk_at dksX0_lends_1 0 rfl rfl)
theorem dX0_lends_25 : decode cX0_lends 25 = .ok (.invokevirtual 273, 3) := dk_182 1 17 (dk_at dksX0_lends_1 1 rfl rfl)
theorem dX0_lends_28 : decode cX0_lends 28 = .ok (.goto 4, 3) := dk_167 0 4 (dk_at dksX0_lends_1 4 rfl rfl)
theorem dX0_lends_31 : decode cX0_lends 31 = .ok (.iconst (-1), 1) := dk_2 (dk_at dksX0_lends_1 7 rfl rfl)
theorem dX0_lends_32 : decode cX0_lends 32 = .ok (.ireturn, 1) := dk_172 (dk_at dksX0_lends_1 8 rfl rfl)
abbrev cX0_areTwo : ByteArray := prog_1_method_27_code
def yX0_areTwo : MethodName := ⟨RX0, "areTwo", "(II)Z"⟩
def dkwX0_areTwo_1 : List UInt8 := [172]
abbrev dktX0_areTwo_1 : List UInt8 := dkwX0_areTwo_1 ++ []
def dkwX0_areTwo_0 : List UInt8 := [27, 184, 0, 254, 153, 0, 19, 28, 184, 0, 254, 153, 0, 12, 27, 28, 159, 0, 7, 4, 167, 0, 4, 3]
abbrev dktX0_areTwo_0 : List UInt8 := dkwX0_areTwo_0 ++ dktX0_areTwo_1
theorem dksX0_areTwo_0 : cX0_areTwo.data.toList.drop 0 = dktX0_areTwo_0 := by decide +kernel
theorem dksX0_areTwo_1 : cX0_areTwo.data.toList.drop 24 = dktX0_areTwo_1 := dk_seg dksX0_areTwo_0 24 rfl rfl
theorem dX0_areTwo_0 : decode cX0_areTwo 0 = .ok (.iload_n 1, 1) := dk_27 (dk_at dksX0_areTwo_0 0 rfl rfl)
theorem dX0_areTwo_1 : decode cX0_areTwo 1 = .ok (.invokestatic 254, 3) := dk_184 0 254 (dk_at dksX0_areTwo_0 1 rfl rfl)
theorem dX0_areTwo_4 : decode cX0_areTwo 4 = .ok (.ifCond .eq 19, 3) := dk_153 0 19 (dk_at dksX0_areTwo_0 4 rfl rfl)
theorem dX0_areTwo_7 : decode cX0_areTwo 7 = .ok (.iload_n 2, 1) := dk_28 (dk_at dksX0_areTwo_0 7 rfl rfl)
theorem dX0_areTwo_8 : decode cX0_areTwo 8 = .ok (.invokestatic 254, 3) := dk_184 0 254 (dk_at dksX0_areTwo_0 8 rfl rfl)
theorem dX0_areTwo_11 : decode cX0_areTwo 11 = .ok (.ifCond .eq 12, 3) := dk_153 0 12 (dk_at dksX0_areTwo_0 11 rfl rfl)
theorem dX0_areTwo_14 : decode cX0_areTwo 14 = .ok (.iload_n 1, 1) := dk_27 (dk_at dksX0_areTwo_0 14 rfl rfl)
theorem dX0_areTwo_15 : decode cX0_areTwo 15 = .ok (.iload_n 2, 1) := dk_28 (dk_at dksX0_areTwo_0 15 rfl rfl)
theorem dX0_areTwo_16 : decode cX0_areTwo 16 = .ok (.if_icmp .eq 7, 3) := dk_159 0 7 (dk_at dksX0_areTwo_0 16 rfl rfl)
theorem dX0_areTwo_19 : decode cX0_areTwo 19 = .ok (.iconst 1, 1) := dk_4 (dk_at dksX0_areTwo_0 19 rfl rfl)
theorem dX0_areTwo_20 : decode cX0_areTwo 20 = .ok (.goto 4, 3) := dk_167 0 4 (dk_at dksX0_areTwo_0 20 rfl rfl)
theorem dX0_areTwo_23 : decode cX0_areTwo 23 = .ok (.iconst 0, 1) := dk_3 (dk_at dksX0_areTwo_0 23 rfl rfl)
theorem dX0_areTwo_24 : decode cX0_areTwo 24 = .ok (.ireturn, 1) := dk_172 (dk_at dksX0_areTwo_1 0 rfl rfl)
abbrev cX0_price : ByteArray := prog_1_method_31_code
def yX0_price : MethodName := ⟨RX0, "price", "(III)J"⟩
def dkwX0_price_11 : List UInt8 := [184, 1, 43, 109, 173]
abbrev dktX0_price_11 : List UInt8 := dkwX0_price_11 ++ []
def dkwX0_price_10 : List UInt8 := [3, 167, 0, 4, 5, 54, 5, 25, 4, 29, 47, 25, 4, 21, 5, 47, 25, 4, 21, 5, 4, 96, 47]
abbrev dktX0_price_10 : List UInt8 := dkwX0_price_10 ++ dktX0_price_11
def dkwX0_price_9 : List UInt8 := [132, 5, 1, 167, 255, 100, 25, 4, 4, 47, 9, 148, 154, 0, 7, 20, 0, 249, 173, 29, 5, 162, 0, 7]
abbrev dktX0_price_9 : List UInt8 := dkwX0_price_9 ++ dktX0_price_10
def dkwX0_price_8 : List UInt8 := [22, 6, 22, 8, 184, 1, 39, 153, 0, 15, 25, 4, 5, 22, 6, 80, 25, 4, 6, 22, 8, 80]
abbrev dktX0_price_8 : List UInt8 := dkwX0_price_8 ++ dktX0_price_9
def dkwX0_price_7 : List UInt8 := [25, 4, 4, 22, 8, 80, 25, 4, 6, 47, 9, 148, 153, 0, 21, 25, 4, 5, 47, 25, 4, 6, 47]
abbrev dktX0_price_7 : List UInt8 := dkwX0_price_7 ++ dktX0_price_8
def dkwX0_price_6 : List UInt8 := [22, 6, 22, 8, 25, 4, 3, 47, 25, 4, 4, 47, 184, 1, 39, 153, 0, 15, 25, 4, 3, 22, 6, 80]
abbrev dktX0_price_6 : List UInt8 := dkwX0_price_6 ++ dktX0_price_7
def dkwX0_price_5 : List UInt8 := [182, 1, 31, 55, 6, 42, 180, 0, 56, 27, 182, 1, 35, 55, 8, 25, 4, 4, 47, 9, 148, 153, 0, 21]
abbrev dktX0_price_5 : List UInt8 := dkwX0_price_5 ++ dktX0_price_6
def dkwX0_price_4 : List UInt8 := [182, 1, 24, 42, 180, 0, 56, 27, 28, 182, 1, 28, 154, 0, 6, 167, 0, 102, 42, 180, 0, 56, 27, 3]
abbrev dktX0_price_4 : List UInt8 := dkwX0_price_4 ++ dktX0_price_5
def dkwX0_price_3 : List UInt8 := [162, 0, 147, 42, 180, 0, 56, 21, 5, 182, 1, 21, 154, 0, 6, 167, 0, 126, 42, 180, 0, 56, 21, 5]
abbrev dktX0_price_3 : List UInt8 := dkwX0_price_3 ++ dktX0_price_4
def dkwX0_price_2 : List UInt8 := [80, 89, 6, 9, 80, 58, 4, 3, 54, 5, 21, 5, 16, 32, 42, 180, 0, 56, 180, 1, 20, 120]
abbrev dktX0_price_2 : List UInt8 := dkwX0_price_2 ++ dktX0_price_3
def dkwX0_price_1 : List UInt8 := [184, 0, 70, 154, 0, 7, 20, 0, 249, 173, 7, 188, 11, 89, 3, 9, 80, 89, 4, 9, 80, 89, 5, 9]
abbrev dktX0_price_1 : List UInt8 := dkwX0_price_1 ++ dktX0_price_2
def dkwX0_price_0 : List UInt8 := [42, 180, 0, 56, 182, 1, 7, 153, 0, 21, 42, 27, 28, 182, 1, 14, 153, 0, 12, 29, 3, 6]
abbrev dktX0_price_0 : List UInt8 := dkwX0_price_0 ++ dktX0_price_1
theorem dksX0_price_0 : cX0_price.data.toList.drop 0 = dktX0_price_0 := by decide +kernel
theorem dksX0_price_1 : cX0_price.data.toList.drop 22 = dktX0_price_1 := dk_seg dksX0_price_0 22 rfl rfl
theorem dksX0_price_2 : cX0_price.data.toList.drop 46 = dktX0_price_2 := dk_seg dksX0_price_1 24 rfl rfl
theorem dksX0_price_3 : cX0_price.data.toList.drop 68 = dktX0_price_3 := dk_seg dksX0_price_2 22 rfl rfl
theorem dksX0_price_4 : cX0_price.data.toList.drop 92 = dktX0_price_4 := dk_seg dksX0_price_3 24 rfl rfl
theorem dksX0_price_5 : cX0_price.data.toList.drop 116 = dktX0_price_5 := dk_seg dksX0_price_4 24 rfl rfl
theorem dksX0_price_6 : cX0_price.data.toList.drop 140 = dktX0_price_6 := dk_seg dksX0_price_5 24 rfl rfl
theorem dksX0_price_7 : cX0_price.data.toList.drop 164 = dktX0_price_7 := dk_seg dksX0_price_6 24 rfl rfl
theorem dksX0_price_8 : cX0_price.data.toList.drop 187 = dktX0_price_8 := dk_seg dksX0_price_7 23 rfl rfl
theorem dksX0_price_9 : cX0_price.data.toList.drop 209 = dktX0_price_9 := dk_seg dksX0_price_8 22 rfl rfl
theorem dksX0_price_10 : cX0_price.data.toList.drop 233 = dktX0_price_10 := dk_seg dksX0_price_9 24 rfl rfl
theorem dksX0_price_11 : cX0_price.data.toList.drop 256 = dktX0_price_11 := dk_seg dksX0_price_10 23 rfl rfl
theorem dX0_price_0 : decode cX0_price 0 = .ok (.aload_n 0, 1) := dk_42 (dk_at dksX0_price_0 0 rfl rfl)
theorem dX0_price_1 : decode cX0_price 1 = .ok (.getfield 56, 3) := dk_180 0 56 (dk_at dksX0_price_0 1 rfl rfl)
theorem dX0_price_4 : decode cX0_price 4 = .ok (.invokevirtual 263, 3) := dk_182 1 7 (dk_at dksX0_price_0 4 rfl rfl)
theorem dX0_price_7 : decode cX0_price 7 = .ok (.ifCond .eq 21, 3) := dk_153 0 21 (dk_at dksX0_price_0 7 rfl rfl)
theorem dX0_price_10 : decode cX0_price 10 = .ok (.aload_n 0, 1) := dk_42 (dk_at dksX0_price_0 10 rfl rfl)
theorem dX0_price_11 : decode cX0_price 11 = .ok (.iload_n 1, 1) := dk_27 (dk_at dksX0_price_0 11 rfl rfl)
theorem dX0_price_12 : decode cX0_price 12 = .ok (.iload_n 2, 1) := dk_28 (dk_at dksX0_price_0 12 rfl rfl)
theorem dX0_price_13 : decode cX0_price 13 = .ok (.invokevirtual 270, 3) := dk_182 1 14 (dk_at dksX0_price_0 13 rfl rfl)
theorem dX0_price_16 : decode cX0_price 16 = .ok (.ifCond .eq 12, 3) := dk_153 0 12 (dk_at dksX0_price_0 16 rfl rfl)
theorem dX0_price_19 : decode cX0_price 19 = .ok (.iload_n 3, 1) := dk_29 (dk_at dksX0_price_0 19 rfl rfl)
theorem dX0_price_20 : decode cX0_price 20 = .ok (.iconst 0, 1) := dk_3 (dk_at dksX0_price_0 20 rfl rfl)
theorem dX0_price_21 : decode cX0_price 21 = .ok (.iconst 3, 1) := dk_6 (dk_at dksX0_price_0 21 rfl rfl)
theorem dX0_price_22 : decode cX0_price 22 = .ok (.invokestatic 70, 3) := dk_184 0 70 (dk_at dksX0_price_1 0 rfl rfl)
theorem dX0_price_25 : decode cX0_price 25 = .ok (.ifCond .ne 7, 3) := dk_154 0 7 (dk_at dksX0_price_1 3 rfl rfl)
theorem dX0_price_28 : decode cX0_price 28 = .ok (.ldc2_w 249, 3) := dk_20 0 249 (dk_at dksX0_price_1 6 rfl rfl)
theorem dX0_price_31 : decode cX0_price 31 = .ok (.lreturn, 1) := dk_173 (dk_at dksX0_price_1 9 rfl rfl)
theorem dX0_price_32 : decode cX0_price 32 = .ok (.iconst 4, 1) := dk_7 (dk_at dksX0_price_1 10 rfl rfl)
theorem dX0_price_33 : decode cX0_price 33 = .ok (.newarray .long, 2) := dk_188_11 (dk_at dksX0_price_1 11 rfl rfl)
theorem dX0_price_35 : decode cX0_price 35 = .ok (.dup, 1) := dk_89 (dk_at dksX0_price_1 13 rfl rfl)
theorem dX0_price_36 : decode cX0_price 36 = .ok (.iconst 0, 1) := dk_3 (dk_at dksX0_price_1 14 rfl rfl)
theorem dX0_price_37 : decode cX0_price 37 = .ok (.lconst 0, 1) := dk_9 (dk_at dksX0_price_1 15 rfl rfl)
theorem dX0_price_38 : decode cX0_price 38 = .ok (.lastore, 1) := dk_80 (dk_at dksX0_price_1 16 rfl rfl)
theorem dX0_price_39 : decode cX0_price 39 = .ok (.dup, 1) := dk_89 (dk_at dksX0_price_1 17 rfl rfl)
theorem dX0_price_40 : decode cX0_price 40 = .ok (.iconst 1, 1) := dk_4 (dk_at dksX0_price_1 18 rfl rfl)
theorem dX0_price_41 : decode cX0_price 41 = .ok (.lconst 0, 1) := dk_9 (dk_at dksX0_price_1 19 rfl rfl)
theorem dX0_price_42 : decode cX0_price 42 = .ok (.lastore, 1) := dk_80 (dk_at dksX0_price_1 20 rfl rfl)
theorem dX0_price_43 : decode cX0_price 43 = .ok (.dup, 1) := dk_89 (dk_at dksX0_price_1 21 rfl rfl)
theorem dX0_price_44 : decode cX0_price 44 = .ok (.iconst 2, 1) := dk_5 (dk_at dksX0_price_1 22 rfl rfl)
theorem dX0_price_45 : decode cX0_price 45 = .ok (.lconst 0, 1) := dk_9 (dk_at dksX0_price_1 23 rfl rfl)
theorem dX0_price_46 : decode cX0_price 46 = .ok (.lastore, 1) := dk_80 (dk_at dksX0_price_2 0 rfl rfl)
theorem dX0_price_47 : decode cX0_price 47 = .ok (.dup, 1) := dk_89 (dk_at dksX0_price_2 1 rfl rfl)
theorem dX0_price_48 : decode cX0_price 48 = .ok (.iconst 3, 1) := dk_6 (dk_at dksX0_price_2 2 rfl rfl)
theorem dX0_price_49 : decode cX0_price 49 = .ok (.lconst 0, 1) := dk_9 (dk_at dksX0_price_2 3 rfl rfl)
theorem dX0_price_50 : decode cX0_price 50 = .ok (.lastore, 1) := dk_80 (dk_at dksX0_price_2 4 rfl rfl)
theorem dX0_price_51 : decode cX0_price 51 = .ok (.astore 4, 2) := dk_58 4 (dk_at dksX0_price_2 5 rfl rfl)
theorem dX0_price_53 : decode cX0_price 53 = .ok (.iconst 0, 1) := dk_3 (dk_at dksX0_price_2 7 rfl rfl)
theorem dX0_price_54 : decode cX0_price 54 = .ok (.istore 5, 2) := dk_54 5 (dk_at dksX0_price_2 8 rfl rfl)
theorem dX0_price_56 : decode cX0_price 56 = .ok (.iload 5, 2) := dk_21 5 (dk_at dksX0_price_2 10 rfl rfl)
theorem dX0_price_58 : decode cX0_price 58 = .ok (.bipush 32, 2) := dk_16 32 (dk_at dksX0_price_2 12 rfl rfl)
theorem dX0_price_60 : decode cX0_price 60 = .ok (.aload_n 0, 1) := dk_42 (dk_at dksX0_price_2 14 rfl rfl)
theorem dX0_price_61 : decode cX0_price 61 = .ok (.getfield 56, 3) := dk_180 0 56 (dk_at dksX0_price_2 15 rfl rfl)
theorem dX0_price_64 : decode cX0_price 64 = .ok (.getfield 276, 3) := dk_180 1 20 (dk_at dksX0_price_2 18 rfl rfl)
theorem dX0_price_67 : decode cX0_price 67 = .ok (.ishl, 1) := dk_120 (dk_at dksX0_price_2 21 rfl rfl)
theorem dX0_price_68 : decode cX0_price 68 = .ok (.if_icmp .ge 147, 3) := dk_162 0 147 (dk_at dksX0_price_3 0 rfl rfl)
theorem dX0_price_71 : decode cX0_price 71 = .ok (.aload_n 0, 1) := dk_42 (dk_at dksX0_price_3 3 rfl rfl)
theorem dX0_price_72 : decode cX0_price 72 = .ok (.getfield 56, 3) := dk_180 0 56 (dk_at dksX0_price_3 4 rfl rfl)
theorem dX0_price_75 : decode cX0_price 75 = .ok (.iload 5, 2) := dk_21 5 (dk_at dksX0_price_3 7 rfl rfl)
theorem dX0_price_77 : decode cX0_price 77 = .ok (.invokevirtual 277, 3) := dk_182 1 21 (dk_at dksX0_price_3 9 rfl rfl)
theorem dX0_price_80 : decode cX0_price 80 = .ok (.ifCond .ne 6, 3) := dk_154 0 6 (dk_at dksX0_price_3 12 rfl rfl)
theorem dX0_price_83 : decode cX0_price 83 = .ok (.goto 126, 3) := dk_167 0 126 (dk_at dksX0_price_3 15 rfl rfl)
theorem dX0_price_86 : decode cX0_price 86 = .ok (.aload_n 0, 1) := dk_42 (dk_at dksX0_price_3 18 rfl rfl)
theorem dX0_price_87 : decode cX0_price 87 = .ok (.getfield 56, 3) := dk_180 0 56 (dk_at dksX0_price_3 19 rfl rfl)
theorem dX0_price_90 : decode cX0_price 90 = .ok (.iload 5, 2) := dk_21 5 (dk_at dksX0_price_3 22 rfl rfl)
theorem dX0_price_92 : decode cX0_price 92 = .ok (.invokevirtual 280, 3) := dk_182 1 24 (dk_at dksX0_price_4 0 rfl rfl)
theorem dX0_price_95 : decode cX0_price 95 = .ok (.aload_n 0, 1) := dk_42 (dk_at dksX0_price_4 3 rfl rfl)
theorem dX0_price_96 : decode cX0_price 96 = .ok (.getfield 56, 3) := dk_180 0 56 (dk_at dksX0_price_4 4 rfl rfl)
theorem dX0_price_99 : decode cX0_price 99 = .ok (.iload_n 1, 1) := dk_27 (dk_at dksX0_price_4 7 rfl rfl)
theorem dX0_price_100 : decode cX0_price 100 = .ok (.iload_n 2, 1) := dk_28 (dk_at dksX0_price_4 8 rfl rfl)
theorem dX0_price_101 : decode cX0_price 101 = .ok (.invokevirtual 284, 3) := dk_182 1 28 (dk_at dksX0_price_4 9 rfl rfl)
theorem dX0_price_104 : decode cX0_price 104 = .ok (.ifCond .ne 6, 3) := dk_154 0 6 (dk_at dksX0_price_4 12 rfl rfl)
theorem dX0_price_107 : decode cX0_price 107 = .ok (.goto 102, 3) := dk_167 0 102 (dk_at dksX0_price_4 15 rfl rfl)
theorem dX0_price_110 : decode cX0_price 110 = .ok (.aload_n 0, 1) := dk_42 (dk_at dksX0_price_4 18 rfl rfl)
theorem dX0_price_111 : decode cX0_price 111 = .ok (.getfield 56, 3) := dk_180 0 56 (dk_at dksX0_price_4 19 rfl rfl)
theorem dX0_price_114 : decode cX0_price 114 = .ok (.iload_n 1, 1) := dk_27 (dk_at dksX0_price_4 22 rfl rfl)
theorem dX0_price_115 : decode cX0_price 115 = .ok (.iconst 0, 1) := dk_3 (dk_at dksX0_price_4 23 rfl rfl)
theorem dX0_price_116 : decode cX0_price 116 = .ok (.invokevirtual 287, 3) := dk_182 1 31 (dk_at dksX0_price_5 0 rfl rfl)
theorem dX0_price_119 : decode cX0_price 119 = .ok (.lstore 6, 2) := dk_55 6 (dk_at dksX0_price_5 3 rfl rfl)
theorem dX0_price_121 : decode cX0_price 121 = .ok (.aload_n 0, 1) := dk_42 (dk_at dksX0_price_5 5 rfl rfl)
theorem dX0_price_122 : decode cX0_price 122 = .ok (.getfield 56, 3) := dk_180 0 56 (dk_at dksX0_price_5 6 rfl rfl)
theorem dX0_price_125 : decode cX0_price 125 = .ok (.iload_n 1, 1) := dk_27 (dk_at dksX0_price_5 9 rfl rfl)
theorem dX0_price_126 : decode cX0_price 126 = .ok (.invokevirtual 291, 3) := dk_182 1 35 (dk_at dksX0_price_5 10 rfl rfl)
theorem dX0_price_129 : decode cX0_price 129 = .ok (.lstore 8, 2) := dk_55 8 (dk_at dksX0_price_5 13 rfl rfl)
theorem dX0_price_131 : decode cX0_price 131 = .ok (.aload 4, 2) := dk_25 4 (dk_at dksX0_price_5 15 rfl rfl)
theorem dX0_price_133 : decode cX0_price 133 = .ok (.iconst 1, 1) := dk_4 (dk_at dksX0_price_5 17 rfl rfl)
theorem dX0_price_134 : decode cX0_price 134 = .ok (.laload, 1) := dk_47 (dk_at dksX0_price_5 18 rfl rfl)
theorem dX0_price_135 : decode cX0_price 135 = .ok (.lconst 0, 1) := dk_9 (dk_at dksX0_price_5 19 rfl rfl)
theorem dX0_price_136 : decode cX0_price 136 = .ok (.lcmp, 1) := dk_148 (dk_at dksX0_price_5 20 rfl rfl)
theorem dX0_price_137 : decode cX0_price 137 = .ok (.ifCond .eq 21, 3) := dk_153 0 21 (dk_at dksX0_price_5 21 rfl rfl)
theorem dX0_price_140 : decode cX0_price 140 = .ok (.lload 6, 2) := dk_22 6 (dk_at dksX0_price_6 0 rfl rfl)
theorem dX0_price_142 : decode cX0_price 142 = .ok (.lload 8, 2) := dk_22 8 (dk_at dksX0_price_6 2 rfl rfl)
theorem dX0_price_144 : decode cX0_price 144 = .ok (.aload 4, 2) := dk_25 4 (dk_at dksX0_price_6 4 rfl rfl)
theorem dX0_price_146 : decode cX0_price 146 = .ok (.iconst 0, 1) := dk_3 (dk_at dksX0_price_6 6 rfl rfl)
theorem dX0_price_147 : decode cX0_price 147 = .ok (.laload, 1) := dk_47 (dk_at dksX0_price_6 7 rfl rfl)
theorem dX0_price_148 : decode cX0_price 148 = .ok (.aload 4, 2) := dk_25 4 (dk_at dksX0_price_6 8 rfl rfl)
theorem dX0_price_150 : decode cX0_price 150 = .ok (.iconst 1, 1) := dk_4 (dk_at dksX0_price_6 10 rfl rfl)
theorem dX0_price_151 : decode cX0_price 151 = .ok (.laload, 1) := dk_47 (dk_at dksX0_price_6 11 rfl rfl)
theorem dX0_price_152 : decode cX0_price 152 = .ok (.invokestatic 295, 3) := dk_184 1 39 (dk_at dksX0_price_6 12 rfl rfl)
theorem dX0_price_155 : decode cX0_price 155 = .ok (.ifCond .eq 15, 3) := dk_153 0 15 (dk_at dksX0_price_6 15 rfl rfl)
theorem dX0_price_158 : decode cX0_price 158 = .ok (.aload 4, 2) := dk_25 4 (dk_at dksX0_price_6 18 rfl rfl)
theorem dX0_price_160 : decode cX0_price 160 = .ok (.iconst 0, 1) := dk_3 (dk_at dksX0_price_6 20 rfl rfl)
theorem dX0_price_161 : decode cX0_price 161 = .ok (.lload 6, 2) := dk_22 6 (dk_at dksX0_price_6 21 rfl rfl)
theorem dX0_price_163 : decode cX0_price 163 = .ok (.lastore, 1) := dk_80 (dk_at dksX0_price_6 23 rfl rfl)
theorem dX0_price_164 : decode cX0_price 164 = .ok (.aload 4, 2) := dk_25 4 (dk_at dksX0_price_7 0 rfl rfl)
theorem dX0_price_166 : decode cX0_price 166 = .ok (.iconst 1, 1) := dk_4 (dk_at dksX0_price_7 2 rfl rfl)
theorem dX0_price_167 : decode cX0_price 167 = .ok (.lload 8, 2) := dk_22 8 (dk_at dksX0_price_7 3 rfl rfl)
theorem dX0_price_169 : decode cX0_price 169 = .ok (.lastore, 1) := dk_80 (dk_at dksX0_price_7 5 rfl rfl)
theorem dX0_price_170 : decode cX0_price 170 = .ok (.aload 4, 2) := dk_25 4 (dk_at dksX0_price_7 6 rfl rfl)
theorem dX0_price_172 : decode cX0_price 172 = .ok (.iconst 3, 1) := dk_6 (dk_at dksX0_price_7 8 rfl rfl)
theorem dX0_price_173 : decode cX0_price 173 = .ok (.laload, 1) := dk_47 (dk_at dksX0_price_7 9 rfl rfl)
theorem dX0_price_174 : decode cX0_price 174 = .ok (.lconst 0, 1) := dk_9 (dk_at dksX0_price_7 10 rfl rfl)
theorem dX0_price_175 : decode cX0_price 175 = .ok (.lcmp, 1) := dk_148 (dk_at dksX0_price_7 11 rfl rfl)
theorem dX0_price_176 : decode cX0_price 176 = .ok (.ifCond .eq 21, 3) := dk_153 0 21 (dk_at dksX0_price_7 12 rfl rfl)
theorem dX0_price_179 : decode cX0_price 179 = .ok (.aload 4, 2) := dk_25 4 (dk_at dksX0_price_7 15 rfl rfl)
theorem dX0_price_181 : decode cX0_price 181 = .ok (.iconst 2, 1) := dk_5 (dk_at dksX0_price_7 17 rfl rfl)
theorem dX0_price_182 : decode cX0_price 182 = .ok (.laload, 1) := dk_47 (dk_at dksX0_price_7 18 rfl rfl)
theorem dX0_price_183 : decode cX0_price 183 = .ok (.aload 4, 2) := dk_25 4 (dk_at dksX0_price_7 19 rfl rfl)
theorem dX0_price_185 : decode cX0_price 185 = .ok (.iconst 3, 1) := dk_6 (dk_at dksX0_price_7 21 rfl rfl)
theorem dX0_price_186 : decode cX0_price 186 = .ok (.laload, 1) := dk_47 (dk_at dksX0_price_7 22 rfl rfl)
theorem dX0_price_187 : decode cX0_price 187 = .ok (.lload 6, 2) := dk_22 6 (dk_at dksX0_price_8 0 rfl rfl)
theorem dX0_price_189 : decode cX0_price 189 = .ok (.lload 8, 2) := dk_22 8 (dk_at dksX0_price_8 2 rfl rfl)
theorem dX0_price_191 : decode cX0_price 191 = .ok (.invokestatic 295, 3) := dk_184 1 39 (dk_at dksX0_price_8 4 rfl rfl)
theorem dX0_price_194 : decode cX0_price 194 = .ok (.ifCond .eq 15, 3) := dk_153 0 15 (dk_at dksX0_price_8 7 rfl rfl)
theorem dX0_price_197 : decode cX0_price 197 = .ok (.aload 4, 2) := dk_25 4 (dk_at dksX0_price_8 10 rfl rfl)
theorem dX0_price_199 : decode cX0_price 199 = .ok (.iconst 2, 1) := dk_5 (dk_at dksX0_price_8 12 rfl rfl)
theorem dX0_price_200 : decode cX0_price 200 = .ok (.lload 6, 2) := dk_22 6 (dk_at dksX0_price_8 13 rfl rfl)
theorem dX0_price_202 : decode cX0_price 202 = .ok (.lastore, 1) := dk_80 (dk_at dksX0_price_8 15 rfl rfl)
theorem dX0_price_203 : decode cX0_price 203 = .ok (.aload 4, 2) := dk_25 4 (dk_at dksX0_price_8 16 rfl rfl)
theorem dX0_price_205 : decode cX0_price 205 = .ok (.iconst 3, 1) := dk_6 (dk_at dksX0_price_8 18 rfl rfl)
theorem dX0_price_206 : decode cX0_price 206 = .ok (.lload 8, 2) := dk_22 8 (dk_at dksX0_price_8 19 rfl rfl)
theorem dX0_price_208 : decode cX0_price 208 = .ok (.lastore, 1) := dk_80 (dk_at dksX0_price_8 21 rfl rfl)
theorem dX0_price_209 : decode cX0_price 209 = .ok (.iinc 5 1, 3) := dk_132 5 1 (dk_at dksX0_price_9 0 rfl rfl)
theorem dX0_price_212 : decode cX0_price 212 = .ok (.goto (-156), 3) := dk_167 255 100 (dk_at dksX0_price_9 3 rfl rfl)
theorem dX0_price_215 : decode cX0_price 215 = .ok (.aload 4, 2) := dk_25 4 (dk_at dksX0_price_9 6 rfl rfl)
theorem dX0_price_217 : decode cX0_price 217 = .ok (.iconst 1, 1) := dk_4 (dk_at dksX0_price_9 8 rfl rfl)
theorem dX0_price_218 : decode cX0_price 218 = .ok (.laload, 1) := dk_47 (dk_at dksX0_price_9 9 rfl rfl)
theorem dX0_price_219 : decode cX0_price 219 = .ok (.lconst 0, 1) := dk_9 (dk_at dksX0_price_9 10 rfl rfl)
theorem dX0_price_220 : decode cX0_price 220 = .ok (.lcmp, 1) := dk_148 (dk_at dksX0_price_9 11 rfl rfl)
theorem dX0_price_221 : decode cX0_price 221 = .ok (.ifCond .ne 7, 3) := dk_154 0 7 (dk_at dksX0_price_9 12 rfl rfl)
theorem dX0_price_224 : decode cX0_price 224 = .ok (.ldc2_w 249, 3) := dk_20 0 249 (dk_at dksX0_price_9 15 rfl rfl)
theorem dX0_price_227 : decode cX0_price 227 = .ok (.lreturn, 1) := dk_173 (dk_at dksX0_price_9 18 rfl rfl)
theorem dX0_price_228 : decode cX0_price 228 = .ok (.iload_n 3, 1) := dk_29 (dk_at dksX0_price_9 19 rfl rfl)
theorem dX0_price_229 : decode cX0_price 229 = .ok (.iconst 2, 1) := dk_5 (dk_at dksX0_price_9 20 rfl rfl)
theorem dX0_price_230 : decode cX0_price 230 = .ok (.if_icmp .ge 7, 3) := dk_162 0 7 (dk_at dksX0_price_9 21 rfl rfl)
theorem dX0_price_233 : decode cX0_price 233 = .ok (.iconst 0, 1) := dk_3 (dk_at dksX0_price_10 0 rfl rfl)
theorem dX0_price_234 : decode cX0_price 234 = .ok (.goto 4, 3) := dk_167 0 4 (dk_at dksX0_price_10 1 rfl rfl)
theorem dX0_price_237 : decode cX0_price 237 = .ok (.iconst 2, 1) := dk_5 (dk_at dksX0_price_10 4 rfl rfl)
theorem dX0_price_238 : decode cX0_price 238 = .ok (.istore 5, 2) := dk_54 5 (dk_at dksX0_price_10 5 rfl rfl)
theorem dX0_price_240 : decode cX0_price 240 = .ok (.aload 4, 2) := dk_25 4 (dk_at dksX0_price_10 7 rfl rfl)
theorem dX0_price_242 : decode cX0_price 242 = .ok (.iload_n 3, 1) := dk_29 (dk_at dksX0_price_10 9 rfl rfl)
theorem dX0_price_243 : decode cX0_price 243 = .ok (.laload, 1) := dk_47 (dk_at dksX0_price_10 10 rfl rfl)
theorem dX0_price_244 : decode cX0_price 244 = .ok (.aload 4, 2) := dk_25 4 (dk_at dksX0_price_10 11 rfl rfl)
theorem dX0_price_246 : decode cX0_price 246 = .ok (.iload 5, 2) := dk_21 5 (dk_at dksX0_price_10 13 rfl rfl)
theorem dX0_price_248 : decode cX0_price 248 = .ok (.laload, 1) := dk_47 (dk_at dksX0_price_10 15 rfl rfl)
theorem dX0_price_249 : decode cX0_price 249 = .ok (.aload 4, 2) := dk_25 4 (dk_at dksX0_price_10 16 rfl rfl)
theorem dX0_price_251 : decode cX0_price 251 = .ok (.iload 5, 2) := dk_21 5 (dk_at dksX0_price_10 18 rfl rfl)
theorem dX0_price_253 : decode cX0_price 253 = .ok (.iconst 1, 1) := dk_4 (dk_at dksX0_price_10 20 rfl rfl)
theorem dX0_price_254 : decode cX0_price 254 = .ok (.iadd, 1) := dk_96 (dk_at dksX0_price_10 21 rfl rfl)
theorem dX0_price_255 : decode cX0_price 255 = .ok (.laload, 1) := dk_47 (dk_at dksX0_price_10 22 rfl rfl)
theorem dX0_price_256 : decode cX0_price 256 = .ok (.invokestatic 299, 3) := dk_184 1 43 (dk_at dksX0_price_11 0 rfl rfl)
theorem dX0_price_259 : decode cX0_price 259 = .ok (.ldiv, 1) := dk_109 (dk_at dksX0_price_11 3 rfl rfl)
theorem dX0_price_260 : decode cX0_price 260 = .ok (.lreturn, 1) := dk_173 (dk_at dksX0_price_11 4 rfl rfl)
abbrev cX0_isLess : ByteArray := prog_1_method_29_code
def yX0_isLess : MethodName := ⟨RX0, "isLess", "(JJJJ)Z"⟩
def dkwX0_isLess_8 : List UInt8 := [167, 255, 82]
abbrev dktX0_isLess_8 : List UInt8 := dkwX0_isLess_8 ++ []
def dkwX0_isLess_7 : List UInt8 := [22, 12, 55, 21, 22, 14, 55, 12, 22, 21, 55, 14, 21, 16, 154, 0, 7, 4, 167, 0, 4, 3, 54, 16]
abbrev dktX0_isLess_7 : List UInt8 := dkwX0_isLess_7 ++ dktX0_isLess_8
def dkwX0_isLess_6 : List UInt8 := [9, 148, 158, 0, 7, 4, 167, 0, 4, 3, 172, 22, 8, 55, 21, 22, 10, 55, 8, 22, 21, 55, 10]
abbrev dktX0_isLess_6 : List UInt8 := dkwX0_isLess_6 ++ dktX0_isLess_7
def dkwX0_isLess_5 : List UInt8 := [22, 8, 9, 148, 158, 0, 7, 4, 167, 0, 26, 3, 167, 0, 22, 22, 8, 9, 148, 154, 0, 14, 22, 12]
abbrev dktX0_isLess_5 : List UInt8 := dkwX0_isLess_5 ++ dktX0_isLess_6
def dkwX0_isLess_4 : List UInt8 := [9, 148, 153, 0, 10, 22, 12, 9, 148, 154, 0, 50, 21, 16, 153, 0, 25, 22, 12, 9, 148, 154, 0, 14]
abbrev dktX0_isLess_4 : List UInt8 := dkwX0_isLess_4 ++ dktX0_isLess_5
def dkwX0_isLess_3 : List UInt8 := [3, 172, 22, 8, 22, 17, 22, 10, 105, 101, 55, 8, 22, 12, 22, 19, 22, 14, 105, 101, 55, 12, 22, 8]
abbrev dktX0_isLess_3 : List UInt8 := dkwX0_isLess_3 ++ dktX0_isLess_4
def dkwX0_isLess_2 : List UInt8 := [148, 158, 0, 7, 4, 167, 0, 20, 3, 167, 0, 16, 22, 17, 22, 19, 148, 156, 0, 7, 4, 167, 0, 4]
abbrev dktX0_isLess_2 : List UInt8 := dkwX0_isLess_2 ++ dktX0_isLess_3
def dkwX0_isLess_1 : List UInt8 := [22, 12, 22, 14, 109, 55, 19, 22, 17, 22, 19, 148, 153, 0, 38, 21, 16, 153, 0, 19, 22, 17, 22, 19]
abbrev dktX0_isLess_1 : List UInt8 := dkwX0_isLess_1 ++ dktX0_isLess_2
def dkwX0_isLess_0 : List UInt8 := [30, 55, 8, 32, 55, 10, 22, 4, 55, 12, 22, 6, 55, 14, 3, 54, 16, 22, 8, 22, 10, 109, 55, 17]
abbrev dktX0_isLess_0 : List UInt8 := dkwX0_isLess_0 ++ dktX0_isLess_1
theorem dksX0_isLess_0 : cX0_isLess.data.toList.drop 0 = dktX0_isLess_0 := by decide +kernel
theorem dksX0_isLess_1 : cX0_isLess.data.toList.drop 24 = dktX0_isLess_1 := dk_seg dksX0_isLess_0 24 rfl rfl
theorem dksX0_isLess_2 : cX0_isLess.data.toList.drop 48 = dktX0_isLess_2 := dk_seg dksX0_isLess_1 24 rfl rfl
theorem dksX0_isLess_3 : cX0_isLess.data.toList.drop 72 = dktX0_isLess_3 := dk_seg dksX0_isLess_2 24 rfl rfl
theorem dksX0_isLess_4 : cX0_isLess.data.toList.drop 96 = dktX0_isLess_4 := dk_seg dksX0_isLess_3 24 rfl rfl
theorem dksX0_isLess_5 : cX0_isLess.data.toList.drop 120 = dktX0_isLess_5 := dk_seg dksX0_isLess_4 24 rfl rfl
theorem dksX0_isLess_6 : cX0_isLess.data.toList.drop 144 = dktX0_isLess_6 := dk_seg dksX0_isLess_5 24 rfl rfl
theorem dksX0_isLess_7 : cX0_isLess.data.toList.drop 167 = dktX0_isLess_7 := dk_seg dksX0_isLess_6 23 rfl rfl
theorem dksX0_isLess_8 : cX0_isLess.data.toList.drop 191 = dktX0_isLess_8 := dk_seg dksX0_isLess_7 24 rfl rfl
theorem dX0_isLess_0 : decode cX0_isLess 0 = .ok (.lload_n 0, 1) := dk_30 (dk_at dksX0_isLess_0 0 rfl rfl)
theorem dX0_isLess_1 : decode cX0_isLess 1 = .ok (.lstore 8, 2) := dk_55 8 (dk_at dksX0_isLess_0 1 rfl rfl)
theorem dX0_isLess_3 : decode cX0_isLess 3 = .ok (.lload_n 2, 1) := dk_32 (dk_at dksX0_isLess_0 3 rfl rfl)
theorem dX0_isLess_4 : decode cX0_isLess 4 = .ok (.lstore 10, 2) := dk_55 10 (dk_at dksX0_isLess_0 4 rfl rfl)
theorem dX0_isLess_6 : decode cX0_isLess 6 = .ok (.lload 4, 2) := dk_22 4 (dk_at dksX0_isLess_0 6 rfl rfl)
theorem dX0_isLess_8 : decode cX0_isLess 8 = .ok (.lstore 12, 2) := dk_55 12 (dk_at dksX0_isLess_0 8 rfl rfl)
theorem dX0_isLess_10 : decode cX0_isLess 10 = .ok (.lload 6, 2) := dk_22 6 (dk_at dksX0_isLess_0 10 rfl rfl)
theorem dX0_isLess_12 : decode cX0_isLess 12 = .ok (.lstore 14, 2) := dk_55 14 (dk_at dksX0_isLess_0 12 rfl rfl)
theorem dX0_isLess_14 : decode cX0_isLess 14 = .ok (.iconst 0, 1) := dk_3 (dk_at dksX0_isLess_0 14 rfl rfl)
theorem dX0_isLess_15 : decode cX0_isLess 15 = .ok (.istore 16, 2) := dk_54 16 (dk_at dksX0_isLess_0 15 rfl rfl)
theorem dX0_isLess_17 : decode cX0_isLess 17 = .ok (.lload 8, 2) := dk_22 8 (dk_at dksX0_isLess_0 17 rfl rfl)
theorem dX0_isLess_19 : decode cX0_isLess 19 = .ok (.lload 10, 2) := dk_22 10 (dk_at dksX0_isLess_0 19 rfl rfl)
theorem dX0_isLess_21 : decode cX0_isLess 21 = .ok (.ldiv, 1) := dk_109 (dk_at dksX0_isLess_0 21 rfl rfl)
theorem dX0_isLess_22 : decode cX0_isLess 22 = .ok (.lstore 17, 2) := dk_55 17 (dk_at dksX0_isLess_0 22 rfl rfl)
theorem dX0_isLess_24 : decode cX0_isLess 24 = .ok (.lload 12, 2) := dk_22 12 (dk_at dksX0_isLess_1 0 rfl rfl)
theorem dX0_isLess_26 : decode cX0_isLess 26 = .ok (.lload 14, 2) := dk_22 14 (dk_at dksX0_isLess_1 2 rfl rfl)
theorem dX0_isLess_28 : decode cX0_isLess 28 = .ok (.ldiv, 1) := dk_109 (dk_at dksX0_isLess_1 4 rfl rfl)
theorem dX0_isLess_29 : decode cX0_isLess 29 = .ok (.lstore 19, 2) := dk_55 19 (dk_at dksX0_isLess_1 5 rfl rfl)
theorem dX0_isLess_31 : decode cX0_isLess 31 = .ok (.lload 17, 2) := dk_22 17 (dk_at dksX0_isLess_1 7 rfl rfl)
theorem dX0_isLess_33 : decode cX0_isLess 33 = .ok (.lload 19, 2) := dk_22 19 (dk_at dksX0_isLess_1 9 rfl rfl)
theorem dX0_isLess_35 : decode cX0_isLess 35 = .ok (.lcmp, 1) := dk_148 (dk_at dksX0_isLess_1 11 rfl rfl)
theorem dX0_isLess_36 : decode cX0_isLess 36 = .ok (.ifCond .eq 38, 3) := dk_153 0 38 (dk_at dksX0_isLess_1 12 rfl rfl)
theorem dX0_isLess_39 : decode cX0_isLess 39 = .ok (.iload 16, 2) := dk_21 16 (dk_at dksX0_isLess_1 15 rfl rfl)
theorem dX0_isLess_41 : decode cX0_isLess 41 = .ok (.ifCond .eq 19, 3) := dk_153 0 19 (dk_at dksX0_isLess_1 17 rfl rfl)
theorem dX0_isLess_44 : decode cX0_isLess 44 = .ok (.lload 17, 2) := dk_22 17 (dk_at dksX0_isLess_1 20 rfl rfl)
theorem dX0_isLess_46 : decode cX0_isLess 46 = .ok (.lload 19, 2) := dk_22 19 (dk_at dksX0_isLess_1 22 rfl rfl)
theorem dX0_isLess_48 : decode cX0_isLess 48 = .ok (.lcmp, 1) := dk_148 (dk_at dksX0_isLess_2 0 rfl rfl)
theorem dX0_isLess_49 : decode cX0_isLess 49 = .ok (.ifCond .le 7, 3) := dk_158 0 7 (dk_at dksX0_isLess_2 1 rfl rfl)
theorem dX0_isLess_52 : decode cX0_isLess 52 = .ok (.iconst 1, 1) := dk_4 (dk_at dksX0_isLess_2 4 rfl rfl)
theorem dX0_isLess_53 : decode cX0_isLess 53 = .ok (.goto 20, 3) := dk_167 0 20 (dk_at dksX0_isLess_2 5 rfl rfl)
theorem dX0_isLess_56 : decode cX0_isLess 56 = .ok (.iconst 0, 1) := dk_3 (dk_at dksX0_isLess_2 8 rfl rfl)
theorem dX0_isLess_57 : decode cX0_isLess 57 = .ok (.goto 16, 3) := dk_167 0 16 (dk_at dksX0_isLess_2 9 rfl rfl)
theorem dX0_isLess_60 : decode cX0_isLess 60 = .ok (.lload 17, 2) := dk_22 17 (dk_at dksX0_isLess_2 12 rfl rfl)
theorem dX0_isLess_62 : decode cX0_isLess 62 = .ok (.lload 19, 2) := dk_22 19 (dk_at dksX0_isLess_2 14 rfl rfl)
theorem dX0_isLess_64 : decode cX0_isLess 64 = .ok (.lcmp, 1) := dk_148 (dk_at dksX0_isLess_2 16 rfl rfl)
theorem dX0_isLess_65 : decode cX0_isLess 65 = .ok (.ifCond .ge 7, 3) := dk_156 0 7 (dk_at dksX0_isLess_2 17 rfl rfl)
theorem dX0_isLess_68 : decode cX0_isLess 68 = .ok (.iconst 1, 1) := dk_4 (dk_at dksX0_isLess_2 20 rfl rfl)
theorem dX0_isLess_69 : decode cX0_isLess 69 = .ok (.goto 4, 3) := dk_167 0 4 (dk_at dksX0_isLess_2 21 rfl rfl)
theorem dX0_isLess_72 : decode cX0_isLess 72 = .ok (.iconst 0, 1) := dk_3 (dk_at dksX0_isLess_3 0 rfl rfl)
theorem dX0_isLess_73 : decode cX0_isLess 73 = .ok (.ireturn, 1) := dk_172 (dk_at dksX0_isLess_3 1 rfl rfl)
theorem dX0_isLess_74 : decode cX0_isLess 74 = .ok (.lload 8, 2) := dk_22 8 (dk_at dksX0_isLess_3 2 rfl rfl)
theorem dX0_isLess_76 : decode cX0_isLess 76 = .ok (.lload 17, 2) := dk_22 17 (dk_at dksX0_isLess_3 4 rfl rfl)
theorem dX0_isLess_78 : decode cX0_isLess 78 = .ok (.lload 10, 2) := dk_22 10 (dk_at dksX0_isLess_3 6 rfl rfl)
theorem dX0_isLess_80 : decode cX0_isLess 80 = .ok (.lmul, 1) := dk_105 (dk_at dksX0_isLess_3 8 rfl rfl)
theorem dX0_isLess_81 : decode cX0_isLess 81 = .ok (.lsub, 1) := dk_101 (dk_at dksX0_isLess_3 9 rfl rfl)
theorem dX0_isLess_82 : decode cX0_isLess 82 = .ok (.lstore 8, 2) := dk_55 8 (dk_at dksX0_isLess_3 10 rfl rfl)
theorem dX0_isLess_84 : decode cX0_isLess 84 = .ok (.lload 12, 2) := dk_22 12 (dk_at dksX0_isLess_3 12 rfl rfl)
theorem dX0_isLess_86 : decode cX0_isLess 86 = .ok (.lload 19, 2) := dk_22 19 (dk_at dksX0_isLess_3 14 rfl rfl)
theorem dX0_isLess_88 : decode cX0_isLess 88 = .ok (.lload 14, 2) := dk_22 14 (dk_at dksX0_isLess_3 16 rfl rfl)
theorem dX0_isLess_90 : decode cX0_isLess 90 = .ok (.lmul, 1) := dk_105 (dk_at dksX0_isLess_3 18 rfl rfl)
theorem dX0_isLess_91 : decode cX0_isLess 91 = .ok (.lsub, 1) := dk_101 (dk_at dksX0_isLess_3 19 rfl rfl)
theorem dX0_isLess_92 : decode cX0_isLess 92 = .ok (.lstore 12, 2) := dk_55 12 (dk_at dksX0_isLess_3 20 rfl rfl)
theorem dX0_isLess_94 : decode cX0_isLess 94 = .ok (.lload 8, 2) := dk_22 8 (dk_at dksX0_isLess_3 22 rfl rfl)
theorem dX0_isLess_96 : decode cX0_isLess 96 = .ok (.lconst 0, 1) := dk_9 (dk_at dksX0_isLess_4 0 rfl rfl)
theorem dX0_isLess_97 : decode cX0_isLess 97 = .ok (.lcmp, 1) := dk_148 (dk_at dksX0_isLess_4 1 rfl rfl)
theorem dX0_isLess_98 : decode cX0_isLess 98 = .ok (.ifCond .eq 10, 3) := dk_153 0 10 (dk_at dksX0_isLess_4 2 rfl rfl)
theorem dX0_isLess_101 : decode cX0_isLess 101 = .ok (.lload 12, 2) := dk_22 12 (dk_at dksX0_isLess_4 5 rfl rfl)
theorem dX0_isLess_103 : decode cX0_isLess 103 = .ok (.lconst 0, 1) := dk_9 (dk_at dksX0_isLess_4 7 rfl rfl)
theorem dX0_isLess_104 : decode cX0_isLess 104 = .ok (.lcmp, 1) := dk_148 (dk_at dksX0_isLess_4 8 rfl rfl)
theorem dX0_isLess_105 : decode cX0_isLess 105 = .ok (.ifCond .ne 50, 3) := dk_154 0 50 (dk_at dksX0_isLess_4 9 rfl rfl)
theorem dX0_isLess_108 : decode cX0_isLess 108 = .ok (.iload 16, 2) := dk_21 16 (dk_at dksX0_isLess_4 12 rfl rfl)
theorem dX0_isLess_110 : decode cX0_isLess 110 = .ok (.ifCond .eq 25, 3) := dk_153 0 25 (dk_at dksX0_isLess_4 14 rfl rfl)
theorem dX0_isLess_113 : decode cX0_isLess 113 = .ok (.lload 12, 2) := dk_22 12 (dk_at dksX0_isLess_4 17 rfl rfl)
theorem dX0_isLess_115 : decode cX0_isLess 115 = .ok (.lconst 0, 1) := dk_9 (dk_at dksX0_isLess_4 19 rfl rfl)
theorem dX0_isLess_116 : decode cX0_isLess 116 = .ok (.lcmp, 1) := dk_148 (dk_at dksX0_isLess_4 20 rfl rfl)
theorem dX0_isLess_117 : decode cX0_isLess 117 = .ok (.ifCond .ne 14, 3) := dk_154 0 14 (dk_at dksX0_isLess_4 21 rfl rfl)
theorem dX0_isLess_120 : decode cX0_isLess 120 = .ok (.lload 8, 2) := dk_22 8 (dk_at dksX0_isLess_5 0 rfl rfl)
theorem dX0_isLess_122 : decode cX0_isLess 122 = .ok (.lconst 0, 1) := dk_9 (dk_at dksX0_isLess_5 2 rfl rfl)
theorem dX0_isLess_123 : decode cX0_isLess 123 = .ok (.lcmp, 1) := dk_148 (dk_at dksX0_isLess_5 3 rfl rfl)
theorem dX0_isLess_124 : decode cX0_isLess 124 = .ok (.ifCond .le 7, 3) := dk_158 0 7 (dk_at dksX0_isLess_5 4 rfl rfl)
theorem dX0_isLess_127 : decode cX0_isLess 127 = .ok (.iconst 1, 1) := dk_4 (dk_at dksX0_isLess_5 7 rfl rfl)
theorem dX0_isLess_128 : decode cX0_isLess 128 = .ok (.goto 26, 3) := dk_167 0 26 (dk_at dksX0_isLess_5 8 rfl rfl)
theorem dX0_isLess_131 : decode cX0_isLess 131 = .ok (.iconst 0, 1) := dk_3 (dk_at dksX0_isLess_5 11 rfl rfl)
theorem dX0_isLess_132 : decode cX0_isLess 132 = .ok (.goto 22, 3) := dk_167 0 22 (dk_at dksX0_isLess_5 12 rfl rfl)
theorem dX0_isLess_135 : decode cX0_isLess 135 = .ok (.lload 8, 2) := dk_22 8 (dk_at dksX0_isLess_5 15 rfl rfl)
theorem dX0_isLess_137 : decode cX0_isLess 137 = .ok (.lconst 0, 1) := dk_9 (dk_at dksX0_isLess_5 17 rfl rfl)
theorem dX0_isLess_138 : decode cX0_isLess 138 = .ok (.lcmp, 1) := dk_148 (dk_at dksX0_isLess_5 18 rfl rfl)
theorem dX0_isLess_139 : decode cX0_isLess 139 = .ok (.ifCond .ne 14, 3) := dk_154 0 14 (dk_at dksX0_isLess_5 19 rfl rfl)
theorem dX0_isLess_142 : decode cX0_isLess 142 = .ok (.lload 12, 2) := dk_22 12 (dk_at dksX0_isLess_5 22 rfl rfl)
theorem dX0_isLess_144 : decode cX0_isLess 144 = .ok (.lconst 0, 1) := dk_9 (dk_at dksX0_isLess_6 0 rfl rfl)
theorem dX0_isLess_145 : decode cX0_isLess 145 = .ok (.lcmp, 1) := dk_148 (dk_at dksX0_isLess_6 1 rfl rfl)
theorem dX0_isLess_146 : decode cX0_isLess 146 = .ok (.ifCond .le 7, 3) := dk_158 0 7 (dk_at dksX0_isLess_6 2 rfl rfl)
theorem dX0_isLess_149 : decode cX0_isLess 149 = .ok (.iconst 1, 1) := dk_4 (dk_at dksX0_isLess_6 5 rfl rfl)
theorem dX0_isLess_150 : decode cX0_isLess 150 = .ok (.goto 4, 3) := dk_167 0 4 (dk_at dksX0_isLess_6 6 rfl rfl)
theorem dX0_isLess_153 : decode cX0_isLess 153 = .ok (.iconst 0, 1) := dk_3 (dk_at dksX0_isLess_6 9 rfl rfl)
theorem dX0_isLess_154 : decode cX0_isLess 154 = .ok (.ireturn, 1) := dk_172 (dk_at dksX0_isLess_6 10 rfl rfl)
theorem dX0_isLess_155 : decode cX0_isLess 155 = .ok (.lload 8, 2) := dk_22 8 (dk_at dksX0_isLess_6 11 rfl rfl)
theorem dX0_isLess_157 : decode cX0_isLess 157 = .ok (.lstore 21, 2) := dk_55 21 (dk_at dksX0_isLess_6 13 rfl rfl)
theorem dX0_isLess_159 : decode cX0_isLess 159 = .ok (.lload 10, 2) := dk_22 10 (dk_at dksX0_isLess_6 15 rfl rfl)
theorem dX0_isLess_161 : decode cX0_isLess 161 = .ok (.lstore 8, 2) := dk_55 8 (dk_at dksX0_isLess_6 17 rfl rfl)
theorem dX0_isLess_163 : decode cX0_isLess 163 = .ok (.lload 21, 2) := dk_22 21 (dk_at dksX0_isLess_6 19 rfl rfl)
theorem dX0_isLess_165 : decode cX0_isLess 165 = .ok (.lstore 10, 2) := dk_55 10 (dk_at dksX0_isLess_6 21 rfl rfl)
theorem dX0_isLess_167 : decode cX0_isLess 167 = .ok (.lload 12, 2) := dk_22 12 (dk_at dksX0_isLess_7 0 rfl rfl)
theorem dX0_isLess_169 : decode cX0_isLess 169 = .ok (.lstore 21, 2) := dk_55 21 (dk_at dksX0_isLess_7 2 rfl rfl)
theorem dX0_isLess_171 : decode cX0_isLess 171 = .ok (.lload 14, 2) := dk_22 14 (dk_at dksX0_isLess_7 4 rfl rfl)
theorem dX0_isLess_173 : decode cX0_isLess 173 = .ok (.lstore 12, 2) := dk_55 12 (dk_at dksX0_isLess_7 6 rfl rfl)
theorem dX0_isLess_175 : decode cX0_isLess 175 = .ok (.lload 21, 2) := dk_22 21 (dk_at dksX0_isLess_7 8 rfl rfl)
theorem dX0_isLess_177 : decode cX0_isLess 177 = .ok (.lstore 14, 2) := dk_55 14 (dk_at dksX0_isLess_7 10 rfl rfl)
theorem dX0_isLess_179 : decode cX0_isLess 179 = .ok (.iload 16, 2) := dk_21 16 (dk_at dksX0_isLess_7 12 rfl rfl)
theorem dX0_isLess_181 : decode cX0_isLess 181 = .ok (.ifCond .ne 7, 3) := dk_154 0 7 (dk_at dksX0_isLess_7 14 rfl rfl)
theorem dX0_isLess_184 : decode cX0_isLess 184 = .ok (.iconst 1, 1) := dk_4 (dk_at dksX0_isLess_7 17 rfl rfl)
theorem dX0_isLess_185 : decode cX0_isLess 185 = .ok (.goto 4, 3) := dk_167 0 4 (dk_at dksX0_isLess_7 18 rfl rfl)
theorem dX0_isLess_188 : decode cX0_isLess 188 = .ok (.iconst 0, 1) := dk_3 (dk_at dksX0_isLess_7 21 rfl rfl)
theorem dX0_isLess_189 : decode cX0_isLess 189 = .ok (.istore 16, 2) := dk_54 16 (dk_at dksX0_isLess_7 22 rfl rfl)
theorem dX0_isLess_191 : decode cX0_isLess 191 = .ok (.goto (-174), 3) := dk_167 255 82 (dk_at dksX0_isLess_8 0 rfl rfl)
abbrev cX0_divisor : ByteArray := prog_1_method_30_code
def yX0_divisor : MethodName := ⟨RX0, "divisor", "(JJ)J"⟩
def dkwX0_divisor_1 : List UInt8 := [22, 8, 55, 6, 167, 255, 234, 22, 4, 173]
abbrev dktX0_divisor_1 : List UInt8 := dkwX0_divisor_1 ++ []
def dkwX0_divisor_0 : List UInt8 := [30, 55, 4, 32, 55, 6, 22, 6, 9, 148, 158, 0, 21, 22, 4, 22, 6, 113, 55, 8, 22, 6, 55, 4]
abbrev dktX0_divisor_0 : List UInt8 := dkwX0_divisor_0 ++ dktX0_divisor_1
theorem dksX0_divisor_0 : cX0_divisor.data.toList.drop 0 = dktX0_divisor_0 := by decide +kernel
theorem dksX0_divisor_1 : cX0_divisor.data.toList.drop 24 = dktX0_divisor_1 := dk_seg dksX0_divisor_0 24 rfl rfl
theorem dX0_divisor_0 : decode cX0_divisor 0 = .ok (.lload_n 0, 1) := dk_30 (dk_at dksX0_divisor_0 0 rfl rfl)
theorem dX0_divisor_1 : decode cX0_divisor 1 = .ok (.lstore 4, 2) := dk_55 4 (dk_at dksX0_divisor_0 1 rfl rfl)
theorem dX0_divisor_3 : decode cX0_divisor 3 = .ok (.lload_n 2, 1) := dk_32 (dk_at dksX0_divisor_0 3 rfl rfl)
theorem dX0_divisor_4 : decode cX0_divisor 4 = .ok (.lstore 6, 2) := dk_55 6 (dk_at dksX0_divisor_0 4 rfl rfl)
theorem dX0_divisor_6 : decode cX0_divisor 6 = .ok (.lload 6, 2) := dk_22 6 (dk_at dksX0_divisor_0 6 rfl rfl)
theorem dX0_divisor_8 : decode cX0_divisor 8 = .ok (.lconst 0, 1) := dk_9 (dk_at dksX0_divisor_0 8 rfl rfl)
theorem dX0_divisor_9 : decode cX0_divisor 9 = .ok (.lcmp, 1) := dk_148 (dk_at dksX0_divisor_0 9 rfl rfl)
theorem dX0_divisor_10 : decode cX0_divisor 10 = .ok (.ifCond .le 21, 3) := dk_158 0 21 (dk_at dksX0_divisor_0 10 rfl rfl)
theorem dX0_divisor_13 : decode cX0_divisor 13 = .ok (.lload 4, 2) := dk_22 4 (dk_at dksX0_divisor_0 13 rfl rfl)
theorem dX0_divisor_15 : decode cX0_divisor 15 = .ok (.lload 6, 2) := dk_22 6 (dk_at dksX0_divisor_0 15 rfl rfl)
theorem dX0_divisor_17 : decode cX0_divisor 17 = .ok (.lrem, 1) := dk_113 (dk_at dksX0_divisor_0 17 rfl rfl)
theorem dX0_divisor_18 : decode cX0_divisor 18 = .ok (.lstore 8, 2) := dk_55 8 (dk_at dksX0_divisor_0 18 rfl rfl)
theorem dX0_divisor_20 : decode cX0_divisor 20 = .ok (.lload 6, 2) := dk_22 6 (dk_at dksX0_divisor_0 20 rfl rfl)
theorem dX0_divisor_22 : decode cX0_divisor 22 = .ok (.lstore 4, 2) := dk_55 4 (dk_at dksX0_divisor_0 22 rfl rfl)
theorem dX0_divisor_24 : decode cX0_divisor 24 = .ok (.lload 8, 2) := dk_22 8 (dk_at dksX0_divisor_1 0 rfl rfl)
theorem dX0_divisor_26 : decode cX0_divisor 26 = .ok (.lstore 6, 2) := dk_55 6 (dk_at dksX0_divisor_1 2 rfl rfl)
theorem dX0_divisor_28 : decode cX0_divisor 28 = .ok (.goto (-22), 3) := dk_167 255 234 (dk_at dksX0_divisor_1 4 rfl rfl)
theorem dX0_divisor_31 : decode cX0_divisor 31 = .ok (.lload 4, 2) := dk_22 4 (dk_at dksX0_divisor_1 7 rfl rfl)
theorem dX0_divisor_33 : decode cX0_divisor 33 = .ok (.lreturn, 1) := dk_173 (dk_at dksX0_divisor_1 9 rfl rfl)
abbrev cX0_loan : ByteArray := prog_1_method_32_code
def yX0_loan : MethodName := ⟨RX0, "loan", "()I"⟩
def dkwX0_loan_0 : List UInt8 := [42, 180, 0, 56, 182, 1, 47, 172]
abbrev dktX0_loan_0 : List UInt8 := dkwX0_loan_0 ++ []
theorem dksX0_loan_0 : cX0_loan.data.toList.drop 0 = dktX0_loan_0 := by decide +kernel
theorem dX0_loan_0 : decode cX0_loan 0 = .ok (.aload_n 0, 1) := dk_42 (dk_at dksX0_loan_0 0 rfl rfl)
theorem dX0_loan_1 : decode cX0_loan 1 = .ok (.getfield 56, 3) := dk_180 0 56 (dk_at dksX0_loan_0 1 rfl rfl)
theorem dX0_loan_4 : decode cX0_loan 4 = .ok (.invokevirtual 303, 3) := dk_182 1 47 (dk_at dksX0_loan_0 4 rfl rfl)
theorem dX0_loan_7 : decode cX0_loan 7 = .ok (.ireturn, 1) := dk_172 (dk_at dksX0_loan_0 7 rfl rfl)
abbrev cX0_step : ByteArray := prog_1_method_33_code
def yX0_step : MethodName := ⟨RX0, "step", "()J"⟩
def dkwX0_step_4 : List UInt8 := [3, 182, 1, 31, 65, 132, 4, 1, 167, 255, 176, 32, 173]
abbrev dktX0_step_4 : List UInt8 := dkwX0_step_4 ++ []
def dkwX0_step_3 : List UInt8 := [180, 0, 56, 27, 16, 10, 108, 3, 182, 1, 31, 32, 148, 156, 0, 16, 42, 180, 0, 56, 27, 16, 10, 108]
abbrev dktX0_step_3 : List UInt8 := dkwX0_step_3 ++ dktX0_step_4
def dkwX0_step_2 : List UInt8 := [154, 0, 6, 167, 0, 50, 42, 180, 0, 56, 21, 4, 182, 1, 24, 32, 20, 1, 5, 148, 153, 0, 20, 42]
abbrev dktX0_step_2 : List UInt8 := dkwX0_step_2 ++ dktX0_step_3
def dkwX0_step_1 : List UInt8 := [21, 4, 16, 32, 42, 180, 0, 56, 180, 1, 20, 120, 162, 0, 71, 42, 180, 0, 56, 21, 4, 182, 1, 21]
abbrev dktX0_step_1 : List UInt8 := dkwX0_step_1 ++ dktX0_step_2
def dkwX0_step_0 : List UInt8 := [42, 180, 0, 56, 182, 1, 47, 60, 27, 2, 160, 0, 7, 20, 0, 249, 173, 20, 1, 5, 65, 3, 54, 4]
abbrev dktX0_step_0 : List UInt8 := dkwX0_step_0 ++ dktX0_step_1
theorem dksX0_step_0 : cX0_step.data.toList.drop 0 = dktX0_step_0 := by decide +kernel
theorem dksX0_step_1 : cX0_step.data.toList.drop 24 = dktX0_step_1 := dk_seg dksX0_step_0 24 rfl rfl
theorem dksX0_step_2 : cX0_step.data.toList.drop 48 = dktX0_step_2 := dk_seg dksX0_step_1 24 rfl rfl
theorem dksX0_step_3 : cX0_step.data.toList.drop 72 = dktX0_step_3 := dk_seg dksX0_step_2 24 rfl rfl
theorem dksX0_step_4 : cX0_step.data.toList.drop 96 = dktX0_step_4 := dk_seg dksX0_step_3 24 rfl rfl
theorem dX0_step_0 : decode cX0_step 0 = .ok (.aload_n 0, 1) := dk_42 (dk_at dksX0_step_0 0 rfl rfl)
theorem dX0_step_1 : decode cX0_step 1 = .ok (.getfield 56, 3) := dk_180 0 56 (dk_at dksX0_step_0 1 rfl rfl)
theorem dX0_step_4 : decode cX0_step 4 = .ok (.invokevirtual 303, 3) := dk_182 1 47 (dk_at dksX0_step_0 4 rfl rfl)
theorem dX0_step_7 : decode cX0_step 7 = .ok (.istore_n 1, 1) := dk_60 (dk_at dksX0_step_0 7 rfl rfl)
theorem dX0_step_8 : decode cX0_step 8 = .ok (.iload_n 1, 1) := dk_27 (dk_at dksX0_step_0 8 rfl rfl)
theorem dX0_step_9 : decode cX0_step 9 = .ok (.iconst (-1), 1) := dk_2 (dk_at dksX0_step_0 9 rfl rfl)
theorem dX0_step_10 : decode cX0_step 10 = .ok (.if_icmp .ne 7, 3) := dk_160 0 7 (dk_at dksX0_step_0 10 rfl rfl)
theorem dX0_step_13 : decode cX0_step 13 = .ok (.ldc2_w 249, 3) := dk_20 0 249 (dk_at dksX0_step_0 13 rfl rfl)
theorem dX0_step_16 : decode cX0_step 16 = .ok (.lreturn, 1) := dk_173 (dk_at dksX0_step_0 16 rfl rfl)
theorem dX0_step_17 : decode cX0_step 17 = .ok (.ldc2_w 261, 3) := dk_20 1 5 (dk_at dksX0_step_0 17 rfl rfl)
theorem dX0_step_20 : decode cX0_step 20 = .ok (.lstore_n 2, 1) := dk_65 (dk_at dksX0_step_0 20 rfl rfl)
theorem dX0_step_21 : decode cX0_step 21 = .ok (.iconst 0, 1) := dk_3 (dk_at dksX0_step_0 21 rfl rfl)
theorem dX0_step_22 : decode cX0_step 22 = .ok (.istore 4, 2) := dk_54 4 (dk_at dksX0_step_0 22 rfl rfl)
theorem dX0_step_24 : decode cX0_step 24 = .ok (.iload 4, 2) := dk_21 4 (dk_at dksX0_step_1 0 rfl rfl)
theorem dX0_step_26 : decode cX0_step 26 = .ok (.bipush 32, 2) := dk_16 32 (dk_at dksX0_step_1 2 rfl rfl)
theorem dX0_step_28 : decode cX0_step 28 = .ok (.aload_n 0, 1) := dk_42 (dk_at dksX0_step_1 4 rfl rfl)
theorem dX0_step_29 : decode cX0_step 29 = .ok (.getfield 56, 3) := dk_180 0 56 (dk_at dksX0_step_1 5 rfl rfl)
theorem dX0_step_32 : decode cX0_step 32 = .ok (.getfield 276, 3) := dk_180 1 20 (dk_at dksX0_step_1 8 rfl rfl)
theorem dX0_step_35 : decode cX0_step 35 = .ok (.ishl, 1) := dk_120 (dk_at dksX0_step_1 11 rfl rfl)
theorem dX0_step_36 : decode cX0_step 36 = .ok (.if_icmp .ge 71, 3) := dk_162 0 71 (dk_at dksX0_step_1 12 rfl rfl)
theorem dX0_step_39 : decode cX0_step 39 = .ok (.aload_n 0, 1) := dk_42 (dk_at dksX0_step_1 15 rfl rfl)
theorem dX0_step_40 : decode cX0_step 40 = .ok (.getfield 56, 3) := dk_180 0 56 (dk_at dksX0_step_1 16 rfl rfl)
theorem dX0_step_43 : decode cX0_step 43 = .ok (.iload 4, 2) := dk_21 4 (dk_at dksX0_step_1 19 rfl rfl)
theorem dX0_step_45 : decode cX0_step 45 = .ok (.invokevirtual 277, 3) := dk_182 1 21 (dk_at dksX0_step_1 21 rfl rfl)
theorem dX0_step_48 : decode cX0_step 48 = .ok (.ifCond .ne 6, 3) := dk_154 0 6 (dk_at dksX0_step_2 0 rfl rfl)
theorem dX0_step_51 : decode cX0_step 51 = .ok (.goto 50, 3) := dk_167 0 50 (dk_at dksX0_step_2 3 rfl rfl)
theorem dX0_step_54 : decode cX0_step 54 = .ok (.aload_n 0, 1) := dk_42 (dk_at dksX0_step_2 6 rfl rfl)
theorem dX0_step_55 : decode cX0_step 55 = .ok (.getfield 56, 3) := dk_180 0 56 (dk_at dksX0_step_2 7 rfl rfl)
theorem dX0_step_58 : decode cX0_step 58 = .ok (.iload 4, 2) := dk_21 4 (dk_at dksX0_step_2 10 rfl rfl)
theorem dX0_step_60 : decode cX0_step 60 = .ok (.invokevirtual 280, 3) := dk_182 1 24 (dk_at dksX0_step_2 12 rfl rfl)
theorem dX0_step_63 : decode cX0_step 63 = .ok (.lload_n 2, 1) := dk_32 (dk_at dksX0_step_2 15 rfl rfl)
theorem dX0_step_64 : decode cX0_step 64 = .ok (.ldc2_w 261, 3) := dk_20 1 5 (dk_at dksX0_step_2 16 rfl rfl)
theorem dX0_step_67 : decode cX0_step 67 = .ok (.lcmp, 1) := dk_148 (dk_at dksX0_step_2 19 rfl rfl)
theorem dX0_step_68 : decode cX0_step 68 = .ok (.ifCond .eq 20, 3) := dk_153 0 20 (dk_at dksX0_step_2 20 rfl rfl)
theorem dX0_step_71 : decode cX0_step 71 = .ok (.aload_n 0, 1) := dk_42 (dk_at dksX0_step_2 23 rfl rfl)
theorem dX0_step_72 : decode cX0_step 72 = .ok (.getfield 56, 3) := dk_180 0 56 (dk_at dksX0_step_3 0 rfl rfl)
theorem dX0_step_75 : decode cX0_step 75 = .ok (.iload_n 1, 1) := dk_27 (dk_at dksX0_step_3 3 rfl rfl)
theorem dX0_step_76 : decode cX0_step 76 = .ok (.bipush 10, 2) := dk_16 10 (dk_at dksX0_step_3 4 rfl rfl)
theorem dX0_step_78 : decode cX0_step 78 = .ok (.idiv, 1) := dk_108 (dk_at dksX0_step_3 6 rfl rfl)
theorem dX0_step_79 : decode cX0_step 79 = .ok (.iconst 0, 1) := dk_3 (dk_at dksX0_step_3 7 rfl rfl)
theorem dX0_step_80 : decode cX0_step 80 = .ok (.invokevirtual 287, 3) := dk_182 1 31 (dk_at dksX0_step_3 8 rfl rfl)
theorem dX0_step_83 : decode cX0_step 83 = .ok (.lload_n 2, 1) := dk_32 (dk_at dksX0_step_3 11 rfl rfl)
theorem dX0_step_84 : decode cX0_step 84 = .ok (.lcmp, 1) := dk_148 (dk_at dksX0_step_3 12 rfl rfl)
theorem dX0_step_85 : decode cX0_step 85 = .ok (.ifCond .ge 16, 3) := dk_156 0 16 (dk_at dksX0_step_3 13 rfl rfl)
theorem dX0_step_88 : decode cX0_step 88 = .ok (.aload_n 0, 1) := dk_42 (dk_at dksX0_step_3 16 rfl rfl)
theorem dX0_step_89 : decode cX0_step 89 = .ok (.getfield 56, 3) := dk_180 0 56 (dk_at dksX0_step_3 17 rfl rfl)
theorem dX0_step_92 : decode cX0_step 92 = .ok (.iload_n 1, 1) := dk_27 (dk_at dksX0_step_3 20 rfl rfl)
theorem dX0_step_93 : decode cX0_step 93 = .ok (.bipush 10, 2) := dk_16 10 (dk_at dksX0_step_3 21 rfl rfl)
theorem dX0_step_95 : decode cX0_step 95 = .ok (.idiv, 1) := dk_108 (dk_at dksX0_step_3 23 rfl rfl)
theorem dX0_step_96 : decode cX0_step 96 = .ok (.iconst 0, 1) := dk_3 (dk_at dksX0_step_4 0 rfl rfl)
theorem dX0_step_97 : decode cX0_step 97 = .ok (.invokevirtual 287, 3) := dk_182 1 31 (dk_at dksX0_step_4 1 rfl rfl)
theorem dX0_step_100 : decode cX0_step 100 = .ok (.lstore_n 2, 1) := dk_65 (dk_at dksX0_step_4 4 rfl rfl)
theorem dX0_step_101 : decode cX0_step 101 = .ok (.iinc 4 1, 3) := dk_132 4 1 (dk_at dksX0_step_4 5 rfl rfl)
theorem dX0_step_104 : decode cX0_step 104 = .ok (.goto (-80), 3) := dk_167 255 176 (dk_at dksX0_step_4 8 rfl rfl)
theorem dX0_step_107 : decode cX0_step 107 = .ok (.lload_n 2, 1) := dk_32 (dk_at dksX0_step_4 11 rfl rfl)
theorem dX0_step_108 : decode cX0_step 108 = .ok (.lreturn, 1) := dk_173 (dk_at dksX0_step_4 12 rfl rfl)
abbrev cX0_bears : ByteArray := prog_1_method_34_code
def yX0_bears : MethodName := ⟨RX0, "bears", "(II)J"⟩
def dkwX0_bears_1 : List UInt8 := [3, 2, 182, 1, 1, 42, 180, 0, 56, 3, 27, 3, 2, 182, 1, 1, 101, 167, 0, 6, 20, 1, 5, 173]
abbrev dktX0_bears_1 : List UInt8 := dkwX0_bears_1 ++ []
def dkwX0_bears_0 : List UInt8 := [27, 184, 0, 254, 153, 0, 40, 28, 3, 7, 184, 0, 70, 153, 0, 31, 42, 180, 0, 56, 4, 28, 120, 27]
abbrev dktX0_bears_0 : List UInt8 := dkwX0_bears_0 ++ dktX0_bears_1
theorem dksX0_bears_0 : cX0_bears.data.toList.drop 0 = dktX0_bears_0 := by decide +kernel
theorem dksX0_bears_1 : cX0_bears.data.toList.drop 24 = dktX0_bears_1 := dk_seg dksX0_bears_0 24 rfl rfl
theorem dX0_bears_0 : decode cX0_bears 0 = .ok (.iload_n 1, 1) := dk_27 (dk_at dksX0_bears_0 0 rfl rfl)
theorem dX0_bears_1 : decode cX0_bears 1 = .ok (.invokestatic 254, 3) := dk_184 0 254 (dk_at dksX0_bears_0 1 rfl rfl)
theorem dX0_bears_4 : decode cX0_bears 4 = .ok (.ifCond .eq 40, 3) := dk_153 0 40 (dk_at dksX0_bears_0 4 rfl rfl)
theorem dX0_bears_7 : decode cX0_bears 7 = .ok (.iload_n 2, 1) := dk_28 (dk_at dksX0_bears_0 7 rfl rfl)
theorem dX0_bears_8 : decode cX0_bears 8 = .ok (.iconst 0, 1) := dk_3 (dk_at dksX0_bears_0 8 rfl rfl)
theorem dX0_bears_9 : decode cX0_bears 9 = .ok (.iconst 4, 1) := dk_7 (dk_at dksX0_bears_0 9 rfl rfl)
theorem dX0_bears_10 : decode cX0_bears 10 = .ok (.invokestatic 70, 3) := dk_184 0 70 (dk_at dksX0_bears_0 10 rfl rfl)
theorem dX0_bears_13 : decode cX0_bears 13 = .ok (.ifCond .eq 31, 3) := dk_153 0 31 (dk_at dksX0_bears_0 13 rfl rfl)
theorem dX0_bears_16 : decode cX0_bears 16 = .ok (.aload_n 0, 1) := dk_42 (dk_at dksX0_bears_0 16 rfl rfl)
theorem dX0_bears_17 : decode cX0_bears 17 = .ok (.getfield 56, 3) := dk_180 0 56 (dk_at dksX0_bears_0 17 rfl rfl)
theorem dX0_bears_20 : decode cX0_bears 20 = .ok (.iconst 1, 1) := dk_4 (dk_at dksX0_bears_0 20 rfl rfl)
theorem dX0_bears_21 : decode cX0_bears 21 = .ok (.iload_n 2, 1) := dk_28 (dk_at dksX0_bears_0 21 rfl rfl)
theorem dX0_bears_22 : decode cX0_bears 22 = .ok (.ishl, 1) := dk_120 (dk_at dksX0_bears_0 22 rfl rfl)
theorem dX0_bears_23 : decode cX0_bears 23 = .ok (.iload_n 1, 1) := dk_27 (dk_at dksX0_bears_0 23 rfl rfl)
theorem dX0_bears_24 : decode cX0_bears 24 = .ok (.iconst 0, 1) := dk_3 (dk_at dksX0_bears_1 0 rfl rfl)
theorem dX0_bears_25 : decode cX0_bears 25 = .ok (.iconst (-1), 1) := dk_2 (dk_at dksX0_bears_1 1 rfl rfl)
theorem dX0_bears_26 : decode cX0_bears 26 = .ok (.invokevirtual 257, 3) := dk_182 1 1 (dk_at dksX0_bears_1 2 rfl rfl)
theorem dX0_bears_29 : decode cX0_bears 29 = .ok (.aload_n 0, 1) := dk_42 (dk_at dksX0_bears_1 5 rfl rfl)
theorem dX0_bears_30 : decode cX0_bears 30 = .ok (.getfield 56, 3) := dk_180 0 56 (dk_at dksX0_bears_1 6 rfl rfl)
theorem dX0_bears_33 : decode cX0_bears 33 = .ok (.iconst 0, 1) := dk_3 (dk_at dksX0_bears_1 9 rfl rfl)
theorem dX0_bears_34 : decode cX0_bears 34 = .ok (.iload_n 1, 1) := dk_27 (dk_at dksX0_bears_1 10 rfl rfl)
theorem dX0_bears_35 : decode cX0_bears 35 = .ok (.iconst 0, 1) := dk_3 (dk_at dksX0_bears_1 11 rfl rfl)
theorem dX0_bears_36 : decode cX0_bears 36 = .ok (.iconst (-1), 1) := dk_2 (dk_at dksX0_bears_1 12 rfl rfl)
theorem dX0_bears_37 : decode cX0_bears 37 = .ok (.invokevirtual 257, 3) := dk_182 1 1 (dk_at dksX0_bears_1 13 rfl rfl)
theorem dX0_bears_40 : decode cX0_bears 40 = .ok (.lsub, 1) := dk_101 (dk_at dksX0_bears_1 16 rfl rfl)
theorem dX0_bears_41 : decode cX0_bears 41 = .ok (.goto 6, 3) := dk_167 0 6 (dk_at dksX0_bears_1 17 rfl rfl)
theorem dX0_bears_44 : decode cX0_bears 44 = .ok (.ldc2_w 261, 3) := dk_20 1 5 (dk_at dksX0_bears_1 20 rfl rfl)
theorem dX0_bears_47 : decode cX0_bears 47 = .ok (.lreturn, 1) := dk_173 (dk_at dksX0_bears_1 23 rfl rfl)
abbrev cX0_cost : ByteArray := prog_1_method_35_code
def yX0_cost : MethodName := ⟨RX0, "cost", "(III)J"⟩
def dkwX0_cost_5 : List UInt8 := [167, 255, 182, 29, 154, 0, 8, 22, 4, 167, 0, 6, 21, 8, 133, 173]
abbrev dktX0_cost_5 : List UInt8 := dkwX0_cost_5 ++ []
def dkwX0_cost_4 : List UInt8 := [55, 4, 22, 10, 22, 6, 148, 157, 0, 6, 167, 0, 11, 22, 10, 55, 6, 21, 9, 54, 8, 132, 9, 1]
abbrev dktX0_cost_4 : List UInt8 := dkwX0_cost_4 ++ dktX0_cost_5
def dkwX0_cost_3 : List UInt8 := [21, 9, 3, 182, 1, 31, 55, 10, 22, 10, 9, 148, 157, 0, 6, 167, 0, 29, 22, 4, 22, 10, 97]
abbrev dktX0_cost_3 : List UInt8 := dkwX0_cost_3 ++ dktX0_cost_4
def dkwX0_cost_2 : List UInt8 := [162, 0, 73, 21, 9, 27, 159, 0, 9, 21, 9, 28, 160, 0, 7, 9, 167, 0, 13, 42, 180, 0, 56]
abbrev dktX0_cost_2 : List UInt8 := dkwX0_cost_2 ++ dktX0_cost_3
def dkwX0_cost_1 : List UInt8 := [180, 0, 56, 3, 182, 1, 24, 9, 55, 4, 9, 55, 6, 2, 54, 8, 3, 54, 9, 21, 9, 16, 8]
abbrev dktX0_cost_1 : List UInt8 := dkwX0_cost_1 ++ dktX0_cost_2
def dkwX0_cost_0 : List UInt8 := [42, 27, 28, 182, 1, 14, 153, 0, 12, 29, 3, 4, 184, 0, 70, 154, 0, 7, 20, 0, 249, 173, 42]
abbrev dktX0_cost_0 : List UInt8 := dkwX0_cost_0 ++ dktX0_cost_1
theorem dksX0_cost_0 : cX0_cost.data.toList.drop 0 = dktX0_cost_0 := by decide +kernel
theorem dksX0_cost_1 : cX0_cost.data.toList.drop 23 = dktX0_cost_1 := dk_seg dksX0_cost_0 23 rfl rfl
theorem dksX0_cost_2 : cX0_cost.data.toList.drop 46 = dktX0_cost_2 := dk_seg dksX0_cost_1 23 rfl rfl
theorem dksX0_cost_3 : cX0_cost.data.toList.drop 69 = dktX0_cost_3 := dk_seg dksX0_cost_2 23 rfl rfl
theorem dksX0_cost_4 : cX0_cost.data.toList.drop 92 = dktX0_cost_4 := dk_seg dksX0_cost_3 23 rfl rfl
theorem dksX0_cost_5 : cX0_cost.data.toList.drop 116 = dktX0_cost_5 := dk_seg dksX0_cost_4 24 rfl rfl
theorem dX0_cost_0 : decode cX0_cost 0 = .ok (.aload_n 0, 1) := dk_42 (dk_at dksX0_cost_0 0 rfl rfl)
theorem dX0_cost_1 : decode cX0_cost 1 = .ok (.iload_n 1, 1) := dk_27 (dk_at dksX0_cost_0 1 rfl rfl)
theorem dX0_cost_2 : decode cX0_cost 2 = .ok (.iload_n 2, 1) := dk_28 (dk_at dksX0_cost_0 2 rfl rfl)
theorem dX0_cost_3 : decode cX0_cost 3 = .ok (.invokevirtual 270, 3) := dk_182 1 14 (dk_at dksX0_cost_0 3 rfl rfl)
theorem dX0_cost_6 : decode cX0_cost 6 = .ok (.ifCond .eq 12, 3) := dk_153 0 12 (dk_at dksX0_cost_0 6 rfl rfl)
theorem dX0_cost_9 : decode cX0_cost 9 = .ok (.iload_n 3, 1) := dk_29 (dk_at dksX0_cost_0 9 rfl rfl)
theorem dX0_cost_10 : decode cX0_cost 10 = .ok (.iconst 0, 1) := dk_3 (dk_at dksX0_cost_0 10 rfl rfl)
theorem dX0_cost_11 : decode cX0_cost 11 = .ok (.iconst 1, 1) := dk_4 (dk_at dksX0_cost_0 11 rfl rfl)
theorem dX0_cost_12 : decode cX0_cost 12 = .ok (.invokestatic 70, 3) := dk_184 0 70 (dk_at dksX0_cost_0 12 rfl rfl)
theorem dX0_cost_15 : decode cX0_cost 15 = .ok (.ifCond .ne 7, 3) := dk_154 0 7 (dk_at dksX0_cost_0 15 rfl rfl)
theorem dX0_cost_18 : decode cX0_cost 18 = .ok (.ldc2_w 249, 3) := dk_20 0 249 (dk_at dksX0_cost_0 18 rfl rfl)
theorem dX0_cost_21 : decode cX0_cost 21 = .ok (.lreturn, 1) := dk_173 (dk_at dksX0_cost_0 21 rfl rfl)
theorem dX0_cost_22 : decode cX0_cost 22 = .ok (.aload_n 0, 1) := dk_42 (dk_at dksX0_cost_0 22 rfl rfl)
theorem dX0_cost_23 : decode cX0_cost 23 = .ok (.getfield 56, 3) := dk_180 0 56 (dk_at dksX0_cost_1 0 rfl rfl)
theorem dX0_cost_26 : decode cX0_cost 26 = .ok (.iconst 0, 1) := dk_3 (dk_at dksX0_cost_1 3 rfl rfl)
theorem dX0_cost_27 : decode cX0_cost 27 = .ok (.invokevirtual 280, 3) := dk_182 1 24 (dk_at dksX0_cost_1 4 rfl rfl)
theorem dX0_cost_30 : decode cX0_cost 30 = .ok (.lconst 0, 1) := dk_9 (dk_at dksX0_cost_1 7 rfl rfl)
theorem dX0_cost_31 : decode cX0_cost 31 = .ok (.lstore 4, 2) := dk_55 4 (dk_at dksX0_cost_1 8 rfl rfl)
theorem dX0_cost_33 : decode cX0_cost 33 = .ok (.lconst 0, 1) := dk_9 (dk_at dksX0_cost_1 10 rfl rfl)
theorem dX0_cost_34 : decode cX0_cost 34 = .ok (.lstore 6, 2) := dk_55 6 (dk_at dksX0_cost_1 11 rfl rfl)
theorem dX0_cost_36 : decode cX0_cost 36 = .ok (.iconst (-1), 1) := dk_2 (dk_at dksX0_cost_1 13 rfl rfl)
theorem dX0_cost_37 : decode cX0_cost 37 = .ok (.istore 8, 2) := dk_54 8 (dk_at dksX0_cost_1 14 rfl rfl)
theorem dX0_cost_39 : decode cX0_cost 39 = .ok (.iconst 0, 1) := dk_3 (dk_at dksX0_cost_1 16 rfl rfl)
theorem dX0_cost_40 : decode cX0_cost 40 = .ok (.istore 9, 2) := dk_54 9 (dk_at dksX0_cost_1 17 rfl rfl)
theorem dX0_cost_42 : decode cX0_cost 42 = .ok (.iload 9, 2) := dk_21 9 (dk_at dksX0_cost_1 19 rfl rfl)
theorem dX0_cost_44 : decode cX0_cost 44 = .ok (.bipush 8, 2) := dk_16 8 (dk_at dksX0_cost_1 21 rfl rfl)
theorem dX0_cost_46 : decode cX0_cost 46 = .ok (.if_icmp .ge 73, 3) := dk_162 0 73 (dk_at dksX0_cost_2 0 rfl rfl)
theorem dX0_cost_49 : decode cX0_cost 49 = .ok (.iload 9, 2) := dk_21 9 (dk_at dksX0_cost_2 3 rfl rfl)
theorem dX0_cost_51 : decode cX0_cost 51 = .ok (.iload_n 1, 1) := dk_27 (dk_at dksX0_cost_2 5 rfl rfl)
theorem dX0_cost_52 : decode cX0_cost 52 = .ok (.if_icmp .eq 9, 3) := dk_159 0 9 (dk_at dksX0_cost_2 6 rfl rfl)
theorem dX0_cost_55 : decode cX0_cost 55 = .ok (.iload 9, 2) := dk_21 9 (dk_at dksX0_cost_2 9 rfl rfl)
theorem dX0_cost_57 : decode cX0_cost 57 = .ok (.iload_n 2, 1) := dk_28 (dk_at dksX0_cost_2 11 rfl rfl)
theorem dX0_cost_58 : decode cX0_cost 58 = .ok (.if_icmp .ne 7, 3) := dk_160 0 7 (dk_at dksX0_cost_2 12 rfl rfl)
theorem dX0_cost_61 : decode cX0_cost 61 = .ok (.lconst 0, 1) := dk_9 (dk_at dksX0_cost_2 15 rfl rfl)
theorem dX0_cost_62 : decode cX0_cost 62 = .ok (.goto 13, 3) := dk_167 0 13 (dk_at dksX0_cost_2 16 rfl rfl)
theorem dX0_cost_65 : decode cX0_cost 65 = .ok (.aload_n 0, 1) := dk_42 (dk_at dksX0_cost_2 19 rfl rfl)
theorem dX0_cost_66 : decode cX0_cost 66 = .ok (.getfield 56, 3) := dk_180 0 56 (dk_at dksX0_cost_2 20 rfl rfl)
theorem dX0_cost_69 : decode cX0_cost 69 = .ok (.iload 9, 2) := dk_21 9 (dk_at dksX0_cost_3 0 rfl rfl)
theorem dX0_cost_71 : decode cX0_cost 71 = .ok (.iconst 0, 1) := dk_3 (dk_at dksX0_cost_3 2 rfl rfl)
theorem dX0_cost_72 : decode cX0_cost 72 = .ok (.invokevirtual 287, 3) := dk_182 1 31 (dk_at dksX0_cost_3 3 rfl rfl)
theorem dX0_cost_75 : decode cX0_cost 75 = .ok (.lstore 10, 2) := dk_55 10 (dk_at dksX0_cost_3 6 rfl rfl)
theorem dX0_cost_77 : decode cX0_cost 77 = .ok (.lload 10, 2) := dk_22 10 (dk_at dksX0_cost_3 8 rfl rfl)
theorem dX0_cost_79 : decode cX0_cost 79 = .ok (.lconst 0, 1) := dk_9 (dk_at dksX0_cost_3 10 rfl rfl)
theorem dX0_cost_80 : decode cX0_cost 80 = .ok (.lcmp, 1) := dk_148 (dk_at dksX0_cost_3 11 rfl rfl)
theorem dX0_cost_81 : decode cX0_cost 81 = .ok (.ifCond .gt 6, 3) := dk_157 0 6 (dk_at dksX0_cost_3 12 rfl rfl)
theorem dX0_cost_84 : decode cX0_cost 84 = .ok (.goto 29, 3) := dk_167 0 29 (dk_at dksX0_cost_3 15 rfl rfl)
theorem dX0_cost_87 : decode cX0_cost 87 = .ok (.lload 4, 2) := dk_22 4 (dk_at dksX0_cost_3 18 rfl rfl)
theorem dX0_cost_89 : decode cX0_cost 89 = .ok (.lload 10, 2) := dk_22 10 (dk_at dksX0_cost_3 20 rfl rfl)
theorem dX0_cost_91 : decode cX0_cost 91 = .ok (.ladd, 1) := dk_97 (dk_at dksX0_cost_3 22 rfl rfl)
theorem dX0_cost_92 : decode cX0_cost 92 = .ok (.lstore 4, 2) := dk_55 4 (dk_at dksX0_cost_4 0 rfl rfl)
theorem dX0_cost_94 : decode cX0_cost 94 = .ok (.lload 10, 2) := dk_22 10 (dk_at dksX0_cost_4 2 rfl rfl)
theorem dX0_cost_96 : decode cX0_cost 96 = .ok (.lload 6, 2) := dk_22 6 (dk_at dksX0_cost_4 4 rfl rfl)
theorem dX0_cost_98 : decode cX0_cost 98 = .ok (.lcmp, 1) := dk_148 (dk_at dksX0_cost_4 6 rfl rfl)
theorem dX0_cost_99 : decode cX0_cost 99 = .ok (.ifCond .gt 6, 3) := dk_157 0 6 (dk_at dksX0_cost_4 7 rfl rfl)
theorem dX0_cost_102 : decode cX0_cost 102 = .ok (.goto 11, 3) := dk_167 0 11 (dk_at dksX0_cost_4 10 rfl rfl)
theorem dX0_cost_105 : decode cX0_cost 105 = .ok (.lload 10, 2) := dk_22 10 (dk_at dksX0_cost_4 13 rfl rfl)
theorem dX0_cost_107 : decode cX0_cost 107 = .ok (.lstore 6, 2) := dk_55 6 (dk_at dksX0_cost_4 15 rfl rfl)
theorem dX0_cost_109 : decode cX0_cost 109 = .ok (.iload 9, 2) := dk_21 9 (dk_at dksX0_cost_4 17 rfl rfl)
theorem dX0_cost_111 : decode cX0_cost 111 = .ok (.istore 8, 2) := dk_54 8 (dk_at dksX0_cost_4 19 rfl rfl)
theorem dX0_cost_113 : decode cX0_cost 113 = .ok (.iinc 9 1, 3) := dk_132 9 1 (dk_at dksX0_cost_4 21 rfl rfl)
theorem dX0_cost_116 : decode cX0_cost 116 = .ok (.goto (-74), 3) := dk_167 255 182 (dk_at dksX0_cost_5 0 rfl rfl)
theorem dX0_cost_119 : decode cX0_cost 119 = .ok (.iload_n 3, 1) := dk_29 (dk_at dksX0_cost_5 3 rfl rfl)
theorem dX0_cost_120 : decode cX0_cost 120 = .ok (.ifCond .ne 8, 3) := dk_154 0 8 (dk_at dksX0_cost_5 4 rfl rfl)
theorem dX0_cost_123 : decode cX0_cost 123 = .ok (.lload 4, 2) := dk_22 4 (dk_at dksX0_cost_5 7 rfl rfl)
theorem dX0_cost_125 : decode cX0_cost 125 = .ok (.goto 6, 3) := dk_167 0 6 (dk_at dksX0_cost_5 9 rfl rfl)
theorem dX0_cost_128 : decode cX0_cost 128 = .ok (.iload 8, 2) := dk_21 8 (dk_at dksX0_cost_5 12 rfl rfl)
theorem dX0_cost_130 : decode cX0_cost 130 = .ok (.i2l, 1) := dk_133 (dk_at dksX0_cost_5 14 rfl rfl)
theorem dX0_cost_131 : decode cX0_cost 131 = .ok (.lreturn, 1) := dk_173 (dk_at dksX0_cost_5 15 rfl rfl)
abbrev cX0_breach : ByteArray := prog_1_method_36_code
def yX0_breach : MethodName := ⟨RX0, "breach", "(I)I"⟩
def dkwX0_breach_5 : List UInt8 := [21, 4, 182, 1, 68, 172, 132, 2, 1, 167, 255, 142, 2, 172]
abbrev dktX0_breach_5 : List UInt8 := dkwX0_breach_5 ++ []
def dkwX0_breach_4 : List UInt8 := [160, 0, 9, 132, 4, 1, 167, 255, 239, 27, 4, 160, 0, 8, 21, 4, 167, 0, 13, 42, 180, 0, 56, 45]
abbrev dktX0_breach_4 : List UInt8 := dkwX0_breach_4 ++ dktX0_breach_5
def dkwX0_breach_3 : List UInt8 := [182, 1, 64, 167, 0, 4, 2, 172, 3, 54, 4, 42, 180, 0, 56, 45, 21, 4, 182, 1, 68, 2]
abbrev dktX0_breach_3 : List UInt8 := dkwX0_breach_3 ++ dktX0_breach_4
def dkwX0_breach_2 : List UInt8 := [27, 154, 0, 5, 28, 172, 45, 180, 1, 59, 2, 160, 0, 21, 27, 4, 160, 0, 14, 42, 180, 0, 56, 45]
abbrev dktX0_breach_2 : List UInt8 := dkwX0_breach_2 ++ dktX0_breach_3
def dkwX0_breach_1 : List UInt8 := [42, 180, 0, 49, 180, 1, 51, 28, 50, 78, 42, 180, 0, 56, 45, 182, 1, 55, 154, 0, 6, 167, 0, 79]
abbrev dktX0_breach_1 : List UInt8 := dkwX0_breach_1 ++ dktX0_breach_2
def dkwX0_breach_0 : List UInt8 := [27, 3, 5, 184, 0, 70, 154, 0, 5, 2, 172, 3, 61, 28, 42, 180, 0, 49, 180, 1, 50, 162, 0, 109]
abbrev dktX0_breach_0 : List UInt8 := dkwX0_breach_0 ++ dktX0_breach_1
theorem dksX0_breach_0 : cX0_breach.data.toList.drop 0 = dktX0_breach_0 := by decide +kernel
theorem dksX0_breach_1 : cX0_breach.data.toList.drop 24 = dktX0_breach_1 := dk_seg dksX0_breach_0 24 rfl rfl
theorem dksX0_breach_2 : cX0_breach.data.toList.drop 48 = dktX0_breach_2 := dk_seg dksX0_breach_1 24 rfl rfl
theorem dksX0_breach_3 : cX0_breach.data.toList.drop 72 = dktX0_breach_3 := dk_seg dksX0_breach_2 24 rfl rfl
theorem dksX0_breach_4 : cX0_breach.data.toList.drop 94 = dktX0_breach_4 := dk_seg dksX0_breach_3 22 rfl rfl
theorem dksX0_breach_5 : cX0_breach.data.toList.drop 118 = dktX0_breach_5 := dk_seg dksX0_breach_4 24 rfl rfl
theorem dX0_breach_0 : decode cX0_breach 0 = .ok (.iload_n 1, 1) := dk_27 (dk_at dksX0_breach_0 0 rfl rfl)
theorem dX0_breach_1 : decode cX0_breach 1 = .ok (.iconst 0, 1) := dk_3 (dk_at dksX0_breach_0 1 rfl rfl)
theorem dX0_breach_2 : decode cX0_breach 2 = .ok (.iconst 2, 1) := dk_5 (dk_at dksX0_breach_0 2 rfl rfl)
theorem dX0_breach_3 : decode cX0_breach 3 = .ok (.invokestatic 70, 3) := dk_184 0 70 (dk_at dksX0_breach_0 3 rfl rfl)
theorem dX0_breach_6 : decode cX0_breach 6 = .ok (.ifCond .ne 5, 3) := dk_154 0 5 (dk_at dksX0_breach_0 6 rfl rfl)
theorem dX0_breach_9 : decode cX0_breach 9 = .ok (.iconst (-1), 1) := dk_2 (dk_at dksX0_breach_0 9 rfl rfl)
theorem dX0_breach_10 : decode cX0_breach 10 = .ok (.ireturn, 1) := dk_172 (dk_at dksX0_breach_0 10 rfl rfl)
theorem dX0_breach_11 : decode cX0_breach 11 = .ok (.iconst 0, 1) := dk_3 (dk_at dksX0_breach_0 11 rfl rfl)
theorem dX0_breach_12 : decode cX0_breach 12 = .ok (.istore_n 2, 1) := dk_61 (dk_at dksX0_breach_0 12 rfl rfl)
theorem dX0_breach_13 : decode cX0_breach 13 = .ok (.iload_n 2, 1) := dk_28 (dk_at dksX0_breach_0 13 rfl rfl)
theorem dX0_breach_14 : decode cX0_breach 14 = .ok (.aload_n 0, 1) := dk_42 (dk_at dksX0_breach_0 14 rfl rfl)
theorem dX0_breach_15 : decode cX0_breach 15 = .ok (.getfield 49, 3) := dk_180 0 49 (dk_at dksX0_breach_0 15 rfl rfl)
theorem dX0_breach_18 : decode cX0_breach 18 = .ok (.getfield 306, 3) := dk_180 1 50 (dk_at dksX0_breach_0 18 rfl rfl)
theorem dX0_breach_21 : decode cX0_breach 21 = .ok (.if_icmp .ge 109, 3) := dk_162 0 109 (dk_at dksX0_breach_0 21 rfl rfl)
theorem dX0_breach_24 : decode cX0_breach 24 = .ok (.aload_n 0, 1) := dk_42 (dk_at dksX0_breach_1 0 rfl rfl)
theorem dX0_breach_25 : decode cX0_breach 25 = .ok (.getfield 49, 3) := dk_180 0 49 (dk_at dksX0_breach_1 1 rfl rfl)
theorem dX0_breach_28 : decode cX0_breach 28 = .ok (.getfield 307, 3) := dk_180 1 51 (dk_at dksX0_breach_1 4 rfl rfl)
theorem dX0_breach_31 : decode cX0_breach 31 = .ok (.iload_n 2, 1) := dk_28 (dk_at dksX0_breach_1 7 rfl rfl)
theorem dX0_breach_32 : decode cX0_breach 32 = .ok (.aaload, 1) := dk_50 (dk_at dksX0_breach_1 8 rfl rfl)
theorem dX0_breach_33 : decode cX0_breach 33 = .ok (.astore_n 3, 1) := dk_78 (dk_at dksX0_breach_1 9 rfl rfl)
theorem dX0_breach_34 : decode cX0_breach 34 = .ok (.aload_n 0, 1) := dk_42 (dk_at dksX0_breach_1 10 rfl rfl)
theorem dX0_breach_35 : decode cX0_breach 35 = .ok (.getfield 56, 3) := dk_180 0 56 (dk_at dksX0_breach_1 11 rfl rfl)
theorem dX0_breach_38 : decode cX0_breach 38 = .ok (.aload_n 3, 1) := dk_45 (dk_at dksX0_breach_1 14 rfl rfl)
theorem dX0_breach_39 : decode cX0_breach 39 = .ok (.invokevirtual 311, 3) := dk_182 1 55 (dk_at dksX0_breach_1 15 rfl rfl)
theorem dX0_breach_42 : decode cX0_breach 42 = .ok (.ifCond .ne 6, 3) := dk_154 0 6 (dk_at dksX0_breach_1 18 rfl rfl)
theorem dX0_breach_45 : decode cX0_breach 45 = .ok (.goto 79, 3) := dk_167 0 79 (dk_at dksX0_breach_1 21 rfl rfl)
theorem dX0_breach_48 : decode cX0_breach 48 = .ok (.iload_n 1, 1) := dk_27 (dk_at dksX0_breach_2 0 rfl rfl)
theorem dX0_breach_49 : decode cX0_breach 49 = .ok (.ifCond .ne 5, 3) := dk_154 0 5 (dk_at dksX0_breach_2 1 rfl rfl)
theorem dX0_breach_52 : decode cX0_breach 52 = .ok (.iload_n 2, 1) := dk_28 (dk_at dksX0_breach_2 4 rfl rfl)
theorem dX0_breach_53 : decode cX0_breach 53 = .ok (.ireturn, 1) := dk_172 (dk_at dksX0_breach_2 5 rfl rfl)
theorem dX0_breach_54 : decode cX0_breach 54 = .ok (.aload_n 3, 1) := dk_45 (dk_at dksX0_breach_2 6 rfl rfl)
theorem dX0_breach_55 : decode cX0_breach 55 = .ok (.getfield 315, 3) := dk_180 1 59 (dk_at dksX0_breach_2 7 rfl rfl)
theorem dX0_breach_58 : decode cX0_breach 58 = .ok (.iconst (-1), 1) := dk_2 (dk_at dksX0_breach_2 10 rfl rfl)
theorem dX0_breach_59 : decode cX0_breach 59 = .ok (.if_icmp .ne 21, 3) := dk_160 0 21 (dk_at dksX0_breach_2 11 rfl rfl)
theorem dX0_breach_62 : decode cX0_breach 62 = .ok (.iload_n 1, 1) := dk_27 (dk_at dksX0_breach_2 14 rfl rfl)
theorem dX0_breach_63 : decode cX0_breach 63 = .ok (.iconst 1, 1) := dk_4 (dk_at dksX0_breach_2 15 rfl rfl)
theorem dX0_breach_64 : decode cX0_breach 64 = .ok (.if_icmp .ne 14, 3) := dk_160 0 14 (dk_at dksX0_breach_2 16 rfl rfl)
theorem dX0_breach_67 : decode cX0_breach 67 = .ok (.aload_n 0, 1) := dk_42 (dk_at dksX0_breach_2 19 rfl rfl)
theorem dX0_breach_68 : decode cX0_breach 68 = .ok (.getfield 56, 3) := dk_180 0 56 (dk_at dksX0_breach_2 20 rfl rfl)
theorem dX0_breach_71 : decode cX0_breach 71 = .ok (.aload_n 3, 1) := dk_45 (dk_at dksX0_breach_2 23 rfl rfl)
theorem dX0_breach_72 : decode cX0_breach 72 = .ok (.invokevirtual 320, 3) := dk_182 1 64 (dk_at dksX0_breach_3 0 rfl rfl)
theorem dX0_breach_75 : decode cX0_breach 75 = .ok (.goto 4, 3) := dk_167 0 4 (dk_at dksX0_breach_3 3 rfl rfl)
theorem dX0_breach_78 : decode cX0_breach 78 = .ok (.iconst (-1), 1) := dk_2 (dk_at dksX0_breach_3 6 rfl rfl)
theorem dX0_breach_79 : decode cX0_breach 79 = .ok (.ireturn, 1) := dk_172 (dk_at dksX0_breach_3 7 rfl rfl)
theorem dX0_breach_80 : decode cX0_breach 80 = .ok (.iconst 0, 1) := dk_3 (dk_at dksX0_breach_3 8 rfl rfl)
theorem dX0_breach_81 : decode cX0_breach 81 = .ok (.istore 4, 2) := dk_54 4 (dk_at dksX0_breach_3 9 rfl rfl)
theorem dX0_breach_83 : decode cX0_breach 83 = .ok (.aload_n 0, 1) := dk_42 (dk_at dksX0_breach_3 11 rfl rfl)
theorem dX0_breach_84 : decode cX0_breach 84 = .ok (.getfield 56, 3) := dk_180 0 56 (dk_at dksX0_breach_3 12 rfl rfl)
theorem dX0_breach_87 : decode cX0_breach 87 = .ok (.aload_n 3, 1) := dk_45 (dk_at dksX0_breach_3 15 rfl rfl)
theorem dX0_breach_88 : decode cX0_breach 88 = .ok (.iload 4, 2) := dk_21 4 (dk_at dksX0_breach_3 16 rfl rfl)
theorem dX0_breach_90 : decode cX0_breach 90 = .ok (.invokevirtual 324, 3) := dk_182 1 68 (dk_at dksX0_breach_3 18 rfl rfl)
theorem dX0_breach_93 : decode cX0_breach 93 = .ok (.iconst (-1), 1) := dk_2 (dk_at dksX0_breach_3 21 rfl rfl)
theorem dX0_breach_94 : decode cX0_breach 94 = .ok (.if_icmp .ne 9, 3) := dk_160 0 9 (dk_at dksX0_breach_4 0 rfl rfl)
theorem dX0_breach_97 : decode cX0_breach 97 = .ok (.iinc 4 1, 3) := dk_132 4 1 (dk_at dksX0_breach_4 3 rfl rfl)
theorem dX0_breach_100 : decode cX0_breach 100 = .ok (.goto (-17), 3) := dk_167 255 239 (dk_at dksX0_breach_4 6 rfl rfl)
theorem dX0_breach_103 : decode cX0_breach 103 = .ok (.iload_n 1, 1) := dk_27 (dk_at dksX0_breach_4 9 rfl rfl)
theorem dX0_breach_104 : decode cX0_breach 104 = .ok (.iconst 1, 1) := dk_4 (dk_at dksX0_breach_4 10 rfl rfl)
theorem dX0_breach_105 : decode cX0_breach 105 = .ok (.if_icmp .ne 8, 3) := dk_160 0 8 (dk_at dksX0_breach_4 11 rfl rfl)
theorem dX0_breach_108 : decode cX0_breach 108 = .ok (.iload 4, 2) := dk_21 4 (dk_at dksX0_breach_4 14 rfl rfl)
theorem dX0_breach_110 : decode cX0_breach 110 = .ok (.goto 13, 3) := dk_167 0 13 (dk_at dksX0_breach_4 16 rfl rfl)
theorem dX0_breach_113 : decode cX0_breach 113 = .ok (.aload_n 0, 1) := dk_42 (dk_at dksX0_breach_4 19 rfl rfl)
theorem dX0_breach_114 : decode cX0_breach 114 = .ok (.getfield 56, 3) := dk_180 0 56 (dk_at dksX0_breach_4 20 rfl rfl)
theorem dX0_breach_117 : decode cX0_breach 117 = .ok (.aload_n 3, 1) := dk_45 (dk_at dksX0_breach_4 23 rfl rfl)
theorem dX0_breach_118 : decode cX0_breach 118 = .ok (.iload 4, 2) := dk_21 4 (dk_at dksX0_breach_5 0 rfl rfl)
theorem dX0_breach_120 : decode cX0_breach 120 = .ok (.invokevirtual 324, 3) := dk_182 1 68 (dk_at dksX0_breach_5 2 rfl rfl)
theorem dX0_breach_123 : decode cX0_breach 123 = .ok (.ireturn, 1) := dk_172 (dk_at dksX0_breach_5 5 rfl rfl)
theorem dX0_breach_124 : decode cX0_breach 124 = .ok (.iinc 2 1, 3) := dk_132 2 1 (dk_at dksX0_breach_5 6 rfl rfl)
theorem dX0_breach_127 : decode cX0_breach 127 = .ok (.goto (-114), 3) := dk_167 255 142 (dk_at dksX0_breach_5 9 rfl rfl)
theorem dX0_breach_130 : decode cX0_breach 130 = .ok (.iconst (-1), 1) := dk_2 (dk_at dksX0_breach_5 12 rfl rfl)
theorem dX0_breach_131 : decode cX0_breach 131 = .ok (.ireturn, 1) := dk_172 (dk_at dksX0_breach_5 13 rfl rfl)
abbrev cX0_bars : ByteArray := prog_1_method_37_code
def yX0_bars : MethodName := ⟨RX0, "bars", "(I)I"⟩
def dkwX0_bars_1 : List UInt8 := [180, 0, 31, 27, 50, 182, 1, 72, 153, 0, 7, 4, 167, 0, 4, 3, 172]
abbrev dktX0_bars_1 : List UInt8 := dkwX0_bars_1 ++ []
def dkwX0_bars_0 : List UInt8 := [27, 3, 42, 180, 0, 115, 4, 100, 184, 0, 70, 154, 0, 7, 2, 167, 0, 24, 42, 180, 0, 56, 42]
abbrev dktX0_bars_0 : List UInt8 := dkwX0_bars_0 ++ dktX0_bars_1
theorem dksX0_bars_0 : cX0_bars.data.toList.drop 0 = dktX0_bars_0 := by decide +kernel
theorem dksX0_bars_1 : cX0_bars.data.toList.drop 23 = dktX0_bars_1 := dk_seg dksX0_bars_0 23 rfl rfl
theorem dX0_bars_0 : decode cX0_bars 0 = .ok (.iload_n 1, 1) := dk_27 (dk_at dksX0_bars_0 0 rfl rfl)
theorem dX0_bars_1 : decode cX0_bars 1 = .ok (.iconst 0, 1) := dk_3 (dk_at dksX0_bars_0 1 rfl rfl)
theorem dX0_bars_2 : decode cX0_bars 2 = .ok (.aload_n 0, 1) := dk_42 (dk_at dksX0_bars_0 2 rfl rfl)
theorem dX0_bars_3 : decode cX0_bars 3 = .ok (.getfield 115, 3) := dk_180 0 115 (dk_at dksX0_bars_0 3 rfl rfl)
theorem dX0_bars_6 : decode cX0_bars 6 = .ok (.iconst 1, 1) := dk_4 (dk_at dksX0_bars_0 6 rfl rfl)
theorem dX0_bars_7 : decode cX0_bars 7 = .ok (.isub, 1) := dk_100 (dk_at dksX0_bars_0 7 rfl rfl)
theorem dX0_bars_8 : decode cX0_bars 8 = .ok (.invokestatic 70, 3) := dk_184 0 70 (dk_at dksX0_bars_0 8 rfl rfl)
theorem dX0_bars_11 : decode cX0_bars 11 = .ok (.ifCond .ne 7, 3) := dk_154 0 7 (dk_at dksX0_bars_0 11 rfl rfl)
theorem dX0_bars_14 : decode cX0_bars 14 = .ok (.iconst (-1), 1) := dk_2 (dk_at dksX0_bars_0 14 rfl rfl)
theorem dX0_bars_15 : decode cX0_bars 15 = .ok (.goto 24, 3) := dk_167 0 24 (dk_at dksX0_bars_0 15 rfl rfl)
theorem dX0_bars_18 : decode cX0_bars 18 = .ok (.aload_n 0, 1) := dk_42 (dk_at dksX0_bars_0 18 rfl rfl)
theorem dX0_bars_19 : decode cX0_bars 19 = .ok (.getfield 56, 3) := dk_180 0 56 (dk_at dksX0_bars_0 19 rfl rfl)
theorem dX0_bars_22 : decode cX0_bars 22 = .ok (.aload_n 0, 1) := dk_42 (dk_at dksX0_bars_0 22 rfl rfl)
theorem dX0_bars_23 : decode cX0_bars 23 = .ok (.getfield 31, 3) := dk_180 0 31 (dk_at dksX0_bars_1 0 rfl rfl)
theorem dX0_bars_26 : decode cX0_bars 26 = .ok (.iload_n 1, 1) := dk_27 (dk_at dksX0_bars_1 3 rfl rfl)
theorem dX0_bars_27 : decode cX0_bars 27 = .ok (.aaload, 1) := dk_50 (dk_at dksX0_bars_1 4 rfl rfl)
theorem dX0_bars_28 : decode cX0_bars 28 = .ok (.invokevirtual 328, 3) := dk_182 1 72 (dk_at dksX0_bars_1 5 rfl rfl)
theorem dX0_bars_31 : decode cX0_bars 31 = .ok (.ifCond .eq 7, 3) := dk_153 0 7 (dk_at dksX0_bars_1 8 rfl rfl)
theorem dX0_bars_34 : decode cX0_bars 34 = .ok (.iconst 1, 1) := dk_4 (dk_at dksX0_bars_1 11 rfl rfl)
theorem dX0_bars_35 : decode cX0_bars 35 = .ok (.goto 4, 3) := dk_167 0 4 (dk_at dksX0_bars_1 12 rfl rfl)
theorem dX0_bars_38 : decode cX0_bars 38 = .ok (.iconst 0, 1) := dk_3 (dk_at dksX0_bars_1 15 rfl rfl)
theorem dX0_bars_39 : decode cX0_bars 39 = .ok (.ireturn, 1) := dk_172 (dk_at dksX0_bars_1 16 rfl rfl)
abbrev cX0_offer : ByteArray := prog_1_method_38_code
def yX0_offer : MethodName := ⟨RX0, "offer", "(I)I"⟩
def dkwX0_offer_3 : List UInt8 := [180, 1, 75, 172]
abbrev dktX0_offer_3 : List UInt8 := dkwX0_offer_3 ++ []
def dkwX0_offer_2 : List UInt8 := [167, 255, 233, 42, 180, 0, 41, 42, 180, 1, 75, 44, 83, 42, 89, 180, 1, 75, 4, 96, 181, 1, 75, 42]
abbrev dktX0_offer_2 : List UInt8 := dkwX0_offer_2 ++ dktX0_offer_3
def dkwX0_offer_1 : List UInt8 := [42, 180, 1, 75, 162, 0, 21, 42, 180, 0, 41, 29, 50, 44, 166, 0, 5, 2, 172, 132, 3, 1]
abbrev dktX0_offer_1 : List UInt8 := dkwX0_offer_1 ++ dktX0_offer_2
def dkwX0_offer_0 : List UInt8 := [42, 27, 182, 0, 139, 77, 44, 198, 0, 12, 42, 180, 1, 75, 16, 10, 160, 0, 5, 2, 172, 3, 62, 29]
abbrev dktX0_offer_0 : List UInt8 := dkwX0_offer_0 ++ dktX0_offer_1
theorem dksX0_offer_0 : cX0_offer.data.toList.drop 0 = dktX0_offer_0 := by decide +kernel
theorem dksX0_offer_1 : cX0_offer.data.toList.drop 24 = dktX0_offer_1 := dk_seg dksX0_offer_0 24 rfl rfl
theorem dksX0_offer_2 : cX0_offer.data.toList.drop 46 = dktX0_offer_2 := dk_seg dksX0_offer_1 22 rfl rfl
theorem dksX0_offer_3 : cX0_offer.data.toList.drop 70 = dktX0_offer_3 := dk_seg dksX0_offer_2 24 rfl rfl
theorem dX0_offer_0 : decode cX0_offer 0 = .ok (.aload_n 0, 1) := dk_42 (dk_at dksX0_offer_0 0 rfl rfl)
theorem dX0_offer_1 : decode cX0_offer 1 = .ok (.iload_n 1, 1) := dk_27 (dk_at dksX0_offer_0 1 rfl rfl)
theorem dX0_offer_2 : decode cX0_offer 2 = .ok (.invokevirtual 139, 3) := dk_182 0 139 (dk_at dksX0_offer_0 2 rfl rfl)
theorem dX0_offer_5 : decode cX0_offer 5 = .ok (.astore_n 2, 1) := dk_77 (dk_at dksX0_offer_0 5 rfl rfl)
theorem dX0_offer_6 : decode cX0_offer 6 = .ok (.aload_n 2, 1) := dk_44 (dk_at dksX0_offer_0 6 rfl rfl)
theorem dX0_offer_7 : decode cX0_offer 7 = .ok (.ifnull 12, 3) := dk_198 0 12 (dk_at dksX0_offer_0 7 rfl rfl)
theorem dX0_offer_10 : decode cX0_offer 10 = .ok (.aload_n 0, 1) := dk_42 (dk_at dksX0_offer_0 10 rfl rfl)
theorem dX0_offer_11 : decode cX0_offer 11 = .ok (.getfield 331, 3) := dk_180 1 75 (dk_at dksX0_offer_0 11 rfl rfl)
theorem dX0_offer_14 : decode cX0_offer 14 = .ok (.bipush 10, 2) := dk_16 10 (dk_at dksX0_offer_0 14 rfl rfl)
theorem dX0_offer_16 : decode cX0_offer 16 = .ok (.if_icmp .ne 5, 3) := dk_160 0 5 (dk_at dksX0_offer_0 16 rfl rfl)
theorem dX0_offer_19 : decode cX0_offer 19 = .ok (.iconst (-1), 1) := dk_2 (dk_at dksX0_offer_0 19 rfl rfl)
theorem dX0_offer_20 : decode cX0_offer 20 = .ok (.ireturn, 1) := dk_172 (dk_at dksX0_offer_0 20 rfl rfl)
theorem dX0_offer_21 : decode cX0_offer 21 = .ok (.iconst 0, 1) := dk_3 (dk_at dksX0_offer_0 21 rfl rfl)
theorem dX0_offer_22 : decode cX0_offer 22 = .ok (.istore_n 3, 1) := dk_62 (dk_at dksX0_offer_0 22 rfl rfl)
theorem dX0_offer_23 : decode cX0_offer 23 = .ok (.iload_n 3, 1) := dk_29 (dk_at dksX0_offer_0 23 rfl rfl)
theorem dX0_offer_24 : decode cX0_offer 24 = .ok (.aload_n 0, 1) := dk_42 (dk_at dksX0_offer_1 0 rfl rfl)
theorem dX0_offer_25 : decode cX0_offer 25 = .ok (.getfield 331, 3) := dk_180 1 75 (dk_at dksX0_offer_1 1 rfl rfl)
theorem dX0_offer_28 : decode cX0_offer 28 = .ok (.if_icmp .ge 21, 3) := dk_162 0 21 (dk_at dksX0_offer_1 4 rfl rfl)
theorem dX0_offer_31 : decode cX0_offer 31 = .ok (.aload_n 0, 1) := dk_42 (dk_at dksX0_offer_1 7 rfl rfl)
theorem dX0_offer_32 : decode cX0_offer 32 = .ok (.getfield 41, 3) := dk_180 0 41 (dk_at dksX0_offer_1 8 rfl rfl)
theorem dX0_offer_35 : decode cX0_offer 35 = .ok (.iload_n 3, 1) := dk_29 (dk_at dksX0_offer_1 11 rfl rfl)
theorem dX0_offer_36 : decode cX0_offer 36 = .ok (.aaload, 1) := dk_50 (dk_at dksX0_offer_1 12 rfl rfl)
theorem dX0_offer_37 : decode cX0_offer 37 = .ok (.aload_n 2, 1) := dk_44 (dk_at dksX0_offer_1 13 rfl rfl)
theorem dX0_offer_38 : decode cX0_offer 38 = .ok (.if_acmp .ne 5, 3) := dk_166 0 5 (dk_at dksX0_offer_1 14 rfl rfl)
theorem dX0_offer_41 : decode cX0_offer 41 = .ok (.iconst (-1), 1) := dk_2 (dk_at dksX0_offer_1 17 rfl rfl)
theorem dX0_offer_42 : decode cX0_offer 42 = .ok (.ireturn, 1) := dk_172 (dk_at dksX0_offer_1 18 rfl rfl)
theorem dX0_offer_43 : decode cX0_offer 43 = .ok (.iinc 3 1, 3) := dk_132 3 1 (dk_at dksX0_offer_1 19 rfl rfl)
theorem dX0_offer_46 : decode cX0_offer 46 = .ok (.goto (-23), 3) := dk_167 255 233 (dk_at dksX0_offer_2 0 rfl rfl)
theorem dX0_offer_49 : decode cX0_offer 49 = .ok (.aload_n 0, 1) := dk_42 (dk_at dksX0_offer_2 3 rfl rfl)
theorem dX0_offer_50 : decode cX0_offer 50 = .ok (.getfield 41, 3) := dk_180 0 41 (dk_at dksX0_offer_2 4 rfl rfl)
theorem dX0_offer_53 : decode cX0_offer 53 = .ok (.aload_n 0, 1) := dk_42 (dk_at dksX0_offer_2 7 rfl rfl)
theorem dX0_offer_54 : decode cX0_offer 54 = .ok (.getfield 331, 3) := dk_180 1 75 (dk_at dksX0_offer_2 8 rfl rfl)
theorem dX0_offer_57 : decode cX0_offer 57 = .ok (.aload_n 2, 1) := dk_44 (dk_at dksX0_offer_2 11 rfl rfl)
theorem dX0_offer_58 : decode cX0_offer 58 = .ok (.aastore, 1) := dk_83 (dk_at dksX0_offer_2 12 rfl rfl)
theorem dX0_offer_59 : decode cX0_offer 59 = .ok (.aload_n 0, 1) := dk_42 (dk_at dksX0_offer_2 13 rfl rfl)
theorem dX0_offer_60 : decode cX0_offer 60 = .ok (.dup, 1) := dk_89 (dk_at dksX0_offer_2 14 rfl rfl)
theorem dX0_offer_61 : decode cX0_offer 61 = .ok (.getfield 331, 3) := dk_180 1 75 (dk_at dksX0_offer_2 15 rfl rfl)
theorem dX0_offer_64 : decode cX0_offer 64 = .ok (.iconst 1, 1) := dk_4 (dk_at dksX0_offer_2 18 rfl rfl)
theorem dX0_offer_65 : decode cX0_offer 65 = .ok (.iadd, 1) := dk_96 (dk_at dksX0_offer_2 19 rfl rfl)
theorem dX0_offer_66 : decode cX0_offer 66 = .ok (.putfield 331, 3) := dk_181 1 75 (dk_at dksX0_offer_2 20 rfl rfl)
theorem dX0_offer_69 : decode cX0_offer 69 = .ok (.aload_n 0, 1) := dk_42 (dk_at dksX0_offer_2 23 rfl rfl)
theorem dX0_offer_70 : decode cX0_offer 70 = .ok (.getfield 331, 3) := dk_180 1 75 (dk_at dksX0_offer_3 0 rfl rfl)
theorem dX0_offer_73 : decode cX0_offer 73 = .ok (.ireturn, 1) := dk_172 (dk_at dksX0_offer_3 3 rfl rfl)
abbrev cX0_sly : ByteArray := prog_1_method_40_code
def yX0_sly : MethodName := ⟨RX0, "sly", "(II)I"⟩
def dkwX0_sly_4 : List UInt8 := [154, 0, 7, 29, 167, 0, 5, 21, 4, 172]
abbrev dktX0_sly_4 : List UInt8 := dkwX0_sly_4 ++ []
def dkwX0_sly_3 : List UInt8 := [21, 5, 184, 1, 81, 21, 4, 184, 1, 81, 162, 0, 7, 21, 5, 54, 4, 132, 5, 1, 167, 255, 195, 28]
abbrev dktX0_sly_3 : List UInt8 := dkwX0_sly_3 ++ dktX0_sly_4
def dkwX0_sly_2 : List UInt8 := [163, 0, 41, 42, 21, 5, 182, 1, 86, 154, 0, 6, 167, 0, 29, 132, 3, 1, 21, 4, 2, 159, 0, 16]
abbrev dktX0_sly_2 : List UInt8 := dkwX0_sly_2 ++ dktX0_sly_3
def dkwX0_sly_1 : List UInt8 := [54, 4, 4, 54, 5, 21, 5, 4, 42, 180, 1, 75, 120, 162, 0, 56, 21, 5, 184, 1, 81, 27]
abbrev dktX0_sly_1 : List UInt8 := dkwX0_sly_1 ++ dktX0_sly_2
def dkwX0_sly_0 : List UInt8 := [27, 4, 16, 6, 184, 0, 70, 153, 0, 12, 28, 3, 4, 184, 0, 70, 154, 0, 5, 2, 172, 3, 62, 2]
abbrev dktX0_sly_0 : List UInt8 := dkwX0_sly_0 ++ dktX0_sly_1
theorem dksX0_sly_0 : cX0_sly.data.toList.drop 0 = dktX0_sly_0 := by decide +kernel
theorem dksX0_sly_1 : cX0_sly.data.toList.drop 24 = dktX0_sly_1 := dk_seg dksX0_sly_0 24 rfl rfl
theorem dksX0_sly_2 : cX0_sly.data.toList.drop 46 = dktX0_sly_2 := dk_seg dksX0_sly_1 22 rfl rfl
theorem dksX0_sly_3 : cX0_sly.data.toList.drop 70 = dktX0_sly_3 := dk_seg dksX0_sly_2 24 rfl rfl
theorem dksX0_sly_4 : cX0_sly.data.toList.drop 94 = dktX0_sly_4 := dk_seg dksX0_sly_3 24 rfl rfl
theorem dX0_sly_0 : decode cX0_sly 0 = .ok (.iload_n 1, 1) := dk_27 (dk_at dksX0_sly_0 0 rfl rfl)
theorem dX0_sly_1 : decode cX0_sly 1 = .ok (.iconst 1, 1) := dk_4 (dk_at dksX0_sly_0 1 rfl rfl)
theorem dX0_sly_2 : decode cX0_sly 2 = .ok (.bipush 6, 2) := dk_16 6 (dk_at dksX0_sly_0 2 rfl rfl)
theorem dX0_sly_4 : decode cX0_sly 4 = .ok (.invokestatic 70, 3) := dk_184 0 70 (dk_at dksX0_sly_0 4 rfl rfl)
theorem dX0_sly_7 : decode cX0_sly 7 = .ok (.ifCond .eq 12, 3) := dk_153 0 12 (dk_at dksX0_sly_0 7 rfl rfl)
theorem dX0_sly_10 : decode cX0_sly 10 = .ok (.iload_n 2, 1) := dk_28 (dk_at dksX0_sly_0 10 rfl rfl)
theorem dX0_sly_11 : decode cX0_sly 11 = .ok (.iconst 0, 1) := dk_3 (dk_at dksX0_sly_0 11 rfl rfl)
theorem dX0_sly_12 : decode cX0_sly 12 = .ok (.iconst 1, 1) := dk_4 (dk_at dksX0_sly_0 12 rfl rfl)
theorem dX0_sly_13 : decode cX0_sly 13 = .ok (.invokestatic 70, 3) := dk_184 0 70 (dk_at dksX0_sly_0 13 rfl rfl)
theorem dX0_sly_16 : decode cX0_sly 16 = .ok (.ifCond .ne 5, 3) := dk_154 0 5 (dk_at dksX0_sly_0 16 rfl rfl)
theorem dX0_sly_19 : decode cX0_sly 19 = .ok (.iconst (-1), 1) := dk_2 (dk_at dksX0_sly_0 19 rfl rfl)
theorem dX0_sly_20 : decode cX0_sly 20 = .ok (.ireturn, 1) := dk_172 (dk_at dksX0_sly_0 20 rfl rfl)
theorem dX0_sly_21 : decode cX0_sly 21 = .ok (.iconst 0, 1) := dk_3 (dk_at dksX0_sly_0 21 rfl rfl)
theorem dX0_sly_22 : decode cX0_sly 22 = .ok (.istore_n 3, 1) := dk_62 (dk_at dksX0_sly_0 22 rfl rfl)
theorem dX0_sly_23 : decode cX0_sly 23 = .ok (.iconst (-1), 1) := dk_2 (dk_at dksX0_sly_0 23 rfl rfl)
theorem dX0_sly_24 : decode cX0_sly 24 = .ok (.istore 4, 2) := dk_54 4 (dk_at dksX0_sly_1 0 rfl rfl)
theorem dX0_sly_26 : decode cX0_sly 26 = .ok (.iconst 1, 1) := dk_4 (dk_at dksX0_sly_1 2 rfl rfl)
theorem dX0_sly_27 : decode cX0_sly 27 = .ok (.istore 5, 2) := dk_54 5 (dk_at dksX0_sly_1 3 rfl rfl)
theorem dX0_sly_29 : decode cX0_sly 29 = .ok (.iload 5, 2) := dk_21 5 (dk_at dksX0_sly_1 5 rfl rfl)
theorem dX0_sly_31 : decode cX0_sly 31 = .ok (.iconst 1, 1) := dk_4 (dk_at dksX0_sly_1 7 rfl rfl)
theorem dX0_sly_32 : decode cX0_sly 32 = .ok (.aload_n 0, 1) := dk_42 (dk_at dksX0_sly_1 8 rfl rfl)
theorem dX0_sly_33 : decode cX0_sly 33 = .ok (.getfield 331, 3) := dk_180 1 75 (dk_at dksX0_sly_1 9 rfl rfl)
theorem dX0_sly_36 : decode cX0_sly 36 = .ok (.ishl, 1) := dk_120 (dk_at dksX0_sly_1 12 rfl rfl)
theorem dX0_sly_37 : decode cX0_sly 37 = .ok (.if_icmp .ge 56, 3) := dk_162 0 56 (dk_at dksX0_sly_1 13 rfl rfl)
theorem dX0_sly_40 : decode cX0_sly 40 = .ok (.iload 5, 2) := dk_21 5 (dk_at dksX0_sly_1 16 rfl rfl)
theorem dX0_sly_42 : decode cX0_sly 42 = .ok (.invokestatic 337, 3) := dk_184 1 81 (dk_at dksX0_sly_1 18 rfl rfl)
theorem dX0_sly_45 : decode cX0_sly 45 = .ok (.iload_n 1, 1) := dk_27 (dk_at dksX0_sly_1 21 rfl rfl)
theorem dX0_sly_46 : decode cX0_sly 46 = .ok (.if_icmp .gt 41, 3) := dk_163 0 41 (dk_at dksX0_sly_2 0 rfl rfl)
theorem dX0_sly_49 : decode cX0_sly 49 = .ok (.aload_n 0, 1) := dk_42 (dk_at dksX0_sly_2 3 rfl rfl)
theorem dX0_sly_50 : decode cX0_sly 50 = .ok (.iload 5, 2) := dk_21 5 (dk_at dksX0_sly_2 4 rfl rfl)
theorem dX0_sly_52 : decode cX0_sly 52 = .ok (.invokevirtual 342, 3) := dk_182 1 86 (dk_at dksX0_sly_2 6 rfl rfl)
theorem dX0_sly_55 : decode cX0_sly 55 = .ok (.ifCond .ne 6, 3) := dk_154 0 6 (dk_at dksX0_sly_2 9 rfl rfl)
theorem dX0_sly_58 : decode cX0_sly 58 = .ok (.goto 29, 3) := dk_167 0 29 (dk_at dksX0_sly_2 12 rfl rfl)
theorem dX0_sly_61 : decode cX0_sly 61 = .ok (.iinc 3 1, 3) := dk_132 3 1 (dk_at dksX0_sly_2 15 rfl rfl)
theorem dX0_sly_64 : decode cX0_sly 64 = .ok (.iload 4, 2) := dk_21 4 (dk_at dksX0_sly_2 18 rfl rfl)
theorem dX0_sly_66 : decode cX0_sly 66 = .ok (.iconst (-1), 1) := dk_2 (dk_at dksX0_sly_2 20 rfl rfl)
theorem dX0_sly_67 : decode cX0_sly 67 = .ok (.if_icmp .eq 16, 3) := dk_159 0 16 (dk_at dksX0_sly_2 21 rfl rfl)
theorem dX0_sly_70 : decode cX0_sly 70 = .ok (.iload 5, 2) := dk_21 5 (dk_at dksX0_sly_3 0 rfl rfl)
theorem dX0_sly_72 : decode cX0_sly 72 = .ok (.invokestatic 337, 3) := dk_184 1 81 (dk_at dksX0_sly_3 2 rfl rfl)
theorem dX0_sly_75 : decode cX0_sly 75 = .ok (.iload 4, 2) := dk_21 4 (dk_at dksX0_sly_3 5 rfl rfl)
theorem dX0_sly_77 : decode cX0_sly 77 = .ok (.invokestatic 337, 3) := dk_184 1 81 (dk_at dksX0_sly_3 7 rfl rfl)
theorem dX0_sly_80 : decode cX0_sly 80 = .ok (.if_icmp .ge 7, 3) := dk_162 0 7 (dk_at dksX0_sly_3 10 rfl rfl)
theorem dX0_sly_83 : decode cX0_sly 83 = .ok (.iload 5, 2) := dk_21 5 (dk_at dksX0_sly_3 13 rfl rfl)
theorem dX0_sly_85 : decode cX0_sly 85 = .ok (.istore 4, 2) := dk_54 4 (dk_at dksX0_sly_3 15 rfl rfl)
theorem dX0_sly_87 : decode cX0_sly 87 = .ok (.iinc 5 1, 3) := dk_132 5 1 (dk_at dksX0_sly_3 17 rfl rfl)
theorem dX0_sly_90 : decode cX0_sly 90 = .ok (.goto (-61), 3) := dk_167 255 195 (dk_at dksX0_sly_3 20 rfl rfl)
theorem dX0_sly_93 : decode cX0_sly 93 = .ok (.iload_n 2, 1) := dk_28 (dk_at dksX0_sly_3 23 rfl rfl)
theorem dX0_sly_94 : decode cX0_sly 94 = .ok (.ifCond .ne 7, 3) := dk_154 0 7 (dk_at dksX0_sly_4 0 rfl rfl)
theorem dX0_sly_97 : decode cX0_sly 97 = .ok (.iload_n 3, 1) := dk_29 (dk_at dksX0_sly_4 3 rfl rfl)
theorem dX0_sly_98 : decode cX0_sly 98 = .ok (.goto 5, 3) := dk_167 0 5 (dk_at dksX0_sly_4 4 rfl rfl)
theorem dX0_sly_101 : decode cX0_sly 101 = .ok (.iload 4, 2) := dk_21 4 (dk_at dksX0_sly_4 7 rfl rfl)
theorem dX0_sly_103 : decode cX0_sly 103 = .ok (.ireturn, 1) := dk_172 (dk_at dksX0_sly_4 9 rfl rfl)
abbrev cX0_isSly : ByteArray := prog_1_method_39_code
def yX0_isSly : MethodName := ⟨RX0, "isSly", "(I)Z"⟩
def dkwX0_isSly_3 : List UInt8 := [180, 0, 60, 182, 1, 47, 2, 159, 0, 7, 4, 167, 0, 4, 3, 172]
abbrev dktX0_isSly_3 : List UInt8 := dkwX0_isSly_3 ++ []
def dkwX0_isSly_2 : List UInt8 := [180, 0, 60, 182, 1, 7, 153, 0, 32, 42, 180, 0, 60, 42, 180, 0, 49, 182, 1, 72, 154, 0, 18, 42]
abbrev dktX0_isSly_2 : List UInt8 := dkwX0_isSly_2 ++ dktX0_isSly_3
def dkwX0_isSly_1 : List UInt8 := [153, 0, 16, 42, 180, 0, 60, 42, 180, 0, 41, 28, 50, 182, 0, 238, 132, 2, 1, 167, 255, 224, 42]
abbrev dktX0_isSly_1 : List UInt8 := dkwX0_isSly_1 ++ dktX0_isSly_2
def dkwX0_isSly_0 : List UInt8 := [42, 180, 0, 60, 182, 0, 242, 3, 61, 28, 42, 180, 1, 75, 162, 0, 30, 27, 28, 184, 1, 78]
abbrev dktX0_isSly_0 : List UInt8 := dkwX0_isSly_0 ++ dktX0_isSly_1
theorem dksX0_isSly_0 : cX0_isSly.data.toList.drop 0 = dktX0_isSly_0 := by decide +kernel
theorem dksX0_isSly_1 : cX0_isSly.data.toList.drop 22 = dktX0_isSly_1 := dk_seg dksX0_isSly_0 22 rfl rfl
theorem dksX0_isSly_2 : cX0_isSly.data.toList.drop 45 = dktX0_isSly_2 := dk_seg dksX0_isSly_1 23 rfl rfl
theorem dksX0_isSly_3 : cX0_isSly.data.toList.drop 69 = dktX0_isSly_3 := dk_seg dksX0_isSly_2 24 rfl rfl
theorem dX0_isSly_0 : decode cX0_isSly 0 = .ok (.aload_n 0, 1) := dk_42 (dk_at dksX0_isSly_0 0 rfl rfl)
theorem dX0_isSly_1 : decode cX0_isSly 1 = .ok (.getfield 60, 3) := dk_180 0 60 (dk_at dksX0_isSly_0 1 rfl rfl)
theorem dX0_isSly_4 : decode cX0_isSly 4 = .ok (.invokevirtual 242, 3) := dk_182 0 242 (dk_at dksX0_isSly_0 4 rfl rfl)
theorem dX0_isSly_7 : decode cX0_isSly 7 = .ok (.iconst 0, 1) := dk_3 (dk_at dksX0_isSly_0 7 rfl rfl)
theorem dX0_isSly_8 : decode cX0_isSly 8 = .ok (.istore_n 2, 1) := dk_61 (dk_at dksX0_isSly_0 8 rfl rfl)
theorem dX0_isSly_9 : decode cX0_isSly 9 = .ok (.iload_n 2, 1) := dk_28 (dk_at dksX0_isSly_0 9 rfl rfl)
theorem dX0_isSly_10 : decode cX0_isSly 10 = .ok (.aload_n 0, 1) := dk_42 (dk_at dksX0_isSly_0 10 rfl rfl)
theorem dX0_isSly_11 : decode cX0_isSly 11 = .ok (.getfield 331, 3) := dk_180 1 75 (dk_at dksX0_isSly_0 11 rfl rfl)
theorem dX0_isSly_14 : decode cX0_isSly 14 = .ok (.if_icmp .ge 30, 3) := dk_162 0 30 (dk_at dksX0_isSly_0 14 rfl rfl)
theorem dX0_isSly_17 : decode cX0_isSly 17 = .ok (.iload_n 1, 1) := dk_27 (dk_at dksX0_isSly_0 17 rfl rfl)
theorem dX0_isSly_18 : decode cX0_isSly 18 = .ok (.iload_n 2, 1) := dk_28 (dk_at dksX0_isSly_0 18 rfl rfl)
theorem dX0_isSly_19 : decode cX0_isSly 19 = .ok (.invokestatic 334, 3) := dk_184 1 78 (dk_at dksX0_isSly_0 19 rfl rfl)
theorem dX0_isSly_22 : decode cX0_isSly 22 = .ok (.ifCond .eq 16, 3) := dk_153 0 16 (dk_at dksX0_isSly_1 0 rfl rfl)
theorem dX0_isSly_25 : decode cX0_isSly 25 = .ok (.aload_n 0, 1) := dk_42 (dk_at dksX0_isSly_1 3 rfl rfl)
theorem dX0_isSly_26 : decode cX0_isSly 26 = .ok (.getfield 60, 3) := dk_180 0 60 (dk_at dksX0_isSly_1 4 rfl rfl)
theorem dX0_isSly_29 : decode cX0_isSly 29 = .ok (.aload_n 0, 1) := dk_42 (dk_at dksX0_isSly_1 7 rfl rfl)
theorem dX0_isSly_30 : decode cX0_isSly 30 = .ok (.getfield 41, 3) := dk_180 0 41 (dk_at dksX0_isSly_1 8 rfl rfl)
theorem dX0_isSly_33 : decode cX0_isSly 33 = .ok (.iload_n 2, 1) := dk_28 (dk_at dksX0_isSly_1 11 rfl rfl)
theorem dX0_isSly_34 : decode cX0_isSly 34 = .ok (.aaload, 1) := dk_50 (dk_at dksX0_isSly_1 12 rfl rfl)
theorem dX0_isSly_35 : decode cX0_isSly 35 = .ok (.invokevirtual 238, 3) := dk_182 0 238 (dk_at dksX0_isSly_1 13 rfl rfl)
theorem dX0_isSly_38 : decode cX0_isSly 38 = .ok (.iinc 2 1, 3) := dk_132 2 1 (dk_at dksX0_isSly_1 16 rfl rfl)
theorem dX0_isSly_41 : decode cX0_isSly 41 = .ok (.goto (-32), 3) := dk_167 255 224 (dk_at dksX0_isSly_1 19 rfl rfl)
theorem dX0_isSly_44 : decode cX0_isSly 44 = .ok (.aload_n 0, 1) := dk_42 (dk_at dksX0_isSly_1 22 rfl rfl)
theorem dX0_isSly_45 : decode cX0_isSly 45 = .ok (.getfield 60, 3) := dk_180 0 60 (dk_at dksX0_isSly_2 0 rfl rfl)
theorem dX0_isSly_48 : decode cX0_isSly 48 = .ok (.invokevirtual 263, 3) := dk_182 1 7 (dk_at dksX0_isSly_2 3 rfl rfl)
theorem dX0_isSly_51 : decode cX0_isSly 51 = .ok (.ifCond .eq 32, 3) := dk_153 0 32 (dk_at dksX0_isSly_2 6 rfl rfl)
theorem dX0_isSly_54 : decode cX0_isSly 54 = .ok (.aload_n 0, 1) := dk_42 (dk_at dksX0_isSly_2 9 rfl rfl)
theorem dX0_isSly_55 : decode cX0_isSly 55 = .ok (.getfield 60, 3) := dk_180 0 60 (dk_at dksX0_isSly_2 10 rfl rfl)
theorem dX0_isSly_58 : decode cX0_isSly 58 = .ok (.aload_n 0, 1) := dk_42 (dk_at dksX0_isSly_2 13 rfl rfl)
theorem dX0_isSly_59 : decode cX0_isSly 59 = .ok (.getfield 49, 3) := dk_180 0 49 (dk_at dksX0_isSly_2 14 rfl rfl)
theorem dX0_isSly_62 : decode cX0_isSly 62 = .ok (.invokevirtual 328, 3) := dk_182 1 72 (dk_at dksX0_isSly_2 17 rfl rfl)
theorem dX0_isSly_65 : decode cX0_isSly 65 = .ok (.ifCond .ne 18, 3) := dk_154 0 18 (dk_at dksX0_isSly_2 20 rfl rfl)
theorem dX0_isSly_68 : decode cX0_isSly 68 = .ok (.aload_n 0, 1) := dk_42 (dk_at dksX0_isSly_2 23 rfl rfl)
theorem dX0_isSly_69 : decode cX0_isSly 69 = .ok (.getfield 60, 3) := dk_180 0 60 (dk_at dksX0_isSly_3 0 rfl rfl)
theorem dX0_isSly_72 : decode cX0_isSly 72 = .ok (.invokevirtual 303, 3) := dk_182 1 47 (dk_at dksX0_isSly_3 3 rfl rfl)
theorem dX0_isSly_75 : decode cX0_isSly 75 = .ok (.iconst (-1), 1) := dk_2 (dk_at dksX0_isSly_3 6 rfl rfl)
theorem dX0_isSly_76 : decode cX0_isSly 76 = .ok (.if_icmp .eq 7, 3) := dk_159 0 7 (dk_at dksX0_isSly_3 7 rfl rfl)
theorem dX0_isSly_79 : decode cX0_isSly 79 = .ok (.iconst 1, 1) := dk_4 (dk_at dksX0_isSly_3 10 rfl rfl)
theorem dX0_isSly_80 : decode cX0_isSly 80 = .ok (.goto 4, 3) := dk_167 0 4 (dk_at dksX0_isSly_3 11 rfl rfl)
theorem dX0_isSly_83 : decode cX0_isSly 83 = .ok (.iconst 0, 1) := dk_3 (dk_at dksX0_isSly_3 14 rfl rfl)
theorem dX0_isSly_84 : decode cX0_isSly 84 = .ok (.ireturn, 1) := dk_172 (dk_at dksX0_isSly_3 15 rfl rfl)
abbrev cX0_honest : ByteArray := prog_1_method_41_code
def yX0_honest : MethodName := ⟨RX0, "honest", "()I"⟩
def dkwX0_honest_3 : List UInt8 := [172]
abbrev dktX0_honest_3 : List UInt8 := dkwX0_honest_3 ++ []
def dkwX0_honest_2 : List UInt8 := [50, 42, 180, 0, 56, 182, 1, 92, 42, 89, 180, 1, 89, 4, 96, 181, 1, 89, 42, 180, 1, 89, 4, 100]
abbrev dktX0_honest_2 : List UInt8 := dkwX0_honest_2 ++ dktX0_honest_3
def dkwX0_honest_1 : List UInt8 := [180, 0, 37, 42, 180, 1, 89, 187, 0, 35, 89, 42, 183, 0, 53, 83, 42, 180, 0, 37, 42, 180, 1, 89]
abbrev dktX0_honest_1 : List UInt8 := dkwX0_honest_1 ++ dktX0_honest_2
def dkwX0_honest_0 : List UInt8 := [42, 180, 1, 89, 16, 6, 159, 0, 13, 42, 180, 0, 56, 180, 0, 233, 154, 0, 5, 2, 172, 42]
abbrev dktX0_honest_0 : List UInt8 := dkwX0_honest_0 ++ dktX0_honest_1
theorem dksX0_honest_0 : cX0_honest.data.toList.drop 0 = dktX0_honest_0 := by decide +kernel
theorem dksX0_honest_1 : cX0_honest.data.toList.drop 22 = dktX0_honest_1 := dk_seg dksX0_honest_0 22 rfl rfl
theorem dksX0_honest_2 : cX0_honest.data.toList.drop 46 = dktX0_honest_2 := dk_seg dksX0_honest_1 24 rfl rfl
theorem dksX0_honest_3 : cX0_honest.data.toList.drop 70 = dktX0_honest_3 := dk_seg dksX0_honest_2 24 rfl rfl
theorem dX0_honest_0 : decode cX0_honest 0 = .ok (.aload_n 0, 1) := dk_42 (dk_at dksX0_honest_0 0 rfl rfl)
theorem dX0_honest_1 : decode cX0_honest 1 = .ok (.getfield 345, 3) := dk_180 1 89 (dk_at dksX0_honest_0 1 rfl rfl)
theorem dX0_honest_4 : decode cX0_honest 4 = .ok (.bipush 6, 2) := dk_16 6 (dk_at dksX0_honest_0 4 rfl rfl)
theorem dX0_honest_6 : decode cX0_honest 6 = .ok (.if_icmp .eq 13, 3) := dk_159 0 13 (dk_at dksX0_honest_0 6 rfl rfl)
theorem dX0_honest_9 : decode cX0_honest 9 = .ok (.aload_n 0, 1) := dk_42 (dk_at dksX0_honest_0 9 rfl rfl)
theorem dX0_honest_10 : decode cX0_honest 10 = .ok (.getfield 56, 3) := dk_180 0 56 (dk_at dksX0_honest_0 10 rfl rfl)
theorem dX0_honest_13 : decode cX0_honest 13 = .ok (.getfield 233, 3) := dk_180 0 233 (dk_at dksX0_honest_0 13 rfl rfl)
theorem dX0_honest_16 : decode cX0_honest 16 = .ok (.ifCond .ne 5, 3) := dk_154 0 5 (dk_at dksX0_honest_0 16 rfl rfl)
theorem dX0_honest_19 : decode cX0_honest 19 = .ok (.iconst (-1), 1) := dk_2 (dk_at dksX0_honest_0 19 rfl rfl)
theorem dX0_honest_20 : decode cX0_honest 20 = .ok (.ireturn, 1) := dk_172 (dk_at dksX0_honest_0 20 rfl rfl)
theorem dX0_honest_21 : decode cX0_honest 21 = .ok (.aload_n 0, 1) := dk_42 (dk_at dksX0_honest_0 21 rfl rfl)
theorem dX0_honest_22 : decode cX0_honest 22 = .ok (.getfield 37, 3) := dk_180 0 37 (dk_at dksX0_honest_1 0 rfl rfl)
theorem dX0_honest_25 : decode cX0_honest 25 = .ok (.aload_n 0, 1) := dk_42 (dk_at dksX0_honest_1 3 rfl rfl)
theorem dX0_honest_26 : decode cX0_honest 26 = .ok (.getfield 345, 3) := dk_180 1 89 (dk_at dksX0_honest_1 4 rfl rfl)
theorem dX0_honest_29 : decode cX0_honest 29 = .ok (.new 35, 3) := dk_187 0 35 (dk_at dksX0_honest_1 7 rfl rfl)
theorem dX0_honest_32 : decode cX0_honest 32 = .ok (.dup, 1) := dk_89 (dk_at dksX0_honest_1 10 rfl rfl)
theorem dX0_honest_33 : decode cX0_honest 33 = .ok (.aload_n 0, 1) := dk_42 (dk_at dksX0_honest_1 11 rfl rfl)
theorem dX0_honest_34 : decode cX0_honest 34 = .ok (.invokespecial 53, 3) := dk_183 0 53 (dk_at dksX0_honest_1 12 rfl rfl)
theorem dX0_honest_37 : decode cX0_honest 37 = .ok (.aastore, 1) := dk_83 (dk_at dksX0_honest_1 15 rfl rfl)
theorem dX0_honest_38 : decode cX0_honest 38 = .ok (.aload_n 0, 1) := dk_42 (dk_at dksX0_honest_1 16 rfl rfl)
theorem dX0_honest_39 : decode cX0_honest 39 = .ok (.getfield 37, 3) := dk_180 0 37 (dk_at dksX0_honest_1 17 rfl rfl)
theorem dX0_honest_42 : decode cX0_honest 42 = .ok (.aload_n 0, 1) := dk_42 (dk_at dksX0_honest_1 20 rfl rfl)
theorem dX0_honest_43 : decode cX0_honest 43 = .ok (.getfield 345, 3) := dk_180 1 89 (dk_at dksX0_honest_1 21 rfl rfl)
theorem dX0_honest_46 : decode cX0_honest 46 = .ok (.aaload, 1) := dk_50 (dk_at dksX0_honest_2 0 rfl rfl)
theorem dX0_honest_47 : decode cX0_honest 47 = .ok (.aload_n 0, 1) := dk_42 (dk_at dksX0_honest_2 1 rfl rfl)
theorem dX0_honest_48 : decode cX0_honest 48 = .ok (.getfield 56, 3) := dk_180 0 56 (dk_at dksX0_honest_2 2 rfl rfl)
theorem dX0_honest_51 : decode cX0_honest 51 = .ok (.invokevirtual 348, 3) := dk_182 1 92 (dk_at dksX0_honest_2 5 rfl rfl)
theorem dX0_honest_54 : decode cX0_honest 54 = .ok (.aload_n 0, 1) := dk_42 (dk_at dksX0_honest_2 8 rfl rfl)
theorem dX0_honest_55 : decode cX0_honest 55 = .ok (.dup, 1) := dk_89 (dk_at dksX0_honest_2 9 rfl rfl)
theorem dX0_honest_56 : decode cX0_honest 56 = .ok (.getfield 345, 3) := dk_180 1 89 (dk_at dksX0_honest_2 10 rfl rfl)
theorem dX0_honest_59 : decode cX0_honest 59 = .ok (.iconst 1, 1) := dk_4 (dk_at dksX0_honest_2 13 rfl rfl)
theorem dX0_honest_60 : decode cX0_honest 60 = .ok (.iadd, 1) := dk_96 (dk_at dksX0_honest_2 14 rfl rfl)
theorem dX0_honest_61 : decode cX0_honest 61 = .ok (.putfield 345, 3) := dk_181 1 89 (dk_at dksX0_honest_2 15 rfl rfl)
theorem dX0_honest_64 : decode cX0_honest 64 = .ok (.aload_n 0, 1) := dk_42 (dk_at dksX0_honest_2 18 rfl rfl)
theorem dX0_honest_65 : decode cX0_honest 65 = .ok (.getfield 345, 3) := dk_180 1 89 (dk_at dksX0_honest_2 19 rfl rfl)
theorem dX0_honest_68 : decode cX0_honest 68 = .ok (.iconst 1, 1) := dk_4 (dk_at dksX0_honest_2 22 rfl rfl)
theorem dX0_honest_69 : decode cX0_honest 69 = .ok (.isub, 1) := dk_100 (dk_at dksX0_honest_2 23 rfl rfl)
theorem dX0_honest_70 : decode cX0_honest 70 = .ok (.ireturn, 1) := dk_172 (dk_at dksX0_honest_3 0 rfl rfl)
abbrev cX0_innocent : ByteArray := prog_1_method_42_code
def yX0_innocent : MethodName := ⟨RX0, "innocent", "(II)I"⟩
def dkwX0_innocent_3 : List UInt8 := [45, 180, 1, 96, 28, 16, 10, 100, 50, 180, 1, 97, 167, 0, 4, 2, 172]
abbrev dktX0_innocent_3 : List UInt8 := dkwX0_innocent_3 ++ []
def dkwX0_innocent_2 : List UInt8 := [160, 0, 8, 45, 182, 1, 47, 172, 28, 16, 10, 16, 9, 45, 180, 0, 233, 96, 184, 0, 70, 153, 0, 18]
abbrev dktX0_innocent_2 : List UInt8 := dkwX0_innocent_2 ++ dktX0_innocent_3
def dkwX0_innocent_1 : List UInt8 := [154, 0, 20, 45, 42, 180, 0, 49, 182, 1, 72, 153, 0, 7, 3, 167, 0, 4, 4, 172, 28, 4]
abbrev dktX0_innocent_1 : List UInt8 := dkwX0_innocent_1 ++ dktX0_innocent_2
def dkwX0_innocent_0 : List UInt8 := [27, 3, 42, 180, 1, 89, 4, 100, 184, 0, 70, 154, 0, 5, 2, 172, 42, 180, 0, 37, 27, 50, 78, 28]
abbrev dktX0_innocent_0 : List UInt8 := dkwX0_innocent_0 ++ dktX0_innocent_1
theorem dksX0_innocent_0 : cX0_innocent.data.toList.drop 0 = dktX0_innocent_0 := by decide +kernel
theorem dksX0_innocent_1 : cX0_innocent.data.toList.drop 24 = dktX0_innocent_1 := dk_seg dksX0_innocent_0 24 rfl rfl
theorem dksX0_innocent_2 : cX0_innocent.data.toList.drop 46 = dktX0_innocent_2 := dk_seg dksX0_innocent_1 22 rfl rfl
theorem dksX0_innocent_3 : cX0_innocent.data.toList.drop 70 = dktX0_innocent_3 := dk_seg dksX0_innocent_2 24 rfl rfl
theorem dX0_innocent_0 : decode cX0_innocent 0 = .ok (.iload_n 1, 1) := dk_27 (dk_at dksX0_innocent_0 0 rfl rfl)
theorem dX0_innocent_1 : decode cX0_innocent 1 = .ok (.iconst 0, 1) := dk_3 (dk_at dksX0_innocent_0 1 rfl rfl)
theorem dX0_innocent_2 : decode cX0_innocent 2 = .ok (.aload_n 0, 1) := dk_42 (dk_at dksX0_innocent_0 2 rfl rfl)
theorem dX0_innocent_3 : decode cX0_innocent 3 = .ok (.getfield 345, 3) := dk_180 1 89 (dk_at dksX0_innocent_0 3 rfl rfl)
theorem dX0_innocent_6 : decode cX0_innocent 6 = .ok (.iconst 1, 1) := dk_4 (dk_at dksX0_innocent_0 6 rfl rfl)
theorem dX0_innocent_7 : decode cX0_innocent 7 = .ok (.isub, 1) := dk_100 (dk_at dksX0_innocent_0 7 rfl rfl)
theorem dX0_innocent_8 : decode cX0_innocent 8 = .ok (.invokestatic 70, 3) := dk_184 0 70 (dk_at dksX0_innocent_0 8 rfl rfl)
theorem dX0_innocent_11 : decode cX0_innocent 11 = .ok (.ifCond .ne 5, 3) := dk_154 0 5 (dk_at dksX0_innocent_0 11 rfl rfl)
theorem dX0_innocent_14 : decode cX0_innocent 14 = .ok (.iconst (-1), 1) := dk_2 (dk_at dksX0_innocent_0 14 rfl rfl)
theorem dX0_innocent_15 : decode cX0_innocent 15 = .ok (.ireturn, 1) := dk_172 (dk_at dksX0_innocent_0 15 rfl rfl)
theorem dX0_innocent_16 : decode cX0_innocent 16 = .ok (.aload_n 0, 1) := dk_42 (dk_at dksX0_innocent_0 16 rfl rfl)
theorem dX0_innocent_17 : decode cX0_innocent 17 = .ok (.getfield 37, 3) := dk_180 0 37 (dk_at dksX0_innocent_0 17 rfl rfl)
theorem dX0_innocent_20 : decode cX0_innocent 20 = .ok (.iload_n 1, 1) := dk_27 (dk_at dksX0_innocent_0 20 rfl rfl)
theorem dX0_innocent_21 : decode cX0_innocent 21 = .ok (.aaload, 1) := dk_50 (dk_at dksX0_innocent_0 21 rfl rfl)
theorem dX0_innocent_22 : decode cX0_innocent 22 = .ok (.astore_n 3, 1) := dk_78 (dk_at dksX0_innocent_0 22 rfl rfl)
theorem dX0_innocent_23 : decode cX0_innocent 23 = .ok (.iload_n 2, 1) := dk_28 (dk_at dksX0_innocent_0 23 rfl rfl)
theorem dX0_innocent_24 : decode cX0_innocent 24 = .ok (.ifCond .ne 20, 3) := dk_154 0 20 (dk_at dksX0_innocent_1 0 rfl rfl)
theorem dX0_innocent_27 : decode cX0_innocent 27 = .ok (.aload_n 3, 1) := dk_45 (dk_at dksX0_innocent_1 3 rfl rfl)
theorem dX0_innocent_28 : decode cX0_innocent 28 = .ok (.aload_n 0, 1) := dk_42 (dk_at dksX0_innocent_1 4 rfl rfl)
theorem dX0_innocent_29 : decode cX0_innocent 29 = .ok (.getfield 49, 3) := dk_180 0 49 (dk_at dksX0_innocent_1 5 rfl rfl)
theorem dX0_innocent_32 : decode cX0_innocent 32 = .ok (.invokevirtual 328, 3) := dk_182 1 72 (dk_at dksX0_innocent_1 8 rfl rfl)
theorem dX0_innocent_35 : decode cX0_innocent 35 = .ok (.ifCond .eq 7, 3) := dk_153 0 7 (dk_at dksX0_innocent_1 11 rfl rfl)
theorem dX0_innocent_38 : decode cX0_innocent 38 = .ok (.iconst 0, 1) := dk_3 (dk_at dksX0_innocent_1 14 rfl rfl)
theorem dX0_innocent_39 : decode cX0_innocent 39 = .ok (.goto 4, 3) := dk_167 0 4 (dk_at dksX0_innocent_1 15 rfl rfl)
theorem dX0_innocent_42 : decode cX0_innocent 42 = .ok (.iconst 1, 1) := dk_4 (dk_at dksX0_innocent_1 18 rfl rfl)
theorem dX0_innocent_43 : decode cX0_innocent 43 = .ok (.ireturn, 1) := dk_172 (dk_at dksX0_innocent_1 19 rfl rfl)
theorem dX0_innocent_44 : decode cX0_innocent 44 = .ok (.iload_n 2, 1) := dk_28 (dk_at dksX0_innocent_1 20 rfl rfl)
theorem dX0_innocent_45 : decode cX0_innocent 45 = .ok (.iconst 1, 1) := dk_4 (dk_at dksX0_innocent_1 21 rfl rfl)
theorem dX0_innocent_46 : decode cX0_innocent 46 = .ok (.if_icmp .ne 8, 3) := dk_160 0 8 (dk_at dksX0_innocent_2 0 rfl rfl)
theorem dX0_innocent_49 : decode cX0_innocent 49 = .ok (.aload_n 3, 1) := dk_45 (dk_at dksX0_innocent_2 3 rfl rfl)
theorem dX0_innocent_50 : decode cX0_innocent 50 = .ok (.invokevirtual 303, 3) := dk_182 1 47 (dk_at dksX0_innocent_2 4 rfl rfl)
theorem dX0_innocent_53 : decode cX0_innocent 53 = .ok (.ireturn, 1) := dk_172 (dk_at dksX0_innocent_2 7 rfl rfl)
theorem dX0_innocent_54 : decode cX0_innocent 54 = .ok (.iload_n 2, 1) := dk_28 (dk_at dksX0_innocent_2 8 rfl rfl)
theorem dX0_innocent_55 : decode cX0_innocent 55 = .ok (.bipush 10, 2) := dk_16 10 (dk_at dksX0_innocent_2 9 rfl rfl)
theorem dX0_innocent_57 : decode cX0_innocent 57 = .ok (.bipush 9, 2) := dk_16 9 (dk_at dksX0_innocent_2 11 rfl rfl)
theorem dX0_innocent_59 : decode cX0_innocent 59 = .ok (.aload_n 3, 1) := dk_45 (dk_at dksX0_innocent_2 13 rfl rfl)
theorem dX0_innocent_60 : decode cX0_innocent 60 = .ok (.getfield 233, 3) := dk_180 0 233 (dk_at dksX0_innocent_2 14 rfl rfl)
theorem dX0_innocent_63 : decode cX0_innocent 63 = .ok (.iadd, 1) := dk_96 (dk_at dksX0_innocent_2 17 rfl rfl)
theorem dX0_innocent_64 : decode cX0_innocent 64 = .ok (.invokestatic 70, 3) := dk_184 0 70 (dk_at dksX0_innocent_2 18 rfl rfl)
theorem dX0_innocent_67 : decode cX0_innocent 67 = .ok (.ifCond .eq 18, 3) := dk_153 0 18 (dk_at dksX0_innocent_2 21 rfl rfl)
theorem dX0_innocent_70 : decode cX0_innocent 70 = .ok (.aload_n 3, 1) := dk_45 (dk_at dksX0_innocent_3 0 rfl rfl)
theorem dX0_innocent_71 : decode cX0_innocent 71 = .ok (.getfield 352, 3) := dk_180 1 96 (dk_at dksX0_innocent_3 1 rfl rfl)
theorem dX0_innocent_74 : decode cX0_innocent 74 = .ok (.iload_n 2, 1) := dk_28 (dk_at dksX0_innocent_3 4 rfl rfl)
theorem dX0_innocent_75 : decode cX0_innocent 75 = .ok (.bipush 10, 2) := dk_16 10 (dk_at dksX0_innocent_3 5 rfl rfl)
theorem dX0_innocent_77 : decode cX0_innocent 77 = .ok (.isub, 1) := dk_100 (dk_at dksX0_innocent_3 7 rfl rfl)
theorem dX0_innocent_78 : decode cX0_innocent 78 = .ok (.aaload, 1) := dk_50 (dk_at dksX0_innocent_3 8 rfl rfl)
theorem dX0_innocent_79 : decode cX0_innocent 79 = .ok (.getfield 353, 3) := dk_180 1 97 (dk_at dksX0_innocent_3 9 rfl rfl)
theorem dX0_innocent_82 : decode cX0_innocent 82 = .ok (.goto 4, 3) := dk_167 0 4 (dk_at dksX0_innocent_3 12 rfl rfl)
theorem dX0_innocent_85 : decode cX0_innocent 85 = .ok (.iconst (-1), 1) := dk_2 (dk_at dksX0_innocent_3 15 rfl rfl)
theorem dX0_innocent_86 : decode cX0_innocent 86 = .ok (.ireturn, 1) := dk_172 (dk_at dksX0_innocent_3 16 rfl rfl)
abbrev cX0_parts : ByteArray := prog_1_method_44_code
def yX0_parts : MethodName := ⟨RX0, "parts", "(I)I"⟩
def dkwX0_parts_3 : List UInt8 := [180, 0, 37, 27, 50, 4, 28, 120, 182, 1, 103, 154, 0, 5, 28, 172, 132, 2, 1, 167, 255, 226, 2, 172]
abbrev dktX0_parts_3 : List UInt8 := dkwX0_parts_3 ++ []
def dkwX0_parts_2 : List UInt8 := [50, 3, 182, 1, 103, 154, 0, 6, 16, 254, 172, 3, 61, 28, 8, 162, 0, 31, 42, 42, 180, 0, 56, 42]
abbrev dktX0_parts_2 : List UInt8 := dkwX0_parts_2 ++ dktX0_parts_3
def dkwX0_parts_1 : List UInt8 := [42, 180, 0, 37, 27, 50, 182, 1, 7, 154, 0, 5, 2, 172, 42, 42, 180, 0, 56, 42, 180, 0, 37, 27]
abbrev dktX0_parts_1 : List UInt8 := dkwX0_parts_1 ++ dktX0_parts_2
def dkwX0_parts_0 : List UInt8 := [27, 3, 42, 180, 1, 89, 4, 100, 184, 0, 70, 153, 0, 25, 42, 180, 0, 56, 182, 1, 7, 153, 0, 15]
abbrev dktX0_parts_0 : List UInt8 := dkwX0_parts_0 ++ dktX0_parts_1
theorem dksX0_parts_0 : cX0_parts.data.toList.drop 0 = dktX0_parts_0 := by decide +kernel
theorem dksX0_parts_1 : cX0_parts.data.toList.drop 24 = dktX0_parts_1 := dk_seg dksX0_parts_0 24 rfl rfl
theorem dksX0_parts_2 : cX0_parts.data.toList.drop 48 = dktX0_parts_2 := dk_seg dksX0_parts_1 24 rfl rfl
theorem dksX0_parts_3 : cX0_parts.data.toList.drop 72 = dktX0_parts_3 := dk_seg dksX0_parts_2 24 rfl rfl
theorem dX0_parts_0 : decode cX0_parts 0 = .ok (.iload_n 1, 1) := dk_27 (dk_at dksX0_parts_0 0 rfl rfl)
theorem dX0_parts_1 : decode cX0_parts 1 = .ok (.iconst 0, 1) := dk_3 (dk_at dksX0_parts_0 1 rfl rfl)
theorem dX0_parts_2 : decode cX0_parts 2 = .ok (.aload_n 0, 1) := dk_42 (dk_at dksX0_parts_0 2 rfl rfl)
theorem dX0_parts_3 : decode cX0_parts 3 = .ok (.getfield 345, 3) := dk_180 1 89 (dk_at dksX0_parts_0 3 rfl rfl)
theorem dX0_parts_6 : decode cX0_parts 6 = .ok (.iconst 1, 1) := dk_4 (dk_at dksX0_parts_0 6 rfl rfl)
theorem dX0_parts_7 : decode cX0_parts 7 = .ok (.isub, 1) := dk_100 (dk_at dksX0_parts_0 7 rfl rfl)
theorem dX0_parts_8 : decode cX0_parts 8 = .ok (.invokestatic 70, 3) := dk_184 0 70 (dk_at dksX0_parts_0 8 rfl rfl)
theorem dX0_parts_11 : decode cX0_parts 11 = .ok (.ifCond .eq 25, 3) := dk_153 0 25 (dk_at dksX0_parts_0 11 rfl rfl)
theorem dX0_parts_14 : decode cX0_parts 14 = .ok (.aload_n 0, 1) := dk_42 (dk_at dksX0_parts_0 14 rfl rfl)
theorem dX0_parts_15 : decode cX0_parts 15 = .ok (.getfield 56, 3) := dk_180 0 56 (dk_at dksX0_parts_0 15 rfl rfl)
theorem dX0_parts_18 : decode cX0_parts 18 = .ok (.invokevirtual 263, 3) := dk_182 1 7 (dk_at dksX0_parts_0 18 rfl rfl)
theorem dX0_parts_21 : decode cX0_parts 21 = .ok (.ifCond .eq 15, 3) := dk_153 0 15 (dk_at dksX0_parts_0 21 rfl rfl)
theorem dX0_parts_24 : decode cX0_parts 24 = .ok (.aload_n 0, 1) := dk_42 (dk_at dksX0_parts_1 0 rfl rfl)
theorem dX0_parts_25 : decode cX0_parts 25 = .ok (.getfield 37, 3) := dk_180 0 37 (dk_at dksX0_parts_1 1 rfl rfl)
theorem dX0_parts_28 : decode cX0_parts 28 = .ok (.iload_n 1, 1) := dk_27 (dk_at dksX0_parts_1 4 rfl rfl)
theorem dX0_parts_29 : decode cX0_parts 29 = .ok (.aaload, 1) := dk_50 (dk_at dksX0_parts_1 5 rfl rfl)
theorem dX0_parts_30 : decode cX0_parts 30 = .ok (.invokevirtual 263, 3) := dk_182 1 7 (dk_at dksX0_parts_1 6 rfl rfl)
theorem dX0_parts_33 : decode cX0_parts 33 = .ok (.ifCond .ne 5, 3) := dk_154 0 5 (dk_at dksX0_parts_1 9 rfl rfl)
theorem dX0_parts_36 : decode cX0_parts 36 = .ok (.iconst (-1), 1) := dk_2 (dk_at dksX0_parts_1 12 rfl rfl)
theorem dX0_parts_37 : decode cX0_parts 37 = .ok (.ireturn, 1) := dk_172 (dk_at dksX0_parts_1 13 rfl rfl)
theorem dX0_parts_38 : decode cX0_parts 38 = .ok (.aload_n 0, 1) := dk_42 (dk_at dksX0_parts_1 14 rfl rfl)
theorem dX0_parts_39 : decode cX0_parts 39 = .ok (.aload_n 0, 1) := dk_42 (dk_at dksX0_parts_1 15 rfl rfl)
theorem dX0_parts_40 : decode cX0_parts 40 = .ok (.getfield 56, 3) := dk_180 0 56 (dk_at dksX0_parts_1 16 rfl rfl)
theorem dX0_parts_43 : decode cX0_parts 43 = .ok (.aload_n 0, 1) := dk_42 (dk_at dksX0_parts_1 19 rfl rfl)
theorem dX0_parts_44 : decode cX0_parts 44 = .ok (.getfield 37, 3) := dk_180 0 37 (dk_at dksX0_parts_1 20 rfl rfl)
theorem dX0_parts_47 : decode cX0_parts 47 = .ok (.iload_n 1, 1) := dk_27 (dk_at dksX0_parts_1 23 rfl rfl)
theorem dX0_parts_48 : decode cX0_parts 48 = .ok (.aaload, 1) := dk_50 (dk_at dksX0_parts_2 0 rfl rfl)
theorem dX0_parts_49 : decode cX0_parts 49 = .ok (.iconst 0, 1) := dk_3 (dk_at dksX0_parts_2 1 rfl rfl)
theorem dX0_parts_50 : decode cX0_parts 50 = .ok (.invokevirtual 359, 3) := dk_182 1 103 (dk_at dksX0_parts_2 2 rfl rfl)
theorem dX0_parts_53 : decode cX0_parts 53 = .ok (.ifCond .ne 6, 3) := dk_154 0 6 (dk_at dksX0_parts_2 5 rfl rfl)
theorem dX0_parts_56 : decode cX0_parts 56 = .ok (.bipush (-2), 2) := dk_16 254 (dk_at dksX0_parts_2 8 rfl rfl)
theorem dX0_parts_58 : decode cX0_parts 58 = .ok (.ireturn, 1) := dk_172 (dk_at dksX0_parts_2 10 rfl rfl)
theorem dX0_parts_59 : decode cX0_parts 59 = .ok (.iconst 0, 1) := dk_3 (dk_at dksX0_parts_2 11 rfl rfl)
theorem dX0_parts_60 : decode cX0_parts 60 = .ok (.istore_n 2, 1) := dk_61 (dk_at dksX0_parts_2 12 rfl rfl)
theorem dX0_parts_61 : decode cX0_parts 61 = .ok (.iload_n 2, 1) := dk_28 (dk_at dksX0_parts_2 13 rfl rfl)
theorem dX0_parts_62 : decode cX0_parts 62 = .ok (.iconst 5, 1) := dk_8 (dk_at dksX0_parts_2 14 rfl rfl)
theorem dX0_parts_63 : decode cX0_parts 63 = .ok (.if_icmp .ge 31, 3) := dk_162 0 31 (dk_at dksX0_parts_2 15 rfl rfl)
theorem dX0_parts_66 : decode cX0_parts 66 = .ok (.aload_n 0, 1) := dk_42 (dk_at dksX0_parts_2 18 rfl rfl)
theorem dX0_parts_67 : decode cX0_parts 67 = .ok (.aload_n 0, 1) := dk_42 (dk_at dksX0_parts_2 19 rfl rfl)
theorem dX0_parts_68 : decode cX0_parts 68 = .ok (.getfield 56, 3) := dk_180 0 56 (dk_at dksX0_parts_2 20 rfl rfl)
theorem dX0_parts_71 : decode cX0_parts 71 = .ok (.aload_n 0, 1) := dk_42 (dk_at dksX0_parts_2 23 rfl rfl)
theorem dX0_parts_72 : decode cX0_parts 72 = .ok (.getfield 37, 3) := dk_180 0 37 (dk_at dksX0_parts_3 0 rfl rfl)
theorem dX0_parts_75 : decode cX0_parts 75 = .ok (.iload_n 1, 1) := dk_27 (dk_at dksX0_parts_3 3 rfl rfl)
theorem dX0_parts_76 : decode cX0_parts 76 = .ok (.aaload, 1) := dk_50 (dk_at dksX0_parts_3 4 rfl rfl)
theorem dX0_parts_77 : decode cX0_parts 77 = .ok (.iconst 1, 1) := dk_4 (dk_at dksX0_parts_3 5 rfl rfl)
theorem dX0_parts_78 : decode cX0_parts 78 = .ok (.iload_n 2, 1) := dk_28 (dk_at dksX0_parts_3 6 rfl rfl)
theorem dX0_parts_79 : decode cX0_parts 79 = .ok (.ishl, 1) := dk_120 (dk_at dksX0_parts_3 7 rfl rfl)
theorem dX0_parts_80 : decode cX0_parts 80 = .ok (.invokevirtual 359, 3) := dk_182 1 103 (dk_at dksX0_parts_3 8 rfl rfl)
theorem dX0_parts_83 : decode cX0_parts 83 = .ok (.ifCond .ne 5, 3) := dk_154 0 5 (dk_at dksX0_parts_3 11 rfl rfl)
theorem dX0_parts_86 : decode cX0_parts 86 = .ok (.iload_n 2, 1) := dk_28 (dk_at dksX0_parts_3 14 rfl rfl)
theorem dX0_parts_87 : decode cX0_parts 87 = .ok (.ireturn, 1) := dk_172 (dk_at dksX0_parts_3 15 rfl rfl)
theorem dX0_parts_88 : decode cX0_parts 88 = .ok (.iinc 2 1, 3) := dk_132 2 1 (dk_at dksX0_parts_3 16 rfl rfl)
theorem dX0_parts_91 : decode cX0_parts 91 = .ok (.goto (-30), 3) := dk_167 255 226 (dk_at dksX0_parts_3 19 rfl rfl)
theorem dX0_parts_94 : decode cX0_parts 94 = .ok (.iconst (-1), 1) := dk_2 (dk_at dksX0_parts_3 22 rfl rfl)
theorem dX0_parts_95 : decode cX0_parts 95 = .ok (.ireturn, 1) := dk_172 (dk_at dksX0_parts_3 23 rfl rfl)
abbrev cX0_areAlike : ByteArray := prog_1_method_43_code
def yX0_areAlike : MethodName := ⟨RX0, "areAlike", "(LLoanNames$Bundle;LLoanNames$Bundle;I)Z"⟩
def dkwX0_areAlike_2 : List UInt8 := [167, 0, 4, 3, 54, 4, 132, 5, 1, 167, 255, 216, 21, 4, 172]
abbrev dktX0_areAlike_2 : List UInt8 := dkwX0_areAlike_2 ++ []
def dkwX0_areAlike_1 : List UInt8 := [21, 4, 153, 0, 25, 43, 180, 1, 100, 21, 5, 47, 44, 180, 1, 100, 21, 5, 47, 148, 154, 0, 7, 4]
abbrev dktX0_areAlike_1 : List UInt8 := dkwX0_areAlike_1 ++ dktX0_areAlike_2
def dkwX0_areAlike_0 : List UInt8 := [43, 29, 182, 1, 24, 44, 29, 182, 1, 24, 4, 54, 4, 3, 54, 5, 21, 5, 16, 48, 162, 0, 39]
abbrev dktX0_areAlike_0 : List UInt8 := dkwX0_areAlike_0 ++ dktX0_areAlike_1
theorem dksX0_areAlike_0 : cX0_areAlike.data.toList.drop 0 = dktX0_areAlike_0 := by decide +kernel
theorem dksX0_areAlike_1 : cX0_areAlike.data.toList.drop 23 = dktX0_areAlike_1 := dk_seg dksX0_areAlike_0 23 rfl rfl
theorem dksX0_areAlike_2 : cX0_areAlike.data.toList.drop 47 = dktX0_areAlike_2 := dk_seg dksX0_areAlike_1 24 rfl rfl
theorem dX0_areAlike_0 : decode cX0_areAlike 0 = .ok (.aload_n 1, 1) := dk_43 (dk_at dksX0_areAlike_0 0 rfl rfl)
theorem dX0_areAlike_1 : decode cX0_areAlike 1 = .ok (.iload_n 3, 1) := dk_29 (dk_at dksX0_areAlike_0 1 rfl rfl)
theorem dX0_areAlike_2 : decode cX0_areAlike 2 = .ok (.invokevirtual 280, 3) := dk_182 1 24 (dk_at dksX0_areAlike_0 2 rfl rfl)
theorem dX0_areAlike_5 : decode cX0_areAlike 5 = .ok (.aload_n 2, 1) := dk_44 (dk_at dksX0_areAlike_0 5 rfl rfl)
theorem dX0_areAlike_6 : decode cX0_areAlike 6 = .ok (.iload_n 3, 1) := dk_29 (dk_at dksX0_areAlike_0 6 rfl rfl)
theorem dX0_areAlike_7 : decode cX0_areAlike 7 = .ok (.invokevirtual 280, 3) := dk_182 1 24 (dk_at dksX0_areAlike_0 7 rfl rfl)
theorem dX0_areAlike_10 : decode cX0_areAlike 10 = .ok (.iconst 1, 1) := dk_4 (dk_at dksX0_areAlike_0 10 rfl rfl)
theorem dX0_areAlike_11 : decode cX0_areAlike 11 = .ok (.istore 4, 2) := dk_54 4 (dk_at dksX0_areAlike_0 11 rfl rfl)
theorem dX0_areAlike_13 : decode cX0_areAlike 13 = .ok (.iconst 0, 1) := dk_3 (dk_at dksX0_areAlike_0 13 rfl rfl)
theorem dX0_areAlike_14 : decode cX0_areAlike 14 = .ok (.istore 5, 2) := dk_54 5 (dk_at dksX0_areAlike_0 14 rfl rfl)
theorem dX0_areAlike_16 : decode cX0_areAlike 16 = .ok (.iload 5, 2) := dk_21 5 (dk_at dksX0_areAlike_0 16 rfl rfl)
theorem dX0_areAlike_18 : decode cX0_areAlike 18 = .ok (.bipush 48, 2) := dk_16 48 (dk_at dksX0_areAlike_0 18 rfl rfl)
theorem dX0_areAlike_20 : decode cX0_areAlike 20 = .ok (.if_icmp .ge 39, 3) := dk_162 0 39 (dk_at dksX0_areAlike_0 20 rfl rfl)
theorem dX0_areAlike_23 : decode cX0_areAlike 23 = .ok (.iload 4, 2) := dk_21 4 (dk_at dksX0_areAlike_1 0 rfl rfl)
theorem dX0_areAlike_25 : decode cX0_areAlike 25 = .ok (.ifCond .eq 25, 3) := dk_153 0 25 (dk_at dksX0_areAlike_1 2 rfl rfl)
theorem dX0_areAlike_28 : decode cX0_areAlike 28 = .ok (.aload_n 1, 1) := dk_43 (dk_at dksX0_areAlike_1 5 rfl rfl)
theorem dX0_areAlike_29 : decode cX0_areAlike 29 = .ok (.getfield 356, 3) := dk_180 1 100 (dk_at dksX0_areAlike_1 6 rfl rfl)
theorem dX0_areAlike_32 : decode cX0_areAlike 32 = .ok (.iload 5, 2) := dk_21 5 (dk_at dksX0_areAlike_1 9 rfl rfl)
theorem dX0_areAlike_34 : decode cX0_areAlike 34 = .ok (.laload, 1) := dk_47 (dk_at dksX0_areAlike_1 11 rfl rfl)
theorem dX0_areAlike_35 : decode cX0_areAlike 35 = .ok (.aload_n 2, 1) := dk_44 (dk_at dksX0_areAlike_1 12 rfl rfl)
theorem dX0_areAlike_36 : decode cX0_areAlike 36 = .ok (.getfield 356, 3) := dk_180 1 100 (dk_at dksX0_areAlike_1 13 rfl rfl)
theorem dX0_areAlike_39 : decode cX0_areAlike 39 = .ok (.iload 5, 2) := dk_21 5 (dk_at dksX0_areAlike_1 16 rfl rfl)
theorem dX0_areAlike_41 : decode cX0_areAlike 41 = .ok (.laload, 1) := dk_47 (dk_at dksX0_areAlike_1 18 rfl rfl)
theorem dX0_areAlike_42 : decode cX0_areAlike 42 = .ok (.lcmp, 1) := dk_148 (dk_at dksX0_areAlike_1 19 rfl rfl)
theorem dX0_areAlike_43 : decode cX0_areAlike 43 = .ok (.ifCond .ne 7, 3) := dk_154 0 7 (dk_at dksX0_areAlike_1 20 rfl rfl)
theorem dX0_areAlike_46 : decode cX0_areAlike 46 = .ok (.iconst 1, 1) := dk_4 (dk_at dksX0_areAlike_1 23 rfl rfl)
theorem dX0_areAlike_47 : decode cX0_areAlike 47 = .ok (.goto 4, 3) := dk_167 0 4 (dk_at dksX0_areAlike_2 0 rfl rfl)
theorem dX0_areAlike_50 : decode cX0_areAlike 50 = .ok (.iconst 0, 1) := dk_3 (dk_at dksX0_areAlike_2 3 rfl rfl)
theorem dX0_areAlike_51 : decode cX0_areAlike 51 = .ok (.istore 4, 2) := dk_54 4 (dk_at dksX0_areAlike_2 4 rfl rfl)
theorem dX0_areAlike_53 : decode cX0_areAlike 53 = .ok (.iinc 5 1, 3) := dk_132 5 1 (dk_at dksX0_areAlike_2 6 rfl rfl)
theorem dX0_areAlike_56 : decode cX0_areAlike 56 = .ok (.goto (-40), 3) := dk_167 255 216 (dk_at dksX0_areAlike_2 9 rfl rfl)
theorem dX0_areAlike_59 : decode cX0_areAlike 59 = .ok (.iload 4, 2) := dk_21 4 (dk_at dksX0_areAlike_2 12 rfl rfl)
theorem dX0_areAlike_61 : decode cX0_areAlike 61 = .ok (.ireturn, 1) := dk_172 (dk_at dksX0_areAlike_2 14 rfl rfl)
abbrev cX0_stop : ByteArray := prog_1_method_46_code
def yX0_stop : MethodName := ⟨RX0, "stop", "(I)I"⟩
def dkwX0_stop_9 : List UInt8 := [21, 5, 172]
abbrev dktX0_stop_9 : List UInt8 := dkwX0_stop_9 ++ []
def dkwX0_stop_8 : List UInt8 := [3, 54, 7, 132, 8, 1, 167, 255, 224, 21, 7, 153, 0, 7, 21, 6, 54, 5, 132, 6, 1, 167, 255, 162]
abbrev dktX0_stop_8 : List UInt8 := dkwX0_stop_8 ++ dktX0_stop_9
def dkwX0_stop_7 : List UInt8 := [21, 4, 162, 0, 31, 21, 7, 153, 0, 26, 45, 21, 8, 46, 21, 6, 126, 153, 0, 7, 4, 167, 0, 4]
abbrev dktX0_stop_7 : List UInt8 := dkwX0_stop_7 ++ dktX0_stop_8
def dkwX0_stop_6 : List UInt8 := [184, 1, 81, 21, 5, 184, 1, 81, 162, 0, 7, 4, 167, 0, 4, 3, 54, 7, 3, 54, 8, 21, 8]
abbrev dktX0_stop_6 : List UInt8 := dkwX0_stop_6 ++ dktX0_stop_7
def dkwX0_stop_5 : List UInt8 := [4, 42, 180, 0, 115, 120, 162, 0, 89, 21, 6, 28, 126, 154, 0, 26, 21, 5, 2, 159, 0, 16, 21, 6]
abbrev dktX0_stop_5 : List UInt8 := dkwX0_stop_5 ++ dktX0_stop_6
def dkwX0_stop_4 : List UInt8 := [180, 0, 60, 182, 1, 107, 79, 132, 4, 1, 132, 5, 1, 167, 255, 206, 2, 54, 5, 3, 54, 6, 21, 6]
abbrev dktX0_stop_4 : List UInt8 := dkwX0_stop_4 ++ dktX0_stop_5
def dkwX0_stop_3 : List UInt8 := [184, 1, 81, 27, 163, 0, 30, 42, 21, 5, 182, 1, 86, 154, 0, 6, 167, 0, 18, 45, 21, 4, 42, 42]
abbrev dktX0_stop_3 : List UInt8 := dkwX0_stop_3 ++ dktX0_stop_4
def dkwX0_stop_2 : List UInt8 := [120, 188, 10, 78, 3, 54, 4, 4, 54, 5, 21, 5, 4, 42, 180, 1, 75, 120, 162, 0, 45, 21, 5]
abbrev dktX0_stop_2 : List UInt8 := dkwX0_stop_2 ++ dktX0_stop_3
def dkwX0_stop_1 : List UInt8 := [28, 42, 42, 180, 0, 37, 29, 50, 182, 1, 107, 128, 61, 132, 3, 1, 167, 255, 232, 4, 42, 180, 1, 75]
abbrev dktX0_stop_1 : List UInt8 := dkwX0_stop_1 ++ dktX0_stop_2
def dkwX0_stop_0 : List UInt8 := [27, 4, 16, 6, 184, 0, 70, 154, 0, 5, 2, 172, 3, 61, 3, 62, 29, 42, 180, 1, 89, 162, 0, 22]
abbrev dktX0_stop_0 : List UInt8 := dkwX0_stop_0 ++ dktX0_stop_1
theorem dksX0_stop_0 : cX0_stop.data.toList.drop 0 = dktX0_stop_0 := by decide +kernel
theorem dksX0_stop_1 : cX0_stop.data.toList.drop 24 = dktX0_stop_1 := dk_seg dksX0_stop_0 24 rfl rfl
theorem dksX0_stop_2 : cX0_stop.data.toList.drop 48 = dktX0_stop_2 := dk_seg dksX0_stop_1 24 rfl rfl
theorem dksX0_stop_3 : cX0_stop.data.toList.drop 71 = dktX0_stop_3 := dk_seg dksX0_stop_2 23 rfl rfl
theorem dksX0_stop_4 : cX0_stop.data.toList.drop 95 = dktX0_stop_4 := dk_seg dksX0_stop_3 24 rfl rfl
theorem dksX0_stop_5 : cX0_stop.data.toList.drop 119 = dktX0_stop_5 := dk_seg dksX0_stop_4 24 rfl rfl
theorem dksX0_stop_6 : cX0_stop.data.toList.drop 143 = dktX0_stop_6 := dk_seg dksX0_stop_5 24 rfl rfl
theorem dksX0_stop_7 : cX0_stop.data.toList.drop 166 = dktX0_stop_7 := dk_seg dksX0_stop_6 23 rfl rfl
theorem dksX0_stop_8 : cX0_stop.data.toList.drop 190 = dktX0_stop_8 := dk_seg dksX0_stop_7 24 rfl rfl
theorem dksX0_stop_9 : cX0_stop.data.toList.drop 214 = dktX0_stop_9 := dk_seg dksX0_stop_8 24 rfl rfl
theorem dX0_stop_0 : decode cX0_stop 0 = .ok (.iload_n 1, 1) := dk_27 (dk_at dksX0_stop_0 0 rfl rfl)
theorem dX0_stop_1 : decode cX0_stop 1 = .ok (.iconst 1, 1) := dk_4 (dk_at dksX0_stop_0 1 rfl rfl)
theorem dX0_stop_2 : decode cX0_stop 2 = .ok (.bipush 6, 2) := dk_16 6 (dk_at dksX0_stop_0 2 rfl rfl)
theorem dX0_stop_4 : decode cX0_stop 4 = .ok (.invokestatic 70, 3) := dk_184 0 70 (dk_at dksX0_stop_0 4 rfl rfl)
theorem dX0_stop_7 : decode cX0_stop 7 = .ok (.ifCond .ne 5, 3) := dk_154 0 5 (dk_at dksX0_stop_0 7 rfl rfl)
theorem dX0_stop_10 : decode cX0_stop 10 = .ok (.iconst (-1), 1) := dk_2 (dk_at dksX0_stop_0 10 rfl rfl)
theorem dX0_stop_11 : decode cX0_stop 11 = .ok (.ireturn, 1) := dk_172 (dk_at dksX0_stop_0 11 rfl rfl)
theorem dX0_stop_12 : decode cX0_stop 12 = .ok (.iconst 0, 1) := dk_3 (dk_at dksX0_stop_0 12 rfl rfl)
theorem dX0_stop_13 : decode cX0_stop 13 = .ok (.istore_n 2, 1) := dk_61 (dk_at dksX0_stop_0 13 rfl rfl)
theorem dX0_stop_14 : decode cX0_stop 14 = .ok (.iconst 0, 1) := dk_3 (dk_at dksX0_stop_0 14 rfl rfl)
theorem dX0_stop_15 : decode cX0_stop 15 = .ok (.istore_n 3, 1) := dk_62 (dk_at dksX0_stop_0 15 rfl rfl)
theorem dX0_stop_16 : decode cX0_stop 16 = .ok (.iload_n 3, 1) := dk_29 (dk_at dksX0_stop_0 16 rfl rfl)
theorem dX0_stop_17 : decode cX0_stop 17 = .ok (.aload_n 0, 1) := dk_42 (dk_at dksX0_stop_0 17 rfl rfl)
theorem dX0_stop_18 : decode cX0_stop 18 = .ok (.getfield 345, 3) := dk_180 1 89 (dk_at dksX0_stop_0 18 rfl rfl)
theorem dX0_stop_21 : decode cX0_stop 21 = .ok (.if_icmp .ge 22, 3) := dk_162 0 22 (dk_at dksX0_stop_0 21 rfl rfl)
theorem dX0_stop_24 : decode cX0_stop 24 = .ok (.iload_n 2, 1) := dk_28 (dk_at dksX0_stop_1 0 rfl rfl)
theorem dX0_stop_25 : decode cX0_stop 25 = .ok (.aload_n 0, 1) := dk_42 (dk_at dksX0_stop_1 1 rfl rfl)
theorem dX0_stop_26 : decode cX0_stop 26 = .ok (.aload_n 0, 1) := dk_42 (dk_at dksX0_stop_1 2 rfl rfl)
theorem dX0_stop_27 : decode cX0_stop 27 = .ok (.getfield 37, 3) := dk_180 0 37 (dk_at dksX0_stop_1 3 rfl rfl)
theorem dX0_stop_30 : decode cX0_stop 30 = .ok (.iload_n 3, 1) := dk_29 (dk_at dksX0_stop_1 6 rfl rfl)
theorem dX0_stop_31 : decode cX0_stop 31 = .ok (.aaload, 1) := dk_50 (dk_at dksX0_stop_1 7 rfl rfl)
theorem dX0_stop_32 : decode cX0_stop 32 = .ok (.invokevirtual 363, 3) := dk_182 1 107 (dk_at dksX0_stop_1 8 rfl rfl)
theorem dX0_stop_35 : decode cX0_stop 35 = .ok (.ior, 1) := dk_128 (dk_at dksX0_stop_1 11 rfl rfl)
theorem dX0_stop_36 : decode cX0_stop 36 = .ok (.istore_n 2, 1) := dk_61 (dk_at dksX0_stop_1 12 rfl rfl)
theorem dX0_stop_37 : decode cX0_stop 37 = .ok (.iinc 3 1, 3) := dk_132 3 1 (dk_at dksX0_stop_1 13 rfl rfl)
theorem dX0_stop_40 : decode cX0_stop 40 = .ok (.goto (-24), 3) := dk_167 255 232 (dk_at dksX0_stop_1 16 rfl rfl)
theorem dX0_stop_43 : decode cX0_stop 43 = .ok (.iconst 1, 1) := dk_4 (dk_at dksX0_stop_1 19 rfl rfl)
theorem dX0_stop_44 : decode cX0_stop 44 = .ok (.aload_n 0, 1) := dk_42 (dk_at dksX0_stop_1 20 rfl rfl)
theorem dX0_stop_45 : decode cX0_stop 45 = .ok (.getfield 331, 3) := dk_180 1 75 (dk_at dksX0_stop_1 21 rfl rfl)
theorem dX0_stop_48 : decode cX0_stop 48 = .ok (.ishl, 1) := dk_120 (dk_at dksX0_stop_2 0 rfl rfl)
theorem dX0_stop_49 : decode cX0_stop 49 = .ok (.newarray .int, 2) := dk_188_10 (dk_at dksX0_stop_2 1 rfl rfl)
theorem dX0_stop_51 : decode cX0_stop 51 = .ok (.astore_n 3, 1) := dk_78 (dk_at dksX0_stop_2 3 rfl rfl)
theorem dX0_stop_52 : decode cX0_stop 52 = .ok (.iconst 0, 1) := dk_3 (dk_at dksX0_stop_2 4 rfl rfl)
theorem dX0_stop_53 : decode cX0_stop 53 = .ok (.istore 4, 2) := dk_54 4 (dk_at dksX0_stop_2 5 rfl rfl)
theorem dX0_stop_55 : decode cX0_stop 55 = .ok (.iconst 1, 1) := dk_4 (dk_at dksX0_stop_2 7 rfl rfl)
theorem dX0_stop_56 : decode cX0_stop 56 = .ok (.istore 5, 2) := dk_54 5 (dk_at dksX0_stop_2 8 rfl rfl)
theorem dX0_stop_58 : decode cX0_stop 58 = .ok (.iload 5, 2) := dk_21 5 (dk_at dksX0_stop_2 10 rfl rfl)
theorem dX0_stop_60 : decode cX0_stop 60 = .ok (.iconst 1, 1) := dk_4 (dk_at dksX0_stop_2 12 rfl rfl)
theorem dX0_stop_61 : decode cX0_stop 61 = .ok (.aload_n 0, 1) := dk_42 (dk_at dksX0_stop_2 13 rfl rfl)
theorem dX0_stop_62 : decode cX0_stop 62 = .ok (.getfield 331, 3) := dk_180 1 75 (dk_at dksX0_stop_2 14 rfl rfl)
theorem dX0_stop_65 : decode cX0_stop 65 = .ok (.ishl, 1) := dk_120 (dk_at dksX0_stop_2 17 rfl rfl)
theorem dX0_stop_66 : decode cX0_stop 66 = .ok (.if_icmp .ge 45, 3) := dk_162 0 45 (dk_at dksX0_stop_2 18 rfl rfl)
theorem dX0_stop_69 : decode cX0_stop 69 = .ok (.iload 5, 2) := dk_21 5 (dk_at dksX0_stop_2 21 rfl rfl)
theorem dX0_stop_71 : decode cX0_stop 71 = .ok (.invokestatic 337, 3) := dk_184 1 81 (dk_at dksX0_stop_3 0 rfl rfl)
theorem dX0_stop_74 : decode cX0_stop 74 = .ok (.iload_n 1, 1) := dk_27 (dk_at dksX0_stop_3 3 rfl rfl)
theorem dX0_stop_75 : decode cX0_stop 75 = .ok (.if_icmp .gt 30, 3) := dk_163 0 30 (dk_at dksX0_stop_3 4 rfl rfl)
theorem dX0_stop_78 : decode cX0_stop 78 = .ok (.aload_n 0, 1) := dk_42 (dk_at dksX0_stop_3 7 rfl rfl)
theorem dX0_stop_79 : decode cX0_stop 79 = .ok (.iload 5, 2) := dk_21 5 (dk_at dksX0_stop_3 8 rfl rfl)
theorem dX0_stop_81 : decode cX0_stop 81 = .ok (.invokevirtual 342, 3) := dk_182 1 86 (dk_at dksX0_stop_3 10 rfl rfl)
theorem dX0_stop_84 : decode cX0_stop 84 = .ok (.ifCond .ne 6, 3) := dk_154 0 6 (dk_at dksX0_stop_3 13 rfl rfl)
theorem dX0_stop_87 : decode cX0_stop 87 = .ok (.goto 18, 3) := dk_167 0 18 (dk_at dksX0_stop_3 16 rfl rfl)
theorem dX0_stop_90 : decode cX0_stop 90 = .ok (.aload_n 3, 1) := dk_45 (dk_at dksX0_stop_3 19 rfl rfl)
theorem dX0_stop_91 : decode cX0_stop 91 = .ok (.iload 4, 2) := dk_21 4 (dk_at dksX0_stop_3 20 rfl rfl)
theorem dX0_stop_93 : decode cX0_stop 93 = .ok (.aload_n 0, 1) := dk_42 (dk_at dksX0_stop_3 22 rfl rfl)
theorem dX0_stop_94 : decode cX0_stop 94 = .ok (.aload_n 0, 1) := dk_42 (dk_at dksX0_stop_3 23 rfl rfl)
theorem dX0_stop_95 : decode cX0_stop 95 = .ok (.getfield 60, 3) := dk_180 0 60 (dk_at dksX0_stop_4 0 rfl rfl)
theorem dX0_stop_98 : decode cX0_stop 98 = .ok (.invokevirtual 363, 3) := dk_182 1 107 (dk_at dksX0_stop_4 3 rfl rfl)
theorem dX0_stop_101 : decode cX0_stop 101 = .ok (.iastore, 1) := dk_79 (dk_at dksX0_stop_4 6 rfl rfl)
theorem dX0_stop_102 : decode cX0_stop 102 = .ok (.iinc 4 1, 3) := dk_132 4 1 (dk_at dksX0_stop_4 7 rfl rfl)
theorem dX0_stop_105 : decode cX0_stop 105 = .ok (.iinc 5 1, 3) := dk_132 5 1 (dk_at dksX0_stop_4 10 rfl rfl)
theorem dX0_stop_108 : decode cX0_stop 108 = .ok (.goto (-50), 3) := dk_167 255 206 (dk_at dksX0_stop_4 13 rfl rfl)
theorem dX0_stop_111 : decode cX0_stop 111 = .ok (.iconst (-1), 1) := dk_2 (dk_at dksX0_stop_4 16 rfl rfl)
theorem dX0_stop_112 : decode cX0_stop 112 = .ok (.istore 5, 2) := dk_54 5 (dk_at dksX0_stop_4 17 rfl rfl)
theorem dX0_stop_114 : decode cX0_stop 114 = .ok (.iconst 0, 1) := dk_3 (dk_at dksX0_stop_4 19 rfl rfl)
theorem dX0_stop_115 : decode cX0_stop 115 = .ok (.istore 6, 2) := dk_54 6 (dk_at dksX0_stop_4 20 rfl rfl)
theorem dX0_stop_117 : decode cX0_stop 117 = .ok (.iload 6, 2) := dk_21 6 (dk_at dksX0_stop_4 22 rfl rfl)
theorem dX0_stop_119 : decode cX0_stop 119 = .ok (.iconst 1, 1) := dk_4 (dk_at dksX0_stop_5 0 rfl rfl)
theorem dX0_stop_120 : decode cX0_stop 120 = .ok (.aload_n 0, 1) := dk_42 (dk_at dksX0_stop_5 1 rfl rfl)
theorem dX0_stop_121 : decode cX0_stop 121 = .ok (.getfield 115, 3) := dk_180 0 115 (dk_at dksX0_stop_5 2 rfl rfl)
theorem dX0_stop_124 : decode cX0_stop 124 = .ok (.ishl, 1) := dk_120 (dk_at dksX0_stop_5 5 rfl rfl)
theorem dX0_stop_125 : decode cX0_stop 125 = .ok (.if_icmp .ge 89, 3) := dk_162 0 89 (dk_at dksX0_stop_5 6 rfl rfl)
theorem dX0_stop_128 : decode cX0_stop 128 = .ok (.iload 6, 2) := dk_21 6 (dk_at dksX0_stop_5 9 rfl rfl)
theorem dX0_stop_130 : decode cX0_stop 130 = .ok (.iload_n 2, 1) := dk_28 (dk_at dksX0_stop_5 11 rfl rfl)
theorem dX0_stop_131 : decode cX0_stop 131 = .ok (.iand, 1) := dk_126 (dk_at dksX0_stop_5 12 rfl rfl)
theorem dX0_stop_132 : decode cX0_stop 132 = .ok (.ifCond .ne 26, 3) := dk_154 0 26 (dk_at dksX0_stop_5 13 rfl rfl)
theorem dX0_stop_135 : decode cX0_stop 135 = .ok (.iload 5, 2) := dk_21 5 (dk_at dksX0_stop_5 16 rfl rfl)
theorem dX0_stop_137 : decode cX0_stop 137 = .ok (.iconst (-1), 1) := dk_2 (dk_at dksX0_stop_5 18 rfl rfl)
theorem dX0_stop_138 : decode cX0_stop 138 = .ok (.if_icmp .eq 16, 3) := dk_159 0 16 (dk_at dksX0_stop_5 19 rfl rfl)
theorem dX0_stop_141 : decode cX0_stop 141 = .ok (.iload 6, 2) := dk_21 6 (dk_at dksX0_stop_5 22 rfl rfl)
theorem dX0_stop_143 : decode cX0_stop 143 = .ok (.invokestatic 337, 3) := dk_184 1 81 (dk_at dksX0_stop_6 0 rfl rfl)
theorem dX0_stop_146 : decode cX0_stop 146 = .ok (.iload 5, 2) := dk_21 5 (dk_at dksX0_stop_6 3 rfl rfl)
theorem dX0_stop_148 : decode cX0_stop 148 = .ok (.invokestatic 337, 3) := dk_184 1 81 (dk_at dksX0_stop_6 5 rfl rfl)
theorem dX0_stop_151 : decode cX0_stop 151 = .ok (.if_icmp .ge 7, 3) := dk_162 0 7 (dk_at dksX0_stop_6 8 rfl rfl)
theorem dX0_stop_154 : decode cX0_stop 154 = .ok (.iconst 1, 1) := dk_4 (dk_at dksX0_stop_6 11 rfl rfl)
theorem dX0_stop_155 : decode cX0_stop 155 = .ok (.goto 4, 3) := dk_167 0 4 (dk_at dksX0_stop_6 12 rfl rfl)
theorem dX0_stop_158 : decode cX0_stop 158 = .ok (.iconst 0, 1) := dk_3 (dk_at dksX0_stop_6 15 rfl rfl)
theorem dX0_stop_159 : decode cX0_stop 159 = .ok (.istore 7, 2) := dk_54 7 (dk_at dksX0_stop_6 16 rfl rfl)
theorem dX0_stop_161 : decode cX0_stop 161 = .ok (.iconst 0, 1) := dk_3 (dk_at dksX0_stop_6 18 rfl rfl)
theorem dX0_stop_162 : decode cX0_stop 162 = .ok (.istore 8, 2) := dk_54 8 (dk_at dksX0_stop_6 19 rfl rfl)
theorem dX0_stop_164 : decode cX0_stop 164 = .ok (.iload 8, 2) := dk_21 8 (dk_at dksX0_stop_6 21 rfl rfl)
theorem dX0_stop_166 : decode cX0_stop 166 = .ok (.iload 4, 2) := dk_21 4 (dk_at dksX0_stop_7 0 rfl rfl)
theorem dX0_stop_168 : decode cX0_stop 168 = .ok (.if_icmp .ge 31, 3) := dk_162 0 31 (dk_at dksX0_stop_7 2 rfl rfl)
theorem dX0_stop_171 : decode cX0_stop 171 = .ok (.iload 7, 2) := dk_21 7 (dk_at dksX0_stop_7 5 rfl rfl)
theorem dX0_stop_173 : decode cX0_stop 173 = .ok (.ifCond .eq 26, 3) := dk_153 0 26 (dk_at dksX0_stop_7 7 rfl rfl)
theorem dX0_stop_176 : decode cX0_stop 176 = .ok (.aload_n 3, 1) := dk_45 (dk_at dksX0_stop_7 10 rfl rfl)
theorem dX0_stop_177 : decode cX0_stop 177 = .ok (.iload 8, 2) := dk_21 8 (dk_at dksX0_stop_7 11 rfl rfl)
theorem dX0_stop_179 : decode cX0_stop 179 = .ok (.iaload, 1) := dk_46 (dk_at dksX0_stop_7 13 rfl rfl)
theorem dX0_stop_180 : decode cX0_stop 180 = .ok (.iload 6, 2) := dk_21 6 (dk_at dksX0_stop_7 14 rfl rfl)
theorem dX0_stop_182 : decode cX0_stop 182 = .ok (.iand, 1) := dk_126 (dk_at dksX0_stop_7 16 rfl rfl)
theorem dX0_stop_183 : decode cX0_stop 183 = .ok (.ifCond .eq 7, 3) := dk_153 0 7 (dk_at dksX0_stop_7 17 rfl rfl)
theorem dX0_stop_186 : decode cX0_stop 186 = .ok (.iconst 1, 1) := dk_4 (dk_at dksX0_stop_7 20 rfl rfl)
theorem dX0_stop_187 : decode cX0_stop 187 = .ok (.goto 4, 3) := dk_167 0 4 (dk_at dksX0_stop_7 21 rfl rfl)
theorem dX0_stop_190 : decode cX0_stop 190 = .ok (.iconst 0, 1) := dk_3 (dk_at dksX0_stop_8 0 rfl rfl)
theorem dX0_stop_191 : decode cX0_stop 191 = .ok (.istore 7, 2) := dk_54 7 (dk_at dksX0_stop_8 1 rfl rfl)
theorem dX0_stop_193 : decode cX0_stop 193 = .ok (.iinc 8 1, 3) := dk_132 8 1 (dk_at dksX0_stop_8 3 rfl rfl)
theorem dX0_stop_196 : decode cX0_stop 196 = .ok (.goto (-32), 3) := dk_167 255 224 (dk_at dksX0_stop_8 6 rfl rfl)
theorem dX0_stop_199 : decode cX0_stop 199 = .ok (.iload 7, 2) := dk_21 7 (dk_at dksX0_stop_8 9 rfl rfl)
theorem dX0_stop_201 : decode cX0_stop 201 = .ok (.ifCond .eq 7, 3) := dk_153 0 7 (dk_at dksX0_stop_8 11 rfl rfl)
theorem dX0_stop_204 : decode cX0_stop 204 = .ok (.iload 6, 2) := dk_21 6 (dk_at dksX0_stop_8 14 rfl rfl)
theorem dX0_stop_206 : decode cX0_stop 206 = .ok (.istore 5, 2) := dk_54 5 (dk_at dksX0_stop_8 16 rfl rfl)
theorem dX0_stop_208 : decode cX0_stop 208 = .ok (.iinc 6 1, 3) := dk_132 6 1 (dk_at dksX0_stop_8 18 rfl rfl)
theorem dX0_stop_211 : decode cX0_stop 211 = .ok (.goto (-94), 3) := dk_167 255 162 (dk_at dksX0_stop_8 21 rfl rfl)
theorem dX0_stop_214 : decode cX0_stop 214 = .ok (.iload 5, 2) := dk_21 5 (dk_at dksX0_stop_9 0 rfl rfl)
theorem dX0_stop_216 : decode cX0_stop 216 = .ok (.ireturn, 1) := dk_172 (dk_at dksX0_stop_9 2 rfl rfl)
abbrev cX0_barring : ByteArray := prog_1_method_45_code
def yX0_barring : MethodName := ⟨RX0, "barring", "(LLoanNames$Bundle;)I"⟩
def dkwX0_barring_1 : List UInt8 := [153, 0, 9, 28, 4, 29, 120, 128, 61, 132, 3, 1, 167, 255, 226, 28, 172]
abbrev dktX0_barring_1 : List UInt8 := dkwX0_barring_1 ++ []
def dkwX0_barring_0 : List UInt8 := [3, 61, 3, 62, 29, 42, 180, 0, 115, 162, 0, 28, 43, 42, 180, 0, 31, 29, 50, 182, 1, 72]
abbrev dktX0_barring_0 : List UInt8 := dkwX0_barring_0 ++ dktX0_barring_1
theorem dksX0_barring_0 : cX0_barring.data.toList.drop 0 = dktX0_barring_0 := by decide +kernel
theorem dksX0_barring_1 : cX0_barring.data.toList.drop 22 = dktX0_barring_1 := dk_seg dksX0_barring_0 22 rfl rfl
theorem dX0_barring_0 : decode cX0_barring 0 = .ok (.iconst 0, 1) := dk_3 (dk_at dksX0_barring_0 0 rfl rfl)
theorem dX0_barring_1 : decode cX0_barring 1 = .ok (.istore_n 2, 1) := dk_61 (dk_at dksX0_barring_0 1 rfl rfl)
theorem dX0_barring_2 : decode cX0_barring 2 = .ok (.iconst 0, 1) := dk_3 (dk_at dksX0_barring_0 2 rfl rfl)
theorem dX0_barring_3 : decode cX0_barring 3 = .ok (.istore_n 3, 1) := dk_62 (dk_at dksX0_barring_0 3 rfl rfl)
theorem dX0_barring_4 : decode cX0_barring 4 = .ok (.iload_n 3, 1) := dk_29 (dk_at dksX0_barring_0 4 rfl rfl)
theorem dX0_barring_5 : decode cX0_barring 5 = .ok (.aload_n 0, 1) := dk_42 (dk_at dksX0_barring_0 5 rfl rfl)
theorem dX0_barring_6 : decode cX0_barring 6 = .ok (.getfield 115, 3) := dk_180 0 115 (dk_at dksX0_barring_0 6 rfl rfl)
theorem dX0_barring_9 : decode cX0_barring 9 = .ok (.if_icmp .ge 28, 3) := dk_162 0 28 (dk_at dksX0_barring_0 9 rfl rfl)
theorem dX0_barring_12 : decode cX0_barring 12 = .ok (.aload_n 1, 1) := dk_43 (dk_at dksX0_barring_0 12 rfl rfl)
theorem dX0_barring_13 : decode cX0_barring 13 = .ok (.aload_n 0, 1) := dk_42 (dk_at dksX0_barring_0 13 rfl rfl)
theorem dX0_barring_14 : decode cX0_barring 14 = .ok (.getfield 31, 3) := dk_180 0 31 (dk_at dksX0_barring_0 14 rfl rfl)
theorem dX0_barring_17 : decode cX0_barring 17 = .ok (.iload_n 3, 1) := dk_29 (dk_at dksX0_barring_0 17 rfl rfl)
theorem dX0_barring_18 : decode cX0_barring 18 = .ok (.aaload, 1) := dk_50 (dk_at dksX0_barring_0 18 rfl rfl)
theorem dX0_barring_19 : decode cX0_barring 19 = .ok (.invokevirtual 328, 3) := dk_182 1 72 (dk_at dksX0_barring_0 19 rfl rfl)
theorem dX0_barring_22 : decode cX0_barring 22 = .ok (.ifCond .eq 9, 3) := dk_153 0 9 (dk_at dksX0_barring_1 0 rfl rfl)
theorem dX0_barring_25 : decode cX0_barring 25 = .ok (.iload_n 2, 1) := dk_28 (dk_at dksX0_barring_1 3 rfl rfl)
theorem dX0_barring_26 : decode cX0_barring 26 = .ok (.iconst 1, 1) := dk_4 (dk_at dksX0_barring_1 4 rfl rfl)
theorem dX0_barring_27 : decode cX0_barring 27 = .ok (.iload_n 3, 1) := dk_29 (dk_at dksX0_barring_1 5 rfl rfl)
theorem dX0_barring_28 : decode cX0_barring 28 = .ok (.ishl, 1) := dk_120 (dk_at dksX0_barring_1 6 rfl rfl)
theorem dX0_barring_29 : decode cX0_barring 29 = .ok (.ior, 1) := dk_128 (dk_at dksX0_barring_1 7 rfl rfl)
theorem dX0_barring_30 : decode cX0_barring 30 = .ok (.istore_n 2, 1) := dk_61 (dk_at dksX0_barring_1 8 rfl rfl)
theorem dX0_barring_31 : decode cX0_barring 31 = .ok (.iinc 3 1, 3) := dk_132 3 1 (dk_at dksX0_barring_1 9 rfl rfl)
theorem dX0_barring_34 : decode cX0_barring 34 = .ok (.goto (-30), 3) := dk_167 255 226 (dk_at dksX0_barring_1 12 rfl rfl)
theorem dX0_barring_37 : decode cX0_barring 37 = .ok (.iload_n 2, 1) := dk_28 (dk_at dksX0_barring_1 15 rfl rfl)
theorem dX0_barring_38 : decode cX0_barring 38 = .ok (.ireturn, 1) := dk_172 (dk_at dksX0_barring_1 16 rfl rfl)
abbrev cX0_heap : ByteArray := prog_1_method_49_code
def yX0_heap : MethodName := ⟨RX0, "heap", "(II)I"⟩
def dkwX0_heap_3 : List UInt8 := [29, 172]
abbrev dktX0_heap_3 : List UInt8 := dkwX0_heap_3 ++ []
def dkwX0_heap_2 : List UInt8 := [162, 0, 24, 42, 180, 0, 67, 21, 4, 46, 21, 4, 160, 0, 6, 132, 3, 1, 132, 4, 1, 167, 255, 229]
abbrev dktX0_heap_2 : List UInt8 := dkwX0_heap_2 ++ dktX0_heap_3
def dkwX0_heap_1 : List UInt8 := [28, 2, 159, 0, 10, 42, 180, 0, 67, 28, 46, 172, 3, 62, 3, 54, 4, 21, 4, 42, 180, 0, 77]
abbrev dktX0_heap_1 : List UInt8 := dkwX0_heap_1 ++ dktX0_heap_2
def dkwX0_heap_0 : List UInt8 := [27, 155, 0, 16, 28, 2, 159, 0, 13, 42, 28, 182, 0, 139, 199, 0, 5, 2, 172, 42, 27, 182, 1, 118]
abbrev dktX0_heap_0 : List UInt8 := dkwX0_heap_0 ++ dktX0_heap_1
theorem dksX0_heap_0 : cX0_heap.data.toList.drop 0 = dktX0_heap_0 := by decide +kernel
theorem dksX0_heap_1 : cX0_heap.data.toList.drop 24 = dktX0_heap_1 := dk_seg dksX0_heap_0 24 rfl rfl
theorem dksX0_heap_2 : cX0_heap.data.toList.drop 47 = dktX0_heap_2 := dk_seg dksX0_heap_1 23 rfl rfl
theorem dksX0_heap_3 : cX0_heap.data.toList.drop 71 = dktX0_heap_3 := dk_seg dksX0_heap_2 24 rfl rfl
theorem dX0_heap_0 : decode cX0_heap 0 = .ok (.iload_n 1, 1) := dk_27 (dk_at dksX0_heap_0 0 rfl rfl)
theorem dX0_heap_1 : decode cX0_heap 1 = .ok (.ifCond .lt 16, 3) := dk_155 0 16 (dk_at dksX0_heap_0 1 rfl rfl)
theorem dX0_heap_4 : decode cX0_heap 4 = .ok (.iload_n 2, 1) := dk_28 (dk_at dksX0_heap_0 4 rfl rfl)
theorem dX0_heap_5 : decode cX0_heap 5 = .ok (.iconst (-1), 1) := dk_2 (dk_at dksX0_heap_0 5 rfl rfl)
theorem dX0_heap_6 : decode cX0_heap 6 = .ok (.if_icmp .eq 13, 3) := dk_159 0 13 (dk_at dksX0_heap_0 6 rfl rfl)
theorem dX0_heap_9 : decode cX0_heap 9 = .ok (.aload_n 0, 1) := dk_42 (dk_at dksX0_heap_0 9 rfl rfl)
theorem dX0_heap_10 : decode cX0_heap 10 = .ok (.iload_n 2, 1) := dk_28 (dk_at dksX0_heap_0 10 rfl rfl)
theorem dX0_heap_11 : decode cX0_heap 11 = .ok (.invokevirtual 139, 3) := dk_182 0 139 (dk_at dksX0_heap_0 11 rfl rfl)
theorem dX0_heap_14 : decode cX0_heap 14 = .ok (.ifnonnull 5, 3) := dk_199 0 5 (dk_at dksX0_heap_0 14 rfl rfl)
theorem dX0_heap_17 : decode cX0_heap 17 = .ok (.iconst (-1), 1) := dk_2 (dk_at dksX0_heap_0 17 rfl rfl)
theorem dX0_heap_18 : decode cX0_heap 18 = .ok (.ireturn, 1) := dk_172 (dk_at dksX0_heap_0 18 rfl rfl)
theorem dX0_heap_19 : decode cX0_heap 19 = .ok (.aload_n 0, 1) := dk_42 (dk_at dksX0_heap_0 19 rfl rfl)
theorem dX0_heap_20 : decode cX0_heap 20 = .ok (.iload_n 1, 1) := dk_27 (dk_at dksX0_heap_0 20 rfl rfl)
theorem dX0_heap_21 : decode cX0_heap 21 = .ok (.invokevirtual 374, 3) := dk_182 1 118 (dk_at dksX0_heap_0 21 rfl rfl)
theorem dX0_heap_24 : decode cX0_heap 24 = .ok (.iload_n 2, 1) := dk_28 (dk_at dksX0_heap_1 0 rfl rfl)
theorem dX0_heap_25 : decode cX0_heap 25 = .ok (.iconst (-1), 1) := dk_2 (dk_at dksX0_heap_1 1 rfl rfl)
theorem dX0_heap_26 : decode cX0_heap 26 = .ok (.if_icmp .eq 10, 3) := dk_159 0 10 (dk_at dksX0_heap_1 2 rfl rfl)
theorem dX0_heap_29 : decode cX0_heap 29 = .ok (.aload_n 0, 1) := dk_42 (dk_at dksX0_heap_1 5 rfl rfl)
theorem dX0_heap_30 : decode cX0_heap 30 = .ok (.getfield 67, 3) := dk_180 0 67 (dk_at dksX0_heap_1 6 rfl rfl)
theorem dX0_heap_33 : decode cX0_heap 33 = .ok (.iload_n 2, 1) := dk_28 (dk_at dksX0_heap_1 9 rfl rfl)
theorem dX0_heap_34 : decode cX0_heap 34 = .ok (.iaload, 1) := dk_46 (dk_at dksX0_heap_1 10 rfl rfl)
theorem dX0_heap_35 : decode cX0_heap 35 = .ok (.ireturn, 1) := dk_172 (dk_at dksX0_heap_1 11 rfl rfl)
theorem dX0_heap_36 : decode cX0_heap 36 = .ok (.iconst 0, 1) := dk_3 (dk_at dksX0_heap_1 12 rfl rfl)
theorem dX0_heap_37 : decode cX0_heap 37 = .ok (.istore_n 3, 1) := dk_62 (dk_at dksX0_heap_1 13 rfl rfl)
theorem dX0_heap_38 : decode cX0_heap 38 = .ok (.iconst 0, 1) := dk_3 (dk_at dksX0_heap_1 14 rfl rfl)
theorem dX0_heap_39 : decode cX0_heap 39 = .ok (.istore 4, 2) := dk_54 4 (dk_at dksX0_heap_1 15 rfl rfl)
theorem dX0_heap_41 : decode cX0_heap 41 = .ok (.iload 4, 2) := dk_21 4 (dk_at dksX0_heap_1 17 rfl rfl)
theorem dX0_heap_43 : decode cX0_heap 43 = .ok (.aload_n 0, 1) := dk_42 (dk_at dksX0_heap_1 19 rfl rfl)
theorem dX0_heap_44 : decode cX0_heap 44 = .ok (.getfield 77, 3) := dk_180 0 77 (dk_at dksX0_heap_1 20 rfl rfl)
theorem dX0_heap_47 : decode cX0_heap 47 = .ok (.if_icmp .ge 24, 3) := dk_162 0 24 (dk_at dksX0_heap_2 0 rfl rfl)
theorem dX0_heap_50 : decode cX0_heap 50 = .ok (.aload_n 0, 1) := dk_42 (dk_at dksX0_heap_2 3 rfl rfl)
theorem dX0_heap_51 : decode cX0_heap 51 = .ok (.getfield 67, 3) := dk_180 0 67 (dk_at dksX0_heap_2 4 rfl rfl)
theorem dX0_heap_54 : decode cX0_heap 54 = .ok (.iload 4, 2) := dk_21 4 (dk_at dksX0_heap_2 7 rfl rfl)
theorem dX0_heap_56 : decode cX0_heap 56 = .ok (.iaload, 1) := dk_46 (dk_at dksX0_heap_2 9 rfl rfl)
theorem dX0_heap_57 : decode cX0_heap 57 = .ok (.iload 4, 2) := dk_21 4 (dk_at dksX0_heap_2 10 rfl rfl)
theorem dX0_heap_59 : decode cX0_heap 59 = .ok (.if_icmp .ne 6, 3) := dk_160 0 6 (dk_at dksX0_heap_2 12 rfl rfl)
theorem dX0_heap_62 : decode cX0_heap 62 = .ok (.iinc 3 1, 3) := dk_132 3 1 (dk_at dksX0_heap_2 15 rfl rfl)
theorem dX0_heap_65 : decode cX0_heap 65 = .ok (.iinc 4 1, 3) := dk_132 4 1 (dk_at dksX0_heap_2 18 rfl rfl)
theorem dX0_heap_68 : decode cX0_heap 68 = .ok (.goto (-27), 3) := dk_167 255 229 (dk_at dksX0_heap_2 21 rfl rfl)
theorem dX0_heap_71 : decode cX0_heap 71 = .ok (.iload_n 3, 1) := dk_29 (dk_at dksX0_heap_3 0 rfl rfl)
theorem dX0_heap_72 : decode cX0_heap 72 = .ok (.ireturn, 1) := dk_172 (dk_at dksX0_heap_3 1 rfl rfl)
abbrev cX0_groups : ByteArray := prog_1_method_48_code
def yX0_groups : MethodName := ⟨RX0, "groups", "(I)V"⟩
def dkwX0_groups_5 : List UInt8 := [167, 255, 172, 167, 255, 161, 177]
abbrev dktX0_groups_5 : List UInt8 := dkwX0_groups_5 ++ []
def dkwX0_groups_4 : List UInt8 := [180, 0, 67, 29, 42, 180, 0, 67, 21, 4, 46, 79, 4, 61, 132, 4, 1, 167, 255, 189, 132, 3, 1]
abbrev dktX0_groups_4 : List UInt8 := dkwX0_groups_4 ++ dktX0_groups_5
def dkwX0_groups_3 : List UInt8 := [180, 0, 25, 29, 50, 42, 180, 0, 25, 21, 4, 50, 27, 182, 1, 114, 154, 0, 6, 167, 0, 18, 42]
abbrev dktX0_groups_3 : List UInt8 := dkwX0_groups_3 ++ dktX0_groups_4
def dkwX0_groups_2 : List UInt8 := [180, 0, 77, 162, 0, 64, 42, 180, 0, 67, 21, 4, 46, 42, 180, 0, 67, 29, 46, 162, 0, 42, 42, 42]
abbrev dktX0_groups_2 : List UInt8 := dkwX0_groups_2 ++ dktX0_groups_3
def dkwX0_groups_1 : List UInt8 := [61, 28, 153, 0, 97, 3, 61, 3, 62, 29, 42, 180, 0, 77, 162, 0, 82, 3, 54, 4, 21, 4, 42]
abbrev dktX0_groups_1 : List UInt8 := dkwX0_groups_1 ++ dktX0_groups_2
def dkwX0_groups_0 : List UInt8 := [3, 61, 28, 42, 180, 0, 77, 162, 0, 16, 42, 180, 0, 67, 28, 28, 79, 132, 2, 1, 167, 255, 238, 4]
abbrev dktX0_groups_0 : List UInt8 := dkwX0_groups_0 ++ dktX0_groups_1
theorem dksX0_groups_0 : cX0_groups.data.toList.drop 0 = dktX0_groups_0 := by decide +kernel
theorem dksX0_groups_1 : cX0_groups.data.toList.drop 24 = dktX0_groups_1 := dk_seg dksX0_groups_0 24 rfl rfl
theorem dksX0_groups_2 : cX0_groups.data.toList.drop 47 = dktX0_groups_2 := dk_seg dksX0_groups_1 23 rfl rfl
theorem dksX0_groups_3 : cX0_groups.data.toList.drop 71 = dktX0_groups_3 := dk_seg dksX0_groups_2 24 rfl rfl
theorem dksX0_groups_4 : cX0_groups.data.toList.drop 94 = dktX0_groups_4 := dk_seg dksX0_groups_3 23 rfl rfl
theorem dksX0_groups_5 : cX0_groups.data.toList.drop 117 = dktX0_groups_5 := dk_seg dksX0_groups_4 23 rfl rfl
theorem dX0_groups_0 : decode cX0_groups 0 = .ok (.iconst 0, 1) := dk_3 (dk_at dksX0_groups_0 0 rfl rfl)
theorem dX0_groups_1 : decode cX0_groups 1 = .ok (.istore_n 2, 1) := dk_61 (dk_at dksX0_groups_0 1 rfl rfl)
theorem dX0_groups_2 : decode cX0_groups 2 = .ok (.iload_n 2, 1) := dk_28 (dk_at dksX0_groups_0 2 rfl rfl)
theorem dX0_groups_3 : decode cX0_groups 3 = .ok (.aload_n 0, 1) := dk_42 (dk_at dksX0_groups_0 3 rfl rfl)
theorem dX0_groups_4 : decode cX0_groups 4 = .ok (.getfield 77, 3) := dk_180 0 77 (dk_at dksX0_groups_0 4 rfl rfl)
theorem dX0_groups_7 : decode cX0_groups 7 = .ok (.if_icmp .ge 16, 3) := dk_162 0 16 (dk_at dksX0_groups_0 7 rfl rfl)
theorem dX0_groups_10 : decode cX0_groups 10 = .ok (.aload_n 0, 1) := dk_42 (dk_at dksX0_groups_0 10 rfl rfl)
theorem dX0_groups_11 : decode cX0_groups 11 = .ok (.getfield 67, 3) := dk_180 0 67 (dk_at dksX0_groups_0 11 rfl rfl)
theorem dX0_groups_14 : decode cX0_groups 14 = .ok (.iload_n 2, 1) := dk_28 (dk_at dksX0_groups_0 14 rfl rfl)
theorem dX0_groups_15 : decode cX0_groups 15 = .ok (.iload_n 2, 1) := dk_28 (dk_at dksX0_groups_0 15 rfl rfl)
theorem dX0_groups_16 : decode cX0_groups 16 = .ok (.iastore, 1) := dk_79 (dk_at dksX0_groups_0 16 rfl rfl)
theorem dX0_groups_17 : decode cX0_groups 17 = .ok (.iinc 2 1, 3) := dk_132 2 1 (dk_at dksX0_groups_0 17 rfl rfl)
theorem dX0_groups_20 : decode cX0_groups 20 = .ok (.goto (-18), 3) := dk_167 255 238 (dk_at dksX0_groups_0 20 rfl rfl)
theorem dX0_groups_23 : decode cX0_groups 23 = .ok (.iconst 1, 1) := dk_4 (dk_at dksX0_groups_0 23 rfl rfl)
theorem dX0_groups_24 : decode cX0_groups 24 = .ok (.istore_n 2, 1) := dk_61 (dk_at dksX0_groups_1 0 rfl rfl)
theorem dX0_groups_25 : decode cX0_groups 25 = .ok (.iload_n 2, 1) := dk_28 (dk_at dksX0_groups_1 1 rfl rfl)
theorem dX0_groups_26 : decode cX0_groups 26 = .ok (.ifCond .eq 97, 3) := dk_153 0 97 (dk_at dksX0_groups_1 2 rfl rfl)
theorem dX0_groups_29 : decode cX0_groups 29 = .ok (.iconst 0, 1) := dk_3 (dk_at dksX0_groups_1 5 rfl rfl)
theorem dX0_groups_30 : decode cX0_groups 30 = .ok (.istore_n 2, 1) := dk_61 (dk_at dksX0_groups_1 6 rfl rfl)
theorem dX0_groups_31 : decode cX0_groups 31 = .ok (.iconst 0, 1) := dk_3 (dk_at dksX0_groups_1 7 rfl rfl)
theorem dX0_groups_32 : decode cX0_groups 32 = .ok (.istore_n 3, 1) := dk_62 (dk_at dksX0_groups_1 8 rfl rfl)
theorem dX0_groups_33 : decode cX0_groups 33 = .ok (.iload_n 3, 1) := dk_29 (dk_at dksX0_groups_1 9 rfl rfl)
theorem dX0_groups_34 : decode cX0_groups 34 = .ok (.aload_n 0, 1) := dk_42 (dk_at dksX0_groups_1 10 rfl rfl)
theorem dX0_groups_35 : decode cX0_groups 35 = .ok (.getfield 77, 3) := dk_180 0 77 (dk_at dksX0_groups_1 11 rfl rfl)
theorem dX0_groups_38 : decode cX0_groups 38 = .ok (.if_icmp .ge 82, 3) := dk_162 0 82 (dk_at dksX0_groups_1 14 rfl rfl)
theorem dX0_groups_41 : decode cX0_groups 41 = .ok (.iconst 0, 1) := dk_3 (dk_at dksX0_groups_1 17 rfl rfl)
theorem dX0_groups_42 : decode cX0_groups 42 = .ok (.istore 4, 2) := dk_54 4 (dk_at dksX0_groups_1 18 rfl rfl)
theorem dX0_groups_44 : decode cX0_groups 44 = .ok (.iload 4, 2) := dk_21 4 (dk_at dksX0_groups_1 20 rfl rfl)
theorem dX0_groups_46 : decode cX0_groups 46 = .ok (.aload_n 0, 1) := dk_42 (dk_at dksX0_groups_1 22 rfl rfl)
theorem dX0_groups_47 : decode cX0_groups 47 = .ok (.getfield 77, 3) := dk_180 0 77 (dk_at dksX0_groups_2 0 rfl rfl)
theorem dX0_groups_50 : decode cX0_groups 50 = .ok (.if_icmp .ge 64, 3) := dk_162 0 64 (dk_at dksX0_groups_2 3 rfl rfl)
theorem dX0_groups_53 : decode cX0_groups 53 = .ok (.aload_n 0, 1) := dk_42 (dk_at dksX0_groups_2 6 rfl rfl)
theorem dX0_groups_54 : decode cX0_groups 54 = .ok (.getfield 67, 3) := dk_180 0 67 (dk_at dksX0_groups_2 7 rfl rfl)
theorem dX0_groups_57 : decode cX0_groups 57 = .ok (.iload 4, 2) := dk_21 4 (dk_at dksX0_groups_2 10 rfl rfl)
theorem dX0_groups_59 : decode cX0_groups 59 = .ok (.iaload, 1) := dk_46 (dk_at dksX0_groups_2 12 rfl rfl)
theorem dX0_groups_60 : decode cX0_groups 60 = .ok (.aload_n 0, 1) := dk_42 (dk_at dksX0_groups_2 13 rfl rfl)
theorem dX0_groups_61 : decode cX0_groups 61 = .ok (.getfield 67, 3) := dk_180 0 67 (dk_at dksX0_groups_2 14 rfl rfl)
theorem dX0_groups_64 : decode cX0_groups 64 = .ok (.iload_n 3, 1) := dk_29 (dk_at dksX0_groups_2 17 rfl rfl)
theorem dX0_groups_65 : decode cX0_groups 65 = .ok (.iaload, 1) := dk_46 (dk_at dksX0_groups_2 18 rfl rfl)
theorem dX0_groups_66 : decode cX0_groups 66 = .ok (.if_icmp .ge 42, 3) := dk_162 0 42 (dk_at dksX0_groups_2 19 rfl rfl)
theorem dX0_groups_69 : decode cX0_groups 69 = .ok (.aload_n 0, 1) := dk_42 (dk_at dksX0_groups_2 22 rfl rfl)
theorem dX0_groups_70 : decode cX0_groups 70 = .ok (.aload_n 0, 1) := dk_42 (dk_at dksX0_groups_2 23 rfl rfl)
theorem dX0_groups_71 : decode cX0_groups 71 = .ok (.getfield 25, 3) := dk_180 0 25 (dk_at dksX0_groups_3 0 rfl rfl)
theorem dX0_groups_74 : decode cX0_groups 74 = .ok (.iload_n 3, 1) := dk_29 (dk_at dksX0_groups_3 3 rfl rfl)
theorem dX0_groups_75 : decode cX0_groups 75 = .ok (.aaload, 1) := dk_50 (dk_at dksX0_groups_3 4 rfl rfl)
theorem dX0_groups_76 : decode cX0_groups 76 = .ok (.aload_n 0, 1) := dk_42 (dk_at dksX0_groups_3 5 rfl rfl)
theorem dX0_groups_77 : decode cX0_groups 77 = .ok (.getfield 25, 3) := dk_180 0 25 (dk_at dksX0_groups_3 6 rfl rfl)
theorem dX0_groups_80 : decode cX0_groups 80 = .ok (.iload 4, 2) := dk_21 4 (dk_at dksX0_groups_3 9 rfl rfl)
theorem dX0_groups_82 : decode cX0_groups 82 = .ok (.aaload, 1) := dk_50 (dk_at dksX0_groups_3 11 rfl rfl)
theorem dX0_groups_83 : decode cX0_groups 83 = .ok (.iload_n 1, 1) := dk_27 (dk_at dksX0_groups_3 12 rfl rfl)
theorem dX0_groups_84 : decode cX0_groups 84 = .ok (.invokevirtual 370, 3) := dk_182 1 114 (dk_at dksX0_groups_3 13 rfl rfl)
theorem dX0_groups_87 : decode cX0_groups 87 = .ok (.ifCond .ne 6, 3) := dk_154 0 6 (dk_at dksX0_groups_3 16 rfl rfl)
theorem dX0_groups_90 : decode cX0_groups 90 = .ok (.goto 18, 3) := dk_167 0 18 (dk_at dksX0_groups_3 19 rfl rfl)
theorem dX0_groups_93 : decode cX0_groups 93 = .ok (.aload_n 0, 1) := dk_42 (dk_at dksX0_groups_3 22 rfl rfl)
theorem dX0_groups_94 : decode cX0_groups 94 = .ok (.getfield 67, 3) := dk_180 0 67 (dk_at dksX0_groups_4 0 rfl rfl)
theorem dX0_groups_97 : decode cX0_groups 97 = .ok (.iload_n 3, 1) := dk_29 (dk_at dksX0_groups_4 3 rfl rfl)
theorem dX0_groups_98 : decode cX0_groups 98 = .ok (.aload_n 0, 1) := dk_42 (dk_at dksX0_groups_4 4 rfl rfl)
theorem dX0_groups_99 : decode cX0_groups 99 = .ok (.getfield 67, 3) := dk_180 0 67 (dk_at dksX0_groups_4 5 rfl rfl)
theorem dX0_groups_102 : decode cX0_groups 102 = .ok (.iload 4, 2) := dk_21 4 (dk_at dksX0_groups_4 8 rfl rfl)
theorem dX0_groups_104 : decode cX0_groups 104 = .ok (.iaload, 1) := dk_46 (dk_at dksX0_groups_4 10 rfl rfl)
theorem dX0_groups_105 : decode cX0_groups 105 = .ok (.iastore, 1) := dk_79 (dk_at dksX0_groups_4 11 rfl rfl)
theorem dX0_groups_106 : decode cX0_groups 106 = .ok (.iconst 1, 1) := dk_4 (dk_at dksX0_groups_4 12 rfl rfl)
theorem dX0_groups_107 : decode cX0_groups 107 = .ok (.istore_n 2, 1) := dk_61 (dk_at dksX0_groups_4 13 rfl rfl)
theorem dX0_groups_108 : decode cX0_groups 108 = .ok (.iinc 4 1, 3) := dk_132 4 1 (dk_at dksX0_groups_4 14 rfl rfl)
theorem dX0_groups_111 : decode cX0_groups 111 = .ok (.goto (-67), 3) := dk_167 255 189 (dk_at dksX0_groups_4 17 rfl rfl)
theorem dX0_groups_114 : decode cX0_groups 114 = .ok (.iinc 3 1, 3) := dk_132 3 1 (dk_at dksX0_groups_4 20 rfl rfl)
theorem dX0_groups_117 : decode cX0_groups 117 = .ok (.goto (-84), 3) := dk_167 255 172 (dk_at dksX0_groups_5 0 rfl rfl)
theorem dX0_groups_120 : decode cX0_groups 120 = .ok (.goto (-95), 3) := dk_167 255 161 (dk_at dksX0_groups_5 3 rfl rfl)
theorem dX0_groups_123 : decode cX0_groups 123 = .ok (.return_, 1) := dk_177 (dk_at dksX0_groups_5 6 rfl rfl)
abbrev cX0_hang : ByteArray := prog_1_method_47_code
def yX0_hang : MethodName := ⟨RX0, "hang", "(LLoanNames$Deal;LLoanNames$Deal;I)Z"⟩
def dkwX0_hang_2 : List UInt8 := [167, 0, 4, 3, 172]
abbrev dktX0_hang_2 : List UInt8 := dkwX0_hang_2 ++ []
def dkwX0_hang_1 : List UInt8 := [126, 16, 254, 126, 153, 0, 21, 42, 43, 182, 0, 148, 42, 44, 182, 0, 148, 126, 153, 0, 7, 4]
abbrev dktX0_hang_1 : List UInt8 := dkwX0_hang_1 ++ dktX0_hang_2
def dkwX0_hang_0 : List UInt8 := [43, 180, 0, 145, 44, 180, 0, 145, 100, 184, 1, 111, 29, 163, 0, 36, 43, 182, 0, 152, 44, 182, 0, 152]
abbrev dktX0_hang_0 : List UInt8 := dkwX0_hang_0 ++ dktX0_hang_1
theorem dksX0_hang_0 : cX0_hang.data.toList.drop 0 = dktX0_hang_0 := by decide +kernel
theorem dksX0_hang_1 : cX0_hang.data.toList.drop 24 = dktX0_hang_1 := dk_seg dksX0_hang_0 24 rfl rfl
theorem dksX0_hang_2 : cX0_hang.data.toList.drop 46 = dktX0_hang_2 := dk_seg dksX0_hang_1 22 rfl rfl
theorem dX0_hang_0 : decode cX0_hang 0 = .ok (.aload_n 1, 1) := dk_43 (dk_at dksX0_hang_0 0 rfl rfl)
theorem dX0_hang_1 : decode cX0_hang 1 = .ok (.getfield 145, 3) := dk_180 0 145 (dk_at dksX0_hang_0 1 rfl rfl)
theorem dX0_hang_4 : decode cX0_hang 4 = .ok (.aload_n 2, 1) := dk_44 (dk_at dksX0_hang_0 4 rfl rfl)
theorem dX0_hang_5 : decode cX0_hang 5 = .ok (.getfield 145, 3) := dk_180 0 145 (dk_at dksX0_hang_0 5 rfl rfl)
theorem dX0_hang_8 : decode cX0_hang 8 = .ok (.isub, 1) := dk_100 (dk_at dksX0_hang_0 8 rfl rfl)
theorem dX0_hang_9 : decode cX0_hang 9 = .ok (.invokestatic 367, 3) := dk_184 1 111 (dk_at dksX0_hang_0 9 rfl rfl)
theorem dX0_hang_12 : decode cX0_hang 12 = .ok (.iload_n 3, 1) := dk_29 (dk_at dksX0_hang_0 12 rfl rfl)
theorem dX0_hang_13 : decode cX0_hang 13 = .ok (.if_icmp .gt 36, 3) := dk_163 0 36 (dk_at dksX0_hang_0 13 rfl rfl)
theorem dX0_hang_16 : decode cX0_hang 16 = .ok (.aload_n 1, 1) := dk_43 (dk_at dksX0_hang_0 16 rfl rfl)
theorem dX0_hang_17 : decode cX0_hang 17 = .ok (.invokevirtual 152, 3) := dk_182 0 152 (dk_at dksX0_hang_0 17 rfl rfl)
theorem dX0_hang_20 : decode cX0_hang 20 = .ok (.aload_n 2, 1) := dk_44 (dk_at dksX0_hang_0 20 rfl rfl)
theorem dX0_hang_21 : decode cX0_hang 21 = .ok (.invokevirtual 152, 3) := dk_182 0 152 (dk_at dksX0_hang_0 21 rfl rfl)
theorem dX0_hang_24 : decode cX0_hang 24 = .ok (.iand, 1) := dk_126 (dk_at dksX0_hang_1 0 rfl rfl)
theorem dX0_hang_25 : decode cX0_hang 25 = .ok (.bipush (-2), 2) := dk_16 254 (dk_at dksX0_hang_1 1 rfl rfl)
theorem dX0_hang_27 : decode cX0_hang 27 = .ok (.iand, 1) := dk_126 (dk_at dksX0_hang_1 3 rfl rfl)
theorem dX0_hang_28 : decode cX0_hang 28 = .ok (.ifCond .eq 21, 3) := dk_153 0 21 (dk_at dksX0_hang_1 4 rfl rfl)
theorem dX0_hang_31 : decode cX0_hang 31 = .ok (.aload_n 0, 1) := dk_42 (dk_at dksX0_hang_1 7 rfl rfl)
theorem dX0_hang_32 : decode cX0_hang 32 = .ok (.aload_n 1, 1) := dk_43 (dk_at dksX0_hang_1 8 rfl rfl)
theorem dX0_hang_33 : decode cX0_hang 33 = .ok (.invokevirtual 148, 3) := dk_182 0 148 (dk_at dksX0_hang_1 9 rfl rfl)
theorem dX0_hang_36 : decode cX0_hang 36 = .ok (.aload_n 0, 1) := dk_42 (dk_at dksX0_hang_1 12 rfl rfl)
theorem dX0_hang_37 : decode cX0_hang 37 = .ok (.aload_n 2, 1) := dk_44 (dk_at dksX0_hang_1 13 rfl rfl)
theorem dX0_hang_38 : decode cX0_hang 38 = .ok (.invokevirtual 148, 3) := dk_182 0 148 (dk_at dksX0_hang_1 14 rfl rfl)
theorem dX0_hang_41 : decode cX0_hang 41 = .ok (.iand, 1) := dk_126 (dk_at dksX0_hang_1 17 rfl rfl)
theorem dX0_hang_42 : decode cX0_hang 42 = .ok (.ifCond .eq 7, 3) := dk_153 0 7 (dk_at dksX0_hang_1 18 rfl rfl)
theorem dX0_hang_45 : decode cX0_hang 45 = .ok (.iconst 1, 1) := dk_4 (dk_at dksX0_hang_1 21 rfl rfl)
theorem dX0_hang_46 : decode cX0_hang 46 = .ok (.goto 4, 3) := dk_167 0 4 (dk_at dksX0_hang_2 0 rfl rfl)
theorem dX0_hang_49 : decode cX0_hang 49 = .ok (.iconst 0, 1) := dk_3 (dk_at dksX0_hang_2 3 rfl rfl)
theorem dX0_hang_50 : decode cX0_hang 50 = .ok (.ireturn, 1) := dk_172 (dk_at dksX0_hang_2 4 rfl rfl)
abbrev cX0_group : ByteArray := prog_1_method_50_code
def yX0_group : MethodName := ⟨RX0, "group", "(II)I"⟩
def dkwX0_group_5 : List UInt8 := [132, 4, 1, 167, 255, 214, 42, 180, 0, 60, 182, 1, 47, 172]
abbrev dktX0_group_5 : List UInt8 := dkwX0_group_5 ++ []
def dkwX0_group_4 : List UInt8 := [180, 0, 67, 28, 46, 160, 0, 17, 42, 180, 0, 60, 42, 180, 0, 25, 21, 4, 50, 182, 0, 238]
abbrev dktX0_group_4 : List UInt8 := dkwX0_group_4 ++ dktX0_group_5
def dkwX0_group_3 : List UInt8 := [2, 172, 3, 54, 4, 21, 4, 42, 180, 0, 77, 162, 0, 39, 42, 180, 0, 67, 21, 4, 46, 42]
abbrev dktX0_group_3 : List UInt8 := dkwX0_group_3 ++ dktX0_group_4
def dkwX0_group_2 : List UInt8 := [42, 180, 0, 67, 28, 46, 160, 0, 6, 132, 3, 1, 132, 4, 1, 167, 255, 225, 29, 16, 6, 164, 0, 5]
abbrev dktX0_group_2 : List UInt8 := dkwX0_group_2 ++ dktX0_group_3
def dkwX0_group_1 : List UInt8 := [182, 0, 242, 3, 62, 3, 54, 4, 21, 4, 42, 180, 0, 77, 162, 0, 28, 42, 180, 0, 67, 21, 4, 46]
abbrev dktX0_group_1 : List UInt8 := dkwX0_group_1 ++ dktX0_group_2
def dkwX0_group_0 : List UInt8 := [27, 155, 0, 11, 42, 28, 182, 0, 139, 199, 0, 5, 2, 172, 42, 27, 182, 1, 118, 42, 180, 0, 60]
abbrev dktX0_group_0 : List UInt8 := dkwX0_group_0 ++ dktX0_group_1
theorem dksX0_group_0 : cX0_group.data.toList.drop 0 = dktX0_group_0 := by decide +kernel
theorem dksX0_group_1 : cX0_group.data.toList.drop 23 = dktX0_group_1 := dk_seg dksX0_group_0 23 rfl rfl
theorem dksX0_group_2 : cX0_group.data.toList.drop 47 = dktX0_group_2 := dk_seg dksX0_group_1 24 rfl rfl
theorem dksX0_group_3 : cX0_group.data.toList.drop 71 = dktX0_group_3 := dk_seg dksX0_group_2 24 rfl rfl
theorem dksX0_group_4 : cX0_group.data.toList.drop 93 = dktX0_group_4 := dk_seg dksX0_group_3 22 rfl rfl
theorem dksX0_group_5 : cX0_group.data.toList.drop 115 = dktX0_group_5 := dk_seg dksX0_group_4 22 rfl rfl
theorem dX0_group_0 : decode cX0_group 0 = .ok (.iload_n 1, 1) := dk_27 (dk_at dksX0_group_0 0 rfl rfl)
theorem dX0_group_1 : decode cX0_group 1 = .ok (.ifCond .lt 11, 3) := dk_155 0 11 (dk_at dksX0_group_0 1 rfl rfl)
theorem dX0_group_4 : decode cX0_group 4 = .ok (.aload_n 0, 1) := dk_42 (dk_at dksX0_group_0 4 rfl rfl)
theorem dX0_group_5 : decode cX0_group 5 = .ok (.iload_n 2, 1) := dk_28 (dk_at dksX0_group_0 5 rfl rfl)
theorem dX0_group_6 : decode cX0_group 6 = .ok (.invokevirtual 139, 3) := dk_182 0 139 (dk_at dksX0_group_0 6 rfl rfl)
theorem dX0_group_9 : decode cX0_group 9 = .ok (.ifnonnull 5, 3) := dk_199 0 5 (dk_at dksX0_group_0 9 rfl rfl)
theorem dX0_group_12 : decode cX0_group 12 = .ok (.iconst (-1), 1) := dk_2 (dk_at dksX0_group_0 12 rfl rfl)
theorem dX0_group_13 : decode cX0_group 13 = .ok (.ireturn, 1) := dk_172 (dk_at dksX0_group_0 13 rfl rfl)
theorem dX0_group_14 : decode cX0_group 14 = .ok (.aload_n 0, 1) := dk_42 (dk_at dksX0_group_0 14 rfl rfl)
theorem dX0_group_15 : decode cX0_group 15 = .ok (.iload_n 1, 1) := dk_27 (dk_at dksX0_group_0 15 rfl rfl)
theorem dX0_group_16 : decode cX0_group 16 = .ok (.invokevirtual 374, 3) := dk_182 1 118 (dk_at dksX0_group_0 16 rfl rfl)
theorem dX0_group_19 : decode cX0_group 19 = .ok (.aload_n 0, 1) := dk_42 (dk_at dksX0_group_0 19 rfl rfl)
theorem dX0_group_20 : decode cX0_group 20 = .ok (.getfield 60, 3) := dk_180 0 60 (dk_at dksX0_group_0 20 rfl rfl)
theorem dX0_group_23 : decode cX0_group 23 = .ok (.invokevirtual 242, 3) := dk_182 0 242 (dk_at dksX0_group_1 0 rfl rfl)
theorem dX0_group_26 : decode cX0_group 26 = .ok (.iconst 0, 1) := dk_3 (dk_at dksX0_group_1 3 rfl rfl)
theorem dX0_group_27 : decode cX0_group 27 = .ok (.istore_n 3, 1) := dk_62 (dk_at dksX0_group_1 4 rfl rfl)
theorem dX0_group_28 : decode cX0_group 28 = .ok (.iconst 0, 1) := dk_3 (dk_at dksX0_group_1 5 rfl rfl)
theorem dX0_group_29 : decode cX0_group 29 = .ok (.istore 4, 2) := dk_54 4 (dk_at dksX0_group_1 6 rfl rfl)
theorem dX0_group_31 : decode cX0_group 31 = .ok (.iload 4, 2) := dk_21 4 (dk_at dksX0_group_1 8 rfl rfl)
theorem dX0_group_33 : decode cX0_group 33 = .ok (.aload_n 0, 1) := dk_42 (dk_at dksX0_group_1 10 rfl rfl)
theorem dX0_group_34 : decode cX0_group 34 = .ok (.getfield 77, 3) := dk_180 0 77 (dk_at dksX0_group_1 11 rfl rfl)
theorem dX0_group_37 : decode cX0_group 37 = .ok (.if_icmp .ge 28, 3) := dk_162 0 28 (dk_at dksX0_group_1 14 rfl rfl)
theorem dX0_group_40 : decode cX0_group 40 = .ok (.aload_n 0, 1) := dk_42 (dk_at dksX0_group_1 17 rfl rfl)
theorem dX0_group_41 : decode cX0_group 41 = .ok (.getfield 67, 3) := dk_180 0 67 (dk_at dksX0_group_1 18 rfl rfl)
theorem dX0_group_44 : decode cX0_group 44 = .ok (.iload 4, 2) := dk_21 4 (dk_at dksX0_group_1 21 rfl rfl)
theorem dX0_group_46 : decode cX0_group 46 = .ok (.iaload, 1) := dk_46 (dk_at dksX0_group_1 23 rfl rfl)
theorem dX0_group_47 : decode cX0_group 47 = .ok (.aload_n 0, 1) := dk_42 (dk_at dksX0_group_2 0 rfl rfl)
theorem dX0_group_48 : decode cX0_group 48 = .ok (.getfield 67, 3) := dk_180 0 67 (dk_at dksX0_group_2 1 rfl rfl)
theorem dX0_group_51 : decode cX0_group 51 = .ok (.iload_n 2, 1) := dk_28 (dk_at dksX0_group_2 4 rfl rfl)
theorem dX0_group_52 : decode cX0_group 52 = .ok (.iaload, 1) := dk_46 (dk_at dksX0_group_2 5 rfl rfl)
theorem dX0_group_53 : decode cX0_group 53 = .ok (.if_icmp .ne 6, 3) := dk_160 0 6 (dk_at dksX0_group_2 6 rfl rfl)
theorem dX0_group_56 : decode cX0_group 56 = .ok (.iinc 3 1, 3) := dk_132 3 1 (dk_at dksX0_group_2 9 rfl rfl)
theorem dX0_group_59 : decode cX0_group 59 = .ok (.iinc 4 1, 3) := dk_132 4 1 (dk_at dksX0_group_2 12 rfl rfl)
theorem dX0_group_62 : decode cX0_group 62 = .ok (.goto (-31), 3) := dk_167 255 225 (dk_at dksX0_group_2 15 rfl rfl)
theorem dX0_group_65 : decode cX0_group 65 = .ok (.iload_n 3, 1) := dk_29 (dk_at dksX0_group_2 18 rfl rfl)
theorem dX0_group_66 : decode cX0_group 66 = .ok (.bipush 6, 2) := dk_16 6 (dk_at dksX0_group_2 19 rfl rfl)
theorem dX0_group_68 : decode cX0_group 68 = .ok (.if_icmp .le 5, 3) := dk_164 0 5 (dk_at dksX0_group_2 21 rfl rfl)
theorem dX0_group_71 : decode cX0_group 71 = .ok (.iconst (-1), 1) := dk_2 (dk_at dksX0_group_3 0 rfl rfl)
theorem dX0_group_72 : decode cX0_group 72 = .ok (.ireturn, 1) := dk_172 (dk_at dksX0_group_3 1 rfl rfl)
theorem dX0_group_73 : decode cX0_group 73 = .ok (.iconst 0, 1) := dk_3 (dk_at dksX0_group_3 2 rfl rfl)
theorem dX0_group_74 : decode cX0_group 74 = .ok (.istore 4, 2) := dk_54 4 (dk_at dksX0_group_3 3 rfl rfl)
theorem dX0_group_76 : decode cX0_group 76 = .ok (.iload 4, 2) := dk_21 4 (dk_at dksX0_group_3 5 rfl rfl)
theorem dX0_group_78 : decode cX0_group 78 = .ok (.aload_n 0, 1) := dk_42 (dk_at dksX0_group_3 7 rfl rfl)
theorem dX0_group_79 : decode cX0_group 79 = .ok (.getfield 77, 3) := dk_180 0 77 (dk_at dksX0_group_3 8 rfl rfl)
theorem dX0_group_82 : decode cX0_group 82 = .ok (.if_icmp .ge 39, 3) := dk_162 0 39 (dk_at dksX0_group_3 11 rfl rfl)
theorem dX0_group_85 : decode cX0_group 85 = .ok (.aload_n 0, 1) := dk_42 (dk_at dksX0_group_3 14 rfl rfl)
theorem dX0_group_86 : decode cX0_group 86 = .ok (.getfield 67, 3) := dk_180 0 67 (dk_at dksX0_group_3 15 rfl rfl)
theorem dX0_group_89 : decode cX0_group 89 = .ok (.iload 4, 2) := dk_21 4 (dk_at dksX0_group_3 18 rfl rfl)
theorem dX0_group_91 : decode cX0_group 91 = .ok (.iaload, 1) := dk_46 (dk_at dksX0_group_3 20 rfl rfl)
theorem dX0_group_92 : decode cX0_group 92 = .ok (.aload_n 0, 1) := dk_42 (dk_at dksX0_group_3 21 rfl rfl)
theorem dX0_group_93 : decode cX0_group 93 = .ok (.getfield 67, 3) := dk_180 0 67 (dk_at dksX0_group_4 0 rfl rfl)
theorem dX0_group_96 : decode cX0_group 96 = .ok (.iload_n 2, 1) := dk_28 (dk_at dksX0_group_4 3 rfl rfl)
theorem dX0_group_97 : decode cX0_group 97 = .ok (.iaload, 1) := dk_46 (dk_at dksX0_group_4 4 rfl rfl)
theorem dX0_group_98 : decode cX0_group 98 = .ok (.if_icmp .ne 17, 3) := dk_160 0 17 (dk_at dksX0_group_4 5 rfl rfl)
theorem dX0_group_101 : decode cX0_group 101 = .ok (.aload_n 0, 1) := dk_42 (dk_at dksX0_group_4 8 rfl rfl)
theorem dX0_group_102 : decode cX0_group 102 = .ok (.getfield 60, 3) := dk_180 0 60 (dk_at dksX0_group_4 9 rfl rfl)
theorem dX0_group_105 : decode cX0_group 105 = .ok (.aload_n 0, 1) := dk_42 (dk_at dksX0_group_4 12 rfl rfl)
theorem dX0_group_106 : decode cX0_group 106 = .ok (.getfield 25, 3) := dk_180 0 25 (dk_at dksX0_group_4 13 rfl rfl)
theorem dX0_group_109 : decode cX0_group 109 = .ok (.iload 4, 2) := dk_21 4 (dk_at dksX0_group_4 16 rfl rfl)
theorem dX0_group_111 : decode cX0_group 111 = .ok (.aaload, 1) := dk_50 (dk_at dksX0_group_4 18 rfl rfl)
theorem dX0_group_112 : decode cX0_group 112 = .ok (.invokevirtual 238, 3) := dk_182 0 238 (dk_at dksX0_group_4 19 rfl rfl)
theorem dX0_group_115 : decode cX0_group 115 = .ok (.iinc 4 1, 3) := dk_132 4 1 (dk_at dksX0_group_5 0 rfl rfl)
theorem dX0_group_118 : decode cX0_group 118 = .ok (.goto (-42), 3) := dk_167 255 214 (dk_at dksX0_group_5 3 rfl rfl)
theorem dX0_group_121 : decode cX0_group 121 = .ok (.aload_n 0, 1) := dk_42 (dk_at dksX0_group_5 6 rfl rfl)
theorem dX0_group_122 : decode cX0_group 122 = .ok (.getfield 60, 3) := dk_180 0 60 (dk_at dksX0_group_5 7 rfl rfl)
theorem dX0_group_125 : decode cX0_group 125 = .ok (.invokevirtual 303, 3) := dk_182 1 47 (dk_at dksX0_group_5 10 rfl rfl)
theorem dX0_group_128 : decode cX0_group 128 = .ok (.ireturn, 1) := dk_172 (dk_at dksX0_group_5 13 rfl rfl)
abbrev cX0_count : ByteArray := prog_1_method_51_code
def yX0_count : MethodName := ⟨RX0, "count", "(I)I"⟩
def dkwX0_count_4 : List UInt8 := [180, 0, 122, 172, 42, 180, 0, 56, 180, 1, 20, 172, 42, 180, 0, 74, 172, 2, 172]
abbrev dktX0_count_4 : List UInt8 := dkwX0_count_4 ++ []
def dkwX0_count_3 : List UInt8 := [180, 0, 56, 180, 0, 233, 172, 42, 180, 1, 75, 172, 42, 180, 1, 89, 172, 42, 180, 0, 56, 180, 1, 121]
abbrev dktX0_count_3 : List UInt8 := dkwX0_count_3 ++ dktX0_count_4
def dkwX0_count_2 : List UInt8 := [42, 180, 0, 77, 172, 42, 180, 0, 109, 172, 42, 180, 0, 49, 180, 1, 50, 172, 42, 180, 0, 115, 172, 42]
abbrev dktX0_count_2 : List UInt8 := dkwX0_count_2 ++ dktX0_count_3
def dkwX0_count_1 : List UInt8 := [170, 0, 0, 0, 0, 0, 120, 0, 0, 0, 0, 0, 0, 0, 9, 0, 0, 0, 55, 0, 0, 0, 60, 0, 0, 0, 65, 0, 0, 0, 73, 0, 0, 0, 78, 0, 0, 0, 86, 0, 0, 0, 91, 0, 0, 0, 96, 0, 0, 0, 107, 0, 0, 0, 115]
abbrev dktX0_count_1 : List UInt8 := dkwX0_count_1 ++ dktX0_count_2
def dkwX0_count_0 : List UInt8 := [27]
abbrev dktX0_count_0 : List UInt8 := dkwX0_count_0 ++ dktX0_count_1
theorem dksX0_count_0 : cX0_count.data.toList.drop 0 = dktX0_count_0 := by decide +kernel
theorem dksX0_count_1 : cX0_count.data.toList.drop 1 = dktX0_count_1 := dk_seg dksX0_count_0 1 rfl rfl
theorem dksX0_count_2 : cX0_count.data.toList.drop 56 = dktX0_count_2 := dk_seg dksX0_count_1 55 rfl rfl
theorem dksX0_count_3 : cX0_count.data.toList.drop 80 = dktX0_count_3 := dk_seg dksX0_count_2 24 rfl rfl
theorem dksX0_count_4 : cX0_count.data.toList.drop 104 = dktX0_count_4 := dk_seg dksX0_count_3 24 rfl rfl
theorem dX0_count_0 : decode cX0_count 0 = .ok (.iload_n 1, 1) := dk_27 (dk_at dksX0_count_0 0 rfl rfl)
theorem dX0_count_1 : decode cX0_count 1 = .ok (.tableswitch 120 0 9 #[55, 60, 65, 73, 78, 86, 91, 96, 107, 115], 55) := by decide +kernel
theorem dX0_count_56 : decode cX0_count 56 = .ok (.aload_n 0, 1) := dk_42 (dk_at dksX0_count_2 0 rfl rfl)
theorem dX0_count_57 : decode cX0_count 57 = .ok (.getfield 77, 3) := dk_180 0 77 (dk_at dksX0_count_2 1 rfl rfl)
theorem dX0_count_60 : decode cX0_count 60 = .ok (.ireturn, 1) := dk_172 (dk_at dksX0_count_2 4 rfl rfl)
theorem dX0_count_61 : decode cX0_count 61 = .ok (.aload_n 0, 1) := dk_42 (dk_at dksX0_count_2 5 rfl rfl)
theorem dX0_count_62 : decode cX0_count 62 = .ok (.getfield 109, 3) := dk_180 0 109 (dk_at dksX0_count_2 6 rfl rfl)
theorem dX0_count_65 : decode cX0_count 65 = .ok (.ireturn, 1) := dk_172 (dk_at dksX0_count_2 9 rfl rfl)
theorem dX0_count_66 : decode cX0_count 66 = .ok (.aload_n 0, 1) := dk_42 (dk_at dksX0_count_2 10 rfl rfl)
theorem dX0_count_67 : decode cX0_count 67 = .ok (.getfield 49, 3) := dk_180 0 49 (dk_at dksX0_count_2 11 rfl rfl)
theorem dX0_count_70 : decode cX0_count 70 = .ok (.getfield 306, 3) := dk_180 1 50 (dk_at dksX0_count_2 14 rfl rfl)
theorem dX0_count_73 : decode cX0_count 73 = .ok (.ireturn, 1) := dk_172 (dk_at dksX0_count_2 17 rfl rfl)
theorem dX0_count_74 : decode cX0_count 74 = .ok (.aload_n 0, 1) := dk_42 (dk_at dksX0_count_2 18 rfl rfl)
theorem dX0_count_75 : decode cX0_count 75 = .ok (.getfield 115, 3) := dk_180 0 115 (dk_at dksX0_count_2 19 rfl rfl)
theorem dX0_count_78 : decode cX0_count 78 = .ok (.ireturn, 1) := dk_172 (dk_at dksX0_count_2 22 rfl rfl)
theorem dX0_count_79 : decode cX0_count 79 = .ok (.aload_n 0, 1) := dk_42 (dk_at dksX0_count_2 23 rfl rfl)
theorem dX0_count_80 : decode cX0_count 80 = .ok (.getfield 56, 3) := dk_180 0 56 (dk_at dksX0_count_3 0 rfl rfl)
theorem dX0_count_83 : decode cX0_count 83 = .ok (.getfield 233, 3) := dk_180 0 233 (dk_at dksX0_count_3 3 rfl rfl)
theorem dX0_count_86 : decode cX0_count 86 = .ok (.ireturn, 1) := dk_172 (dk_at dksX0_count_3 6 rfl rfl)
theorem dX0_count_87 : decode cX0_count 87 = .ok (.aload_n 0, 1) := dk_42 (dk_at dksX0_count_3 7 rfl rfl)
theorem dX0_count_88 : decode cX0_count 88 = .ok (.getfield 331, 3) := dk_180 1 75 (dk_at dksX0_count_3 8 rfl rfl)
theorem dX0_count_91 : decode cX0_count 91 = .ok (.ireturn, 1) := dk_172 (dk_at dksX0_count_3 11 rfl rfl)
theorem dX0_count_92 : decode cX0_count 92 = .ok (.aload_n 0, 1) := dk_42 (dk_at dksX0_count_3 12 rfl rfl)
theorem dX0_count_93 : decode cX0_count 93 = .ok (.getfield 345, 3) := dk_180 1 89 (dk_at dksX0_count_3 13 rfl rfl)
theorem dX0_count_96 : decode cX0_count 96 = .ok (.ireturn, 1) := dk_172 (dk_at dksX0_count_3 16 rfl rfl)
theorem dX0_count_97 : decode cX0_count 97 = .ok (.aload_n 0, 1) := dk_42 (dk_at dksX0_count_3 17 rfl rfl)
theorem dX0_count_98 : decode cX0_count 98 = .ok (.getfield 56, 3) := dk_180 0 56 (dk_at dksX0_count_3 18 rfl rfl)
theorem dX0_count_101 : decode cX0_count 101 = .ok (.getfield 377, 3) := dk_180 1 121 (dk_at dksX0_count_3 21 rfl rfl)
theorem dX0_count_104 : decode cX0_count 104 = .ok (.getfield 122, 3) := dk_180 0 122 (dk_at dksX0_count_4 0 rfl rfl)
theorem dX0_count_107 : decode cX0_count 107 = .ok (.ireturn, 1) := dk_172 (dk_at dksX0_count_4 3 rfl rfl)
theorem dX0_count_108 : decode cX0_count 108 = .ok (.aload_n 0, 1) := dk_42 (dk_at dksX0_count_4 4 rfl rfl)
theorem dX0_count_109 : decode cX0_count 109 = .ok (.getfield 56, 3) := dk_180 0 56 (dk_at dksX0_count_4 5 rfl rfl)
theorem dX0_count_112 : decode cX0_count 112 = .ok (.getfield 276, 3) := dk_180 1 20 (dk_at dksX0_count_4 8 rfl rfl)
theorem dX0_count_115 : decode cX0_count 115 = .ok (.ireturn, 1) := dk_172 (dk_at dksX0_count_4 11 rfl rfl)
theorem dX0_count_116 : decode cX0_count 116 = .ok (.aload_n 0, 1) := dk_42 (dk_at dksX0_count_4 12 rfl rfl)
theorem dX0_count_117 : decode cX0_count 117 = .ok (.getfield 74, 3) := dk_180 0 74 (dk_at dksX0_count_4 13 rfl rfl)
theorem dX0_count_120 : decode cX0_count 120 = .ok (.ireturn, 1) := dk_172 (dk_at dksX0_count_4 16 rfl rfl)
theorem dX0_count_121 : decode cX0_count 121 = .ok (.iconst (-1), 1) := dk_2 (dk_at dksX0_count_4 17 rfl rfl)
theorem dX0_count_122 : decode cX0_count 122 = .ok (.ireturn, 1) := dk_172 (dk_at dksX0_count_4 18 rfl rfl)
theorem q91 : (Jvm.Cond.initialized "LoanNames") ∈ lw_all := lw_g (lw_at lw_m1 1 rfl) rfl
theorem q118 : (Jvm.Cond.instantiable "LoanNames" (17 : Nat)) ∈ lw_all := lw_g (lw_at lw_m1 28 rfl) rfl
theorem q120 : (Jvm.Cond.instanceMethod ({ cls := "LoanNames", name := "<init>", desc := "()V" } : Jvm.MethodName)) ∈ lw_all := lw_g (lw_at lw_m1 30 rfl) rfl
theorem q121 : (Jvm.Cond.code ({ cls := "LoanNames", name := "<init>", desc := "()V" } : Jvm.MethodName) prog_1_method_5_code (1 : Nat) (Option.none : Option Jvm.ClassFile.FieldType)) ∈ lw_all := lw_g (lw_at lw_m1 31 rfl) rfl
theorem q122 : (Jvm.Cond.methodLink "LoanNames" (13 : Nat) ({ cls := "java/lang/Object", name := "<init>", desc := "()V" } : Jvm.MethodName)) ∈ lw_all := lw_g (lw_at lw_m1 32 rfl) rfl
theorem q125 : (Jvm.Cond.classLink "LoanNames" (23 : Nat) "LoanNames$Deal") ∈ lw_all := lw_g (lw_at lw_m1 35 rfl) rfl
theorem q127 : (Jvm.Cond.classLink "LoanNames" (29 : Nat) "LoanNames$Law") ∈ lw_all := lw_g (lw_at lw_m1 37 rfl) rfl
theorem q129 : (Jvm.Cond.classLink "LoanNames" (35 : Nat) "LoanNames$Bundle") ∈ lw_all := lw_g (lw_at lw_m1 39 rfl) rfl
theorem q132 : (Jvm.Cond.methodLinkNest "LoanNames" (48 : Nat) ({ cls := "LoanNames$Law", name := "<init>", desc := "()V" } : Jvm.MethodName) "LoanNames") ∈ lw_tbl := lw_at lw_m1 42 rfl
theorem q141 : (Jvm.Cond.fieldLink "LoanNames" (307 : Nat) "LoanNames$Law" "rules" "[LLoanNames$Rule;") ∈ lw_all := lw_g (lw_at lw_m1 51 rfl) rfl
theorem q144 : (Jvm.Cond.fieldLink "LoanNames" (306 : Nat) "LoanNames$Law" "many" "I") ∈ lw_all := lw_g (lw_at lw_m1 54 rfl) rfl
theorem q153 : (Jvm.Cond.methodLinkNest "LoanNames" (53 : Nat) ({ cls := "LoanNames$Bundle", name := "<init>", desc := "(LLoanNames;)V" } : Jvm.MethodName) "LoanNames") ∈ lw_tbl := lw_at lw_m1 63 rfl
theorem q170 : (Jvm.Cond.fieldLink "LoanNames" (127 : Nat) "LoanNames$LeafRow" "leaves" "[LLoanNames$Leaf;") ∈ lw_all := lw_g (lw_at lw_m1 80 rfl) rfl
theorem q173 : (Jvm.Cond.fieldLink "LoanNames" (174 : Nat) "LoanNames$LeafRow" "shifts" "[I") ∈ lw_all := lw_g (lw_at lw_m1 83 rfl) rfl
theorem q177 : (Jvm.Cond.fieldLink "LoanNames" (122 : Nat) "LoanNames$LeafRow" "many" "I") ∈ lw_all := lw_g (lw_at lw_m1 87 rfl) rfl
theorem q193 : (Jvm.Cond.fieldLink "LoanNames" (207 : Nat) "LoanNames$Sink" "day" "[I") ∈ lw_all := lw_g (lw_at lw_m1 103 rfl) rfl
theorem q196 : (Jvm.Cond.fieldLink "LoanNames" (210 : Nat) "LoanNames$Sink" "from" "[I") ∈ lw_all := lw_g (lw_at lw_m1 106 rfl) rfl
theorem q199 : (Jvm.Cond.fieldLink "LoanNames" (213 : Nat) "LoanNames$Sink" "to" "[I") ∈ lw_all := lw_g (lw_at lw_m1 109 rfl) rfl
theorem q202 : (Jvm.Cond.fieldLink "LoanNames" (216 : Nat) "LoanNames$Sink" "thing" "[I") ∈ lw_all := lw_g (lw_at lw_m1 112 rfl) rfl
theorem q205 : (Jvm.Cond.fieldLink "LoanNames" (204 : Nat) "LoanNames$Sink" "much" "[J") ∈ lw_all := lw_g (lw_at lw_m1 115 rfl) rfl
theorem q208 : (Jvm.Cond.fieldLink "LoanNames" (197 : Nat) "LoanNames$Sink" "many" "I") ∈ lw_all := lw_g (lw_at lw_m1 118 rfl) rfl
theorem q224 : (Jvm.Cond.fieldLink "LoanNames" (352 : Nat) "LoanNames$Bundle" "deals" "[LLoanNames$Deal;") ∈ lw_all := lw_g (lw_at lw_m1 134 rfl) rfl
theorem q226 : (Jvm.Cond.fieldLink "LoanNames" (377 : Nat) "LoanNames$Bundle" "row" "LLoanNames$LeafRow;") ∈ lw_all := lw_g (lw_at lw_m1 136 rfl) rfl
theorem q231 : (Jvm.Cond.fieldLinkNest "LoanNames" (356 : Nat) "LoanNames$Bundle" "totals" "[J" "LoanNames") ∈ lw_tbl := lw_at lw_m1 141 rfl
theorem q234 : (Jvm.Cond.fieldLink "LoanNames" (233 : Nat) "LoanNames$Bundle" "many" "I") ∈ lw_all := lw_g (lw_at lw_m1 144 rfl) rfl
theorem q236 : (Jvm.Cond.fieldLink "LoanNames" (276 : Nat) "LoanNames$Bundle" "choices" "I") ∈ lw_all := lw_g (lw_at lw_m1 146 rfl) rfl
theorem q266 : (Jvm.Cond.fieldLink "LoanNames" (19 : Nat) "LoanNames" "families" "[I") ∈ lw_all := lw_g (lw_at lw_m1 176 rfl) rfl
theorem q268 : (Jvm.Cond.fieldLink "LoanNames" (25 : Nat) "LoanNames" "deals" "[LLoanNames$Deal;") ∈ lw_all := lw_g (lw_at lw_m1 178 rfl) rfl
theorem q269 : (Jvm.Cond.fieldLink "LoanNames" (31 : Nat) "LoanNames" "words" "[LLoanNames$Law;") ∈ lw_all := lw_g (lw_at lw_m1 179 rfl) rfl
theorem q270 : (Jvm.Cond.fieldLink "LoanNames" (37 : Nat) "LoanNames" "honests" "[LLoanNames$Bundle;") ∈ lw_all := lw_g (lw_at lw_m1 180 rfl) rfl
theorem q271 : (Jvm.Cond.fieldLink "LoanNames" (41 : Nat) "LoanNames" "offered" "[LLoanNames$Deal;") ∈ lw_all := lw_g (lw_at lw_m1 181 rfl) rfl
theorem q272 : (Jvm.Cond.fieldLink "LoanNames" (44 : Nat) "LoanNames" "tape" "[B") ∈ lw_all := lw_g (lw_at lw_m1 182 rfl) rfl
theorem q273 : (Jvm.Cond.fieldLink "LoanNames" (49 : Nat) "LoanNames" "law" "LLoanNames$Law;") ∈ lw_all := lw_g (lw_at lw_m1 183 rfl) rfl
theorem q274 : (Jvm.Cond.fieldLink "LoanNames" (56 : Nat) "LoanNames" "bundle" "LLoanNames$Bundle;") ∈ lw_all := lw_g (lw_at lw_m1 184 rfl) rfl
theorem q275 : (Jvm.Cond.fieldLink "LoanNames" (60 : Nat) "LoanNames" "other" "LLoanNames$Bundle;") ∈ lw_all := lw_g (lw_at lw_m1 185 rfl) rfl
theorem q276 : (Jvm.Cond.fieldLink "LoanNames" (74 : Nat) "LoanNames" "taped" "I") ∈ lw_all := lw_g (lw_at lw_m1 186 rfl) rfl
theorem q277 : (Jvm.Cond.fieldLink "LoanNames" (77 : Nat) "LoanNames" "dealMany" "I") ∈ lw_all := lw_g (lw_at lw_m1 187 rfl) rfl
theorem q278 : (Jvm.Cond.fieldLink "LoanNames" (109 : Nat) "LoanNames" "laws" "I") ∈ lw_all := lw_g (lw_at lw_m1 188 rfl) rfl
theorem q279 : (Jvm.Cond.fieldLink "LoanNames" (115 : Nat) "LoanNames" "wordMany" "I") ∈ lw_all := lw_g (lw_at lw_m1 189 rfl) rfl
theorem q280 : (Jvm.Cond.fieldLink "LoanNames" (345 : Nat) "LoanNames" "honestMany" "I") ∈ lw_all := lw_g (lw_at lw_m1 190 rfl) rfl
theorem q281 : (Jvm.Cond.fieldLink "LoanNames" (331 : Nat) "LoanNames" "offeredMany" "I") ∈ lw_all := lw_g (lw_at lw_m1 191 rfl) rfl
theorem q282 : (Jvm.Cond.fieldLink "LoanNames" (63 : Nat) "LoanNames" "fault" "I") ∈ lw_all := lw_g (lw_at lw_m1 192 rfl) rfl
theorem q283 : (Jvm.Cond.fieldLink "LoanNames" (67 : Nat) "LoanNames" "groupOf" "[I") ∈ lw_all := lw_g (lw_at lw_m1 193 rfl) rfl
theorem q284 : (Jvm.Cond.laysFinal "LoanNames" "LoanNames" "families" "[I") ∈ lw_all := lw_g (lw_at lw_m1 194 rfl) rfl
theorem q285 : (Jvm.Cond.soleField "LoanNames" "families") ∈ lw_all := lw_g (lw_at lw_m1 195 rfl) rfl
theorem q286 : (Jvm.Cond.laysFinal "LoanNames" "LoanNames" "deals" "[LLoanNames$Deal;") ∈ lw_all := lw_g (lw_at lw_m1 196 rfl) rfl
theorem q287 : (Jvm.Cond.soleField "LoanNames" "deals") ∈ lw_all := lw_g (lw_at lw_m1 197 rfl) rfl
theorem q288 : (Jvm.Cond.laysFinal "LoanNames" "LoanNames" "words" "[LLoanNames$Law;") ∈ lw_all := lw_g (lw_at lw_m1 198 rfl) rfl
theorem q289 : (Jvm.Cond.soleField "LoanNames" "words") ∈ lw_all := lw_g (lw_at lw_m1 199 rfl) rfl
theorem q290 : (Jvm.Cond.laysFinal "LoanNames" "LoanNames" "honests" "[LLoanNames$Bundle;") ∈ lw_all := lw_g (lw_at lw_m1 200 rfl) rfl
theorem q291 : (Jvm.Cond.soleField "LoanNames" "honests") ∈ lw_all := lw_g (lw_at lw_m1 201 rfl) rfl
theorem q292 : (Jvm.Cond.laysFinal "LoanNames" "LoanNames" "offered" "[LLoanNames$Deal;") ∈ lw_all := lw_g (lw_at lw_m1 202 rfl) rfl
theorem q293 : (Jvm.Cond.soleField "LoanNames" "offered") ∈ lw_all := lw_g (lw_at lw_m1 203 rfl) rfl
theorem q294 : (Jvm.Cond.laysFinal "LoanNames" "LoanNames" "tape" "[B") ∈ lw_all := lw_g (lw_at lw_m1 204 rfl) rfl
theorem q295 : (Jvm.Cond.soleField "LoanNames" "tape") ∈ lw_all := lw_g (lw_at lw_m1 205 rfl) rfl
theorem q296 : (Jvm.Cond.lays "LoanNames" "LoanNames" "law" "LLoanNames$Law;") ∈ lw_all := lw_g (lw_at lw_m1 206 rfl) rfl
theorem q297 : (Jvm.Cond.soleField "LoanNames" "law") ∈ lw_all := lw_g (lw_at lw_m1 207 rfl) rfl
theorem q298 : (Jvm.Cond.laysFinal "LoanNames" "LoanNames" "bundle" "LLoanNames$Bundle;") ∈ lw_all := lw_g (lw_at lw_m1 208 rfl) rfl
theorem q299 : (Jvm.Cond.soleField "LoanNames" "bundle") ∈ lw_all := lw_g (lw_at lw_m1 209 rfl) rfl
theorem q300 : (Jvm.Cond.laysFinal "LoanNames" "LoanNames" "other" "LLoanNames$Bundle;") ∈ lw_all := lw_g (lw_at lw_m1 210 rfl) rfl
theorem q301 : (Jvm.Cond.soleField "LoanNames" "other") ∈ lw_all := lw_g (lw_at lw_m1 211 rfl) rfl
theorem q302 : (Jvm.Cond.lays "LoanNames" "LoanNames" "taped" "I") ∈ lw_all := lw_g (lw_at lw_m1 212 rfl) rfl
theorem q303 : (Jvm.Cond.soleField "LoanNames" "taped") ∈ lw_all := lw_g (lw_at lw_m1 213 rfl) rfl
theorem q304 : (Jvm.Cond.lays "LoanNames" "LoanNames" "dealMany" "I") ∈ lw_all := lw_g (lw_at lw_m1 214 rfl) rfl
theorem q305 : (Jvm.Cond.soleField "LoanNames" "dealMany") ∈ lw_all := lw_g (lw_at lw_m1 215 rfl) rfl
theorem q306 : (Jvm.Cond.lays "LoanNames" "LoanNames" "laws" "I") ∈ lw_all := lw_g (lw_at lw_m1 216 rfl) rfl
theorem q307 : (Jvm.Cond.soleField "LoanNames" "laws") ∈ lw_all := lw_g (lw_at lw_m1 217 rfl) rfl
theorem q308 : (Jvm.Cond.lays "LoanNames" "LoanNames" "wordMany" "I") ∈ lw_all := lw_g (lw_at lw_m1 218 rfl) rfl
theorem q309 : (Jvm.Cond.soleField "LoanNames" "wordMany") ∈ lw_all := lw_g (lw_at lw_m1 219 rfl) rfl
theorem q310 : (Jvm.Cond.lays "LoanNames" "LoanNames" "honestMany" "I") ∈ lw_all := lw_g (lw_at lw_m1 220 rfl) rfl
theorem q311 : (Jvm.Cond.soleField "LoanNames" "honestMany") ∈ lw_all := lw_g (lw_at lw_m1 221 rfl) rfl
theorem q312 : (Jvm.Cond.lays "LoanNames" "LoanNames" "offeredMany" "I") ∈ lw_all := lw_g (lw_at lw_m1 222 rfl) rfl
theorem q313 : (Jvm.Cond.soleField "LoanNames" "offeredMany") ∈ lw_all := lw_g (lw_at lw_m1 223 rfl) rfl
theorem q314 : (Jvm.Cond.lays "LoanNames" "LoanNames" "fault" "I") ∈ lw_all := lw_g (lw_at lw_m1 224 rfl) rfl
theorem q315 : (Jvm.Cond.soleField "LoanNames" "fault") ∈ lw_all := lw_g (lw_at lw_m1 225 rfl) rfl
theorem q316 : (Jvm.Cond.laysFinal "LoanNames" "LoanNames" "groupOf" "[I") ∈ lw_all := lw_g (lw_at lw_m1 226 rfl) rfl
theorem q317 : (Jvm.Cond.soleField "LoanNames" "groupOf") ∈ lw_all := lw_g (lw_at lw_m1 227 rfl) rfl
theorem q318 : (Jvm.Cond.superclass "LoanNames" "java/lang/Object") ∈ lw_all := lw_g (lw_at lw_m1 228 rfl) rfl
theorem q320 : (Jvm.Cond.instanceMethod ({ cls := "LoanNames", name := "family", desc := "(II)Z" } : Jvm.MethodName)) ∈ lw_all := lw_g (lw_at lw_m1 230 rfl) rfl
theorem q321 : (Jvm.Cond.selects "LoanNames" ({ cls := "LoanNames", name := "family", desc := "(II)Z" } : Jvm.MethodName) ({ cls := "LoanNames", name := "family", desc := "(II)Z" } : Jvm.MethodName)) ∈ lw_all := lw_g (lw_at lw_m1 231 rfl) rfl
theorem q322 : (Jvm.Cond.code ({ cls := "LoanNames", name := "family", desc := "(II)Z" } : Jvm.MethodName) prog_1_method_6_code (3 : Nat) (Option.some Jvm.ClassFile.FieldType.boolean)) ∈ lw_all := lw_g (lw_at lw_m1 232 rfl) rfl
theorem q323 : (Jvm.Cond.methodLink "LoanNames" (70 : Nat) ({ cls := "LoanNames", name := "isIn", desc := "(III)Z" } : Jvm.MethodName)) ∈ lw_all := lw_g (lw_at lw_m1 233 rfl) rfl
theorem q324 : (Jvm.Cond.static ({ cls := "LoanNames", name := "isIn", desc := "(III)Z" } : Jvm.MethodName)) ∈ lw_all := lw_g (lw_at lw_m1 234 rfl) rfl
theorem q325 : (Jvm.Cond.code ({ cls := "LoanNames", name := "isIn", desc := "(III)Z" } : Jvm.MethodName) prog_1_method_1_code (3 : Nat) (Option.some Jvm.ClassFile.FieldType.boolean)) ∈ lw_all := lw_g (lw_at lw_m1 235 rfl) rfl
theorem q327 : (Jvm.Cond.instanceMethod ({ cls := "LoanNames", name := "feed", desc := "(IIIII)I" } : Jvm.MethodName)) ∈ lw_all := lw_g (lw_at lw_m1 237 rfl) rfl
theorem q328 : (Jvm.Cond.selects "LoanNames" ({ cls := "LoanNames", name := "feed", desc := "(IIIII)I" } : Jvm.MethodName) ({ cls := "LoanNames", name := "feed", desc := "(IIIII)I" } : Jvm.MethodName)) ∈ lw_all := lw_g (lw_at lw_m1 238 rfl) rfl
theorem q329 : (Jvm.Cond.code ({ cls := "LoanNames", name := "feed", desc := "(IIIII)I" } : Jvm.MethodName) prog_1_method_7_code (8 : Nat) (Option.some Jvm.ClassFile.FieldType.int)) ∈ lw_all := lw_g (lw_at lw_m1 239 rfl) rfl
theorem q331 : (Jvm.Cond.instanceMethod ({ cls := "LoanNames", name := "deal", desc := "(II)I" } : Jvm.MethodName)) ∈ lw_all := lw_g (lw_at lw_m2 1 rfl) rfl
theorem q332 : (Jvm.Cond.selects "LoanNames" ({ cls := "LoanNames", name := "deal", desc := "(II)I" } : Jvm.MethodName) ({ cls := "LoanNames", name := "deal", desc := "(II)I" } : Jvm.MethodName)) ∈ lw_all := lw_g (lw_at lw_m2 2 rfl) rfl
theorem q333 : (Jvm.Cond.code ({ cls := "LoanNames", name := "deal", desc := "(II)I" } : Jvm.MethodName) prog_1_method_8_code (5 : Nat) (Option.some Jvm.ClassFile.FieldType.int)) ∈ lw_all := lw_g (lw_at lw_m2 3 rfl) rfl
theorem q334 : (Jvm.Cond.classLink "LoanNames" (80 : Nat) "LoanNames$DealReader") ∈ lw_all := lw_g (lw_at lw_m2 4 rfl) rfl
theorem q336 : (Jvm.Cond.methodLink "LoanNames" (82 : Nat) ({ cls := "LoanNames$DealReader", name := "<init>", desc := "([BI)V" } : Jvm.MethodName)) ∈ lw_all := lw_g (lw_at lw_m2 6 rfl) rfl
theorem q361 : (Jvm.Cond.fieldLink "LoanNames" (92 : Nat) "LoanNames$DealReader" "choices" "I") ∈ lw_all := lw_g (lw_at lw_m2 31 rfl) rfl
theorem q363 : (Jvm.Cond.fieldLink "LoanNames" (95 : Nat) "LoanNames$DealReader" "events" "I") ∈ lw_all := lw_g (lw_at lw_m2 33 rfl) rfl
theorem q407 : (Jvm.Cond.methodLink "LoanNames" (85 : Nat) ({ cls := "LoanNames$DealReader", name := "reads", desc := "()LLoanNames$All;" } : Jvm.MethodName)) ∈ lw_all := lw_g (lw_at lw_m2 77 rfl) rfl
theorem q438 : (Jvm.Cond.laysStatic "LoanNames" "FORM_NAMES" "[J") ∈ lw_tbl := lw_at lw_m2 108 rfl
theorem q440 : (Jvm.Cond.static ({ cls := "LoanNames", name := "find", desc := "([JJ)I" } : Jvm.MethodName)) ∈ lw_all := lw_g (lw_at lw_m2 110 rfl) rfl
theorem q441 : (Jvm.Cond.code ({ cls := "LoanNames", name := "find", desc := "([JJ)I" } : Jvm.MethodName) prog_1_method_4_code (4 : Nat) (Option.some Jvm.ClassFile.FieldType.int)) ∈ lw_all := lw_g (lw_at lw_m2 111 rfl) rfl
theorem q453 : (Jvm.Cond.laysStatic "LoanNames" "HAND_NAMES" "[J") ∈ lw_tbl := lw_at lw_m2 123 rfl
theorem q463 : (Jvm.Cond.laysStatic "LoanNames" "THING_NAMES" "[J") ∈ lw_tbl := lw_at lw_m2 133 rfl
theorem q472 : (Jvm.Cond.laysStatic "LoanNames" "FOR" "J") ∈ lw_tbl := lw_at lw_m2 142 rfl
theorem q492 : (Jvm.Cond.laysStatic "LoanNames" "AT" "J") ∈ lw_tbl := lw_at lw_m2 162 rfl
theorem q494 : (Jvm.Cond.laysStatic "LoanNames" "BACK" "J") ∈ lw_tbl := lw_at lw_m2 164 rfl
theorem q522 : (Jvm.Cond.fieldLink "LoanNames" (131 : Nat) "LoanNames$Leaf" "a" "I") ∈ lw_all := lw_g (lw_at lw_m2 192 rfl) rfl
theorem q529 : (Jvm.Cond.fieldLink "LoanNames" (136 : Nat) "LoanNames$Leaf" "b" "I") ∈ lw_all := lw_g (lw_at lw_m2 199 rfl) rfl
theorem q535 : (Jvm.Cond.fieldLink "LoanNames" (158 : Nat) "LoanNames$Leaf" "thing" "I") ∈ lw_all := lw_g (lw_at lw_m2 205 rfl) rfl
theorem q539 : (Jvm.Cond.fieldLink "LoanNames" (161 : Nat) "LoanNames$Leaf" "much" "I") ∈ lw_all := lw_g (lw_at lw_m2 209 rfl) rfl
theorem q577 : (Jvm.Cond.laysStatic "LoanNames" "PAID" "J") ∈ lw_tbl := lw_at lw_m3 7 rfl
theorem q592 : (Jvm.Cond.laysStatic "LoanNames" "AFTER" "J") ∈ lw_tbl := lw_at lw_m3 22 rfl
theorem q617 : (Jvm.Cond.laysStatic "LoanNames" "TIMES" "J") ∈ lw_tbl := lw_at lw_m3 47 rfl
theorem q632 : (Jvm.Cond.laysStatic "LoanNames" "IF" "J") ∈ lw_tbl := lw_at lw_m3 62 rfl
theorem q634 : (Jvm.Cond.laysStatic "LoanNames" "EVENT_NAMES" "[J") ∈ lw_tbl := lw_at lw_m3 64 rfl
theorem q638 : (Jvm.Cond.laysStatic "LoanNames" "ELSE" "J") ∈ lw_tbl := lw_at lw_m3 68 rfl
theorem q661 : (Jvm.Cond.laysStatic "LoanNames" "CHOICE" "J") ∈ lw_tbl := lw_at lw_m3 91 rfl
theorem q665 : (Jvm.Cond.laysStatic "LoanNames" "OR" "J") ∈ lw_tbl := lw_at lw_m3 95 rfl
theorem q687 : (Jvm.Cond.methodLink "LoanNames" (89 : Nat) ({ cls := "LoanNames$DealReader", name := "place", desc := "()I" } : Jvm.MethodName)) ∈ lw_all := lw_g (lw_at lw_m3 117 rfl) rfl
theorem q694 : (Jvm.Cond.methodLink "LoanNames" (98 : Nat) ({ cls := "LoanNames$Deal", name := "<init>", desc := "(IILLoanNames$All;II)V" } : Jvm.MethodName)) ∈ lw_all := lw_g (lw_at lw_m3 124 rfl) rfl
theorem q730 : (Jvm.Cond.fieldLink "LoanNames" (353 : Nat) "LoanNames$Deal" "number" "I") ∈ lw_all := lw_g (lw_at lw_m3 160 rfl) rfl
theorem q732 : (Jvm.Cond.fieldLink "LoanNames" (145 : Nat) "LoanNames$Deal" "signed" "I") ∈ lw_all := lw_g (lw_at lw_m3 162 rfl) rfl
theorem q735 : (Jvm.Cond.fieldLink "LoanNames" (143 : Nat) "LoanNames$Deal" "choices" "I") ∈ lw_all := lw_g (lw_at lw_m3 165 rfl) rfl
theorem q738 : (Jvm.Cond.fieldLink "LoanNames" (144 : Nat) "LoanNames$Deal" "events" "I") ∈ lw_all := lw_g (lw_at lw_m3 168 rfl) rfl
theorem q741 : (Jvm.Cond.fieldLink "LoanNames" (180 : Nat) "LoanNames$Deal" "all" "LLoanNames$All;") ∈ lw_all := lw_g (lw_at lw_m3 171 rfl) rfl
theorem q744 : (Jvm.Cond.fieldLink "LoanNames" (118 : Nat) "LoanNames$Deal" "row" "LLoanNames$LeafRow;") ∈ lw_all := lw_g (lw_at lw_m3 174 rfl) rfl
theorem q759 : (Jvm.Cond.instanceMethod ({ cls := "LoanNames", name := "law", desc := "(I)I" } : Jvm.MethodName)) ∈ lw_all := lw_g (lw_at lw_m3 189 rfl) rfl
theorem q760 : (Jvm.Cond.selects "LoanNames" ({ cls := "LoanNames", name := "law", desc := "(I)I" } : Jvm.MethodName) ({ cls := "LoanNames", name := "law", desc := "(I)I" } : Jvm.MethodName)) ∈ lw_all := lw_g (lw_at lw_m3 190 rfl) rfl
theorem q761 : (Jvm.Cond.code ({ cls := "LoanNames", name := "law", desc := "(I)I" } : Jvm.MethodName) prog_1_method_10_code (3 : Nat) (Option.some Jvm.ClassFile.FieldType.int)) ∈ lw_all := lw_g (lw_at lw_m3 191 rfl) rfl
theorem q762 : (Jvm.Cond.methodLink "LoanNames" (112 : Nat) ({ cls := "LoanNames", name := "reads", desc := "(III)LLoanNames$Law;" } : Jvm.MethodName)) ∈ lw_all := lw_g (lw_at lw_m3 192 rfl) rfl
theorem q763 : (Jvm.Cond.privateMethod ({ cls := "LoanNames", name := "reads", desc := "(III)LLoanNames$Law;" } : Jvm.MethodName)) ∈ lw_tbl := lw_at lw_m3 193 rfl
theorem q764 : (Jvm.Cond.instanceMethod ({ cls := "LoanNames", name := "reads", desc := "(III)LLoanNames$Law;" } : Jvm.MethodName)) ∈ lw_all := lw_g (lw_at lw_m3 194 rfl) rfl
theorem q765 : (Jvm.Cond.code ({ cls := "LoanNames", name := "reads", desc := "(III)LLoanNames$Law;" } : Jvm.MethodName) prog_1_method_9_code (6 : Nat) (Option.some (Jvm.ClassFile.FieldType.object "LoanNames$Law"))) ∈ lw_all := lw_g (lw_at lw_m3 195 rfl) rfl
theorem q766 : (Jvm.Cond.classLink "LoanNames" (101 : Nat) "LoanNames$LawReader") ∈ lw_all := lw_g (lw_at lw_m3 196 rfl) rfl
theorem q768 : (Jvm.Cond.methodLink "LoanNames" (103 : Nat) ({ cls := "LoanNames$LawReader", name := "<init>", desc := "([BI)V" } : Jvm.MethodName)) ∈ lw_all := lw_g (lw_at lw_m3 198 rfl) rfl
theorem q775 : (Jvm.Cond.fieldLink "LoanNames" (108 : Nat) "LoanNames$LawReader" "law" "LLoanNames$Law;") ∈ lw_all := lw_g (lw_at lw_m3 205 rfl) rfl
theorem q786 : (Jvm.Cond.methodLink "LoanNames" (104 : Nat) ({ cls := "LoanNames$LawReader", name := "reads", desc := "(II)Z" } : Jvm.MethodName)) ∈ lw_all := lw_g (lw_at lw_m3 216 rfl) rfl
theorem q795 : (Jvm.Cond.laysStatic "LoanNames" "BAR" "J") ∈ lw_tbl := lw_at lw_m3 225 rfl
theorem q804 : (Jvm.Cond.laysStatic "LoanNames" "OF" "J") ∈ lw_tbl := lw_at lw_m3 234 rfl
theorem q810 : (Jvm.Cond.laysStatic "LoanNames" "THEN" "J") ∈ lw_tbl := lw_at lw_m4 0 rfl
theorem q816 : (Jvm.Cond.laysStatic "LoanNames" "SAME" "J") ∈ lw_tbl := lw_at lw_m4 6 rfl
theorem q818 : (Jvm.Cond.laysStatic "LoanNames" "MORE" "J") ∈ lw_tbl := lw_at lw_m4 8 rfl
theorem q823 : (Jvm.Cond.laysStatic "LoanNames" "WITHIN" "J") ∈ lw_tbl := lw_at lw_m4 13 rfl
theorem q838 : (Jvm.Cond.fieldLink "LoanNames" (315 : Nat) "LoanNames$Rule" "thenForm" "I") ∈ lw_all := lw_g (lw_at lw_m4 28 rfl) rfl
theorem q861 : (Jvm.Cond.methodLink "LoanNames" (107 : Nat) ({ cls := "LoanNames$LawReader", name := "place", desc := "()I" } : Jvm.MethodName)) ∈ lw_all := lw_g (lw_at lw_m4 51 rfl) rfl
theorem q865 : (Jvm.Cond.instanceMethod ({ cls := "LoanNames", name := "word", desc := "(I)I" } : Jvm.MethodName)) ∈ lw_all := lw_g (lw_at lw_m4 55 rfl) rfl
theorem q866 : (Jvm.Cond.selects "LoanNames" ({ cls := "LoanNames", name := "word", desc := "(I)I" } : Jvm.MethodName) ({ cls := "LoanNames", name := "word", desc := "(I)I" } : Jvm.MethodName)) ∈ lw_all := lw_g (lw_at lw_m4 56 rfl) rfl
theorem q867 : (Jvm.Cond.code ({ cls := "LoanNames", name := "word", desc := "(I)I" } : Jvm.MethodName) prog_1_method_11_code (3 : Nat) (Option.some Jvm.ClassFile.FieldType.int)) ∈ lw_all := lw_g (lw_at lw_m4 57 rfl) rfl
theorem q869 : (Jvm.Cond.instanceMethod ({ cls := "LoanNames", name := "fault", desc := "()I" } : Jvm.MethodName)) ∈ lw_all := lw_g (lw_at lw_m4 59 rfl) rfl
theorem q870 : (Jvm.Cond.selects "LoanNames" ({ cls := "LoanNames", name := "fault", desc := "()I" } : Jvm.MethodName) ({ cls := "LoanNames", name := "fault", desc := "()I" } : Jvm.MethodName)) ∈ lw_all := lw_g (lw_at lw_m4 60 rfl) rfl
theorem q871 : (Jvm.Cond.code ({ cls := "LoanNames", name := "fault", desc := "()I" } : Jvm.MethodName) prog_1_method_12_code (1 : Nat) (Option.some Jvm.ClassFile.FieldType.int)) ∈ lw_all := lw_g (lw_at lw_m4 61 rfl) rfl
theorem q873 : (Jvm.Cond.instanceMethod ({ cls := "LoanNames", name := "size", desc := "(II)I" } : Jvm.MethodName)) ∈ lw_all := lw_g (lw_at lw_m4 63 rfl) rfl
theorem q874 : (Jvm.Cond.selects "LoanNames" ({ cls := "LoanNames", name := "size", desc := "(II)I" } : Jvm.MethodName) ({ cls := "LoanNames", name := "size", desc := "(II)I" } : Jvm.MethodName)) ∈ lw_all := lw_g (lw_at lw_m4 64 rfl) rfl
theorem q875 : (Jvm.Cond.code ({ cls := "LoanNames", name := "size", desc := "(II)I" } : Jvm.MethodName) prog_1_method_15_code (4 : Nat) (Option.some Jvm.ClassFile.FieldType.int)) ∈ lw_all := lw_g (lw_at lw_m4 65 rfl) rfl
theorem q876 : (Jvm.Cond.methodLink "LoanNames" (139 : Nat) ({ cls := "LoanNames", name := "dealAt", desc := "(I)LLoanNames$Deal;" } : Jvm.MethodName)) ∈ lw_all := lw_g (lw_at lw_m4 66 rfl) rfl
theorem q877 : (Jvm.Cond.privateMethod ({ cls := "LoanNames", name := "dealAt", desc := "(I)LLoanNames$Deal;" } : Jvm.MethodName)) ∈ lw_tbl := lw_at lw_m4 67 rfl
theorem q878 : (Jvm.Cond.instanceMethod ({ cls := "LoanNames", name := "dealAt", desc := "(I)LLoanNames$Deal;" } : Jvm.MethodName)) ∈ lw_all := lw_g (lw_at lw_m4 68 rfl) rfl
theorem q879 : (Jvm.Cond.code ({ cls := "LoanNames", name := "dealAt", desc := "(I)LLoanNames$Deal;" } : Jvm.MethodName) prog_1_method_13_code (2 : Nat) (Option.some (Jvm.ClassFile.FieldType.object "LoanNames$Deal"))) ∈ lw_all := lw_g (lw_at lw_m4 69 rfl) rfl
theorem q880 : (Jvm.Cond.methodLink "LoanNames" (148 : Nat) ({ cls := "LoanNames", name := "familiesOf", desc := "(LLoanNames$Deal;)I" } : Jvm.MethodName)) ∈ lw_all := lw_g (lw_at lw_m4 70 rfl) rfl
theorem q881 : (Jvm.Cond.privateMethod ({ cls := "LoanNames", name := "familiesOf", desc := "(LLoanNames$Deal;)I" } : Jvm.MethodName)) ∈ lw_tbl := lw_at lw_m4 71 rfl
theorem q882 : (Jvm.Cond.instanceMethod ({ cls := "LoanNames", name := "familiesOf", desc := "(LLoanNames$Deal;)I" } : Jvm.MethodName)) ∈ lw_all := lw_g (lw_at lw_m4 72 rfl) rfl
theorem q883 : (Jvm.Cond.code ({ cls := "LoanNames", name := "familiesOf", desc := "(LLoanNames$Deal;)I" } : Jvm.MethodName) prog_1_method_14_code (4 : Nat) (Option.some Jvm.ClassFile.FieldType.int)) ∈ lw_all := lw_g (lw_at lw_m4 73 rfl) rfl
theorem q884 : (Jvm.Cond.methodLink "LoanNames" (152 : Nat) ({ cls := "LoanNames$Deal", name := "things", desc := "()I" } : Jvm.MethodName)) ∈ lw_all := lw_g (lw_at lw_m4 74 rfl) rfl
theorem q889 : (Jvm.Cond.instanceMethod ({ cls := "LoanNames", name := "leaf", desc := "(III)I" } : Jvm.MethodName)) ∈ lw_all := lw_g (lw_at lw_m4 79 rfl) rfl
theorem q890 : (Jvm.Cond.selects "LoanNames" ({ cls := "LoanNames", name := "leaf", desc := "(III)I" } : Jvm.MethodName) ({ cls := "LoanNames", name := "leaf", desc := "(III)I" } : Jvm.MethodName)) ∈ lw_all := lw_g (lw_at lw_m4 80 rfl) rfl
theorem q891 : (Jvm.Cond.code ({ cls := "LoanNames", name := "leaf", desc := "(III)I" } : Jvm.MethodName) prog_1_method_16_code (6 : Nat) (Option.some Jvm.ClassFile.FieldType.int)) ∈ lw_all := lw_g (lw_at lw_m4 81 rfl) rfl
theorem q892 : (Jvm.Cond.methodLink "LoanNames" (155 : Nat) ({ cls := "LoanNames$Leaf", name := "form", desc := "()I" } : Jvm.MethodName)) ∈ lw_all := lw_g (lw_at lw_m4 82 rfl) rfl
theorem q904 : (Jvm.Cond.methodLink "LoanNames" (164 : Nat) ({ cls := "LoanNames$Leaf", name := "forCoin", desc := "()I" } : Jvm.MethodName)) ∈ lw_all := lw_g (lw_at lw_m4 94 rfl) rfl
theorem q913 : (Jvm.Cond.methodLink "LoanNames" (167 : Nat) ({ cls := "LoanNames$LeafRow", name := "at", desc := "(I)I" } : Jvm.MethodName)) ∈ lw_all := lw_g (lw_at lw_m4 103 rfl) rfl
theorem q917 : (Jvm.Cond.methodLink "LoanNames" (171 : Nat) ({ cls := "LoanNames$Leaf", name := "until", desc := "()I" } : Jvm.MethodName)) ∈ lw_all := lw_g (lw_at lw_m4 107 rfl) rfl
theorem q927 : (Jvm.Cond.instanceMethod ({ cls := "LoanNames", name := "plain", desc := "(II)I" } : Jvm.MethodName)) ∈ lw_all := lw_g (lw_at lw_m4 117 rfl) rfl
theorem q928 : (Jvm.Cond.selects "LoanNames" ({ cls := "LoanNames", name := "plain", desc := "(II)I" } : Jvm.MethodName) ({ cls := "LoanNames", name := "plain", desc := "(II)I" } : Jvm.MethodName)) ∈ lw_all := lw_g (lw_at lw_m4 118 rfl) rfl
theorem q929 : (Jvm.Cond.code ({ cls := "LoanNames", name := "plain", desc := "(II)I" } : Jvm.MethodName) prog_1_method_17_code (7 : Nat) (Option.some Jvm.ClassFile.FieldType.int)) ∈ lw_all := lw_g (lw_at lw_m4 119 rfl) rfl
theorem q930 : (Jvm.Cond.classLink "LoanNames" (177 : Nat) "LoanNames$Plain") ∈ lw_all := lw_g (lw_at lw_m4 120 rfl) rfl
theorem q932 : (Jvm.Cond.methodLinkNest "LoanNames" (179 : Nat) ({ cls := "LoanNames$Plain", name := "<init>", desc := "()V" } : Jvm.MethodName) "LoanNames") ∈ lw_tbl := lw_at lw_m4 122 rfl
theorem q939 : (Jvm.Cond.fieldLink "LoanNames" (194 : Nat) "LoanNames$Plain" "steps" "I") ∈ lw_all := lw_g (lw_at lw_m4 129 rfl) rfl
theorem q943 : (Jvm.Cond.methodLink "LoanNames" (184 : Nat) ({ cls := "LoanNames$All", name := "plain", desc := "(LLoanNames$Plain;)LLoanNames$All;" } : Jvm.MethodName)) ∈ lw_all := lw_g (lw_at lw_m4 133 rfl) rfl
theorem q1079 : (Jvm.Cond.classLink "LoanNames" (123 : Nat) "LoanNames$LeafRow") ∈ lw_all := lw_g (lw_at lw_m5 29 rfl) rfl
theorem q1080 : (Jvm.Cond.methodLinkNest "LoanNames" (190 : Nat) ({ cls := "LoanNames$LeafRow", name := "<init>", desc := "()V" } : Jvm.MethodName) "LoanNames") ∈ lw_tbl := lw_at lw_m5 30 rfl
theorem q1081 : (Jvm.Cond.methodLink "LoanNames" (191 : Nat) ({ cls := "LoanNames$All", name := "leaves", desc := "(LLoanNames$LeafRow;I)V" } : Jvm.MethodName)) ∈ lw_all := lw_g (lw_at lw_m5 31 rfl) rfl
theorem q1083 : (Jvm.Cond.instanceMethod ({ cls := "LoanNames", name := "same", desc := "(II)I" } : Jvm.MethodName)) ∈ lw_all := lw_g (lw_at lw_m5 33 rfl) rfl
theorem q1084 : (Jvm.Cond.selects "LoanNames" ({ cls := "LoanNames", name := "same", desc := "(II)I" } : Jvm.MethodName) ({ cls := "LoanNames", name := "same", desc := "(II)I" } : Jvm.MethodName)) ∈ lw_all := lw_g (lw_at lw_m5 34 rfl) rfl
theorem q1085 : (Jvm.Cond.code ({ cls := "LoanNames", name := "same", desc := "(II)I" } : Jvm.MethodName) prog_1_method_20_code (8 : Nat) (Option.some Jvm.ClassFile.FieldType.int)) ∈ lw_all := lw_g (lw_at lw_m5 35 rfl) rfl
theorem q1086 : (Jvm.Cond.classLink "LoanNames" (198 : Nat) "LoanNames$Sink") ∈ lw_all := lw_g (lw_at lw_m5 36 rfl) rfl
theorem q1087 : (Jvm.Cond.methodLinkNest "LoanNames" (218 : Nat) ({ cls := "LoanNames$Sink", name := "<init>", desc := "()V" } : Jvm.MethodName) "LoanNames") ∈ lw_tbl := lw_at lw_m5 37 rfl
theorem q1088 : (Jvm.Cond.methodLink "LoanNames" (219 : Nat) ({ cls := "java/lang/Math", name := "max", desc := "(II)I" } : Jvm.MethodName)) ∈ lw_all := lw_g (lw_at lw_m5 38 rfl) rfl
theorem q1091 : (Jvm.Cond.methodLink "LoanNames" (225 : Nat) ({ cls := "LoanNames$All", name := "passes", desc := "(LLoanNames$Sink;IJI)V" } : Jvm.MethodName)) ∈ lw_all := lw_g (lw_at lw_m5 41 rfl) rfl
theorem q1112 : (Jvm.Cond.static ({ cls := "LoanNames", name := "has", desc := "(II)Z" } : Jvm.MethodName)) ∈ lw_all := lw_g (lw_at lw_m5 62 rfl) rfl
theorem q1113 : (Jvm.Cond.code ({ cls := "LoanNames", name := "has", desc := "(II)Z" } : Jvm.MethodName) prog_1_method_2_code (2 : Nat) (Option.some Jvm.ClassFile.FieldType.boolean)) ∈ lw_all := lw_g (lw_at lw_m5 63 rfl) rfl
theorem q1140 : (Jvm.Cond.methodLink "LoanNames" (229 : Nat) ({ cls := "LoanNames", name := "isSame", desc := "(LLoanNames$Sink;LLoanNames$Sink;)Z" } : Jvm.MethodName)) ∈ lw_all := lw_g (lw_at lw_m5 90 rfl) rfl
theorem q1141 : (Jvm.Cond.static ({ cls := "LoanNames", name := "isSame", desc := "(LLoanNames$Sink;LLoanNames$Sink;)Z" } : Jvm.MethodName)) ∈ lw_all := lw_g (lw_at lw_m5 91 rfl) rfl
theorem q1142 : (Jvm.Cond.code ({ cls := "LoanNames", name := "isSame", desc := "(LLoanNames$Sink;LLoanNames$Sink;)Z" } : Jvm.MethodName) prog_1_method_18_code (8 : Nat) (Option.some Jvm.ClassFile.FieldType.boolean)) ∈ lw_all := lw_g (lw_at lw_m5 92 rfl) rfl
theorem q1143 : (Jvm.Cond.methodLink "LoanNames" (200 : Nat) ({ cls := "LoanNames", name := "isRow", desc := "(LLoanNames$Sink;ILLoanNames$Sink;I)Z" } : Jvm.MethodName)) ∈ lw_all := lw_g (lw_at lw_m5 93 rfl) rfl
theorem q1144 : (Jvm.Cond.static ({ cls := "LoanNames", name := "isRow", desc := "(LLoanNames$Sink;ILLoanNames$Sink;I)Z" } : Jvm.MethodName)) ∈ lw_all := lw_g (lw_at lw_m5 94 rfl) rfl
theorem q1145 : (Jvm.Cond.code ({ cls := "LoanNames", name := "isRow", desc := "(LLoanNames$Sink;ILLoanNames$Sink;I)Z" } : Jvm.MethodName) prog_1_method_19_code (4 : Nat) (Option.some Jvm.ClassFile.FieldType.boolean)) ∈ lw_all := lw_g (lw_at lw_m5 95 rfl) rfl
theorem q1147 : (Jvm.Cond.instanceMethod ({ cls := "LoanNames", name := "add", desc := "(I)I" } : Jvm.MethodName)) ∈ lw_all := lw_g (lw_at lw_m5 97 rfl) rfl
theorem q1148 : (Jvm.Cond.selects "LoanNames" ({ cls := "LoanNames", name := "add", desc := "(I)I" } : Jvm.MethodName) ({ cls := "LoanNames", name := "add", desc := "(I)I" } : Jvm.MethodName)) ∈ lw_all := lw_g (lw_at lw_m5 98 rfl) rfl
theorem q1149 : (Jvm.Cond.code ({ cls := "LoanNames", name := "add", desc := "(I)I" } : Jvm.MethodName) prog_1_method_21_code (3 : Nat) (Option.some Jvm.ClassFile.FieldType.int)) ∈ lw_all := lw_g (lw_at lw_m5 99 rfl) rfl
theorem q1150 : (Jvm.Cond.methodLink "LoanNames" (234 : Nat) ({ cls := "LoanNames$Bundle", name := "hasDeal", desc := "(LLoanNames$Deal;)Z" } : Jvm.MethodName)) ∈ lw_all := lw_g (lw_at lw_m5 100 rfl) rfl
theorem q1154 : (Jvm.Cond.methodLink "LoanNames" (238 : Nat) ({ cls := "LoanNames$Bundle", name := "adds", desc := "(LLoanNames$Deal;)V" } : Jvm.MethodName)) ∈ lw_all := lw_g (lw_at lw_m5 104 rfl) rfl
theorem q1160 : (Jvm.Cond.instanceMethod ({ cls := "LoanNames", name := "clear", desc := "()I" } : Jvm.MethodName)) ∈ lw_all := lw_g (lw_at lw_m5 110 rfl) rfl
theorem q1161 : (Jvm.Cond.selects "LoanNames" ({ cls := "LoanNames", name := "clear", desc := "()I" } : Jvm.MethodName) ({ cls := "LoanNames", name := "clear", desc := "()I" } : Jvm.MethodName)) ∈ lw_all := lw_g (lw_at lw_m5 111 rfl) rfl
theorem q1162 : (Jvm.Cond.code ({ cls := "LoanNames", name := "clear", desc := "()I" } : Jvm.MethodName) prog_1_method_22_code (2 : Nat) (Option.some Jvm.ClassFile.FieldType.int)) ∈ lw_all := lw_g (lw_at lw_m5 112 rfl) rfl
theorem q1163 : (Jvm.Cond.methodLink "LoanNames" (242 : Nat) ({ cls := "LoanNames$Bundle", name := "clears", desc := "()V" } : Jvm.MethodName)) ∈ lw_all := lw_g (lw_at lw_m5 113 rfl) rfl
theorem q1168 : (Jvm.Cond.instanceMethod ({ cls := "LoanNames", name := "passed", desc := "(III)J" } : Jvm.MethodName)) ∈ lw_all := lw_g (lw_at lw_m5 118 rfl) rfl
theorem q1169 : (Jvm.Cond.selects "LoanNames" ({ cls := "LoanNames", name := "passed", desc := "(III)J" } : Jvm.MethodName) ({ cls := "LoanNames", name := "passed", desc := "(III)J" } : Jvm.MethodName)) ∈ lw_all := lw_g (lw_at lw_m5 119 rfl) rfl
theorem q1170 : (Jvm.Cond.code ({ cls := "LoanNames", name := "passed", desc := "(III)J" } : Jvm.MethodName) prog_1_method_23_code (5 : Nat) (Option.some Jvm.ClassFile.FieldType.long)) ∈ lw_all := lw_g (lw_at lw_m5 120 rfl) rfl
theorem q1171 : (Jvm.Cond.methodLink "LoanNames" (245 : Nat) ({ cls := "LoanNames$Bundle", name := "isCode", desc := "(I)Z" } : Jvm.MethodName)) ∈ lw_all := lw_g (lw_at lw_m5 121 rfl) rfl
theorem q1175 : (Jvm.Cond.constantLong "LoanNames" (249 : Nat) (-1 : Int64)) ∈ lw_all := lw_g (lw_at lw_m5 125 rfl) rfl
theorem q1176 : (Jvm.Cond.methodLink "LoanNames" (251 : Nat) ({ cls := "LoanNames$Bundle", name := "passes", desc := "(I)LLoanNames$Sink;" } : Jvm.MethodName)) ∈ lw_all := lw_g (lw_at lw_m5 126 rfl) rfl
theorem q1182 : (Jvm.Cond.instanceMethod ({ cls := "LoanNames", name := "net", desc := "(IIII)J" } : Jvm.MethodName)) ∈ lw_all := lw_g (lw_at lw_m5 132 rfl) rfl
theorem q1183 : (Jvm.Cond.selects "LoanNames" ({ cls := "LoanNames", name := "net", desc := "(IIII)J" } : Jvm.MethodName) ({ cls := "LoanNames", name := "net", desc := "(IIII)J" } : Jvm.MethodName)) ∈ lw_all := lw_g (lw_at lw_m5 133 rfl) rfl
theorem q1184 : (Jvm.Cond.code ({ cls := "LoanNames", name := "net", desc := "(IIII)J" } : Jvm.MethodName) prog_1_method_25_code (5 : Nat) (Option.some Jvm.ClassFile.FieldType.long)) ∈ lw_all := lw_g (lw_at lw_m5 134 rfl) rfl
theorem q1185 : (Jvm.Cond.methodLink "LoanNames" (254 : Nat) ({ cls := "LoanNames", name := "isFamily", desc := "(I)Z" } : Jvm.MethodName)) ∈ lw_all := lw_g (lw_at lw_m5 135 rfl) rfl
theorem q1186 : (Jvm.Cond.static ({ cls := "LoanNames", name := "isFamily", desc := "(I)Z" } : Jvm.MethodName)) ∈ lw_all := lw_g (lw_at lw_m5 136 rfl) rfl
theorem q1187 : (Jvm.Cond.code ({ cls := "LoanNames", name := "isFamily", desc := "(I)Z" } : Jvm.MethodName) prog_1_method_24_code (1 : Nat) (Option.some Jvm.ClassFile.FieldType.boolean)) ∈ lw_all := lw_g (lw_at lw_m5 137 rfl) rfl
theorem q1188 : (Jvm.Cond.methodLink "LoanNames" (257 : Nat) ({ cls := "LoanNames$Bundle", name := "net", desc := "(IIII)J" } : Jvm.MethodName)) ∈ lw_all := lw_g (lw_at lw_m5 138 rfl) rfl
theorem q1193 : (Jvm.Cond.constantLong "LoanNames" (261 : Nat) (-1000000000000 : Int64)) ∈ lw_all := lw_g (lw_at lw_m5 143 rfl) rfl
theorem q1195 : (Jvm.Cond.instanceMethod ({ cls := "LoanNames", name := "codes", desc := "()I" } : Jvm.MethodName)) ∈ lw_all := lw_g (lw_at lw_m5 145 rfl) rfl
theorem q1196 : (Jvm.Cond.selects "LoanNames" ({ cls := "LoanNames", name := "codes", desc := "()I" } : Jvm.MethodName) ({ cls := "LoanNames", name := "codes", desc := "()I" } : Jvm.MethodName)) ∈ lw_all := lw_g (lw_at lw_m5 146 rfl) rfl
theorem q1197 : (Jvm.Cond.code ({ cls := "LoanNames", name := "codes", desc := "()I" } : Jvm.MethodName) prog_1_method_26_code (1 : Nat) (Option.some Jvm.ClassFile.FieldType.int)) ∈ lw_all := lw_g (lw_at lw_m5 147 rfl) rfl
theorem q1198 : (Jvm.Cond.methodLink "LoanNames" (263 : Nat) ({ cls := "LoanNames$Bundle", name := "isLooked", desc := "()Z" } : Jvm.MethodName)) ∈ lw_all := lw_g (lw_at lw_m5 148 rfl) rfl
theorem q1208 : (Jvm.Cond.methodLink "LoanNames" (267 : Nat) ({ cls := "LoanNames$Bundle", name := "codes", desc := "()I" } : Jvm.MethodName)) ∈ lw_all := lw_g (lw_at lw_m5 158 rfl) rfl
theorem q1213 : (Jvm.Cond.instanceMethod ({ cls := "LoanNames", name := "lends", desc := "(II)I" } : Jvm.MethodName)) ∈ lw_all := lw_g (lw_at lw_m5 163 rfl) rfl
theorem q1214 : (Jvm.Cond.selects "LoanNames" ({ cls := "LoanNames", name := "lends", desc := "(II)I" } : Jvm.MethodName) ({ cls := "LoanNames", name := "lends", desc := "(II)I" } : Jvm.MethodName)) ∈ lw_all := lw_g (lw_at lw_m5 164 rfl) rfl
theorem q1215 : (Jvm.Cond.code ({ cls := "LoanNames", name := "lends", desc := "(II)I" } : Jvm.MethodName) prog_1_method_28_code (3 : Nat) (Option.some Jvm.ClassFile.FieldType.int)) ∈ lw_all := lw_g (lw_at lw_m5 165 rfl) rfl
theorem q1216 : (Jvm.Cond.methodLink "LoanNames" (270 : Nat) ({ cls := "LoanNames", name := "areTwo", desc := "(II)Z" } : Jvm.MethodName)) ∈ lw_all := lw_g (lw_at lw_m5 166 rfl) rfl
theorem q1217 : (Jvm.Cond.privateMethod ({ cls := "LoanNames", name := "areTwo", desc := "(II)Z" } : Jvm.MethodName)) ∈ lw_tbl := lw_at lw_m5 167 rfl
theorem q1218 : (Jvm.Cond.instanceMethod ({ cls := "LoanNames", name := "areTwo", desc := "(II)Z" } : Jvm.MethodName)) ∈ lw_all := lw_g (lw_at lw_m5 168 rfl) rfl
theorem q1219 : (Jvm.Cond.code ({ cls := "LoanNames", name := "areTwo", desc := "(II)Z" } : Jvm.MethodName) prog_1_method_27_code (3 : Nat) (Option.some Jvm.ClassFile.FieldType.boolean)) ∈ lw_all := lw_g (lw_at lw_m5 169 rfl) rfl
theorem q1220 : (Jvm.Cond.methodLink "LoanNames" (273 : Nat) ({ cls := "LoanNames$Bundle", name := "lending", desc := "(II)I" } : Jvm.MethodName)) ∈ lw_all := lw_g (lw_at lw_m5 170 rfl) rfl
theorem q1257 : (Jvm.Cond.instanceMethod ({ cls := "LoanNames", name := "price", desc := "(III)J" } : Jvm.MethodName)) ∈ lw_all := lw_g (lw_at lw_m5 207 rfl) rfl
theorem q1258 : (Jvm.Cond.selects "LoanNames" ({ cls := "LoanNames", name := "price", desc := "(III)J" } : Jvm.MethodName) ({ cls := "LoanNames", name := "price", desc := "(III)J" } : Jvm.MethodName)) ∈ lw_all := lw_g (lw_at lw_m5 208 rfl) rfl
theorem q1259 : (Jvm.Cond.code ({ cls := "LoanNames", name := "price", desc := "(III)J" } : Jvm.MethodName) prog_1_method_31_code (10 : Nat) (Option.some Jvm.ClassFile.FieldType.long)) ∈ lw_all := lw_g (lw_at lw_m5 209 rfl) rfl
theorem q1260 : (Jvm.Cond.methodLink "LoanNames" (277 : Nat) ({ cls := "LoanNames$Bundle", name := "isOfNamed", desc := "(I)Z" } : Jvm.MethodName)) ∈ lw_all := lw_g (lw_at lw_m5 210 rfl) rfl
theorem q1261 : (Jvm.Cond.methodLink "LoanNames" (280 : Nat) ({ cls := "LoanNames$Bundle", name := "nets", desc := "(I)V" } : Jvm.MethodName)) ∈ lw_all := lw_g (lw_at lw_m5 211 rfl) rfl
theorem q1262 : (Jvm.Cond.methodLink "LoanNames" (284 : Nat) ({ cls := "LoanNames$Bundle", name := "lends", desc := "(II)Z" } : Jvm.MethodName)) ∈ lw_all := lw_g (lw_at lw_m5 212 rfl) rfl
theorem q1263 : (Jvm.Cond.methodLink "LoanNames" (287 : Nat) ({ cls := "LoanNames$Bundle", name := "total", desc := "(II)J" } : Jvm.MethodName)) ∈ lw_all := lw_g (lw_at lw_m5 213 rfl) rfl
theorem q1264 : (Jvm.Cond.methodLink "LoanNames" (291 : Nat) ({ cls := "LoanNames$Bundle", name := "out", desc := "(I)J" } : Jvm.MethodName)) ∈ lw_all := lw_g (lw_at lw_m5 214 rfl) rfl
theorem q1268 : (Jvm.Cond.methodLink "LoanNames" (295 : Nat) ({ cls := "LoanNames", name := "isLess", desc := "(JJJJ)Z" } : Jvm.MethodName)) ∈ lw_all := lw_g (lw_at lw_m5 218 rfl) rfl
theorem q1269 : (Jvm.Cond.static ({ cls := "LoanNames", name := "isLess", desc := "(JJJJ)Z" } : Jvm.MethodName)) ∈ lw_all := lw_g (lw_at lw_m5 219 rfl) rfl
theorem q1270 : (Jvm.Cond.code ({ cls := "LoanNames", name := "isLess", desc := "(JJJJ)Z" } : Jvm.MethodName) prog_1_method_29_code (23 : Nat) (Option.some Jvm.ClassFile.FieldType.boolean)) ∈ lw_all := lw_g (lw_at lw_m5 220 rfl) rfl
theorem q1271 : (Jvm.Cond.methodLink "LoanNames" (299 : Nat) ({ cls := "LoanNames", name := "divisor", desc := "(JJ)J" } : Jvm.MethodName)) ∈ lw_all := lw_g (lw_at lw_m5 221 rfl) rfl
theorem q1272 : (Jvm.Cond.static ({ cls := "LoanNames", name := "divisor", desc := "(JJ)J" } : Jvm.MethodName)) ∈ lw_all := lw_g (lw_at lw_m5 222 rfl) rfl
theorem q1273 : (Jvm.Cond.code ({ cls := "LoanNames", name := "divisor", desc := "(JJ)J" } : Jvm.MethodName) prog_1_method_30_code (10 : Nat) (Option.some Jvm.ClassFile.FieldType.long)) ∈ lw_all := lw_g (lw_at lw_m5 223 rfl) rfl
theorem q1275 : (Jvm.Cond.instanceMethod ({ cls := "LoanNames", name := "loan", desc := "()I" } : Jvm.MethodName)) ∈ lw_all := lw_g (lw_at lw_m5 225 rfl) rfl
theorem q1276 : (Jvm.Cond.selects "LoanNames" ({ cls := "LoanNames", name := "loan", desc := "()I" } : Jvm.MethodName) ({ cls := "LoanNames", name := "loan", desc := "()I" } : Jvm.MethodName)) ∈ lw_all := lw_g (lw_at lw_m5 226 rfl) rfl
theorem q1277 : (Jvm.Cond.code ({ cls := "LoanNames", name := "loan", desc := "()I" } : Jvm.MethodName) prog_1_method_32_code (1 : Nat) (Option.some Jvm.ClassFile.FieldType.int)) ∈ lw_all := lw_g (lw_at lw_m5 227 rfl) rfl
theorem q1278 : (Jvm.Cond.methodLink "LoanNames" (303 : Nat) ({ cls := "LoanNames$Bundle", name := "loan", desc := "()I" } : Jvm.MethodName)) ∈ lw_all := lw_g (lw_at lw_m5 228 rfl) rfl
theorem q1284 : (Jvm.Cond.instanceMethod ({ cls := "LoanNames", name := "step", desc := "()J" } : Jvm.MethodName)) ∈ lw_all := lw_g (lw_at lw_m5 234 rfl) rfl
theorem q1285 : (Jvm.Cond.selects "LoanNames" ({ cls := "LoanNames", name := "step", desc := "()J" } : Jvm.MethodName) ({ cls := "LoanNames", name := "step", desc := "()J" } : Jvm.MethodName)) ∈ lw_all := lw_g (lw_at lw_m5 235 rfl) rfl
theorem q1286 : (Jvm.Cond.code ({ cls := "LoanNames", name := "step", desc := "()J" } : Jvm.MethodName) prog_1_method_33_code (5 : Nat) (Option.some Jvm.ClassFile.FieldType.long)) ∈ lw_all := lw_g (lw_at lw_m5 236 rfl) rfl
theorem q1288 : (Jvm.Cond.instanceMethod ({ cls := "LoanNames", name := "bears", desc := "(II)J" } : Jvm.MethodName)) ∈ lw_all := lw_g (lw_at lw_m5 238 rfl) rfl
theorem q1289 : (Jvm.Cond.selects "LoanNames" ({ cls := "LoanNames", name := "bears", desc := "(II)J" } : Jvm.MethodName) ({ cls := "LoanNames", name := "bears", desc := "(II)J" } : Jvm.MethodName)) ∈ lw_all := lw_g (lw_at lw_m5 239 rfl) rfl
theorem q1290 : (Jvm.Cond.code ({ cls := "LoanNames", name := "bears", desc := "(II)J" } : Jvm.MethodName) prog_1_method_34_code (3 : Nat) (Option.some Jvm.ClassFile.FieldType.long)) ∈ lw_all := lw_g (lw_at lw_m6 0 rfl) rfl
theorem q1292 : (Jvm.Cond.instanceMethod ({ cls := "LoanNames", name := "cost", desc := "(III)J" } : Jvm.MethodName)) ∈ lw_all := lw_g (lw_at lw_m6 2 rfl) rfl
theorem q1293 : (Jvm.Cond.selects "LoanNames" ({ cls := "LoanNames", name := "cost", desc := "(III)J" } : Jvm.MethodName) ({ cls := "LoanNames", name := "cost", desc := "(III)J" } : Jvm.MethodName)) ∈ lw_all := lw_g (lw_at lw_m6 3 rfl) rfl
theorem q1294 : (Jvm.Cond.code ({ cls := "LoanNames", name := "cost", desc := "(III)J" } : Jvm.MethodName) prog_1_method_35_code (12 : Nat) (Option.some Jvm.ClassFile.FieldType.long)) ∈ lw_all := lw_g (lw_at lw_m6 4 rfl) rfl
theorem q1296 : (Jvm.Cond.instanceMethod ({ cls := "LoanNames", name := "breach", desc := "(I)I" } : Jvm.MethodName)) ∈ lw_all := lw_g (lw_at lw_m6 6 rfl) rfl
theorem q1297 : (Jvm.Cond.selects "LoanNames" ({ cls := "LoanNames", name := "breach", desc := "(I)I" } : Jvm.MethodName) ({ cls := "LoanNames", name := "breach", desc := "(I)I" } : Jvm.MethodName)) ∈ lw_all := lw_g (lw_at lw_m6 7 rfl) rfl
theorem q1298 : (Jvm.Cond.code ({ cls := "LoanNames", name := "breach", desc := "(I)I" } : Jvm.MethodName) prog_1_method_36_code (5 : Nat) (Option.some Jvm.ClassFile.FieldType.int)) ∈ lw_all := lw_g (lw_at lw_m6 8 rfl) rfl
theorem q1299 : (Jvm.Cond.methodLink "LoanNames" (311 : Nat) ({ cls := "LoanNames$Bundle", name := "isBarred", desc := "(LLoanNames$Rule;)Z" } : Jvm.MethodName)) ∈ lw_all := lw_g (lw_at lw_m6 9 rfl) rfl
theorem q1325 : (Jvm.Cond.methodLink "LoanNames" (320 : Nat) ({ cls := "LoanNames$Bundle", name := "firstOf", desc := "(LLoanNames$Rule;)I" } : Jvm.MethodName)) ∈ lw_all := lw_g (lw_at lw_m6 35 rfl) rfl
theorem q1326 : (Jvm.Cond.methodLink "LoanNames" (324 : Nat) ({ cls := "LoanNames$Bundle", name := "secondOf", desc := "(LLoanNames$Rule;I)I" } : Jvm.MethodName)) ∈ lw_all := lw_g (lw_at lw_m6 36 rfl) rfl
theorem q1328 : (Jvm.Cond.instanceMethod ({ cls := "LoanNames", name := "bars", desc := "(I)I" } : Jvm.MethodName)) ∈ lw_all := lw_g (lw_at lw_m6 38 rfl) rfl
theorem q1329 : (Jvm.Cond.selects "LoanNames" ({ cls := "LoanNames", name := "bars", desc := "(I)I" } : Jvm.MethodName) ({ cls := "LoanNames", name := "bars", desc := "(I)I" } : Jvm.MethodName)) ∈ lw_all := lw_g (lw_at lw_m6 39 rfl) rfl
theorem q1330 : (Jvm.Cond.code ({ cls := "LoanNames", name := "bars", desc := "(I)I" } : Jvm.MethodName) prog_1_method_37_code (2 : Nat) (Option.some Jvm.ClassFile.FieldType.int)) ∈ lw_all := lw_g (lw_at lw_m6 40 rfl) rfl
theorem q1331 : (Jvm.Cond.methodLink "LoanNames" (328 : Nat) ({ cls := "LoanNames$Bundle", name := "isBarred", desc := "(LLoanNames$Law;)Z" } : Jvm.MethodName)) ∈ lw_all := lw_g (lw_at lw_m6 41 rfl) rfl
theorem q1337 : (Jvm.Cond.instanceMethod ({ cls := "LoanNames", name := "offer", desc := "(I)I" } : Jvm.MethodName)) ∈ lw_all := lw_g (lw_at lw_m6 47 rfl) rfl
theorem q1338 : (Jvm.Cond.selects "LoanNames" ({ cls := "LoanNames", name := "offer", desc := "(I)I" } : Jvm.MethodName) ({ cls := "LoanNames", name := "offer", desc := "(I)I" } : Jvm.MethodName)) ∈ lw_all := lw_g (lw_at lw_m6 48 rfl) rfl
theorem q1339 : (Jvm.Cond.code ({ cls := "LoanNames", name := "offer", desc := "(I)I" } : Jvm.MethodName) prog_1_method_38_code (4 : Nat) (Option.some Jvm.ClassFile.FieldType.int)) ∈ lw_all := lw_g (lw_at lw_m6 49 rfl) rfl
theorem q1341 : (Jvm.Cond.instanceMethod ({ cls := "LoanNames", name := "sly", desc := "(II)I" } : Jvm.MethodName)) ∈ lw_all := lw_g (lw_at lw_m6 51 rfl) rfl
theorem q1342 : (Jvm.Cond.selects "LoanNames" ({ cls := "LoanNames", name := "sly", desc := "(II)I" } : Jvm.MethodName) ({ cls := "LoanNames", name := "sly", desc := "(II)I" } : Jvm.MethodName)) ∈ lw_all := lw_g (lw_at lw_m6 52 rfl) rfl
theorem q1343 : (Jvm.Cond.code ({ cls := "LoanNames", name := "sly", desc := "(II)I" } : Jvm.MethodName) prog_1_method_40_code (6 : Nat) (Option.some Jvm.ClassFile.FieldType.int)) ∈ lw_all := lw_g (lw_at lw_m6 53 rfl) rfl
theorem q1344 : (Jvm.Cond.methodLink "LoanNames" (337 : Nat) ({ cls := "java/lang/Integer", name := "bitCount", desc := "(I)I" } : Jvm.MethodName)) ∈ lw_all := lw_g (lw_at lw_m6 54 rfl) rfl
theorem q1345 : (Jvm.Cond.methodLink "LoanNames" (342 : Nat) ({ cls := "LoanNames", name := "isSly", desc := "(I)Z" } : Jvm.MethodName)) ∈ lw_all := lw_g (lw_at lw_m6 55 rfl) rfl
theorem q1346 : (Jvm.Cond.privateMethod ({ cls := "LoanNames", name := "isSly", desc := "(I)Z" } : Jvm.MethodName)) ∈ lw_tbl := lw_at lw_m6 56 rfl
theorem q1347 : (Jvm.Cond.instanceMethod ({ cls := "LoanNames", name := "isSly", desc := "(I)Z" } : Jvm.MethodName)) ∈ lw_all := lw_g (lw_at lw_m6 57 rfl) rfl
theorem q1348 : (Jvm.Cond.code ({ cls := "LoanNames", name := "isSly", desc := "(I)Z" } : Jvm.MethodName) prog_1_method_39_code (3 : Nat) (Option.some Jvm.ClassFile.FieldType.boolean)) ∈ lw_all := lw_g (lw_at lw_m6 58 rfl) rfl
theorem q1349 : (Jvm.Cond.methodLink "LoanNames" (334 : Nat) ({ cls := "LoanNames", name := "has", desc := "(II)Z" } : Jvm.MethodName)) ∈ lw_all := lw_g (lw_at lw_m6 59 rfl) rfl
theorem q1351 : (Jvm.Cond.instanceMethod ({ cls := "LoanNames", name := "honest", desc := "()I" } : Jvm.MethodName)) ∈ lw_all := lw_g (lw_at lw_m6 61 rfl) rfl
theorem q1352 : (Jvm.Cond.selects "LoanNames" ({ cls := "LoanNames", name := "honest", desc := "()I" } : Jvm.MethodName) ({ cls := "LoanNames", name := "honest", desc := "()I" } : Jvm.MethodName)) ∈ lw_all := lw_g (lw_at lw_m6 62 rfl) rfl
theorem q1353 : (Jvm.Cond.code ({ cls := "LoanNames", name := "honest", desc := "()I" } : Jvm.MethodName) prog_1_method_41_code (1 : Nat) (Option.some Jvm.ClassFile.FieldType.int)) ∈ lw_all := lw_g (lw_at lw_m6 63 rfl) rfl
theorem q1354 : (Jvm.Cond.methodLink "LoanNames" (348 : Nat) ({ cls := "LoanNames$Bundle", name := "is", desc := "(LLoanNames$Bundle;)V" } : Jvm.MethodName)) ∈ lw_all := lw_g (lw_at lw_m6 64 rfl) rfl
theorem q1361 : (Jvm.Cond.instanceMethod ({ cls := "LoanNames", name := "innocent", desc := "(II)I" } : Jvm.MethodName)) ∈ lw_all := lw_g (lw_at lw_m6 71 rfl) rfl
theorem q1362 : (Jvm.Cond.selects "LoanNames" ({ cls := "LoanNames", name := "innocent", desc := "(II)I" } : Jvm.MethodName) ({ cls := "LoanNames", name := "innocent", desc := "(II)I" } : Jvm.MethodName)) ∈ lw_all := lw_g (lw_at lw_m6 72 rfl) rfl
theorem q1363 : (Jvm.Cond.code ({ cls := "LoanNames", name := "innocent", desc := "(II)I" } : Jvm.MethodName) prog_1_method_42_code (4 : Nat) (Option.some Jvm.ClassFile.FieldType.int)) ∈ lw_all := lw_g (lw_at lw_m6 73 rfl) rfl
theorem q1365 : (Jvm.Cond.instanceMethod ({ cls := "LoanNames", name := "parts", desc := "(I)I" } : Jvm.MethodName)) ∈ lw_all := lw_g (lw_at lw_m6 75 rfl) rfl
theorem q1366 : (Jvm.Cond.selects "LoanNames" ({ cls := "LoanNames", name := "parts", desc := "(I)I" } : Jvm.MethodName) ({ cls := "LoanNames", name := "parts", desc := "(I)I" } : Jvm.MethodName)) ∈ lw_all := lw_g (lw_at lw_m6 76 rfl) rfl
theorem q1367 : (Jvm.Cond.code ({ cls := "LoanNames", name := "parts", desc := "(I)I" } : Jvm.MethodName) prog_1_method_44_code (3 : Nat) (Option.some Jvm.ClassFile.FieldType.int)) ∈ lw_all := lw_g (lw_at lw_m6 77 rfl) rfl
theorem q1368 : (Jvm.Cond.methodLink "LoanNames" (359 : Nat) ({ cls := "LoanNames", name := "areAlike", desc := "(LLoanNames$Bundle;LLoanNames$Bundle;I)Z" } : Jvm.MethodName)) ∈ lw_all := lw_g (lw_at lw_m6 78 rfl) rfl
theorem q1369 : (Jvm.Cond.privateMethod ({ cls := "LoanNames", name := "areAlike", desc := "(LLoanNames$Bundle;LLoanNames$Bundle;I)Z" } : Jvm.MethodName)) ∈ lw_tbl := lw_at lw_m6 79 rfl
theorem q1370 : (Jvm.Cond.instanceMethod ({ cls := "LoanNames", name := "areAlike", desc := "(LLoanNames$Bundle;LLoanNames$Bundle;I)Z" } : Jvm.MethodName)) ∈ lw_all := lw_g (lw_at lw_m6 80 rfl) rfl
theorem q1371 : (Jvm.Cond.code ({ cls := "LoanNames", name := "areAlike", desc := "(LLoanNames$Bundle;LLoanNames$Bundle;I)Z" } : Jvm.MethodName) prog_1_method_43_code (6 : Nat) (Option.some Jvm.ClassFile.FieldType.boolean)) ∈ lw_all := lw_g (lw_at lw_m6 81 rfl) rfl
theorem q1373 : (Jvm.Cond.instanceMethod ({ cls := "LoanNames", name := "stop", desc := "(I)I" } : Jvm.MethodName)) ∈ lw_all := lw_g (lw_at lw_m6 83 rfl) rfl
theorem q1374 : (Jvm.Cond.selects "LoanNames" ({ cls := "LoanNames", name := "stop", desc := "(I)I" } : Jvm.MethodName) ({ cls := "LoanNames", name := "stop", desc := "(I)I" } : Jvm.MethodName)) ∈ lw_all := lw_g (lw_at lw_m6 84 rfl) rfl
theorem q1375 : (Jvm.Cond.code ({ cls := "LoanNames", name := "stop", desc := "(I)I" } : Jvm.MethodName) prog_1_method_46_code (9 : Nat) (Option.some Jvm.ClassFile.FieldType.int)) ∈ lw_all := lw_g (lw_at lw_m6 85 rfl) rfl
theorem q1376 : (Jvm.Cond.methodLink "LoanNames" (363 : Nat) ({ cls := "LoanNames", name := "barring", desc := "(LLoanNames$Bundle;)I" } : Jvm.MethodName)) ∈ lw_all := lw_g (lw_at lw_m6 86 rfl) rfl
theorem q1377 : (Jvm.Cond.privateMethod ({ cls := "LoanNames", name := "barring", desc := "(LLoanNames$Bundle;)I" } : Jvm.MethodName)) ∈ lw_tbl := lw_at lw_m6 87 rfl
theorem q1378 : (Jvm.Cond.instanceMethod ({ cls := "LoanNames", name := "barring", desc := "(LLoanNames$Bundle;)I" } : Jvm.MethodName)) ∈ lw_all := lw_g (lw_at lw_m6 88 rfl) rfl
theorem q1379 : (Jvm.Cond.code ({ cls := "LoanNames", name := "barring", desc := "(LLoanNames$Bundle;)I" } : Jvm.MethodName) prog_1_method_45_code (4 : Nat) (Option.some Jvm.ClassFile.FieldType.int)) ∈ lw_all := lw_g (lw_at lw_m6 89 rfl) rfl
theorem q1381 : (Jvm.Cond.instanceMethod ({ cls := "LoanNames", name := "heap", desc := "(II)I" } : Jvm.MethodName)) ∈ lw_all := lw_g (lw_at lw_m6 91 rfl) rfl
theorem q1382 : (Jvm.Cond.selects "LoanNames" ({ cls := "LoanNames", name := "heap", desc := "(II)I" } : Jvm.MethodName) ({ cls := "LoanNames", name := "heap", desc := "(II)I" } : Jvm.MethodName)) ∈ lw_all := lw_g (lw_at lw_m6 92 rfl) rfl
theorem q1383 : (Jvm.Cond.code ({ cls := "LoanNames", name := "heap", desc := "(II)I" } : Jvm.MethodName) prog_1_method_49_code (5 : Nat) (Option.some Jvm.ClassFile.FieldType.int)) ∈ lw_all := lw_g (lw_at lw_m6 93 rfl) rfl
theorem q1384 : (Jvm.Cond.methodLink "LoanNames" (374 : Nat) ({ cls := "LoanNames", name := "groups", desc := "(I)V" } : Jvm.MethodName)) ∈ lw_all := lw_g (lw_at lw_m6 94 rfl) rfl
theorem q1385 : (Jvm.Cond.privateMethod ({ cls := "LoanNames", name := "groups", desc := "(I)V" } : Jvm.MethodName)) ∈ lw_tbl := lw_at lw_m6 95 rfl
theorem q1386 : (Jvm.Cond.instanceMethod ({ cls := "LoanNames", name := "groups", desc := "(I)V" } : Jvm.MethodName)) ∈ lw_all := lw_g (lw_at lw_m6 96 rfl) rfl
theorem q1387 : (Jvm.Cond.code ({ cls := "LoanNames", name := "groups", desc := "(I)V" } : Jvm.MethodName) prog_1_method_48_code (5 : Nat) (Option.none : Option Jvm.ClassFile.FieldType)) ∈ lw_all := lw_g (lw_at lw_m6 97 rfl) rfl
theorem q1388 : (Jvm.Cond.methodLink "LoanNames" (370 : Nat) ({ cls := "LoanNames", name := "hang", desc := "(LLoanNames$Deal;LLoanNames$Deal;I)Z" } : Jvm.MethodName)) ∈ lw_all := lw_g (lw_at lw_m6 98 rfl) rfl
theorem q1389 : (Jvm.Cond.privateMethod ({ cls := "LoanNames", name := "hang", desc := "(LLoanNames$Deal;LLoanNames$Deal;I)Z" } : Jvm.MethodName)) ∈ lw_tbl := lw_at lw_m6 99 rfl
theorem q1390 : (Jvm.Cond.instanceMethod ({ cls := "LoanNames", name := "hang", desc := "(LLoanNames$Deal;LLoanNames$Deal;I)Z" } : Jvm.MethodName)) ∈ lw_all := lw_g (lw_at lw_m6 100 rfl) rfl
theorem q1391 : (Jvm.Cond.code ({ cls := "LoanNames", name := "hang", desc := "(LLoanNames$Deal;LLoanNames$Deal;I)Z" } : Jvm.MethodName) prog_1_method_47_code (4 : Nat) (Option.some Jvm.ClassFile.FieldType.boolean)) ∈ lw_all := lw_g (lw_at lw_m6 101 rfl) rfl
theorem q1392 : (Jvm.Cond.methodLink "LoanNames" (367 : Nat) ({ cls := "java/lang/Math", name := "abs", desc := "(I)I" } : Jvm.MethodName)) ∈ lw_all := lw_g (lw_at lw_m6 102 rfl) rfl
theorem q1396 : (Jvm.Cond.instanceMethod ({ cls := "LoanNames", name := "group", desc := "(II)I" } : Jvm.MethodName)) ∈ lw_all := lw_g (lw_at lw_m6 106 rfl) rfl
theorem q1397 : (Jvm.Cond.selects "LoanNames" ({ cls := "LoanNames", name := "group", desc := "(II)I" } : Jvm.MethodName) ({ cls := "LoanNames", name := "group", desc := "(II)I" } : Jvm.MethodName)) ∈ lw_all := lw_g (lw_at lw_m6 107 rfl) rfl
theorem q1398 : (Jvm.Cond.code ({ cls := "LoanNames", name := "group", desc := "(II)I" } : Jvm.MethodName) prog_1_method_50_code (5 : Nat) (Option.some Jvm.ClassFile.FieldType.int)) ∈ lw_all := lw_g (lw_at lw_m6 108 rfl) rfl
theorem q1400 : (Jvm.Cond.instanceMethod ({ cls := "LoanNames", name := "count", desc := "(I)I" } : Jvm.MethodName)) ∈ lw_all := lw_g (lw_at lw_m6 110 rfl) rfl
theorem q1401 : (Jvm.Cond.selects "LoanNames" ({ cls := "LoanNames", name := "count", desc := "(I)I" } : Jvm.MethodName) ({ cls := "LoanNames", name := "count", desc := "(I)I" } : Jvm.MethodName)) ∈ lw_all := lw_g (lw_at lw_m6 111 rfl) rfl
theorem q1402 : (Jvm.Cond.code ({ cls := "LoanNames", name := "count", desc := "(I)I" } : Jvm.MethodName) prog_1_method_51_code (2 : Nat) (Option.some Jvm.ClassFile.FieldType.int)) ∈ lw_all := lw_g (lw_at lw_m6 112 rfl) rfl
theorem in_X0 : ∀ w ∈ wsX00, w ∈ lw_all := lw_in wsX00 [284, 286, 288, 290, 292, 294, 296, 298, 300, 302, 304, 306, 308, 310, 312, 314, 316] (by decide +kernel) (by decide +kernel)
/-! LoanNames$Bundle -/
set_option maxRecDepth 100000
def RX2 : String := "LoanNames$Bundle"
def TX2 : u_T := fun k => match k with
  | 0 => ("LoanNames$Bundle", "deals", "[LLoanNames$Deal;", true)
  | 1 => ("LoanNames$Bundle", "row", "LLoanNames$LeafRow;", true)
  | 2 => ("LoanNames$Bundle", "sink", "LLoanNames$Sink;", true)
  | 3 => ("LoanNames$Bundle", "days", "[I", true)
  | 4 => ("LoanNames$Bundle", "coins", "[J", true)
  | 5 => ("LoanNames$Bundle", "totals", "[J", true)
  | 6 => ("LoanNames$Bundle", "may", "[Z", true)
  | 7 => ("LoanNames$Bundle", "many", "I", false)
  | 8 => ("LoanNames$Bundle", "choices", "I", false)
  | 9 => ("LoanNames$Bundle", "events", "I", false)
  | 10 => ("LoanNames$Bundle", "dayMany", "I", false)
  | _ => ("LoanNames$Bundle", "this$0", "LLoanNames;", true)
def tyX2 : Nat → FieldType := fun k => match k with
  | 0 => .array (.object "LoanNames$Deal")
  | 1 => .object "LoanNames$LeafRow"
  | 2 => .object "LoanNames$Sink"
  | 3 => .array .int
  | 4 => .array .long
  | 5 => .array .long
  | 6 => .array .boolean
  | 7 => .int
  | 8 => .int
  | 9 => .int
  | 10 => .int
  | _ => .object "LoanNames"
abbrev wsX20 : List Cond := u_ws RX2 TX2 12
theorem nmX2 : ∀ a, a < 12 → ∀ b, b < 12 → a ≠ b → (TX2 a).2.1 ≠ (TX2 b).2.1 := by decide +kernel
theorem tyX2_ok : ∀ k, k < 12 → parseFieldDescriptor (TX2 k).2.2.1 = some (tyX2 k) := by decide +kernel
abbrev cX2_init : ByteArray := prog_4_method_1_code
def yX2_init : MethodName := ⟨RX2, "<init>", "(LLoanNames;)V"⟩
def dkwX2_init_3 : List UInt8 := [188, 4, 181, 0, 46, 177]
abbrev dktX2_init_3 : List UInt8 := dkwX2_init_3 ++ []
def dkwX2_init_2 : List UInt8 := [181, 0, 35, 42, 17, 6, 192, 188, 11, 181, 0, 39, 42, 16, 48, 188, 11, 181, 0, 43, 42, 16, 64]
abbrev dktX2_init_2 : List UInt8 := dkwX2_init_2 ++ dktX2_init_3
def dkwX2_init_1 : List UInt8 := [183, 0, 23, 181, 0, 24, 42, 187, 0, 28, 89, 183, 0, 30, 181, 0, 31, 42, 17, 0, 216, 188, 10]
abbrev dktX2_init_1 : List UInt8 := dkwX2_init_1 ++ dktX2_init_2
def dkwX2_init_0 : List UInt8 := [42, 43, 181, 0, 3, 42, 183, 0, 9, 42, 16, 6, 189, 0, 15, 181, 0, 17, 42, 187, 0, 21, 89]
abbrev dktX2_init_0 : List UInt8 := dkwX2_init_0 ++ dktX2_init_1
theorem dksX2_init_0 : cX2_init.data.toList.drop 0 = dktX2_init_0 := by decide +kernel
theorem dksX2_init_1 : cX2_init.data.toList.drop 23 = dktX2_init_1 := dk_seg dksX2_init_0 23 rfl rfl
theorem dksX2_init_2 : cX2_init.data.toList.drop 46 = dktX2_init_2 := dk_seg dksX2_init_1 23 rfl rfl
theorem dksX2_init_3 : cX2_init.data.toList.drop 69 = dktX2_init_3 := dk_seg dksX2_init_2 23 rfl rfl
theorem dX2_init_0 : decode cX2_init 0 = .ok (.aload_n 0, 1) := dk_42 (dk_at dksX2_init_0 0 rfl rfl)
theorem dX2_init_1 : decode cX2_init 1 = .ok (.aload_n 1, 1) := dk_43 (dk_at dksX2_init_0 1 rfl rfl)
theorem dX2_init_2 : decode cX2_init 2 = .ok (.putfield 3, 3) := dk_181 0 3 (dk_at dksX2_init_0 2 rfl rfl)
theorem dX2_init_5 : decode cX2_init 5 = .ok (.aload_n 0, 1) := dk_42 (dk_at dksX2_init_0 5 rfl rfl)
theorem dX2_init_6 : decode cX2_init 6 = .ok (.invokespecial 9, 3) := dk_183 0 9 (dk_at dksX2_init_0 6 rfl rfl)
theorem dX2_init_9 : decode cX2_init 9 = .ok (.aload_n 0, 1) := dk_42 (dk_at dksX2_init_0 9 rfl rfl)
theorem dX2_init_10 : decode cX2_init 10 = .ok (.bipush 6, 2) := dk_16 6 (dk_at dksX2_init_0 10 rfl rfl)
theorem dX2_init_12 : decode cX2_init 12 = .ok (.anewarray 15, 3) := dk_189 0 15 (dk_at dksX2_init_0 12 rfl rfl)
theorem dX2_init_15 : decode cX2_init 15 = .ok (.putfield 17, 3) := dk_181 0 17 (dk_at dksX2_init_0 15 rfl rfl)
theorem dX2_init_18 : decode cX2_init 18 = .ok (.aload_n 0, 1) := dk_42 (dk_at dksX2_init_0 18 rfl rfl)
theorem dX2_init_19 : decode cX2_init 19 = .ok (.new 21, 3) := dk_187 0 21 (dk_at dksX2_init_0 19 rfl rfl)
theorem dX2_init_22 : decode cX2_init 22 = .ok (.dup, 1) := dk_89 (dk_at dksX2_init_0 22 rfl rfl)
theorem dX2_init_23 : decode cX2_init 23 = .ok (.invokespecial 23, 3) := dk_183 0 23 (dk_at dksX2_init_1 0 rfl rfl)
theorem dX2_init_26 : decode cX2_init 26 = .ok (.putfield 24, 3) := dk_181 0 24 (dk_at dksX2_init_1 3 rfl rfl)
theorem dX2_init_29 : decode cX2_init 29 = .ok (.aload_n 0, 1) := dk_42 (dk_at dksX2_init_1 6 rfl rfl)
theorem dX2_init_30 : decode cX2_init 30 = .ok (.new 28, 3) := dk_187 0 28 (dk_at dksX2_init_1 7 rfl rfl)
theorem dX2_init_33 : decode cX2_init 33 = .ok (.dup, 1) := dk_89 (dk_at dksX2_init_1 10 rfl rfl)
theorem dX2_init_34 : decode cX2_init 34 = .ok (.invokespecial 30, 3) := dk_183 0 30 (dk_at dksX2_init_1 11 rfl rfl)
theorem dX2_init_37 : decode cX2_init 37 = .ok (.putfield 31, 3) := dk_181 0 31 (dk_at dksX2_init_1 14 rfl rfl)
theorem dX2_init_40 : decode cX2_init 40 = .ok (.aload_n 0, 1) := dk_42 (dk_at dksX2_init_1 17 rfl rfl)
theorem dX2_init_41 : decode cX2_init 41 = .ok (.sipush 216, 3) := dk_17 0 216 (dk_at dksX2_init_1 18 rfl rfl)
theorem dX2_init_44 : decode cX2_init 44 = .ok (.newarray .int, 2) := dk_188_10 (dk_at dksX2_init_1 21 rfl rfl)
theorem dX2_init_46 : decode cX2_init 46 = .ok (.putfield 35, 3) := dk_181 0 35 (dk_at dksX2_init_2 0 rfl rfl)
theorem dX2_init_49 : decode cX2_init 49 = .ok (.aload_n 0, 1) := dk_42 (dk_at dksX2_init_2 3 rfl rfl)
theorem dX2_init_50 : decode cX2_init 50 = .ok (.sipush 1728, 3) := dk_17 6 192 (dk_at dksX2_init_2 4 rfl rfl)
theorem dX2_init_53 : decode cX2_init 53 = .ok (.newarray .long, 2) := dk_188_11 (dk_at dksX2_init_2 7 rfl rfl)
theorem dX2_init_55 : decode cX2_init 55 = .ok (.putfield 39, 3) := dk_181 0 39 (dk_at dksX2_init_2 9 rfl rfl)
theorem dX2_init_58 : decode cX2_init 58 = .ok (.aload_n 0, 1) := dk_42 (dk_at dksX2_init_2 12 rfl rfl)
theorem dX2_init_59 : decode cX2_init 59 = .ok (.bipush 48, 2) := dk_16 48 (dk_at dksX2_init_2 13 rfl rfl)
theorem dX2_init_61 : decode cX2_init 61 = .ok (.newarray .long, 2) := dk_188_11 (dk_at dksX2_init_2 15 rfl rfl)
theorem dX2_init_63 : decode cX2_init 63 = .ok (.putfield 43, 3) := dk_181 0 43 (dk_at dksX2_init_2 17 rfl rfl)
theorem dX2_init_66 : decode cX2_init 66 = .ok (.aload_n 0, 1) := dk_42 (dk_at dksX2_init_2 20 rfl rfl)
theorem dX2_init_67 : decode cX2_init 67 = .ok (.bipush 64, 2) := dk_16 64 (dk_at dksX2_init_2 21 rfl rfl)
theorem dX2_init_69 : decode cX2_init 69 = .ok (.newarray .boolean, 2) := dk_188_4 (dk_at dksX2_init_3 0 rfl rfl)
theorem dX2_init_71 : decode cX2_init 71 = .ok (.putfield 46, 3) := dk_181 0 46 (dk_at dksX2_init_3 2 rfl rfl)
theorem dX2_init_74 : decode cX2_init 74 = .ok (.return_, 1) := dk_177 (dk_at dksX2_init_3 5 rfl rfl)
abbrev cX2_hasDeal : ByteArray := prog_4_method_2_code
def yX2_hasDeal : MethodName := ⟨RX2, "hasDeal", "(LLoanNames$Deal;)Z"⟩
def dkwX2_hasDeal_1 : List UInt8 := [166, 0, 7, 4, 167, 0, 4, 3, 61, 132, 3, 1, 167, 255, 225, 28, 172]
abbrev dktX2_hasDeal_1 : List UInt8 := dkwX2_hasDeal_1 ++ []
def dkwX2_hasDeal_0 : List UInt8 := [3, 61, 3, 62, 29, 42, 180, 0, 50, 162, 0, 29, 28, 154, 0, 13, 42, 180, 0, 17, 29, 50, 43]
abbrev dktX2_hasDeal_0 : List UInt8 := dkwX2_hasDeal_0 ++ dktX2_hasDeal_1
theorem dksX2_hasDeal_0 : cX2_hasDeal.data.toList.drop 0 = dktX2_hasDeal_0 := by decide +kernel
theorem dksX2_hasDeal_1 : cX2_hasDeal.data.toList.drop 23 = dktX2_hasDeal_1 := dk_seg dksX2_hasDeal_0 23 rfl rfl
theorem dX2_hasDeal_0 : decode cX2_hasDeal 0 = .ok (.iconst 0, 1) := dk_3 (dk_at dksX2_hasDeal_0 0 rfl rfl)
theorem dX2_hasDeal_1 : decode cX2_hasDeal 1 = .ok (.istore_n 2, 1) := dk_61 (dk_at dksX2_hasDeal_0 1 rfl rfl)
theorem dX2_hasDeal_2 : decode cX2_hasDeal 2 = .ok (.iconst 0, 1) := dk_3 (dk_at dksX2_hasDeal_0 2 rfl rfl)
theorem dX2_hasDeal_3 : decode cX2_hasDeal 3 = .ok (.istore_n 3, 1) := dk_62 (dk_at dksX2_hasDeal_0 3 rfl rfl)
theorem dX2_hasDeal_4 : decode cX2_hasDeal 4 = .ok (.iload_n 3, 1) := dk_29 (dk_at dksX2_hasDeal_0 4 rfl rfl)
theorem dX2_hasDeal_5 : decode cX2_hasDeal 5 = .ok (.aload_n 0, 1) := dk_42 (dk_at dksX2_hasDeal_0 5 rfl rfl)
theorem dX2_hasDeal_6 : decode cX2_hasDeal 6 = .ok (.getfield 50, 3) := dk_180 0 50 (dk_at dksX2_hasDeal_0 6 rfl rfl)
theorem dX2_hasDeal_9 : decode cX2_hasDeal 9 = .ok (.if_icmp .ge 29, 3) := dk_162 0 29 (dk_at dksX2_hasDeal_0 9 rfl rfl)
theorem dX2_hasDeal_12 : decode cX2_hasDeal 12 = .ok (.iload_n 2, 1) := dk_28 (dk_at dksX2_hasDeal_0 12 rfl rfl)
theorem dX2_hasDeal_13 : decode cX2_hasDeal 13 = .ok (.ifCond .ne 13, 3) := dk_154 0 13 (dk_at dksX2_hasDeal_0 13 rfl rfl)
theorem dX2_hasDeal_16 : decode cX2_hasDeal 16 = .ok (.aload_n 0, 1) := dk_42 (dk_at dksX2_hasDeal_0 16 rfl rfl)
theorem dX2_hasDeal_17 : decode cX2_hasDeal 17 = .ok (.getfield 17, 3) := dk_180 0 17 (dk_at dksX2_hasDeal_0 17 rfl rfl)
theorem dX2_hasDeal_20 : decode cX2_hasDeal 20 = .ok (.iload_n 3, 1) := dk_29 (dk_at dksX2_hasDeal_0 20 rfl rfl)
theorem dX2_hasDeal_21 : decode cX2_hasDeal 21 = .ok (.aaload, 1) := dk_50 (dk_at dksX2_hasDeal_0 21 rfl rfl)
theorem dX2_hasDeal_22 : decode cX2_hasDeal 22 = .ok (.aload_n 1, 1) := dk_43 (dk_at dksX2_hasDeal_0 22 rfl rfl)
theorem dX2_hasDeal_23 : decode cX2_hasDeal 23 = .ok (.if_acmp .ne 7, 3) := dk_166 0 7 (dk_at dksX2_hasDeal_1 0 rfl rfl)
theorem dX2_hasDeal_26 : decode cX2_hasDeal 26 = .ok (.iconst 1, 1) := dk_4 (dk_at dksX2_hasDeal_1 3 rfl rfl)
theorem dX2_hasDeal_27 : decode cX2_hasDeal 27 = .ok (.goto 4, 3) := dk_167 0 4 (dk_at dksX2_hasDeal_1 4 rfl rfl)
theorem dX2_hasDeal_30 : decode cX2_hasDeal 30 = .ok (.iconst 0, 1) := dk_3 (dk_at dksX2_hasDeal_1 7 rfl rfl)
theorem dX2_hasDeal_31 : decode cX2_hasDeal 31 = .ok (.istore_n 2, 1) := dk_61 (dk_at dksX2_hasDeal_1 8 rfl rfl)
theorem dX2_hasDeal_32 : decode cX2_hasDeal 32 = .ok (.iinc 3 1, 3) := dk_132 3 1 (dk_at dksX2_hasDeal_1 9 rfl rfl)
theorem dX2_hasDeal_35 : decode cX2_hasDeal 35 = .ok (.goto (-31), 3) := dk_167 255 225 (dk_at dksX2_hasDeal_1 12 rfl rfl)
theorem dX2_hasDeal_38 : decode cX2_hasDeal 38 = .ok (.iload_n 2, 1) := dk_28 (dk_at dksX2_hasDeal_1 15 rfl rfl)
theorem dX2_hasDeal_39 : decode cX2_hasDeal 39 = .ok (.ireturn, 1) := dk_172 (dk_at dksX2_hasDeal_1 16 rfl rfl)
abbrev cX2_adds : ByteArray := prog_4_method_3_code
def yX2_adds : MethodName := ⟨RX2, "adds", "(LLoanNames$Deal;)V"⟩
def dkwX2_adds_3 : List UInt8 := [28, 50, 43, 180, 0, 62, 180, 0, 68, 28, 46, 182, 0, 71, 132, 2, 1, 167, 255, 217, 177]
abbrev dktX2_adds_3 : List UInt8 := dkwX2_adds_3 ++ []
def dkwX2_adds_2 : List UInt8 := [3, 61, 28, 43, 180, 0, 62, 180, 0, 63, 162, 0, 34, 42, 180, 0, 24, 43, 180, 0, 62, 180, 0, 64]
abbrev dktX2_adds_2 : List UInt8 := dkwX2_adds_2 ++ dktX2_adds_3
def dkwX2_adds_1 : List UInt8 := [180, 0, 54, 43, 180, 0, 57, 96, 181, 0, 54, 42, 89, 180, 0, 58, 43, 180, 0, 61, 128, 181, 0, 58]
abbrev dktX2_adds_1 : List UInt8 := dkwX2_adds_1 ++ dktX2_adds_2
def dkwX2_adds_0 : List UInt8 := [42, 180, 0, 17, 42, 180, 0, 50, 43, 83, 42, 89, 180, 0, 50, 4, 96, 181, 0, 50, 42, 89]
abbrev dktX2_adds_0 : List UInt8 := dkwX2_adds_0 ++ dktX2_adds_1
theorem dksX2_adds_0 : cX2_adds.data.toList.drop 0 = dktX2_adds_0 := by decide +kernel
theorem dksX2_adds_1 : cX2_adds.data.toList.drop 22 = dktX2_adds_1 := dk_seg dksX2_adds_0 22 rfl rfl
theorem dksX2_adds_2 : cX2_adds.data.toList.drop 46 = dktX2_adds_2 := dk_seg dksX2_adds_1 24 rfl rfl
theorem dksX2_adds_3 : cX2_adds.data.toList.drop 70 = dktX2_adds_3 := dk_seg dksX2_adds_2 24 rfl rfl
theorem dX2_adds_0 : decode cX2_adds 0 = .ok (.aload_n 0, 1) := dk_42 (dk_at dksX2_adds_0 0 rfl rfl)
theorem dX2_adds_1 : decode cX2_adds 1 = .ok (.getfield 17, 3) := dk_180 0 17 (dk_at dksX2_adds_0 1 rfl rfl)
theorem dX2_adds_4 : decode cX2_adds 4 = .ok (.aload_n 0, 1) := dk_42 (dk_at dksX2_adds_0 4 rfl rfl)
theorem dX2_adds_5 : decode cX2_adds 5 = .ok (.getfield 50, 3) := dk_180 0 50 (dk_at dksX2_adds_0 5 rfl rfl)
theorem dX2_adds_8 : decode cX2_adds 8 = .ok (.aload_n 1, 1) := dk_43 (dk_at dksX2_adds_0 8 rfl rfl)
theorem dX2_adds_9 : decode cX2_adds 9 = .ok (.aastore, 1) := dk_83 (dk_at dksX2_adds_0 9 rfl rfl)
theorem dX2_adds_10 : decode cX2_adds 10 = .ok (.aload_n 0, 1) := dk_42 (dk_at dksX2_adds_0 10 rfl rfl)
theorem dX2_adds_11 : decode cX2_adds 11 = .ok (.dup, 1) := dk_89 (dk_at dksX2_adds_0 11 rfl rfl)
theorem dX2_adds_12 : decode cX2_adds 12 = .ok (.getfield 50, 3) := dk_180 0 50 (dk_at dksX2_adds_0 12 rfl rfl)
theorem dX2_adds_15 : decode cX2_adds 15 = .ok (.iconst 1, 1) := dk_4 (dk_at dksX2_adds_0 15 rfl rfl)
theorem dX2_adds_16 : decode cX2_adds 16 = .ok (.iadd, 1) := dk_96 (dk_at dksX2_adds_0 16 rfl rfl)
theorem dX2_adds_17 : decode cX2_adds 17 = .ok (.putfield 50, 3) := dk_181 0 50 (dk_at dksX2_adds_0 17 rfl rfl)
theorem dX2_adds_20 : decode cX2_adds 20 = .ok (.aload_n 0, 1) := dk_42 (dk_at dksX2_adds_0 20 rfl rfl)
theorem dX2_adds_21 : decode cX2_adds 21 = .ok (.dup, 1) := dk_89 (dk_at dksX2_adds_0 21 rfl rfl)
theorem dX2_adds_22 : decode cX2_adds 22 = .ok (.getfield 54, 3) := dk_180 0 54 (dk_at dksX2_adds_1 0 rfl rfl)
theorem dX2_adds_25 : decode cX2_adds 25 = .ok (.aload_n 1, 1) := dk_43 (dk_at dksX2_adds_1 3 rfl rfl)
theorem dX2_adds_26 : decode cX2_adds 26 = .ok (.getfield 57, 3) := dk_180 0 57 (dk_at dksX2_adds_1 4 rfl rfl)
theorem dX2_adds_29 : decode cX2_adds 29 = .ok (.iadd, 1) := dk_96 (dk_at dksX2_adds_1 7 rfl rfl)
theorem dX2_adds_30 : decode cX2_adds 30 = .ok (.putfield 54, 3) := dk_181 0 54 (dk_at dksX2_adds_1 8 rfl rfl)
theorem dX2_adds_33 : decode cX2_adds 33 = .ok (.aload_n 0, 1) := dk_42 (dk_at dksX2_adds_1 11 rfl rfl)
theorem dX2_adds_34 : decode cX2_adds 34 = .ok (.dup, 1) := dk_89 (dk_at dksX2_adds_1 12 rfl rfl)
theorem dX2_adds_35 : decode cX2_adds 35 = .ok (.getfield 58, 3) := dk_180 0 58 (dk_at dksX2_adds_1 13 rfl rfl)
theorem dX2_adds_38 : decode cX2_adds 38 = .ok (.aload_n 1, 1) := dk_43 (dk_at dksX2_adds_1 16 rfl rfl)
theorem dX2_adds_39 : decode cX2_adds 39 = .ok (.getfield 61, 3) := dk_180 0 61 (dk_at dksX2_adds_1 17 rfl rfl)
theorem dX2_adds_42 : decode cX2_adds 42 = .ok (.ior, 1) := dk_128 (dk_at dksX2_adds_1 20 rfl rfl)
theorem dX2_adds_43 : decode cX2_adds 43 = .ok (.putfield 58, 3) := dk_181 0 58 (dk_at dksX2_adds_1 21 rfl rfl)
theorem dX2_adds_46 : decode cX2_adds 46 = .ok (.iconst 0, 1) := dk_3 (dk_at dksX2_adds_2 0 rfl rfl)
theorem dX2_adds_47 : decode cX2_adds 47 = .ok (.istore_n 2, 1) := dk_61 (dk_at dksX2_adds_2 1 rfl rfl)
theorem dX2_adds_48 : decode cX2_adds 48 = .ok (.iload_n 2, 1) := dk_28 (dk_at dksX2_adds_2 2 rfl rfl)
theorem dX2_adds_49 : decode cX2_adds 49 = .ok (.aload_n 1, 1) := dk_43 (dk_at dksX2_adds_2 3 rfl rfl)
theorem dX2_adds_50 : decode cX2_adds 50 = .ok (.getfield 62, 3) := dk_180 0 62 (dk_at dksX2_adds_2 4 rfl rfl)
theorem dX2_adds_53 : decode cX2_adds 53 = .ok (.getfield 63, 3) := dk_180 0 63 (dk_at dksX2_adds_2 7 rfl rfl)
theorem dX2_adds_56 : decode cX2_adds 56 = .ok (.if_icmp .ge 34, 3) := dk_162 0 34 (dk_at dksX2_adds_2 10 rfl rfl)
theorem dX2_adds_59 : decode cX2_adds 59 = .ok (.aload_n 0, 1) := dk_42 (dk_at dksX2_adds_2 13 rfl rfl)
theorem dX2_adds_60 : decode cX2_adds 60 = .ok (.getfield 24, 3) := dk_180 0 24 (dk_at dksX2_adds_2 14 rfl rfl)
theorem dX2_adds_63 : decode cX2_adds 63 = .ok (.aload_n 1, 1) := dk_43 (dk_at dksX2_adds_2 17 rfl rfl)
theorem dX2_adds_64 : decode cX2_adds 64 = .ok (.getfield 62, 3) := dk_180 0 62 (dk_at dksX2_adds_2 18 rfl rfl)
theorem dX2_adds_67 : decode cX2_adds 67 = .ok (.getfield 64, 3) := dk_180 0 64 (dk_at dksX2_adds_2 21 rfl rfl)
theorem dX2_adds_70 : decode cX2_adds 70 = .ok (.iload_n 2, 1) := dk_28 (dk_at dksX2_adds_3 0 rfl rfl)
theorem dX2_adds_71 : decode cX2_adds 71 = .ok (.aaload, 1) := dk_50 (dk_at dksX2_adds_3 1 rfl rfl)
theorem dX2_adds_72 : decode cX2_adds 72 = .ok (.aload_n 1, 1) := dk_43 (dk_at dksX2_adds_3 2 rfl rfl)
theorem dX2_adds_73 : decode cX2_adds 73 = .ok (.getfield 62, 3) := dk_180 0 62 (dk_at dksX2_adds_3 3 rfl rfl)
theorem dX2_adds_76 : decode cX2_adds 76 = .ok (.getfield 68, 3) := dk_180 0 68 (dk_at dksX2_adds_3 6 rfl rfl)
theorem dX2_adds_79 : decode cX2_adds 79 = .ok (.iload_n 2, 1) := dk_28 (dk_at dksX2_adds_3 9 rfl rfl)
theorem dX2_adds_80 : decode cX2_adds 80 = .ok (.iaload, 1) := dk_46 (dk_at dksX2_adds_3 10 rfl rfl)
theorem dX2_adds_81 : decode cX2_adds 81 = .ok (.invokevirtual 71, 3) := dk_182 0 71 (dk_at dksX2_adds_3 11 rfl rfl)
theorem dX2_adds_84 : decode cX2_adds 84 = .ok (.iinc 2 1, 3) := dk_132 2 1 (dk_at dksX2_adds_3 14 rfl rfl)
theorem dX2_adds_87 : decode cX2_adds 87 = .ok (.goto (-39), 3) := dk_167 255 217 (dk_at dksX2_adds_3 17 rfl rfl)
theorem dX2_adds_90 : decode cX2_adds 90 = .ok (.return_, 1) := dk_177 (dk_at dksX2_adds_3 20 rfl rfl)
abbrev cX2_clears : ByteArray := prog_4_method_4_code
def yX2_clears : MethodName := ⟨RX2, "clears", "()V"⟩
def dkwX2_clears_0 : List UInt8 := [42, 3, 181, 0, 50, 42, 3, 181, 0, 54, 42, 3, 181, 0, 58, 42, 180, 0, 24, 3, 181, 0, 63, 177]
abbrev dktX2_clears_0 : List UInt8 := dkwX2_clears_0 ++ []
theorem dksX2_clears_0 : cX2_clears.data.toList.drop 0 = dktX2_clears_0 := by decide +kernel
theorem dX2_clears_0 : decode cX2_clears 0 = .ok (.aload_n 0, 1) := dk_42 (dk_at dksX2_clears_0 0 rfl rfl)
theorem dX2_clears_1 : decode cX2_clears 1 = .ok (.iconst 0, 1) := dk_3 (dk_at dksX2_clears_0 1 rfl rfl)
theorem dX2_clears_2 : decode cX2_clears 2 = .ok (.putfield 50, 3) := dk_181 0 50 (dk_at dksX2_clears_0 2 rfl rfl)
theorem dX2_clears_5 : decode cX2_clears 5 = .ok (.aload_n 0, 1) := dk_42 (dk_at dksX2_clears_0 5 rfl rfl)
theorem dX2_clears_6 : decode cX2_clears 6 = .ok (.iconst 0, 1) := dk_3 (dk_at dksX2_clears_0 6 rfl rfl)
theorem dX2_clears_7 : decode cX2_clears 7 = .ok (.putfield 54, 3) := dk_181 0 54 (dk_at dksX2_clears_0 7 rfl rfl)
theorem dX2_clears_10 : decode cX2_clears 10 = .ok (.aload_n 0, 1) := dk_42 (dk_at dksX2_clears_0 10 rfl rfl)
theorem dX2_clears_11 : decode cX2_clears 11 = .ok (.iconst 0, 1) := dk_3 (dk_at dksX2_clears_0 11 rfl rfl)
theorem dX2_clears_12 : decode cX2_clears 12 = .ok (.putfield 58, 3) := dk_181 0 58 (dk_at dksX2_clears_0 12 rfl rfl)
theorem dX2_clears_15 : decode cX2_clears 15 = .ok (.aload_n 0, 1) := dk_42 (dk_at dksX2_clears_0 15 rfl rfl)
theorem dX2_clears_16 : decode cX2_clears 16 = .ok (.getfield 24, 3) := dk_180 0 24 (dk_at dksX2_clears_0 16 rfl rfl)
theorem dX2_clears_19 : decode cX2_clears 19 = .ok (.iconst 0, 1) := dk_3 (dk_at dksX2_clears_0 19 rfl rfl)
theorem dX2_clears_20 : decode cX2_clears 20 = .ok (.putfield 63, 3) := dk_181 0 63 (dk_at dksX2_clears_0 20 rfl rfl)
theorem dX2_clears_23 : decode cX2_clears 23 = .ok (.return_, 1) := dk_177 (dk_at dksX2_clears_0 23 rfl rfl)
abbrev cX2_isCode : ByteArray := prog_4_method_7_code
def yX2_isCode : MethodName := ⟨RX2, "isCode", "(I)Z"⟩
def dkwX2_isCode_0 : List UInt8 := [27, 155, 0, 18, 27, 16, 32, 42, 180, 0, 54, 120, 162, 0, 7, 4, 167, 0, 4, 3, 172]
abbrev dktX2_isCode_0 : List UInt8 := dkwX2_isCode_0 ++ []
theorem dksX2_isCode_0 : cX2_isCode.data.toList.drop 0 = dktX2_isCode_0 := by decide +kernel
theorem dX2_isCode_0 : decode cX2_isCode 0 = .ok (.iload_n 1, 1) := dk_27 (dk_at dksX2_isCode_0 0 rfl rfl)
theorem dX2_isCode_1 : decode cX2_isCode 1 = .ok (.ifCond .lt 18, 3) := dk_155 0 18 (dk_at dksX2_isCode_0 1 rfl rfl)
theorem dX2_isCode_4 : decode cX2_isCode 4 = .ok (.iload_n 1, 1) := dk_27 (dk_at dksX2_isCode_0 4 rfl rfl)
theorem dX2_isCode_5 : decode cX2_isCode 5 = .ok (.bipush 32, 2) := dk_16 32 (dk_at dksX2_isCode_0 5 rfl rfl)
theorem dX2_isCode_7 : decode cX2_isCode 7 = .ok (.aload_n 0, 1) := dk_42 (dk_at dksX2_isCode_0 7 rfl rfl)
theorem dX2_isCode_8 : decode cX2_isCode 8 = .ok (.getfield 54, 3) := dk_180 0 54 (dk_at dksX2_isCode_0 8 rfl rfl)
theorem dX2_isCode_11 : decode cX2_isCode 11 = .ok (.ishl, 1) := dk_120 (dk_at dksX2_isCode_0 11 rfl rfl)
theorem dX2_isCode_12 : decode cX2_isCode 12 = .ok (.if_icmp .ge 7, 3) := dk_162 0 7 (dk_at dksX2_isCode_0 12 rfl rfl)
theorem dX2_isCode_15 : decode cX2_isCode 15 = .ok (.iconst 1, 1) := dk_4 (dk_at dksX2_isCode_0 15 rfl rfl)
theorem dX2_isCode_16 : decode cX2_isCode 16 = .ok (.goto 4, 3) := dk_167 0 4 (dk_at dksX2_isCode_0 16 rfl rfl)
theorem dX2_isCode_19 : decode cX2_isCode 19 = .ok (.iconst 0, 1) := dk_3 (dk_at dksX2_isCode_0 19 rfl rfl)
theorem dX2_isCode_20 : decode cX2_isCode 20 = .ok (.ireturn, 1) := dk_172 (dk_at dksX2_isCode_0 20 rfl rfl)
abbrev cX2_passes : ByteArray := prog_4_method_10_code
def yX2_passes : MethodName := ⟨RX2, "passes", "(I)LLoanNames$Sink;"⟩
def dkwX2_passes_3 : List UInt8 := [180, 0, 57, 122, 61, 132, 3, 1, 167, 255, 193, 42, 180, 0, 31, 176]
abbrev dktX2_passes_3 : List UInt8 := dkwX2_passes_3 ++ []
def dkwX2_passes_2 : List UInt8 := [29, 50, 180, 0, 57, 120, 4, 100, 126, 8, 120, 128, 182, 0, 93, 28, 42, 180, 0, 17, 29, 50]
abbrev dktX2_passes_2 : List UInt8 := dkwX2_passes_2 ++ dktX2_passes_3
def dkwX2_passes_1 : List UInt8 := [180, 0, 17, 29, 50, 180, 0, 89, 42, 180, 0, 31, 3, 10, 27, 16, 31, 126, 28, 4, 42, 180, 0, 17]
abbrev dktX2_passes_1 : List UInt8 := dkwX2_passes_1 ++ dktX2_passes_2
def dkwX2_passes_0 : List UInt8 := [42, 180, 0, 31, 3, 181, 0, 88, 27, 8, 122, 61, 3, 62, 29, 42, 180, 0, 50, 162, 0, 61, 42]
abbrev dktX2_passes_0 : List UInt8 := dkwX2_passes_0 ++ dktX2_passes_1
theorem dksX2_passes_0 : cX2_passes.data.toList.drop 0 = dktX2_passes_0 := by decide +kernel
theorem dksX2_passes_1 : cX2_passes.data.toList.drop 23 = dktX2_passes_1 := dk_seg dksX2_passes_0 23 rfl rfl
theorem dksX2_passes_2 : cX2_passes.data.toList.drop 47 = dktX2_passes_2 := dk_seg dksX2_passes_1 24 rfl rfl
theorem dksX2_passes_3 : cX2_passes.data.toList.drop 69 = dktX2_passes_3 := dk_seg dksX2_passes_2 22 rfl rfl
theorem dX2_passes_0 : decode cX2_passes 0 = .ok (.aload_n 0, 1) := dk_42 (dk_at dksX2_passes_0 0 rfl rfl)
theorem dX2_passes_1 : decode cX2_passes 1 = .ok (.getfield 31, 3) := dk_180 0 31 (dk_at dksX2_passes_0 1 rfl rfl)
theorem dX2_passes_4 : decode cX2_passes 4 = .ok (.iconst 0, 1) := dk_3 (dk_at dksX2_passes_0 4 rfl rfl)
theorem dX2_passes_5 : decode cX2_passes 5 = .ok (.putfield 88, 3) := dk_181 0 88 (dk_at dksX2_passes_0 5 rfl rfl)
theorem dX2_passes_8 : decode cX2_passes 8 = .ok (.iload_n 1, 1) := dk_27 (dk_at dksX2_passes_0 8 rfl rfl)
theorem dX2_passes_9 : decode cX2_passes 9 = .ok (.iconst 5, 1) := dk_8 (dk_at dksX2_passes_0 9 rfl rfl)
theorem dX2_passes_10 : decode cX2_passes 10 = .ok (.ishr, 1) := dk_122 (dk_at dksX2_passes_0 10 rfl rfl)
theorem dX2_passes_11 : decode cX2_passes 11 = .ok (.istore_n 2, 1) := dk_61 (dk_at dksX2_passes_0 11 rfl rfl)
theorem dX2_passes_12 : decode cX2_passes 12 = .ok (.iconst 0, 1) := dk_3 (dk_at dksX2_passes_0 12 rfl rfl)
theorem dX2_passes_13 : decode cX2_passes 13 = .ok (.istore_n 3, 1) := dk_62 (dk_at dksX2_passes_0 13 rfl rfl)
theorem dX2_passes_14 : decode cX2_passes 14 = .ok (.iload_n 3, 1) := dk_29 (dk_at dksX2_passes_0 14 rfl rfl)
theorem dX2_passes_15 : decode cX2_passes 15 = .ok (.aload_n 0, 1) := dk_42 (dk_at dksX2_passes_0 15 rfl rfl)
theorem dX2_passes_16 : decode cX2_passes 16 = .ok (.getfield 50, 3) := dk_180 0 50 (dk_at dksX2_passes_0 16 rfl rfl)
theorem dX2_passes_19 : decode cX2_passes 19 = .ok (.if_icmp .ge 61, 3) := dk_162 0 61 (dk_at dksX2_passes_0 19 rfl rfl)
theorem dX2_passes_22 : decode cX2_passes 22 = .ok (.aload_n 0, 1) := dk_42 (dk_at dksX2_passes_0 22 rfl rfl)
theorem dX2_passes_23 : decode cX2_passes 23 = .ok (.getfield 17, 3) := dk_180 0 17 (dk_at dksX2_passes_1 0 rfl rfl)
theorem dX2_passes_26 : decode cX2_passes 26 = .ok (.iload_n 3, 1) := dk_29 (dk_at dksX2_passes_1 3 rfl rfl)
theorem dX2_passes_27 : decode cX2_passes 27 = .ok (.aaload, 1) := dk_50 (dk_at dksX2_passes_1 4 rfl rfl)
theorem dX2_passes_28 : decode cX2_passes 28 = .ok (.getfield 89, 3) := dk_180 0 89 (dk_at dksX2_passes_1 5 rfl rfl)
theorem dX2_passes_31 : decode cX2_passes 31 = .ok (.aload_n 0, 1) := dk_42 (dk_at dksX2_passes_1 8 rfl rfl)
theorem dX2_passes_32 : decode cX2_passes 32 = .ok (.getfield 31, 3) := dk_180 0 31 (dk_at dksX2_passes_1 9 rfl rfl)
theorem dX2_passes_35 : decode cX2_passes 35 = .ok (.iconst 0, 1) := dk_3 (dk_at dksX2_passes_1 12 rfl rfl)
theorem dX2_passes_36 : decode cX2_passes 36 = .ok (.lconst 1, 1) := dk_10 (dk_at dksX2_passes_1 13 rfl rfl)
theorem dX2_passes_37 : decode cX2_passes 37 = .ok (.iload_n 1, 1) := dk_27 (dk_at dksX2_passes_1 14 rfl rfl)
theorem dX2_passes_38 : decode cX2_passes 38 = .ok (.bipush 31, 2) := dk_16 31 (dk_at dksX2_passes_1 15 rfl rfl)
theorem dX2_passes_40 : decode cX2_passes 40 = .ok (.iand, 1) := dk_126 (dk_at dksX2_passes_1 17 rfl rfl)
theorem dX2_passes_41 : decode cX2_passes 41 = .ok (.iload_n 2, 1) := dk_28 (dk_at dksX2_passes_1 18 rfl rfl)
theorem dX2_passes_42 : decode cX2_passes 42 = .ok (.iconst 1, 1) := dk_4 (dk_at dksX2_passes_1 19 rfl rfl)
theorem dX2_passes_43 : decode cX2_passes 43 = .ok (.aload_n 0, 1) := dk_42 (dk_at dksX2_passes_1 20 rfl rfl)
theorem dX2_passes_44 : decode cX2_passes 44 = .ok (.getfield 17, 3) := dk_180 0 17 (dk_at dksX2_passes_1 21 rfl rfl)
theorem dX2_passes_47 : decode cX2_passes 47 = .ok (.iload_n 3, 1) := dk_29 (dk_at dksX2_passes_2 0 rfl rfl)
theorem dX2_passes_48 : decode cX2_passes 48 = .ok (.aaload, 1) := dk_50 (dk_at dksX2_passes_2 1 rfl rfl)
theorem dX2_passes_49 : decode cX2_passes 49 = .ok (.getfield 57, 3) := dk_180 0 57 (dk_at dksX2_passes_2 2 rfl rfl)
theorem dX2_passes_52 : decode cX2_passes 52 = .ok (.ishl, 1) := dk_120 (dk_at dksX2_passes_2 5 rfl rfl)
theorem dX2_passes_53 : decode cX2_passes 53 = .ok (.iconst 1, 1) := dk_4 (dk_at dksX2_passes_2 6 rfl rfl)
theorem dX2_passes_54 : decode cX2_passes 54 = .ok (.isub, 1) := dk_100 (dk_at dksX2_passes_2 7 rfl rfl)
theorem dX2_passes_55 : decode cX2_passes 55 = .ok (.iand, 1) := dk_126 (dk_at dksX2_passes_2 8 rfl rfl)
theorem dX2_passes_56 : decode cX2_passes 56 = .ok (.iconst 5, 1) := dk_8 (dk_at dksX2_passes_2 9 rfl rfl)
theorem dX2_passes_57 : decode cX2_passes 57 = .ok (.ishl, 1) := dk_120 (dk_at dksX2_passes_2 10 rfl rfl)
theorem dX2_passes_58 : decode cX2_passes 58 = .ok (.ior, 1) := dk_128 (dk_at dksX2_passes_2 11 rfl rfl)
theorem dX2_passes_59 : decode cX2_passes 59 = .ok (.invokevirtual 93, 3) := dk_182 0 93 (dk_at dksX2_passes_2 12 rfl rfl)
theorem dX2_passes_62 : decode cX2_passes 62 = .ok (.iload_n 2, 1) := dk_28 (dk_at dksX2_passes_2 15 rfl rfl)
theorem dX2_passes_63 : decode cX2_passes 63 = .ok (.aload_n 0, 1) := dk_42 (dk_at dksX2_passes_2 16 rfl rfl)
theorem dX2_passes_64 : decode cX2_passes 64 = .ok (.getfield 17, 3) := dk_180 0 17 (dk_at dksX2_passes_2 17 rfl rfl)
theorem dX2_passes_67 : decode cX2_passes 67 = .ok (.iload_n 3, 1) := dk_29 (dk_at dksX2_passes_2 20 rfl rfl)
theorem dX2_passes_68 : decode cX2_passes 68 = .ok (.aaload, 1) := dk_50 (dk_at dksX2_passes_2 21 rfl rfl)
theorem dX2_passes_69 : decode cX2_passes 69 = .ok (.getfield 57, 3) := dk_180 0 57 (dk_at dksX2_passes_3 0 rfl rfl)
theorem dX2_passes_72 : decode cX2_passes 72 = .ok (.ishr, 1) := dk_122 (dk_at dksX2_passes_3 3 rfl rfl)
theorem dX2_passes_73 : decode cX2_passes 73 = .ok (.istore_n 2, 1) := dk_61 (dk_at dksX2_passes_3 4 rfl rfl)
theorem dX2_passes_74 : decode cX2_passes 74 = .ok (.iinc 3 1, 3) := dk_132 3 1 (dk_at dksX2_passes_3 5 rfl rfl)
theorem dX2_passes_77 : decode cX2_passes 77 = .ok (.goto (-63), 3) := dk_167 255 193 (dk_at dksX2_passes_3 8 rfl rfl)
theorem dX2_passes_80 : decode cX2_passes 80 = .ok (.aload_n 0, 1) := dk_42 (dk_at dksX2_passes_3 11 rfl rfl)
theorem dX2_passes_81 : decode cX2_passes 81 = .ok (.getfield 31, 3) := dk_180 0 31 (dk_at dksX2_passes_3 12 rfl rfl)
theorem dX2_passes_84 : decode cX2_passes 84 = .ok (.areturn, 1) := dk_176 (dk_at dksX2_passes_3 15 rfl rfl)
abbrev cX2_net : ByteArray := prog_4_method_11_code
def yX2_net : MethodName := ⟨RX2, "net", "(IIII)J"⟩
def dkwX2_net_6 : List UInt8 := [167, 255, 129, 22, 5, 173]
abbrev dktX2_net_6 : List UInt8 := dkwX2_net_6 ++ []
def dkwX2_net_5 : List UInt8 := [28, 160, 0, 18, 22, 5, 42, 180, 0, 31, 180, 0, 114, 21, 7, 47, 101, 55, 5, 132, 7, 1]
abbrev dktX2_net_5 : List UInt8 := dkwX2_net_5 ++ dktX2_net_6
def dkwX2_net_4 : List UInt8 := [21, 7, 47, 97, 55, 5, 42, 180, 0, 3, 180, 0, 108, 42, 180, 0, 31, 180, 0, 117, 21, 7, 46, 46]
abbrev dktX2_net_4 : List UInt8 := dkwX2_net_4 ++ dktX2_net_5
def dkwX2_net_3 : List UInt8 := [180, 0, 31, 180, 0, 111, 21, 7, 46, 46, 28, 160, 0, 18, 22, 5, 42, 180, 0, 31, 180, 0, 114]
abbrev dktX2_net_3 : List UInt8 := dkwX2_net_3 ++ dktX2_net_4
def dkwX2_net_2 : List UInt8 := [180, 0, 105, 21, 7, 46, 21, 4, 159, 0, 6, 167, 0, 77, 42, 180, 0, 3, 180, 0, 108, 42]
abbrev dktX2_net_2 : List UInt8 := dkwX2_net_2 ++ dktX2_net_3
def dkwX2_net_1 : List UInt8 := [42, 180, 0, 31, 180, 0, 102, 21, 7, 46, 29, 160, 0, 101, 21, 4, 2, 159, 0, 21, 42, 180, 0, 31]
abbrev dktX2_net_1 : List UInt8 := dkwX2_net_1 ++ dktX2_net_2
def dkwX2_net_0 : List UInt8 := [42, 27, 182, 0, 99, 87, 9, 55, 5, 3, 54, 7, 21, 7, 42, 180, 0, 31, 180, 0, 88, 162, 0, 121]
abbrev dktX2_net_0 : List UInt8 := dkwX2_net_0 ++ dktX2_net_1
theorem dksX2_net_0 : cX2_net.data.toList.drop 0 = dktX2_net_0 := by decide +kernel
theorem dksX2_net_1 : cX2_net.data.toList.drop 24 = dktX2_net_1 := dk_seg dksX2_net_0 24 rfl rfl
theorem dksX2_net_2 : cX2_net.data.toList.drop 48 = dktX2_net_2 := dk_seg dksX2_net_1 24 rfl rfl
theorem dksX2_net_3 : cX2_net.data.toList.drop 70 = dktX2_net_3 := dk_seg dksX2_net_2 22 rfl rfl
theorem dksX2_net_4 : cX2_net.data.toList.drop 93 = dktX2_net_4 := dk_seg dksX2_net_3 23 rfl rfl
theorem dksX2_net_5 : cX2_net.data.toList.drop 117 = dktX2_net_5 := dk_seg dksX2_net_4 24 rfl rfl
theorem dksX2_net_6 : cX2_net.data.toList.drop 139 = dktX2_net_6 := dk_seg dksX2_net_5 22 rfl rfl
theorem dX2_net_0 : decode cX2_net 0 = .ok (.aload_n 0, 1) := dk_42 (dk_at dksX2_net_0 0 rfl rfl)
theorem dX2_net_1 : decode cX2_net 1 = .ok (.iload_n 1, 1) := dk_27 (dk_at dksX2_net_0 1 rfl rfl)
theorem dX2_net_2 : decode cX2_net 2 = .ok (.invokevirtual 99, 3) := dk_182 0 99 (dk_at dksX2_net_0 2 rfl rfl)
theorem dX2_net_5 : decode cX2_net 5 = .ok (.pop, 1) := dk_87 (dk_at dksX2_net_0 5 rfl rfl)
theorem dX2_net_6 : decode cX2_net 6 = .ok (.lconst 0, 1) := dk_9 (dk_at dksX2_net_0 6 rfl rfl)
theorem dX2_net_7 : decode cX2_net 7 = .ok (.lstore 5, 2) := dk_55 5 (dk_at dksX2_net_0 7 rfl rfl)
theorem dX2_net_9 : decode cX2_net 9 = .ok (.iconst 0, 1) := dk_3 (dk_at dksX2_net_0 9 rfl rfl)
theorem dX2_net_10 : decode cX2_net 10 = .ok (.istore 7, 2) := dk_54 7 (dk_at dksX2_net_0 10 rfl rfl)
theorem dX2_net_12 : decode cX2_net 12 = .ok (.iload 7, 2) := dk_21 7 (dk_at dksX2_net_0 12 rfl rfl)
theorem dX2_net_14 : decode cX2_net 14 = .ok (.aload_n 0, 1) := dk_42 (dk_at dksX2_net_0 14 rfl rfl)
theorem dX2_net_15 : decode cX2_net 15 = .ok (.getfield 31, 3) := dk_180 0 31 (dk_at dksX2_net_0 15 rfl rfl)
theorem dX2_net_18 : decode cX2_net 18 = .ok (.getfield 88, 3) := dk_180 0 88 (dk_at dksX2_net_0 18 rfl rfl)
theorem dX2_net_21 : decode cX2_net 21 = .ok (.if_icmp .ge 121, 3) := dk_162 0 121 (dk_at dksX2_net_0 21 rfl rfl)
theorem dX2_net_24 : decode cX2_net 24 = .ok (.aload_n 0, 1) := dk_42 (dk_at dksX2_net_1 0 rfl rfl)
theorem dX2_net_25 : decode cX2_net 25 = .ok (.getfield 31, 3) := dk_180 0 31 (dk_at dksX2_net_1 1 rfl rfl)
theorem dX2_net_28 : decode cX2_net 28 = .ok (.getfield 102, 3) := dk_180 0 102 (dk_at dksX2_net_1 4 rfl rfl)
theorem dX2_net_31 : decode cX2_net 31 = .ok (.iload 7, 2) := dk_21 7 (dk_at dksX2_net_1 7 rfl rfl)
theorem dX2_net_33 : decode cX2_net 33 = .ok (.iaload, 1) := dk_46 (dk_at dksX2_net_1 9 rfl rfl)
theorem dX2_net_34 : decode cX2_net 34 = .ok (.iload_n 3, 1) := dk_29 (dk_at dksX2_net_1 10 rfl rfl)
theorem dX2_net_35 : decode cX2_net 35 = .ok (.if_icmp .ne 101, 3) := dk_160 0 101 (dk_at dksX2_net_1 11 rfl rfl)
theorem dX2_net_38 : decode cX2_net 38 = .ok (.iload 4, 2) := dk_21 4 (dk_at dksX2_net_1 14 rfl rfl)
theorem dX2_net_40 : decode cX2_net 40 = .ok (.iconst (-1), 1) := dk_2 (dk_at dksX2_net_1 16 rfl rfl)
theorem dX2_net_41 : decode cX2_net 41 = .ok (.if_icmp .eq 21, 3) := dk_159 0 21 (dk_at dksX2_net_1 17 rfl rfl)
theorem dX2_net_44 : decode cX2_net 44 = .ok (.aload_n 0, 1) := dk_42 (dk_at dksX2_net_1 20 rfl rfl)
theorem dX2_net_45 : decode cX2_net 45 = .ok (.getfield 31, 3) := dk_180 0 31 (dk_at dksX2_net_1 21 rfl rfl)
theorem dX2_net_48 : decode cX2_net 48 = .ok (.getfield 105, 3) := dk_180 0 105 (dk_at dksX2_net_2 0 rfl rfl)
theorem dX2_net_51 : decode cX2_net 51 = .ok (.iload 7, 2) := dk_21 7 (dk_at dksX2_net_2 3 rfl rfl)
theorem dX2_net_53 : decode cX2_net 53 = .ok (.iaload, 1) := dk_46 (dk_at dksX2_net_2 5 rfl rfl)
theorem dX2_net_54 : decode cX2_net 54 = .ok (.iload 4, 2) := dk_21 4 (dk_at dksX2_net_2 6 rfl rfl)
theorem dX2_net_56 : decode cX2_net 56 = .ok (.if_icmp .eq 6, 3) := dk_159 0 6 (dk_at dksX2_net_2 8 rfl rfl)
theorem dX2_net_59 : decode cX2_net 59 = .ok (.goto 77, 3) := dk_167 0 77 (dk_at dksX2_net_2 11 rfl rfl)
theorem dX2_net_62 : decode cX2_net 62 = .ok (.aload_n 0, 1) := dk_42 (dk_at dksX2_net_2 14 rfl rfl)
theorem dX2_net_63 : decode cX2_net 63 = .ok (.getfield 3, 3) := dk_180 0 3 (dk_at dksX2_net_2 15 rfl rfl)
theorem dX2_net_66 : decode cX2_net 66 = .ok (.getfield 108, 3) := dk_180 0 108 (dk_at dksX2_net_2 18 rfl rfl)
theorem dX2_net_69 : decode cX2_net 69 = .ok (.aload_n 0, 1) := dk_42 (dk_at dksX2_net_2 21 rfl rfl)
theorem dX2_net_70 : decode cX2_net 70 = .ok (.getfield 31, 3) := dk_180 0 31 (dk_at dksX2_net_3 0 rfl rfl)
theorem dX2_net_73 : decode cX2_net 73 = .ok (.getfield 111, 3) := dk_180 0 111 (dk_at dksX2_net_3 3 rfl rfl)
theorem dX2_net_76 : decode cX2_net 76 = .ok (.iload 7, 2) := dk_21 7 (dk_at dksX2_net_3 6 rfl rfl)
theorem dX2_net_78 : decode cX2_net 78 = .ok (.iaload, 1) := dk_46 (dk_at dksX2_net_3 8 rfl rfl)
theorem dX2_net_79 : decode cX2_net 79 = .ok (.iaload, 1) := dk_46 (dk_at dksX2_net_3 9 rfl rfl)
theorem dX2_net_80 : decode cX2_net 80 = .ok (.iload_n 2, 1) := dk_28 (dk_at dksX2_net_3 10 rfl rfl)
theorem dX2_net_81 : decode cX2_net 81 = .ok (.if_icmp .ne 18, 3) := dk_160 0 18 (dk_at dksX2_net_3 11 rfl rfl)
theorem dX2_net_84 : decode cX2_net 84 = .ok (.lload 5, 2) := dk_22 5 (dk_at dksX2_net_3 14 rfl rfl)
theorem dX2_net_86 : decode cX2_net 86 = .ok (.aload_n 0, 1) := dk_42 (dk_at dksX2_net_3 16 rfl rfl)
theorem dX2_net_87 : decode cX2_net 87 = .ok (.getfield 31, 3) := dk_180 0 31 (dk_at dksX2_net_3 17 rfl rfl)
theorem dX2_net_90 : decode cX2_net 90 = .ok (.getfield 114, 3) := dk_180 0 114 (dk_at dksX2_net_3 20 rfl rfl)
theorem dX2_net_93 : decode cX2_net 93 = .ok (.iload 7, 2) := dk_21 7 (dk_at dksX2_net_4 0 rfl rfl)
theorem dX2_net_95 : decode cX2_net 95 = .ok (.laload, 1) := dk_47 (dk_at dksX2_net_4 2 rfl rfl)
theorem dX2_net_96 : decode cX2_net 96 = .ok (.ladd, 1) := dk_97 (dk_at dksX2_net_4 3 rfl rfl)
theorem dX2_net_97 : decode cX2_net 97 = .ok (.lstore 5, 2) := dk_55 5 (dk_at dksX2_net_4 4 rfl rfl)
theorem dX2_net_99 : decode cX2_net 99 = .ok (.aload_n 0, 1) := dk_42 (dk_at dksX2_net_4 6 rfl rfl)
theorem dX2_net_100 : decode cX2_net 100 = .ok (.getfield 3, 3) := dk_180 0 3 (dk_at dksX2_net_4 7 rfl rfl)
theorem dX2_net_103 : decode cX2_net 103 = .ok (.getfield 108, 3) := dk_180 0 108 (dk_at dksX2_net_4 10 rfl rfl)
theorem dX2_net_106 : decode cX2_net 106 = .ok (.aload_n 0, 1) := dk_42 (dk_at dksX2_net_4 13 rfl rfl)
theorem dX2_net_107 : decode cX2_net 107 = .ok (.getfield 31, 3) := dk_180 0 31 (dk_at dksX2_net_4 14 rfl rfl)
theorem dX2_net_110 : decode cX2_net 110 = .ok (.getfield 117, 3) := dk_180 0 117 (dk_at dksX2_net_4 17 rfl rfl)
theorem dX2_net_113 : decode cX2_net 113 = .ok (.iload 7, 2) := dk_21 7 (dk_at dksX2_net_4 20 rfl rfl)
theorem dX2_net_115 : decode cX2_net 115 = .ok (.iaload, 1) := dk_46 (dk_at dksX2_net_4 22 rfl rfl)
theorem dX2_net_116 : decode cX2_net 116 = .ok (.iaload, 1) := dk_46 (dk_at dksX2_net_4 23 rfl rfl)
theorem dX2_net_117 : decode cX2_net 117 = .ok (.iload_n 2, 1) := dk_28 (dk_at dksX2_net_5 0 rfl rfl)
theorem dX2_net_118 : decode cX2_net 118 = .ok (.if_icmp .ne 18, 3) := dk_160 0 18 (dk_at dksX2_net_5 1 rfl rfl)
theorem dX2_net_121 : decode cX2_net 121 = .ok (.lload 5, 2) := dk_22 5 (dk_at dksX2_net_5 4 rfl rfl)
theorem dX2_net_123 : decode cX2_net 123 = .ok (.aload_n 0, 1) := dk_42 (dk_at dksX2_net_5 6 rfl rfl)
theorem dX2_net_124 : decode cX2_net 124 = .ok (.getfield 31, 3) := dk_180 0 31 (dk_at dksX2_net_5 7 rfl rfl)
theorem dX2_net_127 : decode cX2_net 127 = .ok (.getfield 114, 3) := dk_180 0 114 (dk_at dksX2_net_5 10 rfl rfl)
theorem dX2_net_130 : decode cX2_net 130 = .ok (.iload 7, 2) := dk_21 7 (dk_at dksX2_net_5 13 rfl rfl)
theorem dX2_net_132 : decode cX2_net 132 = .ok (.laload, 1) := dk_47 (dk_at dksX2_net_5 15 rfl rfl)
theorem dX2_net_133 : decode cX2_net 133 = .ok (.lsub, 1) := dk_101 (dk_at dksX2_net_5 16 rfl rfl)
theorem dX2_net_134 : decode cX2_net 134 = .ok (.lstore 5, 2) := dk_55 5 (dk_at dksX2_net_5 17 rfl rfl)
theorem dX2_net_136 : decode cX2_net 136 = .ok (.iinc 7 1, 3) := dk_132 7 1 (dk_at dksX2_net_5 19 rfl rfl)
theorem dX2_net_139 : decode cX2_net 139 = .ok (.goto (-127), 3) := dk_167 255 129 (dk_at dksX2_net_6 0 rfl rfl)
theorem dX2_net_142 : decode cX2_net 142 = .ok (.lload 5, 2) := dk_22 5 (dk_at dksX2_net_6 3 rfl rfl)
theorem dX2_net_144 : decode cX2_net 144 = .ok (.lreturn, 1) := dk_173 (dk_at dksX2_net_6 5 rfl rfl)
abbrev cX2_isLooked : ByteArray := prog_4_method_6_code
def yX2_isLooked : MethodName := ⟨RX2, "isLooked", "()Z"⟩
def dkwX2_isLooked_0 : List UInt8 := [42, 180, 0, 58, 184, 0, 82, 42, 180, 0, 54, 96, 16, 8, 163, 0, 7, 4, 167, 0, 4, 3, 172]
abbrev dktX2_isLooked_0 : List UInt8 := dkwX2_isLooked_0 ++ []
theorem dksX2_isLooked_0 : cX2_isLooked.data.toList.drop 0 = dktX2_isLooked_0 := by decide +kernel
theorem dX2_isLooked_0 : decode cX2_isLooked 0 = .ok (.aload_n 0, 1) := dk_42 (dk_at dksX2_isLooked_0 0 rfl rfl)
theorem dX2_isLooked_1 : decode cX2_isLooked 1 = .ok (.getfield 58, 3) := dk_180 0 58 (dk_at dksX2_isLooked_0 1 rfl rfl)
theorem dX2_isLooked_4 : decode cX2_isLooked 4 = .ok (.invokestatic 82, 3) := dk_184 0 82 (dk_at dksX2_isLooked_0 4 rfl rfl)
theorem dX2_isLooked_7 : decode cX2_isLooked 7 = .ok (.aload_n 0, 1) := dk_42 (dk_at dksX2_isLooked_0 7 rfl rfl)
theorem dX2_isLooked_8 : decode cX2_isLooked 8 = .ok (.getfield 54, 3) := dk_180 0 54 (dk_at dksX2_isLooked_0 8 rfl rfl)
theorem dX2_isLooked_11 : decode cX2_isLooked 11 = .ok (.iadd, 1) := dk_96 (dk_at dksX2_isLooked_0 11 rfl rfl)
theorem dX2_isLooked_12 : decode cX2_isLooked 12 = .ok (.bipush 8, 2) := dk_16 8 (dk_at dksX2_isLooked_0 12 rfl rfl)
theorem dX2_isLooked_14 : decode cX2_isLooked 14 = .ok (.if_icmp .gt 7, 3) := dk_163 0 7 (dk_at dksX2_isLooked_0 14 rfl rfl)
theorem dX2_isLooked_17 : decode cX2_isLooked 17 = .ok (.iconst 1, 1) := dk_4 (dk_at dksX2_isLooked_0 17 rfl rfl)
theorem dX2_isLooked_18 : decode cX2_isLooked 18 = .ok (.goto 4, 3) := dk_167 0 4 (dk_at dksX2_isLooked_0 18 rfl rfl)
theorem dX2_isLooked_21 : decode cX2_isLooked 21 = .ok (.iconst 0, 1) := dk_3 (dk_at dksX2_isLooked_0 21 rfl rfl)
theorem dX2_isLooked_22 : decode cX2_isLooked 22 = .ok (.ireturn, 1) := dk_172 (dk_at dksX2_isLooked_0 22 rfl rfl)
abbrev cX2_codes : ByteArray := prog_4_method_9_code
def yX2_codes : MethodName := ⟨RX2, "codes", "()I"⟩
def dkwX2_codes_0 : List UInt8 := [4, 42, 180, 0, 58, 184, 0, 82, 42, 180, 0, 54, 96, 120, 172]
abbrev dktX2_codes_0 : List UInt8 := dkwX2_codes_0 ++ []
theorem dksX2_codes_0 : cX2_codes.data.toList.drop 0 = dktX2_codes_0 := by decide +kernel
theorem dX2_codes_0 : decode cX2_codes 0 = .ok (.iconst 1, 1) := dk_4 (dk_at dksX2_codes_0 0 rfl rfl)
theorem dX2_codes_1 : decode cX2_codes 1 = .ok (.aload_n 0, 1) := dk_42 (dk_at dksX2_codes_0 1 rfl rfl)
theorem dX2_codes_2 : decode cX2_codes 2 = .ok (.getfield 58, 3) := dk_180 0 58 (dk_at dksX2_codes_0 2 rfl rfl)
theorem dX2_codes_5 : decode cX2_codes 5 = .ok (.invokestatic 82, 3) := dk_184 0 82 (dk_at dksX2_codes_0 5 rfl rfl)
theorem dX2_codes_8 : decode cX2_codes 8 = .ok (.aload_n 0, 1) := dk_42 (dk_at dksX2_codes_0 8 rfl rfl)
theorem dX2_codes_9 : decode cX2_codes 9 = .ok (.getfield 54, 3) := dk_180 0 54 (dk_at dksX2_codes_0 9 rfl rfl)
theorem dX2_codes_12 : decode cX2_codes 12 = .ok (.iadd, 1) := dk_96 (dk_at dksX2_codes_0 12 rfl rfl)
theorem dX2_codes_13 : decode cX2_codes 13 = .ok (.ishl, 1) := dk_120 (dk_at dksX2_codes_0 13 rfl rfl)
theorem dX2_codes_14 : decode cX2_codes 14 = .ok (.ireturn, 1) := dk_172 (dk_at dksX2_codes_0 14 rfl rfl)
abbrev cX2_lending : ByteArray := prog_4_method_20_code
def yX2_lending : MethodName := ⟨RX2, "lending", "(II)I"⟩
def dkwX2_lending_2 : List UInt8 := [132, 4, 1, 167, 255, 211, 29, 172]
abbrev dktX2_lending_2 : List UInt8 := dkwX2_lending_2 ++ []
def dkwX2_lending_1 : List UInt8 := [154, 0, 6, 167, 0, 21, 42, 21, 4, 182, 0, 144, 42, 27, 28, 182, 0, 148, 153, 0, 6, 132, 3, 1]
abbrev dktX2_lending_1 : List UInt8 := dkwX2_lending_1 ++ dktX2_lending_2
def dkwX2_lending_0 : List UInt8 := [3, 62, 3, 54, 4, 21, 4, 16, 32, 42, 180, 0, 54, 120, 162, 0, 39, 42, 21, 4, 182, 0, 141]
abbrev dktX2_lending_0 : List UInt8 := dkwX2_lending_0 ++ dktX2_lending_1
theorem dksX2_lending_0 : cX2_lending.data.toList.drop 0 = dktX2_lending_0 := by decide +kernel
theorem dksX2_lending_1 : cX2_lending.data.toList.drop 23 = dktX2_lending_1 := dk_seg dksX2_lending_0 23 rfl rfl
theorem dksX2_lending_2 : cX2_lending.data.toList.drop 47 = dktX2_lending_2 := dk_seg dksX2_lending_1 24 rfl rfl
theorem dX2_lending_0 : decode cX2_lending 0 = .ok (.iconst 0, 1) := dk_3 (dk_at dksX2_lending_0 0 rfl rfl)
theorem dX2_lending_1 : decode cX2_lending 1 = .ok (.istore_n 3, 1) := dk_62 (dk_at dksX2_lending_0 1 rfl rfl)
theorem dX2_lending_2 : decode cX2_lending 2 = .ok (.iconst 0, 1) := dk_3 (dk_at dksX2_lending_0 2 rfl rfl)
theorem dX2_lending_3 : decode cX2_lending 3 = .ok (.istore 4, 2) := dk_54 4 (dk_at dksX2_lending_0 3 rfl rfl)
theorem dX2_lending_5 : decode cX2_lending 5 = .ok (.iload 4, 2) := dk_21 4 (dk_at dksX2_lending_0 5 rfl rfl)
theorem dX2_lending_7 : decode cX2_lending 7 = .ok (.bipush 32, 2) := dk_16 32 (dk_at dksX2_lending_0 7 rfl rfl)
theorem dX2_lending_9 : decode cX2_lending 9 = .ok (.aload_n 0, 1) := dk_42 (dk_at dksX2_lending_0 9 rfl rfl)
theorem dX2_lending_10 : decode cX2_lending 10 = .ok (.getfield 54, 3) := dk_180 0 54 (dk_at dksX2_lending_0 10 rfl rfl)
theorem dX2_lending_13 : decode cX2_lending 13 = .ok (.ishl, 1) := dk_120 (dk_at dksX2_lending_0 13 rfl rfl)
theorem dX2_lending_14 : decode cX2_lending 14 = .ok (.if_icmp .ge 39, 3) := dk_162 0 39 (dk_at dksX2_lending_0 14 rfl rfl)
theorem dX2_lending_17 : decode cX2_lending 17 = .ok (.aload_n 0, 1) := dk_42 (dk_at dksX2_lending_0 17 rfl rfl)
theorem dX2_lending_18 : decode cX2_lending 18 = .ok (.iload 4, 2) := dk_21 4 (dk_at dksX2_lending_0 18 rfl rfl)
theorem dX2_lending_20 : decode cX2_lending 20 = .ok (.invokevirtual 141, 3) := dk_182 0 141 (dk_at dksX2_lending_0 20 rfl rfl)
theorem dX2_lending_23 : decode cX2_lending 23 = .ok (.ifCond .ne 6, 3) := dk_154 0 6 (dk_at dksX2_lending_1 0 rfl rfl)
theorem dX2_lending_26 : decode cX2_lending 26 = .ok (.goto 21, 3) := dk_167 0 21 (dk_at dksX2_lending_1 3 rfl rfl)
theorem dX2_lending_29 : decode cX2_lending 29 = .ok (.aload_n 0, 1) := dk_42 (dk_at dksX2_lending_1 6 rfl rfl)
theorem dX2_lending_30 : decode cX2_lending 30 = .ok (.iload 4, 2) := dk_21 4 (dk_at dksX2_lending_1 7 rfl rfl)
theorem dX2_lending_32 : decode cX2_lending 32 = .ok (.invokevirtual 144, 3) := dk_182 0 144 (dk_at dksX2_lending_1 9 rfl rfl)
theorem dX2_lending_35 : decode cX2_lending 35 = .ok (.aload_n 0, 1) := dk_42 (dk_at dksX2_lending_1 12 rfl rfl)
theorem dX2_lending_36 : decode cX2_lending 36 = .ok (.iload_n 1, 1) := dk_27 (dk_at dksX2_lending_1 13 rfl rfl)
theorem dX2_lending_37 : decode cX2_lending 37 = .ok (.iload_n 2, 1) := dk_28 (dk_at dksX2_lending_1 14 rfl rfl)
theorem dX2_lending_38 : decode cX2_lending 38 = .ok (.invokevirtual 148, 3) := dk_182 0 148 (dk_at dksX2_lending_1 15 rfl rfl)
theorem dX2_lending_41 : decode cX2_lending 41 = .ok (.ifCond .eq 6, 3) := dk_153 0 6 (dk_at dksX2_lending_1 18 rfl rfl)
theorem dX2_lending_44 : decode cX2_lending 44 = .ok (.iinc 3 1, 3) := dk_132 3 1 (dk_at dksX2_lending_1 21 rfl rfl)
theorem dX2_lending_47 : decode cX2_lending 47 = .ok (.iinc 4 1, 3) := dk_132 4 1 (dk_at dksX2_lending_2 0 rfl rfl)
theorem dX2_lending_50 : decode cX2_lending 50 = .ok (.goto (-45), 3) := dk_167 255 211 (dk_at dksX2_lending_2 3 rfl rfl)
theorem dX2_lending_53 : decode cX2_lending 53 = .ok (.iload_n 3, 1) := dk_29 (dk_at dksX2_lending_2 6 rfl rfl)
theorem dX2_lending_54 : decode cX2_lending 54 = .ok (.ireturn, 1) := dk_172 (dk_at dksX2_lending_2 7 rfl rfl)
abbrev cX2_isOfNamed : ByteArray := prog_4_method_8_code
def yX2_isOfNamed : MethodName := ⟨RX2, "isOfNamed", "(I)Z"⟩
def dkwX2_isOfNamed_0 : List UInt8 := [27, 16, 31, 126, 42, 180, 0, 58, 2, 130, 126, 154, 0, 7, 4, 167, 0, 4, 3, 172]
abbrev dktX2_isOfNamed_0 : List UInt8 := dkwX2_isOfNamed_0 ++ []
theorem dksX2_isOfNamed_0 : cX2_isOfNamed.data.toList.drop 0 = dktX2_isOfNamed_0 := by decide +kernel
theorem dX2_isOfNamed_0 : decode cX2_isOfNamed 0 = .ok (.iload_n 1, 1) := dk_27 (dk_at dksX2_isOfNamed_0 0 rfl rfl)
theorem dX2_isOfNamed_1 : decode cX2_isOfNamed 1 = .ok (.bipush 31, 2) := dk_16 31 (dk_at dksX2_isOfNamed_0 1 rfl rfl)
theorem dX2_isOfNamed_3 : decode cX2_isOfNamed 3 = .ok (.iand, 1) := dk_126 (dk_at dksX2_isOfNamed_0 3 rfl rfl)
theorem dX2_isOfNamed_4 : decode cX2_isOfNamed 4 = .ok (.aload_n 0, 1) := dk_42 (dk_at dksX2_isOfNamed_0 4 rfl rfl)
theorem dX2_isOfNamed_5 : decode cX2_isOfNamed 5 = .ok (.getfield 58, 3) := dk_180 0 58 (dk_at dksX2_isOfNamed_0 5 rfl rfl)
theorem dX2_isOfNamed_8 : decode cX2_isOfNamed 8 = .ok (.iconst (-1), 1) := dk_2 (dk_at dksX2_isOfNamed_0 8 rfl rfl)
theorem dX2_isOfNamed_9 : decode cX2_isOfNamed 9 = .ok (.ixor, 1) := dk_130 (dk_at dksX2_isOfNamed_0 9 rfl rfl)
theorem dX2_isOfNamed_10 : decode cX2_isOfNamed 10 = .ok (.iand, 1) := dk_126 (dk_at dksX2_isOfNamed_0 10 rfl rfl)
theorem dX2_isOfNamed_11 : decode cX2_isOfNamed 11 = .ok (.ifCond .ne 7, 3) := dk_154 0 7 (dk_at dksX2_isOfNamed_0 11 rfl rfl)
theorem dX2_isOfNamed_14 : decode cX2_isOfNamed 14 = .ok (.iconst 1, 1) := dk_4 (dk_at dksX2_isOfNamed_0 14 rfl rfl)
theorem dX2_isOfNamed_15 : decode cX2_isOfNamed 15 = .ok (.goto 4, 3) := dk_167 0 4 (dk_at dksX2_isOfNamed_0 15 rfl rfl)
theorem dX2_isOfNamed_18 : decode cX2_isOfNamed 18 = .ok (.iconst 0, 1) := dk_3 (dk_at dksX2_isOfNamed_0 18 rfl rfl)
theorem dX2_isOfNamed_19 : decode cX2_isOfNamed 19 = .ok (.ireturn, 1) := dk_172 (dk_at dksX2_isOfNamed_0 19 rfl rfl)
abbrev cX2_nets : ByteArray := prog_4_method_13_code
def yX2_nets : MethodName := ⟨RX2, "nets", "(I)V"⟩
def dkwX2_nets_7 : List UInt8 := [132, 2, 1, 167, 255, 179, 177]
abbrev dktX2_nets_7 : List UInt8 := dkwX2_nets_7 ++ []
def dkwX2_nets_6 : List UInt8 := [42, 180, 0, 31, 180, 0, 117, 28, 46, 46, 28, 42, 180, 0, 31, 180, 0, 114, 28, 47, 117, 182, 0, 126]
abbrev dktX2_nets_6 : List UInt8 := dkwX2_nets_6 ++ dktX2_nets_7
def dkwX2_nets_5 : List UInt8 := [28, 46, 46, 28, 42, 180, 0, 31, 180, 0, 114, 28, 47, 182, 0, 126, 42, 42, 180, 0, 3, 180, 0, 108]
abbrev dktX2_nets_5 : List UInt8 := dkwX2_nets_5 ++ dktX2_nets_6
def dkwX2_nets_4 : List UInt8 := [180, 0, 31, 180, 0, 88, 162, 0, 72, 42, 42, 180, 0, 3, 180, 0, 108, 42, 180, 0, 31, 180, 0, 111]
abbrev dktX2_nets_4 : List UInt8 := dkwX2_nets_4 ++ dktX2_nets_5
def dkwX2_nets_3 : List UInt8 := [180, 0, 120, 104, 162, 0, 16, 42, 180, 0, 39, 28, 9, 80, 132, 2, 1, 167, 255, 235, 3, 61, 28, 42]
abbrev dktX2_nets_3 : List UInt8 := dkwX2_nets_3 ++ dktX2_nets_4
def dkwX2_nets_2 : List UInt8 := [16, 48, 162, 0, 16, 42, 180, 0, 43, 28, 9, 80, 132, 2, 1, 167, 255, 240, 3, 61, 28, 16, 8, 42]
abbrev dktX2_nets_2 : List UInt8 := dkwX2_nets_2 ++ dktX2_nets_3
def dkwX2_nets_1 : List UInt8 := [42, 42, 180, 0, 31, 180, 0, 105, 28, 46, 182, 0, 123, 87, 132, 2, 1, 167, 255, 228, 3, 61, 28]
abbrev dktX2_nets_1 : List UInt8 := dkwX2_nets_1 ++ dktX2_nets_2
def dkwX2_nets_0 : List UInt8 := [42, 27, 182, 0, 99, 87, 42, 3, 181, 0, 120, 3, 61, 28, 42, 180, 0, 31, 180, 0, 88, 162, 0, 23]
abbrev dktX2_nets_0 : List UInt8 := dkwX2_nets_0 ++ dktX2_nets_1
theorem dksX2_nets_0 : cX2_nets.data.toList.drop 0 = dktX2_nets_0 := by decide +kernel
theorem dksX2_nets_1 : cX2_nets.data.toList.drop 24 = dktX2_nets_1 := dk_seg dksX2_nets_0 24 rfl rfl
theorem dksX2_nets_2 : cX2_nets.data.toList.drop 47 = dktX2_nets_2 := dk_seg dksX2_nets_1 23 rfl rfl
theorem dksX2_nets_3 : cX2_nets.data.toList.drop 71 = dktX2_nets_3 := dk_seg dksX2_nets_2 24 rfl rfl
theorem dksX2_nets_4 : cX2_nets.data.toList.drop 95 = dktX2_nets_4 := dk_seg dksX2_nets_3 24 rfl rfl
theorem dksX2_nets_5 : cX2_nets.data.toList.drop 119 = dktX2_nets_5 := dk_seg dksX2_nets_4 24 rfl rfl
theorem dksX2_nets_6 : cX2_nets.data.toList.drop 143 = dktX2_nets_6 := dk_seg dksX2_nets_5 24 rfl rfl
theorem dksX2_nets_7 : cX2_nets.data.toList.drop 167 = dktX2_nets_7 := dk_seg dksX2_nets_6 24 rfl rfl
theorem dX2_nets_0 : decode cX2_nets 0 = .ok (.aload_n 0, 1) := dk_42 (dk_at dksX2_nets_0 0 rfl rfl)
theorem dX2_nets_1 : decode cX2_nets 1 = .ok (.iload_n 1, 1) := dk_27 (dk_at dksX2_nets_0 1 rfl rfl)
theorem dX2_nets_2 : decode cX2_nets 2 = .ok (.invokevirtual 99, 3) := dk_182 0 99 (dk_at dksX2_nets_0 2 rfl rfl)
theorem dX2_nets_5 : decode cX2_nets 5 = .ok (.pop, 1) := dk_87 (dk_at dksX2_nets_0 5 rfl rfl)
theorem dX2_nets_6 : decode cX2_nets 6 = .ok (.aload_n 0, 1) := dk_42 (dk_at dksX2_nets_0 6 rfl rfl)
theorem dX2_nets_7 : decode cX2_nets 7 = .ok (.iconst 0, 1) := dk_3 (dk_at dksX2_nets_0 7 rfl rfl)
theorem dX2_nets_8 : decode cX2_nets 8 = .ok (.putfield 120, 3) := dk_181 0 120 (dk_at dksX2_nets_0 8 rfl rfl)
theorem dX2_nets_11 : decode cX2_nets 11 = .ok (.iconst 0, 1) := dk_3 (dk_at dksX2_nets_0 11 rfl rfl)
theorem dX2_nets_12 : decode cX2_nets 12 = .ok (.istore_n 2, 1) := dk_61 (dk_at dksX2_nets_0 12 rfl rfl)
theorem dX2_nets_13 : decode cX2_nets 13 = .ok (.iload_n 2, 1) := dk_28 (dk_at dksX2_nets_0 13 rfl rfl)
theorem dX2_nets_14 : decode cX2_nets 14 = .ok (.aload_n 0, 1) := dk_42 (dk_at dksX2_nets_0 14 rfl rfl)
theorem dX2_nets_15 : decode cX2_nets 15 = .ok (.getfield 31, 3) := dk_180 0 31 (dk_at dksX2_nets_0 15 rfl rfl)
theorem dX2_nets_18 : decode cX2_nets 18 = .ok (.getfield 88, 3) := dk_180 0 88 (dk_at dksX2_nets_0 18 rfl rfl)
theorem dX2_nets_21 : decode cX2_nets 21 = .ok (.if_icmp .ge 23, 3) := dk_162 0 23 (dk_at dksX2_nets_0 21 rfl rfl)
theorem dX2_nets_24 : decode cX2_nets 24 = .ok (.aload_n 0, 1) := dk_42 (dk_at dksX2_nets_1 0 rfl rfl)
theorem dX2_nets_25 : decode cX2_nets 25 = .ok (.aload_n 0, 1) := dk_42 (dk_at dksX2_nets_1 1 rfl rfl)
theorem dX2_nets_26 : decode cX2_nets 26 = .ok (.getfield 31, 3) := dk_180 0 31 (dk_at dksX2_nets_1 2 rfl rfl)
theorem dX2_nets_29 : decode cX2_nets 29 = .ok (.getfield 105, 3) := dk_180 0 105 (dk_at dksX2_nets_1 5 rfl rfl)
theorem dX2_nets_32 : decode cX2_nets 32 = .ok (.iload_n 2, 1) := dk_28 (dk_at dksX2_nets_1 8 rfl rfl)
theorem dX2_nets_33 : decode cX2_nets 33 = .ok (.iaload, 1) := dk_46 (dk_at dksX2_nets_1 9 rfl rfl)
theorem dX2_nets_34 : decode cX2_nets 34 = .ok (.invokevirtual 123, 3) := dk_182 0 123 (dk_at dksX2_nets_1 10 rfl rfl)
theorem dX2_nets_37 : decode cX2_nets 37 = .ok (.pop, 1) := dk_87 (dk_at dksX2_nets_1 13 rfl rfl)
theorem dX2_nets_38 : decode cX2_nets 38 = .ok (.iinc 2 1, 3) := dk_132 2 1 (dk_at dksX2_nets_1 14 rfl rfl)
theorem dX2_nets_41 : decode cX2_nets 41 = .ok (.goto (-28), 3) := dk_167 255 228 (dk_at dksX2_nets_1 17 rfl rfl)
theorem dX2_nets_44 : decode cX2_nets 44 = .ok (.iconst 0, 1) := dk_3 (dk_at dksX2_nets_1 20 rfl rfl)
theorem dX2_nets_45 : decode cX2_nets 45 = .ok (.istore_n 2, 1) := dk_61 (dk_at dksX2_nets_1 21 rfl rfl)
theorem dX2_nets_46 : decode cX2_nets 46 = .ok (.iload_n 2, 1) := dk_28 (dk_at dksX2_nets_1 22 rfl rfl)
theorem dX2_nets_47 : decode cX2_nets 47 = .ok (.bipush 48, 2) := dk_16 48 (dk_at dksX2_nets_2 0 rfl rfl)
theorem dX2_nets_49 : decode cX2_nets 49 = .ok (.if_icmp .ge 16, 3) := dk_162 0 16 (dk_at dksX2_nets_2 2 rfl rfl)
theorem dX2_nets_52 : decode cX2_nets 52 = .ok (.aload_n 0, 1) := dk_42 (dk_at dksX2_nets_2 5 rfl rfl)
theorem dX2_nets_53 : decode cX2_nets 53 = .ok (.getfield 43, 3) := dk_180 0 43 (dk_at dksX2_nets_2 6 rfl rfl)
theorem dX2_nets_56 : decode cX2_nets 56 = .ok (.iload_n 2, 1) := dk_28 (dk_at dksX2_nets_2 9 rfl rfl)
theorem dX2_nets_57 : decode cX2_nets 57 = .ok (.lconst 0, 1) := dk_9 (dk_at dksX2_nets_2 10 rfl rfl)
theorem dX2_nets_58 : decode cX2_nets 58 = .ok (.lastore, 1) := dk_80 (dk_at dksX2_nets_2 11 rfl rfl)
theorem dX2_nets_59 : decode cX2_nets 59 = .ok (.iinc 2 1, 3) := dk_132 2 1 (dk_at dksX2_nets_2 12 rfl rfl)
theorem dX2_nets_62 : decode cX2_nets 62 = .ok (.goto (-16), 3) := dk_167 255 240 (dk_at dksX2_nets_2 15 rfl rfl)
theorem dX2_nets_65 : decode cX2_nets 65 = .ok (.iconst 0, 1) := dk_3 (dk_at dksX2_nets_2 18 rfl rfl)
theorem dX2_nets_66 : decode cX2_nets 66 = .ok (.istore_n 2, 1) := dk_61 (dk_at dksX2_nets_2 19 rfl rfl)
theorem dX2_nets_67 : decode cX2_nets 67 = .ok (.iload_n 2, 1) := dk_28 (dk_at dksX2_nets_2 20 rfl rfl)
theorem dX2_nets_68 : decode cX2_nets 68 = .ok (.bipush 8, 2) := dk_16 8 (dk_at dksX2_nets_2 21 rfl rfl)
theorem dX2_nets_70 : decode cX2_nets 70 = .ok (.aload_n 0, 1) := dk_42 (dk_at dksX2_nets_2 23 rfl rfl)
theorem dX2_nets_71 : decode cX2_nets 71 = .ok (.getfield 120, 3) := dk_180 0 120 (dk_at dksX2_nets_3 0 rfl rfl)
theorem dX2_nets_74 : decode cX2_nets 74 = .ok (.imul, 1) := dk_104 (dk_at dksX2_nets_3 3 rfl rfl)
theorem dX2_nets_75 : decode cX2_nets 75 = .ok (.if_icmp .ge 16, 3) := dk_162 0 16 (dk_at dksX2_nets_3 4 rfl rfl)
theorem dX2_nets_78 : decode cX2_nets 78 = .ok (.aload_n 0, 1) := dk_42 (dk_at dksX2_nets_3 7 rfl rfl)
theorem dX2_nets_79 : decode cX2_nets 79 = .ok (.getfield 39, 3) := dk_180 0 39 (dk_at dksX2_nets_3 8 rfl rfl)
theorem dX2_nets_82 : decode cX2_nets 82 = .ok (.iload_n 2, 1) := dk_28 (dk_at dksX2_nets_3 11 rfl rfl)
theorem dX2_nets_83 : decode cX2_nets 83 = .ok (.lconst 0, 1) := dk_9 (dk_at dksX2_nets_3 12 rfl rfl)
theorem dX2_nets_84 : decode cX2_nets 84 = .ok (.lastore, 1) := dk_80 (dk_at dksX2_nets_3 13 rfl rfl)
theorem dX2_nets_85 : decode cX2_nets 85 = .ok (.iinc 2 1, 3) := dk_132 2 1 (dk_at dksX2_nets_3 14 rfl rfl)
theorem dX2_nets_88 : decode cX2_nets 88 = .ok (.goto (-21), 3) := dk_167 255 235 (dk_at dksX2_nets_3 17 rfl rfl)
theorem dX2_nets_91 : decode cX2_nets 91 = .ok (.iconst 0, 1) := dk_3 (dk_at dksX2_nets_3 20 rfl rfl)
theorem dX2_nets_92 : decode cX2_nets 92 = .ok (.istore_n 2, 1) := dk_61 (dk_at dksX2_nets_3 21 rfl rfl)
theorem dX2_nets_93 : decode cX2_nets 93 = .ok (.iload_n 2, 1) := dk_28 (dk_at dksX2_nets_3 22 rfl rfl)
theorem dX2_nets_94 : decode cX2_nets 94 = .ok (.aload_n 0, 1) := dk_42 (dk_at dksX2_nets_3 23 rfl rfl)
theorem dX2_nets_95 : decode cX2_nets 95 = .ok (.getfield 31, 3) := dk_180 0 31 (dk_at dksX2_nets_4 0 rfl rfl)
theorem dX2_nets_98 : decode cX2_nets 98 = .ok (.getfield 88, 3) := dk_180 0 88 (dk_at dksX2_nets_4 3 rfl rfl)
theorem dX2_nets_101 : decode cX2_nets 101 = .ok (.if_icmp .ge 72, 3) := dk_162 0 72 (dk_at dksX2_nets_4 6 rfl rfl)
theorem dX2_nets_104 : decode cX2_nets 104 = .ok (.aload_n 0, 1) := dk_42 (dk_at dksX2_nets_4 9 rfl rfl)
theorem dX2_nets_105 : decode cX2_nets 105 = .ok (.aload_n 0, 1) := dk_42 (dk_at dksX2_nets_4 10 rfl rfl)
theorem dX2_nets_106 : decode cX2_nets 106 = .ok (.getfield 3, 3) := dk_180 0 3 (dk_at dksX2_nets_4 11 rfl rfl)
theorem dX2_nets_109 : decode cX2_nets 109 = .ok (.getfield 108, 3) := dk_180 0 108 (dk_at dksX2_nets_4 14 rfl rfl)
theorem dX2_nets_112 : decode cX2_nets 112 = .ok (.aload_n 0, 1) := dk_42 (dk_at dksX2_nets_4 17 rfl rfl)
theorem dX2_nets_113 : decode cX2_nets 113 = .ok (.getfield 31, 3) := dk_180 0 31 (dk_at dksX2_nets_4 18 rfl rfl)
theorem dX2_nets_116 : decode cX2_nets 116 = .ok (.getfield 111, 3) := dk_180 0 111 (dk_at dksX2_nets_4 21 rfl rfl)
theorem dX2_nets_119 : decode cX2_nets 119 = .ok (.iload_n 2, 1) := dk_28 (dk_at dksX2_nets_5 0 rfl rfl)
theorem dX2_nets_120 : decode cX2_nets 120 = .ok (.iaload, 1) := dk_46 (dk_at dksX2_nets_5 1 rfl rfl)
theorem dX2_nets_121 : decode cX2_nets 121 = .ok (.iaload, 1) := dk_46 (dk_at dksX2_nets_5 2 rfl rfl)
theorem dX2_nets_122 : decode cX2_nets 122 = .ok (.iload_n 2, 1) := dk_28 (dk_at dksX2_nets_5 3 rfl rfl)
theorem dX2_nets_123 : decode cX2_nets 123 = .ok (.aload_n 0, 1) := dk_42 (dk_at dksX2_nets_5 4 rfl rfl)
theorem dX2_nets_124 : decode cX2_nets 124 = .ok (.getfield 31, 3) := dk_180 0 31 (dk_at dksX2_nets_5 5 rfl rfl)
theorem dX2_nets_127 : decode cX2_nets 127 = .ok (.getfield 114, 3) := dk_180 0 114 (dk_at dksX2_nets_5 8 rfl rfl)
theorem dX2_nets_130 : decode cX2_nets 130 = .ok (.iload_n 2, 1) := dk_28 (dk_at dksX2_nets_5 11 rfl rfl)
theorem dX2_nets_131 : decode cX2_nets 131 = .ok (.laload, 1) := dk_47 (dk_at dksX2_nets_5 12 rfl rfl)
theorem dX2_nets_132 : decode cX2_nets 132 = .ok (.invokevirtual 126, 3) := dk_182 0 126 (dk_at dksX2_nets_5 13 rfl rfl)
theorem dX2_nets_135 : decode cX2_nets 135 = .ok (.aload_n 0, 1) := dk_42 (dk_at dksX2_nets_5 16 rfl rfl)
theorem dX2_nets_136 : decode cX2_nets 136 = .ok (.aload_n 0, 1) := dk_42 (dk_at dksX2_nets_5 17 rfl rfl)
theorem dX2_nets_137 : decode cX2_nets 137 = .ok (.getfield 3, 3) := dk_180 0 3 (dk_at dksX2_nets_5 18 rfl rfl)
theorem dX2_nets_140 : decode cX2_nets 140 = .ok (.getfield 108, 3) := dk_180 0 108 (dk_at dksX2_nets_5 21 rfl rfl)
theorem dX2_nets_143 : decode cX2_nets 143 = .ok (.aload_n 0, 1) := dk_42 (dk_at dksX2_nets_6 0 rfl rfl)
theorem dX2_nets_144 : decode cX2_nets 144 = .ok (.getfield 31, 3) := dk_180 0 31 (dk_at dksX2_nets_6 1 rfl rfl)
theorem dX2_nets_147 : decode cX2_nets 147 = .ok (.getfield 117, 3) := dk_180 0 117 (dk_at dksX2_nets_6 4 rfl rfl)
theorem dX2_nets_150 : decode cX2_nets 150 = .ok (.iload_n 2, 1) := dk_28 (dk_at dksX2_nets_6 7 rfl rfl)
theorem dX2_nets_151 : decode cX2_nets 151 = .ok (.iaload, 1) := dk_46 (dk_at dksX2_nets_6 8 rfl rfl)
theorem dX2_nets_152 : decode cX2_nets 152 = .ok (.iaload, 1) := dk_46 (dk_at dksX2_nets_6 9 rfl rfl)
theorem dX2_nets_153 : decode cX2_nets 153 = .ok (.iload_n 2, 1) := dk_28 (dk_at dksX2_nets_6 10 rfl rfl)
theorem dX2_nets_154 : decode cX2_nets 154 = .ok (.aload_n 0, 1) := dk_42 (dk_at dksX2_nets_6 11 rfl rfl)
theorem dX2_nets_155 : decode cX2_nets 155 = .ok (.getfield 31, 3) := dk_180 0 31 (dk_at dksX2_nets_6 12 rfl rfl)
theorem dX2_nets_158 : decode cX2_nets 158 = .ok (.getfield 114, 3) := dk_180 0 114 (dk_at dksX2_nets_6 15 rfl rfl)
theorem dX2_nets_161 : decode cX2_nets 161 = .ok (.iload_n 2, 1) := dk_28 (dk_at dksX2_nets_6 18 rfl rfl)
theorem dX2_nets_162 : decode cX2_nets 162 = .ok (.laload, 1) := dk_47 (dk_at dksX2_nets_6 19 rfl rfl)
theorem dX2_nets_163 : decode cX2_nets 163 = .ok (.lneg, 1) := dk_117 (dk_at dksX2_nets_6 20 rfl rfl)
theorem dX2_nets_164 : decode cX2_nets 164 = .ok (.invokevirtual 126, 3) := dk_182 0 126 (dk_at dksX2_nets_6 21 rfl rfl)
theorem dX2_nets_167 : decode cX2_nets 167 = .ok (.iinc 2 1, 3) := dk_132 2 1 (dk_at dksX2_nets_7 0 rfl rfl)
theorem dX2_nets_170 : decode cX2_nets 170 = .ok (.goto (-77), 3) := dk_167 255 179 (dk_at dksX2_nets_7 3 rfl rfl)
theorem dX2_nets_173 : decode cX2_nets 173 = .ok (.return_, 1) := dk_177 (dk_at dksX2_nets_7 6 rfl rfl)
abbrev cX2_dayAt : ByteArray := prog_4_method_12_code
def yX2_dayAt : MethodName := ⟨RX2, "dayAt", "(I)I"⟩
def dkwX2_dayAt_4 : List UInt8 := [172]
abbrev dktX2_dayAt_4 : List UInt8 := dkwX2_dayAt_4 ++ []
def dkwX2_dayAt_3 : List UInt8 := [132, 3, 255, 167, 255, 234, 42, 180, 0, 35, 28, 27, 79, 42, 89, 180, 0, 120, 4, 96, 181, 0, 120, 28]
abbrev dktX2_dayAt_3 : List UInt8 := dkwX2_dayAt_3 ++ dktX2_dayAt_4
def dkwX2_dayAt_2 : List UInt8 := [180, 0, 120, 62, 29, 28, 164, 0, 23, 42, 180, 0, 35, 29, 42, 180, 0, 35, 29, 4, 100, 46, 79]
abbrev dktX2_dayAt_2 : List UInt8 := dkwX2_dayAt_2 ++ dktX2_dayAt_3
def dkwX2_dayAt_1 : List UInt8 := [167, 255, 235, 28, 42, 180, 0, 120, 162, 0, 15, 42, 180, 0, 35, 28, 46, 27, 160, 0, 5, 28, 172, 42]
abbrev dktX2_dayAt_1 : List UInt8 := dkwX2_dayAt_1 ++ dktX2_dayAt_2
def dkwX2_dayAt_0 : List UInt8 := [3, 61, 28, 42, 180, 0, 120, 162, 0, 19, 42, 180, 0, 35, 28, 46, 27, 162, 0, 9, 132, 2, 1]
abbrev dktX2_dayAt_0 : List UInt8 := dkwX2_dayAt_0 ++ dktX2_dayAt_1
theorem dksX2_dayAt_0 : cX2_dayAt.data.toList.drop 0 = dktX2_dayAt_0 := by decide +kernel
theorem dksX2_dayAt_1 : cX2_dayAt.data.toList.drop 23 = dktX2_dayAt_1 := dk_seg dksX2_dayAt_0 23 rfl rfl
theorem dksX2_dayAt_2 : cX2_dayAt.data.toList.drop 47 = dktX2_dayAt_2 := dk_seg dksX2_dayAt_1 24 rfl rfl
theorem dksX2_dayAt_3 : cX2_dayAt.data.toList.drop 70 = dktX2_dayAt_3 := dk_seg dksX2_dayAt_2 23 rfl rfl
theorem dksX2_dayAt_4 : cX2_dayAt.data.toList.drop 94 = dktX2_dayAt_4 := dk_seg dksX2_dayAt_3 24 rfl rfl
theorem dX2_dayAt_0 : decode cX2_dayAt 0 = .ok (.iconst 0, 1) := dk_3 (dk_at dksX2_dayAt_0 0 rfl rfl)
theorem dX2_dayAt_1 : decode cX2_dayAt 1 = .ok (.istore_n 2, 1) := dk_61 (dk_at dksX2_dayAt_0 1 rfl rfl)
theorem dX2_dayAt_2 : decode cX2_dayAt 2 = .ok (.iload_n 2, 1) := dk_28 (dk_at dksX2_dayAt_0 2 rfl rfl)
theorem dX2_dayAt_3 : decode cX2_dayAt 3 = .ok (.aload_n 0, 1) := dk_42 (dk_at dksX2_dayAt_0 3 rfl rfl)
theorem dX2_dayAt_4 : decode cX2_dayAt 4 = .ok (.getfield 120, 3) := dk_180 0 120 (dk_at dksX2_dayAt_0 4 rfl rfl)
theorem dX2_dayAt_7 : decode cX2_dayAt 7 = .ok (.if_icmp .ge 19, 3) := dk_162 0 19 (dk_at dksX2_dayAt_0 7 rfl rfl)
theorem dX2_dayAt_10 : decode cX2_dayAt 10 = .ok (.aload_n 0, 1) := dk_42 (dk_at dksX2_dayAt_0 10 rfl rfl)
theorem dX2_dayAt_11 : decode cX2_dayAt 11 = .ok (.getfield 35, 3) := dk_180 0 35 (dk_at dksX2_dayAt_0 11 rfl rfl)
theorem dX2_dayAt_14 : decode cX2_dayAt 14 = .ok (.iload_n 2, 1) := dk_28 (dk_at dksX2_dayAt_0 14 rfl rfl)
theorem dX2_dayAt_15 : decode cX2_dayAt 15 = .ok (.iaload, 1) := dk_46 (dk_at dksX2_dayAt_0 15 rfl rfl)
theorem dX2_dayAt_16 : decode cX2_dayAt 16 = .ok (.iload_n 1, 1) := dk_27 (dk_at dksX2_dayAt_0 16 rfl rfl)
theorem dX2_dayAt_17 : decode cX2_dayAt 17 = .ok (.if_icmp .ge 9, 3) := dk_162 0 9 (dk_at dksX2_dayAt_0 17 rfl rfl)
theorem dX2_dayAt_20 : decode cX2_dayAt 20 = .ok (.iinc 2 1, 3) := dk_132 2 1 (dk_at dksX2_dayAt_0 20 rfl rfl)
theorem dX2_dayAt_23 : decode cX2_dayAt 23 = .ok (.goto (-21), 3) := dk_167 255 235 (dk_at dksX2_dayAt_1 0 rfl rfl)
theorem dX2_dayAt_26 : decode cX2_dayAt 26 = .ok (.iload_n 2, 1) := dk_28 (dk_at dksX2_dayAt_1 3 rfl rfl)
theorem dX2_dayAt_27 : decode cX2_dayAt 27 = .ok (.aload_n 0, 1) := dk_42 (dk_at dksX2_dayAt_1 4 rfl rfl)
theorem dX2_dayAt_28 : decode cX2_dayAt 28 = .ok (.getfield 120, 3) := dk_180 0 120 (dk_at dksX2_dayAt_1 5 rfl rfl)
theorem dX2_dayAt_31 : decode cX2_dayAt 31 = .ok (.if_icmp .ge 15, 3) := dk_162 0 15 (dk_at dksX2_dayAt_1 8 rfl rfl)
theorem dX2_dayAt_34 : decode cX2_dayAt 34 = .ok (.aload_n 0, 1) := dk_42 (dk_at dksX2_dayAt_1 11 rfl rfl)
theorem dX2_dayAt_35 : decode cX2_dayAt 35 = .ok (.getfield 35, 3) := dk_180 0 35 (dk_at dksX2_dayAt_1 12 rfl rfl)
theorem dX2_dayAt_38 : decode cX2_dayAt 38 = .ok (.iload_n 2, 1) := dk_28 (dk_at dksX2_dayAt_1 15 rfl rfl)
theorem dX2_dayAt_39 : decode cX2_dayAt 39 = .ok (.iaload, 1) := dk_46 (dk_at dksX2_dayAt_1 16 rfl rfl)
theorem dX2_dayAt_40 : decode cX2_dayAt 40 = .ok (.iload_n 1, 1) := dk_27 (dk_at dksX2_dayAt_1 17 rfl rfl)
theorem dX2_dayAt_41 : decode cX2_dayAt 41 = .ok (.if_icmp .ne 5, 3) := dk_160 0 5 (dk_at dksX2_dayAt_1 18 rfl rfl)
theorem dX2_dayAt_44 : decode cX2_dayAt 44 = .ok (.iload_n 2, 1) := dk_28 (dk_at dksX2_dayAt_1 21 rfl rfl)
theorem dX2_dayAt_45 : decode cX2_dayAt 45 = .ok (.ireturn, 1) := dk_172 (dk_at dksX2_dayAt_1 22 rfl rfl)
theorem dX2_dayAt_46 : decode cX2_dayAt 46 = .ok (.aload_n 0, 1) := dk_42 (dk_at dksX2_dayAt_1 23 rfl rfl)
theorem dX2_dayAt_47 : decode cX2_dayAt 47 = .ok (.getfield 120, 3) := dk_180 0 120 (dk_at dksX2_dayAt_2 0 rfl rfl)
theorem dX2_dayAt_50 : decode cX2_dayAt 50 = .ok (.istore_n 3, 1) := dk_62 (dk_at dksX2_dayAt_2 3 rfl rfl)
theorem dX2_dayAt_51 : decode cX2_dayAt 51 = .ok (.iload_n 3, 1) := dk_29 (dk_at dksX2_dayAt_2 4 rfl rfl)
theorem dX2_dayAt_52 : decode cX2_dayAt 52 = .ok (.iload_n 2, 1) := dk_28 (dk_at dksX2_dayAt_2 5 rfl rfl)
theorem dX2_dayAt_53 : decode cX2_dayAt 53 = .ok (.if_icmp .le 23, 3) := dk_164 0 23 (dk_at dksX2_dayAt_2 6 rfl rfl)
theorem dX2_dayAt_56 : decode cX2_dayAt 56 = .ok (.aload_n 0, 1) := dk_42 (dk_at dksX2_dayAt_2 9 rfl rfl)
theorem dX2_dayAt_57 : decode cX2_dayAt 57 = .ok (.getfield 35, 3) := dk_180 0 35 (dk_at dksX2_dayAt_2 10 rfl rfl)
theorem dX2_dayAt_60 : decode cX2_dayAt 60 = .ok (.iload_n 3, 1) := dk_29 (dk_at dksX2_dayAt_2 13 rfl rfl)
theorem dX2_dayAt_61 : decode cX2_dayAt 61 = .ok (.aload_n 0, 1) := dk_42 (dk_at dksX2_dayAt_2 14 rfl rfl)
theorem dX2_dayAt_62 : decode cX2_dayAt 62 = .ok (.getfield 35, 3) := dk_180 0 35 (dk_at dksX2_dayAt_2 15 rfl rfl)
theorem dX2_dayAt_65 : decode cX2_dayAt 65 = .ok (.iload_n 3, 1) := dk_29 (dk_at dksX2_dayAt_2 18 rfl rfl)
theorem dX2_dayAt_66 : decode cX2_dayAt 66 = .ok (.iconst 1, 1) := dk_4 (dk_at dksX2_dayAt_2 19 rfl rfl)
theorem dX2_dayAt_67 : decode cX2_dayAt 67 = .ok (.isub, 1) := dk_100 (dk_at dksX2_dayAt_2 20 rfl rfl)
theorem dX2_dayAt_68 : decode cX2_dayAt 68 = .ok (.iaload, 1) := dk_46 (dk_at dksX2_dayAt_2 21 rfl rfl)
theorem dX2_dayAt_69 : decode cX2_dayAt 69 = .ok (.iastore, 1) := dk_79 (dk_at dksX2_dayAt_2 22 rfl rfl)
theorem dX2_dayAt_70 : decode cX2_dayAt 70 = .ok (.iinc 3 (-1), 3) := dk_132 3 255 (dk_at dksX2_dayAt_3 0 rfl rfl)
theorem dX2_dayAt_73 : decode cX2_dayAt 73 = .ok (.goto (-22), 3) := dk_167 255 234 (dk_at dksX2_dayAt_3 3 rfl rfl)
theorem dX2_dayAt_76 : decode cX2_dayAt 76 = .ok (.aload_n 0, 1) := dk_42 (dk_at dksX2_dayAt_3 6 rfl rfl)
theorem dX2_dayAt_77 : decode cX2_dayAt 77 = .ok (.getfield 35, 3) := dk_180 0 35 (dk_at dksX2_dayAt_3 7 rfl rfl)
theorem dX2_dayAt_80 : decode cX2_dayAt 80 = .ok (.iload_n 2, 1) := dk_28 (dk_at dksX2_dayAt_3 10 rfl rfl)
theorem dX2_dayAt_81 : decode cX2_dayAt 81 = .ok (.iload_n 1, 1) := dk_27 (dk_at dksX2_dayAt_3 11 rfl rfl)
theorem dX2_dayAt_82 : decode cX2_dayAt 82 = .ok (.iastore, 1) := dk_79 (dk_at dksX2_dayAt_3 12 rfl rfl)
theorem dX2_dayAt_83 : decode cX2_dayAt 83 = .ok (.aload_n 0, 1) := dk_42 (dk_at dksX2_dayAt_3 13 rfl rfl)
theorem dX2_dayAt_84 : decode cX2_dayAt 84 = .ok (.dup, 1) := dk_89 (dk_at dksX2_dayAt_3 14 rfl rfl)
theorem dX2_dayAt_85 : decode cX2_dayAt 85 = .ok (.getfield 120, 3) := dk_180 0 120 (dk_at dksX2_dayAt_3 15 rfl rfl)
theorem dX2_dayAt_88 : decode cX2_dayAt 88 = .ok (.iconst 1, 1) := dk_4 (dk_at dksX2_dayAt_3 18 rfl rfl)
theorem dX2_dayAt_89 : decode cX2_dayAt 89 = .ok (.iadd, 1) := dk_96 (dk_at dksX2_dayAt_3 19 rfl rfl)
theorem dX2_dayAt_90 : decode cX2_dayAt 90 = .ok (.putfield 120, 3) := dk_181 0 120 (dk_at dksX2_dayAt_3 20 rfl rfl)
theorem dX2_dayAt_93 : decode cX2_dayAt 93 = .ok (.iload_n 2, 1) := dk_28 (dk_at dksX2_dayAt_3 23 rfl rfl)
theorem dX2_dayAt_94 : decode cX2_dayAt 94 = .ok (.ireturn, 1) := dk_172 (dk_at dksX2_dayAt_4 0 rfl rfl)
abbrev cX2_gets : ByteArray := prog_4_method_14_code
def yX2_gets : MethodName := ⟨RX2, "gets", "(IIJ)V"⟩
def dkwX2_gets_2 : List UInt8 := [180, 0, 105, 28, 46, 182, 0, 123, 104, 27, 96, 92, 47, 33, 97, 80, 177]
abbrev dktX2_gets_2 : List UInt8 := dkwX2_gets_2 ++ []
def dkwX2_gets_1 : List UInt8 := [180, 0, 31, 180, 0, 102, 28, 46, 154, 0, 30, 42, 180, 0, 39, 16, 8, 42, 42, 180, 0, 31]
abbrev dktX2_gets_1 : List UInt8 := dkwX2_gets_1 ++ dktX2_gets_2
def dkwX2_gets_0 : List UInt8 := [42, 180, 0, 43, 16, 6, 27, 104, 42, 180, 0, 31, 180, 0, 102, 28, 46, 96, 92, 47, 33, 97, 80, 42]
abbrev dktX2_gets_0 : List UInt8 := dkwX2_gets_0 ++ dktX2_gets_1
theorem dksX2_gets_0 : cX2_gets.data.toList.drop 0 = dktX2_gets_0 := by decide +kernel
theorem dksX2_gets_1 : cX2_gets.data.toList.drop 24 = dktX2_gets_1 := dk_seg dksX2_gets_0 24 rfl rfl
theorem dksX2_gets_2 : cX2_gets.data.toList.drop 46 = dktX2_gets_2 := dk_seg dksX2_gets_1 22 rfl rfl
theorem dX2_gets_0 : decode cX2_gets 0 = .ok (.aload_n 0, 1) := dk_42 (dk_at dksX2_gets_0 0 rfl rfl)
theorem dX2_gets_1 : decode cX2_gets 1 = .ok (.getfield 43, 3) := dk_180 0 43 (dk_at dksX2_gets_0 1 rfl rfl)
theorem dX2_gets_4 : decode cX2_gets 4 = .ok (.bipush 6, 2) := dk_16 6 (dk_at dksX2_gets_0 4 rfl rfl)
theorem dX2_gets_6 : decode cX2_gets 6 = .ok (.iload_n 1, 1) := dk_27 (dk_at dksX2_gets_0 6 rfl rfl)
theorem dX2_gets_7 : decode cX2_gets 7 = .ok (.imul, 1) := dk_104 (dk_at dksX2_gets_0 7 rfl rfl)
theorem dX2_gets_8 : decode cX2_gets 8 = .ok (.aload_n 0, 1) := dk_42 (dk_at dksX2_gets_0 8 rfl rfl)
theorem dX2_gets_9 : decode cX2_gets 9 = .ok (.getfield 31, 3) := dk_180 0 31 (dk_at dksX2_gets_0 9 rfl rfl)
theorem dX2_gets_12 : decode cX2_gets 12 = .ok (.getfield 102, 3) := dk_180 0 102 (dk_at dksX2_gets_0 12 rfl rfl)
theorem dX2_gets_15 : decode cX2_gets 15 = .ok (.iload_n 2, 1) := dk_28 (dk_at dksX2_gets_0 15 rfl rfl)
theorem dX2_gets_16 : decode cX2_gets 16 = .ok (.iaload, 1) := dk_46 (dk_at dksX2_gets_0 16 rfl rfl)
theorem dX2_gets_17 : decode cX2_gets 17 = .ok (.iadd, 1) := dk_96 (dk_at dksX2_gets_0 17 rfl rfl)
theorem dX2_gets_18 : decode cX2_gets 18 = .ok (.dup2, 1) := dk_92 (dk_at dksX2_gets_0 18 rfl rfl)
theorem dX2_gets_19 : decode cX2_gets 19 = .ok (.laload, 1) := dk_47 (dk_at dksX2_gets_0 19 rfl rfl)
theorem dX2_gets_20 : decode cX2_gets 20 = .ok (.lload_n 3, 1) := dk_33 (dk_at dksX2_gets_0 20 rfl rfl)
theorem dX2_gets_21 : decode cX2_gets 21 = .ok (.ladd, 1) := dk_97 (dk_at dksX2_gets_0 21 rfl rfl)
theorem dX2_gets_22 : decode cX2_gets 22 = .ok (.lastore, 1) := dk_80 (dk_at dksX2_gets_0 22 rfl rfl)
theorem dX2_gets_23 : decode cX2_gets 23 = .ok (.aload_n 0, 1) := dk_42 (dk_at dksX2_gets_0 23 rfl rfl)
theorem dX2_gets_24 : decode cX2_gets 24 = .ok (.getfield 31, 3) := dk_180 0 31 (dk_at dksX2_gets_1 0 rfl rfl)
theorem dX2_gets_27 : decode cX2_gets 27 = .ok (.getfield 102, 3) := dk_180 0 102 (dk_at dksX2_gets_1 3 rfl rfl)
theorem dX2_gets_30 : decode cX2_gets 30 = .ok (.iload_n 2, 1) := dk_28 (dk_at dksX2_gets_1 6 rfl rfl)
theorem dX2_gets_31 : decode cX2_gets 31 = .ok (.iaload, 1) := dk_46 (dk_at dksX2_gets_1 7 rfl rfl)
theorem dX2_gets_32 : decode cX2_gets 32 = .ok (.ifCond .ne 30, 3) := dk_154 0 30 (dk_at dksX2_gets_1 8 rfl rfl)
theorem dX2_gets_35 : decode cX2_gets 35 = .ok (.aload_n 0, 1) := dk_42 (dk_at dksX2_gets_1 11 rfl rfl)
theorem dX2_gets_36 : decode cX2_gets 36 = .ok (.getfield 39, 3) := dk_180 0 39 (dk_at dksX2_gets_1 12 rfl rfl)
theorem dX2_gets_39 : decode cX2_gets 39 = .ok (.bipush 8, 2) := dk_16 8 (dk_at dksX2_gets_1 15 rfl rfl)
theorem dX2_gets_41 : decode cX2_gets 41 = .ok (.aload_n 0, 1) := dk_42 (dk_at dksX2_gets_1 17 rfl rfl)
theorem dX2_gets_42 : decode cX2_gets 42 = .ok (.aload_n 0, 1) := dk_42 (dk_at dksX2_gets_1 18 rfl rfl)
theorem dX2_gets_43 : decode cX2_gets 43 = .ok (.getfield 31, 3) := dk_180 0 31 (dk_at dksX2_gets_1 19 rfl rfl)
theorem dX2_gets_46 : decode cX2_gets 46 = .ok (.getfield 105, 3) := dk_180 0 105 (dk_at dksX2_gets_2 0 rfl rfl)
theorem dX2_gets_49 : decode cX2_gets 49 = .ok (.iload_n 2, 1) := dk_28 (dk_at dksX2_gets_2 3 rfl rfl)
theorem dX2_gets_50 : decode cX2_gets 50 = .ok (.iaload, 1) := dk_46 (dk_at dksX2_gets_2 4 rfl rfl)
theorem dX2_gets_51 : decode cX2_gets 51 = .ok (.invokevirtual 123, 3) := dk_182 0 123 (dk_at dksX2_gets_2 5 rfl rfl)
theorem dX2_gets_54 : decode cX2_gets 54 = .ok (.imul, 1) := dk_104 (dk_at dksX2_gets_2 8 rfl rfl)
theorem dX2_gets_55 : decode cX2_gets 55 = .ok (.iload_n 1, 1) := dk_27 (dk_at dksX2_gets_2 9 rfl rfl)
theorem dX2_gets_56 : decode cX2_gets 56 = .ok (.iadd, 1) := dk_96 (dk_at dksX2_gets_2 10 rfl rfl)
theorem dX2_gets_57 : decode cX2_gets 57 = .ok (.dup2, 1) := dk_92 (dk_at dksX2_gets_2 11 rfl rfl)
theorem dX2_gets_58 : decode cX2_gets 58 = .ok (.laload, 1) := dk_47 (dk_at dksX2_gets_2 12 rfl rfl)
theorem dX2_gets_59 : decode cX2_gets 59 = .ok (.lload_n 3, 1) := dk_33 (dk_at dksX2_gets_2 13 rfl rfl)
theorem dX2_gets_60 : decode cX2_gets 60 = .ok (.ladd, 1) := dk_97 (dk_at dksX2_gets_2 14 rfl rfl)
theorem dX2_gets_61 : decode cX2_gets 61 = .ok (.lastore, 1) := dk_80 (dk_at dksX2_gets_2 15 rfl rfl)
theorem dX2_gets_62 : decode cX2_gets 62 = .ok (.return_, 1) := dk_177 (dk_at dksX2_gets_2 16 rfl rfl)
abbrev cX2_lends : ByteArray := prog_4_method_18_code
def yX2_lends : MethodName := ⟨RX2, "lends", "(II)Z"⟩
def dkwX2_lends_6 : List UInt8 := [158, 0, 7, 4, 167, 0, 4, 3, 54, 4, 132, 5, 1, 167, 255, 197, 4, 172]
abbrev dktX2_lends_6 : List UInt8 := dkwX2_lends_6 ++ []
def dkwX2_lends_5 : List UInt8 := [22, 6, 9, 148, 156, 0, 10, 21, 4, 153, 0, 5, 3, 172, 21, 4, 154, 0, 10, 22, 6, 9, 148]
abbrev dktX2_lends_5 : List UInt8 := dkwX2_lends_5 ++ dktX2_lends_6
def dkwX2_lends_4 : List UInt8 := [21, 5, 42, 180, 0, 120, 162, 0, 56, 42, 180, 0, 39, 16, 8, 21, 5, 104, 27, 96, 47, 55, 6]
abbrev dktX2_lends_4 : List UInt8 := dkwX2_lends_4 ++ dktX2_lends_5
def dkwX2_lends_3 : List UInt8 := [180, 0, 39, 16, 8, 29, 104, 28, 96, 47, 9, 148, 157, 0, 5, 3, 172, 3, 54, 4, 29, 54, 5]
abbrev dktX2_lends_3 : List UInt8 := dkwX2_lends_3 ++ dktX2_lends_4
def dkwX2_lends_2 : List UInt8 := [180, 0, 120, 159, 0, 35, 42, 180, 0, 39, 16, 8, 29, 104, 27, 96, 47, 9, 148, 157, 0, 19, 42]
abbrev dktX2_lends_2 : List UInt8 := dkwX2_lends_2 ++ dktX2_lends_3
def dkwX2_lends_1 : List UInt8 := [158, 0, 14, 42, 28, 3, 182, 0, 130, 9, 148, 155, 0, 5, 3, 172, 42, 27, 182, 0, 138, 62, 29, 42]
abbrev dktX2_lends_1 : List UInt8 := dkwX2_lends_1 ++ dktX2_lends_2
def dkwX2_lends_0 : List UInt8 := [42, 27, 182, 0, 134, 153, 0, 33, 42, 28, 182, 0, 134, 153, 0, 25, 42, 27, 3, 182, 0, 130, 9, 148]
abbrev dktX2_lends_0 : List UInt8 := dkwX2_lends_0 ++ dktX2_lends_1
theorem dksX2_lends_0 : cX2_lends.data.toList.drop 0 = dktX2_lends_0 := by decide +kernel
theorem dksX2_lends_1 : cX2_lends.data.toList.drop 24 = dktX2_lends_1 := dk_seg dksX2_lends_0 24 rfl rfl
theorem dksX2_lends_2 : cX2_lends.data.toList.drop 48 = dktX2_lends_2 := dk_seg dksX2_lends_1 24 rfl rfl
theorem dksX2_lends_3 : cX2_lends.data.toList.drop 71 = dktX2_lends_3 := dk_seg dksX2_lends_2 23 rfl rfl
theorem dksX2_lends_4 : cX2_lends.data.toList.drop 94 = dktX2_lends_4 := dk_seg dksX2_lends_3 23 rfl rfl
theorem dksX2_lends_5 : cX2_lends.data.toList.drop 117 = dktX2_lends_5 := dk_seg dksX2_lends_4 23 rfl rfl
theorem dksX2_lends_6 : cX2_lends.data.toList.drop 140 = dktX2_lends_6 := dk_seg dksX2_lends_5 23 rfl rfl
theorem dX2_lends_0 : decode cX2_lends 0 = .ok (.aload_n 0, 1) := dk_42 (dk_at dksX2_lends_0 0 rfl rfl)
theorem dX2_lends_1 : decode cX2_lends 1 = .ok (.iload_n 1, 1) := dk_27 (dk_at dksX2_lends_0 1 rfl rfl)
theorem dX2_lends_2 : decode cX2_lends 2 = .ok (.invokevirtual 134, 3) := dk_182 0 134 (dk_at dksX2_lends_0 2 rfl rfl)
theorem dX2_lends_5 : decode cX2_lends 5 = .ok (.ifCond .eq 33, 3) := dk_153 0 33 (dk_at dksX2_lends_0 5 rfl rfl)
theorem dX2_lends_8 : decode cX2_lends 8 = .ok (.aload_n 0, 1) := dk_42 (dk_at dksX2_lends_0 8 rfl rfl)
theorem dX2_lends_9 : decode cX2_lends 9 = .ok (.iload_n 2, 1) := dk_28 (dk_at dksX2_lends_0 9 rfl rfl)
theorem dX2_lends_10 : decode cX2_lends 10 = .ok (.invokevirtual 134, 3) := dk_182 0 134 (dk_at dksX2_lends_0 10 rfl rfl)
theorem dX2_lends_13 : decode cX2_lends 13 = .ok (.ifCond .eq 25, 3) := dk_153 0 25 (dk_at dksX2_lends_0 13 rfl rfl)
theorem dX2_lends_16 : decode cX2_lends 16 = .ok (.aload_n 0, 1) := dk_42 (dk_at dksX2_lends_0 16 rfl rfl)
theorem dX2_lends_17 : decode cX2_lends 17 = .ok (.iload_n 1, 1) := dk_27 (dk_at dksX2_lends_0 17 rfl rfl)
theorem dX2_lends_18 : decode cX2_lends 18 = .ok (.iconst 0, 1) := dk_3 (dk_at dksX2_lends_0 18 rfl rfl)
theorem dX2_lends_19 : decode cX2_lends 19 = .ok (.invokevirtual 130, 3) := dk_182 0 130 (dk_at dksX2_lends_0 19 rfl rfl)
theorem dX2_lends_22 : decode cX2_lends 22 = .ok (.lconst 0, 1) := dk_9 (dk_at dksX2_lends_0 22 rfl rfl)
theorem dX2_lends_23 : decode cX2_lends 23 = .ok (.lcmp, 1) := dk_148 (dk_at dksX2_lends_0 23 rfl rfl)
theorem dX2_lends_24 : decode cX2_lends 24 = .ok (.ifCond .le 14, 3) := dk_158 0 14 (dk_at dksX2_lends_1 0 rfl rfl)
theorem dX2_lends_27 : decode cX2_lends 27 = .ok (.aload_n 0, 1) := dk_42 (dk_at dksX2_lends_1 3 rfl rfl)
theorem dX2_lends_28 : decode cX2_lends 28 = .ok (.iload_n 2, 1) := dk_28 (dk_at dksX2_lends_1 4 rfl rfl)
theorem dX2_lends_29 : decode cX2_lends 29 = .ok (.iconst 0, 1) := dk_3 (dk_at dksX2_lends_1 5 rfl rfl)
theorem dX2_lends_30 : decode cX2_lends 30 = .ok (.invokevirtual 130, 3) := dk_182 0 130 (dk_at dksX2_lends_1 6 rfl rfl)
theorem dX2_lends_33 : decode cX2_lends 33 = .ok (.lconst 0, 1) := dk_9 (dk_at dksX2_lends_1 9 rfl rfl)
theorem dX2_lends_34 : decode cX2_lends 34 = .ok (.lcmp, 1) := dk_148 (dk_at dksX2_lends_1 10 rfl rfl)
theorem dX2_lends_35 : decode cX2_lends 35 = .ok (.ifCond .lt 5, 3) := dk_155 0 5 (dk_at dksX2_lends_1 11 rfl rfl)
theorem dX2_lends_38 : decode cX2_lends 38 = .ok (.iconst 0, 1) := dk_3 (dk_at dksX2_lends_1 14 rfl rfl)
theorem dX2_lends_39 : decode cX2_lends 39 = .ok (.ireturn, 1) := dk_172 (dk_at dksX2_lends_1 15 rfl rfl)
theorem dX2_lends_40 : decode cX2_lends 40 = .ok (.aload_n 0, 1) := dk_42 (dk_at dksX2_lends_1 16 rfl rfl)
theorem dX2_lends_41 : decode cX2_lends 41 = .ok (.iload_n 1, 1) := dk_27 (dk_at dksX2_lends_1 17 rfl rfl)
theorem dX2_lends_42 : decode cX2_lends 42 = .ok (.invokevirtual 138, 3) := dk_182 0 138 (dk_at dksX2_lends_1 18 rfl rfl)
theorem dX2_lends_45 : decode cX2_lends 45 = .ok (.istore_n 3, 1) := dk_62 (dk_at dksX2_lends_1 21 rfl rfl)
theorem dX2_lends_46 : decode cX2_lends 46 = .ok (.iload_n 3, 1) := dk_29 (dk_at dksX2_lends_1 22 rfl rfl)
theorem dX2_lends_47 : decode cX2_lends 47 = .ok (.aload_n 0, 1) := dk_42 (dk_at dksX2_lends_1 23 rfl rfl)
theorem dX2_lends_48 : decode cX2_lends 48 = .ok (.getfield 120, 3) := dk_180 0 120 (dk_at dksX2_lends_2 0 rfl rfl)
theorem dX2_lends_51 : decode cX2_lends 51 = .ok (.if_icmp .eq 35, 3) := dk_159 0 35 (dk_at dksX2_lends_2 3 rfl rfl)
theorem dX2_lends_54 : decode cX2_lends 54 = .ok (.aload_n 0, 1) := dk_42 (dk_at dksX2_lends_2 6 rfl rfl)
theorem dX2_lends_55 : decode cX2_lends 55 = .ok (.getfield 39, 3) := dk_180 0 39 (dk_at dksX2_lends_2 7 rfl rfl)
theorem dX2_lends_58 : decode cX2_lends 58 = .ok (.bipush 8, 2) := dk_16 8 (dk_at dksX2_lends_2 10 rfl rfl)
theorem dX2_lends_60 : decode cX2_lends 60 = .ok (.iload_n 3, 1) := dk_29 (dk_at dksX2_lends_2 12 rfl rfl)
theorem dX2_lends_61 : decode cX2_lends 61 = .ok (.imul, 1) := dk_104 (dk_at dksX2_lends_2 13 rfl rfl)
theorem dX2_lends_62 : decode cX2_lends 62 = .ok (.iload_n 1, 1) := dk_27 (dk_at dksX2_lends_2 14 rfl rfl)
theorem dX2_lends_63 : decode cX2_lends 63 = .ok (.iadd, 1) := dk_96 (dk_at dksX2_lends_2 15 rfl rfl)
theorem dX2_lends_64 : decode cX2_lends 64 = .ok (.laload, 1) := dk_47 (dk_at dksX2_lends_2 16 rfl rfl)
theorem dX2_lends_65 : decode cX2_lends 65 = .ok (.lconst 0, 1) := dk_9 (dk_at dksX2_lends_2 17 rfl rfl)
theorem dX2_lends_66 : decode cX2_lends 66 = .ok (.lcmp, 1) := dk_148 (dk_at dksX2_lends_2 18 rfl rfl)
theorem dX2_lends_67 : decode cX2_lends 67 = .ok (.ifCond .gt 19, 3) := dk_157 0 19 (dk_at dksX2_lends_2 19 rfl rfl)
theorem dX2_lends_70 : decode cX2_lends 70 = .ok (.aload_n 0, 1) := dk_42 (dk_at dksX2_lends_2 22 rfl rfl)
theorem dX2_lends_71 : decode cX2_lends 71 = .ok (.getfield 39, 3) := dk_180 0 39 (dk_at dksX2_lends_3 0 rfl rfl)
theorem dX2_lends_74 : decode cX2_lends 74 = .ok (.bipush 8, 2) := dk_16 8 (dk_at dksX2_lends_3 3 rfl rfl)
theorem dX2_lends_76 : decode cX2_lends 76 = .ok (.iload_n 3, 1) := dk_29 (dk_at dksX2_lends_3 5 rfl rfl)
theorem dX2_lends_77 : decode cX2_lends 77 = .ok (.imul, 1) := dk_104 (dk_at dksX2_lends_3 6 rfl rfl)
theorem dX2_lends_78 : decode cX2_lends 78 = .ok (.iload_n 2, 1) := dk_28 (dk_at dksX2_lends_3 7 rfl rfl)
theorem dX2_lends_79 : decode cX2_lends 79 = .ok (.iadd, 1) := dk_96 (dk_at dksX2_lends_3 8 rfl rfl)
theorem dX2_lends_80 : decode cX2_lends 80 = .ok (.laload, 1) := dk_47 (dk_at dksX2_lends_3 9 rfl rfl)
theorem dX2_lends_81 : decode cX2_lends 81 = .ok (.lconst 0, 1) := dk_9 (dk_at dksX2_lends_3 10 rfl rfl)
theorem dX2_lends_82 : decode cX2_lends 82 = .ok (.lcmp, 1) := dk_148 (dk_at dksX2_lends_3 11 rfl rfl)
theorem dX2_lends_83 : decode cX2_lends 83 = .ok (.ifCond .gt 5, 3) := dk_157 0 5 (dk_at dksX2_lends_3 12 rfl rfl)
theorem dX2_lends_86 : decode cX2_lends 86 = .ok (.iconst 0, 1) := dk_3 (dk_at dksX2_lends_3 15 rfl rfl)
theorem dX2_lends_87 : decode cX2_lends 87 = .ok (.ireturn, 1) := dk_172 (dk_at dksX2_lends_3 16 rfl rfl)
theorem dX2_lends_88 : decode cX2_lends 88 = .ok (.iconst 0, 1) := dk_3 (dk_at dksX2_lends_3 17 rfl rfl)
theorem dX2_lends_89 : decode cX2_lends 89 = .ok (.istore 4, 2) := dk_54 4 (dk_at dksX2_lends_3 18 rfl rfl)
theorem dX2_lends_91 : decode cX2_lends 91 = .ok (.iload_n 3, 1) := dk_29 (dk_at dksX2_lends_3 20 rfl rfl)
theorem dX2_lends_92 : decode cX2_lends 92 = .ok (.istore 5, 2) := dk_54 5 (dk_at dksX2_lends_3 21 rfl rfl)
theorem dX2_lends_94 : decode cX2_lends 94 = .ok (.iload 5, 2) := dk_21 5 (dk_at dksX2_lends_4 0 rfl rfl)
theorem dX2_lends_96 : decode cX2_lends 96 = .ok (.aload_n 0, 1) := dk_42 (dk_at dksX2_lends_4 2 rfl rfl)
theorem dX2_lends_97 : decode cX2_lends 97 = .ok (.getfield 120, 3) := dk_180 0 120 (dk_at dksX2_lends_4 3 rfl rfl)
theorem dX2_lends_100 : decode cX2_lends 100 = .ok (.if_icmp .ge 56, 3) := dk_162 0 56 (dk_at dksX2_lends_4 6 rfl rfl)
theorem dX2_lends_103 : decode cX2_lends 103 = .ok (.aload_n 0, 1) := dk_42 (dk_at dksX2_lends_4 9 rfl rfl)
theorem dX2_lends_104 : decode cX2_lends 104 = .ok (.getfield 39, 3) := dk_180 0 39 (dk_at dksX2_lends_4 10 rfl rfl)
theorem dX2_lends_107 : decode cX2_lends 107 = .ok (.bipush 8, 2) := dk_16 8 (dk_at dksX2_lends_4 13 rfl rfl)
theorem dX2_lends_109 : decode cX2_lends 109 = .ok (.iload 5, 2) := dk_21 5 (dk_at dksX2_lends_4 15 rfl rfl)
theorem dX2_lends_111 : decode cX2_lends 111 = .ok (.imul, 1) := dk_104 (dk_at dksX2_lends_4 17 rfl rfl)
theorem dX2_lends_112 : decode cX2_lends 112 = .ok (.iload_n 1, 1) := dk_27 (dk_at dksX2_lends_4 18 rfl rfl)
theorem dX2_lends_113 : decode cX2_lends 113 = .ok (.iadd, 1) := dk_96 (dk_at dksX2_lends_4 19 rfl rfl)
theorem dX2_lends_114 : decode cX2_lends 114 = .ok (.laload, 1) := dk_47 (dk_at dksX2_lends_4 20 rfl rfl)
theorem dX2_lends_115 : decode cX2_lends 115 = .ok (.lstore 6, 2) := dk_55 6 (dk_at dksX2_lends_4 21 rfl rfl)
theorem dX2_lends_117 : decode cX2_lends 117 = .ok (.lload 6, 2) := dk_22 6 (dk_at dksX2_lends_5 0 rfl rfl)
theorem dX2_lends_119 : decode cX2_lends 119 = .ok (.lconst 0, 1) := dk_9 (dk_at dksX2_lends_5 2 rfl rfl)
theorem dX2_lends_120 : decode cX2_lends 120 = .ok (.lcmp, 1) := dk_148 (dk_at dksX2_lends_5 3 rfl rfl)
theorem dX2_lends_121 : decode cX2_lends 121 = .ok (.ifCond .ge 10, 3) := dk_156 0 10 (dk_at dksX2_lends_5 4 rfl rfl)
theorem dX2_lends_124 : decode cX2_lends 124 = .ok (.iload 4, 2) := dk_21 4 (dk_at dksX2_lends_5 7 rfl rfl)
theorem dX2_lends_126 : decode cX2_lends 126 = .ok (.ifCond .eq 5, 3) := dk_153 0 5 (dk_at dksX2_lends_5 9 rfl rfl)
theorem dX2_lends_129 : decode cX2_lends 129 = .ok (.iconst 0, 1) := dk_3 (dk_at dksX2_lends_5 12 rfl rfl)
theorem dX2_lends_130 : decode cX2_lends 130 = .ok (.ireturn, 1) := dk_172 (dk_at dksX2_lends_5 13 rfl rfl)
theorem dX2_lends_131 : decode cX2_lends 131 = .ok (.iload 4, 2) := dk_21 4 (dk_at dksX2_lends_5 14 rfl rfl)
theorem dX2_lends_133 : decode cX2_lends 133 = .ok (.ifCond .ne 10, 3) := dk_154 0 10 (dk_at dksX2_lends_5 16 rfl rfl)
theorem dX2_lends_136 : decode cX2_lends 136 = .ok (.lload 6, 2) := dk_22 6 (dk_at dksX2_lends_5 19 rfl rfl)
theorem dX2_lends_138 : decode cX2_lends 138 = .ok (.lconst 0, 1) := dk_9 (dk_at dksX2_lends_5 21 rfl rfl)
theorem dX2_lends_139 : decode cX2_lends 139 = .ok (.lcmp, 1) := dk_148 (dk_at dksX2_lends_5 22 rfl rfl)
theorem dX2_lends_140 : decode cX2_lends 140 = .ok (.ifCond .le 7, 3) := dk_158 0 7 (dk_at dksX2_lends_6 0 rfl rfl)
theorem dX2_lends_143 : decode cX2_lends 143 = .ok (.iconst 1, 1) := dk_4 (dk_at dksX2_lends_6 3 rfl rfl)
theorem dX2_lends_144 : decode cX2_lends 144 = .ok (.goto 4, 3) := dk_167 0 4 (dk_at dksX2_lends_6 4 rfl rfl)
theorem dX2_lends_147 : decode cX2_lends 147 = .ok (.iconst 0, 1) := dk_3 (dk_at dksX2_lends_6 7 rfl rfl)
theorem dX2_lends_148 : decode cX2_lends 148 = .ok (.istore 4, 2) := dk_54 4 (dk_at dksX2_lends_6 8 rfl rfl)
theorem dX2_lends_150 : decode cX2_lends 150 = .ok (.iinc 5 1, 3) := dk_132 5 1 (dk_at dksX2_lends_6 10 rfl rfl)
theorem dX2_lends_153 : decode cX2_lends 153 = .ok (.goto (-59), 3) := dk_167 255 197 (dk_at dksX2_lends_6 13 rfl rfl)
theorem dX2_lends_156 : decode cX2_lends 156 = .ok (.iconst 1, 1) := dk_4 (dk_at dksX2_lends_6 16 rfl rfl)
theorem dX2_lends_157 : decode cX2_lends 157 = .ok (.ireturn, 1) := dk_172 (dk_at dksX2_lends_6 17 rfl rfl)
abbrev cX2_isEven : ByteArray := prog_4_method_16_code
def yX2_isEven : MethodName := ⟨RX2, "isEven", "(I)Z"⟩
def dkwX2_isEven_1 : List UInt8 := [154, 0, 7, 4, 167, 0, 4, 3, 61, 132, 3, 1, 167, 255, 226, 28, 172]
abbrev dktX2_isEven_1 : List UInt8 := dkwX2_isEven_1 ++ []
def dkwX2_isEven_0 : List UInt8 := [4, 61, 4, 62, 29, 16, 6, 162, 0, 30, 28, 153, 0, 18, 42, 27, 29, 182, 0, 130, 9, 148]
abbrev dktX2_isEven_0 : List UInt8 := dkwX2_isEven_0 ++ dktX2_isEven_1
theorem dksX2_isEven_0 : cX2_isEven.data.toList.drop 0 = dktX2_isEven_0 := by decide +kernel
theorem dksX2_isEven_1 : cX2_isEven.data.toList.drop 22 = dktX2_isEven_1 := dk_seg dksX2_isEven_0 22 rfl rfl
theorem dX2_isEven_0 : decode cX2_isEven 0 = .ok (.iconst 1, 1) := dk_4 (dk_at dksX2_isEven_0 0 rfl rfl)
theorem dX2_isEven_1 : decode cX2_isEven 1 = .ok (.istore_n 2, 1) := dk_61 (dk_at dksX2_isEven_0 1 rfl rfl)
theorem dX2_isEven_2 : decode cX2_isEven 2 = .ok (.iconst 1, 1) := dk_4 (dk_at dksX2_isEven_0 2 rfl rfl)
theorem dX2_isEven_3 : decode cX2_isEven 3 = .ok (.istore_n 3, 1) := dk_62 (dk_at dksX2_isEven_0 3 rfl rfl)
theorem dX2_isEven_4 : decode cX2_isEven 4 = .ok (.iload_n 3, 1) := dk_29 (dk_at dksX2_isEven_0 4 rfl rfl)
theorem dX2_isEven_5 : decode cX2_isEven 5 = .ok (.bipush 6, 2) := dk_16 6 (dk_at dksX2_isEven_0 5 rfl rfl)
theorem dX2_isEven_7 : decode cX2_isEven 7 = .ok (.if_icmp .ge 30, 3) := dk_162 0 30 (dk_at dksX2_isEven_0 7 rfl rfl)
theorem dX2_isEven_10 : decode cX2_isEven 10 = .ok (.iload_n 2, 1) := dk_28 (dk_at dksX2_isEven_0 10 rfl rfl)
theorem dX2_isEven_11 : decode cX2_isEven 11 = .ok (.ifCond .eq 18, 3) := dk_153 0 18 (dk_at dksX2_isEven_0 11 rfl rfl)
theorem dX2_isEven_14 : decode cX2_isEven 14 = .ok (.aload_n 0, 1) := dk_42 (dk_at dksX2_isEven_0 14 rfl rfl)
theorem dX2_isEven_15 : decode cX2_isEven 15 = .ok (.iload_n 1, 1) := dk_27 (dk_at dksX2_isEven_0 15 rfl rfl)
theorem dX2_isEven_16 : decode cX2_isEven 16 = .ok (.iload_n 3, 1) := dk_29 (dk_at dksX2_isEven_0 16 rfl rfl)
theorem dX2_isEven_17 : decode cX2_isEven 17 = .ok (.invokevirtual 130, 3) := dk_182 0 130 (dk_at dksX2_isEven_0 17 rfl rfl)
theorem dX2_isEven_20 : decode cX2_isEven 20 = .ok (.lconst 0, 1) := dk_9 (dk_at dksX2_isEven_0 20 rfl rfl)
theorem dX2_isEven_21 : decode cX2_isEven 21 = .ok (.lcmp, 1) := dk_148 (dk_at dksX2_isEven_0 21 rfl rfl)
theorem dX2_isEven_22 : decode cX2_isEven 22 = .ok (.ifCond .ne 7, 3) := dk_154 0 7 (dk_at dksX2_isEven_1 0 rfl rfl)
theorem dX2_isEven_25 : decode cX2_isEven 25 = .ok (.iconst 1, 1) := dk_4 (dk_at dksX2_isEven_1 3 rfl rfl)
theorem dX2_isEven_26 : decode cX2_isEven 26 = .ok (.goto 4, 3) := dk_167 0 4 (dk_at dksX2_isEven_1 4 rfl rfl)
theorem dX2_isEven_29 : decode cX2_isEven 29 = .ok (.iconst 0, 1) := dk_3 (dk_at dksX2_isEven_1 7 rfl rfl)
theorem dX2_isEven_30 : decode cX2_isEven 30 = .ok (.istore_n 2, 1) := dk_61 (dk_at dksX2_isEven_1 8 rfl rfl)
theorem dX2_isEven_31 : decode cX2_isEven 31 = .ok (.iinc 3 1, 3) := dk_132 3 1 (dk_at dksX2_isEven_1 9 rfl rfl)
theorem dX2_isEven_34 : decode cX2_isEven 34 = .ok (.goto (-30), 3) := dk_167 255 226 (dk_at dksX2_isEven_1 12 rfl rfl)
theorem dX2_isEven_37 : decode cX2_isEven 37 = .ok (.iload_n 2, 1) := dk_28 (dk_at dksX2_isEven_1 15 rfl rfl)
theorem dX2_isEven_38 : decode cX2_isEven 38 = .ok (.ireturn, 1) := dk_172 (dk_at dksX2_isEven_1 16 rfl rfl)
abbrev cX2_total : ByteArray := prog_4_method_15_code
def yX2_total : MethodName := ⟨RX2, "total", "(II)J"⟩
def dkwX2_total_0 : List UInt8 := [42, 180, 0, 43, 16, 6, 27, 104, 28, 96, 47, 173]
abbrev dktX2_total_0 : List UInt8 := dkwX2_total_0 ++ []
theorem dksX2_total_0 : cX2_total.data.toList.drop 0 = dktX2_total_0 := by decide +kernel
theorem dX2_total_0 : decode cX2_total 0 = .ok (.aload_n 0, 1) := dk_42 (dk_at dksX2_total_0 0 rfl rfl)
theorem dX2_total_1 : decode cX2_total 1 = .ok (.getfield 43, 3) := dk_180 0 43 (dk_at dksX2_total_0 1 rfl rfl)
theorem dX2_total_4 : decode cX2_total 4 = .ok (.bipush 6, 2) := dk_16 6 (dk_at dksX2_total_0 4 rfl rfl)
theorem dX2_total_6 : decode cX2_total 6 = .ok (.iload_n 1, 1) := dk_27 (dk_at dksX2_total_0 6 rfl rfl)
theorem dX2_total_7 : decode cX2_total 7 = .ok (.imul, 1) := dk_104 (dk_at dksX2_total_0 7 rfl rfl)
theorem dX2_total_8 : decode cX2_total 8 = .ok (.iload_n 2, 1) := dk_28 (dk_at dksX2_total_0 8 rfl rfl)
theorem dX2_total_9 : decode cX2_total 9 = .ok (.iadd, 1) := dk_96 (dk_at dksX2_total_0 9 rfl rfl)
theorem dX2_total_10 : decode cX2_total 10 = .ok (.laload, 1) := dk_47 (dk_at dksX2_total_0 10 rfl rfl)
theorem dX2_total_11 : decode cX2_total 11 = .ok (.lreturn, 1) := dk_173 (dk_at dksX2_total_0 11 rfl rfl)
abbrev cX2_firstDay : ByteArray := prog_4_method_17_code
def yX2_firstDay : MethodName := ⟨RX2, "firstDay", "(I)I"⟩
def dkwX2_firstDay_1 : List UInt8 := [154, 0, 9, 132, 2, 1, 167, 255, 229, 28, 172]
abbrev dktX2_firstDay_1 : List UInt8 := dkwX2_firstDay_1 ++ []
def dkwX2_firstDay_0 : List UInt8 := [3, 61, 28, 42, 180, 0, 120, 162, 0, 25, 42, 180, 0, 39, 16, 8, 28, 104, 27, 96, 47, 9, 148]
abbrev dktX2_firstDay_0 : List UInt8 := dkwX2_firstDay_0 ++ dktX2_firstDay_1
theorem dksX2_firstDay_0 : cX2_firstDay.data.toList.drop 0 = dktX2_firstDay_0 := by decide +kernel
theorem dksX2_firstDay_1 : cX2_firstDay.data.toList.drop 23 = dktX2_firstDay_1 := dk_seg dksX2_firstDay_0 23 rfl rfl
theorem dX2_firstDay_0 : decode cX2_firstDay 0 = .ok (.iconst 0, 1) := dk_3 (dk_at dksX2_firstDay_0 0 rfl rfl)
theorem dX2_firstDay_1 : decode cX2_firstDay 1 = .ok (.istore_n 2, 1) := dk_61 (dk_at dksX2_firstDay_0 1 rfl rfl)
theorem dX2_firstDay_2 : decode cX2_firstDay 2 = .ok (.iload_n 2, 1) := dk_28 (dk_at dksX2_firstDay_0 2 rfl rfl)
theorem dX2_firstDay_3 : decode cX2_firstDay 3 = .ok (.aload_n 0, 1) := dk_42 (dk_at dksX2_firstDay_0 3 rfl rfl)
theorem dX2_firstDay_4 : decode cX2_firstDay 4 = .ok (.getfield 120, 3) := dk_180 0 120 (dk_at dksX2_firstDay_0 4 rfl rfl)
theorem dX2_firstDay_7 : decode cX2_firstDay 7 = .ok (.if_icmp .ge 25, 3) := dk_162 0 25 (dk_at dksX2_firstDay_0 7 rfl rfl)
theorem dX2_firstDay_10 : decode cX2_firstDay 10 = .ok (.aload_n 0, 1) := dk_42 (dk_at dksX2_firstDay_0 10 rfl rfl)
theorem dX2_firstDay_11 : decode cX2_firstDay 11 = .ok (.getfield 39, 3) := dk_180 0 39 (dk_at dksX2_firstDay_0 11 rfl rfl)
theorem dX2_firstDay_14 : decode cX2_firstDay 14 = .ok (.bipush 8, 2) := dk_16 8 (dk_at dksX2_firstDay_0 14 rfl rfl)
theorem dX2_firstDay_16 : decode cX2_firstDay 16 = .ok (.iload_n 2, 1) := dk_28 (dk_at dksX2_firstDay_0 16 rfl rfl)
theorem dX2_firstDay_17 : decode cX2_firstDay 17 = .ok (.imul, 1) := dk_104 (dk_at dksX2_firstDay_0 17 rfl rfl)
theorem dX2_firstDay_18 : decode cX2_firstDay 18 = .ok (.iload_n 1, 1) := dk_27 (dk_at dksX2_firstDay_0 18 rfl rfl)
theorem dX2_firstDay_19 : decode cX2_firstDay 19 = .ok (.iadd, 1) := dk_96 (dk_at dksX2_firstDay_0 19 rfl rfl)
theorem dX2_firstDay_20 : decode cX2_firstDay 20 = .ok (.laload, 1) := dk_47 (dk_at dksX2_firstDay_0 20 rfl rfl)
theorem dX2_firstDay_21 : decode cX2_firstDay 21 = .ok (.lconst 0, 1) := dk_9 (dk_at dksX2_firstDay_0 21 rfl rfl)
theorem dX2_firstDay_22 : decode cX2_firstDay 22 = .ok (.lcmp, 1) := dk_148 (dk_at dksX2_firstDay_0 22 rfl rfl)
theorem dX2_firstDay_23 : decode cX2_firstDay 23 = .ok (.ifCond .ne 9, 3) := dk_154 0 9 (dk_at dksX2_firstDay_1 0 rfl rfl)
theorem dX2_firstDay_26 : decode cX2_firstDay 26 = .ok (.iinc 2 1, 3) := dk_132 2 1 (dk_at dksX2_firstDay_1 3 rfl rfl)
theorem dX2_firstDay_29 : decode cX2_firstDay 29 = .ok (.goto (-27), 3) := dk_167 255 229 (dk_at dksX2_firstDay_1 6 rfl rfl)
theorem dX2_firstDay_32 : decode cX2_firstDay 32 = .ok (.iload_n 2, 1) := dk_28 (dk_at dksX2_firstDay_1 9 rfl rfl)
theorem dX2_firstDay_33 : decode cX2_firstDay 33 = .ok (.ireturn, 1) := dk_172 (dk_at dksX2_firstDay_1 10 rfl rfl)
abbrev cX2_out : ByteArray := prog_4_method_19_code
def yX2_out : MethodName := ⟨RX2, "out", "(I)J"⟩
def dkwX2_out_3 : List UInt8 := [132, 6, 1, 167, 255, 194, 32, 173]
abbrev dktX2_out_3 : List UInt8 := dkwX2_out_3 ++ []
def dkwX2_out_2 : List UInt8 := [32, 22, 4, 42, 180, 0, 35, 21, 6, 4, 96, 46, 42, 180, 0, 35, 21, 6, 46, 100, 133, 105, 97, 65]
abbrev dktX2_out_2 : List UInt8 := dkwX2_out_2 ++ dktX2_out_3
def dkwX2_out_1 : List UInt8 := [22, 4, 42, 180, 0, 39, 16, 8, 21, 6, 104, 27, 96, 47, 101, 55, 4, 22, 4, 9, 148, 158, 0, 27]
abbrev dktX2_out_1 : List UInt8 := dkwX2_out_1 ++ dktX2_out_2
def dkwX2_out_0 : List UInt8 := [9, 65, 9, 55, 4, 42, 27, 182, 0, 138, 54, 6, 21, 6, 4, 96, 42, 180, 0, 120, 162, 0, 57]
abbrev dktX2_out_0 : List UInt8 := dkwX2_out_0 ++ dktX2_out_1
theorem dksX2_out_0 : cX2_out.data.toList.drop 0 = dktX2_out_0 := by decide +kernel
theorem dksX2_out_1 : cX2_out.data.toList.drop 23 = dktX2_out_1 := dk_seg dksX2_out_0 23 rfl rfl
theorem dksX2_out_2 : cX2_out.data.toList.drop 47 = dktX2_out_2 := dk_seg dksX2_out_1 24 rfl rfl
theorem dksX2_out_3 : cX2_out.data.toList.drop 71 = dktX2_out_3 := dk_seg dksX2_out_2 24 rfl rfl
theorem dX2_out_0 : decode cX2_out 0 = .ok (.lconst 0, 1) := dk_9 (dk_at dksX2_out_0 0 rfl rfl)
theorem dX2_out_1 : decode cX2_out 1 = .ok (.lstore_n 2, 1) := dk_65 (dk_at dksX2_out_0 1 rfl rfl)
theorem dX2_out_2 : decode cX2_out 2 = .ok (.lconst 0, 1) := dk_9 (dk_at dksX2_out_0 2 rfl rfl)
theorem dX2_out_3 : decode cX2_out 3 = .ok (.lstore 4, 2) := dk_55 4 (dk_at dksX2_out_0 3 rfl rfl)
theorem dX2_out_5 : decode cX2_out 5 = .ok (.aload_n 0, 1) := dk_42 (dk_at dksX2_out_0 5 rfl rfl)
theorem dX2_out_6 : decode cX2_out 6 = .ok (.iload_n 1, 1) := dk_27 (dk_at dksX2_out_0 6 rfl rfl)
theorem dX2_out_7 : decode cX2_out 7 = .ok (.invokevirtual 138, 3) := dk_182 0 138 (dk_at dksX2_out_0 7 rfl rfl)
theorem dX2_out_10 : decode cX2_out 10 = .ok (.istore 6, 2) := dk_54 6 (dk_at dksX2_out_0 10 rfl rfl)
theorem dX2_out_12 : decode cX2_out 12 = .ok (.iload 6, 2) := dk_21 6 (dk_at dksX2_out_0 12 rfl rfl)
theorem dX2_out_14 : decode cX2_out 14 = .ok (.iconst 1, 1) := dk_4 (dk_at dksX2_out_0 14 rfl rfl)
theorem dX2_out_15 : decode cX2_out 15 = .ok (.iadd, 1) := dk_96 (dk_at dksX2_out_0 15 rfl rfl)
theorem dX2_out_16 : decode cX2_out 16 = .ok (.aload_n 0, 1) := dk_42 (dk_at dksX2_out_0 16 rfl rfl)
theorem dX2_out_17 : decode cX2_out 17 = .ok (.getfield 120, 3) := dk_180 0 120 (dk_at dksX2_out_0 17 rfl rfl)
theorem dX2_out_20 : decode cX2_out 20 = .ok (.if_icmp .ge 57, 3) := dk_162 0 57 (dk_at dksX2_out_0 20 rfl rfl)
theorem dX2_out_23 : decode cX2_out 23 = .ok (.lload 4, 2) := dk_22 4 (dk_at dksX2_out_1 0 rfl rfl)
theorem dX2_out_25 : decode cX2_out 25 = .ok (.aload_n 0, 1) := dk_42 (dk_at dksX2_out_1 2 rfl rfl)
theorem dX2_out_26 : decode cX2_out 26 = .ok (.getfield 39, 3) := dk_180 0 39 (dk_at dksX2_out_1 3 rfl rfl)
theorem dX2_out_29 : decode cX2_out 29 = .ok (.bipush 8, 2) := dk_16 8 (dk_at dksX2_out_1 6 rfl rfl)
theorem dX2_out_31 : decode cX2_out 31 = .ok (.iload 6, 2) := dk_21 6 (dk_at dksX2_out_1 8 rfl rfl)
theorem dX2_out_33 : decode cX2_out 33 = .ok (.imul, 1) := dk_104 (dk_at dksX2_out_1 10 rfl rfl)
theorem dX2_out_34 : decode cX2_out 34 = .ok (.iload_n 1, 1) := dk_27 (dk_at dksX2_out_1 11 rfl rfl)
theorem dX2_out_35 : decode cX2_out 35 = .ok (.iadd, 1) := dk_96 (dk_at dksX2_out_1 12 rfl rfl)
theorem dX2_out_36 : decode cX2_out 36 = .ok (.laload, 1) := dk_47 (dk_at dksX2_out_1 13 rfl rfl)
theorem dX2_out_37 : decode cX2_out 37 = .ok (.lsub, 1) := dk_101 (dk_at dksX2_out_1 14 rfl rfl)
theorem dX2_out_38 : decode cX2_out 38 = .ok (.lstore 4, 2) := dk_55 4 (dk_at dksX2_out_1 15 rfl rfl)
theorem dX2_out_40 : decode cX2_out 40 = .ok (.lload 4, 2) := dk_22 4 (dk_at dksX2_out_1 17 rfl rfl)
theorem dX2_out_42 : decode cX2_out 42 = .ok (.lconst 0, 1) := dk_9 (dk_at dksX2_out_1 19 rfl rfl)
theorem dX2_out_43 : decode cX2_out 43 = .ok (.lcmp, 1) := dk_148 (dk_at dksX2_out_1 20 rfl rfl)
theorem dX2_out_44 : decode cX2_out 44 = .ok (.ifCond .le 27, 3) := dk_158 0 27 (dk_at dksX2_out_1 21 rfl rfl)
theorem dX2_out_47 : decode cX2_out 47 = .ok (.lload_n 2, 1) := dk_32 (dk_at dksX2_out_2 0 rfl rfl)
theorem dX2_out_48 : decode cX2_out 48 = .ok (.lload 4, 2) := dk_22 4 (dk_at dksX2_out_2 1 rfl rfl)
theorem dX2_out_50 : decode cX2_out 50 = .ok (.aload_n 0, 1) := dk_42 (dk_at dksX2_out_2 3 rfl rfl)
theorem dX2_out_51 : decode cX2_out 51 = .ok (.getfield 35, 3) := dk_180 0 35 (dk_at dksX2_out_2 4 rfl rfl)
theorem dX2_out_54 : decode cX2_out 54 = .ok (.iload 6, 2) := dk_21 6 (dk_at dksX2_out_2 7 rfl rfl)
theorem dX2_out_56 : decode cX2_out 56 = .ok (.iconst 1, 1) := dk_4 (dk_at dksX2_out_2 9 rfl rfl)
theorem dX2_out_57 : decode cX2_out 57 = .ok (.iadd, 1) := dk_96 (dk_at dksX2_out_2 10 rfl rfl)
theorem dX2_out_58 : decode cX2_out 58 = .ok (.iaload, 1) := dk_46 (dk_at dksX2_out_2 11 rfl rfl)
theorem dX2_out_59 : decode cX2_out 59 = .ok (.aload_n 0, 1) := dk_42 (dk_at dksX2_out_2 12 rfl rfl)
theorem dX2_out_60 : decode cX2_out 60 = .ok (.getfield 35, 3) := dk_180 0 35 (dk_at dksX2_out_2 13 rfl rfl)
theorem dX2_out_63 : decode cX2_out 63 = .ok (.iload 6, 2) := dk_21 6 (dk_at dksX2_out_2 16 rfl rfl)
theorem dX2_out_65 : decode cX2_out 65 = .ok (.iaload, 1) := dk_46 (dk_at dksX2_out_2 18 rfl rfl)
theorem dX2_out_66 : decode cX2_out 66 = .ok (.isub, 1) := dk_100 (dk_at dksX2_out_2 19 rfl rfl)
theorem dX2_out_67 : decode cX2_out 67 = .ok (.i2l, 1) := dk_133 (dk_at dksX2_out_2 20 rfl rfl)
theorem dX2_out_68 : decode cX2_out 68 = .ok (.lmul, 1) := dk_105 (dk_at dksX2_out_2 21 rfl rfl)
theorem dX2_out_69 : decode cX2_out 69 = .ok (.ladd, 1) := dk_97 (dk_at dksX2_out_2 22 rfl rfl)
theorem dX2_out_70 : decode cX2_out 70 = .ok (.lstore_n 2, 1) := dk_65 (dk_at dksX2_out_2 23 rfl rfl)
theorem dX2_out_71 : decode cX2_out 71 = .ok (.iinc 6 1, 3) := dk_132 6 1 (dk_at dksX2_out_3 0 rfl rfl)
theorem dX2_out_74 : decode cX2_out 74 = .ok (.goto (-62), 3) := dk_167 255 194 (dk_at dksX2_out_3 3 rfl rfl)
theorem dX2_out_77 : decode cX2_out 77 = .ok (.lload_n 2, 1) := dk_32 (dk_at dksX2_out_3 6 rfl rfl)
theorem dX2_out_78 : decode cX2_out 78 = .ok (.lreturn, 1) := dk_173 (dk_at dksX2_out_3 7 rfl rfl)
abbrev cX2_loan : ByteArray := prog_4_method_21_code
def yX2_loan : MethodName := ⟨RX2, "loan", "()I"⟩
def dkwX2_loan_8 : List UInt8 := [112, 96, 172, 132, 2, 1, 167, 255, 225, 2, 172]
abbrev dktX2_loan_8 : List UInt8 := dkwX2_loan_8 ++ []
def dkwX2_loan_7 : List UInt8 := [16, 64, 162, 0, 31, 42, 180, 0, 46, 28, 51, 153, 0, 16, 16, 10, 28, 16, 8, 108, 104, 28, 16, 8]
abbrev dktX2_loan_7 : List UInt8 := dkwX2_loan_7 ++ dktX2_loan_8
def dkwX2_loan_6 : List UInt8 := [153, 0, 7, 4, 167, 0, 4, 3, 60, 132, 3, 1, 167, 255, 193, 132, 2, 1, 167, 255, 152, 3, 61, 28]
abbrev dktX2_loan_6 : List UInt8 := dkwX2_loan_6 ++ dktX2_loan_7
def dkwX2_loan_5 : List UInt8 := [182, 0, 148, 153, 0, 7, 4, 167, 0, 4, 3, 84, 27, 154, 0, 12, 42, 180, 0, 46, 29, 51]
abbrev dktX2_loan_5 : List UInt8 := dkwX2_loan_5 ++ dktX2_loan_6
def dkwX2_loan_4 : List UInt8 := [180, 0, 46, 29, 42, 180, 0, 46, 29, 51, 153, 0, 22, 42, 29, 16, 8, 108, 29, 16, 8, 112]
abbrev dktX2_loan_4 : List UInt8 := dkwX2_loan_4 ++ dktX2_loan_5
def dkwX2_loan_3 : List UInt8 := [154, 0, 6, 167, 0, 78, 42, 28, 182, 0, 144, 3, 60, 3, 62, 29, 16, 64, 162, 0, 63, 42]
abbrev dktX2_loan_3 : List UInt8 := dkwX2_loan_3 ++ dktX2_loan_4
def dkwX2_loan_2 : List UInt8 := [3, 61, 28, 16, 32, 42, 180, 0, 54, 120, 162, 0, 99, 27, 153, 0, 95, 42, 28, 182, 0, 141]
abbrev dktX2_loan_2 : List UInt8 := dkwX2_loan_2 ++ dktX2_loan_3
def dkwX2_loan_1 : List UInt8 := [16, 8, 108, 27, 16, 8, 112, 159, 0, 7, 4, 167, 0, 4, 3, 84, 132, 1, 1, 167, 255, 225, 4, 60]
abbrev dktX2_loan_1 : List UInt8 := dkwX2_loan_1 ++ dktX2_loan_2
def dkwX2_loan_0 : List UInt8 := [42, 182, 0, 152, 154, 0, 5, 2, 172, 3, 60, 27, 16, 64, 162, 0, 31, 42, 180, 0, 46, 27, 27]
abbrev dktX2_loan_0 : List UInt8 := dkwX2_loan_0 ++ dktX2_loan_1
theorem dksX2_loan_0 : cX2_loan.data.toList.drop 0 = dktX2_loan_0 := by decide +kernel
theorem dksX2_loan_1 : cX2_loan.data.toList.drop 23 = dktX2_loan_1 := dk_seg dksX2_loan_0 23 rfl rfl
theorem dksX2_loan_2 : cX2_loan.data.toList.drop 47 = dktX2_loan_2 := dk_seg dksX2_loan_1 24 rfl rfl
theorem dksX2_loan_3 : cX2_loan.data.toList.drop 69 = dktX2_loan_3 := dk_seg dksX2_loan_2 22 rfl rfl
theorem dksX2_loan_4 : cX2_loan.data.toList.drop 91 = dktX2_loan_4 := dk_seg dksX2_loan_3 22 rfl rfl
theorem dksX2_loan_5 : cX2_loan.data.toList.drop 113 = dktX2_loan_5 := dk_seg dksX2_loan_4 22 rfl rfl
theorem dksX2_loan_6 : cX2_loan.data.toList.drop 135 = dktX2_loan_6 := dk_seg dksX2_loan_5 22 rfl rfl
theorem dksX2_loan_7 : cX2_loan.data.toList.drop 159 = dktX2_loan_7 := dk_seg dksX2_loan_6 24 rfl rfl
theorem dksX2_loan_8 : cX2_loan.data.toList.drop 183 = dktX2_loan_8 := dk_seg dksX2_loan_7 24 rfl rfl
theorem dX2_loan_0 : decode cX2_loan 0 = .ok (.aload_n 0, 1) := dk_42 (dk_at dksX2_loan_0 0 rfl rfl)
theorem dX2_loan_1 : decode cX2_loan 1 = .ok (.invokevirtual 152, 3) := dk_182 0 152 (dk_at dksX2_loan_0 1 rfl rfl)
theorem dX2_loan_4 : decode cX2_loan 4 = .ok (.ifCond .ne 5, 3) := dk_154 0 5 (dk_at dksX2_loan_0 4 rfl rfl)
theorem dX2_loan_7 : decode cX2_loan 7 = .ok (.iconst (-1), 1) := dk_2 (dk_at dksX2_loan_0 7 rfl rfl)
theorem dX2_loan_8 : decode cX2_loan 8 = .ok (.ireturn, 1) := dk_172 (dk_at dksX2_loan_0 8 rfl rfl)
theorem dX2_loan_9 : decode cX2_loan 9 = .ok (.iconst 0, 1) := dk_3 (dk_at dksX2_loan_0 9 rfl rfl)
theorem dX2_loan_10 : decode cX2_loan 10 = .ok (.istore_n 1, 1) := dk_60 (dk_at dksX2_loan_0 10 rfl rfl)
theorem dX2_loan_11 : decode cX2_loan 11 = .ok (.iload_n 1, 1) := dk_27 (dk_at dksX2_loan_0 11 rfl rfl)
theorem dX2_loan_12 : decode cX2_loan 12 = .ok (.bipush 64, 2) := dk_16 64 (dk_at dksX2_loan_0 12 rfl rfl)
theorem dX2_loan_14 : decode cX2_loan 14 = .ok (.if_icmp .ge 31, 3) := dk_162 0 31 (dk_at dksX2_loan_0 14 rfl rfl)
theorem dX2_loan_17 : decode cX2_loan 17 = .ok (.aload_n 0, 1) := dk_42 (dk_at dksX2_loan_0 17 rfl rfl)
theorem dX2_loan_18 : decode cX2_loan 18 = .ok (.getfield 46, 3) := dk_180 0 46 (dk_at dksX2_loan_0 18 rfl rfl)
theorem dX2_loan_21 : decode cX2_loan 21 = .ok (.iload_n 1, 1) := dk_27 (dk_at dksX2_loan_0 21 rfl rfl)
theorem dX2_loan_22 : decode cX2_loan 22 = .ok (.iload_n 1, 1) := dk_27 (dk_at dksX2_loan_0 22 rfl rfl)
theorem dX2_loan_23 : decode cX2_loan 23 = .ok (.bipush 8, 2) := dk_16 8 (dk_at dksX2_loan_1 0 rfl rfl)
theorem dX2_loan_25 : decode cX2_loan 25 = .ok (.idiv, 1) := dk_108 (dk_at dksX2_loan_1 2 rfl rfl)
theorem dX2_loan_26 : decode cX2_loan 26 = .ok (.iload_n 1, 1) := dk_27 (dk_at dksX2_loan_1 3 rfl rfl)
theorem dX2_loan_27 : decode cX2_loan 27 = .ok (.bipush 8, 2) := dk_16 8 (dk_at dksX2_loan_1 4 rfl rfl)
theorem dX2_loan_29 : decode cX2_loan 29 = .ok (.irem, 1) := dk_112 (dk_at dksX2_loan_1 6 rfl rfl)
theorem dX2_loan_30 : decode cX2_loan 30 = .ok (.if_icmp .eq 7, 3) := dk_159 0 7 (dk_at dksX2_loan_1 7 rfl rfl)
theorem dX2_loan_33 : decode cX2_loan 33 = .ok (.iconst 1, 1) := dk_4 (dk_at dksX2_loan_1 10 rfl rfl)
theorem dX2_loan_34 : decode cX2_loan 34 = .ok (.goto 4, 3) := dk_167 0 4 (dk_at dksX2_loan_1 11 rfl rfl)
theorem dX2_loan_37 : decode cX2_loan 37 = .ok (.iconst 0, 1) := dk_3 (dk_at dksX2_loan_1 14 rfl rfl)
theorem dX2_loan_38 : decode cX2_loan 38 = .ok (.bastore, 1) := dk_84 (dk_at dksX2_loan_1 15 rfl rfl)
theorem dX2_loan_39 : decode cX2_loan 39 = .ok (.iinc 1 1, 3) := dk_132 1 1 (dk_at dksX2_loan_1 16 rfl rfl)
theorem dX2_loan_42 : decode cX2_loan 42 = .ok (.goto (-31), 3) := dk_167 255 225 (dk_at dksX2_loan_1 19 rfl rfl)
theorem dX2_loan_45 : decode cX2_loan 45 = .ok (.iconst 1, 1) := dk_4 (dk_at dksX2_loan_1 22 rfl rfl)
theorem dX2_loan_46 : decode cX2_loan 46 = .ok (.istore_n 1, 1) := dk_60 (dk_at dksX2_loan_1 23 rfl rfl)
theorem dX2_loan_47 : decode cX2_loan 47 = .ok (.iconst 0, 1) := dk_3 (dk_at dksX2_loan_2 0 rfl rfl)
theorem dX2_loan_48 : decode cX2_loan 48 = .ok (.istore_n 2, 1) := dk_61 (dk_at dksX2_loan_2 1 rfl rfl)
theorem dX2_loan_49 : decode cX2_loan 49 = .ok (.iload_n 2, 1) := dk_28 (dk_at dksX2_loan_2 2 rfl rfl)
theorem dX2_loan_50 : decode cX2_loan 50 = .ok (.bipush 32, 2) := dk_16 32 (dk_at dksX2_loan_2 3 rfl rfl)
theorem dX2_loan_52 : decode cX2_loan 52 = .ok (.aload_n 0, 1) := dk_42 (dk_at dksX2_loan_2 5 rfl rfl)
theorem dX2_loan_53 : decode cX2_loan 53 = .ok (.getfield 54, 3) := dk_180 0 54 (dk_at dksX2_loan_2 6 rfl rfl)
theorem dX2_loan_56 : decode cX2_loan 56 = .ok (.ishl, 1) := dk_120 (dk_at dksX2_loan_2 9 rfl rfl)
theorem dX2_loan_57 : decode cX2_loan 57 = .ok (.if_icmp .ge 99, 3) := dk_162 0 99 (dk_at dksX2_loan_2 10 rfl rfl)
theorem dX2_loan_60 : decode cX2_loan 60 = .ok (.iload_n 1, 1) := dk_27 (dk_at dksX2_loan_2 13 rfl rfl)
theorem dX2_loan_61 : decode cX2_loan 61 = .ok (.ifCond .eq 95, 3) := dk_153 0 95 (dk_at dksX2_loan_2 14 rfl rfl)
theorem dX2_loan_64 : decode cX2_loan 64 = .ok (.aload_n 0, 1) := dk_42 (dk_at dksX2_loan_2 17 rfl rfl)
theorem dX2_loan_65 : decode cX2_loan 65 = .ok (.iload_n 2, 1) := dk_28 (dk_at dksX2_loan_2 18 rfl rfl)
theorem dX2_loan_66 : decode cX2_loan 66 = .ok (.invokevirtual 141, 3) := dk_182 0 141 (dk_at dksX2_loan_2 19 rfl rfl)
theorem dX2_loan_69 : decode cX2_loan 69 = .ok (.ifCond .ne 6, 3) := dk_154 0 6 (dk_at dksX2_loan_3 0 rfl rfl)
theorem dX2_loan_72 : decode cX2_loan 72 = .ok (.goto 78, 3) := dk_167 0 78 (dk_at dksX2_loan_3 3 rfl rfl)
theorem dX2_loan_75 : decode cX2_loan 75 = .ok (.aload_n 0, 1) := dk_42 (dk_at dksX2_loan_3 6 rfl rfl)
theorem dX2_loan_76 : decode cX2_loan 76 = .ok (.iload_n 2, 1) := dk_28 (dk_at dksX2_loan_3 7 rfl rfl)
theorem dX2_loan_77 : decode cX2_loan 77 = .ok (.invokevirtual 144, 3) := dk_182 0 144 (dk_at dksX2_loan_3 8 rfl rfl)
theorem dX2_loan_80 : decode cX2_loan 80 = .ok (.iconst 0, 1) := dk_3 (dk_at dksX2_loan_3 11 rfl rfl)
theorem dX2_loan_81 : decode cX2_loan 81 = .ok (.istore_n 1, 1) := dk_60 (dk_at dksX2_loan_3 12 rfl rfl)
theorem dX2_loan_82 : decode cX2_loan 82 = .ok (.iconst 0, 1) := dk_3 (dk_at dksX2_loan_3 13 rfl rfl)
theorem dX2_loan_83 : decode cX2_loan 83 = .ok (.istore_n 3, 1) := dk_62 (dk_at dksX2_loan_3 14 rfl rfl)
theorem dX2_loan_84 : decode cX2_loan 84 = .ok (.iload_n 3, 1) := dk_29 (dk_at dksX2_loan_3 15 rfl rfl)
theorem dX2_loan_85 : decode cX2_loan 85 = .ok (.bipush 64, 2) := dk_16 64 (dk_at dksX2_loan_3 16 rfl rfl)
theorem dX2_loan_87 : decode cX2_loan 87 = .ok (.if_icmp .ge 63, 3) := dk_162 0 63 (dk_at dksX2_loan_3 18 rfl rfl)
theorem dX2_loan_90 : decode cX2_loan 90 = .ok (.aload_n 0, 1) := dk_42 (dk_at dksX2_loan_3 21 rfl rfl)
theorem dX2_loan_91 : decode cX2_loan 91 = .ok (.getfield 46, 3) := dk_180 0 46 (dk_at dksX2_loan_4 0 rfl rfl)
theorem dX2_loan_94 : decode cX2_loan 94 = .ok (.iload_n 3, 1) := dk_29 (dk_at dksX2_loan_4 3 rfl rfl)
theorem dX2_loan_95 : decode cX2_loan 95 = .ok (.aload_n 0, 1) := dk_42 (dk_at dksX2_loan_4 4 rfl rfl)
theorem dX2_loan_96 : decode cX2_loan 96 = .ok (.getfield 46, 3) := dk_180 0 46 (dk_at dksX2_loan_4 5 rfl rfl)
theorem dX2_loan_99 : decode cX2_loan 99 = .ok (.iload_n 3, 1) := dk_29 (dk_at dksX2_loan_4 8 rfl rfl)
theorem dX2_loan_100 : decode cX2_loan 100 = .ok (.baload, 1) := dk_51 (dk_at dksX2_loan_4 9 rfl rfl)
theorem dX2_loan_101 : decode cX2_loan 101 = .ok (.ifCond .eq 22, 3) := dk_153 0 22 (dk_at dksX2_loan_4 10 rfl rfl)
theorem dX2_loan_104 : decode cX2_loan 104 = .ok (.aload_n 0, 1) := dk_42 (dk_at dksX2_loan_4 13 rfl rfl)
theorem dX2_loan_105 : decode cX2_loan 105 = .ok (.iload_n 3, 1) := dk_29 (dk_at dksX2_loan_4 14 rfl rfl)
theorem dX2_loan_106 : decode cX2_loan 106 = .ok (.bipush 8, 2) := dk_16 8 (dk_at dksX2_loan_4 15 rfl rfl)
theorem dX2_loan_108 : decode cX2_loan 108 = .ok (.idiv, 1) := dk_108 (dk_at dksX2_loan_4 17 rfl rfl)
theorem dX2_loan_109 : decode cX2_loan 109 = .ok (.iload_n 3, 1) := dk_29 (dk_at dksX2_loan_4 18 rfl rfl)
theorem dX2_loan_110 : decode cX2_loan 110 = .ok (.bipush 8, 2) := dk_16 8 (dk_at dksX2_loan_4 19 rfl rfl)
theorem dX2_loan_112 : decode cX2_loan 112 = .ok (.irem, 1) := dk_112 (dk_at dksX2_loan_4 21 rfl rfl)
theorem dX2_loan_113 : decode cX2_loan 113 = .ok (.invokevirtual 148, 3) := dk_182 0 148 (dk_at dksX2_loan_5 0 rfl rfl)
theorem dX2_loan_116 : decode cX2_loan 116 = .ok (.ifCond .eq 7, 3) := dk_153 0 7 (dk_at dksX2_loan_5 3 rfl rfl)
theorem dX2_loan_119 : decode cX2_loan 119 = .ok (.iconst 1, 1) := dk_4 (dk_at dksX2_loan_5 6 rfl rfl)
theorem dX2_loan_120 : decode cX2_loan 120 = .ok (.goto 4, 3) := dk_167 0 4 (dk_at dksX2_loan_5 7 rfl rfl)
theorem dX2_loan_123 : decode cX2_loan 123 = .ok (.iconst 0, 1) := dk_3 (dk_at dksX2_loan_5 10 rfl rfl)
theorem dX2_loan_124 : decode cX2_loan 124 = .ok (.bastore, 1) := dk_84 (dk_at dksX2_loan_5 11 rfl rfl)
theorem dX2_loan_125 : decode cX2_loan 125 = .ok (.iload_n 1, 1) := dk_27 (dk_at dksX2_loan_5 12 rfl rfl)
theorem dX2_loan_126 : decode cX2_loan 126 = .ok (.ifCond .ne 12, 3) := dk_154 0 12 (dk_at dksX2_loan_5 13 rfl rfl)
theorem dX2_loan_129 : decode cX2_loan 129 = .ok (.aload_n 0, 1) := dk_42 (dk_at dksX2_loan_5 16 rfl rfl)
theorem dX2_loan_130 : decode cX2_loan 130 = .ok (.getfield 46, 3) := dk_180 0 46 (dk_at dksX2_loan_5 17 rfl rfl)
theorem dX2_loan_133 : decode cX2_loan 133 = .ok (.iload_n 3, 1) := dk_29 (dk_at dksX2_loan_5 20 rfl rfl)
theorem dX2_loan_134 : decode cX2_loan 134 = .ok (.baload, 1) := dk_51 (dk_at dksX2_loan_5 21 rfl rfl)
theorem dX2_loan_135 : decode cX2_loan 135 = .ok (.ifCond .eq 7, 3) := dk_153 0 7 (dk_at dksX2_loan_6 0 rfl rfl)
theorem dX2_loan_138 : decode cX2_loan 138 = .ok (.iconst 1, 1) := dk_4 (dk_at dksX2_loan_6 3 rfl rfl)
theorem dX2_loan_139 : decode cX2_loan 139 = .ok (.goto 4, 3) := dk_167 0 4 (dk_at dksX2_loan_6 4 rfl rfl)
theorem dX2_loan_142 : decode cX2_loan 142 = .ok (.iconst 0, 1) := dk_3 (dk_at dksX2_loan_6 7 rfl rfl)
theorem dX2_loan_143 : decode cX2_loan 143 = .ok (.istore_n 1, 1) := dk_60 (dk_at dksX2_loan_6 8 rfl rfl)
theorem dX2_loan_144 : decode cX2_loan 144 = .ok (.iinc 3 1, 3) := dk_132 3 1 (dk_at dksX2_loan_6 9 rfl rfl)
theorem dX2_loan_147 : decode cX2_loan 147 = .ok (.goto (-63), 3) := dk_167 255 193 (dk_at dksX2_loan_6 12 rfl rfl)
theorem dX2_loan_150 : decode cX2_loan 150 = .ok (.iinc 2 1, 3) := dk_132 2 1 (dk_at dksX2_loan_6 15 rfl rfl)
theorem dX2_loan_153 : decode cX2_loan 153 = .ok (.goto (-104), 3) := dk_167 255 152 (dk_at dksX2_loan_6 18 rfl rfl)
theorem dX2_loan_156 : decode cX2_loan 156 = .ok (.iconst 0, 1) := dk_3 (dk_at dksX2_loan_6 21 rfl rfl)
theorem dX2_loan_157 : decode cX2_loan 157 = .ok (.istore_n 2, 1) := dk_61 (dk_at dksX2_loan_6 22 rfl rfl)
theorem dX2_loan_158 : decode cX2_loan 158 = .ok (.iload_n 2, 1) := dk_28 (dk_at dksX2_loan_6 23 rfl rfl)
theorem dX2_loan_159 : decode cX2_loan 159 = .ok (.bipush 64, 2) := dk_16 64 (dk_at dksX2_loan_7 0 rfl rfl)
theorem dX2_loan_161 : decode cX2_loan 161 = .ok (.if_icmp .ge 31, 3) := dk_162 0 31 (dk_at dksX2_loan_7 2 rfl rfl)
theorem dX2_loan_164 : decode cX2_loan 164 = .ok (.aload_n 0, 1) := dk_42 (dk_at dksX2_loan_7 5 rfl rfl)
theorem dX2_loan_165 : decode cX2_loan 165 = .ok (.getfield 46, 3) := dk_180 0 46 (dk_at dksX2_loan_7 6 rfl rfl)
theorem dX2_loan_168 : decode cX2_loan 168 = .ok (.iload_n 2, 1) := dk_28 (dk_at dksX2_loan_7 9 rfl rfl)
theorem dX2_loan_169 : decode cX2_loan 169 = .ok (.baload, 1) := dk_51 (dk_at dksX2_loan_7 10 rfl rfl)
theorem dX2_loan_170 : decode cX2_loan 170 = .ok (.ifCond .eq 16, 3) := dk_153 0 16 (dk_at dksX2_loan_7 11 rfl rfl)
theorem dX2_loan_173 : decode cX2_loan 173 = .ok (.bipush 10, 2) := dk_16 10 (dk_at dksX2_loan_7 14 rfl rfl)
theorem dX2_loan_175 : decode cX2_loan 175 = .ok (.iload_n 2, 1) := dk_28 (dk_at dksX2_loan_7 16 rfl rfl)
theorem dX2_loan_176 : decode cX2_loan 176 = .ok (.bipush 8, 2) := dk_16 8 (dk_at dksX2_loan_7 17 rfl rfl)
theorem dX2_loan_178 : decode cX2_loan 178 = .ok (.idiv, 1) := dk_108 (dk_at dksX2_loan_7 19 rfl rfl)
theorem dX2_loan_179 : decode cX2_loan 179 = .ok (.imul, 1) := dk_104 (dk_at dksX2_loan_7 20 rfl rfl)
theorem dX2_loan_180 : decode cX2_loan 180 = .ok (.iload_n 2, 1) := dk_28 (dk_at dksX2_loan_7 21 rfl rfl)
theorem dX2_loan_181 : decode cX2_loan 181 = .ok (.bipush 8, 2) := dk_16 8 (dk_at dksX2_loan_7 22 rfl rfl)
theorem dX2_loan_183 : decode cX2_loan 183 = .ok (.irem, 1) := dk_112 (dk_at dksX2_loan_8 0 rfl rfl)
theorem dX2_loan_184 : decode cX2_loan 184 = .ok (.iadd, 1) := dk_96 (dk_at dksX2_loan_8 1 rfl rfl)
theorem dX2_loan_185 : decode cX2_loan 185 = .ok (.ireturn, 1) := dk_172 (dk_at dksX2_loan_8 2 rfl rfl)
theorem dX2_loan_186 : decode cX2_loan 186 = .ok (.iinc 2 1, 3) := dk_132 2 1 (dk_at dksX2_loan_8 3 rfl rfl)
theorem dX2_loan_189 : decode cX2_loan 189 = .ok (.goto (-31), 3) := dk_167 255 225 (dk_at dksX2_loan_8 6 rfl rfl)
theorem dX2_loan_192 : decode cX2_loan 192 = .ok (.iconst (-1), 1) := dk_2 (dk_at dksX2_loan_8 9 rfl rfl)
theorem dX2_loan_193 : decode cX2_loan 193 = .ok (.ireturn, 1) := dk_172 (dk_at dksX2_loan_8 10 rfl rfl)
abbrev cX2_isBarred : ByteArray := prog_4_method_22_code
def yX2_isBarred : MethodName := ⟨RX2, "isBarred", "(LLoanNames$Rule;)Z"⟩
def dkwX2_isBarred_2 : List UInt8 := [132, 2, 1, 167, 255, 230, 3, 172]
abbrev dktX2_isBarred_2 : List UInt8 := dkwX2_isBarred_2 ++ []
def dkwX2_isBarred_1 : List UInt8 := [61, 28, 42, 180, 0, 24, 180, 0, 63, 162, 0, 21, 42, 43, 28, 182, 0, 165, 2, 159, 0, 5, 4, 172]
abbrev dktX2_isBarred_1 : List UInt8 := dkwX2_isBarred_1 ++ dktX2_isBarred_2
def dkwX2_isBarred_0 : List UInt8 := [43, 180, 0, 156, 2, 160, 0, 18, 42, 43, 182, 0, 161, 2, 159, 0, 7, 4, 167, 0, 4, 3, 172, 3]
abbrev dktX2_isBarred_0 : List UInt8 := dkwX2_isBarred_0 ++ dktX2_isBarred_1
theorem dksX2_isBarred_0 : cX2_isBarred.data.toList.drop 0 = dktX2_isBarred_0 := by decide +kernel
theorem dksX2_isBarred_1 : cX2_isBarred.data.toList.drop 24 = dktX2_isBarred_1 := dk_seg dksX2_isBarred_0 24 rfl rfl
theorem dksX2_isBarred_2 : cX2_isBarred.data.toList.drop 48 = dktX2_isBarred_2 := dk_seg dksX2_isBarred_1 24 rfl rfl
theorem dX2_isBarred_0 : decode cX2_isBarred 0 = .ok (.aload_n 1, 1) := dk_43 (dk_at dksX2_isBarred_0 0 rfl rfl)
theorem dX2_isBarred_1 : decode cX2_isBarred 1 = .ok (.getfield 156, 3) := dk_180 0 156 (dk_at dksX2_isBarred_0 1 rfl rfl)
theorem dX2_isBarred_4 : decode cX2_isBarred 4 = .ok (.iconst (-1), 1) := dk_2 (dk_at dksX2_isBarred_0 4 rfl rfl)
theorem dX2_isBarred_5 : decode cX2_isBarred 5 = .ok (.if_icmp .ne 18, 3) := dk_160 0 18 (dk_at dksX2_isBarred_0 5 rfl rfl)
theorem dX2_isBarred_8 : decode cX2_isBarred 8 = .ok (.aload_n 0, 1) := dk_42 (dk_at dksX2_isBarred_0 8 rfl rfl)
theorem dX2_isBarred_9 : decode cX2_isBarred 9 = .ok (.aload_n 1, 1) := dk_43 (dk_at dksX2_isBarred_0 9 rfl rfl)
theorem dX2_isBarred_10 : decode cX2_isBarred 10 = .ok (.invokevirtual 161, 3) := dk_182 0 161 (dk_at dksX2_isBarred_0 10 rfl rfl)
theorem dX2_isBarred_13 : decode cX2_isBarred 13 = .ok (.iconst (-1), 1) := dk_2 (dk_at dksX2_isBarred_0 13 rfl rfl)
theorem dX2_isBarred_14 : decode cX2_isBarred 14 = .ok (.if_icmp .eq 7, 3) := dk_159 0 7 (dk_at dksX2_isBarred_0 14 rfl rfl)
theorem dX2_isBarred_17 : decode cX2_isBarred 17 = .ok (.iconst 1, 1) := dk_4 (dk_at dksX2_isBarred_0 17 rfl rfl)
theorem dX2_isBarred_18 : decode cX2_isBarred 18 = .ok (.goto 4, 3) := dk_167 0 4 (dk_at dksX2_isBarred_0 18 rfl rfl)
theorem dX2_isBarred_21 : decode cX2_isBarred 21 = .ok (.iconst 0, 1) := dk_3 (dk_at dksX2_isBarred_0 21 rfl rfl)
theorem dX2_isBarred_22 : decode cX2_isBarred 22 = .ok (.ireturn, 1) := dk_172 (dk_at dksX2_isBarred_0 22 rfl rfl)
theorem dX2_isBarred_23 : decode cX2_isBarred 23 = .ok (.iconst 0, 1) := dk_3 (dk_at dksX2_isBarred_0 23 rfl rfl)
theorem dX2_isBarred_24 : decode cX2_isBarred 24 = .ok (.istore_n 2, 1) := dk_61 (dk_at dksX2_isBarred_1 0 rfl rfl)
theorem dX2_isBarred_25 : decode cX2_isBarred 25 = .ok (.iload_n 2, 1) := dk_28 (dk_at dksX2_isBarred_1 1 rfl rfl)
theorem dX2_isBarred_26 : decode cX2_isBarred 26 = .ok (.aload_n 0, 1) := dk_42 (dk_at dksX2_isBarred_1 2 rfl rfl)
theorem dX2_isBarred_27 : decode cX2_isBarred 27 = .ok (.getfield 24, 3) := dk_180 0 24 (dk_at dksX2_isBarred_1 3 rfl rfl)
theorem dX2_isBarred_30 : decode cX2_isBarred 30 = .ok (.getfield 63, 3) := dk_180 0 63 (dk_at dksX2_isBarred_1 6 rfl rfl)
theorem dX2_isBarred_33 : decode cX2_isBarred 33 = .ok (.if_icmp .ge 21, 3) := dk_162 0 21 (dk_at dksX2_isBarred_1 9 rfl rfl)
theorem dX2_isBarred_36 : decode cX2_isBarred 36 = .ok (.aload_n 0, 1) := dk_42 (dk_at dksX2_isBarred_1 12 rfl rfl)
theorem dX2_isBarred_37 : decode cX2_isBarred 37 = .ok (.aload_n 1, 1) := dk_43 (dk_at dksX2_isBarred_1 13 rfl rfl)
theorem dX2_isBarred_38 : decode cX2_isBarred 38 = .ok (.iload_n 2, 1) := dk_28 (dk_at dksX2_isBarred_1 14 rfl rfl)
theorem dX2_isBarred_39 : decode cX2_isBarred 39 = .ok (.invokevirtual 165, 3) := dk_182 0 165 (dk_at dksX2_isBarred_1 15 rfl rfl)
theorem dX2_isBarred_42 : decode cX2_isBarred 42 = .ok (.iconst (-1), 1) := dk_2 (dk_at dksX2_isBarred_1 18 rfl rfl)
theorem dX2_isBarred_43 : decode cX2_isBarred 43 = .ok (.if_icmp .eq 5, 3) := dk_159 0 5 (dk_at dksX2_isBarred_1 19 rfl rfl)
theorem dX2_isBarred_46 : decode cX2_isBarred 46 = .ok (.iconst 1, 1) := dk_4 (dk_at dksX2_isBarred_1 22 rfl rfl)
theorem dX2_isBarred_47 : decode cX2_isBarred 47 = .ok (.ireturn, 1) := dk_172 (dk_at dksX2_isBarred_1 23 rfl rfl)
theorem dX2_isBarred_48 : decode cX2_isBarred 48 = .ok (.iinc 2 1, 3) := dk_132 2 1 (dk_at dksX2_isBarred_2 0 rfl rfl)
theorem dX2_isBarred_51 : decode cX2_isBarred 51 = .ok (.goto (-26), 3) := dk_167 255 230 (dk_at dksX2_isBarred_2 3 rfl rfl)
theorem dX2_isBarred_54 : decode cX2_isBarred 54 = .ok (.iconst 0, 1) := dk_3 (dk_at dksX2_isBarred_2 6 rfl rfl)
theorem dX2_isBarred_55 : decode cX2_isBarred 55 = .ok (.ireturn, 1) := dk_172 (dk_at dksX2_isBarred_2 7 rfl rfl)
abbrev cX2_firstOf : ByteArray := prog_4_method_23_code
def yX2_firstOf : MethodName := ⟨RX2, "firstOf", "(LLoanNames$Rule;)I"⟩
def dkwX2_firstOf_1 : List UInt8 := [153, 0, 5, 28, 172, 132, 2, 1, 167, 255, 228, 2, 172]
abbrev dktX2_firstOf_1 : List UInt8 := dkwX2_firstOf_1 ++ []
def dkwX2_firstOf_0 : List UInt8 := [3, 61, 28, 42, 180, 0, 24, 180, 0, 63, 162, 0, 23, 43, 42, 180, 0, 24, 28, 182, 0, 169]
abbrev dktX2_firstOf_0 : List UInt8 := dkwX2_firstOf_0 ++ dktX2_firstOf_1
theorem dksX2_firstOf_0 : cX2_firstOf.data.toList.drop 0 = dktX2_firstOf_0 := by decide +kernel
theorem dksX2_firstOf_1 : cX2_firstOf.data.toList.drop 22 = dktX2_firstOf_1 := dk_seg dksX2_firstOf_0 22 rfl rfl
theorem dX2_firstOf_0 : decode cX2_firstOf 0 = .ok (.iconst 0, 1) := dk_3 (dk_at dksX2_firstOf_0 0 rfl rfl)
theorem dX2_firstOf_1 : decode cX2_firstOf 1 = .ok (.istore_n 2, 1) := dk_61 (dk_at dksX2_firstOf_0 1 rfl rfl)
theorem dX2_firstOf_2 : decode cX2_firstOf 2 = .ok (.iload_n 2, 1) := dk_28 (dk_at dksX2_firstOf_0 2 rfl rfl)
theorem dX2_firstOf_3 : decode cX2_firstOf 3 = .ok (.aload_n 0, 1) := dk_42 (dk_at dksX2_firstOf_0 3 rfl rfl)
theorem dX2_firstOf_4 : decode cX2_firstOf 4 = .ok (.getfield 24, 3) := dk_180 0 24 (dk_at dksX2_firstOf_0 4 rfl rfl)
theorem dX2_firstOf_7 : decode cX2_firstOf 7 = .ok (.getfield 63, 3) := dk_180 0 63 (dk_at dksX2_firstOf_0 7 rfl rfl)
theorem dX2_firstOf_10 : decode cX2_firstOf 10 = .ok (.if_icmp .ge 23, 3) := dk_162 0 23 (dk_at dksX2_firstOf_0 10 rfl rfl)
theorem dX2_firstOf_13 : decode cX2_firstOf 13 = .ok (.aload_n 1, 1) := dk_43 (dk_at dksX2_firstOf_0 13 rfl rfl)
theorem dX2_firstOf_14 : decode cX2_firstOf 14 = .ok (.aload_n 0, 1) := dk_42 (dk_at dksX2_firstOf_0 14 rfl rfl)
theorem dX2_firstOf_15 : decode cX2_firstOf 15 = .ok (.getfield 24, 3) := dk_180 0 24 (dk_at dksX2_firstOf_0 15 rfl rfl)
theorem dX2_firstOf_18 : decode cX2_firstOf 18 = .ok (.iload_n 2, 1) := dk_28 (dk_at dksX2_firstOf_0 18 rfl rfl)
theorem dX2_firstOf_19 : decode cX2_firstOf 19 = .ok (.invokevirtual 169, 3) := dk_182 0 169 (dk_at dksX2_firstOf_0 19 rfl rfl)
theorem dX2_firstOf_22 : decode cX2_firstOf 22 = .ok (.ifCond .eq 5, 3) := dk_153 0 5 (dk_at dksX2_firstOf_1 0 rfl rfl)
theorem dX2_firstOf_25 : decode cX2_firstOf 25 = .ok (.iload_n 2, 1) := dk_28 (dk_at dksX2_firstOf_1 3 rfl rfl)
theorem dX2_firstOf_26 : decode cX2_firstOf 26 = .ok (.ireturn, 1) := dk_172 (dk_at dksX2_firstOf_1 4 rfl rfl)
theorem dX2_firstOf_27 : decode cX2_firstOf 27 = .ok (.iinc 2 1, 3) := dk_132 2 1 (dk_at dksX2_firstOf_1 5 rfl rfl)
theorem dX2_firstOf_30 : decode cX2_firstOf 30 = .ok (.goto (-28), 3) := dk_167 255 228 (dk_at dksX2_firstOf_1 8 rfl rfl)
theorem dX2_firstOf_33 : decode cX2_firstOf 33 = .ok (.iconst (-1), 1) := dk_2 (dk_at dksX2_firstOf_1 11 rfl rfl)
theorem dX2_firstOf_34 : decode cX2_firstOf 34 = .ok (.ireturn, 1) := dk_172 (dk_at dksX2_firstOf_1 12 rfl rfl)
abbrev cX2_secondOf : ByteArray := prog_4_method_24_code
def yX2_secondOf : MethodName := ⟨RX2, "secondOf", "(LLoanNames$Rule;I)I"⟩
def dkwX2_secondOf_1 : List UInt8 := [180, 0, 108, 182, 0, 173, 153, 0, 5, 29, 172, 132, 3, 1, 167, 255, 220, 2, 172]
abbrev dktX2_secondOf_1 : List UInt8 := dkwX2_secondOf_1 ++ []
def dkwX2_secondOf_0 : List UInt8 := [3, 62, 29, 42, 180, 0, 24, 180, 0, 63, 162, 0, 31, 43, 42, 180, 0, 24, 28, 29, 42, 180, 0, 3]
abbrev dktX2_secondOf_0 : List UInt8 := dkwX2_secondOf_0 ++ dktX2_secondOf_1
theorem dksX2_secondOf_0 : cX2_secondOf.data.toList.drop 0 = dktX2_secondOf_0 := by decide +kernel
theorem dksX2_secondOf_1 : cX2_secondOf.data.toList.drop 24 = dktX2_secondOf_1 := dk_seg dksX2_secondOf_0 24 rfl rfl
theorem dX2_secondOf_0 : decode cX2_secondOf 0 = .ok (.iconst 0, 1) := dk_3 (dk_at dksX2_secondOf_0 0 rfl rfl)
theorem dX2_secondOf_1 : decode cX2_secondOf 1 = .ok (.istore_n 3, 1) := dk_62 (dk_at dksX2_secondOf_0 1 rfl rfl)
theorem dX2_secondOf_2 : decode cX2_secondOf 2 = .ok (.iload_n 3, 1) := dk_29 (dk_at dksX2_secondOf_0 2 rfl rfl)
theorem dX2_secondOf_3 : decode cX2_secondOf 3 = .ok (.aload_n 0, 1) := dk_42 (dk_at dksX2_secondOf_0 3 rfl rfl)
theorem dX2_secondOf_4 : decode cX2_secondOf 4 = .ok (.getfield 24, 3) := dk_180 0 24 (dk_at dksX2_secondOf_0 4 rfl rfl)
theorem dX2_secondOf_7 : decode cX2_secondOf 7 = .ok (.getfield 63, 3) := dk_180 0 63 (dk_at dksX2_secondOf_0 7 rfl rfl)
theorem dX2_secondOf_10 : decode cX2_secondOf 10 = .ok (.if_icmp .ge 31, 3) := dk_162 0 31 (dk_at dksX2_secondOf_0 10 rfl rfl)
theorem dX2_secondOf_13 : decode cX2_secondOf 13 = .ok (.aload_n 1, 1) := dk_43 (dk_at dksX2_secondOf_0 13 rfl rfl)
theorem dX2_secondOf_14 : decode cX2_secondOf 14 = .ok (.aload_n 0, 1) := dk_42 (dk_at dksX2_secondOf_0 14 rfl rfl)
theorem dX2_secondOf_15 : decode cX2_secondOf 15 = .ok (.getfield 24, 3) := dk_180 0 24 (dk_at dksX2_secondOf_0 15 rfl rfl)
theorem dX2_secondOf_18 : decode cX2_secondOf 18 = .ok (.iload_n 2, 1) := dk_28 (dk_at dksX2_secondOf_0 18 rfl rfl)
theorem dX2_secondOf_19 : decode cX2_secondOf 19 = .ok (.iload_n 3, 1) := dk_29 (dk_at dksX2_secondOf_0 19 rfl rfl)
theorem dX2_secondOf_20 : decode cX2_secondOf 20 = .ok (.aload_n 0, 1) := dk_42 (dk_at dksX2_secondOf_0 20 rfl rfl)
theorem dX2_secondOf_21 : decode cX2_secondOf 21 = .ok (.getfield 3, 3) := dk_180 0 3 (dk_at dksX2_secondOf_0 21 rfl rfl)
theorem dX2_secondOf_24 : decode cX2_secondOf 24 = .ok (.getfield 108, 3) := dk_180 0 108 (dk_at dksX2_secondOf_1 0 rfl rfl)
theorem dX2_secondOf_27 : decode cX2_secondOf 27 = .ok (.invokevirtual 173, 3) := dk_182 0 173 (dk_at dksX2_secondOf_1 3 rfl rfl)
theorem dX2_secondOf_30 : decode cX2_secondOf 30 = .ok (.ifCond .eq 5, 3) := dk_153 0 5 (dk_at dksX2_secondOf_1 6 rfl rfl)
theorem dX2_secondOf_33 : decode cX2_secondOf 33 = .ok (.iload_n 3, 1) := dk_29 (dk_at dksX2_secondOf_1 9 rfl rfl)
theorem dX2_secondOf_34 : decode cX2_secondOf 34 = .ok (.ireturn, 1) := dk_172 (dk_at dksX2_secondOf_1 10 rfl rfl)
theorem dX2_secondOf_35 : decode cX2_secondOf 35 = .ok (.iinc 3 1, 3) := dk_132 3 1 (dk_at dksX2_secondOf_1 11 rfl rfl)
theorem dX2_secondOf_38 : decode cX2_secondOf 38 = .ok (.goto (-36), 3) := dk_167 255 220 (dk_at dksX2_secondOf_1 14 rfl rfl)
theorem dX2_secondOf_41 : decode cX2_secondOf 41 = .ok (.iconst (-1), 1) := dk_2 (dk_at dksX2_secondOf_1 17 rfl rfl)
theorem dX2_secondOf_42 : decode cX2_secondOf 42 = .ok (.ireturn, 1) := dk_172 (dk_at dksX2_secondOf_1 18 rfl rfl)
abbrev cX2_isBarred_2 : ByteArray := prog_4_method_25_code
def yX2_isBarred_2 : MethodName := ⟨RX2, "isBarred", "(LLoanNames$Law;)Z"⟩
def dkwX2_isBarred_2_1 : List UInt8 := [182, 0, 183, 153, 0, 7, 4, 167, 0, 4, 3, 61, 132, 3, 1, 167, 255, 222, 28, 172]
abbrev dktX2_isBarred_2_1 : List UInt8 := dkwX2_isBarred_2_1 ++ []
def dkwX2_isBarred_2_0 : List UInt8 := [3, 61, 3, 62, 29, 43, 180, 0, 176, 162, 0, 32, 28, 154, 0, 16, 42, 43, 180, 0, 179, 29, 50]
abbrev dktX2_isBarred_2_0 : List UInt8 := dkwX2_isBarred_2_0 ++ dktX2_isBarred_2_1
theorem dksX2_isBarred_2_0 : cX2_isBarred_2.data.toList.drop 0 = dktX2_isBarred_2_0 := by decide +kernel
theorem dksX2_isBarred_2_1 : cX2_isBarred_2.data.toList.drop 23 = dktX2_isBarred_2_1 := dk_seg dksX2_isBarred_2_0 23 rfl rfl
theorem dX2_isBarred_2_0 : decode cX2_isBarred_2 0 = .ok (.iconst 0, 1) := dk_3 (dk_at dksX2_isBarred_2_0 0 rfl rfl)
theorem dX2_isBarred_2_1 : decode cX2_isBarred_2 1 = .ok (.istore_n 2, 1) := dk_61 (dk_at dksX2_isBarred_2_0 1 rfl rfl)
theorem dX2_isBarred_2_2 : decode cX2_isBarred_2 2 = .ok (.iconst 0, 1) := dk_3 (dk_at dksX2_isBarred_2_0 2 rfl rfl)
theorem dX2_isBarred_2_3 : decode cX2_isBarred_2 3 = .ok (.istore_n 3, 1) := dk_62 (dk_at dksX2_isBarred_2_0 3 rfl rfl)
theorem dX2_isBarred_2_4 : decode cX2_isBarred_2 4 = .ok (.iload_n 3, 1) := dk_29 (dk_at dksX2_isBarred_2_0 4 rfl rfl)
theorem dX2_isBarred_2_5 : decode cX2_isBarred_2 5 = .ok (.aload_n 1, 1) := dk_43 (dk_at dksX2_isBarred_2_0 5 rfl rfl)
theorem dX2_isBarred_2_6 : decode cX2_isBarred_2 6 = .ok (.getfield 176, 3) := dk_180 0 176 (dk_at dksX2_isBarred_2_0 6 rfl rfl)
theorem dX2_isBarred_2_9 : decode cX2_isBarred_2 9 = .ok (.if_icmp .ge 32, 3) := dk_162 0 32 (dk_at dksX2_isBarred_2_0 9 rfl rfl)
theorem dX2_isBarred_2_12 : decode cX2_isBarred_2 12 = .ok (.iload_n 2, 1) := dk_28 (dk_at dksX2_isBarred_2_0 12 rfl rfl)
theorem dX2_isBarred_2_13 : decode cX2_isBarred_2 13 = .ok (.ifCond .ne 16, 3) := dk_154 0 16 (dk_at dksX2_isBarred_2_0 13 rfl rfl)
theorem dX2_isBarred_2_16 : decode cX2_isBarred_2 16 = .ok (.aload_n 0, 1) := dk_42 (dk_at dksX2_isBarred_2_0 16 rfl rfl)
theorem dX2_isBarred_2_17 : decode cX2_isBarred_2 17 = .ok (.aload_n 1, 1) := dk_43 (dk_at dksX2_isBarred_2_0 17 rfl rfl)
theorem dX2_isBarred_2_18 : decode cX2_isBarred_2 18 = .ok (.getfield 179, 3) := dk_180 0 179 (dk_at dksX2_isBarred_2_0 18 rfl rfl)
theorem dX2_isBarred_2_21 : decode cX2_isBarred_2 21 = .ok (.iload_n 3, 1) := dk_29 (dk_at dksX2_isBarred_2_0 21 rfl rfl)
theorem dX2_isBarred_2_22 : decode cX2_isBarred_2 22 = .ok (.aaload, 1) := dk_50 (dk_at dksX2_isBarred_2_0 22 rfl rfl)
theorem dX2_isBarred_2_23 : decode cX2_isBarred_2 23 = .ok (.invokevirtual 183, 3) := dk_182 0 183 (dk_at dksX2_isBarred_2_1 0 rfl rfl)
theorem dX2_isBarred_2_26 : decode cX2_isBarred_2 26 = .ok (.ifCond .eq 7, 3) := dk_153 0 7 (dk_at dksX2_isBarred_2_1 3 rfl rfl)
theorem dX2_isBarred_2_29 : decode cX2_isBarred_2 29 = .ok (.iconst 1, 1) := dk_4 (dk_at dksX2_isBarred_2_1 6 rfl rfl)
theorem dX2_isBarred_2_30 : decode cX2_isBarred_2 30 = .ok (.goto 4, 3) := dk_167 0 4 (dk_at dksX2_isBarred_2_1 7 rfl rfl)
theorem dX2_isBarred_2_33 : decode cX2_isBarred_2 33 = .ok (.iconst 0, 1) := dk_3 (dk_at dksX2_isBarred_2_1 10 rfl rfl)
theorem dX2_isBarred_2_34 : decode cX2_isBarred_2 34 = .ok (.istore_n 2, 1) := dk_61 (dk_at dksX2_isBarred_2_1 11 rfl rfl)
theorem dX2_isBarred_2_35 : decode cX2_isBarred_2 35 = .ok (.iinc 3 1, 3) := dk_132 3 1 (dk_at dksX2_isBarred_2_1 12 rfl rfl)
theorem dX2_isBarred_2_38 : decode cX2_isBarred_2 38 = .ok (.goto (-34), 3) := dk_167 255 222 (dk_at dksX2_isBarred_2_1 15 rfl rfl)
theorem dX2_isBarred_2_41 : decode cX2_isBarred_2 41 = .ok (.iload_n 2, 1) := dk_28 (dk_at dksX2_isBarred_2_1 18 rfl rfl)
theorem dX2_isBarred_2_42 : decode cX2_isBarred_2 42 = .ok (.ireturn, 1) := dk_172 (dk_at dksX2_isBarred_2_1 19 rfl rfl)
abbrev cX2_is : ByteArray := prog_4_method_5_code
def yX2_is : MethodName := ⟨RX2, "is", "(LLoanNames$Bundle;)V"⟩
def dkwX2_is_1 : List UInt8 := [132, 2, 1, 167, 255, 235, 177]
abbrev dktX2_is_1 : List UInt8 := dkwX2_is_1 ++ []
def dkwX2_is_0 : List UInt8 := [42, 182, 0, 75, 3, 61, 28, 43, 180, 0, 50, 162, 0, 19, 42, 43, 180, 0, 17, 28, 50, 182, 0, 78]
abbrev dktX2_is_0 : List UInt8 := dkwX2_is_0 ++ dktX2_is_1
theorem dksX2_is_0 : cX2_is.data.toList.drop 0 = dktX2_is_0 := by decide +kernel
theorem dksX2_is_1 : cX2_is.data.toList.drop 24 = dktX2_is_1 := dk_seg dksX2_is_0 24 rfl rfl
theorem dX2_is_0 : decode cX2_is 0 = .ok (.aload_n 0, 1) := dk_42 (dk_at dksX2_is_0 0 rfl rfl)
theorem dX2_is_1 : decode cX2_is 1 = .ok (.invokevirtual 75, 3) := dk_182 0 75 (dk_at dksX2_is_0 1 rfl rfl)
theorem dX2_is_4 : decode cX2_is 4 = .ok (.iconst 0, 1) := dk_3 (dk_at dksX2_is_0 4 rfl rfl)
theorem dX2_is_5 : decode cX2_is 5 = .ok (.istore_n 2, 1) := dk_61 (dk_at dksX2_is_0 5 rfl rfl)
theorem dX2_is_6 : decode cX2_is 6 = .ok (.iload_n 2, 1) := dk_28 (dk_at dksX2_is_0 6 rfl rfl)
theorem dX2_is_7 : decode cX2_is 7 = .ok (.aload_n 1, 1) := dk_43 (dk_at dksX2_is_0 7 rfl rfl)
theorem dX2_is_8 : decode cX2_is 8 = .ok (.getfield 50, 3) := dk_180 0 50 (dk_at dksX2_is_0 8 rfl rfl)
theorem dX2_is_11 : decode cX2_is 11 = .ok (.if_icmp .ge 19, 3) := dk_162 0 19 (dk_at dksX2_is_0 11 rfl rfl)
theorem dX2_is_14 : decode cX2_is 14 = .ok (.aload_n 0, 1) := dk_42 (dk_at dksX2_is_0 14 rfl rfl)
theorem dX2_is_15 : decode cX2_is 15 = .ok (.aload_n 1, 1) := dk_43 (dk_at dksX2_is_0 15 rfl rfl)
theorem dX2_is_16 : decode cX2_is 16 = .ok (.getfield 17, 3) := dk_180 0 17 (dk_at dksX2_is_0 16 rfl rfl)
theorem dX2_is_19 : decode cX2_is 19 = .ok (.iload_n 2, 1) := dk_28 (dk_at dksX2_is_0 19 rfl rfl)
theorem dX2_is_20 : decode cX2_is 20 = .ok (.aaload, 1) := dk_50 (dk_at dksX2_is_0 20 rfl rfl)
theorem dX2_is_21 : decode cX2_is 21 = .ok (.invokevirtual 78, 3) := dk_182 0 78 (dk_at dksX2_is_0 21 rfl rfl)
theorem dX2_is_24 : decode cX2_is 24 = .ok (.iinc 2 1, 3) := dk_132 2 1 (dk_at dksX2_is_1 0 rfl rfl)
theorem dX2_is_27 : decode cX2_is 27 = .ok (.goto (-21), 3) := dk_167 255 235 (dk_at dksX2_is_1 3 rfl rfl)
theorem dX2_is_30 : decode cX2_is 30 = .ok (.return_, 1) := dk_177 (dk_at dksX2_is_1 6 rfl rfl)
theorem q93 : (Jvm.Cond.initialized "LoanNames$Bundle") ∈ lw_all := lw_g (lw_at lw_m1 3 rfl) rfl
theorem q140 : (Jvm.Cond.fieldLink "LoanNames$Bundle" (179 : Nat) "LoanNames$Law" "rules" "[LLoanNames$Rule;") ∈ lw_all := lw_g (lw_at lw_m1 50 rfl) rfl
theorem q143 : (Jvm.Cond.fieldLink "LoanNames$Bundle" (176 : Nat) "LoanNames$Law" "many" "I") ∈ lw_all := lw_g (lw_at lw_m1 53 rfl) rfl
theorem q152 : (Jvm.Cond.instantiable "LoanNames$Bundle" (12 : Nat)) ∈ lw_all := lw_g (lw_at lw_m1 62 rfl) rfl
theorem q154 : (Jvm.Cond.instanceMethod ({ cls := "LoanNames$Bundle", name := "<init>", desc := "(LLoanNames;)V" } : Jvm.MethodName)) ∈ lw_all := lw_g (lw_at lw_m1 64 rfl) rfl
theorem q155 : (Jvm.Cond.code ({ cls := "LoanNames$Bundle", name := "<init>", desc := "(LLoanNames;)V" } : Jvm.MethodName) prog_4_method_1_code (2 : Nat) (Option.none : Option Jvm.ClassFile.FieldType)) ∈ lw_all := lw_g (lw_at lw_m1 65 rfl) rfl
theorem q156 : (Jvm.Cond.methodLink "LoanNames$Bundle" (9 : Nat) ({ cls := "java/lang/Object", name := "<init>", desc := "()V" } : Jvm.MethodName)) ∈ lw_all := lw_g (lw_at lw_m1 66 rfl) rfl
theorem q157 : (Jvm.Cond.classLink "LoanNames$Bundle" (15 : Nat) "LoanNames$Deal") ∈ lw_all := lw_g (lw_at lw_m1 67 rfl) rfl
theorem q158 : (Jvm.Cond.classLink "LoanNames$Bundle" (21 : Nat) "LoanNames$LeafRow") ∈ lw_all := lw_g (lw_at lw_m1 68 rfl) rfl
theorem q160 : (Jvm.Cond.methodLinkNest "LoanNames$Bundle" (23 : Nat) ({ cls := "LoanNames$LeafRow", name := "<init>", desc := "()V" } : Jvm.MethodName) "LoanNames") ∈ lw_tbl := lw_at lw_m1 70 rfl
theorem q169 : (Jvm.Cond.fieldLink "LoanNames$Bundle" (64 : Nat) "LoanNames$LeafRow" "leaves" "[LLoanNames$Leaf;") ∈ lw_all := lw_g (lw_at lw_m1 79 rfl) rfl
theorem q172 : (Jvm.Cond.fieldLink "LoanNames$Bundle" (68 : Nat) "LoanNames$LeafRow" "shifts" "[I") ∈ lw_all := lw_g (lw_at lw_m1 82 rfl) rfl
theorem q176 : (Jvm.Cond.fieldLink "LoanNames$Bundle" (63 : Nat) "LoanNames$LeafRow" "many" "I") ∈ lw_all := lw_g (lw_at lw_m1 86 rfl) rfl
theorem q185 : (Jvm.Cond.classLink "LoanNames$Bundle" (28 : Nat) "LoanNames$Sink") ∈ lw_all := lw_g (lw_at lw_m1 95 rfl) rfl
theorem q187 : (Jvm.Cond.methodLinkNest "LoanNames$Bundle" (30 : Nat) ({ cls := "LoanNames$Sink", name := "<init>", desc := "()V" } : Jvm.MethodName) "LoanNames") ∈ lw_tbl := lw_at lw_m1 97 rfl
theorem q192 : (Jvm.Cond.fieldLink "LoanNames$Bundle" (105 : Nat) "LoanNames$Sink" "day" "[I") ∈ lw_all := lw_g (lw_at lw_m1 102 rfl) rfl
theorem q195 : (Jvm.Cond.fieldLink "LoanNames$Bundle" (117 : Nat) "LoanNames$Sink" "from" "[I") ∈ lw_all := lw_g (lw_at lw_m1 105 rfl) rfl
theorem q198 : (Jvm.Cond.fieldLink "LoanNames$Bundle" (111 : Nat) "LoanNames$Sink" "to" "[I") ∈ lw_all := lw_g (lw_at lw_m1 108 rfl) rfl
theorem q201 : (Jvm.Cond.fieldLink "LoanNames$Bundle" (102 : Nat) "LoanNames$Sink" "thing" "[I") ∈ lw_all := lw_g (lw_at lw_m1 111 rfl) rfl
theorem q204 : (Jvm.Cond.fieldLink "LoanNames$Bundle" (114 : Nat) "LoanNames$Sink" "much" "[J") ∈ lw_all := lw_g (lw_at lw_m1 114 rfl) rfl
theorem q207 : (Jvm.Cond.fieldLink "LoanNames$Bundle" (88 : Nat) "LoanNames$Sink" "many" "I") ∈ lw_all := lw_g (lw_at lw_m1 117 rfl) rfl
theorem q223 : (Jvm.Cond.fieldLink "LoanNames$Bundle" (17 : Nat) "LoanNames$Bundle" "deals" "[LLoanNames$Deal;") ∈ lw_all := lw_g (lw_at lw_m1 133 rfl) rfl
theorem q225 : (Jvm.Cond.fieldLink "LoanNames$Bundle" (24 : Nat) "LoanNames$Bundle" "row" "LLoanNames$LeafRow;") ∈ lw_all := lw_g (lw_at lw_m1 135 rfl) rfl
theorem q227 : (Jvm.Cond.fieldLink "LoanNames$Bundle" (31 : Nat) "LoanNames$Bundle" "sink" "LLoanNames$Sink;") ∈ lw_all := lw_g (lw_at lw_m1 137 rfl) rfl
theorem q228 : (Jvm.Cond.fieldLink "LoanNames$Bundle" (35 : Nat) "LoanNames$Bundle" "days" "[I") ∈ lw_all := lw_g (lw_at lw_m1 138 rfl) rfl
theorem q229 : (Jvm.Cond.fieldLink "LoanNames$Bundle" (39 : Nat) "LoanNames$Bundle" "coins" "[J") ∈ lw_all := lw_g (lw_at lw_m1 139 rfl) rfl
theorem q230 : (Jvm.Cond.fieldLink "LoanNames$Bundle" (43 : Nat) "LoanNames$Bundle" "totals" "[J") ∈ lw_all := lw_g (lw_at lw_m1 140 rfl) rfl
theorem q232 : (Jvm.Cond.fieldLink "LoanNames$Bundle" (46 : Nat) "LoanNames$Bundle" "may" "[Z") ∈ lw_all := lw_g (lw_at lw_m1 142 rfl) rfl
theorem q233 : (Jvm.Cond.fieldLink "LoanNames$Bundle" (50 : Nat) "LoanNames$Bundle" "many" "I") ∈ lw_all := lw_g (lw_at lw_m1 143 rfl) rfl
theorem q235 : (Jvm.Cond.fieldLink "LoanNames$Bundle" (54 : Nat) "LoanNames$Bundle" "choices" "I") ∈ lw_all := lw_g (lw_at lw_m1 145 rfl) rfl
theorem q237 : (Jvm.Cond.fieldLink "LoanNames$Bundle" (58 : Nat) "LoanNames$Bundle" "events" "I") ∈ lw_all := lw_g (lw_at lw_m1 147 rfl) rfl
theorem q238 : (Jvm.Cond.fieldLink "LoanNames$Bundle" (120 : Nat) "LoanNames$Bundle" "dayMany" "I") ∈ lw_all := lw_g (lw_at lw_m1 148 rfl) rfl
theorem q239 : (Jvm.Cond.fieldLink "LoanNames$Bundle" (3 : Nat) "LoanNames$Bundle" "this$0" "LLoanNames;") ∈ lw_all := lw_g (lw_at lw_m1 149 rfl) rfl
theorem q240 : (Jvm.Cond.laysFinal "LoanNames$Bundle" "LoanNames$Bundle" "deals" "[LLoanNames$Deal;") ∈ lw_all := lw_g (lw_at lw_m1 150 rfl) rfl
theorem q241 : (Jvm.Cond.soleField "LoanNames$Bundle" "deals") ∈ lw_all := lw_g (lw_at lw_m1 151 rfl) rfl
theorem q242 : (Jvm.Cond.laysFinal "LoanNames$Bundle" "LoanNames$Bundle" "row" "LLoanNames$LeafRow;") ∈ lw_all := lw_g (lw_at lw_m1 152 rfl) rfl
theorem q243 : (Jvm.Cond.soleField "LoanNames$Bundle" "row") ∈ lw_all := lw_g (lw_at lw_m1 153 rfl) rfl
theorem q244 : (Jvm.Cond.laysFinal "LoanNames$Bundle" "LoanNames$Bundle" "sink" "LLoanNames$Sink;") ∈ lw_all := lw_g (lw_at lw_m1 154 rfl) rfl
theorem q245 : (Jvm.Cond.soleField "LoanNames$Bundle" "sink") ∈ lw_all := lw_g (lw_at lw_m1 155 rfl) rfl
theorem q246 : (Jvm.Cond.laysFinal "LoanNames$Bundle" "LoanNames$Bundle" "days" "[I") ∈ lw_all := lw_g (lw_at lw_m1 156 rfl) rfl
theorem q247 : (Jvm.Cond.soleField "LoanNames$Bundle" "days") ∈ lw_all := lw_g (lw_at lw_m1 157 rfl) rfl
theorem q248 : (Jvm.Cond.laysFinal "LoanNames$Bundle" "LoanNames$Bundle" "coins" "[J") ∈ lw_all := lw_g (lw_at lw_m1 158 rfl) rfl
theorem q249 : (Jvm.Cond.soleField "LoanNames$Bundle" "coins") ∈ lw_all := lw_g (lw_at lw_m1 159 rfl) rfl
theorem q250 : (Jvm.Cond.laysFinal "LoanNames$Bundle" "LoanNames$Bundle" "totals" "[J") ∈ lw_all := lw_g (lw_at lw_m1 160 rfl) rfl
theorem q251 : (Jvm.Cond.soleField "LoanNames$Bundle" "totals") ∈ lw_all := lw_g (lw_at lw_m1 161 rfl) rfl
theorem q252 : (Jvm.Cond.laysFinal "LoanNames$Bundle" "LoanNames$Bundle" "may" "[Z") ∈ lw_all := lw_g (lw_at lw_m1 162 rfl) rfl
theorem q253 : (Jvm.Cond.soleField "LoanNames$Bundle" "may") ∈ lw_all := lw_g (lw_at lw_m1 163 rfl) rfl
theorem q254 : (Jvm.Cond.lays "LoanNames$Bundle" "LoanNames$Bundle" "many" "I") ∈ lw_all := lw_g (lw_at lw_m1 164 rfl) rfl
theorem q255 : (Jvm.Cond.soleField "LoanNames$Bundle" "many") ∈ lw_all := lw_g (lw_at lw_m1 165 rfl) rfl
theorem q256 : (Jvm.Cond.lays "LoanNames$Bundle" "LoanNames$Bundle" "choices" "I") ∈ lw_all := lw_g (lw_at lw_m1 166 rfl) rfl
theorem q257 : (Jvm.Cond.soleField "LoanNames$Bundle" "choices") ∈ lw_all := lw_g (lw_at lw_m1 167 rfl) rfl
theorem q258 : (Jvm.Cond.lays "LoanNames$Bundle" "LoanNames$Bundle" "events" "I") ∈ lw_all := lw_g (lw_at lw_m1 168 rfl) rfl
theorem q259 : (Jvm.Cond.soleField "LoanNames$Bundle" "events") ∈ lw_all := lw_g (lw_at lw_m1 169 rfl) rfl
theorem q260 : (Jvm.Cond.lays "LoanNames$Bundle" "LoanNames$Bundle" "dayMany" "I") ∈ lw_all := lw_g (lw_at lw_m1 170 rfl) rfl
theorem q261 : (Jvm.Cond.soleField "LoanNames$Bundle" "dayMany") ∈ lw_all := lw_g (lw_at lw_m1 171 rfl) rfl
theorem q262 : (Jvm.Cond.laysFinal "LoanNames$Bundle" "LoanNames$Bundle" "this$0" "LLoanNames;") ∈ lw_all := lw_g (lw_at lw_m1 172 rfl) rfl
theorem q263 : (Jvm.Cond.soleField "LoanNames$Bundle" "this$0") ∈ lw_all := lw_g (lw_at lw_m1 173 rfl) rfl
theorem q264 : (Jvm.Cond.superclass "LoanNames$Bundle" "java/lang/Object") ∈ lw_all := lw_g (lw_at lw_m1 174 rfl) rfl
theorem q267 : (Jvm.Cond.fieldLinkNest "LoanNames$Bundle" (108 : Nat) "LoanNames" "families" "[I" "LoanNames") ∈ lw_tbl := lw_at lw_m1 177 rfl
theorem q734 : (Jvm.Cond.fieldLink "LoanNames$Bundle" (57 : Nat) "LoanNames$Deal" "choices" "I") ∈ lw_all := lw_g (lw_at lw_m3 164 rfl) rfl
theorem q737 : (Jvm.Cond.fieldLink "LoanNames$Bundle" (61 : Nat) "LoanNames$Deal" "events" "I") ∈ lw_all := lw_g (lw_at lw_m3 167 rfl) rfl
theorem q740 : (Jvm.Cond.fieldLink "LoanNames$Bundle" (89 : Nat) "LoanNames$Deal" "all" "LLoanNames$All;") ∈ lw_all := lw_g (lw_at lw_m3 170 rfl) rfl
theorem q743 : (Jvm.Cond.fieldLink "LoanNames$Bundle" (62 : Nat) "LoanNames$Deal" "row" "LLoanNames$LeafRow;") ∈ lw_all := lw_g (lw_at lw_m3 173 rfl) rfl
theorem q837 : (Jvm.Cond.fieldLink "LoanNames$Bundle" (156 : Nat) "LoanNames$Rule" "thenForm" "I") ∈ lw_all := lw_g (lw_at lw_m4 27 rfl) rfl
theorem q1151 : (Jvm.Cond.instanceMethod ({ cls := "LoanNames$Bundle", name := "hasDeal", desc := "(LLoanNames$Deal;)Z" } : Jvm.MethodName)) ∈ lw_all := lw_g (lw_at lw_m5 101 rfl) rfl
theorem q1152 : (Jvm.Cond.selects "LoanNames$Bundle" ({ cls := "LoanNames$Bundle", name := "hasDeal", desc := "(LLoanNames$Deal;)Z" } : Jvm.MethodName) ({ cls := "LoanNames$Bundle", name := "hasDeal", desc := "(LLoanNames$Deal;)Z" } : Jvm.MethodName)) ∈ lw_all := lw_g (lw_at lw_m5 102 rfl) rfl
theorem q1153 : (Jvm.Cond.code ({ cls := "LoanNames$Bundle", name := "hasDeal", desc := "(LLoanNames$Deal;)Z" } : Jvm.MethodName) prog_4_method_2_code (4 : Nat) (Option.some Jvm.ClassFile.FieldType.boolean)) ∈ lw_all := lw_g (lw_at lw_m5 103 rfl) rfl
theorem q1155 : (Jvm.Cond.instanceMethod ({ cls := "LoanNames$Bundle", name := "adds", desc := "(LLoanNames$Deal;)V" } : Jvm.MethodName)) ∈ lw_all := lw_g (lw_at lw_m5 105 rfl) rfl
theorem q1156 : (Jvm.Cond.selects "LoanNames$Bundle" ({ cls := "LoanNames$Bundle", name := "adds", desc := "(LLoanNames$Deal;)V" } : Jvm.MethodName) ({ cls := "LoanNames$Bundle", name := "adds", desc := "(LLoanNames$Deal;)V" } : Jvm.MethodName)) ∈ lw_all := lw_g (lw_at lw_m5 106 rfl) rfl
theorem q1157 : (Jvm.Cond.code ({ cls := "LoanNames$Bundle", name := "adds", desc := "(LLoanNames$Deal;)V" } : Jvm.MethodName) prog_4_method_3_code (3 : Nat) (Option.none : Option Jvm.ClassFile.FieldType)) ∈ lw_all := lw_g (lw_at lw_m5 107 rfl) rfl
theorem q1158 : (Jvm.Cond.methodLink "LoanNames$Bundle" (71 : Nat) ({ cls := "LoanNames$LeafRow", name := "add", desc := "(LLoanNames$Leaf;I)V" } : Jvm.MethodName)) ∈ lw_all := lw_g (lw_at lw_m5 108 rfl) rfl
theorem q1164 : (Jvm.Cond.instanceMethod ({ cls := "LoanNames$Bundle", name := "clears", desc := "()V" } : Jvm.MethodName)) ∈ lw_all := lw_g (lw_at lw_m5 114 rfl) rfl
theorem q1165 : (Jvm.Cond.selects "LoanNames$Bundle" ({ cls := "LoanNames$Bundle", name := "clears", desc := "()V" } : Jvm.MethodName) ({ cls := "LoanNames$Bundle", name := "clears", desc := "()V" } : Jvm.MethodName)) ∈ lw_all := lw_g (lw_at lw_m5 115 rfl) rfl
theorem q1166 : (Jvm.Cond.code ({ cls := "LoanNames$Bundle", name := "clears", desc := "()V" } : Jvm.MethodName) prog_4_method_4_code (1 : Nat) (Option.none : Option Jvm.ClassFile.FieldType)) ∈ lw_all := lw_g (lw_at lw_m5 116 rfl) rfl
theorem q1172 : (Jvm.Cond.instanceMethod ({ cls := "LoanNames$Bundle", name := "isCode", desc := "(I)Z" } : Jvm.MethodName)) ∈ lw_all := lw_g (lw_at lw_m5 122 rfl) rfl
theorem q1173 : (Jvm.Cond.selects "LoanNames$Bundle" ({ cls := "LoanNames$Bundle", name := "isCode", desc := "(I)Z" } : Jvm.MethodName) ({ cls := "LoanNames$Bundle", name := "isCode", desc := "(I)Z" } : Jvm.MethodName)) ∈ lw_all := lw_g (lw_at lw_m5 123 rfl) rfl
theorem q1174 : (Jvm.Cond.code ({ cls := "LoanNames$Bundle", name := "isCode", desc := "(I)Z" } : Jvm.MethodName) prog_4_method_7_code (2 : Nat) (Option.some Jvm.ClassFile.FieldType.boolean)) ∈ lw_all := lw_g (lw_at lw_m5 124 rfl) rfl
theorem q1177 : (Jvm.Cond.instanceMethod ({ cls := "LoanNames$Bundle", name := "passes", desc := "(I)LLoanNames$Sink;" } : Jvm.MethodName)) ∈ lw_all := lw_g (lw_at lw_m5 127 rfl) rfl
theorem q1178 : (Jvm.Cond.selects "LoanNames$Bundle" ({ cls := "LoanNames$Bundle", name := "passes", desc := "(I)LLoanNames$Sink;" } : Jvm.MethodName) ({ cls := "LoanNames$Bundle", name := "passes", desc := "(I)LLoanNames$Sink;" } : Jvm.MethodName)) ∈ lw_all := lw_g (lw_at lw_m5 128 rfl) rfl
theorem q1179 : (Jvm.Cond.code ({ cls := "LoanNames$Bundle", name := "passes", desc := "(I)LLoanNames$Sink;" } : Jvm.MethodName) prog_4_method_10_code (4 : Nat) (Option.some (Jvm.ClassFile.FieldType.object "LoanNames$Sink"))) ∈ lw_all := lw_g (lw_at lw_m5 129 rfl) rfl
theorem q1180 : (Jvm.Cond.methodLink "LoanNames$Bundle" (93 : Nat) ({ cls := "LoanNames$All", name := "passes", desc := "(LLoanNames$Sink;IJI)V" } : Jvm.MethodName)) ∈ lw_all := lw_g (lw_at lw_m5 130 rfl) rfl
theorem q1189 : (Jvm.Cond.instanceMethod ({ cls := "LoanNames$Bundle", name := "net", desc := "(IIII)J" } : Jvm.MethodName)) ∈ lw_all := lw_g (lw_at lw_m5 139 rfl) rfl
theorem q1190 : (Jvm.Cond.selects "LoanNames$Bundle" ({ cls := "LoanNames$Bundle", name := "net", desc := "(IIII)J" } : Jvm.MethodName) ({ cls := "LoanNames$Bundle", name := "net", desc := "(IIII)J" } : Jvm.MethodName)) ∈ lw_all := lw_g (lw_at lw_m5 140 rfl) rfl
theorem q1191 : (Jvm.Cond.code ({ cls := "LoanNames$Bundle", name := "net", desc := "(IIII)J" } : Jvm.MethodName) prog_4_method_11_code (8 : Nat) (Option.some Jvm.ClassFile.FieldType.long)) ∈ lw_all := lw_g (lw_at lw_m5 141 rfl) rfl
theorem q1192 : (Jvm.Cond.methodLink "LoanNames$Bundle" (99 : Nat) ({ cls := "LoanNames$Bundle", name := "passes", desc := "(I)LLoanNames$Sink;" } : Jvm.MethodName)) ∈ lw_all := lw_g (lw_at lw_m5 142 rfl) rfl
theorem q1199 : (Jvm.Cond.instanceMethod ({ cls := "LoanNames$Bundle", name := "isLooked", desc := "()Z" } : Jvm.MethodName)) ∈ lw_all := lw_g (lw_at lw_m5 149 rfl) rfl
theorem q1200 : (Jvm.Cond.selects "LoanNames$Bundle" ({ cls := "LoanNames$Bundle", name := "isLooked", desc := "()Z" } : Jvm.MethodName) ({ cls := "LoanNames$Bundle", name := "isLooked", desc := "()Z" } : Jvm.MethodName)) ∈ lw_all := lw_g (lw_at lw_m5 150 rfl) rfl
theorem q1201 : (Jvm.Cond.code ({ cls := "LoanNames$Bundle", name := "isLooked", desc := "()Z" } : Jvm.MethodName) prog_4_method_6_code (1 : Nat) (Option.some Jvm.ClassFile.FieldType.boolean)) ∈ lw_all := lw_g (lw_at lw_m5 151 rfl) rfl
theorem q1202 : (Jvm.Cond.methodLink "LoanNames$Bundle" (82 : Nat) ({ cls := "java/lang/Integer", name := "bitCount", desc := "(I)I" } : Jvm.MethodName)) ∈ lw_all := lw_g (lw_at lw_m5 152 rfl) rfl
theorem q1209 : (Jvm.Cond.instanceMethod ({ cls := "LoanNames$Bundle", name := "codes", desc := "()I" } : Jvm.MethodName)) ∈ lw_all := lw_g (lw_at lw_m5 159 rfl) rfl
theorem q1210 : (Jvm.Cond.selects "LoanNames$Bundle" ({ cls := "LoanNames$Bundle", name := "codes", desc := "()I" } : Jvm.MethodName) ({ cls := "LoanNames$Bundle", name := "codes", desc := "()I" } : Jvm.MethodName)) ∈ lw_all := lw_g (lw_at lw_m5 160 rfl) rfl
theorem q1211 : (Jvm.Cond.code ({ cls := "LoanNames$Bundle", name := "codes", desc := "()I" } : Jvm.MethodName) prog_4_method_9_code (1 : Nat) (Option.some Jvm.ClassFile.FieldType.int)) ∈ lw_all := lw_g (lw_at lw_m5 161 rfl) rfl
theorem q1221 : (Jvm.Cond.instanceMethod ({ cls := "LoanNames$Bundle", name := "lending", desc := "(II)I" } : Jvm.MethodName)) ∈ lw_all := lw_g (lw_at lw_m5 171 rfl) rfl
theorem q1222 : (Jvm.Cond.selects "LoanNames$Bundle" ({ cls := "LoanNames$Bundle", name := "lending", desc := "(II)I" } : Jvm.MethodName) ({ cls := "LoanNames$Bundle", name := "lending", desc := "(II)I" } : Jvm.MethodName)) ∈ lw_all := lw_g (lw_at lw_m5 172 rfl) rfl
theorem q1223 : (Jvm.Cond.code ({ cls := "LoanNames$Bundle", name := "lending", desc := "(II)I" } : Jvm.MethodName) prog_4_method_20_code (5 : Nat) (Option.some Jvm.ClassFile.FieldType.int)) ∈ lw_all := lw_g (lw_at lw_m5 173 rfl) rfl
theorem q1224 : (Jvm.Cond.methodLink "LoanNames$Bundle" (141 : Nat) ({ cls := "LoanNames$Bundle", name := "isOfNamed", desc := "(I)Z" } : Jvm.MethodName)) ∈ lw_all := lw_g (lw_at lw_m5 174 rfl) rfl
theorem q1225 : (Jvm.Cond.instanceMethod ({ cls := "LoanNames$Bundle", name := "isOfNamed", desc := "(I)Z" } : Jvm.MethodName)) ∈ lw_all := lw_g (lw_at lw_m5 175 rfl) rfl
theorem q1226 : (Jvm.Cond.selects "LoanNames$Bundle" ({ cls := "LoanNames$Bundle", name := "isOfNamed", desc := "(I)Z" } : Jvm.MethodName) ({ cls := "LoanNames$Bundle", name := "isOfNamed", desc := "(I)Z" } : Jvm.MethodName)) ∈ lw_all := lw_g (lw_at lw_m5 176 rfl) rfl
theorem q1227 : (Jvm.Cond.code ({ cls := "LoanNames$Bundle", name := "isOfNamed", desc := "(I)Z" } : Jvm.MethodName) prog_4_method_8_code (2 : Nat) (Option.some Jvm.ClassFile.FieldType.boolean)) ∈ lw_all := lw_g (lw_at lw_m5 177 rfl) rfl
theorem q1228 : (Jvm.Cond.methodLink "LoanNames$Bundle" (144 : Nat) ({ cls := "LoanNames$Bundle", name := "nets", desc := "(I)V" } : Jvm.MethodName)) ∈ lw_all := lw_g (lw_at lw_m5 178 rfl) rfl
theorem q1229 : (Jvm.Cond.instanceMethod ({ cls := "LoanNames$Bundle", name := "nets", desc := "(I)V" } : Jvm.MethodName)) ∈ lw_all := lw_g (lw_at lw_m5 179 rfl) rfl
theorem q1230 : (Jvm.Cond.selects "LoanNames$Bundle" ({ cls := "LoanNames$Bundle", name := "nets", desc := "(I)V" } : Jvm.MethodName) ({ cls := "LoanNames$Bundle", name := "nets", desc := "(I)V" } : Jvm.MethodName)) ∈ lw_all := lw_g (lw_at lw_m5 180 rfl) rfl
theorem q1231 : (Jvm.Cond.code ({ cls := "LoanNames$Bundle", name := "nets", desc := "(I)V" } : Jvm.MethodName) prog_4_method_13_code (3 : Nat) (Option.none : Option Jvm.ClassFile.FieldType)) ∈ lw_all := lw_g (lw_at lw_m5 181 rfl) rfl
theorem q1232 : (Jvm.Cond.methodLink "LoanNames$Bundle" (123 : Nat) ({ cls := "LoanNames$Bundle", name := "dayAt", desc := "(I)I" } : Jvm.MethodName)) ∈ lw_all := lw_g (lw_at lw_m5 182 rfl) rfl
theorem q1233 : (Jvm.Cond.privateMethod ({ cls := "LoanNames$Bundle", name := "dayAt", desc := "(I)I" } : Jvm.MethodName)) ∈ lw_tbl := lw_at lw_m5 183 rfl
theorem q1234 : (Jvm.Cond.instanceMethod ({ cls := "LoanNames$Bundle", name := "dayAt", desc := "(I)I" } : Jvm.MethodName)) ∈ lw_all := lw_g (lw_at lw_m5 184 rfl) rfl
theorem q1235 : (Jvm.Cond.code ({ cls := "LoanNames$Bundle", name := "dayAt", desc := "(I)I" } : Jvm.MethodName) prog_4_method_12_code (4 : Nat) (Option.some Jvm.ClassFile.FieldType.int)) ∈ lw_all := lw_g (lw_at lw_m5 185 rfl) rfl
theorem q1236 : (Jvm.Cond.methodLink "LoanNames$Bundle" (126 : Nat) ({ cls := "LoanNames$Bundle", name := "gets", desc := "(IIJ)V" } : Jvm.MethodName)) ∈ lw_all := lw_g (lw_at lw_m5 186 rfl) rfl
theorem q1237 : (Jvm.Cond.privateMethod ({ cls := "LoanNames$Bundle", name := "gets", desc := "(IIJ)V" } : Jvm.MethodName)) ∈ lw_tbl := lw_at lw_m5 187 rfl
theorem q1238 : (Jvm.Cond.instanceMethod ({ cls := "LoanNames$Bundle", name := "gets", desc := "(IIJ)V" } : Jvm.MethodName)) ∈ lw_all := lw_g (lw_at lw_m5 188 rfl) rfl
theorem q1239 : (Jvm.Cond.code ({ cls := "LoanNames$Bundle", name := "gets", desc := "(IIJ)V" } : Jvm.MethodName) prog_4_method_14_code (5 : Nat) (Option.none : Option Jvm.ClassFile.FieldType)) ∈ lw_all := lw_g (lw_at lw_m5 189 rfl) rfl
theorem q1240 : (Jvm.Cond.methodLink "LoanNames$Bundle" (148 : Nat) ({ cls := "LoanNames$Bundle", name := "lends", desc := "(II)Z" } : Jvm.MethodName)) ∈ lw_all := lw_g (lw_at lw_m5 190 rfl) rfl
theorem q1241 : (Jvm.Cond.instanceMethod ({ cls := "LoanNames$Bundle", name := "lends", desc := "(II)Z" } : Jvm.MethodName)) ∈ lw_all := lw_g (lw_at lw_m5 191 rfl) rfl
theorem q1242 : (Jvm.Cond.selects "LoanNames$Bundle" ({ cls := "LoanNames$Bundle", name := "lends", desc := "(II)Z" } : Jvm.MethodName) ({ cls := "LoanNames$Bundle", name := "lends", desc := "(II)Z" } : Jvm.MethodName)) ∈ lw_all := lw_g (lw_at lw_m5 192 rfl) rfl
theorem q1243 : (Jvm.Cond.code ({ cls := "LoanNames$Bundle", name := "lends", desc := "(II)Z" } : Jvm.MethodName) prog_4_method_18_code (8 : Nat) (Option.some Jvm.ClassFile.FieldType.boolean)) ∈ lw_all := lw_g (lw_at lw_m5 193 rfl) rfl
theorem q1244 : (Jvm.Cond.methodLink "LoanNames$Bundle" (134 : Nat) ({ cls := "LoanNames$Bundle", name := "isEven", desc := "(I)Z" } : Jvm.MethodName)) ∈ lw_all := lw_g (lw_at lw_m5 194 rfl) rfl
theorem q1245 : (Jvm.Cond.privateMethod ({ cls := "LoanNames$Bundle", name := "isEven", desc := "(I)Z" } : Jvm.MethodName)) ∈ lw_tbl := lw_at lw_m5 195 rfl
theorem q1246 : (Jvm.Cond.instanceMethod ({ cls := "LoanNames$Bundle", name := "isEven", desc := "(I)Z" } : Jvm.MethodName)) ∈ lw_all := lw_g (lw_at lw_m5 196 rfl) rfl
theorem q1247 : (Jvm.Cond.code ({ cls := "LoanNames$Bundle", name := "isEven", desc := "(I)Z" } : Jvm.MethodName) prog_4_method_16_code (4 : Nat) (Option.some Jvm.ClassFile.FieldType.boolean)) ∈ lw_all := lw_g (lw_at lw_m5 197 rfl) rfl
theorem q1248 : (Jvm.Cond.methodLink "LoanNames$Bundle" (130 : Nat) ({ cls := "LoanNames$Bundle", name := "total", desc := "(II)J" } : Jvm.MethodName)) ∈ lw_all := lw_g (lw_at lw_m5 198 rfl) rfl
theorem q1249 : (Jvm.Cond.instanceMethod ({ cls := "LoanNames$Bundle", name := "total", desc := "(II)J" } : Jvm.MethodName)) ∈ lw_all := lw_g (lw_at lw_m5 199 rfl) rfl
theorem q1250 : (Jvm.Cond.selects "LoanNames$Bundle" ({ cls := "LoanNames$Bundle", name := "total", desc := "(II)J" } : Jvm.MethodName) ({ cls := "LoanNames$Bundle", name := "total", desc := "(II)J" } : Jvm.MethodName)) ∈ lw_all := lw_g (lw_at lw_m5 200 rfl) rfl
theorem q1251 : (Jvm.Cond.code ({ cls := "LoanNames$Bundle", name := "total", desc := "(II)J" } : Jvm.MethodName) prog_4_method_15_code (3 : Nat) (Option.some Jvm.ClassFile.FieldType.long)) ∈ lw_all := lw_g (lw_at lw_m5 201 rfl) rfl
theorem q1252 : (Jvm.Cond.methodLink "LoanNames$Bundle" (138 : Nat) ({ cls := "LoanNames$Bundle", name := "firstDay", desc := "(I)I" } : Jvm.MethodName)) ∈ lw_all := lw_g (lw_at lw_m5 202 rfl) rfl
theorem q1253 : (Jvm.Cond.privateMethod ({ cls := "LoanNames$Bundle", name := "firstDay", desc := "(I)I" } : Jvm.MethodName)) ∈ lw_tbl := lw_at lw_m5 203 rfl
theorem q1254 : (Jvm.Cond.instanceMethod ({ cls := "LoanNames$Bundle", name := "firstDay", desc := "(I)I" } : Jvm.MethodName)) ∈ lw_all := lw_g (lw_at lw_m5 204 rfl) rfl
theorem q1255 : (Jvm.Cond.code ({ cls := "LoanNames$Bundle", name := "firstDay", desc := "(I)I" } : Jvm.MethodName) prog_4_method_17_code (3 : Nat) (Option.some Jvm.ClassFile.FieldType.int)) ∈ lw_all := lw_g (lw_at lw_m5 205 rfl) rfl
theorem q1265 : (Jvm.Cond.instanceMethod ({ cls := "LoanNames$Bundle", name := "out", desc := "(I)J" } : Jvm.MethodName)) ∈ lw_all := lw_g (lw_at lw_m5 215 rfl) rfl
theorem q1266 : (Jvm.Cond.selects "LoanNames$Bundle" ({ cls := "LoanNames$Bundle", name := "out", desc := "(I)J" } : Jvm.MethodName) ({ cls := "LoanNames$Bundle", name := "out", desc := "(I)J" } : Jvm.MethodName)) ∈ lw_all := lw_g (lw_at lw_m5 216 rfl) rfl
theorem q1267 : (Jvm.Cond.code ({ cls := "LoanNames$Bundle", name := "out", desc := "(I)J" } : Jvm.MethodName) prog_4_method_19_code (7 : Nat) (Option.some Jvm.ClassFile.FieldType.long)) ∈ lw_all := lw_g (lw_at lw_m5 217 rfl) rfl
theorem q1279 : (Jvm.Cond.instanceMethod ({ cls := "LoanNames$Bundle", name := "loan", desc := "()I" } : Jvm.MethodName)) ∈ lw_all := lw_g (lw_at lw_m5 229 rfl) rfl
theorem q1280 : (Jvm.Cond.selects "LoanNames$Bundle" ({ cls := "LoanNames$Bundle", name := "loan", desc := "()I" } : Jvm.MethodName) ({ cls := "LoanNames$Bundle", name := "loan", desc := "()I" } : Jvm.MethodName)) ∈ lw_all := lw_g (lw_at lw_m5 230 rfl) rfl
theorem q1281 : (Jvm.Cond.code ({ cls := "LoanNames$Bundle", name := "loan", desc := "()I" } : Jvm.MethodName) prog_4_method_21_code (4 : Nat) (Option.some Jvm.ClassFile.FieldType.int)) ∈ lw_all := lw_g (lw_at lw_m5 231 rfl) rfl
theorem q1282 : (Jvm.Cond.methodLink "LoanNames$Bundle" (152 : Nat) ({ cls := "LoanNames$Bundle", name := "isLooked", desc := "()Z" } : Jvm.MethodName)) ∈ lw_all := lw_g (lw_at lw_m5 232 rfl) rfl
theorem q1300 : (Jvm.Cond.instanceMethod ({ cls := "LoanNames$Bundle", name := "isBarred", desc := "(LLoanNames$Rule;)Z" } : Jvm.MethodName)) ∈ lw_all := lw_g (lw_at lw_m6 10 rfl) rfl
theorem q1301 : (Jvm.Cond.selects "LoanNames$Bundle" ({ cls := "LoanNames$Bundle", name := "isBarred", desc := "(LLoanNames$Rule;)Z" } : Jvm.MethodName) ({ cls := "LoanNames$Bundle", name := "isBarred", desc := "(LLoanNames$Rule;)Z" } : Jvm.MethodName)) ∈ lw_all := lw_g (lw_at lw_m6 11 rfl) rfl
theorem q1302 : (Jvm.Cond.code ({ cls := "LoanNames$Bundle", name := "isBarred", desc := "(LLoanNames$Rule;)Z" } : Jvm.MethodName) prog_4_method_22_code (3 : Nat) (Option.some Jvm.ClassFile.FieldType.boolean)) ∈ lw_all := lw_g (lw_at lw_m6 12 rfl) rfl
theorem q1303 : (Jvm.Cond.methodLink "LoanNames$Bundle" (161 : Nat) ({ cls := "LoanNames$Bundle", name := "firstOf", desc := "(LLoanNames$Rule;)I" } : Jvm.MethodName)) ∈ lw_all := lw_g (lw_at lw_m6 13 rfl) rfl
theorem q1304 : (Jvm.Cond.instanceMethod ({ cls := "LoanNames$Bundle", name := "firstOf", desc := "(LLoanNames$Rule;)I" } : Jvm.MethodName)) ∈ lw_all := lw_g (lw_at lw_m6 14 rfl) rfl
theorem q1305 : (Jvm.Cond.selects "LoanNames$Bundle" ({ cls := "LoanNames$Bundle", name := "firstOf", desc := "(LLoanNames$Rule;)I" } : Jvm.MethodName) ({ cls := "LoanNames$Bundle", name := "firstOf", desc := "(LLoanNames$Rule;)I" } : Jvm.MethodName)) ∈ lw_all := lw_g (lw_at lw_m6 15 rfl) rfl
theorem q1306 : (Jvm.Cond.code ({ cls := "LoanNames$Bundle", name := "firstOf", desc := "(LLoanNames$Rule;)I" } : Jvm.MethodName) prog_4_method_23_code (3 : Nat) (Option.some Jvm.ClassFile.FieldType.int)) ∈ lw_all := lw_g (lw_at lw_m6 16 rfl) rfl
theorem q1307 : (Jvm.Cond.methodLink "LoanNames$Bundle" (169 : Nat) ({ cls := "LoanNames$Rule", name := "bars", desc := "(LLoanNames$LeafRow;I)Z" } : Jvm.MethodName)) ∈ lw_all := lw_g (lw_at lw_m6 17 rfl) rfl
theorem q1315 : (Jvm.Cond.methodLink "LoanNames$Bundle" (165 : Nat) ({ cls := "LoanNames$Bundle", name := "secondOf", desc := "(LLoanNames$Rule;I)I" } : Jvm.MethodName)) ∈ lw_all := lw_g (lw_at lw_m6 25 rfl) rfl
theorem q1316 : (Jvm.Cond.instanceMethod ({ cls := "LoanNames$Bundle", name := "secondOf", desc := "(LLoanNames$Rule;I)I" } : Jvm.MethodName)) ∈ lw_all := lw_g (lw_at lw_m6 26 rfl) rfl
theorem q1317 : (Jvm.Cond.selects "LoanNames$Bundle" ({ cls := "LoanNames$Bundle", name := "secondOf", desc := "(LLoanNames$Rule;I)I" } : Jvm.MethodName) ({ cls := "LoanNames$Bundle", name := "secondOf", desc := "(LLoanNames$Rule;I)I" } : Jvm.MethodName)) ∈ lw_all := lw_g (lw_at lw_m6 27 rfl) rfl
theorem q1318 : (Jvm.Cond.code ({ cls := "LoanNames$Bundle", name := "secondOf", desc := "(LLoanNames$Rule;I)I" } : Jvm.MethodName) prog_4_method_24_code (4 : Nat) (Option.some Jvm.ClassFile.FieldType.int)) ∈ lw_all := lw_g (lw_at lw_m6 28 rfl) rfl
theorem q1319 : (Jvm.Cond.methodLink "LoanNames$Bundle" (173 : Nat) ({ cls := "LoanNames$Rule", name := "bars", desc := "(LLoanNames$LeafRow;II[I)Z" } : Jvm.MethodName)) ∈ lw_all := lw_g (lw_at lw_m6 29 rfl) rfl
theorem q1332 : (Jvm.Cond.instanceMethod ({ cls := "LoanNames$Bundle", name := "isBarred", desc := "(LLoanNames$Law;)Z" } : Jvm.MethodName)) ∈ lw_all := lw_g (lw_at lw_m6 42 rfl) rfl
theorem q1333 : (Jvm.Cond.selects "LoanNames$Bundle" ({ cls := "LoanNames$Bundle", name := "isBarred", desc := "(LLoanNames$Law;)Z" } : Jvm.MethodName) ({ cls := "LoanNames$Bundle", name := "isBarred", desc := "(LLoanNames$Law;)Z" } : Jvm.MethodName)) ∈ lw_all := lw_g (lw_at lw_m6 43 rfl) rfl
theorem q1334 : (Jvm.Cond.code ({ cls := "LoanNames$Bundle", name := "isBarred", desc := "(LLoanNames$Law;)Z" } : Jvm.MethodName) prog_4_method_25_code (4 : Nat) (Option.some Jvm.ClassFile.FieldType.boolean)) ∈ lw_all := lw_g (lw_at lw_m6 44 rfl) rfl
theorem q1335 : (Jvm.Cond.methodLink "LoanNames$Bundle" (183 : Nat) ({ cls := "LoanNames$Bundle", name := "isBarred", desc := "(LLoanNames$Rule;)Z" } : Jvm.MethodName)) ∈ lw_all := lw_g (lw_at lw_m6 45 rfl) rfl
theorem q1355 : (Jvm.Cond.instanceMethod ({ cls := "LoanNames$Bundle", name := "is", desc := "(LLoanNames$Bundle;)V" } : Jvm.MethodName)) ∈ lw_all := lw_g (lw_at lw_m6 65 rfl) rfl
theorem q1356 : (Jvm.Cond.selects "LoanNames$Bundle" ({ cls := "LoanNames$Bundle", name := "is", desc := "(LLoanNames$Bundle;)V" } : Jvm.MethodName) ({ cls := "LoanNames$Bundle", name := "is", desc := "(LLoanNames$Bundle;)V" } : Jvm.MethodName)) ∈ lw_all := lw_g (lw_at lw_m6 66 rfl) rfl
theorem q1357 : (Jvm.Cond.code ({ cls := "LoanNames$Bundle", name := "is", desc := "(LLoanNames$Bundle;)V" } : Jvm.MethodName) prog_4_method_5_code (3 : Nat) (Option.none : Option Jvm.ClassFile.FieldType)) ∈ lw_all := lw_g (lw_at lw_m6 67 rfl) rfl
theorem q1358 : (Jvm.Cond.methodLink "LoanNames$Bundle" (75 : Nat) ({ cls := "LoanNames$Bundle", name := "clears", desc := "()V" } : Jvm.MethodName)) ∈ lw_all := lw_g (lw_at lw_m6 68 rfl) rfl
theorem q1359 : (Jvm.Cond.methodLink "LoanNames$Bundle" (78 : Nat) ({ cls := "LoanNames$Bundle", name := "adds", desc := "(LLoanNames$Deal;)V" } : Jvm.MethodName)) ∈ lw_all := lw_g (lw_at lw_m6 69 rfl) rfl
theorem in_X2 : ∀ w ∈ wsX20, w ∈ lw_all := lw_in wsX20 [240, 242, 244, 246, 248, 250, 252, 254, 256, 258, 260, 262] (by decide +kernel) (by decide +kernel)
