/-! LoanNamesModel -/
set_option maxRecDepth 100000
def RX5 : String := "LoanNamesModel"
def TX5 : u_T := fun k => match k with
  | 0 => ("LoanNamesModel", "families", "[I", true)
  | 1 => ("LoanNamesModel", "deals", "I", false)
  | 2 => ("LoanNamesModel", "many", "[I", true)
  | 3 => ("LoanNamesModel", "signed", "[I", true)
  | 4 => ("LoanNamesModel", "leaves", "[I", true)
  | 5 => ("LoanNamesModel", "choices", "[I", true)
  | 6 => ("LoanNamesModel", "events", "[I", true)
  | 7 => ("LoanNamesModel", "kind", "[I", true)
  | 8 => ("LoanNamesModel", "number", "[I", true)
  | 9 => ("LoanNamesModel", "up", "[I", true)
  | 10 => ("LoanNamesModel", "part", "[I", true)
  | 11 => ("LoanNamesModel", "end", "[I", true)
  | 12 => ("LoanNamesModel", "mid", "[I", true)
  | 13 => ("LoanNamesModel", "handA", "[I", true)
  | 14 => ("LoanNamesModel", "handB", "[I", true)
  | 15 => ("LoanNamesModel", "thing", "[I", true)
  | 16 => ("LoanNamesModel", "much", "[I", true)
  | 17 => ("LoanNamesModel", "price", "[I", true)
  | 18 => ("LoanNamesModel", "at", "[I", true)
  | 19 => ("LoanNamesModel", "till", "[I", true)
  | 20 => ("LoanNamesModel", "tape", "[B", true)
  | 21 => ("LoanNamesModel", "taped", "I", false)
  | 22 => ("LoanNamesModel", "faultAt", "I", false)
  | 23 => ("LoanNamesModel", "limit", "I", false)
  | 24 => ("LoanNamesModel", "point", "I", false)
  | 25 => ("LoanNamesModel", "from", "I", false)
  | 26 => ("LoanNamesModel", "token", "I", false)
  | 27 => ("LoanNamesModel", "value", "I", false)
  | 28 => ("LoanNamesModel", "text", "J", false)
  | 29 => ("LoanNamesModel", "isWrong", "Z", false)
  | 30 => ("LoanNamesModel", "openNode", "[I", true)
  | 31 => ("LoanNamesModel", "openPart", "[I", true)
  | 32 => ("LoanNamesModel", "open", "I", false)
  | 33 => ("LoanNamesModel", "nodes", "I", false)
  | 34 => ("LoanNamesModel", "leafCount", "I", false)
  | 35 => ("LoanNamesModel", "choiceCount", "I", false)
  | 36 => ("LoanNamesModel", "eventBits", "I", false)
  | 37 => ("LoanNamesModel", "base", "I", false)
  | 38 => ("LoanNamesModel", "isNothing", "[Z", true)
  | 39 => ("LoanNamesModel", "isThrough", "[Z", true)
  | 40 => ("LoanNamesModel", "days", "[I", true)
  | 41 => ("LoanNamesModel", "steps", "I", false)
  | 42 => ("LoanNamesModel", "visible", "I", false)
  | 43 => ("LoanNamesModel", "only", "I", false)
  | 44 => ("LoanNamesModel", "signs", "[I", true)
  | 45 => ("LoanNamesModel", "signed0", "I", false)
  | 46 => ("LoanNamesModel", "closing", "[I", true)
  | 47 => ("LoanNamesModel", "closings", "I", false)
  | 48 => ("LoanNamesModel", "flows", "I", false)
  | 49 => ("LoanNamesModel", "flowDay", "[I", true)
  | 50 => ("LoanNamesModel", "flowA", "[I", true)
  | 51 => ("LoanNamesModel", "flowB", "[I", true)
  | 52 => ("LoanNamesModel", "flowThing", "[I", true)
  | 53 => ("LoanNamesModel", "flowMuch", "[J", true)
  | 54 => ("LoanNamesModel", "bundled", "I", false)
  | 55 => ("LoanNamesModel", "listed", "I", false)
  | 56 => ("LoanNamesModel", "bundle", "[I", true)
  | 57 => ("LoanNamesModel", "list", "[I", true)
  | 58 => ("LoanNamesModel", "rowLeaf", "I", false)
  | 59 => ("LoanNamesModel", "rowPart", "I", false)
  | 60 => ("LoanNamesModel", "rowTimes", "J", false)
  | 61 => ("LoanNamesModel", "dayCount", "I", false)
  | 62 => ("LoanNamesModel", "coinDays", "[I", true)
  | 63 => ("LoanNamesModel", "isClean", "[Z", true)
  | 64 => ("LoanNamesModel", "coinNet", "[J", true)
  | 65 => ("LoanNamesModel", "lentTo", "[I", true)
  | 66 => ("LoanNamesModel", "lentAll", "[I", true)
  | 67 => ("LoanNamesModel", "laws", "I", false)
  | 68 => ("LoanNamesModel", "words", "I", false)
  | 69 => ("LoanNamesModel", "lawMany", "[I", true)
  | 70 => ("LoanNamesModel", "wordMany", "[I", true)
  | 71 => ("LoanNamesModel", "form", "[I", true)
  | 72 => ("LoanNamesModel", "ofThing", "[I", true)
  | 73 => ("LoanNamesModel", "formThen", "[I", true)
  | 74 => ("LoanNamesModel", "thingThen", "[I", true)
  | 75 => ("LoanNamesModel", "asked", "[I", true)
  | 76 => ("LoanNamesModel", "most", "[I", true)
  | 77 => ("LoanNamesModel", "isTwo", "[Z", true)
  | 78 => ("LoanNamesModel", "leavesAtHand", "I", false)
  | 79 => ("LoanNamesModel", "firstHit", "I", false)
  | 80 => ("LoanNamesModel", "secondHit", "I", false)
  | 81 => ("LoanNamesModel", "leafNode", "[I", true)
  | 82 => ("LoanNamesModel", "leafDay", "[I", true)
  | 83 => ("LoanNamesModel", "offered", "I", false)
  | 84 => ("LoanNamesModel", "slyCount", "I", false)
  | 85 => ("LoanNamesModel", "slyBits", "I", false)
  | 86 => ("LoanNamesModel", "offers", "[I", true)
  | 87 => ("LoanNamesModel", "slyWords", "[I", true)
  | 88 => ("LoanNamesModel", "honests", "I", false)
  | 89 => ("LoanNamesModel", "honestMany", "[I", true)
  | 90 => ("LoanNamesModel", "honestDeals", "[I", true)
  | 91 => ("LoanNamesModel", "nets", "[J", true)
  | _ => ("LoanNamesModel", "group", "[I", true)
def tyX5 : Nat → FieldType := fun k => match k with
  | 0 => .array .int
  | 1 => .int
  | 2 => .array .int
  | 3 => .array .int
  | 4 => .array .int
  | 5 => .array .int
  | 6 => .array .int
  | 7 => .array .int
  | 8 => .array .int
  | 9 => .array .int
  | 10 => .array .int
  | 11 => .array .int
  | 12 => .array .int
  | 13 => .array .int
  | 14 => .array .int
  | 15 => .array .int
  | 16 => .array .int
  | 17 => .array .int
  | 18 => .array .int
  | 19 => .array .int
  | 20 => .array .byte
  | 21 => .int
  | 22 => .int
  | 23 => .int
  | 24 => .int
  | 25 => .int
  | 26 => .int
  | 27 => .int
  | 28 => .long
  | 29 => .boolean
  | 30 => .array .int
  | 31 => .array .int
  | 32 => .int
  | 33 => .int
  | 34 => .int
  | 35 => .int
  | 36 => .int
  | 37 => .int
  | 38 => .array .boolean
  | 39 => .array .boolean
  | 40 => .array .int
  | 41 => .int
  | 42 => .int
  | 43 => .int
  | 44 => .array .int
  | 45 => .int
  | 46 => .array .int
  | 47 => .int
  | 48 => .int
  | 49 => .array .int
  | 50 => .array .int
  | 51 => .array .int
  | 52 => .array .int
  | 53 => .array .long
  | 54 => .int
  | 55 => .int
  | 56 => .array .int
  | 57 => .array .int
  | 58 => .int
  | 59 => .int
  | 60 => .long
  | 61 => .int
  | 62 => .array .int
  | 63 => .array .boolean
  | 64 => .array .long
  | 65 => .array .int
  | 66 => .array .int
  | 67 => .int
  | 68 => .int
  | 69 => .array .int
  | 70 => .array .int
  | 71 => .array .int
  | 72 => .array .int
  | 73 => .array .int
  | 74 => .array .int
  | 75 => .array .int
  | 76 => .array .int
  | 77 => .array .boolean
  | 78 => .int
  | 79 => .int
  | 80 => .int
  | 81 => .array .int
  | 82 => .array .int
  | 83 => .int
  | 84 => .int
  | 85 => .int
  | 86 => .array .int
  | 87 => .array .int
  | 88 => .int
  | 89 => .array .int
  | 90 => .array .int
  | 91 => .array .long
  | _ => .array .int
abbrev wsX50 : List Cond := u_ws RX5 TX5 93
set_option maxRecDepth 100000 in
theorem nmX5 : ∀ a, a < 93 → ∀ b, b < 93 → a ≠ b → (TX5 a).2.1 ≠ (TX5 b).2.1 := by decide +kernel
set_option maxRecDepth 100000 in
theorem tyX5_ok : ∀ k, k < 93 → parseFieldDescriptor (TX5 k).2.2.1 = some (tyX5 k) := by decide +kernel
abbrev cX5_init : ByteArray := prog_24_method_1_code
def yX5_init : MethodName := ⟨RX5, "<init>", "()V"⟩
def dkwX5_init_21 : List UInt8 := [16, 8, 162, 0, 16, 42, 180, 0, 7, 27, 27, 79, 132, 1, 1, 167, 255, 240, 177]
abbrev dktX5_init_21 : List UInt8 := dkwX5_init_21 ++ []
def dkwX5_init_20 : List UInt8 := [188, 10, 181, 0, 176, 42, 16, 48, 188, 11, 181, 0, 179, 42, 16, 24, 188, 10, 181, 0, 182, 3, 60, 27]
abbrev dktX5_init_20 : List UInt8 := dkwX5_init_20 ++ dktX5_init_21
def dkwX5_init_19 : List UInt8 := [181, 0, 167, 42, 17, 4, 0, 188, 10, 181, 0, 170, 42, 16, 6, 188, 10, 181, 0, 173, 42, 16, 36]
abbrev dktX5_init_19 : List UInt8 := dkwX5_init_19 ++ dktX5_init_20
def dkwX5_init_18 : List UInt8 := [181, 0, 158, 42, 16, 72, 188, 10, 181, 0, 161, 42, 16, 72, 188, 10, 181, 0, 164, 42, 16, 10, 188, 10]
abbrev dktX5_init_18 : List UInt8 := dkwX5_init_18 ++ dktX5_init_19
def dkwX5_init_17 : List UInt8 := [17, 0, 240, 188, 10, 181, 0, 152, 42, 17, 0, 240, 188, 10, 181, 0, 155, 42, 17, 0, 240, 188, 4]
abbrev dktX5_init_17 : List UInt8 := dkwX5_init_17 ++ dktX5_init_18
def dkwX5_init_16 : List UInt8 := [188, 10, 181, 0, 143, 42, 17, 0, 240, 188, 10, 181, 0, 146, 42, 17, 0, 240, 188, 10, 181, 0, 149, 42]
abbrev dktX5_init_16 : List UInt8 := dkwX5_init_16 ++ dktX5_init_17
def dkwX5_init_15 : List UInt8 := [181, 0, 134, 42, 16, 12, 188, 10, 181, 0, 137, 42, 17, 0, 240, 188, 10, 181, 0, 140, 42, 17, 0, 240]
abbrev dktX5_init_15 : List UInt8 := dkwX5_init_15 ++ dktX5_init_16
def dkwX5_init_14 : List UInt8 := [181, 0, 125, 42, 16, 8, 188, 10, 181, 0, 128, 42, 16, 8, 188, 10, 181, 0, 131, 42, 16, 6, 188, 10]
abbrev dktX5_init_14 : List UInt8 := dkwX5_init_14 ++ dktX5_init_15
def dkwX5_init_13 : List UInt8 := [42, 17, 1, 0, 188, 10, 181, 0, 119, 42, 16, 8, 188, 4, 181, 0, 122, 42, 16, 8, 188, 11]
abbrev dktX5_init_13 : List UInt8 := dkwX5_init_13 ++ dktX5_init_14
def dkwX5_init_12 : List UInt8 := [17, 1, 0, 188, 11, 181, 0, 109, 42, 16, 6, 188, 10, 181, 0, 113, 42, 16, 6, 188, 10, 181, 0, 116]
abbrev dktX5_init_12 : List UInt8 := dkwX5_init_12 ++ dktX5_init_13
def dkwX5_init_11 : List UInt8 := [181, 0, 100, 42, 17, 1, 0, 188, 10, 181, 0, 103, 42, 17, 1, 0, 188, 10, 181, 0, 106, 42]
abbrev dktX5_init_11 : List UInt8 := dkwX5_init_11 ++ dktX5_init_12
def dkwX5_init_10 : List UInt8 := [42, 16, 8, 188, 10, 181, 0, 94, 42, 17, 1, 0, 188, 10, 181, 0, 97, 42, 17, 1, 0, 188, 10]
abbrev dktX5_init_10 : List UInt8 := dkwX5_init_10 ++ dktX5_init_11
def dkwX5_init_9 : List UInt8 := [16, 96, 188, 4, 181, 0, 85, 42, 16, 96, 188, 10, 181, 0, 88, 42, 17, 6, 64, 188, 10, 181, 0, 91]
abbrev dktX5_init_9 : List UInt8 := dkwX5_init_9 ++ dktX5_init_10
def dkwX5_init_8 : List UInt8 := [16, 6, 188, 10, 181, 0, 75, 42, 16, 6, 188, 10, 181, 0, 78, 42, 16, 96, 188, 4, 181, 0, 81, 42]
abbrev dktX5_init_8 : List UInt8 := dkwX5_init_8 ++ dktX5_init_9
def dkwX5_init_7 : List UInt8 := [17, 9, 0, 188, 10, 181, 0, 64, 42, 17, 2, 88, 188, 8, 181, 0, 67, 42, 2, 181, 0, 71, 42]
abbrev dktX5_init_7 : List UInt8 := dkwX5_init_7 ++ dktX5_init_8
def dkwX5_init_6 : List UInt8 := [181, 0, 55, 42, 17, 9, 0, 188, 10, 181, 0, 58, 42, 17, 9, 0, 188, 10, 181, 0, 61, 42]
abbrev dktX5_init_6 : List UInt8 := dkwX5_init_6 ++ dktX5_init_7
def dkwX5_init_5 : List UInt8 := [17, 9, 0, 188, 10, 181, 0, 49, 42, 17, 9, 0, 188, 10, 181, 0, 52, 42, 17, 9, 0, 188, 10]
abbrev dktX5_init_5 : List UInt8 := dkwX5_init_5 ++ dktX5_init_6
def dkwX5_init_4 : List UInt8 := [181, 0, 40, 42, 17, 9, 0, 188, 10, 181, 0, 43, 42, 17, 9, 0, 188, 10, 181, 0, 46, 42]
abbrev dktX5_init_4 : List UInt8 := dkwX5_init_4 ++ dktX5_init_5
def dkwX5_init_3 : List UInt8 := [17, 9, 0, 188, 10, 181, 0, 34, 42, 17, 9, 0, 188, 10, 181, 0, 37, 42, 17, 9, 0, 188, 10]
abbrev dktX5_init_3 : List UInt8 := dkwX5_init_3 ++ dktX5_init_4
def dkwX5_init_2 : List UInt8 := [188, 10, 181, 0, 25, 42, 17, 9, 0, 188, 10, 181, 0, 28, 42, 17, 9, 0, 188, 10, 181, 0, 31, 42]
abbrev dktX5_init_2 : List UInt8 := dkwX5_init_2 ++ dktX5_init_3
def dkwX5_init_1 : List UInt8 := [188, 10, 181, 0, 16, 42, 16, 24, 188, 10, 181, 0, 19, 42, 16, 24, 188, 10, 181, 0, 22, 42, 16, 24]
abbrev dktX5_init_1 : List UInt8 := dkwX5_init_1 ++ dktX5_init_2
def dkwX5_init_0 : List UInt8 := [42, 183, 0, 1, 42, 16, 8, 188, 10, 181, 0, 7, 42, 16, 24, 188, 10, 181, 0, 13, 42, 16, 24]
abbrev dktX5_init_0 : List UInt8 := dkwX5_init_0 ++ dktX5_init_1
theorem dksX5_init_0 : cX5_init.data.toList.drop 0 = dktX5_init_0 := by decide +kernel
theorem dksX5_init_1 : cX5_init.data.toList.drop 23 = dktX5_init_1 := dk_seg dksX5_init_0 23 rfl rfl
theorem dksX5_init_2 : cX5_init.data.toList.drop 47 = dktX5_init_2 := dk_seg dksX5_init_1 24 rfl rfl
theorem dksX5_init_3 : cX5_init.data.toList.drop 71 = dktX5_init_3 := dk_seg dksX5_init_2 24 rfl rfl
theorem dksX5_init_4 : cX5_init.data.toList.drop 94 = dktX5_init_4 := dk_seg dksX5_init_3 23 rfl rfl
theorem dksX5_init_5 : cX5_init.data.toList.drop 116 = dktX5_init_5 := dk_seg dksX5_init_4 22 rfl rfl
theorem dksX5_init_6 : cX5_init.data.toList.drop 139 = dktX5_init_6 := dk_seg dksX5_init_5 23 rfl rfl
theorem dksX5_init_7 : cX5_init.data.toList.drop 161 = dktX5_init_7 := dk_seg dksX5_init_6 22 rfl rfl
theorem dksX5_init_8 : cX5_init.data.toList.drop 184 = dktX5_init_8 := dk_seg dksX5_init_7 23 rfl rfl
theorem dksX5_init_9 : cX5_init.data.toList.drop 208 = dktX5_init_9 := dk_seg dksX5_init_8 24 rfl rfl
theorem dksX5_init_10 : cX5_init.data.toList.drop 232 = dktX5_init_10 := dk_seg dksX5_init_9 24 rfl rfl
theorem dksX5_init_11 : cX5_init.data.toList.drop 255 = dktX5_init_11 := dk_seg dksX5_init_10 23 rfl rfl
theorem dksX5_init_12 : cX5_init.data.toList.drop 277 = dktX5_init_12 := dk_seg dksX5_init_11 22 rfl rfl
theorem dksX5_init_13 : cX5_init.data.toList.drop 301 = dktX5_init_13 := dk_seg dksX5_init_12 24 rfl rfl
theorem dksX5_init_14 : cX5_init.data.toList.drop 323 = dktX5_init_14 := dk_seg dksX5_init_13 22 rfl rfl
theorem dksX5_init_15 : cX5_init.data.toList.drop 347 = dktX5_init_15 := dk_seg dksX5_init_14 24 rfl rfl
theorem dksX5_init_16 : cX5_init.data.toList.drop 371 = dktX5_init_16 := dk_seg dksX5_init_15 24 rfl rfl
theorem dksX5_init_17 : cX5_init.data.toList.drop 395 = dktX5_init_17 := dk_seg dksX5_init_16 24 rfl rfl
theorem dksX5_init_18 : cX5_init.data.toList.drop 418 = dktX5_init_18 := dk_seg dksX5_init_17 23 rfl rfl
theorem dksX5_init_19 : cX5_init.data.toList.drop 442 = dktX5_init_19 := dk_seg dksX5_init_18 24 rfl rfl
theorem dksX5_init_20 : cX5_init.data.toList.drop 465 = dktX5_init_20 := dk_seg dksX5_init_19 23 rfl rfl
theorem dksX5_init_21 : cX5_init.data.toList.drop 489 = dktX5_init_21 := dk_seg dksX5_init_20 24 rfl rfl
theorem dX5_init_0 : decode cX5_init 0 = .ok (.aload_n 0, 1) := dk_42 (dk_at dksX5_init_0 0 rfl rfl)
theorem dX5_init_1 : decode cX5_init 1 = .ok (.invokespecial 1, 3) := dk_183 0 1 (dk_at dksX5_init_0 1 rfl rfl)
theorem dX5_init_4 : decode cX5_init 4 = .ok (.aload_n 0, 1) := dk_42 (dk_at dksX5_init_0 4 rfl rfl)
theorem dX5_init_5 : decode cX5_init 5 = .ok (.bipush 8, 2) := dk_16 8 (dk_at dksX5_init_0 5 rfl rfl)
theorem dX5_init_7 : decode cX5_init 7 = .ok (.newarray .int, 2) := dk_188_10 (dk_at dksX5_init_0 7 rfl rfl)
theorem dX5_init_9 : decode cX5_init 9 = .ok (.putfield 7, 3) := dk_181 0 7 (dk_at dksX5_init_0 9 rfl rfl)
theorem dX5_init_12 : decode cX5_init 12 = .ok (.aload_n 0, 1) := dk_42 (dk_at dksX5_init_0 12 rfl rfl)
theorem dX5_init_13 : decode cX5_init 13 = .ok (.bipush 24, 2) := dk_16 24 (dk_at dksX5_init_0 13 rfl rfl)
theorem dX5_init_15 : decode cX5_init 15 = .ok (.newarray .int, 2) := dk_188_10 (dk_at dksX5_init_0 15 rfl rfl)
theorem dX5_init_17 : decode cX5_init 17 = .ok (.putfield 13, 3) := dk_181 0 13 (dk_at dksX5_init_0 17 rfl rfl)
theorem dX5_init_20 : decode cX5_init 20 = .ok (.aload_n 0, 1) := dk_42 (dk_at dksX5_init_0 20 rfl rfl)
theorem dX5_init_21 : decode cX5_init 21 = .ok (.bipush 24, 2) := dk_16 24 (dk_at dksX5_init_0 21 rfl rfl)
theorem dX5_init_23 : decode cX5_init 23 = .ok (.newarray .int, 2) := dk_188_10 (dk_at dksX5_init_1 0 rfl rfl)
theorem dX5_init_25 : decode cX5_init 25 = .ok (.putfield 16, 3) := dk_181 0 16 (dk_at dksX5_init_1 2 rfl rfl)
theorem dX5_init_28 : decode cX5_init 28 = .ok (.aload_n 0, 1) := dk_42 (dk_at dksX5_init_1 5 rfl rfl)
theorem dX5_init_29 : decode cX5_init 29 = .ok (.bipush 24, 2) := dk_16 24 (dk_at dksX5_init_1 6 rfl rfl)
theorem dX5_init_31 : decode cX5_init 31 = .ok (.newarray .int, 2) := dk_188_10 (dk_at dksX5_init_1 8 rfl rfl)
theorem dX5_init_33 : decode cX5_init 33 = .ok (.putfield 19, 3) := dk_181 0 19 (dk_at dksX5_init_1 10 rfl rfl)
theorem dX5_init_36 : decode cX5_init 36 = .ok (.aload_n 0, 1) := dk_42 (dk_at dksX5_init_1 13 rfl rfl)
theorem dX5_init_37 : decode cX5_init 37 = .ok (.bipush 24, 2) := dk_16 24 (dk_at dksX5_init_1 14 rfl rfl)
theorem dX5_init_39 : decode cX5_init 39 = .ok (.newarray .int, 2) := dk_188_10 (dk_at dksX5_init_1 16 rfl rfl)
theorem dX5_init_41 : decode cX5_init 41 = .ok (.putfield 22, 3) := dk_181 0 22 (dk_at dksX5_init_1 18 rfl rfl)
theorem dX5_init_44 : decode cX5_init 44 = .ok (.aload_n 0, 1) := dk_42 (dk_at dksX5_init_1 21 rfl rfl)
theorem dX5_init_45 : decode cX5_init 45 = .ok (.bipush 24, 2) := dk_16 24 (dk_at dksX5_init_1 22 rfl rfl)
theorem dX5_init_47 : decode cX5_init 47 = .ok (.newarray .int, 2) := dk_188_10 (dk_at dksX5_init_2 0 rfl rfl)
theorem dX5_init_49 : decode cX5_init 49 = .ok (.putfield 25, 3) := dk_181 0 25 (dk_at dksX5_init_2 2 rfl rfl)
theorem dX5_init_52 : decode cX5_init 52 = .ok (.aload_n 0, 1) := dk_42 (dk_at dksX5_init_2 5 rfl rfl)
theorem dX5_init_53 : decode cX5_init 53 = .ok (.sipush 2304, 3) := dk_17 9 0 (dk_at dksX5_init_2 6 rfl rfl)
theorem dX5_init_56 : decode cX5_init 56 = .ok (.newarray .int, 2) := dk_188_10 (dk_at dksX5_init_2 9 rfl rfl)
theorem dX5_init_58 : decode cX5_init 58 = .ok (.putfield 28, 3) := dk_181 0 28 (dk_at dksX5_init_2 11 rfl rfl)
theorem dX5_init_61 : decode cX5_init 61 = .ok (.aload_n 0, 1) := dk_42 (dk_at dksX5_init_2 14 rfl rfl)
theorem dX5_init_62 : decode cX5_init 62 = .ok (.sipush 2304, 3) := dk_17 9 0 (dk_at dksX5_init_2 15 rfl rfl)
theorem dX5_init_65 : decode cX5_init 65 = .ok (.newarray .int, 2) := dk_188_10 (dk_at dksX5_init_2 18 rfl rfl)
theorem dX5_init_67 : decode cX5_init 67 = .ok (.putfield 31, 3) := dk_181 0 31 (dk_at dksX5_init_2 20 rfl rfl)
theorem dX5_init_70 : decode cX5_init 70 = .ok (.aload_n 0, 1) := dk_42 (dk_at dksX5_init_2 23 rfl rfl)
theorem dX5_init_71 : decode cX5_init 71 = .ok (.sipush 2304, 3) := dk_17 9 0 (dk_at dksX5_init_3 0 rfl rfl)
theorem dX5_init_74 : decode cX5_init 74 = .ok (.newarray .int, 2) := dk_188_10 (dk_at dksX5_init_3 3 rfl rfl)
theorem dX5_init_76 : decode cX5_init 76 = .ok (.putfield 34, 3) := dk_181 0 34 (dk_at dksX5_init_3 5 rfl rfl)
theorem dX5_init_79 : decode cX5_init 79 = .ok (.aload_n 0, 1) := dk_42 (dk_at dksX5_init_3 8 rfl rfl)
theorem dX5_init_80 : decode cX5_init 80 = .ok (.sipush 2304, 3) := dk_17 9 0 (dk_at dksX5_init_3 9 rfl rfl)
theorem dX5_init_83 : decode cX5_init 83 = .ok (.newarray .int, 2) := dk_188_10 (dk_at dksX5_init_3 12 rfl rfl)
theorem dX5_init_85 : decode cX5_init 85 = .ok (.putfield 37, 3) := dk_181 0 37 (dk_at dksX5_init_3 14 rfl rfl)
theorem dX5_init_88 : decode cX5_init 88 = .ok (.aload_n 0, 1) := dk_42 (dk_at dksX5_init_3 17 rfl rfl)
theorem dX5_init_89 : decode cX5_init 89 = .ok (.sipush 2304, 3) := dk_17 9 0 (dk_at dksX5_init_3 18 rfl rfl)
theorem dX5_init_92 : decode cX5_init 92 = .ok (.newarray .int, 2) := dk_188_10 (dk_at dksX5_init_3 21 rfl rfl)
theorem dX5_init_94 : decode cX5_init 94 = .ok (.putfield 40, 3) := dk_181 0 40 (dk_at dksX5_init_4 0 rfl rfl)
theorem dX5_init_97 : decode cX5_init 97 = .ok (.aload_n 0, 1) := dk_42 (dk_at dksX5_init_4 3 rfl rfl)
theorem dX5_init_98 : decode cX5_init 98 = .ok (.sipush 2304, 3) := dk_17 9 0 (dk_at dksX5_init_4 4 rfl rfl)
theorem dX5_init_101 : decode cX5_init 101 = .ok (.newarray .int, 2) := dk_188_10 (dk_at dksX5_init_4 7 rfl rfl)
theorem dX5_init_103 : decode cX5_init 103 = .ok (.putfield 43, 3) := dk_181 0 43 (dk_at dksX5_init_4 9 rfl rfl)
theorem dX5_init_106 : decode cX5_init 106 = .ok (.aload_n 0, 1) := dk_42 (dk_at dksX5_init_4 12 rfl rfl)
theorem dX5_init_107 : decode cX5_init 107 = .ok (.sipush 2304, 3) := dk_17 9 0 (dk_at dksX5_init_4 13 rfl rfl)
theorem dX5_init_110 : decode cX5_init 110 = .ok (.newarray .int, 2) := dk_188_10 (dk_at dksX5_init_4 16 rfl rfl)
theorem dX5_init_112 : decode cX5_init 112 = .ok (.putfield 46, 3) := dk_181 0 46 (dk_at dksX5_init_4 18 rfl rfl)
theorem dX5_init_115 : decode cX5_init 115 = .ok (.aload_n 0, 1) := dk_42 (dk_at dksX5_init_4 21 rfl rfl)
theorem dX5_init_116 : decode cX5_init 116 = .ok (.sipush 2304, 3) := dk_17 9 0 (dk_at dksX5_init_5 0 rfl rfl)
theorem dX5_init_119 : decode cX5_init 119 = .ok (.newarray .int, 2) := dk_188_10 (dk_at dksX5_init_5 3 rfl rfl)
theorem dX5_init_121 : decode cX5_init 121 = .ok (.putfield 49, 3) := dk_181 0 49 (dk_at dksX5_init_5 5 rfl rfl)
theorem dX5_init_124 : decode cX5_init 124 = .ok (.aload_n 0, 1) := dk_42 (dk_at dksX5_init_5 8 rfl rfl)
theorem dX5_init_125 : decode cX5_init 125 = .ok (.sipush 2304, 3) := dk_17 9 0 (dk_at dksX5_init_5 9 rfl rfl)
theorem dX5_init_128 : decode cX5_init 128 = .ok (.newarray .int, 2) := dk_188_10 (dk_at dksX5_init_5 12 rfl rfl)
theorem dX5_init_130 : decode cX5_init 130 = .ok (.putfield 52, 3) := dk_181 0 52 (dk_at dksX5_init_5 14 rfl rfl)
theorem dX5_init_133 : decode cX5_init 133 = .ok (.aload_n 0, 1) := dk_42 (dk_at dksX5_init_5 17 rfl rfl)
theorem dX5_init_134 : decode cX5_init 134 = .ok (.sipush 2304, 3) := dk_17 9 0 (dk_at dksX5_init_5 18 rfl rfl)
theorem dX5_init_137 : decode cX5_init 137 = .ok (.newarray .int, 2) := dk_188_10 (dk_at dksX5_init_5 21 rfl rfl)
theorem dX5_init_139 : decode cX5_init 139 = .ok (.putfield 55, 3) := dk_181 0 55 (dk_at dksX5_init_6 0 rfl rfl)
theorem dX5_init_142 : decode cX5_init 142 = .ok (.aload_n 0, 1) := dk_42 (dk_at dksX5_init_6 3 rfl rfl)
theorem dX5_init_143 : decode cX5_init 143 = .ok (.sipush 2304, 3) := dk_17 9 0 (dk_at dksX5_init_6 4 rfl rfl)
theorem dX5_init_146 : decode cX5_init 146 = .ok (.newarray .int, 2) := dk_188_10 (dk_at dksX5_init_6 7 rfl rfl)
theorem dX5_init_148 : decode cX5_init 148 = .ok (.putfield 58, 3) := dk_181 0 58 (dk_at dksX5_init_6 9 rfl rfl)
theorem dX5_init_151 : decode cX5_init 151 = .ok (.aload_n 0, 1) := dk_42 (dk_at dksX5_init_6 12 rfl rfl)
theorem dX5_init_152 : decode cX5_init 152 = .ok (.sipush 2304, 3) := dk_17 9 0 (dk_at dksX5_init_6 13 rfl rfl)
theorem dX5_init_155 : decode cX5_init 155 = .ok (.newarray .int, 2) := dk_188_10 (dk_at dksX5_init_6 16 rfl rfl)
theorem dX5_init_157 : decode cX5_init 157 = .ok (.putfield 61, 3) := dk_181 0 61 (dk_at dksX5_init_6 18 rfl rfl)
theorem dX5_init_160 : decode cX5_init 160 = .ok (.aload_n 0, 1) := dk_42 (dk_at dksX5_init_6 21 rfl rfl)
theorem dX5_init_161 : decode cX5_init 161 = .ok (.sipush 2304, 3) := dk_17 9 0 (dk_at dksX5_init_7 0 rfl rfl)
theorem dX5_init_164 : decode cX5_init 164 = .ok (.newarray .int, 2) := dk_188_10 (dk_at dksX5_init_7 3 rfl rfl)
theorem dX5_init_166 : decode cX5_init 166 = .ok (.putfield 64, 3) := dk_181 0 64 (dk_at dksX5_init_7 5 rfl rfl)
theorem dX5_init_169 : decode cX5_init 169 = .ok (.aload_n 0, 1) := dk_42 (dk_at dksX5_init_7 8 rfl rfl)
theorem dX5_init_170 : decode cX5_init 170 = .ok (.sipush 600, 3) := dk_17 2 88 (dk_at dksX5_init_7 9 rfl rfl)
theorem dX5_init_173 : decode cX5_init 173 = .ok (.newarray .byte, 2) := dk_188_8 (dk_at dksX5_init_7 12 rfl rfl)
theorem dX5_init_175 : decode cX5_init 175 = .ok (.putfield 67, 3) := dk_181 0 67 (dk_at dksX5_init_7 14 rfl rfl)
theorem dX5_init_178 : decode cX5_init 178 = .ok (.aload_n 0, 1) := dk_42 (dk_at dksX5_init_7 17 rfl rfl)
theorem dX5_init_179 : decode cX5_init 179 = .ok (.iconst (-1), 1) := dk_2 (dk_at dksX5_init_7 18 rfl rfl)
theorem dX5_init_180 : decode cX5_init 180 = .ok (.putfield 71, 3) := dk_181 0 71 (dk_at dksX5_init_7 19 rfl rfl)
theorem dX5_init_183 : decode cX5_init 183 = .ok (.aload_n 0, 1) := dk_42 (dk_at dksX5_init_7 22 rfl rfl)
theorem dX5_init_184 : decode cX5_init 184 = .ok (.bipush 6, 2) := dk_16 6 (dk_at dksX5_init_8 0 rfl rfl)
theorem dX5_init_186 : decode cX5_init 186 = .ok (.newarray .int, 2) := dk_188_10 (dk_at dksX5_init_8 2 rfl rfl)
theorem dX5_init_188 : decode cX5_init 188 = .ok (.putfield 75, 3) := dk_181 0 75 (dk_at dksX5_init_8 4 rfl rfl)
theorem dX5_init_191 : decode cX5_init 191 = .ok (.aload_n 0, 1) := dk_42 (dk_at dksX5_init_8 7 rfl rfl)
theorem dX5_init_192 : decode cX5_init 192 = .ok (.bipush 6, 2) := dk_16 6 (dk_at dksX5_init_8 8 rfl rfl)
theorem dX5_init_194 : decode cX5_init 194 = .ok (.newarray .int, 2) := dk_188_10 (dk_at dksX5_init_8 10 rfl rfl)
theorem dX5_init_196 : decode cX5_init 196 = .ok (.putfield 78, 3) := dk_181 0 78 (dk_at dksX5_init_8 12 rfl rfl)
theorem dX5_init_199 : decode cX5_init 199 = .ok (.aload_n 0, 1) := dk_42 (dk_at dksX5_init_8 15 rfl rfl)
theorem dX5_init_200 : decode cX5_init 200 = .ok (.bipush 96, 2) := dk_16 96 (dk_at dksX5_init_8 16 rfl rfl)
theorem dX5_init_202 : decode cX5_init 202 = .ok (.newarray .boolean, 2) := dk_188_4 (dk_at dksX5_init_8 18 rfl rfl)
theorem dX5_init_204 : decode cX5_init 204 = .ok (.putfield 81, 3) := dk_181 0 81 (dk_at dksX5_init_8 20 rfl rfl)
theorem dX5_init_207 : decode cX5_init 207 = .ok (.aload_n 0, 1) := dk_42 (dk_at dksX5_init_8 23 rfl rfl)
theorem dX5_init_208 : decode cX5_init 208 = .ok (.bipush 96, 2) := dk_16 96 (dk_at dksX5_init_9 0 rfl rfl)
theorem dX5_init_210 : decode cX5_init 210 = .ok (.newarray .boolean, 2) := dk_188_4 (dk_at dksX5_init_9 2 rfl rfl)
theorem dX5_init_212 : decode cX5_init 212 = .ok (.putfield 85, 3) := dk_181 0 85 (dk_at dksX5_init_9 4 rfl rfl)
theorem dX5_init_215 : decode cX5_init 215 = .ok (.aload_n 0, 1) := dk_42 (dk_at dksX5_init_9 7 rfl rfl)
theorem dX5_init_216 : decode cX5_init 216 = .ok (.bipush 96, 2) := dk_16 96 (dk_at dksX5_init_9 8 rfl rfl)
theorem dX5_init_218 : decode cX5_init 218 = .ok (.newarray .int, 2) := dk_188_10 (dk_at dksX5_init_9 10 rfl rfl)
theorem dX5_init_220 : decode cX5_init 220 = .ok (.putfield 88, 3) := dk_181 0 88 (dk_at dksX5_init_9 12 rfl rfl)
theorem dX5_init_223 : decode cX5_init 223 = .ok (.aload_n 0, 1) := dk_42 (dk_at dksX5_init_9 15 rfl rfl)
theorem dX5_init_224 : decode cX5_init 224 = .ok (.sipush 1600, 3) := dk_17 6 64 (dk_at dksX5_init_9 16 rfl rfl)
theorem dX5_init_227 : decode cX5_init 227 = .ok (.newarray .int, 2) := dk_188_10 (dk_at dksX5_init_9 19 rfl rfl)
theorem dX5_init_229 : decode cX5_init 229 = .ok (.putfield 91, 3) := dk_181 0 91 (dk_at dksX5_init_9 21 rfl rfl)
theorem dX5_init_232 : decode cX5_init 232 = .ok (.aload_n 0, 1) := dk_42 (dk_at dksX5_init_10 0 rfl rfl)
theorem dX5_init_233 : decode cX5_init 233 = .ok (.bipush 8, 2) := dk_16 8 (dk_at dksX5_init_10 1 rfl rfl)
theorem dX5_init_235 : decode cX5_init 235 = .ok (.newarray .int, 2) := dk_188_10 (dk_at dksX5_init_10 3 rfl rfl)
theorem dX5_init_237 : decode cX5_init 237 = .ok (.putfield 94, 3) := dk_181 0 94 (dk_at dksX5_init_10 5 rfl rfl)
theorem dX5_init_240 : decode cX5_init 240 = .ok (.aload_n 0, 1) := dk_42 (dk_at dksX5_init_10 8 rfl rfl)
theorem dX5_init_241 : decode cX5_init 241 = .ok (.sipush 256, 3) := dk_17 1 0 (dk_at dksX5_init_10 9 rfl rfl)
theorem dX5_init_244 : decode cX5_init 244 = .ok (.newarray .int, 2) := dk_188_10 (dk_at dksX5_init_10 12 rfl rfl)
theorem dX5_init_246 : decode cX5_init 246 = .ok (.putfield 97, 3) := dk_181 0 97 (dk_at dksX5_init_10 14 rfl rfl)
theorem dX5_init_249 : decode cX5_init 249 = .ok (.aload_n 0, 1) := dk_42 (dk_at dksX5_init_10 17 rfl rfl)
theorem dX5_init_250 : decode cX5_init 250 = .ok (.sipush 256, 3) := dk_17 1 0 (dk_at dksX5_init_10 18 rfl rfl)
theorem dX5_init_253 : decode cX5_init 253 = .ok (.newarray .int, 2) := dk_188_10 (dk_at dksX5_init_10 21 rfl rfl)
theorem dX5_init_255 : decode cX5_init 255 = .ok (.putfield 100, 3) := dk_181 0 100 (dk_at dksX5_init_11 0 rfl rfl)
theorem dX5_init_258 : decode cX5_init 258 = .ok (.aload_n 0, 1) := dk_42 (dk_at dksX5_init_11 3 rfl rfl)
theorem dX5_init_259 : decode cX5_init 259 = .ok (.sipush 256, 3) := dk_17 1 0 (dk_at dksX5_init_11 4 rfl rfl)
theorem dX5_init_262 : decode cX5_init 262 = .ok (.newarray .int, 2) := dk_188_10 (dk_at dksX5_init_11 7 rfl rfl)
theorem dX5_init_264 : decode cX5_init 264 = .ok (.putfield 103, 3) := dk_181 0 103 (dk_at dksX5_init_11 9 rfl rfl)
theorem dX5_init_267 : decode cX5_init 267 = .ok (.aload_n 0, 1) := dk_42 (dk_at dksX5_init_11 12 rfl rfl)
theorem dX5_init_268 : decode cX5_init 268 = .ok (.sipush 256, 3) := dk_17 1 0 (dk_at dksX5_init_11 13 rfl rfl)
theorem dX5_init_271 : decode cX5_init 271 = .ok (.newarray .int, 2) := dk_188_10 (dk_at dksX5_init_11 16 rfl rfl)
theorem dX5_init_273 : decode cX5_init 273 = .ok (.putfield 106, 3) := dk_181 0 106 (dk_at dksX5_init_11 18 rfl rfl)
theorem dX5_init_276 : decode cX5_init 276 = .ok (.aload_n 0, 1) := dk_42 (dk_at dksX5_init_11 21 rfl rfl)
theorem dX5_init_277 : decode cX5_init 277 = .ok (.sipush 256, 3) := dk_17 1 0 (dk_at dksX5_init_12 0 rfl rfl)
theorem dX5_init_280 : decode cX5_init 280 = .ok (.newarray .long, 2) := dk_188_11 (dk_at dksX5_init_12 3 rfl rfl)
theorem dX5_init_282 : decode cX5_init 282 = .ok (.putfield 109, 3) := dk_181 0 109 (dk_at dksX5_init_12 5 rfl rfl)
theorem dX5_init_285 : decode cX5_init 285 = .ok (.aload_n 0, 1) := dk_42 (dk_at dksX5_init_12 8 rfl rfl)
theorem dX5_init_286 : decode cX5_init 286 = .ok (.bipush 6, 2) := dk_16 6 (dk_at dksX5_init_12 9 rfl rfl)
theorem dX5_init_288 : decode cX5_init 288 = .ok (.newarray .int, 2) := dk_188_10 (dk_at dksX5_init_12 11 rfl rfl)
theorem dX5_init_290 : decode cX5_init 290 = .ok (.putfield 113, 3) := dk_181 0 113 (dk_at dksX5_init_12 13 rfl rfl)
theorem dX5_init_293 : decode cX5_init 293 = .ok (.aload_n 0, 1) := dk_42 (dk_at dksX5_init_12 16 rfl rfl)
theorem dX5_init_294 : decode cX5_init 294 = .ok (.bipush 6, 2) := dk_16 6 (dk_at dksX5_init_12 17 rfl rfl)
theorem dX5_init_296 : decode cX5_init 296 = .ok (.newarray .int, 2) := dk_188_10 (dk_at dksX5_init_12 19 rfl rfl)
theorem dX5_init_298 : decode cX5_init 298 = .ok (.putfield 116, 3) := dk_181 0 116 (dk_at dksX5_init_12 21 rfl rfl)
theorem dX5_init_301 : decode cX5_init 301 = .ok (.aload_n 0, 1) := dk_42 (dk_at dksX5_init_13 0 rfl rfl)
theorem dX5_init_302 : decode cX5_init 302 = .ok (.sipush 256, 3) := dk_17 1 0 (dk_at dksX5_init_13 1 rfl rfl)
theorem dX5_init_305 : decode cX5_init 305 = .ok (.newarray .int, 2) := dk_188_10 (dk_at dksX5_init_13 4 rfl rfl)
theorem dX5_init_307 : decode cX5_init 307 = .ok (.putfield 119, 3) := dk_181 0 119 (dk_at dksX5_init_13 6 rfl rfl)
theorem dX5_init_310 : decode cX5_init 310 = .ok (.aload_n 0, 1) := dk_42 (dk_at dksX5_init_13 9 rfl rfl)
theorem dX5_init_311 : decode cX5_init 311 = .ok (.bipush 8, 2) := dk_16 8 (dk_at dksX5_init_13 10 rfl rfl)
theorem dX5_init_313 : decode cX5_init 313 = .ok (.newarray .boolean, 2) := dk_188_4 (dk_at dksX5_init_13 12 rfl rfl)
theorem dX5_init_315 : decode cX5_init 315 = .ok (.putfield 122, 3) := dk_181 0 122 (dk_at dksX5_init_13 14 rfl rfl)
theorem dX5_init_318 : decode cX5_init 318 = .ok (.aload_n 0, 1) := dk_42 (dk_at dksX5_init_13 17 rfl rfl)
theorem dX5_init_319 : decode cX5_init 319 = .ok (.bipush 8, 2) := dk_16 8 (dk_at dksX5_init_13 18 rfl rfl)
theorem dX5_init_321 : decode cX5_init 321 = .ok (.newarray .long, 2) := dk_188_11 (dk_at dksX5_init_13 20 rfl rfl)
theorem dX5_init_323 : decode cX5_init 323 = .ok (.putfield 125, 3) := dk_181 0 125 (dk_at dksX5_init_14 0 rfl rfl)
theorem dX5_init_326 : decode cX5_init 326 = .ok (.aload_n 0, 1) := dk_42 (dk_at dksX5_init_14 3 rfl rfl)
theorem dX5_init_327 : decode cX5_init 327 = .ok (.bipush 8, 2) := dk_16 8 (dk_at dksX5_init_14 4 rfl rfl)
theorem dX5_init_329 : decode cX5_init 329 = .ok (.newarray .int, 2) := dk_188_10 (dk_at dksX5_init_14 6 rfl rfl)
theorem dX5_init_331 : decode cX5_init 331 = .ok (.putfield 128, 3) := dk_181 0 128 (dk_at dksX5_init_14 8 rfl rfl)
theorem dX5_init_334 : decode cX5_init 334 = .ok (.aload_n 0, 1) := dk_42 (dk_at dksX5_init_14 11 rfl rfl)
theorem dX5_init_335 : decode cX5_init 335 = .ok (.bipush 8, 2) := dk_16 8 (dk_at dksX5_init_14 12 rfl rfl)
theorem dX5_init_337 : decode cX5_init 337 = .ok (.newarray .int, 2) := dk_188_10 (dk_at dksX5_init_14 14 rfl rfl)
theorem dX5_init_339 : decode cX5_init 339 = .ok (.putfield 131, 3) := dk_181 0 131 (dk_at dksX5_init_14 16 rfl rfl)
theorem dX5_init_342 : decode cX5_init 342 = .ok (.aload_n 0, 1) := dk_42 (dk_at dksX5_init_14 19 rfl rfl)
theorem dX5_init_343 : decode cX5_init 343 = .ok (.bipush 6, 2) := dk_16 6 (dk_at dksX5_init_14 20 rfl rfl)
theorem dX5_init_345 : decode cX5_init 345 = .ok (.newarray .int, 2) := dk_188_10 (dk_at dksX5_init_14 22 rfl rfl)
theorem dX5_init_347 : decode cX5_init 347 = .ok (.putfield 134, 3) := dk_181 0 134 (dk_at dksX5_init_15 0 rfl rfl)
theorem dX5_init_350 : decode cX5_init 350 = .ok (.aload_n 0, 1) := dk_42 (dk_at dksX5_init_15 3 rfl rfl)
theorem dX5_init_351 : decode cX5_init 351 = .ok (.bipush 12, 2) := dk_16 12 (dk_at dksX5_init_15 4 rfl rfl)
theorem dX5_init_353 : decode cX5_init 353 = .ok (.newarray .int, 2) := dk_188_10 (dk_at dksX5_init_15 6 rfl rfl)
theorem dX5_init_355 : decode cX5_init 355 = .ok (.putfield 137, 3) := dk_181 0 137 (dk_at dksX5_init_15 8 rfl rfl)
theorem dX5_init_358 : decode cX5_init 358 = .ok (.aload_n 0, 1) := dk_42 (dk_at dksX5_init_15 11 rfl rfl)
theorem dX5_init_359 : decode cX5_init 359 = .ok (.sipush 240, 3) := dk_17 0 240 (dk_at dksX5_init_15 12 rfl rfl)
theorem dX5_init_362 : decode cX5_init 362 = .ok (.newarray .int, 2) := dk_188_10 (dk_at dksX5_init_15 15 rfl rfl)
theorem dX5_init_364 : decode cX5_init 364 = .ok (.putfield 140, 3) := dk_181 0 140 (dk_at dksX5_init_15 17 rfl rfl)
theorem dX5_init_367 : decode cX5_init 367 = .ok (.aload_n 0, 1) := dk_42 (dk_at dksX5_init_15 20 rfl rfl)
theorem dX5_init_368 : decode cX5_init 368 = .ok (.sipush 240, 3) := dk_17 0 240 (dk_at dksX5_init_15 21 rfl rfl)
theorem dX5_init_371 : decode cX5_init 371 = .ok (.newarray .int, 2) := dk_188_10 (dk_at dksX5_init_16 0 rfl rfl)
theorem dX5_init_373 : decode cX5_init 373 = .ok (.putfield 143, 3) := dk_181 0 143 (dk_at dksX5_init_16 2 rfl rfl)
theorem dX5_init_376 : decode cX5_init 376 = .ok (.aload_n 0, 1) := dk_42 (dk_at dksX5_init_16 5 rfl rfl)
theorem dX5_init_377 : decode cX5_init 377 = .ok (.sipush 240, 3) := dk_17 0 240 (dk_at dksX5_init_16 6 rfl rfl)
theorem dX5_init_380 : decode cX5_init 380 = .ok (.newarray .int, 2) := dk_188_10 (dk_at dksX5_init_16 9 rfl rfl)
theorem dX5_init_382 : decode cX5_init 382 = .ok (.putfield 146, 3) := dk_181 0 146 (dk_at dksX5_init_16 11 rfl rfl)
theorem dX5_init_385 : decode cX5_init 385 = .ok (.aload_n 0, 1) := dk_42 (dk_at dksX5_init_16 14 rfl rfl)
theorem dX5_init_386 : decode cX5_init 386 = .ok (.sipush 240, 3) := dk_17 0 240 (dk_at dksX5_init_16 15 rfl rfl)
theorem dX5_init_389 : decode cX5_init 389 = .ok (.newarray .int, 2) := dk_188_10 (dk_at dksX5_init_16 18 rfl rfl)
theorem dX5_init_391 : decode cX5_init 391 = .ok (.putfield 149, 3) := dk_181 0 149 (dk_at dksX5_init_16 20 rfl rfl)
theorem dX5_init_394 : decode cX5_init 394 = .ok (.aload_n 0, 1) := dk_42 (dk_at dksX5_init_16 23 rfl rfl)
theorem dX5_init_395 : decode cX5_init 395 = .ok (.sipush 240, 3) := dk_17 0 240 (dk_at dksX5_init_17 0 rfl rfl)
theorem dX5_init_398 : decode cX5_init 398 = .ok (.newarray .int, 2) := dk_188_10 (dk_at dksX5_init_17 3 rfl rfl)
theorem dX5_init_400 : decode cX5_init 400 = .ok (.putfield 152, 3) := dk_181 0 152 (dk_at dksX5_init_17 5 rfl rfl)
theorem dX5_init_403 : decode cX5_init 403 = .ok (.aload_n 0, 1) := dk_42 (dk_at dksX5_init_17 8 rfl rfl)
theorem dX5_init_404 : decode cX5_init 404 = .ok (.sipush 240, 3) := dk_17 0 240 (dk_at dksX5_init_17 9 rfl rfl)
theorem dX5_init_407 : decode cX5_init 407 = .ok (.newarray .int, 2) := dk_188_10 (dk_at dksX5_init_17 12 rfl rfl)
theorem dX5_init_409 : decode cX5_init 409 = .ok (.putfield 155, 3) := dk_181 0 155 (dk_at dksX5_init_17 14 rfl rfl)
theorem dX5_init_412 : decode cX5_init 412 = .ok (.aload_n 0, 1) := dk_42 (dk_at dksX5_init_17 17 rfl rfl)
theorem dX5_init_413 : decode cX5_init 413 = .ok (.sipush 240, 3) := dk_17 0 240 (dk_at dksX5_init_17 18 rfl rfl)
theorem dX5_init_416 : decode cX5_init 416 = .ok (.newarray .boolean, 2) := dk_188_4 (dk_at dksX5_init_17 21 rfl rfl)
theorem dX5_init_418 : decode cX5_init 418 = .ok (.putfield 158, 3) := dk_181 0 158 (dk_at dksX5_init_18 0 rfl rfl)
theorem dX5_init_421 : decode cX5_init 421 = .ok (.aload_n 0, 1) := dk_42 (dk_at dksX5_init_18 3 rfl rfl)
theorem dX5_init_422 : decode cX5_init 422 = .ok (.bipush 72, 2) := dk_16 72 (dk_at dksX5_init_18 4 rfl rfl)
theorem dX5_init_424 : decode cX5_init 424 = .ok (.newarray .int, 2) := dk_188_10 (dk_at dksX5_init_18 6 rfl rfl)
theorem dX5_init_426 : decode cX5_init 426 = .ok (.putfield 161, 3) := dk_181 0 161 (dk_at dksX5_init_18 8 rfl rfl)
theorem dX5_init_429 : decode cX5_init 429 = .ok (.aload_n 0, 1) := dk_42 (dk_at dksX5_init_18 11 rfl rfl)
theorem dX5_init_430 : decode cX5_init 430 = .ok (.bipush 72, 2) := dk_16 72 (dk_at dksX5_init_18 12 rfl rfl)
theorem dX5_init_432 : decode cX5_init 432 = .ok (.newarray .int, 2) := dk_188_10 (dk_at dksX5_init_18 14 rfl rfl)
theorem dX5_init_434 : decode cX5_init 434 = .ok (.putfield 164, 3) := dk_181 0 164 (dk_at dksX5_init_18 16 rfl rfl)
theorem dX5_init_437 : decode cX5_init 437 = .ok (.aload_n 0, 1) := dk_42 (dk_at dksX5_init_18 19 rfl rfl)
theorem dX5_init_438 : decode cX5_init 438 = .ok (.bipush 10, 2) := dk_16 10 (dk_at dksX5_init_18 20 rfl rfl)
theorem dX5_init_440 : decode cX5_init 440 = .ok (.newarray .int, 2) := dk_188_10 (dk_at dksX5_init_18 22 rfl rfl)
theorem dX5_init_442 : decode cX5_init 442 = .ok (.putfield 167, 3) := dk_181 0 167 (dk_at dksX5_init_19 0 rfl rfl)
theorem dX5_init_445 : decode cX5_init 445 = .ok (.aload_n 0, 1) := dk_42 (dk_at dksX5_init_19 3 rfl rfl)
theorem dX5_init_446 : decode cX5_init 446 = .ok (.sipush 1024, 3) := dk_17 4 0 (dk_at dksX5_init_19 4 rfl rfl)
theorem dX5_init_449 : decode cX5_init 449 = .ok (.newarray .int, 2) := dk_188_10 (dk_at dksX5_init_19 7 rfl rfl)
theorem dX5_init_451 : decode cX5_init 451 = .ok (.putfield 170, 3) := dk_181 0 170 (dk_at dksX5_init_19 9 rfl rfl)
theorem dX5_init_454 : decode cX5_init 454 = .ok (.aload_n 0, 1) := dk_42 (dk_at dksX5_init_19 12 rfl rfl)
theorem dX5_init_455 : decode cX5_init 455 = .ok (.bipush 6, 2) := dk_16 6 (dk_at dksX5_init_19 13 rfl rfl)
theorem dX5_init_457 : decode cX5_init 457 = .ok (.newarray .int, 2) := dk_188_10 (dk_at dksX5_init_19 15 rfl rfl)
theorem dX5_init_459 : decode cX5_init 459 = .ok (.putfield 173, 3) := dk_181 0 173 (dk_at dksX5_init_19 17 rfl rfl)
theorem dX5_init_462 : decode cX5_init 462 = .ok (.aload_n 0, 1) := dk_42 (dk_at dksX5_init_19 20 rfl rfl)
theorem dX5_init_463 : decode cX5_init 463 = .ok (.bipush 36, 2) := dk_16 36 (dk_at dksX5_init_19 21 rfl rfl)
theorem dX5_init_465 : decode cX5_init 465 = .ok (.newarray .int, 2) := dk_188_10 (dk_at dksX5_init_20 0 rfl rfl)
theorem dX5_init_467 : decode cX5_init 467 = .ok (.putfield 176, 3) := dk_181 0 176 (dk_at dksX5_init_20 2 rfl rfl)
theorem dX5_init_470 : decode cX5_init 470 = .ok (.aload_n 0, 1) := dk_42 (dk_at dksX5_init_20 5 rfl rfl)
theorem dX5_init_471 : decode cX5_init 471 = .ok (.bipush 48, 2) := dk_16 48 (dk_at dksX5_init_20 6 rfl rfl)
theorem dX5_init_473 : decode cX5_init 473 = .ok (.newarray .long, 2) := dk_188_11 (dk_at dksX5_init_20 8 rfl rfl)
theorem dX5_init_475 : decode cX5_init 475 = .ok (.putfield 179, 3) := dk_181 0 179 (dk_at dksX5_init_20 10 rfl rfl)
theorem dX5_init_478 : decode cX5_init 478 = .ok (.aload_n 0, 1) := dk_42 (dk_at dksX5_init_20 13 rfl rfl)
theorem dX5_init_479 : decode cX5_init 479 = .ok (.bipush 24, 2) := dk_16 24 (dk_at dksX5_init_20 14 rfl rfl)
theorem dX5_init_481 : decode cX5_init 481 = .ok (.newarray .int, 2) := dk_188_10 (dk_at dksX5_init_20 16 rfl rfl)
theorem dX5_init_483 : decode cX5_init 483 = .ok (.putfield 182, 3) := dk_181 0 182 (dk_at dksX5_init_20 18 rfl rfl)
theorem dX5_init_486 : decode cX5_init 486 = .ok (.iconst 0, 1) := dk_3 (dk_at dksX5_init_20 21 rfl rfl)
theorem dX5_init_487 : decode cX5_init 487 = .ok (.istore_n 1, 1) := dk_60 (dk_at dksX5_init_20 22 rfl rfl)
theorem dX5_init_488 : decode cX5_init 488 = .ok (.iload_n 1, 1) := dk_27 (dk_at dksX5_init_20 23 rfl rfl)
theorem dX5_init_489 : decode cX5_init 489 = .ok (.bipush 8, 2) := dk_16 8 (dk_at dksX5_init_21 0 rfl rfl)
theorem dX5_init_491 : decode cX5_init 491 = .ok (.if_icmp .ge 16, 3) := dk_162 0 16 (dk_at dksX5_init_21 2 rfl rfl)
theorem dX5_init_494 : decode cX5_init 494 = .ok (.aload_n 0, 1) := dk_42 (dk_at dksX5_init_21 5 rfl rfl)
theorem dX5_init_495 : decode cX5_init 495 = .ok (.getfield 7, 3) := dk_180 0 7 (dk_at dksX5_init_21 6 rfl rfl)
theorem dX5_init_498 : decode cX5_init 498 = .ok (.iload_n 1, 1) := dk_27 (dk_at dksX5_init_21 9 rfl rfl)
theorem dX5_init_499 : decode cX5_init 499 = .ok (.iload_n 1, 1) := dk_27 (dk_at dksX5_init_21 10 rfl rfl)
theorem dX5_init_500 : decode cX5_init 500 = .ok (.iastore, 1) := dk_79 (dk_at dksX5_init_21 11 rfl rfl)
theorem dX5_init_501 : decode cX5_init 501 = .ok (.iinc 1 1, 3) := dk_132 1 1 (dk_at dksX5_init_21 12 rfl rfl)
theorem dX5_init_504 : decode cX5_init 504 = .ok (.goto (-16), 3) := dk_167 255 240 (dk_at dksX5_init_21 15 rfl rfl)
theorem dX5_init_507 : decode cX5_init 507 = .ok (.return_, 1) := dk_177 (dk_at dksX5_init_21 18 rfl rfl)
abbrev cX5_family : ByteArray := prog_24_method_4_code
def yX5_family : MethodName := ⟨RX5, "family", "(II)Z"⟩
def dkwX5_family_1 : List UInt8 := [180, 0, 7, 27, 28, 79, 4, 172]
abbrev dktX5_family_1 : List UInt8 := dkwX5_family_1 ++ []
def dkwX5_family_0 : List UInt8 := [27, 3, 16, 7, 184, 0, 185, 153, 0, 13, 28, 3, 16, 7, 184, 0, 185, 154, 0, 5, 3, 172, 42]
abbrev dktX5_family_0 : List UInt8 := dkwX5_family_0 ++ dktX5_family_1
theorem dksX5_family_0 : cX5_family.data.toList.drop 0 = dktX5_family_0 := by decide +kernel
theorem dksX5_family_1 : cX5_family.data.toList.drop 23 = dktX5_family_1 := dk_seg dksX5_family_0 23 rfl rfl
theorem dX5_family_0 : decode cX5_family 0 = .ok (.iload_n 1, 1) := dk_27 (dk_at dksX5_family_0 0 rfl rfl)
theorem dX5_family_1 : decode cX5_family 1 = .ok (.iconst 0, 1) := dk_3 (dk_at dksX5_family_0 1 rfl rfl)
theorem dX5_family_2 : decode cX5_family 2 = .ok (.bipush 7, 2) := dk_16 7 (dk_at dksX5_family_0 2 rfl rfl)
theorem dX5_family_4 : decode cX5_family 4 = .ok (.invokestatic 185, 3) := dk_184 0 185 (dk_at dksX5_family_0 4 rfl rfl)
theorem dX5_family_7 : decode cX5_family 7 = .ok (.ifCond .eq 13, 3) := dk_153 0 13 (dk_at dksX5_family_0 7 rfl rfl)
theorem dX5_family_10 : decode cX5_family 10 = .ok (.iload_n 2, 1) := dk_28 (dk_at dksX5_family_0 10 rfl rfl)
theorem dX5_family_11 : decode cX5_family 11 = .ok (.iconst 0, 1) := dk_3 (dk_at dksX5_family_0 11 rfl rfl)
theorem dX5_family_12 : decode cX5_family 12 = .ok (.bipush 7, 2) := dk_16 7 (dk_at dksX5_family_0 12 rfl rfl)
theorem dX5_family_14 : decode cX5_family 14 = .ok (.invokestatic 185, 3) := dk_184 0 185 (dk_at dksX5_family_0 14 rfl rfl)
theorem dX5_family_17 : decode cX5_family 17 = .ok (.ifCond .ne 5, 3) := dk_154 0 5 (dk_at dksX5_family_0 17 rfl rfl)
theorem dX5_family_20 : decode cX5_family 20 = .ok (.iconst 0, 1) := dk_3 (dk_at dksX5_family_0 20 rfl rfl)
theorem dX5_family_21 : decode cX5_family 21 = .ok (.ireturn, 1) := dk_172 (dk_at dksX5_family_0 21 rfl rfl)
theorem dX5_family_22 : decode cX5_family 22 = .ok (.aload_n 0, 1) := dk_42 (dk_at dksX5_family_0 22 rfl rfl)
theorem dX5_family_23 : decode cX5_family 23 = .ok (.getfield 7, 3) := dk_180 0 7 (dk_at dksX5_family_1 0 rfl rfl)
theorem dX5_family_26 : decode cX5_family 26 = .ok (.iload_n 1, 1) := dk_27 (dk_at dksX5_family_1 3 rfl rfl)
theorem dX5_family_27 : decode cX5_family 27 = .ok (.iload_n 2, 1) := dk_28 (dk_at dksX5_family_1 4 rfl rfl)
theorem dX5_family_28 : decode cX5_family 28 = .ok (.iastore, 1) := dk_79 (dk_at dksX5_family_1 5 rfl rfl)
theorem dX5_family_29 : decode cX5_family 29 = .ok (.iconst 1, 1) := dk_4 (dk_at dksX5_family_1 6 rfl rfl)
theorem dX5_family_30 : decode cX5_family 30 = .ok (.ireturn, 1) := dk_172 (dk_at dksX5_family_1 7 rfl rfl)
abbrev cX5_within : ByteArray := prog_24_method_3_code
def yX5_within : MethodName := ⟨RX5, "within", "(III)Z"⟩
def dkwX5_within_0 : List UInt8 := [26, 27, 161, 0, 12, 26, 28, 163, 0, 7, 4, 167, 0, 4, 3, 172]
abbrev dktX5_within_0 : List UInt8 := dkwX5_within_0 ++ []
theorem dksX5_within_0 : cX5_within.data.toList.drop 0 = dktX5_within_0 := by decide +kernel
theorem dX5_within_0 : decode cX5_within 0 = .ok (.iload_n 0, 1) := dk_26 (dk_at dksX5_within_0 0 rfl rfl)
theorem dX5_within_1 : decode cX5_within 1 = .ok (.iload_n 1, 1) := dk_27 (dk_at dksX5_within_0 1 rfl rfl)
theorem dX5_within_2 : decode cX5_within 2 = .ok (.if_icmp .lt 12, 3) := dk_161 0 12 (dk_at dksX5_within_0 2 rfl rfl)
theorem dX5_within_5 : decode cX5_within 5 = .ok (.iload_n 0, 1) := dk_26 (dk_at dksX5_within_0 5 rfl rfl)
theorem dX5_within_6 : decode cX5_within 6 = .ok (.iload_n 2, 1) := dk_28 (dk_at dksX5_within_0 6 rfl rfl)
theorem dX5_within_7 : decode cX5_within 7 = .ok (.if_icmp .gt 7, 3) := dk_163 0 7 (dk_at dksX5_within_0 7 rfl rfl)
theorem dX5_within_10 : decode cX5_within 10 = .ok (.iconst 1, 1) := dk_4 (dk_at dksX5_within_0 10 rfl rfl)
theorem dX5_within_11 : decode cX5_within 11 = .ok (.goto 4, 3) := dk_167 0 4 (dk_at dksX5_within_0 11 rfl rfl)
theorem dX5_within_14 : decode cX5_within 14 = .ok (.iconst 0, 1) := dk_3 (dk_at dksX5_within_0 14 rfl rfl)
theorem dX5_within_15 : decode cX5_within 15 = .ok (.ireturn, 1) := dk_172 (dk_at dksX5_within_0 15 rfl rfl)
abbrev cX5_feed : ByteArray := prog_24_method_5_code
def yX5_feed : MethodName := ⟨RX5, "feed", "(IIIII)I"⟩
def dkwX5_feed_4 : List UInt8 := [122, 145, 84, 42, 89, 180, 0, 189, 4, 96, 181, 0, 189, 132, 6, 1, 167, 255, 165, 42, 180, 0, 189, 172]
abbrev dktX5_feed_4 : List UInt8 := dkwX5_feed_4 ++ []
def dkwX5_feed_3 : List UInt8 := [21, 5, 54, 7, 42, 180, 0, 67, 42, 180, 0, 189, 21, 7, 16, 24, 16, 8, 21, 6, 7, 112, 104, 100]
abbrev dktX5_feed_3 : List UInt8 := dkwX5_feed_3 ++ dktX5_feed_4
def dkwX5_feed_2 : List UInt8 := [21, 6, 16, 12, 162, 0, 7, 29, 167, 0, 17, 21, 6, 16, 16, 162, 0, 8, 21, 4, 167, 0, 5]
abbrev dktX5_feed_2 : List UInt8 := dkwX5_feed_2 ++ dktX5_feed_3
def dkwX5_feed_1 : List UInt8 := [162, 0, 90, 21, 6, 7, 162, 0, 7, 27, 167, 0, 39, 21, 6, 16, 8, 162, 0, 7, 28, 167, 0, 28]
abbrev dktX5_feed_1 : List UInt8 := dkwX5_feed_1 ++ dktX5_feed_2
def dkwX5_feed_0 : List UInt8 := [42, 180, 0, 189, 16, 20, 96, 17, 2, 88, 164, 0, 5, 2, 172, 3, 54, 6, 21, 6, 16, 20]
abbrev dktX5_feed_0 : List UInt8 := dkwX5_feed_0 ++ dktX5_feed_1
theorem dksX5_feed_0 : cX5_feed.data.toList.drop 0 = dktX5_feed_0 := by decide +kernel
theorem dksX5_feed_1 : cX5_feed.data.toList.drop 22 = dktX5_feed_1 := dk_seg dksX5_feed_0 22 rfl rfl
theorem dksX5_feed_2 : cX5_feed.data.toList.drop 46 = dktX5_feed_2 := dk_seg dksX5_feed_1 24 rfl rfl
theorem dksX5_feed_3 : cX5_feed.data.toList.drop 69 = dktX5_feed_3 := dk_seg dksX5_feed_2 23 rfl rfl
theorem dksX5_feed_4 : cX5_feed.data.toList.drop 93 = dktX5_feed_4 := dk_seg dksX5_feed_3 24 rfl rfl
theorem dX5_feed_0 : decode cX5_feed 0 = .ok (.aload_n 0, 1) := dk_42 (dk_at dksX5_feed_0 0 rfl rfl)
theorem dX5_feed_1 : decode cX5_feed 1 = .ok (.getfield 189, 3) := dk_180 0 189 (dk_at dksX5_feed_0 1 rfl rfl)
theorem dX5_feed_4 : decode cX5_feed 4 = .ok (.bipush 20, 2) := dk_16 20 (dk_at dksX5_feed_0 4 rfl rfl)
theorem dX5_feed_6 : decode cX5_feed 6 = .ok (.iadd, 1) := dk_96 (dk_at dksX5_feed_0 6 rfl rfl)
theorem dX5_feed_7 : decode cX5_feed 7 = .ok (.sipush 600, 3) := dk_17 2 88 (dk_at dksX5_feed_0 7 rfl rfl)
theorem dX5_feed_10 : decode cX5_feed 10 = .ok (.if_icmp .le 5, 3) := dk_164 0 5 (dk_at dksX5_feed_0 10 rfl rfl)
theorem dX5_feed_13 : decode cX5_feed 13 = .ok (.iconst (-1), 1) := dk_2 (dk_at dksX5_feed_0 13 rfl rfl)
theorem dX5_feed_14 : decode cX5_feed 14 = .ok (.ireturn, 1) := dk_172 (dk_at dksX5_feed_0 14 rfl rfl)
theorem dX5_feed_15 : decode cX5_feed 15 = .ok (.iconst 0, 1) := dk_3 (dk_at dksX5_feed_0 15 rfl rfl)
theorem dX5_feed_16 : decode cX5_feed 16 = .ok (.istore 6, 2) := dk_54 6 (dk_at dksX5_feed_0 16 rfl rfl)
theorem dX5_feed_18 : decode cX5_feed 18 = .ok (.iload 6, 2) := dk_21 6 (dk_at dksX5_feed_0 18 rfl rfl)
theorem dX5_feed_20 : decode cX5_feed 20 = .ok (.bipush 20, 2) := dk_16 20 (dk_at dksX5_feed_0 20 rfl rfl)
theorem dX5_feed_22 : decode cX5_feed 22 = .ok (.if_icmp .ge 90, 3) := dk_162 0 90 (dk_at dksX5_feed_1 0 rfl rfl)
theorem dX5_feed_25 : decode cX5_feed 25 = .ok (.iload 6, 2) := dk_21 6 (dk_at dksX5_feed_1 3 rfl rfl)
theorem dX5_feed_27 : decode cX5_feed 27 = .ok (.iconst 4, 1) := dk_7 (dk_at dksX5_feed_1 5 rfl rfl)
theorem dX5_feed_28 : decode cX5_feed 28 = .ok (.if_icmp .ge 7, 3) := dk_162 0 7 (dk_at dksX5_feed_1 6 rfl rfl)
theorem dX5_feed_31 : decode cX5_feed 31 = .ok (.iload_n 1, 1) := dk_27 (dk_at dksX5_feed_1 9 rfl rfl)
theorem dX5_feed_32 : decode cX5_feed 32 = .ok (.goto 39, 3) := dk_167 0 39 (dk_at dksX5_feed_1 10 rfl rfl)
theorem dX5_feed_35 : decode cX5_feed 35 = .ok (.iload 6, 2) := dk_21 6 (dk_at dksX5_feed_1 13 rfl rfl)
theorem dX5_feed_37 : decode cX5_feed 37 = .ok (.bipush 8, 2) := dk_16 8 (dk_at dksX5_feed_1 15 rfl rfl)
theorem dX5_feed_39 : decode cX5_feed 39 = .ok (.if_icmp .ge 7, 3) := dk_162 0 7 (dk_at dksX5_feed_1 17 rfl rfl)
theorem dX5_feed_42 : decode cX5_feed 42 = .ok (.iload_n 2, 1) := dk_28 (dk_at dksX5_feed_1 20 rfl rfl)
theorem dX5_feed_43 : decode cX5_feed 43 = .ok (.goto 28, 3) := dk_167 0 28 (dk_at dksX5_feed_1 21 rfl rfl)
theorem dX5_feed_46 : decode cX5_feed 46 = .ok (.iload 6, 2) := dk_21 6 (dk_at dksX5_feed_2 0 rfl rfl)
theorem dX5_feed_48 : decode cX5_feed 48 = .ok (.bipush 12, 2) := dk_16 12 (dk_at dksX5_feed_2 2 rfl rfl)
theorem dX5_feed_50 : decode cX5_feed 50 = .ok (.if_icmp .ge 7, 3) := dk_162 0 7 (dk_at dksX5_feed_2 4 rfl rfl)
theorem dX5_feed_53 : decode cX5_feed 53 = .ok (.iload_n 3, 1) := dk_29 (dk_at dksX5_feed_2 7 rfl rfl)
theorem dX5_feed_54 : decode cX5_feed 54 = .ok (.goto 17, 3) := dk_167 0 17 (dk_at dksX5_feed_2 8 rfl rfl)
theorem dX5_feed_57 : decode cX5_feed 57 = .ok (.iload 6, 2) := dk_21 6 (dk_at dksX5_feed_2 11 rfl rfl)
theorem dX5_feed_59 : decode cX5_feed 59 = .ok (.bipush 16, 2) := dk_16 16 (dk_at dksX5_feed_2 13 rfl rfl)
theorem dX5_feed_61 : decode cX5_feed 61 = .ok (.if_icmp .ge 8, 3) := dk_162 0 8 (dk_at dksX5_feed_2 15 rfl rfl)
theorem dX5_feed_64 : decode cX5_feed 64 = .ok (.iload 4, 2) := dk_21 4 (dk_at dksX5_feed_2 18 rfl rfl)
theorem dX5_feed_66 : decode cX5_feed 66 = .ok (.goto 5, 3) := dk_167 0 5 (dk_at dksX5_feed_2 20 rfl rfl)
theorem dX5_feed_69 : decode cX5_feed 69 = .ok (.iload 5, 2) := dk_21 5 (dk_at dksX5_feed_3 0 rfl rfl)
theorem dX5_feed_71 : decode cX5_feed 71 = .ok (.istore 7, 2) := dk_54 7 (dk_at dksX5_feed_3 2 rfl rfl)
theorem dX5_feed_73 : decode cX5_feed 73 = .ok (.aload_n 0, 1) := dk_42 (dk_at dksX5_feed_3 4 rfl rfl)
theorem dX5_feed_74 : decode cX5_feed 74 = .ok (.getfield 67, 3) := dk_180 0 67 (dk_at dksX5_feed_3 5 rfl rfl)
theorem dX5_feed_77 : decode cX5_feed 77 = .ok (.aload_n 0, 1) := dk_42 (dk_at dksX5_feed_3 8 rfl rfl)
theorem dX5_feed_78 : decode cX5_feed 78 = .ok (.getfield 189, 3) := dk_180 0 189 (dk_at dksX5_feed_3 9 rfl rfl)
theorem dX5_feed_81 : decode cX5_feed 81 = .ok (.iload 7, 2) := dk_21 7 (dk_at dksX5_feed_3 12 rfl rfl)
theorem dX5_feed_83 : decode cX5_feed 83 = .ok (.bipush 24, 2) := dk_16 24 (dk_at dksX5_feed_3 14 rfl rfl)
theorem dX5_feed_85 : decode cX5_feed 85 = .ok (.bipush 8, 2) := dk_16 8 (dk_at dksX5_feed_3 16 rfl rfl)
theorem dX5_feed_87 : decode cX5_feed 87 = .ok (.iload 6, 2) := dk_21 6 (dk_at dksX5_feed_3 18 rfl rfl)
theorem dX5_feed_89 : decode cX5_feed 89 = .ok (.iconst 4, 1) := dk_7 (dk_at dksX5_feed_3 20 rfl rfl)
theorem dX5_feed_90 : decode cX5_feed 90 = .ok (.irem, 1) := dk_112 (dk_at dksX5_feed_3 21 rfl rfl)
theorem dX5_feed_91 : decode cX5_feed 91 = .ok (.imul, 1) := dk_104 (dk_at dksX5_feed_3 22 rfl rfl)
theorem dX5_feed_92 : decode cX5_feed 92 = .ok (.isub, 1) := dk_100 (dk_at dksX5_feed_3 23 rfl rfl)
theorem dX5_feed_93 : decode cX5_feed 93 = .ok (.ishr, 1) := dk_122 (dk_at dksX5_feed_4 0 rfl rfl)
theorem dX5_feed_94 : decode cX5_feed 94 = .ok (.i2b, 1) := dk_145 (dk_at dksX5_feed_4 1 rfl rfl)
theorem dX5_feed_95 : decode cX5_feed 95 = .ok (.bastore, 1) := dk_84 (dk_at dksX5_feed_4 2 rfl rfl)
theorem dX5_feed_96 : decode cX5_feed 96 = .ok (.aload_n 0, 1) := dk_42 (dk_at dksX5_feed_4 3 rfl rfl)
theorem dX5_feed_97 : decode cX5_feed 97 = .ok (.dup, 1) := dk_89 (dk_at dksX5_feed_4 4 rfl rfl)
theorem dX5_feed_98 : decode cX5_feed 98 = .ok (.getfield 189, 3) := dk_180 0 189 (dk_at dksX5_feed_4 5 rfl rfl)
theorem dX5_feed_101 : decode cX5_feed 101 = .ok (.iconst 1, 1) := dk_4 (dk_at dksX5_feed_4 8 rfl rfl)
theorem dX5_feed_102 : decode cX5_feed 102 = .ok (.iadd, 1) := dk_96 (dk_at dksX5_feed_4 9 rfl rfl)
theorem dX5_feed_103 : decode cX5_feed 103 = .ok (.putfield 189, 3) := dk_181 0 189 (dk_at dksX5_feed_4 10 rfl rfl)
theorem dX5_feed_106 : decode cX5_feed 106 = .ok (.iinc 6 1, 3) := dk_132 6 1 (dk_at dksX5_feed_4 13 rfl rfl)
theorem dX5_feed_109 : decode cX5_feed 109 = .ok (.goto (-91), 3) := dk_167 255 165 (dk_at dksX5_feed_4 16 rfl rfl)
theorem dX5_feed_112 : decode cX5_feed 112 = .ok (.aload_n 0, 1) := dk_42 (dk_at dksX5_feed_4 19 rfl rfl)
theorem dX5_feed_113 : decode cX5_feed 113 = .ok (.getfield 189, 3) := dk_180 0 189 (dk_at dksX5_feed_4 20 rfl rfl)
theorem dX5_feed_116 : decode cX5_feed 116 = .ok (.ireturn, 1) := dk_172 (dk_at dksX5_feed_4 23 rfl rfl)
abbrev cX5_deal : ByteArray := prog_24_method_23_code
def yX5_deal : MethodName := ⟨RX5, "deal", "(II)I"⟩
def dkwX5_deal_9 : List UInt8 := [79, 42, 89, 180, 1, 76, 4, 96, 181, 1, 76, 42, 180, 1, 76, 4, 100, 172]
abbrev dktX5_deal_9 : List UInt8 := dkwX5_deal_9 ++ []
def dkwX5_deal_8 : List UInt8 := [180, 0, 22, 42, 180, 1, 76, 42, 180, 1, 59, 79, 42, 180, 0, 25, 42, 180, 1, 76, 42, 180, 1, 65]
abbrev dktX5_deal_8 : List UInt8 := dkwX5_deal_8 ++ dktX5_deal_9
def dkwX5_deal_7 : List UInt8 := [180, 0, 16, 42, 180, 1, 76, 28, 79, 42, 180, 0, 19, 42, 180, 1, 76, 42, 180, 1, 30, 79, 42]
abbrev dktX5_deal_7 : List UInt8 := dkwX5_deal_7 ++ dktX5_deal_8
def dkwX5_deal_6 : List UInt8 := [180, 0, 220, 153, 0, 5, 2, 172, 42, 180, 0, 13, 42, 180, 1, 76, 42, 180, 1, 24, 79, 42]
abbrev dktX5_deal_6 : List UInt8 := dkwX5_deal_6 ++ dktX5_deal_7
def dkwX5_deal_5 : List UInt8 := [21, 4, 182, 1, 86, 42, 182, 1, 89, 62, 167, 0, 9, 42, 21, 4, 182, 1, 93, 167, 255, 201, 42]
abbrev dktX5_deal_5 : List UInt8 := dkwX5_deal_5 ++ dktX5_deal_6
def dkwX5_deal_4 : List UInt8 := [182, 1, 83, 54, 4, 21, 4, 156, 0, 10, 42, 182, 0, 231, 167, 0, 29, 21, 4, 6, 163, 0, 17, 42]
abbrev dktX5_deal_4 : List UInt8 := dkwX5_deal_4 ++ dktX5_deal_5
def dkwX5_deal_3 : List UInt8 := [181, 1, 59, 42, 3, 181, 1, 65, 4, 62, 29, 153, 0, 57, 42, 180, 0, 220, 154, 0, 50, 42]
abbrev dktX5_deal_3 : List UInt8 := dkwX5_deal_3 ++ dktX5_deal_4
def dkwX5_deal_2 : List UInt8 := [180, 1, 76, 104, 181, 1, 21, 42, 3, 181, 1, 24, 42, 3, 181, 1, 27, 42, 3, 181, 1, 30, 42, 3]
abbrev dktX5_deal_2 : List UInt8 := dkwX5_deal_2 ++ dktX5_deal_3
def dkwX5_deal_1 : List UInt8 := [16, 254, 172, 42, 180, 1, 76, 16, 24, 160, 0, 6, 16, 253, 172, 42, 27, 182, 1, 79, 42, 16, 96, 42]
abbrev dktX5_deal_1 : List UInt8 := dkwX5_deal_1 ++ dktX5_deal_2
def dkwX5_deal_0 : List UInt8 := [27, 155, 0, 22, 27, 42, 180, 0, 189, 163, 0, 14, 28, 3, 17, 1, 143, 184, 0, 185, 154, 0, 6]
abbrev dktX5_deal_0 : List UInt8 := dkwX5_deal_0 ++ dktX5_deal_1
theorem dksX5_deal_0 : cX5_deal.data.toList.drop 0 = dktX5_deal_0 := by decide +kernel
theorem dksX5_deal_1 : cX5_deal.data.toList.drop 23 = dktX5_deal_1 := dk_seg dksX5_deal_0 23 rfl rfl
theorem dksX5_deal_2 : cX5_deal.data.toList.drop 47 = dktX5_deal_2 := dk_seg dksX5_deal_1 24 rfl rfl
theorem dksX5_deal_3 : cX5_deal.data.toList.drop 71 = dktX5_deal_3 := dk_seg dksX5_deal_2 24 rfl rfl
theorem dksX5_deal_4 : cX5_deal.data.toList.drop 93 = dktX5_deal_4 := dk_seg dksX5_deal_3 22 rfl rfl
theorem dksX5_deal_5 : cX5_deal.data.toList.drop 117 = dktX5_deal_5 := dk_seg dksX5_deal_4 24 rfl rfl
theorem dksX5_deal_6 : cX5_deal.data.toList.drop 140 = dktX5_deal_6 := dk_seg dksX5_deal_5 23 rfl rfl
theorem dksX5_deal_7 : cX5_deal.data.toList.drop 162 = dktX5_deal_7 := dk_seg dksX5_deal_6 22 rfl rfl
theorem dksX5_deal_8 : cX5_deal.data.toList.drop 185 = dktX5_deal_8 := dk_seg dksX5_deal_7 23 rfl rfl
theorem dksX5_deal_9 : cX5_deal.data.toList.drop 209 = dktX5_deal_9 := dk_seg dksX5_deal_8 24 rfl rfl
theorem dX5_deal_0 : decode cX5_deal 0 = .ok (.iload_n 1, 1) := dk_27 (dk_at dksX5_deal_0 0 rfl rfl)
theorem dX5_deal_1 : decode cX5_deal 1 = .ok (.ifCond .lt 22, 3) := dk_155 0 22 (dk_at dksX5_deal_0 1 rfl rfl)
theorem dX5_deal_4 : decode cX5_deal 4 = .ok (.iload_n 1, 1) := dk_27 (dk_at dksX5_deal_0 4 rfl rfl)
theorem dX5_deal_5 : decode cX5_deal 5 = .ok (.aload_n 0, 1) := dk_42 (dk_at dksX5_deal_0 5 rfl rfl)
theorem dX5_deal_6 : decode cX5_deal 6 = .ok (.getfield 189, 3) := dk_180 0 189 (dk_at dksX5_deal_0 6 rfl rfl)
theorem dX5_deal_9 : decode cX5_deal 9 = .ok (.if_icmp .gt 14, 3) := dk_163 0 14 (dk_at dksX5_deal_0 9 rfl rfl)
theorem dX5_deal_12 : decode cX5_deal 12 = .ok (.iload_n 2, 1) := dk_28 (dk_at dksX5_deal_0 12 rfl rfl)
theorem dX5_deal_13 : decode cX5_deal 13 = .ok (.iconst 0, 1) := dk_3 (dk_at dksX5_deal_0 13 rfl rfl)
theorem dX5_deal_14 : decode cX5_deal 14 = .ok (.sipush 399, 3) := dk_17 1 143 (dk_at dksX5_deal_0 14 rfl rfl)
theorem dX5_deal_17 : decode cX5_deal 17 = .ok (.invokestatic 185, 3) := dk_184 0 185 (dk_at dksX5_deal_0 17 rfl rfl)
theorem dX5_deal_20 : decode cX5_deal 20 = .ok (.ifCond .ne 6, 3) := dk_154 0 6 (dk_at dksX5_deal_0 20 rfl rfl)
theorem dX5_deal_23 : decode cX5_deal 23 = .ok (.bipush (-2), 2) := dk_16 254 (dk_at dksX5_deal_1 0 rfl rfl)
theorem dX5_deal_25 : decode cX5_deal 25 = .ok (.ireturn, 1) := dk_172 (dk_at dksX5_deal_1 2 rfl rfl)
theorem dX5_deal_26 : decode cX5_deal 26 = .ok (.aload_n 0, 1) := dk_42 (dk_at dksX5_deal_1 3 rfl rfl)
theorem dX5_deal_27 : decode cX5_deal 27 = .ok (.getfield 332, 3) := dk_180 1 76 (dk_at dksX5_deal_1 4 rfl rfl)
theorem dX5_deal_30 : decode cX5_deal 30 = .ok (.bipush 24, 2) := dk_16 24 (dk_at dksX5_deal_1 7 rfl rfl)
theorem dX5_deal_32 : decode cX5_deal 32 = .ok (.if_icmp .ne 6, 3) := dk_160 0 6 (dk_at dksX5_deal_1 9 rfl rfl)
theorem dX5_deal_35 : decode cX5_deal 35 = .ok (.bipush (-3), 2) := dk_16 253 (dk_at dksX5_deal_1 12 rfl rfl)
theorem dX5_deal_37 : decode cX5_deal 37 = .ok (.ireturn, 1) := dk_172 (dk_at dksX5_deal_1 14 rfl rfl)
theorem dX5_deal_38 : decode cX5_deal 38 = .ok (.aload_n 0, 1) := dk_42 (dk_at dksX5_deal_1 15 rfl rfl)
theorem dX5_deal_39 : decode cX5_deal 39 = .ok (.iload_n 1, 1) := dk_27 (dk_at dksX5_deal_1 16 rfl rfl)
theorem dX5_deal_40 : decode cX5_deal 40 = .ok (.invokevirtual 335, 3) := dk_182 1 79 (dk_at dksX5_deal_1 17 rfl rfl)
theorem dX5_deal_43 : decode cX5_deal 43 = .ok (.aload_n 0, 1) := dk_42 (dk_at dksX5_deal_1 20 rfl rfl)
theorem dX5_deal_44 : decode cX5_deal 44 = .ok (.bipush 96, 2) := dk_16 96 (dk_at dksX5_deal_1 21 rfl rfl)
theorem dX5_deal_46 : decode cX5_deal 46 = .ok (.aload_n 0, 1) := dk_42 (dk_at dksX5_deal_1 23 rfl rfl)
theorem dX5_deal_47 : decode cX5_deal 47 = .ok (.getfield 332, 3) := dk_180 1 76 (dk_at dksX5_deal_2 0 rfl rfl)
theorem dX5_deal_50 : decode cX5_deal 50 = .ok (.imul, 1) := dk_104 (dk_at dksX5_deal_2 3 rfl rfl)
theorem dX5_deal_51 : decode cX5_deal 51 = .ok (.putfield 277, 3) := dk_181 1 21 (dk_at dksX5_deal_2 4 rfl rfl)
theorem dX5_deal_54 : decode cX5_deal 54 = .ok (.aload_n 0, 1) := dk_42 (dk_at dksX5_deal_2 7 rfl rfl)
theorem dX5_deal_55 : decode cX5_deal 55 = .ok (.iconst 0, 1) := dk_3 (dk_at dksX5_deal_2 8 rfl rfl)
theorem dX5_deal_56 : decode cX5_deal 56 = .ok (.putfield 280, 3) := dk_181 1 24 (dk_at dksX5_deal_2 9 rfl rfl)
theorem dX5_deal_59 : decode cX5_deal 59 = .ok (.aload_n 0, 1) := dk_42 (dk_at dksX5_deal_2 12 rfl rfl)
theorem dX5_deal_60 : decode cX5_deal 60 = .ok (.iconst 0, 1) := dk_3 (dk_at dksX5_deal_2 13 rfl rfl)
theorem dX5_deal_61 : decode cX5_deal 61 = .ok (.putfield 283, 3) := dk_181 1 27 (dk_at dksX5_deal_2 14 rfl rfl)
theorem dX5_deal_64 : decode cX5_deal 64 = .ok (.aload_n 0, 1) := dk_42 (dk_at dksX5_deal_2 17 rfl rfl)
theorem dX5_deal_65 : decode cX5_deal 65 = .ok (.iconst 0, 1) := dk_3 (dk_at dksX5_deal_2 18 rfl rfl)
theorem dX5_deal_66 : decode cX5_deal 66 = .ok (.putfield 286, 3) := dk_181 1 30 (dk_at dksX5_deal_2 19 rfl rfl)
theorem dX5_deal_69 : decode cX5_deal 69 = .ok (.aload_n 0, 1) := dk_42 (dk_at dksX5_deal_2 22 rfl rfl)
theorem dX5_deal_70 : decode cX5_deal 70 = .ok (.iconst 0, 1) := dk_3 (dk_at dksX5_deal_2 23 rfl rfl)
theorem dX5_deal_71 : decode cX5_deal 71 = .ok (.putfield 315, 3) := dk_181 1 59 (dk_at dksX5_deal_3 0 rfl rfl)
theorem dX5_deal_74 : decode cX5_deal 74 = .ok (.aload_n 0, 1) := dk_42 (dk_at dksX5_deal_3 3 rfl rfl)
theorem dX5_deal_75 : decode cX5_deal 75 = .ok (.iconst 0, 1) := dk_3 (dk_at dksX5_deal_3 4 rfl rfl)
theorem dX5_deal_76 : decode cX5_deal 76 = .ok (.putfield 321, 3) := dk_181 1 65 (dk_at dksX5_deal_3 5 rfl rfl)
theorem dX5_deal_79 : decode cX5_deal 79 = .ok (.iconst 1, 1) := dk_4 (dk_at dksX5_deal_3 8 rfl rfl)
theorem dX5_deal_80 : decode cX5_deal 80 = .ok (.istore_n 3, 1) := dk_62 (dk_at dksX5_deal_3 9 rfl rfl)
theorem dX5_deal_81 : decode cX5_deal 81 = .ok (.iload_n 3, 1) := dk_29 (dk_at dksX5_deal_3 10 rfl rfl)
theorem dX5_deal_82 : decode cX5_deal 82 = .ok (.ifCond .eq 57, 3) := dk_153 0 57 (dk_at dksX5_deal_3 11 rfl rfl)
theorem dX5_deal_85 : decode cX5_deal 85 = .ok (.aload_n 0, 1) := dk_42 (dk_at dksX5_deal_3 14 rfl rfl)
theorem dX5_deal_86 : decode cX5_deal 86 = .ok (.getfield 220, 3) := dk_180 0 220 (dk_at dksX5_deal_3 15 rfl rfl)
theorem dX5_deal_89 : decode cX5_deal 89 = .ok (.ifCond .ne 50, 3) := dk_154 0 50 (dk_at dksX5_deal_3 18 rfl rfl)
theorem dX5_deal_92 : decode cX5_deal 92 = .ok (.aload_n 0, 1) := dk_42 (dk_at dksX5_deal_3 21 rfl rfl)
theorem dX5_deal_93 : decode cX5_deal 93 = .ok (.invokevirtual 339, 3) := dk_182 1 83 (dk_at dksX5_deal_4 0 rfl rfl)
theorem dX5_deal_96 : decode cX5_deal 96 = .ok (.istore 4, 2) := dk_54 4 (dk_at dksX5_deal_4 3 rfl rfl)
theorem dX5_deal_98 : decode cX5_deal 98 = .ok (.iload 4, 2) := dk_21 4 (dk_at dksX5_deal_4 5 rfl rfl)
theorem dX5_deal_100 : decode cX5_deal 100 = .ok (.ifCond .ge 10, 3) := dk_156 0 10 (dk_at dksX5_deal_4 7 rfl rfl)
theorem dX5_deal_103 : decode cX5_deal 103 = .ok (.aload_n 0, 1) := dk_42 (dk_at dksX5_deal_4 10 rfl rfl)
theorem dX5_deal_104 : decode cX5_deal 104 = .ok (.invokevirtual 231, 3) := dk_182 0 231 (dk_at dksX5_deal_4 11 rfl rfl)
theorem dX5_deal_107 : decode cX5_deal 107 = .ok (.goto 29, 3) := dk_167 0 29 (dk_at dksX5_deal_4 14 rfl rfl)
theorem dX5_deal_110 : decode cX5_deal 110 = .ok (.iload 4, 2) := dk_21 4 (dk_at dksX5_deal_4 17 rfl rfl)
theorem dX5_deal_112 : decode cX5_deal 112 = .ok (.iconst 3, 1) := dk_6 (dk_at dksX5_deal_4 19 rfl rfl)
theorem dX5_deal_113 : decode cX5_deal 113 = .ok (.if_icmp .gt 17, 3) := dk_163 0 17 (dk_at dksX5_deal_4 20 rfl rfl)
theorem dX5_deal_116 : decode cX5_deal 116 = .ok (.aload_n 0, 1) := dk_42 (dk_at dksX5_deal_4 23 rfl rfl)
theorem dX5_deal_117 : decode cX5_deal 117 = .ok (.iload 4, 2) := dk_21 4 (dk_at dksX5_deal_5 0 rfl rfl)
theorem dX5_deal_119 : decode cX5_deal 119 = .ok (.invokevirtual 342, 3) := dk_182 1 86 (dk_at dksX5_deal_5 2 rfl rfl)
theorem dX5_deal_122 : decode cX5_deal 122 = .ok (.aload_n 0, 1) := dk_42 (dk_at dksX5_deal_5 5 rfl rfl)
theorem dX5_deal_123 : decode cX5_deal 123 = .ok (.invokevirtual 345, 3) := dk_182 1 89 (dk_at dksX5_deal_5 6 rfl rfl)
theorem dX5_deal_126 : decode cX5_deal 126 = .ok (.istore_n 3, 1) := dk_62 (dk_at dksX5_deal_5 9 rfl rfl)
theorem dX5_deal_127 : decode cX5_deal 127 = .ok (.goto 9, 3) := dk_167 0 9 (dk_at dksX5_deal_5 10 rfl rfl)
theorem dX5_deal_130 : decode cX5_deal 130 = .ok (.aload_n 0, 1) := dk_42 (dk_at dksX5_deal_5 13 rfl rfl)
theorem dX5_deal_131 : decode cX5_deal 131 = .ok (.iload 4, 2) := dk_21 4 (dk_at dksX5_deal_5 14 rfl rfl)
theorem dX5_deal_133 : decode cX5_deal 133 = .ok (.invokevirtual 349, 3) := dk_182 1 93 (dk_at dksX5_deal_5 16 rfl rfl)
theorem dX5_deal_136 : decode cX5_deal 136 = .ok (.goto (-55), 3) := dk_167 255 201 (dk_at dksX5_deal_5 19 rfl rfl)
theorem dX5_deal_139 : decode cX5_deal 139 = .ok (.aload_n 0, 1) := dk_42 (dk_at dksX5_deal_5 22 rfl rfl)
theorem dX5_deal_140 : decode cX5_deal 140 = .ok (.getfield 220, 3) := dk_180 0 220 (dk_at dksX5_deal_6 0 rfl rfl)
theorem dX5_deal_143 : decode cX5_deal 143 = .ok (.ifCond .eq 5, 3) := dk_153 0 5 (dk_at dksX5_deal_6 3 rfl rfl)
theorem dX5_deal_146 : decode cX5_deal 146 = .ok (.iconst (-1), 1) := dk_2 (dk_at dksX5_deal_6 6 rfl rfl)
theorem dX5_deal_147 : decode cX5_deal 147 = .ok (.ireturn, 1) := dk_172 (dk_at dksX5_deal_6 7 rfl rfl)
theorem dX5_deal_148 : decode cX5_deal 148 = .ok (.aload_n 0, 1) := dk_42 (dk_at dksX5_deal_6 8 rfl rfl)
theorem dX5_deal_149 : decode cX5_deal 149 = .ok (.getfield 13, 3) := dk_180 0 13 (dk_at dksX5_deal_6 9 rfl rfl)
theorem dX5_deal_152 : decode cX5_deal 152 = .ok (.aload_n 0, 1) := dk_42 (dk_at dksX5_deal_6 12 rfl rfl)
theorem dX5_deal_153 : decode cX5_deal 153 = .ok (.getfield 332, 3) := dk_180 1 76 (dk_at dksX5_deal_6 13 rfl rfl)
theorem dX5_deal_156 : decode cX5_deal 156 = .ok (.aload_n 0, 1) := dk_42 (dk_at dksX5_deal_6 16 rfl rfl)
theorem dX5_deal_157 : decode cX5_deal 157 = .ok (.getfield 280, 3) := dk_180 1 24 (dk_at dksX5_deal_6 17 rfl rfl)
theorem dX5_deal_160 : decode cX5_deal 160 = .ok (.iastore, 1) := dk_79 (dk_at dksX5_deal_6 20 rfl rfl)
theorem dX5_deal_161 : decode cX5_deal 161 = .ok (.aload_n 0, 1) := dk_42 (dk_at dksX5_deal_6 21 rfl rfl)
theorem dX5_deal_162 : decode cX5_deal 162 = .ok (.getfield 16, 3) := dk_180 0 16 (dk_at dksX5_deal_7 0 rfl rfl)
theorem dX5_deal_165 : decode cX5_deal 165 = .ok (.aload_n 0, 1) := dk_42 (dk_at dksX5_deal_7 3 rfl rfl)
theorem dX5_deal_166 : decode cX5_deal 166 = .ok (.getfield 332, 3) := dk_180 1 76 (dk_at dksX5_deal_7 4 rfl rfl)
theorem dX5_deal_169 : decode cX5_deal 169 = .ok (.iload_n 2, 1) := dk_28 (dk_at dksX5_deal_7 7 rfl rfl)
theorem dX5_deal_170 : decode cX5_deal 170 = .ok (.iastore, 1) := dk_79 (dk_at dksX5_deal_7 8 rfl rfl)
theorem dX5_deal_171 : decode cX5_deal 171 = .ok (.aload_n 0, 1) := dk_42 (dk_at dksX5_deal_7 9 rfl rfl)
theorem dX5_deal_172 : decode cX5_deal 172 = .ok (.getfield 19, 3) := dk_180 0 19 (dk_at dksX5_deal_7 10 rfl rfl)
theorem dX5_deal_175 : decode cX5_deal 175 = .ok (.aload_n 0, 1) := dk_42 (dk_at dksX5_deal_7 13 rfl rfl)
theorem dX5_deal_176 : decode cX5_deal 176 = .ok (.getfield 332, 3) := dk_180 1 76 (dk_at dksX5_deal_7 14 rfl rfl)
theorem dX5_deal_179 : decode cX5_deal 179 = .ok (.aload_n 0, 1) := dk_42 (dk_at dksX5_deal_7 17 rfl rfl)
theorem dX5_deal_180 : decode cX5_deal 180 = .ok (.getfield 286, 3) := dk_180 1 30 (dk_at dksX5_deal_7 18 rfl rfl)
theorem dX5_deal_183 : decode cX5_deal 183 = .ok (.iastore, 1) := dk_79 (dk_at dksX5_deal_7 21 rfl rfl)
theorem dX5_deal_184 : decode cX5_deal 184 = .ok (.aload_n 0, 1) := dk_42 (dk_at dksX5_deal_7 22 rfl rfl)
theorem dX5_deal_185 : decode cX5_deal 185 = .ok (.getfield 22, 3) := dk_180 0 22 (dk_at dksX5_deal_8 0 rfl rfl)
theorem dX5_deal_188 : decode cX5_deal 188 = .ok (.aload_n 0, 1) := dk_42 (dk_at dksX5_deal_8 3 rfl rfl)
theorem dX5_deal_189 : decode cX5_deal 189 = .ok (.getfield 332, 3) := dk_180 1 76 (dk_at dksX5_deal_8 4 rfl rfl)
theorem dX5_deal_192 : decode cX5_deal 192 = .ok (.aload_n 0, 1) := dk_42 (dk_at dksX5_deal_8 7 rfl rfl)
theorem dX5_deal_193 : decode cX5_deal 193 = .ok (.getfield 315, 3) := dk_180 1 59 (dk_at dksX5_deal_8 8 rfl rfl)
theorem dX5_deal_196 : decode cX5_deal 196 = .ok (.iastore, 1) := dk_79 (dk_at dksX5_deal_8 11 rfl rfl)
theorem dX5_deal_197 : decode cX5_deal 197 = .ok (.aload_n 0, 1) := dk_42 (dk_at dksX5_deal_8 12 rfl rfl)
theorem dX5_deal_198 : decode cX5_deal 198 = .ok (.getfield 25, 3) := dk_180 0 25 (dk_at dksX5_deal_8 13 rfl rfl)
theorem dX5_deal_201 : decode cX5_deal 201 = .ok (.aload_n 0, 1) := dk_42 (dk_at dksX5_deal_8 16 rfl rfl)
theorem dX5_deal_202 : decode cX5_deal 202 = .ok (.getfield 332, 3) := dk_180 1 76 (dk_at dksX5_deal_8 17 rfl rfl)
theorem dX5_deal_205 : decode cX5_deal 205 = .ok (.aload_n 0, 1) := dk_42 (dk_at dksX5_deal_8 20 rfl rfl)
theorem dX5_deal_206 : decode cX5_deal 206 = .ok (.getfield 321, 3) := dk_180 1 65 (dk_at dksX5_deal_8 21 rfl rfl)
theorem dX5_deal_209 : decode cX5_deal 209 = .ok (.iastore, 1) := dk_79 (dk_at dksX5_deal_9 0 rfl rfl)
theorem dX5_deal_210 : decode cX5_deal 210 = .ok (.aload_n 0, 1) := dk_42 (dk_at dksX5_deal_9 1 rfl rfl)
theorem dX5_deal_211 : decode cX5_deal 211 = .ok (.dup, 1) := dk_89 (dk_at dksX5_deal_9 2 rfl rfl)
theorem dX5_deal_212 : decode cX5_deal 212 = .ok (.getfield 332, 3) := dk_180 1 76 (dk_at dksX5_deal_9 3 rfl rfl)
theorem dX5_deal_215 : decode cX5_deal 215 = .ok (.iconst 1, 1) := dk_4 (dk_at dksX5_deal_9 6 rfl rfl)
theorem dX5_deal_216 : decode cX5_deal 216 = .ok (.iadd, 1) := dk_96 (dk_at dksX5_deal_9 7 rfl rfl)
theorem dX5_deal_217 : decode cX5_deal 217 = .ok (.putfield 332, 3) := dk_181 1 76 (dk_at dksX5_deal_9 8 rfl rfl)
theorem dX5_deal_220 : decode cX5_deal 220 = .ok (.aload_n 0, 1) := dk_42 (dk_at dksX5_deal_9 11 rfl rfl)
theorem dX5_deal_221 : decode cX5_deal 221 = .ok (.getfield 332, 3) := dk_180 1 76 (dk_at dksX5_deal_9 12 rfl rfl)
theorem dX5_deal_224 : decode cX5_deal 224 = .ok (.iconst 1, 1) := dk_4 (dk_at dksX5_deal_9 15 rfl rfl)
theorem dX5_deal_225 : decode cX5_deal 225 = .ok (.isub, 1) := dk_100 (dk_at dksX5_deal_9 16 rfl rfl)
theorem dX5_deal_226 : decode cX5_deal 226 = .ok (.ireturn, 1) := dk_172 (dk_at dksX5_deal_9 17 rfl rfl)
abbrev cX5_beginsText : ByteArray := prog_24_method_17_code
def yX5_beginsText : MethodName := ⟨RX5, "beginsText", "(I)V"⟩
def dkwX5_beginsText_1 : List UInt8 := [181, 0, 220, 42, 182, 0, 228, 177]
abbrev dktX5_beginsText_1 : List UInt8 := dkwX5_beginsText_1 ++ []
def dkwX5_beginsText_0 : List UInt8 := [42, 27, 181, 0, 195, 42, 3, 181, 0, 189, 42, 3, 181, 0, 192, 42, 2, 181, 0, 71, 42, 3]
abbrev dktX5_beginsText_0 : List UInt8 := dkwX5_beginsText_0 ++ dktX5_beginsText_1
theorem dksX5_beginsText_0 : cX5_beginsText.data.toList.drop 0 = dktX5_beginsText_0 := by decide +kernel
theorem dksX5_beginsText_1 : cX5_beginsText.data.toList.drop 22 = dktX5_beginsText_1 := dk_seg dksX5_beginsText_0 22 rfl rfl
theorem dX5_beginsText_0 : decode cX5_beginsText 0 = .ok (.aload_n 0, 1) := dk_42 (dk_at dksX5_beginsText_0 0 rfl rfl)
theorem dX5_beginsText_1 : decode cX5_beginsText 1 = .ok (.iload_n 1, 1) := dk_27 (dk_at dksX5_beginsText_0 1 rfl rfl)
theorem dX5_beginsText_2 : decode cX5_beginsText 2 = .ok (.putfield 195, 3) := dk_181 0 195 (dk_at dksX5_beginsText_0 2 rfl rfl)
theorem dX5_beginsText_5 : decode cX5_beginsText 5 = .ok (.aload_n 0, 1) := dk_42 (dk_at dksX5_beginsText_0 5 rfl rfl)
theorem dX5_beginsText_6 : decode cX5_beginsText 6 = .ok (.iconst 0, 1) := dk_3 (dk_at dksX5_beginsText_0 6 rfl rfl)
theorem dX5_beginsText_7 : decode cX5_beginsText 7 = .ok (.putfield 189, 3) := dk_181 0 189 (dk_at dksX5_beginsText_0 7 rfl rfl)
theorem dX5_beginsText_10 : decode cX5_beginsText 10 = .ok (.aload_n 0, 1) := dk_42 (dk_at dksX5_beginsText_0 10 rfl rfl)
theorem dX5_beginsText_11 : decode cX5_beginsText 11 = .ok (.iconst 0, 1) := dk_3 (dk_at dksX5_beginsText_0 11 rfl rfl)
theorem dX5_beginsText_12 : decode cX5_beginsText 12 = .ok (.putfield 192, 3) := dk_181 0 192 (dk_at dksX5_beginsText_0 12 rfl rfl)
theorem dX5_beginsText_15 : decode cX5_beginsText 15 = .ok (.aload_n 0, 1) := dk_42 (dk_at dksX5_beginsText_0 15 rfl rfl)
theorem dX5_beginsText_16 : decode cX5_beginsText 16 = .ok (.iconst (-1), 1) := dk_2 (dk_at dksX5_beginsText_0 16 rfl rfl)
theorem dX5_beginsText_17 : decode cX5_beginsText 17 = .ok (.putfield 71, 3) := dk_181 0 71 (dk_at dksX5_beginsText_0 17 rfl rfl)
theorem dX5_beginsText_20 : decode cX5_beginsText 20 = .ok (.aload_n 0, 1) := dk_42 (dk_at dksX5_beginsText_0 20 rfl rfl)
theorem dX5_beginsText_21 : decode cX5_beginsText 21 = .ok (.iconst 0, 1) := dk_3 (dk_at dksX5_beginsText_0 21 rfl rfl)
theorem dX5_beginsText_22 : decode cX5_beginsText 22 = .ok (.putfield 220, 3) := dk_181 0 220 (dk_at dksX5_beginsText_1 0 rfl rfl)
theorem dX5_beginsText_25 : decode cX5_beginsText 25 = .ok (.aload_n 0, 1) := dk_42 (dk_at dksX5_beginsText_1 3 rfl rfl)
theorem dX5_beginsText_26 : decode cX5_beginsText 26 = .ok (.invokevirtual 228, 3) := dk_182 0 228 (dk_at dksX5_beginsText_1 4 rfl rfl)
theorem dX5_beginsText_29 : decode cX5_beginsText 29 = .ok (.return_, 1) := dk_177 (dk_at dksX5_beginsText_1 7 rfl rfl)
abbrev cX5_next : ByteArray := prog_24_method_7_code
def yX5_next : MethodName := ⟨RX5, "next", "()V"⟩
def dkwX5_next_12 : List UInt8 := [89, 180, 0, 192, 4, 96, 181, 0, 192, 177]
abbrev dktX5_next_12 : List UInt8 := dkwX5_next_12 ++ []
def dkwX5_next_11 : List UInt8 := [159, 0, 15, 27, 16, 123, 159, 0, 9, 27, 16, 125, 160, 0, 7, 27, 167, 0, 4, 6, 181, 0, 214, 42]
abbrev dktX5_next_11 : List UInt8 := dkwX5_next_11 ++ dktX5_next_12
def dkwX5_next_10 : List UInt8 := [163, 0, 7, 5, 167, 0, 4, 6, 181, 0, 214, 167, 0, 46, 42, 27, 16, 44, 159, 0, 21, 27, 16, 59]
abbrev dktX5_next_10 : List UInt8 := dkwX5_next_10 ++ dktX5_next_11
def dkwX5_next_9 : List UInt8 := [180, 0, 192, 4, 96, 181, 0, 192, 167, 255, 204, 42, 42, 180, 0, 192, 42, 180, 0, 202, 100, 7]
abbrev dktX5_next_9 : List UInt8 := dkwX5_next_9 ++ dktX5_next_10
def dkwX5_next_8 : List UInt8 := [162, 0, 22, 42, 16, 10, 42, 180, 0, 211, 104, 42, 182, 0, 198, 96, 16, 48, 100, 181, 0, 211, 42, 89]
abbrev dktX5_next_8 : List UInt8 := dkwX5_next_8 ++ dktX5_next_9
def dkwX5_next_7 : List UInt8 := [153, 0, 83, 42, 182, 0, 198, 16, 48, 16, 57, 184, 0, 185, 153, 0, 44, 42, 180, 0, 211, 18, 219]
abbrev dktX5_next_7 : List UInt8 := dkwX5_next_7 ++ dktX5_next_8
def dkwX5_next_6 : List UInt8 := [181, 0, 207, 42, 89, 180, 0, 192, 4, 96, 181, 0, 192, 167, 255, 191, 27, 16, 48, 16, 57, 184, 0, 185]
abbrev dktX5_next_6 : List UInt8 := dkwX5_next_6 ++ dktX5_next_7
def dkwX5_next_5 : List UInt8 := [180, 0, 207, 20, 0, 217, 105, 42, 182, 0, 198, 16, 96, 100, 133, 97, 167, 0, 6, 20, 0, 205]
abbrev dktX5_next_5 : List UInt8 := dkwX5_next_5 ++ dktX5_next_6
def dkwX5_next_4 : List UInt8 := [16, 122, 184, 0, 185, 153, 0, 191, 42, 42, 180, 0, 192, 42, 180, 0, 202, 100, 16, 6, 162, 0, 23, 42]
abbrev dktX5_next_4 : List UInt8 := dkwX5_next_4 ++ dktX5_next_5
def dkwX5_next_3 : List UInt8 := [16, 122, 184, 0, 185, 153, 0, 81, 42, 4, 181, 0, 214, 42, 9, 181, 0, 207, 42, 182, 0, 198, 16, 97]
abbrev dktX5_next_3 : List UInt8 := dkwX5_next_3 ++ dktX5_next_4
def dkwX5_next_2 : List UInt8 := [181, 0, 207, 42, 3, 181, 0, 211, 27, 156, 0, 11, 42, 3, 181, 0, 214, 167, 0, 226, 27, 16, 97]
abbrev dktX5_next_2 : List UInt8 := dkwX5_next_2 ++ dktX5_next_3
def dkwX5_next_1 : List UInt8 := [96, 181, 0, 192, 167, 255, 228, 42, 42, 180, 0, 192, 181, 0, 202, 42, 182, 0, 198, 60, 42, 20, 0, 205]
abbrev dktX5_next_1 : List UInt8 := dkwX5_next_1 ++ dktX5_next_2
def dkwX5_next_0 : List UInt8 := [42, 182, 0, 198, 16, 32, 159, 0, 12, 42, 182, 0, 198, 16, 10, 160, 0, 16, 42, 89, 180, 0, 192, 4]
abbrev dktX5_next_0 : List UInt8 := dkwX5_next_0 ++ dktX5_next_1
theorem dksX5_next_0 : cX5_next.data.toList.drop 0 = dktX5_next_0 := by decide +kernel
theorem dksX5_next_1 : cX5_next.data.toList.drop 24 = dktX5_next_1 := dk_seg dksX5_next_0 24 rfl rfl
theorem dksX5_next_2 : cX5_next.data.toList.drop 48 = dktX5_next_2 := dk_seg dksX5_next_1 24 rfl rfl
theorem dksX5_next_3 : cX5_next.data.toList.drop 71 = dktX5_next_3 := dk_seg dksX5_next_2 23 rfl rfl
theorem dksX5_next_4 : cX5_next.data.toList.drop 95 = dktX5_next_4 := dk_seg dksX5_next_3 24 rfl rfl
theorem dksX5_next_5 : cX5_next.data.toList.drop 119 = dktX5_next_5 := dk_seg dksX5_next_4 24 rfl rfl
theorem dksX5_next_6 : cX5_next.data.toList.drop 141 = dktX5_next_6 := dk_seg dksX5_next_5 22 rfl rfl
theorem dksX5_next_7 : cX5_next.data.toList.drop 165 = dktX5_next_7 := dk_seg dksX5_next_6 24 rfl rfl
theorem dksX5_next_8 : cX5_next.data.toList.drop 188 = dktX5_next_8 := dk_seg dksX5_next_7 23 rfl rfl
theorem dksX5_next_9 : cX5_next.data.toList.drop 212 = dktX5_next_9 := dk_seg dksX5_next_8 24 rfl rfl
theorem dksX5_next_10 : cX5_next.data.toList.drop 234 = dktX5_next_10 := dk_seg dksX5_next_9 22 rfl rfl
theorem dksX5_next_11 : cX5_next.data.toList.drop 258 = dktX5_next_11 := dk_seg dksX5_next_10 24 rfl rfl
theorem dksX5_next_12 : cX5_next.data.toList.drop 282 = dktX5_next_12 := dk_seg dksX5_next_11 24 rfl rfl
theorem dX5_next_0 : decode cX5_next 0 = .ok (.aload_n 0, 1) := dk_42 (dk_at dksX5_next_0 0 rfl rfl)
theorem dX5_next_1 : decode cX5_next 1 = .ok (.invokevirtual 198, 3) := dk_182 0 198 (dk_at dksX5_next_0 1 rfl rfl)
theorem dX5_next_4 : decode cX5_next 4 = .ok (.bipush 32, 2) := dk_16 32 (dk_at dksX5_next_0 4 rfl rfl)
theorem dX5_next_6 : decode cX5_next 6 = .ok (.if_icmp .eq 12, 3) := dk_159 0 12 (dk_at dksX5_next_0 6 rfl rfl)
theorem dX5_next_9 : decode cX5_next 9 = .ok (.aload_n 0, 1) := dk_42 (dk_at dksX5_next_0 9 rfl rfl)
theorem dX5_next_10 : decode cX5_next 10 = .ok (.invokevirtual 198, 3) := dk_182 0 198 (dk_at dksX5_next_0 10 rfl rfl)
theorem dX5_next_13 : decode cX5_next 13 = .ok (.bipush 10, 2) := dk_16 10 (dk_at dksX5_next_0 13 rfl rfl)
theorem dX5_next_15 : decode cX5_next 15 = .ok (.if_icmp .ne 16, 3) := dk_160 0 16 (dk_at dksX5_next_0 15 rfl rfl)
theorem dX5_next_18 : decode cX5_next 18 = .ok (.aload_n 0, 1) := dk_42 (dk_at dksX5_next_0 18 rfl rfl)
theorem dX5_next_19 : decode cX5_next 19 = .ok (.dup, 1) := dk_89 (dk_at dksX5_next_0 19 rfl rfl)
theorem dX5_next_20 : decode cX5_next 20 = .ok (.getfield 192, 3) := dk_180 0 192 (dk_at dksX5_next_0 20 rfl rfl)
theorem dX5_next_23 : decode cX5_next 23 = .ok (.iconst 1, 1) := dk_4 (dk_at dksX5_next_0 23 rfl rfl)
theorem dX5_next_24 : decode cX5_next 24 = .ok (.iadd, 1) := dk_96 (dk_at dksX5_next_1 0 rfl rfl)
theorem dX5_next_25 : decode cX5_next 25 = .ok (.putfield 192, 3) := dk_181 0 192 (dk_at dksX5_next_1 1 rfl rfl)
theorem dX5_next_28 : decode cX5_next 28 = .ok (.goto (-28), 3) := dk_167 255 228 (dk_at dksX5_next_1 4 rfl rfl)
theorem dX5_next_31 : decode cX5_next 31 = .ok (.aload_n 0, 1) := dk_42 (dk_at dksX5_next_1 7 rfl rfl)
theorem dX5_next_32 : decode cX5_next 32 = .ok (.aload_n 0, 1) := dk_42 (dk_at dksX5_next_1 8 rfl rfl)
theorem dX5_next_33 : decode cX5_next 33 = .ok (.getfield 192, 3) := dk_180 0 192 (dk_at dksX5_next_1 9 rfl rfl)
theorem dX5_next_36 : decode cX5_next 36 = .ok (.putfield 202, 3) := dk_181 0 202 (dk_at dksX5_next_1 12 rfl rfl)
theorem dX5_next_39 : decode cX5_next 39 = .ok (.aload_n 0, 1) := dk_42 (dk_at dksX5_next_1 15 rfl rfl)
theorem dX5_next_40 : decode cX5_next 40 = .ok (.invokevirtual 198, 3) := dk_182 0 198 (dk_at dksX5_next_1 16 rfl rfl)
theorem dX5_next_43 : decode cX5_next 43 = .ok (.istore_n 1, 1) := dk_60 (dk_at dksX5_next_1 19 rfl rfl)
theorem dX5_next_44 : decode cX5_next 44 = .ok (.aload_n 0, 1) := dk_42 (dk_at dksX5_next_1 20 rfl rfl)
theorem dX5_next_45 : decode cX5_next 45 = .ok (.ldc2_w 205, 3) := dk_20 0 205 (dk_at dksX5_next_1 21 rfl rfl)
theorem dX5_next_48 : decode cX5_next 48 = .ok (.putfield 207, 3) := dk_181 0 207 (dk_at dksX5_next_2 0 rfl rfl)
theorem dX5_next_51 : decode cX5_next 51 = .ok (.aload_n 0, 1) := dk_42 (dk_at dksX5_next_2 3 rfl rfl)
theorem dX5_next_52 : decode cX5_next 52 = .ok (.iconst 0, 1) := dk_3 (dk_at dksX5_next_2 4 rfl rfl)
theorem dX5_next_53 : decode cX5_next 53 = .ok (.putfield 211, 3) := dk_181 0 211 (dk_at dksX5_next_2 5 rfl rfl)
theorem dX5_next_56 : decode cX5_next 56 = .ok (.iload_n 1, 1) := dk_27 (dk_at dksX5_next_2 8 rfl rfl)
theorem dX5_next_57 : decode cX5_next 57 = .ok (.ifCond .ge 11, 3) := dk_156 0 11 (dk_at dksX5_next_2 9 rfl rfl)
theorem dX5_next_60 : decode cX5_next 60 = .ok (.aload_n 0, 1) := dk_42 (dk_at dksX5_next_2 12 rfl rfl)
theorem dX5_next_61 : decode cX5_next 61 = .ok (.iconst 0, 1) := dk_3 (dk_at dksX5_next_2 13 rfl rfl)
theorem dX5_next_62 : decode cX5_next 62 = .ok (.putfield 214, 3) := dk_181 0 214 (dk_at dksX5_next_2 14 rfl rfl)
theorem dX5_next_65 : decode cX5_next 65 = .ok (.goto 226, 3) := dk_167 0 226 (dk_at dksX5_next_2 17 rfl rfl)
theorem dX5_next_68 : decode cX5_next 68 = .ok (.iload_n 1, 1) := dk_27 (dk_at dksX5_next_2 20 rfl rfl)
theorem dX5_next_69 : decode cX5_next 69 = .ok (.bipush 97, 2) := dk_16 97 (dk_at dksX5_next_2 21 rfl rfl)
theorem dX5_next_71 : decode cX5_next 71 = .ok (.bipush 122, 2) := dk_16 122 (dk_at dksX5_next_3 0 rfl rfl)
theorem dX5_next_73 : decode cX5_next 73 = .ok (.invokestatic 185, 3) := dk_184 0 185 (dk_at dksX5_next_3 2 rfl rfl)
theorem dX5_next_76 : decode cX5_next 76 = .ok (.ifCond .eq 81, 3) := dk_153 0 81 (dk_at dksX5_next_3 5 rfl rfl)
theorem dX5_next_79 : decode cX5_next 79 = .ok (.aload_n 0, 1) := dk_42 (dk_at dksX5_next_3 8 rfl rfl)
theorem dX5_next_80 : decode cX5_next 80 = .ok (.iconst 1, 1) := dk_4 (dk_at dksX5_next_3 9 rfl rfl)
theorem dX5_next_81 : decode cX5_next 81 = .ok (.putfield 214, 3) := dk_181 0 214 (dk_at dksX5_next_3 10 rfl rfl)
theorem dX5_next_84 : decode cX5_next 84 = .ok (.aload_n 0, 1) := dk_42 (dk_at dksX5_next_3 13 rfl rfl)
theorem dX5_next_85 : decode cX5_next 85 = .ok (.lconst 0, 1) := dk_9 (dk_at dksX5_next_3 14 rfl rfl)
theorem dX5_next_86 : decode cX5_next 86 = .ok (.putfield 207, 3) := dk_181 0 207 (dk_at dksX5_next_3 15 rfl rfl)
theorem dX5_next_89 : decode cX5_next 89 = .ok (.aload_n 0, 1) := dk_42 (dk_at dksX5_next_3 18 rfl rfl)
theorem dX5_next_90 : decode cX5_next 90 = .ok (.invokevirtual 198, 3) := dk_182 0 198 (dk_at dksX5_next_3 19 rfl rfl)
theorem dX5_next_93 : decode cX5_next 93 = .ok (.bipush 97, 2) := dk_16 97 (dk_at dksX5_next_3 22 rfl rfl)
theorem dX5_next_95 : decode cX5_next 95 = .ok (.bipush 122, 2) := dk_16 122 (dk_at dksX5_next_4 0 rfl rfl)
theorem dX5_next_97 : decode cX5_next 97 = .ok (.invokestatic 185, 3) := dk_184 0 185 (dk_at dksX5_next_4 2 rfl rfl)
theorem dX5_next_100 : decode cX5_next 100 = .ok (.ifCond .eq 191, 3) := dk_153 0 191 (dk_at dksX5_next_4 5 rfl rfl)
theorem dX5_next_103 : decode cX5_next 103 = .ok (.aload_n 0, 1) := dk_42 (dk_at dksX5_next_4 8 rfl rfl)
theorem dX5_next_104 : decode cX5_next 104 = .ok (.aload_n 0, 1) := dk_42 (dk_at dksX5_next_4 9 rfl rfl)
theorem dX5_next_105 : decode cX5_next 105 = .ok (.getfield 192, 3) := dk_180 0 192 (dk_at dksX5_next_4 10 rfl rfl)
theorem dX5_next_108 : decode cX5_next 108 = .ok (.aload_n 0, 1) := dk_42 (dk_at dksX5_next_4 13 rfl rfl)
theorem dX5_next_109 : decode cX5_next 109 = .ok (.getfield 202, 3) := dk_180 0 202 (dk_at dksX5_next_4 14 rfl rfl)
theorem dX5_next_112 : decode cX5_next 112 = .ok (.isub, 1) := dk_100 (dk_at dksX5_next_4 17 rfl rfl)
theorem dX5_next_113 : decode cX5_next 113 = .ok (.bipush 6, 2) := dk_16 6 (dk_at dksX5_next_4 18 rfl rfl)
theorem dX5_next_115 : decode cX5_next 115 = .ok (.if_icmp .ge 23, 3) := dk_162 0 23 (dk_at dksX5_next_4 20 rfl rfl)
theorem dX5_next_118 : decode cX5_next 118 = .ok (.aload_n 0, 1) := dk_42 (dk_at dksX5_next_4 23 rfl rfl)
theorem dX5_next_119 : decode cX5_next 119 = .ok (.getfield 207, 3) := dk_180 0 207 (dk_at dksX5_next_5 0 rfl rfl)
theorem dX5_next_122 : decode cX5_next 122 = .ok (.ldc2_w 217, 3) := dk_20 0 217 (dk_at dksX5_next_5 3 rfl rfl)
theorem dX5_next_125 : decode cX5_next 125 = .ok (.lmul, 1) := dk_105 (dk_at dksX5_next_5 6 rfl rfl)
theorem dX5_next_126 : decode cX5_next 126 = .ok (.aload_n 0, 1) := dk_42 (dk_at dksX5_next_5 7 rfl rfl)
theorem dX5_next_127 : decode cX5_next 127 = .ok (.invokevirtual 198, 3) := dk_182 0 198 (dk_at dksX5_next_5 8 rfl rfl)
theorem dX5_next_130 : decode cX5_next 130 = .ok (.bipush 96, 2) := dk_16 96 (dk_at dksX5_next_5 11 rfl rfl)
theorem dX5_next_132 : decode cX5_next 132 = .ok (.isub, 1) := dk_100 (dk_at dksX5_next_5 13 rfl rfl)
theorem dX5_next_133 : decode cX5_next 133 = .ok (.i2l, 1) := dk_133 (dk_at dksX5_next_5 14 rfl rfl)
theorem dX5_next_134 : decode cX5_next 134 = .ok (.ladd, 1) := dk_97 (dk_at dksX5_next_5 15 rfl rfl)
theorem dX5_next_135 : decode cX5_next 135 = .ok (.goto 6, 3) := dk_167 0 6 (dk_at dksX5_next_5 16 rfl rfl)
theorem dX5_next_138 : decode cX5_next 138 = .ok (.ldc2_w 205, 3) := dk_20 0 205 (dk_at dksX5_next_5 19 rfl rfl)
theorem dX5_next_141 : decode cX5_next 141 = .ok (.putfield 207, 3) := dk_181 0 207 (dk_at dksX5_next_6 0 rfl rfl)
theorem dX5_next_144 : decode cX5_next 144 = .ok (.aload_n 0, 1) := dk_42 (dk_at dksX5_next_6 3 rfl rfl)
theorem dX5_next_145 : decode cX5_next 145 = .ok (.dup, 1) := dk_89 (dk_at dksX5_next_6 4 rfl rfl)
theorem dX5_next_146 : decode cX5_next 146 = .ok (.getfield 192, 3) := dk_180 0 192 (dk_at dksX5_next_6 5 rfl rfl)
theorem dX5_next_149 : decode cX5_next 149 = .ok (.iconst 1, 1) := dk_4 (dk_at dksX5_next_6 8 rfl rfl)
theorem dX5_next_150 : decode cX5_next 150 = .ok (.iadd, 1) := dk_96 (dk_at dksX5_next_6 9 rfl rfl)
theorem dX5_next_151 : decode cX5_next 151 = .ok (.putfield 192, 3) := dk_181 0 192 (dk_at dksX5_next_6 10 rfl rfl)
theorem dX5_next_154 : decode cX5_next 154 = .ok (.goto (-65), 3) := dk_167 255 191 (dk_at dksX5_next_6 13 rfl rfl)
theorem dX5_next_157 : decode cX5_next 157 = .ok (.iload_n 1, 1) := dk_27 (dk_at dksX5_next_6 16 rfl rfl)
theorem dX5_next_158 : decode cX5_next 158 = .ok (.bipush 48, 2) := dk_16 48 (dk_at dksX5_next_6 17 rfl rfl)
theorem dX5_next_160 : decode cX5_next 160 = .ok (.bipush 57, 2) := dk_16 57 (dk_at dksX5_next_6 19 rfl rfl)
theorem dX5_next_162 : decode cX5_next 162 = .ok (.invokestatic 185, 3) := dk_184 0 185 (dk_at dksX5_next_6 21 rfl rfl)
theorem dX5_next_165 : decode cX5_next 165 = .ok (.ifCond .eq 83, 3) := dk_153 0 83 (dk_at dksX5_next_7 0 rfl rfl)
theorem dX5_next_168 : decode cX5_next 168 = .ok (.aload_n 0, 1) := dk_42 (dk_at dksX5_next_7 3 rfl rfl)
theorem dX5_next_169 : decode cX5_next 169 = .ok (.invokevirtual 198, 3) := dk_182 0 198 (dk_at dksX5_next_7 4 rfl rfl)
theorem dX5_next_172 : decode cX5_next 172 = .ok (.bipush 48, 2) := dk_16 48 (dk_at dksX5_next_7 7 rfl rfl)
theorem dX5_next_174 : decode cX5_next 174 = .ok (.bipush 57, 2) := dk_16 57 (dk_at dksX5_next_7 9 rfl rfl)
theorem dX5_next_176 : decode cX5_next 176 = .ok (.invokestatic 185, 3) := dk_184 0 185 (dk_at dksX5_next_7 11 rfl rfl)
theorem dX5_next_179 : decode cX5_next 179 = .ok (.ifCond .eq 44, 3) := dk_153 0 44 (dk_at dksX5_next_7 14 rfl rfl)
theorem dX5_next_182 : decode cX5_next 182 = .ok (.aload_n 0, 1) := dk_42 (dk_at dksX5_next_7 17 rfl rfl)
theorem dX5_next_183 : decode cX5_next 183 = .ok (.getfield 211, 3) := dk_180 0 211 (dk_at dksX5_next_7 18 rfl rfl)
theorem dX5_next_186 : decode cX5_next 186 = .ok (.ldc 219, 2) := dk_18 219 (dk_at dksX5_next_7 21 rfl rfl)
theorem dX5_next_188 : decode cX5_next 188 = .ok (.if_icmp .ge 22, 3) := dk_162 0 22 (dk_at dksX5_next_8 0 rfl rfl)
theorem dX5_next_191 : decode cX5_next 191 = .ok (.aload_n 0, 1) := dk_42 (dk_at dksX5_next_8 3 rfl rfl)
theorem dX5_next_192 : decode cX5_next 192 = .ok (.bipush 10, 2) := dk_16 10 (dk_at dksX5_next_8 4 rfl rfl)
theorem dX5_next_194 : decode cX5_next 194 = .ok (.aload_n 0, 1) := dk_42 (dk_at dksX5_next_8 6 rfl rfl)
theorem dX5_next_195 : decode cX5_next 195 = .ok (.getfield 211, 3) := dk_180 0 211 (dk_at dksX5_next_8 7 rfl rfl)
theorem dX5_next_198 : decode cX5_next 198 = .ok (.imul, 1) := dk_104 (dk_at dksX5_next_8 10 rfl rfl)
theorem dX5_next_199 : decode cX5_next 199 = .ok (.aload_n 0, 1) := dk_42 (dk_at dksX5_next_8 11 rfl rfl)
theorem dX5_next_200 : decode cX5_next 200 = .ok (.invokevirtual 198, 3) := dk_182 0 198 (dk_at dksX5_next_8 12 rfl rfl)
theorem dX5_next_203 : decode cX5_next 203 = .ok (.iadd, 1) := dk_96 (dk_at dksX5_next_8 15 rfl rfl)
theorem dX5_next_204 : decode cX5_next 204 = .ok (.bipush 48, 2) := dk_16 48 (dk_at dksX5_next_8 16 rfl rfl)
theorem dX5_next_206 : decode cX5_next 206 = .ok (.isub, 1) := dk_100 (dk_at dksX5_next_8 18 rfl rfl)
theorem dX5_next_207 : decode cX5_next 207 = .ok (.putfield 211, 3) := dk_181 0 211 (dk_at dksX5_next_8 19 rfl rfl)
theorem dX5_next_210 : decode cX5_next 210 = .ok (.aload_n 0, 1) := dk_42 (dk_at dksX5_next_8 22 rfl rfl)
theorem dX5_next_211 : decode cX5_next 211 = .ok (.dup, 1) := dk_89 (dk_at dksX5_next_8 23 rfl rfl)
theorem dX5_next_212 : decode cX5_next 212 = .ok (.getfield 192, 3) := dk_180 0 192 (dk_at dksX5_next_9 0 rfl rfl)
theorem dX5_next_215 : decode cX5_next 215 = .ok (.iconst 1, 1) := dk_4 (dk_at dksX5_next_9 3 rfl rfl)
theorem dX5_next_216 : decode cX5_next 216 = .ok (.iadd, 1) := dk_96 (dk_at dksX5_next_9 4 rfl rfl)
theorem dX5_next_217 : decode cX5_next 217 = .ok (.putfield 192, 3) := dk_181 0 192 (dk_at dksX5_next_9 5 rfl rfl)
theorem dX5_next_220 : decode cX5_next 220 = .ok (.goto (-52), 3) := dk_167 255 204 (dk_at dksX5_next_9 8 rfl rfl)
theorem dX5_next_223 : decode cX5_next 223 = .ok (.aload_n 0, 1) := dk_42 (dk_at dksX5_next_9 11 rfl rfl)
theorem dX5_next_224 : decode cX5_next 224 = .ok (.aload_n 0, 1) := dk_42 (dk_at dksX5_next_9 12 rfl rfl)
theorem dX5_next_225 : decode cX5_next 225 = .ok (.getfield 192, 3) := dk_180 0 192 (dk_at dksX5_next_9 13 rfl rfl)
theorem dX5_next_228 : decode cX5_next 228 = .ok (.aload_n 0, 1) := dk_42 (dk_at dksX5_next_9 16 rfl rfl)
theorem dX5_next_229 : decode cX5_next 229 = .ok (.getfield 202, 3) := dk_180 0 202 (dk_at dksX5_next_9 17 rfl rfl)
theorem dX5_next_232 : decode cX5_next 232 = .ok (.isub, 1) := dk_100 (dk_at dksX5_next_9 20 rfl rfl)
theorem dX5_next_233 : decode cX5_next 233 = .ok (.iconst 4, 1) := dk_7 (dk_at dksX5_next_9 21 rfl rfl)
theorem dX5_next_234 : decode cX5_next 234 = .ok (.if_icmp .gt 7, 3) := dk_163 0 7 (dk_at dksX5_next_10 0 rfl rfl)
theorem dX5_next_237 : decode cX5_next 237 = .ok (.iconst 2, 1) := dk_5 (dk_at dksX5_next_10 3 rfl rfl)
theorem dX5_next_238 : decode cX5_next 238 = .ok (.goto 4, 3) := dk_167 0 4 (dk_at dksX5_next_10 4 rfl rfl)
theorem dX5_next_241 : decode cX5_next 241 = .ok (.iconst 3, 1) := dk_6 (dk_at dksX5_next_10 7 rfl rfl)
theorem dX5_next_242 : decode cX5_next 242 = .ok (.putfield 214, 3) := dk_181 0 214 (dk_at dksX5_next_10 8 rfl rfl)
theorem dX5_next_245 : decode cX5_next 245 = .ok (.goto 46, 3) := dk_167 0 46 (dk_at dksX5_next_10 11 rfl rfl)
theorem dX5_next_248 : decode cX5_next 248 = .ok (.aload_n 0, 1) := dk_42 (dk_at dksX5_next_10 14 rfl rfl)
theorem dX5_next_249 : decode cX5_next 249 = .ok (.iload_n 1, 1) := dk_27 (dk_at dksX5_next_10 15 rfl rfl)
theorem dX5_next_250 : decode cX5_next 250 = .ok (.bipush 44, 2) := dk_16 44 (dk_at dksX5_next_10 16 rfl rfl)
theorem dX5_next_252 : decode cX5_next 252 = .ok (.if_icmp .eq 21, 3) := dk_159 0 21 (dk_at dksX5_next_10 18 rfl rfl)
theorem dX5_next_255 : decode cX5_next 255 = .ok (.iload_n 1, 1) := dk_27 (dk_at dksX5_next_10 21 rfl rfl)
theorem dX5_next_256 : decode cX5_next 256 = .ok (.bipush 59, 2) := dk_16 59 (dk_at dksX5_next_10 22 rfl rfl)
theorem dX5_next_258 : decode cX5_next 258 = .ok (.if_icmp .eq 15, 3) := dk_159 0 15 (dk_at dksX5_next_11 0 rfl rfl)
theorem dX5_next_261 : decode cX5_next 261 = .ok (.iload_n 1, 1) := dk_27 (dk_at dksX5_next_11 3 rfl rfl)
theorem dX5_next_262 : decode cX5_next 262 = .ok (.bipush 123, 2) := dk_16 123 (dk_at dksX5_next_11 4 rfl rfl)
theorem dX5_next_264 : decode cX5_next 264 = .ok (.if_icmp .eq 9, 3) := dk_159 0 9 (dk_at dksX5_next_11 6 rfl rfl)
theorem dX5_next_267 : decode cX5_next 267 = .ok (.iload_n 1, 1) := dk_27 (dk_at dksX5_next_11 9 rfl rfl)
theorem dX5_next_268 : decode cX5_next 268 = .ok (.bipush 125, 2) := dk_16 125 (dk_at dksX5_next_11 10 rfl rfl)
theorem dX5_next_270 : decode cX5_next 270 = .ok (.if_icmp .ne 7, 3) := dk_160 0 7 (dk_at dksX5_next_11 12 rfl rfl)
theorem dX5_next_273 : decode cX5_next 273 = .ok (.iload_n 1, 1) := dk_27 (dk_at dksX5_next_11 15 rfl rfl)
theorem dX5_next_274 : decode cX5_next 274 = .ok (.goto 4, 3) := dk_167 0 4 (dk_at dksX5_next_11 16 rfl rfl)
theorem dX5_next_277 : decode cX5_next 277 = .ok (.iconst 3, 1) := dk_6 (dk_at dksX5_next_11 19 rfl rfl)
theorem dX5_next_278 : decode cX5_next 278 = .ok (.putfield 214, 3) := dk_181 0 214 (dk_at dksX5_next_11 20 rfl rfl)
theorem dX5_next_281 : decode cX5_next 281 = .ok (.aload_n 0, 1) := dk_42 (dk_at dksX5_next_11 23 rfl rfl)
theorem dX5_next_282 : decode cX5_next 282 = .ok (.dup, 1) := dk_89 (dk_at dksX5_next_12 0 rfl rfl)
theorem dX5_next_283 : decode cX5_next 283 = .ok (.getfield 192, 3) := dk_180 0 192 (dk_at dksX5_next_12 1 rfl rfl)
theorem dX5_next_286 : decode cX5_next 286 = .ok (.iconst 1, 1) := dk_4 (dk_at dksX5_next_12 4 rfl rfl)
theorem dX5_next_287 : decode cX5_next 287 = .ok (.iadd, 1) := dk_96 (dk_at dksX5_next_12 5 rfl rfl)
theorem dX5_next_288 : decode cX5_next 288 = .ok (.putfield 192, 3) := dk_181 0 192 (dk_at dksX5_next_12 6 rfl rfl)
theorem dX5_next_291 : decode cX5_next 291 = .ok (.return_, 1) := dk_177 (dk_at dksX5_next_12 9 rfl rfl)
abbrev cX5_here : ByteArray := prog_24_method_6_code
def yX5_here : MethodName := ⟨RX5, "here", "()I"⟩
def dkwX5_here_1 : List UInt8 := [167, 0, 4, 2, 172]
abbrev dktX5_here_1 : List UInt8 := dkwX5_here_1 ++ []
def dkwX5_here_0 : List UInt8 := [42, 180, 0, 192, 42, 180, 0, 195, 162, 0, 19, 42, 180, 0, 67, 42, 180, 0, 192, 51, 17, 0, 255, 126]
abbrev dktX5_here_0 : List UInt8 := dkwX5_here_0 ++ dktX5_here_1
theorem dksX5_here_0 : cX5_here.data.toList.drop 0 = dktX5_here_0 := by decide +kernel
theorem dksX5_here_1 : cX5_here.data.toList.drop 24 = dktX5_here_1 := dk_seg dksX5_here_0 24 rfl rfl
theorem dX5_here_0 : decode cX5_here 0 = .ok (.aload_n 0, 1) := dk_42 (dk_at dksX5_here_0 0 rfl rfl)
theorem dX5_here_1 : decode cX5_here 1 = .ok (.getfield 192, 3) := dk_180 0 192 (dk_at dksX5_here_0 1 rfl rfl)
theorem dX5_here_4 : decode cX5_here 4 = .ok (.aload_n 0, 1) := dk_42 (dk_at dksX5_here_0 4 rfl rfl)
theorem dX5_here_5 : decode cX5_here 5 = .ok (.getfield 195, 3) := dk_180 0 195 (dk_at dksX5_here_0 5 rfl rfl)
theorem dX5_here_8 : decode cX5_here 8 = .ok (.if_icmp .ge 19, 3) := dk_162 0 19 (dk_at dksX5_here_0 8 rfl rfl)
theorem dX5_here_11 : decode cX5_here 11 = .ok (.aload_n 0, 1) := dk_42 (dk_at dksX5_here_0 11 rfl rfl)
theorem dX5_here_12 : decode cX5_here 12 = .ok (.getfield 67, 3) := dk_180 0 67 (dk_at dksX5_here_0 12 rfl rfl)
theorem dX5_here_15 : decode cX5_here 15 = .ok (.aload_n 0, 1) := dk_42 (dk_at dksX5_here_0 15 rfl rfl)
theorem dX5_here_16 : decode cX5_here 16 = .ok (.getfield 192, 3) := dk_180 0 192 (dk_at dksX5_here_0 16 rfl rfl)
theorem dX5_here_19 : decode cX5_here 19 = .ok (.baload, 1) := dk_51 (dk_at dksX5_here_0 19 rfl rfl)
theorem dX5_here_20 : decode cX5_here 20 = .ok (.sipush 255, 3) := dk_17 0 255 (dk_at dksX5_here_0 20 rfl rfl)
theorem dX5_here_23 : decode cX5_here 23 = .ok (.iand, 1) := dk_126 (dk_at dksX5_here_0 23 rfl rfl)
theorem dX5_here_24 : decode cX5_here 24 = .ok (.goto 4, 3) := dk_167 0 4 (dk_at dksX5_here_1 0 rfl rfl)
theorem dX5_here_27 : decode cX5_here 27 = .ok (.iconst (-1), 1) := dk_2 (dk_at dksX5_here_1 3 rfl rfl)
theorem dX5_here_28 : decode cX5_here 28 = .ok (.ireturn, 1) := dk_172 (dk_at dksX5_here_1 4 rfl rfl)
abbrev cX5_kindHere : ByteArray := prog_24_method_14_code
def yX5_kindHere : MethodName := ⟨RX5, "kindHere", "()I"⟩
def dkwX5_kindHere_5 : List UInt8 := [2, 172]
abbrev dktX5_kindHere_5 : List UInt8 := dkwX5_kindHere_5 ++ []
def dkwX5_kindHere_4 : List UInt8 := [20, 1, 12, 148, 154, 0, 6, 16, 6, 172, 42, 180, 0, 207, 20, 1, 14, 148, 154, 0, 6, 16, 7, 172]
abbrev dktX5_kindHere_4 : List UInt8 := dkwX5_kindHere_4 ++ dktX5_kindHere_5
def dkwX5_kindHere_3 : List UInt8 := [154, 0, 5, 7, 172, 42, 180, 0, 207, 20, 1, 10, 148, 154, 0, 5, 8, 172, 42, 180, 0, 207]
abbrev dktX5_kindHere_3 : List UInt8 := dkwX5_kindHere_3 ++ dktX5_kindHere_4
def dkwX5_kindHere_2 : List UInt8 := [172, 42, 180, 0, 207, 20, 1, 6, 148, 154, 0, 5, 6, 172, 42, 180, 0, 207, 20, 1, 8, 148]
abbrev dktX5_kindHere_2 : List UInt8 := dkwX5_kindHere_2 ++ dktX5_kindHere_3
def dkwX5_kindHere_1 : List UInt8 := [180, 0, 207, 20, 1, 2, 148, 154, 0, 5, 4, 172, 42, 180, 0, 207, 20, 1, 4, 148, 154, 0, 5, 5]
abbrev dktX5_kindHere_1 : List UInt8 := dkwX5_kindHere_1 ++ dktX5_kindHere_2
def dkwX5_kindHere_0 : List UInt8 := [42, 180, 0, 214, 4, 159, 0, 5, 2, 172, 42, 180, 0, 207, 20, 1, 0, 148, 154, 0, 5, 3, 172, 42]
abbrev dktX5_kindHere_0 : List UInt8 := dkwX5_kindHere_0 ++ dktX5_kindHere_1
theorem dksX5_kindHere_0 : cX5_kindHere.data.toList.drop 0 = dktX5_kindHere_0 := by decide +kernel
theorem dksX5_kindHere_1 : cX5_kindHere.data.toList.drop 24 = dktX5_kindHere_1 := dk_seg dksX5_kindHere_0 24 rfl rfl
theorem dksX5_kindHere_2 : cX5_kindHere.data.toList.drop 48 = dktX5_kindHere_2 := dk_seg dksX5_kindHere_1 24 rfl rfl
theorem dksX5_kindHere_3 : cX5_kindHere.data.toList.drop 70 = dktX5_kindHere_3 := dk_seg dksX5_kindHere_2 22 rfl rfl
theorem dksX5_kindHere_4 : cX5_kindHere.data.toList.drop 92 = dktX5_kindHere_4 := dk_seg dksX5_kindHere_3 22 rfl rfl
theorem dksX5_kindHere_5 : cX5_kindHere.data.toList.drop 116 = dktX5_kindHere_5 := dk_seg dksX5_kindHere_4 24 rfl rfl
theorem dX5_kindHere_0 : decode cX5_kindHere 0 = .ok (.aload_n 0, 1) := dk_42 (dk_at dksX5_kindHere_0 0 rfl rfl)
theorem dX5_kindHere_1 : decode cX5_kindHere 1 = .ok (.getfield 214, 3) := dk_180 0 214 (dk_at dksX5_kindHere_0 1 rfl rfl)
theorem dX5_kindHere_4 : decode cX5_kindHere 4 = .ok (.iconst 1, 1) := dk_4 (dk_at dksX5_kindHere_0 4 rfl rfl)
theorem dX5_kindHere_5 : decode cX5_kindHere 5 = .ok (.if_icmp .eq 5, 3) := dk_159 0 5 (dk_at dksX5_kindHere_0 5 rfl rfl)
theorem dX5_kindHere_8 : decode cX5_kindHere 8 = .ok (.iconst (-1), 1) := dk_2 (dk_at dksX5_kindHere_0 8 rfl rfl)
theorem dX5_kindHere_9 : decode cX5_kindHere 9 = .ok (.ireturn, 1) := dk_172 (dk_at dksX5_kindHere_0 9 rfl rfl)
theorem dX5_kindHere_10 : decode cX5_kindHere 10 = .ok (.aload_n 0, 1) := dk_42 (dk_at dksX5_kindHere_0 10 rfl rfl)
theorem dX5_kindHere_11 : decode cX5_kindHere 11 = .ok (.getfield 207, 3) := dk_180 0 207 (dk_at dksX5_kindHere_0 11 rfl rfl)
theorem dX5_kindHere_14 : decode cX5_kindHere 14 = .ok (.ldc2_w 256, 3) := dk_20 1 0 (dk_at dksX5_kindHere_0 14 rfl rfl)
theorem dX5_kindHere_17 : decode cX5_kindHere 17 = .ok (.lcmp, 1) := dk_148 (dk_at dksX5_kindHere_0 17 rfl rfl)
theorem dX5_kindHere_18 : decode cX5_kindHere 18 = .ok (.ifCond .ne 5, 3) := dk_154 0 5 (dk_at dksX5_kindHere_0 18 rfl rfl)
theorem dX5_kindHere_21 : decode cX5_kindHere 21 = .ok (.iconst 0, 1) := dk_3 (dk_at dksX5_kindHere_0 21 rfl rfl)
theorem dX5_kindHere_22 : decode cX5_kindHere 22 = .ok (.ireturn, 1) := dk_172 (dk_at dksX5_kindHere_0 22 rfl rfl)
theorem dX5_kindHere_23 : decode cX5_kindHere 23 = .ok (.aload_n 0, 1) := dk_42 (dk_at dksX5_kindHere_0 23 rfl rfl)
theorem dX5_kindHere_24 : decode cX5_kindHere 24 = .ok (.getfield 207, 3) := dk_180 0 207 (dk_at dksX5_kindHere_1 0 rfl rfl)
theorem dX5_kindHere_27 : decode cX5_kindHere 27 = .ok (.ldc2_w 258, 3) := dk_20 1 2 (dk_at dksX5_kindHere_1 3 rfl rfl)
theorem dX5_kindHere_30 : decode cX5_kindHere 30 = .ok (.lcmp, 1) := dk_148 (dk_at dksX5_kindHere_1 6 rfl rfl)
theorem dX5_kindHere_31 : decode cX5_kindHere 31 = .ok (.ifCond .ne 5, 3) := dk_154 0 5 (dk_at dksX5_kindHere_1 7 rfl rfl)
theorem dX5_kindHere_34 : decode cX5_kindHere 34 = .ok (.iconst 1, 1) := dk_4 (dk_at dksX5_kindHere_1 10 rfl rfl)
theorem dX5_kindHere_35 : decode cX5_kindHere 35 = .ok (.ireturn, 1) := dk_172 (dk_at dksX5_kindHere_1 11 rfl rfl)
theorem dX5_kindHere_36 : decode cX5_kindHere 36 = .ok (.aload_n 0, 1) := dk_42 (dk_at dksX5_kindHere_1 12 rfl rfl)
theorem dX5_kindHere_37 : decode cX5_kindHere 37 = .ok (.getfield 207, 3) := dk_180 0 207 (dk_at dksX5_kindHere_1 13 rfl rfl)
theorem dX5_kindHere_40 : decode cX5_kindHere 40 = .ok (.ldc2_w 260, 3) := dk_20 1 4 (dk_at dksX5_kindHere_1 16 rfl rfl)
theorem dX5_kindHere_43 : decode cX5_kindHere 43 = .ok (.lcmp, 1) := dk_148 (dk_at dksX5_kindHere_1 19 rfl rfl)
theorem dX5_kindHere_44 : decode cX5_kindHere 44 = .ok (.ifCond .ne 5, 3) := dk_154 0 5 (dk_at dksX5_kindHere_1 20 rfl rfl)
theorem dX5_kindHere_47 : decode cX5_kindHere 47 = .ok (.iconst 2, 1) := dk_5 (dk_at dksX5_kindHere_1 23 rfl rfl)
theorem dX5_kindHere_48 : decode cX5_kindHere 48 = .ok (.ireturn, 1) := dk_172 (dk_at dksX5_kindHere_2 0 rfl rfl)
theorem dX5_kindHere_49 : decode cX5_kindHere 49 = .ok (.aload_n 0, 1) := dk_42 (dk_at dksX5_kindHere_2 1 rfl rfl)
theorem dX5_kindHere_50 : decode cX5_kindHere 50 = .ok (.getfield 207, 3) := dk_180 0 207 (dk_at dksX5_kindHere_2 2 rfl rfl)
theorem dX5_kindHere_53 : decode cX5_kindHere 53 = .ok (.ldc2_w 262, 3) := dk_20 1 6 (dk_at dksX5_kindHere_2 5 rfl rfl)
theorem dX5_kindHere_56 : decode cX5_kindHere 56 = .ok (.lcmp, 1) := dk_148 (dk_at dksX5_kindHere_2 8 rfl rfl)
theorem dX5_kindHere_57 : decode cX5_kindHere 57 = .ok (.ifCond .ne 5, 3) := dk_154 0 5 (dk_at dksX5_kindHere_2 9 rfl rfl)
theorem dX5_kindHere_60 : decode cX5_kindHere 60 = .ok (.iconst 3, 1) := dk_6 (dk_at dksX5_kindHere_2 12 rfl rfl)
theorem dX5_kindHere_61 : decode cX5_kindHere 61 = .ok (.ireturn, 1) := dk_172 (dk_at dksX5_kindHere_2 13 rfl rfl)
theorem dX5_kindHere_62 : decode cX5_kindHere 62 = .ok (.aload_n 0, 1) := dk_42 (dk_at dksX5_kindHere_2 14 rfl rfl)
theorem dX5_kindHere_63 : decode cX5_kindHere 63 = .ok (.getfield 207, 3) := dk_180 0 207 (dk_at dksX5_kindHere_2 15 rfl rfl)
theorem dX5_kindHere_66 : decode cX5_kindHere 66 = .ok (.ldc2_w 264, 3) := dk_20 1 8 (dk_at dksX5_kindHere_2 18 rfl rfl)
theorem dX5_kindHere_69 : decode cX5_kindHere 69 = .ok (.lcmp, 1) := dk_148 (dk_at dksX5_kindHere_2 21 rfl rfl)
theorem dX5_kindHere_70 : decode cX5_kindHere 70 = .ok (.ifCond .ne 5, 3) := dk_154 0 5 (dk_at dksX5_kindHere_3 0 rfl rfl)
theorem dX5_kindHere_73 : decode cX5_kindHere 73 = .ok (.iconst 4, 1) := dk_7 (dk_at dksX5_kindHere_3 3 rfl rfl)
theorem dX5_kindHere_74 : decode cX5_kindHere 74 = .ok (.ireturn, 1) := dk_172 (dk_at dksX5_kindHere_3 4 rfl rfl)
theorem dX5_kindHere_75 : decode cX5_kindHere 75 = .ok (.aload_n 0, 1) := dk_42 (dk_at dksX5_kindHere_3 5 rfl rfl)
theorem dX5_kindHere_76 : decode cX5_kindHere 76 = .ok (.getfield 207, 3) := dk_180 0 207 (dk_at dksX5_kindHere_3 6 rfl rfl)
theorem dX5_kindHere_79 : decode cX5_kindHere 79 = .ok (.ldc2_w 266, 3) := dk_20 1 10 (dk_at dksX5_kindHere_3 9 rfl rfl)
theorem dX5_kindHere_82 : decode cX5_kindHere 82 = .ok (.lcmp, 1) := dk_148 (dk_at dksX5_kindHere_3 12 rfl rfl)
theorem dX5_kindHere_83 : decode cX5_kindHere 83 = .ok (.ifCond .ne 5, 3) := dk_154 0 5 (dk_at dksX5_kindHere_3 13 rfl rfl)
theorem dX5_kindHere_86 : decode cX5_kindHere 86 = .ok (.iconst 5, 1) := dk_8 (dk_at dksX5_kindHere_3 16 rfl rfl)
theorem dX5_kindHere_87 : decode cX5_kindHere 87 = .ok (.ireturn, 1) := dk_172 (dk_at dksX5_kindHere_3 17 rfl rfl)
theorem dX5_kindHere_88 : decode cX5_kindHere 88 = .ok (.aload_n 0, 1) := dk_42 (dk_at dksX5_kindHere_3 18 rfl rfl)
theorem dX5_kindHere_89 : decode cX5_kindHere 89 = .ok (.getfield 207, 3) := dk_180 0 207 (dk_at dksX5_kindHere_3 19 rfl rfl)
theorem dX5_kindHere_92 : decode cX5_kindHere 92 = .ok (.ldc2_w 268, 3) := dk_20 1 12 (dk_at dksX5_kindHere_4 0 rfl rfl)
theorem dX5_kindHere_95 : decode cX5_kindHere 95 = .ok (.lcmp, 1) := dk_148 (dk_at dksX5_kindHere_4 3 rfl rfl)
theorem dX5_kindHere_96 : decode cX5_kindHere 96 = .ok (.ifCond .ne 6, 3) := dk_154 0 6 (dk_at dksX5_kindHere_4 4 rfl rfl)
theorem dX5_kindHere_99 : decode cX5_kindHere 99 = .ok (.bipush 6, 2) := dk_16 6 (dk_at dksX5_kindHere_4 7 rfl rfl)
theorem dX5_kindHere_101 : decode cX5_kindHere 101 = .ok (.ireturn, 1) := dk_172 (dk_at dksX5_kindHere_4 9 rfl rfl)
theorem dX5_kindHere_102 : decode cX5_kindHere 102 = .ok (.aload_n 0, 1) := dk_42 (dk_at dksX5_kindHere_4 10 rfl rfl)
theorem dX5_kindHere_103 : decode cX5_kindHere 103 = .ok (.getfield 207, 3) := dk_180 0 207 (dk_at dksX5_kindHere_4 11 rfl rfl)
theorem dX5_kindHere_106 : decode cX5_kindHere 106 = .ok (.ldc2_w 270, 3) := dk_20 1 14 (dk_at dksX5_kindHere_4 14 rfl rfl)
theorem dX5_kindHere_109 : decode cX5_kindHere 109 = .ok (.lcmp, 1) := dk_148 (dk_at dksX5_kindHere_4 17 rfl rfl)
theorem dX5_kindHere_110 : decode cX5_kindHere 110 = .ok (.ifCond .ne 6, 3) := dk_154 0 6 (dk_at dksX5_kindHere_4 18 rfl rfl)
theorem dX5_kindHere_113 : decode cX5_kindHere 113 = .ok (.bipush 7, 2) := dk_16 7 (dk_at dksX5_kindHere_4 21 rfl rfl)
theorem dX5_kindHere_115 : decode cX5_kindHere 115 = .ok (.ireturn, 1) := dk_172 (dk_at dksX5_kindHere_4 23 rfl rfl)
theorem dX5_kindHere_116 : decode cX5_kindHere 116 = .ok (.iconst (-1), 1) := dk_2 (dk_at dksX5_kindHere_5 0 rfl rfl)
theorem dX5_kindHere_117 : decode cX5_kindHere 117 = .ok (.ireturn, 1) := dk_172 (dk_at dksX5_kindHere_5 1 rfl rfl)
abbrev cX5_errs : ByteArray := prog_24_method_8_code
def yX5_errs : MethodName := ⟨RX5, "errs", "()V"⟩
def dkwX5_errs_0 : List UInt8 := [42, 180, 0, 220, 153, 0, 4, 177, 42, 4, 181, 0, 220, 42, 42, 180, 0, 202, 181, 0, 71, 177]
abbrev dktX5_errs_0 : List UInt8 := dkwX5_errs_0 ++ []
theorem dksX5_errs_0 : cX5_errs.data.toList.drop 0 = dktX5_errs_0 := by decide +kernel
theorem dX5_errs_0 : decode cX5_errs 0 = .ok (.aload_n 0, 1) := dk_42 (dk_at dksX5_errs_0 0 rfl rfl)
theorem dX5_errs_1 : decode cX5_errs 1 = .ok (.getfield 220, 3) := dk_180 0 220 (dk_at dksX5_errs_0 1 rfl rfl)
theorem dX5_errs_4 : decode cX5_errs 4 = .ok (.ifCond .eq 4, 3) := dk_153 0 4 (dk_at dksX5_errs_0 4 rfl rfl)
theorem dX5_errs_7 : decode cX5_errs 7 = .ok (.return_, 1) := dk_177 (dk_at dksX5_errs_0 7 rfl rfl)
theorem dX5_errs_8 : decode cX5_errs 8 = .ok (.aload_n 0, 1) := dk_42 (dk_at dksX5_errs_0 8 rfl rfl)
theorem dX5_errs_9 : decode cX5_errs 9 = .ok (.iconst 1, 1) := dk_4 (dk_at dksX5_errs_0 9 rfl rfl)
theorem dX5_errs_10 : decode cX5_errs 10 = .ok (.putfield 220, 3) := dk_181 0 220 (dk_at dksX5_errs_0 10 rfl rfl)
theorem dX5_errs_13 : decode cX5_errs 13 = .ok (.aload_n 0, 1) := dk_42 (dk_at dksX5_errs_0 13 rfl rfl)
theorem dX5_errs_14 : decode cX5_errs 14 = .ok (.aload_n 0, 1) := dk_42 (dk_at dksX5_errs_0 14 rfl rfl)
theorem dX5_errs_15 : decode cX5_errs 15 = .ok (.getfield 202, 3) := dk_180 0 202 (dk_at dksX5_errs_0 15 rfl rfl)
theorem dX5_errs_18 : decode cX5_errs 18 = .ok (.putfield 71, 3) := dk_181 0 71 (dk_at dksX5_errs_0 18 rfl rfl)
theorem dX5_errs_21 : decode cX5_errs 21 = .ok (.return_, 1) := dk_177 (dk_at dksX5_errs_0 21 rfl rfl)
abbrev cX5_readLeaf : ByteArray := prog_24_method_19_code
def yX5_readLeaf : MethodName := ⟨RX5, "readLeaf", "(I)V"⟩
def dkwX5_readLeaf_9 : List UInt8 := [28, 42, 42, 180, 0, 61, 28, 46, 17, 1, 143, 182, 1, 43, 79, 177]
abbrev dktX5_readLeaf_9 : List UInt8 := dkwX5_readLeaf_9 ++ []
def dkwX5_readLeaf_8 : List UInt8 := [46, 17, 1, 143, 182, 1, 43, 79, 27, 6, 160, 0, 29, 42, 20, 1, 57, 182, 1, 49, 42, 180, 0, 64]
abbrev dktX5_readLeaf_8 : List UInt8 := dkwX5_readLeaf_8 ++ dktX5_readLeaf_9
def dkwX5_readLeaf_7 : List UInt8 := [20, 1, 55, 182, 0, 224, 153, 0, 26, 42, 182, 0, 228, 42, 180, 0, 64, 28, 42, 42, 180, 0, 61, 28]
abbrev dktX5_readLeaf_7 : List UInt8 := dkwX5_readLeaf_7 ++ dktX5_readLeaf_8
def dkwX5_readLeaf_6 : List UInt8 := [180, 0, 64, 28, 42, 180, 0, 61, 28, 46, 79, 27, 5, 160, 0, 43, 42, 180, 0, 220, 154, 0, 36, 42]
abbrev dktX5_readLeaf_6 : List UInt8 := dkwX5_readLeaf_6 ++ dktX5_readLeaf_7
def dkwX5_readLeaf_5 : List UInt8 := [42, 20, 1, 53, 182, 1, 49, 42, 180, 0, 61, 28, 42, 3, 17, 1, 143, 182, 1, 43, 79, 42]
abbrev dktX5_readLeaf_5 : List UInt8 := dkwX5_readLeaf_5 ++ dktX5_readLeaf_6
def dkwX5_readLeaf_4 : List UInt8 := [161, 0, 24, 42, 20, 1, 47, 182, 1, 49, 42, 180, 0, 58, 28, 42, 3, 17, 39, 15, 182, 1, 43, 79]
abbrev dktX5_readLeaf_4 : List UInt8 := dkwX5_readLeaf_4 ++ dktX5_readLeaf_5
def dkwX5_readLeaf_3 : List UInt8 := [79, 42, 180, 0, 55, 28, 42, 3, 17, 39, 15, 182, 1, 43, 79, 42, 180, 0, 58, 28, 3, 79, 27, 5]
abbrev dktX5_readLeaf_3 : List UInt8 := dkwX5_readLeaf_3 ++ dktX5_readLeaf_4
def dkwX5_readLeaf_2 : List UInt8 := [180, 0, 49, 28, 42, 42, 180, 0, 46, 28, 46, 182, 1, 37, 79, 42, 180, 0, 52, 28, 42, 182, 1, 40]
abbrev dktX5_readLeaf_2 : List UInt8 := dkwX5_readLeaf_2 ++ dktX5_readLeaf_3
def dkwX5_readLeaf_1 : List UInt8 := [180, 1, 30, 4, 96, 181, 1, 30, 42, 182, 0, 228, 42, 180, 0, 46, 28, 42, 2, 182, 1, 37, 79, 42]
abbrev dktX5_readLeaf_1 : List UInt8 := dkwX5_readLeaf_1 ++ dktX5_readLeaf_2
def dkwX5_readLeaf_0 : List UInt8 := [42, 180, 1, 30, 16, 12, 160, 0, 8, 42, 182, 0, 231, 177, 42, 27, 182, 1, 33, 61, 42, 89]
abbrev dktX5_readLeaf_0 : List UInt8 := dkwX5_readLeaf_0 ++ dktX5_readLeaf_1
theorem dksX5_readLeaf_0 : cX5_readLeaf.data.toList.drop 0 = dktX5_readLeaf_0 := by decide +kernel
theorem dksX5_readLeaf_1 : cX5_readLeaf.data.toList.drop 22 = dktX5_readLeaf_1 := dk_seg dksX5_readLeaf_0 22 rfl rfl
theorem dksX5_readLeaf_2 : cX5_readLeaf.data.toList.drop 46 = dktX5_readLeaf_2 := dk_seg dksX5_readLeaf_1 24 rfl rfl
theorem dksX5_readLeaf_3 : cX5_readLeaf.data.toList.drop 70 = dktX5_readLeaf_3 := dk_seg dksX5_readLeaf_2 24 rfl rfl
theorem dksX5_readLeaf_4 : cX5_readLeaf.data.toList.drop 94 = dktX5_readLeaf_4 := dk_seg dksX5_readLeaf_3 24 rfl rfl
theorem dksX5_readLeaf_5 : cX5_readLeaf.data.toList.drop 118 = dktX5_readLeaf_5 := dk_seg dksX5_readLeaf_4 24 rfl rfl
theorem dksX5_readLeaf_6 : cX5_readLeaf.data.toList.drop 140 = dktX5_readLeaf_6 := dk_seg dksX5_readLeaf_5 22 rfl rfl
theorem dksX5_readLeaf_7 : cX5_readLeaf.data.toList.drop 164 = dktX5_readLeaf_7 := dk_seg dksX5_readLeaf_6 24 rfl rfl
theorem dksX5_readLeaf_8 : cX5_readLeaf.data.toList.drop 188 = dktX5_readLeaf_8 := dk_seg dksX5_readLeaf_7 24 rfl rfl
theorem dksX5_readLeaf_9 : cX5_readLeaf.data.toList.drop 212 = dktX5_readLeaf_9 := dk_seg dksX5_readLeaf_8 24 rfl rfl
theorem dX5_readLeaf_0 : decode cX5_readLeaf 0 = .ok (.aload_n 0, 1) := dk_42 (dk_at dksX5_readLeaf_0 0 rfl rfl)
theorem dX5_readLeaf_1 : decode cX5_readLeaf 1 = .ok (.getfield 286, 3) := dk_180 1 30 (dk_at dksX5_readLeaf_0 1 rfl rfl)
theorem dX5_readLeaf_4 : decode cX5_readLeaf 4 = .ok (.bipush 12, 2) := dk_16 12 (dk_at dksX5_readLeaf_0 4 rfl rfl)
theorem dX5_readLeaf_6 : decode cX5_readLeaf 6 = .ok (.if_icmp .ne 8, 3) := dk_160 0 8 (dk_at dksX5_readLeaf_0 6 rfl rfl)
theorem dX5_readLeaf_9 : decode cX5_readLeaf 9 = .ok (.aload_n 0, 1) := dk_42 (dk_at dksX5_readLeaf_0 9 rfl rfl)
theorem dX5_readLeaf_10 : decode cX5_readLeaf 10 = .ok (.invokevirtual 231, 3) := dk_182 0 231 (dk_at dksX5_readLeaf_0 10 rfl rfl)
theorem dX5_readLeaf_13 : decode cX5_readLeaf 13 = .ok (.return_, 1) := dk_177 (dk_at dksX5_readLeaf_0 13 rfl rfl)
theorem dX5_readLeaf_14 : decode cX5_readLeaf 14 = .ok (.aload_n 0, 1) := dk_42 (dk_at dksX5_readLeaf_0 14 rfl rfl)
theorem dX5_readLeaf_15 : decode cX5_readLeaf 15 = .ok (.iload_n 1, 1) := dk_27 (dk_at dksX5_readLeaf_0 15 rfl rfl)
theorem dX5_readLeaf_16 : decode cX5_readLeaf 16 = .ok (.invokevirtual 289, 3) := dk_182 1 33 (dk_at dksX5_readLeaf_0 16 rfl rfl)
theorem dX5_readLeaf_19 : decode cX5_readLeaf 19 = .ok (.istore_n 2, 1) := dk_61 (dk_at dksX5_readLeaf_0 19 rfl rfl)
theorem dX5_readLeaf_20 : decode cX5_readLeaf 20 = .ok (.aload_n 0, 1) := dk_42 (dk_at dksX5_readLeaf_0 20 rfl rfl)
theorem dX5_readLeaf_21 : decode cX5_readLeaf 21 = .ok (.dup, 1) := dk_89 (dk_at dksX5_readLeaf_0 21 rfl rfl)
theorem dX5_readLeaf_22 : decode cX5_readLeaf 22 = .ok (.getfield 286, 3) := dk_180 1 30 (dk_at dksX5_readLeaf_1 0 rfl rfl)
theorem dX5_readLeaf_25 : decode cX5_readLeaf 25 = .ok (.iconst 1, 1) := dk_4 (dk_at dksX5_readLeaf_1 3 rfl rfl)
theorem dX5_readLeaf_26 : decode cX5_readLeaf 26 = .ok (.iadd, 1) := dk_96 (dk_at dksX5_readLeaf_1 4 rfl rfl)
theorem dX5_readLeaf_27 : decode cX5_readLeaf 27 = .ok (.putfield 286, 3) := dk_181 1 30 (dk_at dksX5_readLeaf_1 5 rfl rfl)
theorem dX5_readLeaf_30 : decode cX5_readLeaf 30 = .ok (.aload_n 0, 1) := dk_42 (dk_at dksX5_readLeaf_1 8 rfl rfl)
theorem dX5_readLeaf_31 : decode cX5_readLeaf 31 = .ok (.invokevirtual 228, 3) := dk_182 0 228 (dk_at dksX5_readLeaf_1 9 rfl rfl)
theorem dX5_readLeaf_34 : decode cX5_readLeaf 34 = .ok (.aload_n 0, 1) := dk_42 (dk_at dksX5_readLeaf_1 12 rfl rfl)
theorem dX5_readLeaf_35 : decode cX5_readLeaf 35 = .ok (.getfield 46, 3) := dk_180 0 46 (dk_at dksX5_readLeaf_1 13 rfl rfl)
theorem dX5_readLeaf_38 : decode cX5_readLeaf 38 = .ok (.iload_n 2, 1) := dk_28 (dk_at dksX5_readLeaf_1 16 rfl rfl)
theorem dX5_readLeaf_39 : decode cX5_readLeaf 39 = .ok (.aload_n 0, 1) := dk_42 (dk_at dksX5_readLeaf_1 17 rfl rfl)
theorem dX5_readLeaf_40 : decode cX5_readLeaf 40 = .ok (.iconst (-1), 1) := dk_2 (dk_at dksX5_readLeaf_1 18 rfl rfl)
theorem dX5_readLeaf_41 : decode cX5_readLeaf 41 = .ok (.invokevirtual 293, 3) := dk_182 1 37 (dk_at dksX5_readLeaf_1 19 rfl rfl)
theorem dX5_readLeaf_44 : decode cX5_readLeaf 44 = .ok (.iastore, 1) := dk_79 (dk_at dksX5_readLeaf_1 22 rfl rfl)
theorem dX5_readLeaf_45 : decode cX5_readLeaf 45 = .ok (.aload_n 0, 1) := dk_42 (dk_at dksX5_readLeaf_1 23 rfl rfl)
theorem dX5_readLeaf_46 : decode cX5_readLeaf 46 = .ok (.getfield 49, 3) := dk_180 0 49 (dk_at dksX5_readLeaf_2 0 rfl rfl)
theorem dX5_readLeaf_49 : decode cX5_readLeaf 49 = .ok (.iload_n 2, 1) := dk_28 (dk_at dksX5_readLeaf_2 3 rfl rfl)
theorem dX5_readLeaf_50 : decode cX5_readLeaf 50 = .ok (.aload_n 0, 1) := dk_42 (dk_at dksX5_readLeaf_2 4 rfl rfl)
theorem dX5_readLeaf_51 : decode cX5_readLeaf 51 = .ok (.aload_n 0, 1) := dk_42 (dk_at dksX5_readLeaf_2 5 rfl rfl)
theorem dX5_readLeaf_52 : decode cX5_readLeaf 52 = .ok (.getfield 46, 3) := dk_180 0 46 (dk_at dksX5_readLeaf_2 6 rfl rfl)
theorem dX5_readLeaf_55 : decode cX5_readLeaf 55 = .ok (.iload_n 2, 1) := dk_28 (dk_at dksX5_readLeaf_2 9 rfl rfl)
theorem dX5_readLeaf_56 : decode cX5_readLeaf 56 = .ok (.iaload, 1) := dk_46 (dk_at dksX5_readLeaf_2 10 rfl rfl)
theorem dX5_readLeaf_57 : decode cX5_readLeaf 57 = .ok (.invokevirtual 293, 3) := dk_182 1 37 (dk_at dksX5_readLeaf_2 11 rfl rfl)
theorem dX5_readLeaf_60 : decode cX5_readLeaf 60 = .ok (.iastore, 1) := dk_79 (dk_at dksX5_readLeaf_2 14 rfl rfl)
theorem dX5_readLeaf_61 : decode cX5_readLeaf 61 = .ok (.aload_n 0, 1) := dk_42 (dk_at dksX5_readLeaf_2 15 rfl rfl)
theorem dX5_readLeaf_62 : decode cX5_readLeaf 62 = .ok (.getfield 52, 3) := dk_180 0 52 (dk_at dksX5_readLeaf_2 16 rfl rfl)
theorem dX5_readLeaf_65 : decode cX5_readLeaf 65 = .ok (.iload_n 2, 1) := dk_28 (dk_at dksX5_readLeaf_2 19 rfl rfl)
theorem dX5_readLeaf_66 : decode cX5_readLeaf 66 = .ok (.aload_n 0, 1) := dk_42 (dk_at dksX5_readLeaf_2 20 rfl rfl)
theorem dX5_readLeaf_67 : decode cX5_readLeaf 67 = .ok (.invokevirtual 296, 3) := dk_182 1 40 (dk_at dksX5_readLeaf_2 21 rfl rfl)
theorem dX5_readLeaf_70 : decode cX5_readLeaf 70 = .ok (.iastore, 1) := dk_79 (dk_at dksX5_readLeaf_3 0 rfl rfl)
theorem dX5_readLeaf_71 : decode cX5_readLeaf 71 = .ok (.aload_n 0, 1) := dk_42 (dk_at dksX5_readLeaf_3 1 rfl rfl)
theorem dX5_readLeaf_72 : decode cX5_readLeaf 72 = .ok (.getfield 55, 3) := dk_180 0 55 (dk_at dksX5_readLeaf_3 2 rfl rfl)
theorem dX5_readLeaf_75 : decode cX5_readLeaf 75 = .ok (.iload_n 2, 1) := dk_28 (dk_at dksX5_readLeaf_3 5 rfl rfl)
theorem dX5_readLeaf_76 : decode cX5_readLeaf 76 = .ok (.aload_n 0, 1) := dk_42 (dk_at dksX5_readLeaf_3 6 rfl rfl)
theorem dX5_readLeaf_77 : decode cX5_readLeaf 77 = .ok (.iconst 0, 1) := dk_3 (dk_at dksX5_readLeaf_3 7 rfl rfl)
theorem dX5_readLeaf_78 : decode cX5_readLeaf 78 = .ok (.sipush 9999, 3) := dk_17 39 15 (dk_at dksX5_readLeaf_3 8 rfl rfl)
theorem dX5_readLeaf_81 : decode cX5_readLeaf 81 = .ok (.invokevirtual 299, 3) := dk_182 1 43 (dk_at dksX5_readLeaf_3 11 rfl rfl)
theorem dX5_readLeaf_84 : decode cX5_readLeaf 84 = .ok (.iastore, 1) := dk_79 (dk_at dksX5_readLeaf_3 14 rfl rfl)
theorem dX5_readLeaf_85 : decode cX5_readLeaf 85 = .ok (.aload_n 0, 1) := dk_42 (dk_at dksX5_readLeaf_3 15 rfl rfl)
theorem dX5_readLeaf_86 : decode cX5_readLeaf 86 = .ok (.getfield 58, 3) := dk_180 0 58 (dk_at dksX5_readLeaf_3 16 rfl rfl)
theorem dX5_readLeaf_89 : decode cX5_readLeaf 89 = .ok (.iload_n 2, 1) := dk_28 (dk_at dksX5_readLeaf_3 19 rfl rfl)
theorem dX5_readLeaf_90 : decode cX5_readLeaf 90 = .ok (.iconst 0, 1) := dk_3 (dk_at dksX5_readLeaf_3 20 rfl rfl)
theorem dX5_readLeaf_91 : decode cX5_readLeaf 91 = .ok (.iastore, 1) := dk_79 (dk_at dksX5_readLeaf_3 21 rfl rfl)
theorem dX5_readLeaf_92 : decode cX5_readLeaf 92 = .ok (.iload_n 1, 1) := dk_27 (dk_at dksX5_readLeaf_3 22 rfl rfl)
theorem dX5_readLeaf_93 : decode cX5_readLeaf 93 = .ok (.iconst 2, 1) := dk_5 (dk_at dksX5_readLeaf_3 23 rfl rfl)
theorem dX5_readLeaf_94 : decode cX5_readLeaf 94 = .ok (.if_icmp .lt 24, 3) := dk_161 0 24 (dk_at dksX5_readLeaf_4 0 rfl rfl)
theorem dX5_readLeaf_97 : decode cX5_readLeaf 97 = .ok (.aload_n 0, 1) := dk_42 (dk_at dksX5_readLeaf_4 3 rfl rfl)
theorem dX5_readLeaf_98 : decode cX5_readLeaf 98 = .ok (.ldc2_w 303, 3) := dk_20 1 47 (dk_at dksX5_readLeaf_4 4 rfl rfl)
theorem dX5_readLeaf_101 : decode cX5_readLeaf 101 = .ok (.invokevirtual 305, 3) := dk_182 1 49 (dk_at dksX5_readLeaf_4 7 rfl rfl)
theorem dX5_readLeaf_104 : decode cX5_readLeaf 104 = .ok (.aload_n 0, 1) := dk_42 (dk_at dksX5_readLeaf_4 10 rfl rfl)
theorem dX5_readLeaf_105 : decode cX5_readLeaf 105 = .ok (.getfield 58, 3) := dk_180 0 58 (dk_at dksX5_readLeaf_4 11 rfl rfl)
theorem dX5_readLeaf_108 : decode cX5_readLeaf 108 = .ok (.iload_n 2, 1) := dk_28 (dk_at dksX5_readLeaf_4 14 rfl rfl)
theorem dX5_readLeaf_109 : decode cX5_readLeaf 109 = .ok (.aload_n 0, 1) := dk_42 (dk_at dksX5_readLeaf_4 15 rfl rfl)
theorem dX5_readLeaf_110 : decode cX5_readLeaf 110 = .ok (.iconst 0, 1) := dk_3 (dk_at dksX5_readLeaf_4 16 rfl rfl)
theorem dX5_readLeaf_111 : decode cX5_readLeaf 111 = .ok (.sipush 9999, 3) := dk_17 39 15 (dk_at dksX5_readLeaf_4 17 rfl rfl)
theorem dX5_readLeaf_114 : decode cX5_readLeaf 114 = .ok (.invokevirtual 299, 3) := dk_182 1 43 (dk_at dksX5_readLeaf_4 20 rfl rfl)
theorem dX5_readLeaf_117 : decode cX5_readLeaf 117 = .ok (.iastore, 1) := dk_79 (dk_at dksX5_readLeaf_4 23 rfl rfl)
theorem dX5_readLeaf_118 : decode cX5_readLeaf 118 = .ok (.aload_n 0, 1) := dk_42 (dk_at dksX5_readLeaf_5 0 rfl rfl)
theorem dX5_readLeaf_119 : decode cX5_readLeaf 119 = .ok (.ldc2_w 309, 3) := dk_20 1 53 (dk_at dksX5_readLeaf_5 1 rfl rfl)
theorem dX5_readLeaf_122 : decode cX5_readLeaf 122 = .ok (.invokevirtual 305, 3) := dk_182 1 49 (dk_at dksX5_readLeaf_5 4 rfl rfl)
theorem dX5_readLeaf_125 : decode cX5_readLeaf 125 = .ok (.aload_n 0, 1) := dk_42 (dk_at dksX5_readLeaf_5 7 rfl rfl)
theorem dX5_readLeaf_126 : decode cX5_readLeaf 126 = .ok (.getfield 61, 3) := dk_180 0 61 (dk_at dksX5_readLeaf_5 8 rfl rfl)
theorem dX5_readLeaf_129 : decode cX5_readLeaf 129 = .ok (.iload_n 2, 1) := dk_28 (dk_at dksX5_readLeaf_5 11 rfl rfl)
theorem dX5_readLeaf_130 : decode cX5_readLeaf 130 = .ok (.aload_n 0, 1) := dk_42 (dk_at dksX5_readLeaf_5 12 rfl rfl)
theorem dX5_readLeaf_131 : decode cX5_readLeaf 131 = .ok (.iconst 0, 1) := dk_3 (dk_at dksX5_readLeaf_5 13 rfl rfl)
theorem dX5_readLeaf_132 : decode cX5_readLeaf 132 = .ok (.sipush 399, 3) := dk_17 1 143 (dk_at dksX5_readLeaf_5 14 rfl rfl)
theorem dX5_readLeaf_135 : decode cX5_readLeaf 135 = .ok (.invokevirtual 299, 3) := dk_182 1 43 (dk_at dksX5_readLeaf_5 17 rfl rfl)
theorem dX5_readLeaf_138 : decode cX5_readLeaf 138 = .ok (.iastore, 1) := dk_79 (dk_at dksX5_readLeaf_5 20 rfl rfl)
theorem dX5_readLeaf_139 : decode cX5_readLeaf 139 = .ok (.aload_n 0, 1) := dk_42 (dk_at dksX5_readLeaf_5 21 rfl rfl)
theorem dX5_readLeaf_140 : decode cX5_readLeaf 140 = .ok (.getfield 64, 3) := dk_180 0 64 (dk_at dksX5_readLeaf_6 0 rfl rfl)
theorem dX5_readLeaf_143 : decode cX5_readLeaf 143 = .ok (.iload_n 2, 1) := dk_28 (dk_at dksX5_readLeaf_6 3 rfl rfl)
theorem dX5_readLeaf_144 : decode cX5_readLeaf 144 = .ok (.aload_n 0, 1) := dk_42 (dk_at dksX5_readLeaf_6 4 rfl rfl)
theorem dX5_readLeaf_145 : decode cX5_readLeaf 145 = .ok (.getfield 61, 3) := dk_180 0 61 (dk_at dksX5_readLeaf_6 5 rfl rfl)
theorem dX5_readLeaf_148 : decode cX5_readLeaf 148 = .ok (.iload_n 2, 1) := dk_28 (dk_at dksX5_readLeaf_6 8 rfl rfl)
theorem dX5_readLeaf_149 : decode cX5_readLeaf 149 = .ok (.iaload, 1) := dk_46 (dk_at dksX5_readLeaf_6 9 rfl rfl)
theorem dX5_readLeaf_150 : decode cX5_readLeaf 150 = .ok (.iastore, 1) := dk_79 (dk_at dksX5_readLeaf_6 10 rfl rfl)
theorem dX5_readLeaf_151 : decode cX5_readLeaf 151 = .ok (.iload_n 1, 1) := dk_27 (dk_at dksX5_readLeaf_6 11 rfl rfl)
theorem dX5_readLeaf_152 : decode cX5_readLeaf 152 = .ok (.iconst 2, 1) := dk_5 (dk_at dksX5_readLeaf_6 12 rfl rfl)
theorem dX5_readLeaf_153 : decode cX5_readLeaf 153 = .ok (.if_icmp .ne 43, 3) := dk_160 0 43 (dk_at dksX5_readLeaf_6 13 rfl rfl)
theorem dX5_readLeaf_156 : decode cX5_readLeaf 156 = .ok (.aload_n 0, 1) := dk_42 (dk_at dksX5_readLeaf_6 16 rfl rfl)
theorem dX5_readLeaf_157 : decode cX5_readLeaf 157 = .ok (.getfield 220, 3) := dk_180 0 220 (dk_at dksX5_readLeaf_6 17 rfl rfl)
theorem dX5_readLeaf_160 : decode cX5_readLeaf 160 = .ok (.ifCond .ne 36, 3) := dk_154 0 36 (dk_at dksX5_readLeaf_6 20 rfl rfl)
theorem dX5_readLeaf_163 : decode cX5_readLeaf 163 = .ok (.aload_n 0, 1) := dk_42 (dk_at dksX5_readLeaf_6 23 rfl rfl)
theorem dX5_readLeaf_164 : decode cX5_readLeaf 164 = .ok (.ldc2_w 311, 3) := dk_20 1 55 (dk_at dksX5_readLeaf_7 0 rfl rfl)
theorem dX5_readLeaf_167 : decode cX5_readLeaf 167 = .ok (.invokevirtual 224, 3) := dk_182 0 224 (dk_at dksX5_readLeaf_7 3 rfl rfl)
theorem dX5_readLeaf_170 : decode cX5_readLeaf 170 = .ok (.ifCond .eq 26, 3) := dk_153 0 26 (dk_at dksX5_readLeaf_7 6 rfl rfl)
theorem dX5_readLeaf_173 : decode cX5_readLeaf 173 = .ok (.aload_n 0, 1) := dk_42 (dk_at dksX5_readLeaf_7 9 rfl rfl)
theorem dX5_readLeaf_174 : decode cX5_readLeaf 174 = .ok (.invokevirtual 228, 3) := dk_182 0 228 (dk_at dksX5_readLeaf_7 10 rfl rfl)
theorem dX5_readLeaf_177 : decode cX5_readLeaf 177 = .ok (.aload_n 0, 1) := dk_42 (dk_at dksX5_readLeaf_7 13 rfl rfl)
theorem dX5_readLeaf_178 : decode cX5_readLeaf 178 = .ok (.getfield 64, 3) := dk_180 0 64 (dk_at dksX5_readLeaf_7 14 rfl rfl)
theorem dX5_readLeaf_181 : decode cX5_readLeaf 181 = .ok (.iload_n 2, 1) := dk_28 (dk_at dksX5_readLeaf_7 17 rfl rfl)
theorem dX5_readLeaf_182 : decode cX5_readLeaf 182 = .ok (.aload_n 0, 1) := dk_42 (dk_at dksX5_readLeaf_7 18 rfl rfl)
theorem dX5_readLeaf_183 : decode cX5_readLeaf 183 = .ok (.aload_n 0, 1) := dk_42 (dk_at dksX5_readLeaf_7 19 rfl rfl)
theorem dX5_readLeaf_184 : decode cX5_readLeaf 184 = .ok (.getfield 61, 3) := dk_180 0 61 (dk_at dksX5_readLeaf_7 20 rfl rfl)
theorem dX5_readLeaf_187 : decode cX5_readLeaf 187 = .ok (.iload_n 2, 1) := dk_28 (dk_at dksX5_readLeaf_7 23 rfl rfl)
theorem dX5_readLeaf_188 : decode cX5_readLeaf 188 = .ok (.iaload, 1) := dk_46 (dk_at dksX5_readLeaf_8 0 rfl rfl)
theorem dX5_readLeaf_189 : decode cX5_readLeaf 189 = .ok (.sipush 399, 3) := dk_17 1 143 (dk_at dksX5_readLeaf_8 1 rfl rfl)
theorem dX5_readLeaf_192 : decode cX5_readLeaf 192 = .ok (.invokevirtual 299, 3) := dk_182 1 43 (dk_at dksX5_readLeaf_8 4 rfl rfl)
theorem dX5_readLeaf_195 : decode cX5_readLeaf 195 = .ok (.iastore, 1) := dk_79 (dk_at dksX5_readLeaf_8 7 rfl rfl)
theorem dX5_readLeaf_196 : decode cX5_readLeaf 196 = .ok (.iload_n 1, 1) := dk_27 (dk_at dksX5_readLeaf_8 8 rfl rfl)
theorem dX5_readLeaf_197 : decode cX5_readLeaf 197 = .ok (.iconst 3, 1) := dk_6 (dk_at dksX5_readLeaf_8 9 rfl rfl)
theorem dX5_readLeaf_198 : decode cX5_readLeaf 198 = .ok (.if_icmp .ne 29, 3) := dk_160 0 29 (dk_at dksX5_readLeaf_8 10 rfl rfl)
theorem dX5_readLeaf_201 : decode cX5_readLeaf 201 = .ok (.aload_n 0, 1) := dk_42 (dk_at dksX5_readLeaf_8 13 rfl rfl)
theorem dX5_readLeaf_202 : decode cX5_readLeaf 202 = .ok (.ldc2_w 313, 3) := dk_20 1 57 (dk_at dksX5_readLeaf_8 14 rfl rfl)
theorem dX5_readLeaf_205 : decode cX5_readLeaf 205 = .ok (.invokevirtual 305, 3) := dk_182 1 49 (dk_at dksX5_readLeaf_8 17 rfl rfl)
theorem dX5_readLeaf_208 : decode cX5_readLeaf 208 = .ok (.aload_n 0, 1) := dk_42 (dk_at dksX5_readLeaf_8 20 rfl rfl)
theorem dX5_readLeaf_209 : decode cX5_readLeaf 209 = .ok (.getfield 64, 3) := dk_180 0 64 (dk_at dksX5_readLeaf_8 21 rfl rfl)
theorem dX5_readLeaf_212 : decode cX5_readLeaf 212 = .ok (.iload_n 2, 1) := dk_28 (dk_at dksX5_readLeaf_9 0 rfl rfl)
theorem dX5_readLeaf_213 : decode cX5_readLeaf 213 = .ok (.aload_n 0, 1) := dk_42 (dk_at dksX5_readLeaf_9 1 rfl rfl)
theorem dX5_readLeaf_214 : decode cX5_readLeaf 214 = .ok (.aload_n 0, 1) := dk_42 (dk_at dksX5_readLeaf_9 2 rfl rfl)
theorem dX5_readLeaf_215 : decode cX5_readLeaf 215 = .ok (.getfield 61, 3) := dk_180 0 61 (dk_at dksX5_readLeaf_9 3 rfl rfl)
theorem dX5_readLeaf_218 : decode cX5_readLeaf 218 = .ok (.iload_n 2, 1) := dk_28 (dk_at dksX5_readLeaf_9 6 rfl rfl)
theorem dX5_readLeaf_219 : decode cX5_readLeaf 219 = .ok (.iaload, 1) := dk_46 (dk_at dksX5_readLeaf_9 7 rfl rfl)
theorem dX5_readLeaf_220 : decode cX5_readLeaf 220 = .ok (.sipush 399, 3) := dk_17 1 143 (dk_at dksX5_readLeaf_9 8 rfl rfl)
theorem dX5_readLeaf_223 : decode cX5_readLeaf 223 = .ok (.invokevirtual 299, 3) := dk_182 1 43 (dk_at dksX5_readLeaf_9 11 rfl rfl)
theorem dX5_readLeaf_226 : decode cX5_readLeaf 226 = .ok (.iastore, 1) := dk_79 (dk_at dksX5_readLeaf_9 14 rfl rfl)
theorem dX5_readLeaf_227 : decode cX5_readLeaf 227 = .ok (.return_, 1) := dk_177 (dk_at dksX5_readLeaf_9 15 rfl rfl)
abbrev cX5_newNode : ByteArray := prog_24_method_18_code
def yX5_newNode : MethodName := ⟨RX5, "newNode", "(I)I"⟩
def dkwX5_newNode_4 : List UInt8 := [28, 4, 96, 79, 42, 180, 0, 43, 28, 2, 79, 28, 172]
abbrev dktX5_newNode_4 : List UInt8 := dkwX5_newNode_4 ++ []
def dkwX5_newNode_3 : List UInt8 := [158, 0, 17, 42, 180, 0, 78, 42, 180, 1, 27, 4, 100, 46, 167, 0, 4, 3, 79, 42, 180, 0, 40, 28]
abbrev dktX5_newNode_3 : List UInt8 := dkwX5_newNode_3 ++ dktX5_newNode_4
def dkwX5_newNode_2 : List UInt8 := [180, 0, 75, 42, 180, 1, 27, 4, 100, 46, 167, 0, 4, 2, 79, 42, 180, 0, 37, 28, 42, 180, 1, 27]
abbrev dktX5_newNode_2 : List UInt8 := dkwX5_newNode_2 ++ dktX5_newNode_3
def dkwX5_newNode_1 : List UInt8 := [28, 27, 79, 42, 180, 0, 31, 28, 3, 79, 42, 180, 0, 34, 28, 42, 180, 1, 27, 158, 0, 17, 42]
abbrev dktX5_newNode_1 : List UInt8 := dkwX5_newNode_1 ++ dktX5_newNode_2
def dkwX5_newNode_0 : List UInt8 := [42, 180, 1, 21, 42, 180, 1, 24, 96, 61, 42, 89, 180, 1, 24, 4, 96, 181, 1, 24, 42, 180, 0, 28]
abbrev dktX5_newNode_0 : List UInt8 := dkwX5_newNode_0 ++ dktX5_newNode_1
theorem dksX5_newNode_0 : cX5_newNode.data.toList.drop 0 = dktX5_newNode_0 := by decide +kernel
theorem dksX5_newNode_1 : cX5_newNode.data.toList.drop 24 = dktX5_newNode_1 := dk_seg dksX5_newNode_0 24 rfl rfl
theorem dksX5_newNode_2 : cX5_newNode.data.toList.drop 47 = dktX5_newNode_2 := dk_seg dksX5_newNode_1 23 rfl rfl
theorem dksX5_newNode_3 : cX5_newNode.data.toList.drop 71 = dktX5_newNode_3 := dk_seg dksX5_newNode_2 24 rfl rfl
theorem dksX5_newNode_4 : cX5_newNode.data.toList.drop 95 = dktX5_newNode_4 := dk_seg dksX5_newNode_3 24 rfl rfl
theorem dX5_newNode_0 : decode cX5_newNode 0 = .ok (.aload_n 0, 1) := dk_42 (dk_at dksX5_newNode_0 0 rfl rfl)
theorem dX5_newNode_1 : decode cX5_newNode 1 = .ok (.getfield 277, 3) := dk_180 1 21 (dk_at dksX5_newNode_0 1 rfl rfl)
theorem dX5_newNode_4 : decode cX5_newNode 4 = .ok (.aload_n 0, 1) := dk_42 (dk_at dksX5_newNode_0 4 rfl rfl)
theorem dX5_newNode_5 : decode cX5_newNode 5 = .ok (.getfield 280, 3) := dk_180 1 24 (dk_at dksX5_newNode_0 5 rfl rfl)
theorem dX5_newNode_8 : decode cX5_newNode 8 = .ok (.iadd, 1) := dk_96 (dk_at dksX5_newNode_0 8 rfl rfl)
theorem dX5_newNode_9 : decode cX5_newNode 9 = .ok (.istore_n 2, 1) := dk_61 (dk_at dksX5_newNode_0 9 rfl rfl)
theorem dX5_newNode_10 : decode cX5_newNode 10 = .ok (.aload_n 0, 1) := dk_42 (dk_at dksX5_newNode_0 10 rfl rfl)
theorem dX5_newNode_11 : decode cX5_newNode 11 = .ok (.dup, 1) := dk_89 (dk_at dksX5_newNode_0 11 rfl rfl)
theorem dX5_newNode_12 : decode cX5_newNode 12 = .ok (.getfield 280, 3) := dk_180 1 24 (dk_at dksX5_newNode_0 12 rfl rfl)
theorem dX5_newNode_15 : decode cX5_newNode 15 = .ok (.iconst 1, 1) := dk_4 (dk_at dksX5_newNode_0 15 rfl rfl)
theorem dX5_newNode_16 : decode cX5_newNode 16 = .ok (.iadd, 1) := dk_96 (dk_at dksX5_newNode_0 16 rfl rfl)
theorem dX5_newNode_17 : decode cX5_newNode 17 = .ok (.putfield 280, 3) := dk_181 1 24 (dk_at dksX5_newNode_0 17 rfl rfl)
theorem dX5_newNode_20 : decode cX5_newNode 20 = .ok (.aload_n 0, 1) := dk_42 (dk_at dksX5_newNode_0 20 rfl rfl)
theorem dX5_newNode_21 : decode cX5_newNode 21 = .ok (.getfield 28, 3) := dk_180 0 28 (dk_at dksX5_newNode_0 21 rfl rfl)
theorem dX5_newNode_24 : decode cX5_newNode 24 = .ok (.iload_n 2, 1) := dk_28 (dk_at dksX5_newNode_1 0 rfl rfl)
theorem dX5_newNode_25 : decode cX5_newNode 25 = .ok (.iload_n 1, 1) := dk_27 (dk_at dksX5_newNode_1 1 rfl rfl)
theorem dX5_newNode_26 : decode cX5_newNode 26 = .ok (.iastore, 1) := dk_79 (dk_at dksX5_newNode_1 2 rfl rfl)
theorem dX5_newNode_27 : decode cX5_newNode 27 = .ok (.aload_n 0, 1) := dk_42 (dk_at dksX5_newNode_1 3 rfl rfl)
theorem dX5_newNode_28 : decode cX5_newNode 28 = .ok (.getfield 31, 3) := dk_180 0 31 (dk_at dksX5_newNode_1 4 rfl rfl)
theorem dX5_newNode_31 : decode cX5_newNode 31 = .ok (.iload_n 2, 1) := dk_28 (dk_at dksX5_newNode_1 7 rfl rfl)
theorem dX5_newNode_32 : decode cX5_newNode 32 = .ok (.iconst 0, 1) := dk_3 (dk_at dksX5_newNode_1 8 rfl rfl)
theorem dX5_newNode_33 : decode cX5_newNode 33 = .ok (.iastore, 1) := dk_79 (dk_at dksX5_newNode_1 9 rfl rfl)
theorem dX5_newNode_34 : decode cX5_newNode 34 = .ok (.aload_n 0, 1) := dk_42 (dk_at dksX5_newNode_1 10 rfl rfl)
theorem dX5_newNode_35 : decode cX5_newNode 35 = .ok (.getfield 34, 3) := dk_180 0 34 (dk_at dksX5_newNode_1 11 rfl rfl)
theorem dX5_newNode_38 : decode cX5_newNode 38 = .ok (.iload_n 2, 1) := dk_28 (dk_at dksX5_newNode_1 14 rfl rfl)
theorem dX5_newNode_39 : decode cX5_newNode 39 = .ok (.aload_n 0, 1) := dk_42 (dk_at dksX5_newNode_1 15 rfl rfl)
theorem dX5_newNode_40 : decode cX5_newNode 40 = .ok (.getfield 283, 3) := dk_180 1 27 (dk_at dksX5_newNode_1 16 rfl rfl)
theorem dX5_newNode_43 : decode cX5_newNode 43 = .ok (.ifCond .le 17, 3) := dk_158 0 17 (dk_at dksX5_newNode_1 19 rfl rfl)
theorem dX5_newNode_46 : decode cX5_newNode 46 = .ok (.aload_n 0, 1) := dk_42 (dk_at dksX5_newNode_1 22 rfl rfl)
theorem dX5_newNode_47 : decode cX5_newNode 47 = .ok (.getfield 75, 3) := dk_180 0 75 (dk_at dksX5_newNode_2 0 rfl rfl)
theorem dX5_newNode_50 : decode cX5_newNode 50 = .ok (.aload_n 0, 1) := dk_42 (dk_at dksX5_newNode_2 3 rfl rfl)
theorem dX5_newNode_51 : decode cX5_newNode 51 = .ok (.getfield 283, 3) := dk_180 1 27 (dk_at dksX5_newNode_2 4 rfl rfl)
theorem dX5_newNode_54 : decode cX5_newNode 54 = .ok (.iconst 1, 1) := dk_4 (dk_at dksX5_newNode_2 7 rfl rfl)
theorem dX5_newNode_55 : decode cX5_newNode 55 = .ok (.isub, 1) := dk_100 (dk_at dksX5_newNode_2 8 rfl rfl)
theorem dX5_newNode_56 : decode cX5_newNode 56 = .ok (.iaload, 1) := dk_46 (dk_at dksX5_newNode_2 9 rfl rfl)
theorem dX5_newNode_57 : decode cX5_newNode 57 = .ok (.goto 4, 3) := dk_167 0 4 (dk_at dksX5_newNode_2 10 rfl rfl)
theorem dX5_newNode_60 : decode cX5_newNode 60 = .ok (.iconst (-1), 1) := dk_2 (dk_at dksX5_newNode_2 13 rfl rfl)
theorem dX5_newNode_61 : decode cX5_newNode 61 = .ok (.iastore, 1) := dk_79 (dk_at dksX5_newNode_2 14 rfl rfl)
theorem dX5_newNode_62 : decode cX5_newNode 62 = .ok (.aload_n 0, 1) := dk_42 (dk_at dksX5_newNode_2 15 rfl rfl)
theorem dX5_newNode_63 : decode cX5_newNode 63 = .ok (.getfield 37, 3) := dk_180 0 37 (dk_at dksX5_newNode_2 16 rfl rfl)
theorem dX5_newNode_66 : decode cX5_newNode 66 = .ok (.iload_n 2, 1) := dk_28 (dk_at dksX5_newNode_2 19 rfl rfl)
theorem dX5_newNode_67 : decode cX5_newNode 67 = .ok (.aload_n 0, 1) := dk_42 (dk_at dksX5_newNode_2 20 rfl rfl)
theorem dX5_newNode_68 : decode cX5_newNode 68 = .ok (.getfield 283, 3) := dk_180 1 27 (dk_at dksX5_newNode_2 21 rfl rfl)
theorem dX5_newNode_71 : decode cX5_newNode 71 = .ok (.ifCond .le 17, 3) := dk_158 0 17 (dk_at dksX5_newNode_3 0 rfl rfl)
theorem dX5_newNode_74 : decode cX5_newNode 74 = .ok (.aload_n 0, 1) := dk_42 (dk_at dksX5_newNode_3 3 rfl rfl)
theorem dX5_newNode_75 : decode cX5_newNode 75 = .ok (.getfield 78, 3) := dk_180 0 78 (dk_at dksX5_newNode_3 4 rfl rfl)
theorem dX5_newNode_78 : decode cX5_newNode 78 = .ok (.aload_n 0, 1) := dk_42 (dk_at dksX5_newNode_3 7 rfl rfl)
theorem dX5_newNode_79 : decode cX5_newNode 79 = .ok (.getfield 283, 3) := dk_180 1 27 (dk_at dksX5_newNode_3 8 rfl rfl)
theorem dX5_newNode_82 : decode cX5_newNode 82 = .ok (.iconst 1, 1) := dk_4 (dk_at dksX5_newNode_3 11 rfl rfl)
theorem dX5_newNode_83 : decode cX5_newNode 83 = .ok (.isub, 1) := dk_100 (dk_at dksX5_newNode_3 12 rfl rfl)
theorem dX5_newNode_84 : decode cX5_newNode 84 = .ok (.iaload, 1) := dk_46 (dk_at dksX5_newNode_3 13 rfl rfl)
theorem dX5_newNode_85 : decode cX5_newNode 85 = .ok (.goto 4, 3) := dk_167 0 4 (dk_at dksX5_newNode_3 14 rfl rfl)
theorem dX5_newNode_88 : decode cX5_newNode 88 = .ok (.iconst 0, 1) := dk_3 (dk_at dksX5_newNode_3 17 rfl rfl)
theorem dX5_newNode_89 : decode cX5_newNode 89 = .ok (.iastore, 1) := dk_79 (dk_at dksX5_newNode_3 18 rfl rfl)
theorem dX5_newNode_90 : decode cX5_newNode 90 = .ok (.aload_n 0, 1) := dk_42 (dk_at dksX5_newNode_3 19 rfl rfl)
theorem dX5_newNode_91 : decode cX5_newNode 91 = .ok (.getfield 40, 3) := dk_180 0 40 (dk_at dksX5_newNode_3 20 rfl rfl)
theorem dX5_newNode_94 : decode cX5_newNode 94 = .ok (.iload_n 2, 1) := dk_28 (dk_at dksX5_newNode_3 23 rfl rfl)
theorem dX5_newNode_95 : decode cX5_newNode 95 = .ok (.iload_n 2, 1) := dk_28 (dk_at dksX5_newNode_4 0 rfl rfl)
theorem dX5_newNode_96 : decode cX5_newNode 96 = .ok (.iconst 1, 1) := dk_4 (dk_at dksX5_newNode_4 1 rfl rfl)
theorem dX5_newNode_97 : decode cX5_newNode 97 = .ok (.iadd, 1) := dk_96 (dk_at dksX5_newNode_4 2 rfl rfl)
theorem dX5_newNode_98 : decode cX5_newNode 98 = .ok (.iastore, 1) := dk_79 (dk_at dksX5_newNode_4 3 rfl rfl)
theorem dX5_newNode_99 : decode cX5_newNode 99 = .ok (.aload_n 0, 1) := dk_42 (dk_at dksX5_newNode_4 4 rfl rfl)
theorem dX5_newNode_100 : decode cX5_newNode 100 = .ok (.getfield 43, 3) := dk_180 0 43 (dk_at dksX5_newNode_4 5 rfl rfl)
theorem dX5_newNode_103 : decode cX5_newNode 103 = .ok (.iload_n 2, 1) := dk_28 (dk_at dksX5_newNode_4 8 rfl rfl)
theorem dX5_newNode_104 : decode cX5_newNode 104 = .ok (.iconst (-1), 1) := dk_2 (dk_at dksX5_newNode_4 9 rfl rfl)
theorem dX5_newNode_105 : decode cX5_newNode 105 = .ok (.iastore, 1) := dk_79 (dk_at dksX5_newNode_4 10 rfl rfl)
theorem dX5_newNode_106 : decode cX5_newNode 106 = .ok (.iload_n 2, 1) := dk_28 (dk_at dksX5_newNode_4 11 rfl rfl)
theorem dX5_newNode_107 : decode cX5_newNode 107 = .ok (.ireturn, 1) := dk_172 (dk_at dksX5_newNode_4 12 rfl rfl)
abbrev cX5_hand : ByteArray := prog_24_method_15_code
def yX5_hand : MethodName := ⟨RX5, "hand", "(I)I"⟩
def dkwX5_hand_2 : List UInt8 := [2, 61, 28, 155, 0, 8, 28, 27, 160, 0, 9, 42, 182, 0, 231, 3, 172, 42, 182, 0, 228, 28, 172]
abbrev dktX5_hand_2 : List UInt8 := dkwX5_hand_2 ++ []
def dkwX5_hand_1 : List UInt8 := [155, 0, 24, 42, 180, 0, 207, 20, 1, 16, 148, 157, 0, 13, 42, 180, 0, 207, 136, 4, 100, 167, 0, 4]
abbrev dktX5_hand_1 : List UInt8 := dkwX5_hand_1 ++ dktX5_hand_2
def dkwX5_hand_0 : List UInt8 := [42, 180, 0, 220, 153, 0, 5, 3, 172, 42, 180, 0, 214, 4, 160, 0, 33, 42, 180, 0, 207, 10, 148]
abbrev dktX5_hand_0 : List UInt8 := dkwX5_hand_0 ++ dktX5_hand_1
theorem dksX5_hand_0 : cX5_hand.data.toList.drop 0 = dktX5_hand_0 := by decide +kernel
theorem dksX5_hand_1 : cX5_hand.data.toList.drop 23 = dktX5_hand_1 := dk_seg dksX5_hand_0 23 rfl rfl
theorem dksX5_hand_2 : cX5_hand.data.toList.drop 47 = dktX5_hand_2 := dk_seg dksX5_hand_1 24 rfl rfl
theorem dX5_hand_0 : decode cX5_hand 0 = .ok (.aload_n 0, 1) := dk_42 (dk_at dksX5_hand_0 0 rfl rfl)
theorem dX5_hand_1 : decode cX5_hand 1 = .ok (.getfield 220, 3) := dk_180 0 220 (dk_at dksX5_hand_0 1 rfl rfl)
theorem dX5_hand_4 : decode cX5_hand 4 = .ok (.ifCond .eq 5, 3) := dk_153 0 5 (dk_at dksX5_hand_0 4 rfl rfl)
theorem dX5_hand_7 : decode cX5_hand 7 = .ok (.iconst 0, 1) := dk_3 (dk_at dksX5_hand_0 7 rfl rfl)
theorem dX5_hand_8 : decode cX5_hand 8 = .ok (.ireturn, 1) := dk_172 (dk_at dksX5_hand_0 8 rfl rfl)
theorem dX5_hand_9 : decode cX5_hand 9 = .ok (.aload_n 0, 1) := dk_42 (dk_at dksX5_hand_0 9 rfl rfl)
theorem dX5_hand_10 : decode cX5_hand 10 = .ok (.getfield 214, 3) := dk_180 0 214 (dk_at dksX5_hand_0 10 rfl rfl)
theorem dX5_hand_13 : decode cX5_hand 13 = .ok (.iconst 1, 1) := dk_4 (dk_at dksX5_hand_0 13 rfl rfl)
theorem dX5_hand_14 : decode cX5_hand 14 = .ok (.if_icmp .ne 33, 3) := dk_160 0 33 (dk_at dksX5_hand_0 14 rfl rfl)
theorem dX5_hand_17 : decode cX5_hand 17 = .ok (.aload_n 0, 1) := dk_42 (dk_at dksX5_hand_0 17 rfl rfl)
theorem dX5_hand_18 : decode cX5_hand 18 = .ok (.getfield 207, 3) := dk_180 0 207 (dk_at dksX5_hand_0 18 rfl rfl)
theorem dX5_hand_21 : decode cX5_hand 21 = .ok (.lconst 1, 1) := dk_10 (dk_at dksX5_hand_0 21 rfl rfl)
theorem dX5_hand_22 : decode cX5_hand 22 = .ok (.lcmp, 1) := dk_148 (dk_at dksX5_hand_0 22 rfl rfl)
theorem dX5_hand_23 : decode cX5_hand 23 = .ok (.ifCond .lt 24, 3) := dk_155 0 24 (dk_at dksX5_hand_1 0 rfl rfl)
theorem dX5_hand_26 : decode cX5_hand 26 = .ok (.aload_n 0, 1) := dk_42 (dk_at dksX5_hand_1 3 rfl rfl)
theorem dX5_hand_27 : decode cX5_hand 27 = .ok (.getfield 207, 3) := dk_180 0 207 (dk_at dksX5_hand_1 4 rfl rfl)
theorem dX5_hand_30 : decode cX5_hand 30 = .ok (.ldc2_w 272, 3) := dk_20 1 16 (dk_at dksX5_hand_1 7 rfl rfl)
theorem dX5_hand_33 : decode cX5_hand 33 = .ok (.lcmp, 1) := dk_148 (dk_at dksX5_hand_1 10 rfl rfl)
theorem dX5_hand_34 : decode cX5_hand 34 = .ok (.ifCond .gt 13, 3) := dk_157 0 13 (dk_at dksX5_hand_1 11 rfl rfl)
theorem dX5_hand_37 : decode cX5_hand 37 = .ok (.aload_n 0, 1) := dk_42 (dk_at dksX5_hand_1 14 rfl rfl)
theorem dX5_hand_38 : decode cX5_hand 38 = .ok (.getfield 207, 3) := dk_180 0 207 (dk_at dksX5_hand_1 15 rfl rfl)
theorem dX5_hand_41 : decode cX5_hand 41 = .ok (.l2i, 1) := dk_136 (dk_at dksX5_hand_1 18 rfl rfl)
theorem dX5_hand_42 : decode cX5_hand 42 = .ok (.iconst 1, 1) := dk_4 (dk_at dksX5_hand_1 19 rfl rfl)
theorem dX5_hand_43 : decode cX5_hand 43 = .ok (.isub, 1) := dk_100 (dk_at dksX5_hand_1 20 rfl rfl)
theorem dX5_hand_44 : decode cX5_hand 44 = .ok (.goto 4, 3) := dk_167 0 4 (dk_at dksX5_hand_1 21 rfl rfl)
theorem dX5_hand_47 : decode cX5_hand 47 = .ok (.iconst (-1), 1) := dk_2 (dk_at dksX5_hand_2 0 rfl rfl)
theorem dX5_hand_48 : decode cX5_hand 48 = .ok (.istore_n 2, 1) := dk_61 (dk_at dksX5_hand_2 1 rfl rfl)
theorem dX5_hand_49 : decode cX5_hand 49 = .ok (.iload_n 2, 1) := dk_28 (dk_at dksX5_hand_2 2 rfl rfl)
theorem dX5_hand_50 : decode cX5_hand 50 = .ok (.ifCond .lt 8, 3) := dk_155 0 8 (dk_at dksX5_hand_2 3 rfl rfl)
theorem dX5_hand_53 : decode cX5_hand 53 = .ok (.iload_n 2, 1) := dk_28 (dk_at dksX5_hand_2 6 rfl rfl)
theorem dX5_hand_54 : decode cX5_hand 54 = .ok (.iload_n 1, 1) := dk_27 (dk_at dksX5_hand_2 7 rfl rfl)
theorem dX5_hand_55 : decode cX5_hand 55 = .ok (.if_icmp .ne 9, 3) := dk_160 0 9 (dk_at dksX5_hand_2 8 rfl rfl)
theorem dX5_hand_58 : decode cX5_hand 58 = .ok (.aload_n 0, 1) := dk_42 (dk_at dksX5_hand_2 11 rfl rfl)
theorem dX5_hand_59 : decode cX5_hand 59 = .ok (.invokevirtual 231, 3) := dk_182 0 231 (dk_at dksX5_hand_2 12 rfl rfl)
theorem dX5_hand_62 : decode cX5_hand 62 = .ok (.iconst 0, 1) := dk_3 (dk_at dksX5_hand_2 15 rfl rfl)
theorem dX5_hand_63 : decode cX5_hand 63 = .ok (.ireturn, 1) := dk_172 (dk_at dksX5_hand_2 16 rfl rfl)
theorem dX5_hand_64 : decode cX5_hand 64 = .ok (.aload_n 0, 1) := dk_42 (dk_at dksX5_hand_2 17 rfl rfl)
theorem dX5_hand_65 : decode cX5_hand 65 = .ok (.invokevirtual 228, 3) := dk_182 0 228 (dk_at dksX5_hand_2 18 rfl rfl)
theorem dX5_hand_68 : decode cX5_hand 68 = .ok (.iload_n 2, 1) := dk_28 (dk_at dksX5_hand_2 21 rfl rfl)
theorem dX5_hand_69 : decode cX5_hand 69 = .ok (.ireturn, 1) := dk_172 (dk_at dksX5_hand_2 22 rfl rfl)
abbrev cX5_thingOf : ByteArray := prog_24_method_16_code
def yX5_thingOf : MethodName := ⟨RX5, "thingOf", "()I"⟩
def dkwX5_thingOf_1 : List UInt8 := [167, 0, 7, 42, 182, 0, 228, 27, 172]
abbrev dktX5_thingOf_1 : List UInt8 := dkwX5_thingOf_1 ++ []
def dkwX5_thingOf_0 : List UInt8 := [42, 180, 0, 220, 153, 0, 5, 3, 172, 42, 182, 1, 18, 60, 27, 156, 0, 10, 42, 182, 0, 231]
abbrev dktX5_thingOf_0 : List UInt8 := dkwX5_thingOf_0 ++ dktX5_thingOf_1
theorem dksX5_thingOf_0 : cX5_thingOf.data.toList.drop 0 = dktX5_thingOf_0 := by decide +kernel
theorem dksX5_thingOf_1 : cX5_thingOf.data.toList.drop 22 = dktX5_thingOf_1 := dk_seg dksX5_thingOf_0 22 rfl rfl
theorem dX5_thingOf_0 : decode cX5_thingOf 0 = .ok (.aload_n 0, 1) := dk_42 (dk_at dksX5_thingOf_0 0 rfl rfl)
theorem dX5_thingOf_1 : decode cX5_thingOf 1 = .ok (.getfield 220, 3) := dk_180 0 220 (dk_at dksX5_thingOf_0 1 rfl rfl)
theorem dX5_thingOf_4 : decode cX5_thingOf 4 = .ok (.ifCond .eq 5, 3) := dk_153 0 5 (dk_at dksX5_thingOf_0 4 rfl rfl)
theorem dX5_thingOf_7 : decode cX5_thingOf 7 = .ok (.iconst 0, 1) := dk_3 (dk_at dksX5_thingOf_0 7 rfl rfl)
theorem dX5_thingOf_8 : decode cX5_thingOf 8 = .ok (.ireturn, 1) := dk_172 (dk_at dksX5_thingOf_0 8 rfl rfl)
theorem dX5_thingOf_9 : decode cX5_thingOf 9 = .ok (.aload_n 0, 1) := dk_42 (dk_at dksX5_thingOf_0 9 rfl rfl)
theorem dX5_thingOf_10 : decode cX5_thingOf 10 = .ok (.invokevirtual 274, 3) := dk_182 1 18 (dk_at dksX5_thingOf_0 10 rfl rfl)
theorem dX5_thingOf_13 : decode cX5_thingOf 13 = .ok (.istore_n 1, 1) := dk_60 (dk_at dksX5_thingOf_0 13 rfl rfl)
theorem dX5_thingOf_14 : decode cX5_thingOf 14 = .ok (.iload_n 1, 1) := dk_27 (dk_at dksX5_thingOf_0 14 rfl rfl)
theorem dX5_thingOf_15 : decode cX5_thingOf 15 = .ok (.ifCond .ge 10, 3) := dk_156 0 10 (dk_at dksX5_thingOf_0 15 rfl rfl)
theorem dX5_thingOf_18 : decode cX5_thingOf 18 = .ok (.aload_n 0, 1) := dk_42 (dk_at dksX5_thingOf_0 18 rfl rfl)
theorem dX5_thingOf_19 : decode cX5_thingOf 19 = .ok (.invokevirtual 231, 3) := dk_182 0 231 (dk_at dksX5_thingOf_0 19 rfl rfl)
theorem dX5_thingOf_22 : decode cX5_thingOf 22 = .ok (.goto 7, 3) := dk_167 0 7 (dk_at dksX5_thingOf_1 0 rfl rfl)
theorem dX5_thingOf_25 : decode cX5_thingOf 25 = .ok (.aload_n 0, 1) := dk_42 (dk_at dksX5_thingOf_1 3 rfl rfl)
theorem dX5_thingOf_26 : decode cX5_thingOf 26 = .ok (.invokevirtual 228, 3) := dk_182 0 228 (dk_at dksX5_thingOf_1 4 rfl rfl)
theorem dX5_thingOf_29 : decode cX5_thingOf 29 = .ok (.iload_n 1, 1) := dk_27 (dk_at dksX5_thingOf_1 7 rfl rfl)
theorem dX5_thingOf_30 : decode cX5_thingOf 30 = .ok (.ireturn, 1) := dk_172 (dk_at dksX5_thingOf_1 8 rfl rfl)
abbrev cX5_thingHere : ByteArray := prog_24_method_12_code
def yX5_thingHere : MethodName := ⟨RX5, "thingHere", "()I"⟩
def dkwX5_thingHere_3 : List UInt8 := [154, 0, 5, 7, 172, 42, 180, 0, 207, 20, 0, 244, 148, 154, 0, 5, 8, 172, 2, 172]
abbrev dktX5_thingHere_3 : List UInt8 := dkwX5_thingHere_3 ++ []
def dkwX5_thingHere_2 : List UInt8 := [172, 42, 180, 0, 207, 20, 0, 240, 148, 154, 0, 5, 6, 172, 42, 180, 0, 207, 20, 0, 242, 148]
abbrev dktX5_thingHere_2 : List UInt8 := dkwX5_thingHere_2 ++ dktX5_thingHere_3
def dkwX5_thingHere_1 : List UInt8 := [180, 0, 207, 20, 0, 236, 148, 154, 0, 5, 4, 172, 42, 180, 0, 207, 20, 0, 238, 148, 154, 0, 5, 5]
abbrev dktX5_thingHere_1 : List UInt8 := dkwX5_thingHere_1 ++ dktX5_thingHere_2
def dkwX5_thingHere_0 : List UInt8 := [42, 180, 0, 214, 4, 159, 0, 5, 2, 172, 42, 180, 0, 207, 20, 0, 234, 148, 154, 0, 5, 3, 172, 42]
abbrev dktX5_thingHere_0 : List UInt8 := dkwX5_thingHere_0 ++ dktX5_thingHere_1
theorem dksX5_thingHere_0 : cX5_thingHere.data.toList.drop 0 = dktX5_thingHere_0 := by decide +kernel
theorem dksX5_thingHere_1 : cX5_thingHere.data.toList.drop 24 = dktX5_thingHere_1 := dk_seg dksX5_thingHere_0 24 rfl rfl
theorem dksX5_thingHere_2 : cX5_thingHere.data.toList.drop 48 = dktX5_thingHere_2 := dk_seg dksX5_thingHere_1 24 rfl rfl
theorem dksX5_thingHere_3 : cX5_thingHere.data.toList.drop 70 = dktX5_thingHere_3 := dk_seg dksX5_thingHere_2 22 rfl rfl
theorem dX5_thingHere_0 : decode cX5_thingHere 0 = .ok (.aload_n 0, 1) := dk_42 (dk_at dksX5_thingHere_0 0 rfl rfl)
theorem dX5_thingHere_1 : decode cX5_thingHere 1 = .ok (.getfield 214, 3) := dk_180 0 214 (dk_at dksX5_thingHere_0 1 rfl rfl)
theorem dX5_thingHere_4 : decode cX5_thingHere 4 = .ok (.iconst 1, 1) := dk_4 (dk_at dksX5_thingHere_0 4 rfl rfl)
theorem dX5_thingHere_5 : decode cX5_thingHere 5 = .ok (.if_icmp .eq 5, 3) := dk_159 0 5 (dk_at dksX5_thingHere_0 5 rfl rfl)
theorem dX5_thingHere_8 : decode cX5_thingHere 8 = .ok (.iconst (-1), 1) := dk_2 (dk_at dksX5_thingHere_0 8 rfl rfl)
theorem dX5_thingHere_9 : decode cX5_thingHere 9 = .ok (.ireturn, 1) := dk_172 (dk_at dksX5_thingHere_0 9 rfl rfl)
theorem dX5_thingHere_10 : decode cX5_thingHere 10 = .ok (.aload_n 0, 1) := dk_42 (dk_at dksX5_thingHere_0 10 rfl rfl)
theorem dX5_thingHere_11 : decode cX5_thingHere 11 = .ok (.getfield 207, 3) := dk_180 0 207 (dk_at dksX5_thingHere_0 11 rfl rfl)
theorem dX5_thingHere_14 : decode cX5_thingHere 14 = .ok (.ldc2_w 234, 3) := dk_20 0 234 (dk_at dksX5_thingHere_0 14 rfl rfl)
theorem dX5_thingHere_17 : decode cX5_thingHere 17 = .ok (.lcmp, 1) := dk_148 (dk_at dksX5_thingHere_0 17 rfl rfl)
theorem dX5_thingHere_18 : decode cX5_thingHere 18 = .ok (.ifCond .ne 5, 3) := dk_154 0 5 (dk_at dksX5_thingHere_0 18 rfl rfl)
theorem dX5_thingHere_21 : decode cX5_thingHere 21 = .ok (.iconst 0, 1) := dk_3 (dk_at dksX5_thingHere_0 21 rfl rfl)
theorem dX5_thingHere_22 : decode cX5_thingHere 22 = .ok (.ireturn, 1) := dk_172 (dk_at dksX5_thingHere_0 22 rfl rfl)
theorem dX5_thingHere_23 : decode cX5_thingHere 23 = .ok (.aload_n 0, 1) := dk_42 (dk_at dksX5_thingHere_0 23 rfl rfl)
theorem dX5_thingHere_24 : decode cX5_thingHere 24 = .ok (.getfield 207, 3) := dk_180 0 207 (dk_at dksX5_thingHere_1 0 rfl rfl)
theorem dX5_thingHere_27 : decode cX5_thingHere 27 = .ok (.ldc2_w 236, 3) := dk_20 0 236 (dk_at dksX5_thingHere_1 3 rfl rfl)
theorem dX5_thingHere_30 : decode cX5_thingHere 30 = .ok (.lcmp, 1) := dk_148 (dk_at dksX5_thingHere_1 6 rfl rfl)
theorem dX5_thingHere_31 : decode cX5_thingHere 31 = .ok (.ifCond .ne 5, 3) := dk_154 0 5 (dk_at dksX5_thingHere_1 7 rfl rfl)
theorem dX5_thingHere_34 : decode cX5_thingHere 34 = .ok (.iconst 1, 1) := dk_4 (dk_at dksX5_thingHere_1 10 rfl rfl)
theorem dX5_thingHere_35 : decode cX5_thingHere 35 = .ok (.ireturn, 1) := dk_172 (dk_at dksX5_thingHere_1 11 rfl rfl)
theorem dX5_thingHere_36 : decode cX5_thingHere 36 = .ok (.aload_n 0, 1) := dk_42 (dk_at dksX5_thingHere_1 12 rfl rfl)
theorem dX5_thingHere_37 : decode cX5_thingHere 37 = .ok (.getfield 207, 3) := dk_180 0 207 (dk_at dksX5_thingHere_1 13 rfl rfl)
theorem dX5_thingHere_40 : decode cX5_thingHere 40 = .ok (.ldc2_w 238, 3) := dk_20 0 238 (dk_at dksX5_thingHere_1 16 rfl rfl)
theorem dX5_thingHere_43 : decode cX5_thingHere 43 = .ok (.lcmp, 1) := dk_148 (dk_at dksX5_thingHere_1 19 rfl rfl)
theorem dX5_thingHere_44 : decode cX5_thingHere 44 = .ok (.ifCond .ne 5, 3) := dk_154 0 5 (dk_at dksX5_thingHere_1 20 rfl rfl)
theorem dX5_thingHere_47 : decode cX5_thingHere 47 = .ok (.iconst 2, 1) := dk_5 (dk_at dksX5_thingHere_1 23 rfl rfl)
theorem dX5_thingHere_48 : decode cX5_thingHere 48 = .ok (.ireturn, 1) := dk_172 (dk_at dksX5_thingHere_2 0 rfl rfl)
theorem dX5_thingHere_49 : decode cX5_thingHere 49 = .ok (.aload_n 0, 1) := dk_42 (dk_at dksX5_thingHere_2 1 rfl rfl)
theorem dX5_thingHere_50 : decode cX5_thingHere 50 = .ok (.getfield 207, 3) := dk_180 0 207 (dk_at dksX5_thingHere_2 2 rfl rfl)
theorem dX5_thingHere_53 : decode cX5_thingHere 53 = .ok (.ldc2_w 240, 3) := dk_20 0 240 (dk_at dksX5_thingHere_2 5 rfl rfl)
theorem dX5_thingHere_56 : decode cX5_thingHere 56 = .ok (.lcmp, 1) := dk_148 (dk_at dksX5_thingHere_2 8 rfl rfl)
theorem dX5_thingHere_57 : decode cX5_thingHere 57 = .ok (.ifCond .ne 5, 3) := dk_154 0 5 (dk_at dksX5_thingHere_2 9 rfl rfl)
theorem dX5_thingHere_60 : decode cX5_thingHere 60 = .ok (.iconst 3, 1) := dk_6 (dk_at dksX5_thingHere_2 12 rfl rfl)
theorem dX5_thingHere_61 : decode cX5_thingHere 61 = .ok (.ireturn, 1) := dk_172 (dk_at dksX5_thingHere_2 13 rfl rfl)
theorem dX5_thingHere_62 : decode cX5_thingHere 62 = .ok (.aload_n 0, 1) := dk_42 (dk_at dksX5_thingHere_2 14 rfl rfl)
theorem dX5_thingHere_63 : decode cX5_thingHere 63 = .ok (.getfield 207, 3) := dk_180 0 207 (dk_at dksX5_thingHere_2 15 rfl rfl)
theorem dX5_thingHere_66 : decode cX5_thingHere 66 = .ok (.ldc2_w 242, 3) := dk_20 0 242 (dk_at dksX5_thingHere_2 18 rfl rfl)
theorem dX5_thingHere_69 : decode cX5_thingHere 69 = .ok (.lcmp, 1) := dk_148 (dk_at dksX5_thingHere_2 21 rfl rfl)
theorem dX5_thingHere_70 : decode cX5_thingHere 70 = .ok (.ifCond .ne 5, 3) := dk_154 0 5 (dk_at dksX5_thingHere_3 0 rfl rfl)
theorem dX5_thingHere_73 : decode cX5_thingHere 73 = .ok (.iconst 4, 1) := dk_7 (dk_at dksX5_thingHere_3 3 rfl rfl)
theorem dX5_thingHere_74 : decode cX5_thingHere 74 = .ok (.ireturn, 1) := dk_172 (dk_at dksX5_thingHere_3 4 rfl rfl)
theorem dX5_thingHere_75 : decode cX5_thingHere 75 = .ok (.aload_n 0, 1) := dk_42 (dk_at dksX5_thingHere_3 5 rfl rfl)
theorem dX5_thingHere_76 : decode cX5_thingHere 76 = .ok (.getfield 207, 3) := dk_180 0 207 (dk_at dksX5_thingHere_3 6 rfl rfl)
theorem dX5_thingHere_79 : decode cX5_thingHere 79 = .ok (.ldc2_w 244, 3) := dk_20 0 244 (dk_at dksX5_thingHere_3 9 rfl rfl)
theorem dX5_thingHere_82 : decode cX5_thingHere 82 = .ok (.lcmp, 1) := dk_148 (dk_at dksX5_thingHere_3 12 rfl rfl)
theorem dX5_thingHere_83 : decode cX5_thingHere 83 = .ok (.ifCond .ne 5, 3) := dk_154 0 5 (dk_at dksX5_thingHere_3 13 rfl rfl)
theorem dX5_thingHere_86 : decode cX5_thingHere 86 = .ok (.iconst 5, 1) := dk_8 (dk_at dksX5_thingHere_3 16 rfl rfl)
theorem dX5_thingHere_87 : decode cX5_thingHere 87 = .ok (.ireturn, 1) := dk_172 (dk_at dksX5_thingHere_3 17 rfl rfl)
theorem dX5_thingHere_88 : decode cX5_thingHere 88 = .ok (.iconst (-1), 1) := dk_2 (dk_at dksX5_thingHere_3 18 rfl rfl)
theorem dX5_thingHere_89 : decode cX5_thingHere 89 = .ok (.ireturn, 1) := dk_172 (dk_at dksX5_thingHere_3 19 rfl rfl)
abbrev cX5_numeral : ByteArray := prog_24_method_11_code
def yX5_numeral : MethodName := ⟨RX5, "numeral", "(II)I"⟩
def dkwX5_numeral_1 : List UInt8 := [161, 0, 8, 29, 28, 164, 0, 9, 42, 182, 0, 231, 3, 172, 42, 182, 0, 228, 29, 172]
abbrev dktX5_numeral_1 : List UInt8 := dkwX5_numeral_1 ++ []
def dkwX5_numeral_0 : List UInt8 := [42, 180, 0, 211, 62, 42, 180, 0, 220, 153, 0, 5, 3, 172, 42, 180, 0, 214, 5, 160, 0, 13, 29, 27]
abbrev dktX5_numeral_0 : List UInt8 := dkwX5_numeral_0 ++ dktX5_numeral_1
theorem dksX5_numeral_0 : cX5_numeral.data.toList.drop 0 = dktX5_numeral_0 := by decide +kernel
theorem dksX5_numeral_1 : cX5_numeral.data.toList.drop 24 = dktX5_numeral_1 := dk_seg dksX5_numeral_0 24 rfl rfl
theorem dX5_numeral_0 : decode cX5_numeral 0 = .ok (.aload_n 0, 1) := dk_42 (dk_at dksX5_numeral_0 0 rfl rfl)
theorem dX5_numeral_1 : decode cX5_numeral 1 = .ok (.getfield 211, 3) := dk_180 0 211 (dk_at dksX5_numeral_0 1 rfl rfl)
theorem dX5_numeral_4 : decode cX5_numeral 4 = .ok (.istore_n 3, 1) := dk_62 (dk_at dksX5_numeral_0 4 rfl rfl)
theorem dX5_numeral_5 : decode cX5_numeral 5 = .ok (.aload_n 0, 1) := dk_42 (dk_at dksX5_numeral_0 5 rfl rfl)
theorem dX5_numeral_6 : decode cX5_numeral 6 = .ok (.getfield 220, 3) := dk_180 0 220 (dk_at dksX5_numeral_0 6 rfl rfl)
theorem dX5_numeral_9 : decode cX5_numeral 9 = .ok (.ifCond .eq 5, 3) := dk_153 0 5 (dk_at dksX5_numeral_0 9 rfl rfl)
theorem dX5_numeral_12 : decode cX5_numeral 12 = .ok (.iconst 0, 1) := dk_3 (dk_at dksX5_numeral_0 12 rfl rfl)
theorem dX5_numeral_13 : decode cX5_numeral 13 = .ok (.ireturn, 1) := dk_172 (dk_at dksX5_numeral_0 13 rfl rfl)
theorem dX5_numeral_14 : decode cX5_numeral 14 = .ok (.aload_n 0, 1) := dk_42 (dk_at dksX5_numeral_0 14 rfl rfl)
theorem dX5_numeral_15 : decode cX5_numeral 15 = .ok (.getfield 214, 3) := dk_180 0 214 (dk_at dksX5_numeral_0 15 rfl rfl)
theorem dX5_numeral_18 : decode cX5_numeral 18 = .ok (.iconst 2, 1) := dk_5 (dk_at dksX5_numeral_0 18 rfl rfl)
theorem dX5_numeral_19 : decode cX5_numeral 19 = .ok (.if_icmp .ne 13, 3) := dk_160 0 13 (dk_at dksX5_numeral_0 19 rfl rfl)
theorem dX5_numeral_22 : decode cX5_numeral 22 = .ok (.iload_n 3, 1) := dk_29 (dk_at dksX5_numeral_0 22 rfl rfl)
theorem dX5_numeral_23 : decode cX5_numeral 23 = .ok (.iload_n 1, 1) := dk_27 (dk_at dksX5_numeral_0 23 rfl rfl)
theorem dX5_numeral_24 : decode cX5_numeral 24 = .ok (.if_icmp .lt 8, 3) := dk_161 0 8 (dk_at dksX5_numeral_1 0 rfl rfl)
theorem dX5_numeral_27 : decode cX5_numeral 27 = .ok (.iload_n 3, 1) := dk_29 (dk_at dksX5_numeral_1 3 rfl rfl)
theorem dX5_numeral_28 : decode cX5_numeral 28 = .ok (.iload_n 2, 1) := dk_28 (dk_at dksX5_numeral_1 4 rfl rfl)
theorem dX5_numeral_29 : decode cX5_numeral 29 = .ok (.if_icmp .le 9, 3) := dk_164 0 9 (dk_at dksX5_numeral_1 5 rfl rfl)
theorem dX5_numeral_32 : decode cX5_numeral 32 = .ok (.aload_n 0, 1) := dk_42 (dk_at dksX5_numeral_1 8 rfl rfl)
theorem dX5_numeral_33 : decode cX5_numeral 33 = .ok (.invokevirtual 231, 3) := dk_182 0 231 (dk_at dksX5_numeral_1 9 rfl rfl)
theorem dX5_numeral_36 : decode cX5_numeral 36 = .ok (.iconst 0, 1) := dk_3 (dk_at dksX5_numeral_1 12 rfl rfl)
theorem dX5_numeral_37 : decode cX5_numeral 37 = .ok (.ireturn, 1) := dk_172 (dk_at dksX5_numeral_1 13 rfl rfl)
theorem dX5_numeral_38 : decode cX5_numeral 38 = .ok (.aload_n 0, 1) := dk_42 (dk_at dksX5_numeral_1 14 rfl rfl)
theorem dX5_numeral_39 : decode cX5_numeral 39 = .ok (.invokevirtual 228, 3) := dk_182 0 228 (dk_at dksX5_numeral_1 15 rfl rfl)
theorem dX5_numeral_42 : decode cX5_numeral 42 = .ok (.iload_n 3, 1) := dk_29 (dk_at dksX5_numeral_1 18 rfl rfl)
theorem dX5_numeral_43 : decode cX5_numeral 43 = .ok (.ireturn, 1) := dk_172 (dk_at dksX5_numeral_1 19 rfl rfl)
abbrev cX5_mustBe : ByteArray := prog_24_method_10_code
def yX5_mustBe : MethodName := ⟨RX5, "mustBe", "(J)V"⟩
def dkwX5_mustBe_1 : List UInt8 := [182, 0, 231, 177]
abbrev dktX5_mustBe_1 : List UInt8 := dkwX5_mustBe_1 ++ []
def dkwX5_mustBe_0 : List UInt8 := [42, 180, 0, 220, 153, 0, 4, 177, 42, 31, 182, 0, 224, 153, 0, 10, 42, 182, 0, 228, 167, 0, 7, 42]
abbrev dktX5_mustBe_0 : List UInt8 := dkwX5_mustBe_0 ++ dktX5_mustBe_1
theorem dksX5_mustBe_0 : cX5_mustBe.data.toList.drop 0 = dktX5_mustBe_0 := by decide +kernel
theorem dksX5_mustBe_1 : cX5_mustBe.data.toList.drop 24 = dktX5_mustBe_1 := dk_seg dksX5_mustBe_0 24 rfl rfl
theorem dX5_mustBe_0 : decode cX5_mustBe 0 = .ok (.aload_n 0, 1) := dk_42 (dk_at dksX5_mustBe_0 0 rfl rfl)
theorem dX5_mustBe_1 : decode cX5_mustBe 1 = .ok (.getfield 220, 3) := dk_180 0 220 (dk_at dksX5_mustBe_0 1 rfl rfl)
theorem dX5_mustBe_4 : decode cX5_mustBe 4 = .ok (.ifCond .eq 4, 3) := dk_153 0 4 (dk_at dksX5_mustBe_0 4 rfl rfl)
theorem dX5_mustBe_7 : decode cX5_mustBe 7 = .ok (.return_, 1) := dk_177 (dk_at dksX5_mustBe_0 7 rfl rfl)
theorem dX5_mustBe_8 : decode cX5_mustBe 8 = .ok (.aload_n 0, 1) := dk_42 (dk_at dksX5_mustBe_0 8 rfl rfl)
theorem dX5_mustBe_9 : decode cX5_mustBe 9 = .ok (.lload_n 1, 1) := dk_31 (dk_at dksX5_mustBe_0 9 rfl rfl)
theorem dX5_mustBe_10 : decode cX5_mustBe 10 = .ok (.invokevirtual 224, 3) := dk_182 0 224 (dk_at dksX5_mustBe_0 10 rfl rfl)
theorem dX5_mustBe_13 : decode cX5_mustBe 13 = .ok (.ifCond .eq 10, 3) := dk_153 0 10 (dk_at dksX5_mustBe_0 13 rfl rfl)
theorem dX5_mustBe_16 : decode cX5_mustBe 16 = .ok (.aload_n 0, 1) := dk_42 (dk_at dksX5_mustBe_0 16 rfl rfl)
theorem dX5_mustBe_17 : decode cX5_mustBe 17 = .ok (.invokevirtual 228, 3) := dk_182 0 228 (dk_at dksX5_mustBe_0 17 rfl rfl)
theorem dX5_mustBe_20 : decode cX5_mustBe 20 = .ok (.goto 7, 3) := dk_167 0 7 (dk_at dksX5_mustBe_0 20 rfl rfl)
theorem dX5_mustBe_23 : decode cX5_mustBe 23 = .ok (.aload_n 0, 1) := dk_42 (dk_at dksX5_mustBe_0 23 rfl rfl)
theorem dX5_mustBe_24 : decode cX5_mustBe 24 = .ok (.invokevirtual 231, 3) := dk_182 0 231 (dk_at dksX5_mustBe_1 0 rfl rfl)
theorem dX5_mustBe_27 : decode cX5_mustBe 27 = .ok (.return_, 1) := dk_177 (dk_at dksX5_mustBe_1 3 rfl rfl)
abbrev cX5_is : ByteArray := prog_24_method_9_code
def yX5_is : MethodName := ⟨RX5, "is", "(J)Z"⟩
def dkwX5_is_0 : List UInt8 := [42, 180, 0, 214, 4, 160, 0, 16, 42, 180, 0, 207, 31, 148, 154, 0, 7, 4, 167, 0, 4, 3, 172]
abbrev dktX5_is_0 : List UInt8 := dkwX5_is_0 ++ []
theorem dksX5_is_0 : cX5_is.data.toList.drop 0 = dktX5_is_0 := by decide +kernel
theorem dX5_is_0 : decode cX5_is 0 = .ok (.aload_n 0, 1) := dk_42 (dk_at dksX5_is_0 0 rfl rfl)
theorem dX5_is_1 : decode cX5_is 1 = .ok (.getfield 214, 3) := dk_180 0 214 (dk_at dksX5_is_0 1 rfl rfl)
theorem dX5_is_4 : decode cX5_is 4 = .ok (.iconst 1, 1) := dk_4 (dk_at dksX5_is_0 4 rfl rfl)
theorem dX5_is_5 : decode cX5_is 5 = .ok (.if_icmp .ne 16, 3) := dk_160 0 16 (dk_at dksX5_is_0 5 rfl rfl)
theorem dX5_is_8 : decode cX5_is 8 = .ok (.aload_n 0, 1) := dk_42 (dk_at dksX5_is_0 8 rfl rfl)
theorem dX5_is_9 : decode cX5_is 9 = .ok (.getfield 207, 3) := dk_180 0 207 (dk_at dksX5_is_0 9 rfl rfl)
theorem dX5_is_12 : decode cX5_is 12 = .ok (.lload_n 1, 1) := dk_31 (dk_at dksX5_is_0 12 rfl rfl)
theorem dX5_is_13 : decode cX5_is 13 = .ok (.lcmp, 1) := dk_148 (dk_at dksX5_is_0 13 rfl rfl)
theorem dX5_is_14 : decode cX5_is 14 = .ok (.ifCond .ne 7, 3) := dk_154 0 7 (dk_at dksX5_is_0 14 rfl rfl)
theorem dX5_is_17 : decode cX5_is 17 = .ok (.iconst 1, 1) := dk_4 (dk_at dksX5_is_0 17 rfl rfl)
theorem dX5_is_18 : decode cX5_is 18 = .ok (.goto 4, 3) := dk_167 0 4 (dk_at dksX5_is_0 18 rfl rfl)
theorem dX5_is_21 : decode cX5_is 21 = .ok (.iconst 0, 1) := dk_3 (dk_at dksX5_is_0 21 rfl rfl)
theorem dX5_is_22 : decode cX5_is 22 = .ok (.ireturn, 1) := dk_172 (dk_at dksX5_is_0 22 rfl rfl)
abbrev cX5_closes : ByteArray := prog_24_method_22_code
def yX5_closes : MethodName := ⟨RX5, "closes", "()Z"⟩
def dkwX5_closes_8 : List UInt8 := [182, 0, 231, 3, 172, 3, 172]
abbrev dktX5_closes_8 : List UInt8 := dkwX5_closes_8 ++ []
def dkwX5_closes_7 : List UInt8 := [182, 1, 68, 4, 172, 167, 255, 88, 42, 180, 0, 214, 154, 0, 10, 42, 180, 1, 27, 158, 0, 7, 42]
abbrev dktX5_closes_7 : List UInt8 := dkwX5_closes_7 ++ dktX5_closes_8
def dkwX5_closes_6 : List UInt8 := [42, 182, 0, 228, 42, 180, 0, 43, 27, 42, 180, 1, 21, 42, 180, 1, 24, 96, 79, 42, 27, 4]
abbrev dktX5_closes_6 : List UInt8 := dkwX5_closes_6 ++ dktX5_closes_7
def dkwX5_closes_5 : List UInt8 := [167, 0, 4, 3, 61, 42, 180, 0, 40, 27, 42, 180, 1, 21, 42, 180, 1, 24, 96, 79, 28, 153, 0, 30]
abbrev dktX5_closes_5 : List UInt8 := dkwX5_closes_5 ++ dktX5_closes_6
def dkwX5_closes_4 : List UInt8 := [42, 180, 0, 28, 27, 46, 16, 7, 160, 0, 17, 42, 20, 1, 74, 182, 0, 224, 153, 0, 7, 4]
abbrev dktX5_closes_4 : List UInt8 := dkwX5_closes_4 ++ dktX5_closes_5
def dkwX5_closes_3 : List UInt8 := [154, 0, 49, 42, 180, 0, 28, 27, 46, 16, 6, 160, 0, 13, 42, 20, 1, 72, 182, 0, 224, 154, 0, 24]
abbrev dktX5_closes_3 : List UInt8 := dkwX5_closes_3 ++ dktX5_closes_4
def dkwX5_closes_2 : List UInt8 := [4, 100, 181, 1, 27, 42, 180, 0, 75, 42, 180, 1, 27, 46, 60, 42, 180, 0, 78, 42, 180, 1, 27, 46]
abbrev dktX5_closes_2 : List UInt8 := dkwX5_closes_2 ++ dktX5_closes_3
def dkwX5_closes_1 : List UInt8 := [180, 0, 214, 16, 125, 160, 0, 143, 42, 180, 1, 27, 158, 0, 136, 42, 182, 0, 228, 42, 89, 180, 1, 27]
abbrev dktX5_closes_1 : List UInt8 := dkwX5_closes_1 ++ dktX5_closes_2
def dkwX5_closes_0 : List UInt8 := [42, 180, 0, 220, 154, 0, 187, 42, 180, 0, 214, 16, 44, 160, 0, 9, 42, 182, 0, 228, 4, 172, 42]
abbrev dktX5_closes_0 : List UInt8 := dkwX5_closes_0 ++ dktX5_closes_1
theorem dksX5_closes_0 : cX5_closes.data.toList.drop 0 = dktX5_closes_0 := by decide +kernel
theorem dksX5_closes_1 : cX5_closes.data.toList.drop 23 = dktX5_closes_1 := dk_seg dksX5_closes_0 23 rfl rfl
theorem dksX5_closes_2 : cX5_closes.data.toList.drop 47 = dktX5_closes_2 := dk_seg dksX5_closes_1 24 rfl rfl
theorem dksX5_closes_3 : cX5_closes.data.toList.drop 71 = dktX5_closes_3 := dk_seg dksX5_closes_2 24 rfl rfl
theorem dksX5_closes_4 : cX5_closes.data.toList.drop 95 = dktX5_closes_4 := dk_seg dksX5_closes_3 24 rfl rfl
theorem dksX5_closes_5 : cX5_closes.data.toList.drop 117 = dktX5_closes_5 := dk_seg dksX5_closes_4 22 rfl rfl
theorem dksX5_closes_6 : cX5_closes.data.toList.drop 141 = dktX5_closes_6 := dk_seg dksX5_closes_5 24 rfl rfl
theorem dksX5_closes_7 : cX5_closes.data.toList.drop 163 = dktX5_closes_7 := dk_seg dksX5_closes_6 22 rfl rfl
theorem dksX5_closes_8 : cX5_closes.data.toList.drop 186 = dktX5_closes_8 := dk_seg dksX5_closes_7 23 rfl rfl
theorem dX5_closes_0 : decode cX5_closes 0 = .ok (.aload_n 0, 1) := dk_42 (dk_at dksX5_closes_0 0 rfl rfl)
theorem dX5_closes_1 : decode cX5_closes 1 = .ok (.getfield 220, 3) := dk_180 0 220 (dk_at dksX5_closes_0 1 rfl rfl)
theorem dX5_closes_4 : decode cX5_closes 4 = .ok (.ifCond .ne 187, 3) := dk_154 0 187 (dk_at dksX5_closes_0 4 rfl rfl)
theorem dX5_closes_7 : decode cX5_closes 7 = .ok (.aload_n 0, 1) := dk_42 (dk_at dksX5_closes_0 7 rfl rfl)
theorem dX5_closes_8 : decode cX5_closes 8 = .ok (.getfield 214, 3) := dk_180 0 214 (dk_at dksX5_closes_0 8 rfl rfl)
theorem dX5_closes_11 : decode cX5_closes 11 = .ok (.bipush 44, 2) := dk_16 44 (dk_at dksX5_closes_0 11 rfl rfl)
theorem dX5_closes_13 : decode cX5_closes 13 = .ok (.if_icmp .ne 9, 3) := dk_160 0 9 (dk_at dksX5_closes_0 13 rfl rfl)
theorem dX5_closes_16 : decode cX5_closes 16 = .ok (.aload_n 0, 1) := dk_42 (dk_at dksX5_closes_0 16 rfl rfl)
theorem dX5_closes_17 : decode cX5_closes 17 = .ok (.invokevirtual 228, 3) := dk_182 0 228 (dk_at dksX5_closes_0 17 rfl rfl)
theorem dX5_closes_20 : decode cX5_closes 20 = .ok (.iconst 1, 1) := dk_4 (dk_at dksX5_closes_0 20 rfl rfl)
theorem dX5_closes_21 : decode cX5_closes 21 = .ok (.ireturn, 1) := dk_172 (dk_at dksX5_closes_0 21 rfl rfl)
theorem dX5_closes_22 : decode cX5_closes 22 = .ok (.aload_n 0, 1) := dk_42 (dk_at dksX5_closes_0 22 rfl rfl)
theorem dX5_closes_23 : decode cX5_closes 23 = .ok (.getfield 214, 3) := dk_180 0 214 (dk_at dksX5_closes_1 0 rfl rfl)
theorem dX5_closes_26 : decode cX5_closes 26 = .ok (.bipush 125, 2) := dk_16 125 (dk_at dksX5_closes_1 3 rfl rfl)
theorem dX5_closes_28 : decode cX5_closes 28 = .ok (.if_icmp .ne 143, 3) := dk_160 0 143 (dk_at dksX5_closes_1 5 rfl rfl)
theorem dX5_closes_31 : decode cX5_closes 31 = .ok (.aload_n 0, 1) := dk_42 (dk_at dksX5_closes_1 8 rfl rfl)
theorem dX5_closes_32 : decode cX5_closes 32 = .ok (.getfield 283, 3) := dk_180 1 27 (dk_at dksX5_closes_1 9 rfl rfl)
theorem dX5_closes_35 : decode cX5_closes 35 = .ok (.ifCond .le 136, 3) := dk_158 0 136 (dk_at dksX5_closes_1 12 rfl rfl)
theorem dX5_closes_38 : decode cX5_closes 38 = .ok (.aload_n 0, 1) := dk_42 (dk_at dksX5_closes_1 15 rfl rfl)
theorem dX5_closes_39 : decode cX5_closes 39 = .ok (.invokevirtual 228, 3) := dk_182 0 228 (dk_at dksX5_closes_1 16 rfl rfl)
theorem dX5_closes_42 : decode cX5_closes 42 = .ok (.aload_n 0, 1) := dk_42 (dk_at dksX5_closes_1 19 rfl rfl)
theorem dX5_closes_43 : decode cX5_closes 43 = .ok (.dup, 1) := dk_89 (dk_at dksX5_closes_1 20 rfl rfl)
theorem dX5_closes_44 : decode cX5_closes 44 = .ok (.getfield 283, 3) := dk_180 1 27 (dk_at dksX5_closes_1 21 rfl rfl)
theorem dX5_closes_47 : decode cX5_closes 47 = .ok (.iconst 1, 1) := dk_4 (dk_at dksX5_closes_2 0 rfl rfl)
theorem dX5_closes_48 : decode cX5_closes 48 = .ok (.isub, 1) := dk_100 (dk_at dksX5_closes_2 1 rfl rfl)
theorem dX5_closes_49 : decode cX5_closes 49 = .ok (.putfield 283, 3) := dk_181 1 27 (dk_at dksX5_closes_2 2 rfl rfl)
theorem dX5_closes_52 : decode cX5_closes 52 = .ok (.aload_n 0, 1) := dk_42 (dk_at dksX5_closes_2 5 rfl rfl)
theorem dX5_closes_53 : decode cX5_closes 53 = .ok (.getfield 75, 3) := dk_180 0 75 (dk_at dksX5_closes_2 6 rfl rfl)
theorem dX5_closes_56 : decode cX5_closes 56 = .ok (.aload_n 0, 1) := dk_42 (dk_at dksX5_closes_2 9 rfl rfl)
theorem dX5_closes_57 : decode cX5_closes 57 = .ok (.getfield 283, 3) := dk_180 1 27 (dk_at dksX5_closes_2 10 rfl rfl)
theorem dX5_closes_60 : decode cX5_closes 60 = .ok (.iaload, 1) := dk_46 (dk_at dksX5_closes_2 13 rfl rfl)
theorem dX5_closes_61 : decode cX5_closes 61 = .ok (.istore_n 1, 1) := dk_60 (dk_at dksX5_closes_2 14 rfl rfl)
theorem dX5_closes_62 : decode cX5_closes 62 = .ok (.aload_n 0, 1) := dk_42 (dk_at dksX5_closes_2 15 rfl rfl)
theorem dX5_closes_63 : decode cX5_closes 63 = .ok (.getfield 78, 3) := dk_180 0 78 (dk_at dksX5_closes_2 16 rfl rfl)
theorem dX5_closes_66 : decode cX5_closes 66 = .ok (.aload_n 0, 1) := dk_42 (dk_at dksX5_closes_2 19 rfl rfl)
theorem dX5_closes_67 : decode cX5_closes 67 = .ok (.getfield 283, 3) := dk_180 1 27 (dk_at dksX5_closes_2 20 rfl rfl)
theorem dX5_closes_70 : decode cX5_closes 70 = .ok (.iaload, 1) := dk_46 (dk_at dksX5_closes_2 23 rfl rfl)
theorem dX5_closes_71 : decode cX5_closes 71 = .ok (.ifCond .ne 49, 3) := dk_154 0 49 (dk_at dksX5_closes_3 0 rfl rfl)
theorem dX5_closes_74 : decode cX5_closes 74 = .ok (.aload_n 0, 1) := dk_42 (dk_at dksX5_closes_3 3 rfl rfl)
theorem dX5_closes_75 : decode cX5_closes 75 = .ok (.getfield 28, 3) := dk_180 0 28 (dk_at dksX5_closes_3 4 rfl rfl)
theorem dX5_closes_78 : decode cX5_closes 78 = .ok (.iload_n 1, 1) := dk_27 (dk_at dksX5_closes_3 7 rfl rfl)
theorem dX5_closes_79 : decode cX5_closes 79 = .ok (.iaload, 1) := dk_46 (dk_at dksX5_closes_3 8 rfl rfl)
theorem dX5_closes_80 : decode cX5_closes 80 = .ok (.bipush 6, 2) := dk_16 6 (dk_at dksX5_closes_3 9 rfl rfl)
theorem dX5_closes_82 : decode cX5_closes 82 = .ok (.if_icmp .ne 13, 3) := dk_160 0 13 (dk_at dksX5_closes_3 11 rfl rfl)
theorem dX5_closes_85 : decode cX5_closes 85 = .ok (.aload_n 0, 1) := dk_42 (dk_at dksX5_closes_3 14 rfl rfl)
theorem dX5_closes_86 : decode cX5_closes 86 = .ok (.ldc2_w 328, 3) := dk_20 1 72 (dk_at dksX5_closes_3 15 rfl rfl)
theorem dX5_closes_89 : decode cX5_closes 89 = .ok (.invokevirtual 224, 3) := dk_182 0 224 (dk_at dksX5_closes_3 18 rfl rfl)
theorem dX5_closes_92 : decode cX5_closes 92 = .ok (.ifCond .ne 24, 3) := dk_154 0 24 (dk_at dksX5_closes_3 21 rfl rfl)
theorem dX5_closes_95 : decode cX5_closes 95 = .ok (.aload_n 0, 1) := dk_42 (dk_at dksX5_closes_4 0 rfl rfl)
theorem dX5_closes_96 : decode cX5_closes 96 = .ok (.getfield 28, 3) := dk_180 0 28 (dk_at dksX5_closes_4 1 rfl rfl)
theorem dX5_closes_99 : decode cX5_closes 99 = .ok (.iload_n 1, 1) := dk_27 (dk_at dksX5_closes_4 4 rfl rfl)
theorem dX5_closes_100 : decode cX5_closes 100 = .ok (.iaload, 1) := dk_46 (dk_at dksX5_closes_4 5 rfl rfl)
theorem dX5_closes_101 : decode cX5_closes 101 = .ok (.bipush 7, 2) := dk_16 7 (dk_at dksX5_closes_4 6 rfl rfl)
theorem dX5_closes_103 : decode cX5_closes 103 = .ok (.if_icmp .ne 17, 3) := dk_160 0 17 (dk_at dksX5_closes_4 8 rfl rfl)
theorem dX5_closes_106 : decode cX5_closes 106 = .ok (.aload_n 0, 1) := dk_42 (dk_at dksX5_closes_4 11 rfl rfl)
theorem dX5_closes_107 : decode cX5_closes 107 = .ok (.ldc2_w 330, 3) := dk_20 1 74 (dk_at dksX5_closes_4 12 rfl rfl)
theorem dX5_closes_110 : decode cX5_closes 110 = .ok (.invokevirtual 224, 3) := dk_182 0 224 (dk_at dksX5_closes_4 15 rfl rfl)
theorem dX5_closes_113 : decode cX5_closes 113 = .ok (.ifCond .eq 7, 3) := dk_153 0 7 (dk_at dksX5_closes_4 18 rfl rfl)
theorem dX5_closes_116 : decode cX5_closes 116 = .ok (.iconst 1, 1) := dk_4 (dk_at dksX5_closes_4 21 rfl rfl)
theorem dX5_closes_117 : decode cX5_closes 117 = .ok (.goto 4, 3) := dk_167 0 4 (dk_at dksX5_closes_5 0 rfl rfl)
theorem dX5_closes_120 : decode cX5_closes 120 = .ok (.iconst 0, 1) := dk_3 (dk_at dksX5_closes_5 3 rfl rfl)
theorem dX5_closes_121 : decode cX5_closes 121 = .ok (.istore_n 2, 1) := dk_61 (dk_at dksX5_closes_5 4 rfl rfl)
theorem dX5_closes_122 : decode cX5_closes 122 = .ok (.aload_n 0, 1) := dk_42 (dk_at dksX5_closes_5 5 rfl rfl)
theorem dX5_closes_123 : decode cX5_closes 123 = .ok (.getfield 40, 3) := dk_180 0 40 (dk_at dksX5_closes_5 6 rfl rfl)
theorem dX5_closes_126 : decode cX5_closes 126 = .ok (.iload_n 1, 1) := dk_27 (dk_at dksX5_closes_5 9 rfl rfl)
theorem dX5_closes_127 : decode cX5_closes 127 = .ok (.aload_n 0, 1) := dk_42 (dk_at dksX5_closes_5 10 rfl rfl)
theorem dX5_closes_128 : decode cX5_closes 128 = .ok (.getfield 277, 3) := dk_180 1 21 (dk_at dksX5_closes_5 11 rfl rfl)
theorem dX5_closes_131 : decode cX5_closes 131 = .ok (.aload_n 0, 1) := dk_42 (dk_at dksX5_closes_5 14 rfl rfl)
theorem dX5_closes_132 : decode cX5_closes 132 = .ok (.getfield 280, 3) := dk_180 1 24 (dk_at dksX5_closes_5 15 rfl rfl)
theorem dX5_closes_135 : decode cX5_closes 135 = .ok (.iadd, 1) := dk_96 (dk_at dksX5_closes_5 18 rfl rfl)
theorem dX5_closes_136 : decode cX5_closes 136 = .ok (.iastore, 1) := dk_79 (dk_at dksX5_closes_5 19 rfl rfl)
theorem dX5_closes_137 : decode cX5_closes 137 = .ok (.iload_n 2, 1) := dk_28 (dk_at dksX5_closes_5 20 rfl rfl)
theorem dX5_closes_138 : decode cX5_closes 138 = .ok (.ifCond .eq 30, 3) := dk_153 0 30 (dk_at dksX5_closes_5 21 rfl rfl)
theorem dX5_closes_141 : decode cX5_closes 141 = .ok (.aload_n 0, 1) := dk_42 (dk_at dksX5_closes_6 0 rfl rfl)
theorem dX5_closes_142 : decode cX5_closes 142 = .ok (.invokevirtual 228, 3) := dk_182 0 228 (dk_at dksX5_closes_6 1 rfl rfl)
theorem dX5_closes_145 : decode cX5_closes 145 = .ok (.aload_n 0, 1) := dk_42 (dk_at dksX5_closes_6 4 rfl rfl)
theorem dX5_closes_146 : decode cX5_closes 146 = .ok (.getfield 43, 3) := dk_180 0 43 (dk_at dksX5_closes_6 5 rfl rfl)
theorem dX5_closes_149 : decode cX5_closes 149 = .ok (.iload_n 1, 1) := dk_27 (dk_at dksX5_closes_6 8 rfl rfl)
theorem dX5_closes_150 : decode cX5_closes 150 = .ok (.aload_n 0, 1) := dk_42 (dk_at dksX5_closes_6 9 rfl rfl)
theorem dX5_closes_151 : decode cX5_closes 151 = .ok (.getfield 277, 3) := dk_180 1 21 (dk_at dksX5_closes_6 10 rfl rfl)
theorem dX5_closes_154 : decode cX5_closes 154 = .ok (.aload_n 0, 1) := dk_42 (dk_at dksX5_closes_6 13 rfl rfl)
theorem dX5_closes_155 : decode cX5_closes 155 = .ok (.getfield 280, 3) := dk_180 1 24 (dk_at dksX5_closes_6 14 rfl rfl)
theorem dX5_closes_158 : decode cX5_closes 158 = .ok (.iadd, 1) := dk_96 (dk_at dksX5_closes_6 17 rfl rfl)
theorem dX5_closes_159 : decode cX5_closes 159 = .ok (.iastore, 1) := dk_79 (dk_at dksX5_closes_6 18 rfl rfl)
theorem dX5_closes_160 : decode cX5_closes 160 = .ok (.aload_n 0, 1) := dk_42 (dk_at dksX5_closes_6 19 rfl rfl)
theorem dX5_closes_161 : decode cX5_closes 161 = .ok (.iload_n 1, 1) := dk_27 (dk_at dksX5_closes_6 20 rfl rfl)
theorem dX5_closes_162 : decode cX5_closes 162 = .ok (.iconst 1, 1) := dk_4 (dk_at dksX5_closes_6 21 rfl rfl)
theorem dX5_closes_163 : decode cX5_closes 163 = .ok (.invokevirtual 324, 3) := dk_182 1 68 (dk_at dksX5_closes_7 0 rfl rfl)
theorem dX5_closes_166 : decode cX5_closes 166 = .ok (.iconst 1, 1) := dk_4 (dk_at dksX5_closes_7 3 rfl rfl)
theorem dX5_closes_167 : decode cX5_closes 167 = .ok (.ireturn, 1) := dk_172 (dk_at dksX5_closes_7 4 rfl rfl)
theorem dX5_closes_168 : decode cX5_closes 168 = .ok (.goto (-168), 3) := dk_167 255 88 (dk_at dksX5_closes_7 5 rfl rfl)
theorem dX5_closes_171 : decode cX5_closes 171 = .ok (.aload_n 0, 1) := dk_42 (dk_at dksX5_closes_7 8 rfl rfl)
theorem dX5_closes_172 : decode cX5_closes 172 = .ok (.getfield 214, 3) := dk_180 0 214 (dk_at dksX5_closes_7 9 rfl rfl)
theorem dX5_closes_175 : decode cX5_closes 175 = .ok (.ifCond .ne 10, 3) := dk_154 0 10 (dk_at dksX5_closes_7 12 rfl rfl)
theorem dX5_closes_178 : decode cX5_closes 178 = .ok (.aload_n 0, 1) := dk_42 (dk_at dksX5_closes_7 15 rfl rfl)
theorem dX5_closes_179 : decode cX5_closes 179 = .ok (.getfield 283, 3) := dk_180 1 27 (dk_at dksX5_closes_7 16 rfl rfl)
theorem dX5_closes_182 : decode cX5_closes 182 = .ok (.ifCond .le 7, 3) := dk_158 0 7 (dk_at dksX5_closes_7 19 rfl rfl)
theorem dX5_closes_185 : decode cX5_closes 185 = .ok (.aload_n 0, 1) := dk_42 (dk_at dksX5_closes_7 22 rfl rfl)
theorem dX5_closes_186 : decode cX5_closes 186 = .ok (.invokevirtual 231, 3) := dk_182 0 231 (dk_at dksX5_closes_8 0 rfl rfl)
theorem dX5_closes_189 : decode cX5_closes 189 = .ok (.iconst 0, 1) := dk_3 (dk_at dksX5_closes_8 3 rfl rfl)
theorem dX5_closes_190 : decode cX5_closes 190 = .ok (.ireturn, 1) := dk_172 (dk_at dksX5_closes_8 4 rfl rfl)
theorem dX5_closes_191 : decode cX5_closes 191 = .ok (.iconst 0, 1) := dk_3 (dk_at dksX5_closes_8 5 rfl rfl)
theorem dX5_closes_192 : decode cX5_closes 192 = .ok (.ireturn, 1) := dk_172 (dk_at dksX5_closes_8 6 rfl rfl)
abbrev cX5_opens : ByteArray := prog_24_method_20_code
def yX5_opens : MethodName := ⟨RX5, "opens", "(II)V"⟩
def dkwX5_opens_2 : List UInt8 := [180, 1, 27, 28, 79, 42, 89, 180, 1, 27, 4, 96, 181, 1, 27, 42, 182, 0, 228, 177]
abbrev dktX5_opens_2 : List UInt8 := dkwX5_opens_2 ++ []
def dkwX5_opens_1 : List UInt8 := [160, 0, 8, 42, 182, 0, 231, 177, 42, 180, 0, 75, 42, 180, 1, 27, 27, 79, 42, 180, 0, 78, 42]
abbrev dktX5_opens_1 : List UInt8 := dkwX5_opens_1 ++ dktX5_opens_2
def dkwX5_opens_0 : List UInt8 := [42, 180, 0, 220, 153, 0, 4, 177, 42, 180, 0, 214, 16, 123, 160, 0, 12, 42, 180, 1, 27, 16, 6]
abbrev dktX5_opens_0 : List UInt8 := dkwX5_opens_0 ++ dktX5_opens_1
theorem dksX5_opens_0 : cX5_opens.data.toList.drop 0 = dktX5_opens_0 := by decide +kernel
theorem dksX5_opens_1 : cX5_opens.data.toList.drop 23 = dktX5_opens_1 := dk_seg dksX5_opens_0 23 rfl rfl
theorem dksX5_opens_2 : cX5_opens.data.toList.drop 46 = dktX5_opens_2 := dk_seg dksX5_opens_1 23 rfl rfl
theorem dX5_opens_0 : decode cX5_opens 0 = .ok (.aload_n 0, 1) := dk_42 (dk_at dksX5_opens_0 0 rfl rfl)
theorem dX5_opens_1 : decode cX5_opens 1 = .ok (.getfield 220, 3) := dk_180 0 220 (dk_at dksX5_opens_0 1 rfl rfl)
theorem dX5_opens_4 : decode cX5_opens 4 = .ok (.ifCond .eq 4, 3) := dk_153 0 4 (dk_at dksX5_opens_0 4 rfl rfl)
theorem dX5_opens_7 : decode cX5_opens 7 = .ok (.return_, 1) := dk_177 (dk_at dksX5_opens_0 7 rfl rfl)
theorem dX5_opens_8 : decode cX5_opens 8 = .ok (.aload_n 0, 1) := dk_42 (dk_at dksX5_opens_0 8 rfl rfl)
theorem dX5_opens_9 : decode cX5_opens 9 = .ok (.getfield 214, 3) := dk_180 0 214 (dk_at dksX5_opens_0 9 rfl rfl)
theorem dX5_opens_12 : decode cX5_opens 12 = .ok (.bipush 123, 2) := dk_16 123 (dk_at dksX5_opens_0 12 rfl rfl)
theorem dX5_opens_14 : decode cX5_opens 14 = .ok (.if_icmp .ne 12, 3) := dk_160 0 12 (dk_at dksX5_opens_0 14 rfl rfl)
theorem dX5_opens_17 : decode cX5_opens 17 = .ok (.aload_n 0, 1) := dk_42 (dk_at dksX5_opens_0 17 rfl rfl)
theorem dX5_opens_18 : decode cX5_opens 18 = .ok (.getfield 283, 3) := dk_180 1 27 (dk_at dksX5_opens_0 18 rfl rfl)
theorem dX5_opens_21 : decode cX5_opens 21 = .ok (.bipush 6, 2) := dk_16 6 (dk_at dksX5_opens_0 21 rfl rfl)
theorem dX5_opens_23 : decode cX5_opens 23 = .ok (.if_icmp .ne 8, 3) := dk_160 0 8 (dk_at dksX5_opens_1 0 rfl rfl)
theorem dX5_opens_26 : decode cX5_opens 26 = .ok (.aload_n 0, 1) := dk_42 (dk_at dksX5_opens_1 3 rfl rfl)
theorem dX5_opens_27 : decode cX5_opens 27 = .ok (.invokevirtual 231, 3) := dk_182 0 231 (dk_at dksX5_opens_1 4 rfl rfl)
theorem dX5_opens_30 : decode cX5_opens 30 = .ok (.return_, 1) := dk_177 (dk_at dksX5_opens_1 7 rfl rfl)
theorem dX5_opens_31 : decode cX5_opens 31 = .ok (.aload_n 0, 1) := dk_42 (dk_at dksX5_opens_1 8 rfl rfl)
theorem dX5_opens_32 : decode cX5_opens 32 = .ok (.getfield 75, 3) := dk_180 0 75 (dk_at dksX5_opens_1 9 rfl rfl)
theorem dX5_opens_35 : decode cX5_opens 35 = .ok (.aload_n 0, 1) := dk_42 (dk_at dksX5_opens_1 12 rfl rfl)
theorem dX5_opens_36 : decode cX5_opens 36 = .ok (.getfield 283, 3) := dk_180 1 27 (dk_at dksX5_opens_1 13 rfl rfl)
theorem dX5_opens_39 : decode cX5_opens 39 = .ok (.iload_n 1, 1) := dk_27 (dk_at dksX5_opens_1 16 rfl rfl)
theorem dX5_opens_40 : decode cX5_opens 40 = .ok (.iastore, 1) := dk_79 (dk_at dksX5_opens_1 17 rfl rfl)
theorem dX5_opens_41 : decode cX5_opens 41 = .ok (.aload_n 0, 1) := dk_42 (dk_at dksX5_opens_1 18 rfl rfl)
theorem dX5_opens_42 : decode cX5_opens 42 = .ok (.getfield 78, 3) := dk_180 0 78 (dk_at dksX5_opens_1 19 rfl rfl)
theorem dX5_opens_45 : decode cX5_opens 45 = .ok (.aload_n 0, 1) := dk_42 (dk_at dksX5_opens_1 22 rfl rfl)
theorem dX5_opens_46 : decode cX5_opens 46 = .ok (.getfield 283, 3) := dk_180 1 27 (dk_at dksX5_opens_2 0 rfl rfl)
theorem dX5_opens_49 : decode cX5_opens 49 = .ok (.iload_n 2, 1) := dk_28 (dk_at dksX5_opens_2 3 rfl rfl)
theorem dX5_opens_50 : decode cX5_opens 50 = .ok (.iastore, 1) := dk_79 (dk_at dksX5_opens_2 4 rfl rfl)
theorem dX5_opens_51 : decode cX5_opens 51 = .ok (.aload_n 0, 1) := dk_42 (dk_at dksX5_opens_2 5 rfl rfl)
theorem dX5_opens_52 : decode cX5_opens 52 = .ok (.dup, 1) := dk_89 (dk_at dksX5_opens_2 6 rfl rfl)
theorem dX5_opens_53 : decode cX5_opens 53 = .ok (.getfield 283, 3) := dk_180 1 27 (dk_at dksX5_opens_2 7 rfl rfl)
theorem dX5_opens_56 : decode cX5_opens 56 = .ok (.iconst 1, 1) := dk_4 (dk_at dksX5_opens_2 10 rfl rfl)
theorem dX5_opens_57 : decode cX5_opens 57 = .ok (.iadd, 1) := dk_96 (dk_at dksX5_opens_2 11 rfl rfl)
theorem dX5_opens_58 : decode cX5_opens 58 = .ok (.putfield 283, 3) := dk_181 1 27 (dk_at dksX5_opens_2 12 rfl rfl)
theorem dX5_opens_61 : decode cX5_opens 61 = .ok (.aload_n 0, 1) := dk_42 (dk_at dksX5_opens_2 15 rfl rfl)
theorem dX5_opens_62 : decode cX5_opens 62 = .ok (.invokevirtual 228, 3) := dk_182 0 228 (dk_at dksX5_opens_2 16 rfl rfl)
theorem dX5_opens_65 : decode cX5_opens 65 = .ok (.return_, 1) := dk_177 (dk_at dksX5_opens_2 19 rfl rfl)
abbrev cX5_readGroup : ByteArray := prog_24_method_21_code
def yX5_readGroup : MethodName := ⟨RX5, "readGroup", "(I)V"⟩
def dkwX5_readGroup_6 : List UInt8 := [42, 89, 180, 1, 59, 4, 96, 181, 1, 59, 42, 28, 3, 182, 1, 68, 177]
abbrev dktX5_readGroup_6 : List UInt8 := dkwX5_readGroup_6 ++ []
def dkwX5_readGroup_5 : List UInt8 := [160, 0, 34, 42, 180, 0, 46, 28, 42, 2, 182, 1, 37, 79, 42, 180, 0, 31, 28, 42, 180, 1, 59, 79]
abbrev dktX5_readGroup_5 : List UInt8 := dkwX5_readGroup_5 ++ dktX5_readGroup_6
def dkwX5_readGroup_4 : List UInt8 := [42, 89, 180, 1, 65, 4, 42, 180, 0, 31, 28, 46, 120, 128, 181, 1, 65, 42, 182, 0, 228, 27, 16, 7]
abbrev dktX5_readGroup_4 : List UInt8 := dkwX5_readGroup_4 ++ dktX5_readGroup_5
def dkwX5_readGroup_3 : List UInt8 := [42, 180, 0, 31, 28, 42, 182, 1, 62, 79, 42, 180, 0, 31, 28, 46, 156, 0, 8, 42, 182, 0, 231, 177]
abbrev dktX5_readGroup_3 : List UInt8 := dkwX5_readGroup_3 ++ dktX5_readGroup_4
def dkwX5_readGroup_2 : List UInt8 := [27, 8, 160, 0, 16, 42, 180, 0, 31, 28, 42, 3, 16, 9, 182, 1, 43, 79, 27, 16, 6, 160, 0, 48]
abbrev dktX5_readGroup_2 : List UInt8 := dkwX5_readGroup_2 ++ dktX5_readGroup_3
def dkwX5_readGroup_1 : List UInt8 := [61, 42, 182, 0, 228, 27, 7, 160, 0, 17, 42, 180, 0, 31, 28, 42, 3, 17, 1, 143, 182, 1, 43, 79]
abbrev dktX5_readGroup_1 : List UInt8 := dkwX5_readGroup_1 ++ dktX5_readGroup_2
def dkwX5_readGroup_0 : List UInt8 := [27, 16, 7, 160, 0, 16, 42, 180, 1, 59, 6, 160, 0, 8, 42, 182, 0, 231, 177, 42, 27, 182, 1, 33]
abbrev dktX5_readGroup_0 : List UInt8 := dkwX5_readGroup_0 ++ dktX5_readGroup_1
theorem dksX5_readGroup_0 : cX5_readGroup.data.toList.drop 0 = dktX5_readGroup_0 := by decide +kernel
theorem dksX5_readGroup_1 : cX5_readGroup.data.toList.drop 24 = dktX5_readGroup_1 := dk_seg dksX5_readGroup_0 24 rfl rfl
theorem dksX5_readGroup_2 : cX5_readGroup.data.toList.drop 48 = dktX5_readGroup_2 := dk_seg dksX5_readGroup_1 24 rfl rfl
theorem dksX5_readGroup_3 : cX5_readGroup.data.toList.drop 72 = dktX5_readGroup_3 := dk_seg dksX5_readGroup_2 24 rfl rfl
theorem dksX5_readGroup_4 : cX5_readGroup.data.toList.drop 96 = dktX5_readGroup_4 := dk_seg dksX5_readGroup_3 24 rfl rfl
theorem dksX5_readGroup_5 : cX5_readGroup.data.toList.drop 120 = dktX5_readGroup_5 := dk_seg dksX5_readGroup_4 24 rfl rfl
theorem dksX5_readGroup_6 : cX5_readGroup.data.toList.drop 144 = dktX5_readGroup_6 := dk_seg dksX5_readGroup_5 24 rfl rfl
theorem dX5_readGroup_0 : decode cX5_readGroup 0 = .ok (.iload_n 1, 1) := dk_27 (dk_at dksX5_readGroup_0 0 rfl rfl)
theorem dX5_readGroup_1 : decode cX5_readGroup 1 = .ok (.bipush 7, 2) := dk_16 7 (dk_at dksX5_readGroup_0 1 rfl rfl)
theorem dX5_readGroup_3 : decode cX5_readGroup 3 = .ok (.if_icmp .ne 16, 3) := dk_160 0 16 (dk_at dksX5_readGroup_0 3 rfl rfl)
theorem dX5_readGroup_6 : decode cX5_readGroup 6 = .ok (.aload_n 0, 1) := dk_42 (dk_at dksX5_readGroup_0 6 rfl rfl)
theorem dX5_readGroup_7 : decode cX5_readGroup 7 = .ok (.getfield 315, 3) := dk_180 1 59 (dk_at dksX5_readGroup_0 7 rfl rfl)
theorem dX5_readGroup_10 : decode cX5_readGroup 10 = .ok (.iconst 3, 1) := dk_6 (dk_at dksX5_readGroup_0 10 rfl rfl)
theorem dX5_readGroup_11 : decode cX5_readGroup 11 = .ok (.if_icmp .ne 8, 3) := dk_160 0 8 (dk_at dksX5_readGroup_0 11 rfl rfl)
theorem dX5_readGroup_14 : decode cX5_readGroup 14 = .ok (.aload_n 0, 1) := dk_42 (dk_at dksX5_readGroup_0 14 rfl rfl)
theorem dX5_readGroup_15 : decode cX5_readGroup 15 = .ok (.invokevirtual 231, 3) := dk_182 0 231 (dk_at dksX5_readGroup_0 15 rfl rfl)
theorem dX5_readGroup_18 : decode cX5_readGroup 18 = .ok (.return_, 1) := dk_177 (dk_at dksX5_readGroup_0 18 rfl rfl)
theorem dX5_readGroup_19 : decode cX5_readGroup 19 = .ok (.aload_n 0, 1) := dk_42 (dk_at dksX5_readGroup_0 19 rfl rfl)
theorem dX5_readGroup_20 : decode cX5_readGroup 20 = .ok (.iload_n 1, 1) := dk_27 (dk_at dksX5_readGroup_0 20 rfl rfl)
theorem dX5_readGroup_21 : decode cX5_readGroup 21 = .ok (.invokevirtual 289, 3) := dk_182 1 33 (dk_at dksX5_readGroup_0 21 rfl rfl)
theorem dX5_readGroup_24 : decode cX5_readGroup 24 = .ok (.istore_n 2, 1) := dk_61 (dk_at dksX5_readGroup_1 0 rfl rfl)
theorem dX5_readGroup_25 : decode cX5_readGroup 25 = .ok (.aload_n 0, 1) := dk_42 (dk_at dksX5_readGroup_1 1 rfl rfl)
theorem dX5_readGroup_26 : decode cX5_readGroup 26 = .ok (.invokevirtual 228, 3) := dk_182 0 228 (dk_at dksX5_readGroup_1 2 rfl rfl)
theorem dX5_readGroup_29 : decode cX5_readGroup 29 = .ok (.iload_n 1, 1) := dk_27 (dk_at dksX5_readGroup_1 5 rfl rfl)
theorem dX5_readGroup_30 : decode cX5_readGroup 30 = .ok (.iconst 4, 1) := dk_7 (dk_at dksX5_readGroup_1 6 rfl rfl)
theorem dX5_readGroup_31 : decode cX5_readGroup 31 = .ok (.if_icmp .ne 17, 3) := dk_160 0 17 (dk_at dksX5_readGroup_1 7 rfl rfl)
theorem dX5_readGroup_34 : decode cX5_readGroup 34 = .ok (.aload_n 0, 1) := dk_42 (dk_at dksX5_readGroup_1 10 rfl rfl)
theorem dX5_readGroup_35 : decode cX5_readGroup 35 = .ok (.getfield 31, 3) := dk_180 0 31 (dk_at dksX5_readGroup_1 11 rfl rfl)
theorem dX5_readGroup_38 : decode cX5_readGroup 38 = .ok (.iload_n 2, 1) := dk_28 (dk_at dksX5_readGroup_1 14 rfl rfl)
theorem dX5_readGroup_39 : decode cX5_readGroup 39 = .ok (.aload_n 0, 1) := dk_42 (dk_at dksX5_readGroup_1 15 rfl rfl)
theorem dX5_readGroup_40 : decode cX5_readGroup 40 = .ok (.iconst 0, 1) := dk_3 (dk_at dksX5_readGroup_1 16 rfl rfl)
theorem dX5_readGroup_41 : decode cX5_readGroup 41 = .ok (.sipush 399, 3) := dk_17 1 143 (dk_at dksX5_readGroup_1 17 rfl rfl)
theorem dX5_readGroup_44 : decode cX5_readGroup 44 = .ok (.invokevirtual 299, 3) := dk_182 1 43 (dk_at dksX5_readGroup_1 20 rfl rfl)
theorem dX5_readGroup_47 : decode cX5_readGroup 47 = .ok (.iastore, 1) := dk_79 (dk_at dksX5_readGroup_1 23 rfl rfl)
theorem dX5_readGroup_48 : decode cX5_readGroup 48 = .ok (.iload_n 1, 1) := dk_27 (dk_at dksX5_readGroup_2 0 rfl rfl)
theorem dX5_readGroup_49 : decode cX5_readGroup 49 = .ok (.iconst 5, 1) := dk_8 (dk_at dksX5_readGroup_2 1 rfl rfl)
theorem dX5_readGroup_50 : decode cX5_readGroup 50 = .ok (.if_icmp .ne 16, 3) := dk_160 0 16 (dk_at dksX5_readGroup_2 2 rfl rfl)
theorem dX5_readGroup_53 : decode cX5_readGroup 53 = .ok (.aload_n 0, 1) := dk_42 (dk_at dksX5_readGroup_2 5 rfl rfl)
theorem dX5_readGroup_54 : decode cX5_readGroup 54 = .ok (.getfield 31, 3) := dk_180 0 31 (dk_at dksX5_readGroup_2 6 rfl rfl)
theorem dX5_readGroup_57 : decode cX5_readGroup 57 = .ok (.iload_n 2, 1) := dk_28 (dk_at dksX5_readGroup_2 9 rfl rfl)
theorem dX5_readGroup_58 : decode cX5_readGroup 58 = .ok (.aload_n 0, 1) := dk_42 (dk_at dksX5_readGroup_2 10 rfl rfl)
theorem dX5_readGroup_59 : decode cX5_readGroup 59 = .ok (.iconst 0, 1) := dk_3 (dk_at dksX5_readGroup_2 11 rfl rfl)
theorem dX5_readGroup_60 : decode cX5_readGroup 60 = .ok (.bipush 9, 2) := dk_16 9 (dk_at dksX5_readGroup_2 12 rfl rfl)
theorem dX5_readGroup_62 : decode cX5_readGroup 62 = .ok (.invokevirtual 299, 3) := dk_182 1 43 (dk_at dksX5_readGroup_2 14 rfl rfl)
theorem dX5_readGroup_65 : decode cX5_readGroup 65 = .ok (.iastore, 1) := dk_79 (dk_at dksX5_readGroup_2 17 rfl rfl)
theorem dX5_readGroup_66 : decode cX5_readGroup 66 = .ok (.iload_n 1, 1) := dk_27 (dk_at dksX5_readGroup_2 18 rfl rfl)
theorem dX5_readGroup_67 : decode cX5_readGroup 67 = .ok (.bipush 6, 2) := dk_16 6 (dk_at dksX5_readGroup_2 19 rfl rfl)
theorem dX5_readGroup_69 : decode cX5_readGroup 69 = .ok (.if_icmp .ne 48, 3) := dk_160 0 48 (dk_at dksX5_readGroup_2 21 rfl rfl)
theorem dX5_readGroup_72 : decode cX5_readGroup 72 = .ok (.aload_n 0, 1) := dk_42 (dk_at dksX5_readGroup_3 0 rfl rfl)
theorem dX5_readGroup_73 : decode cX5_readGroup 73 = .ok (.getfield 31, 3) := dk_180 0 31 (dk_at dksX5_readGroup_3 1 rfl rfl)
theorem dX5_readGroup_76 : decode cX5_readGroup 76 = .ok (.iload_n 2, 1) := dk_28 (dk_at dksX5_readGroup_3 4 rfl rfl)
theorem dX5_readGroup_77 : decode cX5_readGroup 77 = .ok (.aload_n 0, 1) := dk_42 (dk_at dksX5_readGroup_3 5 rfl rfl)
theorem dX5_readGroup_78 : decode cX5_readGroup 78 = .ok (.invokevirtual 318, 3) := dk_182 1 62 (dk_at dksX5_readGroup_3 6 rfl rfl)
theorem dX5_readGroup_81 : decode cX5_readGroup 81 = .ok (.iastore, 1) := dk_79 (dk_at dksX5_readGroup_3 9 rfl rfl)
theorem dX5_readGroup_82 : decode cX5_readGroup 82 = .ok (.aload_n 0, 1) := dk_42 (dk_at dksX5_readGroup_3 10 rfl rfl)
theorem dX5_readGroup_83 : decode cX5_readGroup 83 = .ok (.getfield 31, 3) := dk_180 0 31 (dk_at dksX5_readGroup_3 11 rfl rfl)
theorem dX5_readGroup_86 : decode cX5_readGroup 86 = .ok (.iload_n 2, 1) := dk_28 (dk_at dksX5_readGroup_3 14 rfl rfl)
theorem dX5_readGroup_87 : decode cX5_readGroup 87 = .ok (.iaload, 1) := dk_46 (dk_at dksX5_readGroup_3 15 rfl rfl)
theorem dX5_readGroup_88 : decode cX5_readGroup 88 = .ok (.ifCond .ge 8, 3) := dk_156 0 8 (dk_at dksX5_readGroup_3 16 rfl rfl)
theorem dX5_readGroup_91 : decode cX5_readGroup 91 = .ok (.aload_n 0, 1) := dk_42 (dk_at dksX5_readGroup_3 19 rfl rfl)
theorem dX5_readGroup_92 : decode cX5_readGroup 92 = .ok (.invokevirtual 231, 3) := dk_182 0 231 (dk_at dksX5_readGroup_3 20 rfl rfl)
theorem dX5_readGroup_95 : decode cX5_readGroup 95 = .ok (.return_, 1) := dk_177 (dk_at dksX5_readGroup_3 23 rfl rfl)
theorem dX5_readGroup_96 : decode cX5_readGroup 96 = .ok (.aload_n 0, 1) := dk_42 (dk_at dksX5_readGroup_4 0 rfl rfl)
theorem dX5_readGroup_97 : decode cX5_readGroup 97 = .ok (.dup, 1) := dk_89 (dk_at dksX5_readGroup_4 1 rfl rfl)
theorem dX5_readGroup_98 : decode cX5_readGroup 98 = .ok (.getfield 321, 3) := dk_180 1 65 (dk_at dksX5_readGroup_4 2 rfl rfl)
theorem dX5_readGroup_101 : decode cX5_readGroup 101 = .ok (.iconst 1, 1) := dk_4 (dk_at dksX5_readGroup_4 5 rfl rfl)
theorem dX5_readGroup_102 : decode cX5_readGroup 102 = .ok (.aload_n 0, 1) := dk_42 (dk_at dksX5_readGroup_4 6 rfl rfl)
theorem dX5_readGroup_103 : decode cX5_readGroup 103 = .ok (.getfield 31, 3) := dk_180 0 31 (dk_at dksX5_readGroup_4 7 rfl rfl)
theorem dX5_readGroup_106 : decode cX5_readGroup 106 = .ok (.iload_n 2, 1) := dk_28 (dk_at dksX5_readGroup_4 10 rfl rfl)
theorem dX5_readGroup_107 : decode cX5_readGroup 107 = .ok (.iaload, 1) := dk_46 (dk_at dksX5_readGroup_4 11 rfl rfl)
theorem dX5_readGroup_108 : decode cX5_readGroup 108 = .ok (.ishl, 1) := dk_120 (dk_at dksX5_readGroup_4 12 rfl rfl)
theorem dX5_readGroup_109 : decode cX5_readGroup 109 = .ok (.ior, 1) := dk_128 (dk_at dksX5_readGroup_4 13 rfl rfl)
theorem dX5_readGroup_110 : decode cX5_readGroup 110 = .ok (.putfield 321, 3) := dk_181 1 65 (dk_at dksX5_readGroup_4 14 rfl rfl)
theorem dX5_readGroup_113 : decode cX5_readGroup 113 = .ok (.aload_n 0, 1) := dk_42 (dk_at dksX5_readGroup_4 17 rfl rfl)
theorem dX5_readGroup_114 : decode cX5_readGroup 114 = .ok (.invokevirtual 228, 3) := dk_182 0 228 (dk_at dksX5_readGroup_4 18 rfl rfl)
theorem dX5_readGroup_117 : decode cX5_readGroup 117 = .ok (.iload_n 1, 1) := dk_27 (dk_at dksX5_readGroup_4 21 rfl rfl)
theorem dX5_readGroup_118 : decode cX5_readGroup 118 = .ok (.bipush 7, 2) := dk_16 7 (dk_at dksX5_readGroup_4 22 rfl rfl)
theorem dX5_readGroup_120 : decode cX5_readGroup 120 = .ok (.if_icmp .ne 34, 3) := dk_160 0 34 (dk_at dksX5_readGroup_5 0 rfl rfl)
theorem dX5_readGroup_123 : decode cX5_readGroup 123 = .ok (.aload_n 0, 1) := dk_42 (dk_at dksX5_readGroup_5 3 rfl rfl)
theorem dX5_readGroup_124 : decode cX5_readGroup 124 = .ok (.getfield 46, 3) := dk_180 0 46 (dk_at dksX5_readGroup_5 4 rfl rfl)
theorem dX5_readGroup_127 : decode cX5_readGroup 127 = .ok (.iload_n 2, 1) := dk_28 (dk_at dksX5_readGroup_5 7 rfl rfl)
theorem dX5_readGroup_128 : decode cX5_readGroup 128 = .ok (.aload_n 0, 1) := dk_42 (dk_at dksX5_readGroup_5 8 rfl rfl)
theorem dX5_readGroup_129 : decode cX5_readGroup 129 = .ok (.iconst (-1), 1) := dk_2 (dk_at dksX5_readGroup_5 9 rfl rfl)
theorem dX5_readGroup_130 : decode cX5_readGroup 130 = .ok (.invokevirtual 293, 3) := dk_182 1 37 (dk_at dksX5_readGroup_5 10 rfl rfl)
theorem dX5_readGroup_133 : decode cX5_readGroup 133 = .ok (.iastore, 1) := dk_79 (dk_at dksX5_readGroup_5 13 rfl rfl)
theorem dX5_readGroup_134 : decode cX5_readGroup 134 = .ok (.aload_n 0, 1) := dk_42 (dk_at dksX5_readGroup_5 14 rfl rfl)
theorem dX5_readGroup_135 : decode cX5_readGroup 135 = .ok (.getfield 31, 3) := dk_180 0 31 (dk_at dksX5_readGroup_5 15 rfl rfl)
theorem dX5_readGroup_138 : decode cX5_readGroup 138 = .ok (.iload_n 2, 1) := dk_28 (dk_at dksX5_readGroup_5 18 rfl rfl)
theorem dX5_readGroup_139 : decode cX5_readGroup 139 = .ok (.aload_n 0, 1) := dk_42 (dk_at dksX5_readGroup_5 19 rfl rfl)
theorem dX5_readGroup_140 : decode cX5_readGroup 140 = .ok (.getfield 315, 3) := dk_180 1 59 (dk_at dksX5_readGroup_5 20 rfl rfl)
theorem dX5_readGroup_143 : decode cX5_readGroup 143 = .ok (.iastore, 1) := dk_79 (dk_at dksX5_readGroup_5 23 rfl rfl)
theorem dX5_readGroup_144 : decode cX5_readGroup 144 = .ok (.aload_n 0, 1) := dk_42 (dk_at dksX5_readGroup_6 0 rfl rfl)
theorem dX5_readGroup_145 : decode cX5_readGroup 145 = .ok (.dup, 1) := dk_89 (dk_at dksX5_readGroup_6 1 rfl rfl)
theorem dX5_readGroup_146 : decode cX5_readGroup 146 = .ok (.getfield 315, 3) := dk_180 1 59 (dk_at dksX5_readGroup_6 2 rfl rfl)
theorem dX5_readGroup_149 : decode cX5_readGroup 149 = .ok (.iconst 1, 1) := dk_4 (dk_at dksX5_readGroup_6 5 rfl rfl)
theorem dX5_readGroup_150 : decode cX5_readGroup 150 = .ok (.iadd, 1) := dk_96 (dk_at dksX5_readGroup_6 6 rfl rfl)
theorem dX5_readGroup_151 : decode cX5_readGroup 151 = .ok (.putfield 315, 3) := dk_181 1 59 (dk_at dksX5_readGroup_6 7 rfl rfl)
theorem dX5_readGroup_154 : decode cX5_readGroup 154 = .ok (.aload_n 0, 1) := dk_42 (dk_at dksX5_readGroup_6 10 rfl rfl)
theorem dX5_readGroup_155 : decode cX5_readGroup 155 = .ok (.iload_n 2, 1) := dk_28 (dk_at dksX5_readGroup_6 11 rfl rfl)
theorem dX5_readGroup_156 : decode cX5_readGroup 156 = .ok (.iconst 0, 1) := dk_3 (dk_at dksX5_readGroup_6 12 rfl rfl)
theorem dX5_readGroup_157 : decode cX5_readGroup 157 = .ok (.invokevirtual 324, 3) := dk_182 1 68 (dk_at dksX5_readGroup_6 13 rfl rfl)
theorem dX5_readGroup_160 : decode cX5_readGroup 160 = .ok (.return_, 1) := dk_177 (dk_at dksX5_readGroup_6 16 rfl rfl)
abbrev cX5_eventHere : ByteArray := prog_24_method_13_code
def yX5_eventHere : MethodName := ⟨RX5, "eventHere", "()I"⟩
def dkwX5_eventHere_3 : List UInt8 := [154, 0, 5, 7, 172, 2, 172]
abbrev dktX5_eventHere_3 : List UInt8 := dkwX5_eventHere_3 ++ []
def dkwX5_eventHere_2 : List UInt8 := [172, 42, 180, 0, 207, 20, 0, 252, 148, 154, 0, 5, 6, 172, 42, 180, 0, 207, 20, 0, 254, 148]
abbrev dktX5_eventHere_2 : List UInt8 := dkwX5_eventHere_2 ++ dktX5_eventHere_3
def dkwX5_eventHere_1 : List UInt8 := [180, 0, 207, 20, 0, 248, 148, 154, 0, 5, 4, 172, 42, 180, 0, 207, 20, 0, 250, 148, 154, 0, 5, 5]
abbrev dktX5_eventHere_1 : List UInt8 := dkwX5_eventHere_1 ++ dktX5_eventHere_2
def dkwX5_eventHere_0 : List UInt8 := [42, 180, 0, 214, 4, 159, 0, 5, 2, 172, 42, 180, 0, 207, 20, 0, 246, 148, 154, 0, 5, 3, 172, 42]
abbrev dktX5_eventHere_0 : List UInt8 := dkwX5_eventHere_0 ++ dktX5_eventHere_1
theorem dksX5_eventHere_0 : cX5_eventHere.data.toList.drop 0 = dktX5_eventHere_0 := by decide +kernel
theorem dksX5_eventHere_1 : cX5_eventHere.data.toList.drop 24 = dktX5_eventHere_1 := dk_seg dksX5_eventHere_0 24 rfl rfl
theorem dksX5_eventHere_2 : cX5_eventHere.data.toList.drop 48 = dktX5_eventHere_2 := dk_seg dksX5_eventHere_1 24 rfl rfl
theorem dksX5_eventHere_3 : cX5_eventHere.data.toList.drop 70 = dktX5_eventHere_3 := dk_seg dksX5_eventHere_2 22 rfl rfl
theorem dX5_eventHere_0 : decode cX5_eventHere 0 = .ok (.aload_n 0, 1) := dk_42 (dk_at dksX5_eventHere_0 0 rfl rfl)
theorem dX5_eventHere_1 : decode cX5_eventHere 1 = .ok (.getfield 214, 3) := dk_180 0 214 (dk_at dksX5_eventHere_0 1 rfl rfl)
theorem dX5_eventHere_4 : decode cX5_eventHere 4 = .ok (.iconst 1, 1) := dk_4 (dk_at dksX5_eventHere_0 4 rfl rfl)
theorem dX5_eventHere_5 : decode cX5_eventHere 5 = .ok (.if_icmp .eq 5, 3) := dk_159 0 5 (dk_at dksX5_eventHere_0 5 rfl rfl)
theorem dX5_eventHere_8 : decode cX5_eventHere 8 = .ok (.iconst (-1), 1) := dk_2 (dk_at dksX5_eventHere_0 8 rfl rfl)
theorem dX5_eventHere_9 : decode cX5_eventHere 9 = .ok (.ireturn, 1) := dk_172 (dk_at dksX5_eventHere_0 9 rfl rfl)
theorem dX5_eventHere_10 : decode cX5_eventHere 10 = .ok (.aload_n 0, 1) := dk_42 (dk_at dksX5_eventHere_0 10 rfl rfl)
theorem dX5_eventHere_11 : decode cX5_eventHere 11 = .ok (.getfield 207, 3) := dk_180 0 207 (dk_at dksX5_eventHere_0 11 rfl rfl)
theorem dX5_eventHere_14 : decode cX5_eventHere 14 = .ok (.ldc2_w 246, 3) := dk_20 0 246 (dk_at dksX5_eventHere_0 14 rfl rfl)
theorem dX5_eventHere_17 : decode cX5_eventHere 17 = .ok (.lcmp, 1) := dk_148 (dk_at dksX5_eventHere_0 17 rfl rfl)
theorem dX5_eventHere_18 : decode cX5_eventHere 18 = .ok (.ifCond .ne 5, 3) := dk_154 0 5 (dk_at dksX5_eventHere_0 18 rfl rfl)
theorem dX5_eventHere_21 : decode cX5_eventHere 21 = .ok (.iconst 0, 1) := dk_3 (dk_at dksX5_eventHere_0 21 rfl rfl)
theorem dX5_eventHere_22 : decode cX5_eventHere 22 = .ok (.ireturn, 1) := dk_172 (dk_at dksX5_eventHere_0 22 rfl rfl)
theorem dX5_eventHere_23 : decode cX5_eventHere 23 = .ok (.aload_n 0, 1) := dk_42 (dk_at dksX5_eventHere_0 23 rfl rfl)
theorem dX5_eventHere_24 : decode cX5_eventHere 24 = .ok (.getfield 207, 3) := dk_180 0 207 (dk_at dksX5_eventHere_1 0 rfl rfl)
theorem dX5_eventHere_27 : decode cX5_eventHere 27 = .ok (.ldc2_w 248, 3) := dk_20 0 248 (dk_at dksX5_eventHere_1 3 rfl rfl)
theorem dX5_eventHere_30 : decode cX5_eventHere 30 = .ok (.lcmp, 1) := dk_148 (dk_at dksX5_eventHere_1 6 rfl rfl)
theorem dX5_eventHere_31 : decode cX5_eventHere 31 = .ok (.ifCond .ne 5, 3) := dk_154 0 5 (dk_at dksX5_eventHere_1 7 rfl rfl)
theorem dX5_eventHere_34 : decode cX5_eventHere 34 = .ok (.iconst 1, 1) := dk_4 (dk_at dksX5_eventHere_1 10 rfl rfl)
theorem dX5_eventHere_35 : decode cX5_eventHere 35 = .ok (.ireturn, 1) := dk_172 (dk_at dksX5_eventHere_1 11 rfl rfl)
theorem dX5_eventHere_36 : decode cX5_eventHere 36 = .ok (.aload_n 0, 1) := dk_42 (dk_at dksX5_eventHere_1 12 rfl rfl)
theorem dX5_eventHere_37 : decode cX5_eventHere 37 = .ok (.getfield 207, 3) := dk_180 0 207 (dk_at dksX5_eventHere_1 13 rfl rfl)
theorem dX5_eventHere_40 : decode cX5_eventHere 40 = .ok (.ldc2_w 250, 3) := dk_20 0 250 (dk_at dksX5_eventHere_1 16 rfl rfl)
theorem dX5_eventHere_43 : decode cX5_eventHere 43 = .ok (.lcmp, 1) := dk_148 (dk_at dksX5_eventHere_1 19 rfl rfl)
theorem dX5_eventHere_44 : decode cX5_eventHere 44 = .ok (.ifCond .ne 5, 3) := dk_154 0 5 (dk_at dksX5_eventHere_1 20 rfl rfl)
theorem dX5_eventHere_47 : decode cX5_eventHere 47 = .ok (.iconst 2, 1) := dk_5 (dk_at dksX5_eventHere_1 23 rfl rfl)
theorem dX5_eventHere_48 : decode cX5_eventHere 48 = .ok (.ireturn, 1) := dk_172 (dk_at dksX5_eventHere_2 0 rfl rfl)
theorem dX5_eventHere_49 : decode cX5_eventHere 49 = .ok (.aload_n 0, 1) := dk_42 (dk_at dksX5_eventHere_2 1 rfl rfl)
theorem dX5_eventHere_50 : decode cX5_eventHere 50 = .ok (.getfield 207, 3) := dk_180 0 207 (dk_at dksX5_eventHere_2 2 rfl rfl)
theorem dX5_eventHere_53 : decode cX5_eventHere 53 = .ok (.ldc2_w 252, 3) := dk_20 0 252 (dk_at dksX5_eventHere_2 5 rfl rfl)
theorem dX5_eventHere_56 : decode cX5_eventHere 56 = .ok (.lcmp, 1) := dk_148 (dk_at dksX5_eventHere_2 8 rfl rfl)
theorem dX5_eventHere_57 : decode cX5_eventHere 57 = .ok (.ifCond .ne 5, 3) := dk_154 0 5 (dk_at dksX5_eventHere_2 9 rfl rfl)
theorem dX5_eventHere_60 : decode cX5_eventHere 60 = .ok (.iconst 3, 1) := dk_6 (dk_at dksX5_eventHere_2 12 rfl rfl)
theorem dX5_eventHere_61 : decode cX5_eventHere 61 = .ok (.ireturn, 1) := dk_172 (dk_at dksX5_eventHere_2 13 rfl rfl)
theorem dX5_eventHere_62 : decode cX5_eventHere 62 = .ok (.aload_n 0, 1) := dk_42 (dk_at dksX5_eventHere_2 14 rfl rfl)
theorem dX5_eventHere_63 : decode cX5_eventHere 63 = .ok (.getfield 207, 3) := dk_180 0 207 (dk_at dksX5_eventHere_2 15 rfl rfl)
theorem dX5_eventHere_66 : decode cX5_eventHere 66 = .ok (.ldc2_w 254, 3) := dk_20 0 254 (dk_at dksX5_eventHere_2 18 rfl rfl)
theorem dX5_eventHere_69 : decode cX5_eventHere 69 = .ok (.lcmp, 1) := dk_148 (dk_at dksX5_eventHere_2 21 rfl rfl)
theorem dX5_eventHere_70 : decode cX5_eventHere 70 = .ok (.ifCond .ne 5, 3) := dk_154 0 5 (dk_at dksX5_eventHere_3 0 rfl rfl)
theorem dX5_eventHere_73 : decode cX5_eventHere 73 = .ok (.iconst 4, 1) := dk_7 (dk_at dksX5_eventHere_3 3 rfl rfl)
theorem dX5_eventHere_74 : decode cX5_eventHere 74 = .ok (.ireturn, 1) := dk_172 (dk_at dksX5_eventHere_3 4 rfl rfl)
theorem dX5_eventHere_75 : decode cX5_eventHere 75 = .ok (.iconst (-1), 1) := dk_2 (dk_at dksX5_eventHere_3 5 rfl rfl)
theorem dX5_eventHere_76 : decode cX5_eventHere 76 = .ok (.ireturn, 1) := dk_172 (dk_at dksX5_eventHere_3 6 rfl rfl)
abbrev cX5_fault : ByteArray := prog_24_method_24_code
def yX5_fault : MethodName := ⟨RX5, "fault", "()I"⟩
theorem dX5_fault_0 : decode cX5_fault 0 = .ok (.aload_n 0, 1) := by decide +kernel
theorem dX5_fault_1 : decode cX5_fault 1 = .ok (.getfield 71, 3) := by decide +kernel
theorem dX5_fault_4 : decode cX5_fault 4 = .ok (.ireturn, 1) := by decide +kernel
abbrev cX5_size : ByteArray := prog_24_method_28_code
def yX5_size : MethodName := ⟨RX5, "size", "(II)I"⟩
def dkwX5_size_6 : List UInt8 := [42, 180, 0, 52, 21, 4, 46, 120, 128, 62, 132, 4, 1, 167, 255, 179, 29, 172]
abbrev dktX5_size_6 : List UInt8 := dkwX5_size_6 ++ []
def dkwX5_size_5 : List UInt8 := [21, 4, 46, 46, 120, 4, 42, 180, 0, 7, 42, 180, 0, 49, 21, 4, 46, 46, 120, 128, 167, 0, 12, 4]
abbrev dktX5_size_5 : List UInt8 := dkwX5_size_5 ++ dktX5_size_6
def dkwX5_size_4 : List UInt8 := [42, 21, 4, 182, 1, 100, 153, 0, 52, 29, 28, 7, 160, 0, 35, 4, 42, 180, 0, 7, 42, 180, 0, 46]
abbrev dktX5_size_4 : List UInt8 := dkwX5_size_4 ++ dktX5_size_5
def dkwX5_size_3 : List UInt8 := [3, 62, 16, 96, 27, 104, 54, 4, 21, 4, 16, 96, 27, 104, 42, 180, 0, 13, 27, 46, 96, 162, 0, 67]
abbrev dktX5_size_3 : List UInt8 := dkwX5_size_3 ++ dktX5_size_4
def dkwX5_size_2 : List UInt8 := [167, 0, 23, 28, 5, 160, 0, 12, 42, 180, 0, 25, 27, 46, 167, 0, 9, 42, 180, 0, 16, 27, 46, 172]
abbrev dktX5_size_2 : List UInt8 := dkwX5_size_2 ++ dktX5_size_3
def dkwX5_size_1 : List UInt8 := [28, 154, 0, 12, 42, 180, 0, 19, 27, 46, 167, 0, 37, 28, 4, 160, 0, 12, 42, 180, 0, 22, 27, 46]
abbrev dktX5_size_1 : List UInt8 := dkwX5_size_1 ++ dktX5_size_2
def dkwX5_size_0 : List UInt8 := [42, 27, 182, 1, 96, 153, 0, 12, 28, 3, 8, 184, 0, 185, 154, 0, 5, 2, 172, 28, 7, 162, 0, 51]
abbrev dktX5_size_0 : List UInt8 := dkwX5_size_0 ++ dktX5_size_1
theorem dksX5_size_0 : cX5_size.data.toList.drop 0 = dktX5_size_0 := by decide +kernel
theorem dksX5_size_1 : cX5_size.data.toList.drop 24 = dktX5_size_1 := dk_seg dksX5_size_0 24 rfl rfl
theorem dksX5_size_2 : cX5_size.data.toList.drop 48 = dktX5_size_2 := dk_seg dksX5_size_1 24 rfl rfl
theorem dksX5_size_3 : cX5_size.data.toList.drop 72 = dktX5_size_3 := dk_seg dksX5_size_2 24 rfl rfl
theorem dksX5_size_4 : cX5_size.data.toList.drop 96 = dktX5_size_4 := dk_seg dksX5_size_3 24 rfl rfl
theorem dksX5_size_5 : cX5_size.data.toList.drop 120 = dktX5_size_5 := dk_seg dksX5_size_4 24 rfl rfl
theorem dksX5_size_6 : cX5_size.data.toList.drop 144 = dktX5_size_6 := dk_seg dksX5_size_5 24 rfl rfl
theorem dX5_size_0 : decode cX5_size 0 = .ok (.aload_n 0, 1) := dk_42 (dk_at dksX5_size_0 0 rfl rfl)
theorem dX5_size_1 : decode cX5_size 1 = .ok (.iload_n 1, 1) := dk_27 (dk_at dksX5_size_0 1 rfl rfl)
theorem dX5_size_2 : decode cX5_size 2 = .ok (.invokevirtual 352, 3) := dk_182 1 96 (dk_at dksX5_size_0 2 rfl rfl)
theorem dX5_size_5 : decode cX5_size 5 = .ok (.ifCond .eq 12, 3) := dk_153 0 12 (dk_at dksX5_size_0 5 rfl rfl)
theorem dX5_size_8 : decode cX5_size 8 = .ok (.iload_n 2, 1) := dk_28 (dk_at dksX5_size_0 8 rfl rfl)
theorem dX5_size_9 : decode cX5_size 9 = .ok (.iconst 0, 1) := dk_3 (dk_at dksX5_size_0 9 rfl rfl)
theorem dX5_size_10 : decode cX5_size 10 = .ok (.iconst 5, 1) := dk_8 (dk_at dksX5_size_0 10 rfl rfl)
theorem dX5_size_11 : decode cX5_size 11 = .ok (.invokestatic 185, 3) := dk_184 0 185 (dk_at dksX5_size_0 11 rfl rfl)
theorem dX5_size_14 : decode cX5_size 14 = .ok (.ifCond .ne 5, 3) := dk_154 0 5 (dk_at dksX5_size_0 14 rfl rfl)
theorem dX5_size_17 : decode cX5_size 17 = .ok (.iconst (-1), 1) := dk_2 (dk_at dksX5_size_0 17 rfl rfl)
theorem dX5_size_18 : decode cX5_size 18 = .ok (.ireturn, 1) := dk_172 (dk_at dksX5_size_0 18 rfl rfl)
theorem dX5_size_19 : decode cX5_size 19 = .ok (.iload_n 2, 1) := dk_28 (dk_at dksX5_size_0 19 rfl rfl)
theorem dX5_size_20 : decode cX5_size 20 = .ok (.iconst 4, 1) := dk_7 (dk_at dksX5_size_0 20 rfl rfl)
theorem dX5_size_21 : decode cX5_size 21 = .ok (.if_icmp .ge 51, 3) := dk_162 0 51 (dk_at dksX5_size_0 21 rfl rfl)
theorem dX5_size_24 : decode cX5_size 24 = .ok (.iload_n 2, 1) := dk_28 (dk_at dksX5_size_1 0 rfl rfl)
theorem dX5_size_25 : decode cX5_size 25 = .ok (.ifCond .ne 12, 3) := dk_154 0 12 (dk_at dksX5_size_1 1 rfl rfl)
theorem dX5_size_28 : decode cX5_size 28 = .ok (.aload_n 0, 1) := dk_42 (dk_at dksX5_size_1 4 rfl rfl)
theorem dX5_size_29 : decode cX5_size 29 = .ok (.getfield 19, 3) := dk_180 0 19 (dk_at dksX5_size_1 5 rfl rfl)
theorem dX5_size_32 : decode cX5_size 32 = .ok (.iload_n 1, 1) := dk_27 (dk_at dksX5_size_1 8 rfl rfl)
theorem dX5_size_33 : decode cX5_size 33 = .ok (.iaload, 1) := dk_46 (dk_at dksX5_size_1 9 rfl rfl)
theorem dX5_size_34 : decode cX5_size 34 = .ok (.goto 37, 3) := dk_167 0 37 (dk_at dksX5_size_1 10 rfl rfl)
theorem dX5_size_37 : decode cX5_size 37 = .ok (.iload_n 2, 1) := dk_28 (dk_at dksX5_size_1 13 rfl rfl)
theorem dX5_size_38 : decode cX5_size 38 = .ok (.iconst 1, 1) := dk_4 (dk_at dksX5_size_1 14 rfl rfl)
theorem dX5_size_39 : decode cX5_size 39 = .ok (.if_icmp .ne 12, 3) := dk_160 0 12 (dk_at dksX5_size_1 15 rfl rfl)
theorem dX5_size_42 : decode cX5_size 42 = .ok (.aload_n 0, 1) := dk_42 (dk_at dksX5_size_1 18 rfl rfl)
theorem dX5_size_43 : decode cX5_size 43 = .ok (.getfield 22, 3) := dk_180 0 22 (dk_at dksX5_size_1 19 rfl rfl)
theorem dX5_size_46 : decode cX5_size 46 = .ok (.iload_n 1, 1) := dk_27 (dk_at dksX5_size_1 22 rfl rfl)
theorem dX5_size_47 : decode cX5_size 47 = .ok (.iaload, 1) := dk_46 (dk_at dksX5_size_1 23 rfl rfl)
theorem dX5_size_48 : decode cX5_size 48 = .ok (.goto 23, 3) := dk_167 0 23 (dk_at dksX5_size_2 0 rfl rfl)
theorem dX5_size_51 : decode cX5_size 51 = .ok (.iload_n 2, 1) := dk_28 (dk_at dksX5_size_2 3 rfl rfl)
theorem dX5_size_52 : decode cX5_size 52 = .ok (.iconst 2, 1) := dk_5 (dk_at dksX5_size_2 4 rfl rfl)
theorem dX5_size_53 : decode cX5_size 53 = .ok (.if_icmp .ne 12, 3) := dk_160 0 12 (dk_at dksX5_size_2 5 rfl rfl)
theorem dX5_size_56 : decode cX5_size 56 = .ok (.aload_n 0, 1) := dk_42 (dk_at dksX5_size_2 8 rfl rfl)
theorem dX5_size_57 : decode cX5_size 57 = .ok (.getfield 25, 3) := dk_180 0 25 (dk_at dksX5_size_2 9 rfl rfl)
theorem dX5_size_60 : decode cX5_size 60 = .ok (.iload_n 1, 1) := dk_27 (dk_at dksX5_size_2 12 rfl rfl)
theorem dX5_size_61 : decode cX5_size 61 = .ok (.iaload, 1) := dk_46 (dk_at dksX5_size_2 13 rfl rfl)
theorem dX5_size_62 : decode cX5_size 62 = .ok (.goto 9, 3) := dk_167 0 9 (dk_at dksX5_size_2 14 rfl rfl)
theorem dX5_size_65 : decode cX5_size 65 = .ok (.aload_n 0, 1) := dk_42 (dk_at dksX5_size_2 17 rfl rfl)
theorem dX5_size_66 : decode cX5_size 66 = .ok (.getfield 16, 3) := dk_180 0 16 (dk_at dksX5_size_2 18 rfl rfl)
theorem dX5_size_69 : decode cX5_size 69 = .ok (.iload_n 1, 1) := dk_27 (dk_at dksX5_size_2 21 rfl rfl)
theorem dX5_size_70 : decode cX5_size 70 = .ok (.iaload, 1) := dk_46 (dk_at dksX5_size_2 22 rfl rfl)
theorem dX5_size_71 : decode cX5_size 71 = .ok (.ireturn, 1) := dk_172 (dk_at dksX5_size_2 23 rfl rfl)
theorem dX5_size_72 : decode cX5_size 72 = .ok (.iconst 0, 1) := dk_3 (dk_at dksX5_size_3 0 rfl rfl)
theorem dX5_size_73 : decode cX5_size 73 = .ok (.istore_n 3, 1) := dk_62 (dk_at dksX5_size_3 1 rfl rfl)
theorem dX5_size_74 : decode cX5_size 74 = .ok (.bipush 96, 2) := dk_16 96 (dk_at dksX5_size_3 2 rfl rfl)
theorem dX5_size_76 : decode cX5_size 76 = .ok (.iload_n 1, 1) := dk_27 (dk_at dksX5_size_3 4 rfl rfl)
theorem dX5_size_77 : decode cX5_size 77 = .ok (.imul, 1) := dk_104 (dk_at dksX5_size_3 5 rfl rfl)
theorem dX5_size_78 : decode cX5_size 78 = .ok (.istore 4, 2) := dk_54 4 (dk_at dksX5_size_3 6 rfl rfl)
theorem dX5_size_80 : decode cX5_size 80 = .ok (.iload 4, 2) := dk_21 4 (dk_at dksX5_size_3 8 rfl rfl)
theorem dX5_size_82 : decode cX5_size 82 = .ok (.bipush 96, 2) := dk_16 96 (dk_at dksX5_size_3 10 rfl rfl)
theorem dX5_size_84 : decode cX5_size 84 = .ok (.iload_n 1, 1) := dk_27 (dk_at dksX5_size_3 12 rfl rfl)
theorem dX5_size_85 : decode cX5_size 85 = .ok (.imul, 1) := dk_104 (dk_at dksX5_size_3 13 rfl rfl)
theorem dX5_size_86 : decode cX5_size 86 = .ok (.aload_n 0, 1) := dk_42 (dk_at dksX5_size_3 14 rfl rfl)
theorem dX5_size_87 : decode cX5_size 87 = .ok (.getfield 13, 3) := dk_180 0 13 (dk_at dksX5_size_3 15 rfl rfl)
theorem dX5_size_90 : decode cX5_size 90 = .ok (.iload_n 1, 1) := dk_27 (dk_at dksX5_size_3 18 rfl rfl)
theorem dX5_size_91 : decode cX5_size 91 = .ok (.iaload, 1) := dk_46 (dk_at dksX5_size_3 19 rfl rfl)
theorem dX5_size_92 : decode cX5_size 92 = .ok (.iadd, 1) := dk_96 (dk_at dksX5_size_3 20 rfl rfl)
theorem dX5_size_93 : decode cX5_size 93 = .ok (.if_icmp .ge 67, 3) := dk_162 0 67 (dk_at dksX5_size_3 21 rfl rfl)
theorem dX5_size_96 : decode cX5_size 96 = .ok (.aload_n 0, 1) := dk_42 (dk_at dksX5_size_4 0 rfl rfl)
theorem dX5_size_97 : decode cX5_size 97 = .ok (.iload 4, 2) := dk_21 4 (dk_at dksX5_size_4 1 rfl rfl)
theorem dX5_size_99 : decode cX5_size 99 = .ok (.invokevirtual 356, 3) := dk_182 1 100 (dk_at dksX5_size_4 3 rfl rfl)
theorem dX5_size_102 : decode cX5_size 102 = .ok (.ifCond .eq 52, 3) := dk_153 0 52 (dk_at dksX5_size_4 6 rfl rfl)
theorem dX5_size_105 : decode cX5_size 105 = .ok (.iload_n 3, 1) := dk_29 (dk_at dksX5_size_4 9 rfl rfl)
theorem dX5_size_106 : decode cX5_size 106 = .ok (.iload_n 2, 1) := dk_28 (dk_at dksX5_size_4 10 rfl rfl)
theorem dX5_size_107 : decode cX5_size 107 = .ok (.iconst 4, 1) := dk_7 (dk_at dksX5_size_4 11 rfl rfl)
theorem dX5_size_108 : decode cX5_size 108 = .ok (.if_icmp .ne 35, 3) := dk_160 0 35 (dk_at dksX5_size_4 12 rfl rfl)
theorem dX5_size_111 : decode cX5_size 111 = .ok (.iconst 1, 1) := dk_4 (dk_at dksX5_size_4 15 rfl rfl)
theorem dX5_size_112 : decode cX5_size 112 = .ok (.aload_n 0, 1) := dk_42 (dk_at dksX5_size_4 16 rfl rfl)
theorem dX5_size_113 : decode cX5_size 113 = .ok (.getfield 7, 3) := dk_180 0 7 (dk_at dksX5_size_4 17 rfl rfl)
theorem dX5_size_116 : decode cX5_size 116 = .ok (.aload_n 0, 1) := dk_42 (dk_at dksX5_size_4 20 rfl rfl)
theorem dX5_size_117 : decode cX5_size 117 = .ok (.getfield 46, 3) := dk_180 0 46 (dk_at dksX5_size_4 21 rfl rfl)
theorem dX5_size_120 : decode cX5_size 120 = .ok (.iload 4, 2) := dk_21 4 (dk_at dksX5_size_5 0 rfl rfl)
theorem dX5_size_122 : decode cX5_size 122 = .ok (.iaload, 1) := dk_46 (dk_at dksX5_size_5 2 rfl rfl)
theorem dX5_size_123 : decode cX5_size 123 = .ok (.iaload, 1) := dk_46 (dk_at dksX5_size_5 3 rfl rfl)
theorem dX5_size_124 : decode cX5_size 124 = .ok (.ishl, 1) := dk_120 (dk_at dksX5_size_5 4 rfl rfl)
theorem dX5_size_125 : decode cX5_size 125 = .ok (.iconst 1, 1) := dk_4 (dk_at dksX5_size_5 5 rfl rfl)
theorem dX5_size_126 : decode cX5_size 126 = .ok (.aload_n 0, 1) := dk_42 (dk_at dksX5_size_5 6 rfl rfl)
theorem dX5_size_127 : decode cX5_size 127 = .ok (.getfield 7, 3) := dk_180 0 7 (dk_at dksX5_size_5 7 rfl rfl)
theorem dX5_size_130 : decode cX5_size 130 = .ok (.aload_n 0, 1) := dk_42 (dk_at dksX5_size_5 10 rfl rfl)
theorem dX5_size_131 : decode cX5_size 131 = .ok (.getfield 49, 3) := dk_180 0 49 (dk_at dksX5_size_5 11 rfl rfl)
theorem dX5_size_134 : decode cX5_size 134 = .ok (.iload 4, 2) := dk_21 4 (dk_at dksX5_size_5 14 rfl rfl)
theorem dX5_size_136 : decode cX5_size 136 = .ok (.iaload, 1) := dk_46 (dk_at dksX5_size_5 16 rfl rfl)
theorem dX5_size_137 : decode cX5_size 137 = .ok (.iaload, 1) := dk_46 (dk_at dksX5_size_5 17 rfl rfl)
theorem dX5_size_138 : decode cX5_size 138 = .ok (.ishl, 1) := dk_120 (dk_at dksX5_size_5 18 rfl rfl)
theorem dX5_size_139 : decode cX5_size 139 = .ok (.ior, 1) := dk_128 (dk_at dksX5_size_5 19 rfl rfl)
theorem dX5_size_140 : decode cX5_size 140 = .ok (.goto 12, 3) := dk_167 0 12 (dk_at dksX5_size_5 20 rfl rfl)
theorem dX5_size_143 : decode cX5_size 143 = .ok (.iconst 1, 1) := dk_4 (dk_at dksX5_size_5 23 rfl rfl)
theorem dX5_size_144 : decode cX5_size 144 = .ok (.aload_n 0, 1) := dk_42 (dk_at dksX5_size_6 0 rfl rfl)
theorem dX5_size_145 : decode cX5_size 145 = .ok (.getfield 52, 3) := dk_180 0 52 (dk_at dksX5_size_6 1 rfl rfl)
theorem dX5_size_148 : decode cX5_size 148 = .ok (.iload 4, 2) := dk_21 4 (dk_at dksX5_size_6 4 rfl rfl)
theorem dX5_size_150 : decode cX5_size 150 = .ok (.iaload, 1) := dk_46 (dk_at dksX5_size_6 6 rfl rfl)
theorem dX5_size_151 : decode cX5_size 151 = .ok (.ishl, 1) := dk_120 (dk_at dksX5_size_6 7 rfl rfl)
theorem dX5_size_152 : decode cX5_size 152 = .ok (.ior, 1) := dk_128 (dk_at dksX5_size_6 8 rfl rfl)
theorem dX5_size_153 : decode cX5_size 153 = .ok (.istore_n 3, 1) := dk_62 (dk_at dksX5_size_6 9 rfl rfl)
theorem dX5_size_154 : decode cX5_size 154 = .ok (.iinc 4 1, 3) := dk_132 4 1 (dk_at dksX5_size_6 10 rfl rfl)
theorem dX5_size_157 : decode cX5_size 157 = .ok (.goto (-77), 3) := dk_167 255 179 (dk_at dksX5_size_6 13 rfl rfl)
theorem dX5_size_160 : decode cX5_size 160 = .ok (.iload_n 3, 1) := dk_29 (dk_at dksX5_size_6 16 rfl rfl)
theorem dX5_size_161 : decode cX5_size 161 = .ok (.ireturn, 1) := dk_172 (dk_at dksX5_size_6 17 rfl rfl)
abbrev cX5_isDeal : ByteArray := prog_24_method_25_code
def yX5_isDeal : MethodName := ⟨RX5, "isDeal", "(I)Z"⟩
def dkwX5_isDeal_0 : List UInt8 := [27, 155, 0, 15, 27, 42, 180, 1, 76, 162, 0, 7, 4, 167, 0, 4, 3, 172]
abbrev dktX5_isDeal_0 : List UInt8 := dkwX5_isDeal_0 ++ []
theorem dksX5_isDeal_0 : cX5_isDeal.data.toList.drop 0 = dktX5_isDeal_0 := by decide +kernel
theorem dX5_isDeal_0 : decode cX5_isDeal 0 = .ok (.iload_n 1, 1) := dk_27 (dk_at dksX5_isDeal_0 0 rfl rfl)
theorem dX5_isDeal_1 : decode cX5_isDeal 1 = .ok (.ifCond .lt 15, 3) := dk_155 0 15 (dk_at dksX5_isDeal_0 1 rfl rfl)
theorem dX5_isDeal_4 : decode cX5_isDeal 4 = .ok (.iload_n 1, 1) := dk_27 (dk_at dksX5_isDeal_0 4 rfl rfl)
theorem dX5_isDeal_5 : decode cX5_isDeal 5 = .ok (.aload_n 0, 1) := dk_42 (dk_at dksX5_isDeal_0 5 rfl rfl)
theorem dX5_isDeal_6 : decode cX5_isDeal 6 = .ok (.getfield 332, 3) := dk_180 1 76 (dk_at dksX5_isDeal_0 6 rfl rfl)
theorem dX5_isDeal_9 : decode cX5_isDeal 9 = .ok (.if_icmp .ge 7, 3) := dk_162 0 7 (dk_at dksX5_isDeal_0 9 rfl rfl)
theorem dX5_isDeal_12 : decode cX5_isDeal 12 = .ok (.iconst 1, 1) := dk_4 (dk_at dksX5_isDeal_0 12 rfl rfl)
theorem dX5_isDeal_13 : decode cX5_isDeal 13 = .ok (.goto 4, 3) := dk_167 0 4 (dk_at dksX5_isDeal_0 13 rfl rfl)
theorem dX5_isDeal_16 : decode cX5_isDeal 16 = .ok (.iconst 0, 1) := dk_3 (dk_at dksX5_isDeal_0 16 rfl rfl)
theorem dX5_isDeal_17 : decode cX5_isDeal 17 = .ok (.ireturn, 1) := dk_172 (dk_at dksX5_isDeal_0 17 rfl rfl)
abbrev cX5_isLeaf : ByteArray := prog_24_method_26_code
def yX5_isLeaf : MethodName := ⟨RX5, "isLeaf", "(I)Z"⟩
def dkwX5_isLeaf_0 : List UInt8 := [42, 180, 0, 28, 27, 46, 6, 163, 0, 7, 4, 167, 0, 4, 3, 172]
abbrev dktX5_isLeaf_0 : List UInt8 := dkwX5_isLeaf_0 ++ []
theorem dksX5_isLeaf_0 : cX5_isLeaf.data.toList.drop 0 = dktX5_isLeaf_0 := by decide +kernel
theorem dX5_isLeaf_0 : decode cX5_isLeaf 0 = .ok (.aload_n 0, 1) := dk_42 (dk_at dksX5_isLeaf_0 0 rfl rfl)
theorem dX5_isLeaf_1 : decode cX5_isLeaf 1 = .ok (.getfield 28, 3) := dk_180 0 28 (dk_at dksX5_isLeaf_0 1 rfl rfl)
theorem dX5_isLeaf_4 : decode cX5_isLeaf 4 = .ok (.iload_n 1, 1) := dk_27 (dk_at dksX5_isLeaf_0 4 rfl rfl)
theorem dX5_isLeaf_5 : decode cX5_isLeaf 5 = .ok (.iaload, 1) := dk_46 (dk_at dksX5_isLeaf_0 5 rfl rfl)
theorem dX5_isLeaf_6 : decode cX5_isLeaf 6 = .ok (.iconst 3, 1) := dk_6 (dk_at dksX5_isLeaf_0 6 rfl rfl)
theorem dX5_isLeaf_7 : decode cX5_isLeaf 7 = .ok (.if_icmp .gt 7, 3) := dk_163 0 7 (dk_at dksX5_isLeaf_0 7 rfl rfl)
theorem dX5_isLeaf_10 : decode cX5_isLeaf 10 = .ok (.iconst 1, 1) := dk_4 (dk_at dksX5_isLeaf_0 10 rfl rfl)
theorem dX5_isLeaf_11 : decode cX5_isLeaf 11 = .ok (.goto 4, 3) := dk_167 0 4 (dk_at dksX5_isLeaf_0 11 rfl rfl)
theorem dX5_isLeaf_14 : decode cX5_isLeaf 14 = .ok (.iconst 0, 1) := dk_3 (dk_at dksX5_isLeaf_0 14 rfl rfl)
theorem dX5_isLeaf_15 : decode cX5_isLeaf 15 = .ok (.ireturn, 1) := dk_172 (dk_at dksX5_isLeaf_0 15 rfl rfl)
abbrev cX5_leaf : ByteArray := prog_24_method_29_code
def yX5_leaf : MethodName := ⟨RX5, "leaf", "(III)I"⟩
def dkwX5_leaf_3 : List UInt8 := [182, 1, 103, 172, 132, 4, 255, 132, 5, 1, 167, 255, 209, 2, 172]
abbrev dktX5_leaf_3 : List UInt8 := dkwX5_leaf_3 ++ []
def dkwX5_leaf_2 : List UInt8 := [162, 0, 37, 42, 21, 5, 182, 1, 100, 154, 0, 6, 167, 0, 19, 21, 4, 154, 0, 11, 42, 21, 5, 29]
abbrev dktX5_leaf_2 : List UInt8 := dkwX5_leaf_2 ++ dktX5_leaf_3
def dkwX5_leaf_1 : List UInt8 := [28, 54, 4, 16, 96, 27, 104, 54, 5, 21, 5, 16, 96, 27, 104, 42, 180, 0, 13, 27, 46, 96]
abbrev dktX5_leaf_1 : List UInt8 := dkwX5_leaf_1 ++ dktX5_leaf_2
def dkwX5_leaf_0 : List UInt8 := [42, 27, 182, 1, 96, 153, 0, 17, 29, 3, 16, 7, 184, 0, 185, 153, 0, 7, 28, 156, 0, 5, 2, 172]
abbrev dktX5_leaf_0 : List UInt8 := dkwX5_leaf_0 ++ dktX5_leaf_1
theorem dksX5_leaf_0 : cX5_leaf.data.toList.drop 0 = dktX5_leaf_0 := by decide +kernel
theorem dksX5_leaf_1 : cX5_leaf.data.toList.drop 24 = dktX5_leaf_1 := dk_seg dksX5_leaf_0 24 rfl rfl
theorem dksX5_leaf_2 : cX5_leaf.data.toList.drop 46 = dktX5_leaf_2 := dk_seg dksX5_leaf_1 22 rfl rfl
theorem dksX5_leaf_3 : cX5_leaf.data.toList.drop 70 = dktX5_leaf_3 := dk_seg dksX5_leaf_2 24 rfl rfl
theorem dX5_leaf_0 : decode cX5_leaf 0 = .ok (.aload_n 0, 1) := dk_42 (dk_at dksX5_leaf_0 0 rfl rfl)
theorem dX5_leaf_1 : decode cX5_leaf 1 = .ok (.iload_n 1, 1) := dk_27 (dk_at dksX5_leaf_0 1 rfl rfl)
theorem dX5_leaf_2 : decode cX5_leaf 2 = .ok (.invokevirtual 352, 3) := dk_182 1 96 (dk_at dksX5_leaf_0 2 rfl rfl)
theorem dX5_leaf_5 : decode cX5_leaf 5 = .ok (.ifCond .eq 17, 3) := dk_153 0 17 (dk_at dksX5_leaf_0 5 rfl rfl)
theorem dX5_leaf_8 : decode cX5_leaf 8 = .ok (.iload_n 3, 1) := dk_29 (dk_at dksX5_leaf_0 8 rfl rfl)
theorem dX5_leaf_9 : decode cX5_leaf 9 = .ok (.iconst 0, 1) := dk_3 (dk_at dksX5_leaf_0 9 rfl rfl)
theorem dX5_leaf_10 : decode cX5_leaf 10 = .ok (.bipush 7, 2) := dk_16 7 (dk_at dksX5_leaf_0 10 rfl rfl)
theorem dX5_leaf_12 : decode cX5_leaf 12 = .ok (.invokestatic 185, 3) := dk_184 0 185 (dk_at dksX5_leaf_0 12 rfl rfl)
theorem dX5_leaf_15 : decode cX5_leaf 15 = .ok (.ifCond .eq 7, 3) := dk_153 0 7 (dk_at dksX5_leaf_0 15 rfl rfl)
theorem dX5_leaf_18 : decode cX5_leaf 18 = .ok (.iload_n 2, 1) := dk_28 (dk_at dksX5_leaf_0 18 rfl rfl)
theorem dX5_leaf_19 : decode cX5_leaf 19 = .ok (.ifCond .ge 5, 3) := dk_156 0 5 (dk_at dksX5_leaf_0 19 rfl rfl)
theorem dX5_leaf_22 : decode cX5_leaf 22 = .ok (.iconst (-1), 1) := dk_2 (dk_at dksX5_leaf_0 22 rfl rfl)
theorem dX5_leaf_23 : decode cX5_leaf 23 = .ok (.ireturn, 1) := dk_172 (dk_at dksX5_leaf_0 23 rfl rfl)
theorem dX5_leaf_24 : decode cX5_leaf 24 = .ok (.iload_n 2, 1) := dk_28 (dk_at dksX5_leaf_1 0 rfl rfl)
theorem dX5_leaf_25 : decode cX5_leaf 25 = .ok (.istore 4, 2) := dk_54 4 (dk_at dksX5_leaf_1 1 rfl rfl)
theorem dX5_leaf_27 : decode cX5_leaf 27 = .ok (.bipush 96, 2) := dk_16 96 (dk_at dksX5_leaf_1 3 rfl rfl)
theorem dX5_leaf_29 : decode cX5_leaf 29 = .ok (.iload_n 1, 1) := dk_27 (dk_at dksX5_leaf_1 5 rfl rfl)
theorem dX5_leaf_30 : decode cX5_leaf 30 = .ok (.imul, 1) := dk_104 (dk_at dksX5_leaf_1 6 rfl rfl)
theorem dX5_leaf_31 : decode cX5_leaf 31 = .ok (.istore 5, 2) := dk_54 5 (dk_at dksX5_leaf_1 7 rfl rfl)
theorem dX5_leaf_33 : decode cX5_leaf 33 = .ok (.iload 5, 2) := dk_21 5 (dk_at dksX5_leaf_1 9 rfl rfl)
theorem dX5_leaf_35 : decode cX5_leaf 35 = .ok (.bipush 96, 2) := dk_16 96 (dk_at dksX5_leaf_1 11 rfl rfl)
theorem dX5_leaf_37 : decode cX5_leaf 37 = .ok (.iload_n 1, 1) := dk_27 (dk_at dksX5_leaf_1 13 rfl rfl)
theorem dX5_leaf_38 : decode cX5_leaf 38 = .ok (.imul, 1) := dk_104 (dk_at dksX5_leaf_1 14 rfl rfl)
theorem dX5_leaf_39 : decode cX5_leaf 39 = .ok (.aload_n 0, 1) := dk_42 (dk_at dksX5_leaf_1 15 rfl rfl)
theorem dX5_leaf_40 : decode cX5_leaf 40 = .ok (.getfield 13, 3) := dk_180 0 13 (dk_at dksX5_leaf_1 16 rfl rfl)
theorem dX5_leaf_43 : decode cX5_leaf 43 = .ok (.iload_n 1, 1) := dk_27 (dk_at dksX5_leaf_1 19 rfl rfl)
theorem dX5_leaf_44 : decode cX5_leaf 44 = .ok (.iaload, 1) := dk_46 (dk_at dksX5_leaf_1 20 rfl rfl)
theorem dX5_leaf_45 : decode cX5_leaf 45 = .ok (.iadd, 1) := dk_96 (dk_at dksX5_leaf_1 21 rfl rfl)
theorem dX5_leaf_46 : decode cX5_leaf 46 = .ok (.if_icmp .ge 37, 3) := dk_162 0 37 (dk_at dksX5_leaf_2 0 rfl rfl)
theorem dX5_leaf_49 : decode cX5_leaf 49 = .ok (.aload_n 0, 1) := dk_42 (dk_at dksX5_leaf_2 3 rfl rfl)
theorem dX5_leaf_50 : decode cX5_leaf 50 = .ok (.iload 5, 2) := dk_21 5 (dk_at dksX5_leaf_2 4 rfl rfl)
theorem dX5_leaf_52 : decode cX5_leaf 52 = .ok (.invokevirtual 356, 3) := dk_182 1 100 (dk_at dksX5_leaf_2 6 rfl rfl)
theorem dX5_leaf_55 : decode cX5_leaf 55 = .ok (.ifCond .ne 6, 3) := dk_154 0 6 (dk_at dksX5_leaf_2 9 rfl rfl)
theorem dX5_leaf_58 : decode cX5_leaf 58 = .ok (.goto 19, 3) := dk_167 0 19 (dk_at dksX5_leaf_2 12 rfl rfl)
theorem dX5_leaf_61 : decode cX5_leaf 61 = .ok (.iload 4, 2) := dk_21 4 (dk_at dksX5_leaf_2 15 rfl rfl)
theorem dX5_leaf_63 : decode cX5_leaf 63 = .ok (.ifCond .ne 11, 3) := dk_154 0 11 (dk_at dksX5_leaf_2 17 rfl rfl)
theorem dX5_leaf_66 : decode cX5_leaf 66 = .ok (.aload_n 0, 1) := dk_42 (dk_at dksX5_leaf_2 20 rfl rfl)
theorem dX5_leaf_67 : decode cX5_leaf 67 = .ok (.iload 5, 2) := dk_21 5 (dk_at dksX5_leaf_2 21 rfl rfl)
theorem dX5_leaf_69 : decode cX5_leaf 69 = .ok (.iload_n 3, 1) := dk_29 (dk_at dksX5_leaf_2 23 rfl rfl)
theorem dX5_leaf_70 : decode cX5_leaf 70 = .ok (.invokevirtual 359, 3) := dk_182 1 103 (dk_at dksX5_leaf_3 0 rfl rfl)
theorem dX5_leaf_73 : decode cX5_leaf 73 = .ok (.ireturn, 1) := dk_172 (dk_at dksX5_leaf_3 3 rfl rfl)
theorem dX5_leaf_74 : decode cX5_leaf 74 = .ok (.iinc 4 (-1), 3) := dk_132 4 255 (dk_at dksX5_leaf_3 4 rfl rfl)
theorem dX5_leaf_77 : decode cX5_leaf 77 = .ok (.iinc 5 1, 3) := dk_132 5 1 (dk_at dksX5_leaf_3 7 rfl rfl)
theorem dX5_leaf_80 : decode cX5_leaf 80 = .ok (.goto (-47), 3) := dk_167 255 209 (dk_at dksX5_leaf_3 10 rfl rfl)
theorem dX5_leaf_83 : decode cX5_leaf 83 = .ok (.iconst (-1), 1) := dk_2 (dk_at dksX5_leaf_3 13 rfl rfl)
theorem dX5_leaf_84 : decode cX5_leaf 84 = .ok (.ireturn, 1) := dk_172 (dk_at dksX5_leaf_3 14 rfl rfl)
abbrev cX5_told : ByteArray := prog_24_method_30_code
def yX5_told : MethodName := ⟨RX5, "told", "(II)I"⟩
def dkwX5_told_4 : List UInt8 := [27, 46, 42, 27, 182, 1, 106, 96, 172, 42, 180, 0, 64, 27, 46, 42, 27, 182, 1, 106, 96, 172]
abbrev dktX5_told_4 : List UInt8 := dkwX5_told_4 ++ []
def dkwX5_told_3 : List UInt8 := [180, 0, 52, 27, 46, 172, 42, 180, 0, 55, 27, 46, 172, 42, 180, 0, 58, 27, 46, 172, 42, 180, 0, 61]
abbrev dktX5_told_3 : List UInt8 := dkwX5_told_3 ++ dktX5_told_4
def dkwX5_told_2 : List UInt8 := [42, 180, 0, 28, 27, 46, 172, 42, 180, 0, 46, 27, 46, 172, 42, 180, 0, 49, 27, 46, 172, 42]
abbrev dktX5_told_2 : List UInt8 := dkwX5_told_2 ++ dktX5_told_3
def dkwX5_told_1 : List UInt8 := [170, 0, 0, 0, 0, 0, 98, 0, 0, 0, 0, 0, 0, 0, 6, 0, 0, 0, 43, 0, 0, 0, 50, 0, 0, 0, 57, 0, 0, 0, 64, 0, 0, 0, 71, 0, 0, 0, 78, 0, 0, 0, 85]
abbrev dktX5_told_1 : List UInt8 := dkwX5_told_1 ++ dktX5_told_2
def dkwX5_told_0 : List UInt8 := [28]
abbrev dktX5_told_0 : List UInt8 := dkwX5_told_0 ++ dktX5_told_1
theorem dksX5_told_0 : cX5_told.data.toList.drop 0 = dktX5_told_0 := by decide +kernel
theorem dksX5_told_1 : cX5_told.data.toList.drop 1 = dktX5_told_1 := dk_seg dksX5_told_0 1 rfl rfl
theorem dksX5_told_2 : cX5_told.data.toList.drop 44 = dktX5_told_2 := dk_seg dksX5_told_1 43 rfl rfl
theorem dksX5_told_3 : cX5_told.data.toList.drop 66 = dktX5_told_3 := dk_seg dksX5_told_2 22 rfl rfl
theorem dksX5_told_4 : cX5_told.data.toList.drop 90 = dktX5_told_4 := dk_seg dksX5_told_3 24 rfl rfl
theorem dX5_told_0 : decode cX5_told 0 = .ok (.iload_n 2, 1) := dk_28 (dk_at dksX5_told_0 0 rfl rfl)
theorem dX5_told_1 : decode cX5_told 1 = .ok (.tableswitch 98 0 6 #[43, 50, 57, 64, 71, 78, 85], 43) := by decide +kernel
theorem dX5_told_44 : decode cX5_told 44 = .ok (.aload_n 0, 1) := dk_42 (dk_at dksX5_told_2 0 rfl rfl)
theorem dX5_told_45 : decode cX5_told 45 = .ok (.getfield 28, 3) := dk_180 0 28 (dk_at dksX5_told_2 1 rfl rfl)
theorem dX5_told_48 : decode cX5_told 48 = .ok (.iload_n 1, 1) := dk_27 (dk_at dksX5_told_2 4 rfl rfl)
theorem dX5_told_49 : decode cX5_told 49 = .ok (.iaload, 1) := dk_46 (dk_at dksX5_told_2 5 rfl rfl)
theorem dX5_told_50 : decode cX5_told 50 = .ok (.ireturn, 1) := dk_172 (dk_at dksX5_told_2 6 rfl rfl)
theorem dX5_told_51 : decode cX5_told 51 = .ok (.aload_n 0, 1) := dk_42 (dk_at dksX5_told_2 7 rfl rfl)
theorem dX5_told_52 : decode cX5_told 52 = .ok (.getfield 46, 3) := dk_180 0 46 (dk_at dksX5_told_2 8 rfl rfl)
theorem dX5_told_55 : decode cX5_told 55 = .ok (.iload_n 1, 1) := dk_27 (dk_at dksX5_told_2 11 rfl rfl)
theorem dX5_told_56 : decode cX5_told 56 = .ok (.iaload, 1) := dk_46 (dk_at dksX5_told_2 12 rfl rfl)
theorem dX5_told_57 : decode cX5_told 57 = .ok (.ireturn, 1) := dk_172 (dk_at dksX5_told_2 13 rfl rfl)
theorem dX5_told_58 : decode cX5_told 58 = .ok (.aload_n 0, 1) := dk_42 (dk_at dksX5_told_2 14 rfl rfl)
theorem dX5_told_59 : decode cX5_told 59 = .ok (.getfield 49, 3) := dk_180 0 49 (dk_at dksX5_told_2 15 rfl rfl)
theorem dX5_told_62 : decode cX5_told 62 = .ok (.iload_n 1, 1) := dk_27 (dk_at dksX5_told_2 18 rfl rfl)
theorem dX5_told_63 : decode cX5_told 63 = .ok (.iaload, 1) := dk_46 (dk_at dksX5_told_2 19 rfl rfl)
theorem dX5_told_64 : decode cX5_told 64 = .ok (.ireturn, 1) := dk_172 (dk_at dksX5_told_2 20 rfl rfl)
theorem dX5_told_65 : decode cX5_told 65 = .ok (.aload_n 0, 1) := dk_42 (dk_at dksX5_told_2 21 rfl rfl)
theorem dX5_told_66 : decode cX5_told 66 = .ok (.getfield 52, 3) := dk_180 0 52 (dk_at dksX5_told_3 0 rfl rfl)
theorem dX5_told_69 : decode cX5_told 69 = .ok (.iload_n 1, 1) := dk_27 (dk_at dksX5_told_3 3 rfl rfl)
theorem dX5_told_70 : decode cX5_told 70 = .ok (.iaload, 1) := dk_46 (dk_at dksX5_told_3 4 rfl rfl)
theorem dX5_told_71 : decode cX5_told 71 = .ok (.ireturn, 1) := dk_172 (dk_at dksX5_told_3 5 rfl rfl)
theorem dX5_told_72 : decode cX5_told 72 = .ok (.aload_n 0, 1) := dk_42 (dk_at dksX5_told_3 6 rfl rfl)
theorem dX5_told_73 : decode cX5_told 73 = .ok (.getfield 55, 3) := dk_180 0 55 (dk_at dksX5_told_3 7 rfl rfl)
theorem dX5_told_76 : decode cX5_told 76 = .ok (.iload_n 1, 1) := dk_27 (dk_at dksX5_told_3 10 rfl rfl)
theorem dX5_told_77 : decode cX5_told 77 = .ok (.iaload, 1) := dk_46 (dk_at dksX5_told_3 11 rfl rfl)
theorem dX5_told_78 : decode cX5_told 78 = .ok (.ireturn, 1) := dk_172 (dk_at dksX5_told_3 12 rfl rfl)
theorem dX5_told_79 : decode cX5_told 79 = .ok (.aload_n 0, 1) := dk_42 (dk_at dksX5_told_3 13 rfl rfl)
theorem dX5_told_80 : decode cX5_told 80 = .ok (.getfield 58, 3) := dk_180 0 58 (dk_at dksX5_told_3 14 rfl rfl)
theorem dX5_told_83 : decode cX5_told 83 = .ok (.iload_n 1, 1) := dk_27 (dk_at dksX5_told_3 17 rfl rfl)
theorem dX5_told_84 : decode cX5_told 84 = .ok (.iaload, 1) := dk_46 (dk_at dksX5_told_3 18 rfl rfl)
theorem dX5_told_85 : decode cX5_told 85 = .ok (.ireturn, 1) := dk_172 (dk_at dksX5_told_3 19 rfl rfl)
theorem dX5_told_86 : decode cX5_told 86 = .ok (.aload_n 0, 1) := dk_42 (dk_at dksX5_told_3 20 rfl rfl)
theorem dX5_told_87 : decode cX5_told 87 = .ok (.getfield 61, 3) := dk_180 0 61 (dk_at dksX5_told_3 21 rfl rfl)
theorem dX5_told_90 : decode cX5_told 90 = .ok (.iload_n 1, 1) := dk_27 (dk_at dksX5_told_4 0 rfl rfl)
theorem dX5_told_91 : decode cX5_told 91 = .ok (.iaload, 1) := dk_46 (dk_at dksX5_told_4 1 rfl rfl)
theorem dX5_told_92 : decode cX5_told 92 = .ok (.aload_n 0, 1) := dk_42 (dk_at dksX5_told_4 2 rfl rfl)
theorem dX5_told_93 : decode cX5_told 93 = .ok (.iload_n 1, 1) := dk_27 (dk_at dksX5_told_4 3 rfl rfl)
theorem dX5_told_94 : decode cX5_told 94 = .ok (.invokevirtual 362, 3) := dk_182 1 106 (dk_at dksX5_told_4 4 rfl rfl)
theorem dX5_told_97 : decode cX5_told 97 = .ok (.iadd, 1) := dk_96 (dk_at dksX5_told_4 7 rfl rfl)
theorem dX5_told_98 : decode cX5_told 98 = .ok (.ireturn, 1) := dk_172 (dk_at dksX5_told_4 8 rfl rfl)
theorem dX5_told_99 : decode cX5_told 99 = .ok (.aload_n 0, 1) := dk_42 (dk_at dksX5_told_4 9 rfl rfl)
theorem dX5_told_100 : decode cX5_told 100 = .ok (.getfield 64, 3) := dk_180 0 64 (dk_at dksX5_told_4 10 rfl rfl)
theorem dX5_told_103 : decode cX5_told 103 = .ok (.iload_n 1, 1) := dk_27 (dk_at dksX5_told_4 13 rfl rfl)
theorem dX5_told_104 : decode cX5_told 104 = .ok (.iaload, 1) := dk_46 (dk_at dksX5_told_4 14 rfl rfl)
theorem dX5_told_105 : decode cX5_told 105 = .ok (.aload_n 0, 1) := dk_42 (dk_at dksX5_told_4 15 rfl rfl)
theorem dX5_told_106 : decode cX5_told 106 = .ok (.iload_n 1, 1) := dk_27 (dk_at dksX5_told_4 16 rfl rfl)
theorem dX5_told_107 : decode cX5_told 107 = .ok (.invokevirtual 362, 3) := dk_182 1 106 (dk_at dksX5_told_4 17 rfl rfl)
theorem dX5_told_110 : decode cX5_told 110 = .ok (.iadd, 1) := dk_96 (dk_at dksX5_told_4 20 rfl rfl)
theorem dX5_told_111 : decode cX5_told 111 = .ok (.ireturn, 1) := dk_172 (dk_at dksX5_told_4 21 rfl rfl)
abbrev cX5_later : ByteArray := prog_24_method_27_code
def yX5_later : MethodName := ⟨RX5, "later", "(I)I"⟩
def dkwX5_later_1 : List UInt8 := [42, 180, 0, 31, 29, 46, 167, 0, 4, 3, 96, 61, 42, 180, 0, 34, 29, 46, 62, 167, 255, 222, 28, 172]
abbrev dktX5_later_1 : List UInt8 := dkwX5_later_1 ++ []
def dkwX5_later_0 : List UInt8 := [3, 61, 42, 180, 0, 34, 27, 46, 62, 29, 155, 0, 36, 28, 42, 180, 0, 28, 29, 46, 7, 160, 0, 12]
abbrev dktX5_later_0 : List UInt8 := dkwX5_later_0 ++ dktX5_later_1
theorem dksX5_later_0 : cX5_later.data.toList.drop 0 = dktX5_later_0 := by decide +kernel
theorem dksX5_later_1 : cX5_later.data.toList.drop 24 = dktX5_later_1 := dk_seg dksX5_later_0 24 rfl rfl
theorem dX5_later_0 : decode cX5_later 0 = .ok (.iconst 0, 1) := dk_3 (dk_at dksX5_later_0 0 rfl rfl)
theorem dX5_later_1 : decode cX5_later 1 = .ok (.istore_n 2, 1) := dk_61 (dk_at dksX5_later_0 1 rfl rfl)
theorem dX5_later_2 : decode cX5_later 2 = .ok (.aload_n 0, 1) := dk_42 (dk_at dksX5_later_0 2 rfl rfl)
theorem dX5_later_3 : decode cX5_later 3 = .ok (.getfield 34, 3) := dk_180 0 34 (dk_at dksX5_later_0 3 rfl rfl)
theorem dX5_later_6 : decode cX5_later 6 = .ok (.iload_n 1, 1) := dk_27 (dk_at dksX5_later_0 6 rfl rfl)
theorem dX5_later_7 : decode cX5_later 7 = .ok (.iaload, 1) := dk_46 (dk_at dksX5_later_0 7 rfl rfl)
theorem dX5_later_8 : decode cX5_later 8 = .ok (.istore_n 3, 1) := dk_62 (dk_at dksX5_later_0 8 rfl rfl)
theorem dX5_later_9 : decode cX5_later 9 = .ok (.iload_n 3, 1) := dk_29 (dk_at dksX5_later_0 9 rfl rfl)
theorem dX5_later_10 : decode cX5_later 10 = .ok (.ifCond .lt 36, 3) := dk_155 0 36 (dk_at dksX5_later_0 10 rfl rfl)
theorem dX5_later_13 : decode cX5_later 13 = .ok (.iload_n 2, 1) := dk_28 (dk_at dksX5_later_0 13 rfl rfl)
theorem dX5_later_14 : decode cX5_later 14 = .ok (.aload_n 0, 1) := dk_42 (dk_at dksX5_later_0 14 rfl rfl)
theorem dX5_later_15 : decode cX5_later 15 = .ok (.getfield 28, 3) := dk_180 0 28 (dk_at dksX5_later_0 15 rfl rfl)
theorem dX5_later_18 : decode cX5_later 18 = .ok (.iload_n 3, 1) := dk_29 (dk_at dksX5_later_0 18 rfl rfl)
theorem dX5_later_19 : decode cX5_later 19 = .ok (.iaload, 1) := dk_46 (dk_at dksX5_later_0 19 rfl rfl)
theorem dX5_later_20 : decode cX5_later 20 = .ok (.iconst 4, 1) := dk_7 (dk_at dksX5_later_0 20 rfl rfl)
theorem dX5_later_21 : decode cX5_later 21 = .ok (.if_icmp .ne 12, 3) := dk_160 0 12 (dk_at dksX5_later_0 21 rfl rfl)
theorem dX5_later_24 : decode cX5_later 24 = .ok (.aload_n 0, 1) := dk_42 (dk_at dksX5_later_1 0 rfl rfl)
theorem dX5_later_25 : decode cX5_later 25 = .ok (.getfield 31, 3) := dk_180 0 31 (dk_at dksX5_later_1 1 rfl rfl)
theorem dX5_later_28 : decode cX5_later 28 = .ok (.iload_n 3, 1) := dk_29 (dk_at dksX5_later_1 4 rfl rfl)
theorem dX5_later_29 : decode cX5_later 29 = .ok (.iaload, 1) := dk_46 (dk_at dksX5_later_1 5 rfl rfl)
theorem dX5_later_30 : decode cX5_later 30 = .ok (.goto 4, 3) := dk_167 0 4 (dk_at dksX5_later_1 6 rfl rfl)
theorem dX5_later_33 : decode cX5_later 33 = .ok (.iconst 0, 1) := dk_3 (dk_at dksX5_later_1 9 rfl rfl)
theorem dX5_later_34 : decode cX5_later 34 = .ok (.iadd, 1) := dk_96 (dk_at dksX5_later_1 10 rfl rfl)
theorem dX5_later_35 : decode cX5_later 35 = .ok (.istore_n 2, 1) := dk_61 (dk_at dksX5_later_1 11 rfl rfl)
theorem dX5_later_36 : decode cX5_later 36 = .ok (.aload_n 0, 1) := dk_42 (dk_at dksX5_later_1 12 rfl rfl)
theorem dX5_later_37 : decode cX5_later 37 = .ok (.getfield 34, 3) := dk_180 0 34 (dk_at dksX5_later_1 13 rfl rfl)
theorem dX5_later_40 : decode cX5_later 40 = .ok (.iload_n 3, 1) := dk_29 (dk_at dksX5_later_1 16 rfl rfl)
theorem dX5_later_41 : decode cX5_later 41 = .ok (.iaload, 1) := dk_46 (dk_at dksX5_later_1 17 rfl rfl)
theorem dX5_later_42 : decode cX5_later 42 = .ok (.istore_n 3, 1) := dk_62 (dk_at dksX5_later_1 18 rfl rfl)
theorem dX5_later_43 : decode cX5_later 43 = .ok (.goto (-34), 3) := dk_167 255 222 (dk_at dksX5_later_1 19 rfl rfl)
theorem dX5_later_46 : decode cX5_later 46 = .ok (.iload_n 2, 1) := dk_28 (dk_at dksX5_later_1 22 rfl rfl)
theorem dX5_later_47 : decode cX5_later 47 = .ok (.ireturn, 1) := dk_172 (dk_at dksX5_later_1 23 rfl rfl)
abbrev cX5_plain : ByteArray := prog_24_method_40_code
def yX5_plain : MethodName := ⟨RX5, "plain", "(II)I"⟩
def dkwX5_plain_8 : List UInt8 := [29, 172]
abbrev dktX5_plain_8 : List UInt8 := dkwX5_plain_8 ++ []
def dkwX5_plain_7 : List UInt8 := [46, 167, 0, 7, 21, 4, 4, 96, 54, 4, 167, 255, 183, 28, 154, 0, 10, 42, 180, 1, 138, 167, 0, 4]
abbrev dktX5_plain_7 : List UInt8 := dkwX5_plain_7 ++ dktX5_plain_8
def dkwX5_plain_6 : List UInt8 := [182, 1, 100, 153, 0, 7, 4, 167, 0, 4, 3, 96, 62, 21, 5, 153, 0, 13, 42, 180, 0, 40, 21, 4]
abbrev dktX5_plain_6 : List UInt8 := dkwX5_plain_6 ++ dktX5_plain_7
def dkwX5_plain_5 : List UInt8 := [42, 180, 0, 81, 21, 4, 16, 96, 27, 104, 100, 51, 54, 5, 29, 21, 5, 154, 0, 16, 42, 21, 4]
abbrev dktX5_plain_5 : List UInt8 := dkwX5_plain_5 ++ dktX5_plain_6
def dkwX5_plain_4 : List UInt8 := [3, 62, 16, 96, 27, 104, 54, 4, 21, 4, 16, 96, 27, 104, 42, 180, 0, 13, 27, 46, 96, 162, 0, 63]
abbrev dktX5_plain_4 : List UInt8 := dkwX5_plain_4 ++ dktX5_plain_5
def dkwX5_plain_3 : List UInt8 := [104, 161, 0, 23, 42, 29, 182, 1, 100, 154, 0, 9, 42, 27, 29, 182, 1, 145, 132, 3, 255, 167, 255, 231]
abbrev dktX5_plain_3 : List UInt8 := dkwX5_plain_3 ++ dktX5_plain_4
def dkwX5_plain_2 : List UInt8 := [132, 3, 1, 167, 255, 233, 16, 96, 27, 104, 42, 180, 0, 13, 27, 46, 96, 4, 100, 62, 29, 16, 96, 27]
abbrev dktX5_plain_2 : List UInt8 := dkwX5_plain_2 ++ dktX5_plain_3
def dkwX5_plain_1 : List UInt8 := [3, 62, 29, 16, 96, 162, 0, 23, 42, 180, 0, 81, 29, 3, 84, 42, 180, 0, 85, 29, 3, 84]
abbrev dktX5_plain_1 : List UInt8 := dkwX5_plain_1 ++ dktX5_plain_2
def dkwX5_plain_0 : List UInt8 := [42, 27, 182, 1, 96, 153, 0, 12, 28, 3, 4, 184, 0, 185, 154, 0, 5, 2, 172, 42, 3, 181, 1, 138]
abbrev dktX5_plain_0 : List UInt8 := dkwX5_plain_0 ++ dktX5_plain_1
theorem dksX5_plain_0 : cX5_plain.data.toList.drop 0 = dktX5_plain_0 := by decide +kernel
theorem dksX5_plain_1 : cX5_plain.data.toList.drop 24 = dktX5_plain_1 := dk_seg dksX5_plain_0 24 rfl rfl
theorem dksX5_plain_2 : cX5_plain.data.toList.drop 46 = dktX5_plain_2 := dk_seg dksX5_plain_1 22 rfl rfl
theorem dksX5_plain_3 : cX5_plain.data.toList.drop 70 = dktX5_plain_3 := dk_seg dksX5_plain_2 24 rfl rfl
theorem dksX5_plain_4 : cX5_plain.data.toList.drop 94 = dktX5_plain_4 := dk_seg dksX5_plain_3 24 rfl rfl
theorem dksX5_plain_5 : cX5_plain.data.toList.drop 118 = dktX5_plain_5 := dk_seg dksX5_plain_4 24 rfl rfl
theorem dksX5_plain_6 : cX5_plain.data.toList.drop 141 = dktX5_plain_6 := dk_seg dksX5_plain_5 23 rfl rfl
theorem dksX5_plain_7 : cX5_plain.data.toList.drop 165 = dktX5_plain_7 := dk_seg dksX5_plain_6 24 rfl rfl
theorem dksX5_plain_8 : cX5_plain.data.toList.drop 189 = dktX5_plain_8 := dk_seg dksX5_plain_7 24 rfl rfl
theorem dX5_plain_0 : decode cX5_plain 0 = .ok (.aload_n 0, 1) := dk_42 (dk_at dksX5_plain_0 0 rfl rfl)
theorem dX5_plain_1 : decode cX5_plain 1 = .ok (.iload_n 1, 1) := dk_27 (dk_at dksX5_plain_0 1 rfl rfl)
theorem dX5_plain_2 : decode cX5_plain 2 = .ok (.invokevirtual 352, 3) := dk_182 1 96 (dk_at dksX5_plain_0 2 rfl rfl)
theorem dX5_plain_5 : decode cX5_plain 5 = .ok (.ifCond .eq 12, 3) := dk_153 0 12 (dk_at dksX5_plain_0 5 rfl rfl)
theorem dX5_plain_8 : decode cX5_plain 8 = .ok (.iload_n 2, 1) := dk_28 (dk_at dksX5_plain_0 8 rfl rfl)
theorem dX5_plain_9 : decode cX5_plain 9 = .ok (.iconst 0, 1) := dk_3 (dk_at dksX5_plain_0 9 rfl rfl)
theorem dX5_plain_10 : decode cX5_plain 10 = .ok (.iconst 1, 1) := dk_4 (dk_at dksX5_plain_0 10 rfl rfl)
theorem dX5_plain_11 : decode cX5_plain 11 = .ok (.invokestatic 185, 3) := dk_184 0 185 (dk_at dksX5_plain_0 11 rfl rfl)
theorem dX5_plain_14 : decode cX5_plain 14 = .ok (.ifCond .ne 5, 3) := dk_154 0 5 (dk_at dksX5_plain_0 14 rfl rfl)
theorem dX5_plain_17 : decode cX5_plain 17 = .ok (.iconst (-1), 1) := dk_2 (dk_at dksX5_plain_0 17 rfl rfl)
theorem dX5_plain_18 : decode cX5_plain 18 = .ok (.ireturn, 1) := dk_172 (dk_at dksX5_plain_0 18 rfl rfl)
theorem dX5_plain_19 : decode cX5_plain 19 = .ok (.aload_n 0, 1) := dk_42 (dk_at dksX5_plain_0 19 rfl rfl)
theorem dX5_plain_20 : decode cX5_plain 20 = .ok (.iconst 0, 1) := dk_3 (dk_at dksX5_plain_0 20 rfl rfl)
theorem dX5_plain_21 : decode cX5_plain 21 = .ok (.putfield 394, 3) := dk_181 1 138 (dk_at dksX5_plain_0 21 rfl rfl)
theorem dX5_plain_24 : decode cX5_plain 24 = .ok (.iconst 0, 1) := dk_3 (dk_at dksX5_plain_1 0 rfl rfl)
theorem dX5_plain_25 : decode cX5_plain 25 = .ok (.istore_n 3, 1) := dk_62 (dk_at dksX5_plain_1 1 rfl rfl)
theorem dX5_plain_26 : decode cX5_plain 26 = .ok (.iload_n 3, 1) := dk_29 (dk_at dksX5_plain_1 2 rfl rfl)
theorem dX5_plain_27 : decode cX5_plain 27 = .ok (.bipush 96, 2) := dk_16 96 (dk_at dksX5_plain_1 3 rfl rfl)
theorem dX5_plain_29 : decode cX5_plain 29 = .ok (.if_icmp .ge 23, 3) := dk_162 0 23 (dk_at dksX5_plain_1 5 rfl rfl)
theorem dX5_plain_32 : decode cX5_plain 32 = .ok (.aload_n 0, 1) := dk_42 (dk_at dksX5_plain_1 8 rfl rfl)
theorem dX5_plain_33 : decode cX5_plain 33 = .ok (.getfield 81, 3) := dk_180 0 81 (dk_at dksX5_plain_1 9 rfl rfl)
theorem dX5_plain_36 : decode cX5_plain 36 = .ok (.iload_n 3, 1) := dk_29 (dk_at dksX5_plain_1 12 rfl rfl)
theorem dX5_plain_37 : decode cX5_plain 37 = .ok (.iconst 0, 1) := dk_3 (dk_at dksX5_plain_1 13 rfl rfl)
theorem dX5_plain_38 : decode cX5_plain 38 = .ok (.bastore, 1) := dk_84 (dk_at dksX5_plain_1 14 rfl rfl)
theorem dX5_plain_39 : decode cX5_plain 39 = .ok (.aload_n 0, 1) := dk_42 (dk_at dksX5_plain_1 15 rfl rfl)
theorem dX5_plain_40 : decode cX5_plain 40 = .ok (.getfield 85, 3) := dk_180 0 85 (dk_at dksX5_plain_1 16 rfl rfl)
theorem dX5_plain_43 : decode cX5_plain 43 = .ok (.iload_n 3, 1) := dk_29 (dk_at dksX5_plain_1 19 rfl rfl)
theorem dX5_plain_44 : decode cX5_plain 44 = .ok (.iconst 0, 1) := dk_3 (dk_at dksX5_plain_1 20 rfl rfl)
theorem dX5_plain_45 : decode cX5_plain 45 = .ok (.bastore, 1) := dk_84 (dk_at dksX5_plain_1 21 rfl rfl)
theorem dX5_plain_46 : decode cX5_plain 46 = .ok (.iinc 3 1, 3) := dk_132 3 1 (dk_at dksX5_plain_2 0 rfl rfl)
theorem dX5_plain_49 : decode cX5_plain 49 = .ok (.goto (-23), 3) := dk_167 255 233 (dk_at dksX5_plain_2 3 rfl rfl)
theorem dX5_plain_52 : decode cX5_plain 52 = .ok (.bipush 96, 2) := dk_16 96 (dk_at dksX5_plain_2 6 rfl rfl)
theorem dX5_plain_54 : decode cX5_plain 54 = .ok (.iload_n 1, 1) := dk_27 (dk_at dksX5_plain_2 8 rfl rfl)
theorem dX5_plain_55 : decode cX5_plain 55 = .ok (.imul, 1) := dk_104 (dk_at dksX5_plain_2 9 rfl rfl)
theorem dX5_plain_56 : decode cX5_plain 56 = .ok (.aload_n 0, 1) := dk_42 (dk_at dksX5_plain_2 10 rfl rfl)
theorem dX5_plain_57 : decode cX5_plain 57 = .ok (.getfield 13, 3) := dk_180 0 13 (dk_at dksX5_plain_2 11 rfl rfl)
theorem dX5_plain_60 : decode cX5_plain 60 = .ok (.iload_n 1, 1) := dk_27 (dk_at dksX5_plain_2 14 rfl rfl)
theorem dX5_plain_61 : decode cX5_plain 61 = .ok (.iaload, 1) := dk_46 (dk_at dksX5_plain_2 15 rfl rfl)
theorem dX5_plain_62 : decode cX5_plain 62 = .ok (.iadd, 1) := dk_96 (dk_at dksX5_plain_2 16 rfl rfl)
theorem dX5_plain_63 : decode cX5_plain 63 = .ok (.iconst 1, 1) := dk_4 (dk_at dksX5_plain_2 17 rfl rfl)
theorem dX5_plain_64 : decode cX5_plain 64 = .ok (.isub, 1) := dk_100 (dk_at dksX5_plain_2 18 rfl rfl)
theorem dX5_plain_65 : decode cX5_plain 65 = .ok (.istore_n 3, 1) := dk_62 (dk_at dksX5_plain_2 19 rfl rfl)
theorem dX5_plain_66 : decode cX5_plain 66 = .ok (.iload_n 3, 1) := dk_29 (dk_at dksX5_plain_2 20 rfl rfl)
theorem dX5_plain_67 : decode cX5_plain 67 = .ok (.bipush 96, 2) := dk_16 96 (dk_at dksX5_plain_2 21 rfl rfl)
theorem dX5_plain_69 : decode cX5_plain 69 = .ok (.iload_n 1, 1) := dk_27 (dk_at dksX5_plain_2 23 rfl rfl)
theorem dX5_plain_70 : decode cX5_plain 70 = .ok (.imul, 1) := dk_104 (dk_at dksX5_plain_3 0 rfl rfl)
theorem dX5_plain_71 : decode cX5_plain 71 = .ok (.if_icmp .lt 23, 3) := dk_161 0 23 (dk_at dksX5_plain_3 1 rfl rfl)
theorem dX5_plain_74 : decode cX5_plain 74 = .ok (.aload_n 0, 1) := dk_42 (dk_at dksX5_plain_3 4 rfl rfl)
theorem dX5_plain_75 : decode cX5_plain 75 = .ok (.iload_n 3, 1) := dk_29 (dk_at dksX5_plain_3 5 rfl rfl)
theorem dX5_plain_76 : decode cX5_plain 76 = .ok (.invokevirtual 356, 3) := dk_182 1 100 (dk_at dksX5_plain_3 6 rfl rfl)
theorem dX5_plain_79 : decode cX5_plain 79 = .ok (.ifCond .ne 9, 3) := dk_154 0 9 (dk_at dksX5_plain_3 9 rfl rfl)
theorem dX5_plain_82 : decode cX5_plain 82 = .ok (.aload_n 0, 1) := dk_42 (dk_at dksX5_plain_3 12 rfl rfl)
theorem dX5_plain_83 : decode cX5_plain 83 = .ok (.iload_n 1, 1) := dk_27 (dk_at dksX5_plain_3 13 rfl rfl)
theorem dX5_plain_84 : decode cX5_plain 84 = .ok (.iload_n 3, 1) := dk_29 (dk_at dksX5_plain_3 14 rfl rfl)
theorem dX5_plain_85 : decode cX5_plain 85 = .ok (.invokevirtual 401, 3) := dk_182 1 145 (dk_at dksX5_plain_3 15 rfl rfl)
theorem dX5_plain_88 : decode cX5_plain 88 = .ok (.iinc 3 (-1), 3) := dk_132 3 255 (dk_at dksX5_plain_3 18 rfl rfl)
theorem dX5_plain_91 : decode cX5_plain 91 = .ok (.goto (-25), 3) := dk_167 255 231 (dk_at dksX5_plain_3 21 rfl rfl)
theorem dX5_plain_94 : decode cX5_plain 94 = .ok (.iconst 0, 1) := dk_3 (dk_at dksX5_plain_4 0 rfl rfl)
theorem dX5_plain_95 : decode cX5_plain 95 = .ok (.istore_n 3, 1) := dk_62 (dk_at dksX5_plain_4 1 rfl rfl)
theorem dX5_plain_96 : decode cX5_plain 96 = .ok (.bipush 96, 2) := dk_16 96 (dk_at dksX5_plain_4 2 rfl rfl)
theorem dX5_plain_98 : decode cX5_plain 98 = .ok (.iload_n 1, 1) := dk_27 (dk_at dksX5_plain_4 4 rfl rfl)
theorem dX5_plain_99 : decode cX5_plain 99 = .ok (.imul, 1) := dk_104 (dk_at dksX5_plain_4 5 rfl rfl)
theorem dX5_plain_100 : decode cX5_plain 100 = .ok (.istore 4, 2) := dk_54 4 (dk_at dksX5_plain_4 6 rfl rfl)
theorem dX5_plain_102 : decode cX5_plain 102 = .ok (.iload 4, 2) := dk_21 4 (dk_at dksX5_plain_4 8 rfl rfl)
theorem dX5_plain_104 : decode cX5_plain 104 = .ok (.bipush 96, 2) := dk_16 96 (dk_at dksX5_plain_4 10 rfl rfl)
theorem dX5_plain_106 : decode cX5_plain 106 = .ok (.iload_n 1, 1) := dk_27 (dk_at dksX5_plain_4 12 rfl rfl)
theorem dX5_plain_107 : decode cX5_plain 107 = .ok (.imul, 1) := dk_104 (dk_at dksX5_plain_4 13 rfl rfl)
theorem dX5_plain_108 : decode cX5_plain 108 = .ok (.aload_n 0, 1) := dk_42 (dk_at dksX5_plain_4 14 rfl rfl)
theorem dX5_plain_109 : decode cX5_plain 109 = .ok (.getfield 13, 3) := dk_180 0 13 (dk_at dksX5_plain_4 15 rfl rfl)
theorem dX5_plain_112 : decode cX5_plain 112 = .ok (.iload_n 1, 1) := dk_27 (dk_at dksX5_plain_4 18 rfl rfl)
theorem dX5_plain_113 : decode cX5_plain 113 = .ok (.iaload, 1) := dk_46 (dk_at dksX5_plain_4 19 rfl rfl)
theorem dX5_plain_114 : decode cX5_plain 114 = .ok (.iadd, 1) := dk_96 (dk_at dksX5_plain_4 20 rfl rfl)
theorem dX5_plain_115 : decode cX5_plain 115 = .ok (.if_icmp .ge 63, 3) := dk_162 0 63 (dk_at dksX5_plain_4 21 rfl rfl)
theorem dX5_plain_118 : decode cX5_plain 118 = .ok (.aload_n 0, 1) := dk_42 (dk_at dksX5_plain_5 0 rfl rfl)
theorem dX5_plain_119 : decode cX5_plain 119 = .ok (.getfield 81, 3) := dk_180 0 81 (dk_at dksX5_plain_5 1 rfl rfl)
theorem dX5_plain_122 : decode cX5_plain 122 = .ok (.iload 4, 2) := dk_21 4 (dk_at dksX5_plain_5 4 rfl rfl)
theorem dX5_plain_124 : decode cX5_plain 124 = .ok (.bipush 96, 2) := dk_16 96 (dk_at dksX5_plain_5 6 rfl rfl)
theorem dX5_plain_126 : decode cX5_plain 126 = .ok (.iload_n 1, 1) := dk_27 (dk_at dksX5_plain_5 8 rfl rfl)
theorem dX5_plain_127 : decode cX5_plain 127 = .ok (.imul, 1) := dk_104 (dk_at dksX5_plain_5 9 rfl rfl)
theorem dX5_plain_128 : decode cX5_plain 128 = .ok (.isub, 1) := dk_100 (dk_at dksX5_plain_5 10 rfl rfl)
theorem dX5_plain_129 : decode cX5_plain 129 = .ok (.baload, 1) := dk_51 (dk_at dksX5_plain_5 11 rfl rfl)
theorem dX5_plain_130 : decode cX5_plain 130 = .ok (.istore 5, 2) := dk_54 5 (dk_at dksX5_plain_5 12 rfl rfl)
theorem dX5_plain_132 : decode cX5_plain 132 = .ok (.iload_n 3, 1) := dk_29 (dk_at dksX5_plain_5 14 rfl rfl)
theorem dX5_plain_133 : decode cX5_plain 133 = .ok (.iload 5, 2) := dk_21 5 (dk_at dksX5_plain_5 15 rfl rfl)
theorem dX5_plain_135 : decode cX5_plain 135 = .ok (.ifCond .ne 16, 3) := dk_154 0 16 (dk_at dksX5_plain_5 17 rfl rfl)
theorem dX5_plain_138 : decode cX5_plain 138 = .ok (.aload_n 0, 1) := dk_42 (dk_at dksX5_plain_5 20 rfl rfl)
theorem dX5_plain_139 : decode cX5_plain 139 = .ok (.iload 4, 2) := dk_21 4 (dk_at dksX5_plain_5 21 rfl rfl)
theorem dX5_plain_141 : decode cX5_plain 141 = .ok (.invokevirtual 356, 3) := dk_182 1 100 (dk_at dksX5_plain_6 0 rfl rfl)
theorem dX5_plain_144 : decode cX5_plain 144 = .ok (.ifCond .eq 7, 3) := dk_153 0 7 (dk_at dksX5_plain_6 3 rfl rfl)
theorem dX5_plain_147 : decode cX5_plain 147 = .ok (.iconst 1, 1) := dk_4 (dk_at dksX5_plain_6 6 rfl rfl)
theorem dX5_plain_148 : decode cX5_plain 148 = .ok (.goto 4, 3) := dk_167 0 4 (dk_at dksX5_plain_6 7 rfl rfl)
theorem dX5_plain_151 : decode cX5_plain 151 = .ok (.iconst 0, 1) := dk_3 (dk_at dksX5_plain_6 10 rfl rfl)
theorem dX5_plain_152 : decode cX5_plain 152 = .ok (.iadd, 1) := dk_96 (dk_at dksX5_plain_6 11 rfl rfl)
theorem dX5_plain_153 : decode cX5_plain 153 = .ok (.istore_n 3, 1) := dk_62 (dk_at dksX5_plain_6 12 rfl rfl)
theorem dX5_plain_154 : decode cX5_plain 154 = .ok (.iload 5, 2) := dk_21 5 (dk_at dksX5_plain_6 13 rfl rfl)
theorem dX5_plain_156 : decode cX5_plain 156 = .ok (.ifCond .eq 13, 3) := dk_153 0 13 (dk_at dksX5_plain_6 15 rfl rfl)
theorem dX5_plain_159 : decode cX5_plain 159 = .ok (.aload_n 0, 1) := dk_42 (dk_at dksX5_plain_6 18 rfl rfl)
theorem dX5_plain_160 : decode cX5_plain 160 = .ok (.getfield 40, 3) := dk_180 0 40 (dk_at dksX5_plain_6 19 rfl rfl)
theorem dX5_plain_163 : decode cX5_plain 163 = .ok (.iload 4, 2) := dk_21 4 (dk_at dksX5_plain_6 22 rfl rfl)
theorem dX5_plain_165 : decode cX5_plain 165 = .ok (.iaload, 1) := dk_46 (dk_at dksX5_plain_7 0 rfl rfl)
theorem dX5_plain_166 : decode cX5_plain 166 = .ok (.goto 7, 3) := dk_167 0 7 (dk_at dksX5_plain_7 1 rfl rfl)
theorem dX5_plain_169 : decode cX5_plain 169 = .ok (.iload 4, 2) := dk_21 4 (dk_at dksX5_plain_7 4 rfl rfl)
theorem dX5_plain_171 : decode cX5_plain 171 = .ok (.iconst 1, 1) := dk_4 (dk_at dksX5_plain_7 6 rfl rfl)
theorem dX5_plain_172 : decode cX5_plain 172 = .ok (.iadd, 1) := dk_96 (dk_at dksX5_plain_7 7 rfl rfl)
theorem dX5_plain_173 : decode cX5_plain 173 = .ok (.istore 4, 2) := dk_54 4 (dk_at dksX5_plain_7 8 rfl rfl)
theorem dX5_plain_175 : decode cX5_plain 175 = .ok (.goto (-73), 3) := dk_167 255 183 (dk_at dksX5_plain_7 10 rfl rfl)
theorem dX5_plain_178 : decode cX5_plain 178 = .ok (.iload_n 2, 1) := dk_28 (dk_at dksX5_plain_7 13 rfl rfl)
theorem dX5_plain_179 : decode cX5_plain 179 = .ok (.ifCond .ne 10, 3) := dk_154 0 10 (dk_at dksX5_plain_7 14 rfl rfl)
theorem dX5_plain_182 : decode cX5_plain 182 = .ok (.aload_n 0, 1) := dk_42 (dk_at dksX5_plain_7 17 rfl rfl)
theorem dX5_plain_183 : decode cX5_plain 183 = .ok (.getfield 394, 3) := dk_180 1 138 (dk_at dksX5_plain_7 18 rfl rfl)
theorem dX5_plain_186 : decode cX5_plain 186 = .ok (.goto 4, 3) := dk_167 0 4 (dk_at dksX5_plain_7 21 rfl rfl)
theorem dX5_plain_189 : decode cX5_plain 189 = .ok (.iload_n 3, 1) := dk_29 (dk_at dksX5_plain_8 0 rfl rfl)
theorem dX5_plain_190 : decode cX5_plain 190 = .ok (.ireturn, 1) := dk_172 (dk_at dksX5_plain_8 1 rfl rfl)
abbrev cX5_simplifies : ByteArray := prog_24_method_39_code
def yX5_simplifies : MethodName := ⟨RX5, "simplifies", "(II)V"⟩
def dkwX5_simplifies_12 : List UInt8 := [42, 89, 180, 1, 138, 4, 96, 181, 1, 138, 177]
abbrev dktX5_simplifies_12 : List UInt8 := dkwX5_simplifies_12 ++ []
def dkwX5_simplifies_11 : List UInt8 := [28, 46, 162, 0, 22, 42, 180, 0, 81, 21, 6, 16, 96, 27, 104, 100, 4, 84, 132, 6, 1, 167, 255, 229]
abbrev dktX5_simplifies_11 : List UInt8 := dkwX5_simplifies_11 ++ dktX5_simplifies_12
def dkwX5_simplifies_10 : List UInt8 := [153, 0, 58, 42, 180, 0, 85, 29, 4, 84, 42, 180, 0, 43, 28, 46, 54, 6, 21, 6, 42, 180, 0, 40]
abbrev dktX5_simplifies_10 : List UInt8 := dkwX5_simplifies_10 ++ dktX5_simplifies_11
def dkwX5_simplifies_9 : List UInt8 := [181, 1, 138, 167, 0, 78, 42, 180, 0, 28, 28, 46, 16, 6, 161, 0, 67, 42, 27, 28, 182, 1, 141]
abbrev dktX5_simplifies_9 : List UInt8 := dkwX5_simplifies_9 ++ dktX5_simplifies_10
def dkwX5_simplifies_8 : List UInt8 := [100, 46, 96, 79, 42, 180, 0, 85, 21, 5, 16, 96, 27, 104, 100, 4, 84, 42, 89, 180, 1, 138, 4, 96]
abbrev dktX5_simplifies_8 : List UInt8 := dkwX5_simplifies_8 ++ dktX5_simplifies_9
def dkwX5_simplifies_7 : List UInt8 := [21, 5, 46, 7, 160, 0, 50, 42, 180, 0, 88, 29, 92, 46, 42, 180, 0, 88, 21, 5, 16, 96, 27, 104]
abbrev dktX5_simplifies_7 : List UInt8 := dkwX5_simplifies_7 ++ dktX5_simplifies_8
def dkwX5_simplifies_6 : List UInt8 := [167, 0, 152, 42, 180, 0, 28, 28, 46, 7, 160, 0, 67, 21, 4, 4, 160, 0, 61, 42, 180, 0, 28]
abbrev dktX5_simplifies_6 : List UInt8 := dkwX5_simplifies_6 ++ dktX5_simplifies_7
def dkwX5_simplifies_5 : List UInt8 := [46, 4, 160, 0, 23, 42, 180, 0, 85, 29, 4, 84, 42, 89, 180, 1, 138, 4, 96, 181, 1, 138]
abbrev dktX5_simplifies_5 : List UInt8 := dkwX5_simplifies_5 ++ dktX5_simplifies_6
def dkwX5_simplifies_4 : List UInt8 := [42, 180, 0, 31, 28, 46, 153, 0, 23, 42, 180, 0, 28, 28, 46, 8, 160, 0, 33, 42, 180, 0, 31, 28]
abbrev dktX5_simplifies_4 : List UInt8 := dkwX5_simplifies_4 ++ dktX5_simplifies_5
def dkwX5_simplifies_3 : List UInt8 := [84, 42, 89, 180, 1, 138, 4, 96, 181, 1, 138, 167, 0, 211, 42, 180, 0, 28, 28, 46, 7, 160, 0, 12]
abbrev dktX5_simplifies_3 : List UInt8 := dkwX5_simplifies_3 ++ dktX5_simplifies_4
def dkwX5_simplifies_2 : List UInt8 := [180, 0, 28, 28, 46, 8, 160, 0, 32, 42, 180, 0, 31, 28, 46, 154, 0, 23, 42, 180, 0, 81, 29, 4]
abbrev dktX5_simplifies_2 : List UInt8 := dkwX5_simplifies_2 ++ dktX5_simplifies_3
def dkwX5_simplifies_1 : List UInt8 := [42, 180, 0, 40, 28, 46, 182, 1, 135, 54, 4, 42, 180, 1, 112, 54, 5, 21, 4, 153, 0, 22, 42]
abbrev dktX5_simplifies_1 : List UInt8 := dkwX5_simplifies_1 ++ dktX5_simplifies_2
def dkwX5_simplifies_0 : List UInt8 := [28, 16, 96, 27, 104, 100, 62, 42, 180, 0, 88, 29, 42, 180, 0, 31, 28, 46, 79, 42, 27, 28, 4, 96]
abbrev dktX5_simplifies_0 : List UInt8 := dkwX5_simplifies_0 ++ dktX5_simplifies_1
theorem dksX5_simplifies_0 : cX5_simplifies.data.toList.drop 0 = dktX5_simplifies_0 := by decide +kernel
theorem dksX5_simplifies_1 : cX5_simplifies.data.toList.drop 24 = dktX5_simplifies_1 := dk_seg dksX5_simplifies_0 24 rfl rfl
theorem dksX5_simplifies_2 : cX5_simplifies.data.toList.drop 47 = dktX5_simplifies_2 := dk_seg dksX5_simplifies_1 23 rfl rfl
theorem dksX5_simplifies_3 : cX5_simplifies.data.toList.drop 71 = dktX5_simplifies_3 := dk_seg dksX5_simplifies_2 24 rfl rfl
theorem dksX5_simplifies_4 : cX5_simplifies.data.toList.drop 95 = dktX5_simplifies_4 := dk_seg dksX5_simplifies_3 24 rfl rfl
theorem dksX5_simplifies_5 : cX5_simplifies.data.toList.drop 119 = dktX5_simplifies_5 := dk_seg dksX5_simplifies_4 24 rfl rfl
theorem dksX5_simplifies_6 : cX5_simplifies.data.toList.drop 141 = dktX5_simplifies_6 := dk_seg dksX5_simplifies_5 22 rfl rfl
theorem dksX5_simplifies_7 : cX5_simplifies.data.toList.drop 164 = dktX5_simplifies_7 := dk_seg dksX5_simplifies_6 23 rfl rfl
theorem dksX5_simplifies_8 : cX5_simplifies.data.toList.drop 188 = dktX5_simplifies_8 := dk_seg dksX5_simplifies_7 24 rfl rfl
theorem dksX5_simplifies_9 : cX5_simplifies.data.toList.drop 212 = dktX5_simplifies_9 := dk_seg dksX5_simplifies_8 24 rfl rfl
theorem dksX5_simplifies_10 : cX5_simplifies.data.toList.drop 235 = dktX5_simplifies_10 := dk_seg dksX5_simplifies_9 23 rfl rfl
theorem dksX5_simplifies_11 : cX5_simplifies.data.toList.drop 259 = dktX5_simplifies_11 := dk_seg dksX5_simplifies_10 24 rfl rfl
theorem dksX5_simplifies_12 : cX5_simplifies.data.toList.drop 283 = dktX5_simplifies_12 := dk_seg dksX5_simplifies_11 24 rfl rfl
theorem dX5_simplifies_0 : decode cX5_simplifies 0 = .ok (.iload_n 2, 1) := dk_28 (dk_at dksX5_simplifies_0 0 rfl rfl)
theorem dX5_simplifies_1 : decode cX5_simplifies 1 = .ok (.bipush 96, 2) := dk_16 96 (dk_at dksX5_simplifies_0 1 rfl rfl)
theorem dX5_simplifies_3 : decode cX5_simplifies 3 = .ok (.iload_n 1, 1) := dk_27 (dk_at dksX5_simplifies_0 3 rfl rfl)
theorem dX5_simplifies_4 : decode cX5_simplifies 4 = .ok (.imul, 1) := dk_104 (dk_at dksX5_simplifies_0 4 rfl rfl)
theorem dX5_simplifies_5 : decode cX5_simplifies 5 = .ok (.isub, 1) := dk_100 (dk_at dksX5_simplifies_0 5 rfl rfl)
theorem dX5_simplifies_6 : decode cX5_simplifies 6 = .ok (.istore_n 3, 1) := dk_62 (dk_at dksX5_simplifies_0 6 rfl rfl)
theorem dX5_simplifies_7 : decode cX5_simplifies 7 = .ok (.aload_n 0, 1) := dk_42 (dk_at dksX5_simplifies_0 7 rfl rfl)
theorem dX5_simplifies_8 : decode cX5_simplifies 8 = .ok (.getfield 88, 3) := dk_180 0 88 (dk_at dksX5_simplifies_0 8 rfl rfl)
theorem dX5_simplifies_11 : decode cX5_simplifies 11 = .ok (.iload_n 3, 1) := dk_29 (dk_at dksX5_simplifies_0 11 rfl rfl)
theorem dX5_simplifies_12 : decode cX5_simplifies 12 = .ok (.aload_n 0, 1) := dk_42 (dk_at dksX5_simplifies_0 12 rfl rfl)
theorem dX5_simplifies_13 : decode cX5_simplifies 13 = .ok (.getfield 31, 3) := dk_180 0 31 (dk_at dksX5_simplifies_0 13 rfl rfl)
theorem dX5_simplifies_16 : decode cX5_simplifies 16 = .ok (.iload_n 2, 1) := dk_28 (dk_at dksX5_simplifies_0 16 rfl rfl)
theorem dX5_simplifies_17 : decode cX5_simplifies 17 = .ok (.iaload, 1) := dk_46 (dk_at dksX5_simplifies_0 17 rfl rfl)
theorem dX5_simplifies_18 : decode cX5_simplifies 18 = .ok (.iastore, 1) := dk_79 (dk_at dksX5_simplifies_0 18 rfl rfl)
theorem dX5_simplifies_19 : decode cX5_simplifies 19 = .ok (.aload_n 0, 1) := dk_42 (dk_at dksX5_simplifies_0 19 rfl rfl)
theorem dX5_simplifies_20 : decode cX5_simplifies 20 = .ok (.iload_n 1, 1) := dk_27 (dk_at dksX5_simplifies_0 20 rfl rfl)
theorem dX5_simplifies_21 : decode cX5_simplifies 21 = .ok (.iload_n 2, 1) := dk_28 (dk_at dksX5_simplifies_0 21 rfl rfl)
theorem dX5_simplifies_22 : decode cX5_simplifies 22 = .ok (.iconst 1, 1) := dk_4 (dk_at dksX5_simplifies_0 22 rfl rfl)
theorem dX5_simplifies_23 : decode cX5_simplifies 23 = .ok (.iadd, 1) := dk_96 (dk_at dksX5_simplifies_0 23 rfl rfl)
theorem dX5_simplifies_24 : decode cX5_simplifies 24 = .ok (.aload_n 0, 1) := dk_42 (dk_at dksX5_simplifies_1 0 rfl rfl)
theorem dX5_simplifies_25 : decode cX5_simplifies 25 = .ok (.getfield 40, 3) := dk_180 0 40 (dk_at dksX5_simplifies_1 1 rfl rfl)
theorem dX5_simplifies_28 : decode cX5_simplifies 28 = .ok (.iload_n 2, 1) := dk_28 (dk_at dksX5_simplifies_1 4 rfl rfl)
theorem dX5_simplifies_29 : decode cX5_simplifies 29 = .ok (.iaload, 1) := dk_46 (dk_at dksX5_simplifies_1 5 rfl rfl)
theorem dX5_simplifies_30 : decode cX5_simplifies 30 = .ok (.invokevirtual 391, 3) := dk_182 1 135 (dk_at dksX5_simplifies_1 6 rfl rfl)
theorem dX5_simplifies_33 : decode cX5_simplifies 33 = .ok (.istore 4, 2) := dk_54 4 (dk_at dksX5_simplifies_1 9 rfl rfl)
theorem dX5_simplifies_35 : decode cX5_simplifies 35 = .ok (.aload_n 0, 1) := dk_42 (dk_at dksX5_simplifies_1 11 rfl rfl)
theorem dX5_simplifies_36 : decode cX5_simplifies 36 = .ok (.getfield 368, 3) := dk_180 1 112 (dk_at dksX5_simplifies_1 12 rfl rfl)
theorem dX5_simplifies_39 : decode cX5_simplifies 39 = .ok (.istore 5, 2) := dk_54 5 (dk_at dksX5_simplifies_1 15 rfl rfl)
theorem dX5_simplifies_41 : decode cX5_simplifies 41 = .ok (.iload 4, 2) := dk_21 4 (dk_at dksX5_simplifies_1 17 rfl rfl)
theorem dX5_simplifies_43 : decode cX5_simplifies 43 = .ok (.ifCond .eq 22, 3) := dk_153 0 22 (dk_at dksX5_simplifies_1 19 rfl rfl)
theorem dX5_simplifies_46 : decode cX5_simplifies 46 = .ok (.aload_n 0, 1) := dk_42 (dk_at dksX5_simplifies_1 22 rfl rfl)
theorem dX5_simplifies_47 : decode cX5_simplifies 47 = .ok (.getfield 28, 3) := dk_180 0 28 (dk_at dksX5_simplifies_2 0 rfl rfl)
theorem dX5_simplifies_50 : decode cX5_simplifies 50 = .ok (.iload_n 2, 1) := dk_28 (dk_at dksX5_simplifies_2 3 rfl rfl)
theorem dX5_simplifies_51 : decode cX5_simplifies 51 = .ok (.iaload, 1) := dk_46 (dk_at dksX5_simplifies_2 4 rfl rfl)
theorem dX5_simplifies_52 : decode cX5_simplifies 52 = .ok (.iconst 5, 1) := dk_8 (dk_at dksX5_simplifies_2 5 rfl rfl)
theorem dX5_simplifies_53 : decode cX5_simplifies 53 = .ok (.if_icmp .ne 32, 3) := dk_160 0 32 (dk_at dksX5_simplifies_2 6 rfl rfl)
theorem dX5_simplifies_56 : decode cX5_simplifies 56 = .ok (.aload_n 0, 1) := dk_42 (dk_at dksX5_simplifies_2 9 rfl rfl)
theorem dX5_simplifies_57 : decode cX5_simplifies 57 = .ok (.getfield 31, 3) := dk_180 0 31 (dk_at dksX5_simplifies_2 10 rfl rfl)
theorem dX5_simplifies_60 : decode cX5_simplifies 60 = .ok (.iload_n 2, 1) := dk_28 (dk_at dksX5_simplifies_2 13 rfl rfl)
theorem dX5_simplifies_61 : decode cX5_simplifies 61 = .ok (.iaload, 1) := dk_46 (dk_at dksX5_simplifies_2 14 rfl rfl)
theorem dX5_simplifies_62 : decode cX5_simplifies 62 = .ok (.ifCond .ne 23, 3) := dk_154 0 23 (dk_at dksX5_simplifies_2 15 rfl rfl)
theorem dX5_simplifies_65 : decode cX5_simplifies 65 = .ok (.aload_n 0, 1) := dk_42 (dk_at dksX5_simplifies_2 18 rfl rfl)
theorem dX5_simplifies_66 : decode cX5_simplifies 66 = .ok (.getfield 81, 3) := dk_180 0 81 (dk_at dksX5_simplifies_2 19 rfl rfl)
theorem dX5_simplifies_69 : decode cX5_simplifies 69 = .ok (.iload_n 3, 1) := dk_29 (dk_at dksX5_simplifies_2 22 rfl rfl)
theorem dX5_simplifies_70 : decode cX5_simplifies 70 = .ok (.iconst 1, 1) := dk_4 (dk_at dksX5_simplifies_2 23 rfl rfl)
theorem dX5_simplifies_71 : decode cX5_simplifies 71 = .ok (.bastore, 1) := dk_84 (dk_at dksX5_simplifies_3 0 rfl rfl)
theorem dX5_simplifies_72 : decode cX5_simplifies 72 = .ok (.aload_n 0, 1) := dk_42 (dk_at dksX5_simplifies_3 1 rfl rfl)
theorem dX5_simplifies_73 : decode cX5_simplifies 73 = .ok (.dup, 1) := dk_89 (dk_at dksX5_simplifies_3 2 rfl rfl)
theorem dX5_simplifies_74 : decode cX5_simplifies 74 = .ok (.getfield 394, 3) := dk_180 1 138 (dk_at dksX5_simplifies_3 3 rfl rfl)
theorem dX5_simplifies_77 : decode cX5_simplifies 77 = .ok (.iconst 1, 1) := dk_4 (dk_at dksX5_simplifies_3 6 rfl rfl)
theorem dX5_simplifies_78 : decode cX5_simplifies 78 = .ok (.iadd, 1) := dk_96 (dk_at dksX5_simplifies_3 7 rfl rfl)
theorem dX5_simplifies_79 : decode cX5_simplifies 79 = .ok (.putfield 394, 3) := dk_181 1 138 (dk_at dksX5_simplifies_3 8 rfl rfl)
theorem dX5_simplifies_82 : decode cX5_simplifies 82 = .ok (.goto 211, 3) := dk_167 0 211 (dk_at dksX5_simplifies_3 11 rfl rfl)
theorem dX5_simplifies_85 : decode cX5_simplifies 85 = .ok (.aload_n 0, 1) := dk_42 (dk_at dksX5_simplifies_3 14 rfl rfl)
theorem dX5_simplifies_86 : decode cX5_simplifies 86 = .ok (.getfield 28, 3) := dk_180 0 28 (dk_at dksX5_simplifies_3 15 rfl rfl)
theorem dX5_simplifies_89 : decode cX5_simplifies 89 = .ok (.iload_n 2, 1) := dk_28 (dk_at dksX5_simplifies_3 18 rfl rfl)
theorem dX5_simplifies_90 : decode cX5_simplifies 90 = .ok (.iaload, 1) := dk_46 (dk_at dksX5_simplifies_3 19 rfl rfl)
theorem dX5_simplifies_91 : decode cX5_simplifies 91 = .ok (.iconst 4, 1) := dk_7 (dk_at dksX5_simplifies_3 20 rfl rfl)
theorem dX5_simplifies_92 : decode cX5_simplifies 92 = .ok (.if_icmp .ne 12, 3) := dk_160 0 12 (dk_at dksX5_simplifies_3 21 rfl rfl)
theorem dX5_simplifies_95 : decode cX5_simplifies 95 = .ok (.aload_n 0, 1) := dk_42 (dk_at dksX5_simplifies_4 0 rfl rfl)
theorem dX5_simplifies_96 : decode cX5_simplifies 96 = .ok (.getfield 31, 3) := dk_180 0 31 (dk_at dksX5_simplifies_4 1 rfl rfl)
theorem dX5_simplifies_99 : decode cX5_simplifies 99 = .ok (.iload_n 2, 1) := dk_28 (dk_at dksX5_simplifies_4 4 rfl rfl)
theorem dX5_simplifies_100 : decode cX5_simplifies 100 = .ok (.iaload, 1) := dk_46 (dk_at dksX5_simplifies_4 5 rfl rfl)
theorem dX5_simplifies_101 : decode cX5_simplifies 101 = .ok (.ifCond .eq 23, 3) := dk_153 0 23 (dk_at dksX5_simplifies_4 6 rfl rfl)
theorem dX5_simplifies_104 : decode cX5_simplifies 104 = .ok (.aload_n 0, 1) := dk_42 (dk_at dksX5_simplifies_4 9 rfl rfl)
theorem dX5_simplifies_105 : decode cX5_simplifies 105 = .ok (.getfield 28, 3) := dk_180 0 28 (dk_at dksX5_simplifies_4 10 rfl rfl)
theorem dX5_simplifies_108 : decode cX5_simplifies 108 = .ok (.iload_n 2, 1) := dk_28 (dk_at dksX5_simplifies_4 13 rfl rfl)
theorem dX5_simplifies_109 : decode cX5_simplifies 109 = .ok (.iaload, 1) := dk_46 (dk_at dksX5_simplifies_4 14 rfl rfl)
theorem dX5_simplifies_110 : decode cX5_simplifies 110 = .ok (.iconst 5, 1) := dk_8 (dk_at dksX5_simplifies_4 15 rfl rfl)
theorem dX5_simplifies_111 : decode cX5_simplifies 111 = .ok (.if_icmp .ne 33, 3) := dk_160 0 33 (dk_at dksX5_simplifies_4 16 rfl rfl)
theorem dX5_simplifies_114 : decode cX5_simplifies 114 = .ok (.aload_n 0, 1) := dk_42 (dk_at dksX5_simplifies_4 19 rfl rfl)
theorem dX5_simplifies_115 : decode cX5_simplifies 115 = .ok (.getfield 31, 3) := dk_180 0 31 (dk_at dksX5_simplifies_4 20 rfl rfl)
theorem dX5_simplifies_118 : decode cX5_simplifies 118 = .ok (.iload_n 2, 1) := dk_28 (dk_at dksX5_simplifies_4 23 rfl rfl)
theorem dX5_simplifies_119 : decode cX5_simplifies 119 = .ok (.iaload, 1) := dk_46 (dk_at dksX5_simplifies_5 0 rfl rfl)
theorem dX5_simplifies_120 : decode cX5_simplifies 120 = .ok (.iconst 1, 1) := dk_4 (dk_at dksX5_simplifies_5 1 rfl rfl)
theorem dX5_simplifies_121 : decode cX5_simplifies 121 = .ok (.if_icmp .ne 23, 3) := dk_160 0 23 (dk_at dksX5_simplifies_5 2 rfl rfl)
theorem dX5_simplifies_124 : decode cX5_simplifies 124 = .ok (.aload_n 0, 1) := dk_42 (dk_at dksX5_simplifies_5 5 rfl rfl)
theorem dX5_simplifies_125 : decode cX5_simplifies 125 = .ok (.getfield 85, 3) := dk_180 0 85 (dk_at dksX5_simplifies_5 6 rfl rfl)
theorem dX5_simplifies_128 : decode cX5_simplifies 128 = .ok (.iload_n 3, 1) := dk_29 (dk_at dksX5_simplifies_5 9 rfl rfl)
theorem dX5_simplifies_129 : decode cX5_simplifies 129 = .ok (.iconst 1, 1) := dk_4 (dk_at dksX5_simplifies_5 10 rfl rfl)
theorem dX5_simplifies_130 : decode cX5_simplifies 130 = .ok (.bastore, 1) := dk_84 (dk_at dksX5_simplifies_5 11 rfl rfl)
theorem dX5_simplifies_131 : decode cX5_simplifies 131 = .ok (.aload_n 0, 1) := dk_42 (dk_at dksX5_simplifies_5 12 rfl rfl)
theorem dX5_simplifies_132 : decode cX5_simplifies 132 = .ok (.dup, 1) := dk_89 (dk_at dksX5_simplifies_5 13 rfl rfl)
theorem dX5_simplifies_133 : decode cX5_simplifies 133 = .ok (.getfield 394, 3) := dk_180 1 138 (dk_at dksX5_simplifies_5 14 rfl rfl)
theorem dX5_simplifies_136 : decode cX5_simplifies 136 = .ok (.iconst 1, 1) := dk_4 (dk_at dksX5_simplifies_5 17 rfl rfl)
theorem dX5_simplifies_137 : decode cX5_simplifies 137 = .ok (.iadd, 1) := dk_96 (dk_at dksX5_simplifies_5 18 rfl rfl)
theorem dX5_simplifies_138 : decode cX5_simplifies 138 = .ok (.putfield 394, 3) := dk_181 1 138 (dk_at dksX5_simplifies_5 19 rfl rfl)
theorem dX5_simplifies_141 : decode cX5_simplifies 141 = .ok (.goto 152, 3) := dk_167 0 152 (dk_at dksX5_simplifies_6 0 rfl rfl)
theorem dX5_simplifies_144 : decode cX5_simplifies 144 = .ok (.aload_n 0, 1) := dk_42 (dk_at dksX5_simplifies_6 3 rfl rfl)
theorem dX5_simplifies_145 : decode cX5_simplifies 145 = .ok (.getfield 28, 3) := dk_180 0 28 (dk_at dksX5_simplifies_6 4 rfl rfl)
theorem dX5_simplifies_148 : decode cX5_simplifies 148 = .ok (.iload_n 2, 1) := dk_28 (dk_at dksX5_simplifies_6 7 rfl rfl)
theorem dX5_simplifies_149 : decode cX5_simplifies 149 = .ok (.iaload, 1) := dk_46 (dk_at dksX5_simplifies_6 8 rfl rfl)
theorem dX5_simplifies_150 : decode cX5_simplifies 150 = .ok (.iconst 4, 1) := dk_7 (dk_at dksX5_simplifies_6 9 rfl rfl)
theorem dX5_simplifies_151 : decode cX5_simplifies 151 = .ok (.if_icmp .ne 67, 3) := dk_160 0 67 (dk_at dksX5_simplifies_6 10 rfl rfl)
theorem dX5_simplifies_154 : decode cX5_simplifies 154 = .ok (.iload 4, 2) := dk_21 4 (dk_at dksX5_simplifies_6 13 rfl rfl)
theorem dX5_simplifies_156 : decode cX5_simplifies 156 = .ok (.iconst 1, 1) := dk_4 (dk_at dksX5_simplifies_6 15 rfl rfl)
theorem dX5_simplifies_157 : decode cX5_simplifies 157 = .ok (.if_icmp .ne 61, 3) := dk_160 0 61 (dk_at dksX5_simplifies_6 16 rfl rfl)
theorem dX5_simplifies_160 : decode cX5_simplifies 160 = .ok (.aload_n 0, 1) := dk_42 (dk_at dksX5_simplifies_6 19 rfl rfl)
theorem dX5_simplifies_161 : decode cX5_simplifies 161 = .ok (.getfield 28, 3) := dk_180 0 28 (dk_at dksX5_simplifies_6 20 rfl rfl)
theorem dX5_simplifies_164 : decode cX5_simplifies 164 = .ok (.iload 5, 2) := dk_21 5 (dk_at dksX5_simplifies_7 0 rfl rfl)
theorem dX5_simplifies_166 : decode cX5_simplifies 166 = .ok (.iaload, 1) := dk_46 (dk_at dksX5_simplifies_7 2 rfl rfl)
theorem dX5_simplifies_167 : decode cX5_simplifies 167 = .ok (.iconst 4, 1) := dk_7 (dk_at dksX5_simplifies_7 3 rfl rfl)
theorem dX5_simplifies_168 : decode cX5_simplifies 168 = .ok (.if_icmp .ne 50, 3) := dk_160 0 50 (dk_at dksX5_simplifies_7 4 rfl rfl)
theorem dX5_simplifies_171 : decode cX5_simplifies 171 = .ok (.aload_n 0, 1) := dk_42 (dk_at dksX5_simplifies_7 7 rfl rfl)
theorem dX5_simplifies_172 : decode cX5_simplifies 172 = .ok (.getfield 88, 3) := dk_180 0 88 (dk_at dksX5_simplifies_7 8 rfl rfl)
theorem dX5_simplifies_175 : decode cX5_simplifies 175 = .ok (.iload_n 3, 1) := dk_29 (dk_at dksX5_simplifies_7 11 rfl rfl)
theorem dX5_simplifies_176 : decode cX5_simplifies 176 = .ok (.dup2, 1) := dk_92 (dk_at dksX5_simplifies_7 12 rfl rfl)
theorem dX5_simplifies_177 : decode cX5_simplifies 177 = .ok (.iaload, 1) := dk_46 (dk_at dksX5_simplifies_7 13 rfl rfl)
theorem dX5_simplifies_178 : decode cX5_simplifies 178 = .ok (.aload_n 0, 1) := dk_42 (dk_at dksX5_simplifies_7 14 rfl rfl)
theorem dX5_simplifies_179 : decode cX5_simplifies 179 = .ok (.getfield 88, 3) := dk_180 0 88 (dk_at dksX5_simplifies_7 15 rfl rfl)
theorem dX5_simplifies_182 : decode cX5_simplifies 182 = .ok (.iload 5, 2) := dk_21 5 (dk_at dksX5_simplifies_7 18 rfl rfl)
theorem dX5_simplifies_184 : decode cX5_simplifies 184 = .ok (.bipush 96, 2) := dk_16 96 (dk_at dksX5_simplifies_7 20 rfl rfl)
theorem dX5_simplifies_186 : decode cX5_simplifies 186 = .ok (.iload_n 1, 1) := dk_27 (dk_at dksX5_simplifies_7 22 rfl rfl)
theorem dX5_simplifies_187 : decode cX5_simplifies 187 = .ok (.imul, 1) := dk_104 (dk_at dksX5_simplifies_7 23 rfl rfl)
theorem dX5_simplifies_188 : decode cX5_simplifies 188 = .ok (.isub, 1) := dk_100 (dk_at dksX5_simplifies_8 0 rfl rfl)
theorem dX5_simplifies_189 : decode cX5_simplifies 189 = .ok (.iaload, 1) := dk_46 (dk_at dksX5_simplifies_8 1 rfl rfl)
theorem dX5_simplifies_190 : decode cX5_simplifies 190 = .ok (.iadd, 1) := dk_96 (dk_at dksX5_simplifies_8 2 rfl rfl)
theorem dX5_simplifies_191 : decode cX5_simplifies 191 = .ok (.iastore, 1) := dk_79 (dk_at dksX5_simplifies_8 3 rfl rfl)
theorem dX5_simplifies_192 : decode cX5_simplifies 192 = .ok (.aload_n 0, 1) := dk_42 (dk_at dksX5_simplifies_8 4 rfl rfl)
theorem dX5_simplifies_193 : decode cX5_simplifies 193 = .ok (.getfield 85, 3) := dk_180 0 85 (dk_at dksX5_simplifies_8 5 rfl rfl)
theorem dX5_simplifies_196 : decode cX5_simplifies 196 = .ok (.iload 5, 2) := dk_21 5 (dk_at dksX5_simplifies_8 8 rfl rfl)
theorem dX5_simplifies_198 : decode cX5_simplifies 198 = .ok (.bipush 96, 2) := dk_16 96 (dk_at dksX5_simplifies_8 10 rfl rfl)
theorem dX5_simplifies_200 : decode cX5_simplifies 200 = .ok (.iload_n 1, 1) := dk_27 (dk_at dksX5_simplifies_8 12 rfl rfl)
theorem dX5_simplifies_201 : decode cX5_simplifies 201 = .ok (.imul, 1) := dk_104 (dk_at dksX5_simplifies_8 13 rfl rfl)
theorem dX5_simplifies_202 : decode cX5_simplifies 202 = .ok (.isub, 1) := dk_100 (dk_at dksX5_simplifies_8 14 rfl rfl)
theorem dX5_simplifies_203 : decode cX5_simplifies 203 = .ok (.iconst 1, 1) := dk_4 (dk_at dksX5_simplifies_8 15 rfl rfl)
theorem dX5_simplifies_204 : decode cX5_simplifies 204 = .ok (.bastore, 1) := dk_84 (dk_at dksX5_simplifies_8 16 rfl rfl)
theorem dX5_simplifies_205 : decode cX5_simplifies 205 = .ok (.aload_n 0, 1) := dk_42 (dk_at dksX5_simplifies_8 17 rfl rfl)
theorem dX5_simplifies_206 : decode cX5_simplifies 206 = .ok (.dup, 1) := dk_89 (dk_at dksX5_simplifies_8 18 rfl rfl)
theorem dX5_simplifies_207 : decode cX5_simplifies 207 = .ok (.getfield 394, 3) := dk_180 1 138 (dk_at dksX5_simplifies_8 19 rfl rfl)
theorem dX5_simplifies_210 : decode cX5_simplifies 210 = .ok (.iconst 1, 1) := dk_4 (dk_at dksX5_simplifies_8 22 rfl rfl)
theorem dX5_simplifies_211 : decode cX5_simplifies 211 = .ok (.iadd, 1) := dk_96 (dk_at dksX5_simplifies_8 23 rfl rfl)
theorem dX5_simplifies_212 : decode cX5_simplifies 212 = .ok (.putfield 394, 3) := dk_181 1 138 (dk_at dksX5_simplifies_9 0 rfl rfl)
theorem dX5_simplifies_215 : decode cX5_simplifies 215 = .ok (.goto 78, 3) := dk_167 0 78 (dk_at dksX5_simplifies_9 3 rfl rfl)
theorem dX5_simplifies_218 : decode cX5_simplifies 218 = .ok (.aload_n 0, 1) := dk_42 (dk_at dksX5_simplifies_9 6 rfl rfl)
theorem dX5_simplifies_219 : decode cX5_simplifies 219 = .ok (.getfield 28, 3) := dk_180 0 28 (dk_at dksX5_simplifies_9 7 rfl rfl)
theorem dX5_simplifies_222 : decode cX5_simplifies 222 = .ok (.iload_n 2, 1) := dk_28 (dk_at dksX5_simplifies_9 10 rfl rfl)
theorem dX5_simplifies_223 : decode cX5_simplifies 223 = .ok (.iaload, 1) := dk_46 (dk_at dksX5_simplifies_9 11 rfl rfl)
theorem dX5_simplifies_224 : decode cX5_simplifies 224 = .ok (.bipush 6, 2) := dk_16 6 (dk_at dksX5_simplifies_9 12 rfl rfl)
theorem dX5_simplifies_226 : decode cX5_simplifies 226 = .ok (.if_icmp .lt 67, 3) := dk_161 0 67 (dk_at dksX5_simplifies_9 14 rfl rfl)
theorem dX5_simplifies_229 : decode cX5_simplifies 229 = .ok (.aload_n 0, 1) := dk_42 (dk_at dksX5_simplifies_9 17 rfl rfl)
theorem dX5_simplifies_230 : decode cX5_simplifies 230 = .ok (.iload_n 1, 1) := dk_27 (dk_at dksX5_simplifies_9 18 rfl rfl)
theorem dX5_simplifies_231 : decode cX5_simplifies 231 = .ok (.iload_n 2, 1) := dk_28 (dk_at dksX5_simplifies_9 19 rfl rfl)
theorem dX5_simplifies_232 : decode cX5_simplifies 232 = .ok (.invokevirtual 397, 3) := dk_182 1 141 (dk_at dksX5_simplifies_9 20 rfl rfl)
theorem dX5_simplifies_235 : decode cX5_simplifies 235 = .ok (.ifCond .eq 58, 3) := dk_153 0 58 (dk_at dksX5_simplifies_10 0 rfl rfl)
theorem dX5_simplifies_238 : decode cX5_simplifies 238 = .ok (.aload_n 0, 1) := dk_42 (dk_at dksX5_simplifies_10 3 rfl rfl)
theorem dX5_simplifies_239 : decode cX5_simplifies 239 = .ok (.getfield 85, 3) := dk_180 0 85 (dk_at dksX5_simplifies_10 4 rfl rfl)
theorem dX5_simplifies_242 : decode cX5_simplifies 242 = .ok (.iload_n 3, 1) := dk_29 (dk_at dksX5_simplifies_10 7 rfl rfl)
theorem dX5_simplifies_243 : decode cX5_simplifies 243 = .ok (.iconst 1, 1) := dk_4 (dk_at dksX5_simplifies_10 8 rfl rfl)
theorem dX5_simplifies_244 : decode cX5_simplifies 244 = .ok (.bastore, 1) := dk_84 (dk_at dksX5_simplifies_10 9 rfl rfl)
theorem dX5_simplifies_245 : decode cX5_simplifies 245 = .ok (.aload_n 0, 1) := dk_42 (dk_at dksX5_simplifies_10 10 rfl rfl)
theorem dX5_simplifies_246 : decode cX5_simplifies 246 = .ok (.getfield 43, 3) := dk_180 0 43 (dk_at dksX5_simplifies_10 11 rfl rfl)
theorem dX5_simplifies_249 : decode cX5_simplifies 249 = .ok (.iload_n 2, 1) := dk_28 (dk_at dksX5_simplifies_10 14 rfl rfl)
theorem dX5_simplifies_250 : decode cX5_simplifies 250 = .ok (.iaload, 1) := dk_46 (dk_at dksX5_simplifies_10 15 rfl rfl)
theorem dX5_simplifies_251 : decode cX5_simplifies 251 = .ok (.istore 6, 2) := dk_54 6 (dk_at dksX5_simplifies_10 16 rfl rfl)
theorem dX5_simplifies_253 : decode cX5_simplifies 253 = .ok (.iload 6, 2) := dk_21 6 (dk_at dksX5_simplifies_10 18 rfl rfl)
theorem dX5_simplifies_255 : decode cX5_simplifies 255 = .ok (.aload_n 0, 1) := dk_42 (dk_at dksX5_simplifies_10 20 rfl rfl)
theorem dX5_simplifies_256 : decode cX5_simplifies 256 = .ok (.getfield 40, 3) := dk_180 0 40 (dk_at dksX5_simplifies_10 21 rfl rfl)
theorem dX5_simplifies_259 : decode cX5_simplifies 259 = .ok (.iload_n 2, 1) := dk_28 (dk_at dksX5_simplifies_11 0 rfl rfl)
theorem dX5_simplifies_260 : decode cX5_simplifies 260 = .ok (.iaload, 1) := dk_46 (dk_at dksX5_simplifies_11 1 rfl rfl)
theorem dX5_simplifies_261 : decode cX5_simplifies 261 = .ok (.if_icmp .ge 22, 3) := dk_162 0 22 (dk_at dksX5_simplifies_11 2 rfl rfl)
theorem dX5_simplifies_264 : decode cX5_simplifies 264 = .ok (.aload_n 0, 1) := dk_42 (dk_at dksX5_simplifies_11 5 rfl rfl)
theorem dX5_simplifies_265 : decode cX5_simplifies 265 = .ok (.getfield 81, 3) := dk_180 0 81 (dk_at dksX5_simplifies_11 6 rfl rfl)
theorem dX5_simplifies_268 : decode cX5_simplifies 268 = .ok (.iload 6, 2) := dk_21 6 (dk_at dksX5_simplifies_11 9 rfl rfl)
theorem dX5_simplifies_270 : decode cX5_simplifies 270 = .ok (.bipush 96, 2) := dk_16 96 (dk_at dksX5_simplifies_11 11 rfl rfl)
theorem dX5_simplifies_272 : decode cX5_simplifies 272 = .ok (.iload_n 1, 1) := dk_27 (dk_at dksX5_simplifies_11 13 rfl rfl)
theorem dX5_simplifies_273 : decode cX5_simplifies 273 = .ok (.imul, 1) := dk_104 (dk_at dksX5_simplifies_11 14 rfl rfl)
theorem dX5_simplifies_274 : decode cX5_simplifies 274 = .ok (.isub, 1) := dk_100 (dk_at dksX5_simplifies_11 15 rfl rfl)
theorem dX5_simplifies_275 : decode cX5_simplifies 275 = .ok (.iconst 1, 1) := dk_4 (dk_at dksX5_simplifies_11 16 rfl rfl)
theorem dX5_simplifies_276 : decode cX5_simplifies 276 = .ok (.bastore, 1) := dk_84 (dk_at dksX5_simplifies_11 17 rfl rfl)
theorem dX5_simplifies_277 : decode cX5_simplifies 277 = .ok (.iinc 6 1, 3) := dk_132 6 1 (dk_at dksX5_simplifies_11 18 rfl rfl)
theorem dX5_simplifies_280 : decode cX5_simplifies 280 = .ok (.goto (-27), 3) := dk_167 255 229 (dk_at dksX5_simplifies_11 21 rfl rfl)
theorem dX5_simplifies_283 : decode cX5_simplifies 283 = .ok (.aload_n 0, 1) := dk_42 (dk_at dksX5_simplifies_12 0 rfl rfl)
theorem dX5_simplifies_284 : decode cX5_simplifies 284 = .ok (.dup, 1) := dk_89 (dk_at dksX5_simplifies_12 1 rfl rfl)
theorem dX5_simplifies_285 : decode cX5_simplifies 285 = .ok (.getfield 394, 3) := dk_180 1 138 (dk_at dksX5_simplifies_12 2 rfl rfl)
theorem dX5_simplifies_288 : decode cX5_simplifies 288 = .ok (.iconst 1, 1) := dk_4 (dk_at dksX5_simplifies_12 5 rfl rfl)
theorem dX5_simplifies_289 : decode cX5_simplifies 289 = .ok (.iadd, 1) := dk_96 (dk_at dksX5_simplifies_12 6 rfl rfl)
theorem dX5_simplifies_290 : decode cX5_simplifies 290 = .ok (.putfield 394, 3) := dk_181 1 138 (dk_at dksX5_simplifies_12 7 rfl rfl)
theorem dX5_simplifies_293 : decode cX5_simplifies 293 = .ok (.return_, 1) := dk_177 (dk_at dksX5_simplifies_12 10 rfl rfl)
abbrev cX5_partsLeft : ByteArray := prog_24_method_33_code
def yX5_partsLeft : MethodName := ⟨RX5, "partsLeft", "(III)I"⟩
def dkwX5_partsLeft_4 : List UInt8 := [54, 4, 167, 255, 169, 42, 180, 1, 109, 172]
abbrev dktX5_partsLeft_4 : List UInt8 := dkwX5_partsLeft_4 ++ []
def dkwX5_partsLeft_3 : List UInt8 := [180, 0, 85, 21, 5, 51, 154, 0, 13, 42, 180, 0, 40, 21, 4, 46, 167, 0, 7, 21, 4, 4, 96]
abbrev dktX5_partsLeft_3 : List UInt8 := dkwX5_partsLeft_3 ++ dktX5_partsLeft_4
def dkwX5_partsLeft_2 : List UInt8 := [4, 96, 181, 1, 109, 42, 21, 4, 181, 1, 112, 42, 180, 0, 81, 21, 5, 51, 154, 0, 13, 42]
abbrev dktX5_partsLeft_2 : List UInt8 := dkwX5_partsLeft_2 ++ dktX5_partsLeft_3
def dkwX5_partsLeft_1 : List UInt8 := [180, 0, 81, 21, 5, 51, 154, 0, 29, 42, 180, 0, 85, 21, 5, 51, 154, 0, 19, 42, 89, 180, 1, 109]
abbrev dktX5_partsLeft_1 : List UInt8 := dkwX5_partsLeft_1 ++ dktX5_partsLeft_2
def dkwX5_partsLeft_0 : List UInt8 := [42, 3, 181, 1, 109, 28, 54, 4, 21, 4, 29, 162, 0, 87, 21, 4, 16, 96, 27, 104, 100, 54, 5, 42]
abbrev dktX5_partsLeft_0 : List UInt8 := dkwX5_partsLeft_0 ++ dktX5_partsLeft_1
theorem dksX5_partsLeft_0 : cX5_partsLeft.data.toList.drop 0 = dktX5_partsLeft_0 := by decide +kernel
theorem dksX5_partsLeft_1 : cX5_partsLeft.data.toList.drop 24 = dktX5_partsLeft_1 := dk_seg dksX5_partsLeft_0 24 rfl rfl
theorem dksX5_partsLeft_2 : cX5_partsLeft.data.toList.drop 48 = dktX5_partsLeft_2 := dk_seg dksX5_partsLeft_1 24 rfl rfl
theorem dksX5_partsLeft_3 : cX5_partsLeft.data.toList.drop 70 = dktX5_partsLeft_3 := dk_seg dksX5_partsLeft_2 22 rfl rfl
theorem dksX5_partsLeft_4 : cX5_partsLeft.data.toList.drop 93 = dktX5_partsLeft_4 := dk_seg dksX5_partsLeft_3 23 rfl rfl
theorem dX5_partsLeft_0 : decode cX5_partsLeft 0 = .ok (.aload_n 0, 1) := dk_42 (dk_at dksX5_partsLeft_0 0 rfl rfl)
theorem dX5_partsLeft_1 : decode cX5_partsLeft 1 = .ok (.iconst 0, 1) := dk_3 (dk_at dksX5_partsLeft_0 1 rfl rfl)
theorem dX5_partsLeft_2 : decode cX5_partsLeft 2 = .ok (.putfield 365, 3) := dk_181 1 109 (dk_at dksX5_partsLeft_0 2 rfl rfl)
theorem dX5_partsLeft_5 : decode cX5_partsLeft 5 = .ok (.iload_n 2, 1) := dk_28 (dk_at dksX5_partsLeft_0 5 rfl rfl)
theorem dX5_partsLeft_6 : decode cX5_partsLeft 6 = .ok (.istore 4, 2) := dk_54 4 (dk_at dksX5_partsLeft_0 6 rfl rfl)
theorem dX5_partsLeft_8 : decode cX5_partsLeft 8 = .ok (.iload 4, 2) := dk_21 4 (dk_at dksX5_partsLeft_0 8 rfl rfl)
theorem dX5_partsLeft_10 : decode cX5_partsLeft 10 = .ok (.iload_n 3, 1) := dk_29 (dk_at dksX5_partsLeft_0 10 rfl rfl)
theorem dX5_partsLeft_11 : decode cX5_partsLeft 11 = .ok (.if_icmp .ge 87, 3) := dk_162 0 87 (dk_at dksX5_partsLeft_0 11 rfl rfl)
theorem dX5_partsLeft_14 : decode cX5_partsLeft 14 = .ok (.iload 4, 2) := dk_21 4 (dk_at dksX5_partsLeft_0 14 rfl rfl)
theorem dX5_partsLeft_16 : decode cX5_partsLeft 16 = .ok (.bipush 96, 2) := dk_16 96 (dk_at dksX5_partsLeft_0 16 rfl rfl)
theorem dX5_partsLeft_18 : decode cX5_partsLeft 18 = .ok (.iload_n 1, 1) := dk_27 (dk_at dksX5_partsLeft_0 18 rfl rfl)
theorem dX5_partsLeft_19 : decode cX5_partsLeft 19 = .ok (.imul, 1) := dk_104 (dk_at dksX5_partsLeft_0 19 rfl rfl)
theorem dX5_partsLeft_20 : decode cX5_partsLeft 20 = .ok (.isub, 1) := dk_100 (dk_at dksX5_partsLeft_0 20 rfl rfl)
theorem dX5_partsLeft_21 : decode cX5_partsLeft 21 = .ok (.istore 5, 2) := dk_54 5 (dk_at dksX5_partsLeft_0 21 rfl rfl)
theorem dX5_partsLeft_23 : decode cX5_partsLeft 23 = .ok (.aload_n 0, 1) := dk_42 (dk_at dksX5_partsLeft_0 23 rfl rfl)
theorem dX5_partsLeft_24 : decode cX5_partsLeft 24 = .ok (.getfield 81, 3) := dk_180 0 81 (dk_at dksX5_partsLeft_1 0 rfl rfl)
theorem dX5_partsLeft_27 : decode cX5_partsLeft 27 = .ok (.iload 5, 2) := dk_21 5 (dk_at dksX5_partsLeft_1 3 rfl rfl)
theorem dX5_partsLeft_29 : decode cX5_partsLeft 29 = .ok (.baload, 1) := dk_51 (dk_at dksX5_partsLeft_1 5 rfl rfl)
theorem dX5_partsLeft_30 : decode cX5_partsLeft 30 = .ok (.ifCond .ne 29, 3) := dk_154 0 29 (dk_at dksX5_partsLeft_1 6 rfl rfl)
theorem dX5_partsLeft_33 : decode cX5_partsLeft 33 = .ok (.aload_n 0, 1) := dk_42 (dk_at dksX5_partsLeft_1 9 rfl rfl)
theorem dX5_partsLeft_34 : decode cX5_partsLeft 34 = .ok (.getfield 85, 3) := dk_180 0 85 (dk_at dksX5_partsLeft_1 10 rfl rfl)
theorem dX5_partsLeft_37 : decode cX5_partsLeft 37 = .ok (.iload 5, 2) := dk_21 5 (dk_at dksX5_partsLeft_1 13 rfl rfl)
theorem dX5_partsLeft_39 : decode cX5_partsLeft 39 = .ok (.baload, 1) := dk_51 (dk_at dksX5_partsLeft_1 15 rfl rfl)
theorem dX5_partsLeft_40 : decode cX5_partsLeft 40 = .ok (.ifCond .ne 19, 3) := dk_154 0 19 (dk_at dksX5_partsLeft_1 16 rfl rfl)
theorem dX5_partsLeft_43 : decode cX5_partsLeft 43 = .ok (.aload_n 0, 1) := dk_42 (dk_at dksX5_partsLeft_1 19 rfl rfl)
theorem dX5_partsLeft_44 : decode cX5_partsLeft 44 = .ok (.dup, 1) := dk_89 (dk_at dksX5_partsLeft_1 20 rfl rfl)
theorem dX5_partsLeft_45 : decode cX5_partsLeft 45 = .ok (.getfield 365, 3) := dk_180 1 109 (dk_at dksX5_partsLeft_1 21 rfl rfl)
theorem dX5_partsLeft_48 : decode cX5_partsLeft 48 = .ok (.iconst 1, 1) := dk_4 (dk_at dksX5_partsLeft_2 0 rfl rfl)
theorem dX5_partsLeft_49 : decode cX5_partsLeft 49 = .ok (.iadd, 1) := dk_96 (dk_at dksX5_partsLeft_2 1 rfl rfl)
theorem dX5_partsLeft_50 : decode cX5_partsLeft 50 = .ok (.putfield 365, 3) := dk_181 1 109 (dk_at dksX5_partsLeft_2 2 rfl rfl)
theorem dX5_partsLeft_53 : decode cX5_partsLeft 53 = .ok (.aload_n 0, 1) := dk_42 (dk_at dksX5_partsLeft_2 5 rfl rfl)
theorem dX5_partsLeft_54 : decode cX5_partsLeft 54 = .ok (.iload 4, 2) := dk_21 4 (dk_at dksX5_partsLeft_2 6 rfl rfl)
theorem dX5_partsLeft_56 : decode cX5_partsLeft 56 = .ok (.putfield 368, 3) := dk_181 1 112 (dk_at dksX5_partsLeft_2 8 rfl rfl)
theorem dX5_partsLeft_59 : decode cX5_partsLeft 59 = .ok (.aload_n 0, 1) := dk_42 (dk_at dksX5_partsLeft_2 11 rfl rfl)
theorem dX5_partsLeft_60 : decode cX5_partsLeft 60 = .ok (.getfield 81, 3) := dk_180 0 81 (dk_at dksX5_partsLeft_2 12 rfl rfl)
theorem dX5_partsLeft_63 : decode cX5_partsLeft 63 = .ok (.iload 5, 2) := dk_21 5 (dk_at dksX5_partsLeft_2 15 rfl rfl)
theorem dX5_partsLeft_65 : decode cX5_partsLeft 65 = .ok (.baload, 1) := dk_51 (dk_at dksX5_partsLeft_2 17 rfl rfl)
theorem dX5_partsLeft_66 : decode cX5_partsLeft 66 = .ok (.ifCond .ne 13, 3) := dk_154 0 13 (dk_at dksX5_partsLeft_2 18 rfl rfl)
theorem dX5_partsLeft_69 : decode cX5_partsLeft 69 = .ok (.aload_n 0, 1) := dk_42 (dk_at dksX5_partsLeft_2 21 rfl rfl)
theorem dX5_partsLeft_70 : decode cX5_partsLeft 70 = .ok (.getfield 85, 3) := dk_180 0 85 (dk_at dksX5_partsLeft_3 0 rfl rfl)
theorem dX5_partsLeft_73 : decode cX5_partsLeft 73 = .ok (.iload 5, 2) := dk_21 5 (dk_at dksX5_partsLeft_3 3 rfl rfl)
theorem dX5_partsLeft_75 : decode cX5_partsLeft 75 = .ok (.baload, 1) := dk_51 (dk_at dksX5_partsLeft_3 5 rfl rfl)
theorem dX5_partsLeft_76 : decode cX5_partsLeft 76 = .ok (.ifCond .ne 13, 3) := dk_154 0 13 (dk_at dksX5_partsLeft_3 6 rfl rfl)
theorem dX5_partsLeft_79 : decode cX5_partsLeft 79 = .ok (.aload_n 0, 1) := dk_42 (dk_at dksX5_partsLeft_3 9 rfl rfl)
theorem dX5_partsLeft_80 : decode cX5_partsLeft 80 = .ok (.getfield 40, 3) := dk_180 0 40 (dk_at dksX5_partsLeft_3 10 rfl rfl)
theorem dX5_partsLeft_83 : decode cX5_partsLeft 83 = .ok (.iload 4, 2) := dk_21 4 (dk_at dksX5_partsLeft_3 13 rfl rfl)
theorem dX5_partsLeft_85 : decode cX5_partsLeft 85 = .ok (.iaload, 1) := dk_46 (dk_at dksX5_partsLeft_3 15 rfl rfl)
theorem dX5_partsLeft_86 : decode cX5_partsLeft 86 = .ok (.goto 7, 3) := dk_167 0 7 (dk_at dksX5_partsLeft_3 16 rfl rfl)
theorem dX5_partsLeft_89 : decode cX5_partsLeft 89 = .ok (.iload 4, 2) := dk_21 4 (dk_at dksX5_partsLeft_3 19 rfl rfl)
theorem dX5_partsLeft_91 : decode cX5_partsLeft 91 = .ok (.iconst 1, 1) := dk_4 (dk_at dksX5_partsLeft_3 21 rfl rfl)
theorem dX5_partsLeft_92 : decode cX5_partsLeft 92 = .ok (.iadd, 1) := dk_96 (dk_at dksX5_partsLeft_3 22 rfl rfl)
theorem dX5_partsLeft_93 : decode cX5_partsLeft 93 = .ok (.istore 4, 2) := dk_54 4 (dk_at dksX5_partsLeft_4 0 rfl rfl)
theorem dX5_partsLeft_95 : decode cX5_partsLeft 95 = .ok (.goto (-87), 3) := dk_167 255 169 (dk_at dksX5_partsLeft_4 2 rfl rfl)
theorem dX5_partsLeft_98 : decode cX5_partsLeft 98 = .ok (.aload_n 0, 1) := dk_42 (dk_at dksX5_partsLeft_4 5 rfl rfl)
theorem dX5_partsLeft_99 : decode cX5_partsLeft 99 = .ok (.getfield 365, 3) := dk_180 1 109 (dk_at dksX5_partsLeft_4 6 rfl rfl)
theorem dX5_partsLeft_102 : decode cX5_partsLeft 102 = .ok (.ireturn, 1) := dk_172 (dk_at dksX5_partsLeft_4 9 rfl rfl)
abbrev cX5_areAlike : ByteArray := prog_24_method_38_code
def yX5_areAlike : MethodName := ⟨RX5, "areAlike", "(II)Z"⟩
def dkwX5_areAlike_4 : List UInt8 := [96, 46, 159, 0, 5, 3, 172, 132, 5, 1, 167, 255, 224, 4, 172]
abbrev dktX5_areAlike_4 : List UInt8 := dkwX5_areAlike_4 ++ []
def dkwX5_areAlike_3 : List UInt8 := [54, 5, 21, 5, 29, 162, 0, 32, 42, 180, 0, 91, 21, 5, 46, 42, 180, 0, 91, 17, 3, 32, 21, 5]
abbrev dktX5_areAlike_3 : List UInt8 := dkwX5_areAlike_3 ++ dktX5_areAlike_4
def dkwX5_areAlike_2 : List UInt8 := [28, 46, 17, 3, 32, 182, 1, 131, 54, 4, 29, 21, 4, 160, 0, 7, 29, 156, 0, 5, 3, 172, 3]
abbrev dktX5_areAlike_2 : List UInt8 := dkwX5_areAlike_2 ++ dktX5_areAlike_3
def dkwX5_areAlike_1 : List UInt8 := [182, 1, 131, 62, 29, 156, 0, 7, 2, 167, 0, 23, 42, 27, 42, 180, 0, 43, 28, 46, 42, 180, 0, 40]
abbrev dktX5_areAlike_1 : List UInt8 := dkwX5_areAlike_1 ++ dktX5_areAlike_2
def dkwX5_areAlike_0 : List UInt8 := [42, 180, 0, 43, 28, 46, 156, 0, 5, 3, 172, 42, 27, 28, 4, 96, 42, 180, 0, 43, 28, 46, 3]
abbrev dktX5_areAlike_0 : List UInt8 := dkwX5_areAlike_0 ++ dktX5_areAlike_1
theorem dksX5_areAlike_0 : cX5_areAlike.data.toList.drop 0 = dktX5_areAlike_0 := by decide +kernel
theorem dksX5_areAlike_1 : cX5_areAlike.data.toList.drop 23 = dktX5_areAlike_1 := dk_seg dksX5_areAlike_0 23 rfl rfl
theorem dksX5_areAlike_2 : cX5_areAlike.data.toList.drop 47 = dktX5_areAlike_2 := dk_seg dksX5_areAlike_1 24 rfl rfl
theorem dksX5_areAlike_3 : cX5_areAlike.data.toList.drop 70 = dktX5_areAlike_3 := dk_seg dksX5_areAlike_2 23 rfl rfl
theorem dksX5_areAlike_4 : cX5_areAlike.data.toList.drop 94 = dktX5_areAlike_4 := dk_seg dksX5_areAlike_3 24 rfl rfl
theorem dX5_areAlike_0 : decode cX5_areAlike 0 = .ok (.aload_n 0, 1) := dk_42 (dk_at dksX5_areAlike_0 0 rfl rfl)
theorem dX5_areAlike_1 : decode cX5_areAlike 1 = .ok (.getfield 43, 3) := dk_180 0 43 (dk_at dksX5_areAlike_0 1 rfl rfl)
theorem dX5_areAlike_4 : decode cX5_areAlike 4 = .ok (.iload_n 2, 1) := dk_28 (dk_at dksX5_areAlike_0 4 rfl rfl)
theorem dX5_areAlike_5 : decode cX5_areAlike 5 = .ok (.iaload, 1) := dk_46 (dk_at dksX5_areAlike_0 5 rfl rfl)
theorem dX5_areAlike_6 : decode cX5_areAlike 6 = .ok (.ifCond .ge 5, 3) := dk_156 0 5 (dk_at dksX5_areAlike_0 6 rfl rfl)
theorem dX5_areAlike_9 : decode cX5_areAlike 9 = .ok (.iconst 0, 1) := dk_3 (dk_at dksX5_areAlike_0 9 rfl rfl)
theorem dX5_areAlike_10 : decode cX5_areAlike 10 = .ok (.ireturn, 1) := dk_172 (dk_at dksX5_areAlike_0 10 rfl rfl)
theorem dX5_areAlike_11 : decode cX5_areAlike 11 = .ok (.aload_n 0, 1) := dk_42 (dk_at dksX5_areAlike_0 11 rfl rfl)
theorem dX5_areAlike_12 : decode cX5_areAlike 12 = .ok (.iload_n 1, 1) := dk_27 (dk_at dksX5_areAlike_0 12 rfl rfl)
theorem dX5_areAlike_13 : decode cX5_areAlike 13 = .ok (.iload_n 2, 1) := dk_28 (dk_at dksX5_areAlike_0 13 rfl rfl)
theorem dX5_areAlike_14 : decode cX5_areAlike 14 = .ok (.iconst 1, 1) := dk_4 (dk_at dksX5_areAlike_0 14 rfl rfl)
theorem dX5_areAlike_15 : decode cX5_areAlike 15 = .ok (.iadd, 1) := dk_96 (dk_at dksX5_areAlike_0 15 rfl rfl)
theorem dX5_areAlike_16 : decode cX5_areAlike 16 = .ok (.aload_n 0, 1) := dk_42 (dk_at dksX5_areAlike_0 16 rfl rfl)
theorem dX5_areAlike_17 : decode cX5_areAlike 17 = .ok (.getfield 43, 3) := dk_180 0 43 (dk_at dksX5_areAlike_0 17 rfl rfl)
theorem dX5_areAlike_20 : decode cX5_areAlike 20 = .ok (.iload_n 2, 1) := dk_28 (dk_at dksX5_areAlike_0 20 rfl rfl)
theorem dX5_areAlike_21 : decode cX5_areAlike 21 = .ok (.iaload, 1) := dk_46 (dk_at dksX5_areAlike_0 21 rfl rfl)
theorem dX5_areAlike_22 : decode cX5_areAlike 22 = .ok (.iconst 0, 1) := dk_3 (dk_at dksX5_areAlike_0 22 rfl rfl)
theorem dX5_areAlike_23 : decode cX5_areAlike 23 = .ok (.invokevirtual 387, 3) := dk_182 1 131 (dk_at dksX5_areAlike_1 0 rfl rfl)
theorem dX5_areAlike_26 : decode cX5_areAlike 26 = .ok (.istore_n 3, 1) := dk_62 (dk_at dksX5_areAlike_1 3 rfl rfl)
theorem dX5_areAlike_27 : decode cX5_areAlike 27 = .ok (.iload_n 3, 1) := dk_29 (dk_at dksX5_areAlike_1 4 rfl rfl)
theorem dX5_areAlike_28 : decode cX5_areAlike 28 = .ok (.ifCond .ge 7, 3) := dk_156 0 7 (dk_at dksX5_areAlike_1 5 rfl rfl)
theorem dX5_areAlike_31 : decode cX5_areAlike 31 = .ok (.iconst (-1), 1) := dk_2 (dk_at dksX5_areAlike_1 8 rfl rfl)
theorem dX5_areAlike_32 : decode cX5_areAlike 32 = .ok (.goto 23, 3) := dk_167 0 23 (dk_at dksX5_areAlike_1 9 rfl rfl)
theorem dX5_areAlike_35 : decode cX5_areAlike 35 = .ok (.aload_n 0, 1) := dk_42 (dk_at dksX5_areAlike_1 12 rfl rfl)
theorem dX5_areAlike_36 : decode cX5_areAlike 36 = .ok (.iload_n 1, 1) := dk_27 (dk_at dksX5_areAlike_1 13 rfl rfl)
theorem dX5_areAlike_37 : decode cX5_areAlike 37 = .ok (.aload_n 0, 1) := dk_42 (dk_at dksX5_areAlike_1 14 rfl rfl)
theorem dX5_areAlike_38 : decode cX5_areAlike 38 = .ok (.getfield 43, 3) := dk_180 0 43 (dk_at dksX5_areAlike_1 15 rfl rfl)
theorem dX5_areAlike_41 : decode cX5_areAlike 41 = .ok (.iload_n 2, 1) := dk_28 (dk_at dksX5_areAlike_1 18 rfl rfl)
theorem dX5_areAlike_42 : decode cX5_areAlike 42 = .ok (.iaload, 1) := dk_46 (dk_at dksX5_areAlike_1 19 rfl rfl)
theorem dX5_areAlike_43 : decode cX5_areAlike 43 = .ok (.aload_n 0, 1) := dk_42 (dk_at dksX5_areAlike_1 20 rfl rfl)
theorem dX5_areAlike_44 : decode cX5_areAlike 44 = .ok (.getfield 40, 3) := dk_180 0 40 (dk_at dksX5_areAlike_1 21 rfl rfl)
theorem dX5_areAlike_47 : decode cX5_areAlike 47 = .ok (.iload_n 2, 1) := dk_28 (dk_at dksX5_areAlike_2 0 rfl rfl)
theorem dX5_areAlike_48 : decode cX5_areAlike 48 = .ok (.iaload, 1) := dk_46 (dk_at dksX5_areAlike_2 1 rfl rfl)
theorem dX5_areAlike_49 : decode cX5_areAlike 49 = .ok (.sipush 800, 3) := dk_17 3 32 (dk_at dksX5_areAlike_2 2 rfl rfl)
theorem dX5_areAlike_52 : decode cX5_areAlike 52 = .ok (.invokevirtual 387, 3) := dk_182 1 131 (dk_at dksX5_areAlike_2 5 rfl rfl)
theorem dX5_areAlike_55 : decode cX5_areAlike 55 = .ok (.istore 4, 2) := dk_54 4 (dk_at dksX5_areAlike_2 8 rfl rfl)
theorem dX5_areAlike_57 : decode cX5_areAlike 57 = .ok (.iload_n 3, 1) := dk_29 (dk_at dksX5_areAlike_2 10 rfl rfl)
theorem dX5_areAlike_58 : decode cX5_areAlike 58 = .ok (.iload 4, 2) := dk_21 4 (dk_at dksX5_areAlike_2 11 rfl rfl)
theorem dX5_areAlike_60 : decode cX5_areAlike 60 = .ok (.if_icmp .ne 7, 3) := dk_160 0 7 (dk_at dksX5_areAlike_2 13 rfl rfl)
theorem dX5_areAlike_63 : decode cX5_areAlike 63 = .ok (.iload_n 3, 1) := dk_29 (dk_at dksX5_areAlike_2 16 rfl rfl)
theorem dX5_areAlike_64 : decode cX5_areAlike 64 = .ok (.ifCond .ge 5, 3) := dk_156 0 5 (dk_at dksX5_areAlike_2 17 rfl rfl)
theorem dX5_areAlike_67 : decode cX5_areAlike 67 = .ok (.iconst 0, 1) := dk_3 (dk_at dksX5_areAlike_2 20 rfl rfl)
theorem dX5_areAlike_68 : decode cX5_areAlike 68 = .ok (.ireturn, 1) := dk_172 (dk_at dksX5_areAlike_2 21 rfl rfl)
theorem dX5_areAlike_69 : decode cX5_areAlike 69 = .ok (.iconst 0, 1) := dk_3 (dk_at dksX5_areAlike_2 22 rfl rfl)
theorem dX5_areAlike_70 : decode cX5_areAlike 70 = .ok (.istore 5, 2) := dk_54 5 (dk_at dksX5_areAlike_3 0 rfl rfl)
theorem dX5_areAlike_72 : decode cX5_areAlike 72 = .ok (.iload 5, 2) := dk_21 5 (dk_at dksX5_areAlike_3 2 rfl rfl)
theorem dX5_areAlike_74 : decode cX5_areAlike 74 = .ok (.iload_n 3, 1) := dk_29 (dk_at dksX5_areAlike_3 4 rfl rfl)
theorem dX5_areAlike_75 : decode cX5_areAlike 75 = .ok (.if_icmp .ge 32, 3) := dk_162 0 32 (dk_at dksX5_areAlike_3 5 rfl rfl)
theorem dX5_areAlike_78 : decode cX5_areAlike 78 = .ok (.aload_n 0, 1) := dk_42 (dk_at dksX5_areAlike_3 8 rfl rfl)
theorem dX5_areAlike_79 : decode cX5_areAlike 79 = .ok (.getfield 91, 3) := dk_180 0 91 (dk_at dksX5_areAlike_3 9 rfl rfl)
theorem dX5_areAlike_82 : decode cX5_areAlike 82 = .ok (.iload 5, 2) := dk_21 5 (dk_at dksX5_areAlike_3 12 rfl rfl)
theorem dX5_areAlike_84 : decode cX5_areAlike 84 = .ok (.iaload, 1) := dk_46 (dk_at dksX5_areAlike_3 14 rfl rfl)
theorem dX5_areAlike_85 : decode cX5_areAlike 85 = .ok (.aload_n 0, 1) := dk_42 (dk_at dksX5_areAlike_3 15 rfl rfl)
theorem dX5_areAlike_86 : decode cX5_areAlike 86 = .ok (.getfield 91, 3) := dk_180 0 91 (dk_at dksX5_areAlike_3 16 rfl rfl)
theorem dX5_areAlike_89 : decode cX5_areAlike 89 = .ok (.sipush 800, 3) := dk_17 3 32 (dk_at dksX5_areAlike_3 19 rfl rfl)
theorem dX5_areAlike_92 : decode cX5_areAlike 92 = .ok (.iload 5, 2) := dk_21 5 (dk_at dksX5_areAlike_3 22 rfl rfl)
theorem dX5_areAlike_94 : decode cX5_areAlike 94 = .ok (.iadd, 1) := dk_96 (dk_at dksX5_areAlike_4 0 rfl rfl)
theorem dX5_areAlike_95 : decode cX5_areAlike 95 = .ok (.iaload, 1) := dk_46 (dk_at dksX5_areAlike_4 1 rfl rfl)
theorem dX5_areAlike_96 : decode cX5_areAlike 96 = .ok (.if_icmp .eq 5, 3) := dk_159 0 5 (dk_at dksX5_areAlike_4 2 rfl rfl)
theorem dX5_areAlike_99 : decode cX5_areAlike 99 = .ok (.iconst 0, 1) := dk_3 (dk_at dksX5_areAlike_4 5 rfl rfl)
theorem dX5_areAlike_100 : decode cX5_areAlike 100 = .ok (.ireturn, 1) := dk_172 (dk_at dksX5_areAlike_4 6 rfl rfl)
theorem dX5_areAlike_101 : decode cX5_areAlike 101 = .ok (.iinc 5 1, 3) := dk_132 5 1 (dk_at dksX5_areAlike_4 7 rfl rfl)
theorem dX5_areAlike_104 : decode cX5_areAlike 104 = .ok (.goto (-32), 3) := dk_167 255 224 (dk_at dksX5_areAlike_4 10 rfl rfl)
theorem dX5_areAlike_107 : decode cX5_areAlike 107 = .ok (.iconst 1, 1) := dk_4 (dk_at dksX5_areAlike_4 13 rfl rfl)
theorem dX5_areAlike_108 : decode cX5_areAlike 108 = .ok (.ireturn, 1) := dk_172 (dk_at dksX5_areAlike_4 14 rfl rfl)
abbrev cX5_laysOut : ByteArray := prog_24_method_37_code
def yX5_laysOut : MethodName := ⟨RX5, "laysOut", "(IIII)I"⟩
def dkwX5_laysOut_12 : List UInt8 := [54, 5, 167, 254, 244, 42, 21, 4, 2, 182, 1, 124, 42, 180, 1, 115, 172]
abbrev dktX5_laysOut_12 : List UInt8 := dkwX5_laysOut_12 ++ []
def dkwX5_laysOut_11 : List UInt8 := [42, 180, 0, 81, 21, 6, 51, 153, 0, 13, 42, 180, 0, 40, 21, 5, 46, 167, 0, 7, 21, 5, 4, 96]
abbrev dktX5_laysOut_11 : List UInt8 := dkwX5_laysOut_11 ++ dktX5_laysOut_12
def dkwX5_laysOut_10 : List UInt8 := [167, 0, 24, 42, 180, 0, 94, 42, 180, 1, 118, 21, 5, 79, 42, 89, 180, 1, 118, 4, 96, 181, 1, 118]
abbrev dktX5_laysOut_10 : List UInt8 := dkwX5_laysOut_10 ++ dktX5_laysOut_11
def dkwX5_laysOut_9 : List UInt8 := [180, 0, 61, 21, 5, 46, 182, 1, 121, 42, 21, 4, 42, 180, 0, 64, 21, 5, 46, 182, 1, 121]
abbrev dktX5_laysOut_9 : List UInt8 := dkwX5_laysOut_9 ++ dktX5_laysOut_10
def dkwX5_laysOut_8 : List UInt8 := [21, 5, 46, 182, 1, 121, 42, 21, 4, 42, 180, 0, 58, 21, 5, 46, 182, 1, 121, 42, 21, 4, 42]
abbrev dktX5_laysOut_8 : List UInt8 := dkwX5_laysOut_8 ++ dktX5_laysOut_9
def dkwX5_laysOut_7 : List UInt8 := [182, 1, 121, 42, 21, 4, 42, 180, 0, 52, 21, 5, 46, 182, 1, 121, 42, 21, 4, 42, 180, 0, 55]
abbrev dktX5_laysOut_7 : List UInt8 := dkwX5_laysOut_7 ++ dktX5_laysOut_8
def dkwX5_laysOut_6 : List UInt8 := [21, 4, 42, 180, 0, 46, 21, 5, 46, 182, 1, 121, 42, 21, 4, 42, 180, 0, 49, 21, 5, 46]
abbrev dktX5_laysOut_6 : List UInt8 := dkwX5_laysOut_6 ++ dktX5_laysOut_7
def dkwX5_laysOut_5 : List UInt8 := [167, 0, 10, 42, 180, 0, 31, 21, 5, 46, 182, 1, 121, 42, 21, 5, 182, 1, 100, 153, 0, 97, 42]
abbrev dktX5_laysOut_5 : List UInt8 := dkwX5_laysOut_5 ++ dktX5_laysOut_6
def dkwX5_laysOut_4 : List UInt8 := [182, 1, 121, 42, 21, 4, 42, 180, 0, 28, 21, 5, 46, 7, 160, 0, 13, 42, 180, 0, 88, 21, 6, 46]
abbrev dktX5_laysOut_4 : List UInt8 := dkwX5_laysOut_4 ++ dktX5_laysOut_5
def dkwX5_laysOut_3 : List UInt8 := [21, 4, 42, 27, 21, 5, 28, 182, 1, 127, 182, 1, 121, 42, 21, 4, 42, 180, 0, 28, 21, 5, 46]
abbrev dktX5_laysOut_3 : List UInt8 := dkwX5_laysOut_3 ++ dktX5_laysOut_4
def dkwX5_laysOut_2 : List UInt8 := [180, 0, 85, 21, 6, 51, 154, 0, 202, 42, 180, 0, 28, 21, 5, 46, 16, 7, 160, 0, 5, 2, 172, 42]
abbrev dktX5_laysOut_2 : List UInt8 := dkwX5_laysOut_2 ++ dktX5_laysOut_3
def dkwX5_laysOut_1 : List UInt8 := [182, 1, 124, 21, 5, 16, 96, 27, 104, 100, 54, 6, 42, 180, 0, 81, 21, 6, 51, 154, 0, 212, 42]
abbrev dktX5_laysOut_1 : List UInt8 := dkwX5_laysOut_1 ++ dktX5_laysOut_2
def dkwX5_laysOut_0 : List UInt8 := [42, 3, 181, 1, 115, 42, 3, 181, 1, 118, 28, 54, 5, 21, 5, 29, 162, 1, 12, 42, 21, 4, 21, 5]
abbrev dktX5_laysOut_0 : List UInt8 := dkwX5_laysOut_0 ++ dktX5_laysOut_1
theorem dksX5_laysOut_0 : cX5_laysOut.data.toList.drop 0 = dktX5_laysOut_0 := by decide +kernel
theorem dksX5_laysOut_1 : cX5_laysOut.data.toList.drop 24 = dktX5_laysOut_1 := dk_seg dksX5_laysOut_0 24 rfl rfl
theorem dksX5_laysOut_2 : cX5_laysOut.data.toList.drop 47 = dktX5_laysOut_2 := dk_seg dksX5_laysOut_1 23 rfl rfl
theorem dksX5_laysOut_3 : cX5_laysOut.data.toList.drop 71 = dktX5_laysOut_3 := dk_seg dksX5_laysOut_2 24 rfl rfl
theorem dksX5_laysOut_4 : cX5_laysOut.data.toList.drop 94 = dktX5_laysOut_4 := dk_seg dksX5_laysOut_3 23 rfl rfl
theorem dksX5_laysOut_5 : cX5_laysOut.data.toList.drop 118 = dktX5_laysOut_5 := dk_seg dksX5_laysOut_4 24 rfl rfl
theorem dksX5_laysOut_6 : cX5_laysOut.data.toList.drop 141 = dktX5_laysOut_6 := dk_seg dksX5_laysOut_5 23 rfl rfl
theorem dksX5_laysOut_7 : cX5_laysOut.data.toList.drop 163 = dktX5_laysOut_7 := dk_seg dksX5_laysOut_6 22 rfl rfl
theorem dksX5_laysOut_8 : cX5_laysOut.data.toList.drop 186 = dktX5_laysOut_8 := dk_seg dksX5_laysOut_7 23 rfl rfl
theorem dksX5_laysOut_9 : cX5_laysOut.data.toList.drop 209 = dktX5_laysOut_9 := dk_seg dksX5_laysOut_8 23 rfl rfl
theorem dksX5_laysOut_10 : cX5_laysOut.data.toList.drop 231 = dktX5_laysOut_10 := dk_seg dksX5_laysOut_9 22 rfl rfl
theorem dksX5_laysOut_11 : cX5_laysOut.data.toList.drop 255 = dktX5_laysOut_11 := dk_seg dksX5_laysOut_10 24 rfl rfl
theorem dksX5_laysOut_12 : cX5_laysOut.data.toList.drop 279 = dktX5_laysOut_12 := dk_seg dksX5_laysOut_11 24 rfl rfl
theorem dX5_laysOut_0 : decode cX5_laysOut 0 = .ok (.aload_n 0, 1) := dk_42 (dk_at dksX5_laysOut_0 0 rfl rfl)
theorem dX5_laysOut_1 : decode cX5_laysOut 1 = .ok (.iconst 0, 1) := dk_3 (dk_at dksX5_laysOut_0 1 rfl rfl)
theorem dX5_laysOut_2 : decode cX5_laysOut 2 = .ok (.putfield 371, 3) := dk_181 1 115 (dk_at dksX5_laysOut_0 2 rfl rfl)
theorem dX5_laysOut_5 : decode cX5_laysOut 5 = .ok (.aload_n 0, 1) := dk_42 (dk_at dksX5_laysOut_0 5 rfl rfl)
theorem dX5_laysOut_6 : decode cX5_laysOut 6 = .ok (.iconst 0, 1) := dk_3 (dk_at dksX5_laysOut_0 6 rfl rfl)
theorem dX5_laysOut_7 : decode cX5_laysOut 7 = .ok (.putfield 374, 3) := dk_181 1 118 (dk_at dksX5_laysOut_0 7 rfl rfl)
theorem dX5_laysOut_10 : decode cX5_laysOut 10 = .ok (.iload_n 2, 1) := dk_28 (dk_at dksX5_laysOut_0 10 rfl rfl)
theorem dX5_laysOut_11 : decode cX5_laysOut 11 = .ok (.istore 5, 2) := dk_54 5 (dk_at dksX5_laysOut_0 11 rfl rfl)
theorem dX5_laysOut_13 : decode cX5_laysOut 13 = .ok (.iload 5, 2) := dk_21 5 (dk_at dksX5_laysOut_0 13 rfl rfl)
theorem dX5_laysOut_15 : decode cX5_laysOut 15 = .ok (.iload_n 3, 1) := dk_29 (dk_at dksX5_laysOut_0 15 rfl rfl)
theorem dX5_laysOut_16 : decode cX5_laysOut 16 = .ok (.if_icmp .ge 268, 3) := dk_162 1 12 (dk_at dksX5_laysOut_0 16 rfl rfl)
theorem dX5_laysOut_19 : decode cX5_laysOut 19 = .ok (.aload_n 0, 1) := dk_42 (dk_at dksX5_laysOut_0 19 rfl rfl)
theorem dX5_laysOut_20 : decode cX5_laysOut 20 = .ok (.iload 4, 2) := dk_21 4 (dk_at dksX5_laysOut_0 20 rfl rfl)
theorem dX5_laysOut_22 : decode cX5_laysOut 22 = .ok (.iload 5, 2) := dk_21 5 (dk_at dksX5_laysOut_0 22 rfl rfl)
theorem dX5_laysOut_24 : decode cX5_laysOut 24 = .ok (.invokevirtual 380, 3) := dk_182 1 124 (dk_at dksX5_laysOut_1 0 rfl rfl)
theorem dX5_laysOut_27 : decode cX5_laysOut 27 = .ok (.iload 5, 2) := dk_21 5 (dk_at dksX5_laysOut_1 3 rfl rfl)
theorem dX5_laysOut_29 : decode cX5_laysOut 29 = .ok (.bipush 96, 2) := dk_16 96 (dk_at dksX5_laysOut_1 5 rfl rfl)
theorem dX5_laysOut_31 : decode cX5_laysOut 31 = .ok (.iload_n 1, 1) := dk_27 (dk_at dksX5_laysOut_1 7 rfl rfl)
theorem dX5_laysOut_32 : decode cX5_laysOut 32 = .ok (.imul, 1) := dk_104 (dk_at dksX5_laysOut_1 8 rfl rfl)
theorem dX5_laysOut_33 : decode cX5_laysOut 33 = .ok (.isub, 1) := dk_100 (dk_at dksX5_laysOut_1 9 rfl rfl)
theorem dX5_laysOut_34 : decode cX5_laysOut 34 = .ok (.istore 6, 2) := dk_54 6 (dk_at dksX5_laysOut_1 10 rfl rfl)
theorem dX5_laysOut_36 : decode cX5_laysOut 36 = .ok (.aload_n 0, 1) := dk_42 (dk_at dksX5_laysOut_1 12 rfl rfl)
theorem dX5_laysOut_37 : decode cX5_laysOut 37 = .ok (.getfield 81, 3) := dk_180 0 81 (dk_at dksX5_laysOut_1 13 rfl rfl)
theorem dX5_laysOut_40 : decode cX5_laysOut 40 = .ok (.iload 6, 2) := dk_21 6 (dk_at dksX5_laysOut_1 16 rfl rfl)
theorem dX5_laysOut_42 : decode cX5_laysOut 42 = .ok (.baload, 1) := dk_51 (dk_at dksX5_laysOut_1 18 rfl rfl)
theorem dX5_laysOut_43 : decode cX5_laysOut 43 = .ok (.ifCond .ne 212, 3) := dk_154 0 212 (dk_at dksX5_laysOut_1 19 rfl rfl)
theorem dX5_laysOut_46 : decode cX5_laysOut 46 = .ok (.aload_n 0, 1) := dk_42 (dk_at dksX5_laysOut_1 22 rfl rfl)
theorem dX5_laysOut_47 : decode cX5_laysOut 47 = .ok (.getfield 85, 3) := dk_180 0 85 (dk_at dksX5_laysOut_2 0 rfl rfl)
theorem dX5_laysOut_50 : decode cX5_laysOut 50 = .ok (.iload 6, 2) := dk_21 6 (dk_at dksX5_laysOut_2 3 rfl rfl)
theorem dX5_laysOut_52 : decode cX5_laysOut 52 = .ok (.baload, 1) := dk_51 (dk_at dksX5_laysOut_2 5 rfl rfl)
theorem dX5_laysOut_53 : decode cX5_laysOut 53 = .ok (.ifCond .ne 202, 3) := dk_154 0 202 (dk_at dksX5_laysOut_2 6 rfl rfl)
theorem dX5_laysOut_56 : decode cX5_laysOut 56 = .ok (.aload_n 0, 1) := dk_42 (dk_at dksX5_laysOut_2 9 rfl rfl)
theorem dX5_laysOut_57 : decode cX5_laysOut 57 = .ok (.getfield 28, 3) := dk_180 0 28 (dk_at dksX5_laysOut_2 10 rfl rfl)
theorem dX5_laysOut_60 : decode cX5_laysOut 60 = .ok (.iload 5, 2) := dk_21 5 (dk_at dksX5_laysOut_2 13 rfl rfl)
theorem dX5_laysOut_62 : decode cX5_laysOut 62 = .ok (.iaload, 1) := dk_46 (dk_at dksX5_laysOut_2 15 rfl rfl)
theorem dX5_laysOut_63 : decode cX5_laysOut 63 = .ok (.bipush 7, 2) := dk_16 7 (dk_at dksX5_laysOut_2 16 rfl rfl)
theorem dX5_laysOut_65 : decode cX5_laysOut 65 = .ok (.if_icmp .ne 5, 3) := dk_160 0 5 (dk_at dksX5_laysOut_2 18 rfl rfl)
theorem dX5_laysOut_68 : decode cX5_laysOut 68 = .ok (.iconst (-1), 1) := dk_2 (dk_at dksX5_laysOut_2 21 rfl rfl)
theorem dX5_laysOut_69 : decode cX5_laysOut 69 = .ok (.ireturn, 1) := dk_172 (dk_at dksX5_laysOut_2 22 rfl rfl)
theorem dX5_laysOut_70 : decode cX5_laysOut 70 = .ok (.aload_n 0, 1) := dk_42 (dk_at dksX5_laysOut_2 23 rfl rfl)
theorem dX5_laysOut_71 : decode cX5_laysOut 71 = .ok (.iload 4, 2) := dk_21 4 (dk_at dksX5_laysOut_3 0 rfl rfl)
theorem dX5_laysOut_73 : decode cX5_laysOut 73 = .ok (.aload_n 0, 1) := dk_42 (dk_at dksX5_laysOut_3 2 rfl rfl)
theorem dX5_laysOut_74 : decode cX5_laysOut 74 = .ok (.iload_n 1, 1) := dk_27 (dk_at dksX5_laysOut_3 3 rfl rfl)
theorem dX5_laysOut_75 : decode cX5_laysOut 75 = .ok (.iload 5, 2) := dk_21 5 (dk_at dksX5_laysOut_3 4 rfl rfl)
theorem dX5_laysOut_77 : decode cX5_laysOut 77 = .ok (.iload_n 2, 1) := dk_28 (dk_at dksX5_laysOut_3 6 rfl rfl)
theorem dX5_laysOut_78 : decode cX5_laysOut 78 = .ok (.invokevirtual 383, 3) := dk_182 1 127 (dk_at dksX5_laysOut_3 7 rfl rfl)
theorem dX5_laysOut_81 : decode cX5_laysOut 81 = .ok (.invokevirtual 377, 3) := dk_182 1 121 (dk_at dksX5_laysOut_3 10 rfl rfl)
theorem dX5_laysOut_84 : decode cX5_laysOut 84 = .ok (.aload_n 0, 1) := dk_42 (dk_at dksX5_laysOut_3 13 rfl rfl)
theorem dX5_laysOut_85 : decode cX5_laysOut 85 = .ok (.iload 4, 2) := dk_21 4 (dk_at dksX5_laysOut_3 14 rfl rfl)
theorem dX5_laysOut_87 : decode cX5_laysOut 87 = .ok (.aload_n 0, 1) := dk_42 (dk_at dksX5_laysOut_3 16 rfl rfl)
theorem dX5_laysOut_88 : decode cX5_laysOut 88 = .ok (.getfield 28, 3) := dk_180 0 28 (dk_at dksX5_laysOut_3 17 rfl rfl)
theorem dX5_laysOut_91 : decode cX5_laysOut 91 = .ok (.iload 5, 2) := dk_21 5 (dk_at dksX5_laysOut_3 20 rfl rfl)
theorem dX5_laysOut_93 : decode cX5_laysOut 93 = .ok (.iaload, 1) := dk_46 (dk_at dksX5_laysOut_3 22 rfl rfl)
theorem dX5_laysOut_94 : decode cX5_laysOut 94 = .ok (.invokevirtual 377, 3) := dk_182 1 121 (dk_at dksX5_laysOut_4 0 rfl rfl)
theorem dX5_laysOut_97 : decode cX5_laysOut 97 = .ok (.aload_n 0, 1) := dk_42 (dk_at dksX5_laysOut_4 3 rfl rfl)
theorem dX5_laysOut_98 : decode cX5_laysOut 98 = .ok (.iload 4, 2) := dk_21 4 (dk_at dksX5_laysOut_4 4 rfl rfl)
theorem dX5_laysOut_100 : decode cX5_laysOut 100 = .ok (.aload_n 0, 1) := dk_42 (dk_at dksX5_laysOut_4 6 rfl rfl)
theorem dX5_laysOut_101 : decode cX5_laysOut 101 = .ok (.getfield 28, 3) := dk_180 0 28 (dk_at dksX5_laysOut_4 7 rfl rfl)
theorem dX5_laysOut_104 : decode cX5_laysOut 104 = .ok (.iload 5, 2) := dk_21 5 (dk_at dksX5_laysOut_4 10 rfl rfl)
theorem dX5_laysOut_106 : decode cX5_laysOut 106 = .ok (.iaload, 1) := dk_46 (dk_at dksX5_laysOut_4 12 rfl rfl)
theorem dX5_laysOut_107 : decode cX5_laysOut 107 = .ok (.iconst 4, 1) := dk_7 (dk_at dksX5_laysOut_4 13 rfl rfl)
theorem dX5_laysOut_108 : decode cX5_laysOut 108 = .ok (.if_icmp .ne 13, 3) := dk_160 0 13 (dk_at dksX5_laysOut_4 14 rfl rfl)
theorem dX5_laysOut_111 : decode cX5_laysOut 111 = .ok (.aload_n 0, 1) := dk_42 (dk_at dksX5_laysOut_4 17 rfl rfl)
theorem dX5_laysOut_112 : decode cX5_laysOut 112 = .ok (.getfield 88, 3) := dk_180 0 88 (dk_at dksX5_laysOut_4 18 rfl rfl)
theorem dX5_laysOut_115 : decode cX5_laysOut 115 = .ok (.iload 6, 2) := dk_21 6 (dk_at dksX5_laysOut_4 21 rfl rfl)
theorem dX5_laysOut_117 : decode cX5_laysOut 117 = .ok (.iaload, 1) := dk_46 (dk_at dksX5_laysOut_4 23 rfl rfl)
theorem dX5_laysOut_118 : decode cX5_laysOut 118 = .ok (.goto 10, 3) := dk_167 0 10 (dk_at dksX5_laysOut_5 0 rfl rfl)
theorem dX5_laysOut_121 : decode cX5_laysOut 121 = .ok (.aload_n 0, 1) := dk_42 (dk_at dksX5_laysOut_5 3 rfl rfl)
theorem dX5_laysOut_122 : decode cX5_laysOut 122 = .ok (.getfield 31, 3) := dk_180 0 31 (dk_at dksX5_laysOut_5 4 rfl rfl)
theorem dX5_laysOut_125 : decode cX5_laysOut 125 = .ok (.iload 5, 2) := dk_21 5 (dk_at dksX5_laysOut_5 7 rfl rfl)
theorem dX5_laysOut_127 : decode cX5_laysOut 127 = .ok (.iaload, 1) := dk_46 (dk_at dksX5_laysOut_5 9 rfl rfl)
theorem dX5_laysOut_128 : decode cX5_laysOut 128 = .ok (.invokevirtual 377, 3) := dk_182 1 121 (dk_at dksX5_laysOut_5 10 rfl rfl)
theorem dX5_laysOut_131 : decode cX5_laysOut 131 = .ok (.aload_n 0, 1) := dk_42 (dk_at dksX5_laysOut_5 13 rfl rfl)
theorem dX5_laysOut_132 : decode cX5_laysOut 132 = .ok (.iload 5, 2) := dk_21 5 (dk_at dksX5_laysOut_5 14 rfl rfl)
theorem dX5_laysOut_134 : decode cX5_laysOut 134 = .ok (.invokevirtual 356, 3) := dk_182 1 100 (dk_at dksX5_laysOut_5 16 rfl rfl)
theorem dX5_laysOut_137 : decode cX5_laysOut 137 = .ok (.ifCond .eq 97, 3) := dk_153 0 97 (dk_at dksX5_laysOut_5 19 rfl rfl)
theorem dX5_laysOut_140 : decode cX5_laysOut 140 = .ok (.aload_n 0, 1) := dk_42 (dk_at dksX5_laysOut_5 22 rfl rfl)
theorem dX5_laysOut_141 : decode cX5_laysOut 141 = .ok (.iload 4, 2) := dk_21 4 (dk_at dksX5_laysOut_6 0 rfl rfl)
theorem dX5_laysOut_143 : decode cX5_laysOut 143 = .ok (.aload_n 0, 1) := dk_42 (dk_at dksX5_laysOut_6 2 rfl rfl)
theorem dX5_laysOut_144 : decode cX5_laysOut 144 = .ok (.getfield 46, 3) := dk_180 0 46 (dk_at dksX5_laysOut_6 3 rfl rfl)
theorem dX5_laysOut_147 : decode cX5_laysOut 147 = .ok (.iload 5, 2) := dk_21 5 (dk_at dksX5_laysOut_6 6 rfl rfl)
theorem dX5_laysOut_149 : decode cX5_laysOut 149 = .ok (.iaload, 1) := dk_46 (dk_at dksX5_laysOut_6 8 rfl rfl)
theorem dX5_laysOut_150 : decode cX5_laysOut 150 = .ok (.invokevirtual 377, 3) := dk_182 1 121 (dk_at dksX5_laysOut_6 9 rfl rfl)
theorem dX5_laysOut_153 : decode cX5_laysOut 153 = .ok (.aload_n 0, 1) := dk_42 (dk_at dksX5_laysOut_6 12 rfl rfl)
theorem dX5_laysOut_154 : decode cX5_laysOut 154 = .ok (.iload 4, 2) := dk_21 4 (dk_at dksX5_laysOut_6 13 rfl rfl)
theorem dX5_laysOut_156 : decode cX5_laysOut 156 = .ok (.aload_n 0, 1) := dk_42 (dk_at dksX5_laysOut_6 15 rfl rfl)
theorem dX5_laysOut_157 : decode cX5_laysOut 157 = .ok (.getfield 49, 3) := dk_180 0 49 (dk_at dksX5_laysOut_6 16 rfl rfl)
theorem dX5_laysOut_160 : decode cX5_laysOut 160 = .ok (.iload 5, 2) := dk_21 5 (dk_at dksX5_laysOut_6 19 rfl rfl)
theorem dX5_laysOut_162 : decode cX5_laysOut 162 = .ok (.iaload, 1) := dk_46 (dk_at dksX5_laysOut_6 21 rfl rfl)
theorem dX5_laysOut_163 : decode cX5_laysOut 163 = .ok (.invokevirtual 377, 3) := dk_182 1 121 (dk_at dksX5_laysOut_7 0 rfl rfl)
theorem dX5_laysOut_166 : decode cX5_laysOut 166 = .ok (.aload_n 0, 1) := dk_42 (dk_at dksX5_laysOut_7 3 rfl rfl)
theorem dX5_laysOut_167 : decode cX5_laysOut 167 = .ok (.iload 4, 2) := dk_21 4 (dk_at dksX5_laysOut_7 4 rfl rfl)
theorem dX5_laysOut_169 : decode cX5_laysOut 169 = .ok (.aload_n 0, 1) := dk_42 (dk_at dksX5_laysOut_7 6 rfl rfl)
theorem dX5_laysOut_170 : decode cX5_laysOut 170 = .ok (.getfield 52, 3) := dk_180 0 52 (dk_at dksX5_laysOut_7 7 rfl rfl)
theorem dX5_laysOut_173 : decode cX5_laysOut 173 = .ok (.iload 5, 2) := dk_21 5 (dk_at dksX5_laysOut_7 10 rfl rfl)
theorem dX5_laysOut_175 : decode cX5_laysOut 175 = .ok (.iaload, 1) := dk_46 (dk_at dksX5_laysOut_7 12 rfl rfl)
theorem dX5_laysOut_176 : decode cX5_laysOut 176 = .ok (.invokevirtual 377, 3) := dk_182 1 121 (dk_at dksX5_laysOut_7 13 rfl rfl)
theorem dX5_laysOut_179 : decode cX5_laysOut 179 = .ok (.aload_n 0, 1) := dk_42 (dk_at dksX5_laysOut_7 16 rfl rfl)
theorem dX5_laysOut_180 : decode cX5_laysOut 180 = .ok (.iload 4, 2) := dk_21 4 (dk_at dksX5_laysOut_7 17 rfl rfl)
theorem dX5_laysOut_182 : decode cX5_laysOut 182 = .ok (.aload_n 0, 1) := dk_42 (dk_at dksX5_laysOut_7 19 rfl rfl)
theorem dX5_laysOut_183 : decode cX5_laysOut 183 = .ok (.getfield 55, 3) := dk_180 0 55 (dk_at dksX5_laysOut_7 20 rfl rfl)
theorem dX5_laysOut_186 : decode cX5_laysOut 186 = .ok (.iload 5, 2) := dk_21 5 (dk_at dksX5_laysOut_8 0 rfl rfl)
theorem dX5_laysOut_188 : decode cX5_laysOut 188 = .ok (.iaload, 1) := dk_46 (dk_at dksX5_laysOut_8 2 rfl rfl)
theorem dX5_laysOut_189 : decode cX5_laysOut 189 = .ok (.invokevirtual 377, 3) := dk_182 1 121 (dk_at dksX5_laysOut_8 3 rfl rfl)
theorem dX5_laysOut_192 : decode cX5_laysOut 192 = .ok (.aload_n 0, 1) := dk_42 (dk_at dksX5_laysOut_8 6 rfl rfl)
theorem dX5_laysOut_193 : decode cX5_laysOut 193 = .ok (.iload 4, 2) := dk_21 4 (dk_at dksX5_laysOut_8 7 rfl rfl)
theorem dX5_laysOut_195 : decode cX5_laysOut 195 = .ok (.aload_n 0, 1) := dk_42 (dk_at dksX5_laysOut_8 9 rfl rfl)
theorem dX5_laysOut_196 : decode cX5_laysOut 196 = .ok (.getfield 58, 3) := dk_180 0 58 (dk_at dksX5_laysOut_8 10 rfl rfl)
theorem dX5_laysOut_199 : decode cX5_laysOut 199 = .ok (.iload 5, 2) := dk_21 5 (dk_at dksX5_laysOut_8 13 rfl rfl)
theorem dX5_laysOut_201 : decode cX5_laysOut 201 = .ok (.iaload, 1) := dk_46 (dk_at dksX5_laysOut_8 15 rfl rfl)
theorem dX5_laysOut_202 : decode cX5_laysOut 202 = .ok (.invokevirtual 377, 3) := dk_182 1 121 (dk_at dksX5_laysOut_8 16 rfl rfl)
theorem dX5_laysOut_205 : decode cX5_laysOut 205 = .ok (.aload_n 0, 1) := dk_42 (dk_at dksX5_laysOut_8 19 rfl rfl)
theorem dX5_laysOut_206 : decode cX5_laysOut 206 = .ok (.iload 4, 2) := dk_21 4 (dk_at dksX5_laysOut_8 20 rfl rfl)
theorem dX5_laysOut_208 : decode cX5_laysOut 208 = .ok (.aload_n 0, 1) := dk_42 (dk_at dksX5_laysOut_8 22 rfl rfl)
theorem dX5_laysOut_209 : decode cX5_laysOut 209 = .ok (.getfield 61, 3) := dk_180 0 61 (dk_at dksX5_laysOut_9 0 rfl rfl)
theorem dX5_laysOut_212 : decode cX5_laysOut 212 = .ok (.iload 5, 2) := dk_21 5 (dk_at dksX5_laysOut_9 3 rfl rfl)
theorem dX5_laysOut_214 : decode cX5_laysOut 214 = .ok (.iaload, 1) := dk_46 (dk_at dksX5_laysOut_9 5 rfl rfl)
theorem dX5_laysOut_215 : decode cX5_laysOut 215 = .ok (.invokevirtual 377, 3) := dk_182 1 121 (dk_at dksX5_laysOut_9 6 rfl rfl)
theorem dX5_laysOut_218 : decode cX5_laysOut 218 = .ok (.aload_n 0, 1) := dk_42 (dk_at dksX5_laysOut_9 9 rfl rfl)
theorem dX5_laysOut_219 : decode cX5_laysOut 219 = .ok (.iload 4, 2) := dk_21 4 (dk_at dksX5_laysOut_9 10 rfl rfl)
theorem dX5_laysOut_221 : decode cX5_laysOut 221 = .ok (.aload_n 0, 1) := dk_42 (dk_at dksX5_laysOut_9 12 rfl rfl)
theorem dX5_laysOut_222 : decode cX5_laysOut 222 = .ok (.getfield 64, 3) := dk_180 0 64 (dk_at dksX5_laysOut_9 13 rfl rfl)
theorem dX5_laysOut_225 : decode cX5_laysOut 225 = .ok (.iload 5, 2) := dk_21 5 (dk_at dksX5_laysOut_9 16 rfl rfl)
theorem dX5_laysOut_227 : decode cX5_laysOut 227 = .ok (.iaload, 1) := dk_46 (dk_at dksX5_laysOut_9 18 rfl rfl)
theorem dX5_laysOut_228 : decode cX5_laysOut 228 = .ok (.invokevirtual 377, 3) := dk_182 1 121 (dk_at dksX5_laysOut_9 19 rfl rfl)
theorem dX5_laysOut_231 : decode cX5_laysOut 231 = .ok (.goto 24, 3) := dk_167 0 24 (dk_at dksX5_laysOut_10 0 rfl rfl)
theorem dX5_laysOut_234 : decode cX5_laysOut 234 = .ok (.aload_n 0, 1) := dk_42 (dk_at dksX5_laysOut_10 3 rfl rfl)
theorem dX5_laysOut_235 : decode cX5_laysOut 235 = .ok (.getfield 94, 3) := dk_180 0 94 (dk_at dksX5_laysOut_10 4 rfl rfl)
theorem dX5_laysOut_238 : decode cX5_laysOut 238 = .ok (.aload_n 0, 1) := dk_42 (dk_at dksX5_laysOut_10 7 rfl rfl)
theorem dX5_laysOut_239 : decode cX5_laysOut 239 = .ok (.getfield 374, 3) := dk_180 1 118 (dk_at dksX5_laysOut_10 8 rfl rfl)
theorem dX5_laysOut_242 : decode cX5_laysOut 242 = .ok (.iload 5, 2) := dk_21 5 (dk_at dksX5_laysOut_10 11 rfl rfl)
theorem dX5_laysOut_244 : decode cX5_laysOut 244 = .ok (.iastore, 1) := dk_79 (dk_at dksX5_laysOut_10 13 rfl rfl)
theorem dX5_laysOut_245 : decode cX5_laysOut 245 = .ok (.aload_n 0, 1) := dk_42 (dk_at dksX5_laysOut_10 14 rfl rfl)
theorem dX5_laysOut_246 : decode cX5_laysOut 246 = .ok (.dup, 1) := dk_89 (dk_at dksX5_laysOut_10 15 rfl rfl)
theorem dX5_laysOut_247 : decode cX5_laysOut 247 = .ok (.getfield 374, 3) := dk_180 1 118 (dk_at dksX5_laysOut_10 16 rfl rfl)
theorem dX5_laysOut_250 : decode cX5_laysOut 250 = .ok (.iconst 1, 1) := dk_4 (dk_at dksX5_laysOut_10 19 rfl rfl)
theorem dX5_laysOut_251 : decode cX5_laysOut 251 = .ok (.iadd, 1) := dk_96 (dk_at dksX5_laysOut_10 20 rfl rfl)
theorem dX5_laysOut_252 : decode cX5_laysOut 252 = .ok (.putfield 374, 3) := dk_181 1 118 (dk_at dksX5_laysOut_10 21 rfl rfl)
theorem dX5_laysOut_255 : decode cX5_laysOut 255 = .ok (.aload_n 0, 1) := dk_42 (dk_at dksX5_laysOut_11 0 rfl rfl)
theorem dX5_laysOut_256 : decode cX5_laysOut 256 = .ok (.getfield 81, 3) := dk_180 0 81 (dk_at dksX5_laysOut_11 1 rfl rfl)
theorem dX5_laysOut_259 : decode cX5_laysOut 259 = .ok (.iload 6, 2) := dk_21 6 (dk_at dksX5_laysOut_11 4 rfl rfl)
theorem dX5_laysOut_261 : decode cX5_laysOut 261 = .ok (.baload, 1) := dk_51 (dk_at dksX5_laysOut_11 6 rfl rfl)
theorem dX5_laysOut_262 : decode cX5_laysOut 262 = .ok (.ifCond .eq 13, 3) := dk_153 0 13 (dk_at dksX5_laysOut_11 7 rfl rfl)
theorem dX5_laysOut_265 : decode cX5_laysOut 265 = .ok (.aload_n 0, 1) := dk_42 (dk_at dksX5_laysOut_11 10 rfl rfl)
theorem dX5_laysOut_266 : decode cX5_laysOut 266 = .ok (.getfield 40, 3) := dk_180 0 40 (dk_at dksX5_laysOut_11 11 rfl rfl)
theorem dX5_laysOut_269 : decode cX5_laysOut 269 = .ok (.iload 5, 2) := dk_21 5 (dk_at dksX5_laysOut_11 14 rfl rfl)
theorem dX5_laysOut_271 : decode cX5_laysOut 271 = .ok (.iaload, 1) := dk_46 (dk_at dksX5_laysOut_11 16 rfl rfl)
theorem dX5_laysOut_272 : decode cX5_laysOut 272 = .ok (.goto 7, 3) := dk_167 0 7 (dk_at dksX5_laysOut_11 17 rfl rfl)
theorem dX5_laysOut_275 : decode cX5_laysOut 275 = .ok (.iload 5, 2) := dk_21 5 (dk_at dksX5_laysOut_11 20 rfl rfl)
theorem dX5_laysOut_277 : decode cX5_laysOut 277 = .ok (.iconst 1, 1) := dk_4 (dk_at dksX5_laysOut_11 22 rfl rfl)
theorem dX5_laysOut_278 : decode cX5_laysOut 278 = .ok (.iadd, 1) := dk_96 (dk_at dksX5_laysOut_11 23 rfl rfl)
theorem dX5_laysOut_279 : decode cX5_laysOut 279 = .ok (.istore 5, 2) := dk_54 5 (dk_at dksX5_laysOut_12 0 rfl rfl)
theorem dX5_laysOut_281 : decode cX5_laysOut 281 = .ok (.goto (-268), 3) := dk_167 254 244 (dk_at dksX5_laysOut_12 2 rfl rfl)
theorem dX5_laysOut_284 : decode cX5_laysOut 284 = .ok (.aload_n 0, 1) := dk_42 (dk_at dksX5_laysOut_12 5 rfl rfl)
theorem dX5_laysOut_285 : decode cX5_laysOut 285 = .ok (.iload 4, 2) := dk_21 4 (dk_at dksX5_laysOut_12 6 rfl rfl)
theorem dX5_laysOut_287 : decode cX5_laysOut 287 = .ok (.iconst (-1), 1) := dk_2 (dk_at dksX5_laysOut_12 8 rfl rfl)
theorem dX5_laysOut_288 : decode cX5_laysOut 288 = .ok (.invokevirtual 380, 3) := dk_182 1 124 (dk_at dksX5_laysOut_12 9 rfl rfl)
theorem dX5_laysOut_291 : decode cX5_laysOut 291 = .ok (.aload_n 0, 1) := dk_42 (dk_at dksX5_laysOut_12 12 rfl rfl)
theorem dX5_laysOut_292 : decode cX5_laysOut 292 = .ok (.getfield 371, 3) := dk_180 1 115 (dk_at dksX5_laysOut_12 13 rfl rfl)
theorem dX5_laysOut_295 : decode cX5_laysOut 295 = .ok (.ireturn, 1) := dk_172 (dk_at dksX5_laysOut_12 16 rfl rfl)
abbrev cX5_closesUp : ByteArray := prog_24_method_36_code
def yX5_closesUp : MethodName := ⟨RX5, "closesUp", "(II)V"⟩
def dkwX5_closesUp_2 : List UInt8 := [167, 255, 208, 177]
abbrev dktX5_closesUp_2 : List UInt8 := dkwX5_closesUp_2 ++ []
def dkwX5_closesUp_1 : List UInt8 := [100, 46, 46, 28, 163, 0, 23, 42, 27, 16, 247, 182, 1, 121, 42, 89, 180, 1, 118, 4, 100, 181, 1, 118]
abbrev dktX5_closesUp_1 : List UInt8 := dkwX5_closesUp_1 ++ dktX5_closesUp_2
def dkwX5_closesUp_0 : List UInt8 := [42, 180, 1, 118, 158, 0, 47, 28, 155, 0, 23, 42, 180, 0, 40, 42, 180, 0, 94, 42, 180, 1, 118, 4]
abbrev dktX5_closesUp_0 : List UInt8 := dkwX5_closesUp_0 ++ dktX5_closesUp_1
theorem dksX5_closesUp_0 : cX5_closesUp.data.toList.drop 0 = dktX5_closesUp_0 := by decide +kernel
theorem dksX5_closesUp_1 : cX5_closesUp.data.toList.drop 24 = dktX5_closesUp_1 := dk_seg dksX5_closesUp_0 24 rfl rfl
theorem dksX5_closesUp_2 : cX5_closesUp.data.toList.drop 48 = dktX5_closesUp_2 := dk_seg dksX5_closesUp_1 24 rfl rfl
theorem dX5_closesUp_0 : decode cX5_closesUp 0 = .ok (.aload_n 0, 1) := dk_42 (dk_at dksX5_closesUp_0 0 rfl rfl)
theorem dX5_closesUp_1 : decode cX5_closesUp 1 = .ok (.getfield 374, 3) := dk_180 1 118 (dk_at dksX5_closesUp_0 1 rfl rfl)
theorem dX5_closesUp_4 : decode cX5_closesUp 4 = .ok (.ifCond .le 47, 3) := dk_158 0 47 (dk_at dksX5_closesUp_0 4 rfl rfl)
theorem dX5_closesUp_7 : decode cX5_closesUp 7 = .ok (.iload_n 2, 1) := dk_28 (dk_at dksX5_closesUp_0 7 rfl rfl)
theorem dX5_closesUp_8 : decode cX5_closesUp 8 = .ok (.ifCond .lt 23, 3) := dk_155 0 23 (dk_at dksX5_closesUp_0 8 rfl rfl)
theorem dX5_closesUp_11 : decode cX5_closesUp 11 = .ok (.aload_n 0, 1) := dk_42 (dk_at dksX5_closesUp_0 11 rfl rfl)
theorem dX5_closesUp_12 : decode cX5_closesUp 12 = .ok (.getfield 40, 3) := dk_180 0 40 (dk_at dksX5_closesUp_0 12 rfl rfl)
theorem dX5_closesUp_15 : decode cX5_closesUp 15 = .ok (.aload_n 0, 1) := dk_42 (dk_at dksX5_closesUp_0 15 rfl rfl)
theorem dX5_closesUp_16 : decode cX5_closesUp 16 = .ok (.getfield 94, 3) := dk_180 0 94 (dk_at dksX5_closesUp_0 16 rfl rfl)
theorem dX5_closesUp_19 : decode cX5_closesUp 19 = .ok (.aload_n 0, 1) := dk_42 (dk_at dksX5_closesUp_0 19 rfl rfl)
theorem dX5_closesUp_20 : decode cX5_closesUp 20 = .ok (.getfield 374, 3) := dk_180 1 118 (dk_at dksX5_closesUp_0 20 rfl rfl)
theorem dX5_closesUp_23 : decode cX5_closesUp 23 = .ok (.iconst 1, 1) := dk_4 (dk_at dksX5_closesUp_0 23 rfl rfl)
theorem dX5_closesUp_24 : decode cX5_closesUp 24 = .ok (.isub, 1) := dk_100 (dk_at dksX5_closesUp_1 0 rfl rfl)
theorem dX5_closesUp_25 : decode cX5_closesUp 25 = .ok (.iaload, 1) := dk_46 (dk_at dksX5_closesUp_1 1 rfl rfl)
theorem dX5_closesUp_26 : decode cX5_closesUp 26 = .ok (.iaload, 1) := dk_46 (dk_at dksX5_closesUp_1 2 rfl rfl)
theorem dX5_closesUp_27 : decode cX5_closesUp 27 = .ok (.iload_n 2, 1) := dk_28 (dk_at dksX5_closesUp_1 3 rfl rfl)
theorem dX5_closesUp_28 : decode cX5_closesUp 28 = .ok (.if_icmp .gt 23, 3) := dk_163 0 23 (dk_at dksX5_closesUp_1 4 rfl rfl)
theorem dX5_closesUp_31 : decode cX5_closesUp 31 = .ok (.aload_n 0, 1) := dk_42 (dk_at dksX5_closesUp_1 7 rfl rfl)
theorem dX5_closesUp_32 : decode cX5_closesUp 32 = .ok (.iload_n 1, 1) := dk_27 (dk_at dksX5_closesUp_1 8 rfl rfl)
theorem dX5_closesUp_33 : decode cX5_closesUp 33 = .ok (.bipush (-9), 2) := dk_16 247 (dk_at dksX5_closesUp_1 9 rfl rfl)
theorem dX5_closesUp_35 : decode cX5_closesUp 35 = .ok (.invokevirtual 377, 3) := dk_182 1 121 (dk_at dksX5_closesUp_1 11 rfl rfl)
theorem dX5_closesUp_38 : decode cX5_closesUp 38 = .ok (.aload_n 0, 1) := dk_42 (dk_at dksX5_closesUp_1 14 rfl rfl)
theorem dX5_closesUp_39 : decode cX5_closesUp 39 = .ok (.dup, 1) := dk_89 (dk_at dksX5_closesUp_1 15 rfl rfl)
theorem dX5_closesUp_40 : decode cX5_closesUp 40 = .ok (.getfield 374, 3) := dk_180 1 118 (dk_at dksX5_closesUp_1 16 rfl rfl)
theorem dX5_closesUp_43 : decode cX5_closesUp 43 = .ok (.iconst 1, 1) := dk_4 (dk_at dksX5_closesUp_1 19 rfl rfl)
theorem dX5_closesUp_44 : decode cX5_closesUp 44 = .ok (.isub, 1) := dk_100 (dk_at dksX5_closesUp_1 20 rfl rfl)
theorem dX5_closesUp_45 : decode cX5_closesUp 45 = .ok (.putfield 374, 3) := dk_181 1 118 (dk_at dksX5_closesUp_1 21 rfl rfl)
theorem dX5_closesUp_48 : decode cX5_closesUp 48 = .ok (.goto (-48), 3) := dk_167 255 208 (dk_at dksX5_closesUp_2 0 rfl rfl)
theorem dX5_closesUp_51 : decode cX5_closesUp 51 = .ok (.return_, 1) := dk_177 (dk_at dksX5_closesUp_2 3 rfl rfl)
abbrev cX5_sign : ByteArray := prog_24_method_34_code
def yX5_sign : MethodName := ⟨RX5, "sign", "(II)V"⟩
def dkwX5_sign_0 : List UInt8 := [42, 180, 0, 91, 27, 42, 180, 1, 115, 96, 28, 79, 42, 89, 180, 1, 115, 4, 96, 181, 1, 115, 177]
abbrev dktX5_sign_0 : List UInt8 := dkwX5_sign_0 ++ []
theorem dksX5_sign_0 : cX5_sign.data.toList.drop 0 = dktX5_sign_0 := by decide +kernel
theorem dX5_sign_0 : decode cX5_sign 0 = .ok (.aload_n 0, 1) := dk_42 (dk_at dksX5_sign_0 0 rfl rfl)
theorem dX5_sign_1 : decode cX5_sign 1 = .ok (.getfield 91, 3) := dk_180 0 91 (dk_at dksX5_sign_0 1 rfl rfl)
theorem dX5_sign_4 : decode cX5_sign 4 = .ok (.iload_n 1, 1) := dk_27 (dk_at dksX5_sign_0 4 rfl rfl)
theorem dX5_sign_5 : decode cX5_sign 5 = .ok (.aload_n 0, 1) := dk_42 (dk_at dksX5_sign_0 5 rfl rfl)
theorem dX5_sign_6 : decode cX5_sign 6 = .ok (.getfield 371, 3) := dk_180 1 115 (dk_at dksX5_sign_0 6 rfl rfl)
theorem dX5_sign_9 : decode cX5_sign 9 = .ok (.iadd, 1) := dk_96 (dk_at dksX5_sign_0 9 rfl rfl)
theorem dX5_sign_10 : decode cX5_sign 10 = .ok (.iload_n 2, 1) := dk_28 (dk_at dksX5_sign_0 10 rfl rfl)
theorem dX5_sign_11 : decode cX5_sign 11 = .ok (.iastore, 1) := dk_79 (dk_at dksX5_sign_0 11 rfl rfl)
theorem dX5_sign_12 : decode cX5_sign 12 = .ok (.aload_n 0, 1) := dk_42 (dk_at dksX5_sign_0 12 rfl rfl)
theorem dX5_sign_13 : decode cX5_sign 13 = .ok (.dup, 1) := dk_89 (dk_at dksX5_sign_0 13 rfl rfl)
theorem dX5_sign_14 : decode cX5_sign 14 = .ok (.getfield 371, 3) := dk_180 1 115 (dk_at dksX5_sign_0 14 rfl rfl)
theorem dX5_sign_17 : decode cX5_sign 17 = .ok (.iconst 1, 1) := dk_4 (dk_at dksX5_sign_0 17 rfl rfl)
theorem dX5_sign_18 : decode cX5_sign 18 = .ok (.iadd, 1) := dk_96 (dk_at dksX5_sign_0 18 rfl rfl)
theorem dX5_sign_19 : decode cX5_sign 19 = .ok (.putfield 371, 3) := dk_181 1 115 (dk_at dksX5_sign_0 19 rfl rfl)
theorem dX5_sign_22 : decode cX5_sign 22 = .ok (.return_, 1) := dk_177 (dk_at dksX5_sign_0 22 rfl rfl)
abbrev cX5_partLeft : ByteArray := prog_24_method_35_code
def yX5_partLeft : MethodName := ⟨RX5, "partLeft", "(III)I"⟩
def dkwX5_partLeft_3 : List UInt8 := [180, 0, 37, 21, 4, 46, 167, 0, 4, 3, 172]
abbrev dktX5_partLeft_3 : List UInt8 := dkwX5_partLeft_3 ++ []
def dkwX5_partLeft_2 : List UInt8 := [167, 255, 222, 21, 5, 29, 161, 0, 25, 42, 180, 0, 28, 21, 5, 46, 16, 6, 160, 0, 13, 42]
abbrev dktX5_partLeft_2 : List UInt8 := dkwX5_partLeft_2 ++ dktX5_partLeft_3
def dkwX5_partLeft_1 : List UInt8 := [16, 96, 27, 104, 100, 51, 153, 0, 19, 21, 5, 54, 4, 42, 180, 0, 34, 21, 5, 46, 54, 5]
abbrev dktX5_partLeft_1 : List UInt8 := dkwX5_partLeft_1 ++ dktX5_partLeft_2
def dkwX5_partLeft_0 : List UInt8 := [28, 54, 4, 42, 180, 0, 34, 28, 46, 54, 5, 21, 5, 29, 161, 0, 34, 42, 180, 0, 85, 21, 5]
abbrev dktX5_partLeft_0 : List UInt8 := dkwX5_partLeft_0 ++ dktX5_partLeft_1
theorem dksX5_partLeft_0 : cX5_partLeft.data.toList.drop 0 = dktX5_partLeft_0 := by decide +kernel
theorem dksX5_partLeft_1 : cX5_partLeft.data.toList.drop 23 = dktX5_partLeft_1 := dk_seg dksX5_partLeft_0 23 rfl rfl
theorem dksX5_partLeft_2 : cX5_partLeft.data.toList.drop 45 = dktX5_partLeft_2 := dk_seg dksX5_partLeft_1 22 rfl rfl
theorem dksX5_partLeft_3 : cX5_partLeft.data.toList.drop 67 = dktX5_partLeft_3 := dk_seg dksX5_partLeft_2 22 rfl rfl
theorem dX5_partLeft_0 : decode cX5_partLeft 0 = .ok (.iload_n 2, 1) := dk_28 (dk_at dksX5_partLeft_0 0 rfl rfl)
theorem dX5_partLeft_1 : decode cX5_partLeft 1 = .ok (.istore 4, 2) := dk_54 4 (dk_at dksX5_partLeft_0 1 rfl rfl)
theorem dX5_partLeft_3 : decode cX5_partLeft 3 = .ok (.aload_n 0, 1) := dk_42 (dk_at dksX5_partLeft_0 3 rfl rfl)
theorem dX5_partLeft_4 : decode cX5_partLeft 4 = .ok (.getfield 34, 3) := dk_180 0 34 (dk_at dksX5_partLeft_0 4 rfl rfl)
theorem dX5_partLeft_7 : decode cX5_partLeft 7 = .ok (.iload_n 2, 1) := dk_28 (dk_at dksX5_partLeft_0 7 rfl rfl)
theorem dX5_partLeft_8 : decode cX5_partLeft 8 = .ok (.iaload, 1) := dk_46 (dk_at dksX5_partLeft_0 8 rfl rfl)
theorem dX5_partLeft_9 : decode cX5_partLeft 9 = .ok (.istore 5, 2) := dk_54 5 (dk_at dksX5_partLeft_0 9 rfl rfl)
theorem dX5_partLeft_11 : decode cX5_partLeft 11 = .ok (.iload 5, 2) := dk_21 5 (dk_at dksX5_partLeft_0 11 rfl rfl)
theorem dX5_partLeft_13 : decode cX5_partLeft 13 = .ok (.iload_n 3, 1) := dk_29 (dk_at dksX5_partLeft_0 13 rfl rfl)
theorem dX5_partLeft_14 : decode cX5_partLeft 14 = .ok (.if_icmp .lt 34, 3) := dk_161 0 34 (dk_at dksX5_partLeft_0 14 rfl rfl)
theorem dX5_partLeft_17 : decode cX5_partLeft 17 = .ok (.aload_n 0, 1) := dk_42 (dk_at dksX5_partLeft_0 17 rfl rfl)
theorem dX5_partLeft_18 : decode cX5_partLeft 18 = .ok (.getfield 85, 3) := dk_180 0 85 (dk_at dksX5_partLeft_0 18 rfl rfl)
theorem dX5_partLeft_21 : decode cX5_partLeft 21 = .ok (.iload 5, 2) := dk_21 5 (dk_at dksX5_partLeft_0 21 rfl rfl)
theorem dX5_partLeft_23 : decode cX5_partLeft 23 = .ok (.bipush 96, 2) := dk_16 96 (dk_at dksX5_partLeft_1 0 rfl rfl)
theorem dX5_partLeft_25 : decode cX5_partLeft 25 = .ok (.iload_n 1, 1) := dk_27 (dk_at dksX5_partLeft_1 2 rfl rfl)
theorem dX5_partLeft_26 : decode cX5_partLeft 26 = .ok (.imul, 1) := dk_104 (dk_at dksX5_partLeft_1 3 rfl rfl)
theorem dX5_partLeft_27 : decode cX5_partLeft 27 = .ok (.isub, 1) := dk_100 (dk_at dksX5_partLeft_1 4 rfl rfl)
theorem dX5_partLeft_28 : decode cX5_partLeft 28 = .ok (.baload, 1) := dk_51 (dk_at dksX5_partLeft_1 5 rfl rfl)
theorem dX5_partLeft_29 : decode cX5_partLeft 29 = .ok (.ifCond .eq 19, 3) := dk_153 0 19 (dk_at dksX5_partLeft_1 6 rfl rfl)
theorem dX5_partLeft_32 : decode cX5_partLeft 32 = .ok (.iload 5, 2) := dk_21 5 (dk_at dksX5_partLeft_1 9 rfl rfl)
theorem dX5_partLeft_34 : decode cX5_partLeft 34 = .ok (.istore 4, 2) := dk_54 4 (dk_at dksX5_partLeft_1 11 rfl rfl)
theorem dX5_partLeft_36 : decode cX5_partLeft 36 = .ok (.aload_n 0, 1) := dk_42 (dk_at dksX5_partLeft_1 13 rfl rfl)
theorem dX5_partLeft_37 : decode cX5_partLeft 37 = .ok (.getfield 34, 3) := dk_180 0 34 (dk_at dksX5_partLeft_1 14 rfl rfl)
theorem dX5_partLeft_40 : decode cX5_partLeft 40 = .ok (.iload 5, 2) := dk_21 5 (dk_at dksX5_partLeft_1 17 rfl rfl)
theorem dX5_partLeft_42 : decode cX5_partLeft 42 = .ok (.iaload, 1) := dk_46 (dk_at dksX5_partLeft_1 19 rfl rfl)
theorem dX5_partLeft_43 : decode cX5_partLeft 43 = .ok (.istore 5, 2) := dk_54 5 (dk_at dksX5_partLeft_1 20 rfl rfl)
theorem dX5_partLeft_45 : decode cX5_partLeft 45 = .ok (.goto (-34), 3) := dk_167 255 222 (dk_at dksX5_partLeft_2 0 rfl rfl)
theorem dX5_partLeft_48 : decode cX5_partLeft 48 = .ok (.iload 5, 2) := dk_21 5 (dk_at dksX5_partLeft_2 3 rfl rfl)
theorem dX5_partLeft_50 : decode cX5_partLeft 50 = .ok (.iload_n 3, 1) := dk_29 (dk_at dksX5_partLeft_2 5 rfl rfl)
theorem dX5_partLeft_51 : decode cX5_partLeft 51 = .ok (.if_icmp .lt 25, 3) := dk_161 0 25 (dk_at dksX5_partLeft_2 6 rfl rfl)
theorem dX5_partLeft_54 : decode cX5_partLeft 54 = .ok (.aload_n 0, 1) := dk_42 (dk_at dksX5_partLeft_2 9 rfl rfl)
theorem dX5_partLeft_55 : decode cX5_partLeft 55 = .ok (.getfield 28, 3) := dk_180 0 28 (dk_at dksX5_partLeft_2 10 rfl rfl)
theorem dX5_partLeft_58 : decode cX5_partLeft 58 = .ok (.iload 5, 2) := dk_21 5 (dk_at dksX5_partLeft_2 13 rfl rfl)
theorem dX5_partLeft_60 : decode cX5_partLeft 60 = .ok (.iaload, 1) := dk_46 (dk_at dksX5_partLeft_2 15 rfl rfl)
theorem dX5_partLeft_61 : decode cX5_partLeft 61 = .ok (.bipush 6, 2) := dk_16 6 (dk_at dksX5_partLeft_2 16 rfl rfl)
theorem dX5_partLeft_63 : decode cX5_partLeft 63 = .ok (.if_icmp .ne 13, 3) := dk_160 0 13 (dk_at dksX5_partLeft_2 18 rfl rfl)
theorem dX5_partLeft_66 : decode cX5_partLeft 66 = .ok (.aload_n 0, 1) := dk_42 (dk_at dksX5_partLeft_2 21 rfl rfl)
theorem dX5_partLeft_67 : decode cX5_partLeft 67 = .ok (.getfield 37, 3) := dk_180 0 37 (dk_at dksX5_partLeft_3 0 rfl rfl)
theorem dX5_partLeft_70 : decode cX5_partLeft 70 = .ok (.iload 4, 2) := dk_21 4 (dk_at dksX5_partLeft_3 3 rfl rfl)
theorem dX5_partLeft_72 : decode cX5_partLeft 72 = .ok (.iaload, 1) := dk_46 (dk_at dksX5_partLeft_3 5 rfl rfl)
theorem dX5_partLeft_73 : decode cX5_partLeft 73 = .ok (.goto 4, 3) := dk_167 0 4 (dk_at dksX5_partLeft_3 6 rfl rfl)
theorem dX5_partLeft_76 : decode cX5_partLeft 76 = .ok (.iconst 0, 1) := dk_3 (dk_at dksX5_partLeft_3 9 rfl rfl)
theorem dX5_partLeft_77 : decode cX5_partLeft 77 = .ok (.ireturn, 1) := dk_172 (dk_at dksX5_partLeft_3 10 rfl rfl)
abbrev cX5_same : ByteArray := prog_24_method_44_code
def yX5_same : MethodName := ⟨RX5, "same", "(II)I"⟩
def dkwX5_same_5 : List UInt8 := [182, 1, 163, 148, 153, 0, 6, 21, 4, 172, 132, 6, 1, 167, 255, 216, 132, 4, 1, 167, 255, 171, 2, 172]
abbrev dktX5_same_5 : List UInt8 := dkwX5_same_5 ++ []
def dkwX5_same_4 : List UInt8 := [180, 1, 148, 162, 0, 37, 42, 3, 21, 5, 21, 6, 182, 1, 163, 42, 21, 5, 42, 180, 1, 148, 21, 6]
abbrev dktX5_same_4 : List UInt8 := dkwX5_same_4 ++ dktX5_same_5
def dkwX5_same_3 : List UInt8 := [182, 1, 159, 42, 180, 1, 148, 54, 5, 42, 28, 21, 4, 8, 182, 1, 159, 3, 54, 6, 21, 6, 42]
abbrev dktX5_same_3 : List UInt8 := dkwX5_same_3 ++ dktX5_same_4
def dkwX5_same_2 : List UInt8 := [46, 62, 3, 54, 4, 21, 4, 16, 32, 29, 120, 162, 0, 82, 42, 3, 181, 1, 148, 42, 27, 21, 4, 8]
abbrev dktX5_same_2 : List UInt8 := dkwX5_same_2 ++ dktX5_same_3
def dkwX5_same_1 : List UInt8 := [46, 42, 180, 0, 22, 28, 46, 164, 0, 12, 42, 180, 0, 22, 27, 46, 167, 0, 9, 42, 180, 0, 22, 28]
abbrev dktX5_same_1 : List UInt8 := dkwX5_same_1 ++ dktX5_same_2
def dkwX5_same_0 : List UInt8 := [42, 27, 182, 1, 96, 153, 0, 11, 42, 28, 182, 1, 96, 154, 0, 6, 16, 254, 172, 42, 180, 0, 22, 27]
abbrev dktX5_same_0 : List UInt8 := dkwX5_same_0 ++ dktX5_same_1
theorem dksX5_same_0 : cX5_same.data.toList.drop 0 = dktX5_same_0 := by decide +kernel
theorem dksX5_same_1 : cX5_same.data.toList.drop 24 = dktX5_same_1 := dk_seg dksX5_same_0 24 rfl rfl
theorem dksX5_same_2 : cX5_same.data.toList.drop 48 = dktX5_same_2 := dk_seg dksX5_same_1 24 rfl rfl
theorem dksX5_same_3 : cX5_same.data.toList.drop 72 = dktX5_same_3 := dk_seg dksX5_same_2 24 rfl rfl
theorem dksX5_same_4 : cX5_same.data.toList.drop 95 = dktX5_same_4 := dk_seg dksX5_same_3 23 rfl rfl
theorem dksX5_same_5 : cX5_same.data.toList.drop 119 = dktX5_same_5 := dk_seg dksX5_same_4 24 rfl rfl
theorem dX5_same_0 : decode cX5_same 0 = .ok (.aload_n 0, 1) := dk_42 (dk_at dksX5_same_0 0 rfl rfl)
theorem dX5_same_1 : decode cX5_same 1 = .ok (.iload_n 1, 1) := dk_27 (dk_at dksX5_same_0 1 rfl rfl)
theorem dX5_same_2 : decode cX5_same 2 = .ok (.invokevirtual 352, 3) := dk_182 1 96 (dk_at dksX5_same_0 2 rfl rfl)
theorem dX5_same_5 : decode cX5_same 5 = .ok (.ifCond .eq 11, 3) := dk_153 0 11 (dk_at dksX5_same_0 5 rfl rfl)
theorem dX5_same_8 : decode cX5_same 8 = .ok (.aload_n 0, 1) := dk_42 (dk_at dksX5_same_0 8 rfl rfl)
theorem dX5_same_9 : decode cX5_same 9 = .ok (.iload_n 2, 1) := dk_28 (dk_at dksX5_same_0 9 rfl rfl)
theorem dX5_same_10 : decode cX5_same 10 = .ok (.invokevirtual 352, 3) := dk_182 1 96 (dk_at dksX5_same_0 10 rfl rfl)
theorem dX5_same_13 : decode cX5_same 13 = .ok (.ifCond .ne 6, 3) := dk_154 0 6 (dk_at dksX5_same_0 13 rfl rfl)
theorem dX5_same_16 : decode cX5_same 16 = .ok (.bipush (-2), 2) := dk_16 254 (dk_at dksX5_same_0 16 rfl rfl)
theorem dX5_same_18 : decode cX5_same 18 = .ok (.ireturn, 1) := dk_172 (dk_at dksX5_same_0 18 rfl rfl)
theorem dX5_same_19 : decode cX5_same 19 = .ok (.aload_n 0, 1) := dk_42 (dk_at dksX5_same_0 19 rfl rfl)
theorem dX5_same_20 : decode cX5_same 20 = .ok (.getfield 22, 3) := dk_180 0 22 (dk_at dksX5_same_0 20 rfl rfl)
theorem dX5_same_23 : decode cX5_same 23 = .ok (.iload_n 1, 1) := dk_27 (dk_at dksX5_same_0 23 rfl rfl)
theorem dX5_same_24 : decode cX5_same 24 = .ok (.iaload, 1) := dk_46 (dk_at dksX5_same_1 0 rfl rfl)
theorem dX5_same_25 : decode cX5_same 25 = .ok (.aload_n 0, 1) := dk_42 (dk_at dksX5_same_1 1 rfl rfl)
theorem dX5_same_26 : decode cX5_same 26 = .ok (.getfield 22, 3) := dk_180 0 22 (dk_at dksX5_same_1 2 rfl rfl)
theorem dX5_same_29 : decode cX5_same 29 = .ok (.iload_n 2, 1) := dk_28 (dk_at dksX5_same_1 5 rfl rfl)
theorem dX5_same_30 : decode cX5_same 30 = .ok (.iaload, 1) := dk_46 (dk_at dksX5_same_1 6 rfl rfl)
theorem dX5_same_31 : decode cX5_same 31 = .ok (.if_icmp .le 12, 3) := dk_164 0 12 (dk_at dksX5_same_1 7 rfl rfl)
theorem dX5_same_34 : decode cX5_same 34 = .ok (.aload_n 0, 1) := dk_42 (dk_at dksX5_same_1 10 rfl rfl)
theorem dX5_same_35 : decode cX5_same 35 = .ok (.getfield 22, 3) := dk_180 0 22 (dk_at dksX5_same_1 11 rfl rfl)
theorem dX5_same_38 : decode cX5_same 38 = .ok (.iload_n 1, 1) := dk_27 (dk_at dksX5_same_1 14 rfl rfl)
theorem dX5_same_39 : decode cX5_same 39 = .ok (.iaload, 1) := dk_46 (dk_at dksX5_same_1 15 rfl rfl)
theorem dX5_same_40 : decode cX5_same 40 = .ok (.goto 9, 3) := dk_167 0 9 (dk_at dksX5_same_1 16 rfl rfl)
theorem dX5_same_43 : decode cX5_same 43 = .ok (.aload_n 0, 1) := dk_42 (dk_at dksX5_same_1 19 rfl rfl)
theorem dX5_same_44 : decode cX5_same 44 = .ok (.getfield 22, 3) := dk_180 0 22 (dk_at dksX5_same_1 20 rfl rfl)
theorem dX5_same_47 : decode cX5_same 47 = .ok (.iload_n 2, 1) := dk_28 (dk_at dksX5_same_1 23 rfl rfl)
theorem dX5_same_48 : decode cX5_same 48 = .ok (.iaload, 1) := dk_46 (dk_at dksX5_same_2 0 rfl rfl)
theorem dX5_same_49 : decode cX5_same 49 = .ok (.istore_n 3, 1) := dk_62 (dk_at dksX5_same_2 1 rfl rfl)
theorem dX5_same_50 : decode cX5_same 50 = .ok (.iconst 0, 1) := dk_3 (dk_at dksX5_same_2 2 rfl rfl)
theorem dX5_same_51 : decode cX5_same 51 = .ok (.istore 4, 2) := dk_54 4 (dk_at dksX5_same_2 3 rfl rfl)
theorem dX5_same_53 : decode cX5_same 53 = .ok (.iload 4, 2) := dk_21 4 (dk_at dksX5_same_2 5 rfl rfl)
theorem dX5_same_55 : decode cX5_same 55 = .ok (.bipush 32, 2) := dk_16 32 (dk_at dksX5_same_2 7 rfl rfl)
theorem dX5_same_57 : decode cX5_same 57 = .ok (.iload_n 3, 1) := dk_29 (dk_at dksX5_same_2 9 rfl rfl)
theorem dX5_same_58 : decode cX5_same 58 = .ok (.ishl, 1) := dk_120 (dk_at dksX5_same_2 10 rfl rfl)
theorem dX5_same_59 : decode cX5_same 59 = .ok (.if_icmp .ge 82, 3) := dk_162 0 82 (dk_at dksX5_same_2 11 rfl rfl)
theorem dX5_same_62 : decode cX5_same 62 = .ok (.aload_n 0, 1) := dk_42 (dk_at dksX5_same_2 14 rfl rfl)
theorem dX5_same_63 : decode cX5_same 63 = .ok (.iconst 0, 1) := dk_3 (dk_at dksX5_same_2 15 rfl rfl)
theorem dX5_same_64 : decode cX5_same 64 = .ok (.putfield 404, 3) := dk_181 1 148 (dk_at dksX5_same_2 16 rfl rfl)
theorem dX5_same_67 : decode cX5_same 67 = .ok (.aload_n 0, 1) := dk_42 (dk_at dksX5_same_2 19 rfl rfl)
theorem dX5_same_68 : decode cX5_same 68 = .ok (.iload_n 1, 1) := dk_27 (dk_at dksX5_same_2 20 rfl rfl)
theorem dX5_same_69 : decode cX5_same 69 = .ok (.iload 4, 2) := dk_21 4 (dk_at dksX5_same_2 21 rfl rfl)
theorem dX5_same_71 : decode cX5_same 71 = .ok (.iconst 5, 1) := dk_8 (dk_at dksX5_same_2 23 rfl rfl)
theorem dX5_same_72 : decode cX5_same 72 = .ok (.invokevirtual 415, 3) := dk_182 1 159 (dk_at dksX5_same_3 0 rfl rfl)
theorem dX5_same_75 : decode cX5_same 75 = .ok (.aload_n 0, 1) := dk_42 (dk_at dksX5_same_3 3 rfl rfl)
theorem dX5_same_76 : decode cX5_same 76 = .ok (.getfield 404, 3) := dk_180 1 148 (dk_at dksX5_same_3 4 rfl rfl)
theorem dX5_same_79 : decode cX5_same 79 = .ok (.istore 5, 2) := dk_54 5 (dk_at dksX5_same_3 7 rfl rfl)
theorem dX5_same_81 : decode cX5_same 81 = .ok (.aload_n 0, 1) := dk_42 (dk_at dksX5_same_3 9 rfl rfl)
theorem dX5_same_82 : decode cX5_same 82 = .ok (.iload_n 2, 1) := dk_28 (dk_at dksX5_same_3 10 rfl rfl)
theorem dX5_same_83 : decode cX5_same 83 = .ok (.iload 4, 2) := dk_21 4 (dk_at dksX5_same_3 11 rfl rfl)
theorem dX5_same_85 : decode cX5_same 85 = .ok (.iconst 5, 1) := dk_8 (dk_at dksX5_same_3 13 rfl rfl)
theorem dX5_same_86 : decode cX5_same 86 = .ok (.invokevirtual 415, 3) := dk_182 1 159 (dk_at dksX5_same_3 14 rfl rfl)
theorem dX5_same_89 : decode cX5_same 89 = .ok (.iconst 0, 1) := dk_3 (dk_at dksX5_same_3 17 rfl rfl)
theorem dX5_same_90 : decode cX5_same 90 = .ok (.istore 6, 2) := dk_54 6 (dk_at dksX5_same_3 18 rfl rfl)
theorem dX5_same_92 : decode cX5_same 92 = .ok (.iload 6, 2) := dk_21 6 (dk_at dksX5_same_3 20 rfl rfl)
theorem dX5_same_94 : decode cX5_same 94 = .ok (.aload_n 0, 1) := dk_42 (dk_at dksX5_same_3 22 rfl rfl)
theorem dX5_same_95 : decode cX5_same 95 = .ok (.getfield 404, 3) := dk_180 1 148 (dk_at dksX5_same_4 0 rfl rfl)
theorem dX5_same_98 : decode cX5_same 98 = .ok (.if_icmp .ge 37, 3) := dk_162 0 37 (dk_at dksX5_same_4 3 rfl rfl)
theorem dX5_same_101 : decode cX5_same 101 = .ok (.aload_n 0, 1) := dk_42 (dk_at dksX5_same_4 6 rfl rfl)
theorem dX5_same_102 : decode cX5_same 102 = .ok (.iconst 0, 1) := dk_3 (dk_at dksX5_same_4 7 rfl rfl)
theorem dX5_same_103 : decode cX5_same 103 = .ok (.iload 5, 2) := dk_21 5 (dk_at dksX5_same_4 8 rfl rfl)
theorem dX5_same_105 : decode cX5_same 105 = .ok (.iload 6, 2) := dk_21 6 (dk_at dksX5_same_4 10 rfl rfl)
theorem dX5_same_107 : decode cX5_same 107 = .ok (.invokevirtual 419, 3) := dk_182 1 163 (dk_at dksX5_same_4 12 rfl rfl)
theorem dX5_same_110 : decode cX5_same 110 = .ok (.aload_n 0, 1) := dk_42 (dk_at dksX5_same_4 15 rfl rfl)
theorem dX5_same_111 : decode cX5_same 111 = .ok (.iload 5, 2) := dk_21 5 (dk_at dksX5_same_4 16 rfl rfl)
theorem dX5_same_113 : decode cX5_same 113 = .ok (.aload_n 0, 1) := dk_42 (dk_at dksX5_same_4 18 rfl rfl)
theorem dX5_same_114 : decode cX5_same 114 = .ok (.getfield 404, 3) := dk_180 1 148 (dk_at dksX5_same_4 19 rfl rfl)
theorem dX5_same_117 : decode cX5_same 117 = .ok (.iload 6, 2) := dk_21 6 (dk_at dksX5_same_4 22 rfl rfl)
theorem dX5_same_119 : decode cX5_same 119 = .ok (.invokevirtual 419, 3) := dk_182 1 163 (dk_at dksX5_same_5 0 rfl rfl)
theorem dX5_same_122 : decode cX5_same 122 = .ok (.lcmp, 1) := dk_148 (dk_at dksX5_same_5 3 rfl rfl)
theorem dX5_same_123 : decode cX5_same 123 = .ok (.ifCond .eq 6, 3) := dk_153 0 6 (dk_at dksX5_same_5 4 rfl rfl)
theorem dX5_same_126 : decode cX5_same 126 = .ok (.iload 4, 2) := dk_21 4 (dk_at dksX5_same_5 7 rfl rfl)
theorem dX5_same_128 : decode cX5_same 128 = .ok (.ireturn, 1) := dk_172 (dk_at dksX5_same_5 9 rfl rfl)
theorem dX5_same_129 : decode cX5_same 129 = .ok (.iinc 6 1, 3) := dk_132 6 1 (dk_at dksX5_same_5 10 rfl rfl)
theorem dX5_same_132 : decode cX5_same 132 = .ok (.goto (-40), 3) := dk_167 255 216 (dk_at dksX5_same_5 13 rfl rfl)
theorem dX5_same_135 : decode cX5_same 135 = .ok (.iinc 4 1, 3) := dk_132 4 1 (dk_at dksX5_same_5 16 rfl rfl)
theorem dX5_same_138 : decode cX5_same 138 = .ok (.goto (-85), 3) := dk_167 255 171 (dk_at dksX5_same_5 19 rfl rfl)
theorem dX5_same_141 : decode cX5_same 141 = .ok (.iconst (-1), 1) := dk_2 (dk_at dksX5_same_5 22 rfl rfl)
theorem dX5_same_142 : decode cX5_same 142 = .ok (.ireturn, 1) := dk_172 (dk_at dksX5_same_5 23 rfl rfl)
abbrev cX5_passes : ByteArray := prog_24_method_42_code
def yX5_passes : MethodName := ⟨RX5, "passes", "(III)V"⟩
def dkwX5_passes_9 : List UInt8 := [46, 133, 105, 182, 1, 155, 132, 4, 1, 167, 255, 43, 177]
abbrev dktX5_passes_9 : List UInt8 := dkwX5_passes_9 ++ []
def dkwX5_passes_8 : List UInt8 := [96, 42, 180, 0, 49, 21, 4, 46, 42, 180, 0, 46, 21, 4, 46, 3, 22, 5, 42, 180, 0, 58, 21, 4]
abbrev dktX5_passes_8 : List UInt8 := dkwX5_passes_8 ++ dktX5_passes_9
def dkwX5_passes_7 : List UInt8 := [182, 1, 155, 42, 180, 0, 28, 21, 4, 46, 5, 161, 0, 43, 42, 42, 180, 0, 64, 21, 4, 46, 21, 7]
abbrev dktX5_passes_7 : List UInt8 := dkwX5_passes_7 ++ dktX5_passes_8
def dkwX5_passes_6 : List UInt8 := [180, 0, 46, 21, 4, 46, 42, 180, 0, 52, 21, 4, 46, 22, 5, 42, 180, 0, 55, 21, 4, 46, 133, 105]
abbrev dktX5_passes_6 : List UInt8 := dkwX5_passes_6 ++ dktX5_passes_7
def dkwX5_passes_5 : List UInt8 := [160, 0, 49, 42, 42, 180, 0, 64, 21, 4, 46, 21, 7, 96, 42, 180, 0, 49, 21, 4, 46, 42]
abbrev dktX5_passes_5 : List UInt8 := dkwX5_passes_5 ++ dktX5_passes_6
def dkwX5_passes_4 : List UInt8 := [22, 5, 42, 180, 0, 55, 21, 4, 46, 133, 105, 182, 1, 155, 42, 180, 0, 28, 21, 4, 46, 6]
abbrev dktX5_passes_4 : List UInt8 := dkwX5_passes_4 ++ dktX5_passes_5
def dkwX5_passes_3 : List UInt8 := [21, 7, 96, 42, 180, 0, 46, 21, 4, 46, 42, 180, 0, 49, 21, 4, 46, 42, 180, 0, 52, 21, 4, 46]
abbrev dktX5_passes_3 : List UInt8 := dkwX5_passes_3 ++ dktX5_passes_4
def dkwX5_passes_2 : List UInt8 := [148, 154, 0, 6, 167, 0, 165, 42, 21, 4, 182, 1, 106, 54, 7, 42, 42, 180, 0, 61, 21, 4, 46]
abbrev dktX5_passes_2 : List UInt8 := dkwX5_passes_2 ++ dktX5_passes_3
def dkwX5_passes_1 : List UInt8 := [21, 4, 182, 1, 100, 154, 0, 6, 167, 0, 185, 42, 21, 4, 28, 29, 182, 1, 151, 55, 5, 22, 5, 9]
abbrev dktX5_passes_1 : List UInt8 := dkwX5_passes_1 ++ dktX5_passes_2
def dkwX5_passes_0 : List UInt8 := [16, 96, 27, 104, 54, 4, 21, 4, 16, 96, 27, 104, 42, 180, 0, 13, 27, 46, 96, 162, 0, 203, 42]
abbrev dktX5_passes_0 : List UInt8 := dkwX5_passes_0 ++ dktX5_passes_1
theorem dksX5_passes_0 : cX5_passes.data.toList.drop 0 = dktX5_passes_0 := by decide +kernel
theorem dksX5_passes_1 : cX5_passes.data.toList.drop 23 = dktX5_passes_1 := dk_seg dksX5_passes_0 23 rfl rfl
theorem dksX5_passes_2 : cX5_passes.data.toList.drop 47 = dktX5_passes_2 := dk_seg dksX5_passes_1 24 rfl rfl
theorem dksX5_passes_3 : cX5_passes.data.toList.drop 70 = dktX5_passes_3 := dk_seg dksX5_passes_2 23 rfl rfl
theorem dksX5_passes_4 : cX5_passes.data.toList.drop 94 = dktX5_passes_4 := dk_seg dksX5_passes_3 24 rfl rfl
theorem dksX5_passes_5 : cX5_passes.data.toList.drop 116 = dktX5_passes_5 := dk_seg dksX5_passes_4 22 rfl rfl
theorem dksX5_passes_6 : cX5_passes.data.toList.drop 138 = dktX5_passes_6 := dk_seg dksX5_passes_5 22 rfl rfl
theorem dksX5_passes_7 : cX5_passes.data.toList.drop 162 = dktX5_passes_7 := dk_seg dksX5_passes_6 24 rfl rfl
theorem dksX5_passes_8 : cX5_passes.data.toList.drop 186 = dktX5_passes_8 := dk_seg dksX5_passes_7 24 rfl rfl
theorem dksX5_passes_9 : cX5_passes.data.toList.drop 210 = dktX5_passes_9 := dk_seg dksX5_passes_8 24 rfl rfl
theorem dX5_passes_0 : decode cX5_passes 0 = .ok (.bipush 96, 2) := dk_16 96 (dk_at dksX5_passes_0 0 rfl rfl)
theorem dX5_passes_2 : decode cX5_passes 2 = .ok (.iload_n 1, 1) := dk_27 (dk_at dksX5_passes_0 2 rfl rfl)
theorem dX5_passes_3 : decode cX5_passes 3 = .ok (.imul, 1) := dk_104 (dk_at dksX5_passes_0 3 rfl rfl)
theorem dX5_passes_4 : decode cX5_passes 4 = .ok (.istore 4, 2) := dk_54 4 (dk_at dksX5_passes_0 4 rfl rfl)
theorem dX5_passes_6 : decode cX5_passes 6 = .ok (.iload 4, 2) := dk_21 4 (dk_at dksX5_passes_0 6 rfl rfl)
theorem dX5_passes_8 : decode cX5_passes 8 = .ok (.bipush 96, 2) := dk_16 96 (dk_at dksX5_passes_0 8 rfl rfl)
theorem dX5_passes_10 : decode cX5_passes 10 = .ok (.iload_n 1, 1) := dk_27 (dk_at dksX5_passes_0 10 rfl rfl)
theorem dX5_passes_11 : decode cX5_passes 11 = .ok (.imul, 1) := dk_104 (dk_at dksX5_passes_0 11 rfl rfl)
theorem dX5_passes_12 : decode cX5_passes 12 = .ok (.aload_n 0, 1) := dk_42 (dk_at dksX5_passes_0 12 rfl rfl)
theorem dX5_passes_13 : decode cX5_passes 13 = .ok (.getfield 13, 3) := dk_180 0 13 (dk_at dksX5_passes_0 13 rfl rfl)
theorem dX5_passes_16 : decode cX5_passes 16 = .ok (.iload_n 1, 1) := dk_27 (dk_at dksX5_passes_0 16 rfl rfl)
theorem dX5_passes_17 : decode cX5_passes 17 = .ok (.iaload, 1) := dk_46 (dk_at dksX5_passes_0 17 rfl rfl)
theorem dX5_passes_18 : decode cX5_passes 18 = .ok (.iadd, 1) := dk_96 (dk_at dksX5_passes_0 18 rfl rfl)
theorem dX5_passes_19 : decode cX5_passes 19 = .ok (.if_icmp .ge 203, 3) := dk_162 0 203 (dk_at dksX5_passes_0 19 rfl rfl)
theorem dX5_passes_22 : decode cX5_passes 22 = .ok (.aload_n 0, 1) := dk_42 (dk_at dksX5_passes_0 22 rfl rfl)
theorem dX5_passes_23 : decode cX5_passes 23 = .ok (.iload 4, 2) := dk_21 4 (dk_at dksX5_passes_1 0 rfl rfl)
theorem dX5_passes_25 : decode cX5_passes 25 = .ok (.invokevirtual 356, 3) := dk_182 1 100 (dk_at dksX5_passes_1 2 rfl rfl)
theorem dX5_passes_28 : decode cX5_passes 28 = .ok (.ifCond .ne 6, 3) := dk_154 0 6 (dk_at dksX5_passes_1 5 rfl rfl)
theorem dX5_passes_31 : decode cX5_passes 31 = .ok (.goto 185, 3) := dk_167 0 185 (dk_at dksX5_passes_1 8 rfl rfl)
theorem dX5_passes_34 : decode cX5_passes 34 = .ok (.aload_n 0, 1) := dk_42 (dk_at dksX5_passes_1 11 rfl rfl)
theorem dX5_passes_35 : decode cX5_passes 35 = .ok (.iload 4, 2) := dk_21 4 (dk_at dksX5_passes_1 12 rfl rfl)
theorem dX5_passes_37 : decode cX5_passes 37 = .ok (.iload_n 2, 1) := dk_28 (dk_at dksX5_passes_1 14 rfl rfl)
theorem dX5_passes_38 : decode cX5_passes 38 = .ok (.iload_n 3, 1) := dk_29 (dk_at dksX5_passes_1 15 rfl rfl)
theorem dX5_passes_39 : decode cX5_passes 39 = .ok (.invokevirtual 407, 3) := dk_182 1 151 (dk_at dksX5_passes_1 16 rfl rfl)
theorem dX5_passes_42 : decode cX5_passes 42 = .ok (.lstore 5, 2) := dk_55 5 (dk_at dksX5_passes_1 19 rfl rfl)
theorem dX5_passes_44 : decode cX5_passes 44 = .ok (.lload 5, 2) := dk_22 5 (dk_at dksX5_passes_1 21 rfl rfl)
theorem dX5_passes_46 : decode cX5_passes 46 = .ok (.lconst 0, 1) := dk_9 (dk_at dksX5_passes_1 23 rfl rfl)
theorem dX5_passes_47 : decode cX5_passes 47 = .ok (.lcmp, 1) := dk_148 (dk_at dksX5_passes_2 0 rfl rfl)
theorem dX5_passes_48 : decode cX5_passes 48 = .ok (.ifCond .ne 6, 3) := dk_154 0 6 (dk_at dksX5_passes_2 1 rfl rfl)
theorem dX5_passes_51 : decode cX5_passes 51 = .ok (.goto 165, 3) := dk_167 0 165 (dk_at dksX5_passes_2 4 rfl rfl)
theorem dX5_passes_54 : decode cX5_passes 54 = .ok (.aload_n 0, 1) := dk_42 (dk_at dksX5_passes_2 7 rfl rfl)
theorem dX5_passes_55 : decode cX5_passes 55 = .ok (.iload 4, 2) := dk_21 4 (dk_at dksX5_passes_2 8 rfl rfl)
theorem dX5_passes_57 : decode cX5_passes 57 = .ok (.invokevirtual 362, 3) := dk_182 1 106 (dk_at dksX5_passes_2 10 rfl rfl)
theorem dX5_passes_60 : decode cX5_passes 60 = .ok (.istore 7, 2) := dk_54 7 (dk_at dksX5_passes_2 13 rfl rfl)
theorem dX5_passes_62 : decode cX5_passes 62 = .ok (.aload_n 0, 1) := dk_42 (dk_at dksX5_passes_2 15 rfl rfl)
theorem dX5_passes_63 : decode cX5_passes 63 = .ok (.aload_n 0, 1) := dk_42 (dk_at dksX5_passes_2 16 rfl rfl)
theorem dX5_passes_64 : decode cX5_passes 64 = .ok (.getfield 61, 3) := dk_180 0 61 (dk_at dksX5_passes_2 17 rfl rfl)
theorem dX5_passes_67 : decode cX5_passes 67 = .ok (.iload 4, 2) := dk_21 4 (dk_at dksX5_passes_2 20 rfl rfl)
theorem dX5_passes_69 : decode cX5_passes 69 = .ok (.iaload, 1) := dk_46 (dk_at dksX5_passes_2 22 rfl rfl)
theorem dX5_passes_70 : decode cX5_passes 70 = .ok (.iload 7, 2) := dk_21 7 (dk_at dksX5_passes_3 0 rfl rfl)
theorem dX5_passes_72 : decode cX5_passes 72 = .ok (.iadd, 1) := dk_96 (dk_at dksX5_passes_3 2 rfl rfl)
theorem dX5_passes_73 : decode cX5_passes 73 = .ok (.aload_n 0, 1) := dk_42 (dk_at dksX5_passes_3 3 rfl rfl)
theorem dX5_passes_74 : decode cX5_passes 74 = .ok (.getfield 46, 3) := dk_180 0 46 (dk_at dksX5_passes_3 4 rfl rfl)
theorem dX5_passes_77 : decode cX5_passes 77 = .ok (.iload 4, 2) := dk_21 4 (dk_at dksX5_passes_3 7 rfl rfl)
theorem dX5_passes_79 : decode cX5_passes 79 = .ok (.iaload, 1) := dk_46 (dk_at dksX5_passes_3 9 rfl rfl)
theorem dX5_passes_80 : decode cX5_passes 80 = .ok (.aload_n 0, 1) := dk_42 (dk_at dksX5_passes_3 10 rfl rfl)
theorem dX5_passes_81 : decode cX5_passes 81 = .ok (.getfield 49, 3) := dk_180 0 49 (dk_at dksX5_passes_3 11 rfl rfl)
theorem dX5_passes_84 : decode cX5_passes 84 = .ok (.iload 4, 2) := dk_21 4 (dk_at dksX5_passes_3 14 rfl rfl)
theorem dX5_passes_86 : decode cX5_passes 86 = .ok (.iaload, 1) := dk_46 (dk_at dksX5_passes_3 16 rfl rfl)
theorem dX5_passes_87 : decode cX5_passes 87 = .ok (.aload_n 0, 1) := dk_42 (dk_at dksX5_passes_3 17 rfl rfl)
theorem dX5_passes_88 : decode cX5_passes 88 = .ok (.getfield 52, 3) := dk_180 0 52 (dk_at dksX5_passes_3 18 rfl rfl)
theorem dX5_passes_91 : decode cX5_passes 91 = .ok (.iload 4, 2) := dk_21 4 (dk_at dksX5_passes_3 21 rfl rfl)
theorem dX5_passes_93 : decode cX5_passes 93 = .ok (.iaload, 1) := dk_46 (dk_at dksX5_passes_3 23 rfl rfl)
theorem dX5_passes_94 : decode cX5_passes 94 = .ok (.lload 5, 2) := dk_22 5 (dk_at dksX5_passes_4 0 rfl rfl)
theorem dX5_passes_96 : decode cX5_passes 96 = .ok (.aload_n 0, 1) := dk_42 (dk_at dksX5_passes_4 2 rfl rfl)
theorem dX5_passes_97 : decode cX5_passes 97 = .ok (.getfield 55, 3) := dk_180 0 55 (dk_at dksX5_passes_4 3 rfl rfl)
theorem dX5_passes_100 : decode cX5_passes 100 = .ok (.iload 4, 2) := dk_21 4 (dk_at dksX5_passes_4 6 rfl rfl)
theorem dX5_passes_102 : decode cX5_passes 102 = .ok (.iaload, 1) := dk_46 (dk_at dksX5_passes_4 8 rfl rfl)
theorem dX5_passes_103 : decode cX5_passes 103 = .ok (.i2l, 1) := dk_133 (dk_at dksX5_passes_4 9 rfl rfl)
theorem dX5_passes_104 : decode cX5_passes 104 = .ok (.lmul, 1) := dk_105 (dk_at dksX5_passes_4 10 rfl rfl)
theorem dX5_passes_105 : decode cX5_passes 105 = .ok (.invokevirtual 411, 3) := dk_182 1 155 (dk_at dksX5_passes_4 11 rfl rfl)
theorem dX5_passes_108 : decode cX5_passes 108 = .ok (.aload_n 0, 1) := dk_42 (dk_at dksX5_passes_4 14 rfl rfl)
theorem dX5_passes_109 : decode cX5_passes 109 = .ok (.getfield 28, 3) := dk_180 0 28 (dk_at dksX5_passes_4 15 rfl rfl)
theorem dX5_passes_112 : decode cX5_passes 112 = .ok (.iload 4, 2) := dk_21 4 (dk_at dksX5_passes_4 18 rfl rfl)
theorem dX5_passes_114 : decode cX5_passes 114 = .ok (.iaload, 1) := dk_46 (dk_at dksX5_passes_4 20 rfl rfl)
theorem dX5_passes_115 : decode cX5_passes 115 = .ok (.iconst 3, 1) := dk_6 (dk_at dksX5_passes_4 21 rfl rfl)
theorem dX5_passes_116 : decode cX5_passes 116 = .ok (.if_icmp .ne 49, 3) := dk_160 0 49 (dk_at dksX5_passes_5 0 rfl rfl)
theorem dX5_passes_119 : decode cX5_passes 119 = .ok (.aload_n 0, 1) := dk_42 (dk_at dksX5_passes_5 3 rfl rfl)
theorem dX5_passes_120 : decode cX5_passes 120 = .ok (.aload_n 0, 1) := dk_42 (dk_at dksX5_passes_5 4 rfl rfl)
theorem dX5_passes_121 : decode cX5_passes 121 = .ok (.getfield 64, 3) := dk_180 0 64 (dk_at dksX5_passes_5 5 rfl rfl)
theorem dX5_passes_124 : decode cX5_passes 124 = .ok (.iload 4, 2) := dk_21 4 (dk_at dksX5_passes_5 8 rfl rfl)
theorem dX5_passes_126 : decode cX5_passes 126 = .ok (.iaload, 1) := dk_46 (dk_at dksX5_passes_5 10 rfl rfl)
theorem dX5_passes_127 : decode cX5_passes 127 = .ok (.iload 7, 2) := dk_21 7 (dk_at dksX5_passes_5 11 rfl rfl)
theorem dX5_passes_129 : decode cX5_passes 129 = .ok (.iadd, 1) := dk_96 (dk_at dksX5_passes_5 13 rfl rfl)
theorem dX5_passes_130 : decode cX5_passes 130 = .ok (.aload_n 0, 1) := dk_42 (dk_at dksX5_passes_5 14 rfl rfl)
theorem dX5_passes_131 : decode cX5_passes 131 = .ok (.getfield 49, 3) := dk_180 0 49 (dk_at dksX5_passes_5 15 rfl rfl)
theorem dX5_passes_134 : decode cX5_passes 134 = .ok (.iload 4, 2) := dk_21 4 (dk_at dksX5_passes_5 18 rfl rfl)
theorem dX5_passes_136 : decode cX5_passes 136 = .ok (.iaload, 1) := dk_46 (dk_at dksX5_passes_5 20 rfl rfl)
theorem dX5_passes_137 : decode cX5_passes 137 = .ok (.aload_n 0, 1) := dk_42 (dk_at dksX5_passes_5 21 rfl rfl)
theorem dX5_passes_138 : decode cX5_passes 138 = .ok (.getfield 46, 3) := dk_180 0 46 (dk_at dksX5_passes_6 0 rfl rfl)
theorem dX5_passes_141 : decode cX5_passes 141 = .ok (.iload 4, 2) := dk_21 4 (dk_at dksX5_passes_6 3 rfl rfl)
theorem dX5_passes_143 : decode cX5_passes 143 = .ok (.iaload, 1) := dk_46 (dk_at dksX5_passes_6 5 rfl rfl)
theorem dX5_passes_144 : decode cX5_passes 144 = .ok (.aload_n 0, 1) := dk_42 (dk_at dksX5_passes_6 6 rfl rfl)
theorem dX5_passes_145 : decode cX5_passes 145 = .ok (.getfield 52, 3) := dk_180 0 52 (dk_at dksX5_passes_6 7 rfl rfl)
theorem dX5_passes_148 : decode cX5_passes 148 = .ok (.iload 4, 2) := dk_21 4 (dk_at dksX5_passes_6 10 rfl rfl)
theorem dX5_passes_150 : decode cX5_passes 150 = .ok (.iaload, 1) := dk_46 (dk_at dksX5_passes_6 12 rfl rfl)
theorem dX5_passes_151 : decode cX5_passes 151 = .ok (.lload 5, 2) := dk_22 5 (dk_at dksX5_passes_6 13 rfl rfl)
theorem dX5_passes_153 : decode cX5_passes 153 = .ok (.aload_n 0, 1) := dk_42 (dk_at dksX5_passes_6 15 rfl rfl)
theorem dX5_passes_154 : decode cX5_passes 154 = .ok (.getfield 55, 3) := dk_180 0 55 (dk_at dksX5_passes_6 16 rfl rfl)
theorem dX5_passes_157 : decode cX5_passes 157 = .ok (.iload 4, 2) := dk_21 4 (dk_at dksX5_passes_6 19 rfl rfl)
theorem dX5_passes_159 : decode cX5_passes 159 = .ok (.iaload, 1) := dk_46 (dk_at dksX5_passes_6 21 rfl rfl)
theorem dX5_passes_160 : decode cX5_passes 160 = .ok (.i2l, 1) := dk_133 (dk_at dksX5_passes_6 22 rfl rfl)
theorem dX5_passes_161 : decode cX5_passes 161 = .ok (.lmul, 1) := dk_105 (dk_at dksX5_passes_6 23 rfl rfl)
theorem dX5_passes_162 : decode cX5_passes 162 = .ok (.invokevirtual 411, 3) := dk_182 1 155 (dk_at dksX5_passes_7 0 rfl rfl)
theorem dX5_passes_165 : decode cX5_passes 165 = .ok (.aload_n 0, 1) := dk_42 (dk_at dksX5_passes_7 3 rfl rfl)
theorem dX5_passes_166 : decode cX5_passes 166 = .ok (.getfield 28, 3) := dk_180 0 28 (dk_at dksX5_passes_7 4 rfl rfl)
theorem dX5_passes_169 : decode cX5_passes 169 = .ok (.iload 4, 2) := dk_21 4 (dk_at dksX5_passes_7 7 rfl rfl)
theorem dX5_passes_171 : decode cX5_passes 171 = .ok (.iaload, 1) := dk_46 (dk_at dksX5_passes_7 9 rfl rfl)
theorem dX5_passes_172 : decode cX5_passes 172 = .ok (.iconst 2, 1) := dk_5 (dk_at dksX5_passes_7 10 rfl rfl)
theorem dX5_passes_173 : decode cX5_passes 173 = .ok (.if_icmp .lt 43, 3) := dk_161 0 43 (dk_at dksX5_passes_7 11 rfl rfl)
theorem dX5_passes_176 : decode cX5_passes 176 = .ok (.aload_n 0, 1) := dk_42 (dk_at dksX5_passes_7 14 rfl rfl)
theorem dX5_passes_177 : decode cX5_passes 177 = .ok (.aload_n 0, 1) := dk_42 (dk_at dksX5_passes_7 15 rfl rfl)
theorem dX5_passes_178 : decode cX5_passes 178 = .ok (.getfield 64, 3) := dk_180 0 64 (dk_at dksX5_passes_7 16 rfl rfl)
theorem dX5_passes_181 : decode cX5_passes 181 = .ok (.iload 4, 2) := dk_21 4 (dk_at dksX5_passes_7 19 rfl rfl)
theorem dX5_passes_183 : decode cX5_passes 183 = .ok (.iaload, 1) := dk_46 (dk_at dksX5_passes_7 21 rfl rfl)
theorem dX5_passes_184 : decode cX5_passes 184 = .ok (.iload 7, 2) := dk_21 7 (dk_at dksX5_passes_7 22 rfl rfl)
theorem dX5_passes_186 : decode cX5_passes 186 = .ok (.iadd, 1) := dk_96 (dk_at dksX5_passes_8 0 rfl rfl)
theorem dX5_passes_187 : decode cX5_passes 187 = .ok (.aload_n 0, 1) := dk_42 (dk_at dksX5_passes_8 1 rfl rfl)
theorem dX5_passes_188 : decode cX5_passes 188 = .ok (.getfield 49, 3) := dk_180 0 49 (dk_at dksX5_passes_8 2 rfl rfl)
theorem dX5_passes_191 : decode cX5_passes 191 = .ok (.iload 4, 2) := dk_21 4 (dk_at dksX5_passes_8 5 rfl rfl)
theorem dX5_passes_193 : decode cX5_passes 193 = .ok (.iaload, 1) := dk_46 (dk_at dksX5_passes_8 7 rfl rfl)
theorem dX5_passes_194 : decode cX5_passes 194 = .ok (.aload_n 0, 1) := dk_42 (dk_at dksX5_passes_8 8 rfl rfl)
theorem dX5_passes_195 : decode cX5_passes 195 = .ok (.getfield 46, 3) := dk_180 0 46 (dk_at dksX5_passes_8 9 rfl rfl)
theorem dX5_passes_198 : decode cX5_passes 198 = .ok (.iload 4, 2) := dk_21 4 (dk_at dksX5_passes_8 12 rfl rfl)
theorem dX5_passes_200 : decode cX5_passes 200 = .ok (.iaload, 1) := dk_46 (dk_at dksX5_passes_8 14 rfl rfl)
theorem dX5_passes_201 : decode cX5_passes 201 = .ok (.iconst 0, 1) := dk_3 (dk_at dksX5_passes_8 15 rfl rfl)
theorem dX5_passes_202 : decode cX5_passes 202 = .ok (.lload 5, 2) := dk_22 5 (dk_at dksX5_passes_8 16 rfl rfl)
theorem dX5_passes_204 : decode cX5_passes 204 = .ok (.aload_n 0, 1) := dk_42 (dk_at dksX5_passes_8 18 rfl rfl)
theorem dX5_passes_205 : decode cX5_passes 205 = .ok (.getfield 58, 3) := dk_180 0 58 (dk_at dksX5_passes_8 19 rfl rfl)
theorem dX5_passes_208 : decode cX5_passes 208 = .ok (.iload 4, 2) := dk_21 4 (dk_at dksX5_passes_8 22 rfl rfl)
theorem dX5_passes_210 : decode cX5_passes 210 = .ok (.iaload, 1) := dk_46 (dk_at dksX5_passes_9 0 rfl rfl)
theorem dX5_passes_211 : decode cX5_passes 211 = .ok (.i2l, 1) := dk_133 (dk_at dksX5_passes_9 1 rfl rfl)
theorem dX5_passes_212 : decode cX5_passes 212 = .ok (.lmul, 1) := dk_105 (dk_at dksX5_passes_9 2 rfl rfl)
theorem dX5_passes_213 : decode cX5_passes 213 = .ok (.invokevirtual 411, 3) := dk_182 1 155 (dk_at dksX5_passes_9 3 rfl rfl)
theorem dX5_passes_216 : decode cX5_passes 216 = .ok (.iinc 4 1, 3) := dk_132 4 1 (dk_at dksX5_passes_9 6 rfl rfl)
theorem dX5_passes_219 : decode cX5_passes 219 = .ok (.goto (-213), 3) := dk_167 255 43 (dk_at dksX5_passes_9 9 rfl rfl)
theorem dX5_passes_222 : decode cX5_passes 222 = .ok (.return_, 1) := dk_177 (dk_at dksX5_passes_9 12 rfl rfl)
abbrev cX5_times : ByteArray := prog_24_method_31_code
def yX5_times : MethodName := ⟨RX5, "times", "(III)J"⟩
def dkwX5_times_5 : List UInt8 := [126, 42, 180, 0, 37, 21, 6, 46, 159, 0, 6, 9, 55, 4, 21, 7, 54, 6, 167, 255, 126, 22, 4, 173]
abbrev dktX5_times_5 : List UInt8 := dkwX5_times_5 ++ []
def dkwX5_times_4 : List UInt8 := [42, 180, 0, 28, 21, 7, 46, 16, 7, 160, 0, 29, 28, 29, 42, 180, 0, 31, 21, 7, 46, 96, 122, 4]
abbrev dktX5_times_4 : List UInt8 := dkwX5_times_4 ++ dktX5_times_5
def dkwX5_times_3 : List UInt8 := [180, 0, 31, 21, 7, 46, 122, 4, 126, 4, 42, 180, 0, 37, 21, 6, 46, 100, 159, 0, 6, 9, 55, 4]
abbrev dktX5_times_3 : List UInt8 := dkwX5_times_3 ++ dktX5_times_4
def dkwX5_times_2 : List UInt8 := [180, 0, 31, 21, 7, 46, 133, 105, 55, 4, 42, 180, 0, 28, 21, 7, 46, 16, 6, 160, 0, 29, 28, 42]
abbrev dktX5_times_2 : List UInt8 := dkwX5_times_2 ++ dktX5_times_3
def dkwX5_times_1 : List UInt8 := [180, 0, 34, 21, 6, 46, 54, 7, 42, 180, 0, 28, 21, 7, 46, 8, 160, 0, 16, 22, 4, 42]
abbrev dktX5_times_1 : List UInt8 := dkwX5_times_1 ++ dktX5_times_2
def dkwX5_times_0 : List UInt8 := [10, 55, 4, 27, 54, 6, 22, 4, 9, 148, 158, 0, 129, 42, 180, 0, 34, 21, 6, 46, 155, 0, 119, 42]
abbrev dktX5_times_0 : List UInt8 := dkwX5_times_0 ++ dktX5_times_1
theorem dksX5_times_0 : cX5_times.data.toList.drop 0 = dktX5_times_0 := by decide +kernel
theorem dksX5_times_1 : cX5_times.data.toList.drop 24 = dktX5_times_1 := dk_seg dksX5_times_0 24 rfl rfl
theorem dksX5_times_2 : cX5_times.data.toList.drop 46 = dktX5_times_2 := dk_seg dksX5_times_1 22 rfl rfl
theorem dksX5_times_3 : cX5_times.data.toList.drop 70 = dktX5_times_3 := dk_seg dksX5_times_2 24 rfl rfl
theorem dksX5_times_4 : cX5_times.data.toList.drop 94 = dktX5_times_4 := dk_seg dksX5_times_3 24 rfl rfl
theorem dksX5_times_5 : cX5_times.data.toList.drop 118 = dktX5_times_5 := dk_seg dksX5_times_4 24 rfl rfl
theorem dX5_times_0 : decode cX5_times 0 = .ok (.lconst 1, 1) := dk_10 (dk_at dksX5_times_0 0 rfl rfl)
theorem dX5_times_1 : decode cX5_times 1 = .ok (.lstore 4, 2) := dk_55 4 (dk_at dksX5_times_0 1 rfl rfl)
theorem dX5_times_3 : decode cX5_times 3 = .ok (.iload_n 1, 1) := dk_27 (dk_at dksX5_times_0 3 rfl rfl)
theorem dX5_times_4 : decode cX5_times 4 = .ok (.istore 6, 2) := dk_54 6 (dk_at dksX5_times_0 4 rfl rfl)
theorem dX5_times_6 : decode cX5_times 6 = .ok (.lload 4, 2) := dk_22 4 (dk_at dksX5_times_0 6 rfl rfl)
theorem dX5_times_8 : decode cX5_times 8 = .ok (.lconst 0, 1) := dk_9 (dk_at dksX5_times_0 8 rfl rfl)
theorem dX5_times_9 : decode cX5_times 9 = .ok (.lcmp, 1) := dk_148 (dk_at dksX5_times_0 9 rfl rfl)
theorem dX5_times_10 : decode cX5_times 10 = .ok (.ifCond .le 129, 3) := dk_158 0 129 (dk_at dksX5_times_0 10 rfl rfl)
theorem dX5_times_13 : decode cX5_times 13 = .ok (.aload_n 0, 1) := dk_42 (dk_at dksX5_times_0 13 rfl rfl)
theorem dX5_times_14 : decode cX5_times 14 = .ok (.getfield 34, 3) := dk_180 0 34 (dk_at dksX5_times_0 14 rfl rfl)
theorem dX5_times_17 : decode cX5_times 17 = .ok (.iload 6, 2) := dk_21 6 (dk_at dksX5_times_0 17 rfl rfl)
theorem dX5_times_19 : decode cX5_times 19 = .ok (.iaload, 1) := dk_46 (dk_at dksX5_times_0 19 rfl rfl)
theorem dX5_times_20 : decode cX5_times 20 = .ok (.ifCond .lt 119, 3) := dk_155 0 119 (dk_at dksX5_times_0 20 rfl rfl)
theorem dX5_times_23 : decode cX5_times 23 = .ok (.aload_n 0, 1) := dk_42 (dk_at dksX5_times_0 23 rfl rfl)
theorem dX5_times_24 : decode cX5_times 24 = .ok (.getfield 34, 3) := dk_180 0 34 (dk_at dksX5_times_1 0 rfl rfl)
theorem dX5_times_27 : decode cX5_times 27 = .ok (.iload 6, 2) := dk_21 6 (dk_at dksX5_times_1 3 rfl rfl)
theorem dX5_times_29 : decode cX5_times 29 = .ok (.iaload, 1) := dk_46 (dk_at dksX5_times_1 5 rfl rfl)
theorem dX5_times_30 : decode cX5_times 30 = .ok (.istore 7, 2) := dk_54 7 (dk_at dksX5_times_1 6 rfl rfl)
theorem dX5_times_32 : decode cX5_times 32 = .ok (.aload_n 0, 1) := dk_42 (dk_at dksX5_times_1 8 rfl rfl)
theorem dX5_times_33 : decode cX5_times 33 = .ok (.getfield 28, 3) := dk_180 0 28 (dk_at dksX5_times_1 9 rfl rfl)
theorem dX5_times_36 : decode cX5_times 36 = .ok (.iload 7, 2) := dk_21 7 (dk_at dksX5_times_1 12 rfl rfl)
theorem dX5_times_38 : decode cX5_times 38 = .ok (.iaload, 1) := dk_46 (dk_at dksX5_times_1 14 rfl rfl)
theorem dX5_times_39 : decode cX5_times 39 = .ok (.iconst 5, 1) := dk_8 (dk_at dksX5_times_1 15 rfl rfl)
theorem dX5_times_40 : decode cX5_times 40 = .ok (.if_icmp .ne 16, 3) := dk_160 0 16 (dk_at dksX5_times_1 16 rfl rfl)
theorem dX5_times_43 : decode cX5_times 43 = .ok (.lload 4, 2) := dk_22 4 (dk_at dksX5_times_1 19 rfl rfl)
theorem dX5_times_45 : decode cX5_times 45 = .ok (.aload_n 0, 1) := dk_42 (dk_at dksX5_times_1 21 rfl rfl)
theorem dX5_times_46 : decode cX5_times 46 = .ok (.getfield 31, 3) := dk_180 0 31 (dk_at dksX5_times_2 0 rfl rfl)
theorem dX5_times_49 : decode cX5_times 49 = .ok (.iload 7, 2) := dk_21 7 (dk_at dksX5_times_2 3 rfl rfl)
theorem dX5_times_51 : decode cX5_times 51 = .ok (.iaload, 1) := dk_46 (dk_at dksX5_times_2 5 rfl rfl)
theorem dX5_times_52 : decode cX5_times 52 = .ok (.i2l, 1) := dk_133 (dk_at dksX5_times_2 6 rfl rfl)
theorem dX5_times_53 : decode cX5_times 53 = .ok (.lmul, 1) := dk_105 (dk_at dksX5_times_2 7 rfl rfl)
theorem dX5_times_54 : decode cX5_times 54 = .ok (.lstore 4, 2) := dk_55 4 (dk_at dksX5_times_2 8 rfl rfl)
theorem dX5_times_56 : decode cX5_times 56 = .ok (.aload_n 0, 1) := dk_42 (dk_at dksX5_times_2 10 rfl rfl)
theorem dX5_times_57 : decode cX5_times 57 = .ok (.getfield 28, 3) := dk_180 0 28 (dk_at dksX5_times_2 11 rfl rfl)
theorem dX5_times_60 : decode cX5_times 60 = .ok (.iload 7, 2) := dk_21 7 (dk_at dksX5_times_2 14 rfl rfl)
theorem dX5_times_62 : decode cX5_times 62 = .ok (.iaload, 1) := dk_46 (dk_at dksX5_times_2 16 rfl rfl)
theorem dX5_times_63 : decode cX5_times 63 = .ok (.bipush 6, 2) := dk_16 6 (dk_at dksX5_times_2 17 rfl rfl)
theorem dX5_times_65 : decode cX5_times 65 = .ok (.if_icmp .ne 29, 3) := dk_160 0 29 (dk_at dksX5_times_2 19 rfl rfl)
theorem dX5_times_68 : decode cX5_times 68 = .ok (.iload_n 2, 1) := dk_28 (dk_at dksX5_times_2 22 rfl rfl)
theorem dX5_times_69 : decode cX5_times 69 = .ok (.aload_n 0, 1) := dk_42 (dk_at dksX5_times_2 23 rfl rfl)
theorem dX5_times_70 : decode cX5_times 70 = .ok (.getfield 31, 3) := dk_180 0 31 (dk_at dksX5_times_3 0 rfl rfl)
theorem dX5_times_73 : decode cX5_times 73 = .ok (.iload 7, 2) := dk_21 7 (dk_at dksX5_times_3 3 rfl rfl)
theorem dX5_times_75 : decode cX5_times 75 = .ok (.iaload, 1) := dk_46 (dk_at dksX5_times_3 5 rfl rfl)
theorem dX5_times_76 : decode cX5_times 76 = .ok (.ishr, 1) := dk_122 (dk_at dksX5_times_3 6 rfl rfl)
theorem dX5_times_77 : decode cX5_times 77 = .ok (.iconst 1, 1) := dk_4 (dk_at dksX5_times_3 7 rfl rfl)
theorem dX5_times_78 : decode cX5_times 78 = .ok (.iand, 1) := dk_126 (dk_at dksX5_times_3 8 rfl rfl)
theorem dX5_times_79 : decode cX5_times 79 = .ok (.iconst 1, 1) := dk_4 (dk_at dksX5_times_3 9 rfl rfl)
theorem dX5_times_80 : decode cX5_times 80 = .ok (.aload_n 0, 1) := dk_42 (dk_at dksX5_times_3 10 rfl rfl)
theorem dX5_times_81 : decode cX5_times 81 = .ok (.getfield 37, 3) := dk_180 0 37 (dk_at dksX5_times_3 11 rfl rfl)
theorem dX5_times_84 : decode cX5_times 84 = .ok (.iload 6, 2) := dk_21 6 (dk_at dksX5_times_3 14 rfl rfl)
theorem dX5_times_86 : decode cX5_times 86 = .ok (.iaload, 1) := dk_46 (dk_at dksX5_times_3 16 rfl rfl)
theorem dX5_times_87 : decode cX5_times 87 = .ok (.isub, 1) := dk_100 (dk_at dksX5_times_3 17 rfl rfl)
theorem dX5_times_88 : decode cX5_times 88 = .ok (.if_icmp .eq 6, 3) := dk_159 0 6 (dk_at dksX5_times_3 18 rfl rfl)
theorem dX5_times_91 : decode cX5_times 91 = .ok (.lconst 0, 1) := dk_9 (dk_at dksX5_times_3 21 rfl rfl)
theorem dX5_times_92 : decode cX5_times 92 = .ok (.lstore 4, 2) := dk_55 4 (dk_at dksX5_times_3 22 rfl rfl)
theorem dX5_times_94 : decode cX5_times 94 = .ok (.aload_n 0, 1) := dk_42 (dk_at dksX5_times_4 0 rfl rfl)
theorem dX5_times_95 : decode cX5_times 95 = .ok (.getfield 28, 3) := dk_180 0 28 (dk_at dksX5_times_4 1 rfl rfl)
theorem dX5_times_98 : decode cX5_times 98 = .ok (.iload 7, 2) := dk_21 7 (dk_at dksX5_times_4 4 rfl rfl)
theorem dX5_times_100 : decode cX5_times 100 = .ok (.iaload, 1) := dk_46 (dk_at dksX5_times_4 6 rfl rfl)
theorem dX5_times_101 : decode cX5_times 101 = .ok (.bipush 7, 2) := dk_16 7 (dk_at dksX5_times_4 7 rfl rfl)
theorem dX5_times_103 : decode cX5_times 103 = .ok (.if_icmp .ne 29, 3) := dk_160 0 29 (dk_at dksX5_times_4 9 rfl rfl)
theorem dX5_times_106 : decode cX5_times 106 = .ok (.iload_n 2, 1) := dk_28 (dk_at dksX5_times_4 12 rfl rfl)
theorem dX5_times_107 : decode cX5_times 107 = .ok (.iload_n 3, 1) := dk_29 (dk_at dksX5_times_4 13 rfl rfl)
theorem dX5_times_108 : decode cX5_times 108 = .ok (.aload_n 0, 1) := dk_42 (dk_at dksX5_times_4 14 rfl rfl)
theorem dX5_times_109 : decode cX5_times 109 = .ok (.getfield 31, 3) := dk_180 0 31 (dk_at dksX5_times_4 15 rfl rfl)
theorem dX5_times_112 : decode cX5_times 112 = .ok (.iload 7, 2) := dk_21 7 (dk_at dksX5_times_4 18 rfl rfl)
theorem dX5_times_114 : decode cX5_times 114 = .ok (.iaload, 1) := dk_46 (dk_at dksX5_times_4 20 rfl rfl)
theorem dX5_times_115 : decode cX5_times 115 = .ok (.iadd, 1) := dk_96 (dk_at dksX5_times_4 21 rfl rfl)
theorem dX5_times_116 : decode cX5_times 116 = .ok (.ishr, 1) := dk_122 (dk_at dksX5_times_4 22 rfl rfl)
theorem dX5_times_117 : decode cX5_times 117 = .ok (.iconst 1, 1) := dk_4 (dk_at dksX5_times_4 23 rfl rfl)
theorem dX5_times_118 : decode cX5_times 118 = .ok (.iand, 1) := dk_126 (dk_at dksX5_times_5 0 rfl rfl)
theorem dX5_times_119 : decode cX5_times 119 = .ok (.aload_n 0, 1) := dk_42 (dk_at dksX5_times_5 1 rfl rfl)
theorem dX5_times_120 : decode cX5_times 120 = .ok (.getfield 37, 3) := dk_180 0 37 (dk_at dksX5_times_5 2 rfl rfl)
theorem dX5_times_123 : decode cX5_times 123 = .ok (.iload 6, 2) := dk_21 6 (dk_at dksX5_times_5 5 rfl rfl)
theorem dX5_times_125 : decode cX5_times 125 = .ok (.iaload, 1) := dk_46 (dk_at dksX5_times_5 7 rfl rfl)
theorem dX5_times_126 : decode cX5_times 126 = .ok (.if_icmp .eq 6, 3) := dk_159 0 6 (dk_at dksX5_times_5 8 rfl rfl)
theorem dX5_times_129 : decode cX5_times 129 = .ok (.lconst 0, 1) := dk_9 (dk_at dksX5_times_5 11 rfl rfl)
theorem dX5_times_130 : decode cX5_times 130 = .ok (.lstore 4, 2) := dk_55 4 (dk_at dksX5_times_5 12 rfl rfl)
theorem dX5_times_132 : decode cX5_times 132 = .ok (.iload 7, 2) := dk_21 7 (dk_at dksX5_times_5 14 rfl rfl)
theorem dX5_times_134 : decode cX5_times 134 = .ok (.istore 6, 2) := dk_54 6 (dk_at dksX5_times_5 16 rfl rfl)
theorem dX5_times_136 : decode cX5_times 136 = .ok (.goto (-130), 3) := dk_167 255 126 (dk_at dksX5_times_5 18 rfl rfl)
theorem dX5_times_139 : decode cX5_times 139 = .ok (.lload 4, 2) := dk_22 4 (dk_at dksX5_times_5 21 rfl rfl)
theorem dX5_times_141 : decode cX5_times 141 = .ok (.lreturn, 1) := dk_173 (dk_at dksX5_times_5 23 rfl rfl)
abbrev cX5_flow : ByteArray := prog_24_method_41_code
def yX5_flow : MethodName := ⟨RX5, "flow", "(IIIIJ)V"⟩
def dkwX5_flow_3 : List UInt8 := [177]
abbrev dktX5_flow_3 : List UInt8 := dkwX5_flow_3 ++ []
def dkwX5_flow_2 : List UInt8 := [21, 4, 79, 42, 180, 0, 109, 42, 180, 1, 148, 22, 5, 80, 42, 89, 180, 1, 148, 4, 96, 181, 1, 148]
abbrev dktX5_flow_2 : List UInt8 := dkwX5_flow_2 ++ dktX5_flow_3
def dkwX5_flow_1 : List UInt8 := [180, 1, 148, 28, 79, 42, 180, 0, 103, 42, 180, 1, 148, 29, 79, 42, 180, 0, 106, 42, 180, 1, 148]
abbrev dktX5_flow_1 : List UInt8 := dkwX5_flow_1 ++ dktX5_flow_2
def dkwX5_flow_0 : List UInt8 := [22, 5, 9, 148, 154, 0, 4, 177, 42, 180, 0, 97, 42, 180, 1, 148, 27, 79, 42, 180, 0, 100, 42]
abbrev dktX5_flow_0 : List UInt8 := dkwX5_flow_0 ++ dktX5_flow_1
theorem dksX5_flow_0 : cX5_flow.data.toList.drop 0 = dktX5_flow_0 := by decide +kernel
theorem dksX5_flow_1 : cX5_flow.data.toList.drop 23 = dktX5_flow_1 := dk_seg dksX5_flow_0 23 rfl rfl
theorem dksX5_flow_2 : cX5_flow.data.toList.drop 46 = dktX5_flow_2 := dk_seg dksX5_flow_1 23 rfl rfl
theorem dksX5_flow_3 : cX5_flow.data.toList.drop 70 = dktX5_flow_3 := dk_seg dksX5_flow_2 24 rfl rfl
theorem dX5_flow_0 : decode cX5_flow 0 = .ok (.lload 5, 2) := dk_22 5 (dk_at dksX5_flow_0 0 rfl rfl)
theorem dX5_flow_2 : decode cX5_flow 2 = .ok (.lconst 0, 1) := dk_9 (dk_at dksX5_flow_0 2 rfl rfl)
theorem dX5_flow_3 : decode cX5_flow 3 = .ok (.lcmp, 1) := dk_148 (dk_at dksX5_flow_0 3 rfl rfl)
theorem dX5_flow_4 : decode cX5_flow 4 = .ok (.ifCond .ne 4, 3) := dk_154 0 4 (dk_at dksX5_flow_0 4 rfl rfl)
theorem dX5_flow_7 : decode cX5_flow 7 = .ok (.return_, 1) := dk_177 (dk_at dksX5_flow_0 7 rfl rfl)
theorem dX5_flow_8 : decode cX5_flow 8 = .ok (.aload_n 0, 1) := dk_42 (dk_at dksX5_flow_0 8 rfl rfl)
theorem dX5_flow_9 : decode cX5_flow 9 = .ok (.getfield 97, 3) := dk_180 0 97 (dk_at dksX5_flow_0 9 rfl rfl)
theorem dX5_flow_12 : decode cX5_flow 12 = .ok (.aload_n 0, 1) := dk_42 (dk_at dksX5_flow_0 12 rfl rfl)
theorem dX5_flow_13 : decode cX5_flow 13 = .ok (.getfield 404, 3) := dk_180 1 148 (dk_at dksX5_flow_0 13 rfl rfl)
theorem dX5_flow_16 : decode cX5_flow 16 = .ok (.iload_n 1, 1) := dk_27 (dk_at dksX5_flow_0 16 rfl rfl)
theorem dX5_flow_17 : decode cX5_flow 17 = .ok (.iastore, 1) := dk_79 (dk_at dksX5_flow_0 17 rfl rfl)
theorem dX5_flow_18 : decode cX5_flow 18 = .ok (.aload_n 0, 1) := dk_42 (dk_at dksX5_flow_0 18 rfl rfl)
theorem dX5_flow_19 : decode cX5_flow 19 = .ok (.getfield 100, 3) := dk_180 0 100 (dk_at dksX5_flow_0 19 rfl rfl)
theorem dX5_flow_22 : decode cX5_flow 22 = .ok (.aload_n 0, 1) := dk_42 (dk_at dksX5_flow_0 22 rfl rfl)
theorem dX5_flow_23 : decode cX5_flow 23 = .ok (.getfield 404, 3) := dk_180 1 148 (dk_at dksX5_flow_1 0 rfl rfl)
theorem dX5_flow_26 : decode cX5_flow 26 = .ok (.iload_n 2, 1) := dk_28 (dk_at dksX5_flow_1 3 rfl rfl)
theorem dX5_flow_27 : decode cX5_flow 27 = .ok (.iastore, 1) := dk_79 (dk_at dksX5_flow_1 4 rfl rfl)
theorem dX5_flow_28 : decode cX5_flow 28 = .ok (.aload_n 0, 1) := dk_42 (dk_at dksX5_flow_1 5 rfl rfl)
theorem dX5_flow_29 : decode cX5_flow 29 = .ok (.getfield 103, 3) := dk_180 0 103 (dk_at dksX5_flow_1 6 rfl rfl)
theorem dX5_flow_32 : decode cX5_flow 32 = .ok (.aload_n 0, 1) := dk_42 (dk_at dksX5_flow_1 9 rfl rfl)
theorem dX5_flow_33 : decode cX5_flow 33 = .ok (.getfield 404, 3) := dk_180 1 148 (dk_at dksX5_flow_1 10 rfl rfl)
theorem dX5_flow_36 : decode cX5_flow 36 = .ok (.iload_n 3, 1) := dk_29 (dk_at dksX5_flow_1 13 rfl rfl)
theorem dX5_flow_37 : decode cX5_flow 37 = .ok (.iastore, 1) := dk_79 (dk_at dksX5_flow_1 14 rfl rfl)
theorem dX5_flow_38 : decode cX5_flow 38 = .ok (.aload_n 0, 1) := dk_42 (dk_at dksX5_flow_1 15 rfl rfl)
theorem dX5_flow_39 : decode cX5_flow 39 = .ok (.getfield 106, 3) := dk_180 0 106 (dk_at dksX5_flow_1 16 rfl rfl)
theorem dX5_flow_42 : decode cX5_flow 42 = .ok (.aload_n 0, 1) := dk_42 (dk_at dksX5_flow_1 19 rfl rfl)
theorem dX5_flow_43 : decode cX5_flow 43 = .ok (.getfield 404, 3) := dk_180 1 148 (dk_at dksX5_flow_1 20 rfl rfl)
theorem dX5_flow_46 : decode cX5_flow 46 = .ok (.iload 4, 2) := dk_21 4 (dk_at dksX5_flow_2 0 rfl rfl)
theorem dX5_flow_48 : decode cX5_flow 48 = .ok (.iastore, 1) := dk_79 (dk_at dksX5_flow_2 2 rfl rfl)
theorem dX5_flow_49 : decode cX5_flow 49 = .ok (.aload_n 0, 1) := dk_42 (dk_at dksX5_flow_2 3 rfl rfl)
theorem dX5_flow_50 : decode cX5_flow 50 = .ok (.getfield 109, 3) := dk_180 0 109 (dk_at dksX5_flow_2 4 rfl rfl)
theorem dX5_flow_53 : decode cX5_flow 53 = .ok (.aload_n 0, 1) := dk_42 (dk_at dksX5_flow_2 7 rfl rfl)
theorem dX5_flow_54 : decode cX5_flow 54 = .ok (.getfield 404, 3) := dk_180 1 148 (dk_at dksX5_flow_2 8 rfl rfl)
theorem dX5_flow_57 : decode cX5_flow 57 = .ok (.lload 5, 2) := dk_22 5 (dk_at dksX5_flow_2 11 rfl rfl)
theorem dX5_flow_59 : decode cX5_flow 59 = .ok (.lastore, 1) := dk_80 (dk_at dksX5_flow_2 13 rfl rfl)
theorem dX5_flow_60 : decode cX5_flow 60 = .ok (.aload_n 0, 1) := dk_42 (dk_at dksX5_flow_2 14 rfl rfl)
theorem dX5_flow_61 : decode cX5_flow 61 = .ok (.dup, 1) := dk_89 (dk_at dksX5_flow_2 15 rfl rfl)
theorem dX5_flow_62 : decode cX5_flow 62 = .ok (.getfield 404, 3) := dk_180 1 148 (dk_at dksX5_flow_2 16 rfl rfl)
theorem dX5_flow_65 : decode cX5_flow 65 = .ok (.iconst 1, 1) := dk_4 (dk_at dksX5_flow_2 19 rfl rfl)
theorem dX5_flow_66 : decode cX5_flow 66 = .ok (.iadd, 1) := dk_96 (dk_at dksX5_flow_2 20 rfl rfl)
theorem dX5_flow_67 : decode cX5_flow 67 = .ok (.putfield 404, 3) := dk_181 1 148 (dk_at dksX5_flow_2 21 rfl rfl)
theorem dX5_flow_70 : decode cX5_flow 70 = .ok (.return_, 1) := dk_177 (dk_at dksX5_flow_3 0 rfl rfl)
abbrev cX5_among : ByteArray := prog_24_method_43_code
def yX5_among : MethodName := ⟨RX5, "among", "(III)J"⟩
def dkwX5_among_4 : List UInt8 := [173]
abbrev dktX5_among_4 : List UInt8 := dkwX5_among_4 ++ []
def dkwX5_among_3 : List UInt8 := [46, 160, 0, 15, 22, 4, 42, 180, 0, 109, 21, 6, 47, 97, 55, 4, 132, 6, 1, 167, 255, 171, 22, 4]
abbrev dktX5_among_3 : List UInt8 := dkwX5_among_3 ++ dktX5_among_4
def dkwX5_among_2 : List UInt8 := [21, 6, 46, 42, 180, 0, 103, 29, 46, 160, 0, 31, 42, 180, 0, 106, 21, 6, 46, 42, 180, 0, 106, 29]
abbrev dktX5_among_2 : List UInt8 := dkwX5_among_2 ++ dktX5_among_3
def dkwX5_among_1 : List UInt8 := [46, 160, 0, 63, 42, 180, 0, 100, 21, 6, 46, 42, 180, 0, 100, 29, 46, 160, 0, 47, 42, 180, 0, 103]
abbrev dktX5_among_1 : List UInt8 := dkwX5_among_1 ++ dktX5_among_2
def dkwX5_among_0 : List UInt8 := [9, 55, 4, 27, 54, 6, 21, 6, 28, 162, 0, 85, 42, 180, 0, 97, 21, 6, 46, 42, 180, 0, 97, 29]
abbrev dktX5_among_0 : List UInt8 := dkwX5_among_0 ++ dktX5_among_1
theorem dksX5_among_0 : cX5_among.data.toList.drop 0 = dktX5_among_0 := by decide +kernel
theorem dksX5_among_1 : cX5_among.data.toList.drop 24 = dktX5_among_1 := dk_seg dksX5_among_0 24 rfl rfl
theorem dksX5_among_2 : cX5_among.data.toList.drop 48 = dktX5_among_2 := dk_seg dksX5_among_1 24 rfl rfl
theorem dksX5_among_3 : cX5_among.data.toList.drop 72 = dktX5_among_3 := dk_seg dksX5_among_2 24 rfl rfl
theorem dksX5_among_4 : cX5_among.data.toList.drop 96 = dktX5_among_4 := dk_seg dksX5_among_3 24 rfl rfl
theorem dX5_among_0 : decode cX5_among 0 = .ok (.lconst 0, 1) := dk_9 (dk_at dksX5_among_0 0 rfl rfl)
theorem dX5_among_1 : decode cX5_among 1 = .ok (.lstore 4, 2) := dk_55 4 (dk_at dksX5_among_0 1 rfl rfl)
theorem dX5_among_3 : decode cX5_among 3 = .ok (.iload_n 1, 1) := dk_27 (dk_at dksX5_among_0 3 rfl rfl)
theorem dX5_among_4 : decode cX5_among 4 = .ok (.istore 6, 2) := dk_54 6 (dk_at dksX5_among_0 4 rfl rfl)
theorem dX5_among_6 : decode cX5_among 6 = .ok (.iload 6, 2) := dk_21 6 (dk_at dksX5_among_0 6 rfl rfl)
theorem dX5_among_8 : decode cX5_among 8 = .ok (.iload_n 2, 1) := dk_28 (dk_at dksX5_among_0 8 rfl rfl)
theorem dX5_among_9 : decode cX5_among 9 = .ok (.if_icmp .ge 85, 3) := dk_162 0 85 (dk_at dksX5_among_0 9 rfl rfl)
theorem dX5_among_12 : decode cX5_among 12 = .ok (.aload_n 0, 1) := dk_42 (dk_at dksX5_among_0 12 rfl rfl)
theorem dX5_among_13 : decode cX5_among 13 = .ok (.getfield 97, 3) := dk_180 0 97 (dk_at dksX5_among_0 13 rfl rfl)
theorem dX5_among_16 : decode cX5_among 16 = .ok (.iload 6, 2) := dk_21 6 (dk_at dksX5_among_0 16 rfl rfl)
theorem dX5_among_18 : decode cX5_among 18 = .ok (.iaload, 1) := dk_46 (dk_at dksX5_among_0 18 rfl rfl)
theorem dX5_among_19 : decode cX5_among 19 = .ok (.aload_n 0, 1) := dk_42 (dk_at dksX5_among_0 19 rfl rfl)
theorem dX5_among_20 : decode cX5_among 20 = .ok (.getfield 97, 3) := dk_180 0 97 (dk_at dksX5_among_0 20 rfl rfl)
theorem dX5_among_23 : decode cX5_among 23 = .ok (.iload_n 3, 1) := dk_29 (dk_at dksX5_among_0 23 rfl rfl)
theorem dX5_among_24 : decode cX5_among 24 = .ok (.iaload, 1) := dk_46 (dk_at dksX5_among_1 0 rfl rfl)
theorem dX5_among_25 : decode cX5_among 25 = .ok (.if_icmp .ne 63, 3) := dk_160 0 63 (dk_at dksX5_among_1 1 rfl rfl)
theorem dX5_among_28 : decode cX5_among 28 = .ok (.aload_n 0, 1) := dk_42 (dk_at dksX5_among_1 4 rfl rfl)
theorem dX5_among_29 : decode cX5_among 29 = .ok (.getfield 100, 3) := dk_180 0 100 (dk_at dksX5_among_1 5 rfl rfl)
theorem dX5_among_32 : decode cX5_among 32 = .ok (.iload 6, 2) := dk_21 6 (dk_at dksX5_among_1 8 rfl rfl)
theorem dX5_among_34 : decode cX5_among 34 = .ok (.iaload, 1) := dk_46 (dk_at dksX5_among_1 10 rfl rfl)
theorem dX5_among_35 : decode cX5_among 35 = .ok (.aload_n 0, 1) := dk_42 (dk_at dksX5_among_1 11 rfl rfl)
theorem dX5_among_36 : decode cX5_among 36 = .ok (.getfield 100, 3) := dk_180 0 100 (dk_at dksX5_among_1 12 rfl rfl)
theorem dX5_among_39 : decode cX5_among 39 = .ok (.iload_n 3, 1) := dk_29 (dk_at dksX5_among_1 15 rfl rfl)
theorem dX5_among_40 : decode cX5_among 40 = .ok (.iaload, 1) := dk_46 (dk_at dksX5_among_1 16 rfl rfl)
theorem dX5_among_41 : decode cX5_among 41 = .ok (.if_icmp .ne 47, 3) := dk_160 0 47 (dk_at dksX5_among_1 17 rfl rfl)
theorem dX5_among_44 : decode cX5_among 44 = .ok (.aload_n 0, 1) := dk_42 (dk_at dksX5_among_1 20 rfl rfl)
theorem dX5_among_45 : decode cX5_among 45 = .ok (.getfield 103, 3) := dk_180 0 103 (dk_at dksX5_among_1 21 rfl rfl)
theorem dX5_among_48 : decode cX5_among 48 = .ok (.iload 6, 2) := dk_21 6 (dk_at dksX5_among_2 0 rfl rfl)
theorem dX5_among_50 : decode cX5_among 50 = .ok (.iaload, 1) := dk_46 (dk_at dksX5_among_2 2 rfl rfl)
theorem dX5_among_51 : decode cX5_among 51 = .ok (.aload_n 0, 1) := dk_42 (dk_at dksX5_among_2 3 rfl rfl)
theorem dX5_among_52 : decode cX5_among 52 = .ok (.getfield 103, 3) := dk_180 0 103 (dk_at dksX5_among_2 4 rfl rfl)
theorem dX5_among_55 : decode cX5_among 55 = .ok (.iload_n 3, 1) := dk_29 (dk_at dksX5_among_2 7 rfl rfl)
theorem dX5_among_56 : decode cX5_among 56 = .ok (.iaload, 1) := dk_46 (dk_at dksX5_among_2 8 rfl rfl)
theorem dX5_among_57 : decode cX5_among 57 = .ok (.if_icmp .ne 31, 3) := dk_160 0 31 (dk_at dksX5_among_2 9 rfl rfl)
theorem dX5_among_60 : decode cX5_among 60 = .ok (.aload_n 0, 1) := dk_42 (dk_at dksX5_among_2 12 rfl rfl)
theorem dX5_among_61 : decode cX5_among 61 = .ok (.getfield 106, 3) := dk_180 0 106 (dk_at dksX5_among_2 13 rfl rfl)
theorem dX5_among_64 : decode cX5_among 64 = .ok (.iload 6, 2) := dk_21 6 (dk_at dksX5_among_2 16 rfl rfl)
theorem dX5_among_66 : decode cX5_among 66 = .ok (.iaload, 1) := dk_46 (dk_at dksX5_among_2 18 rfl rfl)
theorem dX5_among_67 : decode cX5_among 67 = .ok (.aload_n 0, 1) := dk_42 (dk_at dksX5_among_2 19 rfl rfl)
theorem dX5_among_68 : decode cX5_among 68 = .ok (.getfield 106, 3) := dk_180 0 106 (dk_at dksX5_among_2 20 rfl rfl)
theorem dX5_among_71 : decode cX5_among 71 = .ok (.iload_n 3, 1) := dk_29 (dk_at dksX5_among_2 23 rfl rfl)
theorem dX5_among_72 : decode cX5_among 72 = .ok (.iaload, 1) := dk_46 (dk_at dksX5_among_3 0 rfl rfl)
theorem dX5_among_73 : decode cX5_among 73 = .ok (.if_icmp .ne 15, 3) := dk_160 0 15 (dk_at dksX5_among_3 1 rfl rfl)
theorem dX5_among_76 : decode cX5_among 76 = .ok (.lload 4, 2) := dk_22 4 (dk_at dksX5_among_3 4 rfl rfl)
theorem dX5_among_78 : decode cX5_among 78 = .ok (.aload_n 0, 1) := dk_42 (dk_at dksX5_among_3 6 rfl rfl)
theorem dX5_among_79 : decode cX5_among 79 = .ok (.getfield 109, 3) := dk_180 0 109 (dk_at dksX5_among_3 7 rfl rfl)
theorem dX5_among_82 : decode cX5_among 82 = .ok (.iload 6, 2) := dk_21 6 (dk_at dksX5_among_3 10 rfl rfl)
theorem dX5_among_84 : decode cX5_among 84 = .ok (.laload, 1) := dk_47 (dk_at dksX5_among_3 12 rfl rfl)
theorem dX5_among_85 : decode cX5_among 85 = .ok (.ladd, 1) := dk_97 (dk_at dksX5_among_3 13 rfl rfl)
theorem dX5_among_86 : decode cX5_among 86 = .ok (.lstore 4, 2) := dk_55 4 (dk_at dksX5_among_3 14 rfl rfl)
theorem dX5_among_88 : decode cX5_among 88 = .ok (.iinc 6 1, 3) := dk_132 6 1 (dk_at dksX5_among_3 16 rfl rfl)
theorem dX5_among_91 : decode cX5_among 91 = .ok (.goto (-85), 3) := dk_167 255 171 (dk_at dksX5_among_3 19 rfl rfl)
theorem dX5_among_94 : decode cX5_among 94 = .ok (.lload 4, 2) := dk_22 4 (dk_at dksX5_among_3 22 rfl rfl)
theorem dX5_among_96 : decode cX5_among 96 = .ok (.lreturn, 1) := dk_173 (dk_at dksX5_among_4 0 rfl rfl)
abbrev cX5_add : ByteArray := prog_24_method_45_code
def yX5_add : MethodName := ⟨RX5, "add", "(I)I"⟩
def dkwX5_add_3 : List UInt8 := [172]
abbrev dktX5_add_3 : List UInt8 := dkwX5_add_3 ++ []
def dkwX5_add_2 : List UInt8 := [42, 180, 0, 113, 42, 180, 1, 166, 27, 79, 42, 89, 180, 1, 166, 4, 96, 181, 1, 166, 42, 180, 1, 166]
abbrev dktX5_add_2 : List UInt8 := dkwX5_add_2 ++ dktX5_add_3
def dkwX5_add_1 : List UInt8 := [180, 1, 166, 162, 0, 21, 42, 180, 0, 113, 28, 46, 27, 160, 0, 5, 2, 172, 132, 2, 1, 167, 255, 233]
abbrev dktX5_add_1 : List UInt8 := dkwX5_add_1 ++ dktX5_add_2
def dkwX5_add_0 : List UInt8 := [42, 27, 182, 1, 96, 153, 0, 12, 42, 180, 1, 166, 16, 6, 160, 0, 5, 2, 172, 3, 61, 28, 42]
abbrev dktX5_add_0 : List UInt8 := dkwX5_add_0 ++ dktX5_add_1
theorem dksX5_add_0 : cX5_add.data.toList.drop 0 = dktX5_add_0 := by decide +kernel
theorem dksX5_add_1 : cX5_add.data.toList.drop 23 = dktX5_add_1 := dk_seg dksX5_add_0 23 rfl rfl
theorem dksX5_add_2 : cX5_add.data.toList.drop 47 = dktX5_add_2 := dk_seg dksX5_add_1 24 rfl rfl
theorem dksX5_add_3 : cX5_add.data.toList.drop 71 = dktX5_add_3 := dk_seg dksX5_add_2 24 rfl rfl
theorem dX5_add_0 : decode cX5_add 0 = .ok (.aload_n 0, 1) := dk_42 (dk_at dksX5_add_0 0 rfl rfl)
theorem dX5_add_1 : decode cX5_add 1 = .ok (.iload_n 1, 1) := dk_27 (dk_at dksX5_add_0 1 rfl rfl)
theorem dX5_add_2 : decode cX5_add 2 = .ok (.invokevirtual 352, 3) := dk_182 1 96 (dk_at dksX5_add_0 2 rfl rfl)
theorem dX5_add_5 : decode cX5_add 5 = .ok (.ifCond .eq 12, 3) := dk_153 0 12 (dk_at dksX5_add_0 5 rfl rfl)
theorem dX5_add_8 : decode cX5_add 8 = .ok (.aload_n 0, 1) := dk_42 (dk_at dksX5_add_0 8 rfl rfl)
theorem dX5_add_9 : decode cX5_add 9 = .ok (.getfield 422, 3) := dk_180 1 166 (dk_at dksX5_add_0 9 rfl rfl)
theorem dX5_add_12 : decode cX5_add 12 = .ok (.bipush 6, 2) := dk_16 6 (dk_at dksX5_add_0 12 rfl rfl)
theorem dX5_add_14 : decode cX5_add 14 = .ok (.if_icmp .ne 5, 3) := dk_160 0 5 (dk_at dksX5_add_0 14 rfl rfl)
theorem dX5_add_17 : decode cX5_add 17 = .ok (.iconst (-1), 1) := dk_2 (dk_at dksX5_add_0 17 rfl rfl)
theorem dX5_add_18 : decode cX5_add 18 = .ok (.ireturn, 1) := dk_172 (dk_at dksX5_add_0 18 rfl rfl)
theorem dX5_add_19 : decode cX5_add 19 = .ok (.iconst 0, 1) := dk_3 (dk_at dksX5_add_0 19 rfl rfl)
theorem dX5_add_20 : decode cX5_add 20 = .ok (.istore_n 2, 1) := dk_61 (dk_at dksX5_add_0 20 rfl rfl)
theorem dX5_add_21 : decode cX5_add 21 = .ok (.iload_n 2, 1) := dk_28 (dk_at dksX5_add_0 21 rfl rfl)
theorem dX5_add_22 : decode cX5_add 22 = .ok (.aload_n 0, 1) := dk_42 (dk_at dksX5_add_0 22 rfl rfl)
theorem dX5_add_23 : decode cX5_add 23 = .ok (.getfield 422, 3) := dk_180 1 166 (dk_at dksX5_add_1 0 rfl rfl)
theorem dX5_add_26 : decode cX5_add 26 = .ok (.if_icmp .ge 21, 3) := dk_162 0 21 (dk_at dksX5_add_1 3 rfl rfl)
theorem dX5_add_29 : decode cX5_add 29 = .ok (.aload_n 0, 1) := dk_42 (dk_at dksX5_add_1 6 rfl rfl)
theorem dX5_add_30 : decode cX5_add 30 = .ok (.getfield 113, 3) := dk_180 0 113 (dk_at dksX5_add_1 7 rfl rfl)
theorem dX5_add_33 : decode cX5_add 33 = .ok (.iload_n 2, 1) := dk_28 (dk_at dksX5_add_1 10 rfl rfl)
theorem dX5_add_34 : decode cX5_add 34 = .ok (.iaload, 1) := dk_46 (dk_at dksX5_add_1 11 rfl rfl)
theorem dX5_add_35 : decode cX5_add 35 = .ok (.iload_n 1, 1) := dk_27 (dk_at dksX5_add_1 12 rfl rfl)
theorem dX5_add_36 : decode cX5_add 36 = .ok (.if_icmp .ne 5, 3) := dk_160 0 5 (dk_at dksX5_add_1 13 rfl rfl)
theorem dX5_add_39 : decode cX5_add 39 = .ok (.iconst (-1), 1) := dk_2 (dk_at dksX5_add_1 16 rfl rfl)
theorem dX5_add_40 : decode cX5_add 40 = .ok (.ireturn, 1) := dk_172 (dk_at dksX5_add_1 17 rfl rfl)
theorem dX5_add_41 : decode cX5_add 41 = .ok (.iinc 2 1, 3) := dk_132 2 1 (dk_at dksX5_add_1 18 rfl rfl)
theorem dX5_add_44 : decode cX5_add 44 = .ok (.goto (-23), 3) := dk_167 255 233 (dk_at dksX5_add_1 21 rfl rfl)
theorem dX5_add_47 : decode cX5_add 47 = .ok (.aload_n 0, 1) := dk_42 (dk_at dksX5_add_2 0 rfl rfl)
theorem dX5_add_48 : decode cX5_add 48 = .ok (.getfield 113, 3) := dk_180 0 113 (dk_at dksX5_add_2 1 rfl rfl)
theorem dX5_add_51 : decode cX5_add 51 = .ok (.aload_n 0, 1) := dk_42 (dk_at dksX5_add_2 4 rfl rfl)
theorem dX5_add_52 : decode cX5_add 52 = .ok (.getfield 422, 3) := dk_180 1 166 (dk_at dksX5_add_2 5 rfl rfl)
theorem dX5_add_55 : decode cX5_add 55 = .ok (.iload_n 1, 1) := dk_27 (dk_at dksX5_add_2 8 rfl rfl)
theorem dX5_add_56 : decode cX5_add 56 = .ok (.iastore, 1) := dk_79 (dk_at dksX5_add_2 9 rfl rfl)
theorem dX5_add_57 : decode cX5_add 57 = .ok (.aload_n 0, 1) := dk_42 (dk_at dksX5_add_2 10 rfl rfl)
theorem dX5_add_58 : decode cX5_add 58 = .ok (.dup, 1) := dk_89 (dk_at dksX5_add_2 11 rfl rfl)
theorem dX5_add_59 : decode cX5_add 59 = .ok (.getfield 422, 3) := dk_180 1 166 (dk_at dksX5_add_2 12 rfl rfl)
theorem dX5_add_62 : decode cX5_add 62 = .ok (.iconst 1, 1) := dk_4 (dk_at dksX5_add_2 15 rfl rfl)
theorem dX5_add_63 : decode cX5_add 63 = .ok (.iadd, 1) := dk_96 (dk_at dksX5_add_2 16 rfl rfl)
theorem dX5_add_64 : decode cX5_add 64 = .ok (.putfield 422, 3) := dk_181 1 166 (dk_at dksX5_add_2 17 rfl rfl)
theorem dX5_add_67 : decode cX5_add 67 = .ok (.aload_n 0, 1) := dk_42 (dk_at dksX5_add_2 20 rfl rfl)
theorem dX5_add_68 : decode cX5_add 68 = .ok (.getfield 422, 3) := dk_180 1 166 (dk_at dksX5_add_2 21 rfl rfl)
theorem dX5_add_71 : decode cX5_add 71 = .ok (.ireturn, 1) := dk_172 (dk_at dksX5_add_3 0 rfl rfl)
abbrev cX5_clear : ByteArray := prog_24_method_46_code
def yX5_clear : MethodName := ⟨RX5, "clear", "()I"⟩
def dkwX5_clear_0 : List UInt8 := [42, 180, 1, 166, 60, 42, 3, 181, 1, 166, 27, 172]
abbrev dktX5_clear_0 : List UInt8 := dkwX5_clear_0 ++ []
theorem dksX5_clear_0 : cX5_clear.data.toList.drop 0 = dktX5_clear_0 := by decide +kernel
theorem dX5_clear_0 : decode cX5_clear 0 = .ok (.aload_n 0, 1) := dk_42 (dk_at dksX5_clear_0 0 rfl rfl)
theorem dX5_clear_1 : decode cX5_clear 1 = .ok (.getfield 422, 3) := dk_180 1 166 (dk_at dksX5_clear_0 1 rfl rfl)
theorem dX5_clear_4 : decode cX5_clear 4 = .ok (.istore_n 1, 1) := dk_60 (dk_at dksX5_clear_0 4 rfl rfl)
theorem dX5_clear_5 : decode cX5_clear 5 = .ok (.aload_n 0, 1) := dk_42 (dk_at dksX5_clear_0 5 rfl rfl)
theorem dX5_clear_6 : decode cX5_clear 6 = .ok (.iconst 0, 1) := dk_3 (dk_at dksX5_clear_0 6 rfl rfl)
theorem dX5_clear_7 : decode cX5_clear 7 = .ok (.putfield 422, 3) := dk_181 1 166 (dk_at dksX5_clear_0 7 rfl rfl)
theorem dX5_clear_10 : decode cX5_clear 10 = .ok (.iload_n 1, 1) := dk_27 (dk_at dksX5_clear_0 10 rfl rfl)
theorem dX5_clear_11 : decode cX5_clear 11 = .ok (.ireturn, 1) := dk_172 (dk_at dksX5_clear_0 11 rfl rfl)
abbrev cX5_passed : ByteArray := prog_24_method_59_code
def yX5_passed : MethodName := ⟨RX5, "passed", "(III)J"⟩
def dkwX5_passed_6 : List UInt8 := [132, 6, 1, 167, 255, 167, 28, 2, 160, 0, 9, 21, 4, 133, 167, 0, 6, 20, 0, 205, 173]
abbrev dktX5_passed_6 : List UInt8 := dkwX5_passed_6 ++ []
def dkwX5_passed_5 : List UInt8 := [21, 7, 96, 54, 4, 21, 5, 42, 180, 0, 22, 42, 180, 0, 116, 21, 6, 46, 46, 96, 54, 5]
abbrev dktX5_passed_5 : List UInt8 := dkwX5_passed_5 ++ dktX5_passed_6
def dkwX5_passed_4 : List UInt8 := [180, 0, 116, 21, 6, 46, 28, 21, 4, 100, 27, 21, 5, 182, 1, 202, 42, 29, 182, 1, 206, 173, 21, 4]
abbrev dktX5_passed_4 : List UInt8 := dkwX5_passed_4 ++ dktX5_passed_5
def dkwX5_passed_3 : List UInt8 := [21, 5, 182, 1, 199, 54, 7, 28, 155, 0, 36, 28, 21, 4, 21, 7, 96, 162, 0, 27, 42, 42]
abbrev dktX5_passed_3 : List UInt8 := dkwX5_passed_3 ++ dktX5_passed_4
def dkwX5_passed_2 : List UInt8 := [54, 5, 3, 54, 6, 21, 6, 42, 180, 1, 169, 162, 0, 86, 42, 42, 180, 0, 116, 21, 6, 46, 27]
abbrev dktX5_passed_2 : List UInt8 := dkwX5_passed_2 ++ dktX5_passed_3
def dkwX5_passed_1 : List UInt8 := [2, 160, 0, 7, 3, 167, 0, 4, 7, 184, 0, 185, 154, 0, 7, 20, 0, 205, 173, 3, 54, 4, 8]
abbrev dktX5_passed_1 : List UInt8 := dkwX5_passed_1 ++ dktX5_passed_2
def dkwX5_passed_0 : List UInt8 := [42, 182, 1, 196, 27, 155, 0, 34, 27, 42, 182, 1, 181, 162, 0, 26, 28, 2, 161, 0, 21, 29, 3, 28]
abbrev dktX5_passed_0 : List UInt8 := dkwX5_passed_0 ++ dktX5_passed_1
theorem dksX5_passed_0 : cX5_passed.data.toList.drop 0 = dktX5_passed_0 := by decide +kernel
theorem dksX5_passed_1 : cX5_passed.data.toList.drop 24 = dktX5_passed_1 := dk_seg dksX5_passed_0 24 rfl rfl
theorem dksX5_passed_2 : cX5_passed.data.toList.drop 47 = dktX5_passed_2 := dk_seg dksX5_passed_1 23 rfl rfl
theorem dksX5_passed_3 : cX5_passed.data.toList.drop 70 = dktX5_passed_3 := dk_seg dksX5_passed_2 23 rfl rfl
theorem dksX5_passed_4 : cX5_passed.data.toList.drop 92 = dktX5_passed_4 := dk_seg dksX5_passed_3 22 rfl rfl
theorem dksX5_passed_5 : cX5_passed.data.toList.drop 116 = dktX5_passed_5 := dk_seg dksX5_passed_4 24 rfl rfl
theorem dksX5_passed_6 : cX5_passed.data.toList.drop 138 = dktX5_passed_6 := dk_seg dksX5_passed_5 22 rfl rfl
theorem dX5_passed_0 : decode cX5_passed 0 = .ok (.aload_n 0, 1) := dk_42 (dk_at dksX5_passed_0 0 rfl rfl)
theorem dX5_passed_1 : decode cX5_passed 1 = .ok (.invokevirtual 452, 3) := dk_182 1 196 (dk_at dksX5_passed_0 1 rfl rfl)
theorem dX5_passed_4 : decode cX5_passed 4 = .ok (.iload_n 1, 1) := dk_27 (dk_at dksX5_passed_0 4 rfl rfl)
theorem dX5_passed_5 : decode cX5_passed 5 = .ok (.ifCond .lt 34, 3) := dk_155 0 34 (dk_at dksX5_passed_0 5 rfl rfl)
theorem dX5_passed_8 : decode cX5_passed 8 = .ok (.iload_n 1, 1) := dk_27 (dk_at dksX5_passed_0 8 rfl rfl)
theorem dX5_passed_9 : decode cX5_passed 9 = .ok (.aload_n 0, 1) := dk_42 (dk_at dksX5_passed_0 9 rfl rfl)
theorem dX5_passed_10 : decode cX5_passed 10 = .ok (.invokevirtual 437, 3) := dk_182 1 181 (dk_at dksX5_passed_0 10 rfl rfl)
theorem dX5_passed_13 : decode cX5_passed 13 = .ok (.if_icmp .ge 26, 3) := dk_162 0 26 (dk_at dksX5_passed_0 13 rfl rfl)
theorem dX5_passed_16 : decode cX5_passed 16 = .ok (.iload_n 2, 1) := dk_28 (dk_at dksX5_passed_0 16 rfl rfl)
theorem dX5_passed_17 : decode cX5_passed 17 = .ok (.iconst (-1), 1) := dk_2 (dk_at dksX5_passed_0 17 rfl rfl)
theorem dX5_passed_18 : decode cX5_passed 18 = .ok (.if_icmp .lt 21, 3) := dk_161 0 21 (dk_at dksX5_passed_0 18 rfl rfl)
theorem dX5_passed_21 : decode cX5_passed 21 = .ok (.iload_n 3, 1) := dk_29 (dk_at dksX5_passed_0 21 rfl rfl)
theorem dX5_passed_22 : decode cX5_passed 22 = .ok (.iconst 0, 1) := dk_3 (dk_at dksX5_passed_0 22 rfl rfl)
theorem dX5_passed_23 : decode cX5_passed 23 = .ok (.iload_n 2, 1) := dk_28 (dk_at dksX5_passed_0 23 rfl rfl)
theorem dX5_passed_24 : decode cX5_passed 24 = .ok (.iconst (-1), 1) := dk_2 (dk_at dksX5_passed_1 0 rfl rfl)
theorem dX5_passed_25 : decode cX5_passed 25 = .ok (.if_icmp .ne 7, 3) := dk_160 0 7 (dk_at dksX5_passed_1 1 rfl rfl)
theorem dX5_passed_28 : decode cX5_passed 28 = .ok (.iconst 0, 1) := dk_3 (dk_at dksX5_passed_1 4 rfl rfl)
theorem dX5_passed_29 : decode cX5_passed 29 = .ok (.goto 4, 3) := dk_167 0 4 (dk_at dksX5_passed_1 5 rfl rfl)
theorem dX5_passed_32 : decode cX5_passed 32 = .ok (.iconst 4, 1) := dk_7 (dk_at dksX5_passed_1 8 rfl rfl)
theorem dX5_passed_33 : decode cX5_passed 33 = .ok (.invokestatic 185, 3) := dk_184 0 185 (dk_at dksX5_passed_1 9 rfl rfl)
theorem dX5_passed_36 : decode cX5_passed 36 = .ok (.ifCond .ne 7, 3) := dk_154 0 7 (dk_at dksX5_passed_1 12 rfl rfl)
theorem dX5_passed_39 : decode cX5_passed 39 = .ok (.ldc2_w 205, 3) := dk_20 0 205 (dk_at dksX5_passed_1 15 rfl rfl)
theorem dX5_passed_42 : decode cX5_passed 42 = .ok (.lreturn, 1) := dk_173 (dk_at dksX5_passed_1 18 rfl rfl)
theorem dX5_passed_43 : decode cX5_passed 43 = .ok (.iconst 0, 1) := dk_3 (dk_at dksX5_passed_1 19 rfl rfl)
theorem dX5_passed_44 : decode cX5_passed 44 = .ok (.istore 4, 2) := dk_54 4 (dk_at dksX5_passed_1 20 rfl rfl)
theorem dX5_passed_46 : decode cX5_passed 46 = .ok (.iconst 5, 1) := dk_8 (dk_at dksX5_passed_1 22 rfl rfl)
theorem dX5_passed_47 : decode cX5_passed 47 = .ok (.istore 5, 2) := dk_54 5 (dk_at dksX5_passed_2 0 rfl rfl)
theorem dX5_passed_49 : decode cX5_passed 49 = .ok (.iconst 0, 1) := dk_3 (dk_at dksX5_passed_2 2 rfl rfl)
theorem dX5_passed_50 : decode cX5_passed 50 = .ok (.istore 6, 2) := dk_54 6 (dk_at dksX5_passed_2 3 rfl rfl)
theorem dX5_passed_52 : decode cX5_passed 52 = .ok (.iload 6, 2) := dk_21 6 (dk_at dksX5_passed_2 5 rfl rfl)
theorem dX5_passed_54 : decode cX5_passed 54 = .ok (.aload_n 0, 1) := dk_42 (dk_at dksX5_passed_2 7 rfl rfl)
theorem dX5_passed_55 : decode cX5_passed 55 = .ok (.getfield 425, 3) := dk_180 1 169 (dk_at dksX5_passed_2 8 rfl rfl)
theorem dX5_passed_58 : decode cX5_passed 58 = .ok (.if_icmp .ge 86, 3) := dk_162 0 86 (dk_at dksX5_passed_2 11 rfl rfl)
theorem dX5_passed_61 : decode cX5_passed 61 = .ok (.aload_n 0, 1) := dk_42 (dk_at dksX5_passed_2 14 rfl rfl)
theorem dX5_passed_62 : decode cX5_passed 62 = .ok (.aload_n 0, 1) := dk_42 (dk_at dksX5_passed_2 15 rfl rfl)
theorem dX5_passed_63 : decode cX5_passed 63 = .ok (.getfield 116, 3) := dk_180 0 116 (dk_at dksX5_passed_2 16 rfl rfl)
theorem dX5_passed_66 : decode cX5_passed 66 = .ok (.iload 6, 2) := dk_21 6 (dk_at dksX5_passed_2 19 rfl rfl)
theorem dX5_passed_68 : decode cX5_passed 68 = .ok (.iaload, 1) := dk_46 (dk_at dksX5_passed_2 21 rfl rfl)
theorem dX5_passed_69 : decode cX5_passed 69 = .ok (.iload_n 1, 1) := dk_27 (dk_at dksX5_passed_2 22 rfl rfl)
theorem dX5_passed_70 : decode cX5_passed 70 = .ok (.iload 5, 2) := dk_21 5 (dk_at dksX5_passed_3 0 rfl rfl)
theorem dX5_passed_72 : decode cX5_passed 72 = .ok (.invokevirtual 455, 3) := dk_182 1 199 (dk_at dksX5_passed_3 2 rfl rfl)
theorem dX5_passed_75 : decode cX5_passed 75 = .ok (.istore 7, 2) := dk_54 7 (dk_at dksX5_passed_3 5 rfl rfl)
theorem dX5_passed_77 : decode cX5_passed 77 = .ok (.iload_n 2, 1) := dk_28 (dk_at dksX5_passed_3 7 rfl rfl)
theorem dX5_passed_78 : decode cX5_passed 78 = .ok (.ifCond .lt 36, 3) := dk_155 0 36 (dk_at dksX5_passed_3 8 rfl rfl)
theorem dX5_passed_81 : decode cX5_passed 81 = .ok (.iload_n 2, 1) := dk_28 (dk_at dksX5_passed_3 11 rfl rfl)
theorem dX5_passed_82 : decode cX5_passed 82 = .ok (.iload 4, 2) := dk_21 4 (dk_at dksX5_passed_3 12 rfl rfl)
theorem dX5_passed_84 : decode cX5_passed 84 = .ok (.iload 7, 2) := dk_21 7 (dk_at dksX5_passed_3 14 rfl rfl)
theorem dX5_passed_86 : decode cX5_passed 86 = .ok (.iadd, 1) := dk_96 (dk_at dksX5_passed_3 16 rfl rfl)
theorem dX5_passed_87 : decode cX5_passed 87 = .ok (.if_icmp .ge 27, 3) := dk_162 0 27 (dk_at dksX5_passed_3 17 rfl rfl)
theorem dX5_passed_90 : decode cX5_passed 90 = .ok (.aload_n 0, 1) := dk_42 (dk_at dksX5_passed_3 20 rfl rfl)
theorem dX5_passed_91 : decode cX5_passed 91 = .ok (.aload_n 0, 1) := dk_42 (dk_at dksX5_passed_3 21 rfl rfl)
theorem dX5_passed_92 : decode cX5_passed 92 = .ok (.getfield 116, 3) := dk_180 0 116 (dk_at dksX5_passed_4 0 rfl rfl)
theorem dX5_passed_95 : decode cX5_passed 95 = .ok (.iload 6, 2) := dk_21 6 (dk_at dksX5_passed_4 3 rfl rfl)
theorem dX5_passed_97 : decode cX5_passed 97 = .ok (.iaload, 1) := dk_46 (dk_at dksX5_passed_4 5 rfl rfl)
theorem dX5_passed_98 : decode cX5_passed 98 = .ok (.iload_n 2, 1) := dk_28 (dk_at dksX5_passed_4 6 rfl rfl)
theorem dX5_passed_99 : decode cX5_passed 99 = .ok (.iload 4, 2) := dk_21 4 (dk_at dksX5_passed_4 7 rfl rfl)
theorem dX5_passed_101 : decode cX5_passed 101 = .ok (.isub, 1) := dk_100 (dk_at dksX5_passed_4 9 rfl rfl)
theorem dX5_passed_102 : decode cX5_passed 102 = .ok (.iload_n 1, 1) := dk_27 (dk_at dksX5_passed_4 10 rfl rfl)
theorem dX5_passed_103 : decode cX5_passed 103 = .ok (.iload 5, 2) := dk_21 5 (dk_at dksX5_passed_4 11 rfl rfl)
theorem dX5_passed_105 : decode cX5_passed 105 = .ok (.invokevirtual 458, 3) := dk_182 1 202 (dk_at dksX5_passed_4 13 rfl rfl)
theorem dX5_passed_108 : decode cX5_passed 108 = .ok (.aload_n 0, 1) := dk_42 (dk_at dksX5_passed_4 16 rfl rfl)
theorem dX5_passed_109 : decode cX5_passed 109 = .ok (.iload_n 3, 1) := dk_29 (dk_at dksX5_passed_4 17 rfl rfl)
theorem dX5_passed_110 : decode cX5_passed 110 = .ok (.invokevirtual 462, 3) := dk_182 1 206 (dk_at dksX5_passed_4 18 rfl rfl)
theorem dX5_passed_113 : decode cX5_passed 113 = .ok (.lreturn, 1) := dk_173 (dk_at dksX5_passed_4 21 rfl rfl)
theorem dX5_passed_114 : decode cX5_passed 114 = .ok (.iload 4, 2) := dk_21 4 (dk_at dksX5_passed_4 22 rfl rfl)
theorem dX5_passed_116 : decode cX5_passed 116 = .ok (.iload 7, 2) := dk_21 7 (dk_at dksX5_passed_5 0 rfl rfl)
theorem dX5_passed_118 : decode cX5_passed 118 = .ok (.iadd, 1) := dk_96 (dk_at dksX5_passed_5 2 rfl rfl)
theorem dX5_passed_119 : decode cX5_passed 119 = .ok (.istore 4, 2) := dk_54 4 (dk_at dksX5_passed_5 3 rfl rfl)
theorem dX5_passed_121 : decode cX5_passed 121 = .ok (.iload 5, 2) := dk_21 5 (dk_at dksX5_passed_5 5 rfl rfl)
theorem dX5_passed_123 : decode cX5_passed 123 = .ok (.aload_n 0, 1) := dk_42 (dk_at dksX5_passed_5 7 rfl rfl)
theorem dX5_passed_124 : decode cX5_passed 124 = .ok (.getfield 22, 3) := dk_180 0 22 (dk_at dksX5_passed_5 8 rfl rfl)
theorem dX5_passed_127 : decode cX5_passed 127 = .ok (.aload_n 0, 1) := dk_42 (dk_at dksX5_passed_5 11 rfl rfl)
theorem dX5_passed_128 : decode cX5_passed 128 = .ok (.getfield 116, 3) := dk_180 0 116 (dk_at dksX5_passed_5 12 rfl rfl)
theorem dX5_passed_131 : decode cX5_passed 131 = .ok (.iload 6, 2) := dk_21 6 (dk_at dksX5_passed_5 15 rfl rfl)
theorem dX5_passed_133 : decode cX5_passed 133 = .ok (.iaload, 1) := dk_46 (dk_at dksX5_passed_5 17 rfl rfl)
theorem dX5_passed_134 : decode cX5_passed 134 = .ok (.iaload, 1) := dk_46 (dk_at dksX5_passed_5 18 rfl rfl)
theorem dX5_passed_135 : decode cX5_passed 135 = .ok (.iadd, 1) := dk_96 (dk_at dksX5_passed_5 19 rfl rfl)
theorem dX5_passed_136 : decode cX5_passed 136 = .ok (.istore 5, 2) := dk_54 5 (dk_at dksX5_passed_5 20 rfl rfl)
theorem dX5_passed_138 : decode cX5_passed 138 = .ok (.iinc 6 1, 3) := dk_132 6 1 (dk_at dksX5_passed_6 0 rfl rfl)
theorem dX5_passed_141 : decode cX5_passed 141 = .ok (.goto (-89), 3) := dk_167 255 167 (dk_at dksX5_passed_6 3 rfl rfl)
theorem dX5_passed_144 : decode cX5_passed 144 = .ok (.iload_n 2, 1) := dk_28 (dk_at dksX5_passed_6 6 rfl rfl)
theorem dX5_passed_145 : decode cX5_passed 145 = .ok (.iconst (-1), 1) := dk_2 (dk_at dksX5_passed_6 7 rfl rfl)
theorem dX5_passed_146 : decode cX5_passed 146 = .ok (.if_icmp .ne 9, 3) := dk_160 0 9 (dk_at dksX5_passed_6 8 rfl rfl)
theorem dX5_passed_149 : decode cX5_passed 149 = .ok (.iload 4, 2) := dk_21 4 (dk_at dksX5_passed_6 11 rfl rfl)
theorem dX5_passed_151 : decode cX5_passed 151 = .ok (.i2l, 1) := dk_133 (dk_at dksX5_passed_6 13 rfl rfl)
theorem dX5_passed_152 : decode cX5_passed 152 = .ok (.goto 6, 3) := dk_167 0 6 (dk_at dksX5_passed_6 14 rfl rfl)
theorem dX5_passed_155 : decode cX5_passed 155 = .ok (.ldc2_w 205, 3) := dk_20 0 205 (dk_at dksX5_passed_6 17 rfl rfl)
theorem dX5_passed_158 : decode cX5_passed 158 = .ok (.lreturn, 1) := dk_173 (dk_at dksX5_passed_6 20 rfl rfl)
abbrev cX5_bundleAtHand : ByteArray := prog_24_method_47_code
def yX5_bundleAtHand : MethodName := ⟨RX5, "bundleAtHand", "()V"⟩
def dkwX5_bundleAtHand_1 : List UInt8 := [180, 0, 113, 27, 46, 79, 132, 1, 1, 167, 255, 233, 177]
abbrev dktX5_bundleAtHand_1 : List UInt8 := dkwX5_bundleAtHand_1 ++ []
def dkwX5_bundleAtHand_0 : List UInt8 := [42, 42, 180, 1, 166, 181, 1, 169, 3, 60, 27, 42, 180, 1, 166, 162, 0, 21, 42, 180, 0, 116, 27, 42]
abbrev dktX5_bundleAtHand_0 : List UInt8 := dkwX5_bundleAtHand_0 ++ dktX5_bundleAtHand_1
theorem dksX5_bundleAtHand_0 : cX5_bundleAtHand.data.toList.drop 0 = dktX5_bundleAtHand_0 := by decide +kernel
theorem dksX5_bundleAtHand_1 : cX5_bundleAtHand.data.toList.drop 24 = dktX5_bundleAtHand_1 := dk_seg dksX5_bundleAtHand_0 24 rfl rfl
theorem dX5_bundleAtHand_0 : decode cX5_bundleAtHand 0 = .ok (.aload_n 0, 1) := dk_42 (dk_at dksX5_bundleAtHand_0 0 rfl rfl)
theorem dX5_bundleAtHand_1 : decode cX5_bundleAtHand 1 = .ok (.aload_n 0, 1) := dk_42 (dk_at dksX5_bundleAtHand_0 1 rfl rfl)
theorem dX5_bundleAtHand_2 : decode cX5_bundleAtHand 2 = .ok (.getfield 422, 3) := dk_180 1 166 (dk_at dksX5_bundleAtHand_0 2 rfl rfl)
theorem dX5_bundleAtHand_5 : decode cX5_bundleAtHand 5 = .ok (.putfield 425, 3) := dk_181 1 169 (dk_at dksX5_bundleAtHand_0 5 rfl rfl)
theorem dX5_bundleAtHand_8 : decode cX5_bundleAtHand 8 = .ok (.iconst 0, 1) := dk_3 (dk_at dksX5_bundleAtHand_0 8 rfl rfl)
theorem dX5_bundleAtHand_9 : decode cX5_bundleAtHand 9 = .ok (.istore_n 1, 1) := dk_60 (dk_at dksX5_bundleAtHand_0 9 rfl rfl)
theorem dX5_bundleAtHand_10 : decode cX5_bundleAtHand 10 = .ok (.iload_n 1, 1) := dk_27 (dk_at dksX5_bundleAtHand_0 10 rfl rfl)
theorem dX5_bundleAtHand_11 : decode cX5_bundleAtHand 11 = .ok (.aload_n 0, 1) := dk_42 (dk_at dksX5_bundleAtHand_0 11 rfl rfl)
theorem dX5_bundleAtHand_12 : decode cX5_bundleAtHand 12 = .ok (.getfield 422, 3) := dk_180 1 166 (dk_at dksX5_bundleAtHand_0 12 rfl rfl)
theorem dX5_bundleAtHand_15 : decode cX5_bundleAtHand 15 = .ok (.if_icmp .ge 21, 3) := dk_162 0 21 (dk_at dksX5_bundleAtHand_0 15 rfl rfl)
theorem dX5_bundleAtHand_18 : decode cX5_bundleAtHand 18 = .ok (.aload_n 0, 1) := dk_42 (dk_at dksX5_bundleAtHand_0 18 rfl rfl)
theorem dX5_bundleAtHand_19 : decode cX5_bundleAtHand 19 = .ok (.getfield 116, 3) := dk_180 0 116 (dk_at dksX5_bundleAtHand_0 19 rfl rfl)
theorem dX5_bundleAtHand_22 : decode cX5_bundleAtHand 22 = .ok (.iload_n 1, 1) := dk_27 (dk_at dksX5_bundleAtHand_0 22 rfl rfl)
theorem dX5_bundleAtHand_23 : decode cX5_bundleAtHand 23 = .ok (.aload_n 0, 1) := dk_42 (dk_at dksX5_bundleAtHand_0 23 rfl rfl)
theorem dX5_bundleAtHand_24 : decode cX5_bundleAtHand 24 = .ok (.getfield 113, 3) := dk_180 0 113 (dk_at dksX5_bundleAtHand_1 0 rfl rfl)
theorem dX5_bundleAtHand_27 : decode cX5_bundleAtHand 27 = .ok (.iload_n 1, 1) := dk_27 (dk_at dksX5_bundleAtHand_1 3 rfl rfl)
theorem dX5_bundleAtHand_28 : decode cX5_bundleAtHand 28 = .ok (.iaload, 1) := dk_46 (dk_at dksX5_bundleAtHand_1 4 rfl rfl)
theorem dX5_bundleAtHand_29 : decode cX5_bundleAtHand 29 = .ok (.iastore, 1) := dk_79 (dk_at dksX5_bundleAtHand_1 5 rfl rfl)
theorem dX5_bundleAtHand_30 : decode cX5_bundleAtHand 30 = .ok (.iinc 1 1, 3) := dk_132 1 1 (dk_at dksX5_bundleAtHand_1 6 rfl rfl)
theorem dX5_bundleAtHand_33 : decode cX5_bundleAtHand 33 = .ok (.goto (-23), 3) := dk_167 255 233 (dk_at dksX5_bundleAtHand_1 9 rfl rfl)
theorem dX5_bundleAtHand_36 : decode cX5_bundleAtHand 36 = .ok (.return_, 1) := dk_177 (dk_at dksX5_bundleAtHand_1 12 rfl rfl)
abbrev cX5_codesAtHand : ByteArray := prog_24_method_52_code
def yX5_codesAtHand : MethodName := ⟨RX5, "codesAtHand", "()I"⟩
def dkwX5_codesAtHand_0 : List UInt8 := [16, 32, 42, 182, 1, 178, 120, 172]
abbrev dktX5_codesAtHand_0 : List UInt8 := dkwX5_codesAtHand_0 ++ []
theorem dksX5_codesAtHand_0 : cX5_codesAtHand.data.toList.drop 0 = dktX5_codesAtHand_0 := by decide +kernel
theorem dX5_codesAtHand_0 : decode cX5_codesAtHand 0 = .ok (.bipush 32, 2) := dk_16 32 (dk_at dksX5_codesAtHand_0 0 rfl rfl)
theorem dX5_codesAtHand_2 : decode cX5_codesAtHand 2 = .ok (.aload_n 0, 1) := dk_42 (dk_at dksX5_codesAtHand_0 2 rfl rfl)
theorem dX5_codesAtHand_3 : decode cX5_codesAtHand 3 = .ok (.invokevirtual 434, 3) := dk_182 1 178 (dk_at dksX5_codesAtHand_0 3 rfl rfl)
theorem dX5_codesAtHand_6 : decode cX5_codesAtHand 6 = .ok (.ishl, 1) := dk_120 (dk_at dksX5_codesAtHand_0 6 rfl rfl)
theorem dX5_codesAtHand_7 : decode cX5_codesAtHand 7 = .ok (.ireturn, 1) := dk_172 (dk_at dksX5_codesAtHand_0 7 rfl rfl)
abbrev cX5_choicesAtHand : ByteArray := prog_24_method_48_code
def yX5_choicesAtHand : MethodName := ⟨RX5, "choicesAtHand", "()I"⟩
def dkwX5_choicesAtHand_1 : List UInt8 := [96, 60, 132, 2, 1, 167, 255, 231, 27, 172]
abbrev dktX5_choicesAtHand_1 : List UInt8 := dkwX5_choicesAtHand_1 ++ []
def dkwX5_choicesAtHand_0 : List UInt8 := [3, 60, 3, 61, 28, 42, 180, 1, 169, 162, 0, 23, 27, 42, 180, 0, 22, 42, 180, 0, 116, 28, 46, 46]
abbrev dktX5_choicesAtHand_0 : List UInt8 := dkwX5_choicesAtHand_0 ++ dktX5_choicesAtHand_1
theorem dksX5_choicesAtHand_0 : cX5_choicesAtHand.data.toList.drop 0 = dktX5_choicesAtHand_0 := by decide +kernel
theorem dksX5_choicesAtHand_1 : cX5_choicesAtHand.data.toList.drop 24 = dktX5_choicesAtHand_1 := dk_seg dksX5_choicesAtHand_0 24 rfl rfl
theorem dX5_choicesAtHand_0 : decode cX5_choicesAtHand 0 = .ok (.iconst 0, 1) := dk_3 (dk_at dksX5_choicesAtHand_0 0 rfl rfl)
theorem dX5_choicesAtHand_1 : decode cX5_choicesAtHand 1 = .ok (.istore_n 1, 1) := dk_60 (dk_at dksX5_choicesAtHand_0 1 rfl rfl)
theorem dX5_choicesAtHand_2 : decode cX5_choicesAtHand 2 = .ok (.iconst 0, 1) := dk_3 (dk_at dksX5_choicesAtHand_0 2 rfl rfl)
theorem dX5_choicesAtHand_3 : decode cX5_choicesAtHand 3 = .ok (.istore_n 2, 1) := dk_61 (dk_at dksX5_choicesAtHand_0 3 rfl rfl)
theorem dX5_choicesAtHand_4 : decode cX5_choicesAtHand 4 = .ok (.iload_n 2, 1) := dk_28 (dk_at dksX5_choicesAtHand_0 4 rfl rfl)
theorem dX5_choicesAtHand_5 : decode cX5_choicesAtHand 5 = .ok (.aload_n 0, 1) := dk_42 (dk_at dksX5_choicesAtHand_0 5 rfl rfl)
theorem dX5_choicesAtHand_6 : decode cX5_choicesAtHand 6 = .ok (.getfield 425, 3) := dk_180 1 169 (dk_at dksX5_choicesAtHand_0 6 rfl rfl)
theorem dX5_choicesAtHand_9 : decode cX5_choicesAtHand 9 = .ok (.if_icmp .ge 23, 3) := dk_162 0 23 (dk_at dksX5_choicesAtHand_0 9 rfl rfl)
theorem dX5_choicesAtHand_12 : decode cX5_choicesAtHand 12 = .ok (.iload_n 1, 1) := dk_27 (dk_at dksX5_choicesAtHand_0 12 rfl rfl)
theorem dX5_choicesAtHand_13 : decode cX5_choicesAtHand 13 = .ok (.aload_n 0, 1) := dk_42 (dk_at dksX5_choicesAtHand_0 13 rfl rfl)
theorem dX5_choicesAtHand_14 : decode cX5_choicesAtHand 14 = .ok (.getfield 22, 3) := dk_180 0 22 (dk_at dksX5_choicesAtHand_0 14 rfl rfl)
theorem dX5_choicesAtHand_17 : decode cX5_choicesAtHand 17 = .ok (.aload_n 0, 1) := dk_42 (dk_at dksX5_choicesAtHand_0 17 rfl rfl)
theorem dX5_choicesAtHand_18 : decode cX5_choicesAtHand 18 = .ok (.getfield 116, 3) := dk_180 0 116 (dk_at dksX5_choicesAtHand_0 18 rfl rfl)
theorem dX5_choicesAtHand_21 : decode cX5_choicesAtHand 21 = .ok (.iload_n 2, 1) := dk_28 (dk_at dksX5_choicesAtHand_0 21 rfl rfl)
theorem dX5_choicesAtHand_22 : decode cX5_choicesAtHand 22 = .ok (.iaload, 1) := dk_46 (dk_at dksX5_choicesAtHand_0 22 rfl rfl)
theorem dX5_choicesAtHand_23 : decode cX5_choicesAtHand 23 = .ok (.iaload, 1) := dk_46 (dk_at dksX5_choicesAtHand_0 23 rfl rfl)
theorem dX5_choicesAtHand_24 : decode cX5_choicesAtHand 24 = .ok (.iadd, 1) := dk_96 (dk_at dksX5_choicesAtHand_1 0 rfl rfl)
theorem dX5_choicesAtHand_25 : decode cX5_choicesAtHand 25 = .ok (.istore_n 1, 1) := dk_60 (dk_at dksX5_choicesAtHand_1 1 rfl rfl)
theorem dX5_choicesAtHand_26 : decode cX5_choicesAtHand 26 = .ok (.iinc 2 1, 3) := dk_132 2 1 (dk_at dksX5_choicesAtHand_1 2 rfl rfl)
theorem dX5_choicesAtHand_29 : decode cX5_choicesAtHand 29 = .ok (.goto (-25), 3) := dk_167 255 231 (dk_at dksX5_choicesAtHand_1 5 rfl rfl)
theorem dX5_choicesAtHand_32 : decode cX5_choicesAtHand 32 = .ok (.iload_n 1, 1) := dk_27 (dk_at dksX5_choicesAtHand_1 8 rfl rfl)
theorem dX5_choicesAtHand_33 : decode cX5_choicesAtHand 33 = .ok (.ireturn, 1) := dk_172 (dk_at dksX5_choicesAtHand_1 9 rfl rfl)
abbrev cX5_rowsOfDeal : ByteArray := prog_24_method_58_code
def yX5_rowsOfDeal : MethodName := ⟨RX5, "rowsOfDeal", "(III)I"⟩
def dkwX5_rowsOfDeal_2 : List UInt8 := [158, 0, 14, 21, 4, 42, 21, 5, 182, 1, 184, 96, 54, 4, 132, 5, 1, 167, 255, 204, 21, 4, 172]
abbrev dktX5_rowsOfDeal_2 : List UInt8 := dkwX5_rowsOfDeal_2 ++ []
def dkwX5_rowsOfDeal_1 : List UInt8 := [162, 0, 42, 42, 21, 5, 182, 1, 100, 153, 0, 27, 42, 21, 5, 28, 29, 182, 1, 151, 9, 148]
abbrev dktX5_rowsOfDeal_1 : List UInt8 := dkwX5_rowsOfDeal_1 ++ dktX5_rowsOfDeal_2
def dkwX5_rowsOfDeal_0 : List UInt8 := [3, 54, 4, 16, 96, 27, 104, 54, 5, 21, 5, 16, 96, 27, 104, 42, 180, 0, 13, 27, 46, 96]
abbrev dktX5_rowsOfDeal_0 : List UInt8 := dkwX5_rowsOfDeal_0 ++ dktX5_rowsOfDeal_1
theorem dksX5_rowsOfDeal_0 : cX5_rowsOfDeal.data.toList.drop 0 = dktX5_rowsOfDeal_0 := by decide +kernel
theorem dksX5_rowsOfDeal_1 : cX5_rowsOfDeal.data.toList.drop 22 = dktX5_rowsOfDeal_1 := dk_seg dksX5_rowsOfDeal_0 22 rfl rfl
theorem dksX5_rowsOfDeal_2 : cX5_rowsOfDeal.data.toList.drop 44 = dktX5_rowsOfDeal_2 := dk_seg dksX5_rowsOfDeal_1 22 rfl rfl
theorem dX5_rowsOfDeal_0 : decode cX5_rowsOfDeal 0 = .ok (.iconst 0, 1) := dk_3 (dk_at dksX5_rowsOfDeal_0 0 rfl rfl)
theorem dX5_rowsOfDeal_1 : decode cX5_rowsOfDeal 1 = .ok (.istore 4, 2) := dk_54 4 (dk_at dksX5_rowsOfDeal_0 1 rfl rfl)
theorem dX5_rowsOfDeal_3 : decode cX5_rowsOfDeal 3 = .ok (.bipush 96, 2) := dk_16 96 (dk_at dksX5_rowsOfDeal_0 3 rfl rfl)
theorem dX5_rowsOfDeal_5 : decode cX5_rowsOfDeal 5 = .ok (.iload_n 1, 1) := dk_27 (dk_at dksX5_rowsOfDeal_0 5 rfl rfl)
theorem dX5_rowsOfDeal_6 : decode cX5_rowsOfDeal 6 = .ok (.imul, 1) := dk_104 (dk_at dksX5_rowsOfDeal_0 6 rfl rfl)
theorem dX5_rowsOfDeal_7 : decode cX5_rowsOfDeal 7 = .ok (.istore 5, 2) := dk_54 5 (dk_at dksX5_rowsOfDeal_0 7 rfl rfl)
theorem dX5_rowsOfDeal_9 : decode cX5_rowsOfDeal 9 = .ok (.iload 5, 2) := dk_21 5 (dk_at dksX5_rowsOfDeal_0 9 rfl rfl)
theorem dX5_rowsOfDeal_11 : decode cX5_rowsOfDeal 11 = .ok (.bipush 96, 2) := dk_16 96 (dk_at dksX5_rowsOfDeal_0 11 rfl rfl)
theorem dX5_rowsOfDeal_13 : decode cX5_rowsOfDeal 13 = .ok (.iload_n 1, 1) := dk_27 (dk_at dksX5_rowsOfDeal_0 13 rfl rfl)
theorem dX5_rowsOfDeal_14 : decode cX5_rowsOfDeal 14 = .ok (.imul, 1) := dk_104 (dk_at dksX5_rowsOfDeal_0 14 rfl rfl)
theorem dX5_rowsOfDeal_15 : decode cX5_rowsOfDeal 15 = .ok (.aload_n 0, 1) := dk_42 (dk_at dksX5_rowsOfDeal_0 15 rfl rfl)
theorem dX5_rowsOfDeal_16 : decode cX5_rowsOfDeal 16 = .ok (.getfield 13, 3) := dk_180 0 13 (dk_at dksX5_rowsOfDeal_0 16 rfl rfl)
theorem dX5_rowsOfDeal_19 : decode cX5_rowsOfDeal 19 = .ok (.iload_n 1, 1) := dk_27 (dk_at dksX5_rowsOfDeal_0 19 rfl rfl)
theorem dX5_rowsOfDeal_20 : decode cX5_rowsOfDeal 20 = .ok (.iaload, 1) := dk_46 (dk_at dksX5_rowsOfDeal_0 20 rfl rfl)
theorem dX5_rowsOfDeal_21 : decode cX5_rowsOfDeal 21 = .ok (.iadd, 1) := dk_96 (dk_at dksX5_rowsOfDeal_0 21 rfl rfl)
theorem dX5_rowsOfDeal_22 : decode cX5_rowsOfDeal 22 = .ok (.if_icmp .ge 42, 3) := dk_162 0 42 (dk_at dksX5_rowsOfDeal_1 0 rfl rfl)
theorem dX5_rowsOfDeal_25 : decode cX5_rowsOfDeal 25 = .ok (.aload_n 0, 1) := dk_42 (dk_at dksX5_rowsOfDeal_1 3 rfl rfl)
theorem dX5_rowsOfDeal_26 : decode cX5_rowsOfDeal 26 = .ok (.iload 5, 2) := dk_21 5 (dk_at dksX5_rowsOfDeal_1 4 rfl rfl)
theorem dX5_rowsOfDeal_28 : decode cX5_rowsOfDeal 28 = .ok (.invokevirtual 356, 3) := dk_182 1 100 (dk_at dksX5_rowsOfDeal_1 6 rfl rfl)
theorem dX5_rowsOfDeal_31 : decode cX5_rowsOfDeal 31 = .ok (.ifCond .eq 27, 3) := dk_153 0 27 (dk_at dksX5_rowsOfDeal_1 9 rfl rfl)
theorem dX5_rowsOfDeal_34 : decode cX5_rowsOfDeal 34 = .ok (.aload_n 0, 1) := dk_42 (dk_at dksX5_rowsOfDeal_1 12 rfl rfl)
theorem dX5_rowsOfDeal_35 : decode cX5_rowsOfDeal 35 = .ok (.iload 5, 2) := dk_21 5 (dk_at dksX5_rowsOfDeal_1 13 rfl rfl)
theorem dX5_rowsOfDeal_37 : decode cX5_rowsOfDeal 37 = .ok (.iload_n 2, 1) := dk_28 (dk_at dksX5_rowsOfDeal_1 15 rfl rfl)
theorem dX5_rowsOfDeal_38 : decode cX5_rowsOfDeal 38 = .ok (.iload_n 3, 1) := dk_29 (dk_at dksX5_rowsOfDeal_1 16 rfl rfl)
theorem dX5_rowsOfDeal_39 : decode cX5_rowsOfDeal 39 = .ok (.invokevirtual 407, 3) := dk_182 1 151 (dk_at dksX5_rowsOfDeal_1 17 rfl rfl)
theorem dX5_rowsOfDeal_42 : decode cX5_rowsOfDeal 42 = .ok (.lconst 0, 1) := dk_9 (dk_at dksX5_rowsOfDeal_1 20 rfl rfl)
theorem dX5_rowsOfDeal_43 : decode cX5_rowsOfDeal 43 = .ok (.lcmp, 1) := dk_148 (dk_at dksX5_rowsOfDeal_1 21 rfl rfl)
theorem dX5_rowsOfDeal_44 : decode cX5_rowsOfDeal 44 = .ok (.ifCond .le 14, 3) := dk_158 0 14 (dk_at dksX5_rowsOfDeal_2 0 rfl rfl)
theorem dX5_rowsOfDeal_47 : decode cX5_rowsOfDeal 47 = .ok (.iload 4, 2) := dk_21 4 (dk_at dksX5_rowsOfDeal_2 3 rfl rfl)
theorem dX5_rowsOfDeal_49 : decode cX5_rowsOfDeal 49 = .ok (.aload_n 0, 1) := dk_42 (dk_at dksX5_rowsOfDeal_2 5 rfl rfl)
theorem dX5_rowsOfDeal_50 : decode cX5_rowsOfDeal 50 = .ok (.iload 5, 2) := dk_21 5 (dk_at dksX5_rowsOfDeal_2 6 rfl rfl)
theorem dX5_rowsOfDeal_52 : decode cX5_rowsOfDeal 52 = .ok (.invokevirtual 440, 3) := dk_182 1 184 (dk_at dksX5_rowsOfDeal_2 8 rfl rfl)
theorem dX5_rowsOfDeal_55 : decode cX5_rowsOfDeal 55 = .ok (.iadd, 1) := dk_96 (dk_at dksX5_rowsOfDeal_2 11 rfl rfl)
theorem dX5_rowsOfDeal_56 : decode cX5_rowsOfDeal 56 = .ok (.istore 4, 2) := dk_54 4 (dk_at dksX5_rowsOfDeal_2 12 rfl rfl)
theorem dX5_rowsOfDeal_58 : decode cX5_rowsOfDeal 58 = .ok (.iinc 5 1, 3) := dk_132 5 1 (dk_at dksX5_rowsOfDeal_2 14 rfl rfl)
theorem dX5_rowsOfDeal_61 : decode cX5_rowsOfDeal 61 = .ok (.goto (-52), 3) := dk_167 255 204 (dk_at dksX5_rowsOfDeal_2 17 rfl rfl)
theorem dX5_rowsOfDeal_64 : decode cX5_rowsOfDeal 64 = .ok (.iload 4, 2) := dk_21 4 (dk_at dksX5_rowsOfDeal_2 20 rfl rfl)
theorem dX5_rowsOfDeal_66 : decode cX5_rowsOfDeal 66 = .ok (.ireturn, 1) := dk_172 (dk_at dksX5_rowsOfDeal_2 22 rfl rfl)
abbrev cX5_rowsOf : ByteArray := prog_24_method_32_code
def yX5_rowsOf : MethodName := ⟨RX5, "rowsOf", "(I)I"⟩
def dkwX5_rowsOf_0 : List UInt8 := [42, 180, 0, 28, 27, 46, 5, 162, 0, 7, 4, 167, 0, 9, 42, 180, 0, 28, 27, 46, 172]
abbrev dktX5_rowsOf_0 : List UInt8 := dkwX5_rowsOf_0 ++ []
theorem dksX5_rowsOf_0 : cX5_rowsOf.data.toList.drop 0 = dktX5_rowsOf_0 := by decide +kernel
theorem dX5_rowsOf_0 : decode cX5_rowsOf 0 = .ok (.aload_n 0, 1) := dk_42 (dk_at dksX5_rowsOf_0 0 rfl rfl)
theorem dX5_rowsOf_1 : decode cX5_rowsOf 1 = .ok (.getfield 28, 3) := dk_180 0 28 (dk_at dksX5_rowsOf_0 1 rfl rfl)
theorem dX5_rowsOf_4 : decode cX5_rowsOf 4 = .ok (.iload_n 1, 1) := dk_27 (dk_at dksX5_rowsOf_0 4 rfl rfl)
theorem dX5_rowsOf_5 : decode cX5_rowsOf 5 = .ok (.iaload, 1) := dk_46 (dk_at dksX5_rowsOf_0 5 rfl rfl)
theorem dX5_rowsOf_6 : decode cX5_rowsOf 6 = .ok (.iconst 2, 1) := dk_5 (dk_at dksX5_rowsOf_0 6 rfl rfl)
theorem dX5_rowsOf_7 : decode cX5_rowsOf 7 = .ok (.if_icmp .ge 7, 3) := dk_162 0 7 (dk_at dksX5_rowsOf_0 7 rfl rfl)
theorem dX5_rowsOf_10 : decode cX5_rowsOf 10 = .ok (.iconst 1, 1) := dk_4 (dk_at dksX5_rowsOf_0 10 rfl rfl)
theorem dX5_rowsOf_11 : decode cX5_rowsOf 11 = .ok (.goto 9, 3) := dk_167 0 9 (dk_at dksX5_rowsOf_0 11 rfl rfl)
theorem dX5_rowsOf_14 : decode cX5_rowsOf 14 = .ok (.aload_n 0, 1) := dk_42 (dk_at dksX5_rowsOf_0 14 rfl rfl)
theorem dX5_rowsOf_15 : decode cX5_rowsOf 15 = .ok (.getfield 28, 3) := dk_180 0 28 (dk_at dksX5_rowsOf_0 15 rfl rfl)
theorem dX5_rowsOf_18 : decode cX5_rowsOf 18 = .ok (.iload_n 1, 1) := dk_27 (dk_at dksX5_rowsOf_0 18 rfl rfl)
theorem dX5_rowsOf_19 : decode cX5_rowsOf 19 = .ok (.iaload, 1) := dk_46 (dk_at dksX5_rowsOf_0 19 rfl rfl)
theorem dX5_rowsOf_20 : decode cX5_rowsOf 20 = .ok (.ireturn, 1) := dk_172 (dk_at dksX5_rowsOf_0 20 rfl rfl)
abbrev cX5_findRow : ByteArray := prog_24_method_56_code
def yX5_findRow : MethodName := ⟨RX5, "findRow", "(IIII)V"⟩
def dkwX5_findRow_4 : List UInt8 := [167, 255, 170]
abbrev dktX5_findRow_4 : List UInt8 := dkwX5_findRow_4 ++ []
def dkwX5_findRow_3 : List UInt8 := [22, 7, 9, 148, 158, 0, 12, 42, 21, 6, 182, 1, 184, 167, 0, 4, 3, 100, 54, 5, 132, 6, 1]
abbrev dktX5_findRow_3 : List UInt8 := dkwX5_findRow_3 ++ dktX5_findRow_4
def dkwX5_findRow_2 : List UInt8 := [162, 0, 22, 42, 21, 6, 181, 1, 187, 42, 21, 5, 181, 1, 190, 42, 22, 7, 181, 1, 193, 177, 21, 5]
abbrev dktX5_findRow_2 : List UInt8 := dkwX5_findRow_2 ++ dktX5_findRow_3
def dkwX5_findRow_1 : List UInt8 := [182, 1, 151, 167, 0, 4, 9, 55, 7, 22, 7, 9, 148, 158, 0, 33, 21, 5, 42, 21, 6, 182, 1, 184]
abbrev dktX5_findRow_1 : List UInt8 := dkwX5_findRow_1 ++ dktX5_findRow_2
def dkwX5_findRow_0 : List UInt8 := [28, 54, 5, 16, 96, 27, 104, 54, 6, 42, 21, 6, 182, 1, 100, 153, 0, 15, 42, 21, 6, 29, 21, 4]
abbrev dktX5_findRow_0 : List UInt8 := dkwX5_findRow_0 ++ dktX5_findRow_1
theorem dksX5_findRow_0 : cX5_findRow.data.toList.drop 0 = dktX5_findRow_0 := by decide +kernel
theorem dksX5_findRow_1 : cX5_findRow.data.toList.drop 24 = dktX5_findRow_1 := dk_seg dksX5_findRow_0 24 rfl rfl
theorem dksX5_findRow_2 : cX5_findRow.data.toList.drop 48 = dktX5_findRow_2 := dk_seg dksX5_findRow_1 24 rfl rfl
theorem dksX5_findRow_3 : cX5_findRow.data.toList.drop 72 = dktX5_findRow_3 := dk_seg dksX5_findRow_2 24 rfl rfl
theorem dksX5_findRow_4 : cX5_findRow.data.toList.drop 95 = dktX5_findRow_4 := dk_seg dksX5_findRow_3 23 rfl rfl
theorem dX5_findRow_0 : decode cX5_findRow 0 = .ok (.iload_n 2, 1) := dk_28 (dk_at dksX5_findRow_0 0 rfl rfl)
theorem dX5_findRow_1 : decode cX5_findRow 1 = .ok (.istore 5, 2) := dk_54 5 (dk_at dksX5_findRow_0 1 rfl rfl)
theorem dX5_findRow_3 : decode cX5_findRow 3 = .ok (.bipush 96, 2) := dk_16 96 (dk_at dksX5_findRow_0 3 rfl rfl)
theorem dX5_findRow_5 : decode cX5_findRow 5 = .ok (.iload_n 1, 1) := dk_27 (dk_at dksX5_findRow_0 5 rfl rfl)
theorem dX5_findRow_6 : decode cX5_findRow 6 = .ok (.imul, 1) := dk_104 (dk_at dksX5_findRow_0 6 rfl rfl)
theorem dX5_findRow_7 : decode cX5_findRow 7 = .ok (.istore 6, 2) := dk_54 6 (dk_at dksX5_findRow_0 7 rfl rfl)
theorem dX5_findRow_9 : decode cX5_findRow 9 = .ok (.aload_n 0, 1) := dk_42 (dk_at dksX5_findRow_0 9 rfl rfl)
theorem dX5_findRow_10 : decode cX5_findRow 10 = .ok (.iload 6, 2) := dk_21 6 (dk_at dksX5_findRow_0 10 rfl rfl)
theorem dX5_findRow_12 : decode cX5_findRow 12 = .ok (.invokevirtual 356, 3) := dk_182 1 100 (dk_at dksX5_findRow_0 12 rfl rfl)
theorem dX5_findRow_15 : decode cX5_findRow 15 = .ok (.ifCond .eq 15, 3) := dk_153 0 15 (dk_at dksX5_findRow_0 15 rfl rfl)
theorem dX5_findRow_18 : decode cX5_findRow 18 = .ok (.aload_n 0, 1) := dk_42 (dk_at dksX5_findRow_0 18 rfl rfl)
theorem dX5_findRow_19 : decode cX5_findRow 19 = .ok (.iload 6, 2) := dk_21 6 (dk_at dksX5_findRow_0 19 rfl rfl)
theorem dX5_findRow_21 : decode cX5_findRow 21 = .ok (.iload_n 3, 1) := dk_29 (dk_at dksX5_findRow_0 21 rfl rfl)
theorem dX5_findRow_22 : decode cX5_findRow 22 = .ok (.iload 4, 2) := dk_21 4 (dk_at dksX5_findRow_0 22 rfl rfl)
theorem dX5_findRow_24 : decode cX5_findRow 24 = .ok (.invokevirtual 407, 3) := dk_182 1 151 (dk_at dksX5_findRow_1 0 rfl rfl)
theorem dX5_findRow_27 : decode cX5_findRow 27 = .ok (.goto 4, 3) := dk_167 0 4 (dk_at dksX5_findRow_1 3 rfl rfl)
theorem dX5_findRow_30 : decode cX5_findRow 30 = .ok (.lconst 0, 1) := dk_9 (dk_at dksX5_findRow_1 6 rfl rfl)
theorem dX5_findRow_31 : decode cX5_findRow 31 = .ok (.lstore 7, 2) := dk_55 7 (dk_at dksX5_findRow_1 7 rfl rfl)
theorem dX5_findRow_33 : decode cX5_findRow 33 = .ok (.lload 7, 2) := dk_22 7 (dk_at dksX5_findRow_1 9 rfl rfl)
theorem dX5_findRow_35 : decode cX5_findRow 35 = .ok (.lconst 0, 1) := dk_9 (dk_at dksX5_findRow_1 11 rfl rfl)
theorem dX5_findRow_36 : decode cX5_findRow 36 = .ok (.lcmp, 1) := dk_148 (dk_at dksX5_findRow_1 12 rfl rfl)
theorem dX5_findRow_37 : decode cX5_findRow 37 = .ok (.ifCond .le 33, 3) := dk_158 0 33 (dk_at dksX5_findRow_1 13 rfl rfl)
theorem dX5_findRow_40 : decode cX5_findRow 40 = .ok (.iload 5, 2) := dk_21 5 (dk_at dksX5_findRow_1 16 rfl rfl)
theorem dX5_findRow_42 : decode cX5_findRow 42 = .ok (.aload_n 0, 1) := dk_42 (dk_at dksX5_findRow_1 18 rfl rfl)
theorem dX5_findRow_43 : decode cX5_findRow 43 = .ok (.iload 6, 2) := dk_21 6 (dk_at dksX5_findRow_1 19 rfl rfl)
theorem dX5_findRow_45 : decode cX5_findRow 45 = .ok (.invokevirtual 440, 3) := dk_182 1 184 (dk_at dksX5_findRow_1 21 rfl rfl)
theorem dX5_findRow_48 : decode cX5_findRow 48 = .ok (.if_icmp .ge 22, 3) := dk_162 0 22 (dk_at dksX5_findRow_2 0 rfl rfl)
theorem dX5_findRow_51 : decode cX5_findRow 51 = .ok (.aload_n 0, 1) := dk_42 (dk_at dksX5_findRow_2 3 rfl rfl)
theorem dX5_findRow_52 : decode cX5_findRow 52 = .ok (.iload 6, 2) := dk_21 6 (dk_at dksX5_findRow_2 4 rfl rfl)
theorem dX5_findRow_54 : decode cX5_findRow 54 = .ok (.putfield 443, 3) := dk_181 1 187 (dk_at dksX5_findRow_2 6 rfl rfl)
theorem dX5_findRow_57 : decode cX5_findRow 57 = .ok (.aload_n 0, 1) := dk_42 (dk_at dksX5_findRow_2 9 rfl rfl)
theorem dX5_findRow_58 : decode cX5_findRow 58 = .ok (.iload 5, 2) := dk_21 5 (dk_at dksX5_findRow_2 10 rfl rfl)
theorem dX5_findRow_60 : decode cX5_findRow 60 = .ok (.putfield 446, 3) := dk_181 1 190 (dk_at dksX5_findRow_2 12 rfl rfl)
theorem dX5_findRow_63 : decode cX5_findRow 63 = .ok (.aload_n 0, 1) := dk_42 (dk_at dksX5_findRow_2 15 rfl rfl)
theorem dX5_findRow_64 : decode cX5_findRow 64 = .ok (.lload 7, 2) := dk_22 7 (dk_at dksX5_findRow_2 16 rfl rfl)
theorem dX5_findRow_66 : decode cX5_findRow 66 = .ok (.putfield 449, 3) := dk_181 1 193 (dk_at dksX5_findRow_2 18 rfl rfl)
theorem dX5_findRow_69 : decode cX5_findRow 69 = .ok (.return_, 1) := dk_177 (dk_at dksX5_findRow_2 21 rfl rfl)
theorem dX5_findRow_70 : decode cX5_findRow 70 = .ok (.iload 5, 2) := dk_21 5 (dk_at dksX5_findRow_2 22 rfl rfl)
theorem dX5_findRow_72 : decode cX5_findRow 72 = .ok (.lload 7, 2) := dk_22 7 (dk_at dksX5_findRow_3 0 rfl rfl)
theorem dX5_findRow_74 : decode cX5_findRow 74 = .ok (.lconst 0, 1) := dk_9 (dk_at dksX5_findRow_3 2 rfl rfl)
theorem dX5_findRow_75 : decode cX5_findRow 75 = .ok (.lcmp, 1) := dk_148 (dk_at dksX5_findRow_3 3 rfl rfl)
theorem dX5_findRow_76 : decode cX5_findRow 76 = .ok (.ifCond .le 12, 3) := dk_158 0 12 (dk_at dksX5_findRow_3 4 rfl rfl)
theorem dX5_findRow_79 : decode cX5_findRow 79 = .ok (.aload_n 0, 1) := dk_42 (dk_at dksX5_findRow_3 7 rfl rfl)
theorem dX5_findRow_80 : decode cX5_findRow 80 = .ok (.iload 6, 2) := dk_21 6 (dk_at dksX5_findRow_3 8 rfl rfl)
theorem dX5_findRow_82 : decode cX5_findRow 82 = .ok (.invokevirtual 440, 3) := dk_182 1 184 (dk_at dksX5_findRow_3 10 rfl rfl)
theorem dX5_findRow_85 : decode cX5_findRow 85 = .ok (.goto 4, 3) := dk_167 0 4 (dk_at dksX5_findRow_3 13 rfl rfl)
theorem dX5_findRow_88 : decode cX5_findRow 88 = .ok (.iconst 0, 1) := dk_3 (dk_at dksX5_findRow_3 16 rfl rfl)
theorem dX5_findRow_89 : decode cX5_findRow 89 = .ok (.isub, 1) := dk_100 (dk_at dksX5_findRow_3 17 rfl rfl)
theorem dX5_findRow_90 : decode cX5_findRow 90 = .ok (.istore 5, 2) := dk_54 5 (dk_at dksX5_findRow_3 18 rfl rfl)
theorem dX5_findRow_92 : decode cX5_findRow 92 = .ok (.iinc 6 1, 3) := dk_132 6 1 (dk_at dksX5_findRow_3 20 rfl rfl)
theorem dX5_findRow_95 : decode cX5_findRow 95 = .ok (.goto (-86), 3) := dk_167 255 170 (dk_at dksX5_findRow_4 0 rfl rfl)
abbrev cX5_rowTold : ByteArray := prog_24_method_57_code
def yX5_rowTold : MethodName := ⟨RX5, "rowTold", "(I)J"⟩
def dkwX5_rowTold_8 : List UInt8 := [153, 0, 12, 42, 180, 0, 58, 28, 46, 167, 0, 9, 42, 180, 0, 55, 28, 46, 133, 105, 173]
abbrev dktX5_rowTold_8 : List UInt8 := dkwX5_rowTold_8 ++ []
def dkwX5_rowTold_7 : List UInt8 := [21, 4, 153, 0, 7, 9, 167, 0, 10, 42, 180, 0, 52, 28, 46, 133, 173, 42, 180, 1, 193, 21, 4]
abbrev dktX5_rowTold_7 : List UInt8 := dkwX5_rowTold_7 ++ dktX5_rowTold_8
def dkwX5_rowTold_6 : List UInt8 := [173, 29, 153, 0, 13, 42, 180, 0, 46, 28, 46, 133, 167, 0, 10, 42, 180, 0, 49, 28, 46, 133, 173]
abbrev dktX5_rowTold_6 : List UInt8 := dkwX5_rowTold_6 ++ dktX5_rowTold_7
def dkwX5_rowTold_5 : List UInt8 := [96, 133, 173, 29, 153, 0, 13, 42, 180, 0, 49, 28, 46, 133, 167, 0, 10, 42, 180, 0, 46, 28, 46, 133]
abbrev dktX5_rowTold_5 : List UInt8 := dkwX5_rowTold_5 ++ dktX5_rowTold_6
def dkwX5_rowTold_4 : List UInt8 := [42, 28, 182, 1, 106, 29, 153, 0, 12, 42, 180, 0, 64, 28, 46, 167, 0, 9, 42, 180, 0, 61, 28, 46]
abbrev dktX5_rowTold_4 : List UInt8 := dkwX5_rowTold_4 ++ dktX5_rowTold_5
def dkwX5_rowTold_3 : List UInt8 := [170, 0, 0, 0, 0, 0, 0, 120, 0, 0, 0, 0, 0, 0, 0, 3, 0, 0, 0, 32, 0, 0, 0, 59, 0, 0, 0, 81, 0, 0, 0, 103]
abbrev dktX5_rowTold_3 : List UInt8 := dkwX5_rowTold_3 ++ dktX5_rowTold_4
def dkwX5_rowTold_2 : List UInt8 := [3, 54, 4, 27]
abbrev dktX5_rowTold_2 : List UInt8 := dkwX5_rowTold_2 ++ dktX5_rowTold_3
def dkwX5_rowTold_1 : List UInt8 := [5, 160, 0, 11, 42, 180, 1, 190, 4, 159, 0, 11, 42, 180, 1, 190, 5, 160, 0, 7, 4, 167, 0, 4]
abbrev dktX5_rowTold_1 : List UInt8 := dkwX5_rowTold_1 ++ dktX5_rowTold_2
def dkwX5_rowTold_0 : List UInt8 := [42, 180, 1, 187, 61, 42, 180, 1, 190, 158, 0, 7, 4, 167, 0, 4, 3, 62, 42, 180, 0, 28, 28, 46]
abbrev dktX5_rowTold_0 : List UInt8 := dkwX5_rowTold_0 ++ dktX5_rowTold_1
theorem dksX5_rowTold_0 : cX5_rowTold.data.toList.drop 0 = dktX5_rowTold_0 := by decide +kernel
theorem dksX5_rowTold_1 : cX5_rowTold.data.toList.drop 24 = dktX5_rowTold_1 := dk_seg dksX5_rowTold_0 24 rfl rfl
theorem dksX5_rowTold_2 : cX5_rowTold.data.toList.drop 48 = dktX5_rowTold_2 := dk_seg dksX5_rowTold_1 24 rfl rfl
theorem dksX5_rowTold_3 : cX5_rowTold.data.toList.drop 52 = dktX5_rowTold_3 := dk_seg dksX5_rowTold_2 4 rfl rfl
theorem dksX5_rowTold_4 : cX5_rowTold.data.toList.drop 84 = dktX5_rowTold_4 := dk_seg dksX5_rowTold_3 32 rfl rfl
theorem dksX5_rowTold_5 : cX5_rowTold.data.toList.drop 108 = dktX5_rowTold_5 := dk_seg dksX5_rowTold_4 24 rfl rfl
theorem dksX5_rowTold_6 : cX5_rowTold.data.toList.drop 132 = dktX5_rowTold_6 := dk_seg dksX5_rowTold_5 24 rfl rfl
theorem dksX5_rowTold_7 : cX5_rowTold.data.toList.drop 155 = dktX5_rowTold_7 := dk_seg dksX5_rowTold_6 23 rfl rfl
theorem dksX5_rowTold_8 : cX5_rowTold.data.toList.drop 178 = dktX5_rowTold_8 := dk_seg dksX5_rowTold_7 23 rfl rfl
theorem dX5_rowTold_0 : decode cX5_rowTold 0 = .ok (.aload_n 0, 1) := dk_42 (dk_at dksX5_rowTold_0 0 rfl rfl)
theorem dX5_rowTold_1 : decode cX5_rowTold 1 = .ok (.getfield 443, 3) := dk_180 1 187 (dk_at dksX5_rowTold_0 1 rfl rfl)
theorem dX5_rowTold_4 : decode cX5_rowTold 4 = .ok (.istore_n 2, 1) := dk_61 (dk_at dksX5_rowTold_0 4 rfl rfl)
theorem dX5_rowTold_5 : decode cX5_rowTold 5 = .ok (.aload_n 0, 1) := dk_42 (dk_at dksX5_rowTold_0 5 rfl rfl)
theorem dX5_rowTold_6 : decode cX5_rowTold 6 = .ok (.getfield 446, 3) := dk_180 1 190 (dk_at dksX5_rowTold_0 6 rfl rfl)
theorem dX5_rowTold_9 : decode cX5_rowTold 9 = .ok (.ifCond .le 7, 3) := dk_158 0 7 (dk_at dksX5_rowTold_0 9 rfl rfl)
theorem dX5_rowTold_12 : decode cX5_rowTold 12 = .ok (.iconst 1, 1) := dk_4 (dk_at dksX5_rowTold_0 12 rfl rfl)
theorem dX5_rowTold_13 : decode cX5_rowTold 13 = .ok (.goto 4, 3) := dk_167 0 4 (dk_at dksX5_rowTold_0 13 rfl rfl)
theorem dX5_rowTold_16 : decode cX5_rowTold 16 = .ok (.iconst 0, 1) := dk_3 (dk_at dksX5_rowTold_0 16 rfl rfl)
theorem dX5_rowTold_17 : decode cX5_rowTold 17 = .ok (.istore_n 3, 1) := dk_62 (dk_at dksX5_rowTold_0 17 rfl rfl)
theorem dX5_rowTold_18 : decode cX5_rowTold 18 = .ok (.aload_n 0, 1) := dk_42 (dk_at dksX5_rowTold_0 18 rfl rfl)
theorem dX5_rowTold_19 : decode cX5_rowTold 19 = .ok (.getfield 28, 3) := dk_180 0 28 (dk_at dksX5_rowTold_0 19 rfl rfl)
theorem dX5_rowTold_22 : decode cX5_rowTold 22 = .ok (.iload_n 2, 1) := dk_28 (dk_at dksX5_rowTold_0 22 rfl rfl)
theorem dX5_rowTold_23 : decode cX5_rowTold 23 = .ok (.iaload, 1) := dk_46 (dk_at dksX5_rowTold_0 23 rfl rfl)
theorem dX5_rowTold_24 : decode cX5_rowTold 24 = .ok (.iconst 2, 1) := dk_5 (dk_at dksX5_rowTold_1 0 rfl rfl)
theorem dX5_rowTold_25 : decode cX5_rowTold 25 = .ok (.if_icmp .ne 11, 3) := dk_160 0 11 (dk_at dksX5_rowTold_1 1 rfl rfl)
theorem dX5_rowTold_28 : decode cX5_rowTold 28 = .ok (.aload_n 0, 1) := dk_42 (dk_at dksX5_rowTold_1 4 rfl rfl)
theorem dX5_rowTold_29 : decode cX5_rowTold 29 = .ok (.getfield 446, 3) := dk_180 1 190 (dk_at dksX5_rowTold_1 5 rfl rfl)
theorem dX5_rowTold_32 : decode cX5_rowTold 32 = .ok (.iconst 1, 1) := dk_4 (dk_at dksX5_rowTold_1 8 rfl rfl)
theorem dX5_rowTold_33 : decode cX5_rowTold 33 = .ok (.if_icmp .eq 11, 3) := dk_159 0 11 (dk_at dksX5_rowTold_1 9 rfl rfl)
theorem dX5_rowTold_36 : decode cX5_rowTold 36 = .ok (.aload_n 0, 1) := dk_42 (dk_at dksX5_rowTold_1 12 rfl rfl)
theorem dX5_rowTold_37 : decode cX5_rowTold 37 = .ok (.getfield 446, 3) := dk_180 1 190 (dk_at dksX5_rowTold_1 13 rfl rfl)
theorem dX5_rowTold_40 : decode cX5_rowTold 40 = .ok (.iconst 2, 1) := dk_5 (dk_at dksX5_rowTold_1 16 rfl rfl)
theorem dX5_rowTold_41 : decode cX5_rowTold 41 = .ok (.if_icmp .ne 7, 3) := dk_160 0 7 (dk_at dksX5_rowTold_1 17 rfl rfl)
theorem dX5_rowTold_44 : decode cX5_rowTold 44 = .ok (.iconst 1, 1) := dk_4 (dk_at dksX5_rowTold_1 20 rfl rfl)
theorem dX5_rowTold_45 : decode cX5_rowTold 45 = .ok (.goto 4, 3) := dk_167 0 4 (dk_at dksX5_rowTold_1 21 rfl rfl)
theorem dX5_rowTold_48 : decode cX5_rowTold 48 = .ok (.iconst 0, 1) := dk_3 (dk_at dksX5_rowTold_2 0 rfl rfl)
theorem dX5_rowTold_49 : decode cX5_rowTold 49 = .ok (.istore 4, 2) := dk_54 4 (dk_at dksX5_rowTold_2 1 rfl rfl)
theorem dX5_rowTold_51 : decode cX5_rowTold 51 = .ok (.iload_n 1, 1) := dk_27 (dk_at dksX5_rowTold_2 3 rfl rfl)
theorem dX5_rowTold_52 : decode cX5_rowTold 52 = .ok (.tableswitch 120 0 3 #[32, 59, 81, 103], 32) := by decide +kernel
theorem dX5_rowTold_84 : decode cX5_rowTold 84 = .ok (.aload_n 0, 1) := dk_42 (dk_at dksX5_rowTold_4 0 rfl rfl)
theorem dX5_rowTold_85 : decode cX5_rowTold 85 = .ok (.iload_n 2, 1) := dk_28 (dk_at dksX5_rowTold_4 1 rfl rfl)
theorem dX5_rowTold_86 : decode cX5_rowTold 86 = .ok (.invokevirtual 362, 3) := dk_182 1 106 (dk_at dksX5_rowTold_4 2 rfl rfl)
theorem dX5_rowTold_89 : decode cX5_rowTold 89 = .ok (.iload_n 3, 1) := dk_29 (dk_at dksX5_rowTold_4 5 rfl rfl)
theorem dX5_rowTold_90 : decode cX5_rowTold 90 = .ok (.ifCond .eq 12, 3) := dk_153 0 12 (dk_at dksX5_rowTold_4 6 rfl rfl)
theorem dX5_rowTold_93 : decode cX5_rowTold 93 = .ok (.aload_n 0, 1) := dk_42 (dk_at dksX5_rowTold_4 9 rfl rfl)
theorem dX5_rowTold_94 : decode cX5_rowTold 94 = .ok (.getfield 64, 3) := dk_180 0 64 (dk_at dksX5_rowTold_4 10 rfl rfl)
theorem dX5_rowTold_97 : decode cX5_rowTold 97 = .ok (.iload_n 2, 1) := dk_28 (dk_at dksX5_rowTold_4 13 rfl rfl)
theorem dX5_rowTold_98 : decode cX5_rowTold 98 = .ok (.iaload, 1) := dk_46 (dk_at dksX5_rowTold_4 14 rfl rfl)
theorem dX5_rowTold_99 : decode cX5_rowTold 99 = .ok (.goto 9, 3) := dk_167 0 9 (dk_at dksX5_rowTold_4 15 rfl rfl)
theorem dX5_rowTold_102 : decode cX5_rowTold 102 = .ok (.aload_n 0, 1) := dk_42 (dk_at dksX5_rowTold_4 18 rfl rfl)
theorem dX5_rowTold_103 : decode cX5_rowTold 103 = .ok (.getfield 61, 3) := dk_180 0 61 (dk_at dksX5_rowTold_4 19 rfl rfl)
theorem dX5_rowTold_106 : decode cX5_rowTold 106 = .ok (.iload_n 2, 1) := dk_28 (dk_at dksX5_rowTold_4 22 rfl rfl)
theorem dX5_rowTold_107 : decode cX5_rowTold 107 = .ok (.iaload, 1) := dk_46 (dk_at dksX5_rowTold_4 23 rfl rfl)
theorem dX5_rowTold_108 : decode cX5_rowTold 108 = .ok (.iadd, 1) := dk_96 (dk_at dksX5_rowTold_5 0 rfl rfl)
theorem dX5_rowTold_109 : decode cX5_rowTold 109 = .ok (.i2l, 1) := dk_133 (dk_at dksX5_rowTold_5 1 rfl rfl)
theorem dX5_rowTold_110 : decode cX5_rowTold 110 = .ok (.lreturn, 1) := dk_173 (dk_at dksX5_rowTold_5 2 rfl rfl)
theorem dX5_rowTold_111 : decode cX5_rowTold 111 = .ok (.iload_n 3, 1) := dk_29 (dk_at dksX5_rowTold_5 3 rfl rfl)
theorem dX5_rowTold_112 : decode cX5_rowTold 112 = .ok (.ifCond .eq 13, 3) := dk_153 0 13 (dk_at dksX5_rowTold_5 4 rfl rfl)
theorem dX5_rowTold_115 : decode cX5_rowTold 115 = .ok (.aload_n 0, 1) := dk_42 (dk_at dksX5_rowTold_5 7 rfl rfl)
theorem dX5_rowTold_116 : decode cX5_rowTold 116 = .ok (.getfield 49, 3) := dk_180 0 49 (dk_at dksX5_rowTold_5 8 rfl rfl)
theorem dX5_rowTold_119 : decode cX5_rowTold 119 = .ok (.iload_n 2, 1) := dk_28 (dk_at dksX5_rowTold_5 11 rfl rfl)
theorem dX5_rowTold_120 : decode cX5_rowTold 120 = .ok (.iaload, 1) := dk_46 (dk_at dksX5_rowTold_5 12 rfl rfl)
theorem dX5_rowTold_121 : decode cX5_rowTold 121 = .ok (.i2l, 1) := dk_133 (dk_at dksX5_rowTold_5 13 rfl rfl)
theorem dX5_rowTold_122 : decode cX5_rowTold 122 = .ok (.goto 10, 3) := dk_167 0 10 (dk_at dksX5_rowTold_5 14 rfl rfl)
theorem dX5_rowTold_125 : decode cX5_rowTold 125 = .ok (.aload_n 0, 1) := dk_42 (dk_at dksX5_rowTold_5 17 rfl rfl)
theorem dX5_rowTold_126 : decode cX5_rowTold 126 = .ok (.getfield 46, 3) := dk_180 0 46 (dk_at dksX5_rowTold_5 18 rfl rfl)
theorem dX5_rowTold_129 : decode cX5_rowTold 129 = .ok (.iload_n 2, 1) := dk_28 (dk_at dksX5_rowTold_5 21 rfl rfl)
theorem dX5_rowTold_130 : decode cX5_rowTold 130 = .ok (.iaload, 1) := dk_46 (dk_at dksX5_rowTold_5 22 rfl rfl)
theorem dX5_rowTold_131 : decode cX5_rowTold 131 = .ok (.i2l, 1) := dk_133 (dk_at dksX5_rowTold_5 23 rfl rfl)
theorem dX5_rowTold_132 : decode cX5_rowTold 132 = .ok (.lreturn, 1) := dk_173 (dk_at dksX5_rowTold_6 0 rfl rfl)
theorem dX5_rowTold_133 : decode cX5_rowTold 133 = .ok (.iload_n 3, 1) := dk_29 (dk_at dksX5_rowTold_6 1 rfl rfl)
theorem dX5_rowTold_134 : decode cX5_rowTold 134 = .ok (.ifCond .eq 13, 3) := dk_153 0 13 (dk_at dksX5_rowTold_6 2 rfl rfl)
theorem dX5_rowTold_137 : decode cX5_rowTold 137 = .ok (.aload_n 0, 1) := dk_42 (dk_at dksX5_rowTold_6 5 rfl rfl)
theorem dX5_rowTold_138 : decode cX5_rowTold 138 = .ok (.getfield 46, 3) := dk_180 0 46 (dk_at dksX5_rowTold_6 6 rfl rfl)
theorem dX5_rowTold_141 : decode cX5_rowTold 141 = .ok (.iload_n 2, 1) := dk_28 (dk_at dksX5_rowTold_6 9 rfl rfl)
theorem dX5_rowTold_142 : decode cX5_rowTold 142 = .ok (.iaload, 1) := dk_46 (dk_at dksX5_rowTold_6 10 rfl rfl)
theorem dX5_rowTold_143 : decode cX5_rowTold 143 = .ok (.i2l, 1) := dk_133 (dk_at dksX5_rowTold_6 11 rfl rfl)
theorem dX5_rowTold_144 : decode cX5_rowTold 144 = .ok (.goto 10, 3) := dk_167 0 10 (dk_at dksX5_rowTold_6 12 rfl rfl)
theorem dX5_rowTold_147 : decode cX5_rowTold 147 = .ok (.aload_n 0, 1) := dk_42 (dk_at dksX5_rowTold_6 15 rfl rfl)
theorem dX5_rowTold_148 : decode cX5_rowTold 148 = .ok (.getfield 49, 3) := dk_180 0 49 (dk_at dksX5_rowTold_6 16 rfl rfl)
theorem dX5_rowTold_151 : decode cX5_rowTold 151 = .ok (.iload_n 2, 1) := dk_28 (dk_at dksX5_rowTold_6 19 rfl rfl)
theorem dX5_rowTold_152 : decode cX5_rowTold 152 = .ok (.iaload, 1) := dk_46 (dk_at dksX5_rowTold_6 20 rfl rfl)
theorem dX5_rowTold_153 : decode cX5_rowTold 153 = .ok (.i2l, 1) := dk_133 (dk_at dksX5_rowTold_6 21 rfl rfl)
theorem dX5_rowTold_154 : decode cX5_rowTold 154 = .ok (.lreturn, 1) := dk_173 (dk_at dksX5_rowTold_6 22 rfl rfl)
theorem dX5_rowTold_155 : decode cX5_rowTold 155 = .ok (.iload 4, 2) := dk_21 4 (dk_at dksX5_rowTold_7 0 rfl rfl)
theorem dX5_rowTold_157 : decode cX5_rowTold 157 = .ok (.ifCond .eq 7, 3) := dk_153 0 7 (dk_at dksX5_rowTold_7 2 rfl rfl)
theorem dX5_rowTold_160 : decode cX5_rowTold 160 = .ok (.lconst 0, 1) := dk_9 (dk_at dksX5_rowTold_7 5 rfl rfl)
theorem dX5_rowTold_161 : decode cX5_rowTold 161 = .ok (.goto 10, 3) := dk_167 0 10 (dk_at dksX5_rowTold_7 6 rfl rfl)
theorem dX5_rowTold_164 : decode cX5_rowTold 164 = .ok (.aload_n 0, 1) := dk_42 (dk_at dksX5_rowTold_7 9 rfl rfl)
theorem dX5_rowTold_165 : decode cX5_rowTold 165 = .ok (.getfield 52, 3) := dk_180 0 52 (dk_at dksX5_rowTold_7 10 rfl rfl)
theorem dX5_rowTold_168 : decode cX5_rowTold 168 = .ok (.iload_n 2, 1) := dk_28 (dk_at dksX5_rowTold_7 13 rfl rfl)
theorem dX5_rowTold_169 : decode cX5_rowTold 169 = .ok (.iaload, 1) := dk_46 (dk_at dksX5_rowTold_7 14 rfl rfl)
theorem dX5_rowTold_170 : decode cX5_rowTold 170 = .ok (.i2l, 1) := dk_133 (dk_at dksX5_rowTold_7 15 rfl rfl)
theorem dX5_rowTold_171 : decode cX5_rowTold 171 = .ok (.lreturn, 1) := dk_173 (dk_at dksX5_rowTold_7 16 rfl rfl)
theorem dX5_rowTold_172 : decode cX5_rowTold 172 = .ok (.aload_n 0, 1) := dk_42 (dk_at dksX5_rowTold_7 17 rfl rfl)
theorem dX5_rowTold_173 : decode cX5_rowTold 173 = .ok (.getfield 449, 3) := dk_180 1 193 (dk_at dksX5_rowTold_7 18 rfl rfl)
theorem dX5_rowTold_176 : decode cX5_rowTold 176 = .ok (.iload 4, 2) := dk_21 4 (dk_at dksX5_rowTold_7 21 rfl rfl)
theorem dX5_rowTold_178 : decode cX5_rowTold 178 = .ok (.ifCond .eq 12, 3) := dk_153 0 12 (dk_at dksX5_rowTold_8 0 rfl rfl)
theorem dX5_rowTold_181 : decode cX5_rowTold 181 = .ok (.aload_n 0, 1) := dk_42 (dk_at dksX5_rowTold_8 3 rfl rfl)
theorem dX5_rowTold_182 : decode cX5_rowTold 182 = .ok (.getfield 58, 3) := dk_180 0 58 (dk_at dksX5_rowTold_8 4 rfl rfl)
theorem dX5_rowTold_185 : decode cX5_rowTold 185 = .ok (.iload_n 2, 1) := dk_28 (dk_at dksX5_rowTold_8 7 rfl rfl)
theorem dX5_rowTold_186 : decode cX5_rowTold 186 = .ok (.iaload, 1) := dk_46 (dk_at dksX5_rowTold_8 8 rfl rfl)
theorem dX5_rowTold_187 : decode cX5_rowTold 187 = .ok (.goto 9, 3) := dk_167 0 9 (dk_at dksX5_rowTold_8 9 rfl rfl)
theorem dX5_rowTold_190 : decode cX5_rowTold 190 = .ok (.aload_n 0, 1) := dk_42 (dk_at dksX5_rowTold_8 12 rfl rfl)
theorem dX5_rowTold_191 : decode cX5_rowTold 191 = .ok (.getfield 55, 3) := dk_180 0 55 (dk_at dksX5_rowTold_8 13 rfl rfl)
theorem dX5_rowTold_194 : decode cX5_rowTold 194 = .ok (.iload_n 2, 1) := dk_28 (dk_at dksX5_rowTold_8 16 rfl rfl)
theorem dX5_rowTold_195 : decode cX5_rowTold 195 = .ok (.iaload, 1) := dk_46 (dk_at dksX5_rowTold_8 17 rfl rfl)
theorem dX5_rowTold_196 : decode cX5_rowTold 196 = .ok (.i2l, 1) := dk_133 (dk_at dksX5_rowTold_8 18 rfl rfl)
theorem dX5_rowTold_197 : decode cX5_rowTold 197 = .ok (.lmul, 1) := dk_105 (dk_at dksX5_rowTold_8 19 rfl rfl)
theorem dX5_rowTold_198 : decode cX5_rowTold 198 = .ok (.lreturn, 1) := dk_173 (dk_at dksX5_rowTold_8 20 rfl rfl)
abbrev cX5_net : ByteArray := prog_24_method_60_code
def yX5_net : MethodName := ⟨RX5, "net", "(IIII)J"⟩
def dkwX5_net_2 : List UInt8 := [20, 1, 210, 173, 42, 27, 182, 1, 212, 42, 28, 29, 21, 4, 182, 1, 215, 173]
abbrev dktX5_net_2 : List UInt8 := dkwX5_net_2 ++ []
def dkwX5_net_1 : List UInt8 := [153, 0, 24, 29, 3, 8, 184, 0, 185, 153, 0, 15, 21, 4, 2, 17, 39, 15, 184, 0, 185, 154, 0, 7]
abbrev dktX5_net_1 : List UInt8 := dkwX5_net_1 ++ dktX5_net_2
def dkwX5_net_0 : List UInt8 := [42, 182, 1, 196, 27, 155, 0, 42, 27, 42, 182, 1, 181, 162, 0, 34, 28, 3, 16, 7, 184, 0, 185]
abbrev dktX5_net_0 : List UInt8 := dkwX5_net_0 ++ dktX5_net_1
theorem dksX5_net_0 : cX5_net.data.toList.drop 0 = dktX5_net_0 := by decide +kernel
theorem dksX5_net_1 : cX5_net.data.toList.drop 23 = dktX5_net_1 := dk_seg dksX5_net_0 23 rfl rfl
theorem dksX5_net_2 : cX5_net.data.toList.drop 47 = dktX5_net_2 := dk_seg dksX5_net_1 24 rfl rfl
theorem dX5_net_0 : decode cX5_net 0 = .ok (.aload_n 0, 1) := dk_42 (dk_at dksX5_net_0 0 rfl rfl)
theorem dX5_net_1 : decode cX5_net 1 = .ok (.invokevirtual 452, 3) := dk_182 1 196 (dk_at dksX5_net_0 1 rfl rfl)
theorem dX5_net_4 : decode cX5_net 4 = .ok (.iload_n 1, 1) := dk_27 (dk_at dksX5_net_0 4 rfl rfl)
theorem dX5_net_5 : decode cX5_net 5 = .ok (.ifCond .lt 42, 3) := dk_155 0 42 (dk_at dksX5_net_0 5 rfl rfl)
theorem dX5_net_8 : decode cX5_net 8 = .ok (.iload_n 1, 1) := dk_27 (dk_at dksX5_net_0 8 rfl rfl)
theorem dX5_net_9 : decode cX5_net 9 = .ok (.aload_n 0, 1) := dk_42 (dk_at dksX5_net_0 9 rfl rfl)
theorem dX5_net_10 : decode cX5_net 10 = .ok (.invokevirtual 437, 3) := dk_182 1 181 (dk_at dksX5_net_0 10 rfl rfl)
theorem dX5_net_13 : decode cX5_net 13 = .ok (.if_icmp .ge 34, 3) := dk_162 0 34 (dk_at dksX5_net_0 13 rfl rfl)
theorem dX5_net_16 : decode cX5_net 16 = .ok (.iload_n 2, 1) := dk_28 (dk_at dksX5_net_0 16 rfl rfl)
theorem dX5_net_17 : decode cX5_net 17 = .ok (.iconst 0, 1) := dk_3 (dk_at dksX5_net_0 17 rfl rfl)
theorem dX5_net_18 : decode cX5_net 18 = .ok (.bipush 7, 2) := dk_16 7 (dk_at dksX5_net_0 18 rfl rfl)
theorem dX5_net_20 : decode cX5_net 20 = .ok (.invokestatic 185, 3) := dk_184 0 185 (dk_at dksX5_net_0 20 rfl rfl)
theorem dX5_net_23 : decode cX5_net 23 = .ok (.ifCond .eq 24, 3) := dk_153 0 24 (dk_at dksX5_net_1 0 rfl rfl)
theorem dX5_net_26 : decode cX5_net 26 = .ok (.iload_n 3, 1) := dk_29 (dk_at dksX5_net_1 3 rfl rfl)
theorem dX5_net_27 : decode cX5_net 27 = .ok (.iconst 0, 1) := dk_3 (dk_at dksX5_net_1 4 rfl rfl)
theorem dX5_net_28 : decode cX5_net 28 = .ok (.iconst 5, 1) := dk_8 (dk_at dksX5_net_1 5 rfl rfl)
theorem dX5_net_29 : decode cX5_net 29 = .ok (.invokestatic 185, 3) := dk_184 0 185 (dk_at dksX5_net_1 6 rfl rfl)
theorem dX5_net_32 : decode cX5_net 32 = .ok (.ifCond .eq 15, 3) := dk_153 0 15 (dk_at dksX5_net_1 9 rfl rfl)
theorem dX5_net_35 : decode cX5_net 35 = .ok (.iload 4, 2) := dk_21 4 (dk_at dksX5_net_1 12 rfl rfl)
theorem dX5_net_37 : decode cX5_net 37 = .ok (.iconst (-1), 1) := dk_2 (dk_at dksX5_net_1 14 rfl rfl)
theorem dX5_net_38 : decode cX5_net 38 = .ok (.sipush 9999, 3) := dk_17 39 15 (dk_at dksX5_net_1 15 rfl rfl)
theorem dX5_net_41 : decode cX5_net 41 = .ok (.invokestatic 185, 3) := dk_184 0 185 (dk_at dksX5_net_1 18 rfl rfl)
theorem dX5_net_44 : decode cX5_net 44 = .ok (.ifCond .ne 7, 3) := dk_154 0 7 (dk_at dksX5_net_1 21 rfl rfl)
theorem dX5_net_47 : decode cX5_net 47 = .ok (.ldc2_w 466, 3) := dk_20 1 210 (dk_at dksX5_net_2 0 rfl rfl)
theorem dX5_net_50 : decode cX5_net 50 = .ok (.lreturn, 1) := dk_173 (dk_at dksX5_net_2 3 rfl rfl)
theorem dX5_net_51 : decode cX5_net 51 = .ok (.aload_n 0, 1) := dk_42 (dk_at dksX5_net_2 4 rfl rfl)
theorem dX5_net_52 : decode cX5_net 52 = .ok (.iload_n 1, 1) := dk_27 (dk_at dksX5_net_2 5 rfl rfl)
theorem dX5_net_53 : decode cX5_net 53 = .ok (.invokevirtual 468, 3) := dk_182 1 212 (dk_at dksX5_net_2 6 rfl rfl)
theorem dX5_net_56 : decode cX5_net 56 = .ok (.aload_n 0, 1) := dk_42 (dk_at dksX5_net_2 9 rfl rfl)
theorem dX5_net_57 : decode cX5_net 57 = .ok (.iload_n 2, 1) := dk_28 (dk_at dksX5_net_2 10 rfl rfl)
theorem dX5_net_58 : decode cX5_net 58 = .ok (.iload_n 3, 1) := dk_29 (dk_at dksX5_net_2 11 rfl rfl)
theorem dX5_net_59 : decode cX5_net 59 = .ok (.iload 4, 2) := dk_21 4 (dk_at dksX5_net_2 12 rfl rfl)
theorem dX5_net_61 : decode cX5_net 61 = .ok (.invokevirtual 471, 3) := dk_182 1 215 (dk_at dksX5_net_2 14 rfl rfl)
theorem dX5_net_64 : decode cX5_net 64 = .ok (.lreturn, 1) := dk_173 (dk_at dksX5_net_2 17 rfl rfl)
abbrev cX5_passesAll : ByteArray := prog_24_method_54_code
def yX5_passesAll : MethodName := ⟨RX5, "passesAll", "(I)V"⟩
def dkwX5_passesAll_2 : List UInt8 := [167, 255, 219, 177]
abbrev dktX5_passesAll_2 : List UInt8 := dkwX5_passesAll_2 ++ []
def dkwX5_passesAll_1 : List UInt8 := [27, 28, 182, 1, 159, 28, 42, 180, 0, 22, 42, 180, 0, 116, 29, 46, 46, 96, 61, 132, 3, 1]
abbrev dktX5_passesAll_1 : List UInt8 := dkwX5_passesAll_1 ++ dktX5_passesAll_2
def dkwX5_passesAll_0 : List UInt8 := [42, 3, 181, 1, 148, 8, 61, 3, 62, 29, 42, 180, 1, 169, 162, 0, 35, 42, 42, 180, 0, 116, 29, 46]
abbrev dktX5_passesAll_0 : List UInt8 := dkwX5_passesAll_0 ++ dktX5_passesAll_1
theorem dksX5_passesAll_0 : cX5_passesAll.data.toList.drop 0 = dktX5_passesAll_0 := by decide +kernel
theorem dksX5_passesAll_1 : cX5_passesAll.data.toList.drop 24 = dktX5_passesAll_1 := dk_seg dksX5_passesAll_0 24 rfl rfl
theorem dksX5_passesAll_2 : cX5_passesAll.data.toList.drop 46 = dktX5_passesAll_2 := dk_seg dksX5_passesAll_1 22 rfl rfl
theorem dX5_passesAll_0 : decode cX5_passesAll 0 = .ok (.aload_n 0, 1) := dk_42 (dk_at dksX5_passesAll_0 0 rfl rfl)
theorem dX5_passesAll_1 : decode cX5_passesAll 1 = .ok (.iconst 0, 1) := dk_3 (dk_at dksX5_passesAll_0 1 rfl rfl)
theorem dX5_passesAll_2 : decode cX5_passesAll 2 = .ok (.putfield 404, 3) := dk_181 1 148 (dk_at dksX5_passesAll_0 2 rfl rfl)
theorem dX5_passesAll_5 : decode cX5_passesAll 5 = .ok (.iconst 5, 1) := dk_8 (dk_at dksX5_passesAll_0 5 rfl rfl)
theorem dX5_passesAll_6 : decode cX5_passesAll 6 = .ok (.istore_n 2, 1) := dk_61 (dk_at dksX5_passesAll_0 6 rfl rfl)
theorem dX5_passesAll_7 : decode cX5_passesAll 7 = .ok (.iconst 0, 1) := dk_3 (dk_at dksX5_passesAll_0 7 rfl rfl)
theorem dX5_passesAll_8 : decode cX5_passesAll 8 = .ok (.istore_n 3, 1) := dk_62 (dk_at dksX5_passesAll_0 8 rfl rfl)
theorem dX5_passesAll_9 : decode cX5_passesAll 9 = .ok (.iload_n 3, 1) := dk_29 (dk_at dksX5_passesAll_0 9 rfl rfl)
theorem dX5_passesAll_10 : decode cX5_passesAll 10 = .ok (.aload_n 0, 1) := dk_42 (dk_at dksX5_passesAll_0 10 rfl rfl)
theorem dX5_passesAll_11 : decode cX5_passesAll 11 = .ok (.getfield 425, 3) := dk_180 1 169 (dk_at dksX5_passesAll_0 11 rfl rfl)
theorem dX5_passesAll_14 : decode cX5_passesAll 14 = .ok (.if_icmp .ge 35, 3) := dk_162 0 35 (dk_at dksX5_passesAll_0 14 rfl rfl)
theorem dX5_passesAll_17 : decode cX5_passesAll 17 = .ok (.aload_n 0, 1) := dk_42 (dk_at dksX5_passesAll_0 17 rfl rfl)
theorem dX5_passesAll_18 : decode cX5_passesAll 18 = .ok (.aload_n 0, 1) := dk_42 (dk_at dksX5_passesAll_0 18 rfl rfl)
theorem dX5_passesAll_19 : decode cX5_passesAll 19 = .ok (.getfield 116, 3) := dk_180 0 116 (dk_at dksX5_passesAll_0 19 rfl rfl)
theorem dX5_passesAll_22 : decode cX5_passesAll 22 = .ok (.iload_n 3, 1) := dk_29 (dk_at dksX5_passesAll_0 22 rfl rfl)
theorem dX5_passesAll_23 : decode cX5_passesAll 23 = .ok (.iaload, 1) := dk_46 (dk_at dksX5_passesAll_0 23 rfl rfl)
theorem dX5_passesAll_24 : decode cX5_passesAll 24 = .ok (.iload_n 1, 1) := dk_27 (dk_at dksX5_passesAll_1 0 rfl rfl)
theorem dX5_passesAll_25 : decode cX5_passesAll 25 = .ok (.iload_n 2, 1) := dk_28 (dk_at dksX5_passesAll_1 1 rfl rfl)
theorem dX5_passesAll_26 : decode cX5_passesAll 26 = .ok (.invokevirtual 415, 3) := dk_182 1 159 (dk_at dksX5_passesAll_1 2 rfl rfl)
theorem dX5_passesAll_29 : decode cX5_passesAll 29 = .ok (.iload_n 2, 1) := dk_28 (dk_at dksX5_passesAll_1 5 rfl rfl)
theorem dX5_passesAll_30 : decode cX5_passesAll 30 = .ok (.aload_n 0, 1) := dk_42 (dk_at dksX5_passesAll_1 6 rfl rfl)
theorem dX5_passesAll_31 : decode cX5_passesAll 31 = .ok (.getfield 22, 3) := dk_180 0 22 (dk_at dksX5_passesAll_1 7 rfl rfl)
theorem dX5_passesAll_34 : decode cX5_passesAll 34 = .ok (.aload_n 0, 1) := dk_42 (dk_at dksX5_passesAll_1 10 rfl rfl)
theorem dX5_passesAll_35 : decode cX5_passesAll 35 = .ok (.getfield 116, 3) := dk_180 0 116 (dk_at dksX5_passesAll_1 11 rfl rfl)
theorem dX5_passesAll_38 : decode cX5_passesAll 38 = .ok (.iload_n 3, 1) := dk_29 (dk_at dksX5_passesAll_1 14 rfl rfl)
theorem dX5_passesAll_39 : decode cX5_passesAll 39 = .ok (.iaload, 1) := dk_46 (dk_at dksX5_passesAll_1 15 rfl rfl)
theorem dX5_passesAll_40 : decode cX5_passesAll 40 = .ok (.iaload, 1) := dk_46 (dk_at dksX5_passesAll_1 16 rfl rfl)
theorem dX5_passesAll_41 : decode cX5_passesAll 41 = .ok (.iadd, 1) := dk_96 (dk_at dksX5_passesAll_1 17 rfl rfl)
theorem dX5_passesAll_42 : decode cX5_passesAll 42 = .ok (.istore_n 2, 1) := dk_61 (dk_at dksX5_passesAll_1 18 rfl rfl)
theorem dX5_passesAll_43 : decode cX5_passesAll 43 = .ok (.iinc 3 1, 3) := dk_132 3 1 (dk_at dksX5_passesAll_1 19 rfl rfl)
theorem dX5_passesAll_46 : decode cX5_passesAll 46 = .ok (.goto (-37), 3) := dk_167 255 219 (dk_at dksX5_passesAll_2 0 rfl rfl)
theorem dX5_passesAll_49 : decode cX5_passesAll 49 = .ok (.return_, 1) := dk_177 (dk_at dksX5_passesAll_2 3 rfl rfl)
abbrev cX5_netOf : ByteArray := prog_24_method_55_code
def yX5_netOf : MethodName := ⟨RX5, "netOf", "(III)J"⟩
def dkwX5_netOf_4 : List UInt8 := [180, 0, 109, 21, 6, 47, 101, 55, 4, 132, 6, 1, 167, 255, 159, 22, 4, 173]
abbrev dktX5_netOf_4 : List UInt8 := dkwX5_netOf_4 ++ []
def dkwX5_netOf_3 : List UInt8 := [97, 55, 4, 42, 180, 0, 7, 42, 180, 0, 100, 21, 6, 46, 46, 27, 160, 0, 15, 22, 4, 42]
abbrev dktX5_netOf_3 : List UInt8 := dkwX5_netOf_3 ++ dktX5_netOf_4
def dkwX5_netOf_2 : List UInt8 := [180, 0, 7, 42, 180, 0, 103, 21, 6, 46, 46, 27, 160, 0, 15, 22, 4, 42, 180, 0, 109, 21, 6, 47]
abbrev dktX5_netOf_2 : List UInt8 := dkwX5_netOf_2 ++ dktX5_netOf_3
def dkwX5_netOf_1 : List UInt8 := [160, 0, 77, 29, 155, 0, 17, 42, 180, 0, 97, 21, 6, 46, 29, 159, 0, 6, 167, 0, 59, 42]
abbrev dktX5_netOf_1 : List UInt8 := dkwX5_netOf_1 ++ dktX5_netOf_2
def dkwX5_netOf_0 : List UInt8 := [9, 55, 4, 3, 54, 6, 21, 6, 42, 180, 1, 148, 162, 0, 94, 42, 180, 0, 106, 21, 6, 46, 28]
abbrev dktX5_netOf_0 : List UInt8 := dkwX5_netOf_0 ++ dktX5_netOf_1
theorem dksX5_netOf_0 : cX5_netOf.data.toList.drop 0 = dktX5_netOf_0 := by decide +kernel
theorem dksX5_netOf_1 : cX5_netOf.data.toList.drop 23 = dktX5_netOf_1 := dk_seg dksX5_netOf_0 23 rfl rfl
theorem dksX5_netOf_2 : cX5_netOf.data.toList.drop 45 = dktX5_netOf_2 := dk_seg dksX5_netOf_1 22 rfl rfl
theorem dksX5_netOf_3 : cX5_netOf.data.toList.drop 69 = dktX5_netOf_3 := dk_seg dksX5_netOf_2 24 rfl rfl
theorem dksX5_netOf_4 : cX5_netOf.data.toList.drop 91 = dktX5_netOf_4 := dk_seg dksX5_netOf_3 22 rfl rfl
theorem dX5_netOf_0 : decode cX5_netOf 0 = .ok (.lconst 0, 1) := dk_9 (dk_at dksX5_netOf_0 0 rfl rfl)
theorem dX5_netOf_1 : decode cX5_netOf 1 = .ok (.lstore 4, 2) := dk_55 4 (dk_at dksX5_netOf_0 1 rfl rfl)
theorem dX5_netOf_3 : decode cX5_netOf 3 = .ok (.iconst 0, 1) := dk_3 (dk_at dksX5_netOf_0 3 rfl rfl)
theorem dX5_netOf_4 : decode cX5_netOf 4 = .ok (.istore 6, 2) := dk_54 6 (dk_at dksX5_netOf_0 4 rfl rfl)
theorem dX5_netOf_6 : decode cX5_netOf 6 = .ok (.iload 6, 2) := dk_21 6 (dk_at dksX5_netOf_0 6 rfl rfl)
theorem dX5_netOf_8 : decode cX5_netOf 8 = .ok (.aload_n 0, 1) := dk_42 (dk_at dksX5_netOf_0 8 rfl rfl)
theorem dX5_netOf_9 : decode cX5_netOf 9 = .ok (.getfield 404, 3) := dk_180 1 148 (dk_at dksX5_netOf_0 9 rfl rfl)
theorem dX5_netOf_12 : decode cX5_netOf 12 = .ok (.if_icmp .ge 94, 3) := dk_162 0 94 (dk_at dksX5_netOf_0 12 rfl rfl)
theorem dX5_netOf_15 : decode cX5_netOf 15 = .ok (.aload_n 0, 1) := dk_42 (dk_at dksX5_netOf_0 15 rfl rfl)
theorem dX5_netOf_16 : decode cX5_netOf 16 = .ok (.getfield 106, 3) := dk_180 0 106 (dk_at dksX5_netOf_0 16 rfl rfl)
theorem dX5_netOf_19 : decode cX5_netOf 19 = .ok (.iload 6, 2) := dk_21 6 (dk_at dksX5_netOf_0 19 rfl rfl)
theorem dX5_netOf_21 : decode cX5_netOf 21 = .ok (.iaload, 1) := dk_46 (dk_at dksX5_netOf_0 21 rfl rfl)
theorem dX5_netOf_22 : decode cX5_netOf 22 = .ok (.iload_n 2, 1) := dk_28 (dk_at dksX5_netOf_0 22 rfl rfl)
theorem dX5_netOf_23 : decode cX5_netOf 23 = .ok (.if_icmp .ne 77, 3) := dk_160 0 77 (dk_at dksX5_netOf_1 0 rfl rfl)
theorem dX5_netOf_26 : decode cX5_netOf 26 = .ok (.iload_n 3, 1) := dk_29 (dk_at dksX5_netOf_1 3 rfl rfl)
theorem dX5_netOf_27 : decode cX5_netOf 27 = .ok (.ifCond .lt 17, 3) := dk_155 0 17 (dk_at dksX5_netOf_1 4 rfl rfl)
theorem dX5_netOf_30 : decode cX5_netOf 30 = .ok (.aload_n 0, 1) := dk_42 (dk_at dksX5_netOf_1 7 rfl rfl)
theorem dX5_netOf_31 : decode cX5_netOf 31 = .ok (.getfield 97, 3) := dk_180 0 97 (dk_at dksX5_netOf_1 8 rfl rfl)
theorem dX5_netOf_34 : decode cX5_netOf 34 = .ok (.iload 6, 2) := dk_21 6 (dk_at dksX5_netOf_1 11 rfl rfl)
theorem dX5_netOf_36 : decode cX5_netOf 36 = .ok (.iaload, 1) := dk_46 (dk_at dksX5_netOf_1 13 rfl rfl)
theorem dX5_netOf_37 : decode cX5_netOf 37 = .ok (.iload_n 3, 1) := dk_29 (dk_at dksX5_netOf_1 14 rfl rfl)
theorem dX5_netOf_38 : decode cX5_netOf 38 = .ok (.if_icmp .eq 6, 3) := dk_159 0 6 (dk_at dksX5_netOf_1 15 rfl rfl)
theorem dX5_netOf_41 : decode cX5_netOf 41 = .ok (.goto 59, 3) := dk_167 0 59 (dk_at dksX5_netOf_1 18 rfl rfl)
theorem dX5_netOf_44 : decode cX5_netOf 44 = .ok (.aload_n 0, 1) := dk_42 (dk_at dksX5_netOf_1 21 rfl rfl)
theorem dX5_netOf_45 : decode cX5_netOf 45 = .ok (.getfield 7, 3) := dk_180 0 7 (dk_at dksX5_netOf_2 0 rfl rfl)
theorem dX5_netOf_48 : decode cX5_netOf 48 = .ok (.aload_n 0, 1) := dk_42 (dk_at dksX5_netOf_2 3 rfl rfl)
theorem dX5_netOf_49 : decode cX5_netOf 49 = .ok (.getfield 103, 3) := dk_180 0 103 (dk_at dksX5_netOf_2 4 rfl rfl)
theorem dX5_netOf_52 : decode cX5_netOf 52 = .ok (.iload 6, 2) := dk_21 6 (dk_at dksX5_netOf_2 7 rfl rfl)
theorem dX5_netOf_54 : decode cX5_netOf 54 = .ok (.iaload, 1) := dk_46 (dk_at dksX5_netOf_2 9 rfl rfl)
theorem dX5_netOf_55 : decode cX5_netOf 55 = .ok (.iaload, 1) := dk_46 (dk_at dksX5_netOf_2 10 rfl rfl)
theorem dX5_netOf_56 : decode cX5_netOf 56 = .ok (.iload_n 1, 1) := dk_27 (dk_at dksX5_netOf_2 11 rfl rfl)
theorem dX5_netOf_57 : decode cX5_netOf 57 = .ok (.if_icmp .ne 15, 3) := dk_160 0 15 (dk_at dksX5_netOf_2 12 rfl rfl)
theorem dX5_netOf_60 : decode cX5_netOf 60 = .ok (.lload 4, 2) := dk_22 4 (dk_at dksX5_netOf_2 15 rfl rfl)
theorem dX5_netOf_62 : decode cX5_netOf 62 = .ok (.aload_n 0, 1) := dk_42 (dk_at dksX5_netOf_2 17 rfl rfl)
theorem dX5_netOf_63 : decode cX5_netOf 63 = .ok (.getfield 109, 3) := dk_180 0 109 (dk_at dksX5_netOf_2 18 rfl rfl)
theorem dX5_netOf_66 : decode cX5_netOf 66 = .ok (.iload 6, 2) := dk_21 6 (dk_at dksX5_netOf_2 21 rfl rfl)
theorem dX5_netOf_68 : decode cX5_netOf 68 = .ok (.laload, 1) := dk_47 (dk_at dksX5_netOf_2 23 rfl rfl)
theorem dX5_netOf_69 : decode cX5_netOf 69 = .ok (.ladd, 1) := dk_97 (dk_at dksX5_netOf_3 0 rfl rfl)
theorem dX5_netOf_70 : decode cX5_netOf 70 = .ok (.lstore 4, 2) := dk_55 4 (dk_at dksX5_netOf_3 1 rfl rfl)
theorem dX5_netOf_72 : decode cX5_netOf 72 = .ok (.aload_n 0, 1) := dk_42 (dk_at dksX5_netOf_3 3 rfl rfl)
theorem dX5_netOf_73 : decode cX5_netOf 73 = .ok (.getfield 7, 3) := dk_180 0 7 (dk_at dksX5_netOf_3 4 rfl rfl)
theorem dX5_netOf_76 : decode cX5_netOf 76 = .ok (.aload_n 0, 1) := dk_42 (dk_at dksX5_netOf_3 7 rfl rfl)
theorem dX5_netOf_77 : decode cX5_netOf 77 = .ok (.getfield 100, 3) := dk_180 0 100 (dk_at dksX5_netOf_3 8 rfl rfl)
theorem dX5_netOf_80 : decode cX5_netOf 80 = .ok (.iload 6, 2) := dk_21 6 (dk_at dksX5_netOf_3 11 rfl rfl)
theorem dX5_netOf_82 : decode cX5_netOf 82 = .ok (.iaload, 1) := dk_46 (dk_at dksX5_netOf_3 13 rfl rfl)
theorem dX5_netOf_83 : decode cX5_netOf 83 = .ok (.iaload, 1) := dk_46 (dk_at dksX5_netOf_3 14 rfl rfl)
theorem dX5_netOf_84 : decode cX5_netOf 84 = .ok (.iload_n 1, 1) := dk_27 (dk_at dksX5_netOf_3 15 rfl rfl)
theorem dX5_netOf_85 : decode cX5_netOf 85 = .ok (.if_icmp .ne 15, 3) := dk_160 0 15 (dk_at dksX5_netOf_3 16 rfl rfl)
theorem dX5_netOf_88 : decode cX5_netOf 88 = .ok (.lload 4, 2) := dk_22 4 (dk_at dksX5_netOf_3 19 rfl rfl)
theorem dX5_netOf_90 : decode cX5_netOf 90 = .ok (.aload_n 0, 1) := dk_42 (dk_at dksX5_netOf_3 21 rfl rfl)
theorem dX5_netOf_91 : decode cX5_netOf 91 = .ok (.getfield 109, 3) := dk_180 0 109 (dk_at dksX5_netOf_4 0 rfl rfl)
theorem dX5_netOf_94 : decode cX5_netOf 94 = .ok (.iload 6, 2) := dk_21 6 (dk_at dksX5_netOf_4 3 rfl rfl)
theorem dX5_netOf_96 : decode cX5_netOf 96 = .ok (.laload, 1) := dk_47 (dk_at dksX5_netOf_4 5 rfl rfl)
theorem dX5_netOf_97 : decode cX5_netOf 97 = .ok (.lsub, 1) := dk_101 (dk_at dksX5_netOf_4 6 rfl rfl)
theorem dX5_netOf_98 : decode cX5_netOf 98 = .ok (.lstore 4, 2) := dk_55 4 (dk_at dksX5_netOf_4 7 rfl rfl)
theorem dX5_netOf_100 : decode cX5_netOf 100 = .ok (.iinc 6 1, 3) := dk_132 6 1 (dk_at dksX5_netOf_4 9 rfl rfl)
theorem dX5_netOf_103 : decode cX5_netOf 103 = .ok (.goto (-97), 3) := dk_167 255 159 (dk_at dksX5_netOf_4 12 rfl rfl)
theorem dX5_netOf_106 : decode cX5_netOf 106 = .ok (.lload 4, 2) := dk_22 4 (dk_at dksX5_netOf_4 15 rfl rfl)
theorem dX5_netOf_108 : decode cX5_netOf 108 = .ok (.lreturn, 1) := dk_173 (dk_at dksX5_netOf_4 17 rfl rfl)
abbrev cX5_codes : ByteArray := prog_24_method_61_code
def yX5_codes : MethodName := ⟨RX5, "codes", "()I"⟩
def dkwX5_codes_1 : List UInt8 := [120, 167, 0, 4, 2, 172]
abbrev dktX5_codes_1 : List UInt8 := dkwX5_codes_1 ++ []
def dkwX5_codes_0 : List UInt8 := [42, 182, 1, 196, 42, 182, 1, 218, 153, 0, 20, 4, 42, 182, 1, 172, 184, 1, 175, 42, 182, 1, 178, 96]
abbrev dktX5_codes_0 : List UInt8 := dkwX5_codes_0 ++ dktX5_codes_1
theorem dksX5_codes_0 : cX5_codes.data.toList.drop 0 = dktX5_codes_0 := by decide +kernel
theorem dksX5_codes_1 : cX5_codes.data.toList.drop 24 = dktX5_codes_1 := dk_seg dksX5_codes_0 24 rfl rfl
theorem dX5_codes_0 : decode cX5_codes 0 = .ok (.aload_n 0, 1) := dk_42 (dk_at dksX5_codes_0 0 rfl rfl)
theorem dX5_codes_1 : decode cX5_codes 1 = .ok (.invokevirtual 452, 3) := dk_182 1 196 (dk_at dksX5_codes_0 1 rfl rfl)
theorem dX5_codes_4 : decode cX5_codes 4 = .ok (.aload_n 0, 1) := dk_42 (dk_at dksX5_codes_0 4 rfl rfl)
theorem dX5_codes_5 : decode cX5_codes 5 = .ok (.invokevirtual 474, 3) := dk_182 1 218 (dk_at dksX5_codes_0 5 rfl rfl)
theorem dX5_codes_8 : decode cX5_codes 8 = .ok (.ifCond .eq 20, 3) := dk_153 0 20 (dk_at dksX5_codes_0 8 rfl rfl)
theorem dX5_codes_11 : decode cX5_codes 11 = .ok (.iconst 1, 1) := dk_4 (dk_at dksX5_codes_0 11 rfl rfl)
theorem dX5_codes_12 : decode cX5_codes 12 = .ok (.aload_n 0, 1) := dk_42 (dk_at dksX5_codes_0 12 rfl rfl)
theorem dX5_codes_13 : decode cX5_codes 13 = .ok (.invokevirtual 428, 3) := dk_182 1 172 (dk_at dksX5_codes_0 13 rfl rfl)
theorem dX5_codes_16 : decode cX5_codes 16 = .ok (.invokestatic 431, 3) := dk_184 1 175 (dk_at dksX5_codes_0 16 rfl rfl)
theorem dX5_codes_19 : decode cX5_codes 19 = .ok (.aload_n 0, 1) := dk_42 (dk_at dksX5_codes_0 19 rfl rfl)
theorem dX5_codes_20 : decode cX5_codes 20 = .ok (.invokevirtual 434, 3) := dk_182 1 178 (dk_at dksX5_codes_0 20 rfl rfl)
theorem dX5_codes_23 : decode cX5_codes 23 = .ok (.iadd, 1) := dk_96 (dk_at dksX5_codes_0 23 rfl rfl)
theorem dX5_codes_24 : decode cX5_codes 24 = .ok (.ishl, 1) := dk_120 (dk_at dksX5_codes_1 0 rfl rfl)
theorem dX5_codes_25 : decode cX5_codes 25 = .ok (.goto 4, 3) := dk_167 0 4 (dk_at dksX5_codes_1 1 rfl rfl)
theorem dX5_codes_28 : decode cX5_codes 28 = .ok (.iconst (-1), 1) := dk_2 (dk_at dksX5_codes_1 4 rfl rfl)
theorem dX5_codes_29 : decode cX5_codes 29 = .ok (.ireturn, 1) := dk_172 (dk_at dksX5_codes_1 5 rfl rfl)
abbrev cX5_isLookedAt : ByteArray := prog_24_method_51_code
def yX5_isLookedAt : MethodName := ⟨RX5, "isLookedAt", "()Z"⟩
def dkwX5_isLookedAt_0 : List UInt8 := [42, 182, 1, 172, 184, 1, 175, 42, 182, 1, 178, 96, 16, 8, 163, 0, 7, 4, 167, 0, 4, 3, 172]
abbrev dktX5_isLookedAt_0 : List UInt8 := dkwX5_isLookedAt_0 ++ []
theorem dksX5_isLookedAt_0 : cX5_isLookedAt.data.toList.drop 0 = dktX5_isLookedAt_0 := by decide +kernel
theorem dX5_isLookedAt_0 : decode cX5_isLookedAt 0 = .ok (.aload_n 0, 1) := dk_42 (dk_at dksX5_isLookedAt_0 0 rfl rfl)
theorem dX5_isLookedAt_1 : decode cX5_isLookedAt 1 = .ok (.invokevirtual 428, 3) := dk_182 1 172 (dk_at dksX5_isLookedAt_0 1 rfl rfl)
theorem dX5_isLookedAt_4 : decode cX5_isLookedAt 4 = .ok (.invokestatic 431, 3) := dk_184 1 175 (dk_at dksX5_isLookedAt_0 4 rfl rfl)
theorem dX5_isLookedAt_7 : decode cX5_isLookedAt 7 = .ok (.aload_n 0, 1) := dk_42 (dk_at dksX5_isLookedAt_0 7 rfl rfl)
theorem dX5_isLookedAt_8 : decode cX5_isLookedAt 8 = .ok (.invokevirtual 434, 3) := dk_182 1 178 (dk_at dksX5_isLookedAt_0 8 rfl rfl)
theorem dX5_isLookedAt_11 : decode cX5_isLookedAt 11 = .ok (.iadd, 1) := dk_96 (dk_at dksX5_isLookedAt_0 11 rfl rfl)
theorem dX5_isLookedAt_12 : decode cX5_isLookedAt 12 = .ok (.bipush 8, 2) := dk_16 8 (dk_at dksX5_isLookedAt_0 12 rfl rfl)
theorem dX5_isLookedAt_14 : decode cX5_isLookedAt 14 = .ok (.if_icmp .gt 7, 3) := dk_163 0 7 (dk_at dksX5_isLookedAt_0 14 rfl rfl)
theorem dX5_isLookedAt_17 : decode cX5_isLookedAt 17 = .ok (.iconst 1, 1) := dk_4 (dk_at dksX5_isLookedAt_0 17 rfl rfl)
theorem dX5_isLookedAt_18 : decode cX5_isLookedAt 18 = .ok (.goto 4, 3) := dk_167 0 4 (dk_at dksX5_isLookedAt_0 18 rfl rfl)
theorem dX5_isLookedAt_21 : decode cX5_isLookedAt 21 = .ok (.iconst 0, 1) := dk_3 (dk_at dksX5_isLookedAt_0 21 rfl rfl)
theorem dX5_isLookedAt_22 : decode cX5_isLookedAt 22 = .ok (.ireturn, 1) := dk_172 (dk_at dksX5_isLookedAt_0 22 rfl rfl)
abbrev cX5_eventsAtHand : ByteArray := prog_24_method_49_code
def yX5_eventsAtHand : MethodName := ⟨RX5, "eventsAtHand", "()I"⟩
def dkwX5_eventsAtHand_1 : List UInt8 := [128, 60, 132, 2, 1, 167, 255, 231, 27, 172]
abbrev dktX5_eventsAtHand_1 : List UInt8 := dkwX5_eventsAtHand_1 ++ []
def dkwX5_eventsAtHand_0 : List UInt8 := [3, 60, 3, 61, 28, 42, 180, 1, 169, 162, 0, 23, 27, 42, 180, 0, 25, 42, 180, 0, 116, 28, 46, 46]
abbrev dktX5_eventsAtHand_0 : List UInt8 := dkwX5_eventsAtHand_0 ++ dktX5_eventsAtHand_1
theorem dksX5_eventsAtHand_0 : cX5_eventsAtHand.data.toList.drop 0 = dktX5_eventsAtHand_0 := by decide +kernel
theorem dksX5_eventsAtHand_1 : cX5_eventsAtHand.data.toList.drop 24 = dktX5_eventsAtHand_1 := dk_seg dksX5_eventsAtHand_0 24 rfl rfl
theorem dX5_eventsAtHand_0 : decode cX5_eventsAtHand 0 = .ok (.iconst 0, 1) := dk_3 (dk_at dksX5_eventsAtHand_0 0 rfl rfl)
theorem dX5_eventsAtHand_1 : decode cX5_eventsAtHand 1 = .ok (.istore_n 1, 1) := dk_60 (dk_at dksX5_eventsAtHand_0 1 rfl rfl)
theorem dX5_eventsAtHand_2 : decode cX5_eventsAtHand 2 = .ok (.iconst 0, 1) := dk_3 (dk_at dksX5_eventsAtHand_0 2 rfl rfl)
theorem dX5_eventsAtHand_3 : decode cX5_eventsAtHand 3 = .ok (.istore_n 2, 1) := dk_61 (dk_at dksX5_eventsAtHand_0 3 rfl rfl)
theorem dX5_eventsAtHand_4 : decode cX5_eventsAtHand 4 = .ok (.iload_n 2, 1) := dk_28 (dk_at dksX5_eventsAtHand_0 4 rfl rfl)
theorem dX5_eventsAtHand_5 : decode cX5_eventsAtHand 5 = .ok (.aload_n 0, 1) := dk_42 (dk_at dksX5_eventsAtHand_0 5 rfl rfl)
theorem dX5_eventsAtHand_6 : decode cX5_eventsAtHand 6 = .ok (.getfield 425, 3) := dk_180 1 169 (dk_at dksX5_eventsAtHand_0 6 rfl rfl)
theorem dX5_eventsAtHand_9 : decode cX5_eventsAtHand 9 = .ok (.if_icmp .ge 23, 3) := dk_162 0 23 (dk_at dksX5_eventsAtHand_0 9 rfl rfl)
theorem dX5_eventsAtHand_12 : decode cX5_eventsAtHand 12 = .ok (.iload_n 1, 1) := dk_27 (dk_at dksX5_eventsAtHand_0 12 rfl rfl)
theorem dX5_eventsAtHand_13 : decode cX5_eventsAtHand 13 = .ok (.aload_n 0, 1) := dk_42 (dk_at dksX5_eventsAtHand_0 13 rfl rfl)
theorem dX5_eventsAtHand_14 : decode cX5_eventsAtHand 14 = .ok (.getfield 25, 3) := dk_180 0 25 (dk_at dksX5_eventsAtHand_0 14 rfl rfl)
theorem dX5_eventsAtHand_17 : decode cX5_eventsAtHand 17 = .ok (.aload_n 0, 1) := dk_42 (dk_at dksX5_eventsAtHand_0 17 rfl rfl)
theorem dX5_eventsAtHand_18 : decode cX5_eventsAtHand 18 = .ok (.getfield 116, 3) := dk_180 0 116 (dk_at dksX5_eventsAtHand_0 18 rfl rfl)
theorem dX5_eventsAtHand_21 : decode cX5_eventsAtHand 21 = .ok (.iload_n 2, 1) := dk_28 (dk_at dksX5_eventsAtHand_0 21 rfl rfl)
theorem dX5_eventsAtHand_22 : decode cX5_eventsAtHand 22 = .ok (.iaload, 1) := dk_46 (dk_at dksX5_eventsAtHand_0 22 rfl rfl)
theorem dX5_eventsAtHand_23 : decode cX5_eventsAtHand 23 = .ok (.iaload, 1) := dk_46 (dk_at dksX5_eventsAtHand_0 23 rfl rfl)
theorem dX5_eventsAtHand_24 : decode cX5_eventsAtHand 24 = .ok (.ior, 1) := dk_128 (dk_at dksX5_eventsAtHand_1 0 rfl rfl)
theorem dX5_eventsAtHand_25 : decode cX5_eventsAtHand 25 = .ok (.istore_n 1, 1) := dk_60 (dk_at dksX5_eventsAtHand_1 1 rfl rfl)
theorem dX5_eventsAtHand_26 : decode cX5_eventsAtHand 26 = .ok (.iinc 2 1, 3) := dk_132 2 1 (dk_at dksX5_eventsAtHand_1 2 rfl rfl)
theorem dX5_eventsAtHand_29 : decode cX5_eventsAtHand 29 = .ok (.goto (-25), 3) := dk_167 255 231 (dk_at dksX5_eventsAtHand_1 5 rfl rfl)
theorem dX5_eventsAtHand_32 : decode cX5_eventsAtHand 32 = .ok (.iload_n 1, 1) := dk_27 (dk_at dksX5_eventsAtHand_1 8 rfl rfl)
theorem dX5_eventsAtHand_33 : decode cX5_eventsAtHand 33 = .ok (.ireturn, 1) := dk_172 (dk_at dksX5_eventsAtHand_1 9 rfl rfl)
abbrev cX5_bitsOf : ByteArray := prog_24_method_50_code
def yX5_bitsOf : MethodName := ⟨RX5, "bitsOf", "(I)I"⟩
def dkwX5_bitsOf_1 : List UInt8 := [27, 172]
abbrev dktX5_bitsOf_1 : List UInt8 := dkwX5_bitsOf_1 ++ []
def dkwX5_bitsOf_0 : List UInt8 := [3, 60, 3, 61, 28, 16, 24, 162, 0, 17, 27, 26, 28, 122, 4, 126, 96, 60, 132, 2, 1, 167, 255, 239]
abbrev dktX5_bitsOf_0 : List UInt8 := dkwX5_bitsOf_0 ++ dktX5_bitsOf_1
theorem dksX5_bitsOf_0 : cX5_bitsOf.data.toList.drop 0 = dktX5_bitsOf_0 := by decide +kernel
theorem dksX5_bitsOf_1 : cX5_bitsOf.data.toList.drop 24 = dktX5_bitsOf_1 := dk_seg dksX5_bitsOf_0 24 rfl rfl
theorem dX5_bitsOf_0 : decode cX5_bitsOf 0 = .ok (.iconst 0, 1) := dk_3 (dk_at dksX5_bitsOf_0 0 rfl rfl)
theorem dX5_bitsOf_1 : decode cX5_bitsOf 1 = .ok (.istore_n 1, 1) := dk_60 (dk_at dksX5_bitsOf_0 1 rfl rfl)
theorem dX5_bitsOf_2 : decode cX5_bitsOf 2 = .ok (.iconst 0, 1) := dk_3 (dk_at dksX5_bitsOf_0 2 rfl rfl)
theorem dX5_bitsOf_3 : decode cX5_bitsOf 3 = .ok (.istore_n 2, 1) := dk_61 (dk_at dksX5_bitsOf_0 3 rfl rfl)
theorem dX5_bitsOf_4 : decode cX5_bitsOf 4 = .ok (.iload_n 2, 1) := dk_28 (dk_at dksX5_bitsOf_0 4 rfl rfl)
theorem dX5_bitsOf_5 : decode cX5_bitsOf 5 = .ok (.bipush 24, 2) := dk_16 24 (dk_at dksX5_bitsOf_0 5 rfl rfl)
theorem dX5_bitsOf_7 : decode cX5_bitsOf 7 = .ok (.if_icmp .ge 17, 3) := dk_162 0 17 (dk_at dksX5_bitsOf_0 7 rfl rfl)
theorem dX5_bitsOf_10 : decode cX5_bitsOf 10 = .ok (.iload_n 1, 1) := dk_27 (dk_at dksX5_bitsOf_0 10 rfl rfl)
theorem dX5_bitsOf_11 : decode cX5_bitsOf 11 = .ok (.iload_n 0, 1) := dk_26 (dk_at dksX5_bitsOf_0 11 rfl rfl)
theorem dX5_bitsOf_12 : decode cX5_bitsOf 12 = .ok (.iload_n 2, 1) := dk_28 (dk_at dksX5_bitsOf_0 12 rfl rfl)
theorem dX5_bitsOf_13 : decode cX5_bitsOf 13 = .ok (.ishr, 1) := dk_122 (dk_at dksX5_bitsOf_0 13 rfl rfl)
theorem dX5_bitsOf_14 : decode cX5_bitsOf 14 = .ok (.iconst 1, 1) := dk_4 (dk_at dksX5_bitsOf_0 14 rfl rfl)
theorem dX5_bitsOf_15 : decode cX5_bitsOf 15 = .ok (.iand, 1) := dk_126 (dk_at dksX5_bitsOf_0 15 rfl rfl)
theorem dX5_bitsOf_16 : decode cX5_bitsOf 16 = .ok (.iadd, 1) := dk_96 (dk_at dksX5_bitsOf_0 16 rfl rfl)
theorem dX5_bitsOf_17 : decode cX5_bitsOf 17 = .ok (.istore_n 1, 1) := dk_60 (dk_at dksX5_bitsOf_0 17 rfl rfl)
theorem dX5_bitsOf_18 : decode cX5_bitsOf 18 = .ok (.iinc 2 1, 3) := dk_132 2 1 (dk_at dksX5_bitsOf_0 18 rfl rfl)
theorem dX5_bitsOf_21 : decode cX5_bitsOf 21 = .ok (.goto (-17), 3) := dk_167 255 239 (dk_at dksX5_bitsOf_0 21 rfl rfl)
theorem dX5_bitsOf_24 : decode cX5_bitsOf 24 = .ok (.iload_n 1, 1) := dk_27 (dk_at dksX5_bitsOf_1 0 rfl rfl)
theorem dX5_bitsOf_25 : decode cX5_bitsOf 25 = .ok (.ireturn, 1) := dk_172 (dk_at dksX5_bitsOf_1 1 rfl rfl)
abbrev cX5_lends : ByteArray := prog_24_method_66_code
def yX5_lends : MethodName := ⟨RX5, "lends", "(II)I"⟩
def dkwX5_lends_2 : List UInt8 := [28, 122, 4, 126, 96, 62, 42, 21, 4, 4, 96, 182, 1, 233, 54, 4, 167, 255, 222, 29, 172]
abbrev dktX5_lends_2 : List UInt8 := dkwX5_lends_2 ++ []
def dkwX5_lends_1 : List UInt8 := [3, 182, 1, 233, 54, 4, 21, 4, 155, 0, 35, 42, 21, 4, 182, 1, 236, 29, 42, 180, 0, 128, 27, 46]
abbrev dktX5_lends_1 : List UInt8 := dkwX5_lends_1 ++ dktX5_lends_2
def dkwX5_lends_0 : List UInt8 := [42, 182, 1, 196, 27, 28, 184, 1, 230, 153, 0, 10, 42, 182, 1, 218, 154, 0, 5, 2, 172, 3, 62, 42]
abbrev dktX5_lends_0 : List UInt8 := dkwX5_lends_0 ++ dktX5_lends_1
theorem dksX5_lends_0 : cX5_lends.data.toList.drop 0 = dktX5_lends_0 := by decide +kernel
theorem dksX5_lends_1 : cX5_lends.data.toList.drop 24 = dktX5_lends_1 := dk_seg dksX5_lends_0 24 rfl rfl
theorem dksX5_lends_2 : cX5_lends.data.toList.drop 48 = dktX5_lends_2 := dk_seg dksX5_lends_1 24 rfl rfl
theorem dX5_lends_0 : decode cX5_lends 0 = .ok (.aload_n 0, 1) := dk_42 (dk_at dksX5_lends_0 0 rfl rfl)
theorem dX5_lends_1 : decode cX5_lends 1 = .ok (.invokevirtual 452, 3) := dk_182 1 196 (dk_at dksX5_lends_0 1 rfl rfl)
theorem dX5_lends_4 : decode cX5_lends 4 = .ok (.iload_n 1, 1) := dk_27 (dk_at dksX5_lends_0 4 rfl rfl)
theorem dX5_lends_5 : decode cX5_lends 5 = .ok (.iload_n 2, 1) := dk_28 (dk_at dksX5_lends_0 5 rfl rfl)
theorem dX5_lends_6 : decode cX5_lends 6 = .ok (.invokestatic 486, 3) := dk_184 1 230 (dk_at dksX5_lends_0 6 rfl rfl)
theorem dX5_lends_9 : decode cX5_lends 9 = .ok (.ifCond .eq 10, 3) := dk_153 0 10 (dk_at dksX5_lends_0 9 rfl rfl)
theorem dX5_lends_12 : decode cX5_lends 12 = .ok (.aload_n 0, 1) := dk_42 (dk_at dksX5_lends_0 12 rfl rfl)
theorem dX5_lends_13 : decode cX5_lends 13 = .ok (.invokevirtual 474, 3) := dk_182 1 218 (dk_at dksX5_lends_0 13 rfl rfl)
theorem dX5_lends_16 : decode cX5_lends 16 = .ok (.ifCond .ne 5, 3) := dk_154 0 5 (dk_at dksX5_lends_0 16 rfl rfl)
theorem dX5_lends_19 : decode cX5_lends 19 = .ok (.iconst (-1), 1) := dk_2 (dk_at dksX5_lends_0 19 rfl rfl)
theorem dX5_lends_20 : decode cX5_lends 20 = .ok (.ireturn, 1) := dk_172 (dk_at dksX5_lends_0 20 rfl rfl)
theorem dX5_lends_21 : decode cX5_lends 21 = .ok (.iconst 0, 1) := dk_3 (dk_at dksX5_lends_0 21 rfl rfl)
theorem dX5_lends_22 : decode cX5_lends 22 = .ok (.istore_n 3, 1) := dk_62 (dk_at dksX5_lends_0 22 rfl rfl)
theorem dX5_lends_23 : decode cX5_lends 23 = .ok (.aload_n 0, 1) := dk_42 (dk_at dksX5_lends_0 23 rfl rfl)
theorem dX5_lends_24 : decode cX5_lends 24 = .ok (.iconst 0, 1) := dk_3 (dk_at dksX5_lends_1 0 rfl rfl)
theorem dX5_lends_25 : decode cX5_lends 25 = .ok (.invokevirtual 489, 3) := dk_182 1 233 (dk_at dksX5_lends_1 1 rfl rfl)
theorem dX5_lends_28 : decode cX5_lends 28 = .ok (.istore 4, 2) := dk_54 4 (dk_at dksX5_lends_1 4 rfl rfl)
theorem dX5_lends_30 : decode cX5_lends 30 = .ok (.iload 4, 2) := dk_21 4 (dk_at dksX5_lends_1 6 rfl rfl)
theorem dX5_lends_32 : decode cX5_lends 32 = .ok (.ifCond .lt 35, 3) := dk_155 0 35 (dk_at dksX5_lends_1 8 rfl rfl)
theorem dX5_lends_35 : decode cX5_lends 35 = .ok (.aload_n 0, 1) := dk_42 (dk_at dksX5_lends_1 11 rfl rfl)
theorem dX5_lends_36 : decode cX5_lends 36 = .ok (.iload 4, 2) := dk_21 4 (dk_at dksX5_lends_1 12 rfl rfl)
theorem dX5_lends_38 : decode cX5_lends 38 = .ok (.invokevirtual 492, 3) := dk_182 1 236 (dk_at dksX5_lends_1 14 rfl rfl)
theorem dX5_lends_41 : decode cX5_lends 41 = .ok (.iload_n 3, 1) := dk_29 (dk_at dksX5_lends_1 17 rfl rfl)
theorem dX5_lends_42 : decode cX5_lends 42 = .ok (.aload_n 0, 1) := dk_42 (dk_at dksX5_lends_1 18 rfl rfl)
theorem dX5_lends_43 : decode cX5_lends 43 = .ok (.getfield 128, 3) := dk_180 0 128 (dk_at dksX5_lends_1 19 rfl rfl)
theorem dX5_lends_46 : decode cX5_lends 46 = .ok (.iload_n 1, 1) := dk_27 (dk_at dksX5_lends_1 22 rfl rfl)
theorem dX5_lends_47 : decode cX5_lends 47 = .ok (.iaload, 1) := dk_46 (dk_at dksX5_lends_1 23 rfl rfl)
theorem dX5_lends_48 : decode cX5_lends 48 = .ok (.iload_n 2, 1) := dk_28 (dk_at dksX5_lends_2 0 rfl rfl)
theorem dX5_lends_49 : decode cX5_lends 49 = .ok (.ishr, 1) := dk_122 (dk_at dksX5_lends_2 1 rfl rfl)
theorem dX5_lends_50 : decode cX5_lends 50 = .ok (.iconst 1, 1) := dk_4 (dk_at dksX5_lends_2 2 rfl rfl)
theorem dX5_lends_51 : decode cX5_lends 51 = .ok (.iand, 1) := dk_126 (dk_at dksX5_lends_2 3 rfl rfl)
theorem dX5_lends_52 : decode cX5_lends 52 = .ok (.iadd, 1) := dk_96 (dk_at dksX5_lends_2 4 rfl rfl)
theorem dX5_lends_53 : decode cX5_lends 53 = .ok (.istore_n 3, 1) := dk_62 (dk_at dksX5_lends_2 5 rfl rfl)
theorem dX5_lends_54 : decode cX5_lends 54 = .ok (.aload_n 0, 1) := dk_42 (dk_at dksX5_lends_2 6 rfl rfl)
theorem dX5_lends_55 : decode cX5_lends 55 = .ok (.iload 4, 2) := dk_21 4 (dk_at dksX5_lends_2 7 rfl rfl)
theorem dX5_lends_57 : decode cX5_lends 57 = .ok (.iconst 1, 1) := dk_4 (dk_at dksX5_lends_2 9 rfl rfl)
theorem dX5_lends_58 : decode cX5_lends 58 = .ok (.iadd, 1) := dk_96 (dk_at dksX5_lends_2 10 rfl rfl)
theorem dX5_lends_59 : decode cX5_lends 59 = .ok (.invokevirtual 489, 3) := dk_182 1 233 (dk_at dksX5_lends_2 11 rfl rfl)
theorem dX5_lends_62 : decode cX5_lends 62 = .ok (.istore 4, 2) := dk_54 4 (dk_at dksX5_lends_2 14 rfl rfl)
theorem dX5_lends_64 : decode cX5_lends 64 = .ok (.goto (-34), 3) := dk_167 255 222 (dk_at dksX5_lends_2 16 rfl rfl)
theorem dX5_lends_67 : decode cX5_lends 67 = .ok (.iload_n 3, 1) := dk_29 (dk_at dksX5_lends_2 19 rfl rfl)
theorem dX5_lends_68 : decode cX5_lends 68 = .ok (.ireturn, 1) := dk_172 (dk_at dksX5_lends_2 20 rfl rfl)
abbrev cX5_areTwo : ByteArray := prog_24_method_65_code
def yX5_areTwo : MethodName := ⟨RX5, "areTwo", "(II)Z"⟩
def dkwX5_areTwo_1 : List UInt8 := [159, 0, 7, 4, 167, 0, 4, 3, 172]
abbrev dktX5_areTwo_1 : List UInt8 := dkwX5_areTwo_1 ++ []
def dkwX5_areTwo_0 : List UInt8 := [26, 3, 16, 7, 184, 0, 185, 153, 0, 22, 27, 3, 16, 7, 184, 0, 185, 153, 0, 12, 26, 27]
abbrev dktX5_areTwo_0 : List UInt8 := dkwX5_areTwo_0 ++ dktX5_areTwo_1
theorem dksX5_areTwo_0 : cX5_areTwo.data.toList.drop 0 = dktX5_areTwo_0 := by decide +kernel
theorem dksX5_areTwo_1 : cX5_areTwo.data.toList.drop 22 = dktX5_areTwo_1 := dk_seg dksX5_areTwo_0 22 rfl rfl
theorem dX5_areTwo_0 : decode cX5_areTwo 0 = .ok (.iload_n 0, 1) := dk_26 (dk_at dksX5_areTwo_0 0 rfl rfl)
theorem dX5_areTwo_1 : decode cX5_areTwo 1 = .ok (.iconst 0, 1) := dk_3 (dk_at dksX5_areTwo_0 1 rfl rfl)
theorem dX5_areTwo_2 : decode cX5_areTwo 2 = .ok (.bipush 7, 2) := dk_16 7 (dk_at dksX5_areTwo_0 2 rfl rfl)
theorem dX5_areTwo_4 : decode cX5_areTwo 4 = .ok (.invokestatic 185, 3) := dk_184 0 185 (dk_at dksX5_areTwo_0 4 rfl rfl)
theorem dX5_areTwo_7 : decode cX5_areTwo 7 = .ok (.ifCond .eq 22, 3) := dk_153 0 22 (dk_at dksX5_areTwo_0 7 rfl rfl)
theorem dX5_areTwo_10 : decode cX5_areTwo 10 = .ok (.iload_n 1, 1) := dk_27 (dk_at dksX5_areTwo_0 10 rfl rfl)
theorem dX5_areTwo_11 : decode cX5_areTwo 11 = .ok (.iconst 0, 1) := dk_3 (dk_at dksX5_areTwo_0 11 rfl rfl)
theorem dX5_areTwo_12 : decode cX5_areTwo 12 = .ok (.bipush 7, 2) := dk_16 7 (dk_at dksX5_areTwo_0 12 rfl rfl)
theorem dX5_areTwo_14 : decode cX5_areTwo 14 = .ok (.invokestatic 185, 3) := dk_184 0 185 (dk_at dksX5_areTwo_0 14 rfl rfl)
theorem dX5_areTwo_17 : decode cX5_areTwo 17 = .ok (.ifCond .eq 12, 3) := dk_153 0 12 (dk_at dksX5_areTwo_0 17 rfl rfl)
theorem dX5_areTwo_20 : decode cX5_areTwo 20 = .ok (.iload_n 0, 1) := dk_26 (dk_at dksX5_areTwo_0 20 rfl rfl)
theorem dX5_areTwo_21 : decode cX5_areTwo 21 = .ok (.iload_n 1, 1) := dk_27 (dk_at dksX5_areTwo_0 21 rfl rfl)
theorem dX5_areTwo_22 : decode cX5_areTwo 22 = .ok (.if_icmp .eq 7, 3) := dk_159 0 7 (dk_at dksX5_areTwo_1 0 rfl rfl)
theorem dX5_areTwo_25 : decode cX5_areTwo 25 = .ok (.iconst 1, 1) := dk_4 (dk_at dksX5_areTwo_1 3 rfl rfl)
theorem dX5_areTwo_26 : decode cX5_areTwo 26 = .ok (.goto 4, 3) := dk_167 0 4 (dk_at dksX5_areTwo_1 4 rfl rfl)
theorem dX5_areTwo_29 : decode cX5_areTwo 29 = .ok (.iconst 0, 1) := dk_3 (dk_at dksX5_areTwo_1 7 rfl rfl)
theorem dX5_areTwo_30 : decode cX5_areTwo 30 = .ok (.ireturn, 1) := dk_172 (dk_at dksX5_areTwo_1 8 rfl rfl)
abbrev cX5_codeFrom : ByteArray := prog_24_method_53_code
def yX5_codeFrom : MethodName := ⟨RX5, "codeFrom", "(I)I"⟩
def dkwX5_codeFrom_1 : List UInt8 := [132, 3, 1, 167, 255, 239, 29, 42, 182, 1, 181, 162, 0, 7, 29, 167, 0, 4, 2, 172]
abbrev dktX5_codeFrom_1 : List UInt8 := dkwX5_codeFrom_1 ++ []
def dkwX5_codeFrom_0 : List UInt8 := [16, 31, 42, 182, 1, 172, 100, 61, 27, 62, 29, 42, 182, 1, 181, 162, 0, 15, 29, 28, 126, 153, 0, 9]
abbrev dktX5_codeFrom_0 : List UInt8 := dkwX5_codeFrom_0 ++ dktX5_codeFrom_1
theorem dksX5_codeFrom_0 : cX5_codeFrom.data.toList.drop 0 = dktX5_codeFrom_0 := by decide +kernel
theorem dksX5_codeFrom_1 : cX5_codeFrom.data.toList.drop 24 = dktX5_codeFrom_1 := dk_seg dksX5_codeFrom_0 24 rfl rfl
theorem dX5_codeFrom_0 : decode cX5_codeFrom 0 = .ok (.bipush 31, 2) := dk_16 31 (dk_at dksX5_codeFrom_0 0 rfl rfl)
theorem dX5_codeFrom_2 : decode cX5_codeFrom 2 = .ok (.aload_n 0, 1) := dk_42 (dk_at dksX5_codeFrom_0 2 rfl rfl)
theorem dX5_codeFrom_3 : decode cX5_codeFrom 3 = .ok (.invokevirtual 428, 3) := dk_182 1 172 (dk_at dksX5_codeFrom_0 3 rfl rfl)
theorem dX5_codeFrom_6 : decode cX5_codeFrom 6 = .ok (.isub, 1) := dk_100 (dk_at dksX5_codeFrom_0 6 rfl rfl)
theorem dX5_codeFrom_7 : decode cX5_codeFrom 7 = .ok (.istore_n 2, 1) := dk_61 (dk_at dksX5_codeFrom_0 7 rfl rfl)
theorem dX5_codeFrom_8 : decode cX5_codeFrom 8 = .ok (.iload_n 1, 1) := dk_27 (dk_at dksX5_codeFrom_0 8 rfl rfl)
theorem dX5_codeFrom_9 : decode cX5_codeFrom 9 = .ok (.istore_n 3, 1) := dk_62 (dk_at dksX5_codeFrom_0 9 rfl rfl)
theorem dX5_codeFrom_10 : decode cX5_codeFrom 10 = .ok (.iload_n 3, 1) := dk_29 (dk_at dksX5_codeFrom_0 10 rfl rfl)
theorem dX5_codeFrom_11 : decode cX5_codeFrom 11 = .ok (.aload_n 0, 1) := dk_42 (dk_at dksX5_codeFrom_0 11 rfl rfl)
theorem dX5_codeFrom_12 : decode cX5_codeFrom 12 = .ok (.invokevirtual 437, 3) := dk_182 1 181 (dk_at dksX5_codeFrom_0 12 rfl rfl)
theorem dX5_codeFrom_15 : decode cX5_codeFrom 15 = .ok (.if_icmp .ge 15, 3) := dk_162 0 15 (dk_at dksX5_codeFrom_0 15 rfl rfl)
theorem dX5_codeFrom_18 : decode cX5_codeFrom 18 = .ok (.iload_n 3, 1) := dk_29 (dk_at dksX5_codeFrom_0 18 rfl rfl)
theorem dX5_codeFrom_19 : decode cX5_codeFrom 19 = .ok (.iload_n 2, 1) := dk_28 (dk_at dksX5_codeFrom_0 19 rfl rfl)
theorem dX5_codeFrom_20 : decode cX5_codeFrom 20 = .ok (.iand, 1) := dk_126 (dk_at dksX5_codeFrom_0 20 rfl rfl)
theorem dX5_codeFrom_21 : decode cX5_codeFrom 21 = .ok (.ifCond .eq 9, 3) := dk_153 0 9 (dk_at dksX5_codeFrom_0 21 rfl rfl)
theorem dX5_codeFrom_24 : decode cX5_codeFrom 24 = .ok (.iinc 3 1, 3) := dk_132 3 1 (dk_at dksX5_codeFrom_1 0 rfl rfl)
theorem dX5_codeFrom_27 : decode cX5_codeFrom 27 = .ok (.goto (-17), 3) := dk_167 255 239 (dk_at dksX5_codeFrom_1 3 rfl rfl)
theorem dX5_codeFrom_30 : decode cX5_codeFrom 30 = .ok (.iload_n 3, 1) := dk_29 (dk_at dksX5_codeFrom_1 6 rfl rfl)
theorem dX5_codeFrom_31 : decode cX5_codeFrom 31 = .ok (.aload_n 0, 1) := dk_42 (dk_at dksX5_codeFrom_1 7 rfl rfl)
theorem dX5_codeFrom_32 : decode cX5_codeFrom 32 = .ok (.invokevirtual 437, 3) := dk_182 1 181 (dk_at dksX5_codeFrom_1 8 rfl rfl)
theorem dX5_codeFrom_35 : decode cX5_codeFrom 35 = .ok (.if_icmp .ge 7, 3) := dk_162 0 7 (dk_at dksX5_codeFrom_1 11 rfl rfl)
theorem dX5_codeFrom_38 : decode cX5_codeFrom 38 = .ok (.iload_n 3, 1) := dk_29 (dk_at dksX5_codeFrom_1 14 rfl rfl)
theorem dX5_codeFrom_39 : decode cX5_codeFrom 39 = .ok (.goto 4, 3) := dk_167 0 4 (dk_at dksX5_codeFrom_1 15 rfl rfl)
theorem dX5_codeFrom_42 : decode cX5_codeFrom 42 = .ok (.iconst (-1), 1) := dk_2 (dk_at dksX5_codeFrom_1 18 rfl rfl)
theorem dX5_codeFrom_43 : decode cX5_codeFrom 43 = .ok (.ireturn, 1) := dk_172 (dk_at dksX5_codeFrom_1 19 rfl rfl)
abbrev cX5_findLending : ByteArray := prog_24_method_64_code
def yX5_findLending : MethodName := ⟨RX5, "findLending", "(I)V"⟩
def dkwX5_findLending_9 : List UInt8 := [132, 2, 1, 167, 255, 140, 177]
abbrev dktX5_findLending_9 : List UInt8 := dkwX5_findLending_9 ++ []
def dkwX5_findLending_8 : List UInt8 := [148, 158, 0, 16, 42, 180, 0, 128, 28, 92, 46, 4, 21, 4, 120, 128, 79, 132, 4, 1, 167, 255, 192]
abbrev dktX5_findLending_8 : List UInt8 := dkwX5_findLending_8 ++ dktX5_findLending_9
def dkwX5_findLending_7 : List UInt8 := [153, 0, 41, 42, 180, 0, 125, 21, 4, 47, 9, 148, 156, 0, 29, 42, 21, 4, 3, 29, 182, 1, 215, 9]
abbrev dktX5_findLending_7 : List UInt8 := dkwX5_findLending_7 ++ dktX5_findLending_8
def dkwX5_findLending_6 : List UInt8 := [3, 54, 4, 21, 4, 16, 8, 162, 0, 63, 21, 4, 28, 159, 0, 51, 42, 180, 0, 122, 21, 4, 51]
abbrev dktX5_findLending_6 : List UInt8 := dkwX5_findLending_6 ++ dktX5_findLending_7
def dkwX5_findLending_5 : List UInt8 := [28, 47, 9, 148, 158, 0, 11, 42, 28, 182, 1, 227, 167, 0, 4, 2, 62, 29, 156, 0, 6, 167, 0, 73]
abbrev dktX5_findLending_5 : List UInt8 := dkwX5_findLending_5 ++ dktX5_findLending_6
def dkwX5_findLending_4 : List UInt8 := [167, 255, 174, 3, 61, 28, 16, 8, 162, 0, 116, 42, 180, 0, 122, 28, 51, 153, 0, 22, 42, 180, 0, 125]
abbrev dktX5_findLending_4 : List UInt8 := dkwX5_findLending_4 ++ dktX5_findLending_5
def dkwX5_findLending_3 : List UInt8 := [182, 1, 215, 9, 148, 154, 0, 7, 4, 167, 0, 4, 3, 84, 132, 3, 1, 167, 255, 215, 132, 2, 1]
abbrev dktX5_findLending_3 : List UInt8 := dkwX5_findLending_3 ++ dktX5_findLending_4
def dkwX5_findLending_2 : List UInt8 := [16, 6, 162, 0, 41, 42, 180, 0, 122, 28, 42, 180, 0, 122, 28, 51, 153, 0, 19, 42, 28, 29, 2]
abbrev dktX5_findLending_2 : List UInt8 := dkwX5_findLending_2 ++ dktX5_findLending_3
def dkwX5_findLending_1 : List UInt8 := [42, 180, 0, 122, 28, 4, 84, 42, 180, 0, 125, 28, 42, 28, 3, 2, 182, 1, 215, 80, 4, 62, 29]
abbrev dktX5_findLending_1 : List UInt8 := dkwX5_findLending_1 ++ dktX5_findLending_2
def dkwX5_findLending_0 : List UInt8 := [42, 27, 182, 1, 212, 42, 182, 1, 224, 3, 61, 28, 16, 8, 162, 0, 82, 42, 180, 0, 128, 28, 3, 79]
abbrev dktX5_findLending_0 : List UInt8 := dkwX5_findLending_0 ++ dktX5_findLending_1
theorem dksX5_findLending_0 : cX5_findLending.data.toList.drop 0 = dktX5_findLending_0 := by decide +kernel
theorem dksX5_findLending_1 : cX5_findLending.data.toList.drop 24 = dktX5_findLending_1 := dk_seg dksX5_findLending_0 24 rfl rfl
theorem dksX5_findLending_2 : cX5_findLending.data.toList.drop 47 = dktX5_findLending_2 := dk_seg dksX5_findLending_1 23 rfl rfl
theorem dksX5_findLending_3 : cX5_findLending.data.toList.drop 70 = dktX5_findLending_3 := dk_seg dksX5_findLending_2 23 rfl rfl
theorem dksX5_findLending_4 : cX5_findLending.data.toList.drop 93 = dktX5_findLending_4 := dk_seg dksX5_findLending_3 23 rfl rfl
theorem dksX5_findLending_5 : cX5_findLending.data.toList.drop 117 = dktX5_findLending_5 := dk_seg dksX5_findLending_4 24 rfl rfl
theorem dksX5_findLending_6 : cX5_findLending.data.toList.drop 141 = dktX5_findLending_6 := dk_seg dksX5_findLending_5 24 rfl rfl
theorem dksX5_findLending_7 : cX5_findLending.data.toList.drop 164 = dktX5_findLending_7 := dk_seg dksX5_findLending_6 23 rfl rfl
theorem dksX5_findLending_8 : cX5_findLending.data.toList.drop 188 = dktX5_findLending_8 := dk_seg dksX5_findLending_7 24 rfl rfl
theorem dksX5_findLending_9 : cX5_findLending.data.toList.drop 211 = dktX5_findLending_9 := dk_seg dksX5_findLending_8 23 rfl rfl
theorem dX5_findLending_0 : decode cX5_findLending 0 = .ok (.aload_n 0, 1) := dk_42 (dk_at dksX5_findLending_0 0 rfl rfl)
theorem dX5_findLending_1 : decode cX5_findLending 1 = .ok (.iload_n 1, 1) := dk_27 (dk_at dksX5_findLending_0 1 rfl rfl)
theorem dX5_findLending_2 : decode cX5_findLending 2 = .ok (.invokevirtual 468, 3) := dk_182 1 212 (dk_at dksX5_findLending_0 2 rfl rfl)
theorem dX5_findLending_5 : decode cX5_findLending 5 = .ok (.aload_n 0, 1) := dk_42 (dk_at dksX5_findLending_0 5 rfl rfl)
theorem dX5_findLending_6 : decode cX5_findLending 6 = .ok (.invokevirtual 480, 3) := dk_182 1 224 (dk_at dksX5_findLending_0 6 rfl rfl)
theorem dX5_findLending_9 : decode cX5_findLending 9 = .ok (.iconst 0, 1) := dk_3 (dk_at dksX5_findLending_0 9 rfl rfl)
theorem dX5_findLending_10 : decode cX5_findLending 10 = .ok (.istore_n 2, 1) := dk_61 (dk_at dksX5_findLending_0 10 rfl rfl)
theorem dX5_findLending_11 : decode cX5_findLending 11 = .ok (.iload_n 2, 1) := dk_28 (dk_at dksX5_findLending_0 11 rfl rfl)
theorem dX5_findLending_12 : decode cX5_findLending 12 = .ok (.bipush 8, 2) := dk_16 8 (dk_at dksX5_findLending_0 12 rfl rfl)
theorem dX5_findLending_14 : decode cX5_findLending 14 = .ok (.if_icmp .ge 82, 3) := dk_162 0 82 (dk_at dksX5_findLending_0 14 rfl rfl)
theorem dX5_findLending_17 : decode cX5_findLending 17 = .ok (.aload_n 0, 1) := dk_42 (dk_at dksX5_findLending_0 17 rfl rfl)
theorem dX5_findLending_18 : decode cX5_findLending 18 = .ok (.getfield 128, 3) := dk_180 0 128 (dk_at dksX5_findLending_0 18 rfl rfl)
theorem dX5_findLending_21 : decode cX5_findLending 21 = .ok (.iload_n 2, 1) := dk_28 (dk_at dksX5_findLending_0 21 rfl rfl)
theorem dX5_findLending_22 : decode cX5_findLending 22 = .ok (.iconst 0, 1) := dk_3 (dk_at dksX5_findLending_0 22 rfl rfl)
theorem dX5_findLending_23 : decode cX5_findLending 23 = .ok (.iastore, 1) := dk_79 (dk_at dksX5_findLending_0 23 rfl rfl)
theorem dX5_findLending_24 : decode cX5_findLending 24 = .ok (.aload_n 0, 1) := dk_42 (dk_at dksX5_findLending_1 0 rfl rfl)
theorem dX5_findLending_25 : decode cX5_findLending 25 = .ok (.getfield 122, 3) := dk_180 0 122 (dk_at dksX5_findLending_1 1 rfl rfl)
theorem dX5_findLending_28 : decode cX5_findLending 28 = .ok (.iload_n 2, 1) := dk_28 (dk_at dksX5_findLending_1 4 rfl rfl)
theorem dX5_findLending_29 : decode cX5_findLending 29 = .ok (.iconst 1, 1) := dk_4 (dk_at dksX5_findLending_1 5 rfl rfl)
theorem dX5_findLending_30 : decode cX5_findLending 30 = .ok (.bastore, 1) := dk_84 (dk_at dksX5_findLending_1 6 rfl rfl)
theorem dX5_findLending_31 : decode cX5_findLending 31 = .ok (.aload_n 0, 1) := dk_42 (dk_at dksX5_findLending_1 7 rfl rfl)
theorem dX5_findLending_32 : decode cX5_findLending 32 = .ok (.getfield 125, 3) := dk_180 0 125 (dk_at dksX5_findLending_1 8 rfl rfl)
theorem dX5_findLending_35 : decode cX5_findLending 35 = .ok (.iload_n 2, 1) := dk_28 (dk_at dksX5_findLending_1 11 rfl rfl)
theorem dX5_findLending_36 : decode cX5_findLending 36 = .ok (.aload_n 0, 1) := dk_42 (dk_at dksX5_findLending_1 12 rfl rfl)
theorem dX5_findLending_37 : decode cX5_findLending 37 = .ok (.iload_n 2, 1) := dk_28 (dk_at dksX5_findLending_1 13 rfl rfl)
theorem dX5_findLending_38 : decode cX5_findLending 38 = .ok (.iconst 0, 1) := dk_3 (dk_at dksX5_findLending_1 14 rfl rfl)
theorem dX5_findLending_39 : decode cX5_findLending 39 = .ok (.iconst (-1), 1) := dk_2 (dk_at dksX5_findLending_1 15 rfl rfl)
theorem dX5_findLending_40 : decode cX5_findLending 40 = .ok (.invokevirtual 471, 3) := dk_182 1 215 (dk_at dksX5_findLending_1 16 rfl rfl)
theorem dX5_findLending_43 : decode cX5_findLending 43 = .ok (.lastore, 1) := dk_80 (dk_at dksX5_findLending_1 19 rfl rfl)
theorem dX5_findLending_44 : decode cX5_findLending 44 = .ok (.iconst 1, 1) := dk_4 (dk_at dksX5_findLending_1 20 rfl rfl)
theorem dX5_findLending_45 : decode cX5_findLending 45 = .ok (.istore_n 3, 1) := dk_62 (dk_at dksX5_findLending_1 21 rfl rfl)
theorem dX5_findLending_46 : decode cX5_findLending 46 = .ok (.iload_n 3, 1) := dk_29 (dk_at dksX5_findLending_1 22 rfl rfl)
theorem dX5_findLending_47 : decode cX5_findLending 47 = .ok (.bipush 6, 2) := dk_16 6 (dk_at dksX5_findLending_2 0 rfl rfl)
theorem dX5_findLending_49 : decode cX5_findLending 49 = .ok (.if_icmp .ge 41, 3) := dk_162 0 41 (dk_at dksX5_findLending_2 2 rfl rfl)
theorem dX5_findLending_52 : decode cX5_findLending 52 = .ok (.aload_n 0, 1) := dk_42 (dk_at dksX5_findLending_2 5 rfl rfl)
theorem dX5_findLending_53 : decode cX5_findLending 53 = .ok (.getfield 122, 3) := dk_180 0 122 (dk_at dksX5_findLending_2 6 rfl rfl)
theorem dX5_findLending_56 : decode cX5_findLending 56 = .ok (.iload_n 2, 1) := dk_28 (dk_at dksX5_findLending_2 9 rfl rfl)
theorem dX5_findLending_57 : decode cX5_findLending 57 = .ok (.aload_n 0, 1) := dk_42 (dk_at dksX5_findLending_2 10 rfl rfl)
theorem dX5_findLending_58 : decode cX5_findLending 58 = .ok (.getfield 122, 3) := dk_180 0 122 (dk_at dksX5_findLending_2 11 rfl rfl)
theorem dX5_findLending_61 : decode cX5_findLending 61 = .ok (.iload_n 2, 1) := dk_28 (dk_at dksX5_findLending_2 14 rfl rfl)
theorem dX5_findLending_62 : decode cX5_findLending 62 = .ok (.baload, 1) := dk_51 (dk_at dksX5_findLending_2 15 rfl rfl)
theorem dX5_findLending_63 : decode cX5_findLending 63 = .ok (.ifCond .eq 19, 3) := dk_153 0 19 (dk_at dksX5_findLending_2 16 rfl rfl)
theorem dX5_findLending_66 : decode cX5_findLending 66 = .ok (.aload_n 0, 1) := dk_42 (dk_at dksX5_findLending_2 19 rfl rfl)
theorem dX5_findLending_67 : decode cX5_findLending 67 = .ok (.iload_n 2, 1) := dk_28 (dk_at dksX5_findLending_2 20 rfl rfl)
theorem dX5_findLending_68 : decode cX5_findLending 68 = .ok (.iload_n 3, 1) := dk_29 (dk_at dksX5_findLending_2 21 rfl rfl)
theorem dX5_findLending_69 : decode cX5_findLending 69 = .ok (.iconst (-1), 1) := dk_2 (dk_at dksX5_findLending_2 22 rfl rfl)
theorem dX5_findLending_70 : decode cX5_findLending 70 = .ok (.invokevirtual 471, 3) := dk_182 1 215 (dk_at dksX5_findLending_3 0 rfl rfl)
theorem dX5_findLending_73 : decode cX5_findLending 73 = .ok (.lconst 0, 1) := dk_9 (dk_at dksX5_findLending_3 3 rfl rfl)
theorem dX5_findLending_74 : decode cX5_findLending 74 = .ok (.lcmp, 1) := dk_148 (dk_at dksX5_findLending_3 4 rfl rfl)
theorem dX5_findLending_75 : decode cX5_findLending 75 = .ok (.ifCond .ne 7, 3) := dk_154 0 7 (dk_at dksX5_findLending_3 5 rfl rfl)
theorem dX5_findLending_78 : decode cX5_findLending 78 = .ok (.iconst 1, 1) := dk_4 (dk_at dksX5_findLending_3 8 rfl rfl)
theorem dX5_findLending_79 : decode cX5_findLending 79 = .ok (.goto 4, 3) := dk_167 0 4 (dk_at dksX5_findLending_3 9 rfl rfl)
theorem dX5_findLending_82 : decode cX5_findLending 82 = .ok (.iconst 0, 1) := dk_3 (dk_at dksX5_findLending_3 12 rfl rfl)
theorem dX5_findLending_83 : decode cX5_findLending 83 = .ok (.bastore, 1) := dk_84 (dk_at dksX5_findLending_3 13 rfl rfl)
theorem dX5_findLending_84 : decode cX5_findLending 84 = .ok (.iinc 3 1, 3) := dk_132 3 1 (dk_at dksX5_findLending_3 14 rfl rfl)
theorem dX5_findLending_87 : decode cX5_findLending 87 = .ok (.goto (-41), 3) := dk_167 255 215 (dk_at dksX5_findLending_3 17 rfl rfl)
theorem dX5_findLending_90 : decode cX5_findLending 90 = .ok (.iinc 2 1, 3) := dk_132 2 1 (dk_at dksX5_findLending_3 20 rfl rfl)
theorem dX5_findLending_93 : decode cX5_findLending 93 = .ok (.goto (-82), 3) := dk_167 255 174 (dk_at dksX5_findLending_4 0 rfl rfl)
theorem dX5_findLending_96 : decode cX5_findLending 96 = .ok (.iconst 0, 1) := dk_3 (dk_at dksX5_findLending_4 3 rfl rfl)
theorem dX5_findLending_97 : decode cX5_findLending 97 = .ok (.istore_n 2, 1) := dk_61 (dk_at dksX5_findLending_4 4 rfl rfl)
theorem dX5_findLending_98 : decode cX5_findLending 98 = .ok (.iload_n 2, 1) := dk_28 (dk_at dksX5_findLending_4 5 rfl rfl)
theorem dX5_findLending_99 : decode cX5_findLending 99 = .ok (.bipush 8, 2) := dk_16 8 (dk_at dksX5_findLending_4 6 rfl rfl)
theorem dX5_findLending_101 : decode cX5_findLending 101 = .ok (.if_icmp .ge 116, 3) := dk_162 0 116 (dk_at dksX5_findLending_4 8 rfl rfl)
theorem dX5_findLending_104 : decode cX5_findLending 104 = .ok (.aload_n 0, 1) := dk_42 (dk_at dksX5_findLending_4 11 rfl rfl)
theorem dX5_findLending_105 : decode cX5_findLending 105 = .ok (.getfield 122, 3) := dk_180 0 122 (dk_at dksX5_findLending_4 12 rfl rfl)
theorem dX5_findLending_108 : decode cX5_findLending 108 = .ok (.iload_n 2, 1) := dk_28 (dk_at dksX5_findLending_4 15 rfl rfl)
theorem dX5_findLending_109 : decode cX5_findLending 109 = .ok (.baload, 1) := dk_51 (dk_at dksX5_findLending_4 16 rfl rfl)
theorem dX5_findLending_110 : decode cX5_findLending 110 = .ok (.ifCond .eq 22, 3) := dk_153 0 22 (dk_at dksX5_findLending_4 17 rfl rfl)
theorem dX5_findLending_113 : decode cX5_findLending 113 = .ok (.aload_n 0, 1) := dk_42 (dk_at dksX5_findLending_4 20 rfl rfl)
theorem dX5_findLending_114 : decode cX5_findLending 114 = .ok (.getfield 125, 3) := dk_180 0 125 (dk_at dksX5_findLending_4 21 rfl rfl)
theorem dX5_findLending_117 : decode cX5_findLending 117 = .ok (.iload_n 2, 1) := dk_28 (dk_at dksX5_findLending_5 0 rfl rfl)
theorem dX5_findLending_118 : decode cX5_findLending 118 = .ok (.laload, 1) := dk_47 (dk_at dksX5_findLending_5 1 rfl rfl)
theorem dX5_findLending_119 : decode cX5_findLending 119 = .ok (.lconst 0, 1) := dk_9 (dk_at dksX5_findLending_5 2 rfl rfl)
theorem dX5_findLending_120 : decode cX5_findLending 120 = .ok (.lcmp, 1) := dk_148 (dk_at dksX5_findLending_5 3 rfl rfl)
theorem dX5_findLending_121 : decode cX5_findLending 121 = .ok (.ifCond .le 11, 3) := dk_158 0 11 (dk_at dksX5_findLending_5 4 rfl rfl)
theorem dX5_findLending_124 : decode cX5_findLending 124 = .ok (.aload_n 0, 1) := dk_42 (dk_at dksX5_findLending_5 7 rfl rfl)
theorem dX5_findLending_125 : decode cX5_findLending 125 = .ok (.iload_n 2, 1) := dk_28 (dk_at dksX5_findLending_5 8 rfl rfl)
theorem dX5_findLending_126 : decode cX5_findLending 126 = .ok (.invokevirtual 483, 3) := dk_182 1 227 (dk_at dksX5_findLending_5 9 rfl rfl)
theorem dX5_findLending_129 : decode cX5_findLending 129 = .ok (.goto 4, 3) := dk_167 0 4 (dk_at dksX5_findLending_5 12 rfl rfl)
theorem dX5_findLending_132 : decode cX5_findLending 132 = .ok (.iconst (-1), 1) := dk_2 (dk_at dksX5_findLending_5 15 rfl rfl)
theorem dX5_findLending_133 : decode cX5_findLending 133 = .ok (.istore_n 3, 1) := dk_62 (dk_at dksX5_findLending_5 16 rfl rfl)
theorem dX5_findLending_134 : decode cX5_findLending 134 = .ok (.iload_n 3, 1) := dk_29 (dk_at dksX5_findLending_5 17 rfl rfl)
theorem dX5_findLending_135 : decode cX5_findLending 135 = .ok (.ifCond .ge 6, 3) := dk_156 0 6 (dk_at dksX5_findLending_5 18 rfl rfl)
theorem dX5_findLending_138 : decode cX5_findLending 138 = .ok (.goto 73, 3) := dk_167 0 73 (dk_at dksX5_findLending_5 21 rfl rfl)
theorem dX5_findLending_141 : decode cX5_findLending 141 = .ok (.iconst 0, 1) := dk_3 (dk_at dksX5_findLending_6 0 rfl rfl)
theorem dX5_findLending_142 : decode cX5_findLending 142 = .ok (.istore 4, 2) := dk_54 4 (dk_at dksX5_findLending_6 1 rfl rfl)
theorem dX5_findLending_144 : decode cX5_findLending 144 = .ok (.iload 4, 2) := dk_21 4 (dk_at dksX5_findLending_6 3 rfl rfl)
theorem dX5_findLending_146 : decode cX5_findLending 146 = .ok (.bipush 8, 2) := dk_16 8 (dk_at dksX5_findLending_6 5 rfl rfl)
theorem dX5_findLending_148 : decode cX5_findLending 148 = .ok (.if_icmp .ge 63, 3) := dk_162 0 63 (dk_at dksX5_findLending_6 7 rfl rfl)
theorem dX5_findLending_151 : decode cX5_findLending 151 = .ok (.iload 4, 2) := dk_21 4 (dk_at dksX5_findLending_6 10 rfl rfl)
theorem dX5_findLending_153 : decode cX5_findLending 153 = .ok (.iload_n 2, 1) := dk_28 (dk_at dksX5_findLending_6 12 rfl rfl)
theorem dX5_findLending_154 : decode cX5_findLending 154 = .ok (.if_icmp .eq 51, 3) := dk_159 0 51 (dk_at dksX5_findLending_6 13 rfl rfl)
theorem dX5_findLending_157 : decode cX5_findLending 157 = .ok (.aload_n 0, 1) := dk_42 (dk_at dksX5_findLending_6 16 rfl rfl)
theorem dX5_findLending_158 : decode cX5_findLending 158 = .ok (.getfield 122, 3) := dk_180 0 122 (dk_at dksX5_findLending_6 17 rfl rfl)
theorem dX5_findLending_161 : decode cX5_findLending 161 = .ok (.iload 4, 2) := dk_21 4 (dk_at dksX5_findLending_6 20 rfl rfl)
theorem dX5_findLending_163 : decode cX5_findLending 163 = .ok (.baload, 1) := dk_51 (dk_at dksX5_findLending_6 22 rfl rfl)
theorem dX5_findLending_164 : decode cX5_findLending 164 = .ok (.ifCond .eq 41, 3) := dk_153 0 41 (dk_at dksX5_findLending_7 0 rfl rfl)
theorem dX5_findLending_167 : decode cX5_findLending 167 = .ok (.aload_n 0, 1) := dk_42 (dk_at dksX5_findLending_7 3 rfl rfl)
theorem dX5_findLending_168 : decode cX5_findLending 168 = .ok (.getfield 125, 3) := dk_180 0 125 (dk_at dksX5_findLending_7 4 rfl rfl)
theorem dX5_findLending_171 : decode cX5_findLending 171 = .ok (.iload 4, 2) := dk_21 4 (dk_at dksX5_findLending_7 7 rfl rfl)
theorem dX5_findLending_173 : decode cX5_findLending 173 = .ok (.laload, 1) := dk_47 (dk_at dksX5_findLending_7 9 rfl rfl)
theorem dX5_findLending_174 : decode cX5_findLending 174 = .ok (.lconst 0, 1) := dk_9 (dk_at dksX5_findLending_7 10 rfl rfl)
theorem dX5_findLending_175 : decode cX5_findLending 175 = .ok (.lcmp, 1) := dk_148 (dk_at dksX5_findLending_7 11 rfl rfl)
theorem dX5_findLending_176 : decode cX5_findLending 176 = .ok (.ifCond .ge 29, 3) := dk_156 0 29 (dk_at dksX5_findLending_7 12 rfl rfl)
theorem dX5_findLending_179 : decode cX5_findLending 179 = .ok (.aload_n 0, 1) := dk_42 (dk_at dksX5_findLending_7 15 rfl rfl)
theorem dX5_findLending_180 : decode cX5_findLending 180 = .ok (.iload 4, 2) := dk_21 4 (dk_at dksX5_findLending_7 16 rfl rfl)
theorem dX5_findLending_182 : decode cX5_findLending 182 = .ok (.iconst 0, 1) := dk_3 (dk_at dksX5_findLending_7 18 rfl rfl)
theorem dX5_findLending_183 : decode cX5_findLending 183 = .ok (.iload_n 3, 1) := dk_29 (dk_at dksX5_findLending_7 19 rfl rfl)
theorem dX5_findLending_184 : decode cX5_findLending 184 = .ok (.invokevirtual 471, 3) := dk_182 1 215 (dk_at dksX5_findLending_7 20 rfl rfl)
theorem dX5_findLending_187 : decode cX5_findLending 187 = .ok (.lconst 0, 1) := dk_9 (dk_at dksX5_findLending_7 23 rfl rfl)
theorem dX5_findLending_188 : decode cX5_findLending 188 = .ok (.lcmp, 1) := dk_148 (dk_at dksX5_findLending_8 0 rfl rfl)
theorem dX5_findLending_189 : decode cX5_findLending 189 = .ok (.ifCond .le 16, 3) := dk_158 0 16 (dk_at dksX5_findLending_8 1 rfl rfl)
theorem dX5_findLending_192 : decode cX5_findLending 192 = .ok (.aload_n 0, 1) := dk_42 (dk_at dksX5_findLending_8 4 rfl rfl)
theorem dX5_findLending_193 : decode cX5_findLending 193 = .ok (.getfield 128, 3) := dk_180 0 128 (dk_at dksX5_findLending_8 5 rfl rfl)
theorem dX5_findLending_196 : decode cX5_findLending 196 = .ok (.iload_n 2, 1) := dk_28 (dk_at dksX5_findLending_8 8 rfl rfl)
theorem dX5_findLending_197 : decode cX5_findLending 197 = .ok (.dup2, 1) := dk_92 (dk_at dksX5_findLending_8 9 rfl rfl)
theorem dX5_findLending_198 : decode cX5_findLending 198 = .ok (.iaload, 1) := dk_46 (dk_at dksX5_findLending_8 10 rfl rfl)
theorem dX5_findLending_199 : decode cX5_findLending 199 = .ok (.iconst 1, 1) := dk_4 (dk_at dksX5_findLending_8 11 rfl rfl)
theorem dX5_findLending_200 : decode cX5_findLending 200 = .ok (.iload 4, 2) := dk_21 4 (dk_at dksX5_findLending_8 12 rfl rfl)
theorem dX5_findLending_202 : decode cX5_findLending 202 = .ok (.ishl, 1) := dk_120 (dk_at dksX5_findLending_8 14 rfl rfl)
theorem dX5_findLending_203 : decode cX5_findLending 203 = .ok (.ior, 1) := dk_128 (dk_at dksX5_findLending_8 15 rfl rfl)
theorem dX5_findLending_204 : decode cX5_findLending 204 = .ok (.iastore, 1) := dk_79 (dk_at dksX5_findLending_8 16 rfl rfl)
theorem dX5_findLending_205 : decode cX5_findLending 205 = .ok (.iinc 4 1, 3) := dk_132 4 1 (dk_at dksX5_findLending_8 17 rfl rfl)
theorem dX5_findLending_208 : decode cX5_findLending 208 = .ok (.goto (-64), 3) := dk_167 255 192 (dk_at dksX5_findLending_8 20 rfl rfl)
theorem dX5_findLending_211 : decode cX5_findLending 211 = .ok (.iinc 2 1, 3) := dk_132 2 1 (dk_at dksX5_findLending_9 0 rfl rfl)
theorem dX5_findLending_214 : decode cX5_findLending 214 = .ok (.goto (-116), 3) := dk_167 255 140 (dk_at dksX5_findLending_9 3 rfl rfl)
theorem dX5_findLending_217 : decode cX5_findLending 217 = .ok (.return_, 1) := dk_177 (dk_at dksX5_findLending_9 6 rfl rfl)
abbrev cX5_findDays : ByteArray := prog_24_method_62_code
def yX5_findDays : MethodName := ⟨RX5, "findDays", "()V"⟩
def dkwX5_findDays_5 : List UInt8 := [42, 180, 0, 97, 27, 46, 79, 42, 89, 180, 1, 221, 4, 96, 181, 1, 221, 132, 1, 1, 167, 255, 124, 177]
abbrev dktX5_findDays_5 : List UInt8 := dkwX5_findDays_5 ++ []
def dkwX5_findDays_4 : List UInt8 := [180, 0, 119, 29, 42, 180, 0, 119, 29, 4, 100, 46, 79, 132, 3, 255, 167, 255, 234, 42, 180, 0, 119, 28]
abbrev dktX5_findDays_4 : List UInt8 := dkwX5_findDays_4 ++ dktX5_findDays_5
def dkwX5_findDays_3 : List UInt8 := [42, 180, 0, 97, 27, 46, 160, 0, 6, 167, 0, 55, 42, 180, 1, 221, 62, 29, 28, 164, 0, 23, 42]
abbrev dktX5_findDays_3 : List UInt8 := dkwX5_findDays_3 ++ dktX5_findDays_4
def dkwX5_findDays_2 : List UInt8 := [46, 162, 0, 9, 132, 2, 1, 167, 255, 230, 28, 42, 180, 1, 221, 162, 0, 21, 42, 180, 0, 119, 28, 46]
abbrev dktX5_findDays_2 : List UInt8 := dkwX5_findDays_2 ++ dktX5_findDays_3
def dkwX5_findDays_1 : List UInt8 := [167, 0, 112, 3, 61, 28, 42, 180, 1, 221, 162, 0, 24, 42, 180, 0, 119, 28, 46, 42, 180, 0, 97, 27]
abbrev dktX5_findDays_1 : List UInt8 := dkwX5_findDays_1 ++ dktX5_findDays_2
def dkwX5_findDays_0 : List UInt8 := [42, 3, 181, 1, 221, 3, 60, 27, 42, 180, 1, 148, 162, 0, 130, 42, 180, 0, 106, 27, 46, 153, 0, 6]
abbrev dktX5_findDays_0 : List UInt8 := dkwX5_findDays_0 ++ dktX5_findDays_1
theorem dksX5_findDays_0 : cX5_findDays.data.toList.drop 0 = dktX5_findDays_0 := by decide +kernel
theorem dksX5_findDays_1 : cX5_findDays.data.toList.drop 24 = dktX5_findDays_1 := dk_seg dksX5_findDays_0 24 rfl rfl
theorem dksX5_findDays_2 : cX5_findDays.data.toList.drop 48 = dktX5_findDays_2 := dk_seg dksX5_findDays_1 24 rfl rfl
theorem dksX5_findDays_3 : cX5_findDays.data.toList.drop 72 = dktX5_findDays_3 := dk_seg dksX5_findDays_2 24 rfl rfl
theorem dksX5_findDays_4 : cX5_findDays.data.toList.drop 95 = dktX5_findDays_4 := dk_seg dksX5_findDays_3 23 rfl rfl
theorem dksX5_findDays_5 : cX5_findDays.data.toList.drop 119 = dktX5_findDays_5 := dk_seg dksX5_findDays_4 24 rfl rfl
theorem dX5_findDays_0 : decode cX5_findDays 0 = .ok (.aload_n 0, 1) := dk_42 (dk_at dksX5_findDays_0 0 rfl rfl)
theorem dX5_findDays_1 : decode cX5_findDays 1 = .ok (.iconst 0, 1) := dk_3 (dk_at dksX5_findDays_0 1 rfl rfl)
theorem dX5_findDays_2 : decode cX5_findDays 2 = .ok (.putfield 477, 3) := dk_181 1 221 (dk_at dksX5_findDays_0 2 rfl rfl)
theorem dX5_findDays_5 : decode cX5_findDays 5 = .ok (.iconst 0, 1) := dk_3 (dk_at dksX5_findDays_0 5 rfl rfl)
theorem dX5_findDays_6 : decode cX5_findDays 6 = .ok (.istore_n 1, 1) := dk_60 (dk_at dksX5_findDays_0 6 rfl rfl)
theorem dX5_findDays_7 : decode cX5_findDays 7 = .ok (.iload_n 1, 1) := dk_27 (dk_at dksX5_findDays_0 7 rfl rfl)
theorem dX5_findDays_8 : decode cX5_findDays 8 = .ok (.aload_n 0, 1) := dk_42 (dk_at dksX5_findDays_0 8 rfl rfl)
theorem dX5_findDays_9 : decode cX5_findDays 9 = .ok (.getfield 404, 3) := dk_180 1 148 (dk_at dksX5_findDays_0 9 rfl rfl)
theorem dX5_findDays_12 : decode cX5_findDays 12 = .ok (.if_icmp .ge 130, 3) := dk_162 0 130 (dk_at dksX5_findDays_0 12 rfl rfl)
theorem dX5_findDays_15 : decode cX5_findDays 15 = .ok (.aload_n 0, 1) := dk_42 (dk_at dksX5_findDays_0 15 rfl rfl)
theorem dX5_findDays_16 : decode cX5_findDays 16 = .ok (.getfield 106, 3) := dk_180 0 106 (dk_at dksX5_findDays_0 16 rfl rfl)
theorem dX5_findDays_19 : decode cX5_findDays 19 = .ok (.iload_n 1, 1) := dk_27 (dk_at dksX5_findDays_0 19 rfl rfl)
theorem dX5_findDays_20 : decode cX5_findDays 20 = .ok (.iaload, 1) := dk_46 (dk_at dksX5_findDays_0 20 rfl rfl)
theorem dX5_findDays_21 : decode cX5_findDays 21 = .ok (.ifCond .eq 6, 3) := dk_153 0 6 (dk_at dksX5_findDays_0 21 rfl rfl)
theorem dX5_findDays_24 : decode cX5_findDays 24 = .ok (.goto 112, 3) := dk_167 0 112 (dk_at dksX5_findDays_1 0 rfl rfl)
theorem dX5_findDays_27 : decode cX5_findDays 27 = .ok (.iconst 0, 1) := dk_3 (dk_at dksX5_findDays_1 3 rfl rfl)
theorem dX5_findDays_28 : decode cX5_findDays 28 = .ok (.istore_n 2, 1) := dk_61 (dk_at dksX5_findDays_1 4 rfl rfl)
theorem dX5_findDays_29 : decode cX5_findDays 29 = .ok (.iload_n 2, 1) := dk_28 (dk_at dksX5_findDays_1 5 rfl rfl)
theorem dX5_findDays_30 : decode cX5_findDays 30 = .ok (.aload_n 0, 1) := dk_42 (dk_at dksX5_findDays_1 6 rfl rfl)
theorem dX5_findDays_31 : decode cX5_findDays 31 = .ok (.getfield 477, 3) := dk_180 1 221 (dk_at dksX5_findDays_1 7 rfl rfl)
theorem dX5_findDays_34 : decode cX5_findDays 34 = .ok (.if_icmp .ge 24, 3) := dk_162 0 24 (dk_at dksX5_findDays_1 10 rfl rfl)
theorem dX5_findDays_37 : decode cX5_findDays 37 = .ok (.aload_n 0, 1) := dk_42 (dk_at dksX5_findDays_1 13 rfl rfl)
theorem dX5_findDays_38 : decode cX5_findDays 38 = .ok (.getfield 119, 3) := dk_180 0 119 (dk_at dksX5_findDays_1 14 rfl rfl)
theorem dX5_findDays_41 : decode cX5_findDays 41 = .ok (.iload_n 2, 1) := dk_28 (dk_at dksX5_findDays_1 17 rfl rfl)
theorem dX5_findDays_42 : decode cX5_findDays 42 = .ok (.iaload, 1) := dk_46 (dk_at dksX5_findDays_1 18 rfl rfl)
theorem dX5_findDays_43 : decode cX5_findDays 43 = .ok (.aload_n 0, 1) := dk_42 (dk_at dksX5_findDays_1 19 rfl rfl)
theorem dX5_findDays_44 : decode cX5_findDays 44 = .ok (.getfield 97, 3) := dk_180 0 97 (dk_at dksX5_findDays_1 20 rfl rfl)
theorem dX5_findDays_47 : decode cX5_findDays 47 = .ok (.iload_n 1, 1) := dk_27 (dk_at dksX5_findDays_1 23 rfl rfl)
theorem dX5_findDays_48 : decode cX5_findDays 48 = .ok (.iaload, 1) := dk_46 (dk_at dksX5_findDays_2 0 rfl rfl)
theorem dX5_findDays_49 : decode cX5_findDays 49 = .ok (.if_icmp .ge 9, 3) := dk_162 0 9 (dk_at dksX5_findDays_2 1 rfl rfl)
theorem dX5_findDays_52 : decode cX5_findDays 52 = .ok (.iinc 2 1, 3) := dk_132 2 1 (dk_at dksX5_findDays_2 4 rfl rfl)
theorem dX5_findDays_55 : decode cX5_findDays 55 = .ok (.goto (-26), 3) := dk_167 255 230 (dk_at dksX5_findDays_2 7 rfl rfl)
theorem dX5_findDays_58 : decode cX5_findDays 58 = .ok (.iload_n 2, 1) := dk_28 (dk_at dksX5_findDays_2 10 rfl rfl)
theorem dX5_findDays_59 : decode cX5_findDays 59 = .ok (.aload_n 0, 1) := dk_42 (dk_at dksX5_findDays_2 11 rfl rfl)
theorem dX5_findDays_60 : decode cX5_findDays 60 = .ok (.getfield 477, 3) := dk_180 1 221 (dk_at dksX5_findDays_2 12 rfl rfl)
theorem dX5_findDays_63 : decode cX5_findDays 63 = .ok (.if_icmp .ge 21, 3) := dk_162 0 21 (dk_at dksX5_findDays_2 15 rfl rfl)
theorem dX5_findDays_66 : decode cX5_findDays 66 = .ok (.aload_n 0, 1) := dk_42 (dk_at dksX5_findDays_2 18 rfl rfl)
theorem dX5_findDays_67 : decode cX5_findDays 67 = .ok (.getfield 119, 3) := dk_180 0 119 (dk_at dksX5_findDays_2 19 rfl rfl)
theorem dX5_findDays_70 : decode cX5_findDays 70 = .ok (.iload_n 2, 1) := dk_28 (dk_at dksX5_findDays_2 22 rfl rfl)
theorem dX5_findDays_71 : decode cX5_findDays 71 = .ok (.iaload, 1) := dk_46 (dk_at dksX5_findDays_2 23 rfl rfl)
theorem dX5_findDays_72 : decode cX5_findDays 72 = .ok (.aload_n 0, 1) := dk_42 (dk_at dksX5_findDays_3 0 rfl rfl)
theorem dX5_findDays_73 : decode cX5_findDays 73 = .ok (.getfield 97, 3) := dk_180 0 97 (dk_at dksX5_findDays_3 1 rfl rfl)
theorem dX5_findDays_76 : decode cX5_findDays 76 = .ok (.iload_n 1, 1) := dk_27 (dk_at dksX5_findDays_3 4 rfl rfl)
theorem dX5_findDays_77 : decode cX5_findDays 77 = .ok (.iaload, 1) := dk_46 (dk_at dksX5_findDays_3 5 rfl rfl)
theorem dX5_findDays_78 : decode cX5_findDays 78 = .ok (.if_icmp .ne 6, 3) := dk_160 0 6 (dk_at dksX5_findDays_3 6 rfl rfl)
theorem dX5_findDays_81 : decode cX5_findDays 81 = .ok (.goto 55, 3) := dk_167 0 55 (dk_at dksX5_findDays_3 9 rfl rfl)
theorem dX5_findDays_84 : decode cX5_findDays 84 = .ok (.aload_n 0, 1) := dk_42 (dk_at dksX5_findDays_3 12 rfl rfl)
theorem dX5_findDays_85 : decode cX5_findDays 85 = .ok (.getfield 477, 3) := dk_180 1 221 (dk_at dksX5_findDays_3 13 rfl rfl)
theorem dX5_findDays_88 : decode cX5_findDays 88 = .ok (.istore_n 3, 1) := dk_62 (dk_at dksX5_findDays_3 16 rfl rfl)
theorem dX5_findDays_89 : decode cX5_findDays 89 = .ok (.iload_n 3, 1) := dk_29 (dk_at dksX5_findDays_3 17 rfl rfl)
theorem dX5_findDays_90 : decode cX5_findDays 90 = .ok (.iload_n 2, 1) := dk_28 (dk_at dksX5_findDays_3 18 rfl rfl)
theorem dX5_findDays_91 : decode cX5_findDays 91 = .ok (.if_icmp .le 23, 3) := dk_164 0 23 (dk_at dksX5_findDays_3 19 rfl rfl)
theorem dX5_findDays_94 : decode cX5_findDays 94 = .ok (.aload_n 0, 1) := dk_42 (dk_at dksX5_findDays_3 22 rfl rfl)
theorem dX5_findDays_95 : decode cX5_findDays 95 = .ok (.getfield 119, 3) := dk_180 0 119 (dk_at dksX5_findDays_4 0 rfl rfl)
theorem dX5_findDays_98 : decode cX5_findDays 98 = .ok (.iload_n 3, 1) := dk_29 (dk_at dksX5_findDays_4 3 rfl rfl)
theorem dX5_findDays_99 : decode cX5_findDays 99 = .ok (.aload_n 0, 1) := dk_42 (dk_at dksX5_findDays_4 4 rfl rfl)
theorem dX5_findDays_100 : decode cX5_findDays 100 = .ok (.getfield 119, 3) := dk_180 0 119 (dk_at dksX5_findDays_4 5 rfl rfl)
theorem dX5_findDays_103 : decode cX5_findDays 103 = .ok (.iload_n 3, 1) := dk_29 (dk_at dksX5_findDays_4 8 rfl rfl)
theorem dX5_findDays_104 : decode cX5_findDays 104 = .ok (.iconst 1, 1) := dk_4 (dk_at dksX5_findDays_4 9 rfl rfl)
theorem dX5_findDays_105 : decode cX5_findDays 105 = .ok (.isub, 1) := dk_100 (dk_at dksX5_findDays_4 10 rfl rfl)
theorem dX5_findDays_106 : decode cX5_findDays 106 = .ok (.iaload, 1) := dk_46 (dk_at dksX5_findDays_4 11 rfl rfl)
theorem dX5_findDays_107 : decode cX5_findDays 107 = .ok (.iastore, 1) := dk_79 (dk_at dksX5_findDays_4 12 rfl rfl)
theorem dX5_findDays_108 : decode cX5_findDays 108 = .ok (.iinc 3 (-1), 3) := dk_132 3 255 (dk_at dksX5_findDays_4 13 rfl rfl)
theorem dX5_findDays_111 : decode cX5_findDays 111 = .ok (.goto (-22), 3) := dk_167 255 234 (dk_at dksX5_findDays_4 16 rfl rfl)
theorem dX5_findDays_114 : decode cX5_findDays 114 = .ok (.aload_n 0, 1) := dk_42 (dk_at dksX5_findDays_4 19 rfl rfl)
theorem dX5_findDays_115 : decode cX5_findDays 115 = .ok (.getfield 119, 3) := dk_180 0 119 (dk_at dksX5_findDays_4 20 rfl rfl)
theorem dX5_findDays_118 : decode cX5_findDays 118 = .ok (.iload_n 2, 1) := dk_28 (dk_at dksX5_findDays_4 23 rfl rfl)
theorem dX5_findDays_119 : decode cX5_findDays 119 = .ok (.aload_n 0, 1) := dk_42 (dk_at dksX5_findDays_5 0 rfl rfl)
theorem dX5_findDays_120 : decode cX5_findDays 120 = .ok (.getfield 97, 3) := dk_180 0 97 (dk_at dksX5_findDays_5 1 rfl rfl)
theorem dX5_findDays_123 : decode cX5_findDays 123 = .ok (.iload_n 1, 1) := dk_27 (dk_at dksX5_findDays_5 4 rfl rfl)
theorem dX5_findDays_124 : decode cX5_findDays 124 = .ok (.iaload, 1) := dk_46 (dk_at dksX5_findDays_5 5 rfl rfl)
theorem dX5_findDays_125 : decode cX5_findDays 125 = .ok (.iastore, 1) := dk_79 (dk_at dksX5_findDays_5 6 rfl rfl)
theorem dX5_findDays_126 : decode cX5_findDays 126 = .ok (.aload_n 0, 1) := dk_42 (dk_at dksX5_findDays_5 7 rfl rfl)
theorem dX5_findDays_127 : decode cX5_findDays 127 = .ok (.dup, 1) := dk_89 (dk_at dksX5_findDays_5 8 rfl rfl)
theorem dX5_findDays_128 : decode cX5_findDays 128 = .ok (.getfield 477, 3) := dk_180 1 221 (dk_at dksX5_findDays_5 9 rfl rfl)
theorem dX5_findDays_131 : decode cX5_findDays 131 = .ok (.iconst 1, 1) := dk_4 (dk_at dksX5_findDays_5 12 rfl rfl)
theorem dX5_findDays_132 : decode cX5_findDays 132 = .ok (.iadd, 1) := dk_96 (dk_at dksX5_findDays_5 13 rfl rfl)
theorem dX5_findDays_133 : decode cX5_findDays 133 = .ok (.putfield 477, 3) := dk_181 1 221 (dk_at dksX5_findDays_5 14 rfl rfl)
theorem dX5_findDays_136 : decode cX5_findDays 136 = .ok (.iinc 1 1, 3) := dk_132 1 1 (dk_at dksX5_findDays_5 17 rfl rfl)
theorem dX5_findDays_139 : decode cX5_findDays 139 = .ok (.goto (-132), 3) := dk_167 255 124 (dk_at dksX5_findDays_5 20 rfl rfl)
theorem dX5_findDays_142 : decode cX5_findDays 142 = .ok (.return_, 1) := dk_177 (dk_at dksX5_findDays_5 23 rfl rfl)
abbrev cX5_lendingDay : ByteArray := prog_24_method_63_code
def yX5_lendingDay : MethodName := ⟨RX5, "lendingDay", "(I)I"⟩
def dkwX5_lendingDay_4 : List UInt8 := [132, 4, 1, 167, 255, 166, 28, 172]
abbrev dktX5_lendingDay_4 : List UInt8 := dkwX5_lendingDay_4 ++ []
def dkwX5_lendingDay_3 : List UInt8 := [180, 0, 119, 21, 4, 46, 61, 29, 154, 0, 10, 22, 5, 9, 148, 158, 0, 7, 4, 167, 0, 4, 3, 62]
abbrev dktX5_lendingDay_3 : List UInt8 := dkwX5_lendingDay_3 ++ dktX5_lendingDay_4
def dkwX5_lendingDay_2 : List UInt8 := [9, 148, 157, 0, 14, 29, 153, 0, 12, 22, 5, 9, 148, 156, 0, 5, 2, 172, 28, 156, 0, 11, 42]
abbrev dktX5_lendingDay_2 : List UInt8 := dkwX5_lendingDay_2 ++ dktX5_lendingDay_3
def dkwX5_lendingDay_1 : List UInt8 := [21, 4, 46, 182, 1, 215, 55, 5, 22, 5, 9, 148, 154, 0, 6, 167, 0, 56, 28, 156, 0, 10, 22, 5]
abbrev dktX5_lendingDay_1 : List UInt8 := dkwX5_lendingDay_1 ++ dktX5_lendingDay_2
def dkwX5_lendingDay_0 : List UInt8 := [2, 61, 3, 62, 3, 54, 4, 21, 4, 42, 180, 1, 221, 162, 0, 87, 42, 27, 3, 42, 180, 0, 119]
abbrev dktX5_lendingDay_0 : List UInt8 := dkwX5_lendingDay_0 ++ dktX5_lendingDay_1
theorem dksX5_lendingDay_0 : cX5_lendingDay.data.toList.drop 0 = dktX5_lendingDay_0 := by decide +kernel
theorem dksX5_lendingDay_1 : cX5_lendingDay.data.toList.drop 23 = dktX5_lendingDay_1 := dk_seg dksX5_lendingDay_0 23 rfl rfl
theorem dksX5_lendingDay_2 : cX5_lendingDay.data.toList.drop 47 = dktX5_lendingDay_2 := dk_seg dksX5_lendingDay_1 24 rfl rfl
theorem dksX5_lendingDay_3 : cX5_lendingDay.data.toList.drop 70 = dktX5_lendingDay_3 := dk_seg dksX5_lendingDay_2 23 rfl rfl
theorem dksX5_lendingDay_4 : cX5_lendingDay.data.toList.drop 94 = dktX5_lendingDay_4 := dk_seg dksX5_lendingDay_3 24 rfl rfl
theorem dX5_lendingDay_0 : decode cX5_lendingDay 0 = .ok (.iconst (-1), 1) := dk_2 (dk_at dksX5_lendingDay_0 0 rfl rfl)
theorem dX5_lendingDay_1 : decode cX5_lendingDay 1 = .ok (.istore_n 2, 1) := dk_61 (dk_at dksX5_lendingDay_0 1 rfl rfl)
theorem dX5_lendingDay_2 : decode cX5_lendingDay 2 = .ok (.iconst 0, 1) := dk_3 (dk_at dksX5_lendingDay_0 2 rfl rfl)
theorem dX5_lendingDay_3 : decode cX5_lendingDay 3 = .ok (.istore_n 3, 1) := dk_62 (dk_at dksX5_lendingDay_0 3 rfl rfl)
theorem dX5_lendingDay_4 : decode cX5_lendingDay 4 = .ok (.iconst 0, 1) := dk_3 (dk_at dksX5_lendingDay_0 4 rfl rfl)
theorem dX5_lendingDay_5 : decode cX5_lendingDay 5 = .ok (.istore 4, 2) := dk_54 4 (dk_at dksX5_lendingDay_0 5 rfl rfl)
theorem dX5_lendingDay_7 : decode cX5_lendingDay 7 = .ok (.iload 4, 2) := dk_21 4 (dk_at dksX5_lendingDay_0 7 rfl rfl)
theorem dX5_lendingDay_9 : decode cX5_lendingDay 9 = .ok (.aload_n 0, 1) := dk_42 (dk_at dksX5_lendingDay_0 9 rfl rfl)
theorem dX5_lendingDay_10 : decode cX5_lendingDay 10 = .ok (.getfield 477, 3) := dk_180 1 221 (dk_at dksX5_lendingDay_0 10 rfl rfl)
theorem dX5_lendingDay_13 : decode cX5_lendingDay 13 = .ok (.if_icmp .ge 87, 3) := dk_162 0 87 (dk_at dksX5_lendingDay_0 13 rfl rfl)
theorem dX5_lendingDay_16 : decode cX5_lendingDay 16 = .ok (.aload_n 0, 1) := dk_42 (dk_at dksX5_lendingDay_0 16 rfl rfl)
theorem dX5_lendingDay_17 : decode cX5_lendingDay 17 = .ok (.iload_n 1, 1) := dk_27 (dk_at dksX5_lendingDay_0 17 rfl rfl)
theorem dX5_lendingDay_18 : decode cX5_lendingDay 18 = .ok (.iconst 0, 1) := dk_3 (dk_at dksX5_lendingDay_0 18 rfl rfl)
theorem dX5_lendingDay_19 : decode cX5_lendingDay 19 = .ok (.aload_n 0, 1) := dk_42 (dk_at dksX5_lendingDay_0 19 rfl rfl)
theorem dX5_lendingDay_20 : decode cX5_lendingDay 20 = .ok (.getfield 119, 3) := dk_180 0 119 (dk_at dksX5_lendingDay_0 20 rfl rfl)
theorem dX5_lendingDay_23 : decode cX5_lendingDay 23 = .ok (.iload 4, 2) := dk_21 4 (dk_at dksX5_lendingDay_1 0 rfl rfl)
theorem dX5_lendingDay_25 : decode cX5_lendingDay 25 = .ok (.iaload, 1) := dk_46 (dk_at dksX5_lendingDay_1 2 rfl rfl)
theorem dX5_lendingDay_26 : decode cX5_lendingDay 26 = .ok (.invokevirtual 471, 3) := dk_182 1 215 (dk_at dksX5_lendingDay_1 3 rfl rfl)
theorem dX5_lendingDay_29 : decode cX5_lendingDay 29 = .ok (.lstore 5, 2) := dk_55 5 (dk_at dksX5_lendingDay_1 6 rfl rfl)
theorem dX5_lendingDay_31 : decode cX5_lendingDay 31 = .ok (.lload 5, 2) := dk_22 5 (dk_at dksX5_lendingDay_1 8 rfl rfl)
theorem dX5_lendingDay_33 : decode cX5_lendingDay 33 = .ok (.lconst 0, 1) := dk_9 (dk_at dksX5_lendingDay_1 10 rfl rfl)
theorem dX5_lendingDay_34 : decode cX5_lendingDay 34 = .ok (.lcmp, 1) := dk_148 (dk_at dksX5_lendingDay_1 11 rfl rfl)
theorem dX5_lendingDay_35 : decode cX5_lendingDay 35 = .ok (.ifCond .ne 6, 3) := dk_154 0 6 (dk_at dksX5_lendingDay_1 12 rfl rfl)
theorem dX5_lendingDay_38 : decode cX5_lendingDay 38 = .ok (.goto 56, 3) := dk_167 0 56 (dk_at dksX5_lendingDay_1 15 rfl rfl)
theorem dX5_lendingDay_41 : decode cX5_lendingDay 41 = .ok (.iload_n 2, 1) := dk_28 (dk_at dksX5_lendingDay_1 18 rfl rfl)
theorem dX5_lendingDay_42 : decode cX5_lendingDay 42 = .ok (.ifCond .ge 10, 3) := dk_156 0 10 (dk_at dksX5_lendingDay_1 19 rfl rfl)
theorem dX5_lendingDay_45 : decode cX5_lendingDay 45 = .ok (.lload 5, 2) := dk_22 5 (dk_at dksX5_lendingDay_1 22 rfl rfl)
theorem dX5_lendingDay_47 : decode cX5_lendingDay 47 = .ok (.lconst 0, 1) := dk_9 (dk_at dksX5_lendingDay_2 0 rfl rfl)
theorem dX5_lendingDay_48 : decode cX5_lendingDay 48 = .ok (.lcmp, 1) := dk_148 (dk_at dksX5_lendingDay_2 1 rfl rfl)
theorem dX5_lendingDay_49 : decode cX5_lendingDay 49 = .ok (.ifCond .gt 14, 3) := dk_157 0 14 (dk_at dksX5_lendingDay_2 2 rfl rfl)
theorem dX5_lendingDay_52 : decode cX5_lendingDay 52 = .ok (.iload_n 3, 1) := dk_29 (dk_at dksX5_lendingDay_2 5 rfl rfl)
theorem dX5_lendingDay_53 : decode cX5_lendingDay 53 = .ok (.ifCond .eq 12, 3) := dk_153 0 12 (dk_at dksX5_lendingDay_2 6 rfl rfl)
theorem dX5_lendingDay_56 : decode cX5_lendingDay 56 = .ok (.lload 5, 2) := dk_22 5 (dk_at dksX5_lendingDay_2 9 rfl rfl)
theorem dX5_lendingDay_58 : decode cX5_lendingDay 58 = .ok (.lconst 0, 1) := dk_9 (dk_at dksX5_lendingDay_2 11 rfl rfl)
theorem dX5_lendingDay_59 : decode cX5_lendingDay 59 = .ok (.lcmp, 1) := dk_148 (dk_at dksX5_lendingDay_2 12 rfl rfl)
theorem dX5_lendingDay_60 : decode cX5_lendingDay 60 = .ok (.ifCond .ge 5, 3) := dk_156 0 5 (dk_at dksX5_lendingDay_2 13 rfl rfl)
theorem dX5_lendingDay_63 : decode cX5_lendingDay 63 = .ok (.iconst (-1), 1) := dk_2 (dk_at dksX5_lendingDay_2 16 rfl rfl)
theorem dX5_lendingDay_64 : decode cX5_lendingDay 64 = .ok (.ireturn, 1) := dk_172 (dk_at dksX5_lendingDay_2 17 rfl rfl)
theorem dX5_lendingDay_65 : decode cX5_lendingDay 65 = .ok (.iload_n 2, 1) := dk_28 (dk_at dksX5_lendingDay_2 18 rfl rfl)
theorem dX5_lendingDay_66 : decode cX5_lendingDay 66 = .ok (.ifCond .ge 11, 3) := dk_156 0 11 (dk_at dksX5_lendingDay_2 19 rfl rfl)
theorem dX5_lendingDay_69 : decode cX5_lendingDay 69 = .ok (.aload_n 0, 1) := dk_42 (dk_at dksX5_lendingDay_2 22 rfl rfl)
theorem dX5_lendingDay_70 : decode cX5_lendingDay 70 = .ok (.getfield 119, 3) := dk_180 0 119 (dk_at dksX5_lendingDay_3 0 rfl rfl)
theorem dX5_lendingDay_73 : decode cX5_lendingDay 73 = .ok (.iload 4, 2) := dk_21 4 (dk_at dksX5_lendingDay_3 3 rfl rfl)
theorem dX5_lendingDay_75 : decode cX5_lendingDay 75 = .ok (.iaload, 1) := dk_46 (dk_at dksX5_lendingDay_3 5 rfl rfl)
theorem dX5_lendingDay_76 : decode cX5_lendingDay 76 = .ok (.istore_n 2, 1) := dk_61 (dk_at dksX5_lendingDay_3 6 rfl rfl)
theorem dX5_lendingDay_77 : decode cX5_lendingDay 77 = .ok (.iload_n 3, 1) := dk_29 (dk_at dksX5_lendingDay_3 7 rfl rfl)
theorem dX5_lendingDay_78 : decode cX5_lendingDay 78 = .ok (.ifCond .ne 10, 3) := dk_154 0 10 (dk_at dksX5_lendingDay_3 8 rfl rfl)
theorem dX5_lendingDay_81 : decode cX5_lendingDay 81 = .ok (.lload 5, 2) := dk_22 5 (dk_at dksX5_lendingDay_3 11 rfl rfl)
theorem dX5_lendingDay_83 : decode cX5_lendingDay 83 = .ok (.lconst 0, 1) := dk_9 (dk_at dksX5_lendingDay_3 13 rfl rfl)
theorem dX5_lendingDay_84 : decode cX5_lendingDay 84 = .ok (.lcmp, 1) := dk_148 (dk_at dksX5_lendingDay_3 14 rfl rfl)
theorem dX5_lendingDay_85 : decode cX5_lendingDay 85 = .ok (.ifCond .le 7, 3) := dk_158 0 7 (dk_at dksX5_lendingDay_3 15 rfl rfl)
theorem dX5_lendingDay_88 : decode cX5_lendingDay 88 = .ok (.iconst 1, 1) := dk_4 (dk_at dksX5_lendingDay_3 18 rfl rfl)
theorem dX5_lendingDay_89 : decode cX5_lendingDay 89 = .ok (.goto 4, 3) := dk_167 0 4 (dk_at dksX5_lendingDay_3 19 rfl rfl)
theorem dX5_lendingDay_92 : decode cX5_lendingDay 92 = .ok (.iconst 0, 1) := dk_3 (dk_at dksX5_lendingDay_3 22 rfl rfl)
theorem dX5_lendingDay_93 : decode cX5_lendingDay 93 = .ok (.istore_n 3, 1) := dk_62 (dk_at dksX5_lendingDay_3 23 rfl rfl)
theorem dX5_lendingDay_94 : decode cX5_lendingDay 94 = .ok (.iinc 4 1, 3) := dk_132 4 1 (dk_at dksX5_lendingDay_4 0 rfl rfl)
theorem dX5_lendingDay_97 : decode cX5_lendingDay 97 = .ok (.goto (-90), 3) := dk_167 255 166 (dk_at dksX5_lendingDay_4 3 rfl rfl)
theorem dX5_lendingDay_100 : decode cX5_lendingDay 100 = .ok (.iload_n 2, 1) := dk_28 (dk_at dksX5_lendingDay_4 6 rfl rfl)
theorem dX5_lendingDay_101 : decode cX5_lendingDay 101 = .ok (.ireturn, 1) := dk_172 (dk_at dksX5_lendingDay_4 7 rfl rfl)
abbrev cX5_price : ByteArray := prog_24_method_70_code
def yX5_price : MethodName := ⟨RX5, "price", "(III)J"⟩
def dkwX5_price_8 : List UInt8 := [55, 8, 29, 5, 112, 154, 0, 11, 22, 4, 22, 8, 109, 167, 0, 8, 22, 6, 22, 8, 109, 173]
abbrev dktX5_price_8 : List UInt8 := dkwX5_price_8 ++ []
def dkwX5_price_7 : List UInt8 := [54, 8, 167, 255, 138, 22, 4, 9, 148, 156, 0, 7, 20, 0, 205, 173, 22, 4, 22, 6, 184, 1, 246]
abbrev dktX5_price_7 : List UInt8 := dkwX5_price_7 ++ dktX5_price_8
def dkwX5_price_6 : List UInt8 := [21, 13, 154, 0, 6, 167, 0, 11, 22, 9, 55, 4, 22, 11, 55, 6, 42, 21, 8, 4, 96, 182, 1, 233]
abbrev dktX5_price_6 : List UInt8 := dkwX5_price_6 ++ dktX5_price_7
def dkwX5_price_5 : List UInt8 := [167, 0, 17, 22, 4, 22, 6, 22, 9, 22, 11, 184, 1, 242, 153, 0, 7, 4, 167, 0, 4, 3, 54, 13]
abbrev dktX5_price_5 : List UInt8 := dkwX5_price_5 ++ dktX5_price_6
def dkwX5_price_4 : List UInt8 := [148, 155, 0, 39, 29, 5, 162, 0, 20, 22, 9, 22, 11, 22, 4, 22, 6, 184, 1, 242, 153, 0, 24]
abbrev dktX5_price_4 : List UInt8 := dkwX5_price_4 ++ dktX5_price_5
def dkwX5_price_3 : List UInt8 := [154, 0, 6, 167, 0, 84, 42, 180, 0, 125, 27, 47, 55, 9, 42, 27, 182, 1, 239, 55, 11, 22, 4, 9]
abbrev dktX5_price_3 : List UInt8 := dkwX5_price_3 ++ dktX5_price_4
def dkwX5_price_2 : List UInt8 := [54, 8, 21, 8, 155, 0, 119, 42, 21, 8, 182, 1, 236, 42, 180, 0, 128, 27, 46, 28, 122, 4, 126]
abbrev dktX5_price_2 : List UInt8 := dkwX5_price_2 ++ dktX5_price_3
def dkwX5_price_1 : List UInt8 := [182, 1, 218, 154, 0, 7, 20, 0, 205, 173, 20, 0, 205, 55, 4, 10, 55, 6, 42, 3, 182, 1, 233]
abbrev dktX5_price_1 : List UInt8 := dkwX5_price_1 ++ dktX5_price_2
def dkwX5_price_0 : List UInt8 := [42, 182, 1, 196, 27, 28, 184, 1, 230, 153, 0, 19, 29, 3, 6, 184, 0, 185, 153, 0, 10, 42]
abbrev dktX5_price_0 : List UInt8 := dkwX5_price_0 ++ dktX5_price_1
theorem dksX5_price_0 : cX5_price.data.toList.drop 0 = dktX5_price_0 := by decide +kernel
theorem dksX5_price_1 : cX5_price.data.toList.drop 22 = dktX5_price_1 := dk_seg dksX5_price_0 22 rfl rfl
theorem dksX5_price_2 : cX5_price.data.toList.drop 45 = dktX5_price_2 := dk_seg dksX5_price_1 23 rfl rfl
theorem dksX5_price_3 : cX5_price.data.toList.drop 68 = dktX5_price_3 := dk_seg dksX5_price_2 23 rfl rfl
theorem dksX5_price_4 : cX5_price.data.toList.drop 92 = dktX5_price_4 := dk_seg dksX5_price_3 24 rfl rfl
theorem dksX5_price_5 : cX5_price.data.toList.drop 115 = dktX5_price_5 := dk_seg dksX5_price_4 23 rfl rfl
theorem dksX5_price_6 : cX5_price.data.toList.drop 139 = dktX5_price_6 := dk_seg dksX5_price_5 24 rfl rfl
theorem dksX5_price_7 : cX5_price.data.toList.drop 163 = dktX5_price_7 := dk_seg dksX5_price_6 24 rfl rfl
theorem dksX5_price_8 : cX5_price.data.toList.drop 186 = dktX5_price_8 := dk_seg dksX5_price_7 23 rfl rfl
theorem dX5_price_0 : decode cX5_price 0 = .ok (.aload_n 0, 1) := dk_42 (dk_at dksX5_price_0 0 rfl rfl)
theorem dX5_price_1 : decode cX5_price 1 = .ok (.invokevirtual 452, 3) := dk_182 1 196 (dk_at dksX5_price_0 1 rfl rfl)
theorem dX5_price_4 : decode cX5_price 4 = .ok (.iload_n 1, 1) := dk_27 (dk_at dksX5_price_0 4 rfl rfl)
theorem dX5_price_5 : decode cX5_price 5 = .ok (.iload_n 2, 1) := dk_28 (dk_at dksX5_price_0 5 rfl rfl)
theorem dX5_price_6 : decode cX5_price 6 = .ok (.invokestatic 486, 3) := dk_184 1 230 (dk_at dksX5_price_0 6 rfl rfl)
theorem dX5_price_9 : decode cX5_price 9 = .ok (.ifCond .eq 19, 3) := dk_153 0 19 (dk_at dksX5_price_0 9 rfl rfl)
theorem dX5_price_12 : decode cX5_price 12 = .ok (.iload_n 3, 1) := dk_29 (dk_at dksX5_price_0 12 rfl rfl)
theorem dX5_price_13 : decode cX5_price 13 = .ok (.iconst 0, 1) := dk_3 (dk_at dksX5_price_0 13 rfl rfl)
theorem dX5_price_14 : decode cX5_price 14 = .ok (.iconst 3, 1) := dk_6 (dk_at dksX5_price_0 14 rfl rfl)
theorem dX5_price_15 : decode cX5_price 15 = .ok (.invokestatic 185, 3) := dk_184 0 185 (dk_at dksX5_price_0 15 rfl rfl)
theorem dX5_price_18 : decode cX5_price 18 = .ok (.ifCond .eq 10, 3) := dk_153 0 10 (dk_at dksX5_price_0 18 rfl rfl)
theorem dX5_price_21 : decode cX5_price 21 = .ok (.aload_n 0, 1) := dk_42 (dk_at dksX5_price_0 21 rfl rfl)
theorem dX5_price_22 : decode cX5_price 22 = .ok (.invokevirtual 474, 3) := dk_182 1 218 (dk_at dksX5_price_1 0 rfl rfl)
theorem dX5_price_25 : decode cX5_price 25 = .ok (.ifCond .ne 7, 3) := dk_154 0 7 (dk_at dksX5_price_1 3 rfl rfl)
theorem dX5_price_28 : decode cX5_price 28 = .ok (.ldc2_w 205, 3) := dk_20 0 205 (dk_at dksX5_price_1 6 rfl rfl)
theorem dX5_price_31 : decode cX5_price 31 = .ok (.lreturn, 1) := dk_173 (dk_at dksX5_price_1 9 rfl rfl)
theorem dX5_price_32 : decode cX5_price 32 = .ok (.ldc2_w 205, 3) := dk_20 0 205 (dk_at dksX5_price_1 10 rfl rfl)
theorem dX5_price_35 : decode cX5_price 35 = .ok (.lstore 4, 2) := dk_55 4 (dk_at dksX5_price_1 13 rfl rfl)
theorem dX5_price_37 : decode cX5_price 37 = .ok (.lconst 1, 1) := dk_10 (dk_at dksX5_price_1 15 rfl rfl)
theorem dX5_price_38 : decode cX5_price 38 = .ok (.lstore 6, 2) := dk_55 6 (dk_at dksX5_price_1 16 rfl rfl)
theorem dX5_price_40 : decode cX5_price 40 = .ok (.aload_n 0, 1) := dk_42 (dk_at dksX5_price_1 18 rfl rfl)
theorem dX5_price_41 : decode cX5_price 41 = .ok (.iconst 0, 1) := dk_3 (dk_at dksX5_price_1 19 rfl rfl)
theorem dX5_price_42 : decode cX5_price 42 = .ok (.invokevirtual 489, 3) := dk_182 1 233 (dk_at dksX5_price_1 20 rfl rfl)
theorem dX5_price_45 : decode cX5_price 45 = .ok (.istore 8, 2) := dk_54 8 (dk_at dksX5_price_2 0 rfl rfl)
theorem dX5_price_47 : decode cX5_price 47 = .ok (.iload 8, 2) := dk_21 8 (dk_at dksX5_price_2 2 rfl rfl)
theorem dX5_price_49 : decode cX5_price 49 = .ok (.ifCond .lt 119, 3) := dk_155 0 119 (dk_at dksX5_price_2 4 rfl rfl)
theorem dX5_price_52 : decode cX5_price 52 = .ok (.aload_n 0, 1) := dk_42 (dk_at dksX5_price_2 7 rfl rfl)
theorem dX5_price_53 : decode cX5_price 53 = .ok (.iload 8, 2) := dk_21 8 (dk_at dksX5_price_2 8 rfl rfl)
theorem dX5_price_55 : decode cX5_price 55 = .ok (.invokevirtual 492, 3) := dk_182 1 236 (dk_at dksX5_price_2 10 rfl rfl)
theorem dX5_price_58 : decode cX5_price 58 = .ok (.aload_n 0, 1) := dk_42 (dk_at dksX5_price_2 13 rfl rfl)
theorem dX5_price_59 : decode cX5_price 59 = .ok (.getfield 128, 3) := dk_180 0 128 (dk_at dksX5_price_2 14 rfl rfl)
theorem dX5_price_62 : decode cX5_price 62 = .ok (.iload_n 1, 1) := dk_27 (dk_at dksX5_price_2 17 rfl rfl)
theorem dX5_price_63 : decode cX5_price 63 = .ok (.iaload, 1) := dk_46 (dk_at dksX5_price_2 18 rfl rfl)
theorem dX5_price_64 : decode cX5_price 64 = .ok (.iload_n 2, 1) := dk_28 (dk_at dksX5_price_2 19 rfl rfl)
theorem dX5_price_65 : decode cX5_price 65 = .ok (.ishr, 1) := dk_122 (dk_at dksX5_price_2 20 rfl rfl)
theorem dX5_price_66 : decode cX5_price 66 = .ok (.iconst 1, 1) := dk_4 (dk_at dksX5_price_2 21 rfl rfl)
theorem dX5_price_67 : decode cX5_price 67 = .ok (.iand, 1) := dk_126 (dk_at dksX5_price_2 22 rfl rfl)
theorem dX5_price_68 : decode cX5_price 68 = .ok (.ifCond .ne 6, 3) := dk_154 0 6 (dk_at dksX5_price_3 0 rfl rfl)
theorem dX5_price_71 : decode cX5_price 71 = .ok (.goto 84, 3) := dk_167 0 84 (dk_at dksX5_price_3 3 rfl rfl)
theorem dX5_price_74 : decode cX5_price 74 = .ok (.aload_n 0, 1) := dk_42 (dk_at dksX5_price_3 6 rfl rfl)
theorem dX5_price_75 : decode cX5_price 75 = .ok (.getfield 125, 3) := dk_180 0 125 (dk_at dksX5_price_3 7 rfl rfl)
theorem dX5_price_78 : decode cX5_price 78 = .ok (.iload_n 1, 1) := dk_27 (dk_at dksX5_price_3 10 rfl rfl)
theorem dX5_price_79 : decode cX5_price 79 = .ok (.laload, 1) := dk_47 (dk_at dksX5_price_3 11 rfl rfl)
theorem dX5_price_80 : decode cX5_price 80 = .ok (.lstore 9, 2) := dk_55 9 (dk_at dksX5_price_3 12 rfl rfl)
theorem dX5_price_82 : decode cX5_price 82 = .ok (.aload_n 0, 1) := dk_42 (dk_at dksX5_price_3 14 rfl rfl)
theorem dX5_price_83 : decode cX5_price 83 = .ok (.iload_n 1, 1) := dk_27 (dk_at dksX5_price_3 15 rfl rfl)
theorem dX5_price_84 : decode cX5_price 84 = .ok (.invokevirtual 495, 3) := dk_182 1 239 (dk_at dksX5_price_3 16 rfl rfl)
theorem dX5_price_87 : decode cX5_price 87 = .ok (.lstore 11, 2) := dk_55 11 (dk_at dksX5_price_3 19 rfl rfl)
theorem dX5_price_89 : decode cX5_price 89 = .ok (.lload 4, 2) := dk_22 4 (dk_at dksX5_price_3 21 rfl rfl)
theorem dX5_price_91 : decode cX5_price 91 = .ok (.lconst 0, 1) := dk_9 (dk_at dksX5_price_3 23 rfl rfl)
theorem dX5_price_92 : decode cX5_price 92 = .ok (.lcmp, 1) := dk_148 (dk_at dksX5_price_4 0 rfl rfl)
theorem dX5_price_93 : decode cX5_price 93 = .ok (.ifCond .lt 39, 3) := dk_155 0 39 (dk_at dksX5_price_4 1 rfl rfl)
theorem dX5_price_96 : decode cX5_price 96 = .ok (.iload_n 3, 1) := dk_29 (dk_at dksX5_price_4 4 rfl rfl)
theorem dX5_price_97 : decode cX5_price 97 = .ok (.iconst 2, 1) := dk_5 (dk_at dksX5_price_4 5 rfl rfl)
theorem dX5_price_98 : decode cX5_price 98 = .ok (.if_icmp .ge 20, 3) := dk_162 0 20 (dk_at dksX5_price_4 6 rfl rfl)
theorem dX5_price_101 : decode cX5_price 101 = .ok (.lload 9, 2) := dk_22 9 (dk_at dksX5_price_4 9 rfl rfl)
theorem dX5_price_103 : decode cX5_price 103 = .ok (.lload 11, 2) := dk_22 11 (dk_at dksX5_price_4 11 rfl rfl)
theorem dX5_price_105 : decode cX5_price 105 = .ok (.lload 4, 2) := dk_22 4 (dk_at dksX5_price_4 13 rfl rfl)
theorem dX5_price_107 : decode cX5_price 107 = .ok (.lload 6, 2) := dk_22 6 (dk_at dksX5_price_4 15 rfl rfl)
theorem dX5_price_109 : decode cX5_price 109 = .ok (.invokestatic 498, 3) := dk_184 1 242 (dk_at dksX5_price_4 17 rfl rfl)
theorem dX5_price_112 : decode cX5_price 112 = .ok (.ifCond .eq 24, 3) := dk_153 0 24 (dk_at dksX5_price_4 20 rfl rfl)
theorem dX5_price_115 : decode cX5_price 115 = .ok (.goto 17, 3) := dk_167 0 17 (dk_at dksX5_price_5 0 rfl rfl)
theorem dX5_price_118 : decode cX5_price 118 = .ok (.lload 4, 2) := dk_22 4 (dk_at dksX5_price_5 3 rfl rfl)
theorem dX5_price_120 : decode cX5_price 120 = .ok (.lload 6, 2) := dk_22 6 (dk_at dksX5_price_5 5 rfl rfl)
theorem dX5_price_122 : decode cX5_price 122 = .ok (.lload 9, 2) := dk_22 9 (dk_at dksX5_price_5 7 rfl rfl)
theorem dX5_price_124 : decode cX5_price 124 = .ok (.lload 11, 2) := dk_22 11 (dk_at dksX5_price_5 9 rfl rfl)
theorem dX5_price_126 : decode cX5_price 126 = .ok (.invokestatic 498, 3) := dk_184 1 242 (dk_at dksX5_price_5 11 rfl rfl)
theorem dX5_price_129 : decode cX5_price 129 = .ok (.ifCond .eq 7, 3) := dk_153 0 7 (dk_at dksX5_price_5 14 rfl rfl)
theorem dX5_price_132 : decode cX5_price 132 = .ok (.iconst 1, 1) := dk_4 (dk_at dksX5_price_5 17 rfl rfl)
theorem dX5_price_133 : decode cX5_price 133 = .ok (.goto 4, 3) := dk_167 0 4 (dk_at dksX5_price_5 18 rfl rfl)
theorem dX5_price_136 : decode cX5_price 136 = .ok (.iconst 0, 1) := dk_3 (dk_at dksX5_price_5 21 rfl rfl)
theorem dX5_price_137 : decode cX5_price 137 = .ok (.istore 13, 2) := dk_54 13 (dk_at dksX5_price_5 22 rfl rfl)
theorem dX5_price_139 : decode cX5_price 139 = .ok (.iload 13, 2) := dk_21 13 (dk_at dksX5_price_6 0 rfl rfl)
theorem dX5_price_141 : decode cX5_price 141 = .ok (.ifCond .ne 6, 3) := dk_154 0 6 (dk_at dksX5_price_6 2 rfl rfl)
theorem dX5_price_144 : decode cX5_price 144 = .ok (.goto 11, 3) := dk_167 0 11 (dk_at dksX5_price_6 5 rfl rfl)
theorem dX5_price_147 : decode cX5_price 147 = .ok (.lload 9, 2) := dk_22 9 (dk_at dksX5_price_6 8 rfl rfl)
theorem dX5_price_149 : decode cX5_price 149 = .ok (.lstore 4, 2) := dk_55 4 (dk_at dksX5_price_6 10 rfl rfl)
theorem dX5_price_151 : decode cX5_price 151 = .ok (.lload 11, 2) := dk_22 11 (dk_at dksX5_price_6 12 rfl rfl)
theorem dX5_price_153 : decode cX5_price 153 = .ok (.lstore 6, 2) := dk_55 6 (dk_at dksX5_price_6 14 rfl rfl)
theorem dX5_price_155 : decode cX5_price 155 = .ok (.aload_n 0, 1) := dk_42 (dk_at dksX5_price_6 16 rfl rfl)
theorem dX5_price_156 : decode cX5_price 156 = .ok (.iload 8, 2) := dk_21 8 (dk_at dksX5_price_6 17 rfl rfl)
theorem dX5_price_158 : decode cX5_price 158 = .ok (.iconst 1, 1) := dk_4 (dk_at dksX5_price_6 19 rfl rfl)
theorem dX5_price_159 : decode cX5_price 159 = .ok (.iadd, 1) := dk_96 (dk_at dksX5_price_6 20 rfl rfl)
theorem dX5_price_160 : decode cX5_price 160 = .ok (.invokevirtual 489, 3) := dk_182 1 233 (dk_at dksX5_price_6 21 rfl rfl)
theorem dX5_price_163 : decode cX5_price 163 = .ok (.istore 8, 2) := dk_54 8 (dk_at dksX5_price_7 0 rfl rfl)
theorem dX5_price_165 : decode cX5_price 165 = .ok (.goto (-118), 3) := dk_167 255 138 (dk_at dksX5_price_7 2 rfl rfl)
theorem dX5_price_168 : decode cX5_price 168 = .ok (.lload 4, 2) := dk_22 4 (dk_at dksX5_price_7 5 rfl rfl)
theorem dX5_price_170 : decode cX5_price 170 = .ok (.lconst 0, 1) := dk_9 (dk_at dksX5_price_7 7 rfl rfl)
theorem dX5_price_171 : decode cX5_price 171 = .ok (.lcmp, 1) := dk_148 (dk_at dksX5_price_7 8 rfl rfl)
theorem dX5_price_172 : decode cX5_price 172 = .ok (.ifCond .ge 7, 3) := dk_156 0 7 (dk_at dksX5_price_7 9 rfl rfl)
theorem dX5_price_175 : decode cX5_price 175 = .ok (.ldc2_w 205, 3) := dk_20 0 205 (dk_at dksX5_price_7 12 rfl rfl)
theorem dX5_price_178 : decode cX5_price 178 = .ok (.lreturn, 1) := dk_173 (dk_at dksX5_price_7 15 rfl rfl)
theorem dX5_price_179 : decode cX5_price 179 = .ok (.lload 4, 2) := dk_22 4 (dk_at dksX5_price_7 16 rfl rfl)
theorem dX5_price_181 : decode cX5_price 181 = .ok (.lload 6, 2) := dk_22 6 (dk_at dksX5_price_7 18 rfl rfl)
theorem dX5_price_183 : decode cX5_price 183 = .ok (.invokestatic 502, 3) := dk_184 1 246 (dk_at dksX5_price_7 20 rfl rfl)
theorem dX5_price_186 : decode cX5_price 186 = .ok (.lstore 8, 2) := dk_55 8 (dk_at dksX5_price_8 0 rfl rfl)
theorem dX5_price_188 : decode cX5_price 188 = .ok (.iload_n 3, 1) := dk_29 (dk_at dksX5_price_8 2 rfl rfl)
theorem dX5_price_189 : decode cX5_price 189 = .ok (.iconst 2, 1) := dk_5 (dk_at dksX5_price_8 3 rfl rfl)
theorem dX5_price_190 : decode cX5_price 190 = .ok (.irem, 1) := dk_112 (dk_at dksX5_price_8 4 rfl rfl)
theorem dX5_price_191 : decode cX5_price 191 = .ok (.ifCond .ne 11, 3) := dk_154 0 11 (dk_at dksX5_price_8 5 rfl rfl)
theorem dX5_price_194 : decode cX5_price 194 = .ok (.lload 4, 2) := dk_22 4 (dk_at dksX5_price_8 8 rfl rfl)
theorem dX5_price_196 : decode cX5_price 196 = .ok (.lload 8, 2) := dk_22 8 (dk_at dksX5_price_8 10 rfl rfl)
theorem dX5_price_198 : decode cX5_price 198 = .ok (.ldiv, 1) := dk_109 (dk_at dksX5_price_8 12 rfl rfl)
theorem dX5_price_199 : decode cX5_price 199 = .ok (.goto 8, 3) := dk_167 0 8 (dk_at dksX5_price_8 13 rfl rfl)
theorem dX5_price_202 : decode cX5_price 202 = .ok (.lload 6, 2) := dk_22 6 (dk_at dksX5_price_8 16 rfl rfl)
theorem dX5_price_204 : decode cX5_price 204 = .ok (.lload 8, 2) := dk_22 8 (dk_at dksX5_price_8 18 rfl rfl)
theorem dX5_price_206 : decode cX5_price 206 = .ok (.ldiv, 1) := dk_109 (dk_at dksX5_price_8 20 rfl rfl)
theorem dX5_price_207 : decode cX5_price 207 = .ok (.lreturn, 1) := dk_173 (dk_at dksX5_price_8 21 rfl rfl)
abbrev cX5_outOf : ByteArray := prog_24_method_69_code
def yX5_outOf : MethodName := ⟨RX5, "outOf", "(I)J"⟩
def dkwX5_outOf_3 : List UInt8 := [46, 100, 133, 105, 101, 55, 4, 132, 6, 1, 167, 255, 186, 22, 4, 173]
abbrev dktX5_outOf_3 : List UInt8 := dkwX5_outOf_3 ++ []
def dkwX5_outOf_2 : List UInt8 := [180, 1, 221, 162, 0, 28, 22, 4, 32, 42, 180, 0, 119, 21, 6, 4, 96, 46, 42, 180, 0, 119, 21, 6]
abbrev dktX5_outOf_2 : List UInt8 := dkwX5_outOf_2 ++ dktX5_outOf_3
def dkwX5_outOf_1 : List UInt8 := [180, 0, 119, 21, 6, 46, 182, 1, 215, 97, 65, 32, 9, 148, 156, 0, 39, 21, 6, 4, 96, 42]
abbrev dktX5_outOf_1 : List UInt8 := dkwX5_outOf_1 ++ dktX5_outOf_2
def dkwX5_outOf_0 : List UInt8 := [9, 65, 9, 55, 4, 3, 54, 6, 21, 6, 42, 180, 1, 221, 162, 0, 67, 32, 42, 27, 3, 42]
abbrev dktX5_outOf_0 : List UInt8 := dkwX5_outOf_0 ++ dktX5_outOf_1
theorem dksX5_outOf_0 : cX5_outOf.data.toList.drop 0 = dktX5_outOf_0 := by decide +kernel
theorem dksX5_outOf_1 : cX5_outOf.data.toList.drop 22 = dktX5_outOf_1 := dk_seg dksX5_outOf_0 22 rfl rfl
theorem dksX5_outOf_2 : cX5_outOf.data.toList.drop 44 = dktX5_outOf_2 := dk_seg dksX5_outOf_1 22 rfl rfl
theorem dksX5_outOf_3 : cX5_outOf.data.toList.drop 68 = dktX5_outOf_3 := dk_seg dksX5_outOf_2 24 rfl rfl
theorem dX5_outOf_0 : decode cX5_outOf 0 = .ok (.lconst 0, 1) := dk_9 (dk_at dksX5_outOf_0 0 rfl rfl)
theorem dX5_outOf_1 : decode cX5_outOf 1 = .ok (.lstore_n 2, 1) := dk_65 (dk_at dksX5_outOf_0 1 rfl rfl)
theorem dX5_outOf_2 : decode cX5_outOf 2 = .ok (.lconst 0, 1) := dk_9 (dk_at dksX5_outOf_0 2 rfl rfl)
theorem dX5_outOf_3 : decode cX5_outOf 3 = .ok (.lstore 4, 2) := dk_55 4 (dk_at dksX5_outOf_0 3 rfl rfl)
theorem dX5_outOf_5 : decode cX5_outOf 5 = .ok (.iconst 0, 1) := dk_3 (dk_at dksX5_outOf_0 5 rfl rfl)
theorem dX5_outOf_6 : decode cX5_outOf 6 = .ok (.istore 6, 2) := dk_54 6 (dk_at dksX5_outOf_0 6 rfl rfl)
theorem dX5_outOf_8 : decode cX5_outOf 8 = .ok (.iload 6, 2) := dk_21 6 (dk_at dksX5_outOf_0 8 rfl rfl)
theorem dX5_outOf_10 : decode cX5_outOf 10 = .ok (.aload_n 0, 1) := dk_42 (dk_at dksX5_outOf_0 10 rfl rfl)
theorem dX5_outOf_11 : decode cX5_outOf 11 = .ok (.getfield 477, 3) := dk_180 1 221 (dk_at dksX5_outOf_0 11 rfl rfl)
theorem dX5_outOf_14 : decode cX5_outOf 14 = .ok (.if_icmp .ge 67, 3) := dk_162 0 67 (dk_at dksX5_outOf_0 14 rfl rfl)
theorem dX5_outOf_17 : decode cX5_outOf 17 = .ok (.lload_n 2, 1) := dk_32 (dk_at dksX5_outOf_0 17 rfl rfl)
theorem dX5_outOf_18 : decode cX5_outOf 18 = .ok (.aload_n 0, 1) := dk_42 (dk_at dksX5_outOf_0 18 rfl rfl)
theorem dX5_outOf_19 : decode cX5_outOf 19 = .ok (.iload_n 1, 1) := dk_27 (dk_at dksX5_outOf_0 19 rfl rfl)
theorem dX5_outOf_20 : decode cX5_outOf 20 = .ok (.iconst 0, 1) := dk_3 (dk_at dksX5_outOf_0 20 rfl rfl)
theorem dX5_outOf_21 : decode cX5_outOf 21 = .ok (.aload_n 0, 1) := dk_42 (dk_at dksX5_outOf_0 21 rfl rfl)
theorem dX5_outOf_22 : decode cX5_outOf 22 = .ok (.getfield 119, 3) := dk_180 0 119 (dk_at dksX5_outOf_1 0 rfl rfl)
theorem dX5_outOf_25 : decode cX5_outOf 25 = .ok (.iload 6, 2) := dk_21 6 (dk_at dksX5_outOf_1 3 rfl rfl)
theorem dX5_outOf_27 : decode cX5_outOf 27 = .ok (.iaload, 1) := dk_46 (dk_at dksX5_outOf_1 5 rfl rfl)
theorem dX5_outOf_28 : decode cX5_outOf 28 = .ok (.invokevirtual 471, 3) := dk_182 1 215 (dk_at dksX5_outOf_1 6 rfl rfl)
theorem dX5_outOf_31 : decode cX5_outOf 31 = .ok (.ladd, 1) := dk_97 (dk_at dksX5_outOf_1 9 rfl rfl)
theorem dX5_outOf_32 : decode cX5_outOf 32 = .ok (.lstore_n 2, 1) := dk_65 (dk_at dksX5_outOf_1 10 rfl rfl)
theorem dX5_outOf_33 : decode cX5_outOf 33 = .ok (.lload_n 2, 1) := dk_32 (dk_at dksX5_outOf_1 11 rfl rfl)
theorem dX5_outOf_34 : decode cX5_outOf 34 = .ok (.lconst 0, 1) := dk_9 (dk_at dksX5_outOf_1 12 rfl rfl)
theorem dX5_outOf_35 : decode cX5_outOf 35 = .ok (.lcmp, 1) := dk_148 (dk_at dksX5_outOf_1 13 rfl rfl)
theorem dX5_outOf_36 : decode cX5_outOf 36 = .ok (.ifCond .ge 39, 3) := dk_156 0 39 (dk_at dksX5_outOf_1 14 rfl rfl)
theorem dX5_outOf_39 : decode cX5_outOf 39 = .ok (.iload 6, 2) := dk_21 6 (dk_at dksX5_outOf_1 17 rfl rfl)
theorem dX5_outOf_41 : decode cX5_outOf 41 = .ok (.iconst 1, 1) := dk_4 (dk_at dksX5_outOf_1 19 rfl rfl)
theorem dX5_outOf_42 : decode cX5_outOf 42 = .ok (.iadd, 1) := dk_96 (dk_at dksX5_outOf_1 20 rfl rfl)
theorem dX5_outOf_43 : decode cX5_outOf 43 = .ok (.aload_n 0, 1) := dk_42 (dk_at dksX5_outOf_1 21 rfl rfl)
theorem dX5_outOf_44 : decode cX5_outOf 44 = .ok (.getfield 477, 3) := dk_180 1 221 (dk_at dksX5_outOf_2 0 rfl rfl)
theorem dX5_outOf_47 : decode cX5_outOf 47 = .ok (.if_icmp .ge 28, 3) := dk_162 0 28 (dk_at dksX5_outOf_2 3 rfl rfl)
theorem dX5_outOf_50 : decode cX5_outOf 50 = .ok (.lload 4, 2) := dk_22 4 (dk_at dksX5_outOf_2 6 rfl rfl)
theorem dX5_outOf_52 : decode cX5_outOf 52 = .ok (.lload_n 2, 1) := dk_32 (dk_at dksX5_outOf_2 8 rfl rfl)
theorem dX5_outOf_53 : decode cX5_outOf 53 = .ok (.aload_n 0, 1) := dk_42 (dk_at dksX5_outOf_2 9 rfl rfl)
theorem dX5_outOf_54 : decode cX5_outOf 54 = .ok (.getfield 119, 3) := dk_180 0 119 (dk_at dksX5_outOf_2 10 rfl rfl)
theorem dX5_outOf_57 : decode cX5_outOf 57 = .ok (.iload 6, 2) := dk_21 6 (dk_at dksX5_outOf_2 13 rfl rfl)
theorem dX5_outOf_59 : decode cX5_outOf 59 = .ok (.iconst 1, 1) := dk_4 (dk_at dksX5_outOf_2 15 rfl rfl)
theorem dX5_outOf_60 : decode cX5_outOf 60 = .ok (.iadd, 1) := dk_96 (dk_at dksX5_outOf_2 16 rfl rfl)
theorem dX5_outOf_61 : decode cX5_outOf 61 = .ok (.iaload, 1) := dk_46 (dk_at dksX5_outOf_2 17 rfl rfl)
theorem dX5_outOf_62 : decode cX5_outOf 62 = .ok (.aload_n 0, 1) := dk_42 (dk_at dksX5_outOf_2 18 rfl rfl)
theorem dX5_outOf_63 : decode cX5_outOf 63 = .ok (.getfield 119, 3) := dk_180 0 119 (dk_at dksX5_outOf_2 19 rfl rfl)
theorem dX5_outOf_66 : decode cX5_outOf 66 = .ok (.iload 6, 2) := dk_21 6 (dk_at dksX5_outOf_2 22 rfl rfl)
theorem dX5_outOf_68 : decode cX5_outOf 68 = .ok (.iaload, 1) := dk_46 (dk_at dksX5_outOf_3 0 rfl rfl)
theorem dX5_outOf_69 : decode cX5_outOf 69 = .ok (.isub, 1) := dk_100 (dk_at dksX5_outOf_3 1 rfl rfl)
theorem dX5_outOf_70 : decode cX5_outOf 70 = .ok (.i2l, 1) := dk_133 (dk_at dksX5_outOf_3 2 rfl rfl)
theorem dX5_outOf_71 : decode cX5_outOf 71 = .ok (.lmul, 1) := dk_105 (dk_at dksX5_outOf_3 3 rfl rfl)
theorem dX5_outOf_72 : decode cX5_outOf 72 = .ok (.lsub, 1) := dk_101 (dk_at dksX5_outOf_3 4 rfl rfl)
theorem dX5_outOf_73 : decode cX5_outOf 73 = .ok (.lstore 4, 2) := dk_55 4 (dk_at dksX5_outOf_3 5 rfl rfl)
theorem dX5_outOf_75 : decode cX5_outOf 75 = .ok (.iinc 6 1, 3) := dk_132 6 1 (dk_at dksX5_outOf_3 7 rfl rfl)
theorem dX5_outOf_78 : decode cX5_outOf 78 = .ok (.goto (-70), 3) := dk_167 255 186 (dk_at dksX5_outOf_3 10 rfl rfl)
theorem dX5_outOf_81 : decode cX5_outOf 81 = .ok (.lload 4, 2) := dk_22 4 (dk_at dksX5_outOf_3 13 rfl rfl)
theorem dX5_outOf_83 : decode cX5_outOf 83 = .ok (.lreturn, 1) := dk_173 (dk_at dksX5_outOf_3 15 rfl rfl)
abbrev cX5_isLess : ByteArray := prog_24_method_68_code
def yX5_isLess : MethodName := ⟨RX5, "isLess", "(JJJJ)Z"⟩
def dkwX5_isLess_7 : List UInt8 := [55, 14, 21, 16, 154, 0, 7, 4, 167, 0, 4, 3, 54, 16, 167, 255, 96]
abbrev dktX5_isLess_7 : List UInt8 := dkwX5_isLess_7 ++ []
def dkwX5_isLess_6 : List UInt8 := [158, 0, 7, 4, 167, 0, 4, 3, 172, 22, 10, 55, 8, 22, 21, 55, 10, 22, 14, 55, 12, 22, 23]
abbrev dktX5_isLess_6 : List UInt8 := dkwX5_isLess_6 ++ dktX5_isLess_7
def dkwX5_isLess_5 : List UInt8 := [158, 0, 7, 4, 167, 0, 26, 3, 167, 0, 22, 22, 21, 9, 148, 154, 0, 14, 22, 23, 9, 148]
abbrev dktX5_isLess_5 : List UInt8 := dkwX5_isLess_5 ++ dktX5_isLess_6
def dkwX5_isLess_4 : List UInt8 := [22, 23, 9, 148, 154, 0, 50, 21, 16, 153, 0, 25, 22, 23, 9, 148, 154, 0, 14, 22, 21, 9, 148]
abbrev dktX5_isLess_4 : List UInt8 := dkwX5_isLess_4 ++ dktX5_isLess_5
def dkwX5_isLess_3 : List UInt8 := [3, 172, 22, 8, 22, 10, 113, 55, 21, 22, 12, 22, 14, 113, 55, 23, 22, 21, 9, 148, 153, 0, 10]
abbrev dktX5_isLess_3 : List UInt8 := dkwX5_isLess_3 ++ dktX5_isLess_4
def dkwX5_isLess_2 : List UInt8 := [148, 158, 0, 7, 4, 167, 0, 20, 3, 167, 0, 16, 22, 17, 22, 19, 148, 156, 0, 7, 4, 167, 0, 4]
abbrev dktX5_isLess_2 : List UInt8 := dkwX5_isLess_2 ++ dktX5_isLess_3
def dkwX5_isLess_1 : List UInt8 := [22, 12, 22, 14, 109, 55, 19, 22, 17, 22, 19, 148, 153, 0, 38, 21, 16, 153, 0, 19, 22, 17, 22, 19]
abbrev dktX5_isLess_1 : List UInt8 := dkwX5_isLess_1 ++ dktX5_isLess_2
def dkwX5_isLess_0 : List UInt8 := [30, 55, 8, 32, 55, 10, 22, 4, 55, 12, 22, 6, 55, 14, 3, 54, 16, 22, 8, 22, 10, 109, 55, 17]
abbrev dktX5_isLess_0 : List UInt8 := dkwX5_isLess_0 ++ dktX5_isLess_1
theorem dksX5_isLess_0 : cX5_isLess.data.toList.drop 0 = dktX5_isLess_0 := by decide +kernel
theorem dksX5_isLess_1 : cX5_isLess.data.toList.drop 24 = dktX5_isLess_1 := dk_seg dksX5_isLess_0 24 rfl rfl
theorem dksX5_isLess_2 : cX5_isLess.data.toList.drop 48 = dktX5_isLess_2 := dk_seg dksX5_isLess_1 24 rfl rfl
theorem dksX5_isLess_3 : cX5_isLess.data.toList.drop 72 = dktX5_isLess_3 := dk_seg dksX5_isLess_2 24 rfl rfl
theorem dksX5_isLess_4 : cX5_isLess.data.toList.drop 95 = dktX5_isLess_4 := dk_seg dksX5_isLess_3 23 rfl rfl
theorem dksX5_isLess_5 : cX5_isLess.data.toList.drop 118 = dktX5_isLess_5 := dk_seg dksX5_isLess_4 23 rfl rfl
theorem dksX5_isLess_6 : cX5_isLess.data.toList.drop 140 = dktX5_isLess_6 := dk_seg dksX5_isLess_5 22 rfl rfl
theorem dksX5_isLess_7 : cX5_isLess.data.toList.drop 163 = dktX5_isLess_7 := dk_seg dksX5_isLess_6 23 rfl rfl
theorem dX5_isLess_0 : decode cX5_isLess 0 = .ok (.lload_n 0, 1) := dk_30 (dk_at dksX5_isLess_0 0 rfl rfl)
theorem dX5_isLess_1 : decode cX5_isLess 1 = .ok (.lstore 8, 2) := dk_55 8 (dk_at dksX5_isLess_0 1 rfl rfl)
theorem dX5_isLess_3 : decode cX5_isLess 3 = .ok (.lload_n 2, 1) := dk_32 (dk_at dksX5_isLess_0 3 rfl rfl)
theorem dX5_isLess_4 : decode cX5_isLess 4 = .ok (.lstore 10, 2) := dk_55 10 (dk_at dksX5_isLess_0 4 rfl rfl)
theorem dX5_isLess_6 : decode cX5_isLess 6 = .ok (.lload 4, 2) := dk_22 4 (dk_at dksX5_isLess_0 6 rfl rfl)
theorem dX5_isLess_8 : decode cX5_isLess 8 = .ok (.lstore 12, 2) := dk_55 12 (dk_at dksX5_isLess_0 8 rfl rfl)
theorem dX5_isLess_10 : decode cX5_isLess 10 = .ok (.lload 6, 2) := dk_22 6 (dk_at dksX5_isLess_0 10 rfl rfl)
theorem dX5_isLess_12 : decode cX5_isLess 12 = .ok (.lstore 14, 2) := dk_55 14 (dk_at dksX5_isLess_0 12 rfl rfl)
theorem dX5_isLess_14 : decode cX5_isLess 14 = .ok (.iconst 0, 1) := dk_3 (dk_at dksX5_isLess_0 14 rfl rfl)
theorem dX5_isLess_15 : decode cX5_isLess 15 = .ok (.istore 16, 2) := dk_54 16 (dk_at dksX5_isLess_0 15 rfl rfl)
theorem dX5_isLess_17 : decode cX5_isLess 17 = .ok (.lload 8, 2) := dk_22 8 (dk_at dksX5_isLess_0 17 rfl rfl)
theorem dX5_isLess_19 : decode cX5_isLess 19 = .ok (.lload 10, 2) := dk_22 10 (dk_at dksX5_isLess_0 19 rfl rfl)
theorem dX5_isLess_21 : decode cX5_isLess 21 = .ok (.ldiv, 1) := dk_109 (dk_at dksX5_isLess_0 21 rfl rfl)
theorem dX5_isLess_22 : decode cX5_isLess 22 = .ok (.lstore 17, 2) := dk_55 17 (dk_at dksX5_isLess_0 22 rfl rfl)
theorem dX5_isLess_24 : decode cX5_isLess 24 = .ok (.lload 12, 2) := dk_22 12 (dk_at dksX5_isLess_1 0 rfl rfl)
theorem dX5_isLess_26 : decode cX5_isLess 26 = .ok (.lload 14, 2) := dk_22 14 (dk_at dksX5_isLess_1 2 rfl rfl)
theorem dX5_isLess_28 : decode cX5_isLess 28 = .ok (.ldiv, 1) := dk_109 (dk_at dksX5_isLess_1 4 rfl rfl)
theorem dX5_isLess_29 : decode cX5_isLess 29 = .ok (.lstore 19, 2) := dk_55 19 (dk_at dksX5_isLess_1 5 rfl rfl)
theorem dX5_isLess_31 : decode cX5_isLess 31 = .ok (.lload 17, 2) := dk_22 17 (dk_at dksX5_isLess_1 7 rfl rfl)
theorem dX5_isLess_33 : decode cX5_isLess 33 = .ok (.lload 19, 2) := dk_22 19 (dk_at dksX5_isLess_1 9 rfl rfl)
theorem dX5_isLess_35 : decode cX5_isLess 35 = .ok (.lcmp, 1) := dk_148 (dk_at dksX5_isLess_1 11 rfl rfl)
theorem dX5_isLess_36 : decode cX5_isLess 36 = .ok (.ifCond .eq 38, 3) := dk_153 0 38 (dk_at dksX5_isLess_1 12 rfl rfl)
theorem dX5_isLess_39 : decode cX5_isLess 39 = .ok (.iload 16, 2) := dk_21 16 (dk_at dksX5_isLess_1 15 rfl rfl)
theorem dX5_isLess_41 : decode cX5_isLess 41 = .ok (.ifCond .eq 19, 3) := dk_153 0 19 (dk_at dksX5_isLess_1 17 rfl rfl)
theorem dX5_isLess_44 : decode cX5_isLess 44 = .ok (.lload 17, 2) := dk_22 17 (dk_at dksX5_isLess_1 20 rfl rfl)
theorem dX5_isLess_46 : decode cX5_isLess 46 = .ok (.lload 19, 2) := dk_22 19 (dk_at dksX5_isLess_1 22 rfl rfl)
theorem dX5_isLess_48 : decode cX5_isLess 48 = .ok (.lcmp, 1) := dk_148 (dk_at dksX5_isLess_2 0 rfl rfl)
theorem dX5_isLess_49 : decode cX5_isLess 49 = .ok (.ifCond .le 7, 3) := dk_158 0 7 (dk_at dksX5_isLess_2 1 rfl rfl)
theorem dX5_isLess_52 : decode cX5_isLess 52 = .ok (.iconst 1, 1) := dk_4 (dk_at dksX5_isLess_2 4 rfl rfl)
theorem dX5_isLess_53 : decode cX5_isLess 53 = .ok (.goto 20, 3) := dk_167 0 20 (dk_at dksX5_isLess_2 5 rfl rfl)
theorem dX5_isLess_56 : decode cX5_isLess 56 = .ok (.iconst 0, 1) := dk_3 (dk_at dksX5_isLess_2 8 rfl rfl)
theorem dX5_isLess_57 : decode cX5_isLess 57 = .ok (.goto 16, 3) := dk_167 0 16 (dk_at dksX5_isLess_2 9 rfl rfl)
theorem dX5_isLess_60 : decode cX5_isLess 60 = .ok (.lload 17, 2) := dk_22 17 (dk_at dksX5_isLess_2 12 rfl rfl)
theorem dX5_isLess_62 : decode cX5_isLess 62 = .ok (.lload 19, 2) := dk_22 19 (dk_at dksX5_isLess_2 14 rfl rfl)
theorem dX5_isLess_64 : decode cX5_isLess 64 = .ok (.lcmp, 1) := dk_148 (dk_at dksX5_isLess_2 16 rfl rfl)
theorem dX5_isLess_65 : decode cX5_isLess 65 = .ok (.ifCond .ge 7, 3) := dk_156 0 7 (dk_at dksX5_isLess_2 17 rfl rfl)
theorem dX5_isLess_68 : decode cX5_isLess 68 = .ok (.iconst 1, 1) := dk_4 (dk_at dksX5_isLess_2 20 rfl rfl)
theorem dX5_isLess_69 : decode cX5_isLess 69 = .ok (.goto 4, 3) := dk_167 0 4 (dk_at dksX5_isLess_2 21 rfl rfl)
theorem dX5_isLess_72 : decode cX5_isLess 72 = .ok (.iconst 0, 1) := dk_3 (dk_at dksX5_isLess_3 0 rfl rfl)
theorem dX5_isLess_73 : decode cX5_isLess 73 = .ok (.ireturn, 1) := dk_172 (dk_at dksX5_isLess_3 1 rfl rfl)
theorem dX5_isLess_74 : decode cX5_isLess 74 = .ok (.lload 8, 2) := dk_22 8 (dk_at dksX5_isLess_3 2 rfl rfl)
theorem dX5_isLess_76 : decode cX5_isLess 76 = .ok (.lload 10, 2) := dk_22 10 (dk_at dksX5_isLess_3 4 rfl rfl)
theorem dX5_isLess_78 : decode cX5_isLess 78 = .ok (.lrem, 1) := dk_113 (dk_at dksX5_isLess_3 6 rfl rfl)
theorem dX5_isLess_79 : decode cX5_isLess 79 = .ok (.lstore 21, 2) := dk_55 21 (dk_at dksX5_isLess_3 7 rfl rfl)
theorem dX5_isLess_81 : decode cX5_isLess 81 = .ok (.lload 12, 2) := dk_22 12 (dk_at dksX5_isLess_3 9 rfl rfl)
theorem dX5_isLess_83 : decode cX5_isLess 83 = .ok (.lload 14, 2) := dk_22 14 (dk_at dksX5_isLess_3 11 rfl rfl)
theorem dX5_isLess_85 : decode cX5_isLess 85 = .ok (.lrem, 1) := dk_113 (dk_at dksX5_isLess_3 13 rfl rfl)
theorem dX5_isLess_86 : decode cX5_isLess 86 = .ok (.lstore 23, 2) := dk_55 23 (dk_at dksX5_isLess_3 14 rfl rfl)
theorem dX5_isLess_88 : decode cX5_isLess 88 = .ok (.lload 21, 2) := dk_22 21 (dk_at dksX5_isLess_3 16 rfl rfl)
theorem dX5_isLess_90 : decode cX5_isLess 90 = .ok (.lconst 0, 1) := dk_9 (dk_at dksX5_isLess_3 18 rfl rfl)
theorem dX5_isLess_91 : decode cX5_isLess 91 = .ok (.lcmp, 1) := dk_148 (dk_at dksX5_isLess_3 19 rfl rfl)
theorem dX5_isLess_92 : decode cX5_isLess 92 = .ok (.ifCond .eq 10, 3) := dk_153 0 10 (dk_at dksX5_isLess_3 20 rfl rfl)
theorem dX5_isLess_95 : decode cX5_isLess 95 = .ok (.lload 23, 2) := dk_22 23 (dk_at dksX5_isLess_4 0 rfl rfl)
theorem dX5_isLess_97 : decode cX5_isLess 97 = .ok (.lconst 0, 1) := dk_9 (dk_at dksX5_isLess_4 2 rfl rfl)
theorem dX5_isLess_98 : decode cX5_isLess 98 = .ok (.lcmp, 1) := dk_148 (dk_at dksX5_isLess_4 3 rfl rfl)
theorem dX5_isLess_99 : decode cX5_isLess 99 = .ok (.ifCond .ne 50, 3) := dk_154 0 50 (dk_at dksX5_isLess_4 4 rfl rfl)
theorem dX5_isLess_102 : decode cX5_isLess 102 = .ok (.iload 16, 2) := dk_21 16 (dk_at dksX5_isLess_4 7 rfl rfl)
theorem dX5_isLess_104 : decode cX5_isLess 104 = .ok (.ifCond .eq 25, 3) := dk_153 0 25 (dk_at dksX5_isLess_4 9 rfl rfl)
theorem dX5_isLess_107 : decode cX5_isLess 107 = .ok (.lload 23, 2) := dk_22 23 (dk_at dksX5_isLess_4 12 rfl rfl)
theorem dX5_isLess_109 : decode cX5_isLess 109 = .ok (.lconst 0, 1) := dk_9 (dk_at dksX5_isLess_4 14 rfl rfl)
theorem dX5_isLess_110 : decode cX5_isLess 110 = .ok (.lcmp, 1) := dk_148 (dk_at dksX5_isLess_4 15 rfl rfl)
theorem dX5_isLess_111 : decode cX5_isLess 111 = .ok (.ifCond .ne 14, 3) := dk_154 0 14 (dk_at dksX5_isLess_4 16 rfl rfl)
theorem dX5_isLess_114 : decode cX5_isLess 114 = .ok (.lload 21, 2) := dk_22 21 (dk_at dksX5_isLess_4 19 rfl rfl)
theorem dX5_isLess_116 : decode cX5_isLess 116 = .ok (.lconst 0, 1) := dk_9 (dk_at dksX5_isLess_4 21 rfl rfl)
theorem dX5_isLess_117 : decode cX5_isLess 117 = .ok (.lcmp, 1) := dk_148 (dk_at dksX5_isLess_4 22 rfl rfl)
theorem dX5_isLess_118 : decode cX5_isLess 118 = .ok (.ifCond .le 7, 3) := dk_158 0 7 (dk_at dksX5_isLess_5 0 rfl rfl)
theorem dX5_isLess_121 : decode cX5_isLess 121 = .ok (.iconst 1, 1) := dk_4 (dk_at dksX5_isLess_5 3 rfl rfl)
theorem dX5_isLess_122 : decode cX5_isLess 122 = .ok (.goto 26, 3) := dk_167 0 26 (dk_at dksX5_isLess_5 4 rfl rfl)
theorem dX5_isLess_125 : decode cX5_isLess 125 = .ok (.iconst 0, 1) := dk_3 (dk_at dksX5_isLess_5 7 rfl rfl)
theorem dX5_isLess_126 : decode cX5_isLess 126 = .ok (.goto 22, 3) := dk_167 0 22 (dk_at dksX5_isLess_5 8 rfl rfl)
theorem dX5_isLess_129 : decode cX5_isLess 129 = .ok (.lload 21, 2) := dk_22 21 (dk_at dksX5_isLess_5 11 rfl rfl)
theorem dX5_isLess_131 : decode cX5_isLess 131 = .ok (.lconst 0, 1) := dk_9 (dk_at dksX5_isLess_5 13 rfl rfl)
theorem dX5_isLess_132 : decode cX5_isLess 132 = .ok (.lcmp, 1) := dk_148 (dk_at dksX5_isLess_5 14 rfl rfl)
theorem dX5_isLess_133 : decode cX5_isLess 133 = .ok (.ifCond .ne 14, 3) := dk_154 0 14 (dk_at dksX5_isLess_5 15 rfl rfl)
theorem dX5_isLess_136 : decode cX5_isLess 136 = .ok (.lload 23, 2) := dk_22 23 (dk_at dksX5_isLess_5 18 rfl rfl)
theorem dX5_isLess_138 : decode cX5_isLess 138 = .ok (.lconst 0, 1) := dk_9 (dk_at dksX5_isLess_5 20 rfl rfl)
theorem dX5_isLess_139 : decode cX5_isLess 139 = .ok (.lcmp, 1) := dk_148 (dk_at dksX5_isLess_5 21 rfl rfl)
theorem dX5_isLess_140 : decode cX5_isLess 140 = .ok (.ifCond .le 7, 3) := dk_158 0 7 (dk_at dksX5_isLess_6 0 rfl rfl)
theorem dX5_isLess_143 : decode cX5_isLess 143 = .ok (.iconst 1, 1) := dk_4 (dk_at dksX5_isLess_6 3 rfl rfl)
theorem dX5_isLess_144 : decode cX5_isLess 144 = .ok (.goto 4, 3) := dk_167 0 4 (dk_at dksX5_isLess_6 4 rfl rfl)
theorem dX5_isLess_147 : decode cX5_isLess 147 = .ok (.iconst 0, 1) := dk_3 (dk_at dksX5_isLess_6 7 rfl rfl)
theorem dX5_isLess_148 : decode cX5_isLess 148 = .ok (.ireturn, 1) := dk_172 (dk_at dksX5_isLess_6 8 rfl rfl)
theorem dX5_isLess_149 : decode cX5_isLess 149 = .ok (.lload 10, 2) := dk_22 10 (dk_at dksX5_isLess_6 9 rfl rfl)
theorem dX5_isLess_151 : decode cX5_isLess 151 = .ok (.lstore 8, 2) := dk_55 8 (dk_at dksX5_isLess_6 11 rfl rfl)
theorem dX5_isLess_153 : decode cX5_isLess 153 = .ok (.lload 21, 2) := dk_22 21 (dk_at dksX5_isLess_6 13 rfl rfl)
theorem dX5_isLess_155 : decode cX5_isLess 155 = .ok (.lstore 10, 2) := dk_55 10 (dk_at dksX5_isLess_6 15 rfl rfl)
theorem dX5_isLess_157 : decode cX5_isLess 157 = .ok (.lload 14, 2) := dk_22 14 (dk_at dksX5_isLess_6 17 rfl rfl)
theorem dX5_isLess_159 : decode cX5_isLess 159 = .ok (.lstore 12, 2) := dk_55 12 (dk_at dksX5_isLess_6 19 rfl rfl)
theorem dX5_isLess_161 : decode cX5_isLess 161 = .ok (.lload 23, 2) := dk_22 23 (dk_at dksX5_isLess_6 21 rfl rfl)
theorem dX5_isLess_163 : decode cX5_isLess 163 = .ok (.lstore 14, 2) := dk_55 14 (dk_at dksX5_isLess_7 0 rfl rfl)
theorem dX5_isLess_165 : decode cX5_isLess 165 = .ok (.iload 16, 2) := dk_21 16 (dk_at dksX5_isLess_7 2 rfl rfl)
theorem dX5_isLess_167 : decode cX5_isLess 167 = .ok (.ifCond .ne 7, 3) := dk_154 0 7 (dk_at dksX5_isLess_7 4 rfl rfl)
theorem dX5_isLess_170 : decode cX5_isLess 170 = .ok (.iconst 1, 1) := dk_4 (dk_at dksX5_isLess_7 7 rfl rfl)
theorem dX5_isLess_171 : decode cX5_isLess 171 = .ok (.goto 4, 3) := dk_167 0 4 (dk_at dksX5_isLess_7 8 rfl rfl)
theorem dX5_isLess_174 : decode cX5_isLess 174 = .ok (.iconst 0, 1) := dk_3 (dk_at dksX5_isLess_7 11 rfl rfl)
theorem dX5_isLess_175 : decode cX5_isLess 175 = .ok (.istore 16, 2) := dk_54 16 (dk_at dksX5_isLess_7 12 rfl rfl)
theorem dX5_isLess_177 : decode cX5_isLess 177 = .ok (.goto (-160), 3) := dk_167 255 96 (dk_at dksX5_isLess_7 14 rfl rfl)
abbrev cX5_divisor : ByteArray := prog_24_method_67_code
def yX5_divisor : MethodName := ⟨RX5, "divisor", "(JJ)J"⟩
def dkwX5_divisor_1 : List UInt8 := [22, 8, 55, 6, 167, 255, 234, 22, 4, 173]
abbrev dktX5_divisor_1 : List UInt8 := dkwX5_divisor_1 ++ []
def dkwX5_divisor_0 : List UInt8 := [30, 55, 4, 32, 55, 6, 22, 6, 9, 148, 158, 0, 21, 22, 4, 22, 6, 113, 55, 8, 22, 6, 55, 4]
abbrev dktX5_divisor_0 : List UInt8 := dkwX5_divisor_0 ++ dktX5_divisor_1
theorem dksX5_divisor_0 : cX5_divisor.data.toList.drop 0 = dktX5_divisor_0 := by decide +kernel
theorem dksX5_divisor_1 : cX5_divisor.data.toList.drop 24 = dktX5_divisor_1 := dk_seg dksX5_divisor_0 24 rfl rfl
theorem dX5_divisor_0 : decode cX5_divisor 0 = .ok (.lload_n 0, 1) := dk_30 (dk_at dksX5_divisor_0 0 rfl rfl)
theorem dX5_divisor_1 : decode cX5_divisor 1 = .ok (.lstore 4, 2) := dk_55 4 (dk_at dksX5_divisor_0 1 rfl rfl)
theorem dX5_divisor_3 : decode cX5_divisor 3 = .ok (.lload_n 2, 1) := dk_32 (dk_at dksX5_divisor_0 3 rfl rfl)
theorem dX5_divisor_4 : decode cX5_divisor 4 = .ok (.lstore 6, 2) := dk_55 6 (dk_at dksX5_divisor_0 4 rfl rfl)
theorem dX5_divisor_6 : decode cX5_divisor 6 = .ok (.lload 6, 2) := dk_22 6 (dk_at dksX5_divisor_0 6 rfl rfl)
theorem dX5_divisor_8 : decode cX5_divisor 8 = .ok (.lconst 0, 1) := dk_9 (dk_at dksX5_divisor_0 8 rfl rfl)
theorem dX5_divisor_9 : decode cX5_divisor 9 = .ok (.lcmp, 1) := dk_148 (dk_at dksX5_divisor_0 9 rfl rfl)
theorem dX5_divisor_10 : decode cX5_divisor 10 = .ok (.ifCond .le 21, 3) := dk_158 0 21 (dk_at dksX5_divisor_0 10 rfl rfl)
theorem dX5_divisor_13 : decode cX5_divisor 13 = .ok (.lload 4, 2) := dk_22 4 (dk_at dksX5_divisor_0 13 rfl rfl)
theorem dX5_divisor_15 : decode cX5_divisor 15 = .ok (.lload 6, 2) := dk_22 6 (dk_at dksX5_divisor_0 15 rfl rfl)
theorem dX5_divisor_17 : decode cX5_divisor 17 = .ok (.lrem, 1) := dk_113 (dk_at dksX5_divisor_0 17 rfl rfl)
theorem dX5_divisor_18 : decode cX5_divisor 18 = .ok (.lstore 8, 2) := dk_55 8 (dk_at dksX5_divisor_0 18 rfl rfl)
theorem dX5_divisor_20 : decode cX5_divisor 20 = .ok (.lload 6, 2) := dk_22 6 (dk_at dksX5_divisor_0 20 rfl rfl)
theorem dX5_divisor_22 : decode cX5_divisor 22 = .ok (.lstore 4, 2) := dk_55 4 (dk_at dksX5_divisor_0 22 rfl rfl)
theorem dX5_divisor_24 : decode cX5_divisor 24 = .ok (.lload 8, 2) := dk_22 8 (dk_at dksX5_divisor_1 0 rfl rfl)
theorem dX5_divisor_26 : decode cX5_divisor 26 = .ok (.lstore 6, 2) := dk_55 6 (dk_at dksX5_divisor_1 2 rfl rfl)
theorem dX5_divisor_28 : decode cX5_divisor 28 = .ok (.goto (-22), 3) := dk_167 255 234 (dk_at dksX5_divisor_1 4 rfl rfl)
theorem dX5_divisor_31 : decode cX5_divisor 31 = .ok (.lload 4, 2) := dk_22 4 (dk_at dksX5_divisor_1 7 rfl rfl)
theorem dX5_divisor_33 : decode cX5_divisor 33 = .ok (.lreturn, 1) := dk_173 (dk_at dksX5_divisor_1 9 rfl rfl)
abbrev cX5_loan : ByteArray := prog_24_method_72_code
def yX5_loan : MethodName := ⟨RX5, "loan", "()I"⟩
def dkwX5_loan_0 : List UInt8 := [42, 182, 1, 196, 42, 182, 1, 250, 172]
abbrev dktX5_loan_0 : List UInt8 := dkwX5_loan_0 ++ []
theorem dksX5_loan_0 : cX5_loan.data.toList.drop 0 = dktX5_loan_0 := by decide +kernel
theorem dX5_loan_0 : decode cX5_loan 0 = .ok (.aload_n 0, 1) := dk_42 (dk_at dksX5_loan_0 0 rfl rfl)
theorem dX5_loan_1 : decode cX5_loan 1 = .ok (.invokevirtual 452, 3) := dk_182 1 196 (dk_at dksX5_loan_0 1 rfl rfl)
theorem dX5_loan_4 : decode cX5_loan 4 = .ok (.aload_n 0, 1) := dk_42 (dk_at dksX5_loan_0 4 rfl rfl)
theorem dX5_loan_5 : decode cX5_loan 5 = .ok (.invokevirtual 506, 3) := dk_182 1 250 (dk_at dksX5_loan_0 5 rfl rfl)
theorem dX5_loan_8 : decode cX5_loan 8 = .ok (.ireturn, 1) := dk_172 (dk_at dksX5_loan_0 8 rfl rfl)
abbrev cX5_loanAtHand : ByteArray := prog_24_method_71_code
def yX5_loanAtHand : MethodName := ⟨RX5, "loanAtHand", "()I"⟩
def dkwX5_loanAtHand_7 : List UInt8 := [132, 1, 1, 167, 255, 212, 2, 172]
abbrev dktX5_loanAtHand_7 : List UInt8 := dkwX5_loanAtHand_7 ++ []
def dkwX5_loanAtHand_6 : List UInt8 := [27, 46, 28, 122, 4, 126, 4, 160, 0, 10, 16, 10, 27, 104, 28, 96, 172, 132, 2, 1, 167, 255, 226]
abbrev dktX5_loanAtHand_6 : List UInt8 := dkwX5_loanAtHand_6 ++ dktX5_loanAtHand_7
def dkwX5_loanAtHand_5 : List UInt8 := [60, 167, 255, 179, 3, 60, 27, 16, 8, 162, 0, 44, 3, 61, 28, 16, 8, 162, 0, 30, 42, 180, 0, 131]
abbrev dktX5_loanAtHand_5 : List UInt8 := dkwX5_loanAtHand_5 ++ dktX5_loanAtHand_6
def dkwX5_loanAtHand_4 : List UInt8 := [167, 0, 4, 3, 61, 132, 3, 1, 167, 255, 209, 28, 154, 0, 5, 2, 172, 42, 27, 4, 96, 182, 1, 233]
abbrev dktX5_loanAtHand_4 : List UInt8 := dkwX5_loanAtHand_4 ++ dktX5_loanAtHand_5
def dkwX5_loanAtHand_3 : List UInt8 := [42, 180, 0, 128, 29, 46, 126, 79, 28, 154, 0, 12, 42, 180, 0, 131, 29, 46, 153, 0, 7, 4]
abbrev dktX5_loanAtHand_3 : List UInt8 := dkwX5_loanAtHand_3 ++ dktX5_loanAtHand_4
def dkwX5_loanAtHand_2 : List UInt8 := [182, 1, 236, 3, 61, 3, 62, 29, 16, 8, 162, 0, 47, 42, 180, 0, 131, 29, 42, 180, 0, 131, 29, 46]
abbrev dktX5_loanAtHand_2 : List UInt8 := dkwX5_loanAtHand_2 ++ dktX5_loanAtHand_3
def dkwX5_loanAtHand_1 : List UInt8 := [17, 0, 255, 79, 132, 1, 1, 167, 255, 238, 42, 3, 182, 1, 233, 60, 27, 155, 0, 79, 42, 27]
abbrev dktX5_loanAtHand_1 : List UInt8 := dkwX5_loanAtHand_1 ++ dktX5_loanAtHand_2
def dkwX5_loanAtHand_0 : List UInt8 := [42, 182, 1, 218, 154, 0, 5, 2, 172, 3, 60, 27, 16, 8, 162, 0, 18, 42, 180, 0, 131, 27]
abbrev dktX5_loanAtHand_0 : List UInt8 := dkwX5_loanAtHand_0 ++ dktX5_loanAtHand_1
theorem dksX5_loanAtHand_0 : cX5_loanAtHand.data.toList.drop 0 = dktX5_loanAtHand_0 := by decide +kernel
theorem dksX5_loanAtHand_1 : cX5_loanAtHand.data.toList.drop 22 = dktX5_loanAtHand_1 := dk_seg dksX5_loanAtHand_0 22 rfl rfl
theorem dksX5_loanAtHand_2 : cX5_loanAtHand.data.toList.drop 44 = dktX5_loanAtHand_2 := dk_seg dksX5_loanAtHand_1 22 rfl rfl
theorem dksX5_loanAtHand_3 : cX5_loanAtHand.data.toList.drop 68 = dktX5_loanAtHand_3 := dk_seg dksX5_loanAtHand_2 24 rfl rfl
theorem dksX5_loanAtHand_4 : cX5_loanAtHand.data.toList.drop 90 = dktX5_loanAtHand_4 := dk_seg dksX5_loanAtHand_3 22 rfl rfl
theorem dksX5_loanAtHand_5 : cX5_loanAtHand.data.toList.drop 114 = dktX5_loanAtHand_5 := dk_seg dksX5_loanAtHand_4 24 rfl rfl
theorem dksX5_loanAtHand_6 : cX5_loanAtHand.data.toList.drop 138 = dktX5_loanAtHand_6 := dk_seg dksX5_loanAtHand_5 24 rfl rfl
theorem dksX5_loanAtHand_7 : cX5_loanAtHand.data.toList.drop 161 = dktX5_loanAtHand_7 := dk_seg dksX5_loanAtHand_6 23 rfl rfl
theorem dX5_loanAtHand_0 : decode cX5_loanAtHand 0 = .ok (.aload_n 0, 1) := dk_42 (dk_at dksX5_loanAtHand_0 0 rfl rfl)
theorem dX5_loanAtHand_1 : decode cX5_loanAtHand 1 = .ok (.invokevirtual 474, 3) := dk_182 1 218 (dk_at dksX5_loanAtHand_0 1 rfl rfl)
theorem dX5_loanAtHand_4 : decode cX5_loanAtHand 4 = .ok (.ifCond .ne 5, 3) := dk_154 0 5 (dk_at dksX5_loanAtHand_0 4 rfl rfl)
theorem dX5_loanAtHand_7 : decode cX5_loanAtHand 7 = .ok (.iconst (-1), 1) := dk_2 (dk_at dksX5_loanAtHand_0 7 rfl rfl)
theorem dX5_loanAtHand_8 : decode cX5_loanAtHand 8 = .ok (.ireturn, 1) := dk_172 (dk_at dksX5_loanAtHand_0 8 rfl rfl)
theorem dX5_loanAtHand_9 : decode cX5_loanAtHand 9 = .ok (.iconst 0, 1) := dk_3 (dk_at dksX5_loanAtHand_0 9 rfl rfl)
theorem dX5_loanAtHand_10 : decode cX5_loanAtHand 10 = .ok (.istore_n 1, 1) := dk_60 (dk_at dksX5_loanAtHand_0 10 rfl rfl)
theorem dX5_loanAtHand_11 : decode cX5_loanAtHand 11 = .ok (.iload_n 1, 1) := dk_27 (dk_at dksX5_loanAtHand_0 11 rfl rfl)
theorem dX5_loanAtHand_12 : decode cX5_loanAtHand 12 = .ok (.bipush 8, 2) := dk_16 8 (dk_at dksX5_loanAtHand_0 12 rfl rfl)
theorem dX5_loanAtHand_14 : decode cX5_loanAtHand 14 = .ok (.if_icmp .ge 18, 3) := dk_162 0 18 (dk_at dksX5_loanAtHand_0 14 rfl rfl)
theorem dX5_loanAtHand_17 : decode cX5_loanAtHand 17 = .ok (.aload_n 0, 1) := dk_42 (dk_at dksX5_loanAtHand_0 17 rfl rfl)
theorem dX5_loanAtHand_18 : decode cX5_loanAtHand 18 = .ok (.getfield 131, 3) := dk_180 0 131 (dk_at dksX5_loanAtHand_0 18 rfl rfl)
theorem dX5_loanAtHand_21 : decode cX5_loanAtHand 21 = .ok (.iload_n 1, 1) := dk_27 (dk_at dksX5_loanAtHand_0 21 rfl rfl)
theorem dX5_loanAtHand_22 : decode cX5_loanAtHand 22 = .ok (.sipush 255, 3) := dk_17 0 255 (dk_at dksX5_loanAtHand_1 0 rfl rfl)
theorem dX5_loanAtHand_25 : decode cX5_loanAtHand 25 = .ok (.iastore, 1) := dk_79 (dk_at dksX5_loanAtHand_1 3 rfl rfl)
theorem dX5_loanAtHand_26 : decode cX5_loanAtHand 26 = .ok (.iinc 1 1, 3) := dk_132 1 1 (dk_at dksX5_loanAtHand_1 4 rfl rfl)
theorem dX5_loanAtHand_29 : decode cX5_loanAtHand 29 = .ok (.goto (-18), 3) := dk_167 255 238 (dk_at dksX5_loanAtHand_1 7 rfl rfl)
theorem dX5_loanAtHand_32 : decode cX5_loanAtHand 32 = .ok (.aload_n 0, 1) := dk_42 (dk_at dksX5_loanAtHand_1 10 rfl rfl)
theorem dX5_loanAtHand_33 : decode cX5_loanAtHand 33 = .ok (.iconst 0, 1) := dk_3 (dk_at dksX5_loanAtHand_1 11 rfl rfl)
theorem dX5_loanAtHand_34 : decode cX5_loanAtHand 34 = .ok (.invokevirtual 489, 3) := dk_182 1 233 (dk_at dksX5_loanAtHand_1 12 rfl rfl)
theorem dX5_loanAtHand_37 : decode cX5_loanAtHand 37 = .ok (.istore_n 1, 1) := dk_60 (dk_at dksX5_loanAtHand_1 15 rfl rfl)
theorem dX5_loanAtHand_38 : decode cX5_loanAtHand 38 = .ok (.iload_n 1, 1) := dk_27 (dk_at dksX5_loanAtHand_1 16 rfl rfl)
theorem dX5_loanAtHand_39 : decode cX5_loanAtHand 39 = .ok (.ifCond .lt 79, 3) := dk_155 0 79 (dk_at dksX5_loanAtHand_1 17 rfl rfl)
theorem dX5_loanAtHand_42 : decode cX5_loanAtHand 42 = .ok (.aload_n 0, 1) := dk_42 (dk_at dksX5_loanAtHand_1 20 rfl rfl)
theorem dX5_loanAtHand_43 : decode cX5_loanAtHand 43 = .ok (.iload_n 1, 1) := dk_27 (dk_at dksX5_loanAtHand_1 21 rfl rfl)
theorem dX5_loanAtHand_44 : decode cX5_loanAtHand 44 = .ok (.invokevirtual 492, 3) := dk_182 1 236 (dk_at dksX5_loanAtHand_2 0 rfl rfl)
theorem dX5_loanAtHand_47 : decode cX5_loanAtHand 47 = .ok (.iconst 0, 1) := dk_3 (dk_at dksX5_loanAtHand_2 3 rfl rfl)
theorem dX5_loanAtHand_48 : decode cX5_loanAtHand 48 = .ok (.istore_n 2, 1) := dk_61 (dk_at dksX5_loanAtHand_2 4 rfl rfl)
theorem dX5_loanAtHand_49 : decode cX5_loanAtHand 49 = .ok (.iconst 0, 1) := dk_3 (dk_at dksX5_loanAtHand_2 5 rfl rfl)
theorem dX5_loanAtHand_50 : decode cX5_loanAtHand 50 = .ok (.istore_n 3, 1) := dk_62 (dk_at dksX5_loanAtHand_2 6 rfl rfl)
theorem dX5_loanAtHand_51 : decode cX5_loanAtHand 51 = .ok (.iload_n 3, 1) := dk_29 (dk_at dksX5_loanAtHand_2 7 rfl rfl)
theorem dX5_loanAtHand_52 : decode cX5_loanAtHand 52 = .ok (.bipush 8, 2) := dk_16 8 (dk_at dksX5_loanAtHand_2 8 rfl rfl)
theorem dX5_loanAtHand_54 : decode cX5_loanAtHand 54 = .ok (.if_icmp .ge 47, 3) := dk_162 0 47 (dk_at dksX5_loanAtHand_2 10 rfl rfl)
theorem dX5_loanAtHand_57 : decode cX5_loanAtHand 57 = .ok (.aload_n 0, 1) := dk_42 (dk_at dksX5_loanAtHand_2 13 rfl rfl)
theorem dX5_loanAtHand_58 : decode cX5_loanAtHand 58 = .ok (.getfield 131, 3) := dk_180 0 131 (dk_at dksX5_loanAtHand_2 14 rfl rfl)
theorem dX5_loanAtHand_61 : decode cX5_loanAtHand 61 = .ok (.iload_n 3, 1) := dk_29 (dk_at dksX5_loanAtHand_2 17 rfl rfl)
theorem dX5_loanAtHand_62 : decode cX5_loanAtHand 62 = .ok (.aload_n 0, 1) := dk_42 (dk_at dksX5_loanAtHand_2 18 rfl rfl)
theorem dX5_loanAtHand_63 : decode cX5_loanAtHand 63 = .ok (.getfield 131, 3) := dk_180 0 131 (dk_at dksX5_loanAtHand_2 19 rfl rfl)
theorem dX5_loanAtHand_66 : decode cX5_loanAtHand 66 = .ok (.iload_n 3, 1) := dk_29 (dk_at dksX5_loanAtHand_2 22 rfl rfl)
theorem dX5_loanAtHand_67 : decode cX5_loanAtHand 67 = .ok (.iaload, 1) := dk_46 (dk_at dksX5_loanAtHand_2 23 rfl rfl)
theorem dX5_loanAtHand_68 : decode cX5_loanAtHand 68 = .ok (.aload_n 0, 1) := dk_42 (dk_at dksX5_loanAtHand_3 0 rfl rfl)
theorem dX5_loanAtHand_69 : decode cX5_loanAtHand 69 = .ok (.getfield 128, 3) := dk_180 0 128 (dk_at dksX5_loanAtHand_3 1 rfl rfl)
theorem dX5_loanAtHand_72 : decode cX5_loanAtHand 72 = .ok (.iload_n 3, 1) := dk_29 (dk_at dksX5_loanAtHand_3 4 rfl rfl)
theorem dX5_loanAtHand_73 : decode cX5_loanAtHand 73 = .ok (.iaload, 1) := dk_46 (dk_at dksX5_loanAtHand_3 5 rfl rfl)
theorem dX5_loanAtHand_74 : decode cX5_loanAtHand 74 = .ok (.iand, 1) := dk_126 (dk_at dksX5_loanAtHand_3 6 rfl rfl)
theorem dX5_loanAtHand_75 : decode cX5_loanAtHand 75 = .ok (.iastore, 1) := dk_79 (dk_at dksX5_loanAtHand_3 7 rfl rfl)
theorem dX5_loanAtHand_76 : decode cX5_loanAtHand 76 = .ok (.iload_n 2, 1) := dk_28 (dk_at dksX5_loanAtHand_3 8 rfl rfl)
theorem dX5_loanAtHand_77 : decode cX5_loanAtHand 77 = .ok (.ifCond .ne 12, 3) := dk_154 0 12 (dk_at dksX5_loanAtHand_3 9 rfl rfl)
theorem dX5_loanAtHand_80 : decode cX5_loanAtHand 80 = .ok (.aload_n 0, 1) := dk_42 (dk_at dksX5_loanAtHand_3 12 rfl rfl)
theorem dX5_loanAtHand_81 : decode cX5_loanAtHand 81 = .ok (.getfield 131, 3) := dk_180 0 131 (dk_at dksX5_loanAtHand_3 13 rfl rfl)
theorem dX5_loanAtHand_84 : decode cX5_loanAtHand 84 = .ok (.iload_n 3, 1) := dk_29 (dk_at dksX5_loanAtHand_3 16 rfl rfl)
theorem dX5_loanAtHand_85 : decode cX5_loanAtHand 85 = .ok (.iaload, 1) := dk_46 (dk_at dksX5_loanAtHand_3 17 rfl rfl)
theorem dX5_loanAtHand_86 : decode cX5_loanAtHand 86 = .ok (.ifCond .eq 7, 3) := dk_153 0 7 (dk_at dksX5_loanAtHand_3 18 rfl rfl)
theorem dX5_loanAtHand_89 : decode cX5_loanAtHand 89 = .ok (.iconst 1, 1) := dk_4 (dk_at dksX5_loanAtHand_3 21 rfl rfl)
theorem dX5_loanAtHand_90 : decode cX5_loanAtHand 90 = .ok (.goto 4, 3) := dk_167 0 4 (dk_at dksX5_loanAtHand_4 0 rfl rfl)
theorem dX5_loanAtHand_93 : decode cX5_loanAtHand 93 = .ok (.iconst 0, 1) := dk_3 (dk_at dksX5_loanAtHand_4 3 rfl rfl)
theorem dX5_loanAtHand_94 : decode cX5_loanAtHand 94 = .ok (.istore_n 2, 1) := dk_61 (dk_at dksX5_loanAtHand_4 4 rfl rfl)
theorem dX5_loanAtHand_95 : decode cX5_loanAtHand 95 = .ok (.iinc 3 1, 3) := dk_132 3 1 (dk_at dksX5_loanAtHand_4 5 rfl rfl)
theorem dX5_loanAtHand_98 : decode cX5_loanAtHand 98 = .ok (.goto (-47), 3) := dk_167 255 209 (dk_at dksX5_loanAtHand_4 8 rfl rfl)
theorem dX5_loanAtHand_101 : decode cX5_loanAtHand 101 = .ok (.iload_n 2, 1) := dk_28 (dk_at dksX5_loanAtHand_4 11 rfl rfl)
theorem dX5_loanAtHand_102 : decode cX5_loanAtHand 102 = .ok (.ifCond .ne 5, 3) := dk_154 0 5 (dk_at dksX5_loanAtHand_4 12 rfl rfl)
theorem dX5_loanAtHand_105 : decode cX5_loanAtHand 105 = .ok (.iconst (-1), 1) := dk_2 (dk_at dksX5_loanAtHand_4 15 rfl rfl)
theorem dX5_loanAtHand_106 : decode cX5_loanAtHand 106 = .ok (.ireturn, 1) := dk_172 (dk_at dksX5_loanAtHand_4 16 rfl rfl)
theorem dX5_loanAtHand_107 : decode cX5_loanAtHand 107 = .ok (.aload_n 0, 1) := dk_42 (dk_at dksX5_loanAtHand_4 17 rfl rfl)
theorem dX5_loanAtHand_108 : decode cX5_loanAtHand 108 = .ok (.iload_n 1, 1) := dk_27 (dk_at dksX5_loanAtHand_4 18 rfl rfl)
theorem dX5_loanAtHand_109 : decode cX5_loanAtHand 109 = .ok (.iconst 1, 1) := dk_4 (dk_at dksX5_loanAtHand_4 19 rfl rfl)
theorem dX5_loanAtHand_110 : decode cX5_loanAtHand 110 = .ok (.iadd, 1) := dk_96 (dk_at dksX5_loanAtHand_4 20 rfl rfl)
theorem dX5_loanAtHand_111 : decode cX5_loanAtHand 111 = .ok (.invokevirtual 489, 3) := dk_182 1 233 (dk_at dksX5_loanAtHand_4 21 rfl rfl)
theorem dX5_loanAtHand_114 : decode cX5_loanAtHand 114 = .ok (.istore_n 1, 1) := dk_60 (dk_at dksX5_loanAtHand_5 0 rfl rfl)
theorem dX5_loanAtHand_115 : decode cX5_loanAtHand 115 = .ok (.goto (-77), 3) := dk_167 255 179 (dk_at dksX5_loanAtHand_5 1 rfl rfl)
theorem dX5_loanAtHand_118 : decode cX5_loanAtHand 118 = .ok (.iconst 0, 1) := dk_3 (dk_at dksX5_loanAtHand_5 4 rfl rfl)
theorem dX5_loanAtHand_119 : decode cX5_loanAtHand 119 = .ok (.istore_n 1, 1) := dk_60 (dk_at dksX5_loanAtHand_5 5 rfl rfl)
theorem dX5_loanAtHand_120 : decode cX5_loanAtHand 120 = .ok (.iload_n 1, 1) := dk_27 (dk_at dksX5_loanAtHand_5 6 rfl rfl)
theorem dX5_loanAtHand_121 : decode cX5_loanAtHand 121 = .ok (.bipush 8, 2) := dk_16 8 (dk_at dksX5_loanAtHand_5 7 rfl rfl)
theorem dX5_loanAtHand_123 : decode cX5_loanAtHand 123 = .ok (.if_icmp .ge 44, 3) := dk_162 0 44 (dk_at dksX5_loanAtHand_5 9 rfl rfl)
theorem dX5_loanAtHand_126 : decode cX5_loanAtHand 126 = .ok (.iconst 0, 1) := dk_3 (dk_at dksX5_loanAtHand_5 12 rfl rfl)
theorem dX5_loanAtHand_127 : decode cX5_loanAtHand 127 = .ok (.istore_n 2, 1) := dk_61 (dk_at dksX5_loanAtHand_5 13 rfl rfl)
theorem dX5_loanAtHand_128 : decode cX5_loanAtHand 128 = .ok (.iload_n 2, 1) := dk_28 (dk_at dksX5_loanAtHand_5 14 rfl rfl)
theorem dX5_loanAtHand_129 : decode cX5_loanAtHand 129 = .ok (.bipush 8, 2) := dk_16 8 (dk_at dksX5_loanAtHand_5 15 rfl rfl)
theorem dX5_loanAtHand_131 : decode cX5_loanAtHand 131 = .ok (.if_icmp .ge 30, 3) := dk_162 0 30 (dk_at dksX5_loanAtHand_5 17 rfl rfl)
theorem dX5_loanAtHand_134 : decode cX5_loanAtHand 134 = .ok (.aload_n 0, 1) := dk_42 (dk_at dksX5_loanAtHand_5 20 rfl rfl)
theorem dX5_loanAtHand_135 : decode cX5_loanAtHand 135 = .ok (.getfield 131, 3) := dk_180 0 131 (dk_at dksX5_loanAtHand_5 21 rfl rfl)
theorem dX5_loanAtHand_138 : decode cX5_loanAtHand 138 = .ok (.iload_n 1, 1) := dk_27 (dk_at dksX5_loanAtHand_6 0 rfl rfl)
theorem dX5_loanAtHand_139 : decode cX5_loanAtHand 139 = .ok (.iaload, 1) := dk_46 (dk_at dksX5_loanAtHand_6 1 rfl rfl)
theorem dX5_loanAtHand_140 : decode cX5_loanAtHand 140 = .ok (.iload_n 2, 1) := dk_28 (dk_at dksX5_loanAtHand_6 2 rfl rfl)
theorem dX5_loanAtHand_141 : decode cX5_loanAtHand 141 = .ok (.ishr, 1) := dk_122 (dk_at dksX5_loanAtHand_6 3 rfl rfl)
theorem dX5_loanAtHand_142 : decode cX5_loanAtHand 142 = .ok (.iconst 1, 1) := dk_4 (dk_at dksX5_loanAtHand_6 4 rfl rfl)
theorem dX5_loanAtHand_143 : decode cX5_loanAtHand 143 = .ok (.iand, 1) := dk_126 (dk_at dksX5_loanAtHand_6 5 rfl rfl)
theorem dX5_loanAtHand_144 : decode cX5_loanAtHand 144 = .ok (.iconst 1, 1) := dk_4 (dk_at dksX5_loanAtHand_6 6 rfl rfl)
theorem dX5_loanAtHand_145 : decode cX5_loanAtHand 145 = .ok (.if_icmp .ne 10, 3) := dk_160 0 10 (dk_at dksX5_loanAtHand_6 7 rfl rfl)
theorem dX5_loanAtHand_148 : decode cX5_loanAtHand 148 = .ok (.bipush 10, 2) := dk_16 10 (dk_at dksX5_loanAtHand_6 10 rfl rfl)
theorem dX5_loanAtHand_150 : decode cX5_loanAtHand 150 = .ok (.iload_n 1, 1) := dk_27 (dk_at dksX5_loanAtHand_6 12 rfl rfl)
theorem dX5_loanAtHand_151 : decode cX5_loanAtHand 151 = .ok (.imul, 1) := dk_104 (dk_at dksX5_loanAtHand_6 13 rfl rfl)
theorem dX5_loanAtHand_152 : decode cX5_loanAtHand 152 = .ok (.iload_n 2, 1) := dk_28 (dk_at dksX5_loanAtHand_6 14 rfl rfl)
theorem dX5_loanAtHand_153 : decode cX5_loanAtHand 153 = .ok (.iadd, 1) := dk_96 (dk_at dksX5_loanAtHand_6 15 rfl rfl)
theorem dX5_loanAtHand_154 : decode cX5_loanAtHand 154 = .ok (.ireturn, 1) := dk_172 (dk_at dksX5_loanAtHand_6 16 rfl rfl)
theorem dX5_loanAtHand_155 : decode cX5_loanAtHand 155 = .ok (.iinc 2 1, 3) := dk_132 2 1 (dk_at dksX5_loanAtHand_6 17 rfl rfl)
theorem dX5_loanAtHand_158 : decode cX5_loanAtHand 158 = .ok (.goto (-30), 3) := dk_167 255 226 (dk_at dksX5_loanAtHand_6 20 rfl rfl)
theorem dX5_loanAtHand_161 : decode cX5_loanAtHand 161 = .ok (.iinc 1 1, 3) := dk_132 1 1 (dk_at dksX5_loanAtHand_7 0 rfl rfl)
theorem dX5_loanAtHand_164 : decode cX5_loanAtHand 164 = .ok (.goto (-44), 3) := dk_167 255 212 (dk_at dksX5_loanAtHand_7 3 rfl rfl)
theorem dX5_loanAtHand_167 : decode cX5_loanAtHand 167 = .ok (.iconst (-1), 1) := dk_2 (dk_at dksX5_loanAtHand_7 6 rfl rfl)
theorem dX5_loanAtHand_168 : decode cX5_loanAtHand 168 = .ok (.ireturn, 1) := dk_172 (dk_at dksX5_loanAtHand_7 7 rfl rfl)
abbrev cX5_step : ByteArray := prog_24_method_73_code
def yX5_step : MethodName := ⟨RX5, "step", "()J"⟩
def dkwX5_step_3 : List UInt8 := [182, 1, 233, 54, 4, 167, 255, 207, 32, 173]
abbrev dktX5_step_3 : List UInt8 := dkwX5_step_3 ++ []
def dkwX5_step_2 : List UInt8 := [55, 5, 32, 9, 148, 153, 0, 10, 22, 5, 32, 148, 156, 0, 6, 22, 5, 65, 42, 21, 4, 4, 96]
abbrev dktX5_step_2 : List UInt8 := dkwX5_step_2 ++ dktX5_step_3
def dkwX5_step_1 : List UInt8 := [54, 4, 21, 4, 155, 0, 50, 42, 21, 4, 182, 1, 212, 42, 27, 16, 10, 108, 3, 2, 182, 1, 215]
abbrev dktX5_step_1 : List UInt8 := dkwX5_step_1 ++ dktX5_step_2
def dkwX5_step_0 : List UInt8 := [42, 182, 1, 196, 42, 182, 1, 250, 60, 27, 156, 0, 7, 20, 0, 205, 173, 9, 65, 42, 3, 182, 1, 233]
abbrev dktX5_step_0 : List UInt8 := dkwX5_step_0 ++ dktX5_step_1
theorem dksX5_step_0 : cX5_step.data.toList.drop 0 = dktX5_step_0 := by decide +kernel
theorem dksX5_step_1 : cX5_step.data.toList.drop 24 = dktX5_step_1 := dk_seg dksX5_step_0 24 rfl rfl
theorem dksX5_step_2 : cX5_step.data.toList.drop 47 = dktX5_step_2 := dk_seg dksX5_step_1 23 rfl rfl
theorem dksX5_step_3 : cX5_step.data.toList.drop 70 = dktX5_step_3 := dk_seg dksX5_step_2 23 rfl rfl
theorem dX5_step_0 : decode cX5_step 0 = .ok (.aload_n 0, 1) := dk_42 (dk_at dksX5_step_0 0 rfl rfl)
theorem dX5_step_1 : decode cX5_step 1 = .ok (.invokevirtual 452, 3) := dk_182 1 196 (dk_at dksX5_step_0 1 rfl rfl)
theorem dX5_step_4 : decode cX5_step 4 = .ok (.aload_n 0, 1) := dk_42 (dk_at dksX5_step_0 4 rfl rfl)
theorem dX5_step_5 : decode cX5_step 5 = .ok (.invokevirtual 506, 3) := dk_182 1 250 (dk_at dksX5_step_0 5 rfl rfl)
theorem dX5_step_8 : decode cX5_step 8 = .ok (.istore_n 1, 1) := dk_60 (dk_at dksX5_step_0 8 rfl rfl)
theorem dX5_step_9 : decode cX5_step 9 = .ok (.iload_n 1, 1) := dk_27 (dk_at dksX5_step_0 9 rfl rfl)
theorem dX5_step_10 : decode cX5_step 10 = .ok (.ifCond .ge 7, 3) := dk_156 0 7 (dk_at dksX5_step_0 10 rfl rfl)
theorem dX5_step_13 : decode cX5_step 13 = .ok (.ldc2_w 205, 3) := dk_20 0 205 (dk_at dksX5_step_0 13 rfl rfl)
theorem dX5_step_16 : decode cX5_step 16 = .ok (.lreturn, 1) := dk_173 (dk_at dksX5_step_0 16 rfl rfl)
theorem dX5_step_17 : decode cX5_step 17 = .ok (.lconst 0, 1) := dk_9 (dk_at dksX5_step_0 17 rfl rfl)
theorem dX5_step_18 : decode cX5_step 18 = .ok (.lstore_n 2, 1) := dk_65 (dk_at dksX5_step_0 18 rfl rfl)
theorem dX5_step_19 : decode cX5_step 19 = .ok (.aload_n 0, 1) := dk_42 (dk_at dksX5_step_0 19 rfl rfl)
theorem dX5_step_20 : decode cX5_step 20 = .ok (.iconst 0, 1) := dk_3 (dk_at dksX5_step_0 20 rfl rfl)
theorem dX5_step_21 : decode cX5_step 21 = .ok (.invokevirtual 489, 3) := dk_182 1 233 (dk_at dksX5_step_0 21 rfl rfl)
theorem dX5_step_24 : decode cX5_step 24 = .ok (.istore 4, 2) := dk_54 4 (dk_at dksX5_step_1 0 rfl rfl)
theorem dX5_step_26 : decode cX5_step 26 = .ok (.iload 4, 2) := dk_21 4 (dk_at dksX5_step_1 2 rfl rfl)
theorem dX5_step_28 : decode cX5_step 28 = .ok (.ifCond .lt 50, 3) := dk_155 0 50 (dk_at dksX5_step_1 4 rfl rfl)
theorem dX5_step_31 : decode cX5_step 31 = .ok (.aload_n 0, 1) := dk_42 (dk_at dksX5_step_1 7 rfl rfl)
theorem dX5_step_32 : decode cX5_step 32 = .ok (.iload 4, 2) := dk_21 4 (dk_at dksX5_step_1 8 rfl rfl)
theorem dX5_step_34 : decode cX5_step 34 = .ok (.invokevirtual 468, 3) := dk_182 1 212 (dk_at dksX5_step_1 10 rfl rfl)
theorem dX5_step_37 : decode cX5_step 37 = .ok (.aload_n 0, 1) := dk_42 (dk_at dksX5_step_1 13 rfl rfl)
theorem dX5_step_38 : decode cX5_step 38 = .ok (.iload_n 1, 1) := dk_27 (dk_at dksX5_step_1 14 rfl rfl)
theorem dX5_step_39 : decode cX5_step 39 = .ok (.bipush 10, 2) := dk_16 10 (dk_at dksX5_step_1 15 rfl rfl)
theorem dX5_step_41 : decode cX5_step 41 = .ok (.idiv, 1) := dk_108 (dk_at dksX5_step_1 17 rfl rfl)
theorem dX5_step_42 : decode cX5_step 42 = .ok (.iconst 0, 1) := dk_3 (dk_at dksX5_step_1 18 rfl rfl)
theorem dX5_step_43 : decode cX5_step 43 = .ok (.iconst (-1), 1) := dk_2 (dk_at dksX5_step_1 19 rfl rfl)
theorem dX5_step_44 : decode cX5_step 44 = .ok (.invokevirtual 471, 3) := dk_182 1 215 (dk_at dksX5_step_1 20 rfl rfl)
theorem dX5_step_47 : decode cX5_step 47 = .ok (.lstore 5, 2) := dk_55 5 (dk_at dksX5_step_2 0 rfl rfl)
theorem dX5_step_49 : decode cX5_step 49 = .ok (.lload_n 2, 1) := dk_32 (dk_at dksX5_step_2 2 rfl rfl)
theorem dX5_step_50 : decode cX5_step 50 = .ok (.lconst 0, 1) := dk_9 (dk_at dksX5_step_2 3 rfl rfl)
theorem dX5_step_51 : decode cX5_step 51 = .ok (.lcmp, 1) := dk_148 (dk_at dksX5_step_2 4 rfl rfl)
theorem dX5_step_52 : decode cX5_step 52 = .ok (.ifCond .eq 10, 3) := dk_153 0 10 (dk_at dksX5_step_2 5 rfl rfl)
theorem dX5_step_55 : decode cX5_step 55 = .ok (.lload 5, 2) := dk_22 5 (dk_at dksX5_step_2 8 rfl rfl)
theorem dX5_step_57 : decode cX5_step 57 = .ok (.lload_n 2, 1) := dk_32 (dk_at dksX5_step_2 10 rfl rfl)
theorem dX5_step_58 : decode cX5_step 58 = .ok (.lcmp, 1) := dk_148 (dk_at dksX5_step_2 11 rfl rfl)
theorem dX5_step_59 : decode cX5_step 59 = .ok (.ifCond .ge 6, 3) := dk_156 0 6 (dk_at dksX5_step_2 12 rfl rfl)
theorem dX5_step_62 : decode cX5_step 62 = .ok (.lload 5, 2) := dk_22 5 (dk_at dksX5_step_2 15 rfl rfl)
theorem dX5_step_64 : decode cX5_step 64 = .ok (.lstore_n 2, 1) := dk_65 (dk_at dksX5_step_2 17 rfl rfl)
theorem dX5_step_65 : decode cX5_step 65 = .ok (.aload_n 0, 1) := dk_42 (dk_at dksX5_step_2 18 rfl rfl)
theorem dX5_step_66 : decode cX5_step 66 = .ok (.iload 4, 2) := dk_21 4 (dk_at dksX5_step_2 19 rfl rfl)
theorem dX5_step_68 : decode cX5_step 68 = .ok (.iconst 1, 1) := dk_4 (dk_at dksX5_step_2 21 rfl rfl)
theorem dX5_step_69 : decode cX5_step 69 = .ok (.iadd, 1) := dk_96 (dk_at dksX5_step_2 22 rfl rfl)
theorem dX5_step_70 : decode cX5_step 70 = .ok (.invokevirtual 489, 3) := dk_182 1 233 (dk_at dksX5_step_3 0 rfl rfl)
theorem dX5_step_73 : decode cX5_step 73 = .ok (.istore 4, 2) := dk_54 4 (dk_at dksX5_step_3 3 rfl rfl)
theorem dX5_step_75 : decode cX5_step 75 = .ok (.goto (-49), 3) := dk_167 255 207 (dk_at dksX5_step_3 5 rfl rfl)
theorem dX5_step_78 : decode cX5_step 78 = .ok (.lload_n 2, 1) := dk_32 (dk_at dksX5_step_3 8 rfl rfl)
theorem dX5_step_79 : decode cX5_step 79 = .ok (.lreturn, 1) := dk_173 (dk_at dksX5_step_3 9 rfl rfl)
abbrev cX5_bears : ByteArray := prog_24_method_74_code
def yX5_bears : MethodName := ⟨RX5, "bears", "(II)J"⟩
def dkwX5_bears_2 : List UInt8 := [33, 42, 27, 3, 2, 182, 1, 215, 101, 173]
abbrev dktX5_bears_2 : List UInt8 := dkwX5_bears_2 ++ []
def dkwX5_bears_1 : List UInt8 := [20, 1, 210, 173, 42, 4, 28, 120, 182, 1, 212, 42, 27, 3, 2, 182, 1, 215, 66, 42, 3, 182, 1, 212]
abbrev dktX5_bears_1 : List UInt8 := dkwX5_bears_1 ++ dktX5_bears_2
def dkwX5_bears_0 : List UInt8 := [42, 182, 1, 196, 27, 3, 16, 7, 184, 0, 185, 153, 0, 12, 28, 3, 7, 184, 0, 185, 154, 0, 7]
abbrev dktX5_bears_0 : List UInt8 := dkwX5_bears_0 ++ dktX5_bears_1
theorem dksX5_bears_0 : cX5_bears.data.toList.drop 0 = dktX5_bears_0 := by decide +kernel
theorem dksX5_bears_1 : cX5_bears.data.toList.drop 23 = dktX5_bears_1 := dk_seg dksX5_bears_0 23 rfl rfl
theorem dksX5_bears_2 : cX5_bears.data.toList.drop 47 = dktX5_bears_2 := dk_seg dksX5_bears_1 24 rfl rfl
theorem dX5_bears_0 : decode cX5_bears 0 = .ok (.aload_n 0, 1) := dk_42 (dk_at dksX5_bears_0 0 rfl rfl)
theorem dX5_bears_1 : decode cX5_bears 1 = .ok (.invokevirtual 452, 3) := dk_182 1 196 (dk_at dksX5_bears_0 1 rfl rfl)
theorem dX5_bears_4 : decode cX5_bears 4 = .ok (.iload_n 1, 1) := dk_27 (dk_at dksX5_bears_0 4 rfl rfl)
theorem dX5_bears_5 : decode cX5_bears 5 = .ok (.iconst 0, 1) := dk_3 (dk_at dksX5_bears_0 5 rfl rfl)
theorem dX5_bears_6 : decode cX5_bears 6 = .ok (.bipush 7, 2) := dk_16 7 (dk_at dksX5_bears_0 6 rfl rfl)
theorem dX5_bears_8 : decode cX5_bears 8 = .ok (.invokestatic 185, 3) := dk_184 0 185 (dk_at dksX5_bears_0 8 rfl rfl)
theorem dX5_bears_11 : decode cX5_bears 11 = .ok (.ifCond .eq 12, 3) := dk_153 0 12 (dk_at dksX5_bears_0 11 rfl rfl)
theorem dX5_bears_14 : decode cX5_bears 14 = .ok (.iload_n 2, 1) := dk_28 (dk_at dksX5_bears_0 14 rfl rfl)
theorem dX5_bears_15 : decode cX5_bears 15 = .ok (.iconst 0, 1) := dk_3 (dk_at dksX5_bears_0 15 rfl rfl)
theorem dX5_bears_16 : decode cX5_bears 16 = .ok (.iconst 4, 1) := dk_7 (dk_at dksX5_bears_0 16 rfl rfl)
theorem dX5_bears_17 : decode cX5_bears 17 = .ok (.invokestatic 185, 3) := dk_184 0 185 (dk_at dksX5_bears_0 17 rfl rfl)
theorem dX5_bears_20 : decode cX5_bears 20 = .ok (.ifCond .ne 7, 3) := dk_154 0 7 (dk_at dksX5_bears_0 20 rfl rfl)
theorem dX5_bears_23 : decode cX5_bears 23 = .ok (.ldc2_w 466, 3) := dk_20 1 210 (dk_at dksX5_bears_1 0 rfl rfl)
theorem dX5_bears_26 : decode cX5_bears 26 = .ok (.lreturn, 1) := dk_173 (dk_at dksX5_bears_1 3 rfl rfl)
theorem dX5_bears_27 : decode cX5_bears 27 = .ok (.aload_n 0, 1) := dk_42 (dk_at dksX5_bears_1 4 rfl rfl)
theorem dX5_bears_28 : decode cX5_bears 28 = .ok (.iconst 1, 1) := dk_4 (dk_at dksX5_bears_1 5 rfl rfl)
theorem dX5_bears_29 : decode cX5_bears 29 = .ok (.iload_n 2, 1) := dk_28 (dk_at dksX5_bears_1 6 rfl rfl)
theorem dX5_bears_30 : decode cX5_bears 30 = .ok (.ishl, 1) := dk_120 (dk_at dksX5_bears_1 7 rfl rfl)
theorem dX5_bears_31 : decode cX5_bears 31 = .ok (.invokevirtual 468, 3) := dk_182 1 212 (dk_at dksX5_bears_1 8 rfl rfl)
theorem dX5_bears_34 : decode cX5_bears 34 = .ok (.aload_n 0, 1) := dk_42 (dk_at dksX5_bears_1 11 rfl rfl)
theorem dX5_bears_35 : decode cX5_bears 35 = .ok (.iload_n 1, 1) := dk_27 (dk_at dksX5_bears_1 12 rfl rfl)
theorem dX5_bears_36 : decode cX5_bears 36 = .ok (.iconst 0, 1) := dk_3 (dk_at dksX5_bears_1 13 rfl rfl)
theorem dX5_bears_37 : decode cX5_bears 37 = .ok (.iconst (-1), 1) := dk_2 (dk_at dksX5_bears_1 14 rfl rfl)
theorem dX5_bears_38 : decode cX5_bears 38 = .ok (.invokevirtual 471, 3) := dk_182 1 215 (dk_at dksX5_bears_1 15 rfl rfl)
theorem dX5_bears_41 : decode cX5_bears 41 = .ok (.lstore_n 3, 1) := dk_66 (dk_at dksX5_bears_1 18 rfl rfl)
theorem dX5_bears_42 : decode cX5_bears 42 = .ok (.aload_n 0, 1) := dk_42 (dk_at dksX5_bears_1 19 rfl rfl)
theorem dX5_bears_43 : decode cX5_bears 43 = .ok (.iconst 0, 1) := dk_3 (dk_at dksX5_bears_1 20 rfl rfl)
theorem dX5_bears_44 : decode cX5_bears 44 = .ok (.invokevirtual 468, 3) := dk_182 1 212 (dk_at dksX5_bears_1 21 rfl rfl)
theorem dX5_bears_47 : decode cX5_bears 47 = .ok (.lload_n 3, 1) := dk_33 (dk_at dksX5_bears_2 0 rfl rfl)
theorem dX5_bears_48 : decode cX5_bears 48 = .ok (.aload_n 0, 1) := dk_42 (dk_at dksX5_bears_2 1 rfl rfl)
theorem dX5_bears_49 : decode cX5_bears 49 = .ok (.iload_n 1, 1) := dk_27 (dk_at dksX5_bears_2 2 rfl rfl)
theorem dX5_bears_50 : decode cX5_bears 50 = .ok (.iconst 0, 1) := dk_3 (dk_at dksX5_bears_2 3 rfl rfl)
theorem dX5_bears_51 : decode cX5_bears 51 = .ok (.iconst (-1), 1) := dk_2 (dk_at dksX5_bears_2 4 rfl rfl)
theorem dX5_bears_52 : decode cX5_bears 52 = .ok (.invokevirtual 471, 3) := dk_182 1 215 (dk_at dksX5_bears_2 5 rfl rfl)
theorem dX5_bears_55 : decode cX5_bears 55 = .ok (.lsub, 1) := dk_101 (dk_at dksX5_bears_2 8 rfl rfl)
theorem dX5_bears_56 : decode cX5_bears 56 = .ok (.lreturn, 1) := dk_173 (dk_at dksX5_bears_2 9 rfl rfl)
abbrev cX5_cost : ByteArray := prog_24_method_75_code
def yX5_cost : MethodName := ⟨RX5, "cost", "(III)J"⟩
def dkwX5_cost_5 : List UInt8 := [154, 0, 8, 22, 4, 167, 0, 6, 21, 8, 133, 173]
abbrev dktX5_cost_5 : List UInt8 := dkwX5_cost_5 ++ []
def dkwX5_cost_4 : List UInt8 := [22, 6, 148, 157, 0, 6, 167, 0, 11, 22, 10, 55, 6, 21, 9, 54, 8, 132, 9, 1, 167, 255, 184, 29]
abbrev dktX5_cost_4 : List UInt8 := dkwX5_cost_4 ++ dktX5_cost_5
def dkwX5_cost_3 : List UInt8 := [182, 1, 215, 55, 10, 22, 10, 9, 148, 157, 0, 6, 167, 0, 29, 22, 4, 22, 10, 97, 55, 4, 22, 10]
abbrev dktX5_cost_3 : List UInt8 := dkwX5_cost_3 ++ dktX5_cost_4
def dkwX5_cost_2 : List UInt8 := [162, 0, 71, 21, 9, 27, 159, 0, 9, 21, 9, 28, 160, 0, 7, 9, 167, 0, 11, 42, 21, 9, 3, 2]
abbrev dktX5_cost_2 : List UInt8 := dkwX5_cost_2 ++ dktX5_cost_3
def dkwX5_cost_1 : List UInt8 := [173, 42, 3, 182, 1, 212, 9, 55, 4, 9, 55, 6, 2, 54, 8, 3, 54, 9, 21, 9, 16, 8]
abbrev dktX5_cost_1 : List UInt8 := dkwX5_cost_1 ++ dktX5_cost_2
def dkwX5_cost_0 : List UInt8 := [42, 182, 1, 196, 27, 28, 184, 1, 230, 153, 0, 12, 29, 3, 4, 184, 0, 185, 154, 0, 7, 20, 0, 205]
abbrev dktX5_cost_0 : List UInt8 := dkwX5_cost_0 ++ dktX5_cost_1
theorem dksX5_cost_0 : cX5_cost.data.toList.drop 0 = dktX5_cost_0 := by decide +kernel
theorem dksX5_cost_1 : cX5_cost.data.toList.drop 24 = dktX5_cost_1 := dk_seg dksX5_cost_0 24 rfl rfl
theorem dksX5_cost_2 : cX5_cost.data.toList.drop 46 = dktX5_cost_2 := dk_seg dksX5_cost_1 22 rfl rfl
theorem dksX5_cost_3 : cX5_cost.data.toList.drop 70 = dktX5_cost_3 := dk_seg dksX5_cost_2 24 rfl rfl
theorem dksX5_cost_4 : cX5_cost.data.toList.drop 94 = dktX5_cost_4 := dk_seg dksX5_cost_3 24 rfl rfl
theorem dksX5_cost_5 : cX5_cost.data.toList.drop 118 = dktX5_cost_5 := dk_seg dksX5_cost_4 24 rfl rfl
theorem dX5_cost_0 : decode cX5_cost 0 = .ok (.aload_n 0, 1) := dk_42 (dk_at dksX5_cost_0 0 rfl rfl)
theorem dX5_cost_1 : decode cX5_cost 1 = .ok (.invokevirtual 452, 3) := dk_182 1 196 (dk_at dksX5_cost_0 1 rfl rfl)
theorem dX5_cost_4 : decode cX5_cost 4 = .ok (.iload_n 1, 1) := dk_27 (dk_at dksX5_cost_0 4 rfl rfl)
theorem dX5_cost_5 : decode cX5_cost 5 = .ok (.iload_n 2, 1) := dk_28 (dk_at dksX5_cost_0 5 rfl rfl)
theorem dX5_cost_6 : decode cX5_cost 6 = .ok (.invokestatic 486, 3) := dk_184 1 230 (dk_at dksX5_cost_0 6 rfl rfl)
theorem dX5_cost_9 : decode cX5_cost 9 = .ok (.ifCond .eq 12, 3) := dk_153 0 12 (dk_at dksX5_cost_0 9 rfl rfl)
theorem dX5_cost_12 : decode cX5_cost 12 = .ok (.iload_n 3, 1) := dk_29 (dk_at dksX5_cost_0 12 rfl rfl)
theorem dX5_cost_13 : decode cX5_cost 13 = .ok (.iconst 0, 1) := dk_3 (dk_at dksX5_cost_0 13 rfl rfl)
theorem dX5_cost_14 : decode cX5_cost 14 = .ok (.iconst 1, 1) := dk_4 (dk_at dksX5_cost_0 14 rfl rfl)
theorem dX5_cost_15 : decode cX5_cost 15 = .ok (.invokestatic 185, 3) := dk_184 0 185 (dk_at dksX5_cost_0 15 rfl rfl)
theorem dX5_cost_18 : decode cX5_cost 18 = .ok (.ifCond .ne 7, 3) := dk_154 0 7 (dk_at dksX5_cost_0 18 rfl rfl)
theorem dX5_cost_21 : decode cX5_cost 21 = .ok (.ldc2_w 205, 3) := dk_20 0 205 (dk_at dksX5_cost_0 21 rfl rfl)
theorem dX5_cost_24 : decode cX5_cost 24 = .ok (.lreturn, 1) := dk_173 (dk_at dksX5_cost_1 0 rfl rfl)
theorem dX5_cost_25 : decode cX5_cost 25 = .ok (.aload_n 0, 1) := dk_42 (dk_at dksX5_cost_1 1 rfl rfl)
theorem dX5_cost_26 : decode cX5_cost 26 = .ok (.iconst 0, 1) := dk_3 (dk_at dksX5_cost_1 2 rfl rfl)
theorem dX5_cost_27 : decode cX5_cost 27 = .ok (.invokevirtual 468, 3) := dk_182 1 212 (dk_at dksX5_cost_1 3 rfl rfl)
theorem dX5_cost_30 : decode cX5_cost 30 = .ok (.lconst 0, 1) := dk_9 (dk_at dksX5_cost_1 6 rfl rfl)
theorem dX5_cost_31 : decode cX5_cost 31 = .ok (.lstore 4, 2) := dk_55 4 (dk_at dksX5_cost_1 7 rfl rfl)
theorem dX5_cost_33 : decode cX5_cost 33 = .ok (.lconst 0, 1) := dk_9 (dk_at dksX5_cost_1 9 rfl rfl)
theorem dX5_cost_34 : decode cX5_cost 34 = .ok (.lstore 6, 2) := dk_55 6 (dk_at dksX5_cost_1 10 rfl rfl)
theorem dX5_cost_36 : decode cX5_cost 36 = .ok (.iconst (-1), 1) := dk_2 (dk_at dksX5_cost_1 12 rfl rfl)
theorem dX5_cost_37 : decode cX5_cost 37 = .ok (.istore 8, 2) := dk_54 8 (dk_at dksX5_cost_1 13 rfl rfl)
theorem dX5_cost_39 : decode cX5_cost 39 = .ok (.iconst 0, 1) := dk_3 (dk_at dksX5_cost_1 15 rfl rfl)
theorem dX5_cost_40 : decode cX5_cost 40 = .ok (.istore 9, 2) := dk_54 9 (dk_at dksX5_cost_1 16 rfl rfl)
theorem dX5_cost_42 : decode cX5_cost 42 = .ok (.iload 9, 2) := dk_21 9 (dk_at dksX5_cost_1 18 rfl rfl)
theorem dX5_cost_44 : decode cX5_cost 44 = .ok (.bipush 8, 2) := dk_16 8 (dk_at dksX5_cost_1 20 rfl rfl)
theorem dX5_cost_46 : decode cX5_cost 46 = .ok (.if_icmp .ge 71, 3) := dk_162 0 71 (dk_at dksX5_cost_2 0 rfl rfl)
theorem dX5_cost_49 : decode cX5_cost 49 = .ok (.iload 9, 2) := dk_21 9 (dk_at dksX5_cost_2 3 rfl rfl)
theorem dX5_cost_51 : decode cX5_cost 51 = .ok (.iload_n 1, 1) := dk_27 (dk_at dksX5_cost_2 5 rfl rfl)
theorem dX5_cost_52 : decode cX5_cost 52 = .ok (.if_icmp .eq 9, 3) := dk_159 0 9 (dk_at dksX5_cost_2 6 rfl rfl)
theorem dX5_cost_55 : decode cX5_cost 55 = .ok (.iload 9, 2) := dk_21 9 (dk_at dksX5_cost_2 9 rfl rfl)
theorem dX5_cost_57 : decode cX5_cost 57 = .ok (.iload_n 2, 1) := dk_28 (dk_at dksX5_cost_2 11 rfl rfl)
theorem dX5_cost_58 : decode cX5_cost 58 = .ok (.if_icmp .ne 7, 3) := dk_160 0 7 (dk_at dksX5_cost_2 12 rfl rfl)
theorem dX5_cost_61 : decode cX5_cost 61 = .ok (.lconst 0, 1) := dk_9 (dk_at dksX5_cost_2 15 rfl rfl)
theorem dX5_cost_62 : decode cX5_cost 62 = .ok (.goto 11, 3) := dk_167 0 11 (dk_at dksX5_cost_2 16 rfl rfl)
theorem dX5_cost_65 : decode cX5_cost 65 = .ok (.aload_n 0, 1) := dk_42 (dk_at dksX5_cost_2 19 rfl rfl)
theorem dX5_cost_66 : decode cX5_cost 66 = .ok (.iload 9, 2) := dk_21 9 (dk_at dksX5_cost_2 20 rfl rfl)
theorem dX5_cost_68 : decode cX5_cost 68 = .ok (.iconst 0, 1) := dk_3 (dk_at dksX5_cost_2 22 rfl rfl)
theorem dX5_cost_69 : decode cX5_cost 69 = .ok (.iconst (-1), 1) := dk_2 (dk_at dksX5_cost_2 23 rfl rfl)
theorem dX5_cost_70 : decode cX5_cost 70 = .ok (.invokevirtual 471, 3) := dk_182 1 215 (dk_at dksX5_cost_3 0 rfl rfl)
theorem dX5_cost_73 : decode cX5_cost 73 = .ok (.lstore 10, 2) := dk_55 10 (dk_at dksX5_cost_3 3 rfl rfl)
theorem dX5_cost_75 : decode cX5_cost 75 = .ok (.lload 10, 2) := dk_22 10 (dk_at dksX5_cost_3 5 rfl rfl)
theorem dX5_cost_77 : decode cX5_cost 77 = .ok (.lconst 0, 1) := dk_9 (dk_at dksX5_cost_3 7 rfl rfl)
theorem dX5_cost_78 : decode cX5_cost 78 = .ok (.lcmp, 1) := dk_148 (dk_at dksX5_cost_3 8 rfl rfl)
theorem dX5_cost_79 : decode cX5_cost 79 = .ok (.ifCond .gt 6, 3) := dk_157 0 6 (dk_at dksX5_cost_3 9 rfl rfl)
theorem dX5_cost_82 : decode cX5_cost 82 = .ok (.goto 29, 3) := dk_167 0 29 (dk_at dksX5_cost_3 12 rfl rfl)
theorem dX5_cost_85 : decode cX5_cost 85 = .ok (.lload 4, 2) := dk_22 4 (dk_at dksX5_cost_3 15 rfl rfl)
theorem dX5_cost_87 : decode cX5_cost 87 = .ok (.lload 10, 2) := dk_22 10 (dk_at dksX5_cost_3 17 rfl rfl)
theorem dX5_cost_89 : decode cX5_cost 89 = .ok (.ladd, 1) := dk_97 (dk_at dksX5_cost_3 19 rfl rfl)
theorem dX5_cost_90 : decode cX5_cost 90 = .ok (.lstore 4, 2) := dk_55 4 (dk_at dksX5_cost_3 20 rfl rfl)
theorem dX5_cost_92 : decode cX5_cost 92 = .ok (.lload 10, 2) := dk_22 10 (dk_at dksX5_cost_3 22 rfl rfl)
theorem dX5_cost_94 : decode cX5_cost 94 = .ok (.lload 6, 2) := dk_22 6 (dk_at dksX5_cost_4 0 rfl rfl)
theorem dX5_cost_96 : decode cX5_cost 96 = .ok (.lcmp, 1) := dk_148 (dk_at dksX5_cost_4 2 rfl rfl)
theorem dX5_cost_97 : decode cX5_cost 97 = .ok (.ifCond .gt 6, 3) := dk_157 0 6 (dk_at dksX5_cost_4 3 rfl rfl)
theorem dX5_cost_100 : decode cX5_cost 100 = .ok (.goto 11, 3) := dk_167 0 11 (dk_at dksX5_cost_4 6 rfl rfl)
theorem dX5_cost_103 : decode cX5_cost 103 = .ok (.lload 10, 2) := dk_22 10 (dk_at dksX5_cost_4 9 rfl rfl)
theorem dX5_cost_105 : decode cX5_cost 105 = .ok (.lstore 6, 2) := dk_55 6 (dk_at dksX5_cost_4 11 rfl rfl)
theorem dX5_cost_107 : decode cX5_cost 107 = .ok (.iload 9, 2) := dk_21 9 (dk_at dksX5_cost_4 13 rfl rfl)
theorem dX5_cost_109 : decode cX5_cost 109 = .ok (.istore 8, 2) := dk_54 8 (dk_at dksX5_cost_4 15 rfl rfl)
theorem dX5_cost_111 : decode cX5_cost 111 = .ok (.iinc 9 1, 3) := dk_132 9 1 (dk_at dksX5_cost_4 17 rfl rfl)
theorem dX5_cost_114 : decode cX5_cost 114 = .ok (.goto (-72), 3) := dk_167 255 184 (dk_at dksX5_cost_4 20 rfl rfl)
theorem dX5_cost_117 : decode cX5_cost 117 = .ok (.iload_n 3, 1) := dk_29 (dk_at dksX5_cost_4 23 rfl rfl)
theorem dX5_cost_118 : decode cX5_cost 118 = .ok (.ifCond .ne 8, 3) := dk_154 0 8 (dk_at dksX5_cost_5 0 rfl rfl)
theorem dX5_cost_121 : decode cX5_cost 121 = .ok (.lload 4, 2) := dk_22 4 (dk_at dksX5_cost_5 3 rfl rfl)
theorem dX5_cost_123 : decode cX5_cost 123 = .ok (.goto 6, 3) := dk_167 0 6 (dk_at dksX5_cost_5 5 rfl rfl)
theorem dX5_cost_126 : decode cX5_cost 126 = .ok (.iload 8, 2) := dk_21 8 (dk_at dksX5_cost_5 8 rfl rfl)
theorem dX5_cost_128 : decode cX5_cost 128 = .ok (.i2l, 1) := dk_133 (dk_at dksX5_cost_5 10 rfl rfl)
theorem dX5_cost_129 : decode cX5_cost 129 = .ok (.lreturn, 1) := dk_173 (dk_at dksX5_cost_5 11 rfl rfl)
abbrev cX5_law : ByteArray := prog_24_method_81_code
def yX5_law : MethodName := ⟨RX5, "law", "(I)I"⟩
def dkwX5_law_3 : List UInt8 := [181, 2, 23, 42, 180, 2, 23, 4, 100, 172]
abbrev dktX5_law_3 : List UInt8 := dkwX5_law_3 ++ []
def dkwX5_law_2 : List UInt8 := [156, 0, 5, 2, 172, 42, 180, 0, 134, 42, 180, 2, 23, 28, 79, 42, 89, 180, 2, 23, 4, 96]
abbrev dktX5_law_2 : List UInt8 := dkwX5_law_2 ++ dktX5_law_3
def dkwX5_law_1 : List UInt8 := [16, 253, 172, 42, 27, 182, 1, 79, 42, 16, 16, 42, 180, 2, 23, 104, 16, 16, 182, 2, 26, 61, 28]
abbrev dktX5_law_1 : List UInt8 := dkwX5_law_1 ++ dktX5_law_2
def dkwX5_law_0 : List UInt8 := [27, 155, 0, 11, 27, 42, 180, 0, 189, 164, 0, 6, 16, 254, 172, 42, 180, 2, 23, 16, 6, 160, 0, 6]
abbrev dktX5_law_0 : List UInt8 := dkwX5_law_0 ++ dktX5_law_1
theorem dksX5_law_0 : cX5_law.data.toList.drop 0 = dktX5_law_0 := by decide +kernel
theorem dksX5_law_1 : cX5_law.data.toList.drop 24 = dktX5_law_1 := dk_seg dksX5_law_0 24 rfl rfl
theorem dksX5_law_2 : cX5_law.data.toList.drop 47 = dktX5_law_2 := dk_seg dksX5_law_1 23 rfl rfl
theorem dksX5_law_3 : cX5_law.data.toList.drop 69 = dktX5_law_3 := dk_seg dksX5_law_2 22 rfl rfl
theorem dX5_law_0 : decode cX5_law 0 = .ok (.iload_n 1, 1) := dk_27 (dk_at dksX5_law_0 0 rfl rfl)
theorem dX5_law_1 : decode cX5_law 1 = .ok (.ifCond .lt 11, 3) := dk_155 0 11 (dk_at dksX5_law_0 1 rfl rfl)
theorem dX5_law_4 : decode cX5_law 4 = .ok (.iload_n 1, 1) := dk_27 (dk_at dksX5_law_0 4 rfl rfl)
theorem dX5_law_5 : decode cX5_law 5 = .ok (.aload_n 0, 1) := dk_42 (dk_at dksX5_law_0 5 rfl rfl)
theorem dX5_law_6 : decode cX5_law 6 = .ok (.getfield 189, 3) := dk_180 0 189 (dk_at dksX5_law_0 6 rfl rfl)
theorem dX5_law_9 : decode cX5_law 9 = .ok (.if_icmp .le 6, 3) := dk_164 0 6 (dk_at dksX5_law_0 9 rfl rfl)
theorem dX5_law_12 : decode cX5_law 12 = .ok (.bipush (-2), 2) := dk_16 254 (dk_at dksX5_law_0 12 rfl rfl)
theorem dX5_law_14 : decode cX5_law 14 = .ok (.ireturn, 1) := dk_172 (dk_at dksX5_law_0 14 rfl rfl)
theorem dX5_law_15 : decode cX5_law 15 = .ok (.aload_n 0, 1) := dk_42 (dk_at dksX5_law_0 15 rfl rfl)
theorem dX5_law_16 : decode cX5_law 16 = .ok (.getfield 535, 3) := dk_180 2 23 (dk_at dksX5_law_0 16 rfl rfl)
theorem dX5_law_19 : decode cX5_law 19 = .ok (.bipush 6, 2) := dk_16 6 (dk_at dksX5_law_0 19 rfl rfl)
theorem dX5_law_21 : decode cX5_law 21 = .ok (.if_icmp .ne 6, 3) := dk_160 0 6 (dk_at dksX5_law_0 21 rfl rfl)
theorem dX5_law_24 : decode cX5_law 24 = .ok (.bipush (-3), 2) := dk_16 253 (dk_at dksX5_law_1 0 rfl rfl)
theorem dX5_law_26 : decode cX5_law 26 = .ok (.ireturn, 1) := dk_172 (dk_at dksX5_law_1 2 rfl rfl)
theorem dX5_law_27 : decode cX5_law 27 = .ok (.aload_n 0, 1) := dk_42 (dk_at dksX5_law_1 3 rfl rfl)
theorem dX5_law_28 : decode cX5_law 28 = .ok (.iload_n 1, 1) := dk_27 (dk_at dksX5_law_1 4 rfl rfl)
theorem dX5_law_29 : decode cX5_law 29 = .ok (.invokevirtual 335, 3) := dk_182 1 79 (dk_at dksX5_law_1 5 rfl rfl)
theorem dX5_law_32 : decode cX5_law 32 = .ok (.aload_n 0, 1) := dk_42 (dk_at dksX5_law_1 8 rfl rfl)
theorem dX5_law_33 : decode cX5_law 33 = .ok (.bipush 16, 2) := dk_16 16 (dk_at dksX5_law_1 9 rfl rfl)
theorem dX5_law_35 : decode cX5_law 35 = .ok (.aload_n 0, 1) := dk_42 (dk_at dksX5_law_1 11 rfl rfl)
theorem dX5_law_36 : decode cX5_law 36 = .ok (.getfield 535, 3) := dk_180 2 23 (dk_at dksX5_law_1 12 rfl rfl)
theorem dX5_law_39 : decode cX5_law 39 = .ok (.imul, 1) := dk_104 (dk_at dksX5_law_1 15 rfl rfl)
theorem dX5_law_40 : decode cX5_law 40 = .ok (.bipush 16, 2) := dk_16 16 (dk_at dksX5_law_1 16 rfl rfl)
theorem dX5_law_42 : decode cX5_law 42 = .ok (.invokevirtual 538, 3) := dk_182 2 26 (dk_at dksX5_law_1 18 rfl rfl)
theorem dX5_law_45 : decode cX5_law 45 = .ok (.istore_n 2, 1) := dk_61 (dk_at dksX5_law_1 21 rfl rfl)
theorem dX5_law_46 : decode cX5_law 46 = .ok (.iload_n 2, 1) := dk_28 (dk_at dksX5_law_1 22 rfl rfl)
theorem dX5_law_47 : decode cX5_law 47 = .ok (.ifCond .ge 5, 3) := dk_156 0 5 (dk_at dksX5_law_2 0 rfl rfl)
theorem dX5_law_50 : decode cX5_law 50 = .ok (.iconst (-1), 1) := dk_2 (dk_at dksX5_law_2 3 rfl rfl)
theorem dX5_law_51 : decode cX5_law 51 = .ok (.ireturn, 1) := dk_172 (dk_at dksX5_law_2 4 rfl rfl)
theorem dX5_law_52 : decode cX5_law 52 = .ok (.aload_n 0, 1) := dk_42 (dk_at dksX5_law_2 5 rfl rfl)
theorem dX5_law_53 : decode cX5_law 53 = .ok (.getfield 134, 3) := dk_180 0 134 (dk_at dksX5_law_2 6 rfl rfl)
theorem dX5_law_56 : decode cX5_law 56 = .ok (.aload_n 0, 1) := dk_42 (dk_at dksX5_law_2 9 rfl rfl)
theorem dX5_law_57 : decode cX5_law 57 = .ok (.getfield 535, 3) := dk_180 2 23 (dk_at dksX5_law_2 10 rfl rfl)
theorem dX5_law_60 : decode cX5_law 60 = .ok (.iload_n 2, 1) := dk_28 (dk_at dksX5_law_2 13 rfl rfl)
theorem dX5_law_61 : decode cX5_law 61 = .ok (.iastore, 1) := dk_79 (dk_at dksX5_law_2 14 rfl rfl)
theorem dX5_law_62 : decode cX5_law 62 = .ok (.aload_n 0, 1) := dk_42 (dk_at dksX5_law_2 15 rfl rfl)
theorem dX5_law_63 : decode cX5_law 63 = .ok (.dup, 1) := dk_89 (dk_at dksX5_law_2 16 rfl rfl)
theorem dX5_law_64 : decode cX5_law 64 = .ok (.getfield 535, 3) := dk_180 2 23 (dk_at dksX5_law_2 17 rfl rfl)
theorem dX5_law_67 : decode cX5_law 67 = .ok (.iconst 1, 1) := dk_4 (dk_at dksX5_law_2 20 rfl rfl)
theorem dX5_law_68 : decode cX5_law 68 = .ok (.iadd, 1) := dk_96 (dk_at dksX5_law_2 21 rfl rfl)
theorem dX5_law_69 : decode cX5_law 69 = .ok (.putfield 535, 3) := dk_181 2 23 (dk_at dksX5_law_3 0 rfl rfl)
theorem dX5_law_72 : decode cX5_law 72 = .ok (.aload_n 0, 1) := dk_42 (dk_at dksX5_law_3 3 rfl rfl)
theorem dX5_law_73 : decode cX5_law 73 = .ok (.getfield 535, 3) := dk_180 2 23 (dk_at dksX5_law_3 4 rfl rfl)
theorem dX5_law_76 : decode cX5_law 76 = .ok (.iconst 1, 1) := dk_4 (dk_at dksX5_law_3 7 rfl rfl)
theorem dX5_law_77 : decode cX5_law 77 = .ok (.isub, 1) := dk_100 (dk_at dksX5_law_3 8 rfl rfl)
theorem dX5_law_78 : decode cX5_law 78 = .ok (.ireturn, 1) := dk_172 (dk_at dksX5_law_3 9 rfl rfl)
abbrev cX5_readBars : ByteArray := prog_24_method_80_code
def yX5_readBars : MethodName := ⟨RX5, "readBars", "(II)I"⟩
def dkwX5_readBars_2 : List UInt8 := [153, 0, 7, 2, 167, 0, 4, 29, 172]
abbrev dktX5_readBars_2 : List UInt8 := dkwX5_readBars_2 ++ []
def dkwX5_readBars_1 : List UInt8 := [182, 0, 231, 167, 0, 10, 42, 27, 29, 96, 182, 2, 20, 132, 3, 1, 167, 255, 220, 42, 180, 0, 220]
abbrev dktX5_readBars_1 : List UInt8 := dkwX5_readBars_1 ++ dktX5_readBars_2
def dkwX5_readBars_0 : List UInt8 := [3, 62, 42, 180, 0, 214, 153, 0, 35, 42, 180, 0, 220, 154, 0, 28, 29, 28, 160, 0, 10, 42]
abbrev dktX5_readBars_0 : List UInt8 := dkwX5_readBars_0 ++ dktX5_readBars_1
theorem dksX5_readBars_0 : cX5_readBars.data.toList.drop 0 = dktX5_readBars_0 := by decide +kernel
theorem dksX5_readBars_1 : cX5_readBars.data.toList.drop 22 = dktX5_readBars_1 := dk_seg dksX5_readBars_0 22 rfl rfl
theorem dksX5_readBars_2 : cX5_readBars.data.toList.drop 45 = dktX5_readBars_2 := dk_seg dksX5_readBars_1 23 rfl rfl
theorem dX5_readBars_0 : decode cX5_readBars 0 = .ok (.iconst 0, 1) := dk_3 (dk_at dksX5_readBars_0 0 rfl rfl)
theorem dX5_readBars_1 : decode cX5_readBars 1 = .ok (.istore_n 3, 1) := dk_62 (dk_at dksX5_readBars_0 1 rfl rfl)
theorem dX5_readBars_2 : decode cX5_readBars 2 = .ok (.aload_n 0, 1) := dk_42 (dk_at dksX5_readBars_0 2 rfl rfl)
theorem dX5_readBars_3 : decode cX5_readBars 3 = .ok (.getfield 214, 3) := dk_180 0 214 (dk_at dksX5_readBars_0 3 rfl rfl)
theorem dX5_readBars_6 : decode cX5_readBars 6 = .ok (.ifCond .eq 35, 3) := dk_153 0 35 (dk_at dksX5_readBars_0 6 rfl rfl)
theorem dX5_readBars_9 : decode cX5_readBars 9 = .ok (.aload_n 0, 1) := dk_42 (dk_at dksX5_readBars_0 9 rfl rfl)
theorem dX5_readBars_10 : decode cX5_readBars 10 = .ok (.getfield 220, 3) := dk_180 0 220 (dk_at dksX5_readBars_0 10 rfl rfl)
theorem dX5_readBars_13 : decode cX5_readBars 13 = .ok (.ifCond .ne 28, 3) := dk_154 0 28 (dk_at dksX5_readBars_0 13 rfl rfl)
theorem dX5_readBars_16 : decode cX5_readBars 16 = .ok (.iload_n 3, 1) := dk_29 (dk_at dksX5_readBars_0 16 rfl rfl)
theorem dX5_readBars_17 : decode cX5_readBars 17 = .ok (.iload_n 2, 1) := dk_28 (dk_at dksX5_readBars_0 17 rfl rfl)
theorem dX5_readBars_18 : decode cX5_readBars 18 = .ok (.if_icmp .ne 10, 3) := dk_160 0 10 (dk_at dksX5_readBars_0 18 rfl rfl)
theorem dX5_readBars_21 : decode cX5_readBars 21 = .ok (.aload_n 0, 1) := dk_42 (dk_at dksX5_readBars_0 21 rfl rfl)
theorem dX5_readBars_22 : decode cX5_readBars 22 = .ok (.invokevirtual 231, 3) := dk_182 0 231 (dk_at dksX5_readBars_1 0 rfl rfl)
theorem dX5_readBars_25 : decode cX5_readBars 25 = .ok (.goto 10, 3) := dk_167 0 10 (dk_at dksX5_readBars_1 3 rfl rfl)
theorem dX5_readBars_28 : decode cX5_readBars 28 = .ok (.aload_n 0, 1) := dk_42 (dk_at dksX5_readBars_1 6 rfl rfl)
theorem dX5_readBars_29 : decode cX5_readBars 29 = .ok (.iload_n 1, 1) := dk_27 (dk_at dksX5_readBars_1 7 rfl rfl)
theorem dX5_readBars_30 : decode cX5_readBars 30 = .ok (.iload_n 3, 1) := dk_29 (dk_at dksX5_readBars_1 8 rfl rfl)
theorem dX5_readBars_31 : decode cX5_readBars 31 = .ok (.iadd, 1) := dk_96 (dk_at dksX5_readBars_1 9 rfl rfl)
theorem dX5_readBars_32 : decode cX5_readBars 32 = .ok (.invokevirtual 532, 3) := dk_182 2 20 (dk_at dksX5_readBars_1 10 rfl rfl)
theorem dX5_readBars_35 : decode cX5_readBars 35 = .ok (.iinc 3 1, 3) := dk_132 3 1 (dk_at dksX5_readBars_1 13 rfl rfl)
theorem dX5_readBars_38 : decode cX5_readBars 38 = .ok (.goto (-36), 3) := dk_167 255 220 (dk_at dksX5_readBars_1 16 rfl rfl)
theorem dX5_readBars_41 : decode cX5_readBars 41 = .ok (.aload_n 0, 1) := dk_42 (dk_at dksX5_readBars_1 19 rfl rfl)
theorem dX5_readBars_42 : decode cX5_readBars 42 = .ok (.getfield 220, 3) := dk_180 0 220 (dk_at dksX5_readBars_1 20 rfl rfl)
theorem dX5_readBars_45 : decode cX5_readBars 45 = .ok (.ifCond .eq 7, 3) := dk_153 0 7 (dk_at dksX5_readBars_2 0 rfl rfl)
theorem dX5_readBars_48 : decode cX5_readBars 48 = .ok (.iconst (-1), 1) := dk_2 (dk_at dksX5_readBars_2 3 rfl rfl)
theorem dX5_readBars_49 : decode cX5_readBars 49 = .ok (.goto 4, 3) := dk_167 0 4 (dk_at dksX5_readBars_2 4 rfl rfl)
theorem dX5_readBars_52 : decode cX5_readBars 52 = .ok (.iload_n 3, 1) := dk_29 (dk_at dksX5_readBars_2 7 rfl rfl)
theorem dX5_readBars_53 : decode cX5_readBars 53 = .ok (.ireturn, 1) := dk_172 (dk_at dksX5_readBars_2 8 rfl rfl)
abbrev cX5_readBar : ByteArray := prog_24_method_79_code
def yX5_readBar : MethodName := ⟨RX5, "readBar", "(I)V"⟩
def dkwX5_readBar_8 : List UInt8 := [182, 0, 228, 167, 0, 7, 42, 182, 0, 231, 177]
abbrev dktX5_readBar_8 : List UInt8 := dkwX5_readBar_8 ++ []
def dkwX5_readBar_7 : List UInt8 := [182, 1, 43, 79, 42, 180, 0, 220, 153, 0, 4, 177, 42, 180, 0, 214, 16, 59, 160, 0, 10, 42]
abbrev dktX5_readBar_7 : List UInt8 := dkwX5_readBar_7 ++ dktX5_readBar_8
def dkwX5_readBar_6 : List UInt8 := [20, 2, 18, 182, 0, 224, 153, 0, 21, 42, 182, 0, 228, 42, 180, 0, 155, 27, 42, 3, 17, 39, 15]
abbrev dktX5_readBar_6 : List UInt8 := dkwX5_readBar_6 ++ dktX5_readBar_7
def dkwX5_readBar_5 : List UInt8 := [42, 182, 2, 15, 120, 128, 79, 42, 182, 0, 228, 167, 255, 230, 42, 180, 0, 220, 154, 0, 31, 42]
abbrev dktX5_readBar_5 : List UInt8 := dkwX5_readBar_5 ++ dktX5_readBar_6
def dkwX5_readBar_4 : List UInt8 := [180, 0, 149, 27, 42, 182, 2, 10, 79, 42, 182, 2, 15, 155, 0, 25, 42, 180, 0, 152, 27, 92, 46, 4]
abbrev dktX5_readBar_4 : List UInt8 := dkwX5_readBar_4 ++ dktX5_readBar_5
def dkwX5_readBar_3 : List UInt8 := [180, 0, 158, 27, 51, 153, 0, 91, 42, 182, 0, 228, 42, 180, 0, 146, 27, 42, 182, 2, 7, 79, 42]
abbrev dktX5_readBar_3 : List UInt8 := dkwX5_readBar_3 ++ dktX5_readBar_4
def dkwX5_readBar_2 : List UInt8 := [153, 0, 7, 4, 167, 0, 4, 3, 84, 42, 180, 0, 152, 27, 3, 79, 42, 180, 0, 155, 27, 2, 79, 42]
abbrev dktX5_readBar_2 : List UInt8 := dkwX5_readBar_2 ++ dktX5_readBar_3
def dkwX5_readBar_1 : List UInt8 := [182, 2, 10, 79, 42, 180, 0, 158, 27, 42, 180, 0, 220, 154, 0, 17, 42, 20, 2, 13, 182, 0, 224]
abbrev dktX5_readBar_1 : List UInt8 := dkwX5_readBar_1 ++ dktX5_readBar_2
def dkwX5_readBar_0 : List UInt8 := [42, 20, 2, 5, 182, 1, 49, 42, 180, 0, 140, 27, 42, 182, 2, 7, 79, 42, 180, 0, 143, 27, 42]
abbrev dktX5_readBar_0 : List UInt8 := dkwX5_readBar_0 ++ dktX5_readBar_1
theorem dksX5_readBar_0 : cX5_readBar.data.toList.drop 0 = dktX5_readBar_0 := by decide +kernel
theorem dksX5_readBar_1 : cX5_readBar.data.toList.drop 23 = dktX5_readBar_1 := dk_seg dksX5_readBar_0 23 rfl rfl
theorem dksX5_readBar_2 : cX5_readBar.data.toList.drop 46 = dktX5_readBar_2 := dk_seg dksX5_readBar_1 23 rfl rfl
theorem dksX5_readBar_3 : cX5_readBar.data.toList.drop 70 = dktX5_readBar_3 := dk_seg dksX5_readBar_2 24 rfl rfl
theorem dksX5_readBar_4 : cX5_readBar.data.toList.drop 93 = dktX5_readBar_4 := dk_seg dksX5_readBar_3 23 rfl rfl
theorem dksX5_readBar_5 : cX5_readBar.data.toList.drop 117 = dktX5_readBar_5 := dk_seg dksX5_readBar_4 24 rfl rfl
theorem dksX5_readBar_6 : cX5_readBar.data.toList.drop 139 = dktX5_readBar_6 := dk_seg dksX5_readBar_5 22 rfl rfl
theorem dksX5_readBar_7 : cX5_readBar.data.toList.drop 162 = dktX5_readBar_7 := dk_seg dksX5_readBar_6 23 rfl rfl
theorem dksX5_readBar_8 : cX5_readBar.data.toList.drop 184 = dktX5_readBar_8 := dk_seg dksX5_readBar_7 22 rfl rfl
theorem dX5_readBar_0 : decode cX5_readBar 0 = .ok (.aload_n 0, 1) := dk_42 (dk_at dksX5_readBar_0 0 rfl rfl)
theorem dX5_readBar_1 : decode cX5_readBar 1 = .ok (.ldc2_w 517, 3) := dk_20 2 5 (dk_at dksX5_readBar_0 1 rfl rfl)
theorem dX5_readBar_4 : decode cX5_readBar 4 = .ok (.invokevirtual 305, 3) := dk_182 1 49 (dk_at dksX5_readBar_0 4 rfl rfl)
theorem dX5_readBar_7 : decode cX5_readBar 7 = .ok (.aload_n 0, 1) := dk_42 (dk_at dksX5_readBar_0 7 rfl rfl)
theorem dX5_readBar_8 : decode cX5_readBar 8 = .ok (.getfield 140, 3) := dk_180 0 140 (dk_at dksX5_readBar_0 8 rfl rfl)
theorem dX5_readBar_11 : decode cX5_readBar 11 = .ok (.iload_n 1, 1) := dk_27 (dk_at dksX5_readBar_0 11 rfl rfl)
theorem dX5_readBar_12 : decode cX5_readBar 12 = .ok (.aload_n 0, 1) := dk_42 (dk_at dksX5_readBar_0 12 rfl rfl)
theorem dX5_readBar_13 : decode cX5_readBar 13 = .ok (.invokevirtual 519, 3) := dk_182 2 7 (dk_at dksX5_readBar_0 13 rfl rfl)
theorem dX5_readBar_16 : decode cX5_readBar 16 = .ok (.iastore, 1) := dk_79 (dk_at dksX5_readBar_0 16 rfl rfl)
theorem dX5_readBar_17 : decode cX5_readBar 17 = .ok (.aload_n 0, 1) := dk_42 (dk_at dksX5_readBar_0 17 rfl rfl)
theorem dX5_readBar_18 : decode cX5_readBar 18 = .ok (.getfield 143, 3) := dk_180 0 143 (dk_at dksX5_readBar_0 18 rfl rfl)
theorem dX5_readBar_21 : decode cX5_readBar 21 = .ok (.iload_n 1, 1) := dk_27 (dk_at dksX5_readBar_0 21 rfl rfl)
theorem dX5_readBar_22 : decode cX5_readBar 22 = .ok (.aload_n 0, 1) := dk_42 (dk_at dksX5_readBar_0 22 rfl rfl)
theorem dX5_readBar_23 : decode cX5_readBar 23 = .ok (.invokevirtual 522, 3) := dk_182 2 10 (dk_at dksX5_readBar_1 0 rfl rfl)
theorem dX5_readBar_26 : decode cX5_readBar 26 = .ok (.iastore, 1) := dk_79 (dk_at dksX5_readBar_1 3 rfl rfl)
theorem dX5_readBar_27 : decode cX5_readBar 27 = .ok (.aload_n 0, 1) := dk_42 (dk_at dksX5_readBar_1 4 rfl rfl)
theorem dX5_readBar_28 : decode cX5_readBar 28 = .ok (.getfield 158, 3) := dk_180 0 158 (dk_at dksX5_readBar_1 5 rfl rfl)
theorem dX5_readBar_31 : decode cX5_readBar 31 = .ok (.iload_n 1, 1) := dk_27 (dk_at dksX5_readBar_1 8 rfl rfl)
theorem dX5_readBar_32 : decode cX5_readBar 32 = .ok (.aload_n 0, 1) := dk_42 (dk_at dksX5_readBar_1 9 rfl rfl)
theorem dX5_readBar_33 : decode cX5_readBar 33 = .ok (.getfield 220, 3) := dk_180 0 220 (dk_at dksX5_readBar_1 10 rfl rfl)
theorem dX5_readBar_36 : decode cX5_readBar 36 = .ok (.ifCond .ne 17, 3) := dk_154 0 17 (dk_at dksX5_readBar_1 13 rfl rfl)
theorem dX5_readBar_39 : decode cX5_readBar 39 = .ok (.aload_n 0, 1) := dk_42 (dk_at dksX5_readBar_1 16 rfl rfl)
theorem dX5_readBar_40 : decode cX5_readBar 40 = .ok (.ldc2_w 525, 3) := dk_20 2 13 (dk_at dksX5_readBar_1 17 rfl rfl)
theorem dX5_readBar_43 : decode cX5_readBar 43 = .ok (.invokevirtual 224, 3) := dk_182 0 224 (dk_at dksX5_readBar_1 20 rfl rfl)
theorem dX5_readBar_46 : decode cX5_readBar 46 = .ok (.ifCond .eq 7, 3) := dk_153 0 7 (dk_at dksX5_readBar_2 0 rfl rfl)
theorem dX5_readBar_49 : decode cX5_readBar 49 = .ok (.iconst 1, 1) := dk_4 (dk_at dksX5_readBar_2 3 rfl rfl)
theorem dX5_readBar_50 : decode cX5_readBar 50 = .ok (.goto 4, 3) := dk_167 0 4 (dk_at dksX5_readBar_2 4 rfl rfl)
theorem dX5_readBar_53 : decode cX5_readBar 53 = .ok (.iconst 0, 1) := dk_3 (dk_at dksX5_readBar_2 7 rfl rfl)
theorem dX5_readBar_54 : decode cX5_readBar 54 = .ok (.bastore, 1) := dk_84 (dk_at dksX5_readBar_2 8 rfl rfl)
theorem dX5_readBar_55 : decode cX5_readBar 55 = .ok (.aload_n 0, 1) := dk_42 (dk_at dksX5_readBar_2 9 rfl rfl)
theorem dX5_readBar_56 : decode cX5_readBar 56 = .ok (.getfield 152, 3) := dk_180 0 152 (dk_at dksX5_readBar_2 10 rfl rfl)
theorem dX5_readBar_59 : decode cX5_readBar 59 = .ok (.iload_n 1, 1) := dk_27 (dk_at dksX5_readBar_2 13 rfl rfl)
theorem dX5_readBar_60 : decode cX5_readBar 60 = .ok (.iconst 0, 1) := dk_3 (dk_at dksX5_readBar_2 14 rfl rfl)
theorem dX5_readBar_61 : decode cX5_readBar 61 = .ok (.iastore, 1) := dk_79 (dk_at dksX5_readBar_2 15 rfl rfl)
theorem dX5_readBar_62 : decode cX5_readBar 62 = .ok (.aload_n 0, 1) := dk_42 (dk_at dksX5_readBar_2 16 rfl rfl)
theorem dX5_readBar_63 : decode cX5_readBar 63 = .ok (.getfield 155, 3) := dk_180 0 155 (dk_at dksX5_readBar_2 17 rfl rfl)
theorem dX5_readBar_66 : decode cX5_readBar 66 = .ok (.iload_n 1, 1) := dk_27 (dk_at dksX5_readBar_2 20 rfl rfl)
theorem dX5_readBar_67 : decode cX5_readBar 67 = .ok (.iconst (-1), 1) := dk_2 (dk_at dksX5_readBar_2 21 rfl rfl)
theorem dX5_readBar_68 : decode cX5_readBar 68 = .ok (.iastore, 1) := dk_79 (dk_at dksX5_readBar_2 22 rfl rfl)
theorem dX5_readBar_69 : decode cX5_readBar 69 = .ok (.aload_n 0, 1) := dk_42 (dk_at dksX5_readBar_2 23 rfl rfl)
theorem dX5_readBar_70 : decode cX5_readBar 70 = .ok (.getfield 158, 3) := dk_180 0 158 (dk_at dksX5_readBar_3 0 rfl rfl)
theorem dX5_readBar_73 : decode cX5_readBar 73 = .ok (.iload_n 1, 1) := dk_27 (dk_at dksX5_readBar_3 3 rfl rfl)
theorem dX5_readBar_74 : decode cX5_readBar 74 = .ok (.baload, 1) := dk_51 (dk_at dksX5_readBar_3 4 rfl rfl)
theorem dX5_readBar_75 : decode cX5_readBar 75 = .ok (.ifCond .eq 91, 3) := dk_153 0 91 (dk_at dksX5_readBar_3 5 rfl rfl)
theorem dX5_readBar_78 : decode cX5_readBar 78 = .ok (.aload_n 0, 1) := dk_42 (dk_at dksX5_readBar_3 8 rfl rfl)
theorem dX5_readBar_79 : decode cX5_readBar 79 = .ok (.invokevirtual 228, 3) := dk_182 0 228 (dk_at dksX5_readBar_3 9 rfl rfl)
theorem dX5_readBar_82 : decode cX5_readBar 82 = .ok (.aload_n 0, 1) := dk_42 (dk_at dksX5_readBar_3 12 rfl rfl)
theorem dX5_readBar_83 : decode cX5_readBar 83 = .ok (.getfield 146, 3) := dk_180 0 146 (dk_at dksX5_readBar_3 13 rfl rfl)
theorem dX5_readBar_86 : decode cX5_readBar 86 = .ok (.iload_n 1, 1) := dk_27 (dk_at dksX5_readBar_3 16 rfl rfl)
theorem dX5_readBar_87 : decode cX5_readBar 87 = .ok (.aload_n 0, 1) := dk_42 (dk_at dksX5_readBar_3 17 rfl rfl)
theorem dX5_readBar_88 : decode cX5_readBar 88 = .ok (.invokevirtual 519, 3) := dk_182 2 7 (dk_at dksX5_readBar_3 18 rfl rfl)
theorem dX5_readBar_91 : decode cX5_readBar 91 = .ok (.iastore, 1) := dk_79 (dk_at dksX5_readBar_3 21 rfl rfl)
theorem dX5_readBar_92 : decode cX5_readBar 92 = .ok (.aload_n 0, 1) := dk_42 (dk_at dksX5_readBar_3 22 rfl rfl)
theorem dX5_readBar_93 : decode cX5_readBar 93 = .ok (.getfield 149, 3) := dk_180 0 149 (dk_at dksX5_readBar_4 0 rfl rfl)
theorem dX5_readBar_96 : decode cX5_readBar 96 = .ok (.iload_n 1, 1) := dk_27 (dk_at dksX5_readBar_4 3 rfl rfl)
theorem dX5_readBar_97 : decode cX5_readBar 97 = .ok (.aload_n 0, 1) := dk_42 (dk_at dksX5_readBar_4 4 rfl rfl)
theorem dX5_readBar_98 : decode cX5_readBar 98 = .ok (.invokevirtual 522, 3) := dk_182 2 10 (dk_at dksX5_readBar_4 5 rfl rfl)
theorem dX5_readBar_101 : decode cX5_readBar 101 = .ok (.iastore, 1) := dk_79 (dk_at dksX5_readBar_4 8 rfl rfl)
theorem dX5_readBar_102 : decode cX5_readBar 102 = .ok (.aload_n 0, 1) := dk_42 (dk_at dksX5_readBar_4 9 rfl rfl)
theorem dX5_readBar_103 : decode cX5_readBar 103 = .ok (.invokevirtual 527, 3) := dk_182 2 15 (dk_at dksX5_readBar_4 10 rfl rfl)
theorem dX5_readBar_106 : decode cX5_readBar 106 = .ok (.ifCond .lt 25, 3) := dk_155 0 25 (dk_at dksX5_readBar_4 13 rfl rfl)
theorem dX5_readBar_109 : decode cX5_readBar 109 = .ok (.aload_n 0, 1) := dk_42 (dk_at dksX5_readBar_4 16 rfl rfl)
theorem dX5_readBar_110 : decode cX5_readBar 110 = .ok (.getfield 152, 3) := dk_180 0 152 (dk_at dksX5_readBar_4 17 rfl rfl)
theorem dX5_readBar_113 : decode cX5_readBar 113 = .ok (.iload_n 1, 1) := dk_27 (dk_at dksX5_readBar_4 20 rfl rfl)
theorem dX5_readBar_114 : decode cX5_readBar 114 = .ok (.dup2, 1) := dk_92 (dk_at dksX5_readBar_4 21 rfl rfl)
theorem dX5_readBar_115 : decode cX5_readBar 115 = .ok (.iaload, 1) := dk_46 (dk_at dksX5_readBar_4 22 rfl rfl)
theorem dX5_readBar_116 : decode cX5_readBar 116 = .ok (.iconst 1, 1) := dk_4 (dk_at dksX5_readBar_4 23 rfl rfl)
theorem dX5_readBar_117 : decode cX5_readBar 117 = .ok (.aload_n 0, 1) := dk_42 (dk_at dksX5_readBar_5 0 rfl rfl)
theorem dX5_readBar_118 : decode cX5_readBar 118 = .ok (.invokevirtual 527, 3) := dk_182 2 15 (dk_at dksX5_readBar_5 1 rfl rfl)
theorem dX5_readBar_121 : decode cX5_readBar 121 = .ok (.ishl, 1) := dk_120 (dk_at dksX5_readBar_5 4 rfl rfl)
theorem dX5_readBar_122 : decode cX5_readBar 122 = .ok (.ior, 1) := dk_128 (dk_at dksX5_readBar_5 5 rfl rfl)
theorem dX5_readBar_123 : decode cX5_readBar 123 = .ok (.iastore, 1) := dk_79 (dk_at dksX5_readBar_5 6 rfl rfl)
theorem dX5_readBar_124 : decode cX5_readBar 124 = .ok (.aload_n 0, 1) := dk_42 (dk_at dksX5_readBar_5 7 rfl rfl)
theorem dX5_readBar_125 : decode cX5_readBar 125 = .ok (.invokevirtual 228, 3) := dk_182 0 228 (dk_at dksX5_readBar_5 8 rfl rfl)
theorem dX5_readBar_128 : decode cX5_readBar 128 = .ok (.goto (-26), 3) := dk_167 255 230 (dk_at dksX5_readBar_5 11 rfl rfl)
theorem dX5_readBar_131 : decode cX5_readBar 131 = .ok (.aload_n 0, 1) := dk_42 (dk_at dksX5_readBar_5 14 rfl rfl)
theorem dX5_readBar_132 : decode cX5_readBar 132 = .ok (.getfield 220, 3) := dk_180 0 220 (dk_at dksX5_readBar_5 15 rfl rfl)
theorem dX5_readBar_135 : decode cX5_readBar 135 = .ok (.ifCond .ne 31, 3) := dk_154 0 31 (dk_at dksX5_readBar_5 18 rfl rfl)
theorem dX5_readBar_138 : decode cX5_readBar 138 = .ok (.aload_n 0, 1) := dk_42 (dk_at dksX5_readBar_5 21 rfl rfl)
theorem dX5_readBar_139 : decode cX5_readBar 139 = .ok (.ldc2_w 530, 3) := dk_20 2 18 (dk_at dksX5_readBar_6 0 rfl rfl)
theorem dX5_readBar_142 : decode cX5_readBar 142 = .ok (.invokevirtual 224, 3) := dk_182 0 224 (dk_at dksX5_readBar_6 3 rfl rfl)
theorem dX5_readBar_145 : decode cX5_readBar 145 = .ok (.ifCond .eq 21, 3) := dk_153 0 21 (dk_at dksX5_readBar_6 6 rfl rfl)
theorem dX5_readBar_148 : decode cX5_readBar 148 = .ok (.aload_n 0, 1) := dk_42 (dk_at dksX5_readBar_6 9 rfl rfl)
theorem dX5_readBar_149 : decode cX5_readBar 149 = .ok (.invokevirtual 228, 3) := dk_182 0 228 (dk_at dksX5_readBar_6 10 rfl rfl)
theorem dX5_readBar_152 : decode cX5_readBar 152 = .ok (.aload_n 0, 1) := dk_42 (dk_at dksX5_readBar_6 13 rfl rfl)
theorem dX5_readBar_153 : decode cX5_readBar 153 = .ok (.getfield 155, 3) := dk_180 0 155 (dk_at dksX5_readBar_6 14 rfl rfl)
theorem dX5_readBar_156 : decode cX5_readBar 156 = .ok (.iload_n 1, 1) := dk_27 (dk_at dksX5_readBar_6 17 rfl rfl)
theorem dX5_readBar_157 : decode cX5_readBar 157 = .ok (.aload_n 0, 1) := dk_42 (dk_at dksX5_readBar_6 18 rfl rfl)
theorem dX5_readBar_158 : decode cX5_readBar 158 = .ok (.iconst 0, 1) := dk_3 (dk_at dksX5_readBar_6 19 rfl rfl)
theorem dX5_readBar_159 : decode cX5_readBar 159 = .ok (.sipush 9999, 3) := dk_17 39 15 (dk_at dksX5_readBar_6 20 rfl rfl)
theorem dX5_readBar_162 : decode cX5_readBar 162 = .ok (.invokevirtual 299, 3) := dk_182 1 43 (dk_at dksX5_readBar_7 0 rfl rfl)
theorem dX5_readBar_165 : decode cX5_readBar 165 = .ok (.iastore, 1) := dk_79 (dk_at dksX5_readBar_7 3 rfl rfl)
theorem dX5_readBar_166 : decode cX5_readBar 166 = .ok (.aload_n 0, 1) := dk_42 (dk_at dksX5_readBar_7 4 rfl rfl)
theorem dX5_readBar_167 : decode cX5_readBar 167 = .ok (.getfield 220, 3) := dk_180 0 220 (dk_at dksX5_readBar_7 5 rfl rfl)
theorem dX5_readBar_170 : decode cX5_readBar 170 = .ok (.ifCond .eq 4, 3) := dk_153 0 4 (dk_at dksX5_readBar_7 8 rfl rfl)
theorem dX5_readBar_173 : decode cX5_readBar 173 = .ok (.return_, 1) := dk_177 (dk_at dksX5_readBar_7 11 rfl rfl)
theorem dX5_readBar_174 : decode cX5_readBar 174 = .ok (.aload_n 0, 1) := dk_42 (dk_at dksX5_readBar_7 12 rfl rfl)
theorem dX5_readBar_175 : decode cX5_readBar 175 = .ok (.getfield 214, 3) := dk_180 0 214 (dk_at dksX5_readBar_7 13 rfl rfl)
theorem dX5_readBar_178 : decode cX5_readBar 178 = .ok (.bipush 59, 2) := dk_16 59 (dk_at dksX5_readBar_7 16 rfl rfl)
theorem dX5_readBar_180 : decode cX5_readBar 180 = .ok (.if_icmp .ne 10, 3) := dk_160 0 10 (dk_at dksX5_readBar_7 18 rfl rfl)
theorem dX5_readBar_183 : decode cX5_readBar 183 = .ok (.aload_n 0, 1) := dk_42 (dk_at dksX5_readBar_7 21 rfl rfl)
theorem dX5_readBar_184 : decode cX5_readBar 184 = .ok (.invokevirtual 228, 3) := dk_182 0 228 (dk_at dksX5_readBar_8 0 rfl rfl)
theorem dX5_readBar_187 : decode cX5_readBar 187 = .ok (.goto 7, 3) := dk_167 0 7 (dk_at dksX5_readBar_8 3 rfl rfl)
theorem dX5_readBar_190 : decode cX5_readBar 190 = .ok (.aload_n 0, 1) := dk_42 (dk_at dksX5_readBar_8 6 rfl rfl)
theorem dX5_readBar_191 : decode cX5_readBar 191 = .ok (.invokevirtual 231, 3) := dk_182 0 231 (dk_at dksX5_readBar_8 7 rfl rfl)
theorem dX5_readBar_194 : decode cX5_readBar 194 = .ok (.return_, 1) := dk_177 (dk_at dksX5_readBar_8 10 rfl rfl)
abbrev cX5_formHere : ByteArray := prog_24_method_76_code
def yX5_formHere : MethodName := ⟨RX5, "formHere", "()I"⟩
def dkwX5_formHere_2 : List UInt8 := [156, 0, 10, 42, 182, 0, 231, 167, 0, 7, 42, 182, 0, 228, 28, 172]
abbrev dktX5_formHere_2 : List UInt8 := dkwX5_formHere_2 ++ []
def dkwX5_formHere_1 : List UInt8 := [182, 0, 224, 153, 0, 7, 7, 167, 0, 4, 2, 61, 42, 180, 0, 220, 153, 0, 5, 3, 172, 28]
abbrev dktX5_formHere_1 : List UInt8 := dkwX5_formHere_1 ++ dktX5_formHere_2
def dkwX5_formHere_0 : List UInt8 := [42, 182, 1, 83, 60, 27, 3, 6, 184, 0, 185, 153, 0, 7, 27, 167, 0, 18, 42, 20, 1, 253]
abbrev dktX5_formHere_0 : List UInt8 := dkwX5_formHere_0 ++ dktX5_formHere_1
theorem dksX5_formHere_0 : cX5_formHere.data.toList.drop 0 = dktX5_formHere_0 := by decide +kernel
theorem dksX5_formHere_1 : cX5_formHere.data.toList.drop 22 = dktX5_formHere_1 := dk_seg dksX5_formHere_0 22 rfl rfl
theorem dksX5_formHere_2 : cX5_formHere.data.toList.drop 44 = dktX5_formHere_2 := dk_seg dksX5_formHere_1 22 rfl rfl
theorem dX5_formHere_0 : decode cX5_formHere 0 = .ok (.aload_n 0, 1) := dk_42 (dk_at dksX5_formHere_0 0 rfl rfl)
theorem dX5_formHere_1 : decode cX5_formHere 1 = .ok (.invokevirtual 339, 3) := dk_182 1 83 (dk_at dksX5_formHere_0 1 rfl rfl)
theorem dX5_formHere_4 : decode cX5_formHere 4 = .ok (.istore_n 1, 1) := dk_60 (dk_at dksX5_formHere_0 4 rfl rfl)
theorem dX5_formHere_5 : decode cX5_formHere 5 = .ok (.iload_n 1, 1) := dk_27 (dk_at dksX5_formHere_0 5 rfl rfl)
theorem dX5_formHere_6 : decode cX5_formHere 6 = .ok (.iconst 0, 1) := dk_3 (dk_at dksX5_formHere_0 6 rfl rfl)
theorem dX5_formHere_7 : decode cX5_formHere 7 = .ok (.iconst 3, 1) := dk_6 (dk_at dksX5_formHere_0 7 rfl rfl)
theorem dX5_formHere_8 : decode cX5_formHere 8 = .ok (.invokestatic 185, 3) := dk_184 0 185 (dk_at dksX5_formHere_0 8 rfl rfl)
theorem dX5_formHere_11 : decode cX5_formHere 11 = .ok (.ifCond .eq 7, 3) := dk_153 0 7 (dk_at dksX5_formHere_0 11 rfl rfl)
theorem dX5_formHere_14 : decode cX5_formHere 14 = .ok (.iload_n 1, 1) := dk_27 (dk_at dksX5_formHere_0 14 rfl rfl)
theorem dX5_formHere_15 : decode cX5_formHere 15 = .ok (.goto 18, 3) := dk_167 0 18 (dk_at dksX5_formHere_0 15 rfl rfl)
theorem dX5_formHere_18 : decode cX5_formHere 18 = .ok (.aload_n 0, 1) := dk_42 (dk_at dksX5_formHere_0 18 rfl rfl)
theorem dX5_formHere_19 : decode cX5_formHere 19 = .ok (.ldc2_w 509, 3) := dk_20 1 253 (dk_at dksX5_formHere_0 19 rfl rfl)
theorem dX5_formHere_22 : decode cX5_formHere 22 = .ok (.invokevirtual 224, 3) := dk_182 0 224 (dk_at dksX5_formHere_1 0 rfl rfl)
theorem dX5_formHere_25 : decode cX5_formHere 25 = .ok (.ifCond .eq 7, 3) := dk_153 0 7 (dk_at dksX5_formHere_1 3 rfl rfl)
theorem dX5_formHere_28 : decode cX5_formHere 28 = .ok (.iconst 4, 1) := dk_7 (dk_at dksX5_formHere_1 6 rfl rfl)
theorem dX5_formHere_29 : decode cX5_formHere 29 = .ok (.goto 4, 3) := dk_167 0 4 (dk_at dksX5_formHere_1 7 rfl rfl)
theorem dX5_formHere_32 : decode cX5_formHere 32 = .ok (.iconst (-1), 1) := dk_2 (dk_at dksX5_formHere_1 10 rfl rfl)
theorem dX5_formHere_33 : decode cX5_formHere 33 = .ok (.istore_n 2, 1) := dk_61 (dk_at dksX5_formHere_1 11 rfl rfl)
theorem dX5_formHere_34 : decode cX5_formHere 34 = .ok (.aload_n 0, 1) := dk_42 (dk_at dksX5_formHere_1 12 rfl rfl)
theorem dX5_formHere_35 : decode cX5_formHere 35 = .ok (.getfield 220, 3) := dk_180 0 220 (dk_at dksX5_formHere_1 13 rfl rfl)
theorem dX5_formHere_38 : decode cX5_formHere 38 = .ok (.ifCond .eq 5, 3) := dk_153 0 5 (dk_at dksX5_formHere_1 16 rfl rfl)
theorem dX5_formHere_41 : decode cX5_formHere 41 = .ok (.iconst 0, 1) := dk_3 (dk_at dksX5_formHere_1 19 rfl rfl)
theorem dX5_formHere_42 : decode cX5_formHere 42 = .ok (.ireturn, 1) := dk_172 (dk_at dksX5_formHere_1 20 rfl rfl)
theorem dX5_formHere_43 : decode cX5_formHere 43 = .ok (.iload_n 2, 1) := dk_28 (dk_at dksX5_formHere_1 21 rfl rfl)
theorem dX5_formHere_44 : decode cX5_formHere 44 = .ok (.ifCond .ge 10, 3) := dk_156 0 10 (dk_at dksX5_formHere_2 0 rfl rfl)
theorem dX5_formHere_47 : decode cX5_formHere 47 = .ok (.aload_n 0, 1) := dk_42 (dk_at dksX5_formHere_2 3 rfl rfl)
theorem dX5_formHere_48 : decode cX5_formHere 48 = .ok (.invokevirtual 231, 3) := dk_182 0 231 (dk_at dksX5_formHere_2 4 rfl rfl)
theorem dX5_formHere_51 : decode cX5_formHere 51 = .ok (.goto 7, 3) := dk_167 0 7 (dk_at dksX5_formHere_2 7 rfl rfl)
theorem dX5_formHere_54 : decode cX5_formHere 54 = .ok (.aload_n 0, 1) := dk_42 (dk_at dksX5_formHere_2 10 rfl rfl)
theorem dX5_formHere_55 : decode cX5_formHere 55 = .ok (.invokevirtual 228, 3) := dk_182 0 228 (dk_at dksX5_formHere_2 11 rfl rfl)
theorem dX5_formHere_58 : decode cX5_formHere 58 = .ok (.iload_n 2, 1) := dk_28 (dk_at dksX5_formHere_2 14 rfl rfl)
theorem dX5_formHere_59 : decode cX5_formHere 59 = .ok (.ireturn, 1) := dk_172 (dk_at dksX5_formHere_2 15 rfl rfl)
abbrev cX5_ofHere : ByteArray := prog_24_method_77_code
def yX5_ofHere : MethodName := ⟨RX5, "ofHere", "()I"⟩
def dkwX5_ofHere_1 : List UInt8 := [182, 1, 40, 172]
abbrev dktX5_ofHere_1 : List UInt8 := dkwX5_ofHere_1 ++ []
def dkwX5_ofHere_0 : List UInt8 := [42, 180, 0, 220, 154, 0, 13, 42, 20, 1, 255, 182, 0, 224, 154, 0, 5, 2, 172, 42, 182, 0, 228, 42]
abbrev dktX5_ofHere_0 : List UInt8 := dkwX5_ofHere_0 ++ dktX5_ofHere_1
theorem dksX5_ofHere_0 : cX5_ofHere.data.toList.drop 0 = dktX5_ofHere_0 := by decide +kernel
theorem dksX5_ofHere_1 : cX5_ofHere.data.toList.drop 24 = dktX5_ofHere_1 := dk_seg dksX5_ofHere_0 24 rfl rfl
theorem dX5_ofHere_0 : decode cX5_ofHere 0 = .ok (.aload_n 0, 1) := dk_42 (dk_at dksX5_ofHere_0 0 rfl rfl)
theorem dX5_ofHere_1 : decode cX5_ofHere 1 = .ok (.getfield 220, 3) := dk_180 0 220 (dk_at dksX5_ofHere_0 1 rfl rfl)
theorem dX5_ofHere_4 : decode cX5_ofHere 4 = .ok (.ifCond .ne 13, 3) := dk_154 0 13 (dk_at dksX5_ofHere_0 4 rfl rfl)
theorem dX5_ofHere_7 : decode cX5_ofHere 7 = .ok (.aload_n 0, 1) := dk_42 (dk_at dksX5_ofHere_0 7 rfl rfl)
theorem dX5_ofHere_8 : decode cX5_ofHere 8 = .ok (.ldc2_w 511, 3) := dk_20 1 255 (dk_at dksX5_ofHere_0 8 rfl rfl)
theorem dX5_ofHere_11 : decode cX5_ofHere 11 = .ok (.invokevirtual 224, 3) := dk_182 0 224 (dk_at dksX5_ofHere_0 11 rfl rfl)
theorem dX5_ofHere_14 : decode cX5_ofHere 14 = .ok (.ifCond .ne 5, 3) := dk_154 0 5 (dk_at dksX5_ofHere_0 14 rfl rfl)
theorem dX5_ofHere_17 : decode cX5_ofHere 17 = .ok (.iconst (-1), 1) := dk_2 (dk_at dksX5_ofHere_0 17 rfl rfl)
theorem dX5_ofHere_18 : decode cX5_ofHere 18 = .ok (.ireturn, 1) := dk_172 (dk_at dksX5_ofHere_0 18 rfl rfl)
theorem dX5_ofHere_19 : decode cX5_ofHere 19 = .ok (.aload_n 0, 1) := dk_42 (dk_at dksX5_ofHere_0 19 rfl rfl)
theorem dX5_ofHere_20 : decode cX5_ofHere 20 = .ok (.invokevirtual 228, 3) := dk_182 0 228 (dk_at dksX5_ofHere_0 20 rfl rfl)
theorem dX5_ofHere_23 : decode cX5_ofHere 23 = .ok (.aload_n 0, 1) := dk_42 (dk_at dksX5_ofHere_0 23 rfl rfl)
theorem dX5_ofHere_24 : decode cX5_ofHere 24 = .ok (.invokevirtual 296, 3) := dk_182 1 40 (dk_at dksX5_ofHere_1 0 rfl rfl)
theorem dX5_ofHere_27 : decode cX5_ofHere 27 = .ok (.ireturn, 1) := dk_172 (dk_at dksX5_ofHere_1 3 rfl rfl)
abbrev cX5_askedHere : ByteArray := prog_24_method_78_code
def yX5_askedHere : MethodName := ⟨RX5, "askedHere", "()I"⟩
def dkwX5_askedHere_2 : List UInt8 := [153, 0, 7, 5, 167, 0, 4, 2, 172]
abbrev dktX5_askedHere_2 : List UInt8 := dkwX5_askedHere_2 ++ []
def dkwX5_askedHere_1 : List UInt8 := [167, 0, 32, 42, 20, 2, 1, 182, 0, 224, 153, 0, 7, 4, 167, 0, 18, 42, 20, 2, 3, 182, 0, 224]
abbrev dktX5_askedHere_1 : List UInt8 := dkwX5_askedHere_1 ++ dktX5_askedHere_2
def dkwX5_askedHere_0 : List UInt8 := [42, 180, 0, 220, 153, 0, 7, 2, 167, 0, 46, 42, 20, 1, 57, 182, 0, 224, 153, 0, 7, 3]
abbrev dktX5_askedHere_0 : List UInt8 := dkwX5_askedHere_0 ++ dktX5_askedHere_1
theorem dksX5_askedHere_0 : cX5_askedHere.data.toList.drop 0 = dktX5_askedHere_0 := by decide +kernel
theorem dksX5_askedHere_1 : cX5_askedHere.data.toList.drop 22 = dktX5_askedHere_1 := dk_seg dksX5_askedHere_0 22 rfl rfl
theorem dksX5_askedHere_2 : cX5_askedHere.data.toList.drop 46 = dktX5_askedHere_2 := dk_seg dksX5_askedHere_1 24 rfl rfl
theorem dX5_askedHere_0 : decode cX5_askedHere 0 = .ok (.aload_n 0, 1) := dk_42 (dk_at dksX5_askedHere_0 0 rfl rfl)
theorem dX5_askedHere_1 : decode cX5_askedHere 1 = .ok (.getfield 220, 3) := dk_180 0 220 (dk_at dksX5_askedHere_0 1 rfl rfl)
theorem dX5_askedHere_4 : decode cX5_askedHere 4 = .ok (.ifCond .eq 7, 3) := dk_153 0 7 (dk_at dksX5_askedHere_0 4 rfl rfl)
theorem dX5_askedHere_7 : decode cX5_askedHere 7 = .ok (.iconst (-1), 1) := dk_2 (dk_at dksX5_askedHere_0 7 rfl rfl)
theorem dX5_askedHere_8 : decode cX5_askedHere 8 = .ok (.goto 46, 3) := dk_167 0 46 (dk_at dksX5_askedHere_0 8 rfl rfl)
theorem dX5_askedHere_11 : decode cX5_askedHere 11 = .ok (.aload_n 0, 1) := dk_42 (dk_at dksX5_askedHere_0 11 rfl rfl)
theorem dX5_askedHere_12 : decode cX5_askedHere 12 = .ok (.ldc2_w 313, 3) := dk_20 1 57 (dk_at dksX5_askedHere_0 12 rfl rfl)
theorem dX5_askedHere_15 : decode cX5_askedHere 15 = .ok (.invokevirtual 224, 3) := dk_182 0 224 (dk_at dksX5_askedHere_0 15 rfl rfl)
theorem dX5_askedHere_18 : decode cX5_askedHere 18 = .ok (.ifCond .eq 7, 3) := dk_153 0 7 (dk_at dksX5_askedHere_0 18 rfl rfl)
theorem dX5_askedHere_21 : decode cX5_askedHere 21 = .ok (.iconst 0, 1) := dk_3 (dk_at dksX5_askedHere_0 21 rfl rfl)
theorem dX5_askedHere_22 : decode cX5_askedHere 22 = .ok (.goto 32, 3) := dk_167 0 32 (dk_at dksX5_askedHere_1 0 rfl rfl)
theorem dX5_askedHere_25 : decode cX5_askedHere 25 = .ok (.aload_n 0, 1) := dk_42 (dk_at dksX5_askedHere_1 3 rfl rfl)
theorem dX5_askedHere_26 : decode cX5_askedHere 26 = .ok (.ldc2_w 513, 3) := dk_20 2 1 (dk_at dksX5_askedHere_1 4 rfl rfl)
theorem dX5_askedHere_29 : decode cX5_askedHere 29 = .ok (.invokevirtual 224, 3) := dk_182 0 224 (dk_at dksX5_askedHere_1 7 rfl rfl)
theorem dX5_askedHere_32 : decode cX5_askedHere 32 = .ok (.ifCond .eq 7, 3) := dk_153 0 7 (dk_at dksX5_askedHere_1 10 rfl rfl)
theorem dX5_askedHere_35 : decode cX5_askedHere 35 = .ok (.iconst 1, 1) := dk_4 (dk_at dksX5_askedHere_1 13 rfl rfl)
theorem dX5_askedHere_36 : decode cX5_askedHere 36 = .ok (.goto 18, 3) := dk_167 0 18 (dk_at dksX5_askedHere_1 14 rfl rfl)
theorem dX5_askedHere_39 : decode cX5_askedHere 39 = .ok (.aload_n 0, 1) := dk_42 (dk_at dksX5_askedHere_1 17 rfl rfl)
theorem dX5_askedHere_40 : decode cX5_askedHere 40 = .ok (.ldc2_w 515, 3) := dk_20 2 3 (dk_at dksX5_askedHere_1 18 rfl rfl)
theorem dX5_askedHere_43 : decode cX5_askedHere 43 = .ok (.invokevirtual 224, 3) := dk_182 0 224 (dk_at dksX5_askedHere_1 21 rfl rfl)
theorem dX5_askedHere_46 : decode cX5_askedHere 46 = .ok (.ifCond .eq 7, 3) := dk_153 0 7 (dk_at dksX5_askedHere_2 0 rfl rfl)
theorem dX5_askedHere_49 : decode cX5_askedHere 49 = .ok (.iconst 2, 1) := dk_5 (dk_at dksX5_askedHere_2 3 rfl rfl)
theorem dX5_askedHere_50 : decode cX5_askedHere 50 = .ok (.goto 4, 3) := dk_167 0 4 (dk_at dksX5_askedHere_2 4 rfl rfl)
theorem dX5_askedHere_53 : decode cX5_askedHere 53 = .ok (.iconst (-1), 1) := dk_2 (dk_at dksX5_askedHere_2 7 rfl rfl)
theorem dX5_askedHere_54 : decode cX5_askedHere 54 = .ok (.ireturn, 1) := dk_172 (dk_at dksX5_askedHere_2 8 rfl rfl)
abbrev cX5_word : ByteArray := prog_24_method_82_code
def yX5_word : MethodName := ⟨RX5, "word", "(I)I"⟩
def dkwX5_word_3 : List UInt8 := [180, 2, 29, 28, 79, 42, 89, 180, 2, 29, 4, 96, 181, 2, 29, 42, 180, 2, 29, 4, 100, 172]
abbrev dktX5_word_3 : List UInt8 := dkwX5_word_3 ++ []
def dkwX5_word_2 : List UInt8 := [42, 180, 2, 29, 104, 96, 16, 12, 182, 2, 26, 61, 28, 156, 0, 5, 2, 172, 42, 180, 0, 137, 42]
abbrev dktX5_word_2 : List UInt8 := dkwX5_word_2 ++ dktX5_word_3
def dkwX5_word_1 : List UInt8 := [16, 253, 172, 42, 27, 182, 1, 79, 42, 180, 0, 214, 154, 0, 7, 42, 182, 0, 231, 42, 16, 96, 16, 12]
abbrev dktX5_word_1 : List UInt8 := dkwX5_word_1 ++ dktX5_word_2
def dkwX5_word_0 : List UInt8 := [27, 155, 0, 11, 27, 42, 180, 0, 189, 164, 0, 6, 16, 254, 172, 42, 180, 2, 29, 16, 12, 160, 0, 6]
abbrev dktX5_word_0 : List UInt8 := dkwX5_word_0 ++ dktX5_word_1
theorem dksX5_word_0 : cX5_word.data.toList.drop 0 = dktX5_word_0 := by decide +kernel
theorem dksX5_word_1 : cX5_word.data.toList.drop 24 = dktX5_word_1 := dk_seg dksX5_word_0 24 rfl rfl
theorem dksX5_word_2 : cX5_word.data.toList.drop 48 = dktX5_word_2 := dk_seg dksX5_word_1 24 rfl rfl
theorem dksX5_word_3 : cX5_word.data.toList.drop 71 = dktX5_word_3 := dk_seg dksX5_word_2 23 rfl rfl
theorem dX5_word_0 : decode cX5_word 0 = .ok (.iload_n 1, 1) := dk_27 (dk_at dksX5_word_0 0 rfl rfl)
theorem dX5_word_1 : decode cX5_word 1 = .ok (.ifCond .lt 11, 3) := dk_155 0 11 (dk_at dksX5_word_0 1 rfl rfl)
theorem dX5_word_4 : decode cX5_word 4 = .ok (.iload_n 1, 1) := dk_27 (dk_at dksX5_word_0 4 rfl rfl)
theorem dX5_word_5 : decode cX5_word 5 = .ok (.aload_n 0, 1) := dk_42 (dk_at dksX5_word_0 5 rfl rfl)
theorem dX5_word_6 : decode cX5_word 6 = .ok (.getfield 189, 3) := dk_180 0 189 (dk_at dksX5_word_0 6 rfl rfl)
theorem dX5_word_9 : decode cX5_word 9 = .ok (.if_icmp .le 6, 3) := dk_164 0 6 (dk_at dksX5_word_0 9 rfl rfl)
theorem dX5_word_12 : decode cX5_word 12 = .ok (.bipush (-2), 2) := dk_16 254 (dk_at dksX5_word_0 12 rfl rfl)
theorem dX5_word_14 : decode cX5_word 14 = .ok (.ireturn, 1) := dk_172 (dk_at dksX5_word_0 14 rfl rfl)
theorem dX5_word_15 : decode cX5_word 15 = .ok (.aload_n 0, 1) := dk_42 (dk_at dksX5_word_0 15 rfl rfl)
theorem dX5_word_16 : decode cX5_word 16 = .ok (.getfield 541, 3) := dk_180 2 29 (dk_at dksX5_word_0 16 rfl rfl)
theorem dX5_word_19 : decode cX5_word 19 = .ok (.bipush 12, 2) := dk_16 12 (dk_at dksX5_word_0 19 rfl rfl)
theorem dX5_word_21 : decode cX5_word 21 = .ok (.if_icmp .ne 6, 3) := dk_160 0 6 (dk_at dksX5_word_0 21 rfl rfl)
theorem dX5_word_24 : decode cX5_word 24 = .ok (.bipush (-3), 2) := dk_16 253 (dk_at dksX5_word_1 0 rfl rfl)
theorem dX5_word_26 : decode cX5_word 26 = .ok (.ireturn, 1) := dk_172 (dk_at dksX5_word_1 2 rfl rfl)
theorem dX5_word_27 : decode cX5_word 27 = .ok (.aload_n 0, 1) := dk_42 (dk_at dksX5_word_1 3 rfl rfl)
theorem dX5_word_28 : decode cX5_word 28 = .ok (.iload_n 1, 1) := dk_27 (dk_at dksX5_word_1 4 rfl rfl)
theorem dX5_word_29 : decode cX5_word 29 = .ok (.invokevirtual 335, 3) := dk_182 1 79 (dk_at dksX5_word_1 5 rfl rfl)
theorem dX5_word_32 : decode cX5_word 32 = .ok (.aload_n 0, 1) := dk_42 (dk_at dksX5_word_1 8 rfl rfl)
theorem dX5_word_33 : decode cX5_word 33 = .ok (.getfield 214, 3) := dk_180 0 214 (dk_at dksX5_word_1 9 rfl rfl)
theorem dX5_word_36 : decode cX5_word 36 = .ok (.ifCond .ne 7, 3) := dk_154 0 7 (dk_at dksX5_word_1 12 rfl rfl)
theorem dX5_word_39 : decode cX5_word 39 = .ok (.aload_n 0, 1) := dk_42 (dk_at dksX5_word_1 15 rfl rfl)
theorem dX5_word_40 : decode cX5_word 40 = .ok (.invokevirtual 231, 3) := dk_182 0 231 (dk_at dksX5_word_1 16 rfl rfl)
theorem dX5_word_43 : decode cX5_word 43 = .ok (.aload_n 0, 1) := dk_42 (dk_at dksX5_word_1 19 rfl rfl)
theorem dX5_word_44 : decode cX5_word 44 = .ok (.bipush 96, 2) := dk_16 96 (dk_at dksX5_word_1 20 rfl rfl)
theorem dX5_word_46 : decode cX5_word 46 = .ok (.bipush 12, 2) := dk_16 12 (dk_at dksX5_word_1 22 rfl rfl)
theorem dX5_word_48 : decode cX5_word 48 = .ok (.aload_n 0, 1) := dk_42 (dk_at dksX5_word_2 0 rfl rfl)
theorem dX5_word_49 : decode cX5_word 49 = .ok (.getfield 541, 3) := dk_180 2 29 (dk_at dksX5_word_2 1 rfl rfl)
theorem dX5_word_52 : decode cX5_word 52 = .ok (.imul, 1) := dk_104 (dk_at dksX5_word_2 4 rfl rfl)
theorem dX5_word_53 : decode cX5_word 53 = .ok (.iadd, 1) := dk_96 (dk_at dksX5_word_2 5 rfl rfl)
theorem dX5_word_54 : decode cX5_word 54 = .ok (.bipush 12, 2) := dk_16 12 (dk_at dksX5_word_2 6 rfl rfl)
theorem dX5_word_56 : decode cX5_word 56 = .ok (.invokevirtual 538, 3) := dk_182 2 26 (dk_at dksX5_word_2 8 rfl rfl)
theorem dX5_word_59 : decode cX5_word 59 = .ok (.istore_n 2, 1) := dk_61 (dk_at dksX5_word_2 11 rfl rfl)
theorem dX5_word_60 : decode cX5_word 60 = .ok (.iload_n 2, 1) := dk_28 (dk_at dksX5_word_2 12 rfl rfl)
theorem dX5_word_61 : decode cX5_word 61 = .ok (.ifCond .ge 5, 3) := dk_156 0 5 (dk_at dksX5_word_2 13 rfl rfl)
theorem dX5_word_64 : decode cX5_word 64 = .ok (.iconst (-1), 1) := dk_2 (dk_at dksX5_word_2 16 rfl rfl)
theorem dX5_word_65 : decode cX5_word 65 = .ok (.ireturn, 1) := dk_172 (dk_at dksX5_word_2 17 rfl rfl)
theorem dX5_word_66 : decode cX5_word 66 = .ok (.aload_n 0, 1) := dk_42 (dk_at dksX5_word_2 18 rfl rfl)
theorem dX5_word_67 : decode cX5_word 67 = .ok (.getfield 137, 3) := dk_180 0 137 (dk_at dksX5_word_2 19 rfl rfl)
theorem dX5_word_70 : decode cX5_word 70 = .ok (.aload_n 0, 1) := dk_42 (dk_at dksX5_word_2 22 rfl rfl)
theorem dX5_word_71 : decode cX5_word 71 = .ok (.getfield 541, 3) := dk_180 2 29 (dk_at dksX5_word_3 0 rfl rfl)
theorem dX5_word_74 : decode cX5_word 74 = .ok (.iload_n 2, 1) := dk_28 (dk_at dksX5_word_3 3 rfl rfl)
theorem dX5_word_75 : decode cX5_word 75 = .ok (.iastore, 1) := dk_79 (dk_at dksX5_word_3 4 rfl rfl)
theorem dX5_word_76 : decode cX5_word 76 = .ok (.aload_n 0, 1) := dk_42 (dk_at dksX5_word_3 5 rfl rfl)
theorem dX5_word_77 : decode cX5_word 77 = .ok (.dup, 1) := dk_89 (dk_at dksX5_word_3 6 rfl rfl)
theorem dX5_word_78 : decode cX5_word 78 = .ok (.getfield 541, 3) := dk_180 2 29 (dk_at dksX5_word_3 7 rfl rfl)
theorem dX5_word_81 : decode cX5_word 81 = .ok (.iconst 1, 1) := dk_4 (dk_at dksX5_word_3 10 rfl rfl)
theorem dX5_word_82 : decode cX5_word 82 = .ok (.iadd, 1) := dk_96 (dk_at dksX5_word_3 11 rfl rfl)
theorem dX5_word_83 : decode cX5_word 83 = .ok (.putfield 541, 3) := dk_181 2 29 (dk_at dksX5_word_3 12 rfl rfl)
theorem dX5_word_86 : decode cX5_word 86 = .ok (.aload_n 0, 1) := dk_42 (dk_at dksX5_word_3 15 rfl rfl)
theorem dX5_word_87 : decode cX5_word 87 = .ok (.getfield 541, 3) := dk_180 2 29 (dk_at dksX5_word_3 16 rfl rfl)
theorem dX5_word_90 : decode cX5_word 90 = .ok (.iconst 1, 1) := dk_4 (dk_at dksX5_word_3 19 rfl rfl)
theorem dX5_word_91 : decode cX5_word 91 = .ok (.isub, 1) := dk_100 (dk_at dksX5_word_3 20 rfl rfl)
theorem dX5_word_92 : decode cX5_word 92 = .ok (.ireturn, 1) := dk_172 (dk_at dksX5_word_3 21 rfl rfl)
abbrev cX5_breach : ByteArray := prog_24_method_88_code
def yX5_breach : MethodName := ⟨RX5, "breach", "(I)I"⟩
def dkwX5_breach_2 : List UInt8 := [42, 180, 2, 41, 172]
abbrev dktX5_breach_2 : List UInt8 := dkwX5_breach_2 ++ []
def dkwX5_breach_1 : List UInt8 := [2, 167, 0, 27, 27, 154, 0, 7, 28, 167, 0, 19, 27, 4, 160, 0, 10, 42, 180, 2, 38, 167, 0, 7]
abbrev dktX5_breach_1 : List UInt8 := dkwX5_breach_1 ++ dktX5_breach_2
def dkwX5_breach_0 : List UInt8 := [27, 3, 5, 184, 0, 185, 154, 0, 5, 2, 172, 42, 182, 1, 196, 42, 182, 2, 53, 61, 28, 156, 0, 7]
abbrev dktX5_breach_0 : List UInt8 := dkwX5_breach_0 ++ dktX5_breach_1
theorem dksX5_breach_0 : cX5_breach.data.toList.drop 0 = dktX5_breach_0 := by decide +kernel
theorem dksX5_breach_1 : cX5_breach.data.toList.drop 24 = dktX5_breach_1 := dk_seg dksX5_breach_0 24 rfl rfl
theorem dksX5_breach_2 : cX5_breach.data.toList.drop 48 = dktX5_breach_2 := dk_seg dksX5_breach_1 24 rfl rfl
theorem dX5_breach_0 : decode cX5_breach 0 = .ok (.iload_n 1, 1) := dk_27 (dk_at dksX5_breach_0 0 rfl rfl)
theorem dX5_breach_1 : decode cX5_breach 1 = .ok (.iconst 0, 1) := dk_3 (dk_at dksX5_breach_0 1 rfl rfl)
theorem dX5_breach_2 : decode cX5_breach 2 = .ok (.iconst 2, 1) := dk_5 (dk_at dksX5_breach_0 2 rfl rfl)
theorem dX5_breach_3 : decode cX5_breach 3 = .ok (.invokestatic 185, 3) := dk_184 0 185 (dk_at dksX5_breach_0 3 rfl rfl)
theorem dX5_breach_6 : decode cX5_breach 6 = .ok (.ifCond .ne 5, 3) := dk_154 0 5 (dk_at dksX5_breach_0 6 rfl rfl)
theorem dX5_breach_9 : decode cX5_breach 9 = .ok (.iconst (-1), 1) := dk_2 (dk_at dksX5_breach_0 9 rfl rfl)
theorem dX5_breach_10 : decode cX5_breach 10 = .ok (.ireturn, 1) := dk_172 (dk_at dksX5_breach_0 10 rfl rfl)
theorem dX5_breach_11 : decode cX5_breach 11 = .ok (.aload_n 0, 1) := dk_42 (dk_at dksX5_breach_0 11 rfl rfl)
theorem dX5_breach_12 : decode cX5_breach 12 = .ok (.invokevirtual 452, 3) := dk_182 1 196 (dk_at dksX5_breach_0 12 rfl rfl)
theorem dX5_breach_15 : decode cX5_breach 15 = .ok (.aload_n 0, 1) := dk_42 (dk_at dksX5_breach_0 15 rfl rfl)
theorem dX5_breach_16 : decode cX5_breach 16 = .ok (.invokevirtual 565, 3) := dk_182 2 53 (dk_at dksX5_breach_0 16 rfl rfl)
theorem dX5_breach_19 : decode cX5_breach 19 = .ok (.istore_n 2, 1) := dk_61 (dk_at dksX5_breach_0 19 rfl rfl)
theorem dX5_breach_20 : decode cX5_breach 20 = .ok (.iload_n 2, 1) := dk_28 (dk_at dksX5_breach_0 20 rfl rfl)
theorem dX5_breach_21 : decode cX5_breach 21 = .ok (.ifCond .ge 7, 3) := dk_156 0 7 (dk_at dksX5_breach_0 21 rfl rfl)
theorem dX5_breach_24 : decode cX5_breach 24 = .ok (.iconst (-1), 1) := dk_2 (dk_at dksX5_breach_1 0 rfl rfl)
theorem dX5_breach_25 : decode cX5_breach 25 = .ok (.goto 27, 3) := dk_167 0 27 (dk_at dksX5_breach_1 1 rfl rfl)
theorem dX5_breach_28 : decode cX5_breach 28 = .ok (.iload_n 1, 1) := dk_27 (dk_at dksX5_breach_1 4 rfl rfl)
theorem dX5_breach_29 : decode cX5_breach 29 = .ok (.ifCond .ne 7, 3) := dk_154 0 7 (dk_at dksX5_breach_1 5 rfl rfl)
theorem dX5_breach_32 : decode cX5_breach 32 = .ok (.iload_n 2, 1) := dk_28 (dk_at dksX5_breach_1 8 rfl rfl)
theorem dX5_breach_33 : decode cX5_breach 33 = .ok (.goto 19, 3) := dk_167 0 19 (dk_at dksX5_breach_1 9 rfl rfl)
theorem dX5_breach_36 : decode cX5_breach 36 = .ok (.iload_n 1, 1) := dk_27 (dk_at dksX5_breach_1 12 rfl rfl)
theorem dX5_breach_37 : decode cX5_breach 37 = .ok (.iconst 1, 1) := dk_4 (dk_at dksX5_breach_1 13 rfl rfl)
theorem dX5_breach_38 : decode cX5_breach 38 = .ok (.if_icmp .ne 10, 3) := dk_160 0 10 (dk_at dksX5_breach_1 14 rfl rfl)
theorem dX5_breach_41 : decode cX5_breach 41 = .ok (.aload_n 0, 1) := dk_42 (dk_at dksX5_breach_1 17 rfl rfl)
theorem dX5_breach_42 : decode cX5_breach 42 = .ok (.getfield 550, 3) := dk_180 2 38 (dk_at dksX5_breach_1 18 rfl rfl)
theorem dX5_breach_45 : decode cX5_breach 45 = .ok (.goto 7, 3) := dk_167 0 7 (dk_at dksX5_breach_1 21 rfl rfl)
theorem dX5_breach_48 : decode cX5_breach 48 = .ok (.aload_n 0, 1) := dk_42 (dk_at dksX5_breach_2 0 rfl rfl)
theorem dX5_breach_49 : decode cX5_breach 49 = .ok (.getfield 553, 3) := dk_180 2 41 (dk_at dksX5_breach_2 1 rfl rfl)
theorem dX5_breach_52 : decode cX5_breach 52 = .ok (.ireturn, 1) := dk_172 (dk_at dksX5_breach_2 4 rfl rfl)
abbrev cX5_breachNow : ByteArray := prog_24_method_87_code
def yX5_breachNow : MethodName := ⟨RX5, "breachNow", "()I"⟩
def dkwX5_breachNow_2 : List UInt8 := [182, 2, 50, 153, 0, 5, 28, 172, 132, 2, 1, 167, 255, 228, 2, 172]
abbrev dktX5_breachNow_2 : List UInt8 := dkwX5_breachNow_2 ++ []
def dkwX5_breachNow_1 : List UInt8 := [100, 46, 60, 3, 61, 28, 27, 162, 0, 29, 42, 16, 16, 42, 180, 2, 23, 4, 100, 104, 28, 96]
abbrev dktX5_breachNow_1 : List UInt8 := dkwX5_breachNow_1 ++ dktX5_breachNow_2
def dkwX5_breachNow_0 : List UInt8 := [42, 182, 2, 47, 42, 180, 2, 23, 154, 0, 7, 3, 167, 0, 14, 42, 180, 0, 134, 42, 180, 2, 23, 4]
abbrev dktX5_breachNow_0 : List UInt8 := dkwX5_breachNow_0 ++ dktX5_breachNow_1
theorem dksX5_breachNow_0 : cX5_breachNow.data.toList.drop 0 = dktX5_breachNow_0 := by decide +kernel
theorem dksX5_breachNow_1 : cX5_breachNow.data.toList.drop 24 = dktX5_breachNow_1 := dk_seg dksX5_breachNow_0 24 rfl rfl
theorem dksX5_breachNow_2 : cX5_breachNow.data.toList.drop 46 = dktX5_breachNow_2 := dk_seg dksX5_breachNow_1 22 rfl rfl
theorem dX5_breachNow_0 : decode cX5_breachNow 0 = .ok (.aload_n 0, 1) := dk_42 (dk_at dksX5_breachNow_0 0 rfl rfl)
theorem dX5_breachNow_1 : decode cX5_breachNow 1 = .ok (.invokevirtual 559, 3) := dk_182 2 47 (dk_at dksX5_breachNow_0 1 rfl rfl)
theorem dX5_breachNow_4 : decode cX5_breachNow 4 = .ok (.aload_n 0, 1) := dk_42 (dk_at dksX5_breachNow_0 4 rfl rfl)
theorem dX5_breachNow_5 : decode cX5_breachNow 5 = .ok (.getfield 535, 3) := dk_180 2 23 (dk_at dksX5_breachNow_0 5 rfl rfl)
theorem dX5_breachNow_8 : decode cX5_breachNow 8 = .ok (.ifCond .ne 7, 3) := dk_154 0 7 (dk_at dksX5_breachNow_0 8 rfl rfl)
theorem dX5_breachNow_11 : decode cX5_breachNow 11 = .ok (.iconst 0, 1) := dk_3 (dk_at dksX5_breachNow_0 11 rfl rfl)
theorem dX5_breachNow_12 : decode cX5_breachNow 12 = .ok (.goto 14, 3) := dk_167 0 14 (dk_at dksX5_breachNow_0 12 rfl rfl)
theorem dX5_breachNow_15 : decode cX5_breachNow 15 = .ok (.aload_n 0, 1) := dk_42 (dk_at dksX5_breachNow_0 15 rfl rfl)
theorem dX5_breachNow_16 : decode cX5_breachNow 16 = .ok (.getfield 134, 3) := dk_180 0 134 (dk_at dksX5_breachNow_0 16 rfl rfl)
theorem dX5_breachNow_19 : decode cX5_breachNow 19 = .ok (.aload_n 0, 1) := dk_42 (dk_at dksX5_breachNow_0 19 rfl rfl)
theorem dX5_breachNow_20 : decode cX5_breachNow 20 = .ok (.getfield 535, 3) := dk_180 2 23 (dk_at dksX5_breachNow_0 20 rfl rfl)
theorem dX5_breachNow_23 : decode cX5_breachNow 23 = .ok (.iconst 1, 1) := dk_4 (dk_at dksX5_breachNow_0 23 rfl rfl)
theorem dX5_breachNow_24 : decode cX5_breachNow 24 = .ok (.isub, 1) := dk_100 (dk_at dksX5_breachNow_1 0 rfl rfl)
theorem dX5_breachNow_25 : decode cX5_breachNow 25 = .ok (.iaload, 1) := dk_46 (dk_at dksX5_breachNow_1 1 rfl rfl)
theorem dX5_breachNow_26 : decode cX5_breachNow 26 = .ok (.istore_n 1, 1) := dk_60 (dk_at dksX5_breachNow_1 2 rfl rfl)
theorem dX5_breachNow_27 : decode cX5_breachNow 27 = .ok (.iconst 0, 1) := dk_3 (dk_at dksX5_breachNow_1 3 rfl rfl)
theorem dX5_breachNow_28 : decode cX5_breachNow 28 = .ok (.istore_n 2, 1) := dk_61 (dk_at dksX5_breachNow_1 4 rfl rfl)
theorem dX5_breachNow_29 : decode cX5_breachNow 29 = .ok (.iload_n 2, 1) := dk_28 (dk_at dksX5_breachNow_1 5 rfl rfl)
theorem dX5_breachNow_30 : decode cX5_breachNow 30 = .ok (.iload_n 1, 1) := dk_27 (dk_at dksX5_breachNow_1 6 rfl rfl)
theorem dX5_breachNow_31 : decode cX5_breachNow 31 = .ok (.if_icmp .ge 29, 3) := dk_162 0 29 (dk_at dksX5_breachNow_1 7 rfl rfl)
theorem dX5_breachNow_34 : decode cX5_breachNow 34 = .ok (.aload_n 0, 1) := dk_42 (dk_at dksX5_breachNow_1 10 rfl rfl)
theorem dX5_breachNow_35 : decode cX5_breachNow 35 = .ok (.bipush 16, 2) := dk_16 16 (dk_at dksX5_breachNow_1 11 rfl rfl)
theorem dX5_breachNow_37 : decode cX5_breachNow 37 = .ok (.aload_n 0, 1) := dk_42 (dk_at dksX5_breachNow_1 13 rfl rfl)
theorem dX5_breachNow_38 : decode cX5_breachNow 38 = .ok (.getfield 535, 3) := dk_180 2 23 (dk_at dksX5_breachNow_1 14 rfl rfl)
theorem dX5_breachNow_41 : decode cX5_breachNow 41 = .ok (.iconst 1, 1) := dk_4 (dk_at dksX5_breachNow_1 17 rfl rfl)
theorem dX5_breachNow_42 : decode cX5_breachNow 42 = .ok (.isub, 1) := dk_100 (dk_at dksX5_breachNow_1 18 rfl rfl)
theorem dX5_breachNow_43 : decode cX5_breachNow 43 = .ok (.imul, 1) := dk_104 (dk_at dksX5_breachNow_1 19 rfl rfl)
theorem dX5_breachNow_44 : decode cX5_breachNow 44 = .ok (.iload_n 2, 1) := dk_28 (dk_at dksX5_breachNow_1 20 rfl rfl)
theorem dX5_breachNow_45 : decode cX5_breachNow 45 = .ok (.iadd, 1) := dk_96 (dk_at dksX5_breachNow_1 21 rfl rfl)
theorem dX5_breachNow_46 : decode cX5_breachNow 46 = .ok (.invokevirtual 562, 3) := dk_182 2 50 (dk_at dksX5_breachNow_2 0 rfl rfl)
theorem dX5_breachNow_49 : decode cX5_breachNow 49 = .ok (.ifCond .eq 5, 3) := dk_153 0 5 (dk_at dksX5_breachNow_2 3 rfl rfl)
theorem dX5_breachNow_52 : decode cX5_breachNow 52 = .ok (.iload_n 2, 1) := dk_28 (dk_at dksX5_breachNow_2 6 rfl rfl)
theorem dX5_breachNow_53 : decode cX5_breachNow 53 = .ok (.ireturn, 1) := dk_172 (dk_at dksX5_breachNow_2 7 rfl rfl)
theorem dX5_breachNow_54 : decode cX5_breachNow 54 = .ok (.iinc 2 1, 3) := dk_132 2 1 (dk_at dksX5_breachNow_2 8 rfl rfl)
theorem dX5_breachNow_57 : decode cX5_breachNow 57 = .ok (.goto (-28), 3) := dk_167 255 228 (dk_at dksX5_breachNow_2 11 rfl rfl)
theorem dX5_breachNow_60 : decode cX5_breachNow 60 = .ok (.iconst (-1), 1) := dk_2 (dk_at dksX5_breachNow_2 14 rfl rfl)
theorem dX5_breachNow_61 : decode cX5_breachNow 61 = .ok (.ireturn, 1) := dk_172 (dk_at dksX5_breachNow_2 15 rfl rfl)
abbrev cX5_findLeaves : ByteArray := prog_24_method_83_code
def yX5_findLeaves : MethodName := ⟨RX5, "findLeaves", "()V"⟩
def dkwX5_findLeaves_4 : List UInt8 := [180, 2, 32, 4, 96, 181, 2, 32, 132, 2, 1, 167, 255, 176, 132, 1, 1, 167, 255, 152, 177]
abbrev dktX5_findLeaves_4 : List UInt8 := dkwX5_findLeaves_4 ++ []
def dkwX5_findLeaves_3 : List UInt8 := [42, 180, 0, 164, 42, 180, 2, 32, 42, 180, 0, 61, 28, 46, 42, 28, 182, 1, 106, 96, 79, 42, 89]
abbrev dktX5_findLeaves_3 : List UInt8 := dkwX5_findLeaves_3 ++ dktX5_findLeaves_4
def dkwX5_findLeaves_2 : List UInt8 := [162, 0, 61, 42, 28, 182, 1, 100, 154, 0, 6, 167, 0, 44, 42, 180, 0, 161, 42, 180, 2, 32, 28, 79]
abbrev dktX5_findLeaves_2 : List UInt8 := dkwX5_findLeaves_2 ++ dktX5_findLeaves_3
def dkwX5_findLeaves_1 : List UInt8 := [61, 28, 16, 96, 42, 180, 0, 116, 27, 46, 104, 42, 180, 0, 13, 42, 180, 0, 116, 27, 46, 46, 96]
abbrev dktX5_findLeaves_1 : List UInt8 := dkwX5_findLeaves_1 ++ dktX5_findLeaves_2
def dkwX5_findLeaves_0 : List UInt8 := [42, 3, 181, 2, 32, 3, 60, 27, 42, 180, 1, 169, 162, 0, 102, 16, 96, 42, 180, 0, 116, 27, 46, 104]
abbrev dktX5_findLeaves_0 : List UInt8 := dkwX5_findLeaves_0 ++ dktX5_findLeaves_1
theorem dksX5_findLeaves_0 : cX5_findLeaves.data.toList.drop 0 = dktX5_findLeaves_0 := by decide +kernel
theorem dksX5_findLeaves_1 : cX5_findLeaves.data.toList.drop 24 = dktX5_findLeaves_1 := dk_seg dksX5_findLeaves_0 24 rfl rfl
theorem dksX5_findLeaves_2 : cX5_findLeaves.data.toList.drop 47 = dktX5_findLeaves_2 := dk_seg dksX5_findLeaves_1 23 rfl rfl
theorem dksX5_findLeaves_3 : cX5_findLeaves.data.toList.drop 71 = dktX5_findLeaves_3 := dk_seg dksX5_findLeaves_2 24 rfl rfl
theorem dksX5_findLeaves_4 : cX5_findLeaves.data.toList.drop 94 = dktX5_findLeaves_4 := dk_seg dksX5_findLeaves_3 23 rfl rfl
theorem dX5_findLeaves_0 : decode cX5_findLeaves 0 = .ok (.aload_n 0, 1) := dk_42 (dk_at dksX5_findLeaves_0 0 rfl rfl)
theorem dX5_findLeaves_1 : decode cX5_findLeaves 1 = .ok (.iconst 0, 1) := dk_3 (dk_at dksX5_findLeaves_0 1 rfl rfl)
theorem dX5_findLeaves_2 : decode cX5_findLeaves 2 = .ok (.putfield 544, 3) := dk_181 2 32 (dk_at dksX5_findLeaves_0 2 rfl rfl)
theorem dX5_findLeaves_5 : decode cX5_findLeaves 5 = .ok (.iconst 0, 1) := dk_3 (dk_at dksX5_findLeaves_0 5 rfl rfl)
theorem dX5_findLeaves_6 : decode cX5_findLeaves 6 = .ok (.istore_n 1, 1) := dk_60 (dk_at dksX5_findLeaves_0 6 rfl rfl)
theorem dX5_findLeaves_7 : decode cX5_findLeaves 7 = .ok (.iload_n 1, 1) := dk_27 (dk_at dksX5_findLeaves_0 7 rfl rfl)
theorem dX5_findLeaves_8 : decode cX5_findLeaves 8 = .ok (.aload_n 0, 1) := dk_42 (dk_at dksX5_findLeaves_0 8 rfl rfl)
theorem dX5_findLeaves_9 : decode cX5_findLeaves 9 = .ok (.getfield 425, 3) := dk_180 1 169 (dk_at dksX5_findLeaves_0 9 rfl rfl)
theorem dX5_findLeaves_12 : decode cX5_findLeaves 12 = .ok (.if_icmp .ge 102, 3) := dk_162 0 102 (dk_at dksX5_findLeaves_0 12 rfl rfl)
theorem dX5_findLeaves_15 : decode cX5_findLeaves 15 = .ok (.bipush 96, 2) := dk_16 96 (dk_at dksX5_findLeaves_0 15 rfl rfl)
theorem dX5_findLeaves_17 : decode cX5_findLeaves 17 = .ok (.aload_n 0, 1) := dk_42 (dk_at dksX5_findLeaves_0 17 rfl rfl)
theorem dX5_findLeaves_18 : decode cX5_findLeaves 18 = .ok (.getfield 116, 3) := dk_180 0 116 (dk_at dksX5_findLeaves_0 18 rfl rfl)
theorem dX5_findLeaves_21 : decode cX5_findLeaves 21 = .ok (.iload_n 1, 1) := dk_27 (dk_at dksX5_findLeaves_0 21 rfl rfl)
theorem dX5_findLeaves_22 : decode cX5_findLeaves 22 = .ok (.iaload, 1) := dk_46 (dk_at dksX5_findLeaves_0 22 rfl rfl)
theorem dX5_findLeaves_23 : decode cX5_findLeaves 23 = .ok (.imul, 1) := dk_104 (dk_at dksX5_findLeaves_0 23 rfl rfl)
theorem dX5_findLeaves_24 : decode cX5_findLeaves 24 = .ok (.istore_n 2, 1) := dk_61 (dk_at dksX5_findLeaves_1 0 rfl rfl)
theorem dX5_findLeaves_25 : decode cX5_findLeaves 25 = .ok (.iload_n 2, 1) := dk_28 (dk_at dksX5_findLeaves_1 1 rfl rfl)
theorem dX5_findLeaves_26 : decode cX5_findLeaves 26 = .ok (.bipush 96, 2) := dk_16 96 (dk_at dksX5_findLeaves_1 2 rfl rfl)
theorem dX5_findLeaves_28 : decode cX5_findLeaves 28 = .ok (.aload_n 0, 1) := dk_42 (dk_at dksX5_findLeaves_1 4 rfl rfl)
theorem dX5_findLeaves_29 : decode cX5_findLeaves 29 = .ok (.getfield 116, 3) := dk_180 0 116 (dk_at dksX5_findLeaves_1 5 rfl rfl)
theorem dX5_findLeaves_32 : decode cX5_findLeaves 32 = .ok (.iload_n 1, 1) := dk_27 (dk_at dksX5_findLeaves_1 8 rfl rfl)
theorem dX5_findLeaves_33 : decode cX5_findLeaves 33 = .ok (.iaload, 1) := dk_46 (dk_at dksX5_findLeaves_1 9 rfl rfl)
theorem dX5_findLeaves_34 : decode cX5_findLeaves 34 = .ok (.imul, 1) := dk_104 (dk_at dksX5_findLeaves_1 10 rfl rfl)
theorem dX5_findLeaves_35 : decode cX5_findLeaves 35 = .ok (.aload_n 0, 1) := dk_42 (dk_at dksX5_findLeaves_1 11 rfl rfl)
theorem dX5_findLeaves_36 : decode cX5_findLeaves 36 = .ok (.getfield 13, 3) := dk_180 0 13 (dk_at dksX5_findLeaves_1 12 rfl rfl)
theorem dX5_findLeaves_39 : decode cX5_findLeaves 39 = .ok (.aload_n 0, 1) := dk_42 (dk_at dksX5_findLeaves_1 15 rfl rfl)
theorem dX5_findLeaves_40 : decode cX5_findLeaves 40 = .ok (.getfield 116, 3) := dk_180 0 116 (dk_at dksX5_findLeaves_1 16 rfl rfl)
theorem dX5_findLeaves_43 : decode cX5_findLeaves 43 = .ok (.iload_n 1, 1) := dk_27 (dk_at dksX5_findLeaves_1 19 rfl rfl)
theorem dX5_findLeaves_44 : decode cX5_findLeaves 44 = .ok (.iaload, 1) := dk_46 (dk_at dksX5_findLeaves_1 20 rfl rfl)
theorem dX5_findLeaves_45 : decode cX5_findLeaves 45 = .ok (.iaload, 1) := dk_46 (dk_at dksX5_findLeaves_1 21 rfl rfl)
theorem dX5_findLeaves_46 : decode cX5_findLeaves 46 = .ok (.iadd, 1) := dk_96 (dk_at dksX5_findLeaves_1 22 rfl rfl)
theorem dX5_findLeaves_47 : decode cX5_findLeaves 47 = .ok (.if_icmp .ge 61, 3) := dk_162 0 61 (dk_at dksX5_findLeaves_2 0 rfl rfl)
theorem dX5_findLeaves_50 : decode cX5_findLeaves 50 = .ok (.aload_n 0, 1) := dk_42 (dk_at dksX5_findLeaves_2 3 rfl rfl)
theorem dX5_findLeaves_51 : decode cX5_findLeaves 51 = .ok (.iload_n 2, 1) := dk_28 (dk_at dksX5_findLeaves_2 4 rfl rfl)
theorem dX5_findLeaves_52 : decode cX5_findLeaves 52 = .ok (.invokevirtual 356, 3) := dk_182 1 100 (dk_at dksX5_findLeaves_2 5 rfl rfl)
theorem dX5_findLeaves_55 : decode cX5_findLeaves 55 = .ok (.ifCond .ne 6, 3) := dk_154 0 6 (dk_at dksX5_findLeaves_2 8 rfl rfl)
theorem dX5_findLeaves_58 : decode cX5_findLeaves 58 = .ok (.goto 44, 3) := dk_167 0 44 (dk_at dksX5_findLeaves_2 11 rfl rfl)
theorem dX5_findLeaves_61 : decode cX5_findLeaves 61 = .ok (.aload_n 0, 1) := dk_42 (dk_at dksX5_findLeaves_2 14 rfl rfl)
theorem dX5_findLeaves_62 : decode cX5_findLeaves 62 = .ok (.getfield 161, 3) := dk_180 0 161 (dk_at dksX5_findLeaves_2 15 rfl rfl)
theorem dX5_findLeaves_65 : decode cX5_findLeaves 65 = .ok (.aload_n 0, 1) := dk_42 (dk_at dksX5_findLeaves_2 18 rfl rfl)
theorem dX5_findLeaves_66 : decode cX5_findLeaves 66 = .ok (.getfield 544, 3) := dk_180 2 32 (dk_at dksX5_findLeaves_2 19 rfl rfl)
theorem dX5_findLeaves_69 : decode cX5_findLeaves 69 = .ok (.iload_n 2, 1) := dk_28 (dk_at dksX5_findLeaves_2 22 rfl rfl)
theorem dX5_findLeaves_70 : decode cX5_findLeaves 70 = .ok (.iastore, 1) := dk_79 (dk_at dksX5_findLeaves_2 23 rfl rfl)
theorem dX5_findLeaves_71 : decode cX5_findLeaves 71 = .ok (.aload_n 0, 1) := dk_42 (dk_at dksX5_findLeaves_3 0 rfl rfl)
theorem dX5_findLeaves_72 : decode cX5_findLeaves 72 = .ok (.getfield 164, 3) := dk_180 0 164 (dk_at dksX5_findLeaves_3 1 rfl rfl)
theorem dX5_findLeaves_75 : decode cX5_findLeaves 75 = .ok (.aload_n 0, 1) := dk_42 (dk_at dksX5_findLeaves_3 4 rfl rfl)
theorem dX5_findLeaves_76 : decode cX5_findLeaves 76 = .ok (.getfield 544, 3) := dk_180 2 32 (dk_at dksX5_findLeaves_3 5 rfl rfl)
theorem dX5_findLeaves_79 : decode cX5_findLeaves 79 = .ok (.aload_n 0, 1) := dk_42 (dk_at dksX5_findLeaves_3 8 rfl rfl)
theorem dX5_findLeaves_80 : decode cX5_findLeaves 80 = .ok (.getfield 61, 3) := dk_180 0 61 (dk_at dksX5_findLeaves_3 9 rfl rfl)
theorem dX5_findLeaves_83 : decode cX5_findLeaves 83 = .ok (.iload_n 2, 1) := dk_28 (dk_at dksX5_findLeaves_3 12 rfl rfl)
theorem dX5_findLeaves_84 : decode cX5_findLeaves 84 = .ok (.iaload, 1) := dk_46 (dk_at dksX5_findLeaves_3 13 rfl rfl)
theorem dX5_findLeaves_85 : decode cX5_findLeaves 85 = .ok (.aload_n 0, 1) := dk_42 (dk_at dksX5_findLeaves_3 14 rfl rfl)
theorem dX5_findLeaves_86 : decode cX5_findLeaves 86 = .ok (.iload_n 2, 1) := dk_28 (dk_at dksX5_findLeaves_3 15 rfl rfl)
theorem dX5_findLeaves_87 : decode cX5_findLeaves 87 = .ok (.invokevirtual 362, 3) := dk_182 1 106 (dk_at dksX5_findLeaves_3 16 rfl rfl)
theorem dX5_findLeaves_90 : decode cX5_findLeaves 90 = .ok (.iadd, 1) := dk_96 (dk_at dksX5_findLeaves_3 19 rfl rfl)
theorem dX5_findLeaves_91 : decode cX5_findLeaves 91 = .ok (.iastore, 1) := dk_79 (dk_at dksX5_findLeaves_3 20 rfl rfl)
theorem dX5_findLeaves_92 : decode cX5_findLeaves 92 = .ok (.aload_n 0, 1) := dk_42 (dk_at dksX5_findLeaves_3 21 rfl rfl)
theorem dX5_findLeaves_93 : decode cX5_findLeaves 93 = .ok (.dup, 1) := dk_89 (dk_at dksX5_findLeaves_3 22 rfl rfl)
theorem dX5_findLeaves_94 : decode cX5_findLeaves 94 = .ok (.getfield 544, 3) := dk_180 2 32 (dk_at dksX5_findLeaves_4 0 rfl rfl)
theorem dX5_findLeaves_97 : decode cX5_findLeaves 97 = .ok (.iconst 1, 1) := dk_4 (dk_at dksX5_findLeaves_4 3 rfl rfl)
theorem dX5_findLeaves_98 : decode cX5_findLeaves 98 = .ok (.iadd, 1) := dk_96 (dk_at dksX5_findLeaves_4 4 rfl rfl)
theorem dX5_findLeaves_99 : decode cX5_findLeaves 99 = .ok (.putfield 544, 3) := dk_181 2 32 (dk_at dksX5_findLeaves_4 5 rfl rfl)
theorem dX5_findLeaves_102 : decode cX5_findLeaves 102 = .ok (.iinc 2 1, 3) := dk_132 2 1 (dk_at dksX5_findLeaves_4 8 rfl rfl)
theorem dX5_findLeaves_105 : decode cX5_findLeaves 105 = .ok (.goto (-80), 3) := dk_167 255 176 (dk_at dksX5_findLeaves_4 11 rfl rfl)
theorem dX5_findLeaves_108 : decode cX5_findLeaves 108 = .ok (.iinc 1 1, 3) := dk_132 1 1 (dk_at dksX5_findLeaves_4 14 rfl rfl)
theorem dX5_findLeaves_111 : decode cX5_findLeaves 111 = .ok (.goto (-104), 3) := dk_167 255 152 (dk_at dksX5_findLeaves_4 17 rfl rfl)
theorem dX5_findLeaves_114 : decode cX5_findLeaves 114 = .ok (.return_, 1) := dk_177 (dk_at dksX5_findLeaves_4 20 rfl rfl)
abbrev cX5_doesBar : ByteArray := prog_24_method_86_code
def yX5_doesBar : MethodName := ⟨RX5, "doesBar", "(I)Z"⟩
def dkwX5_doesBar_4 : List UInt8 := [167, 255, 165, 3, 172]
abbrev dktX5_doesBar_4 : List UInt8 := dkwX5_doesBar_4 ++ []
def dkwX5_doesBar_3 : List UInt8 := [154, 0, 6, 167, 0, 10, 42, 29, 181, 2, 41, 4, 172, 132, 3, 1, 167, 255, 225, 132, 2, 1]
abbrev dktX5_doesBar_3 : List UInt8 := dkwX5_doesBar_3 ++ dktX5_doesBar_4
def dkwX5_doesBar_2 : List UInt8 := [51, 154, 0, 5, 4, 172, 3, 62, 29, 42, 180, 2, 32, 162, 0, 29, 42, 27, 28, 29, 182, 2, 44]
abbrev dktX5_doesBar_2 : List UInt8 := dkwX5_doesBar_2 ++ dktX5_doesBar_3
def dkwX5_doesBar_1 : List UInt8 := [182, 2, 35, 154, 0, 6, 167, 0, 60, 42, 28, 181, 2, 38, 42, 2, 181, 2, 41, 42, 180, 0, 158, 27]
abbrev dktX5_doesBar_1 : List UInt8 := dkwX5_doesBar_1 ++ dktX5_doesBar_2
def dkwX5_doesBar_0 : List UInt8 := [3, 61, 28, 42, 180, 2, 32, 162, 0, 89, 42, 28, 42, 180, 0, 140, 27, 46, 42, 180, 0, 143, 27, 46]
abbrev dktX5_doesBar_0 : List UInt8 := dkwX5_doesBar_0 ++ dktX5_doesBar_1
theorem dksX5_doesBar_0 : cX5_doesBar.data.toList.drop 0 = dktX5_doesBar_0 := by decide +kernel
theorem dksX5_doesBar_1 : cX5_doesBar.data.toList.drop 24 = dktX5_doesBar_1 := dk_seg dksX5_doesBar_0 24 rfl rfl
theorem dksX5_doesBar_2 : cX5_doesBar.data.toList.drop 48 = dktX5_doesBar_2 := dk_seg dksX5_doesBar_1 24 rfl rfl
theorem dksX5_doesBar_3 : cX5_doesBar.data.toList.drop 71 = dktX5_doesBar_3 := dk_seg dksX5_doesBar_2 23 rfl rfl
theorem dksX5_doesBar_4 : cX5_doesBar.data.toList.drop 93 = dktX5_doesBar_4 := dk_seg dksX5_doesBar_3 22 rfl rfl
theorem dX5_doesBar_0 : decode cX5_doesBar 0 = .ok (.iconst 0, 1) := dk_3 (dk_at dksX5_doesBar_0 0 rfl rfl)
theorem dX5_doesBar_1 : decode cX5_doesBar 1 = .ok (.istore_n 2, 1) := dk_61 (dk_at dksX5_doesBar_0 1 rfl rfl)
theorem dX5_doesBar_2 : decode cX5_doesBar 2 = .ok (.iload_n 2, 1) := dk_28 (dk_at dksX5_doesBar_0 2 rfl rfl)
theorem dX5_doesBar_3 : decode cX5_doesBar 3 = .ok (.aload_n 0, 1) := dk_42 (dk_at dksX5_doesBar_0 3 rfl rfl)
theorem dX5_doesBar_4 : decode cX5_doesBar 4 = .ok (.getfield 544, 3) := dk_180 2 32 (dk_at dksX5_doesBar_0 4 rfl rfl)
theorem dX5_doesBar_7 : decode cX5_doesBar 7 = .ok (.if_icmp .ge 89, 3) := dk_162 0 89 (dk_at dksX5_doesBar_0 7 rfl rfl)
theorem dX5_doesBar_10 : decode cX5_doesBar 10 = .ok (.aload_n 0, 1) := dk_42 (dk_at dksX5_doesBar_0 10 rfl rfl)
theorem dX5_doesBar_11 : decode cX5_doesBar 11 = .ok (.iload_n 2, 1) := dk_28 (dk_at dksX5_doesBar_0 11 rfl rfl)
theorem dX5_doesBar_12 : decode cX5_doesBar 12 = .ok (.aload_n 0, 1) := dk_42 (dk_at dksX5_doesBar_0 12 rfl rfl)
theorem dX5_doesBar_13 : decode cX5_doesBar 13 = .ok (.getfield 140, 3) := dk_180 0 140 (dk_at dksX5_doesBar_0 13 rfl rfl)
theorem dX5_doesBar_16 : decode cX5_doesBar 16 = .ok (.iload_n 1, 1) := dk_27 (dk_at dksX5_doesBar_0 16 rfl rfl)
theorem dX5_doesBar_17 : decode cX5_doesBar 17 = .ok (.iaload, 1) := dk_46 (dk_at dksX5_doesBar_0 17 rfl rfl)
theorem dX5_doesBar_18 : decode cX5_doesBar 18 = .ok (.aload_n 0, 1) := dk_42 (dk_at dksX5_doesBar_0 18 rfl rfl)
theorem dX5_doesBar_19 : decode cX5_doesBar 19 = .ok (.getfield 143, 3) := dk_180 0 143 (dk_at dksX5_doesBar_0 19 rfl rfl)
theorem dX5_doesBar_22 : decode cX5_doesBar 22 = .ok (.iload_n 1, 1) := dk_27 (dk_at dksX5_doesBar_0 22 rfl rfl)
theorem dX5_doesBar_23 : decode cX5_doesBar 23 = .ok (.iaload, 1) := dk_46 (dk_at dksX5_doesBar_0 23 rfl rfl)
theorem dX5_doesBar_24 : decode cX5_doesBar 24 = .ok (.invokevirtual 547, 3) := dk_182 2 35 (dk_at dksX5_doesBar_1 0 rfl rfl)
theorem dX5_doesBar_27 : decode cX5_doesBar 27 = .ok (.ifCond .ne 6, 3) := dk_154 0 6 (dk_at dksX5_doesBar_1 3 rfl rfl)
theorem dX5_doesBar_30 : decode cX5_doesBar 30 = .ok (.goto 60, 3) := dk_167 0 60 (dk_at dksX5_doesBar_1 6 rfl rfl)
theorem dX5_doesBar_33 : decode cX5_doesBar 33 = .ok (.aload_n 0, 1) := dk_42 (dk_at dksX5_doesBar_1 9 rfl rfl)
theorem dX5_doesBar_34 : decode cX5_doesBar 34 = .ok (.iload_n 2, 1) := dk_28 (dk_at dksX5_doesBar_1 10 rfl rfl)
theorem dX5_doesBar_35 : decode cX5_doesBar 35 = .ok (.putfield 550, 3) := dk_181 2 38 (dk_at dksX5_doesBar_1 11 rfl rfl)
theorem dX5_doesBar_38 : decode cX5_doesBar 38 = .ok (.aload_n 0, 1) := dk_42 (dk_at dksX5_doesBar_1 14 rfl rfl)
theorem dX5_doesBar_39 : decode cX5_doesBar 39 = .ok (.iconst (-1), 1) := dk_2 (dk_at dksX5_doesBar_1 15 rfl rfl)
theorem dX5_doesBar_40 : decode cX5_doesBar 40 = .ok (.putfield 553, 3) := dk_181 2 41 (dk_at dksX5_doesBar_1 16 rfl rfl)
theorem dX5_doesBar_43 : decode cX5_doesBar 43 = .ok (.aload_n 0, 1) := dk_42 (dk_at dksX5_doesBar_1 19 rfl rfl)
theorem dX5_doesBar_44 : decode cX5_doesBar 44 = .ok (.getfield 158, 3) := dk_180 0 158 (dk_at dksX5_doesBar_1 20 rfl rfl)
theorem dX5_doesBar_47 : decode cX5_doesBar 47 = .ok (.iload_n 1, 1) := dk_27 (dk_at dksX5_doesBar_1 23 rfl rfl)
theorem dX5_doesBar_48 : decode cX5_doesBar 48 = .ok (.baload, 1) := dk_51 (dk_at dksX5_doesBar_2 0 rfl rfl)
theorem dX5_doesBar_49 : decode cX5_doesBar 49 = .ok (.ifCond .ne 5, 3) := dk_154 0 5 (dk_at dksX5_doesBar_2 1 rfl rfl)
theorem dX5_doesBar_52 : decode cX5_doesBar 52 = .ok (.iconst 1, 1) := dk_4 (dk_at dksX5_doesBar_2 4 rfl rfl)
theorem dX5_doesBar_53 : decode cX5_doesBar 53 = .ok (.ireturn, 1) := dk_172 (dk_at dksX5_doesBar_2 5 rfl rfl)
theorem dX5_doesBar_54 : decode cX5_doesBar 54 = .ok (.iconst 0, 1) := dk_3 (dk_at dksX5_doesBar_2 6 rfl rfl)
theorem dX5_doesBar_55 : decode cX5_doesBar 55 = .ok (.istore_n 3, 1) := dk_62 (dk_at dksX5_doesBar_2 7 rfl rfl)
theorem dX5_doesBar_56 : decode cX5_doesBar 56 = .ok (.iload_n 3, 1) := dk_29 (dk_at dksX5_doesBar_2 8 rfl rfl)
theorem dX5_doesBar_57 : decode cX5_doesBar 57 = .ok (.aload_n 0, 1) := dk_42 (dk_at dksX5_doesBar_2 9 rfl rfl)
theorem dX5_doesBar_58 : decode cX5_doesBar 58 = .ok (.getfield 544, 3) := dk_180 2 32 (dk_at dksX5_doesBar_2 10 rfl rfl)
theorem dX5_doesBar_61 : decode cX5_doesBar 61 = .ok (.if_icmp .ge 29, 3) := dk_162 0 29 (dk_at dksX5_doesBar_2 13 rfl rfl)
theorem dX5_doesBar_64 : decode cX5_doesBar 64 = .ok (.aload_n 0, 1) := dk_42 (dk_at dksX5_doesBar_2 16 rfl rfl)
theorem dX5_doesBar_65 : decode cX5_doesBar 65 = .ok (.iload_n 1, 1) := dk_27 (dk_at dksX5_doesBar_2 17 rfl rfl)
theorem dX5_doesBar_66 : decode cX5_doesBar 66 = .ok (.iload_n 2, 1) := dk_28 (dk_at dksX5_doesBar_2 18 rfl rfl)
theorem dX5_doesBar_67 : decode cX5_doesBar 67 = .ok (.iload_n 3, 1) := dk_29 (dk_at dksX5_doesBar_2 19 rfl rfl)
theorem dX5_doesBar_68 : decode cX5_doesBar 68 = .ok (.invokevirtual 556, 3) := dk_182 2 44 (dk_at dksX5_doesBar_2 20 rfl rfl)
theorem dX5_doesBar_71 : decode cX5_doesBar 71 = .ok (.ifCond .ne 6, 3) := dk_154 0 6 (dk_at dksX5_doesBar_3 0 rfl rfl)
theorem dX5_doesBar_74 : decode cX5_doesBar 74 = .ok (.goto 10, 3) := dk_167 0 10 (dk_at dksX5_doesBar_3 3 rfl rfl)
theorem dX5_doesBar_77 : decode cX5_doesBar 77 = .ok (.aload_n 0, 1) := dk_42 (dk_at dksX5_doesBar_3 6 rfl rfl)
theorem dX5_doesBar_78 : decode cX5_doesBar 78 = .ok (.iload_n 3, 1) := dk_29 (dk_at dksX5_doesBar_3 7 rfl rfl)
theorem dX5_doesBar_79 : decode cX5_doesBar 79 = .ok (.putfield 553, 3) := dk_181 2 41 (dk_at dksX5_doesBar_3 8 rfl rfl)
theorem dX5_doesBar_82 : decode cX5_doesBar 82 = .ok (.iconst 1, 1) := dk_4 (dk_at dksX5_doesBar_3 11 rfl rfl)
theorem dX5_doesBar_83 : decode cX5_doesBar 83 = .ok (.ireturn, 1) := dk_172 (dk_at dksX5_doesBar_3 12 rfl rfl)
theorem dX5_doesBar_84 : decode cX5_doesBar 84 = .ok (.iinc 3 1, 3) := dk_132 3 1 (dk_at dksX5_doesBar_3 13 rfl rfl)
theorem dX5_doesBar_87 : decode cX5_doesBar 87 = .ok (.goto (-31), 3) := dk_167 255 225 (dk_at dksX5_doesBar_3 16 rfl rfl)
theorem dX5_doesBar_90 : decode cX5_doesBar 90 = .ok (.iinc 2 1, 3) := dk_132 2 1 (dk_at dksX5_doesBar_3 19 rfl rfl)
theorem dX5_doesBar_93 : decode cX5_doesBar 93 = .ok (.goto (-91), 3) := dk_167 255 165 (dk_at dksX5_doesBar_4 0 rfl rfl)
theorem dX5_doesBar_96 : decode cX5_doesBar 96 = .ok (.iconst 0, 1) := dk_3 (dk_at dksX5_doesBar_4 3 rfl rfl)
theorem dX5_doesBar_97 : decode cX5_doesBar 97 = .ok (.ireturn, 1) := dk_172 (dk_at dksX5_doesBar_4 4 rfl rfl)
abbrev cX5_isOf : ByteArray := prog_24_method_84_code
def yX5_isOf : MethodName := ⟨RX5, "isOf", "(III)Z"⟩
def dkwX5_isOf_1 : List UInt8 := [29, 155, 0, 14, 42, 180, 0, 52, 21, 4, 46, 29, 160, 0, 7, 4, 167, 0, 4, 3, 172]
abbrev dktX5_isOf_1 : List UInt8 := dkwX5_isOf_1 ++ []
def dkwX5_isOf_0 : List UInt8 := [42, 180, 0, 161, 27, 46, 54, 4, 28, 7, 159, 0, 14, 42, 180, 0, 28, 21, 4, 46, 28, 160, 0, 22]
abbrev dktX5_isOf_0 : List UInt8 := dkwX5_isOf_0 ++ dktX5_isOf_1
theorem dksX5_isOf_0 : cX5_isOf.data.toList.drop 0 = dktX5_isOf_0 := by decide +kernel
theorem dksX5_isOf_1 : cX5_isOf.data.toList.drop 24 = dktX5_isOf_1 := dk_seg dksX5_isOf_0 24 rfl rfl
theorem dX5_isOf_0 : decode cX5_isOf 0 = .ok (.aload_n 0, 1) := dk_42 (dk_at dksX5_isOf_0 0 rfl rfl)
theorem dX5_isOf_1 : decode cX5_isOf 1 = .ok (.getfield 161, 3) := dk_180 0 161 (dk_at dksX5_isOf_0 1 rfl rfl)
theorem dX5_isOf_4 : decode cX5_isOf 4 = .ok (.iload_n 1, 1) := dk_27 (dk_at dksX5_isOf_0 4 rfl rfl)
theorem dX5_isOf_5 : decode cX5_isOf 5 = .ok (.iaload, 1) := dk_46 (dk_at dksX5_isOf_0 5 rfl rfl)
theorem dX5_isOf_6 : decode cX5_isOf 6 = .ok (.istore 4, 2) := dk_54 4 (dk_at dksX5_isOf_0 6 rfl rfl)
theorem dX5_isOf_8 : decode cX5_isOf 8 = .ok (.iload_n 2, 1) := dk_28 (dk_at dksX5_isOf_0 8 rfl rfl)
theorem dX5_isOf_9 : decode cX5_isOf 9 = .ok (.iconst 4, 1) := dk_7 (dk_at dksX5_isOf_0 9 rfl rfl)
theorem dX5_isOf_10 : decode cX5_isOf 10 = .ok (.if_icmp .eq 14, 3) := dk_159 0 14 (dk_at dksX5_isOf_0 10 rfl rfl)
theorem dX5_isOf_13 : decode cX5_isOf 13 = .ok (.aload_n 0, 1) := dk_42 (dk_at dksX5_isOf_0 13 rfl rfl)
theorem dX5_isOf_14 : decode cX5_isOf 14 = .ok (.getfield 28, 3) := dk_180 0 28 (dk_at dksX5_isOf_0 14 rfl rfl)
theorem dX5_isOf_17 : decode cX5_isOf 17 = .ok (.iload 4, 2) := dk_21 4 (dk_at dksX5_isOf_0 17 rfl rfl)
theorem dX5_isOf_19 : decode cX5_isOf 19 = .ok (.iaload, 1) := dk_46 (dk_at dksX5_isOf_0 19 rfl rfl)
theorem dX5_isOf_20 : decode cX5_isOf 20 = .ok (.iload_n 2, 1) := dk_28 (dk_at dksX5_isOf_0 20 rfl rfl)
theorem dX5_isOf_21 : decode cX5_isOf 21 = .ok (.if_icmp .ne 22, 3) := dk_160 0 22 (dk_at dksX5_isOf_0 21 rfl rfl)
theorem dX5_isOf_24 : decode cX5_isOf 24 = .ok (.iload_n 3, 1) := dk_29 (dk_at dksX5_isOf_1 0 rfl rfl)
theorem dX5_isOf_25 : decode cX5_isOf 25 = .ok (.ifCond .lt 14, 3) := dk_155 0 14 (dk_at dksX5_isOf_1 1 rfl rfl)
theorem dX5_isOf_28 : decode cX5_isOf 28 = .ok (.aload_n 0, 1) := dk_42 (dk_at dksX5_isOf_1 4 rfl rfl)
theorem dX5_isOf_29 : decode cX5_isOf 29 = .ok (.getfield 52, 3) := dk_180 0 52 (dk_at dksX5_isOf_1 5 rfl rfl)
theorem dX5_isOf_32 : decode cX5_isOf 32 = .ok (.iload 4, 2) := dk_21 4 (dk_at dksX5_isOf_1 8 rfl rfl)
theorem dX5_isOf_34 : decode cX5_isOf 34 = .ok (.iaload, 1) := dk_46 (dk_at dksX5_isOf_1 10 rfl rfl)
theorem dX5_isOf_35 : decode cX5_isOf 35 = .ok (.iload_n 3, 1) := dk_29 (dk_at dksX5_isOf_1 11 rfl rfl)
theorem dX5_isOf_36 : decode cX5_isOf 36 = .ok (.if_icmp .ne 7, 3) := dk_160 0 7 (dk_at dksX5_isOf_1 12 rfl rfl)
theorem dX5_isOf_39 : decode cX5_isOf 39 = .ok (.iconst 1, 1) := dk_4 (dk_at dksX5_isOf_1 15 rfl rfl)
theorem dX5_isOf_40 : decode cX5_isOf 40 = .ok (.goto 4, 3) := dk_167 0 4 (dk_at dksX5_isOf_1 16 rfl rfl)
theorem dX5_isOf_43 : decode cX5_isOf 43 = .ok (.iconst 0, 1) := dk_3 (dk_at dksX5_isOf_1 19 rfl rfl)
theorem dX5_isOf_44 : decode cX5_isOf 44 = .ok (.ireturn, 1) := dk_172 (dk_at dksX5_isOf_1 20 rfl rfl)
abbrev cX5_isPair : ByteArray := prog_24_method_85_code
def yX5_isPair : MethodName := ⟨RX5, "isPair", "(III)Z"⟩
def dkwX5_isPair_9 : List UInt8 := [4, 167, 0, 4, 3, 172]
abbrev dktX5_isPair_9 : List UInt8 := dkwX5_isPair_9 ++ []
def dkwX5_isPair_8 : List UInt8 := [27, 46, 7, 126, 153, 0, 20, 42, 180, 0, 58, 21, 6, 46, 42, 180, 0, 58, 21, 5, 46, 164, 0, 7]
abbrev dktX5_isPair_8 : List UInt8 := dkwX5_isPair_8 ++ dktX5_isPair_9
def dkwX5_isPair_7 : List UInt8 := [153, 0, 20, 42, 180, 0, 52, 21, 5, 46, 42, 180, 0, 52, 21, 6, 46, 160, 0, 35, 42, 180, 0, 152]
abbrev dktX5_isPair_7 : List UInt8 := dkwX5_isPair_7 ++ dktX5_isPair_8
def dkwX5_isPair_6 : List UInt8 := [180, 0, 7, 42, 180, 0, 49, 21, 5, 46, 46, 159, 0, 5, 3, 172, 42, 180, 0, 152, 27, 46, 5, 126]
abbrev dktX5_isPair_6 : List UInt8 := dkwX5_isPair_6 ++ dktX5_isPair_7
def dkwX5_isPair_5 : List UInt8 := [180, 0, 46, 21, 5, 46, 46, 160, 0, 30, 42, 180, 0, 7, 42, 180, 0, 46, 21, 6, 46, 46, 42]
abbrev dktX5_isPair_5 : List UInt8 := dkwX5_isPair_5 ++ dktX5_isPair_6
def dkwX5_isPair_4 : List UInt8 := [126, 4, 160, 0, 59, 42, 180, 0, 7, 42, 180, 0, 49, 21, 6, 46, 46, 42, 180, 0, 7, 42]
abbrev dktX5_isPair_4 : List UInt8 := dkwX5_isPair_4 ++ dktX5_isPair_5
def dkwX5_isPair_3 : List UInt8 := [172, 42, 180, 0, 161, 28, 46, 54, 5, 42, 180, 0, 161, 29, 46, 54, 6, 42, 180, 0, 152, 27, 46, 4]
abbrev dktX5_isPair_3 : List UInt8 := dkwX5_isPair_3 ++ dktX5_isPair_4
def dkwX5_isPair_2 : List UInt8 := [164, 0, 23, 42, 180, 0, 155, 27, 46, 155, 0, 16, 21, 4, 42, 180, 0, 155, 27, 46, 164, 0, 5, 3]
abbrev dktX5_isPair_2 : List UInt8 := dkwX5_isPair_2 ++ dktX5_isPair_3
def dkwX5_isPair_1 : List UInt8 := [180, 0, 149, 27, 46, 182, 2, 35, 153, 0, 38, 21, 4, 155, 0, 33, 21, 4, 154, 0, 8, 29, 28]
abbrev dktX5_isPair_1 : List UInt8 := dkwX5_isPair_1 ++ dktX5_isPair_2
def dkwX5_isPair_0 : List UInt8 := [42, 180, 0, 164, 29, 46, 42, 180, 0, 164, 28, 46, 100, 54, 4, 42, 29, 42, 180, 0, 146, 27, 46, 42]
abbrev dktX5_isPair_0 : List UInt8 := dkwX5_isPair_0 ++ dktX5_isPair_1
theorem dksX5_isPair_0 : cX5_isPair.data.toList.drop 0 = dktX5_isPair_0 := by decide +kernel
theorem dksX5_isPair_1 : cX5_isPair.data.toList.drop 24 = dktX5_isPair_1 := dk_seg dksX5_isPair_0 24 rfl rfl
theorem dksX5_isPair_2 : cX5_isPair.data.toList.drop 47 = dktX5_isPair_2 := dk_seg dksX5_isPair_1 23 rfl rfl
theorem dksX5_isPair_3 : cX5_isPair.data.toList.drop 71 = dktX5_isPair_3 := dk_seg dksX5_isPair_2 24 rfl rfl
theorem dksX5_isPair_4 : cX5_isPair.data.toList.drop 95 = dktX5_isPair_4 := dk_seg dksX5_isPair_3 24 rfl rfl
theorem dksX5_isPair_5 : cX5_isPair.data.toList.drop 117 = dktX5_isPair_5 := dk_seg dksX5_isPair_4 22 rfl rfl
theorem dksX5_isPair_6 : cX5_isPair.data.toList.drop 140 = dktX5_isPair_6 := dk_seg dksX5_isPair_5 23 rfl rfl
theorem dksX5_isPair_7 : cX5_isPair.data.toList.drop 164 = dktX5_isPair_7 := dk_seg dksX5_isPair_6 24 rfl rfl
theorem dksX5_isPair_8 : cX5_isPair.data.toList.drop 188 = dktX5_isPair_8 := dk_seg dksX5_isPair_7 24 rfl rfl
theorem dksX5_isPair_9 : cX5_isPair.data.toList.drop 212 = dktX5_isPair_9 := dk_seg dksX5_isPair_8 24 rfl rfl
theorem dX5_isPair_0 : decode cX5_isPair 0 = .ok (.aload_n 0, 1) := dk_42 (dk_at dksX5_isPair_0 0 rfl rfl)
theorem dX5_isPair_1 : decode cX5_isPair 1 = .ok (.getfield 164, 3) := dk_180 0 164 (dk_at dksX5_isPair_0 1 rfl rfl)
theorem dX5_isPair_4 : decode cX5_isPair 4 = .ok (.iload_n 3, 1) := dk_29 (dk_at dksX5_isPair_0 4 rfl rfl)
theorem dX5_isPair_5 : decode cX5_isPair 5 = .ok (.iaload, 1) := dk_46 (dk_at dksX5_isPair_0 5 rfl rfl)
theorem dX5_isPair_6 : decode cX5_isPair 6 = .ok (.aload_n 0, 1) := dk_42 (dk_at dksX5_isPair_0 6 rfl rfl)
theorem dX5_isPair_7 : decode cX5_isPair 7 = .ok (.getfield 164, 3) := dk_180 0 164 (dk_at dksX5_isPair_0 7 rfl rfl)
theorem dX5_isPair_10 : decode cX5_isPair 10 = .ok (.iload_n 2, 1) := dk_28 (dk_at dksX5_isPair_0 10 rfl rfl)
theorem dX5_isPair_11 : decode cX5_isPair 11 = .ok (.iaload, 1) := dk_46 (dk_at dksX5_isPair_0 11 rfl rfl)
theorem dX5_isPair_12 : decode cX5_isPair 12 = .ok (.isub, 1) := dk_100 (dk_at dksX5_isPair_0 12 rfl rfl)
theorem dX5_isPair_13 : decode cX5_isPair 13 = .ok (.istore 4, 2) := dk_54 4 (dk_at dksX5_isPair_0 13 rfl rfl)
theorem dX5_isPair_15 : decode cX5_isPair 15 = .ok (.aload_n 0, 1) := dk_42 (dk_at dksX5_isPair_0 15 rfl rfl)
theorem dX5_isPair_16 : decode cX5_isPair 16 = .ok (.iload_n 3, 1) := dk_29 (dk_at dksX5_isPair_0 16 rfl rfl)
theorem dX5_isPair_17 : decode cX5_isPair 17 = .ok (.aload_n 0, 1) := dk_42 (dk_at dksX5_isPair_0 17 rfl rfl)
theorem dX5_isPair_18 : decode cX5_isPair 18 = .ok (.getfield 146, 3) := dk_180 0 146 (dk_at dksX5_isPair_0 18 rfl rfl)
theorem dX5_isPair_21 : decode cX5_isPair 21 = .ok (.iload_n 1, 1) := dk_27 (dk_at dksX5_isPair_0 21 rfl rfl)
theorem dX5_isPair_22 : decode cX5_isPair 22 = .ok (.iaload, 1) := dk_46 (dk_at dksX5_isPair_0 22 rfl rfl)
theorem dX5_isPair_23 : decode cX5_isPair 23 = .ok (.aload_n 0, 1) := dk_42 (dk_at dksX5_isPair_0 23 rfl rfl)
theorem dX5_isPair_24 : decode cX5_isPair 24 = .ok (.getfield 149, 3) := dk_180 0 149 (dk_at dksX5_isPair_1 0 rfl rfl)
theorem dX5_isPair_27 : decode cX5_isPair 27 = .ok (.iload_n 1, 1) := dk_27 (dk_at dksX5_isPair_1 3 rfl rfl)
theorem dX5_isPair_28 : decode cX5_isPair 28 = .ok (.iaload, 1) := dk_46 (dk_at dksX5_isPair_1 4 rfl rfl)
theorem dX5_isPair_29 : decode cX5_isPair 29 = .ok (.invokevirtual 547, 3) := dk_182 2 35 (dk_at dksX5_isPair_1 5 rfl rfl)
theorem dX5_isPair_32 : decode cX5_isPair 32 = .ok (.ifCond .eq 38, 3) := dk_153 0 38 (dk_at dksX5_isPair_1 8 rfl rfl)
theorem dX5_isPair_35 : decode cX5_isPair 35 = .ok (.iload 4, 2) := dk_21 4 (dk_at dksX5_isPair_1 11 rfl rfl)
theorem dX5_isPair_37 : decode cX5_isPair 37 = .ok (.ifCond .lt 33, 3) := dk_155 0 33 (dk_at dksX5_isPair_1 13 rfl rfl)
theorem dX5_isPair_40 : decode cX5_isPair 40 = .ok (.iload 4, 2) := dk_21 4 (dk_at dksX5_isPair_1 16 rfl rfl)
theorem dX5_isPair_42 : decode cX5_isPair 42 = .ok (.ifCond .ne 8, 3) := dk_154 0 8 (dk_at dksX5_isPair_1 18 rfl rfl)
theorem dX5_isPair_45 : decode cX5_isPair 45 = .ok (.iload_n 3, 1) := dk_29 (dk_at dksX5_isPair_1 21 rfl rfl)
theorem dX5_isPair_46 : decode cX5_isPair 46 = .ok (.iload_n 2, 1) := dk_28 (dk_at dksX5_isPair_1 22 rfl rfl)
theorem dX5_isPair_47 : decode cX5_isPair 47 = .ok (.if_icmp .le 23, 3) := dk_164 0 23 (dk_at dksX5_isPair_2 0 rfl rfl)
theorem dX5_isPair_50 : decode cX5_isPair 50 = .ok (.aload_n 0, 1) := dk_42 (dk_at dksX5_isPair_2 3 rfl rfl)
theorem dX5_isPair_51 : decode cX5_isPair 51 = .ok (.getfield 155, 3) := dk_180 0 155 (dk_at dksX5_isPair_2 4 rfl rfl)
theorem dX5_isPair_54 : decode cX5_isPair 54 = .ok (.iload_n 1, 1) := dk_27 (dk_at dksX5_isPair_2 7 rfl rfl)
theorem dX5_isPair_55 : decode cX5_isPair 55 = .ok (.iaload, 1) := dk_46 (dk_at dksX5_isPair_2 8 rfl rfl)
theorem dX5_isPair_56 : decode cX5_isPair 56 = .ok (.ifCond .lt 16, 3) := dk_155 0 16 (dk_at dksX5_isPair_2 9 rfl rfl)
theorem dX5_isPair_59 : decode cX5_isPair 59 = .ok (.iload 4, 2) := dk_21 4 (dk_at dksX5_isPair_2 12 rfl rfl)
theorem dX5_isPair_61 : decode cX5_isPair 61 = .ok (.aload_n 0, 1) := dk_42 (dk_at dksX5_isPair_2 14 rfl rfl)
theorem dX5_isPair_62 : decode cX5_isPair 62 = .ok (.getfield 155, 3) := dk_180 0 155 (dk_at dksX5_isPair_2 15 rfl rfl)
theorem dX5_isPair_65 : decode cX5_isPair 65 = .ok (.iload_n 1, 1) := dk_27 (dk_at dksX5_isPair_2 18 rfl rfl)
theorem dX5_isPair_66 : decode cX5_isPair 66 = .ok (.iaload, 1) := dk_46 (dk_at dksX5_isPair_2 19 rfl rfl)
theorem dX5_isPair_67 : decode cX5_isPair 67 = .ok (.if_icmp .le 5, 3) := dk_164 0 5 (dk_at dksX5_isPair_2 20 rfl rfl)
theorem dX5_isPair_70 : decode cX5_isPair 70 = .ok (.iconst 0, 1) := dk_3 (dk_at dksX5_isPair_2 23 rfl rfl)
theorem dX5_isPair_71 : decode cX5_isPair 71 = .ok (.ireturn, 1) := dk_172 (dk_at dksX5_isPair_3 0 rfl rfl)
theorem dX5_isPair_72 : decode cX5_isPair 72 = .ok (.aload_n 0, 1) := dk_42 (dk_at dksX5_isPair_3 1 rfl rfl)
theorem dX5_isPair_73 : decode cX5_isPair 73 = .ok (.getfield 161, 3) := dk_180 0 161 (dk_at dksX5_isPair_3 2 rfl rfl)
theorem dX5_isPair_76 : decode cX5_isPair 76 = .ok (.iload_n 2, 1) := dk_28 (dk_at dksX5_isPair_3 5 rfl rfl)
theorem dX5_isPair_77 : decode cX5_isPair 77 = .ok (.iaload, 1) := dk_46 (dk_at dksX5_isPair_3 6 rfl rfl)
theorem dX5_isPair_78 : decode cX5_isPair 78 = .ok (.istore 5, 2) := dk_54 5 (dk_at dksX5_isPair_3 7 rfl rfl)
theorem dX5_isPair_80 : decode cX5_isPair 80 = .ok (.aload_n 0, 1) := dk_42 (dk_at dksX5_isPair_3 9 rfl rfl)
theorem dX5_isPair_81 : decode cX5_isPair 81 = .ok (.getfield 161, 3) := dk_180 0 161 (dk_at dksX5_isPair_3 10 rfl rfl)
theorem dX5_isPair_84 : decode cX5_isPair 84 = .ok (.iload_n 3, 1) := dk_29 (dk_at dksX5_isPair_3 13 rfl rfl)
theorem dX5_isPair_85 : decode cX5_isPair 85 = .ok (.iaload, 1) := dk_46 (dk_at dksX5_isPair_3 14 rfl rfl)
theorem dX5_isPair_86 : decode cX5_isPair 86 = .ok (.istore 6, 2) := dk_54 6 (dk_at dksX5_isPair_3 15 rfl rfl)
theorem dX5_isPair_88 : decode cX5_isPair 88 = .ok (.aload_n 0, 1) := dk_42 (dk_at dksX5_isPair_3 17 rfl rfl)
theorem dX5_isPair_89 : decode cX5_isPair 89 = .ok (.getfield 152, 3) := dk_180 0 152 (dk_at dksX5_isPair_3 18 rfl rfl)
theorem dX5_isPair_92 : decode cX5_isPair 92 = .ok (.iload_n 1, 1) := dk_27 (dk_at dksX5_isPair_3 21 rfl rfl)
theorem dX5_isPair_93 : decode cX5_isPair 93 = .ok (.iaload, 1) := dk_46 (dk_at dksX5_isPair_3 22 rfl rfl)
theorem dX5_isPair_94 : decode cX5_isPair 94 = .ok (.iconst 1, 1) := dk_4 (dk_at dksX5_isPair_3 23 rfl rfl)
theorem dX5_isPair_95 : decode cX5_isPair 95 = .ok (.iand, 1) := dk_126 (dk_at dksX5_isPair_4 0 rfl rfl)
theorem dX5_isPair_96 : decode cX5_isPair 96 = .ok (.iconst 1, 1) := dk_4 (dk_at dksX5_isPair_4 1 rfl rfl)
theorem dX5_isPair_97 : decode cX5_isPair 97 = .ok (.if_icmp .ne 59, 3) := dk_160 0 59 (dk_at dksX5_isPair_4 2 rfl rfl)
theorem dX5_isPair_100 : decode cX5_isPair 100 = .ok (.aload_n 0, 1) := dk_42 (dk_at dksX5_isPair_4 5 rfl rfl)
theorem dX5_isPair_101 : decode cX5_isPair 101 = .ok (.getfield 7, 3) := dk_180 0 7 (dk_at dksX5_isPair_4 6 rfl rfl)
theorem dX5_isPair_104 : decode cX5_isPair 104 = .ok (.aload_n 0, 1) := dk_42 (dk_at dksX5_isPair_4 9 rfl rfl)
theorem dX5_isPair_105 : decode cX5_isPair 105 = .ok (.getfield 49, 3) := dk_180 0 49 (dk_at dksX5_isPair_4 10 rfl rfl)
theorem dX5_isPair_108 : decode cX5_isPair 108 = .ok (.iload 6, 2) := dk_21 6 (dk_at dksX5_isPair_4 13 rfl rfl)
theorem dX5_isPair_110 : decode cX5_isPair 110 = .ok (.iaload, 1) := dk_46 (dk_at dksX5_isPair_4 15 rfl rfl)
theorem dX5_isPair_111 : decode cX5_isPair 111 = .ok (.iaload, 1) := dk_46 (dk_at dksX5_isPair_4 16 rfl rfl)
theorem dX5_isPair_112 : decode cX5_isPair 112 = .ok (.aload_n 0, 1) := dk_42 (dk_at dksX5_isPair_4 17 rfl rfl)
theorem dX5_isPair_113 : decode cX5_isPair 113 = .ok (.getfield 7, 3) := dk_180 0 7 (dk_at dksX5_isPair_4 18 rfl rfl)
theorem dX5_isPair_116 : decode cX5_isPair 116 = .ok (.aload_n 0, 1) := dk_42 (dk_at dksX5_isPair_4 21 rfl rfl)
theorem dX5_isPair_117 : decode cX5_isPair 117 = .ok (.getfield 46, 3) := dk_180 0 46 (dk_at dksX5_isPair_5 0 rfl rfl)
theorem dX5_isPair_120 : decode cX5_isPair 120 = .ok (.iload 5, 2) := dk_21 5 (dk_at dksX5_isPair_5 3 rfl rfl)
theorem dX5_isPair_122 : decode cX5_isPair 122 = .ok (.iaload, 1) := dk_46 (dk_at dksX5_isPair_5 5 rfl rfl)
theorem dX5_isPair_123 : decode cX5_isPair 123 = .ok (.iaload, 1) := dk_46 (dk_at dksX5_isPair_5 6 rfl rfl)
theorem dX5_isPair_124 : decode cX5_isPair 124 = .ok (.if_icmp .ne 30, 3) := dk_160 0 30 (dk_at dksX5_isPair_5 7 rfl rfl)
theorem dX5_isPair_127 : decode cX5_isPair 127 = .ok (.aload_n 0, 1) := dk_42 (dk_at dksX5_isPair_5 10 rfl rfl)
theorem dX5_isPair_128 : decode cX5_isPair 128 = .ok (.getfield 7, 3) := dk_180 0 7 (dk_at dksX5_isPair_5 11 rfl rfl)
theorem dX5_isPair_131 : decode cX5_isPair 131 = .ok (.aload_n 0, 1) := dk_42 (dk_at dksX5_isPair_5 14 rfl rfl)
theorem dX5_isPair_132 : decode cX5_isPair 132 = .ok (.getfield 46, 3) := dk_180 0 46 (dk_at dksX5_isPair_5 15 rfl rfl)
theorem dX5_isPair_135 : decode cX5_isPair 135 = .ok (.iload 6, 2) := dk_21 6 (dk_at dksX5_isPair_5 18 rfl rfl)
theorem dX5_isPair_137 : decode cX5_isPair 137 = .ok (.iaload, 1) := dk_46 (dk_at dksX5_isPair_5 20 rfl rfl)
theorem dX5_isPair_138 : decode cX5_isPair 138 = .ok (.iaload, 1) := dk_46 (dk_at dksX5_isPair_5 21 rfl rfl)
theorem dX5_isPair_139 : decode cX5_isPair 139 = .ok (.aload_n 0, 1) := dk_42 (dk_at dksX5_isPair_5 22 rfl rfl)
theorem dX5_isPair_140 : decode cX5_isPair 140 = .ok (.getfield 7, 3) := dk_180 0 7 (dk_at dksX5_isPair_6 0 rfl rfl)
theorem dX5_isPair_143 : decode cX5_isPair 143 = .ok (.aload_n 0, 1) := dk_42 (dk_at dksX5_isPair_6 3 rfl rfl)
theorem dX5_isPair_144 : decode cX5_isPair 144 = .ok (.getfield 49, 3) := dk_180 0 49 (dk_at dksX5_isPair_6 4 rfl rfl)
theorem dX5_isPair_147 : decode cX5_isPair 147 = .ok (.iload 5, 2) := dk_21 5 (dk_at dksX5_isPair_6 7 rfl rfl)
theorem dX5_isPair_149 : decode cX5_isPair 149 = .ok (.iaload, 1) := dk_46 (dk_at dksX5_isPair_6 9 rfl rfl)
theorem dX5_isPair_150 : decode cX5_isPair 150 = .ok (.iaload, 1) := dk_46 (dk_at dksX5_isPair_6 10 rfl rfl)
theorem dX5_isPair_151 : decode cX5_isPair 151 = .ok (.if_icmp .eq 5, 3) := dk_159 0 5 (dk_at dksX5_isPair_6 11 rfl rfl)
theorem dX5_isPair_154 : decode cX5_isPair 154 = .ok (.iconst 0, 1) := dk_3 (dk_at dksX5_isPair_6 14 rfl rfl)
theorem dX5_isPair_155 : decode cX5_isPair 155 = .ok (.ireturn, 1) := dk_172 (dk_at dksX5_isPair_6 15 rfl rfl)
theorem dX5_isPair_156 : decode cX5_isPair 156 = .ok (.aload_n 0, 1) := dk_42 (dk_at dksX5_isPair_6 16 rfl rfl)
theorem dX5_isPair_157 : decode cX5_isPair 157 = .ok (.getfield 152, 3) := dk_180 0 152 (dk_at dksX5_isPair_6 17 rfl rfl)
theorem dX5_isPair_160 : decode cX5_isPair 160 = .ok (.iload_n 1, 1) := dk_27 (dk_at dksX5_isPair_6 20 rfl rfl)
theorem dX5_isPair_161 : decode cX5_isPair 161 = .ok (.iaload, 1) := dk_46 (dk_at dksX5_isPair_6 21 rfl rfl)
theorem dX5_isPair_162 : decode cX5_isPair 162 = .ok (.iconst 2, 1) := dk_5 (dk_at dksX5_isPair_6 22 rfl rfl)
theorem dX5_isPair_163 : decode cX5_isPair 163 = .ok (.iand, 1) := dk_126 (dk_at dksX5_isPair_6 23 rfl rfl)
theorem dX5_isPair_164 : decode cX5_isPair 164 = .ok (.ifCond .eq 20, 3) := dk_153 0 20 (dk_at dksX5_isPair_7 0 rfl rfl)
theorem dX5_isPair_167 : decode cX5_isPair 167 = .ok (.aload_n 0, 1) := dk_42 (dk_at dksX5_isPair_7 3 rfl rfl)
theorem dX5_isPair_168 : decode cX5_isPair 168 = .ok (.getfield 52, 3) := dk_180 0 52 (dk_at dksX5_isPair_7 4 rfl rfl)
theorem dX5_isPair_171 : decode cX5_isPair 171 = .ok (.iload 5, 2) := dk_21 5 (dk_at dksX5_isPair_7 7 rfl rfl)
theorem dX5_isPair_173 : decode cX5_isPair 173 = .ok (.iaload, 1) := dk_46 (dk_at dksX5_isPair_7 9 rfl rfl)
theorem dX5_isPair_174 : decode cX5_isPair 174 = .ok (.aload_n 0, 1) := dk_42 (dk_at dksX5_isPair_7 10 rfl rfl)
theorem dX5_isPair_175 : decode cX5_isPair 175 = .ok (.getfield 52, 3) := dk_180 0 52 (dk_at dksX5_isPair_7 11 rfl rfl)
theorem dX5_isPair_178 : decode cX5_isPair 178 = .ok (.iload 6, 2) := dk_21 6 (dk_at dksX5_isPair_7 14 rfl rfl)
theorem dX5_isPair_180 : decode cX5_isPair 180 = .ok (.iaload, 1) := dk_46 (dk_at dksX5_isPair_7 16 rfl rfl)
theorem dX5_isPair_181 : decode cX5_isPair 181 = .ok (.if_icmp .ne 35, 3) := dk_160 0 35 (dk_at dksX5_isPair_7 17 rfl rfl)
theorem dX5_isPair_184 : decode cX5_isPair 184 = .ok (.aload_n 0, 1) := dk_42 (dk_at dksX5_isPair_7 20 rfl rfl)
theorem dX5_isPair_185 : decode cX5_isPair 185 = .ok (.getfield 152, 3) := dk_180 0 152 (dk_at dksX5_isPair_7 21 rfl rfl)
theorem dX5_isPair_188 : decode cX5_isPair 188 = .ok (.iload_n 1, 1) := dk_27 (dk_at dksX5_isPair_8 0 rfl rfl)
theorem dX5_isPair_189 : decode cX5_isPair 189 = .ok (.iaload, 1) := dk_46 (dk_at dksX5_isPair_8 1 rfl rfl)
theorem dX5_isPair_190 : decode cX5_isPair 190 = .ok (.iconst 4, 1) := dk_7 (dk_at dksX5_isPair_8 2 rfl rfl)
theorem dX5_isPair_191 : decode cX5_isPair 191 = .ok (.iand, 1) := dk_126 (dk_at dksX5_isPair_8 3 rfl rfl)
theorem dX5_isPair_192 : decode cX5_isPair 192 = .ok (.ifCond .eq 20, 3) := dk_153 0 20 (dk_at dksX5_isPair_8 4 rfl rfl)
theorem dX5_isPair_195 : decode cX5_isPair 195 = .ok (.aload_n 0, 1) := dk_42 (dk_at dksX5_isPair_8 7 rfl rfl)
theorem dX5_isPair_196 : decode cX5_isPair 196 = .ok (.getfield 58, 3) := dk_180 0 58 (dk_at dksX5_isPair_8 8 rfl rfl)
theorem dX5_isPair_199 : decode cX5_isPair 199 = .ok (.iload 6, 2) := dk_21 6 (dk_at dksX5_isPair_8 11 rfl rfl)
theorem dX5_isPair_201 : decode cX5_isPair 201 = .ok (.iaload, 1) := dk_46 (dk_at dksX5_isPair_8 13 rfl rfl)
theorem dX5_isPair_202 : decode cX5_isPair 202 = .ok (.aload_n 0, 1) := dk_42 (dk_at dksX5_isPair_8 14 rfl rfl)
theorem dX5_isPair_203 : decode cX5_isPair 203 = .ok (.getfield 58, 3) := dk_180 0 58 (dk_at dksX5_isPair_8 15 rfl rfl)
theorem dX5_isPair_206 : decode cX5_isPair 206 = .ok (.iload 5, 2) := dk_21 5 (dk_at dksX5_isPair_8 18 rfl rfl)
theorem dX5_isPair_208 : decode cX5_isPair 208 = .ok (.iaload, 1) := dk_46 (dk_at dksX5_isPair_8 20 rfl rfl)
theorem dX5_isPair_209 : decode cX5_isPair 209 = .ok (.if_icmp .le 7, 3) := dk_164 0 7 (dk_at dksX5_isPair_8 21 rfl rfl)
theorem dX5_isPair_212 : decode cX5_isPair 212 = .ok (.iconst 1, 1) := dk_4 (dk_at dksX5_isPair_9 0 rfl rfl)
theorem dX5_isPair_213 : decode cX5_isPair 213 = .ok (.goto 4, 3) := dk_167 0 4 (dk_at dksX5_isPair_9 1 rfl rfl)
theorem dX5_isPair_216 : decode cX5_isPair 216 = .ok (.iconst 0, 1) := dk_3 (dk_at dksX5_isPair_9 4 rfl rfl)
theorem dX5_isPair_217 : decode cX5_isPair 217 = .ok (.ireturn, 1) := dk_172 (dk_at dksX5_isPair_9 5 rfl rfl)
abbrev cX5_bars : ByteArray := prog_24_method_90_code
def yX5_bars : MethodName := ⟨RX5, "bars", "(I)I"⟩
def dkwX5_bars_1 : List UInt8 := [42, 27, 182, 2, 56, 153, 0, 7, 4, 167, 0, 4, 3, 172]
abbrev dktX5_bars_1 : List UInt8 := dkwX5_bars_1 ++ []
def dkwX5_bars_0 : List UInt8 := [27, 3, 42, 180, 2, 29, 4, 100, 184, 0, 185, 154, 0, 5, 2, 172, 42, 182, 1, 196, 42, 182, 2, 47]
abbrev dktX5_bars_0 : List UInt8 := dkwX5_bars_0 ++ dktX5_bars_1
theorem dksX5_bars_0 : cX5_bars.data.toList.drop 0 = dktX5_bars_0 := by decide +kernel
theorem dksX5_bars_1 : cX5_bars.data.toList.drop 24 = dktX5_bars_1 := dk_seg dksX5_bars_0 24 rfl rfl
theorem dX5_bars_0 : decode cX5_bars 0 = .ok (.iload_n 1, 1) := dk_27 (dk_at dksX5_bars_0 0 rfl rfl)
theorem dX5_bars_1 : decode cX5_bars 1 = .ok (.iconst 0, 1) := dk_3 (dk_at dksX5_bars_0 1 rfl rfl)
theorem dX5_bars_2 : decode cX5_bars 2 = .ok (.aload_n 0, 1) := dk_42 (dk_at dksX5_bars_0 2 rfl rfl)
theorem dX5_bars_3 : decode cX5_bars 3 = .ok (.getfield 541, 3) := dk_180 2 29 (dk_at dksX5_bars_0 3 rfl rfl)
theorem dX5_bars_6 : decode cX5_bars 6 = .ok (.iconst 1, 1) := dk_4 (dk_at dksX5_bars_0 6 rfl rfl)
theorem dX5_bars_7 : decode cX5_bars 7 = .ok (.isub, 1) := dk_100 (dk_at dksX5_bars_0 7 rfl rfl)
theorem dX5_bars_8 : decode cX5_bars 8 = .ok (.invokestatic 185, 3) := dk_184 0 185 (dk_at dksX5_bars_0 8 rfl rfl)
theorem dX5_bars_11 : decode cX5_bars 11 = .ok (.ifCond .ne 5, 3) := dk_154 0 5 (dk_at dksX5_bars_0 11 rfl rfl)
theorem dX5_bars_14 : decode cX5_bars 14 = .ok (.iconst (-1), 1) := dk_2 (dk_at dksX5_bars_0 14 rfl rfl)
theorem dX5_bars_15 : decode cX5_bars 15 = .ok (.ireturn, 1) := dk_172 (dk_at dksX5_bars_0 15 rfl rfl)
theorem dX5_bars_16 : decode cX5_bars 16 = .ok (.aload_n 0, 1) := dk_42 (dk_at dksX5_bars_0 16 rfl rfl)
theorem dX5_bars_17 : decode cX5_bars 17 = .ok (.invokevirtual 452, 3) := dk_182 1 196 (dk_at dksX5_bars_0 17 rfl rfl)
theorem dX5_bars_20 : decode cX5_bars 20 = .ok (.aload_n 0, 1) := dk_42 (dk_at dksX5_bars_0 20 rfl rfl)
theorem dX5_bars_21 : decode cX5_bars 21 = .ok (.invokevirtual 559, 3) := dk_182 2 47 (dk_at dksX5_bars_0 21 rfl rfl)
theorem dX5_bars_24 : decode cX5_bars 24 = .ok (.aload_n 0, 1) := dk_42 (dk_at dksX5_bars_1 0 rfl rfl)
theorem dX5_bars_25 : decode cX5_bars 25 = .ok (.iload_n 1, 1) := dk_27 (dk_at dksX5_bars_1 1 rfl rfl)
theorem dX5_bars_26 : decode cX5_bars 26 = .ok (.invokevirtual 568, 3) := dk_182 2 56 (dk_at dksX5_bars_1 2 rfl rfl)
theorem dX5_bars_29 : decode cX5_bars 29 = .ok (.ifCond .eq 7, 3) := dk_153 0 7 (dk_at dksX5_bars_1 5 rfl rfl)
theorem dX5_bars_32 : decode cX5_bars 32 = .ok (.iconst 1, 1) := dk_4 (dk_at dksX5_bars_1 8 rfl rfl)
theorem dX5_bars_33 : decode cX5_bars 33 = .ok (.goto 4, 3) := dk_167 0 4 (dk_at dksX5_bars_1 9 rfl rfl)
theorem dX5_bars_36 : decode cX5_bars 36 = .ok (.iconst 0, 1) := dk_3 (dk_at dksX5_bars_1 12 rfl rfl)
theorem dX5_bars_37 : decode cX5_bars 37 = .ok (.ireturn, 1) := dk_172 (dk_at dksX5_bars_1 13 rfl rfl)
abbrev cX5_doesWordBar : ByteArray := prog_24_method_89_code
def yX5_doesWordBar : MethodName := ⟨RX5, "doesWordBar", "(I)Z"⟩
def dkwX5_doesWordBar_1 : List UInt8 := [182, 2, 50, 153, 0, 5, 4, 172, 132, 2, 1, 167, 255, 225, 3, 172]
abbrev dktX5_doesWordBar_1 : List UInt8 := dkwX5_doesWordBar_1 ++ []
def dkwX5_doesWordBar_0 : List UInt8 := [3, 61, 28, 42, 180, 0, 137, 27, 46, 162, 0, 27, 42, 16, 96, 16, 12, 27, 104, 96, 28, 96]
abbrev dktX5_doesWordBar_0 : List UInt8 := dkwX5_doesWordBar_0 ++ dktX5_doesWordBar_1
theorem dksX5_doesWordBar_0 : cX5_doesWordBar.data.toList.drop 0 = dktX5_doesWordBar_0 := by decide +kernel
theorem dksX5_doesWordBar_1 : cX5_doesWordBar.data.toList.drop 22 = dktX5_doesWordBar_1 := dk_seg dksX5_doesWordBar_0 22 rfl rfl
theorem dX5_doesWordBar_0 : decode cX5_doesWordBar 0 = .ok (.iconst 0, 1) := dk_3 (dk_at dksX5_doesWordBar_0 0 rfl rfl)
theorem dX5_doesWordBar_1 : decode cX5_doesWordBar 1 = .ok (.istore_n 2, 1) := dk_61 (dk_at dksX5_doesWordBar_0 1 rfl rfl)
theorem dX5_doesWordBar_2 : decode cX5_doesWordBar 2 = .ok (.iload_n 2, 1) := dk_28 (dk_at dksX5_doesWordBar_0 2 rfl rfl)
theorem dX5_doesWordBar_3 : decode cX5_doesWordBar 3 = .ok (.aload_n 0, 1) := dk_42 (dk_at dksX5_doesWordBar_0 3 rfl rfl)
theorem dX5_doesWordBar_4 : decode cX5_doesWordBar 4 = .ok (.getfield 137, 3) := dk_180 0 137 (dk_at dksX5_doesWordBar_0 4 rfl rfl)
theorem dX5_doesWordBar_7 : decode cX5_doesWordBar 7 = .ok (.iload_n 1, 1) := dk_27 (dk_at dksX5_doesWordBar_0 7 rfl rfl)
theorem dX5_doesWordBar_8 : decode cX5_doesWordBar 8 = .ok (.iaload, 1) := dk_46 (dk_at dksX5_doesWordBar_0 8 rfl rfl)
theorem dX5_doesWordBar_9 : decode cX5_doesWordBar 9 = .ok (.if_icmp .ge 27, 3) := dk_162 0 27 (dk_at dksX5_doesWordBar_0 9 rfl rfl)
theorem dX5_doesWordBar_12 : decode cX5_doesWordBar 12 = .ok (.aload_n 0, 1) := dk_42 (dk_at dksX5_doesWordBar_0 12 rfl rfl)
theorem dX5_doesWordBar_13 : decode cX5_doesWordBar 13 = .ok (.bipush 96, 2) := dk_16 96 (dk_at dksX5_doesWordBar_0 13 rfl rfl)
theorem dX5_doesWordBar_15 : decode cX5_doesWordBar 15 = .ok (.bipush 12, 2) := dk_16 12 (dk_at dksX5_doesWordBar_0 15 rfl rfl)
theorem dX5_doesWordBar_17 : decode cX5_doesWordBar 17 = .ok (.iload_n 1, 1) := dk_27 (dk_at dksX5_doesWordBar_0 17 rfl rfl)
theorem dX5_doesWordBar_18 : decode cX5_doesWordBar 18 = .ok (.imul, 1) := dk_104 (dk_at dksX5_doesWordBar_0 18 rfl rfl)
theorem dX5_doesWordBar_19 : decode cX5_doesWordBar 19 = .ok (.iadd, 1) := dk_96 (dk_at dksX5_doesWordBar_0 19 rfl rfl)
theorem dX5_doesWordBar_20 : decode cX5_doesWordBar 20 = .ok (.iload_n 2, 1) := dk_28 (dk_at dksX5_doesWordBar_0 20 rfl rfl)
theorem dX5_doesWordBar_21 : decode cX5_doesWordBar 21 = .ok (.iadd, 1) := dk_96 (dk_at dksX5_doesWordBar_0 21 rfl rfl)
theorem dX5_doesWordBar_22 : decode cX5_doesWordBar 22 = .ok (.invokevirtual 562, 3) := dk_182 2 50 (dk_at dksX5_doesWordBar_1 0 rfl rfl)
theorem dX5_doesWordBar_25 : decode cX5_doesWordBar 25 = .ok (.ifCond .eq 5, 3) := dk_153 0 5 (dk_at dksX5_doesWordBar_1 3 rfl rfl)
theorem dX5_doesWordBar_28 : decode cX5_doesWordBar 28 = .ok (.iconst 1, 1) := dk_4 (dk_at dksX5_doesWordBar_1 6 rfl rfl)
theorem dX5_doesWordBar_29 : decode cX5_doesWordBar 29 = .ok (.ireturn, 1) := dk_172 (dk_at dksX5_doesWordBar_1 7 rfl rfl)
theorem dX5_doesWordBar_30 : decode cX5_doesWordBar 30 = .ok (.iinc 2 1, 3) := dk_132 2 1 (dk_at dksX5_doesWordBar_1 8 rfl rfl)
theorem dX5_doesWordBar_33 : decode cX5_doesWordBar 33 = .ok (.goto (-31), 3) := dk_167 255 225 (dk_at dksX5_doesWordBar_1 11 rfl rfl)
theorem dX5_doesWordBar_36 : decode cX5_doesWordBar 36 = .ok (.iconst 0, 1) := dk_3 (dk_at dksX5_doesWordBar_1 14 rfl rfl)
theorem dX5_doesWordBar_37 : decode cX5_doesWordBar 37 = .ok (.ireturn, 1) := dk_172 (dk_at dksX5_doesWordBar_1 15 rfl rfl)
abbrev cX5_offer : ByteArray := prog_24_method_91_code
def yX5_offer : MethodName := ⟨RX5, "offer", "(I)I"⟩
def dkwX5_offer_3 : List UInt8 := [172]
abbrev dktX5_offer_3 : List UInt8 := dkwX5_offer_3 ++ []
def dkwX5_offer_2 : List UInt8 := [42, 180, 0, 167, 42, 180, 2, 59, 27, 79, 42, 89, 180, 2, 59, 4, 96, 181, 2, 59, 42, 180, 2, 59]
abbrev dktX5_offer_2 : List UInt8 := dkwX5_offer_2 ++ dktX5_offer_3
def dkwX5_offer_1 : List UInt8 := [180, 2, 59, 162, 0, 21, 42, 180, 0, 167, 28, 46, 27, 160, 0, 5, 2, 172, 132, 2, 1, 167, 255, 233]
abbrev dktX5_offer_1 : List UInt8 := dkwX5_offer_1 ++ dktX5_offer_2
def dkwX5_offer_0 : List UInt8 := [42, 27, 182, 1, 96, 153, 0, 12, 42, 180, 2, 59, 16, 10, 160, 0, 5, 2, 172, 3, 61, 28, 42]
abbrev dktX5_offer_0 : List UInt8 := dkwX5_offer_0 ++ dktX5_offer_1
theorem dksX5_offer_0 : cX5_offer.data.toList.drop 0 = dktX5_offer_0 := by decide +kernel
theorem dksX5_offer_1 : cX5_offer.data.toList.drop 23 = dktX5_offer_1 := dk_seg dksX5_offer_0 23 rfl rfl
theorem dksX5_offer_2 : cX5_offer.data.toList.drop 47 = dktX5_offer_2 := dk_seg dksX5_offer_1 24 rfl rfl
theorem dksX5_offer_3 : cX5_offer.data.toList.drop 71 = dktX5_offer_3 := dk_seg dksX5_offer_2 24 rfl rfl
theorem dX5_offer_0 : decode cX5_offer 0 = .ok (.aload_n 0, 1) := dk_42 (dk_at dksX5_offer_0 0 rfl rfl)
theorem dX5_offer_1 : decode cX5_offer 1 = .ok (.iload_n 1, 1) := dk_27 (dk_at dksX5_offer_0 1 rfl rfl)
theorem dX5_offer_2 : decode cX5_offer 2 = .ok (.invokevirtual 352, 3) := dk_182 1 96 (dk_at dksX5_offer_0 2 rfl rfl)
theorem dX5_offer_5 : decode cX5_offer 5 = .ok (.ifCond .eq 12, 3) := dk_153 0 12 (dk_at dksX5_offer_0 5 rfl rfl)
theorem dX5_offer_8 : decode cX5_offer 8 = .ok (.aload_n 0, 1) := dk_42 (dk_at dksX5_offer_0 8 rfl rfl)
theorem dX5_offer_9 : decode cX5_offer 9 = .ok (.getfield 571, 3) := dk_180 2 59 (dk_at dksX5_offer_0 9 rfl rfl)
theorem dX5_offer_12 : decode cX5_offer 12 = .ok (.bipush 10, 2) := dk_16 10 (dk_at dksX5_offer_0 12 rfl rfl)
theorem dX5_offer_14 : decode cX5_offer 14 = .ok (.if_icmp .ne 5, 3) := dk_160 0 5 (dk_at dksX5_offer_0 14 rfl rfl)
theorem dX5_offer_17 : decode cX5_offer 17 = .ok (.iconst (-1), 1) := dk_2 (dk_at dksX5_offer_0 17 rfl rfl)
theorem dX5_offer_18 : decode cX5_offer 18 = .ok (.ireturn, 1) := dk_172 (dk_at dksX5_offer_0 18 rfl rfl)
theorem dX5_offer_19 : decode cX5_offer 19 = .ok (.iconst 0, 1) := dk_3 (dk_at dksX5_offer_0 19 rfl rfl)
theorem dX5_offer_20 : decode cX5_offer 20 = .ok (.istore_n 2, 1) := dk_61 (dk_at dksX5_offer_0 20 rfl rfl)
theorem dX5_offer_21 : decode cX5_offer 21 = .ok (.iload_n 2, 1) := dk_28 (dk_at dksX5_offer_0 21 rfl rfl)
theorem dX5_offer_22 : decode cX5_offer 22 = .ok (.aload_n 0, 1) := dk_42 (dk_at dksX5_offer_0 22 rfl rfl)
theorem dX5_offer_23 : decode cX5_offer 23 = .ok (.getfield 571, 3) := dk_180 2 59 (dk_at dksX5_offer_1 0 rfl rfl)
theorem dX5_offer_26 : decode cX5_offer 26 = .ok (.if_icmp .ge 21, 3) := dk_162 0 21 (dk_at dksX5_offer_1 3 rfl rfl)
theorem dX5_offer_29 : decode cX5_offer 29 = .ok (.aload_n 0, 1) := dk_42 (dk_at dksX5_offer_1 6 rfl rfl)
theorem dX5_offer_30 : decode cX5_offer 30 = .ok (.getfield 167, 3) := dk_180 0 167 (dk_at dksX5_offer_1 7 rfl rfl)
theorem dX5_offer_33 : decode cX5_offer 33 = .ok (.iload_n 2, 1) := dk_28 (dk_at dksX5_offer_1 10 rfl rfl)
theorem dX5_offer_34 : decode cX5_offer 34 = .ok (.iaload, 1) := dk_46 (dk_at dksX5_offer_1 11 rfl rfl)
theorem dX5_offer_35 : decode cX5_offer 35 = .ok (.iload_n 1, 1) := dk_27 (dk_at dksX5_offer_1 12 rfl rfl)
theorem dX5_offer_36 : decode cX5_offer 36 = .ok (.if_icmp .ne 5, 3) := dk_160 0 5 (dk_at dksX5_offer_1 13 rfl rfl)
theorem dX5_offer_39 : decode cX5_offer 39 = .ok (.iconst (-1), 1) := dk_2 (dk_at dksX5_offer_1 16 rfl rfl)
theorem dX5_offer_40 : decode cX5_offer 40 = .ok (.ireturn, 1) := dk_172 (dk_at dksX5_offer_1 17 rfl rfl)
theorem dX5_offer_41 : decode cX5_offer 41 = .ok (.iinc 2 1, 3) := dk_132 2 1 (dk_at dksX5_offer_1 18 rfl rfl)
theorem dX5_offer_44 : decode cX5_offer 44 = .ok (.goto (-23), 3) := dk_167 255 233 (dk_at dksX5_offer_1 21 rfl rfl)
theorem dX5_offer_47 : decode cX5_offer 47 = .ok (.aload_n 0, 1) := dk_42 (dk_at dksX5_offer_2 0 rfl rfl)
theorem dX5_offer_48 : decode cX5_offer 48 = .ok (.getfield 167, 3) := dk_180 0 167 (dk_at dksX5_offer_2 1 rfl rfl)
theorem dX5_offer_51 : decode cX5_offer 51 = .ok (.aload_n 0, 1) := dk_42 (dk_at dksX5_offer_2 4 rfl rfl)
theorem dX5_offer_52 : decode cX5_offer 52 = .ok (.getfield 571, 3) := dk_180 2 59 (dk_at dksX5_offer_2 5 rfl rfl)
theorem dX5_offer_55 : decode cX5_offer 55 = .ok (.iload_n 1, 1) := dk_27 (dk_at dksX5_offer_2 8 rfl rfl)
theorem dX5_offer_56 : decode cX5_offer 56 = .ok (.iastore, 1) := dk_79 (dk_at dksX5_offer_2 9 rfl rfl)
theorem dX5_offer_57 : decode cX5_offer 57 = .ok (.aload_n 0, 1) := dk_42 (dk_at dksX5_offer_2 10 rfl rfl)
theorem dX5_offer_58 : decode cX5_offer 58 = .ok (.dup, 1) := dk_89 (dk_at dksX5_offer_2 11 rfl rfl)
theorem dX5_offer_59 : decode cX5_offer 59 = .ok (.getfield 571, 3) := dk_180 2 59 (dk_at dksX5_offer_2 12 rfl rfl)
theorem dX5_offer_62 : decode cX5_offer 62 = .ok (.iconst 1, 1) := dk_4 (dk_at dksX5_offer_2 15 rfl rfl)
theorem dX5_offer_63 : decode cX5_offer 63 = .ok (.iadd, 1) := dk_96 (dk_at dksX5_offer_2 16 rfl rfl)
theorem dX5_offer_64 : decode cX5_offer 64 = .ok (.putfield 571, 3) := dk_181 2 59 (dk_at dksX5_offer_2 17 rfl rfl)
theorem dX5_offer_67 : decode cX5_offer 67 = .ok (.aload_n 0, 1) := dk_42 (dk_at dksX5_offer_2 20 rfl rfl)
theorem dX5_offer_68 : decode cX5_offer 68 = .ok (.getfield 571, 3) := dk_180 2 59 (dk_at dksX5_offer_2 21 rfl rfl)
theorem dX5_offer_71 : decode cX5_offer 71 = .ok (.ireturn, 1) := dk_172 (dk_at dksX5_offer_3 0 rfl rfl)
abbrev cX5_sly : ByteArray := prog_24_method_94_code
def yX5_sly : MethodName := ⟨RX5, "sly", "(II)I"⟩
def dkwX5_sly_1 : List UInt8 := [182, 2, 71, 28, 154, 0, 10, 42, 180, 2, 62, 167, 0, 7, 42, 180, 2, 65, 172]
abbrev dktX5_sly_1 : List UInt8 := dkwX5_sly_1 ++ []
def dkwX5_sly_0 : List UInt8 := [27, 4, 16, 6, 184, 0, 185, 153, 0, 12, 28, 3, 4, 184, 0, 185, 154, 0, 5, 2, 172, 42, 27]
abbrev dktX5_sly_0 : List UInt8 := dkwX5_sly_0 ++ dktX5_sly_1
theorem dksX5_sly_0 : cX5_sly.data.toList.drop 0 = dktX5_sly_0 := by decide +kernel
theorem dksX5_sly_1 : cX5_sly.data.toList.drop 23 = dktX5_sly_1 := dk_seg dksX5_sly_0 23 rfl rfl
theorem dX5_sly_0 : decode cX5_sly 0 = .ok (.iload_n 1, 1) := dk_27 (dk_at dksX5_sly_0 0 rfl rfl)
theorem dX5_sly_1 : decode cX5_sly 1 = .ok (.iconst 1, 1) := dk_4 (dk_at dksX5_sly_0 1 rfl rfl)
theorem dX5_sly_2 : decode cX5_sly 2 = .ok (.bipush 6, 2) := dk_16 6 (dk_at dksX5_sly_0 2 rfl rfl)
theorem dX5_sly_4 : decode cX5_sly 4 = .ok (.invokestatic 185, 3) := dk_184 0 185 (dk_at dksX5_sly_0 4 rfl rfl)
theorem dX5_sly_7 : decode cX5_sly 7 = .ok (.ifCond .eq 12, 3) := dk_153 0 12 (dk_at dksX5_sly_0 7 rfl rfl)
theorem dX5_sly_10 : decode cX5_sly 10 = .ok (.iload_n 2, 1) := dk_28 (dk_at dksX5_sly_0 10 rfl rfl)
theorem dX5_sly_11 : decode cX5_sly 11 = .ok (.iconst 0, 1) := dk_3 (dk_at dksX5_sly_0 11 rfl rfl)
theorem dX5_sly_12 : decode cX5_sly 12 = .ok (.iconst 1, 1) := dk_4 (dk_at dksX5_sly_0 12 rfl rfl)
theorem dX5_sly_13 : decode cX5_sly 13 = .ok (.invokestatic 185, 3) := dk_184 0 185 (dk_at dksX5_sly_0 13 rfl rfl)
theorem dX5_sly_16 : decode cX5_sly 16 = .ok (.ifCond .ne 5, 3) := dk_154 0 5 (dk_at dksX5_sly_0 16 rfl rfl)
theorem dX5_sly_19 : decode cX5_sly 19 = .ok (.iconst (-1), 1) := dk_2 (dk_at dksX5_sly_0 19 rfl rfl)
theorem dX5_sly_20 : decode cX5_sly 20 = .ok (.ireturn, 1) := dk_172 (dk_at dksX5_sly_0 20 rfl rfl)
theorem dX5_sly_21 : decode cX5_sly 21 = .ok (.aload_n 0, 1) := dk_42 (dk_at dksX5_sly_0 21 rfl rfl)
theorem dX5_sly_22 : decode cX5_sly 22 = .ok (.iload_n 1, 1) := dk_27 (dk_at dksX5_sly_0 22 rfl rfl)
theorem dX5_sly_23 : decode cX5_sly 23 = .ok (.invokevirtual 583, 3) := dk_182 2 71 (dk_at dksX5_sly_1 0 rfl rfl)
theorem dX5_sly_26 : decode cX5_sly 26 = .ok (.iload_n 2, 1) := dk_28 (dk_at dksX5_sly_1 3 rfl rfl)
theorem dX5_sly_27 : decode cX5_sly 27 = .ok (.ifCond .ne 10, 3) := dk_154 0 10 (dk_at dksX5_sly_1 4 rfl rfl)
theorem dX5_sly_30 : decode cX5_sly 30 = .ok (.aload_n 0, 1) := dk_42 (dk_at dksX5_sly_1 7 rfl rfl)
theorem dX5_sly_31 : decode cX5_sly 31 = .ok (.getfield 574, 3) := dk_180 2 62 (dk_at dksX5_sly_1 8 rfl rfl)
theorem dX5_sly_34 : decode cX5_sly 34 = .ok (.goto 7, 3) := dk_167 0 7 (dk_at dksX5_sly_1 11 rfl rfl)
theorem dX5_sly_37 : decode cX5_sly 37 = .ok (.aload_n 0, 1) := dk_42 (dk_at dksX5_sly_1 14 rfl rfl)
theorem dX5_sly_38 : decode cX5_sly 38 = .ok (.getfield 577, 3) := dk_180 2 65 (dk_at dksX5_sly_1 15 rfl rfl)
theorem dX5_sly_41 : decode cX5_sly 41 = .ok (.ireturn, 1) := dk_172 (dk_at dksX5_sly_1 18 rfl rfl)
abbrev cX5_findSly : ByteArray := prog_24_method_92_code
def yX5_findSly : MethodName := ⟨RX5, "findSly", "(I)V"⟩
def dkwX5_findSly_7 : List UInt8 := [177]
abbrev dktX5_findSly_7 : List UInt8 := dkwX5_findSly_7 ++ []
def dkwX5_findSly_6 : List UInt8 := [184, 1, 175, 42, 180, 2, 65, 184, 1, 175, 162, 0, 8, 42, 28, 181, 2, 65, 132, 2, 1, 167, 255, 109]
abbrev dktX5_findSly_6 : List UInt8 := dkwX5_findSly_6 ++ dktX5_findSly_7
def dkwX5_findSly_5 : List UInt8 := [42, 182, 2, 68, 79, 42, 89, 180, 2, 62, 4, 96, 181, 2, 62, 42, 180, 2, 65, 155, 0, 17, 28]
abbrev dktX5_findSly_5 : List UInt8 := dkwX5_findSly_5 ++ dktX5_findSly_6
def dkwX5_findSly_4 : List UInt8 := [182, 2, 53, 156, 0, 62, 42, 182, 1, 250, 156, 0, 6, 167, 0, 52, 42, 180, 0, 170, 42, 180, 2, 62]
abbrev dktX5_findSly_4 : List UInt8 := dkwX5_findSly_4 ++ dktX5_findSly_5
def dkwX5_findSly_3 : List UInt8 := [180, 0, 167, 29, 46, 79, 42, 89, 180, 1, 169, 4, 96, 181, 1, 169, 132, 3, 1, 167, 255, 209, 42]
abbrev dktX5_findSly_3 : List UInt8 := dkwX5_findSly_3 ++ dktX5_findSly_4
def dkwX5_findSly_2 : List UInt8 := [162, 0, 45, 28, 29, 122, 4, 126, 154, 0, 6, 167, 0, 28, 42, 180, 0, 116, 42, 180, 1, 169, 42]
abbrev dktX5_findSly_2 : List UInt8 := dkwX5_findSly_2 ++ dktX5_findSly_3
def dkwX5_findSly_1 : List UInt8 := [184, 1, 175, 27, 164, 0, 6, 167, 0, 126, 42, 3, 181, 1, 169, 3, 62, 29, 42, 180, 2, 59]
abbrev dktX5_findSly_1 : List UInt8 := dkwX5_findSly_1 ++ dktX5_findSly_2
def dkwX5_findSly_0 : List UInt8 := [42, 3, 181, 2, 62, 42, 2, 181, 2, 65, 4, 61, 28, 4, 42, 180, 2, 59, 120, 162, 0, 143, 28]
abbrev dktX5_findSly_0 : List UInt8 := dkwX5_findSly_0 ++ dktX5_findSly_1
theorem dksX5_findSly_0 : cX5_findSly.data.toList.drop 0 = dktX5_findSly_0 := by decide +kernel
theorem dksX5_findSly_1 : cX5_findSly.data.toList.drop 23 = dktX5_findSly_1 := dk_seg dksX5_findSly_0 23 rfl rfl
theorem dksX5_findSly_2 : cX5_findSly.data.toList.drop 45 = dktX5_findSly_2 := dk_seg dksX5_findSly_1 22 rfl rfl
theorem dksX5_findSly_3 : cX5_findSly.data.toList.drop 68 = dktX5_findSly_3 := dk_seg dksX5_findSly_2 23 rfl rfl
theorem dksX5_findSly_4 : cX5_findSly.data.toList.drop 91 = dktX5_findSly_4 := dk_seg dksX5_findSly_3 23 rfl rfl
theorem dksX5_findSly_5 : cX5_findSly.data.toList.drop 115 = dktX5_findSly_5 := dk_seg dksX5_findSly_4 24 rfl rfl
theorem dksX5_findSly_6 : cX5_findSly.data.toList.drop 138 = dktX5_findSly_6 := dk_seg dksX5_findSly_5 23 rfl rfl
theorem dksX5_findSly_7 : cX5_findSly.data.toList.drop 162 = dktX5_findSly_7 := dk_seg dksX5_findSly_6 24 rfl rfl
theorem dX5_findSly_0 : decode cX5_findSly 0 = .ok (.aload_n 0, 1) := dk_42 (dk_at dksX5_findSly_0 0 rfl rfl)
theorem dX5_findSly_1 : decode cX5_findSly 1 = .ok (.iconst 0, 1) := dk_3 (dk_at dksX5_findSly_0 1 rfl rfl)
theorem dX5_findSly_2 : decode cX5_findSly 2 = .ok (.putfield 574, 3) := dk_181 2 62 (dk_at dksX5_findSly_0 2 rfl rfl)
theorem dX5_findSly_5 : decode cX5_findSly 5 = .ok (.aload_n 0, 1) := dk_42 (dk_at dksX5_findSly_0 5 rfl rfl)
theorem dX5_findSly_6 : decode cX5_findSly 6 = .ok (.iconst (-1), 1) := dk_2 (dk_at dksX5_findSly_0 6 rfl rfl)
theorem dX5_findSly_7 : decode cX5_findSly 7 = .ok (.putfield 577, 3) := dk_181 2 65 (dk_at dksX5_findSly_0 7 rfl rfl)
theorem dX5_findSly_10 : decode cX5_findSly 10 = .ok (.iconst 1, 1) := dk_4 (dk_at dksX5_findSly_0 10 rfl rfl)
theorem dX5_findSly_11 : decode cX5_findSly 11 = .ok (.istore_n 2, 1) := dk_61 (dk_at dksX5_findSly_0 11 rfl rfl)
theorem dX5_findSly_12 : decode cX5_findSly 12 = .ok (.iload_n 2, 1) := dk_28 (dk_at dksX5_findSly_0 12 rfl rfl)
theorem dX5_findSly_13 : decode cX5_findSly 13 = .ok (.iconst 1, 1) := dk_4 (dk_at dksX5_findSly_0 13 rfl rfl)
theorem dX5_findSly_14 : decode cX5_findSly 14 = .ok (.aload_n 0, 1) := dk_42 (dk_at dksX5_findSly_0 14 rfl rfl)
theorem dX5_findSly_15 : decode cX5_findSly 15 = .ok (.getfield 571, 3) := dk_180 2 59 (dk_at dksX5_findSly_0 15 rfl rfl)
theorem dX5_findSly_18 : decode cX5_findSly 18 = .ok (.ishl, 1) := dk_120 (dk_at dksX5_findSly_0 18 rfl rfl)
theorem dX5_findSly_19 : decode cX5_findSly 19 = .ok (.if_icmp .ge 143, 3) := dk_162 0 143 (dk_at dksX5_findSly_0 19 rfl rfl)
theorem dX5_findSly_22 : decode cX5_findSly 22 = .ok (.iload_n 2, 1) := dk_28 (dk_at dksX5_findSly_0 22 rfl rfl)
theorem dX5_findSly_23 : decode cX5_findSly 23 = .ok (.invokestatic 431, 3) := dk_184 1 175 (dk_at dksX5_findSly_1 0 rfl rfl)
theorem dX5_findSly_26 : decode cX5_findSly 26 = .ok (.iload_n 1, 1) := dk_27 (dk_at dksX5_findSly_1 3 rfl rfl)
theorem dX5_findSly_27 : decode cX5_findSly 27 = .ok (.if_icmp .le 6, 3) := dk_164 0 6 (dk_at dksX5_findSly_1 4 rfl rfl)
theorem dX5_findSly_30 : decode cX5_findSly 30 = .ok (.goto 126, 3) := dk_167 0 126 (dk_at dksX5_findSly_1 7 rfl rfl)
theorem dX5_findSly_33 : decode cX5_findSly 33 = .ok (.aload_n 0, 1) := dk_42 (dk_at dksX5_findSly_1 10 rfl rfl)
theorem dX5_findSly_34 : decode cX5_findSly 34 = .ok (.iconst 0, 1) := dk_3 (dk_at dksX5_findSly_1 11 rfl rfl)
theorem dX5_findSly_35 : decode cX5_findSly 35 = .ok (.putfield 425, 3) := dk_181 1 169 (dk_at dksX5_findSly_1 12 rfl rfl)
theorem dX5_findSly_38 : decode cX5_findSly 38 = .ok (.iconst 0, 1) := dk_3 (dk_at dksX5_findSly_1 15 rfl rfl)
theorem dX5_findSly_39 : decode cX5_findSly 39 = .ok (.istore_n 3, 1) := dk_62 (dk_at dksX5_findSly_1 16 rfl rfl)
theorem dX5_findSly_40 : decode cX5_findSly 40 = .ok (.iload_n 3, 1) := dk_29 (dk_at dksX5_findSly_1 17 rfl rfl)
theorem dX5_findSly_41 : decode cX5_findSly 41 = .ok (.aload_n 0, 1) := dk_42 (dk_at dksX5_findSly_1 18 rfl rfl)
theorem dX5_findSly_42 : decode cX5_findSly 42 = .ok (.getfield 571, 3) := dk_180 2 59 (dk_at dksX5_findSly_1 19 rfl rfl)
theorem dX5_findSly_45 : decode cX5_findSly 45 = .ok (.if_icmp .ge 45, 3) := dk_162 0 45 (dk_at dksX5_findSly_2 0 rfl rfl)
theorem dX5_findSly_48 : decode cX5_findSly 48 = .ok (.iload_n 2, 1) := dk_28 (dk_at dksX5_findSly_2 3 rfl rfl)
theorem dX5_findSly_49 : decode cX5_findSly 49 = .ok (.iload_n 3, 1) := dk_29 (dk_at dksX5_findSly_2 4 rfl rfl)
theorem dX5_findSly_50 : decode cX5_findSly 50 = .ok (.ishr, 1) := dk_122 (dk_at dksX5_findSly_2 5 rfl rfl)
theorem dX5_findSly_51 : decode cX5_findSly 51 = .ok (.iconst 1, 1) := dk_4 (dk_at dksX5_findSly_2 6 rfl rfl)
theorem dX5_findSly_52 : decode cX5_findSly 52 = .ok (.iand, 1) := dk_126 (dk_at dksX5_findSly_2 7 rfl rfl)
theorem dX5_findSly_53 : decode cX5_findSly 53 = .ok (.ifCond .ne 6, 3) := dk_154 0 6 (dk_at dksX5_findSly_2 8 rfl rfl)
theorem dX5_findSly_56 : decode cX5_findSly 56 = .ok (.goto 28, 3) := dk_167 0 28 (dk_at dksX5_findSly_2 11 rfl rfl)
theorem dX5_findSly_59 : decode cX5_findSly 59 = .ok (.aload_n 0, 1) := dk_42 (dk_at dksX5_findSly_2 14 rfl rfl)
theorem dX5_findSly_60 : decode cX5_findSly 60 = .ok (.getfield 116, 3) := dk_180 0 116 (dk_at dksX5_findSly_2 15 rfl rfl)
theorem dX5_findSly_63 : decode cX5_findSly 63 = .ok (.aload_n 0, 1) := dk_42 (dk_at dksX5_findSly_2 18 rfl rfl)
theorem dX5_findSly_64 : decode cX5_findSly 64 = .ok (.getfield 425, 3) := dk_180 1 169 (dk_at dksX5_findSly_2 19 rfl rfl)
theorem dX5_findSly_67 : decode cX5_findSly 67 = .ok (.aload_n 0, 1) := dk_42 (dk_at dksX5_findSly_2 22 rfl rfl)
theorem dX5_findSly_68 : decode cX5_findSly 68 = .ok (.getfield 167, 3) := dk_180 0 167 (dk_at dksX5_findSly_3 0 rfl rfl)
theorem dX5_findSly_71 : decode cX5_findSly 71 = .ok (.iload_n 3, 1) := dk_29 (dk_at dksX5_findSly_3 3 rfl rfl)
theorem dX5_findSly_72 : decode cX5_findSly 72 = .ok (.iaload, 1) := dk_46 (dk_at dksX5_findSly_3 4 rfl rfl)
theorem dX5_findSly_73 : decode cX5_findSly 73 = .ok (.iastore, 1) := dk_79 (dk_at dksX5_findSly_3 5 rfl rfl)
theorem dX5_findSly_74 : decode cX5_findSly 74 = .ok (.aload_n 0, 1) := dk_42 (dk_at dksX5_findSly_3 6 rfl rfl)
theorem dX5_findSly_75 : decode cX5_findSly 75 = .ok (.dup, 1) := dk_89 (dk_at dksX5_findSly_3 7 rfl rfl)
theorem dX5_findSly_76 : decode cX5_findSly 76 = .ok (.getfield 425, 3) := dk_180 1 169 (dk_at dksX5_findSly_3 8 rfl rfl)
theorem dX5_findSly_79 : decode cX5_findSly 79 = .ok (.iconst 1, 1) := dk_4 (dk_at dksX5_findSly_3 11 rfl rfl)
theorem dX5_findSly_80 : decode cX5_findSly 80 = .ok (.iadd, 1) := dk_96 (dk_at dksX5_findSly_3 12 rfl rfl)
theorem dX5_findSly_81 : decode cX5_findSly 81 = .ok (.putfield 425, 3) := dk_181 1 169 (dk_at dksX5_findSly_3 13 rfl rfl)
theorem dX5_findSly_84 : decode cX5_findSly 84 = .ok (.iinc 3 1, 3) := dk_132 3 1 (dk_at dksX5_findSly_3 16 rfl rfl)
theorem dX5_findSly_87 : decode cX5_findSly 87 = .ok (.goto (-47), 3) := dk_167 255 209 (dk_at dksX5_findSly_3 19 rfl rfl)
theorem dX5_findSly_90 : decode cX5_findSly 90 = .ok (.aload_n 0, 1) := dk_42 (dk_at dksX5_findSly_3 22 rfl rfl)
theorem dX5_findSly_91 : decode cX5_findSly 91 = .ok (.invokevirtual 565, 3) := dk_182 2 53 (dk_at dksX5_findSly_4 0 rfl rfl)
theorem dX5_findSly_94 : decode cX5_findSly 94 = .ok (.ifCond .ge 62, 3) := dk_156 0 62 (dk_at dksX5_findSly_4 3 rfl rfl)
theorem dX5_findSly_97 : decode cX5_findSly 97 = .ok (.aload_n 0, 1) := dk_42 (dk_at dksX5_findSly_4 6 rfl rfl)
theorem dX5_findSly_98 : decode cX5_findSly 98 = .ok (.invokevirtual 506, 3) := dk_182 1 250 (dk_at dksX5_findSly_4 7 rfl rfl)
theorem dX5_findSly_101 : decode cX5_findSly 101 = .ok (.ifCond .ge 6, 3) := dk_156 0 6 (dk_at dksX5_findSly_4 10 rfl rfl)
theorem dX5_findSly_104 : decode cX5_findSly 104 = .ok (.goto 52, 3) := dk_167 0 52 (dk_at dksX5_findSly_4 13 rfl rfl)
theorem dX5_findSly_107 : decode cX5_findSly 107 = .ok (.aload_n 0, 1) := dk_42 (dk_at dksX5_findSly_4 16 rfl rfl)
theorem dX5_findSly_108 : decode cX5_findSly 108 = .ok (.getfield 170, 3) := dk_180 0 170 (dk_at dksX5_findSly_4 17 rfl rfl)
theorem dX5_findSly_111 : decode cX5_findSly 111 = .ok (.aload_n 0, 1) := dk_42 (dk_at dksX5_findSly_4 20 rfl rfl)
theorem dX5_findSly_112 : decode cX5_findSly 112 = .ok (.getfield 574, 3) := dk_180 2 62 (dk_at dksX5_findSly_4 21 rfl rfl)
theorem dX5_findSly_115 : decode cX5_findSly 115 = .ok (.aload_n 0, 1) := dk_42 (dk_at dksX5_findSly_5 0 rfl rfl)
theorem dX5_findSly_116 : decode cX5_findSly 116 = .ok (.invokevirtual 580, 3) := dk_182 2 68 (dk_at dksX5_findSly_5 1 rfl rfl)
theorem dX5_findSly_119 : decode cX5_findSly 119 = .ok (.iastore, 1) := dk_79 (dk_at dksX5_findSly_5 4 rfl rfl)
theorem dX5_findSly_120 : decode cX5_findSly 120 = .ok (.aload_n 0, 1) := dk_42 (dk_at dksX5_findSly_5 5 rfl rfl)
theorem dX5_findSly_121 : decode cX5_findSly 121 = .ok (.dup, 1) := dk_89 (dk_at dksX5_findSly_5 6 rfl rfl)
theorem dX5_findSly_122 : decode cX5_findSly 122 = .ok (.getfield 574, 3) := dk_180 2 62 (dk_at dksX5_findSly_5 7 rfl rfl)
theorem dX5_findSly_125 : decode cX5_findSly 125 = .ok (.iconst 1, 1) := dk_4 (dk_at dksX5_findSly_5 10 rfl rfl)
theorem dX5_findSly_126 : decode cX5_findSly 126 = .ok (.iadd, 1) := dk_96 (dk_at dksX5_findSly_5 11 rfl rfl)
theorem dX5_findSly_127 : decode cX5_findSly 127 = .ok (.putfield 574, 3) := dk_181 2 62 (dk_at dksX5_findSly_5 12 rfl rfl)
theorem dX5_findSly_130 : decode cX5_findSly 130 = .ok (.aload_n 0, 1) := dk_42 (dk_at dksX5_findSly_5 15 rfl rfl)
theorem dX5_findSly_131 : decode cX5_findSly 131 = .ok (.getfield 577, 3) := dk_180 2 65 (dk_at dksX5_findSly_5 16 rfl rfl)
theorem dX5_findSly_134 : decode cX5_findSly 134 = .ok (.ifCond .lt 17, 3) := dk_155 0 17 (dk_at dksX5_findSly_5 19 rfl rfl)
theorem dX5_findSly_137 : decode cX5_findSly 137 = .ok (.iload_n 2, 1) := dk_28 (dk_at dksX5_findSly_5 22 rfl rfl)
theorem dX5_findSly_138 : decode cX5_findSly 138 = .ok (.invokestatic 431, 3) := dk_184 1 175 (dk_at dksX5_findSly_6 0 rfl rfl)
theorem dX5_findSly_141 : decode cX5_findSly 141 = .ok (.aload_n 0, 1) := dk_42 (dk_at dksX5_findSly_6 3 rfl rfl)
theorem dX5_findSly_142 : decode cX5_findSly 142 = .ok (.getfield 577, 3) := dk_180 2 65 (dk_at dksX5_findSly_6 4 rfl rfl)
theorem dX5_findSly_145 : decode cX5_findSly 145 = .ok (.invokestatic 431, 3) := dk_184 1 175 (dk_at dksX5_findSly_6 7 rfl rfl)
theorem dX5_findSly_148 : decode cX5_findSly 148 = .ok (.if_icmp .ge 8, 3) := dk_162 0 8 (dk_at dksX5_findSly_6 10 rfl rfl)
theorem dX5_findSly_151 : decode cX5_findSly 151 = .ok (.aload_n 0, 1) := dk_42 (dk_at dksX5_findSly_6 13 rfl rfl)
theorem dX5_findSly_152 : decode cX5_findSly 152 = .ok (.iload_n 2, 1) := dk_28 (dk_at dksX5_findSly_6 14 rfl rfl)
theorem dX5_findSly_153 : decode cX5_findSly 153 = .ok (.putfield 577, 3) := dk_181 2 65 (dk_at dksX5_findSly_6 15 rfl rfl)
theorem dX5_findSly_156 : decode cX5_findSly 156 = .ok (.iinc 2 1, 3) := dk_132 2 1 (dk_at dksX5_findSly_6 18 rfl rfl)
theorem dX5_findSly_159 : decode cX5_findSly 159 = .ok (.goto (-147), 3) := dk_167 255 109 (dk_at dksX5_findSly_6 21 rfl rfl)
theorem dX5_findSly_162 : decode cX5_findSly 162 = .ok (.return_, 1) := dk_177 (dk_at dksX5_findSly_7 0 rfl rfl)
abbrev cX5_wordsThatBar : ByteArray := prog_24_method_93_code
def yX5_wordsThatBar : MethodName := ⟨RX5, "wordsThatBar", "()I"⟩
def dkwX5_wordsThatBar_1 : List UInt8 := [153, 0, 9, 4, 28, 120, 167, 0, 4, 3, 128, 60, 132, 2, 1, 167, 255, 227, 27, 172]
abbrev dktX5_wordsThatBar_1 : List UInt8 := dkwX5_wordsThatBar_1 ++ []
def dkwX5_wordsThatBar_0 : List UInt8 := [3, 60, 42, 182, 2, 47, 3, 61, 28, 42, 180, 2, 29, 162, 0, 27, 27, 42, 28, 182, 2, 56]
abbrev dktX5_wordsThatBar_0 : List UInt8 := dkwX5_wordsThatBar_0 ++ dktX5_wordsThatBar_1
theorem dksX5_wordsThatBar_0 : cX5_wordsThatBar.data.toList.drop 0 = dktX5_wordsThatBar_0 := by decide +kernel
theorem dksX5_wordsThatBar_1 : cX5_wordsThatBar.data.toList.drop 22 = dktX5_wordsThatBar_1 := dk_seg dksX5_wordsThatBar_0 22 rfl rfl
theorem dX5_wordsThatBar_0 : decode cX5_wordsThatBar 0 = .ok (.iconst 0, 1) := dk_3 (dk_at dksX5_wordsThatBar_0 0 rfl rfl)
theorem dX5_wordsThatBar_1 : decode cX5_wordsThatBar 1 = .ok (.istore_n 1, 1) := dk_60 (dk_at dksX5_wordsThatBar_0 1 rfl rfl)
theorem dX5_wordsThatBar_2 : decode cX5_wordsThatBar 2 = .ok (.aload_n 0, 1) := dk_42 (dk_at dksX5_wordsThatBar_0 2 rfl rfl)
theorem dX5_wordsThatBar_3 : decode cX5_wordsThatBar 3 = .ok (.invokevirtual 559, 3) := dk_182 2 47 (dk_at dksX5_wordsThatBar_0 3 rfl rfl)
theorem dX5_wordsThatBar_6 : decode cX5_wordsThatBar 6 = .ok (.iconst 0, 1) := dk_3 (dk_at dksX5_wordsThatBar_0 6 rfl rfl)
theorem dX5_wordsThatBar_7 : decode cX5_wordsThatBar 7 = .ok (.istore_n 2, 1) := dk_61 (dk_at dksX5_wordsThatBar_0 7 rfl rfl)
theorem dX5_wordsThatBar_8 : decode cX5_wordsThatBar 8 = .ok (.iload_n 2, 1) := dk_28 (dk_at dksX5_wordsThatBar_0 8 rfl rfl)
theorem dX5_wordsThatBar_9 : decode cX5_wordsThatBar 9 = .ok (.aload_n 0, 1) := dk_42 (dk_at dksX5_wordsThatBar_0 9 rfl rfl)
theorem dX5_wordsThatBar_10 : decode cX5_wordsThatBar 10 = .ok (.getfield 541, 3) := dk_180 2 29 (dk_at dksX5_wordsThatBar_0 10 rfl rfl)
theorem dX5_wordsThatBar_13 : decode cX5_wordsThatBar 13 = .ok (.if_icmp .ge 27, 3) := dk_162 0 27 (dk_at dksX5_wordsThatBar_0 13 rfl rfl)
theorem dX5_wordsThatBar_16 : decode cX5_wordsThatBar 16 = .ok (.iload_n 1, 1) := dk_27 (dk_at dksX5_wordsThatBar_0 16 rfl rfl)
theorem dX5_wordsThatBar_17 : decode cX5_wordsThatBar 17 = .ok (.aload_n 0, 1) := dk_42 (dk_at dksX5_wordsThatBar_0 17 rfl rfl)
theorem dX5_wordsThatBar_18 : decode cX5_wordsThatBar 18 = .ok (.iload_n 2, 1) := dk_28 (dk_at dksX5_wordsThatBar_0 18 rfl rfl)
theorem dX5_wordsThatBar_19 : decode cX5_wordsThatBar 19 = .ok (.invokevirtual 568, 3) := dk_182 2 56 (dk_at dksX5_wordsThatBar_0 19 rfl rfl)
theorem dX5_wordsThatBar_22 : decode cX5_wordsThatBar 22 = .ok (.ifCond .eq 9, 3) := dk_153 0 9 (dk_at dksX5_wordsThatBar_1 0 rfl rfl)
theorem dX5_wordsThatBar_25 : decode cX5_wordsThatBar 25 = .ok (.iconst 1, 1) := dk_4 (dk_at dksX5_wordsThatBar_1 3 rfl rfl)
theorem dX5_wordsThatBar_26 : decode cX5_wordsThatBar 26 = .ok (.iload_n 2, 1) := dk_28 (dk_at dksX5_wordsThatBar_1 4 rfl rfl)
theorem dX5_wordsThatBar_27 : decode cX5_wordsThatBar 27 = .ok (.ishl, 1) := dk_120 (dk_at dksX5_wordsThatBar_1 5 rfl rfl)
theorem dX5_wordsThatBar_28 : decode cX5_wordsThatBar 28 = .ok (.goto 4, 3) := dk_167 0 4 (dk_at dksX5_wordsThatBar_1 6 rfl rfl)
theorem dX5_wordsThatBar_31 : decode cX5_wordsThatBar 31 = .ok (.iconst 0, 1) := dk_3 (dk_at dksX5_wordsThatBar_1 9 rfl rfl)
theorem dX5_wordsThatBar_32 : decode cX5_wordsThatBar 32 = .ok (.ior, 1) := dk_128 (dk_at dksX5_wordsThatBar_1 10 rfl rfl)
theorem dX5_wordsThatBar_33 : decode cX5_wordsThatBar 33 = .ok (.istore_n 1, 1) := dk_60 (dk_at dksX5_wordsThatBar_1 11 rfl rfl)
theorem dX5_wordsThatBar_34 : decode cX5_wordsThatBar 34 = .ok (.iinc 2 1, 3) := dk_132 2 1 (dk_at dksX5_wordsThatBar_1 12 rfl rfl)
theorem dX5_wordsThatBar_37 : decode cX5_wordsThatBar 37 = .ok (.goto (-29), 3) := dk_167 255 227 (dk_at dksX5_wordsThatBar_1 15 rfl rfl)
theorem dX5_wordsThatBar_40 : decode cX5_wordsThatBar 40 = .ok (.iload_n 1, 1) := dk_27 (dk_at dksX5_wordsThatBar_1 18 rfl rfl)
theorem dX5_wordsThatBar_41 : decode cX5_wordsThatBar 41 = .ok (.ireturn, 1) := dk_172 (dk_at dksX5_wordsThatBar_1 19 rfl rfl)
abbrev cX5_honest : ByteArray := prog_24_method_95_code
def yX5_honest : MethodName := ⟨RX5, "honest", "()I"⟩
def dkwX5_honest_3 : List UInt8 := [180, 2, 74, 4, 96, 181, 2, 74, 42, 180, 2, 74, 4, 100, 172]
abbrev dktX5_honest_3 : List UInt8 := dkwX5_honest_3 ++ []
def dkwX5_honest_2 : List UInt8 := [42, 180, 2, 74, 104, 27, 96, 42, 180, 0, 113, 27, 46, 79, 132, 1, 1, 167, 255, 225, 42, 89]
abbrev dktX5_honest_2 : List UInt8 := dkwX5_honest_2 ++ dktX5_honest_3
def dkwX5_honest_1 : List UInt8 := [180, 2, 74, 42, 180, 1, 166, 79, 3, 60, 27, 42, 180, 1, 166, 162, 0, 29, 42, 180, 0, 176, 16, 6]
abbrev dktX5_honest_1 : List UInt8 := dkwX5_honest_1 ++ dktX5_honest_2
def dkwX5_honest_0 : List UInt8 := [42, 180, 2, 74, 16, 6, 159, 0, 10, 42, 180, 1, 166, 154, 0, 5, 2, 172, 42, 180, 0, 173, 42]
abbrev dktX5_honest_0 : List UInt8 := dkwX5_honest_0 ++ dktX5_honest_1
theorem dksX5_honest_0 : cX5_honest.data.toList.drop 0 = dktX5_honest_0 := by decide +kernel
theorem dksX5_honest_1 : cX5_honest.data.toList.drop 23 = dktX5_honest_1 := dk_seg dksX5_honest_0 23 rfl rfl
theorem dksX5_honest_2 : cX5_honest.data.toList.drop 47 = dktX5_honest_2 := dk_seg dksX5_honest_1 24 rfl rfl
theorem dksX5_honest_3 : cX5_honest.data.toList.drop 69 = dktX5_honest_3 := dk_seg dksX5_honest_2 22 rfl rfl
theorem dX5_honest_0 : decode cX5_honest 0 = .ok (.aload_n 0, 1) := dk_42 (dk_at dksX5_honest_0 0 rfl rfl)
theorem dX5_honest_1 : decode cX5_honest 1 = .ok (.getfield 586, 3) := dk_180 2 74 (dk_at dksX5_honest_0 1 rfl rfl)
theorem dX5_honest_4 : decode cX5_honest 4 = .ok (.bipush 6, 2) := dk_16 6 (dk_at dksX5_honest_0 4 rfl rfl)
theorem dX5_honest_6 : decode cX5_honest 6 = .ok (.if_icmp .eq 10, 3) := dk_159 0 10 (dk_at dksX5_honest_0 6 rfl rfl)
theorem dX5_honest_9 : decode cX5_honest 9 = .ok (.aload_n 0, 1) := dk_42 (dk_at dksX5_honest_0 9 rfl rfl)
theorem dX5_honest_10 : decode cX5_honest 10 = .ok (.getfield 422, 3) := dk_180 1 166 (dk_at dksX5_honest_0 10 rfl rfl)
theorem dX5_honest_13 : decode cX5_honest 13 = .ok (.ifCond .ne 5, 3) := dk_154 0 5 (dk_at dksX5_honest_0 13 rfl rfl)
theorem dX5_honest_16 : decode cX5_honest 16 = .ok (.iconst (-1), 1) := dk_2 (dk_at dksX5_honest_0 16 rfl rfl)
theorem dX5_honest_17 : decode cX5_honest 17 = .ok (.ireturn, 1) := dk_172 (dk_at dksX5_honest_0 17 rfl rfl)
theorem dX5_honest_18 : decode cX5_honest 18 = .ok (.aload_n 0, 1) := dk_42 (dk_at dksX5_honest_0 18 rfl rfl)
theorem dX5_honest_19 : decode cX5_honest 19 = .ok (.getfield 173, 3) := dk_180 0 173 (dk_at dksX5_honest_0 19 rfl rfl)
theorem dX5_honest_22 : decode cX5_honest 22 = .ok (.aload_n 0, 1) := dk_42 (dk_at dksX5_honest_0 22 rfl rfl)
theorem dX5_honest_23 : decode cX5_honest 23 = .ok (.getfield 586, 3) := dk_180 2 74 (dk_at dksX5_honest_1 0 rfl rfl)
theorem dX5_honest_26 : decode cX5_honest 26 = .ok (.aload_n 0, 1) := dk_42 (dk_at dksX5_honest_1 3 rfl rfl)
theorem dX5_honest_27 : decode cX5_honest 27 = .ok (.getfield 422, 3) := dk_180 1 166 (dk_at dksX5_honest_1 4 rfl rfl)
theorem dX5_honest_30 : decode cX5_honest 30 = .ok (.iastore, 1) := dk_79 (dk_at dksX5_honest_1 7 rfl rfl)
theorem dX5_honest_31 : decode cX5_honest 31 = .ok (.iconst 0, 1) := dk_3 (dk_at dksX5_honest_1 8 rfl rfl)
theorem dX5_honest_32 : decode cX5_honest 32 = .ok (.istore_n 1, 1) := dk_60 (dk_at dksX5_honest_1 9 rfl rfl)
theorem dX5_honest_33 : decode cX5_honest 33 = .ok (.iload_n 1, 1) := dk_27 (dk_at dksX5_honest_1 10 rfl rfl)
theorem dX5_honest_34 : decode cX5_honest 34 = .ok (.aload_n 0, 1) := dk_42 (dk_at dksX5_honest_1 11 rfl rfl)
theorem dX5_honest_35 : decode cX5_honest 35 = .ok (.getfield 422, 3) := dk_180 1 166 (dk_at dksX5_honest_1 12 rfl rfl)
theorem dX5_honest_38 : decode cX5_honest 38 = .ok (.if_icmp .ge 29, 3) := dk_162 0 29 (dk_at dksX5_honest_1 15 rfl rfl)
theorem dX5_honest_41 : decode cX5_honest 41 = .ok (.aload_n 0, 1) := dk_42 (dk_at dksX5_honest_1 18 rfl rfl)
theorem dX5_honest_42 : decode cX5_honest 42 = .ok (.getfield 176, 3) := dk_180 0 176 (dk_at dksX5_honest_1 19 rfl rfl)
theorem dX5_honest_45 : decode cX5_honest 45 = .ok (.bipush 6, 2) := dk_16 6 (dk_at dksX5_honest_1 22 rfl rfl)
theorem dX5_honest_47 : decode cX5_honest 47 = .ok (.aload_n 0, 1) := dk_42 (dk_at dksX5_honest_2 0 rfl rfl)
theorem dX5_honest_48 : decode cX5_honest 48 = .ok (.getfield 586, 3) := dk_180 2 74 (dk_at dksX5_honest_2 1 rfl rfl)
theorem dX5_honest_51 : decode cX5_honest 51 = .ok (.imul, 1) := dk_104 (dk_at dksX5_honest_2 4 rfl rfl)
theorem dX5_honest_52 : decode cX5_honest 52 = .ok (.iload_n 1, 1) := dk_27 (dk_at dksX5_honest_2 5 rfl rfl)
theorem dX5_honest_53 : decode cX5_honest 53 = .ok (.iadd, 1) := dk_96 (dk_at dksX5_honest_2 6 rfl rfl)
theorem dX5_honest_54 : decode cX5_honest 54 = .ok (.aload_n 0, 1) := dk_42 (dk_at dksX5_honest_2 7 rfl rfl)
theorem dX5_honest_55 : decode cX5_honest 55 = .ok (.getfield 113, 3) := dk_180 0 113 (dk_at dksX5_honest_2 8 rfl rfl)
theorem dX5_honest_58 : decode cX5_honest 58 = .ok (.iload_n 1, 1) := dk_27 (dk_at dksX5_honest_2 11 rfl rfl)
theorem dX5_honest_59 : decode cX5_honest 59 = .ok (.iaload, 1) := dk_46 (dk_at dksX5_honest_2 12 rfl rfl)
theorem dX5_honest_60 : decode cX5_honest 60 = .ok (.iastore, 1) := dk_79 (dk_at dksX5_honest_2 13 rfl rfl)
theorem dX5_honest_61 : decode cX5_honest 61 = .ok (.iinc 1 1, 3) := dk_132 1 1 (dk_at dksX5_honest_2 14 rfl rfl)
theorem dX5_honest_64 : decode cX5_honest 64 = .ok (.goto (-31), 3) := dk_167 255 225 (dk_at dksX5_honest_2 17 rfl rfl)
theorem dX5_honest_67 : decode cX5_honest 67 = .ok (.aload_n 0, 1) := dk_42 (dk_at dksX5_honest_2 20 rfl rfl)
theorem dX5_honest_68 : decode cX5_honest 68 = .ok (.dup, 1) := dk_89 (dk_at dksX5_honest_2 21 rfl rfl)
theorem dX5_honest_69 : decode cX5_honest 69 = .ok (.getfield 586, 3) := dk_180 2 74 (dk_at dksX5_honest_3 0 rfl rfl)
theorem dX5_honest_72 : decode cX5_honest 72 = .ok (.iconst 1, 1) := dk_4 (dk_at dksX5_honest_3 3 rfl rfl)
theorem dX5_honest_73 : decode cX5_honest 73 = .ok (.iadd, 1) := dk_96 (dk_at dksX5_honest_3 4 rfl rfl)
theorem dX5_honest_74 : decode cX5_honest 74 = .ok (.putfield 586, 3) := dk_181 2 74 (dk_at dksX5_honest_3 5 rfl rfl)
theorem dX5_honest_77 : decode cX5_honest 77 = .ok (.aload_n 0, 1) := dk_42 (dk_at dksX5_honest_3 8 rfl rfl)
theorem dX5_honest_78 : decode cX5_honest 78 = .ok (.getfield 586, 3) := dk_180 2 74 (dk_at dksX5_honest_3 9 rfl rfl)
theorem dX5_honest_81 : decode cX5_honest 81 = .ok (.iconst 1, 1) := dk_4 (dk_at dksX5_honest_3 12 rfl rfl)
theorem dX5_honest_82 : decode cX5_honest 82 = .ok (.isub, 1) := dk_100 (dk_at dksX5_honest_3 13 rfl rfl)
theorem dX5_honest_83 : decode cX5_honest 83 = .ok (.ireturn, 1) := dk_172 (dk_at dksX5_honest_3 14 rfl rfl)
abbrev cX5_innocent : ByteArray := prog_24_method_97_code
def yX5_innocent : MethodName := ⟨RX5, "innocent", "(II)I"⟩
def dkwX5_innocent_3 : List UInt8 := [180, 0, 176, 16, 6, 27, 104, 28, 96, 16, 10, 100, 46, 167, 0, 4, 2, 172]
abbrev dktX5_innocent_3 : List UInt8 := dkwX5_innocent_3 ++ []
def dkwX5_innocent_2 : List UInt8 := [182, 1, 250, 172, 28, 16, 10, 16, 9, 42, 180, 0, 173, 27, 46, 96, 184, 0, 185, 153, 0, 20, 42]
abbrev dktX5_innocent_2 : List UInt8 := dkwX5_innocent_2 ++ dktX5_innocent_3
def dkwX5_innocent_1 : List UInt8 := [154, 0, 16, 42, 182, 2, 53, 156, 0, 7, 4, 167, 0, 4, 3, 172, 28, 4, 160, 0, 8, 42]
abbrev dktX5_innocent_1 : List UInt8 := dkwX5_innocent_1 ++ dktX5_innocent_2
def dkwX5_innocent_0 : List UInt8 := [27, 3, 42, 180, 2, 74, 4, 100, 184, 0, 185, 154, 0, 5, 2, 172, 42, 27, 182, 2, 77, 28]
abbrev dktX5_innocent_0 : List UInt8 := dkwX5_innocent_0 ++ dktX5_innocent_1
theorem dksX5_innocent_0 : cX5_innocent.data.toList.drop 0 = dktX5_innocent_0 := by decide +kernel
theorem dksX5_innocent_1 : cX5_innocent.data.toList.drop 22 = dktX5_innocent_1 := dk_seg dksX5_innocent_0 22 rfl rfl
theorem dksX5_innocent_2 : cX5_innocent.data.toList.drop 44 = dktX5_innocent_2 := dk_seg dksX5_innocent_1 22 rfl rfl
theorem dksX5_innocent_3 : cX5_innocent.data.toList.drop 67 = dktX5_innocent_3 := dk_seg dksX5_innocent_2 23 rfl rfl
theorem dX5_innocent_0 : decode cX5_innocent 0 = .ok (.iload_n 1, 1) := dk_27 (dk_at dksX5_innocent_0 0 rfl rfl)
theorem dX5_innocent_1 : decode cX5_innocent 1 = .ok (.iconst 0, 1) := dk_3 (dk_at dksX5_innocent_0 1 rfl rfl)
theorem dX5_innocent_2 : decode cX5_innocent 2 = .ok (.aload_n 0, 1) := dk_42 (dk_at dksX5_innocent_0 2 rfl rfl)
theorem dX5_innocent_3 : decode cX5_innocent 3 = .ok (.getfield 586, 3) := dk_180 2 74 (dk_at dksX5_innocent_0 3 rfl rfl)
theorem dX5_innocent_6 : decode cX5_innocent 6 = .ok (.iconst 1, 1) := dk_4 (dk_at dksX5_innocent_0 6 rfl rfl)
theorem dX5_innocent_7 : decode cX5_innocent 7 = .ok (.isub, 1) := dk_100 (dk_at dksX5_innocent_0 7 rfl rfl)
theorem dX5_innocent_8 : decode cX5_innocent 8 = .ok (.invokestatic 185, 3) := dk_184 0 185 (dk_at dksX5_innocent_0 8 rfl rfl)
theorem dX5_innocent_11 : decode cX5_innocent 11 = .ok (.ifCond .ne 5, 3) := dk_154 0 5 (dk_at dksX5_innocent_0 11 rfl rfl)
theorem dX5_innocent_14 : decode cX5_innocent 14 = .ok (.iconst (-1), 1) := dk_2 (dk_at dksX5_innocent_0 14 rfl rfl)
theorem dX5_innocent_15 : decode cX5_innocent 15 = .ok (.ireturn, 1) := dk_172 (dk_at dksX5_innocent_0 15 rfl rfl)
theorem dX5_innocent_16 : decode cX5_innocent 16 = .ok (.aload_n 0, 1) := dk_42 (dk_at dksX5_innocent_0 16 rfl rfl)
theorem dX5_innocent_17 : decode cX5_innocent 17 = .ok (.iload_n 1, 1) := dk_27 (dk_at dksX5_innocent_0 17 rfl rfl)
theorem dX5_innocent_18 : decode cX5_innocent 18 = .ok (.invokevirtual 589, 3) := dk_182 2 77 (dk_at dksX5_innocent_0 18 rfl rfl)
theorem dX5_innocent_21 : decode cX5_innocent 21 = .ok (.iload_n 2, 1) := dk_28 (dk_at dksX5_innocent_0 21 rfl rfl)
theorem dX5_innocent_22 : decode cX5_innocent 22 = .ok (.ifCond .ne 16, 3) := dk_154 0 16 (dk_at dksX5_innocent_1 0 rfl rfl)
theorem dX5_innocent_25 : decode cX5_innocent 25 = .ok (.aload_n 0, 1) := dk_42 (dk_at dksX5_innocent_1 3 rfl rfl)
theorem dX5_innocent_26 : decode cX5_innocent 26 = .ok (.invokevirtual 565, 3) := dk_182 2 53 (dk_at dksX5_innocent_1 4 rfl rfl)
theorem dX5_innocent_29 : decode cX5_innocent 29 = .ok (.ifCond .ge 7, 3) := dk_156 0 7 (dk_at dksX5_innocent_1 7 rfl rfl)
theorem dX5_innocent_32 : decode cX5_innocent 32 = .ok (.iconst 1, 1) := dk_4 (dk_at dksX5_innocent_1 10 rfl rfl)
theorem dX5_innocent_33 : decode cX5_innocent 33 = .ok (.goto 4, 3) := dk_167 0 4 (dk_at dksX5_innocent_1 11 rfl rfl)
theorem dX5_innocent_36 : decode cX5_innocent 36 = .ok (.iconst 0, 1) := dk_3 (dk_at dksX5_innocent_1 14 rfl rfl)
theorem dX5_innocent_37 : decode cX5_innocent 37 = .ok (.ireturn, 1) := dk_172 (dk_at dksX5_innocent_1 15 rfl rfl)
theorem dX5_innocent_38 : decode cX5_innocent 38 = .ok (.iload_n 2, 1) := dk_28 (dk_at dksX5_innocent_1 16 rfl rfl)
theorem dX5_innocent_39 : decode cX5_innocent 39 = .ok (.iconst 1, 1) := dk_4 (dk_at dksX5_innocent_1 17 rfl rfl)
theorem dX5_innocent_40 : decode cX5_innocent 40 = .ok (.if_icmp .ne 8, 3) := dk_160 0 8 (dk_at dksX5_innocent_1 18 rfl rfl)
theorem dX5_innocent_43 : decode cX5_innocent 43 = .ok (.aload_n 0, 1) := dk_42 (dk_at dksX5_innocent_1 21 rfl rfl)
theorem dX5_innocent_44 : decode cX5_innocent 44 = .ok (.invokevirtual 506, 3) := dk_182 1 250 (dk_at dksX5_innocent_2 0 rfl rfl)
theorem dX5_innocent_47 : decode cX5_innocent 47 = .ok (.ireturn, 1) := dk_172 (dk_at dksX5_innocent_2 3 rfl rfl)
theorem dX5_innocent_48 : decode cX5_innocent 48 = .ok (.iload_n 2, 1) := dk_28 (dk_at dksX5_innocent_2 4 rfl rfl)
theorem dX5_innocent_49 : decode cX5_innocent 49 = .ok (.bipush 10, 2) := dk_16 10 (dk_at dksX5_innocent_2 5 rfl rfl)
theorem dX5_innocent_51 : decode cX5_innocent 51 = .ok (.bipush 9, 2) := dk_16 9 (dk_at dksX5_innocent_2 7 rfl rfl)
theorem dX5_innocent_53 : decode cX5_innocent 53 = .ok (.aload_n 0, 1) := dk_42 (dk_at dksX5_innocent_2 9 rfl rfl)
theorem dX5_innocent_54 : decode cX5_innocent 54 = .ok (.getfield 173, 3) := dk_180 0 173 (dk_at dksX5_innocent_2 10 rfl rfl)
theorem dX5_innocent_57 : decode cX5_innocent 57 = .ok (.iload_n 1, 1) := dk_27 (dk_at dksX5_innocent_2 13 rfl rfl)
theorem dX5_innocent_58 : decode cX5_innocent 58 = .ok (.iaload, 1) := dk_46 (dk_at dksX5_innocent_2 14 rfl rfl)
theorem dX5_innocent_59 : decode cX5_innocent 59 = .ok (.iadd, 1) := dk_96 (dk_at dksX5_innocent_2 15 rfl rfl)
theorem dX5_innocent_60 : decode cX5_innocent 60 = .ok (.invokestatic 185, 3) := dk_184 0 185 (dk_at dksX5_innocent_2 16 rfl rfl)
theorem dX5_innocent_63 : decode cX5_innocent 63 = .ok (.ifCond .eq 20, 3) := dk_153 0 20 (dk_at dksX5_innocent_2 19 rfl rfl)
theorem dX5_innocent_66 : decode cX5_innocent 66 = .ok (.aload_n 0, 1) := dk_42 (dk_at dksX5_innocent_2 22 rfl rfl)
theorem dX5_innocent_67 : decode cX5_innocent 67 = .ok (.getfield 176, 3) := dk_180 0 176 (dk_at dksX5_innocent_3 0 rfl rfl)
theorem dX5_innocent_70 : decode cX5_innocent 70 = .ok (.bipush 6, 2) := dk_16 6 (dk_at dksX5_innocent_3 3 rfl rfl)
theorem dX5_innocent_72 : decode cX5_innocent 72 = .ok (.iload_n 1, 1) := dk_27 (dk_at dksX5_innocent_3 5 rfl rfl)
theorem dX5_innocent_73 : decode cX5_innocent 73 = .ok (.imul, 1) := dk_104 (dk_at dksX5_innocent_3 6 rfl rfl)
theorem dX5_innocent_74 : decode cX5_innocent 74 = .ok (.iload_n 2, 1) := dk_28 (dk_at dksX5_innocent_3 7 rfl rfl)
theorem dX5_innocent_75 : decode cX5_innocent 75 = .ok (.iadd, 1) := dk_96 (dk_at dksX5_innocent_3 8 rfl rfl)
theorem dX5_innocent_76 : decode cX5_innocent 76 = .ok (.bipush 10, 2) := dk_16 10 (dk_at dksX5_innocent_3 9 rfl rfl)
theorem dX5_innocent_78 : decode cX5_innocent 78 = .ok (.isub, 1) := dk_100 (dk_at dksX5_innocent_3 11 rfl rfl)
theorem dX5_innocent_79 : decode cX5_innocent 79 = .ok (.iaload, 1) := dk_46 (dk_at dksX5_innocent_3 12 rfl rfl)
theorem dX5_innocent_80 : decode cX5_innocent 80 = .ok (.goto 4, 3) := dk_167 0 4 (dk_at dksX5_innocent_3 13 rfl rfl)
theorem dX5_innocent_83 : decode cX5_innocent 83 = .ok (.iconst (-1), 1) := dk_2 (dk_at dksX5_innocent_3 16 rfl rfl)
theorem dX5_innocent_84 : decode cX5_innocent 84 = .ok (.ireturn, 1) := dk_172 (dk_at dksX5_innocent_3 17 rfl rfl)
abbrev cX5_honestAtHand : ByteArray := prog_24_method_96_code
def yX5_honestAtHand : MethodName := ⟨RX5, "honestAtHand", "(I)V"⟩
def dkwX5_honestAtHand_1 : List UInt8 := [28, 42, 180, 0, 176, 16, 6, 27, 104, 28, 96, 46, 79, 132, 2, 1, 167, 255, 228, 177]
abbrev dktX5_honestAtHand_1 : List UInt8 := dkwX5_honestAtHand_1 ++ []
def dkwX5_honestAtHand_0 : List UInt8 := [42, 42, 180, 0, 173, 27, 46, 181, 1, 169, 3, 61, 28, 42, 180, 1, 169, 162, 0, 26, 42, 180, 0, 116]
abbrev dktX5_honestAtHand_0 : List UInt8 := dkwX5_honestAtHand_0 ++ dktX5_honestAtHand_1
theorem dksX5_honestAtHand_0 : cX5_honestAtHand.data.toList.drop 0 = dktX5_honestAtHand_0 := by decide +kernel
theorem dksX5_honestAtHand_1 : cX5_honestAtHand.data.toList.drop 24 = dktX5_honestAtHand_1 := dk_seg dksX5_honestAtHand_0 24 rfl rfl
theorem dX5_honestAtHand_0 : decode cX5_honestAtHand 0 = .ok (.aload_n 0, 1) := dk_42 (dk_at dksX5_honestAtHand_0 0 rfl rfl)
theorem dX5_honestAtHand_1 : decode cX5_honestAtHand 1 = .ok (.aload_n 0, 1) := dk_42 (dk_at dksX5_honestAtHand_0 1 rfl rfl)
theorem dX5_honestAtHand_2 : decode cX5_honestAtHand 2 = .ok (.getfield 173, 3) := dk_180 0 173 (dk_at dksX5_honestAtHand_0 2 rfl rfl)
theorem dX5_honestAtHand_5 : decode cX5_honestAtHand 5 = .ok (.iload_n 1, 1) := dk_27 (dk_at dksX5_honestAtHand_0 5 rfl rfl)
theorem dX5_honestAtHand_6 : decode cX5_honestAtHand 6 = .ok (.iaload, 1) := dk_46 (dk_at dksX5_honestAtHand_0 6 rfl rfl)
theorem dX5_honestAtHand_7 : decode cX5_honestAtHand 7 = .ok (.putfield 425, 3) := dk_181 1 169 (dk_at dksX5_honestAtHand_0 7 rfl rfl)
theorem dX5_honestAtHand_10 : decode cX5_honestAtHand 10 = .ok (.iconst 0, 1) := dk_3 (dk_at dksX5_honestAtHand_0 10 rfl rfl)
theorem dX5_honestAtHand_11 : decode cX5_honestAtHand 11 = .ok (.istore_n 2, 1) := dk_61 (dk_at dksX5_honestAtHand_0 11 rfl rfl)
theorem dX5_honestAtHand_12 : decode cX5_honestAtHand 12 = .ok (.iload_n 2, 1) := dk_28 (dk_at dksX5_honestAtHand_0 12 rfl rfl)
theorem dX5_honestAtHand_13 : decode cX5_honestAtHand 13 = .ok (.aload_n 0, 1) := dk_42 (dk_at dksX5_honestAtHand_0 13 rfl rfl)
theorem dX5_honestAtHand_14 : decode cX5_honestAtHand 14 = .ok (.getfield 425, 3) := dk_180 1 169 (dk_at dksX5_honestAtHand_0 14 rfl rfl)
theorem dX5_honestAtHand_17 : decode cX5_honestAtHand 17 = .ok (.if_icmp .ge 26, 3) := dk_162 0 26 (dk_at dksX5_honestAtHand_0 17 rfl rfl)
theorem dX5_honestAtHand_20 : decode cX5_honestAtHand 20 = .ok (.aload_n 0, 1) := dk_42 (dk_at dksX5_honestAtHand_0 20 rfl rfl)
theorem dX5_honestAtHand_21 : decode cX5_honestAtHand 21 = .ok (.getfield 116, 3) := dk_180 0 116 (dk_at dksX5_honestAtHand_0 21 rfl rfl)
theorem dX5_honestAtHand_24 : decode cX5_honestAtHand 24 = .ok (.iload_n 2, 1) := dk_28 (dk_at dksX5_honestAtHand_1 0 rfl rfl)
theorem dX5_honestAtHand_25 : decode cX5_honestAtHand 25 = .ok (.aload_n 0, 1) := dk_42 (dk_at dksX5_honestAtHand_1 1 rfl rfl)
theorem dX5_honestAtHand_26 : decode cX5_honestAtHand 26 = .ok (.getfield 176, 3) := dk_180 0 176 (dk_at dksX5_honestAtHand_1 2 rfl rfl)
theorem dX5_honestAtHand_29 : decode cX5_honestAtHand 29 = .ok (.bipush 6, 2) := dk_16 6 (dk_at dksX5_honestAtHand_1 5 rfl rfl)
theorem dX5_honestAtHand_31 : decode cX5_honestAtHand 31 = .ok (.iload_n 1, 1) := dk_27 (dk_at dksX5_honestAtHand_1 7 rfl rfl)
theorem dX5_honestAtHand_32 : decode cX5_honestAtHand 32 = .ok (.imul, 1) := dk_104 (dk_at dksX5_honestAtHand_1 8 rfl rfl)
theorem dX5_honestAtHand_33 : decode cX5_honestAtHand 33 = .ok (.iload_n 2, 1) := dk_28 (dk_at dksX5_honestAtHand_1 9 rfl rfl)
theorem dX5_honestAtHand_34 : decode cX5_honestAtHand 34 = .ok (.iadd, 1) := dk_96 (dk_at dksX5_honestAtHand_1 10 rfl rfl)
theorem dX5_honestAtHand_35 : decode cX5_honestAtHand 35 = .ok (.iaload, 1) := dk_46 (dk_at dksX5_honestAtHand_1 11 rfl rfl)
theorem dX5_honestAtHand_36 : decode cX5_honestAtHand 36 = .ok (.iastore, 1) := dk_79 (dk_at dksX5_honestAtHand_1 12 rfl rfl)
theorem dX5_honestAtHand_37 : decode cX5_honestAtHand 37 = .ok (.iinc 2 1, 3) := dk_132 2 1 (dk_at dksX5_honestAtHand_1 13 rfl rfl)
theorem dX5_honestAtHand_40 : decode cX5_honestAtHand 40 = .ok (.goto (-28), 3) := dk_167 255 228 (dk_at dksX5_honestAtHand_1 16 rfl rfl)
theorem dX5_honestAtHand_43 : decode cX5_honestAtHand 43 = .ok (.return_, 1) := dk_177 (dk_at dksX5_honestAtHand_1 19 rfl rfl)
abbrev cX5_parts : ByteArray := prog_24_method_99_code
def yX5_parts : MethodName := ⟨RX5, "parts", "(I)I"⟩
def dkwX5_parts_3 : List UInt8 := [153, 0, 5, 29, 172, 132, 3, 1, 167, 255, 235, 2, 172]
abbrev dktX5_parts_3 : List UInt8 := dkwX5_parts_3 ++ []
def dkwX5_parts_2 : List UInt8 := [182, 2, 80, 153, 0, 6, 16, 254, 172, 3, 62, 29, 8, 162, 0, 22, 42, 27, 4, 29, 120, 182, 2, 80]
abbrev dktX5_parts_2 : List UInt8 := dkwX5_parts_2 ++ dktX5_parts_3
def dkwX5_parts_1 : List UInt8 := [61, 42, 27, 182, 2, 77, 28, 153, 0, 10, 42, 182, 1, 218, 154, 0, 5, 2, 172, 42, 27, 3]
abbrev dktX5_parts_1 : List UInt8 := dkwX5_parts_1 ++ dktX5_parts_2
def dkwX5_parts_0 : List UInt8 := [27, 3, 42, 180, 2, 74, 4, 100, 184, 0, 185, 154, 0, 5, 2, 172, 42, 182, 1, 196, 42, 182, 1, 218]
abbrev dktX5_parts_0 : List UInt8 := dkwX5_parts_0 ++ dktX5_parts_1
theorem dksX5_parts_0 : cX5_parts.data.toList.drop 0 = dktX5_parts_0 := by decide +kernel
theorem dksX5_parts_1 : cX5_parts.data.toList.drop 24 = dktX5_parts_1 := dk_seg dksX5_parts_0 24 rfl rfl
theorem dksX5_parts_2 : cX5_parts.data.toList.drop 46 = dktX5_parts_2 := dk_seg dksX5_parts_1 22 rfl rfl
theorem dksX5_parts_3 : cX5_parts.data.toList.drop 70 = dktX5_parts_3 := dk_seg dksX5_parts_2 24 rfl rfl
theorem dX5_parts_0 : decode cX5_parts 0 = .ok (.iload_n 1, 1) := dk_27 (dk_at dksX5_parts_0 0 rfl rfl)
theorem dX5_parts_1 : decode cX5_parts 1 = .ok (.iconst 0, 1) := dk_3 (dk_at dksX5_parts_0 1 rfl rfl)
theorem dX5_parts_2 : decode cX5_parts 2 = .ok (.aload_n 0, 1) := dk_42 (dk_at dksX5_parts_0 2 rfl rfl)
theorem dX5_parts_3 : decode cX5_parts 3 = .ok (.getfield 586, 3) := dk_180 2 74 (dk_at dksX5_parts_0 3 rfl rfl)
theorem dX5_parts_6 : decode cX5_parts 6 = .ok (.iconst 1, 1) := dk_4 (dk_at dksX5_parts_0 6 rfl rfl)
theorem dX5_parts_7 : decode cX5_parts 7 = .ok (.isub, 1) := dk_100 (dk_at dksX5_parts_0 7 rfl rfl)
theorem dX5_parts_8 : decode cX5_parts 8 = .ok (.invokestatic 185, 3) := dk_184 0 185 (dk_at dksX5_parts_0 8 rfl rfl)
theorem dX5_parts_11 : decode cX5_parts 11 = .ok (.ifCond .ne 5, 3) := dk_154 0 5 (dk_at dksX5_parts_0 11 rfl rfl)
theorem dX5_parts_14 : decode cX5_parts 14 = .ok (.iconst (-1), 1) := dk_2 (dk_at dksX5_parts_0 14 rfl rfl)
theorem dX5_parts_15 : decode cX5_parts 15 = .ok (.ireturn, 1) := dk_172 (dk_at dksX5_parts_0 15 rfl rfl)
theorem dX5_parts_16 : decode cX5_parts 16 = .ok (.aload_n 0, 1) := dk_42 (dk_at dksX5_parts_0 16 rfl rfl)
theorem dX5_parts_17 : decode cX5_parts 17 = .ok (.invokevirtual 452, 3) := dk_182 1 196 (dk_at dksX5_parts_0 17 rfl rfl)
theorem dX5_parts_20 : decode cX5_parts 20 = .ok (.aload_n 0, 1) := dk_42 (dk_at dksX5_parts_0 20 rfl rfl)
theorem dX5_parts_21 : decode cX5_parts 21 = .ok (.invokevirtual 474, 3) := dk_182 1 218 (dk_at dksX5_parts_0 21 rfl rfl)
theorem dX5_parts_24 : decode cX5_parts 24 = .ok (.istore_n 2, 1) := dk_61 (dk_at dksX5_parts_1 0 rfl rfl)
theorem dX5_parts_25 : decode cX5_parts 25 = .ok (.aload_n 0, 1) := dk_42 (dk_at dksX5_parts_1 1 rfl rfl)
theorem dX5_parts_26 : decode cX5_parts 26 = .ok (.iload_n 1, 1) := dk_27 (dk_at dksX5_parts_1 2 rfl rfl)
theorem dX5_parts_27 : decode cX5_parts 27 = .ok (.invokevirtual 589, 3) := dk_182 2 77 (dk_at dksX5_parts_1 3 rfl rfl)
theorem dX5_parts_30 : decode cX5_parts 30 = .ok (.iload_n 2, 1) := dk_28 (dk_at dksX5_parts_1 6 rfl rfl)
theorem dX5_parts_31 : decode cX5_parts 31 = .ok (.ifCond .eq 10, 3) := dk_153 0 10 (dk_at dksX5_parts_1 7 rfl rfl)
theorem dX5_parts_34 : decode cX5_parts 34 = .ok (.aload_n 0, 1) := dk_42 (dk_at dksX5_parts_1 10 rfl rfl)
theorem dX5_parts_35 : decode cX5_parts 35 = .ok (.invokevirtual 474, 3) := dk_182 1 218 (dk_at dksX5_parts_1 11 rfl rfl)
theorem dX5_parts_38 : decode cX5_parts 38 = .ok (.ifCond .ne 5, 3) := dk_154 0 5 (dk_at dksX5_parts_1 14 rfl rfl)
theorem dX5_parts_41 : decode cX5_parts 41 = .ok (.iconst (-1), 1) := dk_2 (dk_at dksX5_parts_1 17 rfl rfl)
theorem dX5_parts_42 : decode cX5_parts 42 = .ok (.ireturn, 1) := dk_172 (dk_at dksX5_parts_1 18 rfl rfl)
theorem dX5_parts_43 : decode cX5_parts 43 = .ok (.aload_n 0, 1) := dk_42 (dk_at dksX5_parts_1 19 rfl rfl)
theorem dX5_parts_44 : decode cX5_parts 44 = .ok (.iload_n 1, 1) := dk_27 (dk_at dksX5_parts_1 20 rfl rfl)
theorem dX5_parts_45 : decode cX5_parts 45 = .ok (.iconst 0, 1) := dk_3 (dk_at dksX5_parts_1 21 rfl rfl)
theorem dX5_parts_46 : decode cX5_parts 46 = .ok (.invokevirtual 592, 3) := dk_182 2 80 (dk_at dksX5_parts_2 0 rfl rfl)
theorem dX5_parts_49 : decode cX5_parts 49 = .ok (.ifCond .eq 6, 3) := dk_153 0 6 (dk_at dksX5_parts_2 3 rfl rfl)
theorem dX5_parts_52 : decode cX5_parts 52 = .ok (.bipush (-2), 2) := dk_16 254 (dk_at dksX5_parts_2 6 rfl rfl)
theorem dX5_parts_54 : decode cX5_parts 54 = .ok (.ireturn, 1) := dk_172 (dk_at dksX5_parts_2 8 rfl rfl)
theorem dX5_parts_55 : decode cX5_parts 55 = .ok (.iconst 0, 1) := dk_3 (dk_at dksX5_parts_2 9 rfl rfl)
theorem dX5_parts_56 : decode cX5_parts 56 = .ok (.istore_n 3, 1) := dk_62 (dk_at dksX5_parts_2 10 rfl rfl)
theorem dX5_parts_57 : decode cX5_parts 57 = .ok (.iload_n 3, 1) := dk_29 (dk_at dksX5_parts_2 11 rfl rfl)
theorem dX5_parts_58 : decode cX5_parts 58 = .ok (.iconst 5, 1) := dk_8 (dk_at dksX5_parts_2 12 rfl rfl)
theorem dX5_parts_59 : decode cX5_parts 59 = .ok (.if_icmp .ge 22, 3) := dk_162 0 22 (dk_at dksX5_parts_2 13 rfl rfl)
theorem dX5_parts_62 : decode cX5_parts 62 = .ok (.aload_n 0, 1) := dk_42 (dk_at dksX5_parts_2 16 rfl rfl)
theorem dX5_parts_63 : decode cX5_parts 63 = .ok (.iload_n 1, 1) := dk_27 (dk_at dksX5_parts_2 17 rfl rfl)
theorem dX5_parts_64 : decode cX5_parts 64 = .ok (.iconst 1, 1) := dk_4 (dk_at dksX5_parts_2 18 rfl rfl)
theorem dX5_parts_65 : decode cX5_parts 65 = .ok (.iload_n 3, 1) := dk_29 (dk_at dksX5_parts_2 19 rfl rfl)
theorem dX5_parts_66 : decode cX5_parts 66 = .ok (.ishl, 1) := dk_120 (dk_at dksX5_parts_2 20 rfl rfl)
theorem dX5_parts_67 : decode cX5_parts 67 = .ok (.invokevirtual 592, 3) := dk_182 2 80 (dk_at dksX5_parts_2 21 rfl rfl)
theorem dX5_parts_70 : decode cX5_parts 70 = .ok (.ifCond .eq 5, 3) := dk_153 0 5 (dk_at dksX5_parts_3 0 rfl rfl)
theorem dX5_parts_73 : decode cX5_parts 73 = .ok (.iload_n 3, 1) := dk_29 (dk_at dksX5_parts_3 3 rfl rfl)
theorem dX5_parts_74 : decode cX5_parts 74 = .ok (.ireturn, 1) := dk_172 (dk_at dksX5_parts_3 4 rfl rfl)
theorem dX5_parts_75 : decode cX5_parts 75 = .ok (.iinc 3 1, 3) := dk_132 3 1 (dk_at dksX5_parts_3 5 rfl rfl)
theorem dX5_parts_78 : decode cX5_parts 78 = .ok (.goto (-21), 3) := dk_167 255 235 (dk_at dksX5_parts_3 8 rfl rfl)
theorem dX5_parts_81 : decode cX5_parts 81 = .ok (.iconst (-1), 1) := dk_2 (dk_at dksX5_parts_3 11 rfl rfl)
theorem dX5_parts_82 : decode cX5_parts 82 = .ok (.ireturn, 1) := dk_172 (dk_at dksX5_parts_3 12 rfl rfl)
abbrev cX5_doPart : ByteArray := prog_24_method_98_code
def yX5_doPart : MethodName := ⟨RX5, "doPart", "(II)Z"⟩
def dkwX5_doPart_4 : List UInt8 := [167, 0, 4, 3, 62, 132, 4, 1, 167, 255, 210, 29, 172]
abbrev dktX5_doPart_4 : List UInt8 := dkwX5_doPart_4 ++ []
def dkwX5_doPart_3 : List UInt8 := [21, 4, 47, 42, 21, 4, 16, 6, 108, 21, 4, 16, 6, 112, 2, 182, 1, 215, 148, 153, 0, 7, 4]
abbrev dktX5_doPart_3 : List UInt8 := dkwX5_doPart_3 ++ dktX5_doPart_4
def dkwX5_doPart_2 : List UInt8 := [28, 182, 1, 212, 3, 62, 3, 54, 4, 21, 4, 16, 48, 162, 0, 45, 29, 154, 0, 29, 42, 180, 0, 179]
abbrev dktX5_doPart_2 : List UInt8 := dkwX5_doPart_2 ++ dktX5_doPart_3
def dkwX5_doPart_1 : List UInt8 := [16, 6, 108, 29, 16, 6, 112, 2, 182, 1, 215, 80, 132, 3, 1, 167, 255, 228, 42, 27, 182, 2, 77, 42]
abbrev dktX5_doPart_1 : List UInt8 := dkwX5_doPart_1 ++ dktX5_doPart_2
def dkwX5_doPart_0 : List UInt8 := [42, 182, 1, 196, 42, 28, 182, 1, 212, 3, 62, 29, 16, 48, 162, 0, 28, 42, 180, 0, 179, 29, 42, 29]
abbrev dktX5_doPart_0 : List UInt8 := dkwX5_doPart_0 ++ dktX5_doPart_1
theorem dksX5_doPart_0 : cX5_doPart.data.toList.drop 0 = dktX5_doPart_0 := by decide +kernel
theorem dksX5_doPart_1 : cX5_doPart.data.toList.drop 24 = dktX5_doPart_1 := dk_seg dksX5_doPart_0 24 rfl rfl
theorem dksX5_doPart_2 : cX5_doPart.data.toList.drop 48 = dktX5_doPart_2 := dk_seg dksX5_doPart_1 24 rfl rfl
theorem dksX5_doPart_3 : cX5_doPart.data.toList.drop 72 = dktX5_doPart_3 := dk_seg dksX5_doPart_2 24 rfl rfl
theorem dksX5_doPart_4 : cX5_doPart.data.toList.drop 95 = dktX5_doPart_4 := dk_seg dksX5_doPart_3 23 rfl rfl
theorem dX5_doPart_0 : decode cX5_doPart 0 = .ok (.aload_n 0, 1) := dk_42 (dk_at dksX5_doPart_0 0 rfl rfl)
theorem dX5_doPart_1 : decode cX5_doPart 1 = .ok (.invokevirtual 452, 3) := dk_182 1 196 (dk_at dksX5_doPart_0 1 rfl rfl)
theorem dX5_doPart_4 : decode cX5_doPart 4 = .ok (.aload_n 0, 1) := dk_42 (dk_at dksX5_doPart_0 4 rfl rfl)
theorem dX5_doPart_5 : decode cX5_doPart 5 = .ok (.iload_n 2, 1) := dk_28 (dk_at dksX5_doPart_0 5 rfl rfl)
theorem dX5_doPart_6 : decode cX5_doPart 6 = .ok (.invokevirtual 468, 3) := dk_182 1 212 (dk_at dksX5_doPart_0 6 rfl rfl)
theorem dX5_doPart_9 : decode cX5_doPart 9 = .ok (.iconst 0, 1) := dk_3 (dk_at dksX5_doPart_0 9 rfl rfl)
theorem dX5_doPart_10 : decode cX5_doPart 10 = .ok (.istore_n 3, 1) := dk_62 (dk_at dksX5_doPart_0 10 rfl rfl)
theorem dX5_doPart_11 : decode cX5_doPart 11 = .ok (.iload_n 3, 1) := dk_29 (dk_at dksX5_doPart_0 11 rfl rfl)
theorem dX5_doPart_12 : decode cX5_doPart 12 = .ok (.bipush 48, 2) := dk_16 48 (dk_at dksX5_doPart_0 12 rfl rfl)
theorem dX5_doPart_14 : decode cX5_doPart 14 = .ok (.if_icmp .ge 28, 3) := dk_162 0 28 (dk_at dksX5_doPart_0 14 rfl rfl)
theorem dX5_doPart_17 : decode cX5_doPart 17 = .ok (.aload_n 0, 1) := dk_42 (dk_at dksX5_doPart_0 17 rfl rfl)
theorem dX5_doPart_18 : decode cX5_doPart 18 = .ok (.getfield 179, 3) := dk_180 0 179 (dk_at dksX5_doPart_0 18 rfl rfl)
theorem dX5_doPart_21 : decode cX5_doPart 21 = .ok (.iload_n 3, 1) := dk_29 (dk_at dksX5_doPart_0 21 rfl rfl)
theorem dX5_doPart_22 : decode cX5_doPart 22 = .ok (.aload_n 0, 1) := dk_42 (dk_at dksX5_doPart_0 22 rfl rfl)
theorem dX5_doPart_23 : decode cX5_doPart 23 = .ok (.iload_n 3, 1) := dk_29 (dk_at dksX5_doPart_0 23 rfl rfl)
theorem dX5_doPart_24 : decode cX5_doPart 24 = .ok (.bipush 6, 2) := dk_16 6 (dk_at dksX5_doPart_1 0 rfl rfl)
theorem dX5_doPart_26 : decode cX5_doPart 26 = .ok (.idiv, 1) := dk_108 (dk_at dksX5_doPart_1 2 rfl rfl)
theorem dX5_doPart_27 : decode cX5_doPart 27 = .ok (.iload_n 3, 1) := dk_29 (dk_at dksX5_doPart_1 3 rfl rfl)
theorem dX5_doPart_28 : decode cX5_doPart 28 = .ok (.bipush 6, 2) := dk_16 6 (dk_at dksX5_doPart_1 4 rfl rfl)
theorem dX5_doPart_30 : decode cX5_doPart 30 = .ok (.irem, 1) := dk_112 (dk_at dksX5_doPart_1 6 rfl rfl)
theorem dX5_doPart_31 : decode cX5_doPart 31 = .ok (.iconst (-1), 1) := dk_2 (dk_at dksX5_doPart_1 7 rfl rfl)
theorem dX5_doPart_32 : decode cX5_doPart 32 = .ok (.invokevirtual 471, 3) := dk_182 1 215 (dk_at dksX5_doPart_1 8 rfl rfl)
theorem dX5_doPart_35 : decode cX5_doPart 35 = .ok (.lastore, 1) := dk_80 (dk_at dksX5_doPart_1 11 rfl rfl)
theorem dX5_doPart_36 : decode cX5_doPart 36 = .ok (.iinc 3 1, 3) := dk_132 3 1 (dk_at dksX5_doPart_1 12 rfl rfl)
theorem dX5_doPart_39 : decode cX5_doPart 39 = .ok (.goto (-28), 3) := dk_167 255 228 (dk_at dksX5_doPart_1 15 rfl rfl)
theorem dX5_doPart_42 : decode cX5_doPart 42 = .ok (.aload_n 0, 1) := dk_42 (dk_at dksX5_doPart_1 18 rfl rfl)
theorem dX5_doPart_43 : decode cX5_doPart 43 = .ok (.iload_n 1, 1) := dk_27 (dk_at dksX5_doPart_1 19 rfl rfl)
theorem dX5_doPart_44 : decode cX5_doPart 44 = .ok (.invokevirtual 589, 3) := dk_182 2 77 (dk_at dksX5_doPart_1 20 rfl rfl)
theorem dX5_doPart_47 : decode cX5_doPart 47 = .ok (.aload_n 0, 1) := dk_42 (dk_at dksX5_doPart_1 23 rfl rfl)
theorem dX5_doPart_48 : decode cX5_doPart 48 = .ok (.iload_n 2, 1) := dk_28 (dk_at dksX5_doPart_2 0 rfl rfl)
theorem dX5_doPart_49 : decode cX5_doPart 49 = .ok (.invokevirtual 468, 3) := dk_182 1 212 (dk_at dksX5_doPart_2 1 rfl rfl)
theorem dX5_doPart_52 : decode cX5_doPart 52 = .ok (.iconst 0, 1) := dk_3 (dk_at dksX5_doPart_2 4 rfl rfl)
theorem dX5_doPart_53 : decode cX5_doPart 53 = .ok (.istore_n 3, 1) := dk_62 (dk_at dksX5_doPart_2 5 rfl rfl)
theorem dX5_doPart_54 : decode cX5_doPart 54 = .ok (.iconst 0, 1) := dk_3 (dk_at dksX5_doPart_2 6 rfl rfl)
theorem dX5_doPart_55 : decode cX5_doPart 55 = .ok (.istore 4, 2) := dk_54 4 (dk_at dksX5_doPart_2 7 rfl rfl)
theorem dX5_doPart_57 : decode cX5_doPart 57 = .ok (.iload 4, 2) := dk_21 4 (dk_at dksX5_doPart_2 9 rfl rfl)
theorem dX5_doPart_59 : decode cX5_doPart 59 = .ok (.bipush 48, 2) := dk_16 48 (dk_at dksX5_doPart_2 11 rfl rfl)
theorem dX5_doPart_61 : decode cX5_doPart 61 = .ok (.if_icmp .ge 45, 3) := dk_162 0 45 (dk_at dksX5_doPart_2 13 rfl rfl)
theorem dX5_doPart_64 : decode cX5_doPart 64 = .ok (.iload_n 3, 1) := dk_29 (dk_at dksX5_doPart_2 16 rfl rfl)
theorem dX5_doPart_65 : decode cX5_doPart 65 = .ok (.ifCond .ne 29, 3) := dk_154 0 29 (dk_at dksX5_doPart_2 17 rfl rfl)
theorem dX5_doPart_68 : decode cX5_doPart 68 = .ok (.aload_n 0, 1) := dk_42 (dk_at dksX5_doPart_2 20 rfl rfl)
theorem dX5_doPart_69 : decode cX5_doPart 69 = .ok (.getfield 179, 3) := dk_180 0 179 (dk_at dksX5_doPart_2 21 rfl rfl)
theorem dX5_doPart_72 : decode cX5_doPart 72 = .ok (.iload 4, 2) := dk_21 4 (dk_at dksX5_doPart_3 0 rfl rfl)
theorem dX5_doPart_74 : decode cX5_doPart 74 = .ok (.laload, 1) := dk_47 (dk_at dksX5_doPart_3 2 rfl rfl)
theorem dX5_doPart_75 : decode cX5_doPart 75 = .ok (.aload_n 0, 1) := dk_42 (dk_at dksX5_doPart_3 3 rfl rfl)
theorem dX5_doPart_76 : decode cX5_doPart 76 = .ok (.iload 4, 2) := dk_21 4 (dk_at dksX5_doPart_3 4 rfl rfl)
theorem dX5_doPart_78 : decode cX5_doPart 78 = .ok (.bipush 6, 2) := dk_16 6 (dk_at dksX5_doPart_3 6 rfl rfl)
theorem dX5_doPart_80 : decode cX5_doPart 80 = .ok (.idiv, 1) := dk_108 (dk_at dksX5_doPart_3 8 rfl rfl)
theorem dX5_doPart_81 : decode cX5_doPart 81 = .ok (.iload 4, 2) := dk_21 4 (dk_at dksX5_doPart_3 9 rfl rfl)
theorem dX5_doPart_83 : decode cX5_doPart 83 = .ok (.bipush 6, 2) := dk_16 6 (dk_at dksX5_doPart_3 11 rfl rfl)
theorem dX5_doPart_85 : decode cX5_doPart 85 = .ok (.irem, 1) := dk_112 (dk_at dksX5_doPart_3 13 rfl rfl)
theorem dX5_doPart_86 : decode cX5_doPart 86 = .ok (.iconst (-1), 1) := dk_2 (dk_at dksX5_doPart_3 14 rfl rfl)
theorem dX5_doPart_87 : decode cX5_doPart 87 = .ok (.invokevirtual 471, 3) := dk_182 1 215 (dk_at dksX5_doPart_3 15 rfl rfl)
theorem dX5_doPart_90 : decode cX5_doPart 90 = .ok (.lcmp, 1) := dk_148 (dk_at dksX5_doPart_3 18 rfl rfl)
theorem dX5_doPart_91 : decode cX5_doPart 91 = .ok (.ifCond .eq 7, 3) := dk_153 0 7 (dk_at dksX5_doPart_3 19 rfl rfl)
theorem dX5_doPart_94 : decode cX5_doPart 94 = .ok (.iconst 1, 1) := dk_4 (dk_at dksX5_doPart_3 22 rfl rfl)
theorem dX5_doPart_95 : decode cX5_doPart 95 = .ok (.goto 4, 3) := dk_167 0 4 (dk_at dksX5_doPart_4 0 rfl rfl)
theorem dX5_doPart_98 : decode cX5_doPart 98 = .ok (.iconst 0, 1) := dk_3 (dk_at dksX5_doPart_4 3 rfl rfl)
theorem dX5_doPart_99 : decode cX5_doPart 99 = .ok (.istore_n 3, 1) := dk_62 (dk_at dksX5_doPart_4 4 rfl rfl)
theorem dX5_doPart_100 : decode cX5_doPart 100 = .ok (.iinc 4 1, 3) := dk_132 4 1 (dk_at dksX5_doPart_4 5 rfl rfl)
theorem dX5_doPart_103 : decode cX5_doPart 103 = .ok (.goto (-46), 3) := dk_167 255 210 (dk_at dksX5_doPart_4 8 rfl rfl)
theorem dX5_doPart_106 : decode cX5_doPart 106 = .ok (.iload_n 3, 1) := dk_29 (dk_at dksX5_doPart_4 11 rfl rfl)
theorem dX5_doPart_107 : decode cX5_doPart 107 = .ok (.ireturn, 1) := dk_172 (dk_at dksX5_doPart_4 12 rfl rfl)
abbrev cX5_stop : ByteArray := prog_24_method_100_code
def yX5_stop : MethodName := ⟨RX5, "stop", "(I)I"⟩
def dkwX5_stop_6 : List UInt8 := [132, 4, 1, 167, 255, 162, 29, 172]
abbrev dktX5_stop_6 : List UInt8 := dkwX5_stop_6 ++ []
def dkwX5_stop_5 : List UInt8 := [153, 0, 7, 4, 167, 0, 4, 3, 54, 5, 132, 6, 1, 167, 255, 219, 21, 5, 153, 0, 6, 21, 4, 62]
abbrev dktX5_stop_5 : List UInt8 := dkwX5_stop_5 ++ dktX5_stop_6
def dkwX5_stop_4 : List UInt8 := [21, 6, 42, 180, 2, 62, 162, 0, 34, 21, 5, 153, 0, 29, 42, 180, 0, 170, 21, 6, 46, 21, 4, 126]
abbrev dktX5_stop_4 : List UInt8 := dkwX5_stop_4 ++ dktX5_stop_5
def dkwX5_stop_3 : List UInt8 := [155, 0, 18, 21, 4, 184, 1, 175, 29, 184, 1, 175, 161, 0, 6, 167, 0, 57, 4, 54, 5, 3, 54, 6]
abbrev dktX5_stop_3 : List UInt8 := dkwX5_stop_3 ++ dktX5_stop_4
def dkwX5_stop_2 : List UInt8 := [62, 3, 54, 4, 21, 4, 4, 42, 180, 2, 29, 120, 162, 0, 89, 21, 4, 28, 126, 154, 0, 76, 29]
abbrev dktX5_stop_2 : List UInt8 := dkwX5_stop_2 ++ dktX5_stop_3
def dkwX5_stop_1 : List UInt8 := [42, 29, 182, 2, 77, 28, 42, 182, 2, 68, 128, 61, 132, 3, 1, 167, 255, 233, 42, 27, 182, 2, 71, 2]
abbrev dktX5_stop_1 : List UInt8 := dkwX5_stop_1 ++ dktX5_stop_2
def dkwX5_stop_0 : List UInt8 := [27, 4, 16, 6, 184, 0, 185, 154, 0, 5, 2, 172, 3, 61, 3, 62, 29, 42, 180, 2, 74, 162, 0, 21]
abbrev dktX5_stop_0 : List UInt8 := dkwX5_stop_0 ++ dktX5_stop_1
theorem dksX5_stop_0 : cX5_stop.data.toList.drop 0 = dktX5_stop_0 := by decide +kernel
theorem dksX5_stop_1 : cX5_stop.data.toList.drop 24 = dktX5_stop_1 := dk_seg dksX5_stop_0 24 rfl rfl
theorem dksX5_stop_2 : cX5_stop.data.toList.drop 48 = dktX5_stop_2 := dk_seg dksX5_stop_1 24 rfl rfl
theorem dksX5_stop_3 : cX5_stop.data.toList.drop 71 = dktX5_stop_3 := dk_seg dksX5_stop_2 23 rfl rfl
theorem dksX5_stop_4 : cX5_stop.data.toList.drop 95 = dktX5_stop_4 := dk_seg dksX5_stop_3 24 rfl rfl
theorem dksX5_stop_5 : cX5_stop.data.toList.drop 119 = dktX5_stop_5 := dk_seg dksX5_stop_4 24 rfl rfl
theorem dksX5_stop_6 : cX5_stop.data.toList.drop 143 = dktX5_stop_6 := dk_seg dksX5_stop_5 24 rfl rfl
theorem dX5_stop_0 : decode cX5_stop 0 = .ok (.iload_n 1, 1) := dk_27 (dk_at dksX5_stop_0 0 rfl rfl)
theorem dX5_stop_1 : decode cX5_stop 1 = .ok (.iconst 1, 1) := dk_4 (dk_at dksX5_stop_0 1 rfl rfl)
theorem dX5_stop_2 : decode cX5_stop 2 = .ok (.bipush 6, 2) := dk_16 6 (dk_at dksX5_stop_0 2 rfl rfl)
theorem dX5_stop_4 : decode cX5_stop 4 = .ok (.invokestatic 185, 3) := dk_184 0 185 (dk_at dksX5_stop_0 4 rfl rfl)
theorem dX5_stop_7 : decode cX5_stop 7 = .ok (.ifCond .ne 5, 3) := dk_154 0 5 (dk_at dksX5_stop_0 7 rfl rfl)
theorem dX5_stop_10 : decode cX5_stop 10 = .ok (.iconst (-1), 1) := dk_2 (dk_at dksX5_stop_0 10 rfl rfl)
theorem dX5_stop_11 : decode cX5_stop 11 = .ok (.ireturn, 1) := dk_172 (dk_at dksX5_stop_0 11 rfl rfl)
theorem dX5_stop_12 : decode cX5_stop 12 = .ok (.iconst 0, 1) := dk_3 (dk_at dksX5_stop_0 12 rfl rfl)
theorem dX5_stop_13 : decode cX5_stop 13 = .ok (.istore_n 2, 1) := dk_61 (dk_at dksX5_stop_0 13 rfl rfl)
theorem dX5_stop_14 : decode cX5_stop 14 = .ok (.iconst 0, 1) := dk_3 (dk_at dksX5_stop_0 14 rfl rfl)
theorem dX5_stop_15 : decode cX5_stop 15 = .ok (.istore_n 3, 1) := dk_62 (dk_at dksX5_stop_0 15 rfl rfl)
theorem dX5_stop_16 : decode cX5_stop 16 = .ok (.iload_n 3, 1) := dk_29 (dk_at dksX5_stop_0 16 rfl rfl)
theorem dX5_stop_17 : decode cX5_stop 17 = .ok (.aload_n 0, 1) := dk_42 (dk_at dksX5_stop_0 17 rfl rfl)
theorem dX5_stop_18 : decode cX5_stop 18 = .ok (.getfield 586, 3) := dk_180 2 74 (dk_at dksX5_stop_0 18 rfl rfl)
theorem dX5_stop_21 : decode cX5_stop 21 = .ok (.if_icmp .ge 21, 3) := dk_162 0 21 (dk_at dksX5_stop_0 21 rfl rfl)
theorem dX5_stop_24 : decode cX5_stop 24 = .ok (.aload_n 0, 1) := dk_42 (dk_at dksX5_stop_1 0 rfl rfl)
theorem dX5_stop_25 : decode cX5_stop 25 = .ok (.iload_n 3, 1) := dk_29 (dk_at dksX5_stop_1 1 rfl rfl)
theorem dX5_stop_26 : decode cX5_stop 26 = .ok (.invokevirtual 589, 3) := dk_182 2 77 (dk_at dksX5_stop_1 2 rfl rfl)
theorem dX5_stop_29 : decode cX5_stop 29 = .ok (.iload_n 2, 1) := dk_28 (dk_at dksX5_stop_1 5 rfl rfl)
theorem dX5_stop_30 : decode cX5_stop 30 = .ok (.aload_n 0, 1) := dk_42 (dk_at dksX5_stop_1 6 rfl rfl)
theorem dX5_stop_31 : decode cX5_stop 31 = .ok (.invokevirtual 580, 3) := dk_182 2 68 (dk_at dksX5_stop_1 7 rfl rfl)
theorem dX5_stop_34 : decode cX5_stop 34 = .ok (.ior, 1) := dk_128 (dk_at dksX5_stop_1 10 rfl rfl)
theorem dX5_stop_35 : decode cX5_stop 35 = .ok (.istore_n 2, 1) := dk_61 (dk_at dksX5_stop_1 11 rfl rfl)
theorem dX5_stop_36 : decode cX5_stop 36 = .ok (.iinc 3 1, 3) := dk_132 3 1 (dk_at dksX5_stop_1 12 rfl rfl)
theorem dX5_stop_39 : decode cX5_stop 39 = .ok (.goto (-23), 3) := dk_167 255 233 (dk_at dksX5_stop_1 15 rfl rfl)
theorem dX5_stop_42 : decode cX5_stop 42 = .ok (.aload_n 0, 1) := dk_42 (dk_at dksX5_stop_1 18 rfl rfl)
theorem dX5_stop_43 : decode cX5_stop 43 = .ok (.iload_n 1, 1) := dk_27 (dk_at dksX5_stop_1 19 rfl rfl)
theorem dX5_stop_44 : decode cX5_stop 44 = .ok (.invokevirtual 583, 3) := dk_182 2 71 (dk_at dksX5_stop_1 20 rfl rfl)
theorem dX5_stop_47 : decode cX5_stop 47 = .ok (.iconst (-1), 1) := dk_2 (dk_at dksX5_stop_1 23 rfl rfl)
theorem dX5_stop_48 : decode cX5_stop 48 = .ok (.istore_n 3, 1) := dk_62 (dk_at dksX5_stop_2 0 rfl rfl)
theorem dX5_stop_49 : decode cX5_stop 49 = .ok (.iconst 0, 1) := dk_3 (dk_at dksX5_stop_2 1 rfl rfl)
theorem dX5_stop_50 : decode cX5_stop 50 = .ok (.istore 4, 2) := dk_54 4 (dk_at dksX5_stop_2 2 rfl rfl)
theorem dX5_stop_52 : decode cX5_stop 52 = .ok (.iload 4, 2) := dk_21 4 (dk_at dksX5_stop_2 4 rfl rfl)
theorem dX5_stop_54 : decode cX5_stop 54 = .ok (.iconst 1, 1) := dk_4 (dk_at dksX5_stop_2 6 rfl rfl)
theorem dX5_stop_55 : decode cX5_stop 55 = .ok (.aload_n 0, 1) := dk_42 (dk_at dksX5_stop_2 7 rfl rfl)
theorem dX5_stop_56 : decode cX5_stop 56 = .ok (.getfield 541, 3) := dk_180 2 29 (dk_at dksX5_stop_2 8 rfl rfl)
theorem dX5_stop_59 : decode cX5_stop 59 = .ok (.ishl, 1) := dk_120 (dk_at dksX5_stop_2 11 rfl rfl)
theorem dX5_stop_60 : decode cX5_stop 60 = .ok (.if_icmp .ge 89, 3) := dk_162 0 89 (dk_at dksX5_stop_2 12 rfl rfl)
theorem dX5_stop_63 : decode cX5_stop 63 = .ok (.iload 4, 2) := dk_21 4 (dk_at dksX5_stop_2 15 rfl rfl)
theorem dX5_stop_65 : decode cX5_stop 65 = .ok (.iload_n 2, 1) := dk_28 (dk_at dksX5_stop_2 17 rfl rfl)
theorem dX5_stop_66 : decode cX5_stop 66 = .ok (.iand, 1) := dk_126 (dk_at dksX5_stop_2 18 rfl rfl)
theorem dX5_stop_67 : decode cX5_stop 67 = .ok (.ifCond .ne 76, 3) := dk_154 0 76 (dk_at dksX5_stop_2 19 rfl rfl)
theorem dX5_stop_70 : decode cX5_stop 70 = .ok (.iload_n 3, 1) := dk_29 (dk_at dksX5_stop_2 22 rfl rfl)
theorem dX5_stop_71 : decode cX5_stop 71 = .ok (.ifCond .lt 18, 3) := dk_155 0 18 (dk_at dksX5_stop_3 0 rfl rfl)
theorem dX5_stop_74 : decode cX5_stop 74 = .ok (.iload 4, 2) := dk_21 4 (dk_at dksX5_stop_3 3 rfl rfl)
theorem dX5_stop_76 : decode cX5_stop 76 = .ok (.invokestatic 431, 3) := dk_184 1 175 (dk_at dksX5_stop_3 5 rfl rfl)
theorem dX5_stop_79 : decode cX5_stop 79 = .ok (.iload_n 3, 1) := dk_29 (dk_at dksX5_stop_3 8 rfl rfl)
theorem dX5_stop_80 : decode cX5_stop 80 = .ok (.invokestatic 431, 3) := dk_184 1 175 (dk_at dksX5_stop_3 9 rfl rfl)
theorem dX5_stop_83 : decode cX5_stop 83 = .ok (.if_icmp .lt 6, 3) := dk_161 0 6 (dk_at dksX5_stop_3 12 rfl rfl)
theorem dX5_stop_86 : decode cX5_stop 86 = .ok (.goto 57, 3) := dk_167 0 57 (dk_at dksX5_stop_3 15 rfl rfl)
theorem dX5_stop_89 : decode cX5_stop 89 = .ok (.iconst 1, 1) := dk_4 (dk_at dksX5_stop_3 18 rfl rfl)
theorem dX5_stop_90 : decode cX5_stop 90 = .ok (.istore 5, 2) := dk_54 5 (dk_at dksX5_stop_3 19 rfl rfl)
theorem dX5_stop_92 : decode cX5_stop 92 = .ok (.iconst 0, 1) := dk_3 (dk_at dksX5_stop_3 21 rfl rfl)
theorem dX5_stop_93 : decode cX5_stop 93 = .ok (.istore 6, 2) := dk_54 6 (dk_at dksX5_stop_3 22 rfl rfl)
theorem dX5_stop_95 : decode cX5_stop 95 = .ok (.iload 6, 2) := dk_21 6 (dk_at dksX5_stop_4 0 rfl rfl)
theorem dX5_stop_97 : decode cX5_stop 97 = .ok (.aload_n 0, 1) := dk_42 (dk_at dksX5_stop_4 2 rfl rfl)
theorem dX5_stop_98 : decode cX5_stop 98 = .ok (.getfield 574, 3) := dk_180 2 62 (dk_at dksX5_stop_4 3 rfl rfl)
theorem dX5_stop_101 : decode cX5_stop 101 = .ok (.if_icmp .ge 34, 3) := dk_162 0 34 (dk_at dksX5_stop_4 6 rfl rfl)
theorem dX5_stop_104 : decode cX5_stop 104 = .ok (.iload 5, 2) := dk_21 5 (dk_at dksX5_stop_4 9 rfl rfl)
theorem dX5_stop_106 : decode cX5_stop 106 = .ok (.ifCond .eq 29, 3) := dk_153 0 29 (dk_at dksX5_stop_4 11 rfl rfl)
theorem dX5_stop_109 : decode cX5_stop 109 = .ok (.aload_n 0, 1) := dk_42 (dk_at dksX5_stop_4 14 rfl rfl)
theorem dX5_stop_110 : decode cX5_stop 110 = .ok (.getfield 170, 3) := dk_180 0 170 (dk_at dksX5_stop_4 15 rfl rfl)
theorem dX5_stop_113 : decode cX5_stop 113 = .ok (.iload 6, 2) := dk_21 6 (dk_at dksX5_stop_4 18 rfl rfl)
theorem dX5_stop_115 : decode cX5_stop 115 = .ok (.iaload, 1) := dk_46 (dk_at dksX5_stop_4 20 rfl rfl)
theorem dX5_stop_116 : decode cX5_stop 116 = .ok (.iload 4, 2) := dk_21 4 (dk_at dksX5_stop_4 21 rfl rfl)
theorem dX5_stop_118 : decode cX5_stop 118 = .ok (.iand, 1) := dk_126 (dk_at dksX5_stop_4 23 rfl rfl)
theorem dX5_stop_119 : decode cX5_stop 119 = .ok (.ifCond .eq 7, 3) := dk_153 0 7 (dk_at dksX5_stop_5 0 rfl rfl)
theorem dX5_stop_122 : decode cX5_stop 122 = .ok (.iconst 1, 1) := dk_4 (dk_at dksX5_stop_5 3 rfl rfl)
theorem dX5_stop_123 : decode cX5_stop 123 = .ok (.goto 4, 3) := dk_167 0 4 (dk_at dksX5_stop_5 4 rfl rfl)
theorem dX5_stop_126 : decode cX5_stop 126 = .ok (.iconst 0, 1) := dk_3 (dk_at dksX5_stop_5 7 rfl rfl)
theorem dX5_stop_127 : decode cX5_stop 127 = .ok (.istore 5, 2) := dk_54 5 (dk_at dksX5_stop_5 8 rfl rfl)
theorem dX5_stop_129 : decode cX5_stop 129 = .ok (.iinc 6 1, 3) := dk_132 6 1 (dk_at dksX5_stop_5 10 rfl rfl)
theorem dX5_stop_132 : decode cX5_stop 132 = .ok (.goto (-37), 3) := dk_167 255 219 (dk_at dksX5_stop_5 13 rfl rfl)
theorem dX5_stop_135 : decode cX5_stop 135 = .ok (.iload 5, 2) := dk_21 5 (dk_at dksX5_stop_5 16 rfl rfl)
theorem dX5_stop_137 : decode cX5_stop 137 = .ok (.ifCond .eq 6, 3) := dk_153 0 6 (dk_at dksX5_stop_5 18 rfl rfl)
theorem dX5_stop_140 : decode cX5_stop 140 = .ok (.iload 4, 2) := dk_21 4 (dk_at dksX5_stop_5 21 rfl rfl)
theorem dX5_stop_142 : decode cX5_stop 142 = .ok (.istore_n 3, 1) := dk_62 (dk_at dksX5_stop_5 23 rfl rfl)
theorem dX5_stop_143 : decode cX5_stop 143 = .ok (.iinc 4 1, 3) := dk_132 4 1 (dk_at dksX5_stop_6 0 rfl rfl)
theorem dX5_stop_146 : decode cX5_stop 146 = .ok (.goto (-94), 3) := dk_167 255 162 (dk_at dksX5_stop_6 3 rfl rfl)
theorem dX5_stop_149 : decode cX5_stop 149 = .ok (.iload_n 3, 1) := dk_29 (dk_at dksX5_stop_6 6 rfl rfl)
theorem dX5_stop_150 : decode cX5_stop 150 = .ok (.ireturn, 1) := dk_172 (dk_at dksX5_stop_6 7 rfl rfl)
abbrev cX5_heap : ByteArray := prog_24_method_103_code
def yX5_heap : MethodName := ⟨RX5, "heap", "(II)I"⟩
def dkwX5_heap_3 : List UInt8 := [132, 4, 1, 167, 255, 224, 29, 172]
abbrev dktX5_heap_3 : List UInt8 := dkwX5_heap_3 ++ []
def dkwX5_heap_2 : List UInt8 := [162, 0, 29, 29, 42, 180, 0, 182, 21, 4, 46, 21, 4, 160, 0, 7, 4, 167, 0, 4, 3, 96, 62]
abbrev dktX5_heap_2 : List UInt8 := dkwX5_heap_2 ++ dktX5_heap_3
def dkwX5_heap_1 : List UInt8 := [28, 155, 0, 10, 42, 180, 0, 182, 28, 46, 172, 3, 62, 3, 54, 4, 21, 4, 42, 180, 1, 76]
abbrev dktX5_heap_1 : List UInt8 := dkwX5_heap_1 ++ dktX5_heap_2
def dkwX5_heap_0 : List UInt8 := [27, 155, 0, 16, 28, 2, 159, 0, 13, 42, 28, 182, 1, 96, 154, 0, 5, 2, 172, 42, 27, 182, 2, 89]
abbrev dktX5_heap_0 : List UInt8 := dkwX5_heap_0 ++ dktX5_heap_1
theorem dksX5_heap_0 : cX5_heap.data.toList.drop 0 = dktX5_heap_0 := by decide +kernel
theorem dksX5_heap_1 : cX5_heap.data.toList.drop 24 = dktX5_heap_1 := dk_seg dksX5_heap_0 24 rfl rfl
theorem dksX5_heap_2 : cX5_heap.data.toList.drop 46 = dktX5_heap_2 := dk_seg dksX5_heap_1 22 rfl rfl
theorem dksX5_heap_3 : cX5_heap.data.toList.drop 69 = dktX5_heap_3 := dk_seg dksX5_heap_2 23 rfl rfl
theorem dX5_heap_0 : decode cX5_heap 0 = .ok (.iload_n 1, 1) := dk_27 (dk_at dksX5_heap_0 0 rfl rfl)
theorem dX5_heap_1 : decode cX5_heap 1 = .ok (.ifCond .lt 16, 3) := dk_155 0 16 (dk_at dksX5_heap_0 1 rfl rfl)
theorem dX5_heap_4 : decode cX5_heap 4 = .ok (.iload_n 2, 1) := dk_28 (dk_at dksX5_heap_0 4 rfl rfl)
theorem dX5_heap_5 : decode cX5_heap 5 = .ok (.iconst (-1), 1) := dk_2 (dk_at dksX5_heap_0 5 rfl rfl)
theorem dX5_heap_6 : decode cX5_heap 6 = .ok (.if_icmp .eq 13, 3) := dk_159 0 13 (dk_at dksX5_heap_0 6 rfl rfl)
theorem dX5_heap_9 : decode cX5_heap 9 = .ok (.aload_n 0, 1) := dk_42 (dk_at dksX5_heap_0 9 rfl rfl)
theorem dX5_heap_10 : decode cX5_heap 10 = .ok (.iload_n 2, 1) := dk_28 (dk_at dksX5_heap_0 10 rfl rfl)
theorem dX5_heap_11 : decode cX5_heap 11 = .ok (.invokevirtual 352, 3) := dk_182 1 96 (dk_at dksX5_heap_0 11 rfl rfl)
theorem dX5_heap_14 : decode cX5_heap 14 = .ok (.ifCond .ne 5, 3) := dk_154 0 5 (dk_at dksX5_heap_0 14 rfl rfl)
theorem dX5_heap_17 : decode cX5_heap 17 = .ok (.iconst (-1), 1) := dk_2 (dk_at dksX5_heap_0 17 rfl rfl)
theorem dX5_heap_18 : decode cX5_heap 18 = .ok (.ireturn, 1) := dk_172 (dk_at dksX5_heap_0 18 rfl rfl)
theorem dX5_heap_19 : decode cX5_heap 19 = .ok (.aload_n 0, 1) := dk_42 (dk_at dksX5_heap_0 19 rfl rfl)
theorem dX5_heap_20 : decode cX5_heap 20 = .ok (.iload_n 1, 1) := dk_27 (dk_at dksX5_heap_0 20 rfl rfl)
theorem dX5_heap_21 : decode cX5_heap 21 = .ok (.invokevirtual 601, 3) := dk_182 2 89 (dk_at dksX5_heap_0 21 rfl rfl)
theorem dX5_heap_24 : decode cX5_heap 24 = .ok (.iload_n 2, 1) := dk_28 (dk_at dksX5_heap_1 0 rfl rfl)
theorem dX5_heap_25 : decode cX5_heap 25 = .ok (.ifCond .lt 10, 3) := dk_155 0 10 (dk_at dksX5_heap_1 1 rfl rfl)
theorem dX5_heap_28 : decode cX5_heap 28 = .ok (.aload_n 0, 1) := dk_42 (dk_at dksX5_heap_1 4 rfl rfl)
theorem dX5_heap_29 : decode cX5_heap 29 = .ok (.getfield 182, 3) := dk_180 0 182 (dk_at dksX5_heap_1 5 rfl rfl)
theorem dX5_heap_32 : decode cX5_heap 32 = .ok (.iload_n 2, 1) := dk_28 (dk_at dksX5_heap_1 8 rfl rfl)
theorem dX5_heap_33 : decode cX5_heap 33 = .ok (.iaload, 1) := dk_46 (dk_at dksX5_heap_1 9 rfl rfl)
theorem dX5_heap_34 : decode cX5_heap 34 = .ok (.ireturn, 1) := dk_172 (dk_at dksX5_heap_1 10 rfl rfl)
theorem dX5_heap_35 : decode cX5_heap 35 = .ok (.iconst 0, 1) := dk_3 (dk_at dksX5_heap_1 11 rfl rfl)
theorem dX5_heap_36 : decode cX5_heap 36 = .ok (.istore_n 3, 1) := dk_62 (dk_at dksX5_heap_1 12 rfl rfl)
theorem dX5_heap_37 : decode cX5_heap 37 = .ok (.iconst 0, 1) := dk_3 (dk_at dksX5_heap_1 13 rfl rfl)
theorem dX5_heap_38 : decode cX5_heap 38 = .ok (.istore 4, 2) := dk_54 4 (dk_at dksX5_heap_1 14 rfl rfl)
theorem dX5_heap_40 : decode cX5_heap 40 = .ok (.iload 4, 2) := dk_21 4 (dk_at dksX5_heap_1 16 rfl rfl)
theorem dX5_heap_42 : decode cX5_heap 42 = .ok (.aload_n 0, 1) := dk_42 (dk_at dksX5_heap_1 18 rfl rfl)
theorem dX5_heap_43 : decode cX5_heap 43 = .ok (.getfield 332, 3) := dk_180 1 76 (dk_at dksX5_heap_1 19 rfl rfl)
theorem dX5_heap_46 : decode cX5_heap 46 = .ok (.if_icmp .ge 29, 3) := dk_162 0 29 (dk_at dksX5_heap_2 0 rfl rfl)
theorem dX5_heap_49 : decode cX5_heap 49 = .ok (.iload_n 3, 1) := dk_29 (dk_at dksX5_heap_2 3 rfl rfl)
theorem dX5_heap_50 : decode cX5_heap 50 = .ok (.aload_n 0, 1) := dk_42 (dk_at dksX5_heap_2 4 rfl rfl)
theorem dX5_heap_51 : decode cX5_heap 51 = .ok (.getfield 182, 3) := dk_180 0 182 (dk_at dksX5_heap_2 5 rfl rfl)
theorem dX5_heap_54 : decode cX5_heap 54 = .ok (.iload 4, 2) := dk_21 4 (dk_at dksX5_heap_2 8 rfl rfl)
theorem dX5_heap_56 : decode cX5_heap 56 = .ok (.iaload, 1) := dk_46 (dk_at dksX5_heap_2 10 rfl rfl)
theorem dX5_heap_57 : decode cX5_heap 57 = .ok (.iload 4, 2) := dk_21 4 (dk_at dksX5_heap_2 11 rfl rfl)
theorem dX5_heap_59 : decode cX5_heap 59 = .ok (.if_icmp .ne 7, 3) := dk_160 0 7 (dk_at dksX5_heap_2 13 rfl rfl)
theorem dX5_heap_62 : decode cX5_heap 62 = .ok (.iconst 1, 1) := dk_4 (dk_at dksX5_heap_2 16 rfl rfl)
theorem dX5_heap_63 : decode cX5_heap 63 = .ok (.goto 4, 3) := dk_167 0 4 (dk_at dksX5_heap_2 17 rfl rfl)
theorem dX5_heap_66 : decode cX5_heap 66 = .ok (.iconst 0, 1) := dk_3 (dk_at dksX5_heap_2 20 rfl rfl)
theorem dX5_heap_67 : decode cX5_heap 67 = .ok (.iadd, 1) := dk_96 (dk_at dksX5_heap_2 21 rfl rfl)
theorem dX5_heap_68 : decode cX5_heap 68 = .ok (.istore_n 3, 1) := dk_62 (dk_at dksX5_heap_2 22 rfl rfl)
theorem dX5_heap_69 : decode cX5_heap 69 = .ok (.iinc 4 1, 3) := dk_132 4 1 (dk_at dksX5_heap_3 0 rfl rfl)
theorem dX5_heap_72 : decode cX5_heap 72 = .ok (.goto (-32), 3) := dk_167 255 224 (dk_at dksX5_heap_3 3 rfl rfl)
theorem dX5_heap_75 : decode cX5_heap 75 = .ok (.iload_n 3, 1) := dk_29 (dk_at dksX5_heap_3 6 rfl rfl)
theorem dX5_heap_76 : decode cX5_heap 76 = .ok (.ireturn, 1) := dk_172 (dk_at dksX5_heap_3 7 rfl rfl)
abbrev cX5_findGroups : ByteArray := prog_24_method_102_code
def yX5_findGroups : MethodName := ⟨RX5, "findGroups", "(I)V"⟩
def dkwX5_findGroups_4 : List UInt8 := [79, 4, 61, 132, 4, 1, 167, 255, 199, 132, 3, 1, 167, 255, 182, 167, 255, 171, 177]
abbrev dktX5_findGroups_4 : List UInt8 := dkwX5_findGroups_4 ++ []
def dkwX5_findGroups_3 : List UInt8 := [29, 21, 4, 182, 2, 86, 154, 0, 6, 167, 0, 18, 42, 180, 0, 182, 21, 4, 42, 180, 0, 182, 29, 46]
abbrev dktX5_findGroups_3 : List UInt8 := dkwX5_findGroups_3 ++ dktX5_findGroups_4
def dkwX5_findGroups_2 : List UInt8 := [180, 1, 76, 162, 0, 54, 42, 180, 0, 182, 21, 4, 46, 42, 180, 0, 182, 29, 46, 164, 0, 32, 42, 27]
abbrev dktX5_findGroups_2 : List UInt8 := dkwX5_findGroups_2 ++ dktX5_findGroups_3
def dkwX5_findGroups_1 : List UInt8 := [61, 28, 153, 0, 87, 3, 61, 3, 62, 29, 42, 180, 1, 76, 162, 0, 72, 3, 54, 4, 21, 4, 42]
abbrev dktX5_findGroups_1 : List UInt8 := dkwX5_findGroups_1 ++ dktX5_findGroups_2
def dkwX5_findGroups_0 : List UInt8 := [3, 61, 28, 42, 180, 1, 76, 162, 0, 16, 42, 180, 0, 182, 28, 28, 79, 132, 2, 1, 167, 255, 238, 4]
abbrev dktX5_findGroups_0 : List UInt8 := dkwX5_findGroups_0 ++ dktX5_findGroups_1
theorem dksX5_findGroups_0 : cX5_findGroups.data.toList.drop 0 = dktX5_findGroups_0 := by decide +kernel
theorem dksX5_findGroups_1 : cX5_findGroups.data.toList.drop 24 = dktX5_findGroups_1 := dk_seg dksX5_findGroups_0 24 rfl rfl
theorem dksX5_findGroups_2 : cX5_findGroups.data.toList.drop 47 = dktX5_findGroups_2 := dk_seg dksX5_findGroups_1 23 rfl rfl
theorem dksX5_findGroups_3 : cX5_findGroups.data.toList.drop 71 = dktX5_findGroups_3 := dk_seg dksX5_findGroups_2 24 rfl rfl
theorem dksX5_findGroups_4 : cX5_findGroups.data.toList.drop 95 = dktX5_findGroups_4 := dk_seg dksX5_findGroups_3 24 rfl rfl
theorem dX5_findGroups_0 : decode cX5_findGroups 0 = .ok (.iconst 0, 1) := dk_3 (dk_at dksX5_findGroups_0 0 rfl rfl)
theorem dX5_findGroups_1 : decode cX5_findGroups 1 = .ok (.istore_n 2, 1) := dk_61 (dk_at dksX5_findGroups_0 1 rfl rfl)
theorem dX5_findGroups_2 : decode cX5_findGroups 2 = .ok (.iload_n 2, 1) := dk_28 (dk_at dksX5_findGroups_0 2 rfl rfl)
theorem dX5_findGroups_3 : decode cX5_findGroups 3 = .ok (.aload_n 0, 1) := dk_42 (dk_at dksX5_findGroups_0 3 rfl rfl)
theorem dX5_findGroups_4 : decode cX5_findGroups 4 = .ok (.getfield 332, 3) := dk_180 1 76 (dk_at dksX5_findGroups_0 4 rfl rfl)
theorem dX5_findGroups_7 : decode cX5_findGroups 7 = .ok (.if_icmp .ge 16, 3) := dk_162 0 16 (dk_at dksX5_findGroups_0 7 rfl rfl)
theorem dX5_findGroups_10 : decode cX5_findGroups 10 = .ok (.aload_n 0, 1) := dk_42 (dk_at dksX5_findGroups_0 10 rfl rfl)
theorem dX5_findGroups_11 : decode cX5_findGroups 11 = .ok (.getfield 182, 3) := dk_180 0 182 (dk_at dksX5_findGroups_0 11 rfl rfl)
theorem dX5_findGroups_14 : decode cX5_findGroups 14 = .ok (.iload_n 2, 1) := dk_28 (dk_at dksX5_findGroups_0 14 rfl rfl)
theorem dX5_findGroups_15 : decode cX5_findGroups 15 = .ok (.iload_n 2, 1) := dk_28 (dk_at dksX5_findGroups_0 15 rfl rfl)
theorem dX5_findGroups_16 : decode cX5_findGroups 16 = .ok (.iastore, 1) := dk_79 (dk_at dksX5_findGroups_0 16 rfl rfl)
theorem dX5_findGroups_17 : decode cX5_findGroups 17 = .ok (.iinc 2 1, 3) := dk_132 2 1 (dk_at dksX5_findGroups_0 17 rfl rfl)
theorem dX5_findGroups_20 : decode cX5_findGroups 20 = .ok (.goto (-18), 3) := dk_167 255 238 (dk_at dksX5_findGroups_0 20 rfl rfl)
theorem dX5_findGroups_23 : decode cX5_findGroups 23 = .ok (.iconst 1, 1) := dk_4 (dk_at dksX5_findGroups_0 23 rfl rfl)
theorem dX5_findGroups_24 : decode cX5_findGroups 24 = .ok (.istore_n 2, 1) := dk_61 (dk_at dksX5_findGroups_1 0 rfl rfl)
theorem dX5_findGroups_25 : decode cX5_findGroups 25 = .ok (.iload_n 2, 1) := dk_28 (dk_at dksX5_findGroups_1 1 rfl rfl)
theorem dX5_findGroups_26 : decode cX5_findGroups 26 = .ok (.ifCond .eq 87, 3) := dk_153 0 87 (dk_at dksX5_findGroups_1 2 rfl rfl)
theorem dX5_findGroups_29 : decode cX5_findGroups 29 = .ok (.iconst 0, 1) := dk_3 (dk_at dksX5_findGroups_1 5 rfl rfl)
theorem dX5_findGroups_30 : decode cX5_findGroups 30 = .ok (.istore_n 2, 1) := dk_61 (dk_at dksX5_findGroups_1 6 rfl rfl)
theorem dX5_findGroups_31 : decode cX5_findGroups 31 = .ok (.iconst 0, 1) := dk_3 (dk_at dksX5_findGroups_1 7 rfl rfl)
theorem dX5_findGroups_32 : decode cX5_findGroups 32 = .ok (.istore_n 3, 1) := dk_62 (dk_at dksX5_findGroups_1 8 rfl rfl)
theorem dX5_findGroups_33 : decode cX5_findGroups 33 = .ok (.iload_n 3, 1) := dk_29 (dk_at dksX5_findGroups_1 9 rfl rfl)
theorem dX5_findGroups_34 : decode cX5_findGroups 34 = .ok (.aload_n 0, 1) := dk_42 (dk_at dksX5_findGroups_1 10 rfl rfl)
theorem dX5_findGroups_35 : decode cX5_findGroups 35 = .ok (.getfield 332, 3) := dk_180 1 76 (dk_at dksX5_findGroups_1 11 rfl rfl)
theorem dX5_findGroups_38 : decode cX5_findGroups 38 = .ok (.if_icmp .ge 72, 3) := dk_162 0 72 (dk_at dksX5_findGroups_1 14 rfl rfl)
theorem dX5_findGroups_41 : decode cX5_findGroups 41 = .ok (.iconst 0, 1) := dk_3 (dk_at dksX5_findGroups_1 17 rfl rfl)
theorem dX5_findGroups_42 : decode cX5_findGroups 42 = .ok (.istore 4, 2) := dk_54 4 (dk_at dksX5_findGroups_1 18 rfl rfl)
theorem dX5_findGroups_44 : decode cX5_findGroups 44 = .ok (.iload 4, 2) := dk_21 4 (dk_at dksX5_findGroups_1 20 rfl rfl)
theorem dX5_findGroups_46 : decode cX5_findGroups 46 = .ok (.aload_n 0, 1) := dk_42 (dk_at dksX5_findGroups_1 22 rfl rfl)
theorem dX5_findGroups_47 : decode cX5_findGroups 47 = .ok (.getfield 332, 3) := dk_180 1 76 (dk_at dksX5_findGroups_2 0 rfl rfl)
theorem dX5_findGroups_50 : decode cX5_findGroups 50 = .ok (.if_icmp .ge 54, 3) := dk_162 0 54 (dk_at dksX5_findGroups_2 3 rfl rfl)
theorem dX5_findGroups_53 : decode cX5_findGroups 53 = .ok (.aload_n 0, 1) := dk_42 (dk_at dksX5_findGroups_2 6 rfl rfl)
theorem dX5_findGroups_54 : decode cX5_findGroups 54 = .ok (.getfield 182, 3) := dk_180 0 182 (dk_at dksX5_findGroups_2 7 rfl rfl)
theorem dX5_findGroups_57 : decode cX5_findGroups 57 = .ok (.iload 4, 2) := dk_21 4 (dk_at dksX5_findGroups_2 10 rfl rfl)
theorem dX5_findGroups_59 : decode cX5_findGroups 59 = .ok (.iaload, 1) := dk_46 (dk_at dksX5_findGroups_2 12 rfl rfl)
theorem dX5_findGroups_60 : decode cX5_findGroups 60 = .ok (.aload_n 0, 1) := dk_42 (dk_at dksX5_findGroups_2 13 rfl rfl)
theorem dX5_findGroups_61 : decode cX5_findGroups 61 = .ok (.getfield 182, 3) := dk_180 0 182 (dk_at dksX5_findGroups_2 14 rfl rfl)
theorem dX5_findGroups_64 : decode cX5_findGroups 64 = .ok (.iload_n 3, 1) := dk_29 (dk_at dksX5_findGroups_2 17 rfl rfl)
theorem dX5_findGroups_65 : decode cX5_findGroups 65 = .ok (.iaload, 1) := dk_46 (dk_at dksX5_findGroups_2 18 rfl rfl)
theorem dX5_findGroups_66 : decode cX5_findGroups 66 = .ok (.if_icmp .le 32, 3) := dk_164 0 32 (dk_at dksX5_findGroups_2 19 rfl rfl)
theorem dX5_findGroups_69 : decode cX5_findGroups 69 = .ok (.aload_n 0, 1) := dk_42 (dk_at dksX5_findGroups_2 22 rfl rfl)
theorem dX5_findGroups_70 : decode cX5_findGroups 70 = .ok (.iload_n 1, 1) := dk_27 (dk_at dksX5_findGroups_2 23 rfl rfl)
theorem dX5_findGroups_71 : decode cX5_findGroups 71 = .ok (.iload_n 3, 1) := dk_29 (dk_at dksX5_findGroups_3 0 rfl rfl)
theorem dX5_findGroups_72 : decode cX5_findGroups 72 = .ok (.iload 4, 2) := dk_21 4 (dk_at dksX5_findGroups_3 1 rfl rfl)
theorem dX5_findGroups_74 : decode cX5_findGroups 74 = .ok (.invokevirtual 598, 3) := dk_182 2 86 (dk_at dksX5_findGroups_3 3 rfl rfl)
theorem dX5_findGroups_77 : decode cX5_findGroups 77 = .ok (.ifCond .ne 6, 3) := dk_154 0 6 (dk_at dksX5_findGroups_3 6 rfl rfl)
theorem dX5_findGroups_80 : decode cX5_findGroups 80 = .ok (.goto 18, 3) := dk_167 0 18 (dk_at dksX5_findGroups_3 9 rfl rfl)
theorem dX5_findGroups_83 : decode cX5_findGroups 83 = .ok (.aload_n 0, 1) := dk_42 (dk_at dksX5_findGroups_3 12 rfl rfl)
theorem dX5_findGroups_84 : decode cX5_findGroups 84 = .ok (.getfield 182, 3) := dk_180 0 182 (dk_at dksX5_findGroups_3 13 rfl rfl)
theorem dX5_findGroups_87 : decode cX5_findGroups 87 = .ok (.iload 4, 2) := dk_21 4 (dk_at dksX5_findGroups_3 16 rfl rfl)
theorem dX5_findGroups_89 : decode cX5_findGroups 89 = .ok (.aload_n 0, 1) := dk_42 (dk_at dksX5_findGroups_3 18 rfl rfl)
theorem dX5_findGroups_90 : decode cX5_findGroups 90 = .ok (.getfield 182, 3) := dk_180 0 182 (dk_at dksX5_findGroups_3 19 rfl rfl)
theorem dX5_findGroups_93 : decode cX5_findGroups 93 = .ok (.iload_n 3, 1) := dk_29 (dk_at dksX5_findGroups_3 22 rfl rfl)
theorem dX5_findGroups_94 : decode cX5_findGroups 94 = .ok (.iaload, 1) := dk_46 (dk_at dksX5_findGroups_3 23 rfl rfl)
theorem dX5_findGroups_95 : decode cX5_findGroups 95 = .ok (.iastore, 1) := dk_79 (dk_at dksX5_findGroups_4 0 rfl rfl)
theorem dX5_findGroups_96 : decode cX5_findGroups 96 = .ok (.iconst 1, 1) := dk_4 (dk_at dksX5_findGroups_4 1 rfl rfl)
theorem dX5_findGroups_97 : decode cX5_findGroups 97 = .ok (.istore_n 2, 1) := dk_61 (dk_at dksX5_findGroups_4 2 rfl rfl)
theorem dX5_findGroups_98 : decode cX5_findGroups 98 = .ok (.iinc 4 1, 3) := dk_132 4 1 (dk_at dksX5_findGroups_4 3 rfl rfl)
theorem dX5_findGroups_101 : decode cX5_findGroups 101 = .ok (.goto (-57), 3) := dk_167 255 199 (dk_at dksX5_findGroups_4 6 rfl rfl)
theorem dX5_findGroups_104 : decode cX5_findGroups 104 = .ok (.iinc 3 1, 3) := dk_132 3 1 (dk_at dksX5_findGroups_4 9 rfl rfl)
theorem dX5_findGroups_107 : decode cX5_findGroups 107 = .ok (.goto (-74), 3) := dk_167 255 182 (dk_at dksX5_findGroups_4 12 rfl rfl)
theorem dX5_findGroups_110 : decode cX5_findGroups 110 = .ok (.goto (-85), 3) := dk_167 255 171 (dk_at dksX5_findGroups_4 15 rfl rfl)
theorem dX5_findGroups_113 : decode cX5_findGroups 113 = .ok (.return_, 1) := dk_177 (dk_at dksX5_findGroups_4 18 rfl rfl)
abbrev cX5_doHang : ByteArray := prog_24_method_101_code
def yX5_doHang : MethodName := ⟨RX5, "doHang", "(III)Z"⟩
def dkwX5_doHang_4 : List UInt8 := [172]
abbrev dktX5_doHang_4 : List UInt8 := dkwX5_doHang_4 ++ []
def dkwX5_doHang_3 : List UInt8 := [153, 0, 23, 42, 28, 7, 182, 2, 83, 42, 29, 7, 182, 2, 83, 126, 153, 0, 7, 4, 167, 0, 4, 3]
abbrev dktX5_doHang_3 : List UInt8 := dkwX5_doHang_3 ++ dktX5_doHang_4
def dkwX5_doHang_2 : List UInt8 := [21, 4, 27, 163, 0, 42, 42, 28, 8, 182, 2, 83, 42, 29, 8, 182, 2, 83, 126, 16, 62, 126]
abbrev dktX5_doHang_2 : List UInt8 := dkwX5_doHang_2 ++ dktX5_doHang_3
def dkwX5_doHang_1 : List UInt8 := [180, 0, 16, 28, 46, 100, 167, 0, 16, 42, 180, 0, 16, 28, 46, 42, 180, 0, 16, 29, 46, 100, 54, 4]
abbrev dktX5_doHang_1 : List UInt8 := dkwX5_doHang_1 ++ dktX5_doHang_2
def dkwX5_doHang_0 : List UInt8 := [42, 180, 0, 16, 28, 46, 42, 180, 0, 16, 29, 46, 162, 0, 19, 42, 180, 0, 16, 29, 46, 42]
abbrev dktX5_doHang_0 : List UInt8 := dkwX5_doHang_0 ++ dktX5_doHang_1
theorem dksX5_doHang_0 : cX5_doHang.data.toList.drop 0 = dktX5_doHang_0 := by decide +kernel
theorem dksX5_doHang_1 : cX5_doHang.data.toList.drop 22 = dktX5_doHang_1 := dk_seg dksX5_doHang_0 22 rfl rfl
theorem dksX5_doHang_2 : cX5_doHang.data.toList.drop 46 = dktX5_doHang_2 := dk_seg dksX5_doHang_1 24 rfl rfl
theorem dksX5_doHang_3 : cX5_doHang.data.toList.drop 68 = dktX5_doHang_3 := dk_seg dksX5_doHang_2 22 rfl rfl
theorem dksX5_doHang_4 : cX5_doHang.data.toList.drop 92 = dktX5_doHang_4 := dk_seg dksX5_doHang_3 24 rfl rfl
theorem dX5_doHang_0 : decode cX5_doHang 0 = .ok (.aload_n 0, 1) := dk_42 (dk_at dksX5_doHang_0 0 rfl rfl)
theorem dX5_doHang_1 : decode cX5_doHang 1 = .ok (.getfield 16, 3) := dk_180 0 16 (dk_at dksX5_doHang_0 1 rfl rfl)
theorem dX5_doHang_4 : decode cX5_doHang 4 = .ok (.iload_n 2, 1) := dk_28 (dk_at dksX5_doHang_0 4 rfl rfl)
theorem dX5_doHang_5 : decode cX5_doHang 5 = .ok (.iaload, 1) := dk_46 (dk_at dksX5_doHang_0 5 rfl rfl)
theorem dX5_doHang_6 : decode cX5_doHang 6 = .ok (.aload_n 0, 1) := dk_42 (dk_at dksX5_doHang_0 6 rfl rfl)
theorem dX5_doHang_7 : decode cX5_doHang 7 = .ok (.getfield 16, 3) := dk_180 0 16 (dk_at dksX5_doHang_0 7 rfl rfl)
theorem dX5_doHang_10 : decode cX5_doHang 10 = .ok (.iload_n 3, 1) := dk_29 (dk_at dksX5_doHang_0 10 rfl rfl)
theorem dX5_doHang_11 : decode cX5_doHang 11 = .ok (.iaload, 1) := dk_46 (dk_at dksX5_doHang_0 11 rfl rfl)
theorem dX5_doHang_12 : decode cX5_doHang 12 = .ok (.if_icmp .ge 19, 3) := dk_162 0 19 (dk_at dksX5_doHang_0 12 rfl rfl)
theorem dX5_doHang_15 : decode cX5_doHang 15 = .ok (.aload_n 0, 1) := dk_42 (dk_at dksX5_doHang_0 15 rfl rfl)
theorem dX5_doHang_16 : decode cX5_doHang 16 = .ok (.getfield 16, 3) := dk_180 0 16 (dk_at dksX5_doHang_0 16 rfl rfl)
theorem dX5_doHang_19 : decode cX5_doHang 19 = .ok (.iload_n 3, 1) := dk_29 (dk_at dksX5_doHang_0 19 rfl rfl)
theorem dX5_doHang_20 : decode cX5_doHang 20 = .ok (.iaload, 1) := dk_46 (dk_at dksX5_doHang_0 20 rfl rfl)
theorem dX5_doHang_21 : decode cX5_doHang 21 = .ok (.aload_n 0, 1) := dk_42 (dk_at dksX5_doHang_0 21 rfl rfl)
theorem dX5_doHang_22 : decode cX5_doHang 22 = .ok (.getfield 16, 3) := dk_180 0 16 (dk_at dksX5_doHang_1 0 rfl rfl)
theorem dX5_doHang_25 : decode cX5_doHang 25 = .ok (.iload_n 2, 1) := dk_28 (dk_at dksX5_doHang_1 3 rfl rfl)
theorem dX5_doHang_26 : decode cX5_doHang 26 = .ok (.iaload, 1) := dk_46 (dk_at dksX5_doHang_1 4 rfl rfl)
theorem dX5_doHang_27 : decode cX5_doHang 27 = .ok (.isub, 1) := dk_100 (dk_at dksX5_doHang_1 5 rfl rfl)
theorem dX5_doHang_28 : decode cX5_doHang 28 = .ok (.goto 16, 3) := dk_167 0 16 (dk_at dksX5_doHang_1 6 rfl rfl)
theorem dX5_doHang_31 : decode cX5_doHang 31 = .ok (.aload_n 0, 1) := dk_42 (dk_at dksX5_doHang_1 9 rfl rfl)
theorem dX5_doHang_32 : decode cX5_doHang 32 = .ok (.getfield 16, 3) := dk_180 0 16 (dk_at dksX5_doHang_1 10 rfl rfl)
theorem dX5_doHang_35 : decode cX5_doHang 35 = .ok (.iload_n 2, 1) := dk_28 (dk_at dksX5_doHang_1 13 rfl rfl)
theorem dX5_doHang_36 : decode cX5_doHang 36 = .ok (.iaload, 1) := dk_46 (dk_at dksX5_doHang_1 14 rfl rfl)
theorem dX5_doHang_37 : decode cX5_doHang 37 = .ok (.aload_n 0, 1) := dk_42 (dk_at dksX5_doHang_1 15 rfl rfl)
theorem dX5_doHang_38 : decode cX5_doHang 38 = .ok (.getfield 16, 3) := dk_180 0 16 (dk_at dksX5_doHang_1 16 rfl rfl)
theorem dX5_doHang_41 : decode cX5_doHang 41 = .ok (.iload_n 3, 1) := dk_29 (dk_at dksX5_doHang_1 19 rfl rfl)
theorem dX5_doHang_42 : decode cX5_doHang 42 = .ok (.iaload, 1) := dk_46 (dk_at dksX5_doHang_1 20 rfl rfl)
theorem dX5_doHang_43 : decode cX5_doHang 43 = .ok (.isub, 1) := dk_100 (dk_at dksX5_doHang_1 21 rfl rfl)
theorem dX5_doHang_44 : decode cX5_doHang 44 = .ok (.istore 4, 2) := dk_54 4 (dk_at dksX5_doHang_1 22 rfl rfl)
theorem dX5_doHang_46 : decode cX5_doHang 46 = .ok (.iload 4, 2) := dk_21 4 (dk_at dksX5_doHang_2 0 rfl rfl)
theorem dX5_doHang_48 : decode cX5_doHang 48 = .ok (.iload_n 1, 1) := dk_27 (dk_at dksX5_doHang_2 2 rfl rfl)
theorem dX5_doHang_49 : decode cX5_doHang 49 = .ok (.if_icmp .gt 42, 3) := dk_163 0 42 (dk_at dksX5_doHang_2 3 rfl rfl)
theorem dX5_doHang_52 : decode cX5_doHang 52 = .ok (.aload_n 0, 1) := dk_42 (dk_at dksX5_doHang_2 6 rfl rfl)
theorem dX5_doHang_53 : decode cX5_doHang 53 = .ok (.iload_n 2, 1) := dk_28 (dk_at dksX5_doHang_2 7 rfl rfl)
theorem dX5_doHang_54 : decode cX5_doHang 54 = .ok (.iconst 5, 1) := dk_8 (dk_at dksX5_doHang_2 8 rfl rfl)
theorem dX5_doHang_55 : decode cX5_doHang 55 = .ok (.invokevirtual 595, 3) := dk_182 2 83 (dk_at dksX5_doHang_2 9 rfl rfl)
theorem dX5_doHang_58 : decode cX5_doHang 58 = .ok (.aload_n 0, 1) := dk_42 (dk_at dksX5_doHang_2 12 rfl rfl)
theorem dX5_doHang_59 : decode cX5_doHang 59 = .ok (.iload_n 3, 1) := dk_29 (dk_at dksX5_doHang_2 13 rfl rfl)
theorem dX5_doHang_60 : decode cX5_doHang 60 = .ok (.iconst 5, 1) := dk_8 (dk_at dksX5_doHang_2 14 rfl rfl)
theorem dX5_doHang_61 : decode cX5_doHang 61 = .ok (.invokevirtual 595, 3) := dk_182 2 83 (dk_at dksX5_doHang_2 15 rfl rfl)
theorem dX5_doHang_64 : decode cX5_doHang 64 = .ok (.iand, 1) := dk_126 (dk_at dksX5_doHang_2 18 rfl rfl)
theorem dX5_doHang_65 : decode cX5_doHang 65 = .ok (.bipush 62, 2) := dk_16 62 (dk_at dksX5_doHang_2 19 rfl rfl)
theorem dX5_doHang_67 : decode cX5_doHang 67 = .ok (.iand, 1) := dk_126 (dk_at dksX5_doHang_2 21 rfl rfl)
theorem dX5_doHang_68 : decode cX5_doHang 68 = .ok (.ifCond .eq 23, 3) := dk_153 0 23 (dk_at dksX5_doHang_3 0 rfl rfl)
theorem dX5_doHang_71 : decode cX5_doHang 71 = .ok (.aload_n 0, 1) := dk_42 (dk_at dksX5_doHang_3 3 rfl rfl)
theorem dX5_doHang_72 : decode cX5_doHang 72 = .ok (.iload_n 2, 1) := dk_28 (dk_at dksX5_doHang_3 4 rfl rfl)
theorem dX5_doHang_73 : decode cX5_doHang 73 = .ok (.iconst 4, 1) := dk_7 (dk_at dksX5_doHang_3 5 rfl rfl)
theorem dX5_doHang_74 : decode cX5_doHang 74 = .ok (.invokevirtual 595, 3) := dk_182 2 83 (dk_at dksX5_doHang_3 6 rfl rfl)
theorem dX5_doHang_77 : decode cX5_doHang 77 = .ok (.aload_n 0, 1) := dk_42 (dk_at dksX5_doHang_3 9 rfl rfl)
theorem dX5_doHang_78 : decode cX5_doHang 78 = .ok (.iload_n 3, 1) := dk_29 (dk_at dksX5_doHang_3 10 rfl rfl)
theorem dX5_doHang_79 : decode cX5_doHang 79 = .ok (.iconst 4, 1) := dk_7 (dk_at dksX5_doHang_3 11 rfl rfl)
theorem dX5_doHang_80 : decode cX5_doHang 80 = .ok (.invokevirtual 595, 3) := dk_182 2 83 (dk_at dksX5_doHang_3 12 rfl rfl)
theorem dX5_doHang_83 : decode cX5_doHang 83 = .ok (.iand, 1) := dk_126 (dk_at dksX5_doHang_3 15 rfl rfl)
theorem dX5_doHang_84 : decode cX5_doHang 84 = .ok (.ifCond .eq 7, 3) := dk_153 0 7 (dk_at dksX5_doHang_3 16 rfl rfl)
theorem dX5_doHang_87 : decode cX5_doHang 87 = .ok (.iconst 1, 1) := dk_4 (dk_at dksX5_doHang_3 19 rfl rfl)
theorem dX5_doHang_88 : decode cX5_doHang 88 = .ok (.goto 4, 3) := dk_167 0 4 (dk_at dksX5_doHang_3 20 rfl rfl)
theorem dX5_doHang_91 : decode cX5_doHang 91 = .ok (.iconst 0, 1) := dk_3 (dk_at dksX5_doHang_3 23 rfl rfl)
theorem dX5_doHang_92 : decode cX5_doHang 92 = .ok (.ireturn, 1) := dk_172 (dk_at dksX5_doHang_4 0 rfl rfl)
abbrev cX5_group : ByteArray := prog_24_method_104_code
def yX5_group : MethodName := ⟨RX5, "group", "(II)I"⟩
def dkwX5_group_4 : List UInt8 := [182, 1, 250, 172]
abbrev dktX5_group_4 : List UInt8 := dkwX5_group_4 ++ []
def dkwX5_group_3 : List UInt8 := [180, 1, 169, 29, 79, 42, 89, 180, 1, 169, 4, 96, 181, 1, 169, 132, 3, 1, 167, 255, 196, 42]
abbrev dktX5_group_3 : List UInt8 := dkwX5_group_3 ++ dktX5_group_4
def dkwX5_group_2 : List UInt8 := [159, 0, 6, 167, 0, 34, 42, 180, 1, 169, 16, 6, 160, 0, 5, 2, 172, 42, 180, 0, 116, 42]
abbrev dktX5_group_2 : List UInt8 := dkwX5_group_2 ++ dktX5_group_3
def dkwX5_group_1 : List UInt8 := [3, 62, 29, 42, 180, 1, 76, 162, 0, 58, 42, 180, 0, 182, 29, 46, 42, 180, 0, 182, 28, 46]
abbrev dktX5_group_1 : List UInt8 := dkwX5_group_1 ++ dktX5_group_2
def dkwX5_group_0 : List UInt8 := [27, 155, 0, 11, 42, 28, 182, 1, 96, 154, 0, 5, 2, 172, 42, 27, 182, 2, 89, 42, 3, 181, 1, 169]
abbrev dktX5_group_0 : List UInt8 := dkwX5_group_0 ++ dktX5_group_1
theorem dksX5_group_0 : cX5_group.data.toList.drop 0 = dktX5_group_0 := by decide +kernel
theorem dksX5_group_1 : cX5_group.data.toList.drop 24 = dktX5_group_1 := dk_seg dksX5_group_0 24 rfl rfl
theorem dksX5_group_2 : cX5_group.data.toList.drop 46 = dktX5_group_2 := dk_seg dksX5_group_1 22 rfl rfl
theorem dksX5_group_3 : cX5_group.data.toList.drop 68 = dktX5_group_3 := dk_seg dksX5_group_2 22 rfl rfl
theorem dksX5_group_4 : cX5_group.data.toList.drop 90 = dktX5_group_4 := dk_seg dksX5_group_3 22 rfl rfl
theorem dX5_group_0 : decode cX5_group 0 = .ok (.iload_n 1, 1) := dk_27 (dk_at dksX5_group_0 0 rfl rfl)
theorem dX5_group_1 : decode cX5_group 1 = .ok (.ifCond .lt 11, 3) := dk_155 0 11 (dk_at dksX5_group_0 1 rfl rfl)
theorem dX5_group_4 : decode cX5_group 4 = .ok (.aload_n 0, 1) := dk_42 (dk_at dksX5_group_0 4 rfl rfl)
theorem dX5_group_5 : decode cX5_group 5 = .ok (.iload_n 2, 1) := dk_28 (dk_at dksX5_group_0 5 rfl rfl)
theorem dX5_group_6 : decode cX5_group 6 = .ok (.invokevirtual 352, 3) := dk_182 1 96 (dk_at dksX5_group_0 6 rfl rfl)
theorem dX5_group_9 : decode cX5_group 9 = .ok (.ifCond .ne 5, 3) := dk_154 0 5 (dk_at dksX5_group_0 9 rfl rfl)
theorem dX5_group_12 : decode cX5_group 12 = .ok (.iconst (-1), 1) := dk_2 (dk_at dksX5_group_0 12 rfl rfl)
theorem dX5_group_13 : decode cX5_group 13 = .ok (.ireturn, 1) := dk_172 (dk_at dksX5_group_0 13 rfl rfl)
theorem dX5_group_14 : decode cX5_group 14 = .ok (.aload_n 0, 1) := dk_42 (dk_at dksX5_group_0 14 rfl rfl)
theorem dX5_group_15 : decode cX5_group 15 = .ok (.iload_n 1, 1) := dk_27 (dk_at dksX5_group_0 15 rfl rfl)
theorem dX5_group_16 : decode cX5_group 16 = .ok (.invokevirtual 601, 3) := dk_182 2 89 (dk_at dksX5_group_0 16 rfl rfl)
theorem dX5_group_19 : decode cX5_group 19 = .ok (.aload_n 0, 1) := dk_42 (dk_at dksX5_group_0 19 rfl rfl)
theorem dX5_group_20 : decode cX5_group 20 = .ok (.iconst 0, 1) := dk_3 (dk_at dksX5_group_0 20 rfl rfl)
theorem dX5_group_21 : decode cX5_group 21 = .ok (.putfield 425, 3) := dk_181 1 169 (dk_at dksX5_group_0 21 rfl rfl)
theorem dX5_group_24 : decode cX5_group 24 = .ok (.iconst 0, 1) := dk_3 (dk_at dksX5_group_1 0 rfl rfl)
theorem dX5_group_25 : decode cX5_group 25 = .ok (.istore_n 3, 1) := dk_62 (dk_at dksX5_group_1 1 rfl rfl)
theorem dX5_group_26 : decode cX5_group 26 = .ok (.iload_n 3, 1) := dk_29 (dk_at dksX5_group_1 2 rfl rfl)
theorem dX5_group_27 : decode cX5_group 27 = .ok (.aload_n 0, 1) := dk_42 (dk_at dksX5_group_1 3 rfl rfl)
theorem dX5_group_28 : decode cX5_group 28 = .ok (.getfield 332, 3) := dk_180 1 76 (dk_at dksX5_group_1 4 rfl rfl)
theorem dX5_group_31 : decode cX5_group 31 = .ok (.if_icmp .ge 58, 3) := dk_162 0 58 (dk_at dksX5_group_1 7 rfl rfl)
theorem dX5_group_34 : decode cX5_group 34 = .ok (.aload_n 0, 1) := dk_42 (dk_at dksX5_group_1 10 rfl rfl)
theorem dX5_group_35 : decode cX5_group 35 = .ok (.getfield 182, 3) := dk_180 0 182 (dk_at dksX5_group_1 11 rfl rfl)
theorem dX5_group_38 : decode cX5_group 38 = .ok (.iload_n 3, 1) := dk_29 (dk_at dksX5_group_1 14 rfl rfl)
theorem dX5_group_39 : decode cX5_group 39 = .ok (.iaload, 1) := dk_46 (dk_at dksX5_group_1 15 rfl rfl)
theorem dX5_group_40 : decode cX5_group 40 = .ok (.aload_n 0, 1) := dk_42 (dk_at dksX5_group_1 16 rfl rfl)
theorem dX5_group_41 : decode cX5_group 41 = .ok (.getfield 182, 3) := dk_180 0 182 (dk_at dksX5_group_1 17 rfl rfl)
theorem dX5_group_44 : decode cX5_group 44 = .ok (.iload_n 2, 1) := dk_28 (dk_at dksX5_group_1 20 rfl rfl)
theorem dX5_group_45 : decode cX5_group 45 = .ok (.iaload, 1) := dk_46 (dk_at dksX5_group_1 21 rfl rfl)
theorem dX5_group_46 : decode cX5_group 46 = .ok (.if_icmp .eq 6, 3) := dk_159 0 6 (dk_at dksX5_group_2 0 rfl rfl)
theorem dX5_group_49 : decode cX5_group 49 = .ok (.goto 34, 3) := dk_167 0 34 (dk_at dksX5_group_2 3 rfl rfl)
theorem dX5_group_52 : decode cX5_group 52 = .ok (.aload_n 0, 1) := dk_42 (dk_at dksX5_group_2 6 rfl rfl)
theorem dX5_group_53 : decode cX5_group 53 = .ok (.getfield 425, 3) := dk_180 1 169 (dk_at dksX5_group_2 7 rfl rfl)
theorem dX5_group_56 : decode cX5_group 56 = .ok (.bipush 6, 2) := dk_16 6 (dk_at dksX5_group_2 10 rfl rfl)
theorem dX5_group_58 : decode cX5_group 58 = .ok (.if_icmp .ne 5, 3) := dk_160 0 5 (dk_at dksX5_group_2 12 rfl rfl)
theorem dX5_group_61 : decode cX5_group 61 = .ok (.iconst (-1), 1) := dk_2 (dk_at dksX5_group_2 15 rfl rfl)
theorem dX5_group_62 : decode cX5_group 62 = .ok (.ireturn, 1) := dk_172 (dk_at dksX5_group_2 16 rfl rfl)
theorem dX5_group_63 : decode cX5_group 63 = .ok (.aload_n 0, 1) := dk_42 (dk_at dksX5_group_2 17 rfl rfl)
theorem dX5_group_64 : decode cX5_group 64 = .ok (.getfield 116, 3) := dk_180 0 116 (dk_at dksX5_group_2 18 rfl rfl)
theorem dX5_group_67 : decode cX5_group 67 = .ok (.aload_n 0, 1) := dk_42 (dk_at dksX5_group_2 21 rfl rfl)
theorem dX5_group_68 : decode cX5_group 68 = .ok (.getfield 425, 3) := dk_180 1 169 (dk_at dksX5_group_3 0 rfl rfl)
theorem dX5_group_71 : decode cX5_group 71 = .ok (.iload_n 3, 1) := dk_29 (dk_at dksX5_group_3 3 rfl rfl)
theorem dX5_group_72 : decode cX5_group 72 = .ok (.iastore, 1) := dk_79 (dk_at dksX5_group_3 4 rfl rfl)
theorem dX5_group_73 : decode cX5_group 73 = .ok (.aload_n 0, 1) := dk_42 (dk_at dksX5_group_3 5 rfl rfl)
theorem dX5_group_74 : decode cX5_group 74 = .ok (.dup, 1) := dk_89 (dk_at dksX5_group_3 6 rfl rfl)
theorem dX5_group_75 : decode cX5_group 75 = .ok (.getfield 425, 3) := dk_180 1 169 (dk_at dksX5_group_3 7 rfl rfl)
theorem dX5_group_78 : decode cX5_group 78 = .ok (.iconst 1, 1) := dk_4 (dk_at dksX5_group_3 10 rfl rfl)
theorem dX5_group_79 : decode cX5_group 79 = .ok (.iadd, 1) := dk_96 (dk_at dksX5_group_3 11 rfl rfl)
theorem dX5_group_80 : decode cX5_group 80 = .ok (.putfield 425, 3) := dk_181 1 169 (dk_at dksX5_group_3 12 rfl rfl)
theorem dX5_group_83 : decode cX5_group 83 = .ok (.iinc 3 1, 3) := dk_132 3 1 (dk_at dksX5_group_3 15 rfl rfl)
theorem dX5_group_86 : decode cX5_group 86 = .ok (.goto (-60), 3) := dk_167 255 196 (dk_at dksX5_group_3 18 rfl rfl)
theorem dX5_group_89 : decode cX5_group 89 = .ok (.aload_n 0, 1) := dk_42 (dk_at dksX5_group_3 21 rfl rfl)
theorem dX5_group_90 : decode cX5_group 90 = .ok (.invokevirtual 506, 3) := dk_182 1 250 (dk_at dksX5_group_4 0 rfl rfl)
theorem dX5_group_93 : decode cX5_group 93 = .ok (.ireturn, 1) := dk_172 (dk_at dksX5_group_4 3 rfl rfl)
abbrev cX5_count : ByteArray := prog_24_method_105_code
def yX5_count : MethodName := ⟨RX5, "count", "(I)I"⟩
def dkwX5_count_5 : List UInt8 := [2, 172]
abbrev dktX5_count_5 : List UInt8 := dkwX5_count_5 ++ []
def dkwX5_count_4 : List UInt8 := [180, 2, 59, 172, 42, 180, 2, 74, 172, 42, 182, 2, 92, 172, 42, 182, 2, 95, 172, 42, 180, 0, 189, 172]
abbrev dktX5_count_4 : List UInt8 := dkwX5_count_4 ++ dktX5_count_5
def dkwX5_count_3 : List UInt8 := [180, 0, 134, 42, 180, 2, 23, 4, 100, 46, 172, 42, 180, 2, 29, 172, 42, 180, 1, 166, 172, 42]
abbrev dktX5_count_3 : List UInt8 := dkwX5_count_3 ++ dktX5_count_4
def dkwX5_count_2 : List UInt8 := [42, 180, 1, 76, 172, 42, 180, 2, 23, 172, 42, 180, 2, 23, 154, 0, 7, 3, 167, 0, 14, 42]
abbrev dktX5_count_2 : List UInt8 := dkwX5_count_2 ++ dktX5_count_3
def dkwX5_count_1 : List UInt8 := [170, 0, 0, 0, 0, 0, 123, 0, 0, 0, 0, 0, 0, 0, 9, 0, 0, 0, 55, 0, 0, 0, 60, 0, 0, 0, 65, 0, 0, 0, 88, 0, 0, 0, 93, 0, 0, 0, 98, 0, 0, 0, 103, 0, 0, 0, 108, 0, 0, 0, 113, 0, 0, 0, 118]
abbrev dktX5_count_1 : List UInt8 := dkwX5_count_1 ++ dktX5_count_2
def dkwX5_count_0 : List UInt8 := [27]
abbrev dktX5_count_0 : List UInt8 := dkwX5_count_0 ++ dktX5_count_1
theorem dksX5_count_0 : cX5_count.data.toList.drop 0 = dktX5_count_0 := by decide +kernel
theorem dksX5_count_1 : cX5_count.data.toList.drop 1 = dktX5_count_1 := dk_seg dksX5_count_0 1 rfl rfl
theorem dksX5_count_2 : cX5_count.data.toList.drop 56 = dktX5_count_2 := dk_seg dksX5_count_1 55 rfl rfl
theorem dksX5_count_3 : cX5_count.data.toList.drop 78 = dktX5_count_3 := dk_seg dksX5_count_2 22 rfl rfl
theorem dksX5_count_4 : cX5_count.data.toList.drop 100 = dktX5_count_4 := dk_seg dksX5_count_3 22 rfl rfl
theorem dksX5_count_5 : cX5_count.data.toList.drop 124 = dktX5_count_5 := dk_seg dksX5_count_4 24 rfl rfl
theorem dX5_count_0 : decode cX5_count 0 = .ok (.iload_n 1, 1) := dk_27 (dk_at dksX5_count_0 0 rfl rfl)
theorem dX5_count_1 : decode cX5_count 1 = .ok (.tableswitch 123 0 9 #[55, 60, 65, 88, 93, 98, 103, 108, 113, 118], 55) := by decide +kernel
theorem dX5_count_56 : decode cX5_count 56 = .ok (.aload_n 0, 1) := dk_42 (dk_at dksX5_count_2 0 rfl rfl)
theorem dX5_count_57 : decode cX5_count 57 = .ok (.getfield 332, 3) := dk_180 1 76 (dk_at dksX5_count_2 1 rfl rfl)
theorem dX5_count_60 : decode cX5_count 60 = .ok (.ireturn, 1) := dk_172 (dk_at dksX5_count_2 4 rfl rfl)
theorem dX5_count_61 : decode cX5_count 61 = .ok (.aload_n 0, 1) := dk_42 (dk_at dksX5_count_2 5 rfl rfl)
theorem dX5_count_62 : decode cX5_count 62 = .ok (.getfield 535, 3) := dk_180 2 23 (dk_at dksX5_count_2 6 rfl rfl)
theorem dX5_count_65 : decode cX5_count 65 = .ok (.ireturn, 1) := dk_172 (dk_at dksX5_count_2 9 rfl rfl)
theorem dX5_count_66 : decode cX5_count 66 = .ok (.aload_n 0, 1) := dk_42 (dk_at dksX5_count_2 10 rfl rfl)
theorem dX5_count_67 : decode cX5_count 67 = .ok (.getfield 535, 3) := dk_180 2 23 (dk_at dksX5_count_2 11 rfl rfl)
theorem dX5_count_70 : decode cX5_count 70 = .ok (.ifCond .ne 7, 3) := dk_154 0 7 (dk_at dksX5_count_2 14 rfl rfl)
theorem dX5_count_73 : decode cX5_count 73 = .ok (.iconst 0, 1) := dk_3 (dk_at dksX5_count_2 17 rfl rfl)
theorem dX5_count_74 : decode cX5_count 74 = .ok (.goto 14, 3) := dk_167 0 14 (dk_at dksX5_count_2 18 rfl rfl)
theorem dX5_count_77 : decode cX5_count 77 = .ok (.aload_n 0, 1) := dk_42 (dk_at dksX5_count_2 21 rfl rfl)
theorem dX5_count_78 : decode cX5_count 78 = .ok (.getfield 134, 3) := dk_180 0 134 (dk_at dksX5_count_3 0 rfl rfl)
theorem dX5_count_81 : decode cX5_count 81 = .ok (.aload_n 0, 1) := dk_42 (dk_at dksX5_count_3 3 rfl rfl)
theorem dX5_count_82 : decode cX5_count 82 = .ok (.getfield 535, 3) := dk_180 2 23 (dk_at dksX5_count_3 4 rfl rfl)
theorem dX5_count_85 : decode cX5_count 85 = .ok (.iconst 1, 1) := dk_4 (dk_at dksX5_count_3 7 rfl rfl)
theorem dX5_count_86 : decode cX5_count 86 = .ok (.isub, 1) := dk_100 (dk_at dksX5_count_3 8 rfl rfl)
theorem dX5_count_87 : decode cX5_count 87 = .ok (.iaload, 1) := dk_46 (dk_at dksX5_count_3 9 rfl rfl)
theorem dX5_count_88 : decode cX5_count 88 = .ok (.ireturn, 1) := dk_172 (dk_at dksX5_count_3 10 rfl rfl)
theorem dX5_count_89 : decode cX5_count 89 = .ok (.aload_n 0, 1) := dk_42 (dk_at dksX5_count_3 11 rfl rfl)
theorem dX5_count_90 : decode cX5_count 90 = .ok (.getfield 541, 3) := dk_180 2 29 (dk_at dksX5_count_3 12 rfl rfl)
theorem dX5_count_93 : decode cX5_count 93 = .ok (.ireturn, 1) := dk_172 (dk_at dksX5_count_3 15 rfl rfl)
theorem dX5_count_94 : decode cX5_count 94 = .ok (.aload_n 0, 1) := dk_42 (dk_at dksX5_count_3 16 rfl rfl)
theorem dX5_count_95 : decode cX5_count 95 = .ok (.getfield 422, 3) := dk_180 1 166 (dk_at dksX5_count_3 17 rfl rfl)
theorem dX5_count_98 : decode cX5_count 98 = .ok (.ireturn, 1) := dk_172 (dk_at dksX5_count_3 20 rfl rfl)
theorem dX5_count_99 : decode cX5_count 99 = .ok (.aload_n 0, 1) := dk_42 (dk_at dksX5_count_3 21 rfl rfl)
theorem dX5_count_100 : decode cX5_count 100 = .ok (.getfield 571, 3) := dk_180 2 59 (dk_at dksX5_count_4 0 rfl rfl)
theorem dX5_count_103 : decode cX5_count 103 = .ok (.ireturn, 1) := dk_172 (dk_at dksX5_count_4 3 rfl rfl)
theorem dX5_count_104 : decode cX5_count 104 = .ok (.aload_n 0, 1) := dk_42 (dk_at dksX5_count_4 4 rfl rfl)
theorem dX5_count_105 : decode cX5_count 105 = .ok (.getfield 586, 3) := dk_180 2 74 (dk_at dksX5_count_4 5 rfl rfl)
theorem dX5_count_108 : decode cX5_count 108 = .ok (.ireturn, 1) := dk_172 (dk_at dksX5_count_4 8 rfl rfl)
theorem dX5_count_109 : decode cX5_count 109 = .ok (.aload_n 0, 1) := dk_42 (dk_at dksX5_count_4 9 rfl rfl)
theorem dX5_count_110 : decode cX5_count 110 = .ok (.invokevirtual 604, 3) := dk_182 2 92 (dk_at dksX5_count_4 10 rfl rfl)
theorem dX5_count_113 : decode cX5_count 113 = .ok (.ireturn, 1) := dk_172 (dk_at dksX5_count_4 13 rfl rfl)
theorem dX5_count_114 : decode cX5_count 114 = .ok (.aload_n 0, 1) := dk_42 (dk_at dksX5_count_4 14 rfl rfl)
theorem dX5_count_115 : decode cX5_count 115 = .ok (.invokevirtual 607, 3) := dk_182 2 95 (dk_at dksX5_count_4 15 rfl rfl)
theorem dX5_count_118 : decode cX5_count 118 = .ok (.ireturn, 1) := dk_172 (dk_at dksX5_count_4 18 rfl rfl)
theorem dX5_count_119 : decode cX5_count 119 = .ok (.aload_n 0, 1) := dk_42 (dk_at dksX5_count_4 19 rfl rfl)
theorem dX5_count_120 : decode cX5_count 120 = .ok (.getfield 189, 3) := dk_180 0 189 (dk_at dksX5_count_4 20 rfl rfl)
theorem dX5_count_123 : decode cX5_count 123 = .ok (.ireturn, 1) := dk_172 (dk_at dksX5_count_4 23 rfl rfl)
theorem dX5_count_124 : decode cX5_count 124 = .ok (.iconst (-1), 1) := dk_2 (dk_at dksX5_count_5 0 rfl rfl)
theorem dX5_count_125 : decode cX5_count 125 = .ok (.ireturn, 1) := dk_172 (dk_at dksX5_count_5 1 rfl rfl)
abbrev cX5_leavesTold : ByteArray := prog_24_method_106_code
def yX5_leavesTold : MethodName := ⟨RX5, "leavesTold", "()I"⟩
def dkwX5_leavesTold_1 : List UInt8 := [96, 60, 132, 2, 1, 167, 255, 231, 27, 172]
abbrev dktX5_leavesTold_1 : List UInt8 := dkwX5_leavesTold_1 ++ []
def dkwX5_leavesTold_0 : List UInt8 := [3, 60, 3, 61, 28, 42, 180, 1, 166, 162, 0, 23, 27, 42, 180, 0, 19, 42, 180, 0, 113, 28, 46, 46]
abbrev dktX5_leavesTold_0 : List UInt8 := dkwX5_leavesTold_0 ++ dktX5_leavesTold_1
theorem dksX5_leavesTold_0 : cX5_leavesTold.data.toList.drop 0 = dktX5_leavesTold_0 := by decide +kernel
theorem dksX5_leavesTold_1 : cX5_leavesTold.data.toList.drop 24 = dktX5_leavesTold_1 := dk_seg dksX5_leavesTold_0 24 rfl rfl
theorem dX5_leavesTold_0 : decode cX5_leavesTold 0 = .ok (.iconst 0, 1) := dk_3 (dk_at dksX5_leavesTold_0 0 rfl rfl)
theorem dX5_leavesTold_1 : decode cX5_leavesTold 1 = .ok (.istore_n 1, 1) := dk_60 (dk_at dksX5_leavesTold_0 1 rfl rfl)
theorem dX5_leavesTold_2 : decode cX5_leavesTold 2 = .ok (.iconst 0, 1) := dk_3 (dk_at dksX5_leavesTold_0 2 rfl rfl)
theorem dX5_leavesTold_3 : decode cX5_leavesTold 3 = .ok (.istore_n 2, 1) := dk_61 (dk_at dksX5_leavesTold_0 3 rfl rfl)
theorem dX5_leavesTold_4 : decode cX5_leavesTold 4 = .ok (.iload_n 2, 1) := dk_28 (dk_at dksX5_leavesTold_0 4 rfl rfl)
theorem dX5_leavesTold_5 : decode cX5_leavesTold 5 = .ok (.aload_n 0, 1) := dk_42 (dk_at dksX5_leavesTold_0 5 rfl rfl)
theorem dX5_leavesTold_6 : decode cX5_leavesTold 6 = .ok (.getfield 422, 3) := dk_180 1 166 (dk_at dksX5_leavesTold_0 6 rfl rfl)
theorem dX5_leavesTold_9 : decode cX5_leavesTold 9 = .ok (.if_icmp .ge 23, 3) := dk_162 0 23 (dk_at dksX5_leavesTold_0 9 rfl rfl)
theorem dX5_leavesTold_12 : decode cX5_leavesTold 12 = .ok (.iload_n 1, 1) := dk_27 (dk_at dksX5_leavesTold_0 12 rfl rfl)
theorem dX5_leavesTold_13 : decode cX5_leavesTold 13 = .ok (.aload_n 0, 1) := dk_42 (dk_at dksX5_leavesTold_0 13 rfl rfl)
theorem dX5_leavesTold_14 : decode cX5_leavesTold 14 = .ok (.getfield 19, 3) := dk_180 0 19 (dk_at dksX5_leavesTold_0 14 rfl rfl)
theorem dX5_leavesTold_17 : decode cX5_leavesTold 17 = .ok (.aload_n 0, 1) := dk_42 (dk_at dksX5_leavesTold_0 17 rfl rfl)
theorem dX5_leavesTold_18 : decode cX5_leavesTold 18 = .ok (.getfield 113, 3) := dk_180 0 113 (dk_at dksX5_leavesTold_0 18 rfl rfl)
theorem dX5_leavesTold_21 : decode cX5_leavesTold 21 = .ok (.iload_n 2, 1) := dk_28 (dk_at dksX5_leavesTold_0 21 rfl rfl)
theorem dX5_leavesTold_22 : decode cX5_leavesTold 22 = .ok (.iaload, 1) := dk_46 (dk_at dksX5_leavesTold_0 22 rfl rfl)
theorem dX5_leavesTold_23 : decode cX5_leavesTold 23 = .ok (.iaload, 1) := dk_46 (dk_at dksX5_leavesTold_0 23 rfl rfl)
theorem dX5_leavesTold_24 : decode cX5_leavesTold 24 = .ok (.iadd, 1) := dk_96 (dk_at dksX5_leavesTold_1 0 rfl rfl)
theorem dX5_leavesTold_25 : decode cX5_leavesTold 25 = .ok (.istore_n 1, 1) := dk_60 (dk_at dksX5_leavesTold_1 1 rfl rfl)
theorem dX5_leavesTold_26 : decode cX5_leavesTold 26 = .ok (.iinc 2 1, 3) := dk_132 2 1 (dk_at dksX5_leavesTold_1 2 rfl rfl)
theorem dX5_leavesTold_29 : decode cX5_leavesTold 29 = .ok (.goto (-25), 3) := dk_167 255 231 (dk_at dksX5_leavesTold_1 5 rfl rfl)
theorem dX5_leavesTold_32 : decode cX5_leavesTold 32 = .ok (.iload_n 1, 1) := dk_27 (dk_at dksX5_leavesTold_1 8 rfl rfl)
theorem dX5_leavesTold_33 : decode cX5_leavesTold 33 = .ok (.ireturn, 1) := dk_172 (dk_at dksX5_leavesTold_1 9 rfl rfl)
abbrev cX5_choicesTold : ByteArray := prog_24_method_107_code
def yX5_choicesTold : MethodName := ⟨RX5, "choicesTold", "()I"⟩
def dkwX5_choicesTold_1 : List UInt8 := [96, 60, 132, 2, 1, 167, 255, 231, 27, 172]
abbrev dktX5_choicesTold_1 : List UInt8 := dkwX5_choicesTold_1 ++ []
def dkwX5_choicesTold_0 : List UInt8 := [3, 60, 3, 61, 28, 42, 180, 1, 166, 162, 0, 23, 27, 42, 180, 0, 22, 42, 180, 0, 113, 28, 46, 46]
abbrev dktX5_choicesTold_0 : List UInt8 := dkwX5_choicesTold_0 ++ dktX5_choicesTold_1
theorem dksX5_choicesTold_0 : cX5_choicesTold.data.toList.drop 0 = dktX5_choicesTold_0 := by decide +kernel
theorem dksX5_choicesTold_1 : cX5_choicesTold.data.toList.drop 24 = dktX5_choicesTold_1 := dk_seg dksX5_choicesTold_0 24 rfl rfl
theorem dX5_choicesTold_0 : decode cX5_choicesTold 0 = .ok (.iconst 0, 1) := dk_3 (dk_at dksX5_choicesTold_0 0 rfl rfl)
theorem dX5_choicesTold_1 : decode cX5_choicesTold 1 = .ok (.istore_n 1, 1) := dk_60 (dk_at dksX5_choicesTold_0 1 rfl rfl)
theorem dX5_choicesTold_2 : decode cX5_choicesTold 2 = .ok (.iconst 0, 1) := dk_3 (dk_at dksX5_choicesTold_0 2 rfl rfl)
theorem dX5_choicesTold_3 : decode cX5_choicesTold 3 = .ok (.istore_n 2, 1) := dk_61 (dk_at dksX5_choicesTold_0 3 rfl rfl)
theorem dX5_choicesTold_4 : decode cX5_choicesTold 4 = .ok (.iload_n 2, 1) := dk_28 (dk_at dksX5_choicesTold_0 4 rfl rfl)
theorem dX5_choicesTold_5 : decode cX5_choicesTold 5 = .ok (.aload_n 0, 1) := dk_42 (dk_at dksX5_choicesTold_0 5 rfl rfl)
theorem dX5_choicesTold_6 : decode cX5_choicesTold 6 = .ok (.getfield 422, 3) := dk_180 1 166 (dk_at dksX5_choicesTold_0 6 rfl rfl)
theorem dX5_choicesTold_9 : decode cX5_choicesTold 9 = .ok (.if_icmp .ge 23, 3) := dk_162 0 23 (dk_at dksX5_choicesTold_0 9 rfl rfl)
theorem dX5_choicesTold_12 : decode cX5_choicesTold 12 = .ok (.iload_n 1, 1) := dk_27 (dk_at dksX5_choicesTold_0 12 rfl rfl)
theorem dX5_choicesTold_13 : decode cX5_choicesTold 13 = .ok (.aload_n 0, 1) := dk_42 (dk_at dksX5_choicesTold_0 13 rfl rfl)
theorem dX5_choicesTold_14 : decode cX5_choicesTold 14 = .ok (.getfield 22, 3) := dk_180 0 22 (dk_at dksX5_choicesTold_0 14 rfl rfl)
theorem dX5_choicesTold_17 : decode cX5_choicesTold 17 = .ok (.aload_n 0, 1) := dk_42 (dk_at dksX5_choicesTold_0 17 rfl rfl)
theorem dX5_choicesTold_18 : decode cX5_choicesTold 18 = .ok (.getfield 113, 3) := dk_180 0 113 (dk_at dksX5_choicesTold_0 18 rfl rfl)
theorem dX5_choicesTold_21 : decode cX5_choicesTold 21 = .ok (.iload_n 2, 1) := dk_28 (dk_at dksX5_choicesTold_0 21 rfl rfl)
theorem dX5_choicesTold_22 : decode cX5_choicesTold 22 = .ok (.iaload, 1) := dk_46 (dk_at dksX5_choicesTold_0 22 rfl rfl)
theorem dX5_choicesTold_23 : decode cX5_choicesTold 23 = .ok (.iaload, 1) := dk_46 (dk_at dksX5_choicesTold_0 23 rfl rfl)
theorem dX5_choicesTold_24 : decode cX5_choicesTold 24 = .ok (.iadd, 1) := dk_96 (dk_at dksX5_choicesTold_1 0 rfl rfl)
theorem dX5_choicesTold_25 : decode cX5_choicesTold 25 = .ok (.istore_n 1, 1) := dk_60 (dk_at dksX5_choicesTold_1 1 rfl rfl)
theorem dX5_choicesTold_26 : decode cX5_choicesTold 26 = .ok (.iinc 2 1, 3) := dk_132 2 1 (dk_at dksX5_choicesTold_1 2 rfl rfl)
theorem dX5_choicesTold_29 : decode cX5_choicesTold 29 = .ok (.goto (-25), 3) := dk_167 255 231 (dk_at dksX5_choicesTold_1 5 rfl rfl)
theorem dX5_choicesTold_32 : decode cX5_choicesTold 32 = .ok (.iload_n 1, 1) := dk_27 (dk_at dksX5_choicesTold_1 8 rfl rfl)
theorem dX5_choicesTold_33 : decode cX5_choicesTold 33 = .ok (.ireturn, 1) := dk_172 (dk_at dksX5_choicesTold_1 9 rfl rfl)
theorem q96 : (Jvm.Cond.initialized "LoanNamesModel") ∈ lw_all := lw_g (lw_at lw_m1 6 rfl) rfl
theorem q1404 : (Jvm.Cond.instantiable "LoanNamesModel" (93 : Nat)) ∈ lw_all := lw_g (lw_at lw_m6 114 rfl) rfl
theorem q1406 : (Jvm.Cond.instanceMethod ({ cls := "LoanNamesModel", name := "<init>", desc := "()V" } : Jvm.MethodName)) ∈ lw_all := lw_g (lw_at lw_m6 116 rfl) rfl
theorem q1407 : (Jvm.Cond.code ({ cls := "LoanNamesModel", name := "<init>", desc := "()V" } : Jvm.MethodName) prog_24_method_1_code (2 : Nat) (Option.none : Option Jvm.ClassFile.FieldType)) ∈ lw_all := lw_g (lw_at lw_m6 117 rfl) rfl
theorem q1408 : (Jvm.Cond.methodLink "LoanNamesModel" (1 : Nat) ({ cls := "java/lang/Object", name := "<init>", desc := "()V" } : Jvm.MethodName)) ∈ lw_all := lw_g (lw_at lw_m6 118 rfl) rfl
theorem q1409 : (Jvm.Cond.fieldLink "LoanNamesModel" (7 : Nat) "LoanNamesModel" "families" "[I") ∈ lw_all := lw_g (lw_at lw_m6 119 rfl) rfl
theorem q1410 : (Jvm.Cond.fieldLink "LoanNamesModel" (332 : Nat) "LoanNamesModel" "deals" "I") ∈ lw_all := lw_g (lw_at lw_m6 120 rfl) rfl
theorem q1411 : (Jvm.Cond.fieldLink "LoanNamesModel" (13 : Nat) "LoanNamesModel" "many" "[I") ∈ lw_all := lw_g (lw_at lw_m6 121 rfl) rfl
theorem q1412 : (Jvm.Cond.fieldLink "LoanNamesModel" (16 : Nat) "LoanNamesModel" "signed" "[I") ∈ lw_all := lw_g (lw_at lw_m6 122 rfl) rfl
theorem q1413 : (Jvm.Cond.fieldLink "LoanNamesModel" (19 : Nat) "LoanNamesModel" "leaves" "[I") ∈ lw_all := lw_g (lw_at lw_m6 123 rfl) rfl
theorem q1414 : (Jvm.Cond.fieldLink "LoanNamesModel" (22 : Nat) "LoanNamesModel" "choices" "[I") ∈ lw_all := lw_g (lw_at lw_m6 124 rfl) rfl
theorem q1415 : (Jvm.Cond.fieldLink "LoanNamesModel" (25 : Nat) "LoanNamesModel" "events" "[I") ∈ lw_all := lw_g (lw_at lw_m6 125 rfl) rfl
theorem q1416 : (Jvm.Cond.fieldLink "LoanNamesModel" (28 : Nat) "LoanNamesModel" "kind" "[I") ∈ lw_all := lw_g (lw_at lw_m6 126 rfl) rfl
theorem q1417 : (Jvm.Cond.fieldLink "LoanNamesModel" (31 : Nat) "LoanNamesModel" "number" "[I") ∈ lw_all := lw_g (lw_at lw_m6 127 rfl) rfl
theorem q1418 : (Jvm.Cond.fieldLink "LoanNamesModel" (34 : Nat) "LoanNamesModel" "up" "[I") ∈ lw_all := lw_g (lw_at lw_m6 128 rfl) rfl
theorem q1419 : (Jvm.Cond.fieldLink "LoanNamesModel" (37 : Nat) "LoanNamesModel" "part" "[I") ∈ lw_all := lw_g (lw_at lw_m6 129 rfl) rfl
theorem q1420 : (Jvm.Cond.fieldLink "LoanNamesModel" (40 : Nat) "LoanNamesModel" "end" "[I") ∈ lw_all := lw_g (lw_at lw_m6 130 rfl) rfl
theorem q1421 : (Jvm.Cond.fieldLink "LoanNamesModel" (43 : Nat) "LoanNamesModel" "mid" "[I") ∈ lw_all := lw_g (lw_at lw_m6 131 rfl) rfl
theorem q1422 : (Jvm.Cond.fieldLink "LoanNamesModel" (46 : Nat) "LoanNamesModel" "handA" "[I") ∈ lw_all := lw_g (lw_at lw_m6 132 rfl) rfl
theorem q1423 : (Jvm.Cond.fieldLink "LoanNamesModel" (49 : Nat) "LoanNamesModel" "handB" "[I") ∈ lw_all := lw_g (lw_at lw_m6 133 rfl) rfl
theorem q1424 : (Jvm.Cond.fieldLink "LoanNamesModel" (52 : Nat) "LoanNamesModel" "thing" "[I") ∈ lw_all := lw_g (lw_at lw_m6 134 rfl) rfl
theorem q1425 : (Jvm.Cond.fieldLink "LoanNamesModel" (55 : Nat) "LoanNamesModel" "much" "[I") ∈ lw_all := lw_g (lw_at lw_m6 135 rfl) rfl
theorem q1426 : (Jvm.Cond.fieldLink "LoanNamesModel" (58 : Nat) "LoanNamesModel" "price" "[I") ∈ lw_all := lw_g (lw_at lw_m6 136 rfl) rfl
theorem q1427 : (Jvm.Cond.fieldLink "LoanNamesModel" (61 : Nat) "LoanNamesModel" "at" "[I") ∈ lw_all := lw_g (lw_at lw_m6 137 rfl) rfl
theorem q1428 : (Jvm.Cond.fieldLink "LoanNamesModel" (64 : Nat) "LoanNamesModel" "till" "[I") ∈ lw_all := lw_g (lw_at lw_m6 138 rfl) rfl
theorem q1429 : (Jvm.Cond.fieldLink "LoanNamesModel" (67 : Nat) "LoanNamesModel" "tape" "[B") ∈ lw_all := lw_g (lw_at lw_m6 139 rfl) rfl
theorem q1430 : (Jvm.Cond.fieldLink "LoanNamesModel" (189 : Nat) "LoanNamesModel" "taped" "I") ∈ lw_all := lw_g (lw_at lw_m6 140 rfl) rfl
theorem q1431 : (Jvm.Cond.fieldLink "LoanNamesModel" (71 : Nat) "LoanNamesModel" "faultAt" "I") ∈ lw_all := lw_g (lw_at lw_m6 141 rfl) rfl
theorem q1432 : (Jvm.Cond.fieldLink "LoanNamesModel" (195 : Nat) "LoanNamesModel" "limit" "I") ∈ lw_all := lw_g (lw_at lw_m6 142 rfl) rfl
theorem q1433 : (Jvm.Cond.fieldLink "LoanNamesModel" (192 : Nat) "LoanNamesModel" "point" "I") ∈ lw_all := lw_g (lw_at lw_m6 143 rfl) rfl
theorem q1434 : (Jvm.Cond.fieldLink "LoanNamesModel" (202 : Nat) "LoanNamesModel" "from" "I") ∈ lw_all := lw_g (lw_at lw_m6 144 rfl) rfl
theorem q1435 : (Jvm.Cond.fieldLink "LoanNamesModel" (214 : Nat) "LoanNamesModel" "token" "I") ∈ lw_all := lw_g (lw_at lw_m6 145 rfl) rfl
theorem q1436 : (Jvm.Cond.fieldLink "LoanNamesModel" (211 : Nat) "LoanNamesModel" "value" "I") ∈ lw_all := lw_g (lw_at lw_m6 146 rfl) rfl
theorem q1437 : (Jvm.Cond.fieldLink "LoanNamesModel" (207 : Nat) "LoanNamesModel" "text" "J") ∈ lw_all := lw_g (lw_at lw_m6 147 rfl) rfl
theorem q1438 : (Jvm.Cond.fieldLink "LoanNamesModel" (220 : Nat) "LoanNamesModel" "isWrong" "Z") ∈ lw_all := lw_g (lw_at lw_m6 148 rfl) rfl
theorem q1439 : (Jvm.Cond.fieldLink "LoanNamesModel" (75 : Nat) "LoanNamesModel" "openNode" "[I") ∈ lw_all := lw_g (lw_at lw_m6 149 rfl) rfl
theorem q1440 : (Jvm.Cond.fieldLink "LoanNamesModel" (78 : Nat) "LoanNamesModel" "openPart" "[I") ∈ lw_all := lw_g (lw_at lw_m6 150 rfl) rfl
theorem q1441 : (Jvm.Cond.fieldLink "LoanNamesModel" (283 : Nat) "LoanNamesModel" "open" "I") ∈ lw_all := lw_g (lw_at lw_m6 151 rfl) rfl
theorem q1442 : (Jvm.Cond.fieldLink "LoanNamesModel" (280 : Nat) "LoanNamesModel" "nodes" "I") ∈ lw_all := lw_g (lw_at lw_m6 152 rfl) rfl
theorem q1443 : (Jvm.Cond.fieldLink "LoanNamesModel" (286 : Nat) "LoanNamesModel" "leafCount" "I") ∈ lw_all := lw_g (lw_at lw_m6 153 rfl) rfl
theorem q1444 : (Jvm.Cond.fieldLink "LoanNamesModel" (315 : Nat) "LoanNamesModel" "choiceCount" "I") ∈ lw_all := lw_g (lw_at lw_m6 154 rfl) rfl
theorem q1445 : (Jvm.Cond.fieldLink "LoanNamesModel" (321 : Nat) "LoanNamesModel" "eventBits" "I") ∈ lw_all := lw_g (lw_at lw_m6 155 rfl) rfl
theorem q1446 : (Jvm.Cond.fieldLink "LoanNamesModel" (277 : Nat) "LoanNamesModel" "base" "I") ∈ lw_all := lw_g (lw_at lw_m6 156 rfl) rfl
theorem q1447 : (Jvm.Cond.fieldLink "LoanNamesModel" (81 : Nat) "LoanNamesModel" "isNothing" "[Z") ∈ lw_all := lw_g (lw_at lw_m6 157 rfl) rfl
theorem q1448 : (Jvm.Cond.fieldLink "LoanNamesModel" (85 : Nat) "LoanNamesModel" "isThrough" "[Z") ∈ lw_all := lw_g (lw_at lw_m6 158 rfl) rfl
theorem q1449 : (Jvm.Cond.fieldLink "LoanNamesModel" (88 : Nat) "LoanNamesModel" "days" "[I") ∈ lw_all := lw_g (lw_at lw_m6 159 rfl) rfl
theorem q1450 : (Jvm.Cond.fieldLink "LoanNamesModel" (394 : Nat) "LoanNamesModel" "steps" "I") ∈ lw_all := lw_g (lw_at lw_m6 160 rfl) rfl
theorem q1451 : (Jvm.Cond.fieldLink "LoanNamesModel" (365 : Nat) "LoanNamesModel" "visible" "I") ∈ lw_all := lw_g (lw_at lw_m6 161 rfl) rfl
theorem q1452 : (Jvm.Cond.fieldLink "LoanNamesModel" (368 : Nat) "LoanNamesModel" "only" "I") ∈ lw_all := lw_g (lw_at lw_m6 162 rfl) rfl
theorem q1453 : (Jvm.Cond.fieldLink "LoanNamesModel" (91 : Nat) "LoanNamesModel" "signs" "[I") ∈ lw_all := lw_g (lw_at lw_m6 163 rfl) rfl
theorem q1454 : (Jvm.Cond.fieldLink "LoanNamesModel" (371 : Nat) "LoanNamesModel" "signed0" "I") ∈ lw_all := lw_g (lw_at lw_m6 164 rfl) rfl
theorem q1455 : (Jvm.Cond.fieldLink "LoanNamesModel" (94 : Nat) "LoanNamesModel" "closing" "[I") ∈ lw_all := lw_g (lw_at lw_m6 165 rfl) rfl
theorem q1456 : (Jvm.Cond.fieldLink "LoanNamesModel" (374 : Nat) "LoanNamesModel" "closings" "I") ∈ lw_all := lw_g (lw_at lw_m6 166 rfl) rfl
theorem q1457 : (Jvm.Cond.fieldLink "LoanNamesModel" (404 : Nat) "LoanNamesModel" "flows" "I") ∈ lw_all := lw_g (lw_at lw_m6 167 rfl) rfl
theorem q1458 : (Jvm.Cond.fieldLink "LoanNamesModel" (97 : Nat) "LoanNamesModel" "flowDay" "[I") ∈ lw_all := lw_g (lw_at lw_m6 168 rfl) rfl
theorem q1459 : (Jvm.Cond.fieldLink "LoanNamesModel" (100 : Nat) "LoanNamesModel" "flowA" "[I") ∈ lw_all := lw_g (lw_at lw_m6 169 rfl) rfl
theorem q1460 : (Jvm.Cond.fieldLink "LoanNamesModel" (103 : Nat) "LoanNamesModel" "flowB" "[I") ∈ lw_all := lw_g (lw_at lw_m6 170 rfl) rfl
theorem q1461 : (Jvm.Cond.fieldLink "LoanNamesModel" (106 : Nat) "LoanNamesModel" "flowThing" "[I") ∈ lw_all := lw_g (lw_at lw_m6 171 rfl) rfl
theorem q1462 : (Jvm.Cond.fieldLink "LoanNamesModel" (109 : Nat) "LoanNamesModel" "flowMuch" "[J") ∈ lw_all := lw_g (lw_at lw_m6 172 rfl) rfl
theorem q1463 : (Jvm.Cond.fieldLink "LoanNamesModel" (422 : Nat) "LoanNamesModel" "bundled" "I") ∈ lw_all := lw_g (lw_at lw_m6 173 rfl) rfl
theorem q1464 : (Jvm.Cond.fieldLink "LoanNamesModel" (425 : Nat) "LoanNamesModel" "listed" "I") ∈ lw_all := lw_g (lw_at lw_m6 174 rfl) rfl
theorem q1465 : (Jvm.Cond.fieldLink "LoanNamesModel" (113 : Nat) "LoanNamesModel" "bundle" "[I") ∈ lw_all := lw_g (lw_at lw_m6 175 rfl) rfl
theorem q1466 : (Jvm.Cond.fieldLink "LoanNamesModel" (116 : Nat) "LoanNamesModel" "list" "[I") ∈ lw_all := lw_g (lw_at lw_m6 176 rfl) rfl
theorem q1467 : (Jvm.Cond.fieldLink "LoanNamesModel" (443 : Nat) "LoanNamesModel" "rowLeaf" "I") ∈ lw_all := lw_g (lw_at lw_m6 177 rfl) rfl
theorem q1468 : (Jvm.Cond.fieldLink "LoanNamesModel" (446 : Nat) "LoanNamesModel" "rowPart" "I") ∈ lw_all := lw_g (lw_at lw_m6 178 rfl) rfl
theorem q1469 : (Jvm.Cond.fieldLink "LoanNamesModel" (449 : Nat) "LoanNamesModel" "rowTimes" "J") ∈ lw_all := lw_g (lw_at lw_m6 179 rfl) rfl
theorem q1470 : (Jvm.Cond.fieldLink "LoanNamesModel" (477 : Nat) "LoanNamesModel" "dayCount" "I") ∈ lw_all := lw_g (lw_at lw_m6 180 rfl) rfl
theorem q1471 : (Jvm.Cond.fieldLink "LoanNamesModel" (119 : Nat) "LoanNamesModel" "coinDays" "[I") ∈ lw_all := lw_g (lw_at lw_m6 181 rfl) rfl
theorem q1472 : (Jvm.Cond.fieldLink "LoanNamesModel" (122 : Nat) "LoanNamesModel" "isClean" "[Z") ∈ lw_all := lw_g (lw_at lw_m6 182 rfl) rfl
theorem q1473 : (Jvm.Cond.fieldLink "LoanNamesModel" (125 : Nat) "LoanNamesModel" "coinNet" "[J") ∈ lw_all := lw_g (lw_at lw_m6 183 rfl) rfl
theorem q1474 : (Jvm.Cond.fieldLink "LoanNamesModel" (128 : Nat) "LoanNamesModel" "lentTo" "[I") ∈ lw_all := lw_g (lw_at lw_m6 184 rfl) rfl
theorem q1475 : (Jvm.Cond.fieldLink "LoanNamesModel" (131 : Nat) "LoanNamesModel" "lentAll" "[I") ∈ lw_all := lw_g (lw_at lw_m6 185 rfl) rfl
theorem q1476 : (Jvm.Cond.fieldLink "LoanNamesModel" (535 : Nat) "LoanNamesModel" "laws" "I") ∈ lw_all := lw_g (lw_at lw_m6 186 rfl) rfl
theorem q1477 : (Jvm.Cond.fieldLink "LoanNamesModel" (541 : Nat) "LoanNamesModel" "words" "I") ∈ lw_all := lw_g (lw_at lw_m6 187 rfl) rfl
theorem q1478 : (Jvm.Cond.fieldLink "LoanNamesModel" (134 : Nat) "LoanNamesModel" "lawMany" "[I") ∈ lw_all := lw_g (lw_at lw_m6 188 rfl) rfl
theorem q1479 : (Jvm.Cond.fieldLink "LoanNamesModel" (137 : Nat) "LoanNamesModel" "wordMany" "[I") ∈ lw_all := lw_g (lw_at lw_m6 189 rfl) rfl
theorem q1480 : (Jvm.Cond.fieldLink "LoanNamesModel" (140 : Nat) "LoanNamesModel" "form" "[I") ∈ lw_all := lw_g (lw_at lw_m6 190 rfl) rfl
theorem q1481 : (Jvm.Cond.fieldLink "LoanNamesModel" (143 : Nat) "LoanNamesModel" "ofThing" "[I") ∈ lw_all := lw_g (lw_at lw_m6 191 rfl) rfl
theorem q1482 : (Jvm.Cond.fieldLink "LoanNamesModel" (146 : Nat) "LoanNamesModel" "formThen" "[I") ∈ lw_all := lw_g (lw_at lw_m6 192 rfl) rfl
theorem q1483 : (Jvm.Cond.fieldLink "LoanNamesModel" (149 : Nat) "LoanNamesModel" "thingThen" "[I") ∈ lw_all := lw_g (lw_at lw_m6 193 rfl) rfl
theorem q1484 : (Jvm.Cond.fieldLink "LoanNamesModel" (152 : Nat) "LoanNamesModel" "asked" "[I") ∈ lw_all := lw_g (lw_at lw_m6 194 rfl) rfl
theorem q1485 : (Jvm.Cond.fieldLink "LoanNamesModel" (155 : Nat) "LoanNamesModel" "most" "[I") ∈ lw_all := lw_g (lw_at lw_m6 195 rfl) rfl
theorem q1486 : (Jvm.Cond.fieldLink "LoanNamesModel" (158 : Nat) "LoanNamesModel" "isTwo" "[Z") ∈ lw_all := lw_g (lw_at lw_m6 196 rfl) rfl
theorem q1487 : (Jvm.Cond.fieldLink "LoanNamesModel" (544 : Nat) "LoanNamesModel" "leavesAtHand" "I") ∈ lw_all := lw_g (lw_at lw_m6 197 rfl) rfl
theorem q1488 : (Jvm.Cond.fieldLink "LoanNamesModel" (550 : Nat) "LoanNamesModel" "firstHit" "I") ∈ lw_all := lw_g (lw_at lw_m6 198 rfl) rfl
theorem q1489 : (Jvm.Cond.fieldLink "LoanNamesModel" (553 : Nat) "LoanNamesModel" "secondHit" "I") ∈ lw_all := lw_g (lw_at lw_m6 199 rfl) rfl
theorem q1490 : (Jvm.Cond.fieldLink "LoanNamesModel" (161 : Nat) "LoanNamesModel" "leafNode" "[I") ∈ lw_all := lw_g (lw_at lw_m6 200 rfl) rfl
theorem q1491 : (Jvm.Cond.fieldLink "LoanNamesModel" (164 : Nat) "LoanNamesModel" "leafDay" "[I") ∈ lw_all := lw_g (lw_at lw_m6 201 rfl) rfl
theorem q1492 : (Jvm.Cond.fieldLink "LoanNamesModel" (571 : Nat) "LoanNamesModel" "offered" "I") ∈ lw_all := lw_g (lw_at lw_m6 202 rfl) rfl
theorem q1493 : (Jvm.Cond.fieldLink "LoanNamesModel" (574 : Nat) "LoanNamesModel" "slyCount" "I") ∈ lw_all := lw_g (lw_at lw_m6 203 rfl) rfl
theorem q1494 : (Jvm.Cond.fieldLink "LoanNamesModel" (577 : Nat) "LoanNamesModel" "slyBits" "I") ∈ lw_all := lw_g (lw_at lw_m6 204 rfl) rfl
theorem q1495 : (Jvm.Cond.fieldLink "LoanNamesModel" (167 : Nat) "LoanNamesModel" "offers" "[I") ∈ lw_all := lw_g (lw_at lw_m6 205 rfl) rfl
theorem q1496 : (Jvm.Cond.fieldLink "LoanNamesModel" (170 : Nat) "LoanNamesModel" "slyWords" "[I") ∈ lw_all := lw_g (lw_at lw_m6 206 rfl) rfl
theorem q1497 : (Jvm.Cond.fieldLink "LoanNamesModel" (586 : Nat) "LoanNamesModel" "honests" "I") ∈ lw_all := lw_g (lw_at lw_m6 207 rfl) rfl
theorem q1498 : (Jvm.Cond.fieldLink "LoanNamesModel" (173 : Nat) "LoanNamesModel" "honestMany" "[I") ∈ lw_all := lw_g (lw_at lw_m6 208 rfl) rfl
theorem q1499 : (Jvm.Cond.fieldLink "LoanNamesModel" (176 : Nat) "LoanNamesModel" "honestDeals" "[I") ∈ lw_all := lw_g (lw_at lw_m6 209 rfl) rfl
theorem q1500 : (Jvm.Cond.fieldLink "LoanNamesModel" (179 : Nat) "LoanNamesModel" "nets" "[J") ∈ lw_all := lw_g (lw_at lw_m6 210 rfl) rfl
theorem q1501 : (Jvm.Cond.fieldLink "LoanNamesModel" (182 : Nat) "LoanNamesModel" "group" "[I") ∈ lw_all := lw_g (lw_at lw_m6 211 rfl) rfl
theorem q1502 : (Jvm.Cond.laysFinal "LoanNamesModel" "LoanNamesModel" "families" "[I") ∈ lw_all := lw_g (lw_at lw_m6 212 rfl) rfl
theorem q1503 : (Jvm.Cond.soleField "LoanNamesModel" "families") ∈ lw_all := lw_g (lw_at lw_m6 213 rfl) rfl
theorem q1504 : (Jvm.Cond.lays "LoanNamesModel" "LoanNamesModel" "deals" "I") ∈ lw_all := lw_g (lw_at lw_m6 214 rfl) rfl
theorem q1505 : (Jvm.Cond.soleField "LoanNamesModel" "deals") ∈ lw_all := lw_g (lw_at lw_m6 215 rfl) rfl
theorem q1506 : (Jvm.Cond.laysFinal "LoanNamesModel" "LoanNamesModel" "many" "[I") ∈ lw_all := lw_g (lw_at lw_m6 216 rfl) rfl
theorem q1507 : (Jvm.Cond.soleField "LoanNamesModel" "many") ∈ lw_all := lw_g (lw_at lw_m6 217 rfl) rfl
theorem q1508 : (Jvm.Cond.laysFinal "LoanNamesModel" "LoanNamesModel" "signed" "[I") ∈ lw_all := lw_g (lw_at lw_m6 218 rfl) rfl
theorem q1509 : (Jvm.Cond.soleField "LoanNamesModel" "signed") ∈ lw_all := lw_g (lw_at lw_m6 219 rfl) rfl
theorem q1510 : (Jvm.Cond.laysFinal "LoanNamesModel" "LoanNamesModel" "leaves" "[I") ∈ lw_all := lw_g (lw_at lw_m6 220 rfl) rfl
theorem q1511 : (Jvm.Cond.soleField "LoanNamesModel" "leaves") ∈ lw_all := lw_g (lw_at lw_m6 221 rfl) rfl
theorem q1512 : (Jvm.Cond.laysFinal "LoanNamesModel" "LoanNamesModel" "choices" "[I") ∈ lw_all := lw_g (lw_at lw_m6 222 rfl) rfl
theorem q1513 : (Jvm.Cond.soleField "LoanNamesModel" "choices") ∈ lw_all := lw_g (lw_at lw_m6 223 rfl) rfl
theorem q1514 : (Jvm.Cond.laysFinal "LoanNamesModel" "LoanNamesModel" "events" "[I") ∈ lw_all := lw_g (lw_at lw_m6 224 rfl) rfl
theorem q1515 : (Jvm.Cond.soleField "LoanNamesModel" "events") ∈ lw_all := lw_g (lw_at lw_m6 225 rfl) rfl
theorem q1516 : (Jvm.Cond.laysFinal "LoanNamesModel" "LoanNamesModel" "kind" "[I") ∈ lw_all := lw_g (lw_at lw_m6 226 rfl) rfl
theorem q1517 : (Jvm.Cond.soleField "LoanNamesModel" "kind") ∈ lw_all := lw_g (lw_at lw_m6 227 rfl) rfl
theorem q1518 : (Jvm.Cond.laysFinal "LoanNamesModel" "LoanNamesModel" "number" "[I") ∈ lw_all := lw_g (lw_at lw_m6 228 rfl) rfl
theorem q1519 : (Jvm.Cond.soleField "LoanNamesModel" "number") ∈ lw_all := lw_g (lw_at lw_m6 229 rfl) rfl
theorem q1520 : (Jvm.Cond.laysFinal "LoanNamesModel" "LoanNamesModel" "up" "[I") ∈ lw_all := lw_g (lw_at lw_m6 230 rfl) rfl
theorem q1521 : (Jvm.Cond.soleField "LoanNamesModel" "up") ∈ lw_all := lw_g (lw_at lw_m6 231 rfl) rfl
theorem q1522 : (Jvm.Cond.laysFinal "LoanNamesModel" "LoanNamesModel" "part" "[I") ∈ lw_all := lw_g (lw_at lw_m6 232 rfl) rfl
theorem q1523 : (Jvm.Cond.soleField "LoanNamesModel" "part") ∈ lw_all := lw_g (lw_at lw_m6 233 rfl) rfl
theorem q1524 : (Jvm.Cond.laysFinal "LoanNamesModel" "LoanNamesModel" "end" "[I") ∈ lw_all := lw_g (lw_at lw_m6 234 rfl) rfl
theorem q1525 : (Jvm.Cond.soleField "LoanNamesModel" "end") ∈ lw_all := lw_g (lw_at lw_m6 235 rfl) rfl
theorem q1526 : (Jvm.Cond.laysFinal "LoanNamesModel" "LoanNamesModel" "mid" "[I") ∈ lw_all := lw_g (lw_at lw_m6 236 rfl) rfl
theorem q1527 : (Jvm.Cond.soleField "LoanNamesModel" "mid") ∈ lw_all := lw_g (lw_at lw_m6 237 rfl) rfl
theorem q1528 : (Jvm.Cond.laysFinal "LoanNamesModel" "LoanNamesModel" "handA" "[I") ∈ lw_all := lw_g (lw_at lw_m6 238 rfl) rfl
theorem q1529 : (Jvm.Cond.soleField "LoanNamesModel" "handA") ∈ lw_all := lw_g (lw_at lw_m6 239 rfl) rfl
theorem q1530 : (Jvm.Cond.laysFinal "LoanNamesModel" "LoanNamesModel" "handB" "[I") ∈ lw_all := lw_g (lw_at lw_m7 0 rfl) rfl
theorem q1531 : (Jvm.Cond.soleField "LoanNamesModel" "handB") ∈ lw_all := lw_g (lw_at lw_m7 1 rfl) rfl
theorem q1532 : (Jvm.Cond.laysFinal "LoanNamesModel" "LoanNamesModel" "thing" "[I") ∈ lw_all := lw_g (lw_at lw_m7 2 rfl) rfl
theorem q1533 : (Jvm.Cond.soleField "LoanNamesModel" "thing") ∈ lw_all := lw_g (lw_at lw_m7 3 rfl) rfl
theorem q1534 : (Jvm.Cond.laysFinal "LoanNamesModel" "LoanNamesModel" "much" "[I") ∈ lw_all := lw_g (lw_at lw_m7 4 rfl) rfl
theorem q1535 : (Jvm.Cond.soleField "LoanNamesModel" "much") ∈ lw_all := lw_g (lw_at lw_m7 5 rfl) rfl
theorem q1536 : (Jvm.Cond.laysFinal "LoanNamesModel" "LoanNamesModel" "price" "[I") ∈ lw_all := lw_g (lw_at lw_m7 6 rfl) rfl
theorem q1537 : (Jvm.Cond.soleField "LoanNamesModel" "price") ∈ lw_all := lw_g (lw_at lw_m7 7 rfl) rfl
theorem q1538 : (Jvm.Cond.laysFinal "LoanNamesModel" "LoanNamesModel" "at" "[I") ∈ lw_all := lw_g (lw_at lw_m7 8 rfl) rfl
theorem q1539 : (Jvm.Cond.soleField "LoanNamesModel" "at") ∈ lw_all := lw_g (lw_at lw_m7 9 rfl) rfl
theorem q1540 : (Jvm.Cond.laysFinal "LoanNamesModel" "LoanNamesModel" "till" "[I") ∈ lw_all := lw_g (lw_at lw_m7 10 rfl) rfl
theorem q1541 : (Jvm.Cond.soleField "LoanNamesModel" "till") ∈ lw_all := lw_g (lw_at lw_m7 11 rfl) rfl
theorem q1542 : (Jvm.Cond.laysFinal "LoanNamesModel" "LoanNamesModel" "tape" "[B") ∈ lw_all := lw_g (lw_at lw_m7 12 rfl) rfl
theorem q1543 : (Jvm.Cond.soleField "LoanNamesModel" "tape") ∈ lw_all := lw_g (lw_at lw_m7 13 rfl) rfl
theorem q1544 : (Jvm.Cond.lays "LoanNamesModel" "LoanNamesModel" "taped" "I") ∈ lw_all := lw_g (lw_at lw_m7 14 rfl) rfl
theorem q1545 : (Jvm.Cond.soleField "LoanNamesModel" "taped") ∈ lw_all := lw_g (lw_at lw_m7 15 rfl) rfl
theorem q1546 : (Jvm.Cond.lays "LoanNamesModel" "LoanNamesModel" "faultAt" "I") ∈ lw_all := lw_g (lw_at lw_m7 16 rfl) rfl
theorem q1547 : (Jvm.Cond.soleField "LoanNamesModel" "faultAt") ∈ lw_all := lw_g (lw_at lw_m7 17 rfl) rfl
theorem q1548 : (Jvm.Cond.lays "LoanNamesModel" "LoanNamesModel" "limit" "I") ∈ lw_all := lw_g (lw_at lw_m7 18 rfl) rfl
theorem q1549 : (Jvm.Cond.soleField "LoanNamesModel" "limit") ∈ lw_all := lw_g (lw_at lw_m7 19 rfl) rfl
theorem q1550 : (Jvm.Cond.lays "LoanNamesModel" "LoanNamesModel" "point" "I") ∈ lw_all := lw_g (lw_at lw_m7 20 rfl) rfl
theorem q1551 : (Jvm.Cond.soleField "LoanNamesModel" "point") ∈ lw_all := lw_g (lw_at lw_m7 21 rfl) rfl
theorem q1552 : (Jvm.Cond.lays "LoanNamesModel" "LoanNamesModel" "from" "I") ∈ lw_all := lw_g (lw_at lw_m7 22 rfl) rfl
theorem q1553 : (Jvm.Cond.soleField "LoanNamesModel" "from") ∈ lw_all := lw_g (lw_at lw_m7 23 rfl) rfl
theorem q1554 : (Jvm.Cond.lays "LoanNamesModel" "LoanNamesModel" "token" "I") ∈ lw_all := lw_g (lw_at lw_m7 24 rfl) rfl
theorem q1555 : (Jvm.Cond.soleField "LoanNamesModel" "token") ∈ lw_all := lw_g (lw_at lw_m7 25 rfl) rfl
theorem q1556 : (Jvm.Cond.lays "LoanNamesModel" "LoanNamesModel" "value" "I") ∈ lw_all := lw_g (lw_at lw_m7 26 rfl) rfl
theorem q1557 : (Jvm.Cond.soleField "LoanNamesModel" "value") ∈ lw_all := lw_g (lw_at lw_m7 27 rfl) rfl
theorem q1558 : (Jvm.Cond.lays "LoanNamesModel" "LoanNamesModel" "text" "J") ∈ lw_all := lw_g (lw_at lw_m7 28 rfl) rfl
theorem q1559 : (Jvm.Cond.soleField "LoanNamesModel" "text") ∈ lw_all := lw_g (lw_at lw_m7 29 rfl) rfl
theorem q1560 : (Jvm.Cond.lays "LoanNamesModel" "LoanNamesModel" "isWrong" "Z") ∈ lw_all := lw_g (lw_at lw_m7 30 rfl) rfl
theorem q1561 : (Jvm.Cond.soleField "LoanNamesModel" "isWrong") ∈ lw_all := lw_g (lw_at lw_m7 31 rfl) rfl
theorem q1562 : (Jvm.Cond.laysFinal "LoanNamesModel" "LoanNamesModel" "openNode" "[I") ∈ lw_all := lw_g (lw_at lw_m7 32 rfl) rfl
theorem q1563 : (Jvm.Cond.soleField "LoanNamesModel" "openNode") ∈ lw_all := lw_g (lw_at lw_m7 33 rfl) rfl
theorem q1564 : (Jvm.Cond.laysFinal "LoanNamesModel" "LoanNamesModel" "openPart" "[I") ∈ lw_all := lw_g (lw_at lw_m7 34 rfl) rfl
theorem q1565 : (Jvm.Cond.soleField "LoanNamesModel" "openPart") ∈ lw_all := lw_g (lw_at lw_m7 35 rfl) rfl
theorem q1566 : (Jvm.Cond.lays "LoanNamesModel" "LoanNamesModel" "open" "I") ∈ lw_all := lw_g (lw_at lw_m7 36 rfl) rfl
theorem q1567 : (Jvm.Cond.soleField "LoanNamesModel" "open") ∈ lw_all := lw_g (lw_at lw_m7 37 rfl) rfl
theorem q1568 : (Jvm.Cond.lays "LoanNamesModel" "LoanNamesModel" "nodes" "I") ∈ lw_all := lw_g (lw_at lw_m7 38 rfl) rfl
theorem q1569 : (Jvm.Cond.soleField "LoanNamesModel" "nodes") ∈ lw_all := lw_g (lw_at lw_m7 39 rfl) rfl
theorem q1570 : (Jvm.Cond.lays "LoanNamesModel" "LoanNamesModel" "leafCount" "I") ∈ lw_all := lw_g (lw_at lw_m7 40 rfl) rfl
theorem q1571 : (Jvm.Cond.soleField "LoanNamesModel" "leafCount") ∈ lw_all := lw_g (lw_at lw_m7 41 rfl) rfl
theorem q1572 : (Jvm.Cond.lays "LoanNamesModel" "LoanNamesModel" "choiceCount" "I") ∈ lw_all := lw_g (lw_at lw_m7 42 rfl) rfl
theorem q1573 : (Jvm.Cond.soleField "LoanNamesModel" "choiceCount") ∈ lw_all := lw_g (lw_at lw_m7 43 rfl) rfl
theorem q1574 : (Jvm.Cond.lays "LoanNamesModel" "LoanNamesModel" "eventBits" "I") ∈ lw_all := lw_g (lw_at lw_m7 44 rfl) rfl
theorem q1575 : (Jvm.Cond.soleField "LoanNamesModel" "eventBits") ∈ lw_all := lw_g (lw_at lw_m7 45 rfl) rfl
theorem q1576 : (Jvm.Cond.lays "LoanNamesModel" "LoanNamesModel" "base" "I") ∈ lw_all := lw_g (lw_at lw_m7 46 rfl) rfl
theorem q1577 : (Jvm.Cond.soleField "LoanNamesModel" "base") ∈ lw_all := lw_g (lw_at lw_m7 47 rfl) rfl
theorem q1578 : (Jvm.Cond.laysFinal "LoanNamesModel" "LoanNamesModel" "isNothing" "[Z") ∈ lw_all := lw_g (lw_at lw_m7 48 rfl) rfl
theorem q1579 : (Jvm.Cond.soleField "LoanNamesModel" "isNothing") ∈ lw_all := lw_g (lw_at lw_m7 49 rfl) rfl
theorem q1580 : (Jvm.Cond.laysFinal "LoanNamesModel" "LoanNamesModel" "isThrough" "[Z") ∈ lw_all := lw_g (lw_at lw_m7 50 rfl) rfl
theorem q1581 : (Jvm.Cond.soleField "LoanNamesModel" "isThrough") ∈ lw_all := lw_g (lw_at lw_m7 51 rfl) rfl
theorem q1582 : (Jvm.Cond.laysFinal "LoanNamesModel" "LoanNamesModel" "days" "[I") ∈ lw_all := lw_g (lw_at lw_m7 52 rfl) rfl
theorem q1583 : (Jvm.Cond.soleField "LoanNamesModel" "days") ∈ lw_all := lw_g (lw_at lw_m7 53 rfl) rfl
theorem q1584 : (Jvm.Cond.lays "LoanNamesModel" "LoanNamesModel" "steps" "I") ∈ lw_all := lw_g (lw_at lw_m7 54 rfl) rfl
theorem q1585 : (Jvm.Cond.soleField "LoanNamesModel" "steps") ∈ lw_all := lw_g (lw_at lw_m7 55 rfl) rfl
theorem q1586 : (Jvm.Cond.lays "LoanNamesModel" "LoanNamesModel" "visible" "I") ∈ lw_all := lw_g (lw_at lw_m7 56 rfl) rfl
theorem q1587 : (Jvm.Cond.soleField "LoanNamesModel" "visible") ∈ lw_all := lw_g (lw_at lw_m7 57 rfl) rfl
theorem q1588 : (Jvm.Cond.lays "LoanNamesModel" "LoanNamesModel" "only" "I") ∈ lw_all := lw_g (lw_at lw_m7 58 rfl) rfl
theorem q1589 : (Jvm.Cond.soleField "LoanNamesModel" "only") ∈ lw_all := lw_g (lw_at lw_m7 59 rfl) rfl
theorem q1590 : (Jvm.Cond.laysFinal "LoanNamesModel" "LoanNamesModel" "signs" "[I") ∈ lw_all := lw_g (lw_at lw_m7 60 rfl) rfl
theorem q1591 : (Jvm.Cond.soleField "LoanNamesModel" "signs") ∈ lw_all := lw_g (lw_at lw_m7 61 rfl) rfl
theorem q1592 : (Jvm.Cond.lays "LoanNamesModel" "LoanNamesModel" "signed0" "I") ∈ lw_all := lw_g (lw_at lw_m7 62 rfl) rfl
theorem q1593 : (Jvm.Cond.soleField "LoanNamesModel" "signed0") ∈ lw_all := lw_g (lw_at lw_m7 63 rfl) rfl
theorem q1594 : (Jvm.Cond.laysFinal "LoanNamesModel" "LoanNamesModel" "closing" "[I") ∈ lw_all := lw_g (lw_at lw_m7 64 rfl) rfl
theorem q1595 : (Jvm.Cond.soleField "LoanNamesModel" "closing") ∈ lw_all := lw_g (lw_at lw_m7 65 rfl) rfl
theorem q1596 : (Jvm.Cond.lays "LoanNamesModel" "LoanNamesModel" "closings" "I") ∈ lw_all := lw_g (lw_at lw_m7 66 rfl) rfl
theorem q1597 : (Jvm.Cond.soleField "LoanNamesModel" "closings") ∈ lw_all := lw_g (lw_at lw_m7 67 rfl) rfl
theorem q1598 : (Jvm.Cond.lays "LoanNamesModel" "LoanNamesModel" "flows" "I") ∈ lw_all := lw_g (lw_at lw_m7 68 rfl) rfl
theorem q1599 : (Jvm.Cond.soleField "LoanNamesModel" "flows") ∈ lw_all := lw_g (lw_at lw_m7 69 rfl) rfl
theorem q1600 : (Jvm.Cond.laysFinal "LoanNamesModel" "LoanNamesModel" "flowDay" "[I") ∈ lw_all := lw_g (lw_at lw_m7 70 rfl) rfl
theorem q1601 : (Jvm.Cond.soleField "LoanNamesModel" "flowDay") ∈ lw_all := lw_g (lw_at lw_m7 71 rfl) rfl
theorem q1602 : (Jvm.Cond.laysFinal "LoanNamesModel" "LoanNamesModel" "flowA" "[I") ∈ lw_all := lw_g (lw_at lw_m7 72 rfl) rfl
theorem q1603 : (Jvm.Cond.soleField "LoanNamesModel" "flowA") ∈ lw_all := lw_g (lw_at lw_m7 73 rfl) rfl
theorem q1604 : (Jvm.Cond.laysFinal "LoanNamesModel" "LoanNamesModel" "flowB" "[I") ∈ lw_all := lw_g (lw_at lw_m7 74 rfl) rfl
theorem q1605 : (Jvm.Cond.soleField "LoanNamesModel" "flowB") ∈ lw_all := lw_g (lw_at lw_m7 75 rfl) rfl
theorem q1606 : (Jvm.Cond.laysFinal "LoanNamesModel" "LoanNamesModel" "flowThing" "[I") ∈ lw_all := lw_g (lw_at lw_m7 76 rfl) rfl
theorem q1607 : (Jvm.Cond.soleField "LoanNamesModel" "flowThing") ∈ lw_all := lw_g (lw_at lw_m7 77 rfl) rfl
theorem q1608 : (Jvm.Cond.laysFinal "LoanNamesModel" "LoanNamesModel" "flowMuch" "[J") ∈ lw_all := lw_g (lw_at lw_m7 78 rfl) rfl
theorem q1609 : (Jvm.Cond.soleField "LoanNamesModel" "flowMuch") ∈ lw_all := lw_g (lw_at lw_m7 79 rfl) rfl
theorem q1610 : (Jvm.Cond.lays "LoanNamesModel" "LoanNamesModel" "bundled" "I") ∈ lw_all := lw_g (lw_at lw_m7 80 rfl) rfl
theorem q1611 : (Jvm.Cond.soleField "LoanNamesModel" "bundled") ∈ lw_all := lw_g (lw_at lw_m7 81 rfl) rfl
theorem q1612 : (Jvm.Cond.lays "LoanNamesModel" "LoanNamesModel" "listed" "I") ∈ lw_all := lw_g (lw_at lw_m7 82 rfl) rfl
theorem q1613 : (Jvm.Cond.soleField "LoanNamesModel" "listed") ∈ lw_all := lw_g (lw_at lw_m7 83 rfl) rfl
theorem q1614 : (Jvm.Cond.laysFinal "LoanNamesModel" "LoanNamesModel" "bundle" "[I") ∈ lw_all := lw_g (lw_at lw_m7 84 rfl) rfl
theorem q1615 : (Jvm.Cond.soleField "LoanNamesModel" "bundle") ∈ lw_all := lw_g (lw_at lw_m7 85 rfl) rfl
theorem q1616 : (Jvm.Cond.laysFinal "LoanNamesModel" "LoanNamesModel" "list" "[I") ∈ lw_all := lw_g (lw_at lw_m7 86 rfl) rfl
theorem q1617 : (Jvm.Cond.soleField "LoanNamesModel" "list") ∈ lw_all := lw_g (lw_at lw_m7 87 rfl) rfl
theorem q1618 : (Jvm.Cond.lays "LoanNamesModel" "LoanNamesModel" "rowLeaf" "I") ∈ lw_all := lw_g (lw_at lw_m7 88 rfl) rfl
theorem q1619 : (Jvm.Cond.soleField "LoanNamesModel" "rowLeaf") ∈ lw_all := lw_g (lw_at lw_m7 89 rfl) rfl
theorem q1620 : (Jvm.Cond.lays "LoanNamesModel" "LoanNamesModel" "rowPart" "I") ∈ lw_all := lw_g (lw_at lw_m7 90 rfl) rfl
theorem q1621 : (Jvm.Cond.soleField "LoanNamesModel" "rowPart") ∈ lw_all := lw_g (lw_at lw_m7 91 rfl) rfl
theorem q1622 : (Jvm.Cond.lays "LoanNamesModel" "LoanNamesModel" "rowTimes" "J") ∈ lw_all := lw_g (lw_at lw_m7 92 rfl) rfl
theorem q1623 : (Jvm.Cond.soleField "LoanNamesModel" "rowTimes") ∈ lw_all := lw_g (lw_at lw_m7 93 rfl) rfl
theorem q1624 : (Jvm.Cond.lays "LoanNamesModel" "LoanNamesModel" "dayCount" "I") ∈ lw_all := lw_g (lw_at lw_m7 94 rfl) rfl
theorem q1625 : (Jvm.Cond.soleField "LoanNamesModel" "dayCount") ∈ lw_all := lw_g (lw_at lw_m7 95 rfl) rfl
theorem q1626 : (Jvm.Cond.laysFinal "LoanNamesModel" "LoanNamesModel" "coinDays" "[I") ∈ lw_all := lw_g (lw_at lw_m7 96 rfl) rfl
theorem q1627 : (Jvm.Cond.soleField "LoanNamesModel" "coinDays") ∈ lw_all := lw_g (lw_at lw_m7 97 rfl) rfl
theorem q1628 : (Jvm.Cond.laysFinal "LoanNamesModel" "LoanNamesModel" "isClean" "[Z") ∈ lw_all := lw_g (lw_at lw_m7 98 rfl) rfl
theorem q1629 : (Jvm.Cond.soleField "LoanNamesModel" "isClean") ∈ lw_all := lw_g (lw_at lw_m7 99 rfl) rfl
theorem q1630 : (Jvm.Cond.laysFinal "LoanNamesModel" "LoanNamesModel" "coinNet" "[J") ∈ lw_all := lw_g (lw_at lw_m7 100 rfl) rfl
theorem q1631 : (Jvm.Cond.soleField "LoanNamesModel" "coinNet") ∈ lw_all := lw_g (lw_at lw_m7 101 rfl) rfl
theorem q1632 : (Jvm.Cond.laysFinal "LoanNamesModel" "LoanNamesModel" "lentTo" "[I") ∈ lw_all := lw_g (lw_at lw_m7 102 rfl) rfl
theorem q1633 : (Jvm.Cond.soleField "LoanNamesModel" "lentTo") ∈ lw_all := lw_g (lw_at lw_m7 103 rfl) rfl
theorem q1634 : (Jvm.Cond.laysFinal "LoanNamesModel" "LoanNamesModel" "lentAll" "[I") ∈ lw_all := lw_g (lw_at lw_m7 104 rfl) rfl
theorem q1635 : (Jvm.Cond.soleField "LoanNamesModel" "lentAll") ∈ lw_all := lw_g (lw_at lw_m7 105 rfl) rfl
theorem q1636 : (Jvm.Cond.lays "LoanNamesModel" "LoanNamesModel" "laws" "I") ∈ lw_all := lw_g (lw_at lw_m7 106 rfl) rfl
theorem q1637 : (Jvm.Cond.soleField "LoanNamesModel" "laws") ∈ lw_all := lw_g (lw_at lw_m7 107 rfl) rfl
theorem q1638 : (Jvm.Cond.lays "LoanNamesModel" "LoanNamesModel" "words" "I") ∈ lw_all := lw_g (lw_at lw_m7 108 rfl) rfl
theorem q1639 : (Jvm.Cond.soleField "LoanNamesModel" "words") ∈ lw_all := lw_g (lw_at lw_m7 109 rfl) rfl
theorem q1640 : (Jvm.Cond.laysFinal "LoanNamesModel" "LoanNamesModel" "lawMany" "[I") ∈ lw_all := lw_g (lw_at lw_m7 110 rfl) rfl
theorem q1641 : (Jvm.Cond.soleField "LoanNamesModel" "lawMany") ∈ lw_all := lw_g (lw_at lw_m7 111 rfl) rfl
theorem q1642 : (Jvm.Cond.laysFinal "LoanNamesModel" "LoanNamesModel" "wordMany" "[I") ∈ lw_all := lw_g (lw_at lw_m7 112 rfl) rfl
theorem q1643 : (Jvm.Cond.soleField "LoanNamesModel" "wordMany") ∈ lw_all := lw_g (lw_at lw_m7 113 rfl) rfl
theorem q1644 : (Jvm.Cond.laysFinal "LoanNamesModel" "LoanNamesModel" "form" "[I") ∈ lw_all := lw_g (lw_at lw_m7 114 rfl) rfl
theorem q1645 : (Jvm.Cond.soleField "LoanNamesModel" "form") ∈ lw_all := lw_g (lw_at lw_m7 115 rfl) rfl
theorem q1646 : (Jvm.Cond.laysFinal "LoanNamesModel" "LoanNamesModel" "ofThing" "[I") ∈ lw_all := lw_g (lw_at lw_m7 116 rfl) rfl
theorem q1647 : (Jvm.Cond.soleField "LoanNamesModel" "ofThing") ∈ lw_all := lw_g (lw_at lw_m7 117 rfl) rfl
theorem q1648 : (Jvm.Cond.laysFinal "LoanNamesModel" "LoanNamesModel" "formThen" "[I") ∈ lw_all := lw_g (lw_at lw_m7 118 rfl) rfl
theorem q1649 : (Jvm.Cond.soleField "LoanNamesModel" "formThen") ∈ lw_all := lw_g (lw_at lw_m7 119 rfl) rfl
theorem q1650 : (Jvm.Cond.laysFinal "LoanNamesModel" "LoanNamesModel" "thingThen" "[I") ∈ lw_all := lw_g (lw_at lw_m7 120 rfl) rfl
theorem q1651 : (Jvm.Cond.soleField "LoanNamesModel" "thingThen") ∈ lw_all := lw_g (lw_at lw_m7 121 rfl) rfl
theorem q1652 : (Jvm.Cond.laysFinal "LoanNamesModel" "LoanNamesModel" "asked" "[I") ∈ lw_all := lw_g (lw_at lw_m7 122 rfl) rfl
theorem q1653 : (Jvm.Cond.soleField "LoanNamesModel" "asked") ∈ lw_all := lw_g (lw_at lw_m7 123 rfl) rfl
theorem q1654 : (Jvm.Cond.laysFinal "LoanNamesModel" "LoanNamesModel" "most" "[I") ∈ lw_all := lw_g (lw_at lw_m7 124 rfl) rfl
theorem q1655 : (Jvm.Cond.soleField "LoanNamesModel" "most") ∈ lw_all := lw_g (lw_at lw_m7 125 rfl) rfl
theorem q1656 : (Jvm.Cond.laysFinal "LoanNamesModel" "LoanNamesModel" "isTwo" "[Z") ∈ lw_all := lw_g (lw_at lw_m7 126 rfl) rfl
theorem q1657 : (Jvm.Cond.soleField "LoanNamesModel" "isTwo") ∈ lw_all := lw_g (lw_at lw_m7 127 rfl) rfl
theorem q1658 : (Jvm.Cond.lays "LoanNamesModel" "LoanNamesModel" "leavesAtHand" "I") ∈ lw_all := lw_g (lw_at lw_m7 128 rfl) rfl
theorem q1659 : (Jvm.Cond.soleField "LoanNamesModel" "leavesAtHand") ∈ lw_all := lw_g (lw_at lw_m7 129 rfl) rfl
theorem q1660 : (Jvm.Cond.lays "LoanNamesModel" "LoanNamesModel" "firstHit" "I") ∈ lw_all := lw_g (lw_at lw_m7 130 rfl) rfl
theorem q1661 : (Jvm.Cond.soleField "LoanNamesModel" "firstHit") ∈ lw_all := lw_g (lw_at lw_m7 131 rfl) rfl
theorem q1662 : (Jvm.Cond.lays "LoanNamesModel" "LoanNamesModel" "secondHit" "I") ∈ lw_all := lw_g (lw_at lw_m7 132 rfl) rfl
theorem q1663 : (Jvm.Cond.soleField "LoanNamesModel" "secondHit") ∈ lw_all := lw_g (lw_at lw_m7 133 rfl) rfl
theorem q1664 : (Jvm.Cond.laysFinal "LoanNamesModel" "LoanNamesModel" "leafNode" "[I") ∈ lw_all := lw_g (lw_at lw_m7 134 rfl) rfl
theorem q1665 : (Jvm.Cond.soleField "LoanNamesModel" "leafNode") ∈ lw_all := lw_g (lw_at lw_m7 135 rfl) rfl
theorem q1666 : (Jvm.Cond.laysFinal "LoanNamesModel" "LoanNamesModel" "leafDay" "[I") ∈ lw_all := lw_g (lw_at lw_m7 136 rfl) rfl
theorem q1667 : (Jvm.Cond.soleField "LoanNamesModel" "leafDay") ∈ lw_all := lw_g (lw_at lw_m7 137 rfl) rfl
theorem q1668 : (Jvm.Cond.lays "LoanNamesModel" "LoanNamesModel" "offered" "I") ∈ lw_all := lw_g (lw_at lw_m7 138 rfl) rfl
theorem q1669 : (Jvm.Cond.soleField "LoanNamesModel" "offered") ∈ lw_all := lw_g (lw_at lw_m7 139 rfl) rfl
theorem q1670 : (Jvm.Cond.lays "LoanNamesModel" "LoanNamesModel" "slyCount" "I") ∈ lw_all := lw_g (lw_at lw_m7 140 rfl) rfl
theorem q1671 : (Jvm.Cond.soleField "LoanNamesModel" "slyCount") ∈ lw_all := lw_g (lw_at lw_m7 141 rfl) rfl
theorem q1672 : (Jvm.Cond.lays "LoanNamesModel" "LoanNamesModel" "slyBits" "I") ∈ lw_all := lw_g (lw_at lw_m7 142 rfl) rfl
theorem q1673 : (Jvm.Cond.soleField "LoanNamesModel" "slyBits") ∈ lw_all := lw_g (lw_at lw_m7 143 rfl) rfl
theorem q1674 : (Jvm.Cond.laysFinal "LoanNamesModel" "LoanNamesModel" "offers" "[I") ∈ lw_all := lw_g (lw_at lw_m7 144 rfl) rfl
theorem q1675 : (Jvm.Cond.soleField "LoanNamesModel" "offers") ∈ lw_all := lw_g (lw_at lw_m7 145 rfl) rfl
theorem q1676 : (Jvm.Cond.laysFinal "LoanNamesModel" "LoanNamesModel" "slyWords" "[I") ∈ lw_all := lw_g (lw_at lw_m7 146 rfl) rfl
theorem q1677 : (Jvm.Cond.soleField "LoanNamesModel" "slyWords") ∈ lw_all := lw_g (lw_at lw_m7 147 rfl) rfl
theorem q1678 : (Jvm.Cond.lays "LoanNamesModel" "LoanNamesModel" "honests" "I") ∈ lw_all := lw_g (lw_at lw_m7 148 rfl) rfl
theorem q1679 : (Jvm.Cond.soleField "LoanNamesModel" "honests") ∈ lw_all := lw_g (lw_at lw_m7 149 rfl) rfl
theorem q1680 : (Jvm.Cond.laysFinal "LoanNamesModel" "LoanNamesModel" "honestMany" "[I") ∈ lw_all := lw_g (lw_at lw_m7 150 rfl) rfl
theorem q1681 : (Jvm.Cond.soleField "LoanNamesModel" "honestMany") ∈ lw_all := lw_g (lw_at lw_m7 151 rfl) rfl
theorem q1682 : (Jvm.Cond.laysFinal "LoanNamesModel" "LoanNamesModel" "honestDeals" "[I") ∈ lw_all := lw_g (lw_at lw_m7 152 rfl) rfl
theorem q1683 : (Jvm.Cond.soleField "LoanNamesModel" "honestDeals") ∈ lw_all := lw_g (lw_at lw_m7 153 rfl) rfl
theorem q1684 : (Jvm.Cond.laysFinal "LoanNamesModel" "LoanNamesModel" "nets" "[J") ∈ lw_all := lw_g (lw_at lw_m7 154 rfl) rfl
theorem q1685 : (Jvm.Cond.soleField "LoanNamesModel" "nets") ∈ lw_all := lw_g (lw_at lw_m7 155 rfl) rfl
theorem q1686 : (Jvm.Cond.laysFinal "LoanNamesModel" "LoanNamesModel" "group" "[I") ∈ lw_all := lw_g (lw_at lw_m7 156 rfl) rfl
theorem q1687 : (Jvm.Cond.soleField "LoanNamesModel" "group") ∈ lw_all := lw_g (lw_at lw_m7 157 rfl) rfl
theorem q1688 : (Jvm.Cond.superclass "LoanNamesModel" "java/lang/Object") ∈ lw_all := lw_g (lw_at lw_m7 158 rfl) rfl
theorem q1690 : (Jvm.Cond.instanceMethod ({ cls := "LoanNamesModel", name := "family", desc := "(II)Z" } : Jvm.MethodName)) ∈ lw_all := lw_g (lw_at lw_m7 160 rfl) rfl
theorem q1691 : (Jvm.Cond.selects "LoanNamesModel" ({ cls := "LoanNamesModel", name := "family", desc := "(II)Z" } : Jvm.MethodName) ({ cls := "LoanNamesModel", name := "family", desc := "(II)Z" } : Jvm.MethodName)) ∈ lw_all := lw_g (lw_at lw_m7 161 rfl) rfl
theorem q1692 : (Jvm.Cond.code ({ cls := "LoanNamesModel", name := "family", desc := "(II)Z" } : Jvm.MethodName) prog_24_method_4_code (3 : Nat) (Option.some Jvm.ClassFile.FieldType.boolean)) ∈ lw_all := lw_g (lw_at lw_m7 162 rfl) rfl
theorem q1693 : (Jvm.Cond.methodLink "LoanNamesModel" (185 : Nat) ({ cls := "LoanNamesModel", name := "within", desc := "(III)Z" } : Jvm.MethodName)) ∈ lw_all := lw_g (lw_at lw_m7 163 rfl) rfl
theorem q1694 : (Jvm.Cond.static ({ cls := "LoanNamesModel", name := "within", desc := "(III)Z" } : Jvm.MethodName)) ∈ lw_all := lw_g (lw_at lw_m7 164 rfl) rfl
theorem q1695 : (Jvm.Cond.code ({ cls := "LoanNamesModel", name := "within", desc := "(III)Z" } : Jvm.MethodName) prog_24_method_3_code (3 : Nat) (Option.some Jvm.ClassFile.FieldType.boolean)) ∈ lw_all := lw_g (lw_at lw_m7 165 rfl) rfl
theorem q1697 : (Jvm.Cond.instanceMethod ({ cls := "LoanNamesModel", name := "feed", desc := "(IIIII)I" } : Jvm.MethodName)) ∈ lw_all := lw_g (lw_at lw_m7 167 rfl) rfl
theorem q1698 : (Jvm.Cond.selects "LoanNamesModel" ({ cls := "LoanNamesModel", name := "feed", desc := "(IIIII)I" } : Jvm.MethodName) ({ cls := "LoanNamesModel", name := "feed", desc := "(IIIII)I" } : Jvm.MethodName)) ∈ lw_all := lw_g (lw_at lw_m7 168 rfl) rfl
theorem q1699 : (Jvm.Cond.code ({ cls := "LoanNamesModel", name := "feed", desc := "(IIIII)I" } : Jvm.MethodName) prog_24_method_5_code (8 : Nat) (Option.some Jvm.ClassFile.FieldType.int)) ∈ lw_all := lw_g (lw_at lw_m7 169 rfl) rfl
theorem q1701 : (Jvm.Cond.instanceMethod ({ cls := "LoanNamesModel", name := "deal", desc := "(II)I" } : Jvm.MethodName)) ∈ lw_all := lw_g (lw_at lw_m7 171 rfl) rfl
theorem q1702 : (Jvm.Cond.selects "LoanNamesModel" ({ cls := "LoanNamesModel", name := "deal", desc := "(II)I" } : Jvm.MethodName) ({ cls := "LoanNamesModel", name := "deal", desc := "(II)I" } : Jvm.MethodName)) ∈ lw_all := lw_g (lw_at lw_m7 172 rfl) rfl
theorem q1703 : (Jvm.Cond.code ({ cls := "LoanNamesModel", name := "deal", desc := "(II)I" } : Jvm.MethodName) prog_24_method_23_code (5 : Nat) (Option.some Jvm.ClassFile.FieldType.int)) ∈ lw_all := lw_g (lw_at lw_m7 173 rfl) rfl
theorem q1704 : (Jvm.Cond.methodLink "LoanNamesModel" (335 : Nat) ({ cls := "LoanNamesModel", name := "beginsText", desc := "(I)V" } : Jvm.MethodName)) ∈ lw_all := lw_g (lw_at lw_m7 174 rfl) rfl
theorem q1705 : (Jvm.Cond.privateMethod ({ cls := "LoanNamesModel", name := "beginsText", desc := "(I)V" } : Jvm.MethodName)) ∈ lw_tbl := lw_at lw_m7 175 rfl
theorem q1706 : (Jvm.Cond.instanceMethod ({ cls := "LoanNamesModel", name := "beginsText", desc := "(I)V" } : Jvm.MethodName)) ∈ lw_all := lw_g (lw_at lw_m7 176 rfl) rfl
theorem q1707 : (Jvm.Cond.code ({ cls := "LoanNamesModel", name := "beginsText", desc := "(I)V" } : Jvm.MethodName) prog_24_method_17_code (2 : Nat) (Option.none : Option Jvm.ClassFile.FieldType)) ∈ lw_all := lw_g (lw_at lw_m7 177 rfl) rfl
theorem q1708 : (Jvm.Cond.methodLink "LoanNamesModel" (228 : Nat) ({ cls := "LoanNamesModel", name := "next", desc := "()V" } : Jvm.MethodName)) ∈ lw_all := lw_g (lw_at lw_m7 178 rfl) rfl
theorem q1709 : (Jvm.Cond.privateMethod ({ cls := "LoanNamesModel", name := "next", desc := "()V" } : Jvm.MethodName)) ∈ lw_tbl := lw_at lw_m7 179 rfl
theorem q1710 : (Jvm.Cond.instanceMethod ({ cls := "LoanNamesModel", name := "next", desc := "()V" } : Jvm.MethodName)) ∈ lw_all := lw_g (lw_at lw_m7 180 rfl) rfl
theorem q1711 : (Jvm.Cond.code ({ cls := "LoanNamesModel", name := "next", desc := "()V" } : Jvm.MethodName) prog_24_method_7_code (2 : Nat) (Option.none : Option Jvm.ClassFile.FieldType)) ∈ lw_all := lw_g (lw_at lw_m7 181 rfl) rfl
theorem q1712 : (Jvm.Cond.methodLink "LoanNamesModel" (198 : Nat) ({ cls := "LoanNamesModel", name := "here", desc := "()I" } : Jvm.MethodName)) ∈ lw_all := lw_g (lw_at lw_m7 182 rfl) rfl
theorem q1713 : (Jvm.Cond.privateMethod ({ cls := "LoanNamesModel", name := "here", desc := "()I" } : Jvm.MethodName)) ∈ lw_tbl := lw_at lw_m7 183 rfl
theorem q1714 : (Jvm.Cond.instanceMethod ({ cls := "LoanNamesModel", name := "here", desc := "()I" } : Jvm.MethodName)) ∈ lw_all := lw_g (lw_at lw_m7 184 rfl) rfl
theorem q1715 : (Jvm.Cond.code ({ cls := "LoanNamesModel", name := "here", desc := "()I" } : Jvm.MethodName) prog_24_method_6_code (1 : Nat) (Option.some Jvm.ClassFile.FieldType.int)) ∈ lw_all := lw_g (lw_at lw_m7 185 rfl) rfl
theorem q1716 : (Jvm.Cond.constantLong "LoanNamesModel" (205 : Nat) (-1 : Int64)) ∈ lw_all := lw_g (lw_at lw_m7 186 rfl) rfl
theorem q1717 : (Jvm.Cond.constantLong "LoanNamesModel" (217 : Nat) (27 : Int64)) ∈ lw_all := lw_g (lw_at lw_m7 187 rfl) rfl
theorem q1718 : (Jvm.Cond.constant "LoanNamesModel" (219 : Nat) (1000000 : Int32)) ∈ lw_all := lw_g (lw_at lw_m7 188 rfl) rfl
theorem q1719 : (Jvm.Cond.methodLink "LoanNamesModel" (339 : Nat) ({ cls := "LoanNamesModel", name := "kindHere", desc := "()I" } : Jvm.MethodName)) ∈ lw_all := lw_g (lw_at lw_m7 189 rfl) rfl
theorem q1720 : (Jvm.Cond.privateMethod ({ cls := "LoanNamesModel", name := "kindHere", desc := "()I" } : Jvm.MethodName)) ∈ lw_tbl := lw_at lw_m7 190 rfl
theorem q1721 : (Jvm.Cond.instanceMethod ({ cls := "LoanNamesModel", name := "kindHere", desc := "()I" } : Jvm.MethodName)) ∈ lw_all := lw_g (lw_at lw_m7 191 rfl) rfl
theorem q1722 : (Jvm.Cond.code ({ cls := "LoanNamesModel", name := "kindHere", desc := "()I" } : Jvm.MethodName) prog_24_method_14_code (1 : Nat) (Option.some Jvm.ClassFile.FieldType.int)) ∈ lw_all := lw_g (lw_at lw_m7 192 rfl) rfl
theorem q1723 : (Jvm.Cond.constantLong "LoanNamesModel" (256 : Nat) (316189 : Int64)) ∈ lw_all := lw_g (lw_at lw_m7 193 rfl) rfl
theorem q1724 : (Jvm.Cond.constantLong "LoanNamesModel" (258 : Nat) (144524 : Int64)) ∈ lw_all := lw_g (lw_at lw_m7 194 rfl) rfl
theorem q1725 : (Jvm.Cond.constantLong "LoanNamesModel" (260 : Nat) (375035 : Int64)) ∈ lw_all := lw_g (lw_at lw_m7 195 rfl) rfl
theorem q1726 : (Jvm.Cond.constantLong "LoanNamesModel" (262 : Nat) (164516 : Int64)) ∈ lw_all := lw_g (lw_at lw_m7 196 rfl) rfl
theorem q1727 : (Jvm.Cond.constantLong "LoanNamesModel" (264 : Nat) (664272 : Int64)) ∈ lw_all := lw_g (lw_at lw_m7 197 rfl) rfl
theorem q1728 : (Jvm.Cond.constantLong "LoanNamesModel" (266 : Nat) (10815598 : Int64)) ∈ lw_all := lw_g (lw_at lw_m7 198 rfl) rfl
theorem q1729 : (Jvm.Cond.constantLong "LoanNamesModel" (268 : Nat) (249 : Int64)) ∈ lw_all := lw_g (lw_at lw_m7 199 rfl) rfl
theorem q1730 : (Jvm.Cond.constantLong "LoanNamesModel" (270 : Nat) (47600141 : Int64)) ∈ lw_all := lw_g (lw_at lw_m7 200 rfl) rfl
theorem q1731 : (Jvm.Cond.methodLink "LoanNamesModel" (231 : Nat) ({ cls := "LoanNamesModel", name := "errs", desc := "()V" } : Jvm.MethodName)) ∈ lw_all := lw_g (lw_at lw_m7 201 rfl) rfl
theorem q1732 : (Jvm.Cond.privateMethod ({ cls := "LoanNamesModel", name := "errs", desc := "()V" } : Jvm.MethodName)) ∈ lw_tbl := lw_at lw_m7 202 rfl
theorem q1733 : (Jvm.Cond.instanceMethod ({ cls := "LoanNamesModel", name := "errs", desc := "()V" } : Jvm.MethodName)) ∈ lw_all := lw_g (lw_at lw_m7 203 rfl) rfl
theorem q1734 : (Jvm.Cond.code ({ cls := "LoanNamesModel", name := "errs", desc := "()V" } : Jvm.MethodName) prog_24_method_8_code (1 : Nat) (Option.none : Option Jvm.ClassFile.FieldType)) ∈ lw_all := lw_g (lw_at lw_m7 204 rfl) rfl
theorem q1735 : (Jvm.Cond.methodLink "LoanNamesModel" (342 : Nat) ({ cls := "LoanNamesModel", name := "readLeaf", desc := "(I)V" } : Jvm.MethodName)) ∈ lw_all := lw_g (lw_at lw_m7 205 rfl) rfl
theorem q1736 : (Jvm.Cond.privateMethod ({ cls := "LoanNamesModel", name := "readLeaf", desc := "(I)V" } : Jvm.MethodName)) ∈ lw_tbl := lw_at lw_m7 206 rfl
theorem q1737 : (Jvm.Cond.instanceMethod ({ cls := "LoanNamesModel", name := "readLeaf", desc := "(I)V" } : Jvm.MethodName)) ∈ lw_all := lw_g (lw_at lw_m7 207 rfl) rfl
theorem q1738 : (Jvm.Cond.code ({ cls := "LoanNamesModel", name := "readLeaf", desc := "(I)V" } : Jvm.MethodName) prog_24_method_19_code (3 : Nat) (Option.none : Option Jvm.ClassFile.FieldType)) ∈ lw_all := lw_g (lw_at lw_m7 208 rfl) rfl
theorem q1739 : (Jvm.Cond.methodLink "LoanNamesModel" (289 : Nat) ({ cls := "LoanNamesModel", name := "newNode", desc := "(I)I" } : Jvm.MethodName)) ∈ lw_all := lw_g (lw_at lw_m7 209 rfl) rfl
theorem q1740 : (Jvm.Cond.privateMethod ({ cls := "LoanNamesModel", name := "newNode", desc := "(I)I" } : Jvm.MethodName)) ∈ lw_tbl := lw_at lw_m7 210 rfl
theorem q1741 : (Jvm.Cond.instanceMethod ({ cls := "LoanNamesModel", name := "newNode", desc := "(I)I" } : Jvm.MethodName)) ∈ lw_all := lw_g (lw_at lw_m7 211 rfl) rfl
theorem q1742 : (Jvm.Cond.code ({ cls := "LoanNamesModel", name := "newNode", desc := "(I)I" } : Jvm.MethodName) prog_24_method_18_code (3 : Nat) (Option.some Jvm.ClassFile.FieldType.int)) ∈ lw_all := lw_g (lw_at lw_m7 212 rfl) rfl
theorem q1743 : (Jvm.Cond.methodLink "LoanNamesModel" (293 : Nat) ({ cls := "LoanNamesModel", name := "hand", desc := "(I)I" } : Jvm.MethodName)) ∈ lw_all := lw_g (lw_at lw_m7 213 rfl) rfl
theorem q1744 : (Jvm.Cond.privateMethod ({ cls := "LoanNamesModel", name := "hand", desc := "(I)I" } : Jvm.MethodName)) ∈ lw_tbl := lw_at lw_m7 214 rfl
theorem q1745 : (Jvm.Cond.instanceMethod ({ cls := "LoanNamesModel", name := "hand", desc := "(I)I" } : Jvm.MethodName)) ∈ lw_all := lw_g (lw_at lw_m7 215 rfl) rfl
theorem q1746 : (Jvm.Cond.code ({ cls := "LoanNamesModel", name := "hand", desc := "(I)I" } : Jvm.MethodName) prog_24_method_15_code (3 : Nat) (Option.some Jvm.ClassFile.FieldType.int)) ∈ lw_all := lw_g (lw_at lw_m7 216 rfl) rfl
theorem q1747 : (Jvm.Cond.constantLong "LoanNamesModel" (272 : Nat) (8 : Int64)) ∈ lw_all := lw_g (lw_at lw_m7 217 rfl) rfl
theorem q1748 : (Jvm.Cond.methodLink "LoanNamesModel" (296 : Nat) ({ cls := "LoanNamesModel", name := "thingOf", desc := "()I" } : Jvm.MethodName)) ∈ lw_all := lw_g (lw_at lw_m7 218 rfl) rfl
theorem q1749 : (Jvm.Cond.privateMethod ({ cls := "LoanNamesModel", name := "thingOf", desc := "()I" } : Jvm.MethodName)) ∈ lw_tbl := lw_at lw_m7 219 rfl
theorem q1750 : (Jvm.Cond.instanceMethod ({ cls := "LoanNamesModel", name := "thingOf", desc := "()I" } : Jvm.MethodName)) ∈ lw_all := lw_g (lw_at lw_m7 220 rfl) rfl
theorem q1751 : (Jvm.Cond.code ({ cls := "LoanNamesModel", name := "thingOf", desc := "()I" } : Jvm.MethodName) prog_24_method_16_code (2 : Nat) (Option.some Jvm.ClassFile.FieldType.int)) ∈ lw_all := lw_g (lw_at lw_m7 221 rfl) rfl
theorem q1752 : (Jvm.Cond.methodLink "LoanNamesModel" (274 : Nat) ({ cls := "LoanNamesModel", name := "thingHere", desc := "()I" } : Jvm.MethodName)) ∈ lw_all := lw_g (lw_at lw_m7 222 rfl) rfl
theorem q1753 : (Jvm.Cond.privateMethod ({ cls := "LoanNamesModel", name := "thingHere", desc := "()I" } : Jvm.MethodName)) ∈ lw_tbl := lw_at lw_m7 223 rfl
theorem q1754 : (Jvm.Cond.instanceMethod ({ cls := "LoanNamesModel", name := "thingHere", desc := "()I" } : Jvm.MethodName)) ∈ lw_all := lw_g (lw_at lw_m7 224 rfl) rfl
theorem q1755 : (Jvm.Cond.code ({ cls := "LoanNamesModel", name := "thingHere", desc := "()I" } : Jvm.MethodName) prog_24_method_12_code (1 : Nat) (Option.some Jvm.ClassFile.FieldType.int)) ∈ lw_all := lw_g (lw_at lw_m7 225 rfl) rfl
theorem q1756 : (Jvm.Cond.constantLong "LoanNamesModel" (234 : Nat) (70241 : Int64)) ∈ lw_all := lw_g (lw_at lw_m7 226 rfl) rfl
theorem q1757 : (Jvm.Cond.constantLong "LoanNamesModel" (236 : Nat) (271517 : Int64)) ∈ lw_all := lw_g (lw_at lw_m7 227 rfl) rfl
theorem q1758 : (Jvm.Cond.constantLong "LoanNamesModel" (238 : Nat) (1842002 : Int64)) ∈ lw_all := lw_g (lw_at lw_m7 228 rfl) rfl
theorem q1759 : (Jvm.Cond.constantLong "LoanNamesModel" (240 : Nat) (4562600 : Int64)) ∈ lw_all := lw_g (lw_at lw_m7 229 rfl) rfl
theorem q1760 : (Jvm.Cond.constantLong "LoanNamesModel" (242 : Nat) (464141 : Int64)) ∈ lw_all := lw_g (lw_at lw_m7 230 rfl) rfl
theorem q1761 : (Jvm.Cond.constantLong "LoanNamesModel" (244 : Nat) (4075367 : Int64)) ∈ lw_all := lw_g (lw_at lw_m7 231 rfl) rfl
theorem q1762 : (Jvm.Cond.methodLink "LoanNamesModel" (299 : Nat) ({ cls := "LoanNamesModel", name := "numeral", desc := "(II)I" } : Jvm.MethodName)) ∈ lw_all := lw_g (lw_at lw_m7 232 rfl) rfl
theorem q1763 : (Jvm.Cond.privateMethod ({ cls := "LoanNamesModel", name := "numeral", desc := "(II)I" } : Jvm.MethodName)) ∈ lw_tbl := lw_at lw_m7 233 rfl
theorem q1764 : (Jvm.Cond.instanceMethod ({ cls := "LoanNamesModel", name := "numeral", desc := "(II)I" } : Jvm.MethodName)) ∈ lw_all := lw_g (lw_at lw_m7 234 rfl) rfl
theorem q1765 : (Jvm.Cond.code ({ cls := "LoanNamesModel", name := "numeral", desc := "(II)I" } : Jvm.MethodName) prog_24_method_11_code (4 : Nat) (Option.some Jvm.ClassFile.FieldType.int)) ∈ lw_all := lw_g (lw_at lw_m7 235 rfl) rfl
theorem q1766 : (Jvm.Cond.constantLong "LoanNamesModel" (303 : Nat) (4797 : Int64)) ∈ lw_all := lw_g (lw_at lw_m7 236 rfl) rfl
theorem q1767 : (Jvm.Cond.methodLink "LoanNamesModel" (305 : Nat) ({ cls := "LoanNamesModel", name := "mustBe", desc := "(J)V" } : Jvm.MethodName)) ∈ lw_all := lw_g (lw_at lw_m7 237 rfl) rfl
theorem q1768 : (Jvm.Cond.privateMethod ({ cls := "LoanNamesModel", name := "mustBe", desc := "(J)V" } : Jvm.MethodName)) ∈ lw_tbl := lw_at lw_m7 238 rfl
theorem q1769 : (Jvm.Cond.instanceMethod ({ cls := "LoanNamesModel", name := "mustBe", desc := "(J)V" } : Jvm.MethodName)) ∈ lw_all := lw_g (lw_at lw_m7 239 rfl) rfl
theorem q1770 : (Jvm.Cond.code ({ cls := "LoanNamesModel", name := "mustBe", desc := "(J)V" } : Jvm.MethodName) prog_24_method_10_code (3 : Nat) (Option.none : Option Jvm.ClassFile.FieldType)) ∈ lw_all := lw_g (lw_at lw_m8 0 rfl) rfl
theorem q1771 : (Jvm.Cond.methodLink "LoanNamesModel" (224 : Nat) ({ cls := "LoanNamesModel", name := "is", desc := "(J)Z" } : Jvm.MethodName)) ∈ lw_all := lw_g (lw_at lw_m8 1 rfl) rfl
theorem q1772 : (Jvm.Cond.privateMethod ({ cls := "LoanNamesModel", name := "is", desc := "(J)Z" } : Jvm.MethodName)) ∈ lw_tbl := lw_at lw_m8 2 rfl
theorem q1773 : (Jvm.Cond.instanceMethod ({ cls := "LoanNamesModel", name := "is", desc := "(J)Z" } : Jvm.MethodName)) ∈ lw_all := lw_g (lw_at lw_m8 3 rfl) rfl
theorem q1774 : (Jvm.Cond.code ({ cls := "LoanNamesModel", name := "is", desc := "(J)Z" } : Jvm.MethodName) prog_24_method_9_code (3 : Nat) (Option.some Jvm.ClassFile.FieldType.boolean)) ∈ lw_all := lw_g (lw_at lw_m8 4 rfl) rfl
theorem q1775 : (Jvm.Cond.constantLong "LoanNamesModel" (309 : Nat) (47 : Int64)) ∈ lw_all := lw_g (lw_at lw_m8 5 rfl) rfl
theorem q1776 : (Jvm.Cond.constantLong "LoanNamesModel" (311 : Nat) (315904 : Int64)) ∈ lw_all := lw_g (lw_at lw_m8 6 rfl) rfl
theorem q1777 : (Jvm.Cond.constantLong "LoanNamesModel" (313 : Nat) (40187 : Int64)) ∈ lw_all := lw_g (lw_at lw_m8 7 rfl) rfl
theorem q1778 : (Jvm.Cond.methodLink "LoanNamesModel" (345 : Nat) ({ cls := "LoanNamesModel", name := "closes", desc := "()Z" } : Jvm.MethodName)) ∈ lw_all := lw_g (lw_at lw_m8 8 rfl) rfl
theorem q1779 : (Jvm.Cond.privateMethod ({ cls := "LoanNamesModel", name := "closes", desc := "()Z" } : Jvm.MethodName)) ∈ lw_tbl := lw_at lw_m8 9 rfl
theorem q1780 : (Jvm.Cond.instanceMethod ({ cls := "LoanNamesModel", name := "closes", desc := "()Z" } : Jvm.MethodName)) ∈ lw_all := lw_g (lw_at lw_m8 10 rfl) rfl
theorem q1781 : (Jvm.Cond.code ({ cls := "LoanNamesModel", name := "closes", desc := "()Z" } : Jvm.MethodName) prog_24_method_22_code (3 : Nat) (Option.some Jvm.ClassFile.FieldType.boolean)) ∈ lw_all := lw_g (lw_at lw_m8 11 rfl) rfl
theorem q1782 : (Jvm.Cond.constantLong "LoanNamesModel" (328 : Nat) (107681 : Int64)) ∈ lw_all := lw_g (lw_at lw_m8 12 rfl) rfl
theorem q1783 : (Jvm.Cond.constantLong "LoanNamesModel" (330 : Nat) (423 : Int64)) ∈ lw_all := lw_g (lw_at lw_m8 13 rfl) rfl
theorem q1784 : (Jvm.Cond.methodLink "LoanNamesModel" (324 : Nat) ({ cls := "LoanNamesModel", name := "opens", desc := "(II)V" } : Jvm.MethodName)) ∈ lw_all := lw_g (lw_at lw_m8 14 rfl) rfl
theorem q1785 : (Jvm.Cond.privateMethod ({ cls := "LoanNamesModel", name := "opens", desc := "(II)V" } : Jvm.MethodName)) ∈ lw_tbl := lw_at lw_m8 15 rfl
theorem q1786 : (Jvm.Cond.instanceMethod ({ cls := "LoanNamesModel", name := "opens", desc := "(II)V" } : Jvm.MethodName)) ∈ lw_all := lw_g (lw_at lw_m8 16 rfl) rfl
theorem q1787 : (Jvm.Cond.code ({ cls := "LoanNamesModel", name := "opens", desc := "(II)V" } : Jvm.MethodName) prog_24_method_20_code (3 : Nat) (Option.none : Option Jvm.ClassFile.FieldType)) ∈ lw_all := lw_g (lw_at lw_m8 17 rfl) rfl
theorem q1788 : (Jvm.Cond.methodLink "LoanNamesModel" (349 : Nat) ({ cls := "LoanNamesModel", name := "readGroup", desc := "(I)V" } : Jvm.MethodName)) ∈ lw_all := lw_g (lw_at lw_m8 18 rfl) rfl
theorem q1789 : (Jvm.Cond.privateMethod ({ cls := "LoanNamesModel", name := "readGroup", desc := "(I)V" } : Jvm.MethodName)) ∈ lw_tbl := lw_at lw_m8 19 rfl
theorem q1790 : (Jvm.Cond.instanceMethod ({ cls := "LoanNamesModel", name := "readGroup", desc := "(I)V" } : Jvm.MethodName)) ∈ lw_all := lw_g (lw_at lw_m8 20 rfl) rfl
theorem q1791 : (Jvm.Cond.code ({ cls := "LoanNamesModel", name := "readGroup", desc := "(I)V" } : Jvm.MethodName) prog_24_method_21_code (3 : Nat) (Option.none : Option Jvm.ClassFile.FieldType)) ∈ lw_all := lw_g (lw_at lw_m8 21 rfl) rfl
theorem q1792 : (Jvm.Cond.methodLink "LoanNamesModel" (318 : Nat) ({ cls := "LoanNamesModel", name := "eventHere", desc := "()I" } : Jvm.MethodName)) ∈ lw_all := lw_g (lw_at lw_m8 22 rfl) rfl
theorem q1793 : (Jvm.Cond.privateMethod ({ cls := "LoanNamesModel", name := "eventHere", desc := "()I" } : Jvm.MethodName)) ∈ lw_tbl := lw_at lw_m8 23 rfl
theorem q1794 : (Jvm.Cond.instanceMethod ({ cls := "LoanNamesModel", name := "eventHere", desc := "()I" } : Jvm.MethodName)) ∈ lw_all := lw_g (lw_at lw_m8 24 rfl) rfl
theorem q1795 : (Jvm.Cond.code ({ cls := "LoanNamesModel", name := "eventHere", desc := "()I" } : Jvm.MethodName) prog_24_method_13_code (1 : Nat) (Option.some Jvm.ClassFile.FieldType.int)) ∈ lw_all := lw_g (lw_at lw_m8 25 rfl) rfl
theorem q1796 : (Jvm.Cond.constantLong "LoanNamesModel" (246 : Nat) (85447 : Int64)) ∈ lw_all := lw_g (lw_at lw_m8 26 rfl) rfl
theorem q1797 : (Jvm.Cond.constantLong "LoanNamesModel" (248 : Nat) (355280 : Int64)) ∈ lw_all := lw_g (lw_at lw_m8 27 rfl) rfl
theorem q1798 : (Jvm.Cond.constantLong "LoanNamesModel" (250 : Nat) (16812 : Int64)) ∈ lw_all := lw_g (lw_at lw_m8 28 rfl) rfl
theorem q1799 : (Jvm.Cond.constantLong "LoanNamesModel" (252 : Nat) (82422 : Int64)) ∈ lw_all := lw_g (lw_at lw_m8 29 rfl) rfl
theorem q1800 : (Jvm.Cond.constantLong "LoanNamesModel" (254 : Nat) (3436186 : Int64)) ∈ lw_all := lw_g (lw_at lw_m8 30 rfl) rfl
theorem q1802 : (Jvm.Cond.instanceMethod ({ cls := "LoanNamesModel", name := "fault", desc := "()I" } : Jvm.MethodName)) ∈ lw_all := lw_g (lw_at lw_m8 32 rfl) rfl
theorem q1803 : (Jvm.Cond.selects "LoanNamesModel" ({ cls := "LoanNamesModel", name := "fault", desc := "()I" } : Jvm.MethodName) ({ cls := "LoanNamesModel", name := "fault", desc := "()I" } : Jvm.MethodName)) ∈ lw_all := lw_g (lw_at lw_m8 33 rfl) rfl
theorem q1804 : (Jvm.Cond.code ({ cls := "LoanNamesModel", name := "fault", desc := "()I" } : Jvm.MethodName) prog_24_method_24_code (1 : Nat) (Option.some Jvm.ClassFile.FieldType.int)) ∈ lw_all := lw_g (lw_at lw_m8 34 rfl) rfl
theorem q1806 : (Jvm.Cond.instanceMethod ({ cls := "LoanNamesModel", name := "size", desc := "(II)I" } : Jvm.MethodName)) ∈ lw_all := lw_g (lw_at lw_m8 36 rfl) rfl
theorem q1807 : (Jvm.Cond.selects "LoanNamesModel" ({ cls := "LoanNamesModel", name := "size", desc := "(II)I" } : Jvm.MethodName) ({ cls := "LoanNamesModel", name := "size", desc := "(II)I" } : Jvm.MethodName)) ∈ lw_all := lw_g (lw_at lw_m8 37 rfl) rfl
theorem q1808 : (Jvm.Cond.code ({ cls := "LoanNamesModel", name := "size", desc := "(II)I" } : Jvm.MethodName) prog_24_method_28_code (5 : Nat) (Option.some Jvm.ClassFile.FieldType.int)) ∈ lw_all := lw_g (lw_at lw_m8 38 rfl) rfl
theorem q1809 : (Jvm.Cond.methodLink "LoanNamesModel" (352 : Nat) ({ cls := "LoanNamesModel", name := "isDeal", desc := "(I)Z" } : Jvm.MethodName)) ∈ lw_all := lw_g (lw_at lw_m8 39 rfl) rfl
theorem q1810 : (Jvm.Cond.privateMethod ({ cls := "LoanNamesModel", name := "isDeal", desc := "(I)Z" } : Jvm.MethodName)) ∈ lw_tbl := lw_at lw_m8 40 rfl
theorem q1811 : (Jvm.Cond.instanceMethod ({ cls := "LoanNamesModel", name := "isDeal", desc := "(I)Z" } : Jvm.MethodName)) ∈ lw_all := lw_g (lw_at lw_m8 41 rfl) rfl
theorem q1812 : (Jvm.Cond.code ({ cls := "LoanNamesModel", name := "isDeal", desc := "(I)Z" } : Jvm.MethodName) prog_24_method_25_code (2 : Nat) (Option.some Jvm.ClassFile.FieldType.boolean)) ∈ lw_all := lw_g (lw_at lw_m8 42 rfl) rfl
theorem q1813 : (Jvm.Cond.methodLink "LoanNamesModel" (356 : Nat) ({ cls := "LoanNamesModel", name := "isLeaf", desc := "(I)Z" } : Jvm.MethodName)) ∈ lw_all := lw_g (lw_at lw_m8 43 rfl) rfl
theorem q1814 : (Jvm.Cond.privateMethod ({ cls := "LoanNamesModel", name := "isLeaf", desc := "(I)Z" } : Jvm.MethodName)) ∈ lw_tbl := lw_at lw_m8 44 rfl
theorem q1815 : (Jvm.Cond.instanceMethod ({ cls := "LoanNamesModel", name := "isLeaf", desc := "(I)Z" } : Jvm.MethodName)) ∈ lw_all := lw_g (lw_at lw_m8 45 rfl) rfl
theorem q1816 : (Jvm.Cond.code ({ cls := "LoanNamesModel", name := "isLeaf", desc := "(I)Z" } : Jvm.MethodName) prog_24_method_26_code (2 : Nat) (Option.some Jvm.ClassFile.FieldType.boolean)) ∈ lw_all := lw_g (lw_at lw_m8 46 rfl) rfl
theorem q1818 : (Jvm.Cond.instanceMethod ({ cls := "LoanNamesModel", name := "leaf", desc := "(III)I" } : Jvm.MethodName)) ∈ lw_all := lw_g (lw_at lw_m8 48 rfl) rfl
theorem q1819 : (Jvm.Cond.selects "LoanNamesModel" ({ cls := "LoanNamesModel", name := "leaf", desc := "(III)I" } : Jvm.MethodName) ({ cls := "LoanNamesModel", name := "leaf", desc := "(III)I" } : Jvm.MethodName)) ∈ lw_all := lw_g (lw_at lw_m8 49 rfl) rfl
theorem q1820 : (Jvm.Cond.code ({ cls := "LoanNamesModel", name := "leaf", desc := "(III)I" } : Jvm.MethodName) prog_24_method_29_code (6 : Nat) (Option.some Jvm.ClassFile.FieldType.int)) ∈ lw_all := lw_g (lw_at lw_m8 50 rfl) rfl
theorem q1821 : (Jvm.Cond.methodLink "LoanNamesModel" (359 : Nat) ({ cls := "LoanNamesModel", name := "told", desc := "(II)I" } : Jvm.MethodName)) ∈ lw_all := lw_g (lw_at lw_m8 51 rfl) rfl
theorem q1822 : (Jvm.Cond.privateMethod ({ cls := "LoanNamesModel", name := "told", desc := "(II)I" } : Jvm.MethodName)) ∈ lw_tbl := lw_at lw_m8 52 rfl
theorem q1823 : (Jvm.Cond.instanceMethod ({ cls := "LoanNamesModel", name := "told", desc := "(II)I" } : Jvm.MethodName)) ∈ lw_all := lw_g (lw_at lw_m8 53 rfl) rfl
theorem q1824 : (Jvm.Cond.code ({ cls := "LoanNamesModel", name := "told", desc := "(II)I" } : Jvm.MethodName) prog_24_method_30_code (3 : Nat) (Option.some Jvm.ClassFile.FieldType.int)) ∈ lw_all := lw_g (lw_at lw_m8 54 rfl) rfl
theorem q1825 : (Jvm.Cond.methodLink "LoanNamesModel" (362 : Nat) ({ cls := "LoanNamesModel", name := "later", desc := "(I)I" } : Jvm.MethodName)) ∈ lw_all := lw_g (lw_at lw_m8 55 rfl) rfl
theorem q1826 : (Jvm.Cond.privateMethod ({ cls := "LoanNamesModel", name := "later", desc := "(I)I" } : Jvm.MethodName)) ∈ lw_tbl := lw_at lw_m8 56 rfl
theorem q1827 : (Jvm.Cond.instanceMethod ({ cls := "LoanNamesModel", name := "later", desc := "(I)I" } : Jvm.MethodName)) ∈ lw_all := lw_g (lw_at lw_m8 57 rfl) rfl
theorem q1828 : (Jvm.Cond.code ({ cls := "LoanNamesModel", name := "later", desc := "(I)I" } : Jvm.MethodName) prog_24_method_27_code (4 : Nat) (Option.some Jvm.ClassFile.FieldType.int)) ∈ lw_all := lw_g (lw_at lw_m8 58 rfl) rfl
theorem q1830 : (Jvm.Cond.instanceMethod ({ cls := "LoanNamesModel", name := "plain", desc := "(II)I" } : Jvm.MethodName)) ∈ lw_all := lw_g (lw_at lw_m8 60 rfl) rfl
theorem q1831 : (Jvm.Cond.selects "LoanNamesModel" ({ cls := "LoanNamesModel", name := "plain", desc := "(II)I" } : Jvm.MethodName) ({ cls := "LoanNamesModel", name := "plain", desc := "(II)I" } : Jvm.MethodName)) ∈ lw_all := lw_g (lw_at lw_m8 61 rfl) rfl
theorem q1832 : (Jvm.Cond.code ({ cls := "LoanNamesModel", name := "plain", desc := "(II)I" } : Jvm.MethodName) prog_24_method_40_code (6 : Nat) (Option.some Jvm.ClassFile.FieldType.int)) ∈ lw_all := lw_g (lw_at lw_m8 62 rfl) rfl
theorem q1833 : (Jvm.Cond.methodLink "LoanNamesModel" (401 : Nat) ({ cls := "LoanNamesModel", name := "simplifies", desc := "(II)V" } : Jvm.MethodName)) ∈ lw_all := lw_g (lw_at lw_m8 63 rfl) rfl
theorem q1834 : (Jvm.Cond.privateMethod ({ cls := "LoanNamesModel", name := "simplifies", desc := "(II)V" } : Jvm.MethodName)) ∈ lw_tbl := lw_at lw_m8 64 rfl
theorem q1835 : (Jvm.Cond.instanceMethod ({ cls := "LoanNamesModel", name := "simplifies", desc := "(II)V" } : Jvm.MethodName)) ∈ lw_all := lw_g (lw_at lw_m8 65 rfl) rfl
theorem q1836 : (Jvm.Cond.code ({ cls := "LoanNamesModel", name := "simplifies", desc := "(II)V" } : Jvm.MethodName) prog_24_method_39_code (7 : Nat) (Option.none : Option Jvm.ClassFile.FieldType)) ∈ lw_all := lw_g (lw_at lw_m8 66 rfl) rfl
theorem q1837 : (Jvm.Cond.methodLink "LoanNamesModel" (391 : Nat) ({ cls := "LoanNamesModel", name := "partsLeft", desc := "(III)I" } : Jvm.MethodName)) ∈ lw_all := lw_g (lw_at lw_m8 67 rfl) rfl
theorem q1838 : (Jvm.Cond.privateMethod ({ cls := "LoanNamesModel", name := "partsLeft", desc := "(III)I" } : Jvm.MethodName)) ∈ lw_tbl := lw_at lw_m8 68 rfl
theorem q1839 : (Jvm.Cond.instanceMethod ({ cls := "LoanNamesModel", name := "partsLeft", desc := "(III)I" } : Jvm.MethodName)) ∈ lw_all := lw_g (lw_at lw_m8 69 rfl) rfl
theorem q1840 : (Jvm.Cond.code ({ cls := "LoanNamesModel", name := "partsLeft", desc := "(III)I" } : Jvm.MethodName) prog_24_method_33_code (6 : Nat) (Option.some Jvm.ClassFile.FieldType.int)) ∈ lw_all := lw_g (lw_at lw_m8 70 rfl) rfl
theorem q1841 : (Jvm.Cond.methodLink "LoanNamesModel" (397 : Nat) ({ cls := "LoanNamesModel", name := "areAlike", desc := "(II)Z" } : Jvm.MethodName)) ∈ lw_all := lw_g (lw_at lw_m8 71 rfl) rfl
theorem q1842 : (Jvm.Cond.privateMethod ({ cls := "LoanNamesModel", name := "areAlike", desc := "(II)Z" } : Jvm.MethodName)) ∈ lw_tbl := lw_at lw_m8 72 rfl
theorem q1843 : (Jvm.Cond.instanceMethod ({ cls := "LoanNamesModel", name := "areAlike", desc := "(II)Z" } : Jvm.MethodName)) ∈ lw_all := lw_g (lw_at lw_m8 73 rfl) rfl
theorem q1844 : (Jvm.Cond.code ({ cls := "LoanNamesModel", name := "areAlike", desc := "(II)Z" } : Jvm.MethodName) prog_24_method_38_code (6 : Nat) (Option.some Jvm.ClassFile.FieldType.boolean)) ∈ lw_all := lw_g (lw_at lw_m8 74 rfl) rfl
theorem q1845 : (Jvm.Cond.methodLink "LoanNamesModel" (387 : Nat) ({ cls := "LoanNamesModel", name := "laysOut", desc := "(IIII)I" } : Jvm.MethodName)) ∈ lw_all := lw_g (lw_at lw_m8 75 rfl) rfl
theorem q1846 : (Jvm.Cond.privateMethod ({ cls := "LoanNamesModel", name := "laysOut", desc := "(IIII)I" } : Jvm.MethodName)) ∈ lw_tbl := lw_at lw_m8 76 rfl
theorem q1847 : (Jvm.Cond.instanceMethod ({ cls := "LoanNamesModel", name := "laysOut", desc := "(IIII)I" } : Jvm.MethodName)) ∈ lw_all := lw_g (lw_at lw_m8 77 rfl) rfl
theorem q1848 : (Jvm.Cond.code ({ cls := "LoanNamesModel", name := "laysOut", desc := "(IIII)I" } : Jvm.MethodName) prog_24_method_37_code (7 : Nat) (Option.some Jvm.ClassFile.FieldType.int)) ∈ lw_all := lw_g (lw_at lw_m8 78 rfl) rfl
theorem q1849 : (Jvm.Cond.methodLink "LoanNamesModel" (380 : Nat) ({ cls := "LoanNamesModel", name := "closesUp", desc := "(II)V" } : Jvm.MethodName)) ∈ lw_all := lw_g (lw_at lw_m8 79 rfl) rfl
theorem q1850 : (Jvm.Cond.privateMethod ({ cls := "LoanNamesModel", name := "closesUp", desc := "(II)V" } : Jvm.MethodName)) ∈ lw_tbl := lw_at lw_m8 80 rfl
theorem q1851 : (Jvm.Cond.instanceMethod ({ cls := "LoanNamesModel", name := "closesUp", desc := "(II)V" } : Jvm.MethodName)) ∈ lw_all := lw_g (lw_at lw_m8 81 rfl) rfl
theorem q1852 : (Jvm.Cond.code ({ cls := "LoanNamesModel", name := "closesUp", desc := "(II)V" } : Jvm.MethodName) prog_24_method_36_code (3 : Nat) (Option.none : Option Jvm.ClassFile.FieldType)) ∈ lw_all := lw_g (lw_at lw_m8 82 rfl) rfl
theorem q1853 : (Jvm.Cond.methodLink "LoanNamesModel" (377 : Nat) ({ cls := "LoanNamesModel", name := "sign", desc := "(II)V" } : Jvm.MethodName)) ∈ lw_all := lw_g (lw_at lw_m8 83 rfl) rfl
theorem q1854 : (Jvm.Cond.privateMethod ({ cls := "LoanNamesModel", name := "sign", desc := "(II)V" } : Jvm.MethodName)) ∈ lw_tbl := lw_at lw_m8 84 rfl
theorem q1855 : (Jvm.Cond.instanceMethod ({ cls := "LoanNamesModel", name := "sign", desc := "(II)V" } : Jvm.MethodName)) ∈ lw_all := lw_g (lw_at lw_m8 85 rfl) rfl
theorem q1856 : (Jvm.Cond.code ({ cls := "LoanNamesModel", name := "sign", desc := "(II)V" } : Jvm.MethodName) prog_24_method_34_code (3 : Nat) (Option.none : Option Jvm.ClassFile.FieldType)) ∈ lw_all := lw_g (lw_at lw_m8 86 rfl) rfl
theorem q1857 : (Jvm.Cond.methodLink "LoanNamesModel" (383 : Nat) ({ cls := "LoanNamesModel", name := "partLeft", desc := "(III)I" } : Jvm.MethodName)) ∈ lw_all := lw_g (lw_at lw_m8 87 rfl) rfl
theorem q1858 : (Jvm.Cond.privateMethod ({ cls := "LoanNamesModel", name := "partLeft", desc := "(III)I" } : Jvm.MethodName)) ∈ lw_tbl := lw_at lw_m8 88 rfl
theorem q1859 : (Jvm.Cond.instanceMethod ({ cls := "LoanNamesModel", name := "partLeft", desc := "(III)I" } : Jvm.MethodName)) ∈ lw_all := lw_g (lw_at lw_m8 89 rfl) rfl
theorem q1860 : (Jvm.Cond.code ({ cls := "LoanNamesModel", name := "partLeft", desc := "(III)I" } : Jvm.MethodName) prog_24_method_35_code (6 : Nat) (Option.some Jvm.ClassFile.FieldType.int)) ∈ lw_all := lw_g (lw_at lw_m8 90 rfl) rfl
theorem q1862 : (Jvm.Cond.instanceMethod ({ cls := "LoanNamesModel", name := "same", desc := "(II)I" } : Jvm.MethodName)) ∈ lw_all := lw_g (lw_at lw_m8 92 rfl) rfl
theorem q1863 : (Jvm.Cond.selects "LoanNamesModel" ({ cls := "LoanNamesModel", name := "same", desc := "(II)I" } : Jvm.MethodName) ({ cls := "LoanNamesModel", name := "same", desc := "(II)I" } : Jvm.MethodName)) ∈ lw_all := lw_g (lw_at lw_m8 93 rfl) rfl
theorem q1864 : (Jvm.Cond.code ({ cls := "LoanNamesModel", name := "same", desc := "(II)I" } : Jvm.MethodName) prog_24_method_44_code (7 : Nat) (Option.some Jvm.ClassFile.FieldType.int)) ∈ lw_all := lw_g (lw_at lw_m8 94 rfl) rfl
theorem q1865 : (Jvm.Cond.methodLink "LoanNamesModel" (415 : Nat) ({ cls := "LoanNamesModel", name := "passes", desc := "(III)V" } : Jvm.MethodName)) ∈ lw_all := lw_g (lw_at lw_m8 95 rfl) rfl
theorem q1866 : (Jvm.Cond.privateMethod ({ cls := "LoanNamesModel", name := "passes", desc := "(III)V" } : Jvm.MethodName)) ∈ lw_tbl := lw_at lw_m8 96 rfl
theorem q1867 : (Jvm.Cond.instanceMethod ({ cls := "LoanNamesModel", name := "passes", desc := "(III)V" } : Jvm.MethodName)) ∈ lw_all := lw_g (lw_at lw_m8 97 rfl) rfl
theorem q1868 : (Jvm.Cond.code ({ cls := "LoanNamesModel", name := "passes", desc := "(III)V" } : Jvm.MethodName) prog_24_method_42_code (8 : Nat) (Option.none : Option Jvm.ClassFile.FieldType)) ∈ lw_all := lw_g (lw_at lw_m8 98 rfl) rfl
theorem q1869 : (Jvm.Cond.methodLink "LoanNamesModel" (407 : Nat) ({ cls := "LoanNamesModel", name := "times", desc := "(III)J" } : Jvm.MethodName)) ∈ lw_all := lw_g (lw_at lw_m8 99 rfl) rfl
theorem q1870 : (Jvm.Cond.privateMethod ({ cls := "LoanNamesModel", name := "times", desc := "(III)J" } : Jvm.MethodName)) ∈ lw_tbl := lw_at lw_m8 100 rfl
theorem q1871 : (Jvm.Cond.instanceMethod ({ cls := "LoanNamesModel", name := "times", desc := "(III)J" } : Jvm.MethodName)) ∈ lw_all := lw_g (lw_at lw_m8 101 rfl) rfl
theorem q1872 : (Jvm.Cond.code ({ cls := "LoanNamesModel", name := "times", desc := "(III)J" } : Jvm.MethodName) prog_24_method_31_code (8 : Nat) (Option.some Jvm.ClassFile.FieldType.long)) ∈ lw_all := lw_g (lw_at lw_m8 102 rfl) rfl
theorem q1873 : (Jvm.Cond.methodLink "LoanNamesModel" (411 : Nat) ({ cls := "LoanNamesModel", name := "flow", desc := "(IIIIJ)V" } : Jvm.MethodName)) ∈ lw_all := lw_g (lw_at lw_m8 103 rfl) rfl
theorem q1874 : (Jvm.Cond.privateMethod ({ cls := "LoanNamesModel", name := "flow", desc := "(IIIIJ)V" } : Jvm.MethodName)) ∈ lw_tbl := lw_at lw_m8 104 rfl
theorem q1875 : (Jvm.Cond.instanceMethod ({ cls := "LoanNamesModel", name := "flow", desc := "(IIIIJ)V" } : Jvm.MethodName)) ∈ lw_all := lw_g (lw_at lw_m8 105 rfl) rfl
theorem q1876 : (Jvm.Cond.code ({ cls := "LoanNamesModel", name := "flow", desc := "(IIIIJ)V" } : Jvm.MethodName) prog_24_method_41_code (7 : Nat) (Option.none : Option Jvm.ClassFile.FieldType)) ∈ lw_all := lw_g (lw_at lw_m8 106 rfl) rfl
theorem q1877 : (Jvm.Cond.methodLink "LoanNamesModel" (419 : Nat) ({ cls := "LoanNamesModel", name := "among", desc := "(III)J" } : Jvm.MethodName)) ∈ lw_all := lw_g (lw_at lw_m8 107 rfl) rfl
theorem q1878 : (Jvm.Cond.privateMethod ({ cls := "LoanNamesModel", name := "among", desc := "(III)J" } : Jvm.MethodName)) ∈ lw_tbl := lw_at lw_m8 108 rfl
theorem q1879 : (Jvm.Cond.instanceMethod ({ cls := "LoanNamesModel", name := "among", desc := "(III)J" } : Jvm.MethodName)) ∈ lw_all := lw_g (lw_at lw_m8 109 rfl) rfl
theorem q1880 : (Jvm.Cond.code ({ cls := "LoanNamesModel", name := "among", desc := "(III)J" } : Jvm.MethodName) prog_24_method_43_code (7 : Nat) (Option.some Jvm.ClassFile.FieldType.long)) ∈ lw_all := lw_g (lw_at lw_m8 110 rfl) rfl
theorem q1882 : (Jvm.Cond.instanceMethod ({ cls := "LoanNamesModel", name := "add", desc := "(I)I" } : Jvm.MethodName)) ∈ lw_all := lw_g (lw_at lw_m8 112 rfl) rfl
theorem q1883 : (Jvm.Cond.selects "LoanNamesModel" ({ cls := "LoanNamesModel", name := "add", desc := "(I)I" } : Jvm.MethodName) ({ cls := "LoanNamesModel", name := "add", desc := "(I)I" } : Jvm.MethodName)) ∈ lw_all := lw_g (lw_at lw_m8 113 rfl) rfl
theorem q1884 : (Jvm.Cond.code ({ cls := "LoanNamesModel", name := "add", desc := "(I)I" } : Jvm.MethodName) prog_24_method_45_code (3 : Nat) (Option.some Jvm.ClassFile.FieldType.int)) ∈ lw_all := lw_g (lw_at lw_m8 114 rfl) rfl
theorem q1886 : (Jvm.Cond.instanceMethod ({ cls := "LoanNamesModel", name := "clear", desc := "()I" } : Jvm.MethodName)) ∈ lw_all := lw_g (lw_at lw_m8 116 rfl) rfl
theorem q1887 : (Jvm.Cond.selects "LoanNamesModel" ({ cls := "LoanNamesModel", name := "clear", desc := "()I" } : Jvm.MethodName) ({ cls := "LoanNamesModel", name := "clear", desc := "()I" } : Jvm.MethodName)) ∈ lw_all := lw_g (lw_at lw_m8 117 rfl) rfl
theorem q1888 : (Jvm.Cond.code ({ cls := "LoanNamesModel", name := "clear", desc := "()I" } : Jvm.MethodName) prog_24_method_46_code (2 : Nat) (Option.some Jvm.ClassFile.FieldType.int)) ∈ lw_all := lw_g (lw_at lw_m8 118 rfl) rfl
theorem q1890 : (Jvm.Cond.instanceMethod ({ cls := "LoanNamesModel", name := "passed", desc := "(III)J" } : Jvm.MethodName)) ∈ lw_all := lw_g (lw_at lw_m8 120 rfl) rfl
theorem q1891 : (Jvm.Cond.selects "LoanNamesModel" ({ cls := "LoanNamesModel", name := "passed", desc := "(III)J" } : Jvm.MethodName) ({ cls := "LoanNamesModel", name := "passed", desc := "(III)J" } : Jvm.MethodName)) ∈ lw_all := lw_g (lw_at lw_m8 121 rfl) rfl
theorem q1892 : (Jvm.Cond.code ({ cls := "LoanNamesModel", name := "passed", desc := "(III)J" } : Jvm.MethodName) prog_24_method_59_code (8 : Nat) (Option.some Jvm.ClassFile.FieldType.long)) ∈ lw_all := lw_g (lw_at lw_m8 122 rfl) rfl
theorem q1893 : (Jvm.Cond.methodLink "LoanNamesModel" (452 : Nat) ({ cls := "LoanNamesModel", name := "bundleAtHand", desc := "()V" } : Jvm.MethodName)) ∈ lw_all := lw_g (lw_at lw_m8 123 rfl) rfl
theorem q1894 : (Jvm.Cond.privateMethod ({ cls := "LoanNamesModel", name := "bundleAtHand", desc := "()V" } : Jvm.MethodName)) ∈ lw_tbl := lw_at lw_m8 124 rfl
theorem q1895 : (Jvm.Cond.instanceMethod ({ cls := "LoanNamesModel", name := "bundleAtHand", desc := "()V" } : Jvm.MethodName)) ∈ lw_all := lw_g (lw_at lw_m8 125 rfl) rfl
theorem q1896 : (Jvm.Cond.code ({ cls := "LoanNamesModel", name := "bundleAtHand", desc := "()V" } : Jvm.MethodName) prog_24_method_47_code (2 : Nat) (Option.none : Option Jvm.ClassFile.FieldType)) ∈ lw_all := lw_g (lw_at lw_m8 126 rfl) rfl
theorem q1897 : (Jvm.Cond.methodLink "LoanNamesModel" (437 : Nat) ({ cls := "LoanNamesModel", name := "codesAtHand", desc := "()I" } : Jvm.MethodName)) ∈ lw_all := lw_g (lw_at lw_m8 127 rfl) rfl
theorem q1898 : (Jvm.Cond.privateMethod ({ cls := "LoanNamesModel", name := "codesAtHand", desc := "()I" } : Jvm.MethodName)) ∈ lw_tbl := lw_at lw_m8 128 rfl
theorem q1899 : (Jvm.Cond.instanceMethod ({ cls := "LoanNamesModel", name := "codesAtHand", desc := "()I" } : Jvm.MethodName)) ∈ lw_all := lw_g (lw_at lw_m8 129 rfl) rfl
theorem q1900 : (Jvm.Cond.code ({ cls := "LoanNamesModel", name := "codesAtHand", desc := "()I" } : Jvm.MethodName) prog_24_method_52_code (1 : Nat) (Option.some Jvm.ClassFile.FieldType.int)) ∈ lw_all := lw_g (lw_at lw_m8 130 rfl) rfl
theorem q1901 : (Jvm.Cond.methodLink "LoanNamesModel" (434 : Nat) ({ cls := "LoanNamesModel", name := "choicesAtHand", desc := "()I" } : Jvm.MethodName)) ∈ lw_all := lw_g (lw_at lw_m8 131 rfl) rfl
theorem q1902 : (Jvm.Cond.privateMethod ({ cls := "LoanNamesModel", name := "choicesAtHand", desc := "()I" } : Jvm.MethodName)) ∈ lw_tbl := lw_at lw_m8 132 rfl
theorem q1903 : (Jvm.Cond.instanceMethod ({ cls := "LoanNamesModel", name := "choicesAtHand", desc := "()I" } : Jvm.MethodName)) ∈ lw_all := lw_g (lw_at lw_m8 133 rfl) rfl
theorem q1904 : (Jvm.Cond.code ({ cls := "LoanNamesModel", name := "choicesAtHand", desc := "()I" } : Jvm.MethodName) prog_24_method_48_code (3 : Nat) (Option.some Jvm.ClassFile.FieldType.int)) ∈ lw_all := lw_g (lw_at lw_m8 134 rfl) rfl
theorem q1905 : (Jvm.Cond.methodLink "LoanNamesModel" (455 : Nat) ({ cls := "LoanNamesModel", name := "rowsOfDeal", desc := "(III)I" } : Jvm.MethodName)) ∈ lw_all := lw_g (lw_at lw_m8 135 rfl) rfl
theorem q1906 : (Jvm.Cond.privateMethod ({ cls := "LoanNamesModel", name := "rowsOfDeal", desc := "(III)I" } : Jvm.MethodName)) ∈ lw_tbl := lw_at lw_m8 136 rfl
theorem q1907 : (Jvm.Cond.instanceMethod ({ cls := "LoanNamesModel", name := "rowsOfDeal", desc := "(III)I" } : Jvm.MethodName)) ∈ lw_all := lw_g (lw_at lw_m8 137 rfl) rfl
theorem q1908 : (Jvm.Cond.code ({ cls := "LoanNamesModel", name := "rowsOfDeal", desc := "(III)I" } : Jvm.MethodName) prog_24_method_58_code (6 : Nat) (Option.some Jvm.ClassFile.FieldType.int)) ∈ lw_all := lw_g (lw_at lw_m8 138 rfl) rfl
theorem q1909 : (Jvm.Cond.methodLink "LoanNamesModel" (440 : Nat) ({ cls := "LoanNamesModel", name := "rowsOf", desc := "(I)I" } : Jvm.MethodName)) ∈ lw_all := lw_g (lw_at lw_m8 139 rfl) rfl
theorem q1910 : (Jvm.Cond.privateMethod ({ cls := "LoanNamesModel", name := "rowsOf", desc := "(I)I" } : Jvm.MethodName)) ∈ lw_tbl := lw_at lw_m8 140 rfl
theorem q1911 : (Jvm.Cond.instanceMethod ({ cls := "LoanNamesModel", name := "rowsOf", desc := "(I)I" } : Jvm.MethodName)) ∈ lw_all := lw_g (lw_at lw_m8 141 rfl) rfl
theorem q1912 : (Jvm.Cond.code ({ cls := "LoanNamesModel", name := "rowsOf", desc := "(I)I" } : Jvm.MethodName) prog_24_method_32_code (2 : Nat) (Option.some Jvm.ClassFile.FieldType.int)) ∈ lw_all := lw_g (lw_at lw_m8 142 rfl) rfl
theorem q1913 : (Jvm.Cond.methodLink "LoanNamesModel" (458 : Nat) ({ cls := "LoanNamesModel", name := "findRow", desc := "(IIII)V" } : Jvm.MethodName)) ∈ lw_all := lw_g (lw_at lw_m8 143 rfl) rfl
theorem q1914 : (Jvm.Cond.privateMethod ({ cls := "LoanNamesModel", name := "findRow", desc := "(IIII)V" } : Jvm.MethodName)) ∈ lw_tbl := lw_at lw_m8 144 rfl
theorem q1915 : (Jvm.Cond.instanceMethod ({ cls := "LoanNamesModel", name := "findRow", desc := "(IIII)V" } : Jvm.MethodName)) ∈ lw_all := lw_g (lw_at lw_m8 145 rfl) rfl
theorem q1916 : (Jvm.Cond.code ({ cls := "LoanNamesModel", name := "findRow", desc := "(IIII)V" } : Jvm.MethodName) prog_24_method_56_code (9 : Nat) (Option.none : Option Jvm.ClassFile.FieldType)) ∈ lw_all := lw_g (lw_at lw_m8 146 rfl) rfl
theorem q1917 : (Jvm.Cond.methodLink "LoanNamesModel" (462 : Nat) ({ cls := "LoanNamesModel", name := "rowTold", desc := "(I)J" } : Jvm.MethodName)) ∈ lw_all := lw_g (lw_at lw_m8 147 rfl) rfl
theorem q1918 : (Jvm.Cond.privateMethod ({ cls := "LoanNamesModel", name := "rowTold", desc := "(I)J" } : Jvm.MethodName)) ∈ lw_tbl := lw_at lw_m8 148 rfl
theorem q1919 : (Jvm.Cond.instanceMethod ({ cls := "LoanNamesModel", name := "rowTold", desc := "(I)J" } : Jvm.MethodName)) ∈ lw_all := lw_g (lw_at lw_m8 149 rfl) rfl
theorem q1920 : (Jvm.Cond.code ({ cls := "LoanNamesModel", name := "rowTold", desc := "(I)J" } : Jvm.MethodName) prog_24_method_57_code (5 : Nat) (Option.some Jvm.ClassFile.FieldType.long)) ∈ lw_all := lw_g (lw_at lw_m8 150 rfl) rfl
theorem q1922 : (Jvm.Cond.instanceMethod ({ cls := "LoanNamesModel", name := "net", desc := "(IIII)J" } : Jvm.MethodName)) ∈ lw_all := lw_g (lw_at lw_m8 152 rfl) rfl
theorem q1923 : (Jvm.Cond.selects "LoanNamesModel" ({ cls := "LoanNamesModel", name := "net", desc := "(IIII)J" } : Jvm.MethodName) ({ cls := "LoanNamesModel", name := "net", desc := "(IIII)J" } : Jvm.MethodName)) ∈ lw_all := lw_g (lw_at lw_m8 153 rfl) rfl
theorem q1924 : (Jvm.Cond.code ({ cls := "LoanNamesModel", name := "net", desc := "(IIII)J" } : Jvm.MethodName) prog_24_method_60_code (5 : Nat) (Option.some Jvm.ClassFile.FieldType.long)) ∈ lw_all := lw_g (lw_at lw_m8 154 rfl) rfl
theorem q1925 : (Jvm.Cond.constantLong "LoanNamesModel" (466 : Nat) (-1000000000000 : Int64)) ∈ lw_all := lw_g (lw_at lw_m8 155 rfl) rfl
theorem q1926 : (Jvm.Cond.methodLink "LoanNamesModel" (468 : Nat) ({ cls := "LoanNamesModel", name := "passesAll", desc := "(I)V" } : Jvm.MethodName)) ∈ lw_all := lw_g (lw_at lw_m8 156 rfl) rfl
theorem q1927 : (Jvm.Cond.privateMethod ({ cls := "LoanNamesModel", name := "passesAll", desc := "(I)V" } : Jvm.MethodName)) ∈ lw_tbl := lw_at lw_m8 157 rfl
theorem q1928 : (Jvm.Cond.instanceMethod ({ cls := "LoanNamesModel", name := "passesAll", desc := "(I)V" } : Jvm.MethodName)) ∈ lw_all := lw_g (lw_at lw_m8 158 rfl) rfl
theorem q1929 : (Jvm.Cond.code ({ cls := "LoanNamesModel", name := "passesAll", desc := "(I)V" } : Jvm.MethodName) prog_24_method_54_code (4 : Nat) (Option.none : Option Jvm.ClassFile.FieldType)) ∈ lw_all := lw_g (lw_at lw_m8 159 rfl) rfl
theorem q1930 : (Jvm.Cond.methodLink "LoanNamesModel" (471 : Nat) ({ cls := "LoanNamesModel", name := "netOf", desc := "(III)J" } : Jvm.MethodName)) ∈ lw_all := lw_g (lw_at lw_m8 160 rfl) rfl
theorem q1931 : (Jvm.Cond.privateMethod ({ cls := "LoanNamesModel", name := "netOf", desc := "(III)J" } : Jvm.MethodName)) ∈ lw_tbl := lw_at lw_m8 161 rfl
theorem q1932 : (Jvm.Cond.instanceMethod ({ cls := "LoanNamesModel", name := "netOf", desc := "(III)J" } : Jvm.MethodName)) ∈ lw_all := lw_g (lw_at lw_m8 162 rfl) rfl
theorem q1933 : (Jvm.Cond.code ({ cls := "LoanNamesModel", name := "netOf", desc := "(III)J" } : Jvm.MethodName) prog_24_method_55_code (7 : Nat) (Option.some Jvm.ClassFile.FieldType.long)) ∈ lw_all := lw_g (lw_at lw_m8 163 rfl) rfl
theorem q1935 : (Jvm.Cond.instanceMethod ({ cls := "LoanNamesModel", name := "codes", desc := "()I" } : Jvm.MethodName)) ∈ lw_all := lw_g (lw_at lw_m8 165 rfl) rfl
theorem q1936 : (Jvm.Cond.selects "LoanNamesModel" ({ cls := "LoanNamesModel", name := "codes", desc := "()I" } : Jvm.MethodName) ({ cls := "LoanNamesModel", name := "codes", desc := "()I" } : Jvm.MethodName)) ∈ lw_all := lw_g (lw_at lw_m8 166 rfl) rfl
theorem q1937 : (Jvm.Cond.code ({ cls := "LoanNamesModel", name := "codes", desc := "()I" } : Jvm.MethodName) prog_24_method_61_code (1 : Nat) (Option.some Jvm.ClassFile.FieldType.int)) ∈ lw_all := lw_g (lw_at lw_m8 167 rfl) rfl
theorem q1938 : (Jvm.Cond.methodLink "LoanNamesModel" (474 : Nat) ({ cls := "LoanNamesModel", name := "isLookedAt", desc := "()Z" } : Jvm.MethodName)) ∈ lw_all := lw_g (lw_at lw_m8 168 rfl) rfl
theorem q1939 : (Jvm.Cond.privateMethod ({ cls := "LoanNamesModel", name := "isLookedAt", desc := "()Z" } : Jvm.MethodName)) ∈ lw_tbl := lw_at lw_m8 169 rfl
theorem q1940 : (Jvm.Cond.instanceMethod ({ cls := "LoanNamesModel", name := "isLookedAt", desc := "()Z" } : Jvm.MethodName)) ∈ lw_all := lw_g (lw_at lw_m8 170 rfl) rfl
theorem q1941 : (Jvm.Cond.code ({ cls := "LoanNamesModel", name := "isLookedAt", desc := "()Z" } : Jvm.MethodName) prog_24_method_51_code (1 : Nat) (Option.some Jvm.ClassFile.FieldType.boolean)) ∈ lw_all := lw_g (lw_at lw_m8 171 rfl) rfl
theorem q1942 : (Jvm.Cond.methodLink "LoanNamesModel" (428 : Nat) ({ cls := "LoanNamesModel", name := "eventsAtHand", desc := "()I" } : Jvm.MethodName)) ∈ lw_all := lw_g (lw_at lw_m8 172 rfl) rfl
theorem q1943 : (Jvm.Cond.privateMethod ({ cls := "LoanNamesModel", name := "eventsAtHand", desc := "()I" } : Jvm.MethodName)) ∈ lw_tbl := lw_at lw_m8 173 rfl
theorem q1944 : (Jvm.Cond.instanceMethod ({ cls := "LoanNamesModel", name := "eventsAtHand", desc := "()I" } : Jvm.MethodName)) ∈ lw_all := lw_g (lw_at lw_m8 174 rfl) rfl
theorem q1945 : (Jvm.Cond.code ({ cls := "LoanNamesModel", name := "eventsAtHand", desc := "()I" } : Jvm.MethodName) prog_24_method_49_code (3 : Nat) (Option.some Jvm.ClassFile.FieldType.int)) ∈ lw_all := lw_g (lw_at lw_m8 175 rfl) rfl
theorem q1946 : (Jvm.Cond.methodLink "LoanNamesModel" (431 : Nat) ({ cls := "LoanNamesModel", name := "bitsOf", desc := "(I)I" } : Jvm.MethodName)) ∈ lw_all := lw_g (lw_at lw_m8 176 rfl) rfl
theorem q1947 : (Jvm.Cond.static ({ cls := "LoanNamesModel", name := "bitsOf", desc := "(I)I" } : Jvm.MethodName)) ∈ lw_all := lw_g (lw_at lw_m8 177 rfl) rfl
theorem q1948 : (Jvm.Cond.code ({ cls := "LoanNamesModel", name := "bitsOf", desc := "(I)I" } : Jvm.MethodName) prog_24_method_50_code (3 : Nat) (Option.some Jvm.ClassFile.FieldType.int)) ∈ lw_all := lw_g (lw_at lw_m8 178 rfl) rfl
theorem q1950 : (Jvm.Cond.instanceMethod ({ cls := "LoanNamesModel", name := "lends", desc := "(II)I" } : Jvm.MethodName)) ∈ lw_all := lw_g (lw_at lw_m8 180 rfl) rfl
theorem q1951 : (Jvm.Cond.selects "LoanNamesModel" ({ cls := "LoanNamesModel", name := "lends", desc := "(II)I" } : Jvm.MethodName) ({ cls := "LoanNamesModel", name := "lends", desc := "(II)I" } : Jvm.MethodName)) ∈ lw_all := lw_g (lw_at lw_m8 181 rfl) rfl
theorem q1952 : (Jvm.Cond.code ({ cls := "LoanNamesModel", name := "lends", desc := "(II)I" } : Jvm.MethodName) prog_24_method_66_code (5 : Nat) (Option.some Jvm.ClassFile.FieldType.int)) ∈ lw_all := lw_g (lw_at lw_m8 182 rfl) rfl
theorem q1953 : (Jvm.Cond.methodLink "LoanNamesModel" (486 : Nat) ({ cls := "LoanNamesModel", name := "areTwo", desc := "(II)Z" } : Jvm.MethodName)) ∈ lw_all := lw_g (lw_at lw_m8 183 rfl) rfl
theorem q1954 : (Jvm.Cond.static ({ cls := "LoanNamesModel", name := "areTwo", desc := "(II)Z" } : Jvm.MethodName)) ∈ lw_all := lw_g (lw_at lw_m8 184 rfl) rfl
theorem q1955 : (Jvm.Cond.code ({ cls := "LoanNamesModel", name := "areTwo", desc := "(II)Z" } : Jvm.MethodName) prog_24_method_65_code (2 : Nat) (Option.some Jvm.ClassFile.FieldType.boolean)) ∈ lw_all := lw_g (lw_at lw_m8 185 rfl) rfl
theorem q1956 : (Jvm.Cond.methodLink "LoanNamesModel" (489 : Nat) ({ cls := "LoanNamesModel", name := "codeFrom", desc := "(I)I" } : Jvm.MethodName)) ∈ lw_all := lw_g (lw_at lw_m8 186 rfl) rfl
theorem q1957 : (Jvm.Cond.privateMethod ({ cls := "LoanNamesModel", name := "codeFrom", desc := "(I)I" } : Jvm.MethodName)) ∈ lw_tbl := lw_at lw_m8 187 rfl
theorem q1958 : (Jvm.Cond.instanceMethod ({ cls := "LoanNamesModel", name := "codeFrom", desc := "(I)I" } : Jvm.MethodName)) ∈ lw_all := lw_g (lw_at lw_m8 188 rfl) rfl
theorem q1959 : (Jvm.Cond.code ({ cls := "LoanNamesModel", name := "codeFrom", desc := "(I)I" } : Jvm.MethodName) prog_24_method_53_code (4 : Nat) (Option.some Jvm.ClassFile.FieldType.int)) ∈ lw_all := lw_g (lw_at lw_m8 189 rfl) rfl
theorem q1960 : (Jvm.Cond.methodLink "LoanNamesModel" (492 : Nat) ({ cls := "LoanNamesModel", name := "findLending", desc := "(I)V" } : Jvm.MethodName)) ∈ lw_all := lw_g (lw_at lw_m8 190 rfl) rfl
theorem q1961 : (Jvm.Cond.privateMethod ({ cls := "LoanNamesModel", name := "findLending", desc := "(I)V" } : Jvm.MethodName)) ∈ lw_tbl := lw_at lw_m8 191 rfl
theorem q1962 : (Jvm.Cond.instanceMethod ({ cls := "LoanNamesModel", name := "findLending", desc := "(I)V" } : Jvm.MethodName)) ∈ lw_all := lw_g (lw_at lw_m8 192 rfl) rfl
theorem q1963 : (Jvm.Cond.code ({ cls := "LoanNamesModel", name := "findLending", desc := "(I)V" } : Jvm.MethodName) prog_24_method_64_code (5 : Nat) (Option.none : Option Jvm.ClassFile.FieldType)) ∈ lw_all := lw_g (lw_at lw_m8 193 rfl) rfl
theorem q1964 : (Jvm.Cond.methodLink "LoanNamesModel" (480 : Nat) ({ cls := "LoanNamesModel", name := "findDays", desc := "()V" } : Jvm.MethodName)) ∈ lw_all := lw_g (lw_at lw_m8 194 rfl) rfl
theorem q1965 : (Jvm.Cond.privateMethod ({ cls := "LoanNamesModel", name := "findDays", desc := "()V" } : Jvm.MethodName)) ∈ lw_tbl := lw_at lw_m8 195 rfl
theorem q1966 : (Jvm.Cond.instanceMethod ({ cls := "LoanNamesModel", name := "findDays", desc := "()V" } : Jvm.MethodName)) ∈ lw_all := lw_g (lw_at lw_m8 196 rfl) rfl
theorem q1967 : (Jvm.Cond.code ({ cls := "LoanNamesModel", name := "findDays", desc := "()V" } : Jvm.MethodName) prog_24_method_62_code (4 : Nat) (Option.none : Option Jvm.ClassFile.FieldType)) ∈ lw_all := lw_g (lw_at lw_m8 197 rfl) rfl
theorem q1968 : (Jvm.Cond.methodLink "LoanNamesModel" (483 : Nat) ({ cls := "LoanNamesModel", name := "lendingDay", desc := "(I)I" } : Jvm.MethodName)) ∈ lw_all := lw_g (lw_at lw_m8 198 rfl) rfl
theorem q1969 : (Jvm.Cond.privateMethod ({ cls := "LoanNamesModel", name := "lendingDay", desc := "(I)I" } : Jvm.MethodName)) ∈ lw_tbl := lw_at lw_m8 199 rfl
theorem q1970 : (Jvm.Cond.instanceMethod ({ cls := "LoanNamesModel", name := "lendingDay", desc := "(I)I" } : Jvm.MethodName)) ∈ lw_all := lw_g (lw_at lw_m8 200 rfl) rfl
theorem q1971 : (Jvm.Cond.code ({ cls := "LoanNamesModel", name := "lendingDay", desc := "(I)I" } : Jvm.MethodName) prog_24_method_63_code (7 : Nat) (Option.some Jvm.ClassFile.FieldType.int)) ∈ lw_all := lw_g (lw_at lw_m8 201 rfl) rfl
theorem q1973 : (Jvm.Cond.instanceMethod ({ cls := "LoanNamesModel", name := "price", desc := "(III)J" } : Jvm.MethodName)) ∈ lw_all := lw_g (lw_at lw_m8 203 rfl) rfl
theorem q1974 : (Jvm.Cond.selects "LoanNamesModel" ({ cls := "LoanNamesModel", name := "price", desc := "(III)J" } : Jvm.MethodName) ({ cls := "LoanNamesModel", name := "price", desc := "(III)J" } : Jvm.MethodName)) ∈ lw_all := lw_g (lw_at lw_m8 204 rfl) rfl
theorem q1975 : (Jvm.Cond.code ({ cls := "LoanNamesModel", name := "price", desc := "(III)J" } : Jvm.MethodName) prog_24_method_70_code (14 : Nat) (Option.some Jvm.ClassFile.FieldType.long)) ∈ lw_all := lw_g (lw_at lw_m8 205 rfl) rfl
theorem q1976 : (Jvm.Cond.methodLink "LoanNamesModel" (495 : Nat) ({ cls := "LoanNamesModel", name := "outOf", desc := "(I)J" } : Jvm.MethodName)) ∈ lw_all := lw_g (lw_at lw_m8 206 rfl) rfl
theorem q1977 : (Jvm.Cond.privateMethod ({ cls := "LoanNamesModel", name := "outOf", desc := "(I)J" } : Jvm.MethodName)) ∈ lw_tbl := lw_at lw_m8 207 rfl
theorem q1978 : (Jvm.Cond.instanceMethod ({ cls := "LoanNamesModel", name := "outOf", desc := "(I)J" } : Jvm.MethodName)) ∈ lw_all := lw_g (lw_at lw_m8 208 rfl) rfl
theorem q1979 : (Jvm.Cond.code ({ cls := "LoanNamesModel", name := "outOf", desc := "(I)J" } : Jvm.MethodName) prog_24_method_69_code (7 : Nat) (Option.some Jvm.ClassFile.FieldType.long)) ∈ lw_all := lw_g (lw_at lw_m8 209 rfl) rfl
theorem q1980 : (Jvm.Cond.methodLink "LoanNamesModel" (498 : Nat) ({ cls := "LoanNamesModel", name := "isLess", desc := "(JJJJ)Z" } : Jvm.MethodName)) ∈ lw_all := lw_g (lw_at lw_m8 210 rfl) rfl
theorem q1981 : (Jvm.Cond.static ({ cls := "LoanNamesModel", name := "isLess", desc := "(JJJJ)Z" } : Jvm.MethodName)) ∈ lw_all := lw_g (lw_at lw_m8 211 rfl) rfl
theorem q1982 : (Jvm.Cond.code ({ cls := "LoanNamesModel", name := "isLess", desc := "(JJJJ)Z" } : Jvm.MethodName) prog_24_method_68_code (25 : Nat) (Option.some Jvm.ClassFile.FieldType.boolean)) ∈ lw_all := lw_g (lw_at lw_m8 212 rfl) rfl
theorem q1983 : (Jvm.Cond.methodLink "LoanNamesModel" (502 : Nat) ({ cls := "LoanNamesModel", name := "divisor", desc := "(JJ)J" } : Jvm.MethodName)) ∈ lw_all := lw_g (lw_at lw_m8 213 rfl) rfl
theorem q1984 : (Jvm.Cond.static ({ cls := "LoanNamesModel", name := "divisor", desc := "(JJ)J" } : Jvm.MethodName)) ∈ lw_all := lw_g (lw_at lw_m8 214 rfl) rfl
theorem q1985 : (Jvm.Cond.code ({ cls := "LoanNamesModel", name := "divisor", desc := "(JJ)J" } : Jvm.MethodName) prog_24_method_67_code (10 : Nat) (Option.some Jvm.ClassFile.FieldType.long)) ∈ lw_all := lw_g (lw_at lw_m8 215 rfl) rfl
theorem q1987 : (Jvm.Cond.instanceMethod ({ cls := "LoanNamesModel", name := "loan", desc := "()I" } : Jvm.MethodName)) ∈ lw_all := lw_g (lw_at lw_m8 217 rfl) rfl
theorem q1988 : (Jvm.Cond.selects "LoanNamesModel" ({ cls := "LoanNamesModel", name := "loan", desc := "()I" } : Jvm.MethodName) ({ cls := "LoanNamesModel", name := "loan", desc := "()I" } : Jvm.MethodName)) ∈ lw_all := lw_g (lw_at lw_m8 218 rfl) rfl
theorem q1989 : (Jvm.Cond.code ({ cls := "LoanNamesModel", name := "loan", desc := "()I" } : Jvm.MethodName) prog_24_method_72_code (1 : Nat) (Option.some Jvm.ClassFile.FieldType.int)) ∈ lw_all := lw_g (lw_at lw_m8 219 rfl) rfl
theorem q1990 : (Jvm.Cond.methodLink "LoanNamesModel" (506 : Nat) ({ cls := "LoanNamesModel", name := "loanAtHand", desc := "()I" } : Jvm.MethodName)) ∈ lw_all := lw_g (lw_at lw_m8 220 rfl) rfl
theorem q1991 : (Jvm.Cond.privateMethod ({ cls := "LoanNamesModel", name := "loanAtHand", desc := "()I" } : Jvm.MethodName)) ∈ lw_tbl := lw_at lw_m8 221 rfl
theorem q1992 : (Jvm.Cond.instanceMethod ({ cls := "LoanNamesModel", name := "loanAtHand", desc := "()I" } : Jvm.MethodName)) ∈ lw_all := lw_g (lw_at lw_m8 222 rfl) rfl
theorem q1993 : (Jvm.Cond.code ({ cls := "LoanNamesModel", name := "loanAtHand", desc := "()I" } : Jvm.MethodName) prog_24_method_71_code (4 : Nat) (Option.some Jvm.ClassFile.FieldType.int)) ∈ lw_all := lw_g (lw_at lw_m8 223 rfl) rfl
theorem q1995 : (Jvm.Cond.instanceMethod ({ cls := "LoanNamesModel", name := "step", desc := "()J" } : Jvm.MethodName)) ∈ lw_all := lw_g (lw_at lw_m8 225 rfl) rfl
theorem q1996 : (Jvm.Cond.selects "LoanNamesModel" ({ cls := "LoanNamesModel", name := "step", desc := "()J" } : Jvm.MethodName) ({ cls := "LoanNamesModel", name := "step", desc := "()J" } : Jvm.MethodName)) ∈ lw_all := lw_g (lw_at lw_m8 226 rfl) rfl
theorem q1997 : (Jvm.Cond.code ({ cls := "LoanNamesModel", name := "step", desc := "()J" } : Jvm.MethodName) prog_24_method_73_code (7 : Nat) (Option.some Jvm.ClassFile.FieldType.long)) ∈ lw_all := lw_g (lw_at lw_m8 227 rfl) rfl
theorem q1999 : (Jvm.Cond.instanceMethod ({ cls := "LoanNamesModel", name := "bears", desc := "(II)J" } : Jvm.MethodName)) ∈ lw_all := lw_g (lw_at lw_m8 229 rfl) rfl
theorem q2000 : (Jvm.Cond.selects "LoanNamesModel" ({ cls := "LoanNamesModel", name := "bears", desc := "(II)J" } : Jvm.MethodName) ({ cls := "LoanNamesModel", name := "bears", desc := "(II)J" } : Jvm.MethodName)) ∈ lw_all := lw_g (lw_at lw_m8 230 rfl) rfl
theorem q2001 : (Jvm.Cond.code ({ cls := "LoanNamesModel", name := "bears", desc := "(II)J" } : Jvm.MethodName) prog_24_method_74_code (5 : Nat) (Option.some Jvm.ClassFile.FieldType.long)) ∈ lw_all := lw_g (lw_at lw_m8 231 rfl) rfl
theorem q2003 : (Jvm.Cond.instanceMethod ({ cls := "LoanNamesModel", name := "cost", desc := "(III)J" } : Jvm.MethodName)) ∈ lw_all := lw_g (lw_at lw_m8 233 rfl) rfl
theorem q2004 : (Jvm.Cond.selects "LoanNamesModel" ({ cls := "LoanNamesModel", name := "cost", desc := "(III)J" } : Jvm.MethodName) ({ cls := "LoanNamesModel", name := "cost", desc := "(III)J" } : Jvm.MethodName)) ∈ lw_all := lw_g (lw_at lw_m8 234 rfl) rfl
theorem q2005 : (Jvm.Cond.code ({ cls := "LoanNamesModel", name := "cost", desc := "(III)J" } : Jvm.MethodName) prog_24_method_75_code (12 : Nat) (Option.some Jvm.ClassFile.FieldType.long)) ∈ lw_all := lw_g (lw_at lw_m8 235 rfl) rfl
theorem q2007 : (Jvm.Cond.instanceMethod ({ cls := "LoanNamesModel", name := "law", desc := "(I)I" } : Jvm.MethodName)) ∈ lw_all := lw_g (lw_at lw_m8 237 rfl) rfl
theorem q2008 : (Jvm.Cond.selects "LoanNamesModel" ({ cls := "LoanNamesModel", name := "law", desc := "(I)I" } : Jvm.MethodName) ({ cls := "LoanNamesModel", name := "law", desc := "(I)I" } : Jvm.MethodName)) ∈ lw_all := lw_g (lw_at lw_m8 238 rfl) rfl
theorem q2009 : (Jvm.Cond.code ({ cls := "LoanNamesModel", name := "law", desc := "(I)I" } : Jvm.MethodName) prog_24_method_81_code (3 : Nat) (Option.some Jvm.ClassFile.FieldType.int)) ∈ lw_all := lw_g (lw_at lw_m8 239 rfl) rfl
theorem q2010 : (Jvm.Cond.methodLink "LoanNamesModel" (538 : Nat) ({ cls := "LoanNamesModel", name := "readBars", desc := "(II)I" } : Jvm.MethodName)) ∈ lw_all := lw_g (lw_at lw_m9 0 rfl) rfl
theorem q2011 : (Jvm.Cond.privateMethod ({ cls := "LoanNamesModel", name := "readBars", desc := "(II)I" } : Jvm.MethodName)) ∈ lw_tbl := lw_at lw_m9 1 rfl
theorem q2012 : (Jvm.Cond.instanceMethod ({ cls := "LoanNamesModel", name := "readBars", desc := "(II)I" } : Jvm.MethodName)) ∈ lw_all := lw_g (lw_at lw_m9 2 rfl) rfl
theorem q2013 : (Jvm.Cond.code ({ cls := "LoanNamesModel", name := "readBars", desc := "(II)I" } : Jvm.MethodName) prog_24_method_80_code (4 : Nat) (Option.some Jvm.ClassFile.FieldType.int)) ∈ lw_all := lw_g (lw_at lw_m9 3 rfl) rfl
theorem q2014 : (Jvm.Cond.methodLink "LoanNamesModel" (532 : Nat) ({ cls := "LoanNamesModel", name := "readBar", desc := "(I)V" } : Jvm.MethodName)) ∈ lw_all := lw_g (lw_at lw_m9 4 rfl) rfl
theorem q2015 : (Jvm.Cond.privateMethod ({ cls := "LoanNamesModel", name := "readBar", desc := "(I)V" } : Jvm.MethodName)) ∈ lw_tbl := lw_at lw_m9 5 rfl
theorem q2016 : (Jvm.Cond.instanceMethod ({ cls := "LoanNamesModel", name := "readBar", desc := "(I)V" } : Jvm.MethodName)) ∈ lw_all := lw_g (lw_at lw_m9 6 rfl) rfl
theorem q2017 : (Jvm.Cond.code ({ cls := "LoanNamesModel", name := "readBar", desc := "(I)V" } : Jvm.MethodName) prog_24_method_79_code (2 : Nat) (Option.none : Option Jvm.ClassFile.FieldType)) ∈ lw_all := lw_g (lw_at lw_m9 7 rfl) rfl
theorem q2018 : (Jvm.Cond.constantLong "LoanNamesModel" (517 : Nat) (1503 : Int64)) ∈ lw_all := lw_g (lw_at lw_m9 8 rfl) rfl
theorem q2019 : (Jvm.Cond.methodLink "LoanNamesModel" (519 : Nat) ({ cls := "LoanNamesModel", name := "formHere", desc := "()I" } : Jvm.MethodName)) ∈ lw_all := lw_g (lw_at lw_m9 9 rfl) rfl
theorem q2020 : (Jvm.Cond.privateMethod ({ cls := "LoanNamesModel", name := "formHere", desc := "()I" } : Jvm.MethodName)) ∈ lw_tbl := lw_at lw_m9 10 rfl
theorem q2021 : (Jvm.Cond.instanceMethod ({ cls := "LoanNamesModel", name := "formHere", desc := "()I" } : Jvm.MethodName)) ∈ lw_all := lw_g (lw_at lw_m9 11 rfl) rfl
theorem q2022 : (Jvm.Cond.code ({ cls := "LoanNamesModel", name := "formHere", desc := "()I" } : Jvm.MethodName) prog_24_method_76_code (3 : Nat) (Option.some Jvm.ClassFile.FieldType.int)) ∈ lw_all := lw_g (lw_at lw_m9 12 rfl) rfl
theorem q2023 : (Jvm.Cond.constantLong "LoanNamesModel" (509 : Nat) (1132 : Int64)) ∈ lw_all := lw_g (lw_at lw_m9 13 rfl) rfl
theorem q2024 : (Jvm.Cond.methodLink "LoanNamesModel" (522 : Nat) ({ cls := "LoanNamesModel", name := "ofHere", desc := "()I" } : Jvm.MethodName)) ∈ lw_all := lw_g (lw_at lw_m9 14 rfl) rfl
theorem q2025 : (Jvm.Cond.privateMethod ({ cls := "LoanNamesModel", name := "ofHere", desc := "()I" } : Jvm.MethodName)) ∈ lw_tbl := lw_at lw_m9 15 rfl
theorem q2026 : (Jvm.Cond.instanceMethod ({ cls := "LoanNamesModel", name := "ofHere", desc := "()I" } : Jvm.MethodName)) ∈ lw_all := lw_g (lw_at lw_m9 16 rfl) rfl
theorem q2027 : (Jvm.Cond.code ({ cls := "LoanNamesModel", name := "ofHere", desc := "()I" } : Jvm.MethodName) prog_24_method_77_code (1 : Nat) (Option.some Jvm.ClassFile.FieldType.int)) ∈ lw_all := lw_g (lw_at lw_m9 17 rfl) rfl
theorem q2028 : (Jvm.Cond.constantLong "LoanNamesModel" (511 : Nat) (411 : Int64)) ∈ lw_all := lw_g (lw_at lw_m9 18 rfl) rfl
theorem q2029 : (Jvm.Cond.constantLong "LoanNamesModel" (525 : Nat) (399641 : Int64)) ∈ lw_all := lw_g (lw_at lw_m9 19 rfl) rfl
theorem q2030 : (Jvm.Cond.methodLink "LoanNamesModel" (527 : Nat) ({ cls := "LoanNamesModel", name := "askedHere", desc := "()I" } : Jvm.MethodName)) ∈ lw_all := lw_g (lw_at lw_m9 20 rfl) rfl
theorem q2031 : (Jvm.Cond.privateMethod ({ cls := "LoanNamesModel", name := "askedHere", desc := "()I" } : Jvm.MethodName)) ∈ lw_tbl := lw_at lw_m9 21 rfl
theorem q2032 : (Jvm.Cond.instanceMethod ({ cls := "LoanNamesModel", name := "askedHere", desc := "()I" } : Jvm.MethodName)) ∈ lw_all := lw_g (lw_at lw_m9 22 rfl) rfl
theorem q2033 : (Jvm.Cond.code ({ cls := "LoanNamesModel", name := "askedHere", desc := "()I" } : Jvm.MethodName) prog_24_method_78_code (1 : Nat) (Option.some Jvm.ClassFile.FieldType.int)) ∈ lw_all := lw_g (lw_at lw_m9 23 rfl) rfl
theorem q2034 : (Jvm.Cond.constantLong "LoanNamesModel" (513 : Nat) (375062 : Int64)) ∈ lw_all := lw_g (lw_at lw_m9 24 rfl) rfl
theorem q2035 : (Jvm.Cond.constantLong "LoanNamesModel" (515 : Nat) (267305 : Int64)) ∈ lw_all := lw_g (lw_at lw_m9 25 rfl) rfl
theorem q2036 : (Jvm.Cond.constantLong "LoanNamesModel" (530 : Nat) (335207579 : Int64)) ∈ lw_all := lw_g (lw_at lw_m9 26 rfl) rfl
theorem q2038 : (Jvm.Cond.instanceMethod ({ cls := "LoanNamesModel", name := "word", desc := "(I)I" } : Jvm.MethodName)) ∈ lw_all := lw_g (lw_at lw_m9 28 rfl) rfl
theorem q2039 : (Jvm.Cond.selects "LoanNamesModel" ({ cls := "LoanNamesModel", name := "word", desc := "(I)I" } : Jvm.MethodName) ({ cls := "LoanNamesModel", name := "word", desc := "(I)I" } : Jvm.MethodName)) ∈ lw_all := lw_g (lw_at lw_m9 29 rfl) rfl
theorem q2040 : (Jvm.Cond.code ({ cls := "LoanNamesModel", name := "word", desc := "(I)I" } : Jvm.MethodName) prog_24_method_82_code (3 : Nat) (Option.some Jvm.ClassFile.FieldType.int)) ∈ lw_all := lw_g (lw_at lw_m9 30 rfl) rfl
theorem q2042 : (Jvm.Cond.instanceMethod ({ cls := "LoanNamesModel", name := "breach", desc := "(I)I" } : Jvm.MethodName)) ∈ lw_all := lw_g (lw_at lw_m9 32 rfl) rfl
theorem q2043 : (Jvm.Cond.selects "LoanNamesModel" ({ cls := "LoanNamesModel", name := "breach", desc := "(I)I" } : Jvm.MethodName) ({ cls := "LoanNamesModel", name := "breach", desc := "(I)I" } : Jvm.MethodName)) ∈ lw_all := lw_g (lw_at lw_m9 33 rfl) rfl
theorem q2044 : (Jvm.Cond.code ({ cls := "LoanNamesModel", name := "breach", desc := "(I)I" } : Jvm.MethodName) prog_24_method_88_code (3 : Nat) (Option.some Jvm.ClassFile.FieldType.int)) ∈ lw_all := lw_g (lw_at lw_m9 34 rfl) rfl
theorem q2045 : (Jvm.Cond.methodLink "LoanNamesModel" (565 : Nat) ({ cls := "LoanNamesModel", name := "breachNow", desc := "()I" } : Jvm.MethodName)) ∈ lw_all := lw_g (lw_at lw_m9 35 rfl) rfl
theorem q2046 : (Jvm.Cond.privateMethod ({ cls := "LoanNamesModel", name := "breachNow", desc := "()I" } : Jvm.MethodName)) ∈ lw_tbl := lw_at lw_m9 36 rfl
theorem q2047 : (Jvm.Cond.instanceMethod ({ cls := "LoanNamesModel", name := "breachNow", desc := "()I" } : Jvm.MethodName)) ∈ lw_all := lw_g (lw_at lw_m9 37 rfl) rfl
theorem q2048 : (Jvm.Cond.code ({ cls := "LoanNamesModel", name := "breachNow", desc := "()I" } : Jvm.MethodName) prog_24_method_87_code (3 : Nat) (Option.some Jvm.ClassFile.FieldType.int)) ∈ lw_all := lw_g (lw_at lw_m9 38 rfl) rfl
theorem q2049 : (Jvm.Cond.methodLink "LoanNamesModel" (559 : Nat) ({ cls := "LoanNamesModel", name := "findLeaves", desc := "()V" } : Jvm.MethodName)) ∈ lw_all := lw_g (lw_at lw_m9 39 rfl) rfl
theorem q2050 : (Jvm.Cond.privateMethod ({ cls := "LoanNamesModel", name := "findLeaves", desc := "()V" } : Jvm.MethodName)) ∈ lw_tbl := lw_at lw_m9 40 rfl
theorem q2051 : (Jvm.Cond.instanceMethod ({ cls := "LoanNamesModel", name := "findLeaves", desc := "()V" } : Jvm.MethodName)) ∈ lw_all := lw_g (lw_at lw_m9 41 rfl) rfl
theorem q2052 : (Jvm.Cond.code ({ cls := "LoanNamesModel", name := "findLeaves", desc := "()V" } : Jvm.MethodName) prog_24_method_83_code (3 : Nat) (Option.none : Option Jvm.ClassFile.FieldType)) ∈ lw_all := lw_g (lw_at lw_m9 42 rfl) rfl
theorem q2053 : (Jvm.Cond.methodLink "LoanNamesModel" (562 : Nat) ({ cls := "LoanNamesModel", name := "doesBar", desc := "(I)Z" } : Jvm.MethodName)) ∈ lw_all := lw_g (lw_at lw_m9 43 rfl) rfl
theorem q2054 : (Jvm.Cond.privateMethod ({ cls := "LoanNamesModel", name := "doesBar", desc := "(I)Z" } : Jvm.MethodName)) ∈ lw_tbl := lw_at lw_m9 44 rfl
theorem q2055 : (Jvm.Cond.instanceMethod ({ cls := "LoanNamesModel", name := "doesBar", desc := "(I)Z" } : Jvm.MethodName)) ∈ lw_all := lw_g (lw_at lw_m9 45 rfl) rfl
theorem q2056 : (Jvm.Cond.code ({ cls := "LoanNamesModel", name := "doesBar", desc := "(I)Z" } : Jvm.MethodName) prog_24_method_86_code (4 : Nat) (Option.some Jvm.ClassFile.FieldType.boolean)) ∈ lw_all := lw_g (lw_at lw_m9 46 rfl) rfl
theorem q2057 : (Jvm.Cond.methodLink "LoanNamesModel" (547 : Nat) ({ cls := "LoanNamesModel", name := "isOf", desc := "(III)Z" } : Jvm.MethodName)) ∈ lw_all := lw_g (lw_at lw_m9 47 rfl) rfl
theorem q2058 : (Jvm.Cond.privateMethod ({ cls := "LoanNamesModel", name := "isOf", desc := "(III)Z" } : Jvm.MethodName)) ∈ lw_tbl := lw_at lw_m9 48 rfl
theorem q2059 : (Jvm.Cond.instanceMethod ({ cls := "LoanNamesModel", name := "isOf", desc := "(III)Z" } : Jvm.MethodName)) ∈ lw_all := lw_g (lw_at lw_m9 49 rfl) rfl
theorem q2060 : (Jvm.Cond.code ({ cls := "LoanNamesModel", name := "isOf", desc := "(III)Z" } : Jvm.MethodName) prog_24_method_84_code (5 : Nat) (Option.some Jvm.ClassFile.FieldType.boolean)) ∈ lw_all := lw_g (lw_at lw_m9 50 rfl) rfl
theorem q2061 : (Jvm.Cond.methodLink "LoanNamesModel" (556 : Nat) ({ cls := "LoanNamesModel", name := "isPair", desc := "(III)Z" } : Jvm.MethodName)) ∈ lw_all := lw_g (lw_at lw_m9 51 rfl) rfl
theorem q2062 : (Jvm.Cond.privateMethod ({ cls := "LoanNamesModel", name := "isPair", desc := "(III)Z" } : Jvm.MethodName)) ∈ lw_tbl := lw_at lw_m9 52 rfl
theorem q2063 : (Jvm.Cond.instanceMethod ({ cls := "LoanNamesModel", name := "isPair", desc := "(III)Z" } : Jvm.MethodName)) ∈ lw_all := lw_g (lw_at lw_m9 53 rfl) rfl
theorem q2064 : (Jvm.Cond.code ({ cls := "LoanNamesModel", name := "isPair", desc := "(III)Z" } : Jvm.MethodName) prog_24_method_85_code (7 : Nat) (Option.some Jvm.ClassFile.FieldType.boolean)) ∈ lw_all := lw_g (lw_at lw_m9 54 rfl) rfl
theorem q2066 : (Jvm.Cond.instanceMethod ({ cls := "LoanNamesModel", name := "bars", desc := "(I)I" } : Jvm.MethodName)) ∈ lw_all := lw_g (lw_at lw_m9 56 rfl) rfl
theorem q2067 : (Jvm.Cond.selects "LoanNamesModel" ({ cls := "LoanNamesModel", name := "bars", desc := "(I)I" } : Jvm.MethodName) ({ cls := "LoanNamesModel", name := "bars", desc := "(I)I" } : Jvm.MethodName)) ∈ lw_all := lw_g (lw_at lw_m9 57 rfl) rfl
theorem q2068 : (Jvm.Cond.code ({ cls := "LoanNamesModel", name := "bars", desc := "(I)I" } : Jvm.MethodName) prog_24_method_90_code (2 : Nat) (Option.some Jvm.ClassFile.FieldType.int)) ∈ lw_all := lw_g (lw_at lw_m9 58 rfl) rfl
theorem q2069 : (Jvm.Cond.methodLink "LoanNamesModel" (568 : Nat) ({ cls := "LoanNamesModel", name := "doesWordBar", desc := "(I)Z" } : Jvm.MethodName)) ∈ lw_all := lw_g (lw_at lw_m9 59 rfl) rfl
theorem q2070 : (Jvm.Cond.privateMethod ({ cls := "LoanNamesModel", name := "doesWordBar", desc := "(I)Z" } : Jvm.MethodName)) ∈ lw_tbl := lw_at lw_m9 60 rfl
theorem q2071 : (Jvm.Cond.instanceMethod ({ cls := "LoanNamesModel", name := "doesWordBar", desc := "(I)Z" } : Jvm.MethodName)) ∈ lw_all := lw_g (lw_at lw_m9 61 rfl) rfl
theorem q2072 : (Jvm.Cond.code ({ cls := "LoanNamesModel", name := "doesWordBar", desc := "(I)Z" } : Jvm.MethodName) prog_24_method_89_code (3 : Nat) (Option.some Jvm.ClassFile.FieldType.boolean)) ∈ lw_all := lw_g (lw_at lw_m9 62 rfl) rfl
theorem q2074 : (Jvm.Cond.instanceMethod ({ cls := "LoanNamesModel", name := "offer", desc := "(I)I" } : Jvm.MethodName)) ∈ lw_all := lw_g (lw_at lw_m9 64 rfl) rfl
theorem q2075 : (Jvm.Cond.selects "LoanNamesModel" ({ cls := "LoanNamesModel", name := "offer", desc := "(I)I" } : Jvm.MethodName) ({ cls := "LoanNamesModel", name := "offer", desc := "(I)I" } : Jvm.MethodName)) ∈ lw_all := lw_g (lw_at lw_m9 65 rfl) rfl
theorem q2076 : (Jvm.Cond.code ({ cls := "LoanNamesModel", name := "offer", desc := "(I)I" } : Jvm.MethodName) prog_24_method_91_code (3 : Nat) (Option.some Jvm.ClassFile.FieldType.int)) ∈ lw_all := lw_g (lw_at lw_m9 66 rfl) rfl
theorem q2078 : (Jvm.Cond.instanceMethod ({ cls := "LoanNamesModel", name := "sly", desc := "(II)I" } : Jvm.MethodName)) ∈ lw_all := lw_g (lw_at lw_m9 68 rfl) rfl
theorem q2079 : (Jvm.Cond.selects "LoanNamesModel" ({ cls := "LoanNamesModel", name := "sly", desc := "(II)I" } : Jvm.MethodName) ({ cls := "LoanNamesModel", name := "sly", desc := "(II)I" } : Jvm.MethodName)) ∈ lw_all := lw_g (lw_at lw_m9 69 rfl) rfl
theorem q2080 : (Jvm.Cond.code ({ cls := "LoanNamesModel", name := "sly", desc := "(II)I" } : Jvm.MethodName) prog_24_method_94_code (3 : Nat) (Option.some Jvm.ClassFile.FieldType.int)) ∈ lw_all := lw_g (lw_at lw_m9 70 rfl) rfl
theorem q2081 : (Jvm.Cond.methodLink "LoanNamesModel" (583 : Nat) ({ cls := "LoanNamesModel", name := "findSly", desc := "(I)V" } : Jvm.MethodName)) ∈ lw_all := lw_g (lw_at lw_m9 71 rfl) rfl
theorem q2082 : (Jvm.Cond.privateMethod ({ cls := "LoanNamesModel", name := "findSly", desc := "(I)V" } : Jvm.MethodName)) ∈ lw_tbl := lw_at lw_m9 72 rfl
theorem q2083 : (Jvm.Cond.instanceMethod ({ cls := "LoanNamesModel", name := "findSly", desc := "(I)V" } : Jvm.MethodName)) ∈ lw_all := lw_g (lw_at lw_m9 73 rfl) rfl
theorem q2084 : (Jvm.Cond.code ({ cls := "LoanNamesModel", name := "findSly", desc := "(I)V" } : Jvm.MethodName) prog_24_method_92_code (4 : Nat) (Option.none : Option Jvm.ClassFile.FieldType)) ∈ lw_all := lw_g (lw_at lw_m9 74 rfl) rfl
theorem q2085 : (Jvm.Cond.methodLink "LoanNamesModel" (580 : Nat) ({ cls := "LoanNamesModel", name := "wordsThatBar", desc := "()I" } : Jvm.MethodName)) ∈ lw_all := lw_g (lw_at lw_m9 75 rfl) rfl
theorem q2086 : (Jvm.Cond.privateMethod ({ cls := "LoanNamesModel", name := "wordsThatBar", desc := "()I" } : Jvm.MethodName)) ∈ lw_tbl := lw_at lw_m9 76 rfl
theorem q2087 : (Jvm.Cond.instanceMethod ({ cls := "LoanNamesModel", name := "wordsThatBar", desc := "()I" } : Jvm.MethodName)) ∈ lw_all := lw_g (lw_at lw_m9 77 rfl) rfl
theorem q2088 : (Jvm.Cond.code ({ cls := "LoanNamesModel", name := "wordsThatBar", desc := "()I" } : Jvm.MethodName) prog_24_method_93_code (3 : Nat) (Option.some Jvm.ClassFile.FieldType.int)) ∈ lw_all := lw_g (lw_at lw_m9 78 rfl) rfl
theorem q2090 : (Jvm.Cond.instanceMethod ({ cls := "LoanNamesModel", name := "honest", desc := "()I" } : Jvm.MethodName)) ∈ lw_all := lw_g (lw_at lw_m9 80 rfl) rfl
theorem q2091 : (Jvm.Cond.selects "LoanNamesModel" ({ cls := "LoanNamesModel", name := "honest", desc := "()I" } : Jvm.MethodName) ({ cls := "LoanNamesModel", name := "honest", desc := "()I" } : Jvm.MethodName)) ∈ lw_all := lw_g (lw_at lw_m9 81 rfl) rfl
theorem q2092 : (Jvm.Cond.code ({ cls := "LoanNamesModel", name := "honest", desc := "()I" } : Jvm.MethodName) prog_24_method_95_code (2 : Nat) (Option.some Jvm.ClassFile.FieldType.int)) ∈ lw_all := lw_g (lw_at lw_m9 82 rfl) rfl
theorem q2094 : (Jvm.Cond.instanceMethod ({ cls := "LoanNamesModel", name := "innocent", desc := "(II)I" } : Jvm.MethodName)) ∈ lw_all := lw_g (lw_at lw_m9 84 rfl) rfl
theorem q2095 : (Jvm.Cond.selects "LoanNamesModel" ({ cls := "LoanNamesModel", name := "innocent", desc := "(II)I" } : Jvm.MethodName) ({ cls := "LoanNamesModel", name := "innocent", desc := "(II)I" } : Jvm.MethodName)) ∈ lw_all := lw_g (lw_at lw_m9 85 rfl) rfl
theorem q2096 : (Jvm.Cond.code ({ cls := "LoanNamesModel", name := "innocent", desc := "(II)I" } : Jvm.MethodName) prog_24_method_97_code (3 : Nat) (Option.some Jvm.ClassFile.FieldType.int)) ∈ lw_all := lw_g (lw_at lw_m9 86 rfl) rfl
theorem q2097 : (Jvm.Cond.methodLink "LoanNamesModel" (589 : Nat) ({ cls := "LoanNamesModel", name := "honestAtHand", desc := "(I)V" } : Jvm.MethodName)) ∈ lw_all := lw_g (lw_at lw_m9 87 rfl) rfl
theorem q2098 : (Jvm.Cond.privateMethod ({ cls := "LoanNamesModel", name := "honestAtHand", desc := "(I)V" } : Jvm.MethodName)) ∈ lw_tbl := lw_at lw_m9 88 rfl
theorem q2099 : (Jvm.Cond.instanceMethod ({ cls := "LoanNamesModel", name := "honestAtHand", desc := "(I)V" } : Jvm.MethodName)) ∈ lw_all := lw_g (lw_at lw_m9 89 rfl) rfl
theorem q2100 : (Jvm.Cond.code ({ cls := "LoanNamesModel", name := "honestAtHand", desc := "(I)V" } : Jvm.MethodName) prog_24_method_96_code (3 : Nat) (Option.none : Option Jvm.ClassFile.FieldType)) ∈ lw_all := lw_g (lw_at lw_m9 90 rfl) rfl
theorem q2102 : (Jvm.Cond.instanceMethod ({ cls := "LoanNamesModel", name := "parts", desc := "(I)I" } : Jvm.MethodName)) ∈ lw_all := lw_g (lw_at lw_m9 92 rfl) rfl
theorem q2103 : (Jvm.Cond.selects "LoanNamesModel" ({ cls := "LoanNamesModel", name := "parts", desc := "(I)I" } : Jvm.MethodName) ({ cls := "LoanNamesModel", name := "parts", desc := "(I)I" } : Jvm.MethodName)) ∈ lw_all := lw_g (lw_at lw_m9 93 rfl) rfl
theorem q2104 : (Jvm.Cond.code ({ cls := "LoanNamesModel", name := "parts", desc := "(I)I" } : Jvm.MethodName) prog_24_method_99_code (4 : Nat) (Option.some Jvm.ClassFile.FieldType.int)) ∈ lw_all := lw_g (lw_at lw_m9 94 rfl) rfl
theorem q2105 : (Jvm.Cond.methodLink "LoanNamesModel" (592 : Nat) ({ cls := "LoanNamesModel", name := "doPart", desc := "(II)Z" } : Jvm.MethodName)) ∈ lw_all := lw_g (lw_at lw_m9 95 rfl) rfl
theorem q2106 : (Jvm.Cond.privateMethod ({ cls := "LoanNamesModel", name := "doPart", desc := "(II)Z" } : Jvm.MethodName)) ∈ lw_tbl := lw_at lw_m9 96 rfl
theorem q2107 : (Jvm.Cond.instanceMethod ({ cls := "LoanNamesModel", name := "doPart", desc := "(II)Z" } : Jvm.MethodName)) ∈ lw_all := lw_g (lw_at lw_m9 97 rfl) rfl
theorem q2108 : (Jvm.Cond.code ({ cls := "LoanNamesModel", name := "doPart", desc := "(II)Z" } : Jvm.MethodName) prog_24_method_98_code (5 : Nat) (Option.some Jvm.ClassFile.FieldType.boolean)) ∈ lw_all := lw_g (lw_at lw_m9 98 rfl) rfl
theorem q2110 : (Jvm.Cond.instanceMethod ({ cls := "LoanNamesModel", name := "stop", desc := "(I)I" } : Jvm.MethodName)) ∈ lw_all := lw_g (lw_at lw_m9 100 rfl) rfl
theorem q2111 : (Jvm.Cond.selects "LoanNamesModel" ({ cls := "LoanNamesModel", name := "stop", desc := "(I)I" } : Jvm.MethodName) ({ cls := "LoanNamesModel", name := "stop", desc := "(I)I" } : Jvm.MethodName)) ∈ lw_all := lw_g (lw_at lw_m9 101 rfl) rfl
theorem q2112 : (Jvm.Cond.code ({ cls := "LoanNamesModel", name := "stop", desc := "(I)I" } : Jvm.MethodName) prog_24_method_100_code (7 : Nat) (Option.some Jvm.ClassFile.FieldType.int)) ∈ lw_all := lw_g (lw_at lw_m9 102 rfl) rfl
theorem q2114 : (Jvm.Cond.instanceMethod ({ cls := "LoanNamesModel", name := "heap", desc := "(II)I" } : Jvm.MethodName)) ∈ lw_all := lw_g (lw_at lw_m9 104 rfl) rfl
theorem q2115 : (Jvm.Cond.selects "LoanNamesModel" ({ cls := "LoanNamesModel", name := "heap", desc := "(II)I" } : Jvm.MethodName) ({ cls := "LoanNamesModel", name := "heap", desc := "(II)I" } : Jvm.MethodName)) ∈ lw_all := lw_g (lw_at lw_m9 105 rfl) rfl
theorem q2116 : (Jvm.Cond.code ({ cls := "LoanNamesModel", name := "heap", desc := "(II)I" } : Jvm.MethodName) prog_24_method_103_code (5 : Nat) (Option.some Jvm.ClassFile.FieldType.int)) ∈ lw_all := lw_g (lw_at lw_m9 106 rfl) rfl
theorem q2117 : (Jvm.Cond.methodLink "LoanNamesModel" (601 : Nat) ({ cls := "LoanNamesModel", name := "findGroups", desc := "(I)V" } : Jvm.MethodName)) ∈ lw_all := lw_g (lw_at lw_m9 107 rfl) rfl
theorem q2118 : (Jvm.Cond.privateMethod ({ cls := "LoanNamesModel", name := "findGroups", desc := "(I)V" } : Jvm.MethodName)) ∈ lw_tbl := lw_at lw_m9 108 rfl
theorem q2119 : (Jvm.Cond.instanceMethod ({ cls := "LoanNamesModel", name := "findGroups", desc := "(I)V" } : Jvm.MethodName)) ∈ lw_all := lw_g (lw_at lw_m9 109 rfl) rfl
theorem q2120 : (Jvm.Cond.code ({ cls := "LoanNamesModel", name := "findGroups", desc := "(I)V" } : Jvm.MethodName) prog_24_method_102_code (5 : Nat) (Option.none : Option Jvm.ClassFile.FieldType)) ∈ lw_all := lw_g (lw_at lw_m9 110 rfl) rfl
theorem q2121 : (Jvm.Cond.methodLink "LoanNamesModel" (598 : Nat) ({ cls := "LoanNamesModel", name := "doHang", desc := "(III)Z" } : Jvm.MethodName)) ∈ lw_all := lw_g (lw_at lw_m9 111 rfl) rfl
theorem q2122 : (Jvm.Cond.privateMethod ({ cls := "LoanNamesModel", name := "doHang", desc := "(III)Z" } : Jvm.MethodName)) ∈ lw_tbl := lw_at lw_m9 112 rfl
theorem q2123 : (Jvm.Cond.instanceMethod ({ cls := "LoanNamesModel", name := "doHang", desc := "(III)Z" } : Jvm.MethodName)) ∈ lw_all := lw_g (lw_at lw_m9 113 rfl) rfl
theorem q2124 : (Jvm.Cond.code ({ cls := "LoanNamesModel", name := "doHang", desc := "(III)Z" } : Jvm.MethodName) prog_24_method_101_code (5 : Nat) (Option.some Jvm.ClassFile.FieldType.boolean)) ∈ lw_all := lw_g (lw_at lw_m9 114 rfl) rfl
theorem q2125 : (Jvm.Cond.methodLink "LoanNamesModel" (595 : Nat) ({ cls := "LoanNamesModel", name := "size", desc := "(II)I" } : Jvm.MethodName)) ∈ lw_all := lw_g (lw_at lw_m9 115 rfl) rfl
theorem q2127 : (Jvm.Cond.instanceMethod ({ cls := "LoanNamesModel", name := "group", desc := "(II)I" } : Jvm.MethodName)) ∈ lw_all := lw_g (lw_at lw_m9 117 rfl) rfl
theorem q2128 : (Jvm.Cond.selects "LoanNamesModel" ({ cls := "LoanNamesModel", name := "group", desc := "(II)I" } : Jvm.MethodName) ({ cls := "LoanNamesModel", name := "group", desc := "(II)I" } : Jvm.MethodName)) ∈ lw_all := lw_g (lw_at lw_m9 118 rfl) rfl
theorem q2129 : (Jvm.Cond.code ({ cls := "LoanNamesModel", name := "group", desc := "(II)I" } : Jvm.MethodName) prog_24_method_104_code (4 : Nat) (Option.some Jvm.ClassFile.FieldType.int)) ∈ lw_all := lw_g (lw_at lw_m9 119 rfl) rfl
theorem q2131 : (Jvm.Cond.instanceMethod ({ cls := "LoanNamesModel", name := "count", desc := "(I)I" } : Jvm.MethodName)) ∈ lw_all := lw_g (lw_at lw_m9 121 rfl) rfl
theorem q2132 : (Jvm.Cond.selects "LoanNamesModel" ({ cls := "LoanNamesModel", name := "count", desc := "(I)I" } : Jvm.MethodName) ({ cls := "LoanNamesModel", name := "count", desc := "(I)I" } : Jvm.MethodName)) ∈ lw_all := lw_g (lw_at lw_m9 122 rfl) rfl
theorem q2133 : (Jvm.Cond.code ({ cls := "LoanNamesModel", name := "count", desc := "(I)I" } : Jvm.MethodName) prog_24_method_105_code (2 : Nat) (Option.some Jvm.ClassFile.FieldType.int)) ∈ lw_all := lw_g (lw_at lw_m9 123 rfl) rfl
theorem q2134 : (Jvm.Cond.methodLink "LoanNamesModel" (604 : Nat) ({ cls := "LoanNamesModel", name := "leavesTold", desc := "()I" } : Jvm.MethodName)) ∈ lw_all := lw_g (lw_at lw_m9 124 rfl) rfl
theorem q2135 : (Jvm.Cond.privateMethod ({ cls := "LoanNamesModel", name := "leavesTold", desc := "()I" } : Jvm.MethodName)) ∈ lw_tbl := lw_at lw_m9 125 rfl
theorem q2136 : (Jvm.Cond.instanceMethod ({ cls := "LoanNamesModel", name := "leavesTold", desc := "()I" } : Jvm.MethodName)) ∈ lw_all := lw_g (lw_at lw_m9 126 rfl) rfl
theorem q2137 : (Jvm.Cond.code ({ cls := "LoanNamesModel", name := "leavesTold", desc := "()I" } : Jvm.MethodName) prog_24_method_106_code (3 : Nat) (Option.some Jvm.ClassFile.FieldType.int)) ∈ lw_all := lw_g (lw_at lw_m9 127 rfl) rfl
theorem q2138 : (Jvm.Cond.methodLink "LoanNamesModel" (607 : Nat) ({ cls := "LoanNamesModel", name := "choicesTold", desc := "()I" } : Jvm.MethodName)) ∈ lw_all := lw_g (lw_at lw_m9 128 rfl) rfl
theorem q2139 : (Jvm.Cond.privateMethod ({ cls := "LoanNamesModel", name := "choicesTold", desc := "()I" } : Jvm.MethodName)) ∈ lw_tbl := lw_at lw_m9 129 rfl
theorem q2140 : (Jvm.Cond.instanceMethod ({ cls := "LoanNamesModel", name := "choicesTold", desc := "()I" } : Jvm.MethodName)) ∈ lw_all := lw_g (lw_at lw_m9 130 rfl) rfl
theorem q2141 : (Jvm.Cond.code ({ cls := "LoanNamesModel", name := "choicesTold", desc := "()I" } : Jvm.MethodName) prog_24_method_107_code (3 : Nat) (Option.some Jvm.ClassFile.FieldType.int)) ∈ lw_all := lw_g (lw_at lw_m9 131 rfl) rfl
theorem in_X5 : ∀ w ∈ wsX50, w ∈ lw_all := lw_in wsX50 [1502, 1504, 1506, 1508, 1510, 1512, 1514, 1516, 1518, 1520, 1522, 1524, 1526, 1528, 1530, 1532, 1534, 1536, 1538, 1540, 1542, 1544, 1546, 1548, 1550, 1552, 1554, 1556, 1558, 1560, 1562, 1564, 1566, 1568, 1570, 1572, 1574, 1576, 1578, 1580, 1582, 1584, 1586, 1588, 1590, 1592, 1594, 1596, 1598, 1600, 1602, 1604, 1606, 1608, 1610, 1612, 1614, 1616, 1618, 1620, 1622, 1624, 1626, 1628, 1630, 1632, 1634, 1636, 1638, 1640, 1642, 1644, 1646, 1648, 1650, 1652, 1654, 1656, 1658, 1660, 1662, 1664, 1666, 1668, 1670, 1672, 1674, 1676, 1678, 1680, 1682, 1684, 1686] (by decide +kernel) (by decide +kernel)
