/-! RoseThrowModel -/
set_option maxRecDepth 100000
def RX5 : String := "RoseThrowModel"
def TX5 : u_T := fun k => match k with
  | 0 => ("RoseThrowModel", "thrown", "I", false)
  | 1 => ("RoseThrowModel", "status", "I", false)
  | 2 => ("RoseThrowModel", "refusals", "[I", true)
  | 3 => ("RoseThrowModel", "row", "[I", true)
  | 4 => ("RoseThrowModel", "images", "[I", true)
  | 5 => ("RoseThrowModel", "isKept", "[Z", true)
  | 6 => ("RoseThrowModel", "undos", "[I", true)
  | 7 => ("RoseThrowModel", "sorts", "[I", true)
  | 8 => ("RoseThrowModel", "nUndo", "I", false)
  | 9 => ("RoseThrowModel", "before", "[I", true)
  | 10 => ("RoseThrowModel", "beliefsBefore", "[I", true)
  | 11 => ("RoseThrowModel", "sortsBefore", "[I", true)
  | 12 => ("RoseThrowModel", "rice", "I", false)
  | 13 => ("RoseThrowModel", "tape", "[I", true)
  | 14 => ("RoseThrowModel", "taped", "I", false)
  | 15 => ("RoseThrowModel", "from", "I", false)
  | 16 => ("RoseThrowModel", "to", "I", false)
  | 17 => ("RoseThrowModel", "sort", "I", false)
  | 18 => ("RoseThrowModel", "worth", "J", false)
  | 19 => ("RoseThrowModel", "fault", "I", false)
  | 20 => ("RoseThrowModel", "bad", "Z", false)
  | 21 => ("RoseThrowModel", "ordered", "Z", false)
  | 22 => ("RoseThrowModel", "nClauses", "I", false)
  | 23 => ("RoseThrowModel", "nClause", "[I", true)
  | 24 => ("RoseThrowModel", "nCode", "I", false)
  | 25 => ("RoseThrowModel", "nOp", "[I", true)
  | 26 => ("RoseThrowModel", "nArg", "[I", true)
  | 27 => ("RoseThrowModel", "nLeaves", "I", false)
  | 28 => ("RoseThrowModel", "pile", "[I", true)
  | 29 => ("RoseThrowModel", "pileAt", "[I", true)
  | 30 => ("RoseThrowModel", "piled", "I", false)
  | 31 => ("RoseThrowModel", "opened", "I", false)
  | 32 => ("RoseThrowModel", "words", "[J", true)
  | 33 => ("RoseThrowModel", "orderWords", "[J", true)
  | 34 => ("RoseThrowModel", "heads", "[J", true)
  | 35 => ("RoseThrowModel", "law", "I", false)
  | 36 => ("RoseThrowModel", "set", "[J", true)
  | 37 => ("RoseThrowModel", "now", "[J", true)
  | 38 => ("RoseThrowModel", "rest", "[J", true)
  | 39 => ("RoseThrowModel", "broken", "Z", false)
  | 40 => ("RoseThrowModel", "value", "J", false)
  | 41 => ("RoseThrowModel", "sum", "J", false)
  | 42 => ("RoseThrowModel", "weights", "[I", true)
  | 43 => ("RoseThrowModel", "slipCell", "[I", true)
  | 44 => ("RoseThrowModel", "slipWeight", "[I", true)
  | 45 => ("RoseThrowModel", "all", "I", false)
  | 46 => ("RoseThrowModel", "upper", "J", false)
  | 47 => ("RoseThrowModel", "lower", "J", false)
  | 48 => ("RoseThrowModel", "holds", "[Z", true)
  | 49 => ("RoseThrowModel", "alike", "I", false)
  | 50 => ("RoseThrowModel", "crowd", "I", false)
  | 51 => ("RoseThrowModel", "parts", "[I", true)
  | 52 => ("RoseThrowModel", "bestCell", "I", false)
  | 53 => ("RoseThrowModel", "bestParts", "I", false)
  | 54 => ("RoseThrowModel", "bestThrow", "I", false)
  | 55 => ("RoseThrowModel", "bestHeard", "I", false)
  | 56 => ("RoseThrowModel", "bestUpper", "J", false)
  | 57 => ("RoseThrowModel", "bestLower", "J", false)
  | 58 => ("RoseThrowModel", "nOrder", "[I", true)
  | 59 => ("RoseThrowModel", "done", "I", false)
  | 60 => ("RoseThrowModel", "rushed", "I", false)
  | 61 => ("RoseThrowModel", "stopped", "I", false)
  | 62 => ("RoseThrowModel", "off", "Z", false)
  | 63 => ("RoseThrowModel", "state", "J", false)
  | 64 => ("RoseThrowModel", "drawn", "[I", true)
  | 65 => ("RoseThrowModel", "nDrawn", "I", false)
  | _ => ("RoseThrowModel", "isDrawn", "Z", false)
def tyX5 : Nat → FieldType := fun k => match k with
  | 0 => .int
  | 1 => .int
  | 2 => .array .int
  | 3 => .array .int
  | 4 => .array .int
  | 5 => .array .boolean
  | 6 => .array .int
  | 7 => .array .int
  | 8 => .int
  | 9 => .array .int
  | 10 => .array .int
  | 11 => .array .int
  | 12 => .int
  | 13 => .array .int
  | 14 => .int
  | 15 => .int
  | 16 => .int
  | 17 => .int
  | 18 => .long
  | 19 => .int
  | 20 => .boolean
  | 21 => .boolean
  | 22 => .int
  | 23 => .array .int
  | 24 => .int
  | 25 => .array .int
  | 26 => .array .int
  | 27 => .int
  | 28 => .array .int
  | 29 => .array .int
  | 30 => .int
  | 31 => .int
  | 32 => .array .long
  | 33 => .array .long
  | 34 => .array .long
  | 35 => .int
  | 36 => .array .long
  | 37 => .array .long
  | 38 => .array .long
  | 39 => .boolean
  | 40 => .long
  | 41 => .long
  | 42 => .array .int
  | 43 => .array .int
  | 44 => .array .int
  | 45 => .int
  | 46 => .long
  | 47 => .long
  | 48 => .array .boolean
  | 49 => .int
  | 50 => .int
  | 51 => .array .int
  | 52 => .int
  | 53 => .int
  | 54 => .int
  | 55 => .int
  | 56 => .long
  | 57 => .long
  | 58 => .array .int
  | 59 => .int
  | 60 => .int
  | 61 => .int
  | 62 => .boolean
  | 63 => .long
  | 64 => .array .int
  | 65 => .int
  | _ => .boolean
abbrev wsX50 : List Cond := u_ws RX5 TX5 67
set_option maxRecDepth 100000 in
theorem nmX5 : ∀ a, a < 67 → ∀ b, b < 67 → a ≠ b → (TX5 a).2.1 ≠ (TX5 b).2.1 := by decide +kernel
set_option maxRecDepth 100000 in
theorem tyX5_ok : ∀ k, k < 67 → parseFieldDescriptor (TX5 k).2.2.1 = some (tyX5 k) := by decide +kernel
abbrev cX5_init : ByteArray := prog_22_method_1_code
def yX5_init : MethodName := ⟨RX5, "<init>", "()V"⟩
def dkwX5_init_18 : List UInt8 := [5, 79, 42, 180, 0, 13, 16, 10, 2, 79, 42, 180, 0, 13, 16, 11, 16, 9, 79, 177]
abbrev dktX5_init_18 : List UInt8 := dkwX5_init_18 ++ []
def dkwX5_init_17 : List UInt8 := [6, 79, 42, 180, 0, 13, 16, 6, 6, 79, 42, 180, 0, 13, 16, 7, 6, 79, 42, 180, 0, 13, 16, 8]
abbrev dktX5_init_17 : List UInt8 := dkwX5_init_17 ++ dktX5_init_18
def dkwX5_init_16 : List UInt8 := [2, 181, 0, 143, 42, 16, 12, 188, 10, 181, 0, 146, 42, 180, 0, 13, 6, 2, 79, 42, 180, 0, 13, 7]
abbrev dktX5_init_16 : List UInt8 := dkwX5_init_16 ++ dktX5_init_17
def dkwX5_init_15 : List UInt8 := [16, 6, 188, 4, 181, 0, 134, 42, 16, 7, 188, 10, 181, 0, 137, 42, 16, 96, 188, 10, 181, 0, 140, 42]
abbrev dktX5_init_15 : List UInt8 := dkwX5_init_15 ++ dktX5_init_16
def dkwX5_init_14 : List UInt8 := [16, 37, 188, 10, 181, 0, 125, 42, 16, 9, 188, 10, 181, 0, 128, 42, 16, 9, 188, 10, 181, 0, 131, 42]
abbrev dktX5_init_14 : List UInt8 := dkwX5_init_14 ++ dktX5_init_15
def dkwX5_init_13 : List UInt8 := [188, 11, 181, 0, 116, 42, 16, 13, 188, 11, 181, 0, 119, 42, 17, 1, 144, 188, 11, 181, 0, 122, 42]
abbrev dktX5_init_13 : List UInt8 := dkwX5_init_13 ++ dktX5_init_14
def dkwX5_init_12 : List UInt8 := [4, 20, 0, 107, 80, 89, 5, 20, 0, 109, 80, 89, 6, 20, 0, 111, 80, 181, 0, 113, 42, 16, 15]
abbrev dktX5_init_12 : List UInt8 := dkwX5_init_12 ++ dktX5_init_13
def dkwX5_init_11 : List UInt8 := [20, 0, 98, 80, 89, 7, 20, 0, 100, 80, 181, 0, 102, 42, 7, 188, 11, 89, 3, 20, 0, 105, 80, 89]
abbrev dktX5_init_11 : List UInt8 := dkwX5_init_11 ++ dktX5_init_12
def dkwX5_init_10 : List UInt8 := [188, 11, 89, 3, 20, 0, 92, 80, 89, 4, 20, 0, 94, 80, 89, 5, 20, 0, 96, 80, 89, 6]
abbrev dktX5_init_10 : List UInt8 := dkwX5_init_10 ++ dktX5_init_11
def dkwX5_init_9 : List UInt8 := [20, 0, 82, 80, 89, 16, 12, 20, 0, 84, 80, 89, 16, 13, 20, 0, 86, 80, 181, 0, 88, 42, 8]
abbrev dktX5_init_9 : List UInt8 := dkwX5_init_9 ++ dktX5_init_10
def dkwX5_init_8 : List UInt8 := [89, 16, 8, 20, 0, 76, 80, 89, 16, 9, 20, 0, 78, 80, 89, 16, 10, 20, 0, 80, 80, 89, 16, 11]
abbrev dktX5_init_8 : List UInt8 := dkwX5_init_8 ++ dktX5_init_9
def dkwX5_init_7 : List UInt8 := [20, 0, 68, 80, 89, 8, 20, 0, 70, 80, 89, 16, 6, 20, 0, 72, 80, 89, 16, 7, 20, 0, 74, 80]
abbrev dktX5_init_7 : List UInt8 := dkwX5_init_7 ++ dktX5_init_8
def dkwX5_init_6 : List UInt8 := [20, 0, 60, 80, 89, 4, 20, 0, 62, 80, 89, 5, 20, 0, 64, 80, 89, 6, 20, 0, 66, 80, 89, 7]
abbrev dktX5_init_6 : List UInt8 := dkwX5_init_6 ++ dktX5_init_7
def dkwX5_init_5 : List UInt8 := [17, 1, 144, 188, 10, 181, 0, 54, 42, 17, 1, 144, 188, 10, 181, 0, 57, 42, 16, 14, 188, 11, 89, 3]
abbrev dktX5_init_5 : List UInt8 := dkwX5_init_5 ++ dktX5_init_6
def dkwX5_init_4 : List UInt8 := [188, 10, 181, 0, 45, 42, 17, 1, 144, 188, 10, 181, 0, 48, 42, 17, 1, 144, 188, 10, 181, 0, 51, 42]
abbrev dktX5_init_4 : List UInt8 := dkwX5_init_4 ++ dktX5_init_5
def dkwX5_init_3 : List UInt8 := [16, 16, 188, 10, 181, 0, 35, 42, 17, 1, 144, 188, 10, 181, 0, 38, 42, 2, 181, 0, 41, 42, 16, 96]
abbrev dktX5_init_3 : List UInt8 := dkwX5_init_3 ++ dktX5_init_4
def dkwX5_init_2 : List UInt8 := [16, 16, 188, 10, 181, 0, 26, 42, 16, 120, 188, 10, 181, 0, 29, 42, 16, 6, 188, 10, 181, 0, 32, 42]
abbrev dktX5_init_2 : List UInt8 := dkwX5_init_2 ++ dktX5_init_3
def dkwX5_init_1 : List UInt8 := [17, 42, 168, 188, 10, 181, 0, 16, 42, 5, 188, 4, 181, 0, 19, 42, 16, 108, 188, 10, 181, 0, 23, 42]
abbrev dktX5_init_1 : List UInt8 := dkwX5_init_1 ++ dktX5_init_2
def dkwX5_init_0 : List UInt8 := [42, 183, 0, 1, 42, 16, 7, 188, 10, 181, 0, 7, 42, 17, 21, 84, 188, 10, 181, 0, 13, 42]
abbrev dktX5_init_0 : List UInt8 := dkwX5_init_0 ++ dktX5_init_1
theorem dksX5_init_0 : cX5_init.data.toList.drop 0 = dktX5_init_0 := by decide +kernel
theorem dksX5_init_1 : cX5_init.data.toList.drop 22 = dktX5_init_1 := dk_seg dksX5_init_0 22 rfl rfl
theorem dksX5_init_2 : cX5_init.data.toList.drop 46 = dktX5_init_2 := dk_seg dksX5_init_1 24 rfl rfl
theorem dksX5_init_3 : cX5_init.data.toList.drop 70 = dktX5_init_3 := dk_seg dksX5_init_2 24 rfl rfl
theorem dksX5_init_4 : cX5_init.data.toList.drop 94 = dktX5_init_4 := dk_seg dksX5_init_3 24 rfl rfl
theorem dksX5_init_5 : cX5_init.data.toList.drop 118 = dktX5_init_5 := dk_seg dksX5_init_4 24 rfl rfl
theorem dksX5_init_6 : cX5_init.data.toList.drop 142 = dktX5_init_6 := dk_seg dksX5_init_5 24 rfl rfl
theorem dksX5_init_7 : cX5_init.data.toList.drop 166 = dktX5_init_7 := dk_seg dksX5_init_6 24 rfl rfl
theorem dksX5_init_8 : cX5_init.data.toList.drop 190 = dktX5_init_8 := dk_seg dksX5_init_7 24 rfl rfl
theorem dksX5_init_9 : cX5_init.data.toList.drop 214 = dktX5_init_9 := dk_seg dksX5_init_8 24 rfl rfl
theorem dksX5_init_10 : cX5_init.data.toList.drop 237 = dktX5_init_10 := dk_seg dksX5_init_9 23 rfl rfl
theorem dksX5_init_11 : cX5_init.data.toList.drop 259 = dktX5_init_11 := dk_seg dksX5_init_10 22 rfl rfl
theorem dksX5_init_12 : cX5_init.data.toList.drop 283 = dktX5_init_12 := dk_seg dksX5_init_11 24 rfl rfl
theorem dksX5_init_13 : cX5_init.data.toList.drop 306 = dktX5_init_13 := dk_seg dksX5_init_12 23 rfl rfl
theorem dksX5_init_14 : cX5_init.data.toList.drop 329 = dktX5_init_14 := dk_seg dksX5_init_13 23 rfl rfl
theorem dksX5_init_15 : cX5_init.data.toList.drop 353 = dktX5_init_15 := dk_seg dksX5_init_14 24 rfl rfl
theorem dksX5_init_16 : cX5_init.data.toList.drop 377 = dktX5_init_16 := dk_seg dksX5_init_15 24 rfl rfl
theorem dksX5_init_17 : cX5_init.data.toList.drop 401 = dktX5_init_17 := dk_seg dksX5_init_16 24 rfl rfl
theorem dksX5_init_18 : cX5_init.data.toList.drop 425 = dktX5_init_18 := dk_seg dksX5_init_17 24 rfl rfl
theorem dX5_init_0 : decode cX5_init 0 = .ok (.aload_n 0, 1) := dk_42 (dk_at dksX5_init_0 0 rfl rfl)
theorem dX5_init_1 : decode cX5_init 1 = .ok (.invokespecial 1, 3) := dk_183 0 1 (dk_at dksX5_init_0 1 rfl rfl)
theorem dX5_init_4 : decode cX5_init 4 = .ok (.aload_n 0, 1) := dk_42 (dk_at dksX5_init_0 4 rfl rfl)
theorem dX5_init_5 : decode cX5_init 5 = .ok (.bipush 7, 2) := dk_16 7 (dk_at dksX5_init_0 5 rfl rfl)
theorem dX5_init_7 : decode cX5_init 7 = .ok (.newarray .int, 2) := dk_188_10 (dk_at dksX5_init_0 7 rfl rfl)
theorem dX5_init_9 : decode cX5_init 9 = .ok (.putfield 7, 3) := dk_181 0 7 (dk_at dksX5_init_0 9 rfl rfl)
theorem dX5_init_12 : decode cX5_init 12 = .ok (.aload_n 0, 1) := dk_42 (dk_at dksX5_init_0 12 rfl rfl)
theorem dX5_init_13 : decode cX5_init 13 = .ok (.sipush 5460, 3) := dk_17 21 84 (dk_at dksX5_init_0 13 rfl rfl)
theorem dX5_init_16 : decode cX5_init 16 = .ok (.newarray .int, 2) := dk_188_10 (dk_at dksX5_init_0 16 rfl rfl)
theorem dX5_init_18 : decode cX5_init 18 = .ok (.putfield 13, 3) := dk_181 0 13 (dk_at dksX5_init_0 18 rfl rfl)
theorem dX5_init_21 : decode cX5_init 21 = .ok (.aload_n 0, 1) := dk_42 (dk_at dksX5_init_0 21 rfl rfl)
theorem dX5_init_22 : decode cX5_init 22 = .ok (.sipush 10920, 3) := dk_17 42 168 (dk_at dksX5_init_1 0 rfl rfl)
theorem dX5_init_25 : decode cX5_init 25 = .ok (.newarray .int, 2) := dk_188_10 (dk_at dksX5_init_1 3 rfl rfl)
theorem dX5_init_27 : decode cX5_init 27 = .ok (.putfield 16, 3) := dk_181 0 16 (dk_at dksX5_init_1 5 rfl rfl)
theorem dX5_init_30 : decode cX5_init 30 = .ok (.aload_n 0, 1) := dk_42 (dk_at dksX5_init_1 8 rfl rfl)
theorem dX5_init_31 : decode cX5_init 31 = .ok (.iconst 2, 1) := dk_5 (dk_at dksX5_init_1 9 rfl rfl)
theorem dX5_init_32 : decode cX5_init 32 = .ok (.newarray .boolean, 2) := dk_188_4 (dk_at dksX5_init_1 10 rfl rfl)
theorem dX5_init_34 : decode cX5_init 34 = .ok (.putfield 19, 3) := dk_181 0 19 (dk_at dksX5_init_1 12 rfl rfl)
theorem dX5_init_37 : decode cX5_init 37 = .ok (.aload_n 0, 1) := dk_42 (dk_at dksX5_init_1 15 rfl rfl)
theorem dX5_init_38 : decode cX5_init 38 = .ok (.bipush 108, 2) := dk_16 108 (dk_at dksX5_init_1 16 rfl rfl)
theorem dX5_init_40 : decode cX5_init 40 = .ok (.newarray .int, 2) := dk_188_10 (dk_at dksX5_init_1 18 rfl rfl)
theorem dX5_init_42 : decode cX5_init 42 = .ok (.putfield 23, 3) := dk_181 0 23 (dk_at dksX5_init_1 20 rfl rfl)
theorem dX5_init_45 : decode cX5_init 45 = .ok (.aload_n 0, 1) := dk_42 (dk_at dksX5_init_1 23 rfl rfl)
theorem dX5_init_46 : decode cX5_init 46 = .ok (.bipush 16, 2) := dk_16 16 (dk_at dksX5_init_2 0 rfl rfl)
theorem dX5_init_48 : decode cX5_init 48 = .ok (.newarray .int, 2) := dk_188_10 (dk_at dksX5_init_2 2 rfl rfl)
theorem dX5_init_50 : decode cX5_init 50 = .ok (.putfield 26, 3) := dk_181 0 26 (dk_at dksX5_init_2 4 rfl rfl)
theorem dX5_init_53 : decode cX5_init 53 = .ok (.aload_n 0, 1) := dk_42 (dk_at dksX5_init_2 7 rfl rfl)
theorem dX5_init_54 : decode cX5_init 54 = .ok (.bipush 120, 2) := dk_16 120 (dk_at dksX5_init_2 8 rfl rfl)
theorem dX5_init_56 : decode cX5_init 56 = .ok (.newarray .int, 2) := dk_188_10 (dk_at dksX5_init_2 10 rfl rfl)
theorem dX5_init_58 : decode cX5_init 58 = .ok (.putfield 29, 3) := dk_181 0 29 (dk_at dksX5_init_2 12 rfl rfl)
theorem dX5_init_61 : decode cX5_init 61 = .ok (.aload_n 0, 1) := dk_42 (dk_at dksX5_init_2 15 rfl rfl)
theorem dX5_init_62 : decode cX5_init 62 = .ok (.bipush 6, 2) := dk_16 6 (dk_at dksX5_init_2 16 rfl rfl)
theorem dX5_init_64 : decode cX5_init 64 = .ok (.newarray .int, 2) := dk_188_10 (dk_at dksX5_init_2 18 rfl rfl)
theorem dX5_init_66 : decode cX5_init 66 = .ok (.putfield 32, 3) := dk_181 0 32 (dk_at dksX5_init_2 20 rfl rfl)
theorem dX5_init_69 : decode cX5_init 69 = .ok (.aload_n 0, 1) := dk_42 (dk_at dksX5_init_2 23 rfl rfl)
theorem dX5_init_70 : decode cX5_init 70 = .ok (.bipush 16, 2) := dk_16 16 (dk_at dksX5_init_3 0 rfl rfl)
theorem dX5_init_72 : decode cX5_init 72 = .ok (.newarray .int, 2) := dk_188_10 (dk_at dksX5_init_3 2 rfl rfl)
theorem dX5_init_74 : decode cX5_init 74 = .ok (.putfield 35, 3) := dk_181 0 35 (dk_at dksX5_init_3 4 rfl rfl)
theorem dX5_init_77 : decode cX5_init 77 = .ok (.aload_n 0, 1) := dk_42 (dk_at dksX5_init_3 7 rfl rfl)
theorem dX5_init_78 : decode cX5_init 78 = .ok (.sipush 400, 3) := dk_17 1 144 (dk_at dksX5_init_3 8 rfl rfl)
theorem dX5_init_81 : decode cX5_init 81 = .ok (.newarray .int, 2) := dk_188_10 (dk_at dksX5_init_3 11 rfl rfl)
theorem dX5_init_83 : decode cX5_init 83 = .ok (.putfield 38, 3) := dk_181 0 38 (dk_at dksX5_init_3 13 rfl rfl)
theorem dX5_init_86 : decode cX5_init 86 = .ok (.aload_n 0, 1) := dk_42 (dk_at dksX5_init_3 16 rfl rfl)
theorem dX5_init_87 : decode cX5_init 87 = .ok (.iconst (-1), 1) := dk_2 (dk_at dksX5_init_3 17 rfl rfl)
theorem dX5_init_88 : decode cX5_init 88 = .ok (.putfield 41, 3) := dk_181 0 41 (dk_at dksX5_init_3 18 rfl rfl)
theorem dX5_init_91 : decode cX5_init 91 = .ok (.aload_n 0, 1) := dk_42 (dk_at dksX5_init_3 21 rfl rfl)
theorem dX5_init_92 : decode cX5_init 92 = .ok (.bipush 96, 2) := dk_16 96 (dk_at dksX5_init_3 22 rfl rfl)
theorem dX5_init_94 : decode cX5_init 94 = .ok (.newarray .int, 2) := dk_188_10 (dk_at dksX5_init_4 0 rfl rfl)
theorem dX5_init_96 : decode cX5_init 96 = .ok (.putfield 45, 3) := dk_181 0 45 (dk_at dksX5_init_4 2 rfl rfl)
theorem dX5_init_99 : decode cX5_init 99 = .ok (.aload_n 0, 1) := dk_42 (dk_at dksX5_init_4 5 rfl rfl)
theorem dX5_init_100 : decode cX5_init 100 = .ok (.sipush 400, 3) := dk_17 1 144 (dk_at dksX5_init_4 6 rfl rfl)
theorem dX5_init_103 : decode cX5_init 103 = .ok (.newarray .int, 2) := dk_188_10 (dk_at dksX5_init_4 9 rfl rfl)
theorem dX5_init_105 : decode cX5_init 105 = .ok (.putfield 48, 3) := dk_181 0 48 (dk_at dksX5_init_4 11 rfl rfl)
theorem dX5_init_108 : decode cX5_init 108 = .ok (.aload_n 0, 1) := dk_42 (dk_at dksX5_init_4 14 rfl rfl)
theorem dX5_init_109 : decode cX5_init 109 = .ok (.sipush 400, 3) := dk_17 1 144 (dk_at dksX5_init_4 15 rfl rfl)
theorem dX5_init_112 : decode cX5_init 112 = .ok (.newarray .int, 2) := dk_188_10 (dk_at dksX5_init_4 18 rfl rfl)
theorem dX5_init_114 : decode cX5_init 114 = .ok (.putfield 51, 3) := dk_181 0 51 (dk_at dksX5_init_4 20 rfl rfl)
theorem dX5_init_117 : decode cX5_init 117 = .ok (.aload_n 0, 1) := dk_42 (dk_at dksX5_init_4 23 rfl rfl)
theorem dX5_init_118 : decode cX5_init 118 = .ok (.sipush 400, 3) := dk_17 1 144 (dk_at dksX5_init_5 0 rfl rfl)
theorem dX5_init_121 : decode cX5_init 121 = .ok (.newarray .int, 2) := dk_188_10 (dk_at dksX5_init_5 3 rfl rfl)
theorem dX5_init_123 : decode cX5_init 123 = .ok (.putfield 54, 3) := dk_181 0 54 (dk_at dksX5_init_5 5 rfl rfl)
theorem dX5_init_126 : decode cX5_init 126 = .ok (.aload_n 0, 1) := dk_42 (dk_at dksX5_init_5 8 rfl rfl)
theorem dX5_init_127 : decode cX5_init 127 = .ok (.sipush 400, 3) := dk_17 1 144 (dk_at dksX5_init_5 9 rfl rfl)
theorem dX5_init_130 : decode cX5_init 130 = .ok (.newarray .int, 2) := dk_188_10 (dk_at dksX5_init_5 12 rfl rfl)
theorem dX5_init_132 : decode cX5_init 132 = .ok (.putfield 57, 3) := dk_181 0 57 (dk_at dksX5_init_5 14 rfl rfl)
theorem dX5_init_135 : decode cX5_init 135 = .ok (.aload_n 0, 1) := dk_42 (dk_at dksX5_init_5 17 rfl rfl)
theorem dX5_init_136 : decode cX5_init 136 = .ok (.bipush 14, 2) := dk_16 14 (dk_at dksX5_init_5 18 rfl rfl)
theorem dX5_init_138 : decode cX5_init 138 = .ok (.newarray .long, 2) := dk_188_11 (dk_at dksX5_init_5 20 rfl rfl)
theorem dX5_init_140 : decode cX5_init 140 = .ok (.dup, 1) := dk_89 (dk_at dksX5_init_5 22 rfl rfl)
theorem dX5_init_141 : decode cX5_init 141 = .ok (.iconst 0, 1) := dk_3 (dk_at dksX5_init_5 23 rfl rfl)
theorem dX5_init_142 : decode cX5_init 142 = .ok (.ldc2_w 60, 3) := dk_20 0 60 (dk_at dksX5_init_6 0 rfl rfl)
theorem dX5_init_145 : decode cX5_init 145 = .ok (.lastore, 1) := dk_80 (dk_at dksX5_init_6 3 rfl rfl)
theorem dX5_init_146 : decode cX5_init 146 = .ok (.dup, 1) := dk_89 (dk_at dksX5_init_6 4 rfl rfl)
theorem dX5_init_147 : decode cX5_init 147 = .ok (.iconst 1, 1) := dk_4 (dk_at dksX5_init_6 5 rfl rfl)
theorem dX5_init_148 : decode cX5_init 148 = .ok (.ldc2_w 62, 3) := dk_20 0 62 (dk_at dksX5_init_6 6 rfl rfl)
theorem dX5_init_151 : decode cX5_init 151 = .ok (.lastore, 1) := dk_80 (dk_at dksX5_init_6 9 rfl rfl)
theorem dX5_init_152 : decode cX5_init 152 = .ok (.dup, 1) := dk_89 (dk_at dksX5_init_6 10 rfl rfl)
theorem dX5_init_153 : decode cX5_init 153 = .ok (.iconst 2, 1) := dk_5 (dk_at dksX5_init_6 11 rfl rfl)
theorem dX5_init_154 : decode cX5_init 154 = .ok (.ldc2_w 64, 3) := dk_20 0 64 (dk_at dksX5_init_6 12 rfl rfl)
theorem dX5_init_157 : decode cX5_init 157 = .ok (.lastore, 1) := dk_80 (dk_at dksX5_init_6 15 rfl rfl)
theorem dX5_init_158 : decode cX5_init 158 = .ok (.dup, 1) := dk_89 (dk_at dksX5_init_6 16 rfl rfl)
theorem dX5_init_159 : decode cX5_init 159 = .ok (.iconst 3, 1) := dk_6 (dk_at dksX5_init_6 17 rfl rfl)
theorem dX5_init_160 : decode cX5_init 160 = .ok (.ldc2_w 66, 3) := dk_20 0 66 (dk_at dksX5_init_6 18 rfl rfl)
theorem dX5_init_163 : decode cX5_init 163 = .ok (.lastore, 1) := dk_80 (dk_at dksX5_init_6 21 rfl rfl)
theorem dX5_init_164 : decode cX5_init 164 = .ok (.dup, 1) := dk_89 (dk_at dksX5_init_6 22 rfl rfl)
theorem dX5_init_165 : decode cX5_init 165 = .ok (.iconst 4, 1) := dk_7 (dk_at dksX5_init_6 23 rfl rfl)
theorem dX5_init_166 : decode cX5_init 166 = .ok (.ldc2_w 68, 3) := dk_20 0 68 (dk_at dksX5_init_7 0 rfl rfl)
theorem dX5_init_169 : decode cX5_init 169 = .ok (.lastore, 1) := dk_80 (dk_at dksX5_init_7 3 rfl rfl)
theorem dX5_init_170 : decode cX5_init 170 = .ok (.dup, 1) := dk_89 (dk_at dksX5_init_7 4 rfl rfl)
theorem dX5_init_171 : decode cX5_init 171 = .ok (.iconst 5, 1) := dk_8 (dk_at dksX5_init_7 5 rfl rfl)
theorem dX5_init_172 : decode cX5_init 172 = .ok (.ldc2_w 70, 3) := dk_20 0 70 (dk_at dksX5_init_7 6 rfl rfl)
theorem dX5_init_175 : decode cX5_init 175 = .ok (.lastore, 1) := dk_80 (dk_at dksX5_init_7 9 rfl rfl)
theorem dX5_init_176 : decode cX5_init 176 = .ok (.dup, 1) := dk_89 (dk_at dksX5_init_7 10 rfl rfl)
theorem dX5_init_177 : decode cX5_init 177 = .ok (.bipush 6, 2) := dk_16 6 (dk_at dksX5_init_7 11 rfl rfl)
theorem dX5_init_179 : decode cX5_init 179 = .ok (.ldc2_w 72, 3) := dk_20 0 72 (dk_at dksX5_init_7 13 rfl rfl)
theorem dX5_init_182 : decode cX5_init 182 = .ok (.lastore, 1) := dk_80 (dk_at dksX5_init_7 16 rfl rfl)
theorem dX5_init_183 : decode cX5_init 183 = .ok (.dup, 1) := dk_89 (dk_at dksX5_init_7 17 rfl rfl)
theorem dX5_init_184 : decode cX5_init 184 = .ok (.bipush 7, 2) := dk_16 7 (dk_at dksX5_init_7 18 rfl rfl)
theorem dX5_init_186 : decode cX5_init 186 = .ok (.ldc2_w 74, 3) := dk_20 0 74 (dk_at dksX5_init_7 20 rfl rfl)
theorem dX5_init_189 : decode cX5_init 189 = .ok (.lastore, 1) := dk_80 (dk_at dksX5_init_7 23 rfl rfl)
theorem dX5_init_190 : decode cX5_init 190 = .ok (.dup, 1) := dk_89 (dk_at dksX5_init_8 0 rfl rfl)
theorem dX5_init_191 : decode cX5_init 191 = .ok (.bipush 8, 2) := dk_16 8 (dk_at dksX5_init_8 1 rfl rfl)
theorem dX5_init_193 : decode cX5_init 193 = .ok (.ldc2_w 76, 3) := dk_20 0 76 (dk_at dksX5_init_8 3 rfl rfl)
theorem dX5_init_196 : decode cX5_init 196 = .ok (.lastore, 1) := dk_80 (dk_at dksX5_init_8 6 rfl rfl)
theorem dX5_init_197 : decode cX5_init 197 = .ok (.dup, 1) := dk_89 (dk_at dksX5_init_8 7 rfl rfl)
theorem dX5_init_198 : decode cX5_init 198 = .ok (.bipush 9, 2) := dk_16 9 (dk_at dksX5_init_8 8 rfl rfl)
theorem dX5_init_200 : decode cX5_init 200 = .ok (.ldc2_w 78, 3) := dk_20 0 78 (dk_at dksX5_init_8 10 rfl rfl)
theorem dX5_init_203 : decode cX5_init 203 = .ok (.lastore, 1) := dk_80 (dk_at dksX5_init_8 13 rfl rfl)
theorem dX5_init_204 : decode cX5_init 204 = .ok (.dup, 1) := dk_89 (dk_at dksX5_init_8 14 rfl rfl)
theorem dX5_init_205 : decode cX5_init 205 = .ok (.bipush 10, 2) := dk_16 10 (dk_at dksX5_init_8 15 rfl rfl)
theorem dX5_init_207 : decode cX5_init 207 = .ok (.ldc2_w 80, 3) := dk_20 0 80 (dk_at dksX5_init_8 17 rfl rfl)
theorem dX5_init_210 : decode cX5_init 210 = .ok (.lastore, 1) := dk_80 (dk_at dksX5_init_8 20 rfl rfl)
theorem dX5_init_211 : decode cX5_init 211 = .ok (.dup, 1) := dk_89 (dk_at dksX5_init_8 21 rfl rfl)
theorem dX5_init_212 : decode cX5_init 212 = .ok (.bipush 11, 2) := dk_16 11 (dk_at dksX5_init_8 22 rfl rfl)
theorem dX5_init_214 : decode cX5_init 214 = .ok (.ldc2_w 82, 3) := dk_20 0 82 (dk_at dksX5_init_9 0 rfl rfl)
theorem dX5_init_217 : decode cX5_init 217 = .ok (.lastore, 1) := dk_80 (dk_at dksX5_init_9 3 rfl rfl)
theorem dX5_init_218 : decode cX5_init 218 = .ok (.dup, 1) := dk_89 (dk_at dksX5_init_9 4 rfl rfl)
theorem dX5_init_219 : decode cX5_init 219 = .ok (.bipush 12, 2) := dk_16 12 (dk_at dksX5_init_9 5 rfl rfl)
theorem dX5_init_221 : decode cX5_init 221 = .ok (.ldc2_w 84, 3) := dk_20 0 84 (dk_at dksX5_init_9 7 rfl rfl)
theorem dX5_init_224 : decode cX5_init 224 = .ok (.lastore, 1) := dk_80 (dk_at dksX5_init_9 10 rfl rfl)
theorem dX5_init_225 : decode cX5_init 225 = .ok (.dup, 1) := dk_89 (dk_at dksX5_init_9 11 rfl rfl)
theorem dX5_init_226 : decode cX5_init 226 = .ok (.bipush 13, 2) := dk_16 13 (dk_at dksX5_init_9 12 rfl rfl)
theorem dX5_init_228 : decode cX5_init 228 = .ok (.ldc2_w 86, 3) := dk_20 0 86 (dk_at dksX5_init_9 14 rfl rfl)
theorem dX5_init_231 : decode cX5_init 231 = .ok (.lastore, 1) := dk_80 (dk_at dksX5_init_9 17 rfl rfl)
theorem dX5_init_232 : decode cX5_init 232 = .ok (.putfield 88, 3) := dk_181 0 88 (dk_at dksX5_init_9 18 rfl rfl)
theorem dX5_init_235 : decode cX5_init 235 = .ok (.aload_n 0, 1) := dk_42 (dk_at dksX5_init_9 21 rfl rfl)
theorem dX5_init_236 : decode cX5_init 236 = .ok (.iconst 5, 1) := dk_8 (dk_at dksX5_init_9 22 rfl rfl)
theorem dX5_init_237 : decode cX5_init 237 = .ok (.newarray .long, 2) := dk_188_11 (dk_at dksX5_init_10 0 rfl rfl)
theorem dX5_init_239 : decode cX5_init 239 = .ok (.dup, 1) := dk_89 (dk_at dksX5_init_10 2 rfl rfl)
theorem dX5_init_240 : decode cX5_init 240 = .ok (.iconst 0, 1) := dk_3 (dk_at dksX5_init_10 3 rfl rfl)
theorem dX5_init_241 : decode cX5_init 241 = .ok (.ldc2_w 92, 3) := dk_20 0 92 (dk_at dksX5_init_10 4 rfl rfl)
theorem dX5_init_244 : decode cX5_init 244 = .ok (.lastore, 1) := dk_80 (dk_at dksX5_init_10 7 rfl rfl)
theorem dX5_init_245 : decode cX5_init 245 = .ok (.dup, 1) := dk_89 (dk_at dksX5_init_10 8 rfl rfl)
theorem dX5_init_246 : decode cX5_init 246 = .ok (.iconst 1, 1) := dk_4 (dk_at dksX5_init_10 9 rfl rfl)
theorem dX5_init_247 : decode cX5_init 247 = .ok (.ldc2_w 94, 3) := dk_20 0 94 (dk_at dksX5_init_10 10 rfl rfl)
theorem dX5_init_250 : decode cX5_init 250 = .ok (.lastore, 1) := dk_80 (dk_at dksX5_init_10 13 rfl rfl)
theorem dX5_init_251 : decode cX5_init 251 = .ok (.dup, 1) := dk_89 (dk_at dksX5_init_10 14 rfl rfl)
theorem dX5_init_252 : decode cX5_init 252 = .ok (.iconst 2, 1) := dk_5 (dk_at dksX5_init_10 15 rfl rfl)
theorem dX5_init_253 : decode cX5_init 253 = .ok (.ldc2_w 96, 3) := dk_20 0 96 (dk_at dksX5_init_10 16 rfl rfl)
theorem dX5_init_256 : decode cX5_init 256 = .ok (.lastore, 1) := dk_80 (dk_at dksX5_init_10 19 rfl rfl)
theorem dX5_init_257 : decode cX5_init 257 = .ok (.dup, 1) := dk_89 (dk_at dksX5_init_10 20 rfl rfl)
theorem dX5_init_258 : decode cX5_init 258 = .ok (.iconst 3, 1) := dk_6 (dk_at dksX5_init_10 21 rfl rfl)
theorem dX5_init_259 : decode cX5_init 259 = .ok (.ldc2_w 98, 3) := dk_20 0 98 (dk_at dksX5_init_11 0 rfl rfl)
theorem dX5_init_262 : decode cX5_init 262 = .ok (.lastore, 1) := dk_80 (dk_at dksX5_init_11 3 rfl rfl)
theorem dX5_init_263 : decode cX5_init 263 = .ok (.dup, 1) := dk_89 (dk_at dksX5_init_11 4 rfl rfl)
theorem dX5_init_264 : decode cX5_init 264 = .ok (.iconst 4, 1) := dk_7 (dk_at dksX5_init_11 5 rfl rfl)
theorem dX5_init_265 : decode cX5_init 265 = .ok (.ldc2_w 100, 3) := dk_20 0 100 (dk_at dksX5_init_11 6 rfl rfl)
theorem dX5_init_268 : decode cX5_init 268 = .ok (.lastore, 1) := dk_80 (dk_at dksX5_init_11 9 rfl rfl)
theorem dX5_init_269 : decode cX5_init 269 = .ok (.putfield 102, 3) := dk_181 0 102 (dk_at dksX5_init_11 10 rfl rfl)
theorem dX5_init_272 : decode cX5_init 272 = .ok (.aload_n 0, 1) := dk_42 (dk_at dksX5_init_11 13 rfl rfl)
theorem dX5_init_273 : decode cX5_init 273 = .ok (.iconst 4, 1) := dk_7 (dk_at dksX5_init_11 14 rfl rfl)
theorem dX5_init_274 : decode cX5_init 274 = .ok (.newarray .long, 2) := dk_188_11 (dk_at dksX5_init_11 15 rfl rfl)
theorem dX5_init_276 : decode cX5_init 276 = .ok (.dup, 1) := dk_89 (dk_at dksX5_init_11 17 rfl rfl)
theorem dX5_init_277 : decode cX5_init 277 = .ok (.iconst 0, 1) := dk_3 (dk_at dksX5_init_11 18 rfl rfl)
theorem dX5_init_278 : decode cX5_init 278 = .ok (.ldc2_w 105, 3) := dk_20 0 105 (dk_at dksX5_init_11 19 rfl rfl)
theorem dX5_init_281 : decode cX5_init 281 = .ok (.lastore, 1) := dk_80 (dk_at dksX5_init_11 22 rfl rfl)
theorem dX5_init_282 : decode cX5_init 282 = .ok (.dup, 1) := dk_89 (dk_at dksX5_init_11 23 rfl rfl)
theorem dX5_init_283 : decode cX5_init 283 = .ok (.iconst 1, 1) := dk_4 (dk_at dksX5_init_12 0 rfl rfl)
theorem dX5_init_284 : decode cX5_init 284 = .ok (.ldc2_w 107, 3) := dk_20 0 107 (dk_at dksX5_init_12 1 rfl rfl)
theorem dX5_init_287 : decode cX5_init 287 = .ok (.lastore, 1) := dk_80 (dk_at dksX5_init_12 4 rfl rfl)
theorem dX5_init_288 : decode cX5_init 288 = .ok (.dup, 1) := dk_89 (dk_at dksX5_init_12 5 rfl rfl)
theorem dX5_init_289 : decode cX5_init 289 = .ok (.iconst 2, 1) := dk_5 (dk_at dksX5_init_12 6 rfl rfl)
theorem dX5_init_290 : decode cX5_init 290 = .ok (.ldc2_w 109, 3) := dk_20 0 109 (dk_at dksX5_init_12 7 rfl rfl)
theorem dX5_init_293 : decode cX5_init 293 = .ok (.lastore, 1) := dk_80 (dk_at dksX5_init_12 10 rfl rfl)
theorem dX5_init_294 : decode cX5_init 294 = .ok (.dup, 1) := dk_89 (dk_at dksX5_init_12 11 rfl rfl)
theorem dX5_init_295 : decode cX5_init 295 = .ok (.iconst 3, 1) := dk_6 (dk_at dksX5_init_12 12 rfl rfl)
theorem dX5_init_296 : decode cX5_init 296 = .ok (.ldc2_w 111, 3) := dk_20 0 111 (dk_at dksX5_init_12 13 rfl rfl)
theorem dX5_init_299 : decode cX5_init 299 = .ok (.lastore, 1) := dk_80 (dk_at dksX5_init_12 16 rfl rfl)
theorem dX5_init_300 : decode cX5_init 300 = .ok (.putfield 113, 3) := dk_181 0 113 (dk_at dksX5_init_12 17 rfl rfl)
theorem dX5_init_303 : decode cX5_init 303 = .ok (.aload_n 0, 1) := dk_42 (dk_at dksX5_init_12 20 rfl rfl)
theorem dX5_init_304 : decode cX5_init 304 = .ok (.bipush 15, 2) := dk_16 15 (dk_at dksX5_init_12 21 rfl rfl)
theorem dX5_init_306 : decode cX5_init 306 = .ok (.newarray .long, 2) := dk_188_11 (dk_at dksX5_init_13 0 rfl rfl)
theorem dX5_init_308 : decode cX5_init 308 = .ok (.putfield 116, 3) := dk_181 0 116 (dk_at dksX5_init_13 2 rfl rfl)
theorem dX5_init_311 : decode cX5_init 311 = .ok (.aload_n 0, 1) := dk_42 (dk_at dksX5_init_13 5 rfl rfl)
theorem dX5_init_312 : decode cX5_init 312 = .ok (.bipush 13, 2) := dk_16 13 (dk_at dksX5_init_13 6 rfl rfl)
theorem dX5_init_314 : decode cX5_init 314 = .ok (.newarray .long, 2) := dk_188_11 (dk_at dksX5_init_13 8 rfl rfl)
theorem dX5_init_316 : decode cX5_init 316 = .ok (.putfield 119, 3) := dk_181 0 119 (dk_at dksX5_init_13 10 rfl rfl)
theorem dX5_init_319 : decode cX5_init 319 = .ok (.aload_n 0, 1) := dk_42 (dk_at dksX5_init_13 13 rfl rfl)
theorem dX5_init_320 : decode cX5_init 320 = .ok (.sipush 400, 3) := dk_17 1 144 (dk_at dksX5_init_13 14 rfl rfl)
theorem dX5_init_323 : decode cX5_init 323 = .ok (.newarray .long, 2) := dk_188_11 (dk_at dksX5_init_13 17 rfl rfl)
theorem dX5_init_325 : decode cX5_init 325 = .ok (.putfield 122, 3) := dk_181 0 122 (dk_at dksX5_init_13 19 rfl rfl)
theorem dX5_init_328 : decode cX5_init 328 = .ok (.aload_n 0, 1) := dk_42 (dk_at dksX5_init_13 22 rfl rfl)
theorem dX5_init_329 : decode cX5_init 329 = .ok (.bipush 37, 2) := dk_16 37 (dk_at dksX5_init_14 0 rfl rfl)
theorem dX5_init_331 : decode cX5_init 331 = .ok (.newarray .int, 2) := dk_188_10 (dk_at dksX5_init_14 2 rfl rfl)
theorem dX5_init_333 : decode cX5_init 333 = .ok (.putfield 125, 3) := dk_181 0 125 (dk_at dksX5_init_14 4 rfl rfl)
theorem dX5_init_336 : decode cX5_init 336 = .ok (.aload_n 0, 1) := dk_42 (dk_at dksX5_init_14 7 rfl rfl)
theorem dX5_init_337 : decode cX5_init 337 = .ok (.bipush 9, 2) := dk_16 9 (dk_at dksX5_init_14 8 rfl rfl)
theorem dX5_init_339 : decode cX5_init 339 = .ok (.newarray .int, 2) := dk_188_10 (dk_at dksX5_init_14 10 rfl rfl)
theorem dX5_init_341 : decode cX5_init 341 = .ok (.putfield 128, 3) := dk_181 0 128 (dk_at dksX5_init_14 12 rfl rfl)
theorem dX5_init_344 : decode cX5_init 344 = .ok (.aload_n 0, 1) := dk_42 (dk_at dksX5_init_14 15 rfl rfl)
theorem dX5_init_345 : decode cX5_init 345 = .ok (.bipush 9, 2) := dk_16 9 (dk_at dksX5_init_14 16 rfl rfl)
theorem dX5_init_347 : decode cX5_init 347 = .ok (.newarray .int, 2) := dk_188_10 (dk_at dksX5_init_14 18 rfl rfl)
theorem dX5_init_349 : decode cX5_init 349 = .ok (.putfield 131, 3) := dk_181 0 131 (dk_at dksX5_init_14 20 rfl rfl)
theorem dX5_init_352 : decode cX5_init 352 = .ok (.aload_n 0, 1) := dk_42 (dk_at dksX5_init_14 23 rfl rfl)
theorem dX5_init_353 : decode cX5_init 353 = .ok (.bipush 6, 2) := dk_16 6 (dk_at dksX5_init_15 0 rfl rfl)
theorem dX5_init_355 : decode cX5_init 355 = .ok (.newarray .boolean, 2) := dk_188_4 (dk_at dksX5_init_15 2 rfl rfl)
theorem dX5_init_357 : decode cX5_init 357 = .ok (.putfield 134, 3) := dk_181 0 134 (dk_at dksX5_init_15 4 rfl rfl)
theorem dX5_init_360 : decode cX5_init 360 = .ok (.aload_n 0, 1) := dk_42 (dk_at dksX5_init_15 7 rfl rfl)
theorem dX5_init_361 : decode cX5_init 361 = .ok (.bipush 7, 2) := dk_16 7 (dk_at dksX5_init_15 8 rfl rfl)
theorem dX5_init_363 : decode cX5_init 363 = .ok (.newarray .int, 2) := dk_188_10 (dk_at dksX5_init_15 10 rfl rfl)
theorem dX5_init_365 : decode cX5_init 365 = .ok (.putfield 137, 3) := dk_181 0 137 (dk_at dksX5_init_15 12 rfl rfl)
theorem dX5_init_368 : decode cX5_init 368 = .ok (.aload_n 0, 1) := dk_42 (dk_at dksX5_init_15 15 rfl rfl)
theorem dX5_init_369 : decode cX5_init 369 = .ok (.bipush 96, 2) := dk_16 96 (dk_at dksX5_init_15 16 rfl rfl)
theorem dX5_init_371 : decode cX5_init 371 = .ok (.newarray .int, 2) := dk_188_10 (dk_at dksX5_init_15 18 rfl rfl)
theorem dX5_init_373 : decode cX5_init 373 = .ok (.putfield 140, 3) := dk_181 0 140 (dk_at dksX5_init_15 20 rfl rfl)
theorem dX5_init_376 : decode cX5_init 376 = .ok (.aload_n 0, 1) := dk_42 (dk_at dksX5_init_15 23 rfl rfl)
theorem dX5_init_377 : decode cX5_init 377 = .ok (.iconst (-1), 1) := dk_2 (dk_at dksX5_init_16 0 rfl rfl)
theorem dX5_init_378 : decode cX5_init 378 = .ok (.putfield 143, 3) := dk_181 0 143 (dk_at dksX5_init_16 1 rfl rfl)
theorem dX5_init_381 : decode cX5_init 381 = .ok (.aload_n 0, 1) := dk_42 (dk_at dksX5_init_16 4 rfl rfl)
theorem dX5_init_382 : decode cX5_init 382 = .ok (.bipush 12, 2) := dk_16 12 (dk_at dksX5_init_16 5 rfl rfl)
theorem dX5_init_384 : decode cX5_init 384 = .ok (.newarray .int, 2) := dk_188_10 (dk_at dksX5_init_16 7 rfl rfl)
theorem dX5_init_386 : decode cX5_init 386 = .ok (.putfield 146, 3) := dk_181 0 146 (dk_at dksX5_init_16 9 rfl rfl)
theorem dX5_init_389 : decode cX5_init 389 = .ok (.aload_n 0, 1) := dk_42 (dk_at dksX5_init_16 12 rfl rfl)
theorem dX5_init_390 : decode cX5_init 390 = .ok (.getfield 13, 3) := dk_180 0 13 (dk_at dksX5_init_16 13 rfl rfl)
theorem dX5_init_393 : decode cX5_init 393 = .ok (.iconst 3, 1) := dk_6 (dk_at dksX5_init_16 16 rfl rfl)
theorem dX5_init_394 : decode cX5_init 394 = .ok (.iconst (-1), 1) := dk_2 (dk_at dksX5_init_16 17 rfl rfl)
theorem dX5_init_395 : decode cX5_init 395 = .ok (.iastore, 1) := dk_79 (dk_at dksX5_init_16 18 rfl rfl)
theorem dX5_init_396 : decode cX5_init 396 = .ok (.aload_n 0, 1) := dk_42 (dk_at dksX5_init_16 19 rfl rfl)
theorem dX5_init_397 : decode cX5_init 397 = .ok (.getfield 13, 3) := dk_180 0 13 (dk_at dksX5_init_16 20 rfl rfl)
theorem dX5_init_400 : decode cX5_init 400 = .ok (.iconst 4, 1) := dk_7 (dk_at dksX5_init_16 23 rfl rfl)
theorem dX5_init_401 : decode cX5_init 401 = .ok (.iconst 3, 1) := dk_6 (dk_at dksX5_init_17 0 rfl rfl)
theorem dX5_init_402 : decode cX5_init 402 = .ok (.iastore, 1) := dk_79 (dk_at dksX5_init_17 1 rfl rfl)
theorem dX5_init_403 : decode cX5_init 403 = .ok (.aload_n 0, 1) := dk_42 (dk_at dksX5_init_17 2 rfl rfl)
theorem dX5_init_404 : decode cX5_init 404 = .ok (.getfield 13, 3) := dk_180 0 13 (dk_at dksX5_init_17 3 rfl rfl)
theorem dX5_init_407 : decode cX5_init 407 = .ok (.bipush 6, 2) := dk_16 6 (dk_at dksX5_init_17 6 rfl rfl)
theorem dX5_init_409 : decode cX5_init 409 = .ok (.iconst 3, 1) := dk_6 (dk_at dksX5_init_17 8 rfl rfl)
theorem dX5_init_410 : decode cX5_init 410 = .ok (.iastore, 1) := dk_79 (dk_at dksX5_init_17 9 rfl rfl)
theorem dX5_init_411 : decode cX5_init 411 = .ok (.aload_n 0, 1) := dk_42 (dk_at dksX5_init_17 10 rfl rfl)
theorem dX5_init_412 : decode cX5_init 412 = .ok (.getfield 13, 3) := dk_180 0 13 (dk_at dksX5_init_17 11 rfl rfl)
theorem dX5_init_415 : decode cX5_init 415 = .ok (.bipush 7, 2) := dk_16 7 (dk_at dksX5_init_17 14 rfl rfl)
theorem dX5_init_417 : decode cX5_init 417 = .ok (.iconst 3, 1) := dk_6 (dk_at dksX5_init_17 16 rfl rfl)
theorem dX5_init_418 : decode cX5_init 418 = .ok (.iastore, 1) := dk_79 (dk_at dksX5_init_17 17 rfl rfl)
theorem dX5_init_419 : decode cX5_init 419 = .ok (.aload_n 0, 1) := dk_42 (dk_at dksX5_init_17 18 rfl rfl)
theorem dX5_init_420 : decode cX5_init 420 = .ok (.getfield 13, 3) := dk_180 0 13 (dk_at dksX5_init_17 19 rfl rfl)
theorem dX5_init_423 : decode cX5_init 423 = .ok (.bipush 8, 2) := dk_16 8 (dk_at dksX5_init_17 22 rfl rfl)
theorem dX5_init_425 : decode cX5_init 425 = .ok (.iconst 2, 1) := dk_5 (dk_at dksX5_init_18 0 rfl rfl)
theorem dX5_init_426 : decode cX5_init 426 = .ok (.iastore, 1) := dk_79 (dk_at dksX5_init_18 1 rfl rfl)
theorem dX5_init_427 : decode cX5_init 427 = .ok (.aload_n 0, 1) := dk_42 (dk_at dksX5_init_18 2 rfl rfl)
theorem dX5_init_428 : decode cX5_init 428 = .ok (.getfield 13, 3) := dk_180 0 13 (dk_at dksX5_init_18 3 rfl rfl)
theorem dX5_init_431 : decode cX5_init 431 = .ok (.bipush 10, 2) := dk_16 10 (dk_at dksX5_init_18 6 rfl rfl)
theorem dX5_init_433 : decode cX5_init 433 = .ok (.iconst (-1), 1) := dk_2 (dk_at dksX5_init_18 8 rfl rfl)
theorem dX5_init_434 : decode cX5_init 434 = .ok (.iastore, 1) := dk_79 (dk_at dksX5_init_18 9 rfl rfl)
theorem dX5_init_435 : decode cX5_init 435 = .ok (.aload_n 0, 1) := dk_42 (dk_at dksX5_init_18 10 rfl rfl)
theorem dX5_init_436 : decode cX5_init 436 = .ok (.getfield 13, 3) := dk_180 0 13 (dk_at dksX5_init_18 11 rfl rfl)
theorem dX5_init_439 : decode cX5_init 439 = .ok (.bipush 11, 2) := dk_16 11 (dk_at dksX5_init_18 14 rfl rfl)
theorem dX5_init_441 : decode cX5_init 441 = .ok (.bipush 9, 2) := dk_16 9 (dk_at dksX5_init_18 16 rfl rfl)
theorem dX5_init_443 : decode cX5_init 443 = .ok (.iastore, 1) := dk_79 (dk_at dksX5_init_18 18 rfl rfl)
theorem dX5_init_444 : decode cX5_init 444 = .ok (.return_, 1) := dk_177 (dk_at dksX5_init_18 19 rfl rfl)
abbrev cX5_undo : ByteArray := prog_22_method_16_code
def yX5_undo : MethodName := ⟨RX5, "undo", "()I"⟩
def dkwX5_undo_2 : List UInt8 := [180, 0, 173, 46, 182, 0, 155, 172]
abbrev dktX5_undo_2 : List UInt8 := dkwX5_undo_2 ++ []
def dkwX5_undo_1 : List UInt8 := [4, 100, 181, 0, 173, 42, 16, 6, 42, 180, 0, 173, 104, 182, 0, 180, 42, 42, 180, 0, 26, 42]
abbrev dktX5_undo_1 : List UInt8 := dkwX5_undo_1 ++ dktX5_undo_2
def dkwX5_undo_0 : List UInt8 := [42, 3, 181, 0, 149, 42, 180, 0, 173, 154, 0, 10, 42, 16, 253, 182, 0, 155, 172, 42, 89, 180, 0, 173]
abbrev dktX5_undo_0 : List UInt8 := dkwX5_undo_0 ++ dktX5_undo_1
theorem dksX5_undo_0 : cX5_undo.data.toList.drop 0 = dktX5_undo_0 := by decide +kernel
theorem dksX5_undo_1 : cX5_undo.data.toList.drop 24 = dktX5_undo_1 := dk_seg dksX5_undo_0 24 rfl rfl
theorem dksX5_undo_2 : cX5_undo.data.toList.drop 46 = dktX5_undo_2 := dk_seg dksX5_undo_1 22 rfl rfl
theorem dX5_undo_0 : decode cX5_undo 0 = .ok (.aload_n 0, 1) := dk_42 (dk_at dksX5_undo_0 0 rfl rfl)
theorem dX5_undo_1 : decode cX5_undo 1 = .ok (.iconst 0, 1) := dk_3 (dk_at dksX5_undo_0 1 rfl rfl)
theorem dX5_undo_2 : decode cX5_undo 2 = .ok (.putfield 149, 3) := dk_181 0 149 (dk_at dksX5_undo_0 2 rfl rfl)
theorem dX5_undo_5 : decode cX5_undo 5 = .ok (.aload_n 0, 1) := dk_42 (dk_at dksX5_undo_0 5 rfl rfl)
theorem dX5_undo_6 : decode cX5_undo 6 = .ok (.getfield 173, 3) := dk_180 0 173 (dk_at dksX5_undo_0 6 rfl rfl)
theorem dX5_undo_9 : decode cX5_undo 9 = .ok (.ifCond .ne 10, 3) := dk_154 0 10 (dk_at dksX5_undo_0 9 rfl rfl)
theorem dX5_undo_12 : decode cX5_undo 12 = .ok (.aload_n 0, 1) := dk_42 (dk_at dksX5_undo_0 12 rfl rfl)
theorem dX5_undo_13 : decode cX5_undo 13 = .ok (.bipush (-3), 2) := dk_16 253 (dk_at dksX5_undo_0 13 rfl rfl)
theorem dX5_undo_15 : decode cX5_undo 15 = .ok (.invokevirtual 155, 3) := dk_182 0 155 (dk_at dksX5_undo_0 15 rfl rfl)
theorem dX5_undo_18 : decode cX5_undo 18 = .ok (.ireturn, 1) := dk_172 (dk_at dksX5_undo_0 18 rfl rfl)
theorem dX5_undo_19 : decode cX5_undo 19 = .ok (.aload_n 0, 1) := dk_42 (dk_at dksX5_undo_0 19 rfl rfl)
theorem dX5_undo_20 : decode cX5_undo 20 = .ok (.dup, 1) := dk_89 (dk_at dksX5_undo_0 20 rfl rfl)
theorem dX5_undo_21 : decode cX5_undo 21 = .ok (.getfield 173, 3) := dk_180 0 173 (dk_at dksX5_undo_0 21 rfl rfl)
theorem dX5_undo_24 : decode cX5_undo 24 = .ok (.iconst 1, 1) := dk_4 (dk_at dksX5_undo_1 0 rfl rfl)
theorem dX5_undo_25 : decode cX5_undo 25 = .ok (.isub, 1) := dk_100 (dk_at dksX5_undo_1 1 rfl rfl)
theorem dX5_undo_26 : decode cX5_undo 26 = .ok (.putfield 173, 3) := dk_181 0 173 (dk_at dksX5_undo_1 2 rfl rfl)
theorem dX5_undo_29 : decode cX5_undo 29 = .ok (.aload_n 0, 1) := dk_42 (dk_at dksX5_undo_1 5 rfl rfl)
theorem dX5_undo_30 : decode cX5_undo 30 = .ok (.bipush 6, 2) := dk_16 6 (dk_at dksX5_undo_1 6 rfl rfl)
theorem dX5_undo_32 : decode cX5_undo 32 = .ok (.aload_n 0, 1) := dk_42 (dk_at dksX5_undo_1 8 rfl rfl)
theorem dX5_undo_33 : decode cX5_undo 33 = .ok (.getfield 173, 3) := dk_180 0 173 (dk_at dksX5_undo_1 9 rfl rfl)
theorem dX5_undo_36 : decode cX5_undo 36 = .ok (.imul, 1) := dk_104 (dk_at dksX5_undo_1 12 rfl rfl)
theorem dX5_undo_37 : decode cX5_undo 37 = .ok (.invokevirtual 180, 3) := dk_182 0 180 (dk_at dksX5_undo_1 13 rfl rfl)
theorem dX5_undo_40 : decode cX5_undo 40 = .ok (.aload_n 0, 1) := dk_42 (dk_at dksX5_undo_1 16 rfl rfl)
theorem dX5_undo_41 : decode cX5_undo 41 = .ok (.aload_n 0, 1) := dk_42 (dk_at dksX5_undo_1 17 rfl rfl)
theorem dX5_undo_42 : decode cX5_undo 42 = .ok (.getfield 26, 3) := dk_180 0 26 (dk_at dksX5_undo_1 18 rfl rfl)
theorem dX5_undo_45 : decode cX5_undo 45 = .ok (.aload_n 0, 1) := dk_42 (dk_at dksX5_undo_1 21 rfl rfl)
theorem dX5_undo_46 : decode cX5_undo 46 = .ok (.getfield 173, 3) := dk_180 0 173 (dk_at dksX5_undo_2 0 rfl rfl)
theorem dX5_undo_49 : decode cX5_undo 49 = .ok (.iaload, 1) := dk_46 (dk_at dksX5_undo_2 3 rfl rfl)
theorem dX5_undo_50 : decode cX5_undo 50 = .ok (.invokevirtual 155, 3) := dk_182 0 155 (dk_at dksX5_undo_2 4 rfl rfl)
theorem dX5_undo_53 : decode cX5_undo 53 = .ok (.ireturn, 1) := dk_172 (dk_at dksX5_undo_2 7 rfl rfl)
abbrev cX5_tell : ByteArray := prog_22_method_6_code
def yX5_tell : MethodName := ⟨RX5, "tell", "(I)I"⟩
def dkwX5_tell_1 : List UInt8 := [46, 4, 96, 79, 27, 172]
abbrev dktX5_tell_1 : List UInt8 := dkwX5_tell_1 ++ []
def dkwX5_tell_0 : List UInt8 := [42, 27, 156, 0, 7, 27, 167, 0, 4, 3, 181, 0, 152, 27, 156, 0, 14, 42, 180, 0, 7, 27, 116, 92]
abbrev dktX5_tell_0 : List UInt8 := dkwX5_tell_0 ++ dktX5_tell_1
theorem dksX5_tell_0 : cX5_tell.data.toList.drop 0 = dktX5_tell_0 := by decide +kernel
theorem dksX5_tell_1 : cX5_tell.data.toList.drop 24 = dktX5_tell_1 := dk_seg dksX5_tell_0 24 rfl rfl
theorem dX5_tell_0 : decode cX5_tell 0 = .ok (.aload_n 0, 1) := dk_42 (dk_at dksX5_tell_0 0 rfl rfl)
theorem dX5_tell_1 : decode cX5_tell 1 = .ok (.iload_n 1, 1) := dk_27 (dk_at dksX5_tell_0 1 rfl rfl)
theorem dX5_tell_2 : decode cX5_tell 2 = .ok (.ifCond .ge 7, 3) := dk_156 0 7 (dk_at dksX5_tell_0 2 rfl rfl)
theorem dX5_tell_5 : decode cX5_tell 5 = .ok (.iload_n 1, 1) := dk_27 (dk_at dksX5_tell_0 5 rfl rfl)
theorem dX5_tell_6 : decode cX5_tell 6 = .ok (.goto 4, 3) := dk_167 0 4 (dk_at dksX5_tell_0 6 rfl rfl)
theorem dX5_tell_9 : decode cX5_tell 9 = .ok (.iconst 0, 1) := dk_3 (dk_at dksX5_tell_0 9 rfl rfl)
theorem dX5_tell_10 : decode cX5_tell 10 = .ok (.putfield 152, 3) := dk_181 0 152 (dk_at dksX5_tell_0 10 rfl rfl)
theorem dX5_tell_13 : decode cX5_tell 13 = .ok (.iload_n 1, 1) := dk_27 (dk_at dksX5_tell_0 13 rfl rfl)
theorem dX5_tell_14 : decode cX5_tell 14 = .ok (.ifCond .ge 14, 3) := dk_156 0 14 (dk_at dksX5_tell_0 14 rfl rfl)
theorem dX5_tell_17 : decode cX5_tell 17 = .ok (.aload_n 0, 1) := dk_42 (dk_at dksX5_tell_0 17 rfl rfl)
theorem dX5_tell_18 : decode cX5_tell 18 = .ok (.getfield 7, 3) := dk_180 0 7 (dk_at dksX5_tell_0 18 rfl rfl)
theorem dX5_tell_21 : decode cX5_tell 21 = .ok (.iload_n 1, 1) := dk_27 (dk_at dksX5_tell_0 21 rfl rfl)
theorem dX5_tell_22 : decode cX5_tell 22 = .ok (.ineg, 1) := dk_116 (dk_at dksX5_tell_0 22 rfl rfl)
theorem dX5_tell_23 : decode cX5_tell 23 = .ok (.dup2, 1) := dk_92 (dk_at dksX5_tell_0 23 rfl rfl)
theorem dX5_tell_24 : decode cX5_tell 24 = .ok (.iaload, 1) := dk_46 (dk_at dksX5_tell_1 0 rfl rfl)
theorem dX5_tell_25 : decode cX5_tell 25 = .ok (.iconst 1, 1) := dk_4 (dk_at dksX5_tell_1 1 rfl rfl)
theorem dX5_tell_26 : decode cX5_tell 26 = .ok (.iadd, 1) := dk_96 (dk_at dksX5_tell_1 2 rfl rfl)
theorem dX5_tell_27 : decode cX5_tell 27 = .ok (.iastore, 1) := dk_79 (dk_at dksX5_tell_1 3 rfl rfl)
theorem dX5_tell_28 : decode cX5_tell 28 = .ok (.iload_n 1, 1) := dk_27 (dk_at dksX5_tell_1 4 rfl rfl)
theorem dX5_tell_29 : decode cX5_tell 29 = .ok (.ireturn, 1) := dk_172 (dk_at dksX5_tell_1 5 rfl rfl)
abbrev cX5_putBack : ByteArray := prog_22_method_14_code
def yX5_putBack : MethodName := ⟨RX5, "putBack", "(I)V"⟩
def dkwX5_putBack_1 : List UInt8 := [167, 255, 234, 177]
abbrev dktX5_putBack_1 : List UInt8 := dkwX5_putBack_1 ++ []
def dkwX5_putBack_0 : List UInt8 := [3, 61, 28, 16, 6, 162, 0, 22, 42, 28, 42, 180, 0, 23, 27, 28, 96, 46, 182, 0, 169, 132, 2, 1]
abbrev dktX5_putBack_0 : List UInt8 := dkwX5_putBack_0 ++ dktX5_putBack_1
theorem dksX5_putBack_0 : cX5_putBack.data.toList.drop 0 = dktX5_putBack_0 := by decide +kernel
theorem dksX5_putBack_1 : cX5_putBack.data.toList.drop 24 = dktX5_putBack_1 := dk_seg dksX5_putBack_0 24 rfl rfl
theorem dX5_putBack_0 : decode cX5_putBack 0 = .ok (.iconst 0, 1) := dk_3 (dk_at dksX5_putBack_0 0 rfl rfl)
theorem dX5_putBack_1 : decode cX5_putBack 1 = .ok (.istore_n 2, 1) := dk_61 (dk_at dksX5_putBack_0 1 rfl rfl)
theorem dX5_putBack_2 : decode cX5_putBack 2 = .ok (.iload_n 2, 1) := dk_28 (dk_at dksX5_putBack_0 2 rfl rfl)
theorem dX5_putBack_3 : decode cX5_putBack 3 = .ok (.bipush 6, 2) := dk_16 6 (dk_at dksX5_putBack_0 3 rfl rfl)
theorem dX5_putBack_5 : decode cX5_putBack 5 = .ok (.if_icmp .ge 22, 3) := dk_162 0 22 (dk_at dksX5_putBack_0 5 rfl rfl)
theorem dX5_putBack_8 : decode cX5_putBack 8 = .ok (.aload_n 0, 1) := dk_42 (dk_at dksX5_putBack_0 8 rfl rfl)
theorem dX5_putBack_9 : decode cX5_putBack 9 = .ok (.iload_n 2, 1) := dk_28 (dk_at dksX5_putBack_0 9 rfl rfl)
theorem dX5_putBack_10 : decode cX5_putBack 10 = .ok (.aload_n 0, 1) := dk_42 (dk_at dksX5_putBack_0 10 rfl rfl)
theorem dX5_putBack_11 : decode cX5_putBack 11 = .ok (.getfield 23, 3) := dk_180 0 23 (dk_at dksX5_putBack_0 11 rfl rfl)
theorem dX5_putBack_14 : decode cX5_putBack 14 = .ok (.iload_n 1, 1) := dk_27 (dk_at dksX5_putBack_0 14 rfl rfl)
theorem dX5_putBack_15 : decode cX5_putBack 15 = .ok (.iload_n 2, 1) := dk_28 (dk_at dksX5_putBack_0 15 rfl rfl)
theorem dX5_putBack_16 : decode cX5_putBack 16 = .ok (.iadd, 1) := dk_96 (dk_at dksX5_putBack_0 16 rfl rfl)
theorem dX5_putBack_17 : decode cX5_putBack 17 = .ok (.iaload, 1) := dk_46 (dk_at dksX5_putBack_0 17 rfl rfl)
theorem dX5_putBack_18 : decode cX5_putBack 18 = .ok (.invokevirtual 169, 3) := dk_182 0 169 (dk_at dksX5_putBack_0 18 rfl rfl)
theorem dX5_putBack_21 : decode cX5_putBack 21 = .ok (.iinc 2 1, 3) := dk_132 2 1 (dk_at dksX5_putBack_0 21 rfl rfl)
theorem dX5_putBack_24 : decode cX5_putBack 24 = .ok (.goto (-22), 3) := dk_167 255 234 (dk_at dksX5_putBack_1 0 rfl rfl)
theorem dX5_putBack_27 : decode cX5_putBack 27 = .ok (.return_, 1) := dk_177 (dk_at dksX5_putBack_1 3 rfl rfl)
abbrev cX5_setCell : ByteArray := prog_22_method_10_code
def yX5_setCell : MethodName := ⟨RX5, "setCell", "(II)V"⟩
def dkwX5_setCell_0 : List UInt8 := [42, 180, 0, 13, 16, 13, 8, 27, 104, 96, 6, 96, 28, 79, 177]
abbrev dktX5_setCell_0 : List UInt8 := dkwX5_setCell_0 ++ []
theorem dksX5_setCell_0 : cX5_setCell.data.toList.drop 0 = dktX5_setCell_0 := by decide +kernel
theorem dX5_setCell_0 : decode cX5_setCell 0 = .ok (.aload_n 0, 1) := dk_42 (dk_at dksX5_setCell_0 0 rfl rfl)
theorem dX5_setCell_1 : decode cX5_setCell 1 = .ok (.getfield 13, 3) := dk_180 0 13 (dk_at dksX5_setCell_0 1 rfl rfl)
theorem dX5_setCell_4 : decode cX5_setCell 4 = .ok (.bipush 13, 2) := dk_16 13 (dk_at dksX5_setCell_0 4 rfl rfl)
theorem dX5_setCell_6 : decode cX5_setCell 6 = .ok (.iconst 5, 1) := dk_8 (dk_at dksX5_setCell_0 6 rfl rfl)
theorem dX5_setCell_7 : decode cX5_setCell 7 = .ok (.iload_n 1, 1) := dk_27 (dk_at dksX5_setCell_0 7 rfl rfl)
theorem dX5_setCell_8 : decode cX5_setCell 8 = .ok (.imul, 1) := dk_104 (dk_at dksX5_setCell_0 8 rfl rfl)
theorem dX5_setCell_9 : decode cX5_setCell 9 = .ok (.iadd, 1) := dk_96 (dk_at dksX5_setCell_0 9 rfl rfl)
theorem dX5_setCell_10 : decode cX5_setCell 10 = .ok (.iconst 3, 1) := dk_6 (dk_at dksX5_setCell_0 10 rfl rfl)
theorem dX5_setCell_11 : decode cX5_setCell 11 = .ok (.iadd, 1) := dk_96 (dk_at dksX5_setCell_0 11 rfl rfl)
theorem dX5_setCell_12 : decode cX5_setCell 12 = .ok (.iload_n 2, 1) := dk_28 (dk_at dksX5_setCell_0 12 rfl rfl)
theorem dX5_setCell_13 : decode cX5_setCell 13 = .ok (.iastore, 1) := dk_79 (dk_at dksX5_setCell_0 13 rfl rfl)
theorem dX5_setCell_14 : decode cX5_setCell 14 = .ok (.return_, 1) := dk_177 (dk_at dksX5_setCell_0 14 rfl rfl)
abbrev cX5_image : ByteArray := prog_22_method_17_code
def yX5_image : MethodName := ⟨RX5, "image", "(I)I"⟩
def dkwX5_image_2 : List UInt8 := [132, 2, 1, 167, 255, 228, 42, 180, 0, 19, 27, 4, 84, 42, 3, 182, 0, 155, 172]
abbrev dktX5_image_2 : List UInt8 := dkwX5_image_2 ++ []
def dkwX5_image_1 : List UInt8 := [17, 21, 84, 162, 0, 27, 42, 180, 0, 16, 17, 21, 84, 27, 104, 28, 96, 42, 180, 0, 13, 28, 46, 79]
abbrev dktX5_image_1 : List UInt8 := dkwX5_image_1 ++ dktX5_image_2
def dkwX5_image_0 : List UInt8 := [42, 3, 181, 0, 149, 27, 133, 9, 10, 184, 0, 159, 154, 0, 9, 42, 2, 182, 0, 155, 172, 3, 61, 28]
abbrev dktX5_image_0 : List UInt8 := dkwX5_image_0 ++ dktX5_image_1
theorem dksX5_image_0 : cX5_image.data.toList.drop 0 = dktX5_image_0 := by decide +kernel
theorem dksX5_image_1 : cX5_image.data.toList.drop 24 = dktX5_image_1 := dk_seg dksX5_image_0 24 rfl rfl
theorem dksX5_image_2 : cX5_image.data.toList.drop 48 = dktX5_image_2 := dk_seg dksX5_image_1 24 rfl rfl
theorem dX5_image_0 : decode cX5_image 0 = .ok (.aload_n 0, 1) := dk_42 (dk_at dksX5_image_0 0 rfl rfl)
theorem dX5_image_1 : decode cX5_image 1 = .ok (.iconst 0, 1) := dk_3 (dk_at dksX5_image_0 1 rfl rfl)
theorem dX5_image_2 : decode cX5_image 2 = .ok (.putfield 149, 3) := dk_181 0 149 (dk_at dksX5_image_0 2 rfl rfl)
theorem dX5_image_5 : decode cX5_image 5 = .ok (.iload_n 1, 1) := dk_27 (dk_at dksX5_image_0 5 rfl rfl)
theorem dX5_image_6 : decode cX5_image 6 = .ok (.i2l, 1) := dk_133 (dk_at dksX5_image_0 6 rfl rfl)
theorem dX5_image_7 : decode cX5_image 7 = .ok (.lconst 0, 1) := dk_9 (dk_at dksX5_image_0 7 rfl rfl)
theorem dX5_image_8 : decode cX5_image 8 = .ok (.lconst 1, 1) := dk_10 (dk_at dksX5_image_0 8 rfl rfl)
theorem dX5_image_9 : decode cX5_image 9 = .ok (.invokestatic 159, 3) := dk_184 0 159 (dk_at dksX5_image_0 9 rfl rfl)
theorem dX5_image_12 : decode cX5_image 12 = .ok (.ifCond .ne 9, 3) := dk_154 0 9 (dk_at dksX5_image_0 12 rfl rfl)
theorem dX5_image_15 : decode cX5_image 15 = .ok (.aload_n 0, 1) := dk_42 (dk_at dksX5_image_0 15 rfl rfl)
theorem dX5_image_16 : decode cX5_image 16 = .ok (.iconst (-1), 1) := dk_2 (dk_at dksX5_image_0 16 rfl rfl)
theorem dX5_image_17 : decode cX5_image 17 = .ok (.invokevirtual 155, 3) := dk_182 0 155 (dk_at dksX5_image_0 17 rfl rfl)
theorem dX5_image_20 : decode cX5_image 20 = .ok (.ireturn, 1) := dk_172 (dk_at dksX5_image_0 20 rfl rfl)
theorem dX5_image_21 : decode cX5_image 21 = .ok (.iconst 0, 1) := dk_3 (dk_at dksX5_image_0 21 rfl rfl)
theorem dX5_image_22 : decode cX5_image 22 = .ok (.istore_n 2, 1) := dk_61 (dk_at dksX5_image_0 22 rfl rfl)
theorem dX5_image_23 : decode cX5_image 23 = .ok (.iload_n 2, 1) := dk_28 (dk_at dksX5_image_0 23 rfl rfl)
theorem dX5_image_24 : decode cX5_image 24 = .ok (.sipush 5460, 3) := dk_17 21 84 (dk_at dksX5_image_1 0 rfl rfl)
theorem dX5_image_27 : decode cX5_image 27 = .ok (.if_icmp .ge 27, 3) := dk_162 0 27 (dk_at dksX5_image_1 3 rfl rfl)
theorem dX5_image_30 : decode cX5_image 30 = .ok (.aload_n 0, 1) := dk_42 (dk_at dksX5_image_1 6 rfl rfl)
theorem dX5_image_31 : decode cX5_image 31 = .ok (.getfield 16, 3) := dk_180 0 16 (dk_at dksX5_image_1 7 rfl rfl)
theorem dX5_image_34 : decode cX5_image 34 = .ok (.sipush 5460, 3) := dk_17 21 84 (dk_at dksX5_image_1 10 rfl rfl)
theorem dX5_image_37 : decode cX5_image 37 = .ok (.iload_n 1, 1) := dk_27 (dk_at dksX5_image_1 13 rfl rfl)
theorem dX5_image_38 : decode cX5_image 38 = .ok (.imul, 1) := dk_104 (dk_at dksX5_image_1 14 rfl rfl)
theorem dX5_image_39 : decode cX5_image 39 = .ok (.iload_n 2, 1) := dk_28 (dk_at dksX5_image_1 15 rfl rfl)
theorem dX5_image_40 : decode cX5_image 40 = .ok (.iadd, 1) := dk_96 (dk_at dksX5_image_1 16 rfl rfl)
theorem dX5_image_41 : decode cX5_image 41 = .ok (.aload_n 0, 1) := dk_42 (dk_at dksX5_image_1 17 rfl rfl)
theorem dX5_image_42 : decode cX5_image 42 = .ok (.getfield 13, 3) := dk_180 0 13 (dk_at dksX5_image_1 18 rfl rfl)
theorem dX5_image_45 : decode cX5_image 45 = .ok (.iload_n 2, 1) := dk_28 (dk_at dksX5_image_1 21 rfl rfl)
theorem dX5_image_46 : decode cX5_image 46 = .ok (.iaload, 1) := dk_46 (dk_at dksX5_image_1 22 rfl rfl)
theorem dX5_image_47 : decode cX5_image 47 = .ok (.iastore, 1) := dk_79 (dk_at dksX5_image_1 23 rfl rfl)
theorem dX5_image_48 : decode cX5_image 48 = .ok (.iinc 2 1, 3) := dk_132 2 1 (dk_at dksX5_image_2 0 rfl rfl)
theorem dX5_image_51 : decode cX5_image 51 = .ok (.goto (-28), 3) := dk_167 255 228 (dk_at dksX5_image_2 3 rfl rfl)
theorem dX5_image_54 : decode cX5_image 54 = .ok (.aload_n 0, 1) := dk_42 (dk_at dksX5_image_2 6 rfl rfl)
theorem dX5_image_55 : decode cX5_image 55 = .ok (.getfield 19, 3) := dk_180 0 19 (dk_at dksX5_image_2 7 rfl rfl)
theorem dX5_image_58 : decode cX5_image 58 = .ok (.iload_n 1, 1) := dk_27 (dk_at dksX5_image_2 10 rfl rfl)
theorem dX5_image_59 : decode cX5_image 59 = .ok (.iconst 1, 1) := dk_4 (dk_at dksX5_image_2 11 rfl rfl)
theorem dX5_image_60 : decode cX5_image 60 = .ok (.bastore, 1) := dk_84 (dk_at dksX5_image_2 12 rfl rfl)
theorem dX5_image_61 : decode cX5_image 61 = .ok (.aload_n 0, 1) := dk_42 (dk_at dksX5_image_2 13 rfl rfl)
theorem dX5_image_62 : decode cX5_image 62 = .ok (.iconst 0, 1) := dk_3 (dk_at dksX5_image_2 14 rfl rfl)
theorem dX5_image_63 : decode cX5_image 63 = .ok (.invokevirtual 155, 3) := dk_182 0 155 (dk_at dksX5_image_2 15 rfl rfl)
theorem dX5_image_66 : decode cX5_image 66 = .ok (.ireturn, 1) := dk_172 (dk_at dksX5_image_2 18 rfl rfl)
abbrev cX5_in : ByteArray := prog_22_method_3_code
def yX5_in : MethodName := ⟨RX5, "in", "(JJJ)Z"⟩
def dkwX5_in_0 : List UInt8 := [30, 32, 148, 155, 0, 14, 30, 22, 4, 148, 157, 0, 7, 4, 167, 0, 4, 3, 172]
abbrev dktX5_in_0 : List UInt8 := dkwX5_in_0 ++ []
theorem dksX5_in_0 : cX5_in.data.toList.drop 0 = dktX5_in_0 := by decide +kernel
theorem dX5_in_0 : decode cX5_in 0 = .ok (.lload_n 0, 1) := dk_30 (dk_at dksX5_in_0 0 rfl rfl)
theorem dX5_in_1 : decode cX5_in 1 = .ok (.lload_n 2, 1) := dk_32 (dk_at dksX5_in_0 1 rfl rfl)
theorem dX5_in_2 : decode cX5_in 2 = .ok (.lcmp, 1) := dk_148 (dk_at dksX5_in_0 2 rfl rfl)
theorem dX5_in_3 : decode cX5_in 3 = .ok (.ifCond .lt 14, 3) := dk_155 0 14 (dk_at dksX5_in_0 3 rfl rfl)
theorem dX5_in_6 : decode cX5_in 6 = .ok (.lload_n 0, 1) := dk_30 (dk_at dksX5_in_0 6 rfl rfl)
theorem dX5_in_7 : decode cX5_in 7 = .ok (.lload 4, 2) := dk_22 4 (dk_at dksX5_in_0 7 rfl rfl)
theorem dX5_in_9 : decode cX5_in 9 = .ok (.lcmp, 1) := dk_148 (dk_at dksX5_in_0 9 rfl rfl)
theorem dX5_in_10 : decode cX5_in 10 = .ok (.ifCond .gt 7, 3) := dk_157 0 7 (dk_at dksX5_in_0 10 rfl rfl)
theorem dX5_in_13 : decode cX5_in 13 = .ok (.iconst 1, 1) := dk_4 (dk_at dksX5_in_0 13 rfl rfl)
theorem dX5_in_14 : decode cX5_in 14 = .ok (.goto 4, 3) := dk_167 0 4 (dk_at dksX5_in_0 14 rfl rfl)
theorem dX5_in_17 : decode cX5_in 17 = .ok (.iconst 0, 1) := dk_3 (dk_at dksX5_in_0 17 rfl rfl)
theorem dX5_in_18 : decode cX5_in 18 = .ok (.ireturn, 1) := dk_172 (dk_at dksX5_in_0 18 rfl rfl)
abbrev cX5_back : ByteArray := prog_22_method_18_code
def yX5_back : MethodName := ⟨RX5, "back", "(I)I"⟩
def dkwX5_back_3 : List UInt8 := [42, 3, 181, 0, 173, 42, 3, 182, 0, 155, 172]
abbrev dktX5_back_3 : List UInt8 := dkwX5_back_3 ++ []
def dkwX5_back_2 : List UInt8 := [42, 180, 0, 13, 28, 42, 180, 0, 16, 17, 21, 84, 27, 104, 28, 96, 46, 79, 132, 2, 1, 167, 255, 228]
abbrev dktX5_back_2 : List UInt8 := dkwX5_back_2 ++ dktX5_back_3
def dkwX5_back_1 : List UInt8 := [180, 0, 19, 27, 51, 154, 0, 10, 42, 16, 254, 182, 0, 155, 172, 3, 61, 28, 17, 21, 84, 162, 0, 27]
abbrev dktX5_back_1 : List UInt8 := dkwX5_back_1 ++ dktX5_back_2
def dkwX5_back_0 : List UInt8 := [42, 3, 181, 0, 149, 27, 133, 9, 10, 184, 0, 159, 154, 0, 9, 42, 2, 182, 0, 155, 172, 42]
abbrev dktX5_back_0 : List UInt8 := dkwX5_back_0 ++ dktX5_back_1
theorem dksX5_back_0 : cX5_back.data.toList.drop 0 = dktX5_back_0 := by decide +kernel
theorem dksX5_back_1 : cX5_back.data.toList.drop 22 = dktX5_back_1 := dk_seg dksX5_back_0 22 rfl rfl
theorem dksX5_back_2 : cX5_back.data.toList.drop 46 = dktX5_back_2 := dk_seg dksX5_back_1 24 rfl rfl
theorem dksX5_back_3 : cX5_back.data.toList.drop 70 = dktX5_back_3 := dk_seg dksX5_back_2 24 rfl rfl
theorem dX5_back_0 : decode cX5_back 0 = .ok (.aload_n 0, 1) := dk_42 (dk_at dksX5_back_0 0 rfl rfl)
theorem dX5_back_1 : decode cX5_back 1 = .ok (.iconst 0, 1) := dk_3 (dk_at dksX5_back_0 1 rfl rfl)
theorem dX5_back_2 : decode cX5_back 2 = .ok (.putfield 149, 3) := dk_181 0 149 (dk_at dksX5_back_0 2 rfl rfl)
theorem dX5_back_5 : decode cX5_back 5 = .ok (.iload_n 1, 1) := dk_27 (dk_at dksX5_back_0 5 rfl rfl)
theorem dX5_back_6 : decode cX5_back 6 = .ok (.i2l, 1) := dk_133 (dk_at dksX5_back_0 6 rfl rfl)
theorem dX5_back_7 : decode cX5_back 7 = .ok (.lconst 0, 1) := dk_9 (dk_at dksX5_back_0 7 rfl rfl)
theorem dX5_back_8 : decode cX5_back 8 = .ok (.lconst 1, 1) := dk_10 (dk_at dksX5_back_0 8 rfl rfl)
theorem dX5_back_9 : decode cX5_back 9 = .ok (.invokestatic 159, 3) := dk_184 0 159 (dk_at dksX5_back_0 9 rfl rfl)
theorem dX5_back_12 : decode cX5_back 12 = .ok (.ifCond .ne 9, 3) := dk_154 0 9 (dk_at dksX5_back_0 12 rfl rfl)
theorem dX5_back_15 : decode cX5_back 15 = .ok (.aload_n 0, 1) := dk_42 (dk_at dksX5_back_0 15 rfl rfl)
theorem dX5_back_16 : decode cX5_back 16 = .ok (.iconst (-1), 1) := dk_2 (dk_at dksX5_back_0 16 rfl rfl)
theorem dX5_back_17 : decode cX5_back 17 = .ok (.invokevirtual 155, 3) := dk_182 0 155 (dk_at dksX5_back_0 17 rfl rfl)
theorem dX5_back_20 : decode cX5_back 20 = .ok (.ireturn, 1) := dk_172 (dk_at dksX5_back_0 20 rfl rfl)
theorem dX5_back_21 : decode cX5_back 21 = .ok (.aload_n 0, 1) := dk_42 (dk_at dksX5_back_0 21 rfl rfl)
theorem dX5_back_22 : decode cX5_back 22 = .ok (.getfield 19, 3) := dk_180 0 19 (dk_at dksX5_back_1 0 rfl rfl)
theorem dX5_back_25 : decode cX5_back 25 = .ok (.iload_n 1, 1) := dk_27 (dk_at dksX5_back_1 3 rfl rfl)
theorem dX5_back_26 : decode cX5_back 26 = .ok (.baload, 1) := dk_51 (dk_at dksX5_back_1 4 rfl rfl)
theorem dX5_back_27 : decode cX5_back 27 = .ok (.ifCond .ne 10, 3) := dk_154 0 10 (dk_at dksX5_back_1 5 rfl rfl)
theorem dX5_back_30 : decode cX5_back 30 = .ok (.aload_n 0, 1) := dk_42 (dk_at dksX5_back_1 8 rfl rfl)
theorem dX5_back_31 : decode cX5_back 31 = .ok (.bipush (-2), 2) := dk_16 254 (dk_at dksX5_back_1 9 rfl rfl)
theorem dX5_back_33 : decode cX5_back 33 = .ok (.invokevirtual 155, 3) := dk_182 0 155 (dk_at dksX5_back_1 11 rfl rfl)
theorem dX5_back_36 : decode cX5_back 36 = .ok (.ireturn, 1) := dk_172 (dk_at dksX5_back_1 14 rfl rfl)
theorem dX5_back_37 : decode cX5_back 37 = .ok (.iconst 0, 1) := dk_3 (dk_at dksX5_back_1 15 rfl rfl)
theorem dX5_back_38 : decode cX5_back 38 = .ok (.istore_n 2, 1) := dk_61 (dk_at dksX5_back_1 16 rfl rfl)
theorem dX5_back_39 : decode cX5_back 39 = .ok (.iload_n 2, 1) := dk_28 (dk_at dksX5_back_1 17 rfl rfl)
theorem dX5_back_40 : decode cX5_back 40 = .ok (.sipush 5460, 3) := dk_17 21 84 (dk_at dksX5_back_1 18 rfl rfl)
theorem dX5_back_43 : decode cX5_back 43 = .ok (.if_icmp .ge 27, 3) := dk_162 0 27 (dk_at dksX5_back_1 21 rfl rfl)
theorem dX5_back_46 : decode cX5_back 46 = .ok (.aload_n 0, 1) := dk_42 (dk_at dksX5_back_2 0 rfl rfl)
theorem dX5_back_47 : decode cX5_back 47 = .ok (.getfield 13, 3) := dk_180 0 13 (dk_at dksX5_back_2 1 rfl rfl)
theorem dX5_back_50 : decode cX5_back 50 = .ok (.iload_n 2, 1) := dk_28 (dk_at dksX5_back_2 4 rfl rfl)
theorem dX5_back_51 : decode cX5_back 51 = .ok (.aload_n 0, 1) := dk_42 (dk_at dksX5_back_2 5 rfl rfl)
theorem dX5_back_52 : decode cX5_back 52 = .ok (.getfield 16, 3) := dk_180 0 16 (dk_at dksX5_back_2 6 rfl rfl)
theorem dX5_back_55 : decode cX5_back 55 = .ok (.sipush 5460, 3) := dk_17 21 84 (dk_at dksX5_back_2 9 rfl rfl)
theorem dX5_back_58 : decode cX5_back 58 = .ok (.iload_n 1, 1) := dk_27 (dk_at dksX5_back_2 12 rfl rfl)
theorem dX5_back_59 : decode cX5_back 59 = .ok (.imul, 1) := dk_104 (dk_at dksX5_back_2 13 rfl rfl)
theorem dX5_back_60 : decode cX5_back 60 = .ok (.iload_n 2, 1) := dk_28 (dk_at dksX5_back_2 14 rfl rfl)
theorem dX5_back_61 : decode cX5_back 61 = .ok (.iadd, 1) := dk_96 (dk_at dksX5_back_2 15 rfl rfl)
theorem dX5_back_62 : decode cX5_back 62 = .ok (.iaload, 1) := dk_46 (dk_at dksX5_back_2 16 rfl rfl)
theorem dX5_back_63 : decode cX5_back 63 = .ok (.iastore, 1) := dk_79 (dk_at dksX5_back_2 17 rfl rfl)
theorem dX5_back_64 : decode cX5_back 64 = .ok (.iinc 2 1, 3) := dk_132 2 1 (dk_at dksX5_back_2 18 rfl rfl)
theorem dX5_back_67 : decode cX5_back 67 = .ok (.goto (-28), 3) := dk_167 255 228 (dk_at dksX5_back_2 21 rfl rfl)
theorem dX5_back_70 : decode cX5_back 70 = .ok (.aload_n 0, 1) := dk_42 (dk_at dksX5_back_3 0 rfl rfl)
theorem dX5_back_71 : decode cX5_back 71 = .ok (.iconst 0, 1) := dk_3 (dk_at dksX5_back_3 1 rfl rfl)
theorem dX5_back_72 : decode cX5_back 72 = .ok (.putfield 173, 3) := dk_181 0 173 (dk_at dksX5_back_3 2 rfl rfl)
theorem dX5_back_75 : decode cX5_back 75 = .ok (.aload_n 0, 1) := dk_42 (dk_at dksX5_back_3 5 rfl rfl)
theorem dX5_back_76 : decode cX5_back 76 = .ok (.iconst 0, 1) := dk_3 (dk_at dksX5_back_3 6 rfl rfl)
theorem dX5_back_77 : decode cX5_back 77 = .ok (.invokevirtual 155, 3) := dk_182 0 155 (dk_at dksX5_back_3 7 rfl rfl)
theorem dX5_back_80 : decode cX5_back 80 = .ok (.ireturn, 1) := dk_172 (dk_at dksX5_back_3 10 rfl rfl)
abbrev cX5_catcher : ByteArray := prog_22_method_22_code
def yX5_catcher : MethodName := ⟨RX5, "catcher", "(IIII)I"⟩
def dkwX5_catcher_0 : List UInt8 := [42, 3, 181, 0, 149, 42, 42, 27, 28, 29, 21, 4, 182, 0, 200, 182, 0, 204, 172]
abbrev dktX5_catcher_0 : List UInt8 := dkwX5_catcher_0 ++ []
theorem dksX5_catcher_0 : cX5_catcher.data.toList.drop 0 = dktX5_catcher_0 := by decide +kernel
theorem dX5_catcher_0 : decode cX5_catcher 0 = .ok (.aload_n 0, 1) := dk_42 (dk_at dksX5_catcher_0 0 rfl rfl)
theorem dX5_catcher_1 : decode cX5_catcher 1 = .ok (.iconst 0, 1) := dk_3 (dk_at dksX5_catcher_0 1 rfl rfl)
theorem dX5_catcher_2 : decode cX5_catcher 2 = .ok (.putfield 149, 3) := dk_181 0 149 (dk_at dksX5_catcher_0 2 rfl rfl)
theorem dX5_catcher_5 : decode cX5_catcher 5 = .ok (.aload_n 0, 1) := dk_42 (dk_at dksX5_catcher_0 5 rfl rfl)
theorem dX5_catcher_6 : decode cX5_catcher 6 = .ok (.aload_n 0, 1) := dk_42 (dk_at dksX5_catcher_0 6 rfl rfl)
theorem dX5_catcher_7 : decode cX5_catcher 7 = .ok (.iload_n 1, 1) := dk_27 (dk_at dksX5_catcher_0 7 rfl rfl)
theorem dX5_catcher_8 : decode cX5_catcher 8 = .ok (.iload_n 2, 1) := dk_28 (dk_at dksX5_catcher_0 8 rfl rfl)
theorem dX5_catcher_9 : decode cX5_catcher 9 = .ok (.iload_n 3, 1) := dk_29 (dk_at dksX5_catcher_0 9 rfl rfl)
theorem dX5_catcher_10 : decode cX5_catcher 10 = .ok (.iload 4, 2) := dk_21 4 (dk_at dksX5_catcher_0 10 rfl rfl)
theorem dX5_catcher_12 : decode cX5_catcher 12 = .ok (.invokevirtual 200, 3) := dk_182 0 200 (dk_at dksX5_catcher_0 12 rfl rfl)
theorem dX5_catcher_15 : decode cX5_catcher 15 = .ok (.invokevirtual 204, 3) := dk_182 0 204 (dk_at dksX5_catcher_0 15 rfl rfl)
theorem dX5_catcher_18 : decode cX5_catcher 18 = .ok (.ireturn, 1) := dk_172 (dk_at dksX5_catcher_0 18 rfl rfl)
abbrev cX5_catcher1 : ByteArray := prog_22_method_20_code
def yX5_catcher1 : MethodName := ⟨RX5, "catcher1", "(IIII)I"⟩
def dkwX5_catcher1_6 : List UInt8 := [21, 6, 7, 96, 2, 79, 42, 180, 0, 13, 3, 92, 46, 4, 96, 79, 21, 5, 172]
abbrev dktX5_catcher1_6 : List UInt8 := dkwX5_catcher1_6 ++ []
def dkwX5_catcher1_5 : List UInt8 := [180, 0, 13, 21, 6, 5, 96, 21, 4, 79, 42, 180, 0, 13, 21, 6, 6, 96, 27, 79, 42, 180, 0, 13]
abbrev dktX5_catcher1_5 : List UInt8 := dkwX5_catcher1_5 ++ dktX5_catcher1_6
def dkwX5_catcher1_4 : List UInt8 := [104, 96, 54, 6, 42, 180, 0, 13, 21, 6, 28, 79, 42, 180, 0, 13, 21, 6, 4, 96, 29, 79, 42]
abbrev dktX5_catcher1_4 : List UInt8 := dkwX5_catcher1_4 ++ dktX5_catcher1_5
def dkwX5_catcher1_3 : List UInt8 := [182, 0, 196, 153, 0, 6, 16, 253, 172, 21, 5, 16, 6, 160, 0, 6, 16, 251, 172, 16, 13, 8, 21, 5]
abbrev dktX5_catcher1_3 : List UInt8 := dkwX5_catcher1_3 ++ dktX5_catcher1_4
def dkwX5_catcher1_2 : List UInt8 := [42, 180, 0, 13, 3, 46, 54, 5, 42, 27, 182, 0, 193, 153, 0, 16, 42, 21, 5, 21, 4, 29, 27]
abbrev dktX5_catcher1_2 : List UInt8 := dkwX5_catcher1_2 ++ dktX5_catcher1_3
def dkwX5_catcher1_1 : List UInt8 := [20, 0, 191, 184, 0, 159, 153, 0, 16, 21, 4, 133, 10, 20, 0, 191, 184, 0, 159, 154, 0, 5, 2, 172]
abbrev dktX5_catcher1_1 : List UInt8 := dkwX5_catcher1_1 ++ dktX5_catcher1_2
def dkwX5_catcher1_0 : List UInt8 := [27, 184, 0, 183, 153, 0, 42, 28, 133, 9, 20, 0, 187, 184, 0, 159, 153, 0, 30, 29, 133, 20, 0, 189]
abbrev dktX5_catcher1_0 : List UInt8 := dkwX5_catcher1_0 ++ dktX5_catcher1_1
theorem dksX5_catcher1_0 : cX5_catcher1.data.toList.drop 0 = dktX5_catcher1_0 := by decide +kernel
theorem dksX5_catcher1_1 : cX5_catcher1.data.toList.drop 24 = dktX5_catcher1_1 := dk_seg dksX5_catcher1_0 24 rfl rfl
theorem dksX5_catcher1_2 : cX5_catcher1.data.toList.drop 48 = dktX5_catcher1_2 := dk_seg dksX5_catcher1_1 24 rfl rfl
theorem dksX5_catcher1_3 : cX5_catcher1.data.toList.drop 71 = dktX5_catcher1_3 := dk_seg dksX5_catcher1_2 23 rfl rfl
theorem dksX5_catcher1_4 : cX5_catcher1.data.toList.drop 95 = dktX5_catcher1_4 := dk_seg dksX5_catcher1_3 24 rfl rfl
theorem dksX5_catcher1_5 : cX5_catcher1.data.toList.drop 118 = dktX5_catcher1_5 := dk_seg dksX5_catcher1_4 23 rfl rfl
theorem dksX5_catcher1_6 : cX5_catcher1.data.toList.drop 142 = dktX5_catcher1_6 := dk_seg dksX5_catcher1_5 24 rfl rfl
theorem dX5_catcher1_0 : decode cX5_catcher1 0 = .ok (.iload_n 1, 1) := dk_27 (dk_at dksX5_catcher1_0 0 rfl rfl)
theorem dX5_catcher1_1 : decode cX5_catcher1 1 = .ok (.invokestatic 183, 3) := dk_184 0 183 (dk_at dksX5_catcher1_0 1 rfl rfl)
theorem dX5_catcher1_4 : decode cX5_catcher1 4 = .ok (.ifCond .eq 42, 3) := dk_153 0 42 (dk_at dksX5_catcher1_0 4 rfl rfl)
theorem dX5_catcher1_7 : decode cX5_catcher1 7 = .ok (.iload_n 2, 1) := dk_28 (dk_at dksX5_catcher1_0 7 rfl rfl)
theorem dX5_catcher1_8 : decode cX5_catcher1 8 = .ok (.i2l, 1) := dk_133 (dk_at dksX5_catcher1_0 8 rfl rfl)
theorem dX5_catcher1_9 : decode cX5_catcher1 9 = .ok (.lconst 0, 1) := dk_9 (dk_at dksX5_catcher1_0 9 rfl rfl)
theorem dX5_catcher1_10 : decode cX5_catcher1 10 = .ok (.ldc2_w 187, 3) := dk_20 0 187 (dk_at dksX5_catcher1_0 10 rfl rfl)
theorem dX5_catcher1_13 : decode cX5_catcher1 13 = .ok (.invokestatic 159, 3) := dk_184 0 159 (dk_at dksX5_catcher1_0 13 rfl rfl)
theorem dX5_catcher1_16 : decode cX5_catcher1 16 = .ok (.ifCond .eq 30, 3) := dk_153 0 30 (dk_at dksX5_catcher1_0 16 rfl rfl)
theorem dX5_catcher1_19 : decode cX5_catcher1 19 = .ok (.iload_n 3, 1) := dk_29 (dk_at dksX5_catcher1_0 19 rfl rfl)
theorem dX5_catcher1_20 : decode cX5_catcher1 20 = .ok (.i2l, 1) := dk_133 (dk_at dksX5_catcher1_0 20 rfl rfl)
theorem dX5_catcher1_21 : decode cX5_catcher1 21 = .ok (.ldc2_w 189, 3) := dk_20 0 189 (dk_at dksX5_catcher1_0 21 rfl rfl)
theorem dX5_catcher1_24 : decode cX5_catcher1 24 = .ok (.ldc2_w 191, 3) := dk_20 0 191 (dk_at dksX5_catcher1_1 0 rfl rfl)
theorem dX5_catcher1_27 : decode cX5_catcher1 27 = .ok (.invokestatic 159, 3) := dk_184 0 159 (dk_at dksX5_catcher1_1 3 rfl rfl)
theorem dX5_catcher1_30 : decode cX5_catcher1 30 = .ok (.ifCond .eq 16, 3) := dk_153 0 16 (dk_at dksX5_catcher1_1 6 rfl rfl)
theorem dX5_catcher1_33 : decode cX5_catcher1 33 = .ok (.iload 4, 2) := dk_21 4 (dk_at dksX5_catcher1_1 9 rfl rfl)
theorem dX5_catcher1_35 : decode cX5_catcher1 35 = .ok (.i2l, 1) := dk_133 (dk_at dksX5_catcher1_1 11 rfl rfl)
theorem dX5_catcher1_36 : decode cX5_catcher1 36 = .ok (.lconst 1, 1) := dk_10 (dk_at dksX5_catcher1_1 12 rfl rfl)
theorem dX5_catcher1_37 : decode cX5_catcher1 37 = .ok (.ldc2_w 191, 3) := dk_20 0 191 (dk_at dksX5_catcher1_1 13 rfl rfl)
theorem dX5_catcher1_40 : decode cX5_catcher1 40 = .ok (.invokestatic 159, 3) := dk_184 0 159 (dk_at dksX5_catcher1_1 16 rfl rfl)
theorem dX5_catcher1_43 : decode cX5_catcher1 43 = .ok (.ifCond .ne 5, 3) := dk_154 0 5 (dk_at dksX5_catcher1_1 19 rfl rfl)
theorem dX5_catcher1_46 : decode cX5_catcher1 46 = .ok (.iconst (-1), 1) := dk_2 (dk_at dksX5_catcher1_1 22 rfl rfl)
theorem dX5_catcher1_47 : decode cX5_catcher1 47 = .ok (.ireturn, 1) := dk_172 (dk_at dksX5_catcher1_1 23 rfl rfl)
theorem dX5_catcher1_48 : decode cX5_catcher1 48 = .ok (.aload_n 0, 1) := dk_42 (dk_at dksX5_catcher1_2 0 rfl rfl)
theorem dX5_catcher1_49 : decode cX5_catcher1 49 = .ok (.getfield 13, 3) := dk_180 0 13 (dk_at dksX5_catcher1_2 1 rfl rfl)
theorem dX5_catcher1_52 : decode cX5_catcher1 52 = .ok (.iconst 0, 1) := dk_3 (dk_at dksX5_catcher1_2 4 rfl rfl)
theorem dX5_catcher1_53 : decode cX5_catcher1 53 = .ok (.iaload, 1) := dk_46 (dk_at dksX5_catcher1_2 5 rfl rfl)
theorem dX5_catcher1_54 : decode cX5_catcher1 54 = .ok (.istore 5, 2) := dk_54 5 (dk_at dksX5_catcher1_2 6 rfl rfl)
theorem dX5_catcher1_56 : decode cX5_catcher1 56 = .ok (.aload_n 0, 1) := dk_42 (dk_at dksX5_catcher1_2 8 rfl rfl)
theorem dX5_catcher1_57 : decode cX5_catcher1 57 = .ok (.iload_n 1, 1) := dk_27 (dk_at dksX5_catcher1_2 9 rfl rfl)
theorem dX5_catcher1_58 : decode cX5_catcher1 58 = .ok (.invokevirtual 193, 3) := dk_182 0 193 (dk_at dksX5_catcher1_2 10 rfl rfl)
theorem dX5_catcher1_61 : decode cX5_catcher1 61 = .ok (.ifCond .eq 16, 3) := dk_153 0 16 (dk_at dksX5_catcher1_2 13 rfl rfl)
theorem dX5_catcher1_64 : decode cX5_catcher1 64 = .ok (.aload_n 0, 1) := dk_42 (dk_at dksX5_catcher1_2 16 rfl rfl)
theorem dX5_catcher1_65 : decode cX5_catcher1 65 = .ok (.iload 5, 2) := dk_21 5 (dk_at dksX5_catcher1_2 17 rfl rfl)
theorem dX5_catcher1_67 : decode cX5_catcher1 67 = .ok (.iload 4, 2) := dk_21 4 (dk_at dksX5_catcher1_2 19 rfl rfl)
theorem dX5_catcher1_69 : decode cX5_catcher1 69 = .ok (.iload_n 3, 1) := dk_29 (dk_at dksX5_catcher1_2 21 rfl rfl)
theorem dX5_catcher1_70 : decode cX5_catcher1 70 = .ok (.iload_n 1, 1) := dk_27 (dk_at dksX5_catcher1_2 22 rfl rfl)
theorem dX5_catcher1_71 : decode cX5_catcher1 71 = .ok (.invokevirtual 196, 3) := dk_182 0 196 (dk_at dksX5_catcher1_3 0 rfl rfl)
theorem dX5_catcher1_74 : decode cX5_catcher1 74 = .ok (.ifCond .eq 6, 3) := dk_153 0 6 (dk_at dksX5_catcher1_3 3 rfl rfl)
theorem dX5_catcher1_77 : decode cX5_catcher1 77 = .ok (.bipush (-3), 2) := dk_16 253 (dk_at dksX5_catcher1_3 6 rfl rfl)
theorem dX5_catcher1_79 : decode cX5_catcher1 79 = .ok (.ireturn, 1) := dk_172 (dk_at dksX5_catcher1_3 8 rfl rfl)
theorem dX5_catcher1_80 : decode cX5_catcher1 80 = .ok (.iload 5, 2) := dk_21 5 (dk_at dksX5_catcher1_3 9 rfl rfl)
theorem dX5_catcher1_82 : decode cX5_catcher1 82 = .ok (.bipush 6, 2) := dk_16 6 (dk_at dksX5_catcher1_3 11 rfl rfl)
theorem dX5_catcher1_84 : decode cX5_catcher1 84 = .ok (.if_icmp .ne 6, 3) := dk_160 0 6 (dk_at dksX5_catcher1_3 13 rfl rfl)
theorem dX5_catcher1_87 : decode cX5_catcher1 87 = .ok (.bipush (-5), 2) := dk_16 251 (dk_at dksX5_catcher1_3 16 rfl rfl)
theorem dX5_catcher1_89 : decode cX5_catcher1 89 = .ok (.ireturn, 1) := dk_172 (dk_at dksX5_catcher1_3 18 rfl rfl)
theorem dX5_catcher1_90 : decode cX5_catcher1 90 = .ok (.bipush 13, 2) := dk_16 13 (dk_at dksX5_catcher1_3 19 rfl rfl)
theorem dX5_catcher1_92 : decode cX5_catcher1 92 = .ok (.iconst 5, 1) := dk_8 (dk_at dksX5_catcher1_3 21 rfl rfl)
theorem dX5_catcher1_93 : decode cX5_catcher1 93 = .ok (.iload 5, 2) := dk_21 5 (dk_at dksX5_catcher1_3 22 rfl rfl)
theorem dX5_catcher1_95 : decode cX5_catcher1 95 = .ok (.imul, 1) := dk_104 (dk_at dksX5_catcher1_4 0 rfl rfl)
theorem dX5_catcher1_96 : decode cX5_catcher1 96 = .ok (.iadd, 1) := dk_96 (dk_at dksX5_catcher1_4 1 rfl rfl)
theorem dX5_catcher1_97 : decode cX5_catcher1 97 = .ok (.istore 6, 2) := dk_54 6 (dk_at dksX5_catcher1_4 2 rfl rfl)
theorem dX5_catcher1_99 : decode cX5_catcher1 99 = .ok (.aload_n 0, 1) := dk_42 (dk_at dksX5_catcher1_4 4 rfl rfl)
theorem dX5_catcher1_100 : decode cX5_catcher1 100 = .ok (.getfield 13, 3) := dk_180 0 13 (dk_at dksX5_catcher1_4 5 rfl rfl)
theorem dX5_catcher1_103 : decode cX5_catcher1 103 = .ok (.iload 6, 2) := dk_21 6 (dk_at dksX5_catcher1_4 8 rfl rfl)
theorem dX5_catcher1_105 : decode cX5_catcher1 105 = .ok (.iload_n 2, 1) := dk_28 (dk_at dksX5_catcher1_4 10 rfl rfl)
theorem dX5_catcher1_106 : decode cX5_catcher1 106 = .ok (.iastore, 1) := dk_79 (dk_at dksX5_catcher1_4 11 rfl rfl)
theorem dX5_catcher1_107 : decode cX5_catcher1 107 = .ok (.aload_n 0, 1) := dk_42 (dk_at dksX5_catcher1_4 12 rfl rfl)
theorem dX5_catcher1_108 : decode cX5_catcher1 108 = .ok (.getfield 13, 3) := dk_180 0 13 (dk_at dksX5_catcher1_4 13 rfl rfl)
theorem dX5_catcher1_111 : decode cX5_catcher1 111 = .ok (.iload 6, 2) := dk_21 6 (dk_at dksX5_catcher1_4 16 rfl rfl)
theorem dX5_catcher1_113 : decode cX5_catcher1 113 = .ok (.iconst 1, 1) := dk_4 (dk_at dksX5_catcher1_4 18 rfl rfl)
theorem dX5_catcher1_114 : decode cX5_catcher1 114 = .ok (.iadd, 1) := dk_96 (dk_at dksX5_catcher1_4 19 rfl rfl)
theorem dX5_catcher1_115 : decode cX5_catcher1 115 = .ok (.iload_n 3, 1) := dk_29 (dk_at dksX5_catcher1_4 20 rfl rfl)
theorem dX5_catcher1_116 : decode cX5_catcher1 116 = .ok (.iastore, 1) := dk_79 (dk_at dksX5_catcher1_4 21 rfl rfl)
theorem dX5_catcher1_117 : decode cX5_catcher1 117 = .ok (.aload_n 0, 1) := dk_42 (dk_at dksX5_catcher1_4 22 rfl rfl)
theorem dX5_catcher1_118 : decode cX5_catcher1 118 = .ok (.getfield 13, 3) := dk_180 0 13 (dk_at dksX5_catcher1_5 0 rfl rfl)
theorem dX5_catcher1_121 : decode cX5_catcher1 121 = .ok (.iload 6, 2) := dk_21 6 (dk_at dksX5_catcher1_5 3 rfl rfl)
theorem dX5_catcher1_123 : decode cX5_catcher1 123 = .ok (.iconst 2, 1) := dk_5 (dk_at dksX5_catcher1_5 5 rfl rfl)
theorem dX5_catcher1_124 : decode cX5_catcher1 124 = .ok (.iadd, 1) := dk_96 (dk_at dksX5_catcher1_5 6 rfl rfl)
theorem dX5_catcher1_125 : decode cX5_catcher1 125 = .ok (.iload 4, 2) := dk_21 4 (dk_at dksX5_catcher1_5 7 rfl rfl)
theorem dX5_catcher1_127 : decode cX5_catcher1 127 = .ok (.iastore, 1) := dk_79 (dk_at dksX5_catcher1_5 9 rfl rfl)
theorem dX5_catcher1_128 : decode cX5_catcher1 128 = .ok (.aload_n 0, 1) := dk_42 (dk_at dksX5_catcher1_5 10 rfl rfl)
theorem dX5_catcher1_129 : decode cX5_catcher1 129 = .ok (.getfield 13, 3) := dk_180 0 13 (dk_at dksX5_catcher1_5 11 rfl rfl)
theorem dX5_catcher1_132 : decode cX5_catcher1 132 = .ok (.iload 6, 2) := dk_21 6 (dk_at dksX5_catcher1_5 14 rfl rfl)
theorem dX5_catcher1_134 : decode cX5_catcher1 134 = .ok (.iconst 3, 1) := dk_6 (dk_at dksX5_catcher1_5 16 rfl rfl)
theorem dX5_catcher1_135 : decode cX5_catcher1 135 = .ok (.iadd, 1) := dk_96 (dk_at dksX5_catcher1_5 17 rfl rfl)
theorem dX5_catcher1_136 : decode cX5_catcher1 136 = .ok (.iload_n 1, 1) := dk_27 (dk_at dksX5_catcher1_5 18 rfl rfl)
theorem dX5_catcher1_137 : decode cX5_catcher1 137 = .ok (.iastore, 1) := dk_79 (dk_at dksX5_catcher1_5 19 rfl rfl)
theorem dX5_catcher1_138 : decode cX5_catcher1 138 = .ok (.aload_n 0, 1) := dk_42 (dk_at dksX5_catcher1_5 20 rfl rfl)
theorem dX5_catcher1_139 : decode cX5_catcher1 139 = .ok (.getfield 13, 3) := dk_180 0 13 (dk_at dksX5_catcher1_5 21 rfl rfl)
theorem dX5_catcher1_142 : decode cX5_catcher1 142 = .ok (.iload 6, 2) := dk_21 6 (dk_at dksX5_catcher1_6 0 rfl rfl)
theorem dX5_catcher1_144 : decode cX5_catcher1 144 = .ok (.iconst 4, 1) := dk_7 (dk_at dksX5_catcher1_6 2 rfl rfl)
theorem dX5_catcher1_145 : decode cX5_catcher1 145 = .ok (.iadd, 1) := dk_96 (dk_at dksX5_catcher1_6 3 rfl rfl)
theorem dX5_catcher1_146 : decode cX5_catcher1 146 = .ok (.iconst (-1), 1) := dk_2 (dk_at dksX5_catcher1_6 4 rfl rfl)
theorem dX5_catcher1_147 : decode cX5_catcher1 147 = .ok (.iastore, 1) := dk_79 (dk_at dksX5_catcher1_6 5 rfl rfl)
theorem dX5_catcher1_148 : decode cX5_catcher1 148 = .ok (.aload_n 0, 1) := dk_42 (dk_at dksX5_catcher1_6 6 rfl rfl)
theorem dX5_catcher1_149 : decode cX5_catcher1 149 = .ok (.getfield 13, 3) := dk_180 0 13 (dk_at dksX5_catcher1_6 7 rfl rfl)
theorem dX5_catcher1_152 : decode cX5_catcher1 152 = .ok (.iconst 0, 1) := dk_3 (dk_at dksX5_catcher1_6 10 rfl rfl)
theorem dX5_catcher1_153 : decode cX5_catcher1 153 = .ok (.dup2, 1) := dk_92 (dk_at dksX5_catcher1_6 11 rfl rfl)
theorem dX5_catcher1_154 : decode cX5_catcher1 154 = .ok (.iaload, 1) := dk_46 (dk_at dksX5_catcher1_6 12 rfl rfl)
theorem dX5_catcher1_155 : decode cX5_catcher1 155 = .ok (.iconst 1, 1) := dk_4 (dk_at dksX5_catcher1_6 13 rfl rfl)
theorem dX5_catcher1_156 : decode cX5_catcher1 156 = .ok (.iadd, 1) := dk_96 (dk_at dksX5_catcher1_6 14 rfl rfl)
theorem dX5_catcher1_157 : decode cX5_catcher1 157 = .ok (.iastore, 1) := dk_79 (dk_at dksX5_catcher1_6 15 rfl rfl)
theorem dX5_catcher1_158 : decode cX5_catcher1 158 = .ok (.iload 5, 2) := dk_21 5 (dk_at dksX5_catcher1_6 16 rfl rfl)
theorem dX5_catcher1_160 : decode cX5_catcher1 160 = .ok (.ireturn, 1) := dk_172 (dk_at dksX5_catcher1_6 18 rfl rfl)
abbrev cX5_isCell : ByteArray := prog_22_method_12_code
def yX5_isCell : MethodName := ⟨RX5, "isCell", "(I)Z"⟩
def dkwX5_isCell_0 : List UInt8 := [26, 133, 9, 20, 0, 163, 184, 0, 159, 172]
abbrev dktX5_isCell_0 : List UInt8 := dkwX5_isCell_0 ++ []
theorem dksX5_isCell_0 : cX5_isCell.data.toList.drop 0 = dktX5_isCell_0 := by decide +kernel
theorem dX5_isCell_0 : decode cX5_isCell 0 = .ok (.iload_n 0, 1) := dk_26 (dk_at dksX5_isCell_0 0 rfl rfl)
theorem dX5_isCell_1 : decode cX5_isCell 1 = .ok (.i2l, 1) := dk_133 (dk_at dksX5_isCell_0 1 rfl rfl)
theorem dX5_isCell_2 : decode cX5_isCell 2 = .ok (.lconst 0, 1) := dk_9 (dk_at dksX5_isCell_0 2 rfl rfl)
theorem dX5_isCell_3 : decode cX5_isCell 3 = .ok (.ldc2_w 163, 3) := dk_20 0 163 (dk_at dksX5_isCell_0 3 rfl rfl)
theorem dX5_isCell_6 : decode cX5_isCell 6 = .ok (.invokestatic 159, 3) := dk_184 0 159 (dk_at dksX5_isCell_0 6 rfl rfl)
theorem dX5_isCell_9 : decode cX5_isCell 9 = .ok (.ireturn, 1) := dk_172 (dk_at dksX5_isCell_0 9 rfl rfl)
abbrev cX5_isFree : ByteArray := prog_22_method_19_code
def yX5_isFree : MethodName := ⟨RX5, "isFree", "(I)Z"⟩
def dkwX5_isFree_1 : List UInt8 := [132, 2, 1, 167, 255, 231, 4, 172]
abbrev dktX5_isFree_1 : List UInt8 := dkwX5_isFree_1 ++ []
def dkwX5_isFree_0 : List UInt8 := [3, 61, 28, 42, 180, 0, 13, 3, 46, 162, 0, 21, 42, 28, 6, 182, 0, 165, 27, 160, 0, 5, 3, 172]
abbrev dktX5_isFree_0 : List UInt8 := dkwX5_isFree_0 ++ dktX5_isFree_1
theorem dksX5_isFree_0 : cX5_isFree.data.toList.drop 0 = dktX5_isFree_0 := by decide +kernel
theorem dksX5_isFree_1 : cX5_isFree.data.toList.drop 24 = dktX5_isFree_1 := dk_seg dksX5_isFree_0 24 rfl rfl
theorem dX5_isFree_0 : decode cX5_isFree 0 = .ok (.iconst 0, 1) := dk_3 (dk_at dksX5_isFree_0 0 rfl rfl)
theorem dX5_isFree_1 : decode cX5_isFree 1 = .ok (.istore_n 2, 1) := dk_61 (dk_at dksX5_isFree_0 1 rfl rfl)
theorem dX5_isFree_2 : decode cX5_isFree 2 = .ok (.iload_n 2, 1) := dk_28 (dk_at dksX5_isFree_0 2 rfl rfl)
theorem dX5_isFree_3 : decode cX5_isFree 3 = .ok (.aload_n 0, 1) := dk_42 (dk_at dksX5_isFree_0 3 rfl rfl)
theorem dX5_isFree_4 : decode cX5_isFree 4 = .ok (.getfield 13, 3) := dk_180 0 13 (dk_at dksX5_isFree_0 4 rfl rfl)
theorem dX5_isFree_7 : decode cX5_isFree 7 = .ok (.iconst 0, 1) := dk_3 (dk_at dksX5_isFree_0 7 rfl rfl)
theorem dX5_isFree_8 : decode cX5_isFree 8 = .ok (.iaload, 1) := dk_46 (dk_at dksX5_isFree_0 8 rfl rfl)
theorem dX5_isFree_9 : decode cX5_isFree 9 = .ok (.if_icmp .ge 21, 3) := dk_162 0 21 (dk_at dksX5_isFree_0 9 rfl rfl)
theorem dX5_isFree_12 : decode cX5_isFree 12 = .ok (.aload_n 0, 1) := dk_42 (dk_at dksX5_isFree_0 12 rfl rfl)
theorem dX5_isFree_13 : decode cX5_isFree 13 = .ok (.iload_n 2, 1) := dk_28 (dk_at dksX5_isFree_0 13 rfl rfl)
theorem dX5_isFree_14 : decode cX5_isFree 14 = .ok (.iconst 3, 1) := dk_6 (dk_at dksX5_isFree_0 14 rfl rfl)
theorem dX5_isFree_15 : decode cX5_isFree 15 = .ok (.invokevirtual 165, 3) := dk_182 0 165 (dk_at dksX5_isFree_0 15 rfl rfl)
theorem dX5_isFree_18 : decode cX5_isFree 18 = .ok (.iload_n 1, 1) := dk_27 (dk_at dksX5_isFree_0 18 rfl rfl)
theorem dX5_isFree_19 : decode cX5_isFree 19 = .ok (.if_icmp .ne 5, 3) := dk_160 0 5 (dk_at dksX5_isFree_0 19 rfl rfl)
theorem dX5_isFree_22 : decode cX5_isFree 22 = .ok (.iconst 0, 1) := dk_3 (dk_at dksX5_isFree_0 22 rfl rfl)
theorem dX5_isFree_23 : decode cX5_isFree 23 = .ok (.ireturn, 1) := dk_172 (dk_at dksX5_isFree_0 23 rfl rfl)
theorem dX5_isFree_24 : decode cX5_isFree 24 = .ok (.iinc 2 1, 3) := dk_132 2 1 (dk_at dksX5_isFree_1 0 rfl rfl)
theorem dX5_isFree_27 : decode cX5_isFree 27 = .ok (.goto (-25), 3) := dk_167 255 231 (dk_at dksX5_isFree_1 3 rfl rfl)
theorem dX5_isFree_30 : decode cX5_isFree 30 = .ok (.iconst 1, 1) := dk_4 (dk_at dksX5_isFree_1 6 rfl rfl)
theorem dX5_isFree_31 : decode cX5_isFree 31 = .ok (.ireturn, 1) := dk_172 (dk_at dksX5_isFree_1 7 rfl rfl)
abbrev cX5_ofCatcher : ByteArray := prog_22_method_9_code
def yX5_ofCatcher : MethodName := ⟨RX5, "ofCatcher", "(II)I"⟩
def dkwX5_ofCatcher_0 : List UInt8 := [42, 180, 0, 13, 16, 13, 8, 27, 104, 96, 28, 96, 46, 172]
abbrev dktX5_ofCatcher_0 : List UInt8 := dkwX5_ofCatcher_0 ++ []
theorem dksX5_ofCatcher_0 : cX5_ofCatcher.data.toList.drop 0 = dktX5_ofCatcher_0 := by decide +kernel
theorem dX5_ofCatcher_0 : decode cX5_ofCatcher 0 = .ok (.aload_n 0, 1) := dk_42 (dk_at dksX5_ofCatcher_0 0 rfl rfl)
theorem dX5_ofCatcher_1 : decode cX5_ofCatcher 1 = .ok (.getfield 13, 3) := dk_180 0 13 (dk_at dksX5_ofCatcher_0 1 rfl rfl)
theorem dX5_ofCatcher_4 : decode cX5_ofCatcher 4 = .ok (.bipush 13, 2) := dk_16 13 (dk_at dksX5_ofCatcher_0 4 rfl rfl)
theorem dX5_ofCatcher_6 : decode cX5_ofCatcher 6 = .ok (.iconst 5, 1) := dk_8 (dk_at dksX5_ofCatcher_0 6 rfl rfl)
theorem dX5_ofCatcher_7 : decode cX5_ofCatcher 7 = .ok (.iload_n 1, 1) := dk_27 (dk_at dksX5_ofCatcher_0 7 rfl rfl)
theorem dX5_ofCatcher_8 : decode cX5_ofCatcher 8 = .ok (.imul, 1) := dk_104 (dk_at dksX5_ofCatcher_0 8 rfl rfl)
theorem dX5_ofCatcher_9 : decode cX5_ofCatcher 9 = .ok (.iadd, 1) := dk_96 (dk_at dksX5_ofCatcher_0 9 rfl rfl)
theorem dX5_ofCatcher_10 : decode cX5_ofCatcher 10 = .ok (.iload_n 2, 1) := dk_28 (dk_at dksX5_ofCatcher_0 10 rfl rfl)
theorem dX5_ofCatcher_11 : decode cX5_ofCatcher 11 = .ok (.iadd, 1) := dk_96 (dk_at dksX5_ofCatcher_0 11 rfl rfl)
theorem dX5_ofCatcher_12 : decode cX5_ofCatcher 12 = .ok (.iaload, 1) := dk_46 (dk_at dksX5_ofCatcher_0 12 rfl rfl)
theorem dX5_ofCatcher_13 : decode cX5_ofCatcher 13 = .ok (.ireturn, 1) := dk_172 (dk_at dksX5_ofCatcher_0 13 rfl rfl)
abbrev cX5_isBarredBy : ByteArray := prog_22_method_70_code
def yX5_isBarredBy : MethodName := ⟨RX5, "isBarredBy", "(IIII)Z"⟩
def dkwX5_isBarredBy_2 : List UInt8 := [3, 172]
abbrev dktX5_isBarredBy_2 : List UInt8 := dkwX5_isBarredBy_2 ++ []
def dkwX5_isBarredBy_1 : List UInt8 := [16, 13, 21, 4, 16, 6, 108, 133, 80, 42, 6, 9, 182, 1, 156, 10, 148, 154, 0, 7, 4, 167, 0, 4]
abbrev dktX5_isBarredBy_1 : List UInt8 := dkwX5_isBarredBy_1 ++ dktX5_isBarredBy_2
def dkwX5_isBarredBy_0 : List UInt8 := [42, 27, 28, 29, 182, 1, 164, 42, 180, 0, 116, 16, 12, 21, 4, 16, 6, 112, 133, 80, 42, 180, 0, 116]
abbrev dktX5_isBarredBy_0 : List UInt8 := dkwX5_isBarredBy_0 ++ dktX5_isBarredBy_1
theorem dksX5_isBarredBy_0 : cX5_isBarredBy.data.toList.drop 0 = dktX5_isBarredBy_0 := by decide +kernel
theorem dksX5_isBarredBy_1 : cX5_isBarredBy.data.toList.drop 24 = dktX5_isBarredBy_1 := dk_seg dksX5_isBarredBy_0 24 rfl rfl
theorem dksX5_isBarredBy_2 : cX5_isBarredBy.data.toList.drop 48 = dktX5_isBarredBy_2 := dk_seg dksX5_isBarredBy_1 24 rfl rfl
theorem dX5_isBarredBy_0 : decode cX5_isBarredBy 0 = .ok (.aload_n 0, 1) := dk_42 (dk_at dksX5_isBarredBy_0 0 rfl rfl)
theorem dX5_isBarredBy_1 : decode cX5_isBarredBy 1 = .ok (.iload_n 1, 1) := dk_27 (dk_at dksX5_isBarredBy_0 1 rfl rfl)
theorem dX5_isBarredBy_2 : decode cX5_isBarredBy 2 = .ok (.iload_n 2, 1) := dk_28 (dk_at dksX5_isBarredBy_0 2 rfl rfl)
theorem dX5_isBarredBy_3 : decode cX5_isBarredBy 3 = .ok (.iload_n 3, 1) := dk_29 (dk_at dksX5_isBarredBy_0 3 rfl rfl)
theorem dX5_isBarredBy_4 : decode cX5_isBarredBy 4 = .ok (.invokevirtual 420, 3) := dk_182 1 164 (dk_at dksX5_isBarredBy_0 4 rfl rfl)
theorem dX5_isBarredBy_7 : decode cX5_isBarredBy 7 = .ok (.aload_n 0, 1) := dk_42 (dk_at dksX5_isBarredBy_0 7 rfl rfl)
theorem dX5_isBarredBy_8 : decode cX5_isBarredBy 8 = .ok (.getfield 116, 3) := dk_180 0 116 (dk_at dksX5_isBarredBy_0 8 rfl rfl)
theorem dX5_isBarredBy_11 : decode cX5_isBarredBy 11 = .ok (.bipush 12, 2) := dk_16 12 (dk_at dksX5_isBarredBy_0 11 rfl rfl)
theorem dX5_isBarredBy_13 : decode cX5_isBarredBy 13 = .ok (.iload 4, 2) := dk_21 4 (dk_at dksX5_isBarredBy_0 13 rfl rfl)
theorem dX5_isBarredBy_15 : decode cX5_isBarredBy 15 = .ok (.bipush 6, 2) := dk_16 6 (dk_at dksX5_isBarredBy_0 15 rfl rfl)
theorem dX5_isBarredBy_17 : decode cX5_isBarredBy 17 = .ok (.irem, 1) := dk_112 (dk_at dksX5_isBarredBy_0 17 rfl rfl)
theorem dX5_isBarredBy_18 : decode cX5_isBarredBy 18 = .ok (.i2l, 1) := dk_133 (dk_at dksX5_isBarredBy_0 18 rfl rfl)
theorem dX5_isBarredBy_19 : decode cX5_isBarredBy 19 = .ok (.lastore, 1) := dk_80 (dk_at dksX5_isBarredBy_0 19 rfl rfl)
theorem dX5_isBarredBy_20 : decode cX5_isBarredBy 20 = .ok (.aload_n 0, 1) := dk_42 (dk_at dksX5_isBarredBy_0 20 rfl rfl)
theorem dX5_isBarredBy_21 : decode cX5_isBarredBy 21 = .ok (.getfield 116, 3) := dk_180 0 116 (dk_at dksX5_isBarredBy_0 21 rfl rfl)
theorem dX5_isBarredBy_24 : decode cX5_isBarredBy 24 = .ok (.bipush 13, 2) := dk_16 13 (dk_at dksX5_isBarredBy_1 0 rfl rfl)
theorem dX5_isBarredBy_26 : decode cX5_isBarredBy 26 = .ok (.iload 4, 2) := dk_21 4 (dk_at dksX5_isBarredBy_1 2 rfl rfl)
theorem dX5_isBarredBy_28 : decode cX5_isBarredBy 28 = .ok (.bipush 6, 2) := dk_16 6 (dk_at dksX5_isBarredBy_1 4 rfl rfl)
theorem dX5_isBarredBy_30 : decode cX5_isBarredBy 30 = .ok (.idiv, 1) := dk_108 (dk_at dksX5_isBarredBy_1 6 rfl rfl)
theorem dX5_isBarredBy_31 : decode cX5_isBarredBy 31 = .ok (.i2l, 1) := dk_133 (dk_at dksX5_isBarredBy_1 7 rfl rfl)
theorem dX5_isBarredBy_32 : decode cX5_isBarredBy 32 = .ok (.lastore, 1) := dk_80 (dk_at dksX5_isBarredBy_1 8 rfl rfl)
theorem dX5_isBarredBy_33 : decode cX5_isBarredBy 33 = .ok (.aload_n 0, 1) := dk_42 (dk_at dksX5_isBarredBy_1 9 rfl rfl)
theorem dX5_isBarredBy_34 : decode cX5_isBarredBy 34 = .ok (.iconst 3, 1) := dk_6 (dk_at dksX5_isBarredBy_1 10 rfl rfl)
theorem dX5_isBarredBy_35 : decode cX5_isBarredBy 35 = .ok (.lconst 0, 1) := dk_9 (dk_at dksX5_isBarredBy_1 11 rfl rfl)
theorem dX5_isBarredBy_36 : decode cX5_isBarredBy 36 = .ok (.invokevirtual 412, 3) := dk_182 1 156 (dk_at dksX5_isBarredBy_1 12 rfl rfl)
theorem dX5_isBarredBy_39 : decode cX5_isBarredBy 39 = .ok (.lconst 1, 1) := dk_10 (dk_at dksX5_isBarredBy_1 15 rfl rfl)
theorem dX5_isBarredBy_40 : decode cX5_isBarredBy 40 = .ok (.lcmp, 1) := dk_148 (dk_at dksX5_isBarredBy_1 16 rfl rfl)
theorem dX5_isBarredBy_41 : decode cX5_isBarredBy 41 = .ok (.ifCond .ne 7, 3) := dk_154 0 7 (dk_at dksX5_isBarredBy_1 17 rfl rfl)
theorem dX5_isBarredBy_44 : decode cX5_isBarredBy 44 = .ok (.iconst 1, 1) := dk_4 (dk_at dksX5_isBarredBy_1 20 rfl rfl)
theorem dX5_isBarredBy_45 : decode cX5_isBarredBy 45 = .ok (.goto 4, 3) := dk_167 0 4 (dk_at dksX5_isBarredBy_1 21 rfl rfl)
theorem dX5_isBarredBy_48 : decode cX5_isBarredBy 48 = .ok (.iconst 0, 1) := dk_3 (dk_at dksX5_isBarredBy_2 0 rfl rfl)
theorem dX5_isBarredBy_49 : decode cX5_isBarredBy 49 = .ok (.ireturn, 1) := dk_172 (dk_at dksX5_isBarredBy_2 1 rfl rfl)
abbrev cX5_setCatcher : ByteArray := prog_22_method_66_code
def yX5_setCatcher : MethodName := ⟨RX5, "setCatcher", "(III)V"⟩
def dkwX5_setCatcher_1 : List UInt8 := [180, 0, 116, 16, 9, 29, 133, 80, 177]
abbrev dktX5_setCatcher_1 : List UInt8 := dkwX5_setCatcher_1 ++ []
def dkwX5_setCatcher_0 : List UInt8 := [42, 182, 1, 153, 42, 180, 0, 116, 16, 7, 27, 133, 80, 42, 180, 0, 116, 16, 8, 28, 133, 80, 42]
abbrev dktX5_setCatcher_0 : List UInt8 := dkwX5_setCatcher_0 ++ dktX5_setCatcher_1
theorem dksX5_setCatcher_0 : cX5_setCatcher.data.toList.drop 0 = dktX5_setCatcher_0 := by decide +kernel
theorem dksX5_setCatcher_1 : cX5_setCatcher.data.toList.drop 23 = dktX5_setCatcher_1 := dk_seg dksX5_setCatcher_0 23 rfl rfl
theorem dX5_setCatcher_0 : decode cX5_setCatcher 0 = .ok (.aload_n 0, 1) := dk_42 (dk_at dksX5_setCatcher_0 0 rfl rfl)
theorem dX5_setCatcher_1 : decode cX5_setCatcher 1 = .ok (.invokevirtual 409, 3) := dk_182 1 153 (dk_at dksX5_setCatcher_0 1 rfl rfl)
theorem dX5_setCatcher_4 : decode cX5_setCatcher 4 = .ok (.aload_n 0, 1) := dk_42 (dk_at dksX5_setCatcher_0 4 rfl rfl)
theorem dX5_setCatcher_5 : decode cX5_setCatcher 5 = .ok (.getfield 116, 3) := dk_180 0 116 (dk_at dksX5_setCatcher_0 5 rfl rfl)
theorem dX5_setCatcher_8 : decode cX5_setCatcher 8 = .ok (.bipush 7, 2) := dk_16 7 (dk_at dksX5_setCatcher_0 8 rfl rfl)
theorem dX5_setCatcher_10 : decode cX5_setCatcher 10 = .ok (.iload_n 1, 1) := dk_27 (dk_at dksX5_setCatcher_0 10 rfl rfl)
theorem dX5_setCatcher_11 : decode cX5_setCatcher 11 = .ok (.i2l, 1) := dk_133 (dk_at dksX5_setCatcher_0 11 rfl rfl)
theorem dX5_setCatcher_12 : decode cX5_setCatcher 12 = .ok (.lastore, 1) := dk_80 (dk_at dksX5_setCatcher_0 12 rfl rfl)
theorem dX5_setCatcher_13 : decode cX5_setCatcher 13 = .ok (.aload_n 0, 1) := dk_42 (dk_at dksX5_setCatcher_0 13 rfl rfl)
theorem dX5_setCatcher_14 : decode cX5_setCatcher 14 = .ok (.getfield 116, 3) := dk_180 0 116 (dk_at dksX5_setCatcher_0 14 rfl rfl)
theorem dX5_setCatcher_17 : decode cX5_setCatcher 17 = .ok (.bipush 8, 2) := dk_16 8 (dk_at dksX5_setCatcher_0 17 rfl rfl)
theorem dX5_setCatcher_19 : decode cX5_setCatcher 19 = .ok (.iload_n 2, 1) := dk_28 (dk_at dksX5_setCatcher_0 19 rfl rfl)
theorem dX5_setCatcher_20 : decode cX5_setCatcher 20 = .ok (.i2l, 1) := dk_133 (dk_at dksX5_setCatcher_0 20 rfl rfl)
theorem dX5_setCatcher_21 : decode cX5_setCatcher 21 = .ok (.lastore, 1) := dk_80 (dk_at dksX5_setCatcher_0 21 rfl rfl)
theorem dX5_setCatcher_22 : decode cX5_setCatcher 22 = .ok (.aload_n 0, 1) := dk_42 (dk_at dksX5_setCatcher_0 22 rfl rfl)
theorem dX5_setCatcher_23 : decode cX5_setCatcher 23 = .ok (.getfield 116, 3) := dk_180 0 116 (dk_at dksX5_setCatcher_1 0 rfl rfl)
theorem dX5_setCatcher_26 : decode cX5_setCatcher 26 = .ok (.bipush 9, 2) := dk_16 9 (dk_at dksX5_setCatcher_1 3 rfl rfl)
theorem dX5_setCatcher_28 : decode cX5_setCatcher 28 = .ok (.iload_n 3, 1) := dk_29 (dk_at dksX5_setCatcher_1 5 rfl rfl)
theorem dX5_setCatcher_29 : decode cX5_setCatcher 29 = .ok (.i2l, 1) := dk_133 (dk_at dksX5_setCatcher_1 6 rfl rfl)
theorem dX5_setCatcher_30 : decode cX5_setCatcher 30 = .ok (.lastore, 1) := dk_80 (dk_at dksX5_setCatcher_1 7 rfl rfl)
theorem dX5_setCatcher_31 : decode cX5_setCatcher 31 = .ok (.return_, 1) := dk_177 (dk_at dksX5_setCatcher_1 8 rfl rfl)
abbrev cX5_clearSet : ByteArray := prog_22_method_64_code
def yX5_clearSet : MethodName := ⟨RX5, "clearSet", "()V"⟩
def dkwX5_clearSet_1 : List UInt8 := [180, 0, 116, 16, 14, 42, 16, 8, 182, 1, 147, 133, 80, 177]
abbrev dktX5_clearSet_1 : List UInt8 := dkwX5_clearSet_1 ++ []
def dkwX5_clearSet_0 : List UInt8 := [4, 60, 27, 16, 14, 162, 0, 18, 42, 180, 0, 116, 27, 20, 0, 221, 80, 132, 1, 1, 167, 255, 238, 42]
abbrev dktX5_clearSet_0 : List UInt8 := dkwX5_clearSet_0 ++ dktX5_clearSet_1
theorem dksX5_clearSet_0 : cX5_clearSet.data.toList.drop 0 = dktX5_clearSet_0 := by decide +kernel
theorem dksX5_clearSet_1 : cX5_clearSet.data.toList.drop 24 = dktX5_clearSet_1 := dk_seg dksX5_clearSet_0 24 rfl rfl
theorem dX5_clearSet_0 : decode cX5_clearSet 0 = .ok (.iconst 1, 1) := dk_4 (dk_at dksX5_clearSet_0 0 rfl rfl)
theorem dX5_clearSet_1 : decode cX5_clearSet 1 = .ok (.istore_n 1, 1) := dk_60 (dk_at dksX5_clearSet_0 1 rfl rfl)
theorem dX5_clearSet_2 : decode cX5_clearSet 2 = .ok (.iload_n 1, 1) := dk_27 (dk_at dksX5_clearSet_0 2 rfl rfl)
theorem dX5_clearSet_3 : decode cX5_clearSet 3 = .ok (.bipush 14, 2) := dk_16 14 (dk_at dksX5_clearSet_0 3 rfl rfl)
theorem dX5_clearSet_5 : decode cX5_clearSet 5 = .ok (.if_icmp .ge 18, 3) := dk_162 0 18 (dk_at dksX5_clearSet_0 5 rfl rfl)
theorem dX5_clearSet_8 : decode cX5_clearSet 8 = .ok (.aload_n 0, 1) := dk_42 (dk_at dksX5_clearSet_0 8 rfl rfl)
theorem dX5_clearSet_9 : decode cX5_clearSet 9 = .ok (.getfield 116, 3) := dk_180 0 116 (dk_at dksX5_clearSet_0 9 rfl rfl)
theorem dX5_clearSet_12 : decode cX5_clearSet 12 = .ok (.iload_n 1, 1) := dk_27 (dk_at dksX5_clearSet_0 12 rfl rfl)
theorem dX5_clearSet_13 : decode cX5_clearSet 13 = .ok (.ldc2_w 221, 3) := dk_20 0 221 (dk_at dksX5_clearSet_0 13 rfl rfl)
theorem dX5_clearSet_16 : decode cX5_clearSet 16 = .ok (.lastore, 1) := dk_80 (dk_at dksX5_clearSet_0 16 rfl rfl)
theorem dX5_clearSet_17 : decode cX5_clearSet 17 = .ok (.iinc 1 1, 3) := dk_132 1 1 (dk_at dksX5_clearSet_0 17 rfl rfl)
theorem dX5_clearSet_20 : decode cX5_clearSet 20 = .ok (.goto (-18), 3) := dk_167 255 238 (dk_at dksX5_clearSet_0 20 rfl rfl)
theorem dX5_clearSet_23 : decode cX5_clearSet 23 = .ok (.aload_n 0, 1) := dk_42 (dk_at dksX5_clearSet_0 23 rfl rfl)
theorem dX5_clearSet_24 : decode cX5_clearSet 24 = .ok (.getfield 116, 3) := dk_180 0 116 (dk_at dksX5_clearSet_1 0 rfl rfl)
theorem dX5_clearSet_27 : decode cX5_clearSet 27 = .ok (.bipush 14, 2) := dk_16 14 (dk_at dksX5_clearSet_1 3 rfl rfl)
theorem dX5_clearSet_29 : decode cX5_clearSet 29 = .ok (.aload_n 0, 1) := dk_42 (dk_at dksX5_clearSet_1 5 rfl rfl)
theorem dX5_clearSet_30 : decode cX5_clearSet 30 = .ok (.bipush 8, 2) := dk_16 8 (dk_at dksX5_clearSet_1 6 rfl rfl)
theorem dX5_clearSet_32 : decode cX5_clearSet 32 = .ok (.invokevirtual 403, 3) := dk_182 1 147 (dk_at dksX5_clearSet_1 8 rfl rfl)
theorem dX5_clearSet_35 : decode cX5_clearSet 35 = .ok (.i2l, 1) := dk_133 (dk_at dksX5_clearSet_1 11 rfl rfl)
theorem dX5_clearSet_36 : decode cX5_clearSet 36 = .ok (.lastore, 1) := dk_80 (dk_at dksX5_clearSet_1 12 rfl rfl)
theorem dX5_clearSet_37 : decode cX5_clearSet 37 = .ok (.return_, 1) := dk_177 (dk_at dksX5_clearSet_1 13 rfl rfl)
abbrev cX5_term : ByteArray := prog_22_method_8_code
def yX5_term : MethodName := ⟨RX5, "term", "(I)I"⟩
def dkwX5_term_0 : List UInt8 := [42, 180, 0, 13, 7, 27, 96, 46, 172]
abbrev dktX5_term_0 : List UInt8 := dkwX5_term_0 ++ []
theorem dksX5_term_0 : cX5_term.data.toList.drop 0 = dktX5_term_0 := by decide +kernel
theorem dX5_term_0 : decode cX5_term 0 = .ok (.aload_n 0, 1) := dk_42 (dk_at dksX5_term_0 0 rfl rfl)
theorem dX5_term_1 : decode cX5_term 1 = .ok (.getfield 13, 3) := dk_180 0 13 (dk_at dksX5_term_0 1 rfl rfl)
theorem dX5_term_4 : decode cX5_term 4 = .ok (.iconst 4, 1) := dk_7 (dk_at dksX5_term_0 4 rfl rfl)
theorem dX5_term_5 : decode cX5_term 5 = .ok (.iload_n 1, 1) := dk_27 (dk_at dksX5_term_0 5 rfl rfl)
theorem dX5_term_6 : decode cX5_term 6 = .ok (.iadd, 1) := dk_96 (dk_at dksX5_term_0 6 rfl rfl)
theorem dX5_term_7 : decode cX5_term 7 = .ok (.iaload, 1) := dk_46 (dk_at dksX5_term_0 7 rfl rfl)
theorem dX5_term_8 : decode cX5_term 8 = .ok (.ireturn, 1) := dk_172 (dk_at dksX5_term_0 8 rfl rfl)
abbrev cX5_tells : ByteArray := prog_22_method_65_code
def yX5_tells : MethodName := ⟨RX5, "tells", "(IJ)J"⟩
def dkwX5_tells_4 : List UInt8 := [180, 1, 144, 55, 4, 132, 6, 1, 167, 255, 188, 22, 4, 173]
abbrev dktX5_tells_4 : List UInt8 := dkwX5_tells_4 ++ []
def dkwX5_tells_3 : List UInt8 := [27, 160, 0, 27, 42, 21, 7, 182, 1, 150, 153, 0, 18, 27, 6, 160, 0, 7, 10, 167, 0, 7, 42]
abbrev dktX5_tells_3 : List UInt8 := dkwX5_tells_3 ++ dktX5_tells_4
def dkwX5_tells_2 : List UInt8 := [162, 0, 58, 42, 180, 1, 127, 5, 96, 16, 8, 21, 6, 104, 96, 54, 7, 42, 180, 0, 13, 21, 7, 46]
abbrev dktX5_tells_2 : List UInt8 := dkwX5_tells_2 ++ dktX5_tells_3
def dkwX5_tells_1 : List UInt8 := [104, 96, 181, 1, 127, 32, 55, 4, 3, 54, 6, 21, 6, 42, 180, 0, 13, 42, 180, 1, 127, 4, 96, 46]
abbrev dktX5_tells_1 : List UInt8 := dkwX5_tells_1 ++ dktX5_tells_2
def dkwX5_tells_0 : List UInt8 := [42, 180, 0, 13, 6, 46, 2, 160, 0, 5, 32, 173, 42, 16, 60, 17, 3, 132, 42, 180, 0, 13, 6, 46]
abbrev dktX5_tells_0 : List UInt8 := dkwX5_tells_0 ++ dktX5_tells_1
theorem dksX5_tells_0 : cX5_tells.data.toList.drop 0 = dktX5_tells_0 := by decide +kernel
theorem dksX5_tells_1 : cX5_tells.data.toList.drop 24 = dktX5_tells_1 := dk_seg dksX5_tells_0 24 rfl rfl
theorem dksX5_tells_2 : cX5_tells.data.toList.drop 48 = dktX5_tells_2 := dk_seg dksX5_tells_1 24 rfl rfl
theorem dksX5_tells_3 : cX5_tells.data.toList.drop 72 = dktX5_tells_3 := dk_seg dksX5_tells_2 24 rfl rfl
theorem dksX5_tells_4 : cX5_tells.data.toList.drop 95 = dktX5_tells_4 := dk_seg dksX5_tells_3 23 rfl rfl
theorem dX5_tells_0 : decode cX5_tells 0 = .ok (.aload_n 0, 1) := dk_42 (dk_at dksX5_tells_0 0 rfl rfl)
theorem dX5_tells_1 : decode cX5_tells 1 = .ok (.getfield 13, 3) := dk_180 0 13 (dk_at dksX5_tells_0 1 rfl rfl)
theorem dX5_tells_4 : decode cX5_tells 4 = .ok (.iconst 3, 1) := dk_6 (dk_at dksX5_tells_0 4 rfl rfl)
theorem dX5_tells_5 : decode cX5_tells 5 = .ok (.iaload, 1) := dk_46 (dk_at dksX5_tells_0 5 rfl rfl)
theorem dX5_tells_6 : decode cX5_tells 6 = .ok (.iconst (-1), 1) := dk_2 (dk_at dksX5_tells_0 6 rfl rfl)
theorem dX5_tells_7 : decode cX5_tells 7 = .ok (.if_icmp .ne 5, 3) := dk_160 0 5 (dk_at dksX5_tells_0 7 rfl rfl)
theorem dX5_tells_10 : decode cX5_tells 10 = .ok (.lload_n 2, 1) := dk_32 (dk_at dksX5_tells_0 10 rfl rfl)
theorem dX5_tells_11 : decode cX5_tells 11 = .ok (.lreturn, 1) := dk_173 (dk_at dksX5_tells_0 11 rfl rfl)
theorem dX5_tells_12 : decode cX5_tells 12 = .ok (.aload_n 0, 1) := dk_42 (dk_at dksX5_tells_0 12 rfl rfl)
theorem dX5_tells_13 : decode cX5_tells 13 = .ok (.bipush 60, 2) := dk_16 60 (dk_at dksX5_tells_0 13 rfl rfl)
theorem dX5_tells_15 : decode cX5_tells 15 = .ok (.sipush 900, 3) := dk_17 3 132 (dk_at dksX5_tells_0 15 rfl rfl)
theorem dX5_tells_18 : decode cX5_tells 18 = .ok (.aload_n 0, 1) := dk_42 (dk_at dksX5_tells_0 18 rfl rfl)
theorem dX5_tells_19 : decode cX5_tells 19 = .ok (.getfield 13, 3) := dk_180 0 13 (dk_at dksX5_tells_0 19 rfl rfl)
theorem dX5_tells_22 : decode cX5_tells 22 = .ok (.iconst 3, 1) := dk_6 (dk_at dksX5_tells_0 22 rfl rfl)
theorem dX5_tells_23 : decode cX5_tells 23 = .ok (.iaload, 1) := dk_46 (dk_at dksX5_tells_0 23 rfl rfl)
theorem dX5_tells_24 : decode cX5_tells 24 = .ok (.imul, 1) := dk_104 (dk_at dksX5_tells_1 0 rfl rfl)
theorem dX5_tells_25 : decode cX5_tells 25 = .ok (.iadd, 1) := dk_96 (dk_at dksX5_tells_1 1 rfl rfl)
theorem dX5_tells_26 : decode cX5_tells 26 = .ok (.putfield 383, 3) := dk_181 1 127 (dk_at dksX5_tells_1 2 rfl rfl)
theorem dX5_tells_29 : decode cX5_tells 29 = .ok (.lload_n 2, 1) := dk_32 (dk_at dksX5_tells_1 5 rfl rfl)
theorem dX5_tells_30 : decode cX5_tells 30 = .ok (.lstore 4, 2) := dk_55 4 (dk_at dksX5_tells_1 6 rfl rfl)
theorem dX5_tells_32 : decode cX5_tells 32 = .ok (.iconst 0, 1) := dk_3 (dk_at dksX5_tells_1 8 rfl rfl)
theorem dX5_tells_33 : decode cX5_tells 33 = .ok (.istore 6, 2) := dk_54 6 (dk_at dksX5_tells_1 9 rfl rfl)
theorem dX5_tells_35 : decode cX5_tells 35 = .ok (.iload 6, 2) := dk_21 6 (dk_at dksX5_tells_1 11 rfl rfl)
theorem dX5_tells_37 : decode cX5_tells 37 = .ok (.aload_n 0, 1) := dk_42 (dk_at dksX5_tells_1 13 rfl rfl)
theorem dX5_tells_38 : decode cX5_tells 38 = .ok (.getfield 13, 3) := dk_180 0 13 (dk_at dksX5_tells_1 14 rfl rfl)
theorem dX5_tells_41 : decode cX5_tells 41 = .ok (.aload_n 0, 1) := dk_42 (dk_at dksX5_tells_1 17 rfl rfl)
theorem dX5_tells_42 : decode cX5_tells 42 = .ok (.getfield 383, 3) := dk_180 1 127 (dk_at dksX5_tells_1 18 rfl rfl)
theorem dX5_tells_45 : decode cX5_tells 45 = .ok (.iconst 1, 1) := dk_4 (dk_at dksX5_tells_1 21 rfl rfl)
theorem dX5_tells_46 : decode cX5_tells 46 = .ok (.iadd, 1) := dk_96 (dk_at dksX5_tells_1 22 rfl rfl)
theorem dX5_tells_47 : decode cX5_tells 47 = .ok (.iaload, 1) := dk_46 (dk_at dksX5_tells_1 23 rfl rfl)
theorem dX5_tells_48 : decode cX5_tells 48 = .ok (.if_icmp .ge 58, 3) := dk_162 0 58 (dk_at dksX5_tells_2 0 rfl rfl)
theorem dX5_tells_51 : decode cX5_tells 51 = .ok (.aload_n 0, 1) := dk_42 (dk_at dksX5_tells_2 3 rfl rfl)
theorem dX5_tells_52 : decode cX5_tells 52 = .ok (.getfield 383, 3) := dk_180 1 127 (dk_at dksX5_tells_2 4 rfl rfl)
theorem dX5_tells_55 : decode cX5_tells 55 = .ok (.iconst 2, 1) := dk_5 (dk_at dksX5_tells_2 7 rfl rfl)
theorem dX5_tells_56 : decode cX5_tells 56 = .ok (.iadd, 1) := dk_96 (dk_at dksX5_tells_2 8 rfl rfl)
theorem dX5_tells_57 : decode cX5_tells 57 = .ok (.bipush 8, 2) := dk_16 8 (dk_at dksX5_tells_2 9 rfl rfl)
theorem dX5_tells_59 : decode cX5_tells 59 = .ok (.iload 6, 2) := dk_21 6 (dk_at dksX5_tells_2 11 rfl rfl)
theorem dX5_tells_61 : decode cX5_tells 61 = .ok (.imul, 1) := dk_104 (dk_at dksX5_tells_2 13 rfl rfl)
theorem dX5_tells_62 : decode cX5_tells 62 = .ok (.iadd, 1) := dk_96 (dk_at dksX5_tells_2 14 rfl rfl)
theorem dX5_tells_63 : decode cX5_tells 63 = .ok (.istore 7, 2) := dk_54 7 (dk_at dksX5_tells_2 15 rfl rfl)
theorem dX5_tells_65 : decode cX5_tells 65 = .ok (.aload_n 0, 1) := dk_42 (dk_at dksX5_tells_2 17 rfl rfl)
theorem dX5_tells_66 : decode cX5_tells 66 = .ok (.getfield 13, 3) := dk_180 0 13 (dk_at dksX5_tells_2 18 rfl rfl)
theorem dX5_tells_69 : decode cX5_tells 69 = .ok (.iload 7, 2) := dk_21 7 (dk_at dksX5_tells_2 21 rfl rfl)
theorem dX5_tells_71 : decode cX5_tells 71 = .ok (.iaload, 1) := dk_46 (dk_at dksX5_tells_2 23 rfl rfl)
theorem dX5_tells_72 : decode cX5_tells 72 = .ok (.iload_n 1, 1) := dk_27 (dk_at dksX5_tells_3 0 rfl rfl)
theorem dX5_tells_73 : decode cX5_tells 73 = .ok (.if_icmp .ne 27, 3) := dk_160 0 27 (dk_at dksX5_tells_3 1 rfl rfl)
theorem dX5_tells_76 : decode cX5_tells 76 = .ok (.aload_n 0, 1) := dk_42 (dk_at dksX5_tells_3 4 rfl rfl)
theorem dX5_tells_77 : decode cX5_tells 77 = .ok (.iload 7, 2) := dk_21 7 (dk_at dksX5_tells_3 5 rfl rfl)
theorem dX5_tells_79 : decode cX5_tells 79 = .ok (.invokevirtual 406, 3) := dk_182 1 150 (dk_at dksX5_tells_3 7 rfl rfl)
theorem dX5_tells_82 : decode cX5_tells 82 = .ok (.ifCond .eq 18, 3) := dk_153 0 18 (dk_at dksX5_tells_3 10 rfl rfl)
theorem dX5_tells_85 : decode cX5_tells 85 = .ok (.iload_n 1, 1) := dk_27 (dk_at dksX5_tells_3 13 rfl rfl)
theorem dX5_tells_86 : decode cX5_tells 86 = .ok (.iconst 3, 1) := dk_6 (dk_at dksX5_tells_3 14 rfl rfl)
theorem dX5_tells_87 : decode cX5_tells 87 = .ok (.if_icmp .ne 7, 3) := dk_160 0 7 (dk_at dksX5_tells_3 15 rfl rfl)
theorem dX5_tells_90 : decode cX5_tells 90 = .ok (.lconst 1, 1) := dk_10 (dk_at dksX5_tells_3 18 rfl rfl)
theorem dX5_tells_91 : decode cX5_tells 91 = .ok (.goto 7, 3) := dk_167 0 7 (dk_at dksX5_tells_3 19 rfl rfl)
theorem dX5_tells_94 : decode cX5_tells 94 = .ok (.aload_n 0, 1) := dk_42 (dk_at dksX5_tells_3 22 rfl rfl)
theorem dX5_tells_95 : decode cX5_tells 95 = .ok (.getfield 400, 3) := dk_180 1 144 (dk_at dksX5_tells_4 0 rfl rfl)
theorem dX5_tells_98 : decode cX5_tells 98 = .ok (.lstore 4, 2) := dk_55 4 (dk_at dksX5_tells_4 3 rfl rfl)
theorem dX5_tells_100 : decode cX5_tells 100 = .ok (.iinc 6 1, 3) := dk_132 6 1 (dk_at dksX5_tells_4 5 rfl rfl)
theorem dX5_tells_103 : decode cX5_tells 103 = .ok (.goto (-68), 3) := dk_167 255 188 (dk_at dksX5_tells_4 8 rfl rfl)
theorem dX5_tells_106 : decode cX5_tells 106 = .ok (.lload 4, 2) := dk_22 4 (dk_at dksX5_tells_4 11 rfl rfl)
theorem dX5_tells_108 : decode cX5_tells 108 = .ok (.lreturn, 1) := dk_173 (dk_at dksX5_tells_4 13 rfl rfl)
abbrev cX5_isSo : ByteArray := prog_22_method_63_code
def yX5_isSo : MethodName := ⟨RX5, "isSo", "(I)Z"⟩
def dkwX5_isSo_4 : List UInt8 := [180, 1, 138, 181, 1, 144, 42, 180, 1, 124, 154, 0, 7, 4, 167, 0, 4, 3, 172, 4, 172]
abbrev dktX5_isSo_4 : List UInt8 := dkwX5_isSo_4 ++ []
def dkwX5_isSo_3 : List UInt8 := [42, 42, 180, 0, 13, 27, 6, 96, 46, 42, 180, 0, 13, 27, 7, 96, 46, 182, 1, 141, 42, 42]
abbrev dktX5_isSo_3 : List UInt8 := dkwX5_isSo_3 ++ dktX5_isSo_4
def dkwX5_isSo_2 : List UInt8 := [154, 0, 12, 42, 180, 1, 138, 9, 148, 154, 0, 5, 3, 172, 42, 180, 0, 13, 27, 46, 6, 159, 0, 44]
abbrev dktX5_isSo_2 : List UInt8 := dkwX5_isSo_2 ++ dktX5_isSo_3
def dkwX5_isSo_1 : List UInt8 := [180, 0, 13, 27, 8, 96, 46, 42, 180, 0, 13, 27, 16, 6, 96, 46, 182, 1, 141, 42, 180, 1, 124]
abbrev dktX5_isSo_1 : List UInt8 := dkwX5_isSo_1 ++ dktX5_isSo_2
def dkwX5_isSo_0 : List UInt8 := [42, 180, 0, 13, 27, 8, 96, 46, 42, 180, 0, 13, 27, 16, 6, 96, 46, 162, 0, 42, 42, 42]
abbrev dktX5_isSo_0 : List UInt8 := dkwX5_isSo_0 ++ dktX5_isSo_1
theorem dksX5_isSo_0 : cX5_isSo.data.toList.drop 0 = dktX5_isSo_0 := by decide +kernel
theorem dksX5_isSo_1 : cX5_isSo.data.toList.drop 22 = dktX5_isSo_1 := dk_seg dksX5_isSo_0 22 rfl rfl
theorem dksX5_isSo_2 : cX5_isSo.data.toList.drop 45 = dktX5_isSo_2 := dk_seg dksX5_isSo_1 23 rfl rfl
theorem dksX5_isSo_3 : cX5_isSo.data.toList.drop 69 = dktX5_isSo_3 := dk_seg dksX5_isSo_2 24 rfl rfl
theorem dksX5_isSo_4 : cX5_isSo.data.toList.drop 91 = dktX5_isSo_4 := dk_seg dksX5_isSo_3 22 rfl rfl
theorem dX5_isSo_0 : decode cX5_isSo 0 = .ok (.aload_n 0, 1) := dk_42 (dk_at dksX5_isSo_0 0 rfl rfl)
theorem dX5_isSo_1 : decode cX5_isSo 1 = .ok (.getfield 13, 3) := dk_180 0 13 (dk_at dksX5_isSo_0 1 rfl rfl)
theorem dX5_isSo_4 : decode cX5_isSo 4 = .ok (.iload_n 1, 1) := dk_27 (dk_at dksX5_isSo_0 4 rfl rfl)
theorem dX5_isSo_5 : decode cX5_isSo 5 = .ok (.iconst 5, 1) := dk_8 (dk_at dksX5_isSo_0 5 rfl rfl)
theorem dX5_isSo_6 : decode cX5_isSo 6 = .ok (.iadd, 1) := dk_96 (dk_at dksX5_isSo_0 6 rfl rfl)
theorem dX5_isSo_7 : decode cX5_isSo 7 = .ok (.iaload, 1) := dk_46 (dk_at dksX5_isSo_0 7 rfl rfl)
theorem dX5_isSo_8 : decode cX5_isSo 8 = .ok (.aload_n 0, 1) := dk_42 (dk_at dksX5_isSo_0 8 rfl rfl)
theorem dX5_isSo_9 : decode cX5_isSo 9 = .ok (.getfield 13, 3) := dk_180 0 13 (dk_at dksX5_isSo_0 9 rfl rfl)
theorem dX5_isSo_12 : decode cX5_isSo 12 = .ok (.iload_n 1, 1) := dk_27 (dk_at dksX5_isSo_0 12 rfl rfl)
theorem dX5_isSo_13 : decode cX5_isSo 13 = .ok (.bipush 6, 2) := dk_16 6 (dk_at dksX5_isSo_0 13 rfl rfl)
theorem dX5_isSo_15 : decode cX5_isSo 15 = .ok (.iadd, 1) := dk_96 (dk_at dksX5_isSo_0 15 rfl rfl)
theorem dX5_isSo_16 : decode cX5_isSo 16 = .ok (.iaload, 1) := dk_46 (dk_at dksX5_isSo_0 16 rfl rfl)
theorem dX5_isSo_17 : decode cX5_isSo 17 = .ok (.if_icmp .ge 42, 3) := dk_162 0 42 (dk_at dksX5_isSo_0 17 rfl rfl)
theorem dX5_isSo_20 : decode cX5_isSo 20 = .ok (.aload_n 0, 1) := dk_42 (dk_at dksX5_isSo_0 20 rfl rfl)
theorem dX5_isSo_21 : decode cX5_isSo 21 = .ok (.aload_n 0, 1) := dk_42 (dk_at dksX5_isSo_0 21 rfl rfl)
theorem dX5_isSo_22 : decode cX5_isSo 22 = .ok (.getfield 13, 3) := dk_180 0 13 (dk_at dksX5_isSo_1 0 rfl rfl)
theorem dX5_isSo_25 : decode cX5_isSo 25 = .ok (.iload_n 1, 1) := dk_27 (dk_at dksX5_isSo_1 3 rfl rfl)
theorem dX5_isSo_26 : decode cX5_isSo 26 = .ok (.iconst 5, 1) := dk_8 (dk_at dksX5_isSo_1 4 rfl rfl)
theorem dX5_isSo_27 : decode cX5_isSo 27 = .ok (.iadd, 1) := dk_96 (dk_at dksX5_isSo_1 5 rfl rfl)
theorem dX5_isSo_28 : decode cX5_isSo 28 = .ok (.iaload, 1) := dk_46 (dk_at dksX5_isSo_1 6 rfl rfl)
theorem dX5_isSo_29 : decode cX5_isSo 29 = .ok (.aload_n 0, 1) := dk_42 (dk_at dksX5_isSo_1 7 rfl rfl)
theorem dX5_isSo_30 : decode cX5_isSo 30 = .ok (.getfield 13, 3) := dk_180 0 13 (dk_at dksX5_isSo_1 8 rfl rfl)
theorem dX5_isSo_33 : decode cX5_isSo 33 = .ok (.iload_n 1, 1) := dk_27 (dk_at dksX5_isSo_1 11 rfl rfl)
theorem dX5_isSo_34 : decode cX5_isSo 34 = .ok (.bipush 6, 2) := dk_16 6 (dk_at dksX5_isSo_1 12 rfl rfl)
theorem dX5_isSo_36 : decode cX5_isSo 36 = .ok (.iadd, 1) := dk_96 (dk_at dksX5_isSo_1 14 rfl rfl)
theorem dX5_isSo_37 : decode cX5_isSo 37 = .ok (.iaload, 1) := dk_46 (dk_at dksX5_isSo_1 15 rfl rfl)
theorem dX5_isSo_38 : decode cX5_isSo 38 = .ok (.invokevirtual 397, 3) := dk_182 1 141 (dk_at dksX5_isSo_1 16 rfl rfl)
theorem dX5_isSo_41 : decode cX5_isSo 41 = .ok (.aload_n 0, 1) := dk_42 (dk_at dksX5_isSo_1 19 rfl rfl)
theorem dX5_isSo_42 : decode cX5_isSo 42 = .ok (.getfield 380, 3) := dk_180 1 124 (dk_at dksX5_isSo_1 20 rfl rfl)
theorem dX5_isSo_45 : decode cX5_isSo 45 = .ok (.ifCond .ne 12, 3) := dk_154 0 12 (dk_at dksX5_isSo_2 0 rfl rfl)
theorem dX5_isSo_48 : decode cX5_isSo 48 = .ok (.aload_n 0, 1) := dk_42 (dk_at dksX5_isSo_2 3 rfl rfl)
theorem dX5_isSo_49 : decode cX5_isSo 49 = .ok (.getfield 394, 3) := dk_180 1 138 (dk_at dksX5_isSo_2 4 rfl rfl)
theorem dX5_isSo_52 : decode cX5_isSo 52 = .ok (.lconst 0, 1) := dk_9 (dk_at dksX5_isSo_2 7 rfl rfl)
theorem dX5_isSo_53 : decode cX5_isSo 53 = .ok (.lcmp, 1) := dk_148 (dk_at dksX5_isSo_2 8 rfl rfl)
theorem dX5_isSo_54 : decode cX5_isSo 54 = .ok (.ifCond .ne 5, 3) := dk_154 0 5 (dk_at dksX5_isSo_2 9 rfl rfl)
theorem dX5_isSo_57 : decode cX5_isSo 57 = .ok (.iconst 0, 1) := dk_3 (dk_at dksX5_isSo_2 12 rfl rfl)
theorem dX5_isSo_58 : decode cX5_isSo 58 = .ok (.ireturn, 1) := dk_172 (dk_at dksX5_isSo_2 13 rfl rfl)
theorem dX5_isSo_59 : decode cX5_isSo 59 = .ok (.aload_n 0, 1) := dk_42 (dk_at dksX5_isSo_2 14 rfl rfl)
theorem dX5_isSo_60 : decode cX5_isSo 60 = .ok (.getfield 13, 3) := dk_180 0 13 (dk_at dksX5_isSo_2 15 rfl rfl)
theorem dX5_isSo_63 : decode cX5_isSo 63 = .ok (.iload_n 1, 1) := dk_27 (dk_at dksX5_isSo_2 18 rfl rfl)
theorem dX5_isSo_64 : decode cX5_isSo 64 = .ok (.iaload, 1) := dk_46 (dk_at dksX5_isSo_2 19 rfl rfl)
theorem dX5_isSo_65 : decode cX5_isSo 65 = .ok (.iconst 3, 1) := dk_6 (dk_at dksX5_isSo_2 20 rfl rfl)
theorem dX5_isSo_66 : decode cX5_isSo 66 = .ok (.if_icmp .eq 44, 3) := dk_159 0 44 (dk_at dksX5_isSo_2 21 rfl rfl)
theorem dX5_isSo_69 : decode cX5_isSo 69 = .ok (.aload_n 0, 1) := dk_42 (dk_at dksX5_isSo_3 0 rfl rfl)
theorem dX5_isSo_70 : decode cX5_isSo 70 = .ok (.aload_n 0, 1) := dk_42 (dk_at dksX5_isSo_3 1 rfl rfl)
theorem dX5_isSo_71 : decode cX5_isSo 71 = .ok (.getfield 13, 3) := dk_180 0 13 (dk_at dksX5_isSo_3 2 rfl rfl)
theorem dX5_isSo_74 : decode cX5_isSo 74 = .ok (.iload_n 1, 1) := dk_27 (dk_at dksX5_isSo_3 5 rfl rfl)
theorem dX5_isSo_75 : decode cX5_isSo 75 = .ok (.iconst 3, 1) := dk_6 (dk_at dksX5_isSo_3 6 rfl rfl)
theorem dX5_isSo_76 : decode cX5_isSo 76 = .ok (.iadd, 1) := dk_96 (dk_at dksX5_isSo_3 7 rfl rfl)
theorem dX5_isSo_77 : decode cX5_isSo 77 = .ok (.iaload, 1) := dk_46 (dk_at dksX5_isSo_3 8 rfl rfl)
theorem dX5_isSo_78 : decode cX5_isSo 78 = .ok (.aload_n 0, 1) := dk_42 (dk_at dksX5_isSo_3 9 rfl rfl)
theorem dX5_isSo_79 : decode cX5_isSo 79 = .ok (.getfield 13, 3) := dk_180 0 13 (dk_at dksX5_isSo_3 10 rfl rfl)
theorem dX5_isSo_82 : decode cX5_isSo 82 = .ok (.iload_n 1, 1) := dk_27 (dk_at dksX5_isSo_3 13 rfl rfl)
theorem dX5_isSo_83 : decode cX5_isSo 83 = .ok (.iconst 4, 1) := dk_7 (dk_at dksX5_isSo_3 14 rfl rfl)
theorem dX5_isSo_84 : decode cX5_isSo 84 = .ok (.iadd, 1) := dk_96 (dk_at dksX5_isSo_3 15 rfl rfl)
theorem dX5_isSo_85 : decode cX5_isSo 85 = .ok (.iaload, 1) := dk_46 (dk_at dksX5_isSo_3 16 rfl rfl)
theorem dX5_isSo_86 : decode cX5_isSo 86 = .ok (.invokevirtual 397, 3) := dk_182 1 141 (dk_at dksX5_isSo_3 17 rfl rfl)
theorem dX5_isSo_89 : decode cX5_isSo 89 = .ok (.aload_n 0, 1) := dk_42 (dk_at dksX5_isSo_3 20 rfl rfl)
theorem dX5_isSo_90 : decode cX5_isSo 90 = .ok (.aload_n 0, 1) := dk_42 (dk_at dksX5_isSo_3 21 rfl rfl)
theorem dX5_isSo_91 : decode cX5_isSo 91 = .ok (.getfield 394, 3) := dk_180 1 138 (dk_at dksX5_isSo_4 0 rfl rfl)
theorem dX5_isSo_94 : decode cX5_isSo 94 = .ok (.putfield 400, 3) := dk_181 1 144 (dk_at dksX5_isSo_4 3 rfl rfl)
theorem dX5_isSo_97 : decode cX5_isSo 97 = .ok (.aload_n 0, 1) := dk_42 (dk_at dksX5_isSo_4 6 rfl rfl)
theorem dX5_isSo_98 : decode cX5_isSo 98 = .ok (.getfield 380, 3) := dk_180 1 124 (dk_at dksX5_isSo_4 7 rfl rfl)
theorem dX5_isSo_101 : decode cX5_isSo 101 = .ok (.ifCond .ne 7, 3) := dk_154 0 7 (dk_at dksX5_isSo_4 10 rfl rfl)
theorem dX5_isSo_104 : decode cX5_isSo 104 = .ok (.iconst 1, 1) := dk_4 (dk_at dksX5_isSo_4 13 rfl rfl)
theorem dX5_isSo_105 : decode cX5_isSo 105 = .ok (.goto 4, 3) := dk_167 0 4 (dk_at dksX5_isSo_4 14 rfl rfl)
theorem dX5_isSo_108 : decode cX5_isSo 108 = .ok (.iconst 0, 1) := dk_3 (dk_at dksX5_isSo_4 17 rfl rfl)
theorem dX5_isSo_109 : decode cX5_isSo 109 = .ok (.ireturn, 1) := dk_172 (dk_at dksX5_isSo_4 18 rfl rfl)
theorem dX5_isSo_110 : decode cX5_isSo 110 = .ok (.iconst 1, 1) := dk_4 (dk_at dksX5_isSo_4 19 rfl rfl)
theorem dX5_isSo_111 : decode cX5_isSo 111 = .ok (.ireturn, 1) := dk_172 (dk_at dksX5_isSo_4 20 rfl rfl)
abbrev cX5_reckonAll : ByteArray := prog_22_method_62_code
def yX5_reckonAll : MethodName := ⟨RX5, "reckonAll", "(II)V"⟩
def dkwX5_reckonAll_15 : List UInt8 := [181, 1, 138, 177]
abbrev dktX5_reckonAll_15 : List UInt8 := dkwX5_reckonAll_15 ++ []
def dkwX5_reckonAll_14 : List UInt8 := [167, 0, 6, 132, 3, 255, 167, 254, 187, 42, 29, 158, 0, 12, 42, 180, 0, 122, 3, 47, 167, 0, 4, 9]
abbrev dktX5_reckonAll_14 : List UInt8 := dkwX5_reckonAll_14 ++ dktX5_reckonAll_15
def dkwX5_reckonAll_13 : List UInt8 := [29, 4, 100, 47, 21, 5, 16, 29, 160, 0, 7, 9, 167, 0, 4, 10, 148, 154, 0, 10, 21, 6, 54, 4]
abbrev dktX5_reckonAll_13 : List UInt8 := dkwX5_reckonAll_13 ++ dktX5_reckonAll_14
def dkwX5_reckonAll_12 : List UInt8 := [180, 0, 122, 29, 4, 100, 10, 42, 180, 0, 122, 29, 4, 100, 47, 101, 80, 167, 0, 37, 42, 180, 0, 122]
abbrev dktX5_reckonAll_12 : List UInt8 := dkwX5_reckonAll_12 ++ dktX5_reckonAll_13
def dkwX5_reckonAll_11 : List UInt8 := [154, 0, 7, 4, 167, 0, 4, 3, 181, 1, 124, 167, 0, 65, 21, 5, 16, 28, 160, 0, 24, 42]
abbrev dktX5_reckonAll_11 : List UInt8 := dkwX5_reckonAll_11 ++ dktX5_reckonAll_12
def dkwX5_reckonAll_10 : List UInt8 := [180, 1, 124, 154, 0, 23, 42, 180, 0, 122, 29, 4, 100, 47, 20, 1, 134, 20, 1, 136, 184, 0, 159]
abbrev dktX5_reckonAll_10 : List UInt8 := dkwX5_reckonAll_10 ++ dktX5_reckonAll_11
def dkwX5_reckonAll_9 : List UInt8 := [42, 21, 5, 42, 180, 0, 122, 29, 4, 100, 47, 42, 180, 0, 122, 29, 47, 182, 1, 130, 80, 42, 42]
abbrev dktX5_reckonAll_9 : List UInt8 := dkwX5_reckonAll_9 ++ dktX5_reckonAll_10
def dkwX5_reckonAll_8 : List UInt8 := [80, 132, 3, 1, 167, 0, 142, 21, 5, 16, 28, 162, 0, 73, 132, 3, 255, 42, 180, 0, 122, 29, 4, 100]
abbrev dktX5_reckonAll_8 : List UInt8 := dkwX5_reckonAll_8 ++ dktX5_reckonAll_9
def dkwX5_reckonAll_7 : List UInt8 := [20, 0, 221, 167, 0, 21, 42, 21, 6, 21, 5, 7, 160, 0, 7, 6, 167, 0, 4, 7, 182, 0, 165, 133]
abbrev dktX5_reckonAll_7 : List UInt8 := dkwX5_reckonAll_7 ++ dktX5_reckonAll_8
def dkwX5_reckonAll_6 : List UInt8 := [162, 0, 13, 42, 180, 0, 119, 21, 5, 47, 167, 0, 36, 42, 21, 6, 182, 0, 207, 154, 0, 9]
abbrev dktX5_reckonAll_6 : List UInt8 := dkwX5_reckonAll_6 ++ dktX5_reckonAll_7
def dkwX5_reckonAll_5 : List UInt8 := [133, 167, 0, 69, 42, 180, 1, 55, 154, 0, 13, 42, 180, 0, 116, 21, 5, 47, 167, 0, 52, 21, 5, 7]
abbrev dktX5_reckonAll_5 : List UInt8 := dkwX5_reckonAll_5 ++ dktX5_reckonAll_6
def dkwX5_reckonAll_4 : List UInt8 := [54, 6, 132, 4, 1, 21, 5, 16, 20, 162, 0, 92, 42, 180, 0, 122, 29, 21, 5, 154, 0, 9, 21, 6]
abbrev dktX5_reckonAll_4 : List UInt8 := dkwX5_reckonAll_4 ++ dktX5_reckonAll_5
def dkwX5_reckonAll_3 : List UInt8 := [46, 167, 0, 22, 42, 180, 0, 13, 42, 180, 1, 127, 16, 98, 96, 5, 21, 4, 104, 96, 4, 96, 46]
abbrev dktX5_reckonAll_3 : List UInt8 := dkwX5_reckonAll_3 ++ dktX5_reckonAll_4
def dkwX5_reckonAll_2 : List UInt8 := [16, 98, 96, 5, 21, 4, 104, 96, 46, 54, 5, 42, 180, 1, 55, 153, 0, 13, 42, 180, 0, 51, 21, 4]
abbrev dktX5_reckonAll_2 : List UInt8 := dkwX5_reckonAll_2 ++ dktX5_reckonAll_3
def dkwX5_reckonAll_1 : List UInt8 := [180, 1, 55, 153, 0, 13, 42, 180, 0, 48, 21, 4, 46, 167, 0, 20, 42, 180, 0, 13, 42, 180, 1, 127]
abbrev dktX5_reckonAll_1 : List UInt8 := dkwX5_reckonAll_1 ++ dktX5_reckonAll_2
def dkwX5_reckonAll_0 : List UInt8 := [42, 3, 181, 1, 124, 3, 62, 27, 54, 4, 21, 4, 28, 162, 1, 69, 42, 180, 1, 124, 154, 1, 62, 42]
abbrev dktX5_reckonAll_0 : List UInt8 := dkwX5_reckonAll_0 ++ dktX5_reckonAll_1
theorem dksX5_reckonAll_0 : cX5_reckonAll.data.toList.drop 0 = dktX5_reckonAll_0 := by decide +kernel
theorem dksX5_reckonAll_1 : cX5_reckonAll.data.toList.drop 24 = dktX5_reckonAll_1 := dk_seg dksX5_reckonAll_0 24 rfl rfl
theorem dksX5_reckonAll_2 : cX5_reckonAll.data.toList.drop 48 = dktX5_reckonAll_2 := dk_seg dksX5_reckonAll_1 24 rfl rfl
theorem dksX5_reckonAll_3 : cX5_reckonAll.data.toList.drop 72 = dktX5_reckonAll_3 := dk_seg dksX5_reckonAll_2 24 rfl rfl
theorem dksX5_reckonAll_4 : cX5_reckonAll.data.toList.drop 95 = dktX5_reckonAll_4 := dk_seg dksX5_reckonAll_3 23 rfl rfl
theorem dksX5_reckonAll_5 : cX5_reckonAll.data.toList.drop 119 = dktX5_reckonAll_5 := dk_seg dksX5_reckonAll_4 24 rfl rfl
theorem dksX5_reckonAll_6 : cX5_reckonAll.data.toList.drop 143 = dktX5_reckonAll_6 := dk_seg dksX5_reckonAll_5 24 rfl rfl
theorem dksX5_reckonAll_7 : cX5_reckonAll.data.toList.drop 165 = dktX5_reckonAll_7 := dk_seg dksX5_reckonAll_6 22 rfl rfl
theorem dksX5_reckonAll_8 : cX5_reckonAll.data.toList.drop 189 = dktX5_reckonAll_8 := dk_seg dksX5_reckonAll_7 24 rfl rfl
theorem dksX5_reckonAll_9 : cX5_reckonAll.data.toList.drop 213 = dktX5_reckonAll_9 := dk_seg dksX5_reckonAll_8 24 rfl rfl
theorem dksX5_reckonAll_10 : cX5_reckonAll.data.toList.drop 236 = dktX5_reckonAll_10 := dk_seg dksX5_reckonAll_9 23 rfl rfl
theorem dksX5_reckonAll_11 : cX5_reckonAll.data.toList.drop 259 = dktX5_reckonAll_11 := dk_seg dksX5_reckonAll_10 23 rfl rfl
theorem dksX5_reckonAll_12 : cX5_reckonAll.data.toList.drop 281 = dktX5_reckonAll_12 := dk_seg dksX5_reckonAll_11 22 rfl rfl
theorem dksX5_reckonAll_13 : cX5_reckonAll.data.toList.drop 305 = dktX5_reckonAll_13 := dk_seg dksX5_reckonAll_12 24 rfl rfl
theorem dksX5_reckonAll_14 : cX5_reckonAll.data.toList.drop 329 = dktX5_reckonAll_14 := dk_seg dksX5_reckonAll_13 24 rfl rfl
theorem dksX5_reckonAll_15 : cX5_reckonAll.data.toList.drop 353 = dktX5_reckonAll_15 := dk_seg dksX5_reckonAll_14 24 rfl rfl
theorem dX5_reckonAll_0 : decode cX5_reckonAll 0 = .ok (.aload_n 0, 1) := dk_42 (dk_at dksX5_reckonAll_0 0 rfl rfl)
theorem dX5_reckonAll_1 : decode cX5_reckonAll 1 = .ok (.iconst 0, 1) := dk_3 (dk_at dksX5_reckonAll_0 1 rfl rfl)
theorem dX5_reckonAll_2 : decode cX5_reckonAll 2 = .ok (.putfield 380, 3) := dk_181 1 124 (dk_at dksX5_reckonAll_0 2 rfl rfl)
theorem dX5_reckonAll_5 : decode cX5_reckonAll 5 = .ok (.iconst 0, 1) := dk_3 (dk_at dksX5_reckonAll_0 5 rfl rfl)
theorem dX5_reckonAll_6 : decode cX5_reckonAll 6 = .ok (.istore_n 3, 1) := dk_62 (dk_at dksX5_reckonAll_0 6 rfl rfl)
theorem dX5_reckonAll_7 : decode cX5_reckonAll 7 = .ok (.iload_n 1, 1) := dk_27 (dk_at dksX5_reckonAll_0 7 rfl rfl)
theorem dX5_reckonAll_8 : decode cX5_reckonAll 8 = .ok (.istore 4, 2) := dk_54 4 (dk_at dksX5_reckonAll_0 8 rfl rfl)
theorem dX5_reckonAll_10 : decode cX5_reckonAll 10 = .ok (.iload 4, 2) := dk_21 4 (dk_at dksX5_reckonAll_0 10 rfl rfl)
theorem dX5_reckonAll_12 : decode cX5_reckonAll 12 = .ok (.iload_n 2, 1) := dk_28 (dk_at dksX5_reckonAll_0 12 rfl rfl)
theorem dX5_reckonAll_13 : decode cX5_reckonAll 13 = .ok (.if_icmp .ge 325, 3) := dk_162 1 69 (dk_at dksX5_reckonAll_0 13 rfl rfl)
theorem dX5_reckonAll_16 : decode cX5_reckonAll 16 = .ok (.aload_n 0, 1) := dk_42 (dk_at dksX5_reckonAll_0 16 rfl rfl)
theorem dX5_reckonAll_17 : decode cX5_reckonAll 17 = .ok (.getfield 380, 3) := dk_180 1 124 (dk_at dksX5_reckonAll_0 17 rfl rfl)
theorem dX5_reckonAll_20 : decode cX5_reckonAll 20 = .ok (.ifCond .ne 318, 3) := dk_154 1 62 (dk_at dksX5_reckonAll_0 20 rfl rfl)
theorem dX5_reckonAll_23 : decode cX5_reckonAll 23 = .ok (.aload_n 0, 1) := dk_42 (dk_at dksX5_reckonAll_0 23 rfl rfl)
theorem dX5_reckonAll_24 : decode cX5_reckonAll 24 = .ok (.getfield 311, 3) := dk_180 1 55 (dk_at dksX5_reckonAll_1 0 rfl rfl)
theorem dX5_reckonAll_27 : decode cX5_reckonAll 27 = .ok (.ifCond .eq 13, 3) := dk_153 0 13 (dk_at dksX5_reckonAll_1 3 rfl rfl)
theorem dX5_reckonAll_30 : decode cX5_reckonAll 30 = .ok (.aload_n 0, 1) := dk_42 (dk_at dksX5_reckonAll_1 6 rfl rfl)
theorem dX5_reckonAll_31 : decode cX5_reckonAll 31 = .ok (.getfield 48, 3) := dk_180 0 48 (dk_at dksX5_reckonAll_1 7 rfl rfl)
theorem dX5_reckonAll_34 : decode cX5_reckonAll 34 = .ok (.iload 4, 2) := dk_21 4 (dk_at dksX5_reckonAll_1 10 rfl rfl)
theorem dX5_reckonAll_36 : decode cX5_reckonAll 36 = .ok (.iaload, 1) := dk_46 (dk_at dksX5_reckonAll_1 12 rfl rfl)
theorem dX5_reckonAll_37 : decode cX5_reckonAll 37 = .ok (.goto 20, 3) := dk_167 0 20 (dk_at dksX5_reckonAll_1 13 rfl rfl)
theorem dX5_reckonAll_40 : decode cX5_reckonAll 40 = .ok (.aload_n 0, 1) := dk_42 (dk_at dksX5_reckonAll_1 16 rfl rfl)
theorem dX5_reckonAll_41 : decode cX5_reckonAll 41 = .ok (.getfield 13, 3) := dk_180 0 13 (dk_at dksX5_reckonAll_1 17 rfl rfl)
theorem dX5_reckonAll_44 : decode cX5_reckonAll 44 = .ok (.aload_n 0, 1) := dk_42 (dk_at dksX5_reckonAll_1 20 rfl rfl)
theorem dX5_reckonAll_45 : decode cX5_reckonAll 45 = .ok (.getfield 383, 3) := dk_180 1 127 (dk_at dksX5_reckonAll_1 21 rfl rfl)
theorem dX5_reckonAll_48 : decode cX5_reckonAll 48 = .ok (.bipush 98, 2) := dk_16 98 (dk_at dksX5_reckonAll_2 0 rfl rfl)
theorem dX5_reckonAll_50 : decode cX5_reckonAll 50 = .ok (.iadd, 1) := dk_96 (dk_at dksX5_reckonAll_2 2 rfl rfl)
theorem dX5_reckonAll_51 : decode cX5_reckonAll 51 = .ok (.iconst 2, 1) := dk_5 (dk_at dksX5_reckonAll_2 3 rfl rfl)
theorem dX5_reckonAll_52 : decode cX5_reckonAll 52 = .ok (.iload 4, 2) := dk_21 4 (dk_at dksX5_reckonAll_2 4 rfl rfl)
theorem dX5_reckonAll_54 : decode cX5_reckonAll 54 = .ok (.imul, 1) := dk_104 (dk_at dksX5_reckonAll_2 6 rfl rfl)
theorem dX5_reckonAll_55 : decode cX5_reckonAll 55 = .ok (.iadd, 1) := dk_96 (dk_at dksX5_reckonAll_2 7 rfl rfl)
theorem dX5_reckonAll_56 : decode cX5_reckonAll 56 = .ok (.iaload, 1) := dk_46 (dk_at dksX5_reckonAll_2 8 rfl rfl)
theorem dX5_reckonAll_57 : decode cX5_reckonAll 57 = .ok (.istore 5, 2) := dk_54 5 (dk_at dksX5_reckonAll_2 9 rfl rfl)
theorem dX5_reckonAll_59 : decode cX5_reckonAll 59 = .ok (.aload_n 0, 1) := dk_42 (dk_at dksX5_reckonAll_2 11 rfl rfl)
theorem dX5_reckonAll_60 : decode cX5_reckonAll 60 = .ok (.getfield 311, 3) := dk_180 1 55 (dk_at dksX5_reckonAll_2 12 rfl rfl)
theorem dX5_reckonAll_63 : decode cX5_reckonAll 63 = .ok (.ifCond .eq 13, 3) := dk_153 0 13 (dk_at dksX5_reckonAll_2 15 rfl rfl)
theorem dX5_reckonAll_66 : decode cX5_reckonAll 66 = .ok (.aload_n 0, 1) := dk_42 (dk_at dksX5_reckonAll_2 18 rfl rfl)
theorem dX5_reckonAll_67 : decode cX5_reckonAll 67 = .ok (.getfield 51, 3) := dk_180 0 51 (dk_at dksX5_reckonAll_2 19 rfl rfl)
theorem dX5_reckonAll_70 : decode cX5_reckonAll 70 = .ok (.iload 4, 2) := dk_21 4 (dk_at dksX5_reckonAll_2 22 rfl rfl)
theorem dX5_reckonAll_72 : decode cX5_reckonAll 72 = .ok (.iaload, 1) := dk_46 (dk_at dksX5_reckonAll_3 0 rfl rfl)
theorem dX5_reckonAll_73 : decode cX5_reckonAll 73 = .ok (.goto 22, 3) := dk_167 0 22 (dk_at dksX5_reckonAll_3 1 rfl rfl)
theorem dX5_reckonAll_76 : decode cX5_reckonAll 76 = .ok (.aload_n 0, 1) := dk_42 (dk_at dksX5_reckonAll_3 4 rfl rfl)
theorem dX5_reckonAll_77 : decode cX5_reckonAll 77 = .ok (.getfield 13, 3) := dk_180 0 13 (dk_at dksX5_reckonAll_3 5 rfl rfl)
theorem dX5_reckonAll_80 : decode cX5_reckonAll 80 = .ok (.aload_n 0, 1) := dk_42 (dk_at dksX5_reckonAll_3 8 rfl rfl)
theorem dX5_reckonAll_81 : decode cX5_reckonAll 81 = .ok (.getfield 383, 3) := dk_180 1 127 (dk_at dksX5_reckonAll_3 9 rfl rfl)
theorem dX5_reckonAll_84 : decode cX5_reckonAll 84 = .ok (.bipush 98, 2) := dk_16 98 (dk_at dksX5_reckonAll_3 12 rfl rfl)
theorem dX5_reckonAll_86 : decode cX5_reckonAll 86 = .ok (.iadd, 1) := dk_96 (dk_at dksX5_reckonAll_3 14 rfl rfl)
theorem dX5_reckonAll_87 : decode cX5_reckonAll 87 = .ok (.iconst 2, 1) := dk_5 (dk_at dksX5_reckonAll_3 15 rfl rfl)
theorem dX5_reckonAll_88 : decode cX5_reckonAll 88 = .ok (.iload 4, 2) := dk_21 4 (dk_at dksX5_reckonAll_3 16 rfl rfl)
theorem dX5_reckonAll_90 : decode cX5_reckonAll 90 = .ok (.imul, 1) := dk_104 (dk_at dksX5_reckonAll_3 18 rfl rfl)
theorem dX5_reckonAll_91 : decode cX5_reckonAll 91 = .ok (.iadd, 1) := dk_96 (dk_at dksX5_reckonAll_3 19 rfl rfl)
theorem dX5_reckonAll_92 : decode cX5_reckonAll 92 = .ok (.iconst 1, 1) := dk_4 (dk_at dksX5_reckonAll_3 20 rfl rfl)
theorem dX5_reckonAll_93 : decode cX5_reckonAll 93 = .ok (.iadd, 1) := dk_96 (dk_at dksX5_reckonAll_3 21 rfl rfl)
theorem dX5_reckonAll_94 : decode cX5_reckonAll 94 = .ok (.iaload, 1) := dk_46 (dk_at dksX5_reckonAll_3 22 rfl rfl)
theorem dX5_reckonAll_95 : decode cX5_reckonAll 95 = .ok (.istore 6, 2) := dk_54 6 (dk_at dksX5_reckonAll_4 0 rfl rfl)
theorem dX5_reckonAll_97 : decode cX5_reckonAll 97 = .ok (.iinc 4 1, 3) := dk_132 4 1 (dk_at dksX5_reckonAll_4 2 rfl rfl)
theorem dX5_reckonAll_100 : decode cX5_reckonAll 100 = .ok (.iload 5, 2) := dk_21 5 (dk_at dksX5_reckonAll_4 5 rfl rfl)
theorem dX5_reckonAll_102 : decode cX5_reckonAll 102 = .ok (.bipush 20, 2) := dk_16 20 (dk_at dksX5_reckonAll_4 7 rfl rfl)
theorem dX5_reckonAll_104 : decode cX5_reckonAll 104 = .ok (.if_icmp .ge 92, 3) := dk_162 0 92 (dk_at dksX5_reckonAll_4 9 rfl rfl)
theorem dX5_reckonAll_107 : decode cX5_reckonAll 107 = .ok (.aload_n 0, 1) := dk_42 (dk_at dksX5_reckonAll_4 12 rfl rfl)
theorem dX5_reckonAll_108 : decode cX5_reckonAll 108 = .ok (.getfield 122, 3) := dk_180 0 122 (dk_at dksX5_reckonAll_4 13 rfl rfl)
theorem dX5_reckonAll_111 : decode cX5_reckonAll 111 = .ok (.iload_n 3, 1) := dk_29 (dk_at dksX5_reckonAll_4 16 rfl rfl)
theorem dX5_reckonAll_112 : decode cX5_reckonAll 112 = .ok (.iload 5, 2) := dk_21 5 (dk_at dksX5_reckonAll_4 17 rfl rfl)
theorem dX5_reckonAll_114 : decode cX5_reckonAll 114 = .ok (.ifCond .ne 9, 3) := dk_154 0 9 (dk_at dksX5_reckonAll_4 19 rfl rfl)
theorem dX5_reckonAll_117 : decode cX5_reckonAll 117 = .ok (.iload 6, 2) := dk_21 6 (dk_at dksX5_reckonAll_4 22 rfl rfl)
theorem dX5_reckonAll_119 : decode cX5_reckonAll 119 = .ok (.i2l, 1) := dk_133 (dk_at dksX5_reckonAll_5 0 rfl rfl)
theorem dX5_reckonAll_120 : decode cX5_reckonAll 120 = .ok (.goto 69, 3) := dk_167 0 69 (dk_at dksX5_reckonAll_5 1 rfl rfl)
theorem dX5_reckonAll_123 : decode cX5_reckonAll 123 = .ok (.aload_n 0, 1) := dk_42 (dk_at dksX5_reckonAll_5 4 rfl rfl)
theorem dX5_reckonAll_124 : decode cX5_reckonAll 124 = .ok (.getfield 311, 3) := dk_180 1 55 (dk_at dksX5_reckonAll_5 5 rfl rfl)
theorem dX5_reckonAll_127 : decode cX5_reckonAll 127 = .ok (.ifCond .ne 13, 3) := dk_154 0 13 (dk_at dksX5_reckonAll_5 8 rfl rfl)
theorem dX5_reckonAll_130 : decode cX5_reckonAll 130 = .ok (.aload_n 0, 1) := dk_42 (dk_at dksX5_reckonAll_5 11 rfl rfl)
theorem dX5_reckonAll_131 : decode cX5_reckonAll 131 = .ok (.getfield 116, 3) := dk_180 0 116 (dk_at dksX5_reckonAll_5 12 rfl rfl)
theorem dX5_reckonAll_134 : decode cX5_reckonAll 134 = .ok (.iload 5, 2) := dk_21 5 (dk_at dksX5_reckonAll_5 15 rfl rfl)
theorem dX5_reckonAll_136 : decode cX5_reckonAll 136 = .ok (.laload, 1) := dk_47 (dk_at dksX5_reckonAll_5 17 rfl rfl)
theorem dX5_reckonAll_137 : decode cX5_reckonAll 137 = .ok (.goto 52, 3) := dk_167 0 52 (dk_at dksX5_reckonAll_5 18 rfl rfl)
theorem dX5_reckonAll_140 : decode cX5_reckonAll 140 = .ok (.iload 5, 2) := dk_21 5 (dk_at dksX5_reckonAll_5 21 rfl rfl)
theorem dX5_reckonAll_142 : decode cX5_reckonAll 142 = .ok (.iconst 4, 1) := dk_7 (dk_at dksX5_reckonAll_5 23 rfl rfl)
theorem dX5_reckonAll_143 : decode cX5_reckonAll 143 = .ok (.if_icmp .ge 13, 3) := dk_162 0 13 (dk_at dksX5_reckonAll_6 0 rfl rfl)
theorem dX5_reckonAll_146 : decode cX5_reckonAll 146 = .ok (.aload_n 0, 1) := dk_42 (dk_at dksX5_reckonAll_6 3 rfl rfl)
theorem dX5_reckonAll_147 : decode cX5_reckonAll 147 = .ok (.getfield 119, 3) := dk_180 0 119 (dk_at dksX5_reckonAll_6 4 rfl rfl)
theorem dX5_reckonAll_150 : decode cX5_reckonAll 150 = .ok (.iload 5, 2) := dk_21 5 (dk_at dksX5_reckonAll_6 7 rfl rfl)
theorem dX5_reckonAll_152 : decode cX5_reckonAll 152 = .ok (.laload, 1) := dk_47 (dk_at dksX5_reckonAll_6 9 rfl rfl)
theorem dX5_reckonAll_153 : decode cX5_reckonAll 153 = .ok (.goto 36, 3) := dk_167 0 36 (dk_at dksX5_reckonAll_6 10 rfl rfl)
theorem dX5_reckonAll_156 : decode cX5_reckonAll 156 = .ok (.aload_n 0, 1) := dk_42 (dk_at dksX5_reckonAll_6 13 rfl rfl)
theorem dX5_reckonAll_157 : decode cX5_reckonAll 157 = .ok (.iload 6, 2) := dk_21 6 (dk_at dksX5_reckonAll_6 14 rfl rfl)
theorem dX5_reckonAll_159 : decode cX5_reckonAll 159 = .ok (.invokevirtual 207, 3) := dk_182 0 207 (dk_at dksX5_reckonAll_6 16 rfl rfl)
theorem dX5_reckonAll_162 : decode cX5_reckonAll 162 = .ok (.ifCond .ne 9, 3) := dk_154 0 9 (dk_at dksX5_reckonAll_6 19 rfl rfl)
theorem dX5_reckonAll_165 : decode cX5_reckonAll 165 = .ok (.ldc2_w 221, 3) := dk_20 0 221 (dk_at dksX5_reckonAll_7 0 rfl rfl)
theorem dX5_reckonAll_168 : decode cX5_reckonAll 168 = .ok (.goto 21, 3) := dk_167 0 21 (dk_at dksX5_reckonAll_7 3 rfl rfl)
theorem dX5_reckonAll_171 : decode cX5_reckonAll 171 = .ok (.aload_n 0, 1) := dk_42 (dk_at dksX5_reckonAll_7 6 rfl rfl)
theorem dX5_reckonAll_172 : decode cX5_reckonAll 172 = .ok (.iload 6, 2) := dk_21 6 (dk_at dksX5_reckonAll_7 7 rfl rfl)
theorem dX5_reckonAll_174 : decode cX5_reckonAll 174 = .ok (.iload 5, 2) := dk_21 5 (dk_at dksX5_reckonAll_7 9 rfl rfl)
theorem dX5_reckonAll_176 : decode cX5_reckonAll 176 = .ok (.iconst 4, 1) := dk_7 (dk_at dksX5_reckonAll_7 11 rfl rfl)
theorem dX5_reckonAll_177 : decode cX5_reckonAll 177 = .ok (.if_icmp .ne 7, 3) := dk_160 0 7 (dk_at dksX5_reckonAll_7 12 rfl rfl)
theorem dX5_reckonAll_180 : decode cX5_reckonAll 180 = .ok (.iconst 3, 1) := dk_6 (dk_at dksX5_reckonAll_7 15 rfl rfl)
theorem dX5_reckonAll_181 : decode cX5_reckonAll 181 = .ok (.goto 4, 3) := dk_167 0 4 (dk_at dksX5_reckonAll_7 16 rfl rfl)
theorem dX5_reckonAll_184 : decode cX5_reckonAll 184 = .ok (.iconst 4, 1) := dk_7 (dk_at dksX5_reckonAll_7 19 rfl rfl)
theorem dX5_reckonAll_185 : decode cX5_reckonAll 185 = .ok (.invokevirtual 165, 3) := dk_182 0 165 (dk_at dksX5_reckonAll_7 20 rfl rfl)
theorem dX5_reckonAll_188 : decode cX5_reckonAll 188 = .ok (.i2l, 1) := dk_133 (dk_at dksX5_reckonAll_7 23 rfl rfl)
theorem dX5_reckonAll_189 : decode cX5_reckonAll 189 = .ok (.lastore, 1) := dk_80 (dk_at dksX5_reckonAll_8 0 rfl rfl)
theorem dX5_reckonAll_190 : decode cX5_reckonAll 190 = .ok (.iinc 3 1, 3) := dk_132 3 1 (dk_at dksX5_reckonAll_8 1 rfl rfl)
theorem dX5_reckonAll_193 : decode cX5_reckonAll 193 = .ok (.goto 142, 3) := dk_167 0 142 (dk_at dksX5_reckonAll_8 4 rfl rfl)
theorem dX5_reckonAll_196 : decode cX5_reckonAll 196 = .ok (.iload 5, 2) := dk_21 5 (dk_at dksX5_reckonAll_8 7 rfl rfl)
theorem dX5_reckonAll_198 : decode cX5_reckonAll 198 = .ok (.bipush 28, 2) := dk_16 28 (dk_at dksX5_reckonAll_8 9 rfl rfl)
theorem dX5_reckonAll_200 : decode cX5_reckonAll 200 = .ok (.if_icmp .ge 73, 3) := dk_162 0 73 (dk_at dksX5_reckonAll_8 11 rfl rfl)
theorem dX5_reckonAll_203 : decode cX5_reckonAll 203 = .ok (.iinc 3 (-1), 3) := dk_132 3 255 (dk_at dksX5_reckonAll_8 14 rfl rfl)
theorem dX5_reckonAll_206 : decode cX5_reckonAll 206 = .ok (.aload_n 0, 1) := dk_42 (dk_at dksX5_reckonAll_8 17 rfl rfl)
theorem dX5_reckonAll_207 : decode cX5_reckonAll 207 = .ok (.getfield 122, 3) := dk_180 0 122 (dk_at dksX5_reckonAll_8 18 rfl rfl)
theorem dX5_reckonAll_210 : decode cX5_reckonAll 210 = .ok (.iload_n 3, 1) := dk_29 (dk_at dksX5_reckonAll_8 21 rfl rfl)
theorem dX5_reckonAll_211 : decode cX5_reckonAll 211 = .ok (.iconst 1, 1) := dk_4 (dk_at dksX5_reckonAll_8 22 rfl rfl)
theorem dX5_reckonAll_212 : decode cX5_reckonAll 212 = .ok (.isub, 1) := dk_100 (dk_at dksX5_reckonAll_8 23 rfl rfl)
theorem dX5_reckonAll_213 : decode cX5_reckonAll 213 = .ok (.aload_n 0, 1) := dk_42 (dk_at dksX5_reckonAll_9 0 rfl rfl)
theorem dX5_reckonAll_214 : decode cX5_reckonAll 214 = .ok (.iload 5, 2) := dk_21 5 (dk_at dksX5_reckonAll_9 1 rfl rfl)
theorem dX5_reckonAll_216 : decode cX5_reckonAll 216 = .ok (.aload_n 0, 1) := dk_42 (dk_at dksX5_reckonAll_9 3 rfl rfl)
theorem dX5_reckonAll_217 : decode cX5_reckonAll 217 = .ok (.getfield 122, 3) := dk_180 0 122 (dk_at dksX5_reckonAll_9 4 rfl rfl)
theorem dX5_reckonAll_220 : decode cX5_reckonAll 220 = .ok (.iload_n 3, 1) := dk_29 (dk_at dksX5_reckonAll_9 7 rfl rfl)
theorem dX5_reckonAll_221 : decode cX5_reckonAll 221 = .ok (.iconst 1, 1) := dk_4 (dk_at dksX5_reckonAll_9 8 rfl rfl)
theorem dX5_reckonAll_222 : decode cX5_reckonAll 222 = .ok (.isub, 1) := dk_100 (dk_at dksX5_reckonAll_9 9 rfl rfl)
theorem dX5_reckonAll_223 : decode cX5_reckonAll 223 = .ok (.laload, 1) := dk_47 (dk_at dksX5_reckonAll_9 10 rfl rfl)
theorem dX5_reckonAll_224 : decode cX5_reckonAll 224 = .ok (.aload_n 0, 1) := dk_42 (dk_at dksX5_reckonAll_9 11 rfl rfl)
theorem dX5_reckonAll_225 : decode cX5_reckonAll 225 = .ok (.getfield 122, 3) := dk_180 0 122 (dk_at dksX5_reckonAll_9 12 rfl rfl)
theorem dX5_reckonAll_228 : decode cX5_reckonAll 228 = .ok (.iload_n 3, 1) := dk_29 (dk_at dksX5_reckonAll_9 15 rfl rfl)
theorem dX5_reckonAll_229 : decode cX5_reckonAll 229 = .ok (.laload, 1) := dk_47 (dk_at dksX5_reckonAll_9 16 rfl rfl)
theorem dX5_reckonAll_230 : decode cX5_reckonAll 230 = .ok (.invokevirtual 386, 3) := dk_182 1 130 (dk_at dksX5_reckonAll_9 17 rfl rfl)
theorem dX5_reckonAll_233 : decode cX5_reckonAll 233 = .ok (.lastore, 1) := dk_80 (dk_at dksX5_reckonAll_9 20 rfl rfl)
theorem dX5_reckonAll_234 : decode cX5_reckonAll 234 = .ok (.aload_n 0, 1) := dk_42 (dk_at dksX5_reckonAll_9 21 rfl rfl)
theorem dX5_reckonAll_235 : decode cX5_reckonAll 235 = .ok (.aload_n 0, 1) := dk_42 (dk_at dksX5_reckonAll_9 22 rfl rfl)
theorem dX5_reckonAll_236 : decode cX5_reckonAll 236 = .ok (.getfield 380, 3) := dk_180 1 124 (dk_at dksX5_reckonAll_10 0 rfl rfl)
theorem dX5_reckonAll_239 : decode cX5_reckonAll 239 = .ok (.ifCond .ne 23, 3) := dk_154 0 23 (dk_at dksX5_reckonAll_10 3 rfl rfl)
theorem dX5_reckonAll_242 : decode cX5_reckonAll 242 = .ok (.aload_n 0, 1) := dk_42 (dk_at dksX5_reckonAll_10 6 rfl rfl)
theorem dX5_reckonAll_243 : decode cX5_reckonAll 243 = .ok (.getfield 122, 3) := dk_180 0 122 (dk_at dksX5_reckonAll_10 7 rfl rfl)
theorem dX5_reckonAll_246 : decode cX5_reckonAll 246 = .ok (.iload_n 3, 1) := dk_29 (dk_at dksX5_reckonAll_10 10 rfl rfl)
theorem dX5_reckonAll_247 : decode cX5_reckonAll 247 = .ok (.iconst 1, 1) := dk_4 (dk_at dksX5_reckonAll_10 11 rfl rfl)
theorem dX5_reckonAll_248 : decode cX5_reckonAll 248 = .ok (.isub, 1) := dk_100 (dk_at dksX5_reckonAll_10 12 rfl rfl)
theorem dX5_reckonAll_249 : decode cX5_reckonAll 249 = .ok (.laload, 1) := dk_47 (dk_at dksX5_reckonAll_10 13 rfl rfl)
theorem dX5_reckonAll_250 : decode cX5_reckonAll 250 = .ok (.ldc2_w 390, 3) := dk_20 1 134 (dk_at dksX5_reckonAll_10 14 rfl rfl)
theorem dX5_reckonAll_253 : decode cX5_reckonAll 253 = .ok (.ldc2_w 392, 3) := dk_20 1 136 (dk_at dksX5_reckonAll_10 17 rfl rfl)
theorem dX5_reckonAll_256 : decode cX5_reckonAll 256 = .ok (.invokestatic 159, 3) := dk_184 0 159 (dk_at dksX5_reckonAll_10 20 rfl rfl)
theorem dX5_reckonAll_259 : decode cX5_reckonAll 259 = .ok (.ifCond .ne 7, 3) := dk_154 0 7 (dk_at dksX5_reckonAll_11 0 rfl rfl)
theorem dX5_reckonAll_262 : decode cX5_reckonAll 262 = .ok (.iconst 1, 1) := dk_4 (dk_at dksX5_reckonAll_11 3 rfl rfl)
theorem dX5_reckonAll_263 : decode cX5_reckonAll 263 = .ok (.goto 4, 3) := dk_167 0 4 (dk_at dksX5_reckonAll_11 4 rfl rfl)
theorem dX5_reckonAll_266 : decode cX5_reckonAll 266 = .ok (.iconst 0, 1) := dk_3 (dk_at dksX5_reckonAll_11 7 rfl rfl)
theorem dX5_reckonAll_267 : decode cX5_reckonAll 267 = .ok (.putfield 380, 3) := dk_181 1 124 (dk_at dksX5_reckonAll_11 8 rfl rfl)
theorem dX5_reckonAll_270 : decode cX5_reckonAll 270 = .ok (.goto 65, 3) := dk_167 0 65 (dk_at dksX5_reckonAll_11 11 rfl rfl)
theorem dX5_reckonAll_273 : decode cX5_reckonAll 273 = .ok (.iload 5, 2) := dk_21 5 (dk_at dksX5_reckonAll_11 14 rfl rfl)
theorem dX5_reckonAll_275 : decode cX5_reckonAll 275 = .ok (.bipush 28, 2) := dk_16 28 (dk_at dksX5_reckonAll_11 16 rfl rfl)
theorem dX5_reckonAll_277 : decode cX5_reckonAll 277 = .ok (.if_icmp .ne 24, 3) := dk_160 0 24 (dk_at dksX5_reckonAll_11 18 rfl rfl)
theorem dX5_reckonAll_280 : decode cX5_reckonAll 280 = .ok (.aload_n 0, 1) := dk_42 (dk_at dksX5_reckonAll_11 21 rfl rfl)
theorem dX5_reckonAll_281 : decode cX5_reckonAll 281 = .ok (.getfield 122, 3) := dk_180 0 122 (dk_at dksX5_reckonAll_12 0 rfl rfl)
theorem dX5_reckonAll_284 : decode cX5_reckonAll 284 = .ok (.iload_n 3, 1) := dk_29 (dk_at dksX5_reckonAll_12 3 rfl rfl)
theorem dX5_reckonAll_285 : decode cX5_reckonAll 285 = .ok (.iconst 1, 1) := dk_4 (dk_at dksX5_reckonAll_12 4 rfl rfl)
theorem dX5_reckonAll_286 : decode cX5_reckonAll 286 = .ok (.isub, 1) := dk_100 (dk_at dksX5_reckonAll_12 5 rfl rfl)
theorem dX5_reckonAll_287 : decode cX5_reckonAll 287 = .ok (.lconst 1, 1) := dk_10 (dk_at dksX5_reckonAll_12 6 rfl rfl)
theorem dX5_reckonAll_288 : decode cX5_reckonAll 288 = .ok (.aload_n 0, 1) := dk_42 (dk_at dksX5_reckonAll_12 7 rfl rfl)
theorem dX5_reckonAll_289 : decode cX5_reckonAll 289 = .ok (.getfield 122, 3) := dk_180 0 122 (dk_at dksX5_reckonAll_12 8 rfl rfl)
theorem dX5_reckonAll_292 : decode cX5_reckonAll 292 = .ok (.iload_n 3, 1) := dk_29 (dk_at dksX5_reckonAll_12 11 rfl rfl)
theorem dX5_reckonAll_293 : decode cX5_reckonAll 293 = .ok (.iconst 1, 1) := dk_4 (dk_at dksX5_reckonAll_12 12 rfl rfl)
theorem dX5_reckonAll_294 : decode cX5_reckonAll 294 = .ok (.isub, 1) := dk_100 (dk_at dksX5_reckonAll_12 13 rfl rfl)
theorem dX5_reckonAll_295 : decode cX5_reckonAll 295 = .ok (.laload, 1) := dk_47 (dk_at dksX5_reckonAll_12 14 rfl rfl)
theorem dX5_reckonAll_296 : decode cX5_reckonAll 296 = .ok (.lsub, 1) := dk_101 (dk_at dksX5_reckonAll_12 15 rfl rfl)
theorem dX5_reckonAll_297 : decode cX5_reckonAll 297 = .ok (.lastore, 1) := dk_80 (dk_at dksX5_reckonAll_12 16 rfl rfl)
theorem dX5_reckonAll_298 : decode cX5_reckonAll 298 = .ok (.goto 37, 3) := dk_167 0 37 (dk_at dksX5_reckonAll_12 17 rfl rfl)
theorem dX5_reckonAll_301 : decode cX5_reckonAll 301 = .ok (.aload_n 0, 1) := dk_42 (dk_at dksX5_reckonAll_12 20 rfl rfl)
theorem dX5_reckonAll_302 : decode cX5_reckonAll 302 = .ok (.getfield 122, 3) := dk_180 0 122 (dk_at dksX5_reckonAll_12 21 rfl rfl)
theorem dX5_reckonAll_305 : decode cX5_reckonAll 305 = .ok (.iload_n 3, 1) := dk_29 (dk_at dksX5_reckonAll_13 0 rfl rfl)
theorem dX5_reckonAll_306 : decode cX5_reckonAll 306 = .ok (.iconst 1, 1) := dk_4 (dk_at dksX5_reckonAll_13 1 rfl rfl)
theorem dX5_reckonAll_307 : decode cX5_reckonAll 307 = .ok (.isub, 1) := dk_100 (dk_at dksX5_reckonAll_13 2 rfl rfl)
theorem dX5_reckonAll_308 : decode cX5_reckonAll 308 = .ok (.laload, 1) := dk_47 (dk_at dksX5_reckonAll_13 3 rfl rfl)
theorem dX5_reckonAll_309 : decode cX5_reckonAll 309 = .ok (.iload 5, 2) := dk_21 5 (dk_at dksX5_reckonAll_13 4 rfl rfl)
theorem dX5_reckonAll_311 : decode cX5_reckonAll 311 = .ok (.bipush 29, 2) := dk_16 29 (dk_at dksX5_reckonAll_13 6 rfl rfl)
theorem dX5_reckonAll_313 : decode cX5_reckonAll 313 = .ok (.if_icmp .ne 7, 3) := dk_160 0 7 (dk_at dksX5_reckonAll_13 8 rfl rfl)
theorem dX5_reckonAll_316 : decode cX5_reckonAll 316 = .ok (.lconst 0, 1) := dk_9 (dk_at dksX5_reckonAll_13 11 rfl rfl)
theorem dX5_reckonAll_317 : decode cX5_reckonAll 317 = .ok (.goto 4, 3) := dk_167 0 4 (dk_at dksX5_reckonAll_13 12 rfl rfl)
theorem dX5_reckonAll_320 : decode cX5_reckonAll 320 = .ok (.lconst 1, 1) := dk_10 (dk_at dksX5_reckonAll_13 15 rfl rfl)
theorem dX5_reckonAll_321 : decode cX5_reckonAll 321 = .ok (.lcmp, 1) := dk_148 (dk_at dksX5_reckonAll_13 16 rfl rfl)
theorem dX5_reckonAll_322 : decode cX5_reckonAll 322 = .ok (.ifCond .ne 10, 3) := dk_154 0 10 (dk_at dksX5_reckonAll_13 17 rfl rfl)
theorem dX5_reckonAll_325 : decode cX5_reckonAll 325 = .ok (.iload 6, 2) := dk_21 6 (dk_at dksX5_reckonAll_13 20 rfl rfl)
theorem dX5_reckonAll_327 : decode cX5_reckonAll 327 = .ok (.istore 4, 2) := dk_54 4 (dk_at dksX5_reckonAll_13 22 rfl rfl)
theorem dX5_reckonAll_329 : decode cX5_reckonAll 329 = .ok (.goto 6, 3) := dk_167 0 6 (dk_at dksX5_reckonAll_14 0 rfl rfl)
theorem dX5_reckonAll_332 : decode cX5_reckonAll 332 = .ok (.iinc 3 (-1), 3) := dk_132 3 255 (dk_at dksX5_reckonAll_14 3 rfl rfl)
theorem dX5_reckonAll_335 : decode cX5_reckonAll 335 = .ok (.goto (-325), 3) := dk_167 254 187 (dk_at dksX5_reckonAll_14 6 rfl rfl)
theorem dX5_reckonAll_338 : decode cX5_reckonAll 338 = .ok (.aload_n 0, 1) := dk_42 (dk_at dksX5_reckonAll_14 9 rfl rfl)
theorem dX5_reckonAll_339 : decode cX5_reckonAll 339 = .ok (.iload_n 3, 1) := dk_29 (dk_at dksX5_reckonAll_14 10 rfl rfl)
theorem dX5_reckonAll_340 : decode cX5_reckonAll 340 = .ok (.ifCond .le 12, 3) := dk_158 0 12 (dk_at dksX5_reckonAll_14 11 rfl rfl)
theorem dX5_reckonAll_343 : decode cX5_reckonAll 343 = .ok (.aload_n 0, 1) := dk_42 (dk_at dksX5_reckonAll_14 14 rfl rfl)
theorem dX5_reckonAll_344 : decode cX5_reckonAll 344 = .ok (.getfield 122, 3) := dk_180 0 122 (dk_at dksX5_reckonAll_14 15 rfl rfl)
theorem dX5_reckonAll_347 : decode cX5_reckonAll 347 = .ok (.iconst 0, 1) := dk_3 (dk_at dksX5_reckonAll_14 18 rfl rfl)
theorem dX5_reckonAll_348 : decode cX5_reckonAll 348 = .ok (.laload, 1) := dk_47 (dk_at dksX5_reckonAll_14 19 rfl rfl)
theorem dX5_reckonAll_349 : decode cX5_reckonAll 349 = .ok (.goto 4, 3) := dk_167 0 4 (dk_at dksX5_reckonAll_14 20 rfl rfl)
theorem dX5_reckonAll_352 : decode cX5_reckonAll 352 = .ok (.lconst 0, 1) := dk_9 (dk_at dksX5_reckonAll_14 23 rfl rfl)
theorem dX5_reckonAll_353 : decode cX5_reckonAll 353 = .ok (.putfield 394, 3) := dk_181 1 138 (dk_at dksX5_reckonAll_15 0 rfl rfl)
theorem dX5_reckonAll_356 : decode cX5_reckonAll 356 = .ok (.return_, 1) := dk_177 (dk_at dksX5_reckonAll_15 3 rfl rfl)
abbrev cX5_isCatcher : ByteArray := prog_22_method_11_code
def yX5_isCatcher : MethodName := ⟨RX5, "isCatcher", "(I)Z"⟩
def dkwX5_isCatcher_0 : List UInt8 := [27, 133, 9, 42, 180, 0, 13, 3, 46, 133, 10, 101, 184, 0, 159, 172]
abbrev dktX5_isCatcher_0 : List UInt8 := dkwX5_isCatcher_0 ++ []
theorem dksX5_isCatcher_0 : cX5_isCatcher.data.toList.drop 0 = dktX5_isCatcher_0 := by decide +kernel
theorem dX5_isCatcher_0 : decode cX5_isCatcher 0 = .ok (.iload_n 1, 1) := dk_27 (dk_at dksX5_isCatcher_0 0 rfl rfl)
theorem dX5_isCatcher_1 : decode cX5_isCatcher 1 = .ok (.i2l, 1) := dk_133 (dk_at dksX5_isCatcher_0 1 rfl rfl)
theorem dX5_isCatcher_2 : decode cX5_isCatcher 2 = .ok (.lconst 0, 1) := dk_9 (dk_at dksX5_isCatcher_0 2 rfl rfl)
theorem dX5_isCatcher_3 : decode cX5_isCatcher 3 = .ok (.aload_n 0, 1) := dk_42 (dk_at dksX5_isCatcher_0 3 rfl rfl)
theorem dX5_isCatcher_4 : decode cX5_isCatcher 4 = .ok (.getfield 13, 3) := dk_180 0 13 (dk_at dksX5_isCatcher_0 4 rfl rfl)
theorem dX5_isCatcher_7 : decode cX5_isCatcher 7 = .ok (.iconst 0, 1) := dk_3 (dk_at dksX5_isCatcher_0 7 rfl rfl)
theorem dX5_isCatcher_8 : decode cX5_isCatcher 8 = .ok (.iaload, 1) := dk_46 (dk_at dksX5_isCatcher_0 8 rfl rfl)
theorem dX5_isCatcher_9 : decode cX5_isCatcher 9 = .ok (.i2l, 1) := dk_133 (dk_at dksX5_isCatcher_0 9 rfl rfl)
theorem dX5_isCatcher_10 : decode cX5_isCatcher 10 = .ok (.lconst 1, 1) := dk_10 (dk_at dksX5_isCatcher_0 10 rfl rfl)
theorem dX5_isCatcher_11 : decode cX5_isCatcher 11 = .ok (.lsub, 1) := dk_101 (dk_at dksX5_isCatcher_0 11 rfl rfl)
theorem dX5_isCatcher_12 : decode cX5_isCatcher 12 = .ok (.invokestatic 159, 3) := dk_184 0 159 (dk_at dksX5_isCatcher_0 12 rfl rfl)
theorem dX5_isCatcher_15 : decode cX5_isCatcher 15 = .ok (.ireturn, 1) := dk_172 (dk_at dksX5_isCatcher_0 15 rfl rfl)
abbrev cX5_reckon : ByteArray := prog_22_method_61_code
def yX5_reckon : MethodName := ⟨RX5, "reckon", "(IJJ)J"⟩
def dkwX5_reckon_6 : List UInt8 := [148, 158, 0, 7, 10, 167, 0, 4, 9, 173, 32, 22, 4, 148, 154, 0, 7, 10, 167, 0, 4, 9, 173]
abbrev dktX5_reckon_6 : List UInt8 := dkwX5_reckon_6 ++ []
def dkwX5_reckon_5 : List UInt8 := [167, 0, 7, 32, 22, 4, 113, 173, 32, 22, 4, 148, 156, 0, 7, 10, 167, 0, 4, 9, 173, 32, 22, 4]
abbrev dktX5_reckon_5 : List UInt8 := dkwX5_reckon_5 ++ dktX5_reckon_6
def dkwX5_reckon_4 : List UInt8 := [22, 4, 9, 148, 154, 0, 7, 4, 167, 0, 4, 3, 181, 1, 124, 42, 180, 1, 124, 153, 0, 7, 9]
abbrev dktX5_reckon_4 : List UInt8 := dkwX5_reckon_4 ++ dktX5_reckon_5
def dkwX5_reckon_3 : List UInt8 := [167, 0, 4, 3, 181, 1, 124, 42, 180, 1, 124, 153, 0, 7, 9, 167, 0, 7, 32, 22, 4, 109, 173, 42]
abbrev dktX5_reckon_3 : List UInt8 := dkwX5_reckon_3 ++ dktX5_reckon_4
def dkwX5_reckon_2 : List UInt8 := [32, 22, 4, 97, 173, 32, 22, 4, 101, 173, 32, 22, 4, 105, 173, 42, 22, 4, 9, 148, 154, 0, 7, 4]
abbrev dktX5_reckon_2 : List UInt8 := dkwX5_reckon_2 ++ dktX5_reckon_3
def dkwX5_reckon_1 : List UInt8 := [170, 0, 0, 0, 0, 0, 148, 0, 0, 0, 20, 0, 0, 0, 26, 0, 0, 0, 43, 0, 0, 0, 48, 0, 0, 0, 53, 0, 0, 0, 58, 0, 0, 0, 90, 0, 0, 0, 122, 0, 0, 0, 135]
abbrev dktX5_reckon_1 : List UInt8 := dkwX5_reckon_1 ++ dktX5_reckon_2
def dkwX5_reckon_0 : List UInt8 := [27]
abbrev dktX5_reckon_0 : List UInt8 := dkwX5_reckon_0 ++ dktX5_reckon_1
theorem dksX5_reckon_0 : cX5_reckon.data.toList.drop 0 = dktX5_reckon_0 := by decide +kernel
theorem dksX5_reckon_1 : cX5_reckon.data.toList.drop 1 = dktX5_reckon_1 := dk_seg dksX5_reckon_0 1 rfl rfl
theorem dksX5_reckon_2 : cX5_reckon.data.toList.drop 44 = dktX5_reckon_2 := dk_seg dksX5_reckon_1 43 rfl rfl
theorem dksX5_reckon_3 : cX5_reckon.data.toList.drop 68 = dktX5_reckon_3 := dk_seg dksX5_reckon_2 24 rfl rfl
theorem dksX5_reckon_4 : cX5_reckon.data.toList.drop 92 = dktX5_reckon_4 := dk_seg dksX5_reckon_3 24 rfl rfl
theorem dksX5_reckon_5 : cX5_reckon.data.toList.drop 115 = dktX5_reckon_5 := dk_seg dksX5_reckon_4 23 rfl rfl
theorem dksX5_reckon_6 : cX5_reckon.data.toList.drop 139 = dktX5_reckon_6 := dk_seg dksX5_reckon_5 24 rfl rfl
theorem dX5_reckon_0 : decode cX5_reckon 0 = .ok (.iload_n 1, 1) := dk_27 (dk_at dksX5_reckon_0 0 rfl rfl)
theorem dX5_reckon_1 : decode cX5_reckon 1 = .ok (.tableswitch 148 20 26 #[43, 48, 53, 58, 90, 122, 135], 43) := by decide +kernel
theorem dX5_reckon_44 : decode cX5_reckon 44 = .ok (.lload_n 2, 1) := dk_32 (dk_at dksX5_reckon_2 0 rfl rfl)
theorem dX5_reckon_45 : decode cX5_reckon 45 = .ok (.lload 4, 2) := dk_22 4 (dk_at dksX5_reckon_2 1 rfl rfl)
theorem dX5_reckon_47 : decode cX5_reckon 47 = .ok (.ladd, 1) := dk_97 (dk_at dksX5_reckon_2 3 rfl rfl)
theorem dX5_reckon_48 : decode cX5_reckon 48 = .ok (.lreturn, 1) := dk_173 (dk_at dksX5_reckon_2 4 rfl rfl)
theorem dX5_reckon_49 : decode cX5_reckon 49 = .ok (.lload_n 2, 1) := dk_32 (dk_at dksX5_reckon_2 5 rfl rfl)
theorem dX5_reckon_50 : decode cX5_reckon 50 = .ok (.lload 4, 2) := dk_22 4 (dk_at dksX5_reckon_2 6 rfl rfl)
theorem dX5_reckon_52 : decode cX5_reckon 52 = .ok (.lsub, 1) := dk_101 (dk_at dksX5_reckon_2 8 rfl rfl)
theorem dX5_reckon_53 : decode cX5_reckon 53 = .ok (.lreturn, 1) := dk_173 (dk_at dksX5_reckon_2 9 rfl rfl)
theorem dX5_reckon_54 : decode cX5_reckon 54 = .ok (.lload_n 2, 1) := dk_32 (dk_at dksX5_reckon_2 10 rfl rfl)
theorem dX5_reckon_55 : decode cX5_reckon 55 = .ok (.lload 4, 2) := dk_22 4 (dk_at dksX5_reckon_2 11 rfl rfl)
theorem dX5_reckon_57 : decode cX5_reckon 57 = .ok (.lmul, 1) := dk_105 (dk_at dksX5_reckon_2 13 rfl rfl)
theorem dX5_reckon_58 : decode cX5_reckon 58 = .ok (.lreturn, 1) := dk_173 (dk_at dksX5_reckon_2 14 rfl rfl)
theorem dX5_reckon_59 : decode cX5_reckon 59 = .ok (.aload_n 0, 1) := dk_42 (dk_at dksX5_reckon_2 15 rfl rfl)
theorem dX5_reckon_60 : decode cX5_reckon 60 = .ok (.lload 4, 2) := dk_22 4 (dk_at dksX5_reckon_2 16 rfl rfl)
theorem dX5_reckon_62 : decode cX5_reckon 62 = .ok (.lconst 0, 1) := dk_9 (dk_at dksX5_reckon_2 18 rfl rfl)
theorem dX5_reckon_63 : decode cX5_reckon 63 = .ok (.lcmp, 1) := dk_148 (dk_at dksX5_reckon_2 19 rfl rfl)
theorem dX5_reckon_64 : decode cX5_reckon 64 = .ok (.ifCond .ne 7, 3) := dk_154 0 7 (dk_at dksX5_reckon_2 20 rfl rfl)
theorem dX5_reckon_67 : decode cX5_reckon 67 = .ok (.iconst 1, 1) := dk_4 (dk_at dksX5_reckon_2 23 rfl rfl)
theorem dX5_reckon_68 : decode cX5_reckon 68 = .ok (.goto 4, 3) := dk_167 0 4 (dk_at dksX5_reckon_3 0 rfl rfl)
theorem dX5_reckon_71 : decode cX5_reckon 71 = .ok (.iconst 0, 1) := dk_3 (dk_at dksX5_reckon_3 3 rfl rfl)
theorem dX5_reckon_72 : decode cX5_reckon 72 = .ok (.putfield 380, 3) := dk_181 1 124 (dk_at dksX5_reckon_3 4 rfl rfl)
theorem dX5_reckon_75 : decode cX5_reckon 75 = .ok (.aload_n 0, 1) := dk_42 (dk_at dksX5_reckon_3 7 rfl rfl)
theorem dX5_reckon_76 : decode cX5_reckon 76 = .ok (.getfield 380, 3) := dk_180 1 124 (dk_at dksX5_reckon_3 8 rfl rfl)
theorem dX5_reckon_79 : decode cX5_reckon 79 = .ok (.ifCond .eq 7, 3) := dk_153 0 7 (dk_at dksX5_reckon_3 11 rfl rfl)
theorem dX5_reckon_82 : decode cX5_reckon 82 = .ok (.lconst 0, 1) := dk_9 (dk_at dksX5_reckon_3 14 rfl rfl)
theorem dX5_reckon_83 : decode cX5_reckon 83 = .ok (.goto 7, 3) := dk_167 0 7 (dk_at dksX5_reckon_3 15 rfl rfl)
theorem dX5_reckon_86 : decode cX5_reckon 86 = .ok (.lload_n 2, 1) := dk_32 (dk_at dksX5_reckon_3 18 rfl rfl)
theorem dX5_reckon_87 : decode cX5_reckon 87 = .ok (.lload 4, 2) := dk_22 4 (dk_at dksX5_reckon_3 19 rfl rfl)
theorem dX5_reckon_89 : decode cX5_reckon 89 = .ok (.ldiv, 1) := dk_109 (dk_at dksX5_reckon_3 21 rfl rfl)
theorem dX5_reckon_90 : decode cX5_reckon 90 = .ok (.lreturn, 1) := dk_173 (dk_at dksX5_reckon_3 22 rfl rfl)
theorem dX5_reckon_91 : decode cX5_reckon 91 = .ok (.aload_n 0, 1) := dk_42 (dk_at dksX5_reckon_3 23 rfl rfl)
theorem dX5_reckon_92 : decode cX5_reckon 92 = .ok (.lload 4, 2) := dk_22 4 (dk_at dksX5_reckon_4 0 rfl rfl)
theorem dX5_reckon_94 : decode cX5_reckon 94 = .ok (.lconst 0, 1) := dk_9 (dk_at dksX5_reckon_4 2 rfl rfl)
theorem dX5_reckon_95 : decode cX5_reckon 95 = .ok (.lcmp, 1) := dk_148 (dk_at dksX5_reckon_4 3 rfl rfl)
theorem dX5_reckon_96 : decode cX5_reckon 96 = .ok (.ifCond .ne 7, 3) := dk_154 0 7 (dk_at dksX5_reckon_4 4 rfl rfl)
theorem dX5_reckon_99 : decode cX5_reckon 99 = .ok (.iconst 1, 1) := dk_4 (dk_at dksX5_reckon_4 7 rfl rfl)
theorem dX5_reckon_100 : decode cX5_reckon 100 = .ok (.goto 4, 3) := dk_167 0 4 (dk_at dksX5_reckon_4 8 rfl rfl)
theorem dX5_reckon_103 : decode cX5_reckon 103 = .ok (.iconst 0, 1) := dk_3 (dk_at dksX5_reckon_4 11 rfl rfl)
theorem dX5_reckon_104 : decode cX5_reckon 104 = .ok (.putfield 380, 3) := dk_181 1 124 (dk_at dksX5_reckon_4 12 rfl rfl)
theorem dX5_reckon_107 : decode cX5_reckon 107 = .ok (.aload_n 0, 1) := dk_42 (dk_at dksX5_reckon_4 15 rfl rfl)
theorem dX5_reckon_108 : decode cX5_reckon 108 = .ok (.getfield 380, 3) := dk_180 1 124 (dk_at dksX5_reckon_4 16 rfl rfl)
theorem dX5_reckon_111 : decode cX5_reckon 111 = .ok (.ifCond .eq 7, 3) := dk_153 0 7 (dk_at dksX5_reckon_4 19 rfl rfl)
theorem dX5_reckon_114 : decode cX5_reckon 114 = .ok (.lconst 0, 1) := dk_9 (dk_at dksX5_reckon_4 22 rfl rfl)
theorem dX5_reckon_115 : decode cX5_reckon 115 = .ok (.goto 7, 3) := dk_167 0 7 (dk_at dksX5_reckon_5 0 rfl rfl)
theorem dX5_reckon_118 : decode cX5_reckon 118 = .ok (.lload_n 2, 1) := dk_32 (dk_at dksX5_reckon_5 3 rfl rfl)
theorem dX5_reckon_119 : decode cX5_reckon 119 = .ok (.lload 4, 2) := dk_22 4 (dk_at dksX5_reckon_5 4 rfl rfl)
theorem dX5_reckon_121 : decode cX5_reckon 121 = .ok (.lrem, 1) := dk_113 (dk_at dksX5_reckon_5 6 rfl rfl)
theorem dX5_reckon_122 : decode cX5_reckon 122 = .ok (.lreturn, 1) := dk_173 (dk_at dksX5_reckon_5 7 rfl rfl)
theorem dX5_reckon_123 : decode cX5_reckon 123 = .ok (.lload_n 2, 1) := dk_32 (dk_at dksX5_reckon_5 8 rfl rfl)
theorem dX5_reckon_124 : decode cX5_reckon 124 = .ok (.lload 4, 2) := dk_22 4 (dk_at dksX5_reckon_5 9 rfl rfl)
theorem dX5_reckon_126 : decode cX5_reckon 126 = .ok (.lcmp, 1) := dk_148 (dk_at dksX5_reckon_5 11 rfl rfl)
theorem dX5_reckon_127 : decode cX5_reckon 127 = .ok (.ifCond .ge 7, 3) := dk_156 0 7 (dk_at dksX5_reckon_5 12 rfl rfl)
theorem dX5_reckon_130 : decode cX5_reckon 130 = .ok (.lconst 1, 1) := dk_10 (dk_at dksX5_reckon_5 15 rfl rfl)
theorem dX5_reckon_131 : decode cX5_reckon 131 = .ok (.goto 4, 3) := dk_167 0 4 (dk_at dksX5_reckon_5 16 rfl rfl)
theorem dX5_reckon_134 : decode cX5_reckon 134 = .ok (.lconst 0, 1) := dk_9 (dk_at dksX5_reckon_5 19 rfl rfl)
theorem dX5_reckon_135 : decode cX5_reckon 135 = .ok (.lreturn, 1) := dk_173 (dk_at dksX5_reckon_5 20 rfl rfl)
theorem dX5_reckon_136 : decode cX5_reckon 136 = .ok (.lload_n 2, 1) := dk_32 (dk_at dksX5_reckon_5 21 rfl rfl)
theorem dX5_reckon_137 : decode cX5_reckon 137 = .ok (.lload 4, 2) := dk_22 4 (dk_at dksX5_reckon_5 22 rfl rfl)
theorem dX5_reckon_139 : decode cX5_reckon 139 = .ok (.lcmp, 1) := dk_148 (dk_at dksX5_reckon_6 0 rfl rfl)
theorem dX5_reckon_140 : decode cX5_reckon 140 = .ok (.ifCond .le 7, 3) := dk_158 0 7 (dk_at dksX5_reckon_6 1 rfl rfl)
theorem dX5_reckon_143 : decode cX5_reckon 143 = .ok (.lconst 1, 1) := dk_10 (dk_at dksX5_reckon_6 4 rfl rfl)
theorem dX5_reckon_144 : decode cX5_reckon 144 = .ok (.goto 4, 3) := dk_167 0 4 (dk_at dksX5_reckon_6 5 rfl rfl)
theorem dX5_reckon_147 : decode cX5_reckon 147 = .ok (.lconst 0, 1) := dk_9 (dk_at dksX5_reckon_6 8 rfl rfl)
theorem dX5_reckon_148 : decode cX5_reckon 148 = .ok (.lreturn, 1) := dk_173 (dk_at dksX5_reckon_6 9 rfl rfl)
theorem dX5_reckon_149 : decode cX5_reckon 149 = .ok (.lload_n 2, 1) := dk_32 (dk_at dksX5_reckon_6 10 rfl rfl)
theorem dX5_reckon_150 : decode cX5_reckon 150 = .ok (.lload 4, 2) := dk_22 4 (dk_at dksX5_reckon_6 11 rfl rfl)
theorem dX5_reckon_152 : decode cX5_reckon 152 = .ok (.lcmp, 1) := dk_148 (dk_at dksX5_reckon_6 13 rfl rfl)
theorem dX5_reckon_153 : decode cX5_reckon 153 = .ok (.ifCond .ne 7, 3) := dk_154 0 7 (dk_at dksX5_reckon_6 14 rfl rfl)
theorem dX5_reckon_156 : decode cX5_reckon 156 = .ok (.lconst 1, 1) := dk_10 (dk_at dksX5_reckon_6 17 rfl rfl)
theorem dX5_reckon_157 : decode cX5_reckon 157 = .ok (.goto 4, 3) := dk_167 0 4 (dk_at dksX5_reckon_6 18 rfl rfl)
theorem dX5_reckon_160 : decode cX5_reckon 160 = .ok (.lconst 0, 1) := dk_9 (dk_at dksX5_reckon_6 21 rfl rfl)
theorem dX5_reckon_161 : decode cX5_reckon 161 = .ok (.lreturn, 1) := dk_173 (dk_at dksX5_reckon_6 22 rfl rfl)
abbrev cX5_settled : ByteArray := prog_22_method_21_code
def yX5_settled : MethodName := ⟨RX5, "settled", "(I)I"⟩
def dkwX5_settled_0 : List UInt8 := [42, 27, 156, 0, 10, 42, 180, 0, 173, 167, 0, 4, 3, 181, 0, 173, 42, 27, 182, 0, 155, 172]
abbrev dktX5_settled_0 : List UInt8 := dkwX5_settled_0 ++ []
theorem dksX5_settled_0 : cX5_settled.data.toList.drop 0 = dktX5_settled_0 := by decide +kernel
theorem dX5_settled_0 : decode cX5_settled 0 = .ok (.aload_n 0, 1) := dk_42 (dk_at dksX5_settled_0 0 rfl rfl)
theorem dX5_settled_1 : decode cX5_settled 1 = .ok (.iload_n 1, 1) := dk_27 (dk_at dksX5_settled_0 1 rfl rfl)
theorem dX5_settled_2 : decode cX5_settled 2 = .ok (.ifCond .ge 10, 3) := dk_156 0 10 (dk_at dksX5_settled_0 2 rfl rfl)
theorem dX5_settled_5 : decode cX5_settled 5 = .ok (.aload_n 0, 1) := dk_42 (dk_at dksX5_settled_0 5 rfl rfl)
theorem dX5_settled_6 : decode cX5_settled 6 = .ok (.getfield 173, 3) := dk_180 0 173 (dk_at dksX5_settled_0 6 rfl rfl)
theorem dX5_settled_9 : decode cX5_settled 9 = .ok (.goto 4, 3) := dk_167 0 4 (dk_at dksX5_settled_0 9 rfl rfl)
theorem dX5_settled_12 : decode cX5_settled 12 = .ok (.iconst 0, 1) := dk_3 (dk_at dksX5_settled_0 12 rfl rfl)
theorem dX5_settled_13 : decode cX5_settled 13 = .ok (.putfield 173, 3) := dk_181 0 173 (dk_at dksX5_settled_0 13 rfl rfl)
theorem dX5_settled_16 : decode cX5_settled 16 = .ok (.aload_n 0, 1) := dk_42 (dk_at dksX5_settled_0 16 rfl rfl)
theorem dX5_settled_17 : decode cX5_settled 17 = .ok (.iload_n 1, 1) := dk_27 (dk_at dksX5_settled_0 17 rfl rfl)
theorem dX5_settled_18 : decode cX5_settled 18 = .ok (.invokevirtual 155, 3) := dk_182 0 155 (dk_at dksX5_settled_0 18 rfl rfl)
theorem dX5_settled_21 : decode cX5_settled 21 = .ok (.ireturn, 1) := dk_172 (dk_at dksX5_settled_0 21 rfl rfl)
abbrev cX5_put : ByteArray := prog_22_method_23_code
def yX5_put : MethodName := ⟨RX5, "put", "(III)I"⟩
def dkwX5_put_4 : List UInt8 := [182, 0, 210, 167, 0, 9, 42, 16, 254, 182, 0, 155, 172]
abbrev dktX5_put_4 : List UInt8 := dkwX5_put_4 ++ []
def dkwX5_put_3 : List UInt8 := [182, 0, 155, 172, 42, 27, 182, 0, 207, 153, 0, 19, 42, 16, 13, 8, 27, 104, 96, 28, 96, 29]
abbrev dktX5_put_3 : List UInt8 := dkwX5_put_3 ++ dktX5_put_4
def dkwX5_put_2 : List UInt8 := [10, 20, 0, 191, 184, 0, 159, 153, 0, 7, 4, 167, 0, 4, 3, 54, 4, 21, 4, 154, 0, 9, 42, 2]
abbrev dktX5_put_2 : List UInt8 := dkwX5_put_2 ++ dktX5_put_3
def dkwX5_put_1 : List UInt8 := [160, 0, 17, 29, 133, 20, 0, 189, 20, 0, 191, 184, 0, 159, 167, 0, 25, 28, 5, 160, 0, 19, 29, 133]
abbrev dktX5_put_1 : List UInt8 := dkwX5_put_1 ++ dktX5_put_2
def dkwX5_put_0 : List UInt8 := [42, 3, 181, 0, 149, 28, 154, 0, 15, 29, 133, 9, 20, 0, 187, 184, 0, 159, 167, 0, 44, 28, 4]
abbrev dktX5_put_0 : List UInt8 := dkwX5_put_0 ++ dktX5_put_1
theorem dksX5_put_0 : cX5_put.data.toList.drop 0 = dktX5_put_0 := by decide +kernel
theorem dksX5_put_1 : cX5_put.data.toList.drop 23 = dktX5_put_1 := dk_seg dksX5_put_0 23 rfl rfl
theorem dksX5_put_2 : cX5_put.data.toList.drop 47 = dktX5_put_2 := dk_seg dksX5_put_1 24 rfl rfl
theorem dksX5_put_3 : cX5_put.data.toList.drop 71 = dktX5_put_3 := dk_seg dksX5_put_2 24 rfl rfl
theorem dksX5_put_4 : cX5_put.data.toList.drop 93 = dktX5_put_4 := dk_seg dksX5_put_3 22 rfl rfl
theorem dX5_put_0 : decode cX5_put 0 = .ok (.aload_n 0, 1) := dk_42 (dk_at dksX5_put_0 0 rfl rfl)
theorem dX5_put_1 : decode cX5_put 1 = .ok (.iconst 0, 1) := dk_3 (dk_at dksX5_put_0 1 rfl rfl)
theorem dX5_put_2 : decode cX5_put 2 = .ok (.putfield 149, 3) := dk_181 0 149 (dk_at dksX5_put_0 2 rfl rfl)
theorem dX5_put_5 : decode cX5_put 5 = .ok (.iload_n 2, 1) := dk_28 (dk_at dksX5_put_0 5 rfl rfl)
theorem dX5_put_6 : decode cX5_put 6 = .ok (.ifCond .ne 15, 3) := dk_154 0 15 (dk_at dksX5_put_0 6 rfl rfl)
theorem dX5_put_9 : decode cX5_put 9 = .ok (.iload_n 3, 1) := dk_29 (dk_at dksX5_put_0 9 rfl rfl)
theorem dX5_put_10 : decode cX5_put 10 = .ok (.i2l, 1) := dk_133 (dk_at dksX5_put_0 10 rfl rfl)
theorem dX5_put_11 : decode cX5_put 11 = .ok (.lconst 0, 1) := dk_9 (dk_at dksX5_put_0 11 rfl rfl)
theorem dX5_put_12 : decode cX5_put 12 = .ok (.ldc2_w 187, 3) := dk_20 0 187 (dk_at dksX5_put_0 12 rfl rfl)
theorem dX5_put_15 : decode cX5_put 15 = .ok (.invokestatic 159, 3) := dk_184 0 159 (dk_at dksX5_put_0 15 rfl rfl)
theorem dX5_put_18 : decode cX5_put 18 = .ok (.goto 44, 3) := dk_167 0 44 (dk_at dksX5_put_0 18 rfl rfl)
theorem dX5_put_21 : decode cX5_put 21 = .ok (.iload_n 2, 1) := dk_28 (dk_at dksX5_put_0 21 rfl rfl)
theorem dX5_put_22 : decode cX5_put 22 = .ok (.iconst 1, 1) := dk_4 (dk_at dksX5_put_0 22 rfl rfl)
theorem dX5_put_23 : decode cX5_put 23 = .ok (.if_icmp .ne 17, 3) := dk_160 0 17 (dk_at dksX5_put_1 0 rfl rfl)
theorem dX5_put_26 : decode cX5_put 26 = .ok (.iload_n 3, 1) := dk_29 (dk_at dksX5_put_1 3 rfl rfl)
theorem dX5_put_27 : decode cX5_put 27 = .ok (.i2l, 1) := dk_133 (dk_at dksX5_put_1 4 rfl rfl)
theorem dX5_put_28 : decode cX5_put 28 = .ok (.ldc2_w 189, 3) := dk_20 0 189 (dk_at dksX5_put_1 5 rfl rfl)
theorem dX5_put_31 : decode cX5_put 31 = .ok (.ldc2_w 191, 3) := dk_20 0 191 (dk_at dksX5_put_1 8 rfl rfl)
theorem dX5_put_34 : decode cX5_put 34 = .ok (.invokestatic 159, 3) := dk_184 0 159 (dk_at dksX5_put_1 11 rfl rfl)
theorem dX5_put_37 : decode cX5_put 37 = .ok (.goto 25, 3) := dk_167 0 25 (dk_at dksX5_put_1 14 rfl rfl)
theorem dX5_put_40 : decode cX5_put 40 = .ok (.iload_n 2, 1) := dk_28 (dk_at dksX5_put_1 17 rfl rfl)
theorem dX5_put_41 : decode cX5_put 41 = .ok (.iconst 2, 1) := dk_5 (dk_at dksX5_put_1 18 rfl rfl)
theorem dX5_put_42 : decode cX5_put 42 = .ok (.if_icmp .ne 19, 3) := dk_160 0 19 (dk_at dksX5_put_1 19 rfl rfl)
theorem dX5_put_45 : decode cX5_put 45 = .ok (.iload_n 3, 1) := dk_29 (dk_at dksX5_put_1 22 rfl rfl)
theorem dX5_put_46 : decode cX5_put 46 = .ok (.i2l, 1) := dk_133 (dk_at dksX5_put_1 23 rfl rfl)
theorem dX5_put_47 : decode cX5_put 47 = .ok (.lconst 1, 1) := dk_10 (dk_at dksX5_put_2 0 rfl rfl)
theorem dX5_put_48 : decode cX5_put 48 = .ok (.ldc2_w 191, 3) := dk_20 0 191 (dk_at dksX5_put_2 1 rfl rfl)
theorem dX5_put_51 : decode cX5_put 51 = .ok (.invokestatic 159, 3) := dk_184 0 159 (dk_at dksX5_put_2 4 rfl rfl)
theorem dX5_put_54 : decode cX5_put 54 = .ok (.ifCond .eq 7, 3) := dk_153 0 7 (dk_at dksX5_put_2 7 rfl rfl)
theorem dX5_put_57 : decode cX5_put 57 = .ok (.iconst 1, 1) := dk_4 (dk_at dksX5_put_2 10 rfl rfl)
theorem dX5_put_58 : decode cX5_put 58 = .ok (.goto 4, 3) := dk_167 0 4 (dk_at dksX5_put_2 11 rfl rfl)
theorem dX5_put_61 : decode cX5_put 61 = .ok (.iconst 0, 1) := dk_3 (dk_at dksX5_put_2 14 rfl rfl)
theorem dX5_put_62 : decode cX5_put 62 = .ok (.istore 4, 2) := dk_54 4 (dk_at dksX5_put_2 15 rfl rfl)
theorem dX5_put_64 : decode cX5_put 64 = .ok (.iload 4, 2) := dk_21 4 (dk_at dksX5_put_2 17 rfl rfl)
theorem dX5_put_66 : decode cX5_put 66 = .ok (.ifCond .ne 9, 3) := dk_154 0 9 (dk_at dksX5_put_2 19 rfl rfl)
theorem dX5_put_69 : decode cX5_put 69 = .ok (.aload_n 0, 1) := dk_42 (dk_at dksX5_put_2 22 rfl rfl)
theorem dX5_put_70 : decode cX5_put 70 = .ok (.iconst (-1), 1) := dk_2 (dk_at dksX5_put_2 23 rfl rfl)
theorem dX5_put_71 : decode cX5_put 71 = .ok (.invokevirtual 155, 3) := dk_182 0 155 (dk_at dksX5_put_3 0 rfl rfl)
theorem dX5_put_74 : decode cX5_put 74 = .ok (.ireturn, 1) := dk_172 (dk_at dksX5_put_3 3 rfl rfl)
theorem dX5_put_75 : decode cX5_put 75 = .ok (.aload_n 0, 1) := dk_42 (dk_at dksX5_put_3 4 rfl rfl)
theorem dX5_put_76 : decode cX5_put 76 = .ok (.iload_n 1, 1) := dk_27 (dk_at dksX5_put_3 5 rfl rfl)
theorem dX5_put_77 : decode cX5_put 77 = .ok (.invokevirtual 207, 3) := dk_182 0 207 (dk_at dksX5_put_3 6 rfl rfl)
theorem dX5_put_80 : decode cX5_put 80 = .ok (.ifCond .eq 19, 3) := dk_153 0 19 (dk_at dksX5_put_3 9 rfl rfl)
theorem dX5_put_83 : decode cX5_put 83 = .ok (.aload_n 0, 1) := dk_42 (dk_at dksX5_put_3 12 rfl rfl)
theorem dX5_put_84 : decode cX5_put 84 = .ok (.bipush 13, 2) := dk_16 13 (dk_at dksX5_put_3 13 rfl rfl)
theorem dX5_put_86 : decode cX5_put 86 = .ok (.iconst 5, 1) := dk_8 (dk_at dksX5_put_3 15 rfl rfl)
theorem dX5_put_87 : decode cX5_put 87 = .ok (.iload_n 1, 1) := dk_27 (dk_at dksX5_put_3 16 rfl rfl)
theorem dX5_put_88 : decode cX5_put 88 = .ok (.imul, 1) := dk_104 (dk_at dksX5_put_3 17 rfl rfl)
theorem dX5_put_89 : decode cX5_put 89 = .ok (.iadd, 1) := dk_96 (dk_at dksX5_put_3 18 rfl rfl)
theorem dX5_put_90 : decode cX5_put 90 = .ok (.iload_n 2, 1) := dk_28 (dk_at dksX5_put_3 19 rfl rfl)
theorem dX5_put_91 : decode cX5_put 91 = .ok (.iadd, 1) := dk_96 (dk_at dksX5_put_3 20 rfl rfl)
theorem dX5_put_92 : decode cX5_put 92 = .ok (.iload_n 3, 1) := dk_29 (dk_at dksX5_put_3 21 rfl rfl)
theorem dX5_put_93 : decode cX5_put 93 = .ok (.invokevirtual 210, 3) := dk_182 0 210 (dk_at dksX5_put_4 0 rfl rfl)
theorem dX5_put_96 : decode cX5_put 96 = .ok (.goto 9, 3) := dk_167 0 9 (dk_at dksX5_put_4 3 rfl rfl)
theorem dX5_put_99 : decode cX5_put 99 = .ok (.aload_n 0, 1) := dk_42 (dk_at dksX5_put_4 6 rfl rfl)
theorem dX5_put_100 : decode cX5_put 100 = .ok (.bipush (-2), 2) := dk_16 254 (dk_at dksX5_put_4 7 rfl rfl)
theorem dX5_put_102 : decode cX5_put 102 = .ok (.invokevirtual 155, 3) := dk_182 0 155 (dk_at dksX5_put_4 9 rfl rfl)
theorem dX5_put_105 : decode cX5_put 105 = .ok (.ireturn, 1) := dk_172 (dk_at dksX5_put_4 12 rfl rfl)
abbrev cX5_set1 : ByteArray := prog_22_method_7_code
def yX5_set1 : MethodName := ⟨RX5, "set1", "(II)I"⟩
def dkwX5_set1_0 : List UInt8 := [42, 180, 0, 13, 27, 28, 79, 42, 3, 182, 0, 155, 172]
abbrev dktX5_set1_0 : List UInt8 := dkwX5_set1_0 ++ []
theorem dksX5_set1_0 : cX5_set1.data.toList.drop 0 = dktX5_set1_0 := by decide +kernel
theorem dX5_set1_0 : decode cX5_set1 0 = .ok (.aload_n 0, 1) := dk_42 (dk_at dksX5_set1_0 0 rfl rfl)
theorem dX5_set1_1 : decode cX5_set1 1 = .ok (.getfield 13, 3) := dk_180 0 13 (dk_at dksX5_set1_0 1 rfl rfl)
theorem dX5_set1_4 : decode cX5_set1 4 = .ok (.iload_n 1, 1) := dk_27 (dk_at dksX5_set1_0 4 rfl rfl)
theorem dX5_set1_5 : decode cX5_set1 5 = .ok (.iload_n 2, 1) := dk_28 (dk_at dksX5_set1_0 5 rfl rfl)
theorem dX5_set1_6 : decode cX5_set1 6 = .ok (.iastore, 1) := dk_79 (dk_at dksX5_set1_0 6 rfl rfl)
theorem dX5_set1_7 : decode cX5_set1 7 = .ok (.aload_n 0, 1) := dk_42 (dk_at dksX5_set1_0 7 rfl rfl)
theorem dX5_set1_8 : decode cX5_set1 8 = .ok (.iconst 0, 1) := dk_3 (dk_at dksX5_set1_0 8 rfl rfl)
theorem dX5_set1_9 : decode cX5_set1 9 = .ok (.invokevirtual 155, 3) := dk_182 0 155 (dk_at dksX5_set1_0 9 rfl rfl)
theorem dX5_set1_12 : decode cX5_set1 12 = .ok (.ireturn, 1) := dk_172 (dk_at dksX5_set1_0 12 rfl rfl)
abbrev cX5_of : ByteArray := prog_22_method_24_code
def yX5_of : MethodName := ⟨RX5, "of", "(II)I"⟩
def dkwX5_of_1 : List UInt8 := [153, 0, 12, 42, 27, 28, 182, 0, 165, 167, 0, 6, 17, 252, 24, 172]
abbrev dktX5_of_1 : List UInt8 := dkwX5_of_1 ++ []
def dkwX5_of_0 : List UInt8 := [42, 3, 181, 0, 149, 42, 27, 182, 0, 207, 153, 0, 24, 28, 133, 9, 20, 0, 213, 184, 0, 159]
abbrev dktX5_of_0 : List UInt8 := dkwX5_of_0 ++ dktX5_of_1
theorem dksX5_of_0 : cX5_of.data.toList.drop 0 = dktX5_of_0 := by decide +kernel
theorem dksX5_of_1 : cX5_of.data.toList.drop 22 = dktX5_of_1 := dk_seg dksX5_of_0 22 rfl rfl
theorem dX5_of_0 : decode cX5_of 0 = .ok (.aload_n 0, 1) := dk_42 (dk_at dksX5_of_0 0 rfl rfl)
theorem dX5_of_1 : decode cX5_of 1 = .ok (.iconst 0, 1) := dk_3 (dk_at dksX5_of_0 1 rfl rfl)
theorem dX5_of_2 : decode cX5_of 2 = .ok (.putfield 149, 3) := dk_181 0 149 (dk_at dksX5_of_0 2 rfl rfl)
theorem dX5_of_5 : decode cX5_of 5 = .ok (.aload_n 0, 1) := dk_42 (dk_at dksX5_of_0 5 rfl rfl)
theorem dX5_of_6 : decode cX5_of 6 = .ok (.iload_n 1, 1) := dk_27 (dk_at dksX5_of_0 6 rfl rfl)
theorem dX5_of_7 : decode cX5_of 7 = .ok (.invokevirtual 207, 3) := dk_182 0 207 (dk_at dksX5_of_0 7 rfl rfl)
theorem dX5_of_10 : decode cX5_of 10 = .ok (.ifCond .eq 24, 3) := dk_153 0 24 (dk_at dksX5_of_0 10 rfl rfl)
theorem dX5_of_13 : decode cX5_of 13 = .ok (.iload_n 2, 1) := dk_28 (dk_at dksX5_of_0 13 rfl rfl)
theorem dX5_of_14 : decode cX5_of 14 = .ok (.i2l, 1) := dk_133 (dk_at dksX5_of_0 14 rfl rfl)
theorem dX5_of_15 : decode cX5_of 15 = .ok (.lconst 0, 1) := dk_9 (dk_at dksX5_of_0 15 rfl rfl)
theorem dX5_of_16 : decode cX5_of 16 = .ok (.ldc2_w 213, 3) := dk_20 0 213 (dk_at dksX5_of_0 16 rfl rfl)
theorem dX5_of_19 : decode cX5_of 19 = .ok (.invokestatic 159, 3) := dk_184 0 159 (dk_at dksX5_of_0 19 rfl rfl)
theorem dX5_of_22 : decode cX5_of 22 = .ok (.ifCond .eq 12, 3) := dk_153 0 12 (dk_at dksX5_of_1 0 rfl rfl)
theorem dX5_of_25 : decode cX5_of 25 = .ok (.aload_n 0, 1) := dk_42 (dk_at dksX5_of_1 3 rfl rfl)
theorem dX5_of_26 : decode cX5_of 26 = .ok (.iload_n 1, 1) := dk_27 (dk_at dksX5_of_1 4 rfl rfl)
theorem dX5_of_27 : decode cX5_of 27 = .ok (.iload_n 2, 1) := dk_28 (dk_at dksX5_of_1 5 rfl rfl)
theorem dX5_of_28 : decode cX5_of 28 = .ok (.invokevirtual 165, 3) := dk_182 0 165 (dk_at dksX5_of_1 6 rfl rfl)
theorem dX5_of_31 : decode cX5_of 31 = .ok (.goto 6, 3) := dk_167 0 6 (dk_at dksX5_of_1 9 rfl rfl)
theorem dX5_of_34 : decode cX5_of 34 = .ok (.sipush (-1000), 3) := dk_17 252 24 (dk_at dksX5_of_1 12 rfl rfl)
theorem dX5_of_37 : decode cX5_of 37 = .ok (.ireturn, 1) := dk_172 (dk_at dksX5_of_1 15 rfl rfl)
abbrev cX5_terms : ByteArray := prog_22_method_26_code
def yX5_terms : MethodName := ⟨RX5, "terms", "(II)I"⟩
def dkwX5_terms_1 : List UInt8 := [42, 2, 182, 0, 155, 172]
abbrev dktX5_terms_1 : List UInt8 := dkwX5_terms_1 ++ []
def dkwX5_terms_0 : List UInt8 := [42, 3, 181, 0, 149, 27, 28, 184, 0, 223, 153, 0, 14, 42, 7, 27, 96, 28, 182, 0, 210, 167, 0, 8]
abbrev dktX5_terms_0 : List UInt8 := dkwX5_terms_0 ++ dktX5_terms_1
theorem dksX5_terms_0 : cX5_terms.data.toList.drop 0 = dktX5_terms_0 := by decide +kernel
theorem dksX5_terms_1 : cX5_terms.data.toList.drop 24 = dktX5_terms_1 := dk_seg dksX5_terms_0 24 rfl rfl
theorem dX5_terms_0 : decode cX5_terms 0 = .ok (.aload_n 0, 1) := dk_42 (dk_at dksX5_terms_0 0 rfl rfl)
theorem dX5_terms_1 : decode cX5_terms 1 = .ok (.iconst 0, 1) := dk_3 (dk_at dksX5_terms_0 1 rfl rfl)
theorem dX5_terms_2 : decode cX5_terms 2 = .ok (.putfield 149, 3) := dk_181 0 149 (dk_at dksX5_terms_0 2 rfl rfl)
theorem dX5_terms_5 : decode cX5_terms 5 = .ok (.iload_n 1, 1) := dk_27 (dk_at dksX5_terms_0 5 rfl rfl)
theorem dX5_terms_6 : decode cX5_terms 6 = .ok (.iload_n 2, 1) := dk_28 (dk_at dksX5_terms_0 6 rfl rfl)
theorem dX5_terms_7 : decode cX5_terms 7 = .ok (.invokestatic 223, 3) := dk_184 0 223 (dk_at dksX5_terms_0 7 rfl rfl)
theorem dX5_terms_10 : decode cX5_terms 10 = .ok (.ifCond .eq 14, 3) := dk_153 0 14 (dk_at dksX5_terms_0 10 rfl rfl)
theorem dX5_terms_13 : decode cX5_terms 13 = .ok (.aload_n 0, 1) := dk_42 (dk_at dksX5_terms_0 13 rfl rfl)
theorem dX5_terms_14 : decode cX5_terms 14 = .ok (.iconst 4, 1) := dk_7 (dk_at dksX5_terms_0 14 rfl rfl)
theorem dX5_terms_15 : decode cX5_terms 15 = .ok (.iload_n 1, 1) := dk_27 (dk_at dksX5_terms_0 15 rfl rfl)
theorem dX5_terms_16 : decode cX5_terms 16 = .ok (.iadd, 1) := dk_96 (dk_at dksX5_terms_0 16 rfl rfl)
theorem dX5_terms_17 : decode cX5_terms 17 = .ok (.iload_n 2, 1) := dk_28 (dk_at dksX5_terms_0 17 rfl rfl)
theorem dX5_terms_18 : decode cX5_terms 18 = .ok (.invokevirtual 210, 3) := dk_182 0 210 (dk_at dksX5_terms_0 18 rfl rfl)
theorem dX5_terms_21 : decode cX5_terms 21 = .ok (.goto 8, 3) := dk_167 0 8 (dk_at dksX5_terms_0 21 rfl rfl)
theorem dX5_terms_24 : decode cX5_terms 24 = .ok (.aload_n 0, 1) := dk_42 (dk_at dksX5_terms_1 0 rfl rfl)
theorem dX5_terms_25 : decode cX5_terms 25 = .ok (.iconst (-1), 1) := dk_2 (dk_at dksX5_terms_1 1 rfl rfl)
theorem dX5_terms_26 : decode cX5_terms 26 = .ok (.invokevirtual 155, 3) := dk_182 0 155 (dk_at dksX5_terms_1 2 rfl rfl)
theorem dX5_terms_29 : decode cX5_terms 29 = .ok (.ireturn, 1) := dk_172 (dk_at dksX5_terms_1 5 rfl rfl)
abbrev cX5_isTerm : ByteArray := prog_22_method_25_code
def yX5_isTerm : MethodName := ⟨RX5, "isTerm", "(II)Z"⟩
def dkwX5_isTerm_6 : List UInt8 := [184, 0, 159, 172, 3, 172]
abbrev dktX5_isTerm_6 : List UInt8 := dkwX5_isTerm_6 ++ []
def dkwX5_isTerm_5 : List UInt8 := [20, 0, 163, 184, 0, 159, 172, 27, 133, 10, 20, 0, 191, 184, 0, 159, 172, 27, 133, 9, 20, 0, 191]
abbrev dktX5_isTerm_5 : List UInt8 := dkwX5_isTerm_5 ++ dktX5_isTerm_6
def dkwX5_isTerm_4 : List UInt8 := [20, 0, 215, 184, 0, 159, 172, 27, 133, 9, 20, 0, 219, 184, 0, 159, 172, 27, 133, 20, 0, 221]
abbrev dktX5_isTerm_4 : List UInt8 := dkwX5_isTerm_4 ++ dktX5_isTerm_5
def dkwX5_isTerm_3 : List UInt8 := [10, 20, 0, 191, 184, 0, 159, 172, 27, 133, 20, 0, 219, 20, 0, 187, 184, 0, 159, 172, 27, 133, 9]
abbrev dktX5_isTerm_3 : List UInt8 := dkwX5_isTerm_3 ++ dktX5_isTerm_4
def dkwX5_isTerm_2 : List UInt8 := [27, 133, 10, 20, 0, 215, 184, 0, 159, 172, 27, 133, 20, 0, 217, 20, 0, 219, 184, 0, 159, 172, 27, 133]
abbrev dktX5_isTerm_2 : List UInt8 := dkwX5_isTerm_2 ++ dktX5_isTerm_3
def dkwX5_isTerm_1 : List UInt8 := [170, 0, 0, 0, 0, 0, 147, 0, 0, 0, 0, 0, 0, 0, 8, 0, 0, 0, 51, 0, 0, 0, 61, 0, 0, 0, 73, 0, 0, 0, 83, 0, 0, 0, 95, 0, 0, 0, 105, 0, 0, 0, 115, 0, 0, 0, 127, 0, 0, 0, 137]
abbrev dktX5_isTerm_1 : List UInt8 := dkwX5_isTerm_1 ++ dktX5_isTerm_2
def dkwX5_isTerm_0 : List UInt8 := [26]
abbrev dktX5_isTerm_0 : List UInt8 := dkwX5_isTerm_0 ++ dktX5_isTerm_1
theorem dksX5_isTerm_0 : cX5_isTerm.data.toList.drop 0 = dktX5_isTerm_0 := by decide +kernel
theorem dksX5_isTerm_1 : cX5_isTerm.data.toList.drop 1 = dktX5_isTerm_1 := dk_seg dksX5_isTerm_0 1 rfl rfl
theorem dksX5_isTerm_2 : cX5_isTerm.data.toList.drop 52 = dktX5_isTerm_2 := dk_seg dksX5_isTerm_1 51 rfl rfl
theorem dksX5_isTerm_3 : cX5_isTerm.data.toList.drop 76 = dktX5_isTerm_3 := dk_seg dksX5_isTerm_2 24 rfl rfl
theorem dksX5_isTerm_4 : cX5_isTerm.data.toList.drop 99 = dktX5_isTerm_4 := dk_seg dksX5_isTerm_3 23 rfl rfl
theorem dksX5_isTerm_5 : cX5_isTerm.data.toList.drop 121 = dktX5_isTerm_5 := dk_seg dksX5_isTerm_4 22 rfl rfl
theorem dksX5_isTerm_6 : cX5_isTerm.data.toList.drop 144 = dktX5_isTerm_6 := dk_seg dksX5_isTerm_5 23 rfl rfl
theorem dX5_isTerm_0 : decode cX5_isTerm 0 = .ok (.iload_n 0, 1) := dk_26 (dk_at dksX5_isTerm_0 0 rfl rfl)
theorem dX5_isTerm_1 : decode cX5_isTerm 1 = .ok (.tableswitch 147 0 8 #[51, 61, 73, 83, 95, 105, 115, 127, 137], 51) := by decide +kernel
theorem dX5_isTerm_52 : decode cX5_isTerm 52 = .ok (.iload_n 1, 1) := dk_27 (dk_at dksX5_isTerm_2 0 rfl rfl)
theorem dX5_isTerm_53 : decode cX5_isTerm 53 = .ok (.i2l, 1) := dk_133 (dk_at dksX5_isTerm_2 1 rfl rfl)
theorem dX5_isTerm_54 : decode cX5_isTerm 54 = .ok (.lconst 1, 1) := dk_10 (dk_at dksX5_isTerm_2 2 rfl rfl)
theorem dX5_isTerm_55 : decode cX5_isTerm 55 = .ok (.ldc2_w 215, 3) := dk_20 0 215 (dk_at dksX5_isTerm_2 3 rfl rfl)
theorem dX5_isTerm_58 : decode cX5_isTerm 58 = .ok (.invokestatic 159, 3) := dk_184 0 159 (dk_at dksX5_isTerm_2 6 rfl rfl)
theorem dX5_isTerm_61 : decode cX5_isTerm 61 = .ok (.ireturn, 1) := dk_172 (dk_at dksX5_isTerm_2 9 rfl rfl)
theorem dX5_isTerm_62 : decode cX5_isTerm 62 = .ok (.iload_n 1, 1) := dk_27 (dk_at dksX5_isTerm_2 10 rfl rfl)
theorem dX5_isTerm_63 : decode cX5_isTerm 63 = .ok (.i2l, 1) := dk_133 (dk_at dksX5_isTerm_2 11 rfl rfl)
theorem dX5_isTerm_64 : decode cX5_isTerm 64 = .ok (.ldc2_w 217, 3) := dk_20 0 217 (dk_at dksX5_isTerm_2 12 rfl rfl)
theorem dX5_isTerm_67 : decode cX5_isTerm 67 = .ok (.ldc2_w 219, 3) := dk_20 0 219 (dk_at dksX5_isTerm_2 15 rfl rfl)
theorem dX5_isTerm_70 : decode cX5_isTerm 70 = .ok (.invokestatic 159, 3) := dk_184 0 159 (dk_at dksX5_isTerm_2 18 rfl rfl)
theorem dX5_isTerm_73 : decode cX5_isTerm 73 = .ok (.ireturn, 1) := dk_172 (dk_at dksX5_isTerm_2 21 rfl rfl)
theorem dX5_isTerm_74 : decode cX5_isTerm 74 = .ok (.iload_n 1, 1) := dk_27 (dk_at dksX5_isTerm_2 22 rfl rfl)
theorem dX5_isTerm_75 : decode cX5_isTerm 75 = .ok (.i2l, 1) := dk_133 (dk_at dksX5_isTerm_2 23 rfl rfl)
theorem dX5_isTerm_76 : decode cX5_isTerm 76 = .ok (.lconst 1, 1) := dk_10 (dk_at dksX5_isTerm_3 0 rfl rfl)
theorem dX5_isTerm_77 : decode cX5_isTerm 77 = .ok (.ldc2_w 191, 3) := dk_20 0 191 (dk_at dksX5_isTerm_3 1 rfl rfl)
theorem dX5_isTerm_80 : decode cX5_isTerm 80 = .ok (.invokestatic 159, 3) := dk_184 0 159 (dk_at dksX5_isTerm_3 4 rfl rfl)
theorem dX5_isTerm_83 : decode cX5_isTerm 83 = .ok (.ireturn, 1) := dk_172 (dk_at dksX5_isTerm_3 7 rfl rfl)
theorem dX5_isTerm_84 : decode cX5_isTerm 84 = .ok (.iload_n 1, 1) := dk_27 (dk_at dksX5_isTerm_3 8 rfl rfl)
theorem dX5_isTerm_85 : decode cX5_isTerm 85 = .ok (.i2l, 1) := dk_133 (dk_at dksX5_isTerm_3 9 rfl rfl)
theorem dX5_isTerm_86 : decode cX5_isTerm 86 = .ok (.ldc2_w 219, 3) := dk_20 0 219 (dk_at dksX5_isTerm_3 10 rfl rfl)
theorem dX5_isTerm_89 : decode cX5_isTerm 89 = .ok (.ldc2_w 187, 3) := dk_20 0 187 (dk_at dksX5_isTerm_3 13 rfl rfl)
theorem dX5_isTerm_92 : decode cX5_isTerm 92 = .ok (.invokestatic 159, 3) := dk_184 0 159 (dk_at dksX5_isTerm_3 16 rfl rfl)
theorem dX5_isTerm_95 : decode cX5_isTerm 95 = .ok (.ireturn, 1) := dk_172 (dk_at dksX5_isTerm_3 19 rfl rfl)
theorem dX5_isTerm_96 : decode cX5_isTerm 96 = .ok (.iload_n 1, 1) := dk_27 (dk_at dksX5_isTerm_3 20 rfl rfl)
theorem dX5_isTerm_97 : decode cX5_isTerm 97 = .ok (.i2l, 1) := dk_133 (dk_at dksX5_isTerm_3 21 rfl rfl)
theorem dX5_isTerm_98 : decode cX5_isTerm 98 = .ok (.lconst 0, 1) := dk_9 (dk_at dksX5_isTerm_3 22 rfl rfl)
theorem dX5_isTerm_99 : decode cX5_isTerm 99 = .ok (.ldc2_w 215, 3) := dk_20 0 215 (dk_at dksX5_isTerm_4 0 rfl rfl)
theorem dX5_isTerm_102 : decode cX5_isTerm 102 = .ok (.invokestatic 159, 3) := dk_184 0 159 (dk_at dksX5_isTerm_4 3 rfl rfl)
theorem dX5_isTerm_105 : decode cX5_isTerm 105 = .ok (.ireturn, 1) := dk_172 (dk_at dksX5_isTerm_4 6 rfl rfl)
theorem dX5_isTerm_106 : decode cX5_isTerm 106 = .ok (.iload_n 1, 1) := dk_27 (dk_at dksX5_isTerm_4 7 rfl rfl)
theorem dX5_isTerm_107 : decode cX5_isTerm 107 = .ok (.i2l, 1) := dk_133 (dk_at dksX5_isTerm_4 8 rfl rfl)
theorem dX5_isTerm_108 : decode cX5_isTerm 108 = .ok (.lconst 0, 1) := dk_9 (dk_at dksX5_isTerm_4 9 rfl rfl)
theorem dX5_isTerm_109 : decode cX5_isTerm 109 = .ok (.ldc2_w 219, 3) := dk_20 0 219 (dk_at dksX5_isTerm_4 10 rfl rfl)
theorem dX5_isTerm_112 : decode cX5_isTerm 112 = .ok (.invokestatic 159, 3) := dk_184 0 159 (dk_at dksX5_isTerm_4 13 rfl rfl)
theorem dX5_isTerm_115 : decode cX5_isTerm 115 = .ok (.ireturn, 1) := dk_172 (dk_at dksX5_isTerm_4 16 rfl rfl)
theorem dX5_isTerm_116 : decode cX5_isTerm 116 = .ok (.iload_n 1, 1) := dk_27 (dk_at dksX5_isTerm_4 17 rfl rfl)
theorem dX5_isTerm_117 : decode cX5_isTerm 117 = .ok (.i2l, 1) := dk_133 (dk_at dksX5_isTerm_4 18 rfl rfl)
theorem dX5_isTerm_118 : decode cX5_isTerm 118 = .ok (.ldc2_w 221, 3) := dk_20 0 221 (dk_at dksX5_isTerm_4 19 rfl rfl)
theorem dX5_isTerm_121 : decode cX5_isTerm 121 = .ok (.ldc2_w 163, 3) := dk_20 0 163 (dk_at dksX5_isTerm_5 0 rfl rfl)
theorem dX5_isTerm_124 : decode cX5_isTerm 124 = .ok (.invokestatic 159, 3) := dk_184 0 159 (dk_at dksX5_isTerm_5 3 rfl rfl)
theorem dX5_isTerm_127 : decode cX5_isTerm 127 = .ok (.ireturn, 1) := dk_172 (dk_at dksX5_isTerm_5 6 rfl rfl)
theorem dX5_isTerm_128 : decode cX5_isTerm 128 = .ok (.iload_n 1, 1) := dk_27 (dk_at dksX5_isTerm_5 7 rfl rfl)
theorem dX5_isTerm_129 : decode cX5_isTerm 129 = .ok (.i2l, 1) := dk_133 (dk_at dksX5_isTerm_5 8 rfl rfl)
theorem dX5_isTerm_130 : decode cX5_isTerm 130 = .ok (.lconst 1, 1) := dk_10 (dk_at dksX5_isTerm_5 9 rfl rfl)
theorem dX5_isTerm_131 : decode cX5_isTerm 131 = .ok (.ldc2_w 191, 3) := dk_20 0 191 (dk_at dksX5_isTerm_5 10 rfl rfl)
theorem dX5_isTerm_134 : decode cX5_isTerm 134 = .ok (.invokestatic 159, 3) := dk_184 0 159 (dk_at dksX5_isTerm_5 13 rfl rfl)
theorem dX5_isTerm_137 : decode cX5_isTerm 137 = .ok (.ireturn, 1) := dk_172 (dk_at dksX5_isTerm_5 16 rfl rfl)
theorem dX5_isTerm_138 : decode cX5_isTerm 138 = .ok (.iload_n 1, 1) := dk_27 (dk_at dksX5_isTerm_5 17 rfl rfl)
theorem dX5_isTerm_139 : decode cX5_isTerm 139 = .ok (.i2l, 1) := dk_133 (dk_at dksX5_isTerm_5 18 rfl rfl)
theorem dX5_isTerm_140 : decode cX5_isTerm 140 = .ok (.lconst 0, 1) := dk_9 (dk_at dksX5_isTerm_5 19 rfl rfl)
theorem dX5_isTerm_141 : decode cX5_isTerm 141 = .ok (.ldc2_w 191, 3) := dk_20 0 191 (dk_at dksX5_isTerm_5 20 rfl rfl)
theorem dX5_isTerm_144 : decode cX5_isTerm 144 = .ok (.invokestatic 159, 3) := dk_184 0 159 (dk_at dksX5_isTerm_6 0 rfl rfl)
theorem dX5_isTerm_147 : decode cX5_isTerm 147 = .ok (.ireturn, 1) := dk_172 (dk_at dksX5_isTerm_6 3 rfl rfl)
theorem dX5_isTerm_148 : decode cX5_isTerm 148 = .ok (.iconst 0, 1) := dk_3 (dk_at dksX5_isTerm_6 4 rfl rfl)
theorem dX5_isTerm_149 : decode cX5_isTerm 149 = .ok (.ireturn, 1) := dk_172 (dk_at dksX5_isTerm_6 5 rfl rfl)
abbrev cX5_row : ByteArray := prog_22_method_27_code
def yX5_row : MethodName := ⟨RX5, "row", "()I"⟩
def dkwX5_row_4 : List UInt8 := [180, 0, 230, 4, 96, 181, 0, 230, 132, 3, 4, 167, 255, 188, 42, 28, 182, 0, 204, 172]
abbrev dktX5_row_4 : List UInt8 := dkwX5_row_4 ++ []
def dkwX5_row_3 : List UInt8 := [96, 46, 42, 180, 0, 38, 29, 6, 96, 46, 182, 0, 200, 155, 0, 9, 132, 2, 1, 167, 0, 13, 42, 89]
abbrev dktX5_row_3 : List UInt8 := dkwX5_row_3 ++ dktX5_row_4
def dkwX5_row_2 : List UInt8 := [162, 0, 46, 42, 42, 180, 0, 38, 29, 46, 42, 180, 0, 38, 29, 4, 96, 46, 42, 180, 0, 38, 29, 5]
abbrev dktX5_row_2 : List UInt8 := dkwX5_row_2 ++ dktX5_row_3
def dkwX5_row_1 : List UInt8 := [182, 0, 155, 172, 42, 3, 181, 0, 230, 3, 61, 3, 62, 29, 27, 162, 0, 69, 29, 6, 96, 27]
abbrev dktX5_row_1 : List UInt8 := dkwX5_row_1 ++ dktX5_row_2
def dkwX5_row_0 : List UInt8 := [42, 3, 181, 0, 149, 42, 180, 0, 227, 60, 42, 3, 181, 0, 227, 27, 154, 0, 10, 42, 16, 250]
abbrev dktX5_row_0 : List UInt8 := dkwX5_row_0 ++ dktX5_row_1
theorem dksX5_row_0 : cX5_row.data.toList.drop 0 = dktX5_row_0 := by decide +kernel
theorem dksX5_row_1 : cX5_row.data.toList.drop 22 = dktX5_row_1 := dk_seg dksX5_row_0 22 rfl rfl
theorem dksX5_row_2 : cX5_row.data.toList.drop 44 = dktX5_row_2 := dk_seg dksX5_row_1 22 rfl rfl
theorem dksX5_row_3 : cX5_row.data.toList.drop 68 = dktX5_row_3 := dk_seg dksX5_row_2 24 rfl rfl
theorem dksX5_row_4 : cX5_row.data.toList.drop 92 = dktX5_row_4 := dk_seg dksX5_row_3 24 rfl rfl
theorem dX5_row_0 : decode cX5_row 0 = .ok (.aload_n 0, 1) := dk_42 (dk_at dksX5_row_0 0 rfl rfl)
theorem dX5_row_1 : decode cX5_row 1 = .ok (.iconst 0, 1) := dk_3 (dk_at dksX5_row_0 1 rfl rfl)
theorem dX5_row_2 : decode cX5_row 2 = .ok (.putfield 149, 3) := dk_181 0 149 (dk_at dksX5_row_0 2 rfl rfl)
theorem dX5_row_5 : decode cX5_row 5 = .ok (.aload_n 0, 1) := dk_42 (dk_at dksX5_row_0 5 rfl rfl)
theorem dX5_row_6 : decode cX5_row 6 = .ok (.getfield 227, 3) := dk_180 0 227 (dk_at dksX5_row_0 6 rfl rfl)
theorem dX5_row_9 : decode cX5_row 9 = .ok (.istore_n 1, 1) := dk_60 (dk_at dksX5_row_0 9 rfl rfl)
theorem dX5_row_10 : decode cX5_row 10 = .ok (.aload_n 0, 1) := dk_42 (dk_at dksX5_row_0 10 rfl rfl)
theorem dX5_row_11 : decode cX5_row 11 = .ok (.iconst 0, 1) := dk_3 (dk_at dksX5_row_0 11 rfl rfl)
theorem dX5_row_12 : decode cX5_row 12 = .ok (.putfield 227, 3) := dk_181 0 227 (dk_at dksX5_row_0 12 rfl rfl)
theorem dX5_row_15 : decode cX5_row 15 = .ok (.iload_n 1, 1) := dk_27 (dk_at dksX5_row_0 15 rfl rfl)
theorem dX5_row_16 : decode cX5_row 16 = .ok (.ifCond .ne 10, 3) := dk_154 0 10 (dk_at dksX5_row_0 16 rfl rfl)
theorem dX5_row_19 : decode cX5_row 19 = .ok (.aload_n 0, 1) := dk_42 (dk_at dksX5_row_0 19 rfl rfl)
theorem dX5_row_20 : decode cX5_row 20 = .ok (.bipush (-6), 2) := dk_16 250 (dk_at dksX5_row_0 20 rfl rfl)
theorem dX5_row_22 : decode cX5_row 22 = .ok (.invokevirtual 155, 3) := dk_182 0 155 (dk_at dksX5_row_1 0 rfl rfl)
theorem dX5_row_25 : decode cX5_row 25 = .ok (.ireturn, 1) := dk_172 (dk_at dksX5_row_1 3 rfl rfl)
theorem dX5_row_26 : decode cX5_row 26 = .ok (.aload_n 0, 1) := dk_42 (dk_at dksX5_row_1 4 rfl rfl)
theorem dX5_row_27 : decode cX5_row 27 = .ok (.iconst 0, 1) := dk_3 (dk_at dksX5_row_1 5 rfl rfl)
theorem dX5_row_28 : decode cX5_row 28 = .ok (.putfield 230, 3) := dk_181 0 230 (dk_at dksX5_row_1 6 rfl rfl)
theorem dX5_row_31 : decode cX5_row 31 = .ok (.iconst 0, 1) := dk_3 (dk_at dksX5_row_1 9 rfl rfl)
theorem dX5_row_32 : decode cX5_row 32 = .ok (.istore_n 2, 1) := dk_61 (dk_at dksX5_row_1 10 rfl rfl)
theorem dX5_row_33 : decode cX5_row 33 = .ok (.iconst 0, 1) := dk_3 (dk_at dksX5_row_1 11 rfl rfl)
theorem dX5_row_34 : decode cX5_row 34 = .ok (.istore_n 3, 1) := dk_62 (dk_at dksX5_row_1 12 rfl rfl)
theorem dX5_row_35 : decode cX5_row 35 = .ok (.iload_n 3, 1) := dk_29 (dk_at dksX5_row_1 13 rfl rfl)
theorem dX5_row_36 : decode cX5_row 36 = .ok (.iload_n 1, 1) := dk_27 (dk_at dksX5_row_1 14 rfl rfl)
theorem dX5_row_37 : decode cX5_row 37 = .ok (.if_icmp .ge 69, 3) := dk_162 0 69 (dk_at dksX5_row_1 15 rfl rfl)
theorem dX5_row_40 : decode cX5_row 40 = .ok (.iload_n 3, 1) := dk_29 (dk_at dksX5_row_1 18 rfl rfl)
theorem dX5_row_41 : decode cX5_row 41 = .ok (.iconst 3, 1) := dk_6 (dk_at dksX5_row_1 19 rfl rfl)
theorem dX5_row_42 : decode cX5_row 42 = .ok (.iadd, 1) := dk_96 (dk_at dksX5_row_1 20 rfl rfl)
theorem dX5_row_43 : decode cX5_row 43 = .ok (.iload_n 1, 1) := dk_27 (dk_at dksX5_row_1 21 rfl rfl)
theorem dX5_row_44 : decode cX5_row 44 = .ok (.if_icmp .ge 46, 3) := dk_162 0 46 (dk_at dksX5_row_2 0 rfl rfl)
theorem dX5_row_47 : decode cX5_row 47 = .ok (.aload_n 0, 1) := dk_42 (dk_at dksX5_row_2 3 rfl rfl)
theorem dX5_row_48 : decode cX5_row 48 = .ok (.aload_n 0, 1) := dk_42 (dk_at dksX5_row_2 4 rfl rfl)
theorem dX5_row_49 : decode cX5_row 49 = .ok (.getfield 38, 3) := dk_180 0 38 (dk_at dksX5_row_2 5 rfl rfl)
theorem dX5_row_52 : decode cX5_row 52 = .ok (.iload_n 3, 1) := dk_29 (dk_at dksX5_row_2 8 rfl rfl)
theorem dX5_row_53 : decode cX5_row 53 = .ok (.iaload, 1) := dk_46 (dk_at dksX5_row_2 9 rfl rfl)
theorem dX5_row_54 : decode cX5_row 54 = .ok (.aload_n 0, 1) := dk_42 (dk_at dksX5_row_2 10 rfl rfl)
theorem dX5_row_55 : decode cX5_row 55 = .ok (.getfield 38, 3) := dk_180 0 38 (dk_at dksX5_row_2 11 rfl rfl)
theorem dX5_row_58 : decode cX5_row 58 = .ok (.iload_n 3, 1) := dk_29 (dk_at dksX5_row_2 14 rfl rfl)
theorem dX5_row_59 : decode cX5_row 59 = .ok (.iconst 1, 1) := dk_4 (dk_at dksX5_row_2 15 rfl rfl)
theorem dX5_row_60 : decode cX5_row 60 = .ok (.iadd, 1) := dk_96 (dk_at dksX5_row_2 16 rfl rfl)
theorem dX5_row_61 : decode cX5_row 61 = .ok (.iaload, 1) := dk_46 (dk_at dksX5_row_2 17 rfl rfl)
theorem dX5_row_62 : decode cX5_row 62 = .ok (.aload_n 0, 1) := dk_42 (dk_at dksX5_row_2 18 rfl rfl)
theorem dX5_row_63 : decode cX5_row 63 = .ok (.getfield 38, 3) := dk_180 0 38 (dk_at dksX5_row_2 19 rfl rfl)
theorem dX5_row_66 : decode cX5_row 66 = .ok (.iload_n 3, 1) := dk_29 (dk_at dksX5_row_2 22 rfl rfl)
theorem dX5_row_67 : decode cX5_row 67 = .ok (.iconst 2, 1) := dk_5 (dk_at dksX5_row_2 23 rfl rfl)
theorem dX5_row_68 : decode cX5_row 68 = .ok (.iadd, 1) := dk_96 (dk_at dksX5_row_3 0 rfl rfl)
theorem dX5_row_69 : decode cX5_row 69 = .ok (.iaload, 1) := dk_46 (dk_at dksX5_row_3 1 rfl rfl)
theorem dX5_row_70 : decode cX5_row 70 = .ok (.aload_n 0, 1) := dk_42 (dk_at dksX5_row_3 2 rfl rfl)
theorem dX5_row_71 : decode cX5_row 71 = .ok (.getfield 38, 3) := dk_180 0 38 (dk_at dksX5_row_3 3 rfl rfl)
theorem dX5_row_74 : decode cX5_row 74 = .ok (.iload_n 3, 1) := dk_29 (dk_at dksX5_row_3 6 rfl rfl)
theorem dX5_row_75 : decode cX5_row 75 = .ok (.iconst 3, 1) := dk_6 (dk_at dksX5_row_3 7 rfl rfl)
theorem dX5_row_76 : decode cX5_row 76 = .ok (.iadd, 1) := dk_96 (dk_at dksX5_row_3 8 rfl rfl)
theorem dX5_row_77 : decode cX5_row 77 = .ok (.iaload, 1) := dk_46 (dk_at dksX5_row_3 9 rfl rfl)
theorem dX5_row_78 : decode cX5_row 78 = .ok (.invokevirtual 200, 3) := dk_182 0 200 (dk_at dksX5_row_3 10 rfl rfl)
theorem dX5_row_81 : decode cX5_row 81 = .ok (.ifCond .lt 9, 3) := dk_155 0 9 (dk_at dksX5_row_3 13 rfl rfl)
theorem dX5_row_84 : decode cX5_row 84 = .ok (.iinc 2 1, 3) := dk_132 2 1 (dk_at dksX5_row_3 16 rfl rfl)
theorem dX5_row_87 : decode cX5_row 87 = .ok (.goto 13, 3) := dk_167 0 13 (dk_at dksX5_row_3 19 rfl rfl)
theorem dX5_row_90 : decode cX5_row 90 = .ok (.aload_n 0, 1) := dk_42 (dk_at dksX5_row_3 22 rfl rfl)
theorem dX5_row_91 : decode cX5_row 91 = .ok (.dup, 1) := dk_89 (dk_at dksX5_row_3 23 rfl rfl)
theorem dX5_row_92 : decode cX5_row 92 = .ok (.getfield 230, 3) := dk_180 0 230 (dk_at dksX5_row_4 0 rfl rfl)
theorem dX5_row_95 : decode cX5_row 95 = .ok (.iconst 1, 1) := dk_4 (dk_at dksX5_row_4 3 rfl rfl)
theorem dX5_row_96 : decode cX5_row 96 = .ok (.iadd, 1) := dk_96 (dk_at dksX5_row_4 4 rfl rfl)
theorem dX5_row_97 : decode cX5_row 97 = .ok (.putfield 230, 3) := dk_181 0 230 (dk_at dksX5_row_4 5 rfl rfl)
theorem dX5_row_100 : decode cX5_row 100 = .ok (.iinc 3 4, 3) := dk_132 3 4 (dk_at dksX5_row_4 8 rfl rfl)
theorem dX5_row_103 : decode cX5_row 103 = .ok (.goto (-68), 3) := dk_167 255 188 (dk_at dksX5_row_4 11 rfl rfl)
theorem dX5_row_106 : decode cX5_row 106 = .ok (.aload_n 0, 1) := dk_42 (dk_at dksX5_row_4 14 rfl rfl)
theorem dX5_row_107 : decode cX5_row 107 = .ok (.iload_n 2, 1) := dk_28 (dk_at dksX5_row_4 15 rfl rfl)
theorem dX5_row_108 : decode cX5_row 108 = .ok (.invokevirtual 204, 3) := dk_182 0 204 (dk_at dksX5_row_4 16 rfl rfl)
theorem dX5_row_111 : decode cX5_row 111 = .ok (.ireturn, 1) := dk_172 (dk_at dksX5_row_4 19 rfl rfl)
abbrev cX5_rice : ByteArray := prog_22_method_28_code
def yX5_rice : MethodName := ⟨RX5, "rice", "()I"⟩
def dkwX5_rice_0 : List UInt8 := [42, 3, 181, 0, 149, 42, 180, 0, 230, 172]
abbrev dktX5_rice_0 : List UInt8 := dkwX5_rice_0 ++ []
theorem dksX5_rice_0 : cX5_rice.data.toList.drop 0 = dktX5_rice_0 := by decide +kernel
theorem dX5_rice_0 : decode cX5_rice 0 = .ok (.aload_n 0, 1) := dk_42 (dk_at dksX5_rice_0 0 rfl rfl)
theorem dX5_rice_1 : decode cX5_rice 1 = .ok (.iconst 0, 1) := dk_3 (dk_at dksX5_rice_0 1 rfl rfl)
theorem dX5_rice_2 : decode cX5_rice 2 = .ok (.putfield 149, 3) := dk_181 0 149 (dk_at dksX5_rice_0 2 rfl rfl)
theorem dX5_rice_5 : decode cX5_rice 5 = .ok (.aload_n 0, 1) := dk_42 (dk_at dksX5_rice_0 5 rfl rfl)
theorem dX5_rice_6 : decode cX5_rice 6 = .ok (.getfield 230, 3) := dk_180 0 230 (dk_at dksX5_rice_0 6 rfl rfl)
theorem dX5_rice_9 : decode cX5_rice 9 = .ok (.ireturn, 1) := dk_172 (dk_at dksX5_rice_0 9 rfl rfl)
abbrev cX5_feed : ByteArray := prog_22_method_30_code
def yX5_feed : MethodName := ⟨RX5, "feed", "(IIIII)I"⟩
def dkwX5_feed_2 : List UInt8 := [182, 0, 233, 42, 180, 0, 227, 172]
abbrev dktX5_feed_2 : List UInt8 := dkwX5_feed_2 ++ []
def dkwX5_feed_1 : List UInt8 := [182, 0, 233, 42, 28, 182, 0, 233, 42, 29, 182, 0, 233, 42, 21, 4, 182, 0, 233, 42, 21, 5]
abbrev dktX5_feed_1 : List UInt8 := dkwX5_feed_1 ++ dktX5_feed_2
def dkwX5_feed_0 : List UInt8 := [42, 3, 181, 0, 149, 42, 180, 0, 227, 16, 20, 96, 17, 1, 144, 164, 0, 5, 2, 172, 42, 27]
abbrev dktX5_feed_0 : List UInt8 := dkwX5_feed_0 ++ dktX5_feed_1
theorem dksX5_feed_0 : cX5_feed.data.toList.drop 0 = dktX5_feed_0 := by decide +kernel
theorem dksX5_feed_1 : cX5_feed.data.toList.drop 22 = dktX5_feed_1 := dk_seg dksX5_feed_0 22 rfl rfl
theorem dksX5_feed_2 : cX5_feed.data.toList.drop 44 = dktX5_feed_2 := dk_seg dksX5_feed_1 22 rfl rfl
theorem dX5_feed_0 : decode cX5_feed 0 = .ok (.aload_n 0, 1) := dk_42 (dk_at dksX5_feed_0 0 rfl rfl)
theorem dX5_feed_1 : decode cX5_feed 1 = .ok (.iconst 0, 1) := dk_3 (dk_at dksX5_feed_0 1 rfl rfl)
theorem dX5_feed_2 : decode cX5_feed 2 = .ok (.putfield 149, 3) := dk_181 0 149 (dk_at dksX5_feed_0 2 rfl rfl)
theorem dX5_feed_5 : decode cX5_feed 5 = .ok (.aload_n 0, 1) := dk_42 (dk_at dksX5_feed_0 5 rfl rfl)
theorem dX5_feed_6 : decode cX5_feed 6 = .ok (.getfield 227, 3) := dk_180 0 227 (dk_at dksX5_feed_0 6 rfl rfl)
theorem dX5_feed_9 : decode cX5_feed 9 = .ok (.bipush 20, 2) := dk_16 20 (dk_at dksX5_feed_0 9 rfl rfl)
theorem dX5_feed_11 : decode cX5_feed 11 = .ok (.iadd, 1) := dk_96 (dk_at dksX5_feed_0 11 rfl rfl)
theorem dX5_feed_12 : decode cX5_feed 12 = .ok (.sipush 400, 3) := dk_17 1 144 (dk_at dksX5_feed_0 12 rfl rfl)
theorem dX5_feed_15 : decode cX5_feed 15 = .ok (.if_icmp .le 5, 3) := dk_164 0 5 (dk_at dksX5_feed_0 15 rfl rfl)
theorem dX5_feed_18 : decode cX5_feed 18 = .ok (.iconst (-1), 1) := dk_2 (dk_at dksX5_feed_0 18 rfl rfl)
theorem dX5_feed_19 : decode cX5_feed 19 = .ok (.ireturn, 1) := dk_172 (dk_at dksX5_feed_0 19 rfl rfl)
theorem dX5_feed_20 : decode cX5_feed 20 = .ok (.aload_n 0, 1) := dk_42 (dk_at dksX5_feed_0 20 rfl rfl)
theorem dX5_feed_21 : decode cX5_feed 21 = .ok (.iload_n 1, 1) := dk_27 (dk_at dksX5_feed_0 21 rfl rfl)
theorem dX5_feed_22 : decode cX5_feed 22 = .ok (.invokevirtual 233, 3) := dk_182 0 233 (dk_at dksX5_feed_1 0 rfl rfl)
theorem dX5_feed_25 : decode cX5_feed 25 = .ok (.aload_n 0, 1) := dk_42 (dk_at dksX5_feed_1 3 rfl rfl)
theorem dX5_feed_26 : decode cX5_feed 26 = .ok (.iload_n 2, 1) := dk_28 (dk_at dksX5_feed_1 4 rfl rfl)
theorem dX5_feed_27 : decode cX5_feed 27 = .ok (.invokevirtual 233, 3) := dk_182 0 233 (dk_at dksX5_feed_1 5 rfl rfl)
theorem dX5_feed_30 : decode cX5_feed 30 = .ok (.aload_n 0, 1) := dk_42 (dk_at dksX5_feed_1 8 rfl rfl)
theorem dX5_feed_31 : decode cX5_feed 31 = .ok (.iload_n 3, 1) := dk_29 (dk_at dksX5_feed_1 9 rfl rfl)
theorem dX5_feed_32 : decode cX5_feed 32 = .ok (.invokevirtual 233, 3) := dk_182 0 233 (dk_at dksX5_feed_1 10 rfl rfl)
theorem dX5_feed_35 : decode cX5_feed 35 = .ok (.aload_n 0, 1) := dk_42 (dk_at dksX5_feed_1 13 rfl rfl)
theorem dX5_feed_36 : decode cX5_feed 36 = .ok (.iload 4, 2) := dk_21 4 (dk_at dksX5_feed_1 14 rfl rfl)
theorem dX5_feed_38 : decode cX5_feed 38 = .ok (.invokevirtual 233, 3) := dk_182 0 233 (dk_at dksX5_feed_1 16 rfl rfl)
theorem dX5_feed_41 : decode cX5_feed 41 = .ok (.aload_n 0, 1) := dk_42 (dk_at dksX5_feed_1 19 rfl rfl)
theorem dX5_feed_42 : decode cX5_feed 42 = .ok (.iload 5, 2) := dk_21 5 (dk_at dksX5_feed_1 20 rfl rfl)
theorem dX5_feed_44 : decode cX5_feed 44 = .ok (.invokevirtual 233, 3) := dk_182 0 233 (dk_at dksX5_feed_2 0 rfl rfl)
theorem dX5_feed_47 : decode cX5_feed 47 = .ok (.aload_n 0, 1) := dk_42 (dk_at dksX5_feed_2 3 rfl rfl)
theorem dX5_feed_48 : decode cX5_feed 48 = .ok (.getfield 227, 3) := dk_180 0 227 (dk_at dksX5_feed_2 4 rfl rfl)
theorem dX5_feed_51 : decode cX5_feed 51 = .ok (.ireturn, 1) := dk_172 (dk_at dksX5_feed_2 7 rfl rfl)
abbrev cX5_four : ByteArray := prog_22_method_29_code
def yX5_four : MethodName := ⟨RX5, "four", "(I)V"⟩
def dkwX5_four_1 : List UInt8 := [89, 180, 0, 227, 4, 96, 181, 0, 227, 132, 2, 248, 167, 255, 223, 177]
abbrev dktX5_four_1 : List UInt8 := dkwX5_four_1 ++ []
def dkwX5_four_0 : List UInt8 := [16, 24, 61, 28, 155, 0, 35, 42, 180, 0, 38, 42, 180, 0, 227, 27, 28, 122, 17, 0, 255, 126, 79, 42]
abbrev dktX5_four_0 : List UInt8 := dkwX5_four_0 ++ dktX5_four_1
theorem dksX5_four_0 : cX5_four.data.toList.drop 0 = dktX5_four_0 := by decide +kernel
theorem dksX5_four_1 : cX5_four.data.toList.drop 24 = dktX5_four_1 := dk_seg dksX5_four_0 24 rfl rfl
theorem dX5_four_0 : decode cX5_four 0 = .ok (.bipush 24, 2) := dk_16 24 (dk_at dksX5_four_0 0 rfl rfl)
theorem dX5_four_2 : decode cX5_four 2 = .ok (.istore_n 2, 1) := dk_61 (dk_at dksX5_four_0 2 rfl rfl)
theorem dX5_four_3 : decode cX5_four 3 = .ok (.iload_n 2, 1) := dk_28 (dk_at dksX5_four_0 3 rfl rfl)
theorem dX5_four_4 : decode cX5_four 4 = .ok (.ifCond .lt 35, 3) := dk_155 0 35 (dk_at dksX5_four_0 4 rfl rfl)
theorem dX5_four_7 : decode cX5_four 7 = .ok (.aload_n 0, 1) := dk_42 (dk_at dksX5_four_0 7 rfl rfl)
theorem dX5_four_8 : decode cX5_four 8 = .ok (.getfield 38, 3) := dk_180 0 38 (dk_at dksX5_four_0 8 rfl rfl)
theorem dX5_four_11 : decode cX5_four 11 = .ok (.aload_n 0, 1) := dk_42 (dk_at dksX5_four_0 11 rfl rfl)
theorem dX5_four_12 : decode cX5_four 12 = .ok (.getfield 227, 3) := dk_180 0 227 (dk_at dksX5_four_0 12 rfl rfl)
theorem dX5_four_15 : decode cX5_four 15 = .ok (.iload_n 1, 1) := dk_27 (dk_at dksX5_four_0 15 rfl rfl)
theorem dX5_four_16 : decode cX5_four 16 = .ok (.iload_n 2, 1) := dk_28 (dk_at dksX5_four_0 16 rfl rfl)
theorem dX5_four_17 : decode cX5_four 17 = .ok (.ishr, 1) := dk_122 (dk_at dksX5_four_0 17 rfl rfl)
theorem dX5_four_18 : decode cX5_four 18 = .ok (.sipush 255, 3) := dk_17 0 255 (dk_at dksX5_four_0 18 rfl rfl)
theorem dX5_four_21 : decode cX5_four 21 = .ok (.iand, 1) := dk_126 (dk_at dksX5_four_0 21 rfl rfl)
theorem dX5_four_22 : decode cX5_four 22 = .ok (.iastore, 1) := dk_79 (dk_at dksX5_four_0 22 rfl rfl)
theorem dX5_four_23 : decode cX5_four 23 = .ok (.aload_n 0, 1) := dk_42 (dk_at dksX5_four_0 23 rfl rfl)
theorem dX5_four_24 : decode cX5_four 24 = .ok (.dup, 1) := dk_89 (dk_at dksX5_four_1 0 rfl rfl)
theorem dX5_four_25 : decode cX5_four 25 = .ok (.getfield 227, 3) := dk_180 0 227 (dk_at dksX5_four_1 1 rfl rfl)
theorem dX5_four_28 : decode cX5_four 28 = .ok (.iconst 1, 1) := dk_4 (dk_at dksX5_four_1 4 rfl rfl)
theorem dX5_four_29 : decode cX5_four 29 = .ok (.iadd, 1) := dk_96 (dk_at dksX5_four_1 5 rfl rfl)
theorem dX5_four_30 : decode cX5_four 30 = .ok (.putfield 227, 3) := dk_181 0 227 (dk_at dksX5_four_1 6 rfl rfl)
theorem dX5_four_33 : decode cX5_four 33 = .ok (.iinc 2 (-8), 3) := dk_132 2 248 (dk_at dksX5_four_1 9 rfl rfl)
theorem dX5_four_36 : decode cX5_four 36 = .ok (.goto (-33), 3) := dk_167 255 223 (dk_at dksX5_four_1 12 rfl rfl)
theorem dX5_four_39 : decode cX5_four 39 = .ok (.return_, 1) := dk_177 (dk_at dksX5_four_1 15 rfl rfl)
abbrev cX5_end : ByteArray := prog_22_method_31_code
def yX5_end : MethodName := ⟨RX5, "end", "(I)I"⟩
def dkwX5_end_1 : List UInt8 := [27, 172]
abbrev dktX5_end_1 : List UInt8 := dkwX5_end_1 ++ []
def dkwX5_end_0 : List UInt8 := [42, 3, 181, 0, 149, 27, 155, 0, 11, 27, 42, 180, 0, 227, 164, 0, 5, 2, 172, 42, 27, 181, 0, 227]
abbrev dktX5_end_0 : List UInt8 := dkwX5_end_0 ++ dktX5_end_1
theorem dksX5_end_0 : cX5_end.data.toList.drop 0 = dktX5_end_0 := by decide +kernel
theorem dksX5_end_1 : cX5_end.data.toList.drop 24 = dktX5_end_1 := dk_seg dksX5_end_0 24 rfl rfl
theorem dX5_end_0 : decode cX5_end 0 = .ok (.aload_n 0, 1) := dk_42 (dk_at dksX5_end_0 0 rfl rfl)
theorem dX5_end_1 : decode cX5_end 1 = .ok (.iconst 0, 1) := dk_3 (dk_at dksX5_end_0 1 rfl rfl)
theorem dX5_end_2 : decode cX5_end 2 = .ok (.putfield 149, 3) := dk_181 0 149 (dk_at dksX5_end_0 2 rfl rfl)
theorem dX5_end_5 : decode cX5_end 5 = .ok (.iload_n 1, 1) := dk_27 (dk_at dksX5_end_0 5 rfl rfl)
theorem dX5_end_6 : decode cX5_end 6 = .ok (.ifCond .lt 11, 3) := dk_155 0 11 (dk_at dksX5_end_0 6 rfl rfl)
theorem dX5_end_9 : decode cX5_end 9 = .ok (.iload_n 1, 1) := dk_27 (dk_at dksX5_end_0 9 rfl rfl)
theorem dX5_end_10 : decode cX5_end 10 = .ok (.aload_n 0, 1) := dk_42 (dk_at dksX5_end_0 10 rfl rfl)
theorem dX5_end_11 : decode cX5_end 11 = .ok (.getfield 227, 3) := dk_180 0 227 (dk_at dksX5_end_0 11 rfl rfl)
theorem dX5_end_14 : decode cX5_end 14 = .ok (.if_icmp .le 5, 3) := dk_164 0 5 (dk_at dksX5_end_0 14 rfl rfl)
theorem dX5_end_17 : decode cX5_end 17 = .ok (.iconst (-1), 1) := dk_2 (dk_at dksX5_end_0 17 rfl rfl)
theorem dX5_end_18 : decode cX5_end 18 = .ok (.ireturn, 1) := dk_172 (dk_at dksX5_end_0 18 rfl rfl)
theorem dX5_end_19 : decode cX5_end 19 = .ok (.aload_n 0, 1) := dk_42 (dk_at dksX5_end_0 19 rfl rfl)
theorem dX5_end_20 : decode cX5_end 20 = .ok (.iload_n 1, 1) := dk_27 (dk_at dksX5_end_0 20 rfl rfl)
theorem dX5_end_21 : decode cX5_end 21 = .ok (.putfield 227, 3) := dk_181 0 227 (dk_at dksX5_end_0 21 rfl rfl)
theorem dX5_end_24 : decode cX5_end 24 = .ok (.iload_n 1, 1) := dk_27 (dk_at dksX5_end_1 0 rfl rfl)
theorem dX5_end_25 : decode cX5_end 25 = .ok (.ireturn, 1) := dk_172 (dk_at dksX5_end_1 1 rfl rfl)
abbrev cX5_fault : ByteArray := prog_22_method_40_code
def yX5_fault : MethodName := ⟨RX5, "fault", "()I"⟩
def dkwX5_fault_0 : List UInt8 := [42, 3, 181, 0, 149, 42, 180, 0, 41, 172]
abbrev dktX5_fault_0 : List UInt8 := dkwX5_fault_0 ++ []
theorem dksX5_fault_0 : cX5_fault.data.toList.drop 0 = dktX5_fault_0 := by decide +kernel
theorem dX5_fault_0 : decode cX5_fault 0 = .ok (.aload_n 0, 1) := dk_42 (dk_at dksX5_fault_0 0 rfl rfl)
theorem dX5_fault_1 : decode cX5_fault 1 = .ok (.iconst 0, 1) := dk_3 (dk_at dksX5_fault_0 1 rfl rfl)
theorem dX5_fault_2 : decode cX5_fault 2 = .ok (.putfield 149, 3) := dk_181 0 149 (dk_at dksX5_fault_0 2 rfl rfl)
theorem dX5_fault_5 : decode cX5_fault 5 = .ok (.aload_n 0, 1) := dk_42 (dk_at dksX5_fault_0 5 rfl rfl)
theorem dX5_fault_6 : decode cX5_fault 6 = .ok (.getfield 41, 3) := dk_180 0 41 (dk_at dksX5_fault_0 6 rfl rfl)
theorem dX5_fault_9 : decode cX5_fault 9 = .ok (.ireturn, 1) := dk_172 (dk_at dksX5_fault_0 9 rfl rfl)
abbrev cX5_law : ByteArray := prog_22_method_59_code
def yX5_law : MethodName := ⟨RX5, "law", "()I"⟩
def dkwX5_law_9 : List UInt8 := [180, 0, 13, 5, 46, 4, 100, 182, 0, 155, 172]
abbrev dktX5_law_9 : List UInt8 := dkwX5_law_9 ++ []
def dkwX5_law_8 : List UInt8 := [180, 0, 51, 28, 46, 79, 132, 2, 1, 167, 255, 205, 42, 180, 0, 13, 5, 92, 46, 4, 96, 79, 42, 42]
abbrev dktX5_law_8 : List UInt8 := dkwX5_law_8 ++ dktX5_law_9
def dkwX5_law_7 : List UInt8 := [96, 42, 180, 0, 48, 28, 46, 79, 42, 180, 0, 13, 27, 16, 98, 96, 5, 28, 104, 96, 4, 96, 42]
abbrev dktX5_law_7 : List UInt8 := dkwX5_law_7 ++ dktX5_law_8
def dkwX5_law_6 : List UInt8 := [167, 255, 226, 3, 61, 28, 42, 180, 1, 20, 162, 0, 49, 42, 180, 0, 13, 27, 16, 98, 96, 5, 28, 104]
abbrev dktX5_law_6 : List UInt8 := dkwX5_law_6 ++ dktX5_law_7
def dkwX5_law_5 : List UInt8 := [104, 162, 0, 25, 42, 180, 0, 13, 27, 5, 96, 28, 96, 42, 180, 0, 45, 28, 46, 79, 132, 2, 1]
abbrev dktX5_law_5 : List UInt8 := dkwX5_law_5 ++ dktX5_law_6
def dkwX5_law_4 : List UInt8 := [104, 96, 60, 42, 180, 0, 13, 27, 4, 96, 42, 180, 1, 107, 79, 3, 61, 28, 16, 8, 42, 180, 1, 107]
abbrev dktX5_law_4 : List UInt8 := dkwX5_law_4 ++ dktX5_law_5
def dkwX5_law_3 : List UInt8 := [180, 0, 239, 153, 0, 10, 42, 16, 250, 182, 0, 155, 172, 16, 60, 17, 3, 132, 42, 180, 0, 13, 5, 46]
abbrev dktX5_law_3 : List UInt8 := dkwX5_law_3 ++ dktX5_law_4
def dkwX5_law_2 : List UInt8 := [182, 1, 49, 153, 0, 14, 42, 182, 0, 243, 42, 182, 1, 118, 167, 255, 232, 42, 182, 1, 121, 42]
abbrev dktX5_law_2 : List UInt8 := dkwX5_law_2 ++ dktX5_law_3
def dkwX5_law_1 : List UInt8 := [182, 0, 155, 172, 42, 3, 182, 1, 115, 42, 182, 1, 118, 42, 180, 0, 239, 154, 0, 23, 42, 16, 59]
abbrev dktX5_law_1 : List UInt8 := dkwX5_law_1 ++ dktX5_law_2
def dkwX5_law_0 : List UInt8 := [42, 3, 181, 0, 149, 42, 180, 0, 13, 5, 46, 16, 6, 160, 0, 15, 42, 3, 181, 0, 227, 42, 16, 251]
abbrev dktX5_law_0 : List UInt8 := dkwX5_law_0 ++ dktX5_law_1
theorem dksX5_law_0 : cX5_law.data.toList.drop 0 = dktX5_law_0 := by decide +kernel
theorem dksX5_law_1 : cX5_law.data.toList.drop 24 = dktX5_law_1 := dk_seg dksX5_law_0 24 rfl rfl
theorem dksX5_law_2 : cX5_law.data.toList.drop 47 = dktX5_law_2 := dk_seg dksX5_law_1 23 rfl rfl
theorem dksX5_law_3 : cX5_law.data.toList.drop 69 = dktX5_law_3 := dk_seg dksX5_law_2 22 rfl rfl
theorem dksX5_law_4 : cX5_law.data.toList.drop 93 = dktX5_law_4 := dk_seg dksX5_law_3 24 rfl rfl
theorem dksX5_law_5 : cX5_law.data.toList.drop 117 = dktX5_law_5 := dk_seg dksX5_law_4 24 rfl rfl
theorem dksX5_law_6 : cX5_law.data.toList.drop 140 = dktX5_law_6 := dk_seg dksX5_law_5 23 rfl rfl
theorem dksX5_law_7 : cX5_law.data.toList.drop 164 = dktX5_law_7 := dk_seg dksX5_law_6 24 rfl rfl
theorem dksX5_law_8 : cX5_law.data.toList.drop 187 = dktX5_law_8 := dk_seg dksX5_law_7 23 rfl rfl
theorem dksX5_law_9 : cX5_law.data.toList.drop 211 = dktX5_law_9 := dk_seg dksX5_law_8 24 rfl rfl
theorem dX5_law_0 : decode cX5_law 0 = .ok (.aload_n 0, 1) := dk_42 (dk_at dksX5_law_0 0 rfl rfl)
theorem dX5_law_1 : decode cX5_law 1 = .ok (.iconst 0, 1) := dk_3 (dk_at dksX5_law_0 1 rfl rfl)
theorem dX5_law_2 : decode cX5_law 2 = .ok (.putfield 149, 3) := dk_181 0 149 (dk_at dksX5_law_0 2 rfl rfl)
theorem dX5_law_5 : decode cX5_law 5 = .ok (.aload_n 0, 1) := dk_42 (dk_at dksX5_law_0 5 rfl rfl)
theorem dX5_law_6 : decode cX5_law 6 = .ok (.getfield 13, 3) := dk_180 0 13 (dk_at dksX5_law_0 6 rfl rfl)
theorem dX5_law_9 : decode cX5_law 9 = .ok (.iconst 2, 1) := dk_5 (dk_at dksX5_law_0 9 rfl rfl)
theorem dX5_law_10 : decode cX5_law 10 = .ok (.iaload, 1) := dk_46 (dk_at dksX5_law_0 10 rfl rfl)
theorem dX5_law_11 : decode cX5_law 11 = .ok (.bipush 6, 2) := dk_16 6 (dk_at dksX5_law_0 11 rfl rfl)
theorem dX5_law_13 : decode cX5_law 13 = .ok (.if_icmp .ne 15, 3) := dk_160 0 15 (dk_at dksX5_law_0 13 rfl rfl)
theorem dX5_law_16 : decode cX5_law 16 = .ok (.aload_n 0, 1) := dk_42 (dk_at dksX5_law_0 16 rfl rfl)
theorem dX5_law_17 : decode cX5_law 17 = .ok (.iconst 0, 1) := dk_3 (dk_at dksX5_law_0 17 rfl rfl)
theorem dX5_law_18 : decode cX5_law 18 = .ok (.putfield 227, 3) := dk_181 0 227 (dk_at dksX5_law_0 18 rfl rfl)
theorem dX5_law_21 : decode cX5_law 21 = .ok (.aload_n 0, 1) := dk_42 (dk_at dksX5_law_0 21 rfl rfl)
theorem dX5_law_22 : decode cX5_law 22 = .ok (.bipush (-5), 2) := dk_16 251 (dk_at dksX5_law_0 22 rfl rfl)
theorem dX5_law_24 : decode cX5_law 24 = .ok (.invokevirtual 155, 3) := dk_182 0 155 (dk_at dksX5_law_1 0 rfl rfl)
theorem dX5_law_27 : decode cX5_law 27 = .ok (.ireturn, 1) := dk_172 (dk_at dksX5_law_1 3 rfl rfl)
theorem dX5_law_28 : decode cX5_law 28 = .ok (.aload_n 0, 1) := dk_42 (dk_at dksX5_law_1 4 rfl rfl)
theorem dX5_law_29 : decode cX5_law 29 = .ok (.iconst 0, 1) := dk_3 (dk_at dksX5_law_1 5 rfl rfl)
theorem dX5_law_30 : decode cX5_law 30 = .ok (.invokevirtual 371, 3) := dk_182 1 115 (dk_at dksX5_law_1 6 rfl rfl)
theorem dX5_law_33 : decode cX5_law 33 = .ok (.aload_n 0, 1) := dk_42 (dk_at dksX5_law_1 9 rfl rfl)
theorem dX5_law_34 : decode cX5_law 34 = .ok (.invokevirtual 374, 3) := dk_182 1 118 (dk_at dksX5_law_1 10 rfl rfl)
theorem dX5_law_37 : decode cX5_law 37 = .ok (.aload_n 0, 1) := dk_42 (dk_at dksX5_law_1 13 rfl rfl)
theorem dX5_law_38 : decode cX5_law 38 = .ok (.getfield 239, 3) := dk_180 0 239 (dk_at dksX5_law_1 14 rfl rfl)
theorem dX5_law_41 : decode cX5_law 41 = .ok (.ifCond .ne 23, 3) := dk_154 0 23 (dk_at dksX5_law_1 17 rfl rfl)
theorem dX5_law_44 : decode cX5_law 44 = .ok (.aload_n 0, 1) := dk_42 (dk_at dksX5_law_1 20 rfl rfl)
theorem dX5_law_45 : decode cX5_law 45 = .ok (.bipush 59, 2) := dk_16 59 (dk_at dksX5_law_1 21 rfl rfl)
theorem dX5_law_47 : decode cX5_law 47 = .ok (.invokevirtual 305, 3) := dk_182 1 49 (dk_at dksX5_law_2 0 rfl rfl)
theorem dX5_law_50 : decode cX5_law 50 = .ok (.ifCond .eq 14, 3) := dk_153 0 14 (dk_at dksX5_law_2 3 rfl rfl)
theorem dX5_law_53 : decode cX5_law 53 = .ok (.aload_n 0, 1) := dk_42 (dk_at dksX5_law_2 6 rfl rfl)
theorem dX5_law_54 : decode cX5_law 54 = .ok (.invokevirtual 243, 3) := dk_182 0 243 (dk_at dksX5_law_2 7 rfl rfl)
theorem dX5_law_57 : decode cX5_law 57 = .ok (.aload_n 0, 1) := dk_42 (dk_at dksX5_law_2 10 rfl rfl)
theorem dX5_law_58 : decode cX5_law 58 = .ok (.invokevirtual 374, 3) := dk_182 1 118 (dk_at dksX5_law_2 11 rfl rfl)
theorem dX5_law_61 : decode cX5_law 61 = .ok (.goto (-24), 3) := dk_167 255 232 (dk_at dksX5_law_2 14 rfl rfl)
theorem dX5_law_64 : decode cX5_law 64 = .ok (.aload_n 0, 1) := dk_42 (dk_at dksX5_law_2 17 rfl rfl)
theorem dX5_law_65 : decode cX5_law 65 = .ok (.invokevirtual 377, 3) := dk_182 1 121 (dk_at dksX5_law_2 18 rfl rfl)
theorem dX5_law_68 : decode cX5_law 68 = .ok (.aload_n 0, 1) := dk_42 (dk_at dksX5_law_2 21 rfl rfl)
theorem dX5_law_69 : decode cX5_law 69 = .ok (.getfield 239, 3) := dk_180 0 239 (dk_at dksX5_law_3 0 rfl rfl)
theorem dX5_law_72 : decode cX5_law 72 = .ok (.ifCond .eq 10, 3) := dk_153 0 10 (dk_at dksX5_law_3 3 rfl rfl)
theorem dX5_law_75 : decode cX5_law 75 = .ok (.aload_n 0, 1) := dk_42 (dk_at dksX5_law_3 6 rfl rfl)
theorem dX5_law_76 : decode cX5_law 76 = .ok (.bipush (-6), 2) := dk_16 250 (dk_at dksX5_law_3 7 rfl rfl)
theorem dX5_law_78 : decode cX5_law 78 = .ok (.invokevirtual 155, 3) := dk_182 0 155 (dk_at dksX5_law_3 9 rfl rfl)
theorem dX5_law_81 : decode cX5_law 81 = .ok (.ireturn, 1) := dk_172 (dk_at dksX5_law_3 12 rfl rfl)
theorem dX5_law_82 : decode cX5_law 82 = .ok (.bipush 60, 2) := dk_16 60 (dk_at dksX5_law_3 13 rfl rfl)
theorem dX5_law_84 : decode cX5_law 84 = .ok (.sipush 900, 3) := dk_17 3 132 (dk_at dksX5_law_3 15 rfl rfl)
theorem dX5_law_87 : decode cX5_law 87 = .ok (.aload_n 0, 1) := dk_42 (dk_at dksX5_law_3 18 rfl rfl)
theorem dX5_law_88 : decode cX5_law 88 = .ok (.getfield 13, 3) := dk_180 0 13 (dk_at dksX5_law_3 19 rfl rfl)
theorem dX5_law_91 : decode cX5_law 91 = .ok (.iconst 2, 1) := dk_5 (dk_at dksX5_law_3 22 rfl rfl)
theorem dX5_law_92 : decode cX5_law 92 = .ok (.iaload, 1) := dk_46 (dk_at dksX5_law_3 23 rfl rfl)
theorem dX5_law_93 : decode cX5_law 93 = .ok (.imul, 1) := dk_104 (dk_at dksX5_law_4 0 rfl rfl)
theorem dX5_law_94 : decode cX5_law 94 = .ok (.iadd, 1) := dk_96 (dk_at dksX5_law_4 1 rfl rfl)
theorem dX5_law_95 : decode cX5_law 95 = .ok (.istore_n 1, 1) := dk_60 (dk_at dksX5_law_4 2 rfl rfl)
theorem dX5_law_96 : decode cX5_law 96 = .ok (.aload_n 0, 1) := dk_42 (dk_at dksX5_law_4 3 rfl rfl)
theorem dX5_law_97 : decode cX5_law 97 = .ok (.getfield 13, 3) := dk_180 0 13 (dk_at dksX5_law_4 4 rfl rfl)
theorem dX5_law_100 : decode cX5_law 100 = .ok (.iload_n 1, 1) := dk_27 (dk_at dksX5_law_4 7 rfl rfl)
theorem dX5_law_101 : decode cX5_law 101 = .ok (.iconst 1, 1) := dk_4 (dk_at dksX5_law_4 8 rfl rfl)
theorem dX5_law_102 : decode cX5_law 102 = .ok (.iadd, 1) := dk_96 (dk_at dksX5_law_4 9 rfl rfl)
theorem dX5_law_103 : decode cX5_law 103 = .ok (.aload_n 0, 1) := dk_42 (dk_at dksX5_law_4 10 rfl rfl)
theorem dX5_law_104 : decode cX5_law 104 = .ok (.getfield 363, 3) := dk_180 1 107 (dk_at dksX5_law_4 11 rfl rfl)
theorem dX5_law_107 : decode cX5_law 107 = .ok (.iastore, 1) := dk_79 (dk_at dksX5_law_4 14 rfl rfl)
theorem dX5_law_108 : decode cX5_law 108 = .ok (.iconst 0, 1) := dk_3 (dk_at dksX5_law_4 15 rfl rfl)
theorem dX5_law_109 : decode cX5_law 109 = .ok (.istore_n 2, 1) := dk_61 (dk_at dksX5_law_4 16 rfl rfl)
theorem dX5_law_110 : decode cX5_law 110 = .ok (.iload_n 2, 1) := dk_28 (dk_at dksX5_law_4 17 rfl rfl)
theorem dX5_law_111 : decode cX5_law 111 = .ok (.bipush 8, 2) := dk_16 8 (dk_at dksX5_law_4 18 rfl rfl)
theorem dX5_law_113 : decode cX5_law 113 = .ok (.aload_n 0, 1) := dk_42 (dk_at dksX5_law_4 20 rfl rfl)
theorem dX5_law_114 : decode cX5_law 114 = .ok (.getfield 363, 3) := dk_180 1 107 (dk_at dksX5_law_4 21 rfl rfl)
theorem dX5_law_117 : decode cX5_law 117 = .ok (.imul, 1) := dk_104 (dk_at dksX5_law_5 0 rfl rfl)
theorem dX5_law_118 : decode cX5_law 118 = .ok (.if_icmp .ge 25, 3) := dk_162 0 25 (dk_at dksX5_law_5 1 rfl rfl)
theorem dX5_law_121 : decode cX5_law 121 = .ok (.aload_n 0, 1) := dk_42 (dk_at dksX5_law_5 4 rfl rfl)
theorem dX5_law_122 : decode cX5_law 122 = .ok (.getfield 13, 3) := dk_180 0 13 (dk_at dksX5_law_5 5 rfl rfl)
theorem dX5_law_125 : decode cX5_law 125 = .ok (.iload_n 1, 1) := dk_27 (dk_at dksX5_law_5 8 rfl rfl)
theorem dX5_law_126 : decode cX5_law 126 = .ok (.iconst 2, 1) := dk_5 (dk_at dksX5_law_5 9 rfl rfl)
theorem dX5_law_127 : decode cX5_law 127 = .ok (.iadd, 1) := dk_96 (dk_at dksX5_law_5 10 rfl rfl)
theorem dX5_law_128 : decode cX5_law 128 = .ok (.iload_n 2, 1) := dk_28 (dk_at dksX5_law_5 11 rfl rfl)
theorem dX5_law_129 : decode cX5_law 129 = .ok (.iadd, 1) := dk_96 (dk_at dksX5_law_5 12 rfl rfl)
theorem dX5_law_130 : decode cX5_law 130 = .ok (.aload_n 0, 1) := dk_42 (dk_at dksX5_law_5 13 rfl rfl)
theorem dX5_law_131 : decode cX5_law 131 = .ok (.getfield 45, 3) := dk_180 0 45 (dk_at dksX5_law_5 14 rfl rfl)
theorem dX5_law_134 : decode cX5_law 134 = .ok (.iload_n 2, 1) := dk_28 (dk_at dksX5_law_5 17 rfl rfl)
theorem dX5_law_135 : decode cX5_law 135 = .ok (.iaload, 1) := dk_46 (dk_at dksX5_law_5 18 rfl rfl)
theorem dX5_law_136 : decode cX5_law 136 = .ok (.iastore, 1) := dk_79 (dk_at dksX5_law_5 19 rfl rfl)
theorem dX5_law_137 : decode cX5_law 137 = .ok (.iinc 2 1, 3) := dk_132 2 1 (dk_at dksX5_law_5 20 rfl rfl)
theorem dX5_law_140 : decode cX5_law 140 = .ok (.goto (-30), 3) := dk_167 255 226 (dk_at dksX5_law_6 0 rfl rfl)
theorem dX5_law_143 : decode cX5_law 143 = .ok (.iconst 0, 1) := dk_3 (dk_at dksX5_law_6 3 rfl rfl)
theorem dX5_law_144 : decode cX5_law 144 = .ok (.istore_n 2, 1) := dk_61 (dk_at dksX5_law_6 4 rfl rfl)
theorem dX5_law_145 : decode cX5_law 145 = .ok (.iload_n 2, 1) := dk_28 (dk_at dksX5_law_6 5 rfl rfl)
theorem dX5_law_146 : decode cX5_law 146 = .ok (.aload_n 0, 1) := dk_42 (dk_at dksX5_law_6 6 rfl rfl)
theorem dX5_law_147 : decode cX5_law 147 = .ok (.getfield 276, 3) := dk_180 1 20 (dk_at dksX5_law_6 7 rfl rfl)
theorem dX5_law_150 : decode cX5_law 150 = .ok (.if_icmp .ge 49, 3) := dk_162 0 49 (dk_at dksX5_law_6 10 rfl rfl)
theorem dX5_law_153 : decode cX5_law 153 = .ok (.aload_n 0, 1) := dk_42 (dk_at dksX5_law_6 13 rfl rfl)
theorem dX5_law_154 : decode cX5_law 154 = .ok (.getfield 13, 3) := dk_180 0 13 (dk_at dksX5_law_6 14 rfl rfl)
theorem dX5_law_157 : decode cX5_law 157 = .ok (.iload_n 1, 1) := dk_27 (dk_at dksX5_law_6 17 rfl rfl)
theorem dX5_law_158 : decode cX5_law 158 = .ok (.bipush 98, 2) := dk_16 98 (dk_at dksX5_law_6 18 rfl rfl)
theorem dX5_law_160 : decode cX5_law 160 = .ok (.iadd, 1) := dk_96 (dk_at dksX5_law_6 20 rfl rfl)
theorem dX5_law_161 : decode cX5_law 161 = .ok (.iconst 2, 1) := dk_5 (dk_at dksX5_law_6 21 rfl rfl)
theorem dX5_law_162 : decode cX5_law 162 = .ok (.iload_n 2, 1) := dk_28 (dk_at dksX5_law_6 22 rfl rfl)
theorem dX5_law_163 : decode cX5_law 163 = .ok (.imul, 1) := dk_104 (dk_at dksX5_law_6 23 rfl rfl)
theorem dX5_law_164 : decode cX5_law 164 = .ok (.iadd, 1) := dk_96 (dk_at dksX5_law_7 0 rfl rfl)
theorem dX5_law_165 : decode cX5_law 165 = .ok (.aload_n 0, 1) := dk_42 (dk_at dksX5_law_7 1 rfl rfl)
theorem dX5_law_166 : decode cX5_law 166 = .ok (.getfield 48, 3) := dk_180 0 48 (dk_at dksX5_law_7 2 rfl rfl)
theorem dX5_law_169 : decode cX5_law 169 = .ok (.iload_n 2, 1) := dk_28 (dk_at dksX5_law_7 5 rfl rfl)
theorem dX5_law_170 : decode cX5_law 170 = .ok (.iaload, 1) := dk_46 (dk_at dksX5_law_7 6 rfl rfl)
theorem dX5_law_171 : decode cX5_law 171 = .ok (.iastore, 1) := dk_79 (dk_at dksX5_law_7 7 rfl rfl)
theorem dX5_law_172 : decode cX5_law 172 = .ok (.aload_n 0, 1) := dk_42 (dk_at dksX5_law_7 8 rfl rfl)
theorem dX5_law_173 : decode cX5_law 173 = .ok (.getfield 13, 3) := dk_180 0 13 (dk_at dksX5_law_7 9 rfl rfl)
theorem dX5_law_176 : decode cX5_law 176 = .ok (.iload_n 1, 1) := dk_27 (dk_at dksX5_law_7 12 rfl rfl)
theorem dX5_law_177 : decode cX5_law 177 = .ok (.bipush 98, 2) := dk_16 98 (dk_at dksX5_law_7 13 rfl rfl)
theorem dX5_law_179 : decode cX5_law 179 = .ok (.iadd, 1) := dk_96 (dk_at dksX5_law_7 15 rfl rfl)
theorem dX5_law_180 : decode cX5_law 180 = .ok (.iconst 2, 1) := dk_5 (dk_at dksX5_law_7 16 rfl rfl)
theorem dX5_law_181 : decode cX5_law 181 = .ok (.iload_n 2, 1) := dk_28 (dk_at dksX5_law_7 17 rfl rfl)
theorem dX5_law_182 : decode cX5_law 182 = .ok (.imul, 1) := dk_104 (dk_at dksX5_law_7 18 rfl rfl)
theorem dX5_law_183 : decode cX5_law 183 = .ok (.iadd, 1) := dk_96 (dk_at dksX5_law_7 19 rfl rfl)
theorem dX5_law_184 : decode cX5_law 184 = .ok (.iconst 1, 1) := dk_4 (dk_at dksX5_law_7 20 rfl rfl)
theorem dX5_law_185 : decode cX5_law 185 = .ok (.iadd, 1) := dk_96 (dk_at dksX5_law_7 21 rfl rfl)
theorem dX5_law_186 : decode cX5_law 186 = .ok (.aload_n 0, 1) := dk_42 (dk_at dksX5_law_7 22 rfl rfl)
theorem dX5_law_187 : decode cX5_law 187 = .ok (.getfield 51, 3) := dk_180 0 51 (dk_at dksX5_law_8 0 rfl rfl)
theorem dX5_law_190 : decode cX5_law 190 = .ok (.iload_n 2, 1) := dk_28 (dk_at dksX5_law_8 3 rfl rfl)
theorem dX5_law_191 : decode cX5_law 191 = .ok (.iaload, 1) := dk_46 (dk_at dksX5_law_8 4 rfl rfl)
theorem dX5_law_192 : decode cX5_law 192 = .ok (.iastore, 1) := dk_79 (dk_at dksX5_law_8 5 rfl rfl)
theorem dX5_law_193 : decode cX5_law 193 = .ok (.iinc 2 1, 3) := dk_132 2 1 (dk_at dksX5_law_8 6 rfl rfl)
theorem dX5_law_196 : decode cX5_law 196 = .ok (.goto (-51), 3) := dk_167 255 205 (dk_at dksX5_law_8 9 rfl rfl)
theorem dX5_law_199 : decode cX5_law 199 = .ok (.aload_n 0, 1) := dk_42 (dk_at dksX5_law_8 12 rfl rfl)
theorem dX5_law_200 : decode cX5_law 200 = .ok (.getfield 13, 3) := dk_180 0 13 (dk_at dksX5_law_8 13 rfl rfl)
theorem dX5_law_203 : decode cX5_law 203 = .ok (.iconst 2, 1) := dk_5 (dk_at dksX5_law_8 16 rfl rfl)
theorem dX5_law_204 : decode cX5_law 204 = .ok (.dup2, 1) := dk_92 (dk_at dksX5_law_8 17 rfl rfl)
theorem dX5_law_205 : decode cX5_law 205 = .ok (.iaload, 1) := dk_46 (dk_at dksX5_law_8 18 rfl rfl)
theorem dX5_law_206 : decode cX5_law 206 = .ok (.iconst 1, 1) := dk_4 (dk_at dksX5_law_8 19 rfl rfl)
theorem dX5_law_207 : decode cX5_law 207 = .ok (.iadd, 1) := dk_96 (dk_at dksX5_law_8 20 rfl rfl)
theorem dX5_law_208 : decode cX5_law 208 = .ok (.iastore, 1) := dk_79 (dk_at dksX5_law_8 21 rfl rfl)
theorem dX5_law_209 : decode cX5_law 209 = .ok (.aload_n 0, 1) := dk_42 (dk_at dksX5_law_8 22 rfl rfl)
theorem dX5_law_210 : decode cX5_law 210 = .ok (.aload_n 0, 1) := dk_42 (dk_at dksX5_law_8 23 rfl rfl)
theorem dX5_law_211 : decode cX5_law 211 = .ok (.getfield 13, 3) := dk_180 0 13 (dk_at dksX5_law_9 0 rfl rfl)
theorem dX5_law_214 : decode cX5_law 214 = .ok (.iconst 2, 1) := dk_5 (dk_at dksX5_law_9 3 rfl rfl)
theorem dX5_law_215 : decode cX5_law 215 = .ok (.iaload, 1) := dk_46 (dk_at dksX5_law_9 4 rfl rfl)
theorem dX5_law_216 : decode cX5_law 216 = .ok (.iconst 1, 1) := dk_4 (dk_at dksX5_law_9 5 rfl rfl)
theorem dX5_law_217 : decode cX5_law 217 = .ok (.isub, 1) := dk_100 (dk_at dksX5_law_9 6 rfl rfl)
theorem dX5_law_218 : decode cX5_law 218 = .ok (.invokevirtual 155, 3) := dk_182 0 155 (dk_at dksX5_law_9 7 rfl rfl)
theorem dX5_law_221 : decode cX5_law 221 = .ok (.ireturn, 1) := dk_172 (dk_at dksX5_law_9 10 rfl rfl)
abbrev cX5_beginText : ByteArray := prog_22_method_56_code
def yX5_beginText : MethodName := ⟨RX5, "beginText", "(Z)V"⟩
def dkwX5_beginText_1 : List UInt8 := [177]
abbrev dktX5_beginText_1 : List UInt8 := dkwX5_beginText_1 ++ []
def dkwX5_beginText_0 : List UInt8 := [42, 27, 181, 1, 55, 42, 182, 1, 104, 42, 3, 181, 1, 107, 42, 3, 181, 1, 20, 42, 3, 181, 1, 46]
abbrev dktX5_beginText_0 : List UInt8 := dkwX5_beginText_0 ++ dktX5_beginText_1
theorem dksX5_beginText_0 : cX5_beginText.data.toList.drop 0 = dktX5_beginText_0 := by decide +kernel
theorem dksX5_beginText_1 : cX5_beginText.data.toList.drop 24 = dktX5_beginText_1 := dk_seg dksX5_beginText_0 24 rfl rfl
theorem dX5_beginText_0 : decode cX5_beginText 0 = .ok (.aload_n 0, 1) := dk_42 (dk_at dksX5_beginText_0 0 rfl rfl)
theorem dX5_beginText_1 : decode cX5_beginText 1 = .ok (.iload_n 1, 1) := dk_27 (dk_at dksX5_beginText_0 1 rfl rfl)
theorem dX5_beginText_2 : decode cX5_beginText 2 = .ok (.putfield 311, 3) := dk_181 1 55 (dk_at dksX5_beginText_0 2 rfl rfl)
theorem dX5_beginText_5 : decode cX5_beginText 5 = .ok (.aload_n 0, 1) := dk_42 (dk_at dksX5_beginText_0 5 rfl rfl)
theorem dX5_beginText_6 : decode cX5_beginText 6 = .ok (.invokevirtual 360, 3) := dk_182 1 104 (dk_at dksX5_beginText_0 6 rfl rfl)
theorem dX5_beginText_9 : decode cX5_beginText 9 = .ok (.aload_n 0, 1) := dk_42 (dk_at dksX5_beginText_0 9 rfl rfl)
theorem dX5_beginText_10 : decode cX5_beginText 10 = .ok (.iconst 0, 1) := dk_3 (dk_at dksX5_beginText_0 10 rfl rfl)
theorem dX5_beginText_11 : decode cX5_beginText 11 = .ok (.putfield 363, 3) := dk_181 1 107 (dk_at dksX5_beginText_0 11 rfl rfl)
theorem dX5_beginText_14 : decode cX5_beginText 14 = .ok (.aload_n 0, 1) := dk_42 (dk_at dksX5_beginText_0 14 rfl rfl)
theorem dX5_beginText_15 : decode cX5_beginText 15 = .ok (.iconst 0, 1) := dk_3 (dk_at dksX5_beginText_0 15 rfl rfl)
theorem dX5_beginText_16 : decode cX5_beginText 16 = .ok (.putfield 276, 3) := dk_181 1 20 (dk_at dksX5_beginText_0 16 rfl rfl)
theorem dX5_beginText_19 : decode cX5_beginText 19 = .ok (.aload_n 0, 1) := dk_42 (dk_at dksX5_beginText_0 19 rfl rfl)
theorem dX5_beginText_20 : decode cX5_beginText 20 = .ok (.iconst 0, 1) := dk_3 (dk_at dksX5_beginText_0 20 rfl rfl)
theorem dX5_beginText_21 : decode cX5_beginText 21 = .ok (.putfield 302, 3) := dk_181 1 46 (dk_at dksX5_beginText_0 21 rfl rfl)
theorem dX5_beginText_24 : decode cX5_beginText 24 = .ok (.return_, 1) := dk_177 (dk_at dksX5_beginText_1 0 rfl rfl)
abbrev cX5_begin : ByteArray := prog_22_method_34_code
def yX5_begin : MethodName := ⟨RX5, "begin", "()V"⟩
def dkwX5_begin_0 : List UInt8 := [42, 3, 181, 0, 236, 42, 3, 181, 0, 239, 42, 2, 181, 0, 41, 42, 182, 0, 243, 177]
abbrev dktX5_begin_0 : List UInt8 := dkwX5_begin_0 ++ []
theorem dksX5_begin_0 : cX5_begin.data.toList.drop 0 = dktX5_begin_0 := by decide +kernel
theorem dX5_begin_0 : decode cX5_begin 0 = .ok (.aload_n 0, 1) := dk_42 (dk_at dksX5_begin_0 0 rfl rfl)
theorem dX5_begin_1 : decode cX5_begin 1 = .ok (.iconst 0, 1) := dk_3 (dk_at dksX5_begin_0 1 rfl rfl)
theorem dX5_begin_2 : decode cX5_begin 2 = .ok (.putfield 236, 3) := dk_181 0 236 (dk_at dksX5_begin_0 2 rfl rfl)
theorem dX5_begin_5 : decode cX5_begin 5 = .ok (.aload_n 0, 1) := dk_42 (dk_at dksX5_begin_0 5 rfl rfl)
theorem dX5_begin_6 : decode cX5_begin 6 = .ok (.iconst 0, 1) := dk_3 (dk_at dksX5_begin_0 6 rfl rfl)
theorem dX5_begin_7 : decode cX5_begin 7 = .ok (.putfield 239, 3) := dk_181 0 239 (dk_at dksX5_begin_0 7 rfl rfl)
theorem dX5_begin_10 : decode cX5_begin 10 = .ok (.aload_n 0, 1) := dk_42 (dk_at dksX5_begin_0 10 rfl rfl)
theorem dX5_begin_11 : decode cX5_begin 11 = .ok (.iconst (-1), 1) := dk_2 (dk_at dksX5_begin_0 11 rfl rfl)
theorem dX5_begin_12 : decode cX5_begin 12 = .ok (.putfield 41, 3) := dk_181 0 41 (dk_at dksX5_begin_0 12 rfl rfl)
theorem dX5_begin_15 : decode cX5_begin 15 = .ok (.aload_n 0, 1) := dk_42 (dk_at dksX5_begin_0 15 rfl rfl)
theorem dX5_begin_16 : decode cX5_begin 16 = .ok (.invokevirtual 243, 3) := dk_182 0 243 (dk_at dksX5_begin_0 16 rfl rfl)
theorem dX5_begin_19 : decode cX5_begin 19 = .ok (.return_, 1) := dk_177 (dk_at dksX5_begin_0 19 rfl rfl)
abbrev cX5_next : ByteArray := prog_22_method_35_code
def yX5_next : MethodName := ⟨RX5, "next", "()V"⟩
def dkwX5_next_14 : List UInt8 := [181, 0, 236, 167, 255, 167, 177]
abbrev dktX5_next_14 : List UInt8 := dkwX5_next_14 ++ []
def dkwX5_next_13 : List UInt8 := [180, 0, 38, 42, 180, 0, 236, 46, 133, 97, 20, 1, 14, 101, 181, 0, 249, 42, 89, 180, 0, 236, 4, 96]
abbrev dktX5_next_13 : List UInt8 := dkwX5_next_13 ++ dktX5_next_14
def dkwX5_next_12 : List UInt8 := [20, 1, 10, 148, 158, 0, 10, 42, 180, 0, 249, 167, 0, 26, 42, 180, 0, 249, 20, 1, 12, 105, 42]
abbrev dktX5_next_12 : List UInt8 := dkwX5_next_12 ++ dktX5_next_13
def dkwX5_next_11 : List UInt8 := [162, 0, 76, 42, 180, 0, 38, 42, 180, 0, 236, 46, 184, 1, 0, 153, 0, 61, 42, 42, 180, 0, 249]
abbrev dktX5_next_11 : List UInt8 := dkwX5_next_11 ++ dktX5_next_12
def dkwX5_next_10 : List UInt8 := [4, 96, 181, 0, 236, 167, 255, 165, 42, 180, 1, 3, 5, 160, 0, 87, 42, 180, 0, 236, 42, 180, 0, 227]
abbrev dktX5_next_10 : List UInt8 := dkwX5_next_10 ++ dktX5_next_11
def dkwX5_next_9 : List UInt8 := [180, 0, 236, 46, 133, 97, 20, 1, 8, 101, 167, 0, 6, 20, 0, 221, 181, 0, 249, 42, 89, 180, 0, 236]
abbrev dktX5_next_9 : List UInt8 := dkwX5_next_9 ++ dktX5_next_10
def dkwX5_next_8 : List UInt8 := [180, 0, 246, 100, 16, 10, 162, 0, 29, 42, 180, 0, 249, 20, 1, 6, 105, 42, 180, 0, 38, 42]
abbrev dktX5_next_8 : List UInt8 := dkwX5_next_8 ++ dktX5_next_9
def dkwX5_next_7 : List UInt8 := [162, 0, 78, 42, 180, 0, 38, 42, 180, 0, 236, 46, 184, 0, 253, 153, 0, 63, 42, 42, 180, 0, 236, 42]
abbrev dktX5_next_7 : List UInt8 := dkwX5_next_7 ++ dktX5_next_8
def dkwX5_next_6 : List UInt8 := [180, 0, 236, 4, 96, 181, 0, 236, 42, 180, 1, 3, 4, 160, 0, 89, 42, 180, 0, 236, 42, 180, 0, 227]
abbrev dktX5_next_6 : List UInt8 := dkwX5_next_6 ++ dktX5_next_7
def dkwX5_next_5 : List UInt8 := [180, 1, 3, 6, 160, 0, 27, 42, 42, 180, 0, 38, 42, 180, 0, 246, 46, 133, 181, 0, 249, 42, 89]
abbrev dktX5_next_5 : List UInt8 := dkwX5_next_5 ++ dktX5_next_6
def dkwX5_next_4 : List UInt8 := [180, 0, 38, 42, 180, 0, 246, 46, 184, 1, 0, 153, 0, 7, 5, 167, 0, 4, 6, 181, 1, 3, 42]
abbrev dktX5_next_4 : List UInt8 := dkwX5_next_4 ++ dktX5_next_5
def dkwX5_next_3 : List UInt8 := [167, 0, 42, 42, 180, 0, 38, 42, 180, 0, 246, 46, 184, 0, 253, 153, 0, 7, 4, 167, 0, 23, 42]
abbrev dktX5_next_3 : List UInt8 := dkwX5_next_3 ++ dktX5_next_4
def dkwX5_next_2 : List UInt8 := [180, 0, 246, 181, 0, 236, 42, 9, 181, 0, 249, 42, 42, 180, 0, 246, 42, 180, 0, 227, 160, 0, 7, 3]
abbrev dktX5_next_2 : List UInt8 := dkwX5_next_2 ++ dktX5_next_3
def dkwX5_next_1 : List UInt8 := [180, 0, 246, 46, 16, 32, 160, 0, 16, 42, 89, 180, 0, 246, 4, 96, 181, 0, 246, 167, 255, 221, 42, 42]
abbrev dktX5_next_1 : List UInt8 := dkwX5_next_1 ++ dktX5_next_2
def dkwX5_next_0 : List UInt8 := [42, 42, 180, 0, 236, 181, 0, 246, 42, 180, 0, 246, 42, 180, 0, 227, 162, 0, 30, 42, 180, 0, 38, 42]
abbrev dktX5_next_0 : List UInt8 := dkwX5_next_0 ++ dktX5_next_1
theorem dksX5_next_0 : cX5_next.data.toList.drop 0 = dktX5_next_0 := by decide +kernel
theorem dksX5_next_1 : cX5_next.data.toList.drop 24 = dktX5_next_1 := dk_seg dksX5_next_0 24 rfl rfl
theorem dksX5_next_2 : cX5_next.data.toList.drop 48 = dktX5_next_2 := dk_seg dksX5_next_1 24 rfl rfl
theorem dksX5_next_3 : cX5_next.data.toList.drop 72 = dktX5_next_3 := dk_seg dksX5_next_2 24 rfl rfl
theorem dksX5_next_4 : cX5_next.data.toList.drop 95 = dktX5_next_4 := dk_seg dksX5_next_3 23 rfl rfl
theorem dksX5_next_5 : cX5_next.data.toList.drop 118 = dktX5_next_5 := dk_seg dksX5_next_4 23 rfl rfl
theorem dksX5_next_6 : cX5_next.data.toList.drop 141 = dktX5_next_6 := dk_seg dksX5_next_5 23 rfl rfl
theorem dksX5_next_7 : cX5_next.data.toList.drop 165 = dktX5_next_7 := dk_seg dksX5_next_6 24 rfl rfl
theorem dksX5_next_8 : cX5_next.data.toList.drop 189 = dktX5_next_8 := dk_seg dksX5_next_7 24 rfl rfl
theorem dksX5_next_9 : cX5_next.data.toList.drop 211 = dktX5_next_9 := dk_seg dksX5_next_8 22 rfl rfl
theorem dksX5_next_10 : cX5_next.data.toList.drop 235 = dktX5_next_10 := dk_seg dksX5_next_9 24 rfl rfl
theorem dksX5_next_11 : cX5_next.data.toList.drop 259 = dktX5_next_11 := dk_seg dksX5_next_10 24 rfl rfl
theorem dksX5_next_12 : cX5_next.data.toList.drop 282 = dktX5_next_12 := dk_seg dksX5_next_11 23 rfl rfl
theorem dksX5_next_13 : cX5_next.data.toList.drop 305 = dktX5_next_13 := dk_seg dksX5_next_12 23 rfl rfl
theorem dksX5_next_14 : cX5_next.data.toList.drop 329 = dktX5_next_14 := dk_seg dksX5_next_13 24 rfl rfl
theorem dX5_next_0 : decode cX5_next 0 = .ok (.aload_n 0, 1) := dk_42 (dk_at dksX5_next_0 0 rfl rfl)
theorem dX5_next_1 : decode cX5_next 1 = .ok (.aload_n 0, 1) := dk_42 (dk_at dksX5_next_0 1 rfl rfl)
theorem dX5_next_2 : decode cX5_next 2 = .ok (.getfield 236, 3) := dk_180 0 236 (dk_at dksX5_next_0 2 rfl rfl)
theorem dX5_next_5 : decode cX5_next 5 = .ok (.putfield 246, 3) := dk_181 0 246 (dk_at dksX5_next_0 5 rfl rfl)
theorem dX5_next_8 : decode cX5_next 8 = .ok (.aload_n 0, 1) := dk_42 (dk_at dksX5_next_0 8 rfl rfl)
theorem dX5_next_9 : decode cX5_next 9 = .ok (.getfield 246, 3) := dk_180 0 246 (dk_at dksX5_next_0 9 rfl rfl)
theorem dX5_next_12 : decode cX5_next 12 = .ok (.aload_n 0, 1) := dk_42 (dk_at dksX5_next_0 12 rfl rfl)
theorem dX5_next_13 : decode cX5_next 13 = .ok (.getfield 227, 3) := dk_180 0 227 (dk_at dksX5_next_0 13 rfl rfl)
theorem dX5_next_16 : decode cX5_next 16 = .ok (.if_icmp .ge 30, 3) := dk_162 0 30 (dk_at dksX5_next_0 16 rfl rfl)
theorem dX5_next_19 : decode cX5_next 19 = .ok (.aload_n 0, 1) := dk_42 (dk_at dksX5_next_0 19 rfl rfl)
theorem dX5_next_20 : decode cX5_next 20 = .ok (.getfield 38, 3) := dk_180 0 38 (dk_at dksX5_next_0 20 rfl rfl)
theorem dX5_next_23 : decode cX5_next 23 = .ok (.aload_n 0, 1) := dk_42 (dk_at dksX5_next_0 23 rfl rfl)
theorem dX5_next_24 : decode cX5_next 24 = .ok (.getfield 246, 3) := dk_180 0 246 (dk_at dksX5_next_1 0 rfl rfl)
theorem dX5_next_27 : decode cX5_next 27 = .ok (.iaload, 1) := dk_46 (dk_at dksX5_next_1 3 rfl rfl)
theorem dX5_next_28 : decode cX5_next 28 = .ok (.bipush 32, 2) := dk_16 32 (dk_at dksX5_next_1 4 rfl rfl)
theorem dX5_next_30 : decode cX5_next 30 = .ok (.if_icmp .ne 16, 3) := dk_160 0 16 (dk_at dksX5_next_1 6 rfl rfl)
theorem dX5_next_33 : decode cX5_next 33 = .ok (.aload_n 0, 1) := dk_42 (dk_at dksX5_next_1 9 rfl rfl)
theorem dX5_next_34 : decode cX5_next 34 = .ok (.dup, 1) := dk_89 (dk_at dksX5_next_1 10 rfl rfl)
theorem dX5_next_35 : decode cX5_next 35 = .ok (.getfield 246, 3) := dk_180 0 246 (dk_at dksX5_next_1 11 rfl rfl)
theorem dX5_next_38 : decode cX5_next 38 = .ok (.iconst 1, 1) := dk_4 (dk_at dksX5_next_1 14 rfl rfl)
theorem dX5_next_39 : decode cX5_next 39 = .ok (.iadd, 1) := dk_96 (dk_at dksX5_next_1 15 rfl rfl)
theorem dX5_next_40 : decode cX5_next 40 = .ok (.putfield 246, 3) := dk_181 0 246 (dk_at dksX5_next_1 16 rfl rfl)
theorem dX5_next_43 : decode cX5_next 43 = .ok (.goto (-35), 3) := dk_167 255 221 (dk_at dksX5_next_1 19 rfl rfl)
theorem dX5_next_46 : decode cX5_next 46 = .ok (.aload_n 0, 1) := dk_42 (dk_at dksX5_next_1 22 rfl rfl)
theorem dX5_next_47 : decode cX5_next 47 = .ok (.aload_n 0, 1) := dk_42 (dk_at dksX5_next_1 23 rfl rfl)
theorem dX5_next_48 : decode cX5_next 48 = .ok (.getfield 246, 3) := dk_180 0 246 (dk_at dksX5_next_2 0 rfl rfl)
theorem dX5_next_51 : decode cX5_next 51 = .ok (.putfield 236, 3) := dk_181 0 236 (dk_at dksX5_next_2 3 rfl rfl)
theorem dX5_next_54 : decode cX5_next 54 = .ok (.aload_n 0, 1) := dk_42 (dk_at dksX5_next_2 6 rfl rfl)
theorem dX5_next_55 : decode cX5_next 55 = .ok (.lconst 0, 1) := dk_9 (dk_at dksX5_next_2 7 rfl rfl)
theorem dX5_next_56 : decode cX5_next 56 = .ok (.putfield 249, 3) := dk_181 0 249 (dk_at dksX5_next_2 8 rfl rfl)
theorem dX5_next_59 : decode cX5_next 59 = .ok (.aload_n 0, 1) := dk_42 (dk_at dksX5_next_2 11 rfl rfl)
theorem dX5_next_60 : decode cX5_next 60 = .ok (.aload_n 0, 1) := dk_42 (dk_at dksX5_next_2 12 rfl rfl)
theorem dX5_next_61 : decode cX5_next 61 = .ok (.getfield 246, 3) := dk_180 0 246 (dk_at dksX5_next_2 13 rfl rfl)
theorem dX5_next_64 : decode cX5_next 64 = .ok (.aload_n 0, 1) := dk_42 (dk_at dksX5_next_2 16 rfl rfl)
theorem dX5_next_65 : decode cX5_next 65 = .ok (.getfield 227, 3) := dk_180 0 227 (dk_at dksX5_next_2 17 rfl rfl)
theorem dX5_next_68 : decode cX5_next 68 = .ok (.if_icmp .ne 7, 3) := dk_160 0 7 (dk_at dksX5_next_2 20 rfl rfl)
theorem dX5_next_71 : decode cX5_next 71 = .ok (.iconst 0, 1) := dk_3 (dk_at dksX5_next_2 23 rfl rfl)
theorem dX5_next_72 : decode cX5_next 72 = .ok (.goto 42, 3) := dk_167 0 42 (dk_at dksX5_next_3 0 rfl rfl)
theorem dX5_next_75 : decode cX5_next 75 = .ok (.aload_n 0, 1) := dk_42 (dk_at dksX5_next_3 3 rfl rfl)
theorem dX5_next_76 : decode cX5_next 76 = .ok (.getfield 38, 3) := dk_180 0 38 (dk_at dksX5_next_3 4 rfl rfl)
theorem dX5_next_79 : decode cX5_next 79 = .ok (.aload_n 0, 1) := dk_42 (dk_at dksX5_next_3 7 rfl rfl)
theorem dX5_next_80 : decode cX5_next 80 = .ok (.getfield 246, 3) := dk_180 0 246 (dk_at dksX5_next_3 8 rfl rfl)
theorem dX5_next_83 : decode cX5_next 83 = .ok (.iaload, 1) := dk_46 (dk_at dksX5_next_3 11 rfl rfl)
theorem dX5_next_84 : decode cX5_next 84 = .ok (.invokestatic 253, 3) := dk_184 0 253 (dk_at dksX5_next_3 12 rfl rfl)
theorem dX5_next_87 : decode cX5_next 87 = .ok (.ifCond .eq 7, 3) := dk_153 0 7 (dk_at dksX5_next_3 15 rfl rfl)
theorem dX5_next_90 : decode cX5_next 90 = .ok (.iconst 1, 1) := dk_4 (dk_at dksX5_next_3 18 rfl rfl)
theorem dX5_next_91 : decode cX5_next 91 = .ok (.goto 23, 3) := dk_167 0 23 (dk_at dksX5_next_3 19 rfl rfl)
theorem dX5_next_94 : decode cX5_next 94 = .ok (.aload_n 0, 1) := dk_42 (dk_at dksX5_next_3 22 rfl rfl)
theorem dX5_next_95 : decode cX5_next 95 = .ok (.getfield 38, 3) := dk_180 0 38 (dk_at dksX5_next_4 0 rfl rfl)
theorem dX5_next_98 : decode cX5_next 98 = .ok (.aload_n 0, 1) := dk_42 (dk_at dksX5_next_4 3 rfl rfl)
theorem dX5_next_99 : decode cX5_next 99 = .ok (.getfield 246, 3) := dk_180 0 246 (dk_at dksX5_next_4 4 rfl rfl)
theorem dX5_next_102 : decode cX5_next 102 = .ok (.iaload, 1) := dk_46 (dk_at dksX5_next_4 7 rfl rfl)
theorem dX5_next_103 : decode cX5_next 103 = .ok (.invokestatic 256, 3) := dk_184 1 0 (dk_at dksX5_next_4 8 rfl rfl)
theorem dX5_next_106 : decode cX5_next 106 = .ok (.ifCond .eq 7, 3) := dk_153 0 7 (dk_at dksX5_next_4 11 rfl rfl)
theorem dX5_next_109 : decode cX5_next 109 = .ok (.iconst 2, 1) := dk_5 (dk_at dksX5_next_4 14 rfl rfl)
theorem dX5_next_110 : decode cX5_next 110 = .ok (.goto 4, 3) := dk_167 0 4 (dk_at dksX5_next_4 15 rfl rfl)
theorem dX5_next_113 : decode cX5_next 113 = .ok (.iconst 3, 1) := dk_6 (dk_at dksX5_next_4 18 rfl rfl)
theorem dX5_next_114 : decode cX5_next 114 = .ok (.putfield 259, 3) := dk_181 1 3 (dk_at dksX5_next_4 19 rfl rfl)
theorem dX5_next_117 : decode cX5_next 117 = .ok (.aload_n 0, 1) := dk_42 (dk_at dksX5_next_4 22 rfl rfl)
theorem dX5_next_118 : decode cX5_next 118 = .ok (.getfield 259, 3) := dk_180 1 3 (dk_at dksX5_next_5 0 rfl rfl)
theorem dX5_next_121 : decode cX5_next 121 = .ok (.iconst 3, 1) := dk_6 (dk_at dksX5_next_5 3 rfl rfl)
theorem dX5_next_122 : decode cX5_next 122 = .ok (.if_icmp .ne 27, 3) := dk_160 0 27 (dk_at dksX5_next_5 4 rfl rfl)
theorem dX5_next_125 : decode cX5_next 125 = .ok (.aload_n 0, 1) := dk_42 (dk_at dksX5_next_5 7 rfl rfl)
theorem dX5_next_126 : decode cX5_next 126 = .ok (.aload_n 0, 1) := dk_42 (dk_at dksX5_next_5 8 rfl rfl)
theorem dX5_next_127 : decode cX5_next 127 = .ok (.getfield 38, 3) := dk_180 0 38 (dk_at dksX5_next_5 9 rfl rfl)
theorem dX5_next_130 : decode cX5_next 130 = .ok (.aload_n 0, 1) := dk_42 (dk_at dksX5_next_5 12 rfl rfl)
theorem dX5_next_131 : decode cX5_next 131 = .ok (.getfield 246, 3) := dk_180 0 246 (dk_at dksX5_next_5 13 rfl rfl)
theorem dX5_next_134 : decode cX5_next 134 = .ok (.iaload, 1) := dk_46 (dk_at dksX5_next_5 16 rfl rfl)
theorem dX5_next_135 : decode cX5_next 135 = .ok (.i2l, 1) := dk_133 (dk_at dksX5_next_5 17 rfl rfl)
theorem dX5_next_136 : decode cX5_next 136 = .ok (.putfield 249, 3) := dk_181 0 249 (dk_at dksX5_next_5 18 rfl rfl)
theorem dX5_next_139 : decode cX5_next 139 = .ok (.aload_n 0, 1) := dk_42 (dk_at dksX5_next_5 21 rfl rfl)
theorem dX5_next_140 : decode cX5_next 140 = .ok (.dup, 1) := dk_89 (dk_at dksX5_next_5 22 rfl rfl)
theorem dX5_next_141 : decode cX5_next 141 = .ok (.getfield 236, 3) := dk_180 0 236 (dk_at dksX5_next_6 0 rfl rfl)
theorem dX5_next_144 : decode cX5_next 144 = .ok (.iconst 1, 1) := dk_4 (dk_at dksX5_next_6 3 rfl rfl)
theorem dX5_next_145 : decode cX5_next 145 = .ok (.iadd, 1) := dk_96 (dk_at dksX5_next_6 4 rfl rfl)
theorem dX5_next_146 : decode cX5_next 146 = .ok (.putfield 236, 3) := dk_181 0 236 (dk_at dksX5_next_6 5 rfl rfl)
theorem dX5_next_149 : decode cX5_next 149 = .ok (.aload_n 0, 1) := dk_42 (dk_at dksX5_next_6 8 rfl rfl)
theorem dX5_next_150 : decode cX5_next 150 = .ok (.getfield 259, 3) := dk_180 1 3 (dk_at dksX5_next_6 9 rfl rfl)
theorem dX5_next_153 : decode cX5_next 153 = .ok (.iconst 1, 1) := dk_4 (dk_at dksX5_next_6 12 rfl rfl)
theorem dX5_next_154 : decode cX5_next 154 = .ok (.if_icmp .ne 89, 3) := dk_160 0 89 (dk_at dksX5_next_6 13 rfl rfl)
theorem dX5_next_157 : decode cX5_next 157 = .ok (.aload_n 0, 1) := dk_42 (dk_at dksX5_next_6 16 rfl rfl)
theorem dX5_next_158 : decode cX5_next 158 = .ok (.getfield 236, 3) := dk_180 0 236 (dk_at dksX5_next_6 17 rfl rfl)
theorem dX5_next_161 : decode cX5_next 161 = .ok (.aload_n 0, 1) := dk_42 (dk_at dksX5_next_6 20 rfl rfl)
theorem dX5_next_162 : decode cX5_next 162 = .ok (.getfield 227, 3) := dk_180 0 227 (dk_at dksX5_next_6 21 rfl rfl)
theorem dX5_next_165 : decode cX5_next 165 = .ok (.if_icmp .ge 78, 3) := dk_162 0 78 (dk_at dksX5_next_7 0 rfl rfl)
theorem dX5_next_168 : decode cX5_next 168 = .ok (.aload_n 0, 1) := dk_42 (dk_at dksX5_next_7 3 rfl rfl)
theorem dX5_next_169 : decode cX5_next 169 = .ok (.getfield 38, 3) := dk_180 0 38 (dk_at dksX5_next_7 4 rfl rfl)
theorem dX5_next_172 : decode cX5_next 172 = .ok (.aload_n 0, 1) := dk_42 (dk_at dksX5_next_7 7 rfl rfl)
theorem dX5_next_173 : decode cX5_next 173 = .ok (.getfield 236, 3) := dk_180 0 236 (dk_at dksX5_next_7 8 rfl rfl)
theorem dX5_next_176 : decode cX5_next 176 = .ok (.iaload, 1) := dk_46 (dk_at dksX5_next_7 11 rfl rfl)
theorem dX5_next_177 : decode cX5_next 177 = .ok (.invokestatic 253, 3) := dk_184 0 253 (dk_at dksX5_next_7 12 rfl rfl)
theorem dX5_next_180 : decode cX5_next 180 = .ok (.ifCond .eq 63, 3) := dk_153 0 63 (dk_at dksX5_next_7 15 rfl rfl)
theorem dX5_next_183 : decode cX5_next 183 = .ok (.aload_n 0, 1) := dk_42 (dk_at dksX5_next_7 18 rfl rfl)
theorem dX5_next_184 : decode cX5_next 184 = .ok (.aload_n 0, 1) := dk_42 (dk_at dksX5_next_7 19 rfl rfl)
theorem dX5_next_185 : decode cX5_next 185 = .ok (.getfield 236, 3) := dk_180 0 236 (dk_at dksX5_next_7 20 rfl rfl)
theorem dX5_next_188 : decode cX5_next 188 = .ok (.aload_n 0, 1) := dk_42 (dk_at dksX5_next_7 23 rfl rfl)
theorem dX5_next_189 : decode cX5_next 189 = .ok (.getfield 246, 3) := dk_180 0 246 (dk_at dksX5_next_8 0 rfl rfl)
theorem dX5_next_192 : decode cX5_next 192 = .ok (.isub, 1) := dk_100 (dk_at dksX5_next_8 3 rfl rfl)
theorem dX5_next_193 : decode cX5_next 193 = .ok (.bipush 10, 2) := dk_16 10 (dk_at dksX5_next_8 4 rfl rfl)
theorem dX5_next_195 : decode cX5_next 195 = .ok (.if_icmp .ge 29, 3) := dk_162 0 29 (dk_at dksX5_next_8 6 rfl rfl)
theorem dX5_next_198 : decode cX5_next 198 = .ok (.aload_n 0, 1) := dk_42 (dk_at dksX5_next_8 9 rfl rfl)
theorem dX5_next_199 : decode cX5_next 199 = .ok (.getfield 249, 3) := dk_180 0 249 (dk_at dksX5_next_8 10 rfl rfl)
theorem dX5_next_202 : decode cX5_next 202 = .ok (.ldc2_w 262, 3) := dk_20 1 6 (dk_at dksX5_next_8 13 rfl rfl)
theorem dX5_next_205 : decode cX5_next 205 = .ok (.lmul, 1) := dk_105 (dk_at dksX5_next_8 16 rfl rfl)
theorem dX5_next_206 : decode cX5_next 206 = .ok (.aload_n 0, 1) := dk_42 (dk_at dksX5_next_8 17 rfl rfl)
theorem dX5_next_207 : decode cX5_next 207 = .ok (.getfield 38, 3) := dk_180 0 38 (dk_at dksX5_next_8 18 rfl rfl)
theorem dX5_next_210 : decode cX5_next 210 = .ok (.aload_n 0, 1) := dk_42 (dk_at dksX5_next_8 21 rfl rfl)
theorem dX5_next_211 : decode cX5_next 211 = .ok (.getfield 236, 3) := dk_180 0 236 (dk_at dksX5_next_9 0 rfl rfl)
theorem dX5_next_214 : decode cX5_next 214 = .ok (.iaload, 1) := dk_46 (dk_at dksX5_next_9 3 rfl rfl)
theorem dX5_next_215 : decode cX5_next 215 = .ok (.i2l, 1) := dk_133 (dk_at dksX5_next_9 4 rfl rfl)
theorem dX5_next_216 : decode cX5_next 216 = .ok (.ladd, 1) := dk_97 (dk_at dksX5_next_9 5 rfl rfl)
theorem dX5_next_217 : decode cX5_next 217 = .ok (.ldc2_w 264, 3) := dk_20 1 8 (dk_at dksX5_next_9 6 rfl rfl)
theorem dX5_next_220 : decode cX5_next 220 = .ok (.lsub, 1) := dk_101 (dk_at dksX5_next_9 9 rfl rfl)
theorem dX5_next_221 : decode cX5_next 221 = .ok (.goto 6, 3) := dk_167 0 6 (dk_at dksX5_next_9 10 rfl rfl)
theorem dX5_next_224 : decode cX5_next 224 = .ok (.ldc2_w 221, 3) := dk_20 0 221 (dk_at dksX5_next_9 13 rfl rfl)
theorem dX5_next_227 : decode cX5_next 227 = .ok (.putfield 249, 3) := dk_181 0 249 (dk_at dksX5_next_9 16 rfl rfl)
theorem dX5_next_230 : decode cX5_next 230 = .ok (.aload_n 0, 1) := dk_42 (dk_at dksX5_next_9 19 rfl rfl)
theorem dX5_next_231 : decode cX5_next 231 = .ok (.dup, 1) := dk_89 (dk_at dksX5_next_9 20 rfl rfl)
theorem dX5_next_232 : decode cX5_next 232 = .ok (.getfield 236, 3) := dk_180 0 236 (dk_at dksX5_next_9 21 rfl rfl)
theorem dX5_next_235 : decode cX5_next 235 = .ok (.iconst 1, 1) := dk_4 (dk_at dksX5_next_10 0 rfl rfl)
theorem dX5_next_236 : decode cX5_next 236 = .ok (.iadd, 1) := dk_96 (dk_at dksX5_next_10 1 rfl rfl)
theorem dX5_next_237 : decode cX5_next 237 = .ok (.putfield 236, 3) := dk_181 0 236 (dk_at dksX5_next_10 2 rfl rfl)
theorem dX5_next_240 : decode cX5_next 240 = .ok (.goto (-91), 3) := dk_167 255 165 (dk_at dksX5_next_10 5 rfl rfl)
theorem dX5_next_243 : decode cX5_next 243 = .ok (.aload_n 0, 1) := dk_42 (dk_at dksX5_next_10 8 rfl rfl)
theorem dX5_next_244 : decode cX5_next 244 = .ok (.getfield 259, 3) := dk_180 1 3 (dk_at dksX5_next_10 9 rfl rfl)
theorem dX5_next_247 : decode cX5_next 247 = .ok (.iconst 2, 1) := dk_5 (dk_at dksX5_next_10 12 rfl rfl)
theorem dX5_next_248 : decode cX5_next 248 = .ok (.if_icmp .ne 87, 3) := dk_160 0 87 (dk_at dksX5_next_10 13 rfl rfl)
theorem dX5_next_251 : decode cX5_next 251 = .ok (.aload_n 0, 1) := dk_42 (dk_at dksX5_next_10 16 rfl rfl)
theorem dX5_next_252 : decode cX5_next 252 = .ok (.getfield 236, 3) := dk_180 0 236 (dk_at dksX5_next_10 17 rfl rfl)
theorem dX5_next_255 : decode cX5_next 255 = .ok (.aload_n 0, 1) := dk_42 (dk_at dksX5_next_10 20 rfl rfl)
theorem dX5_next_256 : decode cX5_next 256 = .ok (.getfield 227, 3) := dk_180 0 227 (dk_at dksX5_next_10 21 rfl rfl)
theorem dX5_next_259 : decode cX5_next 259 = .ok (.if_icmp .ge 76, 3) := dk_162 0 76 (dk_at dksX5_next_11 0 rfl rfl)
theorem dX5_next_262 : decode cX5_next 262 = .ok (.aload_n 0, 1) := dk_42 (dk_at dksX5_next_11 3 rfl rfl)
theorem dX5_next_263 : decode cX5_next 263 = .ok (.getfield 38, 3) := dk_180 0 38 (dk_at dksX5_next_11 4 rfl rfl)
theorem dX5_next_266 : decode cX5_next 266 = .ok (.aload_n 0, 1) := dk_42 (dk_at dksX5_next_11 7 rfl rfl)
theorem dX5_next_267 : decode cX5_next 267 = .ok (.getfield 236, 3) := dk_180 0 236 (dk_at dksX5_next_11 8 rfl rfl)
theorem dX5_next_270 : decode cX5_next 270 = .ok (.iaload, 1) := dk_46 (dk_at dksX5_next_11 11 rfl rfl)
theorem dX5_next_271 : decode cX5_next 271 = .ok (.invokestatic 256, 3) := dk_184 1 0 (dk_at dksX5_next_11 12 rfl rfl)
theorem dX5_next_274 : decode cX5_next 274 = .ok (.ifCond .eq 61, 3) := dk_153 0 61 (dk_at dksX5_next_11 15 rfl rfl)
theorem dX5_next_277 : decode cX5_next 277 = .ok (.aload_n 0, 1) := dk_42 (dk_at dksX5_next_11 18 rfl rfl)
theorem dX5_next_278 : decode cX5_next 278 = .ok (.aload_n 0, 1) := dk_42 (dk_at dksX5_next_11 19 rfl rfl)
theorem dX5_next_279 : decode cX5_next 279 = .ok (.getfield 249, 3) := dk_180 0 249 (dk_at dksX5_next_11 20 rfl rfl)
theorem dX5_next_282 : decode cX5_next 282 = .ok (.ldc2_w 266, 3) := dk_20 1 10 (dk_at dksX5_next_12 0 rfl rfl)
theorem dX5_next_285 : decode cX5_next 285 = .ok (.lcmp, 1) := dk_148 (dk_at dksX5_next_12 3 rfl rfl)
theorem dX5_next_286 : decode cX5_next 286 = .ok (.ifCond .le 10, 3) := dk_158 0 10 (dk_at dksX5_next_12 4 rfl rfl)
theorem dX5_next_289 : decode cX5_next 289 = .ok (.aload_n 0, 1) := dk_42 (dk_at dksX5_next_12 7 rfl rfl)
theorem dX5_next_290 : decode cX5_next 290 = .ok (.getfield 249, 3) := dk_180 0 249 (dk_at dksX5_next_12 8 rfl rfl)
theorem dX5_next_293 : decode cX5_next 293 = .ok (.goto 26, 3) := dk_167 0 26 (dk_at dksX5_next_12 11 rfl rfl)
theorem dX5_next_296 : decode cX5_next 296 = .ok (.aload_n 0, 1) := dk_42 (dk_at dksX5_next_12 14 rfl rfl)
theorem dX5_next_297 : decode cX5_next 297 = .ok (.getfield 249, 3) := dk_180 0 249 (dk_at dksX5_next_12 15 rfl rfl)
theorem dX5_next_300 : decode cX5_next 300 = .ok (.ldc2_w 268, 3) := dk_20 1 12 (dk_at dksX5_next_12 18 rfl rfl)
theorem dX5_next_303 : decode cX5_next 303 = .ok (.lmul, 1) := dk_105 (dk_at dksX5_next_12 21 rfl rfl)
theorem dX5_next_304 : decode cX5_next 304 = .ok (.aload_n 0, 1) := dk_42 (dk_at dksX5_next_12 22 rfl rfl)
theorem dX5_next_305 : decode cX5_next 305 = .ok (.getfield 38, 3) := dk_180 0 38 (dk_at dksX5_next_13 0 rfl rfl)
theorem dX5_next_308 : decode cX5_next 308 = .ok (.aload_n 0, 1) := dk_42 (dk_at dksX5_next_13 3 rfl rfl)
theorem dX5_next_309 : decode cX5_next 309 = .ok (.getfield 236, 3) := dk_180 0 236 (dk_at dksX5_next_13 4 rfl rfl)
theorem dX5_next_312 : decode cX5_next 312 = .ok (.iaload, 1) := dk_46 (dk_at dksX5_next_13 7 rfl rfl)
theorem dX5_next_313 : decode cX5_next 313 = .ok (.i2l, 1) := dk_133 (dk_at dksX5_next_13 8 rfl rfl)
theorem dX5_next_314 : decode cX5_next 314 = .ok (.ladd, 1) := dk_97 (dk_at dksX5_next_13 9 rfl rfl)
theorem dX5_next_315 : decode cX5_next 315 = .ok (.ldc2_w 270, 3) := dk_20 1 14 (dk_at dksX5_next_13 10 rfl rfl)
theorem dX5_next_318 : decode cX5_next 318 = .ok (.lsub, 1) := dk_101 (dk_at dksX5_next_13 13 rfl rfl)
theorem dX5_next_319 : decode cX5_next 319 = .ok (.putfield 249, 3) := dk_181 0 249 (dk_at dksX5_next_13 14 rfl rfl)
theorem dX5_next_322 : decode cX5_next 322 = .ok (.aload_n 0, 1) := dk_42 (dk_at dksX5_next_13 17 rfl rfl)
theorem dX5_next_323 : decode cX5_next 323 = .ok (.dup, 1) := dk_89 (dk_at dksX5_next_13 18 rfl rfl)
theorem dX5_next_324 : decode cX5_next 324 = .ok (.getfield 236, 3) := dk_180 0 236 (dk_at dksX5_next_13 19 rfl rfl)
theorem dX5_next_327 : decode cX5_next 327 = .ok (.iconst 1, 1) := dk_4 (dk_at dksX5_next_13 22 rfl rfl)
theorem dX5_next_328 : decode cX5_next 328 = .ok (.iadd, 1) := dk_96 (dk_at dksX5_next_13 23 rfl rfl)
theorem dX5_next_329 : decode cX5_next 329 = .ok (.putfield 236, 3) := dk_181 0 236 (dk_at dksX5_next_14 0 rfl rfl)
theorem dX5_next_332 : decode cX5_next 332 = .ok (.goto (-89), 3) := dk_167 255 167 (dk_at dksX5_next_14 3 rfl rfl)
theorem dX5_next_335 : decode cX5_next 335 = .ok (.return_, 1) := dk_177 (dk_at dksX5_next_14 6 rfl rfl)
abbrev cX5_isSmall : ByteArray := prog_22_method_32_code
def yX5_isSmall : MethodName := ⟨RX5, "isSmall", "(I)Z"⟩
def dkwX5_isSmall_0 : List UInt8 := [26, 16, 97, 161, 0, 13, 26, 16, 122, 163, 0, 7, 4, 167, 0, 4, 3, 172]
abbrev dktX5_isSmall_0 : List UInt8 := dkwX5_isSmall_0 ++ []
theorem dksX5_isSmall_0 : cX5_isSmall.data.toList.drop 0 = dktX5_isSmall_0 := by decide +kernel
theorem dX5_isSmall_0 : decode cX5_isSmall 0 = .ok (.iload_n 0, 1) := dk_26 (dk_at dksX5_isSmall_0 0 rfl rfl)
theorem dX5_isSmall_1 : decode cX5_isSmall 1 = .ok (.bipush 97, 2) := dk_16 97 (dk_at dksX5_isSmall_0 1 rfl rfl)
theorem dX5_isSmall_3 : decode cX5_isSmall 3 = .ok (.if_icmp .lt 13, 3) := dk_161 0 13 (dk_at dksX5_isSmall_0 3 rfl rfl)
theorem dX5_isSmall_6 : decode cX5_isSmall 6 = .ok (.iload_n 0, 1) := dk_26 (dk_at dksX5_isSmall_0 6 rfl rfl)
theorem dX5_isSmall_7 : decode cX5_isSmall 7 = .ok (.bipush 122, 2) := dk_16 122 (dk_at dksX5_isSmall_0 7 rfl rfl)
theorem dX5_isSmall_9 : decode cX5_isSmall 9 = .ok (.if_icmp .gt 7, 3) := dk_163 0 7 (dk_at dksX5_isSmall_0 9 rfl rfl)
theorem dX5_isSmall_12 : decode cX5_isSmall 12 = .ok (.iconst 1, 1) := dk_4 (dk_at dksX5_isSmall_0 12 rfl rfl)
theorem dX5_isSmall_13 : decode cX5_isSmall 13 = .ok (.goto 4, 3) := dk_167 0 4 (dk_at dksX5_isSmall_0 13 rfl rfl)
theorem dX5_isSmall_16 : decode cX5_isSmall 16 = .ok (.iconst 0, 1) := dk_3 (dk_at dksX5_isSmall_0 16 rfl rfl)
theorem dX5_isSmall_17 : decode cX5_isSmall 17 = .ok (.ireturn, 1) := dk_172 (dk_at dksX5_isSmall_0 17 rfl rfl)
abbrev cX5_isDigit : ByteArray := prog_22_method_33_code
def yX5_isDigit : MethodName := ⟨RX5, "isDigit", "(I)Z"⟩
def dkwX5_isDigit_0 : List UInt8 := [26, 16, 48, 161, 0, 13, 26, 16, 57, 163, 0, 7, 4, 167, 0, 4, 3, 172]
abbrev dktX5_isDigit_0 : List UInt8 := dkwX5_isDigit_0 ++ []
theorem dksX5_isDigit_0 : cX5_isDigit.data.toList.drop 0 = dktX5_isDigit_0 := by decide +kernel
theorem dX5_isDigit_0 : decode cX5_isDigit 0 = .ok (.iload_n 0, 1) := dk_26 (dk_at dksX5_isDigit_0 0 rfl rfl)
theorem dX5_isDigit_1 : decode cX5_isDigit 1 = .ok (.bipush 48, 2) := dk_16 48 (dk_at dksX5_isDigit_0 1 rfl rfl)
theorem dX5_isDigit_3 : decode cX5_isDigit 3 = .ok (.if_icmp .lt 13, 3) := dk_161 0 13 (dk_at dksX5_isDigit_0 3 rfl rfl)
theorem dX5_isDigit_6 : decode cX5_isDigit 6 = .ok (.iload_n 0, 1) := dk_26 (dk_at dksX5_isDigit_0 6 rfl rfl)
theorem dX5_isDigit_7 : decode cX5_isDigit 7 = .ok (.bipush 57, 2) := dk_16 57 (dk_at dksX5_isDigit_0 7 rfl rfl)
theorem dX5_isDigit_9 : decode cX5_isDigit 9 = .ok (.if_icmp .gt 7, 3) := dk_163 0 7 (dk_at dksX5_isDigit_0 9 rfl rfl)
theorem dX5_isDigit_12 : decode cX5_isDigit 12 = .ok (.iconst 1, 1) := dk_4 (dk_at dksX5_isDigit_0 12 rfl rfl)
theorem dX5_isDigit_13 : decode cX5_isDigit 13 = .ok (.goto 4, 3) := dk_167 0 4 (dk_at dksX5_isDigit_0 13 rfl rfl)
theorem dX5_isDigit_16 : decode cX5_isDigit 16 = .ok (.iconst 0, 1) := dk_3 (dk_at dksX5_isDigit_0 16 rfl rfl)
theorem dX5_isDigit_17 : decode cX5_isDigit 17 = .ok (.ireturn, 1) := dk_172 (dk_at dksX5_isDigit_0 17 rfl rfl)
abbrev cX5_readLaw : ByteArray := prog_22_method_58_code
def yX5_readLaw : MethodName := ⟨RX5, "readLaw", "()V"⟩
def dkwX5_readLaw_8 : List UInt8 := [182, 1, 110, 42, 180, 0, 45, 28, 16, 6, 96, 42, 180, 1, 20, 79, 177]
abbrev dktX5_readLaw_8 : List UInt8 := dkwX5_readLaw_8 ++ []
def dkwX5_readLaw_7 : List UInt8 := [180, 0, 239, 154, 0, 22, 42, 20, 1, 113, 182, 1, 36, 153, 0, 12, 42, 182, 0, 243, 42, 4]
abbrev dktX5_readLaw_7 : List UInt8 := dkwX5_readLaw_7 ++ dktX5_readLaw_8
def dkwX5_readLaw_6 : List UInt8 := [180, 0, 45, 28, 7, 96, 42, 180, 1, 20, 79, 42, 180, 0, 45, 28, 8, 96, 42, 180, 1, 20, 79, 42]
abbrev dktX5_readLaw_6 : List UInt8 := dkwX5_readLaw_6 ++ dktX5_readLaw_7
def dkwX5_readLaw_5 : List UInt8 := [180, 0, 45, 28, 6, 96, 42, 180, 1, 20, 79, 27, 6, 159, 0, 8, 42, 3, 182, 1, 110, 42]
abbrev dktX5_readLaw_5 : List UInt8 := dkwX5_readLaw_5 ++ dktX5_readLaw_6
def dkwX5_readLaw_4 : List UInt8 := [132, 3, 1, 167, 255, 238, 42, 180, 0, 45, 28, 27, 79, 42, 89, 180, 1, 107, 4, 96, 181, 1, 107, 42]
abbrev dktX5_readLaw_4 : List UInt8 := dkwX5_readLaw_4 ++ dktX5_readLaw_5
def dkwX5_readLaw_3 : List UInt8 := [180, 1, 107, 104, 61, 3, 62, 29, 16, 8, 162, 0, 18, 42, 180, 0, 45, 28, 29, 96, 3, 79]
abbrev dktX5_readLaw_3 : List UInt8 := dkwX5_readLaw_3 ++ dktX5_readLaw_4
def dkwX5_readLaw_2 : List UInt8 := [162, 0, 7, 4, 167, 0, 4, 3, 182, 1, 16, 42, 180, 0, 239, 153, 0, 4, 177, 16, 8, 42]
abbrev dktX5_readLaw_2 : List UInt8 := dkwX5_readLaw_2 ++ dktX5_readLaw_3
def dkwX5_readLaw_1 : List UInt8 := [167, 0, 4, 27, 60, 132, 2, 1, 167, 255, 229, 42, 27, 2, 159, 0, 16, 42, 180, 1, 107, 16, 12]
abbrev dktX5_readLaw_1 : List UInt8 := dkwX5_readLaw_1 ++ dktX5_readLaw_2
def dkwX5_readLaw_0 : List UInt8 := [2, 60, 3, 61, 28, 7, 162, 0, 28, 42, 42, 180, 0, 113, 28, 47, 182, 1, 36, 153, 0, 7, 28]
abbrev dktX5_readLaw_0 : List UInt8 := dkwX5_readLaw_0 ++ dktX5_readLaw_1
theorem dksX5_readLaw_0 : cX5_readLaw.data.toList.drop 0 = dktX5_readLaw_0 := by decide +kernel
theorem dksX5_readLaw_1 : cX5_readLaw.data.toList.drop 23 = dktX5_readLaw_1 := dk_seg dksX5_readLaw_0 23 rfl rfl
theorem dksX5_readLaw_2 : cX5_readLaw.data.toList.drop 46 = dktX5_readLaw_2 := dk_seg dksX5_readLaw_1 23 rfl rfl
theorem dksX5_readLaw_3 : cX5_readLaw.data.toList.drop 68 = dktX5_readLaw_3 := dk_seg dksX5_readLaw_2 22 rfl rfl
theorem dksX5_readLaw_4 : cX5_readLaw.data.toList.drop 90 = dktX5_readLaw_4 := dk_seg dksX5_readLaw_3 22 rfl rfl
theorem dksX5_readLaw_5 : cX5_readLaw.data.toList.drop 114 = dktX5_readLaw_5 := dk_seg dksX5_readLaw_4 24 rfl rfl
theorem dksX5_readLaw_6 : cX5_readLaw.data.toList.drop 136 = dktX5_readLaw_6 := dk_seg dksX5_readLaw_5 22 rfl rfl
theorem dksX5_readLaw_7 : cX5_readLaw.data.toList.drop 160 = dktX5_readLaw_7 := dk_seg dksX5_readLaw_6 24 rfl rfl
theorem dksX5_readLaw_8 : cX5_readLaw.data.toList.drop 182 = dktX5_readLaw_8 := dk_seg dksX5_readLaw_7 22 rfl rfl
theorem dX5_readLaw_0 : decode cX5_readLaw 0 = .ok (.iconst (-1), 1) := dk_2 (dk_at dksX5_readLaw_0 0 rfl rfl)
theorem dX5_readLaw_1 : decode cX5_readLaw 1 = .ok (.istore_n 1, 1) := dk_60 (dk_at dksX5_readLaw_0 1 rfl rfl)
theorem dX5_readLaw_2 : decode cX5_readLaw 2 = .ok (.iconst 0, 1) := dk_3 (dk_at dksX5_readLaw_0 2 rfl rfl)
theorem dX5_readLaw_3 : decode cX5_readLaw 3 = .ok (.istore_n 2, 1) := dk_61 (dk_at dksX5_readLaw_0 3 rfl rfl)
theorem dX5_readLaw_4 : decode cX5_readLaw 4 = .ok (.iload_n 2, 1) := dk_28 (dk_at dksX5_readLaw_0 4 rfl rfl)
theorem dX5_readLaw_5 : decode cX5_readLaw 5 = .ok (.iconst 4, 1) := dk_7 (dk_at dksX5_readLaw_0 5 rfl rfl)
theorem dX5_readLaw_6 : decode cX5_readLaw 6 = .ok (.if_icmp .ge 28, 3) := dk_162 0 28 (dk_at dksX5_readLaw_0 6 rfl rfl)
theorem dX5_readLaw_9 : decode cX5_readLaw 9 = .ok (.aload_n 0, 1) := dk_42 (dk_at dksX5_readLaw_0 9 rfl rfl)
theorem dX5_readLaw_10 : decode cX5_readLaw 10 = .ok (.aload_n 0, 1) := dk_42 (dk_at dksX5_readLaw_0 10 rfl rfl)
theorem dX5_readLaw_11 : decode cX5_readLaw 11 = .ok (.getfield 113, 3) := dk_180 0 113 (dk_at dksX5_readLaw_0 11 rfl rfl)
theorem dX5_readLaw_14 : decode cX5_readLaw 14 = .ok (.iload_n 2, 1) := dk_28 (dk_at dksX5_readLaw_0 14 rfl rfl)
theorem dX5_readLaw_15 : decode cX5_readLaw 15 = .ok (.laload, 1) := dk_47 (dk_at dksX5_readLaw_0 15 rfl rfl)
theorem dX5_readLaw_16 : decode cX5_readLaw 16 = .ok (.invokevirtual 292, 3) := dk_182 1 36 (dk_at dksX5_readLaw_0 16 rfl rfl)
theorem dX5_readLaw_19 : decode cX5_readLaw 19 = .ok (.ifCond .eq 7, 3) := dk_153 0 7 (dk_at dksX5_readLaw_0 19 rfl rfl)
theorem dX5_readLaw_22 : decode cX5_readLaw 22 = .ok (.iload_n 2, 1) := dk_28 (dk_at dksX5_readLaw_0 22 rfl rfl)
theorem dX5_readLaw_23 : decode cX5_readLaw 23 = .ok (.goto 4, 3) := dk_167 0 4 (dk_at dksX5_readLaw_1 0 rfl rfl)
theorem dX5_readLaw_26 : decode cX5_readLaw 26 = .ok (.iload_n 1, 1) := dk_27 (dk_at dksX5_readLaw_1 3 rfl rfl)
theorem dX5_readLaw_27 : decode cX5_readLaw 27 = .ok (.istore_n 1, 1) := dk_60 (dk_at dksX5_readLaw_1 4 rfl rfl)
theorem dX5_readLaw_28 : decode cX5_readLaw 28 = .ok (.iinc 2 1, 3) := dk_132 2 1 (dk_at dksX5_readLaw_1 5 rfl rfl)
theorem dX5_readLaw_31 : decode cX5_readLaw 31 = .ok (.goto (-27), 3) := dk_167 255 229 (dk_at dksX5_readLaw_1 8 rfl rfl)
theorem dX5_readLaw_34 : decode cX5_readLaw 34 = .ok (.aload_n 0, 1) := dk_42 (dk_at dksX5_readLaw_1 11 rfl rfl)
theorem dX5_readLaw_35 : decode cX5_readLaw 35 = .ok (.iload_n 1, 1) := dk_27 (dk_at dksX5_readLaw_1 12 rfl rfl)
theorem dX5_readLaw_36 : decode cX5_readLaw 36 = .ok (.iconst (-1), 1) := dk_2 (dk_at dksX5_readLaw_1 13 rfl rfl)
theorem dX5_readLaw_37 : decode cX5_readLaw 37 = .ok (.if_icmp .eq 16, 3) := dk_159 0 16 (dk_at dksX5_readLaw_1 14 rfl rfl)
theorem dX5_readLaw_40 : decode cX5_readLaw 40 = .ok (.aload_n 0, 1) := dk_42 (dk_at dksX5_readLaw_1 17 rfl rfl)
theorem dX5_readLaw_41 : decode cX5_readLaw 41 = .ok (.getfield 363, 3) := dk_180 1 107 (dk_at dksX5_readLaw_1 18 rfl rfl)
theorem dX5_readLaw_44 : decode cX5_readLaw 44 = .ok (.bipush 12, 2) := dk_16 12 (dk_at dksX5_readLaw_1 21 rfl rfl)
theorem dX5_readLaw_46 : decode cX5_readLaw 46 = .ok (.if_icmp .ge 7, 3) := dk_162 0 7 (dk_at dksX5_readLaw_2 0 rfl rfl)
theorem dX5_readLaw_49 : decode cX5_readLaw 49 = .ok (.iconst 1, 1) := dk_4 (dk_at dksX5_readLaw_2 3 rfl rfl)
theorem dX5_readLaw_50 : decode cX5_readLaw 50 = .ok (.goto 4, 3) := dk_167 0 4 (dk_at dksX5_readLaw_2 4 rfl rfl)
theorem dX5_readLaw_53 : decode cX5_readLaw 53 = .ok (.iconst 0, 1) := dk_3 (dk_at dksX5_readLaw_2 7 rfl rfl)
theorem dX5_readLaw_54 : decode cX5_readLaw 54 = .ok (.invokevirtual 272, 3) := dk_182 1 16 (dk_at dksX5_readLaw_2 8 rfl rfl)
theorem dX5_readLaw_57 : decode cX5_readLaw 57 = .ok (.aload_n 0, 1) := dk_42 (dk_at dksX5_readLaw_2 11 rfl rfl)
theorem dX5_readLaw_58 : decode cX5_readLaw 58 = .ok (.getfield 239, 3) := dk_180 0 239 (dk_at dksX5_readLaw_2 12 rfl rfl)
theorem dX5_readLaw_61 : decode cX5_readLaw 61 = .ok (.ifCond .eq 4, 3) := dk_153 0 4 (dk_at dksX5_readLaw_2 15 rfl rfl)
theorem dX5_readLaw_64 : decode cX5_readLaw 64 = .ok (.return_, 1) := dk_177 (dk_at dksX5_readLaw_2 18 rfl rfl)
theorem dX5_readLaw_65 : decode cX5_readLaw 65 = .ok (.bipush 8, 2) := dk_16 8 (dk_at dksX5_readLaw_2 19 rfl rfl)
theorem dX5_readLaw_67 : decode cX5_readLaw 67 = .ok (.aload_n 0, 1) := dk_42 (dk_at dksX5_readLaw_2 21 rfl rfl)
theorem dX5_readLaw_68 : decode cX5_readLaw 68 = .ok (.getfield 363, 3) := dk_180 1 107 (dk_at dksX5_readLaw_3 0 rfl rfl)
theorem dX5_readLaw_71 : decode cX5_readLaw 71 = .ok (.imul, 1) := dk_104 (dk_at dksX5_readLaw_3 3 rfl rfl)
theorem dX5_readLaw_72 : decode cX5_readLaw 72 = .ok (.istore_n 2, 1) := dk_61 (dk_at dksX5_readLaw_3 4 rfl rfl)
theorem dX5_readLaw_73 : decode cX5_readLaw 73 = .ok (.iconst 0, 1) := dk_3 (dk_at dksX5_readLaw_3 5 rfl rfl)
theorem dX5_readLaw_74 : decode cX5_readLaw 74 = .ok (.istore_n 3, 1) := dk_62 (dk_at dksX5_readLaw_3 6 rfl rfl)
theorem dX5_readLaw_75 : decode cX5_readLaw 75 = .ok (.iload_n 3, 1) := dk_29 (dk_at dksX5_readLaw_3 7 rfl rfl)
theorem dX5_readLaw_76 : decode cX5_readLaw 76 = .ok (.bipush 8, 2) := dk_16 8 (dk_at dksX5_readLaw_3 8 rfl rfl)
theorem dX5_readLaw_78 : decode cX5_readLaw 78 = .ok (.if_icmp .ge 18, 3) := dk_162 0 18 (dk_at dksX5_readLaw_3 10 rfl rfl)
theorem dX5_readLaw_81 : decode cX5_readLaw 81 = .ok (.aload_n 0, 1) := dk_42 (dk_at dksX5_readLaw_3 13 rfl rfl)
theorem dX5_readLaw_82 : decode cX5_readLaw 82 = .ok (.getfield 45, 3) := dk_180 0 45 (dk_at dksX5_readLaw_3 14 rfl rfl)
theorem dX5_readLaw_85 : decode cX5_readLaw 85 = .ok (.iload_n 2, 1) := dk_28 (dk_at dksX5_readLaw_3 17 rfl rfl)
theorem dX5_readLaw_86 : decode cX5_readLaw 86 = .ok (.iload_n 3, 1) := dk_29 (dk_at dksX5_readLaw_3 18 rfl rfl)
theorem dX5_readLaw_87 : decode cX5_readLaw 87 = .ok (.iadd, 1) := dk_96 (dk_at dksX5_readLaw_3 19 rfl rfl)
theorem dX5_readLaw_88 : decode cX5_readLaw 88 = .ok (.iconst 0, 1) := dk_3 (dk_at dksX5_readLaw_3 20 rfl rfl)
theorem dX5_readLaw_89 : decode cX5_readLaw 89 = .ok (.iastore, 1) := dk_79 (dk_at dksX5_readLaw_3 21 rfl rfl)
theorem dX5_readLaw_90 : decode cX5_readLaw 90 = .ok (.iinc 3 1, 3) := dk_132 3 1 (dk_at dksX5_readLaw_4 0 rfl rfl)
theorem dX5_readLaw_93 : decode cX5_readLaw 93 = .ok (.goto (-18), 3) := dk_167 255 238 (dk_at dksX5_readLaw_4 3 rfl rfl)
theorem dX5_readLaw_96 : decode cX5_readLaw 96 = .ok (.aload_n 0, 1) := dk_42 (dk_at dksX5_readLaw_4 6 rfl rfl)
theorem dX5_readLaw_97 : decode cX5_readLaw 97 = .ok (.getfield 45, 3) := dk_180 0 45 (dk_at dksX5_readLaw_4 7 rfl rfl)
theorem dX5_readLaw_100 : decode cX5_readLaw 100 = .ok (.iload_n 2, 1) := dk_28 (dk_at dksX5_readLaw_4 10 rfl rfl)
theorem dX5_readLaw_101 : decode cX5_readLaw 101 = .ok (.iload_n 1, 1) := dk_27 (dk_at dksX5_readLaw_4 11 rfl rfl)
theorem dX5_readLaw_102 : decode cX5_readLaw 102 = .ok (.iastore, 1) := dk_79 (dk_at dksX5_readLaw_4 12 rfl rfl)
theorem dX5_readLaw_103 : decode cX5_readLaw 103 = .ok (.aload_n 0, 1) := dk_42 (dk_at dksX5_readLaw_4 13 rfl rfl)
theorem dX5_readLaw_104 : decode cX5_readLaw 104 = .ok (.dup, 1) := dk_89 (dk_at dksX5_readLaw_4 14 rfl rfl)
theorem dX5_readLaw_105 : decode cX5_readLaw 105 = .ok (.getfield 363, 3) := dk_180 1 107 (dk_at dksX5_readLaw_4 15 rfl rfl)
theorem dX5_readLaw_108 : decode cX5_readLaw 108 = .ok (.iconst 1, 1) := dk_4 (dk_at dksX5_readLaw_4 18 rfl rfl)
theorem dX5_readLaw_109 : decode cX5_readLaw 109 = .ok (.iadd, 1) := dk_96 (dk_at dksX5_readLaw_4 19 rfl rfl)
theorem dX5_readLaw_110 : decode cX5_readLaw 110 = .ok (.putfield 363, 3) := dk_181 1 107 (dk_at dksX5_readLaw_4 20 rfl rfl)
theorem dX5_readLaw_113 : decode cX5_readLaw 113 = .ok (.aload_n 0, 1) := dk_42 (dk_at dksX5_readLaw_4 23 rfl rfl)
theorem dX5_readLaw_114 : decode cX5_readLaw 114 = .ok (.getfield 45, 3) := dk_180 0 45 (dk_at dksX5_readLaw_5 0 rfl rfl)
theorem dX5_readLaw_117 : decode cX5_readLaw 117 = .ok (.iload_n 2, 1) := dk_28 (dk_at dksX5_readLaw_5 3 rfl rfl)
theorem dX5_readLaw_118 : decode cX5_readLaw 118 = .ok (.iconst 3, 1) := dk_6 (dk_at dksX5_readLaw_5 4 rfl rfl)
theorem dX5_readLaw_119 : decode cX5_readLaw 119 = .ok (.iadd, 1) := dk_96 (dk_at dksX5_readLaw_5 5 rfl rfl)
theorem dX5_readLaw_120 : decode cX5_readLaw 120 = .ok (.aload_n 0, 1) := dk_42 (dk_at dksX5_readLaw_5 6 rfl rfl)
theorem dX5_readLaw_121 : decode cX5_readLaw 121 = .ok (.getfield 276, 3) := dk_180 1 20 (dk_at dksX5_readLaw_5 7 rfl rfl)
theorem dX5_readLaw_124 : decode cX5_readLaw 124 = .ok (.iastore, 1) := dk_79 (dk_at dksX5_readLaw_5 10 rfl rfl)
theorem dX5_readLaw_125 : decode cX5_readLaw 125 = .ok (.iload_n 1, 1) := dk_27 (dk_at dksX5_readLaw_5 11 rfl rfl)
theorem dX5_readLaw_126 : decode cX5_readLaw 126 = .ok (.iconst 3, 1) := dk_6 (dk_at dksX5_readLaw_5 12 rfl rfl)
theorem dX5_readLaw_127 : decode cX5_readLaw 127 = .ok (.if_icmp .eq 8, 3) := dk_159 0 8 (dk_at dksX5_readLaw_5 13 rfl rfl)
theorem dX5_readLaw_130 : decode cX5_readLaw 130 = .ok (.aload_n 0, 1) := dk_42 (dk_at dksX5_readLaw_5 16 rfl rfl)
theorem dX5_readLaw_131 : decode cX5_readLaw 131 = .ok (.iconst 0, 1) := dk_3 (dk_at dksX5_readLaw_5 17 rfl rfl)
theorem dX5_readLaw_132 : decode cX5_readLaw 132 = .ok (.invokevirtual 366, 3) := dk_182 1 110 (dk_at dksX5_readLaw_5 18 rfl rfl)
theorem dX5_readLaw_135 : decode cX5_readLaw 135 = .ok (.aload_n 0, 1) := dk_42 (dk_at dksX5_readLaw_5 21 rfl rfl)
theorem dX5_readLaw_136 : decode cX5_readLaw 136 = .ok (.getfield 45, 3) := dk_180 0 45 (dk_at dksX5_readLaw_6 0 rfl rfl)
theorem dX5_readLaw_139 : decode cX5_readLaw 139 = .ok (.iload_n 2, 1) := dk_28 (dk_at dksX5_readLaw_6 3 rfl rfl)
theorem dX5_readLaw_140 : decode cX5_readLaw 140 = .ok (.iconst 4, 1) := dk_7 (dk_at dksX5_readLaw_6 4 rfl rfl)
theorem dX5_readLaw_141 : decode cX5_readLaw 141 = .ok (.iadd, 1) := dk_96 (dk_at dksX5_readLaw_6 5 rfl rfl)
theorem dX5_readLaw_142 : decode cX5_readLaw 142 = .ok (.aload_n 0, 1) := dk_42 (dk_at dksX5_readLaw_6 6 rfl rfl)
theorem dX5_readLaw_143 : decode cX5_readLaw 143 = .ok (.getfield 276, 3) := dk_180 1 20 (dk_at dksX5_readLaw_6 7 rfl rfl)
theorem dX5_readLaw_146 : decode cX5_readLaw 146 = .ok (.iastore, 1) := dk_79 (dk_at dksX5_readLaw_6 10 rfl rfl)
theorem dX5_readLaw_147 : decode cX5_readLaw 147 = .ok (.aload_n 0, 1) := dk_42 (dk_at dksX5_readLaw_6 11 rfl rfl)
theorem dX5_readLaw_148 : decode cX5_readLaw 148 = .ok (.getfield 45, 3) := dk_180 0 45 (dk_at dksX5_readLaw_6 12 rfl rfl)
theorem dX5_readLaw_151 : decode cX5_readLaw 151 = .ok (.iload_n 2, 1) := dk_28 (dk_at dksX5_readLaw_6 15 rfl rfl)
theorem dX5_readLaw_152 : decode cX5_readLaw 152 = .ok (.iconst 5, 1) := dk_8 (dk_at dksX5_readLaw_6 16 rfl rfl)
theorem dX5_readLaw_153 : decode cX5_readLaw 153 = .ok (.iadd, 1) := dk_96 (dk_at dksX5_readLaw_6 17 rfl rfl)
theorem dX5_readLaw_154 : decode cX5_readLaw 154 = .ok (.aload_n 0, 1) := dk_42 (dk_at dksX5_readLaw_6 18 rfl rfl)
theorem dX5_readLaw_155 : decode cX5_readLaw 155 = .ok (.getfield 276, 3) := dk_180 1 20 (dk_at dksX5_readLaw_6 19 rfl rfl)
theorem dX5_readLaw_158 : decode cX5_readLaw 158 = .ok (.iastore, 1) := dk_79 (dk_at dksX5_readLaw_6 22 rfl rfl)
theorem dX5_readLaw_159 : decode cX5_readLaw 159 = .ok (.aload_n 0, 1) := dk_42 (dk_at dksX5_readLaw_6 23 rfl rfl)
theorem dX5_readLaw_160 : decode cX5_readLaw 160 = .ok (.getfield 239, 3) := dk_180 0 239 (dk_at dksX5_readLaw_7 0 rfl rfl)
theorem dX5_readLaw_163 : decode cX5_readLaw 163 = .ok (.ifCond .ne 22, 3) := dk_154 0 22 (dk_at dksX5_readLaw_7 3 rfl rfl)
theorem dX5_readLaw_166 : decode cX5_readLaw 166 = .ok (.aload_n 0, 1) := dk_42 (dk_at dksX5_readLaw_7 6 rfl rfl)
theorem dX5_readLaw_167 : decode cX5_readLaw 167 = .ok (.ldc2_w 369, 3) := dk_20 1 113 (dk_at dksX5_readLaw_7 7 rfl rfl)
theorem dX5_readLaw_170 : decode cX5_readLaw 170 = .ok (.invokevirtual 292, 3) := dk_182 1 36 (dk_at dksX5_readLaw_7 10 rfl rfl)
theorem dX5_readLaw_173 : decode cX5_readLaw 173 = .ok (.ifCond .eq 12, 3) := dk_153 0 12 (dk_at dksX5_readLaw_7 13 rfl rfl)
theorem dX5_readLaw_176 : decode cX5_readLaw 176 = .ok (.aload_n 0, 1) := dk_42 (dk_at dksX5_readLaw_7 16 rfl rfl)
theorem dX5_readLaw_177 : decode cX5_readLaw 177 = .ok (.invokevirtual 243, 3) := dk_182 0 243 (dk_at dksX5_readLaw_7 17 rfl rfl)
theorem dX5_readLaw_180 : decode cX5_readLaw 180 = .ok (.aload_n 0, 1) := dk_42 (dk_at dksX5_readLaw_7 20 rfl rfl)
theorem dX5_readLaw_181 : decode cX5_readLaw 181 = .ok (.iconst 1, 1) := dk_4 (dk_at dksX5_readLaw_7 21 rfl rfl)
theorem dX5_readLaw_182 : decode cX5_readLaw 182 = .ok (.invokevirtual 366, 3) := dk_182 1 110 (dk_at dksX5_readLaw_8 0 rfl rfl)
theorem dX5_readLaw_185 : decode cX5_readLaw 185 = .ok (.aload_n 0, 1) := dk_42 (dk_at dksX5_readLaw_8 3 rfl rfl)
theorem dX5_readLaw_186 : decode cX5_readLaw 186 = .ok (.getfield 45, 3) := dk_180 0 45 (dk_at dksX5_readLaw_8 4 rfl rfl)
theorem dX5_readLaw_189 : decode cX5_readLaw 189 = .ok (.iload_n 2, 1) := dk_28 (dk_at dksX5_readLaw_8 7 rfl rfl)
theorem dX5_readLaw_190 : decode cX5_readLaw 190 = .ok (.bipush 6, 2) := dk_16 6 (dk_at dksX5_readLaw_8 8 rfl rfl)
theorem dX5_readLaw_192 : decode cX5_readLaw 192 = .ok (.iadd, 1) := dk_96 (dk_at dksX5_readLaw_8 10 rfl rfl)
theorem dX5_readLaw_193 : decode cX5_readLaw 193 = .ok (.aload_n 0, 1) := dk_42 (dk_at dksX5_readLaw_8 11 rfl rfl)
theorem dX5_readLaw_194 : decode cX5_readLaw 194 = .ok (.getfield 276, 3) := dk_180 1 20 (dk_at dksX5_readLaw_8 12 rfl rfl)
theorem dX5_readLaw_197 : decode cX5_readLaw 197 = .ok (.iastore, 1) := dk_79 (dk_at dksX5_readLaw_8 15 rfl rfl)
theorem dX5_readLaw_198 : decode cX5_readLaw 198 = .ok (.return_, 1) := dk_177 (dk_at dksX5_readLaw_8 16 rfl rfl)
abbrev cX5_isWord : ByteArray := prog_22_method_36_code
def yX5_isWord : MethodName := ⟨RX5, "isWord", "(J)Z"⟩
def dkwX5_isWord_0 : List UInt8 := [42, 180, 1, 3, 4, 160, 0, 16, 42, 180, 0, 249, 31, 148, 154, 0, 7, 4, 167, 0, 4, 3, 172]
abbrev dktX5_isWord_0 : List UInt8 := dkwX5_isWord_0 ++ []
theorem dksX5_isWord_0 : cX5_isWord.data.toList.drop 0 = dktX5_isWord_0 := by decide +kernel
theorem dX5_isWord_0 : decode cX5_isWord 0 = .ok (.aload_n 0, 1) := dk_42 (dk_at dksX5_isWord_0 0 rfl rfl)
theorem dX5_isWord_1 : decode cX5_isWord 1 = .ok (.getfield 259, 3) := dk_180 1 3 (dk_at dksX5_isWord_0 1 rfl rfl)
theorem dX5_isWord_4 : decode cX5_isWord 4 = .ok (.iconst 1, 1) := dk_4 (dk_at dksX5_isWord_0 4 rfl rfl)
theorem dX5_isWord_5 : decode cX5_isWord 5 = .ok (.if_icmp .ne 16, 3) := dk_160 0 16 (dk_at dksX5_isWord_0 5 rfl rfl)
theorem dX5_isWord_8 : decode cX5_isWord 8 = .ok (.aload_n 0, 1) := dk_42 (dk_at dksX5_isWord_0 8 rfl rfl)
theorem dX5_isWord_9 : decode cX5_isWord 9 = .ok (.getfield 249, 3) := dk_180 0 249 (dk_at dksX5_isWord_0 9 rfl rfl)
theorem dX5_isWord_12 : decode cX5_isWord 12 = .ok (.lload_n 1, 1) := dk_31 (dk_at dksX5_isWord_0 12 rfl rfl)
theorem dX5_isWord_13 : decode cX5_isWord 13 = .ok (.lcmp, 1) := dk_148 (dk_at dksX5_isWord_0 13 rfl rfl)
theorem dX5_isWord_14 : decode cX5_isWord 14 = .ok (.ifCond .ne 7, 3) := dk_154 0 7 (dk_at dksX5_isWord_0 14 rfl rfl)
theorem dX5_isWord_17 : decode cX5_isWord 17 = .ok (.iconst 1, 1) := dk_4 (dk_at dksX5_isWord_0 17 rfl rfl)
theorem dX5_isWord_18 : decode cX5_isWord 18 = .ok (.goto 4, 3) := dk_167 0 4 (dk_at dksX5_isWord_0 18 rfl rfl)
theorem dX5_isWord_21 : decode cX5_isWord 21 = .ok (.iconst 0, 1) := dk_3 (dk_at dksX5_isWord_0 21 rfl rfl)
theorem dX5_isWord_22 : decode cX5_isWord 22 = .ok (.ireturn, 1) := dk_172 (dk_at dksX5_isWord_0 22 rfl rfl)
abbrev cX5_must : ByteArray := prog_22_method_38_code
def yX5_must : MethodName := ⟨RX5, "must", "(Z)V"⟩
def dkwX5_must_1 : List UInt8 := [42, 180, 0, 239, 154, 0, 7, 42, 182, 0, 243, 177]
abbrev dktX5_must_1 : List UInt8 := dkwX5_must_1 ++ []
def dkwX5_must_0 : List UInt8 := [42, 180, 0, 239, 154, 0, 20, 27, 154, 0, 16, 42, 4, 181, 0, 239, 42, 42, 180, 0, 246, 181, 0, 41]
abbrev dktX5_must_0 : List UInt8 := dkwX5_must_0 ++ dktX5_must_1
theorem dksX5_must_0 : cX5_must.data.toList.drop 0 = dktX5_must_0 := by decide +kernel
theorem dksX5_must_1 : cX5_must.data.toList.drop 24 = dktX5_must_1 := dk_seg dksX5_must_0 24 rfl rfl
theorem dX5_must_0 : decode cX5_must 0 = .ok (.aload_n 0, 1) := dk_42 (dk_at dksX5_must_0 0 rfl rfl)
theorem dX5_must_1 : decode cX5_must 1 = .ok (.getfield 239, 3) := dk_180 0 239 (dk_at dksX5_must_0 1 rfl rfl)
theorem dX5_must_4 : decode cX5_must 4 = .ok (.ifCond .ne 20, 3) := dk_154 0 20 (dk_at dksX5_must_0 4 rfl rfl)
theorem dX5_must_7 : decode cX5_must 7 = .ok (.iload_n 1, 1) := dk_27 (dk_at dksX5_must_0 7 rfl rfl)
theorem dX5_must_8 : decode cX5_must 8 = .ok (.ifCond .ne 16, 3) := dk_154 0 16 (dk_at dksX5_must_0 8 rfl rfl)
theorem dX5_must_11 : decode cX5_must 11 = .ok (.aload_n 0, 1) := dk_42 (dk_at dksX5_must_0 11 rfl rfl)
theorem dX5_must_12 : decode cX5_must 12 = .ok (.iconst 1, 1) := dk_4 (dk_at dksX5_must_0 12 rfl rfl)
theorem dX5_must_13 : decode cX5_must 13 = .ok (.putfield 239, 3) := dk_181 0 239 (dk_at dksX5_must_0 13 rfl rfl)
theorem dX5_must_16 : decode cX5_must 16 = .ok (.aload_n 0, 1) := dk_42 (dk_at dksX5_must_0 16 rfl rfl)
theorem dX5_must_17 : decode cX5_must 17 = .ok (.aload_n 0, 1) := dk_42 (dk_at dksX5_must_0 17 rfl rfl)
theorem dX5_must_18 : decode cX5_must 18 = .ok (.getfield 246, 3) := dk_180 0 246 (dk_at dksX5_must_0 18 rfl rfl)
theorem dX5_must_21 : decode cX5_must 21 = .ok (.putfield 41, 3) := dk_181 0 41 (dk_at dksX5_must_0 21 rfl rfl)
theorem dX5_must_24 : decode cX5_must 24 = .ok (.aload_n 0, 1) := dk_42 (dk_at dksX5_must_1 0 rfl rfl)
theorem dX5_must_25 : decode cX5_must 25 = .ok (.getfield 239, 3) := dk_180 0 239 (dk_at dksX5_must_1 1 rfl rfl)
theorem dX5_must_28 : decode cX5_must 28 = .ok (.ifCond .ne 7, 3) := dk_154 0 7 (dk_at dksX5_must_1 4 rfl rfl)
theorem dX5_must_31 : decode cX5_must 31 = .ok (.aload_n 0, 1) := dk_42 (dk_at dksX5_must_1 7 rfl rfl)
theorem dX5_must_32 : decode cX5_must 32 = .ok (.invokevirtual 243, 3) := dk_182 0 243 (dk_at dksX5_must_1 8 rfl rfl)
theorem dX5_must_35 : decode cX5_must 35 = .ok (.return_, 1) := dk_177 (dk_at dksX5_must_1 11 rfl rfl)
abbrev cX5_readExpression : ByteArray := prog_22_method_55_code
def yX5_readExpression : MethodName := ⟨RX5, "readExpression", "(Z)V"⟩
def dkwX5_readExpression_3 : List UInt8 := [61, 167, 255, 203, 42, 4, 182, 1, 80, 177]
abbrev dktX5_readExpression_3 : List UInt8 := dkwX5_readExpression_3 ++ []
def dkwX5_readExpression_2 : List UInt8 := [42, 182, 1, 77, 167, 0, 20, 28, 6, 160, 0, 11, 42, 27, 182, 1, 97, 167, 0, 7, 42, 182, 1, 101]
abbrev dktX5_readExpression_2 : List UInt8 := dkwX5_readExpression_2 ++ dktX5_readExpression_3
def dkwX5_readExpression_1 : List UInt8 := [154, 0, 52, 28, 7, 159, 0, 47, 28, 154, 0, 10, 42, 182, 1, 94, 167, 0, 32, 28, 4, 160, 0, 10]
abbrev dktX5_readExpression_1 : List UInt8 := dkwX5_readExpression_1 ++ dktX5_readExpression_2
def dkwX5_readExpression_0 : List UInt8 := [42, 3, 181, 1, 23, 42, 3, 181, 1, 40, 27, 153, 0, 7, 3, 167, 0, 4, 4, 61, 42, 180, 0, 239]
abbrev dktX5_readExpression_0 : List UInt8 := dkwX5_readExpression_0 ++ dktX5_readExpression_1
theorem dksX5_readExpression_0 : cX5_readExpression.data.toList.drop 0 = dktX5_readExpression_0 := by decide +kernel
theorem dksX5_readExpression_1 : cX5_readExpression.data.toList.drop 24 = dktX5_readExpression_1 := dk_seg dksX5_readExpression_0 24 rfl rfl
theorem dksX5_readExpression_2 : cX5_readExpression.data.toList.drop 48 = dktX5_readExpression_2 := dk_seg dksX5_readExpression_1 24 rfl rfl
theorem dksX5_readExpression_3 : cX5_readExpression.data.toList.drop 72 = dktX5_readExpression_3 := dk_seg dksX5_readExpression_2 24 rfl rfl
theorem dX5_readExpression_0 : decode cX5_readExpression 0 = .ok (.aload_n 0, 1) := dk_42 (dk_at dksX5_readExpression_0 0 rfl rfl)
theorem dX5_readExpression_1 : decode cX5_readExpression 1 = .ok (.iconst 0, 1) := dk_3 (dk_at dksX5_readExpression_0 1 rfl rfl)
theorem dX5_readExpression_2 : decode cX5_readExpression 2 = .ok (.putfield 279, 3) := dk_181 1 23 (dk_at dksX5_readExpression_0 2 rfl rfl)
theorem dX5_readExpression_5 : decode cX5_readExpression 5 = .ok (.aload_n 0, 1) := dk_42 (dk_at dksX5_readExpression_0 5 rfl rfl)
theorem dX5_readExpression_6 : decode cX5_readExpression 6 = .ok (.iconst 0, 1) := dk_3 (dk_at dksX5_readExpression_0 6 rfl rfl)
theorem dX5_readExpression_7 : decode cX5_readExpression 7 = .ok (.putfield 296, 3) := dk_181 1 40 (dk_at dksX5_readExpression_0 7 rfl rfl)
theorem dX5_readExpression_10 : decode cX5_readExpression 10 = .ok (.iload_n 1, 1) := dk_27 (dk_at dksX5_readExpression_0 10 rfl rfl)
theorem dX5_readExpression_11 : decode cX5_readExpression 11 = .ok (.ifCond .eq 7, 3) := dk_153 0 7 (dk_at dksX5_readExpression_0 11 rfl rfl)
theorem dX5_readExpression_14 : decode cX5_readExpression 14 = .ok (.iconst 0, 1) := dk_3 (dk_at dksX5_readExpression_0 14 rfl rfl)
theorem dX5_readExpression_15 : decode cX5_readExpression 15 = .ok (.goto 4, 3) := dk_167 0 4 (dk_at dksX5_readExpression_0 15 rfl rfl)
theorem dX5_readExpression_18 : decode cX5_readExpression 18 = .ok (.iconst 1, 1) := dk_4 (dk_at dksX5_readExpression_0 18 rfl rfl)
theorem dX5_readExpression_19 : decode cX5_readExpression 19 = .ok (.istore_n 2, 1) := dk_61 (dk_at dksX5_readExpression_0 19 rfl rfl)
theorem dX5_readExpression_20 : decode cX5_readExpression 20 = .ok (.aload_n 0, 1) := dk_42 (dk_at dksX5_readExpression_0 20 rfl rfl)
theorem dX5_readExpression_21 : decode cX5_readExpression 21 = .ok (.getfield 239, 3) := dk_180 0 239 (dk_at dksX5_readExpression_0 21 rfl rfl)
theorem dX5_readExpression_24 : decode cX5_readExpression 24 = .ok (.ifCond .ne 52, 3) := dk_154 0 52 (dk_at dksX5_readExpression_1 0 rfl rfl)
theorem dX5_readExpression_27 : decode cX5_readExpression 27 = .ok (.iload_n 2, 1) := dk_28 (dk_at dksX5_readExpression_1 3 rfl rfl)
theorem dX5_readExpression_28 : decode cX5_readExpression 28 = .ok (.iconst 4, 1) := dk_7 (dk_at dksX5_readExpression_1 4 rfl rfl)
theorem dX5_readExpression_29 : decode cX5_readExpression 29 = .ok (.if_icmp .eq 47, 3) := dk_159 0 47 (dk_at dksX5_readExpression_1 5 rfl rfl)
theorem dX5_readExpression_32 : decode cX5_readExpression 32 = .ok (.iload_n 2, 1) := dk_28 (dk_at dksX5_readExpression_1 8 rfl rfl)
theorem dX5_readExpression_33 : decode cX5_readExpression 33 = .ok (.ifCond .ne 10, 3) := dk_154 0 10 (dk_at dksX5_readExpression_1 9 rfl rfl)
theorem dX5_readExpression_36 : decode cX5_readExpression 36 = .ok (.aload_n 0, 1) := dk_42 (dk_at dksX5_readExpression_1 12 rfl rfl)
theorem dX5_readExpression_37 : decode cX5_readExpression 37 = .ok (.invokevirtual 350, 3) := dk_182 1 94 (dk_at dksX5_readExpression_1 13 rfl rfl)
theorem dX5_readExpression_40 : decode cX5_readExpression 40 = .ok (.goto 32, 3) := dk_167 0 32 (dk_at dksX5_readExpression_1 16 rfl rfl)
theorem dX5_readExpression_43 : decode cX5_readExpression 43 = .ok (.iload_n 2, 1) := dk_28 (dk_at dksX5_readExpression_1 19 rfl rfl)
theorem dX5_readExpression_44 : decode cX5_readExpression 44 = .ok (.iconst 1, 1) := dk_4 (dk_at dksX5_readExpression_1 20 rfl rfl)
theorem dX5_readExpression_45 : decode cX5_readExpression 45 = .ok (.if_icmp .ne 10, 3) := dk_160 0 10 (dk_at dksX5_readExpression_1 21 rfl rfl)
theorem dX5_readExpression_48 : decode cX5_readExpression 48 = .ok (.aload_n 0, 1) := dk_42 (dk_at dksX5_readExpression_2 0 rfl rfl)
theorem dX5_readExpression_49 : decode cX5_readExpression 49 = .ok (.invokevirtual 333, 3) := dk_182 1 77 (dk_at dksX5_readExpression_2 1 rfl rfl)
theorem dX5_readExpression_52 : decode cX5_readExpression 52 = .ok (.goto 20, 3) := dk_167 0 20 (dk_at dksX5_readExpression_2 4 rfl rfl)
theorem dX5_readExpression_55 : decode cX5_readExpression 55 = .ok (.iload_n 2, 1) := dk_28 (dk_at dksX5_readExpression_2 7 rfl rfl)
theorem dX5_readExpression_56 : decode cX5_readExpression 56 = .ok (.iconst 3, 1) := dk_6 (dk_at dksX5_readExpression_2 8 rfl rfl)
theorem dX5_readExpression_57 : decode cX5_readExpression 57 = .ok (.if_icmp .ne 11, 3) := dk_160 0 11 (dk_at dksX5_readExpression_2 9 rfl rfl)
theorem dX5_readExpression_60 : decode cX5_readExpression 60 = .ok (.aload_n 0, 1) := dk_42 (dk_at dksX5_readExpression_2 12 rfl rfl)
theorem dX5_readExpression_61 : decode cX5_readExpression 61 = .ok (.iload_n 1, 1) := dk_27 (dk_at dksX5_readExpression_2 13 rfl rfl)
theorem dX5_readExpression_62 : decode cX5_readExpression 62 = .ok (.invokevirtual 353, 3) := dk_182 1 97 (dk_at dksX5_readExpression_2 14 rfl rfl)
theorem dX5_readExpression_65 : decode cX5_readExpression 65 = .ok (.goto 7, 3) := dk_167 0 7 (dk_at dksX5_readExpression_2 17 rfl rfl)
theorem dX5_readExpression_68 : decode cX5_readExpression 68 = .ok (.aload_n 0, 1) := dk_42 (dk_at dksX5_readExpression_2 20 rfl rfl)
theorem dX5_readExpression_69 : decode cX5_readExpression 69 = .ok (.invokevirtual 357, 3) := dk_182 1 101 (dk_at dksX5_readExpression_2 21 rfl rfl)
theorem dX5_readExpression_72 : decode cX5_readExpression 72 = .ok (.istore_n 2, 1) := dk_61 (dk_at dksX5_readExpression_3 0 rfl rfl)
theorem dX5_readExpression_73 : decode cX5_readExpression 73 = .ok (.goto (-53), 3) := dk_167 255 203 (dk_at dksX5_readExpression_3 1 rfl rfl)
theorem dX5_readExpression_76 : decode cX5_readExpression 76 = .ok (.aload_n 0, 1) := dk_42 (dk_at dksX5_readExpression_3 4 rfl rfl)
theorem dX5_readExpression_77 : decode cX5_readExpression 77 = .ok (.iconst 1, 1) := dk_4 (dk_at dksX5_readExpression_3 5 rfl rfl)
theorem dX5_readExpression_78 : decode cX5_readExpression 78 = .ok (.invokevirtual 336, 3) := dk_182 1 80 (dk_at dksX5_readExpression_3 6 rfl rfl)
theorem dX5_readExpression_81 : decode cX5_readExpression 81 = .ok (.return_, 1) := dk_177 (dk_at dksX5_readExpression_3 9 rfl rfl)
abbrev cX5_readPlain : ByteArray := prog_22_method_52_code
def yX5_readPlain : MethodName := ⟨RX5, "readPlain", "()I"⟩
def dkwX5_readPlain_1 : List UInt8 := [16, 40, 182, 1, 49, 153, 0, 11, 42, 16, 31, 182, 1, 52, 3, 172, 42, 182, 1, 77, 172]
abbrev dktX5_readPlain_1 : List UInt8 := dkwX5_readPlain_1 ++ []
def dkwX5_readPlain_0 : List UInt8 := [42, 20, 1, 75, 182, 1, 36, 153, 0, 16, 42, 16, 28, 3, 182, 1, 43, 42, 182, 0, 243, 3, 172, 42]
abbrev dktX5_readPlain_0 : List UInt8 := dkwX5_readPlain_0 ++ dktX5_readPlain_1
theorem dksX5_readPlain_0 : cX5_readPlain.data.toList.drop 0 = dktX5_readPlain_0 := by decide +kernel
theorem dksX5_readPlain_1 : cX5_readPlain.data.toList.drop 24 = dktX5_readPlain_1 := dk_seg dksX5_readPlain_0 24 rfl rfl
theorem dX5_readPlain_0 : decode cX5_readPlain 0 = .ok (.aload_n 0, 1) := dk_42 (dk_at dksX5_readPlain_0 0 rfl rfl)
theorem dX5_readPlain_1 : decode cX5_readPlain 1 = .ok (.ldc2_w 331, 3) := dk_20 1 75 (dk_at dksX5_readPlain_0 1 rfl rfl)
theorem dX5_readPlain_4 : decode cX5_readPlain 4 = .ok (.invokevirtual 292, 3) := dk_182 1 36 (dk_at dksX5_readPlain_0 4 rfl rfl)
theorem dX5_readPlain_7 : decode cX5_readPlain 7 = .ok (.ifCond .eq 16, 3) := dk_153 0 16 (dk_at dksX5_readPlain_0 7 rfl rfl)
theorem dX5_readPlain_10 : decode cX5_readPlain 10 = .ok (.aload_n 0, 1) := dk_42 (dk_at dksX5_readPlain_0 10 rfl rfl)
theorem dX5_readPlain_11 : decode cX5_readPlain 11 = .ok (.bipush 28, 2) := dk_16 28 (dk_at dksX5_readPlain_0 11 rfl rfl)
theorem dX5_readPlain_13 : decode cX5_readPlain 13 = .ok (.iconst 0, 1) := dk_3 (dk_at dksX5_readPlain_0 13 rfl rfl)
theorem dX5_readPlain_14 : decode cX5_readPlain 14 = .ok (.invokevirtual 299, 3) := dk_182 1 43 (dk_at dksX5_readPlain_0 14 rfl rfl)
theorem dX5_readPlain_17 : decode cX5_readPlain 17 = .ok (.aload_n 0, 1) := dk_42 (dk_at dksX5_readPlain_0 17 rfl rfl)
theorem dX5_readPlain_18 : decode cX5_readPlain 18 = .ok (.invokevirtual 243, 3) := dk_182 0 243 (dk_at dksX5_readPlain_0 18 rfl rfl)
theorem dX5_readPlain_21 : decode cX5_readPlain 21 = .ok (.iconst 0, 1) := dk_3 (dk_at dksX5_readPlain_0 21 rfl rfl)
theorem dX5_readPlain_22 : decode cX5_readPlain 22 = .ok (.ireturn, 1) := dk_172 (dk_at dksX5_readPlain_0 22 rfl rfl)
theorem dX5_readPlain_23 : decode cX5_readPlain 23 = .ok (.aload_n 0, 1) := dk_42 (dk_at dksX5_readPlain_0 23 rfl rfl)
theorem dX5_readPlain_24 : decode cX5_readPlain 24 = .ok (.bipush 40, 2) := dk_16 40 (dk_at dksX5_readPlain_1 0 rfl rfl)
theorem dX5_readPlain_26 : decode cX5_readPlain 26 = .ok (.invokevirtual 305, 3) := dk_182 1 49 (dk_at dksX5_readPlain_1 2 rfl rfl)
theorem dX5_readPlain_29 : decode cX5_readPlain 29 = .ok (.ifCond .eq 11, 3) := dk_153 0 11 (dk_at dksX5_readPlain_1 5 rfl rfl)
theorem dX5_readPlain_32 : decode cX5_readPlain 32 = .ok (.aload_n 0, 1) := dk_42 (dk_at dksX5_readPlain_1 8 rfl rfl)
theorem dX5_readPlain_33 : decode cX5_readPlain 33 = .ok (.bipush 31, 2) := dk_16 31 (dk_at dksX5_readPlain_1 9 rfl rfl)
theorem dX5_readPlain_35 : decode cX5_readPlain 35 = .ok (.invokevirtual 308, 3) := dk_182 1 52 (dk_at dksX5_readPlain_1 11 rfl rfl)
theorem dX5_readPlain_38 : decode cX5_readPlain 38 = .ok (.iconst 0, 1) := dk_3 (dk_at dksX5_readPlain_1 14 rfl rfl)
theorem dX5_readPlain_39 : decode cX5_readPlain 39 = .ok (.ireturn, 1) := dk_172 (dk_at dksX5_readPlain_1 15 rfl rfl)
theorem dX5_readPlain_40 : decode cX5_readPlain 40 = .ok (.aload_n 0, 1) := dk_42 (dk_at dksX5_readPlain_1 16 rfl rfl)
theorem dX5_readPlain_41 : decode cX5_readPlain 41 = .ok (.invokevirtual 333, 3) := dk_182 1 77 (dk_at dksX5_readPlain_1 17 rfl rfl)
theorem dX5_readPlain_44 : decode cX5_readPlain 44 = .ok (.ireturn, 1) := dk_172 (dk_at dksX5_readPlain_1 20 rfl rfl)
abbrev cX5_push : ByteArray := prog_22_method_42_code
def yX5_push : MethodName := ⟨RX5, "push", "(II)V"⟩
def dkwX5_push_1 : List UInt8 := [180, 1, 23, 4, 96, 181, 1, 23, 177]
abbrev dktX5_push_1 : List UInt8 := dkwX5_push_1 ++ []
def dkwX5_push_0 : List UInt8 := [42, 180, 0, 54, 42, 180, 1, 23, 27, 79, 42, 180, 0, 57, 42, 180, 1, 23, 28, 79, 42, 89]
abbrev dktX5_push_0 : List UInt8 := dkwX5_push_0 ++ dktX5_push_1
theorem dksX5_push_0 : cX5_push.data.toList.drop 0 = dktX5_push_0 := by decide +kernel
theorem dksX5_push_1 : cX5_push.data.toList.drop 22 = dktX5_push_1 := dk_seg dksX5_push_0 22 rfl rfl
theorem dX5_push_0 : decode cX5_push 0 = .ok (.aload_n 0, 1) := dk_42 (dk_at dksX5_push_0 0 rfl rfl)
theorem dX5_push_1 : decode cX5_push 1 = .ok (.getfield 54, 3) := dk_180 0 54 (dk_at dksX5_push_0 1 rfl rfl)
theorem dX5_push_4 : decode cX5_push 4 = .ok (.aload_n 0, 1) := dk_42 (dk_at dksX5_push_0 4 rfl rfl)
theorem dX5_push_5 : decode cX5_push 5 = .ok (.getfield 279, 3) := dk_180 1 23 (dk_at dksX5_push_0 5 rfl rfl)
theorem dX5_push_8 : decode cX5_push 8 = .ok (.iload_n 1, 1) := dk_27 (dk_at dksX5_push_0 8 rfl rfl)
theorem dX5_push_9 : decode cX5_push 9 = .ok (.iastore, 1) := dk_79 (dk_at dksX5_push_0 9 rfl rfl)
theorem dX5_push_10 : decode cX5_push 10 = .ok (.aload_n 0, 1) := dk_42 (dk_at dksX5_push_0 10 rfl rfl)
theorem dX5_push_11 : decode cX5_push 11 = .ok (.getfield 57, 3) := dk_180 0 57 (dk_at dksX5_push_0 11 rfl rfl)
theorem dX5_push_14 : decode cX5_push 14 = .ok (.aload_n 0, 1) := dk_42 (dk_at dksX5_push_0 14 rfl rfl)
theorem dX5_push_15 : decode cX5_push 15 = .ok (.getfield 279, 3) := dk_180 1 23 (dk_at dksX5_push_0 15 rfl rfl)
theorem dX5_push_18 : decode cX5_push 18 = .ok (.iload_n 2, 1) := dk_28 (dk_at dksX5_push_0 18 rfl rfl)
theorem dX5_push_19 : decode cX5_push 19 = .ok (.iastore, 1) := dk_79 (dk_at dksX5_push_0 19 rfl rfl)
theorem dX5_push_20 : decode cX5_push 20 = .ok (.aload_n 0, 1) := dk_42 (dk_at dksX5_push_0 20 rfl rfl)
theorem dX5_push_21 : decode cX5_push 21 = .ok (.dup, 1) := dk_89 (dk_at dksX5_push_0 21 rfl rfl)
theorem dX5_push_22 : decode cX5_push 22 = .ok (.getfield 279, 3) := dk_180 1 23 (dk_at dksX5_push_1 0 rfl rfl)
theorem dX5_push_25 : decode cX5_push 25 = .ok (.iconst 1, 1) := dk_4 (dk_at dksX5_push_1 3 rfl rfl)
theorem dX5_push_26 : decode cX5_push 26 = .ok (.iadd, 1) := dk_96 (dk_at dksX5_push_1 4 rfl rfl)
theorem dX5_push_27 : decode cX5_push 27 = .ok (.putfield 279, 3) := dk_181 1 23 (dk_at dksX5_push_1 5 rfl rfl)
theorem dX5_push_30 : decode cX5_push 30 = .ok (.return_, 1) := dk_177 (dk_at dksX5_push_1 8 rfl rfl)
abbrev cX5_isSign : ByteArray := prog_22_method_37_code
def yX5_isSign : MethodName := ⟨RX5, "isSign", "(I)Z"⟩
def dkwX5_isSign_0 : List UInt8 := [42, 180, 1, 3, 6, 160, 0, 17, 42, 180, 0, 249, 27, 133, 148, 154, 0, 7, 4, 167, 0, 4, 3, 172]
abbrev dktX5_isSign_0 : List UInt8 := dkwX5_isSign_0 ++ []
theorem dksX5_isSign_0 : cX5_isSign.data.toList.drop 0 = dktX5_isSign_0 := by decide +kernel
theorem dX5_isSign_0 : decode cX5_isSign 0 = .ok (.aload_n 0, 1) := dk_42 (dk_at dksX5_isSign_0 0 rfl rfl)
theorem dX5_isSign_1 : decode cX5_isSign 1 = .ok (.getfield 259, 3) := dk_180 1 3 (dk_at dksX5_isSign_0 1 rfl rfl)
theorem dX5_isSign_4 : decode cX5_isSign 4 = .ok (.iconst 3, 1) := dk_6 (dk_at dksX5_isSign_0 4 rfl rfl)
theorem dX5_isSign_5 : decode cX5_isSign 5 = .ok (.if_icmp .ne 17, 3) := dk_160 0 17 (dk_at dksX5_isSign_0 5 rfl rfl)
theorem dX5_isSign_8 : decode cX5_isSign 8 = .ok (.aload_n 0, 1) := dk_42 (dk_at dksX5_isSign_0 8 rfl rfl)
theorem dX5_isSign_9 : decode cX5_isSign 9 = .ok (.getfield 249, 3) := dk_180 0 249 (dk_at dksX5_isSign_0 9 rfl rfl)
theorem dX5_isSign_12 : decode cX5_isSign 12 = .ok (.iload_n 1, 1) := dk_27 (dk_at dksX5_isSign_0 12 rfl rfl)
theorem dX5_isSign_13 : decode cX5_isSign 13 = .ok (.i2l, 1) := dk_133 (dk_at dksX5_isSign_0 13 rfl rfl)
theorem dX5_isSign_14 : decode cX5_isSign 14 = .ok (.lcmp, 1) := dk_148 (dk_at dksX5_isSign_0 14 rfl rfl)
theorem dX5_isSign_15 : decode cX5_isSign 15 = .ok (.ifCond .ne 7, 3) := dk_154 0 7 (dk_at dksX5_isSign_0 15 rfl rfl)
theorem dX5_isSign_18 : decode cX5_isSign 18 = .ok (.iconst 1, 1) := dk_4 (dk_at dksX5_isSign_0 18 rfl rfl)
theorem dX5_isSign_19 : decode cX5_isSign 19 = .ok (.goto 4, 3) := dk_167 0 4 (dk_at dksX5_isSign_0 19 rfl rfl)
theorem dX5_isSign_22 : decode cX5_isSign 22 = .ok (.iconst 0, 1) := dk_3 (dk_at dksX5_isSign_0 22 rfl rfl)
theorem dX5_isSign_23 : decode cX5_isSign 23 = .ok (.ireturn, 1) := dk_172 (dk_at dksX5_isSign_0 23 rfl rfl)
abbrev cX5_openBracket : ByteArray := prog_22_method_49_code
def yX5_openBracket : MethodName := ⟨RX5, "openBracket", "(I)V"⟩
def dkwX5_openBracket_1 : List UInt8 := [154, 0, 19, 42, 89, 180, 1, 40, 4, 96, 181, 1, 40, 42, 27, 3, 182, 1, 43, 177]
abbrev dktX5_openBracket_1 : List UInt8 := dkwX5_openBracket_1 ++ []
def dkwX5_openBracket_0 : List UInt8 := [42, 42, 180, 1, 40, 16, 8, 162, 0, 7, 4, 167, 0, 4, 3, 182, 1, 16, 42, 180, 0, 239]
abbrev dktX5_openBracket_0 : List UInt8 := dkwX5_openBracket_0 ++ dktX5_openBracket_1
theorem dksX5_openBracket_0 : cX5_openBracket.data.toList.drop 0 = dktX5_openBracket_0 := by decide +kernel
theorem dksX5_openBracket_1 : cX5_openBracket.data.toList.drop 22 = dktX5_openBracket_1 := dk_seg dksX5_openBracket_0 22 rfl rfl
theorem dX5_openBracket_0 : decode cX5_openBracket 0 = .ok (.aload_n 0, 1) := dk_42 (dk_at dksX5_openBracket_0 0 rfl rfl)
theorem dX5_openBracket_1 : decode cX5_openBracket 1 = .ok (.aload_n 0, 1) := dk_42 (dk_at dksX5_openBracket_0 1 rfl rfl)
theorem dX5_openBracket_2 : decode cX5_openBracket 2 = .ok (.getfield 296, 3) := dk_180 1 40 (dk_at dksX5_openBracket_0 2 rfl rfl)
theorem dX5_openBracket_5 : decode cX5_openBracket 5 = .ok (.bipush 8, 2) := dk_16 8 (dk_at dksX5_openBracket_0 5 rfl rfl)
theorem dX5_openBracket_7 : decode cX5_openBracket 7 = .ok (.if_icmp .ge 7, 3) := dk_162 0 7 (dk_at dksX5_openBracket_0 7 rfl rfl)
theorem dX5_openBracket_10 : decode cX5_openBracket 10 = .ok (.iconst 1, 1) := dk_4 (dk_at dksX5_openBracket_0 10 rfl rfl)
theorem dX5_openBracket_11 : decode cX5_openBracket 11 = .ok (.goto 4, 3) := dk_167 0 4 (dk_at dksX5_openBracket_0 11 rfl rfl)
theorem dX5_openBracket_14 : decode cX5_openBracket 14 = .ok (.iconst 0, 1) := dk_3 (dk_at dksX5_openBracket_0 14 rfl rfl)
theorem dX5_openBracket_15 : decode cX5_openBracket 15 = .ok (.invokevirtual 272, 3) := dk_182 1 16 (dk_at dksX5_openBracket_0 15 rfl rfl)
theorem dX5_openBracket_18 : decode cX5_openBracket 18 = .ok (.aload_n 0, 1) := dk_42 (dk_at dksX5_openBracket_0 18 rfl rfl)
theorem dX5_openBracket_19 : decode cX5_openBracket 19 = .ok (.getfield 239, 3) := dk_180 0 239 (dk_at dksX5_openBracket_0 19 rfl rfl)
theorem dX5_openBracket_22 : decode cX5_openBracket 22 = .ok (.ifCond .ne 19, 3) := dk_154 0 19 (dk_at dksX5_openBracket_1 0 rfl rfl)
theorem dX5_openBracket_25 : decode cX5_openBracket 25 = .ok (.aload_n 0, 1) := dk_42 (dk_at dksX5_openBracket_1 3 rfl rfl)
theorem dX5_openBracket_26 : decode cX5_openBracket 26 = .ok (.dup, 1) := dk_89 (dk_at dksX5_openBracket_1 4 rfl rfl)
theorem dX5_openBracket_27 : decode cX5_openBracket 27 = .ok (.getfield 296, 3) := dk_180 1 40 (dk_at dksX5_openBracket_1 5 rfl rfl)
theorem dX5_openBracket_30 : decode cX5_openBracket 30 = .ok (.iconst 1, 1) := dk_4 (dk_at dksX5_openBracket_1 8 rfl rfl)
theorem dX5_openBracket_31 : decode cX5_openBracket 31 = .ok (.iadd, 1) := dk_96 (dk_at dksX5_openBracket_1 9 rfl rfl)
theorem dX5_openBracket_32 : decode cX5_openBracket 32 = .ok (.putfield 296, 3) := dk_181 1 40 (dk_at dksX5_openBracket_1 10 rfl rfl)
theorem dX5_openBracket_35 : decode cX5_openBracket 35 = .ok (.aload_n 0, 1) := dk_42 (dk_at dksX5_openBracket_1 13 rfl rfl)
theorem dX5_openBracket_36 : decode cX5_openBracket 36 = .ok (.iload_n 1, 1) := dk_27 (dk_at dksX5_openBracket_1 14 rfl rfl)
theorem dX5_openBracket_37 : decode cX5_openBracket 37 = .ok (.iconst 0, 1) := dk_3 (dk_at dksX5_openBracket_1 15 rfl rfl)
theorem dX5_openBracket_38 : decode cX5_openBracket 38 = .ok (.invokevirtual 299, 3) := dk_182 1 43 (dk_at dksX5_openBracket_1 16 rfl rfl)
theorem dX5_openBracket_41 : decode cX5_openBracket 41 = .ok (.return_, 1) := dk_177 (dk_at dksX5_openBracket_1 19 rfl rfl)
abbrev cX5_readPart : ByteArray := prog_22_method_51_code
def yX5_readPart : MethodName := ⟨RX5, "readPart", "()I"⟩
def dkwX5_readPart_6 : List UInt8 := [6, 172]
abbrev dktX5_readPart_6 : List UInt8 := dkwX5_readPart_6 ++ []
def dkwX5_readPart_5 : List UInt8 := [154, 0, 24, 42, 180, 1, 20, 4, 100, 62, 42, 180, 0, 51, 29, 42, 9, 20, 0, 215, 182, 1, 71, 79]
abbrev dktX5_readPart_5 : List UInt8 := dkwX5_readPart_5 ++ dktX5_readPart_6
def dkwX5_readPart_4 : List UInt8 := [167, 0, 4, 3, 182, 1, 67, 42, 180, 1, 55, 153, 0, 36, 27, 7, 161, 0, 31, 42, 180, 0, 239]
abbrev dktX5_readPart_4 : List UInt8 := dkwX5_readPart_4 ++ dktX5_readPart_5
def dkwX5_readPart_3 : List UInt8 := [167, 0, 4, 3, 27, 2, 160, 0, 7, 3, 167, 0, 4, 27, 28, 153, 0, 11, 42, 180, 0, 249, 136]
abbrev dktX5_readPart_3 : List UInt8 := dkwX5_readPart_3 ++ dktX5_readPart_4
def dkwX5_readPart_2 : List UInt8 := [20, 1, 65, 148, 157, 0, 7, 4, 167, 0, 4, 3, 61, 42, 27, 2, 160, 0, 7, 28, 153, 0, 7, 4]
abbrev dktX5_readPart_2 : List UInt8 := dkwX5_readPart_2 ++ dktX5_readPart_3
def dkwX5_readPart_1 : List UInt8 := [42, 182, 1, 58, 167, 0, 7, 42, 182, 1, 62, 60, 42, 180, 1, 3, 5, 160, 0, 18, 42, 180, 0, 249]
abbrev dktX5_readPart_1 : List UInt8 := dkwX5_readPart_1 ++ dktX5_readPart_2
def dkwX5_readPart_0 : List UInt8 := [42, 16, 91, 182, 1, 49, 153, 0, 11, 42, 16, 32, 182, 1, 52, 4, 172, 42, 180, 1, 55, 153, 0, 10]
abbrev dktX5_readPart_0 : List UInt8 := dkwX5_readPart_0 ++ dktX5_readPart_1
theorem dksX5_readPart_0 : cX5_readPart.data.toList.drop 0 = dktX5_readPart_0 := by decide +kernel
theorem dksX5_readPart_1 : cX5_readPart.data.toList.drop 24 = dktX5_readPart_1 := dk_seg dksX5_readPart_0 24 rfl rfl
theorem dksX5_readPart_2 : cX5_readPart.data.toList.drop 48 = dktX5_readPart_2 := dk_seg dksX5_readPart_1 24 rfl rfl
theorem dksX5_readPart_3 : cX5_readPart.data.toList.drop 72 = dktX5_readPart_3 := dk_seg dksX5_readPart_2 24 rfl rfl
theorem dksX5_readPart_4 : cX5_readPart.data.toList.drop 95 = dktX5_readPart_4 := dk_seg dksX5_readPart_3 23 rfl rfl
theorem dksX5_readPart_5 : cX5_readPart.data.toList.drop 118 = dktX5_readPart_5 := dk_seg dksX5_readPart_4 23 rfl rfl
theorem dksX5_readPart_6 : cX5_readPart.data.toList.drop 142 = dktX5_readPart_6 := dk_seg dksX5_readPart_5 24 rfl rfl
theorem dX5_readPart_0 : decode cX5_readPart 0 = .ok (.aload_n 0, 1) := dk_42 (dk_at dksX5_readPart_0 0 rfl rfl)
theorem dX5_readPart_1 : decode cX5_readPart 1 = .ok (.bipush 91, 2) := dk_16 91 (dk_at dksX5_readPart_0 1 rfl rfl)
theorem dX5_readPart_3 : decode cX5_readPart 3 = .ok (.invokevirtual 305, 3) := dk_182 1 49 (dk_at dksX5_readPart_0 3 rfl rfl)
theorem dX5_readPart_6 : decode cX5_readPart 6 = .ok (.ifCond .eq 11, 3) := dk_153 0 11 (dk_at dksX5_readPart_0 6 rfl rfl)
theorem dX5_readPart_9 : decode cX5_readPart 9 = .ok (.aload_n 0, 1) := dk_42 (dk_at dksX5_readPart_0 9 rfl rfl)
theorem dX5_readPart_10 : decode cX5_readPart 10 = .ok (.bipush 32, 2) := dk_16 32 (dk_at dksX5_readPart_0 10 rfl rfl)
theorem dX5_readPart_12 : decode cX5_readPart 12 = .ok (.invokevirtual 308, 3) := dk_182 1 52 (dk_at dksX5_readPart_0 12 rfl rfl)
theorem dX5_readPart_15 : decode cX5_readPart 15 = .ok (.iconst 1, 1) := dk_4 (dk_at dksX5_readPart_0 15 rfl rfl)
theorem dX5_readPart_16 : decode cX5_readPart 16 = .ok (.ireturn, 1) := dk_172 (dk_at dksX5_readPart_0 16 rfl rfl)
theorem dX5_readPart_17 : decode cX5_readPart 17 = .ok (.aload_n 0, 1) := dk_42 (dk_at dksX5_readPart_0 17 rfl rfl)
theorem dX5_readPart_18 : decode cX5_readPart 18 = .ok (.getfield 311, 3) := dk_180 1 55 (dk_at dksX5_readPart_0 18 rfl rfl)
theorem dX5_readPart_21 : decode cX5_readPart 21 = .ok (.ifCond .eq 10, 3) := dk_153 0 10 (dk_at dksX5_readPart_0 21 rfl rfl)
theorem dX5_readPart_24 : decode cX5_readPart 24 = .ok (.aload_n 0, 1) := dk_42 (dk_at dksX5_readPart_1 0 rfl rfl)
theorem dX5_readPart_25 : decode cX5_readPart 25 = .ok (.invokevirtual 314, 3) := dk_182 1 58 (dk_at dksX5_readPart_1 1 rfl rfl)
theorem dX5_readPart_28 : decode cX5_readPart 28 = .ok (.goto 7, 3) := dk_167 0 7 (dk_at dksX5_readPart_1 4 rfl rfl)
theorem dX5_readPart_31 : decode cX5_readPart 31 = .ok (.aload_n 0, 1) := dk_42 (dk_at dksX5_readPart_1 7 rfl rfl)
theorem dX5_readPart_32 : decode cX5_readPart 32 = .ok (.invokevirtual 318, 3) := dk_182 1 62 (dk_at dksX5_readPart_1 8 rfl rfl)
theorem dX5_readPart_35 : decode cX5_readPart 35 = .ok (.istore_n 1, 1) := dk_60 (dk_at dksX5_readPart_1 11 rfl rfl)
theorem dX5_readPart_36 : decode cX5_readPart 36 = .ok (.aload_n 0, 1) := dk_42 (dk_at dksX5_readPart_1 12 rfl rfl)
theorem dX5_readPart_37 : decode cX5_readPart 37 = .ok (.getfield 259, 3) := dk_180 1 3 (dk_at dksX5_readPart_1 13 rfl rfl)
theorem dX5_readPart_40 : decode cX5_readPart 40 = .ok (.iconst 2, 1) := dk_5 (dk_at dksX5_readPart_1 16 rfl rfl)
theorem dX5_readPart_41 : decode cX5_readPart 41 = .ok (.if_icmp .ne 18, 3) := dk_160 0 18 (dk_at dksX5_readPart_1 17 rfl rfl)
theorem dX5_readPart_44 : decode cX5_readPart 44 = .ok (.aload_n 0, 1) := dk_42 (dk_at dksX5_readPart_1 20 rfl rfl)
theorem dX5_readPart_45 : decode cX5_readPart 45 = .ok (.getfield 249, 3) := dk_180 0 249 (dk_at dksX5_readPart_1 21 rfl rfl)
theorem dX5_readPart_48 : decode cX5_readPart 48 = .ok (.ldc2_w 321, 3) := dk_20 1 65 (dk_at dksX5_readPart_2 0 rfl rfl)
theorem dX5_readPart_51 : decode cX5_readPart 51 = .ok (.lcmp, 1) := dk_148 (dk_at dksX5_readPart_2 3 rfl rfl)
theorem dX5_readPart_52 : decode cX5_readPart 52 = .ok (.ifCond .gt 7, 3) := dk_157 0 7 (dk_at dksX5_readPart_2 4 rfl rfl)
theorem dX5_readPart_55 : decode cX5_readPart 55 = .ok (.iconst 1, 1) := dk_4 (dk_at dksX5_readPart_2 7 rfl rfl)
theorem dX5_readPart_56 : decode cX5_readPart 56 = .ok (.goto 4, 3) := dk_167 0 4 (dk_at dksX5_readPart_2 8 rfl rfl)
theorem dX5_readPart_59 : decode cX5_readPart 59 = .ok (.iconst 0, 1) := dk_3 (dk_at dksX5_readPart_2 11 rfl rfl)
theorem dX5_readPart_60 : decode cX5_readPart 60 = .ok (.istore_n 2, 1) := dk_61 (dk_at dksX5_readPart_2 12 rfl rfl)
theorem dX5_readPart_61 : decode cX5_readPart 61 = .ok (.aload_n 0, 1) := dk_42 (dk_at dksX5_readPart_2 13 rfl rfl)
theorem dX5_readPart_62 : decode cX5_readPart 62 = .ok (.iload_n 1, 1) := dk_27 (dk_at dksX5_readPart_2 14 rfl rfl)
theorem dX5_readPart_63 : decode cX5_readPart 63 = .ok (.iconst (-1), 1) := dk_2 (dk_at dksX5_readPart_2 15 rfl rfl)
theorem dX5_readPart_64 : decode cX5_readPart 64 = .ok (.if_icmp .ne 7, 3) := dk_160 0 7 (dk_at dksX5_readPart_2 16 rfl rfl)
theorem dX5_readPart_67 : decode cX5_readPart 67 = .ok (.iload_n 2, 1) := dk_28 (dk_at dksX5_readPart_2 19 rfl rfl)
theorem dX5_readPart_68 : decode cX5_readPart 68 = .ok (.ifCond .eq 7, 3) := dk_153 0 7 (dk_at dksX5_readPart_2 20 rfl rfl)
theorem dX5_readPart_71 : decode cX5_readPart 71 = .ok (.iconst 1, 1) := dk_4 (dk_at dksX5_readPart_2 23 rfl rfl)
theorem dX5_readPart_72 : decode cX5_readPart 72 = .ok (.goto 4, 3) := dk_167 0 4 (dk_at dksX5_readPart_3 0 rfl rfl)
theorem dX5_readPart_75 : decode cX5_readPart 75 = .ok (.iconst 0, 1) := dk_3 (dk_at dksX5_readPart_3 3 rfl rfl)
theorem dX5_readPart_76 : decode cX5_readPart 76 = .ok (.iload_n 1, 1) := dk_27 (dk_at dksX5_readPart_3 4 rfl rfl)
theorem dX5_readPart_77 : decode cX5_readPart 77 = .ok (.iconst (-1), 1) := dk_2 (dk_at dksX5_readPart_3 5 rfl rfl)
theorem dX5_readPart_78 : decode cX5_readPart 78 = .ok (.if_icmp .ne 7, 3) := dk_160 0 7 (dk_at dksX5_readPart_3 6 rfl rfl)
theorem dX5_readPart_81 : decode cX5_readPart 81 = .ok (.iconst 0, 1) := dk_3 (dk_at dksX5_readPart_3 9 rfl rfl)
theorem dX5_readPart_82 : decode cX5_readPart 82 = .ok (.goto 4, 3) := dk_167 0 4 (dk_at dksX5_readPart_3 10 rfl rfl)
theorem dX5_readPart_85 : decode cX5_readPart 85 = .ok (.iload_n 1, 1) := dk_27 (dk_at dksX5_readPart_3 13 rfl rfl)
theorem dX5_readPart_86 : decode cX5_readPart 86 = .ok (.iload_n 2, 1) := dk_28 (dk_at dksX5_readPart_3 14 rfl rfl)
theorem dX5_readPart_87 : decode cX5_readPart 87 = .ok (.ifCond .eq 11, 3) := dk_153 0 11 (dk_at dksX5_readPart_3 15 rfl rfl)
theorem dX5_readPart_90 : decode cX5_readPart 90 = .ok (.aload_n 0, 1) := dk_42 (dk_at dksX5_readPart_3 18 rfl rfl)
theorem dX5_readPart_91 : decode cX5_readPart 91 = .ok (.getfield 249, 3) := dk_180 0 249 (dk_at dksX5_readPart_3 19 rfl rfl)
theorem dX5_readPart_94 : decode cX5_readPart 94 = .ok (.l2i, 1) := dk_136 (dk_at dksX5_readPart_3 22 rfl rfl)
theorem dX5_readPart_95 : decode cX5_readPart 95 = .ok (.goto 4, 3) := dk_167 0 4 (dk_at dksX5_readPart_4 0 rfl rfl)
theorem dX5_readPart_98 : decode cX5_readPart 98 = .ok (.iconst 0, 1) := dk_3 (dk_at dksX5_readPart_4 3 rfl rfl)
theorem dX5_readPart_99 : decode cX5_readPart 99 = .ok (.invokevirtual 323, 3) := dk_182 1 67 (dk_at dksX5_readPart_4 4 rfl rfl)
theorem dX5_readPart_102 : decode cX5_readPart 102 = .ok (.aload_n 0, 1) := dk_42 (dk_at dksX5_readPart_4 7 rfl rfl)
theorem dX5_readPart_103 : decode cX5_readPart 103 = .ok (.getfield 311, 3) := dk_180 1 55 (dk_at dksX5_readPart_4 8 rfl rfl)
theorem dX5_readPart_106 : decode cX5_readPart 106 = .ok (.ifCond .eq 36, 3) := dk_153 0 36 (dk_at dksX5_readPart_4 11 rfl rfl)
theorem dX5_readPart_109 : decode cX5_readPart 109 = .ok (.iload_n 1, 1) := dk_27 (dk_at dksX5_readPart_4 14 rfl rfl)
theorem dX5_readPart_110 : decode cX5_readPart 110 = .ok (.iconst 4, 1) := dk_7 (dk_at dksX5_readPart_4 15 rfl rfl)
theorem dX5_readPart_111 : decode cX5_readPart 111 = .ok (.if_icmp .lt 31, 3) := dk_161 0 31 (dk_at dksX5_readPart_4 16 rfl rfl)
theorem dX5_readPart_114 : decode cX5_readPart 114 = .ok (.aload_n 0, 1) := dk_42 (dk_at dksX5_readPart_4 19 rfl rfl)
theorem dX5_readPart_115 : decode cX5_readPart 115 = .ok (.getfield 239, 3) := dk_180 0 239 (dk_at dksX5_readPart_4 20 rfl rfl)
theorem dX5_readPart_118 : decode cX5_readPart 118 = .ok (.ifCond .ne 24, 3) := dk_154 0 24 (dk_at dksX5_readPart_5 0 rfl rfl)
theorem dX5_readPart_121 : decode cX5_readPart 121 = .ok (.aload_n 0, 1) := dk_42 (dk_at dksX5_readPart_5 3 rfl rfl)
theorem dX5_readPart_122 : decode cX5_readPart 122 = .ok (.getfield 276, 3) := dk_180 1 20 (dk_at dksX5_readPart_5 4 rfl rfl)
theorem dX5_readPart_125 : decode cX5_readPart 125 = .ok (.iconst 1, 1) := dk_4 (dk_at dksX5_readPart_5 7 rfl rfl)
theorem dX5_readPart_126 : decode cX5_readPart 126 = .ok (.isub, 1) := dk_100 (dk_at dksX5_readPart_5 8 rfl rfl)
theorem dX5_readPart_127 : decode cX5_readPart 127 = .ok (.istore_n 3, 1) := dk_62 (dk_at dksX5_readPart_5 9 rfl rfl)
theorem dX5_readPart_128 : decode cX5_readPart 128 = .ok (.aload_n 0, 1) := dk_42 (dk_at dksX5_readPart_5 10 rfl rfl)
theorem dX5_readPart_129 : decode cX5_readPart 129 = .ok (.getfield 51, 3) := dk_180 0 51 (dk_at dksX5_readPart_5 11 rfl rfl)
theorem dX5_readPart_132 : decode cX5_readPart 132 = .ok (.iload_n 3, 1) := dk_29 (dk_at dksX5_readPart_5 14 rfl rfl)
theorem dX5_readPart_133 : decode cX5_readPart 133 = .ok (.aload_n 0, 1) := dk_42 (dk_at dksX5_readPart_5 15 rfl rfl)
theorem dX5_readPart_134 : decode cX5_readPart 134 = .ok (.lconst 0, 1) := dk_9 (dk_at dksX5_readPart_5 16 rfl rfl)
theorem dX5_readPart_135 : decode cX5_readPart 135 = .ok (.ldc2_w 215, 3) := dk_20 0 215 (dk_at dksX5_readPart_5 17 rfl rfl)
theorem dX5_readPart_138 : decode cX5_readPart 138 = .ok (.invokevirtual 327, 3) := dk_182 1 71 (dk_at dksX5_readPart_5 20 rfl rfl)
theorem dX5_readPart_141 : decode cX5_readPart 141 = .ok (.iastore, 1) := dk_79 (dk_at dksX5_readPart_5 23 rfl rfl)
theorem dX5_readPart_142 : decode cX5_readPart 142 = .ok (.iconst 3, 1) := dk_6 (dk_at dksX5_readPart_6 0 rfl rfl)
theorem dX5_readPart_143 : decode cX5_readPart 143 = .ok (.ireturn, 1) := dk_172 (dk_at dksX5_readPart_6 1 rfl rfl)
abbrev cX5_orderPartAt : ByteArray := prog_22_method_48_code
def yX5_orderPartAt : MethodName := ⟨RX5, "orderPartAt", "()I"⟩
def dkwX5_orderPartAt_1 : List UInt8 := [96, 167, 0, 4, 27, 60, 132, 2, 1, 167, 255, 227, 27, 172]
abbrev dktX5_orderPartAt_1 : List UInt8 := dkwX5_orderPartAt_1 ++ []
def dkwX5_orderPartAt_0 : List UInt8 := [2, 60, 3, 61, 28, 8, 162, 0, 30, 42, 42, 180, 0, 102, 28, 47, 182, 1, 36, 153, 0, 9, 28, 4]
abbrev dktX5_orderPartAt_0 : List UInt8 := dkwX5_orderPartAt_0 ++ dktX5_orderPartAt_1
theorem dksX5_orderPartAt_0 : cX5_orderPartAt.data.toList.drop 0 = dktX5_orderPartAt_0 := by decide +kernel
theorem dksX5_orderPartAt_1 : cX5_orderPartAt.data.toList.drop 24 = dktX5_orderPartAt_1 := dk_seg dksX5_orderPartAt_0 24 rfl rfl
theorem dX5_orderPartAt_0 : decode cX5_orderPartAt 0 = .ok (.iconst (-1), 1) := dk_2 (dk_at dksX5_orderPartAt_0 0 rfl rfl)
theorem dX5_orderPartAt_1 : decode cX5_orderPartAt 1 = .ok (.istore_n 1, 1) := dk_60 (dk_at dksX5_orderPartAt_0 1 rfl rfl)
theorem dX5_orderPartAt_2 : decode cX5_orderPartAt 2 = .ok (.iconst 0, 1) := dk_3 (dk_at dksX5_orderPartAt_0 2 rfl rfl)
theorem dX5_orderPartAt_3 : decode cX5_orderPartAt 3 = .ok (.istore_n 2, 1) := dk_61 (dk_at dksX5_orderPartAt_0 3 rfl rfl)
theorem dX5_orderPartAt_4 : decode cX5_orderPartAt 4 = .ok (.iload_n 2, 1) := dk_28 (dk_at dksX5_orderPartAt_0 4 rfl rfl)
theorem dX5_orderPartAt_5 : decode cX5_orderPartAt 5 = .ok (.iconst 5, 1) := dk_8 (dk_at dksX5_orderPartAt_0 5 rfl rfl)
theorem dX5_orderPartAt_6 : decode cX5_orderPartAt 6 = .ok (.if_icmp .ge 30, 3) := dk_162 0 30 (dk_at dksX5_orderPartAt_0 6 rfl rfl)
theorem dX5_orderPartAt_9 : decode cX5_orderPartAt 9 = .ok (.aload_n 0, 1) := dk_42 (dk_at dksX5_orderPartAt_0 9 rfl rfl)
theorem dX5_orderPartAt_10 : decode cX5_orderPartAt 10 = .ok (.aload_n 0, 1) := dk_42 (dk_at dksX5_orderPartAt_0 10 rfl rfl)
theorem dX5_orderPartAt_11 : decode cX5_orderPartAt 11 = .ok (.getfield 102, 3) := dk_180 0 102 (dk_at dksX5_orderPartAt_0 11 rfl rfl)
theorem dX5_orderPartAt_14 : decode cX5_orderPartAt 14 = .ok (.iload_n 2, 1) := dk_28 (dk_at dksX5_orderPartAt_0 14 rfl rfl)
theorem dX5_orderPartAt_15 : decode cX5_orderPartAt 15 = .ok (.laload, 1) := dk_47 (dk_at dksX5_orderPartAt_0 15 rfl rfl)
theorem dX5_orderPartAt_16 : decode cX5_orderPartAt 16 = .ok (.invokevirtual 292, 3) := dk_182 1 36 (dk_at dksX5_orderPartAt_0 16 rfl rfl)
theorem dX5_orderPartAt_19 : decode cX5_orderPartAt 19 = .ok (.ifCond .eq 9, 3) := dk_153 0 9 (dk_at dksX5_orderPartAt_0 19 rfl rfl)
theorem dX5_orderPartAt_22 : decode cX5_orderPartAt 22 = .ok (.iload_n 2, 1) := dk_28 (dk_at dksX5_orderPartAt_0 22 rfl rfl)
theorem dX5_orderPartAt_23 : decode cX5_orderPartAt 23 = .ok (.iconst 1, 1) := dk_4 (dk_at dksX5_orderPartAt_0 23 rfl rfl)
theorem dX5_orderPartAt_24 : decode cX5_orderPartAt 24 = .ok (.iadd, 1) := dk_96 (dk_at dksX5_orderPartAt_1 0 rfl rfl)
theorem dX5_orderPartAt_25 : decode cX5_orderPartAt 25 = .ok (.goto 4, 3) := dk_167 0 4 (dk_at dksX5_orderPartAt_1 1 rfl rfl)
theorem dX5_orderPartAt_28 : decode cX5_orderPartAt 28 = .ok (.iload_n 1, 1) := dk_27 (dk_at dksX5_orderPartAt_1 4 rfl rfl)
theorem dX5_orderPartAt_29 : decode cX5_orderPartAt 29 = .ok (.istore_n 1, 1) := dk_60 (dk_at dksX5_orderPartAt_1 5 rfl rfl)
theorem dX5_orderPartAt_30 : decode cX5_orderPartAt 30 = .ok (.iinc 2 1, 3) := dk_132 2 1 (dk_at dksX5_orderPartAt_1 6 rfl rfl)
theorem dX5_orderPartAt_33 : decode cX5_orderPartAt 33 = .ok (.goto (-29), 3) := dk_167 255 227 (dk_at dksX5_orderPartAt_1 9 rfl rfl)
theorem dX5_orderPartAt_36 : decode cX5_orderPartAt 36 = .ok (.iload_n 1, 1) := dk_27 (dk_at dksX5_orderPartAt_1 12 rfl rfl)
theorem dX5_orderPartAt_37 : decode cX5_orderPartAt 37 = .ok (.ireturn, 1) := dk_172 (dk_at dksX5_orderPartAt_1 13 rfl rfl)
abbrev cX5_partAt : ByteArray := prog_22_method_47_code
def yX5_partAt : MethodName := ⟨RX5, "partAt", "()I"⟩
def dkwX5_partAt_1 : List UInt8 := [4, 96, 167, 0, 4, 27, 60, 132, 2, 1, 167, 255, 226, 27, 172]
abbrev dktX5_partAt_1 : List UInt8 := dkwX5_partAt_1 ++ []
def dkwX5_partAt_0 : List UInt8 := [2, 60, 3, 61, 28, 16, 14, 162, 0, 30, 42, 42, 180, 0, 88, 28, 47, 182, 1, 36, 153, 0, 9, 28]
abbrev dktX5_partAt_0 : List UInt8 := dkwX5_partAt_0 ++ dktX5_partAt_1
theorem dksX5_partAt_0 : cX5_partAt.data.toList.drop 0 = dktX5_partAt_0 := by decide +kernel
theorem dksX5_partAt_1 : cX5_partAt.data.toList.drop 24 = dktX5_partAt_1 := dk_seg dksX5_partAt_0 24 rfl rfl
theorem dX5_partAt_0 : decode cX5_partAt 0 = .ok (.iconst (-1), 1) := dk_2 (dk_at dksX5_partAt_0 0 rfl rfl)
theorem dX5_partAt_1 : decode cX5_partAt 1 = .ok (.istore_n 1, 1) := dk_60 (dk_at dksX5_partAt_0 1 rfl rfl)
theorem dX5_partAt_2 : decode cX5_partAt 2 = .ok (.iconst 0, 1) := dk_3 (dk_at dksX5_partAt_0 2 rfl rfl)
theorem dX5_partAt_3 : decode cX5_partAt 3 = .ok (.istore_n 2, 1) := dk_61 (dk_at dksX5_partAt_0 3 rfl rfl)
theorem dX5_partAt_4 : decode cX5_partAt 4 = .ok (.iload_n 2, 1) := dk_28 (dk_at dksX5_partAt_0 4 rfl rfl)
theorem dX5_partAt_5 : decode cX5_partAt 5 = .ok (.bipush 14, 2) := dk_16 14 (dk_at dksX5_partAt_0 5 rfl rfl)
theorem dX5_partAt_7 : decode cX5_partAt 7 = .ok (.if_icmp .ge 30, 3) := dk_162 0 30 (dk_at dksX5_partAt_0 7 rfl rfl)
theorem dX5_partAt_10 : decode cX5_partAt 10 = .ok (.aload_n 0, 1) := dk_42 (dk_at dksX5_partAt_0 10 rfl rfl)
theorem dX5_partAt_11 : decode cX5_partAt 11 = .ok (.aload_n 0, 1) := dk_42 (dk_at dksX5_partAt_0 11 rfl rfl)
theorem dX5_partAt_12 : decode cX5_partAt 12 = .ok (.getfield 88, 3) := dk_180 0 88 (dk_at dksX5_partAt_0 12 rfl rfl)
theorem dX5_partAt_15 : decode cX5_partAt 15 = .ok (.iload_n 2, 1) := dk_28 (dk_at dksX5_partAt_0 15 rfl rfl)
theorem dX5_partAt_16 : decode cX5_partAt 16 = .ok (.laload, 1) := dk_47 (dk_at dksX5_partAt_0 16 rfl rfl)
theorem dX5_partAt_17 : decode cX5_partAt 17 = .ok (.invokevirtual 292, 3) := dk_182 1 36 (dk_at dksX5_partAt_0 17 rfl rfl)
theorem dX5_partAt_20 : decode cX5_partAt 20 = .ok (.ifCond .eq 9, 3) := dk_153 0 9 (dk_at dksX5_partAt_0 20 rfl rfl)
theorem dX5_partAt_23 : decode cX5_partAt 23 = .ok (.iload_n 2, 1) := dk_28 (dk_at dksX5_partAt_0 23 rfl rfl)
theorem dX5_partAt_24 : decode cX5_partAt 24 = .ok (.iconst 1, 1) := dk_4 (dk_at dksX5_partAt_1 0 rfl rfl)
theorem dX5_partAt_25 : decode cX5_partAt 25 = .ok (.iadd, 1) := dk_96 (dk_at dksX5_partAt_1 1 rfl rfl)
theorem dX5_partAt_26 : decode cX5_partAt 26 = .ok (.goto 4, 3) := dk_167 0 4 (dk_at dksX5_partAt_1 2 rfl rfl)
theorem dX5_partAt_29 : decode cX5_partAt 29 = .ok (.iload_n 1, 1) := dk_27 (dk_at dksX5_partAt_1 5 rfl rfl)
theorem dX5_partAt_30 : decode cX5_partAt 30 = .ok (.istore_n 1, 1) := dk_60 (dk_at dksX5_partAt_1 6 rfl rfl)
theorem dX5_partAt_31 : decode cX5_partAt 31 = .ok (.iinc 2 1, 3) := dk_132 2 1 (dk_at dksX5_partAt_1 7 rfl rfl)
theorem dX5_partAt_34 : decode cX5_partAt 34 = .ok (.goto (-30), 3) := dk_167 255 226 (dk_at dksX5_partAt_1 10 rfl rfl)
theorem dX5_partAt_37 : decode cX5_partAt 37 = .ok (.iload_n 1, 1) := dk_27 (dk_at dksX5_partAt_1 13 rfl rfl)
theorem dX5_partAt_38 : decode cX5_partAt 38 = .ok (.ireturn, 1) := dk_172 (dk_at dksX5_partAt_1 14 rfl rfl)
abbrev cX5_leaf : ByteArray := prog_22_method_50_code
def yX5_leaf : MethodName := ⟨RX5, "leaf", "(ZII)V"⟩
def dkwX5_leaf_1 : List UInt8 := [180, 0, 239, 154, 0, 19, 42, 28, 29, 182, 1, 29, 42, 89, 180, 1, 46, 4, 96, 181, 1, 46, 177]
abbrev dktX5_leaf_1 : List UInt8 := dkwX5_leaf_1 ++ []
def dkwX5_leaf_0 : List UInt8 := [42, 27, 153, 0, 16, 42, 180, 1, 46, 16, 50, 162, 0, 7, 4, 167, 0, 4, 3, 182, 1, 16, 42]
abbrev dktX5_leaf_0 : List UInt8 := dkwX5_leaf_0 ++ dktX5_leaf_1
theorem dksX5_leaf_0 : cX5_leaf.data.toList.drop 0 = dktX5_leaf_0 := by decide +kernel
theorem dksX5_leaf_1 : cX5_leaf.data.toList.drop 23 = dktX5_leaf_1 := dk_seg dksX5_leaf_0 23 rfl rfl
theorem dX5_leaf_0 : decode cX5_leaf 0 = .ok (.aload_n 0, 1) := dk_42 (dk_at dksX5_leaf_0 0 rfl rfl)
theorem dX5_leaf_1 : decode cX5_leaf 1 = .ok (.iload_n 1, 1) := dk_27 (dk_at dksX5_leaf_0 1 rfl rfl)
theorem dX5_leaf_2 : decode cX5_leaf 2 = .ok (.ifCond .eq 16, 3) := dk_153 0 16 (dk_at dksX5_leaf_0 2 rfl rfl)
theorem dX5_leaf_5 : decode cX5_leaf 5 = .ok (.aload_n 0, 1) := dk_42 (dk_at dksX5_leaf_0 5 rfl rfl)
theorem dX5_leaf_6 : decode cX5_leaf 6 = .ok (.getfield 302, 3) := dk_180 1 46 (dk_at dksX5_leaf_0 6 rfl rfl)
theorem dX5_leaf_9 : decode cX5_leaf 9 = .ok (.bipush 50, 2) := dk_16 50 (dk_at dksX5_leaf_0 9 rfl rfl)
theorem dX5_leaf_11 : decode cX5_leaf 11 = .ok (.if_icmp .ge 7, 3) := dk_162 0 7 (dk_at dksX5_leaf_0 11 rfl rfl)
theorem dX5_leaf_14 : decode cX5_leaf 14 = .ok (.iconst 1, 1) := dk_4 (dk_at dksX5_leaf_0 14 rfl rfl)
theorem dX5_leaf_15 : decode cX5_leaf 15 = .ok (.goto 4, 3) := dk_167 0 4 (dk_at dksX5_leaf_0 15 rfl rfl)
theorem dX5_leaf_18 : decode cX5_leaf 18 = .ok (.iconst 0, 1) := dk_3 (dk_at dksX5_leaf_0 18 rfl rfl)
theorem dX5_leaf_19 : decode cX5_leaf 19 = .ok (.invokevirtual 272, 3) := dk_182 1 16 (dk_at dksX5_leaf_0 19 rfl rfl)
theorem dX5_leaf_22 : decode cX5_leaf 22 = .ok (.aload_n 0, 1) := dk_42 (dk_at dksX5_leaf_0 22 rfl rfl)
theorem dX5_leaf_23 : decode cX5_leaf 23 = .ok (.getfield 239, 3) := dk_180 0 239 (dk_at dksX5_leaf_1 0 rfl rfl)
theorem dX5_leaf_26 : decode cX5_leaf 26 = .ok (.ifCond .ne 19, 3) := dk_154 0 19 (dk_at dksX5_leaf_1 3 rfl rfl)
theorem dX5_leaf_29 : decode cX5_leaf 29 = .ok (.aload_n 0, 1) := dk_42 (dk_at dksX5_leaf_1 6 rfl rfl)
theorem dX5_leaf_30 : decode cX5_leaf 30 = .ok (.iload_n 2, 1) := dk_28 (dk_at dksX5_leaf_1 7 rfl rfl)
theorem dX5_leaf_31 : decode cX5_leaf 31 = .ok (.iload_n 3, 1) := dk_29 (dk_at dksX5_leaf_1 8 rfl rfl)
theorem dX5_leaf_32 : decode cX5_leaf 32 = .ok (.invokevirtual 285, 3) := dk_182 1 29 (dk_at dksX5_leaf_1 9 rfl rfl)
theorem dX5_leaf_35 : decode cX5_leaf 35 = .ok (.aload_n 0, 1) := dk_42 (dk_at dksX5_leaf_1 12 rfl rfl)
theorem dX5_leaf_36 : decode cX5_leaf 36 = .ok (.dup, 1) := dk_89 (dk_at dksX5_leaf_1 13 rfl rfl)
theorem dX5_leaf_37 : decode cX5_leaf 37 = .ok (.getfield 302, 3) := dk_180 1 46 (dk_at dksX5_leaf_1 14 rfl rfl)
theorem dX5_leaf_40 : decode cX5_leaf 40 = .ok (.iconst 1, 1) := dk_4 (dk_at dksX5_leaf_1 17 rfl rfl)
theorem dX5_leaf_41 : decode cX5_leaf 41 = .ok (.iadd, 1) := dk_96 (dk_at dksX5_leaf_1 18 rfl rfl)
theorem dX5_leaf_42 : decode cX5_leaf 42 = .ok (.putfield 302, 3) := dk_181 1 46 (dk_at dksX5_leaf_1 19 rfl rfl)
theorem dX5_leaf_45 : decode cX5_leaf 45 = .ok (.return_, 1) := dk_177 (dk_at dksX5_leaf_1 22 rfl rfl)
abbrev cX5_emit : ByteArray := prog_22_method_41_code
def yX5_emit : MethodName := ⟨RX5, "emit", "(II)V"⟩
def dkwX5_emit_1 : List UInt8 := [180, 1, 20, 4, 96, 181, 1, 20, 177]
abbrev dktX5_emit_1 : List UInt8 := dkwX5_emit_1 ++ []
def dkwX5_emit_0 : List UInt8 := [42, 180, 0, 48, 42, 180, 1, 20, 27, 79, 42, 180, 0, 51, 42, 180, 1, 20, 28, 79, 42, 89]
abbrev dktX5_emit_0 : List UInt8 := dkwX5_emit_0 ++ dktX5_emit_1
theorem dksX5_emit_0 : cX5_emit.data.toList.drop 0 = dktX5_emit_0 := by decide +kernel
theorem dksX5_emit_1 : cX5_emit.data.toList.drop 22 = dktX5_emit_1 := dk_seg dksX5_emit_0 22 rfl rfl
theorem dX5_emit_0 : decode cX5_emit 0 = .ok (.aload_n 0, 1) := dk_42 (dk_at dksX5_emit_0 0 rfl rfl)
theorem dX5_emit_1 : decode cX5_emit 1 = .ok (.getfield 48, 3) := dk_180 0 48 (dk_at dksX5_emit_0 1 rfl rfl)
theorem dX5_emit_4 : decode cX5_emit 4 = .ok (.aload_n 0, 1) := dk_42 (dk_at dksX5_emit_0 4 rfl rfl)
theorem dX5_emit_5 : decode cX5_emit 5 = .ok (.getfield 276, 3) := dk_180 1 20 (dk_at dksX5_emit_0 5 rfl rfl)
theorem dX5_emit_8 : decode cX5_emit 8 = .ok (.iload_n 1, 1) := dk_27 (dk_at dksX5_emit_0 8 rfl rfl)
theorem dX5_emit_9 : decode cX5_emit 9 = .ok (.iastore, 1) := dk_79 (dk_at dksX5_emit_0 9 rfl rfl)
theorem dX5_emit_10 : decode cX5_emit 10 = .ok (.aload_n 0, 1) := dk_42 (dk_at dksX5_emit_0 10 rfl rfl)
theorem dX5_emit_11 : decode cX5_emit 11 = .ok (.getfield 51, 3) := dk_180 0 51 (dk_at dksX5_emit_0 11 rfl rfl)
theorem dX5_emit_14 : decode cX5_emit 14 = .ok (.aload_n 0, 1) := dk_42 (dk_at dksX5_emit_0 14 rfl rfl)
theorem dX5_emit_15 : decode cX5_emit 15 = .ok (.getfield 276, 3) := dk_180 1 20 (dk_at dksX5_emit_0 15 rfl rfl)
theorem dX5_emit_18 : decode cX5_emit 18 = .ok (.iload_n 2, 1) := dk_28 (dk_at dksX5_emit_0 18 rfl rfl)
theorem dX5_emit_19 : decode cX5_emit 19 = .ok (.iastore, 1) := dk_79 (dk_at dksX5_emit_0 19 rfl rfl)
theorem dX5_emit_20 : decode cX5_emit 20 = .ok (.aload_n 0, 1) := dk_42 (dk_at dksX5_emit_0 20 rfl rfl)
theorem dX5_emit_21 : decode cX5_emit 21 = .ok (.dup, 1) := dk_89 (dk_at dksX5_emit_0 21 rfl rfl)
theorem dX5_emit_22 : decode cX5_emit 22 = .ok (.getfield 276, 3) := dk_180 1 20 (dk_at dksX5_emit_1 0 rfl rfl)
theorem dX5_emit_25 : decode cX5_emit 25 = .ok (.iconst 1, 1) := dk_4 (dk_at dksX5_emit_1 3 rfl rfl)
theorem dX5_emit_26 : decode cX5_emit 26 = .ok (.iadd, 1) := dk_96 (dk_at dksX5_emit_1 4 rfl rfl)
theorem dX5_emit_27 : decode cX5_emit 27 = .ok (.putfield 276, 3) := dk_181 1 20 (dk_at dksX5_emit_1 5 rfl rfl)
theorem dX5_emit_30 : decode cX5_emit 30 = .ok (.return_, 1) := dk_177 (dk_at dksX5_emit_1 8 rfl rfl)
abbrev cX5_number : ByteArray := prog_22_method_39_code
def yX5_number : MethodName := ⟨RX5, "number", "(JJ)I"⟩
def dkwX5_number_1 : List UInt8 := [184, 0, 159, 153, 0, 7, 4, 167, 0, 4, 3, 182, 1, 16, 21, 5, 172]
abbrev dktX5_number_1 : List UInt8 := dkwX5_number_1 ++ []
def dkwX5_number_0 : List UInt8 := [42, 180, 0, 249, 136, 54, 5, 42, 42, 180, 1, 3, 5, 160, 0, 19, 42, 180, 0, 249, 31, 33]
abbrev dktX5_number_0 : List UInt8 := dkwX5_number_0 ++ dktX5_number_1
theorem dksX5_number_0 : cX5_number.data.toList.drop 0 = dktX5_number_0 := by decide +kernel
theorem dksX5_number_1 : cX5_number.data.toList.drop 22 = dktX5_number_1 := dk_seg dksX5_number_0 22 rfl rfl
theorem dX5_number_0 : decode cX5_number 0 = .ok (.aload_n 0, 1) := dk_42 (dk_at dksX5_number_0 0 rfl rfl)
theorem dX5_number_1 : decode cX5_number 1 = .ok (.getfield 249, 3) := dk_180 0 249 (dk_at dksX5_number_0 1 rfl rfl)
theorem dX5_number_4 : decode cX5_number 4 = .ok (.l2i, 1) := dk_136 (dk_at dksX5_number_0 4 rfl rfl)
theorem dX5_number_5 : decode cX5_number 5 = .ok (.istore 5, 2) := dk_54 5 (dk_at dksX5_number_0 5 rfl rfl)
theorem dX5_number_7 : decode cX5_number 7 = .ok (.aload_n 0, 1) := dk_42 (dk_at dksX5_number_0 7 rfl rfl)
theorem dX5_number_8 : decode cX5_number 8 = .ok (.aload_n 0, 1) := dk_42 (dk_at dksX5_number_0 8 rfl rfl)
theorem dX5_number_9 : decode cX5_number 9 = .ok (.getfield 259, 3) := dk_180 1 3 (dk_at dksX5_number_0 9 rfl rfl)
theorem dX5_number_12 : decode cX5_number 12 = .ok (.iconst 2, 1) := dk_5 (dk_at dksX5_number_0 12 rfl rfl)
theorem dX5_number_13 : decode cX5_number 13 = .ok (.if_icmp .ne 19, 3) := dk_160 0 19 (dk_at dksX5_number_0 13 rfl rfl)
theorem dX5_number_16 : decode cX5_number 16 = .ok (.aload_n 0, 1) := dk_42 (dk_at dksX5_number_0 16 rfl rfl)
theorem dX5_number_17 : decode cX5_number 17 = .ok (.getfield 249, 3) := dk_180 0 249 (dk_at dksX5_number_0 17 rfl rfl)
theorem dX5_number_20 : decode cX5_number 20 = .ok (.lload_n 1, 1) := dk_31 (dk_at dksX5_number_0 20 rfl rfl)
theorem dX5_number_21 : decode cX5_number 21 = .ok (.lload_n 3, 1) := dk_33 (dk_at dksX5_number_0 21 rfl rfl)
theorem dX5_number_22 : decode cX5_number 22 = .ok (.invokestatic 159, 3) := dk_184 0 159 (dk_at dksX5_number_1 0 rfl rfl)
theorem dX5_number_25 : decode cX5_number 25 = .ok (.ifCond .eq 7, 3) := dk_153 0 7 (dk_at dksX5_number_1 3 rfl rfl)
theorem dX5_number_28 : decode cX5_number 28 = .ok (.iconst 1, 1) := dk_4 (dk_at dksX5_number_1 6 rfl rfl)
theorem dX5_number_29 : decode cX5_number 29 = .ok (.goto 4, 3) := dk_167 0 4 (dk_at dksX5_number_1 7 rfl rfl)
theorem dX5_number_32 : decode cX5_number 32 = .ok (.iconst 0, 1) := dk_3 (dk_at dksX5_number_1 10 rfl rfl)
theorem dX5_number_33 : decode cX5_number 33 = .ok (.invokevirtual 272, 3) := dk_182 1 16 (dk_at dksX5_number_1 11 rfl rfl)
theorem dX5_number_36 : decode cX5_number 36 = .ok (.iload 5, 2) := dk_21 5 (dk_at dksX5_number_1 14 rfl rfl)
theorem dX5_number_38 : decode cX5_number 38 = .ok (.ireturn, 1) := dk_172 (dk_at dksX5_number_1 16 rfl rfl)
abbrev cX5_behindSum : ByteArray := prog_22_method_53_code
def yX5_behindSum : MethodName := ⟨RX5, "behindSum", "(Z)I"⟩
def dkwX5_behindSum_10 : List UInt8 := [154, 0, 14, 42, 8, 182, 1, 80, 42, 28, 3, 182, 1, 43, 4, 172]
abbrev dktX5_behindSum_10 : List UInt8 := dkwX5_behindSum_10 ++ []
def dkwX5_behindSum_9 : List UInt8 := [160, 0, 12, 42, 16, 61, 182, 1, 49, 153, 0, 7, 4, 167, 0, 4, 3, 182, 1, 16, 42, 180, 0, 239]
abbrev dktX5_behindSum_9 : List UInt8 := dkwX5_behindSum_9 ++ dktX5_behindSum_10
def dkwX5_behindSum_8 : List UInt8 := [167, 0, 19, 42, 16, 62, 182, 1, 49, 153, 0, 8, 16, 26, 167, 0, 5, 16, 27, 61, 42, 28, 16, 27]
abbrev dktX5_behindSum_8 : List UInt8 := dkwX5_behindSum_8 ++ dktX5_behindSum_9
def dkwX5_behindSum_7 : List UInt8 := [7, 172, 42, 182, 1, 86, 153, 0, 5, 5, 172, 42, 16, 60, 182, 1, 49, 153, 0, 8, 16, 25]
abbrev dktX5_behindSum_7 : List UInt8 := dkwX5_behindSum_7 ++ dktX5_behindSum_8
def dkwX5_behindSum_6 : List UInt8 := [181, 1, 23, 42, 89, 180, 1, 40, 4, 100, 181, 1, 40, 6, 172, 29, 2, 160, 0, 9, 27, 154, 0, 5]
abbrev dktX5_behindSum_6 : List UInt8 := dkwX5_behindSum_6 ++ dktX5_behindSum_7
def dkwX5_behindSum_5 : List UInt8 := [182, 1, 16, 42, 180, 0, 239, 154, 0, 28, 42, 8, 182, 1, 80, 42, 89, 180, 1, 23, 4, 100]
abbrev dktX5_behindSum_5 : List UInt8 := dkwX5_behindSum_5 ++ dktX5_behindSum_6
def dkwX5_behindSum_4 : List UInt8 := [42, 182, 0, 243, 4, 172, 42, 182, 1, 83, 62, 29, 16, 32, 160, 0, 47, 42, 42, 16, 93, 182, 1, 49]
abbrev dktX5_behindSum_4 : List UInt8 := dkwX5_behindSum_4 ++ dktX5_behindSum_5
def dkwX5_behindSum_3 : List UInt8 := [167, 0, 4, 2, 61, 28, 2, 159, 0, 23, 42, 28, 184, 1, 26, 182, 1, 80, 42, 28, 3, 182, 1, 43]
abbrev dktX5_behindSum_3 : List UInt8 := dkwX5_behindSum_3 ++ dktX5_behindSum_4
def dkwX5_behindSum_2 : List UInt8 := [182, 1, 49, 153, 0, 8, 16, 23, 167, 0, 18, 42, 16, 37, 182, 1, 49, 153, 0, 8, 16, 24]
abbrev dktX5_behindSum_2 : List UInt8 := dkwX5_behindSum_2 ++ dktX5_behindSum_3
def dkwX5_behindSum_1 : List UInt8 := [16, 21, 167, 0, 46, 42, 16, 42, 182, 1, 49, 153, 0, 8, 16, 22, 167, 0, 32, 42, 16, 47]
abbrev dktX5_behindSum_1 : List UInt8 := dkwX5_behindSum_1 ++ dktX5_behindSum_2
def dkwX5_behindSum_0 : List UInt8 := [42, 16, 43, 182, 1, 49, 153, 0, 8, 16, 20, 167, 0, 60, 42, 16, 45, 182, 1, 49, 153, 0, 8]
abbrev dktX5_behindSum_0 : List UInt8 := dkwX5_behindSum_0 ++ dktX5_behindSum_1
theorem dksX5_behindSum_0 : cX5_behindSum.data.toList.drop 0 = dktX5_behindSum_0 := by decide +kernel
theorem dksX5_behindSum_1 : cX5_behindSum.data.toList.drop 23 = dktX5_behindSum_1 := dk_seg dksX5_behindSum_0 23 rfl rfl
theorem dksX5_behindSum_2 : cX5_behindSum.data.toList.drop 45 = dktX5_behindSum_2 := dk_seg dksX5_behindSum_1 22 rfl rfl
theorem dksX5_behindSum_3 : cX5_behindSum.data.toList.drop 67 = dktX5_behindSum_3 := dk_seg dksX5_behindSum_2 22 rfl rfl
theorem dksX5_behindSum_4 : cX5_behindSum.data.toList.drop 91 = dktX5_behindSum_4 := dk_seg dksX5_behindSum_3 24 rfl rfl
theorem dksX5_behindSum_5 : cX5_behindSum.data.toList.drop 115 = dktX5_behindSum_5 := dk_seg dksX5_behindSum_4 24 rfl rfl
theorem dksX5_behindSum_6 : cX5_behindSum.data.toList.drop 137 = dktX5_behindSum_6 := dk_seg dksX5_behindSum_5 22 rfl rfl
theorem dksX5_behindSum_7 : cX5_behindSum.data.toList.drop 161 = dktX5_behindSum_7 := dk_seg dksX5_behindSum_6 24 rfl rfl
theorem dksX5_behindSum_8 : cX5_behindSum.data.toList.drop 183 = dktX5_behindSum_8 := dk_seg dksX5_behindSum_7 22 rfl rfl
theorem dksX5_behindSum_9 : cX5_behindSum.data.toList.drop 207 = dktX5_behindSum_9 := dk_seg dksX5_behindSum_8 24 rfl rfl
theorem dksX5_behindSum_10 : cX5_behindSum.data.toList.drop 231 = dktX5_behindSum_10 := dk_seg dksX5_behindSum_9 24 rfl rfl
theorem dX5_behindSum_0 : decode cX5_behindSum 0 = .ok (.aload_n 0, 1) := dk_42 (dk_at dksX5_behindSum_0 0 rfl rfl)
theorem dX5_behindSum_1 : decode cX5_behindSum 1 = .ok (.bipush 43, 2) := dk_16 43 (dk_at dksX5_behindSum_0 1 rfl rfl)
theorem dX5_behindSum_3 : decode cX5_behindSum 3 = .ok (.invokevirtual 305, 3) := dk_182 1 49 (dk_at dksX5_behindSum_0 3 rfl rfl)
theorem dX5_behindSum_6 : decode cX5_behindSum 6 = .ok (.ifCond .eq 8, 3) := dk_153 0 8 (dk_at dksX5_behindSum_0 6 rfl rfl)
theorem dX5_behindSum_9 : decode cX5_behindSum 9 = .ok (.bipush 20, 2) := dk_16 20 (dk_at dksX5_behindSum_0 9 rfl rfl)
theorem dX5_behindSum_11 : decode cX5_behindSum 11 = .ok (.goto 60, 3) := dk_167 0 60 (dk_at dksX5_behindSum_0 11 rfl rfl)
theorem dX5_behindSum_14 : decode cX5_behindSum 14 = .ok (.aload_n 0, 1) := dk_42 (dk_at dksX5_behindSum_0 14 rfl rfl)
theorem dX5_behindSum_15 : decode cX5_behindSum 15 = .ok (.bipush 45, 2) := dk_16 45 (dk_at dksX5_behindSum_0 15 rfl rfl)
theorem dX5_behindSum_17 : decode cX5_behindSum 17 = .ok (.invokevirtual 305, 3) := dk_182 1 49 (dk_at dksX5_behindSum_0 17 rfl rfl)
theorem dX5_behindSum_20 : decode cX5_behindSum 20 = .ok (.ifCond .eq 8, 3) := dk_153 0 8 (dk_at dksX5_behindSum_0 20 rfl rfl)
theorem dX5_behindSum_23 : decode cX5_behindSum 23 = .ok (.bipush 21, 2) := dk_16 21 (dk_at dksX5_behindSum_1 0 rfl rfl)
theorem dX5_behindSum_25 : decode cX5_behindSum 25 = .ok (.goto 46, 3) := dk_167 0 46 (dk_at dksX5_behindSum_1 2 rfl rfl)
theorem dX5_behindSum_28 : decode cX5_behindSum 28 = .ok (.aload_n 0, 1) := dk_42 (dk_at dksX5_behindSum_1 5 rfl rfl)
theorem dX5_behindSum_29 : decode cX5_behindSum 29 = .ok (.bipush 42, 2) := dk_16 42 (dk_at dksX5_behindSum_1 6 rfl rfl)
theorem dX5_behindSum_31 : decode cX5_behindSum 31 = .ok (.invokevirtual 305, 3) := dk_182 1 49 (dk_at dksX5_behindSum_1 8 rfl rfl)
theorem dX5_behindSum_34 : decode cX5_behindSum 34 = .ok (.ifCond .eq 8, 3) := dk_153 0 8 (dk_at dksX5_behindSum_1 11 rfl rfl)
theorem dX5_behindSum_37 : decode cX5_behindSum 37 = .ok (.bipush 22, 2) := dk_16 22 (dk_at dksX5_behindSum_1 14 rfl rfl)
theorem dX5_behindSum_39 : decode cX5_behindSum 39 = .ok (.goto 32, 3) := dk_167 0 32 (dk_at dksX5_behindSum_1 16 rfl rfl)
theorem dX5_behindSum_42 : decode cX5_behindSum 42 = .ok (.aload_n 0, 1) := dk_42 (dk_at dksX5_behindSum_1 19 rfl rfl)
theorem dX5_behindSum_43 : decode cX5_behindSum 43 = .ok (.bipush 47, 2) := dk_16 47 (dk_at dksX5_behindSum_1 20 rfl rfl)
theorem dX5_behindSum_45 : decode cX5_behindSum 45 = .ok (.invokevirtual 305, 3) := dk_182 1 49 (dk_at dksX5_behindSum_2 0 rfl rfl)
theorem dX5_behindSum_48 : decode cX5_behindSum 48 = .ok (.ifCond .eq 8, 3) := dk_153 0 8 (dk_at dksX5_behindSum_2 3 rfl rfl)
theorem dX5_behindSum_51 : decode cX5_behindSum 51 = .ok (.bipush 23, 2) := dk_16 23 (dk_at dksX5_behindSum_2 6 rfl rfl)
theorem dX5_behindSum_53 : decode cX5_behindSum 53 = .ok (.goto 18, 3) := dk_167 0 18 (dk_at dksX5_behindSum_2 8 rfl rfl)
theorem dX5_behindSum_56 : decode cX5_behindSum 56 = .ok (.aload_n 0, 1) := dk_42 (dk_at dksX5_behindSum_2 11 rfl rfl)
theorem dX5_behindSum_57 : decode cX5_behindSum 57 = .ok (.bipush 37, 2) := dk_16 37 (dk_at dksX5_behindSum_2 12 rfl rfl)
theorem dX5_behindSum_59 : decode cX5_behindSum 59 = .ok (.invokevirtual 305, 3) := dk_182 1 49 (dk_at dksX5_behindSum_2 14 rfl rfl)
theorem dX5_behindSum_62 : decode cX5_behindSum 62 = .ok (.ifCond .eq 8, 3) := dk_153 0 8 (dk_at dksX5_behindSum_2 17 rfl rfl)
theorem dX5_behindSum_65 : decode cX5_behindSum 65 = .ok (.bipush 24, 2) := dk_16 24 (dk_at dksX5_behindSum_2 20 rfl rfl)
theorem dX5_behindSum_67 : decode cX5_behindSum 67 = .ok (.goto 4, 3) := dk_167 0 4 (dk_at dksX5_behindSum_3 0 rfl rfl)
theorem dX5_behindSum_70 : decode cX5_behindSum 70 = .ok (.iconst (-1), 1) := dk_2 (dk_at dksX5_behindSum_3 3 rfl rfl)
theorem dX5_behindSum_71 : decode cX5_behindSum 71 = .ok (.istore_n 2, 1) := dk_61 (dk_at dksX5_behindSum_3 4 rfl rfl)
theorem dX5_behindSum_72 : decode cX5_behindSum 72 = .ok (.iload_n 2, 1) := dk_28 (dk_at dksX5_behindSum_3 5 rfl rfl)
theorem dX5_behindSum_73 : decode cX5_behindSum 73 = .ok (.iconst (-1), 1) := dk_2 (dk_at dksX5_behindSum_3 6 rfl rfl)
theorem dX5_behindSum_74 : decode cX5_behindSum 74 = .ok (.if_icmp .eq 23, 3) := dk_159 0 23 (dk_at dksX5_behindSum_3 7 rfl rfl)
theorem dX5_behindSum_77 : decode cX5_behindSum 77 = .ok (.aload_n 0, 1) := dk_42 (dk_at dksX5_behindSum_3 10 rfl rfl)
theorem dX5_behindSum_78 : decode cX5_behindSum 78 = .ok (.iload_n 2, 1) := dk_28 (dk_at dksX5_behindSum_3 11 rfl rfl)
theorem dX5_behindSum_79 : decode cX5_behindSum 79 = .ok (.invokestatic 282, 3) := dk_184 1 26 (dk_at dksX5_behindSum_3 12 rfl rfl)
theorem dX5_behindSum_82 : decode cX5_behindSum 82 = .ok (.invokevirtual 336, 3) := dk_182 1 80 (dk_at dksX5_behindSum_3 15 rfl rfl)
theorem dX5_behindSum_85 : decode cX5_behindSum 85 = .ok (.aload_n 0, 1) := dk_42 (dk_at dksX5_behindSum_3 18 rfl rfl)
theorem dX5_behindSum_86 : decode cX5_behindSum 86 = .ok (.iload_n 2, 1) := dk_28 (dk_at dksX5_behindSum_3 19 rfl rfl)
theorem dX5_behindSum_87 : decode cX5_behindSum 87 = .ok (.iconst 0, 1) := dk_3 (dk_at dksX5_behindSum_3 20 rfl rfl)
theorem dX5_behindSum_88 : decode cX5_behindSum 88 = .ok (.invokevirtual 299, 3) := dk_182 1 43 (dk_at dksX5_behindSum_3 21 rfl rfl)
theorem dX5_behindSum_91 : decode cX5_behindSum 91 = .ok (.aload_n 0, 1) := dk_42 (dk_at dksX5_behindSum_4 0 rfl rfl)
theorem dX5_behindSum_92 : decode cX5_behindSum 92 = .ok (.invokevirtual 243, 3) := dk_182 0 243 (dk_at dksX5_behindSum_4 1 rfl rfl)
theorem dX5_behindSum_95 : decode cX5_behindSum 95 = .ok (.iconst 1, 1) := dk_4 (dk_at dksX5_behindSum_4 4 rfl rfl)
theorem dX5_behindSum_96 : decode cX5_behindSum 96 = .ok (.ireturn, 1) := dk_172 (dk_at dksX5_behindSum_4 5 rfl rfl)
theorem dX5_behindSum_97 : decode cX5_behindSum 97 = .ok (.aload_n 0, 1) := dk_42 (dk_at dksX5_behindSum_4 6 rfl rfl)
theorem dX5_behindSum_98 : decode cX5_behindSum 98 = .ok (.invokevirtual 339, 3) := dk_182 1 83 (dk_at dksX5_behindSum_4 7 rfl rfl)
theorem dX5_behindSum_101 : decode cX5_behindSum 101 = .ok (.istore_n 3, 1) := dk_62 (dk_at dksX5_behindSum_4 10 rfl rfl)
theorem dX5_behindSum_102 : decode cX5_behindSum 102 = .ok (.iload_n 3, 1) := dk_29 (dk_at dksX5_behindSum_4 11 rfl rfl)
theorem dX5_behindSum_103 : decode cX5_behindSum 103 = .ok (.bipush 32, 2) := dk_16 32 (dk_at dksX5_behindSum_4 12 rfl rfl)
theorem dX5_behindSum_105 : decode cX5_behindSum 105 = .ok (.if_icmp .ne 47, 3) := dk_160 0 47 (dk_at dksX5_behindSum_4 14 rfl rfl)
theorem dX5_behindSum_108 : decode cX5_behindSum 108 = .ok (.aload_n 0, 1) := dk_42 (dk_at dksX5_behindSum_4 17 rfl rfl)
theorem dX5_behindSum_109 : decode cX5_behindSum 109 = .ok (.aload_n 0, 1) := dk_42 (dk_at dksX5_behindSum_4 18 rfl rfl)
theorem dX5_behindSum_110 : decode cX5_behindSum 110 = .ok (.bipush 93, 2) := dk_16 93 (dk_at dksX5_behindSum_4 19 rfl rfl)
theorem dX5_behindSum_112 : decode cX5_behindSum 112 = .ok (.invokevirtual 305, 3) := dk_182 1 49 (dk_at dksX5_behindSum_4 21 rfl rfl)
theorem dX5_behindSum_115 : decode cX5_behindSum 115 = .ok (.invokevirtual 272, 3) := dk_182 1 16 (dk_at dksX5_behindSum_5 0 rfl rfl)
theorem dX5_behindSum_118 : decode cX5_behindSum 118 = .ok (.aload_n 0, 1) := dk_42 (dk_at dksX5_behindSum_5 3 rfl rfl)
theorem dX5_behindSum_119 : decode cX5_behindSum 119 = .ok (.getfield 239, 3) := dk_180 0 239 (dk_at dksX5_behindSum_5 4 rfl rfl)
theorem dX5_behindSum_122 : decode cX5_behindSum 122 = .ok (.ifCond .ne 28, 3) := dk_154 0 28 (dk_at dksX5_behindSum_5 7 rfl rfl)
theorem dX5_behindSum_125 : decode cX5_behindSum 125 = .ok (.aload_n 0, 1) := dk_42 (dk_at dksX5_behindSum_5 10 rfl rfl)
theorem dX5_behindSum_126 : decode cX5_behindSum 126 = .ok (.iconst 5, 1) := dk_8 (dk_at dksX5_behindSum_5 11 rfl rfl)
theorem dX5_behindSum_127 : decode cX5_behindSum 127 = .ok (.invokevirtual 336, 3) := dk_182 1 80 (dk_at dksX5_behindSum_5 12 rfl rfl)
theorem dX5_behindSum_130 : decode cX5_behindSum 130 = .ok (.aload_n 0, 1) := dk_42 (dk_at dksX5_behindSum_5 15 rfl rfl)
theorem dX5_behindSum_131 : decode cX5_behindSum 131 = .ok (.dup, 1) := dk_89 (dk_at dksX5_behindSum_5 16 rfl rfl)
theorem dX5_behindSum_132 : decode cX5_behindSum 132 = .ok (.getfield 279, 3) := dk_180 1 23 (dk_at dksX5_behindSum_5 17 rfl rfl)
theorem dX5_behindSum_135 : decode cX5_behindSum 135 = .ok (.iconst 1, 1) := dk_4 (dk_at dksX5_behindSum_5 20 rfl rfl)
theorem dX5_behindSum_136 : decode cX5_behindSum 136 = .ok (.isub, 1) := dk_100 (dk_at dksX5_behindSum_5 21 rfl rfl)
theorem dX5_behindSum_137 : decode cX5_behindSum 137 = .ok (.putfield 279, 3) := dk_181 1 23 (dk_at dksX5_behindSum_6 0 rfl rfl)
theorem dX5_behindSum_140 : decode cX5_behindSum 140 = .ok (.aload_n 0, 1) := dk_42 (dk_at dksX5_behindSum_6 3 rfl rfl)
theorem dX5_behindSum_141 : decode cX5_behindSum 141 = .ok (.dup, 1) := dk_89 (dk_at dksX5_behindSum_6 4 rfl rfl)
theorem dX5_behindSum_142 : decode cX5_behindSum 142 = .ok (.getfield 296, 3) := dk_180 1 40 (dk_at dksX5_behindSum_6 5 rfl rfl)
theorem dX5_behindSum_145 : decode cX5_behindSum 145 = .ok (.iconst 1, 1) := dk_4 (dk_at dksX5_behindSum_6 8 rfl rfl)
theorem dX5_behindSum_146 : decode cX5_behindSum 146 = .ok (.isub, 1) := dk_100 (dk_at dksX5_behindSum_6 9 rfl rfl)
theorem dX5_behindSum_147 : decode cX5_behindSum 147 = .ok (.putfield 296, 3) := dk_181 1 40 (dk_at dksX5_behindSum_6 10 rfl rfl)
theorem dX5_behindSum_150 : decode cX5_behindSum 150 = .ok (.iconst 3, 1) := dk_6 (dk_at dksX5_behindSum_6 13 rfl rfl)
theorem dX5_behindSum_151 : decode cX5_behindSum 151 = .ok (.ireturn, 1) := dk_172 (dk_at dksX5_behindSum_6 14 rfl rfl)
theorem dX5_behindSum_152 : decode cX5_behindSum 152 = .ok (.iload_n 3, 1) := dk_29 (dk_at dksX5_behindSum_6 15 rfl rfl)
theorem dX5_behindSum_153 : decode cX5_behindSum 153 = .ok (.iconst (-1), 1) := dk_2 (dk_at dksX5_behindSum_6 16 rfl rfl)
theorem dX5_behindSum_154 : decode cX5_behindSum 154 = .ok (.if_icmp .ne 9, 3) := dk_160 0 9 (dk_at dksX5_behindSum_6 17 rfl rfl)
theorem dX5_behindSum_157 : decode cX5_behindSum 157 = .ok (.iload_n 1, 1) := dk_27 (dk_at dksX5_behindSum_6 20 rfl rfl)
theorem dX5_behindSum_158 : decode cX5_behindSum 158 = .ok (.ifCond .ne 5, 3) := dk_154 0 5 (dk_at dksX5_behindSum_6 21 rfl rfl)
theorem dX5_behindSum_161 : decode cX5_behindSum 161 = .ok (.iconst 4, 1) := dk_7 (dk_at dksX5_behindSum_7 0 rfl rfl)
theorem dX5_behindSum_162 : decode cX5_behindSum 162 = .ok (.ireturn, 1) := dk_172 (dk_at dksX5_behindSum_7 1 rfl rfl)
theorem dX5_behindSum_163 : decode cX5_behindSum 163 = .ok (.aload_n 0, 1) := dk_42 (dk_at dksX5_behindSum_7 2 rfl rfl)
theorem dX5_behindSum_164 : decode cX5_behindSum 164 = .ok (.invokevirtual 342, 3) := dk_182 1 86 (dk_at dksX5_behindSum_7 3 rfl rfl)
theorem dX5_behindSum_167 : decode cX5_behindSum 167 = .ok (.ifCond .eq 5, 3) := dk_153 0 5 (dk_at dksX5_behindSum_7 6 rfl rfl)
theorem dX5_behindSum_170 : decode cX5_behindSum 170 = .ok (.iconst 2, 1) := dk_5 (dk_at dksX5_behindSum_7 9 rfl rfl)
theorem dX5_behindSum_171 : decode cX5_behindSum 171 = .ok (.ireturn, 1) := dk_172 (dk_at dksX5_behindSum_7 10 rfl rfl)
theorem dX5_behindSum_172 : decode cX5_behindSum 172 = .ok (.aload_n 0, 1) := dk_42 (dk_at dksX5_behindSum_7 11 rfl rfl)
theorem dX5_behindSum_173 : decode cX5_behindSum 173 = .ok (.bipush 60, 2) := dk_16 60 (dk_at dksX5_behindSum_7 12 rfl rfl)
theorem dX5_behindSum_175 : decode cX5_behindSum 175 = .ok (.invokevirtual 305, 3) := dk_182 1 49 (dk_at dksX5_behindSum_7 14 rfl rfl)
theorem dX5_behindSum_178 : decode cX5_behindSum 178 = .ok (.ifCond .eq 8, 3) := dk_153 0 8 (dk_at dksX5_behindSum_7 17 rfl rfl)
theorem dX5_behindSum_181 : decode cX5_behindSum 181 = .ok (.bipush 25, 2) := dk_16 25 (dk_at dksX5_behindSum_7 20 rfl rfl)
theorem dX5_behindSum_183 : decode cX5_behindSum 183 = .ok (.goto 19, 3) := dk_167 0 19 (dk_at dksX5_behindSum_8 0 rfl rfl)
theorem dX5_behindSum_186 : decode cX5_behindSum 186 = .ok (.aload_n 0, 1) := dk_42 (dk_at dksX5_behindSum_8 3 rfl rfl)
theorem dX5_behindSum_187 : decode cX5_behindSum 187 = .ok (.bipush 62, 2) := dk_16 62 (dk_at dksX5_behindSum_8 4 rfl rfl)
theorem dX5_behindSum_189 : decode cX5_behindSum 189 = .ok (.invokevirtual 305, 3) := dk_182 1 49 (dk_at dksX5_behindSum_8 6 rfl rfl)
theorem dX5_behindSum_192 : decode cX5_behindSum 192 = .ok (.ifCond .eq 8, 3) := dk_153 0 8 (dk_at dksX5_behindSum_8 9 rfl rfl)
theorem dX5_behindSum_195 : decode cX5_behindSum 195 = .ok (.bipush 26, 2) := dk_16 26 (dk_at dksX5_behindSum_8 12 rfl rfl)
theorem dX5_behindSum_197 : decode cX5_behindSum 197 = .ok (.goto 5, 3) := dk_167 0 5 (dk_at dksX5_behindSum_8 14 rfl rfl)
theorem dX5_behindSum_200 : decode cX5_behindSum 200 = .ok (.bipush 27, 2) := dk_16 27 (dk_at dksX5_behindSum_8 17 rfl rfl)
theorem dX5_behindSum_202 : decode cX5_behindSum 202 = .ok (.istore_n 2, 1) := dk_61 (dk_at dksX5_behindSum_8 19 rfl rfl)
theorem dX5_behindSum_203 : decode cX5_behindSum 203 = .ok (.aload_n 0, 1) := dk_42 (dk_at dksX5_behindSum_8 20 rfl rfl)
theorem dX5_behindSum_204 : decode cX5_behindSum 204 = .ok (.iload_n 2, 1) := dk_28 (dk_at dksX5_behindSum_8 21 rfl rfl)
theorem dX5_behindSum_205 : decode cX5_behindSum 205 = .ok (.bipush 27, 2) := dk_16 27 (dk_at dksX5_behindSum_8 22 rfl rfl)
theorem dX5_behindSum_207 : decode cX5_behindSum 207 = .ok (.if_icmp .ne 12, 3) := dk_160 0 12 (dk_at dksX5_behindSum_9 0 rfl rfl)
theorem dX5_behindSum_210 : decode cX5_behindSum 210 = .ok (.aload_n 0, 1) := dk_42 (dk_at dksX5_behindSum_9 3 rfl rfl)
theorem dX5_behindSum_211 : decode cX5_behindSum 211 = .ok (.bipush 61, 2) := dk_16 61 (dk_at dksX5_behindSum_9 4 rfl rfl)
theorem dX5_behindSum_213 : decode cX5_behindSum 213 = .ok (.invokevirtual 305, 3) := dk_182 1 49 (dk_at dksX5_behindSum_9 6 rfl rfl)
theorem dX5_behindSum_216 : decode cX5_behindSum 216 = .ok (.ifCond .eq 7, 3) := dk_153 0 7 (dk_at dksX5_behindSum_9 9 rfl rfl)
theorem dX5_behindSum_219 : decode cX5_behindSum 219 = .ok (.iconst 1, 1) := dk_4 (dk_at dksX5_behindSum_9 12 rfl rfl)
theorem dX5_behindSum_220 : decode cX5_behindSum 220 = .ok (.goto 4, 3) := dk_167 0 4 (dk_at dksX5_behindSum_9 13 rfl rfl)
theorem dX5_behindSum_223 : decode cX5_behindSum 223 = .ok (.iconst 0, 1) := dk_3 (dk_at dksX5_behindSum_9 16 rfl rfl)
theorem dX5_behindSum_224 : decode cX5_behindSum 224 = .ok (.invokevirtual 272, 3) := dk_182 1 16 (dk_at dksX5_behindSum_9 17 rfl rfl)
theorem dX5_behindSum_227 : decode cX5_behindSum 227 = .ok (.aload_n 0, 1) := dk_42 (dk_at dksX5_behindSum_9 20 rfl rfl)
theorem dX5_behindSum_228 : decode cX5_behindSum 228 = .ok (.getfield 239, 3) := dk_180 0 239 (dk_at dksX5_behindSum_9 21 rfl rfl)
theorem dX5_behindSum_231 : decode cX5_behindSum 231 = .ok (.ifCond .ne 14, 3) := dk_154 0 14 (dk_at dksX5_behindSum_10 0 rfl rfl)
theorem dX5_behindSum_234 : decode cX5_behindSum 234 = .ok (.aload_n 0, 1) := dk_42 (dk_at dksX5_behindSum_10 3 rfl rfl)
theorem dX5_behindSum_235 : decode cX5_behindSum 235 = .ok (.iconst 5, 1) := dk_8 (dk_at dksX5_behindSum_10 4 rfl rfl)
theorem dX5_behindSum_236 : decode cX5_behindSum 236 = .ok (.invokevirtual 336, 3) := dk_182 1 80 (dk_at dksX5_behindSum_10 5 rfl rfl)
theorem dX5_behindSum_239 : decode cX5_behindSum 239 = .ok (.aload_n 0, 1) := dk_42 (dk_at dksX5_behindSum_10 8 rfl rfl)
theorem dX5_behindSum_240 : decode cX5_behindSum 240 = .ok (.iload_n 2, 1) := dk_28 (dk_at dksX5_behindSum_10 9 rfl rfl)
theorem dX5_behindSum_241 : decode cX5_behindSum 241 = .ok (.iconst 0, 1) := dk_3 (dk_at dksX5_behindSum_10 10 rfl rfl)
theorem dX5_behindSum_242 : decode cX5_behindSum 242 = .ok (.invokevirtual 299, 3) := dk_182 1 43 (dk_at dksX5_behindSum_10 11 rfl rfl)
theorem dX5_behindSum_245 : decode cX5_behindSum 245 = .ok (.iconst 1, 1) := dk_4 (dk_at dksX5_behindSum_10 14 rfl rfl)
theorem dX5_behindSum_246 : decode cX5_behindSum 246 = .ok (.ireturn, 1) := dk_172 (dk_at dksX5_behindSum_10 15 rfl rfl)
abbrev cX5_binds : ByteArray := prog_22_method_43_code
def yX5_binds : MethodName := ⟨RX5, "binds", "(I)I"⟩
def dkwX5_binds_2 : List UInt8 := [167, 0, 15, 26, 16, 22, 161, 0, 8, 16, 6, 167, 0, 4, 8, 172]
abbrev dktX5_binds_2 : List UInt8 := dkwX5_binds_2 ++ []
def dkwX5_binds_1 : List UInt8 := [160, 0, 7, 5, 167, 0, 35, 26, 16, 28, 160, 0, 7, 6, 167, 0, 25, 26, 16, 25, 161, 0, 7, 7]
abbrev dktX5_binds_1 : List UInt8 := dkwX5_binds_1 ++ dktX5_binds_2
def dkwX5_binds_0 : List UInt8 := [26, 16, 31, 161, 0, 7, 3, 167, 0, 55, 26, 16, 30, 160, 0, 7, 4, 167, 0, 45, 26, 16, 29]
abbrev dktX5_binds_0 : List UInt8 := dkwX5_binds_0 ++ dktX5_binds_1
theorem dksX5_binds_0 : cX5_binds.data.toList.drop 0 = dktX5_binds_0 := by decide +kernel
theorem dksX5_binds_1 : cX5_binds.data.toList.drop 23 = dktX5_binds_1 := dk_seg dksX5_binds_0 23 rfl rfl
theorem dksX5_binds_2 : cX5_binds.data.toList.drop 47 = dktX5_binds_2 := dk_seg dksX5_binds_1 24 rfl rfl
theorem dX5_binds_0 : decode cX5_binds 0 = .ok (.iload_n 0, 1) := dk_26 (dk_at dksX5_binds_0 0 rfl rfl)
theorem dX5_binds_1 : decode cX5_binds 1 = .ok (.bipush 31, 2) := dk_16 31 (dk_at dksX5_binds_0 1 rfl rfl)
theorem dX5_binds_3 : decode cX5_binds 3 = .ok (.if_icmp .lt 7, 3) := dk_161 0 7 (dk_at dksX5_binds_0 3 rfl rfl)
theorem dX5_binds_6 : decode cX5_binds 6 = .ok (.iconst 0, 1) := dk_3 (dk_at dksX5_binds_0 6 rfl rfl)
theorem dX5_binds_7 : decode cX5_binds 7 = .ok (.goto 55, 3) := dk_167 0 55 (dk_at dksX5_binds_0 7 rfl rfl)
theorem dX5_binds_10 : decode cX5_binds 10 = .ok (.iload_n 0, 1) := dk_26 (dk_at dksX5_binds_0 10 rfl rfl)
theorem dX5_binds_11 : decode cX5_binds 11 = .ok (.bipush 30, 2) := dk_16 30 (dk_at dksX5_binds_0 11 rfl rfl)
theorem dX5_binds_13 : decode cX5_binds 13 = .ok (.if_icmp .ne 7, 3) := dk_160 0 7 (dk_at dksX5_binds_0 13 rfl rfl)
theorem dX5_binds_16 : decode cX5_binds 16 = .ok (.iconst 1, 1) := dk_4 (dk_at dksX5_binds_0 16 rfl rfl)
theorem dX5_binds_17 : decode cX5_binds 17 = .ok (.goto 45, 3) := dk_167 0 45 (dk_at dksX5_binds_0 17 rfl rfl)
theorem dX5_binds_20 : decode cX5_binds 20 = .ok (.iload_n 0, 1) := dk_26 (dk_at dksX5_binds_0 20 rfl rfl)
theorem dX5_binds_21 : decode cX5_binds 21 = .ok (.bipush 29, 2) := dk_16 29 (dk_at dksX5_binds_0 21 rfl rfl)
theorem dX5_binds_23 : decode cX5_binds 23 = .ok (.if_icmp .ne 7, 3) := dk_160 0 7 (dk_at dksX5_binds_1 0 rfl rfl)
theorem dX5_binds_26 : decode cX5_binds 26 = .ok (.iconst 2, 1) := dk_5 (dk_at dksX5_binds_1 3 rfl rfl)
theorem dX5_binds_27 : decode cX5_binds 27 = .ok (.goto 35, 3) := dk_167 0 35 (dk_at dksX5_binds_1 4 rfl rfl)
theorem dX5_binds_30 : decode cX5_binds 30 = .ok (.iload_n 0, 1) := dk_26 (dk_at dksX5_binds_1 7 rfl rfl)
theorem dX5_binds_31 : decode cX5_binds 31 = .ok (.bipush 28, 2) := dk_16 28 (dk_at dksX5_binds_1 8 rfl rfl)
theorem dX5_binds_33 : decode cX5_binds 33 = .ok (.if_icmp .ne 7, 3) := dk_160 0 7 (dk_at dksX5_binds_1 10 rfl rfl)
theorem dX5_binds_36 : decode cX5_binds 36 = .ok (.iconst 3, 1) := dk_6 (dk_at dksX5_binds_1 13 rfl rfl)
theorem dX5_binds_37 : decode cX5_binds 37 = .ok (.goto 25, 3) := dk_167 0 25 (dk_at dksX5_binds_1 14 rfl rfl)
theorem dX5_binds_40 : decode cX5_binds 40 = .ok (.iload_n 0, 1) := dk_26 (dk_at dksX5_binds_1 17 rfl rfl)
theorem dX5_binds_41 : decode cX5_binds 41 = .ok (.bipush 25, 2) := dk_16 25 (dk_at dksX5_binds_1 18 rfl rfl)
theorem dX5_binds_43 : decode cX5_binds 43 = .ok (.if_icmp .lt 7, 3) := dk_161 0 7 (dk_at dksX5_binds_1 20 rfl rfl)
theorem dX5_binds_46 : decode cX5_binds 46 = .ok (.iconst 4, 1) := dk_7 (dk_at dksX5_binds_1 23 rfl rfl)
theorem dX5_binds_47 : decode cX5_binds 47 = .ok (.goto 15, 3) := dk_167 0 15 (dk_at dksX5_binds_2 0 rfl rfl)
theorem dX5_binds_50 : decode cX5_binds 50 = .ok (.iload_n 0, 1) := dk_26 (dk_at dksX5_binds_2 3 rfl rfl)
theorem dX5_binds_51 : decode cX5_binds 51 = .ok (.bipush 22, 2) := dk_16 22 (dk_at dksX5_binds_2 4 rfl rfl)
theorem dX5_binds_53 : decode cX5_binds 53 = .ok (.if_icmp .lt 8, 3) := dk_161 0 8 (dk_at dksX5_binds_2 6 rfl rfl)
theorem dX5_binds_56 : decode cX5_binds 56 = .ok (.bipush 6, 2) := dk_16 6 (dk_at dksX5_binds_2 9 rfl rfl)
theorem dX5_binds_58 : decode cX5_binds 58 = .ok (.goto 4, 3) := dk_167 0 4 (dk_at dksX5_binds_2 11 rfl rfl)
theorem dX5_binds_61 : decode cX5_binds 61 = .ok (.iconst 5, 1) := dk_8 (dk_at dksX5_binds_2 14 rfl rfl)
theorem dX5_binds_62 : decode cX5_binds 62 = .ok (.ireturn, 1) := dk_172 (dk_at dksX5_binds_2 15 rfl rfl)
abbrev cX5_settle : ByteArray := prog_22_method_44_code
def yX5_settle : MethodName := ⟨RX5, "settle", "(I)V"⟩
def dkwX5_settle_4 : List UInt8 := [180, 1, 23, 46, 3, 182, 1, 29, 167, 255, 158, 177]
abbrev dktX5_settle_4 : List UInt8 := dkwX5_settle_4 ++ []
def dkwX5_settle_3 : List UInt8 := [180, 0, 57, 42, 180, 1, 23, 46, 42, 180, 1, 20, 79, 167, 255, 175, 42, 42, 180, 0, 54, 42]
abbrev dktX5_settle_3 : List UInt8 := dkwX5_settle_3 ++ dktX5_settle_4
def dkwX5_settle_2 : List UInt8 := [159, 0, 17, 42, 180, 0, 54, 42, 180, 1, 23, 46, 16, 30, 160, 0, 24, 42, 180, 0, 51, 42]
abbrev dktX5_settle_2 : List UInt8 := dkwX5_settle_2 ++ dktX5_settle_3
def dkwX5_settle_1 : List UInt8 := [161, 0, 79, 42, 89, 180, 1, 23, 4, 100, 181, 1, 23, 42, 180, 0, 54, 42, 180, 1, 23, 46, 16, 29]
abbrev dktX5_settle_1 : List UInt8 := dkwX5_settle_1 ++ dktX5_settle_2
def dkwX5_settle_0 : List UInt8 := [42, 180, 1, 23, 158, 0, 97, 42, 180, 0, 54, 42, 180, 1, 23, 4, 100, 46, 184, 1, 26, 27]
abbrev dktX5_settle_0 : List UInt8 := dkwX5_settle_0 ++ dktX5_settle_1
theorem dksX5_settle_0 : cX5_settle.data.toList.drop 0 = dktX5_settle_0 := by decide +kernel
theorem dksX5_settle_1 : cX5_settle.data.toList.drop 22 = dktX5_settle_1 := dk_seg dksX5_settle_0 22 rfl rfl
theorem dksX5_settle_2 : cX5_settle.data.toList.drop 46 = dktX5_settle_2 := dk_seg dksX5_settle_1 24 rfl rfl
theorem dksX5_settle_3 : cX5_settle.data.toList.drop 68 = dktX5_settle_3 := dk_seg dksX5_settle_2 22 rfl rfl
theorem dksX5_settle_4 : cX5_settle.data.toList.drop 90 = dktX5_settle_4 := dk_seg dksX5_settle_3 22 rfl rfl
theorem dX5_settle_0 : decode cX5_settle 0 = .ok (.aload_n 0, 1) := dk_42 (dk_at dksX5_settle_0 0 rfl rfl)
theorem dX5_settle_1 : decode cX5_settle 1 = .ok (.getfield 279, 3) := dk_180 1 23 (dk_at dksX5_settle_0 1 rfl rfl)
theorem dX5_settle_4 : decode cX5_settle 4 = .ok (.ifCond .le 97, 3) := dk_158 0 97 (dk_at dksX5_settle_0 4 rfl rfl)
theorem dX5_settle_7 : decode cX5_settle 7 = .ok (.aload_n 0, 1) := dk_42 (dk_at dksX5_settle_0 7 rfl rfl)
theorem dX5_settle_8 : decode cX5_settle 8 = .ok (.getfield 54, 3) := dk_180 0 54 (dk_at dksX5_settle_0 8 rfl rfl)
theorem dX5_settle_11 : decode cX5_settle 11 = .ok (.aload_n 0, 1) := dk_42 (dk_at dksX5_settle_0 11 rfl rfl)
theorem dX5_settle_12 : decode cX5_settle 12 = .ok (.getfield 279, 3) := dk_180 1 23 (dk_at dksX5_settle_0 12 rfl rfl)
theorem dX5_settle_15 : decode cX5_settle 15 = .ok (.iconst 1, 1) := dk_4 (dk_at dksX5_settle_0 15 rfl rfl)
theorem dX5_settle_16 : decode cX5_settle 16 = .ok (.isub, 1) := dk_100 (dk_at dksX5_settle_0 16 rfl rfl)
theorem dX5_settle_17 : decode cX5_settle 17 = .ok (.iaload, 1) := dk_46 (dk_at dksX5_settle_0 17 rfl rfl)
theorem dX5_settle_18 : decode cX5_settle 18 = .ok (.invokestatic 282, 3) := dk_184 1 26 (dk_at dksX5_settle_0 18 rfl rfl)
theorem dX5_settle_21 : decode cX5_settle 21 = .ok (.iload_n 1, 1) := dk_27 (dk_at dksX5_settle_0 21 rfl rfl)
theorem dX5_settle_22 : decode cX5_settle 22 = .ok (.if_icmp .lt 79, 3) := dk_161 0 79 (dk_at dksX5_settle_1 0 rfl rfl)
theorem dX5_settle_25 : decode cX5_settle 25 = .ok (.aload_n 0, 1) := dk_42 (dk_at dksX5_settle_1 3 rfl rfl)
theorem dX5_settle_26 : decode cX5_settle 26 = .ok (.dup, 1) := dk_89 (dk_at dksX5_settle_1 4 rfl rfl)
theorem dX5_settle_27 : decode cX5_settle 27 = .ok (.getfield 279, 3) := dk_180 1 23 (dk_at dksX5_settle_1 5 rfl rfl)
theorem dX5_settle_30 : decode cX5_settle 30 = .ok (.iconst 1, 1) := dk_4 (dk_at dksX5_settle_1 8 rfl rfl)
theorem dX5_settle_31 : decode cX5_settle 31 = .ok (.isub, 1) := dk_100 (dk_at dksX5_settle_1 9 rfl rfl)
theorem dX5_settle_32 : decode cX5_settle 32 = .ok (.putfield 279, 3) := dk_181 1 23 (dk_at dksX5_settle_1 10 rfl rfl)
theorem dX5_settle_35 : decode cX5_settle 35 = .ok (.aload_n 0, 1) := dk_42 (dk_at dksX5_settle_1 13 rfl rfl)
theorem dX5_settle_36 : decode cX5_settle 36 = .ok (.getfield 54, 3) := dk_180 0 54 (dk_at dksX5_settle_1 14 rfl rfl)
theorem dX5_settle_39 : decode cX5_settle 39 = .ok (.aload_n 0, 1) := dk_42 (dk_at dksX5_settle_1 17 rfl rfl)
theorem dX5_settle_40 : decode cX5_settle 40 = .ok (.getfield 279, 3) := dk_180 1 23 (dk_at dksX5_settle_1 18 rfl rfl)
theorem dX5_settle_43 : decode cX5_settle 43 = .ok (.iaload, 1) := dk_46 (dk_at dksX5_settle_1 21 rfl rfl)
theorem dX5_settle_44 : decode cX5_settle 44 = .ok (.bipush 29, 2) := dk_16 29 (dk_at dksX5_settle_1 22 rfl rfl)
theorem dX5_settle_46 : decode cX5_settle 46 = .ok (.if_icmp .eq 17, 3) := dk_159 0 17 (dk_at dksX5_settle_2 0 rfl rfl)
theorem dX5_settle_49 : decode cX5_settle 49 = .ok (.aload_n 0, 1) := dk_42 (dk_at dksX5_settle_2 3 rfl rfl)
theorem dX5_settle_50 : decode cX5_settle 50 = .ok (.getfield 54, 3) := dk_180 0 54 (dk_at dksX5_settle_2 4 rfl rfl)
theorem dX5_settle_53 : decode cX5_settle 53 = .ok (.aload_n 0, 1) := dk_42 (dk_at dksX5_settle_2 7 rfl rfl)
theorem dX5_settle_54 : decode cX5_settle 54 = .ok (.getfield 279, 3) := dk_180 1 23 (dk_at dksX5_settle_2 8 rfl rfl)
theorem dX5_settle_57 : decode cX5_settle 57 = .ok (.iaload, 1) := dk_46 (dk_at dksX5_settle_2 11 rfl rfl)
theorem dX5_settle_58 : decode cX5_settle 58 = .ok (.bipush 30, 2) := dk_16 30 (dk_at dksX5_settle_2 12 rfl rfl)
theorem dX5_settle_60 : decode cX5_settle 60 = .ok (.if_icmp .ne 24, 3) := dk_160 0 24 (dk_at dksX5_settle_2 14 rfl rfl)
theorem dX5_settle_63 : decode cX5_settle 63 = .ok (.aload_n 0, 1) := dk_42 (dk_at dksX5_settle_2 17 rfl rfl)
theorem dX5_settle_64 : decode cX5_settle 64 = .ok (.getfield 51, 3) := dk_180 0 51 (dk_at dksX5_settle_2 18 rfl rfl)
theorem dX5_settle_67 : decode cX5_settle 67 = .ok (.aload_n 0, 1) := dk_42 (dk_at dksX5_settle_2 21 rfl rfl)
theorem dX5_settle_68 : decode cX5_settle 68 = .ok (.getfield 57, 3) := dk_180 0 57 (dk_at dksX5_settle_3 0 rfl rfl)
theorem dX5_settle_71 : decode cX5_settle 71 = .ok (.aload_n 0, 1) := dk_42 (dk_at dksX5_settle_3 3 rfl rfl)
theorem dX5_settle_72 : decode cX5_settle 72 = .ok (.getfield 279, 3) := dk_180 1 23 (dk_at dksX5_settle_3 4 rfl rfl)
theorem dX5_settle_75 : decode cX5_settle 75 = .ok (.iaload, 1) := dk_46 (dk_at dksX5_settle_3 7 rfl rfl)
theorem dX5_settle_76 : decode cX5_settle 76 = .ok (.aload_n 0, 1) := dk_42 (dk_at dksX5_settle_3 8 rfl rfl)
theorem dX5_settle_77 : decode cX5_settle 77 = .ok (.getfield 276, 3) := dk_180 1 20 (dk_at dksX5_settle_3 9 rfl rfl)
theorem dX5_settle_80 : decode cX5_settle 80 = .ok (.iastore, 1) := dk_79 (dk_at dksX5_settle_3 12 rfl rfl)
theorem dX5_settle_81 : decode cX5_settle 81 = .ok (.goto (-81), 3) := dk_167 255 175 (dk_at dksX5_settle_3 13 rfl rfl)
theorem dX5_settle_84 : decode cX5_settle 84 = .ok (.aload_n 0, 1) := dk_42 (dk_at dksX5_settle_3 16 rfl rfl)
theorem dX5_settle_85 : decode cX5_settle 85 = .ok (.aload_n 0, 1) := dk_42 (dk_at dksX5_settle_3 17 rfl rfl)
theorem dX5_settle_86 : decode cX5_settle 86 = .ok (.getfield 54, 3) := dk_180 0 54 (dk_at dksX5_settle_3 18 rfl rfl)
theorem dX5_settle_89 : decode cX5_settle 89 = .ok (.aload_n 0, 1) := dk_42 (dk_at dksX5_settle_3 21 rfl rfl)
theorem dX5_settle_90 : decode cX5_settle 90 = .ok (.getfield 279, 3) := dk_180 1 23 (dk_at dksX5_settle_4 0 rfl rfl)
theorem dX5_settle_93 : decode cX5_settle 93 = .ok (.iaload, 1) := dk_46 (dk_at dksX5_settle_4 3 rfl rfl)
theorem dX5_settle_94 : decode cX5_settle 94 = .ok (.iconst 0, 1) := dk_3 (dk_at dksX5_settle_4 4 rfl rfl)
theorem dX5_settle_95 : decode cX5_settle 95 = .ok (.invokevirtual 285, 3) := dk_182 1 29 (dk_at dksX5_settle_4 5 rfl rfl)
theorem dX5_settle_98 : decode cX5_settle 98 = .ok (.goto (-98), 3) := dk_167 255 158 (dk_at dksX5_settle_4 8 rfl rfl)
theorem dX5_settle_101 : decode cX5_settle 101 = .ok (.return_, 1) := dk_177 (dk_at dksX5_settle_4 11 rfl rfl)
abbrev cX5_inner : ByteArray := prog_22_method_45_code
def yX5_inner : MethodName := ⟨RX5, "inner", "()I"⟩
def dkwX5_inner_1 : List UInt8 := [180, 0, 54, 28, 46, 167, 0, 4, 27, 60, 132, 2, 1, 167, 255, 223, 27, 172]
abbrev dktX5_inner_1 : List UInt8 := dkwX5_inner_1 ++ []
def dkwX5_inner_0 : List UInt8 := [2, 60, 3, 61, 28, 42, 180, 1, 23, 162, 0, 31, 42, 180, 0, 54, 28, 46, 16, 31, 161, 0, 12, 42]
abbrev dktX5_inner_0 : List UInt8 := dkwX5_inner_0 ++ dktX5_inner_1
theorem dksX5_inner_0 : cX5_inner.data.toList.drop 0 = dktX5_inner_0 := by decide +kernel
theorem dksX5_inner_1 : cX5_inner.data.toList.drop 24 = dktX5_inner_1 := dk_seg dksX5_inner_0 24 rfl rfl
theorem dX5_inner_0 : decode cX5_inner 0 = .ok (.iconst (-1), 1) := dk_2 (dk_at dksX5_inner_0 0 rfl rfl)
theorem dX5_inner_1 : decode cX5_inner 1 = .ok (.istore_n 1, 1) := dk_60 (dk_at dksX5_inner_0 1 rfl rfl)
theorem dX5_inner_2 : decode cX5_inner 2 = .ok (.iconst 0, 1) := dk_3 (dk_at dksX5_inner_0 2 rfl rfl)
theorem dX5_inner_3 : decode cX5_inner 3 = .ok (.istore_n 2, 1) := dk_61 (dk_at dksX5_inner_0 3 rfl rfl)
theorem dX5_inner_4 : decode cX5_inner 4 = .ok (.iload_n 2, 1) := dk_28 (dk_at dksX5_inner_0 4 rfl rfl)
theorem dX5_inner_5 : decode cX5_inner 5 = .ok (.aload_n 0, 1) := dk_42 (dk_at dksX5_inner_0 5 rfl rfl)
theorem dX5_inner_6 : decode cX5_inner 6 = .ok (.getfield 279, 3) := dk_180 1 23 (dk_at dksX5_inner_0 6 rfl rfl)
theorem dX5_inner_9 : decode cX5_inner 9 = .ok (.if_icmp .ge 31, 3) := dk_162 0 31 (dk_at dksX5_inner_0 9 rfl rfl)
theorem dX5_inner_12 : decode cX5_inner 12 = .ok (.aload_n 0, 1) := dk_42 (dk_at dksX5_inner_0 12 rfl rfl)
theorem dX5_inner_13 : decode cX5_inner 13 = .ok (.getfield 54, 3) := dk_180 0 54 (dk_at dksX5_inner_0 13 rfl rfl)
theorem dX5_inner_16 : decode cX5_inner 16 = .ok (.iload_n 2, 1) := dk_28 (dk_at dksX5_inner_0 16 rfl rfl)
theorem dX5_inner_17 : decode cX5_inner 17 = .ok (.iaload, 1) := dk_46 (dk_at dksX5_inner_0 17 rfl rfl)
theorem dX5_inner_18 : decode cX5_inner 18 = .ok (.bipush 31, 2) := dk_16 31 (dk_at dksX5_inner_0 18 rfl rfl)
theorem dX5_inner_20 : decode cX5_inner 20 = .ok (.if_icmp .lt 12, 3) := dk_161 0 12 (dk_at dksX5_inner_0 20 rfl rfl)
theorem dX5_inner_23 : decode cX5_inner 23 = .ok (.aload_n 0, 1) := dk_42 (dk_at dksX5_inner_0 23 rfl rfl)
theorem dX5_inner_24 : decode cX5_inner 24 = .ok (.getfield 54, 3) := dk_180 0 54 (dk_at dksX5_inner_1 0 rfl rfl)
theorem dX5_inner_27 : decode cX5_inner 27 = .ok (.iload_n 2, 1) := dk_28 (dk_at dksX5_inner_1 3 rfl rfl)
theorem dX5_inner_28 : decode cX5_inner 28 = .ok (.iaload, 1) := dk_46 (dk_at dksX5_inner_1 4 rfl rfl)
theorem dX5_inner_29 : decode cX5_inner 29 = .ok (.goto 4, 3) := dk_167 0 4 (dk_at dksX5_inner_1 5 rfl rfl)
theorem dX5_inner_32 : decode cX5_inner 32 = .ok (.iload_n 1, 1) := dk_27 (dk_at dksX5_inner_1 8 rfl rfl)
theorem dX5_inner_33 : decode cX5_inner 33 = .ok (.istore_n 1, 1) := dk_60 (dk_at dksX5_inner_1 9 rfl rfl)
theorem dX5_inner_34 : decode cX5_inner 34 = .ok (.iinc 2 1, 3) := dk_132 2 1 (dk_at dksX5_inner_1 10 rfl rfl)
theorem dX5_inner_37 : decode cX5_inner 37 = .ok (.goto (-33), 3) := dk_167 255 223 (dk_at dksX5_inner_1 13 rfl rfl)
theorem dX5_inner_40 : decode cX5_inner 40 = .ok (.iload_n 1, 1) := dk_27 (dk_at dksX5_inner_1 16 rfl rfl)
theorem dX5_inner_41 : decode cX5_inner 41 = .ok (.ireturn, 1) := dk_172 (dk_at dksX5_inner_1 17 rfl rfl)
abbrev cX5_isCompared : ByteArray := prog_22_method_46_code
def yX5_isCompared : MethodName := ⟨RX5, "isCompared", "()Z"⟩
def dkwX5_isCompared_2 : List UInt8 := [20, 0, 84, 20, 1, 34, 184, 0, 159, 153, 0, 7, 4, 167, 0, 4, 3, 172]
abbrev dktX5_isCompared_2 : List UInt8 := dkwX5_isCompared_2 ++ []
def dkwX5_isCompared_1 : List UInt8 := [184, 0, 159, 153, 0, 9, 132, 1, 255, 167, 255, 230, 27, 155, 0, 26, 42, 180, 0, 54, 27, 46, 133]
abbrev dktX5_isCompared_1 : List UInt8 := dkwX5_isCompared_1 ++ dktX5_isCompared_2
def dkwX5_isCompared_0 : List UInt8 := [42, 180, 1, 23, 4, 100, 60, 27, 155, 0, 28, 42, 180, 0, 54, 27, 46, 133, 20, 1, 32, 20, 0, 82]
abbrev dktX5_isCompared_0 : List UInt8 := dkwX5_isCompared_0 ++ dktX5_isCompared_1
theorem dksX5_isCompared_0 : cX5_isCompared.data.toList.drop 0 = dktX5_isCompared_0 := by decide +kernel
theorem dksX5_isCompared_1 : cX5_isCompared.data.toList.drop 24 = dktX5_isCompared_1 := dk_seg dksX5_isCompared_0 24 rfl rfl
theorem dksX5_isCompared_2 : cX5_isCompared.data.toList.drop 47 = dktX5_isCompared_2 := dk_seg dksX5_isCompared_1 23 rfl rfl
theorem dX5_isCompared_0 : decode cX5_isCompared 0 = .ok (.aload_n 0, 1) := dk_42 (dk_at dksX5_isCompared_0 0 rfl rfl)
theorem dX5_isCompared_1 : decode cX5_isCompared 1 = .ok (.getfield 279, 3) := dk_180 1 23 (dk_at dksX5_isCompared_0 1 rfl rfl)
theorem dX5_isCompared_4 : decode cX5_isCompared 4 = .ok (.iconst 1, 1) := dk_4 (dk_at dksX5_isCompared_0 4 rfl rfl)
theorem dX5_isCompared_5 : decode cX5_isCompared 5 = .ok (.isub, 1) := dk_100 (dk_at dksX5_isCompared_0 5 rfl rfl)
theorem dX5_isCompared_6 : decode cX5_isCompared 6 = .ok (.istore_n 1, 1) := dk_60 (dk_at dksX5_isCompared_0 6 rfl rfl)
theorem dX5_isCompared_7 : decode cX5_isCompared 7 = .ok (.iload_n 1, 1) := dk_27 (dk_at dksX5_isCompared_0 7 rfl rfl)
theorem dX5_isCompared_8 : decode cX5_isCompared 8 = .ok (.ifCond .lt 28, 3) := dk_155 0 28 (dk_at dksX5_isCompared_0 8 rfl rfl)
theorem dX5_isCompared_11 : decode cX5_isCompared 11 = .ok (.aload_n 0, 1) := dk_42 (dk_at dksX5_isCompared_0 11 rfl rfl)
theorem dX5_isCompared_12 : decode cX5_isCompared 12 = .ok (.getfield 54, 3) := dk_180 0 54 (dk_at dksX5_isCompared_0 12 rfl rfl)
theorem dX5_isCompared_15 : decode cX5_isCompared 15 = .ok (.iload_n 1, 1) := dk_27 (dk_at dksX5_isCompared_0 15 rfl rfl)
theorem dX5_isCompared_16 : decode cX5_isCompared 16 = .ok (.iaload, 1) := dk_46 (dk_at dksX5_isCompared_0 16 rfl rfl)
theorem dX5_isCompared_17 : decode cX5_isCompared 17 = .ok (.i2l, 1) := dk_133 (dk_at dksX5_isCompared_0 17 rfl rfl)
theorem dX5_isCompared_18 : decode cX5_isCompared 18 = .ok (.ldc2_w 288, 3) := dk_20 1 32 (dk_at dksX5_isCompared_0 18 rfl rfl)
theorem dX5_isCompared_21 : decode cX5_isCompared 21 = .ok (.ldc2_w 82, 3) := dk_20 0 82 (dk_at dksX5_isCompared_0 21 rfl rfl)
theorem dX5_isCompared_24 : decode cX5_isCompared 24 = .ok (.invokestatic 159, 3) := dk_184 0 159 (dk_at dksX5_isCompared_1 0 rfl rfl)
theorem dX5_isCompared_27 : decode cX5_isCompared 27 = .ok (.ifCond .eq 9, 3) := dk_153 0 9 (dk_at dksX5_isCompared_1 3 rfl rfl)
theorem dX5_isCompared_30 : decode cX5_isCompared 30 = .ok (.iinc 1 (-1), 3) := dk_132 1 255 (dk_at dksX5_isCompared_1 6 rfl rfl)
theorem dX5_isCompared_33 : decode cX5_isCompared 33 = .ok (.goto (-26), 3) := dk_167 255 230 (dk_at dksX5_isCompared_1 9 rfl rfl)
theorem dX5_isCompared_36 : decode cX5_isCompared 36 = .ok (.iload_n 1, 1) := dk_27 (dk_at dksX5_isCompared_1 12 rfl rfl)
theorem dX5_isCompared_37 : decode cX5_isCompared 37 = .ok (.ifCond .lt 26, 3) := dk_155 0 26 (dk_at dksX5_isCompared_1 13 rfl rfl)
theorem dX5_isCompared_40 : decode cX5_isCompared 40 = .ok (.aload_n 0, 1) := dk_42 (dk_at dksX5_isCompared_1 16 rfl rfl)
theorem dX5_isCompared_41 : decode cX5_isCompared 41 = .ok (.getfield 54, 3) := dk_180 0 54 (dk_at dksX5_isCompared_1 17 rfl rfl)
theorem dX5_isCompared_44 : decode cX5_isCompared 44 = .ok (.iload_n 1, 1) := dk_27 (dk_at dksX5_isCompared_1 20 rfl rfl)
theorem dX5_isCompared_45 : decode cX5_isCompared 45 = .ok (.iaload, 1) := dk_46 (dk_at dksX5_isCompared_1 21 rfl rfl)
theorem dX5_isCompared_46 : decode cX5_isCompared 46 = .ok (.i2l, 1) := dk_133 (dk_at dksX5_isCompared_1 22 rfl rfl)
theorem dX5_isCompared_47 : decode cX5_isCompared 47 = .ok (.ldc2_w 84, 3) := dk_20 0 84 (dk_at dksX5_isCompared_2 0 rfl rfl)
theorem dX5_isCompared_50 : decode cX5_isCompared 50 = .ok (.ldc2_w 290, 3) := dk_20 1 34 (dk_at dksX5_isCompared_2 3 rfl rfl)
theorem dX5_isCompared_53 : decode cX5_isCompared 53 = .ok (.invokestatic 159, 3) := dk_184 0 159 (dk_at dksX5_isCompared_2 6 rfl rfl)
theorem dX5_isCompared_56 : decode cX5_isCompared 56 = .ok (.ifCond .eq 7, 3) := dk_153 0 7 (dk_at dksX5_isCompared_2 9 rfl rfl)
theorem dX5_isCompared_59 : decode cX5_isCompared 59 = .ok (.iconst 1, 1) := dk_4 (dk_at dksX5_isCompared_2 12 rfl rfl)
theorem dX5_isCompared_60 : decode cX5_isCompared 60 = .ok (.goto 4, 3) := dk_167 0 4 (dk_at dksX5_isCompared_2 13 rfl rfl)
theorem dX5_isCompared_63 : decode cX5_isCompared 63 = .ok (.iconst 0, 1) := dk_3 (dk_at dksX5_isCompared_2 16 rfl rfl)
theorem dX5_isCompared_64 : decode cX5_isCompared 64 = .ok (.ireturn, 1) := dk_172 (dk_at dksX5_isCompared_2 17 rfl rfl)
abbrev cX5_behindTest : ByteArray := prog_22_method_54_code
def yX5_behindTest : MethodName := ⟨RX5, "behindTest", "()I"⟩
def dkwX5_behindTest_5 : List UInt8 := [181, 1, 23, 42, 89, 180, 1, 40, 4, 100, 181, 1, 40, 5, 172]
abbrev dktX5_behindTest_5 : List UInt8 := dkwX5_behindTest_5 ++ []
def dkwX5_behindTest_4 : List UInt8 := [182, 1, 16, 42, 180, 0, 239, 154, 0, 28, 42, 4, 182, 1, 80, 42, 89, 180, 1, 23, 4, 100]
abbrev dktX5_behindTest_4 : List UInt8 := dkwX5_behindTest_4 ++ dktX5_behindTest_5
def dkwX5_behindTest_3 : List UInt8 := [182, 0, 243, 3, 172, 42, 182, 1, 83, 2, 160, 0, 5, 7, 172, 42, 42, 16, 41, 182, 1, 49]
abbrev dktX5_behindTest_3 : List UInt8 := dkwX5_behindTest_3 ++ dktX5_behindTest_4
def dkwX5_behindTest_2 : List UInt8 := [180, 1, 20, 182, 1, 43, 42, 27, 153, 0, 8, 16, 29, 167, 0, 5, 16, 30, 3, 182, 1, 29, 42]
abbrev dktX5_behindTest_2 : List UInt8 := dkwX5_behindTest_2 ++ dktX5_behindTest_3
def dkwX5_behindTest_1 : List UInt8 := [153, 0, 7, 5, 167, 0, 4, 4, 182, 1, 80, 42, 27, 153, 0, 8, 16, 29, 167, 0, 5, 16, 30, 42]
abbrev dktX5_behindTest_1 : List UInt8 := dkwX5_behindTest_1 ++ dktX5_behindTest_2
def dkwX5_behindTest_0 : List UInt8 := [42, 20, 1, 90, 182, 1, 36, 60, 27, 154, 0, 13, 42, 20, 1, 92, 182, 1, 36, 153, 0, 57, 42, 27]
abbrev dktX5_behindTest_0 : List UInt8 := dkwX5_behindTest_0 ++ dktX5_behindTest_1
theorem dksX5_behindTest_0 : cX5_behindTest.data.toList.drop 0 = dktX5_behindTest_0 := by decide +kernel
theorem dksX5_behindTest_1 : cX5_behindTest.data.toList.drop 24 = dktX5_behindTest_1 := dk_seg dksX5_behindTest_0 24 rfl rfl
theorem dksX5_behindTest_2 : cX5_behindTest.data.toList.drop 48 = dktX5_behindTest_2 := dk_seg dksX5_behindTest_1 24 rfl rfl
theorem dksX5_behindTest_3 : cX5_behindTest.data.toList.drop 71 = dktX5_behindTest_3 := dk_seg dksX5_behindTest_2 23 rfl rfl
theorem dksX5_behindTest_4 : cX5_behindTest.data.toList.drop 93 = dktX5_behindTest_4 := dk_seg dksX5_behindTest_3 22 rfl rfl
theorem dksX5_behindTest_5 : cX5_behindTest.data.toList.drop 115 = dktX5_behindTest_5 := dk_seg dksX5_behindTest_4 22 rfl rfl
theorem dX5_behindTest_0 : decode cX5_behindTest 0 = .ok (.aload_n 0, 1) := dk_42 (dk_at dksX5_behindTest_0 0 rfl rfl)
theorem dX5_behindTest_1 : decode cX5_behindTest 1 = .ok (.ldc2_w 346, 3) := dk_20 1 90 (dk_at dksX5_behindTest_0 1 rfl rfl)
theorem dX5_behindTest_4 : decode cX5_behindTest 4 = .ok (.invokevirtual 292, 3) := dk_182 1 36 (dk_at dksX5_behindTest_0 4 rfl rfl)
theorem dX5_behindTest_7 : decode cX5_behindTest 7 = .ok (.istore_n 1, 1) := dk_60 (dk_at dksX5_behindTest_0 7 rfl rfl)
theorem dX5_behindTest_8 : decode cX5_behindTest 8 = .ok (.iload_n 1, 1) := dk_27 (dk_at dksX5_behindTest_0 8 rfl rfl)
theorem dX5_behindTest_9 : decode cX5_behindTest 9 = .ok (.ifCond .ne 13, 3) := dk_154 0 13 (dk_at dksX5_behindTest_0 9 rfl rfl)
theorem dX5_behindTest_12 : decode cX5_behindTest 12 = .ok (.aload_n 0, 1) := dk_42 (dk_at dksX5_behindTest_0 12 rfl rfl)
theorem dX5_behindTest_13 : decode cX5_behindTest 13 = .ok (.ldc2_w 348, 3) := dk_20 1 92 (dk_at dksX5_behindTest_0 13 rfl rfl)
theorem dX5_behindTest_16 : decode cX5_behindTest 16 = .ok (.invokevirtual 292, 3) := dk_182 1 36 (dk_at dksX5_behindTest_0 16 rfl rfl)
theorem dX5_behindTest_19 : decode cX5_behindTest 19 = .ok (.ifCond .eq 57, 3) := dk_153 0 57 (dk_at dksX5_behindTest_0 19 rfl rfl)
theorem dX5_behindTest_22 : decode cX5_behindTest 22 = .ok (.aload_n 0, 1) := dk_42 (dk_at dksX5_behindTest_0 22 rfl rfl)
theorem dX5_behindTest_23 : decode cX5_behindTest 23 = .ok (.iload_n 1, 1) := dk_27 (dk_at dksX5_behindTest_0 23 rfl rfl)
theorem dX5_behindTest_24 : decode cX5_behindTest 24 = .ok (.ifCond .eq 7, 3) := dk_153 0 7 (dk_at dksX5_behindTest_1 0 rfl rfl)
theorem dX5_behindTest_27 : decode cX5_behindTest 27 = .ok (.iconst 2, 1) := dk_5 (dk_at dksX5_behindTest_1 3 rfl rfl)
theorem dX5_behindTest_28 : decode cX5_behindTest 28 = .ok (.goto 4, 3) := dk_167 0 4 (dk_at dksX5_behindTest_1 4 rfl rfl)
theorem dX5_behindTest_31 : decode cX5_behindTest 31 = .ok (.iconst 1, 1) := dk_4 (dk_at dksX5_behindTest_1 7 rfl rfl)
theorem dX5_behindTest_32 : decode cX5_behindTest 32 = .ok (.invokevirtual 336, 3) := dk_182 1 80 (dk_at dksX5_behindTest_1 8 rfl rfl)
theorem dX5_behindTest_35 : decode cX5_behindTest 35 = .ok (.aload_n 0, 1) := dk_42 (dk_at dksX5_behindTest_1 11 rfl rfl)
theorem dX5_behindTest_36 : decode cX5_behindTest 36 = .ok (.iload_n 1, 1) := dk_27 (dk_at dksX5_behindTest_1 12 rfl rfl)
theorem dX5_behindTest_37 : decode cX5_behindTest 37 = .ok (.ifCond .eq 8, 3) := dk_153 0 8 (dk_at dksX5_behindTest_1 13 rfl rfl)
theorem dX5_behindTest_40 : decode cX5_behindTest 40 = .ok (.bipush 29, 2) := dk_16 29 (dk_at dksX5_behindTest_1 16 rfl rfl)
theorem dX5_behindTest_42 : decode cX5_behindTest 42 = .ok (.goto 5, 3) := dk_167 0 5 (dk_at dksX5_behindTest_1 18 rfl rfl)
theorem dX5_behindTest_45 : decode cX5_behindTest 45 = .ok (.bipush 30, 2) := dk_16 30 (dk_at dksX5_behindTest_1 21 rfl rfl)
theorem dX5_behindTest_47 : decode cX5_behindTest 47 = .ok (.aload_n 0, 1) := dk_42 (dk_at dksX5_behindTest_1 23 rfl rfl)
theorem dX5_behindTest_48 : decode cX5_behindTest 48 = .ok (.getfield 276, 3) := dk_180 1 20 (dk_at dksX5_behindTest_2 0 rfl rfl)
theorem dX5_behindTest_51 : decode cX5_behindTest 51 = .ok (.invokevirtual 299, 3) := dk_182 1 43 (dk_at dksX5_behindTest_2 3 rfl rfl)
theorem dX5_behindTest_54 : decode cX5_behindTest 54 = .ok (.aload_n 0, 1) := dk_42 (dk_at dksX5_behindTest_2 6 rfl rfl)
theorem dX5_behindTest_55 : decode cX5_behindTest 55 = .ok (.iload_n 1, 1) := dk_27 (dk_at dksX5_behindTest_2 7 rfl rfl)
theorem dX5_behindTest_56 : decode cX5_behindTest 56 = .ok (.ifCond .eq 8, 3) := dk_153 0 8 (dk_at dksX5_behindTest_2 8 rfl rfl)
theorem dX5_behindTest_59 : decode cX5_behindTest 59 = .ok (.bipush 29, 2) := dk_16 29 (dk_at dksX5_behindTest_2 11 rfl rfl)
theorem dX5_behindTest_61 : decode cX5_behindTest 61 = .ok (.goto 5, 3) := dk_167 0 5 (dk_at dksX5_behindTest_2 13 rfl rfl)
theorem dX5_behindTest_64 : decode cX5_behindTest 64 = .ok (.bipush 30, 2) := dk_16 30 (dk_at dksX5_behindTest_2 16 rfl rfl)
theorem dX5_behindTest_66 : decode cX5_behindTest 66 = .ok (.iconst 0, 1) := dk_3 (dk_at dksX5_behindTest_2 18 rfl rfl)
theorem dX5_behindTest_67 : decode cX5_behindTest 67 = .ok (.invokevirtual 285, 3) := dk_182 1 29 (dk_at dksX5_behindTest_2 19 rfl rfl)
theorem dX5_behindTest_70 : decode cX5_behindTest 70 = .ok (.aload_n 0, 1) := dk_42 (dk_at dksX5_behindTest_2 22 rfl rfl)
theorem dX5_behindTest_71 : decode cX5_behindTest 71 = .ok (.invokevirtual 243, 3) := dk_182 0 243 (dk_at dksX5_behindTest_3 0 rfl rfl)
theorem dX5_behindTest_74 : decode cX5_behindTest 74 = .ok (.iconst 0, 1) := dk_3 (dk_at dksX5_behindTest_3 3 rfl rfl)
theorem dX5_behindTest_75 : decode cX5_behindTest 75 = .ok (.ireturn, 1) := dk_172 (dk_at dksX5_behindTest_3 4 rfl rfl)
theorem dX5_behindTest_76 : decode cX5_behindTest 76 = .ok (.aload_n 0, 1) := dk_42 (dk_at dksX5_behindTest_3 5 rfl rfl)
theorem dX5_behindTest_77 : decode cX5_behindTest 77 = .ok (.invokevirtual 339, 3) := dk_182 1 83 (dk_at dksX5_behindTest_3 6 rfl rfl)
theorem dX5_behindTest_80 : decode cX5_behindTest 80 = .ok (.iconst (-1), 1) := dk_2 (dk_at dksX5_behindTest_3 9 rfl rfl)
theorem dX5_behindTest_81 : decode cX5_behindTest 81 = .ok (.if_icmp .ne 5, 3) := dk_160 0 5 (dk_at dksX5_behindTest_3 10 rfl rfl)
theorem dX5_behindTest_84 : decode cX5_behindTest 84 = .ok (.iconst 4, 1) := dk_7 (dk_at dksX5_behindTest_3 13 rfl rfl)
theorem dX5_behindTest_85 : decode cX5_behindTest 85 = .ok (.ireturn, 1) := dk_172 (dk_at dksX5_behindTest_3 14 rfl rfl)
theorem dX5_behindTest_86 : decode cX5_behindTest 86 = .ok (.aload_n 0, 1) := dk_42 (dk_at dksX5_behindTest_3 15 rfl rfl)
theorem dX5_behindTest_87 : decode cX5_behindTest 87 = .ok (.aload_n 0, 1) := dk_42 (dk_at dksX5_behindTest_3 16 rfl rfl)
theorem dX5_behindTest_88 : decode cX5_behindTest 88 = .ok (.bipush 41, 2) := dk_16 41 (dk_at dksX5_behindTest_3 17 rfl rfl)
theorem dX5_behindTest_90 : decode cX5_behindTest 90 = .ok (.invokevirtual 305, 3) := dk_182 1 49 (dk_at dksX5_behindTest_3 19 rfl rfl)
theorem dX5_behindTest_93 : decode cX5_behindTest 93 = .ok (.invokevirtual 272, 3) := dk_182 1 16 (dk_at dksX5_behindTest_4 0 rfl rfl)
theorem dX5_behindTest_96 : decode cX5_behindTest 96 = .ok (.aload_n 0, 1) := dk_42 (dk_at dksX5_behindTest_4 3 rfl rfl)
theorem dX5_behindTest_97 : decode cX5_behindTest 97 = .ok (.getfield 239, 3) := dk_180 0 239 (dk_at dksX5_behindTest_4 4 rfl rfl)
theorem dX5_behindTest_100 : decode cX5_behindTest 100 = .ok (.ifCond .ne 28, 3) := dk_154 0 28 (dk_at dksX5_behindTest_4 7 rfl rfl)
theorem dX5_behindTest_103 : decode cX5_behindTest 103 = .ok (.aload_n 0, 1) := dk_42 (dk_at dksX5_behindTest_4 10 rfl rfl)
theorem dX5_behindTest_104 : decode cX5_behindTest 104 = .ok (.iconst 1, 1) := dk_4 (dk_at dksX5_behindTest_4 11 rfl rfl)
theorem dX5_behindTest_105 : decode cX5_behindTest 105 = .ok (.invokevirtual 336, 3) := dk_182 1 80 (dk_at dksX5_behindTest_4 12 rfl rfl)
theorem dX5_behindTest_108 : decode cX5_behindTest 108 = .ok (.aload_n 0, 1) := dk_42 (dk_at dksX5_behindTest_4 15 rfl rfl)
theorem dX5_behindTest_109 : decode cX5_behindTest 109 = .ok (.dup, 1) := dk_89 (dk_at dksX5_behindTest_4 16 rfl rfl)
theorem dX5_behindTest_110 : decode cX5_behindTest 110 = .ok (.getfield 279, 3) := dk_180 1 23 (dk_at dksX5_behindTest_4 17 rfl rfl)
theorem dX5_behindTest_113 : decode cX5_behindTest 113 = .ok (.iconst 1, 1) := dk_4 (dk_at dksX5_behindTest_4 20 rfl rfl)
theorem dX5_behindTest_114 : decode cX5_behindTest 114 = .ok (.isub, 1) := dk_100 (dk_at dksX5_behindTest_4 21 rfl rfl)
theorem dX5_behindTest_115 : decode cX5_behindTest 115 = .ok (.putfield 279, 3) := dk_181 1 23 (dk_at dksX5_behindTest_5 0 rfl rfl)
theorem dX5_behindTest_118 : decode cX5_behindTest 118 = .ok (.aload_n 0, 1) := dk_42 (dk_at dksX5_behindTest_5 3 rfl rfl)
theorem dX5_behindTest_119 : decode cX5_behindTest 119 = .ok (.dup, 1) := dk_89 (dk_at dksX5_behindTest_5 4 rfl rfl)
theorem dX5_behindTest_120 : decode cX5_behindTest 120 = .ok (.getfield 296, 3) := dk_180 1 40 (dk_at dksX5_behindTest_5 5 rfl rfl)
theorem dX5_behindTest_123 : decode cX5_behindTest 123 = .ok (.iconst 1, 1) := dk_4 (dk_at dksX5_behindTest_5 8 rfl rfl)
theorem dX5_behindTest_124 : decode cX5_behindTest 124 = .ok (.isub, 1) := dk_100 (dk_at dksX5_behindTest_5 9 rfl rfl)
theorem dX5_behindTest_125 : decode cX5_behindTest 125 = .ok (.putfield 296, 3) := dk_181 1 40 (dk_at dksX5_behindTest_5 10 rfl rfl)
theorem dX5_behindTest_128 : decode cX5_behindTest 128 = .ok (.iconst 2, 1) := dk_5 (dk_at dksX5_behindTest_5 13 rfl rfl)
theorem dX5_behindTest_129 : decode cX5_behindTest 129 = .ok (.ireturn, 1) := dk_172 (dk_at dksX5_behindTest_5 14 rfl rfl)
abbrev cX5_endText : ByteArray := prog_22_method_57_code
def yX5_endText : MethodName := ⟨RX5, "endText", "()V"⟩
def dkwX5_endText_1 : List UInt8 := [42, 3, 181, 0, 227, 177]
abbrev dktX5_endText_1 : List UInt8 := dkwX5_endText_1 ++ []
def dkwX5_endText_0 : List UInt8 := [42, 180, 0, 239, 154, 0, 15, 42, 180, 1, 3, 153, 0, 8, 42, 3, 182, 1, 16, 42, 3, 181, 1, 55]
abbrev dktX5_endText_0 : List UInt8 := dkwX5_endText_0 ++ dktX5_endText_1
theorem dksX5_endText_0 : cX5_endText.data.toList.drop 0 = dktX5_endText_0 := by decide +kernel
theorem dksX5_endText_1 : cX5_endText.data.toList.drop 24 = dktX5_endText_1 := dk_seg dksX5_endText_0 24 rfl rfl
theorem dX5_endText_0 : decode cX5_endText 0 = .ok (.aload_n 0, 1) := dk_42 (dk_at dksX5_endText_0 0 rfl rfl)
theorem dX5_endText_1 : decode cX5_endText 1 = .ok (.getfield 239, 3) := dk_180 0 239 (dk_at dksX5_endText_0 1 rfl rfl)
theorem dX5_endText_4 : decode cX5_endText 4 = .ok (.ifCond .ne 15, 3) := dk_154 0 15 (dk_at dksX5_endText_0 4 rfl rfl)
theorem dX5_endText_7 : decode cX5_endText 7 = .ok (.aload_n 0, 1) := dk_42 (dk_at dksX5_endText_0 7 rfl rfl)
theorem dX5_endText_8 : decode cX5_endText 8 = .ok (.getfield 259, 3) := dk_180 1 3 (dk_at dksX5_endText_0 8 rfl rfl)
theorem dX5_endText_11 : decode cX5_endText 11 = .ok (.ifCond .eq 8, 3) := dk_153 0 8 (dk_at dksX5_endText_0 11 rfl rfl)
theorem dX5_endText_14 : decode cX5_endText 14 = .ok (.aload_n 0, 1) := dk_42 (dk_at dksX5_endText_0 14 rfl rfl)
theorem dX5_endText_15 : decode cX5_endText 15 = .ok (.iconst 0, 1) := dk_3 (dk_at dksX5_endText_0 15 rfl rfl)
theorem dX5_endText_16 : decode cX5_endText 16 = .ok (.invokevirtual 272, 3) := dk_182 1 16 (dk_at dksX5_endText_0 16 rfl rfl)
theorem dX5_endText_19 : decode cX5_endText 19 = .ok (.aload_n 0, 1) := dk_42 (dk_at dksX5_endText_0 19 rfl rfl)
theorem dX5_endText_20 : decode cX5_endText 20 = .ok (.iconst 0, 1) := dk_3 (dk_at dksX5_endText_0 20 rfl rfl)
theorem dX5_endText_21 : decode cX5_endText 21 = .ok (.putfield 311, 3) := dk_181 1 55 (dk_at dksX5_endText_0 21 rfl rfl)
theorem dX5_endText_24 : decode cX5_endText 24 = .ok (.aload_n 0, 1) := dk_42 (dk_at dksX5_endText_1 0 rfl rfl)
theorem dX5_endText_25 : decode cX5_endText 25 = .ok (.iconst 0, 1) := dk_3 (dk_at dksX5_endText_1 1 rfl rfl)
theorem dX5_endText_26 : decode cX5_endText 26 = .ok (.putfield 227, 3) := dk_181 0 227 (dk_at dksX5_endText_1 2 rfl rfl)
theorem dX5_endText_29 : decode cX5_endText 29 = .ok (.return_, 1) := dk_177 (dk_at dksX5_endText_1 5 rfl rfl)
abbrev cX5_force : ByteArray := prog_22_method_60_code
def yX5_force : MethodName := ⟨RX5, "force", "(I)I"⟩
def dkwX5_force_1 : List UInt8 := [184, 0, 159, 153, 0, 12, 42, 6, 27, 182, 0, 210, 167, 0, 9, 42, 16, 254, 182, 0, 155, 172]
abbrev dktX5_force_1 : List UInt8 := dkwX5_force_1 ++ []
def dkwX5_force_0 : List UInt8 := [42, 3, 181, 0, 149, 27, 2, 159, 0, 21, 27, 133, 9, 42, 180, 0, 13, 5, 46, 133, 10, 101]
abbrev dktX5_force_0 : List UInt8 := dkwX5_force_0 ++ dktX5_force_1
theorem dksX5_force_0 : cX5_force.data.toList.drop 0 = dktX5_force_0 := by decide +kernel
theorem dksX5_force_1 : cX5_force.data.toList.drop 22 = dktX5_force_1 := dk_seg dksX5_force_0 22 rfl rfl
theorem dX5_force_0 : decode cX5_force 0 = .ok (.aload_n 0, 1) := dk_42 (dk_at dksX5_force_0 0 rfl rfl)
theorem dX5_force_1 : decode cX5_force 1 = .ok (.iconst 0, 1) := dk_3 (dk_at dksX5_force_0 1 rfl rfl)
theorem dX5_force_2 : decode cX5_force 2 = .ok (.putfield 149, 3) := dk_181 0 149 (dk_at dksX5_force_0 2 rfl rfl)
theorem dX5_force_5 : decode cX5_force 5 = .ok (.iload_n 1, 1) := dk_27 (dk_at dksX5_force_0 5 rfl rfl)
theorem dX5_force_6 : decode cX5_force 6 = .ok (.iconst (-1), 1) := dk_2 (dk_at dksX5_force_0 6 rfl rfl)
theorem dX5_force_7 : decode cX5_force 7 = .ok (.if_icmp .eq 21, 3) := dk_159 0 21 (dk_at dksX5_force_0 7 rfl rfl)
theorem dX5_force_10 : decode cX5_force 10 = .ok (.iload_n 1, 1) := dk_27 (dk_at dksX5_force_0 10 rfl rfl)
theorem dX5_force_11 : decode cX5_force 11 = .ok (.i2l, 1) := dk_133 (dk_at dksX5_force_0 11 rfl rfl)
theorem dX5_force_12 : decode cX5_force 12 = .ok (.lconst 0, 1) := dk_9 (dk_at dksX5_force_0 12 rfl rfl)
theorem dX5_force_13 : decode cX5_force 13 = .ok (.aload_n 0, 1) := dk_42 (dk_at dksX5_force_0 13 rfl rfl)
theorem dX5_force_14 : decode cX5_force 14 = .ok (.getfield 13, 3) := dk_180 0 13 (dk_at dksX5_force_0 14 rfl rfl)
theorem dX5_force_17 : decode cX5_force 17 = .ok (.iconst 2, 1) := dk_5 (dk_at dksX5_force_0 17 rfl rfl)
theorem dX5_force_18 : decode cX5_force 18 = .ok (.iaload, 1) := dk_46 (dk_at dksX5_force_0 18 rfl rfl)
theorem dX5_force_19 : decode cX5_force 19 = .ok (.i2l, 1) := dk_133 (dk_at dksX5_force_0 19 rfl rfl)
theorem dX5_force_20 : decode cX5_force 20 = .ok (.lconst 1, 1) := dk_10 (dk_at dksX5_force_0 20 rfl rfl)
theorem dX5_force_21 : decode cX5_force 21 = .ok (.lsub, 1) := dk_101 (dk_at dksX5_force_0 21 rfl rfl)
theorem dX5_force_22 : decode cX5_force 22 = .ok (.invokestatic 159, 3) := dk_184 0 159 (dk_at dksX5_force_1 0 rfl rfl)
theorem dX5_force_25 : decode cX5_force 25 = .ok (.ifCond .eq 12, 3) := dk_153 0 12 (dk_at dksX5_force_1 3 rfl rfl)
theorem dX5_force_28 : decode cX5_force 28 = .ok (.aload_n 0, 1) := dk_42 (dk_at dksX5_force_1 6 rfl rfl)
theorem dX5_force_29 : decode cX5_force 29 = .ok (.iconst 3, 1) := dk_6 (dk_at dksX5_force_1 7 rfl rfl)
theorem dX5_force_30 : decode cX5_force 30 = .ok (.iload_n 1, 1) := dk_27 (dk_at dksX5_force_1 8 rfl rfl)
theorem dX5_force_31 : decode cX5_force 31 = .ok (.invokevirtual 210, 3) := dk_182 0 210 (dk_at dksX5_force_1 9 rfl rfl)
theorem dX5_force_34 : decode cX5_force 34 = .ok (.goto 9, 3) := dk_167 0 9 (dk_at dksX5_force_1 12 rfl rfl)
theorem dX5_force_37 : decode cX5_force 37 = .ok (.aload_n 0, 1) := dk_42 (dk_at dksX5_force_1 15 rfl rfl)
theorem dX5_force_38 : decode cX5_force 38 = .ok (.bipush (-2), 2) := dk_16 254 (dk_at dksX5_force_1 16 rfl rfl)
theorem dX5_force_40 : decode cX5_force 40 = .ok (.invokevirtual 155, 3) := dk_182 0 155 (dk_at dksX5_force_1 18 rfl rfl)
theorem dX5_force_43 : decode cX5_force 43 = .ok (.ireturn, 1) := dk_172 (dk_at dksX5_force_1 21 rfl rfl)
abbrev cX5_asks : ByteArray := prog_22_method_72_code
def yX5_asks : MethodName := ⟨RX5, "asks", "(III)I"⟩
def dkwX5_asks_4 : List UInt8 := [153, 0, 7, 4, 167, 0, 4, 3, 172]
abbrev dktX5_asks_4 : List UInt8 := dkwX5_asks_4 ++ []
def dkwX5_asks_3 : List UInt8 := [167, 0, 31, 28, 4, 160, 0, 12, 42, 27, 29, 182, 1, 171, 167, 0, 17, 42, 27, 29, 182, 1, 174]
abbrev dktX5_asks_3 : List UInt8 := dkwX5_asks_3 ++ dktX5_asks_4
def dkwX5_asks_2 : List UInt8 := [167, 0, 6, 20, 0, 163, 184, 0, 159, 154, 0, 5, 2, 172, 28, 154, 0, 12, 42, 27, 29, 182, 1, 168]
abbrev dktX5_asks_2 : List UInt8 := dkwX5_asks_2 ++ dktX5_asks_3
def dkwX5_asks_1 : List UInt8 := [153, 0, 34, 29, 133, 9, 28, 154, 0, 9, 20, 1, 12, 167, 0, 15, 28, 4, 160, 0, 7, 10]
abbrev dktX5_asks_1 : List UInt8 := dkwX5_asks_1 ++ dktX5_asks_2
def dkwX5_asks_0 : List UInt8 := [42, 3, 181, 0, 149, 42, 27, 182, 0, 207, 153, 0, 46, 28, 133, 9, 20, 0, 219, 184, 0, 159]
abbrev dktX5_asks_0 : List UInt8 := dkwX5_asks_0 ++ dktX5_asks_1
theorem dksX5_asks_0 : cX5_asks.data.toList.drop 0 = dktX5_asks_0 := by decide +kernel
theorem dksX5_asks_1 : cX5_asks.data.toList.drop 22 = dktX5_asks_1 := dk_seg dksX5_asks_0 22 rfl rfl
theorem dksX5_asks_2 : cX5_asks.data.toList.drop 44 = dktX5_asks_2 := dk_seg dksX5_asks_1 22 rfl rfl
theorem dksX5_asks_3 : cX5_asks.data.toList.drop 68 = dktX5_asks_3 := dk_seg dksX5_asks_2 24 rfl rfl
theorem dksX5_asks_4 : cX5_asks.data.toList.drop 91 = dktX5_asks_4 := dk_seg dksX5_asks_3 23 rfl rfl
theorem dX5_asks_0 : decode cX5_asks 0 = .ok (.aload_n 0, 1) := dk_42 (dk_at dksX5_asks_0 0 rfl rfl)
theorem dX5_asks_1 : decode cX5_asks 1 = .ok (.iconst 0, 1) := dk_3 (dk_at dksX5_asks_0 1 rfl rfl)
theorem dX5_asks_2 : decode cX5_asks 2 = .ok (.putfield 149, 3) := dk_181 0 149 (dk_at dksX5_asks_0 2 rfl rfl)
theorem dX5_asks_5 : decode cX5_asks 5 = .ok (.aload_n 0, 1) := dk_42 (dk_at dksX5_asks_0 5 rfl rfl)
theorem dX5_asks_6 : decode cX5_asks 6 = .ok (.iload_n 1, 1) := dk_27 (dk_at dksX5_asks_0 6 rfl rfl)
theorem dX5_asks_7 : decode cX5_asks 7 = .ok (.invokevirtual 207, 3) := dk_182 0 207 (dk_at dksX5_asks_0 7 rfl rfl)
theorem dX5_asks_10 : decode cX5_asks 10 = .ok (.ifCond .eq 46, 3) := dk_153 0 46 (dk_at dksX5_asks_0 10 rfl rfl)
theorem dX5_asks_13 : decode cX5_asks 13 = .ok (.iload_n 2, 1) := dk_28 (dk_at dksX5_asks_0 13 rfl rfl)
theorem dX5_asks_14 : decode cX5_asks 14 = .ok (.i2l, 1) := dk_133 (dk_at dksX5_asks_0 14 rfl rfl)
theorem dX5_asks_15 : decode cX5_asks 15 = .ok (.lconst 0, 1) := dk_9 (dk_at dksX5_asks_0 15 rfl rfl)
theorem dX5_asks_16 : decode cX5_asks 16 = .ok (.ldc2_w 219, 3) := dk_20 0 219 (dk_at dksX5_asks_0 16 rfl rfl)
theorem dX5_asks_19 : decode cX5_asks 19 = .ok (.invokestatic 159, 3) := dk_184 0 159 (dk_at dksX5_asks_0 19 rfl rfl)
theorem dX5_asks_22 : decode cX5_asks 22 = .ok (.ifCond .eq 34, 3) := dk_153 0 34 (dk_at dksX5_asks_1 0 rfl rfl)
theorem dX5_asks_25 : decode cX5_asks 25 = .ok (.iload_n 3, 1) := dk_29 (dk_at dksX5_asks_1 3 rfl rfl)
theorem dX5_asks_26 : decode cX5_asks 26 = .ok (.i2l, 1) := dk_133 (dk_at dksX5_asks_1 4 rfl rfl)
theorem dX5_asks_27 : decode cX5_asks 27 = .ok (.lconst 0, 1) := dk_9 (dk_at dksX5_asks_1 5 rfl rfl)
theorem dX5_asks_28 : decode cX5_asks 28 = .ok (.iload_n 2, 1) := dk_28 (dk_at dksX5_asks_1 6 rfl rfl)
theorem dX5_asks_29 : decode cX5_asks 29 = .ok (.ifCond .ne 9, 3) := dk_154 0 9 (dk_at dksX5_asks_1 7 rfl rfl)
theorem dX5_asks_32 : decode cX5_asks 32 = .ok (.ldc2_w 268, 3) := dk_20 1 12 (dk_at dksX5_asks_1 10 rfl rfl)
theorem dX5_asks_35 : decode cX5_asks 35 = .ok (.goto 15, 3) := dk_167 0 15 (dk_at dksX5_asks_1 13 rfl rfl)
theorem dX5_asks_38 : decode cX5_asks 38 = .ok (.iload_n 2, 1) := dk_28 (dk_at dksX5_asks_1 16 rfl rfl)
theorem dX5_asks_39 : decode cX5_asks 39 = .ok (.iconst 1, 1) := dk_4 (dk_at dksX5_asks_1 17 rfl rfl)
theorem dX5_asks_40 : decode cX5_asks 40 = .ok (.if_icmp .ne 7, 3) := dk_160 0 7 (dk_at dksX5_asks_1 18 rfl rfl)
theorem dX5_asks_43 : decode cX5_asks 43 = .ok (.lconst 1, 1) := dk_10 (dk_at dksX5_asks_1 21 rfl rfl)
theorem dX5_asks_44 : decode cX5_asks 44 = .ok (.goto 6, 3) := dk_167 0 6 (dk_at dksX5_asks_2 0 rfl rfl)
theorem dX5_asks_47 : decode cX5_asks 47 = .ok (.ldc2_w 163, 3) := dk_20 0 163 (dk_at dksX5_asks_2 3 rfl rfl)
theorem dX5_asks_50 : decode cX5_asks 50 = .ok (.invokestatic 159, 3) := dk_184 0 159 (dk_at dksX5_asks_2 6 rfl rfl)
theorem dX5_asks_53 : decode cX5_asks 53 = .ok (.ifCond .ne 5, 3) := dk_154 0 5 (dk_at dksX5_asks_2 9 rfl rfl)
theorem dX5_asks_56 : decode cX5_asks 56 = .ok (.iconst (-1), 1) := dk_2 (dk_at dksX5_asks_2 12 rfl rfl)
theorem dX5_asks_57 : decode cX5_asks 57 = .ok (.ireturn, 1) := dk_172 (dk_at dksX5_asks_2 13 rfl rfl)
theorem dX5_asks_58 : decode cX5_asks 58 = .ok (.iload_n 2, 1) := dk_28 (dk_at dksX5_asks_2 14 rfl rfl)
theorem dX5_asks_59 : decode cX5_asks 59 = .ok (.ifCond .ne 12, 3) := dk_154 0 12 (dk_at dksX5_asks_2 15 rfl rfl)
theorem dX5_asks_62 : decode cX5_asks 62 = .ok (.aload_n 0, 1) := dk_42 (dk_at dksX5_asks_2 18 rfl rfl)
theorem dX5_asks_63 : decode cX5_asks 63 = .ok (.iload_n 1, 1) := dk_27 (dk_at dksX5_asks_2 19 rfl rfl)
theorem dX5_asks_64 : decode cX5_asks 64 = .ok (.iload_n 3, 1) := dk_29 (dk_at dksX5_asks_2 20 rfl rfl)
theorem dX5_asks_65 : decode cX5_asks 65 = .ok (.invokevirtual 424, 3) := dk_182 1 168 (dk_at dksX5_asks_2 21 rfl rfl)
theorem dX5_asks_68 : decode cX5_asks 68 = .ok (.goto 31, 3) := dk_167 0 31 (dk_at dksX5_asks_3 0 rfl rfl)
theorem dX5_asks_71 : decode cX5_asks 71 = .ok (.iload_n 2, 1) := dk_28 (dk_at dksX5_asks_3 3 rfl rfl)
theorem dX5_asks_72 : decode cX5_asks 72 = .ok (.iconst 1, 1) := dk_4 (dk_at dksX5_asks_3 4 rfl rfl)
theorem dX5_asks_73 : decode cX5_asks 73 = .ok (.if_icmp .ne 12, 3) := dk_160 0 12 (dk_at dksX5_asks_3 5 rfl rfl)
theorem dX5_asks_76 : decode cX5_asks 76 = .ok (.aload_n 0, 1) := dk_42 (dk_at dksX5_asks_3 8 rfl rfl)
theorem dX5_asks_77 : decode cX5_asks 77 = .ok (.iload_n 1, 1) := dk_27 (dk_at dksX5_asks_3 9 rfl rfl)
theorem dX5_asks_78 : decode cX5_asks 78 = .ok (.iload_n 3, 1) := dk_29 (dk_at dksX5_asks_3 10 rfl rfl)
theorem dX5_asks_79 : decode cX5_asks 79 = .ok (.invokevirtual 427, 3) := dk_182 1 171 (dk_at dksX5_asks_3 11 rfl rfl)
theorem dX5_asks_82 : decode cX5_asks 82 = .ok (.goto 17, 3) := dk_167 0 17 (dk_at dksX5_asks_3 14 rfl rfl)
theorem dX5_asks_85 : decode cX5_asks 85 = .ok (.aload_n 0, 1) := dk_42 (dk_at dksX5_asks_3 17 rfl rfl)
theorem dX5_asks_86 : decode cX5_asks 86 = .ok (.iload_n 1, 1) := dk_27 (dk_at dksX5_asks_3 18 rfl rfl)
theorem dX5_asks_87 : decode cX5_asks 87 = .ok (.iload_n 3, 1) := dk_29 (dk_at dksX5_asks_3 19 rfl rfl)
theorem dX5_asks_88 : decode cX5_asks 88 = .ok (.invokevirtual 430, 3) := dk_182 1 174 (dk_at dksX5_asks_3 20 rfl rfl)
theorem dX5_asks_91 : decode cX5_asks 91 = .ok (.ifCond .eq 7, 3) := dk_153 0 7 (dk_at dksX5_asks_4 0 rfl rfl)
theorem dX5_asks_94 : decode cX5_asks 94 = .ok (.iconst 1, 1) := dk_4 (dk_at dksX5_asks_4 3 rfl rfl)
theorem dX5_asks_95 : decode cX5_asks 95 = .ok (.goto 4, 3) := dk_167 0 4 (dk_at dksX5_asks_4 4 rfl rfl)
theorem dX5_asks_98 : decode cX5_asks 98 = .ok (.iconst 0, 1) := dk_3 (dk_at dksX5_asks_4 7 rfl rfl)
theorem dX5_asks_99 : decode cX5_asks 99 = .ok (.ireturn, 1) := dk_172 (dk_at dksX5_asks_4 8 rfl rfl)
abbrev cX5_gripOf : ByteArray := prog_22_method_68_code
def yX5_gripOf : MethodName := ⟨RX5, "gripOf", "(II)I"⟩
def dkwX5_gripOf_1 : List UInt8 := [133, 80, 42, 4, 42, 27, 5, 182, 0, 165, 133, 182, 1, 156, 3, 16, 99, 184, 1, 160, 172]
abbrev dktX5_gripOf_1 : List UInt8 := dkwX5_gripOf_1 ++ []
def dkwX5_gripOf_0 : List UInt8 := [42, 27, 42, 27, 5, 182, 0, 165, 42, 27, 4, 182, 0, 165, 182, 1, 164, 42, 180, 0, 116, 16, 10, 28]
abbrev dktX5_gripOf_0 : List UInt8 := dkwX5_gripOf_0 ++ dktX5_gripOf_1
theorem dksX5_gripOf_0 : cX5_gripOf.data.toList.drop 0 = dktX5_gripOf_0 := by decide +kernel
theorem dksX5_gripOf_1 : cX5_gripOf.data.toList.drop 24 = dktX5_gripOf_1 := dk_seg dksX5_gripOf_0 24 rfl rfl
theorem dX5_gripOf_0 : decode cX5_gripOf 0 = .ok (.aload_n 0, 1) := dk_42 (dk_at dksX5_gripOf_0 0 rfl rfl)
theorem dX5_gripOf_1 : decode cX5_gripOf 1 = .ok (.iload_n 1, 1) := dk_27 (dk_at dksX5_gripOf_0 1 rfl rfl)
theorem dX5_gripOf_2 : decode cX5_gripOf 2 = .ok (.aload_n 0, 1) := dk_42 (dk_at dksX5_gripOf_0 2 rfl rfl)
theorem dX5_gripOf_3 : decode cX5_gripOf 3 = .ok (.iload_n 1, 1) := dk_27 (dk_at dksX5_gripOf_0 3 rfl rfl)
theorem dX5_gripOf_4 : decode cX5_gripOf 4 = .ok (.iconst 2, 1) := dk_5 (dk_at dksX5_gripOf_0 4 rfl rfl)
theorem dX5_gripOf_5 : decode cX5_gripOf 5 = .ok (.invokevirtual 165, 3) := dk_182 0 165 (dk_at dksX5_gripOf_0 5 rfl rfl)
theorem dX5_gripOf_8 : decode cX5_gripOf 8 = .ok (.aload_n 0, 1) := dk_42 (dk_at dksX5_gripOf_0 8 rfl rfl)
theorem dX5_gripOf_9 : decode cX5_gripOf 9 = .ok (.iload_n 1, 1) := dk_27 (dk_at dksX5_gripOf_0 9 rfl rfl)
theorem dX5_gripOf_10 : decode cX5_gripOf 10 = .ok (.iconst 1, 1) := dk_4 (dk_at dksX5_gripOf_0 10 rfl rfl)
theorem dX5_gripOf_11 : decode cX5_gripOf 11 = .ok (.invokevirtual 165, 3) := dk_182 0 165 (dk_at dksX5_gripOf_0 11 rfl rfl)
theorem dX5_gripOf_14 : decode cX5_gripOf 14 = .ok (.invokevirtual 420, 3) := dk_182 1 164 (dk_at dksX5_gripOf_0 14 rfl rfl)
theorem dX5_gripOf_17 : decode cX5_gripOf 17 = .ok (.aload_n 0, 1) := dk_42 (dk_at dksX5_gripOf_0 17 rfl rfl)
theorem dX5_gripOf_18 : decode cX5_gripOf 18 = .ok (.getfield 116, 3) := dk_180 0 116 (dk_at dksX5_gripOf_0 18 rfl rfl)
theorem dX5_gripOf_21 : decode cX5_gripOf 21 = .ok (.bipush 10, 2) := dk_16 10 (dk_at dksX5_gripOf_0 21 rfl rfl)
theorem dX5_gripOf_23 : decode cX5_gripOf 23 = .ok (.iload_n 2, 1) := dk_28 (dk_at dksX5_gripOf_0 23 rfl rfl)
theorem dX5_gripOf_24 : decode cX5_gripOf 24 = .ok (.i2l, 1) := dk_133 (dk_at dksX5_gripOf_1 0 rfl rfl)
theorem dX5_gripOf_25 : decode cX5_gripOf 25 = .ok (.lastore, 1) := dk_80 (dk_at dksX5_gripOf_1 1 rfl rfl)
theorem dX5_gripOf_26 : decode cX5_gripOf 26 = .ok (.aload_n 0, 1) := dk_42 (dk_at dksX5_gripOf_1 2 rfl rfl)
theorem dX5_gripOf_27 : decode cX5_gripOf 27 = .ok (.iconst 1, 1) := dk_4 (dk_at dksX5_gripOf_1 3 rfl rfl)
theorem dX5_gripOf_28 : decode cX5_gripOf 28 = .ok (.aload_n 0, 1) := dk_42 (dk_at dksX5_gripOf_1 4 rfl rfl)
theorem dX5_gripOf_29 : decode cX5_gripOf 29 = .ok (.iload_n 1, 1) := dk_27 (dk_at dksX5_gripOf_1 5 rfl rfl)
theorem dX5_gripOf_30 : decode cX5_gripOf 30 = .ok (.iconst 2, 1) := dk_5 (dk_at dksX5_gripOf_1 6 rfl rfl)
theorem dX5_gripOf_31 : decode cX5_gripOf 31 = .ok (.invokevirtual 165, 3) := dk_182 0 165 (dk_at dksX5_gripOf_1 7 rfl rfl)
theorem dX5_gripOf_34 : decode cX5_gripOf 34 = .ok (.i2l, 1) := dk_133 (dk_at dksX5_gripOf_1 10 rfl rfl)
theorem dX5_gripOf_35 : decode cX5_gripOf 35 = .ok (.invokevirtual 412, 3) := dk_182 1 156 (dk_at dksX5_gripOf_1 11 rfl rfl)
theorem dX5_gripOf_38 : decode cX5_gripOf 38 = .ok (.iconst 0, 1) := dk_3 (dk_at dksX5_gripOf_1 14 rfl rfl)
theorem dX5_gripOf_39 : decode cX5_gripOf 39 = .ok (.bipush 99, 2) := dk_16 99 (dk_at dksX5_gripOf_1 15 rfl rfl)
theorem dX5_gripOf_41 : decode cX5_gripOf 41 = .ok (.invokestatic 416, 3) := dk_184 1 160 (dk_at dksX5_gripOf_1 17 rfl rfl)
theorem dX5_gripOf_44 : decode cX5_gripOf 44 = .ok (.ireturn, 1) := dk_172 (dk_at dksX5_gripOf_1 20 rfl rfl)
abbrev cX5_within : ByteArray := prog_22_method_4_code
def yX5_within : MethodName := ⟨RX5, "within", "(JII)I"⟩
def dkwX5_within_1 : List UInt8 := [172]
abbrev dktX5_within_1 : List UInt8 := dkwX5_within_1 ++ []
def dkwX5_within_0 : List UInt8 := [30, 28, 133, 148, 156, 0, 7, 28, 167, 0, 16, 30, 29, 133, 148, 158, 0, 7, 29, 167, 0, 5, 30, 136]
abbrev dktX5_within_0 : List UInt8 := dkwX5_within_0 ++ dktX5_within_1
theorem dksX5_within_0 : cX5_within.data.toList.drop 0 = dktX5_within_0 := by decide +kernel
theorem dksX5_within_1 : cX5_within.data.toList.drop 24 = dktX5_within_1 := dk_seg dksX5_within_0 24 rfl rfl
theorem dX5_within_0 : decode cX5_within 0 = .ok (.lload_n 0, 1) := dk_30 (dk_at dksX5_within_0 0 rfl rfl)
theorem dX5_within_1 : decode cX5_within 1 = .ok (.iload_n 2, 1) := dk_28 (dk_at dksX5_within_0 1 rfl rfl)
theorem dX5_within_2 : decode cX5_within 2 = .ok (.i2l, 1) := dk_133 (dk_at dksX5_within_0 2 rfl rfl)
theorem dX5_within_3 : decode cX5_within 3 = .ok (.lcmp, 1) := dk_148 (dk_at dksX5_within_0 3 rfl rfl)
theorem dX5_within_4 : decode cX5_within 4 = .ok (.ifCond .ge 7, 3) := dk_156 0 7 (dk_at dksX5_within_0 4 rfl rfl)
theorem dX5_within_7 : decode cX5_within 7 = .ok (.iload_n 2, 1) := dk_28 (dk_at dksX5_within_0 7 rfl rfl)
theorem dX5_within_8 : decode cX5_within 8 = .ok (.goto 16, 3) := dk_167 0 16 (dk_at dksX5_within_0 8 rfl rfl)
theorem dX5_within_11 : decode cX5_within 11 = .ok (.lload_n 0, 1) := dk_30 (dk_at dksX5_within_0 11 rfl rfl)
theorem dX5_within_12 : decode cX5_within 12 = .ok (.iload_n 3, 1) := dk_29 (dk_at dksX5_within_0 12 rfl rfl)
theorem dX5_within_13 : decode cX5_within 13 = .ok (.i2l, 1) := dk_133 (dk_at dksX5_within_0 13 rfl rfl)
theorem dX5_within_14 : decode cX5_within 14 = .ok (.lcmp, 1) := dk_148 (dk_at dksX5_within_0 14 rfl rfl)
theorem dX5_within_15 : decode cX5_within 15 = .ok (.ifCond .le 7, 3) := dk_158 0 7 (dk_at dksX5_within_0 15 rfl rfl)
theorem dX5_within_18 : decode cX5_within 18 = .ok (.iload_n 3, 1) := dk_29 (dk_at dksX5_within_0 18 rfl rfl)
theorem dX5_within_19 : decode cX5_within 19 = .ok (.goto 5, 3) := dk_167 0 5 (dk_at dksX5_within_0 19 rfl rfl)
theorem dX5_within_22 : decode cX5_within 22 = .ok (.lload_n 0, 1) := dk_30 (dk_at dksX5_within_0 22 rfl rfl)
theorem dX5_within_23 : decode cX5_within 23 = .ok (.l2i, 1) := dk_136 (dk_at dksX5_within_0 23 rfl rfl)
theorem dX5_within_24 : decode cX5_within 24 = .ok (.ireturn, 1) := dk_172 (dk_at dksX5_within_1 0 rfl rfl)
abbrev cX5_wedOf : ByteArray := prog_22_method_69_code
def yX5_wedOf : MethodName := ⟨RX5, "wedOf", "(II)I"⟩
def dkwX5_wedOf_1 : List UInt8 := [133, 80, 42, 5, 20, 0, 84, 182, 1, 156, 3, 16, 100, 184, 1, 160, 172]
abbrev dktX5_wedOf_1 : List UInt8 := dkwX5_wedOf_1 ++ []
def dkwX5_wedOf_0 : List UInt8 := [42, 27, 42, 27, 5, 182, 0, 165, 42, 27, 4, 182, 0, 165, 182, 1, 164, 42, 180, 0, 116, 16, 11, 28]
abbrev dktX5_wedOf_0 : List UInt8 := dkwX5_wedOf_0 ++ dktX5_wedOf_1
theorem dksX5_wedOf_0 : cX5_wedOf.data.toList.drop 0 = dktX5_wedOf_0 := by decide +kernel
theorem dksX5_wedOf_1 : cX5_wedOf.data.toList.drop 24 = dktX5_wedOf_1 := dk_seg dksX5_wedOf_0 24 rfl rfl
theorem dX5_wedOf_0 : decode cX5_wedOf 0 = .ok (.aload_n 0, 1) := dk_42 (dk_at dksX5_wedOf_0 0 rfl rfl)
theorem dX5_wedOf_1 : decode cX5_wedOf 1 = .ok (.iload_n 1, 1) := dk_27 (dk_at dksX5_wedOf_0 1 rfl rfl)
theorem dX5_wedOf_2 : decode cX5_wedOf 2 = .ok (.aload_n 0, 1) := dk_42 (dk_at dksX5_wedOf_0 2 rfl rfl)
theorem dX5_wedOf_3 : decode cX5_wedOf 3 = .ok (.iload_n 1, 1) := dk_27 (dk_at dksX5_wedOf_0 3 rfl rfl)
theorem dX5_wedOf_4 : decode cX5_wedOf 4 = .ok (.iconst 2, 1) := dk_5 (dk_at dksX5_wedOf_0 4 rfl rfl)
theorem dX5_wedOf_5 : decode cX5_wedOf 5 = .ok (.invokevirtual 165, 3) := dk_182 0 165 (dk_at dksX5_wedOf_0 5 rfl rfl)
theorem dX5_wedOf_8 : decode cX5_wedOf 8 = .ok (.aload_n 0, 1) := dk_42 (dk_at dksX5_wedOf_0 8 rfl rfl)
theorem dX5_wedOf_9 : decode cX5_wedOf 9 = .ok (.iload_n 1, 1) := dk_27 (dk_at dksX5_wedOf_0 9 rfl rfl)
theorem dX5_wedOf_10 : decode cX5_wedOf 10 = .ok (.iconst 1, 1) := dk_4 (dk_at dksX5_wedOf_0 10 rfl rfl)
theorem dX5_wedOf_11 : decode cX5_wedOf 11 = .ok (.invokevirtual 165, 3) := dk_182 0 165 (dk_at dksX5_wedOf_0 11 rfl rfl)
theorem dX5_wedOf_14 : decode cX5_wedOf 14 = .ok (.invokevirtual 420, 3) := dk_182 1 164 (dk_at dksX5_wedOf_0 14 rfl rfl)
theorem dX5_wedOf_17 : decode cX5_wedOf 17 = .ok (.aload_n 0, 1) := dk_42 (dk_at dksX5_wedOf_0 17 rfl rfl)
theorem dX5_wedOf_18 : decode cX5_wedOf 18 = .ok (.getfield 116, 3) := dk_180 0 116 (dk_at dksX5_wedOf_0 18 rfl rfl)
theorem dX5_wedOf_21 : decode cX5_wedOf 21 = .ok (.bipush 11, 2) := dk_16 11 (dk_at dksX5_wedOf_0 21 rfl rfl)
theorem dX5_wedOf_23 : decode cX5_wedOf 23 = .ok (.iload_n 2, 1) := dk_28 (dk_at dksX5_wedOf_0 23 rfl rfl)
theorem dX5_wedOf_24 : decode cX5_wedOf 24 = .ok (.i2l, 1) := dk_133 (dk_at dksX5_wedOf_1 0 rfl rfl)
theorem dX5_wedOf_25 : decode cX5_wedOf 25 = .ok (.lastore, 1) := dk_80 (dk_at dksX5_wedOf_1 1 rfl rfl)
theorem dX5_wedOf_26 : decode cX5_wedOf 26 = .ok (.aload_n 0, 1) := dk_42 (dk_at dksX5_wedOf_1 2 rfl rfl)
theorem dX5_wedOf_27 : decode cX5_wedOf 27 = .ok (.iconst 2, 1) := dk_5 (dk_at dksX5_wedOf_1 3 rfl rfl)
theorem dX5_wedOf_28 : decode cX5_wedOf 28 = .ok (.ldc2_w 84, 3) := dk_20 0 84 (dk_at dksX5_wedOf_1 4 rfl rfl)
theorem dX5_wedOf_31 : decode cX5_wedOf 31 = .ok (.invokevirtual 412, 3) := dk_182 1 156 (dk_at dksX5_wedOf_1 7 rfl rfl)
theorem dX5_wedOf_34 : decode cX5_wedOf 34 = .ok (.iconst 0, 1) := dk_3 (dk_at dksX5_wedOf_1 10 rfl rfl)
theorem dX5_wedOf_35 : decode cX5_wedOf 35 = .ok (.bipush 100, 2) := dk_16 100 (dk_at dksX5_wedOf_1 11 rfl rfl)
theorem dX5_wedOf_37 : decode cX5_wedOf 37 = .ok (.invokestatic 416, 3) := dk_184 1 160 (dk_at dksX5_wedOf_1 13 rfl rfl)
theorem dX5_wedOf_40 : decode cX5_wedOf 40 = .ok (.ireturn, 1) := dk_172 (dk_at dksX5_wedOf_1 16 rfl rfl)
abbrev cX5_isBarred : ByteArray := prog_22_method_71_code
def yX5_isBarred : MethodName := ⟨RX5, "isBarred", "(II)Z"⟩
def dkwX5_isBarred_0 : List UInt8 := [42, 27, 42, 27, 5, 182, 0, 165, 42, 27, 4, 182, 0, 165, 28, 182, 0, 196, 172]
abbrev dktX5_isBarred_0 : List UInt8 := dkwX5_isBarred_0 ++ []
theorem dksX5_isBarred_0 : cX5_isBarred.data.toList.drop 0 = dktX5_isBarred_0 := by decide +kernel
theorem dX5_isBarred_0 : decode cX5_isBarred 0 = .ok (.aload_n 0, 1) := dk_42 (dk_at dksX5_isBarred_0 0 rfl rfl)
theorem dX5_isBarred_1 : decode cX5_isBarred 1 = .ok (.iload_n 1, 1) := dk_27 (dk_at dksX5_isBarred_0 1 rfl rfl)
theorem dX5_isBarred_2 : decode cX5_isBarred 2 = .ok (.aload_n 0, 1) := dk_42 (dk_at dksX5_isBarred_0 2 rfl rfl)
theorem dX5_isBarred_3 : decode cX5_isBarred 3 = .ok (.iload_n 1, 1) := dk_27 (dk_at dksX5_isBarred_0 3 rfl rfl)
theorem dX5_isBarred_4 : decode cX5_isBarred 4 = .ok (.iconst 2, 1) := dk_5 (dk_at dksX5_isBarred_0 4 rfl rfl)
theorem dX5_isBarred_5 : decode cX5_isBarred 5 = .ok (.invokevirtual 165, 3) := dk_182 0 165 (dk_at dksX5_isBarred_0 5 rfl rfl)
theorem dX5_isBarred_8 : decode cX5_isBarred 8 = .ok (.aload_n 0, 1) := dk_42 (dk_at dksX5_isBarred_0 8 rfl rfl)
theorem dX5_isBarred_9 : decode cX5_isBarred 9 = .ok (.iload_n 1, 1) := dk_27 (dk_at dksX5_isBarred_0 9 rfl rfl)
theorem dX5_isBarred_10 : decode cX5_isBarred 10 = .ok (.iconst 1, 1) := dk_4 (dk_at dksX5_isBarred_0 10 rfl rfl)
theorem dX5_isBarred_11 : decode cX5_isBarred 11 = .ok (.invokevirtual 165, 3) := dk_182 0 165 (dk_at dksX5_isBarred_0 11 rfl rfl)
theorem dX5_isBarred_14 : decode cX5_isBarred 14 = .ok (.iload_n 2, 1) := dk_28 (dk_at dksX5_isBarred_0 14 rfl rfl)
theorem dX5_isBarred_15 : decode cX5_isBarred 15 = .ok (.invokevirtual 196, 3) := dk_182 0 196 (dk_at dksX5_isBarred_0 15 rfl rfl)
theorem dX5_isBarred_18 : decode cX5_isBarred 18 = .ok (.ireturn, 1) := dk_172 (dk_at dksX5_isBarred_0 18 rfl rfl)
abbrev cX5_comes : ByteArray := prog_22_method_78_code
def yX5_comes : MethodName := ⟨RX5, "comes", "(II)I"⟩
def dkwX5_comes_3 : List UInt8 := [180, 1, 195, 136, 172]
abbrev dktX5_comes_3 : List UInt8 := dkwX5_comes_3 ++ []
def dkwX5_comes_2 : List UInt8 := [27, 46, 133, 42, 180, 1, 180, 133, 182, 1, 201, 28, 154, 0, 10, 42, 180, 1, 192, 167, 0, 7, 42]
abbrev dktX5_comes_2 : List UInt8 := dkwX5_comes_2 ++ dktX5_comes_3
def dkwX5_comes_1 : List UInt8 := [154, 0, 5, 2, 172, 42, 182, 1, 198, 42, 42, 180, 0, 125, 27, 2, 160, 0, 8, 16, 36, 167, 0, 4]
abbrev dktX5_comes_1 : List UInt8 := dkwX5_comes_1 ++ dktX5_comes_2
def dkwX5_comes_0 : List UInt8 := [42, 3, 181, 0, 149, 27, 2, 159, 0, 10, 27, 184, 0, 183, 153, 0, 13, 28, 133, 9, 10, 184, 0, 159]
abbrev dktX5_comes_0 : List UInt8 := dkwX5_comes_0 ++ dktX5_comes_1
theorem dksX5_comes_0 : cX5_comes.data.toList.drop 0 = dktX5_comes_0 := by decide +kernel
theorem dksX5_comes_1 : cX5_comes.data.toList.drop 24 = dktX5_comes_1 := dk_seg dksX5_comes_0 24 rfl rfl
theorem dksX5_comes_2 : cX5_comes.data.toList.drop 48 = dktX5_comes_2 := dk_seg dksX5_comes_1 24 rfl rfl
theorem dksX5_comes_3 : cX5_comes.data.toList.drop 71 = dktX5_comes_3 := dk_seg dksX5_comes_2 23 rfl rfl
theorem dX5_comes_0 : decode cX5_comes 0 = .ok (.aload_n 0, 1) := dk_42 (dk_at dksX5_comes_0 0 rfl rfl)
theorem dX5_comes_1 : decode cX5_comes 1 = .ok (.iconst 0, 1) := dk_3 (dk_at dksX5_comes_0 1 rfl rfl)
theorem dX5_comes_2 : decode cX5_comes 2 = .ok (.putfield 149, 3) := dk_181 0 149 (dk_at dksX5_comes_0 2 rfl rfl)
theorem dX5_comes_5 : decode cX5_comes 5 = .ok (.iload_n 1, 1) := dk_27 (dk_at dksX5_comes_0 5 rfl rfl)
theorem dX5_comes_6 : decode cX5_comes 6 = .ok (.iconst (-1), 1) := dk_2 (dk_at dksX5_comes_0 6 rfl rfl)
theorem dX5_comes_7 : decode cX5_comes 7 = .ok (.if_icmp .eq 10, 3) := dk_159 0 10 (dk_at dksX5_comes_0 7 rfl rfl)
theorem dX5_comes_10 : decode cX5_comes 10 = .ok (.iload_n 1, 1) := dk_27 (dk_at dksX5_comes_0 10 rfl rfl)
theorem dX5_comes_11 : decode cX5_comes 11 = .ok (.invokestatic 183, 3) := dk_184 0 183 (dk_at dksX5_comes_0 11 rfl rfl)
theorem dX5_comes_14 : decode cX5_comes 14 = .ok (.ifCond .eq 13, 3) := dk_153 0 13 (dk_at dksX5_comes_0 14 rfl rfl)
theorem dX5_comes_17 : decode cX5_comes 17 = .ok (.iload_n 2, 1) := dk_28 (dk_at dksX5_comes_0 17 rfl rfl)
theorem dX5_comes_18 : decode cX5_comes 18 = .ok (.i2l, 1) := dk_133 (dk_at dksX5_comes_0 18 rfl rfl)
theorem dX5_comes_19 : decode cX5_comes 19 = .ok (.lconst 0, 1) := dk_9 (dk_at dksX5_comes_0 19 rfl rfl)
theorem dX5_comes_20 : decode cX5_comes 20 = .ok (.lconst 1, 1) := dk_10 (dk_at dksX5_comes_0 20 rfl rfl)
theorem dX5_comes_21 : decode cX5_comes 21 = .ok (.invokestatic 159, 3) := dk_184 0 159 (dk_at dksX5_comes_0 21 rfl rfl)
theorem dX5_comes_24 : decode cX5_comes 24 = .ok (.ifCond .ne 5, 3) := dk_154 0 5 (dk_at dksX5_comes_1 0 rfl rfl)
theorem dX5_comes_27 : decode cX5_comes 27 = .ok (.iconst (-1), 1) := dk_2 (dk_at dksX5_comes_1 3 rfl rfl)
theorem dX5_comes_28 : decode cX5_comes 28 = .ok (.ireturn, 1) := dk_172 (dk_at dksX5_comes_1 4 rfl rfl)
theorem dX5_comes_29 : decode cX5_comes 29 = .ok (.aload_n 0, 1) := dk_42 (dk_at dksX5_comes_1 5 rfl rfl)
theorem dX5_comes_30 : decode cX5_comes 30 = .ok (.invokevirtual 454, 3) := dk_182 1 198 (dk_at dksX5_comes_1 6 rfl rfl)
theorem dX5_comes_33 : decode cX5_comes 33 = .ok (.aload_n 0, 1) := dk_42 (dk_at dksX5_comes_1 9 rfl rfl)
theorem dX5_comes_34 : decode cX5_comes 34 = .ok (.aload_n 0, 1) := dk_42 (dk_at dksX5_comes_1 10 rfl rfl)
theorem dX5_comes_35 : decode cX5_comes 35 = .ok (.getfield 125, 3) := dk_180 0 125 (dk_at dksX5_comes_1 11 rfl rfl)
theorem dX5_comes_38 : decode cX5_comes 38 = .ok (.iload_n 1, 1) := dk_27 (dk_at dksX5_comes_1 14 rfl rfl)
theorem dX5_comes_39 : decode cX5_comes 39 = .ok (.iconst (-1), 1) := dk_2 (dk_at dksX5_comes_1 15 rfl rfl)
theorem dX5_comes_40 : decode cX5_comes 40 = .ok (.if_icmp .ne 8, 3) := dk_160 0 8 (dk_at dksX5_comes_1 16 rfl rfl)
theorem dX5_comes_43 : decode cX5_comes 43 = .ok (.bipush 36, 2) := dk_16 36 (dk_at dksX5_comes_1 19 rfl rfl)
theorem dX5_comes_45 : decode cX5_comes 45 = .ok (.goto 4, 3) := dk_167 0 4 (dk_at dksX5_comes_1 21 rfl rfl)
theorem dX5_comes_48 : decode cX5_comes 48 = .ok (.iload_n 1, 1) := dk_27 (dk_at dksX5_comes_2 0 rfl rfl)
theorem dX5_comes_49 : decode cX5_comes 49 = .ok (.iaload, 1) := dk_46 (dk_at dksX5_comes_2 1 rfl rfl)
theorem dX5_comes_50 : decode cX5_comes 50 = .ok (.i2l, 1) := dk_133 (dk_at dksX5_comes_2 2 rfl rfl)
theorem dX5_comes_51 : decode cX5_comes 51 = .ok (.aload_n 0, 1) := dk_42 (dk_at dksX5_comes_2 3 rfl rfl)
theorem dX5_comes_52 : decode cX5_comes 52 = .ok (.getfield 436, 3) := dk_180 1 180 (dk_at dksX5_comes_2 4 rfl rfl)
theorem dX5_comes_55 : decode cX5_comes 55 = .ok (.i2l, 1) := dk_133 (dk_at dksX5_comes_2 7 rfl rfl)
theorem dX5_comes_56 : decode cX5_comes 56 = .ok (.invokevirtual 457, 3) := dk_182 1 201 (dk_at dksX5_comes_2 8 rfl rfl)
theorem dX5_comes_59 : decode cX5_comes 59 = .ok (.iload_n 2, 1) := dk_28 (dk_at dksX5_comes_2 11 rfl rfl)
theorem dX5_comes_60 : decode cX5_comes 60 = .ok (.ifCond .ne 10, 3) := dk_154 0 10 (dk_at dksX5_comes_2 12 rfl rfl)
theorem dX5_comes_63 : decode cX5_comes 63 = .ok (.aload_n 0, 1) := dk_42 (dk_at dksX5_comes_2 15 rfl rfl)
theorem dX5_comes_64 : decode cX5_comes 64 = .ok (.getfield 448, 3) := dk_180 1 192 (dk_at dksX5_comes_2 16 rfl rfl)
theorem dX5_comes_67 : decode cX5_comes 67 = .ok (.goto 7, 3) := dk_167 0 7 (dk_at dksX5_comes_2 19 rfl rfl)
theorem dX5_comes_70 : decode cX5_comes 70 = .ok (.aload_n 0, 1) := dk_42 (dk_at dksX5_comes_2 22 rfl rfl)
theorem dX5_comes_71 : decode cX5_comes 71 = .ok (.getfield 451, 3) := dk_180 1 195 (dk_at dksX5_comes_3 0 rfl rfl)
theorem dX5_comes_74 : decode cX5_comes 74 = .ok (.l2i, 1) := dk_136 (dk_at dksX5_comes_3 3 rfl rfl)
theorem dX5_comes_75 : decode cX5_comes 75 = .ok (.ireturn, 1) := dk_172 (dk_at dksX5_comes_3 4 rfl rfl)
abbrev cX5_aimNow : ByteArray := prog_22_method_76_code
def yX5_aimNow : MethodName := ⟨RX5, "aimNow", "()V"⟩
def dkwX5_aimNow_0 : List UInt8 := [42, 42, 3, 182, 1, 147, 42, 4, 182, 1, 147, 182, 1, 189, 177]
abbrev dktX5_aimNow_0 : List UInt8 := dkwX5_aimNow_0 ++ []
theorem dksX5_aimNow_0 : cX5_aimNow.data.toList.drop 0 = dktX5_aimNow_0 := by decide +kernel
theorem dX5_aimNow_0 : decode cX5_aimNow 0 = .ok (.aload_n 0, 1) := dk_42 (dk_at dksX5_aimNow_0 0 rfl rfl)
theorem dX5_aimNow_1 : decode cX5_aimNow 1 = .ok (.aload_n 0, 1) := dk_42 (dk_at dksX5_aimNow_0 1 rfl rfl)
theorem dX5_aimNow_2 : decode cX5_aimNow 2 = .ok (.iconst 0, 1) := dk_3 (dk_at dksX5_aimNow_0 2 rfl rfl)
theorem dX5_aimNow_3 : decode cX5_aimNow 3 = .ok (.invokevirtual 403, 3) := dk_182 1 147 (dk_at dksX5_aimNow_0 3 rfl rfl)
theorem dX5_aimNow_6 : decode cX5_aimNow 6 = .ok (.aload_n 0, 1) := dk_42 (dk_at dksX5_aimNow_0 6 rfl rfl)
theorem dX5_aimNow_7 : decode cX5_aimNow 7 = .ok (.iconst 1, 1) := dk_4 (dk_at dksX5_aimNow_0 7 rfl rfl)
theorem dX5_aimNow_8 : decode cX5_aimNow 8 = .ok (.invokevirtual 403, 3) := dk_182 1 147 (dk_at dksX5_aimNow_0 8 rfl rfl)
theorem dX5_aimNow_11 : decode cX5_aimNow 11 = .ok (.invokevirtual 445, 3) := dk_182 1 189 (dk_at dksX5_aimNow_0 11 rfl rfl)
theorem dX5_aimNow_14 : decode cX5_aimNow 14 = .ok (.return_, 1) := dk_177 (dk_at dksX5_aimNow_0 14 rfl rfl)
abbrev cX5_aim : ByteArray := prog_22_method_75_code
def yX5_aim : MethodName := ⟨RX5, "aim", "(II)V"⟩
def dkwX5_aim_9 : List UInt8 := [181, 1, 180, 177]
abbrev dktX5_aim_9 : List UInt8 := dkwX5_aim_9 ++ []
def dkwX5_aim_8 : List UInt8 := [79, 42, 180, 0, 131, 7, 4, 79, 42, 180, 0, 125, 42, 180, 0, 128, 7, 46, 4, 79, 42, 4]
abbrev dktX5_aim_8 : List UInt8 := dkwX5_aim_8 ++ dktX5_aim_9
def dkwX5_aim_7 : List UInt8 := [180, 0, 128, 7, 21, 4, 153, 0, 12, 42, 16, 6, 182, 1, 147, 167, 0, 9, 42, 29, 27, 182, 1, 177]
abbrev dktX5_aim_7 : List UInt8 := dkwX5_aim_7 ++ dktX5_aim_8
def dkwX5_aim_6 : List UInt8 := [180, 0, 131, 21, 5, 46, 96, 181, 1, 180, 132, 5, 1, 167, 255, 147, 42, 180, 1, 180, 154, 0, 53, 42]
abbrev dktX5_aim_6 : List UInt8 := dkwX5_aim_6 ++ dktX5_aim_7
def dkwX5_aim_5 : List UInt8 := [42, 180, 0, 128, 21, 5, 46, 92, 46, 42, 180, 0, 131, 21, 5, 46, 96, 79, 42, 89, 180, 1, 180, 42]
abbrev dktX5_aim_5 : List UInt8 := dkwX5_aim_5 ++ dktX5_aim_6
def dkwX5_aim_4 : List UInt8 := [21, 4, 153, 0, 7, 3, 167, 0, 13, 42, 27, 28, 21, 6, 21, 7, 182, 1, 186, 79, 42, 180, 0, 125]
abbrev dktX5_aim_4 : List UInt8 := dkwX5_aim_4 ++ dktX5_aim_5
def dkwX5_aim_3 : List UInt8 := [180, 0, 128, 21, 5, 42, 29, 21, 6, 96, 27, 21, 7, 96, 182, 1, 177, 79, 42, 180, 0, 131, 21, 5]
abbrev dktX5_aim_3 : List UInt8 := dkwX5_aim_3 ++ dktX5_aim_4
def dkwX5_aim_2 : List UInt8 := [16, 9, 162, 0, 108, 21, 5, 6, 112, 4, 100, 54, 6, 21, 5, 6, 108, 4, 100, 54, 7, 42]
abbrev dktX5_aim_2 : List UInt8 := dkwX5_aim_2 ++ dktX5_aim_3
def dkwX5_aim_1 : List UInt8 := [181, 1, 180, 42, 7, 182, 1, 147, 28, 96, 62, 42, 27, 28, 182, 1, 183, 54, 4, 3, 54, 5, 21, 5]
abbrev dktX5_aim_1 : List UInt8 := dkwX5_aim_1 ++ dktX5_aim_2
def dkwX5_aim_0 : List UInt8 := [3, 62, 29, 16, 37, 162, 0, 16, 42, 180, 0, 125, 29, 3, 79, 132, 3, 1, 167, 255, 240, 42, 3]
abbrev dktX5_aim_0 : List UInt8 := dkwX5_aim_0 ++ dktX5_aim_1
theorem dksX5_aim_0 : cX5_aim.data.toList.drop 0 = dktX5_aim_0 := by decide +kernel
theorem dksX5_aim_1 : cX5_aim.data.toList.drop 23 = dktX5_aim_1 := dk_seg dksX5_aim_0 23 rfl rfl
theorem dksX5_aim_2 : cX5_aim.data.toList.drop 47 = dktX5_aim_2 := dk_seg dksX5_aim_1 24 rfl rfl
theorem dksX5_aim_3 : cX5_aim.data.toList.drop 69 = dktX5_aim_3 := dk_seg dksX5_aim_2 22 rfl rfl
theorem dksX5_aim_4 : cX5_aim.data.toList.drop 93 = dktX5_aim_4 := dk_seg dksX5_aim_3 24 rfl rfl
theorem dksX5_aim_5 : cX5_aim.data.toList.drop 117 = dktX5_aim_5 := dk_seg dksX5_aim_4 24 rfl rfl
theorem dksX5_aim_6 : cX5_aim.data.toList.drop 141 = dktX5_aim_6 := dk_seg dksX5_aim_5 24 rfl rfl
theorem dksX5_aim_7 : cX5_aim.data.toList.drop 165 = dktX5_aim_7 := dk_seg dksX5_aim_6 24 rfl rfl
theorem dksX5_aim_8 : cX5_aim.data.toList.drop 189 = dktX5_aim_8 := dk_seg dksX5_aim_7 24 rfl rfl
theorem dksX5_aim_9 : cX5_aim.data.toList.drop 211 = dktX5_aim_9 := dk_seg dksX5_aim_8 22 rfl rfl
theorem dX5_aim_0 : decode cX5_aim 0 = .ok (.iconst 0, 1) := dk_3 (dk_at dksX5_aim_0 0 rfl rfl)
theorem dX5_aim_1 : decode cX5_aim 1 = .ok (.istore_n 3, 1) := dk_62 (dk_at dksX5_aim_0 1 rfl rfl)
theorem dX5_aim_2 : decode cX5_aim 2 = .ok (.iload_n 3, 1) := dk_29 (dk_at dksX5_aim_0 2 rfl rfl)
theorem dX5_aim_3 : decode cX5_aim 3 = .ok (.bipush 37, 2) := dk_16 37 (dk_at dksX5_aim_0 3 rfl rfl)
theorem dX5_aim_5 : decode cX5_aim 5 = .ok (.if_icmp .ge 16, 3) := dk_162 0 16 (dk_at dksX5_aim_0 5 rfl rfl)
theorem dX5_aim_8 : decode cX5_aim 8 = .ok (.aload_n 0, 1) := dk_42 (dk_at dksX5_aim_0 8 rfl rfl)
theorem dX5_aim_9 : decode cX5_aim 9 = .ok (.getfield 125, 3) := dk_180 0 125 (dk_at dksX5_aim_0 9 rfl rfl)
theorem dX5_aim_12 : decode cX5_aim 12 = .ok (.iload_n 3, 1) := dk_29 (dk_at dksX5_aim_0 12 rfl rfl)
theorem dX5_aim_13 : decode cX5_aim 13 = .ok (.iconst 0, 1) := dk_3 (dk_at dksX5_aim_0 13 rfl rfl)
theorem dX5_aim_14 : decode cX5_aim 14 = .ok (.iastore, 1) := dk_79 (dk_at dksX5_aim_0 14 rfl rfl)
theorem dX5_aim_15 : decode cX5_aim 15 = .ok (.iinc 3 1, 3) := dk_132 3 1 (dk_at dksX5_aim_0 15 rfl rfl)
theorem dX5_aim_18 : decode cX5_aim 18 = .ok (.goto (-16), 3) := dk_167 255 240 (dk_at dksX5_aim_0 18 rfl rfl)
theorem dX5_aim_21 : decode cX5_aim 21 = .ok (.aload_n 0, 1) := dk_42 (dk_at dksX5_aim_0 21 rfl rfl)
theorem dX5_aim_22 : decode cX5_aim 22 = .ok (.iconst 0, 1) := dk_3 (dk_at dksX5_aim_0 22 rfl rfl)
theorem dX5_aim_23 : decode cX5_aim 23 = .ok (.putfield 436, 3) := dk_181 1 180 (dk_at dksX5_aim_1 0 rfl rfl)
theorem dX5_aim_26 : decode cX5_aim 26 = .ok (.aload_n 0, 1) := dk_42 (dk_at dksX5_aim_1 3 rfl rfl)
theorem dX5_aim_27 : decode cX5_aim 27 = .ok (.iconst 4, 1) := dk_7 (dk_at dksX5_aim_1 4 rfl rfl)
theorem dX5_aim_28 : decode cX5_aim 28 = .ok (.invokevirtual 403, 3) := dk_182 1 147 (dk_at dksX5_aim_1 5 rfl rfl)
theorem dX5_aim_31 : decode cX5_aim 31 = .ok (.iload_n 2, 1) := dk_28 (dk_at dksX5_aim_1 8 rfl rfl)
theorem dX5_aim_32 : decode cX5_aim 32 = .ok (.iadd, 1) := dk_96 (dk_at dksX5_aim_1 9 rfl rfl)
theorem dX5_aim_33 : decode cX5_aim 33 = .ok (.istore_n 3, 1) := dk_62 (dk_at dksX5_aim_1 10 rfl rfl)
theorem dX5_aim_34 : decode cX5_aim 34 = .ok (.aload_n 0, 1) := dk_42 (dk_at dksX5_aim_1 11 rfl rfl)
theorem dX5_aim_35 : decode cX5_aim 35 = .ok (.iload_n 1, 1) := dk_27 (dk_at dksX5_aim_1 12 rfl rfl)
theorem dX5_aim_36 : decode cX5_aim 36 = .ok (.iload_n 2, 1) := dk_28 (dk_at dksX5_aim_1 13 rfl rfl)
theorem dX5_aim_37 : decode cX5_aim 37 = .ok (.invokevirtual 439, 3) := dk_182 1 183 (dk_at dksX5_aim_1 14 rfl rfl)
theorem dX5_aim_40 : decode cX5_aim 40 = .ok (.istore 4, 2) := dk_54 4 (dk_at dksX5_aim_1 17 rfl rfl)
theorem dX5_aim_42 : decode cX5_aim 42 = .ok (.iconst 0, 1) := dk_3 (dk_at dksX5_aim_1 19 rfl rfl)
theorem dX5_aim_43 : decode cX5_aim 43 = .ok (.istore 5, 2) := dk_54 5 (dk_at dksX5_aim_1 20 rfl rfl)
theorem dX5_aim_45 : decode cX5_aim 45 = .ok (.iload 5, 2) := dk_21 5 (dk_at dksX5_aim_1 22 rfl rfl)
theorem dX5_aim_47 : decode cX5_aim 47 = .ok (.bipush 9, 2) := dk_16 9 (dk_at dksX5_aim_2 0 rfl rfl)
theorem dX5_aim_49 : decode cX5_aim 49 = .ok (.if_icmp .ge 108, 3) := dk_162 0 108 (dk_at dksX5_aim_2 2 rfl rfl)
theorem dX5_aim_52 : decode cX5_aim 52 = .ok (.iload 5, 2) := dk_21 5 (dk_at dksX5_aim_2 5 rfl rfl)
theorem dX5_aim_54 : decode cX5_aim 54 = .ok (.iconst 3, 1) := dk_6 (dk_at dksX5_aim_2 7 rfl rfl)
theorem dX5_aim_55 : decode cX5_aim 55 = .ok (.irem, 1) := dk_112 (dk_at dksX5_aim_2 8 rfl rfl)
theorem dX5_aim_56 : decode cX5_aim 56 = .ok (.iconst 1, 1) := dk_4 (dk_at dksX5_aim_2 9 rfl rfl)
theorem dX5_aim_57 : decode cX5_aim 57 = .ok (.isub, 1) := dk_100 (dk_at dksX5_aim_2 10 rfl rfl)
theorem dX5_aim_58 : decode cX5_aim 58 = .ok (.istore 6, 2) := dk_54 6 (dk_at dksX5_aim_2 11 rfl rfl)
theorem dX5_aim_60 : decode cX5_aim 60 = .ok (.iload 5, 2) := dk_21 5 (dk_at dksX5_aim_2 13 rfl rfl)
theorem dX5_aim_62 : decode cX5_aim 62 = .ok (.iconst 3, 1) := dk_6 (dk_at dksX5_aim_2 15 rfl rfl)
theorem dX5_aim_63 : decode cX5_aim 63 = .ok (.idiv, 1) := dk_108 (dk_at dksX5_aim_2 16 rfl rfl)
theorem dX5_aim_64 : decode cX5_aim 64 = .ok (.iconst 1, 1) := dk_4 (dk_at dksX5_aim_2 17 rfl rfl)
theorem dX5_aim_65 : decode cX5_aim 65 = .ok (.isub, 1) := dk_100 (dk_at dksX5_aim_2 18 rfl rfl)
theorem dX5_aim_66 : decode cX5_aim 66 = .ok (.istore 7, 2) := dk_54 7 (dk_at dksX5_aim_2 19 rfl rfl)
theorem dX5_aim_68 : decode cX5_aim 68 = .ok (.aload_n 0, 1) := dk_42 (dk_at dksX5_aim_2 21 rfl rfl)
theorem dX5_aim_69 : decode cX5_aim 69 = .ok (.getfield 128, 3) := dk_180 0 128 (dk_at dksX5_aim_3 0 rfl rfl)
theorem dX5_aim_72 : decode cX5_aim 72 = .ok (.iload 5, 2) := dk_21 5 (dk_at dksX5_aim_3 3 rfl rfl)
theorem dX5_aim_74 : decode cX5_aim 74 = .ok (.aload_n 0, 1) := dk_42 (dk_at dksX5_aim_3 5 rfl rfl)
theorem dX5_aim_75 : decode cX5_aim 75 = .ok (.iload_n 3, 1) := dk_29 (dk_at dksX5_aim_3 6 rfl rfl)
theorem dX5_aim_76 : decode cX5_aim 76 = .ok (.iload 6, 2) := dk_21 6 (dk_at dksX5_aim_3 7 rfl rfl)
theorem dX5_aim_78 : decode cX5_aim 78 = .ok (.iadd, 1) := dk_96 (dk_at dksX5_aim_3 9 rfl rfl)
theorem dX5_aim_79 : decode cX5_aim 79 = .ok (.iload_n 1, 1) := dk_27 (dk_at dksX5_aim_3 10 rfl rfl)
theorem dX5_aim_80 : decode cX5_aim 80 = .ok (.iload 7, 2) := dk_21 7 (dk_at dksX5_aim_3 11 rfl rfl)
theorem dX5_aim_82 : decode cX5_aim 82 = .ok (.iadd, 1) := dk_96 (dk_at dksX5_aim_3 13 rfl rfl)
theorem dX5_aim_83 : decode cX5_aim 83 = .ok (.invokevirtual 433, 3) := dk_182 1 177 (dk_at dksX5_aim_3 14 rfl rfl)
theorem dX5_aim_86 : decode cX5_aim 86 = .ok (.iastore, 1) := dk_79 (dk_at dksX5_aim_3 17 rfl rfl)
theorem dX5_aim_87 : decode cX5_aim 87 = .ok (.aload_n 0, 1) := dk_42 (dk_at dksX5_aim_3 18 rfl rfl)
theorem dX5_aim_88 : decode cX5_aim 88 = .ok (.getfield 131, 3) := dk_180 0 131 (dk_at dksX5_aim_3 19 rfl rfl)
theorem dX5_aim_91 : decode cX5_aim 91 = .ok (.iload 5, 2) := dk_21 5 (dk_at dksX5_aim_3 22 rfl rfl)
theorem dX5_aim_93 : decode cX5_aim 93 = .ok (.iload 4, 2) := dk_21 4 (dk_at dksX5_aim_4 0 rfl rfl)
theorem dX5_aim_95 : decode cX5_aim 95 = .ok (.ifCond .eq 7, 3) := dk_153 0 7 (dk_at dksX5_aim_4 2 rfl rfl)
theorem dX5_aim_98 : decode cX5_aim 98 = .ok (.iconst 0, 1) := dk_3 (dk_at dksX5_aim_4 5 rfl rfl)
theorem dX5_aim_99 : decode cX5_aim 99 = .ok (.goto 13, 3) := dk_167 0 13 (dk_at dksX5_aim_4 6 rfl rfl)
theorem dX5_aim_102 : decode cX5_aim 102 = .ok (.aload_n 0, 1) := dk_42 (dk_at dksX5_aim_4 9 rfl rfl)
theorem dX5_aim_103 : decode cX5_aim 103 = .ok (.iload_n 1, 1) := dk_27 (dk_at dksX5_aim_4 10 rfl rfl)
theorem dX5_aim_104 : decode cX5_aim 104 = .ok (.iload_n 2, 1) := dk_28 (dk_at dksX5_aim_4 11 rfl rfl)
theorem dX5_aim_105 : decode cX5_aim 105 = .ok (.iload 6, 2) := dk_21 6 (dk_at dksX5_aim_4 12 rfl rfl)
theorem dX5_aim_107 : decode cX5_aim 107 = .ok (.iload 7, 2) := dk_21 7 (dk_at dksX5_aim_4 14 rfl rfl)
theorem dX5_aim_109 : decode cX5_aim 109 = .ok (.invokevirtual 442, 3) := dk_182 1 186 (dk_at dksX5_aim_4 16 rfl rfl)
theorem dX5_aim_112 : decode cX5_aim 112 = .ok (.iastore, 1) := dk_79 (dk_at dksX5_aim_4 19 rfl rfl)
theorem dX5_aim_113 : decode cX5_aim 113 = .ok (.aload_n 0, 1) := dk_42 (dk_at dksX5_aim_4 20 rfl rfl)
theorem dX5_aim_114 : decode cX5_aim 114 = .ok (.getfield 125, 3) := dk_180 0 125 (dk_at dksX5_aim_4 21 rfl rfl)
theorem dX5_aim_117 : decode cX5_aim 117 = .ok (.aload_n 0, 1) := dk_42 (dk_at dksX5_aim_5 0 rfl rfl)
theorem dX5_aim_118 : decode cX5_aim 118 = .ok (.getfield 128, 3) := dk_180 0 128 (dk_at dksX5_aim_5 1 rfl rfl)
theorem dX5_aim_121 : decode cX5_aim 121 = .ok (.iload 5, 2) := dk_21 5 (dk_at dksX5_aim_5 4 rfl rfl)
theorem dX5_aim_123 : decode cX5_aim 123 = .ok (.iaload, 1) := dk_46 (dk_at dksX5_aim_5 6 rfl rfl)
theorem dX5_aim_124 : decode cX5_aim 124 = .ok (.dup2, 1) := dk_92 (dk_at dksX5_aim_5 7 rfl rfl)
theorem dX5_aim_125 : decode cX5_aim 125 = .ok (.iaload, 1) := dk_46 (dk_at dksX5_aim_5 8 rfl rfl)
theorem dX5_aim_126 : decode cX5_aim 126 = .ok (.aload_n 0, 1) := dk_42 (dk_at dksX5_aim_5 9 rfl rfl)
theorem dX5_aim_127 : decode cX5_aim 127 = .ok (.getfield 131, 3) := dk_180 0 131 (dk_at dksX5_aim_5 10 rfl rfl)
theorem dX5_aim_130 : decode cX5_aim 130 = .ok (.iload 5, 2) := dk_21 5 (dk_at dksX5_aim_5 13 rfl rfl)
theorem dX5_aim_132 : decode cX5_aim 132 = .ok (.iaload, 1) := dk_46 (dk_at dksX5_aim_5 15 rfl rfl)
theorem dX5_aim_133 : decode cX5_aim 133 = .ok (.iadd, 1) := dk_96 (dk_at dksX5_aim_5 16 rfl rfl)
theorem dX5_aim_134 : decode cX5_aim 134 = .ok (.iastore, 1) := dk_79 (dk_at dksX5_aim_5 17 rfl rfl)
theorem dX5_aim_135 : decode cX5_aim 135 = .ok (.aload_n 0, 1) := dk_42 (dk_at dksX5_aim_5 18 rfl rfl)
theorem dX5_aim_136 : decode cX5_aim 136 = .ok (.dup, 1) := dk_89 (dk_at dksX5_aim_5 19 rfl rfl)
theorem dX5_aim_137 : decode cX5_aim 137 = .ok (.getfield 436, 3) := dk_180 1 180 (dk_at dksX5_aim_5 20 rfl rfl)
theorem dX5_aim_140 : decode cX5_aim 140 = .ok (.aload_n 0, 1) := dk_42 (dk_at dksX5_aim_5 23 rfl rfl)
theorem dX5_aim_141 : decode cX5_aim 141 = .ok (.getfield 131, 3) := dk_180 0 131 (dk_at dksX5_aim_6 0 rfl rfl)
theorem dX5_aim_144 : decode cX5_aim 144 = .ok (.iload 5, 2) := dk_21 5 (dk_at dksX5_aim_6 3 rfl rfl)
theorem dX5_aim_146 : decode cX5_aim 146 = .ok (.iaload, 1) := dk_46 (dk_at dksX5_aim_6 5 rfl rfl)
theorem dX5_aim_147 : decode cX5_aim 147 = .ok (.iadd, 1) := dk_96 (dk_at dksX5_aim_6 6 rfl rfl)
theorem dX5_aim_148 : decode cX5_aim 148 = .ok (.putfield 436, 3) := dk_181 1 180 (dk_at dksX5_aim_6 7 rfl rfl)
theorem dX5_aim_151 : decode cX5_aim 151 = .ok (.iinc 5 1, 3) := dk_132 5 1 (dk_at dksX5_aim_6 10 rfl rfl)
theorem dX5_aim_154 : decode cX5_aim 154 = .ok (.goto (-109), 3) := dk_167 255 147 (dk_at dksX5_aim_6 13 rfl rfl)
theorem dX5_aim_157 : decode cX5_aim 157 = .ok (.aload_n 0, 1) := dk_42 (dk_at dksX5_aim_6 16 rfl rfl)
theorem dX5_aim_158 : decode cX5_aim 158 = .ok (.getfield 436, 3) := dk_180 1 180 (dk_at dksX5_aim_6 17 rfl rfl)
theorem dX5_aim_161 : decode cX5_aim 161 = .ok (.ifCond .ne 53, 3) := dk_154 0 53 (dk_at dksX5_aim_6 20 rfl rfl)
theorem dX5_aim_164 : decode cX5_aim 164 = .ok (.aload_n 0, 1) := dk_42 (dk_at dksX5_aim_6 23 rfl rfl)
theorem dX5_aim_165 : decode cX5_aim 165 = .ok (.getfield 128, 3) := dk_180 0 128 (dk_at dksX5_aim_7 0 rfl rfl)
theorem dX5_aim_168 : decode cX5_aim 168 = .ok (.iconst 4, 1) := dk_7 (dk_at dksX5_aim_7 3 rfl rfl)
theorem dX5_aim_169 : decode cX5_aim 169 = .ok (.iload 4, 2) := dk_21 4 (dk_at dksX5_aim_7 4 rfl rfl)
theorem dX5_aim_171 : decode cX5_aim 171 = .ok (.ifCond .eq 12, 3) := dk_153 0 12 (dk_at dksX5_aim_7 6 rfl rfl)
theorem dX5_aim_174 : decode cX5_aim 174 = .ok (.aload_n 0, 1) := dk_42 (dk_at dksX5_aim_7 9 rfl rfl)
theorem dX5_aim_175 : decode cX5_aim 175 = .ok (.bipush 6, 2) := dk_16 6 (dk_at dksX5_aim_7 10 rfl rfl)
theorem dX5_aim_177 : decode cX5_aim 177 = .ok (.invokevirtual 403, 3) := dk_182 1 147 (dk_at dksX5_aim_7 12 rfl rfl)
theorem dX5_aim_180 : decode cX5_aim 180 = .ok (.goto 9, 3) := dk_167 0 9 (dk_at dksX5_aim_7 15 rfl rfl)
theorem dX5_aim_183 : decode cX5_aim 183 = .ok (.aload_n 0, 1) := dk_42 (dk_at dksX5_aim_7 18 rfl rfl)
theorem dX5_aim_184 : decode cX5_aim 184 = .ok (.iload_n 3, 1) := dk_29 (dk_at dksX5_aim_7 19 rfl rfl)
theorem dX5_aim_185 : decode cX5_aim 185 = .ok (.iload_n 1, 1) := dk_27 (dk_at dksX5_aim_7 20 rfl rfl)
theorem dX5_aim_186 : decode cX5_aim 186 = .ok (.invokevirtual 433, 3) := dk_182 1 177 (dk_at dksX5_aim_7 21 rfl rfl)
theorem dX5_aim_189 : decode cX5_aim 189 = .ok (.iastore, 1) := dk_79 (dk_at dksX5_aim_8 0 rfl rfl)
theorem dX5_aim_190 : decode cX5_aim 190 = .ok (.aload_n 0, 1) := dk_42 (dk_at dksX5_aim_8 1 rfl rfl)
theorem dX5_aim_191 : decode cX5_aim 191 = .ok (.getfield 131, 3) := dk_180 0 131 (dk_at dksX5_aim_8 2 rfl rfl)
theorem dX5_aim_194 : decode cX5_aim 194 = .ok (.iconst 4, 1) := dk_7 (dk_at dksX5_aim_8 5 rfl rfl)
theorem dX5_aim_195 : decode cX5_aim 195 = .ok (.iconst 1, 1) := dk_4 (dk_at dksX5_aim_8 6 rfl rfl)
theorem dX5_aim_196 : decode cX5_aim 196 = .ok (.iastore, 1) := dk_79 (dk_at dksX5_aim_8 7 rfl rfl)
theorem dX5_aim_197 : decode cX5_aim 197 = .ok (.aload_n 0, 1) := dk_42 (dk_at dksX5_aim_8 8 rfl rfl)
theorem dX5_aim_198 : decode cX5_aim 198 = .ok (.getfield 125, 3) := dk_180 0 125 (dk_at dksX5_aim_8 9 rfl rfl)
theorem dX5_aim_201 : decode cX5_aim 201 = .ok (.aload_n 0, 1) := dk_42 (dk_at dksX5_aim_8 12 rfl rfl)
theorem dX5_aim_202 : decode cX5_aim 202 = .ok (.getfield 128, 3) := dk_180 0 128 (dk_at dksX5_aim_8 13 rfl rfl)
theorem dX5_aim_205 : decode cX5_aim 205 = .ok (.iconst 4, 1) := dk_7 (dk_at dksX5_aim_8 16 rfl rfl)
theorem dX5_aim_206 : decode cX5_aim 206 = .ok (.iaload, 1) := dk_46 (dk_at dksX5_aim_8 17 rfl rfl)
theorem dX5_aim_207 : decode cX5_aim 207 = .ok (.iconst 1, 1) := dk_4 (dk_at dksX5_aim_8 18 rfl rfl)
theorem dX5_aim_208 : decode cX5_aim 208 = .ok (.iastore, 1) := dk_79 (dk_at dksX5_aim_8 19 rfl rfl)
theorem dX5_aim_209 : decode cX5_aim 209 = .ok (.aload_n 0, 1) := dk_42 (dk_at dksX5_aim_8 20 rfl rfl)
theorem dX5_aim_210 : decode cX5_aim 210 = .ok (.iconst 1, 1) := dk_4 (dk_at dksX5_aim_8 21 rfl rfl)
theorem dX5_aim_211 : decode cX5_aim 211 = .ok (.putfield 436, 3) := dk_181 1 180 (dk_at dksX5_aim_9 0 rfl rfl)
theorem dX5_aim_214 : decode cX5_aim 214 = .ok (.return_, 1) := dk_177 (dk_at dksX5_aim_9 3 rfl rfl)
abbrev cX5_isLit : ByteArray := prog_22_method_74_code
def yX5_isLit : MethodName := ⟨RX5, "isLit", "(II)Z"⟩
def dkwX5_isLit_3 : List UInt8 := [3, 62, 132, 4, 1, 167, 255, 210, 29, 172]
abbrev dktX5_isLit_3 : List UInt8 := dkwX5_isLit_3 ++ []
def dkwX5_isLit_2 : List UInt8 := [21, 4, 104, 27, 108, 96, 21, 4, 182, 1, 177, 42, 16, 6, 182, 1, 147, 160, 0, 7, 4, 167, 0, 4]
abbrev dktX5_isLit_2 : List UInt8 := dkwX5_isLit_2 ++ dktX5_isLit_3
def dkwX5_isLit_1 : List UInt8 := [3, 172, 3, 62, 3, 54, 4, 21, 4, 27, 162, 0, 46, 29, 154, 0, 30, 42, 42, 7, 182, 1, 147, 28]
abbrev dktX5_isLit_1 : List UInt8 := dkwX5_isLit_1 ++ dktX5_isLit_2
def dkwX5_isLit_0 : List UInt8 := [42, 16, 6, 182, 1, 147, 2, 159, 0, 17, 42, 16, 7, 182, 1, 147, 42, 5, 182, 1, 147, 164, 0, 5]
abbrev dktX5_isLit_0 : List UInt8 := dkwX5_isLit_0 ++ dktX5_isLit_1
theorem dksX5_isLit_0 : cX5_isLit.data.toList.drop 0 = dktX5_isLit_0 := by decide +kernel
theorem dksX5_isLit_1 : cX5_isLit.data.toList.drop 24 = dktX5_isLit_1 := dk_seg dksX5_isLit_0 24 rfl rfl
theorem dksX5_isLit_2 : cX5_isLit.data.toList.drop 48 = dktX5_isLit_2 := dk_seg dksX5_isLit_1 24 rfl rfl
theorem dksX5_isLit_3 : cX5_isLit.data.toList.drop 72 = dktX5_isLit_3 := dk_seg dksX5_isLit_2 24 rfl rfl
theorem dX5_isLit_0 : decode cX5_isLit 0 = .ok (.aload_n 0, 1) := dk_42 (dk_at dksX5_isLit_0 0 rfl rfl)
theorem dX5_isLit_1 : decode cX5_isLit 1 = .ok (.bipush 6, 2) := dk_16 6 (dk_at dksX5_isLit_0 1 rfl rfl)
theorem dX5_isLit_3 : decode cX5_isLit 3 = .ok (.invokevirtual 403, 3) := dk_182 1 147 (dk_at dksX5_isLit_0 3 rfl rfl)
theorem dX5_isLit_6 : decode cX5_isLit 6 = .ok (.iconst (-1), 1) := dk_2 (dk_at dksX5_isLit_0 6 rfl rfl)
theorem dX5_isLit_7 : decode cX5_isLit 7 = .ok (.if_icmp .eq 17, 3) := dk_159 0 17 (dk_at dksX5_isLit_0 7 rfl rfl)
theorem dX5_isLit_10 : decode cX5_isLit 10 = .ok (.aload_n 0, 1) := dk_42 (dk_at dksX5_isLit_0 10 rfl rfl)
theorem dX5_isLit_11 : decode cX5_isLit 11 = .ok (.bipush 7, 2) := dk_16 7 (dk_at dksX5_isLit_0 11 rfl rfl)
theorem dX5_isLit_13 : decode cX5_isLit 13 = .ok (.invokevirtual 403, 3) := dk_182 1 147 (dk_at dksX5_isLit_0 13 rfl rfl)
theorem dX5_isLit_16 : decode cX5_isLit 16 = .ok (.aload_n 0, 1) := dk_42 (dk_at dksX5_isLit_0 16 rfl rfl)
theorem dX5_isLit_17 : decode cX5_isLit 17 = .ok (.iconst 2, 1) := dk_5 (dk_at dksX5_isLit_0 17 rfl rfl)
theorem dX5_isLit_18 : decode cX5_isLit 18 = .ok (.invokevirtual 403, 3) := dk_182 1 147 (dk_at dksX5_isLit_0 18 rfl rfl)
theorem dX5_isLit_21 : decode cX5_isLit 21 = .ok (.if_icmp .le 5, 3) := dk_164 0 5 (dk_at dksX5_isLit_0 21 rfl rfl)
theorem dX5_isLit_24 : decode cX5_isLit 24 = .ok (.iconst 0, 1) := dk_3 (dk_at dksX5_isLit_1 0 rfl rfl)
theorem dX5_isLit_25 : decode cX5_isLit 25 = .ok (.ireturn, 1) := dk_172 (dk_at dksX5_isLit_1 1 rfl rfl)
theorem dX5_isLit_26 : decode cX5_isLit 26 = .ok (.iconst 0, 1) := dk_3 (dk_at dksX5_isLit_1 2 rfl rfl)
theorem dX5_isLit_27 : decode cX5_isLit 27 = .ok (.istore_n 3, 1) := dk_62 (dk_at dksX5_isLit_1 3 rfl rfl)
theorem dX5_isLit_28 : decode cX5_isLit 28 = .ok (.iconst 0, 1) := dk_3 (dk_at dksX5_isLit_1 4 rfl rfl)
theorem dX5_isLit_29 : decode cX5_isLit 29 = .ok (.istore 4, 2) := dk_54 4 (dk_at dksX5_isLit_1 5 rfl rfl)
theorem dX5_isLit_31 : decode cX5_isLit 31 = .ok (.iload 4, 2) := dk_21 4 (dk_at dksX5_isLit_1 7 rfl rfl)
theorem dX5_isLit_33 : decode cX5_isLit 33 = .ok (.iload_n 1, 1) := dk_27 (dk_at dksX5_isLit_1 9 rfl rfl)
theorem dX5_isLit_34 : decode cX5_isLit 34 = .ok (.if_icmp .ge 46, 3) := dk_162 0 46 (dk_at dksX5_isLit_1 10 rfl rfl)
theorem dX5_isLit_37 : decode cX5_isLit 37 = .ok (.iload_n 3, 1) := dk_29 (dk_at dksX5_isLit_1 13 rfl rfl)
theorem dX5_isLit_38 : decode cX5_isLit 38 = .ok (.ifCond .ne 30, 3) := dk_154 0 30 (dk_at dksX5_isLit_1 14 rfl rfl)
theorem dX5_isLit_41 : decode cX5_isLit 41 = .ok (.aload_n 0, 1) := dk_42 (dk_at dksX5_isLit_1 17 rfl rfl)
theorem dX5_isLit_42 : decode cX5_isLit 42 = .ok (.aload_n 0, 1) := dk_42 (dk_at dksX5_isLit_1 18 rfl rfl)
theorem dX5_isLit_43 : decode cX5_isLit 43 = .ok (.iconst 4, 1) := dk_7 (dk_at dksX5_isLit_1 19 rfl rfl)
theorem dX5_isLit_44 : decode cX5_isLit 44 = .ok (.invokevirtual 403, 3) := dk_182 1 147 (dk_at dksX5_isLit_1 20 rfl rfl)
theorem dX5_isLit_47 : decode cX5_isLit 47 = .ok (.iload_n 2, 1) := dk_28 (dk_at dksX5_isLit_1 23 rfl rfl)
theorem dX5_isLit_48 : decode cX5_isLit 48 = .ok (.iload 4, 2) := dk_21 4 (dk_at dksX5_isLit_2 0 rfl rfl)
theorem dX5_isLit_50 : decode cX5_isLit 50 = .ok (.imul, 1) := dk_104 (dk_at dksX5_isLit_2 2 rfl rfl)
theorem dX5_isLit_51 : decode cX5_isLit 51 = .ok (.iload_n 1, 1) := dk_27 (dk_at dksX5_isLit_2 3 rfl rfl)
theorem dX5_isLit_52 : decode cX5_isLit 52 = .ok (.idiv, 1) := dk_108 (dk_at dksX5_isLit_2 4 rfl rfl)
theorem dX5_isLit_53 : decode cX5_isLit 53 = .ok (.iadd, 1) := dk_96 (dk_at dksX5_isLit_2 5 rfl rfl)
theorem dX5_isLit_54 : decode cX5_isLit 54 = .ok (.iload 4, 2) := dk_21 4 (dk_at dksX5_isLit_2 6 rfl rfl)
theorem dX5_isLit_56 : decode cX5_isLit 56 = .ok (.invokevirtual 433, 3) := dk_182 1 177 (dk_at dksX5_isLit_2 8 rfl rfl)
theorem dX5_isLit_59 : decode cX5_isLit 59 = .ok (.aload_n 0, 1) := dk_42 (dk_at dksX5_isLit_2 11 rfl rfl)
theorem dX5_isLit_60 : decode cX5_isLit 60 = .ok (.bipush 6, 2) := dk_16 6 (dk_at dksX5_isLit_2 12 rfl rfl)
theorem dX5_isLit_62 : decode cX5_isLit 62 = .ok (.invokevirtual 403, 3) := dk_182 1 147 (dk_at dksX5_isLit_2 14 rfl rfl)
theorem dX5_isLit_65 : decode cX5_isLit 65 = .ok (.if_icmp .ne 7, 3) := dk_160 0 7 (dk_at dksX5_isLit_2 17 rfl rfl)
theorem dX5_isLit_68 : decode cX5_isLit 68 = .ok (.iconst 1, 1) := dk_4 (dk_at dksX5_isLit_2 20 rfl rfl)
theorem dX5_isLit_69 : decode cX5_isLit 69 = .ok (.goto 4, 3) := dk_167 0 4 (dk_at dksX5_isLit_2 21 rfl rfl)
theorem dX5_isLit_72 : decode cX5_isLit 72 = .ok (.iconst 0, 1) := dk_3 (dk_at dksX5_isLit_3 0 rfl rfl)
theorem dX5_isLit_73 : decode cX5_isLit 73 = .ok (.istore_n 3, 1) := dk_62 (dk_at dksX5_isLit_3 1 rfl rfl)
theorem dX5_isLit_74 : decode cX5_isLit 74 = .ok (.iinc 4 1, 3) := dk_132 4 1 (dk_at dksX5_isLit_3 2 rfl rfl)
theorem dX5_isLit_77 : decode cX5_isLit 77 = .ok (.goto (-46), 3) := dk_167 255 210 (dk_at dksX5_isLit_3 5 rfl rfl)
theorem dX5_isLit_80 : decode cX5_isLit 80 = .ok (.iload_n 3, 1) := dk_29 (dk_at dksX5_isLit_3 8 rfl rfl)
theorem dX5_isLit_81 : decode cX5_isLit 81 = .ok (.ireturn, 1) := dk_172 (dk_at dksX5_isLit_3 9 rfl rfl)
abbrev cX5_cellAt : ByteArray := prog_22_method_73_code
def yX5_cellAt : MethodName := ⟨RX5, "cellAt", "(II)I"⟩
def dkwX5_cellAt_1 : List UInt8 := [16, 6, 28, 104, 27, 96, 167, 0, 5, 16, 36, 172]
abbrev dktX5_cellAt_1 : List UInt8 := dkwX5_cellAt_1 ++ []
def dkwX5_cellAt_0 : List UInt8 := [27, 133, 9, 20, 0, 215, 184, 0, 159, 153, 0, 24, 28, 133, 9, 20, 0, 215, 184, 0, 159, 153, 0, 12]
abbrev dktX5_cellAt_0 : List UInt8 := dkwX5_cellAt_0 ++ dktX5_cellAt_1
theorem dksX5_cellAt_0 : cX5_cellAt.data.toList.drop 0 = dktX5_cellAt_0 := by decide +kernel
theorem dksX5_cellAt_1 : cX5_cellAt.data.toList.drop 24 = dktX5_cellAt_1 := dk_seg dksX5_cellAt_0 24 rfl rfl
theorem dX5_cellAt_0 : decode cX5_cellAt 0 = .ok (.iload_n 1, 1) := dk_27 (dk_at dksX5_cellAt_0 0 rfl rfl)
theorem dX5_cellAt_1 : decode cX5_cellAt 1 = .ok (.i2l, 1) := dk_133 (dk_at dksX5_cellAt_0 1 rfl rfl)
theorem dX5_cellAt_2 : decode cX5_cellAt 2 = .ok (.lconst 0, 1) := dk_9 (dk_at dksX5_cellAt_0 2 rfl rfl)
theorem dX5_cellAt_3 : decode cX5_cellAt 3 = .ok (.ldc2_w 215, 3) := dk_20 0 215 (dk_at dksX5_cellAt_0 3 rfl rfl)
theorem dX5_cellAt_6 : decode cX5_cellAt 6 = .ok (.invokestatic 159, 3) := dk_184 0 159 (dk_at dksX5_cellAt_0 6 rfl rfl)
theorem dX5_cellAt_9 : decode cX5_cellAt 9 = .ok (.ifCond .eq 24, 3) := dk_153 0 24 (dk_at dksX5_cellAt_0 9 rfl rfl)
theorem dX5_cellAt_12 : decode cX5_cellAt 12 = .ok (.iload_n 2, 1) := dk_28 (dk_at dksX5_cellAt_0 12 rfl rfl)
theorem dX5_cellAt_13 : decode cX5_cellAt 13 = .ok (.i2l, 1) := dk_133 (dk_at dksX5_cellAt_0 13 rfl rfl)
theorem dX5_cellAt_14 : decode cX5_cellAt 14 = .ok (.lconst 0, 1) := dk_9 (dk_at dksX5_cellAt_0 14 rfl rfl)
theorem dX5_cellAt_15 : decode cX5_cellAt 15 = .ok (.ldc2_w 215, 3) := dk_20 0 215 (dk_at dksX5_cellAt_0 15 rfl rfl)
theorem dX5_cellAt_18 : decode cX5_cellAt 18 = .ok (.invokestatic 159, 3) := dk_184 0 159 (dk_at dksX5_cellAt_0 18 rfl rfl)
theorem dX5_cellAt_21 : decode cX5_cellAt 21 = .ok (.ifCond .eq 12, 3) := dk_153 0 12 (dk_at dksX5_cellAt_0 21 rfl rfl)
theorem dX5_cellAt_24 : decode cX5_cellAt 24 = .ok (.bipush 6, 2) := dk_16 6 (dk_at dksX5_cellAt_1 0 rfl rfl)
theorem dX5_cellAt_26 : decode cX5_cellAt 26 = .ok (.iload_n 2, 1) := dk_28 (dk_at dksX5_cellAt_1 2 rfl rfl)
theorem dX5_cellAt_27 : decode cX5_cellAt 27 = .ok (.imul, 1) := dk_104 (dk_at dksX5_cellAt_1 3 rfl rfl)
theorem dX5_cellAt_28 : decode cX5_cellAt 28 = .ok (.iload_n 1, 1) := dk_27 (dk_at dksX5_cellAt_1 4 rfl rfl)
theorem dX5_cellAt_29 : decode cX5_cellAt 29 = .ok (.iadd, 1) := dk_96 (dk_at dksX5_cellAt_1 5 rfl rfl)
theorem dX5_cellAt_30 : decode cX5_cellAt 30 = .ok (.goto 5, 3) := dk_167 0 5 (dk_at dksX5_cellAt_1 6 rfl rfl)
theorem dX5_cellAt_33 : decode cX5_cellAt 33 = .ok (.bipush 36, 2) := dk_16 36 (dk_at dksX5_cellAt_1 9 rfl rfl)
theorem dX5_cellAt_35 : decode cX5_cellAt 35 = .ok (.ireturn, 1) := dk_172 (dk_at dksX5_cellAt_1 11 rfl rfl)
abbrev cX5_slipWeighs : ByteArray := prog_22_method_67_code
def yX5_slipWeighs : MethodName := ⟨RX5, "slipWeighs", "(IIII)I"⟩
def dkwX5_slipWeighs_4 : List UInt8 := [10, 182, 1, 156, 3, 16, 9, 184, 1, 160, 172]
abbrev dktX5_slipWeighs_4 : List UInt8 := dkwX5_slipWeighs_4 ++ []
def dkwX5_slipWeighs_3 : List UInt8 := [154, 0, 9, 20, 0, 213, 167, 0, 19, 29, 153, 0, 8, 21, 4, 154, 0, 9, 20, 0, 219, 167, 0, 4]
abbrev dktX5_slipWeighs_3 : List UInt8 := dkwX5_slipWeighs_3 ++ dktX5_slipWeighs_4
def dkwX5_slipWeighs_2 : List UInt8 := [8, 29, 133, 80, 42, 180, 0, 116, 16, 6, 21, 4, 133, 80, 42, 3, 29, 154, 0, 14, 21, 4]
abbrev dktX5_slipWeighs_2 : List UInt8 := dkwX5_slipWeighs_2 ++ dktX5_slipWeighs_3
def dkwX5_slipWeighs_1 : List UInt8 := [6, 42, 5, 182, 1, 147, 133, 80, 42, 180, 0, 116, 7, 42, 6, 182, 1, 147, 133, 80, 42, 180, 0, 116]
abbrev dktX5_slipWeighs_1 : List UInt8 := dkwX5_slipWeighs_1 ++ dktX5_slipWeighs_2
def dkwX5_slipWeighs_0 : List UInt8 := [42, 182, 1, 153, 42, 180, 0, 116, 4, 27, 133, 80, 42, 180, 0, 116, 5, 28, 133, 80, 42, 180, 0, 116]
abbrev dktX5_slipWeighs_0 : List UInt8 := dkwX5_slipWeighs_0 ++ dktX5_slipWeighs_1
theorem dksX5_slipWeighs_0 : cX5_slipWeighs.data.toList.drop 0 = dktX5_slipWeighs_0 := by decide +kernel
theorem dksX5_slipWeighs_1 : cX5_slipWeighs.data.toList.drop 24 = dktX5_slipWeighs_1 := dk_seg dksX5_slipWeighs_0 24 rfl rfl
theorem dksX5_slipWeighs_2 : cX5_slipWeighs.data.toList.drop 48 = dktX5_slipWeighs_2 := dk_seg dksX5_slipWeighs_1 24 rfl rfl
theorem dksX5_slipWeighs_3 : cX5_slipWeighs.data.toList.drop 70 = dktX5_slipWeighs_3 := dk_seg dksX5_slipWeighs_2 22 rfl rfl
theorem dksX5_slipWeighs_4 : cX5_slipWeighs.data.toList.drop 94 = dktX5_slipWeighs_4 := dk_seg dksX5_slipWeighs_3 24 rfl rfl
theorem dX5_slipWeighs_0 : decode cX5_slipWeighs 0 = .ok (.aload_n 0, 1) := dk_42 (dk_at dksX5_slipWeighs_0 0 rfl rfl)
theorem dX5_slipWeighs_1 : decode cX5_slipWeighs 1 = .ok (.invokevirtual 409, 3) := dk_182 1 153 (dk_at dksX5_slipWeighs_0 1 rfl rfl)
theorem dX5_slipWeighs_4 : decode cX5_slipWeighs 4 = .ok (.aload_n 0, 1) := dk_42 (dk_at dksX5_slipWeighs_0 4 rfl rfl)
theorem dX5_slipWeighs_5 : decode cX5_slipWeighs 5 = .ok (.getfield 116, 3) := dk_180 0 116 (dk_at dksX5_slipWeighs_0 5 rfl rfl)
theorem dX5_slipWeighs_8 : decode cX5_slipWeighs 8 = .ok (.iconst 1, 1) := dk_4 (dk_at dksX5_slipWeighs_0 8 rfl rfl)
theorem dX5_slipWeighs_9 : decode cX5_slipWeighs 9 = .ok (.iload_n 1, 1) := dk_27 (dk_at dksX5_slipWeighs_0 9 rfl rfl)
theorem dX5_slipWeighs_10 : decode cX5_slipWeighs 10 = .ok (.i2l, 1) := dk_133 (dk_at dksX5_slipWeighs_0 10 rfl rfl)
theorem dX5_slipWeighs_11 : decode cX5_slipWeighs 11 = .ok (.lastore, 1) := dk_80 (dk_at dksX5_slipWeighs_0 11 rfl rfl)
theorem dX5_slipWeighs_12 : decode cX5_slipWeighs 12 = .ok (.aload_n 0, 1) := dk_42 (dk_at dksX5_slipWeighs_0 12 rfl rfl)
theorem dX5_slipWeighs_13 : decode cX5_slipWeighs 13 = .ok (.getfield 116, 3) := dk_180 0 116 (dk_at dksX5_slipWeighs_0 13 rfl rfl)
theorem dX5_slipWeighs_16 : decode cX5_slipWeighs 16 = .ok (.iconst 2, 1) := dk_5 (dk_at dksX5_slipWeighs_0 16 rfl rfl)
theorem dX5_slipWeighs_17 : decode cX5_slipWeighs 17 = .ok (.iload_n 2, 1) := dk_28 (dk_at dksX5_slipWeighs_0 17 rfl rfl)
theorem dX5_slipWeighs_18 : decode cX5_slipWeighs 18 = .ok (.i2l, 1) := dk_133 (dk_at dksX5_slipWeighs_0 18 rfl rfl)
theorem dX5_slipWeighs_19 : decode cX5_slipWeighs 19 = .ok (.lastore, 1) := dk_80 (dk_at dksX5_slipWeighs_0 19 rfl rfl)
theorem dX5_slipWeighs_20 : decode cX5_slipWeighs 20 = .ok (.aload_n 0, 1) := dk_42 (dk_at dksX5_slipWeighs_0 20 rfl rfl)
theorem dX5_slipWeighs_21 : decode cX5_slipWeighs 21 = .ok (.getfield 116, 3) := dk_180 0 116 (dk_at dksX5_slipWeighs_0 21 rfl rfl)
theorem dX5_slipWeighs_24 : decode cX5_slipWeighs 24 = .ok (.iconst 3, 1) := dk_6 (dk_at dksX5_slipWeighs_1 0 rfl rfl)
theorem dX5_slipWeighs_25 : decode cX5_slipWeighs 25 = .ok (.aload_n 0, 1) := dk_42 (dk_at dksX5_slipWeighs_1 1 rfl rfl)
theorem dX5_slipWeighs_26 : decode cX5_slipWeighs 26 = .ok (.iconst 2, 1) := dk_5 (dk_at dksX5_slipWeighs_1 2 rfl rfl)
theorem dX5_slipWeighs_27 : decode cX5_slipWeighs 27 = .ok (.invokevirtual 403, 3) := dk_182 1 147 (dk_at dksX5_slipWeighs_1 3 rfl rfl)
theorem dX5_slipWeighs_30 : decode cX5_slipWeighs 30 = .ok (.i2l, 1) := dk_133 (dk_at dksX5_slipWeighs_1 6 rfl rfl)
theorem dX5_slipWeighs_31 : decode cX5_slipWeighs 31 = .ok (.lastore, 1) := dk_80 (dk_at dksX5_slipWeighs_1 7 rfl rfl)
theorem dX5_slipWeighs_32 : decode cX5_slipWeighs 32 = .ok (.aload_n 0, 1) := dk_42 (dk_at dksX5_slipWeighs_1 8 rfl rfl)
theorem dX5_slipWeighs_33 : decode cX5_slipWeighs 33 = .ok (.getfield 116, 3) := dk_180 0 116 (dk_at dksX5_slipWeighs_1 9 rfl rfl)
theorem dX5_slipWeighs_36 : decode cX5_slipWeighs 36 = .ok (.iconst 4, 1) := dk_7 (dk_at dksX5_slipWeighs_1 12 rfl rfl)
theorem dX5_slipWeighs_37 : decode cX5_slipWeighs 37 = .ok (.aload_n 0, 1) := dk_42 (dk_at dksX5_slipWeighs_1 13 rfl rfl)
theorem dX5_slipWeighs_38 : decode cX5_slipWeighs 38 = .ok (.iconst 3, 1) := dk_6 (dk_at dksX5_slipWeighs_1 14 rfl rfl)
theorem dX5_slipWeighs_39 : decode cX5_slipWeighs 39 = .ok (.invokevirtual 403, 3) := dk_182 1 147 (dk_at dksX5_slipWeighs_1 15 rfl rfl)
theorem dX5_slipWeighs_42 : decode cX5_slipWeighs 42 = .ok (.i2l, 1) := dk_133 (dk_at dksX5_slipWeighs_1 18 rfl rfl)
theorem dX5_slipWeighs_43 : decode cX5_slipWeighs 43 = .ok (.lastore, 1) := dk_80 (dk_at dksX5_slipWeighs_1 19 rfl rfl)
theorem dX5_slipWeighs_44 : decode cX5_slipWeighs 44 = .ok (.aload_n 0, 1) := dk_42 (dk_at dksX5_slipWeighs_1 20 rfl rfl)
theorem dX5_slipWeighs_45 : decode cX5_slipWeighs 45 = .ok (.getfield 116, 3) := dk_180 0 116 (dk_at dksX5_slipWeighs_1 21 rfl rfl)
theorem dX5_slipWeighs_48 : decode cX5_slipWeighs 48 = .ok (.iconst 5, 1) := dk_8 (dk_at dksX5_slipWeighs_2 0 rfl rfl)
theorem dX5_slipWeighs_49 : decode cX5_slipWeighs 49 = .ok (.iload_n 3, 1) := dk_29 (dk_at dksX5_slipWeighs_2 1 rfl rfl)
theorem dX5_slipWeighs_50 : decode cX5_slipWeighs 50 = .ok (.i2l, 1) := dk_133 (dk_at dksX5_slipWeighs_2 2 rfl rfl)
theorem dX5_slipWeighs_51 : decode cX5_slipWeighs 51 = .ok (.lastore, 1) := dk_80 (dk_at dksX5_slipWeighs_2 3 rfl rfl)
theorem dX5_slipWeighs_52 : decode cX5_slipWeighs 52 = .ok (.aload_n 0, 1) := dk_42 (dk_at dksX5_slipWeighs_2 4 rfl rfl)
theorem dX5_slipWeighs_53 : decode cX5_slipWeighs 53 = .ok (.getfield 116, 3) := dk_180 0 116 (dk_at dksX5_slipWeighs_2 5 rfl rfl)
theorem dX5_slipWeighs_56 : decode cX5_slipWeighs 56 = .ok (.bipush 6, 2) := dk_16 6 (dk_at dksX5_slipWeighs_2 8 rfl rfl)
theorem dX5_slipWeighs_58 : decode cX5_slipWeighs 58 = .ok (.iload 4, 2) := dk_21 4 (dk_at dksX5_slipWeighs_2 10 rfl rfl)
theorem dX5_slipWeighs_60 : decode cX5_slipWeighs 60 = .ok (.i2l, 1) := dk_133 (dk_at dksX5_slipWeighs_2 12 rfl rfl)
theorem dX5_slipWeighs_61 : decode cX5_slipWeighs 61 = .ok (.lastore, 1) := dk_80 (dk_at dksX5_slipWeighs_2 13 rfl rfl)
theorem dX5_slipWeighs_62 : decode cX5_slipWeighs 62 = .ok (.aload_n 0, 1) := dk_42 (dk_at dksX5_slipWeighs_2 14 rfl rfl)
theorem dX5_slipWeighs_63 : decode cX5_slipWeighs 63 = .ok (.iconst 0, 1) := dk_3 (dk_at dksX5_slipWeighs_2 15 rfl rfl)
theorem dX5_slipWeighs_64 : decode cX5_slipWeighs 64 = .ok (.iload_n 3, 1) := dk_29 (dk_at dksX5_slipWeighs_2 16 rfl rfl)
theorem dX5_slipWeighs_65 : decode cX5_slipWeighs 65 = .ok (.ifCond .ne 14, 3) := dk_154 0 14 (dk_at dksX5_slipWeighs_2 17 rfl rfl)
theorem dX5_slipWeighs_68 : decode cX5_slipWeighs 68 = .ok (.iload 4, 2) := dk_21 4 (dk_at dksX5_slipWeighs_2 20 rfl rfl)
theorem dX5_slipWeighs_70 : decode cX5_slipWeighs 70 = .ok (.ifCond .ne 9, 3) := dk_154 0 9 (dk_at dksX5_slipWeighs_3 0 rfl rfl)
theorem dX5_slipWeighs_73 : decode cX5_slipWeighs 73 = .ok (.ldc2_w 213, 3) := dk_20 0 213 (dk_at dksX5_slipWeighs_3 3 rfl rfl)
theorem dX5_slipWeighs_76 : decode cX5_slipWeighs 76 = .ok (.goto 19, 3) := dk_167 0 19 (dk_at dksX5_slipWeighs_3 6 rfl rfl)
theorem dX5_slipWeighs_79 : decode cX5_slipWeighs 79 = .ok (.iload_n 3, 1) := dk_29 (dk_at dksX5_slipWeighs_3 9 rfl rfl)
theorem dX5_slipWeighs_80 : decode cX5_slipWeighs 80 = .ok (.ifCond .eq 8, 3) := dk_153 0 8 (dk_at dksX5_slipWeighs_3 10 rfl rfl)
theorem dX5_slipWeighs_83 : decode cX5_slipWeighs 83 = .ok (.iload 4, 2) := dk_21 4 (dk_at dksX5_slipWeighs_3 13 rfl rfl)
theorem dX5_slipWeighs_85 : decode cX5_slipWeighs 85 = .ok (.ifCond .ne 9, 3) := dk_154 0 9 (dk_at dksX5_slipWeighs_3 15 rfl rfl)
theorem dX5_slipWeighs_88 : decode cX5_slipWeighs 88 = .ok (.ldc2_w 219, 3) := dk_20 0 219 (dk_at dksX5_slipWeighs_3 18 rfl rfl)
theorem dX5_slipWeighs_91 : decode cX5_slipWeighs 91 = .ok (.goto 4, 3) := dk_167 0 4 (dk_at dksX5_slipWeighs_3 21 rfl rfl)
theorem dX5_slipWeighs_94 : decode cX5_slipWeighs 94 = .ok (.lconst 1, 1) := dk_10 (dk_at dksX5_slipWeighs_4 0 rfl rfl)
theorem dX5_slipWeighs_95 : decode cX5_slipWeighs 95 = .ok (.invokevirtual 412, 3) := dk_182 1 156 (dk_at dksX5_slipWeighs_4 1 rfl rfl)
theorem dX5_slipWeighs_98 : decode cX5_slipWeighs 98 = .ok (.iconst 0, 1) := dk_3 (dk_at dksX5_slipWeighs_4 4 rfl rfl)
theorem dX5_slipWeighs_99 : decode cX5_slipWeighs 99 = .ok (.bipush 9, 2) := dk_16 9 (dk_at dksX5_slipWeighs_4 5 rfl rfl)
theorem dX5_slipWeighs_101 : decode cX5_slipWeighs 101 = .ok (.invokestatic 416, 3) := dk_184 1 160 (dk_at dksX5_slipWeighs_4 7 rfl rfl)
theorem dX5_slipWeighs_104 : decode cX5_slipWeighs 104 = .ok (.ireturn, 1) := dk_172 (dk_at dksX5_slipWeighs_4 10 rfl rfl)
abbrev cX5_shorten : ByteArray := prog_22_method_77_code
def yX5_shorten : MethodName := ⟨RX5, "shorten", "(JJ)V"⟩
def dkwX5_shorten_1 : List UInt8 := [22, 9, 55, 7, 167, 255, 234, 42, 31, 22, 5, 109, 181, 1, 192, 42, 33, 22, 5, 109, 181, 1, 195, 177]
abbrev dktX5_shorten_1 : List UInt8 := dkwX5_shorten_1 ++ []
def dkwX5_shorten_0 : List UInt8 := [31, 55, 5, 33, 55, 7, 22, 7, 9, 148, 153, 0, 21, 22, 5, 22, 7, 113, 55, 9, 22, 7, 55, 5]
abbrev dktX5_shorten_0 : List UInt8 := dkwX5_shorten_0 ++ dktX5_shorten_1
theorem dksX5_shorten_0 : cX5_shorten.data.toList.drop 0 = dktX5_shorten_0 := by decide +kernel
theorem dksX5_shorten_1 : cX5_shorten.data.toList.drop 24 = dktX5_shorten_1 := dk_seg dksX5_shorten_0 24 rfl rfl
theorem dX5_shorten_0 : decode cX5_shorten 0 = .ok (.lload_n 1, 1) := dk_31 (dk_at dksX5_shorten_0 0 rfl rfl)
theorem dX5_shorten_1 : decode cX5_shorten 1 = .ok (.lstore 5, 2) := dk_55 5 (dk_at dksX5_shorten_0 1 rfl rfl)
theorem dX5_shorten_3 : decode cX5_shorten 3 = .ok (.lload_n 3, 1) := dk_33 (dk_at dksX5_shorten_0 3 rfl rfl)
theorem dX5_shorten_4 : decode cX5_shorten 4 = .ok (.lstore 7, 2) := dk_55 7 (dk_at dksX5_shorten_0 4 rfl rfl)
theorem dX5_shorten_6 : decode cX5_shorten 6 = .ok (.lload 7, 2) := dk_22 7 (dk_at dksX5_shorten_0 6 rfl rfl)
theorem dX5_shorten_8 : decode cX5_shorten 8 = .ok (.lconst 0, 1) := dk_9 (dk_at dksX5_shorten_0 8 rfl rfl)
theorem dX5_shorten_9 : decode cX5_shorten 9 = .ok (.lcmp, 1) := dk_148 (dk_at dksX5_shorten_0 9 rfl rfl)
theorem dX5_shorten_10 : decode cX5_shorten 10 = .ok (.ifCond .eq 21, 3) := dk_153 0 21 (dk_at dksX5_shorten_0 10 rfl rfl)
theorem dX5_shorten_13 : decode cX5_shorten 13 = .ok (.lload 5, 2) := dk_22 5 (dk_at dksX5_shorten_0 13 rfl rfl)
theorem dX5_shorten_15 : decode cX5_shorten 15 = .ok (.lload 7, 2) := dk_22 7 (dk_at dksX5_shorten_0 15 rfl rfl)
theorem dX5_shorten_17 : decode cX5_shorten 17 = .ok (.lrem, 1) := dk_113 (dk_at dksX5_shorten_0 17 rfl rfl)
theorem dX5_shorten_18 : decode cX5_shorten 18 = .ok (.lstore 9, 2) := dk_55 9 (dk_at dksX5_shorten_0 18 rfl rfl)
theorem dX5_shorten_20 : decode cX5_shorten 20 = .ok (.lload 7, 2) := dk_22 7 (dk_at dksX5_shorten_0 20 rfl rfl)
theorem dX5_shorten_22 : decode cX5_shorten 22 = .ok (.lstore 5, 2) := dk_55 5 (dk_at dksX5_shorten_0 22 rfl rfl)
theorem dX5_shorten_24 : decode cX5_shorten 24 = .ok (.lload 9, 2) := dk_22 9 (dk_at dksX5_shorten_1 0 rfl rfl)
theorem dX5_shorten_26 : decode cX5_shorten 26 = .ok (.lstore 7, 2) := dk_55 7 (dk_at dksX5_shorten_1 2 rfl rfl)
theorem dX5_shorten_28 : decode cX5_shorten 28 = .ok (.goto (-22), 3) := dk_167 255 234 (dk_at dksX5_shorten_1 4 rfl rfl)
theorem dX5_shorten_31 : decode cX5_shorten 31 = .ok (.aload_n 0, 1) := dk_42 (dk_at dksX5_shorten_1 7 rfl rfl)
theorem dX5_shorten_32 : decode cX5_shorten 32 = .ok (.lload_n 1, 1) := dk_31 (dk_at dksX5_shorten_1 8 rfl rfl)
theorem dX5_shorten_33 : decode cX5_shorten 33 = .ok (.lload 5, 2) := dk_22 5 (dk_at dksX5_shorten_1 9 rfl rfl)
theorem dX5_shorten_35 : decode cX5_shorten 35 = .ok (.ldiv, 1) := dk_109 (dk_at dksX5_shorten_1 11 rfl rfl)
theorem dX5_shorten_36 : decode cX5_shorten 36 = .ok (.putfield 448, 3) := dk_181 1 192 (dk_at dksX5_shorten_1 12 rfl rfl)
theorem dX5_shorten_39 : decode cX5_shorten 39 = .ok (.aload_n 0, 1) := dk_42 (dk_at dksX5_shorten_1 15 rfl rfl)
theorem dX5_shorten_40 : decode cX5_shorten 40 = .ok (.lload_n 3, 1) := dk_33 (dk_at dksX5_shorten_1 16 rfl rfl)
theorem dX5_shorten_41 : decode cX5_shorten 41 = .ok (.lload 5, 2) := dk_22 5 (dk_at dksX5_shorten_1 17 rfl rfl)
theorem dX5_shorten_43 : decode cX5_shorten 43 = .ok (.ldiv, 1) := dk_109 (dk_at dksX5_shorten_1 19 rfl rfl)
theorem dX5_shorten_44 : decode cX5_shorten 44 = .ok (.putfield 451, 3) := dk_181 1 195 (dk_at dksX5_shorten_1 20 rfl rfl)
theorem dX5_shorten_47 : decode cX5_shorten 47 = .ok (.return_, 1) := dk_177 (dk_at dksX5_shorten_1 23 rfl rfl)
abbrev cX5_has : ByteArray := prog_22_method_83_code
def yX5_has : MethodName := ⟨RX5, "has", "(II)J"⟩
def dkwX5_has_3 : List UInt8 := [154, 0, 10, 42, 180, 1, 192, 167, 0, 7, 42, 180, 1, 195, 173]
abbrev dktX5_has_3 : List UInt8 := dkwX5_has_3 ++ []
def dkwX5_has_2 : List UInt8 := [2, 160, 0, 8, 16, 6, 167, 0, 4, 27, 46, 133, 16, 60, 42, 180, 1, 180, 104, 133, 182, 1, 201, 28]
abbrev dktX5_has_2 : List UInt8 := dkwX5_has_2 ++ dktX5_has_3
def dkwX5_has_1 : List UInt8 := [184, 0, 159, 154, 0, 7, 20, 0, 221, 173, 42, 182, 1, 198, 42, 182, 1, 223, 42, 42, 180, 0, 137, 27]
abbrev dktX5_has_1 : List UInt8 := dkwX5_has_1 ++ dktX5_has_2
def dkwX5_has_0 : List UInt8 := [42, 3, 181, 0, 149, 27, 2, 159, 0, 11, 42, 27, 182, 0, 207, 153, 0, 13, 28, 133, 9, 10]
abbrev dktX5_has_0 : List UInt8 := dkwX5_has_0 ++ dktX5_has_1
theorem dksX5_has_0 : cX5_has.data.toList.drop 0 = dktX5_has_0 := by decide +kernel
theorem dksX5_has_1 : cX5_has.data.toList.drop 22 = dktX5_has_1 := dk_seg dksX5_has_0 22 rfl rfl
theorem dksX5_has_2 : cX5_has.data.toList.drop 46 = dktX5_has_2 := dk_seg dksX5_has_1 24 rfl rfl
theorem dksX5_has_3 : cX5_has.data.toList.drop 70 = dktX5_has_3 := dk_seg dksX5_has_2 24 rfl rfl
theorem dX5_has_0 : decode cX5_has 0 = .ok (.aload_n 0, 1) := dk_42 (dk_at dksX5_has_0 0 rfl rfl)
theorem dX5_has_1 : decode cX5_has 1 = .ok (.iconst 0, 1) := dk_3 (dk_at dksX5_has_0 1 rfl rfl)
theorem dX5_has_2 : decode cX5_has 2 = .ok (.putfield 149, 3) := dk_181 0 149 (dk_at dksX5_has_0 2 rfl rfl)
theorem dX5_has_5 : decode cX5_has 5 = .ok (.iload_n 1, 1) := dk_27 (dk_at dksX5_has_0 5 rfl rfl)
theorem dX5_has_6 : decode cX5_has 6 = .ok (.iconst (-1), 1) := dk_2 (dk_at dksX5_has_0 6 rfl rfl)
theorem dX5_has_7 : decode cX5_has 7 = .ok (.if_icmp .eq 11, 3) := dk_159 0 11 (dk_at dksX5_has_0 7 rfl rfl)
theorem dX5_has_10 : decode cX5_has 10 = .ok (.aload_n 0, 1) := dk_42 (dk_at dksX5_has_0 10 rfl rfl)
theorem dX5_has_11 : decode cX5_has 11 = .ok (.iload_n 1, 1) := dk_27 (dk_at dksX5_has_0 11 rfl rfl)
theorem dX5_has_12 : decode cX5_has 12 = .ok (.invokevirtual 207, 3) := dk_182 0 207 (dk_at dksX5_has_0 12 rfl rfl)
theorem dX5_has_15 : decode cX5_has 15 = .ok (.ifCond .eq 13, 3) := dk_153 0 13 (dk_at dksX5_has_0 15 rfl rfl)
theorem dX5_has_18 : decode cX5_has 18 = .ok (.iload_n 2, 1) := dk_28 (dk_at dksX5_has_0 18 rfl rfl)
theorem dX5_has_19 : decode cX5_has 19 = .ok (.i2l, 1) := dk_133 (dk_at dksX5_has_0 19 rfl rfl)
theorem dX5_has_20 : decode cX5_has 20 = .ok (.lconst 0, 1) := dk_9 (dk_at dksX5_has_0 20 rfl rfl)
theorem dX5_has_21 : decode cX5_has 21 = .ok (.lconst 1, 1) := dk_10 (dk_at dksX5_has_0 21 rfl rfl)
theorem dX5_has_22 : decode cX5_has 22 = .ok (.invokestatic 159, 3) := dk_184 0 159 (dk_at dksX5_has_1 0 rfl rfl)
theorem dX5_has_25 : decode cX5_has 25 = .ok (.ifCond .ne 7, 3) := dk_154 0 7 (dk_at dksX5_has_1 3 rfl rfl)
theorem dX5_has_28 : decode cX5_has 28 = .ok (.ldc2_w 221, 3) := dk_20 0 221 (dk_at dksX5_has_1 6 rfl rfl)
theorem dX5_has_31 : decode cX5_has 31 = .ok (.lreturn, 1) := dk_173 (dk_at dksX5_has_1 9 rfl rfl)
theorem dX5_has_32 : decode cX5_has 32 = .ok (.aload_n 0, 1) := dk_42 (dk_at dksX5_has_1 10 rfl rfl)
theorem dX5_has_33 : decode cX5_has 33 = .ok (.invokevirtual 454, 3) := dk_182 1 198 (dk_at dksX5_has_1 11 rfl rfl)
theorem dX5_has_36 : decode cX5_has 36 = .ok (.aload_n 0, 1) := dk_42 (dk_at dksX5_has_1 14 rfl rfl)
theorem dX5_has_37 : decode cX5_has 37 = .ok (.invokevirtual 479, 3) := dk_182 1 223 (dk_at dksX5_has_1 15 rfl rfl)
theorem dX5_has_40 : decode cX5_has 40 = .ok (.aload_n 0, 1) := dk_42 (dk_at dksX5_has_1 18 rfl rfl)
theorem dX5_has_41 : decode cX5_has 41 = .ok (.aload_n 0, 1) := dk_42 (dk_at dksX5_has_1 19 rfl rfl)
theorem dX5_has_42 : decode cX5_has 42 = .ok (.getfield 137, 3) := dk_180 0 137 (dk_at dksX5_has_1 20 rfl rfl)
theorem dX5_has_45 : decode cX5_has 45 = .ok (.iload_n 1, 1) := dk_27 (dk_at dksX5_has_1 23 rfl rfl)
theorem dX5_has_46 : decode cX5_has 46 = .ok (.iconst (-1), 1) := dk_2 (dk_at dksX5_has_2 0 rfl rfl)
theorem dX5_has_47 : decode cX5_has 47 = .ok (.if_icmp .ne 8, 3) := dk_160 0 8 (dk_at dksX5_has_2 1 rfl rfl)
theorem dX5_has_50 : decode cX5_has 50 = .ok (.bipush 6, 2) := dk_16 6 (dk_at dksX5_has_2 4 rfl rfl)
theorem dX5_has_52 : decode cX5_has 52 = .ok (.goto 4, 3) := dk_167 0 4 (dk_at dksX5_has_2 6 rfl rfl)
theorem dX5_has_55 : decode cX5_has 55 = .ok (.iload_n 1, 1) := dk_27 (dk_at dksX5_has_2 9 rfl rfl)
theorem dX5_has_56 : decode cX5_has 56 = .ok (.iaload, 1) := dk_46 (dk_at dksX5_has_2 10 rfl rfl)
theorem dX5_has_57 : decode cX5_has 57 = .ok (.i2l, 1) := dk_133 (dk_at dksX5_has_2 11 rfl rfl)
theorem dX5_has_58 : decode cX5_has 58 = .ok (.bipush 60, 2) := dk_16 60 (dk_at dksX5_has_2 12 rfl rfl)
theorem dX5_has_60 : decode cX5_has 60 = .ok (.aload_n 0, 1) := dk_42 (dk_at dksX5_has_2 14 rfl rfl)
theorem dX5_has_61 : decode cX5_has 61 = .ok (.getfield 436, 3) := dk_180 1 180 (dk_at dksX5_has_2 15 rfl rfl)
theorem dX5_has_64 : decode cX5_has 64 = .ok (.imul, 1) := dk_104 (dk_at dksX5_has_2 18 rfl rfl)
theorem dX5_has_65 : decode cX5_has 65 = .ok (.i2l, 1) := dk_133 (dk_at dksX5_has_2 19 rfl rfl)
theorem dX5_has_66 : decode cX5_has 66 = .ok (.invokevirtual 457, 3) := dk_182 1 201 (dk_at dksX5_has_2 20 rfl rfl)
theorem dX5_has_69 : decode cX5_has 69 = .ok (.iload_n 2, 1) := dk_28 (dk_at dksX5_has_2 23 rfl rfl)
theorem dX5_has_70 : decode cX5_has 70 = .ok (.ifCond .ne 10, 3) := dk_154 0 10 (dk_at dksX5_has_3 0 rfl rfl)
theorem dX5_has_73 : decode cX5_has 73 = .ok (.aload_n 0, 1) := dk_42 (dk_at dksX5_has_3 3 rfl rfl)
theorem dX5_has_74 : decode cX5_has 74 = .ok (.getfield 448, 3) := dk_180 1 192 (dk_at dksX5_has_3 4 rfl rfl)
theorem dX5_has_77 : decode cX5_has 77 = .ok (.goto 7, 3) := dk_167 0 7 (dk_at dksX5_has_3 7 rfl rfl)
theorem dX5_has_80 : decode cX5_has 80 = .ok (.aload_n 0, 1) := dk_42 (dk_at dksX5_has_3 10 rfl rfl)
theorem dX5_has_81 : decode cX5_has 81 = .ok (.getfield 451, 3) := dk_180 1 195 (dk_at dksX5_has_3 11 rfl rfl)
theorem dX5_has_84 : decode cX5_has 84 = .ok (.lreturn, 1) := dk_173 (dk_at dksX5_has_3 14 rfl rfl)
abbrev cX5_findAll : ByteArray := prog_22_method_82_code
def yX5_findAll : MethodName := ⟨RX5, "findAll", "()V"⟩
def dkwX5_findAll_0 : List UInt8 := [42, 42, 180, 0, 13, 3, 46, 182, 1, 220, 177]
abbrev dktX5_findAll_0 : List UInt8 := dkwX5_findAll_0 ++ []
theorem dksX5_findAll_0 : cX5_findAll.data.toList.drop 0 = dktX5_findAll_0 := by decide +kernel
theorem dX5_findAll_0 : decode cX5_findAll 0 = .ok (.aload_n 0, 1) := dk_42 (dk_at dksX5_findAll_0 0 rfl rfl)
theorem dX5_findAll_1 : decode cX5_findAll 1 = .ok (.aload_n 0, 1) := dk_42 (dk_at dksX5_findAll_0 1 rfl rfl)
theorem dX5_findAll_2 : decode cX5_findAll 2 = .ok (.getfield 13, 3) := dk_180 0 13 (dk_at dksX5_findAll_0 2 rfl rfl)
theorem dX5_findAll_5 : decode cX5_findAll 5 = .ok (.iconst 0, 1) := dk_3 (dk_at dksX5_findAll_0 5 rfl rfl)
theorem dX5_findAll_6 : decode cX5_findAll 6 = .ok (.iaload, 1) := dk_46 (dk_at dksX5_findAll_0 6 rfl rfl)
theorem dX5_findAll_7 : decode cX5_findAll 7 = .ok (.invokevirtual 476, 3) := dk_182 1 220 (dk_at dksX5_findAll_0 7 rfl rfl)
theorem dX5_findAll_10 : decode cX5_findAll 10 = .ok (.return_, 1) := dk_177 (dk_at dksX5_findAll_0 10 rfl rfl)
abbrev cX5_findParts : ByteArray := prog_22_method_81_code
def yX5_findParts : MethodName := ⟨RX5, "findParts", "(I)V"⟩
def dkwX5_findParts_5 : List UInt8 := [167, 0, 4, 3, 96, 79, 132, 3, 1, 167, 255, 211, 132, 2, 1, 167, 255, 153, 177]
abbrev dktX5_findParts_5 : List UInt8 := dkwX5_findParts_5 ++ []
def dkwX5_findParts_4 : List UInt8 := [42, 180, 0, 134, 29, 51, 153, 0, 20, 16, 60, 42, 180, 1, 208, 108, 42, 180, 0, 125, 28, 46, 104]
abbrev dktX5_findParts_4 : List UInt8 := dkwX5_findParts_4 ++ dktX5_findParts_5
def dkwX5_findParts_3 : List UInt8 := [28, 46, 104, 167, 0, 4, 3, 96, 79, 3, 62, 29, 16, 6, 162, 0, 45, 42, 180, 0, 137, 29, 92, 46]
abbrev dktX5_findParts_3 : List UInt8 := dkwX5_findParts_3 ++ dktX5_findParts_4
def dkwX5_findParts_2 : List UInt8 := [182, 1, 217, 42, 180, 0, 137, 16, 6, 92, 46, 42, 180, 1, 208, 154, 0, 15, 16, 60, 42, 180, 0, 125]
abbrev dktX5_findParts_2 : List UInt8 := dkwX5_findParts_2 ++ dktX5_findParts_3
def dkwX5_findParts_1 : List UInt8 := [167, 255, 240, 3, 61, 28, 16, 37, 162, 0, 103, 42, 180, 0, 125, 28, 46, 158, 0, 88, 42, 28]
abbrev dktX5_findParts_1 : List UInt8 := dkwX5_findParts_1 ++ dktX5_findParts_2
def dkwX5_findParts_0 : List UInt8 := [42, 27, 181, 1, 211, 3, 61, 28, 16, 7, 162, 0, 16, 42, 180, 0, 137, 28, 3, 79, 132, 2, 1]
abbrev dktX5_findParts_0 : List UInt8 := dkwX5_findParts_0 ++ dktX5_findParts_1
theorem dksX5_findParts_0 : cX5_findParts.data.toList.drop 0 = dktX5_findParts_0 := by decide +kernel
theorem dksX5_findParts_1 : cX5_findParts.data.toList.drop 23 = dktX5_findParts_1 := dk_seg dksX5_findParts_0 23 rfl rfl
theorem dksX5_findParts_2 : cX5_findParts.data.toList.drop 45 = dktX5_findParts_2 := dk_seg dksX5_findParts_1 22 rfl rfl
theorem dksX5_findParts_3 : cX5_findParts.data.toList.drop 69 = dktX5_findParts_3 := dk_seg dksX5_findParts_2 24 rfl rfl
theorem dksX5_findParts_4 : cX5_findParts.data.toList.drop 93 = dktX5_findParts_4 := dk_seg dksX5_findParts_3 24 rfl rfl
theorem dksX5_findParts_5 : cX5_findParts.data.toList.drop 116 = dktX5_findParts_5 := dk_seg dksX5_findParts_4 23 rfl rfl
theorem dX5_findParts_0 : decode cX5_findParts 0 = .ok (.aload_n 0, 1) := dk_42 (dk_at dksX5_findParts_0 0 rfl rfl)
theorem dX5_findParts_1 : decode cX5_findParts 1 = .ok (.iload_n 1, 1) := dk_27 (dk_at dksX5_findParts_0 1 rfl rfl)
theorem dX5_findParts_2 : decode cX5_findParts 2 = .ok (.putfield 467, 3) := dk_181 1 211 (dk_at dksX5_findParts_0 2 rfl rfl)
theorem dX5_findParts_5 : decode cX5_findParts 5 = .ok (.iconst 0, 1) := dk_3 (dk_at dksX5_findParts_0 5 rfl rfl)
theorem dX5_findParts_6 : decode cX5_findParts 6 = .ok (.istore_n 2, 1) := dk_61 (dk_at dksX5_findParts_0 6 rfl rfl)
theorem dX5_findParts_7 : decode cX5_findParts 7 = .ok (.iload_n 2, 1) := dk_28 (dk_at dksX5_findParts_0 7 rfl rfl)
theorem dX5_findParts_8 : decode cX5_findParts 8 = .ok (.bipush 7, 2) := dk_16 7 (dk_at dksX5_findParts_0 8 rfl rfl)
theorem dX5_findParts_10 : decode cX5_findParts 10 = .ok (.if_icmp .ge 16, 3) := dk_162 0 16 (dk_at dksX5_findParts_0 10 rfl rfl)
theorem dX5_findParts_13 : decode cX5_findParts 13 = .ok (.aload_n 0, 1) := dk_42 (dk_at dksX5_findParts_0 13 rfl rfl)
theorem dX5_findParts_14 : decode cX5_findParts 14 = .ok (.getfield 137, 3) := dk_180 0 137 (dk_at dksX5_findParts_0 14 rfl rfl)
theorem dX5_findParts_17 : decode cX5_findParts 17 = .ok (.iload_n 2, 1) := dk_28 (dk_at dksX5_findParts_0 17 rfl rfl)
theorem dX5_findParts_18 : decode cX5_findParts 18 = .ok (.iconst 0, 1) := dk_3 (dk_at dksX5_findParts_0 18 rfl rfl)
theorem dX5_findParts_19 : decode cX5_findParts 19 = .ok (.iastore, 1) := dk_79 (dk_at dksX5_findParts_0 19 rfl rfl)
theorem dX5_findParts_20 : decode cX5_findParts 20 = .ok (.iinc 2 1, 3) := dk_132 2 1 (dk_at dksX5_findParts_0 20 rfl rfl)
theorem dX5_findParts_23 : decode cX5_findParts 23 = .ok (.goto (-16), 3) := dk_167 255 240 (dk_at dksX5_findParts_1 0 rfl rfl)
theorem dX5_findParts_26 : decode cX5_findParts 26 = .ok (.iconst 0, 1) := dk_3 (dk_at dksX5_findParts_1 3 rfl rfl)
theorem dX5_findParts_27 : decode cX5_findParts 27 = .ok (.istore_n 2, 1) := dk_61 (dk_at dksX5_findParts_1 4 rfl rfl)
theorem dX5_findParts_28 : decode cX5_findParts 28 = .ok (.iload_n 2, 1) := dk_28 (dk_at dksX5_findParts_1 5 rfl rfl)
theorem dX5_findParts_29 : decode cX5_findParts 29 = .ok (.bipush 37, 2) := dk_16 37 (dk_at dksX5_findParts_1 6 rfl rfl)
theorem dX5_findParts_31 : decode cX5_findParts 31 = .ok (.if_icmp .ge 103, 3) := dk_162 0 103 (dk_at dksX5_findParts_1 8 rfl rfl)
theorem dX5_findParts_34 : decode cX5_findParts 34 = .ok (.aload_n 0, 1) := dk_42 (dk_at dksX5_findParts_1 11 rfl rfl)
theorem dX5_findParts_35 : decode cX5_findParts 35 = .ok (.getfield 125, 3) := dk_180 0 125 (dk_at dksX5_findParts_1 12 rfl rfl)
theorem dX5_findParts_38 : decode cX5_findParts 38 = .ok (.iload_n 2, 1) := dk_28 (dk_at dksX5_findParts_1 15 rfl rfl)
theorem dX5_findParts_39 : decode cX5_findParts 39 = .ok (.iaload, 1) := dk_46 (dk_at dksX5_findParts_1 16 rfl rfl)
theorem dX5_findParts_40 : decode cX5_findParts 40 = .ok (.ifCond .le 88, 3) := dk_158 0 88 (dk_at dksX5_findParts_1 17 rfl rfl)
theorem dX5_findParts_43 : decode cX5_findParts 43 = .ok (.aload_n 0, 1) := dk_42 (dk_at dksX5_findParts_1 20 rfl rfl)
theorem dX5_findParts_44 : decode cX5_findParts 44 = .ok (.iload_n 2, 1) := dk_28 (dk_at dksX5_findParts_1 21 rfl rfl)
theorem dX5_findParts_45 : decode cX5_findParts 45 = .ok (.invokevirtual 473, 3) := dk_182 1 217 (dk_at dksX5_findParts_2 0 rfl rfl)
theorem dX5_findParts_48 : decode cX5_findParts 48 = .ok (.aload_n 0, 1) := dk_42 (dk_at dksX5_findParts_2 3 rfl rfl)
theorem dX5_findParts_49 : decode cX5_findParts 49 = .ok (.getfield 137, 3) := dk_180 0 137 (dk_at dksX5_findParts_2 4 rfl rfl)
theorem dX5_findParts_52 : decode cX5_findParts 52 = .ok (.bipush 6, 2) := dk_16 6 (dk_at dksX5_findParts_2 7 rfl rfl)
theorem dX5_findParts_54 : decode cX5_findParts 54 = .ok (.dup2, 1) := dk_92 (dk_at dksX5_findParts_2 9 rfl rfl)
theorem dX5_findParts_55 : decode cX5_findParts 55 = .ok (.iaload, 1) := dk_46 (dk_at dksX5_findParts_2 10 rfl rfl)
theorem dX5_findParts_56 : decode cX5_findParts 56 = .ok (.aload_n 0, 1) := dk_42 (dk_at dksX5_findParts_2 11 rfl rfl)
theorem dX5_findParts_57 : decode cX5_findParts 57 = .ok (.getfield 464, 3) := dk_180 1 208 (dk_at dksX5_findParts_2 12 rfl rfl)
theorem dX5_findParts_60 : decode cX5_findParts 60 = .ok (.ifCond .ne 15, 3) := dk_154 0 15 (dk_at dksX5_findParts_2 15 rfl rfl)
theorem dX5_findParts_63 : decode cX5_findParts 63 = .ok (.bipush 60, 2) := dk_16 60 (dk_at dksX5_findParts_2 18 rfl rfl)
theorem dX5_findParts_65 : decode cX5_findParts 65 = .ok (.aload_n 0, 1) := dk_42 (dk_at dksX5_findParts_2 20 rfl rfl)
theorem dX5_findParts_66 : decode cX5_findParts 66 = .ok (.getfield 125, 3) := dk_180 0 125 (dk_at dksX5_findParts_2 21 rfl rfl)
theorem dX5_findParts_69 : decode cX5_findParts 69 = .ok (.iload_n 2, 1) := dk_28 (dk_at dksX5_findParts_3 0 rfl rfl)
theorem dX5_findParts_70 : decode cX5_findParts 70 = .ok (.iaload, 1) := dk_46 (dk_at dksX5_findParts_3 1 rfl rfl)
theorem dX5_findParts_71 : decode cX5_findParts 71 = .ok (.imul, 1) := dk_104 (dk_at dksX5_findParts_3 2 rfl rfl)
theorem dX5_findParts_72 : decode cX5_findParts 72 = .ok (.goto 4, 3) := dk_167 0 4 (dk_at dksX5_findParts_3 3 rfl rfl)
theorem dX5_findParts_75 : decode cX5_findParts 75 = .ok (.iconst 0, 1) := dk_3 (dk_at dksX5_findParts_3 6 rfl rfl)
theorem dX5_findParts_76 : decode cX5_findParts 76 = .ok (.iadd, 1) := dk_96 (dk_at dksX5_findParts_3 7 rfl rfl)
theorem dX5_findParts_77 : decode cX5_findParts 77 = .ok (.iastore, 1) := dk_79 (dk_at dksX5_findParts_3 8 rfl rfl)
theorem dX5_findParts_78 : decode cX5_findParts 78 = .ok (.iconst 0, 1) := dk_3 (dk_at dksX5_findParts_3 9 rfl rfl)
theorem dX5_findParts_79 : decode cX5_findParts 79 = .ok (.istore_n 3, 1) := dk_62 (dk_at dksX5_findParts_3 10 rfl rfl)
theorem dX5_findParts_80 : decode cX5_findParts 80 = .ok (.iload_n 3, 1) := dk_29 (dk_at dksX5_findParts_3 11 rfl rfl)
theorem dX5_findParts_81 : decode cX5_findParts 81 = .ok (.bipush 6, 2) := dk_16 6 (dk_at dksX5_findParts_3 12 rfl rfl)
theorem dX5_findParts_83 : decode cX5_findParts 83 = .ok (.if_icmp .ge 45, 3) := dk_162 0 45 (dk_at dksX5_findParts_3 14 rfl rfl)
theorem dX5_findParts_86 : decode cX5_findParts 86 = .ok (.aload_n 0, 1) := dk_42 (dk_at dksX5_findParts_3 17 rfl rfl)
theorem dX5_findParts_87 : decode cX5_findParts 87 = .ok (.getfield 137, 3) := dk_180 0 137 (dk_at dksX5_findParts_3 18 rfl rfl)
theorem dX5_findParts_90 : decode cX5_findParts 90 = .ok (.iload_n 3, 1) := dk_29 (dk_at dksX5_findParts_3 21 rfl rfl)
theorem dX5_findParts_91 : decode cX5_findParts 91 = .ok (.dup2, 1) := dk_92 (dk_at dksX5_findParts_3 22 rfl rfl)
theorem dX5_findParts_92 : decode cX5_findParts 92 = .ok (.iaload, 1) := dk_46 (dk_at dksX5_findParts_3 23 rfl rfl)
theorem dX5_findParts_93 : decode cX5_findParts 93 = .ok (.aload_n 0, 1) := dk_42 (dk_at dksX5_findParts_4 0 rfl rfl)
theorem dX5_findParts_94 : decode cX5_findParts 94 = .ok (.getfield 134, 3) := dk_180 0 134 (dk_at dksX5_findParts_4 1 rfl rfl)
theorem dX5_findParts_97 : decode cX5_findParts 97 = .ok (.iload_n 3, 1) := dk_29 (dk_at dksX5_findParts_4 4 rfl rfl)
theorem dX5_findParts_98 : decode cX5_findParts 98 = .ok (.baload, 1) := dk_51 (dk_at dksX5_findParts_4 5 rfl rfl)
theorem dX5_findParts_99 : decode cX5_findParts 99 = .ok (.ifCond .eq 20, 3) := dk_153 0 20 (dk_at dksX5_findParts_4 6 rfl rfl)
theorem dX5_findParts_102 : decode cX5_findParts 102 = .ok (.bipush 60, 2) := dk_16 60 (dk_at dksX5_findParts_4 9 rfl rfl)
theorem dX5_findParts_104 : decode cX5_findParts 104 = .ok (.aload_n 0, 1) := dk_42 (dk_at dksX5_findParts_4 11 rfl rfl)
theorem dX5_findParts_105 : decode cX5_findParts 105 = .ok (.getfield 464, 3) := dk_180 1 208 (dk_at dksX5_findParts_4 12 rfl rfl)
theorem dX5_findParts_108 : decode cX5_findParts 108 = .ok (.idiv, 1) := dk_108 (dk_at dksX5_findParts_4 15 rfl rfl)
theorem dX5_findParts_109 : decode cX5_findParts 109 = .ok (.aload_n 0, 1) := dk_42 (dk_at dksX5_findParts_4 16 rfl rfl)
theorem dX5_findParts_110 : decode cX5_findParts 110 = .ok (.getfield 125, 3) := dk_180 0 125 (dk_at dksX5_findParts_4 17 rfl rfl)
theorem dX5_findParts_113 : decode cX5_findParts 113 = .ok (.iload_n 2, 1) := dk_28 (dk_at dksX5_findParts_4 20 rfl rfl)
theorem dX5_findParts_114 : decode cX5_findParts 114 = .ok (.iaload, 1) := dk_46 (dk_at dksX5_findParts_4 21 rfl rfl)
theorem dX5_findParts_115 : decode cX5_findParts 115 = .ok (.imul, 1) := dk_104 (dk_at dksX5_findParts_4 22 rfl rfl)
theorem dX5_findParts_116 : decode cX5_findParts 116 = .ok (.goto 4, 3) := dk_167 0 4 (dk_at dksX5_findParts_5 0 rfl rfl)
theorem dX5_findParts_119 : decode cX5_findParts 119 = .ok (.iconst 0, 1) := dk_3 (dk_at dksX5_findParts_5 3 rfl rfl)
theorem dX5_findParts_120 : decode cX5_findParts 120 = .ok (.iadd, 1) := dk_96 (dk_at dksX5_findParts_5 4 rfl rfl)
theorem dX5_findParts_121 : decode cX5_findParts 121 = .ok (.iastore, 1) := dk_79 (dk_at dksX5_findParts_5 5 rfl rfl)
theorem dX5_findParts_122 : decode cX5_findParts 122 = .ok (.iinc 3 1, 3) := dk_132 3 1 (dk_at dksX5_findParts_5 6 rfl rfl)
theorem dX5_findParts_125 : decode cX5_findParts 125 = .ok (.goto (-45), 3) := dk_167 255 211 (dk_at dksX5_findParts_5 9 rfl rfl)
theorem dX5_findParts_128 : decode cX5_findParts 128 = .ok (.iinc 2 1, 3) := dk_132 2 1 (dk_at dksX5_findParts_5 12 rfl rfl)
theorem dX5_findParts_131 : decode cX5_findParts 131 = .ok (.goto (-103), 3) := dk_167 255 153 (dk_at dksX5_findParts_5 15 rfl rfl)
theorem dX5_findParts_134 : decode cX5_findParts 134 = .ok (.return_, 1) := dk_177 (dk_at dksX5_findParts_5 18 rfl rfl)
abbrev cX5_findHolders : ByteArray := prog_22_method_80_code
def yX5_findHolders : MethodName := ⟨RX5, "findHolders", "(I)V"⟩
def dkwX5_findHolders_13 : List UInt8 := [167, 0, 7, 42, 180, 1, 208, 181, 1, 208, 177]
abbrev dktX5_findHolders_13 : List UInt8 := dkwX5_findHolders_13 ++ []
def dkwX5_findHolders_12 : List UInt8 := [167, 255, 184, 42, 42, 180, 1, 208, 4, 164, 0, 16, 42, 8, 182, 1, 147, 4, 160, 0, 7, 4]
abbrev dktX5_findHolders_12 : List UInt8 := dkwX5_findHolders_12 ++ dktX5_findHolders_13
def dkwX5_findHolders_11 : List UInt8 := [84, 29, 153, 0, 17, 42, 180, 0, 134, 21, 4, 51, 154, 0, 7, 4, 167, 0, 4, 3, 62, 132, 4, 1]
abbrev dktX5_findHolders_11 : List UInt8 := dkwX5_findHolders_11 ++ dktX5_findHolders_12
def dkwX5_findHolders_10 : List UInt8 := [180, 1, 208, 158, 0, 20, 42, 8, 182, 1, 147, 4, 160, 0, 7, 29, 153, 0, 7, 4, 167, 0, 4, 3]
abbrev dktX5_findHolders_10 : List UInt8 := dkwX5_findHolders_10 ++ dktX5_findHolders_11
def dkwX5_findHolders_9 : List UInt8 := [16, 6, 162, 0, 71, 42, 180, 0, 134, 21, 4, 42, 180, 0, 134, 21, 4, 51, 153, 0, 27, 42]
abbrev dktX5_findHolders_9 : List UInt8 := dkwX5_findHolders_9 ++ dktX5_findHolders_10
def dkwX5_findHolders_8 : List UInt8 := [164, 0, 17, 42, 8, 182, 1, 147, 5, 160, 0, 8, 42, 3, 181, 1, 208, 4, 62, 3, 54, 4, 21, 4]
abbrev dktX5_findHolders_8 : List UInt8 := dkwX5_findHolders_8 ++ dktX5_findHolders_9
def dkwX5_findHolders_7 : List UInt8 := [21, 5, 28, 164, 0, 8, 21, 5, 167, 0, 4, 28, 61, 132, 3, 1, 167, 255, 106, 42, 180, 1, 208, 4]
abbrev dktX5_findHolders_7 : List UInt8 := dkwX5_findHolders_7 ++ dktX5_findHolders_8
def dkwX5_findHolders_6 : List UInt8 := [180, 1, 208, 181, 1, 208, 42, 180, 0, 134, 29, 21, 5, 28, 161, 0, 7, 4, 167, 0, 4, 3, 84]
abbrev dktX5_findHolders_6 : List UInt8 := dkwX5_findHolders_6 ++ dktX5_findHolders_7
def dkwX5_findHolders_5 : List UInt8 := [164, 0, 7, 4, 167, 0, 22, 21, 5, 28, 160, 0, 12, 42, 180, 1, 208, 4, 96, 167, 0, 7, 42]
abbrev dktX5_findHolders_5 : List UInt8 := dkwX5_findHolders_5 ++ dktX5_findHolders_6
def dkwX5_findHolders_4 : List UInt8 := [21, 5, 28, 164, 0, 17, 42, 180, 0, 134, 21, 6, 3, 84, 132, 6, 1, 167, 255, 233, 42, 21, 5, 28]
abbrev dktX5_findHolders_4 : List UInt8 := dkwX5_findHolders_4 ++ dktX5_findHolders_5
def dkwX5_findHolders_3 : List UInt8 := [182, 0, 165, 163, 0, 104, 42, 29, 21, 4, 182, 1, 168, 54, 5, 3, 54, 6, 21, 6, 29, 162, 0, 23]
abbrev dktX5_findHolders_3 : List UInt8 := dkwX5_findHolders_3 ++ dktX5_findHolders_4
def dkwX5_findHolders_2 : List UInt8 := [6, 182, 0, 165, 27, 184, 1, 214, 54, 4, 42, 29, 4, 182, 0, 165, 158, 0, 115, 21, 4, 42, 29, 3]
abbrev dktX5_findHolders_2 : List UInt8 := dkwX5_findHolders_2 ++ dktX5_findHolders_3
def dkwX5_findHolders_1 : List UInt8 := [132, 3, 1, 167, 255, 240, 3, 62, 29, 42, 180, 1, 211, 162, 0, 148, 27, 16, 36, 159, 0, 142, 42, 29]
abbrev dktX5_findHolders_1 : List UInt8 := dkwX5_findHolders_1 ++ dktX5_findHolders_2
def dkwX5_findHolders_0 : List UInt8 := [2, 61, 42, 3, 181, 1, 208, 3, 62, 29, 16, 6, 162, 0, 16, 42, 180, 0, 134, 29, 3, 84]
abbrev dktX5_findHolders_0 : List UInt8 := dkwX5_findHolders_0 ++ dktX5_findHolders_1
theorem dksX5_findHolders_0 : cX5_findHolders.data.toList.drop 0 = dktX5_findHolders_0 := by decide +kernel
theorem dksX5_findHolders_1 : cX5_findHolders.data.toList.drop 22 = dktX5_findHolders_1 := dk_seg dksX5_findHolders_0 22 rfl rfl
theorem dksX5_findHolders_2 : cX5_findHolders.data.toList.drop 46 = dktX5_findHolders_2 := dk_seg dksX5_findHolders_1 24 rfl rfl
theorem dksX5_findHolders_3 : cX5_findHolders.data.toList.drop 70 = dktX5_findHolders_3 := dk_seg dksX5_findHolders_2 24 rfl rfl
theorem dksX5_findHolders_4 : cX5_findHolders.data.toList.drop 94 = dktX5_findHolders_4 := dk_seg dksX5_findHolders_3 24 rfl rfl
theorem dksX5_findHolders_5 : cX5_findHolders.data.toList.drop 118 = dktX5_findHolders_5 := dk_seg dksX5_findHolders_4 24 rfl rfl
theorem dksX5_findHolders_6 : cX5_findHolders.data.toList.drop 141 = dktX5_findHolders_6 := dk_seg dksX5_findHolders_5 23 rfl rfl
theorem dksX5_findHolders_7 : cX5_findHolders.data.toList.drop 164 = dktX5_findHolders_7 := dk_seg dksX5_findHolders_6 23 rfl rfl
theorem dksX5_findHolders_8 : cX5_findHolders.data.toList.drop 188 = dktX5_findHolders_8 := dk_seg dksX5_findHolders_7 24 rfl rfl
theorem dksX5_findHolders_9 : cX5_findHolders.data.toList.drop 212 = dktX5_findHolders_9 := dk_seg dksX5_findHolders_8 24 rfl rfl
theorem dksX5_findHolders_10 : cX5_findHolders.data.toList.drop 234 = dktX5_findHolders_10 := dk_seg dksX5_findHolders_9 22 rfl rfl
theorem dksX5_findHolders_11 : cX5_findHolders.data.toList.drop 258 = dktX5_findHolders_11 := dk_seg dksX5_findHolders_10 24 rfl rfl
theorem dksX5_findHolders_12 : cX5_findHolders.data.toList.drop 282 = dktX5_findHolders_12 := dk_seg dksX5_findHolders_11 24 rfl rfl
theorem dksX5_findHolders_13 : cX5_findHolders.data.toList.drop 304 = dktX5_findHolders_13 := dk_seg dksX5_findHolders_12 22 rfl rfl
theorem dX5_findHolders_0 : decode cX5_findHolders 0 = .ok (.iconst (-1), 1) := dk_2 (dk_at dksX5_findHolders_0 0 rfl rfl)
theorem dX5_findHolders_1 : decode cX5_findHolders 1 = .ok (.istore_n 2, 1) := dk_61 (dk_at dksX5_findHolders_0 1 rfl rfl)
theorem dX5_findHolders_2 : decode cX5_findHolders 2 = .ok (.aload_n 0, 1) := dk_42 (dk_at dksX5_findHolders_0 2 rfl rfl)
theorem dX5_findHolders_3 : decode cX5_findHolders 3 = .ok (.iconst 0, 1) := dk_3 (dk_at dksX5_findHolders_0 3 rfl rfl)
theorem dX5_findHolders_4 : decode cX5_findHolders 4 = .ok (.putfield 464, 3) := dk_181 1 208 (dk_at dksX5_findHolders_0 4 rfl rfl)
theorem dX5_findHolders_7 : decode cX5_findHolders 7 = .ok (.iconst 0, 1) := dk_3 (dk_at dksX5_findHolders_0 7 rfl rfl)
theorem dX5_findHolders_8 : decode cX5_findHolders 8 = .ok (.istore_n 3, 1) := dk_62 (dk_at dksX5_findHolders_0 8 rfl rfl)
theorem dX5_findHolders_9 : decode cX5_findHolders 9 = .ok (.iload_n 3, 1) := dk_29 (dk_at dksX5_findHolders_0 9 rfl rfl)
theorem dX5_findHolders_10 : decode cX5_findHolders 10 = .ok (.bipush 6, 2) := dk_16 6 (dk_at dksX5_findHolders_0 10 rfl rfl)
theorem dX5_findHolders_12 : decode cX5_findHolders 12 = .ok (.if_icmp .ge 16, 3) := dk_162 0 16 (dk_at dksX5_findHolders_0 12 rfl rfl)
theorem dX5_findHolders_15 : decode cX5_findHolders 15 = .ok (.aload_n 0, 1) := dk_42 (dk_at dksX5_findHolders_0 15 rfl rfl)
theorem dX5_findHolders_16 : decode cX5_findHolders 16 = .ok (.getfield 134, 3) := dk_180 0 134 (dk_at dksX5_findHolders_0 16 rfl rfl)
theorem dX5_findHolders_19 : decode cX5_findHolders 19 = .ok (.iload_n 3, 1) := dk_29 (dk_at dksX5_findHolders_0 19 rfl rfl)
theorem dX5_findHolders_20 : decode cX5_findHolders 20 = .ok (.iconst 0, 1) := dk_3 (dk_at dksX5_findHolders_0 20 rfl rfl)
theorem dX5_findHolders_21 : decode cX5_findHolders 21 = .ok (.bastore, 1) := dk_84 (dk_at dksX5_findHolders_0 21 rfl rfl)
theorem dX5_findHolders_22 : decode cX5_findHolders 22 = .ok (.iinc 3 1, 3) := dk_132 3 1 (dk_at dksX5_findHolders_1 0 rfl rfl)
theorem dX5_findHolders_25 : decode cX5_findHolders 25 = .ok (.goto (-16), 3) := dk_167 255 240 (dk_at dksX5_findHolders_1 3 rfl rfl)
theorem dX5_findHolders_28 : decode cX5_findHolders 28 = .ok (.iconst 0, 1) := dk_3 (dk_at dksX5_findHolders_1 6 rfl rfl)
theorem dX5_findHolders_29 : decode cX5_findHolders 29 = .ok (.istore_n 3, 1) := dk_62 (dk_at dksX5_findHolders_1 7 rfl rfl)
theorem dX5_findHolders_30 : decode cX5_findHolders 30 = .ok (.iload_n 3, 1) := dk_29 (dk_at dksX5_findHolders_1 8 rfl rfl)
theorem dX5_findHolders_31 : decode cX5_findHolders 31 = .ok (.aload_n 0, 1) := dk_42 (dk_at dksX5_findHolders_1 9 rfl rfl)
theorem dX5_findHolders_32 : decode cX5_findHolders 32 = .ok (.getfield 467, 3) := dk_180 1 211 (dk_at dksX5_findHolders_1 10 rfl rfl)
theorem dX5_findHolders_35 : decode cX5_findHolders 35 = .ok (.if_icmp .ge 148, 3) := dk_162 0 148 (dk_at dksX5_findHolders_1 13 rfl rfl)
theorem dX5_findHolders_38 : decode cX5_findHolders 38 = .ok (.iload_n 1, 1) := dk_27 (dk_at dksX5_findHolders_1 16 rfl rfl)
theorem dX5_findHolders_39 : decode cX5_findHolders 39 = .ok (.bipush 36, 2) := dk_16 36 (dk_at dksX5_findHolders_1 17 rfl rfl)
theorem dX5_findHolders_41 : decode cX5_findHolders 41 = .ok (.if_icmp .eq 142, 3) := dk_159 0 142 (dk_at dksX5_findHolders_1 19 rfl rfl)
theorem dX5_findHolders_44 : decode cX5_findHolders 44 = .ok (.aload_n 0, 1) := dk_42 (dk_at dksX5_findHolders_1 22 rfl rfl)
theorem dX5_findHolders_45 : decode cX5_findHolders 45 = .ok (.iload_n 3, 1) := dk_29 (dk_at dksX5_findHolders_1 23 rfl rfl)
theorem dX5_findHolders_46 : decode cX5_findHolders 46 = .ok (.iconst 3, 1) := dk_6 (dk_at dksX5_findHolders_2 0 rfl rfl)
theorem dX5_findHolders_47 : decode cX5_findHolders 47 = .ok (.invokevirtual 165, 3) := dk_182 0 165 (dk_at dksX5_findHolders_2 1 rfl rfl)
theorem dX5_findHolders_50 : decode cX5_findHolders 50 = .ok (.iload_n 1, 1) := dk_27 (dk_at dksX5_findHolders_2 4 rfl rfl)
theorem dX5_findHolders_51 : decode cX5_findHolders 51 = .ok (.invokestatic 470, 3) := dk_184 1 214 (dk_at dksX5_findHolders_2 5 rfl rfl)
theorem dX5_findHolders_54 : decode cX5_findHolders 54 = .ok (.istore 4, 2) := dk_54 4 (dk_at dksX5_findHolders_2 8 rfl rfl)
theorem dX5_findHolders_56 : decode cX5_findHolders 56 = .ok (.aload_n 0, 1) := dk_42 (dk_at dksX5_findHolders_2 10 rfl rfl)
theorem dX5_findHolders_57 : decode cX5_findHolders 57 = .ok (.iload_n 3, 1) := dk_29 (dk_at dksX5_findHolders_2 11 rfl rfl)
theorem dX5_findHolders_58 : decode cX5_findHolders 58 = .ok (.iconst 1, 1) := dk_4 (dk_at dksX5_findHolders_2 12 rfl rfl)
theorem dX5_findHolders_59 : decode cX5_findHolders 59 = .ok (.invokevirtual 165, 3) := dk_182 0 165 (dk_at dksX5_findHolders_2 13 rfl rfl)
theorem dX5_findHolders_62 : decode cX5_findHolders 62 = .ok (.ifCond .le 115, 3) := dk_158 0 115 (dk_at dksX5_findHolders_2 16 rfl rfl)
theorem dX5_findHolders_65 : decode cX5_findHolders 65 = .ok (.iload 4, 2) := dk_21 4 (dk_at dksX5_findHolders_2 19 rfl rfl)
theorem dX5_findHolders_67 : decode cX5_findHolders 67 = .ok (.aload_n 0, 1) := dk_42 (dk_at dksX5_findHolders_2 21 rfl rfl)
theorem dX5_findHolders_68 : decode cX5_findHolders 68 = .ok (.iload_n 3, 1) := dk_29 (dk_at dksX5_findHolders_2 22 rfl rfl)
theorem dX5_findHolders_69 : decode cX5_findHolders 69 = .ok (.iconst 0, 1) := dk_3 (dk_at dksX5_findHolders_2 23 rfl rfl)
theorem dX5_findHolders_70 : decode cX5_findHolders 70 = .ok (.invokevirtual 165, 3) := dk_182 0 165 (dk_at dksX5_findHolders_3 0 rfl rfl)
theorem dX5_findHolders_73 : decode cX5_findHolders 73 = .ok (.if_icmp .gt 104, 3) := dk_163 0 104 (dk_at dksX5_findHolders_3 3 rfl rfl)
theorem dX5_findHolders_76 : decode cX5_findHolders 76 = .ok (.aload_n 0, 1) := dk_42 (dk_at dksX5_findHolders_3 6 rfl rfl)
theorem dX5_findHolders_77 : decode cX5_findHolders 77 = .ok (.iload_n 3, 1) := dk_29 (dk_at dksX5_findHolders_3 7 rfl rfl)
theorem dX5_findHolders_78 : decode cX5_findHolders 78 = .ok (.iload 4, 2) := dk_21 4 (dk_at dksX5_findHolders_3 8 rfl rfl)
theorem dX5_findHolders_80 : decode cX5_findHolders 80 = .ok (.invokevirtual 424, 3) := dk_182 1 168 (dk_at dksX5_findHolders_3 10 rfl rfl)
theorem dX5_findHolders_83 : decode cX5_findHolders 83 = .ok (.istore 5, 2) := dk_54 5 (dk_at dksX5_findHolders_3 13 rfl rfl)
theorem dX5_findHolders_85 : decode cX5_findHolders 85 = .ok (.iconst 0, 1) := dk_3 (dk_at dksX5_findHolders_3 15 rfl rfl)
theorem dX5_findHolders_86 : decode cX5_findHolders 86 = .ok (.istore 6, 2) := dk_54 6 (dk_at dksX5_findHolders_3 16 rfl rfl)
theorem dX5_findHolders_88 : decode cX5_findHolders 88 = .ok (.iload 6, 2) := dk_21 6 (dk_at dksX5_findHolders_3 18 rfl rfl)
theorem dX5_findHolders_90 : decode cX5_findHolders 90 = .ok (.iload_n 3, 1) := dk_29 (dk_at dksX5_findHolders_3 20 rfl rfl)
theorem dX5_findHolders_91 : decode cX5_findHolders 91 = .ok (.if_icmp .ge 23, 3) := dk_162 0 23 (dk_at dksX5_findHolders_3 21 rfl rfl)
theorem dX5_findHolders_94 : decode cX5_findHolders 94 = .ok (.iload 5, 2) := dk_21 5 (dk_at dksX5_findHolders_4 0 rfl rfl)
theorem dX5_findHolders_96 : decode cX5_findHolders 96 = .ok (.iload_n 2, 1) := dk_28 (dk_at dksX5_findHolders_4 2 rfl rfl)
theorem dX5_findHolders_97 : decode cX5_findHolders 97 = .ok (.if_icmp .le 17, 3) := dk_164 0 17 (dk_at dksX5_findHolders_4 3 rfl rfl)
theorem dX5_findHolders_100 : decode cX5_findHolders 100 = .ok (.aload_n 0, 1) := dk_42 (dk_at dksX5_findHolders_4 6 rfl rfl)
theorem dX5_findHolders_101 : decode cX5_findHolders 101 = .ok (.getfield 134, 3) := dk_180 0 134 (dk_at dksX5_findHolders_4 7 rfl rfl)
theorem dX5_findHolders_104 : decode cX5_findHolders 104 = .ok (.iload 6, 2) := dk_21 6 (dk_at dksX5_findHolders_4 10 rfl rfl)
theorem dX5_findHolders_106 : decode cX5_findHolders 106 = .ok (.iconst 0, 1) := dk_3 (dk_at dksX5_findHolders_4 12 rfl rfl)
theorem dX5_findHolders_107 : decode cX5_findHolders 107 = .ok (.bastore, 1) := dk_84 (dk_at dksX5_findHolders_4 13 rfl rfl)
theorem dX5_findHolders_108 : decode cX5_findHolders 108 = .ok (.iinc 6 1, 3) := dk_132 6 1 (dk_at dksX5_findHolders_4 14 rfl rfl)
theorem dX5_findHolders_111 : decode cX5_findHolders 111 = .ok (.goto (-23), 3) := dk_167 255 233 (dk_at dksX5_findHolders_4 17 rfl rfl)
theorem dX5_findHolders_114 : decode cX5_findHolders 114 = .ok (.aload_n 0, 1) := dk_42 (dk_at dksX5_findHolders_4 20 rfl rfl)
theorem dX5_findHolders_115 : decode cX5_findHolders 115 = .ok (.iload 5, 2) := dk_21 5 (dk_at dksX5_findHolders_4 21 rfl rfl)
theorem dX5_findHolders_117 : decode cX5_findHolders 117 = .ok (.iload_n 2, 1) := dk_28 (dk_at dksX5_findHolders_4 23 rfl rfl)
theorem dX5_findHolders_118 : decode cX5_findHolders 118 = .ok (.if_icmp .le 7, 3) := dk_164 0 7 (dk_at dksX5_findHolders_5 0 rfl rfl)
theorem dX5_findHolders_121 : decode cX5_findHolders 121 = .ok (.iconst 1, 1) := dk_4 (dk_at dksX5_findHolders_5 3 rfl rfl)
theorem dX5_findHolders_122 : decode cX5_findHolders 122 = .ok (.goto 22, 3) := dk_167 0 22 (dk_at dksX5_findHolders_5 4 rfl rfl)
theorem dX5_findHolders_125 : decode cX5_findHolders 125 = .ok (.iload 5, 2) := dk_21 5 (dk_at dksX5_findHolders_5 7 rfl rfl)
theorem dX5_findHolders_127 : decode cX5_findHolders 127 = .ok (.iload_n 2, 1) := dk_28 (dk_at dksX5_findHolders_5 9 rfl rfl)
theorem dX5_findHolders_128 : decode cX5_findHolders 128 = .ok (.if_icmp .ne 12, 3) := dk_160 0 12 (dk_at dksX5_findHolders_5 10 rfl rfl)
theorem dX5_findHolders_131 : decode cX5_findHolders 131 = .ok (.aload_n 0, 1) := dk_42 (dk_at dksX5_findHolders_5 13 rfl rfl)
theorem dX5_findHolders_132 : decode cX5_findHolders 132 = .ok (.getfield 464, 3) := dk_180 1 208 (dk_at dksX5_findHolders_5 14 rfl rfl)
theorem dX5_findHolders_135 : decode cX5_findHolders 135 = .ok (.iconst 1, 1) := dk_4 (dk_at dksX5_findHolders_5 17 rfl rfl)
theorem dX5_findHolders_136 : decode cX5_findHolders 136 = .ok (.iadd, 1) := dk_96 (dk_at dksX5_findHolders_5 18 rfl rfl)
theorem dX5_findHolders_137 : decode cX5_findHolders 137 = .ok (.goto 7, 3) := dk_167 0 7 (dk_at dksX5_findHolders_5 19 rfl rfl)
theorem dX5_findHolders_140 : decode cX5_findHolders 140 = .ok (.aload_n 0, 1) := dk_42 (dk_at dksX5_findHolders_5 22 rfl rfl)
theorem dX5_findHolders_141 : decode cX5_findHolders 141 = .ok (.getfield 464, 3) := dk_180 1 208 (dk_at dksX5_findHolders_6 0 rfl rfl)
theorem dX5_findHolders_144 : decode cX5_findHolders 144 = .ok (.putfield 464, 3) := dk_181 1 208 (dk_at dksX5_findHolders_6 3 rfl rfl)
theorem dX5_findHolders_147 : decode cX5_findHolders 147 = .ok (.aload_n 0, 1) := dk_42 (dk_at dksX5_findHolders_6 6 rfl rfl)
theorem dX5_findHolders_148 : decode cX5_findHolders 148 = .ok (.getfield 134, 3) := dk_180 0 134 (dk_at dksX5_findHolders_6 7 rfl rfl)
theorem dX5_findHolders_151 : decode cX5_findHolders 151 = .ok (.iload_n 3, 1) := dk_29 (dk_at dksX5_findHolders_6 10 rfl rfl)
theorem dX5_findHolders_152 : decode cX5_findHolders 152 = .ok (.iload 5, 2) := dk_21 5 (dk_at dksX5_findHolders_6 11 rfl rfl)
theorem dX5_findHolders_154 : decode cX5_findHolders 154 = .ok (.iload_n 2, 1) := dk_28 (dk_at dksX5_findHolders_6 13 rfl rfl)
theorem dX5_findHolders_155 : decode cX5_findHolders 155 = .ok (.if_icmp .lt 7, 3) := dk_161 0 7 (dk_at dksX5_findHolders_6 14 rfl rfl)
theorem dX5_findHolders_158 : decode cX5_findHolders 158 = .ok (.iconst 1, 1) := dk_4 (dk_at dksX5_findHolders_6 17 rfl rfl)
theorem dX5_findHolders_159 : decode cX5_findHolders 159 = .ok (.goto 4, 3) := dk_167 0 4 (dk_at dksX5_findHolders_6 18 rfl rfl)
theorem dX5_findHolders_162 : decode cX5_findHolders 162 = .ok (.iconst 0, 1) := dk_3 (dk_at dksX5_findHolders_6 21 rfl rfl)
theorem dX5_findHolders_163 : decode cX5_findHolders 163 = .ok (.bastore, 1) := dk_84 (dk_at dksX5_findHolders_6 22 rfl rfl)
theorem dX5_findHolders_164 : decode cX5_findHolders 164 = .ok (.iload 5, 2) := dk_21 5 (dk_at dksX5_findHolders_7 0 rfl rfl)
theorem dX5_findHolders_166 : decode cX5_findHolders 166 = .ok (.iload_n 2, 1) := dk_28 (dk_at dksX5_findHolders_7 2 rfl rfl)
theorem dX5_findHolders_167 : decode cX5_findHolders 167 = .ok (.if_icmp .le 8, 3) := dk_164 0 8 (dk_at dksX5_findHolders_7 3 rfl rfl)
theorem dX5_findHolders_170 : decode cX5_findHolders 170 = .ok (.iload 5, 2) := dk_21 5 (dk_at dksX5_findHolders_7 6 rfl rfl)
theorem dX5_findHolders_172 : decode cX5_findHolders 172 = .ok (.goto 4, 3) := dk_167 0 4 (dk_at dksX5_findHolders_7 8 rfl rfl)
theorem dX5_findHolders_175 : decode cX5_findHolders 175 = .ok (.iload_n 2, 1) := dk_28 (dk_at dksX5_findHolders_7 11 rfl rfl)
theorem dX5_findHolders_176 : decode cX5_findHolders 176 = .ok (.istore_n 2, 1) := dk_61 (dk_at dksX5_findHolders_7 12 rfl rfl)
theorem dX5_findHolders_177 : decode cX5_findHolders 177 = .ok (.iinc 3 1, 3) := dk_132 3 1 (dk_at dksX5_findHolders_7 13 rfl rfl)
theorem dX5_findHolders_180 : decode cX5_findHolders 180 = .ok (.goto (-150), 3) := dk_167 255 106 (dk_at dksX5_findHolders_7 16 rfl rfl)
theorem dX5_findHolders_183 : decode cX5_findHolders 183 = .ok (.aload_n 0, 1) := dk_42 (dk_at dksX5_findHolders_7 19 rfl rfl)
theorem dX5_findHolders_184 : decode cX5_findHolders 184 = .ok (.getfield 464, 3) := dk_180 1 208 (dk_at dksX5_findHolders_7 20 rfl rfl)
theorem dX5_findHolders_187 : decode cX5_findHolders 187 = .ok (.iconst 1, 1) := dk_4 (dk_at dksX5_findHolders_7 23 rfl rfl)
theorem dX5_findHolders_188 : decode cX5_findHolders 188 = .ok (.if_icmp .le 17, 3) := dk_164 0 17 (dk_at dksX5_findHolders_8 0 rfl rfl)
theorem dX5_findHolders_191 : decode cX5_findHolders 191 = .ok (.aload_n 0, 1) := dk_42 (dk_at dksX5_findHolders_8 3 rfl rfl)
theorem dX5_findHolders_192 : decode cX5_findHolders 192 = .ok (.iconst 5, 1) := dk_8 (dk_at dksX5_findHolders_8 4 rfl rfl)
theorem dX5_findHolders_193 : decode cX5_findHolders 193 = .ok (.invokevirtual 403, 3) := dk_182 1 147 (dk_at dksX5_findHolders_8 5 rfl rfl)
theorem dX5_findHolders_196 : decode cX5_findHolders 196 = .ok (.iconst 2, 1) := dk_5 (dk_at dksX5_findHolders_8 8 rfl rfl)
theorem dX5_findHolders_197 : decode cX5_findHolders 197 = .ok (.if_icmp .ne 8, 3) := dk_160 0 8 (dk_at dksX5_findHolders_8 9 rfl rfl)
theorem dX5_findHolders_200 : decode cX5_findHolders 200 = .ok (.aload_n 0, 1) := dk_42 (dk_at dksX5_findHolders_8 12 rfl rfl)
theorem dX5_findHolders_201 : decode cX5_findHolders 201 = .ok (.iconst 0, 1) := dk_3 (dk_at dksX5_findHolders_8 13 rfl rfl)
theorem dX5_findHolders_202 : decode cX5_findHolders 202 = .ok (.putfield 464, 3) := dk_181 1 208 (dk_at dksX5_findHolders_8 14 rfl rfl)
theorem dX5_findHolders_205 : decode cX5_findHolders 205 = .ok (.iconst 1, 1) := dk_4 (dk_at dksX5_findHolders_8 17 rfl rfl)
theorem dX5_findHolders_206 : decode cX5_findHolders 206 = .ok (.istore_n 3, 1) := dk_62 (dk_at dksX5_findHolders_8 18 rfl rfl)
theorem dX5_findHolders_207 : decode cX5_findHolders 207 = .ok (.iconst 0, 1) := dk_3 (dk_at dksX5_findHolders_8 19 rfl rfl)
theorem dX5_findHolders_208 : decode cX5_findHolders 208 = .ok (.istore 4, 2) := dk_54 4 (dk_at dksX5_findHolders_8 20 rfl rfl)
theorem dX5_findHolders_210 : decode cX5_findHolders 210 = .ok (.iload 4, 2) := dk_21 4 (dk_at dksX5_findHolders_8 22 rfl rfl)
theorem dX5_findHolders_212 : decode cX5_findHolders 212 = .ok (.bipush 6, 2) := dk_16 6 (dk_at dksX5_findHolders_9 0 rfl rfl)
theorem dX5_findHolders_214 : decode cX5_findHolders 214 = .ok (.if_icmp .ge 71, 3) := dk_162 0 71 (dk_at dksX5_findHolders_9 2 rfl rfl)
theorem dX5_findHolders_217 : decode cX5_findHolders 217 = .ok (.aload_n 0, 1) := dk_42 (dk_at dksX5_findHolders_9 5 rfl rfl)
theorem dX5_findHolders_218 : decode cX5_findHolders 218 = .ok (.getfield 134, 3) := dk_180 0 134 (dk_at dksX5_findHolders_9 6 rfl rfl)
theorem dX5_findHolders_221 : decode cX5_findHolders 221 = .ok (.iload 4, 2) := dk_21 4 (dk_at dksX5_findHolders_9 9 rfl rfl)
theorem dX5_findHolders_223 : decode cX5_findHolders 223 = .ok (.aload_n 0, 1) := dk_42 (dk_at dksX5_findHolders_9 11 rfl rfl)
theorem dX5_findHolders_224 : decode cX5_findHolders 224 = .ok (.getfield 134, 3) := dk_180 0 134 (dk_at dksX5_findHolders_9 12 rfl rfl)
theorem dX5_findHolders_227 : decode cX5_findHolders 227 = .ok (.iload 4, 2) := dk_21 4 (dk_at dksX5_findHolders_9 15 rfl rfl)
theorem dX5_findHolders_229 : decode cX5_findHolders 229 = .ok (.baload, 1) := dk_51 (dk_at dksX5_findHolders_9 17 rfl rfl)
theorem dX5_findHolders_230 : decode cX5_findHolders 230 = .ok (.ifCond .eq 27, 3) := dk_153 0 27 (dk_at dksX5_findHolders_9 18 rfl rfl)
theorem dX5_findHolders_233 : decode cX5_findHolders 233 = .ok (.aload_n 0, 1) := dk_42 (dk_at dksX5_findHolders_9 21 rfl rfl)
theorem dX5_findHolders_234 : decode cX5_findHolders 234 = .ok (.getfield 464, 3) := dk_180 1 208 (dk_at dksX5_findHolders_10 0 rfl rfl)
theorem dX5_findHolders_237 : decode cX5_findHolders 237 = .ok (.ifCond .le 20, 3) := dk_158 0 20 (dk_at dksX5_findHolders_10 3 rfl rfl)
theorem dX5_findHolders_240 : decode cX5_findHolders 240 = .ok (.aload_n 0, 1) := dk_42 (dk_at dksX5_findHolders_10 6 rfl rfl)
theorem dX5_findHolders_241 : decode cX5_findHolders 241 = .ok (.iconst 5, 1) := dk_8 (dk_at dksX5_findHolders_10 7 rfl rfl)
theorem dX5_findHolders_242 : decode cX5_findHolders 242 = .ok (.invokevirtual 403, 3) := dk_182 1 147 (dk_at dksX5_findHolders_10 8 rfl rfl)
theorem dX5_findHolders_245 : decode cX5_findHolders 245 = .ok (.iconst 1, 1) := dk_4 (dk_at dksX5_findHolders_10 11 rfl rfl)
theorem dX5_findHolders_246 : decode cX5_findHolders 246 = .ok (.if_icmp .ne 7, 3) := dk_160 0 7 (dk_at dksX5_findHolders_10 12 rfl rfl)
theorem dX5_findHolders_249 : decode cX5_findHolders 249 = .ok (.iload_n 3, 1) := dk_29 (dk_at dksX5_findHolders_10 15 rfl rfl)
theorem dX5_findHolders_250 : decode cX5_findHolders 250 = .ok (.ifCond .eq 7, 3) := dk_153 0 7 (dk_at dksX5_findHolders_10 16 rfl rfl)
theorem dX5_findHolders_253 : decode cX5_findHolders 253 = .ok (.iconst 1, 1) := dk_4 (dk_at dksX5_findHolders_10 19 rfl rfl)
theorem dX5_findHolders_254 : decode cX5_findHolders 254 = .ok (.goto 4, 3) := dk_167 0 4 (dk_at dksX5_findHolders_10 20 rfl rfl)
theorem dX5_findHolders_257 : decode cX5_findHolders 257 = .ok (.iconst 0, 1) := dk_3 (dk_at dksX5_findHolders_10 23 rfl rfl)
theorem dX5_findHolders_258 : decode cX5_findHolders 258 = .ok (.bastore, 1) := dk_84 (dk_at dksX5_findHolders_11 0 rfl rfl)
theorem dX5_findHolders_259 : decode cX5_findHolders 259 = .ok (.iload_n 3, 1) := dk_29 (dk_at dksX5_findHolders_11 1 rfl rfl)
theorem dX5_findHolders_260 : decode cX5_findHolders 260 = .ok (.ifCond .eq 17, 3) := dk_153 0 17 (dk_at dksX5_findHolders_11 2 rfl rfl)
theorem dX5_findHolders_263 : decode cX5_findHolders 263 = .ok (.aload_n 0, 1) := dk_42 (dk_at dksX5_findHolders_11 5 rfl rfl)
theorem dX5_findHolders_264 : decode cX5_findHolders 264 = .ok (.getfield 134, 3) := dk_180 0 134 (dk_at dksX5_findHolders_11 6 rfl rfl)
theorem dX5_findHolders_267 : decode cX5_findHolders 267 = .ok (.iload 4, 2) := dk_21 4 (dk_at dksX5_findHolders_11 9 rfl rfl)
theorem dX5_findHolders_269 : decode cX5_findHolders 269 = .ok (.baload, 1) := dk_51 (dk_at dksX5_findHolders_11 11 rfl rfl)
theorem dX5_findHolders_270 : decode cX5_findHolders 270 = .ok (.ifCond .ne 7, 3) := dk_154 0 7 (dk_at dksX5_findHolders_11 12 rfl rfl)
theorem dX5_findHolders_273 : decode cX5_findHolders 273 = .ok (.iconst 1, 1) := dk_4 (dk_at dksX5_findHolders_11 15 rfl rfl)
theorem dX5_findHolders_274 : decode cX5_findHolders 274 = .ok (.goto 4, 3) := dk_167 0 4 (dk_at dksX5_findHolders_11 16 rfl rfl)
theorem dX5_findHolders_277 : decode cX5_findHolders 277 = .ok (.iconst 0, 1) := dk_3 (dk_at dksX5_findHolders_11 19 rfl rfl)
theorem dX5_findHolders_278 : decode cX5_findHolders 278 = .ok (.istore_n 3, 1) := dk_62 (dk_at dksX5_findHolders_11 20 rfl rfl)
theorem dX5_findHolders_279 : decode cX5_findHolders 279 = .ok (.iinc 4 1, 3) := dk_132 4 1 (dk_at dksX5_findHolders_11 21 rfl rfl)
theorem dX5_findHolders_282 : decode cX5_findHolders 282 = .ok (.goto (-72), 3) := dk_167 255 184 (dk_at dksX5_findHolders_12 0 rfl rfl)
theorem dX5_findHolders_285 : decode cX5_findHolders 285 = .ok (.aload_n 0, 1) := dk_42 (dk_at dksX5_findHolders_12 3 rfl rfl)
theorem dX5_findHolders_286 : decode cX5_findHolders 286 = .ok (.aload_n 0, 1) := dk_42 (dk_at dksX5_findHolders_12 4 rfl rfl)
theorem dX5_findHolders_287 : decode cX5_findHolders 287 = .ok (.getfield 464, 3) := dk_180 1 208 (dk_at dksX5_findHolders_12 5 rfl rfl)
theorem dX5_findHolders_290 : decode cX5_findHolders 290 = .ok (.iconst 1, 1) := dk_4 (dk_at dksX5_findHolders_12 8 rfl rfl)
theorem dX5_findHolders_291 : decode cX5_findHolders 291 = .ok (.if_icmp .le 16, 3) := dk_164 0 16 (dk_at dksX5_findHolders_12 9 rfl rfl)
theorem dX5_findHolders_294 : decode cX5_findHolders 294 = .ok (.aload_n 0, 1) := dk_42 (dk_at dksX5_findHolders_12 12 rfl rfl)
theorem dX5_findHolders_295 : decode cX5_findHolders 295 = .ok (.iconst 5, 1) := dk_8 (dk_at dksX5_findHolders_12 13 rfl rfl)
theorem dX5_findHolders_296 : decode cX5_findHolders 296 = .ok (.invokevirtual 403, 3) := dk_182 1 147 (dk_at dksX5_findHolders_12 14 rfl rfl)
theorem dX5_findHolders_299 : decode cX5_findHolders 299 = .ok (.iconst 1, 1) := dk_4 (dk_at dksX5_findHolders_12 17 rfl rfl)
theorem dX5_findHolders_300 : decode cX5_findHolders 300 = .ok (.if_icmp .ne 7, 3) := dk_160 0 7 (dk_at dksX5_findHolders_12 18 rfl rfl)
theorem dX5_findHolders_303 : decode cX5_findHolders 303 = .ok (.iconst 1, 1) := dk_4 (dk_at dksX5_findHolders_12 21 rfl rfl)
theorem dX5_findHolders_304 : decode cX5_findHolders 304 = .ok (.goto 7, 3) := dk_167 0 7 (dk_at dksX5_findHolders_13 0 rfl rfl)
theorem dX5_findHolders_307 : decode cX5_findHolders 307 = .ok (.aload_n 0, 1) := dk_42 (dk_at dksX5_findHolders_13 3 rfl rfl)
theorem dX5_findHolders_308 : decode cX5_findHolders 308 = .ok (.getfield 464, 3) := dk_180 1 208 (dk_at dksX5_findHolders_13 4 rfl rfl)
theorem dX5_findHolders_311 : decode cX5_findHolders 311 = .ok (.putfield 464, 3) := dk_181 1 208 (dk_at dksX5_findHolders_13 7 rfl rfl)
theorem dX5_findHolders_314 : decode cX5_findHolders 314 = .ok (.return_, 1) := dk_177 (dk_at dksX5_findHolders_13 10 rfl rfl)
abbrev cX5_farOf : ByteArray := prog_22_method_79_code
def yX5_farOf : MethodName := ⟨RX5, "farOf", "(II)I"⟩
def dkwX5_farOf_1 : List UInt8 := [96, 172]
abbrev dktX5_farOf_1 : List UInt8 := dkwX5_farOf_1 ++ []
def dkwX5_farOf_0 : List UInt8 := [26, 16, 6, 112, 27, 16, 6, 112, 100, 184, 1, 205, 26, 16, 6, 108, 27, 16, 6, 108, 100, 184, 1, 205]
abbrev dktX5_farOf_0 : List UInt8 := dkwX5_farOf_0 ++ dktX5_farOf_1
theorem dksX5_farOf_0 : cX5_farOf.data.toList.drop 0 = dktX5_farOf_0 := by decide +kernel
theorem dksX5_farOf_1 : cX5_farOf.data.toList.drop 24 = dktX5_farOf_1 := dk_seg dksX5_farOf_0 24 rfl rfl
theorem dX5_farOf_0 : decode cX5_farOf 0 = .ok (.iload_n 0, 1) := dk_26 (dk_at dksX5_farOf_0 0 rfl rfl)
theorem dX5_farOf_1 : decode cX5_farOf 1 = .ok (.bipush 6, 2) := dk_16 6 (dk_at dksX5_farOf_0 1 rfl rfl)
theorem dX5_farOf_3 : decode cX5_farOf 3 = .ok (.irem, 1) := dk_112 (dk_at dksX5_farOf_0 3 rfl rfl)
theorem dX5_farOf_4 : decode cX5_farOf 4 = .ok (.iload_n 1, 1) := dk_27 (dk_at dksX5_farOf_0 4 rfl rfl)
theorem dX5_farOf_5 : decode cX5_farOf 5 = .ok (.bipush 6, 2) := dk_16 6 (dk_at dksX5_farOf_0 5 rfl rfl)
theorem dX5_farOf_7 : decode cX5_farOf 7 = .ok (.irem, 1) := dk_112 (dk_at dksX5_farOf_0 7 rfl rfl)
theorem dX5_farOf_8 : decode cX5_farOf 8 = .ok (.isub, 1) := dk_100 (dk_at dksX5_farOf_0 8 rfl rfl)
theorem dX5_farOf_9 : decode cX5_farOf 9 = .ok (.invokestatic 461, 3) := dk_184 1 205 (dk_at dksX5_farOf_0 9 rfl rfl)
theorem dX5_farOf_12 : decode cX5_farOf 12 = .ok (.iload_n 0, 1) := dk_26 (dk_at dksX5_farOf_0 12 rfl rfl)
theorem dX5_farOf_13 : decode cX5_farOf 13 = .ok (.bipush 6, 2) := dk_16 6 (dk_at dksX5_farOf_0 13 rfl rfl)
theorem dX5_farOf_15 : decode cX5_farOf 15 = .ok (.idiv, 1) := dk_108 (dk_at dksX5_farOf_0 15 rfl rfl)
theorem dX5_farOf_16 : decode cX5_farOf 16 = .ok (.iload_n 1, 1) := dk_27 (dk_at dksX5_farOf_0 16 rfl rfl)
theorem dX5_farOf_17 : decode cX5_farOf 17 = .ok (.bipush 6, 2) := dk_16 6 (dk_at dksX5_farOf_0 17 rfl rfl)
theorem dX5_farOf_19 : decode cX5_farOf 19 = .ok (.idiv, 1) := dk_108 (dk_at dksX5_farOf_0 19 rfl rfl)
theorem dX5_farOf_20 : decode cX5_farOf 20 = .ok (.isub, 1) := dk_100 (dk_at dksX5_farOf_0 20 rfl rfl)
theorem dX5_farOf_21 : decode cX5_farOf 21 = .ok (.invokestatic 461, 3) := dk_184 1 205 (dk_at dksX5_farOf_0 21 rfl rfl)
theorem dX5_farOf_24 : decode cX5_farOf 24 = .ok (.iadd, 1) := dk_96 (dk_at dksX5_farOf_1 0 rfl rfl)
theorem dX5_farOf_25 : decode cX5_farOf 25 = .ok (.ireturn, 1) := dk_172 (dk_at dksX5_farOf_1 1 rfl rfl)
abbrev cX5_away : ByteArray := prog_22_method_5_code
def yX5_away : MethodName := ⟨RX5, "away", "(I)I"⟩
def dkwX5_away_0 : List UInt8 := [26, 156, 0, 8, 26, 116, 167, 0, 4, 26, 172]
abbrev dktX5_away_0 : List UInt8 := dkwX5_away_0 ++ []
theorem dksX5_away_0 : cX5_away.data.toList.drop 0 = dktX5_away_0 := by decide +kernel
theorem dX5_away_0 : decode cX5_away 0 = .ok (.iload_n 0, 1) := dk_26 (dk_at dksX5_away_0 0 rfl rfl)
theorem dX5_away_1 : decode cX5_away 1 = .ok (.ifCond .ge 8, 3) := dk_156 0 8 (dk_at dksX5_away_0 1 rfl rfl)
theorem dX5_away_4 : decode cX5_away 4 = .ok (.iload_n 0, 1) := dk_26 (dk_at dksX5_away_0 4 rfl rfl)
theorem dX5_away_5 : decode cX5_away 5 = .ok (.ineg, 1) := dk_116 (dk_at dksX5_away_0 5 rfl rfl)
theorem dX5_away_6 : decode cX5_away 6 = .ok (.goto 4, 3) := dk_167 0 4 (dk_at dksX5_away_0 6 rfl rfl)
theorem dX5_away_9 : decode cX5_away 9 = .ok (.iload_n 0, 1) := dk_26 (dk_at dksX5_away_0 9 rfl rfl)
theorem dX5_away_10 : decode cX5_away 10 = .ok (.ireturn, 1) := dk_172 (dk_at dksX5_away_0 10 rfl rfl)
abbrev cX5_stand : ByteArray := prog_22_method_87_code
def yX5_stand : MethodName := ⟨RX5, "stand", "(II)J"⟩
def dkwX5_stand_3 : List UInt8 := [182, 1, 201, 28, 4, 160, 0, 10, 42, 180, 1, 192, 167, 0, 7, 42, 180, 1, 195, 173]
abbrev dktX5_stand_3 : List UInt8 := dkwX5_stand_3 ++ []
def dkwX5_stand_2 : List UInt8 := [28, 154, 0, 9, 42, 180, 1, 226, 133, 173, 42, 42, 180, 1, 229, 133, 16, 60, 42, 180, 1, 180, 104, 133]
abbrev dktX5_stand_2 : List UInt8 := dkwX5_stand_2 ++ dktX5_stand_3
def dkwX5_stand_1 : List UInt8 := [154, 0, 7, 20, 0, 221, 173, 42, 182, 1, 198, 42, 27, 182, 1, 238, 42, 180, 1, 226, 2, 159, 0, 7]
abbrev dktX5_stand_1 : List UInt8 := dkwX5_stand_1 ++ dktX5_stand_2
def dkwX5_stand_0 : List UInt8 := [42, 3, 181, 0, 149, 42, 27, 182, 0, 207, 153, 0, 15, 28, 133, 9, 20, 0, 219, 184, 0, 159]
abbrev dktX5_stand_0 : List UInt8 := dkwX5_stand_0 ++ dktX5_stand_1
theorem dksX5_stand_0 : cX5_stand.data.toList.drop 0 = dktX5_stand_0 := by decide +kernel
theorem dksX5_stand_1 : cX5_stand.data.toList.drop 22 = dktX5_stand_1 := dk_seg dksX5_stand_0 22 rfl rfl
theorem dksX5_stand_2 : cX5_stand.data.toList.drop 46 = dktX5_stand_2 := dk_seg dksX5_stand_1 24 rfl rfl
theorem dksX5_stand_3 : cX5_stand.data.toList.drop 70 = dktX5_stand_3 := dk_seg dksX5_stand_2 24 rfl rfl
theorem dX5_stand_0 : decode cX5_stand 0 = .ok (.aload_n 0, 1) := dk_42 (dk_at dksX5_stand_0 0 rfl rfl)
theorem dX5_stand_1 : decode cX5_stand 1 = .ok (.iconst 0, 1) := dk_3 (dk_at dksX5_stand_0 1 rfl rfl)
theorem dX5_stand_2 : decode cX5_stand 2 = .ok (.putfield 149, 3) := dk_181 0 149 (dk_at dksX5_stand_0 2 rfl rfl)
theorem dX5_stand_5 : decode cX5_stand 5 = .ok (.aload_n 0, 1) := dk_42 (dk_at dksX5_stand_0 5 rfl rfl)
theorem dX5_stand_6 : decode cX5_stand 6 = .ok (.iload_n 1, 1) := dk_27 (dk_at dksX5_stand_0 6 rfl rfl)
theorem dX5_stand_7 : decode cX5_stand 7 = .ok (.invokevirtual 207, 3) := dk_182 0 207 (dk_at dksX5_stand_0 7 rfl rfl)
theorem dX5_stand_10 : decode cX5_stand 10 = .ok (.ifCond .eq 15, 3) := dk_153 0 15 (dk_at dksX5_stand_0 10 rfl rfl)
theorem dX5_stand_13 : decode cX5_stand 13 = .ok (.iload_n 2, 1) := dk_28 (dk_at dksX5_stand_0 13 rfl rfl)
theorem dX5_stand_14 : decode cX5_stand 14 = .ok (.i2l, 1) := dk_133 (dk_at dksX5_stand_0 14 rfl rfl)
theorem dX5_stand_15 : decode cX5_stand 15 = .ok (.lconst 0, 1) := dk_9 (dk_at dksX5_stand_0 15 rfl rfl)
theorem dX5_stand_16 : decode cX5_stand 16 = .ok (.ldc2_w 219, 3) := dk_20 0 219 (dk_at dksX5_stand_0 16 rfl rfl)
theorem dX5_stand_19 : decode cX5_stand 19 = .ok (.invokestatic 159, 3) := dk_184 0 159 (dk_at dksX5_stand_0 19 rfl rfl)
theorem dX5_stand_22 : decode cX5_stand 22 = .ok (.ifCond .ne 7, 3) := dk_154 0 7 (dk_at dksX5_stand_1 0 rfl rfl)
theorem dX5_stand_25 : decode cX5_stand 25 = .ok (.ldc2_w 221, 3) := dk_20 0 221 (dk_at dksX5_stand_1 3 rfl rfl)
theorem dX5_stand_28 : decode cX5_stand 28 = .ok (.lreturn, 1) := dk_173 (dk_at dksX5_stand_1 6 rfl rfl)
theorem dX5_stand_29 : decode cX5_stand 29 = .ok (.aload_n 0, 1) := dk_42 (dk_at dksX5_stand_1 7 rfl rfl)
theorem dX5_stand_30 : decode cX5_stand 30 = .ok (.invokevirtual 454, 3) := dk_182 1 198 (dk_at dksX5_stand_1 8 rfl rfl)
theorem dX5_stand_33 : decode cX5_stand 33 = .ok (.aload_n 0, 1) := dk_42 (dk_at dksX5_stand_1 11 rfl rfl)
theorem dX5_stand_34 : decode cX5_stand 34 = .ok (.iload_n 1, 1) := dk_27 (dk_at dksX5_stand_1 12 rfl rfl)
theorem dX5_stand_35 : decode cX5_stand 35 = .ok (.invokevirtual 494, 3) := dk_182 1 238 (dk_at dksX5_stand_1 13 rfl rfl)
theorem dX5_stand_38 : decode cX5_stand 38 = .ok (.aload_n 0, 1) := dk_42 (dk_at dksX5_stand_1 16 rfl rfl)
theorem dX5_stand_39 : decode cX5_stand 39 = .ok (.getfield 482, 3) := dk_180 1 226 (dk_at dksX5_stand_1 17 rfl rfl)
theorem dX5_stand_42 : decode cX5_stand 42 = .ok (.iconst (-1), 1) := dk_2 (dk_at dksX5_stand_1 20 rfl rfl)
theorem dX5_stand_43 : decode cX5_stand 43 = .ok (.if_icmp .eq 7, 3) := dk_159 0 7 (dk_at dksX5_stand_1 21 rfl rfl)
theorem dX5_stand_46 : decode cX5_stand 46 = .ok (.iload_n 2, 1) := dk_28 (dk_at dksX5_stand_2 0 rfl rfl)
theorem dX5_stand_47 : decode cX5_stand 47 = .ok (.ifCond .ne 9, 3) := dk_154 0 9 (dk_at dksX5_stand_2 1 rfl rfl)
theorem dX5_stand_50 : decode cX5_stand 50 = .ok (.aload_n 0, 1) := dk_42 (dk_at dksX5_stand_2 4 rfl rfl)
theorem dX5_stand_51 : decode cX5_stand 51 = .ok (.getfield 482, 3) := dk_180 1 226 (dk_at dksX5_stand_2 5 rfl rfl)
theorem dX5_stand_54 : decode cX5_stand 54 = .ok (.i2l, 1) := dk_133 (dk_at dksX5_stand_2 8 rfl rfl)
theorem dX5_stand_55 : decode cX5_stand 55 = .ok (.lreturn, 1) := dk_173 (dk_at dksX5_stand_2 9 rfl rfl)
theorem dX5_stand_56 : decode cX5_stand 56 = .ok (.aload_n 0, 1) := dk_42 (dk_at dksX5_stand_2 10 rfl rfl)
theorem dX5_stand_57 : decode cX5_stand 57 = .ok (.aload_n 0, 1) := dk_42 (dk_at dksX5_stand_2 11 rfl rfl)
theorem dX5_stand_58 : decode cX5_stand 58 = .ok (.getfield 485, 3) := dk_180 1 229 (dk_at dksX5_stand_2 12 rfl rfl)
theorem dX5_stand_61 : decode cX5_stand 61 = .ok (.i2l, 1) := dk_133 (dk_at dksX5_stand_2 15 rfl rfl)
theorem dX5_stand_62 : decode cX5_stand 62 = .ok (.bipush 60, 2) := dk_16 60 (dk_at dksX5_stand_2 16 rfl rfl)
theorem dX5_stand_64 : decode cX5_stand 64 = .ok (.aload_n 0, 1) := dk_42 (dk_at dksX5_stand_2 18 rfl rfl)
theorem dX5_stand_65 : decode cX5_stand 65 = .ok (.getfield 436, 3) := dk_180 1 180 (dk_at dksX5_stand_2 19 rfl rfl)
theorem dX5_stand_68 : decode cX5_stand 68 = .ok (.imul, 1) := dk_104 (dk_at dksX5_stand_2 22 rfl rfl)
theorem dX5_stand_69 : decode cX5_stand 69 = .ok (.i2l, 1) := dk_133 (dk_at dksX5_stand_2 23 rfl rfl)
theorem dX5_stand_70 : decode cX5_stand 70 = .ok (.invokevirtual 457, 3) := dk_182 1 201 (dk_at dksX5_stand_3 0 rfl rfl)
theorem dX5_stand_73 : decode cX5_stand 73 = .ok (.iload_n 2, 1) := dk_28 (dk_at dksX5_stand_3 3 rfl rfl)
theorem dX5_stand_74 : decode cX5_stand 74 = .ok (.iconst 1, 1) := dk_4 (dk_at dksX5_stand_3 4 rfl rfl)
theorem dX5_stand_75 : decode cX5_stand 75 = .ok (.if_icmp .ne 10, 3) := dk_160 0 10 (dk_at dksX5_stand_3 5 rfl rfl)
theorem dX5_stand_78 : decode cX5_stand 78 = .ok (.aload_n 0, 1) := dk_42 (dk_at dksX5_stand_3 8 rfl rfl)
theorem dX5_stand_79 : decode cX5_stand 79 = .ok (.getfield 448, 3) := dk_180 1 192 (dk_at dksX5_stand_3 9 rfl rfl)
theorem dX5_stand_82 : decode cX5_stand 82 = .ok (.goto 7, 3) := dk_167 0 7 (dk_at dksX5_stand_3 12 rfl rfl)
theorem dX5_stand_85 : decode cX5_stand 85 = .ok (.aload_n 0, 1) := dk_42 (dk_at dksX5_stand_3 15 rfl rfl)
theorem dX5_stand_86 : decode cX5_stand 86 = .ok (.getfield 451, 3) := dk_180 1 195 (dk_at dksX5_stand_3 16 rfl rfl)
theorem dX5_stand_89 : decode cX5_stand 89 = .ok (.lreturn, 1) := dk_173 (dk_at dksX5_stand_3 19 rfl rfl)
abbrev cX5_findStand : ByteArray := prog_22_method_86_code
def yX5_findStand : MethodName := ⟨RX5, "findStand", "(I)V"⟩
def dkwX5_findStand_3 : List UInt8 := [181, 1, 229, 132, 2, 1, 167, 255, 191, 177]
abbrev dktX5_findStand_3 : List UInt8 := dkwX5_findStand_3 ++ []
def dkwX5_findStand_2 : List UInt8 := [180, 1, 226, 181, 1, 226, 42, 29, 42, 180, 1, 229, 164, 0, 7, 29, 167, 0, 7, 42, 180, 1, 229]
abbrev dktX5_findStand_2 : List UInt8 := dkwX5_findStand_2 ++ dktX5_findStand_3
def dkwX5_findStand_1 : List UInt8 := [153, 0, 50, 42, 27, 28, 182, 1, 235, 62, 42, 29, 42, 180, 1, 229, 164, 0, 7, 28, 167, 0, 7, 42]
abbrev dktX5_findStand_1 : List UInt8 := dkwX5_findStand_1 ++ dktX5_findStand_2
def dkwX5_findStand_0 : List UInt8 := [42, 2, 181, 1, 226, 42, 2, 181, 1, 229, 3, 61, 28, 16, 36, 162, 0, 65, 42, 27, 28, 182, 1, 232]
abbrev dktX5_findStand_0 : List UInt8 := dkwX5_findStand_0 ++ dktX5_findStand_1
theorem dksX5_findStand_0 : cX5_findStand.data.toList.drop 0 = dktX5_findStand_0 := by decide +kernel
theorem dksX5_findStand_1 : cX5_findStand.data.toList.drop 24 = dktX5_findStand_1 := dk_seg dksX5_findStand_0 24 rfl rfl
theorem dksX5_findStand_2 : cX5_findStand.data.toList.drop 48 = dktX5_findStand_2 := dk_seg dksX5_findStand_1 24 rfl rfl
theorem dksX5_findStand_3 : cX5_findStand.data.toList.drop 71 = dktX5_findStand_3 := dk_seg dksX5_findStand_2 23 rfl rfl
theorem dX5_findStand_0 : decode cX5_findStand 0 = .ok (.aload_n 0, 1) := dk_42 (dk_at dksX5_findStand_0 0 rfl rfl)
theorem dX5_findStand_1 : decode cX5_findStand 1 = .ok (.iconst (-1), 1) := dk_2 (dk_at dksX5_findStand_0 1 rfl rfl)
theorem dX5_findStand_2 : decode cX5_findStand 2 = .ok (.putfield 482, 3) := dk_181 1 226 (dk_at dksX5_findStand_0 2 rfl rfl)
theorem dX5_findStand_5 : decode cX5_findStand 5 = .ok (.aload_n 0, 1) := dk_42 (dk_at dksX5_findStand_0 5 rfl rfl)
theorem dX5_findStand_6 : decode cX5_findStand 6 = .ok (.iconst (-1), 1) := dk_2 (dk_at dksX5_findStand_0 6 rfl rfl)
theorem dX5_findStand_7 : decode cX5_findStand 7 = .ok (.putfield 485, 3) := dk_181 1 229 (dk_at dksX5_findStand_0 7 rfl rfl)
theorem dX5_findStand_10 : decode cX5_findStand 10 = .ok (.iconst 0, 1) := dk_3 (dk_at dksX5_findStand_0 10 rfl rfl)
theorem dX5_findStand_11 : decode cX5_findStand 11 = .ok (.istore_n 2, 1) := dk_61 (dk_at dksX5_findStand_0 11 rfl rfl)
theorem dX5_findStand_12 : decode cX5_findStand 12 = .ok (.iload_n 2, 1) := dk_28 (dk_at dksX5_findStand_0 12 rfl rfl)
theorem dX5_findStand_13 : decode cX5_findStand 13 = .ok (.bipush 36, 2) := dk_16 36 (dk_at dksX5_findStand_0 13 rfl rfl)
theorem dX5_findStand_15 : decode cX5_findStand 15 = .ok (.if_icmp .ge 65, 3) := dk_162 0 65 (dk_at dksX5_findStand_0 15 rfl rfl)
theorem dX5_findStand_18 : decode cX5_findStand 18 = .ok (.aload_n 0, 1) := dk_42 (dk_at dksX5_findStand_0 18 rfl rfl)
theorem dX5_findStand_19 : decode cX5_findStand 19 = .ok (.iload_n 1, 1) := dk_27 (dk_at dksX5_findStand_0 19 rfl rfl)
theorem dX5_findStand_20 : decode cX5_findStand 20 = .ok (.iload_n 2, 1) := dk_28 (dk_at dksX5_findStand_0 20 rfl rfl)
theorem dX5_findStand_21 : decode cX5_findStand 21 = .ok (.invokevirtual 488, 3) := dk_182 1 232 (dk_at dksX5_findStand_0 21 rfl rfl)
theorem dX5_findStand_24 : decode cX5_findStand 24 = .ok (.ifCond .eq 50, 3) := dk_153 0 50 (dk_at dksX5_findStand_1 0 rfl rfl)
theorem dX5_findStand_27 : decode cX5_findStand 27 = .ok (.aload_n 0, 1) := dk_42 (dk_at dksX5_findStand_1 3 rfl rfl)
theorem dX5_findStand_28 : decode cX5_findStand 28 = .ok (.iload_n 1, 1) := dk_27 (dk_at dksX5_findStand_1 4 rfl rfl)
theorem dX5_findStand_29 : decode cX5_findStand 29 = .ok (.iload_n 2, 1) := dk_28 (dk_at dksX5_findStand_1 5 rfl rfl)
theorem dX5_findStand_30 : decode cX5_findStand 30 = .ok (.invokevirtual 491, 3) := dk_182 1 235 (dk_at dksX5_findStand_1 6 rfl rfl)
theorem dX5_findStand_33 : decode cX5_findStand 33 = .ok (.istore_n 3, 1) := dk_62 (dk_at dksX5_findStand_1 9 rfl rfl)
theorem dX5_findStand_34 : decode cX5_findStand 34 = .ok (.aload_n 0, 1) := dk_42 (dk_at dksX5_findStand_1 10 rfl rfl)
theorem dX5_findStand_35 : decode cX5_findStand 35 = .ok (.iload_n 3, 1) := dk_29 (dk_at dksX5_findStand_1 11 rfl rfl)
theorem dX5_findStand_36 : decode cX5_findStand 36 = .ok (.aload_n 0, 1) := dk_42 (dk_at dksX5_findStand_1 12 rfl rfl)
theorem dX5_findStand_37 : decode cX5_findStand 37 = .ok (.getfield 485, 3) := dk_180 1 229 (dk_at dksX5_findStand_1 13 rfl rfl)
theorem dX5_findStand_40 : decode cX5_findStand 40 = .ok (.if_icmp .le 7, 3) := dk_164 0 7 (dk_at dksX5_findStand_1 16 rfl rfl)
theorem dX5_findStand_43 : decode cX5_findStand 43 = .ok (.iload_n 2, 1) := dk_28 (dk_at dksX5_findStand_1 19 rfl rfl)
theorem dX5_findStand_44 : decode cX5_findStand 44 = .ok (.goto 7, 3) := dk_167 0 7 (dk_at dksX5_findStand_1 20 rfl rfl)
theorem dX5_findStand_47 : decode cX5_findStand 47 = .ok (.aload_n 0, 1) := dk_42 (dk_at dksX5_findStand_1 23 rfl rfl)
theorem dX5_findStand_48 : decode cX5_findStand 48 = .ok (.getfield 482, 3) := dk_180 1 226 (dk_at dksX5_findStand_2 0 rfl rfl)
theorem dX5_findStand_51 : decode cX5_findStand 51 = .ok (.putfield 482, 3) := dk_181 1 226 (dk_at dksX5_findStand_2 3 rfl rfl)
theorem dX5_findStand_54 : decode cX5_findStand 54 = .ok (.aload_n 0, 1) := dk_42 (dk_at dksX5_findStand_2 6 rfl rfl)
theorem dX5_findStand_55 : decode cX5_findStand 55 = .ok (.iload_n 3, 1) := dk_29 (dk_at dksX5_findStand_2 7 rfl rfl)
theorem dX5_findStand_56 : decode cX5_findStand 56 = .ok (.aload_n 0, 1) := dk_42 (dk_at dksX5_findStand_2 8 rfl rfl)
theorem dX5_findStand_57 : decode cX5_findStand 57 = .ok (.getfield 485, 3) := dk_180 1 229 (dk_at dksX5_findStand_2 9 rfl rfl)
theorem dX5_findStand_60 : decode cX5_findStand 60 = .ok (.if_icmp .le 7, 3) := dk_164 0 7 (dk_at dksX5_findStand_2 12 rfl rfl)
theorem dX5_findStand_63 : decode cX5_findStand 63 = .ok (.iload_n 3, 1) := dk_29 (dk_at dksX5_findStand_2 15 rfl rfl)
theorem dX5_findStand_64 : decode cX5_findStand 64 = .ok (.goto 7, 3) := dk_167 0 7 (dk_at dksX5_findStand_2 16 rfl rfl)
theorem dX5_findStand_67 : decode cX5_findStand 67 = .ok (.aload_n 0, 1) := dk_42 (dk_at dksX5_findStand_2 19 rfl rfl)
theorem dX5_findStand_68 : decode cX5_findStand 68 = .ok (.getfield 485, 3) := dk_180 1 229 (dk_at dksX5_findStand_2 20 rfl rfl)
theorem dX5_findStand_71 : decode cX5_findStand 71 = .ok (.putfield 485, 3) := dk_181 1 229 (dk_at dksX5_findStand_3 0 rfl rfl)
theorem dX5_findStand_74 : decode cX5_findStand 74 = .ok (.iinc 2 1, 3) := dk_132 2 1 (dk_at dksX5_findStand_3 3 rfl rfl)
theorem dX5_findStand_77 : decode cX5_findStand 77 = .ok (.goto (-65), 3) := dk_167 255 191 (dk_at dksX5_findStand_3 6 rfl rfl)
theorem dX5_findStand_80 : decode cX5_findStand 80 = .ok (.return_, 1) := dk_177 (dk_at dksX5_findStand_3 9 rfl rfl)
abbrev cX5_canStand : ByteArray := prog_22_method_85_code
def yX5_canStand : MethodName := ⟨RX5, "canStand", "(II)Z"⟩
def dkwX5_canStand_1 : List UInt8 := [154, 0, 7, 4, 167, 0, 4, 3, 172]
abbrev dktX5_canStand_1 : List UInt8 := dkwX5_canStand_1 ++ []
def dkwX5_canStand_0 : List UInt8 := [28, 42, 27, 6, 182, 0, 165, 159, 0, 11, 42, 28, 182, 0, 193, 153, 0, 16, 42, 27, 28, 182, 1, 174]
abbrev dktX5_canStand_0 : List UInt8 := dkwX5_canStand_0 ++ dktX5_canStand_1
theorem dksX5_canStand_0 : cX5_canStand.data.toList.drop 0 = dktX5_canStand_0 := by decide +kernel
theorem dksX5_canStand_1 : cX5_canStand.data.toList.drop 24 = dktX5_canStand_1 := dk_seg dksX5_canStand_0 24 rfl rfl
theorem dX5_canStand_0 : decode cX5_canStand 0 = .ok (.iload_n 2, 1) := dk_28 (dk_at dksX5_canStand_0 0 rfl rfl)
theorem dX5_canStand_1 : decode cX5_canStand 1 = .ok (.aload_n 0, 1) := dk_42 (dk_at dksX5_canStand_0 1 rfl rfl)
theorem dX5_canStand_2 : decode cX5_canStand 2 = .ok (.iload_n 1, 1) := dk_27 (dk_at dksX5_canStand_0 2 rfl rfl)
theorem dX5_canStand_3 : decode cX5_canStand 3 = .ok (.iconst 3, 1) := dk_6 (dk_at dksX5_canStand_0 3 rfl rfl)
theorem dX5_canStand_4 : decode cX5_canStand 4 = .ok (.invokevirtual 165, 3) := dk_182 0 165 (dk_at dksX5_canStand_0 4 rfl rfl)
theorem dX5_canStand_7 : decode cX5_canStand 7 = .ok (.if_icmp .eq 11, 3) := dk_159 0 11 (dk_at dksX5_canStand_0 7 rfl rfl)
theorem dX5_canStand_10 : decode cX5_canStand 10 = .ok (.aload_n 0, 1) := dk_42 (dk_at dksX5_canStand_0 10 rfl rfl)
theorem dX5_canStand_11 : decode cX5_canStand 11 = .ok (.iload_n 2, 1) := dk_28 (dk_at dksX5_canStand_0 11 rfl rfl)
theorem dX5_canStand_12 : decode cX5_canStand 12 = .ok (.invokevirtual 193, 3) := dk_182 0 193 (dk_at dksX5_canStand_0 12 rfl rfl)
theorem dX5_canStand_15 : decode cX5_canStand 15 = .ok (.ifCond .eq 16, 3) := dk_153 0 16 (dk_at dksX5_canStand_0 15 rfl rfl)
theorem dX5_canStand_18 : decode cX5_canStand 18 = .ok (.aload_n 0, 1) := dk_42 (dk_at dksX5_canStand_0 18 rfl rfl)
theorem dX5_canStand_19 : decode cX5_canStand 19 = .ok (.iload_n 1, 1) := dk_27 (dk_at dksX5_canStand_0 19 rfl rfl)
theorem dX5_canStand_20 : decode cX5_canStand 20 = .ok (.iload_n 2, 1) := dk_28 (dk_at dksX5_canStand_0 20 rfl rfl)
theorem dX5_canStand_21 : decode cX5_canStand 21 = .ok (.invokevirtual 430, 3) := dk_182 1 174 (dk_at dksX5_canStand_0 21 rfl rfl)
theorem dX5_canStand_24 : decode cX5_canStand 24 = .ok (.ifCond .ne 7, 3) := dk_154 0 7 (dk_at dksX5_canStand_1 0 rfl rfl)
theorem dX5_canStand_27 : decode cX5_canStand 27 = .ok (.iconst 1, 1) := dk_4 (dk_at dksX5_canStand_1 3 rfl rfl)
theorem dX5_canStand_28 : decode cX5_canStand 28 = .ok (.goto 4, 3) := dk_167 0 4 (dk_at dksX5_canStand_1 4 rfl rfl)
theorem dX5_canStand_31 : decode cX5_canStand 31 = .ok (.iconst 0, 1) := dk_3 (dk_at dksX5_canStand_1 7 rfl rfl)
theorem dX5_canStand_32 : decode cX5_canStand 32 = .ok (.ireturn, 1) := dk_172 (dk_at dksX5_canStand_1 8 rfl rfl)
abbrev cX5_partsAt : ByteArray := prog_22_method_84_code
def yX5_partsAt : MethodName := ⟨RX5, "partsAt", "(II)I"⟩
def dkwX5_partsAt_1 : List UInt8 := [180, 0, 137, 27, 46, 172]
abbrev dktX5_partsAt_1 : List UInt8 := dkwX5_partsAt_1 ++ []
def dkwX5_partsAt_0 : List UInt8 := [42, 27, 6, 182, 0, 165, 62, 42, 27, 28, 182, 0, 169, 42, 182, 1, 223, 42, 27, 29, 182, 0, 169, 42]
abbrev dktX5_partsAt_0 : List UInt8 := dkwX5_partsAt_0 ++ dktX5_partsAt_1
theorem dksX5_partsAt_0 : cX5_partsAt.data.toList.drop 0 = dktX5_partsAt_0 := by decide +kernel
theorem dksX5_partsAt_1 : cX5_partsAt.data.toList.drop 24 = dktX5_partsAt_1 := dk_seg dksX5_partsAt_0 24 rfl rfl
theorem dX5_partsAt_0 : decode cX5_partsAt 0 = .ok (.aload_n 0, 1) := dk_42 (dk_at dksX5_partsAt_0 0 rfl rfl)
theorem dX5_partsAt_1 : decode cX5_partsAt 1 = .ok (.iload_n 1, 1) := dk_27 (dk_at dksX5_partsAt_0 1 rfl rfl)
theorem dX5_partsAt_2 : decode cX5_partsAt 2 = .ok (.iconst 3, 1) := dk_6 (dk_at dksX5_partsAt_0 2 rfl rfl)
theorem dX5_partsAt_3 : decode cX5_partsAt 3 = .ok (.invokevirtual 165, 3) := dk_182 0 165 (dk_at dksX5_partsAt_0 3 rfl rfl)
theorem dX5_partsAt_6 : decode cX5_partsAt 6 = .ok (.istore_n 3, 1) := dk_62 (dk_at dksX5_partsAt_0 6 rfl rfl)
theorem dX5_partsAt_7 : decode cX5_partsAt 7 = .ok (.aload_n 0, 1) := dk_42 (dk_at dksX5_partsAt_0 7 rfl rfl)
theorem dX5_partsAt_8 : decode cX5_partsAt 8 = .ok (.iload_n 1, 1) := dk_27 (dk_at dksX5_partsAt_0 8 rfl rfl)
theorem dX5_partsAt_9 : decode cX5_partsAt 9 = .ok (.iload_n 2, 1) := dk_28 (dk_at dksX5_partsAt_0 9 rfl rfl)
theorem dX5_partsAt_10 : decode cX5_partsAt 10 = .ok (.invokevirtual 169, 3) := dk_182 0 169 (dk_at dksX5_partsAt_0 10 rfl rfl)
theorem dX5_partsAt_13 : decode cX5_partsAt 13 = .ok (.aload_n 0, 1) := dk_42 (dk_at dksX5_partsAt_0 13 rfl rfl)
theorem dX5_partsAt_14 : decode cX5_partsAt 14 = .ok (.invokevirtual 479, 3) := dk_182 1 223 (dk_at dksX5_partsAt_0 14 rfl rfl)
theorem dX5_partsAt_17 : decode cX5_partsAt 17 = .ok (.aload_n 0, 1) := dk_42 (dk_at dksX5_partsAt_0 17 rfl rfl)
theorem dX5_partsAt_18 : decode cX5_partsAt 18 = .ok (.iload_n 1, 1) := dk_27 (dk_at dksX5_partsAt_0 18 rfl rfl)
theorem dX5_partsAt_19 : decode cX5_partsAt 19 = .ok (.iload_n 3, 1) := dk_29 (dk_at dksX5_partsAt_0 19 rfl rfl)
theorem dX5_partsAt_20 : decode cX5_partsAt 20 = .ok (.invokevirtual 169, 3) := dk_182 0 169 (dk_at dksX5_partsAt_0 20 rfl rfl)
theorem dX5_partsAt_23 : decode cX5_partsAt 23 = .ok (.aload_n 0, 1) := dk_42 (dk_at dksX5_partsAt_0 23 rfl rfl)
theorem dX5_partsAt_24 : decode cX5_partsAt 24 = .ok (.getfield 137, 3) := dk_180 0 137 (dk_at dksX5_partsAt_1 0 rfl rfl)
theorem dX5_partsAt_27 : decode cX5_partsAt 27 = .ok (.iload_n 1, 1) := dk_27 (dk_at dksX5_partsAt_1 3 rfl rfl)
theorem dX5_partsAt_28 : decode cX5_partsAt 28 = .ok (.iaload, 1) := dk_46 (dk_at dksX5_partsAt_1 4 rfl rfl)
theorem dX5_partsAt_29 : decode cX5_partsAt 29 = .ok (.ireturn, 1) := dk_172 (dk_at dksX5_partsAt_1 5 rfl rfl)
abbrev cX5_rests : ByteArray := prog_22_method_89_code
def yX5_rests : MethodName := ⟨RX5, "rests", "(I)I"⟩
def dkwX5_rests_3 : List UInt8 := [167, 0, 9, 42, 27, 6, 182, 0, 165, 54, 4, 42, 16, 96, 182, 0, 180, 21, 4, 172]
abbrev dktX5_rests_3 : List UInt8 := dkwX5_rests_3 ++ []
def dkwX5_rests_2 : List UInt8 := [182, 1, 241, 62, 132, 2, 1, 167, 255, 238, 29, 153, 0, 7, 2, 167, 0, 18, 27, 2, 160, 0, 7, 28]
abbrev dktX5_rests_2 : List UInt8 := dkwX5_rests_2 ++ dktX5_rests_3
def dkwX5_rests_1 : List UInt8 := [182, 0, 176, 42, 182, 1, 198, 3, 61, 4, 62, 29, 153, 0, 20, 28, 16, 50, 162, 0, 14, 42]
abbrev dktX5_rests_1 : List UInt8 := dkwX5_rests_1 ++ dktX5_rests_2
def dkwX5_rests_0 : List UInt8 := [42, 3, 181, 0, 149, 27, 2, 159, 0, 13, 42, 27, 182, 0, 207, 154, 0, 5, 2, 172, 42, 16, 96]
abbrev dktX5_rests_0 : List UInt8 := dkwX5_rests_0 ++ dktX5_rests_1
theorem dksX5_rests_0 : cX5_rests.data.toList.drop 0 = dktX5_rests_0 := by decide +kernel
theorem dksX5_rests_1 : cX5_rests.data.toList.drop 23 = dktX5_rests_1 := dk_seg dksX5_rests_0 23 rfl rfl
theorem dksX5_rests_2 : cX5_rests.data.toList.drop 45 = dktX5_rests_2 := dk_seg dksX5_rests_1 22 rfl rfl
theorem dksX5_rests_3 : cX5_rests.data.toList.drop 69 = dktX5_rests_3 := dk_seg dksX5_rests_2 24 rfl rfl
theorem dX5_rests_0 : decode cX5_rests 0 = .ok (.aload_n 0, 1) := dk_42 (dk_at dksX5_rests_0 0 rfl rfl)
theorem dX5_rests_1 : decode cX5_rests 1 = .ok (.iconst 0, 1) := dk_3 (dk_at dksX5_rests_0 1 rfl rfl)
theorem dX5_rests_2 : decode cX5_rests 2 = .ok (.putfield 149, 3) := dk_181 0 149 (dk_at dksX5_rests_0 2 rfl rfl)
theorem dX5_rests_5 : decode cX5_rests 5 = .ok (.iload_n 1, 1) := dk_27 (dk_at dksX5_rests_0 5 rfl rfl)
theorem dX5_rests_6 : decode cX5_rests 6 = .ok (.iconst (-1), 1) := dk_2 (dk_at dksX5_rests_0 6 rfl rfl)
theorem dX5_rests_7 : decode cX5_rests 7 = .ok (.if_icmp .eq 13, 3) := dk_159 0 13 (dk_at dksX5_rests_0 7 rfl rfl)
theorem dX5_rests_10 : decode cX5_rests 10 = .ok (.aload_n 0, 1) := dk_42 (dk_at dksX5_rests_0 10 rfl rfl)
theorem dX5_rests_11 : decode cX5_rests 11 = .ok (.iload_n 1, 1) := dk_27 (dk_at dksX5_rests_0 11 rfl rfl)
theorem dX5_rests_12 : decode cX5_rests 12 = .ok (.invokevirtual 207, 3) := dk_182 0 207 (dk_at dksX5_rests_0 12 rfl rfl)
theorem dX5_rests_15 : decode cX5_rests 15 = .ok (.ifCond .ne 5, 3) := dk_154 0 5 (dk_at dksX5_rests_0 15 rfl rfl)
theorem dX5_rests_18 : decode cX5_rests 18 = .ok (.iconst (-1), 1) := dk_2 (dk_at dksX5_rests_0 18 rfl rfl)
theorem dX5_rests_19 : decode cX5_rests 19 = .ok (.ireturn, 1) := dk_172 (dk_at dksX5_rests_0 19 rfl rfl)
theorem dX5_rests_20 : decode cX5_rests 20 = .ok (.aload_n 0, 1) := dk_42 (dk_at dksX5_rests_0 20 rfl rfl)
theorem dX5_rests_21 : decode cX5_rests 21 = .ok (.bipush 96, 2) := dk_16 96 (dk_at dksX5_rests_0 21 rfl rfl)
theorem dX5_rests_23 : decode cX5_rests 23 = .ok (.invokevirtual 176, 3) := dk_182 0 176 (dk_at dksX5_rests_1 0 rfl rfl)
theorem dX5_rests_26 : decode cX5_rests 26 = .ok (.aload_n 0, 1) := dk_42 (dk_at dksX5_rests_1 3 rfl rfl)
theorem dX5_rests_27 : decode cX5_rests 27 = .ok (.invokevirtual 454, 3) := dk_182 1 198 (dk_at dksX5_rests_1 4 rfl rfl)
theorem dX5_rests_30 : decode cX5_rests 30 = .ok (.iconst 0, 1) := dk_3 (dk_at dksX5_rests_1 7 rfl rfl)
theorem dX5_rests_31 : decode cX5_rests 31 = .ok (.istore_n 2, 1) := dk_61 (dk_at dksX5_rests_1 8 rfl rfl)
theorem dX5_rests_32 : decode cX5_rests 32 = .ok (.iconst 1, 1) := dk_4 (dk_at dksX5_rests_1 9 rfl rfl)
theorem dX5_rests_33 : decode cX5_rests 33 = .ok (.istore_n 3, 1) := dk_62 (dk_at dksX5_rests_1 10 rfl rfl)
theorem dX5_rests_34 : decode cX5_rests 34 = .ok (.iload_n 3, 1) := dk_29 (dk_at dksX5_rests_1 11 rfl rfl)
theorem dX5_rests_35 : decode cX5_rests 35 = .ok (.ifCond .eq 20, 3) := dk_153 0 20 (dk_at dksX5_rests_1 12 rfl rfl)
theorem dX5_rests_38 : decode cX5_rests 38 = .ok (.iload_n 2, 1) := dk_28 (dk_at dksX5_rests_1 15 rfl rfl)
theorem dX5_rests_39 : decode cX5_rests 39 = .ok (.bipush 50, 2) := dk_16 50 (dk_at dksX5_rests_1 16 rfl rfl)
theorem dX5_rests_41 : decode cX5_rests 41 = .ok (.if_icmp .ge 14, 3) := dk_162 0 14 (dk_at dksX5_rests_1 18 rfl rfl)
theorem dX5_rests_44 : decode cX5_rests 44 = .ok (.aload_n 0, 1) := dk_42 (dk_at dksX5_rests_1 21 rfl rfl)
theorem dX5_rests_45 : decode cX5_rests 45 = .ok (.invokevirtual 497, 3) := dk_182 1 241 (dk_at dksX5_rests_2 0 rfl rfl)
theorem dX5_rests_48 : decode cX5_rests 48 = .ok (.istore_n 3, 1) := dk_62 (dk_at dksX5_rests_2 3 rfl rfl)
theorem dX5_rests_49 : decode cX5_rests 49 = .ok (.iinc 2 1, 3) := dk_132 2 1 (dk_at dksX5_rests_2 4 rfl rfl)
theorem dX5_rests_52 : decode cX5_rests 52 = .ok (.goto (-18), 3) := dk_167 255 238 (dk_at dksX5_rests_2 7 rfl rfl)
theorem dX5_rests_55 : decode cX5_rests 55 = .ok (.iload_n 3, 1) := dk_29 (dk_at dksX5_rests_2 10 rfl rfl)
theorem dX5_rests_56 : decode cX5_rests 56 = .ok (.ifCond .eq 7, 3) := dk_153 0 7 (dk_at dksX5_rests_2 11 rfl rfl)
theorem dX5_rests_59 : decode cX5_rests 59 = .ok (.iconst (-1), 1) := dk_2 (dk_at dksX5_rests_2 14 rfl rfl)
theorem dX5_rests_60 : decode cX5_rests 60 = .ok (.goto 18, 3) := dk_167 0 18 (dk_at dksX5_rests_2 15 rfl rfl)
theorem dX5_rests_63 : decode cX5_rests 63 = .ok (.iload_n 1, 1) := dk_27 (dk_at dksX5_rests_2 18 rfl rfl)
theorem dX5_rests_64 : decode cX5_rests 64 = .ok (.iconst (-1), 1) := dk_2 (dk_at dksX5_rests_2 19 rfl rfl)
theorem dX5_rests_65 : decode cX5_rests 65 = .ok (.if_icmp .ne 7, 3) := dk_160 0 7 (dk_at dksX5_rests_2 20 rfl rfl)
theorem dX5_rests_68 : decode cX5_rests 68 = .ok (.iload_n 2, 1) := dk_28 (dk_at dksX5_rests_2 23 rfl rfl)
theorem dX5_rests_69 : decode cX5_rests 69 = .ok (.goto 9, 3) := dk_167 0 9 (dk_at dksX5_rests_3 0 rfl rfl)
theorem dX5_rests_72 : decode cX5_rests 72 = .ok (.aload_n 0, 1) := dk_42 (dk_at dksX5_rests_3 3 rfl rfl)
theorem dX5_rests_73 : decode cX5_rests 73 = .ok (.iload_n 1, 1) := dk_27 (dk_at dksX5_rests_3 4 rfl rfl)
theorem dX5_rests_74 : decode cX5_rests 74 = .ok (.iconst 3, 1) := dk_6 (dk_at dksX5_rests_3 5 rfl rfl)
theorem dX5_rests_75 : decode cX5_rests 75 = .ok (.invokevirtual 165, 3) := dk_182 0 165 (dk_at dksX5_rests_3 6 rfl rfl)
theorem dX5_rests_78 : decode cX5_rests 78 = .ok (.istore 4, 2) := dk_54 4 (dk_at dksX5_rests_3 9 rfl rfl)
theorem dX5_rests_80 : decode cX5_rests 80 = .ok (.aload_n 0, 1) := dk_42 (dk_at dksX5_rests_3 11 rfl rfl)
theorem dX5_rests_81 : decode cX5_rests 81 = .ok (.bipush 96, 2) := dk_16 96 (dk_at dksX5_rests_3 12 rfl rfl)
theorem dX5_rests_83 : decode cX5_rests 83 = .ok (.invokevirtual 180, 3) := dk_182 0 180 (dk_at dksX5_rests_3 14 rfl rfl)
theorem dX5_rests_86 : decode cX5_rests 86 = .ok (.iload 4, 2) := dk_21 4 (dk_at dksX5_rests_3 17 rfl rfl)
theorem dX5_rests_88 : decode cX5_rests 88 = .ok (.ireturn, 1) := dk_172 (dk_at dksX5_rests_3 19 rfl rfl)
abbrev cX5_keepCells : ByteArray := prog_22_method_13_code
def yX5_keepCells : MethodName := ⟨RX5, "keepCells", "(I)V"⟩
def dkwX5_keepCells_1 : List UInt8 := [132, 2, 1, 167, 255, 233, 177]
abbrev dktX5_keepCells_1 : List UInt8 := dkwX5_keepCells_1 ++ []
def dkwX5_keepCells_0 : List UInt8 := [3, 61, 28, 16, 6, 162, 0, 23, 42, 180, 0, 23, 27, 28, 96, 42, 28, 6, 182, 0, 165, 79]
abbrev dktX5_keepCells_0 : List UInt8 := dkwX5_keepCells_0 ++ dktX5_keepCells_1
theorem dksX5_keepCells_0 : cX5_keepCells.data.toList.drop 0 = dktX5_keepCells_0 := by decide +kernel
theorem dksX5_keepCells_1 : cX5_keepCells.data.toList.drop 22 = dktX5_keepCells_1 := dk_seg dksX5_keepCells_0 22 rfl rfl
theorem dX5_keepCells_0 : decode cX5_keepCells 0 = .ok (.iconst 0, 1) := dk_3 (dk_at dksX5_keepCells_0 0 rfl rfl)
theorem dX5_keepCells_1 : decode cX5_keepCells 1 = .ok (.istore_n 2, 1) := dk_61 (dk_at dksX5_keepCells_0 1 rfl rfl)
theorem dX5_keepCells_2 : decode cX5_keepCells 2 = .ok (.iload_n 2, 1) := dk_28 (dk_at dksX5_keepCells_0 2 rfl rfl)
theorem dX5_keepCells_3 : decode cX5_keepCells 3 = .ok (.bipush 6, 2) := dk_16 6 (dk_at dksX5_keepCells_0 3 rfl rfl)
theorem dX5_keepCells_5 : decode cX5_keepCells 5 = .ok (.if_icmp .ge 23, 3) := dk_162 0 23 (dk_at dksX5_keepCells_0 5 rfl rfl)
theorem dX5_keepCells_8 : decode cX5_keepCells 8 = .ok (.aload_n 0, 1) := dk_42 (dk_at dksX5_keepCells_0 8 rfl rfl)
theorem dX5_keepCells_9 : decode cX5_keepCells 9 = .ok (.getfield 23, 3) := dk_180 0 23 (dk_at dksX5_keepCells_0 9 rfl rfl)
theorem dX5_keepCells_12 : decode cX5_keepCells 12 = .ok (.iload_n 1, 1) := dk_27 (dk_at dksX5_keepCells_0 12 rfl rfl)
theorem dX5_keepCells_13 : decode cX5_keepCells 13 = .ok (.iload_n 2, 1) := dk_28 (dk_at dksX5_keepCells_0 13 rfl rfl)
theorem dX5_keepCells_14 : decode cX5_keepCells 14 = .ok (.iadd, 1) := dk_96 (dk_at dksX5_keepCells_0 14 rfl rfl)
theorem dX5_keepCells_15 : decode cX5_keepCells 15 = .ok (.aload_n 0, 1) := dk_42 (dk_at dksX5_keepCells_0 15 rfl rfl)
theorem dX5_keepCells_16 : decode cX5_keepCells 16 = .ok (.iload_n 2, 1) := dk_28 (dk_at dksX5_keepCells_0 16 rfl rfl)
theorem dX5_keepCells_17 : decode cX5_keepCells 17 = .ok (.iconst 3, 1) := dk_6 (dk_at dksX5_keepCells_0 17 rfl rfl)
theorem dX5_keepCells_18 : decode cX5_keepCells 18 = .ok (.invokevirtual 165, 3) := dk_182 0 165 (dk_at dksX5_keepCells_0 18 rfl rfl)
theorem dX5_keepCells_21 : decode cX5_keepCells 21 = .ok (.iastore, 1) := dk_79 (dk_at dksX5_keepCells_0 21 rfl rfl)
theorem dX5_keepCells_22 : decode cX5_keepCells 22 = .ok (.iinc 2 1, 3) := dk_132 2 1 (dk_at dksX5_keepCells_1 0 rfl rfl)
theorem dX5_keepCells_25 : decode cX5_keepCells 25 = .ok (.goto (-23), 3) := dk_167 255 233 (dk_at dksX5_keepCells_1 3 rfl rfl)
theorem dX5_keepCells_28 : decode cX5_keepCells 28 = .ok (.return_, 1) := dk_177 (dk_at dksX5_keepCells_1 6 rfl rfl)
abbrev cX5_goRound : ByteArray := prog_22_method_88_code
def yX5_goRound : MethodName := ⟨RX5, "goRound", "()Z"⟩
def dkwX5_goRound_2 : List UInt8 := [42, 28, 42, 180, 1, 226, 182, 0, 169, 4, 60, 132, 2, 1, 167, 255, 198, 27, 172]
abbrev dktX5_goRound_2 : List UInt8 := dkwX5_goRound_2 ++ []
def dkwX5_goRound_1 : List UInt8 := [28, 42, 28, 6, 182, 0, 165, 182, 1, 235, 62, 42, 28, 182, 1, 238, 42, 180, 1, 229, 29, 164, 0, 14]
abbrev dktX5_goRound_1 : List UInt8 := dkwX5_goRound_1 ++ dktX5_goRound_2
def dkwX5_goRound_0 : List UInt8 := [3, 60, 3, 61, 28, 42, 180, 0, 13, 3, 46, 162, 0, 54, 42, 28, 4, 182, 0, 165, 158, 0, 39, 42]
abbrev dktX5_goRound_0 : List UInt8 := dkwX5_goRound_0 ++ dktX5_goRound_1
theorem dksX5_goRound_0 : cX5_goRound.data.toList.drop 0 = dktX5_goRound_0 := by decide +kernel
theorem dksX5_goRound_1 : cX5_goRound.data.toList.drop 24 = dktX5_goRound_1 := dk_seg dksX5_goRound_0 24 rfl rfl
theorem dksX5_goRound_2 : cX5_goRound.data.toList.drop 48 = dktX5_goRound_2 := dk_seg dksX5_goRound_1 24 rfl rfl
theorem dX5_goRound_0 : decode cX5_goRound 0 = .ok (.iconst 0, 1) := dk_3 (dk_at dksX5_goRound_0 0 rfl rfl)
theorem dX5_goRound_1 : decode cX5_goRound 1 = .ok (.istore_n 1, 1) := dk_60 (dk_at dksX5_goRound_0 1 rfl rfl)
theorem dX5_goRound_2 : decode cX5_goRound 2 = .ok (.iconst 0, 1) := dk_3 (dk_at dksX5_goRound_0 2 rfl rfl)
theorem dX5_goRound_3 : decode cX5_goRound 3 = .ok (.istore_n 2, 1) := dk_61 (dk_at dksX5_goRound_0 3 rfl rfl)
theorem dX5_goRound_4 : decode cX5_goRound 4 = .ok (.iload_n 2, 1) := dk_28 (dk_at dksX5_goRound_0 4 rfl rfl)
theorem dX5_goRound_5 : decode cX5_goRound 5 = .ok (.aload_n 0, 1) := dk_42 (dk_at dksX5_goRound_0 5 rfl rfl)
theorem dX5_goRound_6 : decode cX5_goRound 6 = .ok (.getfield 13, 3) := dk_180 0 13 (dk_at dksX5_goRound_0 6 rfl rfl)
theorem dX5_goRound_9 : decode cX5_goRound 9 = .ok (.iconst 0, 1) := dk_3 (dk_at dksX5_goRound_0 9 rfl rfl)
theorem dX5_goRound_10 : decode cX5_goRound 10 = .ok (.iaload, 1) := dk_46 (dk_at dksX5_goRound_0 10 rfl rfl)
theorem dX5_goRound_11 : decode cX5_goRound 11 = .ok (.if_icmp .ge 54, 3) := dk_162 0 54 (dk_at dksX5_goRound_0 11 rfl rfl)
theorem dX5_goRound_14 : decode cX5_goRound 14 = .ok (.aload_n 0, 1) := dk_42 (dk_at dksX5_goRound_0 14 rfl rfl)
theorem dX5_goRound_15 : decode cX5_goRound 15 = .ok (.iload_n 2, 1) := dk_28 (dk_at dksX5_goRound_0 15 rfl rfl)
theorem dX5_goRound_16 : decode cX5_goRound 16 = .ok (.iconst 1, 1) := dk_4 (dk_at dksX5_goRound_0 16 rfl rfl)
theorem dX5_goRound_17 : decode cX5_goRound 17 = .ok (.invokevirtual 165, 3) := dk_182 0 165 (dk_at dksX5_goRound_0 17 rfl rfl)
theorem dX5_goRound_20 : decode cX5_goRound 20 = .ok (.ifCond .le 39, 3) := dk_158 0 39 (dk_at dksX5_goRound_0 20 rfl rfl)
theorem dX5_goRound_23 : decode cX5_goRound 23 = .ok (.aload_n 0, 1) := dk_42 (dk_at dksX5_goRound_0 23 rfl rfl)
theorem dX5_goRound_24 : decode cX5_goRound 24 = .ok (.iload_n 2, 1) := dk_28 (dk_at dksX5_goRound_1 0 rfl rfl)
theorem dX5_goRound_25 : decode cX5_goRound 25 = .ok (.aload_n 0, 1) := dk_42 (dk_at dksX5_goRound_1 1 rfl rfl)
theorem dX5_goRound_26 : decode cX5_goRound 26 = .ok (.iload_n 2, 1) := dk_28 (dk_at dksX5_goRound_1 2 rfl rfl)
theorem dX5_goRound_27 : decode cX5_goRound 27 = .ok (.iconst 3, 1) := dk_6 (dk_at dksX5_goRound_1 3 rfl rfl)
theorem dX5_goRound_28 : decode cX5_goRound 28 = .ok (.invokevirtual 165, 3) := dk_182 0 165 (dk_at dksX5_goRound_1 4 rfl rfl)
theorem dX5_goRound_31 : decode cX5_goRound 31 = .ok (.invokevirtual 491, 3) := dk_182 1 235 (dk_at dksX5_goRound_1 7 rfl rfl)
theorem dX5_goRound_34 : decode cX5_goRound 34 = .ok (.istore_n 3, 1) := dk_62 (dk_at dksX5_goRound_1 10 rfl rfl)
theorem dX5_goRound_35 : decode cX5_goRound 35 = .ok (.aload_n 0, 1) := dk_42 (dk_at dksX5_goRound_1 11 rfl rfl)
theorem dX5_goRound_36 : decode cX5_goRound 36 = .ok (.iload_n 2, 1) := dk_28 (dk_at dksX5_goRound_1 12 rfl rfl)
theorem dX5_goRound_37 : decode cX5_goRound 37 = .ok (.invokevirtual 494, 3) := dk_182 1 238 (dk_at dksX5_goRound_1 13 rfl rfl)
theorem dX5_goRound_40 : decode cX5_goRound 40 = .ok (.aload_n 0, 1) := dk_42 (dk_at dksX5_goRound_1 16 rfl rfl)
theorem dX5_goRound_41 : decode cX5_goRound 41 = .ok (.getfield 485, 3) := dk_180 1 229 (dk_at dksX5_goRound_1 17 rfl rfl)
theorem dX5_goRound_44 : decode cX5_goRound 44 = .ok (.iload_n 3, 1) := dk_29 (dk_at dksX5_goRound_1 20 rfl rfl)
theorem dX5_goRound_45 : decode cX5_goRound 45 = .ok (.if_icmp .le 14, 3) := dk_164 0 14 (dk_at dksX5_goRound_1 21 rfl rfl)
theorem dX5_goRound_48 : decode cX5_goRound 48 = .ok (.aload_n 0, 1) := dk_42 (dk_at dksX5_goRound_2 0 rfl rfl)
theorem dX5_goRound_49 : decode cX5_goRound 49 = .ok (.iload_n 2, 1) := dk_28 (dk_at dksX5_goRound_2 1 rfl rfl)
theorem dX5_goRound_50 : decode cX5_goRound 50 = .ok (.aload_n 0, 1) := dk_42 (dk_at dksX5_goRound_2 2 rfl rfl)
theorem dX5_goRound_51 : decode cX5_goRound 51 = .ok (.getfield 482, 3) := dk_180 1 226 (dk_at dksX5_goRound_2 3 rfl rfl)
theorem dX5_goRound_54 : decode cX5_goRound 54 = .ok (.invokevirtual 169, 3) := dk_182 0 169 (dk_at dksX5_goRound_2 6 rfl rfl)
theorem dX5_goRound_57 : decode cX5_goRound 57 = .ok (.iconst 1, 1) := dk_4 (dk_at dksX5_goRound_2 9 rfl rfl)
theorem dX5_goRound_58 : decode cX5_goRound 58 = .ok (.istore_n 1, 1) := dk_60 (dk_at dksX5_goRound_2 10 rfl rfl)
theorem dX5_goRound_59 : decode cX5_goRound 59 = .ok (.iinc 2 1, 3) := dk_132 2 1 (dk_at dksX5_goRound_2 11 rfl rfl)
theorem dX5_goRound_62 : decode cX5_goRound 62 = .ok (.goto (-58), 3) := dk_167 255 198 (dk_at dksX5_goRound_2 14 rfl rfl)
theorem dX5_goRound_65 : decode cX5_goRound 65 = .ok (.iload_n 1, 1) := dk_27 (dk_at dksX5_goRound_2 17 rfl rfl)
theorem dX5_goRound_66 : decode cX5_goRound 66 = .ok (.ireturn, 1) := dk_172 (dk_at dksX5_goRound_2 18 rfl rfl)
abbrev cX5_friend : ByteArray := prog_22_method_94_code
def yX5_friend : MethodName := ⟨RX5, "friend", "(II)J"⟩
def dkwX5_friend_3 : List UInt8 := [182, 2, 6, 132, 3, 1, 167, 255, 217, 42, 42, 180, 1, 244, 28, 182, 2, 10, 173]
abbrev dktX5_friend_3 : List UInt8 := dkwX5_friend_3 ++ []
def dkwX5_friend_2 : List UInt8 := [42, 182, 1, 223, 42, 29, 29, 42, 180, 0, 137, 27, 46, 133, 16, 60, 42, 180, 1, 180, 104, 133]
abbrev dktX5_friend_2 : List UInt8 := dkwX5_friend_2 ++ dktX5_friend_3
def dkwX5_friend_1 : List UInt8 := [154, 0, 7, 20, 0, 221, 173, 42, 182, 2, 0, 3, 62, 29, 16, 25, 162, 0, 39, 42, 29, 182, 2, 3]
abbrev dktX5_friend_1 : List UInt8 := dkwX5_friend_1 ++ dktX5_friend_2
def dkwX5_friend_0 : List UInt8 := [42, 3, 181, 0, 149, 42, 27, 182, 0, 207, 153, 0, 15, 28, 133, 9, 20, 0, 187, 184, 0, 159]
abbrev dktX5_friend_0 : List UInt8 := dkwX5_friend_0 ++ dktX5_friend_1
theorem dksX5_friend_0 : cX5_friend.data.toList.drop 0 = dktX5_friend_0 := by decide +kernel
theorem dksX5_friend_1 : cX5_friend.data.toList.drop 22 = dktX5_friend_1 := dk_seg dksX5_friend_0 22 rfl rfl
theorem dksX5_friend_2 : cX5_friend.data.toList.drop 46 = dktX5_friend_2 := dk_seg dksX5_friend_1 24 rfl rfl
theorem dksX5_friend_3 : cX5_friend.data.toList.drop 68 = dktX5_friend_3 := dk_seg dksX5_friend_2 22 rfl rfl
theorem dX5_friend_0 : decode cX5_friend 0 = .ok (.aload_n 0, 1) := dk_42 (dk_at dksX5_friend_0 0 rfl rfl)
theorem dX5_friend_1 : decode cX5_friend 1 = .ok (.iconst 0, 1) := dk_3 (dk_at dksX5_friend_0 1 rfl rfl)
theorem dX5_friend_2 : decode cX5_friend 2 = .ok (.putfield 149, 3) := dk_181 0 149 (dk_at dksX5_friend_0 2 rfl rfl)
theorem dX5_friend_5 : decode cX5_friend 5 = .ok (.aload_n 0, 1) := dk_42 (dk_at dksX5_friend_0 5 rfl rfl)
theorem dX5_friend_6 : decode cX5_friend 6 = .ok (.iload_n 1, 1) := dk_27 (dk_at dksX5_friend_0 6 rfl rfl)
theorem dX5_friend_7 : decode cX5_friend 7 = .ok (.invokevirtual 207, 3) := dk_182 0 207 (dk_at dksX5_friend_0 7 rfl rfl)
theorem dX5_friend_10 : decode cX5_friend 10 = .ok (.ifCond .eq 15, 3) := dk_153 0 15 (dk_at dksX5_friend_0 10 rfl rfl)
theorem dX5_friend_13 : decode cX5_friend 13 = .ok (.iload_n 2, 1) := dk_28 (dk_at dksX5_friend_0 13 rfl rfl)
theorem dX5_friend_14 : decode cX5_friend 14 = .ok (.i2l, 1) := dk_133 (dk_at dksX5_friend_0 14 rfl rfl)
theorem dX5_friend_15 : decode cX5_friend 15 = .ok (.lconst 0, 1) := dk_9 (dk_at dksX5_friend_0 15 rfl rfl)
theorem dX5_friend_16 : decode cX5_friend 16 = .ok (.ldc2_w 187, 3) := dk_20 0 187 (dk_at dksX5_friend_0 16 rfl rfl)
theorem dX5_friend_19 : decode cX5_friend 19 = .ok (.invokestatic 159, 3) := dk_184 0 159 (dk_at dksX5_friend_0 19 rfl rfl)
theorem dX5_friend_22 : decode cX5_friend 22 = .ok (.ifCond .ne 7, 3) := dk_154 0 7 (dk_at dksX5_friend_1 0 rfl rfl)
theorem dX5_friend_25 : decode cX5_friend 25 = .ok (.ldc2_w 221, 3) := dk_20 0 221 (dk_at dksX5_friend_1 3 rfl rfl)
theorem dX5_friend_28 : decode cX5_friend 28 = .ok (.lreturn, 1) := dk_173 (dk_at dksX5_friend_1 6 rfl rfl)
theorem dX5_friend_29 : decode cX5_friend 29 = .ok (.aload_n 0, 1) := dk_42 (dk_at dksX5_friend_1 7 rfl rfl)
theorem dX5_friend_30 : decode cX5_friend 30 = .ok (.invokevirtual 512, 3) := dk_182 2 0 (dk_at dksX5_friend_1 8 rfl rfl)
theorem dX5_friend_33 : decode cX5_friend 33 = .ok (.iconst 0, 1) := dk_3 (dk_at dksX5_friend_1 11 rfl rfl)
theorem dX5_friend_34 : decode cX5_friend 34 = .ok (.istore_n 3, 1) := dk_62 (dk_at dksX5_friend_1 12 rfl rfl)
theorem dX5_friend_35 : decode cX5_friend 35 = .ok (.iload_n 3, 1) := dk_29 (dk_at dksX5_friend_1 13 rfl rfl)
theorem dX5_friend_36 : decode cX5_friend 36 = .ok (.bipush 25, 2) := dk_16 25 (dk_at dksX5_friend_1 14 rfl rfl)
theorem dX5_friend_38 : decode cX5_friend 38 = .ok (.if_icmp .ge 39, 3) := dk_162 0 39 (dk_at dksX5_friend_1 16 rfl rfl)
theorem dX5_friend_41 : decode cX5_friend 41 = .ok (.aload_n 0, 1) := dk_42 (dk_at dksX5_friend_1 19 rfl rfl)
theorem dX5_friend_42 : decode cX5_friend 42 = .ok (.iload_n 3, 1) := dk_29 (dk_at dksX5_friend_1 20 rfl rfl)
theorem dX5_friend_43 : decode cX5_friend 43 = .ok (.invokevirtual 515, 3) := dk_182 2 3 (dk_at dksX5_friend_1 21 rfl rfl)
theorem dX5_friend_46 : decode cX5_friend 46 = .ok (.aload_n 0, 1) := dk_42 (dk_at dksX5_friend_2 0 rfl rfl)
theorem dX5_friend_47 : decode cX5_friend 47 = .ok (.invokevirtual 479, 3) := dk_182 1 223 (dk_at dksX5_friend_2 1 rfl rfl)
theorem dX5_friend_50 : decode cX5_friend 50 = .ok (.aload_n 0, 1) := dk_42 (dk_at dksX5_friend_2 4 rfl rfl)
theorem dX5_friend_51 : decode cX5_friend 51 = .ok (.iload_n 3, 1) := dk_29 (dk_at dksX5_friend_2 5 rfl rfl)
theorem dX5_friend_52 : decode cX5_friend 52 = .ok (.iload_n 3, 1) := dk_29 (dk_at dksX5_friend_2 6 rfl rfl)
theorem dX5_friend_53 : decode cX5_friend 53 = .ok (.aload_n 0, 1) := dk_42 (dk_at dksX5_friend_2 7 rfl rfl)
theorem dX5_friend_54 : decode cX5_friend 54 = .ok (.getfield 137, 3) := dk_180 0 137 (dk_at dksX5_friend_2 8 rfl rfl)
theorem dX5_friend_57 : decode cX5_friend 57 = .ok (.iload_n 1, 1) := dk_27 (dk_at dksX5_friend_2 11 rfl rfl)
theorem dX5_friend_58 : decode cX5_friend 58 = .ok (.iaload, 1) := dk_46 (dk_at dksX5_friend_2 12 rfl rfl)
theorem dX5_friend_59 : decode cX5_friend 59 = .ok (.i2l, 1) := dk_133 (dk_at dksX5_friend_2 13 rfl rfl)
theorem dX5_friend_60 : decode cX5_friend 60 = .ok (.bipush 60, 2) := dk_16 60 (dk_at dksX5_friend_2 14 rfl rfl)
theorem dX5_friend_62 : decode cX5_friend 62 = .ok (.aload_n 0, 1) := dk_42 (dk_at dksX5_friend_2 16 rfl rfl)
theorem dX5_friend_63 : decode cX5_friend 63 = .ok (.getfield 436, 3) := dk_180 1 180 (dk_at dksX5_friend_2 17 rfl rfl)
theorem dX5_friend_66 : decode cX5_friend 66 = .ok (.imul, 1) := dk_104 (dk_at dksX5_friend_2 20 rfl rfl)
theorem dX5_friend_67 : decode cX5_friend 67 = .ok (.i2l, 1) := dk_133 (dk_at dksX5_friend_2 21 rfl rfl)
theorem dX5_friend_68 : decode cX5_friend 68 = .ok (.invokevirtual 518, 3) := dk_182 2 6 (dk_at dksX5_friend_3 0 rfl rfl)
theorem dX5_friend_71 : decode cX5_friend 71 = .ok (.iinc 3 1, 3) := dk_132 3 1 (dk_at dksX5_friend_3 3 rfl rfl)
theorem dX5_friend_74 : decode cX5_friend 74 = .ok (.goto (-39), 3) := dk_167 255 217 (dk_at dksX5_friend_3 6 rfl rfl)
theorem dX5_friend_77 : decode cX5_friend 77 = .ok (.aload_n 0, 1) := dk_42 (dk_at dksX5_friend_3 9 rfl rfl)
theorem dX5_friend_78 : decode cX5_friend 78 = .ok (.aload_n 0, 1) := dk_42 (dk_at dksX5_friend_3 10 rfl rfl)
theorem dX5_friend_79 : decode cX5_friend 79 = .ok (.getfield 500, 3) := dk_180 1 244 (dk_at dksX5_friend_3 11 rfl rfl)
theorem dX5_friend_82 : decode cX5_friend 82 = .ok (.iload_n 2, 1) := dk_28 (dk_at dksX5_friend_3 14 rfl rfl)
theorem dX5_friend_83 : decode cX5_friend 83 = .ok (.invokevirtual 522, 3) := dk_182 2 10 (dk_at dksX5_friend_3 15 rfl rfl)
theorem dX5_friend_86 : decode cX5_friend 86 = .ok (.lreturn, 1) := dk_173 (dk_at dksX5_friend_3 18 rfl rfl)
abbrev cX5_beginBest : ByteArray := prog_22_method_90_code
def yX5_beginBest : MethodName := ⟨RX5, "beginBest", "()V"⟩
def dkwX5_beginBest_0 : List UInt8 := [42, 2, 181, 1, 244, 42, 2, 181, 1, 247, 42, 20, 0, 221, 181, 1, 250, 42, 10, 181, 1, 253, 177]
abbrev dktX5_beginBest_0 : List UInt8 := dkwX5_beginBest_0 ++ []
theorem dksX5_beginBest_0 : cX5_beginBest.data.toList.drop 0 = dktX5_beginBest_0 := by decide +kernel
theorem dX5_beginBest_0 : decode cX5_beginBest 0 = .ok (.aload_n 0, 1) := dk_42 (dk_at dksX5_beginBest_0 0 rfl rfl)
theorem dX5_beginBest_1 : decode cX5_beginBest 1 = .ok (.iconst (-1), 1) := dk_2 (dk_at dksX5_beginBest_0 1 rfl rfl)
theorem dX5_beginBest_2 : decode cX5_beginBest 2 = .ok (.putfield 500, 3) := dk_181 1 244 (dk_at dksX5_beginBest_0 2 rfl rfl)
theorem dX5_beginBest_5 : decode cX5_beginBest 5 = .ok (.aload_n 0, 1) := dk_42 (dk_at dksX5_beginBest_0 5 rfl rfl)
theorem dX5_beginBest_6 : decode cX5_beginBest 6 = .ok (.iconst (-1), 1) := dk_2 (dk_at dksX5_beginBest_0 6 rfl rfl)
theorem dX5_beginBest_7 : decode cX5_beginBest 7 = .ok (.putfield 503, 3) := dk_181 1 247 (dk_at dksX5_beginBest_0 7 rfl rfl)
theorem dX5_beginBest_10 : decode cX5_beginBest 10 = .ok (.aload_n 0, 1) := dk_42 (dk_at dksX5_beginBest_0 10 rfl rfl)
theorem dX5_beginBest_11 : decode cX5_beginBest 11 = .ok (.ldc2_w 221, 3) := dk_20 0 221 (dk_at dksX5_beginBest_0 11 rfl rfl)
theorem dX5_beginBest_14 : decode cX5_beginBest 14 = .ok (.putfield 506, 3) := dk_181 1 250 (dk_at dksX5_beginBest_0 14 rfl rfl)
theorem dX5_beginBest_17 : decode cX5_beginBest 17 = .ok (.aload_n 0, 1) := dk_42 (dk_at dksX5_beginBest_0 17 rfl rfl)
theorem dX5_beginBest_18 : decode cX5_beginBest 18 = .ok (.lconst 1, 1) := dk_10 (dk_at dksX5_beginBest_0 18 rfl rfl)
theorem dX5_beginBest_19 : decode cX5_beginBest 19 = .ok (.putfield 509, 3) := dk_181 1 253 (dk_at dksX5_beginBest_0 19 rfl rfl)
theorem dX5_beginBest_22 : decode cX5_beginBest 22 = .ok (.return_, 1) := dk_177 (dk_at dksX5_beginBest_0 22 rfl rfl)
abbrev cX5_aimAt : ByteArray := prog_22_method_92_code
def yX5_aimAt : MethodName := ⟨RX5, "aimAt", "(I)V"⟩
def dkwX5_aimAt_0 : List UInt8 := [42, 27, 8, 108, 4, 96, 27, 8, 112, 5, 100, 182, 1, 189, 177]
abbrev dktX5_aimAt_0 : List UInt8 := dkwX5_aimAt_0 ++ []
theorem dksX5_aimAt_0 : cX5_aimAt.data.toList.drop 0 = dktX5_aimAt_0 := by decide +kernel
theorem dX5_aimAt_0 : decode cX5_aimAt 0 = .ok (.aload_n 0, 1) := dk_42 (dk_at dksX5_aimAt_0 0 rfl rfl)
theorem dX5_aimAt_1 : decode cX5_aimAt 1 = .ok (.iload_n 1, 1) := dk_27 (dk_at dksX5_aimAt_0 1 rfl rfl)
theorem dX5_aimAt_2 : decode cX5_aimAt 2 = .ok (.iconst 5, 1) := dk_8 (dk_at dksX5_aimAt_0 2 rfl rfl)
theorem dX5_aimAt_3 : decode cX5_aimAt 3 = .ok (.idiv, 1) := dk_108 (dk_at dksX5_aimAt_0 3 rfl rfl)
theorem dX5_aimAt_4 : decode cX5_aimAt 4 = .ok (.iconst 1, 1) := dk_4 (dk_at dksX5_aimAt_0 4 rfl rfl)
theorem dX5_aimAt_5 : decode cX5_aimAt 5 = .ok (.iadd, 1) := dk_96 (dk_at dksX5_aimAt_0 5 rfl rfl)
theorem dX5_aimAt_6 : decode cX5_aimAt 6 = .ok (.iload_n 1, 1) := dk_27 (dk_at dksX5_aimAt_0 6 rfl rfl)
theorem dX5_aimAt_7 : decode cX5_aimAt 7 = .ok (.iconst 5, 1) := dk_8 (dk_at dksX5_aimAt_0 7 rfl rfl)
theorem dX5_aimAt_8 : decode cX5_aimAt 8 = .ok (.irem, 1) := dk_112 (dk_at dksX5_aimAt_0 8 rfl rfl)
theorem dX5_aimAt_9 : decode cX5_aimAt 9 = .ok (.iconst 2, 1) := dk_5 (dk_at dksX5_aimAt_0 9 rfl rfl)
theorem dX5_aimAt_10 : decode cX5_aimAt 10 = .ok (.isub, 1) := dk_100 (dk_at dksX5_aimAt_0 10 rfl rfl)
theorem dX5_aimAt_11 : decode cX5_aimAt 11 = .ok (.invokevirtual 445, 3) := dk_182 1 189 (dk_at dksX5_aimAt_0 11 rfl rfl)
theorem dX5_aimAt_14 : decode cX5_aimAt 14 = .ok (.return_, 1) := dk_177 (dk_at dksX5_aimAt_0 14 rfl rfl)
abbrev cX5_weigh : ByteArray := prog_22_method_91_code
def yX5_weigh : MethodName := ⟨RX5, "weigh", "(IIJJ)V"⟩
def dkwX5_weigh_1 : List UInt8 := [181, 1, 247, 42, 33, 181, 1, 250, 42, 22, 5, 181, 1, 253, 177]
abbrev dktX5_weigh_1 : List UInt8 := dkwX5_weigh_1 ++ []
def dkwX5_weigh_0 : List UInt8 := [33, 42, 180, 1, 253, 105, 42, 180, 1, 250, 22, 5, 105, 148, 158, 0, 24, 42, 28, 181, 1, 244, 42, 27]
abbrev dktX5_weigh_0 : List UInt8 := dkwX5_weigh_0 ++ dktX5_weigh_1
theorem dksX5_weigh_0 : cX5_weigh.data.toList.drop 0 = dktX5_weigh_0 := by decide +kernel
theorem dksX5_weigh_1 : cX5_weigh.data.toList.drop 24 = dktX5_weigh_1 := dk_seg dksX5_weigh_0 24 rfl rfl
theorem dX5_weigh_0 : decode cX5_weigh 0 = .ok (.lload_n 3, 1) := dk_33 (dk_at dksX5_weigh_0 0 rfl rfl)
theorem dX5_weigh_1 : decode cX5_weigh 1 = .ok (.aload_n 0, 1) := dk_42 (dk_at dksX5_weigh_0 1 rfl rfl)
theorem dX5_weigh_2 : decode cX5_weigh 2 = .ok (.getfield 509, 3) := dk_180 1 253 (dk_at dksX5_weigh_0 2 rfl rfl)
theorem dX5_weigh_5 : decode cX5_weigh 5 = .ok (.lmul, 1) := dk_105 (dk_at dksX5_weigh_0 5 rfl rfl)
theorem dX5_weigh_6 : decode cX5_weigh 6 = .ok (.aload_n 0, 1) := dk_42 (dk_at dksX5_weigh_0 6 rfl rfl)
theorem dX5_weigh_7 : decode cX5_weigh 7 = .ok (.getfield 506, 3) := dk_180 1 250 (dk_at dksX5_weigh_0 7 rfl rfl)
theorem dX5_weigh_10 : decode cX5_weigh 10 = .ok (.lload 5, 2) := dk_22 5 (dk_at dksX5_weigh_0 10 rfl rfl)
theorem dX5_weigh_12 : decode cX5_weigh 12 = .ok (.lmul, 1) := dk_105 (dk_at dksX5_weigh_0 12 rfl rfl)
theorem dX5_weigh_13 : decode cX5_weigh 13 = .ok (.lcmp, 1) := dk_148 (dk_at dksX5_weigh_0 13 rfl rfl)
theorem dX5_weigh_14 : decode cX5_weigh 14 = .ok (.ifCond .le 24, 3) := dk_158 0 24 (dk_at dksX5_weigh_0 14 rfl rfl)
theorem dX5_weigh_17 : decode cX5_weigh 17 = .ok (.aload_n 0, 1) := dk_42 (dk_at dksX5_weigh_0 17 rfl rfl)
theorem dX5_weigh_18 : decode cX5_weigh 18 = .ok (.iload_n 2, 1) := dk_28 (dk_at dksX5_weigh_0 18 rfl rfl)
theorem dX5_weigh_19 : decode cX5_weigh 19 = .ok (.putfield 500, 3) := dk_181 1 244 (dk_at dksX5_weigh_0 19 rfl rfl)
theorem dX5_weigh_22 : decode cX5_weigh 22 = .ok (.aload_n 0, 1) := dk_42 (dk_at dksX5_weigh_0 22 rfl rfl)
theorem dX5_weigh_23 : decode cX5_weigh 23 = .ok (.iload_n 1, 1) := dk_27 (dk_at dksX5_weigh_0 23 rfl rfl)
theorem dX5_weigh_24 : decode cX5_weigh 24 = .ok (.putfield 503, 3) := dk_181 1 247 (dk_at dksX5_weigh_1 0 rfl rfl)
theorem dX5_weigh_27 : decode cX5_weigh 27 = .ok (.aload_n 0, 1) := dk_42 (dk_at dksX5_weigh_1 3 rfl rfl)
theorem dX5_weigh_28 : decode cX5_weigh 28 = .ok (.lload_n 3, 1) := dk_33 (dk_at dksX5_weigh_1 4 rfl rfl)
theorem dX5_weigh_29 : decode cX5_weigh 29 = .ok (.putfield 506, 3) := dk_181 1 250 (dk_at dksX5_weigh_1 5 rfl rfl)
theorem dX5_weigh_32 : decode cX5_weigh 32 = .ok (.aload_n 0, 1) := dk_42 (dk_at dksX5_weigh_1 8 rfl rfl)
theorem dX5_weigh_33 : decode cX5_weigh 33 = .ok (.lload 5, 2) := dk_22 5 (dk_at dksX5_weigh_1 9 rfl rfl)
theorem dX5_weigh_35 : decode cX5_weigh 35 = .ok (.putfield 509, 3) := dk_181 1 253 (dk_at dksX5_weigh_1 11 rfl rfl)
theorem dX5_weigh_38 : decode cX5_weigh 38 = .ok (.return_, 1) := dk_177 (dk_at dksX5_weigh_1 14 rfl rfl)
abbrev cX5_tellThrow : ByteArray := prog_22_method_93_code
def yX5_tellThrow : MethodName := ⟨RX5, "tellThrow", "(II)J"⟩
def dkwX5_tellThrow_2 : List UInt8 := [180, 1, 195, 173]
abbrev dktX5_tellThrow_2 : List UInt8 := dkwX5_tellThrow_2 ++ []
def dkwX5_tellThrow_1 : List UInt8 := [42, 180, 1, 250, 42, 180, 1, 253, 182, 1, 201, 28, 5, 160, 0, 10, 42, 180, 1, 192, 167, 0, 7, 42]
abbrev dktX5_tellThrow_1 : List UInt8 := dkwX5_tellThrow_1 ++ dktX5_tellThrow_2
def dkwX5_tellThrow_0 : List UInt8 := [28, 5, 162, 0, 21, 28, 154, 0, 12, 27, 8, 108, 4, 96, 133, 167, 0, 7, 27, 8, 112, 133, 173, 42]
abbrev dktX5_tellThrow_0 : List UInt8 := dkwX5_tellThrow_0 ++ dktX5_tellThrow_1
theorem dksX5_tellThrow_0 : cX5_tellThrow.data.toList.drop 0 = dktX5_tellThrow_0 := by decide +kernel
theorem dksX5_tellThrow_1 : cX5_tellThrow.data.toList.drop 24 = dktX5_tellThrow_1 := dk_seg dksX5_tellThrow_0 24 rfl rfl
theorem dksX5_tellThrow_2 : cX5_tellThrow.data.toList.drop 48 = dktX5_tellThrow_2 := dk_seg dksX5_tellThrow_1 24 rfl rfl
theorem dX5_tellThrow_0 : decode cX5_tellThrow 0 = .ok (.iload_n 2, 1) := dk_28 (dk_at dksX5_tellThrow_0 0 rfl rfl)
theorem dX5_tellThrow_1 : decode cX5_tellThrow 1 = .ok (.iconst 2, 1) := dk_5 (dk_at dksX5_tellThrow_0 1 rfl rfl)
theorem dX5_tellThrow_2 : decode cX5_tellThrow 2 = .ok (.if_icmp .ge 21, 3) := dk_162 0 21 (dk_at dksX5_tellThrow_0 2 rfl rfl)
theorem dX5_tellThrow_5 : decode cX5_tellThrow 5 = .ok (.iload_n 2, 1) := dk_28 (dk_at dksX5_tellThrow_0 5 rfl rfl)
theorem dX5_tellThrow_6 : decode cX5_tellThrow 6 = .ok (.ifCond .ne 12, 3) := dk_154 0 12 (dk_at dksX5_tellThrow_0 6 rfl rfl)
theorem dX5_tellThrow_9 : decode cX5_tellThrow 9 = .ok (.iload_n 1, 1) := dk_27 (dk_at dksX5_tellThrow_0 9 rfl rfl)
theorem dX5_tellThrow_10 : decode cX5_tellThrow 10 = .ok (.iconst 5, 1) := dk_8 (dk_at dksX5_tellThrow_0 10 rfl rfl)
theorem dX5_tellThrow_11 : decode cX5_tellThrow 11 = .ok (.idiv, 1) := dk_108 (dk_at dksX5_tellThrow_0 11 rfl rfl)
theorem dX5_tellThrow_12 : decode cX5_tellThrow 12 = .ok (.iconst 1, 1) := dk_4 (dk_at dksX5_tellThrow_0 12 rfl rfl)
theorem dX5_tellThrow_13 : decode cX5_tellThrow 13 = .ok (.iadd, 1) := dk_96 (dk_at dksX5_tellThrow_0 13 rfl rfl)
theorem dX5_tellThrow_14 : decode cX5_tellThrow 14 = .ok (.i2l, 1) := dk_133 (dk_at dksX5_tellThrow_0 14 rfl rfl)
theorem dX5_tellThrow_15 : decode cX5_tellThrow 15 = .ok (.goto 7, 3) := dk_167 0 7 (dk_at dksX5_tellThrow_0 15 rfl rfl)
theorem dX5_tellThrow_18 : decode cX5_tellThrow 18 = .ok (.iload_n 1, 1) := dk_27 (dk_at dksX5_tellThrow_0 18 rfl rfl)
theorem dX5_tellThrow_19 : decode cX5_tellThrow 19 = .ok (.iconst 5, 1) := dk_8 (dk_at dksX5_tellThrow_0 19 rfl rfl)
theorem dX5_tellThrow_20 : decode cX5_tellThrow 20 = .ok (.irem, 1) := dk_112 (dk_at dksX5_tellThrow_0 20 rfl rfl)
theorem dX5_tellThrow_21 : decode cX5_tellThrow 21 = .ok (.i2l, 1) := dk_133 (dk_at dksX5_tellThrow_0 21 rfl rfl)
theorem dX5_tellThrow_22 : decode cX5_tellThrow 22 = .ok (.lreturn, 1) := dk_173 (dk_at dksX5_tellThrow_0 22 rfl rfl)
theorem dX5_tellThrow_23 : decode cX5_tellThrow 23 = .ok (.aload_n 0, 1) := dk_42 (dk_at dksX5_tellThrow_0 23 rfl rfl)
theorem dX5_tellThrow_24 : decode cX5_tellThrow 24 = .ok (.aload_n 0, 1) := dk_42 (dk_at dksX5_tellThrow_1 0 rfl rfl)
theorem dX5_tellThrow_25 : decode cX5_tellThrow 25 = .ok (.getfield 506, 3) := dk_180 1 250 (dk_at dksX5_tellThrow_1 1 rfl rfl)
theorem dX5_tellThrow_28 : decode cX5_tellThrow 28 = .ok (.aload_n 0, 1) := dk_42 (dk_at dksX5_tellThrow_1 4 rfl rfl)
theorem dX5_tellThrow_29 : decode cX5_tellThrow 29 = .ok (.getfield 509, 3) := dk_180 1 253 (dk_at dksX5_tellThrow_1 5 rfl rfl)
theorem dX5_tellThrow_32 : decode cX5_tellThrow 32 = .ok (.invokevirtual 457, 3) := dk_182 1 201 (dk_at dksX5_tellThrow_1 8 rfl rfl)
theorem dX5_tellThrow_35 : decode cX5_tellThrow 35 = .ok (.iload_n 2, 1) := dk_28 (dk_at dksX5_tellThrow_1 11 rfl rfl)
theorem dX5_tellThrow_36 : decode cX5_tellThrow 36 = .ok (.iconst 2, 1) := dk_5 (dk_at dksX5_tellThrow_1 12 rfl rfl)
theorem dX5_tellThrow_37 : decode cX5_tellThrow 37 = .ok (.if_icmp .ne 10, 3) := dk_160 0 10 (dk_at dksX5_tellThrow_1 13 rfl rfl)
theorem dX5_tellThrow_40 : decode cX5_tellThrow 40 = .ok (.aload_n 0, 1) := dk_42 (dk_at dksX5_tellThrow_1 16 rfl rfl)
theorem dX5_tellThrow_41 : decode cX5_tellThrow 41 = .ok (.getfield 448, 3) := dk_180 1 192 (dk_at dksX5_tellThrow_1 17 rfl rfl)
theorem dX5_tellThrow_44 : decode cX5_tellThrow 44 = .ok (.goto 7, 3) := dk_167 0 7 (dk_at dksX5_tellThrow_1 20 rfl rfl)
theorem dX5_tellThrow_47 : decode cX5_tellThrow 47 = .ok (.aload_n 0, 1) := dk_42 (dk_at dksX5_tellThrow_1 23 rfl rfl)
theorem dX5_tellThrow_48 : decode cX5_tellThrow 48 = .ok (.getfield 451, 3) := dk_180 1 195 (dk_at dksX5_tellThrow_2 0 rfl rfl)
theorem dX5_tellThrow_51 : decode cX5_tellThrow 51 = .ok (.lreturn, 1) := dk_173 (dk_at dksX5_tellThrow_2 3 rfl rfl)
abbrev cX5_heard : ByteArray := prog_22_method_96_code
def yX5_heard : MethodName := ⟨RX5, "heard", "(II)J"⟩
def dkwX5_heard_4 : List UInt8 := [167, 255, 206, 42, 42, 180, 1, 244, 28, 182, 2, 10, 173]
abbrev dktX5_heard_4 : List UInt8 := dkwX5_heard_4 ++ []
def dkwX5_heard_3 : List UInt8 := [27, 46, 133, 16, 60, 42, 180, 1, 180, 104, 133, 182, 2, 6, 42, 16, 96, 182, 0, 180, 132, 3, 1]
abbrev dktX5_heard_3 : List UInt8 := dkwX5_heard_3 ++ dktX5_heard_4
def dkwX5_heard_2 : List UInt8 := [162, 0, 50, 42, 29, 182, 2, 3, 42, 27, 182, 2, 14, 42, 182, 1, 223, 42, 29, 29, 42, 180, 0, 137]
abbrev dktX5_heard_2 : List UInt8 := dkwX5_heard_2 ++ dktX5_heard_3
def dkwX5_heard_1 : List UInt8 := [154, 0, 7, 20, 0, 221, 173, 42, 182, 2, 0, 42, 16, 96, 182, 0, 176, 3, 62, 29, 16, 25]
abbrev dktX5_heard_1 : List UInt8 := dkwX5_heard_1 ++ dktX5_heard_2
def dkwX5_heard_0 : List UInt8 := [42, 3, 181, 0, 149, 42, 27, 182, 0, 207, 153, 0, 15, 28, 133, 9, 20, 0, 187, 184, 0, 159]
abbrev dktX5_heard_0 : List UInt8 := dkwX5_heard_0 ++ dktX5_heard_1
theorem dksX5_heard_0 : cX5_heard.data.toList.drop 0 = dktX5_heard_0 := by decide +kernel
theorem dksX5_heard_1 : cX5_heard.data.toList.drop 22 = dktX5_heard_1 := dk_seg dksX5_heard_0 22 rfl rfl
theorem dksX5_heard_2 : cX5_heard.data.toList.drop 44 = dktX5_heard_2 := dk_seg dksX5_heard_1 22 rfl rfl
theorem dksX5_heard_3 : cX5_heard.data.toList.drop 68 = dktX5_heard_3 := dk_seg dksX5_heard_2 24 rfl rfl
theorem dksX5_heard_4 : cX5_heard.data.toList.drop 91 = dktX5_heard_4 := dk_seg dksX5_heard_3 23 rfl rfl
theorem dX5_heard_0 : decode cX5_heard 0 = .ok (.aload_n 0, 1) := dk_42 (dk_at dksX5_heard_0 0 rfl rfl)
theorem dX5_heard_1 : decode cX5_heard 1 = .ok (.iconst 0, 1) := dk_3 (dk_at dksX5_heard_0 1 rfl rfl)
theorem dX5_heard_2 : decode cX5_heard 2 = .ok (.putfield 149, 3) := dk_181 0 149 (dk_at dksX5_heard_0 2 rfl rfl)
theorem dX5_heard_5 : decode cX5_heard 5 = .ok (.aload_n 0, 1) := dk_42 (dk_at dksX5_heard_0 5 rfl rfl)
theorem dX5_heard_6 : decode cX5_heard 6 = .ok (.iload_n 1, 1) := dk_27 (dk_at dksX5_heard_0 6 rfl rfl)
theorem dX5_heard_7 : decode cX5_heard 7 = .ok (.invokevirtual 207, 3) := dk_182 0 207 (dk_at dksX5_heard_0 7 rfl rfl)
theorem dX5_heard_10 : decode cX5_heard 10 = .ok (.ifCond .eq 15, 3) := dk_153 0 15 (dk_at dksX5_heard_0 10 rfl rfl)
theorem dX5_heard_13 : decode cX5_heard 13 = .ok (.iload_n 2, 1) := dk_28 (dk_at dksX5_heard_0 13 rfl rfl)
theorem dX5_heard_14 : decode cX5_heard 14 = .ok (.i2l, 1) := dk_133 (dk_at dksX5_heard_0 14 rfl rfl)
theorem dX5_heard_15 : decode cX5_heard 15 = .ok (.lconst 0, 1) := dk_9 (dk_at dksX5_heard_0 15 rfl rfl)
theorem dX5_heard_16 : decode cX5_heard 16 = .ok (.ldc2_w 187, 3) := dk_20 0 187 (dk_at dksX5_heard_0 16 rfl rfl)
theorem dX5_heard_19 : decode cX5_heard 19 = .ok (.invokestatic 159, 3) := dk_184 0 159 (dk_at dksX5_heard_0 19 rfl rfl)
theorem dX5_heard_22 : decode cX5_heard 22 = .ok (.ifCond .ne 7, 3) := dk_154 0 7 (dk_at dksX5_heard_1 0 rfl rfl)
theorem dX5_heard_25 : decode cX5_heard 25 = .ok (.ldc2_w 221, 3) := dk_20 0 221 (dk_at dksX5_heard_1 3 rfl rfl)
theorem dX5_heard_28 : decode cX5_heard 28 = .ok (.lreturn, 1) := dk_173 (dk_at dksX5_heard_1 6 rfl rfl)
theorem dX5_heard_29 : decode cX5_heard 29 = .ok (.aload_n 0, 1) := dk_42 (dk_at dksX5_heard_1 7 rfl rfl)
theorem dX5_heard_30 : decode cX5_heard 30 = .ok (.invokevirtual 512, 3) := dk_182 2 0 (dk_at dksX5_heard_1 8 rfl rfl)
theorem dX5_heard_33 : decode cX5_heard 33 = .ok (.aload_n 0, 1) := dk_42 (dk_at dksX5_heard_1 11 rfl rfl)
theorem dX5_heard_34 : decode cX5_heard 34 = .ok (.bipush 96, 2) := dk_16 96 (dk_at dksX5_heard_1 12 rfl rfl)
theorem dX5_heard_36 : decode cX5_heard 36 = .ok (.invokevirtual 176, 3) := dk_182 0 176 (dk_at dksX5_heard_1 14 rfl rfl)
theorem dX5_heard_39 : decode cX5_heard 39 = .ok (.iconst 0, 1) := dk_3 (dk_at dksX5_heard_1 17 rfl rfl)
theorem dX5_heard_40 : decode cX5_heard 40 = .ok (.istore_n 3, 1) := dk_62 (dk_at dksX5_heard_1 18 rfl rfl)
theorem dX5_heard_41 : decode cX5_heard 41 = .ok (.iload_n 3, 1) := dk_29 (dk_at dksX5_heard_1 19 rfl rfl)
theorem dX5_heard_42 : decode cX5_heard 42 = .ok (.bipush 25, 2) := dk_16 25 (dk_at dksX5_heard_1 20 rfl rfl)
theorem dX5_heard_44 : decode cX5_heard 44 = .ok (.if_icmp .ge 50, 3) := dk_162 0 50 (dk_at dksX5_heard_2 0 rfl rfl)
theorem dX5_heard_47 : decode cX5_heard 47 = .ok (.aload_n 0, 1) := dk_42 (dk_at dksX5_heard_2 3 rfl rfl)
theorem dX5_heard_48 : decode cX5_heard 48 = .ok (.iload_n 3, 1) := dk_29 (dk_at dksX5_heard_2 4 rfl rfl)
theorem dX5_heard_49 : decode cX5_heard 49 = .ok (.invokevirtual 515, 3) := dk_182 2 3 (dk_at dksX5_heard_2 5 rfl rfl)
theorem dX5_heard_52 : decode cX5_heard 52 = .ok (.aload_n 0, 1) := dk_42 (dk_at dksX5_heard_2 8 rfl rfl)
theorem dX5_heard_53 : decode cX5_heard 53 = .ok (.iload_n 1, 1) := dk_27 (dk_at dksX5_heard_2 9 rfl rfl)
theorem dX5_heard_54 : decode cX5_heard 54 = .ok (.invokevirtual 526, 3) := dk_182 2 14 (dk_at dksX5_heard_2 10 rfl rfl)
theorem dX5_heard_57 : decode cX5_heard 57 = .ok (.aload_n 0, 1) := dk_42 (dk_at dksX5_heard_2 13 rfl rfl)
theorem dX5_heard_58 : decode cX5_heard 58 = .ok (.invokevirtual 479, 3) := dk_182 1 223 (dk_at dksX5_heard_2 14 rfl rfl)
theorem dX5_heard_61 : decode cX5_heard 61 = .ok (.aload_n 0, 1) := dk_42 (dk_at dksX5_heard_2 17 rfl rfl)
theorem dX5_heard_62 : decode cX5_heard 62 = .ok (.iload_n 3, 1) := dk_29 (dk_at dksX5_heard_2 18 rfl rfl)
theorem dX5_heard_63 : decode cX5_heard 63 = .ok (.iload_n 3, 1) := dk_29 (dk_at dksX5_heard_2 19 rfl rfl)
theorem dX5_heard_64 : decode cX5_heard 64 = .ok (.aload_n 0, 1) := dk_42 (dk_at dksX5_heard_2 20 rfl rfl)
theorem dX5_heard_65 : decode cX5_heard 65 = .ok (.getfield 137, 3) := dk_180 0 137 (dk_at dksX5_heard_2 21 rfl rfl)
theorem dX5_heard_68 : decode cX5_heard 68 = .ok (.iload_n 1, 1) := dk_27 (dk_at dksX5_heard_3 0 rfl rfl)
theorem dX5_heard_69 : decode cX5_heard 69 = .ok (.iaload, 1) := dk_46 (dk_at dksX5_heard_3 1 rfl rfl)
theorem dX5_heard_70 : decode cX5_heard 70 = .ok (.i2l, 1) := dk_133 (dk_at dksX5_heard_3 2 rfl rfl)
theorem dX5_heard_71 : decode cX5_heard 71 = .ok (.bipush 60, 2) := dk_16 60 (dk_at dksX5_heard_3 3 rfl rfl)
theorem dX5_heard_73 : decode cX5_heard 73 = .ok (.aload_n 0, 1) := dk_42 (dk_at dksX5_heard_3 5 rfl rfl)
theorem dX5_heard_74 : decode cX5_heard 74 = .ok (.getfield 436, 3) := dk_180 1 180 (dk_at dksX5_heard_3 6 rfl rfl)
theorem dX5_heard_77 : decode cX5_heard 77 = .ok (.imul, 1) := dk_104 (dk_at dksX5_heard_3 9 rfl rfl)
theorem dX5_heard_78 : decode cX5_heard 78 = .ok (.i2l, 1) := dk_133 (dk_at dksX5_heard_3 10 rfl rfl)
theorem dX5_heard_79 : decode cX5_heard 79 = .ok (.invokevirtual 518, 3) := dk_182 2 6 (dk_at dksX5_heard_3 11 rfl rfl)
theorem dX5_heard_82 : decode cX5_heard 82 = .ok (.aload_n 0, 1) := dk_42 (dk_at dksX5_heard_3 14 rfl rfl)
theorem dX5_heard_83 : decode cX5_heard 83 = .ok (.bipush 96, 2) := dk_16 96 (dk_at dksX5_heard_3 15 rfl rfl)
theorem dX5_heard_85 : decode cX5_heard 85 = .ok (.invokevirtual 180, 3) := dk_182 0 180 (dk_at dksX5_heard_3 17 rfl rfl)
theorem dX5_heard_88 : decode cX5_heard 88 = .ok (.iinc 3 1, 3) := dk_132 3 1 (dk_at dksX5_heard_3 20 rfl rfl)
theorem dX5_heard_91 : decode cX5_heard 91 = .ok (.goto (-50), 3) := dk_167 255 206 (dk_at dksX5_heard_4 0 rfl rfl)
theorem dX5_heard_94 : decode cX5_heard 94 = .ok (.aload_n 0, 1) := dk_42 (dk_at dksX5_heard_4 3 rfl rfl)
theorem dX5_heard_95 : decode cX5_heard 95 = .ok (.aload_n 0, 1) := dk_42 (dk_at dksX5_heard_4 4 rfl rfl)
theorem dX5_heard_96 : decode cX5_heard 96 = .ok (.getfield 500, 3) := dk_180 1 244 (dk_at dksX5_heard_4 5 rfl rfl)
theorem dX5_heard_99 : decode cX5_heard 99 = .ok (.iload_n 2, 1) := dk_28 (dk_at dksX5_heard_4 8 rfl rfl)
theorem dX5_heard_100 : decode cX5_heard 100 = .ok (.invokevirtual 522, 3) := dk_182 2 10 (dk_at dksX5_heard_4 9 rfl rfl)
theorem dX5_heard_103 : decode cX5_heard 103 = .ok (.lreturn, 1) := dk_173 (dk_at dksX5_heard_4 12 rfl rfl)
abbrev cX5_stepAll : ByteArray := prog_22_method_95_code
def yX5_stepAll : MethodName := ⟨RX5, "stepAll", "(I)V"⟩
def dkwX5_stepAll_8 : List UInt8 := [182, 0, 169, 132, 2, 1, 167, 255, 65, 177]
abbrev dktX5_stepAll_8 : List UInt8 := dkwX5_stepAll_8 ++ []
def dkwX5_stepAll_7 : List UInt8 := [21, 5, 164, 0, 8, 21, 8, 167, 0, 5, 21, 5, 54, 5, 132, 6, 1, 167, 255, 123, 42, 28, 21, 4]
abbrev dktX5_stepAll_7 : List UInt8 := dkwX5_stepAll_7 ++ dktX5_stepAll_8
def dkwX5_stepAll_6 : List UInt8 := [182, 1, 235, 54, 8, 21, 8, 21, 5, 164, 0, 8, 21, 7, 167, 0, 5, 21, 4, 54, 4, 21, 8]
abbrev dktX5_stepAll_6 : List UInt8 := dkwX5_stepAll_6 ++ dktX5_stepAll_7
def dkwX5_stepAll_5 : List UInt8 := [21, 7, 182, 0, 193, 153, 0, 54, 42, 28, 21, 7, 182, 1, 174, 154, 0, 44, 42, 28, 21, 7]
abbrev dktX5_stepAll_5 : List UInt8 := dkwX5_stepAll_5 ++ dktX5_stepAll_6
def dkwX5_stepAll_4 : List UInt8 := [21, 6, 154, 0, 7, 2, 167, 0, 4, 3, 96, 182, 1, 177, 54, 7, 21, 7, 16, 36, 159, 0, 63, 42]
abbrev dktX5_stepAll_4 : List UInt8 := dkwX5_stepAll_4 ++ dktX5_stepAll_5
def dkwX5_stepAll_3 : List UInt8 := [160, 0, 7, 2, 167, 0, 4, 3, 96, 29, 16, 6, 108, 21, 6, 5, 160, 0, 7, 4, 167, 0, 13]
abbrev dktX5_stepAll_3 : List UInt8 := dkwX5_stepAll_3 ++ dktX5_stepAll_4
def dkwX5_stepAll_2 : List UInt8 := [21, 6, 7, 162, 0, 133, 42, 29, 16, 6, 112, 21, 6, 4, 160, 0, 7, 4, 167, 0, 14, 21, 6, 6]
abbrev dktX5_stepAll_2 : List UInt8 := dkwX5_stepAll_2 ++ dktX5_stepAll_3
def dkwX5_stepAll_1 : List UInt8 := [158, 0, 167, 42, 28, 6, 182, 0, 165, 62, 29, 54, 4, 42, 28, 29, 182, 1, 235, 54, 5, 3, 54, 6]
abbrev dktX5_stepAll_1 : List UInt8 := dkwX5_stepAll_1 ++ dktX5_stepAll_2
def dkwX5_stepAll_0 : List UInt8 := [3, 61, 28, 42, 180, 0, 13, 3, 46, 162, 0, 187, 28, 27, 159, 0, 176, 42, 28, 4, 182, 0, 165]
abbrev dktX5_stepAll_0 : List UInt8 := dkwX5_stepAll_0 ++ dktX5_stepAll_1
theorem dksX5_stepAll_0 : cX5_stepAll.data.toList.drop 0 = dktX5_stepAll_0 := by decide +kernel
theorem dksX5_stepAll_1 : cX5_stepAll.data.toList.drop 23 = dktX5_stepAll_1 := dk_seg dksX5_stepAll_0 23 rfl rfl
theorem dksX5_stepAll_2 : cX5_stepAll.data.toList.drop 47 = dktX5_stepAll_2 := dk_seg dksX5_stepAll_1 24 rfl rfl
theorem dksX5_stepAll_3 : cX5_stepAll.data.toList.drop 71 = dktX5_stepAll_3 := dk_seg dksX5_stepAll_2 24 rfl rfl
theorem dksX5_stepAll_4 : cX5_stepAll.data.toList.drop 94 = dktX5_stepAll_4 := dk_seg dksX5_stepAll_3 23 rfl rfl
theorem dksX5_stepAll_5 : cX5_stepAll.data.toList.drop 118 = dktX5_stepAll_5 := dk_seg dksX5_stepAll_4 24 rfl rfl
theorem dksX5_stepAll_6 : cX5_stepAll.data.toList.drop 140 = dktX5_stepAll_6 := dk_seg dksX5_stepAll_5 22 rfl rfl
theorem dksX5_stepAll_7 : cX5_stepAll.data.toList.drop 163 = dktX5_stepAll_7 := dk_seg dksX5_stepAll_6 23 rfl rfl
theorem dksX5_stepAll_8 : cX5_stepAll.data.toList.drop 187 = dktX5_stepAll_8 := dk_seg dksX5_stepAll_7 24 rfl rfl
theorem dX5_stepAll_0 : decode cX5_stepAll 0 = .ok (.iconst 0, 1) := dk_3 (dk_at dksX5_stepAll_0 0 rfl rfl)
theorem dX5_stepAll_1 : decode cX5_stepAll 1 = .ok (.istore_n 2, 1) := dk_61 (dk_at dksX5_stepAll_0 1 rfl rfl)
theorem dX5_stepAll_2 : decode cX5_stepAll 2 = .ok (.iload_n 2, 1) := dk_28 (dk_at dksX5_stepAll_0 2 rfl rfl)
theorem dX5_stepAll_3 : decode cX5_stepAll 3 = .ok (.aload_n 0, 1) := dk_42 (dk_at dksX5_stepAll_0 3 rfl rfl)
theorem dX5_stepAll_4 : decode cX5_stepAll 4 = .ok (.getfield 13, 3) := dk_180 0 13 (dk_at dksX5_stepAll_0 4 rfl rfl)
theorem dX5_stepAll_7 : decode cX5_stepAll 7 = .ok (.iconst 0, 1) := dk_3 (dk_at dksX5_stepAll_0 7 rfl rfl)
theorem dX5_stepAll_8 : decode cX5_stepAll 8 = .ok (.iaload, 1) := dk_46 (dk_at dksX5_stepAll_0 8 rfl rfl)
theorem dX5_stepAll_9 : decode cX5_stepAll 9 = .ok (.if_icmp .ge 187, 3) := dk_162 0 187 (dk_at dksX5_stepAll_0 9 rfl rfl)
theorem dX5_stepAll_12 : decode cX5_stepAll 12 = .ok (.iload_n 2, 1) := dk_28 (dk_at dksX5_stepAll_0 12 rfl rfl)
theorem dX5_stepAll_13 : decode cX5_stepAll 13 = .ok (.iload_n 1, 1) := dk_27 (dk_at dksX5_stepAll_0 13 rfl rfl)
theorem dX5_stepAll_14 : decode cX5_stepAll 14 = .ok (.if_icmp .eq 176, 3) := dk_159 0 176 (dk_at dksX5_stepAll_0 14 rfl rfl)
theorem dX5_stepAll_17 : decode cX5_stepAll 17 = .ok (.aload_n 0, 1) := dk_42 (dk_at dksX5_stepAll_0 17 rfl rfl)
theorem dX5_stepAll_18 : decode cX5_stepAll 18 = .ok (.iload_n 2, 1) := dk_28 (dk_at dksX5_stepAll_0 18 rfl rfl)
theorem dX5_stepAll_19 : decode cX5_stepAll 19 = .ok (.iconst 1, 1) := dk_4 (dk_at dksX5_stepAll_0 19 rfl rfl)
theorem dX5_stepAll_20 : decode cX5_stepAll 20 = .ok (.invokevirtual 165, 3) := dk_182 0 165 (dk_at dksX5_stepAll_0 20 rfl rfl)
theorem dX5_stepAll_23 : decode cX5_stepAll 23 = .ok (.ifCond .le 167, 3) := dk_158 0 167 (dk_at dksX5_stepAll_1 0 rfl rfl)
theorem dX5_stepAll_26 : decode cX5_stepAll 26 = .ok (.aload_n 0, 1) := dk_42 (dk_at dksX5_stepAll_1 3 rfl rfl)
theorem dX5_stepAll_27 : decode cX5_stepAll 27 = .ok (.iload_n 2, 1) := dk_28 (dk_at dksX5_stepAll_1 4 rfl rfl)
theorem dX5_stepAll_28 : decode cX5_stepAll 28 = .ok (.iconst 3, 1) := dk_6 (dk_at dksX5_stepAll_1 5 rfl rfl)
theorem dX5_stepAll_29 : decode cX5_stepAll 29 = .ok (.invokevirtual 165, 3) := dk_182 0 165 (dk_at dksX5_stepAll_1 6 rfl rfl)
theorem dX5_stepAll_32 : decode cX5_stepAll 32 = .ok (.istore_n 3, 1) := dk_62 (dk_at dksX5_stepAll_1 9 rfl rfl)
theorem dX5_stepAll_33 : decode cX5_stepAll 33 = .ok (.iload_n 3, 1) := dk_29 (dk_at dksX5_stepAll_1 10 rfl rfl)
theorem dX5_stepAll_34 : decode cX5_stepAll 34 = .ok (.istore 4, 2) := dk_54 4 (dk_at dksX5_stepAll_1 11 rfl rfl)
theorem dX5_stepAll_36 : decode cX5_stepAll 36 = .ok (.aload_n 0, 1) := dk_42 (dk_at dksX5_stepAll_1 13 rfl rfl)
theorem dX5_stepAll_37 : decode cX5_stepAll 37 = .ok (.iload_n 2, 1) := dk_28 (dk_at dksX5_stepAll_1 14 rfl rfl)
theorem dX5_stepAll_38 : decode cX5_stepAll 38 = .ok (.iload_n 3, 1) := dk_29 (dk_at dksX5_stepAll_1 15 rfl rfl)
theorem dX5_stepAll_39 : decode cX5_stepAll 39 = .ok (.invokevirtual 491, 3) := dk_182 1 235 (dk_at dksX5_stepAll_1 16 rfl rfl)
theorem dX5_stepAll_42 : decode cX5_stepAll 42 = .ok (.istore 5, 2) := dk_54 5 (dk_at dksX5_stepAll_1 19 rfl rfl)
theorem dX5_stepAll_44 : decode cX5_stepAll 44 = .ok (.iconst 0, 1) := dk_3 (dk_at dksX5_stepAll_1 21 rfl rfl)
theorem dX5_stepAll_45 : decode cX5_stepAll 45 = .ok (.istore 6, 2) := dk_54 6 (dk_at dksX5_stepAll_1 22 rfl rfl)
theorem dX5_stepAll_47 : decode cX5_stepAll 47 = .ok (.iload 6, 2) := dk_21 6 (dk_at dksX5_stepAll_2 0 rfl rfl)
theorem dX5_stepAll_49 : decode cX5_stepAll 49 = .ok (.iconst 4, 1) := dk_7 (dk_at dksX5_stepAll_2 2 rfl rfl)
theorem dX5_stepAll_50 : decode cX5_stepAll 50 = .ok (.if_icmp .ge 133, 3) := dk_162 0 133 (dk_at dksX5_stepAll_2 3 rfl rfl)
theorem dX5_stepAll_53 : decode cX5_stepAll 53 = .ok (.aload_n 0, 1) := dk_42 (dk_at dksX5_stepAll_2 6 rfl rfl)
theorem dX5_stepAll_54 : decode cX5_stepAll 54 = .ok (.iload_n 3, 1) := dk_29 (dk_at dksX5_stepAll_2 7 rfl rfl)
theorem dX5_stepAll_55 : decode cX5_stepAll 55 = .ok (.bipush 6, 2) := dk_16 6 (dk_at dksX5_stepAll_2 8 rfl rfl)
theorem dX5_stepAll_57 : decode cX5_stepAll 57 = .ok (.irem, 1) := dk_112 (dk_at dksX5_stepAll_2 10 rfl rfl)
theorem dX5_stepAll_58 : decode cX5_stepAll 58 = .ok (.iload 6, 2) := dk_21 6 (dk_at dksX5_stepAll_2 11 rfl rfl)
theorem dX5_stepAll_60 : decode cX5_stepAll 60 = .ok (.iconst 1, 1) := dk_4 (dk_at dksX5_stepAll_2 13 rfl rfl)
theorem dX5_stepAll_61 : decode cX5_stepAll 61 = .ok (.if_icmp .ne 7, 3) := dk_160 0 7 (dk_at dksX5_stepAll_2 14 rfl rfl)
theorem dX5_stepAll_64 : decode cX5_stepAll 64 = .ok (.iconst 1, 1) := dk_4 (dk_at dksX5_stepAll_2 17 rfl rfl)
theorem dX5_stepAll_65 : decode cX5_stepAll 65 = .ok (.goto 14, 3) := dk_167 0 14 (dk_at dksX5_stepAll_2 18 rfl rfl)
theorem dX5_stepAll_68 : decode cX5_stepAll 68 = .ok (.iload 6, 2) := dk_21 6 (dk_at dksX5_stepAll_2 21 rfl rfl)
theorem dX5_stepAll_70 : decode cX5_stepAll 70 = .ok (.iconst 3, 1) := dk_6 (dk_at dksX5_stepAll_2 23 rfl rfl)
theorem dX5_stepAll_71 : decode cX5_stepAll 71 = .ok (.if_icmp .ne 7, 3) := dk_160 0 7 (dk_at dksX5_stepAll_3 0 rfl rfl)
theorem dX5_stepAll_74 : decode cX5_stepAll 74 = .ok (.iconst (-1), 1) := dk_2 (dk_at dksX5_stepAll_3 3 rfl rfl)
theorem dX5_stepAll_75 : decode cX5_stepAll 75 = .ok (.goto 4, 3) := dk_167 0 4 (dk_at dksX5_stepAll_3 4 rfl rfl)
theorem dX5_stepAll_78 : decode cX5_stepAll 78 = .ok (.iconst 0, 1) := dk_3 (dk_at dksX5_stepAll_3 7 rfl rfl)
theorem dX5_stepAll_79 : decode cX5_stepAll 79 = .ok (.iadd, 1) := dk_96 (dk_at dksX5_stepAll_3 8 rfl rfl)
theorem dX5_stepAll_80 : decode cX5_stepAll 80 = .ok (.iload_n 3, 1) := dk_29 (dk_at dksX5_stepAll_3 9 rfl rfl)
theorem dX5_stepAll_81 : decode cX5_stepAll 81 = .ok (.bipush 6, 2) := dk_16 6 (dk_at dksX5_stepAll_3 10 rfl rfl)
theorem dX5_stepAll_83 : decode cX5_stepAll 83 = .ok (.idiv, 1) := dk_108 (dk_at dksX5_stepAll_3 12 rfl rfl)
theorem dX5_stepAll_84 : decode cX5_stepAll 84 = .ok (.iload 6, 2) := dk_21 6 (dk_at dksX5_stepAll_3 13 rfl rfl)
theorem dX5_stepAll_86 : decode cX5_stepAll 86 = .ok (.iconst 2, 1) := dk_5 (dk_at dksX5_stepAll_3 15 rfl rfl)
theorem dX5_stepAll_87 : decode cX5_stepAll 87 = .ok (.if_icmp .ne 7, 3) := dk_160 0 7 (dk_at dksX5_stepAll_3 16 rfl rfl)
theorem dX5_stepAll_90 : decode cX5_stepAll 90 = .ok (.iconst 1, 1) := dk_4 (dk_at dksX5_stepAll_3 19 rfl rfl)
theorem dX5_stepAll_91 : decode cX5_stepAll 91 = .ok (.goto 13, 3) := dk_167 0 13 (dk_at dksX5_stepAll_3 20 rfl rfl)
theorem dX5_stepAll_94 : decode cX5_stepAll 94 = .ok (.iload 6, 2) := dk_21 6 (dk_at dksX5_stepAll_4 0 rfl rfl)
theorem dX5_stepAll_96 : decode cX5_stepAll 96 = .ok (.ifCond .ne 7, 3) := dk_154 0 7 (dk_at dksX5_stepAll_4 2 rfl rfl)
theorem dX5_stepAll_99 : decode cX5_stepAll 99 = .ok (.iconst (-1), 1) := dk_2 (dk_at dksX5_stepAll_4 5 rfl rfl)
theorem dX5_stepAll_100 : decode cX5_stepAll 100 = .ok (.goto 4, 3) := dk_167 0 4 (dk_at dksX5_stepAll_4 6 rfl rfl)
theorem dX5_stepAll_103 : decode cX5_stepAll 103 = .ok (.iconst 0, 1) := dk_3 (dk_at dksX5_stepAll_4 9 rfl rfl)
theorem dX5_stepAll_104 : decode cX5_stepAll 104 = .ok (.iadd, 1) := dk_96 (dk_at dksX5_stepAll_4 10 rfl rfl)
theorem dX5_stepAll_105 : decode cX5_stepAll 105 = .ok (.invokevirtual 433, 3) := dk_182 1 177 (dk_at dksX5_stepAll_4 11 rfl rfl)
theorem dX5_stepAll_108 : decode cX5_stepAll 108 = .ok (.istore 7, 2) := dk_54 7 (dk_at dksX5_stepAll_4 14 rfl rfl)
theorem dX5_stepAll_110 : decode cX5_stepAll 110 = .ok (.iload 7, 2) := dk_21 7 (dk_at dksX5_stepAll_4 16 rfl rfl)
theorem dX5_stepAll_112 : decode cX5_stepAll 112 = .ok (.bipush 36, 2) := dk_16 36 (dk_at dksX5_stepAll_4 18 rfl rfl)
theorem dX5_stepAll_114 : decode cX5_stepAll 114 = .ok (.if_icmp .eq 63, 3) := dk_159 0 63 (dk_at dksX5_stepAll_4 20 rfl rfl)
theorem dX5_stepAll_117 : decode cX5_stepAll 117 = .ok (.aload_n 0, 1) := dk_42 (dk_at dksX5_stepAll_4 23 rfl rfl)
theorem dX5_stepAll_118 : decode cX5_stepAll 118 = .ok (.iload 7, 2) := dk_21 7 (dk_at dksX5_stepAll_5 0 rfl rfl)
theorem dX5_stepAll_120 : decode cX5_stepAll 120 = .ok (.invokevirtual 193, 3) := dk_182 0 193 (dk_at dksX5_stepAll_5 2 rfl rfl)
theorem dX5_stepAll_123 : decode cX5_stepAll 123 = .ok (.ifCond .eq 54, 3) := dk_153 0 54 (dk_at dksX5_stepAll_5 5 rfl rfl)
theorem dX5_stepAll_126 : decode cX5_stepAll 126 = .ok (.aload_n 0, 1) := dk_42 (dk_at dksX5_stepAll_5 8 rfl rfl)
theorem dX5_stepAll_127 : decode cX5_stepAll 127 = .ok (.iload_n 2, 1) := dk_28 (dk_at dksX5_stepAll_5 9 rfl rfl)
theorem dX5_stepAll_128 : decode cX5_stepAll 128 = .ok (.iload 7, 2) := dk_21 7 (dk_at dksX5_stepAll_5 10 rfl rfl)
theorem dX5_stepAll_130 : decode cX5_stepAll 130 = .ok (.invokevirtual 430, 3) := dk_182 1 174 (dk_at dksX5_stepAll_5 12 rfl rfl)
theorem dX5_stepAll_133 : decode cX5_stepAll 133 = .ok (.ifCond .ne 44, 3) := dk_154 0 44 (dk_at dksX5_stepAll_5 15 rfl rfl)
theorem dX5_stepAll_136 : decode cX5_stepAll 136 = .ok (.aload_n 0, 1) := dk_42 (dk_at dksX5_stepAll_5 18 rfl rfl)
theorem dX5_stepAll_137 : decode cX5_stepAll 137 = .ok (.iload_n 2, 1) := dk_28 (dk_at dksX5_stepAll_5 19 rfl rfl)
theorem dX5_stepAll_138 : decode cX5_stepAll 138 = .ok (.iload 7, 2) := dk_21 7 (dk_at dksX5_stepAll_5 20 rfl rfl)
theorem dX5_stepAll_140 : decode cX5_stepAll 140 = .ok (.invokevirtual 491, 3) := dk_182 1 235 (dk_at dksX5_stepAll_6 0 rfl rfl)
theorem dX5_stepAll_143 : decode cX5_stepAll 143 = .ok (.istore 8, 2) := dk_54 8 (dk_at dksX5_stepAll_6 3 rfl rfl)
theorem dX5_stepAll_145 : decode cX5_stepAll 145 = .ok (.iload 8, 2) := dk_21 8 (dk_at dksX5_stepAll_6 5 rfl rfl)
theorem dX5_stepAll_147 : decode cX5_stepAll 147 = .ok (.iload 5, 2) := dk_21 5 (dk_at dksX5_stepAll_6 7 rfl rfl)
theorem dX5_stepAll_149 : decode cX5_stepAll 149 = .ok (.if_icmp .le 8, 3) := dk_164 0 8 (dk_at dksX5_stepAll_6 9 rfl rfl)
theorem dX5_stepAll_152 : decode cX5_stepAll 152 = .ok (.iload 7, 2) := dk_21 7 (dk_at dksX5_stepAll_6 12 rfl rfl)
theorem dX5_stepAll_154 : decode cX5_stepAll 154 = .ok (.goto 5, 3) := dk_167 0 5 (dk_at dksX5_stepAll_6 14 rfl rfl)
theorem dX5_stepAll_157 : decode cX5_stepAll 157 = .ok (.iload 4, 2) := dk_21 4 (dk_at dksX5_stepAll_6 17 rfl rfl)
theorem dX5_stepAll_159 : decode cX5_stepAll 159 = .ok (.istore 4, 2) := dk_54 4 (dk_at dksX5_stepAll_6 19 rfl rfl)
theorem dX5_stepAll_161 : decode cX5_stepAll 161 = .ok (.iload 8, 2) := dk_21 8 (dk_at dksX5_stepAll_6 21 rfl rfl)
theorem dX5_stepAll_163 : decode cX5_stepAll 163 = .ok (.iload 5, 2) := dk_21 5 (dk_at dksX5_stepAll_7 0 rfl rfl)
theorem dX5_stepAll_165 : decode cX5_stepAll 165 = .ok (.if_icmp .le 8, 3) := dk_164 0 8 (dk_at dksX5_stepAll_7 2 rfl rfl)
theorem dX5_stepAll_168 : decode cX5_stepAll 168 = .ok (.iload 8, 2) := dk_21 8 (dk_at dksX5_stepAll_7 5 rfl rfl)
theorem dX5_stepAll_170 : decode cX5_stepAll 170 = .ok (.goto 5, 3) := dk_167 0 5 (dk_at dksX5_stepAll_7 7 rfl rfl)
theorem dX5_stepAll_173 : decode cX5_stepAll 173 = .ok (.iload 5, 2) := dk_21 5 (dk_at dksX5_stepAll_7 10 rfl rfl)
theorem dX5_stepAll_175 : decode cX5_stepAll 175 = .ok (.istore 5, 2) := dk_54 5 (dk_at dksX5_stepAll_7 12 rfl rfl)
theorem dX5_stepAll_177 : decode cX5_stepAll 177 = .ok (.iinc 6 1, 3) := dk_132 6 1 (dk_at dksX5_stepAll_7 14 rfl rfl)
theorem dX5_stepAll_180 : decode cX5_stepAll 180 = .ok (.goto (-133), 3) := dk_167 255 123 (dk_at dksX5_stepAll_7 17 rfl rfl)
theorem dX5_stepAll_183 : decode cX5_stepAll 183 = .ok (.aload_n 0, 1) := dk_42 (dk_at dksX5_stepAll_7 20 rfl rfl)
theorem dX5_stepAll_184 : decode cX5_stepAll 184 = .ok (.iload_n 2, 1) := dk_28 (dk_at dksX5_stepAll_7 21 rfl rfl)
theorem dX5_stepAll_185 : decode cX5_stepAll 185 = .ok (.iload 4, 2) := dk_21 4 (dk_at dksX5_stepAll_7 22 rfl rfl)
theorem dX5_stepAll_187 : decode cX5_stepAll 187 = .ok (.invokevirtual 169, 3) := dk_182 0 169 (dk_at dksX5_stepAll_8 0 rfl rfl)
theorem dX5_stepAll_190 : decode cX5_stepAll 190 = .ok (.iinc 2 1, 3) := dk_132 2 1 (dk_at dksX5_stepAll_8 3 rfl rfl)
theorem dX5_stepAll_193 : decode cX5_stepAll 193 = .ok (.goto (-191), 3) := dk_167 255 65 (dk_at dksX5_stepAll_8 6 rfl rfl)
theorem dX5_stepAll_196 : decode cX5_stepAll 196 = .ok (.return_, 1) := dk_177 (dk_at dksX5_stepAll_8 9 rfl rfl)
abbrev cX5_feint : ByteArray := prog_22_method_97_code
def yX5_feint : MethodName := ⟨RX5, "feint", "(II)J"⟩
def dkwX5_feint_6 : List UInt8 := [180, 1, 244, 28, 5, 100, 182, 2, 10, 173]
abbrev dktX5_feint_6 : List UInt8 := dkwX5_feint_6 ++ []
def dkwX5_feint_5 : List UInt8 := [167, 255, 183, 28, 5, 162, 0, 15, 42, 42, 180, 1, 247, 28, 182, 2, 10, 167, 0, 14, 42, 42]
abbrev dktX5_feint_5 : List UInt8 := dkwX5_feint_5 ++ dktX5_feint_6
def dkwX5_feint_4 : List UInt8 := [180, 1, 180, 104, 133, 182, 2, 6, 132, 4, 1, 167, 255, 214, 42, 16, 96, 182, 0, 180, 132, 3, 1]
abbrev dktX5_feint_4 : List UInt8 := dkwX5_feint_4 ++ dktX5_feint_5
def dkwX5_feint_3 : List UInt8 := [21, 4, 182, 2, 3, 42, 182, 1, 223, 42, 29, 21, 4, 42, 180, 0, 137, 27, 46, 133, 16, 60, 42]
abbrev dktX5_feint_3 : List UInt8 := dkwX5_feint_3 ++ dktX5_feint_4
def dkwX5_feint_2 : List UInt8 := [162, 0, 73, 42, 29, 182, 2, 3, 42, 27, 182, 2, 14, 3, 54, 4, 21, 4, 16, 25, 162, 0, 41, 42]
abbrev dktX5_feint_2 : List UInt8 := dkwX5_feint_2 ++ dktX5_feint_3
def dkwX5_feint_1 : List UInt8 := [154, 0, 7, 20, 0, 221, 173, 42, 182, 2, 0, 42, 16, 96, 182, 0, 176, 3, 62, 29, 16, 25]
abbrev dktX5_feint_1 : List UInt8 := dkwX5_feint_1 ++ dktX5_feint_2
def dkwX5_feint_0 : List UInt8 := [42, 3, 181, 0, 149, 42, 27, 182, 0, 207, 153, 0, 15, 28, 133, 9, 20, 0, 215, 184, 0, 159]
abbrev dktX5_feint_0 : List UInt8 := dkwX5_feint_0 ++ dktX5_feint_1
theorem dksX5_feint_0 : cX5_feint.data.toList.drop 0 = dktX5_feint_0 := by decide +kernel
theorem dksX5_feint_1 : cX5_feint.data.toList.drop 22 = dktX5_feint_1 := dk_seg dksX5_feint_0 22 rfl rfl
theorem dksX5_feint_2 : cX5_feint.data.toList.drop 44 = dktX5_feint_2 := dk_seg dksX5_feint_1 22 rfl rfl
theorem dksX5_feint_3 : cX5_feint.data.toList.drop 68 = dktX5_feint_3 := dk_seg dksX5_feint_2 24 rfl rfl
theorem dksX5_feint_4 : cX5_feint.data.toList.drop 91 = dktX5_feint_4 := dk_seg dksX5_feint_3 23 rfl rfl
theorem dksX5_feint_5 : cX5_feint.data.toList.drop 114 = dktX5_feint_5 := dk_seg dksX5_feint_4 23 rfl rfl
theorem dksX5_feint_6 : cX5_feint.data.toList.drop 136 = dktX5_feint_6 := dk_seg dksX5_feint_5 22 rfl rfl
theorem dX5_feint_0 : decode cX5_feint 0 = .ok (.aload_n 0, 1) := dk_42 (dk_at dksX5_feint_0 0 rfl rfl)
theorem dX5_feint_1 : decode cX5_feint 1 = .ok (.iconst 0, 1) := dk_3 (dk_at dksX5_feint_0 1 rfl rfl)
theorem dX5_feint_2 : decode cX5_feint 2 = .ok (.putfield 149, 3) := dk_181 0 149 (dk_at dksX5_feint_0 2 rfl rfl)
theorem dX5_feint_5 : decode cX5_feint 5 = .ok (.aload_n 0, 1) := dk_42 (dk_at dksX5_feint_0 5 rfl rfl)
theorem dX5_feint_6 : decode cX5_feint 6 = .ok (.iload_n 1, 1) := dk_27 (dk_at dksX5_feint_0 6 rfl rfl)
theorem dX5_feint_7 : decode cX5_feint 7 = .ok (.invokevirtual 207, 3) := dk_182 0 207 (dk_at dksX5_feint_0 7 rfl rfl)
theorem dX5_feint_10 : decode cX5_feint 10 = .ok (.ifCond .eq 15, 3) := dk_153 0 15 (dk_at dksX5_feint_0 10 rfl rfl)
theorem dX5_feint_13 : decode cX5_feint 13 = .ok (.iload_n 2, 1) := dk_28 (dk_at dksX5_feint_0 13 rfl rfl)
theorem dX5_feint_14 : decode cX5_feint 14 = .ok (.i2l, 1) := dk_133 (dk_at dksX5_feint_0 14 rfl rfl)
theorem dX5_feint_15 : decode cX5_feint 15 = .ok (.lconst 0, 1) := dk_9 (dk_at dksX5_feint_0 15 rfl rfl)
theorem dX5_feint_16 : decode cX5_feint 16 = .ok (.ldc2_w 215, 3) := dk_20 0 215 (dk_at dksX5_feint_0 16 rfl rfl)
theorem dX5_feint_19 : decode cX5_feint 19 = .ok (.invokestatic 159, 3) := dk_184 0 159 (dk_at dksX5_feint_0 19 rfl rfl)
theorem dX5_feint_22 : decode cX5_feint 22 = .ok (.ifCond .ne 7, 3) := dk_154 0 7 (dk_at dksX5_feint_1 0 rfl rfl)
theorem dX5_feint_25 : decode cX5_feint 25 = .ok (.ldc2_w 221, 3) := dk_20 0 221 (dk_at dksX5_feint_1 3 rfl rfl)
theorem dX5_feint_28 : decode cX5_feint 28 = .ok (.lreturn, 1) := dk_173 (dk_at dksX5_feint_1 6 rfl rfl)
theorem dX5_feint_29 : decode cX5_feint 29 = .ok (.aload_n 0, 1) := dk_42 (dk_at dksX5_feint_1 7 rfl rfl)
theorem dX5_feint_30 : decode cX5_feint 30 = .ok (.invokevirtual 512, 3) := dk_182 2 0 (dk_at dksX5_feint_1 8 rfl rfl)
theorem dX5_feint_33 : decode cX5_feint 33 = .ok (.aload_n 0, 1) := dk_42 (dk_at dksX5_feint_1 11 rfl rfl)
theorem dX5_feint_34 : decode cX5_feint 34 = .ok (.bipush 96, 2) := dk_16 96 (dk_at dksX5_feint_1 12 rfl rfl)
theorem dX5_feint_36 : decode cX5_feint 36 = .ok (.invokevirtual 176, 3) := dk_182 0 176 (dk_at dksX5_feint_1 14 rfl rfl)
theorem dX5_feint_39 : decode cX5_feint 39 = .ok (.iconst 0, 1) := dk_3 (dk_at dksX5_feint_1 17 rfl rfl)
theorem dX5_feint_40 : decode cX5_feint 40 = .ok (.istore_n 3, 1) := dk_62 (dk_at dksX5_feint_1 18 rfl rfl)
theorem dX5_feint_41 : decode cX5_feint 41 = .ok (.iload_n 3, 1) := dk_29 (dk_at dksX5_feint_1 19 rfl rfl)
theorem dX5_feint_42 : decode cX5_feint 42 = .ok (.bipush 25, 2) := dk_16 25 (dk_at dksX5_feint_1 20 rfl rfl)
theorem dX5_feint_44 : decode cX5_feint 44 = .ok (.if_icmp .ge 73, 3) := dk_162 0 73 (dk_at dksX5_feint_2 0 rfl rfl)
theorem dX5_feint_47 : decode cX5_feint 47 = .ok (.aload_n 0, 1) := dk_42 (dk_at dksX5_feint_2 3 rfl rfl)
theorem dX5_feint_48 : decode cX5_feint 48 = .ok (.iload_n 3, 1) := dk_29 (dk_at dksX5_feint_2 4 rfl rfl)
theorem dX5_feint_49 : decode cX5_feint 49 = .ok (.invokevirtual 515, 3) := dk_182 2 3 (dk_at dksX5_feint_2 5 rfl rfl)
theorem dX5_feint_52 : decode cX5_feint 52 = .ok (.aload_n 0, 1) := dk_42 (dk_at dksX5_feint_2 8 rfl rfl)
theorem dX5_feint_53 : decode cX5_feint 53 = .ok (.iload_n 1, 1) := dk_27 (dk_at dksX5_feint_2 9 rfl rfl)
theorem dX5_feint_54 : decode cX5_feint 54 = .ok (.invokevirtual 526, 3) := dk_182 2 14 (dk_at dksX5_feint_2 10 rfl rfl)
theorem dX5_feint_57 : decode cX5_feint 57 = .ok (.iconst 0, 1) := dk_3 (dk_at dksX5_feint_2 13 rfl rfl)
theorem dX5_feint_58 : decode cX5_feint 58 = .ok (.istore 4, 2) := dk_54 4 (dk_at dksX5_feint_2 14 rfl rfl)
theorem dX5_feint_60 : decode cX5_feint 60 = .ok (.iload 4, 2) := dk_21 4 (dk_at dksX5_feint_2 16 rfl rfl)
theorem dX5_feint_62 : decode cX5_feint 62 = .ok (.bipush 25, 2) := dk_16 25 (dk_at dksX5_feint_2 18 rfl rfl)
theorem dX5_feint_64 : decode cX5_feint 64 = .ok (.if_icmp .ge 41, 3) := dk_162 0 41 (dk_at dksX5_feint_2 20 rfl rfl)
theorem dX5_feint_67 : decode cX5_feint 67 = .ok (.aload_n 0, 1) := dk_42 (dk_at dksX5_feint_2 23 rfl rfl)
theorem dX5_feint_68 : decode cX5_feint 68 = .ok (.iload 4, 2) := dk_21 4 (dk_at dksX5_feint_3 0 rfl rfl)
theorem dX5_feint_70 : decode cX5_feint 70 = .ok (.invokevirtual 515, 3) := dk_182 2 3 (dk_at dksX5_feint_3 2 rfl rfl)
theorem dX5_feint_73 : decode cX5_feint 73 = .ok (.aload_n 0, 1) := dk_42 (dk_at dksX5_feint_3 5 rfl rfl)
theorem dX5_feint_74 : decode cX5_feint 74 = .ok (.invokevirtual 479, 3) := dk_182 1 223 (dk_at dksX5_feint_3 6 rfl rfl)
theorem dX5_feint_77 : decode cX5_feint 77 = .ok (.aload_n 0, 1) := dk_42 (dk_at dksX5_feint_3 9 rfl rfl)
theorem dX5_feint_78 : decode cX5_feint 78 = .ok (.iload_n 3, 1) := dk_29 (dk_at dksX5_feint_3 10 rfl rfl)
theorem dX5_feint_79 : decode cX5_feint 79 = .ok (.iload 4, 2) := dk_21 4 (dk_at dksX5_feint_3 11 rfl rfl)
theorem dX5_feint_81 : decode cX5_feint 81 = .ok (.aload_n 0, 1) := dk_42 (dk_at dksX5_feint_3 13 rfl rfl)
theorem dX5_feint_82 : decode cX5_feint 82 = .ok (.getfield 137, 3) := dk_180 0 137 (dk_at dksX5_feint_3 14 rfl rfl)
theorem dX5_feint_85 : decode cX5_feint 85 = .ok (.iload_n 1, 1) := dk_27 (dk_at dksX5_feint_3 17 rfl rfl)
theorem dX5_feint_86 : decode cX5_feint 86 = .ok (.iaload, 1) := dk_46 (dk_at dksX5_feint_3 18 rfl rfl)
theorem dX5_feint_87 : decode cX5_feint 87 = .ok (.i2l, 1) := dk_133 (dk_at dksX5_feint_3 19 rfl rfl)
theorem dX5_feint_88 : decode cX5_feint 88 = .ok (.bipush 60, 2) := dk_16 60 (dk_at dksX5_feint_3 20 rfl rfl)
theorem dX5_feint_90 : decode cX5_feint 90 = .ok (.aload_n 0, 1) := dk_42 (dk_at dksX5_feint_3 22 rfl rfl)
theorem dX5_feint_91 : decode cX5_feint 91 = .ok (.getfield 436, 3) := dk_180 1 180 (dk_at dksX5_feint_4 0 rfl rfl)
theorem dX5_feint_94 : decode cX5_feint 94 = .ok (.imul, 1) := dk_104 (dk_at dksX5_feint_4 3 rfl rfl)
theorem dX5_feint_95 : decode cX5_feint 95 = .ok (.i2l, 1) := dk_133 (dk_at dksX5_feint_4 4 rfl rfl)
theorem dX5_feint_96 : decode cX5_feint 96 = .ok (.invokevirtual 518, 3) := dk_182 2 6 (dk_at dksX5_feint_4 5 rfl rfl)
theorem dX5_feint_99 : decode cX5_feint 99 = .ok (.iinc 4 1, 3) := dk_132 4 1 (dk_at dksX5_feint_4 8 rfl rfl)
theorem dX5_feint_102 : decode cX5_feint 102 = .ok (.goto (-42), 3) := dk_167 255 214 (dk_at dksX5_feint_4 11 rfl rfl)
theorem dX5_feint_105 : decode cX5_feint 105 = .ok (.aload_n 0, 1) := dk_42 (dk_at dksX5_feint_4 14 rfl rfl)
theorem dX5_feint_106 : decode cX5_feint 106 = .ok (.bipush 96, 2) := dk_16 96 (dk_at dksX5_feint_4 15 rfl rfl)
theorem dX5_feint_108 : decode cX5_feint 108 = .ok (.invokevirtual 180, 3) := dk_182 0 180 (dk_at dksX5_feint_4 17 rfl rfl)
theorem dX5_feint_111 : decode cX5_feint 111 = .ok (.iinc 3 1, 3) := dk_132 3 1 (dk_at dksX5_feint_4 20 rfl rfl)
theorem dX5_feint_114 : decode cX5_feint 114 = .ok (.goto (-73), 3) := dk_167 255 183 (dk_at dksX5_feint_5 0 rfl rfl)
theorem dX5_feint_117 : decode cX5_feint 117 = .ok (.iload_n 2, 1) := dk_28 (dk_at dksX5_feint_5 3 rfl rfl)
theorem dX5_feint_118 : decode cX5_feint 118 = .ok (.iconst 2, 1) := dk_5 (dk_at dksX5_feint_5 4 rfl rfl)
theorem dX5_feint_119 : decode cX5_feint 119 = .ok (.if_icmp .ge 15, 3) := dk_162 0 15 (dk_at dksX5_feint_5 5 rfl rfl)
theorem dX5_feint_122 : decode cX5_feint 122 = .ok (.aload_n 0, 1) := dk_42 (dk_at dksX5_feint_5 8 rfl rfl)
theorem dX5_feint_123 : decode cX5_feint 123 = .ok (.aload_n 0, 1) := dk_42 (dk_at dksX5_feint_5 9 rfl rfl)
theorem dX5_feint_124 : decode cX5_feint 124 = .ok (.getfield 503, 3) := dk_180 1 247 (dk_at dksX5_feint_5 10 rfl rfl)
theorem dX5_feint_127 : decode cX5_feint 127 = .ok (.iload_n 2, 1) := dk_28 (dk_at dksX5_feint_5 13 rfl rfl)
theorem dX5_feint_128 : decode cX5_feint 128 = .ok (.invokevirtual 522, 3) := dk_182 2 10 (dk_at dksX5_feint_5 14 rfl rfl)
theorem dX5_feint_131 : decode cX5_feint 131 = .ok (.goto 14, 3) := dk_167 0 14 (dk_at dksX5_feint_5 17 rfl rfl)
theorem dX5_feint_134 : decode cX5_feint 134 = .ok (.aload_n 0, 1) := dk_42 (dk_at dksX5_feint_5 20 rfl rfl)
theorem dX5_feint_135 : decode cX5_feint 135 = .ok (.aload_n 0, 1) := dk_42 (dk_at dksX5_feint_5 21 rfl rfl)
theorem dX5_feint_136 : decode cX5_feint 136 = .ok (.getfield 500, 3) := dk_180 1 244 (dk_at dksX5_feint_6 0 rfl rfl)
theorem dX5_feint_139 : decode cX5_feint 139 = .ok (.iload_n 2, 1) := dk_28 (dk_at dksX5_feint_6 3 rfl rfl)
theorem dX5_feint_140 : decode cX5_feint 140 = .ok (.iconst 2, 1) := dk_5 (dk_at dksX5_feint_6 4 rfl rfl)
theorem dX5_feint_141 : decode cX5_feint 141 = .ok (.isub, 1) := dk_100 (dk_at dksX5_feint_6 5 rfl rfl)
theorem dX5_feint_142 : decode cX5_feint 142 = .ok (.invokevirtual 522, 3) := dk_182 2 10 (dk_at dksX5_feint_6 6 rfl rfl)
theorem dX5_feint_145 : decode cX5_feint 145 = .ok (.lreturn, 1) := dk_173 (dk_at dksX5_feint_6 9 rfl rfl)
abbrev cX5_safest : ByteArray := prog_22_method_99_code
def yX5_safest : MethodName := ⟨RX5, "safest", "(II)I"⟩
def dkwX5_safest_5 : List UInt8 := [180, 1, 192, 167, 0, 7, 42, 180, 1, 195, 136, 172]
abbrev dktX5_safest_5 : List UInt8 := dkwX5_safest_5 ++ []
def dkwX5_safest_4 : List UInt8 := [154, 0, 5, 29, 172, 42, 21, 4, 133, 42, 180, 1, 180, 133, 182, 1, 201, 28, 4, 160, 0, 10, 42]
abbrev dktX5_safest_4 : List UInt8 := dkwX5_safest_4 ++ dktX5_safest_5
def dkwX5_safest_3 : List UInt8 := [42, 21, 5, 182, 2, 17, 54, 4, 21, 5, 62, 132, 5, 1, 167, 255, 214, 29, 2, 159, 0, 7, 28]
abbrev dktX5_safest_3 : List UInt8 := dkwX5_safest_3 ++ dktX5_safest_4
def dkwX5_safest_2 : List UInt8 := [162, 0, 41, 42, 27, 21, 5, 182, 1, 232, 153, 0, 25, 42, 21, 5, 182, 2, 17, 21, 4, 162, 0, 14]
abbrev dktX5_safest_2 : List UInt8 := dkwX5_safest_2 ++ dktX5_safest_3
def dkwX5_safest_1 : List UInt8 := [154, 0, 5, 2, 172, 42, 182, 1, 198, 2, 62, 17, 3, 232, 54, 4, 3, 54, 5, 21, 5, 16, 36]
abbrev dktX5_safest_1 : List UInt8 := dkwX5_safest_1 ++ dktX5_safest_2
def dkwX5_safest_0 : List UInt8 := [42, 3, 181, 0, 149, 42, 27, 182, 0, 207, 153, 0, 15, 28, 133, 9, 20, 0, 219, 184, 0, 159]
abbrev dktX5_safest_0 : List UInt8 := dkwX5_safest_0 ++ dktX5_safest_1
theorem dksX5_safest_0 : cX5_safest.data.toList.drop 0 = dktX5_safest_0 := by decide +kernel
theorem dksX5_safest_1 : cX5_safest.data.toList.drop 22 = dktX5_safest_1 := dk_seg dksX5_safest_0 22 rfl rfl
theorem dksX5_safest_2 : cX5_safest.data.toList.drop 45 = dktX5_safest_2 := dk_seg dksX5_safest_1 23 rfl rfl
theorem dksX5_safest_3 : cX5_safest.data.toList.drop 69 = dktX5_safest_3 := dk_seg dksX5_safest_2 24 rfl rfl
theorem dksX5_safest_4 : cX5_safest.data.toList.drop 92 = dktX5_safest_4 := dk_seg dksX5_safest_3 23 rfl rfl
theorem dksX5_safest_5 : cX5_safest.data.toList.drop 115 = dktX5_safest_5 := dk_seg dksX5_safest_4 23 rfl rfl
theorem dX5_safest_0 : decode cX5_safest 0 = .ok (.aload_n 0, 1) := dk_42 (dk_at dksX5_safest_0 0 rfl rfl)
theorem dX5_safest_1 : decode cX5_safest 1 = .ok (.iconst 0, 1) := dk_3 (dk_at dksX5_safest_0 1 rfl rfl)
theorem dX5_safest_2 : decode cX5_safest 2 = .ok (.putfield 149, 3) := dk_181 0 149 (dk_at dksX5_safest_0 2 rfl rfl)
theorem dX5_safest_5 : decode cX5_safest 5 = .ok (.aload_n 0, 1) := dk_42 (dk_at dksX5_safest_0 5 rfl rfl)
theorem dX5_safest_6 : decode cX5_safest 6 = .ok (.iload_n 1, 1) := dk_27 (dk_at dksX5_safest_0 6 rfl rfl)
theorem dX5_safest_7 : decode cX5_safest 7 = .ok (.invokevirtual 207, 3) := dk_182 0 207 (dk_at dksX5_safest_0 7 rfl rfl)
theorem dX5_safest_10 : decode cX5_safest 10 = .ok (.ifCond .eq 15, 3) := dk_153 0 15 (dk_at dksX5_safest_0 10 rfl rfl)
theorem dX5_safest_13 : decode cX5_safest 13 = .ok (.iload_n 2, 1) := dk_28 (dk_at dksX5_safest_0 13 rfl rfl)
theorem dX5_safest_14 : decode cX5_safest 14 = .ok (.i2l, 1) := dk_133 (dk_at dksX5_safest_0 14 rfl rfl)
theorem dX5_safest_15 : decode cX5_safest 15 = .ok (.lconst 0, 1) := dk_9 (dk_at dksX5_safest_0 15 rfl rfl)
theorem dX5_safest_16 : decode cX5_safest 16 = .ok (.ldc2_w 219, 3) := dk_20 0 219 (dk_at dksX5_safest_0 16 rfl rfl)
theorem dX5_safest_19 : decode cX5_safest 19 = .ok (.invokestatic 159, 3) := dk_184 0 159 (dk_at dksX5_safest_0 19 rfl rfl)
theorem dX5_safest_22 : decode cX5_safest 22 = .ok (.ifCond .ne 5, 3) := dk_154 0 5 (dk_at dksX5_safest_1 0 rfl rfl)
theorem dX5_safest_25 : decode cX5_safest 25 = .ok (.iconst (-1), 1) := dk_2 (dk_at dksX5_safest_1 3 rfl rfl)
theorem dX5_safest_26 : decode cX5_safest 26 = .ok (.ireturn, 1) := dk_172 (dk_at dksX5_safest_1 4 rfl rfl)
theorem dX5_safest_27 : decode cX5_safest 27 = .ok (.aload_n 0, 1) := dk_42 (dk_at dksX5_safest_1 5 rfl rfl)
theorem dX5_safest_28 : decode cX5_safest 28 = .ok (.invokevirtual 454, 3) := dk_182 1 198 (dk_at dksX5_safest_1 6 rfl rfl)
theorem dX5_safest_31 : decode cX5_safest 31 = .ok (.iconst (-1), 1) := dk_2 (dk_at dksX5_safest_1 9 rfl rfl)
theorem dX5_safest_32 : decode cX5_safest 32 = .ok (.istore_n 3, 1) := dk_62 (dk_at dksX5_safest_1 10 rfl rfl)
theorem dX5_safest_33 : decode cX5_safest 33 = .ok (.sipush 1000, 3) := dk_17 3 232 (dk_at dksX5_safest_1 11 rfl rfl)
theorem dX5_safest_36 : decode cX5_safest 36 = .ok (.istore 4, 2) := dk_54 4 (dk_at dksX5_safest_1 14 rfl rfl)
theorem dX5_safest_38 : decode cX5_safest 38 = .ok (.iconst 0, 1) := dk_3 (dk_at dksX5_safest_1 16 rfl rfl)
theorem dX5_safest_39 : decode cX5_safest 39 = .ok (.istore 5, 2) := dk_54 5 (dk_at dksX5_safest_1 17 rfl rfl)
theorem dX5_safest_41 : decode cX5_safest 41 = .ok (.iload 5, 2) := dk_21 5 (dk_at dksX5_safest_1 19 rfl rfl)
theorem dX5_safest_43 : decode cX5_safest 43 = .ok (.bipush 36, 2) := dk_16 36 (dk_at dksX5_safest_1 21 rfl rfl)
theorem dX5_safest_45 : decode cX5_safest 45 = .ok (.if_icmp .ge 41, 3) := dk_162 0 41 (dk_at dksX5_safest_2 0 rfl rfl)
theorem dX5_safest_48 : decode cX5_safest 48 = .ok (.aload_n 0, 1) := dk_42 (dk_at dksX5_safest_2 3 rfl rfl)
theorem dX5_safest_49 : decode cX5_safest 49 = .ok (.iload_n 1, 1) := dk_27 (dk_at dksX5_safest_2 4 rfl rfl)
theorem dX5_safest_50 : decode cX5_safest 50 = .ok (.iload 5, 2) := dk_21 5 (dk_at dksX5_safest_2 5 rfl rfl)
theorem dX5_safest_52 : decode cX5_safest 52 = .ok (.invokevirtual 488, 3) := dk_182 1 232 (dk_at dksX5_safest_2 7 rfl rfl)
theorem dX5_safest_55 : decode cX5_safest 55 = .ok (.ifCond .eq 25, 3) := dk_153 0 25 (dk_at dksX5_safest_2 10 rfl rfl)
theorem dX5_safest_58 : decode cX5_safest 58 = .ok (.aload_n 0, 1) := dk_42 (dk_at dksX5_safest_2 13 rfl rfl)
theorem dX5_safest_59 : decode cX5_safest 59 = .ok (.iload 5, 2) := dk_21 5 (dk_at dksX5_safest_2 14 rfl rfl)
theorem dX5_safest_61 : decode cX5_safest 61 = .ok (.invokevirtual 529, 3) := dk_182 2 17 (dk_at dksX5_safest_2 16 rfl rfl)
theorem dX5_safest_64 : decode cX5_safest 64 = .ok (.iload 4, 2) := dk_21 4 (dk_at dksX5_safest_2 19 rfl rfl)
theorem dX5_safest_66 : decode cX5_safest 66 = .ok (.if_icmp .ge 14, 3) := dk_162 0 14 (dk_at dksX5_safest_2 21 rfl rfl)
theorem dX5_safest_69 : decode cX5_safest 69 = .ok (.aload_n 0, 1) := dk_42 (dk_at dksX5_safest_3 0 rfl rfl)
theorem dX5_safest_70 : decode cX5_safest 70 = .ok (.iload 5, 2) := dk_21 5 (dk_at dksX5_safest_3 1 rfl rfl)
theorem dX5_safest_72 : decode cX5_safest 72 = .ok (.invokevirtual 529, 3) := dk_182 2 17 (dk_at dksX5_safest_3 3 rfl rfl)
theorem dX5_safest_75 : decode cX5_safest 75 = .ok (.istore 4, 2) := dk_54 4 (dk_at dksX5_safest_3 6 rfl rfl)
theorem dX5_safest_77 : decode cX5_safest 77 = .ok (.iload 5, 2) := dk_21 5 (dk_at dksX5_safest_3 8 rfl rfl)
theorem dX5_safest_79 : decode cX5_safest 79 = .ok (.istore_n 3, 1) := dk_62 (dk_at dksX5_safest_3 10 rfl rfl)
theorem dX5_safest_80 : decode cX5_safest 80 = .ok (.iinc 5 1, 3) := dk_132 5 1 (dk_at dksX5_safest_3 11 rfl rfl)
theorem dX5_safest_83 : decode cX5_safest 83 = .ok (.goto (-42), 3) := dk_167 255 214 (dk_at dksX5_safest_3 14 rfl rfl)
theorem dX5_safest_86 : decode cX5_safest 86 = .ok (.iload_n 3, 1) := dk_29 (dk_at dksX5_safest_3 17 rfl rfl)
theorem dX5_safest_87 : decode cX5_safest 87 = .ok (.iconst (-1), 1) := dk_2 (dk_at dksX5_safest_3 18 rfl rfl)
theorem dX5_safest_88 : decode cX5_safest 88 = .ok (.if_icmp .eq 7, 3) := dk_159 0 7 (dk_at dksX5_safest_3 19 rfl rfl)
theorem dX5_safest_91 : decode cX5_safest 91 = .ok (.iload_n 2, 1) := dk_28 (dk_at dksX5_safest_3 22 rfl rfl)
theorem dX5_safest_92 : decode cX5_safest 92 = .ok (.ifCond .ne 5, 3) := dk_154 0 5 (dk_at dksX5_safest_4 0 rfl rfl)
theorem dX5_safest_95 : decode cX5_safest 95 = .ok (.iload_n 3, 1) := dk_29 (dk_at dksX5_safest_4 3 rfl rfl)
theorem dX5_safest_96 : decode cX5_safest 96 = .ok (.ireturn, 1) := dk_172 (dk_at dksX5_safest_4 4 rfl rfl)
theorem dX5_safest_97 : decode cX5_safest 97 = .ok (.aload_n 0, 1) := dk_42 (dk_at dksX5_safest_4 5 rfl rfl)
theorem dX5_safest_98 : decode cX5_safest 98 = .ok (.iload 4, 2) := dk_21 4 (dk_at dksX5_safest_4 6 rfl rfl)
theorem dX5_safest_100 : decode cX5_safest 100 = .ok (.i2l, 1) := dk_133 (dk_at dksX5_safest_4 8 rfl rfl)
theorem dX5_safest_101 : decode cX5_safest 101 = .ok (.aload_n 0, 1) := dk_42 (dk_at dksX5_safest_4 9 rfl rfl)
theorem dX5_safest_102 : decode cX5_safest 102 = .ok (.getfield 436, 3) := dk_180 1 180 (dk_at dksX5_safest_4 10 rfl rfl)
theorem dX5_safest_105 : decode cX5_safest 105 = .ok (.i2l, 1) := dk_133 (dk_at dksX5_safest_4 13 rfl rfl)
theorem dX5_safest_106 : decode cX5_safest 106 = .ok (.invokevirtual 457, 3) := dk_182 1 201 (dk_at dksX5_safest_4 14 rfl rfl)
theorem dX5_safest_109 : decode cX5_safest 109 = .ok (.iload_n 2, 1) := dk_28 (dk_at dksX5_safest_4 17 rfl rfl)
theorem dX5_safest_110 : decode cX5_safest 110 = .ok (.iconst 1, 1) := dk_4 (dk_at dksX5_safest_4 18 rfl rfl)
theorem dX5_safest_111 : decode cX5_safest 111 = .ok (.if_icmp .ne 10, 3) := dk_160 0 10 (dk_at dksX5_safest_4 19 rfl rfl)
theorem dX5_safest_114 : decode cX5_safest 114 = .ok (.aload_n 0, 1) := dk_42 (dk_at dksX5_safest_4 22 rfl rfl)
theorem dX5_safest_115 : decode cX5_safest 115 = .ok (.getfield 448, 3) := dk_180 1 192 (dk_at dksX5_safest_5 0 rfl rfl)
theorem dX5_safest_118 : decode cX5_safest 118 = .ok (.goto 7, 3) := dk_167 0 7 (dk_at dksX5_safest_5 3 rfl rfl)
theorem dX5_safest_121 : decode cX5_safest 121 = .ok (.aload_n 0, 1) := dk_42 (dk_at dksX5_safest_5 6 rfl rfl)
theorem dX5_safest_122 : decode cX5_safest 122 = .ok (.getfield 451, 3) := dk_180 1 195 (dk_at dksX5_safest_5 7 rfl rfl)
theorem dX5_safest_125 : decode cX5_safest 125 = .ok (.l2i, 1) := dk_136 (dk_at dksX5_safest_5 10 rfl rfl)
theorem dX5_safest_126 : decode cX5_safest 126 = .ok (.ireturn, 1) := dk_172 (dk_at dksX5_safest_5 11 rfl rfl)
abbrev cX5_weightNear : ByteArray := prog_22_method_98_code
def yX5_weightNear : MethodName := ⟨RX5, "weightNear", "(I)I"⟩
def dkwX5_weightNear_1 : List UInt8 := [29, 46, 167, 0, 4, 3, 96, 61, 132, 3, 1, 167, 255, 225, 28, 172]
abbrev dktX5_weightNear_1 : List UInt8 := dkwX5_weightNear_1 ++ []
def dkwX5_weightNear_0 : List UInt8 := [3, 61, 3, 62, 29, 16, 36, 162, 0, 31, 28, 29, 27, 184, 1, 214, 5, 162, 0, 12, 42, 180, 0, 125]
abbrev dktX5_weightNear_0 : List UInt8 := dkwX5_weightNear_0 ++ dktX5_weightNear_1
theorem dksX5_weightNear_0 : cX5_weightNear.data.toList.drop 0 = dktX5_weightNear_0 := by decide +kernel
theorem dksX5_weightNear_1 : cX5_weightNear.data.toList.drop 24 = dktX5_weightNear_1 := dk_seg dksX5_weightNear_0 24 rfl rfl
theorem dX5_weightNear_0 : decode cX5_weightNear 0 = .ok (.iconst 0, 1) := dk_3 (dk_at dksX5_weightNear_0 0 rfl rfl)
theorem dX5_weightNear_1 : decode cX5_weightNear 1 = .ok (.istore_n 2, 1) := dk_61 (dk_at dksX5_weightNear_0 1 rfl rfl)
theorem dX5_weightNear_2 : decode cX5_weightNear 2 = .ok (.iconst 0, 1) := dk_3 (dk_at dksX5_weightNear_0 2 rfl rfl)
theorem dX5_weightNear_3 : decode cX5_weightNear 3 = .ok (.istore_n 3, 1) := dk_62 (dk_at dksX5_weightNear_0 3 rfl rfl)
theorem dX5_weightNear_4 : decode cX5_weightNear 4 = .ok (.iload_n 3, 1) := dk_29 (dk_at dksX5_weightNear_0 4 rfl rfl)
theorem dX5_weightNear_5 : decode cX5_weightNear 5 = .ok (.bipush 36, 2) := dk_16 36 (dk_at dksX5_weightNear_0 5 rfl rfl)
theorem dX5_weightNear_7 : decode cX5_weightNear 7 = .ok (.if_icmp .ge 31, 3) := dk_162 0 31 (dk_at dksX5_weightNear_0 7 rfl rfl)
theorem dX5_weightNear_10 : decode cX5_weightNear 10 = .ok (.iload_n 2, 1) := dk_28 (dk_at dksX5_weightNear_0 10 rfl rfl)
theorem dX5_weightNear_11 : decode cX5_weightNear 11 = .ok (.iload_n 3, 1) := dk_29 (dk_at dksX5_weightNear_0 11 rfl rfl)
theorem dX5_weightNear_12 : decode cX5_weightNear 12 = .ok (.iload_n 1, 1) := dk_27 (dk_at dksX5_weightNear_0 12 rfl rfl)
theorem dX5_weightNear_13 : decode cX5_weightNear 13 = .ok (.invokestatic 470, 3) := dk_184 1 214 (dk_at dksX5_weightNear_0 13 rfl rfl)
theorem dX5_weightNear_16 : decode cX5_weightNear 16 = .ok (.iconst 2, 1) := dk_5 (dk_at dksX5_weightNear_0 16 rfl rfl)
theorem dX5_weightNear_17 : decode cX5_weightNear 17 = .ok (.if_icmp .ge 12, 3) := dk_162 0 12 (dk_at dksX5_weightNear_0 17 rfl rfl)
theorem dX5_weightNear_20 : decode cX5_weightNear 20 = .ok (.aload_n 0, 1) := dk_42 (dk_at dksX5_weightNear_0 20 rfl rfl)
theorem dX5_weightNear_21 : decode cX5_weightNear 21 = .ok (.getfield 125, 3) := dk_180 0 125 (dk_at dksX5_weightNear_0 21 rfl rfl)
theorem dX5_weightNear_24 : decode cX5_weightNear 24 = .ok (.iload_n 3, 1) := dk_29 (dk_at dksX5_weightNear_1 0 rfl rfl)
theorem dX5_weightNear_25 : decode cX5_weightNear 25 = .ok (.iaload, 1) := dk_46 (dk_at dksX5_weightNear_1 1 rfl rfl)
theorem dX5_weightNear_26 : decode cX5_weightNear 26 = .ok (.goto 4, 3) := dk_167 0 4 (dk_at dksX5_weightNear_1 2 rfl rfl)
theorem dX5_weightNear_29 : decode cX5_weightNear 29 = .ok (.iconst 0, 1) := dk_3 (dk_at dksX5_weightNear_1 5 rfl rfl)
theorem dX5_weightNear_30 : decode cX5_weightNear 30 = .ok (.iadd, 1) := dk_96 (dk_at dksX5_weightNear_1 6 rfl rfl)
theorem dX5_weightNear_31 : decode cX5_weightNear 31 = .ok (.istore_n 2, 1) := dk_61 (dk_at dksX5_weightNear_1 7 rfl rfl)
theorem dX5_weightNear_32 : decode cX5_weightNear 32 = .ok (.iinc 3 1, 3) := dk_132 3 1 (dk_at dksX5_weightNear_1 8 rfl rfl)
theorem dX5_weightNear_35 : decode cX5_weightNear 35 = .ok (.goto (-31), 3) := dk_167 255 225 (dk_at dksX5_weightNear_1 11 rfl rfl)
theorem dX5_weightNear_38 : decode cX5_weightNear 38 = .ok (.iload_n 2, 1) := dk_28 (dk_at dksX5_weightNear_1 14 rfl rfl)
theorem dX5_weightNear_39 : decode cX5_weightNear 39 = .ok (.ireturn, 1) := dk_172 (dk_at dksX5_weightNear_1 15 rfl rfl)
abbrev cX5_crowd : ByteArray := prog_22_method_100_code
def yX5_crowd : MethodName := ⟨RX5, "crowd", "(I)J"⟩
def dkwX5_crowd_6 : List UInt8 := [180, 1, 195, 173]
abbrev dktX5_crowd_6 : List UInt8 := dkwX5_crowd_6 ++ []
def dkwX5_crowd_5 : List UInt8 := [16, 60, 42, 180, 1, 180, 104, 133, 182, 1, 201, 27, 4, 160, 0, 10, 42, 180, 1, 192, 167, 0, 7, 42]
abbrev dktX5_crowd_5 : List UInt8 := dkwX5_crowd_5 ++ dktX5_crowd_6
def dkwX5_crowd_4 : List UInt8 := [132, 4, 1, 167, 255, 195, 27, 154, 0, 6, 28, 133, 173, 42, 16, 60, 42, 180, 1, 180, 104, 29, 100, 133]
abbrev dktX5_crowd_4 : List UInt8 := dkwX5_crowd_4 ++ dktX5_crowd_5
def dkwX5_crowd_3 : List UInt8 := [180, 0, 137, 16, 6, 46, 29, 162, 0, 13, 42, 180, 0, 137, 16, 6, 46, 167, 0, 4, 29, 62]
abbrev dktX5_crowd_3 : List UInt8 := dkwX5_crowd_3 ++ dktX5_crowd_4
def dkwX5_crowd_2 : List UInt8 := [21, 4, 182, 1, 220, 42, 180, 0, 137, 16, 6, 46, 29, 162, 0, 8, 21, 4, 167, 0, 4, 28, 61, 42]
abbrev dktX5_crowd_2 : List UInt8 := dkwX5_crowd_2 ++ dktX5_crowd_3
def dkwX5_crowd_1 : List UInt8 := [182, 1, 198, 3, 61, 19, 2, 20, 62, 3, 54, 4, 21, 4, 42, 180, 0, 13, 3, 46, 163, 0, 56, 42]
abbrev dktX5_crowd_1 : List UInt8 := dkwX5_crowd_1 ++ dktX5_crowd_2
def dkwX5_crowd_0 : List UInt8 := [42, 3, 181, 0, 149, 27, 133, 9, 20, 0, 219, 184, 0, 159, 154, 0, 7, 20, 0, 221, 173, 42]
abbrev dktX5_crowd_0 : List UInt8 := dkwX5_crowd_0 ++ dktX5_crowd_1
theorem dksX5_crowd_0 : cX5_crowd.data.toList.drop 0 = dktX5_crowd_0 := by decide +kernel
theorem dksX5_crowd_1 : cX5_crowd.data.toList.drop 22 = dktX5_crowd_1 := dk_seg dksX5_crowd_0 22 rfl rfl
theorem dksX5_crowd_2 : cX5_crowd.data.toList.drop 46 = dktX5_crowd_2 := dk_seg dksX5_crowd_1 24 rfl rfl
theorem dksX5_crowd_3 : cX5_crowd.data.toList.drop 70 = dktX5_crowd_3 := dk_seg dksX5_crowd_2 24 rfl rfl
theorem dksX5_crowd_4 : cX5_crowd.data.toList.drop 92 = dktX5_crowd_4 := dk_seg dksX5_crowd_3 22 rfl rfl
theorem dksX5_crowd_5 : cX5_crowd.data.toList.drop 116 = dktX5_crowd_5 := dk_seg dksX5_crowd_4 24 rfl rfl
theorem dksX5_crowd_6 : cX5_crowd.data.toList.drop 140 = dktX5_crowd_6 := dk_seg dksX5_crowd_5 24 rfl rfl
theorem dX5_crowd_0 : decode cX5_crowd 0 = .ok (.aload_n 0, 1) := dk_42 (dk_at dksX5_crowd_0 0 rfl rfl)
theorem dX5_crowd_1 : decode cX5_crowd 1 = .ok (.iconst 0, 1) := dk_3 (dk_at dksX5_crowd_0 1 rfl rfl)
theorem dX5_crowd_2 : decode cX5_crowd 2 = .ok (.putfield 149, 3) := dk_181 0 149 (dk_at dksX5_crowd_0 2 rfl rfl)
theorem dX5_crowd_5 : decode cX5_crowd 5 = .ok (.iload_n 1, 1) := dk_27 (dk_at dksX5_crowd_0 5 rfl rfl)
theorem dX5_crowd_6 : decode cX5_crowd 6 = .ok (.i2l, 1) := dk_133 (dk_at dksX5_crowd_0 6 rfl rfl)
theorem dX5_crowd_7 : decode cX5_crowd 7 = .ok (.lconst 0, 1) := dk_9 (dk_at dksX5_crowd_0 7 rfl rfl)
theorem dX5_crowd_8 : decode cX5_crowd 8 = .ok (.ldc2_w 219, 3) := dk_20 0 219 (dk_at dksX5_crowd_0 8 rfl rfl)
theorem dX5_crowd_11 : decode cX5_crowd 11 = .ok (.invokestatic 159, 3) := dk_184 0 159 (dk_at dksX5_crowd_0 11 rfl rfl)
theorem dX5_crowd_14 : decode cX5_crowd 14 = .ok (.ifCond .ne 7, 3) := dk_154 0 7 (dk_at dksX5_crowd_0 14 rfl rfl)
theorem dX5_crowd_17 : decode cX5_crowd 17 = .ok (.ldc2_w 221, 3) := dk_20 0 221 (dk_at dksX5_crowd_0 17 rfl rfl)
theorem dX5_crowd_20 : decode cX5_crowd 20 = .ok (.lreturn, 1) := dk_173 (dk_at dksX5_crowd_0 20 rfl rfl)
theorem dX5_crowd_21 : decode cX5_crowd 21 = .ok (.aload_n 0, 1) := dk_42 (dk_at dksX5_crowd_0 21 rfl rfl)
theorem dX5_crowd_22 : decode cX5_crowd 22 = .ok (.invokevirtual 454, 3) := dk_182 1 198 (dk_at dksX5_crowd_1 0 rfl rfl)
theorem dX5_crowd_25 : decode cX5_crowd 25 = .ok (.iconst 0, 1) := dk_3 (dk_at dksX5_crowd_1 3 rfl rfl)
theorem dX5_crowd_26 : decode cX5_crowd 26 = .ok (.istore_n 2, 1) := dk_61 (dk_at dksX5_crowd_1 4 rfl rfl)
theorem dX5_crowd_27 : decode cX5_crowd 27 = .ok (.ldc_w 532, 3) := dk_19 2 20 (dk_at dksX5_crowd_1 5 rfl rfl)
theorem dX5_crowd_30 : decode cX5_crowd 30 = .ok (.istore_n 3, 1) := dk_62 (dk_at dksX5_crowd_1 8 rfl rfl)
theorem dX5_crowd_31 : decode cX5_crowd 31 = .ok (.iconst 0, 1) := dk_3 (dk_at dksX5_crowd_1 9 rfl rfl)
theorem dX5_crowd_32 : decode cX5_crowd 32 = .ok (.istore 4, 2) := dk_54 4 (dk_at dksX5_crowd_1 10 rfl rfl)
theorem dX5_crowd_34 : decode cX5_crowd 34 = .ok (.iload 4, 2) := dk_21 4 (dk_at dksX5_crowd_1 12 rfl rfl)
theorem dX5_crowd_36 : decode cX5_crowd 36 = .ok (.aload_n 0, 1) := dk_42 (dk_at dksX5_crowd_1 14 rfl rfl)
theorem dX5_crowd_37 : decode cX5_crowd 37 = .ok (.getfield 13, 3) := dk_180 0 13 (dk_at dksX5_crowd_1 15 rfl rfl)
theorem dX5_crowd_40 : decode cX5_crowd 40 = .ok (.iconst 0, 1) := dk_3 (dk_at dksX5_crowd_1 18 rfl rfl)
theorem dX5_crowd_41 : decode cX5_crowd 41 = .ok (.iaload, 1) := dk_46 (dk_at dksX5_crowd_1 19 rfl rfl)
theorem dX5_crowd_42 : decode cX5_crowd 42 = .ok (.if_icmp .gt 56, 3) := dk_163 0 56 (dk_at dksX5_crowd_1 20 rfl rfl)
theorem dX5_crowd_45 : decode cX5_crowd 45 = .ok (.aload_n 0, 1) := dk_42 (dk_at dksX5_crowd_1 23 rfl rfl)
theorem dX5_crowd_46 : decode cX5_crowd 46 = .ok (.iload 4, 2) := dk_21 4 (dk_at dksX5_crowd_2 0 rfl rfl)
theorem dX5_crowd_48 : decode cX5_crowd 48 = .ok (.invokevirtual 476, 3) := dk_182 1 220 (dk_at dksX5_crowd_2 2 rfl rfl)
theorem dX5_crowd_51 : decode cX5_crowd 51 = .ok (.aload_n 0, 1) := dk_42 (dk_at dksX5_crowd_2 5 rfl rfl)
theorem dX5_crowd_52 : decode cX5_crowd 52 = .ok (.getfield 137, 3) := dk_180 0 137 (dk_at dksX5_crowd_2 6 rfl rfl)
theorem dX5_crowd_55 : decode cX5_crowd 55 = .ok (.bipush 6, 2) := dk_16 6 (dk_at dksX5_crowd_2 9 rfl rfl)
theorem dX5_crowd_57 : decode cX5_crowd 57 = .ok (.iaload, 1) := dk_46 (dk_at dksX5_crowd_2 11 rfl rfl)
theorem dX5_crowd_58 : decode cX5_crowd 58 = .ok (.iload_n 3, 1) := dk_29 (dk_at dksX5_crowd_2 12 rfl rfl)
theorem dX5_crowd_59 : decode cX5_crowd 59 = .ok (.if_icmp .ge 8, 3) := dk_162 0 8 (dk_at dksX5_crowd_2 13 rfl rfl)
theorem dX5_crowd_62 : decode cX5_crowd 62 = .ok (.iload 4, 2) := dk_21 4 (dk_at dksX5_crowd_2 16 rfl rfl)
theorem dX5_crowd_64 : decode cX5_crowd 64 = .ok (.goto 4, 3) := dk_167 0 4 (dk_at dksX5_crowd_2 18 rfl rfl)
theorem dX5_crowd_67 : decode cX5_crowd 67 = .ok (.iload_n 2, 1) := dk_28 (dk_at dksX5_crowd_2 21 rfl rfl)
theorem dX5_crowd_68 : decode cX5_crowd 68 = .ok (.istore_n 2, 1) := dk_61 (dk_at dksX5_crowd_2 22 rfl rfl)
theorem dX5_crowd_69 : decode cX5_crowd 69 = .ok (.aload_n 0, 1) := dk_42 (dk_at dksX5_crowd_2 23 rfl rfl)
theorem dX5_crowd_70 : decode cX5_crowd 70 = .ok (.getfield 137, 3) := dk_180 0 137 (dk_at dksX5_crowd_3 0 rfl rfl)
theorem dX5_crowd_73 : decode cX5_crowd 73 = .ok (.bipush 6, 2) := dk_16 6 (dk_at dksX5_crowd_3 3 rfl rfl)
theorem dX5_crowd_75 : decode cX5_crowd 75 = .ok (.iaload, 1) := dk_46 (dk_at dksX5_crowd_3 5 rfl rfl)
theorem dX5_crowd_76 : decode cX5_crowd 76 = .ok (.iload_n 3, 1) := dk_29 (dk_at dksX5_crowd_3 6 rfl rfl)
theorem dX5_crowd_77 : decode cX5_crowd 77 = .ok (.if_icmp .ge 13, 3) := dk_162 0 13 (dk_at dksX5_crowd_3 7 rfl rfl)
theorem dX5_crowd_80 : decode cX5_crowd 80 = .ok (.aload_n 0, 1) := dk_42 (dk_at dksX5_crowd_3 10 rfl rfl)
theorem dX5_crowd_81 : decode cX5_crowd 81 = .ok (.getfield 137, 3) := dk_180 0 137 (dk_at dksX5_crowd_3 11 rfl rfl)
theorem dX5_crowd_84 : decode cX5_crowd 84 = .ok (.bipush 6, 2) := dk_16 6 (dk_at dksX5_crowd_3 14 rfl rfl)
theorem dX5_crowd_86 : decode cX5_crowd 86 = .ok (.iaload, 1) := dk_46 (dk_at dksX5_crowd_3 16 rfl rfl)
theorem dX5_crowd_87 : decode cX5_crowd 87 = .ok (.goto 4, 3) := dk_167 0 4 (dk_at dksX5_crowd_3 17 rfl rfl)
theorem dX5_crowd_90 : decode cX5_crowd 90 = .ok (.iload_n 3, 1) := dk_29 (dk_at dksX5_crowd_3 20 rfl rfl)
theorem dX5_crowd_91 : decode cX5_crowd 91 = .ok (.istore_n 3, 1) := dk_62 (dk_at dksX5_crowd_3 21 rfl rfl)
theorem dX5_crowd_92 : decode cX5_crowd 92 = .ok (.iinc 4 1, 3) := dk_132 4 1 (dk_at dksX5_crowd_4 0 rfl rfl)
theorem dX5_crowd_95 : decode cX5_crowd 95 = .ok (.goto (-61), 3) := dk_167 255 195 (dk_at dksX5_crowd_4 3 rfl rfl)
theorem dX5_crowd_98 : decode cX5_crowd 98 = .ok (.iload_n 1, 1) := dk_27 (dk_at dksX5_crowd_4 6 rfl rfl)
theorem dX5_crowd_99 : decode cX5_crowd 99 = .ok (.ifCond .ne 6, 3) := dk_154 0 6 (dk_at dksX5_crowd_4 7 rfl rfl)
theorem dX5_crowd_102 : decode cX5_crowd 102 = .ok (.iload_n 2, 1) := dk_28 (dk_at dksX5_crowd_4 10 rfl rfl)
theorem dX5_crowd_103 : decode cX5_crowd 103 = .ok (.i2l, 1) := dk_133 (dk_at dksX5_crowd_4 11 rfl rfl)
theorem dX5_crowd_104 : decode cX5_crowd 104 = .ok (.lreturn, 1) := dk_173 (dk_at dksX5_crowd_4 12 rfl rfl)
theorem dX5_crowd_105 : decode cX5_crowd 105 = .ok (.aload_n 0, 1) := dk_42 (dk_at dksX5_crowd_4 13 rfl rfl)
theorem dX5_crowd_106 : decode cX5_crowd 106 = .ok (.bipush 60, 2) := dk_16 60 (dk_at dksX5_crowd_4 14 rfl rfl)
theorem dX5_crowd_108 : decode cX5_crowd 108 = .ok (.aload_n 0, 1) := dk_42 (dk_at dksX5_crowd_4 16 rfl rfl)
theorem dX5_crowd_109 : decode cX5_crowd 109 = .ok (.getfield 436, 3) := dk_180 1 180 (dk_at dksX5_crowd_4 17 rfl rfl)
theorem dX5_crowd_112 : decode cX5_crowd 112 = .ok (.imul, 1) := dk_104 (dk_at dksX5_crowd_4 20 rfl rfl)
theorem dX5_crowd_113 : decode cX5_crowd 113 = .ok (.iload_n 3, 1) := dk_29 (dk_at dksX5_crowd_4 21 rfl rfl)
theorem dX5_crowd_114 : decode cX5_crowd 114 = .ok (.isub, 1) := dk_100 (dk_at dksX5_crowd_4 22 rfl rfl)
theorem dX5_crowd_115 : decode cX5_crowd 115 = .ok (.i2l, 1) := dk_133 (dk_at dksX5_crowd_4 23 rfl rfl)
theorem dX5_crowd_116 : decode cX5_crowd 116 = .ok (.bipush 60, 2) := dk_16 60 (dk_at dksX5_crowd_5 0 rfl rfl)
theorem dX5_crowd_118 : decode cX5_crowd 118 = .ok (.aload_n 0, 1) := dk_42 (dk_at dksX5_crowd_5 2 rfl rfl)
theorem dX5_crowd_119 : decode cX5_crowd 119 = .ok (.getfield 436, 3) := dk_180 1 180 (dk_at dksX5_crowd_5 3 rfl rfl)
theorem dX5_crowd_122 : decode cX5_crowd 122 = .ok (.imul, 1) := dk_104 (dk_at dksX5_crowd_5 6 rfl rfl)
theorem dX5_crowd_123 : decode cX5_crowd 123 = .ok (.i2l, 1) := dk_133 (dk_at dksX5_crowd_5 7 rfl rfl)
theorem dX5_crowd_124 : decode cX5_crowd 124 = .ok (.invokevirtual 457, 3) := dk_182 1 201 (dk_at dksX5_crowd_5 8 rfl rfl)
theorem dX5_crowd_127 : decode cX5_crowd 127 = .ok (.iload_n 1, 1) := dk_27 (dk_at dksX5_crowd_5 11 rfl rfl)
theorem dX5_crowd_128 : decode cX5_crowd 128 = .ok (.iconst 1, 1) := dk_4 (dk_at dksX5_crowd_5 12 rfl rfl)
theorem dX5_crowd_129 : decode cX5_crowd 129 = .ok (.if_icmp .ne 10, 3) := dk_160 0 10 (dk_at dksX5_crowd_5 13 rfl rfl)
theorem dX5_crowd_132 : decode cX5_crowd 132 = .ok (.aload_n 0, 1) := dk_42 (dk_at dksX5_crowd_5 16 rfl rfl)
theorem dX5_crowd_133 : decode cX5_crowd 133 = .ok (.getfield 448, 3) := dk_180 1 192 (dk_at dksX5_crowd_5 17 rfl rfl)
theorem dX5_crowd_136 : decode cX5_crowd 136 = .ok (.goto 7, 3) := dk_167 0 7 (dk_at dksX5_crowd_5 20 rfl rfl)
theorem dX5_crowd_139 : decode cX5_crowd 139 = .ok (.aload_n 0, 1) := dk_42 (dk_at dksX5_crowd_5 23 rfl rfl)
theorem dX5_crowd_140 : decode cX5_crowd 140 = .ok (.getfield 451, 3) := dk_180 1 195 (dk_at dksX5_crowd_6 0 rfl rfl)
theorem dX5_crowd_143 : decode cX5_crowd 143 = .ok (.lreturn, 1) := dk_173 (dk_at dksX5_crowd_6 3 rfl rfl)
abbrev cX5_again : ByteArray := prog_22_method_101_code
def yX5_again : MethodName := ⟨RX5, "again", "(I)J"⟩
def dkwX5_again_3 : List UInt8 := [180, 1, 195, 173]
abbrev dktX5_again_3 : List UInt8 := dkwX5_again_3 ++ []
def dkwX5_again_2 : List UInt8 := [22, 4, 22, 4, 105, 32, 32, 105, 182, 1, 201, 27, 154, 0, 10, 42, 180, 1, 192, 167, 0, 7, 42]
abbrev dktX5_again_2 : List UInt8 := dkwX5_again_2 ++ dktX5_again_3
def dkwX5_again_1 : List UInt8 := [182, 1, 223, 16, 60, 42, 180, 1, 180, 104, 133, 65, 42, 180, 0, 137, 16, 6, 46, 133, 55, 4, 42]
abbrev dktX5_again_1 : List UInt8 := dkwX5_again_1 ++ dktX5_again_2
def dkwX5_again_0 : List UInt8 := [42, 3, 181, 0, 149, 27, 133, 9, 10, 184, 0, 159, 154, 0, 7, 20, 0, 221, 173, 42, 182, 1, 198, 42]
abbrev dktX5_again_0 : List UInt8 := dkwX5_again_0 ++ dktX5_again_1
theorem dksX5_again_0 : cX5_again.data.toList.drop 0 = dktX5_again_0 := by decide +kernel
theorem dksX5_again_1 : cX5_again.data.toList.drop 24 = dktX5_again_1 := dk_seg dksX5_again_0 24 rfl rfl
theorem dksX5_again_2 : cX5_again.data.toList.drop 47 = dktX5_again_2 := dk_seg dksX5_again_1 23 rfl rfl
theorem dksX5_again_3 : cX5_again.data.toList.drop 70 = dktX5_again_3 := dk_seg dksX5_again_2 23 rfl rfl
theorem dX5_again_0 : decode cX5_again 0 = .ok (.aload_n 0, 1) := dk_42 (dk_at dksX5_again_0 0 rfl rfl)
theorem dX5_again_1 : decode cX5_again 1 = .ok (.iconst 0, 1) := dk_3 (dk_at dksX5_again_0 1 rfl rfl)
theorem dX5_again_2 : decode cX5_again 2 = .ok (.putfield 149, 3) := dk_181 0 149 (dk_at dksX5_again_0 2 rfl rfl)
theorem dX5_again_5 : decode cX5_again 5 = .ok (.iload_n 1, 1) := dk_27 (dk_at dksX5_again_0 5 rfl rfl)
theorem dX5_again_6 : decode cX5_again 6 = .ok (.i2l, 1) := dk_133 (dk_at dksX5_again_0 6 rfl rfl)
theorem dX5_again_7 : decode cX5_again 7 = .ok (.lconst 0, 1) := dk_9 (dk_at dksX5_again_0 7 rfl rfl)
theorem dX5_again_8 : decode cX5_again 8 = .ok (.lconst 1, 1) := dk_10 (dk_at dksX5_again_0 8 rfl rfl)
theorem dX5_again_9 : decode cX5_again 9 = .ok (.invokestatic 159, 3) := dk_184 0 159 (dk_at dksX5_again_0 9 rfl rfl)
theorem dX5_again_12 : decode cX5_again 12 = .ok (.ifCond .ne 7, 3) := dk_154 0 7 (dk_at dksX5_again_0 12 rfl rfl)
theorem dX5_again_15 : decode cX5_again 15 = .ok (.ldc2_w 221, 3) := dk_20 0 221 (dk_at dksX5_again_0 15 rfl rfl)
theorem dX5_again_18 : decode cX5_again 18 = .ok (.lreturn, 1) := dk_173 (dk_at dksX5_again_0 18 rfl rfl)
theorem dX5_again_19 : decode cX5_again 19 = .ok (.aload_n 0, 1) := dk_42 (dk_at dksX5_again_0 19 rfl rfl)
theorem dX5_again_20 : decode cX5_again 20 = .ok (.invokevirtual 454, 3) := dk_182 1 198 (dk_at dksX5_again_0 20 rfl rfl)
theorem dX5_again_23 : decode cX5_again 23 = .ok (.aload_n 0, 1) := dk_42 (dk_at dksX5_again_0 23 rfl rfl)
theorem dX5_again_24 : decode cX5_again 24 = .ok (.invokevirtual 479, 3) := dk_182 1 223 (dk_at dksX5_again_1 0 rfl rfl)
theorem dX5_again_27 : decode cX5_again 27 = .ok (.bipush 60, 2) := dk_16 60 (dk_at dksX5_again_1 3 rfl rfl)
theorem dX5_again_29 : decode cX5_again 29 = .ok (.aload_n 0, 1) := dk_42 (dk_at dksX5_again_1 5 rfl rfl)
theorem dX5_again_30 : decode cX5_again 30 = .ok (.getfield 436, 3) := dk_180 1 180 (dk_at dksX5_again_1 6 rfl rfl)
theorem dX5_again_33 : decode cX5_again 33 = .ok (.imul, 1) := dk_104 (dk_at dksX5_again_1 9 rfl rfl)
theorem dX5_again_34 : decode cX5_again 34 = .ok (.i2l, 1) := dk_133 (dk_at dksX5_again_1 10 rfl rfl)
theorem dX5_again_35 : decode cX5_again 35 = .ok (.lstore_n 2, 1) := dk_65 (dk_at dksX5_again_1 11 rfl rfl)
theorem dX5_again_36 : decode cX5_again 36 = .ok (.aload_n 0, 1) := dk_42 (dk_at dksX5_again_1 12 rfl rfl)
theorem dX5_again_37 : decode cX5_again 37 = .ok (.getfield 137, 3) := dk_180 0 137 (dk_at dksX5_again_1 13 rfl rfl)
theorem dX5_again_40 : decode cX5_again 40 = .ok (.bipush 6, 2) := dk_16 6 (dk_at dksX5_again_1 16 rfl rfl)
theorem dX5_again_42 : decode cX5_again 42 = .ok (.iaload, 1) := dk_46 (dk_at dksX5_again_1 18 rfl rfl)
theorem dX5_again_43 : decode cX5_again 43 = .ok (.i2l, 1) := dk_133 (dk_at dksX5_again_1 19 rfl rfl)
theorem dX5_again_44 : decode cX5_again 44 = .ok (.lstore 4, 2) := dk_55 4 (dk_at dksX5_again_1 20 rfl rfl)
theorem dX5_again_46 : decode cX5_again 46 = .ok (.aload_n 0, 1) := dk_42 (dk_at dksX5_again_1 22 rfl rfl)
theorem dX5_again_47 : decode cX5_again 47 = .ok (.lload 4, 2) := dk_22 4 (dk_at dksX5_again_2 0 rfl rfl)
theorem dX5_again_49 : decode cX5_again 49 = .ok (.lload 4, 2) := dk_22 4 (dk_at dksX5_again_2 2 rfl rfl)
theorem dX5_again_51 : decode cX5_again 51 = .ok (.lmul, 1) := dk_105 (dk_at dksX5_again_2 4 rfl rfl)
theorem dX5_again_52 : decode cX5_again 52 = .ok (.lload_n 2, 1) := dk_32 (dk_at dksX5_again_2 5 rfl rfl)
theorem dX5_again_53 : decode cX5_again 53 = .ok (.lload_n 2, 1) := dk_32 (dk_at dksX5_again_2 6 rfl rfl)
theorem dX5_again_54 : decode cX5_again 54 = .ok (.lmul, 1) := dk_105 (dk_at dksX5_again_2 7 rfl rfl)
theorem dX5_again_55 : decode cX5_again 55 = .ok (.invokevirtual 457, 3) := dk_182 1 201 (dk_at dksX5_again_2 8 rfl rfl)
theorem dX5_again_58 : decode cX5_again 58 = .ok (.iload_n 1, 1) := dk_27 (dk_at dksX5_again_2 11 rfl rfl)
theorem dX5_again_59 : decode cX5_again 59 = .ok (.ifCond .ne 10, 3) := dk_154 0 10 (dk_at dksX5_again_2 12 rfl rfl)
theorem dX5_again_62 : decode cX5_again 62 = .ok (.aload_n 0, 1) := dk_42 (dk_at dksX5_again_2 15 rfl rfl)
theorem dX5_again_63 : decode cX5_again 63 = .ok (.getfield 448, 3) := dk_180 1 192 (dk_at dksX5_again_2 16 rfl rfl)
theorem dX5_again_66 : decode cX5_again 66 = .ok (.goto 7, 3) := dk_167 0 7 (dk_at dksX5_again_2 19 rfl rfl)
theorem dX5_again_69 : decode cX5_again 69 = .ok (.aload_n 0, 1) := dk_42 (dk_at dksX5_again_2 22 rfl rfl)
theorem dX5_again_70 : decode cX5_again 70 = .ok (.getfield 451, 3) := dk_180 1 195 (dk_at dksX5_again_3 0 rfl rfl)
theorem dX5_again_73 : decode cX5_again 73 = .ok (.lreturn, 1) := dk_173 (dk_at dksX5_again_3 3 rfl rfl)
abbrev cX5_truly : ByteArray := prog_22_method_102_code
def yX5_truly : MethodName := ⟨RX5, "truly", "(I)J"⟩
def dkwX5_truly_4 : List UInt8 := [180, 1, 195, 173]
abbrev dktX5_truly_4 : List UInt8 := dkwX5_truly_4 ++ []
def dkwX5_truly_3 : List UInt8 := [20, 2, 21, 42, 180, 1, 180, 133, 105, 182, 1, 201, 27, 154, 0, 10, 42, 180, 1, 192, 167, 0, 7, 42]
abbrev dktX5_truly_3 : List UInt8 := dkwX5_truly_3 ++ dktX5_truly_4
def dkwX5_truly_2 : List UInt8 := [21, 4, 46, 42, 21, 4, 4, 182, 1, 171, 104, 133, 97, 65, 132, 4, 1, 167, 255, 223, 42, 32]
abbrev dktX5_truly_2 : List UInt8 := dkwX5_truly_2 ++ dktX5_truly_3
def dkwX5_truly_1 : List UInt8 := [182, 1, 223, 9, 65, 3, 54, 4, 21, 4, 42, 180, 0, 13, 3, 46, 162, 0, 28, 32, 42, 180, 0, 137]
abbrev dktX5_truly_1 : List UInt8 := dkwX5_truly_1 ++ dktX5_truly_2
def dkwX5_truly_0 : List UInt8 := [42, 3, 181, 0, 149, 27, 133, 9, 10, 184, 0, 159, 154, 0, 7, 20, 0, 221, 173, 42, 182, 1, 198, 42]
abbrev dktX5_truly_0 : List UInt8 := dkwX5_truly_0 ++ dktX5_truly_1
theorem dksX5_truly_0 : cX5_truly.data.toList.drop 0 = dktX5_truly_0 := by decide +kernel
theorem dksX5_truly_1 : cX5_truly.data.toList.drop 24 = dktX5_truly_1 := dk_seg dksX5_truly_0 24 rfl rfl
theorem dksX5_truly_2 : cX5_truly.data.toList.drop 48 = dktX5_truly_2 := dk_seg dksX5_truly_1 24 rfl rfl
theorem dksX5_truly_3 : cX5_truly.data.toList.drop 70 = dktX5_truly_3 := dk_seg dksX5_truly_2 22 rfl rfl
theorem dksX5_truly_4 : cX5_truly.data.toList.drop 94 = dktX5_truly_4 := dk_seg dksX5_truly_3 24 rfl rfl
theorem dX5_truly_0 : decode cX5_truly 0 = .ok (.aload_n 0, 1) := dk_42 (dk_at dksX5_truly_0 0 rfl rfl)
theorem dX5_truly_1 : decode cX5_truly 1 = .ok (.iconst 0, 1) := dk_3 (dk_at dksX5_truly_0 1 rfl rfl)
theorem dX5_truly_2 : decode cX5_truly 2 = .ok (.putfield 149, 3) := dk_181 0 149 (dk_at dksX5_truly_0 2 rfl rfl)
theorem dX5_truly_5 : decode cX5_truly 5 = .ok (.iload_n 1, 1) := dk_27 (dk_at dksX5_truly_0 5 rfl rfl)
theorem dX5_truly_6 : decode cX5_truly 6 = .ok (.i2l, 1) := dk_133 (dk_at dksX5_truly_0 6 rfl rfl)
theorem dX5_truly_7 : decode cX5_truly 7 = .ok (.lconst 0, 1) := dk_9 (dk_at dksX5_truly_0 7 rfl rfl)
theorem dX5_truly_8 : decode cX5_truly 8 = .ok (.lconst 1, 1) := dk_10 (dk_at dksX5_truly_0 8 rfl rfl)
theorem dX5_truly_9 : decode cX5_truly 9 = .ok (.invokestatic 159, 3) := dk_184 0 159 (dk_at dksX5_truly_0 9 rfl rfl)
theorem dX5_truly_12 : decode cX5_truly 12 = .ok (.ifCond .ne 7, 3) := dk_154 0 7 (dk_at dksX5_truly_0 12 rfl rfl)
theorem dX5_truly_15 : decode cX5_truly 15 = .ok (.ldc2_w 221, 3) := dk_20 0 221 (dk_at dksX5_truly_0 15 rfl rfl)
theorem dX5_truly_18 : decode cX5_truly 18 = .ok (.lreturn, 1) := dk_173 (dk_at dksX5_truly_0 18 rfl rfl)
theorem dX5_truly_19 : decode cX5_truly 19 = .ok (.aload_n 0, 1) := dk_42 (dk_at dksX5_truly_0 19 rfl rfl)
theorem dX5_truly_20 : decode cX5_truly 20 = .ok (.invokevirtual 454, 3) := dk_182 1 198 (dk_at dksX5_truly_0 20 rfl rfl)
theorem dX5_truly_23 : decode cX5_truly 23 = .ok (.aload_n 0, 1) := dk_42 (dk_at dksX5_truly_0 23 rfl rfl)
theorem dX5_truly_24 : decode cX5_truly 24 = .ok (.invokevirtual 479, 3) := dk_182 1 223 (dk_at dksX5_truly_1 0 rfl rfl)
theorem dX5_truly_27 : decode cX5_truly 27 = .ok (.lconst 0, 1) := dk_9 (dk_at dksX5_truly_1 3 rfl rfl)
theorem dX5_truly_28 : decode cX5_truly 28 = .ok (.lstore_n 2, 1) := dk_65 (dk_at dksX5_truly_1 4 rfl rfl)
theorem dX5_truly_29 : decode cX5_truly 29 = .ok (.iconst 0, 1) := dk_3 (dk_at dksX5_truly_1 5 rfl rfl)
theorem dX5_truly_30 : decode cX5_truly 30 = .ok (.istore 4, 2) := dk_54 4 (dk_at dksX5_truly_1 6 rfl rfl)
theorem dX5_truly_32 : decode cX5_truly 32 = .ok (.iload 4, 2) := dk_21 4 (dk_at dksX5_truly_1 8 rfl rfl)
theorem dX5_truly_34 : decode cX5_truly 34 = .ok (.aload_n 0, 1) := dk_42 (dk_at dksX5_truly_1 10 rfl rfl)
theorem dX5_truly_35 : decode cX5_truly 35 = .ok (.getfield 13, 3) := dk_180 0 13 (dk_at dksX5_truly_1 11 rfl rfl)
theorem dX5_truly_38 : decode cX5_truly 38 = .ok (.iconst 0, 1) := dk_3 (dk_at dksX5_truly_1 14 rfl rfl)
theorem dX5_truly_39 : decode cX5_truly 39 = .ok (.iaload, 1) := dk_46 (dk_at dksX5_truly_1 15 rfl rfl)
theorem dX5_truly_40 : decode cX5_truly 40 = .ok (.if_icmp .ge 28, 3) := dk_162 0 28 (dk_at dksX5_truly_1 16 rfl rfl)
theorem dX5_truly_43 : decode cX5_truly 43 = .ok (.lload_n 2, 1) := dk_32 (dk_at dksX5_truly_1 19 rfl rfl)
theorem dX5_truly_44 : decode cX5_truly 44 = .ok (.aload_n 0, 1) := dk_42 (dk_at dksX5_truly_1 20 rfl rfl)
theorem dX5_truly_45 : decode cX5_truly 45 = .ok (.getfield 137, 3) := dk_180 0 137 (dk_at dksX5_truly_1 21 rfl rfl)
theorem dX5_truly_48 : decode cX5_truly 48 = .ok (.iload 4, 2) := dk_21 4 (dk_at dksX5_truly_2 0 rfl rfl)
theorem dX5_truly_50 : decode cX5_truly 50 = .ok (.iaload, 1) := dk_46 (dk_at dksX5_truly_2 2 rfl rfl)
theorem dX5_truly_51 : decode cX5_truly 51 = .ok (.aload_n 0, 1) := dk_42 (dk_at dksX5_truly_2 3 rfl rfl)
theorem dX5_truly_52 : decode cX5_truly 52 = .ok (.iload 4, 2) := dk_21 4 (dk_at dksX5_truly_2 4 rfl rfl)
theorem dX5_truly_54 : decode cX5_truly 54 = .ok (.iconst 1, 1) := dk_4 (dk_at dksX5_truly_2 6 rfl rfl)
theorem dX5_truly_55 : decode cX5_truly 55 = .ok (.invokevirtual 427, 3) := dk_182 1 171 (dk_at dksX5_truly_2 7 rfl rfl)
theorem dX5_truly_58 : decode cX5_truly 58 = .ok (.imul, 1) := dk_104 (dk_at dksX5_truly_2 10 rfl rfl)
theorem dX5_truly_59 : decode cX5_truly 59 = .ok (.i2l, 1) := dk_133 (dk_at dksX5_truly_2 11 rfl rfl)
theorem dX5_truly_60 : decode cX5_truly 60 = .ok (.ladd, 1) := dk_97 (dk_at dksX5_truly_2 12 rfl rfl)
theorem dX5_truly_61 : decode cX5_truly 61 = .ok (.lstore_n 2, 1) := dk_65 (dk_at dksX5_truly_2 13 rfl rfl)
theorem dX5_truly_62 : decode cX5_truly 62 = .ok (.iinc 4 1, 3) := dk_132 4 1 (dk_at dksX5_truly_2 14 rfl rfl)
theorem dX5_truly_65 : decode cX5_truly 65 = .ok (.goto (-33), 3) := dk_167 255 223 (dk_at dksX5_truly_2 17 rfl rfl)
theorem dX5_truly_68 : decode cX5_truly 68 = .ok (.aload_n 0, 1) := dk_42 (dk_at dksX5_truly_2 20 rfl rfl)
theorem dX5_truly_69 : decode cX5_truly 69 = .ok (.lload_n 2, 1) := dk_32 (dk_at dksX5_truly_2 21 rfl rfl)
theorem dX5_truly_70 : decode cX5_truly 70 = .ok (.ldc2_w 533, 3) := dk_20 2 21 (dk_at dksX5_truly_3 0 rfl rfl)
theorem dX5_truly_73 : decode cX5_truly 73 = .ok (.aload_n 0, 1) := dk_42 (dk_at dksX5_truly_3 3 rfl rfl)
theorem dX5_truly_74 : decode cX5_truly 74 = .ok (.getfield 436, 3) := dk_180 1 180 (dk_at dksX5_truly_3 4 rfl rfl)
theorem dX5_truly_77 : decode cX5_truly 77 = .ok (.i2l, 1) := dk_133 (dk_at dksX5_truly_3 7 rfl rfl)
theorem dX5_truly_78 : decode cX5_truly 78 = .ok (.lmul, 1) := dk_105 (dk_at dksX5_truly_3 8 rfl rfl)
theorem dX5_truly_79 : decode cX5_truly 79 = .ok (.invokevirtual 457, 3) := dk_182 1 201 (dk_at dksX5_truly_3 9 rfl rfl)
theorem dX5_truly_82 : decode cX5_truly 82 = .ok (.iload_n 1, 1) := dk_27 (dk_at dksX5_truly_3 12 rfl rfl)
theorem dX5_truly_83 : decode cX5_truly 83 = .ok (.ifCond .ne 10, 3) := dk_154 0 10 (dk_at dksX5_truly_3 13 rfl rfl)
theorem dX5_truly_86 : decode cX5_truly 86 = .ok (.aload_n 0, 1) := dk_42 (dk_at dksX5_truly_3 16 rfl rfl)
theorem dX5_truly_87 : decode cX5_truly 87 = .ok (.getfield 448, 3) := dk_180 1 192 (dk_at dksX5_truly_3 17 rfl rfl)
theorem dX5_truly_90 : decode cX5_truly 90 = .ok (.goto 7, 3) := dk_167 0 7 (dk_at dksX5_truly_3 20 rfl rfl)
theorem dX5_truly_93 : decode cX5_truly 93 = .ok (.aload_n 0, 1) := dk_42 (dk_at dksX5_truly_3 23 rfl rfl)
theorem dX5_truly_94 : decode cX5_truly 94 = .ok (.getfield 451, 3) := dk_180 1 195 (dk_at dksX5_truly_4 0 rfl rfl)
theorem dX5_truly_97 : decode cX5_truly 97 = .ok (.lreturn, 1) := dk_173 (dk_at dksX5_truly_4 3 rfl rfl)
abbrev cX5_meant : ByteArray := prog_22_method_103_code
def yX5_meant : MethodName := ⟨RX5, "meant", "(II)J"⟩
def dkwX5_meant_7 : List UInt8 := [42, 180, 0, 137, 21, 5, 46, 167, 0, 5, 21, 4, 54, 4, 132, 5, 1, 167, 255, 197, 29, 133, 173]
abbrev dktX5_meant_7 : List UInt8 := dkwX5_meant_7 ++ []
def dkwX5_meant_6 : List UInt8 := [21, 4, 164, 0, 8, 21, 5, 167, 0, 4, 29, 62, 42, 180, 0, 137, 21, 5, 46, 21, 4, 164, 0, 13]
abbrev dktX5_meant_6 : List UInt8 := dkwX5_meant_6 ++ dktX5_meant_7
def dkwX5_meant_5 : List UInt8 := [54, 4, 3, 54, 5, 21, 5, 42, 180, 0, 13, 3, 46, 162, 0, 54, 42, 180, 0, 137, 21, 5, 46]
abbrev dktX5_meant_5 : List UInt8 := dkwX5_meant_5 ++ dktX5_meant_6
def dkwX5_meant_4 : List UInt8 := [180, 1, 244, 28, 182, 2, 10, 173, 42, 42, 180, 1, 244, 182, 2, 3, 42, 182, 1, 223, 2, 62, 3]
abbrev dktX5_meant_4 : List UInt8 := dkwX5_meant_4 ++ dktX5_meant_5
def dkwX5_meant_3 : List UInt8 := [167, 255, 224, 42, 180, 1, 244, 2, 160, 0, 7, 20, 0, 221, 173, 28, 7, 162, 0, 13, 42, 42]
abbrev dktX5_meant_3 : List UInt8 := dkwX5_meant_3 ++ dktX5_meant_4
def dkwX5_meant_2 : List UInt8 := [182, 2, 3, 42, 29, 29, 42, 180, 0, 125, 27, 46, 133, 42, 180, 1, 180, 133, 182, 2, 6, 132, 3, 1]
abbrev dktX5_meant_2 : List UInt8 := dkwX5_meant_2 ++ dktX5_meant_3
def dkwX5_meant_1 : List UInt8 := [20, 0, 221, 173, 42, 182, 2, 0, 42, 9, 181, 1, 250, 3, 62, 29, 16, 25, 162, 0, 32, 42, 29]
abbrev dktX5_meant_1 : List UInt8 := dkwX5_meant_1 ++ dktX5_meant_2
def dkwX5_meant_0 : List UInt8 := [42, 3, 181, 0, 149, 27, 184, 0, 183, 153, 0, 15, 28, 133, 9, 20, 0, 213, 184, 0, 159, 154, 0, 7]
abbrev dktX5_meant_0 : List UInt8 := dkwX5_meant_0 ++ dktX5_meant_1
theorem dksX5_meant_0 : cX5_meant.data.toList.drop 0 = dktX5_meant_0 := by decide +kernel
theorem dksX5_meant_1 : cX5_meant.data.toList.drop 24 = dktX5_meant_1 := dk_seg dksX5_meant_0 24 rfl rfl
theorem dksX5_meant_2 : cX5_meant.data.toList.drop 47 = dktX5_meant_2 := dk_seg dksX5_meant_1 23 rfl rfl
theorem dksX5_meant_3 : cX5_meant.data.toList.drop 71 = dktX5_meant_3 := dk_seg dksX5_meant_2 24 rfl rfl
theorem dksX5_meant_4 : cX5_meant.data.toList.drop 93 = dktX5_meant_4 := dk_seg dksX5_meant_3 22 rfl rfl
theorem dksX5_meant_5 : cX5_meant.data.toList.drop 116 = dktX5_meant_5 := dk_seg dksX5_meant_4 23 rfl rfl
theorem dksX5_meant_6 : cX5_meant.data.toList.drop 139 = dktX5_meant_6 := dk_seg dksX5_meant_5 23 rfl rfl
theorem dksX5_meant_7 : cX5_meant.data.toList.drop 163 = dktX5_meant_7 := dk_seg dksX5_meant_6 24 rfl rfl
theorem dX5_meant_0 : decode cX5_meant 0 = .ok (.aload_n 0, 1) := dk_42 (dk_at dksX5_meant_0 0 rfl rfl)
theorem dX5_meant_1 : decode cX5_meant 1 = .ok (.iconst 0, 1) := dk_3 (dk_at dksX5_meant_0 1 rfl rfl)
theorem dX5_meant_2 : decode cX5_meant 2 = .ok (.putfield 149, 3) := dk_181 0 149 (dk_at dksX5_meant_0 2 rfl rfl)
theorem dX5_meant_5 : decode cX5_meant 5 = .ok (.iload_n 1, 1) := dk_27 (dk_at dksX5_meant_0 5 rfl rfl)
theorem dX5_meant_6 : decode cX5_meant 6 = .ok (.invokestatic 183, 3) := dk_184 0 183 (dk_at dksX5_meant_0 6 rfl rfl)
theorem dX5_meant_9 : decode cX5_meant 9 = .ok (.ifCond .eq 15, 3) := dk_153 0 15 (dk_at dksX5_meant_0 9 rfl rfl)
theorem dX5_meant_12 : decode cX5_meant 12 = .ok (.iload_n 2, 1) := dk_28 (dk_at dksX5_meant_0 12 rfl rfl)
theorem dX5_meant_13 : decode cX5_meant 13 = .ok (.i2l, 1) := dk_133 (dk_at dksX5_meant_0 13 rfl rfl)
theorem dX5_meant_14 : decode cX5_meant 14 = .ok (.lconst 0, 1) := dk_9 (dk_at dksX5_meant_0 14 rfl rfl)
theorem dX5_meant_15 : decode cX5_meant 15 = .ok (.ldc2_w 213, 3) := dk_20 0 213 (dk_at dksX5_meant_0 15 rfl rfl)
theorem dX5_meant_18 : decode cX5_meant 18 = .ok (.invokestatic 159, 3) := dk_184 0 159 (dk_at dksX5_meant_0 18 rfl rfl)
theorem dX5_meant_21 : decode cX5_meant 21 = .ok (.ifCond .ne 7, 3) := dk_154 0 7 (dk_at dksX5_meant_0 21 rfl rfl)
theorem dX5_meant_24 : decode cX5_meant 24 = .ok (.ldc2_w 221, 3) := dk_20 0 221 (dk_at dksX5_meant_1 0 rfl rfl)
theorem dX5_meant_27 : decode cX5_meant 27 = .ok (.lreturn, 1) := dk_173 (dk_at dksX5_meant_1 3 rfl rfl)
theorem dX5_meant_28 : decode cX5_meant 28 = .ok (.aload_n 0, 1) := dk_42 (dk_at dksX5_meant_1 4 rfl rfl)
theorem dX5_meant_29 : decode cX5_meant 29 = .ok (.invokevirtual 512, 3) := dk_182 2 0 (dk_at dksX5_meant_1 5 rfl rfl)
theorem dX5_meant_32 : decode cX5_meant 32 = .ok (.aload_n 0, 1) := dk_42 (dk_at dksX5_meant_1 8 rfl rfl)
theorem dX5_meant_33 : decode cX5_meant 33 = .ok (.lconst 0, 1) := dk_9 (dk_at dksX5_meant_1 9 rfl rfl)
theorem dX5_meant_34 : decode cX5_meant 34 = .ok (.putfield 506, 3) := dk_181 1 250 (dk_at dksX5_meant_1 10 rfl rfl)
theorem dX5_meant_37 : decode cX5_meant 37 = .ok (.iconst 0, 1) := dk_3 (dk_at dksX5_meant_1 13 rfl rfl)
theorem dX5_meant_38 : decode cX5_meant 38 = .ok (.istore_n 3, 1) := dk_62 (dk_at dksX5_meant_1 14 rfl rfl)
theorem dX5_meant_39 : decode cX5_meant 39 = .ok (.iload_n 3, 1) := dk_29 (dk_at dksX5_meant_1 15 rfl rfl)
theorem dX5_meant_40 : decode cX5_meant 40 = .ok (.bipush 25, 2) := dk_16 25 (dk_at dksX5_meant_1 16 rfl rfl)
theorem dX5_meant_42 : decode cX5_meant 42 = .ok (.if_icmp .ge 32, 3) := dk_162 0 32 (dk_at dksX5_meant_1 18 rfl rfl)
theorem dX5_meant_45 : decode cX5_meant 45 = .ok (.aload_n 0, 1) := dk_42 (dk_at dksX5_meant_1 21 rfl rfl)
theorem dX5_meant_46 : decode cX5_meant 46 = .ok (.iload_n 3, 1) := dk_29 (dk_at dksX5_meant_1 22 rfl rfl)
theorem dX5_meant_47 : decode cX5_meant 47 = .ok (.invokevirtual 515, 3) := dk_182 2 3 (dk_at dksX5_meant_2 0 rfl rfl)
theorem dX5_meant_50 : decode cX5_meant 50 = .ok (.aload_n 0, 1) := dk_42 (dk_at dksX5_meant_2 3 rfl rfl)
theorem dX5_meant_51 : decode cX5_meant 51 = .ok (.iload_n 3, 1) := dk_29 (dk_at dksX5_meant_2 4 rfl rfl)
theorem dX5_meant_52 : decode cX5_meant 52 = .ok (.iload_n 3, 1) := dk_29 (dk_at dksX5_meant_2 5 rfl rfl)
theorem dX5_meant_53 : decode cX5_meant 53 = .ok (.aload_n 0, 1) := dk_42 (dk_at dksX5_meant_2 6 rfl rfl)
theorem dX5_meant_54 : decode cX5_meant 54 = .ok (.getfield 125, 3) := dk_180 0 125 (dk_at dksX5_meant_2 7 rfl rfl)
theorem dX5_meant_57 : decode cX5_meant 57 = .ok (.iload_n 1, 1) := dk_27 (dk_at dksX5_meant_2 10 rfl rfl)
theorem dX5_meant_58 : decode cX5_meant 58 = .ok (.iaload, 1) := dk_46 (dk_at dksX5_meant_2 11 rfl rfl)
theorem dX5_meant_59 : decode cX5_meant 59 = .ok (.i2l, 1) := dk_133 (dk_at dksX5_meant_2 12 rfl rfl)
theorem dX5_meant_60 : decode cX5_meant 60 = .ok (.aload_n 0, 1) := dk_42 (dk_at dksX5_meant_2 13 rfl rfl)
theorem dX5_meant_61 : decode cX5_meant 61 = .ok (.getfield 436, 3) := dk_180 1 180 (dk_at dksX5_meant_2 14 rfl rfl)
theorem dX5_meant_64 : decode cX5_meant 64 = .ok (.i2l, 1) := dk_133 (dk_at dksX5_meant_2 17 rfl rfl)
theorem dX5_meant_65 : decode cX5_meant 65 = .ok (.invokevirtual 518, 3) := dk_182 2 6 (dk_at dksX5_meant_2 18 rfl rfl)
theorem dX5_meant_68 : decode cX5_meant 68 = .ok (.iinc 3 1, 3) := dk_132 3 1 (dk_at dksX5_meant_2 21 rfl rfl)
theorem dX5_meant_71 : decode cX5_meant 71 = .ok (.goto (-32), 3) := dk_167 255 224 (dk_at dksX5_meant_3 0 rfl rfl)
theorem dX5_meant_74 : decode cX5_meant 74 = .ok (.aload_n 0, 1) := dk_42 (dk_at dksX5_meant_3 3 rfl rfl)
theorem dX5_meant_75 : decode cX5_meant 75 = .ok (.getfield 500, 3) := dk_180 1 244 (dk_at dksX5_meant_3 4 rfl rfl)
theorem dX5_meant_78 : decode cX5_meant 78 = .ok (.iconst (-1), 1) := dk_2 (dk_at dksX5_meant_3 7 rfl rfl)
theorem dX5_meant_79 : decode cX5_meant 79 = .ok (.if_icmp .ne 7, 3) := dk_160 0 7 (dk_at dksX5_meant_3 8 rfl rfl)
theorem dX5_meant_82 : decode cX5_meant 82 = .ok (.ldc2_w 221, 3) := dk_20 0 221 (dk_at dksX5_meant_3 11 rfl rfl)
theorem dX5_meant_85 : decode cX5_meant 85 = .ok (.lreturn, 1) := dk_173 (dk_at dksX5_meant_3 14 rfl rfl)
theorem dX5_meant_86 : decode cX5_meant 86 = .ok (.iload_n 2, 1) := dk_28 (dk_at dksX5_meant_3 15 rfl rfl)
theorem dX5_meant_87 : decode cX5_meant 87 = .ok (.iconst 4, 1) := dk_7 (dk_at dksX5_meant_3 16 rfl rfl)
theorem dX5_meant_88 : decode cX5_meant 88 = .ok (.if_icmp .ge 13, 3) := dk_162 0 13 (dk_at dksX5_meant_3 17 rfl rfl)
theorem dX5_meant_91 : decode cX5_meant 91 = .ok (.aload_n 0, 1) := dk_42 (dk_at dksX5_meant_3 20 rfl rfl)
theorem dX5_meant_92 : decode cX5_meant 92 = .ok (.aload_n 0, 1) := dk_42 (dk_at dksX5_meant_3 21 rfl rfl)
theorem dX5_meant_93 : decode cX5_meant 93 = .ok (.getfield 500, 3) := dk_180 1 244 (dk_at dksX5_meant_4 0 rfl rfl)
theorem dX5_meant_96 : decode cX5_meant 96 = .ok (.iload_n 2, 1) := dk_28 (dk_at dksX5_meant_4 3 rfl rfl)
theorem dX5_meant_97 : decode cX5_meant 97 = .ok (.invokevirtual 522, 3) := dk_182 2 10 (dk_at dksX5_meant_4 4 rfl rfl)
theorem dX5_meant_100 : decode cX5_meant 100 = .ok (.lreturn, 1) := dk_173 (dk_at dksX5_meant_4 7 rfl rfl)
theorem dX5_meant_101 : decode cX5_meant 101 = .ok (.aload_n 0, 1) := dk_42 (dk_at dksX5_meant_4 8 rfl rfl)
theorem dX5_meant_102 : decode cX5_meant 102 = .ok (.aload_n 0, 1) := dk_42 (dk_at dksX5_meant_4 9 rfl rfl)
theorem dX5_meant_103 : decode cX5_meant 103 = .ok (.getfield 500, 3) := dk_180 1 244 (dk_at dksX5_meant_4 10 rfl rfl)
theorem dX5_meant_106 : decode cX5_meant 106 = .ok (.invokevirtual 515, 3) := dk_182 2 3 (dk_at dksX5_meant_4 13 rfl rfl)
theorem dX5_meant_109 : decode cX5_meant 109 = .ok (.aload_n 0, 1) := dk_42 (dk_at dksX5_meant_4 16 rfl rfl)
theorem dX5_meant_110 : decode cX5_meant 110 = .ok (.invokevirtual 479, 3) := dk_182 1 223 (dk_at dksX5_meant_4 17 rfl rfl)
theorem dX5_meant_113 : decode cX5_meant 113 = .ok (.iconst (-1), 1) := dk_2 (dk_at dksX5_meant_4 20 rfl rfl)
theorem dX5_meant_114 : decode cX5_meant 114 = .ok (.istore_n 3, 1) := dk_62 (dk_at dksX5_meant_4 21 rfl rfl)
theorem dX5_meant_115 : decode cX5_meant 115 = .ok (.iconst 0, 1) := dk_3 (dk_at dksX5_meant_4 22 rfl rfl)
theorem dX5_meant_116 : decode cX5_meant 116 = .ok (.istore 4, 2) := dk_54 4 (dk_at dksX5_meant_5 0 rfl rfl)
theorem dX5_meant_118 : decode cX5_meant 118 = .ok (.iconst 0, 1) := dk_3 (dk_at dksX5_meant_5 2 rfl rfl)
theorem dX5_meant_119 : decode cX5_meant 119 = .ok (.istore 5, 2) := dk_54 5 (dk_at dksX5_meant_5 3 rfl rfl)
theorem dX5_meant_121 : decode cX5_meant 121 = .ok (.iload 5, 2) := dk_21 5 (dk_at dksX5_meant_5 5 rfl rfl)
theorem dX5_meant_123 : decode cX5_meant 123 = .ok (.aload_n 0, 1) := dk_42 (dk_at dksX5_meant_5 7 rfl rfl)
theorem dX5_meant_124 : decode cX5_meant 124 = .ok (.getfield 13, 3) := dk_180 0 13 (dk_at dksX5_meant_5 8 rfl rfl)
theorem dX5_meant_127 : decode cX5_meant 127 = .ok (.iconst 0, 1) := dk_3 (dk_at dksX5_meant_5 11 rfl rfl)
theorem dX5_meant_128 : decode cX5_meant 128 = .ok (.iaload, 1) := dk_46 (dk_at dksX5_meant_5 12 rfl rfl)
theorem dX5_meant_129 : decode cX5_meant 129 = .ok (.if_icmp .ge 54, 3) := dk_162 0 54 (dk_at dksX5_meant_5 13 rfl rfl)
theorem dX5_meant_132 : decode cX5_meant 132 = .ok (.aload_n 0, 1) := dk_42 (dk_at dksX5_meant_5 16 rfl rfl)
theorem dX5_meant_133 : decode cX5_meant 133 = .ok (.getfield 137, 3) := dk_180 0 137 (dk_at dksX5_meant_5 17 rfl rfl)
theorem dX5_meant_136 : decode cX5_meant 136 = .ok (.iload 5, 2) := dk_21 5 (dk_at dksX5_meant_5 20 rfl rfl)
theorem dX5_meant_138 : decode cX5_meant 138 = .ok (.iaload, 1) := dk_46 (dk_at dksX5_meant_5 22 rfl rfl)
theorem dX5_meant_139 : decode cX5_meant 139 = .ok (.iload 4, 2) := dk_21 4 (dk_at dksX5_meant_6 0 rfl rfl)
theorem dX5_meant_141 : decode cX5_meant 141 = .ok (.if_icmp .le 8, 3) := dk_164 0 8 (dk_at dksX5_meant_6 2 rfl rfl)
theorem dX5_meant_144 : decode cX5_meant 144 = .ok (.iload 5, 2) := dk_21 5 (dk_at dksX5_meant_6 5 rfl rfl)
theorem dX5_meant_146 : decode cX5_meant 146 = .ok (.goto 4, 3) := dk_167 0 4 (dk_at dksX5_meant_6 7 rfl rfl)
theorem dX5_meant_149 : decode cX5_meant 149 = .ok (.iload_n 3, 1) := dk_29 (dk_at dksX5_meant_6 10 rfl rfl)
theorem dX5_meant_150 : decode cX5_meant 150 = .ok (.istore_n 3, 1) := dk_62 (dk_at dksX5_meant_6 11 rfl rfl)
theorem dX5_meant_151 : decode cX5_meant 151 = .ok (.aload_n 0, 1) := dk_42 (dk_at dksX5_meant_6 12 rfl rfl)
theorem dX5_meant_152 : decode cX5_meant 152 = .ok (.getfield 137, 3) := dk_180 0 137 (dk_at dksX5_meant_6 13 rfl rfl)
theorem dX5_meant_155 : decode cX5_meant 155 = .ok (.iload 5, 2) := dk_21 5 (dk_at dksX5_meant_6 16 rfl rfl)
theorem dX5_meant_157 : decode cX5_meant 157 = .ok (.iaload, 1) := dk_46 (dk_at dksX5_meant_6 18 rfl rfl)
theorem dX5_meant_158 : decode cX5_meant 158 = .ok (.iload 4, 2) := dk_21 4 (dk_at dksX5_meant_6 19 rfl rfl)
theorem dX5_meant_160 : decode cX5_meant 160 = .ok (.if_icmp .le 13, 3) := dk_164 0 13 (dk_at dksX5_meant_6 21 rfl rfl)
theorem dX5_meant_163 : decode cX5_meant 163 = .ok (.aload_n 0, 1) := dk_42 (dk_at dksX5_meant_7 0 rfl rfl)
theorem dX5_meant_164 : decode cX5_meant 164 = .ok (.getfield 137, 3) := dk_180 0 137 (dk_at dksX5_meant_7 1 rfl rfl)
theorem dX5_meant_167 : decode cX5_meant 167 = .ok (.iload 5, 2) := dk_21 5 (dk_at dksX5_meant_7 4 rfl rfl)
theorem dX5_meant_169 : decode cX5_meant 169 = .ok (.iaload, 1) := dk_46 (dk_at dksX5_meant_7 6 rfl rfl)
theorem dX5_meant_170 : decode cX5_meant 170 = .ok (.goto 5, 3) := dk_167 0 5 (dk_at dksX5_meant_7 7 rfl rfl)
theorem dX5_meant_173 : decode cX5_meant 173 = .ok (.iload 4, 2) := dk_21 4 (dk_at dksX5_meant_7 10 rfl rfl)
theorem dX5_meant_175 : decode cX5_meant 175 = .ok (.istore 4, 2) := dk_54 4 (dk_at dksX5_meant_7 12 rfl rfl)
theorem dX5_meant_177 : decode cX5_meant 177 = .ok (.iinc 5 1, 3) := dk_132 5 1 (dk_at dksX5_meant_7 14 rfl rfl)
theorem dX5_meant_180 : decode cX5_meant 180 = .ok (.goto (-59), 3) := dk_167 255 197 (dk_at dksX5_meant_7 17 rfl rfl)
theorem dX5_meant_183 : decode cX5_meant 183 = .ok (.iload_n 3, 1) := dk_29 (dk_at dksX5_meant_7 20 rfl rfl)
theorem dX5_meant_184 : decode cX5_meant 184 = .ok (.i2l, 1) := dk_133 (dk_at dksX5_meant_7 21 rfl rfl)
theorem dX5_meant_185 : decode cX5_meant 185 = .ok (.lreturn, 1) := dk_173 (dk_at dksX5_meant_7 22 rfl rfl)
abbrev cX5_film : ByteArray := prog_22_method_104_code
def yX5_film : MethodName := ⟨RX5, "film", "(I)I"⟩
def dkwX5_film_2 : List UInt8 := [42, 180, 0, 13, 4, 92, 46, 4, 96, 79, 42, 28, 4, 96, 182, 0, 155, 172]
abbrev dktX5_film_2 : List UInt8 := dkwX5_film_2 ++ []
def dkwX5_film_1 : List UInt8 := [61, 28, 16, 8, 160, 0, 10, 42, 16, 251, 182, 0, 155, 172, 42, 180, 0, 13, 16, 43, 28, 96, 27, 79]
abbrev dktX5_film_1 : List UInt8 := dkwX5_film_1 ++ dktX5_film_2
def dkwX5_film_0 : List UInt8 := [42, 3, 181, 0, 149, 27, 184, 0, 183, 154, 0, 9, 42, 2, 182, 0, 155, 172, 42, 180, 0, 13, 4, 46]
abbrev dktX5_film_0 : List UInt8 := dkwX5_film_0 ++ dktX5_film_1
theorem dksX5_film_0 : cX5_film.data.toList.drop 0 = dktX5_film_0 := by decide +kernel
theorem dksX5_film_1 : cX5_film.data.toList.drop 24 = dktX5_film_1 := dk_seg dksX5_film_0 24 rfl rfl
theorem dksX5_film_2 : cX5_film.data.toList.drop 48 = dktX5_film_2 := dk_seg dksX5_film_1 24 rfl rfl
theorem dX5_film_0 : decode cX5_film 0 = .ok (.aload_n 0, 1) := dk_42 (dk_at dksX5_film_0 0 rfl rfl)
theorem dX5_film_1 : decode cX5_film 1 = .ok (.iconst 0, 1) := dk_3 (dk_at dksX5_film_0 1 rfl rfl)
theorem dX5_film_2 : decode cX5_film 2 = .ok (.putfield 149, 3) := dk_181 0 149 (dk_at dksX5_film_0 2 rfl rfl)
theorem dX5_film_5 : decode cX5_film 5 = .ok (.iload_n 1, 1) := dk_27 (dk_at dksX5_film_0 5 rfl rfl)
theorem dX5_film_6 : decode cX5_film 6 = .ok (.invokestatic 183, 3) := dk_184 0 183 (dk_at dksX5_film_0 6 rfl rfl)
theorem dX5_film_9 : decode cX5_film 9 = .ok (.ifCond .ne 9, 3) := dk_154 0 9 (dk_at dksX5_film_0 9 rfl rfl)
theorem dX5_film_12 : decode cX5_film 12 = .ok (.aload_n 0, 1) := dk_42 (dk_at dksX5_film_0 12 rfl rfl)
theorem dX5_film_13 : decode cX5_film 13 = .ok (.iconst (-1), 1) := dk_2 (dk_at dksX5_film_0 13 rfl rfl)
theorem dX5_film_14 : decode cX5_film 14 = .ok (.invokevirtual 155, 3) := dk_182 0 155 (dk_at dksX5_film_0 14 rfl rfl)
theorem dX5_film_17 : decode cX5_film 17 = .ok (.ireturn, 1) := dk_172 (dk_at dksX5_film_0 17 rfl rfl)
theorem dX5_film_18 : decode cX5_film 18 = .ok (.aload_n 0, 1) := dk_42 (dk_at dksX5_film_0 18 rfl rfl)
theorem dX5_film_19 : decode cX5_film 19 = .ok (.getfield 13, 3) := dk_180 0 13 (dk_at dksX5_film_0 19 rfl rfl)
theorem dX5_film_22 : decode cX5_film 22 = .ok (.iconst 1, 1) := dk_4 (dk_at dksX5_film_0 22 rfl rfl)
theorem dX5_film_23 : decode cX5_film 23 = .ok (.iaload, 1) := dk_46 (dk_at dksX5_film_0 23 rfl rfl)
theorem dX5_film_24 : decode cX5_film 24 = .ok (.istore_n 2, 1) := dk_61 (dk_at dksX5_film_1 0 rfl rfl)
theorem dX5_film_25 : decode cX5_film 25 = .ok (.iload_n 2, 1) := dk_28 (dk_at dksX5_film_1 1 rfl rfl)
theorem dX5_film_26 : decode cX5_film 26 = .ok (.bipush 8, 2) := dk_16 8 (dk_at dksX5_film_1 2 rfl rfl)
theorem dX5_film_28 : decode cX5_film 28 = .ok (.if_icmp .ne 10, 3) := dk_160 0 10 (dk_at dksX5_film_1 4 rfl rfl)
theorem dX5_film_31 : decode cX5_film 31 = .ok (.aload_n 0, 1) := dk_42 (dk_at dksX5_film_1 7 rfl rfl)
theorem dX5_film_32 : decode cX5_film 32 = .ok (.bipush (-5), 2) := dk_16 251 (dk_at dksX5_film_1 8 rfl rfl)
theorem dX5_film_34 : decode cX5_film 34 = .ok (.invokevirtual 155, 3) := dk_182 0 155 (dk_at dksX5_film_1 10 rfl rfl)
theorem dX5_film_37 : decode cX5_film 37 = .ok (.ireturn, 1) := dk_172 (dk_at dksX5_film_1 13 rfl rfl)
theorem dX5_film_38 : decode cX5_film 38 = .ok (.aload_n 0, 1) := dk_42 (dk_at dksX5_film_1 14 rfl rfl)
theorem dX5_film_39 : decode cX5_film 39 = .ok (.getfield 13, 3) := dk_180 0 13 (dk_at dksX5_film_1 15 rfl rfl)
theorem dX5_film_42 : decode cX5_film 42 = .ok (.bipush 43, 2) := dk_16 43 (dk_at dksX5_film_1 18 rfl rfl)
theorem dX5_film_44 : decode cX5_film 44 = .ok (.iload_n 2, 1) := dk_28 (dk_at dksX5_film_1 20 rfl rfl)
theorem dX5_film_45 : decode cX5_film 45 = .ok (.iadd, 1) := dk_96 (dk_at dksX5_film_1 21 rfl rfl)
theorem dX5_film_46 : decode cX5_film 46 = .ok (.iload_n 1, 1) := dk_27 (dk_at dksX5_film_1 22 rfl rfl)
theorem dX5_film_47 : decode cX5_film 47 = .ok (.iastore, 1) := dk_79 (dk_at dksX5_film_1 23 rfl rfl)
theorem dX5_film_48 : decode cX5_film 48 = .ok (.aload_n 0, 1) := dk_42 (dk_at dksX5_film_2 0 rfl rfl)
theorem dX5_film_49 : decode cX5_film 49 = .ok (.getfield 13, 3) := dk_180 0 13 (dk_at dksX5_film_2 1 rfl rfl)
theorem dX5_film_52 : decode cX5_film 52 = .ok (.iconst 1, 1) := dk_4 (dk_at dksX5_film_2 4 rfl rfl)
theorem dX5_film_53 : decode cX5_film 53 = .ok (.dup2, 1) := dk_92 (dk_at dksX5_film_2 5 rfl rfl)
theorem dX5_film_54 : decode cX5_film 54 = .ok (.iaload, 1) := dk_46 (dk_at dksX5_film_2 6 rfl rfl)
theorem dX5_film_55 : decode cX5_film 55 = .ok (.iconst 1, 1) := dk_4 (dk_at dksX5_film_2 7 rfl rfl)
theorem dX5_film_56 : decode cX5_film 56 = .ok (.iadd, 1) := dk_96 (dk_at dksX5_film_2 8 rfl rfl)
theorem dX5_film_57 : decode cX5_film 57 = .ok (.iastore, 1) := dk_79 (dk_at dksX5_film_2 9 rfl rfl)
theorem dX5_film_58 : decode cX5_film 58 = .ok (.aload_n 0, 1) := dk_42 (dk_at dksX5_film_2 10 rfl rfl)
theorem dX5_film_59 : decode cX5_film 59 = .ok (.iload_n 2, 1) := dk_28 (dk_at dksX5_film_2 11 rfl rfl)
theorem dX5_film_60 : decode cX5_film 60 = .ok (.iconst 1, 1) := dk_4 (dk_at dksX5_film_2 12 rfl rfl)
theorem dX5_film_61 : decode cX5_film 61 = .ok (.iadd, 1) := dk_96 (dk_at dksX5_film_2 13 rfl rfl)
theorem dX5_film_62 : decode cX5_film 62 = .ok (.invokevirtual 155, 3) := dk_182 0 155 (dk_at dksX5_film_2 14 rfl rfl)
theorem dX5_film_65 : decode cX5_film 65 = .ok (.ireturn, 1) := dk_172 (dk_at dksX5_film_2 17 rfl rfl)
abbrev cX5_burn : ByteArray := prog_22_method_105_code
def yX5_burn : MethodName := ⟨RX5, "burn", "()I"⟩
def dkwX5_burn_0 : List UInt8 := [42, 3, 181, 0, 149, 42, 180, 0, 13, 4, 46, 60, 42, 180, 0, 13, 4, 3, 79, 27, 172]
abbrev dktX5_burn_0 : List UInt8 := dkwX5_burn_0 ++ []
theorem dksX5_burn_0 : cX5_burn.data.toList.drop 0 = dktX5_burn_0 := by decide +kernel
theorem dX5_burn_0 : decode cX5_burn 0 = .ok (.aload_n 0, 1) := dk_42 (dk_at dksX5_burn_0 0 rfl rfl)
theorem dX5_burn_1 : decode cX5_burn 1 = .ok (.iconst 0, 1) := dk_3 (dk_at dksX5_burn_0 1 rfl rfl)
theorem dX5_burn_2 : decode cX5_burn 2 = .ok (.putfield 149, 3) := dk_181 0 149 (dk_at dksX5_burn_0 2 rfl rfl)
theorem dX5_burn_5 : decode cX5_burn 5 = .ok (.aload_n 0, 1) := dk_42 (dk_at dksX5_burn_0 5 rfl rfl)
theorem dX5_burn_6 : decode cX5_burn 6 = .ok (.getfield 13, 3) := dk_180 0 13 (dk_at dksX5_burn_0 6 rfl rfl)
theorem dX5_burn_9 : decode cX5_burn 9 = .ok (.iconst 1, 1) := dk_4 (dk_at dksX5_burn_0 9 rfl rfl)
theorem dX5_burn_10 : decode cX5_burn 10 = .ok (.iaload, 1) := dk_46 (dk_at dksX5_burn_0 10 rfl rfl)
theorem dX5_burn_11 : decode cX5_burn 11 = .ok (.istore_n 1, 1) := dk_60 (dk_at dksX5_burn_0 11 rfl rfl)
theorem dX5_burn_12 : decode cX5_burn 12 = .ok (.aload_n 0, 1) := dk_42 (dk_at dksX5_burn_0 12 rfl rfl)
theorem dX5_burn_13 : decode cX5_burn 13 = .ok (.getfield 13, 3) := dk_180 0 13 (dk_at dksX5_burn_0 13 rfl rfl)
theorem dX5_burn_16 : decode cX5_burn 16 = .ok (.iconst 1, 1) := dk_4 (dk_at dksX5_burn_0 16 rfl rfl)
theorem dX5_burn_17 : decode cX5_burn 17 = .ok (.iconst 0, 1) := dk_3 (dk_at dksX5_burn_0 17 rfl rfl)
theorem dX5_burn_18 : decode cX5_burn 18 = .ok (.iastore, 1) := dk_79 (dk_at dksX5_burn_0 18 rfl rfl)
theorem dX5_burn_19 : decode cX5_burn 19 = .ok (.iload_n 1, 1) := dk_27 (dk_at dksX5_burn_0 19 rfl rfl)
theorem dX5_burn_20 : decode cX5_burn 20 = .ok (.ireturn, 1) := dk_172 (dk_at dksX5_burn_0 20 rfl rfl)
abbrev cX5_fits : ByteArray := prog_22_method_106_code
def yX5_fits : MethodName := ⟨RX5, "fits", "(I)I"⟩
def dkwX5_fits_4 : List UInt8 := [96, 172, 132, 2, 1, 132, 3, 1, 167, 255, 163, 27, 2, 160, 0, 7, 28, 167, 0, 4, 2, 172]
abbrev dktX5_fits_4 : List UInt8 := dkwX5_fits_4 ++ []
def dkwX5_fits_3 : List UInt8 := [167, 255, 212, 21, 4, 153, 0, 24, 28, 27, 160, 0, 16, 16, 10, 29, 8, 108, 4, 96, 104, 29, 8, 112]
abbrev dktX5_fits_3 : List UInt8 := dkwX5_fits_3 ++ dktX5_fits_4
def dkwX5_fits_2 : List UInt8 := [180, 0, 13, 16, 43, 21, 5, 96, 46, 46, 158, 0, 7, 4, 167, 0, 4, 3, 54, 4, 132, 5, 1]
abbrev dktX5_fits_2 : List UInt8 := dkwX5_fits_2 ++ dktX5_fits_3
def dkwX5_fits_1 : List UInt8 := [54, 5, 21, 5, 42, 180, 0, 13, 4, 46, 162, 0, 39, 21, 4, 153, 0, 25, 42, 180, 0, 125, 42]
abbrev dktX5_fits_1 : List UInt8 := dkwX5_fits_1 ++ dktX5_fits_2
def dkwX5_fits_0 : List UInt8 := [42, 3, 181, 0, 149, 3, 61, 3, 62, 29, 16, 25, 162, 0, 93, 42, 29, 182, 2, 3, 4, 54, 4, 3]
abbrev dktX5_fits_0 : List UInt8 := dkwX5_fits_0 ++ dktX5_fits_1
theorem dksX5_fits_0 : cX5_fits.data.toList.drop 0 = dktX5_fits_0 := by decide +kernel
theorem dksX5_fits_1 : cX5_fits.data.toList.drop 24 = dktX5_fits_1 := dk_seg dksX5_fits_0 24 rfl rfl
theorem dksX5_fits_2 : cX5_fits.data.toList.drop 47 = dktX5_fits_2 := dk_seg dksX5_fits_1 23 rfl rfl
theorem dksX5_fits_3 : cX5_fits.data.toList.drop 70 = dktX5_fits_3 := dk_seg dksX5_fits_2 23 rfl rfl
theorem dksX5_fits_4 : cX5_fits.data.toList.drop 94 = dktX5_fits_4 := dk_seg dksX5_fits_3 24 rfl rfl
theorem dX5_fits_0 : decode cX5_fits 0 = .ok (.aload_n 0, 1) := dk_42 (dk_at dksX5_fits_0 0 rfl rfl)
theorem dX5_fits_1 : decode cX5_fits 1 = .ok (.iconst 0, 1) := dk_3 (dk_at dksX5_fits_0 1 rfl rfl)
theorem dX5_fits_2 : decode cX5_fits 2 = .ok (.putfield 149, 3) := dk_181 0 149 (dk_at dksX5_fits_0 2 rfl rfl)
theorem dX5_fits_5 : decode cX5_fits 5 = .ok (.iconst 0, 1) := dk_3 (dk_at dksX5_fits_0 5 rfl rfl)
theorem dX5_fits_6 : decode cX5_fits 6 = .ok (.istore_n 2, 1) := dk_61 (dk_at dksX5_fits_0 6 rfl rfl)
theorem dX5_fits_7 : decode cX5_fits 7 = .ok (.iconst 0, 1) := dk_3 (dk_at dksX5_fits_0 7 rfl rfl)
theorem dX5_fits_8 : decode cX5_fits 8 = .ok (.istore_n 3, 1) := dk_62 (dk_at dksX5_fits_0 8 rfl rfl)
theorem dX5_fits_9 : decode cX5_fits 9 = .ok (.iload_n 3, 1) := dk_29 (dk_at dksX5_fits_0 9 rfl rfl)
theorem dX5_fits_10 : decode cX5_fits 10 = .ok (.bipush 25, 2) := dk_16 25 (dk_at dksX5_fits_0 10 rfl rfl)
theorem dX5_fits_12 : decode cX5_fits 12 = .ok (.if_icmp .ge 93, 3) := dk_162 0 93 (dk_at dksX5_fits_0 12 rfl rfl)
theorem dX5_fits_15 : decode cX5_fits 15 = .ok (.aload_n 0, 1) := dk_42 (dk_at dksX5_fits_0 15 rfl rfl)
theorem dX5_fits_16 : decode cX5_fits 16 = .ok (.iload_n 3, 1) := dk_29 (dk_at dksX5_fits_0 16 rfl rfl)
theorem dX5_fits_17 : decode cX5_fits 17 = .ok (.invokevirtual 515, 3) := dk_182 2 3 (dk_at dksX5_fits_0 17 rfl rfl)
theorem dX5_fits_20 : decode cX5_fits 20 = .ok (.iconst 1, 1) := dk_4 (dk_at dksX5_fits_0 20 rfl rfl)
theorem dX5_fits_21 : decode cX5_fits 21 = .ok (.istore 4, 2) := dk_54 4 (dk_at dksX5_fits_0 21 rfl rfl)
theorem dX5_fits_23 : decode cX5_fits 23 = .ok (.iconst 0, 1) := dk_3 (dk_at dksX5_fits_0 23 rfl rfl)
theorem dX5_fits_24 : decode cX5_fits 24 = .ok (.istore 5, 2) := dk_54 5 (dk_at dksX5_fits_1 0 rfl rfl)
theorem dX5_fits_26 : decode cX5_fits 26 = .ok (.iload 5, 2) := dk_21 5 (dk_at dksX5_fits_1 2 rfl rfl)
theorem dX5_fits_28 : decode cX5_fits 28 = .ok (.aload_n 0, 1) := dk_42 (dk_at dksX5_fits_1 4 rfl rfl)
theorem dX5_fits_29 : decode cX5_fits 29 = .ok (.getfield 13, 3) := dk_180 0 13 (dk_at dksX5_fits_1 5 rfl rfl)
theorem dX5_fits_32 : decode cX5_fits 32 = .ok (.iconst 1, 1) := dk_4 (dk_at dksX5_fits_1 8 rfl rfl)
theorem dX5_fits_33 : decode cX5_fits 33 = .ok (.iaload, 1) := dk_46 (dk_at dksX5_fits_1 9 rfl rfl)
theorem dX5_fits_34 : decode cX5_fits 34 = .ok (.if_icmp .ge 39, 3) := dk_162 0 39 (dk_at dksX5_fits_1 10 rfl rfl)
theorem dX5_fits_37 : decode cX5_fits 37 = .ok (.iload 4, 2) := dk_21 4 (dk_at dksX5_fits_1 13 rfl rfl)
theorem dX5_fits_39 : decode cX5_fits 39 = .ok (.ifCond .eq 25, 3) := dk_153 0 25 (dk_at dksX5_fits_1 15 rfl rfl)
theorem dX5_fits_42 : decode cX5_fits 42 = .ok (.aload_n 0, 1) := dk_42 (dk_at dksX5_fits_1 18 rfl rfl)
theorem dX5_fits_43 : decode cX5_fits 43 = .ok (.getfield 125, 3) := dk_180 0 125 (dk_at dksX5_fits_1 19 rfl rfl)
theorem dX5_fits_46 : decode cX5_fits 46 = .ok (.aload_n 0, 1) := dk_42 (dk_at dksX5_fits_1 22 rfl rfl)
theorem dX5_fits_47 : decode cX5_fits 47 = .ok (.getfield 13, 3) := dk_180 0 13 (dk_at dksX5_fits_2 0 rfl rfl)
theorem dX5_fits_50 : decode cX5_fits 50 = .ok (.bipush 43, 2) := dk_16 43 (dk_at dksX5_fits_2 3 rfl rfl)
theorem dX5_fits_52 : decode cX5_fits 52 = .ok (.iload 5, 2) := dk_21 5 (dk_at dksX5_fits_2 5 rfl rfl)
theorem dX5_fits_54 : decode cX5_fits 54 = .ok (.iadd, 1) := dk_96 (dk_at dksX5_fits_2 7 rfl rfl)
theorem dX5_fits_55 : decode cX5_fits 55 = .ok (.iaload, 1) := dk_46 (dk_at dksX5_fits_2 8 rfl rfl)
theorem dX5_fits_56 : decode cX5_fits 56 = .ok (.iaload, 1) := dk_46 (dk_at dksX5_fits_2 9 rfl rfl)
theorem dX5_fits_57 : decode cX5_fits 57 = .ok (.ifCond .le 7, 3) := dk_158 0 7 (dk_at dksX5_fits_2 10 rfl rfl)
theorem dX5_fits_60 : decode cX5_fits 60 = .ok (.iconst 1, 1) := dk_4 (dk_at dksX5_fits_2 13 rfl rfl)
theorem dX5_fits_61 : decode cX5_fits 61 = .ok (.goto 4, 3) := dk_167 0 4 (dk_at dksX5_fits_2 14 rfl rfl)
theorem dX5_fits_64 : decode cX5_fits 64 = .ok (.iconst 0, 1) := dk_3 (dk_at dksX5_fits_2 17 rfl rfl)
theorem dX5_fits_65 : decode cX5_fits 65 = .ok (.istore 4, 2) := dk_54 4 (dk_at dksX5_fits_2 18 rfl rfl)
theorem dX5_fits_67 : decode cX5_fits 67 = .ok (.iinc 5 1, 3) := dk_132 5 1 (dk_at dksX5_fits_2 20 rfl rfl)
theorem dX5_fits_70 : decode cX5_fits 70 = .ok (.goto (-44), 3) := dk_167 255 212 (dk_at dksX5_fits_3 0 rfl rfl)
theorem dX5_fits_73 : decode cX5_fits 73 = .ok (.iload 4, 2) := dk_21 4 (dk_at dksX5_fits_3 3 rfl rfl)
theorem dX5_fits_75 : decode cX5_fits 75 = .ok (.ifCond .eq 24, 3) := dk_153 0 24 (dk_at dksX5_fits_3 5 rfl rfl)
theorem dX5_fits_78 : decode cX5_fits 78 = .ok (.iload_n 2, 1) := dk_28 (dk_at dksX5_fits_3 8 rfl rfl)
theorem dX5_fits_79 : decode cX5_fits 79 = .ok (.iload_n 1, 1) := dk_27 (dk_at dksX5_fits_3 9 rfl rfl)
theorem dX5_fits_80 : decode cX5_fits 80 = .ok (.if_icmp .ne 16, 3) := dk_160 0 16 (dk_at dksX5_fits_3 10 rfl rfl)
theorem dX5_fits_83 : decode cX5_fits 83 = .ok (.bipush 10, 2) := dk_16 10 (dk_at dksX5_fits_3 13 rfl rfl)
theorem dX5_fits_85 : decode cX5_fits 85 = .ok (.iload_n 3, 1) := dk_29 (dk_at dksX5_fits_3 15 rfl rfl)
theorem dX5_fits_86 : decode cX5_fits 86 = .ok (.iconst 5, 1) := dk_8 (dk_at dksX5_fits_3 16 rfl rfl)
theorem dX5_fits_87 : decode cX5_fits 87 = .ok (.idiv, 1) := dk_108 (dk_at dksX5_fits_3 17 rfl rfl)
theorem dX5_fits_88 : decode cX5_fits 88 = .ok (.iconst 1, 1) := dk_4 (dk_at dksX5_fits_3 18 rfl rfl)
theorem dX5_fits_89 : decode cX5_fits 89 = .ok (.iadd, 1) := dk_96 (dk_at dksX5_fits_3 19 rfl rfl)
theorem dX5_fits_90 : decode cX5_fits 90 = .ok (.imul, 1) := dk_104 (dk_at dksX5_fits_3 20 rfl rfl)
theorem dX5_fits_91 : decode cX5_fits 91 = .ok (.iload_n 3, 1) := dk_29 (dk_at dksX5_fits_3 21 rfl rfl)
theorem dX5_fits_92 : decode cX5_fits 92 = .ok (.iconst 5, 1) := dk_8 (dk_at dksX5_fits_3 22 rfl rfl)
theorem dX5_fits_93 : decode cX5_fits 93 = .ok (.irem, 1) := dk_112 (dk_at dksX5_fits_3 23 rfl rfl)
theorem dX5_fits_94 : decode cX5_fits 94 = .ok (.iadd, 1) := dk_96 (dk_at dksX5_fits_4 0 rfl rfl)
theorem dX5_fits_95 : decode cX5_fits 95 = .ok (.ireturn, 1) := dk_172 (dk_at dksX5_fits_4 1 rfl rfl)
theorem dX5_fits_96 : decode cX5_fits 96 = .ok (.iinc 2 1, 3) := dk_132 2 1 (dk_at dksX5_fits_4 2 rfl rfl)
theorem dX5_fits_99 : decode cX5_fits 99 = .ok (.iinc 3 1, 3) := dk_132 3 1 (dk_at dksX5_fits_4 5 rfl rfl)
theorem dX5_fits_102 : decode cX5_fits 102 = .ok (.goto (-93), 3) := dk_167 255 163 (dk_at dksX5_fits_4 8 rfl rfl)
theorem dX5_fits_105 : decode cX5_fits 105 = .ok (.iload_n 1, 1) := dk_27 (dk_at dksX5_fits_4 11 rfl rfl)
theorem dX5_fits_106 : decode cX5_fits 106 = .ok (.iconst (-1), 1) := dk_2 (dk_at dksX5_fits_4 12 rfl rfl)
theorem dX5_fits_107 : decode cX5_fits 107 = .ok (.if_icmp .ne 7, 3) := dk_160 0 7 (dk_at dksX5_fits_4 13 rfl rfl)
theorem dX5_fits_110 : decode cX5_fits 110 = .ok (.iload_n 2, 1) := dk_28 (dk_at dksX5_fits_4 16 rfl rfl)
theorem dX5_fits_111 : decode cX5_fits 111 = .ok (.goto 4, 3) := dk_167 0 4 (dk_at dksX5_fits_4 17 rfl rfl)
theorem dX5_fits_114 : decode cX5_fits 114 = .ok (.iconst (-1), 1) := dk_2 (dk_at dksX5_fits_4 20 rfl rfl)
theorem dX5_fits_115 : decode cX5_fits 115 = .ok (.ireturn, 1) := dk_172 (dk_at dksX5_fits_4 21 rfl rfl)
abbrev cX5_go : ByteArray := prog_22_method_108_code
def yX5_go : MethodName := ⟨RX5, "go", "(II)I"⟩
def dkwX5_go_0 : List UInt8 := [42, 3, 181, 0, 149, 42, 42, 27, 28, 182, 2, 26, 182, 0, 155, 172]
abbrev dktX5_go_0 : List UInt8 := dkwX5_go_0 ++ []
theorem dksX5_go_0 : cX5_go.data.toList.drop 0 = dktX5_go_0 := by decide +kernel
theorem dX5_go_0 : decode cX5_go 0 = .ok (.aload_n 0, 1) := dk_42 (dk_at dksX5_go_0 0 rfl rfl)
theorem dX5_go_1 : decode cX5_go 1 = .ok (.iconst 0, 1) := dk_3 (dk_at dksX5_go_0 1 rfl rfl)
theorem dX5_go_2 : decode cX5_go 2 = .ok (.putfield 149, 3) := dk_181 0 149 (dk_at dksX5_go_0 2 rfl rfl)
theorem dX5_go_5 : decode cX5_go 5 = .ok (.aload_n 0, 1) := dk_42 (dk_at dksX5_go_0 5 rfl rfl)
theorem dX5_go_6 : decode cX5_go 6 = .ok (.aload_n 0, 1) := dk_42 (dk_at dksX5_go_0 6 rfl rfl)
theorem dX5_go_7 : decode cX5_go 7 = .ok (.iload_n 1, 1) := dk_27 (dk_at dksX5_go_0 7 rfl rfl)
theorem dX5_go_8 : decode cX5_go 8 = .ok (.iload_n 2, 1) := dk_28 (dk_at dksX5_go_0 8 rfl rfl)
theorem dX5_go_9 : decode cX5_go 9 = .ok (.invokevirtual 538, 3) := dk_182 2 26 (dk_at dksX5_go_0 9 rfl rfl)
theorem dX5_go_12 : decode cX5_go 12 = .ok (.invokevirtual 155, 3) := dk_182 0 155 (dk_at dksX5_go_0 12 rfl rfl)
theorem dX5_go_15 : decode cX5_go 15 = .ok (.ireturn, 1) := dk_172 (dk_at dksX5_go_0 15 rfl rfl)
abbrev cX5_goNow : ByteArray := prog_22_method_107_code
def yX5_goNow : MethodName := ⟨RX5, "goNow", "(II)I"⟩
def dkwX5_goNow_2 : List UInt8 := [27, 6, 182, 0, 165, 62, 42, 27, 28, 182, 0, 169, 29, 172]
abbrev dktX5_goNow_2 : List UInt8 := dkwX5_goNow_2 ++ []
def dkwX5_goNow_1 : List UInt8 := [182, 0, 193, 153, 0, 12, 42, 27, 28, 182, 1, 174, 153, 0, 6, 16, 253, 172, 42, 3, 182, 2, 23, 42]
abbrev dktX5_goNow_1 : List UInt8 := dkwX5_goNow_1 ++ dktX5_goNow_2
def dkwX5_goNow_0 : List UInt8 := [28, 184, 0, 183, 154, 0, 5, 2, 172, 42, 27, 182, 0, 207, 154, 0, 6, 16, 254, 172, 42, 28]
abbrev dktX5_goNow_0 : List UInt8 := dkwX5_goNow_0 ++ dktX5_goNow_1
theorem dksX5_goNow_0 : cX5_goNow.data.toList.drop 0 = dktX5_goNow_0 := by decide +kernel
theorem dksX5_goNow_1 : cX5_goNow.data.toList.drop 22 = dktX5_goNow_1 := dk_seg dksX5_goNow_0 22 rfl rfl
theorem dksX5_goNow_2 : cX5_goNow.data.toList.drop 46 = dktX5_goNow_2 := dk_seg dksX5_goNow_1 24 rfl rfl
theorem dX5_goNow_0 : decode cX5_goNow 0 = .ok (.iload_n 2, 1) := dk_28 (dk_at dksX5_goNow_0 0 rfl rfl)
theorem dX5_goNow_1 : decode cX5_goNow 1 = .ok (.invokestatic 183, 3) := dk_184 0 183 (dk_at dksX5_goNow_0 1 rfl rfl)
theorem dX5_goNow_4 : decode cX5_goNow 4 = .ok (.ifCond .ne 5, 3) := dk_154 0 5 (dk_at dksX5_goNow_0 4 rfl rfl)
theorem dX5_goNow_7 : decode cX5_goNow 7 = .ok (.iconst (-1), 1) := dk_2 (dk_at dksX5_goNow_0 7 rfl rfl)
theorem dX5_goNow_8 : decode cX5_goNow 8 = .ok (.ireturn, 1) := dk_172 (dk_at dksX5_goNow_0 8 rfl rfl)
theorem dX5_goNow_9 : decode cX5_goNow 9 = .ok (.aload_n 0, 1) := dk_42 (dk_at dksX5_goNow_0 9 rfl rfl)
theorem dX5_goNow_10 : decode cX5_goNow 10 = .ok (.iload_n 1, 1) := dk_27 (dk_at dksX5_goNow_0 10 rfl rfl)
theorem dX5_goNow_11 : decode cX5_goNow 11 = .ok (.invokevirtual 207, 3) := dk_182 0 207 (dk_at dksX5_goNow_0 11 rfl rfl)
theorem dX5_goNow_14 : decode cX5_goNow 14 = .ok (.ifCond .ne 6, 3) := dk_154 0 6 (dk_at dksX5_goNow_0 14 rfl rfl)
theorem dX5_goNow_17 : decode cX5_goNow 17 = .ok (.bipush (-2), 2) := dk_16 254 (dk_at dksX5_goNow_0 17 rfl rfl)
theorem dX5_goNow_19 : decode cX5_goNow 19 = .ok (.ireturn, 1) := dk_172 (dk_at dksX5_goNow_0 19 rfl rfl)
theorem dX5_goNow_20 : decode cX5_goNow 20 = .ok (.aload_n 0, 1) := dk_42 (dk_at dksX5_goNow_0 20 rfl rfl)
theorem dX5_goNow_21 : decode cX5_goNow 21 = .ok (.iload_n 2, 1) := dk_28 (dk_at dksX5_goNow_0 21 rfl rfl)
theorem dX5_goNow_22 : decode cX5_goNow 22 = .ok (.invokevirtual 193, 3) := dk_182 0 193 (dk_at dksX5_goNow_1 0 rfl rfl)
theorem dX5_goNow_25 : decode cX5_goNow 25 = .ok (.ifCond .eq 12, 3) := dk_153 0 12 (dk_at dksX5_goNow_1 3 rfl rfl)
theorem dX5_goNow_28 : decode cX5_goNow 28 = .ok (.aload_n 0, 1) := dk_42 (dk_at dksX5_goNow_1 6 rfl rfl)
theorem dX5_goNow_29 : decode cX5_goNow 29 = .ok (.iload_n 1, 1) := dk_27 (dk_at dksX5_goNow_1 7 rfl rfl)
theorem dX5_goNow_30 : decode cX5_goNow 30 = .ok (.iload_n 2, 1) := dk_28 (dk_at dksX5_goNow_1 8 rfl rfl)
theorem dX5_goNow_31 : decode cX5_goNow 31 = .ok (.invokevirtual 430, 3) := dk_182 1 174 (dk_at dksX5_goNow_1 9 rfl rfl)
theorem dX5_goNow_34 : decode cX5_goNow 34 = .ok (.ifCond .eq 6, 3) := dk_153 0 6 (dk_at dksX5_goNow_1 12 rfl rfl)
theorem dX5_goNow_37 : decode cX5_goNow 37 = .ok (.bipush (-3), 2) := dk_16 253 (dk_at dksX5_goNow_1 15 rfl rfl)
theorem dX5_goNow_39 : decode cX5_goNow 39 = .ok (.ireturn, 1) := dk_172 (dk_at dksX5_goNow_1 17 rfl rfl)
theorem dX5_goNow_40 : decode cX5_goNow 40 = .ok (.aload_n 0, 1) := dk_42 (dk_at dksX5_goNow_1 18 rfl rfl)
theorem dX5_goNow_41 : decode cX5_goNow 41 = .ok (.iconst 0, 1) := dk_3 (dk_at dksX5_goNow_1 19 rfl rfl)
theorem dX5_goNow_42 : decode cX5_goNow 42 = .ok (.invokevirtual 535, 3) := dk_182 2 23 (dk_at dksX5_goNow_1 20 rfl rfl)
theorem dX5_goNow_45 : decode cX5_goNow 45 = .ok (.aload_n 0, 1) := dk_42 (dk_at dksX5_goNow_1 23 rfl rfl)
theorem dX5_goNow_46 : decode cX5_goNow 46 = .ok (.iload_n 1, 1) := dk_27 (dk_at dksX5_goNow_2 0 rfl rfl)
theorem dX5_goNow_47 : decode cX5_goNow 47 = .ok (.iconst 3, 1) := dk_6 (dk_at dksX5_goNow_2 1 rfl rfl)
theorem dX5_goNow_48 : decode cX5_goNow 48 = .ok (.invokevirtual 165, 3) := dk_182 0 165 (dk_at dksX5_goNow_2 2 rfl rfl)
theorem dX5_goNow_51 : decode cX5_goNow 51 = .ok (.istore_n 3, 1) := dk_62 (dk_at dksX5_goNow_2 5 rfl rfl)
theorem dX5_goNow_52 : decode cX5_goNow 52 = .ok (.aload_n 0, 1) := dk_42 (dk_at dksX5_goNow_2 6 rfl rfl)
theorem dX5_goNow_53 : decode cX5_goNow 53 = .ok (.iload_n 1, 1) := dk_27 (dk_at dksX5_goNow_2 7 rfl rfl)
theorem dX5_goNow_54 : decode cX5_goNow 54 = .ok (.iload_n 2, 1) := dk_28 (dk_at dksX5_goNow_2 8 rfl rfl)
theorem dX5_goNow_55 : decode cX5_goNow 55 = .ok (.invokevirtual 169, 3) := dk_182 0 169 (dk_at dksX5_goNow_2 9 rfl rfl)
theorem dX5_goNow_58 : decode cX5_goNow 58 = .ok (.iload_n 3, 1) := dk_29 (dk_at dksX5_goNow_2 12 rfl rfl)
theorem dX5_goNow_59 : decode cX5_goNow 59 = .ok (.ireturn, 1) := dk_172 (dk_at dksX5_goNow_2 13 rfl rfl)
abbrev cX5_remember : ByteArray := prog_22_method_15_code
def yX5_remember : MethodName := ⟨RX5, "remember", "(I)V"⟩
def dkwX5_remember_4 : List UInt8 := [27, 79, 42, 89, 180, 0, 173, 4, 96, 181, 0, 173, 177]
abbrev dktX5_remember_4 : List UInt8 := dkwX5_remember_4 ++ []
def dkwX5_remember_3 : List UInt8 := [4, 100, 181, 0, 173, 42, 16, 6, 42, 180, 0, 173, 104, 182, 0, 176, 42, 180, 0, 26, 42, 180, 0, 173]
abbrev dktX5_remember_3 : List UInt8 := dkwX5_remember_3 ++ dktX5_remember_4
def dkwX5_remember_2 : List UInt8 := [180, 0, 26, 28, 42, 180, 0, 26, 28, 4, 96, 46, 79, 132, 2, 1, 167, 255, 233, 42, 89, 180, 0, 173]
abbrev dktX5_remember_2 : List UInt8 := dkwX5_remember_2 ++ dktX5_remember_3
def dkwX5_remember_1 : List UInt8 := [180, 0, 23, 28, 16, 6, 96, 46, 79, 132, 2, 1, 167, 255, 232, 3, 61, 28, 16, 15, 162, 0, 23, 42]
abbrev dktX5_remember_1 : List UInt8 := dkwX5_remember_1 ++ dktX5_remember_2
def dkwX5_remember_0 : List UInt8 := [42, 180, 0, 173, 16, 16, 160, 0, 70, 3, 61, 28, 16, 90, 162, 0, 24, 42, 180, 0, 23, 28, 42]
abbrev dktX5_remember_0 : List UInt8 := dkwX5_remember_0 ++ dktX5_remember_1
theorem dksX5_remember_0 : cX5_remember.data.toList.drop 0 = dktX5_remember_0 := by decide +kernel
theorem dksX5_remember_1 : cX5_remember.data.toList.drop 23 = dktX5_remember_1 := dk_seg dksX5_remember_0 23 rfl rfl
theorem dksX5_remember_2 : cX5_remember.data.toList.drop 47 = dktX5_remember_2 := dk_seg dksX5_remember_1 24 rfl rfl
theorem dksX5_remember_3 : cX5_remember.data.toList.drop 71 = dktX5_remember_3 := dk_seg dksX5_remember_2 24 rfl rfl
theorem dksX5_remember_4 : cX5_remember.data.toList.drop 95 = dktX5_remember_4 := dk_seg dksX5_remember_3 24 rfl rfl
theorem dX5_remember_0 : decode cX5_remember 0 = .ok (.aload_n 0, 1) := dk_42 (dk_at dksX5_remember_0 0 rfl rfl)
theorem dX5_remember_1 : decode cX5_remember 1 = .ok (.getfield 173, 3) := dk_180 0 173 (dk_at dksX5_remember_0 1 rfl rfl)
theorem dX5_remember_4 : decode cX5_remember 4 = .ok (.bipush 16, 2) := dk_16 16 (dk_at dksX5_remember_0 4 rfl rfl)
theorem dX5_remember_6 : decode cX5_remember 6 = .ok (.if_icmp .ne 70, 3) := dk_160 0 70 (dk_at dksX5_remember_0 6 rfl rfl)
theorem dX5_remember_9 : decode cX5_remember 9 = .ok (.iconst 0, 1) := dk_3 (dk_at dksX5_remember_0 9 rfl rfl)
theorem dX5_remember_10 : decode cX5_remember 10 = .ok (.istore_n 2, 1) := dk_61 (dk_at dksX5_remember_0 10 rfl rfl)
theorem dX5_remember_11 : decode cX5_remember 11 = .ok (.iload_n 2, 1) := dk_28 (dk_at dksX5_remember_0 11 rfl rfl)
theorem dX5_remember_12 : decode cX5_remember 12 = .ok (.bipush 90, 2) := dk_16 90 (dk_at dksX5_remember_0 12 rfl rfl)
theorem dX5_remember_14 : decode cX5_remember 14 = .ok (.if_icmp .ge 24, 3) := dk_162 0 24 (dk_at dksX5_remember_0 14 rfl rfl)
theorem dX5_remember_17 : decode cX5_remember 17 = .ok (.aload_n 0, 1) := dk_42 (dk_at dksX5_remember_0 17 rfl rfl)
theorem dX5_remember_18 : decode cX5_remember 18 = .ok (.getfield 23, 3) := dk_180 0 23 (dk_at dksX5_remember_0 18 rfl rfl)
theorem dX5_remember_21 : decode cX5_remember 21 = .ok (.iload_n 2, 1) := dk_28 (dk_at dksX5_remember_0 21 rfl rfl)
theorem dX5_remember_22 : decode cX5_remember 22 = .ok (.aload_n 0, 1) := dk_42 (dk_at dksX5_remember_0 22 rfl rfl)
theorem dX5_remember_23 : decode cX5_remember 23 = .ok (.getfield 23, 3) := dk_180 0 23 (dk_at dksX5_remember_1 0 rfl rfl)
theorem dX5_remember_26 : decode cX5_remember 26 = .ok (.iload_n 2, 1) := dk_28 (dk_at dksX5_remember_1 3 rfl rfl)
theorem dX5_remember_27 : decode cX5_remember 27 = .ok (.bipush 6, 2) := dk_16 6 (dk_at dksX5_remember_1 4 rfl rfl)
theorem dX5_remember_29 : decode cX5_remember 29 = .ok (.iadd, 1) := dk_96 (dk_at dksX5_remember_1 6 rfl rfl)
theorem dX5_remember_30 : decode cX5_remember 30 = .ok (.iaload, 1) := dk_46 (dk_at dksX5_remember_1 7 rfl rfl)
theorem dX5_remember_31 : decode cX5_remember 31 = .ok (.iastore, 1) := dk_79 (dk_at dksX5_remember_1 8 rfl rfl)
theorem dX5_remember_32 : decode cX5_remember 32 = .ok (.iinc 2 1, 3) := dk_132 2 1 (dk_at dksX5_remember_1 9 rfl rfl)
theorem dX5_remember_35 : decode cX5_remember 35 = .ok (.goto (-24), 3) := dk_167 255 232 (dk_at dksX5_remember_1 12 rfl rfl)
theorem dX5_remember_38 : decode cX5_remember 38 = .ok (.iconst 0, 1) := dk_3 (dk_at dksX5_remember_1 15 rfl rfl)
theorem dX5_remember_39 : decode cX5_remember 39 = .ok (.istore_n 2, 1) := dk_61 (dk_at dksX5_remember_1 16 rfl rfl)
theorem dX5_remember_40 : decode cX5_remember 40 = .ok (.iload_n 2, 1) := dk_28 (dk_at dksX5_remember_1 17 rfl rfl)
theorem dX5_remember_41 : decode cX5_remember 41 = .ok (.bipush 15, 2) := dk_16 15 (dk_at dksX5_remember_1 18 rfl rfl)
theorem dX5_remember_43 : decode cX5_remember 43 = .ok (.if_icmp .ge 23, 3) := dk_162 0 23 (dk_at dksX5_remember_1 20 rfl rfl)
theorem dX5_remember_46 : decode cX5_remember 46 = .ok (.aload_n 0, 1) := dk_42 (dk_at dksX5_remember_1 23 rfl rfl)
theorem dX5_remember_47 : decode cX5_remember 47 = .ok (.getfield 26, 3) := dk_180 0 26 (dk_at dksX5_remember_2 0 rfl rfl)
theorem dX5_remember_50 : decode cX5_remember 50 = .ok (.iload_n 2, 1) := dk_28 (dk_at dksX5_remember_2 3 rfl rfl)
theorem dX5_remember_51 : decode cX5_remember 51 = .ok (.aload_n 0, 1) := dk_42 (dk_at dksX5_remember_2 4 rfl rfl)
theorem dX5_remember_52 : decode cX5_remember 52 = .ok (.getfield 26, 3) := dk_180 0 26 (dk_at dksX5_remember_2 5 rfl rfl)
theorem dX5_remember_55 : decode cX5_remember 55 = .ok (.iload_n 2, 1) := dk_28 (dk_at dksX5_remember_2 8 rfl rfl)
theorem dX5_remember_56 : decode cX5_remember 56 = .ok (.iconst 1, 1) := dk_4 (dk_at dksX5_remember_2 9 rfl rfl)
theorem dX5_remember_57 : decode cX5_remember 57 = .ok (.iadd, 1) := dk_96 (dk_at dksX5_remember_2 10 rfl rfl)
theorem dX5_remember_58 : decode cX5_remember 58 = .ok (.iaload, 1) := dk_46 (dk_at dksX5_remember_2 11 rfl rfl)
theorem dX5_remember_59 : decode cX5_remember 59 = .ok (.iastore, 1) := dk_79 (dk_at dksX5_remember_2 12 rfl rfl)
theorem dX5_remember_60 : decode cX5_remember 60 = .ok (.iinc 2 1, 3) := dk_132 2 1 (dk_at dksX5_remember_2 13 rfl rfl)
theorem dX5_remember_63 : decode cX5_remember 63 = .ok (.goto (-23), 3) := dk_167 255 233 (dk_at dksX5_remember_2 16 rfl rfl)
theorem dX5_remember_66 : decode cX5_remember 66 = .ok (.aload_n 0, 1) := dk_42 (dk_at dksX5_remember_2 19 rfl rfl)
theorem dX5_remember_67 : decode cX5_remember 67 = .ok (.dup, 1) := dk_89 (dk_at dksX5_remember_2 20 rfl rfl)
theorem dX5_remember_68 : decode cX5_remember 68 = .ok (.getfield 173, 3) := dk_180 0 173 (dk_at dksX5_remember_2 21 rfl rfl)
theorem dX5_remember_71 : decode cX5_remember 71 = .ok (.iconst 1, 1) := dk_4 (dk_at dksX5_remember_3 0 rfl rfl)
theorem dX5_remember_72 : decode cX5_remember 72 = .ok (.isub, 1) := dk_100 (dk_at dksX5_remember_3 1 rfl rfl)
theorem dX5_remember_73 : decode cX5_remember 73 = .ok (.putfield 173, 3) := dk_181 0 173 (dk_at dksX5_remember_3 2 rfl rfl)
theorem dX5_remember_76 : decode cX5_remember 76 = .ok (.aload_n 0, 1) := dk_42 (dk_at dksX5_remember_3 5 rfl rfl)
theorem dX5_remember_77 : decode cX5_remember 77 = .ok (.bipush 6, 2) := dk_16 6 (dk_at dksX5_remember_3 6 rfl rfl)
theorem dX5_remember_79 : decode cX5_remember 79 = .ok (.aload_n 0, 1) := dk_42 (dk_at dksX5_remember_3 8 rfl rfl)
theorem dX5_remember_80 : decode cX5_remember 80 = .ok (.getfield 173, 3) := dk_180 0 173 (dk_at dksX5_remember_3 9 rfl rfl)
theorem dX5_remember_83 : decode cX5_remember 83 = .ok (.imul, 1) := dk_104 (dk_at dksX5_remember_3 12 rfl rfl)
theorem dX5_remember_84 : decode cX5_remember 84 = .ok (.invokevirtual 176, 3) := dk_182 0 176 (dk_at dksX5_remember_3 13 rfl rfl)
theorem dX5_remember_87 : decode cX5_remember 87 = .ok (.aload_n 0, 1) := dk_42 (dk_at dksX5_remember_3 16 rfl rfl)
theorem dX5_remember_88 : decode cX5_remember 88 = .ok (.getfield 26, 3) := dk_180 0 26 (dk_at dksX5_remember_3 17 rfl rfl)
theorem dX5_remember_91 : decode cX5_remember 91 = .ok (.aload_n 0, 1) := dk_42 (dk_at dksX5_remember_3 20 rfl rfl)
theorem dX5_remember_92 : decode cX5_remember 92 = .ok (.getfield 173, 3) := dk_180 0 173 (dk_at dksX5_remember_3 21 rfl rfl)
theorem dX5_remember_95 : decode cX5_remember 95 = .ok (.iload_n 1, 1) := dk_27 (dk_at dksX5_remember_4 0 rfl rfl)
theorem dX5_remember_96 : decode cX5_remember 96 = .ok (.iastore, 1) := dk_79 (dk_at dksX5_remember_4 1 rfl rfl)
theorem dX5_remember_97 : decode cX5_remember 97 = .ok (.aload_n 0, 1) := dk_42 (dk_at dksX5_remember_4 2 rfl rfl)
theorem dX5_remember_98 : decode cX5_remember 98 = .ok (.dup, 1) := dk_89 (dk_at dksX5_remember_4 3 rfl rfl)
theorem dX5_remember_99 : decode cX5_remember 99 = .ok (.getfield 173, 3) := dk_180 0 173 (dk_at dksX5_remember_4 4 rfl rfl)
theorem dX5_remember_102 : decode cX5_remember 102 = .ok (.iconst 1, 1) := dk_4 (dk_at dksX5_remember_4 7 rfl rfl)
theorem dX5_remember_103 : decode cX5_remember 103 = .ok (.iadd, 1) := dk_96 (dk_at dksX5_remember_4 8 rfl rfl)
theorem dX5_remember_104 : decode cX5_remember 104 = .ok (.putfield 173, 3) := dk_181 0 173 (dk_at dksX5_remember_4 9 rfl rfl)
theorem dX5_remember_107 : decode cX5_remember 107 = .ok (.return_, 1) := dk_177 (dk_at dksX5_remember_4 12 rfl rfl)
abbrev cX5_believe : ByteArray := prog_22_method_110_code
def yX5_believe : MethodName := ⟨RX5, "believe", "(II)I"⟩
def dkwX5_believe_2 : List UInt8 := [181, 0, 152, 21, 4, 172]
abbrev dktX5_believe_2 : List UInt8 := dkwX5_believe_2 ++ []
def dkwX5_believe_1 : List UInt8 := [7, 182, 0, 165, 54, 4, 42, 180, 0, 13, 16, 13, 8, 27, 104, 96, 7, 96, 28, 79, 42, 3]
abbrev dktX5_believe_1 : List UInt8 := dkwX5_believe_1 ++ dktX5_believe_2
def dkwX5_believe_0 : List UInt8 := [42, 3, 181, 0, 149, 42, 27, 28, 182, 2, 29, 62, 29, 156, 0, 9, 42, 29, 182, 0, 155, 172, 42, 27]
abbrev dktX5_believe_0 : List UInt8 := dkwX5_believe_0 ++ dktX5_believe_1
theorem dksX5_believe_0 : cX5_believe.data.toList.drop 0 = dktX5_believe_0 := by decide +kernel
theorem dksX5_believe_1 : cX5_believe.data.toList.drop 24 = dktX5_believe_1 := dk_seg dksX5_believe_0 24 rfl rfl
theorem dksX5_believe_2 : cX5_believe.data.toList.drop 46 = dktX5_believe_2 := dk_seg dksX5_believe_1 22 rfl rfl
theorem dX5_believe_0 : decode cX5_believe 0 = .ok (.aload_n 0, 1) := dk_42 (dk_at dksX5_believe_0 0 rfl rfl)
theorem dX5_believe_1 : decode cX5_believe 1 = .ok (.iconst 0, 1) := dk_3 (dk_at dksX5_believe_0 1 rfl rfl)
theorem dX5_believe_2 : decode cX5_believe 2 = .ok (.putfield 149, 3) := dk_181 0 149 (dk_at dksX5_believe_0 2 rfl rfl)
theorem dX5_believe_5 : decode cX5_believe 5 = .ok (.aload_n 0, 1) := dk_42 (dk_at dksX5_believe_0 5 rfl rfl)
theorem dX5_believe_6 : decode cX5_believe 6 = .ok (.iload_n 1, 1) := dk_27 (dk_at dksX5_believe_0 6 rfl rfl)
theorem dX5_believe_7 : decode cX5_believe 7 = .ok (.iload_n 2, 1) := dk_28 (dk_at dksX5_believe_0 7 rfl rfl)
theorem dX5_believe_8 : decode cX5_believe 8 = .ok (.invokevirtual 541, 3) := dk_182 2 29 (dk_at dksX5_believe_0 8 rfl rfl)
theorem dX5_believe_11 : decode cX5_believe 11 = .ok (.istore_n 3, 1) := dk_62 (dk_at dksX5_believe_0 11 rfl rfl)
theorem dX5_believe_12 : decode cX5_believe 12 = .ok (.iload_n 3, 1) := dk_29 (dk_at dksX5_believe_0 12 rfl rfl)
theorem dX5_believe_13 : decode cX5_believe 13 = .ok (.ifCond .ge 9, 3) := dk_156 0 9 (dk_at dksX5_believe_0 13 rfl rfl)
theorem dX5_believe_16 : decode cX5_believe 16 = .ok (.aload_n 0, 1) := dk_42 (dk_at dksX5_believe_0 16 rfl rfl)
theorem dX5_believe_17 : decode cX5_believe 17 = .ok (.iload_n 3, 1) := dk_29 (dk_at dksX5_believe_0 17 rfl rfl)
theorem dX5_believe_18 : decode cX5_believe 18 = .ok (.invokevirtual 155, 3) := dk_182 0 155 (dk_at dksX5_believe_0 18 rfl rfl)
theorem dX5_believe_21 : decode cX5_believe 21 = .ok (.ireturn, 1) := dk_172 (dk_at dksX5_believe_0 21 rfl rfl)
theorem dX5_believe_22 : decode cX5_believe 22 = .ok (.aload_n 0, 1) := dk_42 (dk_at dksX5_believe_0 22 rfl rfl)
theorem dX5_believe_23 : decode cX5_believe 23 = .ok (.iload_n 1, 1) := dk_27 (dk_at dksX5_believe_0 23 rfl rfl)
theorem dX5_believe_24 : decode cX5_believe 24 = .ok (.iconst 4, 1) := dk_7 (dk_at dksX5_believe_1 0 rfl rfl)
theorem dX5_believe_25 : decode cX5_believe 25 = .ok (.invokevirtual 165, 3) := dk_182 0 165 (dk_at dksX5_believe_1 1 rfl rfl)
theorem dX5_believe_28 : decode cX5_believe 28 = .ok (.istore 4, 2) := dk_54 4 (dk_at dksX5_believe_1 4 rfl rfl)
theorem dX5_believe_30 : decode cX5_believe 30 = .ok (.aload_n 0, 1) := dk_42 (dk_at dksX5_believe_1 6 rfl rfl)
theorem dX5_believe_31 : decode cX5_believe 31 = .ok (.getfield 13, 3) := dk_180 0 13 (dk_at dksX5_believe_1 7 rfl rfl)
theorem dX5_believe_34 : decode cX5_believe 34 = .ok (.bipush 13, 2) := dk_16 13 (dk_at dksX5_believe_1 10 rfl rfl)
theorem dX5_believe_36 : decode cX5_believe 36 = .ok (.iconst 5, 1) := dk_8 (dk_at dksX5_believe_1 12 rfl rfl)
theorem dX5_believe_37 : decode cX5_believe 37 = .ok (.iload_n 1, 1) := dk_27 (dk_at dksX5_believe_1 13 rfl rfl)
theorem dX5_believe_38 : decode cX5_believe 38 = .ok (.imul, 1) := dk_104 (dk_at dksX5_believe_1 14 rfl rfl)
theorem dX5_believe_39 : decode cX5_believe 39 = .ok (.iadd, 1) := dk_96 (dk_at dksX5_believe_1 15 rfl rfl)
theorem dX5_believe_40 : decode cX5_believe 40 = .ok (.iconst 4, 1) := dk_7 (dk_at dksX5_believe_1 16 rfl rfl)
theorem dX5_believe_41 : decode cX5_believe 41 = .ok (.iadd, 1) := dk_96 (dk_at dksX5_believe_1 17 rfl rfl)
theorem dX5_believe_42 : decode cX5_believe 42 = .ok (.iload_n 2, 1) := dk_28 (dk_at dksX5_believe_1 18 rfl rfl)
theorem dX5_believe_43 : decode cX5_believe 43 = .ok (.iastore, 1) := dk_79 (dk_at dksX5_believe_1 19 rfl rfl)
theorem dX5_believe_44 : decode cX5_believe 44 = .ok (.aload_n 0, 1) := dk_42 (dk_at dksX5_believe_1 20 rfl rfl)
theorem dX5_believe_45 : decode cX5_believe 45 = .ok (.iconst 0, 1) := dk_3 (dk_at dksX5_believe_1 21 rfl rfl)
theorem dX5_believe_46 : decode cX5_believe 46 = .ok (.putfield 152, 3) := dk_181 0 152 (dk_at dksX5_believe_2 0 rfl rfl)
theorem dX5_believe_49 : decode cX5_believe 49 = .ok (.iload 4, 2) := dk_21 4 (dk_at dksX5_believe_2 3 rfl rfl)
theorem dX5_believe_51 : decode cX5_believe 51 = .ok (.ireturn, 1) := dk_172 (dk_at dksX5_believe_2 5 rfl rfl)
abbrev cX5_cannotBelieve : ByteArray := prog_22_method_109_code
def yX5_cannotBelieve : MethodName := ⟨RX5, "cannotBelieve", "(II)I"⟩
def dkwX5_cannotBelieve_1 : List UInt8 := [153, 0, 7, 3, 167, 0, 5, 16, 254, 172]
abbrev dktX5_cannotBelieve_1 : List UInt8 := dkwX5_cannotBelieve_1 ++ []
def dkwX5_cannotBelieve_0 : List UInt8 := [28, 133, 20, 0, 221, 20, 0, 163, 184, 0, 159, 154, 0, 7, 2, 167, 0, 17, 42, 27, 182, 0, 207]
abbrev dktX5_cannotBelieve_0 : List UInt8 := dkwX5_cannotBelieve_0 ++ dktX5_cannotBelieve_1
theorem dksX5_cannotBelieve_0 : cX5_cannotBelieve.data.toList.drop 0 = dktX5_cannotBelieve_0 := by decide +kernel
theorem dksX5_cannotBelieve_1 : cX5_cannotBelieve.data.toList.drop 23 = dktX5_cannotBelieve_1 := dk_seg dksX5_cannotBelieve_0 23 rfl rfl
theorem dX5_cannotBelieve_0 : decode cX5_cannotBelieve 0 = .ok (.iload_n 2, 1) := dk_28 (dk_at dksX5_cannotBelieve_0 0 rfl rfl)
theorem dX5_cannotBelieve_1 : decode cX5_cannotBelieve 1 = .ok (.i2l, 1) := dk_133 (dk_at dksX5_cannotBelieve_0 1 rfl rfl)
theorem dX5_cannotBelieve_2 : decode cX5_cannotBelieve 2 = .ok (.ldc2_w 221, 3) := dk_20 0 221 (dk_at dksX5_cannotBelieve_0 2 rfl rfl)
theorem dX5_cannotBelieve_5 : decode cX5_cannotBelieve 5 = .ok (.ldc2_w 163, 3) := dk_20 0 163 (dk_at dksX5_cannotBelieve_0 5 rfl rfl)
theorem dX5_cannotBelieve_8 : decode cX5_cannotBelieve 8 = .ok (.invokestatic 159, 3) := dk_184 0 159 (dk_at dksX5_cannotBelieve_0 8 rfl rfl)
theorem dX5_cannotBelieve_11 : decode cX5_cannotBelieve 11 = .ok (.ifCond .ne 7, 3) := dk_154 0 7 (dk_at dksX5_cannotBelieve_0 11 rfl rfl)
theorem dX5_cannotBelieve_14 : decode cX5_cannotBelieve 14 = .ok (.iconst (-1), 1) := dk_2 (dk_at dksX5_cannotBelieve_0 14 rfl rfl)
theorem dX5_cannotBelieve_15 : decode cX5_cannotBelieve 15 = .ok (.goto 17, 3) := dk_167 0 17 (dk_at dksX5_cannotBelieve_0 15 rfl rfl)
theorem dX5_cannotBelieve_18 : decode cX5_cannotBelieve 18 = .ok (.aload_n 0, 1) := dk_42 (dk_at dksX5_cannotBelieve_0 18 rfl rfl)
theorem dX5_cannotBelieve_19 : decode cX5_cannotBelieve 19 = .ok (.iload_n 1, 1) := dk_27 (dk_at dksX5_cannotBelieve_0 19 rfl rfl)
theorem dX5_cannotBelieve_20 : decode cX5_cannotBelieve 20 = .ok (.invokevirtual 207, 3) := dk_182 0 207 (dk_at dksX5_cannotBelieve_0 20 rfl rfl)
theorem dX5_cannotBelieve_23 : decode cX5_cannotBelieve 23 = .ok (.ifCond .eq 7, 3) := dk_153 0 7 (dk_at dksX5_cannotBelieve_1 0 rfl rfl)
theorem dX5_cannotBelieve_26 : decode cX5_cannotBelieve 26 = .ok (.iconst 0, 1) := dk_3 (dk_at dksX5_cannotBelieve_1 3 rfl rfl)
theorem dX5_cannotBelieve_27 : decode cX5_cannotBelieve 27 = .ok (.goto 5, 3) := dk_167 0 5 (dk_at dksX5_cannotBelieve_1 4 rfl rfl)
theorem dX5_cannotBelieve_30 : decode cX5_cannotBelieve 30 = .ok (.bipush (-2), 2) := dk_16 254 (dk_at dksX5_cannotBelieve_1 7 rfl rfl)
theorem dX5_cannotBelieve_32 : decode cX5_cannotBelieve 32 = .ok (.ireturn, 1) := dk_172 (dk_at dksX5_cannotBelieve_1 9 rfl rfl)
abbrev cX5_rush : ByteArray := prog_22_method_113_code
def yX5_rush : MethodName := ⟨RX5, "rush", "()I"⟩
def dkwX5_rush_0 : List UInt8 := [42, 3, 181, 0, 149, 42, 42, 182, 2, 35, 182, 0, 155, 172]
abbrev dktX5_rush_0 : List UInt8 := dkwX5_rush_0 ++ []
theorem dksX5_rush_0 : cX5_rush.data.toList.drop 0 = dktX5_rush_0 := by decide +kernel
theorem dX5_rush_0 : decode cX5_rush 0 = .ok (.aload_n 0, 1) := dk_42 (dk_at dksX5_rush_0 0 rfl rfl)
theorem dX5_rush_1 : decode cX5_rush 1 = .ok (.iconst 0, 1) := dk_3 (dk_at dksX5_rush_0 1 rfl rfl)
theorem dX5_rush_2 : decode cX5_rush 2 = .ok (.putfield 149, 3) := dk_181 0 149 (dk_at dksX5_rush_0 2 rfl rfl)
theorem dX5_rush_5 : decode cX5_rush 5 = .ok (.aload_n 0, 1) := dk_42 (dk_at dksX5_rush_0 5 rfl rfl)
theorem dX5_rush_6 : decode cX5_rush 6 = .ok (.aload_n 0, 1) := dk_42 (dk_at dksX5_rush_0 6 rfl rfl)
theorem dX5_rush_7 : decode cX5_rush 7 = .ok (.invokevirtual 547, 3) := dk_182 2 35 (dk_at dksX5_rush_0 7 rfl rfl)
theorem dX5_rush_10 : decode cX5_rush 10 = .ok (.invokevirtual 155, 3) := dk_182 0 155 (dk_at dksX5_rush_0 10 rfl rfl)
theorem dX5_rush_13 : decode cX5_rush 13 = .ok (.ireturn, 1) := dk_172 (dk_at dksX5_rush_0 13 rfl rfl)
abbrev cX5_rushNow : ByteArray := prog_22_method_112_code
def yX5_rushNow : MethodName := ⟨RX5, "rushNow", "()I"⟩
def dkwX5_rushNow_7 : List UInt8 := [132, 2, 1, 167, 255, 113, 27, 172]
abbrev dktX5_rushNow_7 : List UInt8 := dkwX5_rushNow_7 ++ []
def dkwX5_rushNow_6 : List UInt8 := [153, 0, 7, 4, 167, 0, 4, 3, 54, 7, 27, 21, 7, 153, 0, 7, 4, 167, 0, 4, 3, 96, 60]
abbrev dktX5_rushNow_6 : List UInt8 := dkwX5_rushNow_6 ++ dktX5_rushNow_7
def dkwX5_rushNow_5 : List UInt8 := [153, 0, 30, 42, 28, 21, 4, 21, 6, 158, 0, 8, 16, 6, 167, 0, 5, 16, 250, 96, 182, 2, 32]
abbrev dktX5_rushNow_5 : List UInt8 := dkwX5_rushNow_5 ++ dktX5_rushNow_6
def dkwX5_rushNow_4 : List UInt8 := [2, 96, 182, 2, 32, 153, 0, 7, 4, 167, 0, 4, 3, 54, 7, 21, 7, 154, 0, 31, 21, 6]
abbrev dktX5_rushNow_4 : List UInt8 := dkwX5_rushNow_4 ++ dktX5_rushNow_5
def dkwX5_rushNow_3 : List UInt8 := [16, 6, 108, 100, 54, 6, 21, 5, 153, 0, 28, 42, 28, 21, 4, 21, 5, 158, 0, 7, 4, 167, 0, 4]
abbrev dktX5_rushNow_3 : List UInt8 := dkwX5_rushNow_3 ++ dktX5_rushNow_4
def dkwX5_rushNow_2 : List UInt8 := [182, 0, 165, 54, 4, 29, 16, 6, 112, 21, 4, 16, 6, 112, 100, 54, 5, 29, 16, 6, 108, 21, 4]
abbrev dktX5_rushNow_2 : List UInt8 := dkwX5_rushNow_2 ++ dktX5_rushNow_3
def dkwX5_rushNow_1 : List UInt8 := [180, 0, 13, 3, 46, 162, 0, 139, 42, 28, 7, 182, 0, 165, 62, 29, 2, 159, 0, 121, 42, 28, 6]
abbrev dktX5_rushNow_1 : List UInt8 := dkwX5_rushNow_1 ++ dktX5_rushNow_2
def dkwX5_rushNow_0 : List UInt8 := [42, 180, 0, 13, 3, 46, 154, 0, 6, 16, 253, 172, 42, 4, 182, 2, 23, 3, 60, 3, 61, 28, 42]
abbrev dktX5_rushNow_0 : List UInt8 := dkwX5_rushNow_0 ++ dktX5_rushNow_1
theorem dksX5_rushNow_0 : cX5_rushNow.data.toList.drop 0 = dktX5_rushNow_0 := by decide +kernel
theorem dksX5_rushNow_1 : cX5_rushNow.data.toList.drop 23 = dktX5_rushNow_1 := dk_seg dksX5_rushNow_0 23 rfl rfl
theorem dksX5_rushNow_2 : cX5_rushNow.data.toList.drop 46 = dktX5_rushNow_2 := dk_seg dksX5_rushNow_1 23 rfl rfl
theorem dksX5_rushNow_3 : cX5_rushNow.data.toList.drop 69 = dktX5_rushNow_3 := dk_seg dksX5_rushNow_2 23 rfl rfl
theorem dksX5_rushNow_4 : cX5_rushNow.data.toList.drop 93 = dktX5_rushNow_4 := dk_seg dksX5_rushNow_3 24 rfl rfl
theorem dksX5_rushNow_5 : cX5_rushNow.data.toList.drop 115 = dktX5_rushNow_5 := dk_seg dksX5_rushNow_4 22 rfl rfl
theorem dksX5_rushNow_6 : cX5_rushNow.data.toList.drop 138 = dktX5_rushNow_6 := dk_seg dksX5_rushNow_5 23 rfl rfl
theorem dksX5_rushNow_7 : cX5_rushNow.data.toList.drop 161 = dktX5_rushNow_7 := dk_seg dksX5_rushNow_6 23 rfl rfl
theorem dX5_rushNow_0 : decode cX5_rushNow 0 = .ok (.aload_n 0, 1) := dk_42 (dk_at dksX5_rushNow_0 0 rfl rfl)
theorem dX5_rushNow_1 : decode cX5_rushNow 1 = .ok (.getfield 13, 3) := dk_180 0 13 (dk_at dksX5_rushNow_0 1 rfl rfl)
theorem dX5_rushNow_4 : decode cX5_rushNow 4 = .ok (.iconst 0, 1) := dk_3 (dk_at dksX5_rushNow_0 4 rfl rfl)
theorem dX5_rushNow_5 : decode cX5_rushNow 5 = .ok (.iaload, 1) := dk_46 (dk_at dksX5_rushNow_0 5 rfl rfl)
theorem dX5_rushNow_6 : decode cX5_rushNow 6 = .ok (.ifCond .ne 6, 3) := dk_154 0 6 (dk_at dksX5_rushNow_0 6 rfl rfl)
theorem dX5_rushNow_9 : decode cX5_rushNow 9 = .ok (.bipush (-3), 2) := dk_16 253 (dk_at dksX5_rushNow_0 9 rfl rfl)
theorem dX5_rushNow_11 : decode cX5_rushNow 11 = .ok (.ireturn, 1) := dk_172 (dk_at dksX5_rushNow_0 11 rfl rfl)
theorem dX5_rushNow_12 : decode cX5_rushNow 12 = .ok (.aload_n 0, 1) := dk_42 (dk_at dksX5_rushNow_0 12 rfl rfl)
theorem dX5_rushNow_13 : decode cX5_rushNow 13 = .ok (.iconst 1, 1) := dk_4 (dk_at dksX5_rushNow_0 13 rfl rfl)
theorem dX5_rushNow_14 : decode cX5_rushNow 14 = .ok (.invokevirtual 535, 3) := dk_182 2 23 (dk_at dksX5_rushNow_0 14 rfl rfl)
theorem dX5_rushNow_17 : decode cX5_rushNow 17 = .ok (.iconst 0, 1) := dk_3 (dk_at dksX5_rushNow_0 17 rfl rfl)
theorem dX5_rushNow_18 : decode cX5_rushNow 18 = .ok (.istore_n 1, 1) := dk_60 (dk_at dksX5_rushNow_0 18 rfl rfl)
theorem dX5_rushNow_19 : decode cX5_rushNow 19 = .ok (.iconst 0, 1) := dk_3 (dk_at dksX5_rushNow_0 19 rfl rfl)
theorem dX5_rushNow_20 : decode cX5_rushNow 20 = .ok (.istore_n 2, 1) := dk_61 (dk_at dksX5_rushNow_0 20 rfl rfl)
theorem dX5_rushNow_21 : decode cX5_rushNow 21 = .ok (.iload_n 2, 1) := dk_28 (dk_at dksX5_rushNow_0 21 rfl rfl)
theorem dX5_rushNow_22 : decode cX5_rushNow 22 = .ok (.aload_n 0, 1) := dk_42 (dk_at dksX5_rushNow_0 22 rfl rfl)
theorem dX5_rushNow_23 : decode cX5_rushNow 23 = .ok (.getfield 13, 3) := dk_180 0 13 (dk_at dksX5_rushNow_1 0 rfl rfl)
theorem dX5_rushNow_26 : decode cX5_rushNow 26 = .ok (.iconst 0, 1) := dk_3 (dk_at dksX5_rushNow_1 3 rfl rfl)
theorem dX5_rushNow_27 : decode cX5_rushNow 27 = .ok (.iaload, 1) := dk_46 (dk_at dksX5_rushNow_1 4 rfl rfl)
theorem dX5_rushNow_28 : decode cX5_rushNow 28 = .ok (.if_icmp .ge 139, 3) := dk_162 0 139 (dk_at dksX5_rushNow_1 5 rfl rfl)
theorem dX5_rushNow_31 : decode cX5_rushNow 31 = .ok (.aload_n 0, 1) := dk_42 (dk_at dksX5_rushNow_1 8 rfl rfl)
theorem dX5_rushNow_32 : decode cX5_rushNow 32 = .ok (.iload_n 2, 1) := dk_28 (dk_at dksX5_rushNow_1 9 rfl rfl)
theorem dX5_rushNow_33 : decode cX5_rushNow 33 = .ok (.iconst 4, 1) := dk_7 (dk_at dksX5_rushNow_1 10 rfl rfl)
theorem dX5_rushNow_34 : decode cX5_rushNow 34 = .ok (.invokevirtual 165, 3) := dk_182 0 165 (dk_at dksX5_rushNow_1 11 rfl rfl)
theorem dX5_rushNow_37 : decode cX5_rushNow 37 = .ok (.istore_n 3, 1) := dk_62 (dk_at dksX5_rushNow_1 14 rfl rfl)
theorem dX5_rushNow_38 : decode cX5_rushNow 38 = .ok (.iload_n 3, 1) := dk_29 (dk_at dksX5_rushNow_1 15 rfl rfl)
theorem dX5_rushNow_39 : decode cX5_rushNow 39 = .ok (.iconst (-1), 1) := dk_2 (dk_at dksX5_rushNow_1 16 rfl rfl)
theorem dX5_rushNow_40 : decode cX5_rushNow 40 = .ok (.if_icmp .eq 121, 3) := dk_159 0 121 (dk_at dksX5_rushNow_1 17 rfl rfl)
theorem dX5_rushNow_43 : decode cX5_rushNow 43 = .ok (.aload_n 0, 1) := dk_42 (dk_at dksX5_rushNow_1 20 rfl rfl)
theorem dX5_rushNow_44 : decode cX5_rushNow 44 = .ok (.iload_n 2, 1) := dk_28 (dk_at dksX5_rushNow_1 21 rfl rfl)
theorem dX5_rushNow_45 : decode cX5_rushNow 45 = .ok (.iconst 3, 1) := dk_6 (dk_at dksX5_rushNow_1 22 rfl rfl)
theorem dX5_rushNow_46 : decode cX5_rushNow 46 = .ok (.invokevirtual 165, 3) := dk_182 0 165 (dk_at dksX5_rushNow_2 0 rfl rfl)
theorem dX5_rushNow_49 : decode cX5_rushNow 49 = .ok (.istore 4, 2) := dk_54 4 (dk_at dksX5_rushNow_2 3 rfl rfl)
theorem dX5_rushNow_51 : decode cX5_rushNow 51 = .ok (.iload_n 3, 1) := dk_29 (dk_at dksX5_rushNow_2 5 rfl rfl)
theorem dX5_rushNow_52 : decode cX5_rushNow 52 = .ok (.bipush 6, 2) := dk_16 6 (dk_at dksX5_rushNow_2 6 rfl rfl)
theorem dX5_rushNow_54 : decode cX5_rushNow 54 = .ok (.irem, 1) := dk_112 (dk_at dksX5_rushNow_2 8 rfl rfl)
theorem dX5_rushNow_55 : decode cX5_rushNow 55 = .ok (.iload 4, 2) := dk_21 4 (dk_at dksX5_rushNow_2 9 rfl rfl)
theorem dX5_rushNow_57 : decode cX5_rushNow 57 = .ok (.bipush 6, 2) := dk_16 6 (dk_at dksX5_rushNow_2 11 rfl rfl)
theorem dX5_rushNow_59 : decode cX5_rushNow 59 = .ok (.irem, 1) := dk_112 (dk_at dksX5_rushNow_2 13 rfl rfl)
theorem dX5_rushNow_60 : decode cX5_rushNow 60 = .ok (.isub, 1) := dk_100 (dk_at dksX5_rushNow_2 14 rfl rfl)
theorem dX5_rushNow_61 : decode cX5_rushNow 61 = .ok (.istore 5, 2) := dk_54 5 (dk_at dksX5_rushNow_2 15 rfl rfl)
theorem dX5_rushNow_63 : decode cX5_rushNow 63 = .ok (.iload_n 3, 1) := dk_29 (dk_at dksX5_rushNow_2 17 rfl rfl)
theorem dX5_rushNow_64 : decode cX5_rushNow 64 = .ok (.bipush 6, 2) := dk_16 6 (dk_at dksX5_rushNow_2 18 rfl rfl)
theorem dX5_rushNow_66 : decode cX5_rushNow 66 = .ok (.idiv, 1) := dk_108 (dk_at dksX5_rushNow_2 20 rfl rfl)
theorem dX5_rushNow_67 : decode cX5_rushNow 67 = .ok (.iload 4, 2) := dk_21 4 (dk_at dksX5_rushNow_2 21 rfl rfl)
theorem dX5_rushNow_69 : decode cX5_rushNow 69 = .ok (.bipush 6, 2) := dk_16 6 (dk_at dksX5_rushNow_3 0 rfl rfl)
theorem dX5_rushNow_71 : decode cX5_rushNow 71 = .ok (.idiv, 1) := dk_108 (dk_at dksX5_rushNow_3 2 rfl rfl)
theorem dX5_rushNow_72 : decode cX5_rushNow 72 = .ok (.isub, 1) := dk_100 (dk_at dksX5_rushNow_3 3 rfl rfl)
theorem dX5_rushNow_73 : decode cX5_rushNow 73 = .ok (.istore 6, 2) := dk_54 6 (dk_at dksX5_rushNow_3 4 rfl rfl)
theorem dX5_rushNow_75 : decode cX5_rushNow 75 = .ok (.iload 5, 2) := dk_21 5 (dk_at dksX5_rushNow_3 6 rfl rfl)
theorem dX5_rushNow_77 : decode cX5_rushNow 77 = .ok (.ifCond .eq 28, 3) := dk_153 0 28 (dk_at dksX5_rushNow_3 8 rfl rfl)
theorem dX5_rushNow_80 : decode cX5_rushNow 80 = .ok (.aload_n 0, 1) := dk_42 (dk_at dksX5_rushNow_3 11 rfl rfl)
theorem dX5_rushNow_81 : decode cX5_rushNow 81 = .ok (.iload_n 2, 1) := dk_28 (dk_at dksX5_rushNow_3 12 rfl rfl)
theorem dX5_rushNow_82 : decode cX5_rushNow 82 = .ok (.iload 4, 2) := dk_21 4 (dk_at dksX5_rushNow_3 13 rfl rfl)
theorem dX5_rushNow_84 : decode cX5_rushNow 84 = .ok (.iload 5, 2) := dk_21 5 (dk_at dksX5_rushNow_3 15 rfl rfl)
theorem dX5_rushNow_86 : decode cX5_rushNow 86 = .ok (.ifCond .le 7, 3) := dk_158 0 7 (dk_at dksX5_rushNow_3 17 rfl rfl)
theorem dX5_rushNow_89 : decode cX5_rushNow 89 = .ok (.iconst 1, 1) := dk_4 (dk_at dksX5_rushNow_3 20 rfl rfl)
theorem dX5_rushNow_90 : decode cX5_rushNow 90 = .ok (.goto 4, 3) := dk_167 0 4 (dk_at dksX5_rushNow_3 21 rfl rfl)
theorem dX5_rushNow_93 : decode cX5_rushNow 93 = .ok (.iconst (-1), 1) := dk_2 (dk_at dksX5_rushNow_4 0 rfl rfl)
theorem dX5_rushNow_94 : decode cX5_rushNow 94 = .ok (.iadd, 1) := dk_96 (dk_at dksX5_rushNow_4 1 rfl rfl)
theorem dX5_rushNow_95 : decode cX5_rushNow 95 = .ok (.invokevirtual 544, 3) := dk_182 2 32 (dk_at dksX5_rushNow_4 2 rfl rfl)
theorem dX5_rushNow_98 : decode cX5_rushNow 98 = .ok (.ifCond .eq 7, 3) := dk_153 0 7 (dk_at dksX5_rushNow_4 5 rfl rfl)
theorem dX5_rushNow_101 : decode cX5_rushNow 101 = .ok (.iconst 1, 1) := dk_4 (dk_at dksX5_rushNow_4 8 rfl rfl)
theorem dX5_rushNow_102 : decode cX5_rushNow 102 = .ok (.goto 4, 3) := dk_167 0 4 (dk_at dksX5_rushNow_4 9 rfl rfl)
theorem dX5_rushNow_105 : decode cX5_rushNow 105 = .ok (.iconst 0, 1) := dk_3 (dk_at dksX5_rushNow_4 12 rfl rfl)
theorem dX5_rushNow_106 : decode cX5_rushNow 106 = .ok (.istore 7, 2) := dk_54 7 (dk_at dksX5_rushNow_4 13 rfl rfl)
theorem dX5_rushNow_108 : decode cX5_rushNow 108 = .ok (.iload 7, 2) := dk_21 7 (dk_at dksX5_rushNow_4 15 rfl rfl)
theorem dX5_rushNow_110 : decode cX5_rushNow 110 = .ok (.ifCond .ne 31, 3) := dk_154 0 31 (dk_at dksX5_rushNow_4 17 rfl rfl)
theorem dX5_rushNow_113 : decode cX5_rushNow 113 = .ok (.iload 6, 2) := dk_21 6 (dk_at dksX5_rushNow_4 20 rfl rfl)
theorem dX5_rushNow_115 : decode cX5_rushNow 115 = .ok (.ifCond .eq 30, 3) := dk_153 0 30 (dk_at dksX5_rushNow_5 0 rfl rfl)
theorem dX5_rushNow_118 : decode cX5_rushNow 118 = .ok (.aload_n 0, 1) := dk_42 (dk_at dksX5_rushNow_5 3 rfl rfl)
theorem dX5_rushNow_119 : decode cX5_rushNow 119 = .ok (.iload_n 2, 1) := dk_28 (dk_at dksX5_rushNow_5 4 rfl rfl)
theorem dX5_rushNow_120 : decode cX5_rushNow 120 = .ok (.iload 4, 2) := dk_21 4 (dk_at dksX5_rushNow_5 5 rfl rfl)
theorem dX5_rushNow_122 : decode cX5_rushNow 122 = .ok (.iload 6, 2) := dk_21 6 (dk_at dksX5_rushNow_5 7 rfl rfl)
theorem dX5_rushNow_124 : decode cX5_rushNow 124 = .ok (.ifCond .le 8, 3) := dk_158 0 8 (dk_at dksX5_rushNow_5 9 rfl rfl)
theorem dX5_rushNow_127 : decode cX5_rushNow 127 = .ok (.bipush 6, 2) := dk_16 6 (dk_at dksX5_rushNow_5 12 rfl rfl)
theorem dX5_rushNow_129 : decode cX5_rushNow 129 = .ok (.goto 5, 3) := dk_167 0 5 (dk_at dksX5_rushNow_5 14 rfl rfl)
theorem dX5_rushNow_132 : decode cX5_rushNow 132 = .ok (.bipush (-6), 2) := dk_16 250 (dk_at dksX5_rushNow_5 17 rfl rfl)
theorem dX5_rushNow_134 : decode cX5_rushNow 134 = .ok (.iadd, 1) := dk_96 (dk_at dksX5_rushNow_5 19 rfl rfl)
theorem dX5_rushNow_135 : decode cX5_rushNow 135 = .ok (.invokevirtual 544, 3) := dk_182 2 32 (dk_at dksX5_rushNow_5 20 rfl rfl)
theorem dX5_rushNow_138 : decode cX5_rushNow 138 = .ok (.ifCond .eq 7, 3) := dk_153 0 7 (dk_at dksX5_rushNow_6 0 rfl rfl)
theorem dX5_rushNow_141 : decode cX5_rushNow 141 = .ok (.iconst 1, 1) := dk_4 (dk_at dksX5_rushNow_6 3 rfl rfl)
theorem dX5_rushNow_142 : decode cX5_rushNow 142 = .ok (.goto 4, 3) := dk_167 0 4 (dk_at dksX5_rushNow_6 4 rfl rfl)
theorem dX5_rushNow_145 : decode cX5_rushNow 145 = .ok (.iconst 0, 1) := dk_3 (dk_at dksX5_rushNow_6 7 rfl rfl)
theorem dX5_rushNow_146 : decode cX5_rushNow 146 = .ok (.istore 7, 2) := dk_54 7 (dk_at dksX5_rushNow_6 8 rfl rfl)
theorem dX5_rushNow_148 : decode cX5_rushNow 148 = .ok (.iload_n 1, 1) := dk_27 (dk_at dksX5_rushNow_6 10 rfl rfl)
theorem dX5_rushNow_149 : decode cX5_rushNow 149 = .ok (.iload 7, 2) := dk_21 7 (dk_at dksX5_rushNow_6 11 rfl rfl)
theorem dX5_rushNow_151 : decode cX5_rushNow 151 = .ok (.ifCond .eq 7, 3) := dk_153 0 7 (dk_at dksX5_rushNow_6 13 rfl rfl)
theorem dX5_rushNow_154 : decode cX5_rushNow 154 = .ok (.iconst 1, 1) := dk_4 (dk_at dksX5_rushNow_6 16 rfl rfl)
theorem dX5_rushNow_155 : decode cX5_rushNow 155 = .ok (.goto 4, 3) := dk_167 0 4 (dk_at dksX5_rushNow_6 17 rfl rfl)
theorem dX5_rushNow_158 : decode cX5_rushNow 158 = .ok (.iconst 0, 1) := dk_3 (dk_at dksX5_rushNow_6 20 rfl rfl)
theorem dX5_rushNow_159 : decode cX5_rushNow 159 = .ok (.iadd, 1) := dk_96 (dk_at dksX5_rushNow_6 21 rfl rfl)
theorem dX5_rushNow_160 : decode cX5_rushNow 160 = .ok (.istore_n 1, 1) := dk_60 (dk_at dksX5_rushNow_6 22 rfl rfl)
theorem dX5_rushNow_161 : decode cX5_rushNow 161 = .ok (.iinc 2 1, 3) := dk_132 2 1 (dk_at dksX5_rushNow_7 0 rfl rfl)
theorem dX5_rushNow_164 : decode cX5_rushNow 164 = .ok (.goto (-143), 3) := dk_167 255 113 (dk_at dksX5_rushNow_7 3 rfl rfl)
theorem dX5_rushNow_167 : decode cX5_rushNow 167 = .ok (.iload_n 1, 1) := dk_27 (dk_at dksX5_rushNow_7 6 rfl rfl)
theorem dX5_rushNow_168 : decode cX5_rushNow 168 = .ok (.ireturn, 1) := dk_172 (dk_at dksX5_rushNow_7 7 rfl rfl)
abbrev cX5_steps : ByteArray := prog_22_method_111_code
def yX5_steps : MethodName := ⟨RX5, "steps", "(II)Z"⟩
def dkwX5_steps_1 : List UInt8 := [182, 0, 169, 4, 172]
abbrev dktX5_steps_1 : List UInt8 := dkwX5_steps_1 ++ []
def dkwX5_steps_0 : List UInt8 := [42, 28, 182, 0, 193, 153, 0, 12, 42, 27, 28, 182, 1, 174, 153, 0, 5, 3, 172, 42, 27, 28]
abbrev dktX5_steps_0 : List UInt8 := dkwX5_steps_0 ++ dktX5_steps_1
theorem dksX5_steps_0 : cX5_steps.data.toList.drop 0 = dktX5_steps_0 := by decide +kernel
theorem dksX5_steps_1 : cX5_steps.data.toList.drop 22 = dktX5_steps_1 := dk_seg dksX5_steps_0 22 rfl rfl
theorem dX5_steps_0 : decode cX5_steps 0 = .ok (.aload_n 0, 1) := dk_42 (dk_at dksX5_steps_0 0 rfl rfl)
theorem dX5_steps_1 : decode cX5_steps 1 = .ok (.iload_n 2, 1) := dk_28 (dk_at dksX5_steps_0 1 rfl rfl)
theorem dX5_steps_2 : decode cX5_steps 2 = .ok (.invokevirtual 193, 3) := dk_182 0 193 (dk_at dksX5_steps_0 2 rfl rfl)
theorem dX5_steps_5 : decode cX5_steps 5 = .ok (.ifCond .eq 12, 3) := dk_153 0 12 (dk_at dksX5_steps_0 5 rfl rfl)
theorem dX5_steps_8 : decode cX5_steps 8 = .ok (.aload_n 0, 1) := dk_42 (dk_at dksX5_steps_0 8 rfl rfl)
theorem dX5_steps_9 : decode cX5_steps 9 = .ok (.iload_n 1, 1) := dk_27 (dk_at dksX5_steps_0 9 rfl rfl)
theorem dX5_steps_10 : decode cX5_steps 10 = .ok (.iload_n 2, 1) := dk_28 (dk_at dksX5_steps_0 10 rfl rfl)
theorem dX5_steps_11 : decode cX5_steps 11 = .ok (.invokevirtual 430, 3) := dk_182 1 174 (dk_at dksX5_steps_0 11 rfl rfl)
theorem dX5_steps_14 : decode cX5_steps 14 = .ok (.ifCond .eq 5, 3) := dk_153 0 5 (dk_at dksX5_steps_0 14 rfl rfl)
theorem dX5_steps_17 : decode cX5_steps 17 = .ok (.iconst 0, 1) := dk_3 (dk_at dksX5_steps_0 17 rfl rfl)
theorem dX5_steps_18 : decode cX5_steps 18 = .ok (.ireturn, 1) := dk_172 (dk_at dksX5_steps_0 18 rfl rfl)
theorem dX5_steps_19 : decode cX5_steps 19 = .ok (.aload_n 0, 1) := dk_42 (dk_at dksX5_steps_0 19 rfl rfl)
theorem dX5_steps_20 : decode cX5_steps 20 = .ok (.iload_n 1, 1) := dk_27 (dk_at dksX5_steps_0 20 rfl rfl)
theorem dX5_steps_21 : decode cX5_steps 21 = .ok (.iload_n 2, 1) := dk_28 (dk_at dksX5_steps_0 21 rfl rfl)
theorem dX5_steps_22 : decode cX5_steps 22 = .ok (.invokevirtual 169, 3) := dk_182 0 169 (dk_at dksX5_steps_1 0 rfl rfl)
theorem dX5_steps_25 : decode cX5_steps 25 = .ok (.iconst 1, 1) := dk_4 (dk_at dksX5_steps_1 3 rfl rfl)
theorem dX5_steps_26 : decode cX5_steps 26 = .ok (.ireturn, 1) := dk_172 (dk_at dksX5_steps_1 4 rfl rfl)
abbrev cX5_orders : ByteArray := prog_22_method_118_code
def yX5_orders : MethodName := ⟨RX5, "orders", "()I"⟩
def dkwX5_orders_10 : List UInt8 := [182, 0, 155, 172]
abbrev dktX5_orders_10 : List UInt8 := dkwX5_orders_10 ++ []
def dkwX5_orders_9 : List UInt8 := [42, 16, 253, 182, 0, 155, 172, 132, 3, 1, 167, 255, 209, 132, 2, 1, 167, 255, 193, 42, 42, 180, 2, 54]
abbrev dktX5_orders_9 : List UInt8 := dkwX5_orders_9 ++ dktX5_orders_10
def dkwX5_orders_8 : List UInt8 := [162, 0, 37, 42, 16, 8, 28, 104, 182, 2, 67, 156, 0, 20, 42, 27, 182, 2, 70, 42, 28, 181, 0, 143]
abbrev dktX5_orders_8 : List UInt8 := dkwX5_orders_8 ++ dktX5_orders_9
def dkwX5_orders_7 : List UInt8 := [42, 180, 1, 107, 162, 0, 61, 3, 62, 29, 42, 180, 0, 140, 16, 8, 28, 104, 16, 7, 96, 46]
abbrev dktX5_orders_7 : List UInt8 := dkwX5_orders_7 ++ dktX5_orders_8
def dkwX5_orders_6 : List UInt8 := [7, 182, 0, 165, 79, 132, 2, 1, 167, 255, 235, 42, 3, 181, 2, 54, 42, 2, 181, 2, 57, 3, 61, 28]
abbrev dktX5_orders_6 : List UInt8 := dkwX5_orders_6 ++ dktX5_orders_7
def dkwX5_orders_5 : List UInt8 := [28, 46, 79, 132, 2, 1, 167, 255, 235, 3, 61, 28, 16, 6, 162, 0, 21, 42, 180, 0, 32, 28, 42, 28]
abbrev dktX5_orders_5 : List UInt8 := dkwX5_orders_5 ++ dktX5_orders_6
def dkwX5_orders_4 : List UInt8 := [79, 132, 2, 1, 167, 255, 235, 3, 61, 28, 16, 16, 162, 0, 21, 42, 180, 0, 35, 28, 42, 180, 0, 26]
abbrev dktX5_orders_4 : List UInt8 := dkwX5_orders_4 ++ dktX5_orders_5
def dkwX5_orders_3 : List UInt8 := [16, 102, 182, 0, 176, 3, 61, 28, 16, 108, 162, 0, 21, 42, 180, 0, 29, 28, 42, 180, 0, 23, 28, 46]
abbrev dktX5_orders_3 : List UInt8 := dkwX5_orders_3 ++ dktX5_orders_4
def dkwX5_orders_2 : List UInt8 := [182, 1, 121, 42, 180, 0, 239, 153, 0, 10, 42, 16, 250, 182, 0, 155, 172, 42, 180, 0, 173, 60, 42]
abbrev dktX5_orders_2 : List UInt8 := dkwX5_orders_2 ++ dktX5_orders_3
def dkwX5_orders_1 : List UInt8 := [154, 0, 23, 42, 16, 59, 182, 1, 49, 153, 0, 14, 42, 182, 0, 243, 42, 182, 2, 64, 167, 255, 232, 42]
abbrev dktX5_orders_1 : List UInt8 := dkwX5_orders_1 ++ dktX5_orders_2
def dkwX5_orders_0 : List UInt8 := [42, 3, 181, 0, 149, 42, 2, 181, 0, 143, 42, 4, 182, 1, 115, 42, 182, 2, 64, 42, 180, 0, 239]
abbrev dktX5_orders_0 : List UInt8 := dkwX5_orders_0 ++ dktX5_orders_1
theorem dksX5_orders_0 : cX5_orders.data.toList.drop 0 = dktX5_orders_0 := by decide +kernel
theorem dksX5_orders_1 : cX5_orders.data.toList.drop 23 = dktX5_orders_1 := dk_seg dksX5_orders_0 23 rfl rfl
theorem dksX5_orders_2 : cX5_orders.data.toList.drop 47 = dktX5_orders_2 := dk_seg dksX5_orders_1 24 rfl rfl
theorem dksX5_orders_3 : cX5_orders.data.toList.drop 70 = dktX5_orders_3 := dk_seg dksX5_orders_2 23 rfl rfl
theorem dksX5_orders_4 : cX5_orders.data.toList.drop 94 = dktX5_orders_4 := dk_seg dksX5_orders_3 24 rfl rfl
theorem dksX5_orders_5 : cX5_orders.data.toList.drop 118 = dktX5_orders_5 := dk_seg dksX5_orders_4 24 rfl rfl
theorem dksX5_orders_6 : cX5_orders.data.toList.drop 142 = dktX5_orders_6 := dk_seg dksX5_orders_5 24 rfl rfl
theorem dksX5_orders_7 : cX5_orders.data.toList.drop 166 = dktX5_orders_7 := dk_seg dksX5_orders_6 24 rfl rfl
theorem dksX5_orders_8 : cX5_orders.data.toList.drop 188 = dktX5_orders_8 := dk_seg dksX5_orders_7 22 rfl rfl
theorem dksX5_orders_9 : cX5_orders.data.toList.drop 212 = dktX5_orders_9 := dk_seg dksX5_orders_8 24 rfl rfl
theorem dksX5_orders_10 : cX5_orders.data.toList.drop 236 = dktX5_orders_10 := dk_seg dksX5_orders_9 24 rfl rfl
theorem dX5_orders_0 : decode cX5_orders 0 = .ok (.aload_n 0, 1) := dk_42 (dk_at dksX5_orders_0 0 rfl rfl)
theorem dX5_orders_1 : decode cX5_orders 1 = .ok (.iconst 0, 1) := dk_3 (dk_at dksX5_orders_0 1 rfl rfl)
theorem dX5_orders_2 : decode cX5_orders 2 = .ok (.putfield 149, 3) := dk_181 0 149 (dk_at dksX5_orders_0 2 rfl rfl)
theorem dX5_orders_5 : decode cX5_orders 5 = .ok (.aload_n 0, 1) := dk_42 (dk_at dksX5_orders_0 5 rfl rfl)
theorem dX5_orders_6 : decode cX5_orders 6 = .ok (.iconst (-1), 1) := dk_2 (dk_at dksX5_orders_0 6 rfl rfl)
theorem dX5_orders_7 : decode cX5_orders 7 = .ok (.putfield 143, 3) := dk_181 0 143 (dk_at dksX5_orders_0 7 rfl rfl)
theorem dX5_orders_10 : decode cX5_orders 10 = .ok (.aload_n 0, 1) := dk_42 (dk_at dksX5_orders_0 10 rfl rfl)
theorem dX5_orders_11 : decode cX5_orders 11 = .ok (.iconst 1, 1) := dk_4 (dk_at dksX5_orders_0 11 rfl rfl)
theorem dX5_orders_12 : decode cX5_orders 12 = .ok (.invokevirtual 371, 3) := dk_182 1 115 (dk_at dksX5_orders_0 12 rfl rfl)
theorem dX5_orders_15 : decode cX5_orders 15 = .ok (.aload_n 0, 1) := dk_42 (dk_at dksX5_orders_0 15 rfl rfl)
theorem dX5_orders_16 : decode cX5_orders 16 = .ok (.invokevirtual 576, 3) := dk_182 2 64 (dk_at dksX5_orders_0 16 rfl rfl)
theorem dX5_orders_19 : decode cX5_orders 19 = .ok (.aload_n 0, 1) := dk_42 (dk_at dksX5_orders_0 19 rfl rfl)
theorem dX5_orders_20 : decode cX5_orders 20 = .ok (.getfield 239, 3) := dk_180 0 239 (dk_at dksX5_orders_0 20 rfl rfl)
theorem dX5_orders_23 : decode cX5_orders 23 = .ok (.ifCond .ne 23, 3) := dk_154 0 23 (dk_at dksX5_orders_1 0 rfl rfl)
theorem dX5_orders_26 : decode cX5_orders 26 = .ok (.aload_n 0, 1) := dk_42 (dk_at dksX5_orders_1 3 rfl rfl)
theorem dX5_orders_27 : decode cX5_orders 27 = .ok (.bipush 59, 2) := dk_16 59 (dk_at dksX5_orders_1 4 rfl rfl)
theorem dX5_orders_29 : decode cX5_orders 29 = .ok (.invokevirtual 305, 3) := dk_182 1 49 (dk_at dksX5_orders_1 6 rfl rfl)
theorem dX5_orders_32 : decode cX5_orders 32 = .ok (.ifCond .eq 14, 3) := dk_153 0 14 (dk_at dksX5_orders_1 9 rfl rfl)
theorem dX5_orders_35 : decode cX5_orders 35 = .ok (.aload_n 0, 1) := dk_42 (dk_at dksX5_orders_1 12 rfl rfl)
theorem dX5_orders_36 : decode cX5_orders 36 = .ok (.invokevirtual 243, 3) := dk_182 0 243 (dk_at dksX5_orders_1 13 rfl rfl)
theorem dX5_orders_39 : decode cX5_orders 39 = .ok (.aload_n 0, 1) := dk_42 (dk_at dksX5_orders_1 16 rfl rfl)
theorem dX5_orders_40 : decode cX5_orders 40 = .ok (.invokevirtual 576, 3) := dk_182 2 64 (dk_at dksX5_orders_1 17 rfl rfl)
theorem dX5_orders_43 : decode cX5_orders 43 = .ok (.goto (-24), 3) := dk_167 255 232 (dk_at dksX5_orders_1 20 rfl rfl)
theorem dX5_orders_46 : decode cX5_orders 46 = .ok (.aload_n 0, 1) := dk_42 (dk_at dksX5_orders_1 23 rfl rfl)
theorem dX5_orders_47 : decode cX5_orders 47 = .ok (.invokevirtual 377, 3) := dk_182 1 121 (dk_at dksX5_orders_2 0 rfl rfl)
theorem dX5_orders_50 : decode cX5_orders 50 = .ok (.aload_n 0, 1) := dk_42 (dk_at dksX5_orders_2 3 rfl rfl)
theorem dX5_orders_51 : decode cX5_orders 51 = .ok (.getfield 239, 3) := dk_180 0 239 (dk_at dksX5_orders_2 4 rfl rfl)
theorem dX5_orders_54 : decode cX5_orders 54 = .ok (.ifCond .eq 10, 3) := dk_153 0 10 (dk_at dksX5_orders_2 7 rfl rfl)
theorem dX5_orders_57 : decode cX5_orders 57 = .ok (.aload_n 0, 1) := dk_42 (dk_at dksX5_orders_2 10 rfl rfl)
theorem dX5_orders_58 : decode cX5_orders 58 = .ok (.bipush (-6), 2) := dk_16 250 (dk_at dksX5_orders_2 11 rfl rfl)
theorem dX5_orders_60 : decode cX5_orders 60 = .ok (.invokevirtual 155, 3) := dk_182 0 155 (dk_at dksX5_orders_2 13 rfl rfl)
theorem dX5_orders_63 : decode cX5_orders 63 = .ok (.ireturn, 1) := dk_172 (dk_at dksX5_orders_2 16 rfl rfl)
theorem dX5_orders_64 : decode cX5_orders 64 = .ok (.aload_n 0, 1) := dk_42 (dk_at dksX5_orders_2 17 rfl rfl)
theorem dX5_orders_65 : decode cX5_orders 65 = .ok (.getfield 173, 3) := dk_180 0 173 (dk_at dksX5_orders_2 18 rfl rfl)
theorem dX5_orders_68 : decode cX5_orders 68 = .ok (.istore_n 1, 1) := dk_60 (dk_at dksX5_orders_2 21 rfl rfl)
theorem dX5_orders_69 : decode cX5_orders 69 = .ok (.aload_n 0, 1) := dk_42 (dk_at dksX5_orders_2 22 rfl rfl)
theorem dX5_orders_70 : decode cX5_orders 70 = .ok (.bipush 102, 2) := dk_16 102 (dk_at dksX5_orders_3 0 rfl rfl)
theorem dX5_orders_72 : decode cX5_orders 72 = .ok (.invokevirtual 176, 3) := dk_182 0 176 (dk_at dksX5_orders_3 2 rfl rfl)
theorem dX5_orders_75 : decode cX5_orders 75 = .ok (.iconst 0, 1) := dk_3 (dk_at dksX5_orders_3 5 rfl rfl)
theorem dX5_orders_76 : decode cX5_orders 76 = .ok (.istore_n 2, 1) := dk_61 (dk_at dksX5_orders_3 6 rfl rfl)
theorem dX5_orders_77 : decode cX5_orders 77 = .ok (.iload_n 2, 1) := dk_28 (dk_at dksX5_orders_3 7 rfl rfl)
theorem dX5_orders_78 : decode cX5_orders 78 = .ok (.bipush 108, 2) := dk_16 108 (dk_at dksX5_orders_3 8 rfl rfl)
theorem dX5_orders_80 : decode cX5_orders 80 = .ok (.if_icmp .ge 21, 3) := dk_162 0 21 (dk_at dksX5_orders_3 10 rfl rfl)
theorem dX5_orders_83 : decode cX5_orders 83 = .ok (.aload_n 0, 1) := dk_42 (dk_at dksX5_orders_3 13 rfl rfl)
theorem dX5_orders_84 : decode cX5_orders 84 = .ok (.getfield 29, 3) := dk_180 0 29 (dk_at dksX5_orders_3 14 rfl rfl)
theorem dX5_orders_87 : decode cX5_orders 87 = .ok (.iload_n 2, 1) := dk_28 (dk_at dksX5_orders_3 17 rfl rfl)
theorem dX5_orders_88 : decode cX5_orders 88 = .ok (.aload_n 0, 1) := dk_42 (dk_at dksX5_orders_3 18 rfl rfl)
theorem dX5_orders_89 : decode cX5_orders 89 = .ok (.getfield 23, 3) := dk_180 0 23 (dk_at dksX5_orders_3 19 rfl rfl)
theorem dX5_orders_92 : decode cX5_orders 92 = .ok (.iload_n 2, 1) := dk_28 (dk_at dksX5_orders_3 22 rfl rfl)
theorem dX5_orders_93 : decode cX5_orders 93 = .ok (.iaload, 1) := dk_46 (dk_at dksX5_orders_3 23 rfl rfl)
theorem dX5_orders_94 : decode cX5_orders 94 = .ok (.iastore, 1) := dk_79 (dk_at dksX5_orders_4 0 rfl rfl)
theorem dX5_orders_95 : decode cX5_orders 95 = .ok (.iinc 2 1, 3) := dk_132 2 1 (dk_at dksX5_orders_4 1 rfl rfl)
theorem dX5_orders_98 : decode cX5_orders 98 = .ok (.goto (-21), 3) := dk_167 255 235 (dk_at dksX5_orders_4 4 rfl rfl)
theorem dX5_orders_101 : decode cX5_orders 101 = .ok (.iconst 0, 1) := dk_3 (dk_at dksX5_orders_4 7 rfl rfl)
theorem dX5_orders_102 : decode cX5_orders 102 = .ok (.istore_n 2, 1) := dk_61 (dk_at dksX5_orders_4 8 rfl rfl)
theorem dX5_orders_103 : decode cX5_orders 103 = .ok (.iload_n 2, 1) := dk_28 (dk_at dksX5_orders_4 9 rfl rfl)
theorem dX5_orders_104 : decode cX5_orders 104 = .ok (.bipush 16, 2) := dk_16 16 (dk_at dksX5_orders_4 10 rfl rfl)
theorem dX5_orders_106 : decode cX5_orders 106 = .ok (.if_icmp .ge 21, 3) := dk_162 0 21 (dk_at dksX5_orders_4 12 rfl rfl)
theorem dX5_orders_109 : decode cX5_orders 109 = .ok (.aload_n 0, 1) := dk_42 (dk_at dksX5_orders_4 15 rfl rfl)
theorem dX5_orders_110 : decode cX5_orders 110 = .ok (.getfield 35, 3) := dk_180 0 35 (dk_at dksX5_orders_4 16 rfl rfl)
theorem dX5_orders_113 : decode cX5_orders 113 = .ok (.iload_n 2, 1) := dk_28 (dk_at dksX5_orders_4 19 rfl rfl)
theorem dX5_orders_114 : decode cX5_orders 114 = .ok (.aload_n 0, 1) := dk_42 (dk_at dksX5_orders_4 20 rfl rfl)
theorem dX5_orders_115 : decode cX5_orders 115 = .ok (.getfield 26, 3) := dk_180 0 26 (dk_at dksX5_orders_4 21 rfl rfl)
theorem dX5_orders_118 : decode cX5_orders 118 = .ok (.iload_n 2, 1) := dk_28 (dk_at dksX5_orders_5 0 rfl rfl)
theorem dX5_orders_119 : decode cX5_orders 119 = .ok (.iaload, 1) := dk_46 (dk_at dksX5_orders_5 1 rfl rfl)
theorem dX5_orders_120 : decode cX5_orders 120 = .ok (.iastore, 1) := dk_79 (dk_at dksX5_orders_5 2 rfl rfl)
theorem dX5_orders_121 : decode cX5_orders 121 = .ok (.iinc 2 1, 3) := dk_132 2 1 (dk_at dksX5_orders_5 3 rfl rfl)
theorem dX5_orders_124 : decode cX5_orders 124 = .ok (.goto (-21), 3) := dk_167 255 235 (dk_at dksX5_orders_5 6 rfl rfl)
theorem dX5_orders_127 : decode cX5_orders 127 = .ok (.iconst 0, 1) := dk_3 (dk_at dksX5_orders_5 9 rfl rfl)
theorem dX5_orders_128 : decode cX5_orders 128 = .ok (.istore_n 2, 1) := dk_61 (dk_at dksX5_orders_5 10 rfl rfl)
theorem dX5_orders_129 : decode cX5_orders 129 = .ok (.iload_n 2, 1) := dk_28 (dk_at dksX5_orders_5 11 rfl rfl)
theorem dX5_orders_130 : decode cX5_orders 130 = .ok (.bipush 6, 2) := dk_16 6 (dk_at dksX5_orders_5 12 rfl rfl)
theorem dX5_orders_132 : decode cX5_orders 132 = .ok (.if_icmp .ge 21, 3) := dk_162 0 21 (dk_at dksX5_orders_5 14 rfl rfl)
theorem dX5_orders_135 : decode cX5_orders 135 = .ok (.aload_n 0, 1) := dk_42 (dk_at dksX5_orders_5 17 rfl rfl)
theorem dX5_orders_136 : decode cX5_orders 136 = .ok (.getfield 32, 3) := dk_180 0 32 (dk_at dksX5_orders_5 18 rfl rfl)
theorem dX5_orders_139 : decode cX5_orders 139 = .ok (.iload_n 2, 1) := dk_28 (dk_at dksX5_orders_5 21 rfl rfl)
theorem dX5_orders_140 : decode cX5_orders 140 = .ok (.aload_n 0, 1) := dk_42 (dk_at dksX5_orders_5 22 rfl rfl)
theorem dX5_orders_141 : decode cX5_orders 141 = .ok (.iload_n 2, 1) := dk_28 (dk_at dksX5_orders_5 23 rfl rfl)
theorem dX5_orders_142 : decode cX5_orders 142 = .ok (.iconst 4, 1) := dk_7 (dk_at dksX5_orders_6 0 rfl rfl)
theorem dX5_orders_143 : decode cX5_orders 143 = .ok (.invokevirtual 165, 3) := dk_182 0 165 (dk_at dksX5_orders_6 1 rfl rfl)
theorem dX5_orders_146 : decode cX5_orders 146 = .ok (.iastore, 1) := dk_79 (dk_at dksX5_orders_6 4 rfl rfl)
theorem dX5_orders_147 : decode cX5_orders 147 = .ok (.iinc 2 1, 3) := dk_132 2 1 (dk_at dksX5_orders_6 5 rfl rfl)
theorem dX5_orders_150 : decode cX5_orders 150 = .ok (.goto (-21), 3) := dk_167 255 235 (dk_at dksX5_orders_6 8 rfl rfl)
theorem dX5_orders_153 : decode cX5_orders 153 = .ok (.aload_n 0, 1) := dk_42 (dk_at dksX5_orders_6 11 rfl rfl)
theorem dX5_orders_154 : decode cX5_orders 154 = .ok (.iconst 0, 1) := dk_3 (dk_at dksX5_orders_6 12 rfl rfl)
theorem dX5_orders_155 : decode cX5_orders 155 = .ok (.putfield 566, 3) := dk_181 2 54 (dk_at dksX5_orders_6 13 rfl rfl)
theorem dX5_orders_158 : decode cX5_orders 158 = .ok (.aload_n 0, 1) := dk_42 (dk_at dksX5_orders_6 16 rfl rfl)
theorem dX5_orders_159 : decode cX5_orders 159 = .ok (.iconst (-1), 1) := dk_2 (dk_at dksX5_orders_6 17 rfl rfl)
theorem dX5_orders_160 : decode cX5_orders 160 = .ok (.putfield 569, 3) := dk_181 2 57 (dk_at dksX5_orders_6 18 rfl rfl)
theorem dX5_orders_163 : decode cX5_orders 163 = .ok (.iconst 0, 1) := dk_3 (dk_at dksX5_orders_6 21 rfl rfl)
theorem dX5_orders_164 : decode cX5_orders 164 = .ok (.istore_n 2, 1) := dk_61 (dk_at dksX5_orders_6 22 rfl rfl)
theorem dX5_orders_165 : decode cX5_orders 165 = .ok (.iload_n 2, 1) := dk_28 (dk_at dksX5_orders_6 23 rfl rfl)
theorem dX5_orders_166 : decode cX5_orders 166 = .ok (.aload_n 0, 1) := dk_42 (dk_at dksX5_orders_7 0 rfl rfl)
theorem dX5_orders_167 : decode cX5_orders 167 = .ok (.getfield 363, 3) := dk_180 1 107 (dk_at dksX5_orders_7 1 rfl rfl)
theorem dX5_orders_170 : decode cX5_orders 170 = .ok (.if_icmp .ge 61, 3) := dk_162 0 61 (dk_at dksX5_orders_7 4 rfl rfl)
theorem dX5_orders_173 : decode cX5_orders 173 = .ok (.iconst 0, 1) := dk_3 (dk_at dksX5_orders_7 7 rfl rfl)
theorem dX5_orders_174 : decode cX5_orders 174 = .ok (.istore_n 3, 1) := dk_62 (dk_at dksX5_orders_7 8 rfl rfl)
theorem dX5_orders_175 : decode cX5_orders 175 = .ok (.iload_n 3, 1) := dk_29 (dk_at dksX5_orders_7 9 rfl rfl)
theorem dX5_orders_176 : decode cX5_orders 176 = .ok (.aload_n 0, 1) := dk_42 (dk_at dksX5_orders_7 10 rfl rfl)
theorem dX5_orders_177 : decode cX5_orders 177 = .ok (.getfield 140, 3) := dk_180 0 140 (dk_at dksX5_orders_7 11 rfl rfl)
theorem dX5_orders_180 : decode cX5_orders 180 = .ok (.bipush 8, 2) := dk_16 8 (dk_at dksX5_orders_7 14 rfl rfl)
theorem dX5_orders_182 : decode cX5_orders 182 = .ok (.iload_n 2, 1) := dk_28 (dk_at dksX5_orders_7 16 rfl rfl)
theorem dX5_orders_183 : decode cX5_orders 183 = .ok (.imul, 1) := dk_104 (dk_at dksX5_orders_7 17 rfl rfl)
theorem dX5_orders_184 : decode cX5_orders 184 = .ok (.bipush 7, 2) := dk_16 7 (dk_at dksX5_orders_7 18 rfl rfl)
theorem dX5_orders_186 : decode cX5_orders 186 = .ok (.iadd, 1) := dk_96 (dk_at dksX5_orders_7 20 rfl rfl)
theorem dX5_orders_187 : decode cX5_orders 187 = .ok (.iaload, 1) := dk_46 (dk_at dksX5_orders_7 21 rfl rfl)
theorem dX5_orders_188 : decode cX5_orders 188 = .ok (.if_icmp .ge 37, 3) := dk_162 0 37 (dk_at dksX5_orders_8 0 rfl rfl)
theorem dX5_orders_191 : decode cX5_orders 191 = .ok (.aload_n 0, 1) := dk_42 (dk_at dksX5_orders_8 3 rfl rfl)
theorem dX5_orders_192 : decode cX5_orders 192 = .ok (.bipush 8, 2) := dk_16 8 (dk_at dksX5_orders_8 4 rfl rfl)
theorem dX5_orders_194 : decode cX5_orders 194 = .ok (.iload_n 2, 1) := dk_28 (dk_at dksX5_orders_8 6 rfl rfl)
theorem dX5_orders_195 : decode cX5_orders 195 = .ok (.imul, 1) := dk_104 (dk_at dksX5_orders_8 7 rfl rfl)
theorem dX5_orders_196 : decode cX5_orders 196 = .ok (.invokevirtual 579, 3) := dk_182 2 67 (dk_at dksX5_orders_8 8 rfl rfl)
theorem dX5_orders_199 : decode cX5_orders 199 = .ok (.ifCond .ge 20, 3) := dk_156 0 20 (dk_at dksX5_orders_8 11 rfl rfl)
theorem dX5_orders_202 : decode cX5_orders 202 = .ok (.aload_n 0, 1) := dk_42 (dk_at dksX5_orders_8 14 rfl rfl)
theorem dX5_orders_203 : decode cX5_orders 203 = .ok (.iload_n 1, 1) := dk_27 (dk_at dksX5_orders_8 15 rfl rfl)
theorem dX5_orders_204 : decode cX5_orders 204 = .ok (.invokevirtual 582, 3) := dk_182 2 70 (dk_at dksX5_orders_8 16 rfl rfl)
theorem dX5_orders_207 : decode cX5_orders 207 = .ok (.aload_n 0, 1) := dk_42 (dk_at dksX5_orders_8 19 rfl rfl)
theorem dX5_orders_208 : decode cX5_orders 208 = .ok (.iload_n 2, 1) := dk_28 (dk_at dksX5_orders_8 20 rfl rfl)
theorem dX5_orders_209 : decode cX5_orders 209 = .ok (.putfield 143, 3) := dk_181 0 143 (dk_at dksX5_orders_8 21 rfl rfl)
theorem dX5_orders_212 : decode cX5_orders 212 = .ok (.aload_n 0, 1) := dk_42 (dk_at dksX5_orders_9 0 rfl rfl)
theorem dX5_orders_213 : decode cX5_orders 213 = .ok (.bipush (-3), 2) := dk_16 253 (dk_at dksX5_orders_9 1 rfl rfl)
theorem dX5_orders_215 : decode cX5_orders 215 = .ok (.invokevirtual 155, 3) := dk_182 0 155 (dk_at dksX5_orders_9 3 rfl rfl)
theorem dX5_orders_218 : decode cX5_orders 218 = .ok (.ireturn, 1) := dk_172 (dk_at dksX5_orders_9 6 rfl rfl)
theorem dX5_orders_219 : decode cX5_orders 219 = .ok (.iinc 3 1, 3) := dk_132 3 1 (dk_at dksX5_orders_9 7 rfl rfl)
theorem dX5_orders_222 : decode cX5_orders 222 = .ok (.goto (-47), 3) := dk_167 255 209 (dk_at dksX5_orders_9 10 rfl rfl)
theorem dX5_orders_225 : decode cX5_orders 225 = .ok (.iinc 2 1, 3) := dk_132 2 1 (dk_at dksX5_orders_9 13 rfl rfl)
theorem dX5_orders_228 : decode cX5_orders 228 = .ok (.goto (-63), 3) := dk_167 255 193 (dk_at dksX5_orders_9 16 rfl rfl)
theorem dX5_orders_231 : decode cX5_orders 231 = .ok (.aload_n 0, 1) := dk_42 (dk_at dksX5_orders_9 19 rfl rfl)
theorem dX5_orders_232 : decode cX5_orders 232 = .ok (.aload_n 0, 1) := dk_42 (dk_at dksX5_orders_9 20 rfl rfl)
theorem dX5_orders_233 : decode cX5_orders 233 = .ok (.getfield 566, 3) := dk_180 2 54 (dk_at dksX5_orders_9 21 rfl rfl)
theorem dX5_orders_236 : decode cX5_orders 236 = .ok (.invokevirtual 155, 3) := dk_182 0 155 (dk_at dksX5_orders_10 0 rfl rfl)
theorem dX5_orders_239 : decode cX5_orders 239 = .ok (.ireturn, 1) := dk_172 (dk_at dksX5_orders_10 3 rfl rfl)
abbrev cX5_readOrder : ByteArray := prog_22_method_115_code
def yX5_readOrder : MethodName := ⟨RX5, "readOrder", "()V"⟩
def dkwX5_readOrder_10 : List UInt8 := [180, 1, 20, 79, 177]
abbrev dktX5_readOrder_10 : List UInt8 := dkwX5_readOrder_10 ++ []
def dkwX5_readOrder_9 : List UInt8 := [182, 1, 36, 153, 0, 12, 42, 182, 0, 243, 42, 4, 182, 1, 110, 42, 180, 0, 140, 28, 16, 6, 96, 42]
abbrev dktX5_readOrder_9 : List UInt8 := dkwX5_readOrder_9 ++ dktX5_readOrder_10
def dkwX5_readOrder_8 : List UInt8 := [42, 180, 0, 140, 28, 8, 96, 42, 180, 1, 20, 79, 42, 180, 0, 239, 154, 0, 22, 42, 20, 1, 113]
abbrev dktX5_readOrder_8 : List UInt8 := dkwX5_readOrder_8 ++ dktX5_readOrder_9
def dkwX5_readOrder_7 : List UInt8 := [153, 0, 24, 42, 182, 0, 243, 42, 180, 0, 140, 28, 16, 7, 96, 42, 10, 20, 1, 32, 182, 1, 71, 79]
abbrev dktX5_readOrder_7 : List UInt8 := dkwX5_readOrder_7 ++ dktX5_readOrder_8
def dkwX5_readOrder_6 : List UInt8 := [180, 0, 140, 28, 16, 7, 96, 4, 79, 42, 180, 0, 239, 154, 0, 34, 42, 20, 2, 49, 182, 1, 36]
abbrev dktX5_readOrder_6 : List UInt8 := dkwX5_readOrder_6 ++ dktX5_readOrder_7
def dkwX5_readOrder_5 : List UInt8 := [154, 0, 14, 42, 42, 20, 2, 47, 182, 1, 36, 182, 1, 16, 42, 28, 6, 96, 182, 2, 44, 42]
abbrev dktX5_readOrder_5 : List UInt8 := dkwX5_readOrder_5 ++ dktX5_readOrder_6
def dkwX5_readOrder_4 : List UInt8 := [180, 0, 140, 28, 27, 79, 27, 5, 159, 0, 35, 42, 28, 4, 96, 182, 2, 44, 42, 180, 0, 239]
abbrev dktX5_readOrder_4 : List UInt8 := dkwX5_readOrder_4 ++ dktX5_readOrder_5
def dkwX5_readOrder_3 : List UInt8 := [153, 0, 4, 177, 16, 8, 42, 180, 1, 107, 104, 61, 42, 89, 180, 1, 107, 4, 96, 181, 1, 107, 42]
abbrev dktX5_readOrder_3 : List UInt8 := dkwX5_readOrder_3 ++ dktX5_readOrder_4
def dkwX5_readOrder_2 : List UInt8 := [159, 0, 16, 42, 180, 1, 107, 16, 12, 162, 0, 7, 4, 167, 0, 4, 3, 182, 1, 16, 42, 180, 0, 239]
abbrev dktX5_readOrder_2 : List UInt8 := dkwX5_readOrder_2 ++ dktX5_readOrder_3
def dkwX5_readOrder_1 : List UInt8 := [4, 167, 0, 18, 42, 20, 2, 42, 182, 1, 36, 153, 0, 7, 5, 167, 0, 4, 2, 60, 42, 27, 2]
abbrev dktX5_readOrder_1 : List UInt8 := dkwX5_readOrder_1 ++ dktX5_readOrder_2
def dkwX5_readOrder_0 : List UInt8 := [42, 20, 2, 38, 182, 1, 36, 153, 0, 7, 3, 167, 0, 32, 42, 20, 2, 40, 182, 1, 36, 153, 0, 7]
abbrev dktX5_readOrder_0 : List UInt8 := dkwX5_readOrder_0 ++ dktX5_readOrder_1
theorem dksX5_readOrder_0 : cX5_readOrder.data.toList.drop 0 = dktX5_readOrder_0 := by decide +kernel
theorem dksX5_readOrder_1 : cX5_readOrder.data.toList.drop 24 = dktX5_readOrder_1 := dk_seg dksX5_readOrder_0 24 rfl rfl
theorem dksX5_readOrder_2 : cX5_readOrder.data.toList.drop 47 = dktX5_readOrder_2 := dk_seg dksX5_readOrder_1 23 rfl rfl
theorem dksX5_readOrder_3 : cX5_readOrder.data.toList.drop 71 = dktX5_readOrder_3 := dk_seg dksX5_readOrder_2 24 rfl rfl
theorem dksX5_readOrder_4 : cX5_readOrder.data.toList.drop 94 = dktX5_readOrder_4 := dk_seg dksX5_readOrder_3 23 rfl rfl
theorem dksX5_readOrder_5 : cX5_readOrder.data.toList.drop 116 = dktX5_readOrder_5 := dk_seg dksX5_readOrder_4 22 rfl rfl
theorem dksX5_readOrder_6 : cX5_readOrder.data.toList.drop 138 = dktX5_readOrder_6 := dk_seg dksX5_readOrder_5 22 rfl rfl
theorem dksX5_readOrder_7 : cX5_readOrder.data.toList.drop 161 = dktX5_readOrder_7 := dk_seg dksX5_readOrder_6 23 rfl rfl
theorem dksX5_readOrder_8 : cX5_readOrder.data.toList.drop 185 = dktX5_readOrder_8 := dk_seg dksX5_readOrder_7 24 rfl rfl
theorem dksX5_readOrder_9 : cX5_readOrder.data.toList.drop 208 = dktX5_readOrder_9 := dk_seg dksX5_readOrder_8 23 rfl rfl
theorem dksX5_readOrder_10 : cX5_readOrder.data.toList.drop 232 = dktX5_readOrder_10 := dk_seg dksX5_readOrder_9 24 rfl rfl
theorem dX5_readOrder_0 : decode cX5_readOrder 0 = .ok (.aload_n 0, 1) := dk_42 (dk_at dksX5_readOrder_0 0 rfl rfl)
theorem dX5_readOrder_1 : decode cX5_readOrder 1 = .ok (.ldc2_w 550, 3) := dk_20 2 38 (dk_at dksX5_readOrder_0 1 rfl rfl)
theorem dX5_readOrder_4 : decode cX5_readOrder 4 = .ok (.invokevirtual 292, 3) := dk_182 1 36 (dk_at dksX5_readOrder_0 4 rfl rfl)
theorem dX5_readOrder_7 : decode cX5_readOrder 7 = .ok (.ifCond .eq 7, 3) := dk_153 0 7 (dk_at dksX5_readOrder_0 7 rfl rfl)
theorem dX5_readOrder_10 : decode cX5_readOrder 10 = .ok (.iconst 0, 1) := dk_3 (dk_at dksX5_readOrder_0 10 rfl rfl)
theorem dX5_readOrder_11 : decode cX5_readOrder 11 = .ok (.goto 32, 3) := dk_167 0 32 (dk_at dksX5_readOrder_0 11 rfl rfl)
theorem dX5_readOrder_14 : decode cX5_readOrder 14 = .ok (.aload_n 0, 1) := dk_42 (dk_at dksX5_readOrder_0 14 rfl rfl)
theorem dX5_readOrder_15 : decode cX5_readOrder 15 = .ok (.ldc2_w 552, 3) := dk_20 2 40 (dk_at dksX5_readOrder_0 15 rfl rfl)
theorem dX5_readOrder_18 : decode cX5_readOrder 18 = .ok (.invokevirtual 292, 3) := dk_182 1 36 (dk_at dksX5_readOrder_0 18 rfl rfl)
theorem dX5_readOrder_21 : decode cX5_readOrder 21 = .ok (.ifCond .eq 7, 3) := dk_153 0 7 (dk_at dksX5_readOrder_0 21 rfl rfl)
theorem dX5_readOrder_24 : decode cX5_readOrder 24 = .ok (.iconst 1, 1) := dk_4 (dk_at dksX5_readOrder_1 0 rfl rfl)
theorem dX5_readOrder_25 : decode cX5_readOrder 25 = .ok (.goto 18, 3) := dk_167 0 18 (dk_at dksX5_readOrder_1 1 rfl rfl)
theorem dX5_readOrder_28 : decode cX5_readOrder 28 = .ok (.aload_n 0, 1) := dk_42 (dk_at dksX5_readOrder_1 4 rfl rfl)
theorem dX5_readOrder_29 : decode cX5_readOrder 29 = .ok (.ldc2_w 554, 3) := dk_20 2 42 (dk_at dksX5_readOrder_1 5 rfl rfl)
theorem dX5_readOrder_32 : decode cX5_readOrder 32 = .ok (.invokevirtual 292, 3) := dk_182 1 36 (dk_at dksX5_readOrder_1 8 rfl rfl)
theorem dX5_readOrder_35 : decode cX5_readOrder 35 = .ok (.ifCond .eq 7, 3) := dk_153 0 7 (dk_at dksX5_readOrder_1 11 rfl rfl)
theorem dX5_readOrder_38 : decode cX5_readOrder 38 = .ok (.iconst 2, 1) := dk_5 (dk_at dksX5_readOrder_1 14 rfl rfl)
theorem dX5_readOrder_39 : decode cX5_readOrder 39 = .ok (.goto 4, 3) := dk_167 0 4 (dk_at dksX5_readOrder_1 15 rfl rfl)
theorem dX5_readOrder_42 : decode cX5_readOrder 42 = .ok (.iconst (-1), 1) := dk_2 (dk_at dksX5_readOrder_1 18 rfl rfl)
theorem dX5_readOrder_43 : decode cX5_readOrder 43 = .ok (.istore_n 1, 1) := dk_60 (dk_at dksX5_readOrder_1 19 rfl rfl)
theorem dX5_readOrder_44 : decode cX5_readOrder 44 = .ok (.aload_n 0, 1) := dk_42 (dk_at dksX5_readOrder_1 20 rfl rfl)
theorem dX5_readOrder_45 : decode cX5_readOrder 45 = .ok (.iload_n 1, 1) := dk_27 (dk_at dksX5_readOrder_1 21 rfl rfl)
theorem dX5_readOrder_46 : decode cX5_readOrder 46 = .ok (.iconst (-1), 1) := dk_2 (dk_at dksX5_readOrder_1 22 rfl rfl)
theorem dX5_readOrder_47 : decode cX5_readOrder 47 = .ok (.if_icmp .eq 16, 3) := dk_159 0 16 (dk_at dksX5_readOrder_2 0 rfl rfl)
theorem dX5_readOrder_50 : decode cX5_readOrder 50 = .ok (.aload_n 0, 1) := dk_42 (dk_at dksX5_readOrder_2 3 rfl rfl)
theorem dX5_readOrder_51 : decode cX5_readOrder 51 = .ok (.getfield 363, 3) := dk_180 1 107 (dk_at dksX5_readOrder_2 4 rfl rfl)
theorem dX5_readOrder_54 : decode cX5_readOrder 54 = .ok (.bipush 12, 2) := dk_16 12 (dk_at dksX5_readOrder_2 7 rfl rfl)
theorem dX5_readOrder_56 : decode cX5_readOrder 56 = .ok (.if_icmp .ge 7, 3) := dk_162 0 7 (dk_at dksX5_readOrder_2 9 rfl rfl)
theorem dX5_readOrder_59 : decode cX5_readOrder 59 = .ok (.iconst 1, 1) := dk_4 (dk_at dksX5_readOrder_2 12 rfl rfl)
theorem dX5_readOrder_60 : decode cX5_readOrder 60 = .ok (.goto 4, 3) := dk_167 0 4 (dk_at dksX5_readOrder_2 13 rfl rfl)
theorem dX5_readOrder_63 : decode cX5_readOrder 63 = .ok (.iconst 0, 1) := dk_3 (dk_at dksX5_readOrder_2 16 rfl rfl)
theorem dX5_readOrder_64 : decode cX5_readOrder 64 = .ok (.invokevirtual 272, 3) := dk_182 1 16 (dk_at dksX5_readOrder_2 17 rfl rfl)
theorem dX5_readOrder_67 : decode cX5_readOrder 67 = .ok (.aload_n 0, 1) := dk_42 (dk_at dksX5_readOrder_2 20 rfl rfl)
theorem dX5_readOrder_68 : decode cX5_readOrder 68 = .ok (.getfield 239, 3) := dk_180 0 239 (dk_at dksX5_readOrder_2 21 rfl rfl)
theorem dX5_readOrder_71 : decode cX5_readOrder 71 = .ok (.ifCond .eq 4, 3) := dk_153 0 4 (dk_at dksX5_readOrder_3 0 rfl rfl)
theorem dX5_readOrder_74 : decode cX5_readOrder 74 = .ok (.return_, 1) := dk_177 (dk_at dksX5_readOrder_3 3 rfl rfl)
theorem dX5_readOrder_75 : decode cX5_readOrder 75 = .ok (.bipush 8, 2) := dk_16 8 (dk_at dksX5_readOrder_3 4 rfl rfl)
theorem dX5_readOrder_77 : decode cX5_readOrder 77 = .ok (.aload_n 0, 1) := dk_42 (dk_at dksX5_readOrder_3 6 rfl rfl)
theorem dX5_readOrder_78 : decode cX5_readOrder 78 = .ok (.getfield 363, 3) := dk_180 1 107 (dk_at dksX5_readOrder_3 7 rfl rfl)
theorem dX5_readOrder_81 : decode cX5_readOrder 81 = .ok (.imul, 1) := dk_104 (dk_at dksX5_readOrder_3 10 rfl rfl)
theorem dX5_readOrder_82 : decode cX5_readOrder 82 = .ok (.istore_n 2, 1) := dk_61 (dk_at dksX5_readOrder_3 11 rfl rfl)
theorem dX5_readOrder_83 : decode cX5_readOrder 83 = .ok (.aload_n 0, 1) := dk_42 (dk_at dksX5_readOrder_3 12 rfl rfl)
theorem dX5_readOrder_84 : decode cX5_readOrder 84 = .ok (.dup, 1) := dk_89 (dk_at dksX5_readOrder_3 13 rfl rfl)
theorem dX5_readOrder_85 : decode cX5_readOrder 85 = .ok (.getfield 363, 3) := dk_180 1 107 (dk_at dksX5_readOrder_3 14 rfl rfl)
theorem dX5_readOrder_88 : decode cX5_readOrder 88 = .ok (.iconst 1, 1) := dk_4 (dk_at dksX5_readOrder_3 17 rfl rfl)
theorem dX5_readOrder_89 : decode cX5_readOrder 89 = .ok (.iadd, 1) := dk_96 (dk_at dksX5_readOrder_3 18 rfl rfl)
theorem dX5_readOrder_90 : decode cX5_readOrder 90 = .ok (.putfield 363, 3) := dk_181 1 107 (dk_at dksX5_readOrder_3 19 rfl rfl)
theorem dX5_readOrder_93 : decode cX5_readOrder 93 = .ok (.aload_n 0, 1) := dk_42 (dk_at dksX5_readOrder_3 22 rfl rfl)
theorem dX5_readOrder_94 : decode cX5_readOrder 94 = .ok (.getfield 140, 3) := dk_180 0 140 (dk_at dksX5_readOrder_4 0 rfl rfl)
theorem dX5_readOrder_97 : decode cX5_readOrder 97 = .ok (.iload_n 2, 1) := dk_28 (dk_at dksX5_readOrder_4 3 rfl rfl)
theorem dX5_readOrder_98 : decode cX5_readOrder 98 = .ok (.iload_n 1, 1) := dk_27 (dk_at dksX5_readOrder_4 4 rfl rfl)
theorem dX5_readOrder_99 : decode cX5_readOrder 99 = .ok (.iastore, 1) := dk_79 (dk_at dksX5_readOrder_4 5 rfl rfl)
theorem dX5_readOrder_100 : decode cX5_readOrder 100 = .ok (.iload_n 1, 1) := dk_27 (dk_at dksX5_readOrder_4 6 rfl rfl)
theorem dX5_readOrder_101 : decode cX5_readOrder 101 = .ok (.iconst 2, 1) := dk_5 (dk_at dksX5_readOrder_4 7 rfl rfl)
theorem dX5_readOrder_102 : decode cX5_readOrder 102 = .ok (.if_icmp .eq 35, 3) := dk_159 0 35 (dk_at dksX5_readOrder_4 8 rfl rfl)
theorem dX5_readOrder_105 : decode cX5_readOrder 105 = .ok (.aload_n 0, 1) := dk_42 (dk_at dksX5_readOrder_4 11 rfl rfl)
theorem dX5_readOrder_106 : decode cX5_readOrder 106 = .ok (.iload_n 2, 1) := dk_28 (dk_at dksX5_readOrder_4 12 rfl rfl)
theorem dX5_readOrder_107 : decode cX5_readOrder 107 = .ok (.iconst 1, 1) := dk_4 (dk_at dksX5_readOrder_4 13 rfl rfl)
theorem dX5_readOrder_108 : decode cX5_readOrder 108 = .ok (.iadd, 1) := dk_96 (dk_at dksX5_readOrder_4 14 rfl rfl)
theorem dX5_readOrder_109 : decode cX5_readOrder 109 = .ok (.invokevirtual 556, 3) := dk_182 2 44 (dk_at dksX5_readOrder_4 15 rfl rfl)
theorem dX5_readOrder_112 : decode cX5_readOrder 112 = .ok (.aload_n 0, 1) := dk_42 (dk_at dksX5_readOrder_4 18 rfl rfl)
theorem dX5_readOrder_113 : decode cX5_readOrder 113 = .ok (.getfield 239, 3) := dk_180 0 239 (dk_at dksX5_readOrder_4 19 rfl rfl)
theorem dX5_readOrder_116 : decode cX5_readOrder 116 = .ok (.ifCond .ne 14, 3) := dk_154 0 14 (dk_at dksX5_readOrder_5 0 rfl rfl)
theorem dX5_readOrder_119 : decode cX5_readOrder 119 = .ok (.aload_n 0, 1) := dk_42 (dk_at dksX5_readOrder_5 3 rfl rfl)
theorem dX5_readOrder_120 : decode cX5_readOrder 120 = .ok (.aload_n 0, 1) := dk_42 (dk_at dksX5_readOrder_5 4 rfl rfl)
theorem dX5_readOrder_121 : decode cX5_readOrder 121 = .ok (.ldc2_w 559, 3) := dk_20 2 47 (dk_at dksX5_readOrder_5 5 rfl rfl)
theorem dX5_readOrder_124 : decode cX5_readOrder 124 = .ok (.invokevirtual 292, 3) := dk_182 1 36 (dk_at dksX5_readOrder_5 8 rfl rfl)
theorem dX5_readOrder_127 : decode cX5_readOrder 127 = .ok (.invokevirtual 272, 3) := dk_182 1 16 (dk_at dksX5_readOrder_5 11 rfl rfl)
theorem dX5_readOrder_130 : decode cX5_readOrder 130 = .ok (.aload_n 0, 1) := dk_42 (dk_at dksX5_readOrder_5 14 rfl rfl)
theorem dX5_readOrder_131 : decode cX5_readOrder 131 = .ok (.iload_n 2, 1) := dk_28 (dk_at dksX5_readOrder_5 15 rfl rfl)
theorem dX5_readOrder_132 : decode cX5_readOrder 132 = .ok (.iconst 3, 1) := dk_6 (dk_at dksX5_readOrder_5 16 rfl rfl)
theorem dX5_readOrder_133 : decode cX5_readOrder 133 = .ok (.iadd, 1) := dk_96 (dk_at dksX5_readOrder_5 17 rfl rfl)
theorem dX5_readOrder_134 : decode cX5_readOrder 134 = .ok (.invokevirtual 556, 3) := dk_182 2 44 (dk_at dksX5_readOrder_5 18 rfl rfl)
theorem dX5_readOrder_137 : decode cX5_readOrder 137 = .ok (.aload_n 0, 1) := dk_42 (dk_at dksX5_readOrder_5 21 rfl rfl)
theorem dX5_readOrder_138 : decode cX5_readOrder 138 = .ok (.getfield 140, 3) := dk_180 0 140 (dk_at dksX5_readOrder_6 0 rfl rfl)
theorem dX5_readOrder_141 : decode cX5_readOrder 141 = .ok (.iload_n 2, 1) := dk_28 (dk_at dksX5_readOrder_6 3 rfl rfl)
theorem dX5_readOrder_142 : decode cX5_readOrder 142 = .ok (.bipush 7, 2) := dk_16 7 (dk_at dksX5_readOrder_6 4 rfl rfl)
theorem dX5_readOrder_144 : decode cX5_readOrder 144 = .ok (.iadd, 1) := dk_96 (dk_at dksX5_readOrder_6 6 rfl rfl)
theorem dX5_readOrder_145 : decode cX5_readOrder 145 = .ok (.iconst 1, 1) := dk_4 (dk_at dksX5_readOrder_6 7 rfl rfl)
theorem dX5_readOrder_146 : decode cX5_readOrder 146 = .ok (.iastore, 1) := dk_79 (dk_at dksX5_readOrder_6 8 rfl rfl)
theorem dX5_readOrder_147 : decode cX5_readOrder 147 = .ok (.aload_n 0, 1) := dk_42 (dk_at dksX5_readOrder_6 9 rfl rfl)
theorem dX5_readOrder_148 : decode cX5_readOrder 148 = .ok (.getfield 239, 3) := dk_180 0 239 (dk_at dksX5_readOrder_6 10 rfl rfl)
theorem dX5_readOrder_151 : decode cX5_readOrder 151 = .ok (.ifCond .ne 34, 3) := dk_154 0 34 (dk_at dksX5_readOrder_6 13 rfl rfl)
theorem dX5_readOrder_154 : decode cX5_readOrder 154 = .ok (.aload_n 0, 1) := dk_42 (dk_at dksX5_readOrder_6 16 rfl rfl)
theorem dX5_readOrder_155 : decode cX5_readOrder 155 = .ok (.ldc2_w 561, 3) := dk_20 2 49 (dk_at dksX5_readOrder_6 17 rfl rfl)
theorem dX5_readOrder_158 : decode cX5_readOrder 158 = .ok (.invokevirtual 292, 3) := dk_182 1 36 (dk_at dksX5_readOrder_6 20 rfl rfl)
theorem dX5_readOrder_161 : decode cX5_readOrder 161 = .ok (.ifCond .eq 24, 3) := dk_153 0 24 (dk_at dksX5_readOrder_7 0 rfl rfl)
theorem dX5_readOrder_164 : decode cX5_readOrder 164 = .ok (.aload_n 0, 1) := dk_42 (dk_at dksX5_readOrder_7 3 rfl rfl)
theorem dX5_readOrder_165 : decode cX5_readOrder 165 = .ok (.invokevirtual 243, 3) := dk_182 0 243 (dk_at dksX5_readOrder_7 4 rfl rfl)
theorem dX5_readOrder_168 : decode cX5_readOrder 168 = .ok (.aload_n 0, 1) := dk_42 (dk_at dksX5_readOrder_7 7 rfl rfl)
theorem dX5_readOrder_169 : decode cX5_readOrder 169 = .ok (.getfield 140, 3) := dk_180 0 140 (dk_at dksX5_readOrder_7 8 rfl rfl)
theorem dX5_readOrder_172 : decode cX5_readOrder 172 = .ok (.iload_n 2, 1) := dk_28 (dk_at dksX5_readOrder_7 11 rfl rfl)
theorem dX5_readOrder_173 : decode cX5_readOrder 173 = .ok (.bipush 7, 2) := dk_16 7 (dk_at dksX5_readOrder_7 12 rfl rfl)
theorem dX5_readOrder_175 : decode cX5_readOrder 175 = .ok (.iadd, 1) := dk_96 (dk_at dksX5_readOrder_7 14 rfl rfl)
theorem dX5_readOrder_176 : decode cX5_readOrder 176 = .ok (.aload_n 0, 1) := dk_42 (dk_at dksX5_readOrder_7 15 rfl rfl)
theorem dX5_readOrder_177 : decode cX5_readOrder 177 = .ok (.lconst 1, 1) := dk_10 (dk_at dksX5_readOrder_7 16 rfl rfl)
theorem dX5_readOrder_178 : decode cX5_readOrder 178 = .ok (.ldc2_w 288, 3) := dk_20 1 32 (dk_at dksX5_readOrder_7 17 rfl rfl)
theorem dX5_readOrder_181 : decode cX5_readOrder 181 = .ok (.invokevirtual 327, 3) := dk_182 1 71 (dk_at dksX5_readOrder_7 20 rfl rfl)
theorem dX5_readOrder_184 : decode cX5_readOrder 184 = .ok (.iastore, 1) := dk_79 (dk_at dksX5_readOrder_7 23 rfl rfl)
theorem dX5_readOrder_185 : decode cX5_readOrder 185 = .ok (.aload_n 0, 1) := dk_42 (dk_at dksX5_readOrder_8 0 rfl rfl)
theorem dX5_readOrder_186 : decode cX5_readOrder 186 = .ok (.getfield 140, 3) := dk_180 0 140 (dk_at dksX5_readOrder_8 1 rfl rfl)
theorem dX5_readOrder_189 : decode cX5_readOrder 189 = .ok (.iload_n 2, 1) := dk_28 (dk_at dksX5_readOrder_8 4 rfl rfl)
theorem dX5_readOrder_190 : decode cX5_readOrder 190 = .ok (.iconst 5, 1) := dk_8 (dk_at dksX5_readOrder_8 5 rfl rfl)
theorem dX5_readOrder_191 : decode cX5_readOrder 191 = .ok (.iadd, 1) := dk_96 (dk_at dksX5_readOrder_8 6 rfl rfl)
theorem dX5_readOrder_192 : decode cX5_readOrder 192 = .ok (.aload_n 0, 1) := dk_42 (dk_at dksX5_readOrder_8 7 rfl rfl)
theorem dX5_readOrder_193 : decode cX5_readOrder 193 = .ok (.getfield 276, 3) := dk_180 1 20 (dk_at dksX5_readOrder_8 8 rfl rfl)
theorem dX5_readOrder_196 : decode cX5_readOrder 196 = .ok (.iastore, 1) := dk_79 (dk_at dksX5_readOrder_8 11 rfl rfl)
theorem dX5_readOrder_197 : decode cX5_readOrder 197 = .ok (.aload_n 0, 1) := dk_42 (dk_at dksX5_readOrder_8 12 rfl rfl)
theorem dX5_readOrder_198 : decode cX5_readOrder 198 = .ok (.getfield 239, 3) := dk_180 0 239 (dk_at dksX5_readOrder_8 13 rfl rfl)
theorem dX5_readOrder_201 : decode cX5_readOrder 201 = .ok (.ifCond .ne 22, 3) := dk_154 0 22 (dk_at dksX5_readOrder_8 16 rfl rfl)
theorem dX5_readOrder_204 : decode cX5_readOrder 204 = .ok (.aload_n 0, 1) := dk_42 (dk_at dksX5_readOrder_8 19 rfl rfl)
theorem dX5_readOrder_205 : decode cX5_readOrder 205 = .ok (.ldc2_w 369, 3) := dk_20 1 113 (dk_at dksX5_readOrder_8 20 rfl rfl)
theorem dX5_readOrder_208 : decode cX5_readOrder 208 = .ok (.invokevirtual 292, 3) := dk_182 1 36 (dk_at dksX5_readOrder_9 0 rfl rfl)
theorem dX5_readOrder_211 : decode cX5_readOrder 211 = .ok (.ifCond .eq 12, 3) := dk_153 0 12 (dk_at dksX5_readOrder_9 3 rfl rfl)
theorem dX5_readOrder_214 : decode cX5_readOrder 214 = .ok (.aload_n 0, 1) := dk_42 (dk_at dksX5_readOrder_9 6 rfl rfl)
theorem dX5_readOrder_215 : decode cX5_readOrder 215 = .ok (.invokevirtual 243, 3) := dk_182 0 243 (dk_at dksX5_readOrder_9 7 rfl rfl)
theorem dX5_readOrder_218 : decode cX5_readOrder 218 = .ok (.aload_n 0, 1) := dk_42 (dk_at dksX5_readOrder_9 10 rfl rfl)
theorem dX5_readOrder_219 : decode cX5_readOrder 219 = .ok (.iconst 1, 1) := dk_4 (dk_at dksX5_readOrder_9 11 rfl rfl)
theorem dX5_readOrder_220 : decode cX5_readOrder 220 = .ok (.invokevirtual 366, 3) := dk_182 1 110 (dk_at dksX5_readOrder_9 12 rfl rfl)
theorem dX5_readOrder_223 : decode cX5_readOrder 223 = .ok (.aload_n 0, 1) := dk_42 (dk_at dksX5_readOrder_9 15 rfl rfl)
theorem dX5_readOrder_224 : decode cX5_readOrder 224 = .ok (.getfield 140, 3) := dk_180 0 140 (dk_at dksX5_readOrder_9 16 rfl rfl)
theorem dX5_readOrder_227 : decode cX5_readOrder 227 = .ok (.iload_n 2, 1) := dk_28 (dk_at dksX5_readOrder_9 19 rfl rfl)
theorem dX5_readOrder_228 : decode cX5_readOrder 228 = .ok (.bipush 6, 2) := dk_16 6 (dk_at dksX5_readOrder_9 20 rfl rfl)
theorem dX5_readOrder_230 : decode cX5_readOrder 230 = .ok (.iadd, 1) := dk_96 (dk_at dksX5_readOrder_9 22 rfl rfl)
theorem dX5_readOrder_231 : decode cX5_readOrder 231 = .ok (.aload_n 0, 1) := dk_42 (dk_at dksX5_readOrder_9 23 rfl rfl)
theorem dX5_readOrder_232 : decode cX5_readOrder 232 = .ok (.getfield 276, 3) := dk_180 1 20 (dk_at dksX5_readOrder_10 0 rfl rfl)
theorem dX5_readOrder_235 : decode cX5_readOrder 235 = .ok (.iastore, 1) := dk_79 (dk_at dksX5_readOrder_10 3 rfl rfl)
theorem dX5_readOrder_236 : decode cX5_readOrder 236 = .ok (.return_, 1) := dk_177 (dk_at dksX5_readOrder_10 4 rfl rfl)
abbrev cX5_readSum : ByteArray := prog_22_method_114_code
def yX5_readSum : MethodName := ⟨RX5, "readSum", "(I)V"⟩
def dkwX5_readSum_1 : List UInt8 := [180, 0, 140, 27, 4, 96, 42, 180, 1, 20, 79, 177]
abbrev dktX5_readSum_1 : List UInt8 := dkwX5_readSum_1 ++ []
def dkwX5_readSum_0 : List UInt8 := [42, 180, 0, 140, 27, 42, 180, 1, 20, 79, 42, 180, 0, 239, 154, 0, 8, 42, 3, 182, 1, 110, 42]
abbrev dktX5_readSum_0 : List UInt8 := dkwX5_readSum_0 ++ dktX5_readSum_1
theorem dksX5_readSum_0 : cX5_readSum.data.toList.drop 0 = dktX5_readSum_0 := by decide +kernel
theorem dksX5_readSum_1 : cX5_readSum.data.toList.drop 23 = dktX5_readSum_1 := dk_seg dksX5_readSum_0 23 rfl rfl
theorem dX5_readSum_0 : decode cX5_readSum 0 = .ok (.aload_n 0, 1) := dk_42 (dk_at dksX5_readSum_0 0 rfl rfl)
theorem dX5_readSum_1 : decode cX5_readSum 1 = .ok (.getfield 140, 3) := dk_180 0 140 (dk_at dksX5_readSum_0 1 rfl rfl)
theorem dX5_readSum_4 : decode cX5_readSum 4 = .ok (.iload_n 1, 1) := dk_27 (dk_at dksX5_readSum_0 4 rfl rfl)
theorem dX5_readSum_5 : decode cX5_readSum 5 = .ok (.aload_n 0, 1) := dk_42 (dk_at dksX5_readSum_0 5 rfl rfl)
theorem dX5_readSum_6 : decode cX5_readSum 6 = .ok (.getfield 276, 3) := dk_180 1 20 (dk_at dksX5_readSum_0 6 rfl rfl)
theorem dX5_readSum_9 : decode cX5_readSum 9 = .ok (.iastore, 1) := dk_79 (dk_at dksX5_readSum_0 9 rfl rfl)
theorem dX5_readSum_10 : decode cX5_readSum 10 = .ok (.aload_n 0, 1) := dk_42 (dk_at dksX5_readSum_0 10 rfl rfl)
theorem dX5_readSum_11 : decode cX5_readSum 11 = .ok (.getfield 239, 3) := dk_180 0 239 (dk_at dksX5_readSum_0 11 rfl rfl)
theorem dX5_readSum_14 : decode cX5_readSum 14 = .ok (.ifCond .ne 8, 3) := dk_154 0 8 (dk_at dksX5_readSum_0 14 rfl rfl)
theorem dX5_readSum_17 : decode cX5_readSum 17 = .ok (.aload_n 0, 1) := dk_42 (dk_at dksX5_readSum_0 17 rfl rfl)
theorem dX5_readSum_18 : decode cX5_readSum 18 = .ok (.iconst 0, 1) := dk_3 (dk_at dksX5_readSum_0 18 rfl rfl)
theorem dX5_readSum_19 : decode cX5_readSum 19 = .ok (.invokevirtual 366, 3) := dk_182 1 110 (dk_at dksX5_readSum_0 19 rfl rfl)
theorem dX5_readSum_22 : decode cX5_readSum 22 = .ok (.aload_n 0, 1) := dk_42 (dk_at dksX5_readSum_0 22 rfl rfl)
theorem dX5_readSum_23 : decode cX5_readSum 23 = .ok (.getfield 140, 3) := dk_180 0 140 (dk_at dksX5_readSum_1 0 rfl rfl)
theorem dX5_readSum_26 : decode cX5_readSum 26 = .ok (.iload_n 1, 1) := dk_27 (dk_at dksX5_readSum_1 3 rfl rfl)
theorem dX5_readSum_27 : decode cX5_readSum 27 = .ok (.iconst 1, 1) := dk_4 (dk_at dksX5_readSum_1 4 rfl rfl)
theorem dX5_readSum_28 : decode cX5_readSum 28 = .ok (.iadd, 1) := dk_96 (dk_at dksX5_readSum_1 5 rfl rfl)
theorem dX5_readSum_29 : decode cX5_readSum 29 = .ok (.aload_n 0, 1) := dk_42 (dk_at dksX5_readSum_1 6 rfl rfl)
theorem dX5_readSum_30 : decode cX5_readSum 30 = .ok (.getfield 276, 3) := dk_180 1 20 (dk_at dksX5_readSum_1 7 rfl rfl)
theorem dX5_readSum_33 : decode cX5_readSum 33 = .ok (.iastore, 1) := dk_79 (dk_at dksX5_readSum_1 10 rfl rfl)
theorem dX5_readSum_34 : decode cX5_readSum 34 = .ok (.return_, 1) := dk_177 (dk_at dksX5_readSum_1 11 rfl rfl)
abbrev cX5_run : ByteArray := prog_22_method_117_code
def yX5_run : MethodName := ⟨RX5, "run", "(I)I"⟩
def dkwX5_run_8 : List UInt8 := [16, 13, 8, 28, 104, 96, 7, 96, 29, 79, 42, 89, 180, 2, 54, 4, 96, 181, 2, 54, 3, 172]
abbrev dktX5_run_8 : List UInt8 := dkwX5_run_8 ++ []
def dkwX5_run_7 : List UInt8 := [54, 4, 21, 4, 156, 0, 6, 16, 253, 172, 42, 180, 0, 140, 27, 46, 4, 160, 0, 17, 42, 180, 0, 13]
abbrev dktX5_run_7 : List UInt8 := dkwX5_run_7 ++ dktX5_run_8
def dkwX5_run_6 : List UInt8 := [42, 180, 0, 140, 27, 46, 154, 0, 12, 42, 28, 29, 182, 2, 26, 167, 0, 9, 42, 28, 29, 182, 2, 29]
abbrev dktX5_run_6 : List UInt8 := dkwX5_run_6 ++ dktX5_run_7
def dkwX5_run_5 : List UInt8 := [182, 2, 60, 136, 61, 42, 27, 6, 96, 182, 2, 60, 136, 62, 42, 180, 2, 51, 153, 0, 6, 16, 253, 172]
abbrev dktX5_run_5 : List UInt8 := dkwX5_run_5 ++ dktX5_run_6
def dkwX5_run_4 : List UInt8 := [182, 2, 35, 61, 28, 156, 0, 6, 16, 253, 172, 42, 28, 181, 2, 57, 167, 0, 89, 42, 27, 4, 96]
abbrev dktX5_run_4 : List UInt8 := dkwX5_run_4 ++ dktX5_run_5
def dkwX5_run_3 : List UInt8 := [154, 0, 9, 32, 9, 148, 154, 0, 5, 3, 172, 42, 180, 0, 140, 27, 46, 5, 160, 0, 23, 42]
abbrev dktX5_run_3 : List UInt8 := dkwX5_run_3 ++ dktX5_run_4
def dkwX5_run_2 : List UInt8 := [42, 180, 0, 140, 27, 16, 6, 96, 46, 162, 0, 26, 42, 27, 8, 96, 182, 2, 60, 65, 42, 180, 2, 51]
abbrev dktX5_run_2 : List UInt8 := dkwX5_run_2 ++ dktX5_run_3
def dkwX5_run_1 : List UInt8 := [42, 180, 0, 119, 6, 42, 180, 2, 57, 133, 80, 42, 3, 181, 2, 51, 42, 180, 0, 140, 27, 8, 96, 46]
abbrev dktX5_run_1 : List UInt8 := dkwX5_run_1 ++ dktX5_run_2
def dkwX5_run_0 : List UInt8 := [42, 180, 0, 119, 4, 42, 180, 0, 13, 3, 46, 133, 80, 42, 180, 0, 119, 5, 42, 180, 2, 54, 133, 80]
abbrev dktX5_run_0 : List UInt8 := dkwX5_run_0 ++ dktX5_run_1
theorem dksX5_run_0 : cX5_run.data.toList.drop 0 = dktX5_run_0 := by decide +kernel
theorem dksX5_run_1 : cX5_run.data.toList.drop 24 = dktX5_run_1 := dk_seg dksX5_run_0 24 rfl rfl
theorem dksX5_run_2 : cX5_run.data.toList.drop 48 = dktX5_run_2 := dk_seg dksX5_run_1 24 rfl rfl
theorem dksX5_run_3 : cX5_run.data.toList.drop 72 = dktX5_run_3 := dk_seg dksX5_run_2 24 rfl rfl
theorem dksX5_run_4 : cX5_run.data.toList.drop 94 = dktX5_run_4 := dk_seg dksX5_run_3 22 rfl rfl
theorem dksX5_run_5 : cX5_run.data.toList.drop 117 = dktX5_run_5 := dk_seg dksX5_run_4 23 rfl rfl
theorem dksX5_run_6 : cX5_run.data.toList.drop 141 = dktX5_run_6 := dk_seg dksX5_run_5 24 rfl rfl
theorem dksX5_run_7 : cX5_run.data.toList.drop 165 = dktX5_run_7 := dk_seg dksX5_run_6 24 rfl rfl
theorem dksX5_run_8 : cX5_run.data.toList.drop 189 = dktX5_run_8 := dk_seg dksX5_run_7 24 rfl rfl
theorem dX5_run_0 : decode cX5_run 0 = .ok (.aload_n 0, 1) := dk_42 (dk_at dksX5_run_0 0 rfl rfl)
theorem dX5_run_1 : decode cX5_run 1 = .ok (.getfield 119, 3) := dk_180 0 119 (dk_at dksX5_run_0 1 rfl rfl)
theorem dX5_run_4 : decode cX5_run 4 = .ok (.iconst 1, 1) := dk_4 (dk_at dksX5_run_0 4 rfl rfl)
theorem dX5_run_5 : decode cX5_run 5 = .ok (.aload_n 0, 1) := dk_42 (dk_at dksX5_run_0 5 rfl rfl)
theorem dX5_run_6 : decode cX5_run 6 = .ok (.getfield 13, 3) := dk_180 0 13 (dk_at dksX5_run_0 6 rfl rfl)
theorem dX5_run_9 : decode cX5_run 9 = .ok (.iconst 0, 1) := dk_3 (dk_at dksX5_run_0 9 rfl rfl)
theorem dX5_run_10 : decode cX5_run 10 = .ok (.iaload, 1) := dk_46 (dk_at dksX5_run_0 10 rfl rfl)
theorem dX5_run_11 : decode cX5_run 11 = .ok (.i2l, 1) := dk_133 (dk_at dksX5_run_0 11 rfl rfl)
theorem dX5_run_12 : decode cX5_run 12 = .ok (.lastore, 1) := dk_80 (dk_at dksX5_run_0 12 rfl rfl)
theorem dX5_run_13 : decode cX5_run 13 = .ok (.aload_n 0, 1) := dk_42 (dk_at dksX5_run_0 13 rfl rfl)
theorem dX5_run_14 : decode cX5_run 14 = .ok (.getfield 119, 3) := dk_180 0 119 (dk_at dksX5_run_0 14 rfl rfl)
theorem dX5_run_17 : decode cX5_run 17 = .ok (.iconst 2, 1) := dk_5 (dk_at dksX5_run_0 17 rfl rfl)
theorem dX5_run_18 : decode cX5_run 18 = .ok (.aload_n 0, 1) := dk_42 (dk_at dksX5_run_0 18 rfl rfl)
theorem dX5_run_19 : decode cX5_run 19 = .ok (.getfield 566, 3) := dk_180 2 54 (dk_at dksX5_run_0 19 rfl rfl)
theorem dX5_run_22 : decode cX5_run 22 = .ok (.i2l, 1) := dk_133 (dk_at dksX5_run_0 22 rfl rfl)
theorem dX5_run_23 : decode cX5_run 23 = .ok (.lastore, 1) := dk_80 (dk_at dksX5_run_0 23 rfl rfl)
theorem dX5_run_24 : decode cX5_run 24 = .ok (.aload_n 0, 1) := dk_42 (dk_at dksX5_run_1 0 rfl rfl)
theorem dX5_run_25 : decode cX5_run 25 = .ok (.getfield 119, 3) := dk_180 0 119 (dk_at dksX5_run_1 1 rfl rfl)
theorem dX5_run_28 : decode cX5_run 28 = .ok (.iconst 3, 1) := dk_6 (dk_at dksX5_run_1 4 rfl rfl)
theorem dX5_run_29 : decode cX5_run 29 = .ok (.aload_n 0, 1) := dk_42 (dk_at dksX5_run_1 5 rfl rfl)
theorem dX5_run_30 : decode cX5_run 30 = .ok (.getfield 569, 3) := dk_180 2 57 (dk_at dksX5_run_1 6 rfl rfl)
theorem dX5_run_33 : decode cX5_run 33 = .ok (.i2l, 1) := dk_133 (dk_at dksX5_run_1 9 rfl rfl)
theorem dX5_run_34 : decode cX5_run 34 = .ok (.lastore, 1) := dk_80 (dk_at dksX5_run_1 10 rfl rfl)
theorem dX5_run_35 : decode cX5_run 35 = .ok (.aload_n 0, 1) := dk_42 (dk_at dksX5_run_1 11 rfl rfl)
theorem dX5_run_36 : decode cX5_run 36 = .ok (.iconst 0, 1) := dk_3 (dk_at dksX5_run_1 12 rfl rfl)
theorem dX5_run_37 : decode cX5_run 37 = .ok (.putfield 563, 3) := dk_181 2 51 (dk_at dksX5_run_1 13 rfl rfl)
theorem dX5_run_40 : decode cX5_run 40 = .ok (.aload_n 0, 1) := dk_42 (dk_at dksX5_run_1 16 rfl rfl)
theorem dX5_run_41 : decode cX5_run 41 = .ok (.getfield 140, 3) := dk_180 0 140 (dk_at dksX5_run_1 17 rfl rfl)
theorem dX5_run_44 : decode cX5_run 44 = .ok (.iload_n 1, 1) := dk_27 (dk_at dksX5_run_1 20 rfl rfl)
theorem dX5_run_45 : decode cX5_run 45 = .ok (.iconst 5, 1) := dk_8 (dk_at dksX5_run_1 21 rfl rfl)
theorem dX5_run_46 : decode cX5_run 46 = .ok (.iadd, 1) := dk_96 (dk_at dksX5_run_1 22 rfl rfl)
theorem dX5_run_47 : decode cX5_run 47 = .ok (.iaload, 1) := dk_46 (dk_at dksX5_run_1 23 rfl rfl)
theorem dX5_run_48 : decode cX5_run 48 = .ok (.aload_n 0, 1) := dk_42 (dk_at dksX5_run_2 0 rfl rfl)
theorem dX5_run_49 : decode cX5_run 49 = .ok (.getfield 140, 3) := dk_180 0 140 (dk_at dksX5_run_2 1 rfl rfl)
theorem dX5_run_52 : decode cX5_run 52 = .ok (.iload_n 1, 1) := dk_27 (dk_at dksX5_run_2 4 rfl rfl)
theorem dX5_run_53 : decode cX5_run 53 = .ok (.bipush 6, 2) := dk_16 6 (dk_at dksX5_run_2 5 rfl rfl)
theorem dX5_run_55 : decode cX5_run 55 = .ok (.iadd, 1) := dk_96 (dk_at dksX5_run_2 7 rfl rfl)
theorem dX5_run_56 : decode cX5_run 56 = .ok (.iaload, 1) := dk_46 (dk_at dksX5_run_2 8 rfl rfl)
theorem dX5_run_57 : decode cX5_run 57 = .ok (.if_icmp .ge 26, 3) := dk_162 0 26 (dk_at dksX5_run_2 9 rfl rfl)
theorem dX5_run_60 : decode cX5_run 60 = .ok (.aload_n 0, 1) := dk_42 (dk_at dksX5_run_2 12 rfl rfl)
theorem dX5_run_61 : decode cX5_run 61 = .ok (.iload_n 1, 1) := dk_27 (dk_at dksX5_run_2 13 rfl rfl)
theorem dX5_run_62 : decode cX5_run 62 = .ok (.iconst 5, 1) := dk_8 (dk_at dksX5_run_2 14 rfl rfl)
theorem dX5_run_63 : decode cX5_run 63 = .ok (.iadd, 1) := dk_96 (dk_at dksX5_run_2 15 rfl rfl)
theorem dX5_run_64 : decode cX5_run 64 = .ok (.invokevirtual 572, 3) := dk_182 2 60 (dk_at dksX5_run_2 16 rfl rfl)
theorem dX5_run_67 : decode cX5_run 67 = .ok (.lstore_n 2, 1) := dk_65 (dk_at dksX5_run_2 19 rfl rfl)
theorem dX5_run_68 : decode cX5_run 68 = .ok (.aload_n 0, 1) := dk_42 (dk_at dksX5_run_2 20 rfl rfl)
theorem dX5_run_69 : decode cX5_run 69 = .ok (.getfield 563, 3) := dk_180 2 51 (dk_at dksX5_run_2 21 rfl rfl)
theorem dX5_run_72 : decode cX5_run 72 = .ok (.ifCond .ne 9, 3) := dk_154 0 9 (dk_at dksX5_run_3 0 rfl rfl)
theorem dX5_run_75 : decode cX5_run 75 = .ok (.lload_n 2, 1) := dk_32 (dk_at dksX5_run_3 3 rfl rfl)
theorem dX5_run_76 : decode cX5_run 76 = .ok (.lconst 0, 1) := dk_9 (dk_at dksX5_run_3 4 rfl rfl)
theorem dX5_run_77 : decode cX5_run 77 = .ok (.lcmp, 1) := dk_148 (dk_at dksX5_run_3 5 rfl rfl)
theorem dX5_run_78 : decode cX5_run 78 = .ok (.ifCond .ne 5, 3) := dk_154 0 5 (dk_at dksX5_run_3 6 rfl rfl)
theorem dX5_run_81 : decode cX5_run 81 = .ok (.iconst 0, 1) := dk_3 (dk_at dksX5_run_3 9 rfl rfl)
theorem dX5_run_82 : decode cX5_run 82 = .ok (.ireturn, 1) := dk_172 (dk_at dksX5_run_3 10 rfl rfl)
theorem dX5_run_83 : decode cX5_run 83 = .ok (.aload_n 0, 1) := dk_42 (dk_at dksX5_run_3 11 rfl rfl)
theorem dX5_run_84 : decode cX5_run 84 = .ok (.getfield 140, 3) := dk_180 0 140 (dk_at dksX5_run_3 12 rfl rfl)
theorem dX5_run_87 : decode cX5_run 87 = .ok (.iload_n 1, 1) := dk_27 (dk_at dksX5_run_3 15 rfl rfl)
theorem dX5_run_88 : decode cX5_run 88 = .ok (.iaload, 1) := dk_46 (dk_at dksX5_run_3 16 rfl rfl)
theorem dX5_run_89 : decode cX5_run 89 = .ok (.iconst 2, 1) := dk_5 (dk_at dksX5_run_3 17 rfl rfl)
theorem dX5_run_90 : decode cX5_run 90 = .ok (.if_icmp .ne 23, 3) := dk_160 0 23 (dk_at dksX5_run_3 18 rfl rfl)
theorem dX5_run_93 : decode cX5_run 93 = .ok (.aload_n 0, 1) := dk_42 (dk_at dksX5_run_3 21 rfl rfl)
theorem dX5_run_94 : decode cX5_run 94 = .ok (.invokevirtual 547, 3) := dk_182 2 35 (dk_at dksX5_run_4 0 rfl rfl)
theorem dX5_run_97 : decode cX5_run 97 = .ok (.istore_n 2, 1) := dk_61 (dk_at dksX5_run_4 3 rfl rfl)
theorem dX5_run_98 : decode cX5_run 98 = .ok (.iload_n 2, 1) := dk_28 (dk_at dksX5_run_4 4 rfl rfl)
theorem dX5_run_99 : decode cX5_run 99 = .ok (.ifCond .ge 6, 3) := dk_156 0 6 (dk_at dksX5_run_4 5 rfl rfl)
theorem dX5_run_102 : decode cX5_run 102 = .ok (.bipush (-3), 2) := dk_16 253 (dk_at dksX5_run_4 8 rfl rfl)
theorem dX5_run_104 : decode cX5_run 104 = .ok (.ireturn, 1) := dk_172 (dk_at dksX5_run_4 10 rfl rfl)
theorem dX5_run_105 : decode cX5_run 105 = .ok (.aload_n 0, 1) := dk_42 (dk_at dksX5_run_4 11 rfl rfl)
theorem dX5_run_106 : decode cX5_run 106 = .ok (.iload_n 2, 1) := dk_28 (dk_at dksX5_run_4 12 rfl rfl)
theorem dX5_run_107 : decode cX5_run 107 = .ok (.putfield 569, 3) := dk_181 2 57 (dk_at dksX5_run_4 13 rfl rfl)
theorem dX5_run_110 : decode cX5_run 110 = .ok (.goto 89, 3) := dk_167 0 89 (dk_at dksX5_run_4 16 rfl rfl)
theorem dX5_run_113 : decode cX5_run 113 = .ok (.aload_n 0, 1) := dk_42 (dk_at dksX5_run_4 19 rfl rfl)
theorem dX5_run_114 : decode cX5_run 114 = .ok (.iload_n 1, 1) := dk_27 (dk_at dksX5_run_4 20 rfl rfl)
theorem dX5_run_115 : decode cX5_run 115 = .ok (.iconst 1, 1) := dk_4 (dk_at dksX5_run_4 21 rfl rfl)
theorem dX5_run_116 : decode cX5_run 116 = .ok (.iadd, 1) := dk_96 (dk_at dksX5_run_4 22 rfl rfl)
theorem dX5_run_117 : decode cX5_run 117 = .ok (.invokevirtual 572, 3) := dk_182 2 60 (dk_at dksX5_run_5 0 rfl rfl)
theorem dX5_run_120 : decode cX5_run 120 = .ok (.l2i, 1) := dk_136 (dk_at dksX5_run_5 3 rfl rfl)
theorem dX5_run_121 : decode cX5_run 121 = .ok (.istore_n 2, 1) := dk_61 (dk_at dksX5_run_5 4 rfl rfl)
theorem dX5_run_122 : decode cX5_run 122 = .ok (.aload_n 0, 1) := dk_42 (dk_at dksX5_run_5 5 rfl rfl)
theorem dX5_run_123 : decode cX5_run 123 = .ok (.iload_n 1, 1) := dk_27 (dk_at dksX5_run_5 6 rfl rfl)
theorem dX5_run_124 : decode cX5_run 124 = .ok (.iconst 3, 1) := dk_6 (dk_at dksX5_run_5 7 rfl rfl)
theorem dX5_run_125 : decode cX5_run 125 = .ok (.iadd, 1) := dk_96 (dk_at dksX5_run_5 8 rfl rfl)
theorem dX5_run_126 : decode cX5_run 126 = .ok (.invokevirtual 572, 3) := dk_182 2 60 (dk_at dksX5_run_5 9 rfl rfl)
theorem dX5_run_129 : decode cX5_run 129 = .ok (.l2i, 1) := dk_136 (dk_at dksX5_run_5 12 rfl rfl)
theorem dX5_run_130 : decode cX5_run 130 = .ok (.istore_n 3, 1) := dk_62 (dk_at dksX5_run_5 13 rfl rfl)
theorem dX5_run_131 : decode cX5_run 131 = .ok (.aload_n 0, 1) := dk_42 (dk_at dksX5_run_5 14 rfl rfl)
theorem dX5_run_132 : decode cX5_run 132 = .ok (.getfield 563, 3) := dk_180 2 51 (dk_at dksX5_run_5 15 rfl rfl)
theorem dX5_run_135 : decode cX5_run 135 = .ok (.ifCond .eq 6, 3) := dk_153 0 6 (dk_at dksX5_run_5 18 rfl rfl)
theorem dX5_run_138 : decode cX5_run 138 = .ok (.bipush (-3), 2) := dk_16 253 (dk_at dksX5_run_5 21 rfl rfl)
theorem dX5_run_140 : decode cX5_run 140 = .ok (.ireturn, 1) := dk_172 (dk_at dksX5_run_5 23 rfl rfl)
theorem dX5_run_141 : decode cX5_run 141 = .ok (.aload_n 0, 1) := dk_42 (dk_at dksX5_run_6 0 rfl rfl)
theorem dX5_run_142 : decode cX5_run 142 = .ok (.getfield 140, 3) := dk_180 0 140 (dk_at dksX5_run_6 1 rfl rfl)
theorem dX5_run_145 : decode cX5_run 145 = .ok (.iload_n 1, 1) := dk_27 (dk_at dksX5_run_6 4 rfl rfl)
theorem dX5_run_146 : decode cX5_run 146 = .ok (.iaload, 1) := dk_46 (dk_at dksX5_run_6 5 rfl rfl)
theorem dX5_run_147 : decode cX5_run 147 = .ok (.ifCond .ne 12, 3) := dk_154 0 12 (dk_at dksX5_run_6 6 rfl rfl)
theorem dX5_run_150 : decode cX5_run 150 = .ok (.aload_n 0, 1) := dk_42 (dk_at dksX5_run_6 9 rfl rfl)
theorem dX5_run_151 : decode cX5_run 151 = .ok (.iload_n 2, 1) := dk_28 (dk_at dksX5_run_6 10 rfl rfl)
theorem dX5_run_152 : decode cX5_run 152 = .ok (.iload_n 3, 1) := dk_29 (dk_at dksX5_run_6 11 rfl rfl)
theorem dX5_run_153 : decode cX5_run 153 = .ok (.invokevirtual 538, 3) := dk_182 2 26 (dk_at dksX5_run_6 12 rfl rfl)
theorem dX5_run_156 : decode cX5_run 156 = .ok (.goto 9, 3) := dk_167 0 9 (dk_at dksX5_run_6 15 rfl rfl)
theorem dX5_run_159 : decode cX5_run 159 = .ok (.aload_n 0, 1) := dk_42 (dk_at dksX5_run_6 18 rfl rfl)
theorem dX5_run_160 : decode cX5_run 160 = .ok (.iload_n 2, 1) := dk_28 (dk_at dksX5_run_6 19 rfl rfl)
theorem dX5_run_161 : decode cX5_run 161 = .ok (.iload_n 3, 1) := dk_29 (dk_at dksX5_run_6 20 rfl rfl)
theorem dX5_run_162 : decode cX5_run 162 = .ok (.invokevirtual 541, 3) := dk_182 2 29 (dk_at dksX5_run_6 21 rfl rfl)
theorem dX5_run_165 : decode cX5_run 165 = .ok (.istore 4, 2) := dk_54 4 (dk_at dksX5_run_7 0 rfl rfl)
theorem dX5_run_167 : decode cX5_run 167 = .ok (.iload 4, 2) := dk_21 4 (dk_at dksX5_run_7 2 rfl rfl)
theorem dX5_run_169 : decode cX5_run 169 = .ok (.ifCond .ge 6, 3) := dk_156 0 6 (dk_at dksX5_run_7 4 rfl rfl)
theorem dX5_run_172 : decode cX5_run 172 = .ok (.bipush (-3), 2) := dk_16 253 (dk_at dksX5_run_7 7 rfl rfl)
theorem dX5_run_174 : decode cX5_run 174 = .ok (.ireturn, 1) := dk_172 (dk_at dksX5_run_7 9 rfl rfl)
theorem dX5_run_175 : decode cX5_run 175 = .ok (.aload_n 0, 1) := dk_42 (dk_at dksX5_run_7 10 rfl rfl)
theorem dX5_run_176 : decode cX5_run 176 = .ok (.getfield 140, 3) := dk_180 0 140 (dk_at dksX5_run_7 11 rfl rfl)
theorem dX5_run_179 : decode cX5_run 179 = .ok (.iload_n 1, 1) := dk_27 (dk_at dksX5_run_7 14 rfl rfl)
theorem dX5_run_180 : decode cX5_run 180 = .ok (.iaload, 1) := dk_46 (dk_at dksX5_run_7 15 rfl rfl)
theorem dX5_run_181 : decode cX5_run 181 = .ok (.iconst 1, 1) := dk_4 (dk_at dksX5_run_7 16 rfl rfl)
theorem dX5_run_182 : decode cX5_run 182 = .ok (.if_icmp .ne 17, 3) := dk_160 0 17 (dk_at dksX5_run_7 17 rfl rfl)
theorem dX5_run_185 : decode cX5_run 185 = .ok (.aload_n 0, 1) := dk_42 (dk_at dksX5_run_7 20 rfl rfl)
theorem dX5_run_186 : decode cX5_run 186 = .ok (.getfield 13, 3) := dk_180 0 13 (dk_at dksX5_run_7 21 rfl rfl)
theorem dX5_run_189 : decode cX5_run 189 = .ok (.bipush 13, 2) := dk_16 13 (dk_at dksX5_run_8 0 rfl rfl)
theorem dX5_run_191 : decode cX5_run 191 = .ok (.iconst 5, 1) := dk_8 (dk_at dksX5_run_8 2 rfl rfl)
theorem dX5_run_192 : decode cX5_run 192 = .ok (.iload_n 2, 1) := dk_28 (dk_at dksX5_run_8 3 rfl rfl)
theorem dX5_run_193 : decode cX5_run 193 = .ok (.imul, 1) := dk_104 (dk_at dksX5_run_8 4 rfl rfl)
theorem dX5_run_194 : decode cX5_run 194 = .ok (.iadd, 1) := dk_96 (dk_at dksX5_run_8 5 rfl rfl)
theorem dX5_run_195 : decode cX5_run 195 = .ok (.iconst 4, 1) := dk_7 (dk_at dksX5_run_8 6 rfl rfl)
theorem dX5_run_196 : decode cX5_run 196 = .ok (.iadd, 1) := dk_96 (dk_at dksX5_run_8 7 rfl rfl)
theorem dX5_run_197 : decode cX5_run 197 = .ok (.iload_n 3, 1) := dk_29 (dk_at dksX5_run_8 8 rfl rfl)
theorem dX5_run_198 : decode cX5_run 198 = .ok (.iastore, 1) := dk_79 (dk_at dksX5_run_8 9 rfl rfl)
theorem dX5_run_199 : decode cX5_run 199 = .ok (.aload_n 0, 1) := dk_42 (dk_at dksX5_run_8 10 rfl rfl)
theorem dX5_run_200 : decode cX5_run 200 = .ok (.dup, 1) := dk_89 (dk_at dksX5_run_8 11 rfl rfl)
theorem dX5_run_201 : decode cX5_run 201 = .ok (.getfield 566, 3) := dk_180 2 54 (dk_at dksX5_run_8 12 rfl rfl)
theorem dX5_run_204 : decode cX5_run 204 = .ok (.iconst 1, 1) := dk_4 (dk_at dksX5_run_8 15 rfl rfl)
theorem dX5_run_205 : decode cX5_run 205 = .ok (.iadd, 1) := dk_96 (dk_at dksX5_run_8 16 rfl rfl)
theorem dX5_run_206 : decode cX5_run 206 = .ok (.putfield 566, 3) := dk_181 2 54 (dk_at dksX5_run_8 17 rfl rfl)
theorem dX5_run_209 : decode cX5_run 209 = .ok (.iconst 0, 1) := dk_3 (dk_at dksX5_run_8 20 rfl rfl)
theorem dX5_run_210 : decode cX5_run 210 = .ok (.ireturn, 1) := dk_172 (dk_at dksX5_run_8 21 rfl rfl)
abbrev cX5_sumOf : ByteArray := prog_22_method_116_code
def yX5_sumOf : MethodName := ⟨RX5, "sumOf", "(I)J"⟩
def dkwX5_sumOf_2 : List UInt8 := [180, 1, 138, 173]
abbrev dktX5_sumOf_2 : List UInt8 := dkwX5_sumOf_2 ++ []
def dkwX5_sumOf_1 : List UInt8 := [180, 0, 140, 27, 4, 96, 46, 182, 1, 141, 42, 3, 181, 1, 55, 42, 42, 180, 1, 124, 181, 2, 51, 42]
abbrev dktX5_sumOf_1 : List UInt8 := dkwX5_sumOf_1 ++ dktX5_sumOf_2
def dkwX5_sumOf_0 : List UInt8 := [42, 180, 2, 51, 153, 0, 5, 9, 173, 42, 4, 181, 1, 55, 42, 42, 180, 0, 140, 27, 46, 42]
abbrev dktX5_sumOf_0 : List UInt8 := dkwX5_sumOf_0 ++ dktX5_sumOf_1
theorem dksX5_sumOf_0 : cX5_sumOf.data.toList.drop 0 = dktX5_sumOf_0 := by decide +kernel
theorem dksX5_sumOf_1 : cX5_sumOf.data.toList.drop 22 = dktX5_sumOf_1 := dk_seg dksX5_sumOf_0 22 rfl rfl
theorem dksX5_sumOf_2 : cX5_sumOf.data.toList.drop 46 = dktX5_sumOf_2 := dk_seg dksX5_sumOf_1 24 rfl rfl
theorem dX5_sumOf_0 : decode cX5_sumOf 0 = .ok (.aload_n 0, 1) := dk_42 (dk_at dksX5_sumOf_0 0 rfl rfl)
theorem dX5_sumOf_1 : decode cX5_sumOf 1 = .ok (.getfield 563, 3) := dk_180 2 51 (dk_at dksX5_sumOf_0 1 rfl rfl)
theorem dX5_sumOf_4 : decode cX5_sumOf 4 = .ok (.ifCond .eq 5, 3) := dk_153 0 5 (dk_at dksX5_sumOf_0 4 rfl rfl)
theorem dX5_sumOf_7 : decode cX5_sumOf 7 = .ok (.lconst 0, 1) := dk_9 (dk_at dksX5_sumOf_0 7 rfl rfl)
theorem dX5_sumOf_8 : decode cX5_sumOf 8 = .ok (.lreturn, 1) := dk_173 (dk_at dksX5_sumOf_0 8 rfl rfl)
theorem dX5_sumOf_9 : decode cX5_sumOf 9 = .ok (.aload_n 0, 1) := dk_42 (dk_at dksX5_sumOf_0 9 rfl rfl)
theorem dX5_sumOf_10 : decode cX5_sumOf 10 = .ok (.iconst 1, 1) := dk_4 (dk_at dksX5_sumOf_0 10 rfl rfl)
theorem dX5_sumOf_11 : decode cX5_sumOf 11 = .ok (.putfield 311, 3) := dk_181 1 55 (dk_at dksX5_sumOf_0 11 rfl rfl)
theorem dX5_sumOf_14 : decode cX5_sumOf 14 = .ok (.aload_n 0, 1) := dk_42 (dk_at dksX5_sumOf_0 14 rfl rfl)
theorem dX5_sumOf_15 : decode cX5_sumOf 15 = .ok (.aload_n 0, 1) := dk_42 (dk_at dksX5_sumOf_0 15 rfl rfl)
theorem dX5_sumOf_16 : decode cX5_sumOf 16 = .ok (.getfield 140, 3) := dk_180 0 140 (dk_at dksX5_sumOf_0 16 rfl rfl)
theorem dX5_sumOf_19 : decode cX5_sumOf 19 = .ok (.iload_n 1, 1) := dk_27 (dk_at dksX5_sumOf_0 19 rfl rfl)
theorem dX5_sumOf_20 : decode cX5_sumOf 20 = .ok (.iaload, 1) := dk_46 (dk_at dksX5_sumOf_0 20 rfl rfl)
theorem dX5_sumOf_21 : decode cX5_sumOf 21 = .ok (.aload_n 0, 1) := dk_42 (dk_at dksX5_sumOf_0 21 rfl rfl)
theorem dX5_sumOf_22 : decode cX5_sumOf 22 = .ok (.getfield 140, 3) := dk_180 0 140 (dk_at dksX5_sumOf_1 0 rfl rfl)
theorem dX5_sumOf_25 : decode cX5_sumOf 25 = .ok (.iload_n 1, 1) := dk_27 (dk_at dksX5_sumOf_1 3 rfl rfl)
theorem dX5_sumOf_26 : decode cX5_sumOf 26 = .ok (.iconst 1, 1) := dk_4 (dk_at dksX5_sumOf_1 4 rfl rfl)
theorem dX5_sumOf_27 : decode cX5_sumOf 27 = .ok (.iadd, 1) := dk_96 (dk_at dksX5_sumOf_1 5 rfl rfl)
theorem dX5_sumOf_28 : decode cX5_sumOf 28 = .ok (.iaload, 1) := dk_46 (dk_at dksX5_sumOf_1 6 rfl rfl)
theorem dX5_sumOf_29 : decode cX5_sumOf 29 = .ok (.invokevirtual 397, 3) := dk_182 1 141 (dk_at dksX5_sumOf_1 7 rfl rfl)
theorem dX5_sumOf_32 : decode cX5_sumOf 32 = .ok (.aload_n 0, 1) := dk_42 (dk_at dksX5_sumOf_1 10 rfl rfl)
theorem dX5_sumOf_33 : decode cX5_sumOf 33 = .ok (.iconst 0, 1) := dk_3 (dk_at dksX5_sumOf_1 11 rfl rfl)
theorem dX5_sumOf_34 : decode cX5_sumOf 34 = .ok (.putfield 311, 3) := dk_181 1 55 (dk_at dksX5_sumOf_1 12 rfl rfl)
theorem dX5_sumOf_37 : decode cX5_sumOf 37 = .ok (.aload_n 0, 1) := dk_42 (dk_at dksX5_sumOf_1 15 rfl rfl)
theorem dX5_sumOf_38 : decode cX5_sumOf 38 = .ok (.aload_n 0, 1) := dk_42 (dk_at dksX5_sumOf_1 16 rfl rfl)
theorem dX5_sumOf_39 : decode cX5_sumOf 39 = .ok (.getfield 380, 3) := dk_180 1 124 (dk_at dksX5_sumOf_1 17 rfl rfl)
theorem dX5_sumOf_42 : decode cX5_sumOf 42 = .ok (.putfield 563, 3) := dk_181 2 51 (dk_at dksX5_sumOf_1 20 rfl rfl)
theorem dX5_sumOf_45 : decode cX5_sumOf 45 = .ok (.aload_n 0, 1) := dk_42 (dk_at dksX5_sumOf_1 23 rfl rfl)
theorem dX5_sumOf_46 : decode cX5_sumOf 46 = .ok (.getfield 394, 3) := dk_180 1 138 (dk_at dksX5_sumOf_2 0 rfl rfl)
theorem dX5_sumOf_49 : decode cX5_sumOf 49 = .ok (.lreturn, 1) := dk_173 (dk_at dksX5_sumOf_2 3 rfl rfl)
abbrev cX5_giveBack : ByteArray := prog_22_method_119_code
def yX5_giveBack : MethodName := ⟨RX5, "giveBack", "(I)V"⟩
def dkwX5_giveBack_4 : List UInt8 := [132, 2, 1, 167, 255, 228, 177]
abbrev dktX5_giveBack_4 : List UInt8 := dkwX5_giveBack_4 ++ []
def dkwX5_giveBack_3 : List UInt8 := [162, 0, 28, 42, 180, 0, 13, 16, 13, 8, 28, 104, 96, 7, 96, 42, 180, 0, 32, 28, 46, 79]
abbrev dktX5_giveBack_3 : List UInt8 := dkwX5_giveBack_3 ++ dktX5_giveBack_4
def dkwX5_giveBack_2 : List UInt8 := [132, 2, 1, 167, 255, 235, 42, 27, 181, 0, 173, 42, 16, 102, 182, 0, 180, 3, 61, 28, 16, 6]
abbrev dktX5_giveBack_2 : List UInt8 := dkwX5_giveBack_2 ++ dktX5_giveBack_3
def dkwX5_giveBack_1 : List UInt8 := [167, 255, 235, 3, 61, 28, 16, 16, 162, 0, 21, 42, 180, 0, 26, 28, 42, 180, 0, 35, 28, 46, 79]
abbrev dktX5_giveBack_1 : List UInt8 := dkwX5_giveBack_1 ++ dktX5_giveBack_2
def dkwX5_giveBack_0 : List UInt8 := [3, 61, 28, 16, 108, 162, 0, 21, 42, 180, 0, 23, 28, 42, 180, 0, 29, 28, 46, 79, 132, 2, 1]
abbrev dktX5_giveBack_0 : List UInt8 := dkwX5_giveBack_0 ++ dktX5_giveBack_1
theorem dksX5_giveBack_0 : cX5_giveBack.data.toList.drop 0 = dktX5_giveBack_0 := by decide +kernel
theorem dksX5_giveBack_1 : cX5_giveBack.data.toList.drop 23 = dktX5_giveBack_1 := dk_seg dksX5_giveBack_0 23 rfl rfl
theorem dksX5_giveBack_2 : cX5_giveBack.data.toList.drop 46 = dktX5_giveBack_2 := dk_seg dksX5_giveBack_1 23 rfl rfl
theorem dksX5_giveBack_3 : cX5_giveBack.data.toList.drop 68 = dktX5_giveBack_3 := dk_seg dksX5_giveBack_2 22 rfl rfl
theorem dksX5_giveBack_4 : cX5_giveBack.data.toList.drop 90 = dktX5_giveBack_4 := dk_seg dksX5_giveBack_3 22 rfl rfl
theorem dX5_giveBack_0 : decode cX5_giveBack 0 = .ok (.iconst 0, 1) := dk_3 (dk_at dksX5_giveBack_0 0 rfl rfl)
theorem dX5_giveBack_1 : decode cX5_giveBack 1 = .ok (.istore_n 2, 1) := dk_61 (dk_at dksX5_giveBack_0 1 rfl rfl)
theorem dX5_giveBack_2 : decode cX5_giveBack 2 = .ok (.iload_n 2, 1) := dk_28 (dk_at dksX5_giveBack_0 2 rfl rfl)
theorem dX5_giveBack_3 : decode cX5_giveBack 3 = .ok (.bipush 108, 2) := dk_16 108 (dk_at dksX5_giveBack_0 3 rfl rfl)
theorem dX5_giveBack_5 : decode cX5_giveBack 5 = .ok (.if_icmp .ge 21, 3) := dk_162 0 21 (dk_at dksX5_giveBack_0 5 rfl rfl)
theorem dX5_giveBack_8 : decode cX5_giveBack 8 = .ok (.aload_n 0, 1) := dk_42 (dk_at dksX5_giveBack_0 8 rfl rfl)
theorem dX5_giveBack_9 : decode cX5_giveBack 9 = .ok (.getfield 23, 3) := dk_180 0 23 (dk_at dksX5_giveBack_0 9 rfl rfl)
theorem dX5_giveBack_12 : decode cX5_giveBack 12 = .ok (.iload_n 2, 1) := dk_28 (dk_at dksX5_giveBack_0 12 rfl rfl)
theorem dX5_giveBack_13 : decode cX5_giveBack 13 = .ok (.aload_n 0, 1) := dk_42 (dk_at dksX5_giveBack_0 13 rfl rfl)
theorem dX5_giveBack_14 : decode cX5_giveBack 14 = .ok (.getfield 29, 3) := dk_180 0 29 (dk_at dksX5_giveBack_0 14 rfl rfl)
theorem dX5_giveBack_17 : decode cX5_giveBack 17 = .ok (.iload_n 2, 1) := dk_28 (dk_at dksX5_giveBack_0 17 rfl rfl)
theorem dX5_giveBack_18 : decode cX5_giveBack 18 = .ok (.iaload, 1) := dk_46 (dk_at dksX5_giveBack_0 18 rfl rfl)
theorem dX5_giveBack_19 : decode cX5_giveBack 19 = .ok (.iastore, 1) := dk_79 (dk_at dksX5_giveBack_0 19 rfl rfl)
theorem dX5_giveBack_20 : decode cX5_giveBack 20 = .ok (.iinc 2 1, 3) := dk_132 2 1 (dk_at dksX5_giveBack_0 20 rfl rfl)
theorem dX5_giveBack_23 : decode cX5_giveBack 23 = .ok (.goto (-21), 3) := dk_167 255 235 (dk_at dksX5_giveBack_1 0 rfl rfl)
theorem dX5_giveBack_26 : decode cX5_giveBack 26 = .ok (.iconst 0, 1) := dk_3 (dk_at dksX5_giveBack_1 3 rfl rfl)
theorem dX5_giveBack_27 : decode cX5_giveBack 27 = .ok (.istore_n 2, 1) := dk_61 (dk_at dksX5_giveBack_1 4 rfl rfl)
theorem dX5_giveBack_28 : decode cX5_giveBack 28 = .ok (.iload_n 2, 1) := dk_28 (dk_at dksX5_giveBack_1 5 rfl rfl)
theorem dX5_giveBack_29 : decode cX5_giveBack 29 = .ok (.bipush 16, 2) := dk_16 16 (dk_at dksX5_giveBack_1 6 rfl rfl)
theorem dX5_giveBack_31 : decode cX5_giveBack 31 = .ok (.if_icmp .ge 21, 3) := dk_162 0 21 (dk_at dksX5_giveBack_1 8 rfl rfl)
theorem dX5_giveBack_34 : decode cX5_giveBack 34 = .ok (.aload_n 0, 1) := dk_42 (dk_at dksX5_giveBack_1 11 rfl rfl)
theorem dX5_giveBack_35 : decode cX5_giveBack 35 = .ok (.getfield 26, 3) := dk_180 0 26 (dk_at dksX5_giveBack_1 12 rfl rfl)
theorem dX5_giveBack_38 : decode cX5_giveBack 38 = .ok (.iload_n 2, 1) := dk_28 (dk_at dksX5_giveBack_1 15 rfl rfl)
theorem dX5_giveBack_39 : decode cX5_giveBack 39 = .ok (.aload_n 0, 1) := dk_42 (dk_at dksX5_giveBack_1 16 rfl rfl)
theorem dX5_giveBack_40 : decode cX5_giveBack 40 = .ok (.getfield 35, 3) := dk_180 0 35 (dk_at dksX5_giveBack_1 17 rfl rfl)
theorem dX5_giveBack_43 : decode cX5_giveBack 43 = .ok (.iload_n 2, 1) := dk_28 (dk_at dksX5_giveBack_1 20 rfl rfl)
theorem dX5_giveBack_44 : decode cX5_giveBack 44 = .ok (.iaload, 1) := dk_46 (dk_at dksX5_giveBack_1 21 rfl rfl)
theorem dX5_giveBack_45 : decode cX5_giveBack 45 = .ok (.iastore, 1) := dk_79 (dk_at dksX5_giveBack_1 22 rfl rfl)
theorem dX5_giveBack_46 : decode cX5_giveBack 46 = .ok (.iinc 2 1, 3) := dk_132 2 1 (dk_at dksX5_giveBack_2 0 rfl rfl)
theorem dX5_giveBack_49 : decode cX5_giveBack 49 = .ok (.goto (-21), 3) := dk_167 255 235 (dk_at dksX5_giveBack_2 3 rfl rfl)
theorem dX5_giveBack_52 : decode cX5_giveBack 52 = .ok (.aload_n 0, 1) := dk_42 (dk_at dksX5_giveBack_2 6 rfl rfl)
theorem dX5_giveBack_53 : decode cX5_giveBack 53 = .ok (.iload_n 1, 1) := dk_27 (dk_at dksX5_giveBack_2 7 rfl rfl)
theorem dX5_giveBack_54 : decode cX5_giveBack 54 = .ok (.putfield 173, 3) := dk_181 0 173 (dk_at dksX5_giveBack_2 8 rfl rfl)
theorem dX5_giveBack_57 : decode cX5_giveBack 57 = .ok (.aload_n 0, 1) := dk_42 (dk_at dksX5_giveBack_2 11 rfl rfl)
theorem dX5_giveBack_58 : decode cX5_giveBack 58 = .ok (.bipush 102, 2) := dk_16 102 (dk_at dksX5_giveBack_2 12 rfl rfl)
theorem dX5_giveBack_60 : decode cX5_giveBack 60 = .ok (.invokevirtual 180, 3) := dk_182 0 180 (dk_at dksX5_giveBack_2 14 rfl rfl)
theorem dX5_giveBack_63 : decode cX5_giveBack 63 = .ok (.iconst 0, 1) := dk_3 (dk_at dksX5_giveBack_2 17 rfl rfl)
theorem dX5_giveBack_64 : decode cX5_giveBack 64 = .ok (.istore_n 2, 1) := dk_61 (dk_at dksX5_giveBack_2 18 rfl rfl)
theorem dX5_giveBack_65 : decode cX5_giveBack 65 = .ok (.iload_n 2, 1) := dk_28 (dk_at dksX5_giveBack_2 19 rfl rfl)
theorem dX5_giveBack_66 : decode cX5_giveBack 66 = .ok (.bipush 6, 2) := dk_16 6 (dk_at dksX5_giveBack_2 20 rfl rfl)
theorem dX5_giveBack_68 : decode cX5_giveBack 68 = .ok (.if_icmp .ge 28, 3) := dk_162 0 28 (dk_at dksX5_giveBack_3 0 rfl rfl)
theorem dX5_giveBack_71 : decode cX5_giveBack 71 = .ok (.aload_n 0, 1) := dk_42 (dk_at dksX5_giveBack_3 3 rfl rfl)
theorem dX5_giveBack_72 : decode cX5_giveBack 72 = .ok (.getfield 13, 3) := dk_180 0 13 (dk_at dksX5_giveBack_3 4 rfl rfl)
theorem dX5_giveBack_75 : decode cX5_giveBack 75 = .ok (.bipush 13, 2) := dk_16 13 (dk_at dksX5_giveBack_3 7 rfl rfl)
theorem dX5_giveBack_77 : decode cX5_giveBack 77 = .ok (.iconst 5, 1) := dk_8 (dk_at dksX5_giveBack_3 9 rfl rfl)
theorem dX5_giveBack_78 : decode cX5_giveBack 78 = .ok (.iload_n 2, 1) := dk_28 (dk_at dksX5_giveBack_3 10 rfl rfl)
theorem dX5_giveBack_79 : decode cX5_giveBack 79 = .ok (.imul, 1) := dk_104 (dk_at dksX5_giveBack_3 11 rfl rfl)
theorem dX5_giveBack_80 : decode cX5_giveBack 80 = .ok (.iadd, 1) := dk_96 (dk_at dksX5_giveBack_3 12 rfl rfl)
theorem dX5_giveBack_81 : decode cX5_giveBack 81 = .ok (.iconst 4, 1) := dk_7 (dk_at dksX5_giveBack_3 13 rfl rfl)
theorem dX5_giveBack_82 : decode cX5_giveBack 82 = .ok (.iadd, 1) := dk_96 (dk_at dksX5_giveBack_3 14 rfl rfl)
theorem dX5_giveBack_83 : decode cX5_giveBack 83 = .ok (.aload_n 0, 1) := dk_42 (dk_at dksX5_giveBack_3 15 rfl rfl)
theorem dX5_giveBack_84 : decode cX5_giveBack 84 = .ok (.getfield 32, 3) := dk_180 0 32 (dk_at dksX5_giveBack_3 16 rfl rfl)
theorem dX5_giveBack_87 : decode cX5_giveBack 87 = .ok (.iload_n 2, 1) := dk_28 (dk_at dksX5_giveBack_3 19 rfl rfl)
theorem dX5_giveBack_88 : decode cX5_giveBack 88 = .ok (.iaload, 1) := dk_46 (dk_at dksX5_giveBack_3 20 rfl rfl)
theorem dX5_giveBack_89 : decode cX5_giveBack 89 = .ok (.iastore, 1) := dk_79 (dk_at dksX5_giveBack_3 21 rfl rfl)
theorem dX5_giveBack_90 : decode cX5_giveBack 90 = .ok (.iinc 2 1, 3) := dk_132 2 1 (dk_at dksX5_giveBack_4 0 rfl rfl)
theorem dX5_giveBack_93 : decode cX5_giveBack 93 = .ok (.goto (-28), 3) := dk_167 255 228 (dk_at dksX5_giveBack_4 3 rfl rfl)
theorem dX5_giveBack_96 : decode cX5_giveBack 96 = .ok (.return_, 1) := dk_177 (dk_at dksX5_giveBack_4 6 rfl rfl)
abbrev cX5_stopped : ByteArray := prog_22_method_120_code
def yX5_stopped : MethodName := ⟨RX5, "stopped", "()I"⟩
def dkwX5_stopped_0 : List UInt8 := [42, 3, 181, 0, 149, 42, 180, 0, 143, 172]
abbrev dktX5_stopped_0 : List UInt8 := dkwX5_stopped_0 ++ []
theorem dksX5_stopped_0 : cX5_stopped.data.toList.drop 0 = dktX5_stopped_0 := by decide +kernel
theorem dX5_stopped_0 : decode cX5_stopped 0 = .ok (.aload_n 0, 1) := dk_42 (dk_at dksX5_stopped_0 0 rfl rfl)
theorem dX5_stopped_1 : decode cX5_stopped 1 = .ok (.iconst 0, 1) := dk_3 (dk_at dksX5_stopped_0 1 rfl rfl)
theorem dX5_stopped_2 : decode cX5_stopped 2 = .ok (.putfield 149, 3) := dk_181 0 149 (dk_at dksX5_stopped_0 2 rfl rfl)
theorem dX5_stopped_5 : decode cX5_stopped 5 = .ok (.aload_n 0, 1) := dk_42 (dk_at dksX5_stopped_0 5 rfl rfl)
theorem dX5_stopped_6 : decode cX5_stopped 6 = .ok (.getfield 143, 3) := dk_180 0 143 (dk_at dksX5_stopped_0 6 rfl rfl)
theorem dX5_stopped_9 : decode cX5_stopped 9 = .ok (.ireturn, 1) := dk_172 (dk_at dksX5_stopped_0 9 rfl rfl)
abbrev cX5_weddings : ByteArray := prog_22_method_125_code
def yX5_weddings : MethodName := ⟨RX5, "weddings", "(II)I"⟩
def dkwX5_weddings_8 : List UInt8 := [132, 4, 1, 167, 255, 165, 42, 29, 182, 0, 155, 172]
abbrev dktX5_weddings_8 : List UInt8 := dkwX5_weddings_8 ++ []
def dkwX5_weddings_7 : List UInt8 := [160, 0, 7, 3, 167, 0, 10, 42, 21, 6, 3, 182, 2, 99, 96, 62, 132, 6, 1, 167, 255, 223]
abbrev dktX5_weddings_7 : List UInt8 := dkwX5_weddings_7 ++ dktX5_weddings_8
def dkwX5_weddings_6 : List UInt8 := [182, 2, 99, 96, 62, 3, 54, 6, 21, 6, 42, 180, 2, 90, 162, 0, 30, 29, 21, 6, 21, 5]
abbrev dktX5_weddings_6 : List UInt8 := dkwX5_weddings_6 ++ dktX5_weddings_7
def dkwX5_weddings_5 : List UInt8 := [2, 159, 0, 26, 42, 180, 0, 146, 5, 21, 5, 104, 92, 46, 4, 96, 79, 29, 42, 21, 5, 4]
abbrev dktX5_weddings_5 : List UInt8 := dkwX5_weddings_5 ++ dktX5_weddings_6
def dkwX5_weddings_4 : List UInt8 := [54, 4, 21, 4, 28, 162, 0, 91, 42, 42, 182, 2, 93, 182, 1, 217, 42, 182, 2, 96, 54, 5, 21, 5]
abbrev dktX5_weddings_4 : List UInt8 := dkwX5_weddings_4 ++ dktX5_weddings_5
def dkwX5_weddings_3 : List UInt8 := [162, 0, 16, 42, 180, 0, 146, 29, 3, 79, 132, 3, 1, 167, 255, 240, 3, 62, 42, 182, 1, 198, 3]
abbrev dktX5_weddings_3 : List UInt8 := dkwX5_weddings_3 ++ dktX5_weddings_4
def dkwX5_weddings_2 : List UInt8 := [42, 180, 0, 13, 3, 46, 181, 2, 90, 42, 42, 180, 2, 90, 181, 1, 211, 3, 62, 29, 16, 12]
abbrev dktX5_weddings_2 : List UInt8 := dkwX5_weddings_2 ++ dktX5_weddings_3
def dkwX5_weddings_1 : List UInt8 := [184, 0, 159, 154, 0, 9, 42, 2, 182, 0, 155, 172, 42, 27, 133, 181, 2, 73, 42, 4, 181, 2, 87, 42]
abbrev dktX5_weddings_1 : List UInt8 := dkwX5_weddings_1 ++ dktX5_weddings_2
def dkwX5_weddings_0 : List UInt8 := [42, 3, 181, 0, 149, 27, 133, 9, 20, 1, 10, 184, 0, 159, 153, 0, 15, 28, 133, 10, 20, 2, 85]
abbrev dktX5_weddings_0 : List UInt8 := dkwX5_weddings_0 ++ dktX5_weddings_1
theorem dksX5_weddings_0 : cX5_weddings.data.toList.drop 0 = dktX5_weddings_0 := by decide +kernel
theorem dksX5_weddings_1 : cX5_weddings.data.toList.drop 23 = dktX5_weddings_1 := dk_seg dksX5_weddings_0 23 rfl rfl
theorem dksX5_weddings_2 : cX5_weddings.data.toList.drop 47 = dktX5_weddings_2 := dk_seg dksX5_weddings_1 24 rfl rfl
theorem dksX5_weddings_3 : cX5_weddings.data.toList.drop 69 = dktX5_weddings_3 := dk_seg dksX5_weddings_2 22 rfl rfl
theorem dksX5_weddings_4 : cX5_weddings.data.toList.drop 92 = dktX5_weddings_4 := dk_seg dksX5_weddings_3 23 rfl rfl
theorem dksX5_weddings_5 : cX5_weddings.data.toList.drop 116 = dktX5_weddings_5 := dk_seg dksX5_weddings_4 24 rfl rfl
theorem dksX5_weddings_6 : cX5_weddings.data.toList.drop 138 = dktX5_weddings_6 := dk_seg dksX5_weddings_5 22 rfl rfl
theorem dksX5_weddings_7 : cX5_weddings.data.toList.drop 160 = dktX5_weddings_7 := dk_seg dksX5_weddings_6 22 rfl rfl
theorem dksX5_weddings_8 : cX5_weddings.data.toList.drop 182 = dktX5_weddings_8 := dk_seg dksX5_weddings_7 22 rfl rfl
theorem dX5_weddings_0 : decode cX5_weddings 0 = .ok (.aload_n 0, 1) := dk_42 (dk_at dksX5_weddings_0 0 rfl rfl)
theorem dX5_weddings_1 : decode cX5_weddings 1 = .ok (.iconst 0, 1) := dk_3 (dk_at dksX5_weddings_0 1 rfl rfl)
theorem dX5_weddings_2 : decode cX5_weddings 2 = .ok (.putfield 149, 3) := dk_181 0 149 (dk_at dksX5_weddings_0 2 rfl rfl)
theorem dX5_weddings_5 : decode cX5_weddings 5 = .ok (.iload_n 1, 1) := dk_27 (dk_at dksX5_weddings_0 5 rfl rfl)
theorem dX5_weddings_6 : decode cX5_weddings 6 = .ok (.i2l, 1) := dk_133 (dk_at dksX5_weddings_0 6 rfl rfl)
theorem dX5_weddings_7 : decode cX5_weddings 7 = .ok (.lconst 0, 1) := dk_9 (dk_at dksX5_weddings_0 7 rfl rfl)
theorem dX5_weddings_8 : decode cX5_weddings 8 = .ok (.ldc2_w 266, 3) := dk_20 1 10 (dk_at dksX5_weddings_0 8 rfl rfl)
theorem dX5_weddings_11 : decode cX5_weddings 11 = .ok (.invokestatic 159, 3) := dk_184 0 159 (dk_at dksX5_weddings_0 11 rfl rfl)
theorem dX5_weddings_14 : decode cX5_weddings 14 = .ok (.ifCond .eq 15, 3) := dk_153 0 15 (dk_at dksX5_weddings_0 14 rfl rfl)
theorem dX5_weddings_17 : decode cX5_weddings 17 = .ok (.iload_n 2, 1) := dk_28 (dk_at dksX5_weddings_0 17 rfl rfl)
theorem dX5_weddings_18 : decode cX5_weddings 18 = .ok (.i2l, 1) := dk_133 (dk_at dksX5_weddings_0 18 rfl rfl)
theorem dX5_weddings_19 : decode cX5_weddings 19 = .ok (.lconst 1, 1) := dk_10 (dk_at dksX5_weddings_0 19 rfl rfl)
theorem dX5_weddings_20 : decode cX5_weddings 20 = .ok (.ldc2_w 597, 3) := dk_20 2 85 (dk_at dksX5_weddings_0 20 rfl rfl)
theorem dX5_weddings_23 : decode cX5_weddings 23 = .ok (.invokestatic 159, 3) := dk_184 0 159 (dk_at dksX5_weddings_1 0 rfl rfl)
theorem dX5_weddings_26 : decode cX5_weddings 26 = .ok (.ifCond .ne 9, 3) := dk_154 0 9 (dk_at dksX5_weddings_1 3 rfl rfl)
theorem dX5_weddings_29 : decode cX5_weddings 29 = .ok (.aload_n 0, 1) := dk_42 (dk_at dksX5_weddings_1 6 rfl rfl)
theorem dX5_weddings_30 : decode cX5_weddings 30 = .ok (.iconst (-1), 1) := dk_2 (dk_at dksX5_weddings_1 7 rfl rfl)
theorem dX5_weddings_31 : decode cX5_weddings 31 = .ok (.invokevirtual 155, 3) := dk_182 0 155 (dk_at dksX5_weddings_1 8 rfl rfl)
theorem dX5_weddings_34 : decode cX5_weddings 34 = .ok (.ireturn, 1) := dk_172 (dk_at dksX5_weddings_1 11 rfl rfl)
theorem dX5_weddings_35 : decode cX5_weddings 35 = .ok (.aload_n 0, 1) := dk_42 (dk_at dksX5_weddings_1 12 rfl rfl)
theorem dX5_weddings_36 : decode cX5_weddings 36 = .ok (.iload_n 1, 1) := dk_27 (dk_at dksX5_weddings_1 13 rfl rfl)
theorem dX5_weddings_37 : decode cX5_weddings 37 = .ok (.i2l, 1) := dk_133 (dk_at dksX5_weddings_1 14 rfl rfl)
theorem dX5_weddings_38 : decode cX5_weddings 38 = .ok (.putfield 585, 3) := dk_181 2 73 (dk_at dksX5_weddings_1 15 rfl rfl)
theorem dX5_weddings_41 : decode cX5_weddings 41 = .ok (.aload_n 0, 1) := dk_42 (dk_at dksX5_weddings_1 18 rfl rfl)
theorem dX5_weddings_42 : decode cX5_weddings 42 = .ok (.iconst 1, 1) := dk_4 (dk_at dksX5_weddings_1 19 rfl rfl)
theorem dX5_weddings_43 : decode cX5_weddings 43 = .ok (.putfield 599, 3) := dk_181 2 87 (dk_at dksX5_weddings_1 20 rfl rfl)
theorem dX5_weddings_46 : decode cX5_weddings 46 = .ok (.aload_n 0, 1) := dk_42 (dk_at dksX5_weddings_1 23 rfl rfl)
theorem dX5_weddings_47 : decode cX5_weddings 47 = .ok (.aload_n 0, 1) := dk_42 (dk_at dksX5_weddings_2 0 rfl rfl)
theorem dX5_weddings_48 : decode cX5_weddings 48 = .ok (.getfield 13, 3) := dk_180 0 13 (dk_at dksX5_weddings_2 1 rfl rfl)
theorem dX5_weddings_51 : decode cX5_weddings 51 = .ok (.iconst 0, 1) := dk_3 (dk_at dksX5_weddings_2 4 rfl rfl)
theorem dX5_weddings_52 : decode cX5_weddings 52 = .ok (.iaload, 1) := dk_46 (dk_at dksX5_weddings_2 5 rfl rfl)
theorem dX5_weddings_53 : decode cX5_weddings 53 = .ok (.putfield 602, 3) := dk_181 2 90 (dk_at dksX5_weddings_2 6 rfl rfl)
theorem dX5_weddings_56 : decode cX5_weddings 56 = .ok (.aload_n 0, 1) := dk_42 (dk_at dksX5_weddings_2 9 rfl rfl)
theorem dX5_weddings_57 : decode cX5_weddings 57 = .ok (.aload_n 0, 1) := dk_42 (dk_at dksX5_weddings_2 10 rfl rfl)
theorem dX5_weddings_58 : decode cX5_weddings 58 = .ok (.getfield 602, 3) := dk_180 2 90 (dk_at dksX5_weddings_2 11 rfl rfl)
theorem dX5_weddings_61 : decode cX5_weddings 61 = .ok (.putfield 467, 3) := dk_181 1 211 (dk_at dksX5_weddings_2 14 rfl rfl)
theorem dX5_weddings_64 : decode cX5_weddings 64 = .ok (.iconst 0, 1) := dk_3 (dk_at dksX5_weddings_2 17 rfl rfl)
theorem dX5_weddings_65 : decode cX5_weddings 65 = .ok (.istore_n 3, 1) := dk_62 (dk_at dksX5_weddings_2 18 rfl rfl)
theorem dX5_weddings_66 : decode cX5_weddings 66 = .ok (.iload_n 3, 1) := dk_29 (dk_at dksX5_weddings_2 19 rfl rfl)
theorem dX5_weddings_67 : decode cX5_weddings 67 = .ok (.bipush 12, 2) := dk_16 12 (dk_at dksX5_weddings_2 20 rfl rfl)
theorem dX5_weddings_69 : decode cX5_weddings 69 = .ok (.if_icmp .ge 16, 3) := dk_162 0 16 (dk_at dksX5_weddings_3 0 rfl rfl)
theorem dX5_weddings_72 : decode cX5_weddings 72 = .ok (.aload_n 0, 1) := dk_42 (dk_at dksX5_weddings_3 3 rfl rfl)
theorem dX5_weddings_73 : decode cX5_weddings 73 = .ok (.getfield 146, 3) := dk_180 0 146 (dk_at dksX5_weddings_3 4 rfl rfl)
theorem dX5_weddings_76 : decode cX5_weddings 76 = .ok (.iload_n 3, 1) := dk_29 (dk_at dksX5_weddings_3 7 rfl rfl)
theorem dX5_weddings_77 : decode cX5_weddings 77 = .ok (.iconst 0, 1) := dk_3 (dk_at dksX5_weddings_3 8 rfl rfl)
theorem dX5_weddings_78 : decode cX5_weddings 78 = .ok (.iastore, 1) := dk_79 (dk_at dksX5_weddings_3 9 rfl rfl)
theorem dX5_weddings_79 : decode cX5_weddings 79 = .ok (.iinc 3 1, 3) := dk_132 3 1 (dk_at dksX5_weddings_3 10 rfl rfl)
theorem dX5_weddings_82 : decode cX5_weddings 82 = .ok (.goto (-16), 3) := dk_167 255 240 (dk_at dksX5_weddings_3 13 rfl rfl)
theorem dX5_weddings_85 : decode cX5_weddings 85 = .ok (.iconst 0, 1) := dk_3 (dk_at dksX5_weddings_3 16 rfl rfl)
theorem dX5_weddings_86 : decode cX5_weddings 86 = .ok (.istore_n 3, 1) := dk_62 (dk_at dksX5_weddings_3 17 rfl rfl)
theorem dX5_weddings_87 : decode cX5_weddings 87 = .ok (.aload_n 0, 1) := dk_42 (dk_at dksX5_weddings_3 18 rfl rfl)
theorem dX5_weddings_88 : decode cX5_weddings 88 = .ok (.invokevirtual 454, 3) := dk_182 1 198 (dk_at dksX5_weddings_3 19 rfl rfl)
theorem dX5_weddings_91 : decode cX5_weddings 91 = .ok (.iconst 0, 1) := dk_3 (dk_at dksX5_weddings_3 22 rfl rfl)
theorem dX5_weddings_92 : decode cX5_weddings 92 = .ok (.istore 4, 2) := dk_54 4 (dk_at dksX5_weddings_4 0 rfl rfl)
theorem dX5_weddings_94 : decode cX5_weddings 94 = .ok (.iload 4, 2) := dk_21 4 (dk_at dksX5_weddings_4 2 rfl rfl)
theorem dX5_weddings_96 : decode cX5_weddings 96 = .ok (.iload_n 2, 1) := dk_28 (dk_at dksX5_weddings_4 4 rfl rfl)
theorem dX5_weddings_97 : decode cX5_weddings 97 = .ok (.if_icmp .ge 91, 3) := dk_162 0 91 (dk_at dksX5_weddings_4 5 rfl rfl)
theorem dX5_weddings_100 : decode cX5_weddings 100 = .ok (.aload_n 0, 1) := dk_42 (dk_at dksX5_weddings_4 8 rfl rfl)
theorem dX5_weddings_101 : decode cX5_weddings 101 = .ok (.aload_n 0, 1) := dk_42 (dk_at dksX5_weddings_4 9 rfl rfl)
theorem dX5_weddings_102 : decode cX5_weddings 102 = .ok (.invokevirtual 605, 3) := dk_182 2 93 (dk_at dksX5_weddings_4 10 rfl rfl)
theorem dX5_weddings_105 : decode cX5_weddings 105 = .ok (.invokevirtual 473, 3) := dk_182 1 217 (dk_at dksX5_weddings_4 13 rfl rfl)
theorem dX5_weddings_108 : decode cX5_weddings 108 = .ok (.aload_n 0, 1) := dk_42 (dk_at dksX5_weddings_4 16 rfl rfl)
theorem dX5_weddings_109 : decode cX5_weddings 109 = .ok (.invokevirtual 608, 3) := dk_182 2 96 (dk_at dksX5_weddings_4 17 rfl rfl)
theorem dX5_weddings_112 : decode cX5_weddings 112 = .ok (.istore 5, 2) := dk_54 5 (dk_at dksX5_weddings_4 20 rfl rfl)
theorem dX5_weddings_114 : decode cX5_weddings 114 = .ok (.iload 5, 2) := dk_21 5 (dk_at dksX5_weddings_4 22 rfl rfl)
theorem dX5_weddings_116 : decode cX5_weddings 116 = .ok (.iconst (-1), 1) := dk_2 (dk_at dksX5_weddings_5 0 rfl rfl)
theorem dX5_weddings_117 : decode cX5_weddings 117 = .ok (.if_icmp .eq 26, 3) := dk_159 0 26 (dk_at dksX5_weddings_5 1 rfl rfl)
theorem dX5_weddings_120 : decode cX5_weddings 120 = .ok (.aload_n 0, 1) := dk_42 (dk_at dksX5_weddings_5 4 rfl rfl)
theorem dX5_weddings_121 : decode cX5_weddings 121 = .ok (.getfield 146, 3) := dk_180 0 146 (dk_at dksX5_weddings_5 5 rfl rfl)
theorem dX5_weddings_124 : decode cX5_weddings 124 = .ok (.iconst 2, 1) := dk_5 (dk_at dksX5_weddings_5 8 rfl rfl)
theorem dX5_weddings_125 : decode cX5_weddings 125 = .ok (.iload 5, 2) := dk_21 5 (dk_at dksX5_weddings_5 9 rfl rfl)
theorem dX5_weddings_127 : decode cX5_weddings 127 = .ok (.imul, 1) := dk_104 (dk_at dksX5_weddings_5 11 rfl rfl)
theorem dX5_weddings_128 : decode cX5_weddings 128 = .ok (.dup2, 1) := dk_92 (dk_at dksX5_weddings_5 12 rfl rfl)
theorem dX5_weddings_129 : decode cX5_weddings 129 = .ok (.iaload, 1) := dk_46 (dk_at dksX5_weddings_5 13 rfl rfl)
theorem dX5_weddings_130 : decode cX5_weddings 130 = .ok (.iconst 1, 1) := dk_4 (dk_at dksX5_weddings_5 14 rfl rfl)
theorem dX5_weddings_131 : decode cX5_weddings 131 = .ok (.iadd, 1) := dk_96 (dk_at dksX5_weddings_5 15 rfl rfl)
theorem dX5_weddings_132 : decode cX5_weddings 132 = .ok (.iastore, 1) := dk_79 (dk_at dksX5_weddings_5 16 rfl rfl)
theorem dX5_weddings_133 : decode cX5_weddings 133 = .ok (.iload_n 3, 1) := dk_29 (dk_at dksX5_weddings_5 17 rfl rfl)
theorem dX5_weddings_134 : decode cX5_weddings 134 = .ok (.aload_n 0, 1) := dk_42 (dk_at dksX5_weddings_5 18 rfl rfl)
theorem dX5_weddings_135 : decode cX5_weddings 135 = .ok (.iload 5, 2) := dk_21 5 (dk_at dksX5_weddings_5 19 rfl rfl)
theorem dX5_weddings_137 : decode cX5_weddings 137 = .ok (.iconst 1, 1) := dk_4 (dk_at dksX5_weddings_5 21 rfl rfl)
theorem dX5_weddings_138 : decode cX5_weddings 138 = .ok (.invokevirtual 611, 3) := dk_182 2 99 (dk_at dksX5_weddings_6 0 rfl rfl)
theorem dX5_weddings_141 : decode cX5_weddings 141 = .ok (.iadd, 1) := dk_96 (dk_at dksX5_weddings_6 3 rfl rfl)
theorem dX5_weddings_142 : decode cX5_weddings 142 = .ok (.istore_n 3, 1) := dk_62 (dk_at dksX5_weddings_6 4 rfl rfl)
theorem dX5_weddings_143 : decode cX5_weddings 143 = .ok (.iconst 0, 1) := dk_3 (dk_at dksX5_weddings_6 5 rfl rfl)
theorem dX5_weddings_144 : decode cX5_weddings 144 = .ok (.istore 6, 2) := dk_54 6 (dk_at dksX5_weddings_6 6 rfl rfl)
theorem dX5_weddings_146 : decode cX5_weddings 146 = .ok (.iload 6, 2) := dk_21 6 (dk_at dksX5_weddings_6 8 rfl rfl)
theorem dX5_weddings_148 : decode cX5_weddings 148 = .ok (.aload_n 0, 1) := dk_42 (dk_at dksX5_weddings_6 10 rfl rfl)
theorem dX5_weddings_149 : decode cX5_weddings 149 = .ok (.getfield 602, 3) := dk_180 2 90 (dk_at dksX5_weddings_6 11 rfl rfl)
theorem dX5_weddings_152 : decode cX5_weddings 152 = .ok (.if_icmp .ge 30, 3) := dk_162 0 30 (dk_at dksX5_weddings_6 14 rfl rfl)
theorem dX5_weddings_155 : decode cX5_weddings 155 = .ok (.iload_n 3, 1) := dk_29 (dk_at dksX5_weddings_6 17 rfl rfl)
theorem dX5_weddings_156 : decode cX5_weddings 156 = .ok (.iload 6, 2) := dk_21 6 (dk_at dksX5_weddings_6 18 rfl rfl)
theorem dX5_weddings_158 : decode cX5_weddings 158 = .ok (.iload 5, 2) := dk_21 5 (dk_at dksX5_weddings_6 20 rfl rfl)
theorem dX5_weddings_160 : decode cX5_weddings 160 = .ok (.if_icmp .ne 7, 3) := dk_160 0 7 (dk_at dksX5_weddings_7 0 rfl rfl)
theorem dX5_weddings_163 : decode cX5_weddings 163 = .ok (.iconst 0, 1) := dk_3 (dk_at dksX5_weddings_7 3 rfl rfl)
theorem dX5_weddings_164 : decode cX5_weddings 164 = .ok (.goto 10, 3) := dk_167 0 10 (dk_at dksX5_weddings_7 4 rfl rfl)
theorem dX5_weddings_167 : decode cX5_weddings 167 = .ok (.aload_n 0, 1) := dk_42 (dk_at dksX5_weddings_7 7 rfl rfl)
theorem dX5_weddings_168 : decode cX5_weddings 168 = .ok (.iload 6, 2) := dk_21 6 (dk_at dksX5_weddings_7 8 rfl rfl)
theorem dX5_weddings_170 : decode cX5_weddings 170 = .ok (.iconst 0, 1) := dk_3 (dk_at dksX5_weddings_7 10 rfl rfl)
theorem dX5_weddings_171 : decode cX5_weddings 171 = .ok (.invokevirtual 611, 3) := dk_182 2 99 (dk_at dksX5_weddings_7 11 rfl rfl)
theorem dX5_weddings_174 : decode cX5_weddings 174 = .ok (.iadd, 1) := dk_96 (dk_at dksX5_weddings_7 14 rfl rfl)
theorem dX5_weddings_175 : decode cX5_weddings 175 = .ok (.istore_n 3, 1) := dk_62 (dk_at dksX5_weddings_7 15 rfl rfl)
theorem dX5_weddings_176 : decode cX5_weddings 176 = .ok (.iinc 6 1, 3) := dk_132 6 1 (dk_at dksX5_weddings_7 16 rfl rfl)
theorem dX5_weddings_179 : decode cX5_weddings 179 = .ok (.goto (-33), 3) := dk_167 255 223 (dk_at dksX5_weddings_7 19 rfl rfl)
theorem dX5_weddings_182 : decode cX5_weddings 182 = .ok (.iinc 4 1, 3) := dk_132 4 1 (dk_at dksX5_weddings_8 0 rfl rfl)
theorem dX5_weddings_185 : decode cX5_weddings 185 = .ok (.goto (-91), 3) := dk_167 255 165 (dk_at dksX5_weddings_8 3 rfl rfl)
theorem dX5_weddings_188 : decode cX5_weddings 188 = .ok (.aload_n 0, 1) := dk_42 (dk_at dksX5_weddings_8 6 rfl rfl)
theorem dX5_weddings_189 : decode cX5_weddings 189 = .ok (.iload_n 3, 1) := dk_29 (dk_at dksX5_weddings_8 7 rfl rfl)
theorem dX5_weddings_190 : decode cX5_weddings 190 = .ok (.invokevirtual 155, 3) := dk_182 0 155 (dk_at dksX5_weddings_8 8 rfl rfl)
theorem dX5_weddings_193 : decode cX5_weddings 193 = .ok (.ireturn, 1) := dk_172 (dk_at dksX5_weddings_8 11 rfl rfl)
abbrev cX5_drawCell : ByteArray := prog_22_method_122_code
def yX5_drawCell : MethodName := ⟨RX5, "drawCell", "()I"⟩
def dkwX5_drawCell_1 : List UInt8 := [180, 0, 131, 28, 46, 100, 60, 132, 2, 1, 167, 255, 234, 42, 180, 0, 128, 28, 46, 172]
abbrev dktX5_drawCell_1 : List UInt8 := dkwX5_drawCell_1 ++ []
def dkwX5_drawCell_0 : List UInt8 := [42, 42, 180, 1, 180, 182, 2, 82, 60, 3, 61, 27, 42, 180, 0, 131, 28, 46, 161, 0, 18, 27, 42]
abbrev dktX5_drawCell_0 : List UInt8 := dkwX5_drawCell_0 ++ dktX5_drawCell_1
theorem dksX5_drawCell_0 : cX5_drawCell.data.toList.drop 0 = dktX5_drawCell_0 := by decide +kernel
theorem dksX5_drawCell_1 : cX5_drawCell.data.toList.drop 23 = dktX5_drawCell_1 := dk_seg dksX5_drawCell_0 23 rfl rfl
theorem dX5_drawCell_0 : decode cX5_drawCell 0 = .ok (.aload_n 0, 1) := dk_42 (dk_at dksX5_drawCell_0 0 rfl rfl)
theorem dX5_drawCell_1 : decode cX5_drawCell 1 = .ok (.aload_n 0, 1) := dk_42 (dk_at dksX5_drawCell_0 1 rfl rfl)
theorem dX5_drawCell_2 : decode cX5_drawCell 2 = .ok (.getfield 436, 3) := dk_180 1 180 (dk_at dksX5_drawCell_0 2 rfl rfl)
theorem dX5_drawCell_5 : decode cX5_drawCell 5 = .ok (.invokevirtual 594, 3) := dk_182 2 82 (dk_at dksX5_drawCell_0 5 rfl rfl)
theorem dX5_drawCell_8 : decode cX5_drawCell 8 = .ok (.istore_n 1, 1) := dk_60 (dk_at dksX5_drawCell_0 8 rfl rfl)
theorem dX5_drawCell_9 : decode cX5_drawCell 9 = .ok (.iconst 0, 1) := dk_3 (dk_at dksX5_drawCell_0 9 rfl rfl)
theorem dX5_drawCell_10 : decode cX5_drawCell 10 = .ok (.istore_n 2, 1) := dk_61 (dk_at dksX5_drawCell_0 10 rfl rfl)
theorem dX5_drawCell_11 : decode cX5_drawCell 11 = .ok (.iload_n 1, 1) := dk_27 (dk_at dksX5_drawCell_0 11 rfl rfl)
theorem dX5_drawCell_12 : decode cX5_drawCell 12 = .ok (.aload_n 0, 1) := dk_42 (dk_at dksX5_drawCell_0 12 rfl rfl)
theorem dX5_drawCell_13 : decode cX5_drawCell 13 = .ok (.getfield 131, 3) := dk_180 0 131 (dk_at dksX5_drawCell_0 13 rfl rfl)
theorem dX5_drawCell_16 : decode cX5_drawCell 16 = .ok (.iload_n 2, 1) := dk_28 (dk_at dksX5_drawCell_0 16 rfl rfl)
theorem dX5_drawCell_17 : decode cX5_drawCell 17 = .ok (.iaload, 1) := dk_46 (dk_at dksX5_drawCell_0 17 rfl rfl)
theorem dX5_drawCell_18 : decode cX5_drawCell 18 = .ok (.if_icmp .lt 18, 3) := dk_161 0 18 (dk_at dksX5_drawCell_0 18 rfl rfl)
theorem dX5_drawCell_21 : decode cX5_drawCell 21 = .ok (.iload_n 1, 1) := dk_27 (dk_at dksX5_drawCell_0 21 rfl rfl)
theorem dX5_drawCell_22 : decode cX5_drawCell 22 = .ok (.aload_n 0, 1) := dk_42 (dk_at dksX5_drawCell_0 22 rfl rfl)
theorem dX5_drawCell_23 : decode cX5_drawCell 23 = .ok (.getfield 131, 3) := dk_180 0 131 (dk_at dksX5_drawCell_1 0 rfl rfl)
theorem dX5_drawCell_26 : decode cX5_drawCell 26 = .ok (.iload_n 2, 1) := dk_28 (dk_at dksX5_drawCell_1 3 rfl rfl)
theorem dX5_drawCell_27 : decode cX5_drawCell 27 = .ok (.iaload, 1) := dk_46 (dk_at dksX5_drawCell_1 4 rfl rfl)
theorem dX5_drawCell_28 : decode cX5_drawCell 28 = .ok (.isub, 1) := dk_100 (dk_at dksX5_drawCell_1 5 rfl rfl)
theorem dX5_drawCell_29 : decode cX5_drawCell 29 = .ok (.istore_n 1, 1) := dk_60 (dk_at dksX5_drawCell_1 6 rfl rfl)
theorem dX5_drawCell_30 : decode cX5_drawCell 30 = .ok (.iinc 2 1, 3) := dk_132 2 1 (dk_at dksX5_drawCell_1 7 rfl rfl)
theorem dX5_drawCell_33 : decode cX5_drawCell 33 = .ok (.goto (-22), 3) := dk_167 255 234 (dk_at dksX5_drawCell_1 10 rfl rfl)
theorem dX5_drawCell_36 : decode cX5_drawCell 36 = .ok (.aload_n 0, 1) := dk_42 (dk_at dksX5_drawCell_1 13 rfl rfl)
theorem dX5_drawCell_37 : decode cX5_drawCell 37 = .ok (.getfield 128, 3) := dk_180 0 128 (dk_at dksX5_drawCell_1 14 rfl rfl)
theorem dX5_drawCell_40 : decode cX5_drawCell 40 = .ok (.iload_n 2, 1) := dk_28 (dk_at dksX5_drawCell_1 17 rfl rfl)
theorem dX5_drawCell_41 : decode cX5_drawCell 41 = .ok (.iaload, 1) := dk_46 (dk_at dksX5_drawCell_1 18 rfl rfl)
theorem dX5_drawCell_42 : decode cX5_drawCell 42 = .ok (.ireturn, 1) := dk_172 (dk_at dksX5_drawCell_1 19 rfl rfl)
abbrev cX5_draw : ByteArray := prog_22_method_121_code
def yX5_draw : MethodName := ⟨RX5, "draw", "(I)I"⟩
def dkwX5_draw_1 : List UInt8 := [27, 133, 113, 136, 172]
abbrev dktX5_draw_1 : List UInt8 := dkwX5_draw_1 ++ []
def dkwX5_draw_0 : List UInt8 := [42, 42, 180, 2, 73, 20, 2, 76, 105, 20, 2, 78, 97, 20, 2, 80, 113, 181, 2, 73, 42, 180, 2, 73]
abbrev dktX5_draw_0 : List UInt8 := dkwX5_draw_0 ++ dktX5_draw_1
theorem dksX5_draw_0 : cX5_draw.data.toList.drop 0 = dktX5_draw_0 := by decide +kernel
theorem dksX5_draw_1 : cX5_draw.data.toList.drop 24 = dktX5_draw_1 := dk_seg dksX5_draw_0 24 rfl rfl
theorem dX5_draw_0 : decode cX5_draw 0 = .ok (.aload_n 0, 1) := dk_42 (dk_at dksX5_draw_0 0 rfl rfl)
theorem dX5_draw_1 : decode cX5_draw 1 = .ok (.aload_n 0, 1) := dk_42 (dk_at dksX5_draw_0 1 rfl rfl)
theorem dX5_draw_2 : decode cX5_draw 2 = .ok (.getfield 585, 3) := dk_180 2 73 (dk_at dksX5_draw_0 2 rfl rfl)
theorem dX5_draw_5 : decode cX5_draw 5 = .ok (.ldc2_w 588, 3) := dk_20 2 76 (dk_at dksX5_draw_0 5 rfl rfl)
theorem dX5_draw_8 : decode cX5_draw 8 = .ok (.lmul, 1) := dk_105 (dk_at dksX5_draw_0 8 rfl rfl)
theorem dX5_draw_9 : decode cX5_draw 9 = .ok (.ldc2_w 590, 3) := dk_20 2 78 (dk_at dksX5_draw_0 9 rfl rfl)
theorem dX5_draw_12 : decode cX5_draw 12 = .ok (.ladd, 1) := dk_97 (dk_at dksX5_draw_0 12 rfl rfl)
theorem dX5_draw_13 : decode cX5_draw 13 = .ok (.ldc2_w 592, 3) := dk_20 2 80 (dk_at dksX5_draw_0 13 rfl rfl)
theorem dX5_draw_16 : decode cX5_draw 16 = .ok (.lrem, 1) := dk_113 (dk_at dksX5_draw_0 16 rfl rfl)
theorem dX5_draw_17 : decode cX5_draw 17 = .ok (.putfield 585, 3) := dk_181 2 73 (dk_at dksX5_draw_0 17 rfl rfl)
theorem dX5_draw_20 : decode cX5_draw 20 = .ok (.aload_n 0, 1) := dk_42 (dk_at dksX5_draw_0 20 rfl rfl)
theorem dX5_draw_21 : decode cX5_draw 21 = .ok (.getfield 585, 3) := dk_180 2 73 (dk_at dksX5_draw_0 21 rfl rfl)
theorem dX5_draw_24 : decode cX5_draw 24 = .ok (.iload_n 1, 1) := dk_27 (dk_at dksX5_draw_1 0 rfl rfl)
theorem dX5_draw_25 : decode cX5_draw 25 = .ok (.i2l, 1) := dk_133 (dk_at dksX5_draw_1 1 rfl rfl)
theorem dX5_draw_26 : decode cX5_draw 26 = .ok (.lrem, 1) := dk_113 (dk_at dksX5_draw_1 2 rfl rfl)
theorem dX5_draw_27 : decode cX5_draw 27 = .ok (.l2i, 1) := dk_136 (dk_at dksX5_draw_1 3 rfl rfl)
theorem dX5_draw_28 : decode cX5_draw 28 = .ok (.ireturn, 1) := dk_172 (dk_at dksX5_draw_1 4 rfl rfl)
abbrev cX5_drawHolder : ByteArray := prog_22_method_123_code
def yX5_drawHolder : MethodName := ⟨RX5, "drawHolder", "()I"⟩
def dkwX5_drawHolder_2 : List UInt8 := [154, 0, 5, 28, 172, 132, 1, 255, 132, 2, 1, 167, 255, 222, 2, 172]
abbrev dktX5_drawHolder_2 : List UInt8 := dkwX5_drawHolder_2 ++ []
def dkwX5_drawHolder_1 : List UInt8 := [16, 6, 162, 0, 34, 42, 180, 1, 208, 158, 0, 27, 42, 180, 0, 134, 28, 51, 153, 0, 12, 27]
abbrev dktX5_drawHolder_1 : List UInt8 := dkwX5_drawHolder_1 ++ dktX5_drawHolder_2
def dkwX5_drawHolder_0 : List UInt8 := [42, 180, 1, 208, 4, 164, 0, 14, 42, 42, 180, 1, 208, 182, 2, 82, 167, 0, 4, 3, 60, 3, 61, 28]
abbrev dktX5_drawHolder_0 : List UInt8 := dkwX5_drawHolder_0 ++ dktX5_drawHolder_1
theorem dksX5_drawHolder_0 : cX5_drawHolder.data.toList.drop 0 = dktX5_drawHolder_0 := by decide +kernel
theorem dksX5_drawHolder_1 : cX5_drawHolder.data.toList.drop 24 = dktX5_drawHolder_1 := dk_seg dksX5_drawHolder_0 24 rfl rfl
theorem dksX5_drawHolder_2 : cX5_drawHolder.data.toList.drop 46 = dktX5_drawHolder_2 := dk_seg dksX5_drawHolder_1 22 rfl rfl
theorem dX5_drawHolder_0 : decode cX5_drawHolder 0 = .ok (.aload_n 0, 1) := dk_42 (dk_at dksX5_drawHolder_0 0 rfl rfl)
theorem dX5_drawHolder_1 : decode cX5_drawHolder 1 = .ok (.getfield 464, 3) := dk_180 1 208 (dk_at dksX5_drawHolder_0 1 rfl rfl)
theorem dX5_drawHolder_4 : decode cX5_drawHolder 4 = .ok (.iconst 1, 1) := dk_4 (dk_at dksX5_drawHolder_0 4 rfl rfl)
theorem dX5_drawHolder_5 : decode cX5_drawHolder 5 = .ok (.if_icmp .le 14, 3) := dk_164 0 14 (dk_at dksX5_drawHolder_0 5 rfl rfl)
theorem dX5_drawHolder_8 : decode cX5_drawHolder 8 = .ok (.aload_n 0, 1) := dk_42 (dk_at dksX5_drawHolder_0 8 rfl rfl)
theorem dX5_drawHolder_9 : decode cX5_drawHolder 9 = .ok (.aload_n 0, 1) := dk_42 (dk_at dksX5_drawHolder_0 9 rfl rfl)
theorem dX5_drawHolder_10 : decode cX5_drawHolder 10 = .ok (.getfield 464, 3) := dk_180 1 208 (dk_at dksX5_drawHolder_0 10 rfl rfl)
theorem dX5_drawHolder_13 : decode cX5_drawHolder 13 = .ok (.invokevirtual 594, 3) := dk_182 2 82 (dk_at dksX5_drawHolder_0 13 rfl rfl)
theorem dX5_drawHolder_16 : decode cX5_drawHolder 16 = .ok (.goto 4, 3) := dk_167 0 4 (dk_at dksX5_drawHolder_0 16 rfl rfl)
theorem dX5_drawHolder_19 : decode cX5_drawHolder 19 = .ok (.iconst 0, 1) := dk_3 (dk_at dksX5_drawHolder_0 19 rfl rfl)
theorem dX5_drawHolder_20 : decode cX5_drawHolder 20 = .ok (.istore_n 1, 1) := dk_60 (dk_at dksX5_drawHolder_0 20 rfl rfl)
theorem dX5_drawHolder_21 : decode cX5_drawHolder 21 = .ok (.iconst 0, 1) := dk_3 (dk_at dksX5_drawHolder_0 21 rfl rfl)
theorem dX5_drawHolder_22 : decode cX5_drawHolder 22 = .ok (.istore_n 2, 1) := dk_61 (dk_at dksX5_drawHolder_0 22 rfl rfl)
theorem dX5_drawHolder_23 : decode cX5_drawHolder 23 = .ok (.iload_n 2, 1) := dk_28 (dk_at dksX5_drawHolder_0 23 rfl rfl)
theorem dX5_drawHolder_24 : decode cX5_drawHolder 24 = .ok (.bipush 6, 2) := dk_16 6 (dk_at dksX5_drawHolder_1 0 rfl rfl)
theorem dX5_drawHolder_26 : decode cX5_drawHolder 26 = .ok (.if_icmp .ge 34, 3) := dk_162 0 34 (dk_at dksX5_drawHolder_1 2 rfl rfl)
theorem dX5_drawHolder_29 : decode cX5_drawHolder 29 = .ok (.aload_n 0, 1) := dk_42 (dk_at dksX5_drawHolder_1 5 rfl rfl)
theorem dX5_drawHolder_30 : decode cX5_drawHolder 30 = .ok (.getfield 464, 3) := dk_180 1 208 (dk_at dksX5_drawHolder_1 6 rfl rfl)
theorem dX5_drawHolder_33 : decode cX5_drawHolder 33 = .ok (.ifCond .le 27, 3) := dk_158 0 27 (dk_at dksX5_drawHolder_1 9 rfl rfl)
theorem dX5_drawHolder_36 : decode cX5_drawHolder 36 = .ok (.aload_n 0, 1) := dk_42 (dk_at dksX5_drawHolder_1 12 rfl rfl)
theorem dX5_drawHolder_37 : decode cX5_drawHolder 37 = .ok (.getfield 134, 3) := dk_180 0 134 (dk_at dksX5_drawHolder_1 13 rfl rfl)
theorem dX5_drawHolder_40 : decode cX5_drawHolder 40 = .ok (.iload_n 2, 1) := dk_28 (dk_at dksX5_drawHolder_1 16 rfl rfl)
theorem dX5_drawHolder_41 : decode cX5_drawHolder 41 = .ok (.baload, 1) := dk_51 (dk_at dksX5_drawHolder_1 17 rfl rfl)
theorem dX5_drawHolder_42 : decode cX5_drawHolder 42 = .ok (.ifCond .eq 12, 3) := dk_153 0 12 (dk_at dksX5_drawHolder_1 18 rfl rfl)
theorem dX5_drawHolder_45 : decode cX5_drawHolder 45 = .ok (.iload_n 1, 1) := dk_27 (dk_at dksX5_drawHolder_1 21 rfl rfl)
theorem dX5_drawHolder_46 : decode cX5_drawHolder 46 = .ok (.ifCond .ne 5, 3) := dk_154 0 5 (dk_at dksX5_drawHolder_2 0 rfl rfl)
theorem dX5_drawHolder_49 : decode cX5_drawHolder 49 = .ok (.iload_n 2, 1) := dk_28 (dk_at dksX5_drawHolder_2 3 rfl rfl)
theorem dX5_drawHolder_50 : decode cX5_drawHolder 50 = .ok (.ireturn, 1) := dk_172 (dk_at dksX5_drawHolder_2 4 rfl rfl)
theorem dX5_drawHolder_51 : decode cX5_drawHolder 51 = .ok (.iinc 1 (-1), 3) := dk_132 1 255 (dk_at dksX5_drawHolder_2 5 rfl rfl)
theorem dX5_drawHolder_54 : decode cX5_drawHolder 54 = .ok (.iinc 2 1, 3) := dk_132 2 1 (dk_at dksX5_drawHolder_2 8 rfl rfl)
theorem dX5_drawHolder_57 : decode cX5_drawHolder 57 = .ok (.goto (-34), 3) := dk_167 255 222 (dk_at dksX5_drawHolder_2 11 rfl rfl)
theorem dX5_drawHolder_60 : decode cX5_drawHolder 60 = .ok (.iconst (-1), 1) := dk_2 (dk_at dksX5_drawHolder_2 14 rfl rfl)
theorem dX5_drawHolder_61 : decode cX5_drawHolder 61 = .ok (.ireturn, 1) := dk_172 (dk_at dksX5_drawHolder_2 15 rfl rfl)
abbrev cX5_wedNow : ByteArray := prog_22_method_124_code
def yX5_wedNow : MethodName := ⟨RX5, "wedNow", "(II)I"⟩
def dkwX5_wedNow_1 : List UInt8 := [180, 0, 146, 5, 27, 104, 4, 96, 92, 46, 29, 96, 79, 29, 172]
abbrev dktX5_wedNow_1 : List UInt8 := dkwX5_wedNow_1 ++ []
def dkwX5_wedNow_0 : List UInt8 := [42, 16, 100, 182, 2, 82, 42, 27, 28, 182, 1, 171, 162, 0, 7, 4, 167, 0, 4, 3, 62, 42]
abbrev dktX5_wedNow_0 : List UInt8 := dkwX5_wedNow_0 ++ dktX5_wedNow_1
theorem dksX5_wedNow_0 : cX5_wedNow.data.toList.drop 0 = dktX5_wedNow_0 := by decide +kernel
theorem dksX5_wedNow_1 : cX5_wedNow.data.toList.drop 22 = dktX5_wedNow_1 := dk_seg dksX5_wedNow_0 22 rfl rfl
theorem dX5_wedNow_0 : decode cX5_wedNow 0 = .ok (.aload_n 0, 1) := dk_42 (dk_at dksX5_wedNow_0 0 rfl rfl)
theorem dX5_wedNow_1 : decode cX5_wedNow 1 = .ok (.bipush 100, 2) := dk_16 100 (dk_at dksX5_wedNow_0 1 rfl rfl)
theorem dX5_wedNow_3 : decode cX5_wedNow 3 = .ok (.invokevirtual 594, 3) := dk_182 2 82 (dk_at dksX5_wedNow_0 3 rfl rfl)
theorem dX5_wedNow_6 : decode cX5_wedNow 6 = .ok (.aload_n 0, 1) := dk_42 (dk_at dksX5_wedNow_0 6 rfl rfl)
theorem dX5_wedNow_7 : decode cX5_wedNow 7 = .ok (.iload_n 1, 1) := dk_27 (dk_at dksX5_wedNow_0 7 rfl rfl)
theorem dX5_wedNow_8 : decode cX5_wedNow 8 = .ok (.iload_n 2, 1) := dk_28 (dk_at dksX5_wedNow_0 8 rfl rfl)
theorem dX5_wedNow_9 : decode cX5_wedNow 9 = .ok (.invokevirtual 427, 3) := dk_182 1 171 (dk_at dksX5_wedNow_0 9 rfl rfl)
theorem dX5_wedNow_12 : decode cX5_wedNow 12 = .ok (.if_icmp .ge 7, 3) := dk_162 0 7 (dk_at dksX5_wedNow_0 12 rfl rfl)
theorem dX5_wedNow_15 : decode cX5_wedNow 15 = .ok (.iconst 1, 1) := dk_4 (dk_at dksX5_wedNow_0 15 rfl rfl)
theorem dX5_wedNow_16 : decode cX5_wedNow 16 = .ok (.goto 4, 3) := dk_167 0 4 (dk_at dksX5_wedNow_0 16 rfl rfl)
theorem dX5_wedNow_19 : decode cX5_wedNow 19 = .ok (.iconst 0, 1) := dk_3 (dk_at dksX5_wedNow_0 19 rfl rfl)
theorem dX5_wedNow_20 : decode cX5_wedNow 20 = .ok (.istore_n 3, 1) := dk_62 (dk_at dksX5_wedNow_0 20 rfl rfl)
theorem dX5_wedNow_21 : decode cX5_wedNow 21 = .ok (.aload_n 0, 1) := dk_42 (dk_at dksX5_wedNow_0 21 rfl rfl)
theorem dX5_wedNow_22 : decode cX5_wedNow 22 = .ok (.getfield 146, 3) := dk_180 0 146 (dk_at dksX5_wedNow_1 0 rfl rfl)
theorem dX5_wedNow_25 : decode cX5_wedNow 25 = .ok (.iconst 2, 1) := dk_5 (dk_at dksX5_wedNow_1 3 rfl rfl)
theorem dX5_wedNow_26 : decode cX5_wedNow 26 = .ok (.iload_n 1, 1) := dk_27 (dk_at dksX5_wedNow_1 4 rfl rfl)
theorem dX5_wedNow_27 : decode cX5_wedNow 27 = .ok (.imul, 1) := dk_104 (dk_at dksX5_wedNow_1 5 rfl rfl)
theorem dX5_wedNow_28 : decode cX5_wedNow 28 = .ok (.iconst 1, 1) := dk_4 (dk_at dksX5_wedNow_1 6 rfl rfl)
theorem dX5_wedNow_29 : decode cX5_wedNow 29 = .ok (.iadd, 1) := dk_96 (dk_at dksX5_wedNow_1 7 rfl rfl)
theorem dX5_wedNow_30 : decode cX5_wedNow 30 = .ok (.dup2, 1) := dk_92 (dk_at dksX5_wedNow_1 8 rfl rfl)
theorem dX5_wedNow_31 : decode cX5_wedNow 31 = .ok (.iaload, 1) := dk_46 (dk_at dksX5_wedNow_1 9 rfl rfl)
theorem dX5_wedNow_32 : decode cX5_wedNow 32 = .ok (.iload_n 3, 1) := dk_29 (dk_at dksX5_wedNow_1 10 rfl rfl)
theorem dX5_wedNow_33 : decode cX5_wedNow 33 = .ok (.iadd, 1) := dk_96 (dk_at dksX5_wedNow_1 11 rfl rfl)
theorem dX5_wedNow_34 : decode cX5_wedNow 34 = .ok (.iastore, 1) := dk_79 (dk_at dksX5_wedNow_1 12 rfl rfl)
theorem dX5_wedNow_35 : decode cX5_wedNow 35 = .ok (.iload_n 3, 1) := dk_29 (dk_at dksX5_wedNow_1 13 rfl rfl)
theorem dX5_wedNow_36 : decode cX5_wedNow 36 = .ok (.ireturn, 1) := dk_172 (dk_at dksX5_wedNow_1 14 rfl rfl)
abbrev cX5_drawn : ByteArray := prog_22_method_126_code
def yX5_drawn : MethodName := ⟨RX5, "drawn", "(II)I"⟩
def dkwX5_drawn_2 : List UInt8 := [96, 46, 167, 0, 4, 2, 172]
abbrev dktX5_drawn_2 : List UInt8 := dkwX5_drawn_2 ++ []
def dkwX5_drawn_1 : List UInt8 := [184, 0, 159, 153, 0, 26, 28, 133, 9, 10, 184, 0, 159, 153, 0, 16, 42, 180, 0, 146, 5, 27, 104, 28]
abbrev dktX5_drawn_1 : List UInt8 := dkwX5_drawn_1 ++ dktX5_drawn_2
def dkwX5_drawn_0 : List UInt8 := [42, 3, 181, 0, 149, 42, 180, 2, 87, 153, 0, 42, 27, 133, 9, 42, 180, 2, 90, 133, 10, 101]
abbrev dktX5_drawn_0 : List UInt8 := dkwX5_drawn_0 ++ dktX5_drawn_1
theorem dksX5_drawn_0 : cX5_drawn.data.toList.drop 0 = dktX5_drawn_0 := by decide +kernel
theorem dksX5_drawn_1 : cX5_drawn.data.toList.drop 22 = dktX5_drawn_1 := dk_seg dksX5_drawn_0 22 rfl rfl
theorem dksX5_drawn_2 : cX5_drawn.data.toList.drop 46 = dktX5_drawn_2 := dk_seg dksX5_drawn_1 24 rfl rfl
theorem dX5_drawn_0 : decode cX5_drawn 0 = .ok (.aload_n 0, 1) := dk_42 (dk_at dksX5_drawn_0 0 rfl rfl)
theorem dX5_drawn_1 : decode cX5_drawn 1 = .ok (.iconst 0, 1) := dk_3 (dk_at dksX5_drawn_0 1 rfl rfl)
theorem dX5_drawn_2 : decode cX5_drawn 2 = .ok (.putfield 149, 3) := dk_181 0 149 (dk_at dksX5_drawn_0 2 rfl rfl)
theorem dX5_drawn_5 : decode cX5_drawn 5 = .ok (.aload_n 0, 1) := dk_42 (dk_at dksX5_drawn_0 5 rfl rfl)
theorem dX5_drawn_6 : decode cX5_drawn 6 = .ok (.getfield 599, 3) := dk_180 2 87 (dk_at dksX5_drawn_0 6 rfl rfl)
theorem dX5_drawn_9 : decode cX5_drawn 9 = .ok (.ifCond .eq 42, 3) := dk_153 0 42 (dk_at dksX5_drawn_0 9 rfl rfl)
theorem dX5_drawn_12 : decode cX5_drawn 12 = .ok (.iload_n 1, 1) := dk_27 (dk_at dksX5_drawn_0 12 rfl rfl)
theorem dX5_drawn_13 : decode cX5_drawn 13 = .ok (.i2l, 1) := dk_133 (dk_at dksX5_drawn_0 13 rfl rfl)
theorem dX5_drawn_14 : decode cX5_drawn 14 = .ok (.lconst 0, 1) := dk_9 (dk_at dksX5_drawn_0 14 rfl rfl)
theorem dX5_drawn_15 : decode cX5_drawn 15 = .ok (.aload_n 0, 1) := dk_42 (dk_at dksX5_drawn_0 15 rfl rfl)
theorem dX5_drawn_16 : decode cX5_drawn 16 = .ok (.getfield 602, 3) := dk_180 2 90 (dk_at dksX5_drawn_0 16 rfl rfl)
theorem dX5_drawn_19 : decode cX5_drawn 19 = .ok (.i2l, 1) := dk_133 (dk_at dksX5_drawn_0 19 rfl rfl)
theorem dX5_drawn_20 : decode cX5_drawn 20 = .ok (.lconst 1, 1) := dk_10 (dk_at dksX5_drawn_0 20 rfl rfl)
theorem dX5_drawn_21 : decode cX5_drawn 21 = .ok (.lsub, 1) := dk_101 (dk_at dksX5_drawn_0 21 rfl rfl)
theorem dX5_drawn_22 : decode cX5_drawn 22 = .ok (.invokestatic 159, 3) := dk_184 0 159 (dk_at dksX5_drawn_1 0 rfl rfl)
theorem dX5_drawn_25 : decode cX5_drawn 25 = .ok (.ifCond .eq 26, 3) := dk_153 0 26 (dk_at dksX5_drawn_1 3 rfl rfl)
theorem dX5_drawn_28 : decode cX5_drawn 28 = .ok (.iload_n 2, 1) := dk_28 (dk_at dksX5_drawn_1 6 rfl rfl)
theorem dX5_drawn_29 : decode cX5_drawn 29 = .ok (.i2l, 1) := dk_133 (dk_at dksX5_drawn_1 7 rfl rfl)
theorem dX5_drawn_30 : decode cX5_drawn 30 = .ok (.lconst 0, 1) := dk_9 (dk_at dksX5_drawn_1 8 rfl rfl)
theorem dX5_drawn_31 : decode cX5_drawn 31 = .ok (.lconst 1, 1) := dk_10 (dk_at dksX5_drawn_1 9 rfl rfl)
theorem dX5_drawn_32 : decode cX5_drawn 32 = .ok (.invokestatic 159, 3) := dk_184 0 159 (dk_at dksX5_drawn_1 10 rfl rfl)
theorem dX5_drawn_35 : decode cX5_drawn 35 = .ok (.ifCond .eq 16, 3) := dk_153 0 16 (dk_at dksX5_drawn_1 13 rfl rfl)
theorem dX5_drawn_38 : decode cX5_drawn 38 = .ok (.aload_n 0, 1) := dk_42 (dk_at dksX5_drawn_1 16 rfl rfl)
theorem dX5_drawn_39 : decode cX5_drawn 39 = .ok (.getfield 146, 3) := dk_180 0 146 (dk_at dksX5_drawn_1 17 rfl rfl)
theorem dX5_drawn_42 : decode cX5_drawn 42 = .ok (.iconst 2, 1) := dk_5 (dk_at dksX5_drawn_1 20 rfl rfl)
theorem dX5_drawn_43 : decode cX5_drawn 43 = .ok (.iload_n 1, 1) := dk_27 (dk_at dksX5_drawn_1 21 rfl rfl)
theorem dX5_drawn_44 : decode cX5_drawn 44 = .ok (.imul, 1) := dk_104 (dk_at dksX5_drawn_1 22 rfl rfl)
theorem dX5_drawn_45 : decode cX5_drawn 45 = .ok (.iload_n 2, 1) := dk_28 (dk_at dksX5_drawn_1 23 rfl rfl)
theorem dX5_drawn_46 : decode cX5_drawn 46 = .ok (.iadd, 1) := dk_96 (dk_at dksX5_drawn_2 0 rfl rfl)
theorem dX5_drawn_47 : decode cX5_drawn 47 = .ok (.iaload, 1) := dk_46 (dk_at dksX5_drawn_2 1 rfl rfl)
theorem dX5_drawn_48 : decode cX5_drawn 48 = .ok (.goto 4, 3) := dk_167 0 4 (dk_at dksX5_drawn_2 2 rfl rfl)
theorem dX5_drawn_51 : decode cX5_drawn 51 = .ok (.iconst (-1), 1) := dk_2 (dk_at dksX5_drawn_2 5 rfl rfl)
theorem dX5_drawn_52 : decode cX5_drawn 52 = .ok (.ireturn, 1) := dk_172 (dk_at dksX5_drawn_2 6 rfl rfl)
abbrev cX5_count : ByteArray := prog_22_method_127_code
def yX5_count : MethodName := ⟨RX5, "count", "(I)I"⟩
def dkwX5_count_6 : List UInt8 := [7, 27, 96, 16, 11, 100, 46, 167, 0, 6, 17, 252, 24, 172]
abbrev dktX5_count_6 : List UInt8 := dkwX5_count_6 ++ []
def dkwX5_count_5 : List UInt8 := [180, 0, 13, 6, 46, 172, 27, 133, 20, 2, 102, 20, 2, 104, 184, 0, 159, 153, 0, 17, 42, 180, 0, 13]
abbrev dktX5_count_5 : List UInt8 := dkwX5_count_5 ++ dktX5_count_6
def dkwX5_count_4 : List UInt8 := [180, 0, 7, 6, 46, 172, 42, 180, 0, 7, 8, 46, 172, 42, 180, 0, 7, 16, 6, 46, 172, 42]
abbrev dktX5_count_4 : List UInt8 := dkwX5_count_4 ++ dktX5_count_5
def dkwX5_count_3 : List UInt8 := [180, 0, 173, 172, 42, 180, 0, 227, 172, 42, 180, 0, 7, 4, 46, 172, 42, 180, 0, 7, 5, 46, 172, 42]
abbrev dktX5_count_3 : List UInt8 := dkwX5_count_3 ++ dktX5_count_4
def dkwX5_count_2 : List UInt8 := [42, 180, 0, 13, 3, 46, 172, 42, 180, 0, 13, 4, 46, 172, 42, 180, 0, 13, 5, 46, 172, 42]
abbrev dktX5_count_2 : List UInt8 := dkwX5_count_2 ++ dktX5_count_3
def dkwX5_count_1 : List UInt8 := [170, 0, 0, 0, 0, 132, 0, 0, 0, 0, 0, 0, 0, 10, 0, 0, 0, 58, 0, 0, 0, 65, 0, 0, 0, 72, 0, 0, 0, 79, 0, 0, 0, 84, 0, 0, 0, 89, 0, 0, 0, 96, 0, 0, 0, 103, 0, 0, 0, 110, 0, 0, 0, 117, 0, 0, 0, 125]
abbrev dktX5_count_1 : List UInt8 := dkwX5_count_1 ++ dktX5_count_2
def dkwX5_count_0 : List UInt8 := [42, 3, 181, 0, 149, 27]
abbrev dktX5_count_0 : List UInt8 := dkwX5_count_0 ++ dktX5_count_1
theorem dksX5_count_0 : cX5_count.data.toList.drop 0 = dktX5_count_0 := by decide +kernel
theorem dksX5_count_1 : cX5_count.data.toList.drop 6 = dktX5_count_1 := dk_seg dksX5_count_0 6 rfl rfl
theorem dksX5_count_2 : cX5_count.data.toList.drop 64 = dktX5_count_2 := dk_seg dksX5_count_1 58 rfl rfl
theorem dksX5_count_3 : cX5_count.data.toList.drop 86 = dktX5_count_3 := dk_seg dksX5_count_2 22 rfl rfl
theorem dksX5_count_4 : cX5_count.data.toList.drop 110 = dktX5_count_4 := dk_seg dksX5_count_3 24 rfl rfl
theorem dksX5_count_5 : cX5_count.data.toList.drop 132 = dktX5_count_5 := dk_seg dksX5_count_4 22 rfl rfl
theorem dksX5_count_6 : cX5_count.data.toList.drop 156 = dktX5_count_6 := dk_seg dksX5_count_5 24 rfl rfl
theorem dX5_count_0 : decode cX5_count 0 = .ok (.aload_n 0, 1) := dk_42 (dk_at dksX5_count_0 0 rfl rfl)
theorem dX5_count_1 : decode cX5_count 1 = .ok (.iconst 0, 1) := dk_3 (dk_at dksX5_count_0 1 rfl rfl)
theorem dX5_count_2 : decode cX5_count 2 = .ok (.putfield 149, 3) := dk_181 0 149 (dk_at dksX5_count_0 2 rfl rfl)
theorem dX5_count_5 : decode cX5_count 5 = .ok (.iload_n 1, 1) := dk_27 (dk_at dksX5_count_0 5 rfl rfl)
theorem dX5_count_6 : decode cX5_count 6 = .ok (.tableswitch 132 0 10 #[58, 65, 72, 79, 84, 89, 96, 103, 110, 117, 125], 58) := by decide +kernel
theorem dX5_count_64 : decode cX5_count 64 = .ok (.aload_n 0, 1) := dk_42 (dk_at dksX5_count_2 0 rfl rfl)
theorem dX5_count_65 : decode cX5_count 65 = .ok (.getfield 13, 3) := dk_180 0 13 (dk_at dksX5_count_2 1 rfl rfl)
theorem dX5_count_68 : decode cX5_count 68 = .ok (.iconst 0, 1) := dk_3 (dk_at dksX5_count_2 4 rfl rfl)
theorem dX5_count_69 : decode cX5_count 69 = .ok (.iaload, 1) := dk_46 (dk_at dksX5_count_2 5 rfl rfl)
theorem dX5_count_70 : decode cX5_count 70 = .ok (.ireturn, 1) := dk_172 (dk_at dksX5_count_2 6 rfl rfl)
theorem dX5_count_71 : decode cX5_count 71 = .ok (.aload_n 0, 1) := dk_42 (dk_at dksX5_count_2 7 rfl rfl)
theorem dX5_count_72 : decode cX5_count 72 = .ok (.getfield 13, 3) := dk_180 0 13 (dk_at dksX5_count_2 8 rfl rfl)
theorem dX5_count_75 : decode cX5_count 75 = .ok (.iconst 1, 1) := dk_4 (dk_at dksX5_count_2 11 rfl rfl)
theorem dX5_count_76 : decode cX5_count 76 = .ok (.iaload, 1) := dk_46 (dk_at dksX5_count_2 12 rfl rfl)
theorem dX5_count_77 : decode cX5_count 77 = .ok (.ireturn, 1) := dk_172 (dk_at dksX5_count_2 13 rfl rfl)
theorem dX5_count_78 : decode cX5_count 78 = .ok (.aload_n 0, 1) := dk_42 (dk_at dksX5_count_2 14 rfl rfl)
theorem dX5_count_79 : decode cX5_count 79 = .ok (.getfield 13, 3) := dk_180 0 13 (dk_at dksX5_count_2 15 rfl rfl)
theorem dX5_count_82 : decode cX5_count 82 = .ok (.iconst 2, 1) := dk_5 (dk_at dksX5_count_2 18 rfl rfl)
theorem dX5_count_83 : decode cX5_count 83 = .ok (.iaload, 1) := dk_46 (dk_at dksX5_count_2 19 rfl rfl)
theorem dX5_count_84 : decode cX5_count 84 = .ok (.ireturn, 1) := dk_172 (dk_at dksX5_count_2 20 rfl rfl)
theorem dX5_count_85 : decode cX5_count 85 = .ok (.aload_n 0, 1) := dk_42 (dk_at dksX5_count_2 21 rfl rfl)
theorem dX5_count_86 : decode cX5_count 86 = .ok (.getfield 173, 3) := dk_180 0 173 (dk_at dksX5_count_3 0 rfl rfl)
theorem dX5_count_89 : decode cX5_count 89 = .ok (.ireturn, 1) := dk_172 (dk_at dksX5_count_3 3 rfl rfl)
theorem dX5_count_90 : decode cX5_count 90 = .ok (.aload_n 0, 1) := dk_42 (dk_at dksX5_count_3 4 rfl rfl)
theorem dX5_count_91 : decode cX5_count 91 = .ok (.getfield 227, 3) := dk_180 0 227 (dk_at dksX5_count_3 5 rfl rfl)
theorem dX5_count_94 : decode cX5_count 94 = .ok (.ireturn, 1) := dk_172 (dk_at dksX5_count_3 8 rfl rfl)
theorem dX5_count_95 : decode cX5_count 95 = .ok (.aload_n 0, 1) := dk_42 (dk_at dksX5_count_3 9 rfl rfl)
theorem dX5_count_96 : decode cX5_count 96 = .ok (.getfield 7, 3) := dk_180 0 7 (dk_at dksX5_count_3 10 rfl rfl)
theorem dX5_count_99 : decode cX5_count 99 = .ok (.iconst 1, 1) := dk_4 (dk_at dksX5_count_3 13 rfl rfl)
theorem dX5_count_100 : decode cX5_count 100 = .ok (.iaload, 1) := dk_46 (dk_at dksX5_count_3 14 rfl rfl)
theorem dX5_count_101 : decode cX5_count 101 = .ok (.ireturn, 1) := dk_172 (dk_at dksX5_count_3 15 rfl rfl)
theorem dX5_count_102 : decode cX5_count 102 = .ok (.aload_n 0, 1) := dk_42 (dk_at dksX5_count_3 16 rfl rfl)
theorem dX5_count_103 : decode cX5_count 103 = .ok (.getfield 7, 3) := dk_180 0 7 (dk_at dksX5_count_3 17 rfl rfl)
theorem dX5_count_106 : decode cX5_count 106 = .ok (.iconst 2, 1) := dk_5 (dk_at dksX5_count_3 20 rfl rfl)
theorem dX5_count_107 : decode cX5_count 107 = .ok (.iaload, 1) := dk_46 (dk_at dksX5_count_3 21 rfl rfl)
theorem dX5_count_108 : decode cX5_count 108 = .ok (.ireturn, 1) := dk_172 (dk_at dksX5_count_3 22 rfl rfl)
theorem dX5_count_109 : decode cX5_count 109 = .ok (.aload_n 0, 1) := dk_42 (dk_at dksX5_count_3 23 rfl rfl)
theorem dX5_count_110 : decode cX5_count 110 = .ok (.getfield 7, 3) := dk_180 0 7 (dk_at dksX5_count_4 0 rfl rfl)
theorem dX5_count_113 : decode cX5_count 113 = .ok (.iconst 3, 1) := dk_6 (dk_at dksX5_count_4 3 rfl rfl)
theorem dX5_count_114 : decode cX5_count 114 = .ok (.iaload, 1) := dk_46 (dk_at dksX5_count_4 4 rfl rfl)
theorem dX5_count_115 : decode cX5_count 115 = .ok (.ireturn, 1) := dk_172 (dk_at dksX5_count_4 5 rfl rfl)
theorem dX5_count_116 : decode cX5_count 116 = .ok (.aload_n 0, 1) := dk_42 (dk_at dksX5_count_4 6 rfl rfl)
theorem dX5_count_117 : decode cX5_count 117 = .ok (.getfield 7, 3) := dk_180 0 7 (dk_at dksX5_count_4 7 rfl rfl)
theorem dX5_count_120 : decode cX5_count 120 = .ok (.iconst 5, 1) := dk_8 (dk_at dksX5_count_4 10 rfl rfl)
theorem dX5_count_121 : decode cX5_count 121 = .ok (.iaload, 1) := dk_46 (dk_at dksX5_count_4 11 rfl rfl)
theorem dX5_count_122 : decode cX5_count 122 = .ok (.ireturn, 1) := dk_172 (dk_at dksX5_count_4 12 rfl rfl)
theorem dX5_count_123 : decode cX5_count 123 = .ok (.aload_n 0, 1) := dk_42 (dk_at dksX5_count_4 13 rfl rfl)
theorem dX5_count_124 : decode cX5_count 124 = .ok (.getfield 7, 3) := dk_180 0 7 (dk_at dksX5_count_4 14 rfl rfl)
theorem dX5_count_127 : decode cX5_count 127 = .ok (.bipush 6, 2) := dk_16 6 (dk_at dksX5_count_4 17 rfl rfl)
theorem dX5_count_129 : decode cX5_count 129 = .ok (.iaload, 1) := dk_46 (dk_at dksX5_count_4 19 rfl rfl)
theorem dX5_count_130 : decode cX5_count 130 = .ok (.ireturn, 1) := dk_172 (dk_at dksX5_count_4 20 rfl rfl)
theorem dX5_count_131 : decode cX5_count 131 = .ok (.aload_n 0, 1) := dk_42 (dk_at dksX5_count_4 21 rfl rfl)
theorem dX5_count_132 : decode cX5_count 132 = .ok (.getfield 13, 3) := dk_180 0 13 (dk_at dksX5_count_5 0 rfl rfl)
theorem dX5_count_135 : decode cX5_count 135 = .ok (.iconst 3, 1) := dk_6 (dk_at dksX5_count_5 3 rfl rfl)
theorem dX5_count_136 : decode cX5_count 136 = .ok (.iaload, 1) := dk_46 (dk_at dksX5_count_5 4 rfl rfl)
theorem dX5_count_137 : decode cX5_count 137 = .ok (.ireturn, 1) := dk_172 (dk_at dksX5_count_5 5 rfl rfl)
theorem dX5_count_138 : decode cX5_count 138 = .ok (.iload_n 1, 1) := dk_27 (dk_at dksX5_count_5 6 rfl rfl)
theorem dX5_count_139 : decode cX5_count 139 = .ok (.i2l, 1) := dk_133 (dk_at dksX5_count_5 7 rfl rfl)
theorem dX5_count_140 : decode cX5_count 140 = .ok (.ldc2_w 614, 3) := dk_20 2 102 (dk_at dksX5_count_5 8 rfl rfl)
theorem dX5_count_143 : decode cX5_count 143 = .ok (.ldc2_w 616, 3) := dk_20 2 104 (dk_at dksX5_count_5 11 rfl rfl)
theorem dX5_count_146 : decode cX5_count 146 = .ok (.invokestatic 159, 3) := dk_184 0 159 (dk_at dksX5_count_5 14 rfl rfl)
theorem dX5_count_149 : decode cX5_count 149 = .ok (.ifCond .eq 17, 3) := dk_153 0 17 (dk_at dksX5_count_5 17 rfl rfl)
theorem dX5_count_152 : decode cX5_count 152 = .ok (.aload_n 0, 1) := dk_42 (dk_at dksX5_count_5 20 rfl rfl)
theorem dX5_count_153 : decode cX5_count 153 = .ok (.getfield 13, 3) := dk_180 0 13 (dk_at dksX5_count_5 21 rfl rfl)
theorem dX5_count_156 : decode cX5_count 156 = .ok (.iconst 4, 1) := dk_7 (dk_at dksX5_count_6 0 rfl rfl)
theorem dX5_count_157 : decode cX5_count 157 = .ok (.iload_n 1, 1) := dk_27 (dk_at dksX5_count_6 1 rfl rfl)
theorem dX5_count_158 : decode cX5_count 158 = .ok (.iadd, 1) := dk_96 (dk_at dksX5_count_6 2 rfl rfl)
theorem dX5_count_159 : decode cX5_count 159 = .ok (.bipush 11, 2) := dk_16 11 (dk_at dksX5_count_6 3 rfl rfl)
theorem dX5_count_161 : decode cX5_count 161 = .ok (.isub, 1) := dk_100 (dk_at dksX5_count_6 5 rfl rfl)
theorem dX5_count_162 : decode cX5_count 162 = .ok (.iaload, 1) := dk_46 (dk_at dksX5_count_6 6 rfl rfl)
theorem dX5_count_163 : decode cX5_count 163 = .ok (.goto 6, 3) := dk_167 0 6 (dk_at dksX5_count_6 7 rfl rfl)
theorem dX5_count_166 : decode cX5_count 166 = .ok (.sipush (-1000), 3) := dk_17 252 24 (dk_at dksX5_count_6 10 rfl rfl)
theorem dX5_count_169 : decode cX5_count 169 = .ok (.ireturn, 1) := dk_172 (dk_at dksX5_count_6 13 rfl rfl)
abbrev cX5_status : ByteArray := prog_22_method_128_code
def yX5_status : MethodName := ⟨RX5, "status", "()I"⟩
def dkwX5_status_0 : List UInt8 := [42, 3, 181, 0, 149, 42, 180, 0, 152, 172]
abbrev dktX5_status_0 : List UInt8 := dkwX5_status_0 ++ []
theorem dksX5_status_0 : cX5_status.data.toList.drop 0 = dktX5_status_0 := by decide +kernel
theorem dX5_status_0 : decode cX5_status 0 = .ok (.aload_n 0, 1) := dk_42 (dk_at dksX5_status_0 0 rfl rfl)
theorem dX5_status_1 : decode cX5_status 1 = .ok (.iconst 0, 1) := dk_3 (dk_at dksX5_status_0 1 rfl rfl)
theorem dX5_status_2 : decode cX5_status 2 = .ok (.putfield 149, 3) := dk_181 0 149 (dk_at dksX5_status_0 2 rfl rfl)
theorem dX5_status_5 : decode cX5_status 5 = .ok (.aload_n 0, 1) := dk_42 (dk_at dksX5_status_0 5 rfl rfl)
theorem dX5_status_6 : decode cX5_status 6 = .ok (.getfield 152, 3) := dk_180 0 152 (dk_at dksX5_status_0 6 rfl rfl)
theorem dX5_status_9 : decode cX5_status 9 = .ok (.ireturn, 1) := dk_172 (dk_at dksX5_status_0 9 rfl rfl)
theorem q136 : (Jvm.Cond.initialized "RoseThrowModel") ∈ lw_all := lw_g (lw_at lw_m1 11 rfl) rfl
theorem q503 : (Jvm.Cond.selects "RoseThrowModel" ({ cls := "java/lang/Object", name := "getClass", desc := "()Ljava/lang/Class;" } : Jvm.MethodName) ({ cls := "java/lang/Object", name := "getClass", desc := "()Ljava/lang/Class;" } : Jvm.MethodName)) ∈ lw_all := lw_g (lw_at lw_m2 138 rfl) rfl
theorem q1489 : (Jvm.Cond.instantiable "RoseThrowModel" (67 : Nat)) ∈ lw_all := lw_g (lw_at lw_m6 164 rfl) rfl
theorem q1491 : (Jvm.Cond.instanceMethod ({ cls := "RoseThrowModel", name := "<init>", desc := "()V" } : Jvm.MethodName)) ∈ lw_all := lw_g (lw_at lw_m6 166 rfl) rfl
theorem q1492 : (Jvm.Cond.code ({ cls := "RoseThrowModel", name := "<init>", desc := "()V" } : Jvm.MethodName) prog_22_method_1_code (1 : Nat) (Option.none : Option Jvm.ClassFile.FieldType)) ∈ lw_all := lw_g (lw_at lw_m6 167 rfl) rfl
theorem q1493 : (Jvm.Cond.methodLink "RoseThrowModel" (1 : Nat) ({ cls := "java/lang/Object", name := "<init>", desc := "()V" } : Jvm.MethodName)) ∈ lw_all := lw_g (lw_at lw_m6 168 rfl) rfl
theorem q1494 : (Jvm.Cond.constantLong "RoseThrowModel" (60 : Nat) (6801509 : Int64)) ∈ lw_all := lw_g (lw_at lw_m6 169 rfl) rfl
theorem q1495 : (Jvm.Cond.constantLong "RoseThrowModel" (62 : Nat) (631941 : Int64)) ∈ lw_all := lw_g (lw_at lw_m6 170 rfl) rfl
theorem q1496 : (Jvm.Cond.constantLong "RoseThrowModel" (64 : Nat) (271592 : Int64)) ∈ lw_all := lw_g (lw_at lw_m6 171 rfl) rfl
theorem q1497 : (Jvm.Cond.constantLong "RoseThrowModel" (66 : Nat) (769604 : Int64)) ∈ lw_all := lw_g (lw_at lw_m6 172 rfl) rfl
theorem q1498 : (Jvm.Cond.constantLong "RoseThrowModel" (68 : Nat) (152 : Int64)) ∈ lw_all := lw_g (lw_at lw_m6 173 rfl) rfl
theorem q1499 : (Jvm.Cond.constantLong "RoseThrowModel" (70 : Nat) (153 : Int64)) ∈ lw_all := lw_g (lw_at lw_m6 174 rfl) rfl
theorem q1500 : (Jvm.Cond.constantLong "RoseThrowModel" (72 : Nat) (3275858098 : Int64)) ∈ lw_all := lw_g (lw_at lw_m6 175 rfl) rfl
theorem q1501 : (Jvm.Cond.constantLong "RoseThrowModel" (74 : Nat) (656780 : Int64)) ∈ lw_all := lw_g (lw_at lw_m6 176 rfl) rfl
theorem q1502 : (Jvm.Cond.constantLong "RoseThrowModel" (76 : Nat) (755156 : Int64)) ∈ lw_all := lw_g (lw_at lw_m6 177 rfl) rfl
theorem q1503 : (Jvm.Cond.constantLong "RoseThrowModel" (78 : Nat) (6194 : Int64)) ∈ lw_all := lw_g (lw_at lw_m6 178 rfl) rfl
theorem q1504 : (Jvm.Cond.constantLong "RoseThrowModel" (80 : Nat) (102407444 : Int64)) ∈ lw_all := lw_g (lw_at lw_m6 179 rfl) rfl
theorem q1505 : (Jvm.Cond.constantLong "RoseThrowModel" (82 : Nat) (24 : Int64)) ∈ lw_all := lw_g (lw_at lw_m6 180 rfl) rfl
theorem q1506 : (Jvm.Cond.constantLong "RoseThrowModel" (84 : Nat) (25 : Int64)) ∈ lw_all := lw_g (lw_at lw_m6 181 rfl) rfl
theorem q1507 : (Jvm.Cond.constantLong "RoseThrowModel" (86 : Nat) (441828 : Int64)) ∈ lw_all := lw_g (lw_at lw_m6 182 rfl) rfl
theorem q1508 : (Jvm.Cond.constantLong "RoseThrowModel" (92 : Nat) (104827459155 : Int64)) ∈ lw_all := lw_g (lw_at lw_m6 183 rfl) rfl
theorem q1509 : (Jvm.Cond.constantLong "RoseThrowModel" (94 : Nat) (146885 : Int64)) ∈ lw_all := lw_g (lw_at lw_m6 184 rfl) rfl
theorem q1510 : (Jvm.Cond.constantLong "RoseThrowModel" (96 : Nat) (626630820 : Int64)) ∈ lw_all := lw_g (lw_at lw_m6 185 rfl) rfl
theorem q1511 : (Jvm.Cond.constantLong "RoseThrowModel" (98 : Nat) (103820 : Int64)) ∈ lw_all := lw_g (lw_at lw_m6 186 rfl) rfl
theorem q1512 : (Jvm.Cond.constantLong "RoseThrowModel" (100 : Nat) (72754342 : Int64)) ∈ lw_all := lw_g (lw_at lw_m6 187 rfl) rfl
theorem q1513 : (Jvm.Cond.constantLong "RoseThrowModel" (105 : Nat) (20325907 : Int64)) ∈ lw_all := lw_g (lw_at lw_m6 188 rfl) rfl
theorem q1514 : (Jvm.Cond.constantLong "RoseThrowModel" (107 : Nat) (7939603 : Int64)) ∈ lw_all := lw_g (lw_at lw_m6 189 rfl) rfl
theorem q1515 : (Jvm.Cond.constantLong "RoseThrowModel" (109 : Nat) (758931 : Int64)) ∈ lw_all := lw_g (lw_at lw_m6 190 rfl) rfl
theorem q1516 : (Jvm.Cond.constantLong "RoseThrowModel" (111 : Nat) (67155 : Int64)) ∈ lw_all := lw_g (lw_at lw_m6 191 rfl) rfl
theorem q1517 : (Jvm.Cond.fieldLink "RoseThrowModel" (149 : Nat) "RoseThrowModel" "thrown" "I") ∈ lw_all := lw_g (lw_at lw_m6 192 rfl) rfl
theorem q1518 : (Jvm.Cond.fieldLink "RoseThrowModel" (152 : Nat) "RoseThrowModel" "status" "I") ∈ lw_all := lw_g (lw_at lw_m6 193 rfl) rfl
theorem q1519 : (Jvm.Cond.fieldLink "RoseThrowModel" (7 : Nat) "RoseThrowModel" "refusals" "[I") ∈ lw_all := lw_g (lw_at lw_m6 194 rfl) rfl
theorem q1520 : (Jvm.Cond.fieldLink "RoseThrowModel" (13 : Nat) "RoseThrowModel" "row" "[I") ∈ lw_all := lw_g (lw_at lw_m6 195 rfl) rfl
theorem q1521 : (Jvm.Cond.fieldLink "RoseThrowModel" (16 : Nat) "RoseThrowModel" "images" "[I") ∈ lw_all := lw_g (lw_at lw_m6 196 rfl) rfl
theorem q1522 : (Jvm.Cond.fieldLink "RoseThrowModel" (19 : Nat) "RoseThrowModel" "isKept" "[Z") ∈ lw_all := lw_g (lw_at lw_m6 197 rfl) rfl
theorem q1523 : (Jvm.Cond.fieldLink "RoseThrowModel" (23 : Nat) "RoseThrowModel" "undos" "[I") ∈ lw_all := lw_g (lw_at lw_m6 198 rfl) rfl
theorem q1524 : (Jvm.Cond.fieldLink "RoseThrowModel" (26 : Nat) "RoseThrowModel" "sorts" "[I") ∈ lw_all := lw_g (lw_at lw_m6 199 rfl) rfl
theorem q1525 : (Jvm.Cond.fieldLink "RoseThrowModel" (173 : Nat) "RoseThrowModel" "nUndo" "I") ∈ lw_all := lw_g (lw_at lw_m6 200 rfl) rfl
theorem q1526 : (Jvm.Cond.fieldLink "RoseThrowModel" (29 : Nat) "RoseThrowModel" "before" "[I") ∈ lw_all := lw_g (lw_at lw_m6 201 rfl) rfl
theorem q1527 : (Jvm.Cond.fieldLink "RoseThrowModel" (32 : Nat) "RoseThrowModel" "beliefsBefore" "[I") ∈ lw_all := lw_g (lw_at lw_m6 202 rfl) rfl
theorem q1528 : (Jvm.Cond.fieldLink "RoseThrowModel" (35 : Nat) "RoseThrowModel" "sortsBefore" "[I") ∈ lw_all := lw_g (lw_at lw_m6 203 rfl) rfl
theorem q1529 : (Jvm.Cond.fieldLink "RoseThrowModel" (230 : Nat) "RoseThrowModel" "rice" "I") ∈ lw_all := lw_g (lw_at lw_m6 204 rfl) rfl
theorem q1530 : (Jvm.Cond.fieldLink "RoseThrowModel" (38 : Nat) "RoseThrowModel" "tape" "[I") ∈ lw_all := lw_g (lw_at lw_m6 205 rfl) rfl
theorem q1531 : (Jvm.Cond.fieldLink "RoseThrowModel" (227 : Nat) "RoseThrowModel" "taped" "I") ∈ lw_all := lw_g (lw_at lw_m6 206 rfl) rfl
theorem q1532 : (Jvm.Cond.fieldLink "RoseThrowModel" (246 : Nat) "RoseThrowModel" "from" "I") ∈ lw_all := lw_g (lw_at lw_m6 207 rfl) rfl
theorem q1533 : (Jvm.Cond.fieldLink "RoseThrowModel" (236 : Nat) "RoseThrowModel" "to" "I") ∈ lw_all := lw_g (lw_at lw_m6 208 rfl) rfl
theorem q1534 : (Jvm.Cond.fieldLink "RoseThrowModel" (259 : Nat) "RoseThrowModel" "sort" "I") ∈ lw_all := lw_g (lw_at lw_m6 209 rfl) rfl
theorem q1535 : (Jvm.Cond.fieldLink "RoseThrowModel" (249 : Nat) "RoseThrowModel" "worth" "J") ∈ lw_all := lw_g (lw_at lw_m6 210 rfl) rfl
theorem q1536 : (Jvm.Cond.fieldLink "RoseThrowModel" (41 : Nat) "RoseThrowModel" "fault" "I") ∈ lw_all := lw_g (lw_at lw_m6 211 rfl) rfl
theorem q1537 : (Jvm.Cond.fieldLink "RoseThrowModel" (239 : Nat) "RoseThrowModel" "bad" "Z") ∈ lw_all := lw_g (lw_at lw_m6 212 rfl) rfl
theorem q1538 : (Jvm.Cond.fieldLink "RoseThrowModel" (311 : Nat) "RoseThrowModel" "ordered" "Z") ∈ lw_all := lw_g (lw_at lw_m6 213 rfl) rfl
theorem q1539 : (Jvm.Cond.fieldLink "RoseThrowModel" (363 : Nat) "RoseThrowModel" "nClauses" "I") ∈ lw_all := lw_g (lw_at lw_m6 214 rfl) rfl
theorem q1540 : (Jvm.Cond.fieldLink "RoseThrowModel" (45 : Nat) "RoseThrowModel" "nClause" "[I") ∈ lw_all := lw_g (lw_at lw_m6 215 rfl) rfl
theorem q1541 : (Jvm.Cond.fieldLink "RoseThrowModel" (276 : Nat) "RoseThrowModel" "nCode" "I") ∈ lw_all := lw_g (lw_at lw_m6 216 rfl) rfl
theorem q1542 : (Jvm.Cond.fieldLink "RoseThrowModel" (48 : Nat) "RoseThrowModel" "nOp" "[I") ∈ lw_all := lw_g (lw_at lw_m6 217 rfl) rfl
theorem q1543 : (Jvm.Cond.fieldLink "RoseThrowModel" (51 : Nat) "RoseThrowModel" "nArg" "[I") ∈ lw_all := lw_g (lw_at lw_m6 218 rfl) rfl
theorem q1544 : (Jvm.Cond.fieldLink "RoseThrowModel" (302 : Nat) "RoseThrowModel" "nLeaves" "I") ∈ lw_all := lw_g (lw_at lw_m6 219 rfl) rfl
theorem q1545 : (Jvm.Cond.fieldLink "RoseThrowModel" (54 : Nat) "RoseThrowModel" "pile" "[I") ∈ lw_all := lw_g (lw_at lw_m6 220 rfl) rfl
theorem q1546 : (Jvm.Cond.fieldLink "RoseThrowModel" (57 : Nat) "RoseThrowModel" "pileAt" "[I") ∈ lw_all := lw_g (lw_at lw_m6 221 rfl) rfl
theorem q1547 : (Jvm.Cond.fieldLink "RoseThrowModel" (279 : Nat) "RoseThrowModel" "piled" "I") ∈ lw_all := lw_g (lw_at lw_m6 222 rfl) rfl
theorem q1548 : (Jvm.Cond.fieldLink "RoseThrowModel" (296 : Nat) "RoseThrowModel" "opened" "I") ∈ lw_all := lw_g (lw_at lw_m6 223 rfl) rfl
theorem q1549 : (Jvm.Cond.fieldLink "RoseThrowModel" (88 : Nat) "RoseThrowModel" "words" "[J") ∈ lw_all := lw_g (lw_at lw_m6 224 rfl) rfl
theorem q1550 : (Jvm.Cond.fieldLink "RoseThrowModel" (102 : Nat) "RoseThrowModel" "orderWords" "[J") ∈ lw_all := lw_g (lw_at lw_m6 225 rfl) rfl
theorem q1551 : (Jvm.Cond.fieldLink "RoseThrowModel" (113 : Nat) "RoseThrowModel" "heads" "[J") ∈ lw_all := lw_g (lw_at lw_m6 226 rfl) rfl
theorem q1552 : (Jvm.Cond.fieldLink "RoseThrowModel" (383 : Nat) "RoseThrowModel" "law" "I") ∈ lw_all := lw_g (lw_at lw_m6 227 rfl) rfl
theorem q1553 : (Jvm.Cond.fieldLink "RoseThrowModel" (116 : Nat) "RoseThrowModel" "set" "[J") ∈ lw_all := lw_g (lw_at lw_m6 228 rfl) rfl
theorem q1554 : (Jvm.Cond.fieldLink "RoseThrowModel" (119 : Nat) "RoseThrowModel" "now" "[J") ∈ lw_all := lw_g (lw_at lw_m6 229 rfl) rfl
theorem q1555 : (Jvm.Cond.fieldLink "RoseThrowModel" (122 : Nat) "RoseThrowModel" "rest" "[J") ∈ lw_all := lw_g (lw_at lw_m6 230 rfl) rfl
theorem q1556 : (Jvm.Cond.fieldLink "RoseThrowModel" (380 : Nat) "RoseThrowModel" "broken" "Z") ∈ lw_all := lw_g (lw_at lw_m6 231 rfl) rfl
theorem q1557 : (Jvm.Cond.fieldLink "RoseThrowModel" (394 : Nat) "RoseThrowModel" "value" "J") ∈ lw_all := lw_g (lw_at lw_m6 232 rfl) rfl
theorem q1558 : (Jvm.Cond.fieldLink "RoseThrowModel" (400 : Nat) "RoseThrowModel" "sum" "J") ∈ lw_all := lw_g (lw_at lw_m6 233 rfl) rfl
theorem q1559 : (Jvm.Cond.fieldLink "RoseThrowModel" (125 : Nat) "RoseThrowModel" "weights" "[I") ∈ lw_all := lw_g (lw_at lw_m6 234 rfl) rfl
theorem q1560 : (Jvm.Cond.fieldLink "RoseThrowModel" (128 : Nat) "RoseThrowModel" "slipCell" "[I") ∈ lw_all := lw_g (lw_at lw_m6 235 rfl) rfl
theorem q1561 : (Jvm.Cond.fieldLink "RoseThrowModel" (131 : Nat) "RoseThrowModel" "slipWeight" "[I") ∈ lw_all := lw_g (lw_at lw_m6 236 rfl) rfl
theorem q1562 : (Jvm.Cond.fieldLink "RoseThrowModel" (436 : Nat) "RoseThrowModel" "all" "I") ∈ lw_all := lw_g (lw_at lw_m6 237 rfl) rfl
theorem q1563 : (Jvm.Cond.fieldLink "RoseThrowModel" (448 : Nat) "RoseThrowModel" "upper" "J") ∈ lw_all := lw_g (lw_at lw_m6 238 rfl) rfl
theorem q1564 : (Jvm.Cond.fieldLink "RoseThrowModel" (451 : Nat) "RoseThrowModel" "lower" "J") ∈ lw_all := lw_g (lw_at lw_m6 239 rfl) rfl
theorem q1565 : (Jvm.Cond.fieldLink "RoseThrowModel" (134 : Nat) "RoseThrowModel" "holds" "[Z") ∈ lw_all := lw_g (lw_at lw_m7 0 rfl) rfl
theorem q1566 : (Jvm.Cond.fieldLink "RoseThrowModel" (464 : Nat) "RoseThrowModel" "alike" "I") ∈ lw_all := lw_g (lw_at lw_m7 1 rfl) rfl
theorem q1567 : (Jvm.Cond.fieldLink "RoseThrowModel" (467 : Nat) "RoseThrowModel" "crowd" "I") ∈ lw_all := lw_g (lw_at lw_m7 2 rfl) rfl
theorem q1568 : (Jvm.Cond.fieldLink "RoseThrowModel" (137 : Nat) "RoseThrowModel" "parts" "[I") ∈ lw_all := lw_g (lw_at lw_m7 3 rfl) rfl
theorem q1569 : (Jvm.Cond.fieldLink "RoseThrowModel" (482 : Nat) "RoseThrowModel" "bestCell" "I") ∈ lw_all := lw_g (lw_at lw_m7 4 rfl) rfl
theorem q1570 : (Jvm.Cond.fieldLink "RoseThrowModel" (485 : Nat) "RoseThrowModel" "bestParts" "I") ∈ lw_all := lw_g (lw_at lw_m7 5 rfl) rfl
theorem q1571 : (Jvm.Cond.fieldLink "RoseThrowModel" (500 : Nat) "RoseThrowModel" "bestThrow" "I") ∈ lw_all := lw_g (lw_at lw_m7 6 rfl) rfl
theorem q1572 : (Jvm.Cond.fieldLink "RoseThrowModel" (503 : Nat) "RoseThrowModel" "bestHeard" "I") ∈ lw_all := lw_g (lw_at lw_m7 7 rfl) rfl
theorem q1573 : (Jvm.Cond.fieldLink "RoseThrowModel" (506 : Nat) "RoseThrowModel" "bestUpper" "J") ∈ lw_all := lw_g (lw_at lw_m7 8 rfl) rfl
theorem q1574 : (Jvm.Cond.fieldLink "RoseThrowModel" (509 : Nat) "RoseThrowModel" "bestLower" "J") ∈ lw_all := lw_g (lw_at lw_m7 9 rfl) rfl
theorem q1575 : (Jvm.Cond.fieldLink "RoseThrowModel" (140 : Nat) "RoseThrowModel" "nOrder" "[I") ∈ lw_all := lw_g (lw_at lw_m7 10 rfl) rfl
theorem q1576 : (Jvm.Cond.fieldLink "RoseThrowModel" (566 : Nat) "RoseThrowModel" "done" "I") ∈ lw_all := lw_g (lw_at lw_m7 11 rfl) rfl
theorem q1577 : (Jvm.Cond.fieldLink "RoseThrowModel" (569 : Nat) "RoseThrowModel" "rushed" "I") ∈ lw_all := lw_g (lw_at lw_m7 12 rfl) rfl
theorem q1578 : (Jvm.Cond.fieldLink "RoseThrowModel" (143 : Nat) "RoseThrowModel" "stopped" "I") ∈ lw_all := lw_g (lw_at lw_m7 13 rfl) rfl
theorem q1579 : (Jvm.Cond.fieldLink "RoseThrowModel" (563 : Nat) "RoseThrowModel" "off" "Z") ∈ lw_all := lw_g (lw_at lw_m7 14 rfl) rfl
theorem q1580 : (Jvm.Cond.fieldLink "RoseThrowModel" (585 : Nat) "RoseThrowModel" "state" "J") ∈ lw_all := lw_g (lw_at lw_m7 15 rfl) rfl
theorem q1581 : (Jvm.Cond.fieldLink "RoseThrowModel" (146 : Nat) "RoseThrowModel" "drawn" "[I") ∈ lw_all := lw_g (lw_at lw_m7 16 rfl) rfl
theorem q1582 : (Jvm.Cond.fieldLink "RoseThrowModel" (602 : Nat) "RoseThrowModel" "nDrawn" "I") ∈ lw_all := lw_g (lw_at lw_m7 17 rfl) rfl
theorem q1583 : (Jvm.Cond.fieldLink "RoseThrowModel" (599 : Nat) "RoseThrowModel" "isDrawn" "Z") ∈ lw_all := lw_g (lw_at lw_m7 18 rfl) rfl
theorem q1584 : (Jvm.Cond.lays "RoseThrowModel" "RoseThrowModel" "thrown" "I") ∈ lw_all := lw_g (lw_at lw_m7 19 rfl) rfl
theorem q1585 : (Jvm.Cond.soleField "RoseThrowModel" "thrown") ∈ lw_all := lw_g (lw_at lw_m7 20 rfl) rfl
theorem q1586 : (Jvm.Cond.lays "RoseThrowModel" "RoseThrowModel" "status" "I") ∈ lw_all := lw_g (lw_at lw_m7 21 rfl) rfl
theorem q1587 : (Jvm.Cond.soleField "RoseThrowModel" "status") ∈ lw_all := lw_g (lw_at lw_m7 22 rfl) rfl
theorem q1588 : (Jvm.Cond.laysFinal "RoseThrowModel" "RoseThrowModel" "refusals" "[I") ∈ lw_all := lw_g (lw_at lw_m7 23 rfl) rfl
theorem q1589 : (Jvm.Cond.soleField "RoseThrowModel" "refusals") ∈ lw_all := lw_g (lw_at lw_m7 24 rfl) rfl
theorem q1590 : (Jvm.Cond.laysFinal "RoseThrowModel" "RoseThrowModel" "row" "[I") ∈ lw_all := lw_g (lw_at lw_m7 25 rfl) rfl
theorem q1591 : (Jvm.Cond.soleField "RoseThrowModel" "row") ∈ lw_all := lw_g (lw_at lw_m7 26 rfl) rfl
theorem q1592 : (Jvm.Cond.laysFinal "RoseThrowModel" "RoseThrowModel" "images" "[I") ∈ lw_all := lw_g (lw_at lw_m7 27 rfl) rfl
theorem q1593 : (Jvm.Cond.soleField "RoseThrowModel" "images") ∈ lw_all := lw_g (lw_at lw_m7 28 rfl) rfl
theorem q1594 : (Jvm.Cond.laysFinal "RoseThrowModel" "RoseThrowModel" "isKept" "[Z") ∈ lw_all := lw_g (lw_at lw_m7 29 rfl) rfl
theorem q1595 : (Jvm.Cond.soleField "RoseThrowModel" "isKept") ∈ lw_all := lw_g (lw_at lw_m7 30 rfl) rfl
theorem q1596 : (Jvm.Cond.laysFinal "RoseThrowModel" "RoseThrowModel" "undos" "[I") ∈ lw_all := lw_g (lw_at lw_m7 31 rfl) rfl
theorem q1597 : (Jvm.Cond.soleField "RoseThrowModel" "undos") ∈ lw_all := lw_g (lw_at lw_m7 32 rfl) rfl
theorem q1598 : (Jvm.Cond.laysFinal "RoseThrowModel" "RoseThrowModel" "sorts" "[I") ∈ lw_all := lw_g (lw_at lw_m7 33 rfl) rfl
theorem q1599 : (Jvm.Cond.soleField "RoseThrowModel" "sorts") ∈ lw_all := lw_g (lw_at lw_m7 34 rfl) rfl
theorem q1600 : (Jvm.Cond.lays "RoseThrowModel" "RoseThrowModel" "nUndo" "I") ∈ lw_all := lw_g (lw_at lw_m7 35 rfl) rfl
theorem q1601 : (Jvm.Cond.soleField "RoseThrowModel" "nUndo") ∈ lw_all := lw_g (lw_at lw_m7 36 rfl) rfl
theorem q1602 : (Jvm.Cond.laysFinal "RoseThrowModel" "RoseThrowModel" "before" "[I") ∈ lw_all := lw_g (lw_at lw_m7 37 rfl) rfl
theorem q1603 : (Jvm.Cond.soleField "RoseThrowModel" "before") ∈ lw_all := lw_g (lw_at lw_m7 38 rfl) rfl
theorem q1604 : (Jvm.Cond.laysFinal "RoseThrowModel" "RoseThrowModel" "beliefsBefore" "[I") ∈ lw_all := lw_g (lw_at lw_m7 39 rfl) rfl
theorem q1605 : (Jvm.Cond.soleField "RoseThrowModel" "beliefsBefore") ∈ lw_all := lw_g (lw_at lw_m7 40 rfl) rfl
theorem q1606 : (Jvm.Cond.laysFinal "RoseThrowModel" "RoseThrowModel" "sortsBefore" "[I") ∈ lw_all := lw_g (lw_at lw_m7 41 rfl) rfl
theorem q1607 : (Jvm.Cond.soleField "RoseThrowModel" "sortsBefore") ∈ lw_all := lw_g (lw_at lw_m7 42 rfl) rfl
theorem q1608 : (Jvm.Cond.lays "RoseThrowModel" "RoseThrowModel" "rice" "I") ∈ lw_all := lw_g (lw_at lw_m7 43 rfl) rfl
theorem q1609 : (Jvm.Cond.soleField "RoseThrowModel" "rice") ∈ lw_all := lw_g (lw_at lw_m7 44 rfl) rfl
theorem q1610 : (Jvm.Cond.laysFinal "RoseThrowModel" "RoseThrowModel" "tape" "[I") ∈ lw_all := lw_g (lw_at lw_m7 45 rfl) rfl
theorem q1611 : (Jvm.Cond.soleField "RoseThrowModel" "tape") ∈ lw_all := lw_g (lw_at lw_m7 46 rfl) rfl
theorem q1612 : (Jvm.Cond.lays "RoseThrowModel" "RoseThrowModel" "taped" "I") ∈ lw_all := lw_g (lw_at lw_m7 47 rfl) rfl
theorem q1613 : (Jvm.Cond.soleField "RoseThrowModel" "taped") ∈ lw_all := lw_g (lw_at lw_m7 48 rfl) rfl
theorem q1614 : (Jvm.Cond.lays "RoseThrowModel" "RoseThrowModel" "from" "I") ∈ lw_all := lw_g (lw_at lw_m7 49 rfl) rfl
theorem q1615 : (Jvm.Cond.soleField "RoseThrowModel" "from") ∈ lw_all := lw_g (lw_at lw_m7 50 rfl) rfl
theorem q1616 : (Jvm.Cond.lays "RoseThrowModel" "RoseThrowModel" "to" "I") ∈ lw_all := lw_g (lw_at lw_m7 51 rfl) rfl
theorem q1617 : (Jvm.Cond.soleField "RoseThrowModel" "to") ∈ lw_all := lw_g (lw_at lw_m7 52 rfl) rfl
theorem q1618 : (Jvm.Cond.lays "RoseThrowModel" "RoseThrowModel" "sort" "I") ∈ lw_all := lw_g (lw_at lw_m7 53 rfl) rfl
theorem q1619 : (Jvm.Cond.soleField "RoseThrowModel" "sort") ∈ lw_all := lw_g (lw_at lw_m7 54 rfl) rfl
theorem q1620 : (Jvm.Cond.lays "RoseThrowModel" "RoseThrowModel" "worth" "J") ∈ lw_all := lw_g (lw_at lw_m7 55 rfl) rfl
theorem q1621 : (Jvm.Cond.soleField "RoseThrowModel" "worth") ∈ lw_all := lw_g (lw_at lw_m7 56 rfl) rfl
theorem q1622 : (Jvm.Cond.lays "RoseThrowModel" "RoseThrowModel" "fault" "I") ∈ lw_all := lw_g (lw_at lw_m7 57 rfl) rfl
theorem q1623 : (Jvm.Cond.soleField "RoseThrowModel" "fault") ∈ lw_all := lw_g (lw_at lw_m7 58 rfl) rfl
theorem q1624 : (Jvm.Cond.lays "RoseThrowModel" "RoseThrowModel" "bad" "Z") ∈ lw_all := lw_g (lw_at lw_m7 59 rfl) rfl
theorem q1625 : (Jvm.Cond.soleField "RoseThrowModel" "bad") ∈ lw_all := lw_g (lw_at lw_m7 60 rfl) rfl
theorem q1626 : (Jvm.Cond.lays "RoseThrowModel" "RoseThrowModel" "ordered" "Z") ∈ lw_all := lw_g (lw_at lw_m7 61 rfl) rfl
theorem q1627 : (Jvm.Cond.soleField "RoseThrowModel" "ordered") ∈ lw_all := lw_g (lw_at lw_m7 62 rfl) rfl
theorem q1628 : (Jvm.Cond.lays "RoseThrowModel" "RoseThrowModel" "nClauses" "I") ∈ lw_all := lw_g (lw_at lw_m7 63 rfl) rfl
theorem q1629 : (Jvm.Cond.soleField "RoseThrowModel" "nClauses") ∈ lw_all := lw_g (lw_at lw_m7 64 rfl) rfl
theorem q1630 : (Jvm.Cond.laysFinal "RoseThrowModel" "RoseThrowModel" "nClause" "[I") ∈ lw_all := lw_g (lw_at lw_m7 65 rfl) rfl
theorem q1631 : (Jvm.Cond.soleField "RoseThrowModel" "nClause") ∈ lw_all := lw_g (lw_at lw_m7 66 rfl) rfl
theorem q1632 : (Jvm.Cond.lays "RoseThrowModel" "RoseThrowModel" "nCode" "I") ∈ lw_all := lw_g (lw_at lw_m7 67 rfl) rfl
theorem q1633 : (Jvm.Cond.soleField "RoseThrowModel" "nCode") ∈ lw_all := lw_g (lw_at lw_m7 68 rfl) rfl
theorem q1634 : (Jvm.Cond.laysFinal "RoseThrowModel" "RoseThrowModel" "nOp" "[I") ∈ lw_all := lw_g (lw_at lw_m7 69 rfl) rfl
theorem q1635 : (Jvm.Cond.soleField "RoseThrowModel" "nOp") ∈ lw_all := lw_g (lw_at lw_m7 70 rfl) rfl
theorem q1636 : (Jvm.Cond.laysFinal "RoseThrowModel" "RoseThrowModel" "nArg" "[I") ∈ lw_all := lw_g (lw_at lw_m7 71 rfl) rfl
theorem q1637 : (Jvm.Cond.soleField "RoseThrowModel" "nArg") ∈ lw_all := lw_g (lw_at lw_m7 72 rfl) rfl
theorem q1638 : (Jvm.Cond.lays "RoseThrowModel" "RoseThrowModel" "nLeaves" "I") ∈ lw_all := lw_g (lw_at lw_m7 73 rfl) rfl
theorem q1639 : (Jvm.Cond.soleField "RoseThrowModel" "nLeaves") ∈ lw_all := lw_g (lw_at lw_m7 74 rfl) rfl
theorem q1640 : (Jvm.Cond.laysFinal "RoseThrowModel" "RoseThrowModel" "pile" "[I") ∈ lw_all := lw_g (lw_at lw_m7 75 rfl) rfl
theorem q1641 : (Jvm.Cond.soleField "RoseThrowModel" "pile") ∈ lw_all := lw_g (lw_at lw_m7 76 rfl) rfl
theorem q1642 : (Jvm.Cond.laysFinal "RoseThrowModel" "RoseThrowModel" "pileAt" "[I") ∈ lw_all := lw_g (lw_at lw_m7 77 rfl) rfl
theorem q1643 : (Jvm.Cond.soleField "RoseThrowModel" "pileAt") ∈ lw_all := lw_g (lw_at lw_m7 78 rfl) rfl
theorem q1644 : (Jvm.Cond.lays "RoseThrowModel" "RoseThrowModel" "piled" "I") ∈ lw_all := lw_g (lw_at lw_m7 79 rfl) rfl
theorem q1645 : (Jvm.Cond.soleField "RoseThrowModel" "piled") ∈ lw_all := lw_g (lw_at lw_m7 80 rfl) rfl
theorem q1646 : (Jvm.Cond.lays "RoseThrowModel" "RoseThrowModel" "opened" "I") ∈ lw_all := lw_g (lw_at lw_m7 81 rfl) rfl
theorem q1647 : (Jvm.Cond.soleField "RoseThrowModel" "opened") ∈ lw_all := lw_g (lw_at lw_m7 82 rfl) rfl
theorem q1648 : (Jvm.Cond.laysFinal "RoseThrowModel" "RoseThrowModel" "words" "[J") ∈ lw_all := lw_g (lw_at lw_m7 83 rfl) rfl
theorem q1649 : (Jvm.Cond.soleField "RoseThrowModel" "words") ∈ lw_all := lw_g (lw_at lw_m7 84 rfl) rfl
theorem q1650 : (Jvm.Cond.laysFinal "RoseThrowModel" "RoseThrowModel" "orderWords" "[J") ∈ lw_all := lw_g (lw_at lw_m7 85 rfl) rfl
theorem q1651 : (Jvm.Cond.soleField "RoseThrowModel" "orderWords") ∈ lw_all := lw_g (lw_at lw_m7 86 rfl) rfl
theorem q1652 : (Jvm.Cond.laysFinal "RoseThrowModel" "RoseThrowModel" "heads" "[J") ∈ lw_all := lw_g (lw_at lw_m7 87 rfl) rfl
theorem q1653 : (Jvm.Cond.soleField "RoseThrowModel" "heads") ∈ lw_all := lw_g (lw_at lw_m7 88 rfl) rfl
theorem q1654 : (Jvm.Cond.lays "RoseThrowModel" "RoseThrowModel" "law" "I") ∈ lw_all := lw_g (lw_at lw_m7 89 rfl) rfl
theorem q1655 : (Jvm.Cond.soleField "RoseThrowModel" "law") ∈ lw_all := lw_g (lw_at lw_m7 90 rfl) rfl
theorem q1656 : (Jvm.Cond.laysFinal "RoseThrowModel" "RoseThrowModel" "set" "[J") ∈ lw_all := lw_g (lw_at lw_m7 91 rfl) rfl
theorem q1657 : (Jvm.Cond.soleField "RoseThrowModel" "set") ∈ lw_all := lw_g (lw_at lw_m7 92 rfl) rfl
theorem q1658 : (Jvm.Cond.laysFinal "RoseThrowModel" "RoseThrowModel" "now" "[J") ∈ lw_all := lw_g (lw_at lw_m7 93 rfl) rfl
theorem q1659 : (Jvm.Cond.soleField "RoseThrowModel" "now") ∈ lw_all := lw_g (lw_at lw_m7 94 rfl) rfl
theorem q1660 : (Jvm.Cond.laysFinal "RoseThrowModel" "RoseThrowModel" "rest" "[J") ∈ lw_all := lw_g (lw_at lw_m7 95 rfl) rfl
theorem q1661 : (Jvm.Cond.soleField "RoseThrowModel" "rest") ∈ lw_all := lw_g (lw_at lw_m7 96 rfl) rfl
theorem q1662 : (Jvm.Cond.lays "RoseThrowModel" "RoseThrowModel" "broken" "Z") ∈ lw_all := lw_g (lw_at lw_m7 97 rfl) rfl
theorem q1663 : (Jvm.Cond.soleField "RoseThrowModel" "broken") ∈ lw_all := lw_g (lw_at lw_m7 98 rfl) rfl
theorem q1664 : (Jvm.Cond.lays "RoseThrowModel" "RoseThrowModel" "value" "J") ∈ lw_all := lw_g (lw_at lw_m7 99 rfl) rfl
theorem q1665 : (Jvm.Cond.soleField "RoseThrowModel" "value") ∈ lw_all := lw_g (lw_at lw_m7 100 rfl) rfl
theorem q1666 : (Jvm.Cond.lays "RoseThrowModel" "RoseThrowModel" "sum" "J") ∈ lw_all := lw_g (lw_at lw_m7 101 rfl) rfl
theorem q1667 : (Jvm.Cond.soleField "RoseThrowModel" "sum") ∈ lw_all := lw_g (lw_at lw_m7 102 rfl) rfl
theorem q1668 : (Jvm.Cond.laysFinal "RoseThrowModel" "RoseThrowModel" "weights" "[I") ∈ lw_all := lw_g (lw_at lw_m7 103 rfl) rfl
theorem q1669 : (Jvm.Cond.soleField "RoseThrowModel" "weights") ∈ lw_all := lw_g (lw_at lw_m7 104 rfl) rfl
theorem q1670 : (Jvm.Cond.laysFinal "RoseThrowModel" "RoseThrowModel" "slipCell" "[I") ∈ lw_all := lw_g (lw_at lw_m7 105 rfl) rfl
theorem q1671 : (Jvm.Cond.soleField "RoseThrowModel" "slipCell") ∈ lw_all := lw_g (lw_at lw_m7 106 rfl) rfl
theorem q1672 : (Jvm.Cond.laysFinal "RoseThrowModel" "RoseThrowModel" "slipWeight" "[I") ∈ lw_all := lw_g (lw_at lw_m7 107 rfl) rfl
theorem q1673 : (Jvm.Cond.soleField "RoseThrowModel" "slipWeight") ∈ lw_all := lw_g (lw_at lw_m7 108 rfl) rfl
theorem q1674 : (Jvm.Cond.lays "RoseThrowModel" "RoseThrowModel" "all" "I") ∈ lw_all := lw_g (lw_at lw_m7 109 rfl) rfl
theorem q1675 : (Jvm.Cond.soleField "RoseThrowModel" "all") ∈ lw_all := lw_g (lw_at lw_m7 110 rfl) rfl
theorem q1676 : (Jvm.Cond.lays "RoseThrowModel" "RoseThrowModel" "upper" "J") ∈ lw_all := lw_g (lw_at lw_m7 111 rfl) rfl
theorem q1677 : (Jvm.Cond.soleField "RoseThrowModel" "upper") ∈ lw_all := lw_g (lw_at lw_m7 112 rfl) rfl
theorem q1678 : (Jvm.Cond.lays "RoseThrowModel" "RoseThrowModel" "lower" "J") ∈ lw_all := lw_g (lw_at lw_m7 113 rfl) rfl
theorem q1679 : (Jvm.Cond.soleField "RoseThrowModel" "lower") ∈ lw_all := lw_g (lw_at lw_m7 114 rfl) rfl
theorem q1680 : (Jvm.Cond.laysFinal "RoseThrowModel" "RoseThrowModel" "holds" "[Z") ∈ lw_all := lw_g (lw_at lw_m7 115 rfl) rfl
theorem q1681 : (Jvm.Cond.soleField "RoseThrowModel" "holds") ∈ lw_all := lw_g (lw_at lw_m7 116 rfl) rfl
theorem q1682 : (Jvm.Cond.lays "RoseThrowModel" "RoseThrowModel" "alike" "I") ∈ lw_all := lw_g (lw_at lw_m7 117 rfl) rfl
theorem q1683 : (Jvm.Cond.soleField "RoseThrowModel" "alike") ∈ lw_all := lw_g (lw_at lw_m7 118 rfl) rfl
theorem q1684 : (Jvm.Cond.lays "RoseThrowModel" "RoseThrowModel" "crowd" "I") ∈ lw_all := lw_g (lw_at lw_m7 119 rfl) rfl
theorem q1685 : (Jvm.Cond.soleField "RoseThrowModel" "crowd") ∈ lw_all := lw_g (lw_at lw_m7 120 rfl) rfl
theorem q1686 : (Jvm.Cond.laysFinal "RoseThrowModel" "RoseThrowModel" "parts" "[I") ∈ lw_all := lw_g (lw_at lw_m7 121 rfl) rfl
theorem q1687 : (Jvm.Cond.soleField "RoseThrowModel" "parts") ∈ lw_all := lw_g (lw_at lw_m7 122 rfl) rfl
theorem q1688 : (Jvm.Cond.lays "RoseThrowModel" "RoseThrowModel" "bestCell" "I") ∈ lw_all := lw_g (lw_at lw_m7 123 rfl) rfl
theorem q1689 : (Jvm.Cond.soleField "RoseThrowModel" "bestCell") ∈ lw_all := lw_g (lw_at lw_m7 124 rfl) rfl
theorem q1690 : (Jvm.Cond.lays "RoseThrowModel" "RoseThrowModel" "bestParts" "I") ∈ lw_all := lw_g (lw_at lw_m7 125 rfl) rfl
theorem q1691 : (Jvm.Cond.soleField "RoseThrowModel" "bestParts") ∈ lw_all := lw_g (lw_at lw_m7 126 rfl) rfl
theorem q1692 : (Jvm.Cond.lays "RoseThrowModel" "RoseThrowModel" "bestThrow" "I") ∈ lw_all := lw_g (lw_at lw_m7 127 rfl) rfl
theorem q1693 : (Jvm.Cond.soleField "RoseThrowModel" "bestThrow") ∈ lw_all := lw_g (lw_at lw_m7 128 rfl) rfl
theorem q1694 : (Jvm.Cond.lays "RoseThrowModel" "RoseThrowModel" "bestHeard" "I") ∈ lw_all := lw_g (lw_at lw_m7 129 rfl) rfl
theorem q1695 : (Jvm.Cond.soleField "RoseThrowModel" "bestHeard") ∈ lw_all := lw_g (lw_at lw_m7 130 rfl) rfl
theorem q1696 : (Jvm.Cond.lays "RoseThrowModel" "RoseThrowModel" "bestUpper" "J") ∈ lw_all := lw_g (lw_at lw_m7 131 rfl) rfl
theorem q1697 : (Jvm.Cond.soleField "RoseThrowModel" "bestUpper") ∈ lw_all := lw_g (lw_at lw_m7 132 rfl) rfl
theorem q1698 : (Jvm.Cond.lays "RoseThrowModel" "RoseThrowModel" "bestLower" "J") ∈ lw_all := lw_g (lw_at lw_m7 133 rfl) rfl
theorem q1699 : (Jvm.Cond.soleField "RoseThrowModel" "bestLower") ∈ lw_all := lw_g (lw_at lw_m7 134 rfl) rfl
theorem q1700 : (Jvm.Cond.laysFinal "RoseThrowModel" "RoseThrowModel" "nOrder" "[I") ∈ lw_all := lw_g (lw_at lw_m7 135 rfl) rfl
theorem q1701 : (Jvm.Cond.soleField "RoseThrowModel" "nOrder") ∈ lw_all := lw_g (lw_at lw_m7 136 rfl) rfl
theorem q1702 : (Jvm.Cond.lays "RoseThrowModel" "RoseThrowModel" "done" "I") ∈ lw_all := lw_g (lw_at lw_m7 137 rfl) rfl
theorem q1703 : (Jvm.Cond.soleField "RoseThrowModel" "done") ∈ lw_all := lw_g (lw_at lw_m7 138 rfl) rfl
theorem q1704 : (Jvm.Cond.lays "RoseThrowModel" "RoseThrowModel" "rushed" "I") ∈ lw_all := lw_g (lw_at lw_m7 139 rfl) rfl
theorem q1705 : (Jvm.Cond.soleField "RoseThrowModel" "rushed") ∈ lw_all := lw_g (lw_at lw_m7 140 rfl) rfl
theorem q1706 : (Jvm.Cond.lays "RoseThrowModel" "RoseThrowModel" "stopped" "I") ∈ lw_all := lw_g (lw_at lw_m7 141 rfl) rfl
theorem q1707 : (Jvm.Cond.soleField "RoseThrowModel" "stopped") ∈ lw_all := lw_g (lw_at lw_m7 142 rfl) rfl
theorem q1708 : (Jvm.Cond.lays "RoseThrowModel" "RoseThrowModel" "off" "Z") ∈ lw_all := lw_g (lw_at lw_m7 143 rfl) rfl
theorem q1709 : (Jvm.Cond.soleField "RoseThrowModel" "off") ∈ lw_all := lw_g (lw_at lw_m7 144 rfl) rfl
theorem q1710 : (Jvm.Cond.lays "RoseThrowModel" "RoseThrowModel" "state" "J") ∈ lw_all := lw_g (lw_at lw_m7 145 rfl) rfl
theorem q1711 : (Jvm.Cond.soleField "RoseThrowModel" "state") ∈ lw_all := lw_g (lw_at lw_m7 146 rfl) rfl
theorem q1712 : (Jvm.Cond.laysFinal "RoseThrowModel" "RoseThrowModel" "drawn" "[I") ∈ lw_all := lw_g (lw_at lw_m7 147 rfl) rfl
theorem q1713 : (Jvm.Cond.soleField "RoseThrowModel" "drawn") ∈ lw_all := lw_g (lw_at lw_m7 148 rfl) rfl
theorem q1714 : (Jvm.Cond.lays "RoseThrowModel" "RoseThrowModel" "nDrawn" "I") ∈ lw_all := lw_g (lw_at lw_m7 149 rfl) rfl
theorem q1715 : (Jvm.Cond.soleField "RoseThrowModel" "nDrawn") ∈ lw_all := lw_g (lw_at lw_m7 150 rfl) rfl
theorem q1716 : (Jvm.Cond.lays "RoseThrowModel" "RoseThrowModel" "isDrawn" "Z") ∈ lw_all := lw_g (lw_at lw_m7 151 rfl) rfl
theorem q1717 : (Jvm.Cond.soleField "RoseThrowModel" "isDrawn") ∈ lw_all := lw_g (lw_at lw_m7 152 rfl) rfl
theorem q1718 : (Jvm.Cond.superclass "RoseThrowModel" "java/lang/Object") ∈ lw_all := lw_g (lw_at lw_m7 153 rfl) rfl
theorem q1721 : (Jvm.Cond.instanceMethod ({ cls := "RoseThrowModel", name := "undo", desc := "()I" } : Jvm.MethodName)) ∈ lw_all := lw_g (lw_at lw_m7 156 rfl) rfl
theorem q1722 : (Jvm.Cond.selects "RoseThrowModel" ({ cls := "RoseThrowModel", name := "undo", desc := "()I" } : Jvm.MethodName) ({ cls := "RoseThrowModel", name := "undo", desc := "()I" } : Jvm.MethodName)) ∈ lw_all := lw_g (lw_at lw_m7 157 rfl) rfl
theorem q1723 : (Jvm.Cond.code ({ cls := "RoseThrowModel", name := "undo", desc := "()I" } : Jvm.MethodName) prog_22_method_16_code (1 : Nat) (Option.some Jvm.ClassFile.FieldType.int)) ∈ lw_all := lw_g (lw_at lw_m7 158 rfl) rfl
theorem q1724 : (Jvm.Cond.methodLink "RoseThrowModel" (155 : Nat) ({ cls := "RoseThrowModel", name := "tell", desc := "(I)I" } : Jvm.MethodName)) ∈ lw_all := lw_g (lw_at lw_m7 159 rfl) rfl
theorem q1725 : (Jvm.Cond.privateMethod ({ cls := "RoseThrowModel", name := "tell", desc := "(I)I" } : Jvm.MethodName)) ∈ lw_tbl := lw_at lw_m7 160 rfl
theorem q1726 : (Jvm.Cond.instanceMethod ({ cls := "RoseThrowModel", name := "tell", desc := "(I)I" } : Jvm.MethodName)) ∈ lw_all := lw_g (lw_at lw_m7 161 rfl) rfl
theorem q1727 : (Jvm.Cond.code ({ cls := "RoseThrowModel", name := "tell", desc := "(I)I" } : Jvm.MethodName) prog_22_method_6_code (2 : Nat) (Option.some Jvm.ClassFile.FieldType.int)) ∈ lw_all := lw_g (lw_at lw_m7 162 rfl) rfl
theorem q1728 : (Jvm.Cond.methodLink "RoseThrowModel" (180 : Nat) ({ cls := "RoseThrowModel", name := "putBack", desc := "(I)V" } : Jvm.MethodName)) ∈ lw_all := lw_g (lw_at lw_m7 163 rfl) rfl
theorem q1729 : (Jvm.Cond.privateMethod ({ cls := "RoseThrowModel", name := "putBack", desc := "(I)V" } : Jvm.MethodName)) ∈ lw_tbl := lw_at lw_m7 164 rfl
theorem q1730 : (Jvm.Cond.instanceMethod ({ cls := "RoseThrowModel", name := "putBack", desc := "(I)V" } : Jvm.MethodName)) ∈ lw_all := lw_g (lw_at lw_m7 165 rfl) rfl
theorem q1731 : (Jvm.Cond.code ({ cls := "RoseThrowModel", name := "putBack", desc := "(I)V" } : Jvm.MethodName) prog_22_method_14_code (3 : Nat) (Option.none : Option Jvm.ClassFile.FieldType)) ∈ lw_all := lw_g (lw_at lw_m7 166 rfl) rfl
theorem q1732 : (Jvm.Cond.methodLink "RoseThrowModel" (169 : Nat) ({ cls := "RoseThrowModel", name := "setCell", desc := "(II)V" } : Jvm.MethodName)) ∈ lw_all := lw_g (lw_at lw_m7 167 rfl) rfl
theorem q1733 : (Jvm.Cond.privateMethod ({ cls := "RoseThrowModel", name := "setCell", desc := "(II)V" } : Jvm.MethodName)) ∈ lw_tbl := lw_at lw_m7 168 rfl
theorem q1734 : (Jvm.Cond.instanceMethod ({ cls := "RoseThrowModel", name := "setCell", desc := "(II)V" } : Jvm.MethodName)) ∈ lw_all := lw_g (lw_at lw_m7 169 rfl) rfl
theorem q1735 : (Jvm.Cond.code ({ cls := "RoseThrowModel", name := "setCell", desc := "(II)V" } : Jvm.MethodName) prog_22_method_10_code (3 : Nat) (Option.none : Option Jvm.ClassFile.FieldType)) ∈ lw_all := lw_g (lw_at lw_m7 170 rfl) rfl
theorem q1737 : (Jvm.Cond.instanceMethod ({ cls := "RoseThrowModel", name := "image", desc := "(I)I" } : Jvm.MethodName)) ∈ lw_all := lw_g (lw_at lw_m7 172 rfl) rfl
theorem q1738 : (Jvm.Cond.selects "RoseThrowModel" ({ cls := "RoseThrowModel", name := "image", desc := "(I)I" } : Jvm.MethodName) ({ cls := "RoseThrowModel", name := "image", desc := "(I)I" } : Jvm.MethodName)) ∈ lw_all := lw_g (lw_at lw_m7 173 rfl) rfl
theorem q1739 : (Jvm.Cond.code ({ cls := "RoseThrowModel", name := "image", desc := "(I)I" } : Jvm.MethodName) prog_22_method_17_code (3 : Nat) (Option.some Jvm.ClassFile.FieldType.int)) ∈ lw_all := lw_g (lw_at lw_m7 174 rfl) rfl
theorem q1740 : (Jvm.Cond.methodLink "RoseThrowModel" (159 : Nat) ({ cls := "RoseThrowModel", name := "in", desc := "(JJJ)Z" } : Jvm.MethodName)) ∈ lw_all := lw_g (lw_at lw_m7 175 rfl) rfl
theorem q1741 : (Jvm.Cond.static ({ cls := "RoseThrowModel", name := "in", desc := "(JJJ)Z" } : Jvm.MethodName)) ∈ lw_all := lw_g (lw_at lw_m7 176 rfl) rfl
theorem q1742 : (Jvm.Cond.code ({ cls := "RoseThrowModel", name := "in", desc := "(JJJ)Z" } : Jvm.MethodName) prog_22_method_3_code (6 : Nat) (Option.some Jvm.ClassFile.FieldType.boolean)) ∈ lw_all := lw_g (lw_at lw_m7 177 rfl) rfl
theorem q1744 : (Jvm.Cond.instanceMethod ({ cls := "RoseThrowModel", name := "back", desc := "(I)I" } : Jvm.MethodName)) ∈ lw_all := lw_g (lw_at lw_m7 179 rfl) rfl
theorem q1745 : (Jvm.Cond.selects "RoseThrowModel" ({ cls := "RoseThrowModel", name := "back", desc := "(I)I" } : Jvm.MethodName) ({ cls := "RoseThrowModel", name := "back", desc := "(I)I" } : Jvm.MethodName)) ∈ lw_all := lw_g (lw_at lw_m7 180 rfl) rfl
theorem q1746 : (Jvm.Cond.code ({ cls := "RoseThrowModel", name := "back", desc := "(I)I" } : Jvm.MethodName) prog_22_method_18_code (3 : Nat) (Option.some Jvm.ClassFile.FieldType.int)) ∈ lw_all := lw_g (lw_at lw_m7 181 rfl) rfl
theorem q1748 : (Jvm.Cond.instanceMethod ({ cls := "RoseThrowModel", name := "catcher", desc := "(IIII)I" } : Jvm.MethodName)) ∈ lw_all := lw_g (lw_at lw_m7 183 rfl) rfl
theorem q1749 : (Jvm.Cond.selects "RoseThrowModel" ({ cls := "RoseThrowModel", name := "catcher", desc := "(IIII)I" } : Jvm.MethodName) ({ cls := "RoseThrowModel", name := "catcher", desc := "(IIII)I" } : Jvm.MethodName)) ∈ lw_all := lw_g (lw_at lw_m7 184 rfl) rfl
theorem q1750 : (Jvm.Cond.code ({ cls := "RoseThrowModel", name := "catcher", desc := "(IIII)I" } : Jvm.MethodName) prog_22_method_22_code (5 : Nat) (Option.some Jvm.ClassFile.FieldType.int)) ∈ lw_all := lw_g (lw_at lw_m7 185 rfl) rfl
theorem q1751 : (Jvm.Cond.methodLink "RoseThrowModel" (200 : Nat) ({ cls := "RoseThrowModel", name := "catcher1", desc := "(IIII)I" } : Jvm.MethodName)) ∈ lw_all := lw_g (lw_at lw_m7 186 rfl) rfl
theorem q1752 : (Jvm.Cond.privateMethod ({ cls := "RoseThrowModel", name := "catcher1", desc := "(IIII)I" } : Jvm.MethodName)) ∈ lw_tbl := lw_at lw_m7 187 rfl
theorem q1753 : (Jvm.Cond.instanceMethod ({ cls := "RoseThrowModel", name := "catcher1", desc := "(IIII)I" } : Jvm.MethodName)) ∈ lw_all := lw_g (lw_at lw_m7 188 rfl) rfl
theorem q1754 : (Jvm.Cond.code ({ cls := "RoseThrowModel", name := "catcher1", desc := "(IIII)I" } : Jvm.MethodName) prog_22_method_20_code (7 : Nat) (Option.some Jvm.ClassFile.FieldType.int)) ∈ lw_all := lw_g (lw_at lw_m7 189 rfl) rfl
theorem q1755 : (Jvm.Cond.methodLink "RoseThrowModel" (183 : Nat) ({ cls := "RoseThrowModel", name := "isCell", desc := "(I)Z" } : Jvm.MethodName)) ∈ lw_all := lw_g (lw_at lw_m7 190 rfl) rfl
theorem q1756 : (Jvm.Cond.static ({ cls := "RoseThrowModel", name := "isCell", desc := "(I)Z" } : Jvm.MethodName)) ∈ lw_all := lw_g (lw_at lw_m7 191 rfl) rfl
theorem q1757 : (Jvm.Cond.code ({ cls := "RoseThrowModel", name := "isCell", desc := "(I)Z" } : Jvm.MethodName) prog_22_method_12_code (1 : Nat) (Option.some Jvm.ClassFile.FieldType.boolean)) ∈ lw_all := lw_g (lw_at lw_m7 192 rfl) rfl
theorem q1758 : (Jvm.Cond.constantLong "RoseThrowModel" (163 : Nat) (35 : Int64)) ∈ lw_all := lw_g (lw_at lw_m7 193 rfl) rfl
theorem q1759 : (Jvm.Cond.constantLong "RoseThrowModel" (187 : Nat) (3 : Int64)) ∈ lw_all := lw_g (lw_at lw_m7 194 rfl) rfl
theorem q1760 : (Jvm.Cond.constantLong "RoseThrowModel" (189 : Nat) (-9 : Int64)) ∈ lw_all := lw_g (lw_at lw_m7 195 rfl) rfl
theorem q1761 : (Jvm.Cond.constantLong "RoseThrowModel" (191 : Nat) (9 : Int64)) ∈ lw_all := lw_g (lw_at lw_m7 196 rfl) rfl
theorem q1762 : (Jvm.Cond.methodLink "RoseThrowModel" (193 : Nat) ({ cls := "RoseThrowModel", name := "isFree", desc := "(I)Z" } : Jvm.MethodName)) ∈ lw_all := lw_g (lw_at lw_m7 197 rfl) rfl
theorem q1763 : (Jvm.Cond.privateMethod ({ cls := "RoseThrowModel", name := "isFree", desc := "(I)Z" } : Jvm.MethodName)) ∈ lw_tbl := lw_at lw_m7 198 rfl
theorem q1764 : (Jvm.Cond.instanceMethod ({ cls := "RoseThrowModel", name := "isFree", desc := "(I)Z" } : Jvm.MethodName)) ∈ lw_all := lw_g (lw_at lw_m7 199 rfl) rfl
theorem q1765 : (Jvm.Cond.code ({ cls := "RoseThrowModel", name := "isFree", desc := "(I)Z" } : Jvm.MethodName) prog_22_method_19_code (3 : Nat) (Option.some Jvm.ClassFile.FieldType.boolean)) ∈ lw_all := lw_g (lw_at lw_m7 200 rfl) rfl
theorem q1766 : (Jvm.Cond.methodLink "RoseThrowModel" (165 : Nat) ({ cls := "RoseThrowModel", name := "ofCatcher", desc := "(II)I" } : Jvm.MethodName)) ∈ lw_all := lw_g (lw_at lw_m7 201 rfl) rfl
theorem q1767 : (Jvm.Cond.privateMethod ({ cls := "RoseThrowModel", name := "ofCatcher", desc := "(II)I" } : Jvm.MethodName)) ∈ lw_tbl := lw_at lw_m7 202 rfl
theorem q1768 : (Jvm.Cond.instanceMethod ({ cls := "RoseThrowModel", name := "ofCatcher", desc := "(II)I" } : Jvm.MethodName)) ∈ lw_all := lw_g (lw_at lw_m7 203 rfl) rfl
theorem q1769 : (Jvm.Cond.code ({ cls := "RoseThrowModel", name := "ofCatcher", desc := "(II)I" } : Jvm.MethodName) prog_22_method_9_code (3 : Nat) (Option.some Jvm.ClassFile.FieldType.int)) ∈ lw_all := lw_g (lw_at lw_m7 204 rfl) rfl
theorem q1770 : (Jvm.Cond.methodLink "RoseThrowModel" (196 : Nat) ({ cls := "RoseThrowModel", name := "isBarredBy", desc := "(IIII)Z" } : Jvm.MethodName)) ∈ lw_all := lw_g (lw_at lw_m7 205 rfl) rfl
theorem q1771 : (Jvm.Cond.privateMethod ({ cls := "RoseThrowModel", name := "isBarredBy", desc := "(IIII)Z" } : Jvm.MethodName)) ∈ lw_tbl := lw_at lw_m7 206 rfl
theorem q1772 : (Jvm.Cond.instanceMethod ({ cls := "RoseThrowModel", name := "isBarredBy", desc := "(IIII)Z" } : Jvm.MethodName)) ∈ lw_all := lw_g (lw_at lw_m7 207 rfl) rfl
theorem q1773 : (Jvm.Cond.code ({ cls := "RoseThrowModel", name := "isBarredBy", desc := "(IIII)Z" } : Jvm.MethodName) prog_22_method_70_code (5 : Nat) (Option.some Jvm.ClassFile.FieldType.boolean)) ∈ lw_all := lw_g (lw_at lw_m7 208 rfl) rfl
theorem q1774 : (Jvm.Cond.methodLink "RoseThrowModel" (420 : Nat) ({ cls := "RoseThrowModel", name := "setCatcher", desc := "(III)V" } : Jvm.MethodName)) ∈ lw_all := lw_g (lw_at lw_m7 209 rfl) rfl
theorem q1775 : (Jvm.Cond.privateMethod ({ cls := "RoseThrowModel", name := "setCatcher", desc := "(III)V" } : Jvm.MethodName)) ∈ lw_tbl := lw_at lw_m7 210 rfl
theorem q1776 : (Jvm.Cond.instanceMethod ({ cls := "RoseThrowModel", name := "setCatcher", desc := "(III)V" } : Jvm.MethodName)) ∈ lw_all := lw_g (lw_at lw_m7 211 rfl) rfl
theorem q1777 : (Jvm.Cond.code ({ cls := "RoseThrowModel", name := "setCatcher", desc := "(III)V" } : Jvm.MethodName) prog_22_method_66_code (4 : Nat) (Option.none : Option Jvm.ClassFile.FieldType)) ∈ lw_all := lw_g (lw_at lw_m7 212 rfl) rfl
theorem q1778 : (Jvm.Cond.methodLink "RoseThrowModel" (409 : Nat) ({ cls := "RoseThrowModel", name := "clearSet", desc := "()V" } : Jvm.MethodName)) ∈ lw_all := lw_g (lw_at lw_m7 213 rfl) rfl
theorem q1779 : (Jvm.Cond.privateMethod ({ cls := "RoseThrowModel", name := "clearSet", desc := "()V" } : Jvm.MethodName)) ∈ lw_tbl := lw_at lw_m7 214 rfl
theorem q1780 : (Jvm.Cond.instanceMethod ({ cls := "RoseThrowModel", name := "clearSet", desc := "()V" } : Jvm.MethodName)) ∈ lw_all := lw_g (lw_at lw_m7 215 rfl) rfl
theorem q1781 : (Jvm.Cond.code ({ cls := "RoseThrowModel", name := "clearSet", desc := "()V" } : Jvm.MethodName) prog_22_method_64_code (2 : Nat) (Option.none : Option Jvm.ClassFile.FieldType)) ∈ lw_all := lw_g (lw_at lw_m7 216 rfl) rfl
theorem q1782 : (Jvm.Cond.constantLong "RoseThrowModel" (221 : Nat) (-1 : Int64)) ∈ lw_all := lw_g (lw_at lw_m7 217 rfl) rfl
theorem q1783 : (Jvm.Cond.methodLink "RoseThrowModel" (403 : Nat) ({ cls := "RoseThrowModel", name := "term", desc := "(I)I" } : Jvm.MethodName)) ∈ lw_all := lw_g (lw_at lw_m7 218 rfl) rfl
theorem q1784 : (Jvm.Cond.privateMethod ({ cls := "RoseThrowModel", name := "term", desc := "(I)I" } : Jvm.MethodName)) ∈ lw_tbl := lw_at lw_m7 219 rfl
theorem q1785 : (Jvm.Cond.instanceMethod ({ cls := "RoseThrowModel", name := "term", desc := "(I)I" } : Jvm.MethodName)) ∈ lw_all := lw_g (lw_at lw_m7 220 rfl) rfl
theorem q1786 : (Jvm.Cond.code ({ cls := "RoseThrowModel", name := "term", desc := "(I)I" } : Jvm.MethodName) prog_22_method_8_code (2 : Nat) (Option.some Jvm.ClassFile.FieldType.int)) ∈ lw_all := lw_g (lw_at lw_m7 221 rfl) rfl
theorem q1787 : (Jvm.Cond.methodLink "RoseThrowModel" (412 : Nat) ({ cls := "RoseThrowModel", name := "tells", desc := "(IJ)J" } : Jvm.MethodName)) ∈ lw_all := lw_g (lw_at lw_m7 222 rfl) rfl
theorem q1788 : (Jvm.Cond.privateMethod ({ cls := "RoseThrowModel", name := "tells", desc := "(IJ)J" } : Jvm.MethodName)) ∈ lw_tbl := lw_at lw_m7 223 rfl
theorem q1789 : (Jvm.Cond.instanceMethod ({ cls := "RoseThrowModel", name := "tells", desc := "(IJ)J" } : Jvm.MethodName)) ∈ lw_all := lw_g (lw_at lw_m7 224 rfl) rfl
theorem q1790 : (Jvm.Cond.code ({ cls := "RoseThrowModel", name := "tells", desc := "(IJ)J" } : Jvm.MethodName) prog_22_method_65_code (8 : Nat) (Option.some Jvm.ClassFile.FieldType.long)) ∈ lw_all := lw_g (lw_at lw_m7 225 rfl) rfl
theorem q1791 : (Jvm.Cond.methodLink "RoseThrowModel" (406 : Nat) ({ cls := "RoseThrowModel", name := "isSo", desc := "(I)Z" } : Jvm.MethodName)) ∈ lw_all := lw_g (lw_at lw_m7 226 rfl) rfl
theorem q1792 : (Jvm.Cond.privateMethod ({ cls := "RoseThrowModel", name := "isSo", desc := "(I)Z" } : Jvm.MethodName)) ∈ lw_tbl := lw_at lw_m7 227 rfl
theorem q1793 : (Jvm.Cond.instanceMethod ({ cls := "RoseThrowModel", name := "isSo", desc := "(I)Z" } : Jvm.MethodName)) ∈ lw_all := lw_g (lw_at lw_m7 228 rfl) rfl
theorem q1794 : (Jvm.Cond.code ({ cls := "RoseThrowModel", name := "isSo", desc := "(I)Z" } : Jvm.MethodName) prog_22_method_63_code (2 : Nat) (Option.some Jvm.ClassFile.FieldType.boolean)) ∈ lw_all := lw_g (lw_at lw_m7 229 rfl) rfl
theorem q1795 : (Jvm.Cond.methodLink "RoseThrowModel" (397 : Nat) ({ cls := "RoseThrowModel", name := "reckonAll", desc := "(II)V" } : Jvm.MethodName)) ∈ lw_all := lw_g (lw_at lw_m7 230 rfl) rfl
theorem q1796 : (Jvm.Cond.privateMethod ({ cls := "RoseThrowModel", name := "reckonAll", desc := "(II)V" } : Jvm.MethodName)) ∈ lw_tbl := lw_at lw_m7 231 rfl
theorem q1797 : (Jvm.Cond.instanceMethod ({ cls := "RoseThrowModel", name := "reckonAll", desc := "(II)V" } : Jvm.MethodName)) ∈ lw_all := lw_g (lw_at lw_m7 232 rfl) rfl
theorem q1798 : (Jvm.Cond.code ({ cls := "RoseThrowModel", name := "reckonAll", desc := "(II)V" } : Jvm.MethodName) prog_22_method_62_code (7 : Nat) (Option.none : Option Jvm.ClassFile.FieldType)) ∈ lw_all := lw_g (lw_at lw_m7 233 rfl) rfl
theorem q1799 : (Jvm.Cond.methodLink "RoseThrowModel" (207 : Nat) ({ cls := "RoseThrowModel", name := "isCatcher", desc := "(I)Z" } : Jvm.MethodName)) ∈ lw_all := lw_g (lw_at lw_m7 234 rfl) rfl
theorem q1800 : (Jvm.Cond.privateMethod ({ cls := "RoseThrowModel", name := "isCatcher", desc := "(I)Z" } : Jvm.MethodName)) ∈ lw_tbl := lw_at lw_m7 235 rfl
theorem q1801 : (Jvm.Cond.instanceMethod ({ cls := "RoseThrowModel", name := "isCatcher", desc := "(I)Z" } : Jvm.MethodName)) ∈ lw_all := lw_g (lw_at lw_m7 236 rfl) rfl
theorem q1802 : (Jvm.Cond.code ({ cls := "RoseThrowModel", name := "isCatcher", desc := "(I)Z" } : Jvm.MethodName) prog_22_method_11_code (2 : Nat) (Option.some Jvm.ClassFile.FieldType.boolean)) ∈ lw_all := lw_g (lw_at lw_m7 237 rfl) rfl
theorem q1803 : (Jvm.Cond.methodLink "RoseThrowModel" (386 : Nat) ({ cls := "RoseThrowModel", name := "reckon", desc := "(IJJ)J" } : Jvm.MethodName)) ∈ lw_all := lw_g (lw_at lw_m7 238 rfl) rfl
theorem q1804 : (Jvm.Cond.privateMethod ({ cls := "RoseThrowModel", name := "reckon", desc := "(IJJ)J" } : Jvm.MethodName)) ∈ lw_tbl := lw_at lw_m7 239 rfl
theorem q1805 : (Jvm.Cond.instanceMethod ({ cls := "RoseThrowModel", name := "reckon", desc := "(IJJ)J" } : Jvm.MethodName)) ∈ lw_all := lw_g (lw_at lw_m8 0 rfl) rfl
theorem q1806 : (Jvm.Cond.code ({ cls := "RoseThrowModel", name := "reckon", desc := "(IJJ)J" } : Jvm.MethodName) prog_22_method_61_code (6 : Nat) (Option.some Jvm.ClassFile.FieldType.long)) ∈ lw_all := lw_g (lw_at lw_m8 1 rfl) rfl
theorem q1807 : (Jvm.Cond.constantLong "RoseThrowModel" (390 : Nat) (-1000000000 : Int64)) ∈ lw_all := lw_g (lw_at lw_m8 2 rfl) rfl
theorem q1808 : (Jvm.Cond.constantLong "RoseThrowModel" (392 : Nat) (1000000000 : Int64)) ∈ lw_all := lw_g (lw_at lw_m8 3 rfl) rfl
theorem q1809 : (Jvm.Cond.methodLink "RoseThrowModel" (204 : Nat) ({ cls := "RoseThrowModel", name := "settled", desc := "(I)I" } : Jvm.MethodName)) ∈ lw_all := lw_g (lw_at lw_m8 4 rfl) rfl
theorem q1810 : (Jvm.Cond.privateMethod ({ cls := "RoseThrowModel", name := "settled", desc := "(I)I" } : Jvm.MethodName)) ∈ lw_tbl := lw_at lw_m8 5 rfl
theorem q1811 : (Jvm.Cond.instanceMethod ({ cls := "RoseThrowModel", name := "settled", desc := "(I)I" } : Jvm.MethodName)) ∈ lw_all := lw_g (lw_at lw_m8 6 rfl) rfl
theorem q1812 : (Jvm.Cond.code ({ cls := "RoseThrowModel", name := "settled", desc := "(I)I" } : Jvm.MethodName) prog_22_method_21_code (2 : Nat) (Option.some Jvm.ClassFile.FieldType.int)) ∈ lw_all := lw_g (lw_at lw_m8 7 rfl) rfl
theorem q1814 : (Jvm.Cond.instanceMethod ({ cls := "RoseThrowModel", name := "put", desc := "(III)I" } : Jvm.MethodName)) ∈ lw_all := lw_g (lw_at lw_m8 9 rfl) rfl
theorem q1815 : (Jvm.Cond.selects "RoseThrowModel" ({ cls := "RoseThrowModel", name := "put", desc := "(III)I" } : Jvm.MethodName) ({ cls := "RoseThrowModel", name := "put", desc := "(III)I" } : Jvm.MethodName)) ∈ lw_all := lw_g (lw_at lw_m8 10 rfl) rfl
theorem q1816 : (Jvm.Cond.code ({ cls := "RoseThrowModel", name := "put", desc := "(III)I" } : Jvm.MethodName) prog_22_method_23_code (5 : Nat) (Option.some Jvm.ClassFile.FieldType.int)) ∈ lw_all := lw_g (lw_at lw_m8 11 rfl) rfl
theorem q1817 : (Jvm.Cond.methodLink "RoseThrowModel" (210 : Nat) ({ cls := "RoseThrowModel", name := "set1", desc := "(II)I" } : Jvm.MethodName)) ∈ lw_all := lw_g (lw_at lw_m8 12 rfl) rfl
theorem q1818 : (Jvm.Cond.privateMethod ({ cls := "RoseThrowModel", name := "set1", desc := "(II)I" } : Jvm.MethodName)) ∈ lw_tbl := lw_at lw_m8 13 rfl
theorem q1819 : (Jvm.Cond.instanceMethod ({ cls := "RoseThrowModel", name := "set1", desc := "(II)I" } : Jvm.MethodName)) ∈ lw_all := lw_g (lw_at lw_m8 14 rfl) rfl
theorem q1820 : (Jvm.Cond.code ({ cls := "RoseThrowModel", name := "set1", desc := "(II)I" } : Jvm.MethodName) prog_22_method_7_code (3 : Nat) (Option.some Jvm.ClassFile.FieldType.int)) ∈ lw_all := lw_g (lw_at lw_m8 15 rfl) rfl
theorem q1822 : (Jvm.Cond.instanceMethod ({ cls := "RoseThrowModel", name := "of", desc := "(II)I" } : Jvm.MethodName)) ∈ lw_all := lw_g (lw_at lw_m8 17 rfl) rfl
theorem q1823 : (Jvm.Cond.selects "RoseThrowModel" ({ cls := "RoseThrowModel", name := "of", desc := "(II)I" } : Jvm.MethodName) ({ cls := "RoseThrowModel", name := "of", desc := "(II)I" } : Jvm.MethodName)) ∈ lw_all := lw_g (lw_at lw_m8 18 rfl) rfl
theorem q1824 : (Jvm.Cond.code ({ cls := "RoseThrowModel", name := "of", desc := "(II)I" } : Jvm.MethodName) prog_22_method_24_code (3 : Nat) (Option.some Jvm.ClassFile.FieldType.int)) ∈ lw_all := lw_g (lw_at lw_m8 19 rfl) rfl
theorem q1825 : (Jvm.Cond.constantLong "RoseThrowModel" (213 : Nat) (4 : Int64)) ∈ lw_all := lw_g (lw_at lw_m8 20 rfl) rfl
theorem q1827 : (Jvm.Cond.instanceMethod ({ cls := "RoseThrowModel", name := "terms", desc := "(II)I" } : Jvm.MethodName)) ∈ lw_all := lw_g (lw_at lw_m8 22 rfl) rfl
theorem q1828 : (Jvm.Cond.selects "RoseThrowModel" ({ cls := "RoseThrowModel", name := "terms", desc := "(II)I" } : Jvm.MethodName) ({ cls := "RoseThrowModel", name := "terms", desc := "(II)I" } : Jvm.MethodName)) ∈ lw_all := lw_g (lw_at lw_m8 23 rfl) rfl
theorem q1829 : (Jvm.Cond.code ({ cls := "RoseThrowModel", name := "terms", desc := "(II)I" } : Jvm.MethodName) prog_22_method_26_code (3 : Nat) (Option.some Jvm.ClassFile.FieldType.int)) ∈ lw_all := lw_g (lw_at lw_m8 24 rfl) rfl
theorem q1830 : (Jvm.Cond.methodLink "RoseThrowModel" (223 : Nat) ({ cls := "RoseThrowModel", name := "isTerm", desc := "(II)Z" } : Jvm.MethodName)) ∈ lw_all := lw_g (lw_at lw_m8 25 rfl) rfl
theorem q1831 : (Jvm.Cond.static ({ cls := "RoseThrowModel", name := "isTerm", desc := "(II)Z" } : Jvm.MethodName)) ∈ lw_all := lw_g (lw_at lw_m8 26 rfl) rfl
theorem q1832 : (Jvm.Cond.code ({ cls := "RoseThrowModel", name := "isTerm", desc := "(II)Z" } : Jvm.MethodName) prog_22_method_25_code (2 : Nat) (Option.some Jvm.ClassFile.FieldType.boolean)) ∈ lw_all := lw_g (lw_at lw_m8 27 rfl) rfl
theorem q1833 : (Jvm.Cond.constantLong "RoseThrowModel" (215 : Nat) (5 : Int64)) ∈ lw_all := lw_g (lw_at lw_m8 28 rfl) rfl
theorem q1834 : (Jvm.Cond.constantLong "RoseThrowModel" (217 : Nat) (-2 : Int64)) ∈ lw_all := lw_g (lw_at lw_m8 29 rfl) rfl
theorem q1835 : (Jvm.Cond.constantLong "RoseThrowModel" (219 : Nat) (2 : Int64)) ∈ lw_all := lw_g (lw_at lw_m8 30 rfl) rfl
theorem q1837 : (Jvm.Cond.instanceMethod ({ cls := "RoseThrowModel", name := "row", desc := "()I" } : Jvm.MethodName)) ∈ lw_all := lw_g (lw_at lw_m8 32 rfl) rfl
theorem q1838 : (Jvm.Cond.selects "RoseThrowModel" ({ cls := "RoseThrowModel", name := "row", desc := "()I" } : Jvm.MethodName) ({ cls := "RoseThrowModel", name := "row", desc := "()I" } : Jvm.MethodName)) ∈ lw_all := lw_g (lw_at lw_m8 33 rfl) rfl
theorem q1839 : (Jvm.Cond.code ({ cls := "RoseThrowModel", name := "row", desc := "()I" } : Jvm.MethodName) prog_22_method_27_code (4 : Nat) (Option.some Jvm.ClassFile.FieldType.int)) ∈ lw_all := lw_g (lw_at lw_m8 34 rfl) rfl
theorem q1841 : (Jvm.Cond.instanceMethod ({ cls := "RoseThrowModel", name := "rice", desc := "()I" } : Jvm.MethodName)) ∈ lw_all := lw_g (lw_at lw_m8 36 rfl) rfl
theorem q1842 : (Jvm.Cond.selects "RoseThrowModel" ({ cls := "RoseThrowModel", name := "rice", desc := "()I" } : Jvm.MethodName) ({ cls := "RoseThrowModel", name := "rice", desc := "()I" } : Jvm.MethodName)) ∈ lw_all := lw_g (lw_at lw_m8 37 rfl) rfl
theorem q1843 : (Jvm.Cond.code ({ cls := "RoseThrowModel", name := "rice", desc := "()I" } : Jvm.MethodName) prog_22_method_28_code (1 : Nat) (Option.some Jvm.ClassFile.FieldType.int)) ∈ lw_all := lw_g (lw_at lw_m8 38 rfl) rfl
theorem q1845 : (Jvm.Cond.instanceMethod ({ cls := "RoseThrowModel", name := "feed", desc := "(IIIII)I" } : Jvm.MethodName)) ∈ lw_all := lw_g (lw_at lw_m8 40 rfl) rfl
theorem q1846 : (Jvm.Cond.selects "RoseThrowModel" ({ cls := "RoseThrowModel", name := "feed", desc := "(IIIII)I" } : Jvm.MethodName) ({ cls := "RoseThrowModel", name := "feed", desc := "(IIIII)I" } : Jvm.MethodName)) ∈ lw_all := lw_g (lw_at lw_m8 41 rfl) rfl
theorem q1847 : (Jvm.Cond.code ({ cls := "RoseThrowModel", name := "feed", desc := "(IIIII)I" } : Jvm.MethodName) prog_22_method_30_code (6 : Nat) (Option.some Jvm.ClassFile.FieldType.int)) ∈ lw_all := lw_g (lw_at lw_m8 42 rfl) rfl
theorem q1848 : (Jvm.Cond.methodLink "RoseThrowModel" (233 : Nat) ({ cls := "RoseThrowModel", name := "four", desc := "(I)V" } : Jvm.MethodName)) ∈ lw_all := lw_g (lw_at lw_m8 43 rfl) rfl
theorem q1849 : (Jvm.Cond.privateMethod ({ cls := "RoseThrowModel", name := "four", desc := "(I)V" } : Jvm.MethodName)) ∈ lw_tbl := lw_at lw_m8 44 rfl
theorem q1850 : (Jvm.Cond.instanceMethod ({ cls := "RoseThrowModel", name := "four", desc := "(I)V" } : Jvm.MethodName)) ∈ lw_all := lw_g (lw_at lw_m8 45 rfl) rfl
theorem q1851 : (Jvm.Cond.code ({ cls := "RoseThrowModel", name := "four", desc := "(I)V" } : Jvm.MethodName) prog_22_method_29_code (3 : Nat) (Option.none : Option Jvm.ClassFile.FieldType)) ∈ lw_all := lw_g (lw_at lw_m8 46 rfl) rfl
theorem q1853 : (Jvm.Cond.instanceMethod ({ cls := "RoseThrowModel", name := "end", desc := "(I)I" } : Jvm.MethodName)) ∈ lw_all := lw_g (lw_at lw_m8 48 rfl) rfl
theorem q1854 : (Jvm.Cond.selects "RoseThrowModel" ({ cls := "RoseThrowModel", name := "end", desc := "(I)I" } : Jvm.MethodName) ({ cls := "RoseThrowModel", name := "end", desc := "(I)I" } : Jvm.MethodName)) ∈ lw_all := lw_g (lw_at lw_m8 49 rfl) rfl
theorem q1855 : (Jvm.Cond.code ({ cls := "RoseThrowModel", name := "end", desc := "(I)I" } : Jvm.MethodName) prog_22_method_31_code (2 : Nat) (Option.some Jvm.ClassFile.FieldType.int)) ∈ lw_all := lw_g (lw_at lw_m8 50 rfl) rfl
theorem q1857 : (Jvm.Cond.instanceMethod ({ cls := "RoseThrowModel", name := "fault", desc := "()I" } : Jvm.MethodName)) ∈ lw_all := lw_g (lw_at lw_m8 52 rfl) rfl
theorem q1858 : (Jvm.Cond.selects "RoseThrowModel" ({ cls := "RoseThrowModel", name := "fault", desc := "()I" } : Jvm.MethodName) ({ cls := "RoseThrowModel", name := "fault", desc := "()I" } : Jvm.MethodName)) ∈ lw_all := lw_g (lw_at lw_m8 53 rfl) rfl
theorem q1859 : (Jvm.Cond.code ({ cls := "RoseThrowModel", name := "fault", desc := "()I" } : Jvm.MethodName) prog_22_method_40_code (1 : Nat) (Option.some Jvm.ClassFile.FieldType.int)) ∈ lw_all := lw_g (lw_at lw_m8 54 rfl) rfl
theorem q1861 : (Jvm.Cond.instanceMethod ({ cls := "RoseThrowModel", name := "law", desc := "()I" } : Jvm.MethodName)) ∈ lw_all := lw_g (lw_at lw_m8 56 rfl) rfl
theorem q1862 : (Jvm.Cond.selects "RoseThrowModel" ({ cls := "RoseThrowModel", name := "law", desc := "()I" } : Jvm.MethodName) ({ cls := "RoseThrowModel", name := "law", desc := "()I" } : Jvm.MethodName)) ∈ lw_all := lw_g (lw_at lw_m8 57 rfl) rfl
theorem q1863 : (Jvm.Cond.code ({ cls := "RoseThrowModel", name := "law", desc := "()I" } : Jvm.MethodName) prog_22_method_59_code (3 : Nat) (Option.some Jvm.ClassFile.FieldType.int)) ∈ lw_all := lw_g (lw_at lw_m8 58 rfl) rfl
theorem q1864 : (Jvm.Cond.methodLink "RoseThrowModel" (371 : Nat) ({ cls := "RoseThrowModel", name := "beginText", desc := "(Z)V" } : Jvm.MethodName)) ∈ lw_all := lw_g (lw_at lw_m8 59 rfl) rfl
theorem q1865 : (Jvm.Cond.privateMethod ({ cls := "RoseThrowModel", name := "beginText", desc := "(Z)V" } : Jvm.MethodName)) ∈ lw_tbl := lw_at lw_m8 60 rfl
theorem q1866 : (Jvm.Cond.instanceMethod ({ cls := "RoseThrowModel", name := "beginText", desc := "(Z)V" } : Jvm.MethodName)) ∈ lw_all := lw_g (lw_at lw_m8 61 rfl) rfl
theorem q1867 : (Jvm.Cond.code ({ cls := "RoseThrowModel", name := "beginText", desc := "(Z)V" } : Jvm.MethodName) prog_22_method_56_code (2 : Nat) (Option.none : Option Jvm.ClassFile.FieldType)) ∈ lw_all := lw_g (lw_at lw_m8 62 rfl) rfl
theorem q1868 : (Jvm.Cond.methodLink "RoseThrowModel" (360 : Nat) ({ cls := "RoseThrowModel", name := "begin", desc := "()V" } : Jvm.MethodName)) ∈ lw_all := lw_g (lw_at lw_m8 63 rfl) rfl
theorem q1869 : (Jvm.Cond.privateMethod ({ cls := "RoseThrowModel", name := "begin", desc := "()V" } : Jvm.MethodName)) ∈ lw_tbl := lw_at lw_m8 64 rfl
theorem q1870 : (Jvm.Cond.instanceMethod ({ cls := "RoseThrowModel", name := "begin", desc := "()V" } : Jvm.MethodName)) ∈ lw_all := lw_g (lw_at lw_m8 65 rfl) rfl
theorem q1871 : (Jvm.Cond.code ({ cls := "RoseThrowModel", name := "begin", desc := "()V" } : Jvm.MethodName) prog_22_method_34_code (1 : Nat) (Option.none : Option Jvm.ClassFile.FieldType)) ∈ lw_all := lw_g (lw_at lw_m8 66 rfl) rfl
theorem q1872 : (Jvm.Cond.methodLink "RoseThrowModel" (243 : Nat) ({ cls := "RoseThrowModel", name := "next", desc := "()V" } : Jvm.MethodName)) ∈ lw_all := lw_g (lw_at lw_m8 67 rfl) rfl
theorem q1873 : (Jvm.Cond.privateMethod ({ cls := "RoseThrowModel", name := "next", desc := "()V" } : Jvm.MethodName)) ∈ lw_tbl := lw_at lw_m8 68 rfl
theorem q1874 : (Jvm.Cond.instanceMethod ({ cls := "RoseThrowModel", name := "next", desc := "()V" } : Jvm.MethodName)) ∈ lw_all := lw_g (lw_at lw_m8 69 rfl) rfl
theorem q1875 : (Jvm.Cond.code ({ cls := "RoseThrowModel", name := "next", desc := "()V" } : Jvm.MethodName) prog_22_method_35_code (1 : Nat) (Option.none : Option Jvm.ClassFile.FieldType)) ∈ lw_all := lw_g (lw_at lw_m8 70 rfl) rfl
theorem q1876 : (Jvm.Cond.methodLink "RoseThrowModel" (253 : Nat) ({ cls := "RoseThrowModel", name := "isSmall", desc := "(I)Z" } : Jvm.MethodName)) ∈ lw_all := lw_g (lw_at lw_m8 71 rfl) rfl
theorem q1877 : (Jvm.Cond.static ({ cls := "RoseThrowModel", name := "isSmall", desc := "(I)Z" } : Jvm.MethodName)) ∈ lw_all := lw_g (lw_at lw_m8 72 rfl) rfl
theorem q1878 : (Jvm.Cond.code ({ cls := "RoseThrowModel", name := "isSmall", desc := "(I)Z" } : Jvm.MethodName) prog_22_method_32_code (1 : Nat) (Option.some Jvm.ClassFile.FieldType.boolean)) ∈ lw_all := lw_g (lw_at lw_m8 73 rfl) rfl
theorem q1879 : (Jvm.Cond.methodLink "RoseThrowModel" (256 : Nat) ({ cls := "RoseThrowModel", name := "isDigit", desc := "(I)Z" } : Jvm.MethodName)) ∈ lw_all := lw_g (lw_at lw_m8 74 rfl) rfl
theorem q1880 : (Jvm.Cond.static ({ cls := "RoseThrowModel", name := "isDigit", desc := "(I)Z" } : Jvm.MethodName)) ∈ lw_all := lw_g (lw_at lw_m8 75 rfl) rfl
theorem q1881 : (Jvm.Cond.code ({ cls := "RoseThrowModel", name := "isDigit", desc := "(I)Z" } : Jvm.MethodName) prog_22_method_33_code (1 : Nat) (Option.some Jvm.ClassFile.FieldType.boolean)) ∈ lw_all := lw_g (lw_at lw_m8 76 rfl) rfl
theorem q1882 : (Jvm.Cond.constantLong "RoseThrowModel" (262 : Nat) (32 : Int64)) ∈ lw_all := lw_g (lw_at lw_m8 77 rfl) rfl
theorem q1883 : (Jvm.Cond.constantLong "RoseThrowModel" (264 : Nat) (96 : Int64)) ∈ lw_all := lw_g (lw_at lw_m8 78 rfl) rfl
theorem q1884 : (Jvm.Cond.constantLong "RoseThrowModel" (266 : Nat) (1000000 : Int64)) ∈ lw_all := lw_g (lw_at lw_m8 79 rfl) rfl
theorem q1885 : (Jvm.Cond.constantLong "RoseThrowModel" (268 : Nat) (10 : Int64)) ∈ lw_all := lw_g (lw_at lw_m8 80 rfl) rfl
theorem q1886 : (Jvm.Cond.constantLong "RoseThrowModel" (270 : Nat) (48 : Int64)) ∈ lw_all := lw_g (lw_at lw_m8 81 rfl) rfl
theorem q1887 : (Jvm.Cond.methodLink "RoseThrowModel" (374 : Nat) ({ cls := "RoseThrowModel", name := "readLaw", desc := "()V" } : Jvm.MethodName)) ∈ lw_all := lw_g (lw_at lw_m8 82 rfl) rfl
theorem q1888 : (Jvm.Cond.privateMethod ({ cls := "RoseThrowModel", name := "readLaw", desc := "()V" } : Jvm.MethodName)) ∈ lw_tbl := lw_at lw_m8 83 rfl
theorem q1889 : (Jvm.Cond.instanceMethod ({ cls := "RoseThrowModel", name := "readLaw", desc := "()V" } : Jvm.MethodName)) ∈ lw_all := lw_g (lw_at lw_m8 84 rfl) rfl
theorem q1890 : (Jvm.Cond.code ({ cls := "RoseThrowModel", name := "readLaw", desc := "()V" } : Jvm.MethodName) prog_22_method_58_code (4 : Nat) (Option.none : Option Jvm.ClassFile.FieldType)) ∈ lw_all := lw_g (lw_at lw_m8 85 rfl) rfl
theorem q1891 : (Jvm.Cond.methodLink "RoseThrowModel" (292 : Nat) ({ cls := "RoseThrowModel", name := "isWord", desc := "(J)Z" } : Jvm.MethodName)) ∈ lw_all := lw_g (lw_at lw_m8 86 rfl) rfl
theorem q1892 : (Jvm.Cond.privateMethod ({ cls := "RoseThrowModel", name := "isWord", desc := "(J)Z" } : Jvm.MethodName)) ∈ lw_tbl := lw_at lw_m8 87 rfl
theorem q1893 : (Jvm.Cond.instanceMethod ({ cls := "RoseThrowModel", name := "isWord", desc := "(J)Z" } : Jvm.MethodName)) ∈ lw_all := lw_g (lw_at lw_m8 88 rfl) rfl
theorem q1894 : (Jvm.Cond.code ({ cls := "RoseThrowModel", name := "isWord", desc := "(J)Z" } : Jvm.MethodName) prog_22_method_36_code (3 : Nat) (Option.some Jvm.ClassFile.FieldType.boolean)) ∈ lw_all := lw_g (lw_at lw_m8 89 rfl) rfl
theorem q1895 : (Jvm.Cond.methodLink "RoseThrowModel" (272 : Nat) ({ cls := "RoseThrowModel", name := "must", desc := "(Z)V" } : Jvm.MethodName)) ∈ lw_all := lw_g (lw_at lw_m8 90 rfl) rfl
theorem q1896 : (Jvm.Cond.privateMethod ({ cls := "RoseThrowModel", name := "must", desc := "(Z)V" } : Jvm.MethodName)) ∈ lw_tbl := lw_at lw_m8 91 rfl
theorem q1897 : (Jvm.Cond.instanceMethod ({ cls := "RoseThrowModel", name := "must", desc := "(Z)V" } : Jvm.MethodName)) ∈ lw_all := lw_g (lw_at lw_m8 92 rfl) rfl
theorem q1898 : (Jvm.Cond.code ({ cls := "RoseThrowModel", name := "must", desc := "(Z)V" } : Jvm.MethodName) prog_22_method_38_code (2 : Nat) (Option.none : Option Jvm.ClassFile.FieldType)) ∈ lw_all := lw_g (lw_at lw_m8 93 rfl) rfl
theorem q1899 : (Jvm.Cond.methodLink "RoseThrowModel" (366 : Nat) ({ cls := "RoseThrowModel", name := "readExpression", desc := "(Z)V" } : Jvm.MethodName)) ∈ lw_all := lw_g (lw_at lw_m8 94 rfl) rfl
theorem q1900 : (Jvm.Cond.privateMethod ({ cls := "RoseThrowModel", name := "readExpression", desc := "(Z)V" } : Jvm.MethodName)) ∈ lw_tbl := lw_at lw_m8 95 rfl
theorem q1901 : (Jvm.Cond.instanceMethod ({ cls := "RoseThrowModel", name := "readExpression", desc := "(Z)V" } : Jvm.MethodName)) ∈ lw_all := lw_g (lw_at lw_m8 96 rfl) rfl
theorem q1902 : (Jvm.Cond.code ({ cls := "RoseThrowModel", name := "readExpression", desc := "(Z)V" } : Jvm.MethodName) prog_22_method_55_code (3 : Nat) (Option.none : Option Jvm.ClassFile.FieldType)) ∈ lw_all := lw_g (lw_at lw_m8 97 rfl) rfl
theorem q1903 : (Jvm.Cond.methodLink "RoseThrowModel" (350 : Nat) ({ cls := "RoseThrowModel", name := "readPlain", desc := "()I" } : Jvm.MethodName)) ∈ lw_all := lw_g (lw_at lw_m8 98 rfl) rfl
theorem q1904 : (Jvm.Cond.privateMethod ({ cls := "RoseThrowModel", name := "readPlain", desc := "()I" } : Jvm.MethodName)) ∈ lw_tbl := lw_at lw_m8 99 rfl
theorem q1905 : (Jvm.Cond.instanceMethod ({ cls := "RoseThrowModel", name := "readPlain", desc := "()I" } : Jvm.MethodName)) ∈ lw_all := lw_g (lw_at lw_m8 100 rfl) rfl
theorem q1906 : (Jvm.Cond.code ({ cls := "RoseThrowModel", name := "readPlain", desc := "()I" } : Jvm.MethodName) prog_22_method_52_code (1 : Nat) (Option.some Jvm.ClassFile.FieldType.int)) ∈ lw_all := lw_g (lw_at lw_m8 101 rfl) rfl
theorem q1907 : (Jvm.Cond.constantLong "RoseThrowModel" (331 : Nat) (14836 : Int64)) ∈ lw_all := lw_g (lw_at lw_m8 102 rfl) rfl
theorem q1908 : (Jvm.Cond.methodLink "RoseThrowModel" (299 : Nat) ({ cls := "RoseThrowModel", name := "push", desc := "(II)V" } : Jvm.MethodName)) ∈ lw_all := lw_g (lw_at lw_m8 103 rfl) rfl
theorem q1909 : (Jvm.Cond.privateMethod ({ cls := "RoseThrowModel", name := "push", desc := "(II)V" } : Jvm.MethodName)) ∈ lw_tbl := lw_at lw_m8 104 rfl
theorem q1910 : (Jvm.Cond.instanceMethod ({ cls := "RoseThrowModel", name := "push", desc := "(II)V" } : Jvm.MethodName)) ∈ lw_all := lw_g (lw_at lw_m8 105 rfl) rfl
theorem q1911 : (Jvm.Cond.code ({ cls := "RoseThrowModel", name := "push", desc := "(II)V" } : Jvm.MethodName) prog_22_method_42_code (3 : Nat) (Option.none : Option Jvm.ClassFile.FieldType)) ∈ lw_all := lw_g (lw_at lw_m8 106 rfl) rfl
theorem q1912 : (Jvm.Cond.methodLink "RoseThrowModel" (305 : Nat) ({ cls := "RoseThrowModel", name := "isSign", desc := "(I)Z" } : Jvm.MethodName)) ∈ lw_all := lw_g (lw_at lw_m8 107 rfl) rfl
theorem q1913 : (Jvm.Cond.privateMethod ({ cls := "RoseThrowModel", name := "isSign", desc := "(I)Z" } : Jvm.MethodName)) ∈ lw_tbl := lw_at lw_m8 108 rfl
theorem q1914 : (Jvm.Cond.instanceMethod ({ cls := "RoseThrowModel", name := "isSign", desc := "(I)Z" } : Jvm.MethodName)) ∈ lw_all := lw_g (lw_at lw_m8 109 rfl) rfl
theorem q1915 : (Jvm.Cond.code ({ cls := "RoseThrowModel", name := "isSign", desc := "(I)Z" } : Jvm.MethodName) prog_22_method_37_code (2 : Nat) (Option.some Jvm.ClassFile.FieldType.boolean)) ∈ lw_all := lw_g (lw_at lw_m8 110 rfl) rfl
theorem q1916 : (Jvm.Cond.methodLink "RoseThrowModel" (308 : Nat) ({ cls := "RoseThrowModel", name := "openBracket", desc := "(I)V" } : Jvm.MethodName)) ∈ lw_all := lw_g (lw_at lw_m8 111 rfl) rfl
theorem q1917 : (Jvm.Cond.privateMethod ({ cls := "RoseThrowModel", name := "openBracket", desc := "(I)V" } : Jvm.MethodName)) ∈ lw_tbl := lw_at lw_m8 112 rfl
theorem q1918 : (Jvm.Cond.instanceMethod ({ cls := "RoseThrowModel", name := "openBracket", desc := "(I)V" } : Jvm.MethodName)) ∈ lw_all := lw_g (lw_at lw_m8 113 rfl) rfl
theorem q1919 : (Jvm.Cond.code ({ cls := "RoseThrowModel", name := "openBracket", desc := "(I)V" } : Jvm.MethodName) prog_22_method_49_code (2 : Nat) (Option.none : Option Jvm.ClassFile.FieldType)) ∈ lw_all := lw_g (lw_at lw_m8 114 rfl) rfl
theorem q1920 : (Jvm.Cond.methodLink "RoseThrowModel" (333 : Nat) ({ cls := "RoseThrowModel", name := "readPart", desc := "()I" } : Jvm.MethodName)) ∈ lw_all := lw_g (lw_at lw_m8 115 rfl) rfl
theorem q1921 : (Jvm.Cond.privateMethod ({ cls := "RoseThrowModel", name := "readPart", desc := "()I" } : Jvm.MethodName)) ∈ lw_tbl := lw_at lw_m8 116 rfl
theorem q1922 : (Jvm.Cond.instanceMethod ({ cls := "RoseThrowModel", name := "readPart", desc := "()I" } : Jvm.MethodName)) ∈ lw_all := lw_g (lw_at lw_m8 117 rfl) rfl
theorem q1923 : (Jvm.Cond.code ({ cls := "RoseThrowModel", name := "readPart", desc := "()I" } : Jvm.MethodName) prog_22_method_51_code (4 : Nat) (Option.some Jvm.ClassFile.FieldType.int)) ∈ lw_all := lw_g (lw_at lw_m8 118 rfl) rfl
theorem q1924 : (Jvm.Cond.methodLink "RoseThrowModel" (314 : Nat) ({ cls := "RoseThrowModel", name := "orderPartAt", desc := "()I" } : Jvm.MethodName)) ∈ lw_all := lw_g (lw_at lw_m8 119 rfl) rfl
theorem q1925 : (Jvm.Cond.privateMethod ({ cls := "RoseThrowModel", name := "orderPartAt", desc := "()I" } : Jvm.MethodName)) ∈ lw_tbl := lw_at lw_m8 120 rfl
theorem q1926 : (Jvm.Cond.instanceMethod ({ cls := "RoseThrowModel", name := "orderPartAt", desc := "()I" } : Jvm.MethodName)) ∈ lw_all := lw_g (lw_at lw_m8 121 rfl) rfl
theorem q1927 : (Jvm.Cond.code ({ cls := "RoseThrowModel", name := "orderPartAt", desc := "()I" } : Jvm.MethodName) prog_22_method_48_code (3 : Nat) (Option.some Jvm.ClassFile.FieldType.int)) ∈ lw_all := lw_g (lw_at lw_m8 122 rfl) rfl
theorem q1928 : (Jvm.Cond.methodLink "RoseThrowModel" (318 : Nat) ({ cls := "RoseThrowModel", name := "partAt", desc := "()I" } : Jvm.MethodName)) ∈ lw_all := lw_g (lw_at lw_m8 123 rfl) rfl
theorem q1929 : (Jvm.Cond.privateMethod ({ cls := "RoseThrowModel", name := "partAt", desc := "()I" } : Jvm.MethodName)) ∈ lw_tbl := lw_at lw_m8 124 rfl
theorem q1930 : (Jvm.Cond.instanceMethod ({ cls := "RoseThrowModel", name := "partAt", desc := "()I" } : Jvm.MethodName)) ∈ lw_all := lw_g (lw_at lw_m8 125 rfl) rfl
theorem q1931 : (Jvm.Cond.code ({ cls := "RoseThrowModel", name := "partAt", desc := "()I" } : Jvm.MethodName) prog_22_method_47_code (3 : Nat) (Option.some Jvm.ClassFile.FieldType.int)) ∈ lw_all := lw_g (lw_at lw_m8 126 rfl) rfl
theorem q1932 : (Jvm.Cond.constantLong "RoseThrowModel" (321 : Nat) (1000 : Int64)) ∈ lw_all := lw_g (lw_at lw_m8 127 rfl) rfl
theorem q1933 : (Jvm.Cond.methodLink "RoseThrowModel" (323 : Nat) ({ cls := "RoseThrowModel", name := "leaf", desc := "(ZII)V" } : Jvm.MethodName)) ∈ lw_all := lw_g (lw_at lw_m8 128 rfl) rfl
theorem q1934 : (Jvm.Cond.privateMethod ({ cls := "RoseThrowModel", name := "leaf", desc := "(ZII)V" } : Jvm.MethodName)) ∈ lw_tbl := lw_at lw_m8 129 rfl
theorem q1935 : (Jvm.Cond.instanceMethod ({ cls := "RoseThrowModel", name := "leaf", desc := "(ZII)V" } : Jvm.MethodName)) ∈ lw_all := lw_g (lw_at lw_m8 130 rfl) rfl
theorem q1936 : (Jvm.Cond.code ({ cls := "RoseThrowModel", name := "leaf", desc := "(ZII)V" } : Jvm.MethodName) prog_22_method_50_code (4 : Nat) (Option.none : Option Jvm.ClassFile.FieldType)) ∈ lw_all := lw_g (lw_at lw_m8 131 rfl) rfl
theorem q1937 : (Jvm.Cond.methodLink "RoseThrowModel" (285 : Nat) ({ cls := "RoseThrowModel", name := "emit", desc := "(II)V" } : Jvm.MethodName)) ∈ lw_all := lw_g (lw_at lw_m8 132 rfl) rfl
theorem q1938 : (Jvm.Cond.privateMethod ({ cls := "RoseThrowModel", name := "emit", desc := "(II)V" } : Jvm.MethodName)) ∈ lw_tbl := lw_at lw_m8 133 rfl
theorem q1939 : (Jvm.Cond.instanceMethod ({ cls := "RoseThrowModel", name := "emit", desc := "(II)V" } : Jvm.MethodName)) ∈ lw_all := lw_g (lw_at lw_m8 134 rfl) rfl
theorem q1940 : (Jvm.Cond.code ({ cls := "RoseThrowModel", name := "emit", desc := "(II)V" } : Jvm.MethodName) prog_22_method_41_code (3 : Nat) (Option.none : Option Jvm.ClassFile.FieldType)) ∈ lw_all := lw_g (lw_at lw_m8 135 rfl) rfl
theorem q1941 : (Jvm.Cond.methodLink "RoseThrowModel" (327 : Nat) ({ cls := "RoseThrowModel", name := "number", desc := "(JJ)I" } : Jvm.MethodName)) ∈ lw_all := lw_g (lw_at lw_m8 136 rfl) rfl
theorem q1942 : (Jvm.Cond.privateMethod ({ cls := "RoseThrowModel", name := "number", desc := "(JJ)I" } : Jvm.MethodName)) ∈ lw_tbl := lw_at lw_m8 137 rfl
theorem q1943 : (Jvm.Cond.instanceMethod ({ cls := "RoseThrowModel", name := "number", desc := "(JJ)I" } : Jvm.MethodName)) ∈ lw_all := lw_g (lw_at lw_m8 138 rfl) rfl
theorem q1944 : (Jvm.Cond.code ({ cls := "RoseThrowModel", name := "number", desc := "(JJ)I" } : Jvm.MethodName) prog_22_method_39_code (6 : Nat) (Option.some Jvm.ClassFile.FieldType.int)) ∈ lw_all := lw_g (lw_at lw_m8 139 rfl) rfl
theorem q1945 : (Jvm.Cond.methodLink "RoseThrowModel" (353 : Nat) ({ cls := "RoseThrowModel", name := "behindSum", desc := "(Z)I" } : Jvm.MethodName)) ∈ lw_all := lw_g (lw_at lw_m8 140 rfl) rfl
theorem q1946 : (Jvm.Cond.privateMethod ({ cls := "RoseThrowModel", name := "behindSum", desc := "(Z)I" } : Jvm.MethodName)) ∈ lw_tbl := lw_at lw_m8 141 rfl
theorem q1947 : (Jvm.Cond.instanceMethod ({ cls := "RoseThrowModel", name := "behindSum", desc := "(Z)I" } : Jvm.MethodName)) ∈ lw_all := lw_g (lw_at lw_m8 142 rfl) rfl
theorem q1948 : (Jvm.Cond.code ({ cls := "RoseThrowModel", name := "behindSum", desc := "(Z)I" } : Jvm.MethodName) prog_22_method_53_code (4 : Nat) (Option.some Jvm.ClassFile.FieldType.int)) ∈ lw_all := lw_g (lw_at lw_m8 143 rfl) rfl
theorem q1949 : (Jvm.Cond.methodLink "RoseThrowModel" (282 : Nat) ({ cls := "RoseThrowModel", name := "binds", desc := "(I)I" } : Jvm.MethodName)) ∈ lw_all := lw_g (lw_at lw_m8 144 rfl) rfl
theorem q1950 : (Jvm.Cond.static ({ cls := "RoseThrowModel", name := "binds", desc := "(I)I" } : Jvm.MethodName)) ∈ lw_all := lw_g (lw_at lw_m8 145 rfl) rfl
theorem q1951 : (Jvm.Cond.code ({ cls := "RoseThrowModel", name := "binds", desc := "(I)I" } : Jvm.MethodName) prog_22_method_43_code (1 : Nat) (Option.some Jvm.ClassFile.FieldType.int)) ∈ lw_all := lw_g (lw_at lw_m8 146 rfl) rfl
theorem q1952 : (Jvm.Cond.methodLink "RoseThrowModel" (336 : Nat) ({ cls := "RoseThrowModel", name := "settle", desc := "(I)V" } : Jvm.MethodName)) ∈ lw_all := lw_g (lw_at lw_m8 147 rfl) rfl
theorem q1953 : (Jvm.Cond.privateMethod ({ cls := "RoseThrowModel", name := "settle", desc := "(I)V" } : Jvm.MethodName)) ∈ lw_tbl := lw_at lw_m8 148 rfl
theorem q1954 : (Jvm.Cond.instanceMethod ({ cls := "RoseThrowModel", name := "settle", desc := "(I)V" } : Jvm.MethodName)) ∈ lw_all := lw_g (lw_at lw_m8 149 rfl) rfl
theorem q1955 : (Jvm.Cond.code ({ cls := "RoseThrowModel", name := "settle", desc := "(I)V" } : Jvm.MethodName) prog_22_method_44_code (2 : Nat) (Option.none : Option Jvm.ClassFile.FieldType)) ∈ lw_all := lw_g (lw_at lw_m8 150 rfl) rfl
theorem q1956 : (Jvm.Cond.methodLink "RoseThrowModel" (339 : Nat) ({ cls := "RoseThrowModel", name := "inner", desc := "()I" } : Jvm.MethodName)) ∈ lw_all := lw_g (lw_at lw_m8 151 rfl) rfl
theorem q1957 : (Jvm.Cond.privateMethod ({ cls := "RoseThrowModel", name := "inner", desc := "()I" } : Jvm.MethodName)) ∈ lw_tbl := lw_at lw_m8 152 rfl
theorem q1958 : (Jvm.Cond.instanceMethod ({ cls := "RoseThrowModel", name := "inner", desc := "()I" } : Jvm.MethodName)) ∈ lw_all := lw_g (lw_at lw_m8 153 rfl) rfl
theorem q1959 : (Jvm.Cond.code ({ cls := "RoseThrowModel", name := "inner", desc := "()I" } : Jvm.MethodName) prog_22_method_45_code (3 : Nat) (Option.some Jvm.ClassFile.FieldType.int)) ∈ lw_all := lw_g (lw_at lw_m8 154 rfl) rfl
theorem q1960 : (Jvm.Cond.methodLink "RoseThrowModel" (342 : Nat) ({ cls := "RoseThrowModel", name := "isCompared", desc := "()Z" } : Jvm.MethodName)) ∈ lw_all := lw_g (lw_at lw_m8 155 rfl) rfl
theorem q1961 : (Jvm.Cond.privateMethod ({ cls := "RoseThrowModel", name := "isCompared", desc := "()Z" } : Jvm.MethodName)) ∈ lw_tbl := lw_at lw_m8 156 rfl
theorem q1962 : (Jvm.Cond.instanceMethod ({ cls := "RoseThrowModel", name := "isCompared", desc := "()Z" } : Jvm.MethodName)) ∈ lw_all := lw_g (lw_at lw_m8 157 rfl) rfl
theorem q1963 : (Jvm.Cond.code ({ cls := "RoseThrowModel", name := "isCompared", desc := "()Z" } : Jvm.MethodName) prog_22_method_46_code (2 : Nat) (Option.some Jvm.ClassFile.FieldType.boolean)) ∈ lw_all := lw_g (lw_at lw_m8 158 rfl) rfl
theorem q1964 : (Jvm.Cond.constantLong "RoseThrowModel" (288 : Nat) (20 : Int64)) ∈ lw_all := lw_g (lw_at lw_m8 159 rfl) rfl
theorem q1965 : (Jvm.Cond.constantLong "RoseThrowModel" (290 : Nat) (27 : Int64)) ∈ lw_all := lw_g (lw_at lw_m8 160 rfl) rfl
theorem q1966 : (Jvm.Cond.methodLink "RoseThrowModel" (357 : Nat) ({ cls := "RoseThrowModel", name := "behindTest", desc := "()I" } : Jvm.MethodName)) ∈ lw_all := lw_g (lw_at lw_m8 161 rfl) rfl
theorem q1967 : (Jvm.Cond.privateMethod ({ cls := "RoseThrowModel", name := "behindTest", desc := "()I" } : Jvm.MethodName)) ∈ lw_tbl := lw_at lw_m8 162 rfl
theorem q1968 : (Jvm.Cond.instanceMethod ({ cls := "RoseThrowModel", name := "behindTest", desc := "()I" } : Jvm.MethodName)) ∈ lw_all := lw_g (lw_at lw_m8 163 rfl) rfl
theorem q1969 : (Jvm.Cond.code ({ cls := "RoseThrowModel", name := "behindTest", desc := "()I" } : Jvm.MethodName) prog_22_method_54_code (2 : Nat) (Option.some Jvm.ClassFile.FieldType.int)) ∈ lw_all := lw_g (lw_at lw_m8 164 rfl) rfl
theorem q1970 : (Jvm.Cond.constantLong "RoseThrowModel" (346 : Nat) (1476 : Int64)) ∈ lw_all := lw_g (lw_at lw_m8 165 rfl) rfl
theorem q1971 : (Jvm.Cond.constantLong "RoseThrowModel" (348 : Nat) (498 : Int64)) ∈ lw_all := lw_g (lw_at lw_m8 166 rfl) rfl
theorem q1972 : (Jvm.Cond.constantLong "RoseThrowModel" (369 : Nat) (294 : Int64)) ∈ lw_all := lw_g (lw_at lw_m8 167 rfl) rfl
theorem q1973 : (Jvm.Cond.methodLink "RoseThrowModel" (377 : Nat) ({ cls := "RoseThrowModel", name := "endText", desc := "()V" } : Jvm.MethodName)) ∈ lw_all := lw_g (lw_at lw_m8 168 rfl) rfl
theorem q1974 : (Jvm.Cond.privateMethod ({ cls := "RoseThrowModel", name := "endText", desc := "()V" } : Jvm.MethodName)) ∈ lw_tbl := lw_at lw_m8 169 rfl
theorem q1975 : (Jvm.Cond.instanceMethod ({ cls := "RoseThrowModel", name := "endText", desc := "()V" } : Jvm.MethodName)) ∈ lw_all := lw_g (lw_at lw_m8 170 rfl) rfl
theorem q1976 : (Jvm.Cond.code ({ cls := "RoseThrowModel", name := "endText", desc := "()V" } : Jvm.MethodName) prog_22_method_57_code (1 : Nat) (Option.none : Option Jvm.ClassFile.FieldType)) ∈ lw_all := lw_g (lw_at lw_m8 171 rfl) rfl
theorem q1978 : (Jvm.Cond.instanceMethod ({ cls := "RoseThrowModel", name := "force", desc := "(I)I" } : Jvm.MethodName)) ∈ lw_all := lw_g (lw_at lw_m8 173 rfl) rfl
theorem q1979 : (Jvm.Cond.selects "RoseThrowModel" ({ cls := "RoseThrowModel", name := "force", desc := "(I)I" } : Jvm.MethodName) ({ cls := "RoseThrowModel", name := "force", desc := "(I)I" } : Jvm.MethodName)) ∈ lw_all := lw_g (lw_at lw_m8 174 rfl) rfl
theorem q1980 : (Jvm.Cond.code ({ cls := "RoseThrowModel", name := "force", desc := "(I)I" } : Jvm.MethodName) prog_22_method_60_code (2 : Nat) (Option.some Jvm.ClassFile.FieldType.int)) ∈ lw_all := lw_g (lw_at lw_m8 175 rfl) rfl
theorem q1982 : (Jvm.Cond.instanceMethod ({ cls := "RoseThrowModel", name := "asks", desc := "(III)I" } : Jvm.MethodName)) ∈ lw_all := lw_g (lw_at lw_m8 177 rfl) rfl
theorem q1983 : (Jvm.Cond.selects "RoseThrowModel" ({ cls := "RoseThrowModel", name := "asks", desc := "(III)I" } : Jvm.MethodName) ({ cls := "RoseThrowModel", name := "asks", desc := "(III)I" } : Jvm.MethodName)) ∈ lw_all := lw_g (lw_at lw_m8 178 rfl) rfl
theorem q1984 : (Jvm.Cond.code ({ cls := "RoseThrowModel", name := "asks", desc := "(III)I" } : Jvm.MethodName) prog_22_method_72_code (4 : Nat) (Option.some Jvm.ClassFile.FieldType.int)) ∈ lw_all := lw_g (lw_at lw_m8 179 rfl) rfl
theorem q1985 : (Jvm.Cond.methodLink "RoseThrowModel" (424 : Nat) ({ cls := "RoseThrowModel", name := "gripOf", desc := "(II)I" } : Jvm.MethodName)) ∈ lw_all := lw_g (lw_at lw_m8 180 rfl) rfl
theorem q1986 : (Jvm.Cond.privateMethod ({ cls := "RoseThrowModel", name := "gripOf", desc := "(II)I" } : Jvm.MethodName)) ∈ lw_tbl := lw_at lw_m8 181 rfl
theorem q1987 : (Jvm.Cond.instanceMethod ({ cls := "RoseThrowModel", name := "gripOf", desc := "(II)I" } : Jvm.MethodName)) ∈ lw_all := lw_g (lw_at lw_m8 182 rfl) rfl
theorem q1988 : (Jvm.Cond.code ({ cls := "RoseThrowModel", name := "gripOf", desc := "(II)I" } : Jvm.MethodName) prog_22_method_68_code (3 : Nat) (Option.some Jvm.ClassFile.FieldType.int)) ∈ lw_all := lw_g (lw_at lw_m8 183 rfl) rfl
theorem q1989 : (Jvm.Cond.methodLink "RoseThrowModel" (416 : Nat) ({ cls := "RoseThrowModel", name := "within", desc := "(JII)I" } : Jvm.MethodName)) ∈ lw_all := lw_g (lw_at lw_m8 184 rfl) rfl
theorem q1990 : (Jvm.Cond.static ({ cls := "RoseThrowModel", name := "within", desc := "(JII)I" } : Jvm.MethodName)) ∈ lw_all := lw_g (lw_at lw_m8 185 rfl) rfl
theorem q1991 : (Jvm.Cond.code ({ cls := "RoseThrowModel", name := "within", desc := "(JII)I" } : Jvm.MethodName) prog_22_method_4_code (4 : Nat) (Option.some Jvm.ClassFile.FieldType.int)) ∈ lw_all := lw_g (lw_at lw_m8 186 rfl) rfl
theorem q1992 : (Jvm.Cond.methodLink "RoseThrowModel" (427 : Nat) ({ cls := "RoseThrowModel", name := "wedOf", desc := "(II)I" } : Jvm.MethodName)) ∈ lw_all := lw_g (lw_at lw_m8 187 rfl) rfl
theorem q1993 : (Jvm.Cond.privateMethod ({ cls := "RoseThrowModel", name := "wedOf", desc := "(II)I" } : Jvm.MethodName)) ∈ lw_tbl := lw_at lw_m8 188 rfl
theorem q1994 : (Jvm.Cond.instanceMethod ({ cls := "RoseThrowModel", name := "wedOf", desc := "(II)I" } : Jvm.MethodName)) ∈ lw_all := lw_g (lw_at lw_m8 189 rfl) rfl
theorem q1995 : (Jvm.Cond.code ({ cls := "RoseThrowModel", name := "wedOf", desc := "(II)I" } : Jvm.MethodName) prog_22_method_69_code (3 : Nat) (Option.some Jvm.ClassFile.FieldType.int)) ∈ lw_all := lw_g (lw_at lw_m8 190 rfl) rfl
theorem q1996 : (Jvm.Cond.methodLink "RoseThrowModel" (430 : Nat) ({ cls := "RoseThrowModel", name := "isBarred", desc := "(II)Z" } : Jvm.MethodName)) ∈ lw_all := lw_g (lw_at lw_m8 191 rfl) rfl
theorem q1997 : (Jvm.Cond.privateMethod ({ cls := "RoseThrowModel", name := "isBarred", desc := "(II)Z" } : Jvm.MethodName)) ∈ lw_tbl := lw_at lw_m8 192 rfl
theorem q1998 : (Jvm.Cond.instanceMethod ({ cls := "RoseThrowModel", name := "isBarred", desc := "(II)Z" } : Jvm.MethodName)) ∈ lw_all := lw_g (lw_at lw_m8 193 rfl) rfl
theorem q1999 : (Jvm.Cond.code ({ cls := "RoseThrowModel", name := "isBarred", desc := "(II)Z" } : Jvm.MethodName) prog_22_method_71_code (3 : Nat) (Option.some Jvm.ClassFile.FieldType.boolean)) ∈ lw_all := lw_g (lw_at lw_m8 194 rfl) rfl
theorem q2001 : (Jvm.Cond.instanceMethod ({ cls := "RoseThrowModel", name := "comes", desc := "(II)I" } : Jvm.MethodName)) ∈ lw_all := lw_g (lw_at lw_m8 196 rfl) rfl
theorem q2002 : (Jvm.Cond.selects "RoseThrowModel" ({ cls := "RoseThrowModel", name := "comes", desc := "(II)I" } : Jvm.MethodName) ({ cls := "RoseThrowModel", name := "comes", desc := "(II)I" } : Jvm.MethodName)) ∈ lw_all := lw_g (lw_at lw_m8 197 rfl) rfl
theorem q2003 : (Jvm.Cond.code ({ cls := "RoseThrowModel", name := "comes", desc := "(II)I" } : Jvm.MethodName) prog_22_method_78_code (3 : Nat) (Option.some Jvm.ClassFile.FieldType.int)) ∈ lw_all := lw_g (lw_at lw_m8 198 rfl) rfl
theorem q2004 : (Jvm.Cond.methodLink "RoseThrowModel" (454 : Nat) ({ cls := "RoseThrowModel", name := "aimNow", desc := "()V" } : Jvm.MethodName)) ∈ lw_all := lw_g (lw_at lw_m8 199 rfl) rfl
theorem q2005 : (Jvm.Cond.privateMethod ({ cls := "RoseThrowModel", name := "aimNow", desc := "()V" } : Jvm.MethodName)) ∈ lw_tbl := lw_at lw_m8 200 rfl
theorem q2006 : (Jvm.Cond.instanceMethod ({ cls := "RoseThrowModel", name := "aimNow", desc := "()V" } : Jvm.MethodName)) ∈ lw_all := lw_g (lw_at lw_m8 201 rfl) rfl
theorem q2007 : (Jvm.Cond.code ({ cls := "RoseThrowModel", name := "aimNow", desc := "()V" } : Jvm.MethodName) prog_22_method_76_code (1 : Nat) (Option.none : Option Jvm.ClassFile.FieldType)) ∈ lw_all := lw_g (lw_at lw_m8 202 rfl) rfl
theorem q2008 : (Jvm.Cond.methodLink "RoseThrowModel" (445 : Nat) ({ cls := "RoseThrowModel", name := "aim", desc := "(II)V" } : Jvm.MethodName)) ∈ lw_all := lw_g (lw_at lw_m8 203 rfl) rfl
theorem q2009 : (Jvm.Cond.privateMethod ({ cls := "RoseThrowModel", name := "aim", desc := "(II)V" } : Jvm.MethodName)) ∈ lw_tbl := lw_at lw_m8 204 rfl
theorem q2010 : (Jvm.Cond.instanceMethod ({ cls := "RoseThrowModel", name := "aim", desc := "(II)V" } : Jvm.MethodName)) ∈ lw_all := lw_g (lw_at lw_m8 205 rfl) rfl
theorem q2011 : (Jvm.Cond.code ({ cls := "RoseThrowModel", name := "aim", desc := "(II)V" } : Jvm.MethodName) prog_22_method_75_code (8 : Nat) (Option.none : Option Jvm.ClassFile.FieldType)) ∈ lw_all := lw_g (lw_at lw_m8 206 rfl) rfl
theorem q2012 : (Jvm.Cond.methodLink "RoseThrowModel" (439 : Nat) ({ cls := "RoseThrowModel", name := "isLit", desc := "(II)Z" } : Jvm.MethodName)) ∈ lw_all := lw_g (lw_at lw_m8 207 rfl) rfl
theorem q2013 : (Jvm.Cond.privateMethod ({ cls := "RoseThrowModel", name := "isLit", desc := "(II)Z" } : Jvm.MethodName)) ∈ lw_tbl := lw_at lw_m8 208 rfl
theorem q2014 : (Jvm.Cond.instanceMethod ({ cls := "RoseThrowModel", name := "isLit", desc := "(II)Z" } : Jvm.MethodName)) ∈ lw_all := lw_g (lw_at lw_m8 209 rfl) rfl
theorem q2015 : (Jvm.Cond.code ({ cls := "RoseThrowModel", name := "isLit", desc := "(II)Z" } : Jvm.MethodName) prog_22_method_74_code (5 : Nat) (Option.some Jvm.ClassFile.FieldType.boolean)) ∈ lw_all := lw_g (lw_at lw_m8 210 rfl) rfl
theorem q2016 : (Jvm.Cond.methodLink "RoseThrowModel" (433 : Nat) ({ cls := "RoseThrowModel", name := "cellAt", desc := "(II)I" } : Jvm.MethodName)) ∈ lw_all := lw_g (lw_at lw_m8 211 rfl) rfl
theorem q2017 : (Jvm.Cond.privateMethod ({ cls := "RoseThrowModel", name := "cellAt", desc := "(II)I" } : Jvm.MethodName)) ∈ lw_tbl := lw_at lw_m8 212 rfl
theorem q2018 : (Jvm.Cond.instanceMethod ({ cls := "RoseThrowModel", name := "cellAt", desc := "(II)I" } : Jvm.MethodName)) ∈ lw_all := lw_g (lw_at lw_m8 213 rfl) rfl
theorem q2019 : (Jvm.Cond.code ({ cls := "RoseThrowModel", name := "cellAt", desc := "(II)I" } : Jvm.MethodName) prog_22_method_73_code (3 : Nat) (Option.some Jvm.ClassFile.FieldType.int)) ∈ lw_all := lw_g (lw_at lw_m8 214 rfl) rfl
theorem q2020 : (Jvm.Cond.methodLink "RoseThrowModel" (442 : Nat) ({ cls := "RoseThrowModel", name := "slipWeighs", desc := "(IIII)I" } : Jvm.MethodName)) ∈ lw_all := lw_g (lw_at lw_m8 215 rfl) rfl
theorem q2021 : (Jvm.Cond.privateMethod ({ cls := "RoseThrowModel", name := "slipWeighs", desc := "(IIII)I" } : Jvm.MethodName)) ∈ lw_tbl := lw_at lw_m8 216 rfl
theorem q2022 : (Jvm.Cond.instanceMethod ({ cls := "RoseThrowModel", name := "slipWeighs", desc := "(IIII)I" } : Jvm.MethodName)) ∈ lw_all := lw_g (lw_at lw_m8 217 rfl) rfl
theorem q2023 : (Jvm.Cond.code ({ cls := "RoseThrowModel", name := "slipWeighs", desc := "(IIII)I" } : Jvm.MethodName) prog_22_method_67_code (5 : Nat) (Option.some Jvm.ClassFile.FieldType.int)) ∈ lw_all := lw_g (lw_at lw_m8 218 rfl) rfl
theorem q2024 : (Jvm.Cond.methodLink "RoseThrowModel" (457 : Nat) ({ cls := "RoseThrowModel", name := "shorten", desc := "(JJ)V" } : Jvm.MethodName)) ∈ lw_all := lw_g (lw_at lw_m8 219 rfl) rfl
theorem q2025 : (Jvm.Cond.privateMethod ({ cls := "RoseThrowModel", name := "shorten", desc := "(JJ)V" } : Jvm.MethodName)) ∈ lw_tbl := lw_at lw_m8 220 rfl
theorem q2026 : (Jvm.Cond.instanceMethod ({ cls := "RoseThrowModel", name := "shorten", desc := "(JJ)V" } : Jvm.MethodName)) ∈ lw_all := lw_g (lw_at lw_m8 221 rfl) rfl
theorem q2027 : (Jvm.Cond.code ({ cls := "RoseThrowModel", name := "shorten", desc := "(JJ)V" } : Jvm.MethodName) prog_22_method_77_code (11 : Nat) (Option.none : Option Jvm.ClassFile.FieldType)) ∈ lw_all := lw_g (lw_at lw_m8 222 rfl) rfl
theorem q2029 : (Jvm.Cond.instanceMethod ({ cls := "RoseThrowModel", name := "has", desc := "(II)J" } : Jvm.MethodName)) ∈ lw_all := lw_g (lw_at lw_m8 224 rfl) rfl
theorem q2030 : (Jvm.Cond.selects "RoseThrowModel" ({ cls := "RoseThrowModel", name := "has", desc := "(II)J" } : Jvm.MethodName) ({ cls := "RoseThrowModel", name := "has", desc := "(II)J" } : Jvm.MethodName)) ∈ lw_all := lw_g (lw_at lw_m8 225 rfl) rfl
theorem q2031 : (Jvm.Cond.code ({ cls := "RoseThrowModel", name := "has", desc := "(II)J" } : Jvm.MethodName) prog_22_method_83_code (3 : Nat) (Option.some Jvm.ClassFile.FieldType.long)) ∈ lw_all := lw_g (lw_at lw_m8 226 rfl) rfl
theorem q2032 : (Jvm.Cond.methodLink "RoseThrowModel" (479 : Nat) ({ cls := "RoseThrowModel", name := "findAll", desc := "()V" } : Jvm.MethodName)) ∈ lw_all := lw_g (lw_at lw_m8 227 rfl) rfl
theorem q2033 : (Jvm.Cond.privateMethod ({ cls := "RoseThrowModel", name := "findAll", desc := "()V" } : Jvm.MethodName)) ∈ lw_tbl := lw_at lw_m8 228 rfl
theorem q2034 : (Jvm.Cond.instanceMethod ({ cls := "RoseThrowModel", name := "findAll", desc := "()V" } : Jvm.MethodName)) ∈ lw_all := lw_g (lw_at lw_m8 229 rfl) rfl
theorem q2035 : (Jvm.Cond.code ({ cls := "RoseThrowModel", name := "findAll", desc := "()V" } : Jvm.MethodName) prog_22_method_82_code (1 : Nat) (Option.none : Option Jvm.ClassFile.FieldType)) ∈ lw_all := lw_g (lw_at lw_m8 230 rfl) rfl
theorem q2036 : (Jvm.Cond.methodLink "RoseThrowModel" (476 : Nat) ({ cls := "RoseThrowModel", name := "findParts", desc := "(I)V" } : Jvm.MethodName)) ∈ lw_all := lw_g (lw_at lw_m8 231 rfl) rfl
theorem q2037 : (Jvm.Cond.privateMethod ({ cls := "RoseThrowModel", name := "findParts", desc := "(I)V" } : Jvm.MethodName)) ∈ lw_tbl := lw_at lw_m8 232 rfl
theorem q2038 : (Jvm.Cond.instanceMethod ({ cls := "RoseThrowModel", name := "findParts", desc := "(I)V" } : Jvm.MethodName)) ∈ lw_all := lw_g (lw_at lw_m8 233 rfl) rfl
theorem q2039 : (Jvm.Cond.code ({ cls := "RoseThrowModel", name := "findParts", desc := "(I)V" } : Jvm.MethodName) prog_22_method_81_code (4 : Nat) (Option.none : Option Jvm.ClassFile.FieldType)) ∈ lw_all := lw_g (lw_at lw_m8 234 rfl) rfl
theorem q2040 : (Jvm.Cond.methodLink "RoseThrowModel" (473 : Nat) ({ cls := "RoseThrowModel", name := "findHolders", desc := "(I)V" } : Jvm.MethodName)) ∈ lw_all := lw_g (lw_at lw_m8 235 rfl) rfl
theorem q2041 : (Jvm.Cond.privateMethod ({ cls := "RoseThrowModel", name := "findHolders", desc := "(I)V" } : Jvm.MethodName)) ∈ lw_tbl := lw_at lw_m8 236 rfl
theorem q2042 : (Jvm.Cond.instanceMethod ({ cls := "RoseThrowModel", name := "findHolders", desc := "(I)V" } : Jvm.MethodName)) ∈ lw_all := lw_g (lw_at lw_m8 237 rfl) rfl
theorem q2043 : (Jvm.Cond.code ({ cls := "RoseThrowModel", name := "findHolders", desc := "(I)V" } : Jvm.MethodName) prog_22_method_80_code (7 : Nat) (Option.none : Option Jvm.ClassFile.FieldType)) ∈ lw_all := lw_g (lw_at lw_m8 238 rfl) rfl
theorem q2044 : (Jvm.Cond.methodLink "RoseThrowModel" (470 : Nat) ({ cls := "RoseThrowModel", name := "farOf", desc := "(II)I" } : Jvm.MethodName)) ∈ lw_all := lw_g (lw_at lw_m8 239 rfl) rfl
theorem q2045 : (Jvm.Cond.static ({ cls := "RoseThrowModel", name := "farOf", desc := "(II)I" } : Jvm.MethodName)) ∈ lw_all := lw_g (lw_at lw_m9 0 rfl) rfl
theorem q2046 : (Jvm.Cond.code ({ cls := "RoseThrowModel", name := "farOf", desc := "(II)I" } : Jvm.MethodName) prog_22_method_79_code (2 : Nat) (Option.some Jvm.ClassFile.FieldType.int)) ∈ lw_all := lw_g (lw_at lw_m9 1 rfl) rfl
theorem q2047 : (Jvm.Cond.methodLink "RoseThrowModel" (461 : Nat) ({ cls := "RoseThrowModel", name := "away", desc := "(I)I" } : Jvm.MethodName)) ∈ lw_all := lw_g (lw_at lw_m9 2 rfl) rfl
theorem q2048 : (Jvm.Cond.static ({ cls := "RoseThrowModel", name := "away", desc := "(I)I" } : Jvm.MethodName)) ∈ lw_all := lw_g (lw_at lw_m9 3 rfl) rfl
theorem q2049 : (Jvm.Cond.code ({ cls := "RoseThrowModel", name := "away", desc := "(I)I" } : Jvm.MethodName) prog_22_method_5_code (1 : Nat) (Option.some Jvm.ClassFile.FieldType.int)) ∈ lw_all := lw_g (lw_at lw_m9 4 rfl) rfl
theorem q2051 : (Jvm.Cond.instanceMethod ({ cls := "RoseThrowModel", name := "stand", desc := "(II)J" } : Jvm.MethodName)) ∈ lw_all := lw_g (lw_at lw_m9 6 rfl) rfl
theorem q2052 : (Jvm.Cond.selects "RoseThrowModel" ({ cls := "RoseThrowModel", name := "stand", desc := "(II)J" } : Jvm.MethodName) ({ cls := "RoseThrowModel", name := "stand", desc := "(II)J" } : Jvm.MethodName)) ∈ lw_all := lw_g (lw_at lw_m9 7 rfl) rfl
theorem q2053 : (Jvm.Cond.code ({ cls := "RoseThrowModel", name := "stand", desc := "(II)J" } : Jvm.MethodName) prog_22_method_87_code (3 : Nat) (Option.some Jvm.ClassFile.FieldType.long)) ∈ lw_all := lw_g (lw_at lw_m9 8 rfl) rfl
theorem q2054 : (Jvm.Cond.methodLink "RoseThrowModel" (494 : Nat) ({ cls := "RoseThrowModel", name := "findStand", desc := "(I)V" } : Jvm.MethodName)) ∈ lw_all := lw_g (lw_at lw_m9 9 rfl) rfl
theorem q2055 : (Jvm.Cond.privateMethod ({ cls := "RoseThrowModel", name := "findStand", desc := "(I)V" } : Jvm.MethodName)) ∈ lw_tbl := lw_at lw_m9 10 rfl
theorem q2056 : (Jvm.Cond.instanceMethod ({ cls := "RoseThrowModel", name := "findStand", desc := "(I)V" } : Jvm.MethodName)) ∈ lw_all := lw_g (lw_at lw_m9 11 rfl) rfl
theorem q2057 : (Jvm.Cond.code ({ cls := "RoseThrowModel", name := "findStand", desc := "(I)V" } : Jvm.MethodName) prog_22_method_86_code (4 : Nat) (Option.none : Option Jvm.ClassFile.FieldType)) ∈ lw_all := lw_g (lw_at lw_m9 12 rfl) rfl
theorem q2058 : (Jvm.Cond.methodLink "RoseThrowModel" (488 : Nat) ({ cls := "RoseThrowModel", name := "canStand", desc := "(II)Z" } : Jvm.MethodName)) ∈ lw_all := lw_g (lw_at lw_m9 13 rfl) rfl
theorem q2059 : (Jvm.Cond.privateMethod ({ cls := "RoseThrowModel", name := "canStand", desc := "(II)Z" } : Jvm.MethodName)) ∈ lw_tbl := lw_at lw_m9 14 rfl
theorem q2060 : (Jvm.Cond.instanceMethod ({ cls := "RoseThrowModel", name := "canStand", desc := "(II)Z" } : Jvm.MethodName)) ∈ lw_all := lw_g (lw_at lw_m9 15 rfl) rfl
theorem q2061 : (Jvm.Cond.code ({ cls := "RoseThrowModel", name := "canStand", desc := "(II)Z" } : Jvm.MethodName) prog_22_method_85_code (3 : Nat) (Option.some Jvm.ClassFile.FieldType.boolean)) ∈ lw_all := lw_g (lw_at lw_m9 16 rfl) rfl
theorem q2062 : (Jvm.Cond.methodLink "RoseThrowModel" (491 : Nat) ({ cls := "RoseThrowModel", name := "partsAt", desc := "(II)I" } : Jvm.MethodName)) ∈ lw_all := lw_g (lw_at lw_m9 17 rfl) rfl
theorem q2063 : (Jvm.Cond.privateMethod ({ cls := "RoseThrowModel", name := "partsAt", desc := "(II)I" } : Jvm.MethodName)) ∈ lw_tbl := lw_at lw_m9 18 rfl
theorem q2064 : (Jvm.Cond.instanceMethod ({ cls := "RoseThrowModel", name := "partsAt", desc := "(II)I" } : Jvm.MethodName)) ∈ lw_all := lw_g (lw_at lw_m9 19 rfl) rfl
theorem q2065 : (Jvm.Cond.code ({ cls := "RoseThrowModel", name := "partsAt", desc := "(II)I" } : Jvm.MethodName) prog_22_method_84_code (4 : Nat) (Option.some Jvm.ClassFile.FieldType.int)) ∈ lw_all := lw_g (lw_at lw_m9 20 rfl) rfl
theorem q2067 : (Jvm.Cond.instanceMethod ({ cls := "RoseThrowModel", name := "rests", desc := "(I)I" } : Jvm.MethodName)) ∈ lw_all := lw_g (lw_at lw_m9 22 rfl) rfl
theorem q2068 : (Jvm.Cond.selects "RoseThrowModel" ({ cls := "RoseThrowModel", name := "rests", desc := "(I)I" } : Jvm.MethodName) ({ cls := "RoseThrowModel", name := "rests", desc := "(I)I" } : Jvm.MethodName)) ∈ lw_all := lw_g (lw_at lw_m9 23 rfl) rfl
theorem q2069 : (Jvm.Cond.code ({ cls := "RoseThrowModel", name := "rests", desc := "(I)I" } : Jvm.MethodName) prog_22_method_89_code (5 : Nat) (Option.some Jvm.ClassFile.FieldType.int)) ∈ lw_all := lw_g (lw_at lw_m9 24 rfl) rfl
theorem q2070 : (Jvm.Cond.methodLink "RoseThrowModel" (176 : Nat) ({ cls := "RoseThrowModel", name := "keepCells", desc := "(I)V" } : Jvm.MethodName)) ∈ lw_all := lw_g (lw_at lw_m9 25 rfl) rfl
theorem q2071 : (Jvm.Cond.privateMethod ({ cls := "RoseThrowModel", name := "keepCells", desc := "(I)V" } : Jvm.MethodName)) ∈ lw_tbl := lw_at lw_m9 26 rfl
theorem q2072 : (Jvm.Cond.instanceMethod ({ cls := "RoseThrowModel", name := "keepCells", desc := "(I)V" } : Jvm.MethodName)) ∈ lw_all := lw_g (lw_at lw_m9 27 rfl) rfl
theorem q2073 : (Jvm.Cond.code ({ cls := "RoseThrowModel", name := "keepCells", desc := "(I)V" } : Jvm.MethodName) prog_22_method_13_code (3 : Nat) (Option.none : Option Jvm.ClassFile.FieldType)) ∈ lw_all := lw_g (lw_at lw_m9 28 rfl) rfl
theorem q2074 : (Jvm.Cond.methodLink "RoseThrowModel" (497 : Nat) ({ cls := "RoseThrowModel", name := "goRound", desc := "()Z" } : Jvm.MethodName)) ∈ lw_all := lw_g (lw_at lw_m9 29 rfl) rfl
theorem q2075 : (Jvm.Cond.privateMethod ({ cls := "RoseThrowModel", name := "goRound", desc := "()Z" } : Jvm.MethodName)) ∈ lw_tbl := lw_at lw_m9 30 rfl
theorem q2076 : (Jvm.Cond.instanceMethod ({ cls := "RoseThrowModel", name := "goRound", desc := "()Z" } : Jvm.MethodName)) ∈ lw_all := lw_g (lw_at lw_m9 31 rfl) rfl
theorem q2077 : (Jvm.Cond.code ({ cls := "RoseThrowModel", name := "goRound", desc := "()Z" } : Jvm.MethodName) prog_22_method_88_code (4 : Nat) (Option.some Jvm.ClassFile.FieldType.boolean)) ∈ lw_all := lw_g (lw_at lw_m9 32 rfl) rfl
theorem q2079 : (Jvm.Cond.instanceMethod ({ cls := "RoseThrowModel", name := "friend", desc := "(II)J" } : Jvm.MethodName)) ∈ lw_all := lw_g (lw_at lw_m9 34 rfl) rfl
theorem q2080 : (Jvm.Cond.selects "RoseThrowModel" ({ cls := "RoseThrowModel", name := "friend", desc := "(II)J" } : Jvm.MethodName) ({ cls := "RoseThrowModel", name := "friend", desc := "(II)J" } : Jvm.MethodName)) ∈ lw_all := lw_g (lw_at lw_m9 35 rfl) rfl
theorem q2081 : (Jvm.Cond.code ({ cls := "RoseThrowModel", name := "friend", desc := "(II)J" } : Jvm.MethodName) prog_22_method_94_code (4 : Nat) (Option.some Jvm.ClassFile.FieldType.long)) ∈ lw_all := lw_g (lw_at lw_m9 36 rfl) rfl
theorem q2082 : (Jvm.Cond.methodLink "RoseThrowModel" (512 : Nat) ({ cls := "RoseThrowModel", name := "beginBest", desc := "()V" } : Jvm.MethodName)) ∈ lw_all := lw_g (lw_at lw_m9 37 rfl) rfl
theorem q2083 : (Jvm.Cond.privateMethod ({ cls := "RoseThrowModel", name := "beginBest", desc := "()V" } : Jvm.MethodName)) ∈ lw_tbl := lw_at lw_m9 38 rfl
theorem q2084 : (Jvm.Cond.instanceMethod ({ cls := "RoseThrowModel", name := "beginBest", desc := "()V" } : Jvm.MethodName)) ∈ lw_all := lw_g (lw_at lw_m9 39 rfl) rfl
theorem q2085 : (Jvm.Cond.code ({ cls := "RoseThrowModel", name := "beginBest", desc := "()V" } : Jvm.MethodName) prog_22_method_90_code (1 : Nat) (Option.none : Option Jvm.ClassFile.FieldType)) ∈ lw_all := lw_g (lw_at lw_m9 40 rfl) rfl
theorem q2086 : (Jvm.Cond.methodLink "RoseThrowModel" (515 : Nat) ({ cls := "RoseThrowModel", name := "aimAt", desc := "(I)V" } : Jvm.MethodName)) ∈ lw_all := lw_g (lw_at lw_m9 41 rfl) rfl
theorem q2087 : (Jvm.Cond.privateMethod ({ cls := "RoseThrowModel", name := "aimAt", desc := "(I)V" } : Jvm.MethodName)) ∈ lw_tbl := lw_at lw_m9 42 rfl
theorem q2088 : (Jvm.Cond.instanceMethod ({ cls := "RoseThrowModel", name := "aimAt", desc := "(I)V" } : Jvm.MethodName)) ∈ lw_all := lw_g (lw_at lw_m9 43 rfl) rfl
theorem q2089 : (Jvm.Cond.code ({ cls := "RoseThrowModel", name := "aimAt", desc := "(I)V" } : Jvm.MethodName) prog_22_method_92_code (2 : Nat) (Option.none : Option Jvm.ClassFile.FieldType)) ∈ lw_all := lw_g (lw_at lw_m9 44 rfl) rfl
theorem q2090 : (Jvm.Cond.methodLink "RoseThrowModel" (518 : Nat) ({ cls := "RoseThrowModel", name := "weigh", desc := "(IIJJ)V" } : Jvm.MethodName)) ∈ lw_all := lw_g (lw_at lw_m9 45 rfl) rfl
theorem q2091 : (Jvm.Cond.privateMethod ({ cls := "RoseThrowModel", name := "weigh", desc := "(IIJJ)V" } : Jvm.MethodName)) ∈ lw_tbl := lw_at lw_m9 46 rfl
theorem q2092 : (Jvm.Cond.instanceMethod ({ cls := "RoseThrowModel", name := "weigh", desc := "(IIJJ)V" } : Jvm.MethodName)) ∈ lw_all := lw_g (lw_at lw_m9 47 rfl) rfl
theorem q2093 : (Jvm.Cond.code ({ cls := "RoseThrowModel", name := "weigh", desc := "(IIJJ)V" } : Jvm.MethodName) prog_22_method_91_code (7 : Nat) (Option.none : Option Jvm.ClassFile.FieldType)) ∈ lw_all := lw_g (lw_at lw_m9 48 rfl) rfl
theorem q2094 : (Jvm.Cond.methodLink "RoseThrowModel" (522 : Nat) ({ cls := "RoseThrowModel", name := "tellThrow", desc := "(II)J" } : Jvm.MethodName)) ∈ lw_all := lw_g (lw_at lw_m9 49 rfl) rfl
theorem q2095 : (Jvm.Cond.privateMethod ({ cls := "RoseThrowModel", name := "tellThrow", desc := "(II)J" } : Jvm.MethodName)) ∈ lw_tbl := lw_at lw_m9 50 rfl
theorem q2096 : (Jvm.Cond.instanceMethod ({ cls := "RoseThrowModel", name := "tellThrow", desc := "(II)J" } : Jvm.MethodName)) ∈ lw_all := lw_g (lw_at lw_m9 51 rfl) rfl
theorem q2097 : (Jvm.Cond.code ({ cls := "RoseThrowModel", name := "tellThrow", desc := "(II)J" } : Jvm.MethodName) prog_22_method_93_code (3 : Nat) (Option.some Jvm.ClassFile.FieldType.long)) ∈ lw_all := lw_g (lw_at lw_m9 52 rfl) rfl
theorem q2099 : (Jvm.Cond.instanceMethod ({ cls := "RoseThrowModel", name := "heard", desc := "(II)J" } : Jvm.MethodName)) ∈ lw_all := lw_g (lw_at lw_m9 54 rfl) rfl
theorem q2100 : (Jvm.Cond.selects "RoseThrowModel" ({ cls := "RoseThrowModel", name := "heard", desc := "(II)J" } : Jvm.MethodName) ({ cls := "RoseThrowModel", name := "heard", desc := "(II)J" } : Jvm.MethodName)) ∈ lw_all := lw_g (lw_at lw_m9 55 rfl) rfl
theorem q2101 : (Jvm.Cond.code ({ cls := "RoseThrowModel", name := "heard", desc := "(II)J" } : Jvm.MethodName) prog_22_method_96_code (4 : Nat) (Option.some Jvm.ClassFile.FieldType.long)) ∈ lw_all := lw_g (lw_at lw_m9 56 rfl) rfl
theorem q2102 : (Jvm.Cond.methodLink "RoseThrowModel" (526 : Nat) ({ cls := "RoseThrowModel", name := "stepAll", desc := "(I)V" } : Jvm.MethodName)) ∈ lw_all := lw_g (lw_at lw_m9 57 rfl) rfl
theorem q2103 : (Jvm.Cond.privateMethod ({ cls := "RoseThrowModel", name := "stepAll", desc := "(I)V" } : Jvm.MethodName)) ∈ lw_tbl := lw_at lw_m9 58 rfl
theorem q2104 : (Jvm.Cond.instanceMethod ({ cls := "RoseThrowModel", name := "stepAll", desc := "(I)V" } : Jvm.MethodName)) ∈ lw_all := lw_g (lw_at lw_m9 59 rfl) rfl
theorem q2105 : (Jvm.Cond.code ({ cls := "RoseThrowModel", name := "stepAll", desc := "(I)V" } : Jvm.MethodName) prog_22_method_95_code (9 : Nat) (Option.none : Option Jvm.ClassFile.FieldType)) ∈ lw_all := lw_g (lw_at lw_m9 60 rfl) rfl
theorem q2107 : (Jvm.Cond.instanceMethod ({ cls := "RoseThrowModel", name := "feint", desc := "(II)J" } : Jvm.MethodName)) ∈ lw_all := lw_g (lw_at lw_m9 62 rfl) rfl
theorem q2108 : (Jvm.Cond.selects "RoseThrowModel" ({ cls := "RoseThrowModel", name := "feint", desc := "(II)J" } : Jvm.MethodName) ({ cls := "RoseThrowModel", name := "feint", desc := "(II)J" } : Jvm.MethodName)) ∈ lw_all := lw_g (lw_at lw_m9 63 rfl) rfl
theorem q2109 : (Jvm.Cond.code ({ cls := "RoseThrowModel", name := "feint", desc := "(II)J" } : Jvm.MethodName) prog_22_method_97_code (5 : Nat) (Option.some Jvm.ClassFile.FieldType.long)) ∈ lw_all := lw_g (lw_at lw_m9 64 rfl) rfl
theorem q2111 : (Jvm.Cond.instanceMethod ({ cls := "RoseThrowModel", name := "safest", desc := "(II)I" } : Jvm.MethodName)) ∈ lw_all := lw_g (lw_at lw_m9 66 rfl) rfl
theorem q2112 : (Jvm.Cond.selects "RoseThrowModel" ({ cls := "RoseThrowModel", name := "safest", desc := "(II)I" } : Jvm.MethodName) ({ cls := "RoseThrowModel", name := "safest", desc := "(II)I" } : Jvm.MethodName)) ∈ lw_all := lw_g (lw_at lw_m9 67 rfl) rfl
theorem q2113 : (Jvm.Cond.code ({ cls := "RoseThrowModel", name := "safest", desc := "(II)I" } : Jvm.MethodName) prog_22_method_99_code (6 : Nat) (Option.some Jvm.ClassFile.FieldType.int)) ∈ lw_all := lw_g (lw_at lw_m9 68 rfl) rfl
theorem q2114 : (Jvm.Cond.methodLink "RoseThrowModel" (529 : Nat) ({ cls := "RoseThrowModel", name := "weightNear", desc := "(I)I" } : Jvm.MethodName)) ∈ lw_all := lw_g (lw_at lw_m9 69 rfl) rfl
theorem q2115 : (Jvm.Cond.privateMethod ({ cls := "RoseThrowModel", name := "weightNear", desc := "(I)I" } : Jvm.MethodName)) ∈ lw_tbl := lw_at lw_m9 70 rfl
theorem q2116 : (Jvm.Cond.instanceMethod ({ cls := "RoseThrowModel", name := "weightNear", desc := "(I)I" } : Jvm.MethodName)) ∈ lw_all := lw_g (lw_at lw_m9 71 rfl) rfl
theorem q2117 : (Jvm.Cond.code ({ cls := "RoseThrowModel", name := "weightNear", desc := "(I)I" } : Jvm.MethodName) prog_22_method_98_code (4 : Nat) (Option.some Jvm.ClassFile.FieldType.int)) ∈ lw_all := lw_g (lw_at lw_m9 72 rfl) rfl
theorem q2119 : (Jvm.Cond.instanceMethod ({ cls := "RoseThrowModel", name := "crowd", desc := "(I)J" } : Jvm.MethodName)) ∈ lw_all := lw_g (lw_at lw_m9 74 rfl) rfl
theorem q2120 : (Jvm.Cond.selects "RoseThrowModel" ({ cls := "RoseThrowModel", name := "crowd", desc := "(I)J" } : Jvm.MethodName) ({ cls := "RoseThrowModel", name := "crowd", desc := "(I)J" } : Jvm.MethodName)) ∈ lw_all := lw_g (lw_at lw_m9 75 rfl) rfl
theorem q2121 : (Jvm.Cond.code ({ cls := "RoseThrowModel", name := "crowd", desc := "(I)J" } : Jvm.MethodName) prog_22_method_100_code (5 : Nat) (Option.some Jvm.ClassFile.FieldType.long)) ∈ lw_all := lw_g (lw_at lw_m9 76 rfl) rfl
theorem q2122 : (Jvm.Cond.constant "RoseThrowModel" (532 : Nat) (1000000 : Int32)) ∈ lw_all := lw_g (lw_at lw_m9 77 rfl) rfl
theorem q2124 : (Jvm.Cond.instanceMethod ({ cls := "RoseThrowModel", name := "again", desc := "(I)J" } : Jvm.MethodName)) ∈ lw_all := lw_g (lw_at lw_m9 79 rfl) rfl
theorem q2125 : (Jvm.Cond.selects "RoseThrowModel" ({ cls := "RoseThrowModel", name := "again", desc := "(I)J" } : Jvm.MethodName) ({ cls := "RoseThrowModel", name := "again", desc := "(I)J" } : Jvm.MethodName)) ∈ lw_all := lw_g (lw_at lw_m9 80 rfl) rfl
theorem q2126 : (Jvm.Cond.code ({ cls := "RoseThrowModel", name := "again", desc := "(I)J" } : Jvm.MethodName) prog_22_method_101_code (6 : Nat) (Option.some Jvm.ClassFile.FieldType.long)) ∈ lw_all := lw_g (lw_at lw_m9 81 rfl) rfl
theorem q2128 : (Jvm.Cond.instanceMethod ({ cls := "RoseThrowModel", name := "truly", desc := "(I)J" } : Jvm.MethodName)) ∈ lw_all := lw_g (lw_at lw_m9 83 rfl) rfl
theorem q2129 : (Jvm.Cond.selects "RoseThrowModel" ({ cls := "RoseThrowModel", name := "truly", desc := "(I)J" } : Jvm.MethodName) ({ cls := "RoseThrowModel", name := "truly", desc := "(I)J" } : Jvm.MethodName)) ∈ lw_all := lw_g (lw_at lw_m9 84 rfl) rfl
theorem q2130 : (Jvm.Cond.code ({ cls := "RoseThrowModel", name := "truly", desc := "(I)J" } : Jvm.MethodName) prog_22_method_102_code (5 : Nat) (Option.some Jvm.ClassFile.FieldType.long)) ∈ lw_all := lw_g (lw_at lw_m9 85 rfl) rfl
theorem q2131 : (Jvm.Cond.constantLong "RoseThrowModel" (533 : Nat) (6000 : Int64)) ∈ lw_all := lw_g (lw_at lw_m9 86 rfl) rfl
theorem q2133 : (Jvm.Cond.instanceMethod ({ cls := "RoseThrowModel", name := "meant", desc := "(II)J" } : Jvm.MethodName)) ∈ lw_all := lw_g (lw_at lw_m9 88 rfl) rfl
theorem q2134 : (Jvm.Cond.selects "RoseThrowModel" ({ cls := "RoseThrowModel", name := "meant", desc := "(II)J" } : Jvm.MethodName) ({ cls := "RoseThrowModel", name := "meant", desc := "(II)J" } : Jvm.MethodName)) ∈ lw_all := lw_g (lw_at lw_m9 89 rfl) rfl
theorem q2135 : (Jvm.Cond.code ({ cls := "RoseThrowModel", name := "meant", desc := "(II)J" } : Jvm.MethodName) prog_22_method_103_code (6 : Nat) (Option.some Jvm.ClassFile.FieldType.long)) ∈ lw_all := lw_g (lw_at lw_m9 90 rfl) rfl
theorem q2137 : (Jvm.Cond.instanceMethod ({ cls := "RoseThrowModel", name := "film", desc := "(I)I" } : Jvm.MethodName)) ∈ lw_all := lw_g (lw_at lw_m9 92 rfl) rfl
theorem q2138 : (Jvm.Cond.selects "RoseThrowModel" ({ cls := "RoseThrowModel", name := "film", desc := "(I)I" } : Jvm.MethodName) ({ cls := "RoseThrowModel", name := "film", desc := "(I)I" } : Jvm.MethodName)) ∈ lw_all := lw_g (lw_at lw_m9 93 rfl) rfl
theorem q2139 : (Jvm.Cond.code ({ cls := "RoseThrowModel", name := "film", desc := "(I)I" } : Jvm.MethodName) prog_22_method_104_code (3 : Nat) (Option.some Jvm.ClassFile.FieldType.int)) ∈ lw_all := lw_g (lw_at lw_m9 94 rfl) rfl
theorem q2141 : (Jvm.Cond.instanceMethod ({ cls := "RoseThrowModel", name := "burn", desc := "()I" } : Jvm.MethodName)) ∈ lw_all := lw_g (lw_at lw_m9 96 rfl) rfl
theorem q2142 : (Jvm.Cond.selects "RoseThrowModel" ({ cls := "RoseThrowModel", name := "burn", desc := "()I" } : Jvm.MethodName) ({ cls := "RoseThrowModel", name := "burn", desc := "()I" } : Jvm.MethodName)) ∈ lw_all := lw_g (lw_at lw_m9 97 rfl) rfl
theorem q2143 : (Jvm.Cond.code ({ cls := "RoseThrowModel", name := "burn", desc := "()I" } : Jvm.MethodName) prog_22_method_105_code (2 : Nat) (Option.some Jvm.ClassFile.FieldType.int)) ∈ lw_all := lw_g (lw_at lw_m9 98 rfl) rfl
theorem q2145 : (Jvm.Cond.instanceMethod ({ cls := "RoseThrowModel", name := "fits", desc := "(I)I" } : Jvm.MethodName)) ∈ lw_all := lw_g (lw_at lw_m9 100 rfl) rfl
theorem q2146 : (Jvm.Cond.selects "RoseThrowModel" ({ cls := "RoseThrowModel", name := "fits", desc := "(I)I" } : Jvm.MethodName) ({ cls := "RoseThrowModel", name := "fits", desc := "(I)I" } : Jvm.MethodName)) ∈ lw_all := lw_g (lw_at lw_m9 101 rfl) rfl
theorem q2147 : (Jvm.Cond.code ({ cls := "RoseThrowModel", name := "fits", desc := "(I)I" } : Jvm.MethodName) prog_22_method_106_code (6 : Nat) (Option.some Jvm.ClassFile.FieldType.int)) ∈ lw_all := lw_g (lw_at lw_m9 102 rfl) rfl
theorem q2149 : (Jvm.Cond.instanceMethod ({ cls := "RoseThrowModel", name := "go", desc := "(II)I" } : Jvm.MethodName)) ∈ lw_all := lw_g (lw_at lw_m9 104 rfl) rfl
theorem q2150 : (Jvm.Cond.selects "RoseThrowModel" ({ cls := "RoseThrowModel", name := "go", desc := "(II)I" } : Jvm.MethodName) ({ cls := "RoseThrowModel", name := "go", desc := "(II)I" } : Jvm.MethodName)) ∈ lw_all := lw_g (lw_at lw_m9 105 rfl) rfl
theorem q2151 : (Jvm.Cond.code ({ cls := "RoseThrowModel", name := "go", desc := "(II)I" } : Jvm.MethodName) prog_22_method_108_code (3 : Nat) (Option.some Jvm.ClassFile.FieldType.int)) ∈ lw_all := lw_g (lw_at lw_m9 106 rfl) rfl
theorem q2152 : (Jvm.Cond.methodLink "RoseThrowModel" (538 : Nat) ({ cls := "RoseThrowModel", name := "goNow", desc := "(II)I" } : Jvm.MethodName)) ∈ lw_all := lw_g (lw_at lw_m9 107 rfl) rfl
theorem q2153 : (Jvm.Cond.privateMethod ({ cls := "RoseThrowModel", name := "goNow", desc := "(II)I" } : Jvm.MethodName)) ∈ lw_tbl := lw_at lw_m9 108 rfl
theorem q2154 : (Jvm.Cond.instanceMethod ({ cls := "RoseThrowModel", name := "goNow", desc := "(II)I" } : Jvm.MethodName)) ∈ lw_all := lw_g (lw_at lw_m9 109 rfl) rfl
theorem q2155 : (Jvm.Cond.code ({ cls := "RoseThrowModel", name := "goNow", desc := "(II)I" } : Jvm.MethodName) prog_22_method_107_code (4 : Nat) (Option.some Jvm.ClassFile.FieldType.int)) ∈ lw_all := lw_g (lw_at lw_m9 110 rfl) rfl
theorem q2156 : (Jvm.Cond.methodLink "RoseThrowModel" (535 : Nat) ({ cls := "RoseThrowModel", name := "remember", desc := "(I)V" } : Jvm.MethodName)) ∈ lw_all := lw_g (lw_at lw_m9 111 rfl) rfl
theorem q2157 : (Jvm.Cond.privateMethod ({ cls := "RoseThrowModel", name := "remember", desc := "(I)V" } : Jvm.MethodName)) ∈ lw_tbl := lw_at lw_m9 112 rfl
theorem q2158 : (Jvm.Cond.instanceMethod ({ cls := "RoseThrowModel", name := "remember", desc := "(I)V" } : Jvm.MethodName)) ∈ lw_all := lw_g (lw_at lw_m9 113 rfl) rfl
theorem q2159 : (Jvm.Cond.code ({ cls := "RoseThrowModel", name := "remember", desc := "(I)V" } : Jvm.MethodName) prog_22_method_15_code (3 : Nat) (Option.none : Option Jvm.ClassFile.FieldType)) ∈ lw_all := lw_g (lw_at lw_m9 114 rfl) rfl
theorem q2161 : (Jvm.Cond.instanceMethod ({ cls := "RoseThrowModel", name := "believe", desc := "(II)I" } : Jvm.MethodName)) ∈ lw_all := lw_g (lw_at lw_m9 116 rfl) rfl
theorem q2162 : (Jvm.Cond.selects "RoseThrowModel" ({ cls := "RoseThrowModel", name := "believe", desc := "(II)I" } : Jvm.MethodName) ({ cls := "RoseThrowModel", name := "believe", desc := "(II)I" } : Jvm.MethodName)) ∈ lw_all := lw_g (lw_at lw_m9 117 rfl) rfl
theorem q2163 : (Jvm.Cond.code ({ cls := "RoseThrowModel", name := "believe", desc := "(II)I" } : Jvm.MethodName) prog_22_method_110_code (5 : Nat) (Option.some Jvm.ClassFile.FieldType.int)) ∈ lw_all := lw_g (lw_at lw_m9 118 rfl) rfl
theorem q2164 : (Jvm.Cond.methodLink "RoseThrowModel" (541 : Nat) ({ cls := "RoseThrowModel", name := "cannotBelieve", desc := "(II)I" } : Jvm.MethodName)) ∈ lw_all := lw_g (lw_at lw_m9 119 rfl) rfl
theorem q2165 : (Jvm.Cond.privateMethod ({ cls := "RoseThrowModel", name := "cannotBelieve", desc := "(II)I" } : Jvm.MethodName)) ∈ lw_tbl := lw_at lw_m9 120 rfl
theorem q2166 : (Jvm.Cond.instanceMethod ({ cls := "RoseThrowModel", name := "cannotBelieve", desc := "(II)I" } : Jvm.MethodName)) ∈ lw_all := lw_g (lw_at lw_m9 121 rfl) rfl
theorem q2167 : (Jvm.Cond.code ({ cls := "RoseThrowModel", name := "cannotBelieve", desc := "(II)I" } : Jvm.MethodName) prog_22_method_109_code (3 : Nat) (Option.some Jvm.ClassFile.FieldType.int)) ∈ lw_all := lw_g (lw_at lw_m9 122 rfl) rfl
theorem q2169 : (Jvm.Cond.instanceMethod ({ cls := "RoseThrowModel", name := "rush", desc := "()I" } : Jvm.MethodName)) ∈ lw_all := lw_g (lw_at lw_m9 124 rfl) rfl
theorem q2170 : (Jvm.Cond.selects "RoseThrowModel" ({ cls := "RoseThrowModel", name := "rush", desc := "()I" } : Jvm.MethodName) ({ cls := "RoseThrowModel", name := "rush", desc := "()I" } : Jvm.MethodName)) ∈ lw_all := lw_g (lw_at lw_m9 125 rfl) rfl
theorem q2171 : (Jvm.Cond.code ({ cls := "RoseThrowModel", name := "rush", desc := "()I" } : Jvm.MethodName) prog_22_method_113_code (1 : Nat) (Option.some Jvm.ClassFile.FieldType.int)) ∈ lw_all := lw_g (lw_at lw_m9 126 rfl) rfl
theorem q2172 : (Jvm.Cond.methodLink "RoseThrowModel" (547 : Nat) ({ cls := "RoseThrowModel", name := "rushNow", desc := "()I" } : Jvm.MethodName)) ∈ lw_all := lw_g (lw_at lw_m9 127 rfl) rfl
theorem q2173 : (Jvm.Cond.privateMethod ({ cls := "RoseThrowModel", name := "rushNow", desc := "()I" } : Jvm.MethodName)) ∈ lw_tbl := lw_at lw_m9 128 rfl
theorem q2174 : (Jvm.Cond.instanceMethod ({ cls := "RoseThrowModel", name := "rushNow", desc := "()I" } : Jvm.MethodName)) ∈ lw_all := lw_g (lw_at lw_m9 129 rfl) rfl
theorem q2175 : (Jvm.Cond.code ({ cls := "RoseThrowModel", name := "rushNow", desc := "()I" } : Jvm.MethodName) prog_22_method_112_code (8 : Nat) (Option.some Jvm.ClassFile.FieldType.int)) ∈ lw_all := lw_g (lw_at lw_m9 130 rfl) rfl
theorem q2176 : (Jvm.Cond.methodLink "RoseThrowModel" (544 : Nat) ({ cls := "RoseThrowModel", name := "steps", desc := "(II)Z" } : Jvm.MethodName)) ∈ lw_all := lw_g (lw_at lw_m9 131 rfl) rfl
theorem q2177 : (Jvm.Cond.privateMethod ({ cls := "RoseThrowModel", name := "steps", desc := "(II)Z" } : Jvm.MethodName)) ∈ lw_tbl := lw_at lw_m9 132 rfl
theorem q2178 : (Jvm.Cond.instanceMethod ({ cls := "RoseThrowModel", name := "steps", desc := "(II)Z" } : Jvm.MethodName)) ∈ lw_all := lw_g (lw_at lw_m9 133 rfl) rfl
theorem q2179 : (Jvm.Cond.code ({ cls := "RoseThrowModel", name := "steps", desc := "(II)Z" } : Jvm.MethodName) prog_22_method_111_code (3 : Nat) (Option.some Jvm.ClassFile.FieldType.boolean)) ∈ lw_all := lw_g (lw_at lw_m9 134 rfl) rfl
theorem q2181 : (Jvm.Cond.instanceMethod ({ cls := "RoseThrowModel", name := "orders", desc := "()I" } : Jvm.MethodName)) ∈ lw_all := lw_g (lw_at lw_m9 136 rfl) rfl
theorem q2182 : (Jvm.Cond.selects "RoseThrowModel" ({ cls := "RoseThrowModel", name := "orders", desc := "()I" } : Jvm.MethodName) ({ cls := "RoseThrowModel", name := "orders", desc := "()I" } : Jvm.MethodName)) ∈ lw_all := lw_g (lw_at lw_m9 137 rfl) rfl
theorem q2183 : (Jvm.Cond.code ({ cls := "RoseThrowModel", name := "orders", desc := "()I" } : Jvm.MethodName) prog_22_method_118_code (4 : Nat) (Option.some Jvm.ClassFile.FieldType.int)) ∈ lw_all := lw_g (lw_at lw_m9 138 rfl) rfl
theorem q2184 : (Jvm.Cond.methodLink "RoseThrowModel" (576 : Nat) ({ cls := "RoseThrowModel", name := "readOrder", desc := "()V" } : Jvm.MethodName)) ∈ lw_all := lw_g (lw_at lw_m9 139 rfl) rfl
theorem q2185 : (Jvm.Cond.privateMethod ({ cls := "RoseThrowModel", name := "readOrder", desc := "()V" } : Jvm.MethodName)) ∈ lw_tbl := lw_at lw_m9 140 rfl
theorem q2186 : (Jvm.Cond.instanceMethod ({ cls := "RoseThrowModel", name := "readOrder", desc := "()V" } : Jvm.MethodName)) ∈ lw_all := lw_g (lw_at lw_m9 141 rfl) rfl
theorem q2187 : (Jvm.Cond.code ({ cls := "RoseThrowModel", name := "readOrder", desc := "()V" } : Jvm.MethodName) prog_22_method_115_code (3 : Nat) (Option.none : Option Jvm.ClassFile.FieldType)) ∈ lw_all := lw_g (lw_at lw_m9 142 rfl) rfl
theorem q2188 : (Jvm.Cond.constantLong "RoseThrowModel" (550 : Nat) (239 : Int64)) ∈ lw_all := lw_g (lw_at lw_m9 143 rfl) rfl
theorem q2189 : (Jvm.Cond.constantLong "RoseThrowModel" (552 : Nat) (2328139461 : Int64)) ∈ lw_all := lw_g (lw_at lw_m9 144 rfl) rfl
theorem q2190 : (Jvm.Cond.constantLong "RoseThrowModel" (554 : Nat) (611944 : Int64)) ∈ lw_all := lw_g (lw_at lw_m9 145 rfl) rfl
theorem q2191 : (Jvm.Cond.methodLink "RoseThrowModel" (556 : Nat) ({ cls := "RoseThrowModel", name := "readSum", desc := "(I)V" } : Jvm.MethodName)) ∈ lw_all := lw_g (lw_at lw_m9 146 rfl) rfl
theorem q2192 : (Jvm.Cond.privateMethod ({ cls := "RoseThrowModel", name := "readSum", desc := "(I)V" } : Jvm.MethodName)) ∈ lw_tbl := lw_at lw_m9 147 rfl
theorem q2193 : (Jvm.Cond.instanceMethod ({ cls := "RoseThrowModel", name := "readSum", desc := "(I)V" } : Jvm.MethodName)) ∈ lw_all := lw_g (lw_at lw_m9 148 rfl) rfl
theorem q2194 : (Jvm.Cond.code ({ cls := "RoseThrowModel", name := "readSum", desc := "(I)V" } : Jvm.MethodName) prog_22_method_114_code (2 : Nat) (Option.none : Option Jvm.ClassFile.FieldType)) ∈ lw_all := lw_g (lw_at lw_m9 149 rfl) rfl
theorem q2195 : (Jvm.Cond.constantLong "RoseThrowModel" (559 : Nat) (52 : Int64)) ∈ lw_all := lw_g (lw_at lw_m9 150 rfl) rfl
theorem q2196 : (Jvm.Cond.constantLong "RoseThrowModel" (561 : Nat) (21279923 : Int64)) ∈ lw_all := lw_g (lw_at lw_m9 151 rfl) rfl
theorem q2197 : (Jvm.Cond.methodLink "RoseThrowModel" (579 : Nat) ({ cls := "RoseThrowModel", name := "run", desc := "(I)I" } : Jvm.MethodName)) ∈ lw_all := lw_g (lw_at lw_m9 152 rfl) rfl
theorem q2198 : (Jvm.Cond.privateMethod ({ cls := "RoseThrowModel", name := "run", desc := "(I)I" } : Jvm.MethodName)) ∈ lw_tbl := lw_at lw_m9 153 rfl
theorem q2199 : (Jvm.Cond.instanceMethod ({ cls := "RoseThrowModel", name := "run", desc := "(I)I" } : Jvm.MethodName)) ∈ lw_all := lw_g (lw_at lw_m9 154 rfl) rfl
theorem q2200 : (Jvm.Cond.code ({ cls := "RoseThrowModel", name := "run", desc := "(I)I" } : Jvm.MethodName) prog_22_method_117_code (5 : Nat) (Option.some Jvm.ClassFile.FieldType.int)) ∈ lw_all := lw_g (lw_at lw_m9 155 rfl) rfl
theorem q2201 : (Jvm.Cond.methodLink "RoseThrowModel" (572 : Nat) ({ cls := "RoseThrowModel", name := "sumOf", desc := "(I)J" } : Jvm.MethodName)) ∈ lw_all := lw_g (lw_at lw_m9 156 rfl) rfl
theorem q2202 : (Jvm.Cond.privateMethod ({ cls := "RoseThrowModel", name := "sumOf", desc := "(I)J" } : Jvm.MethodName)) ∈ lw_tbl := lw_at lw_m9 157 rfl
theorem q2203 : (Jvm.Cond.instanceMethod ({ cls := "RoseThrowModel", name := "sumOf", desc := "(I)J" } : Jvm.MethodName)) ∈ lw_all := lw_g (lw_at lw_m9 158 rfl) rfl
theorem q2204 : (Jvm.Cond.code ({ cls := "RoseThrowModel", name := "sumOf", desc := "(I)J" } : Jvm.MethodName) prog_22_method_116_code (2 : Nat) (Option.some Jvm.ClassFile.FieldType.long)) ∈ lw_all := lw_g (lw_at lw_m9 159 rfl) rfl
theorem q2205 : (Jvm.Cond.methodLink "RoseThrowModel" (582 : Nat) ({ cls := "RoseThrowModel", name := "giveBack", desc := "(I)V" } : Jvm.MethodName)) ∈ lw_all := lw_g (lw_at lw_m9 160 rfl) rfl
theorem q2206 : (Jvm.Cond.privateMethod ({ cls := "RoseThrowModel", name := "giveBack", desc := "(I)V" } : Jvm.MethodName)) ∈ lw_tbl := lw_at lw_m9 161 rfl
theorem q2207 : (Jvm.Cond.instanceMethod ({ cls := "RoseThrowModel", name := "giveBack", desc := "(I)V" } : Jvm.MethodName)) ∈ lw_all := lw_g (lw_at lw_m9 162 rfl) rfl
theorem q2208 : (Jvm.Cond.code ({ cls := "RoseThrowModel", name := "giveBack", desc := "(I)V" } : Jvm.MethodName) prog_22_method_119_code (3 : Nat) (Option.none : Option Jvm.ClassFile.FieldType)) ∈ lw_all := lw_g (lw_at lw_m9 163 rfl) rfl
theorem q2210 : (Jvm.Cond.instanceMethod ({ cls := "RoseThrowModel", name := "stopped", desc := "()I" } : Jvm.MethodName)) ∈ lw_all := lw_g (lw_at lw_m9 165 rfl) rfl
theorem q2211 : (Jvm.Cond.selects "RoseThrowModel" ({ cls := "RoseThrowModel", name := "stopped", desc := "()I" } : Jvm.MethodName) ({ cls := "RoseThrowModel", name := "stopped", desc := "()I" } : Jvm.MethodName)) ∈ lw_all := lw_g (lw_at lw_m9 166 rfl) rfl
theorem q2212 : (Jvm.Cond.code ({ cls := "RoseThrowModel", name := "stopped", desc := "()I" } : Jvm.MethodName) prog_22_method_120_code (1 : Nat) (Option.some Jvm.ClassFile.FieldType.int)) ∈ lw_all := lw_g (lw_at lw_m9 167 rfl) rfl
theorem q2214 : (Jvm.Cond.instanceMethod ({ cls := "RoseThrowModel", name := "weddings", desc := "(II)I" } : Jvm.MethodName)) ∈ lw_all := lw_g (lw_at lw_m9 169 rfl) rfl
theorem q2215 : (Jvm.Cond.selects "RoseThrowModel" ({ cls := "RoseThrowModel", name := "weddings", desc := "(II)I" } : Jvm.MethodName) ({ cls := "RoseThrowModel", name := "weddings", desc := "(II)I" } : Jvm.MethodName)) ∈ lw_all := lw_g (lw_at lw_m9 170 rfl) rfl
theorem q2216 : (Jvm.Cond.code ({ cls := "RoseThrowModel", name := "weddings", desc := "(II)I" } : Jvm.MethodName) prog_22_method_125_code (7 : Nat) (Option.some Jvm.ClassFile.FieldType.int)) ∈ lw_all := lw_g (lw_at lw_m9 171 rfl) rfl
theorem q2217 : (Jvm.Cond.constantLong "RoseThrowModel" (597 : Nat) (100 : Int64)) ∈ lw_all := lw_g (lw_at lw_m9 172 rfl) rfl
theorem q2218 : (Jvm.Cond.methodLink "RoseThrowModel" (605 : Nat) ({ cls := "RoseThrowModel", name := "drawCell", desc := "()I" } : Jvm.MethodName)) ∈ lw_all := lw_g (lw_at lw_m9 173 rfl) rfl
theorem q2219 : (Jvm.Cond.privateMethod ({ cls := "RoseThrowModel", name := "drawCell", desc := "()I" } : Jvm.MethodName)) ∈ lw_tbl := lw_at lw_m9 174 rfl
theorem q2220 : (Jvm.Cond.instanceMethod ({ cls := "RoseThrowModel", name := "drawCell", desc := "()I" } : Jvm.MethodName)) ∈ lw_all := lw_g (lw_at lw_m9 175 rfl) rfl
theorem q2221 : (Jvm.Cond.code ({ cls := "RoseThrowModel", name := "drawCell", desc := "()I" } : Jvm.MethodName) prog_22_method_122_code (3 : Nat) (Option.some Jvm.ClassFile.FieldType.int)) ∈ lw_all := lw_g (lw_at lw_m9 176 rfl) rfl
theorem q2222 : (Jvm.Cond.methodLink "RoseThrowModel" (594 : Nat) ({ cls := "RoseThrowModel", name := "draw", desc := "(I)I" } : Jvm.MethodName)) ∈ lw_all := lw_g (lw_at lw_m9 177 rfl) rfl
theorem q2223 : (Jvm.Cond.privateMethod ({ cls := "RoseThrowModel", name := "draw", desc := "(I)I" } : Jvm.MethodName)) ∈ lw_tbl := lw_at lw_m9 178 rfl
theorem q2224 : (Jvm.Cond.instanceMethod ({ cls := "RoseThrowModel", name := "draw", desc := "(I)I" } : Jvm.MethodName)) ∈ lw_all := lw_g (lw_at lw_m9 179 rfl) rfl
theorem q2225 : (Jvm.Cond.code ({ cls := "RoseThrowModel", name := "draw", desc := "(I)I" } : Jvm.MethodName) prog_22_method_121_code (2 : Nat) (Option.some Jvm.ClassFile.FieldType.int)) ∈ lw_all := lw_g (lw_at lw_m9 180 rfl) rfl
theorem q2226 : (Jvm.Cond.constantLong "RoseThrowModel" (588 : Nat) (1103 : Int64)) ∈ lw_all := lw_g (lw_at lw_m9 181 rfl) rfl
theorem q2227 : (Jvm.Cond.constantLong "RoseThrowModel" (590 : Nat) (12345 : Int64)) ∈ lw_all := lw_g (lw_at lw_m9 182 rfl) rfl
theorem q2228 : (Jvm.Cond.constantLong "RoseThrowModel" (592 : Nat) (1000003 : Int64)) ∈ lw_all := lw_g (lw_at lw_m9 183 rfl) rfl
theorem q2229 : (Jvm.Cond.methodLink "RoseThrowModel" (608 : Nat) ({ cls := "RoseThrowModel", name := "drawHolder", desc := "()I" } : Jvm.MethodName)) ∈ lw_all := lw_g (lw_at lw_m9 184 rfl) rfl
theorem q2230 : (Jvm.Cond.privateMethod ({ cls := "RoseThrowModel", name := "drawHolder", desc := "()I" } : Jvm.MethodName)) ∈ lw_tbl := lw_at lw_m9 185 rfl
theorem q2231 : (Jvm.Cond.instanceMethod ({ cls := "RoseThrowModel", name := "drawHolder", desc := "()I" } : Jvm.MethodName)) ∈ lw_all := lw_g (lw_at lw_m9 186 rfl) rfl
theorem q2232 : (Jvm.Cond.code ({ cls := "RoseThrowModel", name := "drawHolder", desc := "()I" } : Jvm.MethodName) prog_22_method_123_code (3 : Nat) (Option.some Jvm.ClassFile.FieldType.int)) ∈ lw_all := lw_g (lw_at lw_m9 187 rfl) rfl
theorem q2233 : (Jvm.Cond.methodLink "RoseThrowModel" (611 : Nat) ({ cls := "RoseThrowModel", name := "wedNow", desc := "(II)I" } : Jvm.MethodName)) ∈ lw_all := lw_g (lw_at lw_m9 188 rfl) rfl
theorem q2234 : (Jvm.Cond.privateMethod ({ cls := "RoseThrowModel", name := "wedNow", desc := "(II)I" } : Jvm.MethodName)) ∈ lw_tbl := lw_at lw_m9 189 rfl
theorem q2235 : (Jvm.Cond.instanceMethod ({ cls := "RoseThrowModel", name := "wedNow", desc := "(II)I" } : Jvm.MethodName)) ∈ lw_all := lw_g (lw_at lw_m9 190 rfl) rfl
theorem q2236 : (Jvm.Cond.code ({ cls := "RoseThrowModel", name := "wedNow", desc := "(II)I" } : Jvm.MethodName) prog_22_method_124_code (4 : Nat) (Option.some Jvm.ClassFile.FieldType.int)) ∈ lw_all := lw_g (lw_at lw_m9 191 rfl) rfl
theorem q2238 : (Jvm.Cond.instanceMethod ({ cls := "RoseThrowModel", name := "drawn", desc := "(II)I" } : Jvm.MethodName)) ∈ lw_all := lw_g (lw_at lw_m9 193 rfl) rfl
theorem q2239 : (Jvm.Cond.selects "RoseThrowModel" ({ cls := "RoseThrowModel", name := "drawn", desc := "(II)I" } : Jvm.MethodName) ({ cls := "RoseThrowModel", name := "drawn", desc := "(II)I" } : Jvm.MethodName)) ∈ lw_all := lw_g (lw_at lw_m9 194 rfl) rfl
theorem q2240 : (Jvm.Cond.code ({ cls := "RoseThrowModel", name := "drawn", desc := "(II)I" } : Jvm.MethodName) prog_22_method_126_code (3 : Nat) (Option.some Jvm.ClassFile.FieldType.int)) ∈ lw_all := lw_g (lw_at lw_m9 195 rfl) rfl
theorem q2242 : (Jvm.Cond.instanceMethod ({ cls := "RoseThrowModel", name := "count", desc := "(I)I" } : Jvm.MethodName)) ∈ lw_all := lw_g (lw_at lw_m9 197 rfl) rfl
theorem q2243 : (Jvm.Cond.selects "RoseThrowModel" ({ cls := "RoseThrowModel", name := "count", desc := "(I)I" } : Jvm.MethodName) ({ cls := "RoseThrowModel", name := "count", desc := "(I)I" } : Jvm.MethodName)) ∈ lw_all := lw_g (lw_at lw_m9 198 rfl) rfl
theorem q2244 : (Jvm.Cond.code ({ cls := "RoseThrowModel", name := "count", desc := "(I)I" } : Jvm.MethodName) prog_22_method_127_code (2 : Nat) (Option.some Jvm.ClassFile.FieldType.int)) ∈ lw_all := lw_g (lw_at lw_m9 199 rfl) rfl
theorem q2245 : (Jvm.Cond.constantLong "RoseThrowModel" (614 : Nat) (11 : Int64)) ∈ lw_all := lw_g (lw_at lw_m9 200 rfl) rfl
theorem q2246 : (Jvm.Cond.constantLong "RoseThrowModel" (616 : Nat) (19 : Int64)) ∈ lw_all := lw_g (lw_at lw_m9 201 rfl) rfl
theorem q2248 : (Jvm.Cond.instanceMethod ({ cls := "RoseThrowModel", name := "status", desc := "()I" } : Jvm.MethodName)) ∈ lw_all := lw_g (lw_at lw_m9 203 rfl) rfl
theorem q2249 : (Jvm.Cond.selects "RoseThrowModel" ({ cls := "RoseThrowModel", name := "status", desc := "()I" } : Jvm.MethodName) ({ cls := "RoseThrowModel", name := "status", desc := "()I" } : Jvm.MethodName)) ∈ lw_all := lw_g (lw_at lw_m9 204 rfl) rfl
theorem q2250 : (Jvm.Cond.code ({ cls := "RoseThrowModel", name := "status", desc := "()I" } : Jvm.MethodName) prog_22_method_128_code (1 : Nat) (Option.some Jvm.ClassFile.FieldType.int)) ∈ lw_all := lw_g (lw_at lw_m9 205 rfl) rfl
theorem q2271 : (Jvm.Cond.castable "RoseThrowModel" "java/lang/Object") ∈ lw_tbl := lw_at lw_m9 226 rfl
theorem in_X5 : ∀ w ∈ wsX50, w ∈ lw_all := lw_in wsX50 [1584, 1586, 1588, 1590, 1592, 1594, 1596, 1598, 1600, 1602, 1604, 1606, 1608, 1610, 1612, 1614, 1616, 1618, 1620, 1622, 1624, 1626, 1628, 1630, 1632, 1634, 1636, 1638, 1640, 1642, 1644, 1646, 1648, 1650, 1652, 1654, 1656, 1658, 1660, 1662, 1664, 1666, 1668, 1670, 1672, 1674, 1676, 1678, 1680, 1682, 1684, 1686, 1688, 1690, 1692, 1694, 1696, 1698, 1700, 1702, 1704, 1706, 1708, 1710, 1712, 1714, 1716] (by decide +kernel) (by decide +kernel)
