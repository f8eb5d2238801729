/-! RoseThrow -/
set_option maxRecDepth 100000
def RX0 : String := "RoseThrow"
def TX0 : u_T := fun k => match k with
  | 0 => ("RoseThrow", "status", "I", false)
  | 1 => ("RoseThrow", "refused", "[I", true)
  | 2 => ("RoseThrow", "state", "LRoseThrow$State;", true)
  | 3 => ("RoseThrow", "images", "[LRoseThrow$State;", true)
  | 4 => ("RoseThrow", "undone", "[I", true)
  | 5 => ("RoseThrow", "undoneWhat", "[I", true)
  | 6 => ("RoseThrow", "aheadUndone", "[I", true)
  | 7 => ("RoseThrow", "aheadWhat", "[I", true)
  | 8 => ("RoseThrow", "ahead", "[I", true)
  | 9 => ("RoseThrow", "aheadBelief", "[I", true)
  | 10 => ("RoseThrow", "tape", "[B", true)
  | 11 => ("RoseThrow", "taped", "I", false)
  | 12 => ("RoseThrow", "fault", "I", false)
  | 13 => ("RoseThrow", "rice", "I", false)
  | 14 => ("RoseThrow", "stopped", "I", false)
  | 15 => ("RoseThrow", "undoMany", "I", false)
  | 16 => ("RoseThrow", "setting", "LRoseThrow$Setting;", true)
  | 17 => ("RoseThrow", "flight", "LRoseThrow$Flight;", true)
  | 18 => ("RoseThrow", "flights", "[LRoseThrow$Flight;", true)
  | 19 => ("RoseThrow", "grips", "[I", true)
  | 20 => ("RoseThrow", "crowded", "I", false)
  | 21 => ("RoseThrow", "paper", "[I", true)
  | 22 => ("RoseThrow", "bestUpper", "J", false)
  | 23 => ("RoseThrow", "bestLower", "J", false)
  | 24 => ("RoseThrow", "drawnHad", "[I", true)
  | 25 => ("RoseThrow", "drawnWed", "[I", true)
  | 26 => ("RoseThrow", "drawnMany", "I", false)
  | _ => ("RoseThrow", "drawn", "I", false)
def tyX0 : Nat → FieldType := fun k => match k with
  | 0 => .int
  | 1 => .array .int
  | 2 => .object "RoseThrow$State"
  | 3 => .array (.object "RoseThrow$State")
  | 4 => .array .int
  | 5 => .array .int
  | 6 => .array .int
  | 7 => .array .int
  | 8 => .array .int
  | 9 => .array .int
  | 10 => .array .byte
  | 11 => .int
  | 12 => .int
  | 13 => .int
  | 14 => .int
  | 15 => .int
  | 16 => .object "RoseThrow$Setting"
  | 17 => .object "RoseThrow$Flight"
  | 18 => .array (.object "RoseThrow$Flight")
  | 19 => .array .int
  | 20 => .int
  | 21 => .array .int
  | 22 => .long
  | 23 => .long
  | 24 => .array .int
  | 25 => .array .int
  | 26 => .int
  | _ => .int
abbrev wsX00 : List Cond := u_ws RX0 TX0 28
set_option maxRecDepth 100000 in
theorem nmX0 : ∀ a, a < 28 → ∀ b, b < 28 → a ≠ b → (TX0 a).2.1 ≠ (TX0 b).2.1 := by decide +kernel
set_option maxRecDepth 100000 in
theorem tyX0_ok : ∀ k, k < 28 → parseFieldDescriptor (TX0 k).2.2.1 = some (tyX0 k) := by decide +kernel
abbrev cX0_init : ByteArray := prog_1_method_1_code
def yX0_init : MethodName := ⟨RX0, "<init>", "()V"⟩
def dkwX0_init_6 : List UInt8 := [188, 10, 181, 0, 76, 42, 16, 6, 188, 10, 181, 0, 79, 42, 16, 6, 188, 10, 181, 0, 82, 177]
abbrev dktX0_init_6 : List UInt8 := dkwX0_init_6 ++ []
def dkwX0_init_5 : List UInt8 := [181, 0, 65, 42, 16, 25, 189, 0, 60, 181, 0, 69, 42, 16, 66, 188, 10, 181, 0, 73, 42, 16, 6]
abbrev dktX0_init_5 : List UInt8 := dkwX0_init_5 ++ dktX0_init_6
def dkwX0_init_4 : List UInt8 := [181, 0, 50, 42, 187, 0, 53, 89, 183, 0, 55, 181, 0, 56, 42, 187, 0, 60, 89, 42, 183, 0, 62]
abbrev dktX0_init_4 : List UInt8 := dkwX0_init_4 ++ dktX0_init_5
def dkwX0_init_3 : List UInt8 := [16, 6, 188, 10, 181, 0, 39, 42, 17, 1, 144, 188, 8, 181, 0, 42, 42, 2, 181, 0, 46, 42, 2]
abbrev dktX0_init_3 : List UInt8 := dkwX0_init_3 ++ dktX0_init_4
def dkwX0_init_2 : List UInt8 := [16, 96, 188, 10, 181, 0, 30, 42, 16, 16, 188, 10, 181, 0, 33, 42, 16, 6, 188, 10, 181, 0, 36, 42]
abbrev dktX0_init_2 : List UInt8 := dkwX0_init_2 ++ dktX0_init_3
def dkwX0_init_1 : List UInt8 := [5, 189, 0, 13, 181, 0, 20, 42, 16, 96, 188, 10, 181, 0, 24, 42, 16, 16, 188, 10, 181, 0, 27, 42]
abbrev dktX0_init_1 : List UInt8 := dkwX0_init_1 ++ dktX0_init_2
def dkwX0_init_0 : List UInt8 := [42, 183, 0, 1, 42, 16, 7, 188, 10, 181, 0, 7, 42, 187, 0, 13, 89, 183, 0, 15, 181, 0, 16, 42]
abbrev dktX0_init_0 : List UInt8 := dkwX0_init_0 ++ dktX0_init_1
theorem dksX0_init_0 : cX0_init.data.toList.drop 0 = dktX0_init_0 := by decide +kernel
theorem dksX0_init_1 : cX0_init.data.toList.drop 24 = dktX0_init_1 := dk_seg dksX0_init_0 24 rfl rfl
theorem dksX0_init_2 : cX0_init.data.toList.drop 48 = dktX0_init_2 := dk_seg dksX0_init_1 24 rfl rfl
theorem dksX0_init_3 : cX0_init.data.toList.drop 72 = dktX0_init_3 := dk_seg dksX0_init_2 24 rfl rfl
theorem dksX0_init_4 : cX0_init.data.toList.drop 95 = dktX0_init_4 := dk_seg dksX0_init_3 23 rfl rfl
theorem dksX0_init_5 : cX0_init.data.toList.drop 118 = dktX0_init_5 := dk_seg dksX0_init_4 23 rfl rfl
theorem dksX0_init_6 : cX0_init.data.toList.drop 141 = dktX0_init_6 := dk_seg dksX0_init_5 23 rfl rfl
theorem dX0_init_0 : decode cX0_init 0 = .ok (.aload_n 0, 1) := dk_42 (dk_at dksX0_init_0 0 rfl rfl)
theorem dX0_init_1 : decode cX0_init 1 = .ok (.invokespecial 1, 3) := dk_183 0 1 (dk_at dksX0_init_0 1 rfl rfl)
theorem dX0_init_4 : decode cX0_init 4 = .ok (.aload_n 0, 1) := dk_42 (dk_at dksX0_init_0 4 rfl rfl)
theorem dX0_init_5 : decode cX0_init 5 = .ok (.bipush 7, 2) := dk_16 7 (dk_at dksX0_init_0 5 rfl rfl)
theorem dX0_init_7 : decode cX0_init 7 = .ok (.newarray .int, 2) := dk_188_10 (dk_at dksX0_init_0 7 rfl rfl)
theorem dX0_init_9 : decode cX0_init 9 = .ok (.putfield 7, 3) := dk_181 0 7 (dk_at dksX0_init_0 9 rfl rfl)
theorem dX0_init_12 : decode cX0_init 12 = .ok (.aload_n 0, 1) := dk_42 (dk_at dksX0_init_0 12 rfl rfl)
theorem dX0_init_13 : decode cX0_init 13 = .ok (.new 13, 3) := dk_187 0 13 (dk_at dksX0_init_0 13 rfl rfl)
theorem dX0_init_16 : decode cX0_init 16 = .ok (.dup, 1) := dk_89 (dk_at dksX0_init_0 16 rfl rfl)
theorem dX0_init_17 : decode cX0_init 17 = .ok (.invokespecial 15, 3) := dk_183 0 15 (dk_at dksX0_init_0 17 rfl rfl)
theorem dX0_init_20 : decode cX0_init 20 = .ok (.putfield 16, 3) := dk_181 0 16 (dk_at dksX0_init_0 20 rfl rfl)
theorem dX0_init_23 : decode cX0_init 23 = .ok (.aload_n 0, 1) := dk_42 (dk_at dksX0_init_0 23 rfl rfl)
theorem dX0_init_24 : decode cX0_init 24 = .ok (.iconst 2, 1) := dk_5 (dk_at dksX0_init_1 0 rfl rfl)
theorem dX0_init_25 : decode cX0_init 25 = .ok (.anewarray 13, 3) := dk_189 0 13 (dk_at dksX0_init_1 1 rfl rfl)
theorem dX0_init_28 : decode cX0_init 28 = .ok (.putfield 20, 3) := dk_181 0 20 (dk_at dksX0_init_1 4 rfl rfl)
theorem dX0_init_31 : decode cX0_init 31 = .ok (.aload_n 0, 1) := dk_42 (dk_at dksX0_init_1 7 rfl rfl)
theorem dX0_init_32 : decode cX0_init 32 = .ok (.bipush 96, 2) := dk_16 96 (dk_at dksX0_init_1 8 rfl rfl)
theorem dX0_init_34 : decode cX0_init 34 = .ok (.newarray .int, 2) := dk_188_10 (dk_at dksX0_init_1 10 rfl rfl)
theorem dX0_init_36 : decode cX0_init 36 = .ok (.putfield 24, 3) := dk_181 0 24 (dk_at dksX0_init_1 12 rfl rfl)
theorem dX0_init_39 : decode cX0_init 39 = .ok (.aload_n 0, 1) := dk_42 (dk_at dksX0_init_1 15 rfl rfl)
theorem dX0_init_40 : decode cX0_init 40 = .ok (.bipush 16, 2) := dk_16 16 (dk_at dksX0_init_1 16 rfl rfl)
theorem dX0_init_42 : decode cX0_init 42 = .ok (.newarray .int, 2) := dk_188_10 (dk_at dksX0_init_1 18 rfl rfl)
theorem dX0_init_44 : decode cX0_init 44 = .ok (.putfield 27, 3) := dk_181 0 27 (dk_at dksX0_init_1 20 rfl rfl)
theorem dX0_init_47 : decode cX0_init 47 = .ok (.aload_n 0, 1) := dk_42 (dk_at dksX0_init_1 23 rfl rfl)
theorem dX0_init_48 : decode cX0_init 48 = .ok (.bipush 96, 2) := dk_16 96 (dk_at dksX0_init_2 0 rfl rfl)
theorem dX0_init_50 : decode cX0_init 50 = .ok (.newarray .int, 2) := dk_188_10 (dk_at dksX0_init_2 2 rfl rfl)
theorem dX0_init_52 : decode cX0_init 52 = .ok (.putfield 30, 3) := dk_181 0 30 (dk_at dksX0_init_2 4 rfl rfl)
theorem dX0_init_55 : decode cX0_init 55 = .ok (.aload_n 0, 1) := dk_42 (dk_at dksX0_init_2 7 rfl rfl)
theorem dX0_init_56 : decode cX0_init 56 = .ok (.bipush 16, 2) := dk_16 16 (dk_at dksX0_init_2 8 rfl rfl)
theorem dX0_init_58 : decode cX0_init 58 = .ok (.newarray .int, 2) := dk_188_10 (dk_at dksX0_init_2 10 rfl rfl)
theorem dX0_init_60 : decode cX0_init 60 = .ok (.putfield 33, 3) := dk_181 0 33 (dk_at dksX0_init_2 12 rfl rfl)
theorem dX0_init_63 : decode cX0_init 63 = .ok (.aload_n 0, 1) := dk_42 (dk_at dksX0_init_2 15 rfl rfl)
theorem dX0_init_64 : decode cX0_init 64 = .ok (.bipush 6, 2) := dk_16 6 (dk_at dksX0_init_2 16 rfl rfl)
theorem dX0_init_66 : decode cX0_init 66 = .ok (.newarray .int, 2) := dk_188_10 (dk_at dksX0_init_2 18 rfl rfl)
theorem dX0_init_68 : decode cX0_init 68 = .ok (.putfield 36, 3) := dk_181 0 36 (dk_at dksX0_init_2 20 rfl rfl)
theorem dX0_init_71 : decode cX0_init 71 = .ok (.aload_n 0, 1) := dk_42 (dk_at dksX0_init_2 23 rfl rfl)
theorem dX0_init_72 : decode cX0_init 72 = .ok (.bipush 6, 2) := dk_16 6 (dk_at dksX0_init_3 0 rfl rfl)
theorem dX0_init_74 : decode cX0_init 74 = .ok (.newarray .int, 2) := dk_188_10 (dk_at dksX0_init_3 2 rfl rfl)
theorem dX0_init_76 : decode cX0_init 76 = .ok (.putfield 39, 3) := dk_181 0 39 (dk_at dksX0_init_3 4 rfl rfl)
theorem dX0_init_79 : decode cX0_init 79 = .ok (.aload_n 0, 1) := dk_42 (dk_at dksX0_init_3 7 rfl rfl)
theorem dX0_init_80 : decode cX0_init 80 = .ok (.sipush 400, 3) := dk_17 1 144 (dk_at dksX0_init_3 8 rfl rfl)
theorem dX0_init_83 : decode cX0_init 83 = .ok (.newarray .byte, 2) := dk_188_8 (dk_at dksX0_init_3 11 rfl rfl)
theorem dX0_init_85 : decode cX0_init 85 = .ok (.putfield 42, 3) := dk_181 0 42 (dk_at dksX0_init_3 13 rfl rfl)
theorem dX0_init_88 : decode cX0_init 88 = .ok (.aload_n 0, 1) := dk_42 (dk_at dksX0_init_3 16 rfl rfl)
theorem dX0_init_89 : decode cX0_init 89 = .ok (.iconst (-1), 1) := dk_2 (dk_at dksX0_init_3 17 rfl rfl)
theorem dX0_init_90 : decode cX0_init 90 = .ok (.putfield 46, 3) := dk_181 0 46 (dk_at dksX0_init_3 18 rfl rfl)
theorem dX0_init_93 : decode cX0_init 93 = .ok (.aload_n 0, 1) := dk_42 (dk_at dksX0_init_3 21 rfl rfl)
theorem dX0_init_94 : decode cX0_init 94 = .ok (.iconst (-1), 1) := dk_2 (dk_at dksX0_init_3 22 rfl rfl)
theorem dX0_init_95 : decode cX0_init 95 = .ok (.putfield 50, 3) := dk_181 0 50 (dk_at dksX0_init_4 0 rfl rfl)
theorem dX0_init_98 : decode cX0_init 98 = .ok (.aload_n 0, 1) := dk_42 (dk_at dksX0_init_4 3 rfl rfl)
theorem dX0_init_99 : decode cX0_init 99 = .ok (.new 53, 3) := dk_187 0 53 (dk_at dksX0_init_4 4 rfl rfl)
theorem dX0_init_102 : decode cX0_init 102 = .ok (.dup, 1) := dk_89 (dk_at dksX0_init_4 7 rfl rfl)
theorem dX0_init_103 : decode cX0_init 103 = .ok (.invokespecial 55, 3) := dk_183 0 55 (dk_at dksX0_init_4 8 rfl rfl)
theorem dX0_init_106 : decode cX0_init 106 = .ok (.putfield 56, 3) := dk_181 0 56 (dk_at dksX0_init_4 11 rfl rfl)
theorem dX0_init_109 : decode cX0_init 109 = .ok (.aload_n 0, 1) := dk_42 (dk_at dksX0_init_4 14 rfl rfl)
theorem dX0_init_110 : decode cX0_init 110 = .ok (.new 60, 3) := dk_187 0 60 (dk_at dksX0_init_4 15 rfl rfl)
theorem dX0_init_113 : decode cX0_init 113 = .ok (.dup, 1) := dk_89 (dk_at dksX0_init_4 18 rfl rfl)
theorem dX0_init_114 : decode cX0_init 114 = .ok (.aload_n 0, 1) := dk_42 (dk_at dksX0_init_4 19 rfl rfl)
theorem dX0_init_115 : decode cX0_init 115 = .ok (.invokespecial 62, 3) := dk_183 0 62 (dk_at dksX0_init_4 20 rfl rfl)
theorem dX0_init_118 : decode cX0_init 118 = .ok (.putfield 65, 3) := dk_181 0 65 (dk_at dksX0_init_5 0 rfl rfl)
theorem dX0_init_121 : decode cX0_init 121 = .ok (.aload_n 0, 1) := dk_42 (dk_at dksX0_init_5 3 rfl rfl)
theorem dX0_init_122 : decode cX0_init 122 = .ok (.bipush 25, 2) := dk_16 25 (dk_at dksX0_init_5 4 rfl rfl)
theorem dX0_init_124 : decode cX0_init 124 = .ok (.anewarray 60, 3) := dk_189 0 60 (dk_at dksX0_init_5 6 rfl rfl)
theorem dX0_init_127 : decode cX0_init 127 = .ok (.putfield 69, 3) := dk_181 0 69 (dk_at dksX0_init_5 9 rfl rfl)
theorem dX0_init_130 : decode cX0_init 130 = .ok (.aload_n 0, 1) := dk_42 (dk_at dksX0_init_5 12 rfl rfl)
theorem dX0_init_131 : decode cX0_init 131 = .ok (.bipush 66, 2) := dk_16 66 (dk_at dksX0_init_5 13 rfl rfl)
theorem dX0_init_133 : decode cX0_init 133 = .ok (.newarray .int, 2) := dk_188_10 (dk_at dksX0_init_5 15 rfl rfl)
theorem dX0_init_135 : decode cX0_init 135 = .ok (.putfield 73, 3) := dk_181 0 73 (dk_at dksX0_init_5 17 rfl rfl)
theorem dX0_init_138 : decode cX0_init 138 = .ok (.aload_n 0, 1) := dk_42 (dk_at dksX0_init_5 20 rfl rfl)
theorem dX0_init_139 : decode cX0_init 139 = .ok (.bipush 6, 2) := dk_16 6 (dk_at dksX0_init_5 21 rfl rfl)
theorem dX0_init_141 : decode cX0_init 141 = .ok (.newarray .int, 2) := dk_188_10 (dk_at dksX0_init_6 0 rfl rfl)
theorem dX0_init_143 : decode cX0_init 143 = .ok (.putfield 76, 3) := dk_181 0 76 (dk_at dksX0_init_6 2 rfl rfl)
theorem dX0_init_146 : decode cX0_init 146 = .ok (.aload_n 0, 1) := dk_42 (dk_at dksX0_init_6 5 rfl rfl)
theorem dX0_init_147 : decode cX0_init 147 = .ok (.bipush 6, 2) := dk_16 6 (dk_at dksX0_init_6 6 rfl rfl)
theorem dX0_init_149 : decode cX0_init 149 = .ok (.newarray .int, 2) := dk_188_10 (dk_at dksX0_init_6 8 rfl rfl)
theorem dX0_init_151 : decode cX0_init 151 = .ok (.putfield 79, 3) := dk_181 0 79 (dk_at dksX0_init_6 10 rfl rfl)
theorem dX0_init_154 : decode cX0_init 154 = .ok (.aload_n 0, 1) := dk_42 (dk_at dksX0_init_6 13 rfl rfl)
theorem dX0_init_155 : decode cX0_init 155 = .ok (.bipush 6, 2) := dk_16 6 (dk_at dksX0_init_6 14 rfl rfl)
theorem dX0_init_157 : decode cX0_init 157 = .ok (.newarray .int, 2) := dk_188_10 (dk_at dksX0_init_6 16 rfl rfl)
theorem dX0_init_159 : decode cX0_init 159 = .ok (.putfield 82, 3) := dk_181 0 82 (dk_at dksX0_init_6 18 rfl rfl)
theorem dX0_init_162 : decode cX0_init 162 = .ok (.return_, 1) := dk_177 (dk_at dksX0_init_6 21 rfl rfl)
abbrev cX0_image : ByteArray := prog_1_method_16_code
def yX0_image : MethodName := ⟨RX0, "image", "(I)I"⟩
def dkwX0_image_2 : List UInt8 := [182, 0, 127, 42, 3, 182, 0, 115, 172]
abbrev dktX0_image_2 : List UInt8 := dkwX0_image_2 ++ []
def dkwX0_image_1 : List UInt8 := [42, 180, 0, 20, 27, 187, 0, 13, 89, 183, 0, 15, 83, 42, 180, 0, 20, 27, 50, 42, 180, 0, 16]
abbrev dktX0_image_1 : List UInt8 := dkwX0_image_1 ++ dktX0_image_2
def dkwX0_image_0 : List UInt8 := [27, 3, 4, 184, 0, 97, 154, 0, 9, 42, 2, 182, 0, 124, 172, 42, 180, 0, 20, 27, 50, 199, 0, 16]
abbrev dktX0_image_0 : List UInt8 := dkwX0_image_0 ++ dktX0_image_1
theorem dksX0_image_0 : cX0_image.data.toList.drop 0 = dktX0_image_0 := by decide +kernel
theorem dksX0_image_1 : cX0_image.data.toList.drop 24 = dktX0_image_1 := dk_seg dksX0_image_0 24 rfl rfl
theorem dksX0_image_2 : cX0_image.data.toList.drop 47 = dktX0_image_2 := dk_seg dksX0_image_1 23 rfl rfl
theorem dX0_image_0 : decode cX0_image 0 = .ok (.iload_n 1, 1) := dk_27 (dk_at dksX0_image_0 0 rfl rfl)
theorem dX0_image_1 : decode cX0_image 1 = .ok (.iconst 0, 1) := dk_3 (dk_at dksX0_image_0 1 rfl rfl)
theorem dX0_image_2 : decode cX0_image 2 = .ok (.iconst 1, 1) := dk_4 (dk_at dksX0_image_0 2 rfl rfl)
theorem dX0_image_3 : decode cX0_image 3 = .ok (.invokestatic 97, 3) := dk_184 0 97 (dk_at dksX0_image_0 3 rfl rfl)
theorem dX0_image_6 : decode cX0_image 6 = .ok (.ifCond .ne 9, 3) := dk_154 0 9 (dk_at dksX0_image_0 6 rfl rfl)
theorem dX0_image_9 : decode cX0_image 9 = .ok (.aload_n 0, 1) := dk_42 (dk_at dksX0_image_0 9 rfl rfl)
theorem dX0_image_10 : decode cX0_image 10 = .ok (.iconst (-1), 1) := dk_2 (dk_at dksX0_image_0 10 rfl rfl)
theorem dX0_image_11 : decode cX0_image 11 = .ok (.invokevirtual 124, 3) := dk_182 0 124 (dk_at dksX0_image_0 11 rfl rfl)
theorem dX0_image_14 : decode cX0_image 14 = .ok (.ireturn, 1) := dk_172 (dk_at dksX0_image_0 14 rfl rfl)
theorem dX0_image_15 : decode cX0_image 15 = .ok (.aload_n 0, 1) := dk_42 (dk_at dksX0_image_0 15 rfl rfl)
theorem dX0_image_16 : decode cX0_image 16 = .ok (.getfield 20, 3) := dk_180 0 20 (dk_at dksX0_image_0 16 rfl rfl)
theorem dX0_image_19 : decode cX0_image 19 = .ok (.iload_n 1, 1) := dk_27 (dk_at dksX0_image_0 19 rfl rfl)
theorem dX0_image_20 : decode cX0_image 20 = .ok (.aaload, 1) := dk_50 (dk_at dksX0_image_0 20 rfl rfl)
theorem dX0_image_21 : decode cX0_image 21 = .ok (.ifnonnull 16, 3) := dk_199 0 16 (dk_at dksX0_image_0 21 rfl rfl)
theorem dX0_image_24 : decode cX0_image 24 = .ok (.aload_n 0, 1) := dk_42 (dk_at dksX0_image_1 0 rfl rfl)
theorem dX0_image_25 : decode cX0_image 25 = .ok (.getfield 20, 3) := dk_180 0 20 (dk_at dksX0_image_1 1 rfl rfl)
theorem dX0_image_28 : decode cX0_image 28 = .ok (.iload_n 1, 1) := dk_27 (dk_at dksX0_image_1 4 rfl rfl)
theorem dX0_image_29 : decode cX0_image 29 = .ok (.new 13, 3) := dk_187 0 13 (dk_at dksX0_image_1 5 rfl rfl)
theorem dX0_image_32 : decode cX0_image 32 = .ok (.dup, 1) := dk_89 (dk_at dksX0_image_1 8 rfl rfl)
theorem dX0_image_33 : decode cX0_image 33 = .ok (.invokespecial 15, 3) := dk_183 0 15 (dk_at dksX0_image_1 9 rfl rfl)
theorem dX0_image_36 : decode cX0_image 36 = .ok (.aastore, 1) := dk_83 (dk_at dksX0_image_1 12 rfl rfl)
theorem dX0_image_37 : decode cX0_image 37 = .ok (.aload_n 0, 1) := dk_42 (dk_at dksX0_image_1 13 rfl rfl)
theorem dX0_image_38 : decode cX0_image 38 = .ok (.getfield 20, 3) := dk_180 0 20 (dk_at dksX0_image_1 14 rfl rfl)
theorem dX0_image_41 : decode cX0_image 41 = .ok (.iload_n 1, 1) := dk_27 (dk_at dksX0_image_1 17 rfl rfl)
theorem dX0_image_42 : decode cX0_image 42 = .ok (.aaload, 1) := dk_50 (dk_at dksX0_image_1 18 rfl rfl)
theorem dX0_image_43 : decode cX0_image 43 = .ok (.aload_n 0, 1) := dk_42 (dk_at dksX0_image_1 19 rfl rfl)
theorem dX0_image_44 : decode cX0_image 44 = .ok (.getfield 16, 3) := dk_180 0 16 (dk_at dksX0_image_1 20 rfl rfl)
theorem dX0_image_47 : decode cX0_image 47 = .ok (.invokevirtual 127, 3) := dk_182 0 127 (dk_at dksX0_image_2 0 rfl rfl)
theorem dX0_image_50 : decode cX0_image 50 = .ok (.aload_n 0, 1) := dk_42 (dk_at dksX0_image_2 3 rfl rfl)
theorem dX0_image_51 : decode cX0_image 51 = .ok (.iconst 0, 1) := dk_3 (dk_at dksX0_image_2 4 rfl rfl)
theorem dX0_image_52 : decode cX0_image 52 = .ok (.invokevirtual 115, 3) := dk_182 0 115 (dk_at dksX0_image_2 5 rfl rfl)
theorem dX0_image_55 : decode cX0_image 55 = .ok (.ireturn, 1) := dk_172 (dk_at dksX0_image_2 8 rfl rfl)
abbrev cX0_in : ByteArray := prog_1_method_4_code
def yX0_in : MethodName := ⟨RX0, "in", "(III)Z"⟩
def dkwX0_in_0 : List UInt8 := [26, 27, 161, 0, 12, 26, 28, 163, 0, 7, 4, 167, 0, 4, 3, 172]
abbrev dktX0_in_0 : List UInt8 := dkwX0_in_0 ++ []
theorem dksX0_in_0 : cX0_in.data.toList.drop 0 = dktX0_in_0 := by decide +kernel
theorem dX0_in_0 : decode cX0_in 0 = .ok (.iload_n 0, 1) := dk_26 (dk_at dksX0_in_0 0 rfl rfl)
theorem dX0_in_1 : decode cX0_in 1 = .ok (.iload_n 1, 1) := dk_27 (dk_at dksX0_in_0 1 rfl rfl)
theorem dX0_in_2 : decode cX0_in 2 = .ok (.if_icmp .lt 12, 3) := dk_161 0 12 (dk_at dksX0_in_0 2 rfl rfl)
theorem dX0_in_5 : decode cX0_in 5 = .ok (.iload_n 0, 1) := dk_26 (dk_at dksX0_in_0 5 rfl rfl)
theorem dX0_in_6 : decode cX0_in 6 = .ok (.iload_n 2, 1) := dk_28 (dk_at dksX0_in_0 6 rfl rfl)
theorem dX0_in_7 : decode cX0_in 7 = .ok (.if_icmp .gt 7, 3) := dk_163 0 7 (dk_at dksX0_in_0 7 rfl rfl)
theorem dX0_in_10 : decode cX0_in 10 = .ok (.iconst 1, 1) := dk_4 (dk_at dksX0_in_0 10 rfl rfl)
theorem dX0_in_11 : decode cX0_in 11 = .ok (.goto 4, 3) := dk_167 0 4 (dk_at dksX0_in_0 11 rfl rfl)
theorem dX0_in_14 : decode cX0_in 14 = .ok (.iconst 0, 1) := dk_3 (dk_at dksX0_in_0 14 rfl rfl)
theorem dX0_in_15 : decode cX0_in 15 = .ok (.ireturn, 1) := dk_172 (dk_at dksX0_in_0 15 rfl rfl)
abbrev cX0_refuse : ByteArray := prog_1_method_2_code
def yX0_refuse : MethodName := ⟨RX0, "refuse", "(I)I"⟩
def dkwX0_refuse_0 : List UInt8 := [42, 27, 181, 0, 85, 42, 180, 0, 7, 27, 116, 92, 46, 4, 96, 79, 27, 172]
abbrev dktX0_refuse_0 : List UInt8 := dkwX0_refuse_0 ++ []
theorem dksX0_refuse_0 : cX0_refuse.data.toList.drop 0 = dktX0_refuse_0 := by decide +kernel
theorem dX0_refuse_0 : decode cX0_refuse 0 = .ok (.aload_n 0, 1) := dk_42 (dk_at dksX0_refuse_0 0 rfl rfl)
theorem dX0_refuse_1 : decode cX0_refuse 1 = .ok (.iload_n 1, 1) := dk_27 (dk_at dksX0_refuse_0 1 rfl rfl)
theorem dX0_refuse_2 : decode cX0_refuse 2 = .ok (.putfield 85, 3) := dk_181 0 85 (dk_at dksX0_refuse_0 2 rfl rfl)
theorem dX0_refuse_5 : decode cX0_refuse 5 = .ok (.aload_n 0, 1) := dk_42 (dk_at dksX0_refuse_0 5 rfl rfl)
theorem dX0_refuse_6 : decode cX0_refuse 6 = .ok (.getfield 7, 3) := dk_180 0 7 (dk_at dksX0_refuse_0 6 rfl rfl)
theorem dX0_refuse_9 : decode cX0_refuse 9 = .ok (.iload_n 1, 1) := dk_27 (dk_at dksX0_refuse_0 9 rfl rfl)
theorem dX0_refuse_10 : decode cX0_refuse 10 = .ok (.ineg, 1) := dk_116 (dk_at dksX0_refuse_0 10 rfl rfl)
theorem dX0_refuse_11 : decode cX0_refuse 11 = .ok (.dup2, 1) := dk_92 (dk_at dksX0_refuse_0 11 rfl rfl)
theorem dX0_refuse_12 : decode cX0_refuse 12 = .ok (.iaload, 1) := dk_46 (dk_at dksX0_refuse_0 12 rfl rfl)
theorem dX0_refuse_13 : decode cX0_refuse 13 = .ok (.iconst 1, 1) := dk_4 (dk_at dksX0_refuse_0 13 rfl rfl)
theorem dX0_refuse_14 : decode cX0_refuse 14 = .ok (.iadd, 1) := dk_96 (dk_at dksX0_refuse_0 14 rfl rfl)
theorem dX0_refuse_15 : decode cX0_refuse 15 = .ok (.iastore, 1) := dk_79 (dk_at dksX0_refuse_0 15 rfl rfl)
theorem dX0_refuse_16 : decode cX0_refuse 16 = .ok (.iload_n 1, 1) := dk_27 (dk_at dksX0_refuse_0 16 rfl rfl)
theorem dX0_refuse_17 : decode cX0_refuse 17 = .ok (.ireturn, 1) := dk_172 (dk_at dksX0_refuse_0 17 rfl rfl)
abbrev cX0_done : ByteArray := prog_1_method_3_code
def yX0_done : MethodName := ⟨RX0, "done", "(I)I"⟩
def dkwX0_done_0 : List UInt8 := [42, 3, 181, 0, 85, 27, 172]
abbrev dktX0_done_0 : List UInt8 := dkwX0_done_0 ++ []
theorem dksX0_done_0 : cX0_done.data.toList.drop 0 = dktX0_done_0 := by decide +kernel
theorem dX0_done_0 : decode cX0_done 0 = .ok (.aload_n 0, 1) := dk_42 (dk_at dksX0_done_0 0 rfl rfl)
theorem dX0_done_1 : decode cX0_done 1 = .ok (.iconst 0, 1) := dk_3 (dk_at dksX0_done_0 1 rfl rfl)
theorem dX0_done_2 : decode cX0_done 2 = .ok (.putfield 85, 3) := dk_181 0 85 (dk_at dksX0_done_0 2 rfl rfl)
theorem dX0_done_5 : decode cX0_done 5 = .ok (.iload_n 1, 1) := dk_27 (dk_at dksX0_done_0 5 rfl rfl)
theorem dX0_done_6 : decode cX0_done 6 = .ok (.ireturn, 1) := dk_172 (dk_at dksX0_done_0 6 rfl rfl)
abbrev cX0_back : ByteArray := prog_1_method_17_code
def yX0_back : MethodName := ⟨RX0, "back", "(I)I"⟩
def dkwX0_back_2 : List UInt8 := [182, 0, 131, 172]
abbrev dktX0_back_2 : List UInt8 := dkwX0_back_2 ++ []
def dkwX0_back_1 : List UInt8 := [42, 16, 254, 182, 0, 124, 172, 42, 180, 0, 16, 42, 180, 0, 20, 27, 50, 182, 0, 127, 42, 3]
abbrev dktX0_back_1 : List UInt8 := dkwX0_back_1 ++ dktX0_back_2
def dkwX0_back_0 : List UInt8 := [27, 3, 4, 184, 0, 97, 154, 0, 9, 42, 2, 182, 0, 124, 172, 42, 180, 0, 20, 27, 50, 199, 0, 10]
abbrev dktX0_back_0 : List UInt8 := dkwX0_back_0 ++ dktX0_back_1
theorem dksX0_back_0 : cX0_back.data.toList.drop 0 = dktX0_back_0 := by decide +kernel
theorem dksX0_back_1 : cX0_back.data.toList.drop 24 = dktX0_back_1 := dk_seg dksX0_back_0 24 rfl rfl
theorem dksX0_back_2 : cX0_back.data.toList.drop 46 = dktX0_back_2 := dk_seg dksX0_back_1 22 rfl rfl
theorem dX0_back_0 : decode cX0_back 0 = .ok (.iload_n 1, 1) := dk_27 (dk_at dksX0_back_0 0 rfl rfl)
theorem dX0_back_1 : decode cX0_back 1 = .ok (.iconst 0, 1) := dk_3 (dk_at dksX0_back_0 1 rfl rfl)
theorem dX0_back_2 : decode cX0_back 2 = .ok (.iconst 1, 1) := dk_4 (dk_at dksX0_back_0 2 rfl rfl)
theorem dX0_back_3 : decode cX0_back 3 = .ok (.invokestatic 97, 3) := dk_184 0 97 (dk_at dksX0_back_0 3 rfl rfl)
theorem dX0_back_6 : decode cX0_back 6 = .ok (.ifCond .ne 9, 3) := dk_154 0 9 (dk_at dksX0_back_0 6 rfl rfl)
theorem dX0_back_9 : decode cX0_back 9 = .ok (.aload_n 0, 1) := dk_42 (dk_at dksX0_back_0 9 rfl rfl)
theorem dX0_back_10 : decode cX0_back 10 = .ok (.iconst (-1), 1) := dk_2 (dk_at dksX0_back_0 10 rfl rfl)
theorem dX0_back_11 : decode cX0_back 11 = .ok (.invokevirtual 124, 3) := dk_182 0 124 (dk_at dksX0_back_0 11 rfl rfl)
theorem dX0_back_14 : decode cX0_back 14 = .ok (.ireturn, 1) := dk_172 (dk_at dksX0_back_0 14 rfl rfl)
theorem dX0_back_15 : decode cX0_back 15 = .ok (.aload_n 0, 1) := dk_42 (dk_at dksX0_back_0 15 rfl rfl)
theorem dX0_back_16 : decode cX0_back 16 = .ok (.getfield 20, 3) := dk_180 0 20 (dk_at dksX0_back_0 16 rfl rfl)
theorem dX0_back_19 : decode cX0_back 19 = .ok (.iload_n 1, 1) := dk_27 (dk_at dksX0_back_0 19 rfl rfl)
theorem dX0_back_20 : decode cX0_back 20 = .ok (.aaload, 1) := dk_50 (dk_at dksX0_back_0 20 rfl rfl)
theorem dX0_back_21 : decode cX0_back 21 = .ok (.ifnonnull 10, 3) := dk_199 0 10 (dk_at dksX0_back_0 21 rfl rfl)
theorem dX0_back_24 : decode cX0_back 24 = .ok (.aload_n 0, 1) := dk_42 (dk_at dksX0_back_1 0 rfl rfl)
theorem dX0_back_25 : decode cX0_back 25 = .ok (.bipush (-2), 2) := dk_16 254 (dk_at dksX0_back_1 1 rfl rfl)
theorem dX0_back_27 : decode cX0_back 27 = .ok (.invokevirtual 124, 3) := dk_182 0 124 (dk_at dksX0_back_1 3 rfl rfl)
theorem dX0_back_30 : decode cX0_back 30 = .ok (.ireturn, 1) := dk_172 (dk_at dksX0_back_1 6 rfl rfl)
theorem dX0_back_31 : decode cX0_back 31 = .ok (.aload_n 0, 1) := dk_42 (dk_at dksX0_back_1 7 rfl rfl)
theorem dX0_back_32 : decode cX0_back 32 = .ok (.getfield 16, 3) := dk_180 0 16 (dk_at dksX0_back_1 8 rfl rfl)
theorem dX0_back_35 : decode cX0_back 35 = .ok (.aload_n 0, 1) := dk_42 (dk_at dksX0_back_1 11 rfl rfl)
theorem dX0_back_36 : decode cX0_back 36 = .ok (.getfield 20, 3) := dk_180 0 20 (dk_at dksX0_back_1 12 rfl rfl)
theorem dX0_back_39 : decode cX0_back 39 = .ok (.iload_n 1, 1) := dk_27 (dk_at dksX0_back_1 15 rfl rfl)
theorem dX0_back_40 : decode cX0_back 40 = .ok (.aaload, 1) := dk_50 (dk_at dksX0_back_1 16 rfl rfl)
theorem dX0_back_41 : decode cX0_back 41 = .ok (.invokevirtual 127, 3) := dk_182 0 127 (dk_at dksX0_back_1 17 rfl rfl)
theorem dX0_back_44 : decode cX0_back 44 = .ok (.aload_n 0, 1) := dk_42 (dk_at dksX0_back_1 20 rfl rfl)
theorem dX0_back_45 : decode cX0_back 45 = .ok (.iconst 0, 1) := dk_3 (dk_at dksX0_back_1 21 rfl rfl)
theorem dX0_back_46 : decode cX0_back 46 = .ok (.invokevirtual 131, 3) := dk_182 0 131 (dk_at dksX0_back_2 0 rfl rfl)
theorem dX0_back_49 : decode cX0_back 49 = .ok (.ireturn, 1) := dk_172 (dk_at dksX0_back_2 3 rfl rfl)
abbrev cX0_settled : ByteArray := prog_1_method_12_code
def yX0_settled : MethodName := ⟨RX0, "settled", "(I)I"⟩
def dkwX0_settled_0 : List UInt8 := [42, 3, 181, 0, 112, 42, 27, 182, 0, 115, 172]
abbrev dktX0_settled_0 : List UInt8 := dkwX0_settled_0 ++ []
theorem dksX0_settled_0 : cX0_settled.data.toList.drop 0 = dktX0_settled_0 := by decide +kernel
theorem dX0_settled_0 : decode cX0_settled 0 = .ok (.aload_n 0, 1) := dk_42 (dk_at dksX0_settled_0 0 rfl rfl)
theorem dX0_settled_1 : decode cX0_settled 1 = .ok (.iconst 0, 1) := dk_3 (dk_at dksX0_settled_0 1 rfl rfl)
theorem dX0_settled_2 : decode cX0_settled 2 = .ok (.putfield 112, 3) := dk_181 0 112 (dk_at dksX0_settled_0 2 rfl rfl)
theorem dX0_settled_5 : decode cX0_settled 5 = .ok (.aload_n 0, 1) := dk_42 (dk_at dksX0_settled_0 5 rfl rfl)
theorem dX0_settled_6 : decode cX0_settled 6 = .ok (.iload_n 1, 1) := dk_27 (dk_at dksX0_settled_0 6 rfl rfl)
theorem dX0_settled_7 : decode cX0_settled 7 = .ok (.invokevirtual 115, 3) := dk_182 0 115 (dk_at dksX0_settled_0 7 rfl rfl)
theorem dX0_settled_10 : decode cX0_settled 10 = .ok (.ireturn, 1) := dk_172 (dk_at dksX0_settled_0 10 rfl rfl)
abbrev cX0_catcher : ByteArray := prog_1_method_20_code
def yX0_catcher : MethodName := ⟨RX0, "catcher", "(IIII)I"⟩
def dkwX0_catcher_1 : List UInt8 := [167, 0, 16, 42, 42, 180, 0, 16, 180, 0, 118, 4, 100, 182, 0, 131, 172]
abbrev dktX0_catcher_1 : List UInt8 := dkwX0_catcher_1 ++ []
def dkwX0_catcher_0 : List UInt8 := [42, 27, 28, 29, 21, 4, 182, 0, 165, 54, 5, 21, 5, 156, 0, 12, 42, 21, 5, 182, 0, 124]
abbrev dktX0_catcher_0 : List UInt8 := dkwX0_catcher_0 ++ dktX0_catcher_1
theorem dksX0_catcher_0 : cX0_catcher.data.toList.drop 0 = dktX0_catcher_0 := by decide +kernel
theorem dksX0_catcher_1 : cX0_catcher.data.toList.drop 22 = dktX0_catcher_1 := dk_seg dksX0_catcher_0 22 rfl rfl
theorem dX0_catcher_0 : decode cX0_catcher 0 = .ok (.aload_n 0, 1) := dk_42 (dk_at dksX0_catcher_0 0 rfl rfl)
theorem dX0_catcher_1 : decode cX0_catcher 1 = .ok (.iload_n 1, 1) := dk_27 (dk_at dksX0_catcher_0 1 rfl rfl)
theorem dX0_catcher_2 : decode cX0_catcher 2 = .ok (.iload_n 2, 1) := dk_28 (dk_at dksX0_catcher_0 2 rfl rfl)
theorem dX0_catcher_3 : decode cX0_catcher 3 = .ok (.iload_n 3, 1) := dk_29 (dk_at dksX0_catcher_0 3 rfl rfl)
theorem dX0_catcher_4 : decode cX0_catcher 4 = .ok (.iload 4, 2) := dk_21 4 (dk_at dksX0_catcher_0 4 rfl rfl)
theorem dX0_catcher_6 : decode cX0_catcher 6 = .ok (.invokevirtual 165, 3) := dk_182 0 165 (dk_at dksX0_catcher_0 6 rfl rfl)
theorem dX0_catcher_9 : decode cX0_catcher 9 = .ok (.istore 5, 2) := dk_54 5 (dk_at dksX0_catcher_0 9 rfl rfl)
theorem dX0_catcher_11 : decode cX0_catcher 11 = .ok (.iload 5, 2) := dk_21 5 (dk_at dksX0_catcher_0 11 rfl rfl)
theorem dX0_catcher_13 : decode cX0_catcher 13 = .ok (.ifCond .ge 12, 3) := dk_156 0 12 (dk_at dksX0_catcher_0 13 rfl rfl)
theorem dX0_catcher_16 : decode cX0_catcher 16 = .ok (.aload_n 0, 1) := dk_42 (dk_at dksX0_catcher_0 16 rfl rfl)
theorem dX0_catcher_17 : decode cX0_catcher 17 = .ok (.iload 5, 2) := dk_21 5 (dk_at dksX0_catcher_0 17 rfl rfl)
theorem dX0_catcher_19 : decode cX0_catcher 19 = .ok (.invokevirtual 124, 3) := dk_182 0 124 (dk_at dksX0_catcher_0 19 rfl rfl)
theorem dX0_catcher_22 : decode cX0_catcher 22 = .ok (.goto 16, 3) := dk_167 0 16 (dk_at dksX0_catcher_1 0 rfl rfl)
theorem dX0_catcher_25 : decode cX0_catcher 25 = .ok (.aload_n 0, 1) := dk_42 (dk_at dksX0_catcher_1 3 rfl rfl)
theorem dX0_catcher_26 : decode cX0_catcher 26 = .ok (.aload_n 0, 1) := dk_42 (dk_at dksX0_catcher_1 4 rfl rfl)
theorem dX0_catcher_27 : decode cX0_catcher 27 = .ok (.getfield 16, 3) := dk_180 0 16 (dk_at dksX0_catcher_1 5 rfl rfl)
theorem dX0_catcher_30 : decode cX0_catcher 30 = .ok (.getfield 118, 3) := dk_180 0 118 (dk_at dksX0_catcher_1 8 rfl rfl)
theorem dX0_catcher_33 : decode cX0_catcher 33 = .ok (.iconst 1, 1) := dk_4 (dk_at dksX0_catcher_1 11 rfl rfl)
theorem dX0_catcher_34 : decode cX0_catcher 34 = .ok (.isub, 1) := dk_100 (dk_at dksX0_catcher_1 12 rfl rfl)
theorem dX0_catcher_35 : decode cX0_catcher 35 = .ok (.invokevirtual 131, 3) := dk_182 0 131 (dk_at dksX0_catcher_1 13 rfl rfl)
theorem dX0_catcher_38 : decode cX0_catcher 38 = .ok (.ireturn, 1) := dk_172 (dk_at dksX0_catcher_1 16 rfl rfl)
abbrev cX0_comesIn : ByteArray := prog_1_method_19_code
def yX0_comesIn : MethodName := ⟨RX0, "comesIn", "(IIII)I"⟩
def dkwX0_comesIn_8 : List UInt8 := [172]
abbrev dktX0_comesIn_8 : List UInt8 := dkwX0_comesIn_8 ++ []
def dkwX0_comesIn_7 : List UInt8 := [180, 0, 16, 180, 0, 162, 21, 5, 2, 79, 42, 180, 0, 16, 89, 180, 0, 118, 4, 96, 181, 0, 118, 3]
abbrev dktX0_comesIn_7 : List UInt8 := dkwX0_comesIn_7 ++ dktX0_comesIn_8
def dkwX0_comesIn_6 : List UInt8 := [180, 0, 16, 180, 0, 156, 21, 5, 29, 79, 42, 180, 0, 16, 180, 0, 159, 21, 5, 21, 4, 79, 42]
abbrev dktX0_comesIn_6 : List UInt8 := dkwX0_comesIn_6 ++ dktX0_comesIn_7
def dkwX0_comesIn_5 : List UInt8 := [42, 180, 0, 16, 180, 0, 142, 21, 5, 27, 79, 42, 180, 0, 16, 180, 0, 153, 21, 5, 28, 79, 42]
abbrev dktX0_comesIn_5 : List UInt8 := dkwX0_comesIn_5 ++ dktX0_comesIn_6
def dkwX0_comesIn_4 : List UInt8 := [180, 0, 16, 180, 0, 118, 54, 5, 42, 21, 5, 29, 21, 4, 27, 182, 0, 149, 153, 0, 6, 16, 253, 172]
abbrev dktX0_comesIn_4 : List UInt8 := dkwX0_comesIn_4 ++ dktX0_comesIn_5
def dkwX0_comesIn_3 : List UInt8 := [180, 0, 118, 29, 21, 4, 27, 182, 0, 149, 153, 0, 8, 16, 253, 167, 0, 5, 16, 251, 172, 42]
abbrev dktX0_comesIn_3 : List UInt8 := dkwX0_comesIn_3 ++ dktX0_comesIn_4
def dkwX0_comesIn_2 : List UInt8 := [159, 0, 6, 16, 253, 172, 42, 180, 0, 16, 180, 0, 118, 16, 6, 160, 0, 29, 42, 42, 180, 0, 16]
abbrev dktX0_comesIn_2 : List UInt8 := dkwX0_comesIn_2 ++ dktX0_comesIn_3
def dkwX0_comesIn_1 : List UInt8 := [21, 4, 184, 0, 138, 154, 0, 5, 2, 172, 42, 42, 180, 0, 16, 180, 0, 142, 27, 182, 0, 145, 2]
abbrev dktX0_comesIn_1 : List UInt8 := dkwX0_comesIn_1 ++ dktX0_comesIn_2
def dkwX0_comesIn_0 : List UInt8 := [27, 184, 0, 134, 153, 0, 28, 3, 28, 184, 0, 138, 153, 0, 20, 4, 29, 184, 0, 138, 153, 0, 12, 5]
abbrev dktX0_comesIn_0 : List UInt8 := dkwX0_comesIn_0 ++ dktX0_comesIn_1
theorem dksX0_comesIn_0 : cX0_comesIn.data.toList.drop 0 = dktX0_comesIn_0 := by decide +kernel
theorem dksX0_comesIn_1 : cX0_comesIn.data.toList.drop 24 = dktX0_comesIn_1 := dk_seg dksX0_comesIn_0 24 rfl rfl
theorem dksX0_comesIn_2 : cX0_comesIn.data.toList.drop 47 = dktX0_comesIn_2 := dk_seg dksX0_comesIn_1 23 rfl rfl
theorem dksX0_comesIn_3 : cX0_comesIn.data.toList.drop 70 = dktX0_comesIn_3 := dk_seg dksX0_comesIn_2 23 rfl rfl
theorem dksX0_comesIn_4 : cX0_comesIn.data.toList.drop 92 = dktX0_comesIn_4 := dk_seg dksX0_comesIn_3 22 rfl rfl
theorem dksX0_comesIn_5 : cX0_comesIn.data.toList.drop 116 = dktX0_comesIn_5 := dk_seg dksX0_comesIn_4 24 rfl rfl
theorem dksX0_comesIn_6 : cX0_comesIn.data.toList.drop 139 = dktX0_comesIn_6 := dk_seg dksX0_comesIn_5 23 rfl rfl
theorem dksX0_comesIn_7 : cX0_comesIn.data.toList.drop 162 = dktX0_comesIn_7 := dk_seg dksX0_comesIn_6 23 rfl rfl
theorem dksX0_comesIn_8 : cX0_comesIn.data.toList.drop 186 = dktX0_comesIn_8 := dk_seg dksX0_comesIn_7 24 rfl rfl
theorem dX0_comesIn_0 : decode cX0_comesIn 0 = .ok (.iload_n 1, 1) := dk_27 (dk_at dksX0_comesIn_0 0 rfl rfl)
theorem dX0_comesIn_1 : decode cX0_comesIn 1 = .ok (.invokestatic 134, 3) := dk_184 0 134 (dk_at dksX0_comesIn_0 1 rfl rfl)
theorem dX0_comesIn_4 : decode cX0_comesIn 4 = .ok (.ifCond .eq 28, 3) := dk_153 0 28 (dk_at dksX0_comesIn_0 4 rfl rfl)
theorem dX0_comesIn_7 : decode cX0_comesIn 7 = .ok (.iconst 0, 1) := dk_3 (dk_at dksX0_comesIn_0 7 rfl rfl)
theorem dX0_comesIn_8 : decode cX0_comesIn 8 = .ok (.iload_n 2, 1) := dk_28 (dk_at dksX0_comesIn_0 8 rfl rfl)
theorem dX0_comesIn_9 : decode cX0_comesIn 9 = .ok (.invokestatic 138, 3) := dk_184 0 138 (dk_at dksX0_comesIn_0 9 rfl rfl)
theorem dX0_comesIn_12 : decode cX0_comesIn 12 = .ok (.ifCond .eq 20, 3) := dk_153 0 20 (dk_at dksX0_comesIn_0 12 rfl rfl)
theorem dX0_comesIn_15 : decode cX0_comesIn 15 = .ok (.iconst 1, 1) := dk_4 (dk_at dksX0_comesIn_0 15 rfl rfl)
theorem dX0_comesIn_16 : decode cX0_comesIn 16 = .ok (.iload_n 3, 1) := dk_29 (dk_at dksX0_comesIn_0 16 rfl rfl)
theorem dX0_comesIn_17 : decode cX0_comesIn 17 = .ok (.invokestatic 138, 3) := dk_184 0 138 (dk_at dksX0_comesIn_0 17 rfl rfl)
theorem dX0_comesIn_20 : decode cX0_comesIn 20 = .ok (.ifCond .eq 12, 3) := dk_153 0 12 (dk_at dksX0_comesIn_0 20 rfl rfl)
theorem dX0_comesIn_23 : decode cX0_comesIn 23 = .ok (.iconst 2, 1) := dk_5 (dk_at dksX0_comesIn_0 23 rfl rfl)
theorem dX0_comesIn_24 : decode cX0_comesIn 24 = .ok (.iload 4, 2) := dk_21 4 (dk_at dksX0_comesIn_1 0 rfl rfl)
theorem dX0_comesIn_26 : decode cX0_comesIn 26 = .ok (.invokestatic 138, 3) := dk_184 0 138 (dk_at dksX0_comesIn_1 2 rfl rfl)
theorem dX0_comesIn_29 : decode cX0_comesIn 29 = .ok (.ifCond .ne 5, 3) := dk_154 0 5 (dk_at dksX0_comesIn_1 5 rfl rfl)
theorem dX0_comesIn_32 : decode cX0_comesIn 32 = .ok (.iconst (-1), 1) := dk_2 (dk_at dksX0_comesIn_1 8 rfl rfl)
theorem dX0_comesIn_33 : decode cX0_comesIn 33 = .ok (.ireturn, 1) := dk_172 (dk_at dksX0_comesIn_1 9 rfl rfl)
theorem dX0_comesIn_34 : decode cX0_comesIn 34 = .ok (.aload_n 0, 1) := dk_42 (dk_at dksX0_comesIn_1 10 rfl rfl)
theorem dX0_comesIn_35 : decode cX0_comesIn 35 = .ok (.aload_n 0, 1) := dk_42 (dk_at dksX0_comesIn_1 11 rfl rfl)
theorem dX0_comesIn_36 : decode cX0_comesIn 36 = .ok (.getfield 16, 3) := dk_180 0 16 (dk_at dksX0_comesIn_1 12 rfl rfl)
theorem dX0_comesIn_39 : decode cX0_comesIn 39 = .ok (.getfield 142, 3) := dk_180 0 142 (dk_at dksX0_comesIn_1 15 rfl rfl)
theorem dX0_comesIn_42 : decode cX0_comesIn 42 = .ok (.iload_n 1, 1) := dk_27 (dk_at dksX0_comesIn_1 18 rfl rfl)
theorem dX0_comesIn_43 : decode cX0_comesIn 43 = .ok (.invokevirtual 145, 3) := dk_182 0 145 (dk_at dksX0_comesIn_1 19 rfl rfl)
theorem dX0_comesIn_46 : decode cX0_comesIn 46 = .ok (.iconst (-1), 1) := dk_2 (dk_at dksX0_comesIn_1 22 rfl rfl)
theorem dX0_comesIn_47 : decode cX0_comesIn 47 = .ok (.if_icmp .eq 6, 3) := dk_159 0 6 (dk_at dksX0_comesIn_2 0 rfl rfl)
theorem dX0_comesIn_50 : decode cX0_comesIn 50 = .ok (.bipush (-3), 2) := dk_16 253 (dk_at dksX0_comesIn_2 3 rfl rfl)
theorem dX0_comesIn_52 : decode cX0_comesIn 52 = .ok (.ireturn, 1) := dk_172 (dk_at dksX0_comesIn_2 5 rfl rfl)
theorem dX0_comesIn_53 : decode cX0_comesIn 53 = .ok (.aload_n 0, 1) := dk_42 (dk_at dksX0_comesIn_2 6 rfl rfl)
theorem dX0_comesIn_54 : decode cX0_comesIn 54 = .ok (.getfield 16, 3) := dk_180 0 16 (dk_at dksX0_comesIn_2 7 rfl rfl)
theorem dX0_comesIn_57 : decode cX0_comesIn 57 = .ok (.getfield 118, 3) := dk_180 0 118 (dk_at dksX0_comesIn_2 10 rfl rfl)
theorem dX0_comesIn_60 : decode cX0_comesIn 60 = .ok (.bipush 6, 2) := dk_16 6 (dk_at dksX0_comesIn_2 13 rfl rfl)
theorem dX0_comesIn_62 : decode cX0_comesIn 62 = .ok (.if_icmp .ne 29, 3) := dk_160 0 29 (dk_at dksX0_comesIn_2 15 rfl rfl)
theorem dX0_comesIn_65 : decode cX0_comesIn 65 = .ok (.aload_n 0, 1) := dk_42 (dk_at dksX0_comesIn_2 18 rfl rfl)
theorem dX0_comesIn_66 : decode cX0_comesIn 66 = .ok (.aload_n 0, 1) := dk_42 (dk_at dksX0_comesIn_2 19 rfl rfl)
theorem dX0_comesIn_67 : decode cX0_comesIn 67 = .ok (.getfield 16, 3) := dk_180 0 16 (dk_at dksX0_comesIn_2 20 rfl rfl)
theorem dX0_comesIn_70 : decode cX0_comesIn 70 = .ok (.getfield 118, 3) := dk_180 0 118 (dk_at dksX0_comesIn_3 0 rfl rfl)
theorem dX0_comesIn_73 : decode cX0_comesIn 73 = .ok (.iload_n 3, 1) := dk_29 (dk_at dksX0_comesIn_3 3 rfl rfl)
theorem dX0_comesIn_74 : decode cX0_comesIn 74 = .ok (.iload 4, 2) := dk_21 4 (dk_at dksX0_comesIn_3 4 rfl rfl)
theorem dX0_comesIn_76 : decode cX0_comesIn 76 = .ok (.iload_n 1, 1) := dk_27 (dk_at dksX0_comesIn_3 6 rfl rfl)
theorem dX0_comesIn_77 : decode cX0_comesIn 77 = .ok (.invokevirtual 149, 3) := dk_182 0 149 (dk_at dksX0_comesIn_3 7 rfl rfl)
theorem dX0_comesIn_80 : decode cX0_comesIn 80 = .ok (.ifCond .eq 8, 3) := dk_153 0 8 (dk_at dksX0_comesIn_3 10 rfl rfl)
theorem dX0_comesIn_83 : decode cX0_comesIn 83 = .ok (.bipush (-3), 2) := dk_16 253 (dk_at dksX0_comesIn_3 13 rfl rfl)
theorem dX0_comesIn_85 : decode cX0_comesIn 85 = .ok (.goto 5, 3) := dk_167 0 5 (dk_at dksX0_comesIn_3 15 rfl rfl)
theorem dX0_comesIn_88 : decode cX0_comesIn 88 = .ok (.bipush (-5), 2) := dk_16 251 (dk_at dksX0_comesIn_3 18 rfl rfl)
theorem dX0_comesIn_90 : decode cX0_comesIn 90 = .ok (.ireturn, 1) := dk_172 (dk_at dksX0_comesIn_3 20 rfl rfl)
theorem dX0_comesIn_91 : decode cX0_comesIn 91 = .ok (.aload_n 0, 1) := dk_42 (dk_at dksX0_comesIn_3 21 rfl rfl)
theorem dX0_comesIn_92 : decode cX0_comesIn 92 = .ok (.getfield 16, 3) := dk_180 0 16 (dk_at dksX0_comesIn_4 0 rfl rfl)
theorem dX0_comesIn_95 : decode cX0_comesIn 95 = .ok (.getfield 118, 3) := dk_180 0 118 (dk_at dksX0_comesIn_4 3 rfl rfl)
theorem dX0_comesIn_98 : decode cX0_comesIn 98 = .ok (.istore 5, 2) := dk_54 5 (dk_at dksX0_comesIn_4 6 rfl rfl)
theorem dX0_comesIn_100 : decode cX0_comesIn 100 = .ok (.aload_n 0, 1) := dk_42 (dk_at dksX0_comesIn_4 8 rfl rfl)
theorem dX0_comesIn_101 : decode cX0_comesIn 101 = .ok (.iload 5, 2) := dk_21 5 (dk_at dksX0_comesIn_4 9 rfl rfl)
theorem dX0_comesIn_103 : decode cX0_comesIn 103 = .ok (.iload_n 3, 1) := dk_29 (dk_at dksX0_comesIn_4 11 rfl rfl)
theorem dX0_comesIn_104 : decode cX0_comesIn 104 = .ok (.iload 4, 2) := dk_21 4 (dk_at dksX0_comesIn_4 12 rfl rfl)
theorem dX0_comesIn_106 : decode cX0_comesIn 106 = .ok (.iload_n 1, 1) := dk_27 (dk_at dksX0_comesIn_4 14 rfl rfl)
theorem dX0_comesIn_107 : decode cX0_comesIn 107 = .ok (.invokevirtual 149, 3) := dk_182 0 149 (dk_at dksX0_comesIn_4 15 rfl rfl)
theorem dX0_comesIn_110 : decode cX0_comesIn 110 = .ok (.ifCond .eq 6, 3) := dk_153 0 6 (dk_at dksX0_comesIn_4 18 rfl rfl)
theorem dX0_comesIn_113 : decode cX0_comesIn 113 = .ok (.bipush (-3), 2) := dk_16 253 (dk_at dksX0_comesIn_4 21 rfl rfl)
theorem dX0_comesIn_115 : decode cX0_comesIn 115 = .ok (.ireturn, 1) := dk_172 (dk_at dksX0_comesIn_4 23 rfl rfl)
theorem dX0_comesIn_116 : decode cX0_comesIn 116 = .ok (.aload_n 0, 1) := dk_42 (dk_at dksX0_comesIn_5 0 rfl rfl)
theorem dX0_comesIn_117 : decode cX0_comesIn 117 = .ok (.getfield 16, 3) := dk_180 0 16 (dk_at dksX0_comesIn_5 1 rfl rfl)
theorem dX0_comesIn_120 : decode cX0_comesIn 120 = .ok (.getfield 142, 3) := dk_180 0 142 (dk_at dksX0_comesIn_5 4 rfl rfl)
theorem dX0_comesIn_123 : decode cX0_comesIn 123 = .ok (.iload 5, 2) := dk_21 5 (dk_at dksX0_comesIn_5 7 rfl rfl)
theorem dX0_comesIn_125 : decode cX0_comesIn 125 = .ok (.iload_n 1, 1) := dk_27 (dk_at dksX0_comesIn_5 9 rfl rfl)
theorem dX0_comesIn_126 : decode cX0_comesIn 126 = .ok (.iastore, 1) := dk_79 (dk_at dksX0_comesIn_5 10 rfl rfl)
theorem dX0_comesIn_127 : decode cX0_comesIn 127 = .ok (.aload_n 0, 1) := dk_42 (dk_at dksX0_comesIn_5 11 rfl rfl)
theorem dX0_comesIn_128 : decode cX0_comesIn 128 = .ok (.getfield 16, 3) := dk_180 0 16 (dk_at dksX0_comesIn_5 12 rfl rfl)
theorem dX0_comesIn_131 : decode cX0_comesIn 131 = .ok (.getfield 153, 3) := dk_180 0 153 (dk_at dksX0_comesIn_5 15 rfl rfl)
theorem dX0_comesIn_134 : decode cX0_comesIn 134 = .ok (.iload 5, 2) := dk_21 5 (dk_at dksX0_comesIn_5 18 rfl rfl)
theorem dX0_comesIn_136 : decode cX0_comesIn 136 = .ok (.iload_n 2, 1) := dk_28 (dk_at dksX0_comesIn_5 20 rfl rfl)
theorem dX0_comesIn_137 : decode cX0_comesIn 137 = .ok (.iastore, 1) := dk_79 (dk_at dksX0_comesIn_5 21 rfl rfl)
theorem dX0_comesIn_138 : decode cX0_comesIn 138 = .ok (.aload_n 0, 1) := dk_42 (dk_at dksX0_comesIn_5 22 rfl rfl)
theorem dX0_comesIn_139 : decode cX0_comesIn 139 = .ok (.getfield 16, 3) := dk_180 0 16 (dk_at dksX0_comesIn_6 0 rfl rfl)
theorem dX0_comesIn_142 : decode cX0_comesIn 142 = .ok (.getfield 156, 3) := dk_180 0 156 (dk_at dksX0_comesIn_6 3 rfl rfl)
theorem dX0_comesIn_145 : decode cX0_comesIn 145 = .ok (.iload 5, 2) := dk_21 5 (dk_at dksX0_comesIn_6 6 rfl rfl)
theorem dX0_comesIn_147 : decode cX0_comesIn 147 = .ok (.iload_n 3, 1) := dk_29 (dk_at dksX0_comesIn_6 8 rfl rfl)
theorem dX0_comesIn_148 : decode cX0_comesIn 148 = .ok (.iastore, 1) := dk_79 (dk_at dksX0_comesIn_6 9 rfl rfl)
theorem dX0_comesIn_149 : decode cX0_comesIn 149 = .ok (.aload_n 0, 1) := dk_42 (dk_at dksX0_comesIn_6 10 rfl rfl)
theorem dX0_comesIn_150 : decode cX0_comesIn 150 = .ok (.getfield 16, 3) := dk_180 0 16 (dk_at dksX0_comesIn_6 11 rfl rfl)
theorem dX0_comesIn_153 : decode cX0_comesIn 153 = .ok (.getfield 159, 3) := dk_180 0 159 (dk_at dksX0_comesIn_6 14 rfl rfl)
theorem dX0_comesIn_156 : decode cX0_comesIn 156 = .ok (.iload 5, 2) := dk_21 5 (dk_at dksX0_comesIn_6 17 rfl rfl)
theorem dX0_comesIn_158 : decode cX0_comesIn 158 = .ok (.iload 4, 2) := dk_21 4 (dk_at dksX0_comesIn_6 19 rfl rfl)
theorem dX0_comesIn_160 : decode cX0_comesIn 160 = .ok (.iastore, 1) := dk_79 (dk_at dksX0_comesIn_6 21 rfl rfl)
theorem dX0_comesIn_161 : decode cX0_comesIn 161 = .ok (.aload_n 0, 1) := dk_42 (dk_at dksX0_comesIn_6 22 rfl rfl)
theorem dX0_comesIn_162 : decode cX0_comesIn 162 = .ok (.getfield 16, 3) := dk_180 0 16 (dk_at dksX0_comesIn_7 0 rfl rfl)
theorem dX0_comesIn_165 : decode cX0_comesIn 165 = .ok (.getfield 162, 3) := dk_180 0 162 (dk_at dksX0_comesIn_7 3 rfl rfl)
theorem dX0_comesIn_168 : decode cX0_comesIn 168 = .ok (.iload 5, 2) := dk_21 5 (dk_at dksX0_comesIn_7 6 rfl rfl)
theorem dX0_comesIn_170 : decode cX0_comesIn 170 = .ok (.iconst (-1), 1) := dk_2 (dk_at dksX0_comesIn_7 8 rfl rfl)
theorem dX0_comesIn_171 : decode cX0_comesIn 171 = .ok (.iastore, 1) := dk_79 (dk_at dksX0_comesIn_7 9 rfl rfl)
theorem dX0_comesIn_172 : decode cX0_comesIn 172 = .ok (.aload_n 0, 1) := dk_42 (dk_at dksX0_comesIn_7 10 rfl rfl)
theorem dX0_comesIn_173 : decode cX0_comesIn 173 = .ok (.getfield 16, 3) := dk_180 0 16 (dk_at dksX0_comesIn_7 11 rfl rfl)
theorem dX0_comesIn_176 : decode cX0_comesIn 176 = .ok (.dup, 1) := dk_89 (dk_at dksX0_comesIn_7 14 rfl rfl)
theorem dX0_comesIn_177 : decode cX0_comesIn 177 = .ok (.getfield 118, 3) := dk_180 0 118 (dk_at dksX0_comesIn_7 15 rfl rfl)
theorem dX0_comesIn_180 : decode cX0_comesIn 180 = .ok (.iconst 1, 1) := dk_4 (dk_at dksX0_comesIn_7 18 rfl rfl)
theorem dX0_comesIn_181 : decode cX0_comesIn 181 = .ok (.iadd, 1) := dk_96 (dk_at dksX0_comesIn_7 19 rfl rfl)
theorem dX0_comesIn_182 : decode cX0_comesIn 182 = .ok (.putfield 118, 3) := dk_181 0 118 (dk_at dksX0_comesIn_7 20 rfl rfl)
theorem dX0_comesIn_185 : decode cX0_comesIn 185 = .ok (.iconst 0, 1) := dk_3 (dk_at dksX0_comesIn_7 23 rfl rfl)
theorem dX0_comesIn_186 : decode cX0_comesIn 186 = .ok (.ireturn, 1) := dk_172 (dk_at dksX0_comesIn_8 0 rfl rfl)
abbrev cX0_isCell : ByteArray := prog_1_method_7_code
def yX0_isCell : MethodName := ⟨RX0, "isCell", "(I)Z"⟩
def dkwX0_isCell_0 : List UInt8 := [26, 3, 16, 35, 184, 0, 97, 172]
abbrev dktX0_isCell_0 : List UInt8 := dkwX0_isCell_0 ++ []
theorem dksX0_isCell_0 : cX0_isCell.data.toList.drop 0 = dktX0_isCell_0 := by decide +kernel
theorem dX0_isCell_0 : decode cX0_isCell 0 = .ok (.iload_n 0, 1) := dk_26 (dk_at dksX0_isCell_0 0 rfl rfl)
theorem dX0_isCell_1 : decode cX0_isCell 1 = .ok (.iconst 0, 1) := dk_3 (dk_at dksX0_isCell_0 1 rfl rfl)
theorem dX0_isCell_2 : decode cX0_isCell 2 = .ok (.bipush 35, 2) := dk_16 35 (dk_at dksX0_isCell_0 2 rfl rfl)
theorem dX0_isCell_4 : decode cX0_isCell 4 = .ok (.invokestatic 97, 3) := dk_184 0 97 (dk_at dksX0_isCell_0 4 rfl rfl)
theorem dX0_isCell_7 : decode cX0_isCell 7 = .ok (.ireturn, 1) := dk_172 (dk_at dksX0_isCell_0 7 rfl rfl)
abbrev cX0_isPut : ByteArray := prog_1_method_18_code
def yX0_isPut : MethodName := ⟨RX0, "isPut", "(II)Z"⟩
def dkwX0_isPut_2 : List UInt8 := [167, 0, 4, 3, 172]
abbrev dktX0_isPut_2 : List UInt8 := dkwX0_isPut_2 ++ []
def dkwX0_isPut_1 : List UInt8 := [184, 0, 97, 167, 0, 23, 26, 5, 160, 0, 17, 27, 4, 16, 9, 184, 0, 97, 153, 0, 7, 4]
abbrev dktX0_isPut_1 : List UInt8 := dkwX0_isPut_1 ++ dktX0_isPut_2
def dkwX0_isPut_0 : List UInt8 := [26, 154, 0, 12, 27, 3, 6, 184, 0, 97, 167, 0, 39, 26, 4, 160, 0, 14, 27, 16, 247, 16, 9]
abbrev dktX0_isPut_0 : List UInt8 := dkwX0_isPut_0 ++ dktX0_isPut_1
theorem dksX0_isPut_0 : cX0_isPut.data.toList.drop 0 = dktX0_isPut_0 := by decide +kernel
theorem dksX0_isPut_1 : cX0_isPut.data.toList.drop 23 = dktX0_isPut_1 := dk_seg dksX0_isPut_0 23 rfl rfl
theorem dksX0_isPut_2 : cX0_isPut.data.toList.drop 45 = dktX0_isPut_2 := dk_seg dksX0_isPut_1 22 rfl rfl
theorem dX0_isPut_0 : decode cX0_isPut 0 = .ok (.iload_n 0, 1) := dk_26 (dk_at dksX0_isPut_0 0 rfl rfl)
theorem dX0_isPut_1 : decode cX0_isPut 1 = .ok (.ifCond .ne 12, 3) := dk_154 0 12 (dk_at dksX0_isPut_0 1 rfl rfl)
theorem dX0_isPut_4 : decode cX0_isPut 4 = .ok (.iload_n 1, 1) := dk_27 (dk_at dksX0_isPut_0 4 rfl rfl)
theorem dX0_isPut_5 : decode cX0_isPut 5 = .ok (.iconst 0, 1) := dk_3 (dk_at dksX0_isPut_0 5 rfl rfl)
theorem dX0_isPut_6 : decode cX0_isPut 6 = .ok (.iconst 3, 1) := dk_6 (dk_at dksX0_isPut_0 6 rfl rfl)
theorem dX0_isPut_7 : decode cX0_isPut 7 = .ok (.invokestatic 97, 3) := dk_184 0 97 (dk_at dksX0_isPut_0 7 rfl rfl)
theorem dX0_isPut_10 : decode cX0_isPut 10 = .ok (.goto 39, 3) := dk_167 0 39 (dk_at dksX0_isPut_0 10 rfl rfl)
theorem dX0_isPut_13 : decode cX0_isPut 13 = .ok (.iload_n 0, 1) := dk_26 (dk_at dksX0_isPut_0 13 rfl rfl)
theorem dX0_isPut_14 : decode cX0_isPut 14 = .ok (.iconst 1, 1) := dk_4 (dk_at dksX0_isPut_0 14 rfl rfl)
theorem dX0_isPut_15 : decode cX0_isPut 15 = .ok (.if_icmp .ne 14, 3) := dk_160 0 14 (dk_at dksX0_isPut_0 15 rfl rfl)
theorem dX0_isPut_18 : decode cX0_isPut 18 = .ok (.iload_n 1, 1) := dk_27 (dk_at dksX0_isPut_0 18 rfl rfl)
theorem dX0_isPut_19 : decode cX0_isPut 19 = .ok (.bipush (-9), 2) := dk_16 247 (dk_at dksX0_isPut_0 19 rfl rfl)
theorem dX0_isPut_21 : decode cX0_isPut 21 = .ok (.bipush 9, 2) := dk_16 9 (dk_at dksX0_isPut_0 21 rfl rfl)
theorem dX0_isPut_23 : decode cX0_isPut 23 = .ok (.invokestatic 97, 3) := dk_184 0 97 (dk_at dksX0_isPut_1 0 rfl rfl)
theorem dX0_isPut_26 : decode cX0_isPut 26 = .ok (.goto 23, 3) := dk_167 0 23 (dk_at dksX0_isPut_1 3 rfl rfl)
theorem dX0_isPut_29 : decode cX0_isPut 29 = .ok (.iload_n 0, 1) := dk_26 (dk_at dksX0_isPut_1 6 rfl rfl)
theorem dX0_isPut_30 : decode cX0_isPut 30 = .ok (.iconst 2, 1) := dk_5 (dk_at dksX0_isPut_1 7 rfl rfl)
theorem dX0_isPut_31 : decode cX0_isPut 31 = .ok (.if_icmp .ne 17, 3) := dk_160 0 17 (dk_at dksX0_isPut_1 8 rfl rfl)
theorem dX0_isPut_34 : decode cX0_isPut 34 = .ok (.iload_n 1, 1) := dk_27 (dk_at dksX0_isPut_1 11 rfl rfl)
theorem dX0_isPut_35 : decode cX0_isPut 35 = .ok (.iconst 1, 1) := dk_4 (dk_at dksX0_isPut_1 12 rfl rfl)
theorem dX0_isPut_36 : decode cX0_isPut 36 = .ok (.bipush 9, 2) := dk_16 9 (dk_at dksX0_isPut_1 13 rfl rfl)
theorem dX0_isPut_38 : decode cX0_isPut 38 = .ok (.invokestatic 97, 3) := dk_184 0 97 (dk_at dksX0_isPut_1 15 rfl rfl)
theorem dX0_isPut_41 : decode cX0_isPut 41 = .ok (.ifCond .eq 7, 3) := dk_153 0 7 (dk_at dksX0_isPut_1 18 rfl rfl)
theorem dX0_isPut_44 : decode cX0_isPut 44 = .ok (.iconst 1, 1) := dk_4 (dk_at dksX0_isPut_1 21 rfl rfl)
theorem dX0_isPut_45 : decode cX0_isPut 45 = .ok (.goto 4, 3) := dk_167 0 4 (dk_at dksX0_isPut_2 0 rfl rfl)
theorem dX0_isPut_48 : decode cX0_isPut 48 = .ok (.iconst 0, 1) := dk_3 (dk_at dksX0_isPut_2 3 rfl rfl)
theorem dX0_isPut_49 : decode cX0_isPut 49 = .ok (.ireturn, 1) := dk_172 (dk_at dksX0_isPut_2 4 rfl rfl)
abbrev cX0_whoIn : ByteArray := prog_1_method_15_code
def yX0_whoIn : MethodName := ⟨RX0, "whoIn", "([II)I"⟩
def dkwX0_whoIn_1 : List UInt8 := [132, 3, 1, 167, 255, 233, 2, 172]
abbrev dktX0_whoIn_1 : List UInt8 := dkwX0_whoIn_1 ++ []
def dkwX0_whoIn_0 : List UInt8 := [3, 62, 29, 42, 180, 0, 16, 180, 0, 118, 162, 0, 18, 43, 29, 46, 28, 160, 0, 5, 29, 172]
abbrev dktX0_whoIn_0 : List UInt8 := dkwX0_whoIn_0 ++ dktX0_whoIn_1
theorem dksX0_whoIn_0 : cX0_whoIn.data.toList.drop 0 = dktX0_whoIn_0 := by decide +kernel
theorem dksX0_whoIn_1 : cX0_whoIn.data.toList.drop 22 = dktX0_whoIn_1 := dk_seg dksX0_whoIn_0 22 rfl rfl
theorem dX0_whoIn_0 : decode cX0_whoIn 0 = .ok (.iconst 0, 1) := dk_3 (dk_at dksX0_whoIn_0 0 rfl rfl)
theorem dX0_whoIn_1 : decode cX0_whoIn 1 = .ok (.istore_n 3, 1) := dk_62 (dk_at dksX0_whoIn_0 1 rfl rfl)
theorem dX0_whoIn_2 : decode cX0_whoIn 2 = .ok (.iload_n 3, 1) := dk_29 (dk_at dksX0_whoIn_0 2 rfl rfl)
theorem dX0_whoIn_3 : decode cX0_whoIn 3 = .ok (.aload_n 0, 1) := dk_42 (dk_at dksX0_whoIn_0 3 rfl rfl)
theorem dX0_whoIn_4 : decode cX0_whoIn 4 = .ok (.getfield 16, 3) := dk_180 0 16 (dk_at dksX0_whoIn_0 4 rfl rfl)
theorem dX0_whoIn_7 : decode cX0_whoIn 7 = .ok (.getfield 118, 3) := dk_180 0 118 (dk_at dksX0_whoIn_0 7 rfl rfl)
theorem dX0_whoIn_10 : decode cX0_whoIn 10 = .ok (.if_icmp .ge 18, 3) := dk_162 0 18 (dk_at dksX0_whoIn_0 10 rfl rfl)
theorem dX0_whoIn_13 : decode cX0_whoIn 13 = .ok (.aload_n 1, 1) := dk_43 (dk_at dksX0_whoIn_0 13 rfl rfl)
theorem dX0_whoIn_14 : decode cX0_whoIn 14 = .ok (.iload_n 3, 1) := dk_29 (dk_at dksX0_whoIn_0 14 rfl rfl)
theorem dX0_whoIn_15 : decode cX0_whoIn 15 = .ok (.iaload, 1) := dk_46 (dk_at dksX0_whoIn_0 15 rfl rfl)
theorem dX0_whoIn_16 : decode cX0_whoIn 16 = .ok (.iload_n 2, 1) := dk_28 (dk_at dksX0_whoIn_0 16 rfl rfl)
theorem dX0_whoIn_17 : decode cX0_whoIn 17 = .ok (.if_icmp .ne 5, 3) := dk_160 0 5 (dk_at dksX0_whoIn_0 17 rfl rfl)
theorem dX0_whoIn_20 : decode cX0_whoIn 20 = .ok (.iload_n 3, 1) := dk_29 (dk_at dksX0_whoIn_0 20 rfl rfl)
theorem dX0_whoIn_21 : decode cX0_whoIn 21 = .ok (.ireturn, 1) := dk_172 (dk_at dksX0_whoIn_0 21 rfl rfl)
theorem dX0_whoIn_22 : decode cX0_whoIn 22 = .ok (.iinc 3 1, 3) := dk_132 3 1 (dk_at dksX0_whoIn_1 0 rfl rfl)
theorem dX0_whoIn_25 : decode cX0_whoIn 25 = .ok (.goto (-23), 3) := dk_167 255 233 (dk_at dksX0_whoIn_1 3 rfl rfl)
theorem dX0_whoIn_28 : decode cX0_whoIn 28 = .ok (.iconst (-1), 1) := dk_2 (dk_at dksX0_whoIn_1 6 rfl rfl)
theorem dX0_whoIn_29 : decode cX0_whoIn 29 = .ok (.ireturn, 1) := dk_172 (dk_at dksX0_whoIn_1 7 rfl rfl)
abbrev cX0_isBarred : ByteArray := prog_1_method_41_code
def yX0_isBarred : MethodName := ⟨RX0, "isBarred", "(IIII)Z"⟩
def dkwX0_isBarred_2 : List UInt8 := [16, 6, 108, 133, 80, 42, 6, 182, 0, 249, 20, 0, 253, 148, 153, 0, 7, 4, 167, 0, 4, 3, 172]
abbrev dktX0_isBarred_2 : List UInt8 := dkwX0_isBarred_2 ++ []
def dkwX0_isBarred_1 : List UInt8 := [180, 0, 229, 16, 11, 21, 4, 16, 6, 112, 133, 80, 42, 180, 0, 56, 180, 0, 229, 16, 12, 21, 4]
abbrev dktX0_isBarred_1 : List UInt8 := dkwX0_isBarred_1 ++ dktX0_isBarred_2
def dkwX0_isBarred_0 : List UInt8 := [42, 180, 0, 16, 180, 0, 226, 2, 160, 0, 5, 3, 172, 42, 27, 28, 29, 182, 1, 3, 42, 180, 0, 56]
abbrev dktX0_isBarred_0 : List UInt8 := dkwX0_isBarred_0 ++ dktX0_isBarred_1
theorem dksX0_isBarred_0 : cX0_isBarred.data.toList.drop 0 = dktX0_isBarred_0 := by decide +kernel
theorem dksX0_isBarred_1 : cX0_isBarred.data.toList.drop 24 = dktX0_isBarred_1 := dk_seg dksX0_isBarred_0 24 rfl rfl
theorem dksX0_isBarred_2 : cX0_isBarred.data.toList.drop 47 = dktX0_isBarred_2 := dk_seg dksX0_isBarred_1 23 rfl rfl
theorem dX0_isBarred_0 : decode cX0_isBarred 0 = .ok (.aload_n 0, 1) := dk_42 (dk_at dksX0_isBarred_0 0 rfl rfl)
theorem dX0_isBarred_1 : decode cX0_isBarred 1 = .ok (.getfield 16, 3) := dk_180 0 16 (dk_at dksX0_isBarred_0 1 rfl rfl)
theorem dX0_isBarred_4 : decode cX0_isBarred 4 = .ok (.getfield 226, 3) := dk_180 0 226 (dk_at dksX0_isBarred_0 4 rfl rfl)
theorem dX0_isBarred_7 : decode cX0_isBarred 7 = .ok (.iconst (-1), 1) := dk_2 (dk_at dksX0_isBarred_0 7 rfl rfl)
theorem dX0_isBarred_8 : decode cX0_isBarred 8 = .ok (.if_icmp .ne 5, 3) := dk_160 0 5 (dk_at dksX0_isBarred_0 8 rfl rfl)
theorem dX0_isBarred_11 : decode cX0_isBarred 11 = .ok (.iconst 0, 1) := dk_3 (dk_at dksX0_isBarred_0 11 rfl rfl)
theorem dX0_isBarred_12 : decode cX0_isBarred 12 = .ok (.ireturn, 1) := dk_172 (dk_at dksX0_isBarred_0 12 rfl rfl)
theorem dX0_isBarred_13 : decode cX0_isBarred 13 = .ok (.aload_n 0, 1) := dk_42 (dk_at dksX0_isBarred_0 13 rfl rfl)
theorem dX0_isBarred_14 : decode cX0_isBarred 14 = .ok (.iload_n 1, 1) := dk_27 (dk_at dksX0_isBarred_0 14 rfl rfl)
theorem dX0_isBarred_15 : decode cX0_isBarred 15 = .ok (.iload_n 2, 1) := dk_28 (dk_at dksX0_isBarred_0 15 rfl rfl)
theorem dX0_isBarred_16 : decode cX0_isBarred 16 = .ok (.iload_n 3, 1) := dk_29 (dk_at dksX0_isBarred_0 16 rfl rfl)
theorem dX0_isBarred_17 : decode cX0_isBarred 17 = .ok (.invokevirtual 259, 3) := dk_182 1 3 (dk_at dksX0_isBarred_0 17 rfl rfl)
theorem dX0_isBarred_20 : decode cX0_isBarred 20 = .ok (.aload_n 0, 1) := dk_42 (dk_at dksX0_isBarred_0 20 rfl rfl)
theorem dX0_isBarred_21 : decode cX0_isBarred 21 = .ok (.getfield 56, 3) := dk_180 0 56 (dk_at dksX0_isBarred_0 21 rfl rfl)
theorem dX0_isBarred_24 : decode cX0_isBarred 24 = .ok (.getfield 229, 3) := dk_180 0 229 (dk_at dksX0_isBarred_1 0 rfl rfl)
theorem dX0_isBarred_27 : decode cX0_isBarred 27 = .ok (.bipush 11, 2) := dk_16 11 (dk_at dksX0_isBarred_1 3 rfl rfl)
theorem dX0_isBarred_29 : decode cX0_isBarred 29 = .ok (.iload 4, 2) := dk_21 4 (dk_at dksX0_isBarred_1 5 rfl rfl)
theorem dX0_isBarred_31 : decode cX0_isBarred 31 = .ok (.bipush 6, 2) := dk_16 6 (dk_at dksX0_isBarred_1 7 rfl rfl)
theorem dX0_isBarred_33 : decode cX0_isBarred 33 = .ok (.irem, 1) := dk_112 (dk_at dksX0_isBarred_1 9 rfl rfl)
theorem dX0_isBarred_34 : decode cX0_isBarred 34 = .ok (.i2l, 1) := dk_133 (dk_at dksX0_isBarred_1 10 rfl rfl)
theorem dX0_isBarred_35 : decode cX0_isBarred 35 = .ok (.lastore, 1) := dk_80 (dk_at dksX0_isBarred_1 11 rfl rfl)
theorem dX0_isBarred_36 : decode cX0_isBarred 36 = .ok (.aload_n 0, 1) := dk_42 (dk_at dksX0_isBarred_1 12 rfl rfl)
theorem dX0_isBarred_37 : decode cX0_isBarred 37 = .ok (.getfield 56, 3) := dk_180 0 56 (dk_at dksX0_isBarred_1 13 rfl rfl)
theorem dX0_isBarred_40 : decode cX0_isBarred 40 = .ok (.getfield 229, 3) := dk_180 0 229 (dk_at dksX0_isBarred_1 16 rfl rfl)
theorem dX0_isBarred_43 : decode cX0_isBarred 43 = .ok (.bipush 12, 2) := dk_16 12 (dk_at dksX0_isBarred_1 19 rfl rfl)
theorem dX0_isBarred_45 : decode cX0_isBarred 45 = .ok (.iload 4, 2) := dk_21 4 (dk_at dksX0_isBarred_1 21 rfl rfl)
theorem dX0_isBarred_47 : decode cX0_isBarred 47 = .ok (.bipush 6, 2) := dk_16 6 (dk_at dksX0_isBarred_2 0 rfl rfl)
theorem dX0_isBarred_49 : decode cX0_isBarred 49 = .ok (.idiv, 1) := dk_108 (dk_at dksX0_isBarred_2 2 rfl rfl)
theorem dX0_isBarred_50 : decode cX0_isBarred 50 = .ok (.i2l, 1) := dk_133 (dk_at dksX0_isBarred_2 3 rfl rfl)
theorem dX0_isBarred_51 : decode cX0_isBarred 51 = .ok (.lastore, 1) := dk_80 (dk_at dksX0_isBarred_2 4 rfl rfl)
theorem dX0_isBarred_52 : decode cX0_isBarred 52 = .ok (.aload_n 0, 1) := dk_42 (dk_at dksX0_isBarred_2 5 rfl rfl)
theorem dX0_isBarred_53 : decode cX0_isBarred 53 = .ok (.iconst 3, 1) := dk_6 (dk_at dksX0_isBarred_2 6 rfl rfl)
theorem dX0_isBarred_54 : decode cX0_isBarred 54 = .ok (.invokevirtual 249, 3) := dk_182 0 249 (dk_at dksX0_isBarred_2 7 rfl rfl)
theorem dX0_isBarred_57 : decode cX0_isBarred 57 = .ok (.ldc2_w 253, 3) := dk_20 0 253 (dk_at dksX0_isBarred_2 10 rfl rfl)
theorem dX0_isBarred_60 : decode cX0_isBarred 60 = .ok (.lcmp, 1) := dk_148 (dk_at dksX0_isBarred_2 13 rfl rfl)
theorem dX0_isBarred_61 : decode cX0_isBarred 61 = .ok (.ifCond .eq 7, 3) := dk_153 0 7 (dk_at dksX0_isBarred_2 14 rfl rfl)
theorem dX0_isBarred_64 : decode cX0_isBarred 64 = .ok (.iconst 1, 1) := dk_4 (dk_at dksX0_isBarred_2 17 rfl rfl)
theorem dX0_isBarred_65 : decode cX0_isBarred 65 = .ok (.goto 4, 3) := dk_167 0 4 (dk_at dksX0_isBarred_2 18 rfl rfl)
theorem dX0_isBarred_68 : decode cX0_isBarred 68 = .ok (.iconst 0, 1) := dk_3 (dk_at dksX0_isBarred_2 21 rfl rfl)
theorem dX0_isBarred_69 : decode cX0_isBarred 69 = .ok (.ireturn, 1) := dk_172 (dk_at dksX0_isBarred_2 22 rfl rfl)
abbrev cX0_looksAt : ByteArray := prog_1_method_38_code
def yX0_looksAt : MethodName := ⟨RX0, "looksAt", "(III)V"⟩
def dkwX0_looksAt_1 : List UInt8 := [16, 7, 29, 133, 80, 42, 180, 0, 56, 180, 0, 229, 16, 8, 28, 133, 80, 177]
abbrev dktX0_looksAt_1 : List UInt8 := dkwX0_looksAt_1 ++ []
def dkwX0_looksAt_0 : List UInt8 := [42, 182, 0, 246, 42, 180, 0, 56, 180, 0, 229, 16, 6, 27, 133, 80, 42, 180, 0, 56, 180, 0, 229]
abbrev dktX0_looksAt_0 : List UInt8 := dkwX0_looksAt_0 ++ dktX0_looksAt_1
theorem dksX0_looksAt_0 : cX0_looksAt.data.toList.drop 0 = dktX0_looksAt_0 := by decide +kernel
theorem dksX0_looksAt_1 : cX0_looksAt.data.toList.drop 23 = dktX0_looksAt_1 := dk_seg dksX0_looksAt_0 23 rfl rfl
theorem dX0_looksAt_0 : decode cX0_looksAt 0 = .ok (.aload_n 0, 1) := dk_42 (dk_at dksX0_looksAt_0 0 rfl rfl)
theorem dX0_looksAt_1 : decode cX0_looksAt 1 = .ok (.invokevirtual 246, 3) := dk_182 0 246 (dk_at dksX0_looksAt_0 1 rfl rfl)
theorem dX0_looksAt_4 : decode cX0_looksAt 4 = .ok (.aload_n 0, 1) := dk_42 (dk_at dksX0_looksAt_0 4 rfl rfl)
theorem dX0_looksAt_5 : decode cX0_looksAt 5 = .ok (.getfield 56, 3) := dk_180 0 56 (dk_at dksX0_looksAt_0 5 rfl rfl)
theorem dX0_looksAt_8 : decode cX0_looksAt 8 = .ok (.getfield 229, 3) := dk_180 0 229 (dk_at dksX0_looksAt_0 8 rfl rfl)
theorem dX0_looksAt_11 : decode cX0_looksAt 11 = .ok (.bipush 6, 2) := dk_16 6 (dk_at dksX0_looksAt_0 11 rfl rfl)
theorem dX0_looksAt_13 : decode cX0_looksAt 13 = .ok (.iload_n 1, 1) := dk_27 (dk_at dksX0_looksAt_0 13 rfl rfl)
theorem dX0_looksAt_14 : decode cX0_looksAt 14 = .ok (.i2l, 1) := dk_133 (dk_at dksX0_looksAt_0 14 rfl rfl)
theorem dX0_looksAt_15 : decode cX0_looksAt 15 = .ok (.lastore, 1) := dk_80 (dk_at dksX0_looksAt_0 15 rfl rfl)
theorem dX0_looksAt_16 : decode cX0_looksAt 16 = .ok (.aload_n 0, 1) := dk_42 (dk_at dksX0_looksAt_0 16 rfl rfl)
theorem dX0_looksAt_17 : decode cX0_looksAt 17 = .ok (.getfield 56, 3) := dk_180 0 56 (dk_at dksX0_looksAt_0 17 rfl rfl)
theorem dX0_looksAt_20 : decode cX0_looksAt 20 = .ok (.getfield 229, 3) := dk_180 0 229 (dk_at dksX0_looksAt_0 20 rfl rfl)
theorem dX0_looksAt_23 : decode cX0_looksAt 23 = .ok (.bipush 7, 2) := dk_16 7 (dk_at dksX0_looksAt_1 0 rfl rfl)
theorem dX0_looksAt_25 : decode cX0_looksAt 25 = .ok (.iload_n 3, 1) := dk_29 (dk_at dksX0_looksAt_1 2 rfl rfl)
theorem dX0_looksAt_26 : decode cX0_looksAt 26 = .ok (.i2l, 1) := dk_133 (dk_at dksX0_looksAt_1 3 rfl rfl)
theorem dX0_looksAt_27 : decode cX0_looksAt 27 = .ok (.lastore, 1) := dk_80 (dk_at dksX0_looksAt_1 4 rfl rfl)
theorem dX0_looksAt_28 : decode cX0_looksAt 28 = .ok (.aload_n 0, 1) := dk_42 (dk_at dksX0_looksAt_1 5 rfl rfl)
theorem dX0_looksAt_29 : decode cX0_looksAt 29 = .ok (.getfield 56, 3) := dk_180 0 56 (dk_at dksX0_looksAt_1 6 rfl rfl)
theorem dX0_looksAt_32 : decode cX0_looksAt 32 = .ok (.getfield 229, 3) := dk_180 0 229 (dk_at dksX0_looksAt_1 9 rfl rfl)
theorem dX0_looksAt_35 : decode cX0_looksAt 35 = .ok (.bipush 8, 2) := dk_16 8 (dk_at dksX0_looksAt_1 12 rfl rfl)
theorem dX0_looksAt_37 : decode cX0_looksAt 37 = .ok (.iload_n 2, 1) := dk_28 (dk_at dksX0_looksAt_1 14 rfl rfl)
theorem dX0_looksAt_38 : decode cX0_looksAt 38 = .ok (.i2l, 1) := dk_133 (dk_at dksX0_looksAt_1 15 rfl rfl)
theorem dX0_looksAt_39 : decode cX0_looksAt 39 = .ok (.lastore, 1) := dk_80 (dk_at dksX0_looksAt_1 16 rfl rfl)
theorem dX0_looksAt_40 : decode cX0_looksAt 40 = .ok (.return_, 1) := dk_177 (dk_at dksX0_looksAt_1 17 rfl rfl)
abbrev cX0_nothing : ByteArray := prog_1_method_35_code
def yX0_nothing : MethodName := ⟨RX0, "nothing", "()V"⟩
def dkwX0_nothing_1 : List UInt8 := [167, 255, 235, 42, 180, 0, 56, 180, 0, 229, 16, 13, 42, 16, 8, 182, 0, 235, 133, 80, 177]
abbrev dktX0_nothing_1 : List UInt8 := dkwX0_nothing_1 ++ []
def dkwX0_nothing_0 : List UInt8 := [3, 60, 27, 16, 15, 162, 0, 21, 42, 180, 0, 56, 180, 0, 229, 27, 20, 0, 233, 80, 132, 1, 1]
abbrev dktX0_nothing_0 : List UInt8 := dkwX0_nothing_0 ++ dktX0_nothing_1
theorem dksX0_nothing_0 : cX0_nothing.data.toList.drop 0 = dktX0_nothing_0 := by decide +kernel
theorem dksX0_nothing_1 : cX0_nothing.data.toList.drop 23 = dktX0_nothing_1 := dk_seg dksX0_nothing_0 23 rfl rfl
theorem dX0_nothing_0 : decode cX0_nothing 0 = .ok (.iconst 0, 1) := dk_3 (dk_at dksX0_nothing_0 0 rfl rfl)
theorem dX0_nothing_1 : decode cX0_nothing 1 = .ok (.istore_n 1, 1) := dk_60 (dk_at dksX0_nothing_0 1 rfl rfl)
theorem dX0_nothing_2 : decode cX0_nothing 2 = .ok (.iload_n 1, 1) := dk_27 (dk_at dksX0_nothing_0 2 rfl rfl)
theorem dX0_nothing_3 : decode cX0_nothing 3 = .ok (.bipush 15, 2) := dk_16 15 (dk_at dksX0_nothing_0 3 rfl rfl)
theorem dX0_nothing_5 : decode cX0_nothing 5 = .ok (.if_icmp .ge 21, 3) := dk_162 0 21 (dk_at dksX0_nothing_0 5 rfl rfl)
theorem dX0_nothing_8 : decode cX0_nothing 8 = .ok (.aload_n 0, 1) := dk_42 (dk_at dksX0_nothing_0 8 rfl rfl)
theorem dX0_nothing_9 : decode cX0_nothing 9 = .ok (.getfield 56, 3) := dk_180 0 56 (dk_at dksX0_nothing_0 9 rfl rfl)
theorem dX0_nothing_12 : decode cX0_nothing 12 = .ok (.getfield 229, 3) := dk_180 0 229 (dk_at dksX0_nothing_0 12 rfl rfl)
theorem dX0_nothing_15 : decode cX0_nothing 15 = .ok (.iload_n 1, 1) := dk_27 (dk_at dksX0_nothing_0 15 rfl rfl)
theorem dX0_nothing_16 : decode cX0_nothing 16 = .ok (.ldc2_w 233, 3) := dk_20 0 233 (dk_at dksX0_nothing_0 16 rfl rfl)
theorem dX0_nothing_19 : decode cX0_nothing 19 = .ok (.lastore, 1) := dk_80 (dk_at dksX0_nothing_0 19 rfl rfl)
theorem dX0_nothing_20 : decode cX0_nothing 20 = .ok (.iinc 1 1, 3) := dk_132 1 1 (dk_at dksX0_nothing_0 20 rfl rfl)
theorem dX0_nothing_23 : decode cX0_nothing 23 = .ok (.goto (-21), 3) := dk_167 255 235 (dk_at dksX0_nothing_1 0 rfl rfl)
theorem dX0_nothing_26 : decode cX0_nothing 26 = .ok (.aload_n 0, 1) := dk_42 (dk_at dksX0_nothing_1 3 rfl rfl)
theorem dX0_nothing_27 : decode cX0_nothing 27 = .ok (.getfield 56, 3) := dk_180 0 56 (dk_at dksX0_nothing_1 4 rfl rfl)
theorem dX0_nothing_30 : decode cX0_nothing 30 = .ok (.getfield 229, 3) := dk_180 0 229 (dk_at dksX0_nothing_1 7 rfl rfl)
theorem dX0_nothing_33 : decode cX0_nothing 33 = .ok (.bipush 13, 2) := dk_16 13 (dk_at dksX0_nothing_1 10 rfl rfl)
theorem dX0_nothing_35 : decode cX0_nothing 35 = .ok (.aload_n 0, 1) := dk_42 (dk_at dksX0_nothing_1 12 rfl rfl)
theorem dX0_nothing_36 : decode cX0_nothing 36 = .ok (.bipush 8, 2) := dk_16 8 (dk_at dksX0_nothing_1 13 rfl rfl)
theorem dX0_nothing_38 : decode cX0_nothing 38 = .ok (.invokevirtual 235, 3) := dk_182 0 235 (dk_at dksX0_nothing_1 15 rfl rfl)
theorem dX0_nothing_41 : decode cX0_nothing 41 = .ok (.i2l, 1) := dk_133 (dk_at dksX0_nothing_1 18 rfl rfl)
theorem dX0_nothing_42 : decode cX0_nothing 42 = .ok (.lastore, 1) := dk_80 (dk_at dksX0_nothing_1 19 rfl rfl)
theorem dX0_nothing_43 : decode cX0_nothing 43 = .ok (.return_, 1) := dk_177 (dk_at dksX0_nothing_1 20 rfl rfl)
abbrev cX0_term : ByteArray := prog_1_method_14_code
def yX0_term : MethodName := ⟨RX0, "term", "(I)I"⟩
def dkwX0_term_0 : List UInt8 := [42, 180, 0, 16, 180, 0, 121, 27, 46, 172]
abbrev dktX0_term_0 : List UInt8 := dkwX0_term_0 ++ []
theorem dksX0_term_0 : cX0_term.data.toList.drop 0 = dktX0_term_0 := by decide +kernel
theorem dX0_term_0 : decode cX0_term 0 = .ok (.aload_n 0, 1) := dk_42 (dk_at dksX0_term_0 0 rfl rfl)
theorem dX0_term_1 : decode cX0_term 1 = .ok (.getfield 16, 3) := dk_180 0 16 (dk_at dksX0_term_0 1 rfl rfl)
theorem dX0_term_4 : decode cX0_term 4 = .ok (.getfield 121, 3) := dk_180 0 121 (dk_at dksX0_term_0 4 rfl rfl)
theorem dX0_term_7 : decode cX0_term 7 = .ok (.iload_n 1, 1) := dk_27 (dk_at dksX0_term_0 7 rfl rfl)
theorem dX0_term_8 : decode cX0_term 8 = .ok (.iaload, 1) := dk_46 (dk_at dksX0_term_0 8 rfl rfl)
theorem dX0_term_9 : decode cX0_term 9 = .ok (.ireturn, 1) := dk_172 (dk_at dksX0_term_0 9 rfl rfl)
abbrev cX0_says : ByteArray := prog_1_method_36_code
def yX0_says : MethodName := ⟨RX0, "says", "(I)J"⟩
def dkwX0_says_1 : List UInt8 := [180, 0, 56, 182, 0, 242, 173]
abbrev dktX0_says_1 : List UInt8 := dkwX0_says_1 ++ []
def dkwX0_says_0 : List UInt8 := [42, 180, 0, 16, 180, 0, 195, 42, 180, 0, 16, 180, 0, 226, 182, 0, 238, 192, 0, 214, 27, 42]
abbrev dktX0_says_0 : List UInt8 := dkwX0_says_0 ++ dktX0_says_1
theorem dksX0_says_0 : cX0_says.data.toList.drop 0 = dktX0_says_0 := by decide +kernel
theorem dksX0_says_1 : cX0_says.data.toList.drop 22 = dktX0_says_1 := dk_seg dksX0_says_0 22 rfl rfl
theorem dX0_says_0 : decode cX0_says 0 = .ok (.aload_n 0, 1) := dk_42 (dk_at dksX0_says_0 0 rfl rfl)
theorem dX0_says_1 : decode cX0_says 1 = .ok (.getfield 16, 3) := dk_180 0 16 (dk_at dksX0_says_0 1 rfl rfl)
theorem dX0_says_4 : decode cX0_says 4 = .ok (.getfield 195, 3) := dk_180 0 195 (dk_at dksX0_says_0 4 rfl rfl)
theorem dX0_says_7 : decode cX0_says 7 = .ok (.aload_n 0, 1) := dk_42 (dk_at dksX0_says_0 7 rfl rfl)
theorem dX0_says_8 : decode cX0_says 8 = .ok (.getfield 16, 3) := dk_180 0 16 (dk_at dksX0_says_0 8 rfl rfl)
theorem dX0_says_11 : decode cX0_says 11 = .ok (.getfield 226, 3) := dk_180 0 226 (dk_at dksX0_says_0 11 rfl rfl)
theorem dX0_says_14 : decode cX0_says 14 = .ok (.invokevirtual 238, 3) := dk_182 0 238 (dk_at dksX0_says_0 14 rfl rfl)
theorem dX0_says_17 : decode cX0_says 17 = .ok (.checkcast 214, 3) := dk_192 0 214 (dk_at dksX0_says_0 17 rfl rfl)
theorem dX0_says_20 : decode cX0_says 20 = .ok (.iload_n 1, 1) := dk_27 (dk_at dksX0_says_0 20 rfl rfl)
theorem dX0_says_21 : decode cX0_says 21 = .ok (.aload_n 0, 1) := dk_42 (dk_at dksX0_says_0 21 rfl rfl)
theorem dX0_says_22 : decode cX0_says 22 = .ok (.getfield 56, 3) := dk_180 0 56 (dk_at dksX0_says_1 0 rfl rfl)
theorem dX0_says_25 : decode cX0_says 25 = .ok (.invokevirtual 242, 3) := dk_182 0 242 (dk_at dksX0_says_1 3 rfl rfl)
theorem dX0_says_28 : decode cX0_says 28 = .ok (.lreturn, 1) := dk_173 (dk_at dksX0_says_1 6 rfl rfl)
abbrev cX0_put : ByteArray := prog_1_method_21_code
def yX0_put : MethodName := ⟨RX0, "put", "(III)I"⟩
def dkwX0_put_3 : List UInt8 := [27, 29, 79, 42, 3, 182, 0, 115, 172]
abbrev dktX0_put_3 : List UInt8 := dkwX0_put_3 ++ []
def dkwX0_put_2 : List UInt8 := [160, 0, 13, 42, 180, 0, 16, 180, 0, 156, 167, 0, 10, 42, 180, 0, 16, 180, 0, 159, 58, 4, 25, 4]
abbrev dktX0_put_2 : List UInt8 := dkwX0_put_2 ++ dktX0_put_3
def dkwX0_put_1 : List UInt8 := [16, 254, 182, 0, 124, 172, 28, 154, 0, 13, 42, 180, 0, 16, 180, 0, 153, 167, 0, 25, 28, 4]
abbrev dktX0_put_1 : List UInt8 := dkwX0_put_1 ++ dktX0_put_2
def dkwX0_put_0 : List UInt8 := [28, 29, 184, 0, 138, 154, 0, 9, 42, 2, 182, 0, 124, 172, 42, 27, 182, 0, 169, 154, 0, 10, 42]
abbrev dktX0_put_0 : List UInt8 := dkwX0_put_0 ++ dktX0_put_1
theorem dksX0_put_0 : cX0_put.data.toList.drop 0 = dktX0_put_0 := by decide +kernel
theorem dksX0_put_1 : cX0_put.data.toList.drop 23 = dktX0_put_1 := dk_seg dksX0_put_0 23 rfl rfl
theorem dksX0_put_2 : cX0_put.data.toList.drop 45 = dktX0_put_2 := dk_seg dksX0_put_1 22 rfl rfl
theorem dksX0_put_3 : cX0_put.data.toList.drop 69 = dktX0_put_3 := dk_seg dksX0_put_2 24 rfl rfl
theorem dX0_put_0 : decode cX0_put 0 = .ok (.iload_n 2, 1) := dk_28 (dk_at dksX0_put_0 0 rfl rfl)
theorem dX0_put_1 : decode cX0_put 1 = .ok (.iload_n 3, 1) := dk_29 (dk_at dksX0_put_0 1 rfl rfl)
theorem dX0_put_2 : decode cX0_put 2 = .ok (.invokestatic 138, 3) := dk_184 0 138 (dk_at dksX0_put_0 2 rfl rfl)
theorem dX0_put_5 : decode cX0_put 5 = .ok (.ifCond .ne 9, 3) := dk_154 0 9 (dk_at dksX0_put_0 5 rfl rfl)
theorem dX0_put_8 : decode cX0_put 8 = .ok (.aload_n 0, 1) := dk_42 (dk_at dksX0_put_0 8 rfl rfl)
theorem dX0_put_9 : decode cX0_put 9 = .ok (.iconst (-1), 1) := dk_2 (dk_at dksX0_put_0 9 rfl rfl)
theorem dX0_put_10 : decode cX0_put 10 = .ok (.invokevirtual 124, 3) := dk_182 0 124 (dk_at dksX0_put_0 10 rfl rfl)
theorem dX0_put_13 : decode cX0_put 13 = .ok (.ireturn, 1) := dk_172 (dk_at dksX0_put_0 13 rfl rfl)
theorem dX0_put_14 : decode cX0_put 14 = .ok (.aload_n 0, 1) := dk_42 (dk_at dksX0_put_0 14 rfl rfl)
theorem dX0_put_15 : decode cX0_put 15 = .ok (.iload_n 1, 1) := dk_27 (dk_at dksX0_put_0 15 rfl rfl)
theorem dX0_put_16 : decode cX0_put 16 = .ok (.invokevirtual 169, 3) := dk_182 0 169 (dk_at dksX0_put_0 16 rfl rfl)
theorem dX0_put_19 : decode cX0_put 19 = .ok (.ifCond .ne 10, 3) := dk_154 0 10 (dk_at dksX0_put_0 19 rfl rfl)
theorem dX0_put_22 : decode cX0_put 22 = .ok (.aload_n 0, 1) := dk_42 (dk_at dksX0_put_0 22 rfl rfl)
theorem dX0_put_23 : decode cX0_put 23 = .ok (.bipush (-2), 2) := dk_16 254 (dk_at dksX0_put_1 0 rfl rfl)
theorem dX0_put_25 : decode cX0_put 25 = .ok (.invokevirtual 124, 3) := dk_182 0 124 (dk_at dksX0_put_1 2 rfl rfl)
theorem dX0_put_28 : decode cX0_put 28 = .ok (.ireturn, 1) := dk_172 (dk_at dksX0_put_1 5 rfl rfl)
theorem dX0_put_29 : decode cX0_put 29 = .ok (.iload_n 2, 1) := dk_28 (dk_at dksX0_put_1 6 rfl rfl)
theorem dX0_put_30 : decode cX0_put 30 = .ok (.ifCond .ne 13, 3) := dk_154 0 13 (dk_at dksX0_put_1 7 rfl rfl)
theorem dX0_put_33 : decode cX0_put 33 = .ok (.aload_n 0, 1) := dk_42 (dk_at dksX0_put_1 10 rfl rfl)
theorem dX0_put_34 : decode cX0_put 34 = .ok (.getfield 16, 3) := dk_180 0 16 (dk_at dksX0_put_1 11 rfl rfl)
theorem dX0_put_37 : decode cX0_put 37 = .ok (.getfield 153, 3) := dk_180 0 153 (dk_at dksX0_put_1 14 rfl rfl)
theorem dX0_put_40 : decode cX0_put 40 = .ok (.goto 25, 3) := dk_167 0 25 (dk_at dksX0_put_1 17 rfl rfl)
theorem dX0_put_43 : decode cX0_put 43 = .ok (.iload_n 2, 1) := dk_28 (dk_at dksX0_put_1 20 rfl rfl)
theorem dX0_put_44 : decode cX0_put 44 = .ok (.iconst 1, 1) := dk_4 (dk_at dksX0_put_1 21 rfl rfl)
theorem dX0_put_45 : decode cX0_put 45 = .ok (.if_icmp .ne 13, 3) := dk_160 0 13 (dk_at dksX0_put_2 0 rfl rfl)
theorem dX0_put_48 : decode cX0_put 48 = .ok (.aload_n 0, 1) := dk_42 (dk_at dksX0_put_2 3 rfl rfl)
theorem dX0_put_49 : decode cX0_put 49 = .ok (.getfield 16, 3) := dk_180 0 16 (dk_at dksX0_put_2 4 rfl rfl)
theorem dX0_put_52 : decode cX0_put 52 = .ok (.getfield 156, 3) := dk_180 0 156 (dk_at dksX0_put_2 7 rfl rfl)
theorem dX0_put_55 : decode cX0_put 55 = .ok (.goto 10, 3) := dk_167 0 10 (dk_at dksX0_put_2 10 rfl rfl)
theorem dX0_put_58 : decode cX0_put 58 = .ok (.aload_n 0, 1) := dk_42 (dk_at dksX0_put_2 13 rfl rfl)
theorem dX0_put_59 : decode cX0_put 59 = .ok (.getfield 16, 3) := dk_180 0 16 (dk_at dksX0_put_2 14 rfl rfl)
theorem dX0_put_62 : decode cX0_put 62 = .ok (.getfield 159, 3) := dk_180 0 159 (dk_at dksX0_put_2 17 rfl rfl)
theorem dX0_put_65 : decode cX0_put 65 = .ok (.astore 4, 2) := dk_58 4 (dk_at dksX0_put_2 20 rfl rfl)
theorem dX0_put_67 : decode cX0_put 67 = .ok (.aload 4, 2) := dk_25 4 (dk_at dksX0_put_2 22 rfl rfl)
theorem dX0_put_69 : decode cX0_put 69 = .ok (.iload_n 1, 1) := dk_27 (dk_at dksX0_put_3 0 rfl rfl)
theorem dX0_put_70 : decode cX0_put 70 = .ok (.iload_n 3, 1) := dk_29 (dk_at dksX0_put_3 1 rfl rfl)
theorem dX0_put_71 : decode cX0_put 71 = .ok (.iastore, 1) := dk_79 (dk_at dksX0_put_3 2 rfl rfl)
theorem dX0_put_72 : decode cX0_put 72 = .ok (.aload_n 0, 1) := dk_42 (dk_at dksX0_put_3 3 rfl rfl)
theorem dX0_put_73 : decode cX0_put 73 = .ok (.iconst 0, 1) := dk_3 (dk_at dksX0_put_3 4 rfl rfl)
theorem dX0_put_74 : decode cX0_put 74 = .ok (.invokevirtual 115, 3) := dk_182 0 115 (dk_at dksX0_put_3 5 rfl rfl)
theorem dX0_put_77 : decode cX0_put 77 = .ok (.ireturn, 1) := dk_172 (dk_at dksX0_put_3 8 rfl rfl)
abbrev cX0_isCatcher : ByteArray := prog_1_method_13_code
def yX0_isCatcher : MethodName := ⟨RX0, "isCatcher", "(I)Z"⟩
def dkwX0_isCatcher_0 : List UInt8 := [27, 3, 42, 180, 0, 16, 180, 0, 118, 4, 100, 184, 0, 97, 172]
abbrev dktX0_isCatcher_0 : List UInt8 := dkwX0_isCatcher_0 ++ []
theorem dksX0_isCatcher_0 : cX0_isCatcher.data.toList.drop 0 = dktX0_isCatcher_0 := by decide +kernel
theorem dX0_isCatcher_0 : decode cX0_isCatcher 0 = .ok (.iload_n 1, 1) := dk_27 (dk_at dksX0_isCatcher_0 0 rfl rfl)
theorem dX0_isCatcher_1 : decode cX0_isCatcher 1 = .ok (.iconst 0, 1) := dk_3 (dk_at dksX0_isCatcher_0 1 rfl rfl)
theorem dX0_isCatcher_2 : decode cX0_isCatcher 2 = .ok (.aload_n 0, 1) := dk_42 (dk_at dksX0_isCatcher_0 2 rfl rfl)
theorem dX0_isCatcher_3 : decode cX0_isCatcher 3 = .ok (.getfield 16, 3) := dk_180 0 16 (dk_at dksX0_isCatcher_0 3 rfl rfl)
theorem dX0_isCatcher_6 : decode cX0_isCatcher 6 = .ok (.getfield 118, 3) := dk_180 0 118 (dk_at dksX0_isCatcher_0 6 rfl rfl)
theorem dX0_isCatcher_9 : decode cX0_isCatcher 9 = .ok (.iconst 1, 1) := dk_4 (dk_at dksX0_isCatcher_0 9 rfl rfl)
theorem dX0_isCatcher_10 : decode cX0_isCatcher 10 = .ok (.isub, 1) := dk_100 (dk_at dksX0_isCatcher_0 10 rfl rfl)
theorem dX0_isCatcher_11 : decode cX0_isCatcher 11 = .ok (.invokestatic 97, 3) := dk_184 0 97 (dk_at dksX0_isCatcher_0 11 rfl rfl)
theorem dX0_isCatcher_14 : decode cX0_isCatcher 14 = .ok (.ireturn, 1) := dk_172 (dk_at dksX0_isCatcher_0 14 rfl rfl)
abbrev cX0_of : ByteArray := prog_1_method_22_code
def yX0_of : MethodName := ⟨RX0, "of", "(II)I"⟩
def dkwX0_of_4 : List UInt8 := [46, 172, 17, 252, 24, 172]
abbrev dktX0_of_4 : List UInt8 := dkwX0_of_4 ++ []
def dkwX0_of_3 : List UInt8 := [180, 0, 159, 27, 46, 172, 42, 180, 0, 16, 180, 0, 142, 27, 46, 172, 42, 180, 0, 16, 180, 0, 162, 27]
abbrev dktX0_of_3 : List UInt8 := dkwX0_of_3 ++ dktX0_of_4
def dkwX0_of_2 : List UInt8 := [42, 180, 0, 16, 180, 0, 153, 27, 46, 172, 42, 180, 0, 16, 180, 0, 156, 27, 46, 172, 42, 180, 0, 16]
abbrev dktX0_of_2 : List UInt8 := dkwX0_of_2 ++ dktX0_of_3
def dkwX0_of_1 : List UInt8 := [170, 0, 0, 0, 0, 0, 85, 0, 0, 0, 0, 0, 0, 0, 4, 0, 0, 0, 35, 0, 0, 0, 45, 0, 0, 0, 55, 0, 0, 0, 65, 0, 0, 0, 75]
abbrev dktX0_of_1 : List UInt8 := dkwX0_of_1 ++ dktX0_of_2
def dkwX0_of_0 : List UInt8 := [42, 27, 182, 0, 169, 154, 0, 7, 17, 252, 24, 172, 28]
abbrev dktX0_of_0 : List UInt8 := dkwX0_of_0 ++ dktX0_of_1
theorem dksX0_of_0 : cX0_of.data.toList.drop 0 = dktX0_of_0 := by decide +kernel
theorem dksX0_of_1 : cX0_of.data.toList.drop 13 = dktX0_of_1 := dk_seg dksX0_of_0 13 rfl rfl
theorem dksX0_of_2 : cX0_of.data.toList.drop 48 = dktX0_of_2 := dk_seg dksX0_of_1 35 rfl rfl
theorem dksX0_of_3 : cX0_of.data.toList.drop 72 = dktX0_of_3 := dk_seg dksX0_of_2 24 rfl rfl
theorem dksX0_of_4 : cX0_of.data.toList.drop 96 = dktX0_of_4 := dk_seg dksX0_of_3 24 rfl rfl
theorem dX0_of_0 : decode cX0_of 0 = .ok (.aload_n 0, 1) := dk_42 (dk_at dksX0_of_0 0 rfl rfl)
theorem dX0_of_1 : decode cX0_of 1 = .ok (.iload_n 1, 1) := dk_27 (dk_at dksX0_of_0 1 rfl rfl)
theorem dX0_of_2 : decode cX0_of 2 = .ok (.invokevirtual 169, 3) := dk_182 0 169 (dk_at dksX0_of_0 2 rfl rfl)
theorem dX0_of_5 : decode cX0_of 5 = .ok (.ifCond .ne 7, 3) := dk_154 0 7 (dk_at dksX0_of_0 5 rfl rfl)
theorem dX0_of_8 : decode cX0_of 8 = .ok (.sipush (-1000), 3) := dk_17 252 24 (dk_at dksX0_of_0 8 rfl rfl)
theorem dX0_of_11 : decode cX0_of 11 = .ok (.ireturn, 1) := dk_172 (dk_at dksX0_of_0 11 rfl rfl)
theorem dX0_of_12 : decode cX0_of 12 = .ok (.iload_n 2, 1) := dk_28 (dk_at dksX0_of_0 12 rfl rfl)
theorem dX0_of_13 : decode cX0_of 13 = .ok (.tableswitch 85 0 4 #[35, 45, 55, 65, 75], 35) := by decide +kernel
theorem dX0_of_48 : decode cX0_of 48 = .ok (.aload_n 0, 1) := dk_42 (dk_at dksX0_of_2 0 rfl rfl)
theorem dX0_of_49 : decode cX0_of 49 = .ok (.getfield 16, 3) := dk_180 0 16 (dk_at dksX0_of_2 1 rfl rfl)
theorem dX0_of_52 : decode cX0_of 52 = .ok (.getfield 153, 3) := dk_180 0 153 (dk_at dksX0_of_2 4 rfl rfl)
theorem dX0_of_55 : decode cX0_of 55 = .ok (.iload_n 1, 1) := dk_27 (dk_at dksX0_of_2 7 rfl rfl)
theorem dX0_of_56 : decode cX0_of 56 = .ok (.iaload, 1) := dk_46 (dk_at dksX0_of_2 8 rfl rfl)
theorem dX0_of_57 : decode cX0_of 57 = .ok (.ireturn, 1) := dk_172 (dk_at dksX0_of_2 9 rfl rfl)
theorem dX0_of_58 : decode cX0_of 58 = .ok (.aload_n 0, 1) := dk_42 (dk_at dksX0_of_2 10 rfl rfl)
theorem dX0_of_59 : decode cX0_of 59 = .ok (.getfield 16, 3) := dk_180 0 16 (dk_at dksX0_of_2 11 rfl rfl)
theorem dX0_of_62 : decode cX0_of 62 = .ok (.getfield 156, 3) := dk_180 0 156 (dk_at dksX0_of_2 14 rfl rfl)
theorem dX0_of_65 : decode cX0_of 65 = .ok (.iload_n 1, 1) := dk_27 (dk_at dksX0_of_2 17 rfl rfl)
theorem dX0_of_66 : decode cX0_of 66 = .ok (.iaload, 1) := dk_46 (dk_at dksX0_of_2 18 rfl rfl)
theorem dX0_of_67 : decode cX0_of 67 = .ok (.ireturn, 1) := dk_172 (dk_at dksX0_of_2 19 rfl rfl)
theorem dX0_of_68 : decode cX0_of 68 = .ok (.aload_n 0, 1) := dk_42 (dk_at dksX0_of_2 20 rfl rfl)
theorem dX0_of_69 : decode cX0_of 69 = .ok (.getfield 16, 3) := dk_180 0 16 (dk_at dksX0_of_2 21 rfl rfl)
theorem dX0_of_72 : decode cX0_of 72 = .ok (.getfield 159, 3) := dk_180 0 159 (dk_at dksX0_of_3 0 rfl rfl)
theorem dX0_of_75 : decode cX0_of 75 = .ok (.iload_n 1, 1) := dk_27 (dk_at dksX0_of_3 3 rfl rfl)
theorem dX0_of_76 : decode cX0_of 76 = .ok (.iaload, 1) := dk_46 (dk_at dksX0_of_3 4 rfl rfl)
theorem dX0_of_77 : decode cX0_of 77 = .ok (.ireturn, 1) := dk_172 (dk_at dksX0_of_3 5 rfl rfl)
theorem dX0_of_78 : decode cX0_of 78 = .ok (.aload_n 0, 1) := dk_42 (dk_at dksX0_of_3 6 rfl rfl)
theorem dX0_of_79 : decode cX0_of 79 = .ok (.getfield 16, 3) := dk_180 0 16 (dk_at dksX0_of_3 7 rfl rfl)
theorem dX0_of_82 : decode cX0_of 82 = .ok (.getfield 142, 3) := dk_180 0 142 (dk_at dksX0_of_3 10 rfl rfl)
theorem dX0_of_85 : decode cX0_of 85 = .ok (.iload_n 1, 1) := dk_27 (dk_at dksX0_of_3 13 rfl rfl)
theorem dX0_of_86 : decode cX0_of 86 = .ok (.iaload, 1) := dk_46 (dk_at dksX0_of_3 14 rfl rfl)
theorem dX0_of_87 : decode cX0_of 87 = .ok (.ireturn, 1) := dk_172 (dk_at dksX0_of_3 15 rfl rfl)
theorem dX0_of_88 : decode cX0_of 88 = .ok (.aload_n 0, 1) := dk_42 (dk_at dksX0_of_3 16 rfl rfl)
theorem dX0_of_89 : decode cX0_of 89 = .ok (.getfield 16, 3) := dk_180 0 16 (dk_at dksX0_of_3 17 rfl rfl)
theorem dX0_of_92 : decode cX0_of 92 = .ok (.getfield 162, 3) := dk_180 0 162 (dk_at dksX0_of_3 20 rfl rfl)
theorem dX0_of_95 : decode cX0_of 95 = .ok (.iload_n 1, 1) := dk_27 (dk_at dksX0_of_3 23 rfl rfl)
theorem dX0_of_96 : decode cX0_of 96 = .ok (.iaload, 1) := dk_46 (dk_at dksX0_of_4 0 rfl rfl)
theorem dX0_of_97 : decode cX0_of 97 = .ok (.ireturn, 1) := dk_172 (dk_at dksX0_of_4 1 rfl rfl)
theorem dX0_of_98 : decode cX0_of 98 = .ok (.sipush (-1000), 3) := dk_17 252 24 (dk_at dksX0_of_4 2 rfl rfl)
theorem dX0_of_101 : decode cX0_of 101 = .ok (.ireturn, 1) := dk_172 (dk_at dksX0_of_4 5 rfl rfl)
abbrev cX0_terms : ByteArray := prog_1_method_24_code
def yX0_terms : MethodName := ⟨RX0, "terms", "(II)I"⟩
def dkwX0_terms_1 : List UInt8 := [42, 3, 182, 0, 115, 172]
abbrev dktX0_terms_1 : List UInt8 := dkwX0_terms_1 ++ []
def dkwX0_terms_0 : List UInt8 := [27, 28, 184, 0, 172, 154, 0, 9, 42, 2, 182, 0, 124, 172, 42, 180, 0, 16, 180, 0, 121, 27, 28, 79]
abbrev dktX0_terms_0 : List UInt8 := dkwX0_terms_0 ++ dktX0_terms_1
theorem dksX0_terms_0 : cX0_terms.data.toList.drop 0 = dktX0_terms_0 := by decide +kernel
theorem dksX0_terms_1 : cX0_terms.data.toList.drop 24 = dktX0_terms_1 := dk_seg dksX0_terms_0 24 rfl rfl
theorem dX0_terms_0 : decode cX0_terms 0 = .ok (.iload_n 1, 1) := dk_27 (dk_at dksX0_terms_0 0 rfl rfl)
theorem dX0_terms_1 : decode cX0_terms 1 = .ok (.iload_n 2, 1) := dk_28 (dk_at dksX0_terms_0 1 rfl rfl)
theorem dX0_terms_2 : decode cX0_terms 2 = .ok (.invokestatic 172, 3) := dk_184 0 172 (dk_at dksX0_terms_0 2 rfl rfl)
theorem dX0_terms_5 : decode cX0_terms 5 = .ok (.ifCond .ne 9, 3) := dk_154 0 9 (dk_at dksX0_terms_0 5 rfl rfl)
theorem dX0_terms_8 : decode cX0_terms 8 = .ok (.aload_n 0, 1) := dk_42 (dk_at dksX0_terms_0 8 rfl rfl)
theorem dX0_terms_9 : decode cX0_terms 9 = .ok (.iconst (-1), 1) := dk_2 (dk_at dksX0_terms_0 9 rfl rfl)
theorem dX0_terms_10 : decode cX0_terms 10 = .ok (.invokevirtual 124, 3) := dk_182 0 124 (dk_at dksX0_terms_0 10 rfl rfl)
theorem dX0_terms_13 : decode cX0_terms 13 = .ok (.ireturn, 1) := dk_172 (dk_at dksX0_terms_0 13 rfl rfl)
theorem dX0_terms_14 : decode cX0_terms 14 = .ok (.aload_n 0, 1) := dk_42 (dk_at dksX0_terms_0 14 rfl rfl)
theorem dX0_terms_15 : decode cX0_terms 15 = .ok (.getfield 16, 3) := dk_180 0 16 (dk_at dksX0_terms_0 15 rfl rfl)
theorem dX0_terms_18 : decode cX0_terms 18 = .ok (.getfield 121, 3) := dk_180 0 121 (dk_at dksX0_terms_0 18 rfl rfl)
theorem dX0_terms_21 : decode cX0_terms 21 = .ok (.iload_n 1, 1) := dk_27 (dk_at dksX0_terms_0 21 rfl rfl)
theorem dX0_terms_22 : decode cX0_terms 22 = .ok (.iload_n 2, 1) := dk_28 (dk_at dksX0_terms_0 22 rfl rfl)
theorem dX0_terms_23 : decode cX0_terms 23 = .ok (.iastore, 1) := dk_79 (dk_at dksX0_terms_0 23 rfl rfl)
theorem dX0_terms_24 : decode cX0_terms 24 = .ok (.aload_n 0, 1) := dk_42 (dk_at dksX0_terms_1 0 rfl rfl)
theorem dX0_terms_25 : decode cX0_terms 25 = .ok (.iconst 0, 1) := dk_3 (dk_at dksX0_terms_1 1 rfl rfl)
theorem dX0_terms_26 : decode cX0_terms 26 = .ok (.invokevirtual 115, 3) := dk_182 0 115 (dk_at dksX0_terms_1 2 rfl rfl)
theorem dX0_terms_29 : decode cX0_terms 29 = .ok (.ireturn, 1) := dk_172 (dk_at dksX0_terms_1 5 rfl rfl)
abbrev cX0_isTerm : ByteArray := prog_1_method_23_code
def yX0_isTerm : MethodName := ⟨RX0, "isTerm", "(II)Z"⟩
def dkwX0_isTerm_4 : List UInt8 := [184, 0, 97, 172, 27, 3, 16, 9, 184, 0, 97, 172, 3, 172]
abbrev dktX0_isTerm_4 : List UInt8 := dkwX0_isTerm_4 ++ []
def dkwX0_isTerm_3 : List UInt8 := [5, 6, 184, 0, 97, 172, 27, 3, 8, 184, 0, 97, 172, 27, 3, 5, 184, 0, 97, 172, 27, 2, 16, 35]
abbrev dktX0_isTerm_3 : List UInt8 := dkwX0_isTerm_3 ++ dktX0_isTerm_4
def dkwX0_isTerm_2 : List UInt8 := [27, 4, 8, 184, 0, 97, 172, 27, 16, 254, 5, 184, 0, 97, 172, 27, 4, 16, 9, 184, 0, 97, 172, 27]
abbrev dktX0_isTerm_2 : List UInt8 := dkwX0_isTerm_2 ++ dktX0_isTerm_3
def dkwX0_isTerm_1 : List UInt8 := [170, 0, 0, 0, 0, 0, 111, 0, 0, 0, 0, 0, 0, 0, 8, 0, 0, 0, 51, 0, 0, 0, 58, 0, 0, 0, 66, 0, 0, 0, 74, 0, 0, 0, 81, 0, 0, 0, 88, 0, 0, 0, 95, 0, 0, 0, 66, 0, 0, 0, 103]
abbrev dktX0_isTerm_1 : List UInt8 := dkwX0_isTerm_1 ++ dktX0_isTerm_2
def dkwX0_isTerm_0 : List UInt8 := [26]
abbrev dktX0_isTerm_0 : List UInt8 := dkwX0_isTerm_0 ++ dktX0_isTerm_1
theorem dksX0_isTerm_0 : cX0_isTerm.data.toList.drop 0 = dktX0_isTerm_0 := by decide +kernel
theorem dksX0_isTerm_1 : cX0_isTerm.data.toList.drop 1 = dktX0_isTerm_1 := dk_seg dksX0_isTerm_0 1 rfl rfl
theorem dksX0_isTerm_2 : cX0_isTerm.data.toList.drop 52 = dktX0_isTerm_2 := dk_seg dksX0_isTerm_1 51 rfl rfl
theorem dksX0_isTerm_3 : cX0_isTerm.data.toList.drop 76 = dktX0_isTerm_3 := dk_seg dksX0_isTerm_2 24 rfl rfl
theorem dksX0_isTerm_4 : cX0_isTerm.data.toList.drop 100 = dktX0_isTerm_4 := dk_seg dksX0_isTerm_3 24 rfl rfl
theorem dX0_isTerm_0 : decode cX0_isTerm 0 = .ok (.iload_n 0, 1) := dk_26 (dk_at dksX0_isTerm_0 0 rfl rfl)
theorem dX0_isTerm_1 : decode cX0_isTerm 1 = .ok (.tableswitch 111 0 8 #[51, 58, 66, 74, 81, 88, 95, 66, 103], 51) := by decide +kernel
theorem dX0_isTerm_52 : decode cX0_isTerm 52 = .ok (.iload_n 1, 1) := dk_27 (dk_at dksX0_isTerm_2 0 rfl rfl)
theorem dX0_isTerm_53 : decode cX0_isTerm 53 = .ok (.iconst 1, 1) := dk_4 (dk_at dksX0_isTerm_2 1 rfl rfl)
theorem dX0_isTerm_54 : decode cX0_isTerm 54 = .ok (.iconst 5, 1) := dk_8 (dk_at dksX0_isTerm_2 2 rfl rfl)
theorem dX0_isTerm_55 : decode cX0_isTerm 55 = .ok (.invokestatic 97, 3) := dk_184 0 97 (dk_at dksX0_isTerm_2 3 rfl rfl)
theorem dX0_isTerm_58 : decode cX0_isTerm 58 = .ok (.ireturn, 1) := dk_172 (dk_at dksX0_isTerm_2 6 rfl rfl)
theorem dX0_isTerm_59 : decode cX0_isTerm 59 = .ok (.iload_n 1, 1) := dk_27 (dk_at dksX0_isTerm_2 7 rfl rfl)
theorem dX0_isTerm_60 : decode cX0_isTerm 60 = .ok (.bipush (-2), 2) := dk_16 254 (dk_at dksX0_isTerm_2 8 rfl rfl)
theorem dX0_isTerm_62 : decode cX0_isTerm 62 = .ok (.iconst 2, 1) := dk_5 (dk_at dksX0_isTerm_2 10 rfl rfl)
theorem dX0_isTerm_63 : decode cX0_isTerm 63 = .ok (.invokestatic 97, 3) := dk_184 0 97 (dk_at dksX0_isTerm_2 11 rfl rfl)
theorem dX0_isTerm_66 : decode cX0_isTerm 66 = .ok (.ireturn, 1) := dk_172 (dk_at dksX0_isTerm_2 14 rfl rfl)
theorem dX0_isTerm_67 : decode cX0_isTerm 67 = .ok (.iload_n 1, 1) := dk_27 (dk_at dksX0_isTerm_2 15 rfl rfl)
theorem dX0_isTerm_68 : decode cX0_isTerm 68 = .ok (.iconst 1, 1) := dk_4 (dk_at dksX0_isTerm_2 16 rfl rfl)
theorem dX0_isTerm_69 : decode cX0_isTerm 69 = .ok (.bipush 9, 2) := dk_16 9 (dk_at dksX0_isTerm_2 17 rfl rfl)
theorem dX0_isTerm_71 : decode cX0_isTerm 71 = .ok (.invokestatic 97, 3) := dk_184 0 97 (dk_at dksX0_isTerm_2 19 rfl rfl)
theorem dX0_isTerm_74 : decode cX0_isTerm 74 = .ok (.ireturn, 1) := dk_172 (dk_at dksX0_isTerm_2 22 rfl rfl)
theorem dX0_isTerm_75 : decode cX0_isTerm 75 = .ok (.iload_n 1, 1) := dk_27 (dk_at dksX0_isTerm_2 23 rfl rfl)
theorem dX0_isTerm_76 : decode cX0_isTerm 76 = .ok (.iconst 2, 1) := dk_5 (dk_at dksX0_isTerm_3 0 rfl rfl)
theorem dX0_isTerm_77 : decode cX0_isTerm 77 = .ok (.iconst 3, 1) := dk_6 (dk_at dksX0_isTerm_3 1 rfl rfl)
theorem dX0_isTerm_78 : decode cX0_isTerm 78 = .ok (.invokestatic 97, 3) := dk_184 0 97 (dk_at dksX0_isTerm_3 2 rfl rfl)
theorem dX0_isTerm_81 : decode cX0_isTerm 81 = .ok (.ireturn, 1) := dk_172 (dk_at dksX0_isTerm_3 5 rfl rfl)
theorem dX0_isTerm_82 : decode cX0_isTerm 82 = .ok (.iload_n 1, 1) := dk_27 (dk_at dksX0_isTerm_3 6 rfl rfl)
theorem dX0_isTerm_83 : decode cX0_isTerm 83 = .ok (.iconst 0, 1) := dk_3 (dk_at dksX0_isTerm_3 7 rfl rfl)
theorem dX0_isTerm_84 : decode cX0_isTerm 84 = .ok (.iconst 5, 1) := dk_8 (dk_at dksX0_isTerm_3 8 rfl rfl)
theorem dX0_isTerm_85 : decode cX0_isTerm 85 = .ok (.invokestatic 97, 3) := dk_184 0 97 (dk_at dksX0_isTerm_3 9 rfl rfl)
theorem dX0_isTerm_88 : decode cX0_isTerm 88 = .ok (.ireturn, 1) := dk_172 (dk_at dksX0_isTerm_3 12 rfl rfl)
theorem dX0_isTerm_89 : decode cX0_isTerm 89 = .ok (.iload_n 1, 1) := dk_27 (dk_at dksX0_isTerm_3 13 rfl rfl)
theorem dX0_isTerm_90 : decode cX0_isTerm 90 = .ok (.iconst 0, 1) := dk_3 (dk_at dksX0_isTerm_3 14 rfl rfl)
theorem dX0_isTerm_91 : decode cX0_isTerm 91 = .ok (.iconst 2, 1) := dk_5 (dk_at dksX0_isTerm_3 15 rfl rfl)
theorem dX0_isTerm_92 : decode cX0_isTerm 92 = .ok (.invokestatic 97, 3) := dk_184 0 97 (dk_at dksX0_isTerm_3 16 rfl rfl)
theorem dX0_isTerm_95 : decode cX0_isTerm 95 = .ok (.ireturn, 1) := dk_172 (dk_at dksX0_isTerm_3 19 rfl rfl)
theorem dX0_isTerm_96 : decode cX0_isTerm 96 = .ok (.iload_n 1, 1) := dk_27 (dk_at dksX0_isTerm_3 20 rfl rfl)
theorem dX0_isTerm_97 : decode cX0_isTerm 97 = .ok (.iconst (-1), 1) := dk_2 (dk_at dksX0_isTerm_3 21 rfl rfl)
theorem dX0_isTerm_98 : decode cX0_isTerm 98 = .ok (.bipush 35, 2) := dk_16 35 (dk_at dksX0_isTerm_3 22 rfl rfl)
theorem dX0_isTerm_100 : decode cX0_isTerm 100 = .ok (.invokestatic 97, 3) := dk_184 0 97 (dk_at dksX0_isTerm_4 0 rfl rfl)
theorem dX0_isTerm_103 : decode cX0_isTerm 103 = .ok (.ireturn, 1) := dk_172 (dk_at dksX0_isTerm_4 3 rfl rfl)
theorem dX0_isTerm_104 : decode cX0_isTerm 104 = .ok (.iload_n 1, 1) := dk_27 (dk_at dksX0_isTerm_4 4 rfl rfl)
theorem dX0_isTerm_105 : decode cX0_isTerm 105 = .ok (.iconst 0, 1) := dk_3 (dk_at dksX0_isTerm_4 5 rfl rfl)
theorem dX0_isTerm_106 : decode cX0_isTerm 106 = .ok (.bipush 9, 2) := dk_16 9 (dk_at dksX0_isTerm_4 6 rfl rfl)
theorem dX0_isTerm_108 : decode cX0_isTerm 108 = .ok (.invokestatic 97, 3) := dk_184 0 97 (dk_at dksX0_isTerm_4 8 rfl rfl)
theorem dX0_isTerm_111 : decode cX0_isTerm 111 = .ok (.ireturn, 1) := dk_172 (dk_at dksX0_isTerm_4 11 rfl rfl)
theorem dX0_isTerm_112 : decode cX0_isTerm 112 = .ok (.iconst 0, 1) := dk_3 (dk_at dksX0_isTerm_4 12 rfl rfl)
theorem dX0_isTerm_113 : decode cX0_isTerm 113 = .ok (.ireturn, 1) := dk_172 (dk_at dksX0_isTerm_4 13 rfl rfl)
abbrev cX0_feed : ByteArray := prog_1_method_25_code
def yX0_feed : MethodName := ⟨RX0, "feed", "(IIIII)I"⟩
def dkwX0_feed_2 : List UInt8 := [172]
abbrev dktX0_feed_2 : List UInt8 := dkwX0_feed_2 ++ []
def dkwX0_feed_1 : List UInt8 := [182, 0, 178, 42, 29, 182, 0, 178, 42, 21, 4, 182, 0, 178, 42, 21, 5, 182, 0, 178, 42, 180, 0, 175]
abbrev dktX0_feed_1 : List UInt8 := dkwX0_feed_1 ++ dktX0_feed_2
def dkwX0_feed_0 : List UInt8 := [42, 180, 0, 175, 16, 20, 96, 17, 1, 144, 164, 0, 5, 2, 172, 42, 27, 182, 0, 178, 42, 28]
abbrev dktX0_feed_0 : List UInt8 := dkwX0_feed_0 ++ dktX0_feed_1
theorem dksX0_feed_0 : cX0_feed.data.toList.drop 0 = dktX0_feed_0 := by decide +kernel
theorem dksX0_feed_1 : cX0_feed.data.toList.drop 22 = dktX0_feed_1 := dk_seg dksX0_feed_0 22 rfl rfl
theorem dksX0_feed_2 : cX0_feed.data.toList.drop 46 = dktX0_feed_2 := dk_seg dksX0_feed_1 24 rfl rfl
theorem dX0_feed_0 : decode cX0_feed 0 = .ok (.aload_n 0, 1) := dk_42 (dk_at dksX0_feed_0 0 rfl rfl)
theorem dX0_feed_1 : decode cX0_feed 1 = .ok (.getfield 175, 3) := dk_180 0 175 (dk_at dksX0_feed_0 1 rfl rfl)
theorem dX0_feed_4 : decode cX0_feed 4 = .ok (.bipush 20, 2) := dk_16 20 (dk_at dksX0_feed_0 4 rfl rfl)
theorem dX0_feed_6 : decode cX0_feed 6 = .ok (.iadd, 1) := dk_96 (dk_at dksX0_feed_0 6 rfl rfl)
theorem dX0_feed_7 : decode cX0_feed 7 = .ok (.sipush 400, 3) := dk_17 1 144 (dk_at dksX0_feed_0 7 rfl rfl)
theorem dX0_feed_10 : decode cX0_feed 10 = .ok (.if_icmp .le 5, 3) := dk_164 0 5 (dk_at dksX0_feed_0 10 rfl rfl)
theorem dX0_feed_13 : decode cX0_feed 13 = .ok (.iconst (-1), 1) := dk_2 (dk_at dksX0_feed_0 13 rfl rfl)
theorem dX0_feed_14 : decode cX0_feed 14 = .ok (.ireturn, 1) := dk_172 (dk_at dksX0_feed_0 14 rfl rfl)
theorem dX0_feed_15 : decode cX0_feed 15 = .ok (.aload_n 0, 1) := dk_42 (dk_at dksX0_feed_0 15 rfl rfl)
theorem dX0_feed_16 : decode cX0_feed 16 = .ok (.iload_n 1, 1) := dk_27 (dk_at dksX0_feed_0 16 rfl rfl)
theorem dX0_feed_17 : decode cX0_feed 17 = .ok (.invokevirtual 178, 3) := dk_182 0 178 (dk_at dksX0_feed_0 17 rfl rfl)
theorem dX0_feed_20 : decode cX0_feed 20 = .ok (.aload_n 0, 1) := dk_42 (dk_at dksX0_feed_0 20 rfl rfl)
theorem dX0_feed_21 : decode cX0_feed 21 = .ok (.iload_n 2, 1) := dk_28 (dk_at dksX0_feed_0 21 rfl rfl)
theorem dX0_feed_22 : decode cX0_feed 22 = .ok (.invokevirtual 178, 3) := dk_182 0 178 (dk_at dksX0_feed_1 0 rfl rfl)
theorem dX0_feed_25 : decode cX0_feed 25 = .ok (.aload_n 0, 1) := dk_42 (dk_at dksX0_feed_1 3 rfl rfl)
theorem dX0_feed_26 : decode cX0_feed 26 = .ok (.iload_n 3, 1) := dk_29 (dk_at dksX0_feed_1 4 rfl rfl)
theorem dX0_feed_27 : decode cX0_feed 27 = .ok (.invokevirtual 178, 3) := dk_182 0 178 (dk_at dksX0_feed_1 5 rfl rfl)
theorem dX0_feed_30 : decode cX0_feed 30 = .ok (.aload_n 0, 1) := dk_42 (dk_at dksX0_feed_1 8 rfl rfl)
theorem dX0_feed_31 : decode cX0_feed 31 = .ok (.iload 4, 2) := dk_21 4 (dk_at dksX0_feed_1 9 rfl rfl)
theorem dX0_feed_33 : decode cX0_feed 33 = .ok (.invokevirtual 178, 3) := dk_182 0 178 (dk_at dksX0_feed_1 11 rfl rfl)
theorem dX0_feed_36 : decode cX0_feed 36 = .ok (.aload_n 0, 1) := dk_42 (dk_at dksX0_feed_1 14 rfl rfl)
theorem dX0_feed_37 : decode cX0_feed 37 = .ok (.iload 5, 2) := dk_21 5 (dk_at dksX0_feed_1 15 rfl rfl)
theorem dX0_feed_39 : decode cX0_feed 39 = .ok (.invokevirtual 178, 3) := dk_182 0 178 (dk_at dksX0_feed_1 17 rfl rfl)
theorem dX0_feed_42 : decode cX0_feed 42 = .ok (.aload_n 0, 1) := dk_42 (dk_at dksX0_feed_1 20 rfl rfl)
theorem dX0_feed_43 : decode cX0_feed 43 = .ok (.getfield 175, 3) := dk_180 0 175 (dk_at dksX0_feed_1 21 rfl rfl)
theorem dX0_feed_46 : decode cX0_feed 46 = .ok (.ireturn, 1) := dk_172 (dk_at dksX0_feed_2 0 rfl rfl)
abbrev cX0_four : ByteArray := prog_1_method_26_code
def yX0_four : MethodName := ⟨RX0, "four", "(I)V"⟩
def dkwX0_four_1 : List UInt8 := [180, 0, 175, 4, 96, 181, 0, 175, 132, 2, 248, 167, 255, 226, 177]
abbrev dktX0_four_1 : List UInt8 := dkwX0_four_1 ++ []
def dkwX0_four_0 : List UInt8 := [16, 24, 61, 28, 155, 0, 32, 42, 180, 0, 42, 42, 180, 0, 175, 27, 28, 122, 145, 84, 42, 89]
abbrev dktX0_four_0 : List UInt8 := dkwX0_four_0 ++ dktX0_four_1
theorem dksX0_four_0 : cX0_four.data.toList.drop 0 = dktX0_four_0 := by decide +kernel
theorem dksX0_four_1 : cX0_four.data.toList.drop 22 = dktX0_four_1 := dk_seg dksX0_four_0 22 rfl rfl
theorem dX0_four_0 : decode cX0_four 0 = .ok (.bipush 24, 2) := dk_16 24 (dk_at dksX0_four_0 0 rfl rfl)
theorem dX0_four_2 : decode cX0_four 2 = .ok (.istore_n 2, 1) := dk_61 (dk_at dksX0_four_0 2 rfl rfl)
theorem dX0_four_3 : decode cX0_four 3 = .ok (.iload_n 2, 1) := dk_28 (dk_at dksX0_four_0 3 rfl rfl)
theorem dX0_four_4 : decode cX0_four 4 = .ok (.ifCond .lt 32, 3) := dk_155 0 32 (dk_at dksX0_four_0 4 rfl rfl)
theorem dX0_four_7 : decode cX0_four 7 = .ok (.aload_n 0, 1) := dk_42 (dk_at dksX0_four_0 7 rfl rfl)
theorem dX0_four_8 : decode cX0_four 8 = .ok (.getfield 42, 3) := dk_180 0 42 (dk_at dksX0_four_0 8 rfl rfl)
theorem dX0_four_11 : decode cX0_four 11 = .ok (.aload_n 0, 1) := dk_42 (dk_at dksX0_four_0 11 rfl rfl)
theorem dX0_four_12 : decode cX0_four 12 = .ok (.getfield 175, 3) := dk_180 0 175 (dk_at dksX0_four_0 12 rfl rfl)
theorem dX0_four_15 : decode cX0_four 15 = .ok (.iload_n 1, 1) := dk_27 (dk_at dksX0_four_0 15 rfl rfl)
theorem dX0_four_16 : decode cX0_four 16 = .ok (.iload_n 2, 1) := dk_28 (dk_at dksX0_four_0 16 rfl rfl)
theorem dX0_four_17 : decode cX0_four 17 = .ok (.ishr, 1) := dk_122 (dk_at dksX0_four_0 17 rfl rfl)
theorem dX0_four_18 : decode cX0_four 18 = .ok (.i2b, 1) := dk_145 (dk_at dksX0_four_0 18 rfl rfl)
theorem dX0_four_19 : decode cX0_four 19 = .ok (.bastore, 1) := dk_84 (dk_at dksX0_four_0 19 rfl rfl)
theorem dX0_four_20 : decode cX0_four 20 = .ok (.aload_n 0, 1) := dk_42 (dk_at dksX0_four_0 20 rfl rfl)
theorem dX0_four_21 : decode cX0_four 21 = .ok (.dup, 1) := dk_89 (dk_at dksX0_four_0 21 rfl rfl)
theorem dX0_four_22 : decode cX0_four 22 = .ok (.getfield 175, 3) := dk_180 0 175 (dk_at dksX0_four_1 0 rfl rfl)
theorem dX0_four_25 : decode cX0_four 25 = .ok (.iconst 1, 1) := dk_4 (dk_at dksX0_four_1 3 rfl rfl)
theorem dX0_four_26 : decode cX0_four 26 = .ok (.iadd, 1) := dk_96 (dk_at dksX0_four_1 4 rfl rfl)
theorem dX0_four_27 : decode cX0_four 27 = .ok (.putfield 175, 3) := dk_181 0 175 (dk_at dksX0_four_1 5 rfl rfl)
theorem dX0_four_30 : decode cX0_four 30 = .ok (.iinc 2 (-8), 3) := dk_132 2 248 (dk_at dksX0_four_1 8 rfl rfl)
theorem dX0_four_33 : decode cX0_four 33 = .ok (.goto (-30), 3) := dk_167 255 226 (dk_at dksX0_four_1 11 rfl rfl)
theorem dX0_four_36 : decode cX0_four 36 = .ok (.return_, 1) := dk_177 (dk_at dksX0_four_1 14 rfl rfl)
abbrev cX0_end : ByteArray := prog_1_method_27_code
def yX0_end : MethodName := ⟨RX0, "end", "(I)I"⟩
def dkwX0_end_0 : List UInt8 := [27, 155, 0, 11, 27, 42, 180, 0, 175, 164, 0, 5, 2, 172, 42, 27, 181, 0, 175, 27, 172]
abbrev dktX0_end_0 : List UInt8 := dkwX0_end_0 ++ []
theorem dksX0_end_0 : cX0_end.data.toList.drop 0 = dktX0_end_0 := by decide +kernel
theorem dX0_end_0 : decode cX0_end 0 = .ok (.iload_n 1, 1) := dk_27 (dk_at dksX0_end_0 0 rfl rfl)
theorem dX0_end_1 : decode cX0_end 1 = .ok (.ifCond .lt 11, 3) := dk_155 0 11 (dk_at dksX0_end_0 1 rfl rfl)
theorem dX0_end_4 : decode cX0_end 4 = .ok (.iload_n 1, 1) := dk_27 (dk_at dksX0_end_0 4 rfl rfl)
theorem dX0_end_5 : decode cX0_end 5 = .ok (.aload_n 0, 1) := dk_42 (dk_at dksX0_end_0 5 rfl rfl)
theorem dX0_end_6 : decode cX0_end 6 = .ok (.getfield 175, 3) := dk_180 0 175 (dk_at dksX0_end_0 6 rfl rfl)
theorem dX0_end_9 : decode cX0_end 9 = .ok (.if_icmp .le 5, 3) := dk_164 0 5 (dk_at dksX0_end_0 9 rfl rfl)
theorem dX0_end_12 : decode cX0_end 12 = .ok (.iconst (-1), 1) := dk_2 (dk_at dksX0_end_0 12 rfl rfl)
theorem dX0_end_13 : decode cX0_end 13 = .ok (.ireturn, 1) := dk_172 (dk_at dksX0_end_0 13 rfl rfl)
theorem dX0_end_14 : decode cX0_end 14 = .ok (.aload_n 0, 1) := dk_42 (dk_at dksX0_end_0 14 rfl rfl)
theorem dX0_end_15 : decode cX0_end 15 = .ok (.iload_n 1, 1) := dk_27 (dk_at dksX0_end_0 15 rfl rfl)
theorem dX0_end_16 : decode cX0_end 16 = .ok (.putfield 175, 3) := dk_181 0 175 (dk_at dksX0_end_0 16 rfl rfl)
theorem dX0_end_19 : decode cX0_end 19 = .ok (.iload_n 1, 1) := dk_27 (dk_at dksX0_end_0 19 rfl rfl)
theorem dX0_end_20 : decode cX0_end 20 = .ok (.ireturn, 1) := dk_172 (dk_at dksX0_end_0 20 rfl rfl)
abbrev cX0_row : ByteArray := prog_1_method_28_code
def yX0_row : MethodName := ⟨RX0, "row", "()I"⟩
def dkwX0_row_6 : List UInt8 := [167, 255, 153, 42, 28, 182, 0, 131, 172]
abbrev dktX0_row_6 : List UInt8 := dkwX0_row_6 ++ []
def dkwX0_row_5 : List UInt8 := [96, 61, 42, 89, 180, 0, 182, 21, 4, 153, 0, 7, 3, 167, 0, 4, 4, 96, 181, 0, 182, 132, 3, 4]
abbrev dktX0_row_5 : List UInt8 := dkwX0_row_5 ++ dktX0_row_6
def dkwX0_row_4 : List UInt8 := [182, 0, 165, 154, 0, 7, 4, 167, 0, 4, 3, 54, 4, 28, 21, 4, 153, 0, 7, 4, 167, 0, 4, 3]
abbrev dktX0_row_4 : List UInt8 := dkwX0_row_4 ++ dktX0_row_5
def dkwX0_row_3 : List UInt8 := [180, 0, 42, 29, 4, 96, 51, 42, 180, 0, 42, 29, 5, 96, 51, 42, 180, 0, 42, 29, 6, 96, 51]
abbrev dktX0_row_3 : List UInt8 := dkwX0_row_3 ++ dktX0_row_4
def dkwX0_row_2 : List UInt8 := [180, 0, 42, 29, 5, 96, 51, 3, 16, 9, 184, 0, 97, 153, 0, 44, 42, 42, 180, 0, 42, 29, 51, 42]
abbrev dktX0_row_2 : List UInt8 := dkwX0_row_2 ++ dktX0_row_3
def dkwX0_row_1 : List UInt8 := [27, 7, 112, 154, 0, 7, 3, 167, 0, 4, 4, 181, 0, 182, 3, 62, 29, 7, 96, 27, 163, 0, 102, 42]
abbrev dktX0_row_1 : List UInt8 := dkwX0_row_1 ++ dktX0_row_2
def dkwX0_row_0 : List UInt8 := [42, 180, 0, 175, 60, 42, 3, 181, 0, 175, 27, 154, 0, 10, 42, 16, 250, 182, 0, 124, 172, 3, 61, 42]
abbrev dktX0_row_0 : List UInt8 := dkwX0_row_0 ++ dktX0_row_1
theorem dksX0_row_0 : cX0_row.data.toList.drop 0 = dktX0_row_0 := by decide +kernel
theorem dksX0_row_1 : cX0_row.data.toList.drop 24 = dktX0_row_1 := dk_seg dksX0_row_0 24 rfl rfl
theorem dksX0_row_2 : cX0_row.data.toList.drop 48 = dktX0_row_2 := dk_seg dksX0_row_1 24 rfl rfl
theorem dksX0_row_3 : cX0_row.data.toList.drop 72 = dktX0_row_3 := dk_seg dksX0_row_2 24 rfl rfl
theorem dksX0_row_4 : cX0_row.data.toList.drop 95 = dktX0_row_4 := dk_seg dksX0_row_3 23 rfl rfl
theorem dksX0_row_5 : cX0_row.data.toList.drop 119 = dktX0_row_5 := dk_seg dksX0_row_4 24 rfl rfl
theorem dksX0_row_6 : cX0_row.data.toList.drop 143 = dktX0_row_6 := dk_seg dksX0_row_5 24 rfl rfl
theorem dX0_row_0 : decode cX0_row 0 = .ok (.aload_n 0, 1) := dk_42 (dk_at dksX0_row_0 0 rfl rfl)
theorem dX0_row_1 : decode cX0_row 1 = .ok (.getfield 175, 3) := dk_180 0 175 (dk_at dksX0_row_0 1 rfl rfl)
theorem dX0_row_4 : decode cX0_row 4 = .ok (.istore_n 1, 1) := dk_60 (dk_at dksX0_row_0 4 rfl rfl)
theorem dX0_row_5 : decode cX0_row 5 = .ok (.aload_n 0, 1) := dk_42 (dk_at dksX0_row_0 5 rfl rfl)
theorem dX0_row_6 : decode cX0_row 6 = .ok (.iconst 0, 1) := dk_3 (dk_at dksX0_row_0 6 rfl rfl)
theorem dX0_row_7 : decode cX0_row 7 = .ok (.putfield 175, 3) := dk_181 0 175 (dk_at dksX0_row_0 7 rfl rfl)
theorem dX0_row_10 : decode cX0_row 10 = .ok (.iload_n 1, 1) := dk_27 (dk_at dksX0_row_0 10 rfl rfl)
theorem dX0_row_11 : decode cX0_row 11 = .ok (.ifCond .ne 10, 3) := dk_154 0 10 (dk_at dksX0_row_0 11 rfl rfl)
theorem dX0_row_14 : decode cX0_row 14 = .ok (.aload_n 0, 1) := dk_42 (dk_at dksX0_row_0 14 rfl rfl)
theorem dX0_row_15 : decode cX0_row 15 = .ok (.bipush (-6), 2) := dk_16 250 (dk_at dksX0_row_0 15 rfl rfl)
theorem dX0_row_17 : decode cX0_row 17 = .ok (.invokevirtual 124, 3) := dk_182 0 124 (dk_at dksX0_row_0 17 rfl rfl)
theorem dX0_row_20 : decode cX0_row 20 = .ok (.ireturn, 1) := dk_172 (dk_at dksX0_row_0 20 rfl rfl)
theorem dX0_row_21 : decode cX0_row 21 = .ok (.iconst 0, 1) := dk_3 (dk_at dksX0_row_0 21 rfl rfl)
theorem dX0_row_22 : decode cX0_row 22 = .ok (.istore_n 2, 1) := dk_61 (dk_at dksX0_row_0 22 rfl rfl)
theorem dX0_row_23 : decode cX0_row 23 = .ok (.aload_n 0, 1) := dk_42 (dk_at dksX0_row_0 23 rfl rfl)
theorem dX0_row_24 : decode cX0_row 24 = .ok (.iload_n 1, 1) := dk_27 (dk_at dksX0_row_1 0 rfl rfl)
theorem dX0_row_25 : decode cX0_row 25 = .ok (.iconst 4, 1) := dk_7 (dk_at dksX0_row_1 1 rfl rfl)
theorem dX0_row_26 : decode cX0_row 26 = .ok (.irem, 1) := dk_112 (dk_at dksX0_row_1 2 rfl rfl)
theorem dX0_row_27 : decode cX0_row 27 = .ok (.ifCond .ne 7, 3) := dk_154 0 7 (dk_at dksX0_row_1 3 rfl rfl)
theorem dX0_row_30 : decode cX0_row 30 = .ok (.iconst 0, 1) := dk_3 (dk_at dksX0_row_1 6 rfl rfl)
theorem dX0_row_31 : decode cX0_row 31 = .ok (.goto 4, 3) := dk_167 0 4 (dk_at dksX0_row_1 7 rfl rfl)
theorem dX0_row_34 : decode cX0_row 34 = .ok (.iconst 1, 1) := dk_4 (dk_at dksX0_row_1 10 rfl rfl)
theorem dX0_row_35 : decode cX0_row 35 = .ok (.putfield 182, 3) := dk_181 0 182 (dk_at dksX0_row_1 11 rfl rfl)
theorem dX0_row_38 : decode cX0_row 38 = .ok (.iconst 0, 1) := dk_3 (dk_at dksX0_row_1 14 rfl rfl)
theorem dX0_row_39 : decode cX0_row 39 = .ok (.istore_n 3, 1) := dk_62 (dk_at dksX0_row_1 15 rfl rfl)
theorem dX0_row_40 : decode cX0_row 40 = .ok (.iload_n 3, 1) := dk_29 (dk_at dksX0_row_1 16 rfl rfl)
theorem dX0_row_41 : decode cX0_row 41 = .ok (.iconst 4, 1) := dk_7 (dk_at dksX0_row_1 17 rfl rfl)
theorem dX0_row_42 : decode cX0_row 42 = .ok (.iadd, 1) := dk_96 (dk_at dksX0_row_1 18 rfl rfl)
theorem dX0_row_43 : decode cX0_row 43 = .ok (.iload_n 1, 1) := dk_27 (dk_at dksX0_row_1 19 rfl rfl)
theorem dX0_row_44 : decode cX0_row 44 = .ok (.if_icmp .gt 102, 3) := dk_163 0 102 (dk_at dksX0_row_1 20 rfl rfl)
theorem dX0_row_47 : decode cX0_row 47 = .ok (.aload_n 0, 1) := dk_42 (dk_at dksX0_row_1 23 rfl rfl)
theorem dX0_row_48 : decode cX0_row 48 = .ok (.getfield 42, 3) := dk_180 0 42 (dk_at dksX0_row_2 0 rfl rfl)
theorem dX0_row_51 : decode cX0_row 51 = .ok (.iload_n 3, 1) := dk_29 (dk_at dksX0_row_2 3 rfl rfl)
theorem dX0_row_52 : decode cX0_row 52 = .ok (.iconst 2, 1) := dk_5 (dk_at dksX0_row_2 4 rfl rfl)
theorem dX0_row_53 : decode cX0_row 53 = .ok (.iadd, 1) := dk_96 (dk_at dksX0_row_2 5 rfl rfl)
theorem dX0_row_54 : decode cX0_row 54 = .ok (.baload, 1) := dk_51 (dk_at dksX0_row_2 6 rfl rfl)
theorem dX0_row_55 : decode cX0_row 55 = .ok (.iconst 0, 1) := dk_3 (dk_at dksX0_row_2 7 rfl rfl)
theorem dX0_row_56 : decode cX0_row 56 = .ok (.bipush 9, 2) := dk_16 9 (dk_at dksX0_row_2 8 rfl rfl)
theorem dX0_row_58 : decode cX0_row 58 = .ok (.invokestatic 97, 3) := dk_184 0 97 (dk_at dksX0_row_2 10 rfl rfl)
theorem dX0_row_61 : decode cX0_row 61 = .ok (.ifCond .eq 44, 3) := dk_153 0 44 (dk_at dksX0_row_2 13 rfl rfl)
theorem dX0_row_64 : decode cX0_row 64 = .ok (.aload_n 0, 1) := dk_42 (dk_at dksX0_row_2 16 rfl rfl)
theorem dX0_row_65 : decode cX0_row 65 = .ok (.aload_n 0, 1) := dk_42 (dk_at dksX0_row_2 17 rfl rfl)
theorem dX0_row_66 : decode cX0_row 66 = .ok (.getfield 42, 3) := dk_180 0 42 (dk_at dksX0_row_2 18 rfl rfl)
theorem dX0_row_69 : decode cX0_row 69 = .ok (.iload_n 3, 1) := dk_29 (dk_at dksX0_row_2 21 rfl rfl)
theorem dX0_row_70 : decode cX0_row 70 = .ok (.baload, 1) := dk_51 (dk_at dksX0_row_2 22 rfl rfl)
theorem dX0_row_71 : decode cX0_row 71 = .ok (.aload_n 0, 1) := dk_42 (dk_at dksX0_row_2 23 rfl rfl)
theorem dX0_row_72 : decode cX0_row 72 = .ok (.getfield 42, 3) := dk_180 0 42 (dk_at dksX0_row_3 0 rfl rfl)
theorem dX0_row_75 : decode cX0_row 75 = .ok (.iload_n 3, 1) := dk_29 (dk_at dksX0_row_3 3 rfl rfl)
theorem dX0_row_76 : decode cX0_row 76 = .ok (.iconst 1, 1) := dk_4 (dk_at dksX0_row_3 4 rfl rfl)
theorem dX0_row_77 : decode cX0_row 77 = .ok (.iadd, 1) := dk_96 (dk_at dksX0_row_3 5 rfl rfl)
theorem dX0_row_78 : decode cX0_row 78 = .ok (.baload, 1) := dk_51 (dk_at dksX0_row_3 6 rfl rfl)
theorem dX0_row_79 : decode cX0_row 79 = .ok (.aload_n 0, 1) := dk_42 (dk_at dksX0_row_3 7 rfl rfl)
theorem dX0_row_80 : decode cX0_row 80 = .ok (.getfield 42, 3) := dk_180 0 42 (dk_at dksX0_row_3 8 rfl rfl)
theorem dX0_row_83 : decode cX0_row 83 = .ok (.iload_n 3, 1) := dk_29 (dk_at dksX0_row_3 11 rfl rfl)
theorem dX0_row_84 : decode cX0_row 84 = .ok (.iconst 2, 1) := dk_5 (dk_at dksX0_row_3 12 rfl rfl)
theorem dX0_row_85 : decode cX0_row 85 = .ok (.iadd, 1) := dk_96 (dk_at dksX0_row_3 13 rfl rfl)
theorem dX0_row_86 : decode cX0_row 86 = .ok (.baload, 1) := dk_51 (dk_at dksX0_row_3 14 rfl rfl)
theorem dX0_row_87 : decode cX0_row 87 = .ok (.aload_n 0, 1) := dk_42 (dk_at dksX0_row_3 15 rfl rfl)
theorem dX0_row_88 : decode cX0_row 88 = .ok (.getfield 42, 3) := dk_180 0 42 (dk_at dksX0_row_3 16 rfl rfl)
theorem dX0_row_91 : decode cX0_row 91 = .ok (.iload_n 3, 1) := dk_29 (dk_at dksX0_row_3 19 rfl rfl)
theorem dX0_row_92 : decode cX0_row 92 = .ok (.iconst 3, 1) := dk_6 (dk_at dksX0_row_3 20 rfl rfl)
theorem dX0_row_93 : decode cX0_row 93 = .ok (.iadd, 1) := dk_96 (dk_at dksX0_row_3 21 rfl rfl)
theorem dX0_row_94 : decode cX0_row 94 = .ok (.baload, 1) := dk_51 (dk_at dksX0_row_3 22 rfl rfl)
theorem dX0_row_95 : decode cX0_row 95 = .ok (.invokevirtual 165, 3) := dk_182 0 165 (dk_at dksX0_row_4 0 rfl rfl)
theorem dX0_row_98 : decode cX0_row 98 = .ok (.ifCond .ne 7, 3) := dk_154 0 7 (dk_at dksX0_row_4 3 rfl rfl)
theorem dX0_row_101 : decode cX0_row 101 = .ok (.iconst 1, 1) := dk_4 (dk_at dksX0_row_4 6 rfl rfl)
theorem dX0_row_102 : decode cX0_row 102 = .ok (.goto 4, 3) := dk_167 0 4 (dk_at dksX0_row_4 7 rfl rfl)
theorem dX0_row_105 : decode cX0_row 105 = .ok (.iconst 0, 1) := dk_3 (dk_at dksX0_row_4 10 rfl rfl)
theorem dX0_row_106 : decode cX0_row 106 = .ok (.istore 4, 2) := dk_54 4 (dk_at dksX0_row_4 11 rfl rfl)
theorem dX0_row_108 : decode cX0_row 108 = .ok (.iload_n 2, 1) := dk_28 (dk_at dksX0_row_4 13 rfl rfl)
theorem dX0_row_109 : decode cX0_row 109 = .ok (.iload 4, 2) := dk_21 4 (dk_at dksX0_row_4 14 rfl rfl)
theorem dX0_row_111 : decode cX0_row 111 = .ok (.ifCond .eq 7, 3) := dk_153 0 7 (dk_at dksX0_row_4 16 rfl rfl)
theorem dX0_row_114 : decode cX0_row 114 = .ok (.iconst 1, 1) := dk_4 (dk_at dksX0_row_4 19 rfl rfl)
theorem dX0_row_115 : decode cX0_row 115 = .ok (.goto 4, 3) := dk_167 0 4 (dk_at dksX0_row_4 20 rfl rfl)
theorem dX0_row_118 : decode cX0_row 118 = .ok (.iconst 0, 1) := dk_3 (dk_at dksX0_row_4 23 rfl rfl)
theorem dX0_row_119 : decode cX0_row 119 = .ok (.iadd, 1) := dk_96 (dk_at dksX0_row_5 0 rfl rfl)
theorem dX0_row_120 : decode cX0_row 120 = .ok (.istore_n 2, 1) := dk_61 (dk_at dksX0_row_5 1 rfl rfl)
theorem dX0_row_121 : decode cX0_row 121 = .ok (.aload_n 0, 1) := dk_42 (dk_at dksX0_row_5 2 rfl rfl)
theorem dX0_row_122 : decode cX0_row 122 = .ok (.dup, 1) := dk_89 (dk_at dksX0_row_5 3 rfl rfl)
theorem dX0_row_123 : decode cX0_row 123 = .ok (.getfield 182, 3) := dk_180 0 182 (dk_at dksX0_row_5 4 rfl rfl)
theorem dX0_row_126 : decode cX0_row 126 = .ok (.iload 4, 2) := dk_21 4 (dk_at dksX0_row_5 7 rfl rfl)
theorem dX0_row_128 : decode cX0_row 128 = .ok (.ifCond .eq 7, 3) := dk_153 0 7 (dk_at dksX0_row_5 9 rfl rfl)
theorem dX0_row_131 : decode cX0_row 131 = .ok (.iconst 0, 1) := dk_3 (dk_at dksX0_row_5 12 rfl rfl)
theorem dX0_row_132 : decode cX0_row 132 = .ok (.goto 4, 3) := dk_167 0 4 (dk_at dksX0_row_5 13 rfl rfl)
theorem dX0_row_135 : decode cX0_row 135 = .ok (.iconst 1, 1) := dk_4 (dk_at dksX0_row_5 16 rfl rfl)
theorem dX0_row_136 : decode cX0_row 136 = .ok (.iadd, 1) := dk_96 (dk_at dksX0_row_5 17 rfl rfl)
theorem dX0_row_137 : decode cX0_row 137 = .ok (.putfield 182, 3) := dk_181 0 182 (dk_at dksX0_row_5 18 rfl rfl)
theorem dX0_row_140 : decode cX0_row 140 = .ok (.iinc 3 4, 3) := dk_132 3 4 (dk_at dksX0_row_5 21 rfl rfl)
theorem dX0_row_143 : decode cX0_row 143 = .ok (.goto (-103), 3) := dk_167 255 153 (dk_at dksX0_row_6 0 rfl rfl)
theorem dX0_row_146 : decode cX0_row 146 = .ok (.aload_n 0, 1) := dk_42 (dk_at dksX0_row_6 3 rfl rfl)
theorem dX0_row_147 : decode cX0_row 147 = .ok (.iload_n 2, 1) := dk_28 (dk_at dksX0_row_6 4 rfl rfl)
theorem dX0_row_148 : decode cX0_row 148 = .ok (.invokevirtual 131, 3) := dk_182 0 131 (dk_at dksX0_row_6 5 rfl rfl)
theorem dX0_row_151 : decode cX0_row 151 = .ok (.ireturn, 1) := dk_172 (dk_at dksX0_row_6 8 rfl rfl)
abbrev cX0_rice : ByteArray := prog_1_method_29_code
def yX0_rice : MethodName := ⟨RX0, "rice", "()I"⟩
theorem dX0_rice_0 : decode cX0_rice 0 = .ok (.aload_n 0, 1) := by decide +kernel
theorem dX0_rice_1 : decode cX0_rice 1 = .ok (.getfield 182, 3) := by decide +kernel
theorem dX0_rice_4 : decode cX0_rice 4 = .ok (.ireturn, 1) := by decide +kernel
abbrev cX0_law : ByteArray := prog_1_method_31_code
def yX0_law : MethodName := ⟨RX0, "law", "()I"⟩
def dkwX0_law_4 : List UInt8 := [100, 182, 0, 115, 172]
abbrev dktX0_law_4 : List UInt8 := dkwX0_law_4 ++ []
def dkwX0_law_3 : List UInt8 := [89, 44, 180, 0, 216, 183, 0, 219, 182, 0, 222, 87, 42, 42, 180, 0, 16, 180, 0, 195, 182, 0, 199, 4]
abbrev dktX0_law_3 : List UInt8 := dkwX0_law_3 ++ dktX0_law_4
def dkwX0_law_2 : List UInt8 := [44, 182, 0, 210, 154, 0, 10, 42, 16, 250, 182, 0, 124, 172, 42, 180, 0, 16, 180, 0, 195, 187, 0, 214]
abbrev dktX0_law_2 : List UInt8 := dkwX0_law_2 ++ dktX0_law_3
def dkwX0_law_1 : List UInt8 := [160, 0, 10, 42, 16, 251, 182, 0, 124, 172, 187, 0, 205, 89, 42, 180, 0, 42, 27, 183, 0, 207, 77, 42]
abbrev dktX0_law_1 : List UInt8 := dkwX0_law_1 ++ dktX0_law_2
def dkwX0_law_0 : List UInt8 := [42, 180, 0, 175, 60, 42, 3, 181, 0, 175, 42, 180, 0, 16, 180, 0, 195, 182, 0, 199, 16, 6]
abbrev dktX0_law_0 : List UInt8 := dkwX0_law_0 ++ dktX0_law_1
theorem dksX0_law_0 : cX0_law.data.toList.drop 0 = dktX0_law_0 := by decide +kernel
theorem dksX0_law_1 : cX0_law.data.toList.drop 22 = dktX0_law_1 := dk_seg dksX0_law_0 22 rfl rfl
theorem dksX0_law_2 : cX0_law.data.toList.drop 46 = dktX0_law_2 := dk_seg dksX0_law_1 24 rfl rfl
theorem dksX0_law_3 : cX0_law.data.toList.drop 70 = dktX0_law_3 := dk_seg dksX0_law_2 24 rfl rfl
theorem dksX0_law_4 : cX0_law.data.toList.drop 94 = dktX0_law_4 := dk_seg dksX0_law_3 24 rfl rfl
theorem dX0_law_0 : decode cX0_law 0 = .ok (.aload_n 0, 1) := dk_42 (dk_at dksX0_law_0 0 rfl rfl)
theorem dX0_law_1 : decode cX0_law 1 = .ok (.getfield 175, 3) := dk_180 0 175 (dk_at dksX0_law_0 1 rfl rfl)
theorem dX0_law_4 : decode cX0_law 4 = .ok (.istore_n 1, 1) := dk_60 (dk_at dksX0_law_0 4 rfl rfl)
theorem dX0_law_5 : decode cX0_law 5 = .ok (.aload_n 0, 1) := dk_42 (dk_at dksX0_law_0 5 rfl rfl)
theorem dX0_law_6 : decode cX0_law 6 = .ok (.iconst 0, 1) := dk_3 (dk_at dksX0_law_0 6 rfl rfl)
theorem dX0_law_7 : decode cX0_law 7 = .ok (.putfield 175, 3) := dk_181 0 175 (dk_at dksX0_law_0 7 rfl rfl)
theorem dX0_law_10 : decode cX0_law 10 = .ok (.aload_n 0, 1) := dk_42 (dk_at dksX0_law_0 10 rfl rfl)
theorem dX0_law_11 : decode cX0_law 11 = .ok (.getfield 16, 3) := dk_180 0 16 (dk_at dksX0_law_0 11 rfl rfl)
theorem dX0_law_14 : decode cX0_law 14 = .ok (.getfield 195, 3) := dk_180 0 195 (dk_at dksX0_law_0 14 rfl rfl)
theorem dX0_law_17 : decode cX0_law 17 = .ok (.invokevirtual 199, 3) := dk_182 0 199 (dk_at dksX0_law_0 17 rfl rfl)
theorem dX0_law_20 : decode cX0_law 20 = .ok (.bipush 6, 2) := dk_16 6 (dk_at dksX0_law_0 20 rfl rfl)
theorem dX0_law_22 : decode cX0_law 22 = .ok (.if_icmp .ne 10, 3) := dk_160 0 10 (dk_at dksX0_law_1 0 rfl rfl)
theorem dX0_law_25 : decode cX0_law 25 = .ok (.aload_n 0, 1) := dk_42 (dk_at dksX0_law_1 3 rfl rfl)
theorem dX0_law_26 : decode cX0_law 26 = .ok (.bipush (-5), 2) := dk_16 251 (dk_at dksX0_law_1 4 rfl rfl)
theorem dX0_law_28 : decode cX0_law 28 = .ok (.invokevirtual 124, 3) := dk_182 0 124 (dk_at dksX0_law_1 6 rfl rfl)
theorem dX0_law_31 : decode cX0_law 31 = .ok (.ireturn, 1) := dk_172 (dk_at dksX0_law_1 9 rfl rfl)
theorem dX0_law_32 : decode cX0_law 32 = .ok (.new 205, 3) := dk_187 0 205 (dk_at dksX0_law_1 10 rfl rfl)
theorem dX0_law_35 : decode cX0_law 35 = .ok (.dup, 1) := dk_89 (dk_at dksX0_law_1 13 rfl rfl)
theorem dX0_law_36 : decode cX0_law 36 = .ok (.aload_n 0, 1) := dk_42 (dk_at dksX0_law_1 14 rfl rfl)
theorem dX0_law_37 : decode cX0_law 37 = .ok (.getfield 42, 3) := dk_180 0 42 (dk_at dksX0_law_1 15 rfl rfl)
theorem dX0_law_40 : decode cX0_law 40 = .ok (.iload_n 1, 1) := dk_27 (dk_at dksX0_law_1 18 rfl rfl)
theorem dX0_law_41 : decode cX0_law 41 = .ok (.invokespecial 207, 3) := dk_183 0 207 (dk_at dksX0_law_1 19 rfl rfl)
theorem dX0_law_44 : decode cX0_law 44 = .ok (.astore_n 2, 1) := dk_77 (dk_at dksX0_law_1 22 rfl rfl)
theorem dX0_law_45 : decode cX0_law 45 = .ok (.aload_n 0, 1) := dk_42 (dk_at dksX0_law_1 23 rfl rfl)
theorem dX0_law_46 : decode cX0_law 46 = .ok (.aload_n 2, 1) := dk_44 (dk_at dksX0_law_2 0 rfl rfl)
theorem dX0_law_47 : decode cX0_law 47 = .ok (.invokevirtual 210, 3) := dk_182 0 210 (dk_at dksX0_law_2 1 rfl rfl)
theorem dX0_law_50 : decode cX0_law 50 = .ok (.ifCond .ne 10, 3) := dk_154 0 10 (dk_at dksX0_law_2 4 rfl rfl)
theorem dX0_law_53 : decode cX0_law 53 = .ok (.aload_n 0, 1) := dk_42 (dk_at dksX0_law_2 7 rfl rfl)
theorem dX0_law_54 : decode cX0_law 54 = .ok (.bipush (-6), 2) := dk_16 250 (dk_at dksX0_law_2 8 rfl rfl)
theorem dX0_law_56 : decode cX0_law 56 = .ok (.invokevirtual 124, 3) := dk_182 0 124 (dk_at dksX0_law_2 10 rfl rfl)
theorem dX0_law_59 : decode cX0_law 59 = .ok (.ireturn, 1) := dk_172 (dk_at dksX0_law_2 13 rfl rfl)
theorem dX0_law_60 : decode cX0_law 60 = .ok (.aload_n 0, 1) := dk_42 (dk_at dksX0_law_2 14 rfl rfl)
theorem dX0_law_61 : decode cX0_law 61 = .ok (.getfield 16, 3) := dk_180 0 16 (dk_at dksX0_law_2 15 rfl rfl)
theorem dX0_law_64 : decode cX0_law 64 = .ok (.getfield 195, 3) := dk_180 0 195 (dk_at dksX0_law_2 18 rfl rfl)
theorem dX0_law_67 : decode cX0_law 67 = .ok (.new 214, 3) := dk_187 0 214 (dk_at dksX0_law_2 21 rfl rfl)
theorem dX0_law_70 : decode cX0_law 70 = .ok (.dup, 1) := dk_89 (dk_at dksX0_law_3 0 rfl rfl)
theorem dX0_law_71 : decode cX0_law 71 = .ok (.aload_n 2, 1) := dk_44 (dk_at dksX0_law_3 1 rfl rfl)
theorem dX0_law_72 : decode cX0_law 72 = .ok (.getfield 216, 3) := dk_180 0 216 (dk_at dksX0_law_3 2 rfl rfl)
theorem dX0_law_75 : decode cX0_law 75 = .ok (.invokespecial 219, 3) := dk_183 0 219 (dk_at dksX0_law_3 5 rfl rfl)
theorem dX0_law_78 : decode cX0_law 78 = .ok (.invokevirtual 222, 3) := dk_182 0 222 (dk_at dksX0_law_3 8 rfl rfl)
theorem dX0_law_81 : decode cX0_law 81 = .ok (.pop, 1) := dk_87 (dk_at dksX0_law_3 11 rfl rfl)
theorem dX0_law_82 : decode cX0_law 82 = .ok (.aload_n 0, 1) := dk_42 (dk_at dksX0_law_3 12 rfl rfl)
theorem dX0_law_83 : decode cX0_law 83 = .ok (.aload_n 0, 1) := dk_42 (dk_at dksX0_law_3 13 rfl rfl)
theorem dX0_law_84 : decode cX0_law 84 = .ok (.getfield 16, 3) := dk_180 0 16 (dk_at dksX0_law_3 14 rfl rfl)
theorem dX0_law_87 : decode cX0_law 87 = .ok (.getfield 195, 3) := dk_180 0 195 (dk_at dksX0_law_3 17 rfl rfl)
theorem dX0_law_90 : decode cX0_law 90 = .ok (.invokevirtual 199, 3) := dk_182 0 199 (dk_at dksX0_law_3 20 rfl rfl)
theorem dX0_law_93 : decode cX0_law 93 = .ok (.iconst 1, 1) := dk_4 (dk_at dksX0_law_3 23 rfl rfl)
theorem dX0_law_94 : decode cX0_law 94 = .ok (.isub, 1) := dk_100 (dk_at dksX0_law_4 0 rfl rfl)
theorem dX0_law_95 : decode cX0_law 95 = .ok (.invokevirtual 115, 3) := dk_182 0 115 (dk_at dksX0_law_4 1 rfl rfl)
theorem dX0_law_98 : decode cX0_law 98 = .ok (.ireturn, 1) := dk_172 (dk_at dksX0_law_4 4 rfl rfl)
abbrev cX0_reads : ByteArray := prog_1_method_30_code
def yX0_reads : MethodName := ⟨RX0, "reads", "(LRoseThrow$Reader;)Z"⟩
def dkwX0_reads_1 : List UInt8 := [172]
abbrev dktX0_reads_1 : List UInt8 := dkwX0_reads_1 ++ []
def dkwX0_reads_0 : List UInt8 := [43, 182, 0, 185, 167, 0, 14, 77, 42, 44, 180, 0, 192, 181, 0, 46, 3, 172, 42, 2, 181, 0, 46, 4]
abbrev dktX0_reads_0 : List UInt8 := dkwX0_reads_0 ++ dktX0_reads_1
theorem dksX0_reads_0 : cX0_reads.data.toList.drop 0 = dktX0_reads_0 := by decide +kernel
theorem dksX0_reads_1 : cX0_reads.data.toList.drop 24 = dktX0_reads_1 := dk_seg dksX0_reads_0 24 rfl rfl
theorem dX0_reads_0 : decode cX0_reads 0 = .ok (.aload_n 1, 1) := dk_43 (dk_at dksX0_reads_0 0 rfl rfl)
theorem dX0_reads_1 : decode cX0_reads 1 = .ok (.invokevirtual 185, 3) := dk_182 0 185 (dk_at dksX0_reads_0 1 rfl rfl)
theorem dX0_reads_4 : decode cX0_reads 4 = .ok (.goto 14, 3) := dk_167 0 14 (dk_at dksX0_reads_0 4 rfl rfl)
theorem dX0_reads_7 : decode cX0_reads 7 = .ok (.astore_n 2, 1) := dk_77 (dk_at dksX0_reads_0 7 rfl rfl)
theorem dX0_reads_8 : decode cX0_reads 8 = .ok (.aload_n 0, 1) := dk_42 (dk_at dksX0_reads_0 8 rfl rfl)
theorem dX0_reads_9 : decode cX0_reads 9 = .ok (.aload_n 2, 1) := dk_44 (dk_at dksX0_reads_0 9 rfl rfl)
theorem dX0_reads_10 : decode cX0_reads 10 = .ok (.getfield 192, 3) := dk_180 0 192 (dk_at dksX0_reads_0 10 rfl rfl)
theorem dX0_reads_13 : decode cX0_reads 13 = .ok (.putfield 46, 3) := dk_181 0 46 (dk_at dksX0_reads_0 13 rfl rfl)
theorem dX0_reads_16 : decode cX0_reads 16 = .ok (.iconst 0, 1) := dk_3 (dk_at dksX0_reads_0 16 rfl rfl)
theorem dX0_reads_17 : decode cX0_reads 17 = .ok (.ireturn, 1) := dk_172 (dk_at dksX0_reads_0 17 rfl rfl)
theorem dX0_reads_18 : decode cX0_reads 18 = .ok (.aload_n 0, 1) := dk_42 (dk_at dksX0_reads_0 18 rfl rfl)
theorem dX0_reads_19 : decode cX0_reads 19 = .ok (.iconst (-1), 1) := dk_2 (dk_at dksX0_reads_0 19 rfl rfl)
theorem dX0_reads_20 : decode cX0_reads 20 = .ok (.putfield 46, 3) := dk_181 0 46 (dk_at dksX0_reads_0 20 rfl rfl)
theorem dX0_reads_23 : decode cX0_reads 23 = .ok (.iconst 1, 1) := dk_4 (dk_at dksX0_reads_0 23 rfl rfl)
theorem dX0_reads_24 : decode cX0_reads 24 = .ok (.ireturn, 1) := dk_172 (dk_at dksX0_reads_1 0 rfl rfl)
abbrev cX0_fault : ByteArray := prog_1_method_32_code
def yX0_fault : MethodName := ⟨RX0, "fault", "()I"⟩
theorem dX0_fault_0 : decode cX0_fault 0 = .ok (.aload_n 0, 1) := by decide +kernel
theorem dX0_fault_1 : decode cX0_fault 1 = .ok (.getfield 46, 3) := by decide +kernel
theorem dX0_fault_4 : decode cX0_fault 4 = .ok (.ireturn, 1) := by decide +kernel
abbrev cX0_stopped : ByteArray := prog_1_method_33_code
def yX0_stopped : MethodName := ⟨RX0, "stopped", "()I"⟩
theorem dX0_stopped_0 : decode cX0_stopped 0 = .ok (.aload_n 0, 1) := by decide +kernel
theorem dX0_stopped_1 : decode cX0_stopped 1 = .ok (.getfield 50, 3) := by decide +kernel
theorem dX0_stopped_4 : decode cX0_stopped 4 = .ok (.ireturn, 1) := by decide +kernel
abbrev cX0_force : ByteArray := prog_1_method_34_code
def yX0_force : MethodName := ⟨RX0, "force", "(I)I"⟩
def dkwX0_force_1 : List UInt8 := [154, 0, 10, 42, 16, 254, 182, 0, 124, 172, 42, 180, 0, 16, 27, 181, 0, 226, 42, 3, 182, 0, 115, 172]
abbrev dktX0_force_1 : List UInt8 := dkwX0_force_1 ++ []
def dkwX0_force_0 : List UInt8 := [27, 2, 159, 0, 30, 27, 3, 42, 180, 0, 16, 180, 0, 195, 182, 0, 199, 4, 100, 184, 0, 97]
abbrev dktX0_force_0 : List UInt8 := dkwX0_force_0 ++ dktX0_force_1
theorem dksX0_force_0 : cX0_force.data.toList.drop 0 = dktX0_force_0 := by decide +kernel
theorem dksX0_force_1 : cX0_force.data.toList.drop 22 = dktX0_force_1 := dk_seg dksX0_force_0 22 rfl rfl
theorem dX0_force_0 : decode cX0_force 0 = .ok (.iload_n 1, 1) := dk_27 (dk_at dksX0_force_0 0 rfl rfl)
theorem dX0_force_1 : decode cX0_force 1 = .ok (.iconst (-1), 1) := dk_2 (dk_at dksX0_force_0 1 rfl rfl)
theorem dX0_force_2 : decode cX0_force 2 = .ok (.if_icmp .eq 30, 3) := dk_159 0 30 (dk_at dksX0_force_0 2 rfl rfl)
theorem dX0_force_5 : decode cX0_force 5 = .ok (.iload_n 1, 1) := dk_27 (dk_at dksX0_force_0 5 rfl rfl)
theorem dX0_force_6 : decode cX0_force 6 = .ok (.iconst 0, 1) := dk_3 (dk_at dksX0_force_0 6 rfl rfl)
theorem dX0_force_7 : decode cX0_force 7 = .ok (.aload_n 0, 1) := dk_42 (dk_at dksX0_force_0 7 rfl rfl)
theorem dX0_force_8 : decode cX0_force 8 = .ok (.getfield 16, 3) := dk_180 0 16 (dk_at dksX0_force_0 8 rfl rfl)
theorem dX0_force_11 : decode cX0_force 11 = .ok (.getfield 195, 3) := dk_180 0 195 (dk_at dksX0_force_0 11 rfl rfl)
theorem dX0_force_14 : decode cX0_force 14 = .ok (.invokevirtual 199, 3) := dk_182 0 199 (dk_at dksX0_force_0 14 rfl rfl)
theorem dX0_force_17 : decode cX0_force 17 = .ok (.iconst 1, 1) := dk_4 (dk_at dksX0_force_0 17 rfl rfl)
theorem dX0_force_18 : decode cX0_force 18 = .ok (.isub, 1) := dk_100 (dk_at dksX0_force_0 18 rfl rfl)
theorem dX0_force_19 : decode cX0_force 19 = .ok (.invokestatic 97, 3) := dk_184 0 97 (dk_at dksX0_force_0 19 rfl rfl)
theorem dX0_force_22 : decode cX0_force 22 = .ok (.ifCond .ne 10, 3) := dk_154 0 10 (dk_at dksX0_force_1 0 rfl rfl)
theorem dX0_force_25 : decode cX0_force 25 = .ok (.aload_n 0, 1) := dk_42 (dk_at dksX0_force_1 3 rfl rfl)
theorem dX0_force_26 : decode cX0_force 26 = .ok (.bipush (-2), 2) := dk_16 254 (dk_at dksX0_force_1 4 rfl rfl)
theorem dX0_force_28 : decode cX0_force 28 = .ok (.invokevirtual 124, 3) := dk_182 0 124 (dk_at dksX0_force_1 6 rfl rfl)
theorem dX0_force_31 : decode cX0_force 31 = .ok (.ireturn, 1) := dk_172 (dk_at dksX0_force_1 9 rfl rfl)
theorem dX0_force_32 : decode cX0_force 32 = .ok (.aload_n 0, 1) := dk_42 (dk_at dksX0_force_1 10 rfl rfl)
theorem dX0_force_33 : decode cX0_force 33 = .ok (.getfield 16, 3) := dk_180 0 16 (dk_at dksX0_force_1 11 rfl rfl)
theorem dX0_force_36 : decode cX0_force 36 = .ok (.iload_n 1, 1) := dk_27 (dk_at dksX0_force_1 14 rfl rfl)
theorem dX0_force_37 : decode cX0_force 37 = .ok (.putfield 226, 3) := dk_181 0 226 (dk_at dksX0_force_1 15 rfl rfl)
theorem dX0_force_40 : decode cX0_force 40 = .ok (.aload_n 0, 1) := dk_42 (dk_at dksX0_force_1 18 rfl rfl)
theorem dX0_force_41 : decode cX0_force 41 = .ok (.iconst 0, 1) := dk_3 (dk_at dksX0_force_1 19 rfl rfl)
theorem dX0_force_42 : decode cX0_force 42 = .ok (.invokevirtual 115, 3) := dk_182 0 115 (dk_at dksX0_force_1 20 rfl rfl)
theorem dX0_force_45 : decode cX0_force 45 = .ok (.ireturn, 1) := dk_172 (dk_at dksX0_force_1 23 rfl rfl)
abbrev cX0_asks : ByteArray := prog_1_method_43_code
def yX0_asks : MethodName := ⟨RX0, "asks", "(III)I"⟩
def dkwX0_asks_4 : List UInt8 := [42, 27, 29, 182, 1, 13, 153, 0, 7, 4, 167, 0, 8, 3, 167, 0, 4, 2, 172, 2, 172]
abbrev dktX0_asks_4 : List UInt8 := dkwX0_asks_4 ++ []
def dkwX0_asks_3 : List UInt8 := [184, 0, 97, 153, 0, 12, 42, 27, 29, 182, 1, 10, 167, 0, 4, 2, 172, 29, 184, 0, 134, 153, 0, 20]
abbrev dktX0_asks_3 : List UInt8 := dkwX0_asks_3 ++ dktX0_asks_4
def dkwX0_asks_2 : List UInt8 := [29, 3, 16, 10, 184, 0, 97, 153, 0, 12, 42, 27, 29, 182, 1, 7, 167, 0, 4, 2, 172, 29, 3, 4]
abbrev dktX0_asks_2 : List UInt8 := dkwX0_asks_2 ++ dktX0_asks_3
def dkwX0_asks_1 : List UInt8 := [170, 0, 0, 0, 92, 0, 0, 0, 0, 0, 0, 0, 2, 0, 0, 0, 25, 0, 0, 0, 46, 0, 0, 0, 66]
abbrev dktX0_asks_1 : List UInt8 := dkwX0_asks_1 ++ dktX0_asks_2
def dkwX0_asks_0 : List UInt8 := [42, 27, 182, 0, 169, 154, 0, 5, 2, 172, 28]
abbrev dktX0_asks_0 : List UInt8 := dkwX0_asks_0 ++ dktX0_asks_1
theorem dksX0_asks_0 : cX0_asks.data.toList.drop 0 = dktX0_asks_0 := by decide +kernel
theorem dksX0_asks_1 : cX0_asks.data.toList.drop 11 = dktX0_asks_1 := dk_seg dksX0_asks_0 11 rfl rfl
theorem dksX0_asks_2 : cX0_asks.data.toList.drop 36 = dktX0_asks_2 := dk_seg dksX0_asks_1 25 rfl rfl
theorem dksX0_asks_3 : cX0_asks.data.toList.drop 60 = dktX0_asks_3 := dk_seg dksX0_asks_2 24 rfl rfl
theorem dksX0_asks_4 : cX0_asks.data.toList.drop 84 = dktX0_asks_4 := dk_seg dksX0_asks_3 24 rfl rfl
theorem dX0_asks_0 : decode cX0_asks 0 = .ok (.aload_n 0, 1) := dk_42 (dk_at dksX0_asks_0 0 rfl rfl)
theorem dX0_asks_1 : decode cX0_asks 1 = .ok (.iload_n 1, 1) := dk_27 (dk_at dksX0_asks_0 1 rfl rfl)
theorem dX0_asks_2 : decode cX0_asks 2 = .ok (.invokevirtual 169, 3) := dk_182 0 169 (dk_at dksX0_asks_0 2 rfl rfl)
theorem dX0_asks_5 : decode cX0_asks 5 = .ok (.ifCond .ne 5, 3) := dk_154 0 5 (dk_at dksX0_asks_0 5 rfl rfl)
theorem dX0_asks_8 : decode cX0_asks 8 = .ok (.iconst (-1), 1) := dk_2 (dk_at dksX0_asks_0 8 rfl rfl)
theorem dX0_asks_9 : decode cX0_asks 9 = .ok (.ireturn, 1) := dk_172 (dk_at dksX0_asks_0 9 rfl rfl)
theorem dX0_asks_10 : decode cX0_asks 10 = .ok (.iload_n 2, 1) := dk_28 (dk_at dksX0_asks_0 10 rfl rfl)
theorem dX0_asks_11 : decode cX0_asks 11 = .ok (.tableswitch 92 0 2 #[25, 46, 66], 25) := by decide +kernel
theorem dX0_asks_36 : decode cX0_asks 36 = .ok (.iload_n 3, 1) := dk_29 (dk_at dksX0_asks_2 0 rfl rfl)
theorem dX0_asks_37 : decode cX0_asks 37 = .ok (.iconst 0, 1) := dk_3 (dk_at dksX0_asks_2 1 rfl rfl)
theorem dX0_asks_38 : decode cX0_asks 38 = .ok (.bipush 10, 2) := dk_16 10 (dk_at dksX0_asks_2 2 rfl rfl)
theorem dX0_asks_40 : decode cX0_asks 40 = .ok (.invokestatic 97, 3) := dk_184 0 97 (dk_at dksX0_asks_2 4 rfl rfl)
theorem dX0_asks_43 : decode cX0_asks 43 = .ok (.ifCond .eq 12, 3) := dk_153 0 12 (dk_at dksX0_asks_2 7 rfl rfl)
theorem dX0_asks_46 : decode cX0_asks 46 = .ok (.aload_n 0, 1) := dk_42 (dk_at dksX0_asks_2 10 rfl rfl)
theorem dX0_asks_47 : decode cX0_asks 47 = .ok (.iload_n 1, 1) := dk_27 (dk_at dksX0_asks_2 11 rfl rfl)
theorem dX0_asks_48 : decode cX0_asks 48 = .ok (.iload_n 3, 1) := dk_29 (dk_at dksX0_asks_2 12 rfl rfl)
theorem dX0_asks_49 : decode cX0_asks 49 = .ok (.invokevirtual 263, 3) := dk_182 1 7 (dk_at dksX0_asks_2 13 rfl rfl)
theorem dX0_asks_52 : decode cX0_asks 52 = .ok (.goto 4, 3) := dk_167 0 4 (dk_at dksX0_asks_2 16 rfl rfl)
theorem dX0_asks_55 : decode cX0_asks 55 = .ok (.iconst (-1), 1) := dk_2 (dk_at dksX0_asks_2 19 rfl rfl)
theorem dX0_asks_56 : decode cX0_asks 56 = .ok (.ireturn, 1) := dk_172 (dk_at dksX0_asks_2 20 rfl rfl)
theorem dX0_asks_57 : decode cX0_asks 57 = .ok (.iload_n 3, 1) := dk_29 (dk_at dksX0_asks_2 21 rfl rfl)
theorem dX0_asks_58 : decode cX0_asks 58 = .ok (.iconst 0, 1) := dk_3 (dk_at dksX0_asks_2 22 rfl rfl)
theorem dX0_asks_59 : decode cX0_asks 59 = .ok (.iconst 1, 1) := dk_4 (dk_at dksX0_asks_2 23 rfl rfl)
theorem dX0_asks_60 : decode cX0_asks 60 = .ok (.invokestatic 97, 3) := dk_184 0 97 (dk_at dksX0_asks_3 0 rfl rfl)
theorem dX0_asks_63 : decode cX0_asks 63 = .ok (.ifCond .eq 12, 3) := dk_153 0 12 (dk_at dksX0_asks_3 3 rfl rfl)
theorem dX0_asks_66 : decode cX0_asks 66 = .ok (.aload_n 0, 1) := dk_42 (dk_at dksX0_asks_3 6 rfl rfl)
theorem dX0_asks_67 : decode cX0_asks 67 = .ok (.iload_n 1, 1) := dk_27 (dk_at dksX0_asks_3 7 rfl rfl)
theorem dX0_asks_68 : decode cX0_asks 68 = .ok (.iload_n 3, 1) := dk_29 (dk_at dksX0_asks_3 8 rfl rfl)
theorem dX0_asks_69 : decode cX0_asks 69 = .ok (.invokevirtual 266, 3) := dk_182 1 10 (dk_at dksX0_asks_3 9 rfl rfl)
theorem dX0_asks_72 : decode cX0_asks 72 = .ok (.goto 4, 3) := dk_167 0 4 (dk_at dksX0_asks_3 12 rfl rfl)
theorem dX0_asks_75 : decode cX0_asks 75 = .ok (.iconst (-1), 1) := dk_2 (dk_at dksX0_asks_3 15 rfl rfl)
theorem dX0_asks_76 : decode cX0_asks 76 = .ok (.ireturn, 1) := dk_172 (dk_at dksX0_asks_3 16 rfl rfl)
theorem dX0_asks_77 : decode cX0_asks 77 = .ok (.iload_n 3, 1) := dk_29 (dk_at dksX0_asks_3 17 rfl rfl)
theorem dX0_asks_78 : decode cX0_asks 78 = .ok (.invokestatic 134, 3) := dk_184 0 134 (dk_at dksX0_asks_3 18 rfl rfl)
theorem dX0_asks_81 : decode cX0_asks 81 = .ok (.ifCond .eq 20, 3) := dk_153 0 20 (dk_at dksX0_asks_3 21 rfl rfl)
theorem dX0_asks_84 : decode cX0_asks 84 = .ok (.aload_n 0, 1) := dk_42 (dk_at dksX0_asks_4 0 rfl rfl)
theorem dX0_asks_85 : decode cX0_asks 85 = .ok (.iload_n 1, 1) := dk_27 (dk_at dksX0_asks_4 1 rfl rfl)
theorem dX0_asks_86 : decode cX0_asks 86 = .ok (.iload_n 3, 1) := dk_29 (dk_at dksX0_asks_4 2 rfl rfl)
theorem dX0_asks_87 : decode cX0_asks 87 = .ok (.invokevirtual 269, 3) := dk_182 1 13 (dk_at dksX0_asks_4 3 rfl rfl)
theorem dX0_asks_90 : decode cX0_asks 90 = .ok (.ifCond .eq 7, 3) := dk_153 0 7 (dk_at dksX0_asks_4 6 rfl rfl)
theorem dX0_asks_93 : decode cX0_asks 93 = .ok (.iconst 1, 1) := dk_4 (dk_at dksX0_asks_4 9 rfl rfl)
theorem dX0_asks_94 : decode cX0_asks 94 = .ok (.goto 8, 3) := dk_167 0 8 (dk_at dksX0_asks_4 10 rfl rfl)
theorem dX0_asks_97 : decode cX0_asks 97 = .ok (.iconst 0, 1) := dk_3 (dk_at dksX0_asks_4 13 rfl rfl)
theorem dX0_asks_98 : decode cX0_asks 98 = .ok (.goto 4, 3) := dk_167 0 4 (dk_at dksX0_asks_4 14 rfl rfl)
theorem dX0_asks_101 : decode cX0_asks 101 = .ok (.iconst (-1), 1) := dk_2 (dk_at dksX0_asks_4 17 rfl rfl)
theorem dX0_asks_102 : decode cX0_asks 102 = .ok (.ireturn, 1) := dk_172 (dk_at dksX0_asks_4 18 rfl rfl)
theorem dX0_asks_103 : decode cX0_asks 103 = .ok (.iconst (-1), 1) := dk_2 (dk_at dksX0_asks_4 19 rfl rfl)
theorem dX0_asks_104 : decode cX0_asks 104 = .ok (.ireturn, 1) := dk_172 (dk_at dksX0_asks_4 20 rfl rfl)
abbrev cX0_grip : ByteArray := prog_1_method_39_code
def yX0_grip : MethodName := ⟨RX0, "grip", "(II)I"⟩
def dkwX0_grip_3 : List UInt8 := [180, 0, 16, 180, 0, 159, 27, 46, 167, 0, 10, 33, 3, 16, 99, 184, 0, 255, 172]
abbrev dktX0_grip_3 : List UInt8 := dkwX0_grip_3 ++ []
def dkwX0_grip_2 : List UInt8 := [180, 0, 229, 16, 9, 28, 133, 80, 42, 4, 182, 0, 249, 66, 33, 20, 0, 253, 148, 154, 0, 15, 42]
abbrev dktX0_grip_2 : List UInt8 := dkwX0_grip_2 ++ dktX0_grip_3
def dkwX0_grip_1 : List UInt8 := [180, 0, 16, 180, 0, 156, 27, 46, 42, 180, 0, 16, 180, 0, 159, 27, 46, 182, 1, 3, 42, 180, 0, 56]
abbrev dktX0_grip_1 : List UInt8 := dkwX0_grip_1 ++ dktX0_grip_2
def dkwX0_grip_0 : List UInt8 := [42, 180, 0, 16, 180, 0, 226, 2, 160, 0, 13, 42, 180, 0, 16, 180, 0, 159, 27, 46, 172, 42, 27, 42]
abbrev dktX0_grip_0 : List UInt8 := dkwX0_grip_0 ++ dktX0_grip_1
theorem dksX0_grip_0 : cX0_grip.data.toList.drop 0 = dktX0_grip_0 := by decide +kernel
theorem dksX0_grip_1 : cX0_grip.data.toList.drop 24 = dktX0_grip_1 := dk_seg dksX0_grip_0 24 rfl rfl
theorem dksX0_grip_2 : cX0_grip.data.toList.drop 48 = dktX0_grip_2 := dk_seg dksX0_grip_1 24 rfl rfl
theorem dksX0_grip_3 : cX0_grip.data.toList.drop 71 = dktX0_grip_3 := dk_seg dksX0_grip_2 23 rfl rfl
theorem dX0_grip_0 : decode cX0_grip 0 = .ok (.aload_n 0, 1) := dk_42 (dk_at dksX0_grip_0 0 rfl rfl)
theorem dX0_grip_1 : decode cX0_grip 1 = .ok (.getfield 16, 3) := dk_180 0 16 (dk_at dksX0_grip_0 1 rfl rfl)
theorem dX0_grip_4 : decode cX0_grip 4 = .ok (.getfield 226, 3) := dk_180 0 226 (dk_at dksX0_grip_0 4 rfl rfl)
theorem dX0_grip_7 : decode cX0_grip 7 = .ok (.iconst (-1), 1) := dk_2 (dk_at dksX0_grip_0 7 rfl rfl)
theorem dX0_grip_8 : decode cX0_grip 8 = .ok (.if_icmp .ne 13, 3) := dk_160 0 13 (dk_at dksX0_grip_0 8 rfl rfl)
theorem dX0_grip_11 : decode cX0_grip 11 = .ok (.aload_n 0, 1) := dk_42 (dk_at dksX0_grip_0 11 rfl rfl)
theorem dX0_grip_12 : decode cX0_grip 12 = .ok (.getfield 16, 3) := dk_180 0 16 (dk_at dksX0_grip_0 12 rfl rfl)
theorem dX0_grip_15 : decode cX0_grip 15 = .ok (.getfield 159, 3) := dk_180 0 159 (dk_at dksX0_grip_0 15 rfl rfl)
theorem dX0_grip_18 : decode cX0_grip 18 = .ok (.iload_n 1, 1) := dk_27 (dk_at dksX0_grip_0 18 rfl rfl)
theorem dX0_grip_19 : decode cX0_grip 19 = .ok (.iaload, 1) := dk_46 (dk_at dksX0_grip_0 19 rfl rfl)
theorem dX0_grip_20 : decode cX0_grip 20 = .ok (.ireturn, 1) := dk_172 (dk_at dksX0_grip_0 20 rfl rfl)
theorem dX0_grip_21 : decode cX0_grip 21 = .ok (.aload_n 0, 1) := dk_42 (dk_at dksX0_grip_0 21 rfl rfl)
theorem dX0_grip_22 : decode cX0_grip 22 = .ok (.iload_n 1, 1) := dk_27 (dk_at dksX0_grip_0 22 rfl rfl)
theorem dX0_grip_23 : decode cX0_grip 23 = .ok (.aload_n 0, 1) := dk_42 (dk_at dksX0_grip_0 23 rfl rfl)
theorem dX0_grip_24 : decode cX0_grip 24 = .ok (.getfield 16, 3) := dk_180 0 16 (dk_at dksX0_grip_1 0 rfl rfl)
theorem dX0_grip_27 : decode cX0_grip 27 = .ok (.getfield 156, 3) := dk_180 0 156 (dk_at dksX0_grip_1 3 rfl rfl)
theorem dX0_grip_30 : decode cX0_grip 30 = .ok (.iload_n 1, 1) := dk_27 (dk_at dksX0_grip_1 6 rfl rfl)
theorem dX0_grip_31 : decode cX0_grip 31 = .ok (.iaload, 1) := dk_46 (dk_at dksX0_grip_1 7 rfl rfl)
theorem dX0_grip_32 : decode cX0_grip 32 = .ok (.aload_n 0, 1) := dk_42 (dk_at dksX0_grip_1 8 rfl rfl)
theorem dX0_grip_33 : decode cX0_grip 33 = .ok (.getfield 16, 3) := dk_180 0 16 (dk_at dksX0_grip_1 9 rfl rfl)
theorem dX0_grip_36 : decode cX0_grip 36 = .ok (.getfield 159, 3) := dk_180 0 159 (dk_at dksX0_grip_1 12 rfl rfl)
theorem dX0_grip_39 : decode cX0_grip 39 = .ok (.iload_n 1, 1) := dk_27 (dk_at dksX0_grip_1 15 rfl rfl)
theorem dX0_grip_40 : decode cX0_grip 40 = .ok (.iaload, 1) := dk_46 (dk_at dksX0_grip_1 16 rfl rfl)
theorem dX0_grip_41 : decode cX0_grip 41 = .ok (.invokevirtual 259, 3) := dk_182 1 3 (dk_at dksX0_grip_1 17 rfl rfl)
theorem dX0_grip_44 : decode cX0_grip 44 = .ok (.aload_n 0, 1) := dk_42 (dk_at dksX0_grip_1 20 rfl rfl)
theorem dX0_grip_45 : decode cX0_grip 45 = .ok (.getfield 56, 3) := dk_180 0 56 (dk_at dksX0_grip_1 21 rfl rfl)
theorem dX0_grip_48 : decode cX0_grip 48 = .ok (.getfield 229, 3) := dk_180 0 229 (dk_at dksX0_grip_2 0 rfl rfl)
theorem dX0_grip_51 : decode cX0_grip 51 = .ok (.bipush 9, 2) := dk_16 9 (dk_at dksX0_grip_2 3 rfl rfl)
theorem dX0_grip_53 : decode cX0_grip 53 = .ok (.iload_n 2, 1) := dk_28 (dk_at dksX0_grip_2 5 rfl rfl)
theorem dX0_grip_54 : decode cX0_grip 54 = .ok (.i2l, 1) := dk_133 (dk_at dksX0_grip_2 6 rfl rfl)
theorem dX0_grip_55 : decode cX0_grip 55 = .ok (.lastore, 1) := dk_80 (dk_at dksX0_grip_2 7 rfl rfl)
theorem dX0_grip_56 : decode cX0_grip 56 = .ok (.aload_n 0, 1) := dk_42 (dk_at dksX0_grip_2 8 rfl rfl)
theorem dX0_grip_57 : decode cX0_grip 57 = .ok (.iconst 1, 1) := dk_4 (dk_at dksX0_grip_2 9 rfl rfl)
theorem dX0_grip_58 : decode cX0_grip 58 = .ok (.invokevirtual 249, 3) := dk_182 0 249 (dk_at dksX0_grip_2 10 rfl rfl)
theorem dX0_grip_61 : decode cX0_grip 61 = .ok (.lstore_n 3, 1) := dk_66 (dk_at dksX0_grip_2 13 rfl rfl)
theorem dX0_grip_62 : decode cX0_grip 62 = .ok (.lload_n 3, 1) := dk_33 (dk_at dksX0_grip_2 14 rfl rfl)
theorem dX0_grip_63 : decode cX0_grip 63 = .ok (.ldc2_w 253, 3) := dk_20 0 253 (dk_at dksX0_grip_2 15 rfl rfl)
theorem dX0_grip_66 : decode cX0_grip 66 = .ok (.lcmp, 1) := dk_148 (dk_at dksX0_grip_2 18 rfl rfl)
theorem dX0_grip_67 : decode cX0_grip 67 = .ok (.ifCond .ne 15, 3) := dk_154 0 15 (dk_at dksX0_grip_2 19 rfl rfl)
theorem dX0_grip_70 : decode cX0_grip 70 = .ok (.aload_n 0, 1) := dk_42 (dk_at dksX0_grip_2 22 rfl rfl)
theorem dX0_grip_71 : decode cX0_grip 71 = .ok (.getfield 16, 3) := dk_180 0 16 (dk_at dksX0_grip_3 0 rfl rfl)
theorem dX0_grip_74 : decode cX0_grip 74 = .ok (.getfield 159, 3) := dk_180 0 159 (dk_at dksX0_grip_3 3 rfl rfl)
theorem dX0_grip_77 : decode cX0_grip 77 = .ok (.iload_n 1, 1) := dk_27 (dk_at dksX0_grip_3 6 rfl rfl)
theorem dX0_grip_78 : decode cX0_grip 78 = .ok (.iaload, 1) := dk_46 (dk_at dksX0_grip_3 7 rfl rfl)
theorem dX0_grip_79 : decode cX0_grip 79 = .ok (.goto 10, 3) := dk_167 0 10 (dk_at dksX0_grip_3 8 rfl rfl)
theorem dX0_grip_82 : decode cX0_grip 82 = .ok (.lload_n 3, 1) := dk_33 (dk_at dksX0_grip_3 11 rfl rfl)
theorem dX0_grip_83 : decode cX0_grip 83 = .ok (.iconst 0, 1) := dk_3 (dk_at dksX0_grip_3 12 rfl rfl)
theorem dX0_grip_84 : decode cX0_grip 84 = .ok (.bipush 99, 2) := dk_16 99 (dk_at dksX0_grip_3 13 rfl rfl)
theorem dX0_grip_86 : decode cX0_grip 86 = .ok (.invokestatic 255, 3) := dk_184 0 255 (dk_at dksX0_grip_3 15 rfl rfl)
theorem dX0_grip_89 : decode cX0_grip 89 = .ok (.ireturn, 1) := dk_172 (dk_at dksX0_grip_3 18 rfl rfl)
abbrev cX0_near : ByteArray := prog_1_method_5_code
def yX0_near : MethodName := ⟨RX0, "near", "(JII)I"⟩
def dkwX0_near_0 : List UInt8 := [28, 133, 29, 133, 30, 184, 0, 88, 184, 0, 94, 136, 172]
abbrev dktX0_near_0 : List UInt8 := dkwX0_near_0 ++ []
theorem dksX0_near_0 : cX0_near.data.toList.drop 0 = dktX0_near_0 := by decide +kernel
theorem dX0_near_0 : decode cX0_near 0 = .ok (.iload_n 2, 1) := dk_28 (dk_at dksX0_near_0 0 rfl rfl)
theorem dX0_near_1 : decode cX0_near 1 = .ok (.i2l, 1) := dk_133 (dk_at dksX0_near_0 1 rfl rfl)
theorem dX0_near_2 : decode cX0_near 2 = .ok (.iload_n 3, 1) := dk_29 (dk_at dksX0_near_0 2 rfl rfl)
theorem dX0_near_3 : decode cX0_near 3 = .ok (.i2l, 1) := dk_133 (dk_at dksX0_near_0 3 rfl rfl)
theorem dX0_near_4 : decode cX0_near 4 = .ok (.lload_n 0, 1) := dk_30 (dk_at dksX0_near_0 4 rfl rfl)
theorem dX0_near_5 : decode cX0_near 5 = .ok (.invokestatic 88, 3) := dk_184 0 88 (dk_at dksX0_near_0 5 rfl rfl)
theorem dX0_near_8 : decode cX0_near 8 = .ok (.invokestatic 94, 3) := dk_184 0 94 (dk_at dksX0_near_0 8 rfl rfl)
theorem dX0_near_11 : decode cX0_near 11 = .ok (.l2i, 1) := dk_136 (dk_at dksX0_near_0 11 rfl rfl)
theorem dX0_near_12 : decode cX0_near 12 = .ok (.ireturn, 1) := dk_172 (dk_at dksX0_near_0 12 rfl rfl)
abbrev cX0_wed : ByteArray := prog_1_method_40_code
def yX0_wed : MethodName := ⟨RX0, "wed", "(II)I"⟩
def dkwX0_wed_3 : List UInt8 := [184, 0, 255, 172]
abbrev dktX0_wed_3 : List UInt8 := dkwX0_wed_3 ++ []
def dkwX0_wed_2 : List UInt8 := [80, 42, 5, 182, 0, 249, 66, 33, 20, 0, 253, 148, 154, 0, 8, 16, 25, 167, 0, 10, 33, 3, 16, 100]
abbrev dktX0_wed_2 : List UInt8 := dkwX0_wed_2 ++ dktX0_wed_3
def dkwX0_wed_1 : List UInt8 := [46, 42, 180, 0, 16, 180, 0, 159, 27, 46, 182, 1, 3, 42, 180, 0, 56, 180, 0, 229, 16, 10, 28, 133]
abbrev dktX0_wed_1 : List UInt8 := dkwX0_wed_1 ++ dktX0_wed_2
def dkwX0_wed_0 : List UInt8 := [42, 180, 0, 16, 180, 0, 226, 2, 160, 0, 6, 16, 25, 172, 42, 27, 42, 180, 0, 16, 180, 0, 156, 27]
abbrev dktX0_wed_0 : List UInt8 := dkwX0_wed_0 ++ dktX0_wed_1
theorem dksX0_wed_0 : cX0_wed.data.toList.drop 0 = dktX0_wed_0 := by decide +kernel
theorem dksX0_wed_1 : cX0_wed.data.toList.drop 24 = dktX0_wed_1 := dk_seg dksX0_wed_0 24 rfl rfl
theorem dksX0_wed_2 : cX0_wed.data.toList.drop 48 = dktX0_wed_2 := dk_seg dksX0_wed_1 24 rfl rfl
theorem dksX0_wed_3 : cX0_wed.data.toList.drop 72 = dktX0_wed_3 := dk_seg dksX0_wed_2 24 rfl rfl
theorem dX0_wed_0 : decode cX0_wed 0 = .ok (.aload_n 0, 1) := dk_42 (dk_at dksX0_wed_0 0 rfl rfl)
theorem dX0_wed_1 : decode cX0_wed 1 = .ok (.getfield 16, 3) := dk_180 0 16 (dk_at dksX0_wed_0 1 rfl rfl)
theorem dX0_wed_4 : decode cX0_wed 4 = .ok (.getfield 226, 3) := dk_180 0 226 (dk_at dksX0_wed_0 4 rfl rfl)
theorem dX0_wed_7 : decode cX0_wed 7 = .ok (.iconst (-1), 1) := dk_2 (dk_at dksX0_wed_0 7 rfl rfl)
theorem dX0_wed_8 : decode cX0_wed 8 = .ok (.if_icmp .ne 6, 3) := dk_160 0 6 (dk_at dksX0_wed_0 8 rfl rfl)
theorem dX0_wed_11 : decode cX0_wed 11 = .ok (.bipush 25, 2) := dk_16 25 (dk_at dksX0_wed_0 11 rfl rfl)
theorem dX0_wed_13 : decode cX0_wed 13 = .ok (.ireturn, 1) := dk_172 (dk_at dksX0_wed_0 13 rfl rfl)
theorem dX0_wed_14 : decode cX0_wed 14 = .ok (.aload_n 0, 1) := dk_42 (dk_at dksX0_wed_0 14 rfl rfl)
theorem dX0_wed_15 : decode cX0_wed 15 = .ok (.iload_n 1, 1) := dk_27 (dk_at dksX0_wed_0 15 rfl rfl)
theorem dX0_wed_16 : decode cX0_wed 16 = .ok (.aload_n 0, 1) := dk_42 (dk_at dksX0_wed_0 16 rfl rfl)
theorem dX0_wed_17 : decode cX0_wed 17 = .ok (.getfield 16, 3) := dk_180 0 16 (dk_at dksX0_wed_0 17 rfl rfl)
theorem dX0_wed_20 : decode cX0_wed 20 = .ok (.getfield 156, 3) := dk_180 0 156 (dk_at dksX0_wed_0 20 rfl rfl)
theorem dX0_wed_23 : decode cX0_wed 23 = .ok (.iload_n 1, 1) := dk_27 (dk_at dksX0_wed_0 23 rfl rfl)
theorem dX0_wed_24 : decode cX0_wed 24 = .ok (.iaload, 1) := dk_46 (dk_at dksX0_wed_1 0 rfl rfl)
theorem dX0_wed_25 : decode cX0_wed 25 = .ok (.aload_n 0, 1) := dk_42 (dk_at dksX0_wed_1 1 rfl rfl)
theorem dX0_wed_26 : decode cX0_wed 26 = .ok (.getfield 16, 3) := dk_180 0 16 (dk_at dksX0_wed_1 2 rfl rfl)
theorem dX0_wed_29 : decode cX0_wed 29 = .ok (.getfield 159, 3) := dk_180 0 159 (dk_at dksX0_wed_1 5 rfl rfl)
theorem dX0_wed_32 : decode cX0_wed 32 = .ok (.iload_n 1, 1) := dk_27 (dk_at dksX0_wed_1 8 rfl rfl)
theorem dX0_wed_33 : decode cX0_wed 33 = .ok (.iaload, 1) := dk_46 (dk_at dksX0_wed_1 9 rfl rfl)
theorem dX0_wed_34 : decode cX0_wed 34 = .ok (.invokevirtual 259, 3) := dk_182 1 3 (dk_at dksX0_wed_1 10 rfl rfl)
theorem dX0_wed_37 : decode cX0_wed 37 = .ok (.aload_n 0, 1) := dk_42 (dk_at dksX0_wed_1 13 rfl rfl)
theorem dX0_wed_38 : decode cX0_wed 38 = .ok (.getfield 56, 3) := dk_180 0 56 (dk_at dksX0_wed_1 14 rfl rfl)
theorem dX0_wed_41 : decode cX0_wed 41 = .ok (.getfield 229, 3) := dk_180 0 229 (dk_at dksX0_wed_1 17 rfl rfl)
theorem dX0_wed_44 : decode cX0_wed 44 = .ok (.bipush 10, 2) := dk_16 10 (dk_at dksX0_wed_1 20 rfl rfl)
theorem dX0_wed_46 : decode cX0_wed 46 = .ok (.iload_n 2, 1) := dk_28 (dk_at dksX0_wed_1 22 rfl rfl)
theorem dX0_wed_47 : decode cX0_wed 47 = .ok (.i2l, 1) := dk_133 (dk_at dksX0_wed_1 23 rfl rfl)
theorem dX0_wed_48 : decode cX0_wed 48 = .ok (.lastore, 1) := dk_80 (dk_at dksX0_wed_2 0 rfl rfl)
theorem dX0_wed_49 : decode cX0_wed 49 = .ok (.aload_n 0, 1) := dk_42 (dk_at dksX0_wed_2 1 rfl rfl)
theorem dX0_wed_50 : decode cX0_wed 50 = .ok (.iconst 2, 1) := dk_5 (dk_at dksX0_wed_2 2 rfl rfl)
theorem dX0_wed_51 : decode cX0_wed 51 = .ok (.invokevirtual 249, 3) := dk_182 0 249 (dk_at dksX0_wed_2 3 rfl rfl)
theorem dX0_wed_54 : decode cX0_wed 54 = .ok (.lstore_n 3, 1) := dk_66 (dk_at dksX0_wed_2 6 rfl rfl)
theorem dX0_wed_55 : decode cX0_wed 55 = .ok (.lload_n 3, 1) := dk_33 (dk_at dksX0_wed_2 7 rfl rfl)
theorem dX0_wed_56 : decode cX0_wed 56 = .ok (.ldc2_w 253, 3) := dk_20 0 253 (dk_at dksX0_wed_2 8 rfl rfl)
theorem dX0_wed_59 : decode cX0_wed 59 = .ok (.lcmp, 1) := dk_148 (dk_at dksX0_wed_2 11 rfl rfl)
theorem dX0_wed_60 : decode cX0_wed 60 = .ok (.ifCond .ne 8, 3) := dk_154 0 8 (dk_at dksX0_wed_2 12 rfl rfl)
theorem dX0_wed_63 : decode cX0_wed 63 = .ok (.bipush 25, 2) := dk_16 25 (dk_at dksX0_wed_2 15 rfl rfl)
theorem dX0_wed_65 : decode cX0_wed 65 = .ok (.goto 10, 3) := dk_167 0 10 (dk_at dksX0_wed_2 17 rfl rfl)
theorem dX0_wed_68 : decode cX0_wed 68 = .ok (.lload_n 3, 1) := dk_33 (dk_at dksX0_wed_2 20 rfl rfl)
theorem dX0_wed_69 : decode cX0_wed 69 = .ok (.iconst 0, 1) := dk_3 (dk_at dksX0_wed_2 21 rfl rfl)
theorem dX0_wed_70 : decode cX0_wed 70 = .ok (.bipush 100, 2) := dk_16 100 (dk_at dksX0_wed_2 22 rfl rfl)
theorem dX0_wed_72 : decode cX0_wed 72 = .ok (.invokestatic 255, 3) := dk_184 0 255 (dk_at dksX0_wed_3 0 rfl rfl)
theorem dX0_wed_75 : decode cX0_wed 75 = .ok (.ireturn, 1) := dk_172 (dk_at dksX0_wed_3 3 rfl rfl)
abbrev cX0_isBarred_2 : ByteArray := prog_1_method_42_code
def yX0_isBarred_2 : MethodName := ⟨RX0, "isBarred", "(II)Z"⟩
def dkwX0_isBarred_2_1 : List UInt8 := [172]
abbrev dktX0_isBarred_2_1 : List UInt8 := dkwX0_isBarred_2_1 ++ []
def dkwX0_isBarred_2_0 : List UInt8 := [42, 27, 42, 180, 0, 16, 180, 0, 156, 27, 46, 42, 180, 0, 16, 180, 0, 159, 27, 46, 28, 182, 0, 149]
abbrev dktX0_isBarred_2_0 : List UInt8 := dkwX0_isBarred_2_0 ++ dktX0_isBarred_2_1
theorem dksX0_isBarred_2_0 : cX0_isBarred_2.data.toList.drop 0 = dktX0_isBarred_2_0 := by decide +kernel
theorem dksX0_isBarred_2_1 : cX0_isBarred_2.data.toList.drop 24 = dktX0_isBarred_2_1 := dk_seg dksX0_isBarred_2_0 24 rfl rfl
theorem dX0_isBarred_2_0 : decode cX0_isBarred_2 0 = .ok (.aload_n 0, 1) := dk_42 (dk_at dksX0_isBarred_2_0 0 rfl rfl)
theorem dX0_isBarred_2_1 : decode cX0_isBarred_2 1 = .ok (.iload_n 1, 1) := dk_27 (dk_at dksX0_isBarred_2_0 1 rfl rfl)
theorem dX0_isBarred_2_2 : decode cX0_isBarred_2 2 = .ok (.aload_n 0, 1) := dk_42 (dk_at dksX0_isBarred_2_0 2 rfl rfl)
theorem dX0_isBarred_2_3 : decode cX0_isBarred_2 3 = .ok (.getfield 16, 3) := dk_180 0 16 (dk_at dksX0_isBarred_2_0 3 rfl rfl)
theorem dX0_isBarred_2_6 : decode cX0_isBarred_2 6 = .ok (.getfield 156, 3) := dk_180 0 156 (dk_at dksX0_isBarred_2_0 6 rfl rfl)
theorem dX0_isBarred_2_9 : decode cX0_isBarred_2 9 = .ok (.iload_n 1, 1) := dk_27 (dk_at dksX0_isBarred_2_0 9 rfl rfl)
theorem dX0_isBarred_2_10 : decode cX0_isBarred_2 10 = .ok (.iaload, 1) := dk_46 (dk_at dksX0_isBarred_2_0 10 rfl rfl)
theorem dX0_isBarred_2_11 : decode cX0_isBarred_2 11 = .ok (.aload_n 0, 1) := dk_42 (dk_at dksX0_isBarred_2_0 11 rfl rfl)
theorem dX0_isBarred_2_12 : decode cX0_isBarred_2 12 = .ok (.getfield 16, 3) := dk_180 0 16 (dk_at dksX0_isBarred_2_0 12 rfl rfl)
theorem dX0_isBarred_2_15 : decode cX0_isBarred_2 15 = .ok (.getfield 159, 3) := dk_180 0 159 (dk_at dksX0_isBarred_2_0 15 rfl rfl)
theorem dX0_isBarred_2_18 : decode cX0_isBarred_2 18 = .ok (.iload_n 1, 1) := dk_27 (dk_at dksX0_isBarred_2_0 18 rfl rfl)
theorem dX0_isBarred_2_19 : decode cX0_isBarred_2 19 = .ok (.iaload, 1) := dk_46 (dk_at dksX0_isBarred_2_0 19 rfl rfl)
theorem dX0_isBarred_2_20 : decode cX0_isBarred_2 20 = .ok (.iload_n 2, 1) := dk_28 (dk_at dksX0_isBarred_2_0 20 rfl rfl)
theorem dX0_isBarred_2_21 : decode cX0_isBarred_2 21 = .ok (.invokevirtual 149, 3) := dk_182 0 149 (dk_at dksX0_isBarred_2_0 21 rfl rfl)
theorem dX0_isBarred_2_24 : decode cX0_isBarred_2 24 = .ok (.ireturn, 1) := dk_172 (dk_at dksX0_isBarred_2_1 0 rfl rfl)
abbrev cX0_go : ByteArray := prog_1_method_50_code
def yX0_go : MethodName := ⟨RX0, "go", "(II)I"⟩
def dkwX0_go_1 : List UInt8 := [172]
abbrev dktX0_go_1 : List UInt8 := dkwX0_go_1 ++ []
def dkwX0_go_0 : List UInt8 := [42, 27, 28, 182, 1, 36, 62, 29, 156, 0, 11, 42, 29, 182, 0, 124, 167, 0, 8, 42, 29, 182, 0, 115]
abbrev dktX0_go_0 : List UInt8 := dkwX0_go_0 ++ dktX0_go_1
theorem dksX0_go_0 : cX0_go.data.toList.drop 0 = dktX0_go_0 := by decide +kernel
theorem dksX0_go_1 : cX0_go.data.toList.drop 24 = dktX0_go_1 := dk_seg dksX0_go_0 24 rfl rfl
theorem dX0_go_0 : decode cX0_go 0 = .ok (.aload_n 0, 1) := dk_42 (dk_at dksX0_go_0 0 rfl rfl)
theorem dX0_go_1 : decode cX0_go 1 = .ok (.iload_n 1, 1) := dk_27 (dk_at dksX0_go_0 1 rfl rfl)
theorem dX0_go_2 : decode cX0_go 2 = .ok (.iload_n 2, 1) := dk_28 (dk_at dksX0_go_0 2 rfl rfl)
theorem dX0_go_3 : decode cX0_go 3 = .ok (.invokevirtual 292, 3) := dk_182 1 36 (dk_at dksX0_go_0 3 rfl rfl)
theorem dX0_go_6 : decode cX0_go 6 = .ok (.istore_n 3, 1) := dk_62 (dk_at dksX0_go_0 6 rfl rfl)
theorem dX0_go_7 : decode cX0_go 7 = .ok (.iload_n 3, 1) := dk_29 (dk_at dksX0_go_0 7 rfl rfl)
theorem dX0_go_8 : decode cX0_go 8 = .ok (.ifCond .ge 11, 3) := dk_156 0 11 (dk_at dksX0_go_0 8 rfl rfl)
theorem dX0_go_11 : decode cX0_go 11 = .ok (.aload_n 0, 1) := dk_42 (dk_at dksX0_go_0 11 rfl rfl)
theorem dX0_go_12 : decode cX0_go 12 = .ok (.iload_n 3, 1) := dk_29 (dk_at dksX0_go_0 12 rfl rfl)
theorem dX0_go_13 : decode cX0_go 13 = .ok (.invokevirtual 124, 3) := dk_182 0 124 (dk_at dksX0_go_0 13 rfl rfl)
theorem dX0_go_16 : decode cX0_go 16 = .ok (.goto 8, 3) := dk_167 0 8 (dk_at dksX0_go_0 16 rfl rfl)
theorem dX0_go_19 : decode cX0_go 19 = .ok (.aload_n 0, 1) := dk_42 (dk_at dksX0_go_0 19 rfl rfl)
theorem dX0_go_20 : decode cX0_go 20 = .ok (.iload_n 3, 1) := dk_29 (dk_at dksX0_go_0 20 rfl rfl)
theorem dX0_go_21 : decode cX0_go 21 = .ok (.invokevirtual 115, 3) := dk_182 0 115 (dk_at dksX0_go_0 21 rfl rfl)
theorem dX0_go_24 : decode cX0_go 24 = .ok (.ireturn, 1) := dk_172 (dk_at dksX0_go_1 0 rfl rfl)
abbrev cX0_goesKept : ByteArray := prog_1_method_46_code
def yX0_goesKept : MethodName := ⟨RX0, "goesKept", "(II)I"⟩
def dkwX0_goesKept_2 : List UInt8 := [180, 0, 16, 180, 0, 142, 27, 46, 62, 42, 180, 0, 16, 180, 0, 142, 27, 28, 79, 29, 172]
abbrev dktX0_goesKept_2 : List UInt8 := dkwX0_goesKept_2 ++ []
def dkwX0_goesKept_1 : List UInt8 := [180, 0, 16, 180, 0, 142, 27, 28, 182, 1, 21, 154, 0, 6, 16, 253, 172, 42, 3, 182, 1, 25, 42]
abbrev dktX0_goesKept_1 : List UInt8 := dkwX0_goesKept_1 ++ dktX0_goesKept_2
def dkwX0_goesKept_0 : List UInt8 := [28, 184, 0, 134, 154, 0, 5, 2, 172, 42, 27, 182, 0, 169, 154, 0, 6, 16, 254, 172, 42, 42]
abbrev dktX0_goesKept_0 : List UInt8 := dkwX0_goesKept_0 ++ dktX0_goesKept_1
theorem dksX0_goesKept_0 : cX0_goesKept.data.toList.drop 0 = dktX0_goesKept_0 := by decide +kernel
theorem dksX0_goesKept_1 : cX0_goesKept.data.toList.drop 22 = dktX0_goesKept_1 := dk_seg dksX0_goesKept_0 22 rfl rfl
theorem dksX0_goesKept_2 : cX0_goesKept.data.toList.drop 45 = dktX0_goesKept_2 := dk_seg dksX0_goesKept_1 23 rfl rfl
theorem dX0_goesKept_0 : decode cX0_goesKept 0 = .ok (.iload_n 2, 1) := dk_28 (dk_at dksX0_goesKept_0 0 rfl rfl)
theorem dX0_goesKept_1 : decode cX0_goesKept 1 = .ok (.invokestatic 134, 3) := dk_184 0 134 (dk_at dksX0_goesKept_0 1 rfl rfl)
theorem dX0_goesKept_4 : decode cX0_goesKept 4 = .ok (.ifCond .ne 5, 3) := dk_154 0 5 (dk_at dksX0_goesKept_0 4 rfl rfl)
theorem dX0_goesKept_7 : decode cX0_goesKept 7 = .ok (.iconst (-1), 1) := dk_2 (dk_at dksX0_goesKept_0 7 rfl rfl)
theorem dX0_goesKept_8 : decode cX0_goesKept 8 = .ok (.ireturn, 1) := dk_172 (dk_at dksX0_goesKept_0 8 rfl rfl)
theorem dX0_goesKept_9 : decode cX0_goesKept 9 = .ok (.aload_n 0, 1) := dk_42 (dk_at dksX0_goesKept_0 9 rfl rfl)
theorem dX0_goesKept_10 : decode cX0_goesKept 10 = .ok (.iload_n 1, 1) := dk_27 (dk_at dksX0_goesKept_0 10 rfl rfl)
theorem dX0_goesKept_11 : decode cX0_goesKept 11 = .ok (.invokevirtual 169, 3) := dk_182 0 169 (dk_at dksX0_goesKept_0 11 rfl rfl)
theorem dX0_goesKept_14 : decode cX0_goesKept 14 = .ok (.ifCond .ne 6, 3) := dk_154 0 6 (dk_at dksX0_goesKept_0 14 rfl rfl)
theorem dX0_goesKept_17 : decode cX0_goesKept 17 = .ok (.bipush (-2), 2) := dk_16 254 (dk_at dksX0_goesKept_0 17 rfl rfl)
theorem dX0_goesKept_19 : decode cX0_goesKept 19 = .ok (.ireturn, 1) := dk_172 (dk_at dksX0_goesKept_0 19 rfl rfl)
theorem dX0_goesKept_20 : decode cX0_goesKept 20 = .ok (.aload_n 0, 1) := dk_42 (dk_at dksX0_goesKept_0 20 rfl rfl)
theorem dX0_goesKept_21 : decode cX0_goesKept 21 = .ok (.aload_n 0, 1) := dk_42 (dk_at dksX0_goesKept_0 21 rfl rfl)
theorem dX0_goesKept_22 : decode cX0_goesKept 22 = .ok (.getfield 16, 3) := dk_180 0 16 (dk_at dksX0_goesKept_1 0 rfl rfl)
theorem dX0_goesKept_25 : decode cX0_goesKept 25 = .ok (.getfield 142, 3) := dk_180 0 142 (dk_at dksX0_goesKept_1 3 rfl rfl)
theorem dX0_goesKept_28 : decode cX0_goesKept 28 = .ok (.iload_n 1, 1) := dk_27 (dk_at dksX0_goesKept_1 6 rfl rfl)
theorem dX0_goesKept_29 : decode cX0_goesKept 29 = .ok (.iload_n 2, 1) := dk_28 (dk_at dksX0_goesKept_1 7 rfl rfl)
theorem dX0_goesKept_30 : decode cX0_goesKept 30 = .ok (.invokevirtual 277, 3) := dk_182 1 21 (dk_at dksX0_goesKept_1 8 rfl rfl)
theorem dX0_goesKept_33 : decode cX0_goesKept 33 = .ok (.ifCond .ne 6, 3) := dk_154 0 6 (dk_at dksX0_goesKept_1 11 rfl rfl)
theorem dX0_goesKept_36 : decode cX0_goesKept 36 = .ok (.bipush (-3), 2) := dk_16 253 (dk_at dksX0_goesKept_1 14 rfl rfl)
theorem dX0_goesKept_38 : decode cX0_goesKept 38 = .ok (.ireturn, 1) := dk_172 (dk_at dksX0_goesKept_1 16 rfl rfl)
theorem dX0_goesKept_39 : decode cX0_goesKept 39 = .ok (.aload_n 0, 1) := dk_42 (dk_at dksX0_goesKept_1 17 rfl rfl)
theorem dX0_goesKept_40 : decode cX0_goesKept 40 = .ok (.iconst 0, 1) := dk_3 (dk_at dksX0_goesKept_1 18 rfl rfl)
theorem dX0_goesKept_41 : decode cX0_goesKept 41 = .ok (.invokevirtual 281, 3) := dk_182 1 25 (dk_at dksX0_goesKept_1 19 rfl rfl)
theorem dX0_goesKept_44 : decode cX0_goesKept 44 = .ok (.aload_n 0, 1) := dk_42 (dk_at dksX0_goesKept_1 22 rfl rfl)
theorem dX0_goesKept_45 : decode cX0_goesKept 45 = .ok (.getfield 16, 3) := dk_180 0 16 (dk_at dksX0_goesKept_2 0 rfl rfl)
theorem dX0_goesKept_48 : decode cX0_goesKept 48 = .ok (.getfield 142, 3) := dk_180 0 142 (dk_at dksX0_goesKept_2 3 rfl rfl)
theorem dX0_goesKept_51 : decode cX0_goesKept 51 = .ok (.iload_n 1, 1) := dk_27 (dk_at dksX0_goesKept_2 6 rfl rfl)
theorem dX0_goesKept_52 : decode cX0_goesKept 52 = .ok (.iaload, 1) := dk_46 (dk_at dksX0_goesKept_2 7 rfl rfl)
theorem dX0_goesKept_53 : decode cX0_goesKept 53 = .ok (.istore_n 3, 1) := dk_62 (dk_at dksX0_goesKept_2 8 rfl rfl)
theorem dX0_goesKept_54 : decode cX0_goesKept 54 = .ok (.aload_n 0, 1) := dk_42 (dk_at dksX0_goesKept_2 9 rfl rfl)
theorem dX0_goesKept_55 : decode cX0_goesKept 55 = .ok (.getfield 16, 3) := dk_180 0 16 (dk_at dksX0_goesKept_2 10 rfl rfl)
theorem dX0_goesKept_58 : decode cX0_goesKept 58 = .ok (.getfield 142, 3) := dk_180 0 142 (dk_at dksX0_goesKept_2 13 rfl rfl)
theorem dX0_goesKept_61 : decode cX0_goesKept 61 = .ok (.iload_n 1, 1) := dk_27 (dk_at dksX0_goesKept_2 16 rfl rfl)
theorem dX0_goesKept_62 : decode cX0_goesKept 62 = .ok (.iload_n 2, 1) := dk_28 (dk_at dksX0_goesKept_2 17 rfl rfl)
theorem dX0_goesKept_63 : decode cX0_goesKept 63 = .ok (.iastore, 1) := dk_79 (dk_at dksX0_goesKept_2 18 rfl rfl)
theorem dX0_goesKept_64 : decode cX0_goesKept 64 = .ok (.iload_n 3, 1) := dk_29 (dk_at dksX0_goesKept_2 19 rfl rfl)
theorem dX0_goesKept_65 : decode cX0_goesKept 65 = .ok (.ireturn, 1) := dk_172 (dk_at dksX0_goesKept_2 20 rfl rfl)
abbrev cX0_canGo : ByteArray := prog_1_method_45_code
def yX0_canGo : MethodName := ⟨RX0, "canGo", "([III)Z"⟩
def dkwX0_canGo_1 : List UInt8 := [172]
abbrev dktX0_canGo_1 : List UInt8 := dkwX0_canGo_1 ++ []
def dkwX0_canGo_0 : List UInt8 := [42, 43, 29, 182, 0, 145, 2, 160, 0, 16, 42, 28, 29, 182, 1, 13, 154, 0, 7, 4, 167, 0, 4, 3]
abbrev dktX0_canGo_0 : List UInt8 := dkwX0_canGo_0 ++ dktX0_canGo_1
theorem dksX0_canGo_0 : cX0_canGo.data.toList.drop 0 = dktX0_canGo_0 := by decide +kernel
theorem dksX0_canGo_1 : cX0_canGo.data.toList.drop 24 = dktX0_canGo_1 := dk_seg dksX0_canGo_0 24 rfl rfl
theorem dX0_canGo_0 : decode cX0_canGo 0 = .ok (.aload_n 0, 1) := dk_42 (dk_at dksX0_canGo_0 0 rfl rfl)
theorem dX0_canGo_1 : decode cX0_canGo 1 = .ok (.aload_n 1, 1) := dk_43 (dk_at dksX0_canGo_0 1 rfl rfl)
theorem dX0_canGo_2 : decode cX0_canGo 2 = .ok (.iload_n 3, 1) := dk_29 (dk_at dksX0_canGo_0 2 rfl rfl)
theorem dX0_canGo_3 : decode cX0_canGo 3 = .ok (.invokevirtual 145, 3) := dk_182 0 145 (dk_at dksX0_canGo_0 3 rfl rfl)
theorem dX0_canGo_6 : decode cX0_canGo 6 = .ok (.iconst (-1), 1) := dk_2 (dk_at dksX0_canGo_0 6 rfl rfl)
theorem dX0_canGo_7 : decode cX0_canGo 7 = .ok (.if_icmp .ne 16, 3) := dk_160 0 16 (dk_at dksX0_canGo_0 7 rfl rfl)
theorem dX0_canGo_10 : decode cX0_canGo 10 = .ok (.aload_n 0, 1) := dk_42 (dk_at dksX0_canGo_0 10 rfl rfl)
theorem dX0_canGo_11 : decode cX0_canGo 11 = .ok (.iload_n 2, 1) := dk_28 (dk_at dksX0_canGo_0 11 rfl rfl)
theorem dX0_canGo_12 : decode cX0_canGo 12 = .ok (.iload_n 3, 1) := dk_29 (dk_at dksX0_canGo_0 12 rfl rfl)
theorem dX0_canGo_13 : decode cX0_canGo 13 = .ok (.invokevirtual 269, 3) := dk_182 1 13 (dk_at dksX0_canGo_0 13 rfl rfl)
theorem dX0_canGo_16 : decode cX0_canGo 16 = .ok (.ifCond .ne 7, 3) := dk_154 0 7 (dk_at dksX0_canGo_0 16 rfl rfl)
theorem dX0_canGo_19 : decode cX0_canGo 19 = .ok (.iconst 1, 1) := dk_4 (dk_at dksX0_canGo_0 19 rfl rfl)
theorem dX0_canGo_20 : decode cX0_canGo 20 = .ok (.goto 4, 3) := dk_167 0 4 (dk_at dksX0_canGo_0 20 rfl rfl)
theorem dX0_canGo_23 : decode cX0_canGo 23 = .ok (.iconst 0, 1) := dk_3 (dk_at dksX0_canGo_0 23 rfl rfl)
theorem dX0_canGo_24 : decode cX0_canGo 24 = .ok (.ireturn, 1) := dk_172 (dk_at dksX0_canGo_1 0 rfl rfl)
abbrev cX0_keeps : ByteArray := prog_1_method_44_code
def yX0_keeps : MethodName := ⟨RX0, "keeps", "(I)V"⟩
def dkwX0_keeps_4 : List UInt8 := [181, 0, 112, 177]
abbrev dktX0_keeps_4 : List UInt8 := dkwX0_keeps_4 ++ []
def dkwX0_keeps_3 : List UInt8 := [16, 6, 184, 1, 15, 42, 180, 0, 27, 42, 180, 0, 112, 27, 79, 42, 89, 180, 0, 112, 4, 96]
abbrev dktX0_keeps_3 : List UInt8 := dkwX0_keeps_3 ++ dktX0_keeps_4
def dkwX0_keeps_2 : List UInt8 := [100, 181, 0, 112, 42, 180, 0, 16, 180, 0, 142, 3, 42, 180, 0, 24, 16, 6, 42, 180, 0, 112, 104]
abbrev dktX0_keeps_2 : List UInt8 := dkwX0_keeps_2 ++ dktX0_keeps_3
def dkwX0_keeps_1 : List UInt8 := [184, 1, 15, 42, 180, 0, 27, 4, 42, 180, 0, 27, 3, 16, 15, 184, 1, 15, 42, 89, 180, 0, 112, 4]
abbrev dktX0_keeps_1 : List UInt8 := dkwX0_keeps_1 ++ dktX0_keeps_2
def dkwX0_keeps_0 : List UInt8 := [42, 180, 0, 112, 16, 16, 160, 0, 44, 42, 180, 0, 24, 16, 6, 42, 180, 0, 24, 3, 16, 90]
abbrev dktX0_keeps_0 : List UInt8 := dkwX0_keeps_0 ++ dktX0_keeps_1
theorem dksX0_keeps_0 : cX0_keeps.data.toList.drop 0 = dktX0_keeps_0 := by decide +kernel
theorem dksX0_keeps_1 : cX0_keeps.data.toList.drop 22 = dktX0_keeps_1 := dk_seg dksX0_keeps_0 22 rfl rfl
theorem dksX0_keeps_2 : cX0_keeps.data.toList.drop 46 = dktX0_keeps_2 := dk_seg dksX0_keeps_1 24 rfl rfl
theorem dksX0_keeps_3 : cX0_keeps.data.toList.drop 69 = dktX0_keeps_3 := dk_seg dksX0_keeps_2 23 rfl rfl
theorem dksX0_keeps_4 : cX0_keeps.data.toList.drop 91 = dktX0_keeps_4 := dk_seg dksX0_keeps_3 22 rfl rfl
theorem dX0_keeps_0 : decode cX0_keeps 0 = .ok (.aload_n 0, 1) := dk_42 (dk_at dksX0_keeps_0 0 rfl rfl)
theorem dX0_keeps_1 : decode cX0_keeps 1 = .ok (.getfield 112, 3) := dk_180 0 112 (dk_at dksX0_keeps_0 1 rfl rfl)
theorem dX0_keeps_4 : decode cX0_keeps 4 = .ok (.bipush 16, 2) := dk_16 16 (dk_at dksX0_keeps_0 4 rfl rfl)
theorem dX0_keeps_6 : decode cX0_keeps 6 = .ok (.if_icmp .ne 44, 3) := dk_160 0 44 (dk_at dksX0_keeps_0 6 rfl rfl)
theorem dX0_keeps_9 : decode cX0_keeps 9 = .ok (.aload_n 0, 1) := dk_42 (dk_at dksX0_keeps_0 9 rfl rfl)
theorem dX0_keeps_10 : decode cX0_keeps 10 = .ok (.getfield 24, 3) := dk_180 0 24 (dk_at dksX0_keeps_0 10 rfl rfl)
theorem dX0_keeps_13 : decode cX0_keeps 13 = .ok (.bipush 6, 2) := dk_16 6 (dk_at dksX0_keeps_0 13 rfl rfl)
theorem dX0_keeps_15 : decode cX0_keeps 15 = .ok (.aload_n 0, 1) := dk_42 (dk_at dksX0_keeps_0 15 rfl rfl)
theorem dX0_keeps_16 : decode cX0_keeps 16 = .ok (.getfield 24, 3) := dk_180 0 24 (dk_at dksX0_keeps_0 16 rfl rfl)
theorem dX0_keeps_19 : decode cX0_keeps 19 = .ok (.iconst 0, 1) := dk_3 (dk_at dksX0_keeps_0 19 rfl rfl)
theorem dX0_keeps_20 : decode cX0_keeps 20 = .ok (.bipush 90, 2) := dk_16 90 (dk_at dksX0_keeps_0 20 rfl rfl)
theorem dX0_keeps_22 : decode cX0_keeps 22 = .ok (.invokestatic 271, 3) := dk_184 1 15 (dk_at dksX0_keeps_1 0 rfl rfl)
theorem dX0_keeps_25 : decode cX0_keeps 25 = .ok (.aload_n 0, 1) := dk_42 (dk_at dksX0_keeps_1 3 rfl rfl)
theorem dX0_keeps_26 : decode cX0_keeps 26 = .ok (.getfield 27, 3) := dk_180 0 27 (dk_at dksX0_keeps_1 4 rfl rfl)
theorem dX0_keeps_29 : decode cX0_keeps 29 = .ok (.iconst 1, 1) := dk_4 (dk_at dksX0_keeps_1 7 rfl rfl)
theorem dX0_keeps_30 : decode cX0_keeps 30 = .ok (.aload_n 0, 1) := dk_42 (dk_at dksX0_keeps_1 8 rfl rfl)
theorem dX0_keeps_31 : decode cX0_keeps 31 = .ok (.getfield 27, 3) := dk_180 0 27 (dk_at dksX0_keeps_1 9 rfl rfl)
theorem dX0_keeps_34 : decode cX0_keeps 34 = .ok (.iconst 0, 1) := dk_3 (dk_at dksX0_keeps_1 12 rfl rfl)
theorem dX0_keeps_35 : decode cX0_keeps 35 = .ok (.bipush 15, 2) := dk_16 15 (dk_at dksX0_keeps_1 13 rfl rfl)
theorem dX0_keeps_37 : decode cX0_keeps 37 = .ok (.invokestatic 271, 3) := dk_184 1 15 (dk_at dksX0_keeps_1 15 rfl rfl)
theorem dX0_keeps_40 : decode cX0_keeps 40 = .ok (.aload_n 0, 1) := dk_42 (dk_at dksX0_keeps_1 18 rfl rfl)
theorem dX0_keeps_41 : decode cX0_keeps 41 = .ok (.dup, 1) := dk_89 (dk_at dksX0_keeps_1 19 rfl rfl)
theorem dX0_keeps_42 : decode cX0_keeps 42 = .ok (.getfield 112, 3) := dk_180 0 112 (dk_at dksX0_keeps_1 20 rfl rfl)
theorem dX0_keeps_45 : decode cX0_keeps 45 = .ok (.iconst 1, 1) := dk_4 (dk_at dksX0_keeps_1 23 rfl rfl)
theorem dX0_keeps_46 : decode cX0_keeps 46 = .ok (.isub, 1) := dk_100 (dk_at dksX0_keeps_2 0 rfl rfl)
theorem dX0_keeps_47 : decode cX0_keeps 47 = .ok (.putfield 112, 3) := dk_181 0 112 (dk_at dksX0_keeps_2 1 rfl rfl)
theorem dX0_keeps_50 : decode cX0_keeps 50 = .ok (.aload_n 0, 1) := dk_42 (dk_at dksX0_keeps_2 4 rfl rfl)
theorem dX0_keeps_51 : decode cX0_keeps 51 = .ok (.getfield 16, 3) := dk_180 0 16 (dk_at dksX0_keeps_2 5 rfl rfl)
theorem dX0_keeps_54 : decode cX0_keeps 54 = .ok (.getfield 142, 3) := dk_180 0 142 (dk_at dksX0_keeps_2 8 rfl rfl)
theorem dX0_keeps_57 : decode cX0_keeps 57 = .ok (.iconst 0, 1) := dk_3 (dk_at dksX0_keeps_2 11 rfl rfl)
theorem dX0_keeps_58 : decode cX0_keeps 58 = .ok (.aload_n 0, 1) := dk_42 (dk_at dksX0_keeps_2 12 rfl rfl)
theorem dX0_keeps_59 : decode cX0_keeps 59 = .ok (.getfield 24, 3) := dk_180 0 24 (dk_at dksX0_keeps_2 13 rfl rfl)
theorem dX0_keeps_62 : decode cX0_keeps 62 = .ok (.bipush 6, 2) := dk_16 6 (dk_at dksX0_keeps_2 16 rfl rfl)
theorem dX0_keeps_64 : decode cX0_keeps 64 = .ok (.aload_n 0, 1) := dk_42 (dk_at dksX0_keeps_2 18 rfl rfl)
theorem dX0_keeps_65 : decode cX0_keeps 65 = .ok (.getfield 112, 3) := dk_180 0 112 (dk_at dksX0_keeps_2 19 rfl rfl)
theorem dX0_keeps_68 : decode cX0_keeps 68 = .ok (.imul, 1) := dk_104 (dk_at dksX0_keeps_2 22 rfl rfl)
theorem dX0_keeps_69 : decode cX0_keeps 69 = .ok (.bipush 6, 2) := dk_16 6 (dk_at dksX0_keeps_3 0 rfl rfl)
theorem dX0_keeps_71 : decode cX0_keeps 71 = .ok (.invokestatic 271, 3) := dk_184 1 15 (dk_at dksX0_keeps_3 2 rfl rfl)
theorem dX0_keeps_74 : decode cX0_keeps 74 = .ok (.aload_n 0, 1) := dk_42 (dk_at dksX0_keeps_3 5 rfl rfl)
theorem dX0_keeps_75 : decode cX0_keeps 75 = .ok (.getfield 27, 3) := dk_180 0 27 (dk_at dksX0_keeps_3 6 rfl rfl)
theorem dX0_keeps_78 : decode cX0_keeps 78 = .ok (.aload_n 0, 1) := dk_42 (dk_at dksX0_keeps_3 9 rfl rfl)
theorem dX0_keeps_79 : decode cX0_keeps 79 = .ok (.getfield 112, 3) := dk_180 0 112 (dk_at dksX0_keeps_3 10 rfl rfl)
theorem dX0_keeps_82 : decode cX0_keeps 82 = .ok (.iload_n 1, 1) := dk_27 (dk_at dksX0_keeps_3 13 rfl rfl)
theorem dX0_keeps_83 : decode cX0_keeps 83 = .ok (.iastore, 1) := dk_79 (dk_at dksX0_keeps_3 14 rfl rfl)
theorem dX0_keeps_84 : decode cX0_keeps 84 = .ok (.aload_n 0, 1) := dk_42 (dk_at dksX0_keeps_3 15 rfl rfl)
theorem dX0_keeps_85 : decode cX0_keeps 85 = .ok (.dup, 1) := dk_89 (dk_at dksX0_keeps_3 16 rfl rfl)
theorem dX0_keeps_86 : decode cX0_keeps 86 = .ok (.getfield 112, 3) := dk_180 0 112 (dk_at dksX0_keeps_3 17 rfl rfl)
theorem dX0_keeps_89 : decode cX0_keeps 89 = .ok (.iconst 1, 1) := dk_4 (dk_at dksX0_keeps_3 20 rfl rfl)
theorem dX0_keeps_90 : decode cX0_keeps 90 = .ok (.iadd, 1) := dk_96 (dk_at dksX0_keeps_3 21 rfl rfl)
theorem dX0_keeps_91 : decode cX0_keeps 91 = .ok (.putfield 112, 3) := dk_181 0 112 (dk_at dksX0_keeps_4 0 rfl rfl)
theorem dX0_keeps_94 : decode cX0_keeps 94 = .ok (.return_, 1) := dk_177 (dk_at dksX0_keeps_4 3 rfl rfl)
abbrev cX0_believe : ByteArray := prog_1_method_51_code
def yX0_believe : MethodName := ⟨RX0, "believe", "(II)I"⟩
def dkwX0_believe_2 : List UInt8 := [182, 0, 115, 172]
abbrev dktX0_believe_2 : List UInt8 := dkwX0_believe_2 ++ []
def dkwX0_believe_1 : List UInt8 := [28, 182, 1, 39, 54, 4, 21, 4, 156, 0, 12, 42, 21, 4, 182, 0, 124, 167, 0, 8, 42, 29]
abbrev dktX0_believe_1 : List UInt8 := dkwX0_believe_1 ++ dktX0_believe_2
def dkwX0_believe_0 : List UInt8 := [42, 27, 182, 0, 169, 153, 0, 15, 42, 180, 0, 16, 180, 0, 162, 27, 46, 167, 0, 4, 2, 62, 42, 27]
abbrev dktX0_believe_0 : List UInt8 := dkwX0_believe_0 ++ dktX0_believe_1
theorem dksX0_believe_0 : cX0_believe.data.toList.drop 0 = dktX0_believe_0 := by decide +kernel
theorem dksX0_believe_1 : cX0_believe.data.toList.drop 24 = dktX0_believe_1 := dk_seg dksX0_believe_0 24 rfl rfl
theorem dksX0_believe_2 : cX0_believe.data.toList.drop 46 = dktX0_believe_2 := dk_seg dksX0_believe_1 22 rfl rfl
theorem dX0_believe_0 : decode cX0_believe 0 = .ok (.aload_n 0, 1) := dk_42 (dk_at dksX0_believe_0 0 rfl rfl)
theorem dX0_believe_1 : decode cX0_believe 1 = .ok (.iload_n 1, 1) := dk_27 (dk_at dksX0_believe_0 1 rfl rfl)
theorem dX0_believe_2 : decode cX0_believe 2 = .ok (.invokevirtual 169, 3) := dk_182 0 169 (dk_at dksX0_believe_0 2 rfl rfl)
theorem dX0_believe_5 : decode cX0_believe 5 = .ok (.ifCond .eq 15, 3) := dk_153 0 15 (dk_at dksX0_believe_0 5 rfl rfl)
theorem dX0_believe_8 : decode cX0_believe 8 = .ok (.aload_n 0, 1) := dk_42 (dk_at dksX0_believe_0 8 rfl rfl)
theorem dX0_believe_9 : decode cX0_believe 9 = .ok (.getfield 16, 3) := dk_180 0 16 (dk_at dksX0_believe_0 9 rfl rfl)
theorem dX0_believe_12 : decode cX0_believe 12 = .ok (.getfield 162, 3) := dk_180 0 162 (dk_at dksX0_believe_0 12 rfl rfl)
theorem dX0_believe_15 : decode cX0_believe 15 = .ok (.iload_n 1, 1) := dk_27 (dk_at dksX0_believe_0 15 rfl rfl)
theorem dX0_believe_16 : decode cX0_believe 16 = .ok (.iaload, 1) := dk_46 (dk_at dksX0_believe_0 16 rfl rfl)
theorem dX0_believe_17 : decode cX0_believe 17 = .ok (.goto 4, 3) := dk_167 0 4 (dk_at dksX0_believe_0 17 rfl rfl)
theorem dX0_believe_20 : decode cX0_believe 20 = .ok (.iconst (-1), 1) := dk_2 (dk_at dksX0_believe_0 20 rfl rfl)
theorem dX0_believe_21 : decode cX0_believe 21 = .ok (.istore_n 3, 1) := dk_62 (dk_at dksX0_believe_0 21 rfl rfl)
theorem dX0_believe_22 : decode cX0_believe 22 = .ok (.aload_n 0, 1) := dk_42 (dk_at dksX0_believe_0 22 rfl rfl)
theorem dX0_believe_23 : decode cX0_believe 23 = .ok (.iload_n 1, 1) := dk_27 (dk_at dksX0_believe_0 23 rfl rfl)
theorem dX0_believe_24 : decode cX0_believe 24 = .ok (.iload_n 2, 1) := dk_28 (dk_at dksX0_believe_1 0 rfl rfl)
theorem dX0_believe_25 : decode cX0_believe 25 = .ok (.invokevirtual 295, 3) := dk_182 1 39 (dk_at dksX0_believe_1 1 rfl rfl)
theorem dX0_believe_28 : decode cX0_believe 28 = .ok (.istore 4, 2) := dk_54 4 (dk_at dksX0_believe_1 4 rfl rfl)
theorem dX0_believe_30 : decode cX0_believe 30 = .ok (.iload 4, 2) := dk_21 4 (dk_at dksX0_believe_1 6 rfl rfl)
theorem dX0_believe_32 : decode cX0_believe 32 = .ok (.ifCond .ge 12, 3) := dk_156 0 12 (dk_at dksX0_believe_1 8 rfl rfl)
theorem dX0_believe_35 : decode cX0_believe 35 = .ok (.aload_n 0, 1) := dk_42 (dk_at dksX0_believe_1 11 rfl rfl)
theorem dX0_believe_36 : decode cX0_believe 36 = .ok (.iload 4, 2) := dk_21 4 (dk_at dksX0_believe_1 12 rfl rfl)
theorem dX0_believe_38 : decode cX0_believe 38 = .ok (.invokevirtual 124, 3) := dk_182 0 124 (dk_at dksX0_believe_1 14 rfl rfl)
theorem dX0_believe_41 : decode cX0_believe 41 = .ok (.goto 8, 3) := dk_167 0 8 (dk_at dksX0_believe_1 17 rfl rfl)
theorem dX0_believe_44 : decode cX0_believe 44 = .ok (.aload_n 0, 1) := dk_42 (dk_at dksX0_believe_1 20 rfl rfl)
theorem dX0_believe_45 : decode cX0_believe 45 = .ok (.iload_n 3, 1) := dk_29 (dk_at dksX0_believe_1 21 rfl rfl)
theorem dX0_believe_46 : decode cX0_believe 46 = .ok (.invokevirtual 115, 3) := dk_182 0 115 (dk_at dksX0_believe_2 0 rfl rfl)
theorem dX0_believe_49 : decode cX0_believe 49 = .ok (.ireturn, 1) := dk_172 (dk_at dksX0_believe_2 3 rfl rfl)
abbrev cX0_believesKept : ByteArray := prog_1_method_47_code
def yX0_believesKept : MethodName := ⟨RX0, "believesKept", "(II)I"⟩
def dkwX0_believesKept_1 : List UInt8 := [172, 42, 180, 0, 16, 180, 0, 162, 27, 28, 79, 3, 172]
abbrev dktX0_believesKept_1 : List UInt8 := dkwX0_believesKept_1 ++ []
def dkwX0_believesKept_0 : List UInt8 := [28, 2, 159, 0, 12, 28, 184, 0, 134, 154, 0, 5, 2, 172, 42, 27, 182, 0, 169, 154, 0, 6, 16, 254]
abbrev dktX0_believesKept_0 : List UInt8 := dkwX0_believesKept_0 ++ dktX0_believesKept_1
theorem dksX0_believesKept_0 : cX0_believesKept.data.toList.drop 0 = dktX0_believesKept_0 := by decide +kernel
theorem dksX0_believesKept_1 : cX0_believesKept.data.toList.drop 24 = dktX0_believesKept_1 := dk_seg dksX0_believesKept_0 24 rfl rfl
theorem dX0_believesKept_0 : decode cX0_believesKept 0 = .ok (.iload_n 2, 1) := dk_28 (dk_at dksX0_believesKept_0 0 rfl rfl)
theorem dX0_believesKept_1 : decode cX0_believesKept 1 = .ok (.iconst (-1), 1) := dk_2 (dk_at dksX0_believesKept_0 1 rfl rfl)
theorem dX0_believesKept_2 : decode cX0_believesKept 2 = .ok (.if_icmp .eq 12, 3) := dk_159 0 12 (dk_at dksX0_believesKept_0 2 rfl rfl)
theorem dX0_believesKept_5 : decode cX0_believesKept 5 = .ok (.iload_n 2, 1) := dk_28 (dk_at dksX0_believesKept_0 5 rfl rfl)
theorem dX0_believesKept_6 : decode cX0_believesKept 6 = .ok (.invokestatic 134, 3) := dk_184 0 134 (dk_at dksX0_believesKept_0 6 rfl rfl)
theorem dX0_believesKept_9 : decode cX0_believesKept 9 = .ok (.ifCond .ne 5, 3) := dk_154 0 5 (dk_at dksX0_believesKept_0 9 rfl rfl)
theorem dX0_believesKept_12 : decode cX0_believesKept 12 = .ok (.iconst (-1), 1) := dk_2 (dk_at dksX0_believesKept_0 12 rfl rfl)
theorem dX0_believesKept_13 : decode cX0_believesKept 13 = .ok (.ireturn, 1) := dk_172 (dk_at dksX0_believesKept_0 13 rfl rfl)
theorem dX0_believesKept_14 : decode cX0_believesKept 14 = .ok (.aload_n 0, 1) := dk_42 (dk_at dksX0_believesKept_0 14 rfl rfl)
theorem dX0_believesKept_15 : decode cX0_believesKept 15 = .ok (.iload_n 1, 1) := dk_27 (dk_at dksX0_believesKept_0 15 rfl rfl)
theorem dX0_believesKept_16 : decode cX0_believesKept 16 = .ok (.invokevirtual 169, 3) := dk_182 0 169 (dk_at dksX0_believesKept_0 16 rfl rfl)
theorem dX0_believesKept_19 : decode cX0_believesKept 19 = .ok (.ifCond .ne 6, 3) := dk_154 0 6 (dk_at dksX0_believesKept_0 19 rfl rfl)
theorem dX0_believesKept_22 : decode cX0_believesKept 22 = .ok (.bipush (-2), 2) := dk_16 254 (dk_at dksX0_believesKept_0 22 rfl rfl)
theorem dX0_believesKept_24 : decode cX0_believesKept 24 = .ok (.ireturn, 1) := dk_172 (dk_at dksX0_believesKept_1 0 rfl rfl)
theorem dX0_believesKept_25 : decode cX0_believesKept 25 = .ok (.aload_n 0, 1) := dk_42 (dk_at dksX0_believesKept_1 1 rfl rfl)
theorem dX0_believesKept_26 : decode cX0_believesKept 26 = .ok (.getfield 16, 3) := dk_180 0 16 (dk_at dksX0_believesKept_1 2 rfl rfl)
theorem dX0_believesKept_29 : decode cX0_believesKept 29 = .ok (.getfield 162, 3) := dk_180 0 162 (dk_at dksX0_believesKept_1 5 rfl rfl)
theorem dX0_believesKept_32 : decode cX0_believesKept 32 = .ok (.iload_n 1, 1) := dk_27 (dk_at dksX0_believesKept_1 8 rfl rfl)
theorem dX0_believesKept_33 : decode cX0_believesKept 33 = .ok (.iload_n 2, 1) := dk_28 (dk_at dksX0_believesKept_1 9 rfl rfl)
theorem dX0_believesKept_34 : decode cX0_believesKept 34 = .ok (.iastore, 1) := dk_79 (dk_at dksX0_believesKept_1 10 rfl rfl)
theorem dX0_believesKept_35 : decode cX0_believesKept 35 = .ok (.iconst 0, 1) := dk_3 (dk_at dksX0_believesKept_1 11 rfl rfl)
theorem dX0_believesKept_36 : decode cX0_believesKept 36 = .ok (.ireturn, 1) := dk_172 (dk_at dksX0_believesKept_1 12 rfl rfl)
abbrev cX0_rush : ByteArray := prog_1_method_52_code
def yX0_rush : MethodName := ⟨RX0, "rush", "()I"⟩
def dkwX0_rush_0 : List UInt8 := [42, 182, 1, 42, 60, 27, 156, 0, 11, 42, 27, 182, 0, 124, 167, 0, 8, 42, 27, 182, 0, 115, 172]
abbrev dktX0_rush_0 : List UInt8 := dkwX0_rush_0 ++ []
theorem dksX0_rush_0 : cX0_rush.data.toList.drop 0 = dktX0_rush_0 := by decide +kernel
theorem dX0_rush_0 : decode cX0_rush 0 = .ok (.aload_n 0, 1) := dk_42 (dk_at dksX0_rush_0 0 rfl rfl)
theorem dX0_rush_1 : decode cX0_rush 1 = .ok (.invokevirtual 298, 3) := dk_182 1 42 (dk_at dksX0_rush_0 1 rfl rfl)
theorem dX0_rush_4 : decode cX0_rush 4 = .ok (.istore_n 1, 1) := dk_60 (dk_at dksX0_rush_0 4 rfl rfl)
theorem dX0_rush_5 : decode cX0_rush 5 = .ok (.iload_n 1, 1) := dk_27 (dk_at dksX0_rush_0 5 rfl rfl)
theorem dX0_rush_6 : decode cX0_rush 6 = .ok (.ifCond .ge 11, 3) := dk_156 0 11 (dk_at dksX0_rush_0 6 rfl rfl)
theorem dX0_rush_9 : decode cX0_rush 9 = .ok (.aload_n 0, 1) := dk_42 (dk_at dksX0_rush_0 9 rfl rfl)
theorem dX0_rush_10 : decode cX0_rush 10 = .ok (.iload_n 1, 1) := dk_27 (dk_at dksX0_rush_0 10 rfl rfl)
theorem dX0_rush_11 : decode cX0_rush 11 = .ok (.invokevirtual 124, 3) := dk_182 0 124 (dk_at dksX0_rush_0 11 rfl rfl)
theorem dX0_rush_14 : decode cX0_rush 14 = .ok (.goto 8, 3) := dk_167 0 8 (dk_at dksX0_rush_0 14 rfl rfl)
theorem dX0_rush_17 : decode cX0_rush 17 = .ok (.aload_n 0, 1) := dk_42 (dk_at dksX0_rush_0 17 rfl rfl)
theorem dX0_rush_18 : decode cX0_rush 18 = .ok (.iload_n 1, 1) := dk_27 (dk_at dksX0_rush_0 18 rfl rfl)
theorem dX0_rush_19 : decode cX0_rush 19 = .ok (.invokevirtual 115, 3) := dk_182 0 115 (dk_at dksX0_rush_0 19 rfl rfl)
theorem dX0_rush_22 : decode cX0_rush 22 = .ok (.ireturn, 1) := dk_172 (dk_at dksX0_rush_0 22 rfl rfl)
abbrev cX0_rushesKept : ByteArray := prog_1_method_48_code
def yX0_rushesKept : MethodName := ⟨RX0, "rushesKept", "()I"⟩
def dkwX0_rushesKept_2 : List UInt8 := [28, 182, 1, 28, 153, 0, 7, 4, 167, 0, 4, 3, 96, 60, 132, 2, 1, 167, 255, 213, 27, 172]
abbrev dktX0_rushesKept_2 : List UInt8 := dkwX0_rushesKept_2 ++ []
def dkwX0_rushesKept_1 : List UInt8 := [180, 0, 16, 180, 0, 118, 162, 0, 38, 27, 42, 180, 0, 16, 180, 0, 162, 28, 46, 2, 159, 0, 15, 42]
abbrev dktX0_rushesKept_1 : List UInt8 := dkwX0_rushesKept_1 ++ dktX0_rushesKept_2
def dkwX0_rushesKept_0 : List UInt8 := [42, 180, 0, 16, 180, 0, 118, 154, 0, 6, 16, 253, 172, 42, 4, 182, 1, 25, 3, 60, 3, 61, 28, 42]
abbrev dktX0_rushesKept_0 : List UInt8 := dkwX0_rushesKept_0 ++ dktX0_rushesKept_1
theorem dksX0_rushesKept_0 : cX0_rushesKept.data.toList.drop 0 = dktX0_rushesKept_0 := by decide +kernel
theorem dksX0_rushesKept_1 : cX0_rushesKept.data.toList.drop 24 = dktX0_rushesKept_1 := dk_seg dksX0_rushesKept_0 24 rfl rfl
theorem dksX0_rushesKept_2 : cX0_rushesKept.data.toList.drop 48 = dktX0_rushesKept_2 := dk_seg dksX0_rushesKept_1 24 rfl rfl
theorem dX0_rushesKept_0 : decode cX0_rushesKept 0 = .ok (.aload_n 0, 1) := dk_42 (dk_at dksX0_rushesKept_0 0 rfl rfl)
theorem dX0_rushesKept_1 : decode cX0_rushesKept 1 = .ok (.getfield 16, 3) := dk_180 0 16 (dk_at dksX0_rushesKept_0 1 rfl rfl)
theorem dX0_rushesKept_4 : decode cX0_rushesKept 4 = .ok (.getfield 118, 3) := dk_180 0 118 (dk_at dksX0_rushesKept_0 4 rfl rfl)
theorem dX0_rushesKept_7 : decode cX0_rushesKept 7 = .ok (.ifCond .ne 6, 3) := dk_154 0 6 (dk_at dksX0_rushesKept_0 7 rfl rfl)
theorem dX0_rushesKept_10 : decode cX0_rushesKept 10 = .ok (.bipush (-3), 2) := dk_16 253 (dk_at dksX0_rushesKept_0 10 rfl rfl)
theorem dX0_rushesKept_12 : decode cX0_rushesKept 12 = .ok (.ireturn, 1) := dk_172 (dk_at dksX0_rushesKept_0 12 rfl rfl)
theorem dX0_rushesKept_13 : decode cX0_rushesKept 13 = .ok (.aload_n 0, 1) := dk_42 (dk_at dksX0_rushesKept_0 13 rfl rfl)
theorem dX0_rushesKept_14 : decode cX0_rushesKept 14 = .ok (.iconst 1, 1) := dk_4 (dk_at dksX0_rushesKept_0 14 rfl rfl)
theorem dX0_rushesKept_15 : decode cX0_rushesKept 15 = .ok (.invokevirtual 281, 3) := dk_182 1 25 (dk_at dksX0_rushesKept_0 15 rfl rfl)
theorem dX0_rushesKept_18 : decode cX0_rushesKept 18 = .ok (.iconst 0, 1) := dk_3 (dk_at dksX0_rushesKept_0 18 rfl rfl)
theorem dX0_rushesKept_19 : decode cX0_rushesKept 19 = .ok (.istore_n 1, 1) := dk_60 (dk_at dksX0_rushesKept_0 19 rfl rfl)
theorem dX0_rushesKept_20 : decode cX0_rushesKept 20 = .ok (.iconst 0, 1) := dk_3 (dk_at dksX0_rushesKept_0 20 rfl rfl)
theorem dX0_rushesKept_21 : decode cX0_rushesKept 21 = .ok (.istore_n 2, 1) := dk_61 (dk_at dksX0_rushesKept_0 21 rfl rfl)
theorem dX0_rushesKept_22 : decode cX0_rushesKept 22 = .ok (.iload_n 2, 1) := dk_28 (dk_at dksX0_rushesKept_0 22 rfl rfl)
theorem dX0_rushesKept_23 : decode cX0_rushesKept 23 = .ok (.aload_n 0, 1) := dk_42 (dk_at dksX0_rushesKept_0 23 rfl rfl)
theorem dX0_rushesKept_24 : decode cX0_rushesKept 24 = .ok (.getfield 16, 3) := dk_180 0 16 (dk_at dksX0_rushesKept_1 0 rfl rfl)
theorem dX0_rushesKept_27 : decode cX0_rushesKept 27 = .ok (.getfield 118, 3) := dk_180 0 118 (dk_at dksX0_rushesKept_1 3 rfl rfl)
theorem dX0_rushesKept_30 : decode cX0_rushesKept 30 = .ok (.if_icmp .ge 38, 3) := dk_162 0 38 (dk_at dksX0_rushesKept_1 6 rfl rfl)
theorem dX0_rushesKept_33 : decode cX0_rushesKept 33 = .ok (.iload_n 1, 1) := dk_27 (dk_at dksX0_rushesKept_1 9 rfl rfl)
theorem dX0_rushesKept_34 : decode cX0_rushesKept 34 = .ok (.aload_n 0, 1) := dk_42 (dk_at dksX0_rushesKept_1 10 rfl rfl)
theorem dX0_rushesKept_35 : decode cX0_rushesKept 35 = .ok (.getfield 16, 3) := dk_180 0 16 (dk_at dksX0_rushesKept_1 11 rfl rfl)
theorem dX0_rushesKept_38 : decode cX0_rushesKept 38 = .ok (.getfield 162, 3) := dk_180 0 162 (dk_at dksX0_rushesKept_1 14 rfl rfl)
theorem dX0_rushesKept_41 : decode cX0_rushesKept 41 = .ok (.iload_n 2, 1) := dk_28 (dk_at dksX0_rushesKept_1 17 rfl rfl)
theorem dX0_rushesKept_42 : decode cX0_rushesKept 42 = .ok (.iaload, 1) := dk_46 (dk_at dksX0_rushesKept_1 18 rfl rfl)
theorem dX0_rushesKept_43 : decode cX0_rushesKept 43 = .ok (.iconst (-1), 1) := dk_2 (dk_at dksX0_rushesKept_1 19 rfl rfl)
theorem dX0_rushesKept_44 : decode cX0_rushesKept 44 = .ok (.if_icmp .eq 15, 3) := dk_159 0 15 (dk_at dksX0_rushesKept_1 20 rfl rfl)
theorem dX0_rushesKept_47 : decode cX0_rushesKept 47 = .ok (.aload_n 0, 1) := dk_42 (dk_at dksX0_rushesKept_1 23 rfl rfl)
theorem dX0_rushesKept_48 : decode cX0_rushesKept 48 = .ok (.iload_n 2, 1) := dk_28 (dk_at dksX0_rushesKept_2 0 rfl rfl)
theorem dX0_rushesKept_49 : decode cX0_rushesKept 49 = .ok (.invokevirtual 284, 3) := dk_182 1 28 (dk_at dksX0_rushesKept_2 1 rfl rfl)
theorem dX0_rushesKept_52 : decode cX0_rushesKept 52 = .ok (.ifCond .eq 7, 3) := dk_153 0 7 (dk_at dksX0_rushesKept_2 4 rfl rfl)
theorem dX0_rushesKept_55 : decode cX0_rushesKept 55 = .ok (.iconst 1, 1) := dk_4 (dk_at dksX0_rushesKept_2 7 rfl rfl)
theorem dX0_rushesKept_56 : decode cX0_rushesKept 56 = .ok (.goto 4, 3) := dk_167 0 4 (dk_at dksX0_rushesKept_2 8 rfl rfl)
theorem dX0_rushesKept_59 : decode cX0_rushesKept 59 = .ok (.iconst 0, 1) := dk_3 (dk_at dksX0_rushesKept_2 11 rfl rfl)
theorem dX0_rushesKept_60 : decode cX0_rushesKept 60 = .ok (.iadd, 1) := dk_96 (dk_at dksX0_rushesKept_2 12 rfl rfl)
theorem dX0_rushesKept_61 : decode cX0_rushesKept 61 = .ok (.istore_n 1, 1) := dk_60 (dk_at dksX0_rushesKept_2 13 rfl rfl)
theorem dX0_rushesKept_62 : decode cX0_rushesKept 62 = .ok (.iinc 2 1, 3) := dk_132 2 1 (dk_at dksX0_rushesKept_2 14 rfl rfl)
theorem dX0_rushesKept_65 : decode cX0_rushesKept 65 = .ok (.goto (-43), 3) := dk_167 255 213 (dk_at dksX0_rushesKept_2 17 rfl rfl)
theorem dX0_rushesKept_68 : decode cX0_rushesKept 68 = .ok (.iload_n 1, 1) := dk_27 (dk_at dksX0_rushesKept_2 20 rfl rfl)
theorem dX0_rushesKept_69 : decode cX0_rushesKept 69 = .ok (.ireturn, 1) := dk_172 (dk_at dksX0_rushesKept_2 21 rfl rfl)
abbrev cX0_steps : ByteArray := prog_1_method_49_code
def yX0_steps : MethodName := ⟨RX0, "steps", "(I)Z"⟩
def dkwX0_steps_6 : List UInt8 := [159, 0, 7, 4, 167, 0, 4, 3, 172]
abbrev dktX0_steps_6 : List UInt8 := dkwX0_steps_6 ++ []
def dkwX0_steps_5 : List UInt8 := [180, 0, 142, 27, 28, 16, 6, 21, 5, 104, 96, 79, 42, 180, 0, 16, 180, 0, 142, 27, 46, 28]
abbrev dktX0_steps_5 : List UInt8 := dkwX0_steps_5 ++ dktX0_steps_6
def dkwX0_steps_4 : List UInt8 := [180, 0, 16, 180, 0, 142, 27, 28, 16, 6, 21, 5, 104, 96, 182, 1, 21, 153, 0, 19, 42, 180, 0, 16]
abbrev dktX0_steps_4 : List UInt8 := dkwX0_steps_4 ++ dktX0_steps_5
def dkwX0_steps_3 : List UInt8 := [42, 180, 0, 16, 180, 0, 142, 27, 28, 21, 4, 96, 79, 167, 0, 46, 21, 5, 153, 0, 41, 42, 42]
abbrev dktX0_steps_3 : List UInt8 := dkwX0_steps_3 ++ dktX0_steps_4
def dkwX0_steps_2 : List UInt8 := [21, 4, 153, 0, 38, 42, 42, 180, 0, 16, 180, 0, 142, 27, 28, 21, 4, 96, 182, 1, 21, 153, 0, 19]
abbrev dktX0_steps_2 : List UInt8 := dkwX0_steps_2 ++ dktX0_steps_3
def dkwX0_steps_1 : List UInt8 := [28, 16, 6, 112, 100, 184, 1, 31, 54, 4, 29, 16, 6, 108, 28, 16, 6, 108, 100, 184, 1, 31, 54, 5]
abbrev dktX0_steps_1 : List UInt8 := dkwX0_steps_1 ++ dktX0_steps_2
def dkwX0_steps_0 : List UInt8 := [42, 180, 0, 16, 180, 0, 142, 27, 46, 61, 42, 180, 0, 16, 180, 0, 162, 27, 46, 62, 29, 16, 6, 112]
abbrev dktX0_steps_0 : List UInt8 := dkwX0_steps_0 ++ dktX0_steps_1
theorem dksX0_steps_0 : cX0_steps.data.toList.drop 0 = dktX0_steps_0 := by decide +kernel
theorem dksX0_steps_1 : cX0_steps.data.toList.drop 24 = dktX0_steps_1 := dk_seg dksX0_steps_0 24 rfl rfl
theorem dksX0_steps_2 : cX0_steps.data.toList.drop 48 = dktX0_steps_2 := dk_seg dksX0_steps_1 24 rfl rfl
theorem dksX0_steps_3 : cX0_steps.data.toList.drop 72 = dktX0_steps_3 := dk_seg dksX0_steps_2 24 rfl rfl
theorem dksX0_steps_4 : cX0_steps.data.toList.drop 95 = dktX0_steps_4 := dk_seg dksX0_steps_3 23 rfl rfl
theorem dksX0_steps_5 : cX0_steps.data.toList.drop 119 = dktX0_steps_5 := dk_seg dksX0_steps_4 24 rfl rfl
theorem dksX0_steps_6 : cX0_steps.data.toList.drop 141 = dktX0_steps_6 := dk_seg dksX0_steps_5 22 rfl rfl
theorem dX0_steps_0 : decode cX0_steps 0 = .ok (.aload_n 0, 1) := dk_42 (dk_at dksX0_steps_0 0 rfl rfl)
theorem dX0_steps_1 : decode cX0_steps 1 = .ok (.getfield 16, 3) := dk_180 0 16 (dk_at dksX0_steps_0 1 rfl rfl)
theorem dX0_steps_4 : decode cX0_steps 4 = .ok (.getfield 142, 3) := dk_180 0 142 (dk_at dksX0_steps_0 4 rfl rfl)
theorem dX0_steps_7 : decode cX0_steps 7 = .ok (.iload_n 1, 1) := dk_27 (dk_at dksX0_steps_0 7 rfl rfl)
theorem dX0_steps_8 : decode cX0_steps 8 = .ok (.iaload, 1) := dk_46 (dk_at dksX0_steps_0 8 rfl rfl)
theorem dX0_steps_9 : decode cX0_steps 9 = .ok (.istore_n 2, 1) := dk_61 (dk_at dksX0_steps_0 9 rfl rfl)
theorem dX0_steps_10 : decode cX0_steps 10 = .ok (.aload_n 0, 1) := dk_42 (dk_at dksX0_steps_0 10 rfl rfl)
theorem dX0_steps_11 : decode cX0_steps 11 = .ok (.getfield 16, 3) := dk_180 0 16 (dk_at dksX0_steps_0 11 rfl rfl)
theorem dX0_steps_14 : decode cX0_steps 14 = .ok (.getfield 162, 3) := dk_180 0 162 (dk_at dksX0_steps_0 14 rfl rfl)
theorem dX0_steps_17 : decode cX0_steps 17 = .ok (.iload_n 1, 1) := dk_27 (dk_at dksX0_steps_0 17 rfl rfl)
theorem dX0_steps_18 : decode cX0_steps 18 = .ok (.iaload, 1) := dk_46 (dk_at dksX0_steps_0 18 rfl rfl)
theorem dX0_steps_19 : decode cX0_steps 19 = .ok (.istore_n 3, 1) := dk_62 (dk_at dksX0_steps_0 19 rfl rfl)
theorem dX0_steps_20 : decode cX0_steps 20 = .ok (.iload_n 3, 1) := dk_29 (dk_at dksX0_steps_0 20 rfl rfl)
theorem dX0_steps_21 : decode cX0_steps 21 = .ok (.bipush 6, 2) := dk_16 6 (dk_at dksX0_steps_0 21 rfl rfl)
theorem dX0_steps_23 : decode cX0_steps 23 = .ok (.irem, 1) := dk_112 (dk_at dksX0_steps_0 23 rfl rfl)
theorem dX0_steps_24 : decode cX0_steps 24 = .ok (.iload_n 2, 1) := dk_28 (dk_at dksX0_steps_1 0 rfl rfl)
theorem dX0_steps_25 : decode cX0_steps 25 = .ok (.bipush 6, 2) := dk_16 6 (dk_at dksX0_steps_1 1 rfl rfl)
theorem dX0_steps_27 : decode cX0_steps 27 = .ok (.irem, 1) := dk_112 (dk_at dksX0_steps_1 3 rfl rfl)
theorem dX0_steps_28 : decode cX0_steps 28 = .ok (.isub, 1) := dk_100 (dk_at dksX0_steps_1 4 rfl rfl)
theorem dX0_steps_29 : decode cX0_steps 29 = .ok (.invokestatic 287, 3) := dk_184 1 31 (dk_at dksX0_steps_1 5 rfl rfl)
theorem dX0_steps_32 : decode cX0_steps 32 = .ok (.istore 4, 2) := dk_54 4 (dk_at dksX0_steps_1 8 rfl rfl)
theorem dX0_steps_34 : decode cX0_steps 34 = .ok (.iload_n 3, 1) := dk_29 (dk_at dksX0_steps_1 10 rfl rfl)
theorem dX0_steps_35 : decode cX0_steps 35 = .ok (.bipush 6, 2) := dk_16 6 (dk_at dksX0_steps_1 11 rfl rfl)
theorem dX0_steps_37 : decode cX0_steps 37 = .ok (.idiv, 1) := dk_108 (dk_at dksX0_steps_1 13 rfl rfl)
theorem dX0_steps_38 : decode cX0_steps 38 = .ok (.iload_n 2, 1) := dk_28 (dk_at dksX0_steps_1 14 rfl rfl)
theorem dX0_steps_39 : decode cX0_steps 39 = .ok (.bipush 6, 2) := dk_16 6 (dk_at dksX0_steps_1 15 rfl rfl)
theorem dX0_steps_41 : decode cX0_steps 41 = .ok (.idiv, 1) := dk_108 (dk_at dksX0_steps_1 17 rfl rfl)
theorem dX0_steps_42 : decode cX0_steps 42 = .ok (.isub, 1) := dk_100 (dk_at dksX0_steps_1 18 rfl rfl)
theorem dX0_steps_43 : decode cX0_steps 43 = .ok (.invokestatic 287, 3) := dk_184 1 31 (dk_at dksX0_steps_1 19 rfl rfl)
theorem dX0_steps_46 : decode cX0_steps 46 = .ok (.istore 5, 2) := dk_54 5 (dk_at dksX0_steps_1 22 rfl rfl)
theorem dX0_steps_48 : decode cX0_steps 48 = .ok (.iload 4, 2) := dk_21 4 (dk_at dksX0_steps_2 0 rfl rfl)
theorem dX0_steps_50 : decode cX0_steps 50 = .ok (.ifCond .eq 38, 3) := dk_153 0 38 (dk_at dksX0_steps_2 2 rfl rfl)
theorem dX0_steps_53 : decode cX0_steps 53 = .ok (.aload_n 0, 1) := dk_42 (dk_at dksX0_steps_2 5 rfl rfl)
theorem dX0_steps_54 : decode cX0_steps 54 = .ok (.aload_n 0, 1) := dk_42 (dk_at dksX0_steps_2 6 rfl rfl)
theorem dX0_steps_55 : decode cX0_steps 55 = .ok (.getfield 16, 3) := dk_180 0 16 (dk_at dksX0_steps_2 7 rfl rfl)
theorem dX0_steps_58 : decode cX0_steps 58 = .ok (.getfield 142, 3) := dk_180 0 142 (dk_at dksX0_steps_2 10 rfl rfl)
theorem dX0_steps_61 : decode cX0_steps 61 = .ok (.iload_n 1, 1) := dk_27 (dk_at dksX0_steps_2 13 rfl rfl)
theorem dX0_steps_62 : decode cX0_steps 62 = .ok (.iload_n 2, 1) := dk_28 (dk_at dksX0_steps_2 14 rfl rfl)
theorem dX0_steps_63 : decode cX0_steps 63 = .ok (.iload 4, 2) := dk_21 4 (dk_at dksX0_steps_2 15 rfl rfl)
theorem dX0_steps_65 : decode cX0_steps 65 = .ok (.iadd, 1) := dk_96 (dk_at dksX0_steps_2 17 rfl rfl)
theorem dX0_steps_66 : decode cX0_steps 66 = .ok (.invokevirtual 277, 3) := dk_182 1 21 (dk_at dksX0_steps_2 18 rfl rfl)
theorem dX0_steps_69 : decode cX0_steps 69 = .ok (.ifCond .eq 19, 3) := dk_153 0 19 (dk_at dksX0_steps_2 21 rfl rfl)
theorem dX0_steps_72 : decode cX0_steps 72 = .ok (.aload_n 0, 1) := dk_42 (dk_at dksX0_steps_3 0 rfl rfl)
theorem dX0_steps_73 : decode cX0_steps 73 = .ok (.getfield 16, 3) := dk_180 0 16 (dk_at dksX0_steps_3 1 rfl rfl)
theorem dX0_steps_76 : decode cX0_steps 76 = .ok (.getfield 142, 3) := dk_180 0 142 (dk_at dksX0_steps_3 4 rfl rfl)
theorem dX0_steps_79 : decode cX0_steps 79 = .ok (.iload_n 1, 1) := dk_27 (dk_at dksX0_steps_3 7 rfl rfl)
theorem dX0_steps_80 : decode cX0_steps 80 = .ok (.iload_n 2, 1) := dk_28 (dk_at dksX0_steps_3 8 rfl rfl)
theorem dX0_steps_81 : decode cX0_steps 81 = .ok (.iload 4, 2) := dk_21 4 (dk_at dksX0_steps_3 9 rfl rfl)
theorem dX0_steps_83 : decode cX0_steps 83 = .ok (.iadd, 1) := dk_96 (dk_at dksX0_steps_3 11 rfl rfl)
theorem dX0_steps_84 : decode cX0_steps 84 = .ok (.iastore, 1) := dk_79 (dk_at dksX0_steps_3 12 rfl rfl)
theorem dX0_steps_85 : decode cX0_steps 85 = .ok (.goto 46, 3) := dk_167 0 46 (dk_at dksX0_steps_3 13 rfl rfl)
theorem dX0_steps_88 : decode cX0_steps 88 = .ok (.iload 5, 2) := dk_21 5 (dk_at dksX0_steps_3 16 rfl rfl)
theorem dX0_steps_90 : decode cX0_steps 90 = .ok (.ifCond .eq 41, 3) := dk_153 0 41 (dk_at dksX0_steps_3 18 rfl rfl)
theorem dX0_steps_93 : decode cX0_steps 93 = .ok (.aload_n 0, 1) := dk_42 (dk_at dksX0_steps_3 21 rfl rfl)
theorem dX0_steps_94 : decode cX0_steps 94 = .ok (.aload_n 0, 1) := dk_42 (dk_at dksX0_steps_3 22 rfl rfl)
theorem dX0_steps_95 : decode cX0_steps 95 = .ok (.getfield 16, 3) := dk_180 0 16 (dk_at dksX0_steps_4 0 rfl rfl)
theorem dX0_steps_98 : decode cX0_steps 98 = .ok (.getfield 142, 3) := dk_180 0 142 (dk_at dksX0_steps_4 3 rfl rfl)
theorem dX0_steps_101 : decode cX0_steps 101 = .ok (.iload_n 1, 1) := dk_27 (dk_at dksX0_steps_4 6 rfl rfl)
theorem dX0_steps_102 : decode cX0_steps 102 = .ok (.iload_n 2, 1) := dk_28 (dk_at dksX0_steps_4 7 rfl rfl)
theorem dX0_steps_103 : decode cX0_steps 103 = .ok (.bipush 6, 2) := dk_16 6 (dk_at dksX0_steps_4 8 rfl rfl)
theorem dX0_steps_105 : decode cX0_steps 105 = .ok (.iload 5, 2) := dk_21 5 (dk_at dksX0_steps_4 10 rfl rfl)
theorem dX0_steps_107 : decode cX0_steps 107 = .ok (.imul, 1) := dk_104 (dk_at dksX0_steps_4 12 rfl rfl)
theorem dX0_steps_108 : decode cX0_steps 108 = .ok (.iadd, 1) := dk_96 (dk_at dksX0_steps_4 13 rfl rfl)
theorem dX0_steps_109 : decode cX0_steps 109 = .ok (.invokevirtual 277, 3) := dk_182 1 21 (dk_at dksX0_steps_4 14 rfl rfl)
theorem dX0_steps_112 : decode cX0_steps 112 = .ok (.ifCond .eq 19, 3) := dk_153 0 19 (dk_at dksX0_steps_4 17 rfl rfl)
theorem dX0_steps_115 : decode cX0_steps 115 = .ok (.aload_n 0, 1) := dk_42 (dk_at dksX0_steps_4 20 rfl rfl)
theorem dX0_steps_116 : decode cX0_steps 116 = .ok (.getfield 16, 3) := dk_180 0 16 (dk_at dksX0_steps_4 21 rfl rfl)
theorem dX0_steps_119 : decode cX0_steps 119 = .ok (.getfield 142, 3) := dk_180 0 142 (dk_at dksX0_steps_5 0 rfl rfl)
theorem dX0_steps_122 : decode cX0_steps 122 = .ok (.iload_n 1, 1) := dk_27 (dk_at dksX0_steps_5 3 rfl rfl)
theorem dX0_steps_123 : decode cX0_steps 123 = .ok (.iload_n 2, 1) := dk_28 (dk_at dksX0_steps_5 4 rfl rfl)
theorem dX0_steps_124 : decode cX0_steps 124 = .ok (.bipush 6, 2) := dk_16 6 (dk_at dksX0_steps_5 5 rfl rfl)
theorem dX0_steps_126 : decode cX0_steps 126 = .ok (.iload 5, 2) := dk_21 5 (dk_at dksX0_steps_5 7 rfl rfl)
theorem dX0_steps_128 : decode cX0_steps 128 = .ok (.imul, 1) := dk_104 (dk_at dksX0_steps_5 9 rfl rfl)
theorem dX0_steps_129 : decode cX0_steps 129 = .ok (.iadd, 1) := dk_96 (dk_at dksX0_steps_5 10 rfl rfl)
theorem dX0_steps_130 : decode cX0_steps 130 = .ok (.iastore, 1) := dk_79 (dk_at dksX0_steps_5 11 rfl rfl)
theorem dX0_steps_131 : decode cX0_steps 131 = .ok (.aload_n 0, 1) := dk_42 (dk_at dksX0_steps_5 12 rfl rfl)
theorem dX0_steps_132 : decode cX0_steps 132 = .ok (.getfield 16, 3) := dk_180 0 16 (dk_at dksX0_steps_5 13 rfl rfl)
theorem dX0_steps_135 : decode cX0_steps 135 = .ok (.getfield 142, 3) := dk_180 0 142 (dk_at dksX0_steps_5 16 rfl rfl)
theorem dX0_steps_138 : decode cX0_steps 138 = .ok (.iload_n 1, 1) := dk_27 (dk_at dksX0_steps_5 19 rfl rfl)
theorem dX0_steps_139 : decode cX0_steps 139 = .ok (.iaload, 1) := dk_46 (dk_at dksX0_steps_5 20 rfl rfl)
theorem dX0_steps_140 : decode cX0_steps 140 = .ok (.iload_n 2, 1) := dk_28 (dk_at dksX0_steps_5 21 rfl rfl)
theorem dX0_steps_141 : decode cX0_steps 141 = .ok (.if_icmp .eq 7, 3) := dk_159 0 7 (dk_at dksX0_steps_6 0 rfl rfl)
theorem dX0_steps_144 : decode cX0_steps 144 = .ok (.iconst 1, 1) := dk_4 (dk_at dksX0_steps_6 3 rfl rfl)
theorem dX0_steps_145 : decode cX0_steps 145 = .ok (.goto 4, 3) := dk_167 0 4 (dk_at dksX0_steps_6 4 rfl rfl)
theorem dX0_steps_148 : decode cX0_steps 148 = .ok (.iconst 0, 1) := dk_3 (dk_at dksX0_steps_6 7 rfl rfl)
theorem dX0_steps_149 : decode cX0_steps 149 = .ok (.ireturn, 1) := dk_172 (dk_at dksX0_steps_6 8 rfl rfl)
abbrev cX0_undo : ByteArray := prog_1_method_53_code
def yX0_undo : MethodName := ⟨RX0, "undo", "()I"⟩
def dkwX0_undo_2 : List UInt8 := [42, 42, 180, 0, 27, 42, 180, 0, 112, 46, 182, 0, 115, 172]
abbrev dktX0_undo_2 : List UInt8 := dkwX0_undo_2 ++ []
def dkwX0_undo_1 : List UInt8 := [42, 180, 0, 24, 16, 6, 42, 180, 0, 112, 104, 42, 180, 0, 16, 180, 0, 142, 3, 16, 6, 184, 1, 15]
abbrev dktX0_undo_1 : List UInt8 := dkwX0_undo_1 ++ dktX0_undo_2
def dkwX0_undo_0 : List UInt8 := [42, 180, 0, 112, 154, 0, 10, 42, 16, 253, 182, 0, 124, 172, 42, 89, 180, 0, 112, 4, 100, 181, 0, 112]
abbrev dktX0_undo_0 : List UInt8 := dkwX0_undo_0 ++ dktX0_undo_1
theorem dksX0_undo_0 : cX0_undo.data.toList.drop 0 = dktX0_undo_0 := by decide +kernel
theorem dksX0_undo_1 : cX0_undo.data.toList.drop 24 = dktX0_undo_1 := dk_seg dksX0_undo_0 24 rfl rfl
theorem dksX0_undo_2 : cX0_undo.data.toList.drop 48 = dktX0_undo_2 := dk_seg dksX0_undo_1 24 rfl rfl
theorem dX0_undo_0 : decode cX0_undo 0 = .ok (.aload_n 0, 1) := dk_42 (dk_at dksX0_undo_0 0 rfl rfl)
theorem dX0_undo_1 : decode cX0_undo 1 = .ok (.getfield 112, 3) := dk_180 0 112 (dk_at dksX0_undo_0 1 rfl rfl)
theorem dX0_undo_4 : decode cX0_undo 4 = .ok (.ifCond .ne 10, 3) := dk_154 0 10 (dk_at dksX0_undo_0 4 rfl rfl)
theorem dX0_undo_7 : decode cX0_undo 7 = .ok (.aload_n 0, 1) := dk_42 (dk_at dksX0_undo_0 7 rfl rfl)
theorem dX0_undo_8 : decode cX0_undo 8 = .ok (.bipush (-3), 2) := dk_16 253 (dk_at dksX0_undo_0 8 rfl rfl)
theorem dX0_undo_10 : decode cX0_undo 10 = .ok (.invokevirtual 124, 3) := dk_182 0 124 (dk_at dksX0_undo_0 10 rfl rfl)
theorem dX0_undo_13 : decode cX0_undo 13 = .ok (.ireturn, 1) := dk_172 (dk_at dksX0_undo_0 13 rfl rfl)
theorem dX0_undo_14 : decode cX0_undo 14 = .ok (.aload_n 0, 1) := dk_42 (dk_at dksX0_undo_0 14 rfl rfl)
theorem dX0_undo_15 : decode cX0_undo 15 = .ok (.dup, 1) := dk_89 (dk_at dksX0_undo_0 15 rfl rfl)
theorem dX0_undo_16 : decode cX0_undo 16 = .ok (.getfield 112, 3) := dk_180 0 112 (dk_at dksX0_undo_0 16 rfl rfl)
theorem dX0_undo_19 : decode cX0_undo 19 = .ok (.iconst 1, 1) := dk_4 (dk_at dksX0_undo_0 19 rfl rfl)
theorem dX0_undo_20 : decode cX0_undo 20 = .ok (.isub, 1) := dk_100 (dk_at dksX0_undo_0 20 rfl rfl)
theorem dX0_undo_21 : decode cX0_undo 21 = .ok (.putfield 112, 3) := dk_181 0 112 (dk_at dksX0_undo_0 21 rfl rfl)
theorem dX0_undo_24 : decode cX0_undo 24 = .ok (.aload_n 0, 1) := dk_42 (dk_at dksX0_undo_1 0 rfl rfl)
theorem dX0_undo_25 : decode cX0_undo 25 = .ok (.getfield 24, 3) := dk_180 0 24 (dk_at dksX0_undo_1 1 rfl rfl)
theorem dX0_undo_28 : decode cX0_undo 28 = .ok (.bipush 6, 2) := dk_16 6 (dk_at dksX0_undo_1 4 rfl rfl)
theorem dX0_undo_30 : decode cX0_undo 30 = .ok (.aload_n 0, 1) := dk_42 (dk_at dksX0_undo_1 6 rfl rfl)
theorem dX0_undo_31 : decode cX0_undo 31 = .ok (.getfield 112, 3) := dk_180 0 112 (dk_at dksX0_undo_1 7 rfl rfl)
theorem dX0_undo_34 : decode cX0_undo 34 = .ok (.imul, 1) := dk_104 (dk_at dksX0_undo_1 10 rfl rfl)
theorem dX0_undo_35 : decode cX0_undo 35 = .ok (.aload_n 0, 1) := dk_42 (dk_at dksX0_undo_1 11 rfl rfl)
theorem dX0_undo_36 : decode cX0_undo 36 = .ok (.getfield 16, 3) := dk_180 0 16 (dk_at dksX0_undo_1 12 rfl rfl)
theorem dX0_undo_39 : decode cX0_undo 39 = .ok (.getfield 142, 3) := dk_180 0 142 (dk_at dksX0_undo_1 15 rfl rfl)
theorem dX0_undo_42 : decode cX0_undo 42 = .ok (.iconst 0, 1) := dk_3 (dk_at dksX0_undo_1 18 rfl rfl)
theorem dX0_undo_43 : decode cX0_undo 43 = .ok (.bipush 6, 2) := dk_16 6 (dk_at dksX0_undo_1 19 rfl rfl)
theorem dX0_undo_45 : decode cX0_undo 45 = .ok (.invokestatic 271, 3) := dk_184 1 15 (dk_at dksX0_undo_1 21 rfl rfl)
theorem dX0_undo_48 : decode cX0_undo 48 = .ok (.aload_n 0, 1) := dk_42 (dk_at dksX0_undo_2 0 rfl rfl)
theorem dX0_undo_49 : decode cX0_undo 49 = .ok (.aload_n 0, 1) := dk_42 (dk_at dksX0_undo_2 1 rfl rfl)
theorem dX0_undo_50 : decode cX0_undo 50 = .ok (.getfield 27, 3) := dk_180 0 27 (dk_at dksX0_undo_2 2 rfl rfl)
theorem dX0_undo_53 : decode cX0_undo 53 = .ok (.aload_n 0, 1) := dk_42 (dk_at dksX0_undo_2 5 rfl rfl)
theorem dX0_undo_54 : decode cX0_undo 54 = .ok (.getfield 112, 3) := dk_180 0 112 (dk_at dksX0_undo_2 6 rfl rfl)
theorem dX0_undo_57 : decode cX0_undo 57 = .ok (.iaload, 1) := dk_46 (dk_at dksX0_undo_2 9 rfl rfl)
theorem dX0_undo_58 : decode cX0_undo 58 = .ok (.invokevirtual 115, 3) := dk_182 0 115 (dk_at dksX0_undo_2 10 rfl rfl)
theorem dX0_undo_61 : decode cX0_undo 61 = .ok (.ireturn, 1) := dk_172 (dk_at dksX0_undo_2 13 rfl rfl)
abbrev cX0_comes : ByteArray := prog_1_method_59_code
def yX0_comes : MethodName := ⟨RX0, "comes", "(II)I"⟩
def dkwX0_comes_2 : List UInt8 := [4, 167, 0, 4, 3, 184, 1, 79, 136, 172]
abbrev dktX0_comes_2 : List UInt8 := dkwX0_comes_2 ++ []
def dkwX0_comes_1 : List UInt8 := [182, 1, 52, 42, 180, 0, 65, 27, 182, 1, 73, 133, 42, 180, 0, 65, 180, 1, 76, 133, 28, 154, 0, 7]
abbrev dktX0_comes_1 : List UInt8 := dkwX0_comes_1 ++ dktX0_comes_2
def dkwX0_comes_0 : List UInt8 := [27, 2, 159, 0, 10, 27, 184, 0, 134, 153, 0, 12, 28, 3, 4, 184, 0, 97, 154, 0, 5, 2, 172, 42]
abbrev dktX0_comes_0 : List UInt8 := dkwX0_comes_0 ++ dktX0_comes_1
theorem dksX0_comes_0 : cX0_comes.data.toList.drop 0 = dktX0_comes_0 := by decide +kernel
theorem dksX0_comes_1 : cX0_comes.data.toList.drop 24 = dktX0_comes_1 := dk_seg dksX0_comes_0 24 rfl rfl
theorem dksX0_comes_2 : cX0_comes.data.toList.drop 48 = dktX0_comes_2 := dk_seg dksX0_comes_1 24 rfl rfl
theorem dX0_comes_0 : decode cX0_comes 0 = .ok (.iload_n 1, 1) := dk_27 (dk_at dksX0_comes_0 0 rfl rfl)
theorem dX0_comes_1 : decode cX0_comes 1 = .ok (.iconst (-1), 1) := dk_2 (dk_at dksX0_comes_0 1 rfl rfl)
theorem dX0_comes_2 : decode cX0_comes 2 = .ok (.if_icmp .eq 10, 3) := dk_159 0 10 (dk_at dksX0_comes_0 2 rfl rfl)
theorem dX0_comes_5 : decode cX0_comes 5 = .ok (.iload_n 1, 1) := dk_27 (dk_at dksX0_comes_0 5 rfl rfl)
theorem dX0_comes_6 : decode cX0_comes 6 = .ok (.invokestatic 134, 3) := dk_184 0 134 (dk_at dksX0_comes_0 6 rfl rfl)
theorem dX0_comes_9 : decode cX0_comes 9 = .ok (.ifCond .eq 12, 3) := dk_153 0 12 (dk_at dksX0_comes_0 9 rfl rfl)
theorem dX0_comes_12 : decode cX0_comes 12 = .ok (.iload_n 2, 1) := dk_28 (dk_at dksX0_comes_0 12 rfl rfl)
theorem dX0_comes_13 : decode cX0_comes 13 = .ok (.iconst 0, 1) := dk_3 (dk_at dksX0_comes_0 13 rfl rfl)
theorem dX0_comes_14 : decode cX0_comes 14 = .ok (.iconst 1, 1) := dk_4 (dk_at dksX0_comes_0 14 rfl rfl)
theorem dX0_comes_15 : decode cX0_comes 15 = .ok (.invokestatic 97, 3) := dk_184 0 97 (dk_at dksX0_comes_0 15 rfl rfl)
theorem dX0_comes_18 : decode cX0_comes 18 = .ok (.ifCond .ne 5, 3) := dk_154 0 5 (dk_at dksX0_comes_0 18 rfl rfl)
theorem dX0_comes_21 : decode cX0_comes 21 = .ok (.iconst (-1), 1) := dk_2 (dk_at dksX0_comes_0 21 rfl rfl)
theorem dX0_comes_22 : decode cX0_comes 22 = .ok (.ireturn, 1) := dk_172 (dk_at dksX0_comes_0 22 rfl rfl)
theorem dX0_comes_23 : decode cX0_comes 23 = .ok (.aload_n 0, 1) := dk_42 (dk_at dksX0_comes_0 23 rfl rfl)
theorem dX0_comes_24 : decode cX0_comes 24 = .ok (.invokevirtual 308, 3) := dk_182 1 52 (dk_at dksX0_comes_1 0 rfl rfl)
theorem dX0_comes_27 : decode cX0_comes 27 = .ok (.aload_n 0, 1) := dk_42 (dk_at dksX0_comes_1 3 rfl rfl)
theorem dX0_comes_28 : decode cX0_comes 28 = .ok (.getfield 65, 3) := dk_180 0 65 (dk_at dksX0_comes_1 4 rfl rfl)
theorem dX0_comes_31 : decode cX0_comes 31 = .ok (.iload_n 1, 1) := dk_27 (dk_at dksX0_comes_1 7 rfl rfl)
theorem dX0_comes_32 : decode cX0_comes 32 = .ok (.invokevirtual 329, 3) := dk_182 1 73 (dk_at dksX0_comes_1 8 rfl rfl)
theorem dX0_comes_35 : decode cX0_comes 35 = .ok (.i2l, 1) := dk_133 (dk_at dksX0_comes_1 11 rfl rfl)
theorem dX0_comes_36 : decode cX0_comes 36 = .ok (.aload_n 0, 1) := dk_42 (dk_at dksX0_comes_1 12 rfl rfl)
theorem dX0_comes_37 : decode cX0_comes 37 = .ok (.getfield 65, 3) := dk_180 0 65 (dk_at dksX0_comes_1 13 rfl rfl)
theorem dX0_comes_40 : decode cX0_comes 40 = .ok (.getfield 332, 3) := dk_180 1 76 (dk_at dksX0_comes_1 16 rfl rfl)
theorem dX0_comes_43 : decode cX0_comes 43 = .ok (.i2l, 1) := dk_133 (dk_at dksX0_comes_1 19 rfl rfl)
theorem dX0_comes_44 : decode cX0_comes 44 = .ok (.iload_n 2, 1) := dk_28 (dk_at dksX0_comes_1 20 rfl rfl)
theorem dX0_comes_45 : decode cX0_comes 45 = .ok (.ifCond .ne 7, 3) := dk_154 0 7 (dk_at dksX0_comes_1 21 rfl rfl)
theorem dX0_comes_48 : decode cX0_comes 48 = .ok (.iconst 1, 1) := dk_4 (dk_at dksX0_comes_2 0 rfl rfl)
theorem dX0_comes_49 : decode cX0_comes 49 = .ok (.goto 4, 3) := dk_167 0 4 (dk_at dksX0_comes_2 1 rfl rfl)
theorem dX0_comes_52 : decode cX0_comes 52 = .ok (.iconst 0, 1) := dk_3 (dk_at dksX0_comes_2 4 rfl rfl)
theorem dX0_comes_53 : decode cX0_comes 53 = .ok (.invokestatic 335, 3) := dk_184 1 79 (dk_at dksX0_comes_2 5 rfl rfl)
theorem dX0_comes_56 : decode cX0_comes 56 = .ok (.l2i, 1) := dk_136 (dk_at dksX0_comes_2 8 rfl rfl)
theorem dX0_comes_57 : decode cX0_comes 57 = .ok (.ireturn, 1) := dk_172 (dk_at dksX0_comes_2 9 rfl rfl)
abbrev cX0_looks : ByteArray := prog_1_method_54_code
def yX0_looks : MethodName := ⟨RX0, "looks", "()V"⟩
def dkwX0_looks_3 : List UInt8 := [167, 255, 230, 132, 1, 1, 167, 255, 211, 177]
abbrev dktX0_looks_3 : List UInt8 := dkwX0_looks_3 ++ []
def dkwX0_looks_2 : List UInt8 := [163, 0, 26, 42, 180, 0, 73, 16, 11, 27, 104, 28, 96, 42, 27, 28, 182, 1, 7, 79, 132, 2, 1]
abbrev dktX0_looks_2 : List UInt8 := dkwX0_looks_2 ++ dktX0_looks_3
def dkwX0_looks_1 : List UInt8 := [180, 0, 118, 181, 1, 49, 3, 60, 27, 42, 180, 0, 16, 180, 0, 118, 162, 0, 40, 3, 61, 28, 16, 10]
abbrev dktX0_looks_1 : List UInt8 := dkwX0_looks_1 ++ dktX0_looks_2
def dkwX0_looks_0 : List UInt8 := [42, 180, 0, 65, 42, 3, 182, 0, 235, 42, 4, 182, 0, 235, 182, 1, 45, 42, 42, 180, 0, 16]
abbrev dktX0_looks_0 : List UInt8 := dkwX0_looks_0 ++ dktX0_looks_1
theorem dksX0_looks_0 : cX0_looks.data.toList.drop 0 = dktX0_looks_0 := by decide +kernel
theorem dksX0_looks_1 : cX0_looks.data.toList.drop 22 = dktX0_looks_1 := dk_seg dksX0_looks_0 22 rfl rfl
theorem dksX0_looks_2 : cX0_looks.data.toList.drop 46 = dktX0_looks_2 := dk_seg dksX0_looks_1 24 rfl rfl
theorem dksX0_looks_3 : cX0_looks.data.toList.drop 69 = dktX0_looks_3 := dk_seg dksX0_looks_2 23 rfl rfl
theorem dX0_looks_0 : decode cX0_looks 0 = .ok (.aload_n 0, 1) := dk_42 (dk_at dksX0_looks_0 0 rfl rfl)
theorem dX0_looks_1 : decode cX0_looks 1 = .ok (.getfield 65, 3) := dk_180 0 65 (dk_at dksX0_looks_0 1 rfl rfl)
theorem dX0_looks_4 : decode cX0_looks 4 = .ok (.aload_n 0, 1) := dk_42 (dk_at dksX0_looks_0 4 rfl rfl)
theorem dX0_looks_5 : decode cX0_looks 5 = .ok (.iconst 0, 1) := dk_3 (dk_at dksX0_looks_0 5 rfl rfl)
theorem dX0_looks_6 : decode cX0_looks 6 = .ok (.invokevirtual 235, 3) := dk_182 0 235 (dk_at dksX0_looks_0 6 rfl rfl)
theorem dX0_looks_9 : decode cX0_looks 9 = .ok (.aload_n 0, 1) := dk_42 (dk_at dksX0_looks_0 9 rfl rfl)
theorem dX0_looks_10 : decode cX0_looks 10 = .ok (.iconst 1, 1) := dk_4 (dk_at dksX0_looks_0 10 rfl rfl)
theorem dX0_looks_11 : decode cX0_looks 11 = .ok (.invokevirtual 235, 3) := dk_182 0 235 (dk_at dksX0_looks_0 11 rfl rfl)
theorem dX0_looks_14 : decode cX0_looks 14 = .ok (.invokevirtual 301, 3) := dk_182 1 45 (dk_at dksX0_looks_0 14 rfl rfl)
theorem dX0_looks_17 : decode cX0_looks 17 = .ok (.aload_n 0, 1) := dk_42 (dk_at dksX0_looks_0 17 rfl rfl)
theorem dX0_looks_18 : decode cX0_looks 18 = .ok (.aload_n 0, 1) := dk_42 (dk_at dksX0_looks_0 18 rfl rfl)
theorem dX0_looks_19 : decode cX0_looks 19 = .ok (.getfield 16, 3) := dk_180 0 16 (dk_at dksX0_looks_0 19 rfl rfl)
theorem dX0_looks_22 : decode cX0_looks 22 = .ok (.getfield 118, 3) := dk_180 0 118 (dk_at dksX0_looks_1 0 rfl rfl)
theorem dX0_looks_25 : decode cX0_looks 25 = .ok (.putfield 305, 3) := dk_181 1 49 (dk_at dksX0_looks_1 3 rfl rfl)
theorem dX0_looks_28 : decode cX0_looks 28 = .ok (.iconst 0, 1) := dk_3 (dk_at dksX0_looks_1 6 rfl rfl)
theorem dX0_looks_29 : decode cX0_looks 29 = .ok (.istore_n 1, 1) := dk_60 (dk_at dksX0_looks_1 7 rfl rfl)
theorem dX0_looks_30 : decode cX0_looks 30 = .ok (.iload_n 1, 1) := dk_27 (dk_at dksX0_looks_1 8 rfl rfl)
theorem dX0_looks_31 : decode cX0_looks 31 = .ok (.aload_n 0, 1) := dk_42 (dk_at dksX0_looks_1 9 rfl rfl)
theorem dX0_looks_32 : decode cX0_looks 32 = .ok (.getfield 16, 3) := dk_180 0 16 (dk_at dksX0_looks_1 10 rfl rfl)
theorem dX0_looks_35 : decode cX0_looks 35 = .ok (.getfield 118, 3) := dk_180 0 118 (dk_at dksX0_looks_1 13 rfl rfl)
theorem dX0_looks_38 : decode cX0_looks 38 = .ok (.if_icmp .ge 40, 3) := dk_162 0 40 (dk_at dksX0_looks_1 16 rfl rfl)
theorem dX0_looks_41 : decode cX0_looks 41 = .ok (.iconst 0, 1) := dk_3 (dk_at dksX0_looks_1 19 rfl rfl)
theorem dX0_looks_42 : decode cX0_looks 42 = .ok (.istore_n 2, 1) := dk_61 (dk_at dksX0_looks_1 20 rfl rfl)
theorem dX0_looks_43 : decode cX0_looks 43 = .ok (.iload_n 2, 1) := dk_28 (dk_at dksX0_looks_1 21 rfl rfl)
theorem dX0_looks_44 : decode cX0_looks 44 = .ok (.bipush 10, 2) := dk_16 10 (dk_at dksX0_looks_1 22 rfl rfl)
theorem dX0_looks_46 : decode cX0_looks 46 = .ok (.if_icmp .gt 26, 3) := dk_163 0 26 (dk_at dksX0_looks_2 0 rfl rfl)
theorem dX0_looks_49 : decode cX0_looks 49 = .ok (.aload_n 0, 1) := dk_42 (dk_at dksX0_looks_2 3 rfl rfl)
theorem dX0_looks_50 : decode cX0_looks 50 = .ok (.getfield 73, 3) := dk_180 0 73 (dk_at dksX0_looks_2 4 rfl rfl)
theorem dX0_looks_53 : decode cX0_looks 53 = .ok (.bipush 11, 2) := dk_16 11 (dk_at dksX0_looks_2 7 rfl rfl)
theorem dX0_looks_55 : decode cX0_looks 55 = .ok (.iload_n 1, 1) := dk_27 (dk_at dksX0_looks_2 9 rfl rfl)
theorem dX0_looks_56 : decode cX0_looks 56 = .ok (.imul, 1) := dk_104 (dk_at dksX0_looks_2 10 rfl rfl)
theorem dX0_looks_57 : decode cX0_looks 57 = .ok (.iload_n 2, 1) := dk_28 (dk_at dksX0_looks_2 11 rfl rfl)
theorem dX0_looks_58 : decode cX0_looks 58 = .ok (.iadd, 1) := dk_96 (dk_at dksX0_looks_2 12 rfl rfl)
theorem dX0_looks_59 : decode cX0_looks 59 = .ok (.aload_n 0, 1) := dk_42 (dk_at dksX0_looks_2 13 rfl rfl)
theorem dX0_looks_60 : decode cX0_looks 60 = .ok (.iload_n 1, 1) := dk_27 (dk_at dksX0_looks_2 14 rfl rfl)
theorem dX0_looks_61 : decode cX0_looks 61 = .ok (.iload_n 2, 1) := dk_28 (dk_at dksX0_looks_2 15 rfl rfl)
theorem dX0_looks_62 : decode cX0_looks 62 = .ok (.invokevirtual 263, 3) := dk_182 1 7 (dk_at dksX0_looks_2 16 rfl rfl)
theorem dX0_looks_65 : decode cX0_looks 65 = .ok (.iastore, 1) := dk_79 (dk_at dksX0_looks_2 19 rfl rfl)
theorem dX0_looks_66 : decode cX0_looks 66 = .ok (.iinc 2 1, 3) := dk_132 2 1 (dk_at dksX0_looks_2 20 rfl rfl)
theorem dX0_looks_69 : decode cX0_looks 69 = .ok (.goto (-26), 3) := dk_167 255 230 (dk_at dksX0_looks_3 0 rfl rfl)
theorem dX0_looks_72 : decode cX0_looks 72 = .ok (.iinc 1 1, 3) := dk_132 1 1 (dk_at dksX0_looks_3 3 rfl rfl)
theorem dX0_looks_75 : decode cX0_looks 75 = .ok (.goto (-45), 3) := dk_167 255 211 (dk_at dksX0_looks_3 6 rfl rfl)
theorem dX0_looks_78 : decode cX0_looks 78 = .ok (.return_, 1) := dk_177 (dk_at dksX0_looks_3 9 rfl rfl)
abbrev cX0_cellAt : ByteArray := prog_1_method_8_code
def yX0_cellAt : MethodName := ⟨RX0, "cellAt", "(II)I"⟩
def dkwX0_cellAt_1 : List UInt8 := [167, 0, 4, 2, 172]
abbrev dktX0_cellAt_1 : List UInt8 := dkwX0_cellAt_1 ++ []
def dkwX0_cellAt_0 : List UInt8 := [26, 3, 8, 184, 0, 97, 153, 0, 21, 27, 3, 8, 184, 0, 97, 153, 0, 12, 16, 6, 27, 104, 26, 96]
abbrev dktX0_cellAt_0 : List UInt8 := dkwX0_cellAt_0 ++ dktX0_cellAt_1
theorem dksX0_cellAt_0 : cX0_cellAt.data.toList.drop 0 = dktX0_cellAt_0 := by decide +kernel
theorem dksX0_cellAt_1 : cX0_cellAt.data.toList.drop 24 = dktX0_cellAt_1 := dk_seg dksX0_cellAt_0 24 rfl rfl
theorem dX0_cellAt_0 : decode cX0_cellAt 0 = .ok (.iload_n 0, 1) := dk_26 (dk_at dksX0_cellAt_0 0 rfl rfl)
theorem dX0_cellAt_1 : decode cX0_cellAt 1 = .ok (.iconst 0, 1) := dk_3 (dk_at dksX0_cellAt_0 1 rfl rfl)
theorem dX0_cellAt_2 : decode cX0_cellAt 2 = .ok (.iconst 5, 1) := dk_8 (dk_at dksX0_cellAt_0 2 rfl rfl)
theorem dX0_cellAt_3 : decode cX0_cellAt 3 = .ok (.invokestatic 97, 3) := dk_184 0 97 (dk_at dksX0_cellAt_0 3 rfl rfl)
theorem dX0_cellAt_6 : decode cX0_cellAt 6 = .ok (.ifCond .eq 21, 3) := dk_153 0 21 (dk_at dksX0_cellAt_0 6 rfl rfl)
theorem dX0_cellAt_9 : decode cX0_cellAt 9 = .ok (.iload_n 1, 1) := dk_27 (dk_at dksX0_cellAt_0 9 rfl rfl)
theorem dX0_cellAt_10 : decode cX0_cellAt 10 = .ok (.iconst 0, 1) := dk_3 (dk_at dksX0_cellAt_0 10 rfl rfl)
theorem dX0_cellAt_11 : decode cX0_cellAt 11 = .ok (.iconst 5, 1) := dk_8 (dk_at dksX0_cellAt_0 11 rfl rfl)
theorem dX0_cellAt_12 : decode cX0_cellAt 12 = .ok (.invokestatic 97, 3) := dk_184 0 97 (dk_at dksX0_cellAt_0 12 rfl rfl)
theorem dX0_cellAt_15 : decode cX0_cellAt 15 = .ok (.ifCond .eq 12, 3) := dk_153 0 12 (dk_at dksX0_cellAt_0 15 rfl rfl)
theorem dX0_cellAt_18 : decode cX0_cellAt 18 = .ok (.bipush 6, 2) := dk_16 6 (dk_at dksX0_cellAt_0 18 rfl rfl)
theorem dX0_cellAt_20 : decode cX0_cellAt 20 = .ok (.iload_n 1, 1) := dk_27 (dk_at dksX0_cellAt_0 20 rfl rfl)
theorem dX0_cellAt_21 : decode cX0_cellAt 21 = .ok (.imul, 1) := dk_104 (dk_at dksX0_cellAt_0 21 rfl rfl)
theorem dX0_cellAt_22 : decode cX0_cellAt 22 = .ok (.iload_n 0, 1) := dk_26 (dk_at dksX0_cellAt_0 22 rfl rfl)
theorem dX0_cellAt_23 : decode cX0_cellAt 23 = .ok (.iadd, 1) := dk_96 (dk_at dksX0_cellAt_0 23 rfl rfl)
theorem dX0_cellAt_24 : decode cX0_cellAt 24 = .ok (.goto 4, 3) := dk_167 0 4 (dk_at dksX0_cellAt_1 0 rfl rfl)
theorem dX0_cellAt_27 : decode cX0_cellAt 27 = .ok (.iconst (-1), 1) := dk_2 (dk_at dksX0_cellAt_1 3 rfl rfl)
theorem dX0_cellAt_28 : decode cX0_cellAt 28 = .ok (.ireturn, 1) := dk_172 (dk_at dksX0_cellAt_1 4 rfl rfl)
abbrev cX0_slip : ByteArray := prog_1_method_37_code
def yX0_slip : MethodName := ⟨RX0, "slip", "(IIII)I"⟩
def dkwX0_slip_5 : List UInt8 := [21, 5, 167, 0, 11, 22, 7, 3, 16, 9, 184, 0, 255, 172]
abbrev dktX0_slip_5 : List UInt8 := dkwX0_slip_5 ++ []
def dkwX0_slip_4 : List UInt8 := [25, 6, 8, 21, 4, 133, 80, 42, 3, 182, 0, 249, 55, 7, 22, 7, 20, 0, 253, 148, 154, 0, 8]
abbrev dktX0_slip_4 : List UInt8 := dkwX0_slip_4 ++ dktX0_slip_5
def dkwX0_slip_3 : List UInt8 := [42, 5, 182, 0, 235, 133, 80, 25, 6, 6, 42, 6, 182, 0, 235, 133, 80, 25, 6, 7, 29, 133, 80]
abbrev dktX0_slip_3 : List UInt8 := dkwX0_slip_3 ++ dktX0_slip_4
def dkwX0_slip_2 : List UInt8 := [42, 180, 0, 56, 180, 0, 229, 58, 6, 25, 6, 3, 27, 133, 80, 25, 6, 4, 28, 133, 80, 25, 6, 5]
abbrev dktX0_slip_2 : List UInt8 := dkwX0_slip_2 ++ dktX0_slip_3
def dkwX0_slip_1 : List UInt8 := [167, 0, 4, 4, 54, 5, 42, 180, 0, 16, 180, 0, 226, 2, 160, 0, 6, 21, 5, 172, 42, 182, 0, 246]
abbrev dktX0_slip_1 : List UInt8 := dkwX0_slip_1 ++ dktX0_slip_2
def dkwX0_slip_0 : List UInt8 := [29, 154, 0, 12, 21, 4, 154, 0, 7, 7, 167, 0, 17, 29, 153, 0, 8, 21, 4, 154, 0, 7, 5]
abbrev dktX0_slip_0 : List UInt8 := dkwX0_slip_0 ++ dktX0_slip_1
theorem dksX0_slip_0 : cX0_slip.data.toList.drop 0 = dktX0_slip_0 := by decide +kernel
theorem dksX0_slip_1 : cX0_slip.data.toList.drop 23 = dktX0_slip_1 := dk_seg dksX0_slip_0 23 rfl rfl
theorem dksX0_slip_2 : cX0_slip.data.toList.drop 47 = dktX0_slip_2 := dk_seg dksX0_slip_1 24 rfl rfl
theorem dksX0_slip_3 : cX0_slip.data.toList.drop 71 = dktX0_slip_3 := dk_seg dksX0_slip_2 24 rfl rfl
theorem dksX0_slip_4 : cX0_slip.data.toList.drop 94 = dktX0_slip_4 := dk_seg dksX0_slip_3 23 rfl rfl
theorem dksX0_slip_5 : cX0_slip.data.toList.drop 117 = dktX0_slip_5 := dk_seg dksX0_slip_4 23 rfl rfl
theorem dX0_slip_0 : decode cX0_slip 0 = .ok (.iload_n 3, 1) := dk_29 (dk_at dksX0_slip_0 0 rfl rfl)
theorem dX0_slip_1 : decode cX0_slip 1 = .ok (.ifCond .ne 12, 3) := dk_154 0 12 (dk_at dksX0_slip_0 1 rfl rfl)
theorem dX0_slip_4 : decode cX0_slip 4 = .ok (.iload 4, 2) := dk_21 4 (dk_at dksX0_slip_0 4 rfl rfl)
theorem dX0_slip_6 : decode cX0_slip 6 = .ok (.ifCond .ne 7, 3) := dk_154 0 7 (dk_at dksX0_slip_0 6 rfl rfl)
theorem dX0_slip_9 : decode cX0_slip 9 = .ok (.iconst 4, 1) := dk_7 (dk_at dksX0_slip_0 9 rfl rfl)
theorem dX0_slip_10 : decode cX0_slip 10 = .ok (.goto 17, 3) := dk_167 0 17 (dk_at dksX0_slip_0 10 rfl rfl)
theorem dX0_slip_13 : decode cX0_slip 13 = .ok (.iload_n 3, 1) := dk_29 (dk_at dksX0_slip_0 13 rfl rfl)
theorem dX0_slip_14 : decode cX0_slip 14 = .ok (.ifCond .eq 8, 3) := dk_153 0 8 (dk_at dksX0_slip_0 14 rfl rfl)
theorem dX0_slip_17 : decode cX0_slip 17 = .ok (.iload 4, 2) := dk_21 4 (dk_at dksX0_slip_0 17 rfl rfl)
theorem dX0_slip_19 : decode cX0_slip 19 = .ok (.ifCond .ne 7, 3) := dk_154 0 7 (dk_at dksX0_slip_0 19 rfl rfl)
theorem dX0_slip_22 : decode cX0_slip 22 = .ok (.iconst 2, 1) := dk_5 (dk_at dksX0_slip_0 22 rfl rfl)
theorem dX0_slip_23 : decode cX0_slip 23 = .ok (.goto 4, 3) := dk_167 0 4 (dk_at dksX0_slip_1 0 rfl rfl)
theorem dX0_slip_26 : decode cX0_slip 26 = .ok (.iconst 1, 1) := dk_4 (dk_at dksX0_slip_1 3 rfl rfl)
theorem dX0_slip_27 : decode cX0_slip 27 = .ok (.istore 5, 2) := dk_54 5 (dk_at dksX0_slip_1 4 rfl rfl)
theorem dX0_slip_29 : decode cX0_slip 29 = .ok (.aload_n 0, 1) := dk_42 (dk_at dksX0_slip_1 6 rfl rfl)
theorem dX0_slip_30 : decode cX0_slip 30 = .ok (.getfield 16, 3) := dk_180 0 16 (dk_at dksX0_slip_1 7 rfl rfl)
theorem dX0_slip_33 : decode cX0_slip 33 = .ok (.getfield 226, 3) := dk_180 0 226 (dk_at dksX0_slip_1 10 rfl rfl)
theorem dX0_slip_36 : decode cX0_slip 36 = .ok (.iconst (-1), 1) := dk_2 (dk_at dksX0_slip_1 13 rfl rfl)
theorem dX0_slip_37 : decode cX0_slip 37 = .ok (.if_icmp .ne 6, 3) := dk_160 0 6 (dk_at dksX0_slip_1 14 rfl rfl)
theorem dX0_slip_40 : decode cX0_slip 40 = .ok (.iload 5, 2) := dk_21 5 (dk_at dksX0_slip_1 17 rfl rfl)
theorem dX0_slip_42 : decode cX0_slip 42 = .ok (.ireturn, 1) := dk_172 (dk_at dksX0_slip_1 19 rfl rfl)
theorem dX0_slip_43 : decode cX0_slip 43 = .ok (.aload_n 0, 1) := dk_42 (dk_at dksX0_slip_1 20 rfl rfl)
theorem dX0_slip_44 : decode cX0_slip 44 = .ok (.invokevirtual 246, 3) := dk_182 0 246 (dk_at dksX0_slip_1 21 rfl rfl)
theorem dX0_slip_47 : decode cX0_slip 47 = .ok (.aload_n 0, 1) := dk_42 (dk_at dksX0_slip_2 0 rfl rfl)
theorem dX0_slip_48 : decode cX0_slip 48 = .ok (.getfield 56, 3) := dk_180 0 56 (dk_at dksX0_slip_2 1 rfl rfl)
theorem dX0_slip_51 : decode cX0_slip 51 = .ok (.getfield 229, 3) := dk_180 0 229 (dk_at dksX0_slip_2 4 rfl rfl)
theorem dX0_slip_54 : decode cX0_slip 54 = .ok (.astore 6, 2) := dk_58 6 (dk_at dksX0_slip_2 7 rfl rfl)
theorem dX0_slip_56 : decode cX0_slip 56 = .ok (.aload 6, 2) := dk_25 6 (dk_at dksX0_slip_2 9 rfl rfl)
theorem dX0_slip_58 : decode cX0_slip 58 = .ok (.iconst 0, 1) := dk_3 (dk_at dksX0_slip_2 11 rfl rfl)
theorem dX0_slip_59 : decode cX0_slip 59 = .ok (.iload_n 1, 1) := dk_27 (dk_at dksX0_slip_2 12 rfl rfl)
theorem dX0_slip_60 : decode cX0_slip 60 = .ok (.i2l, 1) := dk_133 (dk_at dksX0_slip_2 13 rfl rfl)
theorem dX0_slip_61 : decode cX0_slip 61 = .ok (.lastore, 1) := dk_80 (dk_at dksX0_slip_2 14 rfl rfl)
theorem dX0_slip_62 : decode cX0_slip 62 = .ok (.aload 6, 2) := dk_25 6 (dk_at dksX0_slip_2 15 rfl rfl)
theorem dX0_slip_64 : decode cX0_slip 64 = .ok (.iconst 1, 1) := dk_4 (dk_at dksX0_slip_2 17 rfl rfl)
theorem dX0_slip_65 : decode cX0_slip 65 = .ok (.iload_n 2, 1) := dk_28 (dk_at dksX0_slip_2 18 rfl rfl)
theorem dX0_slip_66 : decode cX0_slip 66 = .ok (.i2l, 1) := dk_133 (dk_at dksX0_slip_2 19 rfl rfl)
theorem dX0_slip_67 : decode cX0_slip 67 = .ok (.lastore, 1) := dk_80 (dk_at dksX0_slip_2 20 rfl rfl)
theorem dX0_slip_68 : decode cX0_slip 68 = .ok (.aload 6, 2) := dk_25 6 (dk_at dksX0_slip_2 21 rfl rfl)
theorem dX0_slip_70 : decode cX0_slip 70 = .ok (.iconst 2, 1) := dk_5 (dk_at dksX0_slip_2 23 rfl rfl)
theorem dX0_slip_71 : decode cX0_slip 71 = .ok (.aload_n 0, 1) := dk_42 (dk_at dksX0_slip_3 0 rfl rfl)
theorem dX0_slip_72 : decode cX0_slip 72 = .ok (.iconst 2, 1) := dk_5 (dk_at dksX0_slip_3 1 rfl rfl)
theorem dX0_slip_73 : decode cX0_slip 73 = .ok (.invokevirtual 235, 3) := dk_182 0 235 (dk_at dksX0_slip_3 2 rfl rfl)
theorem dX0_slip_76 : decode cX0_slip 76 = .ok (.i2l, 1) := dk_133 (dk_at dksX0_slip_3 5 rfl rfl)
theorem dX0_slip_77 : decode cX0_slip 77 = .ok (.lastore, 1) := dk_80 (dk_at dksX0_slip_3 6 rfl rfl)
theorem dX0_slip_78 : decode cX0_slip 78 = .ok (.aload 6, 2) := dk_25 6 (dk_at dksX0_slip_3 7 rfl rfl)
theorem dX0_slip_80 : decode cX0_slip 80 = .ok (.iconst 3, 1) := dk_6 (dk_at dksX0_slip_3 9 rfl rfl)
theorem dX0_slip_81 : decode cX0_slip 81 = .ok (.aload_n 0, 1) := dk_42 (dk_at dksX0_slip_3 10 rfl rfl)
theorem dX0_slip_82 : decode cX0_slip 82 = .ok (.iconst 3, 1) := dk_6 (dk_at dksX0_slip_3 11 rfl rfl)
theorem dX0_slip_83 : decode cX0_slip 83 = .ok (.invokevirtual 235, 3) := dk_182 0 235 (dk_at dksX0_slip_3 12 rfl rfl)
theorem dX0_slip_86 : decode cX0_slip 86 = .ok (.i2l, 1) := dk_133 (dk_at dksX0_slip_3 15 rfl rfl)
theorem dX0_slip_87 : decode cX0_slip 87 = .ok (.lastore, 1) := dk_80 (dk_at dksX0_slip_3 16 rfl rfl)
theorem dX0_slip_88 : decode cX0_slip 88 = .ok (.aload 6, 2) := dk_25 6 (dk_at dksX0_slip_3 17 rfl rfl)
theorem dX0_slip_90 : decode cX0_slip 90 = .ok (.iconst 4, 1) := dk_7 (dk_at dksX0_slip_3 19 rfl rfl)
theorem dX0_slip_91 : decode cX0_slip 91 = .ok (.iload_n 3, 1) := dk_29 (dk_at dksX0_slip_3 20 rfl rfl)
theorem dX0_slip_92 : decode cX0_slip 92 = .ok (.i2l, 1) := dk_133 (dk_at dksX0_slip_3 21 rfl rfl)
theorem dX0_slip_93 : decode cX0_slip 93 = .ok (.lastore, 1) := dk_80 (dk_at dksX0_slip_3 22 rfl rfl)
theorem dX0_slip_94 : decode cX0_slip 94 = .ok (.aload 6, 2) := dk_25 6 (dk_at dksX0_slip_4 0 rfl rfl)
theorem dX0_slip_96 : decode cX0_slip 96 = .ok (.iconst 5, 1) := dk_8 (dk_at dksX0_slip_4 2 rfl rfl)
theorem dX0_slip_97 : decode cX0_slip 97 = .ok (.iload 4, 2) := dk_21 4 (dk_at dksX0_slip_4 3 rfl rfl)
theorem dX0_slip_99 : decode cX0_slip 99 = .ok (.i2l, 1) := dk_133 (dk_at dksX0_slip_4 5 rfl rfl)
theorem dX0_slip_100 : decode cX0_slip 100 = .ok (.lastore, 1) := dk_80 (dk_at dksX0_slip_4 6 rfl rfl)
theorem dX0_slip_101 : decode cX0_slip 101 = .ok (.aload_n 0, 1) := dk_42 (dk_at dksX0_slip_4 7 rfl rfl)
theorem dX0_slip_102 : decode cX0_slip 102 = .ok (.iconst 0, 1) := dk_3 (dk_at dksX0_slip_4 8 rfl rfl)
theorem dX0_slip_103 : decode cX0_slip 103 = .ok (.invokevirtual 249, 3) := dk_182 0 249 (dk_at dksX0_slip_4 9 rfl rfl)
theorem dX0_slip_106 : decode cX0_slip 106 = .ok (.lstore 7, 2) := dk_55 7 (dk_at dksX0_slip_4 12 rfl rfl)
theorem dX0_slip_108 : decode cX0_slip 108 = .ok (.lload 7, 2) := dk_22 7 (dk_at dksX0_slip_4 14 rfl rfl)
theorem dX0_slip_110 : decode cX0_slip 110 = .ok (.ldc2_w 253, 3) := dk_20 0 253 (dk_at dksX0_slip_4 16 rfl rfl)
theorem dX0_slip_113 : decode cX0_slip 113 = .ok (.lcmp, 1) := dk_148 (dk_at dksX0_slip_4 19 rfl rfl)
theorem dX0_slip_114 : decode cX0_slip 114 = .ok (.ifCond .ne 8, 3) := dk_154 0 8 (dk_at dksX0_slip_4 20 rfl rfl)
theorem dX0_slip_117 : decode cX0_slip 117 = .ok (.iload 5, 2) := dk_21 5 (dk_at dksX0_slip_5 0 rfl rfl)
theorem dX0_slip_119 : decode cX0_slip 119 = .ok (.goto 11, 3) := dk_167 0 11 (dk_at dksX0_slip_5 2 rfl rfl)
theorem dX0_slip_122 : decode cX0_slip 122 = .ok (.lload 7, 2) := dk_22 7 (dk_at dksX0_slip_5 5 rfl rfl)
theorem dX0_slip_124 : decode cX0_slip 124 = .ok (.iconst 0, 1) := dk_3 (dk_at dksX0_slip_5 7 rfl rfl)
theorem dX0_slip_125 : decode cX0_slip 125 = .ok (.bipush 9, 2) := dk_16 9 (dk_at dksX0_slip_5 8 rfl rfl)
theorem dX0_slip_127 : decode cX0_slip 127 = .ok (.invokestatic 255, 3) := dk_184 0 255 (dk_at dksX0_slip_5 10 rfl rfl)
theorem dX0_slip_130 : decode cX0_slip 130 = .ok (.ireturn, 1) := dk_172 (dk_at dksX0_slip_5 13 rfl rfl)
abbrev cX0_tells : ByteArray := prog_1_method_11_code
def yX0_tells : MethodName := ⟨RX0, "tells", "(JJZ)J"⟩
def dkwX0_tells_0 : List UInt8 := [21, 4, 153, 0, 7, 30, 167, 0, 4, 32, 30, 32, 184, 0, 109, 109, 173]
abbrev dktX0_tells_0 : List UInt8 := dkwX0_tells_0 ++ []
theorem dksX0_tells_0 : cX0_tells.data.toList.drop 0 = dktX0_tells_0 := by decide +kernel
theorem dX0_tells_0 : decode cX0_tells 0 = .ok (.iload 4, 2) := dk_21 4 (dk_at dksX0_tells_0 0 rfl rfl)
theorem dX0_tells_2 : decode cX0_tells 2 = .ok (.ifCond .eq 7, 3) := dk_153 0 7 (dk_at dksX0_tells_0 2 rfl rfl)
theorem dX0_tells_5 : decode cX0_tells 5 = .ok (.lload_n 0, 1) := dk_30 (dk_at dksX0_tells_0 5 rfl rfl)
theorem dX0_tells_6 : decode cX0_tells 6 = .ok (.goto 4, 3) := dk_167 0 4 (dk_at dksX0_tells_0 6 rfl rfl)
theorem dX0_tells_9 : decode cX0_tells 9 = .ok (.lload_n 2, 1) := dk_32 (dk_at dksX0_tells_0 9 rfl rfl)
theorem dX0_tells_10 : decode cX0_tells 10 = .ok (.lload_n 0, 1) := dk_30 (dk_at dksX0_tells_0 10 rfl rfl)
theorem dX0_tells_11 : decode cX0_tells 11 = .ok (.lload_n 2, 1) := dk_32 (dk_at dksX0_tells_0 11 rfl rfl)
theorem dX0_tells_12 : decode cX0_tells 12 = .ok (.invokestatic 109, 3) := dk_184 0 109 (dk_at dksX0_tells_0 12 rfl rfl)
theorem dX0_tells_15 : decode cX0_tells 15 = .ok (.ldiv, 1) := dk_109 (dk_at dksX0_tells_0 15 rfl rfl)
theorem dX0_tells_16 : decode cX0_tells 16 = .ok (.lreturn, 1) := dk_173 (dk_at dksX0_tells_0 16 rfl rfl)
abbrev cX0_common : ByteArray := prog_1_method_6_code
def yX0_common : MethodName := ⟨RX0, "common", "(JJ)J"⟩
def dkwX0_common_1 : List UInt8 := [22, 8, 55, 6, 167, 255, 234, 22, 4, 173]
abbrev dktX0_common_1 : List UInt8 := dkwX0_common_1 ++ []
def dkwX0_common_0 : List UInt8 := [30, 55, 4, 32, 55, 6, 22, 6, 9, 148, 153, 0, 21, 22, 4, 22, 6, 113, 55, 8, 22, 6, 55, 4]
abbrev dktX0_common_0 : List UInt8 := dkwX0_common_0 ++ dktX0_common_1
theorem dksX0_common_0 : cX0_common.data.toList.drop 0 = dktX0_common_0 := by decide +kernel
theorem dksX0_common_1 : cX0_common.data.toList.drop 24 = dktX0_common_1 := dk_seg dksX0_common_0 24 rfl rfl
theorem dX0_common_0 : decode cX0_common 0 = .ok (.lload_n 0, 1) := dk_30 (dk_at dksX0_common_0 0 rfl rfl)
theorem dX0_common_1 : decode cX0_common 1 = .ok (.lstore 4, 2) := dk_55 4 (dk_at dksX0_common_0 1 rfl rfl)
theorem dX0_common_3 : decode cX0_common 3 = .ok (.lload_n 2, 1) := dk_32 (dk_at dksX0_common_0 3 rfl rfl)
theorem dX0_common_4 : decode cX0_common 4 = .ok (.lstore 6, 2) := dk_55 6 (dk_at dksX0_common_0 4 rfl rfl)
theorem dX0_common_6 : decode cX0_common 6 = .ok (.lload 6, 2) := dk_22 6 (dk_at dksX0_common_0 6 rfl rfl)
theorem dX0_common_8 : decode cX0_common 8 = .ok (.lconst 0, 1) := dk_9 (dk_at dksX0_common_0 8 rfl rfl)
theorem dX0_common_9 : decode cX0_common 9 = .ok (.lcmp, 1) := dk_148 (dk_at dksX0_common_0 9 rfl rfl)
theorem dX0_common_10 : decode cX0_common 10 = .ok (.ifCond .eq 21, 3) := dk_153 0 21 (dk_at dksX0_common_0 10 rfl rfl)
theorem dX0_common_13 : decode cX0_common 13 = .ok (.lload 4, 2) := dk_22 4 (dk_at dksX0_common_0 13 rfl rfl)
theorem dX0_common_15 : decode cX0_common 15 = .ok (.lload 6, 2) := dk_22 6 (dk_at dksX0_common_0 15 rfl rfl)
theorem dX0_common_17 : decode cX0_common 17 = .ok (.lrem, 1) := dk_113 (dk_at dksX0_common_0 17 rfl rfl)
theorem dX0_common_18 : decode cX0_common 18 = .ok (.lstore 8, 2) := dk_55 8 (dk_at dksX0_common_0 18 rfl rfl)
theorem dX0_common_20 : decode cX0_common 20 = .ok (.lload 6, 2) := dk_22 6 (dk_at dksX0_common_0 20 rfl rfl)
theorem dX0_common_22 : decode cX0_common 22 = .ok (.lstore 4, 2) := dk_55 4 (dk_at dksX0_common_0 22 rfl rfl)
theorem dX0_common_24 : decode cX0_common 24 = .ok (.lload 8, 2) := dk_22 8 (dk_at dksX0_common_1 0 rfl rfl)
theorem dX0_common_26 : decode cX0_common 26 = .ok (.lstore 6, 2) := dk_55 6 (dk_at dksX0_common_1 2 rfl rfl)
theorem dX0_common_28 : decode cX0_common 28 = .ok (.goto (-22), 3) := dk_167 255 234 (dk_at dksX0_common_1 4 rfl rfl)
theorem dX0_common_31 : decode cX0_common 31 = .ok (.lload 4, 2) := dk_22 4 (dk_at dksX0_common_1 7 rfl rfl)
theorem dX0_common_33 : decode cX0_common 33 = .ok (.lreturn, 1) := dk_173 (dk_at dksX0_common_1 9 rfl rfl)
abbrev cX0_has : ByteArray := prog_1_method_60_code
def yX0_has : MethodName := ⟨RX0, "has", "(II)J"⟩
def dkwX0_has_2 : List UInt8 := [42, 180, 0, 65, 182, 1, 87, 28, 154, 0, 7, 4, 167, 0, 4, 3, 184, 1, 79, 173]
abbrev dktX0_has_2 : List UInt8 := dkwX0_has_2 ++ []
def dkwX0_has_1 : List UInt8 := [20, 0, 233, 173, 42, 182, 1, 52, 42, 27, 42, 180, 0, 65, 42, 180, 0, 16, 180, 0, 142, 182, 1, 83]
abbrev dktX0_has_1 : List UInt8 := dkwX0_has_1 ++ dktX0_has_2
def dkwX0_has_0 : List UInt8 := [27, 2, 159, 0, 11, 42, 27, 182, 0, 169, 153, 0, 12, 28, 3, 4, 184, 0, 97, 154, 0, 7]
abbrev dktX0_has_0 : List UInt8 := dkwX0_has_0 ++ dktX0_has_1
theorem dksX0_has_0 : cX0_has.data.toList.drop 0 = dktX0_has_0 := by decide +kernel
theorem dksX0_has_1 : cX0_has.data.toList.drop 22 = dktX0_has_1 := dk_seg dksX0_has_0 22 rfl rfl
theorem dksX0_has_2 : cX0_has.data.toList.drop 46 = dktX0_has_2 := dk_seg dksX0_has_1 24 rfl rfl
theorem dX0_has_0 : decode cX0_has 0 = .ok (.iload_n 1, 1) := dk_27 (dk_at dksX0_has_0 0 rfl rfl)
theorem dX0_has_1 : decode cX0_has 1 = .ok (.iconst (-1), 1) := dk_2 (dk_at dksX0_has_0 1 rfl rfl)
theorem dX0_has_2 : decode cX0_has 2 = .ok (.if_icmp .eq 11, 3) := dk_159 0 11 (dk_at dksX0_has_0 2 rfl rfl)
theorem dX0_has_5 : decode cX0_has 5 = .ok (.aload_n 0, 1) := dk_42 (dk_at dksX0_has_0 5 rfl rfl)
theorem dX0_has_6 : decode cX0_has 6 = .ok (.iload_n 1, 1) := dk_27 (dk_at dksX0_has_0 6 rfl rfl)
theorem dX0_has_7 : decode cX0_has 7 = .ok (.invokevirtual 169, 3) := dk_182 0 169 (dk_at dksX0_has_0 7 rfl rfl)
theorem dX0_has_10 : decode cX0_has 10 = .ok (.ifCond .eq 12, 3) := dk_153 0 12 (dk_at dksX0_has_0 10 rfl rfl)
theorem dX0_has_13 : decode cX0_has 13 = .ok (.iload_n 2, 1) := dk_28 (dk_at dksX0_has_0 13 rfl rfl)
theorem dX0_has_14 : decode cX0_has 14 = .ok (.iconst 0, 1) := dk_3 (dk_at dksX0_has_0 14 rfl rfl)
theorem dX0_has_15 : decode cX0_has 15 = .ok (.iconst 1, 1) := dk_4 (dk_at dksX0_has_0 15 rfl rfl)
theorem dX0_has_16 : decode cX0_has 16 = .ok (.invokestatic 97, 3) := dk_184 0 97 (dk_at dksX0_has_0 16 rfl rfl)
theorem dX0_has_19 : decode cX0_has 19 = .ok (.ifCond .ne 7, 3) := dk_154 0 7 (dk_at dksX0_has_0 19 rfl rfl)
theorem dX0_has_22 : decode cX0_has 22 = .ok (.ldc2_w 233, 3) := dk_20 0 233 (dk_at dksX0_has_1 0 rfl rfl)
theorem dX0_has_25 : decode cX0_has 25 = .ok (.lreturn, 1) := dk_173 (dk_at dksX0_has_1 3 rfl rfl)
theorem dX0_has_26 : decode cX0_has 26 = .ok (.aload_n 0, 1) := dk_42 (dk_at dksX0_has_1 4 rfl rfl)
theorem dX0_has_27 : decode cX0_has 27 = .ok (.invokevirtual 308, 3) := dk_182 1 52 (dk_at dksX0_has_1 5 rfl rfl)
theorem dX0_has_30 : decode cX0_has 30 = .ok (.aload_n 0, 1) := dk_42 (dk_at dksX0_has_1 8 rfl rfl)
theorem dX0_has_31 : decode cX0_has 31 = .ok (.iload_n 1, 1) := dk_27 (dk_at dksX0_has_1 9 rfl rfl)
theorem dX0_has_32 : decode cX0_has 32 = .ok (.aload_n 0, 1) := dk_42 (dk_at dksX0_has_1 10 rfl rfl)
theorem dX0_has_33 : decode cX0_has 33 = .ok (.getfield 65, 3) := dk_180 0 65 (dk_at dksX0_has_1 11 rfl rfl)
theorem dX0_has_36 : decode cX0_has 36 = .ok (.aload_n 0, 1) := dk_42 (dk_at dksX0_has_1 14 rfl rfl)
theorem dX0_has_37 : decode cX0_has 37 = .ok (.getfield 16, 3) := dk_180 0 16 (dk_at dksX0_has_1 15 rfl rfl)
theorem dX0_has_40 : decode cX0_has 40 = .ok (.getfield 142, 3) := dk_180 0 142 (dk_at dksX0_has_1 18 rfl rfl)
theorem dX0_has_43 : decode cX0_has 43 = .ok (.invokevirtual 339, 3) := dk_182 1 83 (dk_at dksX0_has_1 21 rfl rfl)
theorem dX0_has_46 : decode cX0_has 46 = .ok (.aload_n 0, 1) := dk_42 (dk_at dksX0_has_2 0 rfl rfl)
theorem dX0_has_47 : decode cX0_has 47 = .ok (.getfield 65, 3) := dk_180 0 65 (dk_at dksX0_has_2 1 rfl rfl)
theorem dX0_has_50 : decode cX0_has 50 = .ok (.invokevirtual 343, 3) := dk_182 1 87 (dk_at dksX0_has_2 4 rfl rfl)
theorem dX0_has_53 : decode cX0_has 53 = .ok (.iload_n 2, 1) := dk_28 (dk_at dksX0_has_2 7 rfl rfl)
theorem dX0_has_54 : decode cX0_has 54 = .ok (.ifCond .ne 7, 3) := dk_154 0 7 (dk_at dksX0_has_2 8 rfl rfl)
theorem dX0_has_57 : decode cX0_has 57 = .ok (.iconst 1, 1) := dk_4 (dk_at dksX0_has_2 11 rfl rfl)
theorem dX0_has_58 : decode cX0_has 58 = .ok (.goto 4, 3) := dk_167 0 4 (dk_at dksX0_has_2 12 rfl rfl)
theorem dX0_has_61 : decode cX0_has 61 = .ok (.iconst 0, 1) := dk_3 (dk_at dksX0_has_2 15 rfl rfl)
theorem dX0_has_62 : decode cX0_has 62 = .ok (.invokestatic 335, 3) := dk_184 1 79 (dk_at dksX0_has_2 16 rfl rfl)
theorem dX0_has_65 : decode cX0_has 65 = .ok (.lreturn, 1) := dk_173 (dk_at dksX0_has_2 19 rfl rfl)
abbrev cX0_chance : ByteArray := prog_1_method_58_code
def yX0_chance : MethodName := ⟨RX0, "chance", "(ILRoseThrow$Flight;[I)J"⟩
def dkwX0_chance_2 : List UInt8 := [167, 255, 216, 22, 4, 173]
abbrev dktX0_chance_2 : List UInt8 := dkwX0_chance_2 ++ []
def dkwX0_chance_1 : List UInt8 := [133, 42, 27, 45, 44, 180, 1, 66, 21, 6, 46, 182, 1, 69, 133, 105, 97, 55, 4, 132, 6, 1]
abbrev dktX0_chance_1 : List UInt8 := dkwX0_chance_1 ++ dktX0_chance_2
def dkwX0_chance_0 : List UInt8 := [9, 55, 4, 3, 54, 6, 21, 6, 44, 180, 1, 62, 162, 0, 37, 22, 4, 44, 180, 1, 63, 21, 6, 46]
abbrev dktX0_chance_0 : List UInt8 := dkwX0_chance_0 ++ dktX0_chance_1
theorem dksX0_chance_0 : cX0_chance.data.toList.drop 0 = dktX0_chance_0 := by decide +kernel
theorem dksX0_chance_1 : cX0_chance.data.toList.drop 24 = dktX0_chance_1 := dk_seg dksX0_chance_0 24 rfl rfl
theorem dksX0_chance_2 : cX0_chance.data.toList.drop 46 = dktX0_chance_2 := dk_seg dksX0_chance_1 22 rfl rfl
theorem dX0_chance_0 : decode cX0_chance 0 = .ok (.lconst 0, 1) := dk_9 (dk_at dksX0_chance_0 0 rfl rfl)
theorem dX0_chance_1 : decode cX0_chance 1 = .ok (.lstore 4, 2) := dk_55 4 (dk_at dksX0_chance_0 1 rfl rfl)
theorem dX0_chance_3 : decode cX0_chance 3 = .ok (.iconst 0, 1) := dk_3 (dk_at dksX0_chance_0 3 rfl rfl)
theorem dX0_chance_4 : decode cX0_chance 4 = .ok (.istore 6, 2) := dk_54 6 (dk_at dksX0_chance_0 4 rfl rfl)
theorem dX0_chance_6 : decode cX0_chance 6 = .ok (.iload 6, 2) := dk_21 6 (dk_at dksX0_chance_0 6 rfl rfl)
theorem dX0_chance_8 : decode cX0_chance 8 = .ok (.aload_n 2, 1) := dk_44 (dk_at dksX0_chance_0 8 rfl rfl)
theorem dX0_chance_9 : decode cX0_chance 9 = .ok (.getfield 318, 3) := dk_180 1 62 (dk_at dksX0_chance_0 9 rfl rfl)
theorem dX0_chance_12 : decode cX0_chance 12 = .ok (.if_icmp .ge 37, 3) := dk_162 0 37 (dk_at dksX0_chance_0 12 rfl rfl)
theorem dX0_chance_15 : decode cX0_chance 15 = .ok (.lload 4, 2) := dk_22 4 (dk_at dksX0_chance_0 15 rfl rfl)
theorem dX0_chance_17 : decode cX0_chance 17 = .ok (.aload_n 2, 1) := dk_44 (dk_at dksX0_chance_0 17 rfl rfl)
theorem dX0_chance_18 : decode cX0_chance 18 = .ok (.getfield 319, 3) := dk_180 1 63 (dk_at dksX0_chance_0 18 rfl rfl)
theorem dX0_chance_21 : decode cX0_chance 21 = .ok (.iload 6, 2) := dk_21 6 (dk_at dksX0_chance_0 21 rfl rfl)
theorem dX0_chance_23 : decode cX0_chance 23 = .ok (.iaload, 1) := dk_46 (dk_at dksX0_chance_0 23 rfl rfl)
theorem dX0_chance_24 : decode cX0_chance 24 = .ok (.i2l, 1) := dk_133 (dk_at dksX0_chance_1 0 rfl rfl)
theorem dX0_chance_25 : decode cX0_chance 25 = .ok (.aload_n 0, 1) := dk_42 (dk_at dksX0_chance_1 1 rfl rfl)
theorem dX0_chance_26 : decode cX0_chance 26 = .ok (.iload_n 1, 1) := dk_27 (dk_at dksX0_chance_1 2 rfl rfl)
theorem dX0_chance_27 : decode cX0_chance 27 = .ok (.aload_n 3, 1) := dk_45 (dk_at dksX0_chance_1 3 rfl rfl)
theorem dX0_chance_28 : decode cX0_chance 28 = .ok (.aload_n 2, 1) := dk_44 (dk_at dksX0_chance_1 4 rfl rfl)
theorem dX0_chance_29 : decode cX0_chance 29 = .ok (.getfield 322, 3) := dk_180 1 66 (dk_at dksX0_chance_1 5 rfl rfl)
theorem dX0_chance_32 : decode cX0_chance 32 = .ok (.iload 6, 2) := dk_21 6 (dk_at dksX0_chance_1 8 rfl rfl)
theorem dX0_chance_34 : decode cX0_chance 34 = .ok (.iaload, 1) := dk_46 (dk_at dksX0_chance_1 10 rfl rfl)
theorem dX0_chance_35 : decode cX0_chance 35 = .ok (.invokevirtual 325, 3) := dk_182 1 69 (dk_at dksX0_chance_1 11 rfl rfl)
theorem dX0_chance_38 : decode cX0_chance 38 = .ok (.i2l, 1) := dk_133 (dk_at dksX0_chance_1 14 rfl rfl)
theorem dX0_chance_39 : decode cX0_chance 39 = .ok (.lmul, 1) := dk_105 (dk_at dksX0_chance_1 15 rfl rfl)
theorem dX0_chance_40 : decode cX0_chance 40 = .ok (.ladd, 1) := dk_97 (dk_at dksX0_chance_1 16 rfl rfl)
theorem dX0_chance_41 : decode cX0_chance 41 = .ok (.lstore 4, 2) := dk_55 4 (dk_at dksX0_chance_1 17 rfl rfl)
theorem dX0_chance_43 : decode cX0_chance 43 = .ok (.iinc 6 1, 3) := dk_132 6 1 (dk_at dksX0_chance_1 19 rfl rfl)
theorem dX0_chance_46 : decode cX0_chance 46 = .ok (.goto (-40), 3) := dk_167 255 216 (dk_at dksX0_chance_2 0 rfl rfl)
theorem dX0_chance_49 : decode cX0_chance 49 = .ok (.lload 4, 2) := dk_22 4 (dk_at dksX0_chance_2 3 rfl rfl)
theorem dX0_chance_51 : decode cX0_chance 51 = .ok (.lreturn, 1) := dk_173 (dk_at dksX0_chance_2 5 rfl rfl)
abbrev cX0_partOf : ByteArray := prog_1_method_57_code
def yX0_partOf : MethodName := ⟨RX0, "partOf", "(I[II)I"⟩
def dkwX0_partOf_8 : List UInt8 := [182, 1, 58, 21, 4, 160, 0, 11, 16, 60, 21, 5, 108, 167, 0, 4, 3, 172]
abbrev dktX0_partOf_8 : List UInt8 := dkwX0_partOf_8 ++ []
def dkwX0_partOf_7 : List UInt8 := [160, 0, 16, 27, 21, 6, 160, 0, 8, 16, 60, 167, 0, 4, 3, 172, 42, 27, 44, 27, 46, 29]
abbrev dktX0_partOf_7 : List UInt8 := dkwX0_partOf_7 ++ dktX0_partOf_8
def dkwX0_partOf_6 : List UInt8 := [153, 0, 8, 16, 60, 167, 0, 4, 3, 172, 21, 5, 4, 159, 0, 12, 42, 8, 182, 0, 235, 4]
abbrev dktX0_partOf_6 : List UInt8 := dkwX0_partOf_6 ++ dktX0_partOf_7
def dkwX0_partOf_5 : List UInt8 := [167, 0, 4, 3, 54, 7, 27, 2, 159, 0, 8, 21, 7, 153, 0, 20, 27, 2, 160, 0, 13, 21, 7]
abbrev dktX0_partOf_5 : List UInt8 := dkwX0_partOf_5 ++ dktX0_partOf_6
def dkwX0_partOf_4 : List UInt8 := [167, 255, 194, 21, 5, 153, 0, 18, 21, 5, 4, 164, 0, 16, 42, 8, 182, 0, 235, 4, 164, 0, 7, 4]
abbrev dktX0_partOf_4 : List UInt8 := dkwX0_partOf_4 ++ dktX0_partOf_5
def dkwX0_partOf_3 : List UInt8 := [21, 4, 164, 0, 10, 3, 54, 5, 21, 7, 54, 6, 21, 8, 54, 4, 132, 5, 1, 132, 7, 1]
abbrev dktX0_partOf_3 : List UInt8 := dkwX0_partOf_3 ++ dktX0_partOf_4
def dkwX0_partOf_2 : List UInt8 := [182, 1, 58, 54, 8, 21, 8, 2, 159, 0, 34, 21, 8, 21, 4, 162, 0, 6, 167, 0, 24, 21, 8]
abbrev dktX0_partOf_2 : List UInt8 := dkwX0_partOf_2 ++ dktX0_partOf_3
def dkwX0_partOf_1 : List UInt8 := [54, 6, 3, 54, 7, 21, 7, 42, 180, 1, 49, 162, 0, 59, 42, 21, 7, 44, 21, 7, 46, 29]
abbrev dktX0_partOf_1 : List UInt8 := dkwX0_partOf_1 ++ dktX0_partOf_2
def dkwX0_partOf_0 : List UInt8 := [29, 2, 160, 0, 15, 27, 2, 160, 0, 8, 16, 60, 167, 0, 4, 3, 172, 2, 54, 4, 3, 54, 5, 2]
abbrev dktX0_partOf_0 : List UInt8 := dkwX0_partOf_0 ++ dktX0_partOf_1
theorem dksX0_partOf_0 : cX0_partOf.data.toList.drop 0 = dktX0_partOf_0 := by decide +kernel
theorem dksX0_partOf_1 : cX0_partOf.data.toList.drop 24 = dktX0_partOf_1 := dk_seg dksX0_partOf_0 24 rfl rfl
theorem dksX0_partOf_2 : cX0_partOf.data.toList.drop 46 = dktX0_partOf_2 := dk_seg dksX0_partOf_1 22 rfl rfl
theorem dksX0_partOf_3 : cX0_partOf.data.toList.drop 69 = dktX0_partOf_3 := dk_seg dksX0_partOf_2 23 rfl rfl
theorem dksX0_partOf_4 : cX0_partOf.data.toList.drop 91 = dktX0_partOf_4 := dk_seg dksX0_partOf_3 22 rfl rfl
theorem dksX0_partOf_5 : cX0_partOf.data.toList.drop 115 = dktX0_partOf_5 := dk_seg dksX0_partOf_4 24 rfl rfl
theorem dksX0_partOf_6 : cX0_partOf.data.toList.drop 138 = dktX0_partOf_6 := dk_seg dksX0_partOf_5 23 rfl rfl
theorem dksX0_partOf_7 : cX0_partOf.data.toList.drop 160 = dktX0_partOf_7 := dk_seg dksX0_partOf_6 22 rfl rfl
theorem dksX0_partOf_8 : cX0_partOf.data.toList.drop 182 = dktX0_partOf_8 := dk_seg dksX0_partOf_7 22 rfl rfl
theorem dX0_partOf_0 : decode cX0_partOf 0 = .ok (.iload_n 3, 1) := dk_29 (dk_at dksX0_partOf_0 0 rfl rfl)
theorem dX0_partOf_1 : decode cX0_partOf 1 = .ok (.iconst (-1), 1) := dk_2 (dk_at dksX0_partOf_0 1 rfl rfl)
theorem dX0_partOf_2 : decode cX0_partOf 2 = .ok (.if_icmp .ne 15, 3) := dk_160 0 15 (dk_at dksX0_partOf_0 2 rfl rfl)
theorem dX0_partOf_5 : decode cX0_partOf 5 = .ok (.iload_n 1, 1) := dk_27 (dk_at dksX0_partOf_0 5 rfl rfl)
theorem dX0_partOf_6 : decode cX0_partOf 6 = .ok (.iconst (-1), 1) := dk_2 (dk_at dksX0_partOf_0 6 rfl rfl)
theorem dX0_partOf_7 : decode cX0_partOf 7 = .ok (.if_icmp .ne 8, 3) := dk_160 0 8 (dk_at dksX0_partOf_0 7 rfl rfl)
theorem dX0_partOf_10 : decode cX0_partOf 10 = .ok (.bipush 60, 2) := dk_16 60 (dk_at dksX0_partOf_0 10 rfl rfl)
theorem dX0_partOf_12 : decode cX0_partOf 12 = .ok (.goto 4, 3) := dk_167 0 4 (dk_at dksX0_partOf_0 12 rfl rfl)
theorem dX0_partOf_15 : decode cX0_partOf 15 = .ok (.iconst 0, 1) := dk_3 (dk_at dksX0_partOf_0 15 rfl rfl)
theorem dX0_partOf_16 : decode cX0_partOf 16 = .ok (.ireturn, 1) := dk_172 (dk_at dksX0_partOf_0 16 rfl rfl)
theorem dX0_partOf_17 : decode cX0_partOf 17 = .ok (.iconst (-1), 1) := dk_2 (dk_at dksX0_partOf_0 17 rfl rfl)
theorem dX0_partOf_18 : decode cX0_partOf 18 = .ok (.istore 4, 2) := dk_54 4 (dk_at dksX0_partOf_0 18 rfl rfl)
theorem dX0_partOf_20 : decode cX0_partOf 20 = .ok (.iconst 0, 1) := dk_3 (dk_at dksX0_partOf_0 20 rfl rfl)
theorem dX0_partOf_21 : decode cX0_partOf 21 = .ok (.istore 5, 2) := dk_54 5 (dk_at dksX0_partOf_0 21 rfl rfl)
theorem dX0_partOf_23 : decode cX0_partOf 23 = .ok (.iconst (-1), 1) := dk_2 (dk_at dksX0_partOf_0 23 rfl rfl)
theorem dX0_partOf_24 : decode cX0_partOf 24 = .ok (.istore 6, 2) := dk_54 6 (dk_at dksX0_partOf_1 0 rfl rfl)
theorem dX0_partOf_26 : decode cX0_partOf 26 = .ok (.iconst 0, 1) := dk_3 (dk_at dksX0_partOf_1 2 rfl rfl)
theorem dX0_partOf_27 : decode cX0_partOf 27 = .ok (.istore 7, 2) := dk_54 7 (dk_at dksX0_partOf_1 3 rfl rfl)
theorem dX0_partOf_29 : decode cX0_partOf 29 = .ok (.iload 7, 2) := dk_21 7 (dk_at dksX0_partOf_1 5 rfl rfl)
theorem dX0_partOf_31 : decode cX0_partOf 31 = .ok (.aload_n 0, 1) := dk_42 (dk_at dksX0_partOf_1 7 rfl rfl)
theorem dX0_partOf_32 : decode cX0_partOf 32 = .ok (.getfield 305, 3) := dk_180 1 49 (dk_at dksX0_partOf_1 8 rfl rfl)
theorem dX0_partOf_35 : decode cX0_partOf 35 = .ok (.if_icmp .ge 59, 3) := dk_162 0 59 (dk_at dksX0_partOf_1 11 rfl rfl)
theorem dX0_partOf_38 : decode cX0_partOf 38 = .ok (.aload_n 0, 1) := dk_42 (dk_at dksX0_partOf_1 14 rfl rfl)
theorem dX0_partOf_39 : decode cX0_partOf 39 = .ok (.iload 7, 2) := dk_21 7 (dk_at dksX0_partOf_1 15 rfl rfl)
theorem dX0_partOf_41 : decode cX0_partOf 41 = .ok (.aload_n 2, 1) := dk_44 (dk_at dksX0_partOf_1 17 rfl rfl)
theorem dX0_partOf_42 : decode cX0_partOf 42 = .ok (.iload 7, 2) := dk_21 7 (dk_at dksX0_partOf_1 18 rfl rfl)
theorem dX0_partOf_44 : decode cX0_partOf 44 = .ok (.iaload, 1) := dk_46 (dk_at dksX0_partOf_1 20 rfl rfl)
theorem dX0_partOf_45 : decode cX0_partOf 45 = .ok (.iload_n 3, 1) := dk_29 (dk_at dksX0_partOf_1 21 rfl rfl)
theorem dX0_partOf_46 : decode cX0_partOf 46 = .ok (.invokevirtual 314, 3) := dk_182 1 58 (dk_at dksX0_partOf_2 0 rfl rfl)
theorem dX0_partOf_49 : decode cX0_partOf 49 = .ok (.istore 8, 2) := dk_54 8 (dk_at dksX0_partOf_2 3 rfl rfl)
theorem dX0_partOf_51 : decode cX0_partOf 51 = .ok (.iload 8, 2) := dk_21 8 (dk_at dksX0_partOf_2 5 rfl rfl)
theorem dX0_partOf_53 : decode cX0_partOf 53 = .ok (.iconst (-1), 1) := dk_2 (dk_at dksX0_partOf_2 7 rfl rfl)
theorem dX0_partOf_54 : decode cX0_partOf 54 = .ok (.if_icmp .eq 34, 3) := dk_159 0 34 (dk_at dksX0_partOf_2 8 rfl rfl)
theorem dX0_partOf_57 : decode cX0_partOf 57 = .ok (.iload 8, 2) := dk_21 8 (dk_at dksX0_partOf_2 11 rfl rfl)
theorem dX0_partOf_59 : decode cX0_partOf 59 = .ok (.iload 4, 2) := dk_21 4 (dk_at dksX0_partOf_2 13 rfl rfl)
theorem dX0_partOf_61 : decode cX0_partOf 61 = .ok (.if_icmp .ge 6, 3) := dk_162 0 6 (dk_at dksX0_partOf_2 15 rfl rfl)
theorem dX0_partOf_64 : decode cX0_partOf 64 = .ok (.goto 24, 3) := dk_167 0 24 (dk_at dksX0_partOf_2 18 rfl rfl)
theorem dX0_partOf_67 : decode cX0_partOf 67 = .ok (.iload 8, 2) := dk_21 8 (dk_at dksX0_partOf_2 21 rfl rfl)
theorem dX0_partOf_69 : decode cX0_partOf 69 = .ok (.iload 4, 2) := dk_21 4 (dk_at dksX0_partOf_3 0 rfl rfl)
theorem dX0_partOf_71 : decode cX0_partOf 71 = .ok (.if_icmp .le 10, 3) := dk_164 0 10 (dk_at dksX0_partOf_3 2 rfl rfl)
theorem dX0_partOf_74 : decode cX0_partOf 74 = .ok (.iconst 0, 1) := dk_3 (dk_at dksX0_partOf_3 5 rfl rfl)
theorem dX0_partOf_75 : decode cX0_partOf 75 = .ok (.istore 5, 2) := dk_54 5 (dk_at dksX0_partOf_3 6 rfl rfl)
theorem dX0_partOf_77 : decode cX0_partOf 77 = .ok (.iload 7, 2) := dk_21 7 (dk_at dksX0_partOf_3 8 rfl rfl)
theorem dX0_partOf_79 : decode cX0_partOf 79 = .ok (.istore 6, 2) := dk_54 6 (dk_at dksX0_partOf_3 10 rfl rfl)
theorem dX0_partOf_81 : decode cX0_partOf 81 = .ok (.iload 8, 2) := dk_21 8 (dk_at dksX0_partOf_3 12 rfl rfl)
theorem dX0_partOf_83 : decode cX0_partOf 83 = .ok (.istore 4, 2) := dk_54 4 (dk_at dksX0_partOf_3 14 rfl rfl)
theorem dX0_partOf_85 : decode cX0_partOf 85 = .ok (.iinc 5 1, 3) := dk_132 5 1 (dk_at dksX0_partOf_3 16 rfl rfl)
theorem dX0_partOf_88 : decode cX0_partOf 88 = .ok (.iinc 7 1, 3) := dk_132 7 1 (dk_at dksX0_partOf_3 19 rfl rfl)
theorem dX0_partOf_91 : decode cX0_partOf 91 = .ok (.goto (-62), 3) := dk_167 255 194 (dk_at dksX0_partOf_4 0 rfl rfl)
theorem dX0_partOf_94 : decode cX0_partOf 94 = .ok (.iload 5, 2) := dk_21 5 (dk_at dksX0_partOf_4 3 rfl rfl)
theorem dX0_partOf_96 : decode cX0_partOf 96 = .ok (.ifCond .eq 18, 3) := dk_153 0 18 (dk_at dksX0_partOf_4 5 rfl rfl)
theorem dX0_partOf_99 : decode cX0_partOf 99 = .ok (.iload 5, 2) := dk_21 5 (dk_at dksX0_partOf_4 8 rfl rfl)
theorem dX0_partOf_101 : decode cX0_partOf 101 = .ok (.iconst 1, 1) := dk_4 (dk_at dksX0_partOf_4 10 rfl rfl)
theorem dX0_partOf_102 : decode cX0_partOf 102 = .ok (.if_icmp .le 16, 3) := dk_164 0 16 (dk_at dksX0_partOf_4 11 rfl rfl)
theorem dX0_partOf_105 : decode cX0_partOf 105 = .ok (.aload_n 0, 1) := dk_42 (dk_at dksX0_partOf_4 14 rfl rfl)
theorem dX0_partOf_106 : decode cX0_partOf 106 = .ok (.iconst 5, 1) := dk_8 (dk_at dksX0_partOf_4 15 rfl rfl)
theorem dX0_partOf_107 : decode cX0_partOf 107 = .ok (.invokevirtual 235, 3) := dk_182 0 235 (dk_at dksX0_partOf_4 16 rfl rfl)
theorem dX0_partOf_110 : decode cX0_partOf 110 = .ok (.iconst 1, 1) := dk_4 (dk_at dksX0_partOf_4 19 rfl rfl)
theorem dX0_partOf_111 : decode cX0_partOf 111 = .ok (.if_icmp .le 7, 3) := dk_164 0 7 (dk_at dksX0_partOf_4 20 rfl rfl)
theorem dX0_partOf_114 : decode cX0_partOf 114 = .ok (.iconst 1, 1) := dk_4 (dk_at dksX0_partOf_4 23 rfl rfl)
theorem dX0_partOf_115 : decode cX0_partOf 115 = .ok (.goto 4, 3) := dk_167 0 4 (dk_at dksX0_partOf_5 0 rfl rfl)
theorem dX0_partOf_118 : decode cX0_partOf 118 = .ok (.iconst 0, 1) := dk_3 (dk_at dksX0_partOf_5 3 rfl rfl)
theorem dX0_partOf_119 : decode cX0_partOf 119 = .ok (.istore 7, 2) := dk_54 7 (dk_at dksX0_partOf_5 4 rfl rfl)
theorem dX0_partOf_121 : decode cX0_partOf 121 = .ok (.iload_n 1, 1) := dk_27 (dk_at dksX0_partOf_5 6 rfl rfl)
theorem dX0_partOf_122 : decode cX0_partOf 122 = .ok (.iconst (-1), 1) := dk_2 (dk_at dksX0_partOf_5 7 rfl rfl)
theorem dX0_partOf_123 : decode cX0_partOf 123 = .ok (.if_icmp .eq 8, 3) := dk_159 0 8 (dk_at dksX0_partOf_5 8 rfl rfl)
theorem dX0_partOf_126 : decode cX0_partOf 126 = .ok (.iload 7, 2) := dk_21 7 (dk_at dksX0_partOf_5 11 rfl rfl)
theorem dX0_partOf_128 : decode cX0_partOf 128 = .ok (.ifCond .eq 20, 3) := dk_153 0 20 (dk_at dksX0_partOf_5 13 rfl rfl)
theorem dX0_partOf_131 : decode cX0_partOf 131 = .ok (.iload_n 1, 1) := dk_27 (dk_at dksX0_partOf_5 16 rfl rfl)
theorem dX0_partOf_132 : decode cX0_partOf 132 = .ok (.iconst (-1), 1) := dk_2 (dk_at dksX0_partOf_5 17 rfl rfl)
theorem dX0_partOf_133 : decode cX0_partOf 133 = .ok (.if_icmp .ne 13, 3) := dk_160 0 13 (dk_at dksX0_partOf_5 18 rfl rfl)
theorem dX0_partOf_136 : decode cX0_partOf 136 = .ok (.iload 7, 2) := dk_21 7 (dk_at dksX0_partOf_5 21 rfl rfl)
theorem dX0_partOf_138 : decode cX0_partOf 138 = .ok (.ifCond .eq 8, 3) := dk_153 0 8 (dk_at dksX0_partOf_6 0 rfl rfl)
theorem dX0_partOf_141 : decode cX0_partOf 141 = .ok (.bipush 60, 2) := dk_16 60 (dk_at dksX0_partOf_6 3 rfl rfl)
theorem dX0_partOf_143 : decode cX0_partOf 143 = .ok (.goto 4, 3) := dk_167 0 4 (dk_at dksX0_partOf_6 5 rfl rfl)
theorem dX0_partOf_146 : decode cX0_partOf 146 = .ok (.iconst 0, 1) := dk_3 (dk_at dksX0_partOf_6 8 rfl rfl)
theorem dX0_partOf_147 : decode cX0_partOf 147 = .ok (.ireturn, 1) := dk_172 (dk_at dksX0_partOf_6 9 rfl rfl)
theorem dX0_partOf_148 : decode cX0_partOf 148 = .ok (.iload 5, 2) := dk_21 5 (dk_at dksX0_partOf_6 10 rfl rfl)
theorem dX0_partOf_150 : decode cX0_partOf 150 = .ok (.iconst 1, 1) := dk_4 (dk_at dksX0_partOf_6 12 rfl rfl)
theorem dX0_partOf_151 : decode cX0_partOf 151 = .ok (.if_icmp .eq 12, 3) := dk_159 0 12 (dk_at dksX0_partOf_6 13 rfl rfl)
theorem dX0_partOf_154 : decode cX0_partOf 154 = .ok (.aload_n 0, 1) := dk_42 (dk_at dksX0_partOf_6 16 rfl rfl)
theorem dX0_partOf_155 : decode cX0_partOf 155 = .ok (.iconst 5, 1) := dk_8 (dk_at dksX0_partOf_6 17 rfl rfl)
theorem dX0_partOf_156 : decode cX0_partOf 156 = .ok (.invokevirtual 235, 3) := dk_182 0 235 (dk_at dksX0_partOf_6 18 rfl rfl)
theorem dX0_partOf_159 : decode cX0_partOf 159 = .ok (.iconst 1, 1) := dk_4 (dk_at dksX0_partOf_6 21 rfl rfl)
theorem dX0_partOf_160 : decode cX0_partOf 160 = .ok (.if_icmp .ne 16, 3) := dk_160 0 16 (dk_at dksX0_partOf_7 0 rfl rfl)
theorem dX0_partOf_163 : decode cX0_partOf 163 = .ok (.iload_n 1, 1) := dk_27 (dk_at dksX0_partOf_7 3 rfl rfl)
theorem dX0_partOf_164 : decode cX0_partOf 164 = .ok (.iload 6, 2) := dk_21 6 (dk_at dksX0_partOf_7 4 rfl rfl)
theorem dX0_partOf_166 : decode cX0_partOf 166 = .ok (.if_icmp .ne 8, 3) := dk_160 0 8 (dk_at dksX0_partOf_7 6 rfl rfl)
theorem dX0_partOf_169 : decode cX0_partOf 169 = .ok (.bipush 60, 2) := dk_16 60 (dk_at dksX0_partOf_7 9 rfl rfl)
theorem dX0_partOf_171 : decode cX0_partOf 171 = .ok (.goto 4, 3) := dk_167 0 4 (dk_at dksX0_partOf_7 11 rfl rfl)
theorem dX0_partOf_174 : decode cX0_partOf 174 = .ok (.iconst 0, 1) := dk_3 (dk_at dksX0_partOf_7 14 rfl rfl)
theorem dX0_partOf_175 : decode cX0_partOf 175 = .ok (.ireturn, 1) := dk_172 (dk_at dksX0_partOf_7 15 rfl rfl)
theorem dX0_partOf_176 : decode cX0_partOf 176 = .ok (.aload_n 0, 1) := dk_42 (dk_at dksX0_partOf_7 16 rfl rfl)
theorem dX0_partOf_177 : decode cX0_partOf 177 = .ok (.iload_n 1, 1) := dk_27 (dk_at dksX0_partOf_7 17 rfl rfl)
theorem dX0_partOf_178 : decode cX0_partOf 178 = .ok (.aload_n 2, 1) := dk_44 (dk_at dksX0_partOf_7 18 rfl rfl)
theorem dX0_partOf_179 : decode cX0_partOf 179 = .ok (.iload_n 1, 1) := dk_27 (dk_at dksX0_partOf_7 19 rfl rfl)
theorem dX0_partOf_180 : decode cX0_partOf 180 = .ok (.iaload, 1) := dk_46 (dk_at dksX0_partOf_7 20 rfl rfl)
theorem dX0_partOf_181 : decode cX0_partOf 181 = .ok (.iload_n 3, 1) := dk_29 (dk_at dksX0_partOf_7 21 rfl rfl)
theorem dX0_partOf_182 : decode cX0_partOf 182 = .ok (.invokevirtual 314, 3) := dk_182 1 58 (dk_at dksX0_partOf_8 0 rfl rfl)
theorem dX0_partOf_185 : decode cX0_partOf 185 = .ok (.iload 4, 2) := dk_21 4 (dk_at dksX0_partOf_8 3 rfl rfl)
theorem dX0_partOf_187 : decode cX0_partOf 187 = .ok (.if_icmp .ne 11, 3) := dk_160 0 11 (dk_at dksX0_partOf_8 5 rfl rfl)
theorem dX0_partOf_190 : decode cX0_partOf 190 = .ok (.bipush 60, 2) := dk_16 60 (dk_at dksX0_partOf_8 8 rfl rfl)
theorem dX0_partOf_192 : decode cX0_partOf 192 = .ok (.iload 5, 2) := dk_21 5 (dk_at dksX0_partOf_8 10 rfl rfl)
theorem dX0_partOf_194 : decode cX0_partOf 194 = .ok (.idiv, 1) := dk_108 (dk_at dksX0_partOf_8 12 rfl rfl)
theorem dX0_partOf_195 : decode cX0_partOf 195 = .ok (.goto 4, 3) := dk_167 0 4 (dk_at dksX0_partOf_8 13 rfl rfl)
theorem dX0_partOf_198 : decode cX0_partOf 198 = .ok (.iconst 0, 1) := dk_3 (dk_at dksX0_partOf_8 16 rfl rfl)
theorem dX0_partOf_199 : decode cX0_partOf 199 = .ok (.ireturn, 1) := dk_172 (dk_at dksX0_partOf_8 17 rfl rfl)
abbrev cX0_gripsOf : ByteArray := prog_1_method_56_code
def yX0_gripsOf : MethodName := ⟨RX0, "gripsOf", "(III)I"⟩
def dkwX0_gripsOf_2 : List UInt8 := [167, 0, 4, 2, 172]
abbrev dktX0_gripsOf_2 : List UInt8 := dkwX0_gripsOf_2 ++ []
def dkwX0_gripsOf_1 : List UInt8 := [180, 0, 16, 180, 0, 153, 27, 46, 163, 0, 18, 42, 180, 0, 73, 16, 11, 27, 104, 21, 4, 96, 46]
abbrev dktX0_gripsOf_1 : List UInt8 := dkwX0_gripsOf_1 ++ dktX0_gripsOf_2
def dkwX0_gripsOf_0 : List UInt8 := [28, 29, 184, 1, 55, 54, 4, 42, 180, 0, 16, 180, 0, 156, 27, 46, 158, 0, 32, 21, 4, 42]
abbrev dktX0_gripsOf_0 : List UInt8 := dkwX0_gripsOf_0 ++ dktX0_gripsOf_1
theorem dksX0_gripsOf_0 : cX0_gripsOf.data.toList.drop 0 = dktX0_gripsOf_0 := by decide +kernel
theorem dksX0_gripsOf_1 : cX0_gripsOf.data.toList.drop 22 = dktX0_gripsOf_1 := dk_seg dksX0_gripsOf_0 22 rfl rfl
theorem dksX0_gripsOf_2 : cX0_gripsOf.data.toList.drop 45 = dktX0_gripsOf_2 := dk_seg dksX0_gripsOf_1 23 rfl rfl
theorem dX0_gripsOf_0 : decode cX0_gripsOf 0 = .ok (.iload_n 2, 1) := dk_28 (dk_at dksX0_gripsOf_0 0 rfl rfl)
theorem dX0_gripsOf_1 : decode cX0_gripsOf 1 = .ok (.iload_n 3, 1) := dk_29 (dk_at dksX0_gripsOf_0 1 rfl rfl)
theorem dX0_gripsOf_2 : decode cX0_gripsOf 2 = .ok (.invokestatic 311, 3) := dk_184 1 55 (dk_at dksX0_gripsOf_0 2 rfl rfl)
theorem dX0_gripsOf_5 : decode cX0_gripsOf 5 = .ok (.istore 4, 2) := dk_54 4 (dk_at dksX0_gripsOf_0 5 rfl rfl)
theorem dX0_gripsOf_7 : decode cX0_gripsOf 7 = .ok (.aload_n 0, 1) := dk_42 (dk_at dksX0_gripsOf_0 7 rfl rfl)
theorem dX0_gripsOf_8 : decode cX0_gripsOf 8 = .ok (.getfield 16, 3) := dk_180 0 16 (dk_at dksX0_gripsOf_0 8 rfl rfl)
theorem dX0_gripsOf_11 : decode cX0_gripsOf 11 = .ok (.getfield 156, 3) := dk_180 0 156 (dk_at dksX0_gripsOf_0 11 rfl rfl)
theorem dX0_gripsOf_14 : decode cX0_gripsOf 14 = .ok (.iload_n 1, 1) := dk_27 (dk_at dksX0_gripsOf_0 14 rfl rfl)
theorem dX0_gripsOf_15 : decode cX0_gripsOf 15 = .ok (.iaload, 1) := dk_46 (dk_at dksX0_gripsOf_0 15 rfl rfl)
theorem dX0_gripsOf_16 : decode cX0_gripsOf 16 = .ok (.ifCond .le 32, 3) := dk_158 0 32 (dk_at dksX0_gripsOf_0 16 rfl rfl)
theorem dX0_gripsOf_19 : decode cX0_gripsOf 19 = .ok (.iload 4, 2) := dk_21 4 (dk_at dksX0_gripsOf_0 19 rfl rfl)
theorem dX0_gripsOf_21 : decode cX0_gripsOf 21 = .ok (.aload_n 0, 1) := dk_42 (dk_at dksX0_gripsOf_0 21 rfl rfl)
theorem dX0_gripsOf_22 : decode cX0_gripsOf 22 = .ok (.getfield 16, 3) := dk_180 0 16 (dk_at dksX0_gripsOf_1 0 rfl rfl)
theorem dX0_gripsOf_25 : decode cX0_gripsOf 25 = .ok (.getfield 153, 3) := dk_180 0 153 (dk_at dksX0_gripsOf_1 3 rfl rfl)
theorem dX0_gripsOf_28 : decode cX0_gripsOf 28 = .ok (.iload_n 1, 1) := dk_27 (dk_at dksX0_gripsOf_1 6 rfl rfl)
theorem dX0_gripsOf_29 : decode cX0_gripsOf 29 = .ok (.iaload, 1) := dk_46 (dk_at dksX0_gripsOf_1 7 rfl rfl)
theorem dX0_gripsOf_30 : decode cX0_gripsOf 30 = .ok (.if_icmp .gt 18, 3) := dk_163 0 18 (dk_at dksX0_gripsOf_1 8 rfl rfl)
theorem dX0_gripsOf_33 : decode cX0_gripsOf 33 = .ok (.aload_n 0, 1) := dk_42 (dk_at dksX0_gripsOf_1 11 rfl rfl)
theorem dX0_gripsOf_34 : decode cX0_gripsOf 34 = .ok (.getfield 73, 3) := dk_180 0 73 (dk_at dksX0_gripsOf_1 12 rfl rfl)
theorem dX0_gripsOf_37 : decode cX0_gripsOf 37 = .ok (.bipush 11, 2) := dk_16 11 (dk_at dksX0_gripsOf_1 15 rfl rfl)
theorem dX0_gripsOf_39 : decode cX0_gripsOf 39 = .ok (.iload_n 1, 1) := dk_27 (dk_at dksX0_gripsOf_1 17 rfl rfl)
theorem dX0_gripsOf_40 : decode cX0_gripsOf 40 = .ok (.imul, 1) := dk_104 (dk_at dksX0_gripsOf_1 18 rfl rfl)
theorem dX0_gripsOf_41 : decode cX0_gripsOf 41 = .ok (.iload 4, 2) := dk_21 4 (dk_at dksX0_gripsOf_1 19 rfl rfl)
theorem dX0_gripsOf_43 : decode cX0_gripsOf 43 = .ok (.iadd, 1) := dk_96 (dk_at dksX0_gripsOf_1 21 rfl rfl)
theorem dX0_gripsOf_44 : decode cX0_gripsOf 44 = .ok (.iaload, 1) := dk_46 (dk_at dksX0_gripsOf_1 22 rfl rfl)
theorem dX0_gripsOf_45 : decode cX0_gripsOf 45 = .ok (.goto 4, 3) := dk_167 0 4 (dk_at dksX0_gripsOf_2 0 rfl rfl)
theorem dX0_gripsOf_48 : decode cX0_gripsOf 48 = .ok (.iconst (-1), 1) := dk_2 (dk_at dksX0_gripsOf_2 3 rfl rfl)
theorem dX0_gripsOf_49 : decode cX0_gripsOf 49 = .ok (.ireturn, 1) := dk_172 (dk_at dksX0_gripsOf_2 4 rfl rfl)
abbrev cX0_far : ByteArray := prog_1_method_9_code
def yX0_far : MethodName := ⟨RX0, "far", "(II)I"⟩
def dkwX0_far_1 : List UInt8 := [96, 172]
abbrev dktX0_far_1 : List UInt8 := dkwX0_far_1 ++ []
def dkwX0_far_0 : List UInt8 := [26, 16, 6, 112, 27, 16, 6, 112, 100, 184, 0, 101, 26, 16, 6, 108, 27, 16, 6, 108, 100, 184, 0, 101]
abbrev dktX0_far_0 : List UInt8 := dkwX0_far_0 ++ dktX0_far_1
theorem dksX0_far_0 : cX0_far.data.toList.drop 0 = dktX0_far_0 := by decide +kernel
theorem dksX0_far_1 : cX0_far.data.toList.drop 24 = dktX0_far_1 := dk_seg dksX0_far_0 24 rfl rfl
theorem dX0_far_0 : decode cX0_far 0 = .ok (.iload_n 0, 1) := dk_26 (dk_at dksX0_far_0 0 rfl rfl)
theorem dX0_far_1 : decode cX0_far 1 = .ok (.bipush 6, 2) := dk_16 6 (dk_at dksX0_far_0 1 rfl rfl)
theorem dX0_far_3 : decode cX0_far 3 = .ok (.irem, 1) := dk_112 (dk_at dksX0_far_0 3 rfl rfl)
theorem dX0_far_4 : decode cX0_far 4 = .ok (.iload_n 1, 1) := dk_27 (dk_at dksX0_far_0 4 rfl rfl)
theorem dX0_far_5 : decode cX0_far 5 = .ok (.bipush 6, 2) := dk_16 6 (dk_at dksX0_far_0 5 rfl rfl)
theorem dX0_far_7 : decode cX0_far 7 = .ok (.irem, 1) := dk_112 (dk_at dksX0_far_0 7 rfl rfl)
theorem dX0_far_8 : decode cX0_far 8 = .ok (.isub, 1) := dk_100 (dk_at dksX0_far_0 8 rfl rfl)
theorem dX0_far_9 : decode cX0_far 9 = .ok (.invokestatic 101, 3) := dk_184 0 101 (dk_at dksX0_far_0 9 rfl rfl)
theorem dX0_far_12 : decode cX0_far 12 = .ok (.iload_n 0, 1) := dk_26 (dk_at dksX0_far_0 12 rfl rfl)
theorem dX0_far_13 : decode cX0_far 13 = .ok (.bipush 6, 2) := dk_16 6 (dk_at dksX0_far_0 13 rfl rfl)
theorem dX0_far_15 : decode cX0_far 15 = .ok (.idiv, 1) := dk_108 (dk_at dksX0_far_0 15 rfl rfl)
theorem dX0_far_16 : decode cX0_far 16 = .ok (.iload_n 1, 1) := dk_27 (dk_at dksX0_far_0 16 rfl rfl)
theorem dX0_far_17 : decode cX0_far 17 = .ok (.bipush 6, 2) := dk_16 6 (dk_at dksX0_far_0 17 rfl rfl)
theorem dX0_far_19 : decode cX0_far 19 = .ok (.idiv, 1) := dk_108 (dk_at dksX0_far_0 19 rfl rfl)
theorem dX0_far_20 : decode cX0_far 20 = .ok (.isub, 1) := dk_100 (dk_at dksX0_far_0 20 rfl rfl)
theorem dX0_far_21 : decode cX0_far 21 = .ok (.invokestatic 101, 3) := dk_184 0 101 (dk_at dksX0_far_0 21 rfl rfl)
theorem dX0_far_24 : decode cX0_far 24 = .ok (.iadd, 1) := dk_96 (dk_at dksX0_far_1 0 rfl rfl)
theorem dX0_far_25 : decode cX0_far 25 = .ok (.ireturn, 1) := dk_172 (dk_at dksX0_far_1 1 rfl rfl)
abbrev cX0_stand : ByteArray := prog_1_method_63_code
def yX0_stand : MethodName := ⟨RX0, "stand", "(II)J"⟩
def dkwX0_stand_3 : List UInt8 := [180, 0, 65, 182, 1, 87, 28, 4, 160, 0, 7, 4, 167, 0, 4, 3, 184, 1, 79, 173]
abbrev dktX0_stand_3 : List UInt8 := dkwX0_stand_3 ++ []
def dkwX0_stand_2 : List UInt8 := [173, 42, 180, 0, 76, 27, 29, 79, 42, 27, 42, 180, 0, 65, 42, 180, 0, 76, 182, 1, 83, 42]
abbrev dktX0_stand_2 : List UInt8 := dkwX0_stand_2 ++ dktX0_stand_3
def dkwX0_stand_1 : List UInt8 := [182, 1, 52, 42, 182, 1, 91, 42, 27, 182, 1, 94, 62, 29, 2, 159, 0, 7, 28, 154, 0, 6, 29, 133]
abbrev dktX0_stand_1 : List UInt8 := dkwX0_stand_1 ++ dktX0_stand_2
def dkwX0_stand_0 : List UInt8 := [42, 27, 182, 0, 169, 153, 0, 12, 28, 3, 5, 184, 0, 97, 154, 0, 7, 20, 0, 233, 173, 42]
abbrev dktX0_stand_0 : List UInt8 := dkwX0_stand_0 ++ dktX0_stand_1
theorem dksX0_stand_0 : cX0_stand.data.toList.drop 0 = dktX0_stand_0 := by decide +kernel
theorem dksX0_stand_1 : cX0_stand.data.toList.drop 22 = dktX0_stand_1 := dk_seg dksX0_stand_0 22 rfl rfl
theorem dksX0_stand_2 : cX0_stand.data.toList.drop 46 = dktX0_stand_2 := dk_seg dksX0_stand_1 24 rfl rfl
theorem dksX0_stand_3 : cX0_stand.data.toList.drop 68 = dktX0_stand_3 := dk_seg dksX0_stand_2 22 rfl rfl
theorem dX0_stand_0 : decode cX0_stand 0 = .ok (.aload_n 0, 1) := dk_42 (dk_at dksX0_stand_0 0 rfl rfl)
theorem dX0_stand_1 : decode cX0_stand 1 = .ok (.iload_n 1, 1) := dk_27 (dk_at dksX0_stand_0 1 rfl rfl)
theorem dX0_stand_2 : decode cX0_stand 2 = .ok (.invokevirtual 169, 3) := dk_182 0 169 (dk_at dksX0_stand_0 2 rfl rfl)
theorem dX0_stand_5 : decode cX0_stand 5 = .ok (.ifCond .eq 12, 3) := dk_153 0 12 (dk_at dksX0_stand_0 5 rfl rfl)
theorem dX0_stand_8 : decode cX0_stand 8 = .ok (.iload_n 2, 1) := dk_28 (dk_at dksX0_stand_0 8 rfl rfl)
theorem dX0_stand_9 : decode cX0_stand 9 = .ok (.iconst 0, 1) := dk_3 (dk_at dksX0_stand_0 9 rfl rfl)
theorem dX0_stand_10 : decode cX0_stand 10 = .ok (.iconst 2, 1) := dk_5 (dk_at dksX0_stand_0 10 rfl rfl)
theorem dX0_stand_11 : decode cX0_stand 11 = .ok (.invokestatic 97, 3) := dk_184 0 97 (dk_at dksX0_stand_0 11 rfl rfl)
theorem dX0_stand_14 : decode cX0_stand 14 = .ok (.ifCond .ne 7, 3) := dk_154 0 7 (dk_at dksX0_stand_0 14 rfl rfl)
theorem dX0_stand_17 : decode cX0_stand 17 = .ok (.ldc2_w 233, 3) := dk_20 0 233 (dk_at dksX0_stand_0 17 rfl rfl)
theorem dX0_stand_20 : decode cX0_stand 20 = .ok (.lreturn, 1) := dk_173 (dk_at dksX0_stand_0 20 rfl rfl)
theorem dX0_stand_21 : decode cX0_stand 21 = .ok (.aload_n 0, 1) := dk_42 (dk_at dksX0_stand_0 21 rfl rfl)
theorem dX0_stand_22 : decode cX0_stand 22 = .ok (.invokevirtual 308, 3) := dk_182 1 52 (dk_at dksX0_stand_1 0 rfl rfl)
theorem dX0_stand_25 : decode cX0_stand 25 = .ok (.aload_n 0, 1) := dk_42 (dk_at dksX0_stand_1 3 rfl rfl)
theorem dX0_stand_26 : decode cX0_stand 26 = .ok (.invokevirtual 347, 3) := dk_182 1 91 (dk_at dksX0_stand_1 4 rfl rfl)
theorem dX0_stand_29 : decode cX0_stand 29 = .ok (.aload_n 0, 1) := dk_42 (dk_at dksX0_stand_1 7 rfl rfl)
theorem dX0_stand_30 : decode cX0_stand 30 = .ok (.iload_n 1, 1) := dk_27 (dk_at dksX0_stand_1 8 rfl rfl)
theorem dX0_stand_31 : decode cX0_stand 31 = .ok (.invokevirtual 350, 3) := dk_182 1 94 (dk_at dksX0_stand_1 9 rfl rfl)
theorem dX0_stand_34 : decode cX0_stand 34 = .ok (.istore_n 3, 1) := dk_62 (dk_at dksX0_stand_1 12 rfl rfl)
theorem dX0_stand_35 : decode cX0_stand 35 = .ok (.iload_n 3, 1) := dk_29 (dk_at dksX0_stand_1 13 rfl rfl)
theorem dX0_stand_36 : decode cX0_stand 36 = .ok (.iconst (-1), 1) := dk_2 (dk_at dksX0_stand_1 14 rfl rfl)
theorem dX0_stand_37 : decode cX0_stand 37 = .ok (.if_icmp .eq 7, 3) := dk_159 0 7 (dk_at dksX0_stand_1 15 rfl rfl)
theorem dX0_stand_40 : decode cX0_stand 40 = .ok (.iload_n 2, 1) := dk_28 (dk_at dksX0_stand_1 18 rfl rfl)
theorem dX0_stand_41 : decode cX0_stand 41 = .ok (.ifCond .ne 6, 3) := dk_154 0 6 (dk_at dksX0_stand_1 19 rfl rfl)
theorem dX0_stand_44 : decode cX0_stand 44 = .ok (.iload_n 3, 1) := dk_29 (dk_at dksX0_stand_1 22 rfl rfl)
theorem dX0_stand_45 : decode cX0_stand 45 = .ok (.i2l, 1) := dk_133 (dk_at dksX0_stand_1 23 rfl rfl)
theorem dX0_stand_46 : decode cX0_stand 46 = .ok (.lreturn, 1) := dk_173 (dk_at dksX0_stand_2 0 rfl rfl)
theorem dX0_stand_47 : decode cX0_stand 47 = .ok (.aload_n 0, 1) := dk_42 (dk_at dksX0_stand_2 1 rfl rfl)
theorem dX0_stand_48 : decode cX0_stand 48 = .ok (.getfield 76, 3) := dk_180 0 76 (dk_at dksX0_stand_2 2 rfl rfl)
theorem dX0_stand_51 : decode cX0_stand 51 = .ok (.iload_n 1, 1) := dk_27 (dk_at dksX0_stand_2 5 rfl rfl)
theorem dX0_stand_52 : decode cX0_stand 52 = .ok (.iload_n 3, 1) := dk_29 (dk_at dksX0_stand_2 6 rfl rfl)
theorem dX0_stand_53 : decode cX0_stand 53 = .ok (.iastore, 1) := dk_79 (dk_at dksX0_stand_2 7 rfl rfl)
theorem dX0_stand_54 : decode cX0_stand 54 = .ok (.aload_n 0, 1) := dk_42 (dk_at dksX0_stand_2 8 rfl rfl)
theorem dX0_stand_55 : decode cX0_stand 55 = .ok (.iload_n 1, 1) := dk_27 (dk_at dksX0_stand_2 9 rfl rfl)
theorem dX0_stand_56 : decode cX0_stand 56 = .ok (.aload_n 0, 1) := dk_42 (dk_at dksX0_stand_2 10 rfl rfl)
theorem dX0_stand_57 : decode cX0_stand 57 = .ok (.getfield 65, 3) := dk_180 0 65 (dk_at dksX0_stand_2 11 rfl rfl)
theorem dX0_stand_60 : decode cX0_stand 60 = .ok (.aload_n 0, 1) := dk_42 (dk_at dksX0_stand_2 14 rfl rfl)
theorem dX0_stand_61 : decode cX0_stand 61 = .ok (.getfield 76, 3) := dk_180 0 76 (dk_at dksX0_stand_2 15 rfl rfl)
theorem dX0_stand_64 : decode cX0_stand 64 = .ok (.invokevirtual 339, 3) := dk_182 1 83 (dk_at dksX0_stand_2 18 rfl rfl)
theorem dX0_stand_67 : decode cX0_stand 67 = .ok (.aload_n 0, 1) := dk_42 (dk_at dksX0_stand_2 21 rfl rfl)
theorem dX0_stand_68 : decode cX0_stand 68 = .ok (.getfield 65, 3) := dk_180 0 65 (dk_at dksX0_stand_3 0 rfl rfl)
theorem dX0_stand_71 : decode cX0_stand 71 = .ok (.invokevirtual 343, 3) := dk_182 1 87 (dk_at dksX0_stand_3 3 rfl rfl)
theorem dX0_stand_74 : decode cX0_stand 74 = .ok (.iload_n 2, 1) := dk_28 (dk_at dksX0_stand_3 6 rfl rfl)
theorem dX0_stand_75 : decode cX0_stand 75 = .ok (.iconst 1, 1) := dk_4 (dk_at dksX0_stand_3 7 rfl rfl)
theorem dX0_stand_76 : decode cX0_stand 76 = .ok (.if_icmp .ne 7, 3) := dk_160 0 7 (dk_at dksX0_stand_3 8 rfl rfl)
theorem dX0_stand_79 : decode cX0_stand 79 = .ok (.iconst 1, 1) := dk_4 (dk_at dksX0_stand_3 11 rfl rfl)
theorem dX0_stand_80 : decode cX0_stand 80 = .ok (.goto 4, 3) := dk_167 0 4 (dk_at dksX0_stand_3 12 rfl rfl)
theorem dX0_stand_83 : decode cX0_stand 83 = .ok (.iconst 0, 1) := dk_3 (dk_at dksX0_stand_3 15 rfl rfl)
theorem dX0_stand_84 : decode cX0_stand 84 = .ok (.invokestatic 335, 3) := dk_184 1 79 (dk_at dksX0_stand_3 16 rfl rfl)
theorem dX0_stand_87 : decode cX0_stand 87 = .ok (.lreturn, 1) := dk_173 (dk_at dksX0_stand_3 19 rfl rfl)
abbrev cX0_copies : ByteArray := prog_1_method_61_code
def yX0_copies : MethodName := ⟨RX0, "copies", "()V"⟩
def dkwX0_copies_0 : List UInt8 := [42, 180, 0, 16, 180, 0, 142, 3, 42, 180, 0, 76, 3, 16, 6, 184, 1, 15, 177]
abbrev dktX0_copies_0 : List UInt8 := dkwX0_copies_0 ++ []
theorem dksX0_copies_0 : cX0_copies.data.toList.drop 0 = dktX0_copies_0 := by decide +kernel
theorem dX0_copies_0 : decode cX0_copies 0 = .ok (.aload_n 0, 1) := dk_42 (dk_at dksX0_copies_0 0 rfl rfl)
theorem dX0_copies_1 : decode cX0_copies 1 = .ok (.getfield 16, 3) := dk_180 0 16 (dk_at dksX0_copies_0 1 rfl rfl)
theorem dX0_copies_4 : decode cX0_copies 4 = .ok (.getfield 142, 3) := dk_180 0 142 (dk_at dksX0_copies_0 4 rfl rfl)
theorem dX0_copies_7 : decode cX0_copies 7 = .ok (.iconst 0, 1) := dk_3 (dk_at dksX0_copies_0 7 rfl rfl)
theorem dX0_copies_8 : decode cX0_copies 8 = .ok (.aload_n 0, 1) := dk_42 (dk_at dksX0_copies_0 8 rfl rfl)
theorem dX0_copies_9 : decode cX0_copies 9 = .ok (.getfield 76, 3) := dk_180 0 76 (dk_at dksX0_copies_0 9 rfl rfl)
theorem dX0_copies_12 : decode cX0_copies 12 = .ok (.iconst 0, 1) := dk_3 (dk_at dksX0_copies_0 12 rfl rfl)
theorem dX0_copies_13 : decode cX0_copies 13 = .ok (.bipush 6, 2) := dk_16 6 (dk_at dksX0_copies_0 13 rfl rfl)
theorem dX0_copies_15 : decode cX0_copies 15 = .ok (.invokestatic 271, 3) := dk_184 1 15 (dk_at dksX0_copies_0 15 rfl rfl)
theorem dX0_copies_18 : decode cX0_copies 18 = .ok (.return_, 1) := dk_177 (dk_at dksX0_copies_0 18 rfl rfl)
abbrev cX0_bestCell : ByteArray := prog_1_method_62_code
def yX0_bestCell : MethodName := ⟨RX0, "bestCell", "(I)I"⟩
def dkwX0_bestCell_4 : List UInt8 := [157, 0, 6, 167, 0, 10, 22, 8, 55, 4, 21, 6, 62, 132, 6, 1, 167, 255, 161, 29, 172]
abbrev dktX0_bestCell_4 : List UInt8 := dkwX0_bestCell_4 ++ []
def dkwX0_bestCell_3 : List UInt8 := [180, 0, 65, 42, 180, 0, 76, 182, 1, 83, 55, 8, 42, 180, 0, 76, 27, 28, 79, 22, 8, 22, 4, 148]
abbrev dktX0_bestCell_3 : List UInt8 := dkwX0_bestCell_3 ++ dktX0_bestCell_4
def dkwX0_bestCell_2 : List UInt8 := [42, 27, 21, 6, 182, 1, 13, 153, 0, 6, 167, 0, 51, 42, 180, 0, 76, 27, 21, 6, 79, 42, 27, 42]
abbrev dktX0_bestCell_2 : List UInt8 := dkwX0_bestCell_2 ++ dktX0_bestCell_3
def dkwX0_bestCell_1 : List UInt8 := [42, 42, 180, 0, 76, 21, 6, 182, 0, 145, 54, 7, 21, 7, 2, 159, 0, 9, 21, 7, 27, 160, 0, 64]
abbrev dktX0_bestCell_1 : List UInt8 := dkwX0_bestCell_1 ++ dktX0_bestCell_2
def dkwX0_bestCell_0 : List UInt8 := [42, 180, 0, 76, 27, 46, 61, 2, 62, 20, 0, 233, 55, 4, 3, 54, 6, 21, 6, 16, 36, 162, 0, 94]
abbrev dktX0_bestCell_0 : List UInt8 := dkwX0_bestCell_0 ++ dktX0_bestCell_1
theorem dksX0_bestCell_0 : cX0_bestCell.data.toList.drop 0 = dktX0_bestCell_0 := by decide +kernel
theorem dksX0_bestCell_1 : cX0_bestCell.data.toList.drop 24 = dktX0_bestCell_1 := dk_seg dksX0_bestCell_0 24 rfl rfl
theorem dksX0_bestCell_2 : cX0_bestCell.data.toList.drop 48 = dktX0_bestCell_2 := dk_seg dksX0_bestCell_1 24 rfl rfl
theorem dksX0_bestCell_3 : cX0_bestCell.data.toList.drop 72 = dktX0_bestCell_3 := dk_seg dksX0_bestCell_2 24 rfl rfl
theorem dksX0_bestCell_4 : cX0_bestCell.data.toList.drop 96 = dktX0_bestCell_4 := dk_seg dksX0_bestCell_3 24 rfl rfl
theorem dX0_bestCell_0 : decode cX0_bestCell 0 = .ok (.aload_n 0, 1) := dk_42 (dk_at dksX0_bestCell_0 0 rfl rfl)
theorem dX0_bestCell_1 : decode cX0_bestCell 1 = .ok (.getfield 76, 3) := dk_180 0 76 (dk_at dksX0_bestCell_0 1 rfl rfl)
theorem dX0_bestCell_4 : decode cX0_bestCell 4 = .ok (.iload_n 1, 1) := dk_27 (dk_at dksX0_bestCell_0 4 rfl rfl)
theorem dX0_bestCell_5 : decode cX0_bestCell 5 = .ok (.iaload, 1) := dk_46 (dk_at dksX0_bestCell_0 5 rfl rfl)
theorem dX0_bestCell_6 : decode cX0_bestCell 6 = .ok (.istore_n 2, 1) := dk_61 (dk_at dksX0_bestCell_0 6 rfl rfl)
theorem dX0_bestCell_7 : decode cX0_bestCell 7 = .ok (.iconst (-1), 1) := dk_2 (dk_at dksX0_bestCell_0 7 rfl rfl)
theorem dX0_bestCell_8 : decode cX0_bestCell 8 = .ok (.istore_n 3, 1) := dk_62 (dk_at dksX0_bestCell_0 8 rfl rfl)
theorem dX0_bestCell_9 : decode cX0_bestCell 9 = .ok (.ldc2_w 233, 3) := dk_20 0 233 (dk_at dksX0_bestCell_0 9 rfl rfl)
theorem dX0_bestCell_12 : decode cX0_bestCell 12 = .ok (.lstore 4, 2) := dk_55 4 (dk_at dksX0_bestCell_0 12 rfl rfl)
theorem dX0_bestCell_14 : decode cX0_bestCell 14 = .ok (.iconst 0, 1) := dk_3 (dk_at dksX0_bestCell_0 14 rfl rfl)
theorem dX0_bestCell_15 : decode cX0_bestCell 15 = .ok (.istore 6, 2) := dk_54 6 (dk_at dksX0_bestCell_0 15 rfl rfl)
theorem dX0_bestCell_17 : decode cX0_bestCell 17 = .ok (.iload 6, 2) := dk_21 6 (dk_at dksX0_bestCell_0 17 rfl rfl)
theorem dX0_bestCell_19 : decode cX0_bestCell 19 = .ok (.bipush 36, 2) := dk_16 36 (dk_at dksX0_bestCell_0 19 rfl rfl)
theorem dX0_bestCell_21 : decode cX0_bestCell 21 = .ok (.if_icmp .ge 94, 3) := dk_162 0 94 (dk_at dksX0_bestCell_0 21 rfl rfl)
theorem dX0_bestCell_24 : decode cX0_bestCell 24 = .ok (.aload_n 0, 1) := dk_42 (dk_at dksX0_bestCell_1 0 rfl rfl)
theorem dX0_bestCell_25 : decode cX0_bestCell 25 = .ok (.aload_n 0, 1) := dk_42 (dk_at dksX0_bestCell_1 1 rfl rfl)
theorem dX0_bestCell_26 : decode cX0_bestCell 26 = .ok (.getfield 76, 3) := dk_180 0 76 (dk_at dksX0_bestCell_1 2 rfl rfl)
theorem dX0_bestCell_29 : decode cX0_bestCell 29 = .ok (.iload 6, 2) := dk_21 6 (dk_at dksX0_bestCell_1 5 rfl rfl)
theorem dX0_bestCell_31 : decode cX0_bestCell 31 = .ok (.invokevirtual 145, 3) := dk_182 0 145 (dk_at dksX0_bestCell_1 7 rfl rfl)
theorem dX0_bestCell_34 : decode cX0_bestCell 34 = .ok (.istore 7, 2) := dk_54 7 (dk_at dksX0_bestCell_1 10 rfl rfl)
theorem dX0_bestCell_36 : decode cX0_bestCell 36 = .ok (.iload 7, 2) := dk_21 7 (dk_at dksX0_bestCell_1 12 rfl rfl)
theorem dX0_bestCell_38 : decode cX0_bestCell 38 = .ok (.iconst (-1), 1) := dk_2 (dk_at dksX0_bestCell_1 14 rfl rfl)
theorem dX0_bestCell_39 : decode cX0_bestCell 39 = .ok (.if_icmp .eq 9, 3) := dk_159 0 9 (dk_at dksX0_bestCell_1 15 rfl rfl)
theorem dX0_bestCell_42 : decode cX0_bestCell 42 = .ok (.iload 7, 2) := dk_21 7 (dk_at dksX0_bestCell_1 18 rfl rfl)
theorem dX0_bestCell_44 : decode cX0_bestCell 44 = .ok (.iload_n 1, 1) := dk_27 (dk_at dksX0_bestCell_1 20 rfl rfl)
theorem dX0_bestCell_45 : decode cX0_bestCell 45 = .ok (.if_icmp .ne 64, 3) := dk_160 0 64 (dk_at dksX0_bestCell_1 21 rfl rfl)
theorem dX0_bestCell_48 : decode cX0_bestCell 48 = .ok (.aload_n 0, 1) := dk_42 (dk_at dksX0_bestCell_2 0 rfl rfl)
theorem dX0_bestCell_49 : decode cX0_bestCell 49 = .ok (.iload_n 1, 1) := dk_27 (dk_at dksX0_bestCell_2 1 rfl rfl)
theorem dX0_bestCell_50 : decode cX0_bestCell 50 = .ok (.iload 6, 2) := dk_21 6 (dk_at dksX0_bestCell_2 2 rfl rfl)
theorem dX0_bestCell_52 : decode cX0_bestCell 52 = .ok (.invokevirtual 269, 3) := dk_182 1 13 (dk_at dksX0_bestCell_2 4 rfl rfl)
theorem dX0_bestCell_55 : decode cX0_bestCell 55 = .ok (.ifCond .eq 6, 3) := dk_153 0 6 (dk_at dksX0_bestCell_2 7 rfl rfl)
theorem dX0_bestCell_58 : decode cX0_bestCell 58 = .ok (.goto 51, 3) := dk_167 0 51 (dk_at dksX0_bestCell_2 10 rfl rfl)
theorem dX0_bestCell_61 : decode cX0_bestCell 61 = .ok (.aload_n 0, 1) := dk_42 (dk_at dksX0_bestCell_2 13 rfl rfl)
theorem dX0_bestCell_62 : decode cX0_bestCell 62 = .ok (.getfield 76, 3) := dk_180 0 76 (dk_at dksX0_bestCell_2 14 rfl rfl)
theorem dX0_bestCell_65 : decode cX0_bestCell 65 = .ok (.iload_n 1, 1) := dk_27 (dk_at dksX0_bestCell_2 17 rfl rfl)
theorem dX0_bestCell_66 : decode cX0_bestCell 66 = .ok (.iload 6, 2) := dk_21 6 (dk_at dksX0_bestCell_2 18 rfl rfl)
theorem dX0_bestCell_68 : decode cX0_bestCell 68 = .ok (.iastore, 1) := dk_79 (dk_at dksX0_bestCell_2 20 rfl rfl)
theorem dX0_bestCell_69 : decode cX0_bestCell 69 = .ok (.aload_n 0, 1) := dk_42 (dk_at dksX0_bestCell_2 21 rfl rfl)
theorem dX0_bestCell_70 : decode cX0_bestCell 70 = .ok (.iload_n 1, 1) := dk_27 (dk_at dksX0_bestCell_2 22 rfl rfl)
theorem dX0_bestCell_71 : decode cX0_bestCell 71 = .ok (.aload_n 0, 1) := dk_42 (dk_at dksX0_bestCell_2 23 rfl rfl)
theorem dX0_bestCell_72 : decode cX0_bestCell 72 = .ok (.getfield 65, 3) := dk_180 0 65 (dk_at dksX0_bestCell_3 0 rfl rfl)
theorem dX0_bestCell_75 : decode cX0_bestCell 75 = .ok (.aload_n 0, 1) := dk_42 (dk_at dksX0_bestCell_3 3 rfl rfl)
theorem dX0_bestCell_76 : decode cX0_bestCell 76 = .ok (.getfield 76, 3) := dk_180 0 76 (dk_at dksX0_bestCell_3 4 rfl rfl)
theorem dX0_bestCell_79 : decode cX0_bestCell 79 = .ok (.invokevirtual 339, 3) := dk_182 1 83 (dk_at dksX0_bestCell_3 7 rfl rfl)
theorem dX0_bestCell_82 : decode cX0_bestCell 82 = .ok (.lstore 8, 2) := dk_55 8 (dk_at dksX0_bestCell_3 10 rfl rfl)
theorem dX0_bestCell_84 : decode cX0_bestCell 84 = .ok (.aload_n 0, 1) := dk_42 (dk_at dksX0_bestCell_3 12 rfl rfl)
theorem dX0_bestCell_85 : decode cX0_bestCell 85 = .ok (.getfield 76, 3) := dk_180 0 76 (dk_at dksX0_bestCell_3 13 rfl rfl)
theorem dX0_bestCell_88 : decode cX0_bestCell 88 = .ok (.iload_n 1, 1) := dk_27 (dk_at dksX0_bestCell_3 16 rfl rfl)
theorem dX0_bestCell_89 : decode cX0_bestCell 89 = .ok (.iload_n 2, 1) := dk_28 (dk_at dksX0_bestCell_3 17 rfl rfl)
theorem dX0_bestCell_90 : decode cX0_bestCell 90 = .ok (.iastore, 1) := dk_79 (dk_at dksX0_bestCell_3 18 rfl rfl)
theorem dX0_bestCell_91 : decode cX0_bestCell 91 = .ok (.lload 8, 2) := dk_22 8 (dk_at dksX0_bestCell_3 19 rfl rfl)
theorem dX0_bestCell_93 : decode cX0_bestCell 93 = .ok (.lload 4, 2) := dk_22 4 (dk_at dksX0_bestCell_3 21 rfl rfl)
theorem dX0_bestCell_95 : decode cX0_bestCell 95 = .ok (.lcmp, 1) := dk_148 (dk_at dksX0_bestCell_3 23 rfl rfl)
theorem dX0_bestCell_96 : decode cX0_bestCell 96 = .ok (.ifCond .gt 6, 3) := dk_157 0 6 (dk_at dksX0_bestCell_4 0 rfl rfl)
theorem dX0_bestCell_99 : decode cX0_bestCell 99 = .ok (.goto 10, 3) := dk_167 0 10 (dk_at dksX0_bestCell_4 3 rfl rfl)
theorem dX0_bestCell_102 : decode cX0_bestCell 102 = .ok (.lload 8, 2) := dk_22 8 (dk_at dksX0_bestCell_4 6 rfl rfl)
theorem dX0_bestCell_104 : decode cX0_bestCell 104 = .ok (.lstore 4, 2) := dk_55 4 (dk_at dksX0_bestCell_4 8 rfl rfl)
theorem dX0_bestCell_106 : decode cX0_bestCell 106 = .ok (.iload 6, 2) := dk_21 6 (dk_at dksX0_bestCell_4 10 rfl rfl)
theorem dX0_bestCell_108 : decode cX0_bestCell 108 = .ok (.istore_n 3, 1) := dk_62 (dk_at dksX0_bestCell_4 12 rfl rfl)
theorem dX0_bestCell_109 : decode cX0_bestCell 109 = .ok (.iinc 6 1, 3) := dk_132 6 1 (dk_at dksX0_bestCell_4 13 rfl rfl)
theorem dX0_bestCell_112 : decode cX0_bestCell 112 = .ok (.goto (-95), 3) := dk_167 255 161 (dk_at dksX0_bestCell_4 16 rfl rfl)
theorem dX0_bestCell_115 : decode cX0_bestCell 115 = .ok (.iload_n 3, 1) := dk_29 (dk_at dksX0_bestCell_4 19 rfl rfl)
theorem dX0_bestCell_116 : decode cX0_bestCell 116 = .ok (.ireturn, 1) := dk_172 (dk_at dksX0_bestCell_4 20 rfl rfl)
abbrev cX0_rests : ByteArray := prog_1_method_65_code
def yX0_rests : MethodName := ⟨RX0, "rests", "(I)I"⟩
def dkwX0_rests_4 : List UInt8 := [167, 0, 9, 42, 180, 0, 76, 27, 46, 172, 132, 2, 1, 167, 255, 174, 2, 172]
abbrev dktX0_rests_4 : List UInt8 := dkwX0_rests_4 ++ []
def dkwX0_rests_3 : List UInt8 := [167, 0, 4, 3, 128, 62, 132, 4, 1, 167, 255, 211, 29, 154, 0, 19, 27, 2, 160, 0, 7, 28]
abbrev dktX0_rests_3 : List UInt8 := dkwX0_rests_3 ++ dktX0_rests_4
def dkwX0_rests_2 : List UInt8 := [29, 42, 180, 0, 16, 180, 0, 156, 21, 4, 46, 158, 0, 16, 42, 21, 4, 182, 1, 97, 153, 0, 7, 4]
abbrev dktX0_rests_2 : List UInt8 := dkwX0_rests_2 ++ dktX0_rests_3
def dkwX0_rests_1 : List UInt8 := [61, 28, 16, 50, 163, 0, 82, 3, 62, 3, 54, 4, 21, 4, 42, 180, 0, 16, 180, 0, 118, 162, 0, 39]
abbrev dktX0_rests_1 : List UInt8 := dkwX0_rests_1 ++ dktX0_rests_2
def dkwX0_rests_0 : List UInt8 := [27, 2, 159, 0, 13, 42, 27, 182, 0, 169, 154, 0, 5, 2, 172, 42, 182, 1, 52, 42, 182, 1, 91, 4]
abbrev dktX0_rests_0 : List UInt8 := dkwX0_rests_0 ++ dktX0_rests_1
theorem dksX0_rests_0 : cX0_rests.data.toList.drop 0 = dktX0_rests_0 := by decide +kernel
theorem dksX0_rests_1 : cX0_rests.data.toList.drop 24 = dktX0_rests_1 := dk_seg dksX0_rests_0 24 rfl rfl
theorem dksX0_rests_2 : cX0_rests.data.toList.drop 48 = dktX0_rests_2 := dk_seg dksX0_rests_1 24 rfl rfl
theorem dksX0_rests_3 : cX0_rests.data.toList.drop 72 = dktX0_rests_3 := dk_seg dksX0_rests_2 24 rfl rfl
theorem dksX0_rests_4 : cX0_rests.data.toList.drop 94 = dktX0_rests_4 := dk_seg dksX0_rests_3 22 rfl rfl
theorem dX0_rests_0 : decode cX0_rests 0 = .ok (.iload_n 1, 1) := dk_27 (dk_at dksX0_rests_0 0 rfl rfl)
theorem dX0_rests_1 : decode cX0_rests 1 = .ok (.iconst (-1), 1) := dk_2 (dk_at dksX0_rests_0 1 rfl rfl)
theorem dX0_rests_2 : decode cX0_rests 2 = .ok (.if_icmp .eq 13, 3) := dk_159 0 13 (dk_at dksX0_rests_0 2 rfl rfl)
theorem dX0_rests_5 : decode cX0_rests 5 = .ok (.aload_n 0, 1) := dk_42 (dk_at dksX0_rests_0 5 rfl rfl)
theorem dX0_rests_6 : decode cX0_rests 6 = .ok (.iload_n 1, 1) := dk_27 (dk_at dksX0_rests_0 6 rfl rfl)
theorem dX0_rests_7 : decode cX0_rests 7 = .ok (.invokevirtual 169, 3) := dk_182 0 169 (dk_at dksX0_rests_0 7 rfl rfl)
theorem dX0_rests_10 : decode cX0_rests 10 = .ok (.ifCond .ne 5, 3) := dk_154 0 5 (dk_at dksX0_rests_0 10 rfl rfl)
theorem dX0_rests_13 : decode cX0_rests 13 = .ok (.iconst (-1), 1) := dk_2 (dk_at dksX0_rests_0 13 rfl rfl)
theorem dX0_rests_14 : decode cX0_rests 14 = .ok (.ireturn, 1) := dk_172 (dk_at dksX0_rests_0 14 rfl rfl)
theorem dX0_rests_15 : decode cX0_rests 15 = .ok (.aload_n 0, 1) := dk_42 (dk_at dksX0_rests_0 15 rfl rfl)
theorem dX0_rests_16 : decode cX0_rests 16 = .ok (.invokevirtual 308, 3) := dk_182 1 52 (dk_at dksX0_rests_0 16 rfl rfl)
theorem dX0_rests_19 : decode cX0_rests 19 = .ok (.aload_n 0, 1) := dk_42 (dk_at dksX0_rests_0 19 rfl rfl)
theorem dX0_rests_20 : decode cX0_rests 20 = .ok (.invokevirtual 347, 3) := dk_182 1 91 (dk_at dksX0_rests_0 20 rfl rfl)
theorem dX0_rests_23 : decode cX0_rests 23 = .ok (.iconst 1, 1) := dk_4 (dk_at dksX0_rests_0 23 rfl rfl)
theorem dX0_rests_24 : decode cX0_rests 24 = .ok (.istore_n 2, 1) := dk_61 (dk_at dksX0_rests_1 0 rfl rfl)
theorem dX0_rests_25 : decode cX0_rests 25 = .ok (.iload_n 2, 1) := dk_28 (dk_at dksX0_rests_1 1 rfl rfl)
theorem dX0_rests_26 : decode cX0_rests 26 = .ok (.bipush 50, 2) := dk_16 50 (dk_at dksX0_rests_1 2 rfl rfl)
theorem dX0_rests_28 : decode cX0_rests 28 = .ok (.if_icmp .gt 82, 3) := dk_163 0 82 (dk_at dksX0_rests_1 4 rfl rfl)
theorem dX0_rests_31 : decode cX0_rests 31 = .ok (.iconst 0, 1) := dk_3 (dk_at dksX0_rests_1 7 rfl rfl)
theorem dX0_rests_32 : decode cX0_rests 32 = .ok (.istore_n 3, 1) := dk_62 (dk_at dksX0_rests_1 8 rfl rfl)
theorem dX0_rests_33 : decode cX0_rests 33 = .ok (.iconst 0, 1) := dk_3 (dk_at dksX0_rests_1 9 rfl rfl)
theorem dX0_rests_34 : decode cX0_rests 34 = .ok (.istore 4, 2) := dk_54 4 (dk_at dksX0_rests_1 10 rfl rfl)
theorem dX0_rests_36 : decode cX0_rests 36 = .ok (.iload 4, 2) := dk_21 4 (dk_at dksX0_rests_1 12 rfl rfl)
theorem dX0_rests_38 : decode cX0_rests 38 = .ok (.aload_n 0, 1) := dk_42 (dk_at dksX0_rests_1 14 rfl rfl)
theorem dX0_rests_39 : decode cX0_rests 39 = .ok (.getfield 16, 3) := dk_180 0 16 (dk_at dksX0_rests_1 15 rfl rfl)
theorem dX0_rests_42 : decode cX0_rests 42 = .ok (.getfield 118, 3) := dk_180 0 118 (dk_at dksX0_rests_1 18 rfl rfl)
theorem dX0_rests_45 : decode cX0_rests 45 = .ok (.if_icmp .ge 39, 3) := dk_162 0 39 (dk_at dksX0_rests_1 21 rfl rfl)
theorem dX0_rests_48 : decode cX0_rests 48 = .ok (.iload_n 3, 1) := dk_29 (dk_at dksX0_rests_2 0 rfl rfl)
theorem dX0_rests_49 : decode cX0_rests 49 = .ok (.aload_n 0, 1) := dk_42 (dk_at dksX0_rests_2 1 rfl rfl)
theorem dX0_rests_50 : decode cX0_rests 50 = .ok (.getfield 16, 3) := dk_180 0 16 (dk_at dksX0_rests_2 2 rfl rfl)
theorem dX0_rests_53 : decode cX0_rests 53 = .ok (.getfield 156, 3) := dk_180 0 156 (dk_at dksX0_rests_2 5 rfl rfl)
theorem dX0_rests_56 : decode cX0_rests 56 = .ok (.iload 4, 2) := dk_21 4 (dk_at dksX0_rests_2 8 rfl rfl)
theorem dX0_rests_58 : decode cX0_rests 58 = .ok (.iaload, 1) := dk_46 (dk_at dksX0_rests_2 10 rfl rfl)
theorem dX0_rests_59 : decode cX0_rests 59 = .ok (.ifCond .le 16, 3) := dk_158 0 16 (dk_at dksX0_rests_2 11 rfl rfl)
theorem dX0_rests_62 : decode cX0_rests 62 = .ok (.aload_n 0, 1) := dk_42 (dk_at dksX0_rests_2 14 rfl rfl)
theorem dX0_rests_63 : decode cX0_rests 63 = .ok (.iload 4, 2) := dk_21 4 (dk_at dksX0_rests_2 15 rfl rfl)
theorem dX0_rests_65 : decode cX0_rests 65 = .ok (.invokevirtual 353, 3) := dk_182 1 97 (dk_at dksX0_rests_2 17 rfl rfl)
theorem dX0_rests_68 : decode cX0_rests 68 = .ok (.ifCond .eq 7, 3) := dk_153 0 7 (dk_at dksX0_rests_2 20 rfl rfl)
theorem dX0_rests_71 : decode cX0_rests 71 = .ok (.iconst 1, 1) := dk_4 (dk_at dksX0_rests_2 23 rfl rfl)
theorem dX0_rests_72 : decode cX0_rests 72 = .ok (.goto 4, 3) := dk_167 0 4 (dk_at dksX0_rests_3 0 rfl rfl)
theorem dX0_rests_75 : decode cX0_rests 75 = .ok (.iconst 0, 1) := dk_3 (dk_at dksX0_rests_3 3 rfl rfl)
theorem dX0_rests_76 : decode cX0_rests 76 = .ok (.ior, 1) := dk_128 (dk_at dksX0_rests_3 4 rfl rfl)
theorem dX0_rests_77 : decode cX0_rests 77 = .ok (.istore_n 3, 1) := dk_62 (dk_at dksX0_rests_3 5 rfl rfl)
theorem dX0_rests_78 : decode cX0_rests 78 = .ok (.iinc 4 1, 3) := dk_132 4 1 (dk_at dksX0_rests_3 6 rfl rfl)
theorem dX0_rests_81 : decode cX0_rests 81 = .ok (.goto (-45), 3) := dk_167 255 211 (dk_at dksX0_rests_3 9 rfl rfl)
theorem dX0_rests_84 : decode cX0_rests 84 = .ok (.iload_n 3, 1) := dk_29 (dk_at dksX0_rests_3 12 rfl rfl)
theorem dX0_rests_85 : decode cX0_rests 85 = .ok (.ifCond .ne 19, 3) := dk_154 0 19 (dk_at dksX0_rests_3 13 rfl rfl)
theorem dX0_rests_88 : decode cX0_rests 88 = .ok (.iload_n 1, 1) := dk_27 (dk_at dksX0_rests_3 16 rfl rfl)
theorem dX0_rests_89 : decode cX0_rests 89 = .ok (.iconst (-1), 1) := dk_2 (dk_at dksX0_rests_3 17 rfl rfl)
theorem dX0_rests_90 : decode cX0_rests 90 = .ok (.if_icmp .ne 7, 3) := dk_160 0 7 (dk_at dksX0_rests_3 18 rfl rfl)
theorem dX0_rests_93 : decode cX0_rests 93 = .ok (.iload_n 2, 1) := dk_28 (dk_at dksX0_rests_3 21 rfl rfl)
theorem dX0_rests_94 : decode cX0_rests 94 = .ok (.goto 9, 3) := dk_167 0 9 (dk_at dksX0_rests_4 0 rfl rfl)
theorem dX0_rests_97 : decode cX0_rests 97 = .ok (.aload_n 0, 1) := dk_42 (dk_at dksX0_rests_4 3 rfl rfl)
theorem dX0_rests_98 : decode cX0_rests 98 = .ok (.getfield 76, 3) := dk_180 0 76 (dk_at dksX0_rests_4 4 rfl rfl)
theorem dX0_rests_101 : decode cX0_rests 101 = .ok (.iload_n 1, 1) := dk_27 (dk_at dksX0_rests_4 7 rfl rfl)
theorem dX0_rests_102 : decode cX0_rests 102 = .ok (.iaload, 1) := dk_46 (dk_at dksX0_rests_4 8 rfl rfl)
theorem dX0_rests_103 : decode cX0_rests 103 = .ok (.ireturn, 1) := dk_172 (dk_at dksX0_rests_4 9 rfl rfl)
theorem dX0_rests_104 : decode cX0_rests 104 = .ok (.iinc 2 1, 3) := dk_132 2 1 (dk_at dksX0_rests_4 10 rfl rfl)
theorem dX0_rests_107 : decode cX0_rests 107 = .ok (.goto (-82), 3) := dk_167 255 174 (dk_at dksX0_rests_4 13 rfl rfl)
theorem dX0_rests_110 : decode cX0_rests 110 = .ok (.iconst (-1), 1) := dk_2 (dk_at dksX0_rests_4 16 rfl rfl)
theorem dX0_rests_111 : decode cX0_rests 111 = .ok (.ireturn, 1) := dk_172 (dk_at dksX0_rests_4 17 rfl rfl)
abbrev cX0_goesBest : ByteArray := prog_1_method_64_code
def yX0_goesBest : MethodName := ⟨RX0, "goesBest", "(I)Z"⟩
def dkwX0_goesBest_3 : List UInt8 := [79, 3, 172]
abbrev dktX0_goesBest_3 : List UInt8 := dkwX0_goesBest_3 ++ []
def dkwX0_goesBest_2 : List UInt8 := [180, 0, 65, 42, 180, 0, 76, 182, 1, 83, 33, 148, 158, 0, 5, 4, 172, 42, 180, 0, 76, 27, 21, 5]
abbrev dktX0_goesBest_2 : List UInt8 := dkwX0_goesBest_2 ++ dktX0_goesBest_3
def dkwX0_goesBest_1 : List UInt8 := [182, 1, 83, 66, 42, 180, 0, 76, 27, 46, 54, 5, 42, 180, 0, 76, 27, 28, 79, 42, 27, 42]
abbrev dktX0_goesBest_1 : List UInt8 := dkwX0_goesBest_1 ++ dktX0_goesBest_2
def dkwX0_goesBest_0 : List UInt8 := [42, 27, 182, 1, 94, 61, 28, 2, 160, 0, 5, 3, 172, 42, 27, 42, 180, 0, 65, 42, 180, 0, 76]
abbrev dktX0_goesBest_0 : List UInt8 := dkwX0_goesBest_0 ++ dktX0_goesBest_1
theorem dksX0_goesBest_0 : cX0_goesBest.data.toList.drop 0 = dktX0_goesBest_0 := by decide +kernel
theorem dksX0_goesBest_1 : cX0_goesBest.data.toList.drop 23 = dktX0_goesBest_1 := dk_seg dksX0_goesBest_0 23 rfl rfl
theorem dksX0_goesBest_2 : cX0_goesBest.data.toList.drop 45 = dktX0_goesBest_2 := dk_seg dksX0_goesBest_1 22 rfl rfl
theorem dksX0_goesBest_3 : cX0_goesBest.data.toList.drop 69 = dktX0_goesBest_3 := dk_seg dksX0_goesBest_2 24 rfl rfl
theorem dX0_goesBest_0 : decode cX0_goesBest 0 = .ok (.aload_n 0, 1) := dk_42 (dk_at dksX0_goesBest_0 0 rfl rfl)
theorem dX0_goesBest_1 : decode cX0_goesBest 1 = .ok (.iload_n 1, 1) := dk_27 (dk_at dksX0_goesBest_0 1 rfl rfl)
theorem dX0_goesBest_2 : decode cX0_goesBest 2 = .ok (.invokevirtual 350, 3) := dk_182 1 94 (dk_at dksX0_goesBest_0 2 rfl rfl)
theorem dX0_goesBest_5 : decode cX0_goesBest 5 = .ok (.istore_n 2, 1) := dk_61 (dk_at dksX0_goesBest_0 5 rfl rfl)
theorem dX0_goesBest_6 : decode cX0_goesBest 6 = .ok (.iload_n 2, 1) := dk_28 (dk_at dksX0_goesBest_0 6 rfl rfl)
theorem dX0_goesBest_7 : decode cX0_goesBest 7 = .ok (.iconst (-1), 1) := dk_2 (dk_at dksX0_goesBest_0 7 rfl rfl)
theorem dX0_goesBest_8 : decode cX0_goesBest 8 = .ok (.if_icmp .ne 5, 3) := dk_160 0 5 (dk_at dksX0_goesBest_0 8 rfl rfl)
theorem dX0_goesBest_11 : decode cX0_goesBest 11 = .ok (.iconst 0, 1) := dk_3 (dk_at dksX0_goesBest_0 11 rfl rfl)
theorem dX0_goesBest_12 : decode cX0_goesBest 12 = .ok (.ireturn, 1) := dk_172 (dk_at dksX0_goesBest_0 12 rfl rfl)
theorem dX0_goesBest_13 : decode cX0_goesBest 13 = .ok (.aload_n 0, 1) := dk_42 (dk_at dksX0_goesBest_0 13 rfl rfl)
theorem dX0_goesBest_14 : decode cX0_goesBest 14 = .ok (.iload_n 1, 1) := dk_27 (dk_at dksX0_goesBest_0 14 rfl rfl)
theorem dX0_goesBest_15 : decode cX0_goesBest 15 = .ok (.aload_n 0, 1) := dk_42 (dk_at dksX0_goesBest_0 15 rfl rfl)
theorem dX0_goesBest_16 : decode cX0_goesBest 16 = .ok (.getfield 65, 3) := dk_180 0 65 (dk_at dksX0_goesBest_0 16 rfl rfl)
theorem dX0_goesBest_19 : decode cX0_goesBest 19 = .ok (.aload_n 0, 1) := dk_42 (dk_at dksX0_goesBest_0 19 rfl rfl)
theorem dX0_goesBest_20 : decode cX0_goesBest 20 = .ok (.getfield 76, 3) := dk_180 0 76 (dk_at dksX0_goesBest_0 20 rfl rfl)
theorem dX0_goesBest_23 : decode cX0_goesBest 23 = .ok (.invokevirtual 339, 3) := dk_182 1 83 (dk_at dksX0_goesBest_1 0 rfl rfl)
theorem dX0_goesBest_26 : decode cX0_goesBest 26 = .ok (.lstore_n 3, 1) := dk_66 (dk_at dksX0_goesBest_1 3 rfl rfl)
theorem dX0_goesBest_27 : decode cX0_goesBest 27 = .ok (.aload_n 0, 1) := dk_42 (dk_at dksX0_goesBest_1 4 rfl rfl)
theorem dX0_goesBest_28 : decode cX0_goesBest 28 = .ok (.getfield 76, 3) := dk_180 0 76 (dk_at dksX0_goesBest_1 5 rfl rfl)
theorem dX0_goesBest_31 : decode cX0_goesBest 31 = .ok (.iload_n 1, 1) := dk_27 (dk_at dksX0_goesBest_1 8 rfl rfl)
theorem dX0_goesBest_32 : decode cX0_goesBest 32 = .ok (.iaload, 1) := dk_46 (dk_at dksX0_goesBest_1 9 rfl rfl)
theorem dX0_goesBest_33 : decode cX0_goesBest 33 = .ok (.istore 5, 2) := dk_54 5 (dk_at dksX0_goesBest_1 10 rfl rfl)
theorem dX0_goesBest_35 : decode cX0_goesBest 35 = .ok (.aload_n 0, 1) := dk_42 (dk_at dksX0_goesBest_1 12 rfl rfl)
theorem dX0_goesBest_36 : decode cX0_goesBest 36 = .ok (.getfield 76, 3) := dk_180 0 76 (dk_at dksX0_goesBest_1 13 rfl rfl)
theorem dX0_goesBest_39 : decode cX0_goesBest 39 = .ok (.iload_n 1, 1) := dk_27 (dk_at dksX0_goesBest_1 16 rfl rfl)
theorem dX0_goesBest_40 : decode cX0_goesBest 40 = .ok (.iload_n 2, 1) := dk_28 (dk_at dksX0_goesBest_1 17 rfl rfl)
theorem dX0_goesBest_41 : decode cX0_goesBest 41 = .ok (.iastore, 1) := dk_79 (dk_at dksX0_goesBest_1 18 rfl rfl)
theorem dX0_goesBest_42 : decode cX0_goesBest 42 = .ok (.aload_n 0, 1) := dk_42 (dk_at dksX0_goesBest_1 19 rfl rfl)
theorem dX0_goesBest_43 : decode cX0_goesBest 43 = .ok (.iload_n 1, 1) := dk_27 (dk_at dksX0_goesBest_1 20 rfl rfl)
theorem dX0_goesBest_44 : decode cX0_goesBest 44 = .ok (.aload_n 0, 1) := dk_42 (dk_at dksX0_goesBest_1 21 rfl rfl)
theorem dX0_goesBest_45 : decode cX0_goesBest 45 = .ok (.getfield 65, 3) := dk_180 0 65 (dk_at dksX0_goesBest_2 0 rfl rfl)
theorem dX0_goesBest_48 : decode cX0_goesBest 48 = .ok (.aload_n 0, 1) := dk_42 (dk_at dksX0_goesBest_2 3 rfl rfl)
theorem dX0_goesBest_49 : decode cX0_goesBest 49 = .ok (.getfield 76, 3) := dk_180 0 76 (dk_at dksX0_goesBest_2 4 rfl rfl)
theorem dX0_goesBest_52 : decode cX0_goesBest 52 = .ok (.invokevirtual 339, 3) := dk_182 1 83 (dk_at dksX0_goesBest_2 7 rfl rfl)
theorem dX0_goesBest_55 : decode cX0_goesBest 55 = .ok (.lload_n 3, 1) := dk_33 (dk_at dksX0_goesBest_2 10 rfl rfl)
theorem dX0_goesBest_56 : decode cX0_goesBest 56 = .ok (.lcmp, 1) := dk_148 (dk_at dksX0_goesBest_2 11 rfl rfl)
theorem dX0_goesBest_57 : decode cX0_goesBest 57 = .ok (.ifCond .le 5, 3) := dk_158 0 5 (dk_at dksX0_goesBest_2 12 rfl rfl)
theorem dX0_goesBest_60 : decode cX0_goesBest 60 = .ok (.iconst 1, 1) := dk_4 (dk_at dksX0_goesBest_2 15 rfl rfl)
theorem dX0_goesBest_61 : decode cX0_goesBest 61 = .ok (.ireturn, 1) := dk_172 (dk_at dksX0_goesBest_2 16 rfl rfl)
theorem dX0_goesBest_62 : decode cX0_goesBest 62 = .ok (.aload_n 0, 1) := dk_42 (dk_at dksX0_goesBest_2 17 rfl rfl)
theorem dX0_goesBest_63 : decode cX0_goesBest 63 = .ok (.getfield 76, 3) := dk_180 0 76 (dk_at dksX0_goesBest_2 18 rfl rfl)
theorem dX0_goesBest_66 : decode cX0_goesBest 66 = .ok (.iload_n 1, 1) := dk_27 (dk_at dksX0_goesBest_2 21 rfl rfl)
theorem dX0_goesBest_67 : decode cX0_goesBest 67 = .ok (.iload 5, 2) := dk_21 5 (dk_at dksX0_goesBest_2 22 rfl rfl)
theorem dX0_goesBest_69 : decode cX0_goesBest 69 = .ok (.iastore, 1) := dk_79 (dk_at dksX0_goesBest_3 0 rfl rfl)
theorem dX0_goesBest_70 : decode cX0_goesBest 70 = .ok (.iconst 0, 1) := dk_3 (dk_at dksX0_goesBest_3 1 rfl rfl)
theorem dX0_goesBest_71 : decode cX0_goesBest 71 = .ok (.ireturn, 1) := dk_172 (dk_at dksX0_goesBest_3 2 rfl rfl)
abbrev cX0_friend : ByteArray := prog_1_method_70_code
def yX0_friend : MethodName := ⟨RX0, "friend", "(II)J"⟩
def dkwX0_friend_4 : List UInt8 := [173]
abbrev dktX0_friend_4 : List UInt8 := dkwX0_friend_4 ++ []
def dkwX0_friend_3 : List UInt8 := [182, 1, 87, 182, 1, 116, 153, 0, 6, 21, 4, 62, 132, 4, 1, 167, 255, 207, 42, 29, 28, 182, 1, 120]
abbrev dktX0_friend_3 : List UInt8 := dkwX0_friend_3 ++ dktX0_friend_4
def dkwX0_friend_2 : List UInt8 := [180, 0, 69, 21, 4, 50, 42, 180, 0, 16, 180, 0, 142, 182, 1, 83, 42, 180, 0, 69, 21, 4, 50]
abbrev dktX0_friend_2 : List UInt8 := dkwX0_friend_2 ++ dktX0_friend_3
def dkwX0_friend_1 : List UInt8 := [182, 1, 110, 42, 182, 1, 113, 3, 62, 3, 54, 4, 21, 4, 16, 25, 162, 0, 48, 42, 42, 27, 42]
abbrev dktX0_friend_1 : List UInt8 := dkwX0_friend_1 ++ dktX0_friend_2
def dkwX0_friend_0 : List UInt8 := [42, 27, 182, 0, 169, 153, 0, 12, 28, 3, 6, 184, 0, 97, 154, 0, 7, 20, 0, 233, 173, 42]
abbrev dktX0_friend_0 : List UInt8 := dkwX0_friend_0 ++ dktX0_friend_1
theorem dksX0_friend_0 : cX0_friend.data.toList.drop 0 = dktX0_friend_0 := by decide +kernel
theorem dksX0_friend_1 : cX0_friend.data.toList.drop 22 = dktX0_friend_1 := dk_seg dksX0_friend_0 22 rfl rfl
theorem dksX0_friend_2 : cX0_friend.data.toList.drop 45 = dktX0_friend_2 := dk_seg dksX0_friend_1 23 rfl rfl
theorem dksX0_friend_3 : cX0_friend.data.toList.drop 68 = dktX0_friend_3 := dk_seg dksX0_friend_2 23 rfl rfl
theorem dksX0_friend_4 : cX0_friend.data.toList.drop 92 = dktX0_friend_4 := dk_seg dksX0_friend_3 24 rfl rfl
theorem dX0_friend_0 : decode cX0_friend 0 = .ok (.aload_n 0, 1) := dk_42 (dk_at dksX0_friend_0 0 rfl rfl)
theorem dX0_friend_1 : decode cX0_friend 1 = .ok (.iload_n 1, 1) := dk_27 (dk_at dksX0_friend_0 1 rfl rfl)
theorem dX0_friend_2 : decode cX0_friend 2 = .ok (.invokevirtual 169, 3) := dk_182 0 169 (dk_at dksX0_friend_0 2 rfl rfl)
theorem dX0_friend_5 : decode cX0_friend 5 = .ok (.ifCond .eq 12, 3) := dk_153 0 12 (dk_at dksX0_friend_0 5 rfl rfl)
theorem dX0_friend_8 : decode cX0_friend 8 = .ok (.iload_n 2, 1) := dk_28 (dk_at dksX0_friend_0 8 rfl rfl)
theorem dX0_friend_9 : decode cX0_friend 9 = .ok (.iconst 0, 1) := dk_3 (dk_at dksX0_friend_0 9 rfl rfl)
theorem dX0_friend_10 : decode cX0_friend 10 = .ok (.iconst 3, 1) := dk_6 (dk_at dksX0_friend_0 10 rfl rfl)
theorem dX0_friend_11 : decode cX0_friend 11 = .ok (.invokestatic 97, 3) := dk_184 0 97 (dk_at dksX0_friend_0 11 rfl rfl)
theorem dX0_friend_14 : decode cX0_friend 14 = .ok (.ifCond .ne 7, 3) := dk_154 0 7 (dk_at dksX0_friend_0 14 rfl rfl)
theorem dX0_friend_17 : decode cX0_friend 17 = .ok (.ldc2_w 233, 3) := dk_20 0 233 (dk_at dksX0_friend_0 17 rfl rfl)
theorem dX0_friend_20 : decode cX0_friend 20 = .ok (.lreturn, 1) := dk_173 (dk_at dksX0_friend_0 20 rfl rfl)
theorem dX0_friend_21 : decode cX0_friend 21 = .ok (.aload_n 0, 1) := dk_42 (dk_at dksX0_friend_0 21 rfl rfl)
theorem dX0_friend_22 : decode cX0_friend 22 = .ok (.invokevirtual 366, 3) := dk_182 1 110 (dk_at dksX0_friend_1 0 rfl rfl)
theorem dX0_friend_25 : decode cX0_friend 25 = .ok (.aload_n 0, 1) := dk_42 (dk_at dksX0_friend_1 3 rfl rfl)
theorem dX0_friend_26 : decode cX0_friend 26 = .ok (.invokevirtual 369, 3) := dk_182 1 113 (dk_at dksX0_friend_1 4 rfl rfl)
theorem dX0_friend_29 : decode cX0_friend 29 = .ok (.iconst 0, 1) := dk_3 (dk_at dksX0_friend_1 7 rfl rfl)
theorem dX0_friend_30 : decode cX0_friend 30 = .ok (.istore_n 3, 1) := dk_62 (dk_at dksX0_friend_1 8 rfl rfl)
theorem dX0_friend_31 : decode cX0_friend 31 = .ok (.iconst 0, 1) := dk_3 (dk_at dksX0_friend_1 9 rfl rfl)
theorem dX0_friend_32 : decode cX0_friend 32 = .ok (.istore 4, 2) := dk_54 4 (dk_at dksX0_friend_1 10 rfl rfl)
theorem dX0_friend_34 : decode cX0_friend 34 = .ok (.iload 4, 2) := dk_21 4 (dk_at dksX0_friend_1 12 rfl rfl)
theorem dX0_friend_36 : decode cX0_friend 36 = .ok (.bipush 25, 2) := dk_16 25 (dk_at dksX0_friend_1 14 rfl rfl)
theorem dX0_friend_38 : decode cX0_friend 38 = .ok (.if_icmp .ge 48, 3) := dk_162 0 48 (dk_at dksX0_friend_1 16 rfl rfl)
theorem dX0_friend_41 : decode cX0_friend 41 = .ok (.aload_n 0, 1) := dk_42 (dk_at dksX0_friend_1 19 rfl rfl)
theorem dX0_friend_42 : decode cX0_friend 42 = .ok (.aload_n 0, 1) := dk_42 (dk_at dksX0_friend_1 20 rfl rfl)
theorem dX0_friend_43 : decode cX0_friend 43 = .ok (.iload_n 1, 1) := dk_27 (dk_at dksX0_friend_1 21 rfl rfl)
theorem dX0_friend_44 : decode cX0_friend 44 = .ok (.aload_n 0, 1) := dk_42 (dk_at dksX0_friend_1 22 rfl rfl)
theorem dX0_friend_45 : decode cX0_friend 45 = .ok (.getfield 69, 3) := dk_180 0 69 (dk_at dksX0_friend_2 0 rfl rfl)
theorem dX0_friend_48 : decode cX0_friend 48 = .ok (.iload 4, 2) := dk_21 4 (dk_at dksX0_friend_2 3 rfl rfl)
theorem dX0_friend_50 : decode cX0_friend 50 = .ok (.aaload, 1) := dk_50 (dk_at dksX0_friend_2 5 rfl rfl)
theorem dX0_friend_51 : decode cX0_friend 51 = .ok (.aload_n 0, 1) := dk_42 (dk_at dksX0_friend_2 6 rfl rfl)
theorem dX0_friend_52 : decode cX0_friend 52 = .ok (.getfield 16, 3) := dk_180 0 16 (dk_at dksX0_friend_2 7 rfl rfl)
theorem dX0_friend_55 : decode cX0_friend 55 = .ok (.getfield 142, 3) := dk_180 0 142 (dk_at dksX0_friend_2 10 rfl rfl)
theorem dX0_friend_58 : decode cX0_friend 58 = .ok (.invokevirtual 339, 3) := dk_182 1 83 (dk_at dksX0_friend_2 13 rfl rfl)
theorem dX0_friend_61 : decode cX0_friend 61 = .ok (.aload_n 0, 1) := dk_42 (dk_at dksX0_friend_2 16 rfl rfl)
theorem dX0_friend_62 : decode cX0_friend 62 = .ok (.getfield 69, 3) := dk_180 0 69 (dk_at dksX0_friend_2 17 rfl rfl)
theorem dX0_friend_65 : decode cX0_friend 65 = .ok (.iload 4, 2) := dk_21 4 (dk_at dksX0_friend_2 20 rfl rfl)
theorem dX0_friend_67 : decode cX0_friend 67 = .ok (.aaload, 1) := dk_50 (dk_at dksX0_friend_2 22 rfl rfl)
theorem dX0_friend_68 : decode cX0_friend 68 = .ok (.invokevirtual 343, 3) := dk_182 1 87 (dk_at dksX0_friend_3 0 rfl rfl)
theorem dX0_friend_71 : decode cX0_friend 71 = .ok (.invokevirtual 372, 3) := dk_182 1 116 (dk_at dksX0_friend_3 3 rfl rfl)
theorem dX0_friend_74 : decode cX0_friend 74 = .ok (.ifCond .eq 6, 3) := dk_153 0 6 (dk_at dksX0_friend_3 6 rfl rfl)
theorem dX0_friend_77 : decode cX0_friend 77 = .ok (.iload 4, 2) := dk_21 4 (dk_at dksX0_friend_3 9 rfl rfl)
theorem dX0_friend_79 : decode cX0_friend 79 = .ok (.istore_n 3, 1) := dk_62 (dk_at dksX0_friend_3 11 rfl rfl)
theorem dX0_friend_80 : decode cX0_friend 80 = .ok (.iinc 4 1, 3) := dk_132 4 1 (dk_at dksX0_friend_3 12 rfl rfl)
theorem dX0_friend_83 : decode cX0_friend 83 = .ok (.goto (-49), 3) := dk_167 255 207 (dk_at dksX0_friend_3 15 rfl rfl)
theorem dX0_friend_86 : decode cX0_friend 86 = .ok (.aload_n 0, 1) := dk_42 (dk_at dksX0_friend_3 18 rfl rfl)
theorem dX0_friend_87 : decode cX0_friend 87 = .ok (.iload_n 3, 1) := dk_29 (dk_at dksX0_friend_3 19 rfl rfl)
theorem dX0_friend_88 : decode cX0_friend 88 = .ok (.iload_n 2, 1) := dk_28 (dk_at dksX0_friend_3 20 rfl rfl)
theorem dX0_friend_89 : decode cX0_friend 89 = .ok (.invokevirtual 376, 3) := dk_182 1 120 (dk_at dksX0_friend_3 21 rfl rfl)
theorem dX0_friend_92 : decode cX0_friend 92 = .ok (.lreturn, 1) := dk_173 (dk_at dksX0_friend_4 0 rfl rfl)
abbrev cX0_looksAtAll : ByteArray := prog_1_method_55_code
def yX0_looksAtAll : MethodName := ⟨RX0, "looksAtAll", "()V"⟩
def dkwX0_looksAtAll_2 : List UInt8 := [27, 8, 112, 5, 100, 182, 1, 45, 132, 1, 1, 167, 255, 205, 177]
abbrev dktX0_looksAtAll_2 : List UInt8 := dkwX0_looksAtAll_2 ++ []
def dkwX0_looksAtAll_1 : List UInt8 := [180, 0, 69, 27, 187, 0, 60, 89, 42, 183, 0, 62, 83, 42, 180, 0, 69, 27, 50, 4, 27, 8, 108, 96]
abbrev dktX0_looksAtAll_1 : List UInt8 := dkwX0_looksAtAll_1 ++ dktX0_looksAtAll_2
def dkwX0_looksAtAll_0 : List UInt8 := [42, 182, 1, 52, 3, 60, 27, 16, 25, 162, 0, 51, 42, 180, 0, 69, 27, 50, 199, 0, 17, 42]
abbrev dktX0_looksAtAll_0 : List UInt8 := dkwX0_looksAtAll_0 ++ dktX0_looksAtAll_1
theorem dksX0_looksAtAll_0 : cX0_looksAtAll.data.toList.drop 0 = dktX0_looksAtAll_0 := by decide +kernel
theorem dksX0_looksAtAll_1 : cX0_looksAtAll.data.toList.drop 22 = dktX0_looksAtAll_1 := dk_seg dksX0_looksAtAll_0 22 rfl rfl
theorem dksX0_looksAtAll_2 : cX0_looksAtAll.data.toList.drop 46 = dktX0_looksAtAll_2 := dk_seg dksX0_looksAtAll_1 24 rfl rfl
theorem dX0_looksAtAll_0 : decode cX0_looksAtAll 0 = .ok (.aload_n 0, 1) := dk_42 (dk_at dksX0_looksAtAll_0 0 rfl rfl)
theorem dX0_looksAtAll_1 : decode cX0_looksAtAll 1 = .ok (.invokevirtual 308, 3) := dk_182 1 52 (dk_at dksX0_looksAtAll_0 1 rfl rfl)
theorem dX0_looksAtAll_4 : decode cX0_looksAtAll 4 = .ok (.iconst 0, 1) := dk_3 (dk_at dksX0_looksAtAll_0 4 rfl rfl)
theorem dX0_looksAtAll_5 : decode cX0_looksAtAll 5 = .ok (.istore_n 1, 1) := dk_60 (dk_at dksX0_looksAtAll_0 5 rfl rfl)
theorem dX0_looksAtAll_6 : decode cX0_looksAtAll 6 = .ok (.iload_n 1, 1) := dk_27 (dk_at dksX0_looksAtAll_0 6 rfl rfl)
theorem dX0_looksAtAll_7 : decode cX0_looksAtAll 7 = .ok (.bipush 25, 2) := dk_16 25 (dk_at dksX0_looksAtAll_0 7 rfl rfl)
theorem dX0_looksAtAll_9 : decode cX0_looksAtAll 9 = .ok (.if_icmp .ge 51, 3) := dk_162 0 51 (dk_at dksX0_looksAtAll_0 9 rfl rfl)
theorem dX0_looksAtAll_12 : decode cX0_looksAtAll 12 = .ok (.aload_n 0, 1) := dk_42 (dk_at dksX0_looksAtAll_0 12 rfl rfl)
theorem dX0_looksAtAll_13 : decode cX0_looksAtAll 13 = .ok (.getfield 69, 3) := dk_180 0 69 (dk_at dksX0_looksAtAll_0 13 rfl rfl)
theorem dX0_looksAtAll_16 : decode cX0_looksAtAll 16 = .ok (.iload_n 1, 1) := dk_27 (dk_at dksX0_looksAtAll_0 16 rfl rfl)
theorem dX0_looksAtAll_17 : decode cX0_looksAtAll 17 = .ok (.aaload, 1) := dk_50 (dk_at dksX0_looksAtAll_0 17 rfl rfl)
theorem dX0_looksAtAll_18 : decode cX0_looksAtAll 18 = .ok (.ifnonnull 17, 3) := dk_199 0 17 (dk_at dksX0_looksAtAll_0 18 rfl rfl)
theorem dX0_looksAtAll_21 : decode cX0_looksAtAll 21 = .ok (.aload_n 0, 1) := dk_42 (dk_at dksX0_looksAtAll_0 21 rfl rfl)
theorem dX0_looksAtAll_22 : decode cX0_looksAtAll 22 = .ok (.getfield 69, 3) := dk_180 0 69 (dk_at dksX0_looksAtAll_1 0 rfl rfl)
theorem dX0_looksAtAll_25 : decode cX0_looksAtAll 25 = .ok (.iload_n 1, 1) := dk_27 (dk_at dksX0_looksAtAll_1 3 rfl rfl)
theorem dX0_looksAtAll_26 : decode cX0_looksAtAll 26 = .ok (.new 60, 3) := dk_187 0 60 (dk_at dksX0_looksAtAll_1 4 rfl rfl)
theorem dX0_looksAtAll_29 : decode cX0_looksAtAll 29 = .ok (.dup, 1) := dk_89 (dk_at dksX0_looksAtAll_1 7 rfl rfl)
theorem dX0_looksAtAll_30 : decode cX0_looksAtAll 30 = .ok (.aload_n 0, 1) := dk_42 (dk_at dksX0_looksAtAll_1 8 rfl rfl)
theorem dX0_looksAtAll_31 : decode cX0_looksAtAll 31 = .ok (.invokespecial 62, 3) := dk_183 0 62 (dk_at dksX0_looksAtAll_1 9 rfl rfl)
theorem dX0_looksAtAll_34 : decode cX0_looksAtAll 34 = .ok (.aastore, 1) := dk_83 (dk_at dksX0_looksAtAll_1 12 rfl rfl)
theorem dX0_looksAtAll_35 : decode cX0_looksAtAll 35 = .ok (.aload_n 0, 1) := dk_42 (dk_at dksX0_looksAtAll_1 13 rfl rfl)
theorem dX0_looksAtAll_36 : decode cX0_looksAtAll 36 = .ok (.getfield 69, 3) := dk_180 0 69 (dk_at dksX0_looksAtAll_1 14 rfl rfl)
theorem dX0_looksAtAll_39 : decode cX0_looksAtAll 39 = .ok (.iload_n 1, 1) := dk_27 (dk_at dksX0_looksAtAll_1 17 rfl rfl)
theorem dX0_looksAtAll_40 : decode cX0_looksAtAll 40 = .ok (.aaload, 1) := dk_50 (dk_at dksX0_looksAtAll_1 18 rfl rfl)
theorem dX0_looksAtAll_41 : decode cX0_looksAtAll 41 = .ok (.iconst 1, 1) := dk_4 (dk_at dksX0_looksAtAll_1 19 rfl rfl)
theorem dX0_looksAtAll_42 : decode cX0_looksAtAll 42 = .ok (.iload_n 1, 1) := dk_27 (dk_at dksX0_looksAtAll_1 20 rfl rfl)
theorem dX0_looksAtAll_43 : decode cX0_looksAtAll 43 = .ok (.iconst 5, 1) := dk_8 (dk_at dksX0_looksAtAll_1 21 rfl rfl)
theorem dX0_looksAtAll_44 : decode cX0_looksAtAll 44 = .ok (.idiv, 1) := dk_108 (dk_at dksX0_looksAtAll_1 22 rfl rfl)
theorem dX0_looksAtAll_45 : decode cX0_looksAtAll 45 = .ok (.iadd, 1) := dk_96 (dk_at dksX0_looksAtAll_1 23 rfl rfl)
theorem dX0_looksAtAll_46 : decode cX0_looksAtAll 46 = .ok (.iload_n 1, 1) := dk_27 (dk_at dksX0_looksAtAll_2 0 rfl rfl)
theorem dX0_looksAtAll_47 : decode cX0_looksAtAll 47 = .ok (.iconst 5, 1) := dk_8 (dk_at dksX0_looksAtAll_2 1 rfl rfl)
theorem dX0_looksAtAll_48 : decode cX0_looksAtAll 48 = .ok (.irem, 1) := dk_112 (dk_at dksX0_looksAtAll_2 2 rfl rfl)
theorem dX0_looksAtAll_49 : decode cX0_looksAtAll 49 = .ok (.iconst 2, 1) := dk_5 (dk_at dksX0_looksAtAll_2 3 rfl rfl)
theorem dX0_looksAtAll_50 : decode cX0_looksAtAll 50 = .ok (.isub, 1) := dk_100 (dk_at dksX0_looksAtAll_2 4 rfl rfl)
theorem dX0_looksAtAll_51 : decode cX0_looksAtAll 51 = .ok (.invokevirtual 301, 3) := dk_182 1 45 (dk_at dksX0_looksAtAll_2 5 rfl rfl)
theorem dX0_looksAtAll_54 : decode cX0_looksAtAll 54 = .ok (.iinc 1 1, 3) := dk_132 1 1 (dk_at dksX0_looksAtAll_2 8 rfl rfl)
theorem dX0_looksAtAll_57 : decode cX0_looksAtAll 57 = .ok (.goto (-51), 3) := dk_167 255 205 (dk_at dksX0_looksAtAll_2 11 rfl rfl)
theorem dX0_looksAtAll_60 : decode cX0_looksAtAll 60 = .ok (.return_, 1) := dk_177 (dk_at dksX0_looksAtAll_2 14 rfl rfl)
abbrev cX0_none : ByteArray := prog_1_method_67_code
def yX0_none : MethodName := ⟨RX0, "none", "()V"⟩
def dkwX0_none_0 : List UInt8 := [42, 20, 0, 233, 181, 1, 104, 42, 10, 181, 1, 100, 177]
abbrev dktX0_none_0 : List UInt8 := dkwX0_none_0 ++ []
theorem dksX0_none_0 : cX0_none.data.toList.drop 0 = dktX0_none_0 := by decide +kernel
theorem dX0_none_0 : decode cX0_none 0 = .ok (.aload_n 0, 1) := dk_42 (dk_at dksX0_none_0 0 rfl rfl)
theorem dX0_none_1 : decode cX0_none 1 = .ok (.ldc2_w 233, 3) := dk_20 0 233 (dk_at dksX0_none_0 1 rfl rfl)
theorem dX0_none_4 : decode cX0_none 4 = .ok (.putfield 360, 3) := dk_181 1 104 (dk_at dksX0_none_0 4 rfl rfl)
theorem dX0_none_7 : decode cX0_none 7 = .ok (.aload_n 0, 1) := dk_42 (dk_at dksX0_none_0 7 rfl rfl)
theorem dX0_none_8 : decode cX0_none 8 = .ok (.lconst 1, 1) := dk_10 (dk_at dksX0_none_0 8 rfl rfl)
theorem dX0_none_9 : decode cX0_none 9 = .ok (.putfield 356, 3) := dk_181 1 100 (dk_at dksX0_none_0 9 rfl rfl)
theorem dX0_none_12 : decode cX0_none 12 = .ok (.return_, 1) := dk_177 (dk_at dksX0_none_0 12 rfl rfl)
abbrev cX0_isMore : ByteArray := prog_1_method_66_code
def yX0_isMore : MethodName := ⟨RX0, "isMore", "(JJ)Z"⟩
def dkwX0_isMore_1 : List UInt8 := [33, 181, 1, 100, 4, 172]
abbrev dktX0_isMore_1 : List UInt8 := dkwX0_isMore_1 ++ []
def dkwX0_isMore_0 : List UInt8 := [31, 42, 180, 1, 100, 105, 42, 180, 1, 104, 33, 105, 148, 157, 0, 5, 3, 172, 42, 31, 181, 1, 104, 42]
abbrev dktX0_isMore_0 : List UInt8 := dkwX0_isMore_0 ++ dktX0_isMore_1
theorem dksX0_isMore_0 : cX0_isMore.data.toList.drop 0 = dktX0_isMore_0 := by decide +kernel
theorem dksX0_isMore_1 : cX0_isMore.data.toList.drop 24 = dktX0_isMore_1 := dk_seg dksX0_isMore_0 24 rfl rfl
theorem dX0_isMore_0 : decode cX0_isMore 0 = .ok (.lload_n 1, 1) := dk_31 (dk_at dksX0_isMore_0 0 rfl rfl)
theorem dX0_isMore_1 : decode cX0_isMore 1 = .ok (.aload_n 0, 1) := dk_42 (dk_at dksX0_isMore_0 1 rfl rfl)
theorem dX0_isMore_2 : decode cX0_isMore 2 = .ok (.getfield 356, 3) := dk_180 1 100 (dk_at dksX0_isMore_0 2 rfl rfl)
theorem dX0_isMore_5 : decode cX0_isMore 5 = .ok (.lmul, 1) := dk_105 (dk_at dksX0_isMore_0 5 rfl rfl)
theorem dX0_isMore_6 : decode cX0_isMore 6 = .ok (.aload_n 0, 1) := dk_42 (dk_at dksX0_isMore_0 6 rfl rfl)
theorem dX0_isMore_7 : decode cX0_isMore 7 = .ok (.getfield 360, 3) := dk_180 1 104 (dk_at dksX0_isMore_0 7 rfl rfl)
theorem dX0_isMore_10 : decode cX0_isMore 10 = .ok (.lload_n 3, 1) := dk_33 (dk_at dksX0_isMore_0 10 rfl rfl)
theorem dX0_isMore_11 : decode cX0_isMore 11 = .ok (.lmul, 1) := dk_105 (dk_at dksX0_isMore_0 11 rfl rfl)
theorem dX0_isMore_12 : decode cX0_isMore 12 = .ok (.lcmp, 1) := dk_148 (dk_at dksX0_isMore_0 12 rfl rfl)
theorem dX0_isMore_13 : decode cX0_isMore 13 = .ok (.ifCond .gt 5, 3) := dk_157 0 5 (dk_at dksX0_isMore_0 13 rfl rfl)
theorem dX0_isMore_16 : decode cX0_isMore 16 = .ok (.iconst 0, 1) := dk_3 (dk_at dksX0_isMore_0 16 rfl rfl)
theorem dX0_isMore_17 : decode cX0_isMore 17 = .ok (.ireturn, 1) := dk_172 (dk_at dksX0_isMore_0 17 rfl rfl)
theorem dX0_isMore_18 : decode cX0_isMore 18 = .ok (.aload_n 0, 1) := dk_42 (dk_at dksX0_isMore_0 18 rfl rfl)
theorem dX0_isMore_19 : decode cX0_isMore 19 = .ok (.lload_n 1, 1) := dk_31 (dk_at dksX0_isMore_0 19 rfl rfl)
theorem dX0_isMore_20 : decode cX0_isMore 20 = .ok (.putfield 360, 3) := dk_181 1 104 (dk_at dksX0_isMore_0 20 rfl rfl)
theorem dX0_isMore_23 : decode cX0_isMore 23 = .ok (.aload_n 0, 1) := dk_42 (dk_at dksX0_isMore_0 23 rfl rfl)
theorem dX0_isMore_24 : decode cX0_isMore 24 = .ok (.lload_n 3, 1) := dk_33 (dk_at dksX0_isMore_1 0 rfl rfl)
theorem dX0_isMore_25 : decode cX0_isMore 25 = .ok (.putfield 356, 3) := dk_181 1 100 (dk_at dksX0_isMore_1 1 rfl rfl)
theorem dX0_isMore_28 : decode cX0_isMore 28 = .ok (.iconst 1, 1) := dk_4 (dk_at dksX0_isMore_1 4 rfl rfl)
theorem dX0_isMore_29 : decode cX0_isMore 29 = .ok (.ireturn, 1) := dk_172 (dk_at dksX0_isMore_1 5 rfl rfl)
abbrev cX0_friendOf : ByteArray := prog_1_method_69_code
def yX0_friendOf : MethodName := ⟨RX0, "friendOf", "(II)J"⟩
def dkwX0_friendOf_1 : List UInt8 := [42, 180, 1, 104, 42, 180, 1, 100, 28, 5, 160, 0, 7, 4, 167, 0, 4, 3, 184, 1, 79, 173]
abbrev dktX0_friendOf_1 : List UInt8 := dkwX0_friendOf_1 ++ []
def dkwX0_friendOf_0 : List UInt8 := [28, 154, 0, 11, 27, 184, 1, 107, 133, 167, 0, 36, 28, 4, 160, 0, 10, 27, 8, 112, 133, 167, 0, 24]
abbrev dktX0_friendOf_0 : List UInt8 := dkwX0_friendOf_0 ++ dktX0_friendOf_1
theorem dksX0_friendOf_0 : cX0_friendOf.data.toList.drop 0 = dktX0_friendOf_0 := by decide +kernel
theorem dksX0_friendOf_1 : cX0_friendOf.data.toList.drop 24 = dktX0_friendOf_1 := dk_seg dksX0_friendOf_0 24 rfl rfl
theorem dX0_friendOf_0 : decode cX0_friendOf 0 = .ok (.iload_n 2, 1) := dk_28 (dk_at dksX0_friendOf_0 0 rfl rfl)
theorem dX0_friendOf_1 : decode cX0_friendOf 1 = .ok (.ifCond .ne 11, 3) := dk_154 0 11 (dk_at dksX0_friendOf_0 1 rfl rfl)
theorem dX0_friendOf_4 : decode cX0_friendOf 4 = .ok (.iload_n 1, 1) := dk_27 (dk_at dksX0_friendOf_0 4 rfl rfl)
theorem dX0_friendOf_5 : decode cX0_friendOf 5 = .ok (.invokestatic 363, 3) := dk_184 1 107 (dk_at dksX0_friendOf_0 5 rfl rfl)
theorem dX0_friendOf_8 : decode cX0_friendOf 8 = .ok (.i2l, 1) := dk_133 (dk_at dksX0_friendOf_0 8 rfl rfl)
theorem dX0_friendOf_9 : decode cX0_friendOf 9 = .ok (.goto 36, 3) := dk_167 0 36 (dk_at dksX0_friendOf_0 9 rfl rfl)
theorem dX0_friendOf_12 : decode cX0_friendOf 12 = .ok (.iload_n 2, 1) := dk_28 (dk_at dksX0_friendOf_0 12 rfl rfl)
theorem dX0_friendOf_13 : decode cX0_friendOf 13 = .ok (.iconst 1, 1) := dk_4 (dk_at dksX0_friendOf_0 13 rfl rfl)
theorem dX0_friendOf_14 : decode cX0_friendOf 14 = .ok (.if_icmp .ne 10, 3) := dk_160 0 10 (dk_at dksX0_friendOf_0 14 rfl rfl)
theorem dX0_friendOf_17 : decode cX0_friendOf 17 = .ok (.iload_n 1, 1) := dk_27 (dk_at dksX0_friendOf_0 17 rfl rfl)
theorem dX0_friendOf_18 : decode cX0_friendOf 18 = .ok (.iconst 5, 1) := dk_8 (dk_at dksX0_friendOf_0 18 rfl rfl)
theorem dX0_friendOf_19 : decode cX0_friendOf 19 = .ok (.irem, 1) := dk_112 (dk_at dksX0_friendOf_0 19 rfl rfl)
theorem dX0_friendOf_20 : decode cX0_friendOf 20 = .ok (.i2l, 1) := dk_133 (dk_at dksX0_friendOf_0 20 rfl rfl)
theorem dX0_friendOf_21 : decode cX0_friendOf 21 = .ok (.goto 24, 3) := dk_167 0 24 (dk_at dksX0_friendOf_0 21 rfl rfl)
theorem dX0_friendOf_24 : decode cX0_friendOf 24 = .ok (.aload_n 0, 1) := dk_42 (dk_at dksX0_friendOf_1 0 rfl rfl)
theorem dX0_friendOf_25 : decode cX0_friendOf 25 = .ok (.getfield 360, 3) := dk_180 1 104 (dk_at dksX0_friendOf_1 1 rfl rfl)
theorem dX0_friendOf_28 : decode cX0_friendOf 28 = .ok (.aload_n 0, 1) := dk_42 (dk_at dksX0_friendOf_1 4 rfl rfl)
theorem dX0_friendOf_29 : decode cX0_friendOf 29 = .ok (.getfield 356, 3) := dk_180 1 100 (dk_at dksX0_friendOf_1 5 rfl rfl)
theorem dX0_friendOf_32 : decode cX0_friendOf 32 = .ok (.iload_n 2, 1) := dk_28 (dk_at dksX0_friendOf_1 8 rfl rfl)
theorem dX0_friendOf_33 : decode cX0_friendOf 33 = .ok (.iconst 2, 1) := dk_5 (dk_at dksX0_friendOf_1 9 rfl rfl)
theorem dX0_friendOf_34 : decode cX0_friendOf 34 = .ok (.if_icmp .ne 7, 3) := dk_160 0 7 (dk_at dksX0_friendOf_1 10 rfl rfl)
theorem dX0_friendOf_37 : decode cX0_friendOf 37 = .ok (.iconst 1, 1) := dk_4 (dk_at dksX0_friendOf_1 13 rfl rfl)
theorem dX0_friendOf_38 : decode cX0_friendOf 38 = .ok (.goto 4, 3) := dk_167 0 4 (dk_at dksX0_friendOf_1 14 rfl rfl)
theorem dX0_friendOf_41 : decode cX0_friendOf 41 = .ok (.iconst 0, 1) := dk_3 (dk_at dksX0_friendOf_1 17 rfl rfl)
theorem dX0_friendOf_42 : decode cX0_friendOf 42 = .ok (.invokestatic 335, 3) := dk_184 1 79 (dk_at dksX0_friendOf_1 18 rfl rfl)
theorem dX0_friendOf_45 : decode cX0_friendOf 45 = .ok (.lreturn, 1) := dk_173 (dk_at dksX0_friendOf_1 21 rfl rfl)
abbrev cX0_forceOf : ByteArray := prog_1_method_68_code
def yX0_forceOf : MethodName := ⟨RX0, "forceOf", "(I)I"⟩
def dkwX0_forceOf_0 : List UInt8 := [4, 26, 8, 108, 96, 172]
abbrev dktX0_forceOf_0 : List UInt8 := dkwX0_forceOf_0 ++ []
theorem dksX0_forceOf_0 : cX0_forceOf.data.toList.drop 0 = dktX0_forceOf_0 := by decide +kernel
theorem dX0_forceOf_0 : decode cX0_forceOf 0 = .ok (.iconst 1, 1) := dk_4 (dk_at dksX0_forceOf_0 0 rfl rfl)
theorem dX0_forceOf_1 : decode cX0_forceOf 1 = .ok (.iload_n 0, 1) := dk_26 (dk_at dksX0_forceOf_0 1 rfl rfl)
theorem dX0_forceOf_2 : decode cX0_forceOf 2 = .ok (.iconst 5, 1) := dk_8 (dk_at dksX0_forceOf_0 2 rfl rfl)
theorem dX0_forceOf_3 : decode cX0_forceOf 3 = .ok (.idiv, 1) := dk_108 (dk_at dksX0_forceOf_0 3 rfl rfl)
theorem dX0_forceOf_4 : decode cX0_forceOf 4 = .ok (.iadd, 1) := dk_96 (dk_at dksX0_forceOf_0 4 rfl rfl)
theorem dX0_forceOf_5 : decode cX0_forceOf 5 = .ok (.ireturn, 1) := dk_172 (dk_at dksX0_forceOf_0 5 rfl rfl)
abbrev cX0_heard : ByteArray := prog_1_method_72_code
def yX0_heard : MethodName := ⟨RX0, "heard", "(II)J"⟩
def dkwX0_heard_4 : List UInt8 := [167, 255, 198, 42, 29, 28, 182, 1, 120, 173]
abbrev dktX0_heard_4 : List UInt8 := dkwX0_heard_4 ++ []
def dkwX0_heard_3 : List UInt8 := [42, 180, 0, 69, 21, 4, 50, 182, 1, 87, 182, 1, 116, 153, 0, 6, 21, 4, 62, 132, 4, 1]
abbrev dktX0_heard_3 : List UInt8 := dkwX0_heard_3 ++ dktX0_heard_4
def dkwX0_heard_2 : List UInt8 := [21, 4, 50, 27, 182, 1, 127, 42, 42, 27, 42, 180, 0, 69, 21, 4, 50, 42, 180, 0, 76, 182, 1, 83]
abbrev dktX0_heard_2 : List UInt8 := dkwX0_heard_2 ++ dktX0_heard_3
def dkwX0_heard_1 : List UInt8 := [182, 1, 110, 42, 182, 1, 113, 3, 62, 3, 54, 4, 21, 4, 16, 25, 162, 0, 57, 42, 42, 180, 0, 69]
abbrev dktX0_heard_1 : List UInt8 := dkwX0_heard_1 ++ dktX0_heard_2
def dkwX0_heard_0 : List UInt8 := [42, 27, 182, 0, 169, 153, 0, 12, 28, 3, 6, 184, 0, 97, 154, 0, 7, 20, 0, 233, 173, 42]
abbrev dktX0_heard_0 : List UInt8 := dkwX0_heard_0 ++ dktX0_heard_1
theorem dksX0_heard_0 : cX0_heard.data.toList.drop 0 = dktX0_heard_0 := by decide +kernel
theorem dksX0_heard_1 : cX0_heard.data.toList.drop 22 = dktX0_heard_1 := dk_seg dksX0_heard_0 22 rfl rfl
theorem dksX0_heard_2 : cX0_heard.data.toList.drop 46 = dktX0_heard_2 := dk_seg dksX0_heard_1 24 rfl rfl
theorem dksX0_heard_3 : cX0_heard.data.toList.drop 70 = dktX0_heard_3 := dk_seg dksX0_heard_2 24 rfl rfl
theorem dksX0_heard_4 : cX0_heard.data.toList.drop 92 = dktX0_heard_4 := dk_seg dksX0_heard_3 22 rfl rfl
theorem dX0_heard_0 : decode cX0_heard 0 = .ok (.aload_n 0, 1) := dk_42 (dk_at dksX0_heard_0 0 rfl rfl)
theorem dX0_heard_1 : decode cX0_heard 1 = .ok (.iload_n 1, 1) := dk_27 (dk_at dksX0_heard_0 1 rfl rfl)
theorem dX0_heard_2 : decode cX0_heard 2 = .ok (.invokevirtual 169, 3) := dk_182 0 169 (dk_at dksX0_heard_0 2 rfl rfl)
theorem dX0_heard_5 : decode cX0_heard 5 = .ok (.ifCond .eq 12, 3) := dk_153 0 12 (dk_at dksX0_heard_0 5 rfl rfl)
theorem dX0_heard_8 : decode cX0_heard 8 = .ok (.iload_n 2, 1) := dk_28 (dk_at dksX0_heard_0 8 rfl rfl)
theorem dX0_heard_9 : decode cX0_heard 9 = .ok (.iconst 0, 1) := dk_3 (dk_at dksX0_heard_0 9 rfl rfl)
theorem dX0_heard_10 : decode cX0_heard 10 = .ok (.iconst 3, 1) := dk_6 (dk_at dksX0_heard_0 10 rfl rfl)
theorem dX0_heard_11 : decode cX0_heard 11 = .ok (.invokestatic 97, 3) := dk_184 0 97 (dk_at dksX0_heard_0 11 rfl rfl)
theorem dX0_heard_14 : decode cX0_heard 14 = .ok (.ifCond .ne 7, 3) := dk_154 0 7 (dk_at dksX0_heard_0 14 rfl rfl)
theorem dX0_heard_17 : decode cX0_heard 17 = .ok (.ldc2_w 233, 3) := dk_20 0 233 (dk_at dksX0_heard_0 17 rfl rfl)
theorem dX0_heard_20 : decode cX0_heard 20 = .ok (.lreturn, 1) := dk_173 (dk_at dksX0_heard_0 20 rfl rfl)
theorem dX0_heard_21 : decode cX0_heard 21 = .ok (.aload_n 0, 1) := dk_42 (dk_at dksX0_heard_0 21 rfl rfl)
theorem dX0_heard_22 : decode cX0_heard 22 = .ok (.invokevirtual 366, 3) := dk_182 1 110 (dk_at dksX0_heard_1 0 rfl rfl)
theorem dX0_heard_25 : decode cX0_heard 25 = .ok (.aload_n 0, 1) := dk_42 (dk_at dksX0_heard_1 3 rfl rfl)
theorem dX0_heard_26 : decode cX0_heard 26 = .ok (.invokevirtual 369, 3) := dk_182 1 113 (dk_at dksX0_heard_1 4 rfl rfl)
theorem dX0_heard_29 : decode cX0_heard 29 = .ok (.iconst 0, 1) := dk_3 (dk_at dksX0_heard_1 7 rfl rfl)
theorem dX0_heard_30 : decode cX0_heard 30 = .ok (.istore_n 3, 1) := dk_62 (dk_at dksX0_heard_1 8 rfl rfl)
theorem dX0_heard_31 : decode cX0_heard 31 = .ok (.iconst 0, 1) := dk_3 (dk_at dksX0_heard_1 9 rfl rfl)
theorem dX0_heard_32 : decode cX0_heard 32 = .ok (.istore 4, 2) := dk_54 4 (dk_at dksX0_heard_1 10 rfl rfl)
theorem dX0_heard_34 : decode cX0_heard 34 = .ok (.iload 4, 2) := dk_21 4 (dk_at dksX0_heard_1 12 rfl rfl)
theorem dX0_heard_36 : decode cX0_heard 36 = .ok (.bipush 25, 2) := dk_16 25 (dk_at dksX0_heard_1 14 rfl rfl)
theorem dX0_heard_38 : decode cX0_heard 38 = .ok (.if_icmp .ge 57, 3) := dk_162 0 57 (dk_at dksX0_heard_1 16 rfl rfl)
theorem dX0_heard_41 : decode cX0_heard 41 = .ok (.aload_n 0, 1) := dk_42 (dk_at dksX0_heard_1 19 rfl rfl)
theorem dX0_heard_42 : decode cX0_heard 42 = .ok (.aload_n 0, 1) := dk_42 (dk_at dksX0_heard_1 20 rfl rfl)
theorem dX0_heard_43 : decode cX0_heard 43 = .ok (.getfield 69, 3) := dk_180 0 69 (dk_at dksX0_heard_1 21 rfl rfl)
theorem dX0_heard_46 : decode cX0_heard 46 = .ok (.iload 4, 2) := dk_21 4 (dk_at dksX0_heard_2 0 rfl rfl)
theorem dX0_heard_48 : decode cX0_heard 48 = .ok (.aaload, 1) := dk_50 (dk_at dksX0_heard_2 2 rfl rfl)
theorem dX0_heard_49 : decode cX0_heard 49 = .ok (.iload_n 1, 1) := dk_27 (dk_at dksX0_heard_2 3 rfl rfl)
theorem dX0_heard_50 : decode cX0_heard 50 = .ok (.invokevirtual 383, 3) := dk_182 1 127 (dk_at dksX0_heard_2 4 rfl rfl)
theorem dX0_heard_53 : decode cX0_heard 53 = .ok (.aload_n 0, 1) := dk_42 (dk_at dksX0_heard_2 7 rfl rfl)
theorem dX0_heard_54 : decode cX0_heard 54 = .ok (.aload_n 0, 1) := dk_42 (dk_at dksX0_heard_2 8 rfl rfl)
theorem dX0_heard_55 : decode cX0_heard 55 = .ok (.iload_n 1, 1) := dk_27 (dk_at dksX0_heard_2 9 rfl rfl)
theorem dX0_heard_56 : decode cX0_heard 56 = .ok (.aload_n 0, 1) := dk_42 (dk_at dksX0_heard_2 10 rfl rfl)
theorem dX0_heard_57 : decode cX0_heard 57 = .ok (.getfield 69, 3) := dk_180 0 69 (dk_at dksX0_heard_2 11 rfl rfl)
theorem dX0_heard_60 : decode cX0_heard 60 = .ok (.iload 4, 2) := dk_21 4 (dk_at dksX0_heard_2 14 rfl rfl)
theorem dX0_heard_62 : decode cX0_heard 62 = .ok (.aaload, 1) := dk_50 (dk_at dksX0_heard_2 16 rfl rfl)
theorem dX0_heard_63 : decode cX0_heard 63 = .ok (.aload_n 0, 1) := dk_42 (dk_at dksX0_heard_2 17 rfl rfl)
theorem dX0_heard_64 : decode cX0_heard 64 = .ok (.getfield 76, 3) := dk_180 0 76 (dk_at dksX0_heard_2 18 rfl rfl)
theorem dX0_heard_67 : decode cX0_heard 67 = .ok (.invokevirtual 339, 3) := dk_182 1 83 (dk_at dksX0_heard_2 21 rfl rfl)
theorem dX0_heard_70 : decode cX0_heard 70 = .ok (.aload_n 0, 1) := dk_42 (dk_at dksX0_heard_3 0 rfl rfl)
theorem dX0_heard_71 : decode cX0_heard 71 = .ok (.getfield 69, 3) := dk_180 0 69 (dk_at dksX0_heard_3 1 rfl rfl)
theorem dX0_heard_74 : decode cX0_heard 74 = .ok (.iload 4, 2) := dk_21 4 (dk_at dksX0_heard_3 4 rfl rfl)
theorem dX0_heard_76 : decode cX0_heard 76 = .ok (.aaload, 1) := dk_50 (dk_at dksX0_heard_3 6 rfl rfl)
theorem dX0_heard_77 : decode cX0_heard 77 = .ok (.invokevirtual 343, 3) := dk_182 1 87 (dk_at dksX0_heard_3 7 rfl rfl)
theorem dX0_heard_80 : decode cX0_heard 80 = .ok (.invokevirtual 372, 3) := dk_182 1 116 (dk_at dksX0_heard_3 10 rfl rfl)
theorem dX0_heard_83 : decode cX0_heard 83 = .ok (.ifCond .eq 6, 3) := dk_153 0 6 (dk_at dksX0_heard_3 13 rfl rfl)
theorem dX0_heard_86 : decode cX0_heard 86 = .ok (.iload 4, 2) := dk_21 4 (dk_at dksX0_heard_3 16 rfl rfl)
theorem dX0_heard_88 : decode cX0_heard 88 = .ok (.istore_n 3, 1) := dk_62 (dk_at dksX0_heard_3 18 rfl rfl)
theorem dX0_heard_89 : decode cX0_heard 89 = .ok (.iinc 4 1, 3) := dk_132 4 1 (dk_at dksX0_heard_3 19 rfl rfl)
theorem dX0_heard_92 : decode cX0_heard 92 = .ok (.goto (-58), 3) := dk_167 255 198 (dk_at dksX0_heard_4 0 rfl rfl)
theorem dX0_heard_95 : decode cX0_heard 95 = .ok (.aload_n 0, 1) := dk_42 (dk_at dksX0_heard_4 3 rfl rfl)
theorem dX0_heard_96 : decode cX0_heard 96 = .ok (.iload_n 3, 1) := dk_29 (dk_at dksX0_heard_4 4 rfl rfl)
theorem dX0_heard_97 : decode cX0_heard 97 = .ok (.iload_n 2, 1) := dk_28 (dk_at dksX0_heard_4 5 rfl rfl)
theorem dX0_heard_98 : decode cX0_heard 98 = .ok (.invokevirtual 376, 3) := dk_182 1 120 (dk_at dksX0_heard_4 6 rfl rfl)
theorem dX0_heard_101 : decode cX0_heard 101 = .ok (.lreturn, 1) := dk_173 (dk_at dksX0_heard_4 9 rfl rfl)
abbrev cX0_hears : ByteArray := prog_1_method_71_code
def yX0_hears : MethodName := ⟨RX0, "hears", "(LRoseThrow$Flight;I)V"⟩
def dkwX0_hears_7 : List UInt8 := [132, 3, 1, 167, 255, 96, 177]
abbrev dktX0_hears_7 : List UInt8 := dkwX0_hears_7 ++ []
def dkwX0_hears_6 : List UInt8 := [22, 10, 55, 6, 21, 9, 54, 5, 132, 8, 1, 167, 255, 168, 42, 180, 0, 76, 29, 21, 5, 79]
abbrev dktX0_hears_6 : List UInt8 := dkwX0_hears_6 ++ dktX0_hears_7
def dkwX0_hears_5 : List UInt8 := [182, 1, 83, 55, 10, 42, 180, 0, 76, 29, 21, 4, 79, 22, 10, 22, 6, 148, 157, 0, 6, 167, 0, 11]
abbrev dktX0_hears_5 : List UInt8 := dkwX0_hears_5 ++ dktX0_hears_6
def dkwX0_hears_4 : List UInt8 := [182, 1, 21, 154, 0, 6, 167, 0, 50, 42, 180, 0, 76, 29, 21, 9, 79, 42, 29, 43, 42, 180, 0, 76]
abbrev dktX0_hears_4 : List UInt8 := dkwX0_hears_4 ++ dktX0_hears_5
def dkwX0_hears_3 : List UInt8 := [21, 4, 21, 8, 184, 1, 124, 54, 9, 21, 9, 2, 159, 0, 67, 42, 42, 180, 0, 76, 29, 21, 9]
abbrev dktX0_hears_3 : List UInt8 := dkwX0_hears_3 ++ dktX0_hears_4
def dkwX0_hears_2 : List UInt8 := [54, 5, 42, 29, 43, 42, 180, 0, 76, 182, 1, 83, 55, 6, 3, 54, 8, 21, 8, 7, 162, 0, 88]
abbrev dktX0_hears_2 : List UInt8 := dkwX0_hears_2 ++ dktX0_hears_3
def dkwX0_hears_1 : List UInt8 := [180, 0, 16, 180, 0, 156, 29, 46, 157, 0, 6, 167, 0, 129, 42, 180, 0, 76, 29, 46, 54, 4, 21, 4]
abbrev dktX0_hears_1 : List UInt8 := dkwX0_hears_1 ++ dktX0_hears_2
def dkwX0_hears_0 : List UInt8 := [42, 182, 1, 91, 3, 62, 29, 42, 180, 0, 16, 180, 0, 118, 162, 0, 155, 29, 28, 159, 0, 144, 42]
abbrev dktX0_hears_0 : List UInt8 := dkwX0_hears_0 ++ dktX0_hears_1
theorem dksX0_hears_0 : cX0_hears.data.toList.drop 0 = dktX0_hears_0 := by decide +kernel
theorem dksX0_hears_1 : cX0_hears.data.toList.drop 23 = dktX0_hears_1 := dk_seg dksX0_hears_0 23 rfl rfl
theorem dksX0_hears_2 : cX0_hears.data.toList.drop 47 = dktX0_hears_2 := dk_seg dksX0_hears_1 24 rfl rfl
theorem dksX0_hears_3 : cX0_hears.data.toList.drop 70 = dktX0_hears_3 := dk_seg dksX0_hears_2 23 rfl rfl
theorem dksX0_hears_4 : cX0_hears.data.toList.drop 93 = dktX0_hears_4 := dk_seg dksX0_hears_3 23 rfl rfl
theorem dksX0_hears_5 : cX0_hears.data.toList.drop 117 = dktX0_hears_5 := dk_seg dksX0_hears_4 24 rfl rfl
theorem dksX0_hears_6 : cX0_hears.data.toList.drop 141 = dktX0_hears_6 := dk_seg dksX0_hears_5 24 rfl rfl
theorem dksX0_hears_7 : cX0_hears.data.toList.drop 163 = dktX0_hears_7 := dk_seg dksX0_hears_6 22 rfl rfl
theorem dX0_hears_0 : decode cX0_hears 0 = .ok (.aload_n 0, 1) := dk_42 (dk_at dksX0_hears_0 0 rfl rfl)
theorem dX0_hears_1 : decode cX0_hears 1 = .ok (.invokevirtual 347, 3) := dk_182 1 91 (dk_at dksX0_hears_0 1 rfl rfl)
theorem dX0_hears_4 : decode cX0_hears 4 = .ok (.iconst 0, 1) := dk_3 (dk_at dksX0_hears_0 4 rfl rfl)
theorem dX0_hears_5 : decode cX0_hears 5 = .ok (.istore_n 3, 1) := dk_62 (dk_at dksX0_hears_0 5 rfl rfl)
theorem dX0_hears_6 : decode cX0_hears 6 = .ok (.iload_n 3, 1) := dk_29 (dk_at dksX0_hears_0 6 rfl rfl)
theorem dX0_hears_7 : decode cX0_hears 7 = .ok (.aload_n 0, 1) := dk_42 (dk_at dksX0_hears_0 7 rfl rfl)
theorem dX0_hears_8 : decode cX0_hears 8 = .ok (.getfield 16, 3) := dk_180 0 16 (dk_at dksX0_hears_0 8 rfl rfl)
theorem dX0_hears_11 : decode cX0_hears 11 = .ok (.getfield 118, 3) := dk_180 0 118 (dk_at dksX0_hears_0 11 rfl rfl)
theorem dX0_hears_14 : decode cX0_hears 14 = .ok (.if_icmp .ge 155, 3) := dk_162 0 155 (dk_at dksX0_hears_0 14 rfl rfl)
theorem dX0_hears_17 : decode cX0_hears 17 = .ok (.iload_n 3, 1) := dk_29 (dk_at dksX0_hears_0 17 rfl rfl)
theorem dX0_hears_18 : decode cX0_hears 18 = .ok (.iload_n 2, 1) := dk_28 (dk_at dksX0_hears_0 18 rfl rfl)
theorem dX0_hears_19 : decode cX0_hears 19 = .ok (.if_icmp .eq 144, 3) := dk_159 0 144 (dk_at dksX0_hears_0 19 rfl rfl)
theorem dX0_hears_22 : decode cX0_hears 22 = .ok (.aload_n 0, 1) := dk_42 (dk_at dksX0_hears_0 22 rfl rfl)
theorem dX0_hears_23 : decode cX0_hears 23 = .ok (.getfield 16, 3) := dk_180 0 16 (dk_at dksX0_hears_1 0 rfl rfl)
theorem dX0_hears_26 : decode cX0_hears 26 = .ok (.getfield 156, 3) := dk_180 0 156 (dk_at dksX0_hears_1 3 rfl rfl)
theorem dX0_hears_29 : decode cX0_hears 29 = .ok (.iload_n 3, 1) := dk_29 (dk_at dksX0_hears_1 6 rfl rfl)
theorem dX0_hears_30 : decode cX0_hears 30 = .ok (.iaload, 1) := dk_46 (dk_at dksX0_hears_1 7 rfl rfl)
theorem dX0_hears_31 : decode cX0_hears 31 = .ok (.ifCond .gt 6, 3) := dk_157 0 6 (dk_at dksX0_hears_1 8 rfl rfl)
theorem dX0_hears_34 : decode cX0_hears 34 = .ok (.goto 129, 3) := dk_167 0 129 (dk_at dksX0_hears_1 11 rfl rfl)
theorem dX0_hears_37 : decode cX0_hears 37 = .ok (.aload_n 0, 1) := dk_42 (dk_at dksX0_hears_1 14 rfl rfl)
theorem dX0_hears_38 : decode cX0_hears 38 = .ok (.getfield 76, 3) := dk_180 0 76 (dk_at dksX0_hears_1 15 rfl rfl)
theorem dX0_hears_41 : decode cX0_hears 41 = .ok (.iload_n 3, 1) := dk_29 (dk_at dksX0_hears_1 18 rfl rfl)
theorem dX0_hears_42 : decode cX0_hears 42 = .ok (.iaload, 1) := dk_46 (dk_at dksX0_hears_1 19 rfl rfl)
theorem dX0_hears_43 : decode cX0_hears 43 = .ok (.istore 4, 2) := dk_54 4 (dk_at dksX0_hears_1 20 rfl rfl)
theorem dX0_hears_45 : decode cX0_hears 45 = .ok (.iload 4, 2) := dk_21 4 (dk_at dksX0_hears_1 22 rfl rfl)
theorem dX0_hears_47 : decode cX0_hears 47 = .ok (.istore 5, 2) := dk_54 5 (dk_at dksX0_hears_2 0 rfl rfl)
theorem dX0_hears_49 : decode cX0_hears 49 = .ok (.aload_n 0, 1) := dk_42 (dk_at dksX0_hears_2 2 rfl rfl)
theorem dX0_hears_50 : decode cX0_hears 50 = .ok (.iload_n 3, 1) := dk_29 (dk_at dksX0_hears_2 3 rfl rfl)
theorem dX0_hears_51 : decode cX0_hears 51 = .ok (.aload_n 1, 1) := dk_43 (dk_at dksX0_hears_2 4 rfl rfl)
theorem dX0_hears_52 : decode cX0_hears 52 = .ok (.aload_n 0, 1) := dk_42 (dk_at dksX0_hears_2 5 rfl rfl)
theorem dX0_hears_53 : decode cX0_hears 53 = .ok (.getfield 76, 3) := dk_180 0 76 (dk_at dksX0_hears_2 6 rfl rfl)
theorem dX0_hears_56 : decode cX0_hears 56 = .ok (.invokevirtual 339, 3) := dk_182 1 83 (dk_at dksX0_hears_2 9 rfl rfl)
theorem dX0_hears_59 : decode cX0_hears 59 = .ok (.lstore 6, 2) := dk_55 6 (dk_at dksX0_hears_2 12 rfl rfl)
theorem dX0_hears_61 : decode cX0_hears 61 = .ok (.iconst 0, 1) := dk_3 (dk_at dksX0_hears_2 14 rfl rfl)
theorem dX0_hears_62 : decode cX0_hears 62 = .ok (.istore 8, 2) := dk_54 8 (dk_at dksX0_hears_2 15 rfl rfl)
theorem dX0_hears_64 : decode cX0_hears 64 = .ok (.iload 8, 2) := dk_21 8 (dk_at dksX0_hears_2 17 rfl rfl)
theorem dX0_hears_66 : decode cX0_hears 66 = .ok (.iconst 4, 1) := dk_7 (dk_at dksX0_hears_2 19 rfl rfl)
theorem dX0_hears_67 : decode cX0_hears 67 = .ok (.if_icmp .ge 88, 3) := dk_162 0 88 (dk_at dksX0_hears_2 20 rfl rfl)
theorem dX0_hears_70 : decode cX0_hears 70 = .ok (.iload 4, 2) := dk_21 4 (dk_at dksX0_hears_3 0 rfl rfl)
theorem dX0_hears_72 : decode cX0_hears 72 = .ok (.iload 8, 2) := dk_21 8 (dk_at dksX0_hears_3 2 rfl rfl)
theorem dX0_hears_74 : decode cX0_hears 74 = .ok (.invokestatic 380, 3) := dk_184 1 124 (dk_at dksX0_hears_3 4 rfl rfl)
theorem dX0_hears_77 : decode cX0_hears 77 = .ok (.istore 9, 2) := dk_54 9 (dk_at dksX0_hears_3 7 rfl rfl)
theorem dX0_hears_79 : decode cX0_hears 79 = .ok (.iload 9, 2) := dk_21 9 (dk_at dksX0_hears_3 9 rfl rfl)
theorem dX0_hears_81 : decode cX0_hears 81 = .ok (.iconst (-1), 1) := dk_2 (dk_at dksX0_hears_3 11 rfl rfl)
theorem dX0_hears_82 : decode cX0_hears 82 = .ok (.if_icmp .eq 67, 3) := dk_159 0 67 (dk_at dksX0_hears_3 12 rfl rfl)
theorem dX0_hears_85 : decode cX0_hears 85 = .ok (.aload_n 0, 1) := dk_42 (dk_at dksX0_hears_3 15 rfl rfl)
theorem dX0_hears_86 : decode cX0_hears 86 = .ok (.aload_n 0, 1) := dk_42 (dk_at dksX0_hears_3 16 rfl rfl)
theorem dX0_hears_87 : decode cX0_hears 87 = .ok (.getfield 76, 3) := dk_180 0 76 (dk_at dksX0_hears_3 17 rfl rfl)
theorem dX0_hears_90 : decode cX0_hears 90 = .ok (.iload_n 3, 1) := dk_29 (dk_at dksX0_hears_3 20 rfl rfl)
theorem dX0_hears_91 : decode cX0_hears 91 = .ok (.iload 9, 2) := dk_21 9 (dk_at dksX0_hears_3 21 rfl rfl)
theorem dX0_hears_93 : decode cX0_hears 93 = .ok (.invokevirtual 277, 3) := dk_182 1 21 (dk_at dksX0_hears_4 0 rfl rfl)
theorem dX0_hears_96 : decode cX0_hears 96 = .ok (.ifCond .ne 6, 3) := dk_154 0 6 (dk_at dksX0_hears_4 3 rfl rfl)
theorem dX0_hears_99 : decode cX0_hears 99 = .ok (.goto 50, 3) := dk_167 0 50 (dk_at dksX0_hears_4 6 rfl rfl)
theorem dX0_hears_102 : decode cX0_hears 102 = .ok (.aload_n 0, 1) := dk_42 (dk_at dksX0_hears_4 9 rfl rfl)
theorem dX0_hears_103 : decode cX0_hears 103 = .ok (.getfield 76, 3) := dk_180 0 76 (dk_at dksX0_hears_4 10 rfl rfl)
theorem dX0_hears_106 : decode cX0_hears 106 = .ok (.iload_n 3, 1) := dk_29 (dk_at dksX0_hears_4 13 rfl rfl)
theorem dX0_hears_107 : decode cX0_hears 107 = .ok (.iload 9, 2) := dk_21 9 (dk_at dksX0_hears_4 14 rfl rfl)
theorem dX0_hears_109 : decode cX0_hears 109 = .ok (.iastore, 1) := dk_79 (dk_at dksX0_hears_4 16 rfl rfl)
theorem dX0_hears_110 : decode cX0_hears 110 = .ok (.aload_n 0, 1) := dk_42 (dk_at dksX0_hears_4 17 rfl rfl)
theorem dX0_hears_111 : decode cX0_hears 111 = .ok (.iload_n 3, 1) := dk_29 (dk_at dksX0_hears_4 18 rfl rfl)
theorem dX0_hears_112 : decode cX0_hears 112 = .ok (.aload_n 1, 1) := dk_43 (dk_at dksX0_hears_4 19 rfl rfl)
theorem dX0_hears_113 : decode cX0_hears 113 = .ok (.aload_n 0, 1) := dk_42 (dk_at dksX0_hears_4 20 rfl rfl)
theorem dX0_hears_114 : decode cX0_hears 114 = .ok (.getfield 76, 3) := dk_180 0 76 (dk_at dksX0_hears_4 21 rfl rfl)
theorem dX0_hears_117 : decode cX0_hears 117 = .ok (.invokevirtual 339, 3) := dk_182 1 83 (dk_at dksX0_hears_5 0 rfl rfl)
theorem dX0_hears_120 : decode cX0_hears 120 = .ok (.lstore 10, 2) := dk_55 10 (dk_at dksX0_hears_5 3 rfl rfl)
theorem dX0_hears_122 : decode cX0_hears 122 = .ok (.aload_n 0, 1) := dk_42 (dk_at dksX0_hears_5 5 rfl rfl)
theorem dX0_hears_123 : decode cX0_hears 123 = .ok (.getfield 76, 3) := dk_180 0 76 (dk_at dksX0_hears_5 6 rfl rfl)
theorem dX0_hears_126 : decode cX0_hears 126 = .ok (.iload_n 3, 1) := dk_29 (dk_at dksX0_hears_5 9 rfl rfl)
theorem dX0_hears_127 : decode cX0_hears 127 = .ok (.iload 4, 2) := dk_21 4 (dk_at dksX0_hears_5 10 rfl rfl)
theorem dX0_hears_129 : decode cX0_hears 129 = .ok (.iastore, 1) := dk_79 (dk_at dksX0_hears_5 12 rfl rfl)
theorem dX0_hears_130 : decode cX0_hears 130 = .ok (.lload 10, 2) := dk_22 10 (dk_at dksX0_hears_5 13 rfl rfl)
theorem dX0_hears_132 : decode cX0_hears 132 = .ok (.lload 6, 2) := dk_22 6 (dk_at dksX0_hears_5 15 rfl rfl)
theorem dX0_hears_134 : decode cX0_hears 134 = .ok (.lcmp, 1) := dk_148 (dk_at dksX0_hears_5 17 rfl rfl)
theorem dX0_hears_135 : decode cX0_hears 135 = .ok (.ifCond .gt 6, 3) := dk_157 0 6 (dk_at dksX0_hears_5 18 rfl rfl)
theorem dX0_hears_138 : decode cX0_hears 138 = .ok (.goto 11, 3) := dk_167 0 11 (dk_at dksX0_hears_5 21 rfl rfl)
theorem dX0_hears_141 : decode cX0_hears 141 = .ok (.lload 10, 2) := dk_22 10 (dk_at dksX0_hears_6 0 rfl rfl)
theorem dX0_hears_143 : decode cX0_hears 143 = .ok (.lstore 6, 2) := dk_55 6 (dk_at dksX0_hears_6 2 rfl rfl)
theorem dX0_hears_145 : decode cX0_hears 145 = .ok (.iload 9, 2) := dk_21 9 (dk_at dksX0_hears_6 4 rfl rfl)
theorem dX0_hears_147 : decode cX0_hears 147 = .ok (.istore 5, 2) := dk_54 5 (dk_at dksX0_hears_6 6 rfl rfl)
theorem dX0_hears_149 : decode cX0_hears 149 = .ok (.iinc 8 1, 3) := dk_132 8 1 (dk_at dksX0_hears_6 8 rfl rfl)
theorem dX0_hears_152 : decode cX0_hears 152 = .ok (.goto (-88), 3) := dk_167 255 168 (dk_at dksX0_hears_6 11 rfl rfl)
theorem dX0_hears_155 : decode cX0_hears 155 = .ok (.aload_n 0, 1) := dk_42 (dk_at dksX0_hears_6 14 rfl rfl)
theorem dX0_hears_156 : decode cX0_hears 156 = .ok (.getfield 76, 3) := dk_180 0 76 (dk_at dksX0_hears_6 15 rfl rfl)
theorem dX0_hears_159 : decode cX0_hears 159 = .ok (.iload_n 3, 1) := dk_29 (dk_at dksX0_hears_6 18 rfl rfl)
theorem dX0_hears_160 : decode cX0_hears 160 = .ok (.iload 5, 2) := dk_21 5 (dk_at dksX0_hears_6 19 rfl rfl)
theorem dX0_hears_162 : decode cX0_hears 162 = .ok (.iastore, 1) := dk_79 (dk_at dksX0_hears_6 21 rfl rfl)
theorem dX0_hears_163 : decode cX0_hears 163 = .ok (.iinc 3 1, 3) := dk_132 3 1 (dk_at dksX0_hears_7 0 rfl rfl)
theorem dX0_hears_166 : decode cX0_hears 166 = .ok (.goto (-160), 3) := dk_167 255 96 (dk_at dksX0_hears_7 3 rfl rfl)
theorem dX0_hears_169 : decode cX0_hears 169 = .ok (.return_, 1) := dk_177 (dk_at dksX0_hears_7 6 rfl rfl)
abbrev cX0_beside : ByteArray := prog_1_method_10_code
def yX0_beside : MethodName := ⟨RX0, "beside", "(II)I"⟩
def dkwX0_beside_2 : List UInt8 := [184, 0, 105, 172]
abbrev dktX0_beside_2 : List UInt8 := dkwX0_beside_2 ++ []
def dkwX0_beside_1 : List UInt8 := [26, 16, 6, 108, 27, 154, 0, 7, 2, 167, 0, 13, 27, 5, 160, 0, 7, 4, 167, 0, 4, 3, 96]
abbrev dktX0_beside_1 : List UInt8 := dkwX0_beside_1 ++ dktX0_beside_2
def dkwX0_beside_0 : List UInt8 := [26, 16, 6, 112, 27, 4, 160, 0, 7, 4, 167, 0, 13, 27, 6, 160, 0, 7, 2, 167, 0, 4, 3, 96]
abbrev dktX0_beside_0 : List UInt8 := dkwX0_beside_0 ++ dktX0_beside_1
theorem dksX0_beside_0 : cX0_beside.data.toList.drop 0 = dktX0_beside_0 := by decide +kernel
theorem dksX0_beside_1 : cX0_beside.data.toList.drop 24 = dktX0_beside_1 := dk_seg dksX0_beside_0 24 rfl rfl
theorem dksX0_beside_2 : cX0_beside.data.toList.drop 47 = dktX0_beside_2 := dk_seg dksX0_beside_1 23 rfl rfl
theorem dX0_beside_0 : decode cX0_beside 0 = .ok (.iload_n 0, 1) := dk_26 (dk_at dksX0_beside_0 0 rfl rfl)
theorem dX0_beside_1 : decode cX0_beside 1 = .ok (.bipush 6, 2) := dk_16 6 (dk_at dksX0_beside_0 1 rfl rfl)
theorem dX0_beside_3 : decode cX0_beside 3 = .ok (.irem, 1) := dk_112 (dk_at dksX0_beside_0 3 rfl rfl)
theorem dX0_beside_4 : decode cX0_beside 4 = .ok (.iload_n 1, 1) := dk_27 (dk_at dksX0_beside_0 4 rfl rfl)
theorem dX0_beside_5 : decode cX0_beside 5 = .ok (.iconst 1, 1) := dk_4 (dk_at dksX0_beside_0 5 rfl rfl)
theorem dX0_beside_6 : decode cX0_beside 6 = .ok (.if_icmp .ne 7, 3) := dk_160 0 7 (dk_at dksX0_beside_0 6 rfl rfl)
theorem dX0_beside_9 : decode cX0_beside 9 = .ok (.iconst 1, 1) := dk_4 (dk_at dksX0_beside_0 9 rfl rfl)
theorem dX0_beside_10 : decode cX0_beside 10 = .ok (.goto 13, 3) := dk_167 0 13 (dk_at dksX0_beside_0 10 rfl rfl)
theorem dX0_beside_13 : decode cX0_beside 13 = .ok (.iload_n 1, 1) := dk_27 (dk_at dksX0_beside_0 13 rfl rfl)
theorem dX0_beside_14 : decode cX0_beside 14 = .ok (.iconst 3, 1) := dk_6 (dk_at dksX0_beside_0 14 rfl rfl)
theorem dX0_beside_15 : decode cX0_beside 15 = .ok (.if_icmp .ne 7, 3) := dk_160 0 7 (dk_at dksX0_beside_0 15 rfl rfl)
theorem dX0_beside_18 : decode cX0_beside 18 = .ok (.iconst (-1), 1) := dk_2 (dk_at dksX0_beside_0 18 rfl rfl)
theorem dX0_beside_19 : decode cX0_beside 19 = .ok (.goto 4, 3) := dk_167 0 4 (dk_at dksX0_beside_0 19 rfl rfl)
theorem dX0_beside_22 : decode cX0_beside 22 = .ok (.iconst 0, 1) := dk_3 (dk_at dksX0_beside_0 22 rfl rfl)
theorem dX0_beside_23 : decode cX0_beside 23 = .ok (.iadd, 1) := dk_96 (dk_at dksX0_beside_0 23 rfl rfl)
theorem dX0_beside_24 : decode cX0_beside 24 = .ok (.iload_n 0, 1) := dk_26 (dk_at dksX0_beside_1 0 rfl rfl)
theorem dX0_beside_25 : decode cX0_beside 25 = .ok (.bipush 6, 2) := dk_16 6 (dk_at dksX0_beside_1 1 rfl rfl)
theorem dX0_beside_27 : decode cX0_beside 27 = .ok (.idiv, 1) := dk_108 (dk_at dksX0_beside_1 3 rfl rfl)
theorem dX0_beside_28 : decode cX0_beside 28 = .ok (.iload_n 1, 1) := dk_27 (dk_at dksX0_beside_1 4 rfl rfl)
theorem dX0_beside_29 : decode cX0_beside 29 = .ok (.ifCond .ne 7, 3) := dk_154 0 7 (dk_at dksX0_beside_1 5 rfl rfl)
theorem dX0_beside_32 : decode cX0_beside 32 = .ok (.iconst (-1), 1) := dk_2 (dk_at dksX0_beside_1 8 rfl rfl)
theorem dX0_beside_33 : decode cX0_beside 33 = .ok (.goto 13, 3) := dk_167 0 13 (dk_at dksX0_beside_1 9 rfl rfl)
theorem dX0_beside_36 : decode cX0_beside 36 = .ok (.iload_n 1, 1) := dk_27 (dk_at dksX0_beside_1 12 rfl rfl)
theorem dX0_beside_37 : decode cX0_beside 37 = .ok (.iconst 2, 1) := dk_5 (dk_at dksX0_beside_1 13 rfl rfl)
theorem dX0_beside_38 : decode cX0_beside 38 = .ok (.if_icmp .ne 7, 3) := dk_160 0 7 (dk_at dksX0_beside_1 14 rfl rfl)
theorem dX0_beside_41 : decode cX0_beside 41 = .ok (.iconst 1, 1) := dk_4 (dk_at dksX0_beside_1 17 rfl rfl)
theorem dX0_beside_42 : decode cX0_beside 42 = .ok (.goto 4, 3) := dk_167 0 4 (dk_at dksX0_beside_1 18 rfl rfl)
theorem dX0_beside_45 : decode cX0_beside 45 = .ok (.iconst 0, 1) := dk_3 (dk_at dksX0_beside_1 21 rfl rfl)
theorem dX0_beside_46 : decode cX0_beside 46 = .ok (.iadd, 1) := dk_96 (dk_at dksX0_beside_1 22 rfl rfl)
theorem dX0_beside_47 : decode cX0_beside 47 = .ok (.invokestatic 105, 3) := dk_184 0 105 (dk_at dksX0_beside_2 0 rfl rfl)
theorem dX0_beside_50 : decode cX0_beside 50 = .ok (.ireturn, 1) := dk_172 (dk_at dksX0_beside_2 3 rfl rfl)
abbrev cX0_feint : ByteArray := prog_1_method_73_code
def yX0_feint : MethodName := ⟨RX0, "feint", "(II)J"⟩
def dkwX0_feint_6 : List UInt8 := [5, 100, 182, 1, 120, 173]
abbrev dktX0_feint_6 : List UInt8 := dkwX0_feint_6 ++ []
def dkwX0_feint_5 : List UInt8 := [132, 5, 1, 167, 255, 175, 28, 5, 162, 0, 12, 42, 29, 28, 182, 1, 120, 167, 0, 12, 42, 21, 4, 28]
abbrev dktX0_feint_5 : List UInt8 := dkwX0_feint_5 ++ dktX0_feint_6
def dkwX0_feint_4 : List UInt8 := [182, 1, 116, 154, 0, 6, 167, 0, 10, 21, 5, 62, 21, 6, 54, 4, 132, 6, 1, 167, 255, 203]
abbrev dktX0_feint_4 : List UInt8 := dkwX0_feint_4 ++ dktX0_feint_5
def dkwX0_feint_3 : List UInt8 := [180, 0, 69, 21, 6, 50, 42, 180, 0, 76, 182, 1, 83, 42, 180, 0, 69, 21, 6, 50, 182, 1, 87]
abbrev dktX0_feint_3 : List UInt8 := dkwX0_feint_3 ++ dktX0_feint_4
def dkwX0_feint_2 : List UInt8 := [180, 0, 69, 21, 5, 50, 27, 182, 1, 127, 3, 54, 6, 21, 6, 16, 25, 162, 0, 52, 42, 42, 27, 42]
abbrev dktX0_feint_2 : List UInt8 := dkwX0_feint_2 ++ dktX0_feint_3
def dkwX0_feint_1 : List UInt8 := [182, 1, 110, 42, 182, 1, 113, 3, 62, 3, 54, 4, 3, 54, 5, 21, 5, 16, 25, 162, 0, 80, 42, 42]
abbrev dktX0_feint_1 : List UInt8 := dkwX0_feint_1 ++ dktX0_feint_2
def dkwX0_feint_0 : List UInt8 := [42, 27, 182, 0, 169, 153, 0, 12, 28, 3, 8, 184, 0, 97, 154, 0, 7, 20, 0, 233, 173, 42]
abbrev dktX0_feint_0 : List UInt8 := dkwX0_feint_0 ++ dktX0_feint_1
theorem dksX0_feint_0 : cX0_feint.data.toList.drop 0 = dktX0_feint_0 := by decide +kernel
theorem dksX0_feint_1 : cX0_feint.data.toList.drop 22 = dktX0_feint_1 := dk_seg dksX0_feint_0 22 rfl rfl
theorem dksX0_feint_2 : cX0_feint.data.toList.drop 46 = dktX0_feint_2 := dk_seg dksX0_feint_1 24 rfl rfl
theorem dksX0_feint_3 : cX0_feint.data.toList.drop 70 = dktX0_feint_3 := dk_seg dksX0_feint_2 24 rfl rfl
theorem dksX0_feint_4 : cX0_feint.data.toList.drop 93 = dktX0_feint_4 := dk_seg dksX0_feint_3 23 rfl rfl
theorem dksX0_feint_5 : cX0_feint.data.toList.drop 115 = dktX0_feint_5 := dk_seg dksX0_feint_4 22 rfl rfl
theorem dksX0_feint_6 : cX0_feint.data.toList.drop 139 = dktX0_feint_6 := dk_seg dksX0_feint_5 24 rfl rfl
theorem dX0_feint_0 : decode cX0_feint 0 = .ok (.aload_n 0, 1) := dk_42 (dk_at dksX0_feint_0 0 rfl rfl)
theorem dX0_feint_1 : decode cX0_feint 1 = .ok (.iload_n 1, 1) := dk_27 (dk_at dksX0_feint_0 1 rfl rfl)
theorem dX0_feint_2 : decode cX0_feint 2 = .ok (.invokevirtual 169, 3) := dk_182 0 169 (dk_at dksX0_feint_0 2 rfl rfl)
theorem dX0_feint_5 : decode cX0_feint 5 = .ok (.ifCond .eq 12, 3) := dk_153 0 12 (dk_at dksX0_feint_0 5 rfl rfl)
theorem dX0_feint_8 : decode cX0_feint 8 = .ok (.iload_n 2, 1) := dk_28 (dk_at dksX0_feint_0 8 rfl rfl)
theorem dX0_feint_9 : decode cX0_feint 9 = .ok (.iconst 0, 1) := dk_3 (dk_at dksX0_feint_0 9 rfl rfl)
theorem dX0_feint_10 : decode cX0_feint 10 = .ok (.iconst 5, 1) := dk_8 (dk_at dksX0_feint_0 10 rfl rfl)
theorem dX0_feint_11 : decode cX0_feint 11 = .ok (.invokestatic 97, 3) := dk_184 0 97 (dk_at dksX0_feint_0 11 rfl rfl)
theorem dX0_feint_14 : decode cX0_feint 14 = .ok (.ifCond .ne 7, 3) := dk_154 0 7 (dk_at dksX0_feint_0 14 rfl rfl)
theorem dX0_feint_17 : decode cX0_feint 17 = .ok (.ldc2_w 233, 3) := dk_20 0 233 (dk_at dksX0_feint_0 17 rfl rfl)
theorem dX0_feint_20 : decode cX0_feint 20 = .ok (.lreturn, 1) := dk_173 (dk_at dksX0_feint_0 20 rfl rfl)
theorem dX0_feint_21 : decode cX0_feint 21 = .ok (.aload_n 0, 1) := dk_42 (dk_at dksX0_feint_0 21 rfl rfl)
theorem dX0_feint_22 : decode cX0_feint 22 = .ok (.invokevirtual 366, 3) := dk_182 1 110 (dk_at dksX0_feint_1 0 rfl rfl)
theorem dX0_feint_25 : decode cX0_feint 25 = .ok (.aload_n 0, 1) := dk_42 (dk_at dksX0_feint_1 3 rfl rfl)
theorem dX0_feint_26 : decode cX0_feint 26 = .ok (.invokevirtual 369, 3) := dk_182 1 113 (dk_at dksX0_feint_1 4 rfl rfl)
theorem dX0_feint_29 : decode cX0_feint 29 = .ok (.iconst 0, 1) := dk_3 (dk_at dksX0_feint_1 7 rfl rfl)
theorem dX0_feint_30 : decode cX0_feint 30 = .ok (.istore_n 3, 1) := dk_62 (dk_at dksX0_feint_1 8 rfl rfl)
theorem dX0_feint_31 : decode cX0_feint 31 = .ok (.iconst 0, 1) := dk_3 (dk_at dksX0_feint_1 9 rfl rfl)
theorem dX0_feint_32 : decode cX0_feint 32 = .ok (.istore 4, 2) := dk_54 4 (dk_at dksX0_feint_1 10 rfl rfl)
theorem dX0_feint_34 : decode cX0_feint 34 = .ok (.iconst 0, 1) := dk_3 (dk_at dksX0_feint_1 12 rfl rfl)
theorem dX0_feint_35 : decode cX0_feint 35 = .ok (.istore 5, 2) := dk_54 5 (dk_at dksX0_feint_1 13 rfl rfl)
theorem dX0_feint_37 : decode cX0_feint 37 = .ok (.iload 5, 2) := dk_21 5 (dk_at dksX0_feint_1 15 rfl rfl)
theorem dX0_feint_39 : decode cX0_feint 39 = .ok (.bipush 25, 2) := dk_16 25 (dk_at dksX0_feint_1 17 rfl rfl)
theorem dX0_feint_41 : decode cX0_feint 41 = .ok (.if_icmp .ge 80, 3) := dk_162 0 80 (dk_at dksX0_feint_1 19 rfl rfl)
theorem dX0_feint_44 : decode cX0_feint 44 = .ok (.aload_n 0, 1) := dk_42 (dk_at dksX0_feint_1 22 rfl rfl)
theorem dX0_feint_45 : decode cX0_feint 45 = .ok (.aload_n 0, 1) := dk_42 (dk_at dksX0_feint_1 23 rfl rfl)
theorem dX0_feint_46 : decode cX0_feint 46 = .ok (.getfield 69, 3) := dk_180 0 69 (dk_at dksX0_feint_2 0 rfl rfl)
theorem dX0_feint_49 : decode cX0_feint 49 = .ok (.iload 5, 2) := dk_21 5 (dk_at dksX0_feint_2 3 rfl rfl)
theorem dX0_feint_51 : decode cX0_feint 51 = .ok (.aaload, 1) := dk_50 (dk_at dksX0_feint_2 5 rfl rfl)
theorem dX0_feint_52 : decode cX0_feint 52 = .ok (.iload_n 1, 1) := dk_27 (dk_at dksX0_feint_2 6 rfl rfl)
theorem dX0_feint_53 : decode cX0_feint 53 = .ok (.invokevirtual 383, 3) := dk_182 1 127 (dk_at dksX0_feint_2 7 rfl rfl)
theorem dX0_feint_56 : decode cX0_feint 56 = .ok (.iconst 0, 1) := dk_3 (dk_at dksX0_feint_2 10 rfl rfl)
theorem dX0_feint_57 : decode cX0_feint 57 = .ok (.istore 6, 2) := dk_54 6 (dk_at dksX0_feint_2 11 rfl rfl)
theorem dX0_feint_59 : decode cX0_feint 59 = .ok (.iload 6, 2) := dk_21 6 (dk_at dksX0_feint_2 13 rfl rfl)
theorem dX0_feint_61 : decode cX0_feint 61 = .ok (.bipush 25, 2) := dk_16 25 (dk_at dksX0_feint_2 15 rfl rfl)
theorem dX0_feint_63 : decode cX0_feint 63 = .ok (.if_icmp .ge 52, 3) := dk_162 0 52 (dk_at dksX0_feint_2 17 rfl rfl)
theorem dX0_feint_66 : decode cX0_feint 66 = .ok (.aload_n 0, 1) := dk_42 (dk_at dksX0_feint_2 20 rfl rfl)
theorem dX0_feint_67 : decode cX0_feint 67 = .ok (.aload_n 0, 1) := dk_42 (dk_at dksX0_feint_2 21 rfl rfl)
theorem dX0_feint_68 : decode cX0_feint 68 = .ok (.iload_n 1, 1) := dk_27 (dk_at dksX0_feint_2 22 rfl rfl)
theorem dX0_feint_69 : decode cX0_feint 69 = .ok (.aload_n 0, 1) := dk_42 (dk_at dksX0_feint_2 23 rfl rfl)
theorem dX0_feint_70 : decode cX0_feint 70 = .ok (.getfield 69, 3) := dk_180 0 69 (dk_at dksX0_feint_3 0 rfl rfl)
theorem dX0_feint_73 : decode cX0_feint 73 = .ok (.iload 6, 2) := dk_21 6 (dk_at dksX0_feint_3 3 rfl rfl)
theorem dX0_feint_75 : decode cX0_feint 75 = .ok (.aaload, 1) := dk_50 (dk_at dksX0_feint_3 5 rfl rfl)
theorem dX0_feint_76 : decode cX0_feint 76 = .ok (.aload_n 0, 1) := dk_42 (dk_at dksX0_feint_3 6 rfl rfl)
theorem dX0_feint_77 : decode cX0_feint 77 = .ok (.getfield 76, 3) := dk_180 0 76 (dk_at dksX0_feint_3 7 rfl rfl)
theorem dX0_feint_80 : decode cX0_feint 80 = .ok (.invokevirtual 339, 3) := dk_182 1 83 (dk_at dksX0_feint_3 10 rfl rfl)
theorem dX0_feint_83 : decode cX0_feint 83 = .ok (.aload_n 0, 1) := dk_42 (dk_at dksX0_feint_3 13 rfl rfl)
theorem dX0_feint_84 : decode cX0_feint 84 = .ok (.getfield 69, 3) := dk_180 0 69 (dk_at dksX0_feint_3 14 rfl rfl)
theorem dX0_feint_87 : decode cX0_feint 87 = .ok (.iload 6, 2) := dk_21 6 (dk_at dksX0_feint_3 17 rfl rfl)
theorem dX0_feint_89 : decode cX0_feint 89 = .ok (.aaload, 1) := dk_50 (dk_at dksX0_feint_3 19 rfl rfl)
theorem dX0_feint_90 : decode cX0_feint 90 = .ok (.invokevirtual 343, 3) := dk_182 1 87 (dk_at dksX0_feint_3 20 rfl rfl)
theorem dX0_feint_93 : decode cX0_feint 93 = .ok (.invokevirtual 372, 3) := dk_182 1 116 (dk_at dksX0_feint_4 0 rfl rfl)
theorem dX0_feint_96 : decode cX0_feint 96 = .ok (.ifCond .ne 6, 3) := dk_154 0 6 (dk_at dksX0_feint_4 3 rfl rfl)
theorem dX0_feint_99 : decode cX0_feint 99 = .ok (.goto 10, 3) := dk_167 0 10 (dk_at dksX0_feint_4 6 rfl rfl)
theorem dX0_feint_102 : decode cX0_feint 102 = .ok (.iload 5, 2) := dk_21 5 (dk_at dksX0_feint_4 9 rfl rfl)
theorem dX0_feint_104 : decode cX0_feint 104 = .ok (.istore_n 3, 1) := dk_62 (dk_at dksX0_feint_4 11 rfl rfl)
theorem dX0_feint_105 : decode cX0_feint 105 = .ok (.iload 6, 2) := dk_21 6 (dk_at dksX0_feint_4 12 rfl rfl)
theorem dX0_feint_107 : decode cX0_feint 107 = .ok (.istore 4, 2) := dk_54 4 (dk_at dksX0_feint_4 14 rfl rfl)
theorem dX0_feint_109 : decode cX0_feint 109 = .ok (.iinc 6 1, 3) := dk_132 6 1 (dk_at dksX0_feint_4 16 rfl rfl)
theorem dX0_feint_112 : decode cX0_feint 112 = .ok (.goto (-53), 3) := dk_167 255 203 (dk_at dksX0_feint_4 19 rfl rfl)
theorem dX0_feint_115 : decode cX0_feint 115 = .ok (.iinc 5 1, 3) := dk_132 5 1 (dk_at dksX0_feint_5 0 rfl rfl)
theorem dX0_feint_118 : decode cX0_feint 118 = .ok (.goto (-81), 3) := dk_167 255 175 (dk_at dksX0_feint_5 3 rfl rfl)
theorem dX0_feint_121 : decode cX0_feint 121 = .ok (.iload_n 2, 1) := dk_28 (dk_at dksX0_feint_5 6 rfl rfl)
theorem dX0_feint_122 : decode cX0_feint 122 = .ok (.iconst 2, 1) := dk_5 (dk_at dksX0_feint_5 7 rfl rfl)
theorem dX0_feint_123 : decode cX0_feint 123 = .ok (.if_icmp .ge 12, 3) := dk_162 0 12 (dk_at dksX0_feint_5 8 rfl rfl)
theorem dX0_feint_126 : decode cX0_feint 126 = .ok (.aload_n 0, 1) := dk_42 (dk_at dksX0_feint_5 11 rfl rfl)
theorem dX0_feint_127 : decode cX0_feint 127 = .ok (.iload_n 3, 1) := dk_29 (dk_at dksX0_feint_5 12 rfl rfl)
theorem dX0_feint_128 : decode cX0_feint 128 = .ok (.iload_n 2, 1) := dk_28 (dk_at dksX0_feint_5 13 rfl rfl)
theorem dX0_feint_129 : decode cX0_feint 129 = .ok (.invokevirtual 376, 3) := dk_182 1 120 (dk_at dksX0_feint_5 14 rfl rfl)
theorem dX0_feint_132 : decode cX0_feint 132 = .ok (.goto 12, 3) := dk_167 0 12 (dk_at dksX0_feint_5 17 rfl rfl)
theorem dX0_feint_135 : decode cX0_feint 135 = .ok (.aload_n 0, 1) := dk_42 (dk_at dksX0_feint_5 20 rfl rfl)
theorem dX0_feint_136 : decode cX0_feint 136 = .ok (.iload 4, 2) := dk_21 4 (dk_at dksX0_feint_5 21 rfl rfl)
theorem dX0_feint_138 : decode cX0_feint 138 = .ok (.iload_n 2, 1) := dk_28 (dk_at dksX0_feint_5 23 rfl rfl)
theorem dX0_feint_139 : decode cX0_feint 139 = .ok (.iconst 2, 1) := dk_5 (dk_at dksX0_feint_6 0 rfl rfl)
theorem dX0_feint_140 : decode cX0_feint 140 = .ok (.isub, 1) := dk_100 (dk_at dksX0_feint_6 1 rfl rfl)
theorem dX0_feint_141 : decode cX0_feint 141 = .ok (.invokevirtual 376, 3) := dk_182 1 120 (dk_at dksX0_feint_6 2 rfl rfl)
theorem dX0_feint_144 : decode cX0_feint 144 = .ok (.lreturn, 1) := dk_173 (dk_at dksX0_feint_6 5 rfl rfl)
abbrev cX0_safest : ByteArray := prog_1_method_75_code
def yX0_safest : MethodName := ⟨RX0, "safest", "(II)I"⟩
def dkwX0_safest_6 : List UInt8 := [184, 1, 79, 136, 172]
abbrev dktX0_safest_6 : List UInt8 := dkwX0_safest_6 ++ []
def dkwX0_safest_5 : List UInt8 := [182, 1, 131, 133, 42, 180, 0, 65, 180, 1, 76, 133, 28, 4, 160, 0, 7, 4, 167, 0, 4, 3]
abbrev dktX0_safest_5 : List UInt8 := dkwX0_safest_5 ++ dktX0_safest_6
def dkwX0_safest_4 : List UInt8 := [62, 132, 4, 1, 167, 255, 184, 29, 2, 159, 0, 7, 28, 154, 0, 7, 29, 167, 0, 31, 42, 29]
abbrev dktX0_safest_4 : List UInt8 := dkwX0_safest_4 ++ dktX0_safest_5
def dkwX0_safest_3 : List UInt8 := [167, 0, 25, 29, 2, 159, 0, 17, 42, 21, 4, 182, 1, 131, 42, 29, 182, 1, 131, 162, 0, 6, 21, 4]
abbrev dktX0_safest_3 : List UInt8 := dkwX0_safest_3 ++ dktX0_safest_4
def dkwX0_safest_2 : List UInt8 := [54, 5, 21, 5, 2, 159, 0, 9, 21, 5, 27, 160, 0, 38, 42, 27, 21, 4, 182, 1, 13, 153, 0, 6]
abbrev dktX0_safest_2 : List UInt8 := dkwX0_safest_2 ++ dktX0_safest_3
def dkwX0_safest_1 : List UInt8 := [62, 3, 54, 4, 21, 4, 16, 36, 162, 0, 71, 42, 42, 180, 0, 16, 180, 0, 142, 21, 4, 182, 0, 145]
abbrev dktX0_safest_1 : List UInt8 := dkwX0_safest_1 ++ dktX0_safest_2
def dkwX0_safest_0 : List UInt8 := [42, 27, 182, 0, 169, 153, 0, 12, 28, 3, 5, 184, 0, 97, 154, 0, 5, 2, 172, 42, 182, 1, 52, 2]
abbrev dktX0_safest_0 : List UInt8 := dkwX0_safest_0 ++ dktX0_safest_1
theorem dksX0_safest_0 : cX0_safest.data.toList.drop 0 = dktX0_safest_0 := by decide +kernel
theorem dksX0_safest_1 : cX0_safest.data.toList.drop 24 = dktX0_safest_1 := dk_seg dksX0_safest_0 24 rfl rfl
theorem dksX0_safest_2 : cX0_safest.data.toList.drop 48 = dktX0_safest_2 := dk_seg dksX0_safest_1 24 rfl rfl
theorem dksX0_safest_3 : cX0_safest.data.toList.drop 72 = dktX0_safest_3 := dk_seg dksX0_safest_2 24 rfl rfl
theorem dksX0_safest_4 : cX0_safest.data.toList.drop 96 = dktX0_safest_4 := dk_seg dksX0_safest_3 24 rfl rfl
theorem dksX0_safest_5 : cX0_safest.data.toList.drop 118 = dktX0_safest_5 := dk_seg dksX0_safest_4 22 rfl rfl
theorem dksX0_safest_6 : cX0_safest.data.toList.drop 140 = dktX0_safest_6 := dk_seg dksX0_safest_5 22 rfl rfl
theorem dX0_safest_0 : decode cX0_safest 0 = .ok (.aload_n 0, 1) := dk_42 (dk_at dksX0_safest_0 0 rfl rfl)
theorem dX0_safest_1 : decode cX0_safest 1 = .ok (.iload_n 1, 1) := dk_27 (dk_at dksX0_safest_0 1 rfl rfl)
theorem dX0_safest_2 : decode cX0_safest 2 = .ok (.invokevirtual 169, 3) := dk_182 0 169 (dk_at dksX0_safest_0 2 rfl rfl)
theorem dX0_safest_5 : decode cX0_safest 5 = .ok (.ifCond .eq 12, 3) := dk_153 0 12 (dk_at dksX0_safest_0 5 rfl rfl)
theorem dX0_safest_8 : decode cX0_safest 8 = .ok (.iload_n 2, 1) := dk_28 (dk_at dksX0_safest_0 8 rfl rfl)
theorem dX0_safest_9 : decode cX0_safest 9 = .ok (.iconst 0, 1) := dk_3 (dk_at dksX0_safest_0 9 rfl rfl)
theorem dX0_safest_10 : decode cX0_safest 10 = .ok (.iconst 2, 1) := dk_5 (dk_at dksX0_safest_0 10 rfl rfl)
theorem dX0_safest_11 : decode cX0_safest 11 = .ok (.invokestatic 97, 3) := dk_184 0 97 (dk_at dksX0_safest_0 11 rfl rfl)
theorem dX0_safest_14 : decode cX0_safest 14 = .ok (.ifCond .ne 5, 3) := dk_154 0 5 (dk_at dksX0_safest_0 14 rfl rfl)
theorem dX0_safest_17 : decode cX0_safest 17 = .ok (.iconst (-1), 1) := dk_2 (dk_at dksX0_safest_0 17 rfl rfl)
theorem dX0_safest_18 : decode cX0_safest 18 = .ok (.ireturn, 1) := dk_172 (dk_at dksX0_safest_0 18 rfl rfl)
theorem dX0_safest_19 : decode cX0_safest 19 = .ok (.aload_n 0, 1) := dk_42 (dk_at dksX0_safest_0 19 rfl rfl)
theorem dX0_safest_20 : decode cX0_safest 20 = .ok (.invokevirtual 308, 3) := dk_182 1 52 (dk_at dksX0_safest_0 20 rfl rfl)
theorem dX0_safest_23 : decode cX0_safest 23 = .ok (.iconst (-1), 1) := dk_2 (dk_at dksX0_safest_0 23 rfl rfl)
theorem dX0_safest_24 : decode cX0_safest 24 = .ok (.istore_n 3, 1) := dk_62 (dk_at dksX0_safest_1 0 rfl rfl)
theorem dX0_safest_25 : decode cX0_safest 25 = .ok (.iconst 0, 1) := dk_3 (dk_at dksX0_safest_1 1 rfl rfl)
theorem dX0_safest_26 : decode cX0_safest 26 = .ok (.istore 4, 2) := dk_54 4 (dk_at dksX0_safest_1 2 rfl rfl)
theorem dX0_safest_28 : decode cX0_safest 28 = .ok (.iload 4, 2) := dk_21 4 (dk_at dksX0_safest_1 4 rfl rfl)
theorem dX0_safest_30 : decode cX0_safest 30 = .ok (.bipush 36, 2) := dk_16 36 (dk_at dksX0_safest_1 6 rfl rfl)
theorem dX0_safest_32 : decode cX0_safest 32 = .ok (.if_icmp .ge 71, 3) := dk_162 0 71 (dk_at dksX0_safest_1 8 rfl rfl)
theorem dX0_safest_35 : decode cX0_safest 35 = .ok (.aload_n 0, 1) := dk_42 (dk_at dksX0_safest_1 11 rfl rfl)
theorem dX0_safest_36 : decode cX0_safest 36 = .ok (.aload_n 0, 1) := dk_42 (dk_at dksX0_safest_1 12 rfl rfl)
theorem dX0_safest_37 : decode cX0_safest 37 = .ok (.getfield 16, 3) := dk_180 0 16 (dk_at dksX0_safest_1 13 rfl rfl)
theorem dX0_safest_40 : decode cX0_safest 40 = .ok (.getfield 142, 3) := dk_180 0 142 (dk_at dksX0_safest_1 16 rfl rfl)
theorem dX0_safest_43 : decode cX0_safest 43 = .ok (.iload 4, 2) := dk_21 4 (dk_at dksX0_safest_1 19 rfl rfl)
theorem dX0_safest_45 : decode cX0_safest 45 = .ok (.invokevirtual 145, 3) := dk_182 0 145 (dk_at dksX0_safest_1 21 rfl rfl)
theorem dX0_safest_48 : decode cX0_safest 48 = .ok (.istore 5, 2) := dk_54 5 (dk_at dksX0_safest_2 0 rfl rfl)
theorem dX0_safest_50 : decode cX0_safest 50 = .ok (.iload 5, 2) := dk_21 5 (dk_at dksX0_safest_2 2 rfl rfl)
theorem dX0_safest_52 : decode cX0_safest 52 = .ok (.iconst (-1), 1) := dk_2 (dk_at dksX0_safest_2 4 rfl rfl)
theorem dX0_safest_53 : decode cX0_safest 53 = .ok (.if_icmp .eq 9, 3) := dk_159 0 9 (dk_at dksX0_safest_2 5 rfl rfl)
theorem dX0_safest_56 : decode cX0_safest 56 = .ok (.iload 5, 2) := dk_21 5 (dk_at dksX0_safest_2 8 rfl rfl)
theorem dX0_safest_58 : decode cX0_safest 58 = .ok (.iload_n 1, 1) := dk_27 (dk_at dksX0_safest_2 10 rfl rfl)
theorem dX0_safest_59 : decode cX0_safest 59 = .ok (.if_icmp .ne 38, 3) := dk_160 0 38 (dk_at dksX0_safest_2 11 rfl rfl)
theorem dX0_safest_62 : decode cX0_safest 62 = .ok (.aload_n 0, 1) := dk_42 (dk_at dksX0_safest_2 14 rfl rfl)
theorem dX0_safest_63 : decode cX0_safest 63 = .ok (.iload_n 1, 1) := dk_27 (dk_at dksX0_safest_2 15 rfl rfl)
theorem dX0_safest_64 : decode cX0_safest 64 = .ok (.iload 4, 2) := dk_21 4 (dk_at dksX0_safest_2 16 rfl rfl)
theorem dX0_safest_66 : decode cX0_safest 66 = .ok (.invokevirtual 269, 3) := dk_182 1 13 (dk_at dksX0_safest_2 18 rfl rfl)
theorem dX0_safest_69 : decode cX0_safest 69 = .ok (.ifCond .eq 6, 3) := dk_153 0 6 (dk_at dksX0_safest_2 21 rfl rfl)
theorem dX0_safest_72 : decode cX0_safest 72 = .ok (.goto 25, 3) := dk_167 0 25 (dk_at dksX0_safest_3 0 rfl rfl)
theorem dX0_safest_75 : decode cX0_safest 75 = .ok (.iload_n 3, 1) := dk_29 (dk_at dksX0_safest_3 3 rfl rfl)
theorem dX0_safest_76 : decode cX0_safest 76 = .ok (.iconst (-1), 1) := dk_2 (dk_at dksX0_safest_3 4 rfl rfl)
theorem dX0_safest_77 : decode cX0_safest 77 = .ok (.if_icmp .eq 17, 3) := dk_159 0 17 (dk_at dksX0_safest_3 5 rfl rfl)
theorem dX0_safest_80 : decode cX0_safest 80 = .ok (.aload_n 0, 1) := dk_42 (dk_at dksX0_safest_3 8 rfl rfl)
theorem dX0_safest_81 : decode cX0_safest 81 = .ok (.iload 4, 2) := dk_21 4 (dk_at dksX0_safest_3 9 rfl rfl)
theorem dX0_safest_83 : decode cX0_safest 83 = .ok (.invokevirtual 387, 3) := dk_182 1 131 (dk_at dksX0_safest_3 11 rfl rfl)
theorem dX0_safest_86 : decode cX0_safest 86 = .ok (.aload_n 0, 1) := dk_42 (dk_at dksX0_safest_3 14 rfl rfl)
theorem dX0_safest_87 : decode cX0_safest 87 = .ok (.iload_n 3, 1) := dk_29 (dk_at dksX0_safest_3 15 rfl rfl)
theorem dX0_safest_88 : decode cX0_safest 88 = .ok (.invokevirtual 387, 3) := dk_182 1 131 (dk_at dksX0_safest_3 16 rfl rfl)
theorem dX0_safest_91 : decode cX0_safest 91 = .ok (.if_icmp .ge 6, 3) := dk_162 0 6 (dk_at dksX0_safest_3 19 rfl rfl)
theorem dX0_safest_94 : decode cX0_safest 94 = .ok (.iload 4, 2) := dk_21 4 (dk_at dksX0_safest_3 22 rfl rfl)
theorem dX0_safest_96 : decode cX0_safest 96 = .ok (.istore_n 3, 1) := dk_62 (dk_at dksX0_safest_4 0 rfl rfl)
theorem dX0_safest_97 : decode cX0_safest 97 = .ok (.iinc 4 1, 3) := dk_132 4 1 (dk_at dksX0_safest_4 1 rfl rfl)
theorem dX0_safest_100 : decode cX0_safest 100 = .ok (.goto (-72), 3) := dk_167 255 184 (dk_at dksX0_safest_4 4 rfl rfl)
theorem dX0_safest_103 : decode cX0_safest 103 = .ok (.iload_n 3, 1) := dk_29 (dk_at dksX0_safest_4 7 rfl rfl)
theorem dX0_safest_104 : decode cX0_safest 104 = .ok (.iconst (-1), 1) := dk_2 (dk_at dksX0_safest_4 8 rfl rfl)
theorem dX0_safest_105 : decode cX0_safest 105 = .ok (.if_icmp .eq 7, 3) := dk_159 0 7 (dk_at dksX0_safest_4 9 rfl rfl)
theorem dX0_safest_108 : decode cX0_safest 108 = .ok (.iload_n 2, 1) := dk_28 (dk_at dksX0_safest_4 12 rfl rfl)
theorem dX0_safest_109 : decode cX0_safest 109 = .ok (.ifCond .ne 7, 3) := dk_154 0 7 (dk_at dksX0_safest_4 13 rfl rfl)
theorem dX0_safest_112 : decode cX0_safest 112 = .ok (.iload_n 3, 1) := dk_29 (dk_at dksX0_safest_4 16 rfl rfl)
theorem dX0_safest_113 : decode cX0_safest 113 = .ok (.goto 31, 3) := dk_167 0 31 (dk_at dksX0_safest_4 17 rfl rfl)
theorem dX0_safest_116 : decode cX0_safest 116 = .ok (.aload_n 0, 1) := dk_42 (dk_at dksX0_safest_4 20 rfl rfl)
theorem dX0_safest_117 : decode cX0_safest 117 = .ok (.iload_n 3, 1) := dk_29 (dk_at dksX0_safest_4 21 rfl rfl)
theorem dX0_safest_118 : decode cX0_safest 118 = .ok (.invokevirtual 387, 3) := dk_182 1 131 (dk_at dksX0_safest_5 0 rfl rfl)
theorem dX0_safest_121 : decode cX0_safest 121 = .ok (.i2l, 1) := dk_133 (dk_at dksX0_safest_5 3 rfl rfl)
theorem dX0_safest_122 : decode cX0_safest 122 = .ok (.aload_n 0, 1) := dk_42 (dk_at dksX0_safest_5 4 rfl rfl)
theorem dX0_safest_123 : decode cX0_safest 123 = .ok (.getfield 65, 3) := dk_180 0 65 (dk_at dksX0_safest_5 5 rfl rfl)
theorem dX0_safest_126 : decode cX0_safest 126 = .ok (.getfield 332, 3) := dk_180 1 76 (dk_at dksX0_safest_5 8 rfl rfl)
theorem dX0_safest_129 : decode cX0_safest 129 = .ok (.i2l, 1) := dk_133 (dk_at dksX0_safest_5 11 rfl rfl)
theorem dX0_safest_130 : decode cX0_safest 130 = .ok (.iload_n 2, 1) := dk_28 (dk_at dksX0_safest_5 12 rfl rfl)
theorem dX0_safest_131 : decode cX0_safest 131 = .ok (.iconst 1, 1) := dk_4 (dk_at dksX0_safest_5 13 rfl rfl)
theorem dX0_safest_132 : decode cX0_safest 132 = .ok (.if_icmp .ne 7, 3) := dk_160 0 7 (dk_at dksX0_safest_5 14 rfl rfl)
theorem dX0_safest_135 : decode cX0_safest 135 = .ok (.iconst 1, 1) := dk_4 (dk_at dksX0_safest_5 17 rfl rfl)
theorem dX0_safest_136 : decode cX0_safest 136 = .ok (.goto 4, 3) := dk_167 0 4 (dk_at dksX0_safest_5 18 rfl rfl)
theorem dX0_safest_139 : decode cX0_safest 139 = .ok (.iconst 0, 1) := dk_3 (dk_at dksX0_safest_5 21 rfl rfl)
theorem dX0_safest_140 : decode cX0_safest 140 = .ok (.invokestatic 335, 3) := dk_184 1 79 (dk_at dksX0_safest_6 0 rfl rfl)
theorem dX0_safest_143 : decode cX0_safest 143 = .ok (.l2i, 1) := dk_136 (dk_at dksX0_safest_6 3 rfl rfl)
theorem dX0_safest_144 : decode cX0_safest 144 = .ok (.ireturn, 1) := dk_172 (dk_at dksX0_safest_6 4 rfl rfl)
abbrev cX0_near_2 : ByteArray := prog_1_method_74_code
def yX0_near_2 : MethodName := ⟨RX0, "near", "(I)I"⟩
def dkwX0_near_2_2 : List UInt8 := [180, 0, 65, 180, 1, 63, 29, 46, 167, 0, 4, 3, 96, 61, 132, 3, 1, 167, 255, 196, 28, 172]
abbrev dktX0_near_2_2 : List UInt8 := dkwX0_near_2_2 ++ []
def dkwX0_near_2_1 : List UInt8 := [46, 2, 159, 0, 32, 42, 180, 0, 65, 180, 1, 66, 29, 46, 27, 184, 1, 55, 4, 163, 0, 15, 42]
abbrev dktX0_near_2_1 : List UInt8 := dkwX0_near_2_1 ++ dktX0_near_2_2
def dkwX0_near_2_0 : List UInt8 := [3, 61, 3, 62, 29, 42, 180, 0, 65, 180, 1, 62, 162, 0, 55, 28, 42, 180, 0, 65, 180, 1, 66, 29]
abbrev dktX0_near_2_0 : List UInt8 := dkwX0_near_2_0 ++ dktX0_near_2_1
theorem dksX0_near_2_0 : cX0_near_2.data.toList.drop 0 = dktX0_near_2_0 := by decide +kernel
theorem dksX0_near_2_1 : cX0_near_2.data.toList.drop 24 = dktX0_near_2_1 := dk_seg dksX0_near_2_0 24 rfl rfl
theorem dksX0_near_2_2 : cX0_near_2.data.toList.drop 47 = dktX0_near_2_2 := dk_seg dksX0_near_2_1 23 rfl rfl
theorem dX0_near_2_0 : decode cX0_near_2 0 = .ok (.iconst 0, 1) := dk_3 (dk_at dksX0_near_2_0 0 rfl rfl)
theorem dX0_near_2_1 : decode cX0_near_2 1 = .ok (.istore_n 2, 1) := dk_61 (dk_at dksX0_near_2_0 1 rfl rfl)
theorem dX0_near_2_2 : decode cX0_near_2 2 = .ok (.iconst 0, 1) := dk_3 (dk_at dksX0_near_2_0 2 rfl rfl)
theorem dX0_near_2_3 : decode cX0_near_2 3 = .ok (.istore_n 3, 1) := dk_62 (dk_at dksX0_near_2_0 3 rfl rfl)
theorem dX0_near_2_4 : decode cX0_near_2 4 = .ok (.iload_n 3, 1) := dk_29 (dk_at dksX0_near_2_0 4 rfl rfl)
theorem dX0_near_2_5 : decode cX0_near_2 5 = .ok (.aload_n 0, 1) := dk_42 (dk_at dksX0_near_2_0 5 rfl rfl)
theorem dX0_near_2_6 : decode cX0_near_2 6 = .ok (.getfield 65, 3) := dk_180 0 65 (dk_at dksX0_near_2_0 6 rfl rfl)
theorem dX0_near_2_9 : decode cX0_near_2 9 = .ok (.getfield 318, 3) := dk_180 1 62 (dk_at dksX0_near_2_0 9 rfl rfl)
theorem dX0_near_2_12 : decode cX0_near_2 12 = .ok (.if_icmp .ge 55, 3) := dk_162 0 55 (dk_at dksX0_near_2_0 12 rfl rfl)
theorem dX0_near_2_15 : decode cX0_near_2 15 = .ok (.iload_n 2, 1) := dk_28 (dk_at dksX0_near_2_0 15 rfl rfl)
theorem dX0_near_2_16 : decode cX0_near_2 16 = .ok (.aload_n 0, 1) := dk_42 (dk_at dksX0_near_2_0 16 rfl rfl)
theorem dX0_near_2_17 : decode cX0_near_2 17 = .ok (.getfield 65, 3) := dk_180 0 65 (dk_at dksX0_near_2_0 17 rfl rfl)
theorem dX0_near_2_20 : decode cX0_near_2 20 = .ok (.getfield 322, 3) := dk_180 1 66 (dk_at dksX0_near_2_0 20 rfl rfl)
theorem dX0_near_2_23 : decode cX0_near_2 23 = .ok (.iload_n 3, 1) := dk_29 (dk_at dksX0_near_2_0 23 rfl rfl)
theorem dX0_near_2_24 : decode cX0_near_2 24 = .ok (.iaload, 1) := dk_46 (dk_at dksX0_near_2_1 0 rfl rfl)
theorem dX0_near_2_25 : decode cX0_near_2 25 = .ok (.iconst (-1), 1) := dk_2 (dk_at dksX0_near_2_1 1 rfl rfl)
theorem dX0_near_2_26 : decode cX0_near_2 26 = .ok (.if_icmp .eq 32, 3) := dk_159 0 32 (dk_at dksX0_near_2_1 2 rfl rfl)
theorem dX0_near_2_29 : decode cX0_near_2 29 = .ok (.aload_n 0, 1) := dk_42 (dk_at dksX0_near_2_1 5 rfl rfl)
theorem dX0_near_2_30 : decode cX0_near_2 30 = .ok (.getfield 65, 3) := dk_180 0 65 (dk_at dksX0_near_2_1 6 rfl rfl)
theorem dX0_near_2_33 : decode cX0_near_2 33 = .ok (.getfield 322, 3) := dk_180 1 66 (dk_at dksX0_near_2_1 9 rfl rfl)
theorem dX0_near_2_36 : decode cX0_near_2 36 = .ok (.iload_n 3, 1) := dk_29 (dk_at dksX0_near_2_1 12 rfl rfl)
theorem dX0_near_2_37 : decode cX0_near_2 37 = .ok (.iaload, 1) := dk_46 (dk_at dksX0_near_2_1 13 rfl rfl)
theorem dX0_near_2_38 : decode cX0_near_2 38 = .ok (.iload_n 1, 1) := dk_27 (dk_at dksX0_near_2_1 14 rfl rfl)
theorem dX0_near_2_39 : decode cX0_near_2 39 = .ok (.invokestatic 311, 3) := dk_184 1 55 (dk_at dksX0_near_2_1 15 rfl rfl)
theorem dX0_near_2_42 : decode cX0_near_2 42 = .ok (.iconst 1, 1) := dk_4 (dk_at dksX0_near_2_1 18 rfl rfl)
theorem dX0_near_2_43 : decode cX0_near_2 43 = .ok (.if_icmp .gt 15, 3) := dk_163 0 15 (dk_at dksX0_near_2_1 19 rfl rfl)
theorem dX0_near_2_46 : decode cX0_near_2 46 = .ok (.aload_n 0, 1) := dk_42 (dk_at dksX0_near_2_1 22 rfl rfl)
theorem dX0_near_2_47 : decode cX0_near_2 47 = .ok (.getfield 65, 3) := dk_180 0 65 (dk_at dksX0_near_2_2 0 rfl rfl)
theorem dX0_near_2_50 : decode cX0_near_2 50 = .ok (.getfield 319, 3) := dk_180 1 63 (dk_at dksX0_near_2_2 3 rfl rfl)
theorem dX0_near_2_53 : decode cX0_near_2 53 = .ok (.iload_n 3, 1) := dk_29 (dk_at dksX0_near_2_2 6 rfl rfl)
theorem dX0_near_2_54 : decode cX0_near_2 54 = .ok (.iaload, 1) := dk_46 (dk_at dksX0_near_2_2 7 rfl rfl)
theorem dX0_near_2_55 : decode cX0_near_2 55 = .ok (.goto 4, 3) := dk_167 0 4 (dk_at dksX0_near_2_2 8 rfl rfl)
theorem dX0_near_2_58 : decode cX0_near_2 58 = .ok (.iconst 0, 1) := dk_3 (dk_at dksX0_near_2_2 11 rfl rfl)
theorem dX0_near_2_59 : decode cX0_near_2 59 = .ok (.iadd, 1) := dk_96 (dk_at dksX0_near_2_2 12 rfl rfl)
theorem dX0_near_2_60 : decode cX0_near_2 60 = .ok (.istore_n 2, 1) := dk_61 (dk_at dksX0_near_2_2 13 rfl rfl)
theorem dX0_near_2_61 : decode cX0_near_2 61 = .ok (.iinc 3 1, 3) := dk_132 3 1 (dk_at dksX0_near_2_2 14 rfl rfl)
theorem dX0_near_2_64 : decode cX0_near_2 64 = .ok (.goto (-60), 3) := dk_167 255 196 (dk_at dksX0_near_2_2 17 rfl rfl)
theorem dX0_near_2_67 : decode cX0_near_2 67 = .ok (.iload_n 2, 1) := dk_28 (dk_at dksX0_near_2_2 20 rfl rfl)
theorem dX0_near_2_68 : decode cX0_near_2 68 = .ok (.ireturn, 1) := dk_172 (dk_at dksX0_near_2_2 21 rfl rfl)
abbrev cX0_crowd : ByteArray := prog_1_method_76_code
def yX0_crowd : MethodName := ⟨RX0, "crowd", "(I)J"⟩
def dkwX0_crowd_5 : List UInt8 := [173]
abbrev dktX0_crowd_5 : List UInt8 := dkwX0_crowd_5 ++ []
def dkwX0_crowd_4 : List UInt8 := [167, 0, 24, 42, 180, 1, 104, 42, 180, 1, 100, 27, 4, 160, 0, 7, 4, 167, 0, 4, 3, 184, 1, 79]
abbrev dktX0_crowd_4 : List UInt8 := dkwX0_crowd_4 ++ dktX0_crowd_5
def dkwX0_crowd_3 : List UInt8 := [182, 1, 87, 182, 1, 116, 153, 0, 5, 29, 61, 132, 3, 1, 167, 255, 197, 27, 154, 0, 8, 28, 133]
abbrev dktX0_crowd_3 : List UInt8 := dkwX0_crowd_3 ++ dktX0_crowd_4
def dkwX0_crowd_2 : List UInt8 := [182, 1, 87, 42, 2, 42, 180, 0, 65, 42, 180, 0, 16, 180, 0, 142, 182, 1, 83, 101, 42, 180, 0, 65]
abbrev dktX0_crowd_2 : List UInt8 := dkwX0_crowd_2 ++ dktX0_crowd_3
def dkwX0_crowd_1 : List UInt8 := [62, 29, 42, 180, 0, 16, 180, 0, 118, 163, 0, 54, 42, 29, 181, 1, 49, 42, 42, 180, 0, 65]
abbrev dktX0_crowd_1 : List UInt8 := dkwX0_crowd_1 ++ dktX0_crowd_2
def dkwX0_crowd_0 : List UInt8 := [27, 3, 5, 184, 0, 97, 154, 0, 7, 20, 0, 233, 173, 42, 182, 1, 52, 42, 182, 1, 113, 3, 61, 3]
abbrev dktX0_crowd_0 : List UInt8 := dkwX0_crowd_0 ++ dktX0_crowd_1
theorem dksX0_crowd_0 : cX0_crowd.data.toList.drop 0 = dktX0_crowd_0 := by decide +kernel
theorem dksX0_crowd_1 : cX0_crowd.data.toList.drop 24 = dktX0_crowd_1 := dk_seg dksX0_crowd_0 24 rfl rfl
theorem dksX0_crowd_2 : cX0_crowd.data.toList.drop 46 = dktX0_crowd_2 := dk_seg dksX0_crowd_1 22 rfl rfl
theorem dksX0_crowd_3 : cX0_crowd.data.toList.drop 70 = dktX0_crowd_3 := dk_seg dksX0_crowd_2 24 rfl rfl
theorem dksX0_crowd_4 : cX0_crowd.data.toList.drop 93 = dktX0_crowd_4 := dk_seg dksX0_crowd_3 23 rfl rfl
theorem dksX0_crowd_5 : cX0_crowd.data.toList.drop 117 = dktX0_crowd_5 := dk_seg dksX0_crowd_4 24 rfl rfl
theorem dX0_crowd_0 : decode cX0_crowd 0 = .ok (.iload_n 1, 1) := dk_27 (dk_at dksX0_crowd_0 0 rfl rfl)
theorem dX0_crowd_1 : decode cX0_crowd 1 = .ok (.iconst 0, 1) := dk_3 (dk_at dksX0_crowd_0 1 rfl rfl)
theorem dX0_crowd_2 : decode cX0_crowd 2 = .ok (.iconst 2, 1) := dk_5 (dk_at dksX0_crowd_0 2 rfl rfl)
theorem dX0_crowd_3 : decode cX0_crowd 3 = .ok (.invokestatic 97, 3) := dk_184 0 97 (dk_at dksX0_crowd_0 3 rfl rfl)
theorem dX0_crowd_6 : decode cX0_crowd 6 = .ok (.ifCond .ne 7, 3) := dk_154 0 7 (dk_at dksX0_crowd_0 6 rfl rfl)
theorem dX0_crowd_9 : decode cX0_crowd 9 = .ok (.ldc2_w 233, 3) := dk_20 0 233 (dk_at dksX0_crowd_0 9 rfl rfl)
theorem dX0_crowd_12 : decode cX0_crowd 12 = .ok (.lreturn, 1) := dk_173 (dk_at dksX0_crowd_0 12 rfl rfl)
theorem dX0_crowd_13 : decode cX0_crowd 13 = .ok (.aload_n 0, 1) := dk_42 (dk_at dksX0_crowd_0 13 rfl rfl)
theorem dX0_crowd_14 : decode cX0_crowd 14 = .ok (.invokevirtual 308, 3) := dk_182 1 52 (dk_at dksX0_crowd_0 14 rfl rfl)
theorem dX0_crowd_17 : decode cX0_crowd 17 = .ok (.aload_n 0, 1) := dk_42 (dk_at dksX0_crowd_0 17 rfl rfl)
theorem dX0_crowd_18 : decode cX0_crowd 18 = .ok (.invokevirtual 369, 3) := dk_182 1 113 (dk_at dksX0_crowd_0 18 rfl rfl)
theorem dX0_crowd_21 : decode cX0_crowd 21 = .ok (.iconst 0, 1) := dk_3 (dk_at dksX0_crowd_0 21 rfl rfl)
theorem dX0_crowd_22 : decode cX0_crowd 22 = .ok (.istore_n 2, 1) := dk_61 (dk_at dksX0_crowd_0 22 rfl rfl)
theorem dX0_crowd_23 : decode cX0_crowd 23 = .ok (.iconst 0, 1) := dk_3 (dk_at dksX0_crowd_0 23 rfl rfl)
theorem dX0_crowd_24 : decode cX0_crowd 24 = .ok (.istore_n 3, 1) := dk_62 (dk_at dksX0_crowd_1 0 rfl rfl)
theorem dX0_crowd_25 : decode cX0_crowd 25 = .ok (.iload_n 3, 1) := dk_29 (dk_at dksX0_crowd_1 1 rfl rfl)
theorem dX0_crowd_26 : decode cX0_crowd 26 = .ok (.aload_n 0, 1) := dk_42 (dk_at dksX0_crowd_1 2 rfl rfl)
theorem dX0_crowd_27 : decode cX0_crowd 27 = .ok (.getfield 16, 3) := dk_180 0 16 (dk_at dksX0_crowd_1 3 rfl rfl)
theorem dX0_crowd_30 : decode cX0_crowd 30 = .ok (.getfield 118, 3) := dk_180 0 118 (dk_at dksX0_crowd_1 6 rfl rfl)
theorem dX0_crowd_33 : decode cX0_crowd 33 = .ok (.if_icmp .gt 54, 3) := dk_163 0 54 (dk_at dksX0_crowd_1 9 rfl rfl)
theorem dX0_crowd_36 : decode cX0_crowd 36 = .ok (.aload_n 0, 1) := dk_42 (dk_at dksX0_crowd_1 12 rfl rfl)
theorem dX0_crowd_37 : decode cX0_crowd 37 = .ok (.iload_n 3, 1) := dk_29 (dk_at dksX0_crowd_1 13 rfl rfl)
theorem dX0_crowd_38 : decode cX0_crowd 38 = .ok (.putfield 305, 3) := dk_181 1 49 (dk_at dksX0_crowd_1 14 rfl rfl)
theorem dX0_crowd_41 : decode cX0_crowd 41 = .ok (.aload_n 0, 1) := dk_42 (dk_at dksX0_crowd_1 17 rfl rfl)
theorem dX0_crowd_42 : decode cX0_crowd 42 = .ok (.aload_n 0, 1) := dk_42 (dk_at dksX0_crowd_1 18 rfl rfl)
theorem dX0_crowd_43 : decode cX0_crowd 43 = .ok (.getfield 65, 3) := dk_180 0 65 (dk_at dksX0_crowd_1 19 rfl rfl)
theorem dX0_crowd_46 : decode cX0_crowd 46 = .ok (.invokevirtual 343, 3) := dk_182 1 87 (dk_at dksX0_crowd_2 0 rfl rfl)
theorem dX0_crowd_49 : decode cX0_crowd 49 = .ok (.aload_n 0, 1) := dk_42 (dk_at dksX0_crowd_2 3 rfl rfl)
theorem dX0_crowd_50 : decode cX0_crowd 50 = .ok (.iconst (-1), 1) := dk_2 (dk_at dksX0_crowd_2 4 rfl rfl)
theorem dX0_crowd_51 : decode cX0_crowd 51 = .ok (.aload_n 0, 1) := dk_42 (dk_at dksX0_crowd_2 5 rfl rfl)
theorem dX0_crowd_52 : decode cX0_crowd 52 = .ok (.getfield 65, 3) := dk_180 0 65 (dk_at dksX0_crowd_2 6 rfl rfl)
theorem dX0_crowd_55 : decode cX0_crowd 55 = .ok (.aload_n 0, 1) := dk_42 (dk_at dksX0_crowd_2 9 rfl rfl)
theorem dX0_crowd_56 : decode cX0_crowd 56 = .ok (.getfield 16, 3) := dk_180 0 16 (dk_at dksX0_crowd_2 10 rfl rfl)
theorem dX0_crowd_59 : decode cX0_crowd 59 = .ok (.getfield 142, 3) := dk_180 0 142 (dk_at dksX0_crowd_2 13 rfl rfl)
theorem dX0_crowd_62 : decode cX0_crowd 62 = .ok (.invokevirtual 339, 3) := dk_182 1 83 (dk_at dksX0_crowd_2 16 rfl rfl)
theorem dX0_crowd_65 : decode cX0_crowd 65 = .ok (.lsub, 1) := dk_101 (dk_at dksX0_crowd_2 19 rfl rfl)
theorem dX0_crowd_66 : decode cX0_crowd 66 = .ok (.aload_n 0, 1) := dk_42 (dk_at dksX0_crowd_2 20 rfl rfl)
theorem dX0_crowd_67 : decode cX0_crowd 67 = .ok (.getfield 65, 3) := dk_180 0 65 (dk_at dksX0_crowd_2 21 rfl rfl)
theorem dX0_crowd_70 : decode cX0_crowd 70 = .ok (.invokevirtual 343, 3) := dk_182 1 87 (dk_at dksX0_crowd_3 0 rfl rfl)
theorem dX0_crowd_73 : decode cX0_crowd 73 = .ok (.invokevirtual 372, 3) := dk_182 1 116 (dk_at dksX0_crowd_3 3 rfl rfl)
theorem dX0_crowd_76 : decode cX0_crowd 76 = .ok (.ifCond .eq 5, 3) := dk_153 0 5 (dk_at dksX0_crowd_3 6 rfl rfl)
theorem dX0_crowd_79 : decode cX0_crowd 79 = .ok (.iload_n 3, 1) := dk_29 (dk_at dksX0_crowd_3 9 rfl rfl)
theorem dX0_crowd_80 : decode cX0_crowd 80 = .ok (.istore_n 2, 1) := dk_61 (dk_at dksX0_crowd_3 10 rfl rfl)
theorem dX0_crowd_81 : decode cX0_crowd 81 = .ok (.iinc 3 1, 3) := dk_132 3 1 (dk_at dksX0_crowd_3 11 rfl rfl)
theorem dX0_crowd_84 : decode cX0_crowd 84 = .ok (.goto (-59), 3) := dk_167 255 197 (dk_at dksX0_crowd_3 14 rfl rfl)
theorem dX0_crowd_87 : decode cX0_crowd 87 = .ok (.iload_n 1, 1) := dk_27 (dk_at dksX0_crowd_3 17 rfl rfl)
theorem dX0_crowd_88 : decode cX0_crowd 88 = .ok (.ifCond .ne 8, 3) := dk_154 0 8 (dk_at dksX0_crowd_3 18 rfl rfl)
theorem dX0_crowd_91 : decode cX0_crowd 91 = .ok (.iload_n 2, 1) := dk_28 (dk_at dksX0_crowd_3 21 rfl rfl)
theorem dX0_crowd_92 : decode cX0_crowd 92 = .ok (.i2l, 1) := dk_133 (dk_at dksX0_crowd_3 22 rfl rfl)
theorem dX0_crowd_93 : decode cX0_crowd 93 = .ok (.goto 24, 3) := dk_167 0 24 (dk_at dksX0_crowd_4 0 rfl rfl)
theorem dX0_crowd_96 : decode cX0_crowd 96 = .ok (.aload_n 0, 1) := dk_42 (dk_at dksX0_crowd_4 3 rfl rfl)
theorem dX0_crowd_97 : decode cX0_crowd 97 = .ok (.getfield 360, 3) := dk_180 1 104 (dk_at dksX0_crowd_4 4 rfl rfl)
theorem dX0_crowd_100 : decode cX0_crowd 100 = .ok (.aload_n 0, 1) := dk_42 (dk_at dksX0_crowd_4 7 rfl rfl)
theorem dX0_crowd_101 : decode cX0_crowd 101 = .ok (.getfield 356, 3) := dk_180 1 100 (dk_at dksX0_crowd_4 8 rfl rfl)
theorem dX0_crowd_104 : decode cX0_crowd 104 = .ok (.iload_n 1, 1) := dk_27 (dk_at dksX0_crowd_4 11 rfl rfl)
theorem dX0_crowd_105 : decode cX0_crowd 105 = .ok (.iconst 1, 1) := dk_4 (dk_at dksX0_crowd_4 12 rfl rfl)
theorem dX0_crowd_106 : decode cX0_crowd 106 = .ok (.if_icmp .ne 7, 3) := dk_160 0 7 (dk_at dksX0_crowd_4 13 rfl rfl)
theorem dX0_crowd_109 : decode cX0_crowd 109 = .ok (.iconst 1, 1) := dk_4 (dk_at dksX0_crowd_4 16 rfl rfl)
theorem dX0_crowd_110 : decode cX0_crowd 110 = .ok (.goto 4, 3) := dk_167 0 4 (dk_at dksX0_crowd_4 17 rfl rfl)
theorem dX0_crowd_113 : decode cX0_crowd 113 = .ok (.iconst 0, 1) := dk_3 (dk_at dksX0_crowd_4 20 rfl rfl)
theorem dX0_crowd_114 : decode cX0_crowd 114 = .ok (.invokestatic 335, 3) := dk_184 1 79 (dk_at dksX0_crowd_4 21 rfl rfl)
theorem dX0_crowd_117 : decode cX0_crowd 117 = .ok (.lreturn, 1) := dk_173 (dk_at dksX0_crowd_5 0 rfl rfl)
abbrev cX0_again : ByteArray := prog_1_method_77_code
def yX0_again : MethodName := ⟨RX0, "again", "(I)J"⟩
def dkwX0_again_2 : List UInt8 := [182, 1, 87, 105, 27, 154, 0, 7, 4, 167, 0, 4, 3, 184, 1, 79, 173]
abbrev dktX0_again_2 : List UInt8 := dkwX0_again_2 ++ []
def dkwX0_again_1 : List UInt8 := [180, 0, 16, 180, 0, 142, 182, 1, 83, 65, 32, 32, 105, 42, 180, 0, 65, 182, 1, 87, 42, 180, 0, 65]
abbrev dktX0_again_1 : List UInt8 := dkwX0_again_1 ++ dktX0_again_2
def dkwX0_again_0 : List UInt8 := [27, 3, 4, 184, 0, 97, 154, 0, 7, 20, 0, 233, 173, 42, 182, 1, 52, 42, 2, 42, 180, 0, 65, 42]
abbrev dktX0_again_0 : List UInt8 := dkwX0_again_0 ++ dktX0_again_1
theorem dksX0_again_0 : cX0_again.data.toList.drop 0 = dktX0_again_0 := by decide +kernel
theorem dksX0_again_1 : cX0_again.data.toList.drop 24 = dktX0_again_1 := dk_seg dksX0_again_0 24 rfl rfl
theorem dksX0_again_2 : cX0_again.data.toList.drop 48 = dktX0_again_2 := dk_seg dksX0_again_1 24 rfl rfl
theorem dX0_again_0 : decode cX0_again 0 = .ok (.iload_n 1, 1) := dk_27 (dk_at dksX0_again_0 0 rfl rfl)
theorem dX0_again_1 : decode cX0_again 1 = .ok (.iconst 0, 1) := dk_3 (dk_at dksX0_again_0 1 rfl rfl)
theorem dX0_again_2 : decode cX0_again 2 = .ok (.iconst 1, 1) := dk_4 (dk_at dksX0_again_0 2 rfl rfl)
theorem dX0_again_3 : decode cX0_again 3 = .ok (.invokestatic 97, 3) := dk_184 0 97 (dk_at dksX0_again_0 3 rfl rfl)
theorem dX0_again_6 : decode cX0_again 6 = .ok (.ifCond .ne 7, 3) := dk_154 0 7 (dk_at dksX0_again_0 6 rfl rfl)
theorem dX0_again_9 : decode cX0_again 9 = .ok (.ldc2_w 233, 3) := dk_20 0 233 (dk_at dksX0_again_0 9 rfl rfl)
theorem dX0_again_12 : decode cX0_again 12 = .ok (.lreturn, 1) := dk_173 (dk_at dksX0_again_0 12 rfl rfl)
theorem dX0_again_13 : decode cX0_again 13 = .ok (.aload_n 0, 1) := dk_42 (dk_at dksX0_again_0 13 rfl rfl)
theorem dX0_again_14 : decode cX0_again 14 = .ok (.invokevirtual 308, 3) := dk_182 1 52 (dk_at dksX0_again_0 14 rfl rfl)
theorem dX0_again_17 : decode cX0_again 17 = .ok (.aload_n 0, 1) := dk_42 (dk_at dksX0_again_0 17 rfl rfl)
theorem dX0_again_18 : decode cX0_again 18 = .ok (.iconst (-1), 1) := dk_2 (dk_at dksX0_again_0 18 rfl rfl)
theorem dX0_again_19 : decode cX0_again 19 = .ok (.aload_n 0, 1) := dk_42 (dk_at dksX0_again_0 19 rfl rfl)
theorem dX0_again_20 : decode cX0_again 20 = .ok (.getfield 65, 3) := dk_180 0 65 (dk_at dksX0_again_0 20 rfl rfl)
theorem dX0_again_23 : decode cX0_again 23 = .ok (.aload_n 0, 1) := dk_42 (dk_at dksX0_again_0 23 rfl rfl)
theorem dX0_again_24 : decode cX0_again 24 = .ok (.getfield 16, 3) := dk_180 0 16 (dk_at dksX0_again_1 0 rfl rfl)
theorem dX0_again_27 : decode cX0_again 27 = .ok (.getfield 142, 3) := dk_180 0 142 (dk_at dksX0_again_1 3 rfl rfl)
theorem dX0_again_30 : decode cX0_again 30 = .ok (.invokevirtual 339, 3) := dk_182 1 83 (dk_at dksX0_again_1 6 rfl rfl)
theorem dX0_again_33 : decode cX0_again 33 = .ok (.lstore_n 2, 1) := dk_65 (dk_at dksX0_again_1 9 rfl rfl)
theorem dX0_again_34 : decode cX0_again 34 = .ok (.lload_n 2, 1) := dk_32 (dk_at dksX0_again_1 10 rfl rfl)
theorem dX0_again_35 : decode cX0_again 35 = .ok (.lload_n 2, 1) := dk_32 (dk_at dksX0_again_1 11 rfl rfl)
theorem dX0_again_36 : decode cX0_again 36 = .ok (.lmul, 1) := dk_105 (dk_at dksX0_again_1 12 rfl rfl)
theorem dX0_again_37 : decode cX0_again 37 = .ok (.aload_n 0, 1) := dk_42 (dk_at dksX0_again_1 13 rfl rfl)
theorem dX0_again_38 : decode cX0_again 38 = .ok (.getfield 65, 3) := dk_180 0 65 (dk_at dksX0_again_1 14 rfl rfl)
theorem dX0_again_41 : decode cX0_again 41 = .ok (.invokevirtual 343, 3) := dk_182 1 87 (dk_at dksX0_again_1 17 rfl rfl)
theorem dX0_again_44 : decode cX0_again 44 = .ok (.aload_n 0, 1) := dk_42 (dk_at dksX0_again_1 20 rfl rfl)
theorem dX0_again_45 : decode cX0_again 45 = .ok (.getfield 65, 3) := dk_180 0 65 (dk_at dksX0_again_1 21 rfl rfl)
theorem dX0_again_48 : decode cX0_again 48 = .ok (.invokevirtual 343, 3) := dk_182 1 87 (dk_at dksX0_again_2 0 rfl rfl)
theorem dX0_again_51 : decode cX0_again 51 = .ok (.lmul, 1) := dk_105 (dk_at dksX0_again_2 3 rfl rfl)
theorem dX0_again_52 : decode cX0_again 52 = .ok (.iload_n 1, 1) := dk_27 (dk_at dksX0_again_2 4 rfl rfl)
theorem dX0_again_53 : decode cX0_again 53 = .ok (.ifCond .ne 7, 3) := dk_154 0 7 (dk_at dksX0_again_2 5 rfl rfl)
theorem dX0_again_56 : decode cX0_again 56 = .ok (.iconst 1, 1) := dk_4 (dk_at dksX0_again_2 8 rfl rfl)
theorem dX0_again_57 : decode cX0_again 57 = .ok (.goto 4, 3) := dk_167 0 4 (dk_at dksX0_again_2 9 rfl rfl)
theorem dX0_again_60 : decode cX0_again 60 = .ok (.iconst 0, 1) := dk_3 (dk_at dksX0_again_2 12 rfl rfl)
theorem dX0_again_61 : decode cX0_again 61 = .ok (.invokestatic 335, 3) := dk_184 1 79 (dk_at dksX0_again_2 13 rfl rfl)
theorem dX0_again_64 : decode cX0_again 64 = .ok (.lreturn, 1) := dk_173 (dk_at dksX0_again_2 16 rfl rfl)
abbrev cX0_truly : ByteArray := prog_1_method_78_code
def yX0_truly : MethodName := ⟨RX0, "truly", "(I)J"⟩
def dkwX0_truly_3 : List UInt8 := [20, 1, 133, 42, 180, 0, 65, 182, 1, 87, 105, 27, 154, 0, 7, 4, 167, 0, 4, 3, 184, 1, 79, 173]
abbrev dktX0_truly_3 : List UInt8 := dkwX0_truly_3 ++ []
def dkwX0_truly_2 : List UInt8 := [180, 0, 142, 182, 1, 83, 42, 21, 4, 4, 182, 1, 10, 133, 105, 97, 65, 132, 4, 1, 167, 255, 212, 32]
abbrev dktX0_truly_2 : List UInt8 := dkwX0_truly_2 ++ dktX0_truly_3
def dkwX0_truly_1 : List UInt8 := [42, 180, 0, 16, 180, 0, 118, 162, 0, 38, 32, 42, 21, 4, 42, 180, 0, 65, 42, 180, 0, 16]
abbrev dktX0_truly_1 : List UInt8 := dkwX0_truly_1 ++ dktX0_truly_2
def dkwX0_truly_0 : List UInt8 := [27, 3, 4, 184, 0, 97, 154, 0, 7, 20, 0, 233, 173, 42, 182, 1, 52, 9, 65, 3, 54, 4, 21, 4]
abbrev dktX0_truly_0 : List UInt8 := dkwX0_truly_0 ++ dktX0_truly_1
theorem dksX0_truly_0 : cX0_truly.data.toList.drop 0 = dktX0_truly_0 := by decide +kernel
theorem dksX0_truly_1 : cX0_truly.data.toList.drop 24 = dktX0_truly_1 := dk_seg dksX0_truly_0 24 rfl rfl
theorem dksX0_truly_2 : cX0_truly.data.toList.drop 46 = dktX0_truly_2 := dk_seg dksX0_truly_1 22 rfl rfl
theorem dksX0_truly_3 : cX0_truly.data.toList.drop 70 = dktX0_truly_3 := dk_seg dksX0_truly_2 24 rfl rfl
theorem dX0_truly_0 : decode cX0_truly 0 = .ok (.iload_n 1, 1) := dk_27 (dk_at dksX0_truly_0 0 rfl rfl)
theorem dX0_truly_1 : decode cX0_truly 1 = .ok (.iconst 0, 1) := dk_3 (dk_at dksX0_truly_0 1 rfl rfl)
theorem dX0_truly_2 : decode cX0_truly 2 = .ok (.iconst 1, 1) := dk_4 (dk_at dksX0_truly_0 2 rfl rfl)
theorem dX0_truly_3 : decode cX0_truly 3 = .ok (.invokestatic 97, 3) := dk_184 0 97 (dk_at dksX0_truly_0 3 rfl rfl)
theorem dX0_truly_6 : decode cX0_truly 6 = .ok (.ifCond .ne 7, 3) := dk_154 0 7 (dk_at dksX0_truly_0 6 rfl rfl)
theorem dX0_truly_9 : decode cX0_truly 9 = .ok (.ldc2_w 233, 3) := dk_20 0 233 (dk_at dksX0_truly_0 9 rfl rfl)
theorem dX0_truly_12 : decode cX0_truly 12 = .ok (.lreturn, 1) := dk_173 (dk_at dksX0_truly_0 12 rfl rfl)
theorem dX0_truly_13 : decode cX0_truly 13 = .ok (.aload_n 0, 1) := dk_42 (dk_at dksX0_truly_0 13 rfl rfl)
theorem dX0_truly_14 : decode cX0_truly 14 = .ok (.invokevirtual 308, 3) := dk_182 1 52 (dk_at dksX0_truly_0 14 rfl rfl)
theorem dX0_truly_17 : decode cX0_truly 17 = .ok (.lconst 0, 1) := dk_9 (dk_at dksX0_truly_0 17 rfl rfl)
theorem dX0_truly_18 : decode cX0_truly 18 = .ok (.lstore_n 2, 1) := dk_65 (dk_at dksX0_truly_0 18 rfl rfl)
theorem dX0_truly_19 : decode cX0_truly 19 = .ok (.iconst 0, 1) := dk_3 (dk_at dksX0_truly_0 19 rfl rfl)
theorem dX0_truly_20 : decode cX0_truly 20 = .ok (.istore 4, 2) := dk_54 4 (dk_at dksX0_truly_0 20 rfl rfl)
theorem dX0_truly_22 : decode cX0_truly 22 = .ok (.iload 4, 2) := dk_21 4 (dk_at dksX0_truly_0 22 rfl rfl)
theorem dX0_truly_24 : decode cX0_truly 24 = .ok (.aload_n 0, 1) := dk_42 (dk_at dksX0_truly_1 0 rfl rfl)
theorem dX0_truly_25 : decode cX0_truly 25 = .ok (.getfield 16, 3) := dk_180 0 16 (dk_at dksX0_truly_1 1 rfl rfl)
theorem dX0_truly_28 : decode cX0_truly 28 = .ok (.getfield 118, 3) := dk_180 0 118 (dk_at dksX0_truly_1 4 rfl rfl)
theorem dX0_truly_31 : decode cX0_truly 31 = .ok (.if_icmp .ge 38, 3) := dk_162 0 38 (dk_at dksX0_truly_1 7 rfl rfl)
theorem dX0_truly_34 : decode cX0_truly 34 = .ok (.lload_n 2, 1) := dk_32 (dk_at dksX0_truly_1 10 rfl rfl)
theorem dX0_truly_35 : decode cX0_truly 35 = .ok (.aload_n 0, 1) := dk_42 (dk_at dksX0_truly_1 11 rfl rfl)
theorem dX0_truly_36 : decode cX0_truly 36 = .ok (.iload 4, 2) := dk_21 4 (dk_at dksX0_truly_1 12 rfl rfl)
theorem dX0_truly_38 : decode cX0_truly 38 = .ok (.aload_n 0, 1) := dk_42 (dk_at dksX0_truly_1 14 rfl rfl)
theorem dX0_truly_39 : decode cX0_truly 39 = .ok (.getfield 65, 3) := dk_180 0 65 (dk_at dksX0_truly_1 15 rfl rfl)
theorem dX0_truly_42 : decode cX0_truly 42 = .ok (.aload_n 0, 1) := dk_42 (dk_at dksX0_truly_1 18 rfl rfl)
theorem dX0_truly_43 : decode cX0_truly 43 = .ok (.getfield 16, 3) := dk_180 0 16 (dk_at dksX0_truly_1 19 rfl rfl)
theorem dX0_truly_46 : decode cX0_truly 46 = .ok (.getfield 142, 3) := dk_180 0 142 (dk_at dksX0_truly_2 0 rfl rfl)
theorem dX0_truly_49 : decode cX0_truly 49 = .ok (.invokevirtual 339, 3) := dk_182 1 83 (dk_at dksX0_truly_2 3 rfl rfl)
theorem dX0_truly_52 : decode cX0_truly 52 = .ok (.aload_n 0, 1) := dk_42 (dk_at dksX0_truly_2 6 rfl rfl)
theorem dX0_truly_53 : decode cX0_truly 53 = .ok (.iload 4, 2) := dk_21 4 (dk_at dksX0_truly_2 7 rfl rfl)
theorem dX0_truly_55 : decode cX0_truly 55 = .ok (.iconst 1, 1) := dk_4 (dk_at dksX0_truly_2 9 rfl rfl)
theorem dX0_truly_56 : decode cX0_truly 56 = .ok (.invokevirtual 266, 3) := dk_182 1 10 (dk_at dksX0_truly_2 10 rfl rfl)
theorem dX0_truly_59 : decode cX0_truly 59 = .ok (.i2l, 1) := dk_133 (dk_at dksX0_truly_2 13 rfl rfl)
theorem dX0_truly_60 : decode cX0_truly 60 = .ok (.lmul, 1) := dk_105 (dk_at dksX0_truly_2 14 rfl rfl)
theorem dX0_truly_61 : decode cX0_truly 61 = .ok (.ladd, 1) := dk_97 (dk_at dksX0_truly_2 15 rfl rfl)
theorem dX0_truly_62 : decode cX0_truly 62 = .ok (.lstore_n 2, 1) := dk_65 (dk_at dksX0_truly_2 16 rfl rfl)
theorem dX0_truly_63 : decode cX0_truly 63 = .ok (.iinc 4 1, 3) := dk_132 4 1 (dk_at dksX0_truly_2 17 rfl rfl)
theorem dX0_truly_66 : decode cX0_truly 66 = .ok (.goto (-44), 3) := dk_167 255 212 (dk_at dksX0_truly_2 20 rfl rfl)
theorem dX0_truly_69 : decode cX0_truly 69 = .ok (.lload_n 2, 1) := dk_32 (dk_at dksX0_truly_2 23 rfl rfl)
theorem dX0_truly_70 : decode cX0_truly 70 = .ok (.ldc2_w 389, 3) := dk_20 1 133 (dk_at dksX0_truly_3 0 rfl rfl)
theorem dX0_truly_73 : decode cX0_truly 73 = .ok (.aload_n 0, 1) := dk_42 (dk_at dksX0_truly_3 3 rfl rfl)
theorem dX0_truly_74 : decode cX0_truly 74 = .ok (.getfield 65, 3) := dk_180 0 65 (dk_at dksX0_truly_3 4 rfl rfl)
theorem dX0_truly_77 : decode cX0_truly 77 = .ok (.invokevirtual 343, 3) := dk_182 1 87 (dk_at dksX0_truly_3 7 rfl rfl)
theorem dX0_truly_80 : decode cX0_truly 80 = .ok (.lmul, 1) := dk_105 (dk_at dksX0_truly_3 10 rfl rfl)
theorem dX0_truly_81 : decode cX0_truly 81 = .ok (.iload_n 1, 1) := dk_27 (dk_at dksX0_truly_3 11 rfl rfl)
theorem dX0_truly_82 : decode cX0_truly 82 = .ok (.ifCond .ne 7, 3) := dk_154 0 7 (dk_at dksX0_truly_3 12 rfl rfl)
theorem dX0_truly_85 : decode cX0_truly 85 = .ok (.iconst 1, 1) := dk_4 (dk_at dksX0_truly_3 15 rfl rfl)
theorem dX0_truly_86 : decode cX0_truly 86 = .ok (.goto 4, 3) := dk_167 0 4 (dk_at dksX0_truly_3 16 rfl rfl)
theorem dX0_truly_89 : decode cX0_truly 89 = .ok (.iconst 0, 1) := dk_3 (dk_at dksX0_truly_3 19 rfl rfl)
theorem dX0_truly_90 : decode cX0_truly 90 = .ok (.invokestatic 335, 3) := dk_184 1 79 (dk_at dksX0_truly_3 20 rfl rfl)
theorem dX0_truly_93 : decode cX0_truly 93 = .ok (.lreturn, 1) := dk_173 (dk_at dksX0_truly_3 23 rfl rfl)
abbrev cX0_meant : ByteArray := prog_1_method_79_code
def yX0_meant : MethodName := ⟨RX0, "meant", "(II)J"⟩
def dkwX0_meant_7 : List UInt8 := [157, 0, 6, 167, 0, 11, 22, 8, 55, 5, 21, 7, 54, 4, 132, 7, 1, 167, 255, 201, 21, 4, 133, 173]
abbrev dktX0_meant_7 : List UInt8 := dkwX0_meant_7 ++ []
def dkwX0_meant_6 : List UInt8 := [180, 0, 69, 29, 50, 42, 180, 0, 16, 180, 0, 142, 182, 1, 83, 55, 8, 22, 8, 22, 5, 148]
abbrev dktX0_meant_6 : List UInt8 := dkwX0_meant_6 ++ dktX0_meant_7
def dkwX0_meant_5 : List UInt8 := [9, 55, 5, 3, 54, 7, 21, 7, 42, 180, 0, 16, 180, 0, 118, 162, 0, 49, 42, 21, 7, 42]
abbrev dktX0_meant_5 : List UInt8 := dkwX0_meant_5 ++ dktX0_meant_6
def dkwX0_meant_4 : List UInt8 := [162, 0, 21, 29, 2, 160, 0, 9, 20, 0, 233, 167, 0, 9, 42, 29, 28, 182, 1, 120, 173, 2, 54, 4]
abbrev dktX0_meant_4 : List UInt8 := dkwX0_meant_4 ++ dktX0_meant_5
def dkwX0_meant_3 : List UInt8 := [182, 1, 116, 153, 0, 6, 21, 4, 62, 132, 4, 1, 167, 255, 213, 29, 2, 159, 0, 8, 28, 7]
abbrev dktX0_meant_3 : List UInt8 := dkwX0_meant_3 ++ dktX0_meant_4
def dkwX0_meant_2 : List UInt8 := [180, 0, 69, 21, 4, 50, 27, 182, 1, 73, 133, 42, 180, 0, 69, 21, 4, 50, 180, 1, 76, 133]
abbrev dktX0_meant_2 : List UInt8 := dkwX0_meant_2 ++ dktX0_meant_3
def dkwX0_meant_1 : List UInt8 := [42, 9, 181, 1, 104, 42, 10, 181, 1, 100, 2, 62, 3, 54, 4, 21, 4, 16, 25, 162, 0, 42, 42, 42]
abbrev dktX0_meant_1 : List UInt8 := dkwX0_meant_1 ++ dktX0_meant_2
def dkwX0_meant_0 : List UInt8 := [27, 184, 0, 134, 153, 0, 12, 28, 3, 7, 184, 0, 97, 154, 0, 7, 20, 0, 233, 173, 42, 182, 1, 110]
abbrev dktX0_meant_0 : List UInt8 := dkwX0_meant_0 ++ dktX0_meant_1
theorem dksX0_meant_0 : cX0_meant.data.toList.drop 0 = dktX0_meant_0 := by decide +kernel
theorem dksX0_meant_1 : cX0_meant.data.toList.drop 24 = dktX0_meant_1 := dk_seg dksX0_meant_0 24 rfl rfl
theorem dksX0_meant_2 : cX0_meant.data.toList.drop 48 = dktX0_meant_2 := dk_seg dksX0_meant_1 24 rfl rfl
theorem dksX0_meant_3 : cX0_meant.data.toList.drop 70 = dktX0_meant_3 := dk_seg dksX0_meant_2 22 rfl rfl
theorem dksX0_meant_4 : cX0_meant.data.toList.drop 92 = dktX0_meant_4 := dk_seg dksX0_meant_3 22 rfl rfl
theorem dksX0_meant_5 : cX0_meant.data.toList.drop 116 = dktX0_meant_5 := dk_seg dksX0_meant_4 24 rfl rfl
theorem dksX0_meant_6 : cX0_meant.data.toList.drop 138 = dktX0_meant_6 := dk_seg dksX0_meant_5 22 rfl rfl
theorem dksX0_meant_7 : cX0_meant.data.toList.drop 160 = dktX0_meant_7 := dk_seg dksX0_meant_6 22 rfl rfl
theorem dX0_meant_0 : decode cX0_meant 0 = .ok (.iload_n 1, 1) := dk_27 (dk_at dksX0_meant_0 0 rfl rfl)
theorem dX0_meant_1 : decode cX0_meant 1 = .ok (.invokestatic 134, 3) := dk_184 0 134 (dk_at dksX0_meant_0 1 rfl rfl)
theorem dX0_meant_4 : decode cX0_meant 4 = .ok (.ifCond .eq 12, 3) := dk_153 0 12 (dk_at dksX0_meant_0 4 rfl rfl)
theorem dX0_meant_7 : decode cX0_meant 7 = .ok (.iload_n 2, 1) := dk_28 (dk_at dksX0_meant_0 7 rfl rfl)
theorem dX0_meant_8 : decode cX0_meant 8 = .ok (.iconst 0, 1) := dk_3 (dk_at dksX0_meant_0 8 rfl rfl)
theorem dX0_meant_9 : decode cX0_meant 9 = .ok (.iconst 4, 1) := dk_7 (dk_at dksX0_meant_0 9 rfl rfl)
theorem dX0_meant_10 : decode cX0_meant 10 = .ok (.invokestatic 97, 3) := dk_184 0 97 (dk_at dksX0_meant_0 10 rfl rfl)
theorem dX0_meant_13 : decode cX0_meant 13 = .ok (.ifCond .ne 7, 3) := dk_154 0 7 (dk_at dksX0_meant_0 13 rfl rfl)
theorem dX0_meant_16 : decode cX0_meant 16 = .ok (.ldc2_w 233, 3) := dk_20 0 233 (dk_at dksX0_meant_0 16 rfl rfl)
theorem dX0_meant_19 : decode cX0_meant 19 = .ok (.lreturn, 1) := dk_173 (dk_at dksX0_meant_0 19 rfl rfl)
theorem dX0_meant_20 : decode cX0_meant 20 = .ok (.aload_n 0, 1) := dk_42 (dk_at dksX0_meant_0 20 rfl rfl)
theorem dX0_meant_21 : decode cX0_meant 21 = .ok (.invokevirtual 366, 3) := dk_182 1 110 (dk_at dksX0_meant_0 21 rfl rfl)
theorem dX0_meant_24 : decode cX0_meant 24 = .ok (.aload_n 0, 1) := dk_42 (dk_at dksX0_meant_1 0 rfl rfl)
theorem dX0_meant_25 : decode cX0_meant 25 = .ok (.lconst 0, 1) := dk_9 (dk_at dksX0_meant_1 1 rfl rfl)
theorem dX0_meant_26 : decode cX0_meant 26 = .ok (.putfield 360, 3) := dk_181 1 104 (dk_at dksX0_meant_1 2 rfl rfl)
theorem dX0_meant_29 : decode cX0_meant 29 = .ok (.aload_n 0, 1) := dk_42 (dk_at dksX0_meant_1 5 rfl rfl)
theorem dX0_meant_30 : decode cX0_meant 30 = .ok (.lconst 1, 1) := dk_10 (dk_at dksX0_meant_1 6 rfl rfl)
theorem dX0_meant_31 : decode cX0_meant 31 = .ok (.putfield 356, 3) := dk_181 1 100 (dk_at dksX0_meant_1 7 rfl rfl)
theorem dX0_meant_34 : decode cX0_meant 34 = .ok (.iconst (-1), 1) := dk_2 (dk_at dksX0_meant_1 10 rfl rfl)
theorem dX0_meant_35 : decode cX0_meant 35 = .ok (.istore_n 3, 1) := dk_62 (dk_at dksX0_meant_1 11 rfl rfl)
theorem dX0_meant_36 : decode cX0_meant 36 = .ok (.iconst 0, 1) := dk_3 (dk_at dksX0_meant_1 12 rfl rfl)
theorem dX0_meant_37 : decode cX0_meant 37 = .ok (.istore 4, 2) := dk_54 4 (dk_at dksX0_meant_1 13 rfl rfl)
theorem dX0_meant_39 : decode cX0_meant 39 = .ok (.iload 4, 2) := dk_21 4 (dk_at dksX0_meant_1 15 rfl rfl)
theorem dX0_meant_41 : decode cX0_meant 41 = .ok (.bipush 25, 2) := dk_16 25 (dk_at dksX0_meant_1 17 rfl rfl)
theorem dX0_meant_43 : decode cX0_meant 43 = .ok (.if_icmp .ge 42, 3) := dk_162 0 42 (dk_at dksX0_meant_1 19 rfl rfl)
theorem dX0_meant_46 : decode cX0_meant 46 = .ok (.aload_n 0, 1) := dk_42 (dk_at dksX0_meant_1 22 rfl rfl)
theorem dX0_meant_47 : decode cX0_meant 47 = .ok (.aload_n 0, 1) := dk_42 (dk_at dksX0_meant_1 23 rfl rfl)
theorem dX0_meant_48 : decode cX0_meant 48 = .ok (.getfield 69, 3) := dk_180 0 69 (dk_at dksX0_meant_2 0 rfl rfl)
theorem dX0_meant_51 : decode cX0_meant 51 = .ok (.iload 4, 2) := dk_21 4 (dk_at dksX0_meant_2 3 rfl rfl)
theorem dX0_meant_53 : decode cX0_meant 53 = .ok (.aaload, 1) := dk_50 (dk_at dksX0_meant_2 5 rfl rfl)
theorem dX0_meant_54 : decode cX0_meant 54 = .ok (.iload_n 1, 1) := dk_27 (dk_at dksX0_meant_2 6 rfl rfl)
theorem dX0_meant_55 : decode cX0_meant 55 = .ok (.invokevirtual 329, 3) := dk_182 1 73 (dk_at dksX0_meant_2 7 rfl rfl)
theorem dX0_meant_58 : decode cX0_meant 58 = .ok (.i2l, 1) := dk_133 (dk_at dksX0_meant_2 10 rfl rfl)
theorem dX0_meant_59 : decode cX0_meant 59 = .ok (.aload_n 0, 1) := dk_42 (dk_at dksX0_meant_2 11 rfl rfl)
theorem dX0_meant_60 : decode cX0_meant 60 = .ok (.getfield 69, 3) := dk_180 0 69 (dk_at dksX0_meant_2 12 rfl rfl)
theorem dX0_meant_63 : decode cX0_meant 63 = .ok (.iload 4, 2) := dk_21 4 (dk_at dksX0_meant_2 15 rfl rfl)
theorem dX0_meant_65 : decode cX0_meant 65 = .ok (.aaload, 1) := dk_50 (dk_at dksX0_meant_2 17 rfl rfl)
theorem dX0_meant_66 : decode cX0_meant 66 = .ok (.getfield 332, 3) := dk_180 1 76 (dk_at dksX0_meant_2 18 rfl rfl)
theorem dX0_meant_69 : decode cX0_meant 69 = .ok (.i2l, 1) := dk_133 (dk_at dksX0_meant_2 21 rfl rfl)
theorem dX0_meant_70 : decode cX0_meant 70 = .ok (.invokevirtual 372, 3) := dk_182 1 116 (dk_at dksX0_meant_3 0 rfl rfl)
theorem dX0_meant_73 : decode cX0_meant 73 = .ok (.ifCond .eq 6, 3) := dk_153 0 6 (dk_at dksX0_meant_3 3 rfl rfl)
theorem dX0_meant_76 : decode cX0_meant 76 = .ok (.iload 4, 2) := dk_21 4 (dk_at dksX0_meant_3 6 rfl rfl)
theorem dX0_meant_78 : decode cX0_meant 78 = .ok (.istore_n 3, 1) := dk_62 (dk_at dksX0_meant_3 8 rfl rfl)
theorem dX0_meant_79 : decode cX0_meant 79 = .ok (.iinc 4 1, 3) := dk_132 4 1 (dk_at dksX0_meant_3 9 rfl rfl)
theorem dX0_meant_82 : decode cX0_meant 82 = .ok (.goto (-43), 3) := dk_167 255 213 (dk_at dksX0_meant_3 12 rfl rfl)
theorem dX0_meant_85 : decode cX0_meant 85 = .ok (.iload_n 3, 1) := dk_29 (dk_at dksX0_meant_3 15 rfl rfl)
theorem dX0_meant_86 : decode cX0_meant 86 = .ok (.iconst (-1), 1) := dk_2 (dk_at dksX0_meant_3 16 rfl rfl)
theorem dX0_meant_87 : decode cX0_meant 87 = .ok (.if_icmp .eq 8, 3) := dk_159 0 8 (dk_at dksX0_meant_3 17 rfl rfl)
theorem dX0_meant_90 : decode cX0_meant 90 = .ok (.iload_n 2, 1) := dk_28 (dk_at dksX0_meant_3 20 rfl rfl)
theorem dX0_meant_91 : decode cX0_meant 91 = .ok (.iconst 4, 1) := dk_7 (dk_at dksX0_meant_3 21 rfl rfl)
theorem dX0_meant_92 : decode cX0_meant 92 = .ok (.if_icmp .ge 21, 3) := dk_162 0 21 (dk_at dksX0_meant_4 0 rfl rfl)
theorem dX0_meant_95 : decode cX0_meant 95 = .ok (.iload_n 3, 1) := dk_29 (dk_at dksX0_meant_4 3 rfl rfl)
theorem dX0_meant_96 : decode cX0_meant 96 = .ok (.iconst (-1), 1) := dk_2 (dk_at dksX0_meant_4 4 rfl rfl)
theorem dX0_meant_97 : decode cX0_meant 97 = .ok (.if_icmp .ne 9, 3) := dk_160 0 9 (dk_at dksX0_meant_4 5 rfl rfl)
theorem dX0_meant_100 : decode cX0_meant 100 = .ok (.ldc2_w 233, 3) := dk_20 0 233 (dk_at dksX0_meant_4 8 rfl rfl)
theorem dX0_meant_103 : decode cX0_meant 103 = .ok (.goto 9, 3) := dk_167 0 9 (dk_at dksX0_meant_4 11 rfl rfl)
theorem dX0_meant_106 : decode cX0_meant 106 = .ok (.aload_n 0, 1) := dk_42 (dk_at dksX0_meant_4 14 rfl rfl)
theorem dX0_meant_107 : decode cX0_meant 107 = .ok (.iload_n 3, 1) := dk_29 (dk_at dksX0_meant_4 15 rfl rfl)
theorem dX0_meant_108 : decode cX0_meant 108 = .ok (.iload_n 2, 1) := dk_28 (dk_at dksX0_meant_4 16 rfl rfl)
theorem dX0_meant_109 : decode cX0_meant 109 = .ok (.invokevirtual 376, 3) := dk_182 1 120 (dk_at dksX0_meant_4 17 rfl rfl)
theorem dX0_meant_112 : decode cX0_meant 112 = .ok (.lreturn, 1) := dk_173 (dk_at dksX0_meant_4 20 rfl rfl)
theorem dX0_meant_113 : decode cX0_meant 113 = .ok (.iconst (-1), 1) := dk_2 (dk_at dksX0_meant_4 21 rfl rfl)
theorem dX0_meant_114 : decode cX0_meant 114 = .ok (.istore 4, 2) := dk_54 4 (dk_at dksX0_meant_4 22 rfl rfl)
theorem dX0_meant_116 : decode cX0_meant 116 = .ok (.lconst 0, 1) := dk_9 (dk_at dksX0_meant_5 0 rfl rfl)
theorem dX0_meant_117 : decode cX0_meant 117 = .ok (.lstore 5, 2) := dk_55 5 (dk_at dksX0_meant_5 1 rfl rfl)
theorem dX0_meant_119 : decode cX0_meant 119 = .ok (.iconst 0, 1) := dk_3 (dk_at dksX0_meant_5 3 rfl rfl)
theorem dX0_meant_120 : decode cX0_meant 120 = .ok (.istore 7, 2) := dk_54 7 (dk_at dksX0_meant_5 4 rfl rfl)
theorem dX0_meant_122 : decode cX0_meant 122 = .ok (.iload 7, 2) := dk_21 7 (dk_at dksX0_meant_5 6 rfl rfl)
theorem dX0_meant_124 : decode cX0_meant 124 = .ok (.aload_n 0, 1) := dk_42 (dk_at dksX0_meant_5 8 rfl rfl)
theorem dX0_meant_125 : decode cX0_meant 125 = .ok (.getfield 16, 3) := dk_180 0 16 (dk_at dksX0_meant_5 9 rfl rfl)
theorem dX0_meant_128 : decode cX0_meant 128 = .ok (.getfield 118, 3) := dk_180 0 118 (dk_at dksX0_meant_5 12 rfl rfl)
theorem dX0_meant_131 : decode cX0_meant 131 = .ok (.if_icmp .ge 49, 3) := dk_162 0 49 (dk_at dksX0_meant_5 15 rfl rfl)
theorem dX0_meant_134 : decode cX0_meant 134 = .ok (.aload_n 0, 1) := dk_42 (dk_at dksX0_meant_5 18 rfl rfl)
theorem dX0_meant_135 : decode cX0_meant 135 = .ok (.iload 7, 2) := dk_21 7 (dk_at dksX0_meant_5 19 rfl rfl)
theorem dX0_meant_137 : decode cX0_meant 137 = .ok (.aload_n 0, 1) := dk_42 (dk_at dksX0_meant_5 21 rfl rfl)
theorem dX0_meant_138 : decode cX0_meant 138 = .ok (.getfield 69, 3) := dk_180 0 69 (dk_at dksX0_meant_6 0 rfl rfl)
theorem dX0_meant_141 : decode cX0_meant 141 = .ok (.iload_n 3, 1) := dk_29 (dk_at dksX0_meant_6 3 rfl rfl)
theorem dX0_meant_142 : decode cX0_meant 142 = .ok (.aaload, 1) := dk_50 (dk_at dksX0_meant_6 4 rfl rfl)
theorem dX0_meant_143 : decode cX0_meant 143 = .ok (.aload_n 0, 1) := dk_42 (dk_at dksX0_meant_6 5 rfl rfl)
theorem dX0_meant_144 : decode cX0_meant 144 = .ok (.getfield 16, 3) := dk_180 0 16 (dk_at dksX0_meant_6 6 rfl rfl)
theorem dX0_meant_147 : decode cX0_meant 147 = .ok (.getfield 142, 3) := dk_180 0 142 (dk_at dksX0_meant_6 9 rfl rfl)
theorem dX0_meant_150 : decode cX0_meant 150 = .ok (.invokevirtual 339, 3) := dk_182 1 83 (dk_at dksX0_meant_6 12 rfl rfl)
theorem dX0_meant_153 : decode cX0_meant 153 = .ok (.lstore 8, 2) := dk_55 8 (dk_at dksX0_meant_6 15 rfl rfl)
theorem dX0_meant_155 : decode cX0_meant 155 = .ok (.lload 8, 2) := dk_22 8 (dk_at dksX0_meant_6 17 rfl rfl)
theorem dX0_meant_157 : decode cX0_meant 157 = .ok (.lload 5, 2) := dk_22 5 (dk_at dksX0_meant_6 19 rfl rfl)
theorem dX0_meant_159 : decode cX0_meant 159 = .ok (.lcmp, 1) := dk_148 (dk_at dksX0_meant_6 21 rfl rfl)
theorem dX0_meant_160 : decode cX0_meant 160 = .ok (.ifCond .gt 6, 3) := dk_157 0 6 (dk_at dksX0_meant_7 0 rfl rfl)
theorem dX0_meant_163 : decode cX0_meant 163 = .ok (.goto 11, 3) := dk_167 0 11 (dk_at dksX0_meant_7 3 rfl rfl)
theorem dX0_meant_166 : decode cX0_meant 166 = .ok (.lload 8, 2) := dk_22 8 (dk_at dksX0_meant_7 6 rfl rfl)
theorem dX0_meant_168 : decode cX0_meant 168 = .ok (.lstore 5, 2) := dk_55 5 (dk_at dksX0_meant_7 8 rfl rfl)
theorem dX0_meant_170 : decode cX0_meant 170 = .ok (.iload 7, 2) := dk_21 7 (dk_at dksX0_meant_7 10 rfl rfl)
theorem dX0_meant_172 : decode cX0_meant 172 = .ok (.istore 4, 2) := dk_54 4 (dk_at dksX0_meant_7 12 rfl rfl)
theorem dX0_meant_174 : decode cX0_meant 174 = .ok (.iinc 7 1, 3) := dk_132 7 1 (dk_at dksX0_meant_7 14 rfl rfl)
theorem dX0_meant_177 : decode cX0_meant 177 = .ok (.goto (-55), 3) := dk_167 255 201 (dk_at dksX0_meant_7 17 rfl rfl)
theorem dX0_meant_180 : decode cX0_meant 180 = .ok (.iload 4, 2) := dk_21 4 (dk_at dksX0_meant_7 20 rfl rfl)
theorem dX0_meant_182 : decode cX0_meant 182 = .ok (.i2l, 1) := dk_133 (dk_at dksX0_meant_7 22 rfl rfl)
theorem dX0_meant_183 : decode cX0_meant 183 = .ok (.lreturn, 1) := dk_173 (dk_at dksX0_meant_7 23 rfl rfl)
abbrev cX0_film : ByteArray := prog_1_method_80_code
def yX0_film : MethodName := ⟨RX0, "film", "(I)I"⟩
def dkwX0_film_3 : List UInt8 := [182, 0, 115, 172]
abbrev dktX0_film_3 : List UInt8 := dkwX0_film_3 ++ []
def dkwX0_film_2 : List UInt8 := [27, 79, 42, 180, 0, 16, 89, 180, 1, 135, 4, 96, 181, 1, 135, 42, 42, 180, 0, 16, 180, 1, 135]
abbrev dktX0_film_2 : List UInt8 := dkwX0_film_2 ++ dktX0_film_3
def dkwX0_film_1 : List UInt8 := [160, 0, 10, 42, 16, 251, 182, 0, 124, 172, 42, 180, 0, 16, 180, 1, 138, 42, 180, 0, 16, 180, 1, 135]
abbrev dktX0_film_1 : List UInt8 := dkwX0_film_1 ++ dktX0_film_2
def dkwX0_film_0 : List UInt8 := [27, 184, 0, 134, 154, 0, 9, 42, 2, 182, 0, 124, 172, 42, 180, 0, 16, 180, 1, 135, 16, 8]
abbrev dktX0_film_0 : List UInt8 := dkwX0_film_0 ++ dktX0_film_1
theorem dksX0_film_0 : cX0_film.data.toList.drop 0 = dktX0_film_0 := by decide +kernel
theorem dksX0_film_1 : cX0_film.data.toList.drop 22 = dktX0_film_1 := dk_seg dksX0_film_0 22 rfl rfl
theorem dksX0_film_2 : cX0_film.data.toList.drop 46 = dktX0_film_2 := dk_seg dksX0_film_1 24 rfl rfl
theorem dksX0_film_3 : cX0_film.data.toList.drop 69 = dktX0_film_3 := dk_seg dksX0_film_2 23 rfl rfl
theorem dX0_film_0 : decode cX0_film 0 = .ok (.iload_n 1, 1) := dk_27 (dk_at dksX0_film_0 0 rfl rfl)
theorem dX0_film_1 : decode cX0_film 1 = .ok (.invokestatic 134, 3) := dk_184 0 134 (dk_at dksX0_film_0 1 rfl rfl)
theorem dX0_film_4 : decode cX0_film 4 = .ok (.ifCond .ne 9, 3) := dk_154 0 9 (dk_at dksX0_film_0 4 rfl rfl)
theorem dX0_film_7 : decode cX0_film 7 = .ok (.aload_n 0, 1) := dk_42 (dk_at dksX0_film_0 7 rfl rfl)
theorem dX0_film_8 : decode cX0_film 8 = .ok (.iconst (-1), 1) := dk_2 (dk_at dksX0_film_0 8 rfl rfl)
theorem dX0_film_9 : decode cX0_film 9 = .ok (.invokevirtual 124, 3) := dk_182 0 124 (dk_at dksX0_film_0 9 rfl rfl)
theorem dX0_film_12 : decode cX0_film 12 = .ok (.ireturn, 1) := dk_172 (dk_at dksX0_film_0 12 rfl rfl)
theorem dX0_film_13 : decode cX0_film 13 = .ok (.aload_n 0, 1) := dk_42 (dk_at dksX0_film_0 13 rfl rfl)
theorem dX0_film_14 : decode cX0_film 14 = .ok (.getfield 16, 3) := dk_180 0 16 (dk_at dksX0_film_0 14 rfl rfl)
theorem dX0_film_17 : decode cX0_film 17 = .ok (.getfield 391, 3) := dk_180 1 135 (dk_at dksX0_film_0 17 rfl rfl)
theorem dX0_film_20 : decode cX0_film 20 = .ok (.bipush 8, 2) := dk_16 8 (dk_at dksX0_film_0 20 rfl rfl)
theorem dX0_film_22 : decode cX0_film 22 = .ok (.if_icmp .ne 10, 3) := dk_160 0 10 (dk_at dksX0_film_1 0 rfl rfl)
theorem dX0_film_25 : decode cX0_film 25 = .ok (.aload_n 0, 1) := dk_42 (dk_at dksX0_film_1 3 rfl rfl)
theorem dX0_film_26 : decode cX0_film 26 = .ok (.bipush (-5), 2) := dk_16 251 (dk_at dksX0_film_1 4 rfl rfl)
theorem dX0_film_28 : decode cX0_film 28 = .ok (.invokevirtual 124, 3) := dk_182 0 124 (dk_at dksX0_film_1 6 rfl rfl)
theorem dX0_film_31 : decode cX0_film 31 = .ok (.ireturn, 1) := dk_172 (dk_at dksX0_film_1 9 rfl rfl)
theorem dX0_film_32 : decode cX0_film 32 = .ok (.aload_n 0, 1) := dk_42 (dk_at dksX0_film_1 10 rfl rfl)
theorem dX0_film_33 : decode cX0_film 33 = .ok (.getfield 16, 3) := dk_180 0 16 (dk_at dksX0_film_1 11 rfl rfl)
theorem dX0_film_36 : decode cX0_film 36 = .ok (.getfield 394, 3) := dk_180 1 138 (dk_at dksX0_film_1 14 rfl rfl)
theorem dX0_film_39 : decode cX0_film 39 = .ok (.aload_n 0, 1) := dk_42 (dk_at dksX0_film_1 17 rfl rfl)
theorem dX0_film_40 : decode cX0_film 40 = .ok (.getfield 16, 3) := dk_180 0 16 (dk_at dksX0_film_1 18 rfl rfl)
theorem dX0_film_43 : decode cX0_film 43 = .ok (.getfield 391, 3) := dk_180 1 135 (dk_at dksX0_film_1 21 rfl rfl)
theorem dX0_film_46 : decode cX0_film 46 = .ok (.iload_n 1, 1) := dk_27 (dk_at dksX0_film_2 0 rfl rfl)
theorem dX0_film_47 : decode cX0_film 47 = .ok (.iastore, 1) := dk_79 (dk_at dksX0_film_2 1 rfl rfl)
theorem dX0_film_48 : decode cX0_film 48 = .ok (.aload_n 0, 1) := dk_42 (dk_at dksX0_film_2 2 rfl rfl)
theorem dX0_film_49 : decode cX0_film 49 = .ok (.getfield 16, 3) := dk_180 0 16 (dk_at dksX0_film_2 3 rfl rfl)
theorem dX0_film_52 : decode cX0_film 52 = .ok (.dup, 1) := dk_89 (dk_at dksX0_film_2 6 rfl rfl)
theorem dX0_film_53 : decode cX0_film 53 = .ok (.getfield 391, 3) := dk_180 1 135 (dk_at dksX0_film_2 7 rfl rfl)
theorem dX0_film_56 : decode cX0_film 56 = .ok (.iconst 1, 1) := dk_4 (dk_at dksX0_film_2 10 rfl rfl)
theorem dX0_film_57 : decode cX0_film 57 = .ok (.iadd, 1) := dk_96 (dk_at dksX0_film_2 11 rfl rfl)
theorem dX0_film_58 : decode cX0_film 58 = .ok (.putfield 391, 3) := dk_181 1 135 (dk_at dksX0_film_2 12 rfl rfl)
theorem dX0_film_61 : decode cX0_film 61 = .ok (.aload_n 0, 1) := dk_42 (dk_at dksX0_film_2 15 rfl rfl)
theorem dX0_film_62 : decode cX0_film 62 = .ok (.aload_n 0, 1) := dk_42 (dk_at dksX0_film_2 16 rfl rfl)
theorem dX0_film_63 : decode cX0_film 63 = .ok (.getfield 16, 3) := dk_180 0 16 (dk_at dksX0_film_2 17 rfl rfl)
theorem dX0_film_66 : decode cX0_film 66 = .ok (.getfield 391, 3) := dk_180 1 135 (dk_at dksX0_film_2 20 rfl rfl)
theorem dX0_film_69 : decode cX0_film 69 = .ok (.invokevirtual 115, 3) := dk_182 0 115 (dk_at dksX0_film_3 0 rfl rfl)
theorem dX0_film_72 : decode cX0_film 72 = .ok (.ireturn, 1) := dk_172 (dk_at dksX0_film_3 3 rfl rfl)
abbrev cX0_burn : ByteArray := prog_1_method_81_code
def yX0_burn : MethodName := ⟨RX0, "burn", "()I"⟩
def dkwX0_burn_0 : List UInt8 := [42, 180, 0, 16, 180, 1, 135, 60, 42, 180, 0, 16, 3, 181, 1, 135, 27, 172]
abbrev dktX0_burn_0 : List UInt8 := dkwX0_burn_0 ++ []
theorem dksX0_burn_0 : cX0_burn.data.toList.drop 0 = dktX0_burn_0 := by decide +kernel
theorem dX0_burn_0 : decode cX0_burn 0 = .ok (.aload_n 0, 1) := dk_42 (dk_at dksX0_burn_0 0 rfl rfl)
theorem dX0_burn_1 : decode cX0_burn 1 = .ok (.getfield 16, 3) := dk_180 0 16 (dk_at dksX0_burn_0 1 rfl rfl)
theorem dX0_burn_4 : decode cX0_burn 4 = .ok (.getfield 391, 3) := dk_180 1 135 (dk_at dksX0_burn_0 4 rfl rfl)
theorem dX0_burn_7 : decode cX0_burn 7 = .ok (.istore_n 1, 1) := dk_60 (dk_at dksX0_burn_0 7 rfl rfl)
theorem dX0_burn_8 : decode cX0_burn 8 = .ok (.aload_n 0, 1) := dk_42 (dk_at dksX0_burn_0 8 rfl rfl)
theorem dX0_burn_9 : decode cX0_burn 9 = .ok (.getfield 16, 3) := dk_180 0 16 (dk_at dksX0_burn_0 9 rfl rfl)
theorem dX0_burn_12 : decode cX0_burn 12 = .ok (.iconst 0, 1) := dk_3 (dk_at dksX0_burn_0 12 rfl rfl)
theorem dX0_burn_13 : decode cX0_burn 13 = .ok (.putfield 391, 3) := dk_181 1 135 (dk_at dksX0_burn_0 13 rfl rfl)
theorem dX0_burn_16 : decode cX0_burn 16 = .ok (.iload_n 1, 1) := dk_27 (dk_at dksX0_burn_0 16 rfl rfl)
theorem dX0_burn_17 : decode cX0_burn 17 = .ok (.ireturn, 1) := dk_172 (dk_at dksX0_burn_0 17 rfl rfl)
abbrev cX0_fits : ByteArray := prog_1_method_82_code
def yX0_fits : MethodName := ⟨RX0, "fits", "(I)I"⟩
def dkwX0_fits_5 : List UInt8 := [167, 0, 4, 2, 172]
abbrev dktX0_fits_5 : List UInt8 := dkwX0_fits_5 ++ []
def dkwX0_fits_4 : List UInt8 := [184, 1, 107, 104, 29, 8, 112, 96, 172, 132, 2, 1, 132, 3, 1, 167, 255, 163, 27, 2, 160, 0, 7, 28]
abbrev dktX0_fits_4 : List UInt8 := dkwX0_fits_4 ++ dktX0_fits_5
def dkwX0_fits_3 : List UInt8 := [132, 5, 1, 167, 255, 209, 21, 4, 154, 0, 6, 167, 0, 23, 28, 27, 160, 0, 15, 16, 10, 29]
abbrev dktX0_fits_3 : List UInt8 := dkwX0_fits_3 ++ dktX0_fits_4
def dkwX0_fits_2 : List UInt8 := [180, 0, 16, 180, 1, 138, 21, 5, 46, 182, 1, 73, 158, 0, 7, 4, 167, 0, 4, 3, 126, 54, 4]
abbrev dktX0_fits_2 : List UInt8 := dkwX0_fits_2 ++ dktX0_fits_3
def dkwX0_fits_1 : List UInt8 := [3, 54, 5, 21, 5, 42, 180, 0, 16, 180, 1, 135, 162, 0, 41, 21, 4, 42, 180, 0, 69, 29, 50, 42]
abbrev dktX0_fits_1 : List UInt8 := dkwX0_fits_1 ++ dktX0_fits_2
def dkwX0_fits_0 : List UInt8 := [27, 2, 162, 0, 5, 2, 172, 42, 182, 1, 110, 3, 61, 3, 62, 29, 16, 25, 162, 0, 93, 4, 54, 4]
abbrev dktX0_fits_0 : List UInt8 := dkwX0_fits_0 ++ dktX0_fits_1
theorem dksX0_fits_0 : cX0_fits.data.toList.drop 0 = dktX0_fits_0 := by decide +kernel
theorem dksX0_fits_1 : cX0_fits.data.toList.drop 24 = dktX0_fits_1 := dk_seg dksX0_fits_0 24 rfl rfl
theorem dksX0_fits_2 : cX0_fits.data.toList.drop 48 = dktX0_fits_2 := dk_seg dksX0_fits_1 24 rfl rfl
theorem dksX0_fits_3 : cX0_fits.data.toList.drop 71 = dktX0_fits_3 := dk_seg dksX0_fits_2 23 rfl rfl
theorem dksX0_fits_4 : cX0_fits.data.toList.drop 93 = dktX0_fits_4 := dk_seg dksX0_fits_3 22 rfl rfl
theorem dksX0_fits_5 : cX0_fits.data.toList.drop 117 = dktX0_fits_5 := dk_seg dksX0_fits_4 24 rfl rfl
theorem dX0_fits_0 : decode cX0_fits 0 = .ok (.iload_n 1, 1) := dk_27 (dk_at dksX0_fits_0 0 rfl rfl)
theorem dX0_fits_1 : decode cX0_fits 1 = .ok (.iconst (-1), 1) := dk_2 (dk_at dksX0_fits_0 1 rfl rfl)
theorem dX0_fits_2 : decode cX0_fits 2 = .ok (.if_icmp .ge 5, 3) := dk_162 0 5 (dk_at dksX0_fits_0 2 rfl rfl)
theorem dX0_fits_5 : decode cX0_fits 5 = .ok (.iconst (-1), 1) := dk_2 (dk_at dksX0_fits_0 5 rfl rfl)
theorem dX0_fits_6 : decode cX0_fits 6 = .ok (.ireturn, 1) := dk_172 (dk_at dksX0_fits_0 6 rfl rfl)
theorem dX0_fits_7 : decode cX0_fits 7 = .ok (.aload_n 0, 1) := dk_42 (dk_at dksX0_fits_0 7 rfl rfl)
theorem dX0_fits_8 : decode cX0_fits 8 = .ok (.invokevirtual 366, 3) := dk_182 1 110 (dk_at dksX0_fits_0 8 rfl rfl)
theorem dX0_fits_11 : decode cX0_fits 11 = .ok (.iconst 0, 1) := dk_3 (dk_at dksX0_fits_0 11 rfl rfl)
theorem dX0_fits_12 : decode cX0_fits 12 = .ok (.istore_n 2, 1) := dk_61 (dk_at dksX0_fits_0 12 rfl rfl)
theorem dX0_fits_13 : decode cX0_fits 13 = .ok (.iconst 0, 1) := dk_3 (dk_at dksX0_fits_0 13 rfl rfl)
theorem dX0_fits_14 : decode cX0_fits 14 = .ok (.istore_n 3, 1) := dk_62 (dk_at dksX0_fits_0 14 rfl rfl)
theorem dX0_fits_15 : decode cX0_fits 15 = .ok (.iload_n 3, 1) := dk_29 (dk_at dksX0_fits_0 15 rfl rfl)
theorem dX0_fits_16 : decode cX0_fits 16 = .ok (.bipush 25, 2) := dk_16 25 (dk_at dksX0_fits_0 16 rfl rfl)
theorem dX0_fits_18 : decode cX0_fits 18 = .ok (.if_icmp .ge 93, 3) := dk_162 0 93 (dk_at dksX0_fits_0 18 rfl rfl)
theorem dX0_fits_21 : decode cX0_fits 21 = .ok (.iconst 1, 1) := dk_4 (dk_at dksX0_fits_0 21 rfl rfl)
theorem dX0_fits_22 : decode cX0_fits 22 = .ok (.istore 4, 2) := dk_54 4 (dk_at dksX0_fits_0 22 rfl rfl)
theorem dX0_fits_24 : decode cX0_fits 24 = .ok (.iconst 0, 1) := dk_3 (dk_at dksX0_fits_1 0 rfl rfl)
theorem dX0_fits_25 : decode cX0_fits 25 = .ok (.istore 5, 2) := dk_54 5 (dk_at dksX0_fits_1 1 rfl rfl)
theorem dX0_fits_27 : decode cX0_fits 27 = .ok (.iload 5, 2) := dk_21 5 (dk_at dksX0_fits_1 3 rfl rfl)
theorem dX0_fits_29 : decode cX0_fits 29 = .ok (.aload_n 0, 1) := dk_42 (dk_at dksX0_fits_1 5 rfl rfl)
theorem dX0_fits_30 : decode cX0_fits 30 = .ok (.getfield 16, 3) := dk_180 0 16 (dk_at dksX0_fits_1 6 rfl rfl)
theorem dX0_fits_33 : decode cX0_fits 33 = .ok (.getfield 391, 3) := dk_180 1 135 (dk_at dksX0_fits_1 9 rfl rfl)
theorem dX0_fits_36 : decode cX0_fits 36 = .ok (.if_icmp .ge 41, 3) := dk_162 0 41 (dk_at dksX0_fits_1 12 rfl rfl)
theorem dX0_fits_39 : decode cX0_fits 39 = .ok (.iload 4, 2) := dk_21 4 (dk_at dksX0_fits_1 15 rfl rfl)
theorem dX0_fits_41 : decode cX0_fits 41 = .ok (.aload_n 0, 1) := dk_42 (dk_at dksX0_fits_1 17 rfl rfl)
theorem dX0_fits_42 : decode cX0_fits 42 = .ok (.getfield 69, 3) := dk_180 0 69 (dk_at dksX0_fits_1 18 rfl rfl)
theorem dX0_fits_45 : decode cX0_fits 45 = .ok (.iload_n 3, 1) := dk_29 (dk_at dksX0_fits_1 21 rfl rfl)
theorem dX0_fits_46 : decode cX0_fits 46 = .ok (.aaload, 1) := dk_50 (dk_at dksX0_fits_1 22 rfl rfl)
theorem dX0_fits_47 : decode cX0_fits 47 = .ok (.aload_n 0, 1) := dk_42 (dk_at dksX0_fits_1 23 rfl rfl)
theorem dX0_fits_48 : decode cX0_fits 48 = .ok (.getfield 16, 3) := dk_180 0 16 (dk_at dksX0_fits_2 0 rfl rfl)
theorem dX0_fits_51 : decode cX0_fits 51 = .ok (.getfield 394, 3) := dk_180 1 138 (dk_at dksX0_fits_2 3 rfl rfl)
theorem dX0_fits_54 : decode cX0_fits 54 = .ok (.iload 5, 2) := dk_21 5 (dk_at dksX0_fits_2 6 rfl rfl)
theorem dX0_fits_56 : decode cX0_fits 56 = .ok (.iaload, 1) := dk_46 (dk_at dksX0_fits_2 8 rfl rfl)
theorem dX0_fits_57 : decode cX0_fits 57 = .ok (.invokevirtual 329, 3) := dk_182 1 73 (dk_at dksX0_fits_2 9 rfl rfl)
theorem dX0_fits_60 : decode cX0_fits 60 = .ok (.ifCond .le 7, 3) := dk_158 0 7 (dk_at dksX0_fits_2 12 rfl rfl)
theorem dX0_fits_63 : decode cX0_fits 63 = .ok (.iconst 1, 1) := dk_4 (dk_at dksX0_fits_2 15 rfl rfl)
theorem dX0_fits_64 : decode cX0_fits 64 = .ok (.goto 4, 3) := dk_167 0 4 (dk_at dksX0_fits_2 16 rfl rfl)
theorem dX0_fits_67 : decode cX0_fits 67 = .ok (.iconst 0, 1) := dk_3 (dk_at dksX0_fits_2 19 rfl rfl)
theorem dX0_fits_68 : decode cX0_fits 68 = .ok (.iand, 1) := dk_126 (dk_at dksX0_fits_2 20 rfl rfl)
theorem dX0_fits_69 : decode cX0_fits 69 = .ok (.istore 4, 2) := dk_54 4 (dk_at dksX0_fits_2 21 rfl rfl)
theorem dX0_fits_71 : decode cX0_fits 71 = .ok (.iinc 5 1, 3) := dk_132 5 1 (dk_at dksX0_fits_3 0 rfl rfl)
theorem dX0_fits_74 : decode cX0_fits 74 = .ok (.goto (-47), 3) := dk_167 255 209 (dk_at dksX0_fits_3 3 rfl rfl)
theorem dX0_fits_77 : decode cX0_fits 77 = .ok (.iload 4, 2) := dk_21 4 (dk_at dksX0_fits_3 6 rfl rfl)
theorem dX0_fits_79 : decode cX0_fits 79 = .ok (.ifCond .ne 6, 3) := dk_154 0 6 (dk_at dksX0_fits_3 8 rfl rfl)
theorem dX0_fits_82 : decode cX0_fits 82 = .ok (.goto 23, 3) := dk_167 0 23 (dk_at dksX0_fits_3 11 rfl rfl)
theorem dX0_fits_85 : decode cX0_fits 85 = .ok (.iload_n 2, 1) := dk_28 (dk_at dksX0_fits_3 14 rfl rfl)
theorem dX0_fits_86 : decode cX0_fits 86 = .ok (.iload_n 1, 1) := dk_27 (dk_at dksX0_fits_3 15 rfl rfl)
theorem dX0_fits_87 : decode cX0_fits 87 = .ok (.if_icmp .ne 15, 3) := dk_160 0 15 (dk_at dksX0_fits_3 16 rfl rfl)
theorem dX0_fits_90 : decode cX0_fits 90 = .ok (.bipush 10, 2) := dk_16 10 (dk_at dksX0_fits_3 19 rfl rfl)
theorem dX0_fits_92 : decode cX0_fits 92 = .ok (.iload_n 3, 1) := dk_29 (dk_at dksX0_fits_3 21 rfl rfl)
theorem dX0_fits_93 : decode cX0_fits 93 = .ok (.invokestatic 363, 3) := dk_184 1 107 (dk_at dksX0_fits_4 0 rfl rfl)
theorem dX0_fits_96 : decode cX0_fits 96 = .ok (.imul, 1) := dk_104 (dk_at dksX0_fits_4 3 rfl rfl)
theorem dX0_fits_97 : decode cX0_fits 97 = .ok (.iload_n 3, 1) := dk_29 (dk_at dksX0_fits_4 4 rfl rfl)
theorem dX0_fits_98 : decode cX0_fits 98 = .ok (.iconst 5, 1) := dk_8 (dk_at dksX0_fits_4 5 rfl rfl)
theorem dX0_fits_99 : decode cX0_fits 99 = .ok (.irem, 1) := dk_112 (dk_at dksX0_fits_4 6 rfl rfl)
theorem dX0_fits_100 : decode cX0_fits 100 = .ok (.iadd, 1) := dk_96 (dk_at dksX0_fits_4 7 rfl rfl)
theorem dX0_fits_101 : decode cX0_fits 101 = .ok (.ireturn, 1) := dk_172 (dk_at dksX0_fits_4 8 rfl rfl)
theorem dX0_fits_102 : decode cX0_fits 102 = .ok (.iinc 2 1, 3) := dk_132 2 1 (dk_at dksX0_fits_4 9 rfl rfl)
theorem dX0_fits_105 : decode cX0_fits 105 = .ok (.iinc 3 1, 3) := dk_132 3 1 (dk_at dksX0_fits_4 12 rfl rfl)
theorem dX0_fits_108 : decode cX0_fits 108 = .ok (.goto (-93), 3) := dk_167 255 163 (dk_at dksX0_fits_4 15 rfl rfl)
theorem dX0_fits_111 : decode cX0_fits 111 = .ok (.iload_n 1, 1) := dk_27 (dk_at dksX0_fits_4 18 rfl rfl)
theorem dX0_fits_112 : decode cX0_fits 112 = .ok (.iconst (-1), 1) := dk_2 (dk_at dksX0_fits_4 19 rfl rfl)
theorem dX0_fits_113 : decode cX0_fits 113 = .ok (.if_icmp .ne 7, 3) := dk_160 0 7 (dk_at dksX0_fits_4 20 rfl rfl)
theorem dX0_fits_116 : decode cX0_fits 116 = .ok (.iload_n 2, 1) := dk_28 (dk_at dksX0_fits_4 23 rfl rfl)
theorem dX0_fits_117 : decode cX0_fits 117 = .ok (.goto 4, 3) := dk_167 0 4 (dk_at dksX0_fits_5 0 rfl rfl)
theorem dX0_fits_120 : decode cX0_fits 120 = .ok (.iconst (-1), 1) := dk_2 (dk_at dksX0_fits_5 3 rfl rfl)
theorem dX0_fits_121 : decode cX0_fits 121 = .ok (.ireturn, 1) := dk_172 (dk_at dksX0_fits_5 4 rfl rfl)
abbrev cX0_orders : ByteArray := prog_1_method_83_code
def yX0_orders : MethodName := ⟨RX0, "orders", "()I"⟩
def dkwX0_orders_10 : List UInt8 := [132, 4, 1, 132, 8, 1, 167, 255, 168, 132, 6, 1, 167, 255, 133, 42, 21, 4, 182, 0, 115, 172]
abbrev dktX0_orders_10 : List UInt8 := dkwX0_orders_10 ++ []
def dkwX0_orders_9 : List UInt8 := [182, 0, 124, 172, 25, 7, 180, 1, 166, 4, 160, 0, 8, 21, 9, 167, 0, 5, 21, 5, 54, 5]
abbrev dktX0_orders_9 : List UInt8 := dkwX0_orders_9 ++ dktX0_orders_10
def dkwX0_orders_8 : List UInt8 := [182, 1, 159, 54, 9, 21, 9, 156, 0, 21, 42, 29, 182, 1, 163, 42, 21, 6, 181, 0, 50, 42, 16, 253]
abbrev dktX0_orders_8 : List UInt8 := dkwX0_orders_8 ++ dktX0_orders_9
def dkwX0_orders_7 : List UInt8 := [21, 5, 182, 1, 152, 25, 7, 42, 180, 0, 56, 182, 1, 155, 154, 0, 6, 167, 0, 55, 42, 25, 7]
abbrev dktX0_orders_7 : List UInt8 := dkwX0_orders_7 ++ dktX0_orders_8
def dkwX0_orders_6 : List UInt8 := [182, 0, 238, 192, 1, 147, 58, 7, 3, 54, 8, 21, 8, 25, 7, 180, 1, 149, 162, 0, 84, 42, 21, 4]
abbrev dktX0_orders_6 : List UInt8 := dkwX0_orders_6 ++ dktX0_orders_7
def dkwX0_orders_5 : List UInt8 := [54, 5, 3, 54, 6, 21, 6, 44, 180, 1, 144, 182, 0, 199, 162, 0, 117, 44, 180, 1, 144, 21, 6]
abbrev dktX0_orders_5 : List UInt8 := dkwX0_orders_5 ++ dktX0_orders_6
def dkwX0_orders_4 : List UInt8 := [42, 180, 0, 27, 3, 42, 180, 0, 33, 3, 16, 16, 184, 1, 15, 42, 180, 0, 112, 62, 3, 54, 4, 2]
abbrev dktX0_orders_4 : List UInt8 := dkwX0_orders_4 ++ dktX0_orders_5
def dkwX0_orders_3 : List UInt8 := [180, 0, 39, 3, 16, 6, 184, 1, 15, 42, 180, 0, 24, 3, 42, 180, 0, 30, 3, 16, 96, 184, 1, 15]
abbrev dktX0_orders_3 : List UInt8 := dkwX0_orders_3 ++ dktX0_orders_4
def dkwX0_orders_2 : List UInt8 := [180, 0, 142, 3, 42, 180, 0, 36, 3, 16, 6, 184, 1, 15, 42, 180, 0, 16, 180, 0, 162, 3, 42]
abbrev dktX0_orders_2 : List UInt8 := dkwX0_orders_2 ++ dktX0_orders_3
def dkwX0_orders_1 : List UInt8 := [183, 1, 143, 77, 42, 44, 182, 0, 210, 154, 0, 10, 42, 16, 250, 182, 0, 124, 172, 42, 180, 0, 16]
abbrev dktX0_orders_1 : List UInt8 := dkwX0_orders_1 ++ dktX0_orders_2
def dkwX0_orders_0 : List UInt8 := [42, 180, 0, 175, 60, 42, 3, 181, 0, 175, 42, 2, 181, 0, 50, 187, 1, 141, 89, 42, 180, 0, 42, 27]
abbrev dktX0_orders_0 : List UInt8 := dkwX0_orders_0 ++ dktX0_orders_1
theorem dksX0_orders_0 : cX0_orders.data.toList.drop 0 = dktX0_orders_0 := by decide +kernel
theorem dksX0_orders_1 : cX0_orders.data.toList.drop 24 = dktX0_orders_1 := dk_seg dksX0_orders_0 24 rfl rfl
theorem dksX0_orders_2 : cX0_orders.data.toList.drop 47 = dktX0_orders_2 := dk_seg dksX0_orders_1 23 rfl rfl
theorem dksX0_orders_3 : cX0_orders.data.toList.drop 70 = dktX0_orders_3 := dk_seg dksX0_orders_2 23 rfl rfl
theorem dksX0_orders_4 : cX0_orders.data.toList.drop 94 = dktX0_orders_4 := dk_seg dksX0_orders_3 24 rfl rfl
theorem dksX0_orders_5 : cX0_orders.data.toList.drop 118 = dktX0_orders_5 := dk_seg dksX0_orders_4 24 rfl rfl
theorem dksX0_orders_6 : cX0_orders.data.toList.drop 141 = dktX0_orders_6 := dk_seg dksX0_orders_5 23 rfl rfl
theorem dksX0_orders_7 : cX0_orders.data.toList.drop 165 = dktX0_orders_7 := dk_seg dksX0_orders_6 24 rfl rfl
theorem dksX0_orders_8 : cX0_orders.data.toList.drop 188 = dktX0_orders_8 := dk_seg dksX0_orders_7 23 rfl rfl
theorem dksX0_orders_9 : cX0_orders.data.toList.drop 212 = dktX0_orders_9 := dk_seg dksX0_orders_8 24 rfl rfl
theorem dksX0_orders_10 : cX0_orders.data.toList.drop 234 = dktX0_orders_10 := dk_seg dksX0_orders_9 22 rfl rfl
theorem dX0_orders_0 : decode cX0_orders 0 = .ok (.aload_n 0, 1) := dk_42 (dk_at dksX0_orders_0 0 rfl rfl)
theorem dX0_orders_1 : decode cX0_orders 1 = .ok (.getfield 175, 3) := dk_180 0 175 (dk_at dksX0_orders_0 1 rfl rfl)
theorem dX0_orders_4 : decode cX0_orders 4 = .ok (.istore_n 1, 1) := dk_60 (dk_at dksX0_orders_0 4 rfl rfl)
theorem dX0_orders_5 : decode cX0_orders 5 = .ok (.aload_n 0, 1) := dk_42 (dk_at dksX0_orders_0 5 rfl rfl)
theorem dX0_orders_6 : decode cX0_orders 6 = .ok (.iconst 0, 1) := dk_3 (dk_at dksX0_orders_0 6 rfl rfl)
theorem dX0_orders_7 : decode cX0_orders 7 = .ok (.putfield 175, 3) := dk_181 0 175 (dk_at dksX0_orders_0 7 rfl rfl)
theorem dX0_orders_10 : decode cX0_orders 10 = .ok (.aload_n 0, 1) := dk_42 (dk_at dksX0_orders_0 10 rfl rfl)
theorem dX0_orders_11 : decode cX0_orders 11 = .ok (.iconst (-1), 1) := dk_2 (dk_at dksX0_orders_0 11 rfl rfl)
theorem dX0_orders_12 : decode cX0_orders 12 = .ok (.putfield 50, 3) := dk_181 0 50 (dk_at dksX0_orders_0 12 rfl rfl)
theorem dX0_orders_15 : decode cX0_orders 15 = .ok (.new 397, 3) := dk_187 1 141 (dk_at dksX0_orders_0 15 rfl rfl)
theorem dX0_orders_18 : decode cX0_orders 18 = .ok (.dup, 1) := dk_89 (dk_at dksX0_orders_0 18 rfl rfl)
theorem dX0_orders_19 : decode cX0_orders 19 = .ok (.aload_n 0, 1) := dk_42 (dk_at dksX0_orders_0 19 rfl rfl)
theorem dX0_orders_20 : decode cX0_orders 20 = .ok (.getfield 42, 3) := dk_180 0 42 (dk_at dksX0_orders_0 20 rfl rfl)
theorem dX0_orders_23 : decode cX0_orders 23 = .ok (.iload_n 1, 1) := dk_27 (dk_at dksX0_orders_0 23 rfl rfl)
theorem dX0_orders_24 : decode cX0_orders 24 = .ok (.invokespecial 399, 3) := dk_183 1 143 (dk_at dksX0_orders_1 0 rfl rfl)
theorem dX0_orders_27 : decode cX0_orders 27 = .ok (.astore_n 2, 1) := dk_77 (dk_at dksX0_orders_1 3 rfl rfl)
theorem dX0_orders_28 : decode cX0_orders 28 = .ok (.aload_n 0, 1) := dk_42 (dk_at dksX0_orders_1 4 rfl rfl)
theorem dX0_orders_29 : decode cX0_orders 29 = .ok (.aload_n 2, 1) := dk_44 (dk_at dksX0_orders_1 5 rfl rfl)
theorem dX0_orders_30 : decode cX0_orders 30 = .ok (.invokevirtual 210, 3) := dk_182 0 210 (dk_at dksX0_orders_1 6 rfl rfl)
theorem dX0_orders_33 : decode cX0_orders 33 = .ok (.ifCond .ne 10, 3) := dk_154 0 10 (dk_at dksX0_orders_1 9 rfl rfl)
theorem dX0_orders_36 : decode cX0_orders 36 = .ok (.aload_n 0, 1) := dk_42 (dk_at dksX0_orders_1 12 rfl rfl)
theorem dX0_orders_37 : decode cX0_orders 37 = .ok (.bipush (-6), 2) := dk_16 250 (dk_at dksX0_orders_1 13 rfl rfl)
theorem dX0_orders_39 : decode cX0_orders 39 = .ok (.invokevirtual 124, 3) := dk_182 0 124 (dk_at dksX0_orders_1 15 rfl rfl)
theorem dX0_orders_42 : decode cX0_orders 42 = .ok (.ireturn, 1) := dk_172 (dk_at dksX0_orders_1 18 rfl rfl)
theorem dX0_orders_43 : decode cX0_orders 43 = .ok (.aload_n 0, 1) := dk_42 (dk_at dksX0_orders_1 19 rfl rfl)
theorem dX0_orders_44 : decode cX0_orders 44 = .ok (.getfield 16, 3) := dk_180 0 16 (dk_at dksX0_orders_1 20 rfl rfl)
theorem dX0_orders_47 : decode cX0_orders 47 = .ok (.getfield 142, 3) := dk_180 0 142 (dk_at dksX0_orders_2 0 rfl rfl)
theorem dX0_orders_50 : decode cX0_orders 50 = .ok (.iconst 0, 1) := dk_3 (dk_at dksX0_orders_2 3 rfl rfl)
theorem dX0_orders_51 : decode cX0_orders 51 = .ok (.aload_n 0, 1) := dk_42 (dk_at dksX0_orders_2 4 rfl rfl)
theorem dX0_orders_52 : decode cX0_orders 52 = .ok (.getfield 36, 3) := dk_180 0 36 (dk_at dksX0_orders_2 5 rfl rfl)
theorem dX0_orders_55 : decode cX0_orders 55 = .ok (.iconst 0, 1) := dk_3 (dk_at dksX0_orders_2 8 rfl rfl)
theorem dX0_orders_56 : decode cX0_orders 56 = .ok (.bipush 6, 2) := dk_16 6 (dk_at dksX0_orders_2 9 rfl rfl)
theorem dX0_orders_58 : decode cX0_orders 58 = .ok (.invokestatic 271, 3) := dk_184 1 15 (dk_at dksX0_orders_2 11 rfl rfl)
theorem dX0_orders_61 : decode cX0_orders 61 = .ok (.aload_n 0, 1) := dk_42 (dk_at dksX0_orders_2 14 rfl rfl)
theorem dX0_orders_62 : decode cX0_orders 62 = .ok (.getfield 16, 3) := dk_180 0 16 (dk_at dksX0_orders_2 15 rfl rfl)
theorem dX0_orders_65 : decode cX0_orders 65 = .ok (.getfield 162, 3) := dk_180 0 162 (dk_at dksX0_orders_2 18 rfl rfl)
theorem dX0_orders_68 : decode cX0_orders 68 = .ok (.iconst 0, 1) := dk_3 (dk_at dksX0_orders_2 21 rfl rfl)
theorem dX0_orders_69 : decode cX0_orders 69 = .ok (.aload_n 0, 1) := dk_42 (dk_at dksX0_orders_2 22 rfl rfl)
theorem dX0_orders_70 : decode cX0_orders 70 = .ok (.getfield 39, 3) := dk_180 0 39 (dk_at dksX0_orders_3 0 rfl rfl)
theorem dX0_orders_73 : decode cX0_orders 73 = .ok (.iconst 0, 1) := dk_3 (dk_at dksX0_orders_3 3 rfl rfl)
theorem dX0_orders_74 : decode cX0_orders 74 = .ok (.bipush 6, 2) := dk_16 6 (dk_at dksX0_orders_3 4 rfl rfl)
theorem dX0_orders_76 : decode cX0_orders 76 = .ok (.invokestatic 271, 3) := dk_184 1 15 (dk_at dksX0_orders_3 6 rfl rfl)
theorem dX0_orders_79 : decode cX0_orders 79 = .ok (.aload_n 0, 1) := dk_42 (dk_at dksX0_orders_3 9 rfl rfl)
theorem dX0_orders_80 : decode cX0_orders 80 = .ok (.getfield 24, 3) := dk_180 0 24 (dk_at dksX0_orders_3 10 rfl rfl)
theorem dX0_orders_83 : decode cX0_orders 83 = .ok (.iconst 0, 1) := dk_3 (dk_at dksX0_orders_3 13 rfl rfl)
theorem dX0_orders_84 : decode cX0_orders 84 = .ok (.aload_n 0, 1) := dk_42 (dk_at dksX0_orders_3 14 rfl rfl)
theorem dX0_orders_85 : decode cX0_orders 85 = .ok (.getfield 30, 3) := dk_180 0 30 (dk_at dksX0_orders_3 15 rfl rfl)
theorem dX0_orders_88 : decode cX0_orders 88 = .ok (.iconst 0, 1) := dk_3 (dk_at dksX0_orders_3 18 rfl rfl)
theorem dX0_orders_89 : decode cX0_orders 89 = .ok (.bipush 96, 2) := dk_16 96 (dk_at dksX0_orders_3 19 rfl rfl)
theorem dX0_orders_91 : decode cX0_orders 91 = .ok (.invokestatic 271, 3) := dk_184 1 15 (dk_at dksX0_orders_3 21 rfl rfl)
theorem dX0_orders_94 : decode cX0_orders 94 = .ok (.aload_n 0, 1) := dk_42 (dk_at dksX0_orders_4 0 rfl rfl)
theorem dX0_orders_95 : decode cX0_orders 95 = .ok (.getfield 27, 3) := dk_180 0 27 (dk_at dksX0_orders_4 1 rfl rfl)
theorem dX0_orders_98 : decode cX0_orders 98 = .ok (.iconst 0, 1) := dk_3 (dk_at dksX0_orders_4 4 rfl rfl)
theorem dX0_orders_99 : decode cX0_orders 99 = .ok (.aload_n 0, 1) := dk_42 (dk_at dksX0_orders_4 5 rfl rfl)
theorem dX0_orders_100 : decode cX0_orders 100 = .ok (.getfield 33, 3) := dk_180 0 33 (dk_at dksX0_orders_4 6 rfl rfl)
theorem dX0_orders_103 : decode cX0_orders 103 = .ok (.iconst 0, 1) := dk_3 (dk_at dksX0_orders_4 9 rfl rfl)
theorem dX0_orders_104 : decode cX0_orders 104 = .ok (.bipush 16, 2) := dk_16 16 (dk_at dksX0_orders_4 10 rfl rfl)
theorem dX0_orders_106 : decode cX0_orders 106 = .ok (.invokestatic 271, 3) := dk_184 1 15 (dk_at dksX0_orders_4 12 rfl rfl)
theorem dX0_orders_109 : decode cX0_orders 109 = .ok (.aload_n 0, 1) := dk_42 (dk_at dksX0_orders_4 15 rfl rfl)
theorem dX0_orders_110 : decode cX0_orders 110 = .ok (.getfield 112, 3) := dk_180 0 112 (dk_at dksX0_orders_4 16 rfl rfl)
theorem dX0_orders_113 : decode cX0_orders 113 = .ok (.istore_n 3, 1) := dk_62 (dk_at dksX0_orders_4 19 rfl rfl)
theorem dX0_orders_114 : decode cX0_orders 114 = .ok (.iconst 0, 1) := dk_3 (dk_at dksX0_orders_4 20 rfl rfl)
theorem dX0_orders_115 : decode cX0_orders 115 = .ok (.istore 4, 2) := dk_54 4 (dk_at dksX0_orders_4 21 rfl rfl)
theorem dX0_orders_117 : decode cX0_orders 117 = .ok (.iconst (-1), 1) := dk_2 (dk_at dksX0_orders_4 23 rfl rfl)
theorem dX0_orders_118 : decode cX0_orders 118 = .ok (.istore 5, 2) := dk_54 5 (dk_at dksX0_orders_5 0 rfl rfl)
theorem dX0_orders_120 : decode cX0_orders 120 = .ok (.iconst 0, 1) := dk_3 (dk_at dksX0_orders_5 2 rfl rfl)
theorem dX0_orders_121 : decode cX0_orders 121 = .ok (.istore 6, 2) := dk_54 6 (dk_at dksX0_orders_5 3 rfl rfl)
theorem dX0_orders_123 : decode cX0_orders 123 = .ok (.iload 6, 2) := dk_21 6 (dk_at dksX0_orders_5 5 rfl rfl)
theorem dX0_orders_125 : decode cX0_orders 125 = .ok (.aload_n 2, 1) := dk_44 (dk_at dksX0_orders_5 7 rfl rfl)
theorem dX0_orders_126 : decode cX0_orders 126 = .ok (.getfield 400, 3) := dk_180 1 144 (dk_at dksX0_orders_5 8 rfl rfl)
theorem dX0_orders_129 : decode cX0_orders 129 = .ok (.invokevirtual 199, 3) := dk_182 0 199 (dk_at dksX0_orders_5 11 rfl rfl)
theorem dX0_orders_132 : decode cX0_orders 132 = .ok (.if_icmp .ge 117, 3) := dk_162 0 117 (dk_at dksX0_orders_5 14 rfl rfl)
theorem dX0_orders_135 : decode cX0_orders 135 = .ok (.aload_n 2, 1) := dk_44 (dk_at dksX0_orders_5 17 rfl rfl)
theorem dX0_orders_136 : decode cX0_orders 136 = .ok (.getfield 400, 3) := dk_180 1 144 (dk_at dksX0_orders_5 18 rfl rfl)
theorem dX0_orders_139 : decode cX0_orders 139 = .ok (.iload 6, 2) := dk_21 6 (dk_at dksX0_orders_5 21 rfl rfl)
theorem dX0_orders_141 : decode cX0_orders 141 = .ok (.invokevirtual 238, 3) := dk_182 0 238 (dk_at dksX0_orders_6 0 rfl rfl)
theorem dX0_orders_144 : decode cX0_orders 144 = .ok (.checkcast 403, 3) := dk_192 1 147 (dk_at dksX0_orders_6 3 rfl rfl)
theorem dX0_orders_147 : decode cX0_orders 147 = .ok (.astore 7, 2) := dk_58 7 (dk_at dksX0_orders_6 6 rfl rfl)
theorem dX0_orders_149 : decode cX0_orders 149 = .ok (.iconst 0, 1) := dk_3 (dk_at dksX0_orders_6 8 rfl rfl)
theorem dX0_orders_150 : decode cX0_orders 150 = .ok (.istore 8, 2) := dk_54 8 (dk_at dksX0_orders_6 9 rfl rfl)
theorem dX0_orders_152 : decode cX0_orders 152 = .ok (.iload 8, 2) := dk_21 8 (dk_at dksX0_orders_6 11 rfl rfl)
theorem dX0_orders_154 : decode cX0_orders 154 = .ok (.aload 7, 2) := dk_25 7 (dk_at dksX0_orders_6 13 rfl rfl)
theorem dX0_orders_156 : decode cX0_orders 156 = .ok (.getfield 405, 3) := dk_180 1 149 (dk_at dksX0_orders_6 15 rfl rfl)
theorem dX0_orders_159 : decode cX0_orders 159 = .ok (.if_icmp .ge 84, 3) := dk_162 0 84 (dk_at dksX0_orders_6 18 rfl rfl)
theorem dX0_orders_162 : decode cX0_orders 162 = .ok (.aload_n 0, 1) := dk_42 (dk_at dksX0_orders_6 21 rfl rfl)
theorem dX0_orders_163 : decode cX0_orders 163 = .ok (.iload 4, 2) := dk_21 4 (dk_at dksX0_orders_6 22 rfl rfl)
theorem dX0_orders_165 : decode cX0_orders 165 = .ok (.iload 5, 2) := dk_21 5 (dk_at dksX0_orders_7 0 rfl rfl)
theorem dX0_orders_167 : decode cX0_orders 167 = .ok (.invokevirtual 408, 3) := dk_182 1 152 (dk_at dksX0_orders_7 2 rfl rfl)
theorem dX0_orders_170 : decode cX0_orders 170 = .ok (.aload 7, 2) := dk_25 7 (dk_at dksX0_orders_7 5 rfl rfl)
theorem dX0_orders_172 : decode cX0_orders 172 = .ok (.aload_n 0, 1) := dk_42 (dk_at dksX0_orders_7 7 rfl rfl)
theorem dX0_orders_173 : decode cX0_orders 173 = .ok (.getfield 56, 3) := dk_180 0 56 (dk_at dksX0_orders_7 8 rfl rfl)
theorem dX0_orders_176 : decode cX0_orders 176 = .ok (.invokevirtual 411, 3) := dk_182 1 155 (dk_at dksX0_orders_7 11 rfl rfl)
theorem dX0_orders_179 : decode cX0_orders 179 = .ok (.ifCond .ne 6, 3) := dk_154 0 6 (dk_at dksX0_orders_7 14 rfl rfl)
theorem dX0_orders_182 : decode cX0_orders 182 = .ok (.goto 55, 3) := dk_167 0 55 (dk_at dksX0_orders_7 17 rfl rfl)
theorem dX0_orders_185 : decode cX0_orders 185 = .ok (.aload_n 0, 1) := dk_42 (dk_at dksX0_orders_7 20 rfl rfl)
theorem dX0_orders_186 : decode cX0_orders 186 = .ok (.aload 7, 2) := dk_25 7 (dk_at dksX0_orders_7 21 rfl rfl)
theorem dX0_orders_188 : decode cX0_orders 188 = .ok (.invokevirtual 415, 3) := dk_182 1 159 (dk_at dksX0_orders_8 0 rfl rfl)
theorem dX0_orders_191 : decode cX0_orders 191 = .ok (.istore 9, 2) := dk_54 9 (dk_at dksX0_orders_8 3 rfl rfl)
theorem dX0_orders_193 : decode cX0_orders 193 = .ok (.iload 9, 2) := dk_21 9 (dk_at dksX0_orders_8 5 rfl rfl)
theorem dX0_orders_195 : decode cX0_orders 195 = .ok (.ifCond .ge 21, 3) := dk_156 0 21 (dk_at dksX0_orders_8 7 rfl rfl)
theorem dX0_orders_198 : decode cX0_orders 198 = .ok (.aload_n 0, 1) := dk_42 (dk_at dksX0_orders_8 10 rfl rfl)
theorem dX0_orders_199 : decode cX0_orders 199 = .ok (.iload_n 3, 1) := dk_29 (dk_at dksX0_orders_8 11 rfl rfl)
theorem dX0_orders_200 : decode cX0_orders 200 = .ok (.invokevirtual 419, 3) := dk_182 1 163 (dk_at dksX0_orders_8 12 rfl rfl)
theorem dX0_orders_203 : decode cX0_orders 203 = .ok (.aload_n 0, 1) := dk_42 (dk_at dksX0_orders_8 15 rfl rfl)
theorem dX0_orders_204 : decode cX0_orders 204 = .ok (.iload 6, 2) := dk_21 6 (dk_at dksX0_orders_8 16 rfl rfl)
theorem dX0_orders_206 : decode cX0_orders 206 = .ok (.putfield 50, 3) := dk_181 0 50 (dk_at dksX0_orders_8 18 rfl rfl)
theorem dX0_orders_209 : decode cX0_orders 209 = .ok (.aload_n 0, 1) := dk_42 (dk_at dksX0_orders_8 21 rfl rfl)
theorem dX0_orders_210 : decode cX0_orders 210 = .ok (.bipush (-3), 2) := dk_16 253 (dk_at dksX0_orders_8 22 rfl rfl)
theorem dX0_orders_212 : decode cX0_orders 212 = .ok (.invokevirtual 124, 3) := dk_182 0 124 (dk_at dksX0_orders_9 0 rfl rfl)
theorem dX0_orders_215 : decode cX0_orders 215 = .ok (.ireturn, 1) := dk_172 (dk_at dksX0_orders_9 3 rfl rfl)
theorem dX0_orders_216 : decode cX0_orders 216 = .ok (.aload 7, 2) := dk_25 7 (dk_at dksX0_orders_9 4 rfl rfl)
theorem dX0_orders_218 : decode cX0_orders 218 = .ok (.getfield 422, 3) := dk_180 1 166 (dk_at dksX0_orders_9 6 rfl rfl)
theorem dX0_orders_221 : decode cX0_orders 221 = .ok (.iconst 1, 1) := dk_4 (dk_at dksX0_orders_9 9 rfl rfl)
theorem dX0_orders_222 : decode cX0_orders 222 = .ok (.if_icmp .ne 8, 3) := dk_160 0 8 (dk_at dksX0_orders_9 10 rfl rfl)
theorem dX0_orders_225 : decode cX0_orders 225 = .ok (.iload 9, 2) := dk_21 9 (dk_at dksX0_orders_9 13 rfl rfl)
theorem dX0_orders_227 : decode cX0_orders 227 = .ok (.goto 5, 3) := dk_167 0 5 (dk_at dksX0_orders_9 15 rfl rfl)
theorem dX0_orders_230 : decode cX0_orders 230 = .ok (.iload 5, 2) := dk_21 5 (dk_at dksX0_orders_9 18 rfl rfl)
theorem dX0_orders_232 : decode cX0_orders 232 = .ok (.istore 5, 2) := dk_54 5 (dk_at dksX0_orders_9 20 rfl rfl)
theorem dX0_orders_234 : decode cX0_orders 234 = .ok (.iinc 4 1, 3) := dk_132 4 1 (dk_at dksX0_orders_10 0 rfl rfl)
theorem dX0_orders_237 : decode cX0_orders 237 = .ok (.iinc 8 1, 3) := dk_132 8 1 (dk_at dksX0_orders_10 3 rfl rfl)
theorem dX0_orders_240 : decode cX0_orders 240 = .ok (.goto (-88), 3) := dk_167 255 168 (dk_at dksX0_orders_10 6 rfl rfl)
theorem dX0_orders_243 : decode cX0_orders 243 = .ok (.iinc 6 1, 3) := dk_132 6 1 (dk_at dksX0_orders_10 9 rfl rfl)
theorem dX0_orders_246 : decode cX0_orders 246 = .ok (.goto (-123), 3) := dk_167 255 133 (dk_at dksX0_orders_10 12 rfl rfl)
theorem dX0_orders_249 : decode cX0_orders 249 = .ok (.aload_n 0, 1) := dk_42 (dk_at dksX0_orders_10 15 rfl rfl)
theorem dX0_orders_250 : decode cX0_orders 250 = .ok (.iload 4, 2) := dk_21 4 (dk_at dksX0_orders_10 16 rfl rfl)
theorem dX0_orders_252 : decode cX0_orders 252 = .ok (.invokevirtual 115, 3) := dk_182 0 115 (dk_at dksX0_orders_10 18 rfl rfl)
theorem dX0_orders_255 : decode cX0_orders 255 = .ok (.ireturn, 1) := dk_172 (dk_at dksX0_orders_10 21 rfl rfl)
abbrev cX0_tellsOrder : ByteArray := prog_1_method_86_code
def yX0_tellsOrder : MethodName := ⟨RX0, "tellsOrder", "(II)V"⟩
def dkwX0_tellsOrder_4 : List UInt8 := [46, 133, 167, 0, 6, 20, 0, 233, 80, 132, 4, 1, 167, 255, 181, 177]
abbrev dktX0_tellsOrder_4 : List UInt8 := dkwX0_tellsOrder_4 ++ []
def dkwX0_tellsOrder_3 : List UInt8 := [45, 16, 9, 21, 4, 96, 42, 21, 4, 182, 0, 169, 153, 0, 17, 42, 180, 0, 16, 180, 0, 162, 21, 4]
abbrev dktX0_tellsOrder_3 : List UInt8 := dkwX0_tellsOrder_3 ++ dktX0_tellsOrder_4
def dkwX0_tellsOrder_2 : List UInt8 := [182, 0, 169, 153, 0, 17, 42, 180, 0, 16, 180, 0, 142, 21, 4, 46, 133, 167, 0, 6, 20, 0, 233, 80]
abbrev dktX0_tellsOrder_2 : List UInt8 := dkwX0_tellsOrder_2 ++ dktX0_tellsOrder_3
def dkwX0_tellsOrder_1 : List UInt8 := [45, 5, 28, 133, 80, 3, 54, 4, 21, 4, 16, 6, 162, 0, 74, 45, 6, 21, 4, 96, 42, 21, 4]
abbrev dktX0_tellsOrder_1 : List UInt8 := dkwX0_tellsOrder_1 ++ dktX0_tellsOrder_2
def dkwX0_tellsOrder_0 : List UInt8 := [42, 180, 0, 56, 180, 0, 229, 78, 45, 3, 42, 180, 0, 16, 180, 0, 118, 133, 80, 45, 4, 27, 133, 80]
abbrev dktX0_tellsOrder_0 : List UInt8 := dkwX0_tellsOrder_0 ++ dktX0_tellsOrder_1
theorem dksX0_tellsOrder_0 : cX0_tellsOrder.data.toList.drop 0 = dktX0_tellsOrder_0 := by decide +kernel
theorem dksX0_tellsOrder_1 : cX0_tellsOrder.data.toList.drop 24 = dktX0_tellsOrder_1 := dk_seg dksX0_tellsOrder_0 24 rfl rfl
theorem dksX0_tellsOrder_2 : cX0_tellsOrder.data.toList.drop 47 = dktX0_tellsOrder_2 := dk_seg dksX0_tellsOrder_1 23 rfl rfl
theorem dksX0_tellsOrder_3 : cX0_tellsOrder.data.toList.drop 71 = dktX0_tellsOrder_3 := dk_seg dksX0_tellsOrder_2 24 rfl rfl
theorem dksX0_tellsOrder_4 : cX0_tellsOrder.data.toList.drop 95 = dktX0_tellsOrder_4 := dk_seg dksX0_tellsOrder_3 24 rfl rfl
theorem dX0_tellsOrder_0 : decode cX0_tellsOrder 0 = .ok (.aload_n 0, 1) := dk_42 (dk_at dksX0_tellsOrder_0 0 rfl rfl)
theorem dX0_tellsOrder_1 : decode cX0_tellsOrder 1 = .ok (.getfield 56, 3) := dk_180 0 56 (dk_at dksX0_tellsOrder_0 1 rfl rfl)
theorem dX0_tellsOrder_4 : decode cX0_tellsOrder 4 = .ok (.getfield 229, 3) := dk_180 0 229 (dk_at dksX0_tellsOrder_0 4 rfl rfl)
theorem dX0_tellsOrder_7 : decode cX0_tellsOrder 7 = .ok (.astore_n 3, 1) := dk_78 (dk_at dksX0_tellsOrder_0 7 rfl rfl)
theorem dX0_tellsOrder_8 : decode cX0_tellsOrder 8 = .ok (.aload_n 3, 1) := dk_45 (dk_at dksX0_tellsOrder_0 8 rfl rfl)
theorem dX0_tellsOrder_9 : decode cX0_tellsOrder 9 = .ok (.iconst 0, 1) := dk_3 (dk_at dksX0_tellsOrder_0 9 rfl rfl)
theorem dX0_tellsOrder_10 : decode cX0_tellsOrder 10 = .ok (.aload_n 0, 1) := dk_42 (dk_at dksX0_tellsOrder_0 10 rfl rfl)
theorem dX0_tellsOrder_11 : decode cX0_tellsOrder 11 = .ok (.getfield 16, 3) := dk_180 0 16 (dk_at dksX0_tellsOrder_0 11 rfl rfl)
theorem dX0_tellsOrder_14 : decode cX0_tellsOrder 14 = .ok (.getfield 118, 3) := dk_180 0 118 (dk_at dksX0_tellsOrder_0 14 rfl rfl)
theorem dX0_tellsOrder_17 : decode cX0_tellsOrder 17 = .ok (.i2l, 1) := dk_133 (dk_at dksX0_tellsOrder_0 17 rfl rfl)
theorem dX0_tellsOrder_18 : decode cX0_tellsOrder 18 = .ok (.lastore, 1) := dk_80 (dk_at dksX0_tellsOrder_0 18 rfl rfl)
theorem dX0_tellsOrder_19 : decode cX0_tellsOrder 19 = .ok (.aload_n 3, 1) := dk_45 (dk_at dksX0_tellsOrder_0 19 rfl rfl)
theorem dX0_tellsOrder_20 : decode cX0_tellsOrder 20 = .ok (.iconst 1, 1) := dk_4 (dk_at dksX0_tellsOrder_0 20 rfl rfl)
theorem dX0_tellsOrder_21 : decode cX0_tellsOrder 21 = .ok (.iload_n 1, 1) := dk_27 (dk_at dksX0_tellsOrder_0 21 rfl rfl)
theorem dX0_tellsOrder_22 : decode cX0_tellsOrder 22 = .ok (.i2l, 1) := dk_133 (dk_at dksX0_tellsOrder_0 22 rfl rfl)
theorem dX0_tellsOrder_23 : decode cX0_tellsOrder 23 = .ok (.lastore, 1) := dk_80 (dk_at dksX0_tellsOrder_0 23 rfl rfl)
theorem dX0_tellsOrder_24 : decode cX0_tellsOrder 24 = .ok (.aload_n 3, 1) := dk_45 (dk_at dksX0_tellsOrder_1 0 rfl rfl)
theorem dX0_tellsOrder_25 : decode cX0_tellsOrder 25 = .ok (.iconst 2, 1) := dk_5 (dk_at dksX0_tellsOrder_1 1 rfl rfl)
theorem dX0_tellsOrder_26 : decode cX0_tellsOrder 26 = .ok (.iload_n 2, 1) := dk_28 (dk_at dksX0_tellsOrder_1 2 rfl rfl)
theorem dX0_tellsOrder_27 : decode cX0_tellsOrder 27 = .ok (.i2l, 1) := dk_133 (dk_at dksX0_tellsOrder_1 3 rfl rfl)
theorem dX0_tellsOrder_28 : decode cX0_tellsOrder 28 = .ok (.lastore, 1) := dk_80 (dk_at dksX0_tellsOrder_1 4 rfl rfl)
theorem dX0_tellsOrder_29 : decode cX0_tellsOrder 29 = .ok (.iconst 0, 1) := dk_3 (dk_at dksX0_tellsOrder_1 5 rfl rfl)
theorem dX0_tellsOrder_30 : decode cX0_tellsOrder 30 = .ok (.istore 4, 2) := dk_54 4 (dk_at dksX0_tellsOrder_1 6 rfl rfl)
theorem dX0_tellsOrder_32 : decode cX0_tellsOrder 32 = .ok (.iload 4, 2) := dk_21 4 (dk_at dksX0_tellsOrder_1 8 rfl rfl)
theorem dX0_tellsOrder_34 : decode cX0_tellsOrder 34 = .ok (.bipush 6, 2) := dk_16 6 (dk_at dksX0_tellsOrder_1 10 rfl rfl)
theorem dX0_tellsOrder_36 : decode cX0_tellsOrder 36 = .ok (.if_icmp .ge 74, 3) := dk_162 0 74 (dk_at dksX0_tellsOrder_1 12 rfl rfl)
theorem dX0_tellsOrder_39 : decode cX0_tellsOrder 39 = .ok (.aload_n 3, 1) := dk_45 (dk_at dksX0_tellsOrder_1 15 rfl rfl)
theorem dX0_tellsOrder_40 : decode cX0_tellsOrder 40 = .ok (.iconst 3, 1) := dk_6 (dk_at dksX0_tellsOrder_1 16 rfl rfl)
theorem dX0_tellsOrder_41 : decode cX0_tellsOrder 41 = .ok (.iload 4, 2) := dk_21 4 (dk_at dksX0_tellsOrder_1 17 rfl rfl)
theorem dX0_tellsOrder_43 : decode cX0_tellsOrder 43 = .ok (.iadd, 1) := dk_96 (dk_at dksX0_tellsOrder_1 19 rfl rfl)
theorem dX0_tellsOrder_44 : decode cX0_tellsOrder 44 = .ok (.aload_n 0, 1) := dk_42 (dk_at dksX0_tellsOrder_1 20 rfl rfl)
theorem dX0_tellsOrder_45 : decode cX0_tellsOrder 45 = .ok (.iload 4, 2) := dk_21 4 (dk_at dksX0_tellsOrder_1 21 rfl rfl)
theorem dX0_tellsOrder_47 : decode cX0_tellsOrder 47 = .ok (.invokevirtual 169, 3) := dk_182 0 169 (dk_at dksX0_tellsOrder_2 0 rfl rfl)
theorem dX0_tellsOrder_50 : decode cX0_tellsOrder 50 = .ok (.ifCond .eq 17, 3) := dk_153 0 17 (dk_at dksX0_tellsOrder_2 3 rfl rfl)
theorem dX0_tellsOrder_53 : decode cX0_tellsOrder 53 = .ok (.aload_n 0, 1) := dk_42 (dk_at dksX0_tellsOrder_2 6 rfl rfl)
theorem dX0_tellsOrder_54 : decode cX0_tellsOrder 54 = .ok (.getfield 16, 3) := dk_180 0 16 (dk_at dksX0_tellsOrder_2 7 rfl rfl)
theorem dX0_tellsOrder_57 : decode cX0_tellsOrder 57 = .ok (.getfield 142, 3) := dk_180 0 142 (dk_at dksX0_tellsOrder_2 10 rfl rfl)
theorem dX0_tellsOrder_60 : decode cX0_tellsOrder 60 = .ok (.iload 4, 2) := dk_21 4 (dk_at dksX0_tellsOrder_2 13 rfl rfl)
theorem dX0_tellsOrder_62 : decode cX0_tellsOrder 62 = .ok (.iaload, 1) := dk_46 (dk_at dksX0_tellsOrder_2 15 rfl rfl)
theorem dX0_tellsOrder_63 : decode cX0_tellsOrder 63 = .ok (.i2l, 1) := dk_133 (dk_at dksX0_tellsOrder_2 16 rfl rfl)
theorem dX0_tellsOrder_64 : decode cX0_tellsOrder 64 = .ok (.goto 6, 3) := dk_167 0 6 (dk_at dksX0_tellsOrder_2 17 rfl rfl)
theorem dX0_tellsOrder_67 : decode cX0_tellsOrder 67 = .ok (.ldc2_w 233, 3) := dk_20 0 233 (dk_at dksX0_tellsOrder_2 20 rfl rfl)
theorem dX0_tellsOrder_70 : decode cX0_tellsOrder 70 = .ok (.lastore, 1) := dk_80 (dk_at dksX0_tellsOrder_2 23 rfl rfl)
theorem dX0_tellsOrder_71 : decode cX0_tellsOrder 71 = .ok (.aload_n 3, 1) := dk_45 (dk_at dksX0_tellsOrder_3 0 rfl rfl)
theorem dX0_tellsOrder_72 : decode cX0_tellsOrder 72 = .ok (.bipush 9, 2) := dk_16 9 (dk_at dksX0_tellsOrder_3 1 rfl rfl)
theorem dX0_tellsOrder_74 : decode cX0_tellsOrder 74 = .ok (.iload 4, 2) := dk_21 4 (dk_at dksX0_tellsOrder_3 3 rfl rfl)
theorem dX0_tellsOrder_76 : decode cX0_tellsOrder 76 = .ok (.iadd, 1) := dk_96 (dk_at dksX0_tellsOrder_3 5 rfl rfl)
theorem dX0_tellsOrder_77 : decode cX0_tellsOrder 77 = .ok (.aload_n 0, 1) := dk_42 (dk_at dksX0_tellsOrder_3 6 rfl rfl)
theorem dX0_tellsOrder_78 : decode cX0_tellsOrder 78 = .ok (.iload 4, 2) := dk_21 4 (dk_at dksX0_tellsOrder_3 7 rfl rfl)
theorem dX0_tellsOrder_80 : decode cX0_tellsOrder 80 = .ok (.invokevirtual 169, 3) := dk_182 0 169 (dk_at dksX0_tellsOrder_3 9 rfl rfl)
theorem dX0_tellsOrder_83 : decode cX0_tellsOrder 83 = .ok (.ifCond .eq 17, 3) := dk_153 0 17 (dk_at dksX0_tellsOrder_3 12 rfl rfl)
theorem dX0_tellsOrder_86 : decode cX0_tellsOrder 86 = .ok (.aload_n 0, 1) := dk_42 (dk_at dksX0_tellsOrder_3 15 rfl rfl)
theorem dX0_tellsOrder_87 : decode cX0_tellsOrder 87 = .ok (.getfield 16, 3) := dk_180 0 16 (dk_at dksX0_tellsOrder_3 16 rfl rfl)
theorem dX0_tellsOrder_90 : decode cX0_tellsOrder 90 = .ok (.getfield 162, 3) := dk_180 0 162 (dk_at dksX0_tellsOrder_3 19 rfl rfl)
theorem dX0_tellsOrder_93 : decode cX0_tellsOrder 93 = .ok (.iload 4, 2) := dk_21 4 (dk_at dksX0_tellsOrder_3 22 rfl rfl)
theorem dX0_tellsOrder_95 : decode cX0_tellsOrder 95 = .ok (.iaload, 1) := dk_46 (dk_at dksX0_tellsOrder_4 0 rfl rfl)
theorem dX0_tellsOrder_96 : decode cX0_tellsOrder 96 = .ok (.i2l, 1) := dk_133 (dk_at dksX0_tellsOrder_4 1 rfl rfl)
theorem dX0_tellsOrder_97 : decode cX0_tellsOrder 97 = .ok (.goto 6, 3) := dk_167 0 6 (dk_at dksX0_tellsOrder_4 2 rfl rfl)
theorem dX0_tellsOrder_100 : decode cX0_tellsOrder 100 = .ok (.ldc2_w 233, 3) := dk_20 0 233 (dk_at dksX0_tellsOrder_4 5 rfl rfl)
theorem dX0_tellsOrder_103 : decode cX0_tellsOrder 103 = .ok (.lastore, 1) := dk_80 (dk_at dksX0_tellsOrder_4 8 rfl rfl)
theorem dX0_tellsOrder_104 : decode cX0_tellsOrder 104 = .ok (.iinc 4 1, 3) := dk_132 4 1 (dk_at dksX0_tellsOrder_4 9 rfl rfl)
theorem dX0_tellsOrder_107 : decode cX0_tellsOrder 107 = .ok (.goto (-75), 3) := dk_167 255 181 (dk_at dksX0_tellsOrder_4 12 rfl rfl)
theorem dX0_tellsOrder_110 : decode cX0_tellsOrder 110 = .ok (.return_, 1) := dk_177 (dk_at dksX0_tellsOrder_4 15 rfl rfl)
abbrev cX0_runs : ByteArray := prog_1_method_84_code
def yX0_runs : MethodName := ⟨RX0, "runs", "(LRoseThrow$Order;)I"⟩
def dkwX0_runs_2 : List UInt8 := [182, 1, 36, 167, 0, 9, 42, 28, 29, 182, 1, 39, 172]
abbrev dktX0_runs_2 : List UInt8 := dkwX0_runs_2 ++ []
def dkwX0_runs_1 : List UInt8 := [61, 43, 180, 1, 176, 42, 180, 0, 56, 184, 1, 173, 62, 43, 180, 1, 166, 154, 0, 12, 42, 28, 29]
abbrev dktX0_runs_1 : List UInt8 := dkwX0_runs_1 ++ dktX0_runs_2
def dkwX0_runs_0 : List UInt8 := [43, 180, 1, 166, 4, 160, 0, 8, 42, 182, 1, 42, 172, 43, 180, 1, 169, 42, 180, 0, 56, 184, 1, 173]
abbrev dktX0_runs_0 : List UInt8 := dkwX0_runs_0 ++ dktX0_runs_1
theorem dksX0_runs_0 : cX0_runs.data.toList.drop 0 = dktX0_runs_0 := by decide +kernel
theorem dksX0_runs_1 : cX0_runs.data.toList.drop 24 = dktX0_runs_1 := dk_seg dksX0_runs_0 24 rfl rfl
theorem dksX0_runs_2 : cX0_runs.data.toList.drop 47 = dktX0_runs_2 := dk_seg dksX0_runs_1 23 rfl rfl
theorem dX0_runs_0 : decode cX0_runs 0 = .ok (.aload_n 1, 1) := dk_43 (dk_at dksX0_runs_0 0 rfl rfl)
theorem dX0_runs_1 : decode cX0_runs 1 = .ok (.getfield 422, 3) := dk_180 1 166 (dk_at dksX0_runs_0 1 rfl rfl)
theorem dX0_runs_4 : decode cX0_runs 4 = .ok (.iconst 1, 1) := dk_4 (dk_at dksX0_runs_0 4 rfl rfl)
theorem dX0_runs_5 : decode cX0_runs 5 = .ok (.if_icmp .ne 8, 3) := dk_160 0 8 (dk_at dksX0_runs_0 5 rfl rfl)
theorem dX0_runs_8 : decode cX0_runs 8 = .ok (.aload_n 0, 1) := dk_42 (dk_at dksX0_runs_0 8 rfl rfl)
theorem dX0_runs_9 : decode cX0_runs 9 = .ok (.invokevirtual 298, 3) := dk_182 1 42 (dk_at dksX0_runs_0 9 rfl rfl)
theorem dX0_runs_12 : decode cX0_runs 12 = .ok (.ireturn, 1) := dk_172 (dk_at dksX0_runs_0 12 rfl rfl)
theorem dX0_runs_13 : decode cX0_runs 13 = .ok (.aload_n 1, 1) := dk_43 (dk_at dksX0_runs_0 13 rfl rfl)
theorem dX0_runs_14 : decode cX0_runs 14 = .ok (.getfield 425, 3) := dk_180 1 169 (dk_at dksX0_runs_0 14 rfl rfl)
theorem dX0_runs_17 : decode cX0_runs 17 = .ok (.aload_n 0, 1) := dk_42 (dk_at dksX0_runs_0 17 rfl rfl)
theorem dX0_runs_18 : decode cX0_runs 18 = .ok (.getfield 56, 3) := dk_180 0 56 (dk_at dksX0_runs_0 18 rfl rfl)
theorem dX0_runs_21 : decode cX0_runs 21 = .ok (.invokestatic 429, 3) := dk_184 1 173 (dk_at dksX0_runs_0 21 rfl rfl)
theorem dX0_runs_24 : decode cX0_runs 24 = .ok (.istore_n 2, 1) := dk_61 (dk_at dksX0_runs_1 0 rfl rfl)
theorem dX0_runs_25 : decode cX0_runs 25 = .ok (.aload_n 1, 1) := dk_43 (dk_at dksX0_runs_1 1 rfl rfl)
theorem dX0_runs_26 : decode cX0_runs 26 = .ok (.getfield 432, 3) := dk_180 1 176 (dk_at dksX0_runs_1 2 rfl rfl)
theorem dX0_runs_29 : decode cX0_runs 29 = .ok (.aload_n 0, 1) := dk_42 (dk_at dksX0_runs_1 5 rfl rfl)
theorem dX0_runs_30 : decode cX0_runs 30 = .ok (.getfield 56, 3) := dk_180 0 56 (dk_at dksX0_runs_1 6 rfl rfl)
theorem dX0_runs_33 : decode cX0_runs 33 = .ok (.invokestatic 429, 3) := dk_184 1 173 (dk_at dksX0_runs_1 9 rfl rfl)
theorem dX0_runs_36 : decode cX0_runs 36 = .ok (.istore_n 3, 1) := dk_62 (dk_at dksX0_runs_1 12 rfl rfl)
theorem dX0_runs_37 : decode cX0_runs 37 = .ok (.aload_n 1, 1) := dk_43 (dk_at dksX0_runs_1 13 rfl rfl)
theorem dX0_runs_38 : decode cX0_runs 38 = .ok (.getfield 422, 3) := dk_180 1 166 (dk_at dksX0_runs_1 14 rfl rfl)
theorem dX0_runs_41 : decode cX0_runs 41 = .ok (.ifCond .ne 12, 3) := dk_154 0 12 (dk_at dksX0_runs_1 17 rfl rfl)
theorem dX0_runs_44 : decode cX0_runs 44 = .ok (.aload_n 0, 1) := dk_42 (dk_at dksX0_runs_1 20 rfl rfl)
theorem dX0_runs_45 : decode cX0_runs 45 = .ok (.iload_n 2, 1) := dk_28 (dk_at dksX0_runs_1 21 rfl rfl)
theorem dX0_runs_46 : decode cX0_runs 46 = .ok (.iload_n 3, 1) := dk_29 (dk_at dksX0_runs_1 22 rfl rfl)
theorem dX0_runs_47 : decode cX0_runs 47 = .ok (.invokevirtual 292, 3) := dk_182 1 36 (dk_at dksX0_runs_2 0 rfl rfl)
theorem dX0_runs_50 : decode cX0_runs 50 = .ok (.goto 9, 3) := dk_167 0 9 (dk_at dksX0_runs_2 3 rfl rfl)
theorem dX0_runs_53 : decode cX0_runs 53 = .ok (.aload_n 0, 1) := dk_42 (dk_at dksX0_runs_2 6 rfl rfl)
theorem dX0_runs_54 : decode cX0_runs 54 = .ok (.iload_n 2, 1) := dk_28 (dk_at dksX0_runs_2 7 rfl rfl)
theorem dX0_runs_55 : decode cX0_runs 55 = .ok (.iload_n 3, 1) := dk_29 (dk_at dksX0_runs_2 8 rfl rfl)
theorem dX0_runs_56 : decode cX0_runs 56 = .ok (.invokevirtual 295, 3) := dk_182 1 39 (dk_at dksX0_runs_2 9 rfl rfl)
theorem dX0_runs_59 : decode cX0_runs 59 = .ok (.ireturn, 1) := dk_172 (dk_at dksX0_runs_2 12 rfl rfl)
abbrev cX0_putsBack : ByteArray := prog_1_method_85_code
def yX0_putsBack : MethodName := ⟨RX0, "putsBack", "(I)V"⟩
def dkwX0_putsBack_2 : List UInt8 := [184, 1, 15, 42, 180, 0, 33, 3, 42, 180, 0, 27, 3, 16, 16, 184, 1, 15, 42, 27, 181, 0, 112, 177]
abbrev dktX0_putsBack_2 : List UInt8 := dkwX0_putsBack_2 ++ []
def dkwX0_putsBack_1 : List UInt8 := [180, 0, 16, 180, 0, 162, 3, 16, 6, 184, 1, 15, 42, 180, 0, 30, 3, 42, 180, 0, 24, 3, 16, 96]
abbrev dktX0_putsBack_1 : List UInt8 := dkwX0_putsBack_1 ++ dktX0_putsBack_2
def dkwX0_putsBack_0 : List UInt8 := [42, 180, 0, 36, 3, 42, 180, 0, 16, 180, 0, 142, 3, 16, 6, 184, 1, 15, 42, 180, 0, 39, 3, 42]
abbrev dktX0_putsBack_0 : List UInt8 := dkwX0_putsBack_0 ++ dktX0_putsBack_1
theorem dksX0_putsBack_0 : cX0_putsBack.data.toList.drop 0 = dktX0_putsBack_0 := by decide +kernel
theorem dksX0_putsBack_1 : cX0_putsBack.data.toList.drop 24 = dktX0_putsBack_1 := dk_seg dksX0_putsBack_0 24 rfl rfl
theorem dksX0_putsBack_2 : cX0_putsBack.data.toList.drop 48 = dktX0_putsBack_2 := dk_seg dksX0_putsBack_1 24 rfl rfl
theorem dX0_putsBack_0 : decode cX0_putsBack 0 = .ok (.aload_n 0, 1) := dk_42 (dk_at dksX0_putsBack_0 0 rfl rfl)
theorem dX0_putsBack_1 : decode cX0_putsBack 1 = .ok (.getfield 36, 3) := dk_180 0 36 (dk_at dksX0_putsBack_0 1 rfl rfl)
theorem dX0_putsBack_4 : decode cX0_putsBack 4 = .ok (.iconst 0, 1) := dk_3 (dk_at dksX0_putsBack_0 4 rfl rfl)
theorem dX0_putsBack_5 : decode cX0_putsBack 5 = .ok (.aload_n 0, 1) := dk_42 (dk_at dksX0_putsBack_0 5 rfl rfl)
theorem dX0_putsBack_6 : decode cX0_putsBack 6 = .ok (.getfield 16, 3) := dk_180 0 16 (dk_at dksX0_putsBack_0 6 rfl rfl)
theorem dX0_putsBack_9 : decode cX0_putsBack 9 = .ok (.getfield 142, 3) := dk_180 0 142 (dk_at dksX0_putsBack_0 9 rfl rfl)
theorem dX0_putsBack_12 : decode cX0_putsBack 12 = .ok (.iconst 0, 1) := dk_3 (dk_at dksX0_putsBack_0 12 rfl rfl)
theorem dX0_putsBack_13 : decode cX0_putsBack 13 = .ok (.bipush 6, 2) := dk_16 6 (dk_at dksX0_putsBack_0 13 rfl rfl)
theorem dX0_putsBack_15 : decode cX0_putsBack 15 = .ok (.invokestatic 271, 3) := dk_184 1 15 (dk_at dksX0_putsBack_0 15 rfl rfl)
theorem dX0_putsBack_18 : decode cX0_putsBack 18 = .ok (.aload_n 0, 1) := dk_42 (dk_at dksX0_putsBack_0 18 rfl rfl)
theorem dX0_putsBack_19 : decode cX0_putsBack 19 = .ok (.getfield 39, 3) := dk_180 0 39 (dk_at dksX0_putsBack_0 19 rfl rfl)
theorem dX0_putsBack_22 : decode cX0_putsBack 22 = .ok (.iconst 0, 1) := dk_3 (dk_at dksX0_putsBack_0 22 rfl rfl)
theorem dX0_putsBack_23 : decode cX0_putsBack 23 = .ok (.aload_n 0, 1) := dk_42 (dk_at dksX0_putsBack_0 23 rfl rfl)
theorem dX0_putsBack_24 : decode cX0_putsBack 24 = .ok (.getfield 16, 3) := dk_180 0 16 (dk_at dksX0_putsBack_1 0 rfl rfl)
theorem dX0_putsBack_27 : decode cX0_putsBack 27 = .ok (.getfield 162, 3) := dk_180 0 162 (dk_at dksX0_putsBack_1 3 rfl rfl)
theorem dX0_putsBack_30 : decode cX0_putsBack 30 = .ok (.iconst 0, 1) := dk_3 (dk_at dksX0_putsBack_1 6 rfl rfl)
theorem dX0_putsBack_31 : decode cX0_putsBack 31 = .ok (.bipush 6, 2) := dk_16 6 (dk_at dksX0_putsBack_1 7 rfl rfl)
theorem dX0_putsBack_33 : decode cX0_putsBack 33 = .ok (.invokestatic 271, 3) := dk_184 1 15 (dk_at dksX0_putsBack_1 9 rfl rfl)
theorem dX0_putsBack_36 : decode cX0_putsBack 36 = .ok (.aload_n 0, 1) := dk_42 (dk_at dksX0_putsBack_1 12 rfl rfl)
theorem dX0_putsBack_37 : decode cX0_putsBack 37 = .ok (.getfield 30, 3) := dk_180 0 30 (dk_at dksX0_putsBack_1 13 rfl rfl)
theorem dX0_putsBack_40 : decode cX0_putsBack 40 = .ok (.iconst 0, 1) := dk_3 (dk_at dksX0_putsBack_1 16 rfl rfl)
theorem dX0_putsBack_41 : decode cX0_putsBack 41 = .ok (.aload_n 0, 1) := dk_42 (dk_at dksX0_putsBack_1 17 rfl rfl)
theorem dX0_putsBack_42 : decode cX0_putsBack 42 = .ok (.getfield 24, 3) := dk_180 0 24 (dk_at dksX0_putsBack_1 18 rfl rfl)
theorem dX0_putsBack_45 : decode cX0_putsBack 45 = .ok (.iconst 0, 1) := dk_3 (dk_at dksX0_putsBack_1 21 rfl rfl)
theorem dX0_putsBack_46 : decode cX0_putsBack 46 = .ok (.bipush 96, 2) := dk_16 96 (dk_at dksX0_putsBack_1 22 rfl rfl)
theorem dX0_putsBack_48 : decode cX0_putsBack 48 = .ok (.invokestatic 271, 3) := dk_184 1 15 (dk_at dksX0_putsBack_2 0 rfl rfl)
theorem dX0_putsBack_51 : decode cX0_putsBack 51 = .ok (.aload_n 0, 1) := dk_42 (dk_at dksX0_putsBack_2 3 rfl rfl)
theorem dX0_putsBack_52 : decode cX0_putsBack 52 = .ok (.getfield 33, 3) := dk_180 0 33 (dk_at dksX0_putsBack_2 4 rfl rfl)
theorem dX0_putsBack_55 : decode cX0_putsBack 55 = .ok (.iconst 0, 1) := dk_3 (dk_at dksX0_putsBack_2 7 rfl rfl)
theorem dX0_putsBack_56 : decode cX0_putsBack 56 = .ok (.aload_n 0, 1) := dk_42 (dk_at dksX0_putsBack_2 8 rfl rfl)
theorem dX0_putsBack_57 : decode cX0_putsBack 57 = .ok (.getfield 27, 3) := dk_180 0 27 (dk_at dksX0_putsBack_2 9 rfl rfl)
theorem dX0_putsBack_60 : decode cX0_putsBack 60 = .ok (.iconst 0, 1) := dk_3 (dk_at dksX0_putsBack_2 12 rfl rfl)
theorem dX0_putsBack_61 : decode cX0_putsBack 61 = .ok (.bipush 16, 2) := dk_16 16 (dk_at dksX0_putsBack_2 13 rfl rfl)
theorem dX0_putsBack_63 : decode cX0_putsBack 63 = .ok (.invokestatic 271, 3) := dk_184 1 15 (dk_at dksX0_putsBack_2 15 rfl rfl)
theorem dX0_putsBack_66 : decode cX0_putsBack 66 = .ok (.aload_n 0, 1) := dk_42 (dk_at dksX0_putsBack_2 18 rfl rfl)
theorem dX0_putsBack_67 : decode cX0_putsBack 67 = .ok (.iload_n 1, 1) := dk_27 (dk_at dksX0_putsBack_2 19 rfl rfl)
theorem dX0_putsBack_68 : decode cX0_putsBack 68 = .ok (.putfield 112, 3) := dk_181 0 112 (dk_at dksX0_putsBack_2 20 rfl rfl)
theorem dX0_putsBack_71 : decode cX0_putsBack 71 = .ok (.return_, 1) := dk_177 (dk_at dksX0_putsBack_2 23 rfl rfl)
abbrev cX0_weddings : ByteArray := prog_1_method_89_code
def yX0_weddings : MethodName := ⟨RX0, "weddings", "(II)I"⟩
def dkwX0_weddings_13 : List UInt8 := [172]
abbrev dktX0_weddings_13 : List UInt8 := dkwX0_weddings_13 ++ []
def dkwX0_weddings_12 : List UInt8 := [162, 0, 19, 29, 42, 180, 0, 82, 21, 4, 46, 96, 62, 132, 4, 1, 167, 255, 231, 42, 29, 182, 0, 115]
abbrev dktX0_weddings_12 : List UInt8 := dkwX0_weddings_12 ++ dktX0_weddings_13
def dkwX0_weddings_11 : List UInt8 := [132, 8, 1, 167, 255, 203, 132, 4, 1, 167, 255, 72, 3, 54, 4, 21, 4, 42, 180, 0, 16, 180, 0, 118]
abbrev dktX0_weddings_11 : List UInt8 := dkwX0_weddings_11 ++ dktX0_weddings_12
def dkwX0_weddings_10 : List UInt8 := [42, 16, 100, 182, 1, 188, 42, 21, 8, 3, 182, 1, 10, 162, 0, 7, 4, 167, 0, 4, 3, 96, 79]
abbrev dktX0_weddings_10 : List UInt8 := dkwX0_weddings_10 ++ dktX0_weddings_11
def dkwX0_weddings_9 : List UInt8 := [180, 0, 16, 180, 0, 118, 162, 0, 47, 21, 8, 21, 7, 159, 0, 34, 42, 180, 0, 82, 21, 8, 92, 46]
abbrev dktX0_weddings_9 : List UInt8 := dkwX0_weddings_9 ++ dktX0_weddings_10
def dkwX0_weddings_8 : List UInt8 := [42, 21, 7, 4, 182, 1, 10, 162, 0, 7, 4, 167, 0, 4, 3, 96, 79, 3, 54, 8, 21, 8, 42]
abbrev dktX0_weddings_8 : List UInt8 := dkwX0_weddings_8 ++ dktX0_weddings_9
def dkwX0_weddings_7 : List UInt8 := [180, 0, 79, 21, 7, 92, 46, 4, 96, 79, 42, 180, 0, 82, 21, 7, 92, 46, 42, 16, 100, 182, 1, 188]
abbrev dktX0_weddings_7 : List UInt8 := dkwX0_weddings_7 ++ dktX0_weddings_8
def dkwX0_weddings_6 : List UInt8 := [42, 42, 180, 0, 65, 180, 1, 66, 21, 6, 46, 182, 1, 195, 54, 7, 21, 7, 2, 159, 0, 45, 42]
abbrev dktX0_weddings_6 : List UInt8 := dkwX0_weddings_6 ++ dktX0_weddings_7
def dkwX0_weddings_5 : List UInt8 := [161, 0, 24, 21, 5, 42, 180, 0, 65, 180, 1, 63, 21, 6, 46, 100, 54, 5, 132, 6, 1, 167, 255, 223]
abbrev dktX0_weddings_5 : List UInt8 := dkwX0_weddings_5 ++ dktX0_weddings_6
def dkwX0_weddings_4 : List UInt8 := [180, 1, 76, 182, 1, 188, 54, 5, 3, 54, 6, 21, 5, 42, 180, 0, 65, 180, 1, 63, 21, 6, 46]
abbrev dktX0_weddings_4 : List UInt8 := dkwX0_weddings_4 ++ dktX0_weddings_5
def dkwX0_weddings_3 : List UInt8 := [21, 4, 3, 79, 132, 4, 1, 167, 255, 230, 3, 54, 4, 21, 4, 28, 162, 0, 184, 42, 42, 180, 0, 65]
abbrev dktX0_weddings_3 : List UInt8 := dkwX0_weddings_3 ++ dktX0_weddings_4
def dkwX0_weddings_2 : List UInt8 := [3, 62, 3, 54, 4, 21, 4, 16, 6, 162, 0, 25, 42, 180, 0, 79, 21, 4, 3, 79, 42, 180, 0, 82]
abbrev dktX0_weddings_2 : List UInt8 := dkwX0_weddings_2 ++ dktX0_weddings_3
def dkwX0_weddings_1 : List UInt8 := [182, 0, 124, 172, 42, 182, 1, 52, 42, 27, 181, 1, 179, 42, 42, 180, 0, 16, 180, 0, 118, 181, 1, 192]
abbrev dktX0_weddings_1 : List UInt8 := dkwX0_weddings_1 ++ dktX0_weddings_2
def dkwX0_weddings_0 : List UInt8 := [27, 3, 19, 1, 191, 184, 0, 97, 153, 0, 13, 28, 4, 16, 100, 184, 0, 97, 154, 0, 9, 42, 2]
abbrev dktX0_weddings_0 : List UInt8 := dkwX0_weddings_0 ++ dktX0_weddings_1
theorem dksX0_weddings_0 : cX0_weddings.data.toList.drop 0 = dktX0_weddings_0 := by decide +kernel
theorem dksX0_weddings_1 : cX0_weddings.data.toList.drop 23 = dktX0_weddings_1 := dk_seg dksX0_weddings_0 23 rfl rfl
theorem dksX0_weddings_2 : cX0_weddings.data.toList.drop 47 = dktX0_weddings_2 := dk_seg dksX0_weddings_1 24 rfl rfl
theorem dksX0_weddings_3 : cX0_weddings.data.toList.drop 71 = dktX0_weddings_3 := dk_seg dksX0_weddings_2 24 rfl rfl
theorem dksX0_weddings_4 : cX0_weddings.data.toList.drop 95 = dktX0_weddings_4 := dk_seg dksX0_weddings_3 24 rfl rfl
theorem dksX0_weddings_5 : cX0_weddings.data.toList.drop 118 = dktX0_weddings_5 := dk_seg dksX0_weddings_4 23 rfl rfl
theorem dksX0_weddings_6 : cX0_weddings.data.toList.drop 142 = dktX0_weddings_6 := dk_seg dksX0_weddings_5 24 rfl rfl
theorem dksX0_weddings_7 : cX0_weddings.data.toList.drop 165 = dktX0_weddings_7 := dk_seg dksX0_weddings_6 23 rfl rfl
theorem dksX0_weddings_8 : cX0_weddings.data.toList.drop 189 = dktX0_weddings_8 := dk_seg dksX0_weddings_7 24 rfl rfl
theorem dksX0_weddings_9 : cX0_weddings.data.toList.drop 212 = dktX0_weddings_9 := dk_seg dksX0_weddings_8 23 rfl rfl
theorem dksX0_weddings_10 : cX0_weddings.data.toList.drop 236 = dktX0_weddings_10 := dk_seg dksX0_weddings_9 24 rfl rfl
theorem dksX0_weddings_11 : cX0_weddings.data.toList.drop 259 = dktX0_weddings_11 := dk_seg dksX0_weddings_10 23 rfl rfl
theorem dksX0_weddings_12 : cX0_weddings.data.toList.drop 283 = dktX0_weddings_12 := dk_seg dksX0_weddings_11 24 rfl rfl
theorem dksX0_weddings_13 : cX0_weddings.data.toList.drop 307 = dktX0_weddings_13 := dk_seg dksX0_weddings_12 24 rfl rfl
theorem dX0_weddings_0 : decode cX0_weddings 0 = .ok (.iload_n 1, 1) := dk_27 (dk_at dksX0_weddings_0 0 rfl rfl)
theorem dX0_weddings_1 : decode cX0_weddings 1 = .ok (.iconst 0, 1) := dk_3 (dk_at dksX0_weddings_0 1 rfl rfl)
theorem dX0_weddings_2 : decode cX0_weddings 2 = .ok (.ldc_w 447, 3) := dk_19 1 191 (dk_at dksX0_weddings_0 2 rfl rfl)
theorem dX0_weddings_5 : decode cX0_weddings 5 = .ok (.invokestatic 97, 3) := dk_184 0 97 (dk_at dksX0_weddings_0 5 rfl rfl)
theorem dX0_weddings_8 : decode cX0_weddings 8 = .ok (.ifCond .eq 13, 3) := dk_153 0 13 (dk_at dksX0_weddings_0 8 rfl rfl)
theorem dX0_weddings_11 : decode cX0_weddings 11 = .ok (.iload_n 2, 1) := dk_28 (dk_at dksX0_weddings_0 11 rfl rfl)
theorem dX0_weddings_12 : decode cX0_weddings 12 = .ok (.iconst 1, 1) := dk_4 (dk_at dksX0_weddings_0 12 rfl rfl)
theorem dX0_weddings_13 : decode cX0_weddings 13 = .ok (.bipush 100, 2) := dk_16 100 (dk_at dksX0_weddings_0 13 rfl rfl)
theorem dX0_weddings_15 : decode cX0_weddings 15 = .ok (.invokestatic 97, 3) := dk_184 0 97 (dk_at dksX0_weddings_0 15 rfl rfl)
theorem dX0_weddings_18 : decode cX0_weddings 18 = .ok (.ifCond .ne 9, 3) := dk_154 0 9 (dk_at dksX0_weddings_0 18 rfl rfl)
theorem dX0_weddings_21 : decode cX0_weddings 21 = .ok (.aload_n 0, 1) := dk_42 (dk_at dksX0_weddings_0 21 rfl rfl)
theorem dX0_weddings_22 : decode cX0_weddings 22 = .ok (.iconst (-1), 1) := dk_2 (dk_at dksX0_weddings_0 22 rfl rfl)
theorem dX0_weddings_23 : decode cX0_weddings 23 = .ok (.invokevirtual 124, 3) := dk_182 0 124 (dk_at dksX0_weddings_1 0 rfl rfl)
theorem dX0_weddings_26 : decode cX0_weddings 26 = .ok (.ireturn, 1) := dk_172 (dk_at dksX0_weddings_1 3 rfl rfl)
theorem dX0_weddings_27 : decode cX0_weddings 27 = .ok (.aload_n 0, 1) := dk_42 (dk_at dksX0_weddings_1 4 rfl rfl)
theorem dX0_weddings_28 : decode cX0_weddings 28 = .ok (.invokevirtual 308, 3) := dk_182 1 52 (dk_at dksX0_weddings_1 5 rfl rfl)
theorem dX0_weddings_31 : decode cX0_weddings 31 = .ok (.aload_n 0, 1) := dk_42 (dk_at dksX0_weddings_1 8 rfl rfl)
theorem dX0_weddings_32 : decode cX0_weddings 32 = .ok (.iload_n 1, 1) := dk_27 (dk_at dksX0_weddings_1 9 rfl rfl)
theorem dX0_weddings_33 : decode cX0_weddings 33 = .ok (.putfield 435, 3) := dk_181 1 179 (dk_at dksX0_weddings_1 10 rfl rfl)
theorem dX0_weddings_36 : decode cX0_weddings 36 = .ok (.aload_n 0, 1) := dk_42 (dk_at dksX0_weddings_1 13 rfl rfl)
theorem dX0_weddings_37 : decode cX0_weddings 37 = .ok (.aload_n 0, 1) := dk_42 (dk_at dksX0_weddings_1 14 rfl rfl)
theorem dX0_weddings_38 : decode cX0_weddings 38 = .ok (.getfield 16, 3) := dk_180 0 16 (dk_at dksX0_weddings_1 15 rfl rfl)
theorem dX0_weddings_41 : decode cX0_weddings 41 = .ok (.getfield 118, 3) := dk_180 0 118 (dk_at dksX0_weddings_1 18 rfl rfl)
theorem dX0_weddings_44 : decode cX0_weddings 44 = .ok (.putfield 448, 3) := dk_181 1 192 (dk_at dksX0_weddings_1 21 rfl rfl)
theorem dX0_weddings_47 : decode cX0_weddings 47 = .ok (.iconst 0, 1) := dk_3 (dk_at dksX0_weddings_2 0 rfl rfl)
theorem dX0_weddings_48 : decode cX0_weddings 48 = .ok (.istore_n 3, 1) := dk_62 (dk_at dksX0_weddings_2 1 rfl rfl)
theorem dX0_weddings_49 : decode cX0_weddings 49 = .ok (.iconst 0, 1) := dk_3 (dk_at dksX0_weddings_2 2 rfl rfl)
theorem dX0_weddings_50 : decode cX0_weddings 50 = .ok (.istore 4, 2) := dk_54 4 (dk_at dksX0_weddings_2 3 rfl rfl)
theorem dX0_weddings_52 : decode cX0_weddings 52 = .ok (.iload 4, 2) := dk_21 4 (dk_at dksX0_weddings_2 5 rfl rfl)
theorem dX0_weddings_54 : decode cX0_weddings 54 = .ok (.bipush 6, 2) := dk_16 6 (dk_at dksX0_weddings_2 7 rfl rfl)
theorem dX0_weddings_56 : decode cX0_weddings 56 = .ok (.if_icmp .ge 25, 3) := dk_162 0 25 (dk_at dksX0_weddings_2 9 rfl rfl)
theorem dX0_weddings_59 : decode cX0_weddings 59 = .ok (.aload_n 0, 1) := dk_42 (dk_at dksX0_weddings_2 12 rfl rfl)
theorem dX0_weddings_60 : decode cX0_weddings 60 = .ok (.getfield 79, 3) := dk_180 0 79 (dk_at dksX0_weddings_2 13 rfl rfl)
theorem dX0_weddings_63 : decode cX0_weddings 63 = .ok (.iload 4, 2) := dk_21 4 (dk_at dksX0_weddings_2 16 rfl rfl)
theorem dX0_weddings_65 : decode cX0_weddings 65 = .ok (.iconst 0, 1) := dk_3 (dk_at dksX0_weddings_2 18 rfl rfl)
theorem dX0_weddings_66 : decode cX0_weddings 66 = .ok (.iastore, 1) := dk_79 (dk_at dksX0_weddings_2 19 rfl rfl)
theorem dX0_weddings_67 : decode cX0_weddings 67 = .ok (.aload_n 0, 1) := dk_42 (dk_at dksX0_weddings_2 20 rfl rfl)
theorem dX0_weddings_68 : decode cX0_weddings 68 = .ok (.getfield 82, 3) := dk_180 0 82 (dk_at dksX0_weddings_2 21 rfl rfl)
theorem dX0_weddings_71 : decode cX0_weddings 71 = .ok (.iload 4, 2) := dk_21 4 (dk_at dksX0_weddings_3 0 rfl rfl)
theorem dX0_weddings_73 : decode cX0_weddings 73 = .ok (.iconst 0, 1) := dk_3 (dk_at dksX0_weddings_3 2 rfl rfl)
theorem dX0_weddings_74 : decode cX0_weddings 74 = .ok (.iastore, 1) := dk_79 (dk_at dksX0_weddings_3 3 rfl rfl)
theorem dX0_weddings_75 : decode cX0_weddings 75 = .ok (.iinc 4 1, 3) := dk_132 4 1 (dk_at dksX0_weddings_3 4 rfl rfl)
theorem dX0_weddings_78 : decode cX0_weddings 78 = .ok (.goto (-26), 3) := dk_167 255 230 (dk_at dksX0_weddings_3 7 rfl rfl)
theorem dX0_weddings_81 : decode cX0_weddings 81 = .ok (.iconst 0, 1) := dk_3 (dk_at dksX0_weddings_3 10 rfl rfl)
theorem dX0_weddings_82 : decode cX0_weddings 82 = .ok (.istore 4, 2) := dk_54 4 (dk_at dksX0_weddings_3 11 rfl rfl)
theorem dX0_weddings_84 : decode cX0_weddings 84 = .ok (.iload 4, 2) := dk_21 4 (dk_at dksX0_weddings_3 13 rfl rfl)
theorem dX0_weddings_86 : decode cX0_weddings 86 = .ok (.iload_n 2, 1) := dk_28 (dk_at dksX0_weddings_3 15 rfl rfl)
theorem dX0_weddings_87 : decode cX0_weddings 87 = .ok (.if_icmp .ge 184, 3) := dk_162 0 184 (dk_at dksX0_weddings_3 16 rfl rfl)
theorem dX0_weddings_90 : decode cX0_weddings 90 = .ok (.aload_n 0, 1) := dk_42 (dk_at dksX0_weddings_3 19 rfl rfl)
theorem dX0_weddings_91 : decode cX0_weddings 91 = .ok (.aload_n 0, 1) := dk_42 (dk_at dksX0_weddings_3 20 rfl rfl)
theorem dX0_weddings_92 : decode cX0_weddings 92 = .ok (.getfield 65, 3) := dk_180 0 65 (dk_at dksX0_weddings_3 21 rfl rfl)
theorem dX0_weddings_95 : decode cX0_weddings 95 = .ok (.getfield 332, 3) := dk_180 1 76 (dk_at dksX0_weddings_4 0 rfl rfl)
theorem dX0_weddings_98 : decode cX0_weddings 98 = .ok (.invokevirtual 444, 3) := dk_182 1 188 (dk_at dksX0_weddings_4 3 rfl rfl)
theorem dX0_weddings_101 : decode cX0_weddings 101 = .ok (.istore 5, 2) := dk_54 5 (dk_at dksX0_weddings_4 6 rfl rfl)
theorem dX0_weddings_103 : decode cX0_weddings 103 = .ok (.iconst 0, 1) := dk_3 (dk_at dksX0_weddings_4 8 rfl rfl)
theorem dX0_weddings_104 : decode cX0_weddings 104 = .ok (.istore 6, 2) := dk_54 6 (dk_at dksX0_weddings_4 9 rfl rfl)
theorem dX0_weddings_106 : decode cX0_weddings 106 = .ok (.iload 5, 2) := dk_21 5 (dk_at dksX0_weddings_4 11 rfl rfl)
theorem dX0_weddings_108 : decode cX0_weddings 108 = .ok (.aload_n 0, 1) := dk_42 (dk_at dksX0_weddings_4 13 rfl rfl)
theorem dX0_weddings_109 : decode cX0_weddings 109 = .ok (.getfield 65, 3) := dk_180 0 65 (dk_at dksX0_weddings_4 14 rfl rfl)
theorem dX0_weddings_112 : decode cX0_weddings 112 = .ok (.getfield 319, 3) := dk_180 1 63 (dk_at dksX0_weddings_4 17 rfl rfl)
theorem dX0_weddings_115 : decode cX0_weddings 115 = .ok (.iload 6, 2) := dk_21 6 (dk_at dksX0_weddings_4 20 rfl rfl)
theorem dX0_weddings_117 : decode cX0_weddings 117 = .ok (.iaload, 1) := dk_46 (dk_at dksX0_weddings_4 22 rfl rfl)
theorem dX0_weddings_118 : decode cX0_weddings 118 = .ok (.if_icmp .lt 24, 3) := dk_161 0 24 (dk_at dksX0_weddings_5 0 rfl rfl)
theorem dX0_weddings_121 : decode cX0_weddings 121 = .ok (.iload 5, 2) := dk_21 5 (dk_at dksX0_weddings_5 3 rfl rfl)
theorem dX0_weddings_123 : decode cX0_weddings 123 = .ok (.aload_n 0, 1) := dk_42 (dk_at dksX0_weddings_5 5 rfl rfl)
theorem dX0_weddings_124 : decode cX0_weddings 124 = .ok (.getfield 65, 3) := dk_180 0 65 (dk_at dksX0_weddings_5 6 rfl rfl)
theorem dX0_weddings_127 : decode cX0_weddings 127 = .ok (.getfield 319, 3) := dk_180 1 63 (dk_at dksX0_weddings_5 9 rfl rfl)
theorem dX0_weddings_130 : decode cX0_weddings 130 = .ok (.iload 6, 2) := dk_21 6 (dk_at dksX0_weddings_5 12 rfl rfl)
theorem dX0_weddings_132 : decode cX0_weddings 132 = .ok (.iaload, 1) := dk_46 (dk_at dksX0_weddings_5 14 rfl rfl)
theorem dX0_weddings_133 : decode cX0_weddings 133 = .ok (.isub, 1) := dk_100 (dk_at dksX0_weddings_5 15 rfl rfl)
theorem dX0_weddings_134 : decode cX0_weddings 134 = .ok (.istore 5, 2) := dk_54 5 (dk_at dksX0_weddings_5 16 rfl rfl)
theorem dX0_weddings_136 : decode cX0_weddings 136 = .ok (.iinc 6 1, 3) := dk_132 6 1 (dk_at dksX0_weddings_5 18 rfl rfl)
theorem dX0_weddings_139 : decode cX0_weddings 139 = .ok (.goto (-33), 3) := dk_167 255 223 (dk_at dksX0_weddings_5 21 rfl rfl)
theorem dX0_weddings_142 : decode cX0_weddings 142 = .ok (.aload_n 0, 1) := dk_42 (dk_at dksX0_weddings_6 0 rfl rfl)
theorem dX0_weddings_143 : decode cX0_weddings 143 = .ok (.aload_n 0, 1) := dk_42 (dk_at dksX0_weddings_6 1 rfl rfl)
theorem dX0_weddings_144 : decode cX0_weddings 144 = .ok (.getfield 65, 3) := dk_180 0 65 (dk_at dksX0_weddings_6 2 rfl rfl)
theorem dX0_weddings_147 : decode cX0_weddings 147 = .ok (.getfield 322, 3) := dk_180 1 66 (dk_at dksX0_weddings_6 5 rfl rfl)
theorem dX0_weddings_150 : decode cX0_weddings 150 = .ok (.iload 6, 2) := dk_21 6 (dk_at dksX0_weddings_6 8 rfl rfl)
theorem dX0_weddings_152 : decode cX0_weddings 152 = .ok (.iaload, 1) := dk_46 (dk_at dksX0_weddings_6 10 rfl rfl)
theorem dX0_weddings_153 : decode cX0_weddings 153 = .ok (.invokevirtual 451, 3) := dk_182 1 195 (dk_at dksX0_weddings_6 11 rfl rfl)
theorem dX0_weddings_156 : decode cX0_weddings 156 = .ok (.istore 7, 2) := dk_54 7 (dk_at dksX0_weddings_6 14 rfl rfl)
theorem dX0_weddings_158 : decode cX0_weddings 158 = .ok (.iload 7, 2) := dk_21 7 (dk_at dksX0_weddings_6 16 rfl rfl)
theorem dX0_weddings_160 : decode cX0_weddings 160 = .ok (.iconst (-1), 1) := dk_2 (dk_at dksX0_weddings_6 18 rfl rfl)
theorem dX0_weddings_161 : decode cX0_weddings 161 = .ok (.if_icmp .eq 45, 3) := dk_159 0 45 (dk_at dksX0_weddings_6 19 rfl rfl)
theorem dX0_weddings_164 : decode cX0_weddings 164 = .ok (.aload_n 0, 1) := dk_42 (dk_at dksX0_weddings_6 22 rfl rfl)
theorem dX0_weddings_165 : decode cX0_weddings 165 = .ok (.getfield 79, 3) := dk_180 0 79 (dk_at dksX0_weddings_7 0 rfl rfl)
theorem dX0_weddings_168 : decode cX0_weddings 168 = .ok (.iload 7, 2) := dk_21 7 (dk_at dksX0_weddings_7 3 rfl rfl)
theorem dX0_weddings_170 : decode cX0_weddings 170 = .ok (.dup2, 1) := dk_92 (dk_at dksX0_weddings_7 5 rfl rfl)
theorem dX0_weddings_171 : decode cX0_weddings 171 = .ok (.iaload, 1) := dk_46 (dk_at dksX0_weddings_7 6 rfl rfl)
theorem dX0_weddings_172 : decode cX0_weddings 172 = .ok (.iconst 1, 1) := dk_4 (dk_at dksX0_weddings_7 7 rfl rfl)
theorem dX0_weddings_173 : decode cX0_weddings 173 = .ok (.iadd, 1) := dk_96 (dk_at dksX0_weddings_7 8 rfl rfl)
theorem dX0_weddings_174 : decode cX0_weddings 174 = .ok (.iastore, 1) := dk_79 (dk_at dksX0_weddings_7 9 rfl rfl)
theorem dX0_weddings_175 : decode cX0_weddings 175 = .ok (.aload_n 0, 1) := dk_42 (dk_at dksX0_weddings_7 10 rfl rfl)
theorem dX0_weddings_176 : decode cX0_weddings 176 = .ok (.getfield 82, 3) := dk_180 0 82 (dk_at dksX0_weddings_7 11 rfl rfl)
theorem dX0_weddings_179 : decode cX0_weddings 179 = .ok (.iload 7, 2) := dk_21 7 (dk_at dksX0_weddings_7 14 rfl rfl)
theorem dX0_weddings_181 : decode cX0_weddings 181 = .ok (.dup2, 1) := dk_92 (dk_at dksX0_weddings_7 16 rfl rfl)
theorem dX0_weddings_182 : decode cX0_weddings 182 = .ok (.iaload, 1) := dk_46 (dk_at dksX0_weddings_7 17 rfl rfl)
theorem dX0_weddings_183 : decode cX0_weddings 183 = .ok (.aload_n 0, 1) := dk_42 (dk_at dksX0_weddings_7 18 rfl rfl)
theorem dX0_weddings_184 : decode cX0_weddings 184 = .ok (.bipush 100, 2) := dk_16 100 (dk_at dksX0_weddings_7 19 rfl rfl)
theorem dX0_weddings_186 : decode cX0_weddings 186 = .ok (.invokevirtual 444, 3) := dk_182 1 188 (dk_at dksX0_weddings_7 21 rfl rfl)
theorem dX0_weddings_189 : decode cX0_weddings 189 = .ok (.aload_n 0, 1) := dk_42 (dk_at dksX0_weddings_8 0 rfl rfl)
theorem dX0_weddings_190 : decode cX0_weddings 190 = .ok (.iload 7, 2) := dk_21 7 (dk_at dksX0_weddings_8 1 rfl rfl)
theorem dX0_weddings_192 : decode cX0_weddings 192 = .ok (.iconst 1, 1) := dk_4 (dk_at dksX0_weddings_8 3 rfl rfl)
theorem dX0_weddings_193 : decode cX0_weddings 193 = .ok (.invokevirtual 266, 3) := dk_182 1 10 (dk_at dksX0_weddings_8 4 rfl rfl)
theorem dX0_weddings_196 : decode cX0_weddings 196 = .ok (.if_icmp .ge 7, 3) := dk_162 0 7 (dk_at dksX0_weddings_8 7 rfl rfl)
theorem dX0_weddings_199 : decode cX0_weddings 199 = .ok (.iconst 1, 1) := dk_4 (dk_at dksX0_weddings_8 10 rfl rfl)
theorem dX0_weddings_200 : decode cX0_weddings 200 = .ok (.goto 4, 3) := dk_167 0 4 (dk_at dksX0_weddings_8 11 rfl rfl)
theorem dX0_weddings_203 : decode cX0_weddings 203 = .ok (.iconst 0, 1) := dk_3 (dk_at dksX0_weddings_8 14 rfl rfl)
theorem dX0_weddings_204 : decode cX0_weddings 204 = .ok (.iadd, 1) := dk_96 (dk_at dksX0_weddings_8 15 rfl rfl)
theorem dX0_weddings_205 : decode cX0_weddings 205 = .ok (.iastore, 1) := dk_79 (dk_at dksX0_weddings_8 16 rfl rfl)
theorem dX0_weddings_206 : decode cX0_weddings 206 = .ok (.iconst 0, 1) := dk_3 (dk_at dksX0_weddings_8 17 rfl rfl)
theorem dX0_weddings_207 : decode cX0_weddings 207 = .ok (.istore 8, 2) := dk_54 8 (dk_at dksX0_weddings_8 18 rfl rfl)
theorem dX0_weddings_209 : decode cX0_weddings 209 = .ok (.iload 8, 2) := dk_21 8 (dk_at dksX0_weddings_8 20 rfl rfl)
theorem dX0_weddings_211 : decode cX0_weddings 211 = .ok (.aload_n 0, 1) := dk_42 (dk_at dksX0_weddings_8 22 rfl rfl)
theorem dX0_weddings_212 : decode cX0_weddings 212 = .ok (.getfield 16, 3) := dk_180 0 16 (dk_at dksX0_weddings_9 0 rfl rfl)
theorem dX0_weddings_215 : decode cX0_weddings 215 = .ok (.getfield 118, 3) := dk_180 0 118 (dk_at dksX0_weddings_9 3 rfl rfl)
theorem dX0_weddings_218 : decode cX0_weddings 218 = .ok (.if_icmp .ge 47, 3) := dk_162 0 47 (dk_at dksX0_weddings_9 6 rfl rfl)
theorem dX0_weddings_221 : decode cX0_weddings 221 = .ok (.iload 8, 2) := dk_21 8 (dk_at dksX0_weddings_9 9 rfl rfl)
theorem dX0_weddings_223 : decode cX0_weddings 223 = .ok (.iload 7, 2) := dk_21 7 (dk_at dksX0_weddings_9 11 rfl rfl)
theorem dX0_weddings_225 : decode cX0_weddings 225 = .ok (.if_icmp .eq 34, 3) := dk_159 0 34 (dk_at dksX0_weddings_9 13 rfl rfl)
theorem dX0_weddings_228 : decode cX0_weddings 228 = .ok (.aload_n 0, 1) := dk_42 (dk_at dksX0_weddings_9 16 rfl rfl)
theorem dX0_weddings_229 : decode cX0_weddings 229 = .ok (.getfield 82, 3) := dk_180 0 82 (dk_at dksX0_weddings_9 17 rfl rfl)
theorem dX0_weddings_232 : decode cX0_weddings 232 = .ok (.iload 8, 2) := dk_21 8 (dk_at dksX0_weddings_9 20 rfl rfl)
theorem dX0_weddings_234 : decode cX0_weddings 234 = .ok (.dup2, 1) := dk_92 (dk_at dksX0_weddings_9 22 rfl rfl)
theorem dX0_weddings_235 : decode cX0_weddings 235 = .ok (.iaload, 1) := dk_46 (dk_at dksX0_weddings_9 23 rfl rfl)
theorem dX0_weddings_236 : decode cX0_weddings 236 = .ok (.aload_n 0, 1) := dk_42 (dk_at dksX0_weddings_10 0 rfl rfl)
theorem dX0_weddings_237 : decode cX0_weddings 237 = .ok (.bipush 100, 2) := dk_16 100 (dk_at dksX0_weddings_10 1 rfl rfl)
theorem dX0_weddings_239 : decode cX0_weddings 239 = .ok (.invokevirtual 444, 3) := dk_182 1 188 (dk_at dksX0_weddings_10 3 rfl rfl)
theorem dX0_weddings_242 : decode cX0_weddings 242 = .ok (.aload_n 0, 1) := dk_42 (dk_at dksX0_weddings_10 6 rfl rfl)
theorem dX0_weddings_243 : decode cX0_weddings 243 = .ok (.iload 8, 2) := dk_21 8 (dk_at dksX0_weddings_10 7 rfl rfl)
theorem dX0_weddings_245 : decode cX0_weddings 245 = .ok (.iconst 0, 1) := dk_3 (dk_at dksX0_weddings_10 9 rfl rfl)
theorem dX0_weddings_246 : decode cX0_weddings 246 = .ok (.invokevirtual 266, 3) := dk_182 1 10 (dk_at dksX0_weddings_10 10 rfl rfl)
theorem dX0_weddings_249 : decode cX0_weddings 249 = .ok (.if_icmp .ge 7, 3) := dk_162 0 7 (dk_at dksX0_weddings_10 13 rfl rfl)
theorem dX0_weddings_252 : decode cX0_weddings 252 = .ok (.iconst 1, 1) := dk_4 (dk_at dksX0_weddings_10 16 rfl rfl)
theorem dX0_weddings_253 : decode cX0_weddings 253 = .ok (.goto 4, 3) := dk_167 0 4 (dk_at dksX0_weddings_10 17 rfl rfl)
theorem dX0_weddings_256 : decode cX0_weddings 256 = .ok (.iconst 0, 1) := dk_3 (dk_at dksX0_weddings_10 20 rfl rfl)
theorem dX0_weddings_257 : decode cX0_weddings 257 = .ok (.iadd, 1) := dk_96 (dk_at dksX0_weddings_10 21 rfl rfl)
theorem dX0_weddings_258 : decode cX0_weddings 258 = .ok (.iastore, 1) := dk_79 (dk_at dksX0_weddings_10 22 rfl rfl)
theorem dX0_weddings_259 : decode cX0_weddings 259 = .ok (.iinc 8 1, 3) := dk_132 8 1 (dk_at dksX0_weddings_11 0 rfl rfl)
theorem dX0_weddings_262 : decode cX0_weddings 262 = .ok (.goto (-53), 3) := dk_167 255 203 (dk_at dksX0_weddings_11 3 rfl rfl)
theorem dX0_weddings_265 : decode cX0_weddings 265 = .ok (.iinc 4 1, 3) := dk_132 4 1 (dk_at dksX0_weddings_11 6 rfl rfl)
theorem dX0_weddings_268 : decode cX0_weddings 268 = .ok (.goto (-184), 3) := dk_167 255 72 (dk_at dksX0_weddings_11 9 rfl rfl)
theorem dX0_weddings_271 : decode cX0_weddings 271 = .ok (.iconst 0, 1) := dk_3 (dk_at dksX0_weddings_11 12 rfl rfl)
theorem dX0_weddings_272 : decode cX0_weddings 272 = .ok (.istore 4, 2) := dk_54 4 (dk_at dksX0_weddings_11 13 rfl rfl)
theorem dX0_weddings_274 : decode cX0_weddings 274 = .ok (.iload 4, 2) := dk_21 4 (dk_at dksX0_weddings_11 15 rfl rfl)
theorem dX0_weddings_276 : decode cX0_weddings 276 = .ok (.aload_n 0, 1) := dk_42 (dk_at dksX0_weddings_11 17 rfl rfl)
theorem dX0_weddings_277 : decode cX0_weddings 277 = .ok (.getfield 16, 3) := dk_180 0 16 (dk_at dksX0_weddings_11 18 rfl rfl)
theorem dX0_weddings_280 : decode cX0_weddings 280 = .ok (.getfield 118, 3) := dk_180 0 118 (dk_at dksX0_weddings_11 21 rfl rfl)
theorem dX0_weddings_283 : decode cX0_weddings 283 = .ok (.if_icmp .ge 19, 3) := dk_162 0 19 (dk_at dksX0_weddings_12 0 rfl rfl)
theorem dX0_weddings_286 : decode cX0_weddings 286 = .ok (.iload_n 3, 1) := dk_29 (dk_at dksX0_weddings_12 3 rfl rfl)
theorem dX0_weddings_287 : decode cX0_weddings 287 = .ok (.aload_n 0, 1) := dk_42 (dk_at dksX0_weddings_12 4 rfl rfl)
theorem dX0_weddings_288 : decode cX0_weddings 288 = .ok (.getfield 82, 3) := dk_180 0 82 (dk_at dksX0_weddings_12 5 rfl rfl)
theorem dX0_weddings_291 : decode cX0_weddings 291 = .ok (.iload 4, 2) := dk_21 4 (dk_at dksX0_weddings_12 8 rfl rfl)
theorem dX0_weddings_293 : decode cX0_weddings 293 = .ok (.iaload, 1) := dk_46 (dk_at dksX0_weddings_12 10 rfl rfl)
theorem dX0_weddings_294 : decode cX0_weddings 294 = .ok (.iadd, 1) := dk_96 (dk_at dksX0_weddings_12 11 rfl rfl)
theorem dX0_weddings_295 : decode cX0_weddings 295 = .ok (.istore_n 3, 1) := dk_62 (dk_at dksX0_weddings_12 12 rfl rfl)
theorem dX0_weddings_296 : decode cX0_weddings 296 = .ok (.iinc 4 1, 3) := dk_132 4 1 (dk_at dksX0_weddings_12 13 rfl rfl)
theorem dX0_weddings_299 : decode cX0_weddings 299 = .ok (.goto (-25), 3) := dk_167 255 231 (dk_at dksX0_weddings_12 16 rfl rfl)
theorem dX0_weddings_302 : decode cX0_weddings 302 = .ok (.aload_n 0, 1) := dk_42 (dk_at dksX0_weddings_12 19 rfl rfl)
theorem dX0_weddings_303 : decode cX0_weddings 303 = .ok (.iload_n 3, 1) := dk_29 (dk_at dksX0_weddings_12 20 rfl rfl)
theorem dX0_weddings_304 : decode cX0_weddings 304 = .ok (.invokevirtual 115, 3) := dk_182 0 115 (dk_at dksX0_weddings_12 21 rfl rfl)
theorem dX0_weddings_307 : decode cX0_weddings 307 = .ok (.ireturn, 1) := dk_172 (dk_at dksX0_weddings_13 0 rfl rfl)
abbrev cX0_draw : ByteArray := prog_1_method_87_code
def yX0_draw : MethodName := ⟨RX0, "draw", "(I)I"⟩
def dkwX0_draw_1 : List UInt8 := [180, 1, 179, 27, 112, 172]
abbrev dktX0_draw_1 : List UInt8 := dkwX0_draw_1 ++ []
def dkwX0_draw_0 : List UInt8 := [42, 42, 180, 1, 179, 133, 20, 1, 182, 105, 20, 1, 184, 97, 20, 1, 186, 113, 136, 181, 1, 179, 42]
abbrev dktX0_draw_0 : List UInt8 := dkwX0_draw_0 ++ dktX0_draw_1
theorem dksX0_draw_0 : cX0_draw.data.toList.drop 0 = dktX0_draw_0 := by decide +kernel
theorem dksX0_draw_1 : cX0_draw.data.toList.drop 23 = dktX0_draw_1 := dk_seg dksX0_draw_0 23 rfl rfl
theorem dX0_draw_0 : decode cX0_draw 0 = .ok (.aload_n 0, 1) := dk_42 (dk_at dksX0_draw_0 0 rfl rfl)
theorem dX0_draw_1 : decode cX0_draw 1 = .ok (.aload_n 0, 1) := dk_42 (dk_at dksX0_draw_0 1 rfl rfl)
theorem dX0_draw_2 : decode cX0_draw 2 = .ok (.getfield 435, 3) := dk_180 1 179 (dk_at dksX0_draw_0 2 rfl rfl)
theorem dX0_draw_5 : decode cX0_draw 5 = .ok (.i2l, 1) := dk_133 (dk_at dksX0_draw_0 5 rfl rfl)
theorem dX0_draw_6 : decode cX0_draw 6 = .ok (.ldc2_w 438, 3) := dk_20 1 182 (dk_at dksX0_draw_0 6 rfl rfl)
theorem dX0_draw_9 : decode cX0_draw 9 = .ok (.lmul, 1) := dk_105 (dk_at dksX0_draw_0 9 rfl rfl)
theorem dX0_draw_10 : decode cX0_draw 10 = .ok (.ldc2_w 440, 3) := dk_20 1 184 (dk_at dksX0_draw_0 10 rfl rfl)
theorem dX0_draw_13 : decode cX0_draw 13 = .ok (.ladd, 1) := dk_97 (dk_at dksX0_draw_0 13 rfl rfl)
theorem dX0_draw_14 : decode cX0_draw 14 = .ok (.ldc2_w 442, 3) := dk_20 1 186 (dk_at dksX0_draw_0 14 rfl rfl)
theorem dX0_draw_17 : decode cX0_draw 17 = .ok (.lrem, 1) := dk_113 (dk_at dksX0_draw_0 17 rfl rfl)
theorem dX0_draw_18 : decode cX0_draw 18 = .ok (.l2i, 1) := dk_136 (dk_at dksX0_draw_0 18 rfl rfl)
theorem dX0_draw_19 : decode cX0_draw 19 = .ok (.putfield 435, 3) := dk_181 1 179 (dk_at dksX0_draw_0 19 rfl rfl)
theorem dX0_draw_22 : decode cX0_draw 22 = .ok (.aload_n 0, 1) := dk_42 (dk_at dksX0_draw_0 22 rfl rfl)
theorem dX0_draw_23 : decode cX0_draw 23 = .ok (.getfield 435, 3) := dk_180 1 179 (dk_at dksX0_draw_1 0 rfl rfl)
theorem dX0_draw_26 : decode cX0_draw 26 = .ok (.iload_n 1, 1) := dk_27 (dk_at dksX0_draw_1 3 rfl rfl)
theorem dX0_draw_27 : decode cX0_draw 27 = .ok (.irem, 1) := dk_112 (dk_at dksX0_draw_1 4 rfl rfl)
theorem dX0_draw_28 : decode cX0_draw 28 = .ok (.ireturn, 1) := dk_172 (dk_at dksX0_draw_1 5 rfl rfl)
abbrev cX0_holder : ByteArray := prog_1_method_88_code
def yX0_holder : MethodName := ⟨RX0, "holder", "(I)I"⟩
def dkwX0_holder_4 : List UInt8 := [167, 0, 13, 29, 154, 0, 6, 21, 4, 172, 132, 3, 255, 132, 4, 1, 167, 255, 211, 2, 172]
abbrev dktX0_holder_4 : List UInt8 := dkwX0_holder_4 ++ []
def dkwX0_holder_3 : List UInt8 := [180, 0, 118, 162, 0, 39, 42, 21, 4, 42, 180, 0, 16, 180, 0, 142, 27, 182, 1, 69, 154, 0, 6]
abbrev dktX0_holder_3 : List UInt8 := dkwX0_holder_3 ++ dktX0_holder_4
def dkwX0_holder_2 : List UInt8 := [4, 164, 0, 11, 42, 28, 182, 1, 188, 167, 0, 4, 3, 62, 3, 54, 4, 21, 4, 42, 180, 0, 16]
abbrev dktX0_holder_2 : List UInt8 := dkwX0_holder_2 ++ dktX0_holder_3
def dkwX0_holder_1 : List UInt8 := [180, 0, 142, 27, 182, 1, 69, 158, 0, 7, 4, 167, 0, 4, 3, 96, 61, 132, 3, 1, 167, 255, 218, 28]
abbrev dktX0_holder_1 : List UInt8 := dkwX0_holder_1 ++ dktX0_holder_2
def dkwX0_holder_0 : List UInt8 := [3, 61, 3, 62, 29, 42, 180, 0, 16, 180, 0, 118, 162, 0, 33, 28, 42, 29, 42, 180, 0, 16]
abbrev dktX0_holder_0 : List UInt8 := dkwX0_holder_0 ++ dktX0_holder_1
theorem dksX0_holder_0 : cX0_holder.data.toList.drop 0 = dktX0_holder_0 := by decide +kernel
theorem dksX0_holder_1 : cX0_holder.data.toList.drop 22 = dktX0_holder_1 := dk_seg dksX0_holder_0 22 rfl rfl
theorem dksX0_holder_2 : cX0_holder.data.toList.drop 46 = dktX0_holder_2 := dk_seg dksX0_holder_1 24 rfl rfl
theorem dksX0_holder_3 : cX0_holder.data.toList.drop 69 = dktX0_holder_3 := dk_seg dksX0_holder_2 23 rfl rfl
theorem dksX0_holder_4 : cX0_holder.data.toList.drop 92 = dktX0_holder_4 := dk_seg dksX0_holder_3 23 rfl rfl
theorem dX0_holder_0 : decode cX0_holder 0 = .ok (.iconst 0, 1) := dk_3 (dk_at dksX0_holder_0 0 rfl rfl)
theorem dX0_holder_1 : decode cX0_holder 1 = .ok (.istore_n 2, 1) := dk_61 (dk_at dksX0_holder_0 1 rfl rfl)
theorem dX0_holder_2 : decode cX0_holder 2 = .ok (.iconst 0, 1) := dk_3 (dk_at dksX0_holder_0 2 rfl rfl)
theorem dX0_holder_3 : decode cX0_holder 3 = .ok (.istore_n 3, 1) := dk_62 (dk_at dksX0_holder_0 3 rfl rfl)
theorem dX0_holder_4 : decode cX0_holder 4 = .ok (.iload_n 3, 1) := dk_29 (dk_at dksX0_holder_0 4 rfl rfl)
theorem dX0_holder_5 : decode cX0_holder 5 = .ok (.aload_n 0, 1) := dk_42 (dk_at dksX0_holder_0 5 rfl rfl)
theorem dX0_holder_6 : decode cX0_holder 6 = .ok (.getfield 16, 3) := dk_180 0 16 (dk_at dksX0_holder_0 6 rfl rfl)
theorem dX0_holder_9 : decode cX0_holder 9 = .ok (.getfield 118, 3) := dk_180 0 118 (dk_at dksX0_holder_0 9 rfl rfl)
theorem dX0_holder_12 : decode cX0_holder 12 = .ok (.if_icmp .ge 33, 3) := dk_162 0 33 (dk_at dksX0_holder_0 12 rfl rfl)
theorem dX0_holder_15 : decode cX0_holder 15 = .ok (.iload_n 2, 1) := dk_28 (dk_at dksX0_holder_0 15 rfl rfl)
theorem dX0_holder_16 : decode cX0_holder 16 = .ok (.aload_n 0, 1) := dk_42 (dk_at dksX0_holder_0 16 rfl rfl)
theorem dX0_holder_17 : decode cX0_holder 17 = .ok (.iload_n 3, 1) := dk_29 (dk_at dksX0_holder_0 17 rfl rfl)
theorem dX0_holder_18 : decode cX0_holder 18 = .ok (.aload_n 0, 1) := dk_42 (dk_at dksX0_holder_0 18 rfl rfl)
theorem dX0_holder_19 : decode cX0_holder 19 = .ok (.getfield 16, 3) := dk_180 0 16 (dk_at dksX0_holder_0 19 rfl rfl)
theorem dX0_holder_22 : decode cX0_holder 22 = .ok (.getfield 142, 3) := dk_180 0 142 (dk_at dksX0_holder_1 0 rfl rfl)
theorem dX0_holder_25 : decode cX0_holder 25 = .ok (.iload_n 1, 1) := dk_27 (dk_at dksX0_holder_1 3 rfl rfl)
theorem dX0_holder_26 : decode cX0_holder 26 = .ok (.invokevirtual 325, 3) := dk_182 1 69 (dk_at dksX0_holder_1 4 rfl rfl)
theorem dX0_holder_29 : decode cX0_holder 29 = .ok (.ifCond .le 7, 3) := dk_158 0 7 (dk_at dksX0_holder_1 7 rfl rfl)
theorem dX0_holder_32 : decode cX0_holder 32 = .ok (.iconst 1, 1) := dk_4 (dk_at dksX0_holder_1 10 rfl rfl)
theorem dX0_holder_33 : decode cX0_holder 33 = .ok (.goto 4, 3) := dk_167 0 4 (dk_at dksX0_holder_1 11 rfl rfl)
theorem dX0_holder_36 : decode cX0_holder 36 = .ok (.iconst 0, 1) := dk_3 (dk_at dksX0_holder_1 14 rfl rfl)
theorem dX0_holder_37 : decode cX0_holder 37 = .ok (.iadd, 1) := dk_96 (dk_at dksX0_holder_1 15 rfl rfl)
theorem dX0_holder_38 : decode cX0_holder 38 = .ok (.istore_n 2, 1) := dk_61 (dk_at dksX0_holder_1 16 rfl rfl)
theorem dX0_holder_39 : decode cX0_holder 39 = .ok (.iinc 3 1, 3) := dk_132 3 1 (dk_at dksX0_holder_1 17 rfl rfl)
theorem dX0_holder_42 : decode cX0_holder 42 = .ok (.goto (-38), 3) := dk_167 255 218 (dk_at dksX0_holder_1 20 rfl rfl)
theorem dX0_holder_45 : decode cX0_holder 45 = .ok (.iload_n 2, 1) := dk_28 (dk_at dksX0_holder_1 23 rfl rfl)
theorem dX0_holder_46 : decode cX0_holder 46 = .ok (.iconst 1, 1) := dk_4 (dk_at dksX0_holder_2 0 rfl rfl)
theorem dX0_holder_47 : decode cX0_holder 47 = .ok (.if_icmp .le 11, 3) := dk_164 0 11 (dk_at dksX0_holder_2 1 rfl rfl)
theorem dX0_holder_50 : decode cX0_holder 50 = .ok (.aload_n 0, 1) := dk_42 (dk_at dksX0_holder_2 4 rfl rfl)
theorem dX0_holder_51 : decode cX0_holder 51 = .ok (.iload_n 2, 1) := dk_28 (dk_at dksX0_holder_2 5 rfl rfl)
theorem dX0_holder_52 : decode cX0_holder 52 = .ok (.invokevirtual 444, 3) := dk_182 1 188 (dk_at dksX0_holder_2 6 rfl rfl)
theorem dX0_holder_55 : decode cX0_holder 55 = .ok (.goto 4, 3) := dk_167 0 4 (dk_at dksX0_holder_2 9 rfl rfl)
theorem dX0_holder_58 : decode cX0_holder 58 = .ok (.iconst 0, 1) := dk_3 (dk_at dksX0_holder_2 12 rfl rfl)
theorem dX0_holder_59 : decode cX0_holder 59 = .ok (.istore_n 3, 1) := dk_62 (dk_at dksX0_holder_2 13 rfl rfl)
theorem dX0_holder_60 : decode cX0_holder 60 = .ok (.iconst 0, 1) := dk_3 (dk_at dksX0_holder_2 14 rfl rfl)
theorem dX0_holder_61 : decode cX0_holder 61 = .ok (.istore 4, 2) := dk_54 4 (dk_at dksX0_holder_2 15 rfl rfl)
theorem dX0_holder_63 : decode cX0_holder 63 = .ok (.iload 4, 2) := dk_21 4 (dk_at dksX0_holder_2 17 rfl rfl)
theorem dX0_holder_65 : decode cX0_holder 65 = .ok (.aload_n 0, 1) := dk_42 (dk_at dksX0_holder_2 19 rfl rfl)
theorem dX0_holder_66 : decode cX0_holder 66 = .ok (.getfield 16, 3) := dk_180 0 16 (dk_at dksX0_holder_2 20 rfl rfl)
theorem dX0_holder_69 : decode cX0_holder 69 = .ok (.getfield 118, 3) := dk_180 0 118 (dk_at dksX0_holder_3 0 rfl rfl)
theorem dX0_holder_72 : decode cX0_holder 72 = .ok (.if_icmp .ge 39, 3) := dk_162 0 39 (dk_at dksX0_holder_3 3 rfl rfl)
theorem dX0_holder_75 : decode cX0_holder 75 = .ok (.aload_n 0, 1) := dk_42 (dk_at dksX0_holder_3 6 rfl rfl)
theorem dX0_holder_76 : decode cX0_holder 76 = .ok (.iload 4, 2) := dk_21 4 (dk_at dksX0_holder_3 7 rfl rfl)
theorem dX0_holder_78 : decode cX0_holder 78 = .ok (.aload_n 0, 1) := dk_42 (dk_at dksX0_holder_3 9 rfl rfl)
theorem dX0_holder_79 : decode cX0_holder 79 = .ok (.getfield 16, 3) := dk_180 0 16 (dk_at dksX0_holder_3 10 rfl rfl)
theorem dX0_holder_82 : decode cX0_holder 82 = .ok (.getfield 142, 3) := dk_180 0 142 (dk_at dksX0_holder_3 13 rfl rfl)
theorem dX0_holder_85 : decode cX0_holder 85 = .ok (.iload_n 1, 1) := dk_27 (dk_at dksX0_holder_3 16 rfl rfl)
theorem dX0_holder_86 : decode cX0_holder 86 = .ok (.invokevirtual 325, 3) := dk_182 1 69 (dk_at dksX0_holder_3 17 rfl rfl)
theorem dX0_holder_89 : decode cX0_holder 89 = .ok (.ifCond .ne 6, 3) := dk_154 0 6 (dk_at dksX0_holder_3 20 rfl rfl)
theorem dX0_holder_92 : decode cX0_holder 92 = .ok (.goto 13, 3) := dk_167 0 13 (dk_at dksX0_holder_4 0 rfl rfl)
theorem dX0_holder_95 : decode cX0_holder 95 = .ok (.iload_n 3, 1) := dk_29 (dk_at dksX0_holder_4 3 rfl rfl)
theorem dX0_holder_96 : decode cX0_holder 96 = .ok (.ifCond .ne 6, 3) := dk_154 0 6 (dk_at dksX0_holder_4 4 rfl rfl)
theorem dX0_holder_99 : decode cX0_holder 99 = .ok (.iload 4, 2) := dk_21 4 (dk_at dksX0_holder_4 7 rfl rfl)
theorem dX0_holder_101 : decode cX0_holder 101 = .ok (.ireturn, 1) := dk_172 (dk_at dksX0_holder_4 9 rfl rfl)
theorem dX0_holder_102 : decode cX0_holder 102 = .ok (.iinc 3 (-1), 3) := dk_132 3 255 (dk_at dksX0_holder_4 10 rfl rfl)
theorem dX0_holder_105 : decode cX0_holder 105 = .ok (.iinc 4 1, 3) := dk_132 4 1 (dk_at dksX0_holder_4 13 rfl rfl)
theorem dX0_holder_108 : decode cX0_holder 108 = .ok (.goto (-45), 3) := dk_167 255 211 (dk_at dksX0_holder_4 16 rfl rfl)
theorem dX0_holder_111 : decode cX0_holder 111 = .ok (.iconst (-1), 1) := dk_2 (dk_at dksX0_holder_4 19 rfl rfl)
theorem dX0_holder_112 : decode cX0_holder 112 = .ok (.ireturn, 1) := dk_172 (dk_at dksX0_holder_4 20 rfl rfl)
abbrev cX0_drawn : ByteArray := prog_1_method_90_code
def yX0_drawn : MethodName := ⟨RX0, "drawn", "(II)I"⟩
def dkwX0_drawn_1 : List UInt8 := [167, 0, 22, 28, 154, 0, 12, 42, 180, 0, 79, 27, 46, 167, 0, 9, 42, 180, 0, 82, 27, 46, 172]
abbrev dktX0_drawn_1 : List UInt8 := dkwX0_drawn_1 ++ []
def dkwX0_drawn_0 : List UInt8 := [27, 3, 42, 180, 1, 192, 4, 100, 184, 0, 97, 153, 0, 12, 28, 3, 4, 184, 0, 97, 154, 0, 7, 2]
abbrev dktX0_drawn_0 : List UInt8 := dkwX0_drawn_0 ++ dktX0_drawn_1
theorem dksX0_drawn_0 : cX0_drawn.data.toList.drop 0 = dktX0_drawn_0 := by decide +kernel
theorem dksX0_drawn_1 : cX0_drawn.data.toList.drop 24 = dktX0_drawn_1 := dk_seg dksX0_drawn_0 24 rfl rfl
theorem dX0_drawn_0 : decode cX0_drawn 0 = .ok (.iload_n 1, 1) := dk_27 (dk_at dksX0_drawn_0 0 rfl rfl)
theorem dX0_drawn_1 : decode cX0_drawn 1 = .ok (.iconst 0, 1) := dk_3 (dk_at dksX0_drawn_0 1 rfl rfl)
theorem dX0_drawn_2 : decode cX0_drawn 2 = .ok (.aload_n 0, 1) := dk_42 (dk_at dksX0_drawn_0 2 rfl rfl)
theorem dX0_drawn_3 : decode cX0_drawn 3 = .ok (.getfield 448, 3) := dk_180 1 192 (dk_at dksX0_drawn_0 3 rfl rfl)
theorem dX0_drawn_6 : decode cX0_drawn 6 = .ok (.iconst 1, 1) := dk_4 (dk_at dksX0_drawn_0 6 rfl rfl)
theorem dX0_drawn_7 : decode cX0_drawn 7 = .ok (.isub, 1) := dk_100 (dk_at dksX0_drawn_0 7 rfl rfl)
theorem dX0_drawn_8 : decode cX0_drawn 8 = .ok (.invokestatic 97, 3) := dk_184 0 97 (dk_at dksX0_drawn_0 8 rfl rfl)
theorem dX0_drawn_11 : decode cX0_drawn 11 = .ok (.ifCond .eq 12, 3) := dk_153 0 12 (dk_at dksX0_drawn_0 11 rfl rfl)
theorem dX0_drawn_14 : decode cX0_drawn 14 = .ok (.iload_n 2, 1) := dk_28 (dk_at dksX0_drawn_0 14 rfl rfl)
theorem dX0_drawn_15 : decode cX0_drawn 15 = .ok (.iconst 0, 1) := dk_3 (dk_at dksX0_drawn_0 15 rfl rfl)
theorem dX0_drawn_16 : decode cX0_drawn 16 = .ok (.iconst 1, 1) := dk_4 (dk_at dksX0_drawn_0 16 rfl rfl)
theorem dX0_drawn_17 : decode cX0_drawn 17 = .ok (.invokestatic 97, 3) := dk_184 0 97 (dk_at dksX0_drawn_0 17 rfl rfl)
theorem dX0_drawn_20 : decode cX0_drawn 20 = .ok (.ifCond .ne 7, 3) := dk_154 0 7 (dk_at dksX0_drawn_0 20 rfl rfl)
theorem dX0_drawn_23 : decode cX0_drawn 23 = .ok (.iconst (-1), 1) := dk_2 (dk_at dksX0_drawn_0 23 rfl rfl)
theorem dX0_drawn_24 : decode cX0_drawn 24 = .ok (.goto 22, 3) := dk_167 0 22 (dk_at dksX0_drawn_1 0 rfl rfl)
theorem dX0_drawn_27 : decode cX0_drawn 27 = .ok (.iload_n 2, 1) := dk_28 (dk_at dksX0_drawn_1 3 rfl rfl)
theorem dX0_drawn_28 : decode cX0_drawn 28 = .ok (.ifCond .ne 12, 3) := dk_154 0 12 (dk_at dksX0_drawn_1 4 rfl rfl)
theorem dX0_drawn_31 : decode cX0_drawn 31 = .ok (.aload_n 0, 1) := dk_42 (dk_at dksX0_drawn_1 7 rfl rfl)
theorem dX0_drawn_32 : decode cX0_drawn 32 = .ok (.getfield 79, 3) := dk_180 0 79 (dk_at dksX0_drawn_1 8 rfl rfl)
theorem dX0_drawn_35 : decode cX0_drawn 35 = .ok (.iload_n 1, 1) := dk_27 (dk_at dksX0_drawn_1 11 rfl rfl)
theorem dX0_drawn_36 : decode cX0_drawn 36 = .ok (.iaload, 1) := dk_46 (dk_at dksX0_drawn_1 12 rfl rfl)
theorem dX0_drawn_37 : decode cX0_drawn 37 = .ok (.goto 9, 3) := dk_167 0 9 (dk_at dksX0_drawn_1 13 rfl rfl)
theorem dX0_drawn_40 : decode cX0_drawn 40 = .ok (.aload_n 0, 1) := dk_42 (dk_at dksX0_drawn_1 16 rfl rfl)
theorem dX0_drawn_41 : decode cX0_drawn 41 = .ok (.getfield 82, 3) := dk_180 0 82 (dk_at dksX0_drawn_1 17 rfl rfl)
theorem dX0_drawn_44 : decode cX0_drawn 44 = .ok (.iload_n 1, 1) := dk_27 (dk_at dksX0_drawn_1 20 rfl rfl)
theorem dX0_drawn_45 : decode cX0_drawn 45 = .ok (.iaload, 1) := dk_46 (dk_at dksX0_drawn_1 21 rfl rfl)
theorem dX0_drawn_46 : decode cX0_drawn 46 = .ok (.ireturn, 1) := dk_172 (dk_at dksX0_drawn_1 22 rfl rfl)
abbrev cX0_count : ByteArray := prog_1_method_91_code
def yX0_count : MethodName := ⟨RX0, "count", "(I)I"⟩
def dkwX0_count_5 : List UInt8 := [153, 0, 14, 42, 27, 16, 11, 100, 182, 0, 235, 167, 0, 6, 17, 252, 24, 172]
abbrev dktX0_count_5 : List UInt8 := dkwX0_count_5 ++ []
def dkwX0_count_4 : List UInt8 := [180, 0, 7, 27, 6, 100, 46, 172, 42, 180, 0, 16, 180, 0, 226, 172, 27, 16, 11, 16, 19, 184, 0, 97]
abbrev dktX0_count_4 : List UInt8 := dkwX0_count_4 ++ dktX0_count_5
def dkwX0_count_3 : List UInt8 := [182, 0, 199, 172, 42, 180, 0, 112, 172, 42, 180, 0, 175, 172, 42, 180, 0, 7, 27, 7, 100, 46, 172, 42]
abbrev dktX0_count_3 : List UInt8 := dkwX0_count_3 ++ dktX0_count_4
def dkwX0_count_2 : List UInt8 := [42, 180, 0, 16, 180, 0, 118, 172, 42, 180, 0, 16, 180, 1, 135, 172, 42, 180, 0, 16, 180, 0, 195]
abbrev dktX0_count_2 : List UInt8 := dkwX0_count_2 ++ dktX0_count_3
def dkwX0_count_1 : List UInt8 := [170, 0, 0, 0, 0, 0, 122, 0, 0, 0, 0, 0, 0, 0, 10, 0, 0, 0, 59, 0, 0, 0, 67, 0, 0, 0, 75, 0, 0, 0, 86, 0, 0, 0, 91, 0, 0, 0, 96, 0, 0, 0, 96, 0, 0, 0, 96, 0, 0, 0, 105, 0, 0, 0, 105, 0, 0, 0, 114]
abbrev dktX0_count_1 : List UInt8 := dkwX0_count_1 ++ dktX0_count_2
def dkwX0_count_0 : List UInt8 := [27]
abbrev dktX0_count_0 : List UInt8 := dkwX0_count_0 ++ dktX0_count_1
theorem dksX0_count_0 : cX0_count.data.toList.drop 0 = dktX0_count_0 := by decide +kernel
theorem dksX0_count_1 : cX0_count.data.toList.drop 1 = dktX0_count_1 := dk_seg dksX0_count_0 1 rfl rfl
theorem dksX0_count_2 : cX0_count.data.toList.drop 60 = dktX0_count_2 := dk_seg dksX0_count_1 59 rfl rfl
theorem dksX0_count_3 : cX0_count.data.toList.drop 83 = dktX0_count_3 := dk_seg dksX0_count_2 23 rfl rfl
theorem dksX0_count_4 : cX0_count.data.toList.drop 107 = dktX0_count_4 := dk_seg dksX0_count_3 24 rfl rfl
theorem dksX0_count_5 : cX0_count.data.toList.drop 131 = dktX0_count_5 := dk_seg dksX0_count_4 24 rfl rfl
theorem dX0_count_0 : decode cX0_count 0 = .ok (.iload_n 1, 1) := dk_27 (dk_at dksX0_count_0 0 rfl rfl)
theorem dX0_count_1 : decode cX0_count 1 = .ok (.tableswitch 122 0 10 #[59, 67, 75, 86, 91, 96, 96, 96, 105, 105, 114], 59) := by decide +kernel
theorem dX0_count_60 : decode cX0_count 60 = .ok (.aload_n 0, 1) := dk_42 (dk_at dksX0_count_2 0 rfl rfl)
theorem dX0_count_61 : decode cX0_count 61 = .ok (.getfield 16, 3) := dk_180 0 16 (dk_at dksX0_count_2 1 rfl rfl)
theorem dX0_count_64 : decode cX0_count 64 = .ok (.getfield 118, 3) := dk_180 0 118 (dk_at dksX0_count_2 4 rfl rfl)
theorem dX0_count_67 : decode cX0_count 67 = .ok (.ireturn, 1) := dk_172 (dk_at dksX0_count_2 7 rfl rfl)
theorem dX0_count_68 : decode cX0_count 68 = .ok (.aload_n 0, 1) := dk_42 (dk_at dksX0_count_2 8 rfl rfl)
theorem dX0_count_69 : decode cX0_count 69 = .ok (.getfield 16, 3) := dk_180 0 16 (dk_at dksX0_count_2 9 rfl rfl)
theorem dX0_count_72 : decode cX0_count 72 = .ok (.getfield 391, 3) := dk_180 1 135 (dk_at dksX0_count_2 12 rfl rfl)
theorem dX0_count_75 : decode cX0_count 75 = .ok (.ireturn, 1) := dk_172 (dk_at dksX0_count_2 15 rfl rfl)
theorem dX0_count_76 : decode cX0_count 76 = .ok (.aload_n 0, 1) := dk_42 (dk_at dksX0_count_2 16 rfl rfl)
theorem dX0_count_77 : decode cX0_count 77 = .ok (.getfield 16, 3) := dk_180 0 16 (dk_at dksX0_count_2 17 rfl rfl)
theorem dX0_count_80 : decode cX0_count 80 = .ok (.getfield 195, 3) := dk_180 0 195 (dk_at dksX0_count_2 20 rfl rfl)
theorem dX0_count_83 : decode cX0_count 83 = .ok (.invokevirtual 199, 3) := dk_182 0 199 (dk_at dksX0_count_3 0 rfl rfl)
theorem dX0_count_86 : decode cX0_count 86 = .ok (.ireturn, 1) := dk_172 (dk_at dksX0_count_3 3 rfl rfl)
theorem dX0_count_87 : decode cX0_count 87 = .ok (.aload_n 0, 1) := dk_42 (dk_at dksX0_count_3 4 rfl rfl)
theorem dX0_count_88 : decode cX0_count 88 = .ok (.getfield 112, 3) := dk_180 0 112 (dk_at dksX0_count_3 5 rfl rfl)
theorem dX0_count_91 : decode cX0_count 91 = .ok (.ireturn, 1) := dk_172 (dk_at dksX0_count_3 8 rfl rfl)
theorem dX0_count_92 : decode cX0_count 92 = .ok (.aload_n 0, 1) := dk_42 (dk_at dksX0_count_3 9 rfl rfl)
theorem dX0_count_93 : decode cX0_count 93 = .ok (.getfield 175, 3) := dk_180 0 175 (dk_at dksX0_count_3 10 rfl rfl)
theorem dX0_count_96 : decode cX0_count 96 = .ok (.ireturn, 1) := dk_172 (dk_at dksX0_count_3 13 rfl rfl)
theorem dX0_count_97 : decode cX0_count 97 = .ok (.aload_n 0, 1) := dk_42 (dk_at dksX0_count_3 14 rfl rfl)
theorem dX0_count_98 : decode cX0_count 98 = .ok (.getfield 7, 3) := dk_180 0 7 (dk_at dksX0_count_3 15 rfl rfl)
theorem dX0_count_101 : decode cX0_count 101 = .ok (.iload_n 1, 1) := dk_27 (dk_at dksX0_count_3 18 rfl rfl)
theorem dX0_count_102 : decode cX0_count 102 = .ok (.iconst 4, 1) := dk_7 (dk_at dksX0_count_3 19 rfl rfl)
theorem dX0_count_103 : decode cX0_count 103 = .ok (.isub, 1) := dk_100 (dk_at dksX0_count_3 20 rfl rfl)
theorem dX0_count_104 : decode cX0_count 104 = .ok (.iaload, 1) := dk_46 (dk_at dksX0_count_3 21 rfl rfl)
theorem dX0_count_105 : decode cX0_count 105 = .ok (.ireturn, 1) := dk_172 (dk_at dksX0_count_3 22 rfl rfl)
theorem dX0_count_106 : decode cX0_count 106 = .ok (.aload_n 0, 1) := dk_42 (dk_at dksX0_count_3 23 rfl rfl)
theorem dX0_count_107 : decode cX0_count 107 = .ok (.getfield 7, 3) := dk_180 0 7 (dk_at dksX0_count_4 0 rfl rfl)
theorem dX0_count_110 : decode cX0_count 110 = .ok (.iload_n 1, 1) := dk_27 (dk_at dksX0_count_4 3 rfl rfl)
theorem dX0_count_111 : decode cX0_count 111 = .ok (.iconst 3, 1) := dk_6 (dk_at dksX0_count_4 4 rfl rfl)
theorem dX0_count_112 : decode cX0_count 112 = .ok (.isub, 1) := dk_100 (dk_at dksX0_count_4 5 rfl rfl)
theorem dX0_count_113 : decode cX0_count 113 = .ok (.iaload, 1) := dk_46 (dk_at dksX0_count_4 6 rfl rfl)
theorem dX0_count_114 : decode cX0_count 114 = .ok (.ireturn, 1) := dk_172 (dk_at dksX0_count_4 7 rfl rfl)
theorem dX0_count_115 : decode cX0_count 115 = .ok (.aload_n 0, 1) := dk_42 (dk_at dksX0_count_4 8 rfl rfl)
theorem dX0_count_116 : decode cX0_count 116 = .ok (.getfield 16, 3) := dk_180 0 16 (dk_at dksX0_count_4 9 rfl rfl)
theorem dX0_count_119 : decode cX0_count 119 = .ok (.getfield 226, 3) := dk_180 0 226 (dk_at dksX0_count_4 12 rfl rfl)
theorem dX0_count_122 : decode cX0_count 122 = .ok (.ireturn, 1) := dk_172 (dk_at dksX0_count_4 15 rfl rfl)
theorem dX0_count_123 : decode cX0_count 123 = .ok (.iload_n 1, 1) := dk_27 (dk_at dksX0_count_4 16 rfl rfl)
theorem dX0_count_124 : decode cX0_count 124 = .ok (.bipush 11, 2) := dk_16 11 (dk_at dksX0_count_4 17 rfl rfl)
theorem dX0_count_126 : decode cX0_count 126 = .ok (.bipush 19, 2) := dk_16 19 (dk_at dksX0_count_4 19 rfl rfl)
theorem dX0_count_128 : decode cX0_count 128 = .ok (.invokestatic 97, 3) := dk_184 0 97 (dk_at dksX0_count_4 21 rfl rfl)
theorem dX0_count_131 : decode cX0_count 131 = .ok (.ifCond .eq 14, 3) := dk_153 0 14 (dk_at dksX0_count_5 0 rfl rfl)
theorem dX0_count_134 : decode cX0_count 134 = .ok (.aload_n 0, 1) := dk_42 (dk_at dksX0_count_5 3 rfl rfl)
theorem dX0_count_135 : decode cX0_count 135 = .ok (.iload_n 1, 1) := dk_27 (dk_at dksX0_count_5 4 rfl rfl)
theorem dX0_count_136 : decode cX0_count 136 = .ok (.bipush 11, 2) := dk_16 11 (dk_at dksX0_count_5 5 rfl rfl)
theorem dX0_count_138 : decode cX0_count 138 = .ok (.isub, 1) := dk_100 (dk_at dksX0_count_5 7 rfl rfl)
theorem dX0_count_139 : decode cX0_count 139 = .ok (.invokevirtual 235, 3) := dk_182 0 235 (dk_at dksX0_count_5 8 rfl rfl)
theorem dX0_count_142 : decode cX0_count 142 = .ok (.goto 6, 3) := dk_167 0 6 (dk_at dksX0_count_5 11 rfl rfl)
theorem dX0_count_145 : decode cX0_count 145 = .ok (.sipush (-1000), 3) := dk_17 252 24 (dk_at dksX0_count_5 14 rfl rfl)
theorem dX0_count_148 : decode cX0_count 148 = .ok (.ireturn, 1) := dk_172 (dk_at dksX0_count_5 17 rfl rfl)
abbrev cX0_status : ByteArray := prog_1_method_92_code
def yX0_status : MethodName := ⟨RX0, "status", "()I"⟩
theorem dX0_status_0 : decode cX0_status 0 = .ok (.aload_n 0, 1) := by decide +kernel
theorem dX0_status_1 : decode cX0_status 1 = .ok (.getfield 85, 3) := by decide +kernel
theorem dX0_status_4 : decode cX0_status 4 = .ok (.ireturn, 1) := by decide +kernel
theorem q126 : (Jvm.Cond.initialized "RoseThrow") ∈ lw_all := lw_g (lw_at lw_m1 1 rfl) rfl
theorem q163 : (Jvm.Cond.instantiable "RoseThrow" (28 : Nat)) ∈ lw_all := lw_g (lw_at lw_m1 38 rfl) rfl
theorem q165 : (Jvm.Cond.instanceMethod ({ cls := "RoseThrow", name := "<init>", desc := "()V" } : Jvm.MethodName)) ∈ lw_all := lw_g (lw_at lw_m1 40 rfl) rfl
theorem q166 : (Jvm.Cond.code ({ cls := "RoseThrow", name := "<init>", desc := "()V" } : Jvm.MethodName) prog_1_method_1_code (1 : Nat) (Option.none : Option Jvm.ClassFile.FieldType)) ∈ lw_all := lw_g (lw_at lw_m1 41 rfl) rfl
theorem q167 : (Jvm.Cond.methodLink "RoseThrow" (1 : Nat) ({ cls := "java/lang/Object", name := "<init>", desc := "()V" } : Jvm.MethodName)) ∈ lw_all := lw_g (lw_at lw_m1 42 rfl) rfl
theorem q170 : (Jvm.Cond.classLink "RoseThrow" (13 : Nat) "RoseThrow$State") ∈ lw_all := lw_g (lw_at lw_m1 45 rfl) rfl
theorem q172 : (Jvm.Cond.methodLinkNest "RoseThrow" (15 : Nat) ({ cls := "RoseThrow$State", name := "<init>", desc := "()V" } : Jvm.MethodName) "RoseThrow") ∈ lw_tbl := lw_at lw_m1 47 rfl
theorem q206 : (Jvm.Cond.fieldLinkNest "RoseThrow" (142 : Nat) "RoseThrow$State" "cells" "[I" "RoseThrow") ∈ lw_tbl := lw_at lw_m1 81 rfl
theorem q208 : (Jvm.Cond.fieldLinkNest "RoseThrow" (153 : Nat) "RoseThrow$State" "reach" "[I" "RoseThrow") ∈ lw_tbl := lw_at lw_m1 83 rfl
theorem q210 : (Jvm.Cond.fieldLinkNest "RoseThrow" (156 : Nat) "RoseThrow$State" "want" "[I" "RoseThrow") ∈ lw_tbl := lw_at lw_m1 85 rfl
theorem q212 : (Jvm.Cond.fieldLinkNest "RoseThrow" (159 : Nat) "RoseThrow$State" "tall" "[I" "RoseThrow") ∈ lw_tbl := lw_at lw_m1 87 rfl
theorem q214 : (Jvm.Cond.fieldLinkNest "RoseThrow" (162 : Nat) "RoseThrow$State" "belief" "[I" "RoseThrow") ∈ lw_tbl := lw_at lw_m1 89 rfl
theorem q216 : (Jvm.Cond.fieldLinkNest "RoseThrow" (121 : Nat) "RoseThrow$State" "terms" "[I" "RoseThrow") ∈ lw_tbl := lw_at lw_m1 91 rfl
theorem q218 : (Jvm.Cond.fieldLinkNest "RoseThrow" (394 : Nat) "RoseThrow$State" "films" "[I" "RoseThrow") ∈ lw_tbl := lw_at lw_m1 93 rfl
theorem q220 : (Jvm.Cond.fieldLinkNest "RoseThrow" (195 : Nat) "RoseThrow$State" "laws" "Ljava/util/ArrayList;" "RoseThrow") ∈ lw_tbl := lw_at lw_m1 95 rfl
theorem q222 : (Jvm.Cond.fieldLinkNest "RoseThrow" (118 : Nat) "RoseThrow$State" "many" "I" "RoseThrow") ∈ lw_tbl := lw_at lw_m1 97 rfl
theorem q224 : (Jvm.Cond.fieldLinkNest "RoseThrow" (391 : Nat) "RoseThrow$State" "filmMany" "I" "RoseThrow") ∈ lw_tbl := lw_at lw_m1 99 rfl
theorem q226 : (Jvm.Cond.fieldLinkNest "RoseThrow" (226 : Nat) "RoseThrow$State" "force" "I" "RoseThrow") ∈ lw_tbl := lw_at lw_m1 101 rfl
theorem q251 : (Jvm.Cond.classLink "RoseThrow" (53 : Nat) "RoseThrow$Setting") ∈ lw_all := lw_g (lw_at lw_m1 126 rfl) rfl
theorem q253 : (Jvm.Cond.methodLinkNest "RoseThrow" (55 : Nat) ({ cls := "RoseThrow$Setting", name := "<init>", desc := "()V" } : Jvm.MethodName) "RoseThrow") ∈ lw_tbl := lw_at lw_m1 128 rfl
theorem q322 : (Jvm.Cond.fieldLinkNest "RoseThrow" (229 : Nat) "RoseThrow$Setting" "values" "[J" "RoseThrow") ∈ lw_tbl := lw_at lw_m1 197 rfl
theorem q329 : (Jvm.Cond.classLink "RoseThrow" (60 : Nat) "RoseThrow$Flight") ∈ lw_all := lw_g (lw_at lw_m1 204 rfl) rfl
theorem q331 : (Jvm.Cond.methodLinkNest "RoseThrow" (62 : Nat) ({ cls := "RoseThrow$Flight", name := "<init>", desc := "(LRoseThrow;)V" } : Jvm.MethodName) "RoseThrow") ∈ lw_tbl := lw_at lw_m1 206 rfl
theorem q336 : (Jvm.Cond.fieldLinkNest "RoseThrow" (322 : Nat) "RoseThrow$Flight" "to" "[I" "RoseThrow") ∈ lw_tbl := lw_at lw_m1 211 rfl
theorem q338 : (Jvm.Cond.fieldLinkNest "RoseThrow" (319 : Nat) "RoseThrow$Flight" "weight" "[I" "RoseThrow") ∈ lw_tbl := lw_at lw_m1 213 rfl
theorem q340 : (Jvm.Cond.fieldLinkNest "RoseThrow" (318 : Nat) "RoseThrow$Flight" "many" "I" "RoseThrow") ∈ lw_tbl := lw_at lw_m1 215 rfl
theorem q342 : (Jvm.Cond.fieldLinkNest "RoseThrow" (332 : Nat) "RoseThrow$Flight" "all" "I" "RoseThrow") ∈ lw_tbl := lw_at lw_m1 217 rfl
theorem q356 : (Jvm.Cond.fieldLink "RoseThrow" (85 : Nat) "RoseThrow" "status" "I") ∈ lw_all := lw_g (lw_at lw_m1 231 rfl) rfl
theorem q357 : (Jvm.Cond.fieldLink "RoseThrow" (7 : Nat) "RoseThrow" "refused" "[I") ∈ lw_all := lw_g (lw_at lw_m1 232 rfl) rfl
theorem q358 : (Jvm.Cond.fieldLink "RoseThrow" (16 : Nat) "RoseThrow" "state" "LRoseThrow$State;") ∈ lw_all := lw_g (lw_at lw_m1 233 rfl) rfl
theorem q359 : (Jvm.Cond.fieldLink "RoseThrow" (20 : Nat) "RoseThrow" "images" "[LRoseThrow$State;") ∈ lw_all := lw_g (lw_at lw_m1 234 rfl) rfl
theorem q360 : (Jvm.Cond.fieldLink "RoseThrow" (24 : Nat) "RoseThrow" "undone" "[I") ∈ lw_all := lw_g (lw_at lw_m1 235 rfl) rfl
theorem q361 : (Jvm.Cond.fieldLink "RoseThrow" (27 : Nat) "RoseThrow" "undoneWhat" "[I") ∈ lw_all := lw_g (lw_at lw_m1 236 rfl) rfl
theorem q362 : (Jvm.Cond.fieldLink "RoseThrow" (30 : Nat) "RoseThrow" "aheadUndone" "[I") ∈ lw_all := lw_g (lw_at lw_m1 237 rfl) rfl
theorem q363 : (Jvm.Cond.fieldLink "RoseThrow" (33 : Nat) "RoseThrow" "aheadWhat" "[I") ∈ lw_all := lw_g (lw_at lw_m1 238 rfl) rfl
theorem q364 : (Jvm.Cond.fieldLink "RoseThrow" (36 : Nat) "RoseThrow" "ahead" "[I") ∈ lw_all := lw_g (lw_at lw_m1 239 rfl) rfl
theorem q365 : (Jvm.Cond.fieldLink "RoseThrow" (39 : Nat) "RoseThrow" "aheadBelief" "[I") ∈ lw_all := lw_g (lw_at lw_m2 0 rfl) rfl
theorem q366 : (Jvm.Cond.fieldLink "RoseThrow" (42 : Nat) "RoseThrow" "tape" "[B") ∈ lw_all := lw_g (lw_at lw_m2 1 rfl) rfl
theorem q367 : (Jvm.Cond.fieldLink "RoseThrow" (175 : Nat) "RoseThrow" "taped" "I") ∈ lw_all := lw_g (lw_at lw_m2 2 rfl) rfl
theorem q368 : (Jvm.Cond.fieldLink "RoseThrow" (46 : Nat) "RoseThrow" "fault" "I") ∈ lw_all := lw_g (lw_at lw_m2 3 rfl) rfl
theorem q369 : (Jvm.Cond.fieldLink "RoseThrow" (182 : Nat) "RoseThrow" "rice" "I") ∈ lw_all := lw_g (lw_at lw_m2 4 rfl) rfl
theorem q370 : (Jvm.Cond.fieldLink "RoseThrow" (50 : Nat) "RoseThrow" "stopped" "I") ∈ lw_all := lw_g (lw_at lw_m2 5 rfl) rfl
theorem q371 : (Jvm.Cond.fieldLink "RoseThrow" (112 : Nat) "RoseThrow" "undoMany" "I") ∈ lw_all := lw_g (lw_at lw_m2 6 rfl) rfl
theorem q372 : (Jvm.Cond.fieldLink "RoseThrow" (56 : Nat) "RoseThrow" "setting" "LRoseThrow$Setting;") ∈ lw_all := lw_g (lw_at lw_m2 7 rfl) rfl
theorem q373 : (Jvm.Cond.fieldLink "RoseThrow" (65 : Nat) "RoseThrow" "flight" "LRoseThrow$Flight;") ∈ lw_all := lw_g (lw_at lw_m2 8 rfl) rfl
theorem q374 : (Jvm.Cond.fieldLink "RoseThrow" (69 : Nat) "RoseThrow" "flights" "[LRoseThrow$Flight;") ∈ lw_all := lw_g (lw_at lw_m2 9 rfl) rfl
theorem q375 : (Jvm.Cond.fieldLink "RoseThrow" (73 : Nat) "RoseThrow" "grips" "[I") ∈ lw_all := lw_g (lw_at lw_m2 10 rfl) rfl
theorem q376 : (Jvm.Cond.fieldLink "RoseThrow" (305 : Nat) "RoseThrow" "crowded" "I") ∈ lw_all := lw_g (lw_at lw_m2 11 rfl) rfl
theorem q377 : (Jvm.Cond.fieldLink "RoseThrow" (76 : Nat) "RoseThrow" "paper" "[I") ∈ lw_all := lw_g (lw_at lw_m2 12 rfl) rfl
theorem q378 : (Jvm.Cond.fieldLink "RoseThrow" (360 : Nat) "RoseThrow" "bestUpper" "J") ∈ lw_all := lw_g (lw_at lw_m2 13 rfl) rfl
theorem q379 : (Jvm.Cond.fieldLink "RoseThrow" (356 : Nat) "RoseThrow" "bestLower" "J") ∈ lw_all := lw_g (lw_at lw_m2 14 rfl) rfl
theorem q380 : (Jvm.Cond.fieldLink "RoseThrow" (79 : Nat) "RoseThrow" "drawnHad" "[I") ∈ lw_all := lw_g (lw_at lw_m2 15 rfl) rfl
theorem q381 : (Jvm.Cond.fieldLink "RoseThrow" (82 : Nat) "RoseThrow" "drawnWed" "[I") ∈ lw_all := lw_g (lw_at lw_m2 16 rfl) rfl
theorem q382 : (Jvm.Cond.fieldLink "RoseThrow" (448 : Nat) "RoseThrow" "drawnMany" "I") ∈ lw_all := lw_g (lw_at lw_m2 17 rfl) rfl
theorem q383 : (Jvm.Cond.fieldLink "RoseThrow" (435 : Nat) "RoseThrow" "drawn" "I") ∈ lw_all := lw_g (lw_at lw_m2 18 rfl) rfl
theorem q384 : (Jvm.Cond.lays "RoseThrow" "RoseThrow" "status" "I") ∈ lw_all := lw_g (lw_at lw_m2 19 rfl) rfl
theorem q385 : (Jvm.Cond.soleField "RoseThrow" "status") ∈ lw_all := lw_g (lw_at lw_m2 20 rfl) rfl
theorem q386 : (Jvm.Cond.laysFinal "RoseThrow" "RoseThrow" "refused" "[I") ∈ lw_all := lw_g (lw_at lw_m2 21 rfl) rfl
theorem q387 : (Jvm.Cond.soleField "RoseThrow" "refused") ∈ lw_all := lw_g (lw_at lw_m2 22 rfl) rfl
theorem q388 : (Jvm.Cond.laysFinal "RoseThrow" "RoseThrow" "state" "LRoseThrow$State;") ∈ lw_all := lw_g (lw_at lw_m2 23 rfl) rfl
theorem q389 : (Jvm.Cond.soleField "RoseThrow" "state") ∈ lw_all := lw_g (lw_at lw_m2 24 rfl) rfl
theorem q390 : (Jvm.Cond.laysFinal "RoseThrow" "RoseThrow" "images" "[LRoseThrow$State;") ∈ lw_all := lw_g (lw_at lw_m2 25 rfl) rfl
theorem q391 : (Jvm.Cond.soleField "RoseThrow" "images") ∈ lw_all := lw_g (lw_at lw_m2 26 rfl) rfl
theorem q392 : (Jvm.Cond.laysFinal "RoseThrow" "RoseThrow" "undone" "[I") ∈ lw_all := lw_g (lw_at lw_m2 27 rfl) rfl
theorem q393 : (Jvm.Cond.soleField "RoseThrow" "undone") ∈ lw_all := lw_g (lw_at lw_m2 28 rfl) rfl
theorem q394 : (Jvm.Cond.laysFinal "RoseThrow" "RoseThrow" "undoneWhat" "[I") ∈ lw_all := lw_g (lw_at lw_m2 29 rfl) rfl
theorem q395 : (Jvm.Cond.soleField "RoseThrow" "undoneWhat") ∈ lw_all := lw_g (lw_at lw_m2 30 rfl) rfl
theorem q396 : (Jvm.Cond.laysFinal "RoseThrow" "RoseThrow" "aheadUndone" "[I") ∈ lw_all := lw_g (lw_at lw_m2 31 rfl) rfl
theorem q397 : (Jvm.Cond.soleField "RoseThrow" "aheadUndone") ∈ lw_all := lw_g (lw_at lw_m2 32 rfl) rfl
theorem q398 : (Jvm.Cond.laysFinal "RoseThrow" "RoseThrow" "aheadWhat" "[I") ∈ lw_all := lw_g (lw_at lw_m2 33 rfl) rfl
theorem q399 : (Jvm.Cond.soleField "RoseThrow" "aheadWhat") ∈ lw_all := lw_g (lw_at lw_m2 34 rfl) rfl
theorem q400 : (Jvm.Cond.laysFinal "RoseThrow" "RoseThrow" "ahead" "[I") ∈ lw_all := lw_g (lw_at lw_m2 35 rfl) rfl
theorem q401 : (Jvm.Cond.soleField "RoseThrow" "ahead") ∈ lw_all := lw_g (lw_at lw_m2 36 rfl) rfl
theorem q402 : (Jvm.Cond.laysFinal "RoseThrow" "RoseThrow" "aheadBelief" "[I") ∈ lw_all := lw_g (lw_at lw_m2 37 rfl) rfl
theorem q403 : (Jvm.Cond.soleField "RoseThrow" "aheadBelief") ∈ lw_all := lw_g (lw_at lw_m2 38 rfl) rfl
theorem q404 : (Jvm.Cond.laysFinal "RoseThrow" "RoseThrow" "tape" "[B") ∈ lw_all := lw_g (lw_at lw_m2 39 rfl) rfl
theorem q405 : (Jvm.Cond.soleField "RoseThrow" "tape") ∈ lw_all := lw_g (lw_at lw_m2 40 rfl) rfl
theorem q406 : (Jvm.Cond.lays "RoseThrow" "RoseThrow" "taped" "I") ∈ lw_all := lw_g (lw_at lw_m2 41 rfl) rfl
theorem q407 : (Jvm.Cond.soleField "RoseThrow" "taped") ∈ lw_all := lw_g (lw_at lw_m2 42 rfl) rfl
theorem q408 : (Jvm.Cond.lays "RoseThrow" "RoseThrow" "fault" "I") ∈ lw_all := lw_g (lw_at lw_m2 43 rfl) rfl
theorem q409 : (Jvm.Cond.soleField "RoseThrow" "fault") ∈ lw_all := lw_g (lw_at lw_m2 44 rfl) rfl
theorem q410 : (Jvm.Cond.lays "RoseThrow" "RoseThrow" "rice" "I") ∈ lw_all := lw_g (lw_at lw_m2 45 rfl) rfl
theorem q411 : (Jvm.Cond.soleField "RoseThrow" "rice") ∈ lw_all := lw_g (lw_at lw_m2 46 rfl) rfl
theorem q412 : (Jvm.Cond.lays "RoseThrow" "RoseThrow" "stopped" "I") ∈ lw_all := lw_g (lw_at lw_m2 47 rfl) rfl
theorem q413 : (Jvm.Cond.soleField "RoseThrow" "stopped") ∈ lw_all := lw_g (lw_at lw_m2 48 rfl) rfl
theorem q414 : (Jvm.Cond.lays "RoseThrow" "RoseThrow" "undoMany" "I") ∈ lw_all := lw_g (lw_at lw_m2 49 rfl) rfl
theorem q415 : (Jvm.Cond.soleField "RoseThrow" "undoMany") ∈ lw_all := lw_g (lw_at lw_m2 50 rfl) rfl
theorem q416 : (Jvm.Cond.laysFinal "RoseThrow" "RoseThrow" "setting" "LRoseThrow$Setting;") ∈ lw_all := lw_g (lw_at lw_m2 51 rfl) rfl
theorem q417 : (Jvm.Cond.soleField "RoseThrow" "setting") ∈ lw_all := lw_g (lw_at lw_m2 52 rfl) rfl
theorem q418 : (Jvm.Cond.laysFinal "RoseThrow" "RoseThrow" "flight" "LRoseThrow$Flight;") ∈ lw_all := lw_g (lw_at lw_m2 53 rfl) rfl
theorem q419 : (Jvm.Cond.soleField "RoseThrow" "flight") ∈ lw_all := lw_g (lw_at lw_m2 54 rfl) rfl
theorem q420 : (Jvm.Cond.laysFinal "RoseThrow" "RoseThrow" "flights" "[LRoseThrow$Flight;") ∈ lw_all := lw_g (lw_at lw_m2 55 rfl) rfl
theorem q421 : (Jvm.Cond.soleField "RoseThrow" "flights") ∈ lw_all := lw_g (lw_at lw_m2 56 rfl) rfl
theorem q422 : (Jvm.Cond.laysFinal "RoseThrow" "RoseThrow" "grips" "[I") ∈ lw_all := lw_g (lw_at lw_m2 57 rfl) rfl
theorem q423 : (Jvm.Cond.soleField "RoseThrow" "grips") ∈ lw_all := lw_g (lw_at lw_m2 58 rfl) rfl
theorem q424 : (Jvm.Cond.lays "RoseThrow" "RoseThrow" "crowded" "I") ∈ lw_all := lw_g (lw_at lw_m2 59 rfl) rfl
theorem q425 : (Jvm.Cond.soleField "RoseThrow" "crowded") ∈ lw_all := lw_g (lw_at lw_m2 60 rfl) rfl
theorem q426 : (Jvm.Cond.laysFinal "RoseThrow" "RoseThrow" "paper" "[I") ∈ lw_all := lw_g (lw_at lw_m2 61 rfl) rfl
theorem q427 : (Jvm.Cond.soleField "RoseThrow" "paper") ∈ lw_all := lw_g (lw_at lw_m2 62 rfl) rfl
theorem q428 : (Jvm.Cond.lays "RoseThrow" "RoseThrow" "bestUpper" "J") ∈ lw_all := lw_g (lw_at lw_m2 63 rfl) rfl
theorem q429 : (Jvm.Cond.soleField "RoseThrow" "bestUpper") ∈ lw_all := lw_g (lw_at lw_m2 64 rfl) rfl
theorem q430 : (Jvm.Cond.lays "RoseThrow" "RoseThrow" "bestLower" "J") ∈ lw_all := lw_g (lw_at lw_m2 65 rfl) rfl
theorem q431 : (Jvm.Cond.soleField "RoseThrow" "bestLower") ∈ lw_all := lw_g (lw_at lw_m2 66 rfl) rfl
theorem q432 : (Jvm.Cond.laysFinal "RoseThrow" "RoseThrow" "drawnHad" "[I") ∈ lw_all := lw_g (lw_at lw_m2 67 rfl) rfl
theorem q433 : (Jvm.Cond.soleField "RoseThrow" "drawnHad") ∈ lw_all := lw_g (lw_at lw_m2 68 rfl) rfl
theorem q434 : (Jvm.Cond.laysFinal "RoseThrow" "RoseThrow" "drawnWed" "[I") ∈ lw_all := lw_g (lw_at lw_m2 69 rfl) rfl
theorem q435 : (Jvm.Cond.soleField "RoseThrow" "drawnWed") ∈ lw_all := lw_g (lw_at lw_m2 70 rfl) rfl
theorem q436 : (Jvm.Cond.lays "RoseThrow" "RoseThrow" "drawnMany" "I") ∈ lw_all := lw_g (lw_at lw_m2 71 rfl) rfl
theorem q437 : (Jvm.Cond.soleField "RoseThrow" "drawnMany") ∈ lw_all := lw_g (lw_at lw_m2 72 rfl) rfl
theorem q438 : (Jvm.Cond.lays "RoseThrow" "RoseThrow" "drawn" "I") ∈ lw_all := lw_g (lw_at lw_m2 73 rfl) rfl
theorem q439 : (Jvm.Cond.soleField "RoseThrow" "drawn") ∈ lw_all := lw_g (lw_at lw_m2 74 rfl) rfl
theorem q440 : (Jvm.Cond.superclass "RoseThrow" "java/lang/Object") ∈ lw_all := lw_g (lw_at lw_m2 75 rfl) rfl
theorem q442 : (Jvm.Cond.instanceMethod ({ cls := "RoseThrow", name := "image", desc := "(I)I" } : Jvm.MethodName)) ∈ lw_all := lw_g (lw_at lw_m2 77 rfl) rfl
theorem q443 : (Jvm.Cond.selects "RoseThrow" ({ cls := "RoseThrow", name := "image", desc := "(I)I" } : Jvm.MethodName) ({ cls := "RoseThrow", name := "image", desc := "(I)I" } : Jvm.MethodName)) ∈ lw_all := lw_g (lw_at lw_m2 78 rfl) rfl
theorem q444 : (Jvm.Cond.code ({ cls := "RoseThrow", name := "image", desc := "(I)I" } : Jvm.MethodName) prog_1_method_16_code (2 : Nat) (Option.some Jvm.ClassFile.FieldType.int)) ∈ lw_all := lw_g (lw_at lw_m2 79 rfl) rfl
theorem q445 : (Jvm.Cond.methodLink "RoseThrow" (97 : Nat) ({ cls := "RoseThrow", name := "in", desc := "(III)Z" } : Jvm.MethodName)) ∈ lw_all := lw_g (lw_at lw_m2 80 rfl) rfl
theorem q446 : (Jvm.Cond.static ({ cls := "RoseThrow", name := "in", desc := "(III)Z" } : Jvm.MethodName)) ∈ lw_all := lw_g (lw_at lw_m2 81 rfl) rfl
theorem q447 : (Jvm.Cond.code ({ cls := "RoseThrow", name := "in", desc := "(III)Z" } : Jvm.MethodName) prog_1_method_4_code (3 : Nat) (Option.some Jvm.ClassFile.FieldType.boolean)) ∈ lw_all := lw_g (lw_at lw_m2 82 rfl) rfl
theorem q448 : (Jvm.Cond.methodLink "RoseThrow" (124 : Nat) ({ cls := "RoseThrow", name := "refuse", desc := "(I)I" } : Jvm.MethodName)) ∈ lw_all := lw_g (lw_at lw_m2 83 rfl) rfl
theorem q449 : (Jvm.Cond.privateMethod ({ cls := "RoseThrow", name := "refuse", desc := "(I)I" } : Jvm.MethodName)) ∈ lw_tbl := lw_at lw_m2 84 rfl
theorem q450 : (Jvm.Cond.instanceMethod ({ cls := "RoseThrow", name := "refuse", desc := "(I)I" } : Jvm.MethodName)) ∈ lw_all := lw_g (lw_at lw_m2 85 rfl) rfl
theorem q451 : (Jvm.Cond.code ({ cls := "RoseThrow", name := "refuse", desc := "(I)I" } : Jvm.MethodName) prog_1_method_2_code (2 : Nat) (Option.some Jvm.ClassFile.FieldType.int)) ∈ lw_all := lw_g (lw_at lw_m2 86 rfl) rfl
theorem q452 : (Jvm.Cond.methodLink "RoseThrow" (127 : Nat) ({ cls := "RoseThrow$State", name := "takes", desc := "(LRoseThrow$State;)V" } : Jvm.MethodName)) ∈ lw_all := lw_g (lw_at lw_m2 87 rfl) rfl
theorem q486 : (Jvm.Cond.selects "RoseThrow" ({ cls := "java/lang/Object", name := "getClass", desc := "()Ljava/lang/Class;" } : Jvm.MethodName) ({ cls := "java/lang/Object", name := "getClass", desc := "()Ljava/lang/Class;" } : Jvm.MethodName)) ∈ lw_all := lw_g (lw_at lw_m2 121 rfl) rfl
theorem q533 : (Jvm.Cond.methodLink "RoseThrow" (115 : Nat) ({ cls := "RoseThrow", name := "done", desc := "(I)I" } : Jvm.MethodName)) ∈ lw_all := lw_g (lw_at lw_m2 168 rfl) rfl
theorem q534 : (Jvm.Cond.privateMethod ({ cls := "RoseThrow", name := "done", desc := "(I)I" } : Jvm.MethodName)) ∈ lw_tbl := lw_at lw_m2 169 rfl
theorem q535 : (Jvm.Cond.instanceMethod ({ cls := "RoseThrow", name := "done", desc := "(I)I" } : Jvm.MethodName)) ∈ lw_all := lw_g (lw_at lw_m2 170 rfl) rfl
theorem q536 : (Jvm.Cond.code ({ cls := "RoseThrow", name := "done", desc := "(I)I" } : Jvm.MethodName) prog_1_method_3_code (2 : Nat) (Option.some Jvm.ClassFile.FieldType.int)) ∈ lw_all := lw_g (lw_at lw_m2 171 rfl) rfl
theorem q538 : (Jvm.Cond.instanceMethod ({ cls := "RoseThrow", name := "back", desc := "(I)I" } : Jvm.MethodName)) ∈ lw_all := lw_g (lw_at lw_m2 173 rfl) rfl
theorem q539 : (Jvm.Cond.selects "RoseThrow" ({ cls := "RoseThrow", name := "back", desc := "(I)I" } : Jvm.MethodName) ({ cls := "RoseThrow", name := "back", desc := "(I)I" } : Jvm.MethodName)) ∈ lw_all := lw_g (lw_at lw_m2 174 rfl) rfl
theorem q540 : (Jvm.Cond.code ({ cls := "RoseThrow", name := "back", desc := "(I)I" } : Jvm.MethodName) prog_1_method_17_code (2 : Nat) (Option.some Jvm.ClassFile.FieldType.int)) ∈ lw_all := lw_g (lw_at lw_m2 175 rfl) rfl
theorem q541 : (Jvm.Cond.methodLink "RoseThrow" (131 : Nat) ({ cls := "RoseThrow", name := "settled", desc := "(I)I" } : Jvm.MethodName)) ∈ lw_all := lw_g (lw_at lw_m2 176 rfl) rfl
theorem q542 : (Jvm.Cond.privateMethod ({ cls := "RoseThrow", name := "settled", desc := "(I)I" } : Jvm.MethodName)) ∈ lw_tbl := lw_at lw_m2 177 rfl
theorem q543 : (Jvm.Cond.instanceMethod ({ cls := "RoseThrow", name := "settled", desc := "(I)I" } : Jvm.MethodName)) ∈ lw_all := lw_g (lw_at lw_m2 178 rfl) rfl
theorem q544 : (Jvm.Cond.code ({ cls := "RoseThrow", name := "settled", desc := "(I)I" } : Jvm.MethodName) prog_1_method_12_code (2 : Nat) (Option.some Jvm.ClassFile.FieldType.int)) ∈ lw_all := lw_g (lw_at lw_m2 179 rfl) rfl
theorem q546 : (Jvm.Cond.instanceMethod ({ cls := "RoseThrow", name := "catcher", desc := "(IIII)I" } : Jvm.MethodName)) ∈ lw_all := lw_g (lw_at lw_m2 181 rfl) rfl
theorem q547 : (Jvm.Cond.selects "RoseThrow" ({ cls := "RoseThrow", name := "catcher", desc := "(IIII)I" } : Jvm.MethodName) ({ cls := "RoseThrow", name := "catcher", desc := "(IIII)I" } : Jvm.MethodName)) ∈ lw_all := lw_g (lw_at lw_m2 182 rfl) rfl
theorem q548 : (Jvm.Cond.code ({ cls := "RoseThrow", name := "catcher", desc := "(IIII)I" } : Jvm.MethodName) prog_1_method_20_code (6 : Nat) (Option.some Jvm.ClassFile.FieldType.int)) ∈ lw_all := lw_g (lw_at lw_m2 183 rfl) rfl
theorem q549 : (Jvm.Cond.methodLink "RoseThrow" (165 : Nat) ({ cls := "RoseThrow", name := "comesIn", desc := "(IIII)I" } : Jvm.MethodName)) ∈ lw_all := lw_g (lw_at lw_m2 184 rfl) rfl
theorem q550 : (Jvm.Cond.privateMethod ({ cls := "RoseThrow", name := "comesIn", desc := "(IIII)I" } : Jvm.MethodName)) ∈ lw_tbl := lw_at lw_m2 185 rfl
theorem q551 : (Jvm.Cond.instanceMethod ({ cls := "RoseThrow", name := "comesIn", desc := "(IIII)I" } : Jvm.MethodName)) ∈ lw_all := lw_g (lw_at lw_m2 186 rfl) rfl
theorem q552 : (Jvm.Cond.code ({ cls := "RoseThrow", name := "comesIn", desc := "(IIII)I" } : Jvm.MethodName) prog_1_method_19_code (6 : Nat) (Option.some Jvm.ClassFile.FieldType.int)) ∈ lw_all := lw_g (lw_at lw_m2 187 rfl) rfl
theorem q553 : (Jvm.Cond.methodLink "RoseThrow" (134 : Nat) ({ cls := "RoseThrow", name := "isCell", desc := "(I)Z" } : Jvm.MethodName)) ∈ lw_all := lw_g (lw_at lw_m2 188 rfl) rfl
theorem q554 : (Jvm.Cond.static ({ cls := "RoseThrow", name := "isCell", desc := "(I)Z" } : Jvm.MethodName)) ∈ lw_all := lw_g (lw_at lw_m2 189 rfl) rfl
theorem q555 : (Jvm.Cond.code ({ cls := "RoseThrow", name := "isCell", desc := "(I)Z" } : Jvm.MethodName) prog_1_method_7_code (1 : Nat) (Option.some Jvm.ClassFile.FieldType.boolean)) ∈ lw_all := lw_g (lw_at lw_m2 190 rfl) rfl
theorem q556 : (Jvm.Cond.methodLink "RoseThrow" (138 : Nat) ({ cls := "RoseThrow", name := "isPut", desc := "(II)Z" } : Jvm.MethodName)) ∈ lw_all := lw_g (lw_at lw_m2 191 rfl) rfl
theorem q557 : (Jvm.Cond.static ({ cls := "RoseThrow", name := "isPut", desc := "(II)Z" } : Jvm.MethodName)) ∈ lw_all := lw_g (lw_at lw_m2 192 rfl) rfl
theorem q558 : (Jvm.Cond.code ({ cls := "RoseThrow", name := "isPut", desc := "(II)Z" } : Jvm.MethodName) prog_1_method_18_code (2 : Nat) (Option.some Jvm.ClassFile.FieldType.boolean)) ∈ lw_all := lw_g (lw_at lw_m2 193 rfl) rfl
theorem q559 : (Jvm.Cond.methodLink "RoseThrow" (145 : Nat) ({ cls := "RoseThrow", name := "whoIn", desc := "([II)I" } : Jvm.MethodName)) ∈ lw_all := lw_g (lw_at lw_m2 194 rfl) rfl
theorem q560 : (Jvm.Cond.privateMethod ({ cls := "RoseThrow", name := "whoIn", desc := "([II)I" } : Jvm.MethodName)) ∈ lw_tbl := lw_at lw_m2 195 rfl
theorem q561 : (Jvm.Cond.instanceMethod ({ cls := "RoseThrow", name := "whoIn", desc := "([II)I" } : Jvm.MethodName)) ∈ lw_all := lw_g (lw_at lw_m2 196 rfl) rfl
theorem q562 : (Jvm.Cond.code ({ cls := "RoseThrow", name := "whoIn", desc := "([II)I" } : Jvm.MethodName) prog_1_method_15_code (4 : Nat) (Option.some Jvm.ClassFile.FieldType.int)) ∈ lw_all := lw_g (lw_at lw_m2 197 rfl) rfl
theorem q563 : (Jvm.Cond.methodLink "RoseThrow" (149 : Nat) ({ cls := "RoseThrow", name := "isBarred", desc := "(IIII)Z" } : Jvm.MethodName)) ∈ lw_all := lw_g (lw_at lw_m2 198 rfl) rfl
theorem q564 : (Jvm.Cond.privateMethod ({ cls := "RoseThrow", name := "isBarred", desc := "(IIII)Z" } : Jvm.MethodName)) ∈ lw_tbl := lw_at lw_m2 199 rfl
theorem q565 : (Jvm.Cond.instanceMethod ({ cls := "RoseThrow", name := "isBarred", desc := "(IIII)Z" } : Jvm.MethodName)) ∈ lw_all := lw_g (lw_at lw_m2 200 rfl) rfl
theorem q566 : (Jvm.Cond.code ({ cls := "RoseThrow", name := "isBarred", desc := "(IIII)Z" } : Jvm.MethodName) prog_1_method_41_code (5 : Nat) (Option.some Jvm.ClassFile.FieldType.boolean)) ∈ lw_all := lw_g (lw_at lw_m2 201 rfl) rfl
theorem q567 : (Jvm.Cond.methodLink "RoseThrow" (259 : Nat) ({ cls := "RoseThrow", name := "looksAt", desc := "(III)V" } : Jvm.MethodName)) ∈ lw_all := lw_g (lw_at lw_m2 202 rfl) rfl
theorem q568 : (Jvm.Cond.privateMethod ({ cls := "RoseThrow", name := "looksAt", desc := "(III)V" } : Jvm.MethodName)) ∈ lw_tbl := lw_at lw_m2 203 rfl
theorem q569 : (Jvm.Cond.instanceMethod ({ cls := "RoseThrow", name := "looksAt", desc := "(III)V" } : Jvm.MethodName)) ∈ lw_all := lw_g (lw_at lw_m2 204 rfl) rfl
theorem q570 : (Jvm.Cond.code ({ cls := "RoseThrow", name := "looksAt", desc := "(III)V" } : Jvm.MethodName) prog_1_method_38_code (4 : Nat) (Option.none : Option Jvm.ClassFile.FieldType)) ∈ lw_all := lw_g (lw_at lw_m2 205 rfl) rfl
theorem q571 : (Jvm.Cond.methodLink "RoseThrow" (246 : Nat) ({ cls := "RoseThrow", name := "nothing", desc := "()V" } : Jvm.MethodName)) ∈ lw_all := lw_g (lw_at lw_m2 206 rfl) rfl
theorem q572 : (Jvm.Cond.privateMethod ({ cls := "RoseThrow", name := "nothing", desc := "()V" } : Jvm.MethodName)) ∈ lw_tbl := lw_at lw_m2 207 rfl
theorem q573 : (Jvm.Cond.instanceMethod ({ cls := "RoseThrow", name := "nothing", desc := "()V" } : Jvm.MethodName)) ∈ lw_all := lw_g (lw_at lw_m2 208 rfl) rfl
theorem q574 : (Jvm.Cond.code ({ cls := "RoseThrow", name := "nothing", desc := "()V" } : Jvm.MethodName) prog_1_method_35_code (2 : Nat) (Option.none : Option Jvm.ClassFile.FieldType)) ∈ lw_all := lw_g (lw_at lw_m2 209 rfl) rfl
theorem q575 : (Jvm.Cond.constantLong "RoseThrow" (233 : Nat) (-1 : Int64)) ∈ lw_all := lw_g (lw_at lw_m2 210 rfl) rfl
theorem q576 : (Jvm.Cond.methodLink "RoseThrow" (235 : Nat) ({ cls := "RoseThrow", name := "term", desc := "(I)I" } : Jvm.MethodName)) ∈ lw_all := lw_g (lw_at lw_m2 211 rfl) rfl
theorem q577 : (Jvm.Cond.privateMethod ({ cls := "RoseThrow", name := "term", desc := "(I)I" } : Jvm.MethodName)) ∈ lw_tbl := lw_at lw_m2 212 rfl
theorem q578 : (Jvm.Cond.instanceMethod ({ cls := "RoseThrow", name := "term", desc := "(I)I" } : Jvm.MethodName)) ∈ lw_all := lw_g (lw_at lw_m2 213 rfl) rfl
theorem q579 : (Jvm.Cond.code ({ cls := "RoseThrow", name := "term", desc := "(I)I" } : Jvm.MethodName) prog_1_method_14_code (2 : Nat) (Option.some Jvm.ClassFile.FieldType.int)) ∈ lw_all := lw_g (lw_at lw_m2 214 rfl) rfl
theorem q580 : (Jvm.Cond.methodLink "RoseThrow" (249 : Nat) ({ cls := "RoseThrow", name := "says", desc := "(I)J" } : Jvm.MethodName)) ∈ lw_all := lw_g (lw_at lw_m2 215 rfl) rfl
theorem q581 : (Jvm.Cond.privateMethod ({ cls := "RoseThrow", name := "says", desc := "(I)J" } : Jvm.MethodName)) ∈ lw_tbl := lw_at lw_m2 216 rfl
theorem q582 : (Jvm.Cond.instanceMethod ({ cls := "RoseThrow", name := "says", desc := "(I)J" } : Jvm.MethodName)) ∈ lw_all := lw_g (lw_at lw_m2 217 rfl) rfl
theorem q583 : (Jvm.Cond.code ({ cls := "RoseThrow", name := "says", desc := "(I)J" } : Jvm.MethodName) prog_1_method_36_code (2 : Nat) (Option.some Jvm.ClassFile.FieldType.long)) ∈ lw_all := lw_g (lw_at lw_m2 218 rfl) rfl
theorem q584 : (Jvm.Cond.methodLink "RoseThrow" (238 : Nat) ({ cls := "java/util/ArrayList", name := "get", desc := "(I)Ljava/lang/Object;" } : Jvm.MethodName)) ∈ lw_all := lw_g (lw_at lw_m2 219 rfl) rfl
theorem q598 : (Jvm.Cond.classLink "RoseThrow" (214 : Nat) "RoseThrow$Law") ∈ lw_all := lw_g (lw_at lw_m2 233 rfl) rfl
theorem q599 : (Jvm.Cond.methodLink "RoseThrow" (242 : Nat) ({ cls := "RoseThrow$Law", name := "told", desc := "(ILRoseThrow$Setting;)J" } : Jvm.MethodName)) ∈ lw_all := lw_g (lw_at lw_m2 234 rfl) rfl
theorem q649 : (Jvm.Cond.constantLong "RoseThrow" (253 : Nat) (-4000000000 : Int64)) ∈ lw_all := lw_g (lw_at lw_m3 44 rfl) rfl
theorem q651 : (Jvm.Cond.instanceMethod ({ cls := "RoseThrow", name := "put", desc := "(III)I" } : Jvm.MethodName)) ∈ lw_all := lw_g (lw_at lw_m3 46 rfl) rfl
theorem q652 : (Jvm.Cond.selects "RoseThrow" ({ cls := "RoseThrow", name := "put", desc := "(III)I" } : Jvm.MethodName) ({ cls := "RoseThrow", name := "put", desc := "(III)I" } : Jvm.MethodName)) ∈ lw_all := lw_g (lw_at lw_m3 47 rfl) rfl
theorem q653 : (Jvm.Cond.code ({ cls := "RoseThrow", name := "put", desc := "(III)I" } : Jvm.MethodName) prog_1_method_21_code (5 : Nat) (Option.some Jvm.ClassFile.FieldType.int)) ∈ lw_all := lw_g (lw_at lw_m3 48 rfl) rfl
theorem q654 : (Jvm.Cond.methodLink "RoseThrow" (169 : Nat) ({ cls := "RoseThrow", name := "isCatcher", desc := "(I)Z" } : Jvm.MethodName)) ∈ lw_all := lw_g (lw_at lw_m3 49 rfl) rfl
theorem q655 : (Jvm.Cond.privateMethod ({ cls := "RoseThrow", name := "isCatcher", desc := "(I)Z" } : Jvm.MethodName)) ∈ lw_tbl := lw_at lw_m3 50 rfl
theorem q656 : (Jvm.Cond.instanceMethod ({ cls := "RoseThrow", name := "isCatcher", desc := "(I)Z" } : Jvm.MethodName)) ∈ lw_all := lw_g (lw_at lw_m3 51 rfl) rfl
theorem q657 : (Jvm.Cond.code ({ cls := "RoseThrow", name := "isCatcher", desc := "(I)Z" } : Jvm.MethodName) prog_1_method_13_code (2 : Nat) (Option.some Jvm.ClassFile.FieldType.boolean)) ∈ lw_all := lw_g (lw_at lw_m3 52 rfl) rfl
theorem q659 : (Jvm.Cond.instanceMethod ({ cls := "RoseThrow", name := "of", desc := "(II)I" } : Jvm.MethodName)) ∈ lw_all := lw_g (lw_at lw_m3 54 rfl) rfl
theorem q660 : (Jvm.Cond.selects "RoseThrow" ({ cls := "RoseThrow", name := "of", desc := "(II)I" } : Jvm.MethodName) ({ cls := "RoseThrow", name := "of", desc := "(II)I" } : Jvm.MethodName)) ∈ lw_all := lw_g (lw_at lw_m3 55 rfl) rfl
theorem q661 : (Jvm.Cond.code ({ cls := "RoseThrow", name := "of", desc := "(II)I" } : Jvm.MethodName) prog_1_method_22_code (3 : Nat) (Option.some Jvm.ClassFile.FieldType.int)) ∈ lw_all := lw_g (lw_at lw_m3 56 rfl) rfl
theorem q663 : (Jvm.Cond.instanceMethod ({ cls := "RoseThrow", name := "terms", desc := "(II)I" } : Jvm.MethodName)) ∈ lw_all := lw_g (lw_at lw_m3 58 rfl) rfl
theorem q664 : (Jvm.Cond.selects "RoseThrow" ({ cls := "RoseThrow", name := "terms", desc := "(II)I" } : Jvm.MethodName) ({ cls := "RoseThrow", name := "terms", desc := "(II)I" } : Jvm.MethodName)) ∈ lw_all := lw_g (lw_at lw_m3 59 rfl) rfl
theorem q665 : (Jvm.Cond.code ({ cls := "RoseThrow", name := "terms", desc := "(II)I" } : Jvm.MethodName) prog_1_method_24_code (3 : Nat) (Option.some Jvm.ClassFile.FieldType.int)) ∈ lw_all := lw_g (lw_at lw_m3 60 rfl) rfl
theorem q666 : (Jvm.Cond.methodLink "RoseThrow" (172 : Nat) ({ cls := "RoseThrow", name := "isTerm", desc := "(II)Z" } : Jvm.MethodName)) ∈ lw_all := lw_g (lw_at lw_m3 61 rfl) rfl
theorem q667 : (Jvm.Cond.static ({ cls := "RoseThrow", name := "isTerm", desc := "(II)Z" } : Jvm.MethodName)) ∈ lw_all := lw_g (lw_at lw_m3 62 rfl) rfl
theorem q668 : (Jvm.Cond.code ({ cls := "RoseThrow", name := "isTerm", desc := "(II)Z" } : Jvm.MethodName) prog_1_method_23_code (2 : Nat) (Option.some Jvm.ClassFile.FieldType.boolean)) ∈ lw_all := lw_g (lw_at lw_m3 63 rfl) rfl
theorem q670 : (Jvm.Cond.instanceMethod ({ cls := "RoseThrow", name := "feed", desc := "(IIIII)I" } : Jvm.MethodName)) ∈ lw_all := lw_g (lw_at lw_m3 65 rfl) rfl
theorem q671 : (Jvm.Cond.selects "RoseThrow" ({ cls := "RoseThrow", name := "feed", desc := "(IIIII)I" } : Jvm.MethodName) ({ cls := "RoseThrow", name := "feed", desc := "(IIIII)I" } : Jvm.MethodName)) ∈ lw_all := lw_g (lw_at lw_m3 66 rfl) rfl
theorem q672 : (Jvm.Cond.code ({ cls := "RoseThrow", name := "feed", desc := "(IIIII)I" } : Jvm.MethodName) prog_1_method_25_code (6 : Nat) (Option.some Jvm.ClassFile.FieldType.int)) ∈ lw_all := lw_g (lw_at lw_m3 67 rfl) rfl
theorem q673 : (Jvm.Cond.methodLink "RoseThrow" (178 : Nat) ({ cls := "RoseThrow", name := "four", desc := "(I)V" } : Jvm.MethodName)) ∈ lw_all := lw_g (lw_at lw_m3 68 rfl) rfl
theorem q674 : (Jvm.Cond.privateMethod ({ cls := "RoseThrow", name := "four", desc := "(I)V" } : Jvm.MethodName)) ∈ lw_tbl := lw_at lw_m3 69 rfl
theorem q675 : (Jvm.Cond.instanceMethod ({ cls := "RoseThrow", name := "four", desc := "(I)V" } : Jvm.MethodName)) ∈ lw_all := lw_g (lw_at lw_m3 70 rfl) rfl
theorem q676 : (Jvm.Cond.code ({ cls := "RoseThrow", name := "four", desc := "(I)V" } : Jvm.MethodName) prog_1_method_26_code (3 : Nat) (Option.none : Option Jvm.ClassFile.FieldType)) ∈ lw_all := lw_g (lw_at lw_m3 71 rfl) rfl
theorem q678 : (Jvm.Cond.instanceMethod ({ cls := "RoseThrow", name := "end", desc := "(I)I" } : Jvm.MethodName)) ∈ lw_all := lw_g (lw_at lw_m3 73 rfl) rfl
theorem q679 : (Jvm.Cond.selects "RoseThrow" ({ cls := "RoseThrow", name := "end", desc := "(I)I" } : Jvm.MethodName) ({ cls := "RoseThrow", name := "end", desc := "(I)I" } : Jvm.MethodName)) ∈ lw_all := lw_g (lw_at lw_m3 74 rfl) rfl
theorem q680 : (Jvm.Cond.code ({ cls := "RoseThrow", name := "end", desc := "(I)I" } : Jvm.MethodName) prog_1_method_27_code (2 : Nat) (Option.some Jvm.ClassFile.FieldType.int)) ∈ lw_all := lw_g (lw_at lw_m3 75 rfl) rfl
theorem q682 : (Jvm.Cond.instanceMethod ({ cls := "RoseThrow", name := "row", desc := "()I" } : Jvm.MethodName)) ∈ lw_all := lw_g (lw_at lw_m3 77 rfl) rfl
theorem q683 : (Jvm.Cond.selects "RoseThrow" ({ cls := "RoseThrow", name := "row", desc := "()I" } : Jvm.MethodName) ({ cls := "RoseThrow", name := "row", desc := "()I" } : Jvm.MethodName)) ∈ lw_all := lw_g (lw_at lw_m3 78 rfl) rfl
theorem q684 : (Jvm.Cond.code ({ cls := "RoseThrow", name := "row", desc := "()I" } : Jvm.MethodName) prog_1_method_28_code (5 : Nat) (Option.some Jvm.ClassFile.FieldType.int)) ∈ lw_all := lw_g (lw_at lw_m3 79 rfl) rfl
theorem q686 : (Jvm.Cond.instanceMethod ({ cls := "RoseThrow", name := "rice", desc := "()I" } : Jvm.MethodName)) ∈ lw_all := lw_g (lw_at lw_m3 81 rfl) rfl
theorem q687 : (Jvm.Cond.selects "RoseThrow" ({ cls := "RoseThrow", name := "rice", desc := "()I" } : Jvm.MethodName) ({ cls := "RoseThrow", name := "rice", desc := "()I" } : Jvm.MethodName)) ∈ lw_all := lw_g (lw_at lw_m3 82 rfl) rfl
theorem q688 : (Jvm.Cond.code ({ cls := "RoseThrow", name := "rice", desc := "()I" } : Jvm.MethodName) prog_1_method_29_code (1 : Nat) (Option.some Jvm.ClassFile.FieldType.int)) ∈ lw_all := lw_g (lw_at lw_m3 83 rfl) rfl
theorem q690 : (Jvm.Cond.instanceMethod ({ cls := "RoseThrow", name := "law", desc := "()I" } : Jvm.MethodName)) ∈ lw_all := lw_g (lw_at lw_m3 85 rfl) rfl
theorem q691 : (Jvm.Cond.selects "RoseThrow" ({ cls := "RoseThrow", name := "law", desc := "()I" } : Jvm.MethodName) ({ cls := "RoseThrow", name := "law", desc := "()I" } : Jvm.MethodName)) ∈ lw_all := lw_g (lw_at lw_m3 86 rfl) rfl
theorem q692 : (Jvm.Cond.code ({ cls := "RoseThrow", name := "law", desc := "()I" } : Jvm.MethodName) prog_1_method_31_code (3 : Nat) (Option.some Jvm.ClassFile.FieldType.int)) ∈ lw_all := lw_g (lw_at lw_m3 87 rfl) rfl
theorem q693 : (Jvm.Cond.methodLink "RoseThrow" (199 : Nat) ({ cls := "java/util/ArrayList", name := "size", desc := "()I" } : Jvm.MethodName)) ∈ lw_all := lw_g (lw_at lw_m3 88 rfl) rfl
theorem q694 : (Jvm.Cond.classLink "RoseThrow" (205 : Nat) "RoseThrow$LawReader") ∈ lw_all := lw_g (lw_at lw_m3 89 rfl) rfl
theorem q696 : (Jvm.Cond.methodLink "RoseThrow" (207 : Nat) ({ cls := "RoseThrow$LawReader", name := "<init>", desc := "([BI)V" } : Jvm.MethodName)) ∈ lw_all := lw_g (lw_at lw_m3 91 rfl) rfl
theorem q706 : (Jvm.Cond.fieldLinkNest "RoseThrow" (216 : Nat) "RoseThrow$LawReader" "clauses" "Ljava/util/ArrayList;" "RoseThrow") ∈ lw_tbl := lw_at lw_m3 101 rfl
theorem q731 : (Jvm.Cond.methodLink "RoseThrow" (210 : Nat) ({ cls := "RoseThrow", name := "reads", desc := "(LRoseThrow$Reader;)Z" } : Jvm.MethodName)) ∈ lw_all := lw_g (lw_at lw_m3 126 rfl) rfl
theorem q732 : (Jvm.Cond.privateMethod ({ cls := "RoseThrow", name := "reads", desc := "(LRoseThrow$Reader;)Z" } : Jvm.MethodName)) ∈ lw_tbl := lw_at lw_m3 127 rfl
theorem q733 : (Jvm.Cond.instanceMethod ({ cls := "RoseThrow", name := "reads", desc := "(LRoseThrow$Reader;)Z" } : Jvm.MethodName)) ∈ lw_all := lw_g (lw_at lw_m3 128 rfl) rfl
theorem q734 : (Jvm.Cond.codeWith ({ cls := "RoseThrow", name := "reads", desc := "(LRoseThrow$Reader;)Z" } : Jvm.MethodName) prog_1_method_30_code (3 : Nat) (Option.some Jvm.ClassFile.FieldType.boolean) [((0 : Nat), (4 : Nat), (7 : Nat), (190 : Nat))]) ∈ lw_all := lw_g (lw_at lw_m3 129 rfl) rfl
theorem q735 : (Jvm.Cond.classLink "RoseThrow" (190 : Nat) "RoseThrow$Fault") ∈ lw_all := lw_g (lw_at lw_m3 130 rfl) rfl
theorem q736 : (Jvm.Cond.methodLink "RoseThrow" (185 : Nat) ({ cls := "RoseThrow$Reader", name := "read", desc := "()V" } : Jvm.MethodName)) ∈ lw_all := lw_g (lw_at lw_m3 131 rfl) rfl
theorem q836 : (Jvm.Cond.fieldLinkNest "RoseThrow" (192 : Nat) "RoseThrow$Fault" "place" "I" "RoseThrow") ∈ lw_tbl := lw_at lw_m3 231 rfl
theorem q1119 : (Jvm.Cond.fieldLinkNest "RoseThrow" (422 : Nat) "RoseThrow$Order" "head" "I" "RoseThrow") ∈ lw_tbl := lw_at lw_m5 34 rfl
theorem q1121 : (Jvm.Cond.fieldLinkNest "RoseThrow" (425 : Nat) "RoseThrow$Order" "catcher" "LRoseThrow$Sum;" "RoseThrow") ∈ lw_tbl := lw_at lw_m5 36 rfl
theorem q1123 : (Jvm.Cond.fieldLinkNest "RoseThrow" (432 : Nat) "RoseThrow$Order" "cell" "LRoseThrow$Sum;" "RoseThrow") ∈ lw_tbl := lw_at lw_m5 38 rfl
theorem q1126 : (Jvm.Cond.fieldLinkNest "RoseThrow" (405 : Nat) "RoseThrow$Order" "times" "I" "RoseThrow") ∈ lw_tbl := lw_at lw_m5 41 rfl
theorem q1159 : (Jvm.Cond.methodLink "RoseThrow" (219 : Nat) ({ cls := "RoseThrow$Law", name := "<init>", desc := "(Ljava/util/ArrayList;)V" } : Jvm.MethodName)) ∈ lw_all := lw_g (lw_at lw_m5 74 rfl) rfl
theorem q1167 : (Jvm.Cond.methodLink "RoseThrow" (222 : Nat) ({ cls := "java/util/ArrayList", name := "add", desc := "(Ljava/lang/Object;)Z" } : Jvm.MethodName)) ∈ lw_all := lw_g (lw_at lw_m5 82 rfl) rfl
theorem q1169 : (Jvm.Cond.instanceMethod ({ cls := "RoseThrow", name := "fault", desc := "()I" } : Jvm.MethodName)) ∈ lw_all := lw_g (lw_at lw_m5 84 rfl) rfl
theorem q1170 : (Jvm.Cond.selects "RoseThrow" ({ cls := "RoseThrow", name := "fault", desc := "()I" } : Jvm.MethodName) ({ cls := "RoseThrow", name := "fault", desc := "()I" } : Jvm.MethodName)) ∈ lw_all := lw_g (lw_at lw_m5 85 rfl) rfl
theorem q1171 : (Jvm.Cond.code ({ cls := "RoseThrow", name := "fault", desc := "()I" } : Jvm.MethodName) prog_1_method_32_code (1 : Nat) (Option.some Jvm.ClassFile.FieldType.int)) ∈ lw_all := lw_g (lw_at lw_m5 86 rfl) rfl
theorem q1173 : (Jvm.Cond.instanceMethod ({ cls := "RoseThrow", name := "stopped", desc := "()I" } : Jvm.MethodName)) ∈ lw_all := lw_g (lw_at lw_m5 88 rfl) rfl
theorem q1174 : (Jvm.Cond.selects "RoseThrow" ({ cls := "RoseThrow", name := "stopped", desc := "()I" } : Jvm.MethodName) ({ cls := "RoseThrow", name := "stopped", desc := "()I" } : Jvm.MethodName)) ∈ lw_all := lw_g (lw_at lw_m5 89 rfl) rfl
theorem q1175 : (Jvm.Cond.code ({ cls := "RoseThrow", name := "stopped", desc := "()I" } : Jvm.MethodName) prog_1_method_33_code (1 : Nat) (Option.some Jvm.ClassFile.FieldType.int)) ∈ lw_all := lw_g (lw_at lw_m5 90 rfl) rfl
theorem q1177 : (Jvm.Cond.instanceMethod ({ cls := "RoseThrow", name := "force", desc := "(I)I" } : Jvm.MethodName)) ∈ lw_all := lw_g (lw_at lw_m5 92 rfl) rfl
theorem q1178 : (Jvm.Cond.selects "RoseThrow" ({ cls := "RoseThrow", name := "force", desc := "(I)I" } : Jvm.MethodName) ({ cls := "RoseThrow", name := "force", desc := "(I)I" } : Jvm.MethodName)) ∈ lw_all := lw_g (lw_at lw_m5 93 rfl) rfl
theorem q1179 : (Jvm.Cond.code ({ cls := "RoseThrow", name := "force", desc := "(I)I" } : Jvm.MethodName) prog_1_method_34_code (2 : Nat) (Option.some Jvm.ClassFile.FieldType.int)) ∈ lw_all := lw_g (lw_at lw_m5 94 rfl) rfl
theorem q1181 : (Jvm.Cond.instanceMethod ({ cls := "RoseThrow", name := "asks", desc := "(III)I" } : Jvm.MethodName)) ∈ lw_all := lw_g (lw_at lw_m5 96 rfl) rfl
theorem q1182 : (Jvm.Cond.selects "RoseThrow" ({ cls := "RoseThrow", name := "asks", desc := "(III)I" } : Jvm.MethodName) ({ cls := "RoseThrow", name := "asks", desc := "(III)I" } : Jvm.MethodName)) ∈ lw_all := lw_g (lw_at lw_m5 97 rfl) rfl
theorem q1183 : (Jvm.Cond.code ({ cls := "RoseThrow", name := "asks", desc := "(III)I" } : Jvm.MethodName) prog_1_method_43_code (4 : Nat) (Option.some Jvm.ClassFile.FieldType.int)) ∈ lw_all := lw_g (lw_at lw_m5 98 rfl) rfl
theorem q1184 : (Jvm.Cond.methodLink "RoseThrow" (263 : Nat) ({ cls := "RoseThrow", name := "grip", desc := "(II)I" } : Jvm.MethodName)) ∈ lw_all := lw_g (lw_at lw_m5 99 rfl) rfl
theorem q1185 : (Jvm.Cond.privateMethod ({ cls := "RoseThrow", name := "grip", desc := "(II)I" } : Jvm.MethodName)) ∈ lw_tbl := lw_at lw_m5 100 rfl
theorem q1186 : (Jvm.Cond.instanceMethod ({ cls := "RoseThrow", name := "grip", desc := "(II)I" } : Jvm.MethodName)) ∈ lw_all := lw_g (lw_at lw_m5 101 rfl) rfl
theorem q1187 : (Jvm.Cond.code ({ cls := "RoseThrow", name := "grip", desc := "(II)I" } : Jvm.MethodName) prog_1_method_39_code (5 : Nat) (Option.some Jvm.ClassFile.FieldType.int)) ∈ lw_all := lw_g (lw_at lw_m5 102 rfl) rfl
theorem q1188 : (Jvm.Cond.methodLink "RoseThrow" (255 : Nat) ({ cls := "RoseThrow", name := "near", desc := "(JII)I" } : Jvm.MethodName)) ∈ lw_all := lw_g (lw_at lw_m5 103 rfl) rfl
theorem q1189 : (Jvm.Cond.static ({ cls := "RoseThrow", name := "near", desc := "(JII)I" } : Jvm.MethodName)) ∈ lw_all := lw_g (lw_at lw_m5 104 rfl) rfl
theorem q1190 : (Jvm.Cond.code ({ cls := "RoseThrow", name := "near", desc := "(JII)I" } : Jvm.MethodName) prog_1_method_5_code (4 : Nat) (Option.some Jvm.ClassFile.FieldType.int)) ∈ lw_all := lw_g (lw_at lw_m5 105 rfl) rfl
theorem q1191 : (Jvm.Cond.methodLink "RoseThrow" (88 : Nat) ({ cls := "java/lang/Math", name := "min", desc := "(JJ)J" } : Jvm.MethodName)) ∈ lw_all := lw_g (lw_at lw_m5 106 rfl) rfl
theorem q1194 : (Jvm.Cond.methodLink "RoseThrow" (94 : Nat) ({ cls := "java/lang/Math", name := "max", desc := "(JJ)J" } : Jvm.MethodName)) ∈ lw_all := lw_g (lw_at lw_m5 109 rfl) rfl
theorem q1197 : (Jvm.Cond.methodLink "RoseThrow" (266 : Nat) ({ cls := "RoseThrow", name := "wed", desc := "(II)I" } : Jvm.MethodName)) ∈ lw_all := lw_g (lw_at lw_m5 112 rfl) rfl
theorem q1198 : (Jvm.Cond.privateMethod ({ cls := "RoseThrow", name := "wed", desc := "(II)I" } : Jvm.MethodName)) ∈ lw_tbl := lw_at lw_m5 113 rfl
theorem q1199 : (Jvm.Cond.instanceMethod ({ cls := "RoseThrow", name := "wed", desc := "(II)I" } : Jvm.MethodName)) ∈ lw_all := lw_g (lw_at lw_m5 114 rfl) rfl
theorem q1200 : (Jvm.Cond.code ({ cls := "RoseThrow", name := "wed", desc := "(II)I" } : Jvm.MethodName) prog_1_method_40_code (5 : Nat) (Option.some Jvm.ClassFile.FieldType.int)) ∈ lw_all := lw_g (lw_at lw_m5 115 rfl) rfl
theorem q1201 : (Jvm.Cond.methodLink "RoseThrow" (269 : Nat) ({ cls := "RoseThrow", name := "isBarred", desc := "(II)Z" } : Jvm.MethodName)) ∈ lw_all := lw_g (lw_at lw_m5 116 rfl) rfl
theorem q1202 : (Jvm.Cond.privateMethod ({ cls := "RoseThrow", name := "isBarred", desc := "(II)Z" } : Jvm.MethodName)) ∈ lw_tbl := lw_at lw_m5 117 rfl
theorem q1203 : (Jvm.Cond.instanceMethod ({ cls := "RoseThrow", name := "isBarred", desc := "(II)Z" } : Jvm.MethodName)) ∈ lw_all := lw_g (lw_at lw_m5 118 rfl) rfl
theorem q1204 : (Jvm.Cond.code ({ cls := "RoseThrow", name := "isBarred", desc := "(II)Z" } : Jvm.MethodName) prog_1_method_42_code (3 : Nat) (Option.some Jvm.ClassFile.FieldType.boolean)) ∈ lw_all := lw_g (lw_at lw_m5 119 rfl) rfl
theorem q1206 : (Jvm.Cond.instanceMethod ({ cls := "RoseThrow", name := "go", desc := "(II)I" } : Jvm.MethodName)) ∈ lw_all := lw_g (lw_at lw_m5 121 rfl) rfl
theorem q1207 : (Jvm.Cond.selects "RoseThrow" ({ cls := "RoseThrow", name := "go", desc := "(II)I" } : Jvm.MethodName) ({ cls := "RoseThrow", name := "go", desc := "(II)I" } : Jvm.MethodName)) ∈ lw_all := lw_g (lw_at lw_m5 122 rfl) rfl
theorem q1208 : (Jvm.Cond.code ({ cls := "RoseThrow", name := "go", desc := "(II)I" } : Jvm.MethodName) prog_1_method_50_code (4 : Nat) (Option.some Jvm.ClassFile.FieldType.int)) ∈ lw_all := lw_g (lw_at lw_m5 123 rfl) rfl
theorem q1209 : (Jvm.Cond.methodLink "RoseThrow" (292 : Nat) ({ cls := "RoseThrow", name := "goesKept", desc := "(II)I" } : Jvm.MethodName)) ∈ lw_all := lw_g (lw_at lw_m5 124 rfl) rfl
theorem q1210 : (Jvm.Cond.privateMethod ({ cls := "RoseThrow", name := "goesKept", desc := "(II)I" } : Jvm.MethodName)) ∈ lw_tbl := lw_at lw_m5 125 rfl
theorem q1211 : (Jvm.Cond.instanceMethod ({ cls := "RoseThrow", name := "goesKept", desc := "(II)I" } : Jvm.MethodName)) ∈ lw_all := lw_g (lw_at lw_m5 126 rfl) rfl
theorem q1212 : (Jvm.Cond.code ({ cls := "RoseThrow", name := "goesKept", desc := "(II)I" } : Jvm.MethodName) prog_1_method_46_code (4 : Nat) (Option.some Jvm.ClassFile.FieldType.int)) ∈ lw_all := lw_g (lw_at lw_m5 127 rfl) rfl
theorem q1213 : (Jvm.Cond.methodLink "RoseThrow" (277 : Nat) ({ cls := "RoseThrow", name := "canGo", desc := "([III)Z" } : Jvm.MethodName)) ∈ lw_all := lw_g (lw_at lw_m5 128 rfl) rfl
theorem q1214 : (Jvm.Cond.privateMethod ({ cls := "RoseThrow", name := "canGo", desc := "([III)Z" } : Jvm.MethodName)) ∈ lw_tbl := lw_at lw_m5 129 rfl
theorem q1215 : (Jvm.Cond.instanceMethod ({ cls := "RoseThrow", name := "canGo", desc := "([III)Z" } : Jvm.MethodName)) ∈ lw_all := lw_g (lw_at lw_m5 130 rfl) rfl
theorem q1216 : (Jvm.Cond.code ({ cls := "RoseThrow", name := "canGo", desc := "([III)Z" } : Jvm.MethodName) prog_1_method_45_code (4 : Nat) (Option.some Jvm.ClassFile.FieldType.boolean)) ∈ lw_all := lw_g (lw_at lw_m5 131 rfl) rfl
theorem q1217 : (Jvm.Cond.methodLink "RoseThrow" (281 : Nat) ({ cls := "RoseThrow", name := "keeps", desc := "(I)V" } : Jvm.MethodName)) ∈ lw_all := lw_g (lw_at lw_m5 132 rfl) rfl
theorem q1218 : (Jvm.Cond.privateMethod ({ cls := "RoseThrow", name := "keeps", desc := "(I)V" } : Jvm.MethodName)) ∈ lw_tbl := lw_at lw_m5 133 rfl
theorem q1219 : (Jvm.Cond.instanceMethod ({ cls := "RoseThrow", name := "keeps", desc := "(I)V" } : Jvm.MethodName)) ∈ lw_all := lw_g (lw_at lw_m5 134 rfl) rfl
theorem q1220 : (Jvm.Cond.code ({ cls := "RoseThrow", name := "keeps", desc := "(I)V" } : Jvm.MethodName) prog_1_method_44_code (2 : Nat) (Option.none : Option Jvm.ClassFile.FieldType)) ∈ lw_all := lw_g (lw_at lw_m5 135 rfl) rfl
theorem q1221 : (Jvm.Cond.methodLink "RoseThrow" (271 : Nat) ({ cls := "java/lang/System", name := "arraycopy", desc := "(Ljava/lang/Object;ILjava/lang/Object;II)V" } : Jvm.MethodName)) ∈ lw_all := lw_g (lw_at lw_m5 136 rfl) rfl
theorem q1223 : (Jvm.Cond.instanceMethod ({ cls := "RoseThrow", name := "believe", desc := "(II)I" } : Jvm.MethodName)) ∈ lw_all := lw_g (lw_at lw_m5 138 rfl) rfl
theorem q1224 : (Jvm.Cond.selects "RoseThrow" ({ cls := "RoseThrow", name := "believe", desc := "(II)I" } : Jvm.MethodName) ({ cls := "RoseThrow", name := "believe", desc := "(II)I" } : Jvm.MethodName)) ∈ lw_all := lw_g (lw_at lw_m5 139 rfl) rfl
theorem q1225 : (Jvm.Cond.code ({ cls := "RoseThrow", name := "believe", desc := "(II)I" } : Jvm.MethodName) prog_1_method_51_code (5 : Nat) (Option.some Jvm.ClassFile.FieldType.int)) ∈ lw_all := lw_g (lw_at lw_m5 140 rfl) rfl
theorem q1226 : (Jvm.Cond.methodLink "RoseThrow" (295 : Nat) ({ cls := "RoseThrow", name := "believesKept", desc := "(II)I" } : Jvm.MethodName)) ∈ lw_all := lw_g (lw_at lw_m5 141 rfl) rfl
theorem q1227 : (Jvm.Cond.privateMethod ({ cls := "RoseThrow", name := "believesKept", desc := "(II)I" } : Jvm.MethodName)) ∈ lw_tbl := lw_at lw_m5 142 rfl
theorem q1228 : (Jvm.Cond.instanceMethod ({ cls := "RoseThrow", name := "believesKept", desc := "(II)I" } : Jvm.MethodName)) ∈ lw_all := lw_g (lw_at lw_m5 143 rfl) rfl
theorem q1229 : (Jvm.Cond.code ({ cls := "RoseThrow", name := "believesKept", desc := "(II)I" } : Jvm.MethodName) prog_1_method_47_code (3 : Nat) (Option.some Jvm.ClassFile.FieldType.int)) ∈ lw_all := lw_g (lw_at lw_m5 144 rfl) rfl
theorem q1231 : (Jvm.Cond.instanceMethod ({ cls := "RoseThrow", name := "rush", desc := "()I" } : Jvm.MethodName)) ∈ lw_all := lw_g (lw_at lw_m5 146 rfl) rfl
theorem q1232 : (Jvm.Cond.selects "RoseThrow" ({ cls := "RoseThrow", name := "rush", desc := "()I" } : Jvm.MethodName) ({ cls := "RoseThrow", name := "rush", desc := "()I" } : Jvm.MethodName)) ∈ lw_all := lw_g (lw_at lw_m5 147 rfl) rfl
theorem q1233 : (Jvm.Cond.code ({ cls := "RoseThrow", name := "rush", desc := "()I" } : Jvm.MethodName) prog_1_method_52_code (2 : Nat) (Option.some Jvm.ClassFile.FieldType.int)) ∈ lw_all := lw_g (lw_at lw_m5 148 rfl) rfl
theorem q1234 : (Jvm.Cond.methodLink "RoseThrow" (298 : Nat) ({ cls := "RoseThrow", name := "rushesKept", desc := "()I" } : Jvm.MethodName)) ∈ lw_all := lw_g (lw_at lw_m5 149 rfl) rfl
theorem q1235 : (Jvm.Cond.privateMethod ({ cls := "RoseThrow", name := "rushesKept", desc := "()I" } : Jvm.MethodName)) ∈ lw_tbl := lw_at lw_m5 150 rfl
theorem q1236 : (Jvm.Cond.instanceMethod ({ cls := "RoseThrow", name := "rushesKept", desc := "()I" } : Jvm.MethodName)) ∈ lw_all := lw_g (lw_at lw_m5 151 rfl) rfl
theorem q1237 : (Jvm.Cond.code ({ cls := "RoseThrow", name := "rushesKept", desc := "()I" } : Jvm.MethodName) prog_1_method_48_code (3 : Nat) (Option.some Jvm.ClassFile.FieldType.int)) ∈ lw_all := lw_g (lw_at lw_m5 152 rfl) rfl
theorem q1238 : (Jvm.Cond.methodLink "RoseThrow" (284 : Nat) ({ cls := "RoseThrow", name := "steps", desc := "(I)Z" } : Jvm.MethodName)) ∈ lw_all := lw_g (lw_at lw_m5 153 rfl) rfl
theorem q1239 : (Jvm.Cond.privateMethod ({ cls := "RoseThrow", name := "steps", desc := "(I)Z" } : Jvm.MethodName)) ∈ lw_tbl := lw_at lw_m5 154 rfl
theorem q1240 : (Jvm.Cond.instanceMethod ({ cls := "RoseThrow", name := "steps", desc := "(I)Z" } : Jvm.MethodName)) ∈ lw_all := lw_g (lw_at lw_m5 155 rfl) rfl
theorem q1241 : (Jvm.Cond.code ({ cls := "RoseThrow", name := "steps", desc := "(I)Z" } : Jvm.MethodName) prog_1_method_49_code (6 : Nat) (Option.some Jvm.ClassFile.FieldType.boolean)) ∈ lw_all := lw_g (lw_at lw_m5 156 rfl) rfl
theorem q1242 : (Jvm.Cond.methodLink "RoseThrow" (287 : Nat) ({ cls := "java/lang/Integer", name := "signum", desc := "(I)I" } : Jvm.MethodName)) ∈ lw_all := lw_g (lw_at lw_m5 157 rfl) rfl
theorem q1246 : (Jvm.Cond.instanceMethod ({ cls := "RoseThrow", name := "undo", desc := "()I" } : Jvm.MethodName)) ∈ lw_all := lw_g (lw_at lw_m5 161 rfl) rfl
theorem q1247 : (Jvm.Cond.selects "RoseThrow" ({ cls := "RoseThrow", name := "undo", desc := "()I" } : Jvm.MethodName) ({ cls := "RoseThrow", name := "undo", desc := "()I" } : Jvm.MethodName)) ∈ lw_all := lw_g (lw_at lw_m5 162 rfl) rfl
theorem q1248 : (Jvm.Cond.code ({ cls := "RoseThrow", name := "undo", desc := "()I" } : Jvm.MethodName) prog_1_method_53_code (1 : Nat) (Option.some Jvm.ClassFile.FieldType.int)) ∈ lw_all := lw_g (lw_at lw_m5 163 rfl) rfl
theorem q1250 : (Jvm.Cond.instanceMethod ({ cls := "RoseThrow", name := "comes", desc := "(II)I" } : Jvm.MethodName)) ∈ lw_all := lw_g (lw_at lw_m5 165 rfl) rfl
theorem q1251 : (Jvm.Cond.selects "RoseThrow" ({ cls := "RoseThrow", name := "comes", desc := "(II)I" } : Jvm.MethodName) ({ cls := "RoseThrow", name := "comes", desc := "(II)I" } : Jvm.MethodName)) ∈ lw_all := lw_g (lw_at lw_m5 166 rfl) rfl
theorem q1252 : (Jvm.Cond.code ({ cls := "RoseThrow", name := "comes", desc := "(II)I" } : Jvm.MethodName) prog_1_method_59_code (3 : Nat) (Option.some Jvm.ClassFile.FieldType.int)) ∈ lw_all := lw_g (lw_at lw_m5 167 rfl) rfl
theorem q1253 : (Jvm.Cond.methodLink "RoseThrow" (308 : Nat) ({ cls := "RoseThrow", name := "looks", desc := "()V" } : Jvm.MethodName)) ∈ lw_all := lw_g (lw_at lw_m5 168 rfl) rfl
theorem q1254 : (Jvm.Cond.privateMethod ({ cls := "RoseThrow", name := "looks", desc := "()V" } : Jvm.MethodName)) ∈ lw_tbl := lw_at lw_m5 169 rfl
theorem q1255 : (Jvm.Cond.instanceMethod ({ cls := "RoseThrow", name := "looks", desc := "()V" } : Jvm.MethodName)) ∈ lw_all := lw_g (lw_at lw_m5 170 rfl) rfl
theorem q1256 : (Jvm.Cond.code ({ cls := "RoseThrow", name := "looks", desc := "()V" } : Jvm.MethodName) prog_1_method_54_code (3 : Nat) (Option.none : Option Jvm.ClassFile.FieldType)) ∈ lw_all := lw_g (lw_at lw_m5 171 rfl) rfl
theorem q1257 : (Jvm.Cond.methodLink "RoseThrow" (301 : Nat) ({ cls := "RoseThrow$Flight", name := "lays", desc := "(II)V" } : Jvm.MethodName)) ∈ lw_all := lw_g (lw_at lw_m5 172 rfl) rfl
theorem q1267 : (Jvm.Cond.static ({ cls := "RoseThrow", name := "cellAt", desc := "(II)I" } : Jvm.MethodName)) ∈ lw_all := lw_g (lw_at lw_m5 182 rfl) rfl
theorem q1268 : (Jvm.Cond.code ({ cls := "RoseThrow", name := "cellAt", desc := "(II)I" } : Jvm.MethodName) prog_1_method_8_code (2 : Nat) (Option.some Jvm.ClassFile.FieldType.int)) ∈ lw_all := lw_g (lw_at lw_m5 183 rfl) rfl
theorem q1274 : (Jvm.Cond.privateMethod ({ cls := "RoseThrow", name := "slip", desc := "(IIII)I" } : Jvm.MethodName)) ∈ lw_tbl := lw_at lw_m5 189 rfl
theorem q1275 : (Jvm.Cond.instanceMethod ({ cls := "RoseThrow", name := "slip", desc := "(IIII)I" } : Jvm.MethodName)) ∈ lw_all := lw_g (lw_at lw_m5 190 rfl) rfl
theorem q1276 : (Jvm.Cond.code ({ cls := "RoseThrow", name := "slip", desc := "(IIII)I" } : Jvm.MethodName) prog_1_method_37_code (9 : Nat) (Option.some Jvm.ClassFile.FieldType.int)) ∈ lw_all := lw_g (lw_at lw_m5 191 rfl) rfl
theorem q1277 : (Jvm.Cond.methodLink "RoseThrow" (329 : Nat) ({ cls := "RoseThrow$Flight", name := "weightOf", desc := "(I)I" } : Jvm.MethodName)) ∈ lw_all := lw_g (lw_at lw_m5 192 rfl) rfl
theorem q1281 : (Jvm.Cond.methodLink "RoseThrow" (335 : Nat) ({ cls := "RoseThrow", name := "tells", desc := "(JJZ)J" } : Jvm.MethodName)) ∈ lw_all := lw_g (lw_at lw_m5 196 rfl) rfl
theorem q1282 : (Jvm.Cond.static ({ cls := "RoseThrow", name := "tells", desc := "(JJZ)J" } : Jvm.MethodName)) ∈ lw_all := lw_g (lw_at lw_m5 197 rfl) rfl
theorem q1283 : (Jvm.Cond.code ({ cls := "RoseThrow", name := "tells", desc := "(JJZ)J" } : Jvm.MethodName) prog_1_method_11_code (5 : Nat) (Option.some Jvm.ClassFile.FieldType.long)) ∈ lw_all := lw_g (lw_at lw_m5 198 rfl) rfl
theorem q1284 : (Jvm.Cond.methodLink "RoseThrow" (109 : Nat) ({ cls := "RoseThrow", name := "common", desc := "(JJ)J" } : Jvm.MethodName)) ∈ lw_all := lw_g (lw_at lw_m5 199 rfl) rfl
theorem q1285 : (Jvm.Cond.static ({ cls := "RoseThrow", name := "common", desc := "(JJ)J" } : Jvm.MethodName)) ∈ lw_all := lw_g (lw_at lw_m5 200 rfl) rfl
theorem q1286 : (Jvm.Cond.code ({ cls := "RoseThrow", name := "common", desc := "(JJ)J" } : Jvm.MethodName) prog_1_method_6_code (10 : Nat) (Option.some Jvm.ClassFile.FieldType.long)) ∈ lw_all := lw_g (lw_at lw_m5 201 rfl) rfl
theorem q1288 : (Jvm.Cond.instanceMethod ({ cls := "RoseThrow", name := "has", desc := "(II)J" } : Jvm.MethodName)) ∈ lw_all := lw_g (lw_at lw_m5 203 rfl) rfl
theorem q1289 : (Jvm.Cond.selects "RoseThrow" ({ cls := "RoseThrow", name := "has", desc := "(II)J" } : Jvm.MethodName) ({ cls := "RoseThrow", name := "has", desc := "(II)J" } : Jvm.MethodName)) ∈ lw_all := lw_g (lw_at lw_m5 204 rfl) rfl
theorem q1290 : (Jvm.Cond.code ({ cls := "RoseThrow", name := "has", desc := "(II)J" } : Jvm.MethodName) prog_1_method_60_code (3 : Nat) (Option.some Jvm.ClassFile.FieldType.long)) ∈ lw_all := lw_g (lw_at lw_m5 205 rfl) rfl
theorem q1291 : (Jvm.Cond.methodLink "RoseThrow" (339 : Nat) ({ cls := "RoseThrow", name := "chance", desc := "(ILRoseThrow$Flight;[I)J" } : Jvm.MethodName)) ∈ lw_all := lw_g (lw_at lw_m5 206 rfl) rfl
theorem q1292 : (Jvm.Cond.privateMethod ({ cls := "RoseThrow", name := "chance", desc := "(ILRoseThrow$Flight;[I)J" } : Jvm.MethodName)) ∈ lw_tbl := lw_at lw_m5 207 rfl
theorem q1293 : (Jvm.Cond.instanceMethod ({ cls := "RoseThrow", name := "chance", desc := "(ILRoseThrow$Flight;[I)J" } : Jvm.MethodName)) ∈ lw_all := lw_g (lw_at lw_m5 208 rfl) rfl
theorem q1294 : (Jvm.Cond.code ({ cls := "RoseThrow", name := "chance", desc := "(ILRoseThrow$Flight;[I)J" } : Jvm.MethodName) prog_1_method_58_code (7 : Nat) (Option.some Jvm.ClassFile.FieldType.long)) ∈ lw_all := lw_g (lw_at lw_m5 209 rfl) rfl
theorem q1295 : (Jvm.Cond.methodLink "RoseThrow" (325 : Nat) ({ cls := "RoseThrow", name := "partOf", desc := "(I[II)I" } : Jvm.MethodName)) ∈ lw_all := lw_g (lw_at lw_m5 210 rfl) rfl
theorem q1296 : (Jvm.Cond.privateMethod ({ cls := "RoseThrow", name := "partOf", desc := "(I[II)I" } : Jvm.MethodName)) ∈ lw_tbl := lw_at lw_m5 211 rfl
theorem q1297 : (Jvm.Cond.instanceMethod ({ cls := "RoseThrow", name := "partOf", desc := "(I[II)I" } : Jvm.MethodName)) ∈ lw_all := lw_g (lw_at lw_m5 212 rfl) rfl
theorem q1298 : (Jvm.Cond.code ({ cls := "RoseThrow", name := "partOf", desc := "(I[II)I" } : Jvm.MethodName) prog_1_method_57_code (9 : Nat) (Option.some Jvm.ClassFile.FieldType.int)) ∈ lw_all := lw_g (lw_at lw_m5 213 rfl) rfl
theorem q1299 : (Jvm.Cond.methodLink "RoseThrow" (314 : Nat) ({ cls := "RoseThrow", name := "gripsOf", desc := "(III)I" } : Jvm.MethodName)) ∈ lw_all := lw_g (lw_at lw_m5 214 rfl) rfl
theorem q1300 : (Jvm.Cond.privateMethod ({ cls := "RoseThrow", name := "gripsOf", desc := "(III)I" } : Jvm.MethodName)) ∈ lw_tbl := lw_at lw_m5 215 rfl
theorem q1301 : (Jvm.Cond.instanceMethod ({ cls := "RoseThrow", name := "gripsOf", desc := "(III)I" } : Jvm.MethodName)) ∈ lw_all := lw_g (lw_at lw_m5 216 rfl) rfl
theorem q1302 : (Jvm.Cond.code ({ cls := "RoseThrow", name := "gripsOf", desc := "(III)I" } : Jvm.MethodName) prog_1_method_56_code (5 : Nat) (Option.some Jvm.ClassFile.FieldType.int)) ∈ lw_all := lw_g (lw_at lw_m5 217 rfl) rfl
theorem q1303 : (Jvm.Cond.methodLink "RoseThrow" (311 : Nat) ({ cls := "RoseThrow", name := "far", desc := "(II)I" } : Jvm.MethodName)) ∈ lw_all := lw_g (lw_at lw_m5 218 rfl) rfl
theorem q1304 : (Jvm.Cond.static ({ cls := "RoseThrow", name := "far", desc := "(II)I" } : Jvm.MethodName)) ∈ lw_all := lw_g (lw_at lw_m5 219 rfl) rfl
theorem q1305 : (Jvm.Cond.code ({ cls := "RoseThrow", name := "far", desc := "(II)I" } : Jvm.MethodName) prog_1_method_9_code (2 : Nat) (Option.some Jvm.ClassFile.FieldType.int)) ∈ lw_all := lw_g (lw_at lw_m5 220 rfl) rfl
theorem q1306 : (Jvm.Cond.methodLink "RoseThrow" (101 : Nat) ({ cls := "java/lang/Math", name := "abs", desc := "(I)I" } : Jvm.MethodName)) ∈ lw_all := lw_g (lw_at lw_m5 221 rfl) rfl
theorem q1309 : (Jvm.Cond.methodLink "RoseThrow" (343 : Nat) ({ cls := "RoseThrow$Flight", name := "lower", desc := "()J" } : Jvm.MethodName)) ∈ lw_all := lw_g (lw_at lw_m5 224 rfl) rfl
theorem q1315 : (Jvm.Cond.instanceMethod ({ cls := "RoseThrow", name := "stand", desc := "(II)J" } : Jvm.MethodName)) ∈ lw_all := lw_g (lw_at lw_m5 230 rfl) rfl
theorem q1316 : (Jvm.Cond.selects "RoseThrow" ({ cls := "RoseThrow", name := "stand", desc := "(II)J" } : Jvm.MethodName) ({ cls := "RoseThrow", name := "stand", desc := "(II)J" } : Jvm.MethodName)) ∈ lw_all := lw_g (lw_at lw_m5 231 rfl) rfl
theorem q1317 : (Jvm.Cond.code ({ cls := "RoseThrow", name := "stand", desc := "(II)J" } : Jvm.MethodName) prog_1_method_63_code (4 : Nat) (Option.some Jvm.ClassFile.FieldType.long)) ∈ lw_all := lw_g (lw_at lw_m5 232 rfl) rfl
theorem q1318 : (Jvm.Cond.methodLink "RoseThrow" (347 : Nat) ({ cls := "RoseThrow", name := "copies", desc := "()V" } : Jvm.MethodName)) ∈ lw_all := lw_g (lw_at lw_m5 233 rfl) rfl
theorem q1319 : (Jvm.Cond.privateMethod ({ cls := "RoseThrow", name := "copies", desc := "()V" } : Jvm.MethodName)) ∈ lw_tbl := lw_at lw_m5 234 rfl
theorem q1320 : (Jvm.Cond.instanceMethod ({ cls := "RoseThrow", name := "copies", desc := "()V" } : Jvm.MethodName)) ∈ lw_all := lw_g (lw_at lw_m5 235 rfl) rfl
theorem q1321 : (Jvm.Cond.code ({ cls := "RoseThrow", name := "copies", desc := "()V" } : Jvm.MethodName) prog_1_method_61_code (1 : Nat) (Option.none : Option Jvm.ClassFile.FieldType)) ∈ lw_all := lw_g (lw_at lw_m5 236 rfl) rfl
theorem q1322 : (Jvm.Cond.methodLink "RoseThrow" (350 : Nat) ({ cls := "RoseThrow", name := "bestCell", desc := "(I)I" } : Jvm.MethodName)) ∈ lw_all := lw_g (lw_at lw_m5 237 rfl) rfl
theorem q1323 : (Jvm.Cond.privateMethod ({ cls := "RoseThrow", name := "bestCell", desc := "(I)I" } : Jvm.MethodName)) ∈ lw_tbl := lw_at lw_m5 238 rfl
theorem q1324 : (Jvm.Cond.instanceMethod ({ cls := "RoseThrow", name := "bestCell", desc := "(I)I" } : Jvm.MethodName)) ∈ lw_all := lw_g (lw_at lw_m5 239 rfl) rfl
theorem q1325 : (Jvm.Cond.code ({ cls := "RoseThrow", name := "bestCell", desc := "(I)I" } : Jvm.MethodName) prog_1_method_62_code (10 : Nat) (Option.some Jvm.ClassFile.FieldType.int)) ∈ lw_all := lw_g (lw_at lw_m6 0 rfl) rfl
theorem q1327 : (Jvm.Cond.instanceMethod ({ cls := "RoseThrow", name := "rests", desc := "(I)I" } : Jvm.MethodName)) ∈ lw_all := lw_g (lw_at lw_m6 2 rfl) rfl
theorem q1328 : (Jvm.Cond.selects "RoseThrow" ({ cls := "RoseThrow", name := "rests", desc := "(I)I" } : Jvm.MethodName) ({ cls := "RoseThrow", name := "rests", desc := "(I)I" } : Jvm.MethodName)) ∈ lw_all := lw_g (lw_at lw_m6 3 rfl) rfl
theorem q1329 : (Jvm.Cond.code ({ cls := "RoseThrow", name := "rests", desc := "(I)I" } : Jvm.MethodName) prog_1_method_65_code (5 : Nat) (Option.some Jvm.ClassFile.FieldType.int)) ∈ lw_all := lw_g (lw_at lw_m6 4 rfl) rfl
theorem q1330 : (Jvm.Cond.methodLink "RoseThrow" (353 : Nat) ({ cls := "RoseThrow", name := "goesBest", desc := "(I)Z" } : Jvm.MethodName)) ∈ lw_all := lw_g (lw_at lw_m6 5 rfl) rfl
theorem q1331 : (Jvm.Cond.privateMethod ({ cls := "RoseThrow", name := "goesBest", desc := "(I)Z" } : Jvm.MethodName)) ∈ lw_tbl := lw_at lw_m6 6 rfl
theorem q1332 : (Jvm.Cond.instanceMethod ({ cls := "RoseThrow", name := "goesBest", desc := "(I)Z" } : Jvm.MethodName)) ∈ lw_all := lw_g (lw_at lw_m6 7 rfl) rfl
theorem q1333 : (Jvm.Cond.code ({ cls := "RoseThrow", name := "goesBest", desc := "(I)Z" } : Jvm.MethodName) prog_1_method_64_code (6 : Nat) (Option.some Jvm.ClassFile.FieldType.boolean)) ∈ lw_all := lw_g (lw_at lw_m6 8 rfl) rfl
theorem q1335 : (Jvm.Cond.instanceMethod ({ cls := "RoseThrow", name := "friend", desc := "(II)J" } : Jvm.MethodName)) ∈ lw_all := lw_g (lw_at lw_m6 10 rfl) rfl
theorem q1336 : (Jvm.Cond.selects "RoseThrow" ({ cls := "RoseThrow", name := "friend", desc := "(II)J" } : Jvm.MethodName) ({ cls := "RoseThrow", name := "friend", desc := "(II)J" } : Jvm.MethodName)) ∈ lw_all := lw_g (lw_at lw_m6 11 rfl) rfl
theorem q1337 : (Jvm.Cond.code ({ cls := "RoseThrow", name := "friend", desc := "(II)J" } : Jvm.MethodName) prog_1_method_70_code (5 : Nat) (Option.some Jvm.ClassFile.FieldType.long)) ∈ lw_all := lw_g (lw_at lw_m6 12 rfl) rfl
theorem q1338 : (Jvm.Cond.methodLink "RoseThrow" (366 : Nat) ({ cls := "RoseThrow", name := "looksAtAll", desc := "()V" } : Jvm.MethodName)) ∈ lw_all := lw_g (lw_at lw_m6 13 rfl) rfl
theorem q1339 : (Jvm.Cond.privateMethod ({ cls := "RoseThrow", name := "looksAtAll", desc := "()V" } : Jvm.MethodName)) ∈ lw_tbl := lw_at lw_m6 14 rfl
theorem q1340 : (Jvm.Cond.instanceMethod ({ cls := "RoseThrow", name := "looksAtAll", desc := "()V" } : Jvm.MethodName)) ∈ lw_all := lw_g (lw_at lw_m6 15 rfl) rfl
theorem q1341 : (Jvm.Cond.code ({ cls := "RoseThrow", name := "looksAtAll", desc := "()V" } : Jvm.MethodName) prog_1_method_55_code (2 : Nat) (Option.none : Option Jvm.ClassFile.FieldType)) ∈ lw_all := lw_g (lw_at lw_m6 16 rfl) rfl
theorem q1342 : (Jvm.Cond.methodLink "RoseThrow" (369 : Nat) ({ cls := "RoseThrow", name := "none", desc := "()V" } : Jvm.MethodName)) ∈ lw_all := lw_g (lw_at lw_m6 17 rfl) rfl
theorem q1343 : (Jvm.Cond.privateMethod ({ cls := "RoseThrow", name := "none", desc := "()V" } : Jvm.MethodName)) ∈ lw_tbl := lw_at lw_m6 18 rfl
theorem q1344 : (Jvm.Cond.instanceMethod ({ cls := "RoseThrow", name := "none", desc := "()V" } : Jvm.MethodName)) ∈ lw_all := lw_g (lw_at lw_m6 19 rfl) rfl
theorem q1345 : (Jvm.Cond.code ({ cls := "RoseThrow", name := "none", desc := "()V" } : Jvm.MethodName) prog_1_method_67_code (1 : Nat) (Option.none : Option Jvm.ClassFile.FieldType)) ∈ lw_all := lw_g (lw_at lw_m6 20 rfl) rfl
theorem q1346 : (Jvm.Cond.methodLink "RoseThrow" (372 : Nat) ({ cls := "RoseThrow", name := "isMore", desc := "(JJ)Z" } : Jvm.MethodName)) ∈ lw_all := lw_g (lw_at lw_m6 21 rfl) rfl
theorem q1347 : (Jvm.Cond.privateMethod ({ cls := "RoseThrow", name := "isMore", desc := "(JJ)Z" } : Jvm.MethodName)) ∈ lw_tbl := lw_at lw_m6 22 rfl
theorem q1348 : (Jvm.Cond.instanceMethod ({ cls := "RoseThrow", name := "isMore", desc := "(JJ)Z" } : Jvm.MethodName)) ∈ lw_all := lw_g (lw_at lw_m6 23 rfl) rfl
theorem q1349 : (Jvm.Cond.code ({ cls := "RoseThrow", name := "isMore", desc := "(JJ)Z" } : Jvm.MethodName) prog_1_method_66_code (5 : Nat) (Option.some Jvm.ClassFile.FieldType.boolean)) ∈ lw_all := lw_g (lw_at lw_m6 24 rfl) rfl
theorem q1350 : (Jvm.Cond.methodLink "RoseThrow" (376 : Nat) ({ cls := "RoseThrow", name := "friendOf", desc := "(II)J" } : Jvm.MethodName)) ∈ lw_all := lw_g (lw_at lw_m6 25 rfl) rfl
theorem q1351 : (Jvm.Cond.privateMethod ({ cls := "RoseThrow", name := "friendOf", desc := "(II)J" } : Jvm.MethodName)) ∈ lw_tbl := lw_at lw_m6 26 rfl
theorem q1352 : (Jvm.Cond.instanceMethod ({ cls := "RoseThrow", name := "friendOf", desc := "(II)J" } : Jvm.MethodName)) ∈ lw_all := lw_g (lw_at lw_m6 27 rfl) rfl
theorem q1353 : (Jvm.Cond.code ({ cls := "RoseThrow", name := "friendOf", desc := "(II)J" } : Jvm.MethodName) prog_1_method_69_code (3 : Nat) (Option.some Jvm.ClassFile.FieldType.long)) ∈ lw_all := lw_g (lw_at lw_m6 28 rfl) rfl
theorem q1354 : (Jvm.Cond.methodLink "RoseThrow" (363 : Nat) ({ cls := "RoseThrow", name := "forceOf", desc := "(I)I" } : Jvm.MethodName)) ∈ lw_all := lw_g (lw_at lw_m6 29 rfl) rfl
theorem q1355 : (Jvm.Cond.static ({ cls := "RoseThrow", name := "forceOf", desc := "(I)I" } : Jvm.MethodName)) ∈ lw_all := lw_g (lw_at lw_m6 30 rfl) rfl
theorem q1356 : (Jvm.Cond.code ({ cls := "RoseThrow", name := "forceOf", desc := "(I)I" } : Jvm.MethodName) prog_1_method_68_code (1 : Nat) (Option.some Jvm.ClassFile.FieldType.int)) ∈ lw_all := lw_g (lw_at lw_m6 31 rfl) rfl
theorem q1358 : (Jvm.Cond.instanceMethod ({ cls := "RoseThrow", name := "heard", desc := "(II)J" } : Jvm.MethodName)) ∈ lw_all := lw_g (lw_at lw_m6 33 rfl) rfl
theorem q1359 : (Jvm.Cond.selects "RoseThrow" ({ cls := "RoseThrow", name := "heard", desc := "(II)J" } : Jvm.MethodName) ({ cls := "RoseThrow", name := "heard", desc := "(II)J" } : Jvm.MethodName)) ∈ lw_all := lw_g (lw_at lw_m6 34 rfl) rfl
theorem q1360 : (Jvm.Cond.code ({ cls := "RoseThrow", name := "heard", desc := "(II)J" } : Jvm.MethodName) prog_1_method_72_code (5 : Nat) (Option.some Jvm.ClassFile.FieldType.long)) ∈ lw_all := lw_g (lw_at lw_m6 35 rfl) rfl
theorem q1361 : (Jvm.Cond.methodLink "RoseThrow" (383 : Nat) ({ cls := "RoseThrow", name := "hears", desc := "(LRoseThrow$Flight;I)V" } : Jvm.MethodName)) ∈ lw_all := lw_g (lw_at lw_m6 36 rfl) rfl
theorem q1362 : (Jvm.Cond.privateMethod ({ cls := "RoseThrow", name := "hears", desc := "(LRoseThrow$Flight;I)V" } : Jvm.MethodName)) ∈ lw_tbl := lw_at lw_m6 37 rfl
theorem q1363 : (Jvm.Cond.instanceMethod ({ cls := "RoseThrow", name := "hears", desc := "(LRoseThrow$Flight;I)V" } : Jvm.MethodName)) ∈ lw_all := lw_g (lw_at lw_m6 38 rfl) rfl
theorem q1364 : (Jvm.Cond.code ({ cls := "RoseThrow", name := "hears", desc := "(LRoseThrow$Flight;I)V" } : Jvm.MethodName) prog_1_method_71_code (12 : Nat) (Option.none : Option Jvm.ClassFile.FieldType)) ∈ lw_all := lw_g (lw_at lw_m6 39 rfl) rfl
theorem q1365 : (Jvm.Cond.methodLink "RoseThrow" (380 : Nat) ({ cls := "RoseThrow", name := "beside", desc := "(II)I" } : Jvm.MethodName)) ∈ lw_all := lw_g (lw_at lw_m6 40 rfl) rfl
theorem q1366 : (Jvm.Cond.static ({ cls := "RoseThrow", name := "beside", desc := "(II)I" } : Jvm.MethodName)) ∈ lw_all := lw_g (lw_at lw_m6 41 rfl) rfl
theorem q1367 : (Jvm.Cond.code ({ cls := "RoseThrow", name := "beside", desc := "(II)I" } : Jvm.MethodName) prog_1_method_10_code (2 : Nat) (Option.some Jvm.ClassFile.FieldType.int)) ∈ lw_all := lw_g (lw_at lw_m6 42 rfl) rfl
theorem q1368 : (Jvm.Cond.methodLink "RoseThrow" (105 : Nat) ({ cls := "RoseThrow", name := "cellAt", desc := "(II)I" } : Jvm.MethodName)) ∈ lw_all := lw_g (lw_at lw_m6 43 rfl) rfl
theorem q1370 : (Jvm.Cond.instanceMethod ({ cls := "RoseThrow", name := "feint", desc := "(II)J" } : Jvm.MethodName)) ∈ lw_all := lw_g (lw_at lw_m6 45 rfl) rfl
theorem q1371 : (Jvm.Cond.selects "RoseThrow" ({ cls := "RoseThrow", name := "feint", desc := "(II)J" } : Jvm.MethodName) ({ cls := "RoseThrow", name := "feint", desc := "(II)J" } : Jvm.MethodName)) ∈ lw_all := lw_g (lw_at lw_m6 46 rfl) rfl
theorem q1372 : (Jvm.Cond.code ({ cls := "RoseThrow", name := "feint", desc := "(II)J" } : Jvm.MethodName) prog_1_method_73_code (7 : Nat) (Option.some Jvm.ClassFile.FieldType.long)) ∈ lw_all := lw_g (lw_at lw_m6 47 rfl) rfl
theorem q1374 : (Jvm.Cond.instanceMethod ({ cls := "RoseThrow", name := "safest", desc := "(II)I" } : Jvm.MethodName)) ∈ lw_all := lw_g (lw_at lw_m6 49 rfl) rfl
theorem q1375 : (Jvm.Cond.selects "RoseThrow" ({ cls := "RoseThrow", name := "safest", desc := "(II)I" } : Jvm.MethodName) ({ cls := "RoseThrow", name := "safest", desc := "(II)I" } : Jvm.MethodName)) ∈ lw_all := lw_g (lw_at lw_m6 50 rfl) rfl
theorem q1376 : (Jvm.Cond.code ({ cls := "RoseThrow", name := "safest", desc := "(II)I" } : Jvm.MethodName) prog_1_method_75_code (6 : Nat) (Option.some Jvm.ClassFile.FieldType.int)) ∈ lw_all := lw_g (lw_at lw_m6 51 rfl) rfl
theorem q1377 : (Jvm.Cond.methodLink "RoseThrow" (387 : Nat) ({ cls := "RoseThrow", name := "near", desc := "(I)I" } : Jvm.MethodName)) ∈ lw_all := lw_g (lw_at lw_m6 52 rfl) rfl
theorem q1378 : (Jvm.Cond.privateMethod ({ cls := "RoseThrow", name := "near", desc := "(I)I" } : Jvm.MethodName)) ∈ lw_tbl := lw_at lw_m6 53 rfl
theorem q1379 : (Jvm.Cond.instanceMethod ({ cls := "RoseThrow", name := "near", desc := "(I)I" } : Jvm.MethodName)) ∈ lw_all := lw_g (lw_at lw_m6 54 rfl) rfl
theorem q1380 : (Jvm.Cond.code ({ cls := "RoseThrow", name := "near", desc := "(I)I" } : Jvm.MethodName) prog_1_method_74_code (4 : Nat) (Option.some Jvm.ClassFile.FieldType.int)) ∈ lw_all := lw_g (lw_at lw_m6 55 rfl) rfl
theorem q1382 : (Jvm.Cond.instanceMethod ({ cls := "RoseThrow", name := "crowd", desc := "(I)J" } : Jvm.MethodName)) ∈ lw_all := lw_g (lw_at lw_m6 57 rfl) rfl
theorem q1383 : (Jvm.Cond.selects "RoseThrow" ({ cls := "RoseThrow", name := "crowd", desc := "(I)J" } : Jvm.MethodName) ({ cls := "RoseThrow", name := "crowd", desc := "(I)J" } : Jvm.MethodName)) ∈ lw_all := lw_g (lw_at lw_m6 58 rfl) rfl
theorem q1384 : (Jvm.Cond.code ({ cls := "RoseThrow", name := "crowd", desc := "(I)J" } : Jvm.MethodName) prog_1_method_76_code (4 : Nat) (Option.some Jvm.ClassFile.FieldType.long)) ∈ lw_all := lw_g (lw_at lw_m6 59 rfl) rfl
theorem q1386 : (Jvm.Cond.instanceMethod ({ cls := "RoseThrow", name := "again", desc := "(I)J" } : Jvm.MethodName)) ∈ lw_all := lw_g (lw_at lw_m6 61 rfl) rfl
theorem q1387 : (Jvm.Cond.selects "RoseThrow" ({ cls := "RoseThrow", name := "again", desc := "(I)J" } : Jvm.MethodName) ({ cls := "RoseThrow", name := "again", desc := "(I)J" } : Jvm.MethodName)) ∈ lw_all := lw_g (lw_at lw_m6 62 rfl) rfl
theorem q1388 : (Jvm.Cond.code ({ cls := "RoseThrow", name := "again", desc := "(I)J" } : Jvm.MethodName) prog_1_method_77_code (4 : Nat) (Option.some Jvm.ClassFile.FieldType.long)) ∈ lw_all := lw_g (lw_at lw_m6 63 rfl) rfl
theorem q1390 : (Jvm.Cond.instanceMethod ({ cls := "RoseThrow", name := "truly", desc := "(I)J" } : Jvm.MethodName)) ∈ lw_all := lw_g (lw_at lw_m6 65 rfl) rfl
theorem q1391 : (Jvm.Cond.selects "RoseThrow" ({ cls := "RoseThrow", name := "truly", desc := "(I)J" } : Jvm.MethodName) ({ cls := "RoseThrow", name := "truly", desc := "(I)J" } : Jvm.MethodName)) ∈ lw_all := lw_g (lw_at lw_m6 66 rfl) rfl
theorem q1392 : (Jvm.Cond.code ({ cls := "RoseThrow", name := "truly", desc := "(I)J" } : Jvm.MethodName) prog_1_method_78_code (5 : Nat) (Option.some Jvm.ClassFile.FieldType.long)) ∈ lw_all := lw_g (lw_at lw_m6 67 rfl) rfl
theorem q1393 : (Jvm.Cond.constantLong "RoseThrow" (389 : Nat) (100 : Int64)) ∈ lw_all := lw_g (lw_at lw_m6 68 rfl) rfl
theorem q1395 : (Jvm.Cond.instanceMethod ({ cls := "RoseThrow", name := "meant", desc := "(II)J" } : Jvm.MethodName)) ∈ lw_all := lw_g (lw_at lw_m6 70 rfl) rfl
theorem q1396 : (Jvm.Cond.selects "RoseThrow" ({ cls := "RoseThrow", name := "meant", desc := "(II)J" } : Jvm.MethodName) ({ cls := "RoseThrow", name := "meant", desc := "(II)J" } : Jvm.MethodName)) ∈ lw_all := lw_g (lw_at lw_m6 71 rfl) rfl
theorem q1397 : (Jvm.Cond.code ({ cls := "RoseThrow", name := "meant", desc := "(II)J" } : Jvm.MethodName) prog_1_method_79_code (10 : Nat) (Option.some Jvm.ClassFile.FieldType.long)) ∈ lw_all := lw_g (lw_at lw_m6 72 rfl) rfl
theorem q1399 : (Jvm.Cond.instanceMethod ({ cls := "RoseThrow", name := "film", desc := "(I)I" } : Jvm.MethodName)) ∈ lw_all := lw_g (lw_at lw_m6 74 rfl) rfl
theorem q1400 : (Jvm.Cond.selects "RoseThrow" ({ cls := "RoseThrow", name := "film", desc := "(I)I" } : Jvm.MethodName) ({ cls := "RoseThrow", name := "film", desc := "(I)I" } : Jvm.MethodName)) ∈ lw_all := lw_g (lw_at lw_m6 75 rfl) rfl
theorem q1401 : (Jvm.Cond.code ({ cls := "RoseThrow", name := "film", desc := "(I)I" } : Jvm.MethodName) prog_1_method_80_code (2 : Nat) (Option.some Jvm.ClassFile.FieldType.int)) ∈ lw_all := lw_g (lw_at lw_m6 76 rfl) rfl
theorem q1403 : (Jvm.Cond.instanceMethod ({ cls := "RoseThrow", name := "burn", desc := "()I" } : Jvm.MethodName)) ∈ lw_all := lw_g (lw_at lw_m6 78 rfl) rfl
theorem q1404 : (Jvm.Cond.selects "RoseThrow" ({ cls := "RoseThrow", name := "burn", desc := "()I" } : Jvm.MethodName) ({ cls := "RoseThrow", name := "burn", desc := "()I" } : Jvm.MethodName)) ∈ lw_all := lw_g (lw_at lw_m6 79 rfl) rfl
theorem q1405 : (Jvm.Cond.code ({ cls := "RoseThrow", name := "burn", desc := "()I" } : Jvm.MethodName) prog_1_method_81_code (2 : Nat) (Option.some Jvm.ClassFile.FieldType.int)) ∈ lw_all := lw_g (lw_at lw_m6 80 rfl) rfl
theorem q1407 : (Jvm.Cond.instanceMethod ({ cls := "RoseThrow", name := "fits", desc := "(I)I" } : Jvm.MethodName)) ∈ lw_all := lw_g (lw_at lw_m6 82 rfl) rfl
theorem q1408 : (Jvm.Cond.selects "RoseThrow" ({ cls := "RoseThrow", name := "fits", desc := "(I)I" } : Jvm.MethodName) ({ cls := "RoseThrow", name := "fits", desc := "(I)I" } : Jvm.MethodName)) ∈ lw_all := lw_g (lw_at lw_m6 83 rfl) rfl
theorem q1409 : (Jvm.Cond.code ({ cls := "RoseThrow", name := "fits", desc := "(I)I" } : Jvm.MethodName) prog_1_method_82_code (6 : Nat) (Option.some Jvm.ClassFile.FieldType.int)) ∈ lw_all := lw_g (lw_at lw_m6 84 rfl) rfl
theorem q1411 : (Jvm.Cond.instanceMethod ({ cls := "RoseThrow", name := "orders", desc := "()I" } : Jvm.MethodName)) ∈ lw_all := lw_g (lw_at lw_m6 86 rfl) rfl
theorem q1412 : (Jvm.Cond.selects "RoseThrow" ({ cls := "RoseThrow", name := "orders", desc := "()I" } : Jvm.MethodName) ({ cls := "RoseThrow", name := "orders", desc := "()I" } : Jvm.MethodName)) ∈ lw_all := lw_g (lw_at lw_m6 87 rfl) rfl
theorem q1413 : (Jvm.Cond.code ({ cls := "RoseThrow", name := "orders", desc := "()I" } : Jvm.MethodName) prog_1_method_83_code (10 : Nat) (Option.some Jvm.ClassFile.FieldType.int)) ∈ lw_all := lw_g (lw_at lw_m6 88 rfl) rfl
theorem q1414 : (Jvm.Cond.classLink "RoseThrow" (397 : Nat) "RoseThrow$OrderReader") ∈ lw_all := lw_g (lw_at lw_m6 89 rfl) rfl
theorem q1416 : (Jvm.Cond.methodLink "RoseThrow" (399 : Nat) ({ cls := "RoseThrow$OrderReader", name := "<init>", desc := "([BI)V" } : Jvm.MethodName)) ∈ lw_all := lw_g (lw_at lw_m6 91 rfl) rfl
theorem q1423 : (Jvm.Cond.fieldLinkNest "RoseThrow" (400 : Nat) "RoseThrow$OrderReader" "orders" "Ljava/util/ArrayList;" "RoseThrow") ∈ lw_tbl := lw_at lw_m6 98 rfl
theorem q1434 : (Jvm.Cond.classLink "RoseThrow" (403 : Nat) "RoseThrow$Order") ∈ lw_all := lw_g (lw_at lw_m6 109 rfl) rfl
theorem q1435 : (Jvm.Cond.methodLink "RoseThrow" (408 : Nat) ({ cls := "RoseThrow", name := "tellsOrder", desc := "(II)V" } : Jvm.MethodName)) ∈ lw_all := lw_g (lw_at lw_m6 110 rfl) rfl
theorem q1436 : (Jvm.Cond.privateMethod ({ cls := "RoseThrow", name := "tellsOrder", desc := "(II)V" } : Jvm.MethodName)) ∈ lw_tbl := lw_at lw_m6 111 rfl
theorem q1437 : (Jvm.Cond.instanceMethod ({ cls := "RoseThrow", name := "tellsOrder", desc := "(II)V" } : Jvm.MethodName)) ∈ lw_all := lw_g (lw_at lw_m6 112 rfl) rfl
theorem q1438 : (Jvm.Cond.code ({ cls := "RoseThrow", name := "tellsOrder", desc := "(II)V" } : Jvm.MethodName) prog_1_method_86_code (5 : Nat) (Option.none : Option Jvm.ClassFile.FieldType)) ∈ lw_all := lw_g (lw_at lw_m6 113 rfl) rfl
theorem q1439 : (Jvm.Cond.methodLink "RoseThrow" (411 : Nat) ({ cls := "RoseThrow$Order", name := "isNow", desc := "(LRoseThrow$Setting;)Z" } : Jvm.MethodName)) ∈ lw_all := lw_g (lw_at lw_m6 114 rfl) rfl
theorem q1445 : (Jvm.Cond.methodLink "RoseThrow" (415 : Nat) ({ cls := "RoseThrow", name := "runs", desc := "(LRoseThrow$Order;)I" } : Jvm.MethodName)) ∈ lw_all := lw_g (lw_at lw_m6 120 rfl) rfl
theorem q1446 : (Jvm.Cond.privateMethod ({ cls := "RoseThrow", name := "runs", desc := "(LRoseThrow$Order;)I" } : Jvm.MethodName)) ∈ lw_tbl := lw_at lw_m6 121 rfl
theorem q1447 : (Jvm.Cond.instanceMethod ({ cls := "RoseThrow", name := "runs", desc := "(LRoseThrow$Order;)I" } : Jvm.MethodName)) ∈ lw_all := lw_g (lw_at lw_m6 122 rfl) rfl
theorem q1448 : (Jvm.Cond.code ({ cls := "RoseThrow", name := "runs", desc := "(LRoseThrow$Order;)I" } : Jvm.MethodName) prog_1_method_84_code (4 : Nat) (Option.some Jvm.ClassFile.FieldType.int)) ∈ lw_all := lw_g (lw_at lw_m6 123 rfl) rfl
theorem q1449 : (Jvm.Cond.methodLink "RoseThrow" (429 : Nat) ({ cls := "RoseThrow$Order", name := "told", desc := "(LRoseThrow$Sum;LRoseThrow$Setting;)I" } : Jvm.MethodName)) ∈ lw_all := lw_g (lw_at lw_m6 124 rfl) rfl
theorem q1456 : (Jvm.Cond.methodLink "RoseThrow" (419 : Nat) ({ cls := "RoseThrow", name := "putsBack", desc := "(I)V" } : Jvm.MethodName)) ∈ lw_all := lw_g (lw_at lw_m6 131 rfl) rfl
theorem q1457 : (Jvm.Cond.privateMethod ({ cls := "RoseThrow", name := "putsBack", desc := "(I)V" } : Jvm.MethodName)) ∈ lw_tbl := lw_at lw_m6 132 rfl
theorem q1458 : (Jvm.Cond.instanceMethod ({ cls := "RoseThrow", name := "putsBack", desc := "(I)V" } : Jvm.MethodName)) ∈ lw_all := lw_g (lw_at lw_m6 133 rfl) rfl
theorem q1459 : (Jvm.Cond.code ({ cls := "RoseThrow", name := "putsBack", desc := "(I)V" } : Jvm.MethodName) prog_1_method_85_code (2 : Nat) (Option.none : Option Jvm.ClassFile.FieldType)) ∈ lw_all := lw_g (lw_at lw_m6 134 rfl) rfl
theorem q1461 : (Jvm.Cond.instanceMethod ({ cls := "RoseThrow", name := "weddings", desc := "(II)I" } : Jvm.MethodName)) ∈ lw_all := lw_g (lw_at lw_m6 136 rfl) rfl
theorem q1462 : (Jvm.Cond.selects "RoseThrow" ({ cls := "RoseThrow", name := "weddings", desc := "(II)I" } : Jvm.MethodName) ({ cls := "RoseThrow", name := "weddings", desc := "(II)I" } : Jvm.MethodName)) ∈ lw_all := lw_g (lw_at lw_m6 137 rfl) rfl
theorem q1463 : (Jvm.Cond.code ({ cls := "RoseThrow", name := "weddings", desc := "(II)I" } : Jvm.MethodName) prog_1_method_89_code (9 : Nat) (Option.some Jvm.ClassFile.FieldType.int)) ∈ lw_all := lw_g (lw_at lw_m6 138 rfl) rfl
theorem q1464 : (Jvm.Cond.constant "RoseThrow" (447 : Nat) (1000000 : Int32)) ∈ lw_all := lw_g (lw_at lw_m6 139 rfl) rfl
theorem q1465 : (Jvm.Cond.methodLink "RoseThrow" (444 : Nat) ({ cls := "RoseThrow", name := "draw", desc := "(I)I" } : Jvm.MethodName)) ∈ lw_all := lw_g (lw_at lw_m6 140 rfl) rfl
theorem q1466 : (Jvm.Cond.privateMethod ({ cls := "RoseThrow", name := "draw", desc := "(I)I" } : Jvm.MethodName)) ∈ lw_tbl := lw_at lw_m6 141 rfl
theorem q1467 : (Jvm.Cond.instanceMethod ({ cls := "RoseThrow", name := "draw", desc := "(I)I" } : Jvm.MethodName)) ∈ lw_all := lw_g (lw_at lw_m6 142 rfl) rfl
theorem q1468 : (Jvm.Cond.code ({ cls := "RoseThrow", name := "draw", desc := "(I)I" } : Jvm.MethodName) prog_1_method_87_code (2 : Nat) (Option.some Jvm.ClassFile.FieldType.int)) ∈ lw_all := lw_g (lw_at lw_m6 143 rfl) rfl
theorem q1469 : (Jvm.Cond.constantLong "RoseThrow" (438 : Nat) (1103 : Int64)) ∈ lw_all := lw_g (lw_at lw_m6 144 rfl) rfl
theorem q1470 : (Jvm.Cond.constantLong "RoseThrow" (440 : Nat) (12345 : Int64)) ∈ lw_all := lw_g (lw_at lw_m6 145 rfl) rfl
theorem q1471 : (Jvm.Cond.constantLong "RoseThrow" (442 : Nat) (1000003 : Int64)) ∈ lw_all := lw_g (lw_at lw_m6 146 rfl) rfl
theorem q1472 : (Jvm.Cond.methodLink "RoseThrow" (451 : Nat) ({ cls := "RoseThrow", name := "holder", desc := "(I)I" } : Jvm.MethodName)) ∈ lw_all := lw_g (lw_at lw_m6 147 rfl) rfl
theorem q1473 : (Jvm.Cond.privateMethod ({ cls := "RoseThrow", name := "holder", desc := "(I)I" } : Jvm.MethodName)) ∈ lw_tbl := lw_at lw_m6 148 rfl
theorem q1474 : (Jvm.Cond.instanceMethod ({ cls := "RoseThrow", name := "holder", desc := "(I)I" } : Jvm.MethodName)) ∈ lw_all := lw_g (lw_at lw_m6 149 rfl) rfl
theorem q1475 : (Jvm.Cond.code ({ cls := "RoseThrow", name := "holder", desc := "(I)I" } : Jvm.MethodName) prog_1_method_88_code (5 : Nat) (Option.some Jvm.ClassFile.FieldType.int)) ∈ lw_all := lw_g (lw_at lw_m6 150 rfl) rfl
theorem q1477 : (Jvm.Cond.instanceMethod ({ cls := "RoseThrow", name := "drawn", desc := "(II)I" } : Jvm.MethodName)) ∈ lw_all := lw_g (lw_at lw_m6 152 rfl) rfl
theorem q1478 : (Jvm.Cond.selects "RoseThrow" ({ cls := "RoseThrow", name := "drawn", desc := "(II)I" } : Jvm.MethodName) ({ cls := "RoseThrow", name := "drawn", desc := "(II)I" } : Jvm.MethodName)) ∈ lw_all := lw_g (lw_at lw_m6 153 rfl) rfl
theorem q1479 : (Jvm.Cond.code ({ cls := "RoseThrow", name := "drawn", desc := "(II)I" } : Jvm.MethodName) prog_1_method_90_code (3 : Nat) (Option.some Jvm.ClassFile.FieldType.int)) ∈ lw_all := lw_g (lw_at lw_m6 154 rfl) rfl
theorem q1481 : (Jvm.Cond.instanceMethod ({ cls := "RoseThrow", name := "count", desc := "(I)I" } : Jvm.MethodName)) ∈ lw_all := lw_g (lw_at lw_m6 156 rfl) rfl
theorem q1482 : (Jvm.Cond.selects "RoseThrow" ({ cls := "RoseThrow", name := "count", desc := "(I)I" } : Jvm.MethodName) ({ cls := "RoseThrow", name := "count", desc := "(I)I" } : Jvm.MethodName)) ∈ lw_all := lw_g (lw_at lw_m6 157 rfl) rfl
theorem q1483 : (Jvm.Cond.code ({ cls := "RoseThrow", name := "count", desc := "(I)I" } : Jvm.MethodName) prog_1_method_91_code (2 : Nat) (Option.some Jvm.ClassFile.FieldType.int)) ∈ lw_all := lw_g (lw_at lw_m6 158 rfl) rfl
theorem q1485 : (Jvm.Cond.instanceMethod ({ cls := "RoseThrow", name := "status", desc := "()I" } : Jvm.MethodName)) ∈ lw_all := lw_g (lw_at lw_m6 160 rfl) rfl
theorem q1486 : (Jvm.Cond.selects "RoseThrow" ({ cls := "RoseThrow", name := "status", desc := "()I" } : Jvm.MethodName) ({ cls := "RoseThrow", name := "status", desc := "()I" } : Jvm.MethodName)) ∈ lw_all := lw_g (lw_at lw_m6 161 rfl) rfl
theorem q1487 : (Jvm.Cond.code ({ cls := "RoseThrow", name := "status", desc := "()I" } : Jvm.MethodName) prog_1_method_92_code (1 : Nat) (Option.some Jvm.ClassFile.FieldType.int)) ∈ lw_all := lw_g (lw_at lw_m6 162 rfl) rfl
theorem q2267 : (Jvm.Cond.castable "RoseThrow" "java/lang/Object") ∈ lw_tbl := lw_at lw_m9 222 rfl
theorem in_X0 : ∀ w ∈ wsX00, w ∈ lw_all := lw_in wsX00 [384, 386, 388, 390, 392, 394, 396, 398, 400, 402, 404, 406, 408, 410, 412, 414, 416, 418, 420, 422, 424, 426, 428, 430, 432, 434, 436, 438] (by decide +kernel) (by decide +kernel)
