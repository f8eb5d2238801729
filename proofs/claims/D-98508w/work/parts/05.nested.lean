/-! RoseThrow$State -/
set_option maxRecDepth 100000
def RX1 : String := "RoseThrow$State"
def TX1 : u_T := fun k => match k with
  | 0 => ("RoseThrow$State", "cells", "[I", true)
  | 1 => ("RoseThrow$State", "reach", "[I", true)
  | 2 => ("RoseThrow$State", "want", "[I", true)
  | 3 => ("RoseThrow$State", "tall", "[I", true)
  | 4 => ("RoseThrow$State", "belief", "[I", true)
  | 5 => ("RoseThrow$State", "terms", "[I", true)
  | 6 => ("RoseThrow$State", "films", "[I", true)
  | 7 => ("RoseThrow$State", "laws", "Ljava/util/ArrayList;", true)
  | 8 => ("RoseThrow$State", "many", "I", false)
  | 9 => ("RoseThrow$State", "filmMany", "I", false)
  | _ => ("RoseThrow$State", "force", "I", false)
def tyX1 : Nat → FieldType := fun k => match k with
  | 0 => .array .int
  | 1 => .array .int
  | 2 => .array .int
  | 3 => .array .int
  | 4 => .array .int
  | 5 => .array .int
  | 6 => .array .int
  | 7 => .object "java/util/ArrayList"
  | 8 => .int
  | 9 => .int
  | _ => .int
abbrev wsX10 : List Cond := u_ws RX1 TX1 11
theorem nmX1 : ∀ a, a < 11 → ∀ b, b < 11 → a ≠ b → (TX1 a).2.1 ≠ (TX1 b).2.1 := by decide +kernel
theorem tyX1_ok : ∀ k, k < 11 → parseFieldDescriptor (TX1 k).2.2.1 = some (tyX1 k) := by decide +kernel
abbrev cX1_init : ByteArray := prog_16_method_1_code
def yX1_init : MethodName := ⟨RX1, "<init>", "()V"⟩
def dkwX1_init_4 : List UInt8 := [188, 10, 181, 0, 30, 42, 187, 0, 33, 89, 5, 183, 0, 35, 181, 0, 38, 42, 2, 181, 0, 42, 177]
abbrev dktX1_init_4 : List UInt8 := dkwX1_init_4 ++ []
def dkwX1_init_3 : List UInt8 := [3, 79, 89, 16, 6, 2, 79, 89, 16, 7, 16, 9, 79, 89, 16, 8, 3, 79, 181, 0, 27, 42, 16, 8]
abbrev dktX1_init_3 : List UInt8 := dkwX1_init_3 ++ dktX1_init_4
def dkwX1_init_2 : List UInt8 := [188, 10, 89, 3, 6, 79, 89, 4, 3, 79, 89, 5, 6, 79, 89, 6, 6, 79, 89, 7, 5, 79, 89, 8]
abbrev dktX1_init_2 : List UInt8 := dkwX1_init_2 ++ dktX1_init_3
def dkwX1_init_1 : List UInt8 := [188, 10, 181, 0, 18, 42, 16, 6, 188, 10, 181, 0, 21, 42, 16, 6, 188, 10, 181, 0, 24, 42, 16, 9]
abbrev dktX1_init_1 : List UInt8 := dkwX1_init_1 ++ dktX1_init_2
def dkwX1_init_0 : List UInt8 := [42, 183, 0, 3, 42, 16, 6, 188, 10, 181, 0, 9, 42, 16, 6, 188, 10, 181, 0, 15, 42, 16, 6]
abbrev dktX1_init_0 : List UInt8 := dkwX1_init_0 ++ dktX1_init_1
theorem dksX1_init_0 : cX1_init.data.toList.drop 0 = dktX1_init_0 := by decide +kernel
theorem dksX1_init_1 : cX1_init.data.toList.drop 23 = dktX1_init_1 := dk_seg dksX1_init_0 23 rfl rfl
theorem dksX1_init_2 : cX1_init.data.toList.drop 47 = dktX1_init_2 := dk_seg dksX1_init_1 24 rfl rfl
theorem dksX1_init_3 : cX1_init.data.toList.drop 71 = dktX1_init_3 := dk_seg dksX1_init_2 24 rfl rfl
theorem dksX1_init_4 : cX1_init.data.toList.drop 95 = dktX1_init_4 := dk_seg dksX1_init_3 24 rfl rfl
theorem dX1_init_0 : decode cX1_init 0 = .ok (.aload_n 0, 1) := dk_42 (dk_at dksX1_init_0 0 rfl rfl)
theorem dX1_init_1 : decode cX1_init 1 = .ok (.invokespecial 3, 3) := dk_183 0 3 (dk_at dksX1_init_0 1 rfl rfl)
theorem dX1_init_4 : decode cX1_init 4 = .ok (.aload_n 0, 1) := dk_42 (dk_at dksX1_init_0 4 rfl rfl)
theorem dX1_init_5 : decode cX1_init 5 = .ok (.bipush 6, 2) := dk_16 6 (dk_at dksX1_init_0 5 rfl rfl)
theorem dX1_init_7 : decode cX1_init 7 = .ok (.newarray .int, 2) := dk_188_10 (dk_at dksX1_init_0 7 rfl rfl)
theorem dX1_init_9 : decode cX1_init 9 = .ok (.putfield 9, 3) := dk_181 0 9 (dk_at dksX1_init_0 9 rfl rfl)
theorem dX1_init_12 : decode cX1_init 12 = .ok (.aload_n 0, 1) := dk_42 (dk_at dksX1_init_0 12 rfl rfl)
theorem dX1_init_13 : decode cX1_init 13 = .ok (.bipush 6, 2) := dk_16 6 (dk_at dksX1_init_0 13 rfl rfl)
theorem dX1_init_15 : decode cX1_init 15 = .ok (.newarray .int, 2) := dk_188_10 (dk_at dksX1_init_0 15 rfl rfl)
theorem dX1_init_17 : decode cX1_init 17 = .ok (.putfield 15, 3) := dk_181 0 15 (dk_at dksX1_init_0 17 rfl rfl)
theorem dX1_init_20 : decode cX1_init 20 = .ok (.aload_n 0, 1) := dk_42 (dk_at dksX1_init_0 20 rfl rfl)
theorem dX1_init_21 : decode cX1_init 21 = .ok (.bipush 6, 2) := dk_16 6 (dk_at dksX1_init_0 21 rfl rfl)
theorem dX1_init_23 : decode cX1_init 23 = .ok (.newarray .int, 2) := dk_188_10 (dk_at dksX1_init_1 0 rfl rfl)
theorem dX1_init_25 : decode cX1_init 25 = .ok (.putfield 18, 3) := dk_181 0 18 (dk_at dksX1_init_1 2 rfl rfl)
theorem dX1_init_28 : decode cX1_init 28 = .ok (.aload_n 0, 1) := dk_42 (dk_at dksX1_init_1 5 rfl rfl)
theorem dX1_init_29 : decode cX1_init 29 = .ok (.bipush 6, 2) := dk_16 6 (dk_at dksX1_init_1 6 rfl rfl)
theorem dX1_init_31 : decode cX1_init 31 = .ok (.newarray .int, 2) := dk_188_10 (dk_at dksX1_init_1 8 rfl rfl)
theorem dX1_init_33 : decode cX1_init 33 = .ok (.putfield 21, 3) := dk_181 0 21 (dk_at dksX1_init_1 10 rfl rfl)
theorem dX1_init_36 : decode cX1_init 36 = .ok (.aload_n 0, 1) := dk_42 (dk_at dksX1_init_1 13 rfl rfl)
theorem dX1_init_37 : decode cX1_init 37 = .ok (.bipush 6, 2) := dk_16 6 (dk_at dksX1_init_1 14 rfl rfl)
theorem dX1_init_39 : decode cX1_init 39 = .ok (.newarray .int, 2) := dk_188_10 (dk_at dksX1_init_1 16 rfl rfl)
theorem dX1_init_41 : decode cX1_init 41 = .ok (.putfield 24, 3) := dk_181 0 24 (dk_at dksX1_init_1 18 rfl rfl)
theorem dX1_init_44 : decode cX1_init 44 = .ok (.aload_n 0, 1) := dk_42 (dk_at dksX1_init_1 21 rfl rfl)
theorem dX1_init_45 : decode cX1_init 45 = .ok (.bipush 9, 2) := dk_16 9 (dk_at dksX1_init_1 22 rfl rfl)
theorem dX1_init_47 : decode cX1_init 47 = .ok (.newarray .int, 2) := dk_188_10 (dk_at dksX1_init_2 0 rfl rfl)
theorem dX1_init_49 : decode cX1_init 49 = .ok (.dup, 1) := dk_89 (dk_at dksX1_init_2 2 rfl rfl)
theorem dX1_init_50 : decode cX1_init 50 = .ok (.iconst 0, 1) := dk_3 (dk_at dksX1_init_2 3 rfl rfl)
theorem dX1_init_51 : decode cX1_init 51 = .ok (.iconst 3, 1) := dk_6 (dk_at dksX1_init_2 4 rfl rfl)
theorem dX1_init_52 : decode cX1_init 52 = .ok (.iastore, 1) := dk_79 (dk_at dksX1_init_2 5 rfl rfl)
theorem dX1_init_53 : decode cX1_init 53 = .ok (.dup, 1) := dk_89 (dk_at dksX1_init_2 6 rfl rfl)
theorem dX1_init_54 : decode cX1_init 54 = .ok (.iconst 1, 1) := dk_4 (dk_at dksX1_init_2 7 rfl rfl)
theorem dX1_init_55 : decode cX1_init 55 = .ok (.iconst 0, 1) := dk_3 (dk_at dksX1_init_2 8 rfl rfl)
theorem dX1_init_56 : decode cX1_init 56 = .ok (.iastore, 1) := dk_79 (dk_at dksX1_init_2 9 rfl rfl)
theorem dX1_init_57 : decode cX1_init 57 = .ok (.dup, 1) := dk_89 (dk_at dksX1_init_2 10 rfl rfl)
theorem dX1_init_58 : decode cX1_init 58 = .ok (.iconst 2, 1) := dk_5 (dk_at dksX1_init_2 11 rfl rfl)
theorem dX1_init_59 : decode cX1_init 59 = .ok (.iconst 3, 1) := dk_6 (dk_at dksX1_init_2 12 rfl rfl)
theorem dX1_init_60 : decode cX1_init 60 = .ok (.iastore, 1) := dk_79 (dk_at dksX1_init_2 13 rfl rfl)
theorem dX1_init_61 : decode cX1_init 61 = .ok (.dup, 1) := dk_89 (dk_at dksX1_init_2 14 rfl rfl)
theorem dX1_init_62 : decode cX1_init 62 = .ok (.iconst 3, 1) := dk_6 (dk_at dksX1_init_2 15 rfl rfl)
theorem dX1_init_63 : decode cX1_init 63 = .ok (.iconst 3, 1) := dk_6 (dk_at dksX1_init_2 16 rfl rfl)
theorem dX1_init_64 : decode cX1_init 64 = .ok (.iastore, 1) := dk_79 (dk_at dksX1_init_2 17 rfl rfl)
theorem dX1_init_65 : decode cX1_init 65 = .ok (.dup, 1) := dk_89 (dk_at dksX1_init_2 18 rfl rfl)
theorem dX1_init_66 : decode cX1_init 66 = .ok (.iconst 4, 1) := dk_7 (dk_at dksX1_init_2 19 rfl rfl)
theorem dX1_init_67 : decode cX1_init 67 = .ok (.iconst 2, 1) := dk_5 (dk_at dksX1_init_2 20 rfl rfl)
theorem dX1_init_68 : decode cX1_init 68 = .ok (.iastore, 1) := dk_79 (dk_at dksX1_init_2 21 rfl rfl)
theorem dX1_init_69 : decode cX1_init 69 = .ok (.dup, 1) := dk_89 (dk_at dksX1_init_2 22 rfl rfl)
theorem dX1_init_70 : decode cX1_init 70 = .ok (.iconst 5, 1) := dk_8 (dk_at dksX1_init_2 23 rfl rfl)
theorem dX1_init_71 : decode cX1_init 71 = .ok (.iconst 0, 1) := dk_3 (dk_at dksX1_init_3 0 rfl rfl)
theorem dX1_init_72 : decode cX1_init 72 = .ok (.iastore, 1) := dk_79 (dk_at dksX1_init_3 1 rfl rfl)
theorem dX1_init_73 : decode cX1_init 73 = .ok (.dup, 1) := dk_89 (dk_at dksX1_init_3 2 rfl rfl)
theorem dX1_init_74 : decode cX1_init 74 = .ok (.bipush 6, 2) := dk_16 6 (dk_at dksX1_init_3 3 rfl rfl)
theorem dX1_init_76 : decode cX1_init 76 = .ok (.iconst (-1), 1) := dk_2 (dk_at dksX1_init_3 5 rfl rfl)
theorem dX1_init_77 : decode cX1_init 77 = .ok (.iastore, 1) := dk_79 (dk_at dksX1_init_3 6 rfl rfl)
theorem dX1_init_78 : decode cX1_init 78 = .ok (.dup, 1) := dk_89 (dk_at dksX1_init_3 7 rfl rfl)
theorem dX1_init_79 : decode cX1_init 79 = .ok (.bipush 7, 2) := dk_16 7 (dk_at dksX1_init_3 8 rfl rfl)
theorem dX1_init_81 : decode cX1_init 81 = .ok (.bipush 9, 2) := dk_16 9 (dk_at dksX1_init_3 10 rfl rfl)
theorem dX1_init_83 : decode cX1_init 83 = .ok (.iastore, 1) := dk_79 (dk_at dksX1_init_3 12 rfl rfl)
theorem dX1_init_84 : decode cX1_init 84 = .ok (.dup, 1) := dk_89 (dk_at dksX1_init_3 13 rfl rfl)
theorem dX1_init_85 : decode cX1_init 85 = .ok (.bipush 8, 2) := dk_16 8 (dk_at dksX1_init_3 14 rfl rfl)
theorem dX1_init_87 : decode cX1_init 87 = .ok (.iconst 0, 1) := dk_3 (dk_at dksX1_init_3 16 rfl rfl)
theorem dX1_init_88 : decode cX1_init 88 = .ok (.iastore, 1) := dk_79 (dk_at dksX1_init_3 17 rfl rfl)
theorem dX1_init_89 : decode cX1_init 89 = .ok (.putfield 27, 3) := dk_181 0 27 (dk_at dksX1_init_3 18 rfl rfl)
theorem dX1_init_92 : decode cX1_init 92 = .ok (.aload_n 0, 1) := dk_42 (dk_at dksX1_init_3 21 rfl rfl)
theorem dX1_init_93 : decode cX1_init 93 = .ok (.bipush 8, 2) := dk_16 8 (dk_at dksX1_init_3 22 rfl rfl)
theorem dX1_init_95 : decode cX1_init 95 = .ok (.newarray .int, 2) := dk_188_10 (dk_at dksX1_init_4 0 rfl rfl)
theorem dX1_init_97 : decode cX1_init 97 = .ok (.putfield 30, 3) := dk_181 0 30 (dk_at dksX1_init_4 2 rfl rfl)
theorem dX1_init_100 : decode cX1_init 100 = .ok (.aload_n 0, 1) := dk_42 (dk_at dksX1_init_4 5 rfl rfl)
theorem dX1_init_101 : decode cX1_init 101 = .ok (.new 33, 3) := dk_187 0 33 (dk_at dksX1_init_4 6 rfl rfl)
theorem dX1_init_104 : decode cX1_init 104 = .ok (.dup, 1) := dk_89 (dk_at dksX1_init_4 9 rfl rfl)
theorem dX1_init_105 : decode cX1_init 105 = .ok (.iconst 2, 1) := dk_5 (dk_at dksX1_init_4 10 rfl rfl)
theorem dX1_init_106 : decode cX1_init 106 = .ok (.invokespecial 35, 3) := dk_183 0 35 (dk_at dksX1_init_4 11 rfl rfl)
theorem dX1_init_109 : decode cX1_init 109 = .ok (.putfield 38, 3) := dk_181 0 38 (dk_at dksX1_init_4 14 rfl rfl)
theorem dX1_init_112 : decode cX1_init 112 = .ok (.aload_n 0, 1) := dk_42 (dk_at dksX1_init_4 17 rfl rfl)
theorem dX1_init_113 : decode cX1_init 113 = .ok (.iconst (-1), 1) := dk_2 (dk_at dksX1_init_4 18 rfl rfl)
theorem dX1_init_114 : decode cX1_init 114 = .ok (.putfield 42, 3) := dk_181 0 42 (dk_at dksX1_init_4 19 rfl rfl)
theorem dX1_init_117 : decode cX1_init 117 = .ok (.return_, 1) := dk_177 (dk_at dksX1_init_4 22 rfl rfl)
abbrev cX1_takes : ByteArray := prog_16_method_3_code
def yX1_takes : MethodName := ⟨RX1, "takes", "(LRoseThrow$State;)V"⟩
def dkwX1_takes_5 : List UInt8 := [43, 180, 0, 42, 181, 0, 42, 177]
abbrev dktX1_takes_5 : List UInt8 := dkwX1_takes_5 ++ []
def dkwX1_takes_4 : List UInt8 := [180, 0, 38, 182, 0, 59, 87, 42, 43, 180, 0, 63, 181, 0, 63, 42, 43, 180, 0, 66, 181, 0, 66, 42]
abbrev dktX1_takes_4 : List UInt8 := dkwX1_takes_4 ++ dktX1_takes_5
def dkwX1_takes_3 : List UInt8 := [180, 0, 30, 43, 180, 0, 30, 184, 0, 52, 42, 180, 0, 38, 182, 0, 56, 42, 180, 0, 38, 43]
abbrev dktX1_takes_3 : List UInt8 := dkwX1_takes_3 ++ dktX1_takes_4
def dkwX1_takes_2 : List UInt8 := [180, 0, 24, 43, 180, 0, 24, 184, 0, 52, 42, 180, 0, 27, 43, 180, 0, 27, 184, 0, 52, 42]
abbrev dktX1_takes_2 : List UInt8 := dkwX1_takes_2 ++ dktX1_takes_3
def dkwX1_takes_1 : List UInt8 := [180, 0, 18, 43, 180, 0, 18, 184, 0, 52, 42, 180, 0, 21, 43, 180, 0, 21, 184, 0, 52, 42]
abbrev dktX1_takes_1 : List UInt8 := dkwX1_takes_1 ++ dktX1_takes_2
def dkwX1_takes_0 : List UInt8 := [42, 180, 0, 9, 43, 180, 0, 9, 184, 0, 52, 42, 180, 0, 15, 43, 180, 0, 15, 184, 0, 52, 42]
abbrev dktX1_takes_0 : List UInt8 := dkwX1_takes_0 ++ dktX1_takes_1
theorem dksX1_takes_0 : cX1_takes.data.toList.drop 0 = dktX1_takes_0 := by decide +kernel
theorem dksX1_takes_1 : cX1_takes.data.toList.drop 23 = dktX1_takes_1 := dk_seg dksX1_takes_0 23 rfl rfl
theorem dksX1_takes_2 : cX1_takes.data.toList.drop 45 = dktX1_takes_2 := dk_seg dksX1_takes_1 22 rfl rfl
theorem dksX1_takes_3 : cX1_takes.data.toList.drop 67 = dktX1_takes_3 := dk_seg dksX1_takes_2 22 rfl rfl
theorem dksX1_takes_4 : cX1_takes.data.toList.drop 89 = dktX1_takes_4 := dk_seg dksX1_takes_3 22 rfl rfl
theorem dksX1_takes_5 : cX1_takes.data.toList.drop 113 = dktX1_takes_5 := dk_seg dksX1_takes_4 24 rfl rfl
theorem dX1_takes_0 : decode cX1_takes 0 = .ok (.aload_n 0, 1) := dk_42 (dk_at dksX1_takes_0 0 rfl rfl)
theorem dX1_takes_1 : decode cX1_takes 1 = .ok (.getfield 9, 3) := dk_180 0 9 (dk_at dksX1_takes_0 1 rfl rfl)
theorem dX1_takes_4 : decode cX1_takes 4 = .ok (.aload_n 1, 1) := dk_43 (dk_at dksX1_takes_0 4 rfl rfl)
theorem dX1_takes_5 : decode cX1_takes 5 = .ok (.getfield 9, 3) := dk_180 0 9 (dk_at dksX1_takes_0 5 rfl rfl)
theorem dX1_takes_8 : decode cX1_takes 8 = .ok (.invokestatic 52, 3) := dk_184 0 52 (dk_at dksX1_takes_0 8 rfl rfl)
theorem dX1_takes_11 : decode cX1_takes 11 = .ok (.aload_n 0, 1) := dk_42 (dk_at dksX1_takes_0 11 rfl rfl)
theorem dX1_takes_12 : decode cX1_takes 12 = .ok (.getfield 15, 3) := dk_180 0 15 (dk_at dksX1_takes_0 12 rfl rfl)
theorem dX1_takes_15 : decode cX1_takes 15 = .ok (.aload_n 1, 1) := dk_43 (dk_at dksX1_takes_0 15 rfl rfl)
theorem dX1_takes_16 : decode cX1_takes 16 = .ok (.getfield 15, 3) := dk_180 0 15 (dk_at dksX1_takes_0 16 rfl rfl)
theorem dX1_takes_19 : decode cX1_takes 19 = .ok (.invokestatic 52, 3) := dk_184 0 52 (dk_at dksX1_takes_0 19 rfl rfl)
theorem dX1_takes_22 : decode cX1_takes 22 = .ok (.aload_n 0, 1) := dk_42 (dk_at dksX1_takes_0 22 rfl rfl)
theorem dX1_takes_23 : decode cX1_takes 23 = .ok (.getfield 18, 3) := dk_180 0 18 (dk_at dksX1_takes_1 0 rfl rfl)
theorem dX1_takes_26 : decode cX1_takes 26 = .ok (.aload_n 1, 1) := dk_43 (dk_at dksX1_takes_1 3 rfl rfl)
theorem dX1_takes_27 : decode cX1_takes 27 = .ok (.getfield 18, 3) := dk_180 0 18 (dk_at dksX1_takes_1 4 rfl rfl)
theorem dX1_takes_30 : decode cX1_takes 30 = .ok (.invokestatic 52, 3) := dk_184 0 52 (dk_at dksX1_takes_1 7 rfl rfl)
theorem dX1_takes_33 : decode cX1_takes 33 = .ok (.aload_n 0, 1) := dk_42 (dk_at dksX1_takes_1 10 rfl rfl)
theorem dX1_takes_34 : decode cX1_takes 34 = .ok (.getfield 21, 3) := dk_180 0 21 (dk_at dksX1_takes_1 11 rfl rfl)
theorem dX1_takes_37 : decode cX1_takes 37 = .ok (.aload_n 1, 1) := dk_43 (dk_at dksX1_takes_1 14 rfl rfl)
theorem dX1_takes_38 : decode cX1_takes 38 = .ok (.getfield 21, 3) := dk_180 0 21 (dk_at dksX1_takes_1 15 rfl rfl)
theorem dX1_takes_41 : decode cX1_takes 41 = .ok (.invokestatic 52, 3) := dk_184 0 52 (dk_at dksX1_takes_1 18 rfl rfl)
theorem dX1_takes_44 : decode cX1_takes 44 = .ok (.aload_n 0, 1) := dk_42 (dk_at dksX1_takes_1 21 rfl rfl)
theorem dX1_takes_45 : decode cX1_takes 45 = .ok (.getfield 24, 3) := dk_180 0 24 (dk_at dksX1_takes_2 0 rfl rfl)
theorem dX1_takes_48 : decode cX1_takes 48 = .ok (.aload_n 1, 1) := dk_43 (dk_at dksX1_takes_2 3 rfl rfl)
theorem dX1_takes_49 : decode cX1_takes 49 = .ok (.getfield 24, 3) := dk_180 0 24 (dk_at dksX1_takes_2 4 rfl rfl)
theorem dX1_takes_52 : decode cX1_takes 52 = .ok (.invokestatic 52, 3) := dk_184 0 52 (dk_at dksX1_takes_2 7 rfl rfl)
theorem dX1_takes_55 : decode cX1_takes 55 = .ok (.aload_n 0, 1) := dk_42 (dk_at dksX1_takes_2 10 rfl rfl)
theorem dX1_takes_56 : decode cX1_takes 56 = .ok (.getfield 27, 3) := dk_180 0 27 (dk_at dksX1_takes_2 11 rfl rfl)
theorem dX1_takes_59 : decode cX1_takes 59 = .ok (.aload_n 1, 1) := dk_43 (dk_at dksX1_takes_2 14 rfl rfl)
theorem dX1_takes_60 : decode cX1_takes 60 = .ok (.getfield 27, 3) := dk_180 0 27 (dk_at dksX1_takes_2 15 rfl rfl)
theorem dX1_takes_63 : decode cX1_takes 63 = .ok (.invokestatic 52, 3) := dk_184 0 52 (dk_at dksX1_takes_2 18 rfl rfl)
theorem dX1_takes_66 : decode cX1_takes 66 = .ok (.aload_n 0, 1) := dk_42 (dk_at dksX1_takes_2 21 rfl rfl)
theorem dX1_takes_67 : decode cX1_takes 67 = .ok (.getfield 30, 3) := dk_180 0 30 (dk_at dksX1_takes_3 0 rfl rfl)
theorem dX1_takes_70 : decode cX1_takes 70 = .ok (.aload_n 1, 1) := dk_43 (dk_at dksX1_takes_3 3 rfl rfl)
theorem dX1_takes_71 : decode cX1_takes 71 = .ok (.getfield 30, 3) := dk_180 0 30 (dk_at dksX1_takes_3 4 rfl rfl)
theorem dX1_takes_74 : decode cX1_takes 74 = .ok (.invokestatic 52, 3) := dk_184 0 52 (dk_at dksX1_takes_3 7 rfl rfl)
theorem dX1_takes_77 : decode cX1_takes 77 = .ok (.aload_n 0, 1) := dk_42 (dk_at dksX1_takes_3 10 rfl rfl)
theorem dX1_takes_78 : decode cX1_takes 78 = .ok (.getfield 38, 3) := dk_180 0 38 (dk_at dksX1_takes_3 11 rfl rfl)
theorem dX1_takes_81 : decode cX1_takes 81 = .ok (.invokevirtual 56, 3) := dk_182 0 56 (dk_at dksX1_takes_3 14 rfl rfl)
theorem dX1_takes_84 : decode cX1_takes 84 = .ok (.aload_n 0, 1) := dk_42 (dk_at dksX1_takes_3 17 rfl rfl)
theorem dX1_takes_85 : decode cX1_takes 85 = .ok (.getfield 38, 3) := dk_180 0 38 (dk_at dksX1_takes_3 18 rfl rfl)
theorem dX1_takes_88 : decode cX1_takes 88 = .ok (.aload_n 1, 1) := dk_43 (dk_at dksX1_takes_3 21 rfl rfl)
theorem dX1_takes_89 : decode cX1_takes 89 = .ok (.getfield 38, 3) := dk_180 0 38 (dk_at dksX1_takes_4 0 rfl rfl)
theorem dX1_takes_92 : decode cX1_takes 92 = .ok (.invokevirtual 59, 3) := dk_182 0 59 (dk_at dksX1_takes_4 3 rfl rfl)
theorem dX1_takes_95 : decode cX1_takes 95 = .ok (.pop, 1) := dk_87 (dk_at dksX1_takes_4 6 rfl rfl)
theorem dX1_takes_96 : decode cX1_takes 96 = .ok (.aload_n 0, 1) := dk_42 (dk_at dksX1_takes_4 7 rfl rfl)
theorem dX1_takes_97 : decode cX1_takes 97 = .ok (.aload_n 1, 1) := dk_43 (dk_at dksX1_takes_4 8 rfl rfl)
theorem dX1_takes_98 : decode cX1_takes 98 = .ok (.getfield 63, 3) := dk_180 0 63 (dk_at dksX1_takes_4 9 rfl rfl)
theorem dX1_takes_101 : decode cX1_takes 101 = .ok (.putfield 63, 3) := dk_181 0 63 (dk_at dksX1_takes_4 12 rfl rfl)
theorem dX1_takes_104 : decode cX1_takes 104 = .ok (.aload_n 0, 1) := dk_42 (dk_at dksX1_takes_4 15 rfl rfl)
theorem dX1_takes_105 : decode cX1_takes 105 = .ok (.aload_n 1, 1) := dk_43 (dk_at dksX1_takes_4 16 rfl rfl)
theorem dX1_takes_106 : decode cX1_takes 106 = .ok (.getfield 66, 3) := dk_180 0 66 (dk_at dksX1_takes_4 17 rfl rfl)
theorem dX1_takes_109 : decode cX1_takes 109 = .ok (.putfield 66, 3) := dk_181 0 66 (dk_at dksX1_takes_4 20 rfl rfl)
theorem dX1_takes_112 : decode cX1_takes 112 = .ok (.aload_n 0, 1) := dk_42 (dk_at dksX1_takes_4 23 rfl rfl)
theorem dX1_takes_113 : decode cX1_takes 113 = .ok (.aload_n 1, 1) := dk_43 (dk_at dksX1_takes_5 0 rfl rfl)
theorem dX1_takes_114 : decode cX1_takes 114 = .ok (.getfield 42, 3) := dk_180 0 42 (dk_at dksX1_takes_5 1 rfl rfl)
theorem dX1_takes_117 : decode cX1_takes 117 = .ok (.putfield 42, 3) := dk_181 0 42 (dk_at dksX1_takes_5 4 rfl rfl)
theorem dX1_takes_120 : decode cX1_takes 120 = .ok (.return_, 1) := dk_177 (dk_at dksX1_takes_5 7 rfl rfl)
abbrev cX1_rows : ByteArray := prog_16_method_2_code
def yX1_rows : MethodName := ⟨RX1, "rows", "([I[I)V"⟩
def dkwX1_rows_0 : List UInt8 := [43, 3, 42, 3, 42, 190, 184, 0, 46, 177]
abbrev dktX1_rows_0 : List UInt8 := dkwX1_rows_0 ++ []
theorem dksX1_rows_0 : cX1_rows.data.toList.drop 0 = dktX1_rows_0 := by decide +kernel
theorem dX1_rows_0 : decode cX1_rows 0 = .ok (.aload_n 1, 1) := dk_43 (dk_at dksX1_rows_0 0 rfl rfl)
theorem dX1_rows_1 : decode cX1_rows 1 = .ok (.iconst 0, 1) := dk_3 (dk_at dksX1_rows_0 1 rfl rfl)
theorem dX1_rows_2 : decode cX1_rows 2 = .ok (.aload_n 0, 1) := dk_42 (dk_at dksX1_rows_0 2 rfl rfl)
theorem dX1_rows_3 : decode cX1_rows 3 = .ok (.iconst 0, 1) := dk_3 (dk_at dksX1_rows_0 3 rfl rfl)
theorem dX1_rows_4 : decode cX1_rows 4 = .ok (.aload_n 0, 1) := dk_42 (dk_at dksX1_rows_0 4 rfl rfl)
theorem dX1_rows_5 : decode cX1_rows 5 = .ok (.arraylength, 1) := dk_190 (dk_at dksX1_rows_0 5 rfl rfl)
theorem dX1_rows_6 : decode cX1_rows 6 = .ok (.invokestatic 46, 3) := dk_184 0 46 (dk_at dksX1_rows_0 6 rfl rfl)
theorem dX1_rows_9 : decode cX1_rows 9 = .ok (.return_, 1) := dk_177 (dk_at dksX1_rows_0 9 rfl rfl)
theorem q127 : (Jvm.Cond.initialized "RoseThrow$State") ∈ lw_all := lw_g (lw_at lw_m1 2 rfl) rfl
theorem q171 : (Jvm.Cond.instantiable "RoseThrow$State" (11 : Nat)) ∈ lw_all := lw_g (lw_at lw_m1 46 rfl) rfl
theorem q173 : (Jvm.Cond.instanceMethod ({ cls := "RoseThrow$State", name := "<init>", desc := "()V" } : Jvm.MethodName)) ∈ lw_all := lw_g (lw_at lw_m1 48 rfl) rfl
theorem q174 : (Jvm.Cond.code ({ cls := "RoseThrow$State", name := "<init>", desc := "()V" } : Jvm.MethodName) prog_16_method_1_code (1 : Nat) (Option.none : Option Jvm.ClassFile.FieldType)) ∈ lw_all := lw_g (lw_at lw_m1 49 rfl) rfl
theorem q175 : (Jvm.Cond.methodLink "RoseThrow$State" (3 : Nat) ({ cls := "java/lang/Object", name := "<init>", desc := "()V" } : Jvm.MethodName)) ∈ lw_all := lw_g (lw_at lw_m1 50 rfl) rfl
theorem q176 : (Jvm.Cond.classLink "RoseThrow$State" (33 : Nat) "java/util/ArrayList") ∈ lw_all := lw_g (lw_at lw_m1 51 rfl) rfl
theorem q178 : (Jvm.Cond.methodLink "RoseThrow$State" (35 : Nat) ({ cls := "java/util/ArrayList", name := "<init>", desc := "(I)V" } : Jvm.MethodName)) ∈ lw_all := lw_g (lw_at lw_m1 53 rfl) rfl
theorem q205 : (Jvm.Cond.fieldLink "RoseThrow$State" (9 : Nat) "RoseThrow$State" "cells" "[I") ∈ lw_all := lw_g (lw_at lw_m1 80 rfl) rfl
theorem q207 : (Jvm.Cond.fieldLink "RoseThrow$State" (15 : Nat) "RoseThrow$State" "reach" "[I") ∈ lw_all := lw_g (lw_at lw_m1 82 rfl) rfl
theorem q209 : (Jvm.Cond.fieldLink "RoseThrow$State" (18 : Nat) "RoseThrow$State" "want" "[I") ∈ lw_all := lw_g (lw_at lw_m1 84 rfl) rfl
theorem q211 : (Jvm.Cond.fieldLink "RoseThrow$State" (21 : Nat) "RoseThrow$State" "tall" "[I") ∈ lw_all := lw_g (lw_at lw_m1 86 rfl) rfl
theorem q213 : (Jvm.Cond.fieldLink "RoseThrow$State" (24 : Nat) "RoseThrow$State" "belief" "[I") ∈ lw_all := lw_g (lw_at lw_m1 88 rfl) rfl
theorem q215 : (Jvm.Cond.fieldLink "RoseThrow$State" (27 : Nat) "RoseThrow$State" "terms" "[I") ∈ lw_all := lw_g (lw_at lw_m1 90 rfl) rfl
theorem q217 : (Jvm.Cond.fieldLink "RoseThrow$State" (30 : Nat) "RoseThrow$State" "films" "[I") ∈ lw_all := lw_g (lw_at lw_m1 92 rfl) rfl
theorem q219 : (Jvm.Cond.fieldLink "RoseThrow$State" (38 : Nat) "RoseThrow$State" "laws" "Ljava/util/ArrayList;") ∈ lw_all := lw_g (lw_at lw_m1 94 rfl) rfl
theorem q221 : (Jvm.Cond.fieldLink "RoseThrow$State" (63 : Nat) "RoseThrow$State" "many" "I") ∈ lw_all := lw_g (lw_at lw_m1 96 rfl) rfl
theorem q223 : (Jvm.Cond.fieldLink "RoseThrow$State" (66 : Nat) "RoseThrow$State" "filmMany" "I") ∈ lw_all := lw_g (lw_at lw_m1 98 rfl) rfl
theorem q225 : (Jvm.Cond.fieldLink "RoseThrow$State" (42 : Nat) "RoseThrow$State" "force" "I") ∈ lw_all := lw_g (lw_at lw_m1 100 rfl) rfl
theorem q227 : (Jvm.Cond.laysFinal "RoseThrow$State" "RoseThrow$State" "cells" "[I") ∈ lw_all := lw_g (lw_at lw_m1 102 rfl) rfl
theorem q228 : (Jvm.Cond.soleField "RoseThrow$State" "cells") ∈ lw_all := lw_g (lw_at lw_m1 103 rfl) rfl
theorem q229 : (Jvm.Cond.laysFinal "RoseThrow$State" "RoseThrow$State" "reach" "[I") ∈ lw_all := lw_g (lw_at lw_m1 104 rfl) rfl
theorem q230 : (Jvm.Cond.soleField "RoseThrow$State" "reach") ∈ lw_all := lw_g (lw_at lw_m1 105 rfl) rfl
theorem q231 : (Jvm.Cond.laysFinal "RoseThrow$State" "RoseThrow$State" "want" "[I") ∈ lw_all := lw_g (lw_at lw_m1 106 rfl) rfl
theorem q232 : (Jvm.Cond.soleField "RoseThrow$State" "want") ∈ lw_all := lw_g (lw_at lw_m1 107 rfl) rfl
theorem q233 : (Jvm.Cond.laysFinal "RoseThrow$State" "RoseThrow$State" "tall" "[I") ∈ lw_all := lw_g (lw_at lw_m1 108 rfl) rfl
theorem q234 : (Jvm.Cond.soleField "RoseThrow$State" "tall") ∈ lw_all := lw_g (lw_at lw_m1 109 rfl) rfl
theorem q235 : (Jvm.Cond.laysFinal "RoseThrow$State" "RoseThrow$State" "belief" "[I") ∈ lw_all := lw_g (lw_at lw_m1 110 rfl) rfl
theorem q236 : (Jvm.Cond.soleField "RoseThrow$State" "belief") ∈ lw_all := lw_g (lw_at lw_m1 111 rfl) rfl
theorem q237 : (Jvm.Cond.laysFinal "RoseThrow$State" "RoseThrow$State" "terms" "[I") ∈ lw_all := lw_g (lw_at lw_m1 112 rfl) rfl
theorem q238 : (Jvm.Cond.soleField "RoseThrow$State" "terms") ∈ lw_all := lw_g (lw_at lw_m1 113 rfl) rfl
theorem q239 : (Jvm.Cond.laysFinal "RoseThrow$State" "RoseThrow$State" "films" "[I") ∈ lw_all := lw_g (lw_at lw_m1 114 rfl) rfl
theorem q240 : (Jvm.Cond.soleField "RoseThrow$State" "films") ∈ lw_all := lw_g (lw_at lw_m1 115 rfl) rfl
theorem q241 : (Jvm.Cond.laysFinal "RoseThrow$State" "RoseThrow$State" "laws" "Ljava/util/ArrayList;") ∈ lw_all := lw_g (lw_at lw_m1 116 rfl) rfl
theorem q242 : (Jvm.Cond.soleField "RoseThrow$State" "laws") ∈ lw_all := lw_g (lw_at lw_m1 117 rfl) rfl
theorem q243 : (Jvm.Cond.lays "RoseThrow$State" "RoseThrow$State" "many" "I") ∈ lw_all := lw_g (lw_at lw_m1 118 rfl) rfl
theorem q244 : (Jvm.Cond.soleField "RoseThrow$State" "many") ∈ lw_all := lw_g (lw_at lw_m1 119 rfl) rfl
theorem q245 : (Jvm.Cond.lays "RoseThrow$State" "RoseThrow$State" "filmMany" "I") ∈ lw_all := lw_g (lw_at lw_m1 120 rfl) rfl
theorem q246 : (Jvm.Cond.soleField "RoseThrow$State" "filmMany") ∈ lw_all := lw_g (lw_at lw_m1 121 rfl) rfl
theorem q247 : (Jvm.Cond.lays "RoseThrow$State" "RoseThrow$State" "force" "I") ∈ lw_all := lw_g (lw_at lw_m1 122 rfl) rfl
theorem q248 : (Jvm.Cond.soleField "RoseThrow$State" "force") ∈ lw_all := lw_g (lw_at lw_m1 123 rfl) rfl
theorem q249 : (Jvm.Cond.superclass "RoseThrow$State" "java/lang/Object") ∈ lw_all := lw_g (lw_at lw_m1 124 rfl) rfl
theorem q453 : (Jvm.Cond.instanceMethod ({ cls := "RoseThrow$State", name := "takes", desc := "(LRoseThrow$State;)V" } : Jvm.MethodName)) ∈ lw_all := lw_g (lw_at lw_m2 88 rfl) rfl
theorem q454 : (Jvm.Cond.selects "RoseThrow$State" ({ cls := "RoseThrow$State", name := "takes", desc := "(LRoseThrow$State;)V" } : Jvm.MethodName) ({ cls := "RoseThrow$State", name := "takes", desc := "(LRoseThrow$State;)V" } : Jvm.MethodName)) ∈ lw_all := lw_g (lw_at lw_m2 89 rfl) rfl
theorem q455 : (Jvm.Cond.code ({ cls := "RoseThrow$State", name := "takes", desc := "(LRoseThrow$State;)V" } : Jvm.MethodName) prog_16_method_3_code (2 : Nat) (Option.none : Option Jvm.ClassFile.FieldType)) ∈ lw_all := lw_g (lw_at lw_m2 90 rfl) rfl
theorem q456 : (Jvm.Cond.methodLink "RoseThrow$State" (52 : Nat) ({ cls := "RoseThrow$State", name := "rows", desc := "([I[I)V" } : Jvm.MethodName)) ∈ lw_all := lw_g (lw_at lw_m2 91 rfl) rfl
theorem q457 : (Jvm.Cond.static ({ cls := "RoseThrow$State", name := "rows", desc := "([I[I)V" } : Jvm.MethodName)) ∈ lw_all := lw_g (lw_at lw_m2 92 rfl) rfl
theorem q458 : (Jvm.Cond.code ({ cls := "RoseThrow$State", name := "rows", desc := "([I[I)V" } : Jvm.MethodName) prog_16_method_2_code (2 : Nat) (Option.none : Option Jvm.ClassFile.FieldType)) ∈ lw_all := lw_g (lw_at lw_m2 93 rfl) rfl
theorem q459 : (Jvm.Cond.methodLink "RoseThrow$State" (46 : Nat) ({ cls := "java/lang/System", name := "arraycopy", desc := "(Ljava/lang/Object;ILjava/lang/Object;II)V" } : Jvm.MethodName)) ∈ lw_all := lw_g (lw_at lw_m2 94 rfl) rfl
theorem q462 : (Jvm.Cond.methodLink "RoseThrow$State" (56 : Nat) ({ cls := "java/util/ArrayList", name := "clear", desc := "()V" } : Jvm.MethodName)) ∈ lw_all := lw_g (lw_at lw_m2 97 rfl) rfl
theorem q466 : (Jvm.Cond.methodLink "RoseThrow$State" (59 : Nat) ({ cls := "java/util/ArrayList", name := "addAll", desc := "(Ljava/util/Collection;)Z" } : Jvm.MethodName)) ∈ lw_all := lw_g (lw_at lw_m2 101 rfl) rfl
theorem q500 : (Jvm.Cond.selects "RoseThrow$State" ({ cls := "java/lang/Object", name := "getClass", desc := "()Ljava/lang/Class;" } : Jvm.MethodName) ({ cls := "java/lang/Object", name := "getClass", desc := "()Ljava/lang/Class;" } : Jvm.MethodName)) ∈ lw_all := lw_g (lw_at lw_m2 135 rfl) rfl
theorem q2265 : (Jvm.Cond.castable "RoseThrow$State" "java/lang/Object") ∈ lw_tbl := lw_at lw_m9 220 rfl
theorem in_X1 : ∀ w ∈ wsX10, w ∈ lw_all := lw_in wsX10 [227, 229, 231, 233, 235, 237, 239, 241, 243, 245, 247] (by decide +kernel) (by decide +kernel)
/-! RoseThrow$Setting -/
set_option maxRecDepth 100000
def RX2 : String := "RoseThrow$Setting"
def TX2 : u_T := fun k => match k with
  | 0 => ("RoseThrow$Setting", "broken", "LRoseThrow$Broken;", true)
  | _ => ("RoseThrow$Setting", "values", "[J", true)
def tyX2 : Nat → FieldType := fun k => match k with
  | 0 => .object "RoseThrow$Broken"
  | _ => .array .long
abbrev wsX20 : List Cond := u_ws RX2 TX2 2
theorem nmX2 : ∀ a, a < 2 → ∀ b, b < 2 → a ≠ b → (TX2 a).2.1 ≠ (TX2 b).2.1 := by decide +kernel
theorem tyX2_ok : ∀ k, k < 2 → parseFieldDescriptor (TX2 k).2.2.1 = some (tyX2 k) := by decide +kernel
abbrev cX2_init : ByteArray := prog_14_method_1_code
def yX2_init : MethodName := ⟨RX2, "<init>", "()V"⟩
def dkwX2_init_0 : List UInt8 := [42, 183, 0, 3, 42, 187, 0, 9, 89, 183, 0, 11, 181, 0, 12, 42, 16, 15, 188, 11, 181, 0, 18, 177]
abbrev dktX2_init_0 : List UInt8 := dkwX2_init_0 ++ []
theorem dksX2_init_0 : cX2_init.data.toList.drop 0 = dktX2_init_0 := by decide +kernel
theorem dX2_init_0 : decode cX2_init 0 = .ok (.aload_n 0, 1) := dk_42 (dk_at dksX2_init_0 0 rfl rfl)
theorem dX2_init_1 : decode cX2_init 1 = .ok (.invokespecial 3, 3) := dk_183 0 3 (dk_at dksX2_init_0 1 rfl rfl)
theorem dX2_init_4 : decode cX2_init 4 = .ok (.aload_n 0, 1) := dk_42 (dk_at dksX2_init_0 4 rfl rfl)
theorem dX2_init_5 : decode cX2_init 5 = .ok (.new 9, 3) := dk_187 0 9 (dk_at dksX2_init_0 5 rfl rfl)
theorem dX2_init_8 : decode cX2_init 8 = .ok (.dup, 1) := dk_89 (dk_at dksX2_init_0 8 rfl rfl)
theorem dX2_init_9 : decode cX2_init 9 = .ok (.invokespecial 11, 3) := dk_183 0 11 (dk_at dksX2_init_0 9 rfl rfl)
theorem dX2_init_12 : decode cX2_init 12 = .ok (.putfield 12, 3) := dk_181 0 12 (dk_at dksX2_init_0 12 rfl rfl)
theorem dX2_init_15 : decode cX2_init 15 = .ok (.aload_n 0, 1) := dk_42 (dk_at dksX2_init_0 15 rfl rfl)
theorem dX2_init_16 : decode cX2_init 16 = .ok (.bipush 15, 2) := dk_16 15 (dk_at dksX2_init_0 16 rfl rfl)
theorem dX2_init_18 : decode cX2_init 18 = .ok (.newarray .long, 2) := dk_188_11 (dk_at dksX2_init_0 18 rfl rfl)
theorem dX2_init_20 : decode cX2_init 20 = .ok (.putfield 18, 3) := dk_181 0 18 (dk_at dksX2_init_0 20 rfl rfl)
theorem dX2_init_23 : decode cX2_init 23 = .ok (.return_, 1) := dk_177 (dk_at dksX2_init_0 23 rfl rfl)
theorem q131 : (Jvm.Cond.initialized "RoseThrow$Setting") ∈ lw_all := lw_g (lw_at lw_m1 6 rfl) rfl
theorem q252 : (Jvm.Cond.instantiable "RoseThrow$Setting" (2 : Nat)) ∈ lw_all := lw_g (lw_at lw_m1 127 rfl) rfl
theorem q254 : (Jvm.Cond.instanceMethod ({ cls := "RoseThrow$Setting", name := "<init>", desc := "()V" } : Jvm.MethodName)) ∈ lw_all := lw_g (lw_at lw_m1 129 rfl) rfl
theorem q255 : (Jvm.Cond.code ({ cls := "RoseThrow$Setting", name := "<init>", desc := "()V" } : Jvm.MethodName) prog_14_method_1_code (1 : Nat) (Option.none : Option Jvm.ClassFile.FieldType)) ∈ lw_all := lw_g (lw_at lw_m1 130 rfl) rfl
theorem q256 : (Jvm.Cond.methodLink "RoseThrow$Setting" (3 : Nat) ({ cls := "java/lang/Object", name := "<init>", desc := "()V" } : Jvm.MethodName)) ∈ lw_all := lw_g (lw_at lw_m1 131 rfl) rfl
theorem q257 : (Jvm.Cond.classLink "RoseThrow$Setting" (9 : Nat) "RoseThrow$Broken") ∈ lw_all := lw_g (lw_at lw_m1 132 rfl) rfl
theorem q295 : (Jvm.Cond.methodLink "RoseThrow$Setting" (11 : Nat) ({ cls := "RoseThrow$Broken", name := "<init>", desc := "()V" } : Jvm.MethodName)) ∈ lw_all := lw_g (lw_at lw_m1 170 rfl) rfl
theorem q318 : (Jvm.Cond.fieldLink "RoseThrow$Setting" (12 : Nat) "RoseThrow$Setting" "broken" "LRoseThrow$Broken;") ∈ lw_all := lw_g (lw_at lw_m1 193 rfl) rfl
theorem q320 : (Jvm.Cond.fieldLink "RoseThrow$Setting" (18 : Nat) "RoseThrow$Setting" "values" "[J") ∈ lw_all := lw_g (lw_at lw_m1 195 rfl) rfl
theorem q323 : (Jvm.Cond.laysFinal "RoseThrow$Setting" "RoseThrow$Setting" "broken" "LRoseThrow$Broken;") ∈ lw_all := lw_g (lw_at lw_m1 198 rfl) rfl
theorem q324 : (Jvm.Cond.soleField "RoseThrow$Setting" "broken") ∈ lw_all := lw_g (lw_at lw_m1 199 rfl) rfl
theorem q325 : (Jvm.Cond.laysFinal "RoseThrow$Setting" "RoseThrow$Setting" "values" "[J") ∈ lw_all := lw_g (lw_at lw_m1 200 rfl) rfl
theorem q326 : (Jvm.Cond.soleField "RoseThrow$Setting" "values") ∈ lw_all := lw_g (lw_at lw_m1 201 rfl) rfl
theorem q327 : (Jvm.Cond.superclass "RoseThrow$Setting" "java/lang/Object") ∈ lw_all := lw_g (lw_at lw_m1 202 rfl) rfl
theorem q498 : (Jvm.Cond.selects "RoseThrow$Setting" ({ cls := "java/lang/Object", name := "getClass", desc := "()Ljava/lang/Class;" } : Jvm.MethodName) ({ cls := "java/lang/Object", name := "getClass", desc := "()Ljava/lang/Class;" } : Jvm.MethodName)) ∈ lw_all := lw_g (lw_at lw_m2 133 rfl) rfl
theorem q2269 : (Jvm.Cond.castable "RoseThrow$Setting" "java/lang/Object") ∈ lw_tbl := lw_at lw_m9 224 rfl
theorem in_X2 : ∀ w ∈ wsX20, w ∈ lw_all := lw_in wsX20 [323, 325] (by decide +kernel) (by decide +kernel)
/-! RoseThrow$Broken -/
set_option maxRecDepth 100000
def RX3 : String := "RoseThrow$Broken"
def TX3 : u_T := fun k => match k with
  | 0 => ("java/lang/Throwable", "cause", "Ljava/lang/Throwable;", false)
  | 1 => ("java/lang/Throwable", "stackTrace", "[Ljava/lang/StackTraceElement;", false)
  | 2 => ("java/lang/Throwable", "suppressedExceptions", "Ljava/util/List;", false)
  | 3 => ("java/lang/Throwable", "detailMessage", "Ljava/lang/String;", false)
  | 4 => ("java/lang/Throwable", "backtrace", "Ljava/lang/Object;", false)
  | _ => ("java/lang/Throwable", "depth", "I", false)
def tyX3 : Nat → FieldType := fun k => match k with
  | 0 => .object "java/lang/Throwable"
  | 1 => .array (.object "java/lang/StackTraceElement")
  | 2 => .object "java/util/List"
  | 3 => .object "java/lang/String"
  | 4 => .object "java/lang/Object"
  | _ => .int
abbrev wsX30 : List Cond := u_ws RX3 TX3 6
theorem nmX3 : ∀ a, a < 6 → ∀ b, b < 6 → a ≠ b → (TX3 a).2.1 ≠ (TX3 b).2.1 := by decide +kernel
theorem tyX3_ok : ∀ k, k < 6 → parseFieldDescriptor (TX3 k).2.2.1 = some (tyX3 k) := by decide +kernel
abbrev cX3_init : ByteArray := prog_2_method_1_code
def yX3_init : MethodName := ⟨RX3, "<init>", "()V"⟩
def dkwX3_init_0 : List UInt8 := [42, 1, 1, 3, 3, 183, 0, 1, 177]
abbrev dktX3_init_0 : List UInt8 := dkwX3_init_0 ++ []
theorem dksX3_init_0 : cX3_init.data.toList.drop 0 = dktX3_init_0 := by decide +kernel
theorem dX3_init_0 : decode cX3_init 0 = .ok (.aload_n 0, 1) := dk_42 (dk_at dksX3_init_0 0 rfl rfl)
theorem dX3_init_1 : decode cX3_init 1 = .ok (.aconst_null, 1) := dk_1 (dk_at dksX3_init_0 1 rfl rfl)
theorem dX3_init_2 : decode cX3_init 2 = .ok (.aconst_null, 1) := dk_1 (dk_at dksX3_init_0 2 rfl rfl)
theorem dX3_init_3 : decode cX3_init 3 = .ok (.iconst 0, 1) := dk_3 (dk_at dksX3_init_0 3 rfl rfl)
theorem dX3_init_4 : decode cX3_init 4 = .ok (.iconst 0, 1) := dk_3 (dk_at dksX3_init_0 4 rfl rfl)
theorem dX3_init_5 : decode cX3_init 5 = .ok (.invokespecial 1, 3) := dk_183 0 1 (dk_at dksX3_init_0 5 rfl rfl)
theorem dX3_init_8 : decode cX3_init 8 = .ok (.return_, 1) := dk_177 (dk_at dksX3_init_0 8 rfl rfl)
theorem q134 : (Jvm.Cond.initialized "RoseThrow$Broken") ∈ lw_all := lw_g (lw_at lw_m1 9 rfl) rfl
theorem q258 : (Jvm.Cond.instantiable "RoseThrow$Broken" (6 : Nat)) ∈ lw_all := lw_g (lw_at lw_m1 133 rfl) rfl
theorem q259 : (Jvm.Cond.castable "RoseThrow$Broken" "RoseThrow$Broken") ∈ lw_tbl := lw_at lw_m1 134 rfl
theorem q264 : (Jvm.Cond.selects "RoseThrow$Broken" ({ cls := "java/lang/Throwable", name := "fillInStackTrace", desc := "(I)Ljava/lang/Throwable;" } : Jvm.MethodName) ({ cls := "java/lang/Throwable", name := "fillInStackTrace", desc := "(I)Ljava/lang/Throwable;" } : Jvm.MethodName)) ∈ lw_all := lw_g (lw_at lw_m1 139 rfl) rfl
theorem q265 : (Jvm.Cond.selects "RoseThrow$Broken" ({ cls := "java/lang/Throwable", name := "fillInStackTrace", desc := "()Ljava/lang/Throwable;" } : Jvm.MethodName) ({ cls := "java/lang/Throwable", name := "fillInStackTrace", desc := "()Ljava/lang/Throwable;" } : Jvm.MethodName)) ∈ lw_all := lw_g (lw_at lw_m1 140 rfl) rfl
theorem q266 : (Jvm.Cond.lays "RoseThrow$Broken" "java/lang/Throwable" "cause" "Ljava/lang/Throwable;") ∈ lw_all := lw_g (lw_at lw_m1 141 rfl) rfl
theorem q268 : (Jvm.Cond.lays "RoseThrow$Broken" "java/lang/Throwable" "stackTrace" "[Ljava/lang/StackTraceElement;") ∈ lw_all := lw_g (lw_at lw_m1 143 rfl) rfl
theorem q270 : (Jvm.Cond.lays "RoseThrow$Broken" "java/lang/Throwable" "suppressedExceptions" "Ljava/util/List;") ∈ lw_all := lw_g (lw_at lw_m1 145 rfl) rfl
theorem q272 : (Jvm.Cond.lays "RoseThrow$Broken" "java/lang/Throwable" "detailMessage" "Ljava/lang/String;") ∈ lw_all := lw_g (lw_at lw_m1 147 rfl) rfl
theorem q274 : (Jvm.Cond.lays "RoseThrow$Broken" "java/lang/Throwable" "backtrace" "Ljava/lang/Object;") ∈ lw_all := lw_g (lw_at lw_m1 149 rfl) rfl
theorem q296 : (Jvm.Cond.instanceMethod ({ cls := "RoseThrow$Broken", name := "<init>", desc := "()V" } : Jvm.MethodName)) ∈ lw_all := lw_g (lw_at lw_m1 171 rfl) rfl
theorem q297 : (Jvm.Cond.code ({ cls := "RoseThrow$Broken", name := "<init>", desc := "()V" } : Jvm.MethodName) prog_2_method_1_code (1 : Nat) (Option.none : Option Jvm.ClassFile.FieldType)) ∈ lw_all := lw_g (lw_at lw_m1 172 rfl) rfl
theorem q298 : (Jvm.Cond.methodLink "RoseThrow$Broken" (1 : Nat) ({ cls := "java/lang/Exception", name := "<init>", desc := "(Ljava/lang/String;Ljava/lang/Throwable;ZZ)V" } : Jvm.MethodName)) ∈ lw_all := lw_g (lw_at lw_m1 173 rfl) rfl
theorem q313 : (Jvm.Cond.lays "RoseThrow$Broken" "java/lang/Throwable" "depth" "I") ∈ lw_all := lw_g (lw_at lw_m1 188 rfl) rfl
theorem q316 : (Jvm.Cond.superclass "RoseThrow$Broken" "java/lang/Exception") ∈ lw_all := lw_g (lw_at lw_m1 191 rfl) rfl
theorem q487 : (Jvm.Cond.selects "RoseThrow$Broken" ({ cls := "java/lang/Object", name := "getClass", desc := "()Ljava/lang/Class;" } : Jvm.MethodName) ({ cls := "java/lang/Object", name := "getClass", desc := "()Ljava/lang/Class;" } : Jvm.MethodName)) ∈ lw_all := lw_g (lw_at lw_m2 122 rfl) rfl
theorem q2270 : (Jvm.Cond.castable "RoseThrow$Broken" "java/lang/Object") ∈ lw_tbl := lw_at lw_m9 225 rfl
theorem in_X3 : ∀ w ∈ wsX30, w ∈ lw_all := lw_in wsX30 [266, 268, 270, 272, 274, 313] (by decide +kernel) (by decide +kernel)
/-! RoseThrow$Flight -/
set_option maxRecDepth 100000
def RX4 : String := "RoseThrow$Flight"
def TX4 : u_T := fun k => match k with
  | 0 => ("RoseThrow$Flight", "to", "[I", true)
  | 1 => ("RoseThrow$Flight", "weight", "[I", true)
  | 2 => ("RoseThrow$Flight", "many", "I", false)
  | 3 => ("RoseThrow$Flight", "all", "I", false)
  | _ => ("RoseThrow$Flight", "this$0", "LRoseThrow;", true)
def tyX4 : Nat → FieldType := fun k => match k with
  | 0 => .array .int
  | 1 => .array .int
  | 2 => .int
  | 3 => .int
  | _ => .object "RoseThrow"
abbrev wsX40 : List Cond := u_ws RX4 TX4 5
theorem nmX4 : ∀ a, a < 5 → ∀ b, b < 5 → a ≠ b → (TX4 a).2.1 ≠ (TX4 b).2.1 := by decide +kernel
theorem tyX4_ok : ∀ k, k < 5 → parseFieldDescriptor (TX4 k).2.2.1 = some (tyX4 k) := by decide +kernel
abbrev cX4_init : ByteArray := prog_6_method_1_code
def yX4_init : MethodName := ⟨RX4, "<init>", "(LRoseThrow;)V"⟩
def dkwX4_init_1 : List UInt8 := [181, 0, 19, 177]
abbrev dktX4_init_1 : List UInt8 := dkwX4_init_1 ++ []
def dkwX4_init_0 : List UInt8 := [42, 43, 181, 0, 3, 42, 183, 0, 9, 42, 16, 9, 188, 10, 181, 0, 15, 42, 16, 9, 188, 10]
abbrev dktX4_init_0 : List UInt8 := dkwX4_init_0 ++ dktX4_init_1
theorem dksX4_init_0 : cX4_init.data.toList.drop 0 = dktX4_init_0 := by decide +kernel
theorem dksX4_init_1 : cX4_init.data.toList.drop 22 = dktX4_init_1 := dk_seg dksX4_init_0 22 rfl rfl
theorem dX4_init_0 : decode cX4_init 0 = .ok (.aload_n 0, 1) := dk_42 (dk_at dksX4_init_0 0 rfl rfl)
theorem dX4_init_1 : decode cX4_init 1 = .ok (.aload_n 1, 1) := dk_43 (dk_at dksX4_init_0 1 rfl rfl)
theorem dX4_init_2 : decode cX4_init 2 = .ok (.putfield 3, 3) := dk_181 0 3 (dk_at dksX4_init_0 2 rfl rfl)
theorem dX4_init_5 : decode cX4_init 5 = .ok (.aload_n 0, 1) := dk_42 (dk_at dksX4_init_0 5 rfl rfl)
theorem dX4_init_6 : decode cX4_init 6 = .ok (.invokespecial 9, 3) := dk_183 0 9 (dk_at dksX4_init_0 6 rfl rfl)
theorem dX4_init_9 : decode cX4_init 9 = .ok (.aload_n 0, 1) := dk_42 (dk_at dksX4_init_0 9 rfl rfl)
theorem dX4_init_10 : decode cX4_init 10 = .ok (.bipush 9, 2) := dk_16 9 (dk_at dksX4_init_0 10 rfl rfl)
theorem dX4_init_12 : decode cX4_init 12 = .ok (.newarray .int, 2) := dk_188_10 (dk_at dksX4_init_0 12 rfl rfl)
theorem dX4_init_14 : decode cX4_init 14 = .ok (.putfield 15, 3) := dk_181 0 15 (dk_at dksX4_init_0 14 rfl rfl)
theorem dX4_init_17 : decode cX4_init 17 = .ok (.aload_n 0, 1) := dk_42 (dk_at dksX4_init_0 17 rfl rfl)
theorem dX4_init_18 : decode cX4_init 18 = .ok (.bipush 9, 2) := dk_16 9 (dk_at dksX4_init_0 18 rfl rfl)
theorem dX4_init_20 : decode cX4_init 20 = .ok (.newarray .int, 2) := dk_188_10 (dk_at dksX4_init_0 20 rfl rfl)
theorem dX4_init_22 : decode cX4_init 22 = .ok (.putfield 19, 3) := dk_181 0 19 (dk_at dksX4_init_1 0 rfl rfl)
theorem dX4_init_25 : decode cX4_init 25 = .ok (.return_, 1) := dk_177 (dk_at dksX4_init_1 3 rfl rfl)
abbrev cX4_lays : ByteArray := prog_6_method_2_code
def yX4_lays : MethodName := ⟨RX4, "lays", "(II)V"⟩
def dkwX4_lays_5 : List UInt8 := [27, 184, 0, 41, 4, 182, 0, 33, 177]
abbrev dktX4_lays_5 : List UInt8 := dkwX4_lays_5 ++ []
def dkwX4_lays_4 : List UInt8 := [42, 180, 0, 30, 158, 0, 4, 177, 42, 3, 181, 0, 26, 42, 42, 180, 0, 3, 7, 182, 0, 37, 28, 96]
abbrev dktX4_lays_4 : List UInt8 := dkwX4_lays_4 ++ dktX4_lays_5
def dkwX4_lays_3 : List UInt8 := [27, 28, 21, 5, 21, 4, 182, 0, 44, 182, 0, 33, 132, 5, 1, 167, 255, 210, 132, 4, 1, 167, 255, 195]
abbrev dktX4_lays_3 : List UInt8 := dkwX4_lays_3 ++ dktX4_lays_4
def dkwX4_lays_2 : List UInt8 := [42, 180, 0, 3, 7, 182, 0, 37, 28, 96, 21, 5, 96, 27, 21, 4, 96, 184, 0, 41, 42, 180, 0, 3]
abbrev dktX4_lays_2 : List UInt8 := dkwX4_lays_2 ++ dktX4_lays_3
def dkwX4_lays_1 : List UInt8 := [4, 182, 0, 33, 177, 2, 54, 4, 21, 4, 5, 162, 0, 61, 2, 54, 5, 21, 5, 5, 162, 0, 46, 42]
abbrev dktX4_lays_1 : List UInt8 := dkwX4_lays_1 ++ dktX4_lays_2
def dkwX4_lays_0 : List UInt8 := [42, 27, 28, 182, 0, 22, 62, 42, 3, 181, 0, 26, 42, 3, 181, 0, 30, 29, 2, 159, 0, 10, 42, 29]
abbrev dktX4_lays_0 : List UInt8 := dkwX4_lays_0 ++ dktX4_lays_1
theorem dksX4_lays_0 : cX4_lays.data.toList.drop 0 = dktX4_lays_0 := by decide +kernel
theorem dksX4_lays_1 : cX4_lays.data.toList.drop 24 = dktX4_lays_1 := dk_seg dksX4_lays_0 24 rfl rfl
theorem dksX4_lays_2 : cX4_lays.data.toList.drop 48 = dktX4_lays_2 := dk_seg dksX4_lays_1 24 rfl rfl
theorem dksX4_lays_3 : cX4_lays.data.toList.drop 72 = dktX4_lays_3 := dk_seg dksX4_lays_2 24 rfl rfl
theorem dksX4_lays_4 : cX4_lays.data.toList.drop 96 = dktX4_lays_4 := dk_seg dksX4_lays_3 24 rfl rfl
theorem dksX4_lays_5 : cX4_lays.data.toList.drop 120 = dktX4_lays_5 := dk_seg dksX4_lays_4 24 rfl rfl
theorem dX4_lays_0 : decode cX4_lays 0 = .ok (.aload_n 0, 1) := dk_42 (dk_at dksX4_lays_0 0 rfl rfl)
theorem dX4_lays_1 : decode cX4_lays 1 = .ok (.iload_n 1, 1) := dk_27 (dk_at dksX4_lays_0 1 rfl rfl)
theorem dX4_lays_2 : decode cX4_lays 2 = .ok (.iload_n 2, 1) := dk_28 (dk_at dksX4_lays_0 2 rfl rfl)
theorem dX4_lays_3 : decode cX4_lays 3 = .ok (.invokevirtual 22, 3) := dk_182 0 22 (dk_at dksX4_lays_0 3 rfl rfl)
theorem dX4_lays_6 : decode cX4_lays 6 = .ok (.istore_n 3, 1) := dk_62 (dk_at dksX4_lays_0 6 rfl rfl)
theorem dX4_lays_7 : decode cX4_lays 7 = .ok (.aload_n 0, 1) := dk_42 (dk_at dksX4_lays_0 7 rfl rfl)
theorem dX4_lays_8 : decode cX4_lays 8 = .ok (.iconst 0, 1) := dk_3 (dk_at dksX4_lays_0 8 rfl rfl)
theorem dX4_lays_9 : decode cX4_lays 9 = .ok (.putfield 26, 3) := dk_181 0 26 (dk_at dksX4_lays_0 9 rfl rfl)
theorem dX4_lays_12 : decode cX4_lays 12 = .ok (.aload_n 0, 1) := dk_42 (dk_at dksX4_lays_0 12 rfl rfl)
theorem dX4_lays_13 : decode cX4_lays 13 = .ok (.iconst 0, 1) := dk_3 (dk_at dksX4_lays_0 13 rfl rfl)
theorem dX4_lays_14 : decode cX4_lays 14 = .ok (.putfield 30, 3) := dk_181 0 30 (dk_at dksX4_lays_0 14 rfl rfl)
theorem dX4_lays_17 : decode cX4_lays 17 = .ok (.iload_n 3, 1) := dk_29 (dk_at dksX4_lays_0 17 rfl rfl)
theorem dX4_lays_18 : decode cX4_lays 18 = .ok (.iconst (-1), 1) := dk_2 (dk_at dksX4_lays_0 18 rfl rfl)
theorem dX4_lays_19 : decode cX4_lays 19 = .ok (.if_icmp .eq 10, 3) := dk_159 0 10 (dk_at dksX4_lays_0 19 rfl rfl)
theorem dX4_lays_22 : decode cX4_lays 22 = .ok (.aload_n 0, 1) := dk_42 (dk_at dksX4_lays_0 22 rfl rfl)
theorem dX4_lays_23 : decode cX4_lays 23 = .ok (.iload_n 3, 1) := dk_29 (dk_at dksX4_lays_0 23 rfl rfl)
theorem dX4_lays_24 : decode cX4_lays 24 = .ok (.iconst 1, 1) := dk_4 (dk_at dksX4_lays_1 0 rfl rfl)
theorem dX4_lays_25 : decode cX4_lays 25 = .ok (.invokevirtual 33, 3) := dk_182 0 33 (dk_at dksX4_lays_1 1 rfl rfl)
theorem dX4_lays_28 : decode cX4_lays 28 = .ok (.return_, 1) := dk_177 (dk_at dksX4_lays_1 4 rfl rfl)
theorem dX4_lays_29 : decode cX4_lays 29 = .ok (.iconst (-1), 1) := dk_2 (dk_at dksX4_lays_1 5 rfl rfl)
theorem dX4_lays_30 : decode cX4_lays 30 = .ok (.istore 4, 2) := dk_54 4 (dk_at dksX4_lays_1 6 rfl rfl)
theorem dX4_lays_32 : decode cX4_lays 32 = .ok (.iload 4, 2) := dk_21 4 (dk_at dksX4_lays_1 8 rfl rfl)
theorem dX4_lays_34 : decode cX4_lays 34 = .ok (.iconst 2, 1) := dk_5 (dk_at dksX4_lays_1 10 rfl rfl)
theorem dX4_lays_35 : decode cX4_lays 35 = .ok (.if_icmp .ge 61, 3) := dk_162 0 61 (dk_at dksX4_lays_1 11 rfl rfl)
theorem dX4_lays_38 : decode cX4_lays 38 = .ok (.iconst (-1), 1) := dk_2 (dk_at dksX4_lays_1 14 rfl rfl)
theorem dX4_lays_39 : decode cX4_lays 39 = .ok (.istore 5, 2) := dk_54 5 (dk_at dksX4_lays_1 15 rfl rfl)
theorem dX4_lays_41 : decode cX4_lays 41 = .ok (.iload 5, 2) := dk_21 5 (dk_at dksX4_lays_1 17 rfl rfl)
theorem dX4_lays_43 : decode cX4_lays 43 = .ok (.iconst 2, 1) := dk_5 (dk_at dksX4_lays_1 19 rfl rfl)
theorem dX4_lays_44 : decode cX4_lays 44 = .ok (.if_icmp .ge 46, 3) := dk_162 0 46 (dk_at dksX4_lays_1 20 rfl rfl)
theorem dX4_lays_47 : decode cX4_lays 47 = .ok (.aload_n 0, 1) := dk_42 (dk_at dksX4_lays_1 23 rfl rfl)
theorem dX4_lays_48 : decode cX4_lays 48 = .ok (.aload_n 0, 1) := dk_42 (dk_at dksX4_lays_2 0 rfl rfl)
theorem dX4_lays_49 : decode cX4_lays 49 = .ok (.getfield 3, 3) := dk_180 0 3 (dk_at dksX4_lays_2 1 rfl rfl)
theorem dX4_lays_52 : decode cX4_lays 52 = .ok (.iconst 4, 1) := dk_7 (dk_at dksX4_lays_2 4 rfl rfl)
theorem dX4_lays_53 : decode cX4_lays 53 = .ok (.invokevirtual 37, 3) := dk_182 0 37 (dk_at dksX4_lays_2 5 rfl rfl)
theorem dX4_lays_56 : decode cX4_lays 56 = .ok (.iload_n 2, 1) := dk_28 (dk_at dksX4_lays_2 8 rfl rfl)
theorem dX4_lays_57 : decode cX4_lays 57 = .ok (.iadd, 1) := dk_96 (dk_at dksX4_lays_2 9 rfl rfl)
theorem dX4_lays_58 : decode cX4_lays 58 = .ok (.iload 5, 2) := dk_21 5 (dk_at dksX4_lays_2 10 rfl rfl)
theorem dX4_lays_60 : decode cX4_lays 60 = .ok (.iadd, 1) := dk_96 (dk_at dksX4_lays_2 12 rfl rfl)
theorem dX4_lays_61 : decode cX4_lays 61 = .ok (.iload_n 1, 1) := dk_27 (dk_at dksX4_lays_2 13 rfl rfl)
theorem dX4_lays_62 : decode cX4_lays 62 = .ok (.iload 4, 2) := dk_21 4 (dk_at dksX4_lays_2 14 rfl rfl)
theorem dX4_lays_64 : decode cX4_lays 64 = .ok (.iadd, 1) := dk_96 (dk_at dksX4_lays_2 16 rfl rfl)
theorem dX4_lays_65 : decode cX4_lays 65 = .ok (.invokestatic 41, 3) := dk_184 0 41 (dk_at dksX4_lays_2 17 rfl rfl)
theorem dX4_lays_68 : decode cX4_lays 68 = .ok (.aload_n 0, 1) := dk_42 (dk_at dksX4_lays_2 20 rfl rfl)
theorem dX4_lays_69 : decode cX4_lays 69 = .ok (.getfield 3, 3) := dk_180 0 3 (dk_at dksX4_lays_2 21 rfl rfl)
theorem dX4_lays_72 : decode cX4_lays 72 = .ok (.iload_n 1, 1) := dk_27 (dk_at dksX4_lays_3 0 rfl rfl)
theorem dX4_lays_73 : decode cX4_lays 73 = .ok (.iload_n 2, 1) := dk_28 (dk_at dksX4_lays_3 1 rfl rfl)
theorem dX4_lays_74 : decode cX4_lays 74 = .ok (.iload 5, 2) := dk_21 5 (dk_at dksX4_lays_3 2 rfl rfl)
theorem dX4_lays_76 : decode cX4_lays 76 = .ok (.iload 4, 2) := dk_21 4 (dk_at dksX4_lays_3 4 rfl rfl)
theorem dX4_lays_78 : decode cX4_lays 78 = .ok (.invokevirtual 44, 3) := dk_182 0 44 (dk_at dksX4_lays_3 6 rfl rfl)
theorem dX4_lays_81 : decode cX4_lays 81 = .ok (.invokevirtual 33, 3) := dk_182 0 33 (dk_at dksX4_lays_3 9 rfl rfl)
theorem dX4_lays_84 : decode cX4_lays 84 = .ok (.iinc 5 1, 3) := dk_132 5 1 (dk_at dksX4_lays_3 12 rfl rfl)
theorem dX4_lays_87 : decode cX4_lays 87 = .ok (.goto (-46), 3) := dk_167 255 210 (dk_at dksX4_lays_3 15 rfl rfl)
theorem dX4_lays_90 : decode cX4_lays 90 = .ok (.iinc 4 1, 3) := dk_132 4 1 (dk_at dksX4_lays_3 18 rfl rfl)
theorem dX4_lays_93 : decode cX4_lays 93 = .ok (.goto (-61), 3) := dk_167 255 195 (dk_at dksX4_lays_3 21 rfl rfl)
theorem dX4_lays_96 : decode cX4_lays 96 = .ok (.aload_n 0, 1) := dk_42 (dk_at dksX4_lays_4 0 rfl rfl)
theorem dX4_lays_97 : decode cX4_lays 97 = .ok (.getfield 30, 3) := dk_180 0 30 (dk_at dksX4_lays_4 1 rfl rfl)
theorem dX4_lays_100 : decode cX4_lays 100 = .ok (.ifCond .le 4, 3) := dk_158 0 4 (dk_at dksX4_lays_4 4 rfl rfl)
theorem dX4_lays_103 : decode cX4_lays 103 = .ok (.return_, 1) := dk_177 (dk_at dksX4_lays_4 7 rfl rfl)
theorem dX4_lays_104 : decode cX4_lays 104 = .ok (.aload_n 0, 1) := dk_42 (dk_at dksX4_lays_4 8 rfl rfl)
theorem dX4_lays_105 : decode cX4_lays 105 = .ok (.iconst 0, 1) := dk_3 (dk_at dksX4_lays_4 9 rfl rfl)
theorem dX4_lays_106 : decode cX4_lays 106 = .ok (.putfield 26, 3) := dk_181 0 26 (dk_at dksX4_lays_4 10 rfl rfl)
theorem dX4_lays_109 : decode cX4_lays 109 = .ok (.aload_n 0, 1) := dk_42 (dk_at dksX4_lays_4 13 rfl rfl)
theorem dX4_lays_110 : decode cX4_lays 110 = .ok (.aload_n 0, 1) := dk_42 (dk_at dksX4_lays_4 14 rfl rfl)
theorem dX4_lays_111 : decode cX4_lays 111 = .ok (.getfield 3, 3) := dk_180 0 3 (dk_at dksX4_lays_4 15 rfl rfl)
theorem dX4_lays_114 : decode cX4_lays 114 = .ok (.iconst 4, 1) := dk_7 (dk_at dksX4_lays_4 18 rfl rfl)
theorem dX4_lays_115 : decode cX4_lays 115 = .ok (.invokevirtual 37, 3) := dk_182 0 37 (dk_at dksX4_lays_4 19 rfl rfl)
theorem dX4_lays_118 : decode cX4_lays 118 = .ok (.iload_n 2, 1) := dk_28 (dk_at dksX4_lays_4 22 rfl rfl)
theorem dX4_lays_119 : decode cX4_lays 119 = .ok (.iadd, 1) := dk_96 (dk_at dksX4_lays_4 23 rfl rfl)
theorem dX4_lays_120 : decode cX4_lays 120 = .ok (.iload_n 1, 1) := dk_27 (dk_at dksX4_lays_5 0 rfl rfl)
theorem dX4_lays_121 : decode cX4_lays 121 = .ok (.invokestatic 41, 3) := dk_184 0 41 (dk_at dksX4_lays_5 1 rfl rfl)
theorem dX4_lays_124 : decode cX4_lays 124 = .ok (.iconst 1, 1) := dk_4 (dk_at dksX4_lays_5 4 rfl rfl)
theorem dX4_lays_125 : decode cX4_lays 125 = .ok (.invokevirtual 33, 3) := dk_182 0 33 (dk_at dksX4_lays_5 5 rfl rfl)
theorem dX4_lays_128 : decode cX4_lays 128 = .ok (.return_, 1) := dk_177 (dk_at dksX4_lays_5 8 rfl rfl)
abbrev cX4_lampOn : ByteArray := prog_6_method_4_code
def yX4_lampOn : MethodName := ⟨RX4, "lampOn", "(II)I"⟩
def dkwX4_lampOn_3 : List UInt8 := [180, 0, 3, 16, 6, 182, 0, 37, 172, 132, 3, 1, 167, 255, 175, 2, 172]
abbrev dktX4_lampOn_3 : List UInt8 := dkwX4_lampOn_3 ++ []
def dkwX4_lampOn_2 : List UInt8 := [160, 0, 33, 42, 180, 0, 3, 16, 7, 182, 0, 37, 42, 180, 0, 3, 5, 182, 0, 37, 163, 0, 13, 42]
abbrev dktX4_lampOn_2 : List UInt8 := dkwX4_lampOn_2 ++ dktX4_lampOn_3
def dkwX4_lampOn_1 : List UInt8 := [7, 182, 0, 37, 28, 29, 104, 27, 108, 96, 29, 184, 0, 41, 42, 180, 0, 3, 16, 6, 182, 0, 37]
abbrev dktX4_lampOn_1 : List UInt8 := dkwX4_lampOn_1 ++ dktX4_lampOn_2
def dkwX4_lampOn_0 : List UInt8 := [3, 62, 29, 27, 162, 0, 82, 42, 180, 0, 3, 16, 6, 182, 0, 37, 2, 159, 0, 63, 42, 180, 0, 3]
abbrev dktX4_lampOn_0 : List UInt8 := dkwX4_lampOn_0 ++ dktX4_lampOn_1
theorem dksX4_lampOn_0 : cX4_lampOn.data.toList.drop 0 = dktX4_lampOn_0 := by decide +kernel
theorem dksX4_lampOn_1 : cX4_lampOn.data.toList.drop 24 = dktX4_lampOn_1 := dk_seg dksX4_lampOn_0 24 rfl rfl
theorem dksX4_lampOn_2 : cX4_lampOn.data.toList.drop 47 = dktX4_lampOn_2 := dk_seg dksX4_lampOn_1 23 rfl rfl
theorem dksX4_lampOn_3 : cX4_lampOn.data.toList.drop 71 = dktX4_lampOn_3 := dk_seg dksX4_lampOn_2 24 rfl rfl
theorem dX4_lampOn_0 : decode cX4_lampOn 0 = .ok (.iconst 0, 1) := dk_3 (dk_at dksX4_lampOn_0 0 rfl rfl)
theorem dX4_lampOn_1 : decode cX4_lampOn 1 = .ok (.istore_n 3, 1) := dk_62 (dk_at dksX4_lampOn_0 1 rfl rfl)
theorem dX4_lampOn_2 : decode cX4_lampOn 2 = .ok (.iload_n 3, 1) := dk_29 (dk_at dksX4_lampOn_0 2 rfl rfl)
theorem dX4_lampOn_3 : decode cX4_lampOn 3 = .ok (.iload_n 1, 1) := dk_27 (dk_at dksX4_lampOn_0 3 rfl rfl)
theorem dX4_lampOn_4 : decode cX4_lampOn 4 = .ok (.if_icmp .ge 82, 3) := dk_162 0 82 (dk_at dksX4_lampOn_0 4 rfl rfl)
theorem dX4_lampOn_7 : decode cX4_lampOn 7 = .ok (.aload_n 0, 1) := dk_42 (dk_at dksX4_lampOn_0 7 rfl rfl)
theorem dX4_lampOn_8 : decode cX4_lampOn 8 = .ok (.getfield 3, 3) := dk_180 0 3 (dk_at dksX4_lampOn_0 8 rfl rfl)
theorem dX4_lampOn_11 : decode cX4_lampOn 11 = .ok (.bipush 6, 2) := dk_16 6 (dk_at dksX4_lampOn_0 11 rfl rfl)
theorem dX4_lampOn_13 : decode cX4_lampOn 13 = .ok (.invokevirtual 37, 3) := dk_182 0 37 (dk_at dksX4_lampOn_0 13 rfl rfl)
theorem dX4_lampOn_16 : decode cX4_lampOn 16 = .ok (.iconst (-1), 1) := dk_2 (dk_at dksX4_lampOn_0 16 rfl rfl)
theorem dX4_lampOn_17 : decode cX4_lampOn 17 = .ok (.if_icmp .eq 63, 3) := dk_159 0 63 (dk_at dksX4_lampOn_0 17 rfl rfl)
theorem dX4_lampOn_20 : decode cX4_lampOn 20 = .ok (.aload_n 0, 1) := dk_42 (dk_at dksX4_lampOn_0 20 rfl rfl)
theorem dX4_lampOn_21 : decode cX4_lampOn 21 = .ok (.getfield 3, 3) := dk_180 0 3 (dk_at dksX4_lampOn_0 21 rfl rfl)
theorem dX4_lampOn_24 : decode cX4_lampOn 24 = .ok (.iconst 4, 1) := dk_7 (dk_at dksX4_lampOn_1 0 rfl rfl)
theorem dX4_lampOn_25 : decode cX4_lampOn 25 = .ok (.invokevirtual 37, 3) := dk_182 0 37 (dk_at dksX4_lampOn_1 1 rfl rfl)
theorem dX4_lampOn_28 : decode cX4_lampOn 28 = .ok (.iload_n 2, 1) := dk_28 (dk_at dksX4_lampOn_1 4 rfl rfl)
theorem dX4_lampOn_29 : decode cX4_lampOn 29 = .ok (.iload_n 3, 1) := dk_29 (dk_at dksX4_lampOn_1 5 rfl rfl)
theorem dX4_lampOn_30 : decode cX4_lampOn 30 = .ok (.imul, 1) := dk_104 (dk_at dksX4_lampOn_1 6 rfl rfl)
theorem dX4_lampOn_31 : decode cX4_lampOn 31 = .ok (.iload_n 1, 1) := dk_27 (dk_at dksX4_lampOn_1 7 rfl rfl)
theorem dX4_lampOn_32 : decode cX4_lampOn 32 = .ok (.idiv, 1) := dk_108 (dk_at dksX4_lampOn_1 8 rfl rfl)
theorem dX4_lampOn_33 : decode cX4_lampOn 33 = .ok (.iadd, 1) := dk_96 (dk_at dksX4_lampOn_1 9 rfl rfl)
theorem dX4_lampOn_34 : decode cX4_lampOn 34 = .ok (.iload_n 3, 1) := dk_29 (dk_at dksX4_lampOn_1 10 rfl rfl)
theorem dX4_lampOn_35 : decode cX4_lampOn 35 = .ok (.invokestatic 41, 3) := dk_184 0 41 (dk_at dksX4_lampOn_1 11 rfl rfl)
theorem dX4_lampOn_38 : decode cX4_lampOn 38 = .ok (.aload_n 0, 1) := dk_42 (dk_at dksX4_lampOn_1 14 rfl rfl)
theorem dX4_lampOn_39 : decode cX4_lampOn 39 = .ok (.getfield 3, 3) := dk_180 0 3 (dk_at dksX4_lampOn_1 15 rfl rfl)
theorem dX4_lampOn_42 : decode cX4_lampOn 42 = .ok (.bipush 6, 2) := dk_16 6 (dk_at dksX4_lampOn_1 18 rfl rfl)
theorem dX4_lampOn_44 : decode cX4_lampOn 44 = .ok (.invokevirtual 37, 3) := dk_182 0 37 (dk_at dksX4_lampOn_1 20 rfl rfl)
theorem dX4_lampOn_47 : decode cX4_lampOn 47 = .ok (.if_icmp .ne 33, 3) := dk_160 0 33 (dk_at dksX4_lampOn_2 0 rfl rfl)
theorem dX4_lampOn_50 : decode cX4_lampOn 50 = .ok (.aload_n 0, 1) := dk_42 (dk_at dksX4_lampOn_2 3 rfl rfl)
theorem dX4_lampOn_51 : decode cX4_lampOn 51 = .ok (.getfield 3, 3) := dk_180 0 3 (dk_at dksX4_lampOn_2 4 rfl rfl)
theorem dX4_lampOn_54 : decode cX4_lampOn 54 = .ok (.bipush 7, 2) := dk_16 7 (dk_at dksX4_lampOn_2 7 rfl rfl)
theorem dX4_lampOn_56 : decode cX4_lampOn 56 = .ok (.invokevirtual 37, 3) := dk_182 0 37 (dk_at dksX4_lampOn_2 9 rfl rfl)
theorem dX4_lampOn_59 : decode cX4_lampOn 59 = .ok (.aload_n 0, 1) := dk_42 (dk_at dksX4_lampOn_2 12 rfl rfl)
theorem dX4_lampOn_60 : decode cX4_lampOn 60 = .ok (.getfield 3, 3) := dk_180 0 3 (dk_at dksX4_lampOn_2 13 rfl rfl)
theorem dX4_lampOn_63 : decode cX4_lampOn 63 = .ok (.iconst 2, 1) := dk_5 (dk_at dksX4_lampOn_2 16 rfl rfl)
theorem dX4_lampOn_64 : decode cX4_lampOn 64 = .ok (.invokevirtual 37, 3) := dk_182 0 37 (dk_at dksX4_lampOn_2 17 rfl rfl)
theorem dX4_lampOn_67 : decode cX4_lampOn 67 = .ok (.if_icmp .gt 13, 3) := dk_163 0 13 (dk_at dksX4_lampOn_2 20 rfl rfl)
theorem dX4_lampOn_70 : decode cX4_lampOn 70 = .ok (.aload_n 0, 1) := dk_42 (dk_at dksX4_lampOn_2 23 rfl rfl)
theorem dX4_lampOn_71 : decode cX4_lampOn 71 = .ok (.getfield 3, 3) := dk_180 0 3 (dk_at dksX4_lampOn_3 0 rfl rfl)
theorem dX4_lampOn_74 : decode cX4_lampOn 74 = .ok (.bipush 6, 2) := dk_16 6 (dk_at dksX4_lampOn_3 3 rfl rfl)
theorem dX4_lampOn_76 : decode cX4_lampOn 76 = .ok (.invokevirtual 37, 3) := dk_182 0 37 (dk_at dksX4_lampOn_3 5 rfl rfl)
theorem dX4_lampOn_79 : decode cX4_lampOn 79 = .ok (.ireturn, 1) := dk_172 (dk_at dksX4_lampOn_3 8 rfl rfl)
theorem dX4_lampOn_80 : decode cX4_lampOn 80 = .ok (.iinc 3 1, 3) := dk_132 3 1 (dk_at dksX4_lampOn_3 9 rfl rfl)
theorem dX4_lampOn_83 : decode cX4_lampOn 83 = .ok (.goto (-81), 3) := dk_167 255 175 (dk_at dksX4_lampOn_3 12 rfl rfl)
theorem dX4_lampOn_86 : decode cX4_lampOn 86 = .ok (.iconst (-1), 1) := dk_2 (dk_at dksX4_lampOn_3 15 rfl rfl)
theorem dX4_lampOn_87 : decode cX4_lampOn 87 = .ok (.ireturn, 1) := dk_172 (dk_at dksX4_lampOn_3 16 rfl rfl)
abbrev cX4_comes : ByteArray := prog_6_method_3_code
def yX4_comes : MethodName := ⟨RX4, "comes", "(II)V"⟩
def dkwX4_comes_1 : List UInt8 := [180, 0, 26, 4, 96, 181, 0, 26, 42, 89, 180, 0, 30, 28, 96, 181, 0, 30, 177]
abbrev dktX4_comes_1 : List UInt8 := dkwX4_comes_1 ++ []
def dkwX4_comes_0 : List UInt8 := [42, 180, 0, 15, 42, 180, 0, 26, 27, 79, 42, 180, 0, 19, 42, 180, 0, 26, 28, 79, 42, 89]
abbrev dktX4_comes_0 : List UInt8 := dkwX4_comes_0 ++ dktX4_comes_1
theorem dksX4_comes_0 : cX4_comes.data.toList.drop 0 = dktX4_comes_0 := by decide +kernel
theorem dksX4_comes_1 : cX4_comes.data.toList.drop 22 = dktX4_comes_1 := dk_seg dksX4_comes_0 22 rfl rfl
theorem dX4_comes_0 : decode cX4_comes 0 = .ok (.aload_n 0, 1) := dk_42 (dk_at dksX4_comes_0 0 rfl rfl)
theorem dX4_comes_1 : decode cX4_comes 1 = .ok (.getfield 15, 3) := dk_180 0 15 (dk_at dksX4_comes_0 1 rfl rfl)
theorem dX4_comes_4 : decode cX4_comes 4 = .ok (.aload_n 0, 1) := dk_42 (dk_at dksX4_comes_0 4 rfl rfl)
theorem dX4_comes_5 : decode cX4_comes 5 = .ok (.getfield 26, 3) := dk_180 0 26 (dk_at dksX4_comes_0 5 rfl rfl)
theorem dX4_comes_8 : decode cX4_comes 8 = .ok (.iload_n 1, 1) := dk_27 (dk_at dksX4_comes_0 8 rfl rfl)
theorem dX4_comes_9 : decode cX4_comes 9 = .ok (.iastore, 1) := dk_79 (dk_at dksX4_comes_0 9 rfl rfl)
theorem dX4_comes_10 : decode cX4_comes 10 = .ok (.aload_n 0, 1) := dk_42 (dk_at dksX4_comes_0 10 rfl rfl)
theorem dX4_comes_11 : decode cX4_comes 11 = .ok (.getfield 19, 3) := dk_180 0 19 (dk_at dksX4_comes_0 11 rfl rfl)
theorem dX4_comes_14 : decode cX4_comes 14 = .ok (.aload_n 0, 1) := dk_42 (dk_at dksX4_comes_0 14 rfl rfl)
theorem dX4_comes_15 : decode cX4_comes 15 = .ok (.getfield 26, 3) := dk_180 0 26 (dk_at dksX4_comes_0 15 rfl rfl)
theorem dX4_comes_18 : decode cX4_comes 18 = .ok (.iload_n 2, 1) := dk_28 (dk_at dksX4_comes_0 18 rfl rfl)
theorem dX4_comes_19 : decode cX4_comes 19 = .ok (.iastore, 1) := dk_79 (dk_at dksX4_comes_0 19 rfl rfl)
theorem dX4_comes_20 : decode cX4_comes 20 = .ok (.aload_n 0, 1) := dk_42 (dk_at dksX4_comes_0 20 rfl rfl)
theorem dX4_comes_21 : decode cX4_comes 21 = .ok (.dup, 1) := dk_89 (dk_at dksX4_comes_0 21 rfl rfl)
theorem dX4_comes_22 : decode cX4_comes 22 = .ok (.getfield 26, 3) := dk_180 0 26 (dk_at dksX4_comes_1 0 rfl rfl)
theorem dX4_comes_25 : decode cX4_comes 25 = .ok (.iconst 1, 1) := dk_4 (dk_at dksX4_comes_1 3 rfl rfl)
theorem dX4_comes_26 : decode cX4_comes 26 = .ok (.iadd, 1) := dk_96 (dk_at dksX4_comes_1 4 rfl rfl)
theorem dX4_comes_27 : decode cX4_comes 27 = .ok (.putfield 26, 3) := dk_181 0 26 (dk_at dksX4_comes_1 5 rfl rfl)
theorem dX4_comes_30 : decode cX4_comes 30 = .ok (.aload_n 0, 1) := dk_42 (dk_at dksX4_comes_1 8 rfl rfl)
theorem dX4_comes_31 : decode cX4_comes 31 = .ok (.dup, 1) := dk_89 (dk_at dksX4_comes_1 9 rfl rfl)
theorem dX4_comes_32 : decode cX4_comes 32 = .ok (.getfield 30, 3) := dk_180 0 30 (dk_at dksX4_comes_1 10 rfl rfl)
theorem dX4_comes_35 : decode cX4_comes 35 = .ok (.iload_n 2, 1) := dk_28 (dk_at dksX4_comes_1 13 rfl rfl)
theorem dX4_comes_36 : decode cX4_comes 36 = .ok (.iadd, 1) := dk_96 (dk_at dksX4_comes_1 14 rfl rfl)
theorem dX4_comes_37 : decode cX4_comes 37 = .ok (.putfield 30, 3) := dk_181 0 30 (dk_at dksX4_comes_1 15 rfl rfl)
theorem dX4_comes_40 : decode cX4_comes 40 = .ok (.return_, 1) := dk_177 (dk_at dksX4_comes_1 18 rfl rfl)
abbrev cX4_weightOf : ByteArray := prog_6_method_5_code
def yX4_weightOf : MethodName := ⟨RX4, "weightOf", "(I)I"⟩
def dkwX4_weightOf_1 : List UInt8 := [180, 0, 19, 29, 46, 167, 0, 4, 3, 96, 61, 132, 3, 1, 167, 255, 222, 28, 172]
abbrev dktX4_weightOf_1 : List UInt8 := dkwX4_weightOf_1 ++ []
def dkwX4_weightOf_0 : List UInt8 := [3, 61, 3, 62, 29, 42, 180, 0, 26, 162, 0, 32, 28, 42, 180, 0, 15, 29, 46, 27, 160, 0, 12, 42]
abbrev dktX4_weightOf_0 : List UInt8 := dkwX4_weightOf_0 ++ dktX4_weightOf_1
theorem dksX4_weightOf_0 : cX4_weightOf.data.toList.drop 0 = dktX4_weightOf_0 := by decide +kernel
theorem dksX4_weightOf_1 : cX4_weightOf.data.toList.drop 24 = dktX4_weightOf_1 := dk_seg dksX4_weightOf_0 24 rfl rfl
theorem dX4_weightOf_0 : decode cX4_weightOf 0 = .ok (.iconst 0, 1) := dk_3 (dk_at dksX4_weightOf_0 0 rfl rfl)
theorem dX4_weightOf_1 : decode cX4_weightOf 1 = .ok (.istore_n 2, 1) := dk_61 (dk_at dksX4_weightOf_0 1 rfl rfl)
theorem dX4_weightOf_2 : decode cX4_weightOf 2 = .ok (.iconst 0, 1) := dk_3 (dk_at dksX4_weightOf_0 2 rfl rfl)
theorem dX4_weightOf_3 : decode cX4_weightOf 3 = .ok (.istore_n 3, 1) := dk_62 (dk_at dksX4_weightOf_0 3 rfl rfl)
theorem dX4_weightOf_4 : decode cX4_weightOf 4 = .ok (.iload_n 3, 1) := dk_29 (dk_at dksX4_weightOf_0 4 rfl rfl)
theorem dX4_weightOf_5 : decode cX4_weightOf 5 = .ok (.aload_n 0, 1) := dk_42 (dk_at dksX4_weightOf_0 5 rfl rfl)
theorem dX4_weightOf_6 : decode cX4_weightOf 6 = .ok (.getfield 26, 3) := dk_180 0 26 (dk_at dksX4_weightOf_0 6 rfl rfl)
theorem dX4_weightOf_9 : decode cX4_weightOf 9 = .ok (.if_icmp .ge 32, 3) := dk_162 0 32 (dk_at dksX4_weightOf_0 9 rfl rfl)
theorem dX4_weightOf_12 : decode cX4_weightOf 12 = .ok (.iload_n 2, 1) := dk_28 (dk_at dksX4_weightOf_0 12 rfl rfl)
theorem dX4_weightOf_13 : decode cX4_weightOf 13 = .ok (.aload_n 0, 1) := dk_42 (dk_at dksX4_weightOf_0 13 rfl rfl)
theorem dX4_weightOf_14 : decode cX4_weightOf 14 = .ok (.getfield 15, 3) := dk_180 0 15 (dk_at dksX4_weightOf_0 14 rfl rfl)
theorem dX4_weightOf_17 : decode cX4_weightOf 17 = .ok (.iload_n 3, 1) := dk_29 (dk_at dksX4_weightOf_0 17 rfl rfl)
theorem dX4_weightOf_18 : decode cX4_weightOf 18 = .ok (.iaload, 1) := dk_46 (dk_at dksX4_weightOf_0 18 rfl rfl)
theorem dX4_weightOf_19 : decode cX4_weightOf 19 = .ok (.iload_n 1, 1) := dk_27 (dk_at dksX4_weightOf_0 19 rfl rfl)
theorem dX4_weightOf_20 : decode cX4_weightOf 20 = .ok (.if_icmp .ne 12, 3) := dk_160 0 12 (dk_at dksX4_weightOf_0 20 rfl rfl)
theorem dX4_weightOf_23 : decode cX4_weightOf 23 = .ok (.aload_n 0, 1) := dk_42 (dk_at dksX4_weightOf_0 23 rfl rfl)
theorem dX4_weightOf_24 : decode cX4_weightOf 24 = .ok (.getfield 19, 3) := dk_180 0 19 (dk_at dksX4_weightOf_1 0 rfl rfl)
theorem dX4_weightOf_27 : decode cX4_weightOf 27 = .ok (.iload_n 3, 1) := dk_29 (dk_at dksX4_weightOf_1 3 rfl rfl)
theorem dX4_weightOf_28 : decode cX4_weightOf 28 = .ok (.iaload, 1) := dk_46 (dk_at dksX4_weightOf_1 4 rfl rfl)
theorem dX4_weightOf_29 : decode cX4_weightOf 29 = .ok (.goto 4, 3) := dk_167 0 4 (dk_at dksX4_weightOf_1 5 rfl rfl)
theorem dX4_weightOf_32 : decode cX4_weightOf 32 = .ok (.iconst 0, 1) := dk_3 (dk_at dksX4_weightOf_1 8 rfl rfl)
theorem dX4_weightOf_33 : decode cX4_weightOf 33 = .ok (.iadd, 1) := dk_96 (dk_at dksX4_weightOf_1 9 rfl rfl)
theorem dX4_weightOf_34 : decode cX4_weightOf 34 = .ok (.istore_n 2, 1) := dk_61 (dk_at dksX4_weightOf_1 10 rfl rfl)
theorem dX4_weightOf_35 : decode cX4_weightOf 35 = .ok (.iinc 3 1, 3) := dk_132 3 1 (dk_at dksX4_weightOf_1 11 rfl rfl)
theorem dX4_weightOf_38 : decode cX4_weightOf 38 = .ok (.goto (-34), 3) := dk_167 255 222 (dk_at dksX4_weightOf_1 14 rfl rfl)
theorem dX4_weightOf_41 : decode cX4_weightOf 41 = .ok (.iload_n 2, 1) := dk_28 (dk_at dksX4_weightOf_1 17 rfl rfl)
theorem dX4_weightOf_42 : decode cX4_weightOf 42 = .ok (.ireturn, 1) := dk_172 (dk_at dksX4_weightOf_1 18 rfl rfl)
abbrev cX4_lower : ByteArray := prog_6_method_6_code
def yX4_lower : MethodName := ⟨RX4, "lower", "()J"⟩
def dkwX4_lower_0 : List UInt8 := [20, 0, 48, 42, 180, 0, 30, 133, 105, 173]
abbrev dktX4_lower_0 : List UInt8 := dkwX4_lower_0 ++ []
theorem dksX4_lower_0 : cX4_lower.data.toList.drop 0 = dktX4_lower_0 := by decide +kernel
theorem dX4_lower_0 : decode cX4_lower 0 = .ok (.ldc2_w 48, 3) := dk_20 0 48 (dk_at dksX4_lower_0 0 rfl rfl)
theorem dX4_lower_3 : decode cX4_lower 3 = .ok (.aload_n 0, 1) := dk_42 (dk_at dksX4_lower_0 3 rfl rfl)
theorem dX4_lower_4 : decode cX4_lower 4 = .ok (.getfield 30, 3) := dk_180 0 30 (dk_at dksX4_lower_0 4 rfl rfl)
theorem dX4_lower_7 : decode cX4_lower 7 = .ok (.i2l, 1) := dk_133 (dk_at dksX4_lower_0 7 rfl rfl)
theorem dX4_lower_8 : decode cX4_lower 8 = .ok (.lmul, 1) := dk_105 (dk_at dksX4_lower_0 8 rfl rfl)
theorem dX4_lower_9 : decode cX4_lower 9 = .ok (.lreturn, 1) := dk_173 (dk_at dksX4_lower_0 9 rfl rfl)
theorem q135 : (Jvm.Cond.initialized "RoseThrow$Flight") ∈ lw_all := lw_g (lw_at lw_m1 10 rfl) rfl
theorem q330 : (Jvm.Cond.instantiable "RoseThrow$Flight" (5 : Nat)) ∈ lw_all := lw_g (lw_at lw_m1 205 rfl) rfl
theorem q332 : (Jvm.Cond.instanceMethod ({ cls := "RoseThrow$Flight", name := "<init>", desc := "(LRoseThrow;)V" } : Jvm.MethodName)) ∈ lw_all := lw_g (lw_at lw_m1 207 rfl) rfl
theorem q333 : (Jvm.Cond.code ({ cls := "RoseThrow$Flight", name := "<init>", desc := "(LRoseThrow;)V" } : Jvm.MethodName) prog_6_method_1_code (2 : Nat) (Option.none : Option Jvm.ClassFile.FieldType)) ∈ lw_all := lw_g (lw_at lw_m1 208 rfl) rfl
theorem q334 : (Jvm.Cond.methodLink "RoseThrow$Flight" (9 : Nat) ({ cls := "java/lang/Object", name := "<init>", desc := "()V" } : Jvm.MethodName)) ∈ lw_all := lw_g (lw_at lw_m1 209 rfl) rfl
theorem q335 : (Jvm.Cond.fieldLink "RoseThrow$Flight" (15 : Nat) "RoseThrow$Flight" "to" "[I") ∈ lw_all := lw_g (lw_at lw_m1 210 rfl) rfl
theorem q337 : (Jvm.Cond.fieldLink "RoseThrow$Flight" (19 : Nat) "RoseThrow$Flight" "weight" "[I") ∈ lw_all := lw_g (lw_at lw_m1 212 rfl) rfl
theorem q339 : (Jvm.Cond.fieldLink "RoseThrow$Flight" (26 : Nat) "RoseThrow$Flight" "many" "I") ∈ lw_all := lw_g (lw_at lw_m1 214 rfl) rfl
theorem q341 : (Jvm.Cond.fieldLink "RoseThrow$Flight" (30 : Nat) "RoseThrow$Flight" "all" "I") ∈ lw_all := lw_g (lw_at lw_m1 216 rfl) rfl
theorem q343 : (Jvm.Cond.fieldLink "RoseThrow$Flight" (3 : Nat) "RoseThrow$Flight" "this$0" "LRoseThrow;") ∈ lw_all := lw_g (lw_at lw_m1 218 rfl) rfl
theorem q344 : (Jvm.Cond.laysFinal "RoseThrow$Flight" "RoseThrow$Flight" "to" "[I") ∈ lw_all := lw_g (lw_at lw_m1 219 rfl) rfl
theorem q345 : (Jvm.Cond.soleField "RoseThrow$Flight" "to") ∈ lw_all := lw_g (lw_at lw_m1 220 rfl) rfl
theorem q346 : (Jvm.Cond.laysFinal "RoseThrow$Flight" "RoseThrow$Flight" "weight" "[I") ∈ lw_all := lw_g (lw_at lw_m1 221 rfl) rfl
theorem q347 : (Jvm.Cond.soleField "RoseThrow$Flight" "weight") ∈ lw_all := lw_g (lw_at lw_m1 222 rfl) rfl
theorem q348 : (Jvm.Cond.lays "RoseThrow$Flight" "RoseThrow$Flight" "many" "I") ∈ lw_all := lw_g (lw_at lw_m1 223 rfl) rfl
theorem q349 : (Jvm.Cond.soleField "RoseThrow$Flight" "many") ∈ lw_all := lw_g (lw_at lw_m1 224 rfl) rfl
theorem q350 : (Jvm.Cond.lays "RoseThrow$Flight" "RoseThrow$Flight" "all" "I") ∈ lw_all := lw_g (lw_at lw_m1 225 rfl) rfl
theorem q351 : (Jvm.Cond.soleField "RoseThrow$Flight" "all") ∈ lw_all := lw_g (lw_at lw_m1 226 rfl) rfl
theorem q352 : (Jvm.Cond.laysFinal "RoseThrow$Flight" "RoseThrow$Flight" "this$0" "LRoseThrow;") ∈ lw_all := lw_g (lw_at lw_m1 227 rfl) rfl
theorem q353 : (Jvm.Cond.soleField "RoseThrow$Flight" "this$0") ∈ lw_all := lw_g (lw_at lw_m1 228 rfl) rfl
theorem q354 : (Jvm.Cond.superclass "RoseThrow$Flight" "java/lang/Object") ∈ lw_all := lw_g (lw_at lw_m1 229 rfl) rfl
theorem q491 : (Jvm.Cond.selects "RoseThrow$Flight" ({ cls := "java/lang/Object", name := "getClass", desc := "()Ljava/lang/Class;" } : Jvm.MethodName) ({ cls := "java/lang/Object", name := "getClass", desc := "()Ljava/lang/Class;" } : Jvm.MethodName)) ∈ lw_all := lw_g (lw_at lw_m2 126 rfl) rfl
theorem q1258 : (Jvm.Cond.instanceMethod ({ cls := "RoseThrow$Flight", name := "lays", desc := "(II)V" } : Jvm.MethodName)) ∈ lw_all := lw_g (lw_at lw_m5 173 rfl) rfl
theorem q1259 : (Jvm.Cond.selects "RoseThrow$Flight" ({ cls := "RoseThrow$Flight", name := "lays", desc := "(II)V" } : Jvm.MethodName) ({ cls := "RoseThrow$Flight", name := "lays", desc := "(II)V" } : Jvm.MethodName)) ∈ lw_all := lw_g (lw_at lw_m5 174 rfl) rfl
theorem q1260 : (Jvm.Cond.code ({ cls := "RoseThrow$Flight", name := "lays", desc := "(II)V" } : Jvm.MethodName) prog_6_method_2_code (6 : Nat) (Option.none : Option Jvm.ClassFile.FieldType)) ∈ lw_all := lw_g (lw_at lw_m5 175 rfl) rfl
theorem q1261 : (Jvm.Cond.methodLink "RoseThrow$Flight" (22 : Nat) ({ cls := "RoseThrow$Flight", name := "lampOn", desc := "(II)I" } : Jvm.MethodName)) ∈ lw_all := lw_g (lw_at lw_m5 176 rfl) rfl
theorem q1262 : (Jvm.Cond.privateMethod ({ cls := "RoseThrow$Flight", name := "lampOn", desc := "(II)I" } : Jvm.MethodName)) ∈ lw_tbl := lw_at lw_m5 177 rfl
theorem q1263 : (Jvm.Cond.instanceMethod ({ cls := "RoseThrow$Flight", name := "lampOn", desc := "(II)I" } : Jvm.MethodName)) ∈ lw_all := lw_g (lw_at lw_m5 178 rfl) rfl
theorem q1264 : (Jvm.Cond.code ({ cls := "RoseThrow$Flight", name := "lampOn", desc := "(II)I" } : Jvm.MethodName) prog_6_method_4_code (4 : Nat) (Option.some Jvm.ClassFile.FieldType.int)) ∈ lw_all := lw_g (lw_at lw_m5 179 rfl) rfl
theorem q1265 : (Jvm.Cond.methodLinkNest "RoseThrow$Flight" (37 : Nat) ({ cls := "RoseThrow", name := "term", desc := "(I)I" } : Jvm.MethodName) "RoseThrow") ∈ lw_tbl := lw_at lw_m5 180 rfl
theorem q1266 : (Jvm.Cond.methodLinkNest "RoseThrow$Flight" (41 : Nat) ({ cls := "RoseThrow", name := "cellAt", desc := "(II)I" } : Jvm.MethodName) "RoseThrow") ∈ lw_tbl := lw_at lw_m5 181 rfl
theorem q1269 : (Jvm.Cond.methodLink "RoseThrow$Flight" (33 : Nat) ({ cls := "RoseThrow$Flight", name := "comes", desc := "(II)V" } : Jvm.MethodName)) ∈ lw_all := lw_g (lw_at lw_m5 184 rfl) rfl
theorem q1270 : (Jvm.Cond.privateMethod ({ cls := "RoseThrow$Flight", name := "comes", desc := "(II)V" } : Jvm.MethodName)) ∈ lw_tbl := lw_at lw_m5 185 rfl
theorem q1271 : (Jvm.Cond.instanceMethod ({ cls := "RoseThrow$Flight", name := "comes", desc := "(II)V" } : Jvm.MethodName)) ∈ lw_all := lw_g (lw_at lw_m5 186 rfl) rfl
theorem q1272 : (Jvm.Cond.code ({ cls := "RoseThrow$Flight", name := "comes", desc := "(II)V" } : Jvm.MethodName) prog_6_method_3_code (3 : Nat) (Option.none : Option Jvm.ClassFile.FieldType)) ∈ lw_all := lw_g (lw_at lw_m5 187 rfl) rfl
theorem q1273 : (Jvm.Cond.methodLinkNest "RoseThrow$Flight" (44 : Nat) ({ cls := "RoseThrow", name := "slip", desc := "(IIII)I" } : Jvm.MethodName) "RoseThrow") ∈ lw_tbl := lw_at lw_m5 188 rfl
theorem q1278 : (Jvm.Cond.instanceMethod ({ cls := "RoseThrow$Flight", name := "weightOf", desc := "(I)I" } : Jvm.MethodName)) ∈ lw_all := lw_g (lw_at lw_m5 193 rfl) rfl
theorem q1279 : (Jvm.Cond.selects "RoseThrow$Flight" ({ cls := "RoseThrow$Flight", name := "weightOf", desc := "(I)I" } : Jvm.MethodName) ({ cls := "RoseThrow$Flight", name := "weightOf", desc := "(I)I" } : Jvm.MethodName)) ∈ lw_all := lw_g (lw_at lw_m5 194 rfl) rfl
theorem q1280 : (Jvm.Cond.code ({ cls := "RoseThrow$Flight", name := "weightOf", desc := "(I)I" } : Jvm.MethodName) prog_6_method_5_code (4 : Nat) (Option.some Jvm.ClassFile.FieldType.int)) ∈ lw_all := lw_g (lw_at lw_m5 195 rfl) rfl
theorem q1310 : (Jvm.Cond.instanceMethod ({ cls := "RoseThrow$Flight", name := "lower", desc := "()J" } : Jvm.MethodName)) ∈ lw_all := lw_g (lw_at lw_m5 225 rfl) rfl
theorem q1311 : (Jvm.Cond.selects "RoseThrow$Flight" ({ cls := "RoseThrow$Flight", name := "lower", desc := "()J" } : Jvm.MethodName) ({ cls := "RoseThrow$Flight", name := "lower", desc := "()J" } : Jvm.MethodName)) ∈ lw_all := lw_g (lw_at lw_m5 226 rfl) rfl
theorem q1312 : (Jvm.Cond.code ({ cls := "RoseThrow$Flight", name := "lower", desc := "()J" } : Jvm.MethodName) prog_6_method_6_code (1 : Nat) (Option.some Jvm.ClassFile.FieldType.long)) ∈ lw_all := lw_g (lw_at lw_m5 227 rfl) rfl
theorem q1313 : (Jvm.Cond.constantLong "RoseThrow$Flight" (48 : Nat) (60 : Int64)) ∈ lw_all := lw_g (lw_at lw_m5 228 rfl) rfl
theorem q2266 : (Jvm.Cond.castable "RoseThrow$Flight" "java/lang/Object") ∈ lw_tbl := lw_at lw_m9 221 rfl
theorem in_X4 : ∀ w ∈ wsX40, w ∈ lw_all := lw_in wsX40 [344, 346, 348, 350, 352] (by decide +kernel) (by decide +kernel)
/-! RoseThrow$Reader -/
set_option maxRecDepth 100000
def RX6 : String := "RoseThrow$Reader"
abbrev cX6_init : ByteArray := prog_13_method_1_code
def yX6_init : MethodName := ⟨RX6, "<init>", "([BI)V"⟩
def dkwX6_init_0 : List UInt8 := [42, 183, 0, 3, 42, 43, 181, 0, 9, 42, 28, 181, 0, 15, 177]
abbrev dktX6_init_0 : List UInt8 := dkwX6_init_0 ++ []
theorem dksX6_init_0 : cX6_init.data.toList.drop 0 = dktX6_init_0 := by decide +kernel
theorem dX6_init_0 : decode cX6_init 0 = .ok (.aload_n 0, 1) := dk_42 (dk_at dksX6_init_0 0 rfl rfl)
theorem dX6_init_1 : decode cX6_init 1 = .ok (.invokespecial 3, 3) := dk_183 0 3 (dk_at dksX6_init_0 1 rfl rfl)
theorem dX6_init_4 : decode cX6_init 4 = .ok (.aload_n 0, 1) := dk_42 (dk_at dksX6_init_0 4 rfl rfl)
theorem dX6_init_5 : decode cX6_init 5 = .ok (.aload_n 1, 1) := dk_43 (dk_at dksX6_init_0 5 rfl rfl)
theorem dX6_init_6 : decode cX6_init 6 = .ok (.putfield 9, 3) := dk_181 0 9 (dk_at dksX6_init_0 6 rfl rfl)
theorem dX6_init_9 : decode cX6_init 9 = .ok (.aload_n 0, 1) := dk_42 (dk_at dksX6_init_0 9 rfl rfl)
theorem dX6_init_10 : decode cX6_init 10 = .ok (.iload_n 2, 1) := dk_28 (dk_at dksX6_init_0 10 rfl rfl)
theorem dX6_init_11 : decode cX6_init 11 = .ok (.putfield 15, 3) := dk_181 0 15 (dk_at dksX6_init_0 11 rfl rfl)
theorem dX6_init_14 : decode cX6_init 14 = .ok (.return_, 1) := dk_177 (dk_at dksX6_init_0 14 rfl rfl)
abbrev cX6_read : ByteArray := prog_13_method_10_code
def yX6_read : MethodName := ⟨RX6, "read", "()V"⟩
def dkwX6_read_1 : List UInt8 := [42, 180, 0, 22, 42, 180, 0, 15, 162, 0, 15, 187, 0, 49, 89, 42, 180, 0, 22, 183, 0, 51, 191, 177]
abbrev dktX6_read_1 : List UInt8 := dkwX6_read_1 ++ []
def dkwX6_read_0 : List UInt8 := [42, 182, 0, 43, 42, 182, 0, 54, 42, 18, 57, 182, 0, 46, 153, 0, 10, 42, 182, 0, 54, 167, 255, 243]
abbrev dktX6_read_0 : List UInt8 := dkwX6_read_0 ++ dktX6_read_1
theorem dksX6_read_0 : cX6_read.data.toList.drop 0 = dktX6_read_0 := by decide +kernel
theorem dksX6_read_1 : cX6_read.data.toList.drop 24 = dktX6_read_1 := dk_seg dksX6_read_0 24 rfl rfl
theorem dX6_read_0 : decode cX6_read 0 = .ok (.aload_n 0, 1) := dk_42 (dk_at dksX6_read_0 0 rfl rfl)
theorem dX6_read_1 : decode cX6_read 1 = .ok (.invokevirtual 43, 3) := dk_182 0 43 (dk_at dksX6_read_0 1 rfl rfl)
theorem dX6_read_4 : decode cX6_read 4 = .ok (.aload_n 0, 1) := dk_42 (dk_at dksX6_read_0 4 rfl rfl)
theorem dX6_read_5 : decode cX6_read 5 = .ok (.invokevirtual 54, 3) := dk_182 0 54 (dk_at dksX6_read_0 5 rfl rfl)
theorem dX6_read_8 : decode cX6_read 8 = .ok (.aload_n 0, 1) := dk_42 (dk_at dksX6_read_0 8 rfl rfl)
theorem dX6_read_9 : decode cX6_read 9 = .ok (.ldc 57, 2) := dk_18 57 (dk_at dksX6_read_0 9 rfl rfl)
theorem dX6_read_11 : decode cX6_read 11 = .ok (.invokevirtual 46, 3) := dk_182 0 46 (dk_at dksX6_read_0 11 rfl rfl)
theorem dX6_read_14 : decode cX6_read 14 = .ok (.ifCond .eq 10, 3) := dk_153 0 10 (dk_at dksX6_read_0 14 rfl rfl)
theorem dX6_read_17 : decode cX6_read 17 = .ok (.aload_n 0, 1) := dk_42 (dk_at dksX6_read_0 17 rfl rfl)
theorem dX6_read_18 : decode cX6_read 18 = .ok (.invokevirtual 54, 3) := dk_182 0 54 (dk_at dksX6_read_0 18 rfl rfl)
theorem dX6_read_21 : decode cX6_read 21 = .ok (.goto (-13), 3) := dk_167 255 243 (dk_at dksX6_read_0 21 rfl rfl)
theorem dX6_read_24 : decode cX6_read 24 = .ok (.aload_n 0, 1) := dk_42 (dk_at dksX6_read_1 0 rfl rfl)
theorem dX6_read_25 : decode cX6_read 25 = .ok (.getfield 22, 3) := dk_180 0 22 (dk_at dksX6_read_1 1 rfl rfl)
theorem dX6_read_28 : decode cX6_read 28 = .ok (.aload_n 0, 1) := dk_42 (dk_at dksX6_read_1 4 rfl rfl)
theorem dX6_read_29 : decode cX6_read 29 = .ok (.getfield 15, 3) := dk_180 0 15 (dk_at dksX6_read_1 5 rfl rfl)
theorem dX6_read_32 : decode cX6_read 32 = .ok (.if_icmp .ge 15, 3) := dk_162 0 15 (dk_at dksX6_read_1 8 rfl rfl)
theorem dX6_read_35 : decode cX6_read 35 = .ok (.new 49, 3) := dk_187 0 49 (dk_at dksX6_read_1 11 rfl rfl)
theorem dX6_read_38 : decode cX6_read 38 = .ok (.dup, 1) := dk_89 (dk_at dksX6_read_1 14 rfl rfl)
theorem dX6_read_39 : decode cX6_read 39 = .ok (.aload_n 0, 1) := dk_42 (dk_at dksX6_read_1 15 rfl rfl)
theorem dX6_read_40 : decode cX6_read 40 = .ok (.getfield 22, 3) := dk_180 0 22 (dk_at dksX6_read_1 16 rfl rfl)
theorem dX6_read_43 : decode cX6_read 43 = .ok (.invokespecial 51, 3) := dk_183 0 51 (dk_at dksX6_read_1 19 rfl rfl)
theorem dX6_read_46 : decode cX6_read 46 = .ok (.athrow, 1) := dk_191 (dk_at dksX6_read_1 22 rfl rfl)
theorem dX6_read_47 : decode cX6_read 47 = .ok (.return_, 1) := dk_177 (dk_at dksX6_read_1 23 rfl rfl)
abbrev cX6_next : ByteArray := prog_13_method_3_code
def yX6_next : MethodName := ⟨RX6, "next", "()V"⟩
def dkwX6_next_6 : List UInt8 := [162, 0, 13, 42, 89, 180, 0, 19, 4, 96, 181, 0, 19, 177]
abbrev dktX6_next_6 : List UInt8 := dkwX6_next_6 ++ []
def dkwX6_next_5 : List UInt8 := [153, 0, 37, 42, 89, 180, 0, 19, 4, 96, 181, 0, 19, 167, 255, 231, 42, 180, 0, 22, 42, 180, 0, 15]
abbrev dktX6_next_5 : List UInt8 := dkwX6_next_5 ++ dktX6_next_6
def dkwX6_next_4 : List UInt8 := [16, 48, 16, 57, 182, 0, 25, 153, 0, 31, 42, 42, 180, 0, 19, 16, 48, 16, 57, 182, 0, 25]
abbrev dktX6_next_4 : List UInt8 := dkwX6_next_4 ++ dktX6_next_5
def dkwX6_next_3 : List UInt8 := [182, 0, 25, 153, 0, 80, 42, 89, 180, 0, 19, 4, 96, 181, 0, 19, 167, 255, 231, 42, 42, 180, 0, 22]
abbrev dktX6_next_3 : List UInt8 := dkwX6_next_3 ++ dktX6_next_4
def dkwX6_next_2 : List UInt8 := [180, 0, 22, 16, 97, 16, 122, 182, 0, 25, 153, 0, 31, 42, 42, 180, 0, 19, 16, 97, 16, 122]
abbrev dktX6_next_2 : List UInt8 := dkwX6_next_2 ++ dktX6_next_3
def dkwX6_next_1 : List UInt8 := [89, 180, 0, 22, 4, 96, 181, 0, 22, 167, 255, 231, 42, 42, 180, 0, 22, 181, 0, 19, 42, 42]
abbrev dktX6_next_1 : List UInt8 := dkwX6_next_1 ++ dktX6_next_2
def dkwX6_next_0 : List UInt8 := [42, 42, 180, 0, 19, 181, 0, 22, 42, 42, 180, 0, 22, 16, 32, 16, 32, 182, 0, 25, 153, 0, 16, 42]
abbrev dktX6_next_0 : List UInt8 := dkwX6_next_0 ++ dktX6_next_1
theorem dksX6_next_0 : cX6_next.data.toList.drop 0 = dktX6_next_0 := by decide +kernel
theorem dksX6_next_1 : cX6_next.data.toList.drop 24 = dktX6_next_1 := dk_seg dksX6_next_0 24 rfl rfl
theorem dksX6_next_2 : cX6_next.data.toList.drop 46 = dktX6_next_2 := dk_seg dksX6_next_1 22 rfl rfl
theorem dksX6_next_3 : cX6_next.data.toList.drop 68 = dktX6_next_3 := dk_seg dksX6_next_2 22 rfl rfl
theorem dksX6_next_4 : cX6_next.data.toList.drop 92 = dktX6_next_4 := dk_seg dksX6_next_3 24 rfl rfl
theorem dksX6_next_5 : cX6_next.data.toList.drop 114 = dktX6_next_5 := dk_seg dksX6_next_4 22 rfl rfl
theorem dksX6_next_6 : cX6_next.data.toList.drop 138 = dktX6_next_6 := dk_seg dksX6_next_5 24 rfl rfl
theorem dX6_next_0 : decode cX6_next 0 = .ok (.aload_n 0, 1) := dk_42 (dk_at dksX6_next_0 0 rfl rfl)
theorem dX6_next_1 : decode cX6_next 1 = .ok (.aload_n 0, 1) := dk_42 (dk_at dksX6_next_0 1 rfl rfl)
theorem dX6_next_2 : decode cX6_next 2 = .ok (.getfield 19, 3) := dk_180 0 19 (dk_at dksX6_next_0 2 rfl rfl)
theorem dX6_next_5 : decode cX6_next 5 = .ok (.putfield 22, 3) := dk_181 0 22 (dk_at dksX6_next_0 5 rfl rfl)
theorem dX6_next_8 : decode cX6_next 8 = .ok (.aload_n 0, 1) := dk_42 (dk_at dksX6_next_0 8 rfl rfl)
theorem dX6_next_9 : decode cX6_next 9 = .ok (.aload_n 0, 1) := dk_42 (dk_at dksX6_next_0 9 rfl rfl)
theorem dX6_next_10 : decode cX6_next 10 = .ok (.getfield 22, 3) := dk_180 0 22 (dk_at dksX6_next_0 10 rfl rfl)
theorem dX6_next_13 : decode cX6_next 13 = .ok (.bipush 32, 2) := dk_16 32 (dk_at dksX6_next_0 13 rfl rfl)
theorem dX6_next_15 : decode cX6_next 15 = .ok (.bipush 32, 2) := dk_16 32 (dk_at dksX6_next_0 15 rfl rfl)
theorem dX6_next_17 : decode cX6_next 17 = .ok (.invokevirtual 25, 3) := dk_182 0 25 (dk_at dksX6_next_0 17 rfl rfl)
theorem dX6_next_20 : decode cX6_next 20 = .ok (.ifCond .eq 16, 3) := dk_153 0 16 (dk_at dksX6_next_0 20 rfl rfl)
theorem dX6_next_23 : decode cX6_next 23 = .ok (.aload_n 0, 1) := dk_42 (dk_at dksX6_next_0 23 rfl rfl)
theorem dX6_next_24 : decode cX6_next 24 = .ok (.dup, 1) := dk_89 (dk_at dksX6_next_1 0 rfl rfl)
theorem dX6_next_25 : decode cX6_next 25 = .ok (.getfield 22, 3) := dk_180 0 22 (dk_at dksX6_next_1 1 rfl rfl)
theorem dX6_next_28 : decode cX6_next 28 = .ok (.iconst 1, 1) := dk_4 (dk_at dksX6_next_1 4 rfl rfl)
theorem dX6_next_29 : decode cX6_next 29 = .ok (.iadd, 1) := dk_96 (dk_at dksX6_next_1 5 rfl rfl)
theorem dX6_next_30 : decode cX6_next 30 = .ok (.putfield 22, 3) := dk_181 0 22 (dk_at dksX6_next_1 6 rfl rfl)
theorem dX6_next_33 : decode cX6_next 33 = .ok (.goto (-25), 3) := dk_167 255 231 (dk_at dksX6_next_1 9 rfl rfl)
theorem dX6_next_36 : decode cX6_next 36 = .ok (.aload_n 0, 1) := dk_42 (dk_at dksX6_next_1 12 rfl rfl)
theorem dX6_next_37 : decode cX6_next 37 = .ok (.aload_n 0, 1) := dk_42 (dk_at dksX6_next_1 13 rfl rfl)
theorem dX6_next_38 : decode cX6_next 38 = .ok (.getfield 22, 3) := dk_180 0 22 (dk_at dksX6_next_1 14 rfl rfl)
theorem dX6_next_41 : decode cX6_next 41 = .ok (.putfield 19, 3) := dk_181 0 19 (dk_at dksX6_next_1 17 rfl rfl)
theorem dX6_next_44 : decode cX6_next 44 = .ok (.aload_n 0, 1) := dk_42 (dk_at dksX6_next_1 20 rfl rfl)
theorem dX6_next_45 : decode cX6_next 45 = .ok (.aload_n 0, 1) := dk_42 (dk_at dksX6_next_1 21 rfl rfl)
theorem dX6_next_46 : decode cX6_next 46 = .ok (.getfield 22, 3) := dk_180 0 22 (dk_at dksX6_next_2 0 rfl rfl)
theorem dX6_next_49 : decode cX6_next 49 = .ok (.bipush 97, 2) := dk_16 97 (dk_at dksX6_next_2 3 rfl rfl)
theorem dX6_next_51 : decode cX6_next 51 = .ok (.bipush 122, 2) := dk_16 122 (dk_at dksX6_next_2 5 rfl rfl)
theorem dX6_next_53 : decode cX6_next 53 = .ok (.invokevirtual 25, 3) := dk_182 0 25 (dk_at dksX6_next_2 7 rfl rfl)
theorem dX6_next_56 : decode cX6_next 56 = .ok (.ifCond .eq 31, 3) := dk_153 0 31 (dk_at dksX6_next_2 10 rfl rfl)
theorem dX6_next_59 : decode cX6_next 59 = .ok (.aload_n 0, 1) := dk_42 (dk_at dksX6_next_2 13 rfl rfl)
theorem dX6_next_60 : decode cX6_next 60 = .ok (.aload_n 0, 1) := dk_42 (dk_at dksX6_next_2 14 rfl rfl)
theorem dX6_next_61 : decode cX6_next 61 = .ok (.getfield 19, 3) := dk_180 0 19 (dk_at dksX6_next_2 15 rfl rfl)
theorem dX6_next_64 : decode cX6_next 64 = .ok (.bipush 97, 2) := dk_16 97 (dk_at dksX6_next_2 18 rfl rfl)
theorem dX6_next_66 : decode cX6_next 66 = .ok (.bipush 122, 2) := dk_16 122 (dk_at dksX6_next_2 20 rfl rfl)
theorem dX6_next_68 : decode cX6_next 68 = .ok (.invokevirtual 25, 3) := dk_182 0 25 (dk_at dksX6_next_3 0 rfl rfl)
theorem dX6_next_71 : decode cX6_next 71 = .ok (.ifCond .eq 80, 3) := dk_153 0 80 (dk_at dksX6_next_3 3 rfl rfl)
theorem dX6_next_74 : decode cX6_next 74 = .ok (.aload_n 0, 1) := dk_42 (dk_at dksX6_next_3 6 rfl rfl)
theorem dX6_next_75 : decode cX6_next 75 = .ok (.dup, 1) := dk_89 (dk_at dksX6_next_3 7 rfl rfl)
theorem dX6_next_76 : decode cX6_next 76 = .ok (.getfield 19, 3) := dk_180 0 19 (dk_at dksX6_next_3 8 rfl rfl)
theorem dX6_next_79 : decode cX6_next 79 = .ok (.iconst 1, 1) := dk_4 (dk_at dksX6_next_3 11 rfl rfl)
theorem dX6_next_80 : decode cX6_next 80 = .ok (.iadd, 1) := dk_96 (dk_at dksX6_next_3 12 rfl rfl)
theorem dX6_next_81 : decode cX6_next 81 = .ok (.putfield 19, 3) := dk_181 0 19 (dk_at dksX6_next_3 13 rfl rfl)
theorem dX6_next_84 : decode cX6_next 84 = .ok (.goto (-25), 3) := dk_167 255 231 (dk_at dksX6_next_3 16 rfl rfl)
theorem dX6_next_87 : decode cX6_next 87 = .ok (.aload_n 0, 1) := dk_42 (dk_at dksX6_next_3 19 rfl rfl)
theorem dX6_next_88 : decode cX6_next 88 = .ok (.aload_n 0, 1) := dk_42 (dk_at dksX6_next_3 20 rfl rfl)
theorem dX6_next_89 : decode cX6_next 89 = .ok (.getfield 22, 3) := dk_180 0 22 (dk_at dksX6_next_3 21 rfl rfl)
theorem dX6_next_92 : decode cX6_next 92 = .ok (.bipush 48, 2) := dk_16 48 (dk_at dksX6_next_4 0 rfl rfl)
theorem dX6_next_94 : decode cX6_next 94 = .ok (.bipush 57, 2) := dk_16 57 (dk_at dksX6_next_4 2 rfl rfl)
theorem dX6_next_96 : decode cX6_next 96 = .ok (.invokevirtual 25, 3) := dk_182 0 25 (dk_at dksX6_next_4 4 rfl rfl)
theorem dX6_next_99 : decode cX6_next 99 = .ok (.ifCond .eq 31, 3) := dk_153 0 31 (dk_at dksX6_next_4 7 rfl rfl)
theorem dX6_next_102 : decode cX6_next 102 = .ok (.aload_n 0, 1) := dk_42 (dk_at dksX6_next_4 10 rfl rfl)
theorem dX6_next_103 : decode cX6_next 103 = .ok (.aload_n 0, 1) := dk_42 (dk_at dksX6_next_4 11 rfl rfl)
theorem dX6_next_104 : decode cX6_next 104 = .ok (.getfield 19, 3) := dk_180 0 19 (dk_at dksX6_next_4 12 rfl rfl)
theorem dX6_next_107 : decode cX6_next 107 = .ok (.bipush 48, 2) := dk_16 48 (dk_at dksX6_next_4 15 rfl rfl)
theorem dX6_next_109 : decode cX6_next 109 = .ok (.bipush 57, 2) := dk_16 57 (dk_at dksX6_next_4 17 rfl rfl)
theorem dX6_next_111 : decode cX6_next 111 = .ok (.invokevirtual 25, 3) := dk_182 0 25 (dk_at dksX6_next_4 19 rfl rfl)
theorem dX6_next_114 : decode cX6_next 114 = .ok (.ifCond .eq 37, 3) := dk_153 0 37 (dk_at dksX6_next_5 0 rfl rfl)
theorem dX6_next_117 : decode cX6_next 117 = .ok (.aload_n 0, 1) := dk_42 (dk_at dksX6_next_5 3 rfl rfl)
theorem dX6_next_118 : decode cX6_next 118 = .ok (.dup, 1) := dk_89 (dk_at dksX6_next_5 4 rfl rfl)
theorem dX6_next_119 : decode cX6_next 119 = .ok (.getfield 19, 3) := dk_180 0 19 (dk_at dksX6_next_5 5 rfl rfl)
theorem dX6_next_122 : decode cX6_next 122 = .ok (.iconst 1, 1) := dk_4 (dk_at dksX6_next_5 8 rfl rfl)
theorem dX6_next_123 : decode cX6_next 123 = .ok (.iadd, 1) := dk_96 (dk_at dksX6_next_5 9 rfl rfl)
theorem dX6_next_124 : decode cX6_next 124 = .ok (.putfield 19, 3) := dk_181 0 19 (dk_at dksX6_next_5 10 rfl rfl)
theorem dX6_next_127 : decode cX6_next 127 = .ok (.goto (-25), 3) := dk_167 255 231 (dk_at dksX6_next_5 13 rfl rfl)
theorem dX6_next_130 : decode cX6_next 130 = .ok (.aload_n 0, 1) := dk_42 (dk_at dksX6_next_5 16 rfl rfl)
theorem dX6_next_131 : decode cX6_next 131 = .ok (.getfield 22, 3) := dk_180 0 22 (dk_at dksX6_next_5 17 rfl rfl)
theorem dX6_next_134 : decode cX6_next 134 = .ok (.aload_n 0, 1) := dk_42 (dk_at dksX6_next_5 20 rfl rfl)
theorem dX6_next_135 : decode cX6_next 135 = .ok (.getfield 15, 3) := dk_180 0 15 (dk_at dksX6_next_5 21 rfl rfl)
theorem dX6_next_138 : decode cX6_next 138 = .ok (.if_icmp .ge 13, 3) := dk_162 0 13 (dk_at dksX6_next_6 0 rfl rfl)
theorem dX6_next_141 : decode cX6_next 141 = .ok (.aload_n 0, 1) := dk_42 (dk_at dksX6_next_6 3 rfl rfl)
theorem dX6_next_142 : decode cX6_next 142 = .ok (.dup, 1) := dk_89 (dk_at dksX6_next_6 4 rfl rfl)
theorem dX6_next_143 : decode cX6_next 143 = .ok (.getfield 19, 3) := dk_180 0 19 (dk_at dksX6_next_6 5 rfl rfl)
theorem dX6_next_146 : decode cX6_next 146 = .ok (.iconst 1, 1) := dk_4 (dk_at dksX6_next_6 8 rfl rfl)
theorem dX6_next_147 : decode cX6_next 147 = .ok (.iadd, 1) := dk_96 (dk_at dksX6_next_6 9 rfl rfl)
theorem dX6_next_148 : decode cX6_next 148 = .ok (.putfield 19, 3) := dk_181 0 19 (dk_at dksX6_next_6 10 rfl rfl)
theorem dX6_next_151 : decode cX6_next 151 = .ok (.return_, 1) := dk_177 (dk_at dksX6_next_6 13 rfl rfl)
abbrev cX6_isIn : ByteArray := prog_13_method_2_code
def yX6_isIn : MethodName := ⟨RX6, "isIn", "(III)Z"⟩
def dkwX6_isIn_1 : List UInt8 := [29, 163, 0, 7, 4, 167, 0, 4, 3, 172]
abbrev dktX6_isIn_1 : List UInt8 := dkwX6_isIn_1 ++ []
def dkwX6_isIn_0 : List UInt8 := [27, 42, 180, 0, 15, 162, 0, 27, 42, 180, 0, 9, 27, 51, 28, 161, 0, 17, 42, 180, 0, 9, 27, 51]
abbrev dktX6_isIn_0 : List UInt8 := dkwX6_isIn_0 ++ dktX6_isIn_1
theorem dksX6_isIn_0 : cX6_isIn.data.toList.drop 0 = dktX6_isIn_0 := by decide +kernel
theorem dksX6_isIn_1 : cX6_isIn.data.toList.drop 24 = dktX6_isIn_1 := dk_seg dksX6_isIn_0 24 rfl rfl
theorem dX6_isIn_0 : decode cX6_isIn 0 = .ok (.iload_n 1, 1) := dk_27 (dk_at dksX6_isIn_0 0 rfl rfl)
theorem dX6_isIn_1 : decode cX6_isIn 1 = .ok (.aload_n 0, 1) := dk_42 (dk_at dksX6_isIn_0 1 rfl rfl)
theorem dX6_isIn_2 : decode cX6_isIn 2 = .ok (.getfield 15, 3) := dk_180 0 15 (dk_at dksX6_isIn_0 2 rfl rfl)
theorem dX6_isIn_5 : decode cX6_isIn 5 = .ok (.if_icmp .ge 27, 3) := dk_162 0 27 (dk_at dksX6_isIn_0 5 rfl rfl)
theorem dX6_isIn_8 : decode cX6_isIn 8 = .ok (.aload_n 0, 1) := dk_42 (dk_at dksX6_isIn_0 8 rfl rfl)
theorem dX6_isIn_9 : decode cX6_isIn 9 = .ok (.getfield 9, 3) := dk_180 0 9 (dk_at dksX6_isIn_0 9 rfl rfl)
theorem dX6_isIn_12 : decode cX6_isIn 12 = .ok (.iload_n 1, 1) := dk_27 (dk_at dksX6_isIn_0 12 rfl rfl)
theorem dX6_isIn_13 : decode cX6_isIn 13 = .ok (.baload, 1) := dk_51 (dk_at dksX6_isIn_0 13 rfl rfl)
theorem dX6_isIn_14 : decode cX6_isIn 14 = .ok (.iload_n 2, 1) := dk_28 (dk_at dksX6_isIn_0 14 rfl rfl)
theorem dX6_isIn_15 : decode cX6_isIn 15 = .ok (.if_icmp .lt 17, 3) := dk_161 0 17 (dk_at dksX6_isIn_0 15 rfl rfl)
theorem dX6_isIn_18 : decode cX6_isIn 18 = .ok (.aload_n 0, 1) := dk_42 (dk_at dksX6_isIn_0 18 rfl rfl)
theorem dX6_isIn_19 : decode cX6_isIn 19 = .ok (.getfield 9, 3) := dk_180 0 9 (dk_at dksX6_isIn_0 19 rfl rfl)
theorem dX6_isIn_22 : decode cX6_isIn 22 = .ok (.iload_n 1, 1) := dk_27 (dk_at dksX6_isIn_0 22 rfl rfl)
theorem dX6_isIn_23 : decode cX6_isIn 23 = .ok (.baload, 1) := dk_51 (dk_at dksX6_isIn_0 23 rfl rfl)
theorem dX6_isIn_24 : decode cX6_isIn 24 = .ok (.iload_n 3, 1) := dk_29 (dk_at dksX6_isIn_1 0 rfl rfl)
theorem dX6_isIn_25 : decode cX6_isIn 25 = .ok (.if_icmp .gt 7, 3) := dk_163 0 7 (dk_at dksX6_isIn_1 1 rfl rfl)
theorem dX6_isIn_28 : decode cX6_isIn 28 = .ok (.iconst 1, 1) := dk_4 (dk_at dksX6_isIn_1 4 rfl rfl)
theorem dX6_isIn_29 : decode cX6_isIn 29 = .ok (.goto 4, 3) := dk_167 0 4 (dk_at dksX6_isIn_1 5 rfl rfl)
theorem dX6_isIn_32 : decode cX6_isIn 32 = .ok (.iconst 0, 1) := dk_3 (dk_at dksX6_isIn_1 8 rfl rfl)
theorem dX6_isIn_33 : decode cX6_isIn 33 = .ok (.ireturn, 1) := dk_172 (dk_at dksX6_isIn_1 9 rfl rfl)
abbrev cX6_is : ByteArray := prog_13_method_4_code
def yX6_is : MethodName := ⟨RX6, "is", "(Ljava/lang/String;)Z"⟩
def dkwX6_is_2 : List UInt8 := [159, 0, 5, 3, 172, 132, 2, 1, 167, 255, 224, 4, 172]
abbrev dktX6_is_2 : List UInt8 := dkwX6_is_2 ++ []
def dkwX6_is_1 : List UInt8 := [182, 0, 29, 162, 0, 30, 42, 180, 0, 9, 42, 180, 0, 22, 28, 96, 51, 43, 28, 182, 0, 35]
abbrev dktX6_is_1 : List UInt8 := dkwX6_is_1 ++ dktX6_is_2
def dkwX6_is_0 : List UInt8 := [42, 180, 0, 19, 42, 180, 0, 22, 100, 43, 182, 0, 29, 159, 0, 5, 3, 172, 3, 61, 28, 43]
abbrev dktX6_is_0 : List UInt8 := dkwX6_is_0 ++ dktX6_is_1
theorem dksX6_is_0 : cX6_is.data.toList.drop 0 = dktX6_is_0 := by decide +kernel
theorem dksX6_is_1 : cX6_is.data.toList.drop 22 = dktX6_is_1 := dk_seg dksX6_is_0 22 rfl rfl
theorem dksX6_is_2 : cX6_is.data.toList.drop 44 = dktX6_is_2 := dk_seg dksX6_is_1 22 rfl rfl
theorem dX6_is_0 : decode cX6_is 0 = .ok (.aload_n 0, 1) := dk_42 (dk_at dksX6_is_0 0 rfl rfl)
theorem dX6_is_1 : decode cX6_is 1 = .ok (.getfield 19, 3) := dk_180 0 19 (dk_at dksX6_is_0 1 rfl rfl)
theorem dX6_is_4 : decode cX6_is 4 = .ok (.aload_n 0, 1) := dk_42 (dk_at dksX6_is_0 4 rfl rfl)
theorem dX6_is_5 : decode cX6_is 5 = .ok (.getfield 22, 3) := dk_180 0 22 (dk_at dksX6_is_0 5 rfl rfl)
theorem dX6_is_8 : decode cX6_is 8 = .ok (.isub, 1) := dk_100 (dk_at dksX6_is_0 8 rfl rfl)
theorem dX6_is_9 : decode cX6_is 9 = .ok (.aload_n 1, 1) := dk_43 (dk_at dksX6_is_0 9 rfl rfl)
theorem dX6_is_10 : decode cX6_is 10 = .ok (.invokevirtual 29, 3) := dk_182 0 29 (dk_at dksX6_is_0 10 rfl rfl)
theorem dX6_is_13 : decode cX6_is 13 = .ok (.if_icmp .eq 5, 3) := dk_159 0 5 (dk_at dksX6_is_0 13 rfl rfl)
theorem dX6_is_16 : decode cX6_is 16 = .ok (.iconst 0, 1) := dk_3 (dk_at dksX6_is_0 16 rfl rfl)
theorem dX6_is_17 : decode cX6_is 17 = .ok (.ireturn, 1) := dk_172 (dk_at dksX6_is_0 17 rfl rfl)
theorem dX6_is_18 : decode cX6_is 18 = .ok (.iconst 0, 1) := dk_3 (dk_at dksX6_is_0 18 rfl rfl)
theorem dX6_is_19 : decode cX6_is 19 = .ok (.istore_n 2, 1) := dk_61 (dk_at dksX6_is_0 19 rfl rfl)
theorem dX6_is_20 : decode cX6_is 20 = .ok (.iload_n 2, 1) := dk_28 (dk_at dksX6_is_0 20 rfl rfl)
theorem dX6_is_21 : decode cX6_is 21 = .ok (.aload_n 1, 1) := dk_43 (dk_at dksX6_is_0 21 rfl rfl)
theorem dX6_is_22 : decode cX6_is 22 = .ok (.invokevirtual 29, 3) := dk_182 0 29 (dk_at dksX6_is_1 0 rfl rfl)
theorem dX6_is_25 : decode cX6_is 25 = .ok (.if_icmp .ge 30, 3) := dk_162 0 30 (dk_at dksX6_is_1 3 rfl rfl)
theorem dX6_is_28 : decode cX6_is 28 = .ok (.aload_n 0, 1) := dk_42 (dk_at dksX6_is_1 6 rfl rfl)
theorem dX6_is_29 : decode cX6_is 29 = .ok (.getfield 9, 3) := dk_180 0 9 (dk_at dksX6_is_1 7 rfl rfl)
theorem dX6_is_32 : decode cX6_is 32 = .ok (.aload_n 0, 1) := dk_42 (dk_at dksX6_is_1 10 rfl rfl)
theorem dX6_is_33 : decode cX6_is 33 = .ok (.getfield 22, 3) := dk_180 0 22 (dk_at dksX6_is_1 11 rfl rfl)
theorem dX6_is_36 : decode cX6_is 36 = .ok (.iload_n 2, 1) := dk_28 (dk_at dksX6_is_1 14 rfl rfl)
theorem dX6_is_37 : decode cX6_is 37 = .ok (.iadd, 1) := dk_96 (dk_at dksX6_is_1 15 rfl rfl)
theorem dX6_is_38 : decode cX6_is 38 = .ok (.baload, 1) := dk_51 (dk_at dksX6_is_1 16 rfl rfl)
theorem dX6_is_39 : decode cX6_is 39 = .ok (.aload_n 1, 1) := dk_43 (dk_at dksX6_is_1 17 rfl rfl)
theorem dX6_is_40 : decode cX6_is 40 = .ok (.iload_n 2, 1) := dk_28 (dk_at dksX6_is_1 18 rfl rfl)
theorem dX6_is_41 : decode cX6_is 41 = .ok (.invokevirtual 35, 3) := dk_182 0 35 (dk_at dksX6_is_1 19 rfl rfl)
theorem dX6_is_44 : decode cX6_is 44 = .ok (.if_icmp .eq 5, 3) := dk_159 0 5 (dk_at dksX6_is_2 0 rfl rfl)
theorem dX6_is_47 : decode cX6_is 47 = .ok (.iconst 0, 1) := dk_3 (dk_at dksX6_is_2 3 rfl rfl)
theorem dX6_is_48 : decode cX6_is 48 = .ok (.ireturn, 1) := dk_172 (dk_at dksX6_is_2 4 rfl rfl)
theorem dX6_is_49 : decode cX6_is 49 = .ok (.iinc 2 1, 3) := dk_132 2 1 (dk_at dksX6_is_2 5 rfl rfl)
theorem dX6_is_52 : decode cX6_is 52 = .ok (.goto (-32), 3) := dk_167 255 224 (dk_at dksX6_is_2 8 rfl rfl)
theorem dX6_is_55 : decode cX6_is 55 = .ok (.iconst 1, 1) := dk_4 (dk_at dksX6_is_2 11 rfl rfl)
theorem dX6_is_56 : decode cX6_is 56 = .ok (.ireturn, 1) := dk_172 (dk_at dksX6_is_2 12 rfl rfl)
abbrev cX6_begins : ByteArray := prog_13_method_11_code
def yX6_begins : MethodName := ⟨RX6, "begins", "(Z)V"⟩
def dkwX6_begins_1 : List UInt8 := [191, 42, 89, 180, 0, 59, 4, 96, 181, 0, 59, 177]
abbrev dktX6_begins_1 : List UInt8 := dkwX6_begins_1 ++ []
def dkwX6_begins_0 : List UInt8 := [42, 180, 0, 59, 16, 12, 159, 0, 7, 27, 154, 0, 15, 187, 0, 49, 89, 42, 180, 0, 22, 183, 0, 51]
abbrev dktX6_begins_0 : List UInt8 := dkwX6_begins_0 ++ dktX6_begins_1
theorem dksX6_begins_0 : cX6_begins.data.toList.drop 0 = dktX6_begins_0 := by decide +kernel
theorem dksX6_begins_1 : cX6_begins.data.toList.drop 24 = dktX6_begins_1 := dk_seg dksX6_begins_0 24 rfl rfl
theorem dX6_begins_0 : decode cX6_begins 0 = .ok (.aload_n 0, 1) := dk_42 (dk_at dksX6_begins_0 0 rfl rfl)
theorem dX6_begins_1 : decode cX6_begins 1 = .ok (.getfield 59, 3) := dk_180 0 59 (dk_at dksX6_begins_0 1 rfl rfl)
theorem dX6_begins_4 : decode cX6_begins 4 = .ok (.bipush 12, 2) := dk_16 12 (dk_at dksX6_begins_0 4 rfl rfl)
theorem dX6_begins_6 : decode cX6_begins 6 = .ok (.if_icmp .eq 7, 3) := dk_159 0 7 (dk_at dksX6_begins_0 6 rfl rfl)
theorem dX6_begins_9 : decode cX6_begins 9 = .ok (.iload_n 1, 1) := dk_27 (dk_at dksX6_begins_0 9 rfl rfl)
theorem dX6_begins_10 : decode cX6_begins 10 = .ok (.ifCond .ne 15, 3) := dk_154 0 15 (dk_at dksX6_begins_0 10 rfl rfl)
theorem dX6_begins_13 : decode cX6_begins 13 = .ok (.new 49, 3) := dk_187 0 49 (dk_at dksX6_begins_0 13 rfl rfl)
theorem dX6_begins_16 : decode cX6_begins 16 = .ok (.dup, 1) := dk_89 (dk_at dksX6_begins_0 16 rfl rfl)
theorem dX6_begins_17 : decode cX6_begins 17 = .ok (.aload_n 0, 1) := dk_42 (dk_at dksX6_begins_0 17 rfl rfl)
theorem dX6_begins_18 : decode cX6_begins 18 = .ok (.getfield 22, 3) := dk_180 0 22 (dk_at dksX6_begins_0 18 rfl rfl)
theorem dX6_begins_21 : decode cX6_begins 21 = .ok (.invokespecial 51, 3) := dk_183 0 51 (dk_at dksX6_begins_0 21 rfl rfl)
theorem dX6_begins_24 : decode cX6_begins 24 = .ok (.athrow, 1) := dk_191 (dk_at dksX6_begins_1 0 rfl rfl)
theorem dX6_begins_25 : decode cX6_begins 25 = .ok (.aload_n 0, 1) := dk_42 (dk_at dksX6_begins_1 1 rfl rfl)
theorem dX6_begins_26 : decode cX6_begins 26 = .ok (.dup, 1) := dk_89 (dk_at dksX6_begins_1 2 rfl rfl)
theorem dX6_begins_27 : decode cX6_begins 27 = .ok (.getfield 59, 3) := dk_180 0 59 (dk_at dksX6_begins_1 3 rfl rfl)
theorem dX6_begins_30 : decode cX6_begins 30 = .ok (.iconst 1, 1) := dk_4 (dk_at dksX6_begins_1 6 rfl rfl)
theorem dX6_begins_31 : decode cX6_begins 31 = .ok (.iadd, 1) := dk_96 (dk_at dksX6_begins_1 7 rfl rfl)
theorem dX6_begins_32 : decode cX6_begins 32 = .ok (.putfield 59, 3) := dk_181 0 59 (dk_at dksX6_begins_1 8 rfl rfl)
theorem dX6_begins_35 : decode cX6_begins 35 = .ok (.return_, 1) := dk_177 (dk_at dksX6_begins_1 11 rfl rfl)
abbrev cX6_sum : ByteArray := prog_13_method_17_code
def yX6_sum : MethodName := ⟨RX6, "sum", "()LRoseThrow$Sum;"⟩
def dkwX6_sum_2 : List UInt8 := [183, 0, 139, 76, 167, 255, 209, 43, 176]
abbrev dktX6_sum_2 : List UInt8 := dkwX6_sum_2 ++ []
def dkwX6_sum_1 : List UInt8 := [180, 0, 9, 42, 180, 0, 22, 51, 146, 61, 42, 182, 0, 43, 187, 0, 137, 89, 28, 43, 42, 182, 0, 130]
abbrev dktX6_sum_1 : List UInt8 := dkwX6_sum_1 ++ dktX6_sum_2
def dkwX6_sum_0 : List UInt8 := [42, 182, 0, 130, 76, 42, 18, 133, 182, 0, 39, 154, 0, 12, 42, 18, 135, 182, 0, 39, 153, 0, 35, 42]
abbrev dktX6_sum_0 : List UInt8 := dkwX6_sum_0 ++ dktX6_sum_1
theorem dksX6_sum_0 : cX6_sum.data.toList.drop 0 = dktX6_sum_0 := by decide +kernel
theorem dksX6_sum_1 : cX6_sum.data.toList.drop 24 = dktX6_sum_1 := dk_seg dksX6_sum_0 24 rfl rfl
theorem dksX6_sum_2 : cX6_sum.data.toList.drop 48 = dktX6_sum_2 := dk_seg dksX6_sum_1 24 rfl rfl
theorem dX6_sum_0 : decode cX6_sum 0 = .ok (.aload_n 0, 1) := dk_42 (dk_at dksX6_sum_0 0 rfl rfl)
theorem dX6_sum_1 : decode cX6_sum 1 = .ok (.invokevirtual 130, 3) := dk_182 0 130 (dk_at dksX6_sum_0 1 rfl rfl)
theorem dX6_sum_4 : decode cX6_sum 4 = .ok (.astore_n 1, 1) := dk_76 (dk_at dksX6_sum_0 4 rfl rfl)
theorem dX6_sum_5 : decode cX6_sum 5 = .ok (.aload_n 0, 1) := dk_42 (dk_at dksX6_sum_0 5 rfl rfl)
theorem dX6_sum_6 : decode cX6_sum 6 = .ok (.ldc 133, 2) := dk_18 133 (dk_at dksX6_sum_0 6 rfl rfl)
theorem dX6_sum_8 : decode cX6_sum 8 = .ok (.invokevirtual 39, 3) := dk_182 0 39 (dk_at dksX6_sum_0 8 rfl rfl)
theorem dX6_sum_11 : decode cX6_sum 11 = .ok (.ifCond .ne 12, 3) := dk_154 0 12 (dk_at dksX6_sum_0 11 rfl rfl)
theorem dX6_sum_14 : decode cX6_sum 14 = .ok (.aload_n 0, 1) := dk_42 (dk_at dksX6_sum_0 14 rfl rfl)
theorem dX6_sum_15 : decode cX6_sum 15 = .ok (.ldc 135, 2) := dk_18 135 (dk_at dksX6_sum_0 15 rfl rfl)
theorem dX6_sum_17 : decode cX6_sum 17 = .ok (.invokevirtual 39, 3) := dk_182 0 39 (dk_at dksX6_sum_0 17 rfl rfl)
theorem dX6_sum_20 : decode cX6_sum 20 = .ok (.ifCond .eq 35, 3) := dk_153 0 35 (dk_at dksX6_sum_0 20 rfl rfl)
theorem dX6_sum_23 : decode cX6_sum 23 = .ok (.aload_n 0, 1) := dk_42 (dk_at dksX6_sum_0 23 rfl rfl)
theorem dX6_sum_24 : decode cX6_sum 24 = .ok (.getfield 9, 3) := dk_180 0 9 (dk_at dksX6_sum_1 0 rfl rfl)
theorem dX6_sum_27 : decode cX6_sum 27 = .ok (.aload_n 0, 1) := dk_42 (dk_at dksX6_sum_1 3 rfl rfl)
theorem dX6_sum_28 : decode cX6_sum 28 = .ok (.getfield 22, 3) := dk_180 0 22 (dk_at dksX6_sum_1 4 rfl rfl)
theorem dX6_sum_31 : decode cX6_sum 31 = .ok (.baload, 1) := dk_51 (dk_at dksX6_sum_1 7 rfl rfl)
theorem dX6_sum_32 : decode cX6_sum 32 = .ok (.i2c, 1) := dk_146 (dk_at dksX6_sum_1 8 rfl rfl)
theorem dX6_sum_33 : decode cX6_sum 33 = .ok (.istore_n 2, 1) := dk_61 (dk_at dksX6_sum_1 9 rfl rfl)
theorem dX6_sum_34 : decode cX6_sum 34 = .ok (.aload_n 0, 1) := dk_42 (dk_at dksX6_sum_1 10 rfl rfl)
theorem dX6_sum_35 : decode cX6_sum 35 = .ok (.invokevirtual 43, 3) := dk_182 0 43 (dk_at dksX6_sum_1 11 rfl rfl)
theorem dX6_sum_38 : decode cX6_sum 38 = .ok (.new 137, 3) := dk_187 0 137 (dk_at dksX6_sum_1 14 rfl rfl)
theorem dX6_sum_41 : decode cX6_sum 41 = .ok (.dup, 1) := dk_89 (dk_at dksX6_sum_1 17 rfl rfl)
theorem dX6_sum_42 : decode cX6_sum 42 = .ok (.iload_n 2, 1) := dk_28 (dk_at dksX6_sum_1 18 rfl rfl)
theorem dX6_sum_43 : decode cX6_sum 43 = .ok (.aload_n 1, 1) := dk_43 (dk_at dksX6_sum_1 19 rfl rfl)
theorem dX6_sum_44 : decode cX6_sum 44 = .ok (.aload_n 0, 1) := dk_42 (dk_at dksX6_sum_1 20 rfl rfl)
theorem dX6_sum_45 : decode cX6_sum 45 = .ok (.invokevirtual 130, 3) := dk_182 0 130 (dk_at dksX6_sum_1 21 rfl rfl)
theorem dX6_sum_48 : decode cX6_sum 48 = .ok (.invokespecial 139, 3) := dk_183 0 139 (dk_at dksX6_sum_2 0 rfl rfl)
theorem dX6_sum_51 : decode cX6_sum 51 = .ok (.astore_n 1, 1) := dk_76 (dk_at dksX6_sum_2 3 rfl rfl)
theorem dX6_sum_52 : decode cX6_sum 52 = .ok (.goto (-47), 3) := dk_167 255 209 (dk_at dksX6_sum_2 4 rfl rfl)
theorem dX6_sum_55 : decode cX6_sum 55 = .ok (.aload_n 1, 1) := dk_43 (dk_at dksX6_sum_2 7 rfl rfl)
theorem dX6_sum_56 : decode cX6_sum 56 = .ok (.areturn, 1) := dk_176 (dk_at dksX6_sum_2 8 rfl rfl)
abbrev cX6_term : ByteArray := prog_13_method_18_code
def yX6_term : MethodName := ⟨RX6, "term", "()LRoseThrow$Sum;"⟩
def dkwX6_term_2 : List UInt8 := [187, 0, 137, 89, 28, 43, 42, 182, 0, 140, 183, 0, 139, 76, 167, 255, 200, 43, 176]
abbrev dktX6_term_2 : List UInt8 := dkwX6_term_2 ++ []
def dkwX6_term_1 : List UInt8 := [18, 147, 182, 0, 39, 153, 0, 35, 42, 180, 0, 9, 42, 180, 0, 22, 51, 146, 61, 42, 182, 0, 43]
abbrev dktX6_term_1 : List UInt8 := dkwX6_term_1 ++ dktX6_term_2
def dkwX6_term_0 : List UInt8 := [42, 182, 0, 140, 76, 42, 18, 143, 182, 0, 39, 154, 0, 21, 42, 18, 145, 182, 0, 39, 154, 0, 12, 42]
abbrev dktX6_term_0 : List UInt8 := dkwX6_term_0 ++ dktX6_term_1
theorem dksX6_term_0 : cX6_term.data.toList.drop 0 = dktX6_term_0 := by decide +kernel
theorem dksX6_term_1 : cX6_term.data.toList.drop 24 = dktX6_term_1 := dk_seg dksX6_term_0 24 rfl rfl
theorem dksX6_term_2 : cX6_term.data.toList.drop 47 = dktX6_term_2 := dk_seg dksX6_term_1 23 rfl rfl
theorem dX6_term_0 : decode cX6_term 0 = .ok (.aload_n 0, 1) := dk_42 (dk_at dksX6_term_0 0 rfl rfl)
theorem dX6_term_1 : decode cX6_term 1 = .ok (.invokevirtual 140, 3) := dk_182 0 140 (dk_at dksX6_term_0 1 rfl rfl)
theorem dX6_term_4 : decode cX6_term 4 = .ok (.astore_n 1, 1) := dk_76 (dk_at dksX6_term_0 4 rfl rfl)
theorem dX6_term_5 : decode cX6_term 5 = .ok (.aload_n 0, 1) := dk_42 (dk_at dksX6_term_0 5 rfl rfl)
theorem dX6_term_6 : decode cX6_term 6 = .ok (.ldc 143, 2) := dk_18 143 (dk_at dksX6_term_0 6 rfl rfl)
theorem dX6_term_8 : decode cX6_term 8 = .ok (.invokevirtual 39, 3) := dk_182 0 39 (dk_at dksX6_term_0 8 rfl rfl)
theorem dX6_term_11 : decode cX6_term 11 = .ok (.ifCond .ne 21, 3) := dk_154 0 21 (dk_at dksX6_term_0 11 rfl rfl)
theorem dX6_term_14 : decode cX6_term 14 = .ok (.aload_n 0, 1) := dk_42 (dk_at dksX6_term_0 14 rfl rfl)
theorem dX6_term_15 : decode cX6_term 15 = .ok (.ldc 145, 2) := dk_18 145 (dk_at dksX6_term_0 15 rfl rfl)
theorem dX6_term_17 : decode cX6_term 17 = .ok (.invokevirtual 39, 3) := dk_182 0 39 (dk_at dksX6_term_0 17 rfl rfl)
theorem dX6_term_20 : decode cX6_term 20 = .ok (.ifCond .ne 12, 3) := dk_154 0 12 (dk_at dksX6_term_0 20 rfl rfl)
theorem dX6_term_23 : decode cX6_term 23 = .ok (.aload_n 0, 1) := dk_42 (dk_at dksX6_term_0 23 rfl rfl)
theorem dX6_term_24 : decode cX6_term 24 = .ok (.ldc 147, 2) := dk_18 147 (dk_at dksX6_term_1 0 rfl rfl)
theorem dX6_term_26 : decode cX6_term 26 = .ok (.invokevirtual 39, 3) := dk_182 0 39 (dk_at dksX6_term_1 2 rfl rfl)
theorem dX6_term_29 : decode cX6_term 29 = .ok (.ifCond .eq 35, 3) := dk_153 0 35 (dk_at dksX6_term_1 5 rfl rfl)
theorem dX6_term_32 : decode cX6_term 32 = .ok (.aload_n 0, 1) := dk_42 (dk_at dksX6_term_1 8 rfl rfl)
theorem dX6_term_33 : decode cX6_term 33 = .ok (.getfield 9, 3) := dk_180 0 9 (dk_at dksX6_term_1 9 rfl rfl)
theorem dX6_term_36 : decode cX6_term 36 = .ok (.aload_n 0, 1) := dk_42 (dk_at dksX6_term_1 12 rfl rfl)
theorem dX6_term_37 : decode cX6_term 37 = .ok (.getfield 22, 3) := dk_180 0 22 (dk_at dksX6_term_1 13 rfl rfl)
theorem dX6_term_40 : decode cX6_term 40 = .ok (.baload, 1) := dk_51 (dk_at dksX6_term_1 16 rfl rfl)
theorem dX6_term_41 : decode cX6_term 41 = .ok (.i2c, 1) := dk_146 (dk_at dksX6_term_1 17 rfl rfl)
theorem dX6_term_42 : decode cX6_term 42 = .ok (.istore_n 2, 1) := dk_61 (dk_at dksX6_term_1 18 rfl rfl)
theorem dX6_term_43 : decode cX6_term 43 = .ok (.aload_n 0, 1) := dk_42 (dk_at dksX6_term_1 19 rfl rfl)
theorem dX6_term_44 : decode cX6_term 44 = .ok (.invokevirtual 43, 3) := dk_182 0 43 (dk_at dksX6_term_1 20 rfl rfl)
theorem dX6_term_47 : decode cX6_term 47 = .ok (.new 137, 3) := dk_187 0 137 (dk_at dksX6_term_2 0 rfl rfl)
theorem dX6_term_50 : decode cX6_term 50 = .ok (.dup, 1) := dk_89 (dk_at dksX6_term_2 3 rfl rfl)
theorem dX6_term_51 : decode cX6_term 51 = .ok (.iload_n 2, 1) := dk_28 (dk_at dksX6_term_2 4 rfl rfl)
theorem dX6_term_52 : decode cX6_term 52 = .ok (.aload_n 1, 1) := dk_43 (dk_at dksX6_term_2 5 rfl rfl)
theorem dX6_term_53 : decode cX6_term 53 = .ok (.aload_n 0, 1) := dk_42 (dk_at dksX6_term_2 6 rfl rfl)
theorem dX6_term_54 : decode cX6_term 54 = .ok (.invokevirtual 140, 3) := dk_182 0 140 (dk_at dksX6_term_2 7 rfl rfl)
theorem dX6_term_57 : decode cX6_term 57 = .ok (.invokespecial 139, 3) := dk_183 0 139 (dk_at dksX6_term_2 10 rfl rfl)
theorem dX6_term_60 : decode cX6_term 60 = .ok (.astore_n 1, 1) := dk_76 (dk_at dksX6_term_2 13 rfl rfl)
theorem dX6_term_61 : decode cX6_term 61 = .ok (.goto (-56), 3) := dk_167 255 200 (dk_at dksX6_term_2 14 rfl rfl)
theorem dX6_term_64 : decode cX6_term 64 = .ok (.aload_n 1, 1) := dk_43 (dk_at dksX6_term_2 17 rfl rfl)
theorem dX6_term_65 : decode cX6_term 65 = .ok (.areturn, 1) := dk_176 (dk_at dksX6_term_2 18 rfl rfl)
abbrev cX6_part : ByteArray := prog_13_method_20_code
def yX6_part : MethodName := ⟨RX6, "part", "()LRoseThrow$Sum;"⟩
def dkwX6_part_4 : List UInt8 := [89, 27, 183, 0, 171, 176]
abbrev dktX6_part_4 : List UInt8 := dkwX6_part_4 ++ []
def dkwX6_part_3 : List UInt8 := [182, 0, 166, 60, 27, 2, 160, 0, 15, 187, 0, 49, 89, 42, 180, 0, 22, 183, 0, 51, 191, 187, 0, 169]
abbrev dktX6_part_3 : List UInt8 := dkwX6_part_3 ++ dktX6_part_4
def dkwX6_part_2 : List UInt8 := [153, 0, 23, 42, 182, 0, 156, 187, 0, 159, 89, 42, 3, 17, 3, 232, 182, 0, 161, 183, 0, 165, 176, 42]
abbrev dktX6_part_2 : List UInt8 := dkwX6_part_2 ++ dktX6_part_3
def dkwX6_part_1 : List UInt8 := [42, 89, 180, 0, 88, 4, 100, 181, 0, 88, 43, 176, 42, 42, 180, 0, 22, 16, 48, 16, 57, 182, 0, 25]
abbrev dktX6_part_1 : List UInt8 := dkwX6_part_1 ++ dktX6_part_2
def dkwX6_part_0 : List UInt8 := [42, 18, 152, 182, 0, 39, 153, 0, 30, 42, 182, 0, 103, 42, 182, 0, 115, 76, 42, 18, 154, 182, 0, 111]
abbrev dktX6_part_0 : List UInt8 := dkwX6_part_0 ++ dktX6_part_1
theorem dksX6_part_0 : cX6_part.data.toList.drop 0 = dktX6_part_0 := by decide +kernel
theorem dksX6_part_1 : cX6_part.data.toList.drop 24 = dktX6_part_1 := dk_seg dksX6_part_0 24 rfl rfl
theorem dksX6_part_2 : cX6_part.data.toList.drop 48 = dktX6_part_2 := dk_seg dksX6_part_1 24 rfl rfl
theorem dksX6_part_3 : cX6_part.data.toList.drop 72 = dktX6_part_3 := dk_seg dksX6_part_2 24 rfl rfl
theorem dksX6_part_4 : cX6_part.data.toList.drop 96 = dktX6_part_4 := dk_seg dksX6_part_3 24 rfl rfl
theorem dX6_part_0 : decode cX6_part 0 = .ok (.aload_n 0, 1) := dk_42 (dk_at dksX6_part_0 0 rfl rfl)
theorem dX6_part_1 : decode cX6_part 1 = .ok (.ldc 152, 2) := dk_18 152 (dk_at dksX6_part_0 1 rfl rfl)
theorem dX6_part_3 : decode cX6_part 3 = .ok (.invokevirtual 39, 3) := dk_182 0 39 (dk_at dksX6_part_0 3 rfl rfl)
theorem dX6_part_6 : decode cX6_part 6 = .ok (.ifCond .eq 30, 3) := dk_153 0 30 (dk_at dksX6_part_0 6 rfl rfl)
theorem dX6_part_9 : decode cX6_part 9 = .ok (.aload_n 0, 1) := dk_42 (dk_at dksX6_part_0 9 rfl rfl)
theorem dX6_part_10 : decode cX6_part 10 = .ok (.invokevirtual 103, 3) := dk_182 0 103 (dk_at dksX6_part_0 10 rfl rfl)
theorem dX6_part_13 : decode cX6_part 13 = .ok (.aload_n 0, 1) := dk_42 (dk_at dksX6_part_0 13 rfl rfl)
theorem dX6_part_14 : decode cX6_part 14 = .ok (.invokevirtual 115, 3) := dk_182 0 115 (dk_at dksX6_part_0 14 rfl rfl)
theorem dX6_part_17 : decode cX6_part 17 = .ok (.astore_n 1, 1) := dk_76 (dk_at dksX6_part_0 17 rfl rfl)
theorem dX6_part_18 : decode cX6_part 18 = .ok (.aload_n 0, 1) := dk_42 (dk_at dksX6_part_0 18 rfl rfl)
theorem dX6_part_19 : decode cX6_part 19 = .ok (.ldc 154, 2) := dk_18 154 (dk_at dksX6_part_0 19 rfl rfl)
theorem dX6_part_21 : decode cX6_part 21 = .ok (.invokevirtual 111, 3) := dk_182 0 111 (dk_at dksX6_part_0 21 rfl rfl)
theorem dX6_part_24 : decode cX6_part 24 = .ok (.aload_n 0, 1) := dk_42 (dk_at dksX6_part_1 0 rfl rfl)
theorem dX6_part_25 : decode cX6_part 25 = .ok (.dup, 1) := dk_89 (dk_at dksX6_part_1 1 rfl rfl)
theorem dX6_part_26 : decode cX6_part 26 = .ok (.getfield 88, 3) := dk_180 0 88 (dk_at dksX6_part_1 2 rfl rfl)
theorem dX6_part_29 : decode cX6_part 29 = .ok (.iconst 1, 1) := dk_4 (dk_at dksX6_part_1 5 rfl rfl)
theorem dX6_part_30 : decode cX6_part 30 = .ok (.isub, 1) := dk_100 (dk_at dksX6_part_1 6 rfl rfl)
theorem dX6_part_31 : decode cX6_part 31 = .ok (.putfield 88, 3) := dk_181 0 88 (dk_at dksX6_part_1 7 rfl rfl)
theorem dX6_part_34 : decode cX6_part 34 = .ok (.aload_n 1, 1) := dk_43 (dk_at dksX6_part_1 10 rfl rfl)
theorem dX6_part_35 : decode cX6_part 35 = .ok (.areturn, 1) := dk_176 (dk_at dksX6_part_1 11 rfl rfl)
theorem dX6_part_36 : decode cX6_part 36 = .ok (.aload_n 0, 1) := dk_42 (dk_at dksX6_part_1 12 rfl rfl)
theorem dX6_part_37 : decode cX6_part 37 = .ok (.aload_n 0, 1) := dk_42 (dk_at dksX6_part_1 13 rfl rfl)
theorem dX6_part_38 : decode cX6_part 38 = .ok (.getfield 22, 3) := dk_180 0 22 (dk_at dksX6_part_1 14 rfl rfl)
theorem dX6_part_41 : decode cX6_part 41 = .ok (.bipush 48, 2) := dk_16 48 (dk_at dksX6_part_1 17 rfl rfl)
theorem dX6_part_43 : decode cX6_part 43 = .ok (.bipush 57, 2) := dk_16 57 (dk_at dksX6_part_1 19 rfl rfl)
theorem dX6_part_45 : decode cX6_part 45 = .ok (.invokevirtual 25, 3) := dk_182 0 25 (dk_at dksX6_part_1 21 rfl rfl)
theorem dX6_part_48 : decode cX6_part 48 = .ok (.ifCond .eq 23, 3) := dk_153 0 23 (dk_at dksX6_part_2 0 rfl rfl)
theorem dX6_part_51 : decode cX6_part 51 = .ok (.aload_n 0, 1) := dk_42 (dk_at dksX6_part_2 3 rfl rfl)
theorem dX6_part_52 : decode cX6_part 52 = .ok (.invokevirtual 156, 3) := dk_182 0 156 (dk_at dksX6_part_2 4 rfl rfl)
theorem dX6_part_55 : decode cX6_part 55 = .ok (.new 159, 3) := dk_187 0 159 (dk_at dksX6_part_2 7 rfl rfl)
theorem dX6_part_58 : decode cX6_part 58 = .ok (.dup, 1) := dk_89 (dk_at dksX6_part_2 10 rfl rfl)
theorem dX6_part_59 : decode cX6_part 59 = .ok (.aload_n 0, 1) := dk_42 (dk_at dksX6_part_2 11 rfl rfl)
theorem dX6_part_60 : decode cX6_part 60 = .ok (.iconst 0, 1) := dk_3 (dk_at dksX6_part_2 12 rfl rfl)
theorem dX6_part_61 : decode cX6_part 61 = .ok (.sipush 1000, 3) := dk_17 3 232 (dk_at dksX6_part_2 13 rfl rfl)
theorem dX6_part_64 : decode cX6_part 64 = .ok (.invokevirtual 161, 3) := dk_182 0 161 (dk_at dksX6_part_2 16 rfl rfl)
theorem dX6_part_67 : decode cX6_part 67 = .ok (.invokespecial 165, 3) := dk_183 0 165 (dk_at dksX6_part_2 19 rfl rfl)
theorem dX6_part_70 : decode cX6_part 70 = .ok (.areturn, 1) := dk_176 (dk_at dksX6_part_2 22 rfl rfl)
theorem dX6_part_71 : decode cX6_part 71 = .ok (.aload_n 0, 1) := dk_42 (dk_at dksX6_part_2 23 rfl rfl)
theorem dX6_part_72 : decode cX6_part 72 = .ok (.invokevirtual 166, 3) := dk_182 0 166 (dk_at dksX6_part_3 0 rfl rfl)
theorem dX6_part_75 : decode cX6_part 75 = .ok (.istore_n 1, 1) := dk_60 (dk_at dksX6_part_3 3 rfl rfl)
theorem dX6_part_76 : decode cX6_part 76 = .ok (.iload_n 1, 1) := dk_27 (dk_at dksX6_part_3 4 rfl rfl)
theorem dX6_part_77 : decode cX6_part 77 = .ok (.iconst (-1), 1) := dk_2 (dk_at dksX6_part_3 5 rfl rfl)
theorem dX6_part_78 : decode cX6_part 78 = .ok (.if_icmp .ne 15, 3) := dk_160 0 15 (dk_at dksX6_part_3 6 rfl rfl)
theorem dX6_part_81 : decode cX6_part 81 = .ok (.new 49, 3) := dk_187 0 49 (dk_at dksX6_part_3 9 rfl rfl)
theorem dX6_part_84 : decode cX6_part 84 = .ok (.dup, 1) := dk_89 (dk_at dksX6_part_3 12 rfl rfl)
theorem dX6_part_85 : decode cX6_part 85 = .ok (.aload_n 0, 1) := dk_42 (dk_at dksX6_part_3 13 rfl rfl)
theorem dX6_part_86 : decode cX6_part 86 = .ok (.getfield 22, 3) := dk_180 0 22 (dk_at dksX6_part_3 14 rfl rfl)
theorem dX6_part_89 : decode cX6_part 89 = .ok (.invokespecial 51, 3) := dk_183 0 51 (dk_at dksX6_part_3 17 rfl rfl)
theorem dX6_part_92 : decode cX6_part 92 = .ok (.athrow, 1) := dk_191 (dk_at dksX6_part_3 20 rfl rfl)
theorem dX6_part_93 : decode cX6_part 93 = .ok (.new 169, 3) := dk_187 0 169 (dk_at dksX6_part_3 21 rfl rfl)
theorem dX6_part_96 : decode cX6_part 96 = .ok (.dup, 1) := dk_89 (dk_at dksX6_part_4 0 rfl rfl)
theorem dX6_part_97 : decode cX6_part 97 = .ok (.iload_n 1, 1) := dk_27 (dk_at dksX6_part_4 1 rfl rfl)
theorem dX6_part_98 : decode cX6_part 98 = .ok (.invokespecial 171, 3) := dk_183 0 171 (dk_at dksX6_part_4 2 rfl rfl)
theorem dX6_part_101 : decode cX6_part 101 = .ok (.areturn, 1) := dk_176 (dk_at dksX6_part_4 5 rfl rfl)
abbrev cX6_opens : ByteArray := prog_13_method_14_code
def yX6_opens : MethodName := ⟨RX6, "opens", "()V"⟩
def dkwX6_opens_1 : List UInt8 := [180, 0, 88, 4, 96, 181, 0, 88, 42, 182, 0, 43, 177]
abbrev dktX6_opens_1 : List UInt8 := dkwX6_opens_1 ++ []
def dkwX6_opens_0 : List UInt8 := [42, 180, 0, 88, 16, 8, 160, 0, 15, 187, 0, 49, 89, 42, 180, 0, 22, 183, 0, 51, 191, 42, 89]
abbrev dktX6_opens_0 : List UInt8 := dkwX6_opens_0 ++ dktX6_opens_1
theorem dksX6_opens_0 : cX6_opens.data.toList.drop 0 = dktX6_opens_0 := by decide +kernel
theorem dksX6_opens_1 : cX6_opens.data.toList.drop 23 = dktX6_opens_1 := dk_seg dksX6_opens_0 23 rfl rfl
theorem dX6_opens_0 : decode cX6_opens 0 = .ok (.aload_n 0, 1) := dk_42 (dk_at dksX6_opens_0 0 rfl rfl)
theorem dX6_opens_1 : decode cX6_opens 1 = .ok (.getfield 88, 3) := dk_180 0 88 (dk_at dksX6_opens_0 1 rfl rfl)
theorem dX6_opens_4 : decode cX6_opens 4 = .ok (.bipush 8, 2) := dk_16 8 (dk_at dksX6_opens_0 4 rfl rfl)
theorem dX6_opens_6 : decode cX6_opens 6 = .ok (.if_icmp .ne 15, 3) := dk_160 0 15 (dk_at dksX6_opens_0 6 rfl rfl)
theorem dX6_opens_9 : decode cX6_opens 9 = .ok (.new 49, 3) := dk_187 0 49 (dk_at dksX6_opens_0 9 rfl rfl)
theorem dX6_opens_12 : decode cX6_opens 12 = .ok (.dup, 1) := dk_89 (dk_at dksX6_opens_0 12 rfl rfl)
theorem dX6_opens_13 : decode cX6_opens 13 = .ok (.aload_n 0, 1) := dk_42 (dk_at dksX6_opens_0 13 rfl rfl)
theorem dX6_opens_14 : decode cX6_opens 14 = .ok (.getfield 22, 3) := dk_180 0 22 (dk_at dksX6_opens_0 14 rfl rfl)
theorem dX6_opens_17 : decode cX6_opens 17 = .ok (.invokespecial 51, 3) := dk_183 0 51 (dk_at dksX6_opens_0 17 rfl rfl)
theorem dX6_opens_20 : decode cX6_opens 20 = .ok (.athrow, 1) := dk_191 (dk_at dksX6_opens_0 20 rfl rfl)
theorem dX6_opens_21 : decode cX6_opens 21 = .ok (.aload_n 0, 1) := dk_42 (dk_at dksX6_opens_0 21 rfl rfl)
theorem dX6_opens_22 : decode cX6_opens 22 = .ok (.dup, 1) := dk_89 (dk_at dksX6_opens_0 22 rfl rfl)
theorem dX6_opens_23 : decode cX6_opens 23 = .ok (.getfield 88, 3) := dk_180 0 88 (dk_at dksX6_opens_1 0 rfl rfl)
theorem dX6_opens_26 : decode cX6_opens 26 = .ok (.iconst 1, 1) := dk_4 (dk_at dksX6_opens_1 3 rfl rfl)
theorem dX6_opens_27 : decode cX6_opens 27 = .ok (.iadd, 1) := dk_96 (dk_at dksX6_opens_1 4 rfl rfl)
theorem dX6_opens_28 : decode cX6_opens 28 = .ok (.putfield 88, 3) := dk_181 0 88 (dk_at dksX6_opens_1 5 rfl rfl)
theorem dX6_opens_31 : decode cX6_opens 31 = .ok (.aload_n 0, 1) := dk_42 (dk_at dksX6_opens_1 8 rfl rfl)
theorem dX6_opens_32 : decode cX6_opens 32 = .ok (.invokevirtual 43, 3) := dk_182 0 43 (dk_at dksX6_opens_1 9 rfl rfl)
theorem dX6_opens_35 : decode cX6_opens 35 = .ok (.return_, 1) := dk_177 (dk_at dksX6_opens_1 12 rfl rfl)
abbrev cX6_need : ByteArray := prog_13_method_6_code
def yX6_need : MethodName := ⟨RX6, "need", "(Ljava/lang/String;)V"⟩
def dkwX6_need_0 : List UInt8 := [42, 43, 182, 0, 46, 154, 0, 15, 187, 0, 49, 89, 42, 180, 0, 22, 183, 0, 51, 191, 177]
abbrev dktX6_need_0 : List UInt8 := dkwX6_need_0 ++ []
theorem dksX6_need_0 : cX6_need.data.toList.drop 0 = dktX6_need_0 := by decide +kernel
theorem dX6_need_0 : decode cX6_need 0 = .ok (.aload_n 0, 1) := dk_42 (dk_at dksX6_need_0 0 rfl rfl)
theorem dX6_need_1 : decode cX6_need 1 = .ok (.aload_n 1, 1) := dk_43 (dk_at dksX6_need_0 1 rfl rfl)
theorem dX6_need_2 : decode cX6_need 2 = .ok (.invokevirtual 46, 3) := dk_182 0 46 (dk_at dksX6_need_0 2 rfl rfl)
theorem dX6_need_5 : decode cX6_need 5 = .ok (.ifCond .ne 15, 3) := dk_154 0 15 (dk_at dksX6_need_0 5 rfl rfl)
theorem dX6_need_8 : decode cX6_need 8 = .ok (.new 49, 3) := dk_187 0 49 (dk_at dksX6_need_0 8 rfl rfl)
theorem dX6_need_11 : decode cX6_need 11 = .ok (.dup, 1) := dk_89 (dk_at dksX6_need_0 11 rfl rfl)
theorem dX6_need_12 : decode cX6_need 12 = .ok (.aload_n 0, 1) := dk_42 (dk_at dksX6_need_0 12 rfl rfl)
theorem dX6_need_13 : decode cX6_need 13 = .ok (.getfield 22, 3) := dk_180 0 22 (dk_at dksX6_need_0 13 rfl rfl)
theorem dX6_need_16 : decode cX6_need 16 = .ok (.invokespecial 51, 3) := dk_183 0 51 (dk_at dksX6_need_0 16 rfl rfl)
theorem dX6_need_19 : decode cX6_need 19 = .ok (.athrow, 1) := dk_191 (dk_at dksX6_need_0 19 rfl rfl)
theorem dX6_need_20 : decode cX6_need 20 = .ok (.return_, 1) := dk_177 (dk_at dksX6_need_0 20 rfl rfl)
abbrev cX6_takes : ByteArray := prog_13_method_5_code
def yX6_takes : MethodName := ⟨RX6, "takes", "(Ljava/lang/String;)Z"⟩
def dkwX6_takes_0 : List UInt8 := [42, 43, 182, 0, 39, 61, 28, 153, 0, 7, 42, 182, 0, 43, 28, 172]
abbrev dktX6_takes_0 : List UInt8 := dkwX6_takes_0 ++ []
theorem dksX6_takes_0 : cX6_takes.data.toList.drop 0 = dktX6_takes_0 := by decide +kernel
theorem dX6_takes_0 : decode cX6_takes 0 = .ok (.aload_n 0, 1) := dk_42 (dk_at dksX6_takes_0 0 rfl rfl)
theorem dX6_takes_1 : decode cX6_takes 1 = .ok (.aload_n 1, 1) := dk_43 (dk_at dksX6_takes_0 1 rfl rfl)
theorem dX6_takes_2 : decode cX6_takes 2 = .ok (.invokevirtual 39, 3) := dk_182 0 39 (dk_at dksX6_takes_0 2 rfl rfl)
theorem dX6_takes_5 : decode cX6_takes 5 = .ok (.istore_n 2, 1) := dk_61 (dk_at dksX6_takes_0 5 rfl rfl)
theorem dX6_takes_6 : decode cX6_takes 6 = .ok (.iload_n 2, 1) := dk_28 (dk_at dksX6_takes_0 6 rfl rfl)
theorem dX6_takes_7 : decode cX6_takes 7 = .ok (.ifCond .eq 7, 3) := dk_153 0 7 (dk_at dksX6_takes_0 7 rfl rfl)
theorem dX6_takes_10 : decode cX6_takes 10 = .ok (.aload_n 0, 1) := dk_42 (dk_at dksX6_takes_0 10 rfl rfl)
theorem dX6_takes_11 : decode cX6_takes 11 = .ok (.invokevirtual 43, 3) := dk_182 0 43 (dk_at dksX6_takes_0 11 rfl rfl)
theorem dX6_takes_14 : decode cX6_takes 14 = .ok (.iload_n 2, 1) := dk_28 (dk_at dksX6_takes_0 14 rfl rfl)
theorem dX6_takes_15 : decode cX6_takes 15 = .ok (.ireturn, 1) := dk_172 (dk_at dksX6_takes_0 15 rfl rfl)
abbrev cX6_leaf : ByteArray := prog_13_method_19_code
def yX6_leaf : MethodName := ⟨RX6, "leaf", "()V"⟩
def dkwX6_leaf_1 : List UInt8 := [180, 0, 149, 4, 96, 181, 0, 149, 177]
abbrev dktX6_leaf_1 : List UInt8 := dkwX6_leaf_1 ++ []
def dkwX6_leaf_0 : List UInt8 := [42, 180, 0, 149, 16, 50, 160, 0, 15, 187, 0, 49, 89, 42, 180, 0, 22, 183, 0, 51, 191, 42, 89]
abbrev dktX6_leaf_0 : List UInt8 := dkwX6_leaf_0 ++ dktX6_leaf_1
theorem dksX6_leaf_0 : cX6_leaf.data.toList.drop 0 = dktX6_leaf_0 := by decide +kernel
theorem dksX6_leaf_1 : cX6_leaf.data.toList.drop 23 = dktX6_leaf_1 := dk_seg dksX6_leaf_0 23 rfl rfl
theorem dX6_leaf_0 : decode cX6_leaf 0 = .ok (.aload_n 0, 1) := dk_42 (dk_at dksX6_leaf_0 0 rfl rfl)
theorem dX6_leaf_1 : decode cX6_leaf 1 = .ok (.getfield 149, 3) := dk_180 0 149 (dk_at dksX6_leaf_0 1 rfl rfl)
theorem dX6_leaf_4 : decode cX6_leaf 4 = .ok (.bipush 50, 2) := dk_16 50 (dk_at dksX6_leaf_0 4 rfl rfl)
theorem dX6_leaf_6 : decode cX6_leaf 6 = .ok (.if_icmp .ne 15, 3) := dk_160 0 15 (dk_at dksX6_leaf_0 6 rfl rfl)
theorem dX6_leaf_9 : decode cX6_leaf 9 = .ok (.new 49, 3) := dk_187 0 49 (dk_at dksX6_leaf_0 9 rfl rfl)
theorem dX6_leaf_12 : decode cX6_leaf 12 = .ok (.dup, 1) := dk_89 (dk_at dksX6_leaf_0 12 rfl rfl)
theorem dX6_leaf_13 : decode cX6_leaf 13 = .ok (.aload_n 0, 1) := dk_42 (dk_at dksX6_leaf_0 13 rfl rfl)
theorem dX6_leaf_14 : decode cX6_leaf 14 = .ok (.getfield 22, 3) := dk_180 0 22 (dk_at dksX6_leaf_0 14 rfl rfl)
theorem dX6_leaf_17 : decode cX6_leaf 17 = .ok (.invokespecial 51, 3) := dk_183 0 51 (dk_at dksX6_leaf_0 17 rfl rfl)
theorem dX6_leaf_20 : decode cX6_leaf 20 = .ok (.athrow, 1) := dk_191 (dk_at dksX6_leaf_0 20 rfl rfl)
theorem dX6_leaf_21 : decode cX6_leaf 21 = .ok (.aload_n 0, 1) := dk_42 (dk_at dksX6_leaf_0 21 rfl rfl)
theorem dX6_leaf_22 : decode cX6_leaf 22 = .ok (.dup, 1) := dk_89 (dk_at dksX6_leaf_0 22 rfl rfl)
theorem dX6_leaf_23 : decode cX6_leaf 23 = .ok (.getfield 149, 3) := dk_180 0 149 (dk_at dksX6_leaf_1 0 rfl rfl)
theorem dX6_leaf_26 : decode cX6_leaf 26 = .ok (.iconst 1, 1) := dk_4 (dk_at dksX6_leaf_1 3 rfl rfl)
theorem dX6_leaf_27 : decode cX6_leaf 27 = .ok (.iadd, 1) := dk_96 (dk_at dksX6_leaf_1 4 rfl rfl)
theorem dX6_leaf_28 : decode cX6_leaf 28 = .ok (.putfield 149, 3) := dk_181 0 149 (dk_at dksX6_leaf_1 5 rfl rfl)
theorem dX6_leaf_31 : decode cX6_leaf 31 = .ok (.return_, 1) := dk_177 (dk_at dksX6_leaf_1 8 rfl rfl)
abbrev cX6_number : ByteArray := prog_13_method_7_code
def yX6_number : MethodName := ⟨RX6, "number", "(II)I"⟩
def dkwX6_number_4 : List UInt8 := [191, 42, 182, 0, 43, 29, 172]
abbrev dktX6_number_4 : List UInt8 := dkwX6_number_4 ++ []
def dkwX6_number_3 : List UInt8 := [167, 255, 223, 29, 27, 161, 0, 8, 29, 28, 164, 0, 15, 187, 0, 49, 89, 42, 180, 0, 22, 183, 0, 51]
abbrev dktX6_number_3 : List UInt8 := dkwX6_number_3 ++ dktX6_number_4
def dkwX6_number_2 : List UInt8 := [163, 0, 25, 16, 10, 29, 104, 42, 180, 0, 9, 21, 4, 51, 96, 16, 48, 100, 62, 132, 4, 1]
abbrev dktX6_number_2 : List UInt8 := dkwX6_number_2 ++ dktX6_number_3
def dkwX6_number_1 : List UInt8 := [183, 0, 51, 191, 3, 62, 42, 180, 0, 22, 54, 4, 21, 4, 42, 180, 0, 19, 162, 0, 30, 29, 28]
abbrev dktX6_number_1 : List UInt8 := dkwX6_number_1 ++ dktX6_number_2
def dkwX6_number_0 : List UInt8 := [42, 42, 180, 0, 22, 16, 48, 16, 57, 182, 0, 25, 154, 0, 15, 187, 0, 49, 89, 42, 180, 0, 22]
abbrev dktX6_number_0 : List UInt8 := dkwX6_number_0 ++ dktX6_number_1
theorem dksX6_number_0 : cX6_number.data.toList.drop 0 = dktX6_number_0 := by decide +kernel
theorem dksX6_number_1 : cX6_number.data.toList.drop 23 = dktX6_number_1 := dk_seg dksX6_number_0 23 rfl rfl
theorem dksX6_number_2 : cX6_number.data.toList.drop 46 = dktX6_number_2 := dk_seg dksX6_number_1 23 rfl rfl
theorem dksX6_number_3 : cX6_number.data.toList.drop 68 = dktX6_number_3 := dk_seg dksX6_number_2 22 rfl rfl
theorem dksX6_number_4 : cX6_number.data.toList.drop 92 = dktX6_number_4 := dk_seg dksX6_number_3 24 rfl rfl
theorem dX6_number_0 : decode cX6_number 0 = .ok (.aload_n 0, 1) := dk_42 (dk_at dksX6_number_0 0 rfl rfl)
theorem dX6_number_1 : decode cX6_number 1 = .ok (.aload_n 0, 1) := dk_42 (dk_at dksX6_number_0 1 rfl rfl)
theorem dX6_number_2 : decode cX6_number 2 = .ok (.getfield 22, 3) := dk_180 0 22 (dk_at dksX6_number_0 2 rfl rfl)
theorem dX6_number_5 : decode cX6_number 5 = .ok (.bipush 48, 2) := dk_16 48 (dk_at dksX6_number_0 5 rfl rfl)
theorem dX6_number_7 : decode cX6_number 7 = .ok (.bipush 57, 2) := dk_16 57 (dk_at dksX6_number_0 7 rfl rfl)
theorem dX6_number_9 : decode cX6_number 9 = .ok (.invokevirtual 25, 3) := dk_182 0 25 (dk_at dksX6_number_0 9 rfl rfl)
theorem dX6_number_12 : decode cX6_number 12 = .ok (.ifCond .ne 15, 3) := dk_154 0 15 (dk_at dksX6_number_0 12 rfl rfl)
theorem dX6_number_15 : decode cX6_number 15 = .ok (.new 49, 3) := dk_187 0 49 (dk_at dksX6_number_0 15 rfl rfl)
theorem dX6_number_18 : decode cX6_number 18 = .ok (.dup, 1) := dk_89 (dk_at dksX6_number_0 18 rfl rfl)
theorem dX6_number_19 : decode cX6_number 19 = .ok (.aload_n 0, 1) := dk_42 (dk_at dksX6_number_0 19 rfl rfl)
theorem dX6_number_20 : decode cX6_number 20 = .ok (.getfield 22, 3) := dk_180 0 22 (dk_at dksX6_number_0 20 rfl rfl)
theorem dX6_number_23 : decode cX6_number 23 = .ok (.invokespecial 51, 3) := dk_183 0 51 (dk_at dksX6_number_1 0 rfl rfl)
theorem dX6_number_26 : decode cX6_number 26 = .ok (.athrow, 1) := dk_191 (dk_at dksX6_number_1 3 rfl rfl)
theorem dX6_number_27 : decode cX6_number 27 = .ok (.iconst 0, 1) := dk_3 (dk_at dksX6_number_1 4 rfl rfl)
theorem dX6_number_28 : decode cX6_number 28 = .ok (.istore_n 3, 1) := dk_62 (dk_at dksX6_number_1 5 rfl rfl)
theorem dX6_number_29 : decode cX6_number 29 = .ok (.aload_n 0, 1) := dk_42 (dk_at dksX6_number_1 6 rfl rfl)
theorem dX6_number_30 : decode cX6_number 30 = .ok (.getfield 22, 3) := dk_180 0 22 (dk_at dksX6_number_1 7 rfl rfl)
theorem dX6_number_33 : decode cX6_number 33 = .ok (.istore 4, 2) := dk_54 4 (dk_at dksX6_number_1 10 rfl rfl)
theorem dX6_number_35 : decode cX6_number 35 = .ok (.iload 4, 2) := dk_21 4 (dk_at dksX6_number_1 12 rfl rfl)
theorem dX6_number_37 : decode cX6_number 37 = .ok (.aload_n 0, 1) := dk_42 (dk_at dksX6_number_1 14 rfl rfl)
theorem dX6_number_38 : decode cX6_number 38 = .ok (.getfield 19, 3) := dk_180 0 19 (dk_at dksX6_number_1 15 rfl rfl)
theorem dX6_number_41 : decode cX6_number 41 = .ok (.if_icmp .ge 30, 3) := dk_162 0 30 (dk_at dksX6_number_1 18 rfl rfl)
theorem dX6_number_44 : decode cX6_number 44 = .ok (.iload_n 3, 1) := dk_29 (dk_at dksX6_number_1 21 rfl rfl)
theorem dX6_number_45 : decode cX6_number 45 = .ok (.iload_n 2, 1) := dk_28 (dk_at dksX6_number_1 22 rfl rfl)
theorem dX6_number_46 : decode cX6_number 46 = .ok (.if_icmp .gt 25, 3) := dk_163 0 25 (dk_at dksX6_number_2 0 rfl rfl)
theorem dX6_number_49 : decode cX6_number 49 = .ok (.bipush 10, 2) := dk_16 10 (dk_at dksX6_number_2 3 rfl rfl)
theorem dX6_number_51 : decode cX6_number 51 = .ok (.iload_n 3, 1) := dk_29 (dk_at dksX6_number_2 5 rfl rfl)
theorem dX6_number_52 : decode cX6_number 52 = .ok (.imul, 1) := dk_104 (dk_at dksX6_number_2 6 rfl rfl)
theorem dX6_number_53 : decode cX6_number 53 = .ok (.aload_n 0, 1) := dk_42 (dk_at dksX6_number_2 7 rfl rfl)
theorem dX6_number_54 : decode cX6_number 54 = .ok (.getfield 9, 3) := dk_180 0 9 (dk_at dksX6_number_2 8 rfl rfl)
theorem dX6_number_57 : decode cX6_number 57 = .ok (.iload 4, 2) := dk_21 4 (dk_at dksX6_number_2 11 rfl rfl)
theorem dX6_number_59 : decode cX6_number 59 = .ok (.baload, 1) := dk_51 (dk_at dksX6_number_2 13 rfl rfl)
theorem dX6_number_60 : decode cX6_number 60 = .ok (.iadd, 1) := dk_96 (dk_at dksX6_number_2 14 rfl rfl)
theorem dX6_number_61 : decode cX6_number 61 = .ok (.bipush 48, 2) := dk_16 48 (dk_at dksX6_number_2 15 rfl rfl)
theorem dX6_number_63 : decode cX6_number 63 = .ok (.isub, 1) := dk_100 (dk_at dksX6_number_2 17 rfl rfl)
theorem dX6_number_64 : decode cX6_number 64 = .ok (.istore_n 3, 1) := dk_62 (dk_at dksX6_number_2 18 rfl rfl)
theorem dX6_number_65 : decode cX6_number 65 = .ok (.iinc 4 1, 3) := dk_132 4 1 (dk_at dksX6_number_2 19 rfl rfl)
theorem dX6_number_68 : decode cX6_number 68 = .ok (.goto (-33), 3) := dk_167 255 223 (dk_at dksX6_number_3 0 rfl rfl)
theorem dX6_number_71 : decode cX6_number 71 = .ok (.iload_n 3, 1) := dk_29 (dk_at dksX6_number_3 3 rfl rfl)
theorem dX6_number_72 : decode cX6_number 72 = .ok (.iload_n 1, 1) := dk_27 (dk_at dksX6_number_3 4 rfl rfl)
theorem dX6_number_73 : decode cX6_number 73 = .ok (.if_icmp .lt 8, 3) := dk_161 0 8 (dk_at dksX6_number_3 5 rfl rfl)
theorem dX6_number_76 : decode cX6_number 76 = .ok (.iload_n 3, 1) := dk_29 (dk_at dksX6_number_3 8 rfl rfl)
theorem dX6_number_77 : decode cX6_number 77 = .ok (.iload_n 2, 1) := dk_28 (dk_at dksX6_number_3 9 rfl rfl)
theorem dX6_number_78 : decode cX6_number 78 = .ok (.if_icmp .le 15, 3) := dk_164 0 15 (dk_at dksX6_number_3 10 rfl rfl)
theorem dX6_number_81 : decode cX6_number 81 = .ok (.new 49, 3) := dk_187 0 49 (dk_at dksX6_number_3 13 rfl rfl)
theorem dX6_number_84 : decode cX6_number 84 = .ok (.dup, 1) := dk_89 (dk_at dksX6_number_3 16 rfl rfl)
theorem dX6_number_85 : decode cX6_number 85 = .ok (.aload_n 0, 1) := dk_42 (dk_at dksX6_number_3 17 rfl rfl)
theorem dX6_number_86 : decode cX6_number 86 = .ok (.getfield 22, 3) := dk_180 0 22 (dk_at dksX6_number_3 18 rfl rfl)
theorem dX6_number_89 : decode cX6_number 89 = .ok (.invokespecial 51, 3) := dk_183 0 51 (dk_at dksX6_number_3 21 rfl rfl)
theorem dX6_number_92 : decode cX6_number 92 = .ok (.athrow, 1) := dk_191 (dk_at dksX6_number_4 0 rfl rfl)
theorem dX6_number_93 : decode cX6_number 93 = .ok (.aload_n 0, 1) := dk_42 (dk_at dksX6_number_4 1 rfl rfl)
theorem dX6_number_94 : decode cX6_number 94 = .ok (.invokevirtual 43, 3) := dk_182 0 43 (dk_at dksX6_number_4 2 rfl rfl)
theorem dX6_number_97 : decode cX6_number 97 = .ok (.iload_n 3, 1) := dk_29 (dk_at dksX6_number_4 5 rfl rfl)
theorem dX6_number_98 : decode cX6_number 98 = .ok (.ireturn, 1) := dk_172 (dk_at dksX6_number_4 6 rfl rfl)
abbrev cX6_isValue : ByteArray := prog_13_method_21_code
def yX6_isValue : MethodName := ⟨RX6, "isValue", "(Ljava/lang/String;)Z"⟩
def dkwX6_isValue_0 : List UInt8 := [42, 43, 182, 0, 39, 154, 0, 5, 3, 172, 42, 182, 0, 156, 42, 182, 0, 43, 4, 172]
abbrev dktX6_isValue_0 : List UInt8 := dkwX6_isValue_0 ++ []
theorem dksX6_isValue_0 : cX6_isValue.data.toList.drop 0 = dktX6_isValue_0 := by decide +kernel
theorem dX6_isValue_0 : decode cX6_isValue 0 = .ok (.aload_n 0, 1) := dk_42 (dk_at dksX6_isValue_0 0 rfl rfl)
theorem dX6_isValue_1 : decode cX6_isValue 1 = .ok (.aload_n 1, 1) := dk_43 (dk_at dksX6_isValue_0 1 rfl rfl)
theorem dX6_isValue_2 : decode cX6_isValue 2 = .ok (.invokevirtual 39, 3) := dk_182 0 39 (dk_at dksX6_isValue_0 2 rfl rfl)
theorem dX6_isValue_5 : decode cX6_isValue 5 = .ok (.ifCond .ne 5, 3) := dk_154 0 5 (dk_at dksX6_isValue_0 5 rfl rfl)
theorem dX6_isValue_8 : decode cX6_isValue 8 = .ok (.iconst 0, 1) := dk_3 (dk_at dksX6_isValue_0 8 rfl rfl)
theorem dX6_isValue_9 : decode cX6_isValue 9 = .ok (.ireturn, 1) := dk_172 (dk_at dksX6_isValue_0 9 rfl rfl)
theorem dX6_isValue_10 : decode cX6_isValue 10 = .ok (.aload_n 0, 1) := dk_42 (dk_at dksX6_isValue_0 10 rfl rfl)
theorem dX6_isValue_11 : decode cX6_isValue 11 = .ok (.invokevirtual 156, 3) := dk_182 0 156 (dk_at dksX6_isValue_0 11 rfl rfl)
theorem dX6_isValue_14 : decode cX6_isValue 14 = .ok (.aload_n 0, 1) := dk_42 (dk_at dksX6_isValue_0 14 rfl rfl)
theorem dX6_isValue_15 : decode cX6_isValue 15 = .ok (.invokevirtual 43, 3) := dk_182 0 43 (dk_at dksX6_isValue_0 15 rfl rfl)
theorem dX6_isValue_18 : decode cX6_isValue 18 = .ok (.iconst 1, 1) := dk_4 (dk_at dksX6_isValue_0 18 rfl rfl)
theorem dX6_isValue_19 : decode cX6_isValue 19 = .ok (.ireturn, 1) := dk_172 (dk_at dksX6_isValue_0 19 rfl rfl)
abbrev cX6_test : ByteArray := prog_13_method_12_code
def yX6_test : MethodName := ⟨RX6, "test", "()LRoseThrow$Test;"⟩
def dkwX6_test_2 : List UInt8 := [182, 0, 62, 182, 0, 77, 87, 167, 255, 235, 44, 176]
abbrev dktX6_test_2 : List UInt8 := dkwX6_test_2 ++ []
def dkwX6_test_1 : List UInt8 := [77, 44, 180, 0, 73, 43, 182, 0, 77, 87, 42, 18, 66, 182, 0, 46, 153, 0, 18, 44, 180, 0, 73, 42]
abbrev dktX6_test_1 : List UInt8 := dkwX6_test_1 ++ dktX6_test_2
def dkwX6_test_0 : List UInt8 := [42, 182, 0, 62, 76, 42, 18, 66, 182, 0, 39, 154, 0, 5, 43, 176, 187, 0, 68, 89, 3, 183, 0, 70]
abbrev dktX6_test_0 : List UInt8 := dkwX6_test_0 ++ dktX6_test_1
theorem dksX6_test_0 : cX6_test.data.toList.drop 0 = dktX6_test_0 := by decide +kernel
theorem dksX6_test_1 : cX6_test.data.toList.drop 24 = dktX6_test_1 := dk_seg dksX6_test_0 24 rfl rfl
theorem dksX6_test_2 : cX6_test.data.toList.drop 48 = dktX6_test_2 := dk_seg dksX6_test_1 24 rfl rfl
theorem dX6_test_0 : decode cX6_test 0 = .ok (.aload_n 0, 1) := dk_42 (dk_at dksX6_test_0 0 rfl rfl)
theorem dX6_test_1 : decode cX6_test 1 = .ok (.invokevirtual 62, 3) := dk_182 0 62 (dk_at dksX6_test_0 1 rfl rfl)
theorem dX6_test_4 : decode cX6_test 4 = .ok (.astore_n 1, 1) := dk_76 (dk_at dksX6_test_0 4 rfl rfl)
theorem dX6_test_5 : decode cX6_test 5 = .ok (.aload_n 0, 1) := dk_42 (dk_at dksX6_test_0 5 rfl rfl)
theorem dX6_test_6 : decode cX6_test 6 = .ok (.ldc 66, 2) := dk_18 66 (dk_at dksX6_test_0 6 rfl rfl)
theorem dX6_test_8 : decode cX6_test 8 = .ok (.invokevirtual 39, 3) := dk_182 0 39 (dk_at dksX6_test_0 8 rfl rfl)
theorem dX6_test_11 : decode cX6_test 11 = .ok (.ifCond .ne 5, 3) := dk_154 0 5 (dk_at dksX6_test_0 11 rfl rfl)
theorem dX6_test_14 : decode cX6_test 14 = .ok (.aload_n 1, 1) := dk_43 (dk_at dksX6_test_0 14 rfl rfl)
theorem dX6_test_15 : decode cX6_test 15 = .ok (.areturn, 1) := dk_176 (dk_at dksX6_test_0 15 rfl rfl)
theorem dX6_test_16 : decode cX6_test 16 = .ok (.new 68, 3) := dk_187 0 68 (dk_at dksX6_test_0 16 rfl rfl)
theorem dX6_test_19 : decode cX6_test 19 = .ok (.dup, 1) := dk_89 (dk_at dksX6_test_0 19 rfl rfl)
theorem dX6_test_20 : decode cX6_test 20 = .ok (.iconst 0, 1) := dk_3 (dk_at dksX6_test_0 20 rfl rfl)
theorem dX6_test_21 : decode cX6_test 21 = .ok (.invokespecial 70, 3) := dk_183 0 70 (dk_at dksX6_test_0 21 rfl rfl)
theorem dX6_test_24 : decode cX6_test 24 = .ok (.astore_n 2, 1) := dk_77 (dk_at dksX6_test_1 0 rfl rfl)
theorem dX6_test_25 : decode cX6_test 25 = .ok (.aload_n 2, 1) := dk_44 (dk_at dksX6_test_1 1 rfl rfl)
theorem dX6_test_26 : decode cX6_test 26 = .ok (.getfield 73, 3) := dk_180 0 73 (dk_at dksX6_test_1 2 rfl rfl)
theorem dX6_test_29 : decode cX6_test 29 = .ok (.aload_n 1, 1) := dk_43 (dk_at dksX6_test_1 5 rfl rfl)
theorem dX6_test_30 : decode cX6_test 30 = .ok (.invokevirtual 77, 3) := dk_182 0 77 (dk_at dksX6_test_1 6 rfl rfl)
theorem dX6_test_33 : decode cX6_test 33 = .ok (.pop, 1) := dk_87 (dk_at dksX6_test_1 9 rfl rfl)
theorem dX6_test_34 : decode cX6_test 34 = .ok (.aload_n 0, 1) := dk_42 (dk_at dksX6_test_1 10 rfl rfl)
theorem dX6_test_35 : decode cX6_test 35 = .ok (.ldc 66, 2) := dk_18 66 (dk_at dksX6_test_1 11 rfl rfl)
theorem dX6_test_37 : decode cX6_test 37 = .ok (.invokevirtual 46, 3) := dk_182 0 46 (dk_at dksX6_test_1 13 rfl rfl)
theorem dX6_test_40 : decode cX6_test 40 = .ok (.ifCond .eq 18, 3) := dk_153 0 18 (dk_at dksX6_test_1 16 rfl rfl)
theorem dX6_test_43 : decode cX6_test 43 = .ok (.aload_n 2, 1) := dk_44 (dk_at dksX6_test_1 19 rfl rfl)
theorem dX6_test_44 : decode cX6_test 44 = .ok (.getfield 73, 3) := dk_180 0 73 (dk_at dksX6_test_1 20 rfl rfl)
theorem dX6_test_47 : decode cX6_test 47 = .ok (.aload_n 0, 1) := dk_42 (dk_at dksX6_test_1 23 rfl rfl)
theorem dX6_test_48 : decode cX6_test 48 = .ok (.invokevirtual 62, 3) := dk_182 0 62 (dk_at dksX6_test_2 0 rfl rfl)
theorem dX6_test_51 : decode cX6_test 51 = .ok (.invokevirtual 77, 3) := dk_182 0 77 (dk_at dksX6_test_2 3 rfl rfl)
theorem dX6_test_54 : decode cX6_test 54 = .ok (.pop, 1) := dk_87 (dk_at dksX6_test_2 6 rfl rfl)
theorem dX6_test_55 : decode cX6_test 55 = .ok (.goto (-21), 3) := dk_167 255 235 (dk_at dksX6_test_2 7 rfl rfl)
theorem dX6_test_58 : decode cX6_test 58 = .ok (.aload_n 2, 1) := dk_44 (dk_at dksX6_test_2 10 rfl rfl)
theorem dX6_test_59 : decode cX6_test 59 = .ok (.areturn, 1) := dk_176 (dk_at dksX6_test_2 11 rfl rfl)
abbrev cX6_both : ByteArray := prog_13_method_13_code
def yX6_both : MethodName := ⟨RX6, "both", "()LRoseThrow$Test;"⟩
def dkwX6_both_2 : List UInt8 := [182, 0, 83, 182, 0, 77, 87, 167, 255, 235, 44, 176]
abbrev dktX6_both_2 : List UInt8 := dkwX6_both_2 ++ []
def dkwX6_both_1 : List UInt8 := [77, 44, 180, 0, 73, 43, 182, 0, 77, 87, 42, 18, 86, 182, 0, 46, 153, 0, 18, 44, 180, 0, 73, 42]
abbrev dktX6_both_1 : List UInt8 := dkwX6_both_1 ++ dktX6_both_2
def dkwX6_both_0 : List UInt8 := [42, 182, 0, 83, 76, 42, 18, 86, 182, 0, 39, 154, 0, 5, 43, 176, 187, 0, 68, 89, 4, 183, 0, 70]
abbrev dktX6_both_0 : List UInt8 := dkwX6_both_0 ++ dktX6_both_1
theorem dksX6_both_0 : cX6_both.data.toList.drop 0 = dktX6_both_0 := by decide +kernel
theorem dksX6_both_1 : cX6_both.data.toList.drop 24 = dktX6_both_1 := dk_seg dksX6_both_0 24 rfl rfl
theorem dksX6_both_2 : cX6_both.data.toList.drop 48 = dktX6_both_2 := dk_seg dksX6_both_1 24 rfl rfl
theorem dX6_both_0 : decode cX6_both 0 = .ok (.aload_n 0, 1) := dk_42 (dk_at dksX6_both_0 0 rfl rfl)
theorem dX6_both_1 : decode cX6_both 1 = .ok (.invokevirtual 83, 3) := dk_182 0 83 (dk_at dksX6_both_0 1 rfl rfl)
theorem dX6_both_4 : decode cX6_both 4 = .ok (.astore_n 1, 1) := dk_76 (dk_at dksX6_both_0 4 rfl rfl)
theorem dX6_both_5 : decode cX6_both 5 = .ok (.aload_n 0, 1) := dk_42 (dk_at dksX6_both_0 5 rfl rfl)
theorem dX6_both_6 : decode cX6_both 6 = .ok (.ldc 86, 2) := dk_18 86 (dk_at dksX6_both_0 6 rfl rfl)
theorem dX6_both_8 : decode cX6_both 8 = .ok (.invokevirtual 39, 3) := dk_182 0 39 (dk_at dksX6_both_0 8 rfl rfl)
theorem dX6_both_11 : decode cX6_both 11 = .ok (.ifCond .ne 5, 3) := dk_154 0 5 (dk_at dksX6_both_0 11 rfl rfl)
theorem dX6_both_14 : decode cX6_both 14 = .ok (.aload_n 1, 1) := dk_43 (dk_at dksX6_both_0 14 rfl rfl)
theorem dX6_both_15 : decode cX6_both 15 = .ok (.areturn, 1) := dk_176 (dk_at dksX6_both_0 15 rfl rfl)
theorem dX6_both_16 : decode cX6_both 16 = .ok (.new 68, 3) := dk_187 0 68 (dk_at dksX6_both_0 16 rfl rfl)
theorem dX6_both_19 : decode cX6_both 19 = .ok (.dup, 1) := dk_89 (dk_at dksX6_both_0 19 rfl rfl)
theorem dX6_both_20 : decode cX6_both 20 = .ok (.iconst 1, 1) := dk_4 (dk_at dksX6_both_0 20 rfl rfl)
theorem dX6_both_21 : decode cX6_both 21 = .ok (.invokespecial 70, 3) := dk_183 0 70 (dk_at dksX6_both_0 21 rfl rfl)
theorem dX6_both_24 : decode cX6_both 24 = .ok (.astore_n 2, 1) := dk_77 (dk_at dksX6_both_1 0 rfl rfl)
theorem dX6_both_25 : decode cX6_both 25 = .ok (.aload_n 2, 1) := dk_44 (dk_at dksX6_both_1 1 rfl rfl)
theorem dX6_both_26 : decode cX6_both 26 = .ok (.getfield 73, 3) := dk_180 0 73 (dk_at dksX6_both_1 2 rfl rfl)
theorem dX6_both_29 : decode cX6_both 29 = .ok (.aload_n 1, 1) := dk_43 (dk_at dksX6_both_1 5 rfl rfl)
theorem dX6_both_30 : decode cX6_both 30 = .ok (.invokevirtual 77, 3) := dk_182 0 77 (dk_at dksX6_both_1 6 rfl rfl)
theorem dX6_both_33 : decode cX6_both 33 = .ok (.pop, 1) := dk_87 (dk_at dksX6_both_1 9 rfl rfl)
theorem dX6_both_34 : decode cX6_both 34 = .ok (.aload_n 0, 1) := dk_42 (dk_at dksX6_both_1 10 rfl rfl)
theorem dX6_both_35 : decode cX6_both 35 = .ok (.ldc 86, 2) := dk_18 86 (dk_at dksX6_both_1 11 rfl rfl)
theorem dX6_both_37 : decode cX6_both 37 = .ok (.invokevirtual 46, 3) := dk_182 0 46 (dk_at dksX6_both_1 13 rfl rfl)
theorem dX6_both_40 : decode cX6_both 40 = .ok (.ifCond .eq 18, 3) := dk_153 0 18 (dk_at dksX6_both_1 16 rfl rfl)
theorem dX6_both_43 : decode cX6_both 43 = .ok (.aload_n 2, 1) := dk_44 (dk_at dksX6_both_1 19 rfl rfl)
theorem dX6_both_44 : decode cX6_both 44 = .ok (.getfield 73, 3) := dk_180 0 73 (dk_at dksX6_both_1 20 rfl rfl)
theorem dX6_both_47 : decode cX6_both 47 = .ok (.aload_n 0, 1) := dk_42 (dk_at dksX6_both_1 23 rfl rfl)
theorem dX6_both_48 : decode cX6_both 48 = .ok (.invokevirtual 83, 3) := dk_182 0 83 (dk_at dksX6_both_2 0 rfl rfl)
theorem dX6_both_51 : decode cX6_both 51 = .ok (.invokevirtual 77, 3) := dk_182 0 77 (dk_at dksX6_both_2 3 rfl rfl)
theorem dX6_both_54 : decode cX6_both 54 = .ok (.pop, 1) := dk_87 (dk_at dksX6_both_2 6 rfl rfl)
theorem dX6_both_55 : decode cX6_both 55 = .ok (.goto (-21), 3) := dk_167 255 235 (dk_at dksX6_both_2 7 rfl rfl)
theorem dX6_both_58 : decode cX6_both 58 = .ok (.aload_n 2, 1) := dk_44 (dk_at dksX6_both_2 10 rfl rfl)
theorem dX6_both_59 : decode cX6_both 59 = .ok (.areturn, 1) := dk_176 (dk_at dksX6_both_2 11 rfl rfl)
abbrev cX6_plain : ByteArray := prog_13_method_15_code
def yX6_plain : MethodName := ⟨RX6, "plain", "()LRoseThrow$Test;"⟩
def dkwX6_plain_1 : List UInt8 := [42, 182, 0, 93, 77, 27, 153, 0, 14, 187, 0, 96, 89, 44, 183, 0, 98, 167, 0, 4, 44, 176]
abbrev dktX6_plain_1 : List UInt8 := dkwX6_plain_1 ++ []
def dkwX6_plain_0 : List UInt8 := [3, 60, 42, 18, 91, 182, 0, 46, 153, 0, 16, 27, 154, 0, 7, 4, 167, 0, 4, 3, 60, 167, 255, 237]
abbrev dktX6_plain_0 : List UInt8 := dkwX6_plain_0 ++ dktX6_plain_1
theorem dksX6_plain_0 : cX6_plain.data.toList.drop 0 = dktX6_plain_0 := by decide +kernel
theorem dksX6_plain_1 : cX6_plain.data.toList.drop 24 = dktX6_plain_1 := dk_seg dksX6_plain_0 24 rfl rfl
theorem dX6_plain_0 : decode cX6_plain 0 = .ok (.iconst 0, 1) := dk_3 (dk_at dksX6_plain_0 0 rfl rfl)
theorem dX6_plain_1 : decode cX6_plain 1 = .ok (.istore_n 1, 1) := dk_60 (dk_at dksX6_plain_0 1 rfl rfl)
theorem dX6_plain_2 : decode cX6_plain 2 = .ok (.aload_n 0, 1) := dk_42 (dk_at dksX6_plain_0 2 rfl rfl)
theorem dX6_plain_3 : decode cX6_plain 3 = .ok (.ldc 91, 2) := dk_18 91 (dk_at dksX6_plain_0 3 rfl rfl)
theorem dX6_plain_5 : decode cX6_plain 5 = .ok (.invokevirtual 46, 3) := dk_182 0 46 (dk_at dksX6_plain_0 5 rfl rfl)
theorem dX6_plain_8 : decode cX6_plain 8 = .ok (.ifCond .eq 16, 3) := dk_153 0 16 (dk_at dksX6_plain_0 8 rfl rfl)
theorem dX6_plain_11 : decode cX6_plain 11 = .ok (.iload_n 1, 1) := dk_27 (dk_at dksX6_plain_0 11 rfl rfl)
theorem dX6_plain_12 : decode cX6_plain 12 = .ok (.ifCond .ne 7, 3) := dk_154 0 7 (dk_at dksX6_plain_0 12 rfl rfl)
theorem dX6_plain_15 : decode cX6_plain 15 = .ok (.iconst 1, 1) := dk_4 (dk_at dksX6_plain_0 15 rfl rfl)
theorem dX6_plain_16 : decode cX6_plain 16 = .ok (.goto 4, 3) := dk_167 0 4 (dk_at dksX6_plain_0 16 rfl rfl)
theorem dX6_plain_19 : decode cX6_plain 19 = .ok (.iconst 0, 1) := dk_3 (dk_at dksX6_plain_0 19 rfl rfl)
theorem dX6_plain_20 : decode cX6_plain 20 = .ok (.istore_n 1, 1) := dk_60 (dk_at dksX6_plain_0 20 rfl rfl)
theorem dX6_plain_21 : decode cX6_plain 21 = .ok (.goto (-19), 3) := dk_167 255 237 (dk_at dksX6_plain_0 21 rfl rfl)
theorem dX6_plain_24 : decode cX6_plain 24 = .ok (.aload_n 0, 1) := dk_42 (dk_at dksX6_plain_1 0 rfl rfl)
theorem dX6_plain_25 : decode cX6_plain 25 = .ok (.invokevirtual 93, 3) := dk_182 0 93 (dk_at dksX6_plain_1 1 rfl rfl)
theorem dX6_plain_28 : decode cX6_plain 28 = .ok (.astore_n 2, 1) := dk_77 (dk_at dksX6_plain_1 4 rfl rfl)
theorem dX6_plain_29 : decode cX6_plain 29 = .ok (.iload_n 1, 1) := dk_27 (dk_at dksX6_plain_1 5 rfl rfl)
theorem dX6_plain_30 : decode cX6_plain 30 = .ok (.ifCond .eq 14, 3) := dk_153 0 14 (dk_at dksX6_plain_1 6 rfl rfl)
theorem dX6_plain_33 : decode cX6_plain 33 = .ok (.new 96, 3) := dk_187 0 96 (dk_at dksX6_plain_1 9 rfl rfl)
theorem dX6_plain_36 : decode cX6_plain 36 = .ok (.dup, 1) := dk_89 (dk_at dksX6_plain_1 12 rfl rfl)
theorem dX6_plain_37 : decode cX6_plain 37 = .ok (.aload_n 2, 1) := dk_44 (dk_at dksX6_plain_1 13 rfl rfl)
theorem dX6_plain_38 : decode cX6_plain 38 = .ok (.invokespecial 98, 3) := dk_183 0 98 (dk_at dksX6_plain_1 14 rfl rfl)
theorem dX6_plain_41 : decode cX6_plain 41 = .ok (.goto 4, 3) := dk_167 0 4 (dk_at dksX6_plain_1 17 rfl rfl)
theorem dX6_plain_44 : decode cX6_plain 44 = .ok (.aload_n 2, 1) := dk_44 (dk_at dksX6_plain_1 20 rfl rfl)
theorem dX6_plain_45 : decode cX6_plain 45 = .ok (.areturn, 1) := dk_176 (dk_at dksX6_plain_1 21 rfl rfl)
abbrev cX6_positive : ByteArray := prog_13_method_16_code
def yX6_positive : MethodName := ⟨RX6, "positive", "()LRoseThrow$Test;"⟩
def dkwX6_positive_4 : List UInt8 := [187, 0, 125, 89, 28, 43, 42, 182, 0, 115, 183, 0, 127, 176]
abbrev dktX6_positive_4 : List UInt8 := dkwX6_positive_4 ++ []
def dkwX6_positive_3 : List UInt8 := [89, 42, 180, 0, 22, 183, 0, 51, 191, 42, 180, 0, 9, 42, 180, 0, 22, 51, 146, 61, 42, 182, 0, 43]
abbrev dktX6_positive_3 : List UInt8 := dkwX6_positive_3 ++ dktX6_positive_4
def dkwX6_positive_2 : List UInt8 := [154, 0, 33, 42, 18, 121, 182, 0, 39, 154, 0, 24, 42, 18, 123, 182, 0, 39, 154, 0, 15, 187, 0, 49]
abbrev dktX6_positive_2 : List UInt8 := dkwX6_positive_2 ++ dktX6_positive_3
def dkwX6_positive_1 : List UInt8 := [42, 89, 180, 0, 88, 4, 100, 181, 0, 88, 43, 176, 42, 182, 0, 115, 76, 42, 18, 119, 182, 0, 39]
abbrev dktX6_positive_1 : List UInt8 := dkwX6_positive_1 ++ dktX6_positive_2
def dkwX6_positive_0 : List UInt8 := [42, 18, 101, 182, 0, 39, 153, 0, 30, 42, 182, 0, 103, 42, 182, 0, 106, 76, 42, 18, 109, 182, 0, 111]
abbrev dktX6_positive_0 : List UInt8 := dkwX6_positive_0 ++ dktX6_positive_1
theorem dksX6_positive_0 : cX6_positive.data.toList.drop 0 = dktX6_positive_0 := by decide +kernel
theorem dksX6_positive_1 : cX6_positive.data.toList.drop 24 = dktX6_positive_1 := dk_seg dksX6_positive_0 24 rfl rfl
theorem dksX6_positive_2 : cX6_positive.data.toList.drop 47 = dktX6_positive_2 := dk_seg dksX6_positive_1 23 rfl rfl
theorem dksX6_positive_3 : cX6_positive.data.toList.drop 71 = dktX6_positive_3 := dk_seg dksX6_positive_2 24 rfl rfl
theorem dksX6_positive_4 : cX6_positive.data.toList.drop 95 = dktX6_positive_4 := dk_seg dksX6_positive_3 24 rfl rfl
theorem dX6_positive_0 : decode cX6_positive 0 = .ok (.aload_n 0, 1) := dk_42 (dk_at dksX6_positive_0 0 rfl rfl)
theorem dX6_positive_1 : decode cX6_positive 1 = .ok (.ldc 101, 2) := dk_18 101 (dk_at dksX6_positive_0 1 rfl rfl)
theorem dX6_positive_3 : decode cX6_positive 3 = .ok (.invokevirtual 39, 3) := dk_182 0 39 (dk_at dksX6_positive_0 3 rfl rfl)
theorem dX6_positive_6 : decode cX6_positive 6 = .ok (.ifCond .eq 30, 3) := dk_153 0 30 (dk_at dksX6_positive_0 6 rfl rfl)
theorem dX6_positive_9 : decode cX6_positive 9 = .ok (.aload_n 0, 1) := dk_42 (dk_at dksX6_positive_0 9 rfl rfl)
theorem dX6_positive_10 : decode cX6_positive 10 = .ok (.invokevirtual 103, 3) := dk_182 0 103 (dk_at dksX6_positive_0 10 rfl rfl)
theorem dX6_positive_13 : decode cX6_positive 13 = .ok (.aload_n 0, 1) := dk_42 (dk_at dksX6_positive_0 13 rfl rfl)
theorem dX6_positive_14 : decode cX6_positive 14 = .ok (.invokevirtual 106, 3) := dk_182 0 106 (dk_at dksX6_positive_0 14 rfl rfl)
theorem dX6_positive_17 : decode cX6_positive 17 = .ok (.astore_n 1, 1) := dk_76 (dk_at dksX6_positive_0 17 rfl rfl)
theorem dX6_positive_18 : decode cX6_positive 18 = .ok (.aload_n 0, 1) := dk_42 (dk_at dksX6_positive_0 18 rfl rfl)
theorem dX6_positive_19 : decode cX6_positive 19 = .ok (.ldc 109, 2) := dk_18 109 (dk_at dksX6_positive_0 19 rfl rfl)
theorem dX6_positive_21 : decode cX6_positive 21 = .ok (.invokevirtual 111, 3) := dk_182 0 111 (dk_at dksX6_positive_0 21 rfl rfl)
theorem dX6_positive_24 : decode cX6_positive 24 = .ok (.aload_n 0, 1) := dk_42 (dk_at dksX6_positive_1 0 rfl rfl)
theorem dX6_positive_25 : decode cX6_positive 25 = .ok (.dup, 1) := dk_89 (dk_at dksX6_positive_1 1 rfl rfl)
theorem dX6_positive_26 : decode cX6_positive 26 = .ok (.getfield 88, 3) := dk_180 0 88 (dk_at dksX6_positive_1 2 rfl rfl)
theorem dX6_positive_29 : decode cX6_positive 29 = .ok (.iconst 1, 1) := dk_4 (dk_at dksX6_positive_1 5 rfl rfl)
theorem dX6_positive_30 : decode cX6_positive 30 = .ok (.isub, 1) := dk_100 (dk_at dksX6_positive_1 6 rfl rfl)
theorem dX6_positive_31 : decode cX6_positive 31 = .ok (.putfield 88, 3) := dk_181 0 88 (dk_at dksX6_positive_1 7 rfl rfl)
theorem dX6_positive_34 : decode cX6_positive 34 = .ok (.aload_n 1, 1) := dk_43 (dk_at dksX6_positive_1 10 rfl rfl)
theorem dX6_positive_35 : decode cX6_positive 35 = .ok (.areturn, 1) := dk_176 (dk_at dksX6_positive_1 11 rfl rfl)
theorem dX6_positive_36 : decode cX6_positive 36 = .ok (.aload_n 0, 1) := dk_42 (dk_at dksX6_positive_1 12 rfl rfl)
theorem dX6_positive_37 : decode cX6_positive 37 = .ok (.invokevirtual 115, 3) := dk_182 0 115 (dk_at dksX6_positive_1 13 rfl rfl)
theorem dX6_positive_40 : decode cX6_positive 40 = .ok (.astore_n 1, 1) := dk_76 (dk_at dksX6_positive_1 16 rfl rfl)
theorem dX6_positive_41 : decode cX6_positive 41 = .ok (.aload_n 0, 1) := dk_42 (dk_at dksX6_positive_1 17 rfl rfl)
theorem dX6_positive_42 : decode cX6_positive 42 = .ok (.ldc 119, 2) := dk_18 119 (dk_at dksX6_positive_1 18 rfl rfl)
theorem dX6_positive_44 : decode cX6_positive 44 = .ok (.invokevirtual 39, 3) := dk_182 0 39 (dk_at dksX6_positive_1 20 rfl rfl)
theorem dX6_positive_47 : decode cX6_positive 47 = .ok (.ifCond .ne 33, 3) := dk_154 0 33 (dk_at dksX6_positive_2 0 rfl rfl)
theorem dX6_positive_50 : decode cX6_positive 50 = .ok (.aload_n 0, 1) := dk_42 (dk_at dksX6_positive_2 3 rfl rfl)
theorem dX6_positive_51 : decode cX6_positive 51 = .ok (.ldc 121, 2) := dk_18 121 (dk_at dksX6_positive_2 4 rfl rfl)
theorem dX6_positive_53 : decode cX6_positive 53 = .ok (.invokevirtual 39, 3) := dk_182 0 39 (dk_at dksX6_positive_2 6 rfl rfl)
theorem dX6_positive_56 : decode cX6_positive 56 = .ok (.ifCond .ne 24, 3) := dk_154 0 24 (dk_at dksX6_positive_2 9 rfl rfl)
theorem dX6_positive_59 : decode cX6_positive 59 = .ok (.aload_n 0, 1) := dk_42 (dk_at dksX6_positive_2 12 rfl rfl)
theorem dX6_positive_60 : decode cX6_positive 60 = .ok (.ldc 123, 2) := dk_18 123 (dk_at dksX6_positive_2 13 rfl rfl)
theorem dX6_positive_62 : decode cX6_positive 62 = .ok (.invokevirtual 39, 3) := dk_182 0 39 (dk_at dksX6_positive_2 15 rfl rfl)
theorem dX6_positive_65 : decode cX6_positive 65 = .ok (.ifCond .ne 15, 3) := dk_154 0 15 (dk_at dksX6_positive_2 18 rfl rfl)
theorem dX6_positive_68 : decode cX6_positive 68 = .ok (.new 49, 3) := dk_187 0 49 (dk_at dksX6_positive_2 21 rfl rfl)
theorem dX6_positive_71 : decode cX6_positive 71 = .ok (.dup, 1) := dk_89 (dk_at dksX6_positive_3 0 rfl rfl)
theorem dX6_positive_72 : decode cX6_positive 72 = .ok (.aload_n 0, 1) := dk_42 (dk_at dksX6_positive_3 1 rfl rfl)
theorem dX6_positive_73 : decode cX6_positive 73 = .ok (.getfield 22, 3) := dk_180 0 22 (dk_at dksX6_positive_3 2 rfl rfl)
theorem dX6_positive_76 : decode cX6_positive 76 = .ok (.invokespecial 51, 3) := dk_183 0 51 (dk_at dksX6_positive_3 5 rfl rfl)
theorem dX6_positive_79 : decode cX6_positive 79 = .ok (.athrow, 1) := dk_191 (dk_at dksX6_positive_3 8 rfl rfl)
theorem dX6_positive_80 : decode cX6_positive 80 = .ok (.aload_n 0, 1) := dk_42 (dk_at dksX6_positive_3 9 rfl rfl)
theorem dX6_positive_81 : decode cX6_positive 81 = .ok (.getfield 9, 3) := dk_180 0 9 (dk_at dksX6_positive_3 10 rfl rfl)
theorem dX6_positive_84 : decode cX6_positive 84 = .ok (.aload_n 0, 1) := dk_42 (dk_at dksX6_positive_3 13 rfl rfl)
theorem dX6_positive_85 : decode cX6_positive 85 = .ok (.getfield 22, 3) := dk_180 0 22 (dk_at dksX6_positive_3 14 rfl rfl)
theorem dX6_positive_88 : decode cX6_positive 88 = .ok (.baload, 1) := dk_51 (dk_at dksX6_positive_3 17 rfl rfl)
theorem dX6_positive_89 : decode cX6_positive 89 = .ok (.i2c, 1) := dk_146 (dk_at dksX6_positive_3 18 rfl rfl)
theorem dX6_positive_90 : decode cX6_positive 90 = .ok (.istore_n 2, 1) := dk_61 (dk_at dksX6_positive_3 19 rfl rfl)
theorem dX6_positive_91 : decode cX6_positive 91 = .ok (.aload_n 0, 1) := dk_42 (dk_at dksX6_positive_3 20 rfl rfl)
theorem dX6_positive_92 : decode cX6_positive 92 = .ok (.invokevirtual 43, 3) := dk_182 0 43 (dk_at dksX6_positive_3 21 rfl rfl)
theorem dX6_positive_95 : decode cX6_positive 95 = .ok (.new 125, 3) := dk_187 0 125 (dk_at dksX6_positive_4 0 rfl rfl)
theorem dX6_positive_98 : decode cX6_positive 98 = .ok (.dup, 1) := dk_89 (dk_at dksX6_positive_4 3 rfl rfl)
theorem dX6_positive_99 : decode cX6_positive 99 = .ok (.iload_n 2, 1) := dk_28 (dk_at dksX6_positive_4 4 rfl rfl)
theorem dX6_positive_100 : decode cX6_positive 100 = .ok (.aload_n 1, 1) := dk_43 (dk_at dksX6_positive_4 5 rfl rfl)
theorem dX6_positive_101 : decode cX6_positive 101 = .ok (.aload_n 0, 1) := dk_42 (dk_at dksX6_positive_4 6 rfl rfl)
theorem dX6_positive_102 : decode cX6_positive 102 = .ok (.invokevirtual 115, 3) := dk_182 0 115 (dk_at dksX6_positive_4 7 rfl rfl)
theorem dX6_positive_105 : decode cX6_positive 105 = .ok (.invokespecial 127, 3) := dk_183 0 127 (dk_at dksX6_positive_4 10 rfl rfl)
theorem dX6_positive_108 : decode cX6_positive 108 = .ok (.areturn, 1) := dk_176 (dk_at dksX6_positive_4 13 rfl rfl)
theorem q139 : (Jvm.Cond.initialized "RoseThrow$Reader") ∈ lw_all := lw_g (lw_at lw_m1 14 rfl) rfl
theorem q700 : (Jvm.Cond.instanceMethod ({ cls := "RoseThrow$Reader", name := "<init>", desc := "([BI)V" } : Jvm.MethodName)) ∈ lw_all := lw_g (lw_at lw_m3 95 rfl) rfl
theorem q701 : (Jvm.Cond.code ({ cls := "RoseThrow$Reader", name := "<init>", desc := "([BI)V" } : Jvm.MethodName) prog_13_method_1_code (3 : Nat) (Option.none : Option Jvm.ClassFile.FieldType)) ∈ lw_all := lw_g (lw_at lw_m3 96 rfl) rfl
theorem q702 : (Jvm.Cond.methodLink "RoseThrow$Reader" (3 : Nat) ({ cls := "java/lang/Object", name := "<init>", desc := "()V" } : Jvm.MethodName)) ∈ lw_all := lw_g (lw_at lw_m3 97 rfl) rfl
theorem q707 : (Jvm.Cond.fieldLink "RoseThrow$Reader" (9 : Nat) "RoseThrow$Reader" "tape" "[B") ∈ lw_all := lw_g (lw_at lw_m3 102 rfl) rfl
theorem q708 : (Jvm.Cond.fieldLink "RoseThrow$Reader" (15 : Nat) "RoseThrow$Reader" "size" "I") ∈ lw_all := lw_g (lw_at lw_m3 103 rfl) rfl
theorem q709 : (Jvm.Cond.fieldLink "RoseThrow$Reader" (59 : Nat) "RoseThrow$Reader" "made" "I") ∈ lw_all := lw_g (lw_at lw_m3 104 rfl) rfl
theorem q710 : (Jvm.Cond.fieldLink "RoseThrow$Reader" (22 : Nat) "RoseThrow$Reader" "from" "I") ∈ lw_all := lw_g (lw_at lw_m3 105 rfl) rfl
theorem q711 : (Jvm.Cond.fieldLink "RoseThrow$Reader" (19 : Nat) "RoseThrow$Reader" "to" "I") ∈ lw_all := lw_g (lw_at lw_m3 106 rfl) rfl
theorem q712 : (Jvm.Cond.fieldLink "RoseThrow$Reader" (149 : Nat) "RoseThrow$Reader" "leaves" "I") ∈ lw_all := lw_g (lw_at lw_m3 107 rfl) rfl
theorem q713 : (Jvm.Cond.fieldLink "RoseThrow$Reader" (88 : Nat) "RoseThrow$Reader" "deep" "I") ∈ lw_all := lw_g (lw_at lw_m3 108 rfl) rfl
theorem q717 : (Jvm.Cond.soleField "RoseThrow$Reader" "tape") ∈ lw_all := lw_g (lw_at lw_m3 112 rfl) rfl
theorem q719 : (Jvm.Cond.soleField "RoseThrow$Reader" "size") ∈ lw_all := lw_g (lw_at lw_m3 114 rfl) rfl
theorem q721 : (Jvm.Cond.soleField "RoseThrow$Reader" "made") ∈ lw_all := lw_g (lw_at lw_m3 116 rfl) rfl
theorem q723 : (Jvm.Cond.soleField "RoseThrow$Reader" "from") ∈ lw_all := lw_g (lw_at lw_m3 118 rfl) rfl
theorem q725 : (Jvm.Cond.soleField "RoseThrow$Reader" "to") ∈ lw_all := lw_g (lw_at lw_m3 120 rfl) rfl
theorem q727 : (Jvm.Cond.soleField "RoseThrow$Reader" "leaves") ∈ lw_all := lw_g (lw_at lw_m3 122 rfl) rfl
theorem q729 : (Jvm.Cond.soleField "RoseThrow$Reader" "deep") ∈ lw_all := lw_g (lw_at lw_m3 124 rfl) rfl
theorem q737 : (Jvm.Cond.instanceMethod ({ cls := "RoseThrow$Reader", name := "read", desc := "()V" } : Jvm.MethodName)) ∈ lw_all := lw_g (lw_at lw_m3 132 rfl) rfl
theorem q738 : (Jvm.Cond.sameMethod "RoseThrow$Reader" "RoseThrow$Reader" "read" "()V") ∈ lw_all := lw_g (lw_at lw_m3 133 rfl) rfl
theorem q741 : (Jvm.Cond.code ({ cls := "RoseThrow$Reader", name := "read", desc := "()V" } : Jvm.MethodName) prog_13_method_10_code (1 : Nat) (Option.none : Option Jvm.ClassFile.FieldType)) ∈ lw_all := lw_g (lw_at lw_m3 136 rfl) rfl
theorem q742 : (Jvm.Cond.methodLink "RoseThrow$Reader" (43 : Nat) ({ cls := "RoseThrow$Reader", name := "next", desc := "()V" } : Jvm.MethodName)) ∈ lw_all := lw_g (lw_at lw_m3 137 rfl) rfl
theorem q743 : (Jvm.Cond.instanceMethod ({ cls := "RoseThrow$Reader", name := "next", desc := "()V" } : Jvm.MethodName)) ∈ lw_all := lw_g (lw_at lw_m3 138 rfl) rfl
theorem q744 : (Jvm.Cond.sameMethod "RoseThrow$Reader" "RoseThrow$Reader" "next" "()V") ∈ lw_all := lw_g (lw_at lw_m3 139 rfl) rfl
theorem q747 : (Jvm.Cond.code ({ cls := "RoseThrow$Reader", name := "next", desc := "()V" } : Jvm.MethodName) prog_13_method_3_code (1 : Nat) (Option.none : Option Jvm.ClassFile.FieldType)) ∈ lw_all := lw_g (lw_at lw_m3 142 rfl) rfl
theorem q748 : (Jvm.Cond.methodLink "RoseThrow$Reader" (25 : Nat) ({ cls := "RoseThrow$Reader", name := "isIn", desc := "(III)Z" } : Jvm.MethodName)) ∈ lw_all := lw_g (lw_at lw_m3 143 rfl) rfl
theorem q749 : (Jvm.Cond.instanceMethod ({ cls := "RoseThrow$Reader", name := "isIn", desc := "(III)Z" } : Jvm.MethodName)) ∈ lw_all := lw_g (lw_at lw_m3 144 rfl) rfl
theorem q750 : (Jvm.Cond.sameMethod "RoseThrow$Reader" "RoseThrow$Reader" "isIn" "(III)Z") ∈ lw_all := lw_g (lw_at lw_m3 145 rfl) rfl
theorem q753 : (Jvm.Cond.code ({ cls := "RoseThrow$Reader", name := "isIn", desc := "(III)Z" } : Jvm.MethodName) prog_13_method_2_code (4 : Nat) (Option.some Jvm.ClassFile.FieldType.boolean)) ∈ lw_all := lw_g (lw_at lw_m3 148 rfl) rfl
theorem q754 : (Jvm.Cond.methodLink "RoseThrow$Reader" (54 : Nat) ({ cls := "RoseThrow$Reader", name := "clause", desc := "()V" } : Jvm.MethodName)) ∈ lw_all := lw_g (lw_at lw_m3 149 rfl) rfl
theorem q755 : (Jvm.Cond.declares ({ cls := "RoseThrow$Reader", name := "clause", desc := "()V" } : Jvm.MethodName)) ∈ lw_tbl := lw_at lw_m3 150 rfl
theorem q756 : (Jvm.Cond.sameMethod "RoseThrow$Reader" "RoseThrow$Reader" "clause" "()V") ∈ lw_all := lw_g (lw_at lw_m3 151 rfl) rfl
theorem q763 : (Jvm.Cond.declares ({ cls := "RoseThrow$Reader", name := "is", desc := "(Ljava/lang/String;)Z" } : Jvm.MethodName)) ∈ lw_tbl := lw_at lw_m3 158 rfl
theorem q765 : (Jvm.Cond.instanceMethod ({ cls := "RoseThrow$Reader", name := "is", desc := "(Ljava/lang/String;)Z" } : Jvm.MethodName)) ∈ lw_all := lw_g (lw_at lw_m3 160 rfl) rfl
theorem q766 : (Jvm.Cond.code ({ cls := "RoseThrow$Reader", name := "is", desc := "(Ljava/lang/String;)Z" } : Jvm.MethodName) prog_13_method_4_code (3 : Nat) (Option.some Jvm.ClassFile.FieldType.boolean)) ∈ lw_all := lw_g (lw_at lw_m3 161 rfl) rfl
theorem q767 : (Jvm.Cond.methodLink "RoseThrow$Reader" (29 : Nat) ({ cls := "java/lang/String", name := "length", desc := "()I" } : Jvm.MethodName)) ∈ lw_all := lw_g (lw_at lw_m3 162 rfl) rfl
theorem q777 : (Jvm.Cond.methodLink "RoseThrow$Reader" (35 : Nat) ({ cls := "java/lang/String", name := "charAt", desc := "(I)C" } : Jvm.MethodName)) ∈ lw_all := lw_g (lw_at lw_m3 172 rfl) rfl
theorem q818 : (Jvm.Cond.declares ({ cls := "RoseThrow$Reader", name := "begins", desc := "(Z)V" } : Jvm.MethodName)) ∈ lw_tbl := lw_at lw_m3 213 rfl
theorem q820 : (Jvm.Cond.instanceMethod ({ cls := "RoseThrow$Reader", name := "begins", desc := "(Z)V" } : Jvm.MethodName)) ∈ lw_all := lw_g (lw_at lw_m3 215 rfl) rfl
theorem q821 : (Jvm.Cond.code ({ cls := "RoseThrow$Reader", name := "begins", desc := "(Z)V" } : Jvm.MethodName) prog_13_method_11_code (2 : Nat) (Option.none : Option Jvm.ClassFile.FieldType)) ∈ lw_all := lw_g (lw_at lw_m3 216 rfl) rfl
theorem q822 : (Jvm.Cond.classLink "RoseThrow$Reader" (49 : Nat) "RoseThrow$Fault") ∈ lw_all := lw_g (lw_at lw_m3 217 rfl) rfl
theorem q831 : (Jvm.Cond.methodLink "RoseThrow$Reader" (51 : Nat) ({ cls := "RoseThrow$Fault", name := "<init>", desc := "(I)V" } : Jvm.MethodName)) ∈ lw_all := lw_g (lw_at lw_m3 226 rfl) rfl
theorem q843 : (Jvm.Cond.declares ({ cls := "RoseThrow$Reader", name := "next", desc := "()V" } : Jvm.MethodName)) ∈ lw_tbl := lw_at lw_m3 238 rfl
theorem q866 : (Jvm.Cond.declares ({ cls := "RoseThrow$Reader", name := "sum", desc := "()LRoseThrow$Sum;" } : Jvm.MethodName)) ∈ lw_tbl := lw_at lw_m4 21 rfl
theorem q868 : (Jvm.Cond.instanceMethod ({ cls := "RoseThrow$Reader", name := "sum", desc := "()LRoseThrow$Sum;" } : Jvm.MethodName)) ∈ lw_all := lw_g (lw_at lw_m4 23 rfl) rfl
theorem q869 : (Jvm.Cond.code ({ cls := "RoseThrow$Reader", name := "sum", desc := "()LRoseThrow$Sum;" } : Jvm.MethodName) prog_13_method_17_code (3 : Nat) (Option.some (Jvm.ClassFile.FieldType.object "RoseThrow$Sum"))) ∈ lw_all := lw_g (lw_at lw_m4 24 rfl) rfl
theorem q870 : (Jvm.Cond.methodLink "RoseThrow$Reader" (130 : Nat) ({ cls := "RoseThrow$Reader", name := "term", desc := "()LRoseThrow$Sum;" } : Jvm.MethodName)) ∈ lw_all := lw_g (lw_at lw_m4 25 rfl) rfl
theorem q871 : (Jvm.Cond.instanceMethod ({ cls := "RoseThrow$Reader", name := "term", desc := "()LRoseThrow$Sum;" } : Jvm.MethodName)) ∈ lw_all := lw_g (lw_at lw_m4 26 rfl) rfl
theorem q872 : (Jvm.Cond.sameMethod "RoseThrow$Reader" "RoseThrow$Reader" "term" "()LRoseThrow$Sum;") ∈ lw_all := lw_g (lw_at lw_m4 27 rfl) rfl
theorem q875 : (Jvm.Cond.code ({ cls := "RoseThrow$Reader", name := "term", desc := "()LRoseThrow$Sum;" } : Jvm.MethodName) prog_13_method_18_code (3 : Nat) (Option.some (Jvm.ClassFile.FieldType.object "RoseThrow$Sum"))) ∈ lw_all := lw_g (lw_at lw_m4 30 rfl) rfl
theorem q876 : (Jvm.Cond.methodLink "RoseThrow$Reader" (140 : Nat) ({ cls := "RoseThrow$Reader", name := "part", desc := "()LRoseThrow$Sum;" } : Jvm.MethodName)) ∈ lw_all := lw_g (lw_at lw_m4 31 rfl) rfl
theorem q877 : (Jvm.Cond.instanceMethod ({ cls := "RoseThrow$Reader", name := "part", desc := "()LRoseThrow$Sum;" } : Jvm.MethodName)) ∈ lw_all := lw_g (lw_at lw_m4 32 rfl) rfl
theorem q878 : (Jvm.Cond.sameMethod "RoseThrow$Reader" "RoseThrow$Reader" "part" "()LRoseThrow$Sum;") ∈ lw_all := lw_g (lw_at lw_m4 33 rfl) rfl
theorem q881 : (Jvm.Cond.code ({ cls := "RoseThrow$Reader", name := "part", desc := "()LRoseThrow$Sum;" } : Jvm.MethodName) prog_13_method_20_code (2 : Nat) (Option.some (Jvm.ClassFile.FieldType.object "RoseThrow$Sum"))) ∈ lw_all := lw_g (lw_at lw_m4 36 rfl) rfl
theorem q882 : (Jvm.Cond.stringRef "RoseThrow$Reader" (152 : Nat) "[") ∈ lw_tbl := lw_at lw_m4 37 rfl
theorem q883 : (Jvm.Cond.methodLink "RoseThrow$Reader" (39 : Nat) ({ cls := "RoseThrow$Reader", name := "is", desc := "(Ljava/lang/String;)Z" } : Jvm.MethodName)) ∈ lw_all := lw_g (lw_at lw_m4 38 rfl) rfl
theorem q884 : (Jvm.Cond.methodLink "RoseThrow$Reader" (103 : Nat) ({ cls := "RoseThrow$Reader", name := "opens", desc := "()V" } : Jvm.MethodName)) ∈ lw_all := lw_g (lw_at lw_m4 39 rfl) rfl
theorem q885 : (Jvm.Cond.instanceMethod ({ cls := "RoseThrow$Reader", name := "opens", desc := "()V" } : Jvm.MethodName)) ∈ lw_all := lw_g (lw_at lw_m4 40 rfl) rfl
theorem q886 : (Jvm.Cond.sameMethod "RoseThrow$Reader" "RoseThrow$Reader" "opens" "()V") ∈ lw_all := lw_g (lw_at lw_m4 41 rfl) rfl
theorem q889 : (Jvm.Cond.code ({ cls := "RoseThrow$Reader", name := "opens", desc := "()V" } : Jvm.MethodName) prog_13_method_14_code (1 : Nat) (Option.none : Option Jvm.ClassFile.FieldType)) ∈ lw_all := lw_g (lw_at lw_m4 44 rfl) rfl
theorem q890 : (Jvm.Cond.methodLink "RoseThrow$Reader" (115 : Nat) ({ cls := "RoseThrow$Reader", name := "sum", desc := "()LRoseThrow$Sum;" } : Jvm.MethodName)) ∈ lw_all := lw_g (lw_at lw_m4 45 rfl) rfl
theorem q891 : (Jvm.Cond.stringRef "RoseThrow$Reader" (154 : Nat) "]") ∈ lw_tbl := lw_at lw_m4 46 rfl
theorem q892 : (Jvm.Cond.methodLink "RoseThrow$Reader" (111 : Nat) ({ cls := "RoseThrow$Reader", name := "need", desc := "(Ljava/lang/String;)V" } : Jvm.MethodName)) ∈ lw_all := lw_g (lw_at lw_m4 47 rfl) rfl
theorem q893 : (Jvm.Cond.instanceMethod ({ cls := "RoseThrow$Reader", name := "need", desc := "(Ljava/lang/String;)V" } : Jvm.MethodName)) ∈ lw_all := lw_g (lw_at lw_m4 48 rfl) rfl
theorem q894 : (Jvm.Cond.sameMethod "RoseThrow$Reader" "RoseThrow$Reader" "need" "(Ljava/lang/String;)V") ∈ lw_all := lw_g (lw_at lw_m4 49 rfl) rfl
theorem q897 : (Jvm.Cond.code ({ cls := "RoseThrow$Reader", name := "need", desc := "(Ljava/lang/String;)V" } : Jvm.MethodName) prog_13_method_6_code (2 : Nat) (Option.none : Option Jvm.ClassFile.FieldType)) ∈ lw_all := lw_g (lw_at lw_m4 52 rfl) rfl
theorem q898 : (Jvm.Cond.methodLink "RoseThrow$Reader" (46 : Nat) ({ cls := "RoseThrow$Reader", name := "takes", desc := "(Ljava/lang/String;)Z" } : Jvm.MethodName)) ∈ lw_all := lw_g (lw_at lw_m4 53 rfl) rfl
theorem q899 : (Jvm.Cond.instanceMethod ({ cls := "RoseThrow$Reader", name := "takes", desc := "(Ljava/lang/String;)Z" } : Jvm.MethodName)) ∈ lw_all := lw_g (lw_at lw_m4 54 rfl) rfl
theorem q900 : (Jvm.Cond.sameMethod "RoseThrow$Reader" "RoseThrow$Reader" "takes" "(Ljava/lang/String;)Z") ∈ lw_all := lw_g (lw_at lw_m4 55 rfl) rfl
theorem q903 : (Jvm.Cond.code ({ cls := "RoseThrow$Reader", name := "takes", desc := "(Ljava/lang/String;)Z" } : Jvm.MethodName) prog_13_method_5_code (3 : Nat) (Option.some Jvm.ClassFile.FieldType.boolean)) ∈ lw_all := lw_g (lw_at lw_m4 58 rfl) rfl
theorem q904 : (Jvm.Cond.methodLink "RoseThrow$Reader" (156 : Nat) ({ cls := "RoseThrow$Reader", name := "leaf", desc := "()V" } : Jvm.MethodName)) ∈ lw_all := lw_g (lw_at lw_m4 59 rfl) rfl
theorem q905 : (Jvm.Cond.instanceMethod ({ cls := "RoseThrow$Reader", name := "leaf", desc := "()V" } : Jvm.MethodName)) ∈ lw_all := lw_g (lw_at lw_m4 60 rfl) rfl
theorem q906 : (Jvm.Cond.sameMethod "RoseThrow$Reader" "RoseThrow$Reader" "leaf" "()V") ∈ lw_all := lw_g (lw_at lw_m4 61 rfl) rfl
theorem q909 : (Jvm.Cond.code ({ cls := "RoseThrow$Reader", name := "leaf", desc := "()V" } : Jvm.MethodName) prog_13_method_19_code (1 : Nat) (Option.none : Option Jvm.ClassFile.FieldType)) ∈ lw_all := lw_g (lw_at lw_m4 64 rfl) rfl
theorem q910 : (Jvm.Cond.classLink "RoseThrow$Reader" (159 : Nat) "RoseThrow$Number") ∈ lw_all := lw_g (lw_at lw_m4 65 rfl) rfl
theorem q912 : (Jvm.Cond.methodLink "RoseThrow$Reader" (161 : Nat) ({ cls := "RoseThrow$Reader", name := "number", desc := "(II)I" } : Jvm.MethodName)) ∈ lw_all := lw_g (lw_at lw_m4 67 rfl) rfl
theorem q913 : (Jvm.Cond.instanceMethod ({ cls := "RoseThrow$Reader", name := "number", desc := "(II)I" } : Jvm.MethodName)) ∈ lw_all := lw_g (lw_at lw_m4 68 rfl) rfl
theorem q914 : (Jvm.Cond.sameMethod "RoseThrow$Reader" "RoseThrow$Reader" "number" "(II)I") ∈ lw_all := lw_g (lw_at lw_m4 69 rfl) rfl
theorem q917 : (Jvm.Cond.code ({ cls := "RoseThrow$Reader", name := "number", desc := "(II)I" } : Jvm.MethodName) prog_13_method_7_code (5 : Nat) (Option.some Jvm.ClassFile.FieldType.int)) ∈ lw_all := lw_g (lw_at lw_m4 72 rfl) rfl
theorem q918 : (Jvm.Cond.methodLink "RoseThrow$Reader" (165 : Nat) ({ cls := "RoseThrow$Number", name := "<init>", desc := "(I)V" } : Jvm.MethodName)) ∈ lw_all := lw_g (lw_at lw_m4 73 rfl) rfl
theorem q929 : (Jvm.Cond.methodLink "RoseThrow$Reader" (166 : Nat) ({ cls := "RoseThrow$Reader", name := "value", desc := "()I" } : Jvm.MethodName)) ∈ lw_all := lw_g (lw_at lw_m4 84 rfl) rfl
theorem q930 : (Jvm.Cond.declares ({ cls := "RoseThrow$Reader", name := "value", desc := "()I" } : Jvm.MethodName)) ∈ lw_tbl := lw_at lw_m4 85 rfl
theorem q931 : (Jvm.Cond.sameMethod "RoseThrow$Reader" "RoseThrow$Reader" "value" "()I") ∈ lw_all := lw_g (lw_at lw_m4 86 rfl) rfl
theorem q938 : (Jvm.Cond.declares ({ cls := "RoseThrow$Reader", name := "isValue", desc := "(Ljava/lang/String;)Z" } : Jvm.MethodName)) ∈ lw_tbl := lw_at lw_m4 93 rfl
theorem q940 : (Jvm.Cond.instanceMethod ({ cls := "RoseThrow$Reader", name := "isValue", desc := "(Ljava/lang/String;)Z" } : Jvm.MethodName)) ∈ lw_all := lw_g (lw_at lw_m4 95 rfl) rfl
theorem q941 : (Jvm.Cond.code ({ cls := "RoseThrow$Reader", name := "isValue", desc := "(Ljava/lang/String;)Z" } : Jvm.MethodName) prog_13_method_21_code (2 : Nat) (Option.some Jvm.ClassFile.FieldType.boolean)) ∈ lw_all := lw_g (lw_at lw_m4 96 rfl) rfl
theorem q967 : (Jvm.Cond.declares ({ cls := "RoseThrow$Reader", name := "number", desc := "(II)I" } : Jvm.MethodName)) ∈ lw_tbl := lw_at lw_m4 122 rfl
theorem q970 : (Jvm.Cond.classLink "RoseThrow$Reader" (169 : Nat) "RoseThrow$Value") ∈ lw_all := lw_g (lw_at lw_m4 125 rfl) rfl
theorem q972 : (Jvm.Cond.methodLink "RoseThrow$Reader" (171 : Nat) ({ cls := "RoseThrow$Value", name := "<init>", desc := "(I)V" } : Jvm.MethodName)) ∈ lw_all := lw_g (lw_at lw_m4 127 rfl) rfl
theorem q980 : (Jvm.Cond.stringRef "RoseThrow$Reader" (143 : Nat) "*") ∈ lw_tbl := lw_at lw_m4 135 rfl
theorem q981 : (Jvm.Cond.stringRef "RoseThrow$Reader" (145 : Nat) "/") ∈ lw_tbl := lw_at lw_m4 136 rfl
theorem q982 : (Jvm.Cond.stringRef "RoseThrow$Reader" (147 : Nat) "%") ∈ lw_tbl := lw_at lw_m4 137 rfl
theorem q983 : (Jvm.Cond.classLink "RoseThrow$Reader" (137 : Nat) "RoseThrow$Two") ∈ lw_all := lw_g (lw_at lw_m4 138 rfl) rfl
theorem q985 : (Jvm.Cond.methodLink "RoseThrow$Reader" (139 : Nat) ({ cls := "RoseThrow$Two", name := "<init>", desc := "(CLRoseThrow$Sum;LRoseThrow$Sum;)V" } : Jvm.MethodName)) ∈ lw_all := lw_g (lw_at lw_m4 140 rfl) rfl
theorem q999 : (Jvm.Cond.stringRef "RoseThrow$Reader" (133 : Nat) "+") ∈ lw_tbl := lw_at lw_m4 154 rfl
theorem q1000 : (Jvm.Cond.stringRef "RoseThrow$Reader" (135 : Nat) "-") ∈ lw_tbl := lw_at lw_m4 155 rfl
theorem q1004 : (Jvm.Cond.declares ({ cls := "RoseThrow$Reader", name := "takes", desc := "(Ljava/lang/String;)Z" } : Jvm.MethodName)) ∈ lw_tbl := lw_at lw_m4 159 rfl
theorem q1008 : (Jvm.Cond.declares ({ cls := "RoseThrow$Reader", name := "test", desc := "()LRoseThrow$Test;" } : Jvm.MethodName)) ∈ lw_tbl := lw_at lw_m4 163 rfl
theorem q1010 : (Jvm.Cond.instanceMethod ({ cls := "RoseThrow$Reader", name := "test", desc := "()LRoseThrow$Test;" } : Jvm.MethodName)) ∈ lw_all := lw_g (lw_at lw_m4 165 rfl) rfl
theorem q1011 : (Jvm.Cond.code ({ cls := "RoseThrow$Reader", name := "test", desc := "()LRoseThrow$Test;" } : Jvm.MethodName) prog_13_method_12_code (3 : Nat) (Option.some (Jvm.ClassFile.FieldType.object "RoseThrow$Test"))) ∈ lw_all := lw_g (lw_at lw_m4 166 rfl) rfl
theorem q1012 : (Jvm.Cond.methodLink "RoseThrow$Reader" (62 : Nat) ({ cls := "RoseThrow$Reader", name := "both", desc := "()LRoseThrow$Test;" } : Jvm.MethodName)) ∈ lw_all := lw_g (lw_at lw_m4 167 rfl) rfl
theorem q1013 : (Jvm.Cond.instanceMethod ({ cls := "RoseThrow$Reader", name := "both", desc := "()LRoseThrow$Test;" } : Jvm.MethodName)) ∈ lw_all := lw_g (lw_at lw_m4 168 rfl) rfl
theorem q1014 : (Jvm.Cond.sameMethod "RoseThrow$Reader" "RoseThrow$Reader" "both" "()LRoseThrow$Test;") ∈ lw_all := lw_g (lw_at lw_m4 169 rfl) rfl
theorem q1017 : (Jvm.Cond.code ({ cls := "RoseThrow$Reader", name := "both", desc := "()LRoseThrow$Test;" } : Jvm.MethodName) prog_13_method_13_code (3 : Nat) (Option.some (Jvm.ClassFile.FieldType.object "RoseThrow$Test"))) ∈ lw_all := lw_g (lw_at lw_m4 172 rfl) rfl
theorem q1018 : (Jvm.Cond.methodLink "RoseThrow$Reader" (83 : Nat) ({ cls := "RoseThrow$Reader", name := "plain", desc := "()LRoseThrow$Test;" } : Jvm.MethodName)) ∈ lw_all := lw_g (lw_at lw_m4 173 rfl) rfl
theorem q1019 : (Jvm.Cond.instanceMethod ({ cls := "RoseThrow$Reader", name := "plain", desc := "()LRoseThrow$Test;" } : Jvm.MethodName)) ∈ lw_all := lw_g (lw_at lw_m4 174 rfl) rfl
theorem q1020 : (Jvm.Cond.sameMethod "RoseThrow$Reader" "RoseThrow$Reader" "plain" "()LRoseThrow$Test;") ∈ lw_all := lw_g (lw_at lw_m4 175 rfl) rfl
theorem q1023 : (Jvm.Cond.code ({ cls := "RoseThrow$Reader", name := "plain", desc := "()LRoseThrow$Test;" } : Jvm.MethodName) prog_13_method_15_code (3 : Nat) (Option.some (Jvm.ClassFile.FieldType.object "RoseThrow$Test"))) ∈ lw_all := lw_g (lw_at lw_m4 178 rfl) rfl
theorem q1024 : (Jvm.Cond.stringRef "RoseThrow$Reader" (91 : Nat) "not") ∈ lw_tbl := lw_at lw_m4 179 rfl
theorem q1025 : (Jvm.Cond.methodLink "RoseThrow$Reader" (93 : Nat) ({ cls := "RoseThrow$Reader", name := "positive", desc := "()LRoseThrow$Test;" } : Jvm.MethodName)) ∈ lw_all := lw_g (lw_at lw_m4 180 rfl) rfl
theorem q1026 : (Jvm.Cond.instanceMethod ({ cls := "RoseThrow$Reader", name := "positive", desc := "()LRoseThrow$Test;" } : Jvm.MethodName)) ∈ lw_all := lw_g (lw_at lw_m4 181 rfl) rfl
theorem q1027 : (Jvm.Cond.sameMethod "RoseThrow$Reader" "RoseThrow$Reader" "positive" "()LRoseThrow$Test;") ∈ lw_all := lw_g (lw_at lw_m4 182 rfl) rfl
theorem q1030 : (Jvm.Cond.code ({ cls := "RoseThrow$Reader", name := "positive", desc := "()LRoseThrow$Test;" } : Jvm.MethodName) prog_13_method_16_code (3 : Nat) (Option.some (Jvm.ClassFile.FieldType.object "RoseThrow$Test"))) ∈ lw_all := lw_g (lw_at lw_m4 185 rfl) rfl
theorem q1031 : (Jvm.Cond.stringRef "RoseThrow$Reader" (101 : Nat) "(") ∈ lw_tbl := lw_at lw_m4 186 rfl
theorem q1032 : (Jvm.Cond.methodLink "RoseThrow$Reader" (106 : Nat) ({ cls := "RoseThrow$Reader", name := "test", desc := "()LRoseThrow$Test;" } : Jvm.MethodName)) ∈ lw_all := lw_g (lw_at lw_m4 187 rfl) rfl
theorem q1033 : (Jvm.Cond.stringRef "RoseThrow$Reader" (109 : Nat) ")") ∈ lw_tbl := lw_at lw_m4 188 rfl
theorem q1034 : (Jvm.Cond.stringRef "RoseThrow$Reader" (119 : Nat) "<") ∈ lw_tbl := lw_at lw_m4 189 rfl
theorem q1035 : (Jvm.Cond.stringRef "RoseThrow$Reader" (121 : Nat) ">") ∈ lw_tbl := lw_at lw_m4 190 rfl
theorem q1036 : (Jvm.Cond.stringRef "RoseThrow$Reader" (123 : Nat) "=") ∈ lw_tbl := lw_at lw_m4 191 rfl
theorem q1037 : (Jvm.Cond.classLink "RoseThrow$Reader" (125 : Nat) "RoseThrow$Compare") ∈ lw_all := lw_g (lw_at lw_m4 192 rfl) rfl
theorem q1039 : (Jvm.Cond.methodLink "RoseThrow$Reader" (127 : Nat) ({ cls := "RoseThrow$Compare", name := "<init>", desc := "(CLRoseThrow$Sum;LRoseThrow$Sum;)V" } : Jvm.MethodName)) ∈ lw_all := lw_g (lw_at lw_m4 194 rfl) rfl
theorem q1056 : (Jvm.Cond.classLink "RoseThrow$Reader" (96 : Nat) "RoseThrow$Not") ∈ lw_all := lw_g (lw_at lw_m4 211 rfl) rfl
theorem q1058 : (Jvm.Cond.methodLink "RoseThrow$Reader" (98 : Nat) ({ cls := "RoseThrow$Not", name := "<init>", desc := "(LRoseThrow$Test;)V" } : Jvm.MethodName)) ∈ lw_all := lw_g (lw_at lw_m4 213 rfl) rfl
theorem q1066 : (Jvm.Cond.stringRef "RoseThrow$Reader" (86 : Nat) "and") ∈ lw_tbl := lw_at lw_m4 221 rfl
theorem q1067 : (Jvm.Cond.classLink "RoseThrow$Reader" (68 : Nat) "RoseThrow$Several") ∈ lw_all := lw_g (lw_at lw_m4 222 rfl) rfl
theorem q1069 : (Jvm.Cond.methodLink "RoseThrow$Reader" (70 : Nat) ({ cls := "RoseThrow$Several", name := "<init>", desc := "(Z)V" } : Jvm.MethodName)) ∈ lw_all := lw_g (lw_at lw_m4 224 rfl) rfl
theorem q1077 : (Jvm.Cond.fieldLinkNest "RoseThrow$Reader" (73 : Nat) "RoseThrow$Several" "of" "Ljava/util/ArrayList;" "RoseThrow") ∈ lw_tbl := lw_at lw_m4 232 rfl
theorem q1083 : (Jvm.Cond.methodLink "RoseThrow$Reader" (77 : Nat) ({ cls := "java/util/ArrayList", name := "add", desc := "(Ljava/lang/Object;)Z" } : Jvm.MethodName)) ∈ lw_all := lw_g (lw_at lw_m4 238 rfl) rfl
theorem q1095 : (Jvm.Cond.stringRef "RoseThrow$Reader" (66 : Nat) "or") ∈ lw_tbl := lw_at lw_m5 10 rfl
theorem q1146 : (Jvm.Cond.declares ({ cls := "RoseThrow$Reader", name := "need", desc := "(Ljava/lang/String;)V" } : Jvm.MethodName)) ∈ lw_tbl := lw_at lw_m5 61 rfl
theorem q1157 : (Jvm.Cond.stringRef "RoseThrow$Reader" (57 : Nat) ";") ∈ lw_tbl := lw_at lw_m5 72 rfl
theorem q2252 : (Jvm.Cond.sameMethod "RoseThrow$Reader" "RoseThrow$Reader" "is" "(Ljava/lang/String;)Z") ∈ lw_all := lw_g (lw_at lw_m9 207 rfl) rfl
theorem q2255 : (Jvm.Cond.sameMethod "RoseThrow$Reader" "RoseThrow$Reader" "sum" "()LRoseThrow$Sum;") ∈ lw_all := lw_g (lw_at lw_m9 210 rfl) rfl
theorem q2258 : (Jvm.Cond.sameMethod "RoseThrow$Reader" "RoseThrow$Reader" "test" "()LRoseThrow$Test;") ∈ lw_all := lw_g (lw_at lw_m9 213 rfl) rfl
/-! RoseThrow$LawReader -/
set_option maxRecDepth 100000
def RX7 : String := "RoseThrow$LawReader"
def TX7 : u_T := fun k => match k with
  | 0 => ("RoseThrow$Reader", "tape", "[B", true)
  | 1 => ("RoseThrow$Reader", "size", "I", true)
  | 2 => ("RoseThrow$Reader", "made", "I", false)
  | 3 => ("RoseThrow$Reader", "from", "I", false)
  | 4 => ("RoseThrow$Reader", "to", "I", false)
  | 5 => ("RoseThrow$Reader", "leaves", "I", false)
  | 6 => ("RoseThrow$Reader", "deep", "I", false)
  | _ => ("RoseThrow$LawReader", "clauses", "Ljava/util/ArrayList;", true)
def tyX7 : Nat → FieldType := fun k => match k with
  | 0 => .array .byte
  | 1 => .int
  | 2 => .int
  | 3 => .int
  | 4 => .int
  | 5 => .int
  | 6 => .int
  | _ => .object "java/util/ArrayList"
abbrev wsX70 : List Cond := u_ws RX7 TX7 8
theorem nmX7 : ∀ a, a < 8 → ∀ b, b < 8 → a ≠ b → (TX7 a).2.1 ≠ (TX7 b).2.1 := by decide +kernel
theorem tyX7_ok : ∀ k, k < 8 → parseFieldDescriptor (TX7 k).2.2.1 = some (tyX7 k) := by decide +kernel
abbrev cX7_init : ByteArray := prog_8_method_1_code
def yX7_init : MethodName := ⟨RX7, "<init>", "([BI)V"⟩
def dkwX7_init_0 : List UInt8 := [42, 43, 28, 183, 0, 3, 42, 187, 0, 9, 89, 5, 183, 0, 11, 181, 0, 14, 177]
abbrev dktX7_init_0 : List UInt8 := dkwX7_init_0 ++ []
theorem dksX7_init_0 : cX7_init.data.toList.drop 0 = dktX7_init_0 := by decide +kernel
theorem dX7_init_0 : decode cX7_init 0 = .ok (.aload_n 0, 1) := dk_42 (dk_at dksX7_init_0 0 rfl rfl)
theorem dX7_init_1 : decode cX7_init 1 = .ok (.aload_n 1, 1) := dk_43 (dk_at dksX7_init_0 1 rfl rfl)
theorem dX7_init_2 : decode cX7_init 2 = .ok (.iload_n 2, 1) := dk_28 (dk_at dksX7_init_0 2 rfl rfl)
theorem dX7_init_3 : decode cX7_init 3 = .ok (.invokespecial 3, 3) := dk_183 0 3 (dk_at dksX7_init_0 3 rfl rfl)
theorem dX7_init_6 : decode cX7_init 6 = .ok (.aload_n 0, 1) := dk_42 (dk_at dksX7_init_0 6 rfl rfl)
theorem dX7_init_7 : decode cX7_init 7 = .ok (.new 9, 3) := dk_187 0 9 (dk_at dksX7_init_0 7 rfl rfl)
theorem dX7_init_10 : decode cX7_init 10 = .ok (.dup, 1) := dk_89 (dk_at dksX7_init_0 10 rfl rfl)
theorem dX7_init_11 : decode cX7_init 11 = .ok (.iconst 2, 1) := dk_5 (dk_at dksX7_init_0 11 rfl rfl)
theorem dX7_init_12 : decode cX7_init 12 = .ok (.invokespecial 11, 3) := dk_183 0 11 (dk_at dksX7_init_0 12 rfl rfl)
theorem dX7_init_15 : decode cX7_init 15 = .ok (.putfield 14, 3) := dk_181 0 14 (dk_at dksX7_init_0 15 rfl rfl)
theorem dX7_init_18 : decode cX7_init 18 = .ok (.return_, 1) := dk_177 (dk_at dksX7_init_0 18 rfl rfl)
abbrev cX7_clause : ByteArray := prog_8_method_2_code
def yX7_clause : MethodName := ⟨RX7, "clause", "()V"⟩
def dkwX7_clause_5 : List UInt8 := [44, 182, 0, 63, 87, 177]
abbrev dktX7_clause_5 : List UInt8 := dkwX7_clause_5 ++ []
def dkwX7_clause_4 : List UInt8 := [181, 0, 47, 42, 18, 50, 182, 0, 52, 153, 0, 11, 44, 42, 182, 0, 55, 181, 0, 59, 42, 180, 0, 14]
abbrev dktX7_clause_4 : List UInt8 := dkwX7_clause_4 ++ dktX7_clause_5
def dkwX7_clause_3 : List UInt8 := [182, 0, 36, 187, 0, 40, 89, 27, 183, 0, 42, 77, 27, 6, 159, 0, 11, 44, 42, 182, 0, 43]
abbrev dktX7_clause_3 : List UInt8 := dkwX7_clause_3 ++ dktX7_clause_4
def dkwX7_clause_2 : List UInt8 := [153, 0, 7, 6, 167, 0, 4, 2, 60, 42, 27, 2, 159, 0, 7, 4, 167, 0, 4, 3, 182, 0, 32, 42]
abbrev dktX7_clause_2 : List UInt8 := dkwX7_clause_2 ++ dktX7_clause_3
def dkwX7_clause_1 : List UInt8 := [167, 0, 30, 42, 18, 28, 182, 0, 22, 153, 0, 7, 5, 167, 0, 17, 42, 18, 30, 182, 0, 22]
abbrev dktX7_clause_1 : List UInt8 := dkwX7_clause_1 ++ dktX7_clause_2
def dkwX7_clause_0 : List UInt8 := [42, 18, 20, 182, 0, 22, 153, 0, 7, 3, 167, 0, 43, 42, 18, 26, 182, 0, 22, 153, 0, 7, 4]
abbrev dktX7_clause_0 : List UInt8 := dkwX7_clause_0 ++ dktX7_clause_1
theorem dksX7_clause_0 : cX7_clause.data.toList.drop 0 = dktX7_clause_0 := by decide +kernel
theorem dksX7_clause_1 : cX7_clause.data.toList.drop 23 = dktX7_clause_1 := dk_seg dksX7_clause_0 23 rfl rfl
theorem dksX7_clause_2 : cX7_clause.data.toList.drop 45 = dktX7_clause_2 := dk_seg dksX7_clause_1 22 rfl rfl
theorem dksX7_clause_3 : cX7_clause.data.toList.drop 69 = dktX7_clause_3 := dk_seg dksX7_clause_2 24 rfl rfl
theorem dksX7_clause_4 : cX7_clause.data.toList.drop 91 = dktX7_clause_4 := dk_seg dksX7_clause_3 22 rfl rfl
theorem dksX7_clause_5 : cX7_clause.data.toList.drop 115 = dktX7_clause_5 := dk_seg dksX7_clause_4 24 rfl rfl
theorem dX7_clause_0 : decode cX7_clause 0 = .ok (.aload_n 0, 1) := dk_42 (dk_at dksX7_clause_0 0 rfl rfl)
theorem dX7_clause_1 : decode cX7_clause 1 = .ok (.ldc 20, 2) := dk_18 20 (dk_at dksX7_clause_0 1 rfl rfl)
theorem dX7_clause_3 : decode cX7_clause 3 = .ok (.invokevirtual 22, 3) := dk_182 0 22 (dk_at dksX7_clause_0 3 rfl rfl)
theorem dX7_clause_6 : decode cX7_clause 6 = .ok (.ifCond .eq 7, 3) := dk_153 0 7 (dk_at dksX7_clause_0 6 rfl rfl)
theorem dX7_clause_9 : decode cX7_clause 9 = .ok (.iconst 0, 1) := dk_3 (dk_at dksX7_clause_0 9 rfl rfl)
theorem dX7_clause_10 : decode cX7_clause 10 = .ok (.goto 43, 3) := dk_167 0 43 (dk_at dksX7_clause_0 10 rfl rfl)
theorem dX7_clause_13 : decode cX7_clause 13 = .ok (.aload_n 0, 1) := dk_42 (dk_at dksX7_clause_0 13 rfl rfl)
theorem dX7_clause_14 : decode cX7_clause 14 = .ok (.ldc 26, 2) := dk_18 26 (dk_at dksX7_clause_0 14 rfl rfl)
theorem dX7_clause_16 : decode cX7_clause 16 = .ok (.invokevirtual 22, 3) := dk_182 0 22 (dk_at dksX7_clause_0 16 rfl rfl)
theorem dX7_clause_19 : decode cX7_clause 19 = .ok (.ifCond .eq 7, 3) := dk_153 0 7 (dk_at dksX7_clause_0 19 rfl rfl)
theorem dX7_clause_22 : decode cX7_clause 22 = .ok (.iconst 1, 1) := dk_4 (dk_at dksX7_clause_0 22 rfl rfl)
theorem dX7_clause_23 : decode cX7_clause 23 = .ok (.goto 30, 3) := dk_167 0 30 (dk_at dksX7_clause_1 0 rfl rfl)
theorem dX7_clause_26 : decode cX7_clause 26 = .ok (.aload_n 0, 1) := dk_42 (dk_at dksX7_clause_1 3 rfl rfl)
theorem dX7_clause_27 : decode cX7_clause 27 = .ok (.ldc 28, 2) := dk_18 28 (dk_at dksX7_clause_1 4 rfl rfl)
theorem dX7_clause_29 : decode cX7_clause 29 = .ok (.invokevirtual 22, 3) := dk_182 0 22 (dk_at dksX7_clause_1 6 rfl rfl)
theorem dX7_clause_32 : decode cX7_clause 32 = .ok (.ifCond .eq 7, 3) := dk_153 0 7 (dk_at dksX7_clause_1 9 rfl rfl)
theorem dX7_clause_35 : decode cX7_clause 35 = .ok (.iconst 2, 1) := dk_5 (dk_at dksX7_clause_1 12 rfl rfl)
theorem dX7_clause_36 : decode cX7_clause 36 = .ok (.goto 17, 3) := dk_167 0 17 (dk_at dksX7_clause_1 13 rfl rfl)
theorem dX7_clause_39 : decode cX7_clause 39 = .ok (.aload_n 0, 1) := dk_42 (dk_at dksX7_clause_1 16 rfl rfl)
theorem dX7_clause_40 : decode cX7_clause 40 = .ok (.ldc 30, 2) := dk_18 30 (dk_at dksX7_clause_1 17 rfl rfl)
theorem dX7_clause_42 : decode cX7_clause 42 = .ok (.invokevirtual 22, 3) := dk_182 0 22 (dk_at dksX7_clause_1 19 rfl rfl)
theorem dX7_clause_45 : decode cX7_clause 45 = .ok (.ifCond .eq 7, 3) := dk_153 0 7 (dk_at dksX7_clause_2 0 rfl rfl)
theorem dX7_clause_48 : decode cX7_clause 48 = .ok (.iconst 3, 1) := dk_6 (dk_at dksX7_clause_2 3 rfl rfl)
theorem dX7_clause_49 : decode cX7_clause 49 = .ok (.goto 4, 3) := dk_167 0 4 (dk_at dksX7_clause_2 4 rfl rfl)
theorem dX7_clause_52 : decode cX7_clause 52 = .ok (.iconst (-1), 1) := dk_2 (dk_at dksX7_clause_2 7 rfl rfl)
theorem dX7_clause_53 : decode cX7_clause 53 = .ok (.istore_n 1, 1) := dk_60 (dk_at dksX7_clause_2 8 rfl rfl)
theorem dX7_clause_54 : decode cX7_clause 54 = .ok (.aload_n 0, 1) := dk_42 (dk_at dksX7_clause_2 9 rfl rfl)
theorem dX7_clause_55 : decode cX7_clause 55 = .ok (.iload_n 1, 1) := dk_27 (dk_at dksX7_clause_2 10 rfl rfl)
theorem dX7_clause_56 : decode cX7_clause 56 = .ok (.iconst (-1), 1) := dk_2 (dk_at dksX7_clause_2 11 rfl rfl)
theorem dX7_clause_57 : decode cX7_clause 57 = .ok (.if_icmp .eq 7, 3) := dk_159 0 7 (dk_at dksX7_clause_2 12 rfl rfl)
theorem dX7_clause_60 : decode cX7_clause 60 = .ok (.iconst 1, 1) := dk_4 (dk_at dksX7_clause_2 15 rfl rfl)
theorem dX7_clause_61 : decode cX7_clause 61 = .ok (.goto 4, 3) := dk_167 0 4 (dk_at dksX7_clause_2 16 rfl rfl)
theorem dX7_clause_64 : decode cX7_clause 64 = .ok (.iconst 0, 1) := dk_3 (dk_at dksX7_clause_2 19 rfl rfl)
theorem dX7_clause_65 : decode cX7_clause 65 = .ok (.invokevirtual 32, 3) := dk_182 0 32 (dk_at dksX7_clause_2 20 rfl rfl)
theorem dX7_clause_68 : decode cX7_clause 68 = .ok (.aload_n 0, 1) := dk_42 (dk_at dksX7_clause_2 23 rfl rfl)
theorem dX7_clause_69 : decode cX7_clause 69 = .ok (.invokevirtual 36, 3) := dk_182 0 36 (dk_at dksX7_clause_3 0 rfl rfl)
theorem dX7_clause_72 : decode cX7_clause 72 = .ok (.new 40, 3) := dk_187 0 40 (dk_at dksX7_clause_3 3 rfl rfl)
theorem dX7_clause_75 : decode cX7_clause 75 = .ok (.dup, 1) := dk_89 (dk_at dksX7_clause_3 6 rfl rfl)
theorem dX7_clause_76 : decode cX7_clause 76 = .ok (.iload_n 1, 1) := dk_27 (dk_at dksX7_clause_3 7 rfl rfl)
theorem dX7_clause_77 : decode cX7_clause 77 = .ok (.invokespecial 42, 3) := dk_183 0 42 (dk_at dksX7_clause_3 8 rfl rfl)
theorem dX7_clause_80 : decode cX7_clause 80 = .ok (.astore_n 2, 1) := dk_77 (dk_at dksX7_clause_3 11 rfl rfl)
theorem dX7_clause_81 : decode cX7_clause 81 = .ok (.iload_n 1, 1) := dk_27 (dk_at dksX7_clause_3 12 rfl rfl)
theorem dX7_clause_82 : decode cX7_clause 82 = .ok (.iconst 3, 1) := dk_6 (dk_at dksX7_clause_3 13 rfl rfl)
theorem dX7_clause_83 : decode cX7_clause 83 = .ok (.if_icmp .eq 11, 3) := dk_159 0 11 (dk_at dksX7_clause_3 14 rfl rfl)
theorem dX7_clause_86 : decode cX7_clause 86 = .ok (.aload_n 2, 1) := dk_44 (dk_at dksX7_clause_3 17 rfl rfl)
theorem dX7_clause_87 : decode cX7_clause 87 = .ok (.aload_n 0, 1) := dk_42 (dk_at dksX7_clause_3 18 rfl rfl)
theorem dX7_clause_88 : decode cX7_clause 88 = .ok (.invokevirtual 43, 3) := dk_182 0 43 (dk_at dksX7_clause_3 19 rfl rfl)
theorem dX7_clause_91 : decode cX7_clause 91 = .ok (.putfield 47, 3) := dk_181 0 47 (dk_at dksX7_clause_4 0 rfl rfl)
theorem dX7_clause_94 : decode cX7_clause 94 = .ok (.aload_n 0, 1) := dk_42 (dk_at dksX7_clause_4 3 rfl rfl)
theorem dX7_clause_95 : decode cX7_clause 95 = .ok (.ldc 50, 2) := dk_18 50 (dk_at dksX7_clause_4 4 rfl rfl)
theorem dX7_clause_97 : decode cX7_clause 97 = .ok (.invokevirtual 52, 3) := dk_182 0 52 (dk_at dksX7_clause_4 6 rfl rfl)
theorem dX7_clause_100 : decode cX7_clause 100 = .ok (.ifCond .eq 11, 3) := dk_153 0 11 (dk_at dksX7_clause_4 9 rfl rfl)
theorem dX7_clause_103 : decode cX7_clause 103 = .ok (.aload_n 2, 1) := dk_44 (dk_at dksX7_clause_4 12 rfl rfl)
theorem dX7_clause_104 : decode cX7_clause 104 = .ok (.aload_n 0, 1) := dk_42 (dk_at dksX7_clause_4 13 rfl rfl)
theorem dX7_clause_105 : decode cX7_clause 105 = .ok (.invokevirtual 55, 3) := dk_182 0 55 (dk_at dksX7_clause_4 14 rfl rfl)
theorem dX7_clause_108 : decode cX7_clause 108 = .ok (.putfield 59, 3) := dk_181 0 59 (dk_at dksX7_clause_4 17 rfl rfl)
theorem dX7_clause_111 : decode cX7_clause 111 = .ok (.aload_n 0, 1) := dk_42 (dk_at dksX7_clause_4 20 rfl rfl)
theorem dX7_clause_112 : decode cX7_clause 112 = .ok (.getfield 14, 3) := dk_180 0 14 (dk_at dksX7_clause_4 21 rfl rfl)
theorem dX7_clause_115 : decode cX7_clause 115 = .ok (.aload_n 2, 1) := dk_44 (dk_at dksX7_clause_5 0 rfl rfl)
theorem dX7_clause_116 : decode cX7_clause 116 = .ok (.invokevirtual 63, 3) := dk_182 0 63 (dk_at dksX7_clause_5 1 rfl rfl)
theorem dX7_clause_119 : decode cX7_clause 119 = .ok (.pop, 1) := dk_87 (dk_at dksX7_clause_5 4 rfl rfl)
theorem dX7_clause_120 : decode cX7_clause 120 = .ok (.return_, 1) := dk_177 (dk_at dksX7_clause_5 5 rfl rfl)
abbrev cX7_value : ByteArray := prog_8_method_3_code
def yX7_value : MethodName := ⟨RX7, "value", "()I"⟩
def dkwX7_value_7 : List UInt8 := [172]
abbrev dktX7_value_7 : List UInt8 := dkwX7_value_7 ++ []
def dkwX7_value_6 : List UInt8 := [182, 0, 69, 153, 0, 6, 16, 12, 172, 42, 18, 96, 182, 0, 69, 153, 0, 8, 16, 13, 167, 0, 4, 2]
abbrev dktX7_value_6 : List UInt8 := dkwX7_value_6 ++ dktX7_value_7
def dkwX7_value_5 : List UInt8 := [182, 0, 69, 153, 0, 6, 16, 10, 172, 42, 18, 92, 182, 0, 69, 153, 0, 6, 16, 11, 172, 42, 18, 94]
abbrev dktX7_value_5 : List UInt8 := dkwX7_value_5 ++ dktX7_value_6
def dkwX7_value_4 : List UInt8 := [182, 0, 69, 153, 0, 6, 16, 8, 172, 42, 18, 88, 182, 0, 69, 153, 0, 6, 16, 9, 172, 42, 18, 90]
abbrev dktX7_value_4 : List UInt8 := dkwX7_value_4 ++ dktX7_value_5
def dkwX7_value_3 : List UInt8 := [182, 0, 69, 153, 0, 6, 16, 6, 172, 42, 18, 84, 182, 0, 69, 153, 0, 6, 16, 7, 172, 42, 18, 86]
abbrev dktX7_value_3 : List UInt8 := dkwX7_value_3 ++ dktX7_value_4
def dkwX7_value_2 : List UInt8 := [182, 0, 69, 153, 0, 5, 7, 172, 42, 18, 80, 182, 0, 69, 153, 0, 5, 8, 172, 42, 18, 82]
abbrev dktX7_value_2 : List UInt8 := dkwX7_value_2 ++ dktX7_value_3
def dkwX7_value_1 : List UInt8 := [18, 74, 182, 0, 69, 153, 0, 5, 5, 172, 42, 18, 76, 182, 0, 69, 153, 0, 5, 6, 172, 42, 18, 78]
abbrev dktX7_value_1 : List UInt8 := dkwX7_value_1 ++ dktX7_value_2
def dkwX7_value_0 : List UInt8 := [42, 18, 67, 182, 0, 69, 153, 0, 5, 3, 172, 42, 18, 72, 182, 0, 69, 153, 0, 5, 4, 172, 42]
abbrev dktX7_value_0 : List UInt8 := dkwX7_value_0 ++ dktX7_value_1
theorem dksX7_value_0 : cX7_value.data.toList.drop 0 = dktX7_value_0 := by decide +kernel
theorem dksX7_value_1 : cX7_value.data.toList.drop 23 = dktX7_value_1 := dk_seg dksX7_value_0 23 rfl rfl
theorem dksX7_value_2 : cX7_value.data.toList.drop 47 = dktX7_value_2 := dk_seg dksX7_value_1 24 rfl rfl
theorem dksX7_value_3 : cX7_value.data.toList.drop 69 = dktX7_value_3 := dk_seg dksX7_value_2 22 rfl rfl
theorem dksX7_value_4 : cX7_value.data.toList.drop 93 = dktX7_value_4 := dk_seg dksX7_value_3 24 rfl rfl
theorem dksX7_value_5 : cX7_value.data.toList.drop 117 = dktX7_value_5 := dk_seg dksX7_value_4 24 rfl rfl
theorem dksX7_value_6 : cX7_value.data.toList.drop 141 = dktX7_value_6 := dk_seg dksX7_value_5 24 rfl rfl
theorem dksX7_value_7 : cX7_value.data.toList.drop 165 = dktX7_value_7 := dk_seg dksX7_value_6 24 rfl rfl
theorem dX7_value_0 : decode cX7_value 0 = .ok (.aload_n 0, 1) := dk_42 (dk_at dksX7_value_0 0 rfl rfl)
theorem dX7_value_1 : decode cX7_value 1 = .ok (.ldc 67, 2) := dk_18 67 (dk_at dksX7_value_0 1 rfl rfl)
theorem dX7_value_3 : decode cX7_value 3 = .ok (.invokevirtual 69, 3) := dk_182 0 69 (dk_at dksX7_value_0 3 rfl rfl)
theorem dX7_value_6 : decode cX7_value 6 = .ok (.ifCond .eq 5, 3) := dk_153 0 5 (dk_at dksX7_value_0 6 rfl rfl)
theorem dX7_value_9 : decode cX7_value 9 = .ok (.iconst 0, 1) := dk_3 (dk_at dksX7_value_0 9 rfl rfl)
theorem dX7_value_10 : decode cX7_value 10 = .ok (.ireturn, 1) := dk_172 (dk_at dksX7_value_0 10 rfl rfl)
theorem dX7_value_11 : decode cX7_value 11 = .ok (.aload_n 0, 1) := dk_42 (dk_at dksX7_value_0 11 rfl rfl)
theorem dX7_value_12 : decode cX7_value 12 = .ok (.ldc 72, 2) := dk_18 72 (dk_at dksX7_value_0 12 rfl rfl)
theorem dX7_value_14 : decode cX7_value 14 = .ok (.invokevirtual 69, 3) := dk_182 0 69 (dk_at dksX7_value_0 14 rfl rfl)
theorem dX7_value_17 : decode cX7_value 17 = .ok (.ifCond .eq 5, 3) := dk_153 0 5 (dk_at dksX7_value_0 17 rfl rfl)
theorem dX7_value_20 : decode cX7_value 20 = .ok (.iconst 1, 1) := dk_4 (dk_at dksX7_value_0 20 rfl rfl)
theorem dX7_value_21 : decode cX7_value 21 = .ok (.ireturn, 1) := dk_172 (dk_at dksX7_value_0 21 rfl rfl)
theorem dX7_value_22 : decode cX7_value 22 = .ok (.aload_n 0, 1) := dk_42 (dk_at dksX7_value_0 22 rfl rfl)
theorem dX7_value_23 : decode cX7_value 23 = .ok (.ldc 74, 2) := dk_18 74 (dk_at dksX7_value_1 0 rfl rfl)
theorem dX7_value_25 : decode cX7_value 25 = .ok (.invokevirtual 69, 3) := dk_182 0 69 (dk_at dksX7_value_1 2 rfl rfl)
theorem dX7_value_28 : decode cX7_value 28 = .ok (.ifCond .eq 5, 3) := dk_153 0 5 (dk_at dksX7_value_1 5 rfl rfl)
theorem dX7_value_31 : decode cX7_value 31 = .ok (.iconst 2, 1) := dk_5 (dk_at dksX7_value_1 8 rfl rfl)
theorem dX7_value_32 : decode cX7_value 32 = .ok (.ireturn, 1) := dk_172 (dk_at dksX7_value_1 9 rfl rfl)
theorem dX7_value_33 : decode cX7_value 33 = .ok (.aload_n 0, 1) := dk_42 (dk_at dksX7_value_1 10 rfl rfl)
theorem dX7_value_34 : decode cX7_value 34 = .ok (.ldc 76, 2) := dk_18 76 (dk_at dksX7_value_1 11 rfl rfl)
theorem dX7_value_36 : decode cX7_value 36 = .ok (.invokevirtual 69, 3) := dk_182 0 69 (dk_at dksX7_value_1 13 rfl rfl)
theorem dX7_value_39 : decode cX7_value 39 = .ok (.ifCond .eq 5, 3) := dk_153 0 5 (dk_at dksX7_value_1 16 rfl rfl)
theorem dX7_value_42 : decode cX7_value 42 = .ok (.iconst 3, 1) := dk_6 (dk_at dksX7_value_1 19 rfl rfl)
theorem dX7_value_43 : decode cX7_value 43 = .ok (.ireturn, 1) := dk_172 (dk_at dksX7_value_1 20 rfl rfl)
theorem dX7_value_44 : decode cX7_value 44 = .ok (.aload_n 0, 1) := dk_42 (dk_at dksX7_value_1 21 rfl rfl)
theorem dX7_value_45 : decode cX7_value 45 = .ok (.ldc 78, 2) := dk_18 78 (dk_at dksX7_value_1 22 rfl rfl)
theorem dX7_value_47 : decode cX7_value 47 = .ok (.invokevirtual 69, 3) := dk_182 0 69 (dk_at dksX7_value_2 0 rfl rfl)
theorem dX7_value_50 : decode cX7_value 50 = .ok (.ifCond .eq 5, 3) := dk_153 0 5 (dk_at dksX7_value_2 3 rfl rfl)
theorem dX7_value_53 : decode cX7_value 53 = .ok (.iconst 4, 1) := dk_7 (dk_at dksX7_value_2 6 rfl rfl)
theorem dX7_value_54 : decode cX7_value 54 = .ok (.ireturn, 1) := dk_172 (dk_at dksX7_value_2 7 rfl rfl)
theorem dX7_value_55 : decode cX7_value 55 = .ok (.aload_n 0, 1) := dk_42 (dk_at dksX7_value_2 8 rfl rfl)
theorem dX7_value_56 : decode cX7_value 56 = .ok (.ldc 80, 2) := dk_18 80 (dk_at dksX7_value_2 9 rfl rfl)
theorem dX7_value_58 : decode cX7_value 58 = .ok (.invokevirtual 69, 3) := dk_182 0 69 (dk_at dksX7_value_2 11 rfl rfl)
theorem dX7_value_61 : decode cX7_value 61 = .ok (.ifCond .eq 5, 3) := dk_153 0 5 (dk_at dksX7_value_2 14 rfl rfl)
theorem dX7_value_64 : decode cX7_value 64 = .ok (.iconst 5, 1) := dk_8 (dk_at dksX7_value_2 17 rfl rfl)
theorem dX7_value_65 : decode cX7_value 65 = .ok (.ireturn, 1) := dk_172 (dk_at dksX7_value_2 18 rfl rfl)
theorem dX7_value_66 : decode cX7_value 66 = .ok (.aload_n 0, 1) := dk_42 (dk_at dksX7_value_2 19 rfl rfl)
theorem dX7_value_67 : decode cX7_value 67 = .ok (.ldc 82, 2) := dk_18 82 (dk_at dksX7_value_2 20 rfl rfl)
theorem dX7_value_69 : decode cX7_value 69 = .ok (.invokevirtual 69, 3) := dk_182 0 69 (dk_at dksX7_value_3 0 rfl rfl)
theorem dX7_value_72 : decode cX7_value 72 = .ok (.ifCond .eq 6, 3) := dk_153 0 6 (dk_at dksX7_value_3 3 rfl rfl)
theorem dX7_value_75 : decode cX7_value 75 = .ok (.bipush 6, 2) := dk_16 6 (dk_at dksX7_value_3 6 rfl rfl)
theorem dX7_value_77 : decode cX7_value 77 = .ok (.ireturn, 1) := dk_172 (dk_at dksX7_value_3 8 rfl rfl)
theorem dX7_value_78 : decode cX7_value 78 = .ok (.aload_n 0, 1) := dk_42 (dk_at dksX7_value_3 9 rfl rfl)
theorem dX7_value_79 : decode cX7_value 79 = .ok (.ldc 84, 2) := dk_18 84 (dk_at dksX7_value_3 10 rfl rfl)
theorem dX7_value_81 : decode cX7_value 81 = .ok (.invokevirtual 69, 3) := dk_182 0 69 (dk_at dksX7_value_3 12 rfl rfl)
theorem dX7_value_84 : decode cX7_value 84 = .ok (.ifCond .eq 6, 3) := dk_153 0 6 (dk_at dksX7_value_3 15 rfl rfl)
theorem dX7_value_87 : decode cX7_value 87 = .ok (.bipush 7, 2) := dk_16 7 (dk_at dksX7_value_3 18 rfl rfl)
theorem dX7_value_89 : decode cX7_value 89 = .ok (.ireturn, 1) := dk_172 (dk_at dksX7_value_3 20 rfl rfl)
theorem dX7_value_90 : decode cX7_value 90 = .ok (.aload_n 0, 1) := dk_42 (dk_at dksX7_value_3 21 rfl rfl)
theorem dX7_value_91 : decode cX7_value 91 = .ok (.ldc 86, 2) := dk_18 86 (dk_at dksX7_value_3 22 rfl rfl)
theorem dX7_value_93 : decode cX7_value 93 = .ok (.invokevirtual 69, 3) := dk_182 0 69 (dk_at dksX7_value_4 0 rfl rfl)
theorem dX7_value_96 : decode cX7_value 96 = .ok (.ifCond .eq 6, 3) := dk_153 0 6 (dk_at dksX7_value_4 3 rfl rfl)
theorem dX7_value_99 : decode cX7_value 99 = .ok (.bipush 8, 2) := dk_16 8 (dk_at dksX7_value_4 6 rfl rfl)
theorem dX7_value_101 : decode cX7_value 101 = .ok (.ireturn, 1) := dk_172 (dk_at dksX7_value_4 8 rfl rfl)
theorem dX7_value_102 : decode cX7_value 102 = .ok (.aload_n 0, 1) := dk_42 (dk_at dksX7_value_4 9 rfl rfl)
theorem dX7_value_103 : decode cX7_value 103 = .ok (.ldc 88, 2) := dk_18 88 (dk_at dksX7_value_4 10 rfl rfl)
theorem dX7_value_105 : decode cX7_value 105 = .ok (.invokevirtual 69, 3) := dk_182 0 69 (dk_at dksX7_value_4 12 rfl rfl)
theorem dX7_value_108 : decode cX7_value 108 = .ok (.ifCond .eq 6, 3) := dk_153 0 6 (dk_at dksX7_value_4 15 rfl rfl)
theorem dX7_value_111 : decode cX7_value 111 = .ok (.bipush 9, 2) := dk_16 9 (dk_at dksX7_value_4 18 rfl rfl)
theorem dX7_value_113 : decode cX7_value 113 = .ok (.ireturn, 1) := dk_172 (dk_at dksX7_value_4 20 rfl rfl)
theorem dX7_value_114 : decode cX7_value 114 = .ok (.aload_n 0, 1) := dk_42 (dk_at dksX7_value_4 21 rfl rfl)
theorem dX7_value_115 : decode cX7_value 115 = .ok (.ldc 90, 2) := dk_18 90 (dk_at dksX7_value_4 22 rfl rfl)
theorem dX7_value_117 : decode cX7_value 117 = .ok (.invokevirtual 69, 3) := dk_182 0 69 (dk_at dksX7_value_5 0 rfl rfl)
theorem dX7_value_120 : decode cX7_value 120 = .ok (.ifCond .eq 6, 3) := dk_153 0 6 (dk_at dksX7_value_5 3 rfl rfl)
theorem dX7_value_123 : decode cX7_value 123 = .ok (.bipush 10, 2) := dk_16 10 (dk_at dksX7_value_5 6 rfl rfl)
theorem dX7_value_125 : decode cX7_value 125 = .ok (.ireturn, 1) := dk_172 (dk_at dksX7_value_5 8 rfl rfl)
theorem dX7_value_126 : decode cX7_value 126 = .ok (.aload_n 0, 1) := dk_42 (dk_at dksX7_value_5 9 rfl rfl)
theorem dX7_value_127 : decode cX7_value 127 = .ok (.ldc 92, 2) := dk_18 92 (dk_at dksX7_value_5 10 rfl rfl)
theorem dX7_value_129 : decode cX7_value 129 = .ok (.invokevirtual 69, 3) := dk_182 0 69 (dk_at dksX7_value_5 12 rfl rfl)
theorem dX7_value_132 : decode cX7_value 132 = .ok (.ifCond .eq 6, 3) := dk_153 0 6 (dk_at dksX7_value_5 15 rfl rfl)
theorem dX7_value_135 : decode cX7_value 135 = .ok (.bipush 11, 2) := dk_16 11 (dk_at dksX7_value_5 18 rfl rfl)
theorem dX7_value_137 : decode cX7_value 137 = .ok (.ireturn, 1) := dk_172 (dk_at dksX7_value_5 20 rfl rfl)
theorem dX7_value_138 : decode cX7_value 138 = .ok (.aload_n 0, 1) := dk_42 (dk_at dksX7_value_5 21 rfl rfl)
theorem dX7_value_139 : decode cX7_value 139 = .ok (.ldc 94, 2) := dk_18 94 (dk_at dksX7_value_5 22 rfl rfl)
theorem dX7_value_141 : decode cX7_value 141 = .ok (.invokevirtual 69, 3) := dk_182 0 69 (dk_at dksX7_value_6 0 rfl rfl)
theorem dX7_value_144 : decode cX7_value 144 = .ok (.ifCond .eq 6, 3) := dk_153 0 6 (dk_at dksX7_value_6 3 rfl rfl)
theorem dX7_value_147 : decode cX7_value 147 = .ok (.bipush 12, 2) := dk_16 12 (dk_at dksX7_value_6 6 rfl rfl)
theorem dX7_value_149 : decode cX7_value 149 = .ok (.ireturn, 1) := dk_172 (dk_at dksX7_value_6 8 rfl rfl)
theorem dX7_value_150 : decode cX7_value 150 = .ok (.aload_n 0, 1) := dk_42 (dk_at dksX7_value_6 9 rfl rfl)
theorem dX7_value_151 : decode cX7_value 151 = .ok (.ldc 96, 2) := dk_18 96 (dk_at dksX7_value_6 10 rfl rfl)
theorem dX7_value_153 : decode cX7_value 153 = .ok (.invokevirtual 69, 3) := dk_182 0 69 (dk_at dksX7_value_6 12 rfl rfl)
theorem dX7_value_156 : decode cX7_value 156 = .ok (.ifCond .eq 8, 3) := dk_153 0 8 (dk_at dksX7_value_6 15 rfl rfl)
theorem dX7_value_159 : decode cX7_value 159 = .ok (.bipush 13, 2) := dk_16 13 (dk_at dksX7_value_6 18 rfl rfl)
theorem dX7_value_161 : decode cX7_value 161 = .ok (.goto 4, 3) := dk_167 0 4 (dk_at dksX7_value_6 20 rfl rfl)
theorem dX7_value_164 : decode cX7_value 164 = .ok (.iconst (-1), 1) := dk_2 (dk_at dksX7_value_6 23 rfl rfl)
theorem dX7_value_165 : decode cX7_value 165 = .ok (.ireturn, 1) := dk_172 (dk_at dksX7_value_7 0 rfl rfl)
theorem q140 : (Jvm.Cond.initialized "RoseThrow$LawReader") ∈ lw_all := lw_g (lw_at lw_m1 15 rfl) rfl
theorem q493 : (Jvm.Cond.selects "RoseThrow$LawReader" ({ cls := "java/lang/Object", name := "getClass", desc := "()Ljava/lang/Class;" } : Jvm.MethodName) ({ cls := "java/lang/Object", name := "getClass", desc := "()Ljava/lang/Class;" } : Jvm.MethodName)) ∈ lw_all := lw_g (lw_at lw_m2 128 rfl) rfl
theorem q695 : (Jvm.Cond.instantiable "RoseThrow$LawReader" (8 : Nat)) ∈ lw_all := lw_g (lw_at lw_m3 90 rfl) rfl
theorem q697 : (Jvm.Cond.instanceMethod ({ cls := "RoseThrow$LawReader", name := "<init>", desc := "([BI)V" } : Jvm.MethodName)) ∈ lw_all := lw_g (lw_at lw_m3 92 rfl) rfl
theorem q698 : (Jvm.Cond.code ({ cls := "RoseThrow$LawReader", name := "<init>", desc := "([BI)V" } : Jvm.MethodName) prog_8_method_1_code (3 : Nat) (Option.none : Option Jvm.ClassFile.FieldType)) ∈ lw_all := lw_g (lw_at lw_m3 93 rfl) rfl
theorem q699 : (Jvm.Cond.methodLink "RoseThrow$LawReader" (3 : Nat) ({ cls := "RoseThrow$Reader", name := "<init>", desc := "([BI)V" } : Jvm.MethodName)) ∈ lw_all := lw_g (lw_at lw_m3 94 rfl) rfl
theorem q703 : (Jvm.Cond.classLink "RoseThrow$LawReader" (9 : Nat) "java/util/ArrayList") ∈ lw_all := lw_g (lw_at lw_m3 98 rfl) rfl
theorem q704 : (Jvm.Cond.methodLink "RoseThrow$LawReader" (11 : Nat) ({ cls := "java/util/ArrayList", name := "<init>", desc := "(I)V" } : Jvm.MethodName)) ∈ lw_all := lw_g (lw_at lw_m3 99 rfl) rfl
theorem q705 : (Jvm.Cond.fieldLink "RoseThrow$LawReader" (14 : Nat) "RoseThrow$LawReader" "clauses" "Ljava/util/ArrayList;") ∈ lw_all := lw_g (lw_at lw_m3 100 rfl) rfl
theorem q714 : (Jvm.Cond.laysFinal "RoseThrow$LawReader" "RoseThrow$LawReader" "clauses" "Ljava/util/ArrayList;") ∈ lw_all := lw_g (lw_at lw_m3 109 rfl) rfl
theorem q715 : (Jvm.Cond.soleField "RoseThrow$LawReader" "clauses") ∈ lw_all := lw_g (lw_at lw_m3 110 rfl) rfl
theorem q716 : (Jvm.Cond.laysFinal "RoseThrow$LawReader" "RoseThrow$Reader" "tape" "[B") ∈ lw_all := lw_g (lw_at lw_m3 111 rfl) rfl
theorem q718 : (Jvm.Cond.laysFinal "RoseThrow$LawReader" "RoseThrow$Reader" "size" "I") ∈ lw_all := lw_g (lw_at lw_m3 113 rfl) rfl
theorem q720 : (Jvm.Cond.lays "RoseThrow$LawReader" "RoseThrow$Reader" "made" "I") ∈ lw_all := lw_g (lw_at lw_m3 115 rfl) rfl
theorem q722 : (Jvm.Cond.lays "RoseThrow$LawReader" "RoseThrow$Reader" "from" "I") ∈ lw_all := lw_g (lw_at lw_m3 117 rfl) rfl
theorem q724 : (Jvm.Cond.lays "RoseThrow$LawReader" "RoseThrow$Reader" "to" "I") ∈ lw_all := lw_g (lw_at lw_m3 119 rfl) rfl
theorem q726 : (Jvm.Cond.lays "RoseThrow$LawReader" "RoseThrow$Reader" "leaves" "I") ∈ lw_all := lw_g (lw_at lw_m3 121 rfl) rfl
theorem q728 : (Jvm.Cond.lays "RoseThrow$LawReader" "RoseThrow$Reader" "deep" "I") ∈ lw_all := lw_g (lw_at lw_m3 123 rfl) rfl
theorem q730 : (Jvm.Cond.superclass "RoseThrow$LawReader" "RoseThrow$Reader") ∈ lw_all := lw_g (lw_at lw_m3 125 rfl) rfl
theorem q739 : (Jvm.Cond.selects "RoseThrow$LawReader" ({ cls := "RoseThrow$Reader", name := "read", desc := "()V" } : Jvm.MethodName) ({ cls := "RoseThrow$Reader", name := "read", desc := "()V" } : Jvm.MethodName)) ∈ lw_all := lw_g (lw_at lw_m3 134 rfl) rfl
theorem q745 : (Jvm.Cond.selects "RoseThrow$LawReader" ({ cls := "RoseThrow$Reader", name := "next", desc := "()V" } : Jvm.MethodName) ({ cls := "RoseThrow$Reader", name := "next", desc := "()V" } : Jvm.MethodName)) ∈ lw_all := lw_g (lw_at lw_m3 140 rfl) rfl
theorem q751 : (Jvm.Cond.selects "RoseThrow$LawReader" ({ cls := "RoseThrow$Reader", name := "isIn", desc := "(III)Z" } : Jvm.MethodName) ({ cls := "RoseThrow$Reader", name := "isIn", desc := "(III)Z" } : Jvm.MethodName)) ∈ lw_all := lw_g (lw_at lw_m3 146 rfl) rfl
theorem q757 : (Jvm.Cond.selects "RoseThrow$LawReader" ({ cls := "RoseThrow$Reader", name := "clause", desc := "()V" } : Jvm.MethodName) ({ cls := "RoseThrow$LawReader", name := "clause", desc := "()V" } : Jvm.MethodName)) ∈ lw_all := lw_g (lw_at lw_m3 152 rfl) rfl
theorem q758 : (Jvm.Cond.instanceMethod ({ cls := "RoseThrow$LawReader", name := "clause", desc := "()V" } : Jvm.MethodName)) ∈ lw_all := lw_g (lw_at lw_m3 153 rfl) rfl
theorem q759 : (Jvm.Cond.code ({ cls := "RoseThrow$LawReader", name := "clause", desc := "()V" } : Jvm.MethodName) prog_8_method_2_code (3 : Nat) (Option.none : Option Jvm.ClassFile.FieldType)) ∈ lw_all := lw_g (lw_at lw_m3 154 rfl) rfl
theorem q760 : (Jvm.Cond.stringRef "RoseThrow$LawReader" (20 : Nat) "slips") ∈ lw_tbl := lw_at lw_m3 155 rfl
theorem q761 : (Jvm.Cond.methodLink "RoseThrow$LawReader" (22 : Nat) ({ cls := "RoseThrow$LawReader", name := "is", desc := "(Ljava/lang/String;)Z" } : Jvm.MethodName)) ∈ lw_all := lw_g (lw_at lw_m3 156 rfl) rfl
theorem q762 : (Jvm.Cond.sameMethod "RoseThrow$LawReader" "RoseThrow$Reader" "is" "(Ljava/lang/String;)Z") ∈ lw_all := lw_g (lw_at lw_m3 157 rfl) rfl
theorem q764 : (Jvm.Cond.selects "RoseThrow$LawReader" ({ cls := "RoseThrow$LawReader", name := "is", desc := "(Ljava/lang/String;)Z" } : Jvm.MethodName) ({ cls := "RoseThrow$Reader", name := "is", desc := "(Ljava/lang/String;)Z" } : Jvm.MethodName)) ∈ lw_all := lw_g (lw_at lw_m3 159 rfl) rfl
theorem q813 : (Jvm.Cond.stringRef "RoseThrow$LawReader" (26 : Nat) "grips") ∈ lw_tbl := lw_at lw_m3 208 rfl
theorem q814 : (Jvm.Cond.stringRef "RoseThrow$LawReader" (28 : Nat) "weds") ∈ lw_tbl := lw_at lw_m3 209 rfl
theorem q815 : (Jvm.Cond.stringRef "RoseThrow$LawReader" (30 : Nat) "bars") ∈ lw_tbl := lw_at lw_m3 210 rfl
theorem q816 : (Jvm.Cond.methodLink "RoseThrow$LawReader" (32 : Nat) ({ cls := "RoseThrow$LawReader", name := "begins", desc := "(Z)V" } : Jvm.MethodName)) ∈ lw_all := lw_g (lw_at lw_m3 211 rfl) rfl
theorem q817 : (Jvm.Cond.sameMethod "RoseThrow$LawReader" "RoseThrow$Reader" "begins" "(Z)V") ∈ lw_all := lw_g (lw_at lw_m3 212 rfl) rfl
theorem q819 : (Jvm.Cond.selects "RoseThrow$LawReader" ({ cls := "RoseThrow$LawReader", name := "begins", desc := "(Z)V" } : Jvm.MethodName) ({ cls := "RoseThrow$Reader", name := "begins", desc := "(Z)V" } : Jvm.MethodName)) ∈ lw_all := lw_g (lw_at lw_m3 214 rfl) rfl
theorem q841 : (Jvm.Cond.methodLink "RoseThrow$LawReader" (36 : Nat) ({ cls := "RoseThrow$LawReader", name := "next", desc := "()V" } : Jvm.MethodName)) ∈ lw_all := lw_g (lw_at lw_m3 236 rfl) rfl
theorem q842 : (Jvm.Cond.sameMethod "RoseThrow$LawReader" "RoseThrow$Reader" "next" "()V") ∈ lw_all := lw_g (lw_at lw_m3 237 rfl) rfl
theorem q844 : (Jvm.Cond.selects "RoseThrow$LawReader" ({ cls := "RoseThrow$LawReader", name := "next", desc := "()V" } : Jvm.MethodName) ({ cls := "RoseThrow$Reader", name := "next", desc := "()V" } : Jvm.MethodName)) ∈ lw_all := lw_g (lw_at lw_m3 239 rfl) rfl
theorem q845 : (Jvm.Cond.classLink "RoseThrow$LawReader" (40 : Nat) "RoseThrow$Clause") ∈ lw_all := lw_g (lw_at lw_m4 0 rfl) rfl
theorem q847 : (Jvm.Cond.methodLink "RoseThrow$LawReader" (42 : Nat) ({ cls := "RoseThrow$Clause", name := "<init>", desc := "(I)V" } : Jvm.MethodName)) ∈ lw_all := lw_g (lw_at lw_m4 2 rfl) rfl
theorem q854 : (Jvm.Cond.fieldLinkNest "RoseThrow$LawReader" (47 : Nat) "RoseThrow$Clause" "sum" "LRoseThrow$Sum;" "RoseThrow") ∈ lw_tbl := lw_at lw_m4 9 rfl
theorem q856 : (Jvm.Cond.fieldLinkNest "RoseThrow$LawReader" (59 : Nat) "RoseThrow$Clause" "when" "LRoseThrow$Test;" "RoseThrow") ∈ lw_tbl := lw_at lw_m4 11 rfl
theorem q864 : (Jvm.Cond.methodLink "RoseThrow$LawReader" (43 : Nat) ({ cls := "RoseThrow$LawReader", name := "sum", desc := "()LRoseThrow$Sum;" } : Jvm.MethodName)) ∈ lw_all := lw_g (lw_at lw_m4 19 rfl) rfl
theorem q865 : (Jvm.Cond.sameMethod "RoseThrow$LawReader" "RoseThrow$Reader" "sum" "()LRoseThrow$Sum;") ∈ lw_all := lw_g (lw_at lw_m4 20 rfl) rfl
theorem q867 : (Jvm.Cond.selects "RoseThrow$LawReader" ({ cls := "RoseThrow$LawReader", name := "sum", desc := "()LRoseThrow$Sum;" } : Jvm.MethodName) ({ cls := "RoseThrow$Reader", name := "sum", desc := "()LRoseThrow$Sum;" } : Jvm.MethodName)) ∈ lw_all := lw_g (lw_at lw_m4 22 rfl) rfl
theorem q873 : (Jvm.Cond.selects "RoseThrow$LawReader" ({ cls := "RoseThrow$Reader", name := "term", desc := "()LRoseThrow$Sum;" } : Jvm.MethodName) ({ cls := "RoseThrow$Reader", name := "term", desc := "()LRoseThrow$Sum;" } : Jvm.MethodName)) ∈ lw_all := lw_g (lw_at lw_m4 28 rfl) rfl
theorem q879 : (Jvm.Cond.selects "RoseThrow$LawReader" ({ cls := "RoseThrow$Reader", name := "part", desc := "()LRoseThrow$Sum;" } : Jvm.MethodName) ({ cls := "RoseThrow$Reader", name := "part", desc := "()LRoseThrow$Sum;" } : Jvm.MethodName)) ∈ lw_all := lw_g (lw_at lw_m4 34 rfl) rfl
theorem q887 : (Jvm.Cond.selects "RoseThrow$LawReader" ({ cls := "RoseThrow$Reader", name := "opens", desc := "()V" } : Jvm.MethodName) ({ cls := "RoseThrow$Reader", name := "opens", desc := "()V" } : Jvm.MethodName)) ∈ lw_all := lw_g (lw_at lw_m4 42 rfl) rfl
theorem q895 : (Jvm.Cond.selects "RoseThrow$LawReader" ({ cls := "RoseThrow$Reader", name := "need", desc := "(Ljava/lang/String;)V" } : Jvm.MethodName) ({ cls := "RoseThrow$Reader", name := "need", desc := "(Ljava/lang/String;)V" } : Jvm.MethodName)) ∈ lw_all := lw_g (lw_at lw_m4 50 rfl) rfl
theorem q901 : (Jvm.Cond.selects "RoseThrow$LawReader" ({ cls := "RoseThrow$Reader", name := "takes", desc := "(Ljava/lang/String;)Z" } : Jvm.MethodName) ({ cls := "RoseThrow$Reader", name := "takes", desc := "(Ljava/lang/String;)Z" } : Jvm.MethodName)) ∈ lw_all := lw_g (lw_at lw_m4 56 rfl) rfl
theorem q907 : (Jvm.Cond.selects "RoseThrow$LawReader" ({ cls := "RoseThrow$Reader", name := "leaf", desc := "()V" } : Jvm.MethodName) ({ cls := "RoseThrow$Reader", name := "leaf", desc := "()V" } : Jvm.MethodName)) ∈ lw_all := lw_g (lw_at lw_m4 62 rfl) rfl
theorem q915 : (Jvm.Cond.selects "RoseThrow$LawReader" ({ cls := "RoseThrow$Reader", name := "number", desc := "(II)I" } : Jvm.MethodName) ({ cls := "RoseThrow$Reader", name := "number", desc := "(II)I" } : Jvm.MethodName)) ∈ lw_all := lw_g (lw_at lw_m4 70 rfl) rfl
theorem q932 : (Jvm.Cond.selects "RoseThrow$LawReader" ({ cls := "RoseThrow$Reader", name := "value", desc := "()I" } : Jvm.MethodName) ({ cls := "RoseThrow$LawReader", name := "value", desc := "()I" } : Jvm.MethodName)) ∈ lw_all := lw_g (lw_at lw_m4 87 rfl) rfl
theorem q933 : (Jvm.Cond.instanceMethod ({ cls := "RoseThrow$LawReader", name := "value", desc := "()I" } : Jvm.MethodName)) ∈ lw_all := lw_g (lw_at lw_m4 88 rfl) rfl
theorem q934 : (Jvm.Cond.code ({ cls := "RoseThrow$LawReader", name := "value", desc := "()I" } : Jvm.MethodName) prog_8_method_3_code (1 : Nat) (Option.some Jvm.ClassFile.FieldType.int)) ∈ lw_all := lw_g (lw_at lw_m4 89 rfl) rfl
theorem q935 : (Jvm.Cond.stringRef "RoseThrow$LawReader" (67 : Nat) "force") ∈ lw_tbl := lw_at lw_m4 90 rfl
theorem q936 : (Jvm.Cond.methodLink "RoseThrow$LawReader" (69 : Nat) ({ cls := "RoseThrow$LawReader", name := "isValue", desc := "(Ljava/lang/String;)Z" } : Jvm.MethodName)) ∈ lw_all := lw_g (lw_at lw_m4 91 rfl) rfl
theorem q937 : (Jvm.Cond.sameMethod "RoseThrow$LawReader" "RoseThrow$Reader" "isValue" "(Ljava/lang/String;)Z") ∈ lw_all := lw_g (lw_at lw_m4 92 rfl) rfl
theorem q939 : (Jvm.Cond.selects "RoseThrow$LawReader" ({ cls := "RoseThrow$LawReader", name := "isValue", desc := "(Ljava/lang/String;)Z" } : Jvm.MethodName) ({ cls := "RoseThrow$Reader", name := "isValue", desc := "(Ljava/lang/String;)Z" } : Jvm.MethodName)) ∈ lw_all := lw_g (lw_at lw_m4 94 rfl) rfl
theorem q942 : (Jvm.Cond.stringRef "RoseThrow$LawReader" (72 : Nat) "side") ∈ lw_tbl := lw_at lw_m4 97 rfl
theorem q943 : (Jvm.Cond.stringRef "RoseThrow$LawReader" (74 : Nat) "high") ∈ lw_tbl := lw_at lw_m4 98 rfl
theorem q944 : (Jvm.Cond.stringRef "RoseThrow$LawReader" (76 : Nat) "word") ∈ lw_tbl := lw_at lw_m4 99 rfl
theorem q945 : (Jvm.Cond.stringRef "RoseThrow$LawReader" (78 : Nat) "dx") ∈ lw_tbl := lw_at lw_m4 100 rfl
theorem q946 : (Jvm.Cond.stringRef "RoseThrow$LawReader" (80 : Nat) "dy") ∈ lw_tbl := lw_at lw_m4 101 rfl
theorem q947 : (Jvm.Cond.stringRef "RoseThrow$LawReader" (82 : Nat) "catcher") ∈ lw_tbl := lw_at lw_m4 102 rfl
theorem q948 : (Jvm.Cond.stringRef "RoseThrow$LawReader" (84 : Nat) "tall") ∈ lw_tbl := lw_at lw_m4 103 rfl
theorem q949 : (Jvm.Cond.stringRef "RoseThrow$LawReader" (86 : Nat) "want") ∈ lw_tbl := lw_at lw_m4 104 rfl
theorem q950 : (Jvm.Cond.stringRef "RoseThrow$LawReader" (88 : Nat) "far") ∈ lw_tbl := lw_at lw_m4 105 rfl
theorem q951 : (Jvm.Cond.stringRef "RoseThrow$LawReader" (90 : Nat) "caught") ∈ lw_tbl := lw_at lw_m4 106 rfl
theorem q952 : (Jvm.Cond.stringRef "RoseThrow$LawReader" (92 : Nat) "x") ∈ lw_tbl := lw_at lw_m4 107 rfl
theorem q953 : (Jvm.Cond.stringRef "RoseThrow$LawReader" (94 : Nat) "y") ∈ lw_tbl := lw_at lw_m4 108 rfl
theorem q954 : (Jvm.Cond.stringRef "RoseThrow$LawReader" (96 : Nat) "mood") ∈ lw_tbl := lw_at lw_m4 109 rfl
theorem q1001 : (Jvm.Cond.stringRef "RoseThrow$LawReader" (50 : Nat) "if") ∈ lw_tbl := lw_at lw_m4 156 rfl
theorem q1002 : (Jvm.Cond.methodLink "RoseThrow$LawReader" (52 : Nat) ({ cls := "RoseThrow$LawReader", name := "takes", desc := "(Ljava/lang/String;)Z" } : Jvm.MethodName)) ∈ lw_all := lw_g (lw_at lw_m4 157 rfl) rfl
theorem q1003 : (Jvm.Cond.sameMethod "RoseThrow$LawReader" "RoseThrow$Reader" "takes" "(Ljava/lang/String;)Z") ∈ lw_all := lw_g (lw_at lw_m4 158 rfl) rfl
theorem q1005 : (Jvm.Cond.selects "RoseThrow$LawReader" ({ cls := "RoseThrow$LawReader", name := "takes", desc := "(Ljava/lang/String;)Z" } : Jvm.MethodName) ({ cls := "RoseThrow$Reader", name := "takes", desc := "(Ljava/lang/String;)Z" } : Jvm.MethodName)) ∈ lw_all := lw_g (lw_at lw_m4 160 rfl) rfl
theorem q1006 : (Jvm.Cond.methodLink "RoseThrow$LawReader" (55 : Nat) ({ cls := "RoseThrow$LawReader", name := "test", desc := "()LRoseThrow$Test;" } : Jvm.MethodName)) ∈ lw_all := lw_g (lw_at lw_m4 161 rfl) rfl
theorem q1007 : (Jvm.Cond.sameMethod "RoseThrow$LawReader" "RoseThrow$Reader" "test" "()LRoseThrow$Test;") ∈ lw_all := lw_g (lw_at lw_m4 162 rfl) rfl
theorem q1009 : (Jvm.Cond.selects "RoseThrow$LawReader" ({ cls := "RoseThrow$LawReader", name := "test", desc := "()LRoseThrow$Test;" } : Jvm.MethodName) ({ cls := "RoseThrow$Reader", name := "test", desc := "()LRoseThrow$Test;" } : Jvm.MethodName)) ∈ lw_all := lw_g (lw_at lw_m4 164 rfl) rfl
theorem q1015 : (Jvm.Cond.selects "RoseThrow$LawReader" ({ cls := "RoseThrow$Reader", name := "both", desc := "()LRoseThrow$Test;" } : Jvm.MethodName) ({ cls := "RoseThrow$Reader", name := "both", desc := "()LRoseThrow$Test;" } : Jvm.MethodName)) ∈ lw_all := lw_g (lw_at lw_m4 170 rfl) rfl
theorem q1021 : (Jvm.Cond.selects "RoseThrow$LawReader" ({ cls := "RoseThrow$Reader", name := "plain", desc := "()LRoseThrow$Test;" } : Jvm.MethodName) ({ cls := "RoseThrow$Reader", name := "plain", desc := "()LRoseThrow$Test;" } : Jvm.MethodName)) ∈ lw_all := lw_g (lw_at lw_m4 176 rfl) rfl
theorem q1028 : (Jvm.Cond.selects "RoseThrow$LawReader" ({ cls := "RoseThrow$Reader", name := "positive", desc := "()LRoseThrow$Test;" } : Jvm.MethodName) ({ cls := "RoseThrow$Reader", name := "positive", desc := "()LRoseThrow$Test;" } : Jvm.MethodName)) ∈ lw_all := lw_g (lw_at lw_m4 183 rfl) rfl
theorem q1096 : (Jvm.Cond.methodLink "RoseThrow$LawReader" (63 : Nat) ({ cls := "java/util/ArrayList", name := "add", desc := "(Ljava/lang/Object;)Z" } : Jvm.MethodName)) ∈ lw_all := lw_g (lw_at lw_m5 11 rfl) rfl
theorem q2253 : (Jvm.Cond.selects "RoseThrow$LawReader" ({ cls := "RoseThrow$Reader", name := "is", desc := "(Ljava/lang/String;)Z" } : Jvm.MethodName) ({ cls := "RoseThrow$Reader", name := "is", desc := "(Ljava/lang/String;)Z" } : Jvm.MethodName)) ∈ lw_all := lw_g (lw_at lw_m9 208 rfl) rfl
theorem q2256 : (Jvm.Cond.selects "RoseThrow$LawReader" ({ cls := "RoseThrow$Reader", name := "sum", desc := "()LRoseThrow$Sum;" } : Jvm.MethodName) ({ cls := "RoseThrow$Reader", name := "sum", desc := "()LRoseThrow$Sum;" } : Jvm.MethodName)) ∈ lw_all := lw_g (lw_at lw_m9 211 rfl) rfl
theorem q2259 : (Jvm.Cond.selects "RoseThrow$LawReader" ({ cls := "RoseThrow$Reader", name := "test", desc := "()LRoseThrow$Test;" } : Jvm.MethodName) ({ cls := "RoseThrow$Reader", name := "test", desc := "()LRoseThrow$Test;" } : Jvm.MethodName)) ∈ lw_all := lw_g (lw_at lw_m9 214 rfl) rfl
theorem q2272 : (Jvm.Cond.castable "RoseThrow$LawReader" "java/lang/Object") ∈ lw_tbl := lw_at lw_m9 227 rfl
theorem in_X7 : ∀ w ∈ wsX70, w ∈ lw_all := lw_in wsX70 [716, 718, 720, 722, 724, 726, 728, 714] (by decide +kernel) (by decide +kernel)
/-! RoseThrow$Fault -/
set_option maxRecDepth 100000
def RX8 : String := "RoseThrow$Fault"
def TX8 : u_T := fun k => match k with
  | 0 => ("java/lang/Throwable", "cause", "Ljava/lang/Throwable;", false)
  | 1 => ("java/lang/Throwable", "stackTrace", "[Ljava/lang/StackTraceElement;", false)
  | 2 => ("java/lang/Throwable", "suppressedExceptions", "Ljava/util/List;", false)
  | 3 => ("java/lang/Throwable", "detailMessage", "Ljava/lang/String;", false)
  | 4 => ("java/lang/Throwable", "backtrace", "Ljava/lang/Object;", false)
  | 5 => ("java/lang/Throwable", "depth", "I", false)
  | _ => ("RoseThrow$Fault", "place", "I", true)
def tyX8 : Nat → FieldType := fun k => match k with
  | 0 => .object "java/lang/Throwable"
  | 1 => .array (.object "java/lang/StackTraceElement")
  | 2 => .object "java/util/List"
  | 3 => .object "java/lang/String"
  | 4 => .object "java/lang/Object"
  | 5 => .int
  | _ => .int
abbrev wsX80 : List Cond := u_ws RX8 TX8 7
theorem nmX8 : ∀ a, a < 7 → ∀ b, b < 7 → a ≠ b → (TX8 a).2.1 ≠ (TX8 b).2.1 := by decide +kernel
theorem tyX8_ok : ∀ k, k < 7 → parseFieldDescriptor (TX8 k).2.2.1 = some (tyX8 k) := by decide +kernel
abbrev cX8_init : ByteArray := prog_5_method_1_code
def yX8_init : MethodName := ⟨RX8, "<init>", "(I)V"⟩
def dkwX8_init_0 : List UInt8 := [42, 1, 1, 3, 3, 183, 0, 1, 42, 27, 181, 0, 7, 177]
abbrev dktX8_init_0 : List UInt8 := dkwX8_init_0 ++ []
theorem dksX8_init_0 : cX8_init.data.toList.drop 0 = dktX8_init_0 := by decide +kernel
theorem dX8_init_0 : decode cX8_init 0 = .ok (.aload_n 0, 1) := dk_42 (dk_at dksX8_init_0 0 rfl rfl)
theorem dX8_init_1 : decode cX8_init 1 = .ok (.aconst_null, 1) := dk_1 (dk_at dksX8_init_0 1 rfl rfl)
theorem dX8_init_2 : decode cX8_init 2 = .ok (.aconst_null, 1) := dk_1 (dk_at dksX8_init_0 2 rfl rfl)
theorem dX8_init_3 : decode cX8_init 3 = .ok (.iconst 0, 1) := dk_3 (dk_at dksX8_init_0 3 rfl rfl)
theorem dX8_init_4 : decode cX8_init 4 = .ok (.iconst 0, 1) := dk_3 (dk_at dksX8_init_0 4 rfl rfl)
theorem dX8_init_5 : decode cX8_init 5 = .ok (.invokespecial 1, 3) := dk_183 0 1 (dk_at dksX8_init_0 5 rfl rfl)
theorem dX8_init_8 : decode cX8_init 8 = .ok (.aload_n 0, 1) := dk_42 (dk_at dksX8_init_0 8 rfl rfl)
theorem dX8_init_9 : decode cX8_init 9 = .ok (.iload_n 1, 1) := dk_27 (dk_at dksX8_init_0 9 rfl rfl)
theorem dX8_init_10 : decode cX8_init 10 = .ok (.putfield 7, 3) := dk_181 0 7 (dk_at dksX8_init_0 10 rfl rfl)
theorem dX8_init_13 : decode cX8_init 13 = .ok (.return_, 1) := dk_177 (dk_at dksX8_init_0 13 rfl rfl)
theorem q144 : (Jvm.Cond.initialized "RoseThrow$Fault") ∈ lw_all := lw_g (lw_at lw_m1 19 rfl) rfl
theorem q288 : (Jvm.Cond.selects "RoseThrow$Fault" ({ cls := "java/lang/Throwable", name := "fillInStackTrace", desc := "()Ljava/lang/Throwable;" } : Jvm.MethodName) ({ cls := "java/lang/Throwable", name := "fillInStackTrace", desc := "()Ljava/lang/Throwable;" } : Jvm.MethodName)) ∈ lw_all := lw_g (lw_at lw_m1 163 rfl) rfl
theorem q490 : (Jvm.Cond.selects "RoseThrow$Fault" ({ cls := "java/lang/Object", name := "getClass", desc := "()Ljava/lang/Class;" } : Jvm.MethodName) ({ cls := "java/lang/Object", name := "getClass", desc := "()Ljava/lang/Class;" } : Jvm.MethodName)) ∈ lw_all := lw_g (lw_at lw_m2 125 rfl) rfl
theorem q823 : (Jvm.Cond.instantiable "RoseThrow$Fault" (7 : Nat)) ∈ lw_all := lw_g (lw_at lw_m3 218 rfl) rfl
theorem q824 : (Jvm.Cond.castable "RoseThrow$Fault" "RoseThrow$Fault") ∈ lw_tbl := lw_at lw_m3 219 rfl
theorem q825 : (Jvm.Cond.selects "RoseThrow$Fault" ({ cls := "java/lang/Throwable", name := "fillInStackTrace", desc := "(I)Ljava/lang/Throwable;" } : Jvm.MethodName) ({ cls := "java/lang/Throwable", name := "fillInStackTrace", desc := "(I)Ljava/lang/Throwable;" } : Jvm.MethodName)) ∈ lw_all := lw_g (lw_at lw_m3 220 rfl) rfl
theorem q826 : (Jvm.Cond.lays "RoseThrow$Fault" "java/lang/Throwable" "cause" "Ljava/lang/Throwable;") ∈ lw_all := lw_g (lw_at lw_m3 221 rfl) rfl
theorem q827 : (Jvm.Cond.lays "RoseThrow$Fault" "java/lang/Throwable" "stackTrace" "[Ljava/lang/StackTraceElement;") ∈ lw_all := lw_g (lw_at lw_m3 222 rfl) rfl
theorem q828 : (Jvm.Cond.lays "RoseThrow$Fault" "java/lang/Throwable" "suppressedExceptions" "Ljava/util/List;") ∈ lw_all := lw_g (lw_at lw_m3 223 rfl) rfl
theorem q829 : (Jvm.Cond.lays "RoseThrow$Fault" "java/lang/Throwable" "detailMessage" "Ljava/lang/String;") ∈ lw_all := lw_g (lw_at lw_m3 224 rfl) rfl
theorem q830 : (Jvm.Cond.lays "RoseThrow$Fault" "java/lang/Throwable" "backtrace" "Ljava/lang/Object;") ∈ lw_all := lw_g (lw_at lw_m3 225 rfl) rfl
theorem q832 : (Jvm.Cond.instanceMethod ({ cls := "RoseThrow$Fault", name := "<init>", desc := "(I)V" } : Jvm.MethodName)) ∈ lw_all := lw_g (lw_at lw_m3 227 rfl) rfl
theorem q833 : (Jvm.Cond.code ({ cls := "RoseThrow$Fault", name := "<init>", desc := "(I)V" } : Jvm.MethodName) prog_5_method_1_code (2 : Nat) (Option.none : Option Jvm.ClassFile.FieldType)) ∈ lw_all := lw_g (lw_at lw_m3 228 rfl) rfl
theorem q834 : (Jvm.Cond.methodLink "RoseThrow$Fault" (1 : Nat) ({ cls := "java/lang/Exception", name := "<init>", desc := "(Ljava/lang/String;Ljava/lang/Throwable;ZZ)V" } : Jvm.MethodName)) ∈ lw_all := lw_g (lw_at lw_m3 229 rfl) rfl
theorem q835 : (Jvm.Cond.fieldLink "RoseThrow$Fault" (7 : Nat) "RoseThrow$Fault" "place" "I") ∈ lw_all := lw_g (lw_at lw_m3 230 rfl) rfl
theorem q837 : (Jvm.Cond.laysFinal "RoseThrow$Fault" "RoseThrow$Fault" "place" "I") ∈ lw_all := lw_g (lw_at lw_m3 232 rfl) rfl
theorem q838 : (Jvm.Cond.soleField "RoseThrow$Fault" "place") ∈ lw_all := lw_g (lw_at lw_m3 233 rfl) rfl
theorem q839 : (Jvm.Cond.lays "RoseThrow$Fault" "java/lang/Throwable" "depth" "I") ∈ lw_all := lw_g (lw_at lw_m3 234 rfl) rfl
theorem q840 : (Jvm.Cond.superclass "RoseThrow$Fault" "java/lang/Exception") ∈ lw_all := lw_g (lw_at lw_m3 235 rfl) rfl
theorem q2273 : (Jvm.Cond.castable "RoseThrow$Fault" "java/lang/Object") ∈ lw_tbl := lw_at lw_m9 228 rfl
theorem in_X8 : ∀ w ∈ wsX80, w ∈ lw_all := lw_in wsX80 [826, 827, 828, 829, 830, 839, 837] (by decide +kernel) (by decide +kernel)
/-! RoseThrow$Clause -/
set_option maxRecDepth 100000
def RX9 : String := "RoseThrow$Clause"
def TX9 : u_T := fun k => match k with
  | 0 => ("RoseThrow$Clause", "head", "I", true)
  | 1 => ("RoseThrow$Clause", "sum", "LRoseThrow$Sum;", false)
  | _ => ("RoseThrow$Clause", "when", "LRoseThrow$Test;", false)
def tyX9 : Nat → FieldType := fun k => match k with
  | 0 => .int
  | 1 => .object "RoseThrow$Sum"
  | _ => .object "RoseThrow$Test"
abbrev wsX90 : List Cond := u_ws RX9 TX9 3
theorem nmX9 : ∀ a, a < 3 → ∀ b, b < 3 → a ≠ b → (TX9 a).2.1 ≠ (TX9 b).2.1 := by decide +kernel
theorem tyX9_ok : ∀ k, k < 3 → parseFieldDescriptor (TX9 k).2.2.1 = some (tyX9 k) := by decide +kernel
abbrev cX9_tells : ByteArray := prog_3_method_2_code
def yX9_tells : MethodName := ⟨RX9, "tells", "(LRoseThrow$Setting;)J"⟩
def dkwX9_tells_1 : List UInt8 := [180, 0, 27, 199, 0, 7, 10, 167, 0, 11, 42, 180, 0, 27, 43, 182, 0, 31, 173, 77, 20, 0, 25, 173]
abbrev dktX9_tells_1 : List UInt8 := dkwX9_tells_1 ++ []
def dkwX9_tells_0 : List UInt8 := [42, 180, 0, 15, 198, 0, 18, 42, 180, 0, 15, 43, 182, 0, 19, 154, 0, 7, 20, 0, 25, 173, 42]
abbrev dktX9_tells_0 : List UInt8 := dkwX9_tells_0 ++ dktX9_tells_1
theorem dksX9_tells_0 : cX9_tells.data.toList.drop 0 = dktX9_tells_0 := by decide +kernel
theorem dksX9_tells_1 : cX9_tells.data.toList.drop 23 = dktX9_tells_1 := dk_seg dksX9_tells_0 23 rfl rfl
theorem dX9_tells_0 : decode cX9_tells 0 = .ok (.aload_n 0, 1) := dk_42 (dk_at dksX9_tells_0 0 rfl rfl)
theorem dX9_tells_1 : decode cX9_tells 1 = .ok (.getfield 15, 3) := dk_180 0 15 (dk_at dksX9_tells_0 1 rfl rfl)
theorem dX9_tells_4 : decode cX9_tells 4 = .ok (.ifnull 18, 3) := dk_198 0 18 (dk_at dksX9_tells_0 4 rfl rfl)
theorem dX9_tells_7 : decode cX9_tells 7 = .ok (.aload_n 0, 1) := dk_42 (dk_at dksX9_tells_0 7 rfl rfl)
theorem dX9_tells_8 : decode cX9_tells 8 = .ok (.getfield 15, 3) := dk_180 0 15 (dk_at dksX9_tells_0 8 rfl rfl)
theorem dX9_tells_11 : decode cX9_tells 11 = .ok (.aload_n 1, 1) := dk_43 (dk_at dksX9_tells_0 11 rfl rfl)
theorem dX9_tells_12 : decode cX9_tells 12 = .ok (.invokevirtual 19, 3) := dk_182 0 19 (dk_at dksX9_tells_0 12 rfl rfl)
theorem dX9_tells_15 : decode cX9_tells 15 = .ok (.ifCond .ne 7, 3) := dk_154 0 7 (dk_at dksX9_tells_0 15 rfl rfl)
theorem dX9_tells_18 : decode cX9_tells 18 = .ok (.ldc2_w 25, 3) := dk_20 0 25 (dk_at dksX9_tells_0 18 rfl rfl)
theorem dX9_tells_21 : decode cX9_tells 21 = .ok (.lreturn, 1) := dk_173 (dk_at dksX9_tells_0 21 rfl rfl)
theorem dX9_tells_22 : decode cX9_tells 22 = .ok (.aload_n 0, 1) := dk_42 (dk_at dksX9_tells_0 22 rfl rfl)
theorem dX9_tells_23 : decode cX9_tells 23 = .ok (.getfield 27, 3) := dk_180 0 27 (dk_at dksX9_tells_1 0 rfl rfl)
theorem dX9_tells_26 : decode cX9_tells 26 = .ok (.ifnonnull 7, 3) := dk_199 0 7 (dk_at dksX9_tells_1 3 rfl rfl)
theorem dX9_tells_29 : decode cX9_tells 29 = .ok (.lconst 1, 1) := dk_10 (dk_at dksX9_tells_1 6 rfl rfl)
theorem dX9_tells_30 : decode cX9_tells 30 = .ok (.goto 11, 3) := dk_167 0 11 (dk_at dksX9_tells_1 7 rfl rfl)
theorem dX9_tells_33 : decode cX9_tells 33 = .ok (.aload_n 0, 1) := dk_42 (dk_at dksX9_tells_1 10 rfl rfl)
theorem dX9_tells_34 : decode cX9_tells 34 = .ok (.getfield 27, 3) := dk_180 0 27 (dk_at dksX9_tells_1 11 rfl rfl)
theorem dX9_tells_37 : decode cX9_tells 37 = .ok (.aload_n 1, 1) := dk_43 (dk_at dksX9_tells_1 14 rfl rfl)
theorem dX9_tells_38 : decode cX9_tells 38 = .ok (.invokevirtual 31, 3) := dk_182 0 31 (dk_at dksX9_tells_1 15 rfl rfl)
theorem dX9_tells_41 : decode cX9_tells 41 = .ok (.lreturn, 1) := dk_173 (dk_at dksX9_tells_1 18 rfl rfl)
theorem dX9_tells_42 : decode cX9_tells 42 = .ok (.astore_n 2, 1) := dk_77 (dk_at dksX9_tells_1 19 rfl rfl)
theorem dX9_tells_43 : decode cX9_tells 43 = .ok (.ldc2_w 25, 3) := dk_20 0 25 (dk_at dksX9_tells_1 20 rfl rfl)
theorem dX9_tells_46 : decode cX9_tells 46 = .ok (.lreturn, 1) := dk_173 (dk_at dksX9_tells_1 23 rfl rfl)
abbrev cX9_init : ByteArray := prog_3_method_1_code
def yX9_init : MethodName := ⟨RX9, "<init>", "(I)V"⟩
def dkwX9_init_0 : List UInt8 := [42, 183, 0, 3, 42, 27, 181, 0, 9, 177]
abbrev dktX9_init_0 : List UInt8 := dkwX9_init_0 ++ []
theorem dksX9_init_0 : cX9_init.data.toList.drop 0 = dktX9_init_0 := by decide +kernel
theorem dX9_init_0 : decode cX9_init 0 = .ok (.aload_n 0, 1) := dk_42 (dk_at dksX9_init_0 0 rfl rfl)
theorem dX9_init_1 : decode cX9_init 1 = .ok (.invokespecial 3, 3) := dk_183 0 3 (dk_at dksX9_init_0 1 rfl rfl)
theorem dX9_init_4 : decode cX9_init 4 = .ok (.aload_n 0, 1) := dk_42 (dk_at dksX9_init_0 4 rfl rfl)
theorem dX9_init_5 : decode cX9_init 5 = .ok (.iload_n 1, 1) := dk_27 (dk_at dksX9_init_0 5 rfl rfl)
theorem dX9_init_6 : decode cX9_init 6 = .ok (.putfield 9, 3) := dk_181 0 9 (dk_at dksX9_init_0 6 rfl rfl)
theorem dX9_init_9 : decode cX9_init 9 = .ok (.return_, 1) := dk_177 (dk_at dksX9_init_0 9 rfl rfl)
theorem q145 : (Jvm.Cond.initialized "RoseThrow$Clause") ∈ lw_all := lw_g (lw_at lw_m1 20 rfl) rfl
theorem q488 : (Jvm.Cond.selects "RoseThrow$Clause" ({ cls := "java/lang/Object", name := "getClass", desc := "()Ljava/lang/Class;" } : Jvm.MethodName) ({ cls := "java/lang/Object", name := "getClass", desc := "()Ljava/lang/Class;" } : Jvm.MethodName)) ∈ lw_all := lw_g (lw_at lw_m2 123 rfl) rfl
theorem q611 : (Jvm.Cond.instanceMethod ({ cls := "RoseThrow$Clause", name := "tells", desc := "(LRoseThrow$Setting;)J" } : Jvm.MethodName)) ∈ lw_all := lw_g (lw_at lw_m3 6 rfl) rfl
theorem q612 : (Jvm.Cond.selects "RoseThrow$Clause" ({ cls := "RoseThrow$Clause", name := "tells", desc := "(LRoseThrow$Setting;)J" } : Jvm.MethodName) ({ cls := "RoseThrow$Clause", name := "tells", desc := "(LRoseThrow$Setting;)J" } : Jvm.MethodName)) ∈ lw_all := lw_g (lw_at lw_m3 7 rfl) rfl
theorem q613 : (Jvm.Cond.codeWith ({ cls := "RoseThrow$Clause", name := "tells", desc := "(LRoseThrow$Setting;)J" } : Jvm.MethodName) prog_3_method_2_code (3 : Nat) (Option.some Jvm.ClassFile.FieldType.long) [((0 : Nat), (21 : Nat), (42 : Nat), (37 : Nat)), ((22 : Nat), (41 : Nat), (42 : Nat), (37 : Nat))]) ∈ lw_all := lw_g (lw_at lw_m3 8 rfl) rfl
theorem q614 : (Jvm.Cond.classLink "RoseThrow$Clause" (37 : Nat) "RoseThrow$Broken") ∈ lw_all := lw_g (lw_at lw_m3 9 rfl) rfl
theorem q615 : (Jvm.Cond.methodLink "RoseThrow$Clause" (19 : Nat) ({ cls := "RoseThrow$Test", name := "is", desc := "(LRoseThrow$Setting;)Z" } : Jvm.MethodName)) ∈ lw_all := lw_g (lw_at lw_m3 10 rfl) rfl
theorem q647 : (Jvm.Cond.constantLong "RoseThrow$Clause" (25 : Nat) (-4000000000 : Int64)) ∈ lw_all := lw_g (lw_at lw_m3 42 rfl) rfl
theorem q648 : (Jvm.Cond.methodLink "RoseThrow$Clause" (31 : Nat) ({ cls := "RoseThrow$Sum", name := "of", desc := "(LRoseThrow$Setting;)J" } : Jvm.MethodName)) ∈ lw_all := lw_g (lw_at lw_m3 43 rfl) rfl
theorem q846 : (Jvm.Cond.instantiable "RoseThrow$Clause" (3 : Nat)) ∈ lw_all := lw_g (lw_at lw_m4 1 rfl) rfl
theorem q848 : (Jvm.Cond.instanceMethod ({ cls := "RoseThrow$Clause", name := "<init>", desc := "(I)V" } : Jvm.MethodName)) ∈ lw_all := lw_g (lw_at lw_m4 3 rfl) rfl
theorem q849 : (Jvm.Cond.code ({ cls := "RoseThrow$Clause", name := "<init>", desc := "(I)V" } : Jvm.MethodName) prog_3_method_1_code (2 : Nat) (Option.none : Option Jvm.ClassFile.FieldType)) ∈ lw_all := lw_g (lw_at lw_m4 4 rfl) rfl
theorem q850 : (Jvm.Cond.methodLink "RoseThrow$Clause" (3 : Nat) ({ cls := "java/lang/Object", name := "<init>", desc := "()V" } : Jvm.MethodName)) ∈ lw_all := lw_g (lw_at lw_m4 5 rfl) rfl
theorem q851 : (Jvm.Cond.fieldLink "RoseThrow$Clause" (9 : Nat) "RoseThrow$Clause" "head" "I") ∈ lw_all := lw_g (lw_at lw_m4 6 rfl) rfl
theorem q853 : (Jvm.Cond.fieldLink "RoseThrow$Clause" (27 : Nat) "RoseThrow$Clause" "sum" "LRoseThrow$Sum;") ∈ lw_all := lw_g (lw_at lw_m4 8 rfl) rfl
theorem q855 : (Jvm.Cond.fieldLink "RoseThrow$Clause" (15 : Nat) "RoseThrow$Clause" "when" "LRoseThrow$Test;") ∈ lw_all := lw_g (lw_at lw_m4 10 rfl) rfl
theorem q857 : (Jvm.Cond.laysFinal "RoseThrow$Clause" "RoseThrow$Clause" "head" "I") ∈ lw_all := lw_g (lw_at lw_m4 12 rfl) rfl
theorem q858 : (Jvm.Cond.soleField "RoseThrow$Clause" "head") ∈ lw_all := lw_g (lw_at lw_m4 13 rfl) rfl
theorem q859 : (Jvm.Cond.lays "RoseThrow$Clause" "RoseThrow$Clause" "sum" "LRoseThrow$Sum;") ∈ lw_all := lw_g (lw_at lw_m4 14 rfl) rfl
theorem q860 : (Jvm.Cond.soleField "RoseThrow$Clause" "sum") ∈ lw_all := lw_g (lw_at lw_m4 15 rfl) rfl
theorem q861 : (Jvm.Cond.lays "RoseThrow$Clause" "RoseThrow$Clause" "when" "LRoseThrow$Test;") ∈ lw_all := lw_g (lw_at lw_m4 16 rfl) rfl
theorem q862 : (Jvm.Cond.soleField "RoseThrow$Clause" "when") ∈ lw_all := lw_g (lw_at lw_m4 17 rfl) rfl
theorem q863 : (Jvm.Cond.superclass "RoseThrow$Clause" "java/lang/Object") ∈ lw_all := lw_g (lw_at lw_m4 18 rfl) rfl
theorem q2274 : (Jvm.Cond.castable "RoseThrow$Clause" "java/lang/Object") ∈ lw_tbl := lw_at lw_m9 229 rfl
theorem in_X9 : ∀ w ∈ wsX90, w ∈ lw_all := lw_in wsX90 [857, 859, 861] (by decide +kernel) (by decide +kernel)
/-! RoseThrow$Sum -/
set_option maxRecDepth 100000
def RX10 : String := "RoseThrow$Sum"
abbrev cX10_init : ByteArray := prog_17_method_1_code
def yX10_init : MethodName := ⟨RX10, "<init>", "()V"⟩
theorem dX10_init_0 : decode cX10_init 0 = .ok (.aload_n 0, 1) := by decide +kernel
theorem dX10_init_1 : decode cX10_init 1 = .ok (.invokespecial 1, 3) := by decide +kernel
theorem dX10_init_4 : decode cX10_init 4 = .ok (.return_, 1) := by decide +kernel
theorem q146 : (Jvm.Cond.initialized "RoseThrow$Sum") ∈ lw_all := lw_g (lw_at lw_m1 21 rfl) rfl
theorem q622 : (Jvm.Cond.declares ({ cls := "RoseThrow$Sum", name := "of", desc := "(LRoseThrow$Setting;)J" } : Jvm.MethodName)) ∈ lw_tbl := lw_at lw_m3 17 rfl
theorem q623 : (Jvm.Cond.sameMethod "RoseThrow$Sum" "RoseThrow$Sum" "of" "(LRoseThrow$Setting;)J") ∈ lw_all := lw_g (lw_at lw_m3 18 rfl) rfl
theorem q922 : (Jvm.Cond.instanceMethod ({ cls := "RoseThrow$Sum", name := "<init>", desc := "()V" } : Jvm.MethodName)) ∈ lw_all := lw_g (lw_at lw_m4 77 rfl) rfl
theorem q923 : (Jvm.Cond.code ({ cls := "RoseThrow$Sum", name := "<init>", desc := "()V" } : Jvm.MethodName) prog_17_method_1_code (1 : Nat) (Option.none : Option Jvm.ClassFile.FieldType)) ∈ lw_all := lw_g (lw_at lw_m4 78 rfl) rfl
theorem q924 : (Jvm.Cond.methodLink "RoseThrow$Sum" (1 : Nat) ({ cls := "java/lang/Object", name := "<init>", desc := "()V" } : Jvm.MethodName)) ∈ lw_all := lw_g (lw_at lw_m4 79 rfl) rfl
/-! RoseThrow$Number -/
set_option maxRecDepth 100000
def RX11 : String := "RoseThrow$Number"
def TX11 : u_T := fun k => match k with
  | _ => ("RoseThrow$Number", "number", "I", true)
def tyX11 : Nat → FieldType := fun k => match k with
  | _ => .int
abbrev wsX110 : List Cond := u_ws RX11 TX11 1
theorem nmX11 : ∀ a, a < 1 → ∀ b, b < 1 → a ≠ b → (TX11 a).2.1 ≠ (TX11 b).2.1 := by decide +kernel
theorem tyX11_ok : ∀ k, k < 1 → parseFieldDescriptor (TX11 k).2.2.1 = some (tyX11 k) := by decide +kernel
abbrev cX11_of : ByteArray := prog_10_method_2_code
def yX11_of : MethodName := ⟨RX11, "of", "(LRoseThrow$Setting;)J"⟩
def dkwX11_of_0 : List UInt8 := [42, 180, 0, 7, 133, 173]
abbrev dktX11_of_0 : List UInt8 := dkwX11_of_0 ++ []
theorem dksX11_of_0 : cX11_of.data.toList.drop 0 = dktX11_of_0 := by decide +kernel
theorem dX11_of_0 : decode cX11_of 0 = .ok (.aload_n 0, 1) := dk_42 (dk_at dksX11_of_0 0 rfl rfl)
theorem dX11_of_1 : decode cX11_of 1 = .ok (.getfield 7, 3) := dk_180 0 7 (dk_at dksX11_of_0 1 rfl rfl)
theorem dX11_of_4 : decode cX11_of 4 = .ok (.i2l, 1) := dk_133 (dk_at dksX11_of_0 4 rfl rfl)
theorem dX11_of_5 : decode cX11_of 5 = .ok (.lreturn, 1) := dk_173 (dk_at dksX11_of_0 5 rfl rfl)
abbrev cX11_init : ByteArray := prog_10_method_1_code
def yX11_init : MethodName := ⟨RX11, "<init>", "(I)V"⟩
def dkwX11_init_0 : List UInt8 := [42, 183, 0, 1, 42, 27, 181, 0, 7, 177]
abbrev dktX11_init_0 : List UInt8 := dkwX11_init_0 ++ []
theorem dksX11_init_0 : cX11_init.data.toList.drop 0 = dktX11_init_0 := by decide +kernel
theorem dX11_init_0 : decode cX11_init 0 = .ok (.aload_n 0, 1) := dk_42 (dk_at dksX11_init_0 0 rfl rfl)
theorem dX11_init_1 : decode cX11_init 1 = .ok (.invokespecial 1, 3) := dk_183 0 1 (dk_at dksX11_init_0 1 rfl rfl)
theorem dX11_init_4 : decode cX11_init 4 = .ok (.aload_n 0, 1) := dk_42 (dk_at dksX11_init_0 4 rfl rfl)
theorem dX11_init_5 : decode cX11_init 5 = .ok (.iload_n 1, 1) := dk_27 (dk_at dksX11_init_0 5 rfl rfl)
theorem dX11_init_6 : decode cX11_init 6 = .ok (.putfield 7, 3) := dk_181 0 7 (dk_at dksX11_init_0 6 rfl rfl)
theorem dX11_init_9 : decode cX11_init 9 = .ok (.return_, 1) := dk_177 (dk_at dksX11_init_0 9 rfl rfl)
theorem q147 : (Jvm.Cond.initialized "RoseThrow$Number") ∈ lw_all := lw_g (lw_at lw_m1 22 rfl) rfl
theorem q495 : (Jvm.Cond.selects "RoseThrow$Number" ({ cls := "java/lang/Object", name := "getClass", desc := "()Ljava/lang/Class;" } : Jvm.MethodName) ({ cls := "java/lang/Object", name := "getClass", desc := "()Ljava/lang/Class;" } : Jvm.MethodName)) ∈ lw_all := lw_g (lw_at lw_m2 130 rfl) rfl
theorem q624 : (Jvm.Cond.selects "RoseThrow$Number" ({ cls := "RoseThrow$Sum", name := "of", desc := "(LRoseThrow$Setting;)J" } : Jvm.MethodName) ({ cls := "RoseThrow$Number", name := "of", desc := "(LRoseThrow$Setting;)J" } : Jvm.MethodName)) ∈ lw_all := lw_g (lw_at lw_m3 19 rfl) rfl
theorem q625 : (Jvm.Cond.instanceMethod ({ cls := "RoseThrow$Number", name := "of", desc := "(LRoseThrow$Setting;)J" } : Jvm.MethodName)) ∈ lw_all := lw_g (lw_at lw_m3 20 rfl) rfl
theorem q626 : (Jvm.Cond.code ({ cls := "RoseThrow$Number", name := "of", desc := "(LRoseThrow$Setting;)J" } : Jvm.MethodName) prog_10_method_2_code (2 : Nat) (Option.some Jvm.ClassFile.FieldType.long)) ∈ lw_all := lw_g (lw_at lw_m3 21 rfl) rfl
theorem q911 : (Jvm.Cond.instantiable "RoseThrow$Number" (1 : Nat)) ∈ lw_all := lw_g (lw_at lw_m4 66 rfl) rfl
theorem q919 : (Jvm.Cond.instanceMethod ({ cls := "RoseThrow$Number", name := "<init>", desc := "(I)V" } : Jvm.MethodName)) ∈ lw_all := lw_g (lw_at lw_m4 74 rfl) rfl
theorem q920 : (Jvm.Cond.code ({ cls := "RoseThrow$Number", name := "<init>", desc := "(I)V" } : Jvm.MethodName) prog_10_method_1_code (2 : Nat) (Option.none : Option Jvm.ClassFile.FieldType)) ∈ lw_all := lw_g (lw_at lw_m4 75 rfl) rfl
theorem q921 : (Jvm.Cond.methodLinkNest "RoseThrow$Number" (1 : Nat) ({ cls := "RoseThrow$Sum", name := "<init>", desc := "()V" } : Jvm.MethodName) "RoseThrow") ∈ lw_tbl := lw_at lw_m4 76 rfl
theorem q925 : (Jvm.Cond.fieldLink "RoseThrow$Number" (7 : Nat) "RoseThrow$Number" "number" "I") ∈ lw_all := lw_g (lw_at lw_m4 80 rfl) rfl
theorem q926 : (Jvm.Cond.laysFinal "RoseThrow$Number" "RoseThrow$Number" "number" "I") ∈ lw_all := lw_g (lw_at lw_m4 81 rfl) rfl
theorem q927 : (Jvm.Cond.soleField "RoseThrow$Number" "number") ∈ lw_all := lw_g (lw_at lw_m4 82 rfl) rfl
theorem q928 : (Jvm.Cond.superclass "RoseThrow$Number" "RoseThrow$Sum") ∈ lw_all := lw_g (lw_at lw_m4 83 rfl) rfl
theorem q2275 : (Jvm.Cond.castable "RoseThrow$Number" "java/lang/Object") ∈ lw_tbl := lw_at lw_m9 230 rfl
theorem in_X11 : ∀ w ∈ wsX110, w ∈ lw_all := lw_in wsX110 [926] (by decide +kernel) (by decide +kernel)
/-! RoseThrow$Value -/
set_option maxRecDepth 100000
def RX12 : String := "RoseThrow$Value"
def TX12 : u_T := fun k => match k with
  | _ => ("RoseThrow$Value", "which", "I", true)
def tyX12 : Nat → FieldType := fun k => match k with
  | _ => .int
abbrev wsX120 : List Cond := u_ws RX12 TX12 1
theorem nmX12 : ∀ a, a < 1 → ∀ b, b < 1 → a ≠ b → (TX12 a).2.1 ≠ (TX12 b).2.1 := by decide +kernel
theorem tyX12_ok : ∀ k, k < 1 → parseFieldDescriptor (TX12 k).2.2.1 = some (tyX12 k) := by decide +kernel
abbrev cX12_of : ByteArray := prog_20_method_2_code
def yX12_of : MethodName := ⟨RX12, "of", "(LRoseThrow$Setting;)J"⟩
def dkwX12_of_0 : List UInt8 := [43, 180, 0, 13, 42, 180, 0, 7, 47, 173]
abbrev dktX12_of_0 : List UInt8 := dkwX12_of_0 ++ []
theorem dksX12_of_0 : cX12_of.data.toList.drop 0 = dktX12_of_0 := by decide +kernel
theorem dX12_of_0 : decode cX12_of 0 = .ok (.aload_n 1, 1) := dk_43 (dk_at dksX12_of_0 0 rfl rfl)
theorem dX12_of_1 : decode cX12_of 1 = .ok (.getfield 13, 3) := dk_180 0 13 (dk_at dksX12_of_0 1 rfl rfl)
theorem dX12_of_4 : decode cX12_of 4 = .ok (.aload_n 0, 1) := dk_42 (dk_at dksX12_of_0 4 rfl rfl)
theorem dX12_of_5 : decode cX12_of 5 = .ok (.getfield 7, 3) := dk_180 0 7 (dk_at dksX12_of_0 5 rfl rfl)
theorem dX12_of_8 : decode cX12_of 8 = .ok (.laload, 1) := dk_47 (dk_at dksX12_of_0 8 rfl rfl)
theorem dX12_of_9 : decode cX12_of 9 = .ok (.lreturn, 1) := dk_173 (dk_at dksX12_of_0 9 rfl rfl)
abbrev cX12_init : ByteArray := prog_20_method_1_code
def yX12_init : MethodName := ⟨RX12, "<init>", "(I)V"⟩
def dkwX12_init_0 : List UInt8 := [42, 183, 0, 1, 42, 27, 181, 0, 7, 177]
abbrev dktX12_init_0 : List UInt8 := dkwX12_init_0 ++ []
theorem dksX12_init_0 : cX12_init.data.toList.drop 0 = dktX12_init_0 := by decide +kernel
theorem dX12_init_0 : decode cX12_init 0 = .ok (.aload_n 0, 1) := dk_42 (dk_at dksX12_init_0 0 rfl rfl)
theorem dX12_init_1 : decode cX12_init 1 = .ok (.invokespecial 1, 3) := dk_183 0 1 (dk_at dksX12_init_0 1 rfl rfl)
theorem dX12_init_4 : decode cX12_init 4 = .ok (.aload_n 0, 1) := dk_42 (dk_at dksX12_init_0 4 rfl rfl)
theorem dX12_init_5 : decode cX12_init 5 = .ok (.iload_n 1, 1) := dk_27 (dk_at dksX12_init_0 5 rfl rfl)
theorem dX12_init_6 : decode cX12_init 6 = .ok (.putfield 7, 3) := dk_181 0 7 (dk_at dksX12_init_0 6 rfl rfl)
theorem dX12_init_9 : decode cX12_init 9 = .ok (.return_, 1) := dk_177 (dk_at dksX12_init_0 9 rfl rfl)
theorem q148 : (Jvm.Cond.initialized "RoseThrow$Value") ∈ lw_all := lw_g (lw_at lw_m1 23 rfl) rfl
theorem q321 : (Jvm.Cond.fieldLinkNest "RoseThrow$Value" (13 : Nat) "RoseThrow$Setting" "values" "[J" "RoseThrow") ∈ lw_tbl := lw_at lw_m1 196 rfl
theorem q502 : (Jvm.Cond.selects "RoseThrow$Value" ({ cls := "java/lang/Object", name := "getClass", desc := "()Ljava/lang/Class;" } : Jvm.MethodName) ({ cls := "java/lang/Object", name := "getClass", desc := "()Ljava/lang/Class;" } : Jvm.MethodName)) ∈ lw_all := lw_g (lw_at lw_m2 137 rfl) rfl
theorem q631 : (Jvm.Cond.instanceMethod ({ cls := "RoseThrow$Value", name := "of", desc := "(LRoseThrow$Setting;)J" } : Jvm.MethodName)) ∈ lw_all := lw_g (lw_at lw_m3 26 rfl) rfl
theorem q632 : (Jvm.Cond.code ({ cls := "RoseThrow$Value", name := "of", desc := "(LRoseThrow$Setting;)J" } : Jvm.MethodName) prog_20_method_2_code (2 : Nat) (Option.some Jvm.ClassFile.FieldType.long)) ∈ lw_all := lw_g (lw_at lw_m3 27 rfl) rfl
theorem q635 : (Jvm.Cond.selects "RoseThrow$Value" ({ cls := "RoseThrow$Sum", name := "of", desc := "(LRoseThrow$Setting;)J" } : Jvm.MethodName) ({ cls := "RoseThrow$Value", name := "of", desc := "(LRoseThrow$Setting;)J" } : Jvm.MethodName)) ∈ lw_all := lw_g (lw_at lw_m3 30 rfl) rfl
theorem q971 : (Jvm.Cond.instantiable "RoseThrow$Value" (1 : Nat)) ∈ lw_all := lw_g (lw_at lw_m4 126 rfl) rfl
theorem q973 : (Jvm.Cond.instanceMethod ({ cls := "RoseThrow$Value", name := "<init>", desc := "(I)V" } : Jvm.MethodName)) ∈ lw_all := lw_g (lw_at lw_m4 128 rfl) rfl
theorem q974 : (Jvm.Cond.code ({ cls := "RoseThrow$Value", name := "<init>", desc := "(I)V" } : Jvm.MethodName) prog_20_method_1_code (2 : Nat) (Option.none : Option Jvm.ClassFile.FieldType)) ∈ lw_all := lw_g (lw_at lw_m4 129 rfl) rfl
theorem q975 : (Jvm.Cond.methodLinkNest "RoseThrow$Value" (1 : Nat) ({ cls := "RoseThrow$Sum", name := "<init>", desc := "()V" } : Jvm.MethodName) "RoseThrow") ∈ lw_tbl := lw_at lw_m4 130 rfl
theorem q976 : (Jvm.Cond.fieldLink "RoseThrow$Value" (7 : Nat) "RoseThrow$Value" "which" "I") ∈ lw_all := lw_g (lw_at lw_m4 131 rfl) rfl
theorem q977 : (Jvm.Cond.laysFinal "RoseThrow$Value" "RoseThrow$Value" "which" "I") ∈ lw_all := lw_g (lw_at lw_m4 132 rfl) rfl
theorem q978 : (Jvm.Cond.soleField "RoseThrow$Value" "which") ∈ lw_all := lw_g (lw_at lw_m4 133 rfl) rfl
theorem q979 : (Jvm.Cond.superclass "RoseThrow$Value" "RoseThrow$Sum") ∈ lw_all := lw_g (lw_at lw_m4 134 rfl) rfl
theorem q2276 : (Jvm.Cond.castable "RoseThrow$Value" "java/lang/Object") ∈ lw_tbl := lw_at lw_m9 231 rfl
theorem in_X12 : ∀ w ∈ wsX120, w ∈ lw_all := lw_in wsX120 [977] (by decide +kernel) (by decide +kernel)
/-! RoseThrow$Two -/
set_option maxRecDepth 100000
def RX13 : String := "RoseThrow$Two"
def TX13 : u_T := fun k => match k with
  | 0 => ("RoseThrow$Two", "sign", "C", true)
  | 1 => ("RoseThrow$Two", "left", "LRoseThrow$Sum;", true)
  | _ => ("RoseThrow$Two", "right", "LRoseThrow$Sum;", true)
def tyX13 : Nat → FieldType := fun k => match k with
  | 0 => .char
  | 1 => .object "RoseThrow$Sum"
  | _ => .object "RoseThrow$Sum"
abbrev wsX130 : List Cond := u_ws RX13 TX13 3
theorem nmX13 : ∀ a, a < 3 → ∀ b, b < 3 → a ≠ b → (TX13 a).2.1 ≠ (TX13 b).2.1 := by decide +kernel
theorem tyX13_ok : ∀ k, k < 3 → parseFieldDescriptor (TX13 k).2.2.1 = some (tyX13 k) := by decide +kernel
abbrev cX13_of : ByteArray := prog_19_method_2_code
def yX13_of : MethodName := ⟨RX13, "of", "(LRoseThrow$Setting;)J"⟩
def dkwX13_of_6 : List UInt8 := [191, 22, 6, 173]
abbrev dktX13_of_6 : List UInt8 := dkwX13_of_6 ++ []
def dkwX13_of_5 : List UInt8 := [55, 6, 22, 6, 20, 0, 32, 148, 157, 0, 12, 22, 6, 20, 0, 34, 148, 156, 0, 8, 43, 180, 0, 26]
abbrev dktX13_of_5 : List UInt8 := dkwX13_of_5 ++ dktX13_of_6
def dkwX13_of_4 : List UInt8 := [105, 167, 0, 23, 42, 180, 0, 9, 16, 47, 160, 0, 10, 32, 22, 4, 109, 167, 0, 7, 32, 22, 4, 113]
abbrev dktX13_of_4 : List UInt8 := dkwX13_of_4 ++ dktX13_of_5
def dkwX13_of_3 : List UInt8 := [16, 45, 160, 0, 10, 32, 22, 4, 101, 167, 0, 39, 42, 180, 0, 9, 16, 42, 160, 0, 10, 32, 22, 4]
abbrev dktX13_of_3 : List UInt8 := dkwX13_of_3 ++ dktX13_of_4
def dkwX13_of_2 : List UInt8 := [180, 0, 26, 191, 42, 180, 0, 9, 16, 43, 160, 0, 10, 32, 22, 4, 97, 167, 0, 55, 42, 180, 0, 9]
abbrev dktX13_of_2 : List UInt8 := dkwX13_of_2 ++ dktX13_of_3
def dkwX13_of_1 : List UInt8 := [16, 47, 159, 0, 12, 42, 180, 0, 9, 16, 37, 160, 0, 15, 22, 4, 9, 148, 154, 0, 8, 43]
abbrev dktX13_of_1 : List UInt8 := dkwX13_of_1 ++ dktX13_of_2
def dkwX13_of_0 : List UInt8 := [42, 180, 0, 15, 43, 182, 0, 22, 65, 42, 180, 0, 19, 43, 182, 0, 22, 55, 4, 42, 180, 0, 9]
abbrev dktX13_of_0 : List UInt8 := dkwX13_of_0 ++ dktX13_of_1
theorem dksX13_of_0 : cX13_of.data.toList.drop 0 = dktX13_of_0 := by decide +kernel
theorem dksX13_of_1 : cX13_of.data.toList.drop 23 = dktX13_of_1 := dk_seg dksX13_of_0 23 rfl rfl
theorem dksX13_of_2 : cX13_of.data.toList.drop 45 = dktX13_of_2 := dk_seg dksX13_of_1 22 rfl rfl
theorem dksX13_of_3 : cX13_of.data.toList.drop 69 = dktX13_of_3 := dk_seg dksX13_of_2 24 rfl rfl
theorem dksX13_of_4 : cX13_of.data.toList.drop 93 = dktX13_of_4 := dk_seg dksX13_of_3 24 rfl rfl
theorem dksX13_of_5 : cX13_of.data.toList.drop 117 = dktX13_of_5 := dk_seg dksX13_of_4 24 rfl rfl
theorem dksX13_of_6 : cX13_of.data.toList.drop 141 = dktX13_of_6 := dk_seg dksX13_of_5 24 rfl rfl
theorem dX13_of_0 : decode cX13_of 0 = .ok (.aload_n 0, 1) := dk_42 (dk_at dksX13_of_0 0 rfl rfl)
theorem dX13_of_1 : decode cX13_of 1 = .ok (.getfield 15, 3) := dk_180 0 15 (dk_at dksX13_of_0 1 rfl rfl)
theorem dX13_of_4 : decode cX13_of 4 = .ok (.aload_n 1, 1) := dk_43 (dk_at dksX13_of_0 4 rfl rfl)
theorem dX13_of_5 : decode cX13_of 5 = .ok (.invokevirtual 22, 3) := dk_182 0 22 (dk_at dksX13_of_0 5 rfl rfl)
theorem dX13_of_8 : decode cX13_of 8 = .ok (.lstore_n 2, 1) := dk_65 (dk_at dksX13_of_0 8 rfl rfl)
theorem dX13_of_9 : decode cX13_of 9 = .ok (.aload_n 0, 1) := dk_42 (dk_at dksX13_of_0 9 rfl rfl)
theorem dX13_of_10 : decode cX13_of 10 = .ok (.getfield 19, 3) := dk_180 0 19 (dk_at dksX13_of_0 10 rfl rfl)
theorem dX13_of_13 : decode cX13_of 13 = .ok (.aload_n 1, 1) := dk_43 (dk_at dksX13_of_0 13 rfl rfl)
theorem dX13_of_14 : decode cX13_of 14 = .ok (.invokevirtual 22, 3) := dk_182 0 22 (dk_at dksX13_of_0 14 rfl rfl)
theorem dX13_of_17 : decode cX13_of 17 = .ok (.lstore 4, 2) := dk_55 4 (dk_at dksX13_of_0 17 rfl rfl)
theorem dX13_of_19 : decode cX13_of 19 = .ok (.aload_n 0, 1) := dk_42 (dk_at dksX13_of_0 19 rfl rfl)
theorem dX13_of_20 : decode cX13_of 20 = .ok (.getfield 9, 3) := dk_180 0 9 (dk_at dksX13_of_0 20 rfl rfl)
theorem dX13_of_23 : decode cX13_of 23 = .ok (.bipush 47, 2) := dk_16 47 (dk_at dksX13_of_1 0 rfl rfl)
theorem dX13_of_25 : decode cX13_of 25 = .ok (.if_icmp .eq 12, 3) := dk_159 0 12 (dk_at dksX13_of_1 2 rfl rfl)
theorem dX13_of_28 : decode cX13_of 28 = .ok (.aload_n 0, 1) := dk_42 (dk_at dksX13_of_1 5 rfl rfl)
theorem dX13_of_29 : decode cX13_of 29 = .ok (.getfield 9, 3) := dk_180 0 9 (dk_at dksX13_of_1 6 rfl rfl)
theorem dX13_of_32 : decode cX13_of 32 = .ok (.bipush 37, 2) := dk_16 37 (dk_at dksX13_of_1 9 rfl rfl)
theorem dX13_of_34 : decode cX13_of 34 = .ok (.if_icmp .ne 15, 3) := dk_160 0 15 (dk_at dksX13_of_1 11 rfl rfl)
theorem dX13_of_37 : decode cX13_of 37 = .ok (.lload 4, 2) := dk_22 4 (dk_at dksX13_of_1 14 rfl rfl)
theorem dX13_of_39 : decode cX13_of 39 = .ok (.lconst 0, 1) := dk_9 (dk_at dksX13_of_1 16 rfl rfl)
theorem dX13_of_40 : decode cX13_of 40 = .ok (.lcmp, 1) := dk_148 (dk_at dksX13_of_1 17 rfl rfl)
theorem dX13_of_41 : decode cX13_of 41 = .ok (.ifCond .ne 8, 3) := dk_154 0 8 (dk_at dksX13_of_1 18 rfl rfl)
theorem dX13_of_44 : decode cX13_of 44 = .ok (.aload_n 1, 1) := dk_43 (dk_at dksX13_of_1 21 rfl rfl)
theorem dX13_of_45 : decode cX13_of 45 = .ok (.getfield 26, 3) := dk_180 0 26 (dk_at dksX13_of_2 0 rfl rfl)
theorem dX13_of_48 : decode cX13_of 48 = .ok (.athrow, 1) := dk_191 (dk_at dksX13_of_2 3 rfl rfl)
theorem dX13_of_49 : decode cX13_of 49 = .ok (.aload_n 0, 1) := dk_42 (dk_at dksX13_of_2 4 rfl rfl)
theorem dX13_of_50 : decode cX13_of 50 = .ok (.getfield 9, 3) := dk_180 0 9 (dk_at dksX13_of_2 5 rfl rfl)
theorem dX13_of_53 : decode cX13_of 53 = .ok (.bipush 43, 2) := dk_16 43 (dk_at dksX13_of_2 8 rfl rfl)
theorem dX13_of_55 : decode cX13_of 55 = .ok (.if_icmp .ne 10, 3) := dk_160 0 10 (dk_at dksX13_of_2 10 rfl rfl)
theorem dX13_of_58 : decode cX13_of 58 = .ok (.lload_n 2, 1) := dk_32 (dk_at dksX13_of_2 13 rfl rfl)
theorem dX13_of_59 : decode cX13_of 59 = .ok (.lload 4, 2) := dk_22 4 (dk_at dksX13_of_2 14 rfl rfl)
theorem dX13_of_61 : decode cX13_of 61 = .ok (.ladd, 1) := dk_97 (dk_at dksX13_of_2 16 rfl rfl)
theorem dX13_of_62 : decode cX13_of 62 = .ok (.goto 55, 3) := dk_167 0 55 (dk_at dksX13_of_2 17 rfl rfl)
theorem dX13_of_65 : decode cX13_of 65 = .ok (.aload_n 0, 1) := dk_42 (dk_at dksX13_of_2 20 rfl rfl)
theorem dX13_of_66 : decode cX13_of 66 = .ok (.getfield 9, 3) := dk_180 0 9 (dk_at dksX13_of_2 21 rfl rfl)
theorem dX13_of_69 : decode cX13_of 69 = .ok (.bipush 45, 2) := dk_16 45 (dk_at dksX13_of_3 0 rfl rfl)
theorem dX13_of_71 : decode cX13_of 71 = .ok (.if_icmp .ne 10, 3) := dk_160 0 10 (dk_at dksX13_of_3 2 rfl rfl)
theorem dX13_of_74 : decode cX13_of 74 = .ok (.lload_n 2, 1) := dk_32 (dk_at dksX13_of_3 5 rfl rfl)
theorem dX13_of_75 : decode cX13_of 75 = .ok (.lload 4, 2) := dk_22 4 (dk_at dksX13_of_3 6 rfl rfl)
theorem dX13_of_77 : decode cX13_of 77 = .ok (.lsub, 1) := dk_101 (dk_at dksX13_of_3 8 rfl rfl)
theorem dX13_of_78 : decode cX13_of 78 = .ok (.goto 39, 3) := dk_167 0 39 (dk_at dksX13_of_3 9 rfl rfl)
theorem dX13_of_81 : decode cX13_of 81 = .ok (.aload_n 0, 1) := dk_42 (dk_at dksX13_of_3 12 rfl rfl)
theorem dX13_of_82 : decode cX13_of 82 = .ok (.getfield 9, 3) := dk_180 0 9 (dk_at dksX13_of_3 13 rfl rfl)
theorem dX13_of_85 : decode cX13_of 85 = .ok (.bipush 42, 2) := dk_16 42 (dk_at dksX13_of_3 16 rfl rfl)
theorem dX13_of_87 : decode cX13_of 87 = .ok (.if_icmp .ne 10, 3) := dk_160 0 10 (dk_at dksX13_of_3 18 rfl rfl)
theorem dX13_of_90 : decode cX13_of 90 = .ok (.lload_n 2, 1) := dk_32 (dk_at dksX13_of_3 21 rfl rfl)
theorem dX13_of_91 : decode cX13_of 91 = .ok (.lload 4, 2) := dk_22 4 (dk_at dksX13_of_3 22 rfl rfl)
theorem dX13_of_93 : decode cX13_of 93 = .ok (.lmul, 1) := dk_105 (dk_at dksX13_of_4 0 rfl rfl)
theorem dX13_of_94 : decode cX13_of 94 = .ok (.goto 23, 3) := dk_167 0 23 (dk_at dksX13_of_4 1 rfl rfl)
theorem dX13_of_97 : decode cX13_of 97 = .ok (.aload_n 0, 1) := dk_42 (dk_at dksX13_of_4 4 rfl rfl)
theorem dX13_of_98 : decode cX13_of 98 = .ok (.getfield 9, 3) := dk_180 0 9 (dk_at dksX13_of_4 5 rfl rfl)
theorem dX13_of_101 : decode cX13_of 101 = .ok (.bipush 47, 2) := dk_16 47 (dk_at dksX13_of_4 8 rfl rfl)
theorem dX13_of_103 : decode cX13_of 103 = .ok (.if_icmp .ne 10, 3) := dk_160 0 10 (dk_at dksX13_of_4 10 rfl rfl)
theorem dX13_of_106 : decode cX13_of 106 = .ok (.lload_n 2, 1) := dk_32 (dk_at dksX13_of_4 13 rfl rfl)
theorem dX13_of_107 : decode cX13_of 107 = .ok (.lload 4, 2) := dk_22 4 (dk_at dksX13_of_4 14 rfl rfl)
theorem dX13_of_109 : decode cX13_of 109 = .ok (.ldiv, 1) := dk_109 (dk_at dksX13_of_4 16 rfl rfl)
theorem dX13_of_110 : decode cX13_of 110 = .ok (.goto 7, 3) := dk_167 0 7 (dk_at dksX13_of_4 17 rfl rfl)
theorem dX13_of_113 : decode cX13_of 113 = .ok (.lload_n 2, 1) := dk_32 (dk_at dksX13_of_4 20 rfl rfl)
theorem dX13_of_114 : decode cX13_of 114 = .ok (.lload 4, 2) := dk_22 4 (dk_at dksX13_of_4 21 rfl rfl)
theorem dX13_of_116 : decode cX13_of 116 = .ok (.lrem, 1) := dk_113 (dk_at dksX13_of_4 23 rfl rfl)
theorem dX13_of_117 : decode cX13_of 117 = .ok (.lstore 6, 2) := dk_55 6 (dk_at dksX13_of_5 0 rfl rfl)
theorem dX13_of_119 : decode cX13_of 119 = .ok (.lload 6, 2) := dk_22 6 (dk_at dksX13_of_5 2 rfl rfl)
theorem dX13_of_121 : decode cX13_of 121 = .ok (.ldc2_w 32, 3) := dk_20 0 32 (dk_at dksX13_of_5 4 rfl rfl)
theorem dX13_of_124 : decode cX13_of 124 = .ok (.lcmp, 1) := dk_148 (dk_at dksX13_of_5 7 rfl rfl)
theorem dX13_of_125 : decode cX13_of 125 = .ok (.ifCond .gt 12, 3) := dk_157 0 12 (dk_at dksX13_of_5 8 rfl rfl)
theorem dX13_of_128 : decode cX13_of 128 = .ok (.lload 6, 2) := dk_22 6 (dk_at dksX13_of_5 11 rfl rfl)
theorem dX13_of_130 : decode cX13_of 130 = .ok (.ldc2_w 34, 3) := dk_20 0 34 (dk_at dksX13_of_5 13 rfl rfl)
theorem dX13_of_133 : decode cX13_of 133 = .ok (.lcmp, 1) := dk_148 (dk_at dksX13_of_5 16 rfl rfl)
theorem dX13_of_134 : decode cX13_of 134 = .ok (.ifCond .ge 8, 3) := dk_156 0 8 (dk_at dksX13_of_5 17 rfl rfl)
theorem dX13_of_137 : decode cX13_of 137 = .ok (.aload_n 1, 1) := dk_43 (dk_at dksX13_of_5 20 rfl rfl)
theorem dX13_of_138 : decode cX13_of 138 = .ok (.getfield 26, 3) := dk_180 0 26 (dk_at dksX13_of_5 21 rfl rfl)
theorem dX13_of_141 : decode cX13_of 141 = .ok (.athrow, 1) := dk_191 (dk_at dksX13_of_6 0 rfl rfl)
theorem dX13_of_142 : decode cX13_of 142 = .ok (.lload 6, 2) := dk_22 6 (dk_at dksX13_of_6 1 rfl rfl)
theorem dX13_of_144 : decode cX13_of 144 = .ok (.lreturn, 1) := dk_173 (dk_at dksX13_of_6 3 rfl rfl)
abbrev cX13_init : ByteArray := prog_19_method_1_code
def yX13_init : MethodName := ⟨RX13, "<init>", "(CLRoseThrow$Sum;LRoseThrow$Sum;)V"⟩
def dkwX13_init_0 : List UInt8 := [42, 183, 0, 3, 42, 27, 181, 0, 9, 42, 44, 181, 0, 15, 42, 45, 181, 0, 19, 177]
abbrev dktX13_init_0 : List UInt8 := dkwX13_init_0 ++ []
theorem dksX13_init_0 : cX13_init.data.toList.drop 0 = dktX13_init_0 := by decide +kernel
theorem dX13_init_0 : decode cX13_init 0 = .ok (.aload_n 0, 1) := dk_42 (dk_at dksX13_init_0 0 rfl rfl)
theorem dX13_init_1 : decode cX13_init 1 = .ok (.invokespecial 3, 3) := dk_183 0 3 (dk_at dksX13_init_0 1 rfl rfl)
theorem dX13_init_4 : decode cX13_init 4 = .ok (.aload_n 0, 1) := dk_42 (dk_at dksX13_init_0 4 rfl rfl)
theorem dX13_init_5 : decode cX13_init 5 = .ok (.iload_n 1, 1) := dk_27 (dk_at dksX13_init_0 5 rfl rfl)
theorem dX13_init_6 : decode cX13_init 6 = .ok (.putfield 9, 3) := dk_181 0 9 (dk_at dksX13_init_0 6 rfl rfl)
theorem dX13_init_9 : decode cX13_init 9 = .ok (.aload_n 0, 1) := dk_42 (dk_at dksX13_init_0 9 rfl rfl)
theorem dX13_init_10 : decode cX13_init 10 = .ok (.aload_n 2, 1) := dk_44 (dk_at dksX13_init_0 10 rfl rfl)
theorem dX13_init_11 : decode cX13_init 11 = .ok (.putfield 15, 3) := dk_181 0 15 (dk_at dksX13_init_0 11 rfl rfl)
theorem dX13_init_14 : decode cX13_init 14 = .ok (.aload_n 0, 1) := dk_42 (dk_at dksX13_init_0 14 rfl rfl)
theorem dX13_init_15 : decode cX13_init 15 = .ok (.aload_n 3, 1) := dk_45 (dk_at dksX13_init_0 15 rfl rfl)
theorem dX13_init_16 : decode cX13_init 16 = .ok (.putfield 19, 3) := dk_181 0 19 (dk_at dksX13_init_0 16 rfl rfl)
theorem dX13_init_19 : decode cX13_init 19 = .ok (.return_, 1) := dk_177 (dk_at dksX13_init_0 19 rfl rfl)
theorem q149 : (Jvm.Cond.initialized "RoseThrow$Two") ∈ lw_all := lw_g (lw_at lw_m1 24 rfl) rfl
theorem q319 : (Jvm.Cond.fieldLinkNest "RoseThrow$Two" (26 : Nat) "RoseThrow$Setting" "broken" "LRoseThrow$Broken;" "RoseThrow") ∈ lw_tbl := lw_at lw_m1 194 rfl
theorem q501 : (Jvm.Cond.selects "RoseThrow$Two" ({ cls := "java/lang/Object", name := "getClass", desc := "()Ljava/lang/Class;" } : Jvm.MethodName) ({ cls := "java/lang/Object", name := "getClass", desc := "()Ljava/lang/Class;" } : Jvm.MethodName)) ∈ lw_all := lw_g (lw_at lw_m2 136 rfl) rfl
theorem q627 : (Jvm.Cond.selects "RoseThrow$Two" ({ cls := "RoseThrow$Sum", name := "of", desc := "(LRoseThrow$Setting;)J" } : Jvm.MethodName) ({ cls := "RoseThrow$Two", name := "of", desc := "(LRoseThrow$Setting;)J" } : Jvm.MethodName)) ∈ lw_all := lw_g (lw_at lw_m3 22 rfl) rfl
theorem q628 : (Jvm.Cond.instanceMethod ({ cls := "RoseThrow$Two", name := "of", desc := "(LRoseThrow$Setting;)J" } : Jvm.MethodName)) ∈ lw_all := lw_g (lw_at lw_m3 23 rfl) rfl
theorem q629 : (Jvm.Cond.code ({ cls := "RoseThrow$Two", name := "of", desc := "(LRoseThrow$Setting;)J" } : Jvm.MethodName) prog_19_method_2_code (8 : Nat) (Option.some Jvm.ClassFile.FieldType.long)) ∈ lw_all := lw_g (lw_at lw_m3 24 rfl) rfl
theorem q630 : (Jvm.Cond.methodLink "RoseThrow$Two" (22 : Nat) ({ cls := "RoseThrow$Sum", name := "of", desc := "(LRoseThrow$Setting;)J" } : Jvm.MethodName)) ∈ lw_all := lw_g (lw_at lw_m3 25 rfl) rfl
theorem q633 : (Jvm.Cond.constantLong "RoseThrow$Two" (32 : Nat) (1000000000 : Int64)) ∈ lw_all := lw_g (lw_at lw_m3 28 rfl) rfl
theorem q634 : (Jvm.Cond.constantLong "RoseThrow$Two" (34 : Nat) (-1000000000 : Int64)) ∈ lw_all := lw_g (lw_at lw_m3 29 rfl) rfl
theorem q984 : (Jvm.Cond.instantiable "RoseThrow$Two" (3 : Nat)) ∈ lw_all := lw_g (lw_at lw_m4 139 rfl) rfl
theorem q986 : (Jvm.Cond.instanceMethod ({ cls := "RoseThrow$Two", name := "<init>", desc := "(CLRoseThrow$Sum;LRoseThrow$Sum;)V" } : Jvm.MethodName)) ∈ lw_all := lw_g (lw_at lw_m4 141 rfl) rfl
theorem q987 : (Jvm.Cond.code ({ cls := "RoseThrow$Two", name := "<init>", desc := "(CLRoseThrow$Sum;LRoseThrow$Sum;)V" } : Jvm.MethodName) prog_19_method_1_code (4 : Nat) (Option.none : Option Jvm.ClassFile.FieldType)) ∈ lw_all := lw_g (lw_at lw_m4 142 rfl) rfl
theorem q988 : (Jvm.Cond.methodLinkNest "RoseThrow$Two" (3 : Nat) ({ cls := "RoseThrow$Sum", name := "<init>", desc := "()V" } : Jvm.MethodName) "RoseThrow") ∈ lw_tbl := lw_at lw_m4 143 rfl
theorem q989 : (Jvm.Cond.fieldLink "RoseThrow$Two" (9 : Nat) "RoseThrow$Two" "sign" "C") ∈ lw_all := lw_g (lw_at lw_m4 144 rfl) rfl
theorem q990 : (Jvm.Cond.fieldLink "RoseThrow$Two" (15 : Nat) "RoseThrow$Two" "left" "LRoseThrow$Sum;") ∈ lw_all := lw_g (lw_at lw_m4 145 rfl) rfl
theorem q991 : (Jvm.Cond.fieldLink "RoseThrow$Two" (19 : Nat) "RoseThrow$Two" "right" "LRoseThrow$Sum;") ∈ lw_all := lw_g (lw_at lw_m4 146 rfl) rfl
theorem q992 : (Jvm.Cond.laysFinal "RoseThrow$Two" "RoseThrow$Two" "sign" "C") ∈ lw_all := lw_g (lw_at lw_m4 147 rfl) rfl
theorem q993 : (Jvm.Cond.soleField "RoseThrow$Two" "sign") ∈ lw_all := lw_g (lw_at lw_m4 148 rfl) rfl
theorem q994 : (Jvm.Cond.laysFinal "RoseThrow$Two" "RoseThrow$Two" "left" "LRoseThrow$Sum;") ∈ lw_all := lw_g (lw_at lw_m4 149 rfl) rfl
theorem q995 : (Jvm.Cond.soleField "RoseThrow$Two" "left") ∈ lw_all := lw_g (lw_at lw_m4 150 rfl) rfl
theorem q996 : (Jvm.Cond.laysFinal "RoseThrow$Two" "RoseThrow$Two" "right" "LRoseThrow$Sum;") ∈ lw_all := lw_g (lw_at lw_m4 151 rfl) rfl
theorem q997 : (Jvm.Cond.soleField "RoseThrow$Two" "right") ∈ lw_all := lw_g (lw_at lw_m4 152 rfl) rfl
theorem q998 : (Jvm.Cond.superclass "RoseThrow$Two" "RoseThrow$Sum") ∈ lw_all := lw_g (lw_at lw_m4 153 rfl) rfl
theorem q2277 : (Jvm.Cond.castable "RoseThrow$Two" "java/lang/Object") ∈ lw_tbl := lw_at lw_m9 232 rfl
theorem in_X13 : ∀ w ∈ wsX130, w ∈ lw_all := lw_in wsX130 [992, 994, 996] (by decide +kernel) (by decide +kernel)
/-! RoseThrow$Test -/
set_option maxRecDepth 100000
def RX14 : String := "RoseThrow$Test"
abbrev cX14_init : ByteArray := prog_18_method_1_code
def yX14_init : MethodName := ⟨RX14, "<init>", "()V"⟩
theorem dX14_init_0 : decode cX14_init 0 = .ok (.aload_n 0, 1) := by decide +kernel
theorem dX14_init_1 : decode cX14_init 1 = .ok (.invokespecial 1, 3) := by decide +kernel
theorem dX14_init_4 : decode cX14_init 4 = .ok (.return_, 1) := by decide +kernel
theorem q150 : (Jvm.Cond.initialized "RoseThrow$Test") ∈ lw_all := lw_g (lw_at lw_m1 25 rfl) rfl
theorem q616 : (Jvm.Cond.declares ({ cls := "RoseThrow$Test", name := "is", desc := "(LRoseThrow$Setting;)Z" } : Jvm.MethodName)) ∈ lw_tbl := lw_at lw_m3 11 rfl
theorem q617 : (Jvm.Cond.sameMethod "RoseThrow$Test" "RoseThrow$Test" "is" "(LRoseThrow$Setting;)Z") ∈ lw_all := lw_g (lw_at lw_m3 12 rfl) rfl
theorem q1043 : (Jvm.Cond.instanceMethod ({ cls := "RoseThrow$Test", name := "<init>", desc := "()V" } : Jvm.MethodName)) ∈ lw_all := lw_g (lw_at lw_m4 198 rfl) rfl
theorem q1044 : (Jvm.Cond.code ({ cls := "RoseThrow$Test", name := "<init>", desc := "()V" } : Jvm.MethodName) prog_18_method_1_code (1 : Nat) (Option.none : Option Jvm.ClassFile.FieldType)) ∈ lw_all := lw_g (lw_at lw_m4 199 rfl) rfl
theorem q1045 : (Jvm.Cond.methodLink "RoseThrow$Test" (1 : Nat) ({ cls := "java/lang/Object", name := "<init>", desc := "()V" } : Jvm.MethodName)) ∈ lw_all := lw_g (lw_at lw_m4 200 rfl) rfl
/-! RoseThrow$Compare -/
set_option maxRecDepth 100000
def RX15 : String := "RoseThrow$Compare"
def TX15 : u_T := fun k => match k with
  | 0 => ("RoseThrow$Compare", "sign", "C", true)
  | 1 => ("RoseThrow$Compare", "left", "LRoseThrow$Sum;", true)
  | _ => ("RoseThrow$Compare", "right", "LRoseThrow$Sum;", true)
def tyX15 : Nat → FieldType := fun k => match k with
  | 0 => .char
  | 1 => .object "RoseThrow$Sum"
  | _ => .object "RoseThrow$Sum"
abbrev wsX150 : List Cond := u_ws RX15 TX15 3
theorem nmX15 : ∀ a, a < 3 → ∀ b, b < 3 → a ≠ b → (TX15 a).2.1 ≠ (TX15 b).2.1 := by decide +kernel
theorem tyX15_ok : ∀ k, k < 3 → parseFieldDescriptor (TX15 k).2.2.1 = some (tyX15 k) := by decide +kernel
abbrev cX15_is : ByteArray := prog_4_method_2_code
def yX15_is : MethodName := ⟨RX15, "is", "(LRoseThrow$Setting;)Z"⟩
def dkwX15_is_3 : List UInt8 := [154, 0, 7, 4, 167, 0, 4, 3, 172]
abbrev dktX15_is_3 : List UInt8 := dkwX15_is_3 ++ []
def dkwX15_is_2 : List UInt8 := [16, 62, 160, 0, 18, 32, 22, 4, 148, 158, 0, 7, 4, 167, 0, 19, 3, 167, 0, 15, 32, 22, 4, 148]
abbrev dktX15_is_2 : List UInt8 := dkwX15_is_2 ++ dktX15_is_3
def dkwX15_is_1 : List UInt8 := [16, 60, 160, 0, 18, 32, 22, 4, 148, 156, 0, 7, 4, 167, 0, 43, 3, 167, 0, 39, 42, 180, 0, 7]
abbrev dktX15_is_1 : List UInt8 := dkwX15_is_1 ++ dktX15_is_2
def dkwX15_is_0 : List UInt8 := [42, 180, 0, 13, 43, 182, 0, 20, 65, 42, 180, 0, 17, 43, 182, 0, 20, 55, 4, 42, 180, 0, 7]
abbrev dktX15_is_0 : List UInt8 := dkwX15_is_0 ++ dktX15_is_1
theorem dksX15_is_0 : cX15_is.data.toList.drop 0 = dktX15_is_0 := by decide +kernel
theorem dksX15_is_1 : cX15_is.data.toList.drop 23 = dktX15_is_1 := dk_seg dksX15_is_0 23 rfl rfl
theorem dksX15_is_2 : cX15_is.data.toList.drop 47 = dktX15_is_2 := dk_seg dksX15_is_1 24 rfl rfl
theorem dksX15_is_3 : cX15_is.data.toList.drop 71 = dktX15_is_3 := dk_seg dksX15_is_2 24 rfl rfl
theorem dX15_is_0 : decode cX15_is 0 = .ok (.aload_n 0, 1) := dk_42 (dk_at dksX15_is_0 0 rfl rfl)
theorem dX15_is_1 : decode cX15_is 1 = .ok (.getfield 13, 3) := dk_180 0 13 (dk_at dksX15_is_0 1 rfl rfl)
theorem dX15_is_4 : decode cX15_is 4 = .ok (.aload_n 1, 1) := dk_43 (dk_at dksX15_is_0 4 rfl rfl)
theorem dX15_is_5 : decode cX15_is 5 = .ok (.invokevirtual 20, 3) := dk_182 0 20 (dk_at dksX15_is_0 5 rfl rfl)
theorem dX15_is_8 : decode cX15_is 8 = .ok (.lstore_n 2, 1) := dk_65 (dk_at dksX15_is_0 8 rfl rfl)
theorem dX15_is_9 : decode cX15_is 9 = .ok (.aload_n 0, 1) := dk_42 (dk_at dksX15_is_0 9 rfl rfl)
theorem dX15_is_10 : decode cX15_is 10 = .ok (.getfield 17, 3) := dk_180 0 17 (dk_at dksX15_is_0 10 rfl rfl)
theorem dX15_is_13 : decode cX15_is 13 = .ok (.aload_n 1, 1) := dk_43 (dk_at dksX15_is_0 13 rfl rfl)
theorem dX15_is_14 : decode cX15_is 14 = .ok (.invokevirtual 20, 3) := dk_182 0 20 (dk_at dksX15_is_0 14 rfl rfl)
theorem dX15_is_17 : decode cX15_is 17 = .ok (.lstore 4, 2) := dk_55 4 (dk_at dksX15_is_0 17 rfl rfl)
theorem dX15_is_19 : decode cX15_is 19 = .ok (.aload_n 0, 1) := dk_42 (dk_at dksX15_is_0 19 rfl rfl)
theorem dX15_is_20 : decode cX15_is 20 = .ok (.getfield 7, 3) := dk_180 0 7 (dk_at dksX15_is_0 20 rfl rfl)
theorem dX15_is_23 : decode cX15_is 23 = .ok (.bipush 60, 2) := dk_16 60 (dk_at dksX15_is_1 0 rfl rfl)
theorem dX15_is_25 : decode cX15_is 25 = .ok (.if_icmp .ne 18, 3) := dk_160 0 18 (dk_at dksX15_is_1 2 rfl rfl)
theorem dX15_is_28 : decode cX15_is 28 = .ok (.lload_n 2, 1) := dk_32 (dk_at dksX15_is_1 5 rfl rfl)
theorem dX15_is_29 : decode cX15_is 29 = .ok (.lload 4, 2) := dk_22 4 (dk_at dksX15_is_1 6 rfl rfl)
theorem dX15_is_31 : decode cX15_is 31 = .ok (.lcmp, 1) := dk_148 (dk_at dksX15_is_1 8 rfl rfl)
theorem dX15_is_32 : decode cX15_is 32 = .ok (.ifCond .ge 7, 3) := dk_156 0 7 (dk_at dksX15_is_1 9 rfl rfl)
theorem dX15_is_35 : decode cX15_is 35 = .ok (.iconst 1, 1) := dk_4 (dk_at dksX15_is_1 12 rfl rfl)
theorem dX15_is_36 : decode cX15_is 36 = .ok (.goto 43, 3) := dk_167 0 43 (dk_at dksX15_is_1 13 rfl rfl)
theorem dX15_is_39 : decode cX15_is 39 = .ok (.iconst 0, 1) := dk_3 (dk_at dksX15_is_1 16 rfl rfl)
theorem dX15_is_40 : decode cX15_is 40 = .ok (.goto 39, 3) := dk_167 0 39 (dk_at dksX15_is_1 17 rfl rfl)
theorem dX15_is_43 : decode cX15_is 43 = .ok (.aload_n 0, 1) := dk_42 (dk_at dksX15_is_1 20 rfl rfl)
theorem dX15_is_44 : decode cX15_is 44 = .ok (.getfield 7, 3) := dk_180 0 7 (dk_at dksX15_is_1 21 rfl rfl)
theorem dX15_is_47 : decode cX15_is 47 = .ok (.bipush 62, 2) := dk_16 62 (dk_at dksX15_is_2 0 rfl rfl)
theorem dX15_is_49 : decode cX15_is 49 = .ok (.if_icmp .ne 18, 3) := dk_160 0 18 (dk_at dksX15_is_2 2 rfl rfl)
theorem dX15_is_52 : decode cX15_is 52 = .ok (.lload_n 2, 1) := dk_32 (dk_at dksX15_is_2 5 rfl rfl)
theorem dX15_is_53 : decode cX15_is 53 = .ok (.lload 4, 2) := dk_22 4 (dk_at dksX15_is_2 6 rfl rfl)
theorem dX15_is_55 : decode cX15_is 55 = .ok (.lcmp, 1) := dk_148 (dk_at dksX15_is_2 8 rfl rfl)
theorem dX15_is_56 : decode cX15_is 56 = .ok (.ifCond .le 7, 3) := dk_158 0 7 (dk_at dksX15_is_2 9 rfl rfl)
theorem dX15_is_59 : decode cX15_is 59 = .ok (.iconst 1, 1) := dk_4 (dk_at dksX15_is_2 12 rfl rfl)
theorem dX15_is_60 : decode cX15_is 60 = .ok (.goto 19, 3) := dk_167 0 19 (dk_at dksX15_is_2 13 rfl rfl)
theorem dX15_is_63 : decode cX15_is 63 = .ok (.iconst 0, 1) := dk_3 (dk_at dksX15_is_2 16 rfl rfl)
theorem dX15_is_64 : decode cX15_is 64 = .ok (.goto 15, 3) := dk_167 0 15 (dk_at dksX15_is_2 17 rfl rfl)
theorem dX15_is_67 : decode cX15_is 67 = .ok (.lload_n 2, 1) := dk_32 (dk_at dksX15_is_2 20 rfl rfl)
theorem dX15_is_68 : decode cX15_is 68 = .ok (.lload 4, 2) := dk_22 4 (dk_at dksX15_is_2 21 rfl rfl)
theorem dX15_is_70 : decode cX15_is 70 = .ok (.lcmp, 1) := dk_148 (dk_at dksX15_is_2 23 rfl rfl)
theorem dX15_is_71 : decode cX15_is 71 = .ok (.ifCond .ne 7, 3) := dk_154 0 7 (dk_at dksX15_is_3 0 rfl rfl)
theorem dX15_is_74 : decode cX15_is 74 = .ok (.iconst 1, 1) := dk_4 (dk_at dksX15_is_3 3 rfl rfl)
theorem dX15_is_75 : decode cX15_is 75 = .ok (.goto 4, 3) := dk_167 0 4 (dk_at dksX15_is_3 4 rfl rfl)
theorem dX15_is_78 : decode cX15_is 78 = .ok (.iconst 0, 1) := dk_3 (dk_at dksX15_is_3 7 rfl rfl)
theorem dX15_is_79 : decode cX15_is 79 = .ok (.ireturn, 1) := dk_172 (dk_at dksX15_is_3 8 rfl rfl)
abbrev cX15_init : ByteArray := prog_4_method_1_code
def yX15_init : MethodName := ⟨RX15, "<init>", "(CLRoseThrow$Sum;LRoseThrow$Sum;)V"⟩
def dkwX15_init_0 : List UInt8 := [42, 183, 0, 1, 42, 27, 181, 0, 7, 42, 44, 181, 0, 13, 42, 45, 181, 0, 17, 177]
abbrev dktX15_init_0 : List UInt8 := dkwX15_init_0 ++ []
theorem dksX15_init_0 : cX15_init.data.toList.drop 0 = dktX15_init_0 := by decide +kernel
theorem dX15_init_0 : decode cX15_init 0 = .ok (.aload_n 0, 1) := dk_42 (dk_at dksX15_init_0 0 rfl rfl)
theorem dX15_init_1 : decode cX15_init 1 = .ok (.invokespecial 1, 3) := dk_183 0 1 (dk_at dksX15_init_0 1 rfl rfl)
theorem dX15_init_4 : decode cX15_init 4 = .ok (.aload_n 0, 1) := dk_42 (dk_at dksX15_init_0 4 rfl rfl)
theorem dX15_init_5 : decode cX15_init 5 = .ok (.iload_n 1, 1) := dk_27 (dk_at dksX15_init_0 5 rfl rfl)
theorem dX15_init_6 : decode cX15_init 6 = .ok (.putfield 7, 3) := dk_181 0 7 (dk_at dksX15_init_0 6 rfl rfl)
theorem dX15_init_9 : decode cX15_init 9 = .ok (.aload_n 0, 1) := dk_42 (dk_at dksX15_init_0 9 rfl rfl)
theorem dX15_init_10 : decode cX15_init 10 = .ok (.aload_n 2, 1) := dk_44 (dk_at dksX15_init_0 10 rfl rfl)
theorem dX15_init_11 : decode cX15_init 11 = .ok (.putfield 13, 3) := dk_181 0 13 (dk_at dksX15_init_0 11 rfl rfl)
theorem dX15_init_14 : decode cX15_init 14 = .ok (.aload_n 0, 1) := dk_42 (dk_at dksX15_init_0 14 rfl rfl)
theorem dX15_init_15 : decode cX15_init 15 = .ok (.aload_n 3, 1) := dk_45 (dk_at dksX15_init_0 15 rfl rfl)
theorem dX15_init_16 : decode cX15_init 16 = .ok (.putfield 17, 3) := dk_181 0 17 (dk_at dksX15_init_0 16 rfl rfl)
theorem dX15_init_19 : decode cX15_init 19 = .ok (.return_, 1) := dk_177 (dk_at dksX15_init_0 19 rfl rfl)
theorem q151 : (Jvm.Cond.initialized "RoseThrow$Compare") ∈ lw_all := lw_g (lw_at lw_m1 26 rfl) rfl
theorem q489 : (Jvm.Cond.selects "RoseThrow$Compare" ({ cls := "java/lang/Object", name := "getClass", desc := "()Ljava/lang/Class;" } : Jvm.MethodName) ({ cls := "java/lang/Object", name := "getClass", desc := "()Ljava/lang/Class;" } : Jvm.MethodName)) ∈ lw_all := lw_g (lw_at lw_m2 124 rfl) rfl
theorem q618 : (Jvm.Cond.selects "RoseThrow$Compare" ({ cls := "RoseThrow$Test", name := "is", desc := "(LRoseThrow$Setting;)Z" } : Jvm.MethodName) ({ cls := "RoseThrow$Compare", name := "is", desc := "(LRoseThrow$Setting;)Z" } : Jvm.MethodName)) ∈ lw_all := lw_g (lw_at lw_m3 13 rfl) rfl
theorem q619 : (Jvm.Cond.instanceMethod ({ cls := "RoseThrow$Compare", name := "is", desc := "(LRoseThrow$Setting;)Z" } : Jvm.MethodName)) ∈ lw_all := lw_g (lw_at lw_m3 14 rfl) rfl
theorem q620 : (Jvm.Cond.code ({ cls := "RoseThrow$Compare", name := "is", desc := "(LRoseThrow$Setting;)Z" } : Jvm.MethodName) prog_4_method_2_code (6 : Nat) (Option.some Jvm.ClassFile.FieldType.boolean)) ∈ lw_all := lw_g (lw_at lw_m3 15 rfl) rfl
theorem q621 : (Jvm.Cond.methodLink "RoseThrow$Compare" (20 : Nat) ({ cls := "RoseThrow$Sum", name := "of", desc := "(LRoseThrow$Setting;)J" } : Jvm.MethodName)) ∈ lw_all := lw_g (lw_at lw_m3 16 rfl) rfl
theorem q1038 : (Jvm.Cond.instantiable "RoseThrow$Compare" (3 : Nat)) ∈ lw_all := lw_g (lw_at lw_m4 193 rfl) rfl
theorem q1040 : (Jvm.Cond.instanceMethod ({ cls := "RoseThrow$Compare", name := "<init>", desc := "(CLRoseThrow$Sum;LRoseThrow$Sum;)V" } : Jvm.MethodName)) ∈ lw_all := lw_g (lw_at lw_m4 195 rfl) rfl
theorem q1041 : (Jvm.Cond.code ({ cls := "RoseThrow$Compare", name := "<init>", desc := "(CLRoseThrow$Sum;LRoseThrow$Sum;)V" } : Jvm.MethodName) prog_4_method_1_code (4 : Nat) (Option.none : Option Jvm.ClassFile.FieldType)) ∈ lw_all := lw_g (lw_at lw_m4 196 rfl) rfl
theorem q1042 : (Jvm.Cond.methodLinkNest "RoseThrow$Compare" (1 : Nat) ({ cls := "RoseThrow$Test", name := "<init>", desc := "()V" } : Jvm.MethodName) "RoseThrow") ∈ lw_tbl := lw_at lw_m4 197 rfl
theorem q1046 : (Jvm.Cond.fieldLink "RoseThrow$Compare" (7 : Nat) "RoseThrow$Compare" "sign" "C") ∈ lw_all := lw_g (lw_at lw_m4 201 rfl) rfl
theorem q1047 : (Jvm.Cond.fieldLink "RoseThrow$Compare" (13 : Nat) "RoseThrow$Compare" "left" "LRoseThrow$Sum;") ∈ lw_all := lw_g (lw_at lw_m4 202 rfl) rfl
theorem q1048 : (Jvm.Cond.fieldLink "RoseThrow$Compare" (17 : Nat) "RoseThrow$Compare" "right" "LRoseThrow$Sum;") ∈ lw_all := lw_g (lw_at lw_m4 203 rfl) rfl
theorem q1049 : (Jvm.Cond.laysFinal "RoseThrow$Compare" "RoseThrow$Compare" "sign" "C") ∈ lw_all := lw_g (lw_at lw_m4 204 rfl) rfl
theorem q1050 : (Jvm.Cond.soleField "RoseThrow$Compare" "sign") ∈ lw_all := lw_g (lw_at lw_m4 205 rfl) rfl
theorem q1051 : (Jvm.Cond.laysFinal "RoseThrow$Compare" "RoseThrow$Compare" "left" "LRoseThrow$Sum;") ∈ lw_all := lw_g (lw_at lw_m4 206 rfl) rfl
theorem q1052 : (Jvm.Cond.soleField "RoseThrow$Compare" "left") ∈ lw_all := lw_g (lw_at lw_m4 207 rfl) rfl
theorem q1053 : (Jvm.Cond.laysFinal "RoseThrow$Compare" "RoseThrow$Compare" "right" "LRoseThrow$Sum;") ∈ lw_all := lw_g (lw_at lw_m4 208 rfl) rfl
theorem q1054 : (Jvm.Cond.soleField "RoseThrow$Compare" "right") ∈ lw_all := lw_g (lw_at lw_m4 209 rfl) rfl
theorem q1055 : (Jvm.Cond.superclass "RoseThrow$Compare" "RoseThrow$Test") ∈ lw_all := lw_g (lw_at lw_m4 210 rfl) rfl
theorem q2262 : (Jvm.Cond.castable "RoseThrow$Compare" "RoseThrow$Test") ∈ lw_tbl := lw_at lw_m9 217 rfl
theorem q2278 : (Jvm.Cond.castable "RoseThrow$Compare" "java/lang/Object") ∈ lw_tbl := lw_at lw_m9 233 rfl
theorem in_X15 : ∀ w ∈ wsX150, w ∈ lw_all := lw_in wsX150 [1049, 1051, 1053] (by decide +kernel) (by decide +kernel)
/-! RoseThrow$Not -/
set_option maxRecDepth 100000
def RX16 : String := "RoseThrow$Not"
def TX16 : u_T := fun k => match k with
  | _ => ("RoseThrow$Not", "of", "LRoseThrow$Test;", true)
def tyX16 : Nat → FieldType := fun k => match k with
  | _ => .object "RoseThrow$Test"
abbrev wsX160 : List Cond := u_ws RX16 TX16 1
theorem nmX16 : ∀ a, a < 1 → ∀ b, b < 1 → a ≠ b → (TX16 a).2.1 ≠ (TX16 b).2.1 := by decide +kernel
theorem tyX16_ok : ∀ k, k < 1 → parseFieldDescriptor (TX16 k).2.2.1 = some (tyX16 k) := by decide +kernel
abbrev cX16_is : ByteArray := prog_9_method_2_code
def yX16_is : MethodName := ⟨RX16, "is", "(LRoseThrow$Setting;)Z"⟩
def dkwX16_is_0 : List UInt8 := [42, 180, 0, 7, 43, 182, 0, 13, 154, 0, 7, 4, 167, 0, 4, 3, 172]
abbrev dktX16_is_0 : List UInt8 := dkwX16_is_0 ++ []
theorem dksX16_is_0 : cX16_is.data.toList.drop 0 = dktX16_is_0 := by decide +kernel
theorem dX16_is_0 : decode cX16_is 0 = .ok (.aload_n 0, 1) := dk_42 (dk_at dksX16_is_0 0 rfl rfl)
theorem dX16_is_1 : decode cX16_is 1 = .ok (.getfield 7, 3) := dk_180 0 7 (dk_at dksX16_is_0 1 rfl rfl)
theorem dX16_is_4 : decode cX16_is 4 = .ok (.aload_n 1, 1) := dk_43 (dk_at dksX16_is_0 4 rfl rfl)
theorem dX16_is_5 : decode cX16_is 5 = .ok (.invokevirtual 13, 3) := dk_182 0 13 (dk_at dksX16_is_0 5 rfl rfl)
theorem dX16_is_8 : decode cX16_is 8 = .ok (.ifCond .ne 7, 3) := dk_154 0 7 (dk_at dksX16_is_0 8 rfl rfl)
theorem dX16_is_11 : decode cX16_is 11 = .ok (.iconst 1, 1) := dk_4 (dk_at dksX16_is_0 11 rfl rfl)
theorem dX16_is_12 : decode cX16_is 12 = .ok (.goto 4, 3) := dk_167 0 4 (dk_at dksX16_is_0 12 rfl rfl)
theorem dX16_is_15 : decode cX16_is 15 = .ok (.iconst 0, 1) := dk_3 (dk_at dksX16_is_0 15 rfl rfl)
theorem dX16_is_16 : decode cX16_is 16 = .ok (.ireturn, 1) := dk_172 (dk_at dksX16_is_0 16 rfl rfl)
abbrev cX16_init : ByteArray := prog_9_method_1_code
def yX16_init : MethodName := ⟨RX16, "<init>", "(LRoseThrow$Test;)V"⟩
def dkwX16_init_0 : List UInt8 := [42, 183, 0, 1, 42, 43, 181, 0, 7, 177]
abbrev dktX16_init_0 : List UInt8 := dkwX16_init_0 ++ []
theorem dksX16_init_0 : cX16_init.data.toList.drop 0 = dktX16_init_0 := by decide +kernel
theorem dX16_init_0 : decode cX16_init 0 = .ok (.aload_n 0, 1) := dk_42 (dk_at dksX16_init_0 0 rfl rfl)
theorem dX16_init_1 : decode cX16_init 1 = .ok (.invokespecial 1, 3) := dk_183 0 1 (dk_at dksX16_init_0 1 rfl rfl)
theorem dX16_init_4 : decode cX16_init 4 = .ok (.aload_n 0, 1) := dk_42 (dk_at dksX16_init_0 4 rfl rfl)
theorem dX16_init_5 : decode cX16_init 5 = .ok (.aload_n 1, 1) := dk_43 (dk_at dksX16_init_0 5 rfl rfl)
theorem dX16_init_6 : decode cX16_init 6 = .ok (.putfield 7, 3) := dk_181 0 7 (dk_at dksX16_init_0 6 rfl rfl)
theorem dX16_init_9 : decode cX16_init 9 = .ok (.return_, 1) := dk_177 (dk_at dksX16_init_0 9 rfl rfl)
theorem q152 : (Jvm.Cond.initialized "RoseThrow$Not") ∈ lw_all := lw_g (lw_at lw_m1 27 rfl) rfl
theorem q494 : (Jvm.Cond.selects "RoseThrow$Not" ({ cls := "java/lang/Object", name := "getClass", desc := "()Ljava/lang/Class;" } : Jvm.MethodName) ({ cls := "java/lang/Object", name := "getClass", desc := "()Ljava/lang/Class;" } : Jvm.MethodName)) ∈ lw_all := lw_g (lw_at lw_m2 129 rfl) rfl
theorem q636 : (Jvm.Cond.selects "RoseThrow$Not" ({ cls := "RoseThrow$Test", name := "is", desc := "(LRoseThrow$Setting;)Z" } : Jvm.MethodName) ({ cls := "RoseThrow$Not", name := "is", desc := "(LRoseThrow$Setting;)Z" } : Jvm.MethodName)) ∈ lw_all := lw_g (lw_at lw_m3 31 rfl) rfl
theorem q637 : (Jvm.Cond.instanceMethod ({ cls := "RoseThrow$Not", name := "is", desc := "(LRoseThrow$Setting;)Z" } : Jvm.MethodName)) ∈ lw_all := lw_g (lw_at lw_m3 32 rfl) rfl
theorem q638 : (Jvm.Cond.code ({ cls := "RoseThrow$Not", name := "is", desc := "(LRoseThrow$Setting;)Z" } : Jvm.MethodName) prog_9_method_2_code (2 : Nat) (Option.some Jvm.ClassFile.FieldType.boolean)) ∈ lw_all := lw_g (lw_at lw_m3 33 rfl) rfl
theorem q639 : (Jvm.Cond.methodLink "RoseThrow$Not" (13 : Nat) ({ cls := "RoseThrow$Test", name := "is", desc := "(LRoseThrow$Setting;)Z" } : Jvm.MethodName)) ∈ lw_all := lw_g (lw_at lw_m3 34 rfl) rfl
theorem q1057 : (Jvm.Cond.instantiable "RoseThrow$Not" (1 : Nat)) ∈ lw_all := lw_g (lw_at lw_m4 212 rfl) rfl
theorem q1059 : (Jvm.Cond.instanceMethod ({ cls := "RoseThrow$Not", name := "<init>", desc := "(LRoseThrow$Test;)V" } : Jvm.MethodName)) ∈ lw_all := lw_g (lw_at lw_m4 214 rfl) rfl
theorem q1060 : (Jvm.Cond.code ({ cls := "RoseThrow$Not", name := "<init>", desc := "(LRoseThrow$Test;)V" } : Jvm.MethodName) prog_9_method_1_code (2 : Nat) (Option.none : Option Jvm.ClassFile.FieldType)) ∈ lw_all := lw_g (lw_at lw_m4 215 rfl) rfl
theorem q1061 : (Jvm.Cond.methodLinkNest "RoseThrow$Not" (1 : Nat) ({ cls := "RoseThrow$Test", name := "<init>", desc := "()V" } : Jvm.MethodName) "RoseThrow") ∈ lw_tbl := lw_at lw_m4 216 rfl
theorem q1062 : (Jvm.Cond.fieldLink "RoseThrow$Not" (7 : Nat) "RoseThrow$Not" "of" "LRoseThrow$Test;") ∈ lw_all := lw_g (lw_at lw_m4 217 rfl) rfl
theorem q1063 : (Jvm.Cond.laysFinal "RoseThrow$Not" "RoseThrow$Not" "of" "LRoseThrow$Test;") ∈ lw_all := lw_g (lw_at lw_m4 218 rfl) rfl
theorem q1064 : (Jvm.Cond.soleField "RoseThrow$Not" "of") ∈ lw_all := lw_g (lw_at lw_m4 219 rfl) rfl
theorem q1065 : (Jvm.Cond.superclass "RoseThrow$Not" "RoseThrow$Test") ∈ lw_all := lw_g (lw_at lw_m4 220 rfl) rfl
theorem q2263 : (Jvm.Cond.castable "RoseThrow$Not" "RoseThrow$Test") ∈ lw_tbl := lw_at lw_m9 218 rfl
theorem q2279 : (Jvm.Cond.castable "RoseThrow$Not" "java/lang/Object") ∈ lw_tbl := lw_at lw_m9 234 rfl
theorem in_X16 : ∀ w ∈ wsX160, w ∈ lw_all := lw_in wsX160 [1063] (by decide +kernel) (by decide +kernel)
/-! RoseThrow$Several -/
set_option maxRecDepth 100000
def RX17 : String := "RoseThrow$Several"
def TX17 : u_T := fun k => match k with
  | 0 => ("RoseThrow$Several", "all", "Z", true)
  | _ => ("RoseThrow$Several", "of", "Ljava/util/ArrayList;", true)
def tyX17 : Nat → FieldType := fun k => match k with
  | 0 => .boolean
  | _ => .object "java/util/ArrayList"
abbrev wsX170 : List Cond := u_ws RX17 TX17 2
theorem nmX17 : ∀ a, a < 2 → ∀ b, b < 2 → a ≠ b → (TX17 a).2.1 ≠ (TX17 b).2.1 := by decide +kernel
theorem tyX17_ok : ∀ k, k < 2 → parseFieldDescriptor (TX17 k).2.2.1 = some (tyX17 k) := by decide +kernel
abbrev cX17_is : ByteArray := prog_15_method_2_code
def yX17_is : MethodName := ⟨RX17, "is", "(LRoseThrow$Setting;)Z"⟩
def dkwX17_is_2 : List UInt8 := [132, 2, 1, 167, 255, 207, 42, 180, 0, 18, 172]
abbrev dktX17_is_2 : List UInt8 := dkwX17_is_2 ++ []
def dkwX17_is_1 : List UInt8 := [43, 182, 0, 30, 42, 180, 0, 18, 159, 0, 16, 42, 180, 0, 18, 154, 0, 7, 4, 167, 0, 4, 3, 172]
abbrev dktX17_is_1 : List UInt8 := dkwX17_is_1 ++ dktX17_is_2
def dkwX17_is_0 : List UInt8 := [3, 61, 28, 42, 180, 0, 12, 182, 0, 22, 162, 0, 44, 42, 180, 0, 12, 28, 182, 0, 26, 192, 0, 2]
abbrev dktX17_is_0 : List UInt8 := dkwX17_is_0 ++ dktX17_is_1
theorem dksX17_is_0 : cX17_is.data.toList.drop 0 = dktX17_is_0 := by decide +kernel
theorem dksX17_is_1 : cX17_is.data.toList.drop 24 = dktX17_is_1 := dk_seg dksX17_is_0 24 rfl rfl
theorem dksX17_is_2 : cX17_is.data.toList.drop 48 = dktX17_is_2 := dk_seg dksX17_is_1 24 rfl rfl
theorem dX17_is_0 : decode cX17_is 0 = .ok (.iconst 0, 1) := dk_3 (dk_at dksX17_is_0 0 rfl rfl)
theorem dX17_is_1 : decode cX17_is 1 = .ok (.istore_n 2, 1) := dk_61 (dk_at dksX17_is_0 1 rfl rfl)
theorem dX17_is_2 : decode cX17_is 2 = .ok (.iload_n 2, 1) := dk_28 (dk_at dksX17_is_0 2 rfl rfl)
theorem dX17_is_3 : decode cX17_is 3 = .ok (.aload_n 0, 1) := dk_42 (dk_at dksX17_is_0 3 rfl rfl)
theorem dX17_is_4 : decode cX17_is 4 = .ok (.getfield 12, 3) := dk_180 0 12 (dk_at dksX17_is_0 4 rfl rfl)
theorem dX17_is_7 : decode cX17_is 7 = .ok (.invokevirtual 22, 3) := dk_182 0 22 (dk_at dksX17_is_0 7 rfl rfl)
theorem dX17_is_10 : decode cX17_is 10 = .ok (.if_icmp .ge 44, 3) := dk_162 0 44 (dk_at dksX17_is_0 10 rfl rfl)
theorem dX17_is_13 : decode cX17_is 13 = .ok (.aload_n 0, 1) := dk_42 (dk_at dksX17_is_0 13 rfl rfl)
theorem dX17_is_14 : decode cX17_is 14 = .ok (.getfield 12, 3) := dk_180 0 12 (dk_at dksX17_is_0 14 rfl rfl)
theorem dX17_is_17 : decode cX17_is 17 = .ok (.iload_n 2, 1) := dk_28 (dk_at dksX17_is_0 17 rfl rfl)
theorem dX17_is_18 : decode cX17_is 18 = .ok (.invokevirtual 26, 3) := dk_182 0 26 (dk_at dksX17_is_0 18 rfl rfl)
theorem dX17_is_21 : decode cX17_is 21 = .ok (.checkcast 2, 3) := dk_192 0 2 (dk_at dksX17_is_0 21 rfl rfl)
theorem dX17_is_24 : decode cX17_is 24 = .ok (.aload_n 1, 1) := dk_43 (dk_at dksX17_is_1 0 rfl rfl)
theorem dX17_is_25 : decode cX17_is 25 = .ok (.invokevirtual 30, 3) := dk_182 0 30 (dk_at dksX17_is_1 1 rfl rfl)
theorem dX17_is_28 : decode cX17_is 28 = .ok (.aload_n 0, 1) := dk_42 (dk_at dksX17_is_1 4 rfl rfl)
theorem dX17_is_29 : decode cX17_is 29 = .ok (.getfield 18, 3) := dk_180 0 18 (dk_at dksX17_is_1 5 rfl rfl)
theorem dX17_is_32 : decode cX17_is 32 = .ok (.if_icmp .eq 16, 3) := dk_159 0 16 (dk_at dksX17_is_1 8 rfl rfl)
theorem dX17_is_35 : decode cX17_is 35 = .ok (.aload_n 0, 1) := dk_42 (dk_at dksX17_is_1 11 rfl rfl)
theorem dX17_is_36 : decode cX17_is 36 = .ok (.getfield 18, 3) := dk_180 0 18 (dk_at dksX17_is_1 12 rfl rfl)
theorem dX17_is_39 : decode cX17_is 39 = .ok (.ifCond .ne 7, 3) := dk_154 0 7 (dk_at dksX17_is_1 15 rfl rfl)
theorem dX17_is_42 : decode cX17_is 42 = .ok (.iconst 1, 1) := dk_4 (dk_at dksX17_is_1 18 rfl rfl)
theorem dX17_is_43 : decode cX17_is 43 = .ok (.goto 4, 3) := dk_167 0 4 (dk_at dksX17_is_1 19 rfl rfl)
theorem dX17_is_46 : decode cX17_is 46 = .ok (.iconst 0, 1) := dk_3 (dk_at dksX17_is_1 22 rfl rfl)
theorem dX17_is_47 : decode cX17_is 47 = .ok (.ireturn, 1) := dk_172 (dk_at dksX17_is_1 23 rfl rfl)
theorem dX17_is_48 : decode cX17_is 48 = .ok (.iinc 2 1, 3) := dk_132 2 1 (dk_at dksX17_is_2 0 rfl rfl)
theorem dX17_is_51 : decode cX17_is 51 = .ok (.goto (-49), 3) := dk_167 255 207 (dk_at dksX17_is_2 3 rfl rfl)
theorem dX17_is_54 : decode cX17_is 54 = .ok (.aload_n 0, 1) := dk_42 (dk_at dksX17_is_2 6 rfl rfl)
theorem dX17_is_55 : decode cX17_is 55 = .ok (.getfield 18, 3) := dk_180 0 18 (dk_at dksX17_is_2 7 rfl rfl)
theorem dX17_is_58 : decode cX17_is 58 = .ok (.ireturn, 1) := dk_172 (dk_at dksX17_is_2 10 rfl rfl)
abbrev cX17_init : ByteArray := prog_15_method_1_code
def yX17_init : MethodName := ⟨RX17, "<init>", "(Z)V"⟩
def dkwX17_init_0 : List UInt8 := [42, 183, 0, 1, 42, 187, 0, 7, 89, 5, 183, 0, 9, 181, 0, 12, 42, 27, 181, 0, 18, 177]
abbrev dktX17_init_0 : List UInt8 := dkwX17_init_0 ++ []
theorem dksX17_init_0 : cX17_init.data.toList.drop 0 = dktX17_init_0 := by decide +kernel
theorem dX17_init_0 : decode cX17_init 0 = .ok (.aload_n 0, 1) := dk_42 (dk_at dksX17_init_0 0 rfl rfl)
theorem dX17_init_1 : decode cX17_init 1 = .ok (.invokespecial 1, 3) := dk_183 0 1 (dk_at dksX17_init_0 1 rfl rfl)
theorem dX17_init_4 : decode cX17_init 4 = .ok (.aload_n 0, 1) := dk_42 (dk_at dksX17_init_0 4 rfl rfl)
theorem dX17_init_5 : decode cX17_init 5 = .ok (.new 7, 3) := dk_187 0 7 (dk_at dksX17_init_0 5 rfl rfl)
theorem dX17_init_8 : decode cX17_init 8 = .ok (.dup, 1) := dk_89 (dk_at dksX17_init_0 8 rfl rfl)
theorem dX17_init_9 : decode cX17_init 9 = .ok (.iconst 2, 1) := dk_5 (dk_at dksX17_init_0 9 rfl rfl)
theorem dX17_init_10 : decode cX17_init 10 = .ok (.invokespecial 9, 3) := dk_183 0 9 (dk_at dksX17_init_0 10 rfl rfl)
theorem dX17_init_13 : decode cX17_init 13 = .ok (.putfield 12, 3) := dk_181 0 12 (dk_at dksX17_init_0 13 rfl rfl)
theorem dX17_init_16 : decode cX17_init 16 = .ok (.aload_n 0, 1) := dk_42 (dk_at dksX17_init_0 16 rfl rfl)
theorem dX17_init_17 : decode cX17_init 17 = .ok (.iload_n 1, 1) := dk_27 (dk_at dksX17_init_0 17 rfl rfl)
theorem dX17_init_18 : decode cX17_init 18 = .ok (.putfield 18, 3) := dk_181 0 18 (dk_at dksX17_init_0 18 rfl rfl)
theorem dX17_init_21 : decode cX17_init 21 = .ok (.return_, 1) := dk_177 (dk_at dksX17_init_0 21 rfl rfl)
theorem q153 : (Jvm.Cond.initialized "RoseThrow$Several") ∈ lw_all := lw_g (lw_at lw_m1 28 rfl) rfl
theorem q499 : (Jvm.Cond.selects "RoseThrow$Several" ({ cls := "java/lang/Object", name := "getClass", desc := "()Ljava/lang/Class;" } : Jvm.MethodName) ({ cls := "java/lang/Object", name := "getClass", desc := "()Ljava/lang/Class;" } : Jvm.MethodName)) ∈ lw_all := lw_g (lw_at lw_m2 134 rfl) rfl
theorem q640 : (Jvm.Cond.instanceMethod ({ cls := "RoseThrow$Several", name := "is", desc := "(LRoseThrow$Setting;)Z" } : Jvm.MethodName)) ∈ lw_all := lw_g (lw_at lw_m3 35 rfl) rfl
theorem q641 : (Jvm.Cond.code ({ cls := "RoseThrow$Several", name := "is", desc := "(LRoseThrow$Setting;)Z" } : Jvm.MethodName) prog_15_method_2_code (3 : Nat) (Option.some Jvm.ClassFile.FieldType.boolean)) ∈ lw_all := lw_g (lw_at lw_m3 36 rfl) rfl
theorem q642 : (Jvm.Cond.methodLink "RoseThrow$Several" (22 : Nat) ({ cls := "java/util/ArrayList", name := "size", desc := "()I" } : Jvm.MethodName)) ∈ lw_all := lw_g (lw_at lw_m3 37 rfl) rfl
theorem q643 : (Jvm.Cond.methodLink "RoseThrow$Several" (26 : Nat) ({ cls := "java/util/ArrayList", name := "get", desc := "(I)Ljava/lang/Object;" } : Jvm.MethodName)) ∈ lw_all := lw_g (lw_at lw_m3 38 rfl) rfl
theorem q644 : (Jvm.Cond.classLink "RoseThrow$Several" (2 : Nat) "RoseThrow$Test") ∈ lw_all := lw_g (lw_at lw_m3 39 rfl) rfl
theorem q645 : (Jvm.Cond.methodLink "RoseThrow$Several" (30 : Nat) ({ cls := "RoseThrow$Test", name := "is", desc := "(LRoseThrow$Setting;)Z" } : Jvm.MethodName)) ∈ lw_all := lw_g (lw_at lw_m3 40 rfl) rfl
theorem q646 : (Jvm.Cond.selects "RoseThrow$Several" ({ cls := "RoseThrow$Test", name := "is", desc := "(LRoseThrow$Setting;)Z" } : Jvm.MethodName) ({ cls := "RoseThrow$Several", name := "is", desc := "(LRoseThrow$Setting;)Z" } : Jvm.MethodName)) ∈ lw_all := lw_g (lw_at lw_m3 41 rfl) rfl
theorem q1068 : (Jvm.Cond.instantiable "RoseThrow$Several" (2 : Nat)) ∈ lw_all := lw_g (lw_at lw_m4 223 rfl) rfl
theorem q1070 : (Jvm.Cond.instanceMethod ({ cls := "RoseThrow$Several", name := "<init>", desc := "(Z)V" } : Jvm.MethodName)) ∈ lw_all := lw_g (lw_at lw_m4 225 rfl) rfl
theorem q1071 : (Jvm.Cond.code ({ cls := "RoseThrow$Several", name := "<init>", desc := "(Z)V" } : Jvm.MethodName) prog_15_method_1_code (2 : Nat) (Option.none : Option Jvm.ClassFile.FieldType)) ∈ lw_all := lw_g (lw_at lw_m4 226 rfl) rfl
theorem q1072 : (Jvm.Cond.methodLinkNest "RoseThrow$Several" (1 : Nat) ({ cls := "RoseThrow$Test", name := "<init>", desc := "()V" } : Jvm.MethodName) "RoseThrow") ∈ lw_tbl := lw_at lw_m4 227 rfl
theorem q1073 : (Jvm.Cond.classLink "RoseThrow$Several" (7 : Nat) "java/util/ArrayList") ∈ lw_all := lw_g (lw_at lw_m4 228 rfl) rfl
theorem q1074 : (Jvm.Cond.methodLink "RoseThrow$Several" (9 : Nat) ({ cls := "java/util/ArrayList", name := "<init>", desc := "(I)V" } : Jvm.MethodName)) ∈ lw_all := lw_g (lw_at lw_m4 229 rfl) rfl
theorem q1075 : (Jvm.Cond.fieldLink "RoseThrow$Several" (18 : Nat) "RoseThrow$Several" "all" "Z") ∈ lw_all := lw_g (lw_at lw_m4 230 rfl) rfl
theorem q1076 : (Jvm.Cond.fieldLink "RoseThrow$Several" (12 : Nat) "RoseThrow$Several" "of" "Ljava/util/ArrayList;") ∈ lw_all := lw_g (lw_at lw_m4 231 rfl) rfl
theorem q1078 : (Jvm.Cond.laysFinal "RoseThrow$Several" "RoseThrow$Several" "all" "Z") ∈ lw_all := lw_g (lw_at lw_m4 233 rfl) rfl
theorem q1079 : (Jvm.Cond.soleField "RoseThrow$Several" "all") ∈ lw_all := lw_g (lw_at lw_m4 234 rfl) rfl
theorem q1080 : (Jvm.Cond.laysFinal "RoseThrow$Several" "RoseThrow$Several" "of" "Ljava/util/ArrayList;") ∈ lw_all := lw_g (lw_at lw_m4 235 rfl) rfl
theorem q1081 : (Jvm.Cond.soleField "RoseThrow$Several" "of") ∈ lw_all := lw_g (lw_at lw_m4 236 rfl) rfl
theorem q1082 : (Jvm.Cond.superclass "RoseThrow$Several" "RoseThrow$Test") ∈ lw_all := lw_g (lw_at lw_m4 237 rfl) rfl
theorem q2264 : (Jvm.Cond.castable "RoseThrow$Several" "RoseThrow$Test") ∈ lw_tbl := lw_at lw_m9 219 rfl
theorem q2280 : (Jvm.Cond.castable "RoseThrow$Several" "java/lang/Object") ∈ lw_tbl := lw_at lw_m9 235 rfl
theorem in_X17 : ∀ w ∈ wsX170, w ∈ lw_all := lw_in wsX170 [1078, 1080] (by decide +kernel) (by decide +kernel)
/-! RoseThrow$Order -/
set_option maxRecDepth 100000
def RX18 : String := "RoseThrow$Order"
def TX18 : u_T := fun k => match k with
  | 0 => ("RoseThrow$Order", "head", "I", true)
  | 1 => ("RoseThrow$Order", "catcher", "LRoseThrow$Sum;", false)
  | 2 => ("RoseThrow$Order", "cell", "LRoseThrow$Sum;", false)
  | 3 => ("RoseThrow$Order", "times", "I", false)
  | _ => ("RoseThrow$Order", "when", "LRoseThrow$Test;", false)
def tyX18 : Nat → FieldType := fun k => match k with
  | 0 => .int
  | 1 => .object "RoseThrow$Sum"
  | 2 => .object "RoseThrow$Sum"
  | 3 => .int
  | _ => .object "RoseThrow$Test"
abbrev wsX180 : List Cond := u_ws RX18 TX18 5
theorem nmX18 : ∀ a, a < 5 → ∀ b, b < 5 → a ≠ b → (TX18 a).2.1 ≠ (TX18 b).2.1 := by decide +kernel
theorem tyX18_ok : ∀ k, k < 5 → parseFieldDescriptor (TX18 k).2.2.1 = some (tyX18 k) := by decide +kernel
abbrev cX18_init : ByteArray := prog_11_method_1_code
def yX18_init : MethodName := ⟨RX18, "<init>", "(I)V"⟩
def dkwX18_init_0 : List UInt8 := [42, 183, 0, 3, 42, 4, 181, 0, 9, 42, 27, 181, 0, 15, 177]
abbrev dktX18_init_0 : List UInt8 := dkwX18_init_0 ++ []
theorem dksX18_init_0 : cX18_init.data.toList.drop 0 = dktX18_init_0 := by decide +kernel
theorem dX18_init_0 : decode cX18_init 0 = .ok (.aload_n 0, 1) := dk_42 (dk_at dksX18_init_0 0 rfl rfl)
theorem dX18_init_1 : decode cX18_init 1 = .ok (.invokespecial 3, 3) := dk_183 0 3 (dk_at dksX18_init_0 1 rfl rfl)
theorem dX18_init_4 : decode cX18_init 4 = .ok (.aload_n 0, 1) := dk_42 (dk_at dksX18_init_0 4 rfl rfl)
theorem dX18_init_5 : decode cX18_init 5 = .ok (.iconst 1, 1) := dk_4 (dk_at dksX18_init_0 5 rfl rfl)
theorem dX18_init_6 : decode cX18_init 6 = .ok (.putfield 9, 3) := dk_181 0 9 (dk_at dksX18_init_0 6 rfl rfl)
theorem dX18_init_9 : decode cX18_init 9 = .ok (.aload_n 0, 1) := dk_42 (dk_at dksX18_init_0 9 rfl rfl)
theorem dX18_init_10 : decode cX18_init 10 = .ok (.iload_n 1, 1) := dk_27 (dk_at dksX18_init_0 10 rfl rfl)
theorem dX18_init_11 : decode cX18_init 11 = .ok (.putfield 15, 3) := dk_181 0 15 (dk_at dksX18_init_0 11 rfl rfl)
theorem dX18_init_14 : decode cX18_init 14 = .ok (.return_, 1) := dk_177 (dk_at dksX18_init_0 14 rfl rfl)
abbrev cX18_isNow : ByteArray := prog_11_method_2_code
def yX18_isNow : MethodName := ⟨RX18, "isNow", "(LRoseThrow$Setting;)Z"⟩
def dkwX18_isNow_1 : List UInt8 := [77, 3, 172]
abbrev dktX18_isNow_1 : List UInt8 := dkwX18_isNow_1 ++ []
def dkwX18_isNow_0 : List UInt8 := [42, 180, 0, 18, 198, 0, 14, 42, 180, 0, 18, 43, 182, 0, 22, 153, 0, 7, 4, 167, 0, 4, 3, 172]
abbrev dktX18_isNow_0 : List UInt8 := dkwX18_isNow_0 ++ dktX18_isNow_1
theorem dksX18_isNow_0 : cX18_isNow.data.toList.drop 0 = dktX18_isNow_0 := by decide +kernel
theorem dksX18_isNow_1 : cX18_isNow.data.toList.drop 24 = dktX18_isNow_1 := dk_seg dksX18_isNow_0 24 rfl rfl
theorem dX18_isNow_0 : decode cX18_isNow 0 = .ok (.aload_n 0, 1) := dk_42 (dk_at dksX18_isNow_0 0 rfl rfl)
theorem dX18_isNow_1 : decode cX18_isNow 1 = .ok (.getfield 18, 3) := dk_180 0 18 (dk_at dksX18_isNow_0 1 rfl rfl)
theorem dX18_isNow_4 : decode cX18_isNow 4 = .ok (.ifnull 14, 3) := dk_198 0 14 (dk_at dksX18_isNow_0 4 rfl rfl)
theorem dX18_isNow_7 : decode cX18_isNow 7 = .ok (.aload_n 0, 1) := dk_42 (dk_at dksX18_isNow_0 7 rfl rfl)
theorem dX18_isNow_8 : decode cX18_isNow 8 = .ok (.getfield 18, 3) := dk_180 0 18 (dk_at dksX18_isNow_0 8 rfl rfl)
theorem dX18_isNow_11 : decode cX18_isNow 11 = .ok (.aload_n 1, 1) := dk_43 (dk_at dksX18_isNow_0 11 rfl rfl)
theorem dX18_isNow_12 : decode cX18_isNow 12 = .ok (.invokevirtual 22, 3) := dk_182 0 22 (dk_at dksX18_isNow_0 12 rfl rfl)
theorem dX18_isNow_15 : decode cX18_isNow 15 = .ok (.ifCond .eq 7, 3) := dk_153 0 7 (dk_at dksX18_isNow_0 15 rfl rfl)
theorem dX18_isNow_18 : decode cX18_isNow 18 = .ok (.iconst 1, 1) := dk_4 (dk_at dksX18_isNow_0 18 rfl rfl)
theorem dX18_isNow_19 : decode cX18_isNow 19 = .ok (.goto 4, 3) := dk_167 0 4 (dk_at dksX18_isNow_0 19 rfl rfl)
theorem dX18_isNow_22 : decode cX18_isNow 22 = .ok (.iconst 0, 1) := dk_3 (dk_at dksX18_isNow_0 22 rfl rfl)
theorem dX18_isNow_23 : decode cX18_isNow 23 = .ok (.ireturn, 1) := dk_172 (dk_at dksX18_isNow_0 23 rfl rfl)
theorem dX18_isNow_24 : decode cX18_isNow 24 = .ok (.astore_n 2, 1) := dk_77 (dk_at dksX18_isNow_1 0 rfl rfl)
theorem dX18_isNow_25 : decode cX18_isNow 25 = .ok (.iconst 0, 1) := dk_3 (dk_at dksX18_isNow_1 1 rfl rfl)
theorem dX18_isNow_26 : decode cX18_isNow 26 = .ok (.ireturn, 1) := dk_172 (dk_at dksX18_isNow_1 2 rfl rfl)
abbrev cX18_told : ByteArray := prog_11_method_3_code
def yX18_told : MethodName := ⟨RX18, "told", "(LRoseThrow$Sum;LRoseThrow$Setting;)I"⟩
def dkwX18_told_1 : List UInt8 := [167, 0, 5, 32, 136, 172, 77, 18, 40, 172]
abbrev dktX18_told_1 : List UInt8 := dkwX18_told_1 ++ []
def dkwX18_told_0 : List UInt8 := [42, 43, 182, 0, 30, 65, 32, 20, 0, 36, 148, 155, 0, 11, 32, 20, 0, 38, 148, 155, 0, 8, 18, 40]
abbrev dktX18_told_0 : List UInt8 := dkwX18_told_0 ++ dktX18_told_1
theorem dksX18_told_0 : cX18_told.data.toList.drop 0 = dktX18_told_0 := by decide +kernel
theorem dksX18_told_1 : cX18_told.data.toList.drop 24 = dktX18_told_1 := dk_seg dksX18_told_0 24 rfl rfl
theorem dX18_told_0 : decode cX18_told 0 = .ok (.aload_n 0, 1) := dk_42 (dk_at dksX18_told_0 0 rfl rfl)
theorem dX18_told_1 : decode cX18_told 1 = .ok (.aload_n 1, 1) := dk_43 (dk_at dksX18_told_0 1 rfl rfl)
theorem dX18_told_2 : decode cX18_told 2 = .ok (.invokevirtual 30, 3) := dk_182 0 30 (dk_at dksX18_told_0 2 rfl rfl)
theorem dX18_told_5 : decode cX18_told 5 = .ok (.lstore_n 2, 1) := dk_65 (dk_at dksX18_told_0 5 rfl rfl)
theorem dX18_told_6 : decode cX18_told 6 = .ok (.lload_n 2, 1) := dk_32 (dk_at dksX18_told_0 6 rfl rfl)
theorem dX18_told_7 : decode cX18_told 7 = .ok (.ldc2_w 36, 3) := dk_20 0 36 (dk_at dksX18_told_0 7 rfl rfl)
theorem dX18_told_10 : decode cX18_told 10 = .ok (.lcmp, 1) := dk_148 (dk_at dksX18_told_0 10 rfl rfl)
theorem dX18_told_11 : decode cX18_told 11 = .ok (.ifCond .lt 11, 3) := dk_155 0 11 (dk_at dksX18_told_0 11 rfl rfl)
theorem dX18_told_14 : decode cX18_told 14 = .ok (.lload_n 2, 1) := dk_32 (dk_at dksX18_told_0 14 rfl rfl)
theorem dX18_told_15 : decode cX18_told 15 = .ok (.ldc2_w 38, 3) := dk_20 0 38 (dk_at dksX18_told_0 15 rfl rfl)
theorem dX18_told_18 : decode cX18_told 18 = .ok (.lcmp, 1) := dk_148 (dk_at dksX18_told_0 18 rfl rfl)
theorem dX18_told_19 : decode cX18_told 19 = .ok (.ifCond .lt 8, 3) := dk_155 0 8 (dk_at dksX18_told_0 19 rfl rfl)
theorem dX18_told_22 : decode cX18_told 22 = .ok (.ldc 40, 2) := dk_18 40 (dk_at dksX18_told_0 22 rfl rfl)
theorem dX18_told_24 : decode cX18_told 24 = .ok (.goto 5, 3) := dk_167 0 5 (dk_at dksX18_told_1 0 rfl rfl)
theorem dX18_told_27 : decode cX18_told 27 = .ok (.lload_n 2, 1) := dk_32 (dk_at dksX18_told_1 3 rfl rfl)
theorem dX18_told_28 : decode cX18_told 28 = .ok (.l2i, 1) := dk_136 (dk_at dksX18_told_1 4 rfl rfl)
theorem dX18_told_29 : decode cX18_told 29 = .ok (.ireturn, 1) := dk_172 (dk_at dksX18_told_1 5 rfl rfl)
theorem dX18_told_30 : decode cX18_told 30 = .ok (.astore_n 2, 1) := dk_77 (dk_at dksX18_told_1 6 rfl rfl)
theorem dX18_told_31 : decode cX18_told 31 = .ok (.ldc 40, 2) := dk_18 40 (dk_at dksX18_told_1 7 rfl rfl)
theorem dX18_told_33 : decode cX18_told 33 = .ok (.ireturn, 1) := dk_172 (dk_at dksX18_told_1 9 rfl rfl)
theorem q158 : (Jvm.Cond.initialized "RoseThrow$Order") ∈ lw_all := lw_g (lw_at lw_m1 33 rfl) rfl
theorem q496 : (Jvm.Cond.selects "RoseThrow$Order" ({ cls := "java/lang/Object", name := "getClass", desc := "()Ljava/lang/Class;" } : Jvm.MethodName) ({ cls := "java/lang/Object", name := "getClass", desc := "()Ljava/lang/Class;" } : Jvm.MethodName)) ∈ lw_all := lw_g (lw_at lw_m2 131 rfl) rfl
theorem q1113 : (Jvm.Cond.instantiable "RoseThrow$Order" (5 : Nat)) ∈ lw_all := lw_g (lw_at lw_m5 28 rfl) rfl
theorem q1115 : (Jvm.Cond.instanceMethod ({ cls := "RoseThrow$Order", name := "<init>", desc := "(I)V" } : Jvm.MethodName)) ∈ lw_all := lw_g (lw_at lw_m5 30 rfl) rfl
theorem q1116 : (Jvm.Cond.code ({ cls := "RoseThrow$Order", name := "<init>", desc := "(I)V" } : Jvm.MethodName) prog_11_method_1_code (2 : Nat) (Option.none : Option Jvm.ClassFile.FieldType)) ∈ lw_all := lw_g (lw_at lw_m5 31 rfl) rfl
theorem q1117 : (Jvm.Cond.methodLink "RoseThrow$Order" (3 : Nat) ({ cls := "java/lang/Object", name := "<init>", desc := "()V" } : Jvm.MethodName)) ∈ lw_all := lw_g (lw_at lw_m5 32 rfl) rfl
theorem q1118 : (Jvm.Cond.fieldLink "RoseThrow$Order" (15 : Nat) "RoseThrow$Order" "head" "I") ∈ lw_all := lw_g (lw_at lw_m5 33 rfl) rfl
theorem q1124 : (Jvm.Cond.fieldLink "RoseThrow$Order" (9 : Nat) "RoseThrow$Order" "times" "I") ∈ lw_all := lw_g (lw_at lw_m5 39 rfl) rfl
theorem q1127 : (Jvm.Cond.fieldLink "RoseThrow$Order" (18 : Nat) "RoseThrow$Order" "when" "LRoseThrow$Test;") ∈ lw_all := lw_g (lw_at lw_m5 42 rfl) rfl
theorem q1129 : (Jvm.Cond.laysFinal "RoseThrow$Order" "RoseThrow$Order" "head" "I") ∈ lw_all := lw_g (lw_at lw_m5 44 rfl) rfl
theorem q1130 : (Jvm.Cond.soleField "RoseThrow$Order" "head") ∈ lw_all := lw_g (lw_at lw_m5 45 rfl) rfl
theorem q1131 : (Jvm.Cond.lays "RoseThrow$Order" "RoseThrow$Order" "catcher" "LRoseThrow$Sum;") ∈ lw_all := lw_g (lw_at lw_m5 46 rfl) rfl
theorem q1132 : (Jvm.Cond.soleField "RoseThrow$Order" "catcher") ∈ lw_all := lw_g (lw_at lw_m5 47 rfl) rfl
theorem q1133 : (Jvm.Cond.lays "RoseThrow$Order" "RoseThrow$Order" "cell" "LRoseThrow$Sum;") ∈ lw_all := lw_g (lw_at lw_m5 48 rfl) rfl
theorem q1134 : (Jvm.Cond.soleField "RoseThrow$Order" "cell") ∈ lw_all := lw_g (lw_at lw_m5 49 rfl) rfl
theorem q1135 : (Jvm.Cond.lays "RoseThrow$Order" "RoseThrow$Order" "times" "I") ∈ lw_all := lw_g (lw_at lw_m5 50 rfl) rfl
theorem q1136 : (Jvm.Cond.soleField "RoseThrow$Order" "times") ∈ lw_all := lw_g (lw_at lw_m5 51 rfl) rfl
theorem q1137 : (Jvm.Cond.lays "RoseThrow$Order" "RoseThrow$Order" "when" "LRoseThrow$Test;") ∈ lw_all := lw_g (lw_at lw_m5 52 rfl) rfl
theorem q1138 : (Jvm.Cond.soleField "RoseThrow$Order" "when") ∈ lw_all := lw_g (lw_at lw_m5 53 rfl) rfl
theorem q1139 : (Jvm.Cond.superclass "RoseThrow$Order" "java/lang/Object") ∈ lw_all := lw_g (lw_at lw_m5 54 rfl) rfl
theorem q1440 : (Jvm.Cond.instanceMethod ({ cls := "RoseThrow$Order", name := "isNow", desc := "(LRoseThrow$Setting;)Z" } : Jvm.MethodName)) ∈ lw_all := lw_g (lw_at lw_m6 115 rfl) rfl
theorem q1441 : (Jvm.Cond.selects "RoseThrow$Order" ({ cls := "RoseThrow$Order", name := "isNow", desc := "(LRoseThrow$Setting;)Z" } : Jvm.MethodName) ({ cls := "RoseThrow$Order", name := "isNow", desc := "(LRoseThrow$Setting;)Z" } : Jvm.MethodName)) ∈ lw_all := lw_g (lw_at lw_m6 116 rfl) rfl
theorem q1442 : (Jvm.Cond.codeWith ({ cls := "RoseThrow$Order", name := "isNow", desc := "(LRoseThrow$Setting;)Z" } : Jvm.MethodName) prog_11_method_2_code (3 : Nat) (Option.some Jvm.ClassFile.FieldType.boolean) [((0 : Nat), (23 : Nat), (24 : Nat), (28 : Nat))]) ∈ lw_all := lw_g (lw_at lw_m6 117 rfl) rfl
theorem q1443 : (Jvm.Cond.classLink "RoseThrow$Order" (28 : Nat) "RoseThrow$Broken") ∈ lw_all := lw_g (lw_at lw_m6 118 rfl) rfl
theorem q1444 : (Jvm.Cond.methodLink "RoseThrow$Order" (22 : Nat) ({ cls := "RoseThrow$Test", name := "is", desc := "(LRoseThrow$Setting;)Z" } : Jvm.MethodName)) ∈ lw_all := lw_g (lw_at lw_m6 119 rfl) rfl
theorem q1450 : (Jvm.Cond.static ({ cls := "RoseThrow$Order", name := "told", desc := "(LRoseThrow$Sum;LRoseThrow$Setting;)I" } : Jvm.MethodName)) ∈ lw_all := lw_g (lw_at lw_m6 125 rfl) rfl
theorem q1451 : (Jvm.Cond.codeWith ({ cls := "RoseThrow$Order", name := "told", desc := "(LRoseThrow$Sum;LRoseThrow$Setting;)I" } : Jvm.MethodName) prog_11_method_3_code (4 : Nat) (Option.some Jvm.ClassFile.FieldType.int) [((0 : Nat), (29 : Nat), (30 : Nat), (28 : Nat))]) ∈ lw_all := lw_g (lw_at lw_m6 126 rfl) rfl
theorem q1452 : (Jvm.Cond.methodLink "RoseThrow$Order" (30 : Nat) ({ cls := "RoseThrow$Sum", name := "of", desc := "(LRoseThrow$Setting;)J" } : Jvm.MethodName)) ∈ lw_all := lw_g (lw_at lw_m6 127 rfl) rfl
theorem q1453 : (Jvm.Cond.constantLong "RoseThrow$Order" (36 : Nat) (-1 : Int64)) ∈ lw_all := lw_g (lw_at lw_m6 128 rfl) rfl
theorem q1454 : (Jvm.Cond.constantLong "RoseThrow$Order" (38 : Nat) (1000000 : Int64)) ∈ lw_all := lw_g (lw_at lw_m6 129 rfl) rfl
theorem q1455 : (Jvm.Cond.constant "RoseThrow$Order" (40 : Nat) (1000000 : Int32)) ∈ lw_all := lw_g (lw_at lw_m6 130 rfl) rfl
theorem q2283 : (Jvm.Cond.castable "RoseThrow$Order" "java/lang/Object") ∈ lw_tbl := lw_at lw_m9 238 rfl
theorem in_X18 : ∀ w ∈ wsX180, w ∈ lw_all := lw_in wsX180 [1129, 1131, 1133, 1135, 1137] (by decide +kernel) (by decide +kernel)
/-! RoseThrow$Law -/
set_option maxRecDepth 100000
def RX19 : String := "RoseThrow$Law"
def TX19 : u_T := fun k => match k with
  | _ => ("RoseThrow$Law", "clauses", "Ljava/util/ArrayList;", true)
def tyX19 : Nat → FieldType := fun k => match k with
  | _ => .object "java/util/ArrayList"
abbrev wsX190 : List Cond := u_ws RX19 TX19 1
theorem nmX19 : ∀ a, a < 1 → ∀ b, b < 1 → a ≠ b → (TX19 a).2.1 ≠ (TX19 b).2.1 := by decide +kernel
theorem tyX19_ok : ∀ k, k < 1 → parseFieldDescriptor (TX19 k).2.2.1 = some (tyX19 k) := by decide +kernel
abbrev cX19_told : ByteArray := prog_7_method_2_code
def yX19_told : MethodName := ⟨RX19, "told", "(ILRoseThrow$Setting;)J"⟩
def dkwX19_told_3 : List UInt8 := [132, 5, 1, 167, 255, 189, 33, 173]
abbrev dktX19_told_3 : List UInt8 := dkwX19_told_3 ++ []
def dkwX19_told_2 : List UInt8 := [182, 0, 23, 192, 0, 27, 44, 182, 0, 33, 55, 6, 22, 6, 20, 0, 15, 148, 153, 0, 6, 22, 6, 66]
abbrev dktX19_told_2 : List UInt8 := dkwX19_told_2 ++ dktX19_told_3
def dkwX19_told_1 : List UInt8 := [21, 5, 182, 0, 23, 192, 0, 27, 180, 0, 29, 27, 159, 0, 6, 167, 0, 33, 42, 180, 0, 9, 21, 5]
abbrev dktX19_told_1 : List UInt8 := dkwX19_told_1 ++ dktX19_told_2
def dkwX19_told_0 : List UInt8 := [20, 0, 15, 66, 3, 54, 5, 21, 5, 42, 180, 0, 9, 182, 0, 17, 162, 0, 61, 42, 180, 0, 9]
abbrev dktX19_told_0 : List UInt8 := dkwX19_told_0 ++ dktX19_told_1
theorem dksX19_told_0 : cX19_told.data.toList.drop 0 = dktX19_told_0 := by decide +kernel
theorem dksX19_told_1 : cX19_told.data.toList.drop 23 = dktX19_told_1 := dk_seg dksX19_told_0 23 rfl rfl
theorem dksX19_told_2 : cX19_told.data.toList.drop 47 = dktX19_told_2 := dk_seg dksX19_told_1 24 rfl rfl
theorem dksX19_told_3 : cX19_told.data.toList.drop 71 = dktX19_told_3 := dk_seg dksX19_told_2 24 rfl rfl
theorem dX19_told_0 : decode cX19_told 0 = .ok (.ldc2_w 15, 3) := dk_20 0 15 (dk_at dksX19_told_0 0 rfl rfl)
theorem dX19_told_3 : decode cX19_told 3 = .ok (.lstore_n 3, 1) := dk_66 (dk_at dksX19_told_0 3 rfl rfl)
theorem dX19_told_4 : decode cX19_told 4 = .ok (.iconst 0, 1) := dk_3 (dk_at dksX19_told_0 4 rfl rfl)
theorem dX19_told_5 : decode cX19_told 5 = .ok (.istore 5, 2) := dk_54 5 (dk_at dksX19_told_0 5 rfl rfl)
theorem dX19_told_7 : decode cX19_told 7 = .ok (.iload 5, 2) := dk_21 5 (dk_at dksX19_told_0 7 rfl rfl)
theorem dX19_told_9 : decode cX19_told 9 = .ok (.aload_n 0, 1) := dk_42 (dk_at dksX19_told_0 9 rfl rfl)
theorem dX19_told_10 : decode cX19_told 10 = .ok (.getfield 9, 3) := dk_180 0 9 (dk_at dksX19_told_0 10 rfl rfl)
theorem dX19_told_13 : decode cX19_told 13 = .ok (.invokevirtual 17, 3) := dk_182 0 17 (dk_at dksX19_told_0 13 rfl rfl)
theorem dX19_told_16 : decode cX19_told 16 = .ok (.if_icmp .ge 61, 3) := dk_162 0 61 (dk_at dksX19_told_0 16 rfl rfl)
theorem dX19_told_19 : decode cX19_told 19 = .ok (.aload_n 0, 1) := dk_42 (dk_at dksX19_told_0 19 rfl rfl)
theorem dX19_told_20 : decode cX19_told 20 = .ok (.getfield 9, 3) := dk_180 0 9 (dk_at dksX19_told_0 20 rfl rfl)
theorem dX19_told_23 : decode cX19_told 23 = .ok (.iload 5, 2) := dk_21 5 (dk_at dksX19_told_1 0 rfl rfl)
theorem dX19_told_25 : decode cX19_told 25 = .ok (.invokevirtual 23, 3) := dk_182 0 23 (dk_at dksX19_told_1 2 rfl rfl)
theorem dX19_told_28 : decode cX19_told 28 = .ok (.checkcast 27, 3) := dk_192 0 27 (dk_at dksX19_told_1 5 rfl rfl)
theorem dX19_told_31 : decode cX19_told 31 = .ok (.getfield 29, 3) := dk_180 0 29 (dk_at dksX19_told_1 8 rfl rfl)
theorem dX19_told_34 : decode cX19_told 34 = .ok (.iload_n 1, 1) := dk_27 (dk_at dksX19_told_1 11 rfl rfl)
theorem dX19_told_35 : decode cX19_told 35 = .ok (.if_icmp .eq 6, 3) := dk_159 0 6 (dk_at dksX19_told_1 12 rfl rfl)
theorem dX19_told_38 : decode cX19_told 38 = .ok (.goto 33, 3) := dk_167 0 33 (dk_at dksX19_told_1 15 rfl rfl)
theorem dX19_told_41 : decode cX19_told 41 = .ok (.aload_n 0, 1) := dk_42 (dk_at dksX19_told_1 18 rfl rfl)
theorem dX19_told_42 : decode cX19_told 42 = .ok (.getfield 9, 3) := dk_180 0 9 (dk_at dksX19_told_1 19 rfl rfl)
theorem dX19_told_45 : decode cX19_told 45 = .ok (.iload 5, 2) := dk_21 5 (dk_at dksX19_told_1 22 rfl rfl)
theorem dX19_told_47 : decode cX19_told 47 = .ok (.invokevirtual 23, 3) := dk_182 0 23 (dk_at dksX19_told_2 0 rfl rfl)
theorem dX19_told_50 : decode cX19_told 50 = .ok (.checkcast 27, 3) := dk_192 0 27 (dk_at dksX19_told_2 3 rfl rfl)
theorem dX19_told_53 : decode cX19_told 53 = .ok (.aload_n 2, 1) := dk_44 (dk_at dksX19_told_2 6 rfl rfl)
theorem dX19_told_54 : decode cX19_told 54 = .ok (.invokevirtual 33, 3) := dk_182 0 33 (dk_at dksX19_told_2 7 rfl rfl)
theorem dX19_told_57 : decode cX19_told 57 = .ok (.lstore 6, 2) := dk_55 6 (dk_at dksX19_told_2 10 rfl rfl)
theorem dX19_told_59 : decode cX19_told 59 = .ok (.lload 6, 2) := dk_22 6 (dk_at dksX19_told_2 12 rfl rfl)
theorem dX19_told_61 : decode cX19_told 61 = .ok (.ldc2_w 15, 3) := dk_20 0 15 (dk_at dksX19_told_2 14 rfl rfl)
theorem dX19_told_64 : decode cX19_told 64 = .ok (.lcmp, 1) := dk_148 (dk_at dksX19_told_2 17 rfl rfl)
theorem dX19_told_65 : decode cX19_told 65 = .ok (.ifCond .eq 6, 3) := dk_153 0 6 (dk_at dksX19_told_2 18 rfl rfl)
theorem dX19_told_68 : decode cX19_told 68 = .ok (.lload 6, 2) := dk_22 6 (dk_at dksX19_told_2 21 rfl rfl)
theorem dX19_told_70 : decode cX19_told 70 = .ok (.lstore_n 3, 1) := dk_66 (dk_at dksX19_told_2 23 rfl rfl)
theorem dX19_told_71 : decode cX19_told 71 = .ok (.iinc 5 1, 3) := dk_132 5 1 (dk_at dksX19_told_3 0 rfl rfl)
theorem dX19_told_74 : decode cX19_told 74 = .ok (.goto (-67), 3) := dk_167 255 189 (dk_at dksX19_told_3 3 rfl rfl)
theorem dX19_told_77 : decode cX19_told 77 = .ok (.lload_n 3, 1) := dk_33 (dk_at dksX19_told_3 6 rfl rfl)
theorem dX19_told_78 : decode cX19_told 78 = .ok (.lreturn, 1) := dk_173 (dk_at dksX19_told_3 7 rfl rfl)
abbrev cX19_init : ByteArray := prog_7_method_1_code
def yX19_init : MethodName := ⟨RX19, "<init>", "(Ljava/util/ArrayList;)V"⟩
def dkwX19_init_0 : List UInt8 := [42, 183, 0, 3, 42, 43, 181, 0, 9, 177]
abbrev dktX19_init_0 : List UInt8 := dkwX19_init_0 ++ []
theorem dksX19_init_0 : cX19_init.data.toList.drop 0 = dktX19_init_0 := by decide +kernel
theorem dX19_init_0 : decode cX19_init 0 = .ok (.aload_n 0, 1) := dk_42 (dk_at dksX19_init_0 0 rfl rfl)
theorem dX19_init_1 : decode cX19_init 1 = .ok (.invokespecial 3, 3) := dk_183 0 3 (dk_at dksX19_init_0 1 rfl rfl)
theorem dX19_init_4 : decode cX19_init 4 = .ok (.aload_n 0, 1) := dk_42 (dk_at dksX19_init_0 4 rfl rfl)
theorem dX19_init_5 : decode cX19_init 5 = .ok (.aload_n 1, 1) := dk_43 (dk_at dksX19_init_0 5 rfl rfl)
theorem dX19_init_6 : decode cX19_init 6 = .ok (.putfield 9, 3) := dk_181 0 9 (dk_at dksX19_init_0 6 rfl rfl)
theorem dX19_init_9 : decode cX19_init 9 = .ok (.return_, 1) := dk_177 (dk_at dksX19_init_0 9 rfl rfl)
theorem q159 : (Jvm.Cond.initialized "RoseThrow$Law") ∈ lw_all := lw_g (lw_at lw_m1 34 rfl) rfl
theorem q492 : (Jvm.Cond.selects "RoseThrow$Law" ({ cls := "java/lang/Object", name := "getClass", desc := "()Ljava/lang/Class;" } : Jvm.MethodName) ({ cls := "java/lang/Object", name := "getClass", desc := "()Ljava/lang/Class;" } : Jvm.MethodName)) ∈ lw_all := lw_g (lw_at lw_m2 127 rfl) rfl
theorem q600 : (Jvm.Cond.instanceMethod ({ cls := "RoseThrow$Law", name := "told", desc := "(ILRoseThrow$Setting;)J" } : Jvm.MethodName)) ∈ lw_all := lw_g (lw_at lw_m2 235 rfl) rfl
theorem q601 : (Jvm.Cond.selects "RoseThrow$Law" ({ cls := "RoseThrow$Law", name := "told", desc := "(ILRoseThrow$Setting;)J" } : Jvm.MethodName) ({ cls := "RoseThrow$Law", name := "told", desc := "(ILRoseThrow$Setting;)J" } : Jvm.MethodName)) ∈ lw_all := lw_g (lw_at lw_m2 236 rfl) rfl
theorem q602 : (Jvm.Cond.code ({ cls := "RoseThrow$Law", name := "told", desc := "(ILRoseThrow$Setting;)J" } : Jvm.MethodName) prog_7_method_2_code (8 : Nat) (Option.some Jvm.ClassFile.FieldType.long)) ∈ lw_all := lw_g (lw_at lw_m2 237 rfl) rfl
theorem q603 : (Jvm.Cond.constantLong "RoseThrow$Law" (15 : Nat) (-4000000000 : Int64)) ∈ lw_all := lw_g (lw_at lw_m2 238 rfl) rfl
theorem q604 : (Jvm.Cond.methodLink "RoseThrow$Law" (17 : Nat) ({ cls := "java/util/ArrayList", name := "size", desc := "()I" } : Jvm.MethodName)) ∈ lw_all := lw_g (lw_at lw_m2 239 rfl) rfl
theorem q608 : (Jvm.Cond.methodLink "RoseThrow$Law" (23 : Nat) ({ cls := "java/util/ArrayList", name := "get", desc := "(I)Ljava/lang/Object;" } : Jvm.MethodName)) ∈ lw_all := lw_g (lw_at lw_m3 3 rfl) rfl
theorem q609 : (Jvm.Cond.classLink "RoseThrow$Law" (27 : Nat) "RoseThrow$Clause") ∈ lw_all := lw_g (lw_at lw_m3 4 rfl) rfl
theorem q610 : (Jvm.Cond.methodLink "RoseThrow$Law" (33 : Nat) ({ cls := "RoseThrow$Clause", name := "tells", desc := "(LRoseThrow$Setting;)J" } : Jvm.MethodName)) ∈ lw_all := lw_g (lw_at lw_m3 5 rfl) rfl
theorem q852 : (Jvm.Cond.fieldLinkNest "RoseThrow$Law" (29 : Nat) "RoseThrow$Clause" "head" "I" "RoseThrow") ∈ lw_tbl := lw_at lw_m4 7 rfl
theorem q1158 : (Jvm.Cond.instantiable "RoseThrow$Law" (1 : Nat)) ∈ lw_all := lw_g (lw_at lw_m5 73 rfl) rfl
theorem q1160 : (Jvm.Cond.instanceMethod ({ cls := "RoseThrow$Law", name := "<init>", desc := "(Ljava/util/ArrayList;)V" } : Jvm.MethodName)) ∈ lw_all := lw_g (lw_at lw_m5 75 rfl) rfl
theorem q1161 : (Jvm.Cond.code ({ cls := "RoseThrow$Law", name := "<init>", desc := "(Ljava/util/ArrayList;)V" } : Jvm.MethodName) prog_7_method_1_code (2 : Nat) (Option.none : Option Jvm.ClassFile.FieldType)) ∈ lw_all := lw_g (lw_at lw_m5 76 rfl) rfl
theorem q1162 : (Jvm.Cond.methodLink "RoseThrow$Law" (3 : Nat) ({ cls := "java/lang/Object", name := "<init>", desc := "()V" } : Jvm.MethodName)) ∈ lw_all := lw_g (lw_at lw_m5 77 rfl) rfl
theorem q1163 : (Jvm.Cond.fieldLink "RoseThrow$Law" (9 : Nat) "RoseThrow$Law" "clauses" "Ljava/util/ArrayList;") ∈ lw_all := lw_g (lw_at lw_m5 78 rfl) rfl
theorem q1164 : (Jvm.Cond.laysFinal "RoseThrow$Law" "RoseThrow$Law" "clauses" "Ljava/util/ArrayList;") ∈ lw_all := lw_g (lw_at lw_m5 79 rfl) rfl
theorem q1165 : (Jvm.Cond.soleField "RoseThrow$Law" "clauses") ∈ lw_all := lw_g (lw_at lw_m5 80 rfl) rfl
theorem q1166 : (Jvm.Cond.superclass "RoseThrow$Law" "java/lang/Object") ∈ lw_all := lw_g (lw_at lw_m5 81 rfl) rfl
theorem q2281 : (Jvm.Cond.castable "RoseThrow$Law" "java/lang/Object") ∈ lw_tbl := lw_at lw_m9 236 rfl
theorem in_X19 : ∀ w ∈ wsX190, w ∈ lw_all := lw_in wsX190 [1164] (by decide +kernel) (by decide +kernel)
/-! RoseThrow$OrderReader -/
set_option maxRecDepth 100000
def RX20 : String := "RoseThrow$OrderReader"
def TX20 : u_T := fun k => match k with
  | 0 => ("RoseThrow$Reader", "tape", "[B", true)
  | 1 => ("RoseThrow$Reader", "size", "I", true)
  | 2 => ("RoseThrow$Reader", "made", "I", false)
  | 3 => ("RoseThrow$Reader", "from", "I", false)
  | 4 => ("RoseThrow$Reader", "to", "I", false)
  | 5 => ("RoseThrow$Reader", "leaves", "I", false)
  | 6 => ("RoseThrow$Reader", "deep", "I", false)
  | _ => ("RoseThrow$OrderReader", "orders", "Ljava/util/ArrayList;", true)
def tyX20 : Nat → FieldType := fun k => match k with
  | 0 => .array .byte
  | 1 => .int
  | 2 => .int
  | 3 => .int
  | 4 => .int
  | 5 => .int
  | 6 => .int
  | _ => .object "java/util/ArrayList"
abbrev wsX200 : List Cond := u_ws RX20 TX20 8
theorem nmX20 : ∀ a, a < 8 → ∀ b, b < 8 → a ≠ b → (TX20 a).2.1 ≠ (TX20 b).2.1 := by decide +kernel
theorem tyX20_ok : ∀ k, k < 8 → parseFieldDescriptor (TX20 k).2.2.1 = some (tyX20 k) := by decide +kernel
abbrev cX20_value : ByteArray := prog_12_method_3_code
def yX20_value : MethodName := ⟨RX20, "value", "()I"⟩
def dkwX20_value_3 : List UInt8 := [167, 0, 4, 2, 172]
abbrev dktX20_value_3 : List UInt8 := dkwX20_value_3 ++ []
def dkwX20_value_2 : List UInt8 := [182, 0, 63, 96, 172, 42, 18, 94, 182, 0, 86, 153, 0, 15, 16, 9, 42, 3, 8, 182, 0, 63, 96]
abbrev dktX20_value_2 : List UInt8 := dkwX20_value_2 ++ dktX20_value_3
def dkwX20_value_1 : List UInt8 := [18, 91, 182, 0, 86, 153, 0, 5, 5, 172, 42, 18, 93, 182, 0, 86, 153, 0, 12, 6, 42, 3, 8]
abbrev dktX20_value_1 : List UInt8 := dkwX20_value_1 ++ dktX20_value_2
def dkwX20_value_0 : List UInt8 := [42, 18, 84, 182, 0, 86, 153, 0, 5, 3, 172, 42, 18, 89, 182, 0, 86, 153, 0, 5, 4, 172, 42]
abbrev dktX20_value_0 : List UInt8 := dkwX20_value_0 ++ dktX20_value_1
theorem dksX20_value_0 : cX20_value.data.toList.drop 0 = dktX20_value_0 := by decide +kernel
theorem dksX20_value_1 : cX20_value.data.toList.drop 23 = dktX20_value_1 := dk_seg dksX20_value_0 23 rfl rfl
theorem dksX20_value_2 : cX20_value.data.toList.drop 46 = dktX20_value_2 := dk_seg dksX20_value_1 23 rfl rfl
theorem dksX20_value_3 : cX20_value.data.toList.drop 69 = dktX20_value_3 := dk_seg dksX20_value_2 23 rfl rfl
theorem dX20_value_0 : decode cX20_value 0 = .ok (.aload_n 0, 1) := dk_42 (dk_at dksX20_value_0 0 rfl rfl)
theorem dX20_value_1 : decode cX20_value 1 = .ok (.ldc 84, 2) := dk_18 84 (dk_at dksX20_value_0 1 rfl rfl)
theorem dX20_value_3 : decode cX20_value 3 = .ok (.invokevirtual 86, 3) := dk_182 0 86 (dk_at dksX20_value_0 3 rfl rfl)
theorem dX20_value_6 : decode cX20_value 6 = .ok (.ifCond .eq 5, 3) := dk_153 0 5 (dk_at dksX20_value_0 6 rfl rfl)
theorem dX20_value_9 : decode cX20_value 9 = .ok (.iconst 0, 1) := dk_3 (dk_at dksX20_value_0 9 rfl rfl)
theorem dX20_value_10 : decode cX20_value 10 = .ok (.ireturn, 1) := dk_172 (dk_at dksX20_value_0 10 rfl rfl)
theorem dX20_value_11 : decode cX20_value 11 = .ok (.aload_n 0, 1) := dk_42 (dk_at dksX20_value_0 11 rfl rfl)
theorem dX20_value_12 : decode cX20_value 12 = .ok (.ldc 89, 2) := dk_18 89 (dk_at dksX20_value_0 12 rfl rfl)
theorem dX20_value_14 : decode cX20_value 14 = .ok (.invokevirtual 86, 3) := dk_182 0 86 (dk_at dksX20_value_0 14 rfl rfl)
theorem dX20_value_17 : decode cX20_value 17 = .ok (.ifCond .eq 5, 3) := dk_153 0 5 (dk_at dksX20_value_0 17 rfl rfl)
theorem dX20_value_20 : decode cX20_value 20 = .ok (.iconst 1, 1) := dk_4 (dk_at dksX20_value_0 20 rfl rfl)
theorem dX20_value_21 : decode cX20_value 21 = .ok (.ireturn, 1) := dk_172 (dk_at dksX20_value_0 21 rfl rfl)
theorem dX20_value_22 : decode cX20_value 22 = .ok (.aload_n 0, 1) := dk_42 (dk_at dksX20_value_0 22 rfl rfl)
theorem dX20_value_23 : decode cX20_value 23 = .ok (.ldc 91, 2) := dk_18 91 (dk_at dksX20_value_1 0 rfl rfl)
theorem dX20_value_25 : decode cX20_value 25 = .ok (.invokevirtual 86, 3) := dk_182 0 86 (dk_at dksX20_value_1 2 rfl rfl)
theorem dX20_value_28 : decode cX20_value 28 = .ok (.ifCond .eq 5, 3) := dk_153 0 5 (dk_at dksX20_value_1 5 rfl rfl)
theorem dX20_value_31 : decode cX20_value 31 = .ok (.iconst 2, 1) := dk_5 (dk_at dksX20_value_1 8 rfl rfl)
theorem dX20_value_32 : decode cX20_value 32 = .ok (.ireturn, 1) := dk_172 (dk_at dksX20_value_1 9 rfl rfl)
theorem dX20_value_33 : decode cX20_value 33 = .ok (.aload_n 0, 1) := dk_42 (dk_at dksX20_value_1 10 rfl rfl)
theorem dX20_value_34 : decode cX20_value 34 = .ok (.ldc 93, 2) := dk_18 93 (dk_at dksX20_value_1 11 rfl rfl)
theorem dX20_value_36 : decode cX20_value 36 = .ok (.invokevirtual 86, 3) := dk_182 0 86 (dk_at dksX20_value_1 13 rfl rfl)
theorem dX20_value_39 : decode cX20_value 39 = .ok (.ifCond .eq 12, 3) := dk_153 0 12 (dk_at dksX20_value_1 16 rfl rfl)
theorem dX20_value_42 : decode cX20_value 42 = .ok (.iconst 3, 1) := dk_6 (dk_at dksX20_value_1 19 rfl rfl)
theorem dX20_value_43 : decode cX20_value 43 = .ok (.aload_n 0, 1) := dk_42 (dk_at dksX20_value_1 20 rfl rfl)
theorem dX20_value_44 : decode cX20_value 44 = .ok (.iconst 0, 1) := dk_3 (dk_at dksX20_value_1 21 rfl rfl)
theorem dX20_value_45 : decode cX20_value 45 = .ok (.iconst 5, 1) := dk_8 (dk_at dksX20_value_1 22 rfl rfl)
theorem dX20_value_46 : decode cX20_value 46 = .ok (.invokevirtual 63, 3) := dk_182 0 63 (dk_at dksX20_value_2 0 rfl rfl)
theorem dX20_value_49 : decode cX20_value 49 = .ok (.iadd, 1) := dk_96 (dk_at dksX20_value_2 3 rfl rfl)
theorem dX20_value_50 : decode cX20_value 50 = .ok (.ireturn, 1) := dk_172 (dk_at dksX20_value_2 4 rfl rfl)
theorem dX20_value_51 : decode cX20_value 51 = .ok (.aload_n 0, 1) := dk_42 (dk_at dksX20_value_2 5 rfl rfl)
theorem dX20_value_52 : decode cX20_value 52 = .ok (.ldc 94, 2) := dk_18 94 (dk_at dksX20_value_2 6 rfl rfl)
theorem dX20_value_54 : decode cX20_value 54 = .ok (.invokevirtual 86, 3) := dk_182 0 86 (dk_at dksX20_value_2 8 rfl rfl)
theorem dX20_value_57 : decode cX20_value 57 = .ok (.ifCond .eq 15, 3) := dk_153 0 15 (dk_at dksX20_value_2 11 rfl rfl)
theorem dX20_value_60 : decode cX20_value 60 = .ok (.bipush 9, 2) := dk_16 9 (dk_at dksX20_value_2 14 rfl rfl)
theorem dX20_value_62 : decode cX20_value 62 = .ok (.aload_n 0, 1) := dk_42 (dk_at dksX20_value_2 16 rfl rfl)
theorem dX20_value_63 : decode cX20_value 63 = .ok (.iconst 0, 1) := dk_3 (dk_at dksX20_value_2 17 rfl rfl)
theorem dX20_value_64 : decode cX20_value 64 = .ok (.iconst 5, 1) := dk_8 (dk_at dksX20_value_2 18 rfl rfl)
theorem dX20_value_65 : decode cX20_value 65 = .ok (.invokevirtual 63, 3) := dk_182 0 63 (dk_at dksX20_value_2 19 rfl rfl)
theorem dX20_value_68 : decode cX20_value 68 = .ok (.iadd, 1) := dk_96 (dk_at dksX20_value_2 22 rfl rfl)
theorem dX20_value_69 : decode cX20_value 69 = .ok (.goto 4, 3) := dk_167 0 4 (dk_at dksX20_value_3 0 rfl rfl)
theorem dX20_value_72 : decode cX20_value 72 = .ok (.iconst (-1), 1) := dk_2 (dk_at dksX20_value_3 3 rfl rfl)
theorem dX20_value_73 : decode cX20_value 73 = .ok (.ireturn, 1) := dk_172 (dk_at dksX20_value_3 4 rfl rfl)
abbrev cX20_clause : ByteArray := prog_12_method_2_code
def yX20_clause : MethodName := ⟨RX20, "clause", "()V"⟩
def dkwX20_clause_6 : List UInt8 := [87, 177]
abbrev dktX20_clause_6 : List UInt8 := dkwX20_clause_6 ++ []
def dkwX20_clause_5 : List UInt8 := [18, 70, 182, 0, 60, 153, 0, 11, 44, 42, 182, 0, 72, 181, 0, 76, 42, 180, 0, 14, 44, 182, 0, 80]
abbrev dktX20_clause_5 : List UInt8 := dkwX20_clause_5 ++ dktX20_clause_6
def dkwX20_clause_4 : List UInt8 := [181, 0, 55, 42, 18, 58, 182, 0, 60, 153, 0, 14, 44, 42, 4, 16, 20, 182, 0, 63, 181, 0, 67, 42]
abbrev dktX20_clause_4 : List UInt8 := dkwX20_clause_4 ++ dktX20_clause_5
def dkwX20_clause_3 : List UInt8 := [159, 0, 25, 44, 42, 182, 0, 41, 181, 0, 45, 42, 18, 49, 182, 0, 51, 44, 42, 182, 0, 41]
abbrev dktX20_clause_3 : List UInt8 := dkwX20_clause_3 ++ dktX20_clause_4
def dkwX20_clause_2 : List UInt8 := [4, 167, 0, 4, 3, 182, 0, 30, 42, 182, 0, 34, 187, 0, 38, 89, 27, 183, 0, 40, 77, 27, 4]
abbrev dktX20_clause_2 : List UInt8 := dkwX20_clause_2 ++ dktX20_clause_3
def dkwX20_clause_1 : List UInt8 := [167, 0, 17, 42, 18, 28, 182, 0, 22, 153, 0, 7, 4, 167, 0, 4, 2, 60, 42, 27, 2, 159, 0, 7]
abbrev dktX20_clause_1 : List UInt8 := dkwX20_clause_1 ++ dktX20_clause_2
def dkwX20_clause_0 : List UInt8 := [42, 18, 20, 182, 0, 22, 153, 0, 7, 3, 167, 0, 30, 42, 18, 26, 182, 0, 22, 153, 0, 7, 5]
abbrev dktX20_clause_0 : List UInt8 := dkwX20_clause_0 ++ dktX20_clause_1
theorem dksX20_clause_0 : cX20_clause.data.toList.drop 0 = dktX20_clause_0 := by decide +kernel
theorem dksX20_clause_1 : cX20_clause.data.toList.drop 23 = dktX20_clause_1 := dk_seg dksX20_clause_0 23 rfl rfl
theorem dksX20_clause_2 : cX20_clause.data.toList.drop 47 = dktX20_clause_2 := dk_seg dksX20_clause_1 24 rfl rfl
theorem dksX20_clause_3 : cX20_clause.data.toList.drop 70 = dktX20_clause_3 := dk_seg dksX20_clause_2 23 rfl rfl
theorem dksX20_clause_4 : cX20_clause.data.toList.drop 92 = dktX20_clause_4 := dk_seg dksX20_clause_3 22 rfl rfl
theorem dksX20_clause_5 : cX20_clause.data.toList.drop 116 = dktX20_clause_5 := dk_seg dksX20_clause_4 24 rfl rfl
theorem dksX20_clause_6 : cX20_clause.data.toList.drop 140 = dktX20_clause_6 := dk_seg dksX20_clause_5 24 rfl rfl
theorem dX20_clause_0 : decode cX20_clause 0 = .ok (.aload_n 0, 1) := dk_42 (dk_at dksX20_clause_0 0 rfl rfl)
theorem dX20_clause_1 : decode cX20_clause 1 = .ok (.ldc 20, 2) := dk_18 20 (dk_at dksX20_clause_0 1 rfl rfl)
theorem dX20_clause_3 : decode cX20_clause 3 = .ok (.invokevirtual 22, 3) := dk_182 0 22 (dk_at dksX20_clause_0 3 rfl rfl)
theorem dX20_clause_6 : decode cX20_clause 6 = .ok (.ifCond .eq 7, 3) := dk_153 0 7 (dk_at dksX20_clause_0 6 rfl rfl)
theorem dX20_clause_9 : decode cX20_clause 9 = .ok (.iconst 0, 1) := dk_3 (dk_at dksX20_clause_0 9 rfl rfl)
theorem dX20_clause_10 : decode cX20_clause 10 = .ok (.goto 30, 3) := dk_167 0 30 (dk_at dksX20_clause_0 10 rfl rfl)
theorem dX20_clause_13 : decode cX20_clause 13 = .ok (.aload_n 0, 1) := dk_42 (dk_at dksX20_clause_0 13 rfl rfl)
theorem dX20_clause_14 : decode cX20_clause 14 = .ok (.ldc 26, 2) := dk_18 26 (dk_at dksX20_clause_0 14 rfl rfl)
theorem dX20_clause_16 : decode cX20_clause 16 = .ok (.invokevirtual 22, 3) := dk_182 0 22 (dk_at dksX20_clause_0 16 rfl rfl)
theorem dX20_clause_19 : decode cX20_clause 19 = .ok (.ifCond .eq 7, 3) := dk_153 0 7 (dk_at dksX20_clause_0 19 rfl rfl)
theorem dX20_clause_22 : decode cX20_clause 22 = .ok (.iconst 2, 1) := dk_5 (dk_at dksX20_clause_0 22 rfl rfl)
theorem dX20_clause_23 : decode cX20_clause 23 = .ok (.goto 17, 3) := dk_167 0 17 (dk_at dksX20_clause_1 0 rfl rfl)
theorem dX20_clause_26 : decode cX20_clause 26 = .ok (.aload_n 0, 1) := dk_42 (dk_at dksX20_clause_1 3 rfl rfl)
theorem dX20_clause_27 : decode cX20_clause 27 = .ok (.ldc 28, 2) := dk_18 28 (dk_at dksX20_clause_1 4 rfl rfl)
theorem dX20_clause_29 : decode cX20_clause 29 = .ok (.invokevirtual 22, 3) := dk_182 0 22 (dk_at dksX20_clause_1 6 rfl rfl)
theorem dX20_clause_32 : decode cX20_clause 32 = .ok (.ifCond .eq 7, 3) := dk_153 0 7 (dk_at dksX20_clause_1 9 rfl rfl)
theorem dX20_clause_35 : decode cX20_clause 35 = .ok (.iconst 1, 1) := dk_4 (dk_at dksX20_clause_1 12 rfl rfl)
theorem dX20_clause_36 : decode cX20_clause 36 = .ok (.goto 4, 3) := dk_167 0 4 (dk_at dksX20_clause_1 13 rfl rfl)
theorem dX20_clause_39 : decode cX20_clause 39 = .ok (.iconst (-1), 1) := dk_2 (dk_at dksX20_clause_1 16 rfl rfl)
theorem dX20_clause_40 : decode cX20_clause 40 = .ok (.istore_n 1, 1) := dk_60 (dk_at dksX20_clause_1 17 rfl rfl)
theorem dX20_clause_41 : decode cX20_clause 41 = .ok (.aload_n 0, 1) := dk_42 (dk_at dksX20_clause_1 18 rfl rfl)
theorem dX20_clause_42 : decode cX20_clause 42 = .ok (.iload_n 1, 1) := dk_27 (dk_at dksX20_clause_1 19 rfl rfl)
theorem dX20_clause_43 : decode cX20_clause 43 = .ok (.iconst (-1), 1) := dk_2 (dk_at dksX20_clause_1 20 rfl rfl)
theorem dX20_clause_44 : decode cX20_clause 44 = .ok (.if_icmp .eq 7, 3) := dk_159 0 7 (dk_at dksX20_clause_1 21 rfl rfl)
theorem dX20_clause_47 : decode cX20_clause 47 = .ok (.iconst 1, 1) := dk_4 (dk_at dksX20_clause_2 0 rfl rfl)
theorem dX20_clause_48 : decode cX20_clause 48 = .ok (.goto 4, 3) := dk_167 0 4 (dk_at dksX20_clause_2 1 rfl rfl)
theorem dX20_clause_51 : decode cX20_clause 51 = .ok (.iconst 0, 1) := dk_3 (dk_at dksX20_clause_2 4 rfl rfl)
theorem dX20_clause_52 : decode cX20_clause 52 = .ok (.invokevirtual 30, 3) := dk_182 0 30 (dk_at dksX20_clause_2 5 rfl rfl)
theorem dX20_clause_55 : decode cX20_clause 55 = .ok (.aload_n 0, 1) := dk_42 (dk_at dksX20_clause_2 8 rfl rfl)
theorem dX20_clause_56 : decode cX20_clause 56 = .ok (.invokevirtual 34, 3) := dk_182 0 34 (dk_at dksX20_clause_2 9 rfl rfl)
theorem dX20_clause_59 : decode cX20_clause 59 = .ok (.new 38, 3) := dk_187 0 38 (dk_at dksX20_clause_2 12 rfl rfl)
theorem dX20_clause_62 : decode cX20_clause 62 = .ok (.dup, 1) := dk_89 (dk_at dksX20_clause_2 15 rfl rfl)
theorem dX20_clause_63 : decode cX20_clause 63 = .ok (.iload_n 1, 1) := dk_27 (dk_at dksX20_clause_2 16 rfl rfl)
theorem dX20_clause_64 : decode cX20_clause 64 = .ok (.invokespecial 40, 3) := dk_183 0 40 (dk_at dksX20_clause_2 17 rfl rfl)
theorem dX20_clause_67 : decode cX20_clause 67 = .ok (.astore_n 2, 1) := dk_77 (dk_at dksX20_clause_2 20 rfl rfl)
theorem dX20_clause_68 : decode cX20_clause 68 = .ok (.iload_n 1, 1) := dk_27 (dk_at dksX20_clause_2 21 rfl rfl)
theorem dX20_clause_69 : decode cX20_clause 69 = .ok (.iconst 1, 1) := dk_4 (dk_at dksX20_clause_2 22 rfl rfl)
theorem dX20_clause_70 : decode cX20_clause 70 = .ok (.if_icmp .eq 25, 3) := dk_159 0 25 (dk_at dksX20_clause_3 0 rfl rfl)
theorem dX20_clause_73 : decode cX20_clause 73 = .ok (.aload_n 2, 1) := dk_44 (dk_at dksX20_clause_3 3 rfl rfl)
theorem dX20_clause_74 : decode cX20_clause 74 = .ok (.aload_n 0, 1) := dk_42 (dk_at dksX20_clause_3 4 rfl rfl)
theorem dX20_clause_75 : decode cX20_clause 75 = .ok (.invokevirtual 41, 3) := dk_182 0 41 (dk_at dksX20_clause_3 5 rfl rfl)
theorem dX20_clause_78 : decode cX20_clause 78 = .ok (.putfield 45, 3) := dk_181 0 45 (dk_at dksX20_clause_3 8 rfl rfl)
theorem dX20_clause_81 : decode cX20_clause 81 = .ok (.aload_n 0, 1) := dk_42 (dk_at dksX20_clause_3 11 rfl rfl)
theorem dX20_clause_82 : decode cX20_clause 82 = .ok (.ldc 49, 2) := dk_18 49 (dk_at dksX20_clause_3 12 rfl rfl)
theorem dX20_clause_84 : decode cX20_clause 84 = .ok (.invokevirtual 51, 3) := dk_182 0 51 (dk_at dksX20_clause_3 14 rfl rfl)
theorem dX20_clause_87 : decode cX20_clause 87 = .ok (.aload_n 2, 1) := dk_44 (dk_at dksX20_clause_3 17 rfl rfl)
theorem dX20_clause_88 : decode cX20_clause 88 = .ok (.aload_n 0, 1) := dk_42 (dk_at dksX20_clause_3 18 rfl rfl)
theorem dX20_clause_89 : decode cX20_clause 89 = .ok (.invokevirtual 41, 3) := dk_182 0 41 (dk_at dksX20_clause_3 19 rfl rfl)
theorem dX20_clause_92 : decode cX20_clause 92 = .ok (.putfield 55, 3) := dk_181 0 55 (dk_at dksX20_clause_4 0 rfl rfl)
theorem dX20_clause_95 : decode cX20_clause 95 = .ok (.aload_n 0, 1) := dk_42 (dk_at dksX20_clause_4 3 rfl rfl)
theorem dX20_clause_96 : decode cX20_clause 96 = .ok (.ldc 58, 2) := dk_18 58 (dk_at dksX20_clause_4 4 rfl rfl)
theorem dX20_clause_98 : decode cX20_clause 98 = .ok (.invokevirtual 60, 3) := dk_182 0 60 (dk_at dksX20_clause_4 6 rfl rfl)
theorem dX20_clause_101 : decode cX20_clause 101 = .ok (.ifCond .eq 14, 3) := dk_153 0 14 (dk_at dksX20_clause_4 9 rfl rfl)
theorem dX20_clause_104 : decode cX20_clause 104 = .ok (.aload_n 2, 1) := dk_44 (dk_at dksX20_clause_4 12 rfl rfl)
theorem dX20_clause_105 : decode cX20_clause 105 = .ok (.aload_n 0, 1) := dk_42 (dk_at dksX20_clause_4 13 rfl rfl)
theorem dX20_clause_106 : decode cX20_clause 106 = .ok (.iconst 1, 1) := dk_4 (dk_at dksX20_clause_4 14 rfl rfl)
theorem dX20_clause_107 : decode cX20_clause 107 = .ok (.bipush 20, 2) := dk_16 20 (dk_at dksX20_clause_4 15 rfl rfl)
theorem dX20_clause_109 : decode cX20_clause 109 = .ok (.invokevirtual 63, 3) := dk_182 0 63 (dk_at dksX20_clause_4 17 rfl rfl)
theorem dX20_clause_112 : decode cX20_clause 112 = .ok (.putfield 67, 3) := dk_181 0 67 (dk_at dksX20_clause_4 20 rfl rfl)
theorem dX20_clause_115 : decode cX20_clause 115 = .ok (.aload_n 0, 1) := dk_42 (dk_at dksX20_clause_4 23 rfl rfl)
theorem dX20_clause_116 : decode cX20_clause 116 = .ok (.ldc 70, 2) := dk_18 70 (dk_at dksX20_clause_5 0 rfl rfl)
theorem dX20_clause_118 : decode cX20_clause 118 = .ok (.invokevirtual 60, 3) := dk_182 0 60 (dk_at dksX20_clause_5 2 rfl rfl)
theorem dX20_clause_121 : decode cX20_clause 121 = .ok (.ifCond .eq 11, 3) := dk_153 0 11 (dk_at dksX20_clause_5 5 rfl rfl)
theorem dX20_clause_124 : decode cX20_clause 124 = .ok (.aload_n 2, 1) := dk_44 (dk_at dksX20_clause_5 8 rfl rfl)
theorem dX20_clause_125 : decode cX20_clause 125 = .ok (.aload_n 0, 1) := dk_42 (dk_at dksX20_clause_5 9 rfl rfl)
theorem dX20_clause_126 : decode cX20_clause 126 = .ok (.invokevirtual 72, 3) := dk_182 0 72 (dk_at dksX20_clause_5 10 rfl rfl)
theorem dX20_clause_129 : decode cX20_clause 129 = .ok (.putfield 76, 3) := dk_181 0 76 (dk_at dksX20_clause_5 13 rfl rfl)
theorem dX20_clause_132 : decode cX20_clause 132 = .ok (.aload_n 0, 1) := dk_42 (dk_at dksX20_clause_5 16 rfl rfl)
theorem dX20_clause_133 : decode cX20_clause 133 = .ok (.getfield 14, 3) := dk_180 0 14 (dk_at dksX20_clause_5 17 rfl rfl)
theorem dX20_clause_136 : decode cX20_clause 136 = .ok (.aload_n 2, 1) := dk_44 (dk_at dksX20_clause_5 20 rfl rfl)
theorem dX20_clause_137 : decode cX20_clause 137 = .ok (.invokevirtual 80, 3) := dk_182 0 80 (dk_at dksX20_clause_5 21 rfl rfl)
theorem dX20_clause_140 : decode cX20_clause 140 = .ok (.pop, 1) := dk_87 (dk_at dksX20_clause_6 0 rfl rfl)
theorem dX20_clause_141 : decode cX20_clause 141 = .ok (.return_, 1) := dk_177 (dk_at dksX20_clause_6 1 rfl rfl)
abbrev cX20_init : ByteArray := prog_12_method_1_code
def yX20_init : MethodName := ⟨RX20, "<init>", "([BI)V"⟩
def dkwX20_init_0 : List UInt8 := [42, 43, 28, 183, 0, 3, 42, 187, 0, 9, 89, 5, 183, 0, 11, 181, 0, 14, 177]
abbrev dktX20_init_0 : List UInt8 := dkwX20_init_0 ++ []
theorem dksX20_init_0 : cX20_init.data.toList.drop 0 = dktX20_init_0 := by decide +kernel
theorem dX20_init_0 : decode cX20_init 0 = .ok (.aload_n 0, 1) := dk_42 (dk_at dksX20_init_0 0 rfl rfl)
theorem dX20_init_1 : decode cX20_init 1 = .ok (.aload_n 1, 1) := dk_43 (dk_at dksX20_init_0 1 rfl rfl)
theorem dX20_init_2 : decode cX20_init 2 = .ok (.iload_n 2, 1) := dk_28 (dk_at dksX20_init_0 2 rfl rfl)
theorem dX20_init_3 : decode cX20_init 3 = .ok (.invokespecial 3, 3) := dk_183 0 3 (dk_at dksX20_init_0 3 rfl rfl)
theorem dX20_init_6 : decode cX20_init 6 = .ok (.aload_n 0, 1) := dk_42 (dk_at dksX20_init_0 6 rfl rfl)
theorem dX20_init_7 : decode cX20_init 7 = .ok (.new 9, 3) := dk_187 0 9 (dk_at dksX20_init_0 7 rfl rfl)
theorem dX20_init_10 : decode cX20_init 10 = .ok (.dup, 1) := dk_89 (dk_at dksX20_init_0 10 rfl rfl)
theorem dX20_init_11 : decode cX20_init 11 = .ok (.iconst 2, 1) := dk_5 (dk_at dksX20_init_0 11 rfl rfl)
theorem dX20_init_12 : decode cX20_init 12 = .ok (.invokespecial 11, 3) := dk_183 0 11 (dk_at dksX20_init_0 12 rfl rfl)
theorem dX20_init_15 : decode cX20_init 15 = .ok (.putfield 14, 3) := dk_181 0 14 (dk_at dksX20_init_0 15 rfl rfl)
theorem dX20_init_18 : decode cX20_init 18 = .ok (.return_, 1) := dk_177 (dk_at dksX20_init_0 18 rfl rfl)
theorem q160 : (Jvm.Cond.initialized "RoseThrow$OrderReader") ∈ lw_all := lw_g (lw_at lw_m1 35 rfl) rfl
theorem q497 : (Jvm.Cond.selects "RoseThrow$OrderReader" ({ cls := "java/lang/Object", name := "getClass", desc := "()Ljava/lang/Class;" } : Jvm.MethodName) ({ cls := "java/lang/Object", name := "getClass", desc := "()Ljava/lang/Class;" } : Jvm.MethodName)) ∈ lw_all := lw_g (lw_at lw_m2 132 rfl) rfl
theorem q740 : (Jvm.Cond.selects "RoseThrow$OrderReader" ({ cls := "RoseThrow$Reader", name := "read", desc := "()V" } : Jvm.MethodName) ({ cls := "RoseThrow$Reader", name := "read", desc := "()V" } : Jvm.MethodName)) ∈ lw_all := lw_g (lw_at lw_m3 135 rfl) rfl
theorem q746 : (Jvm.Cond.selects "RoseThrow$OrderReader" ({ cls := "RoseThrow$Reader", name := "next", desc := "()V" } : Jvm.MethodName) ({ cls := "RoseThrow$Reader", name := "next", desc := "()V" } : Jvm.MethodName)) ∈ lw_all := lw_g (lw_at lw_m3 141 rfl) rfl
theorem q752 : (Jvm.Cond.selects "RoseThrow$OrderReader" ({ cls := "RoseThrow$Reader", name := "isIn", desc := "(III)Z" } : Jvm.MethodName) ({ cls := "RoseThrow$Reader", name := "isIn", desc := "(III)Z" } : Jvm.MethodName)) ∈ lw_all := lw_g (lw_at lw_m3 147 rfl) rfl
theorem q874 : (Jvm.Cond.selects "RoseThrow$OrderReader" ({ cls := "RoseThrow$Reader", name := "term", desc := "()LRoseThrow$Sum;" } : Jvm.MethodName) ({ cls := "RoseThrow$Reader", name := "term", desc := "()LRoseThrow$Sum;" } : Jvm.MethodName)) ∈ lw_all := lw_g (lw_at lw_m4 29 rfl) rfl
theorem q880 : (Jvm.Cond.selects "RoseThrow$OrderReader" ({ cls := "RoseThrow$Reader", name := "part", desc := "()LRoseThrow$Sum;" } : Jvm.MethodName) ({ cls := "RoseThrow$Reader", name := "part", desc := "()LRoseThrow$Sum;" } : Jvm.MethodName)) ∈ lw_all := lw_g (lw_at lw_m4 35 rfl) rfl
theorem q888 : (Jvm.Cond.selects "RoseThrow$OrderReader" ({ cls := "RoseThrow$Reader", name := "opens", desc := "()V" } : Jvm.MethodName) ({ cls := "RoseThrow$Reader", name := "opens", desc := "()V" } : Jvm.MethodName)) ∈ lw_all := lw_g (lw_at lw_m4 43 rfl) rfl
theorem q896 : (Jvm.Cond.selects "RoseThrow$OrderReader" ({ cls := "RoseThrow$Reader", name := "need", desc := "(Ljava/lang/String;)V" } : Jvm.MethodName) ({ cls := "RoseThrow$Reader", name := "need", desc := "(Ljava/lang/String;)V" } : Jvm.MethodName)) ∈ lw_all := lw_g (lw_at lw_m4 51 rfl) rfl
theorem q902 : (Jvm.Cond.selects "RoseThrow$OrderReader" ({ cls := "RoseThrow$Reader", name := "takes", desc := "(Ljava/lang/String;)Z" } : Jvm.MethodName) ({ cls := "RoseThrow$Reader", name := "takes", desc := "(Ljava/lang/String;)Z" } : Jvm.MethodName)) ∈ lw_all := lw_g (lw_at lw_m4 57 rfl) rfl
theorem q908 : (Jvm.Cond.selects "RoseThrow$OrderReader" ({ cls := "RoseThrow$Reader", name := "leaf", desc := "()V" } : Jvm.MethodName) ({ cls := "RoseThrow$Reader", name := "leaf", desc := "()V" } : Jvm.MethodName)) ∈ lw_all := lw_g (lw_at lw_m4 63 rfl) rfl
theorem q916 : (Jvm.Cond.selects "RoseThrow$OrderReader" ({ cls := "RoseThrow$Reader", name := "number", desc := "(II)I" } : Jvm.MethodName) ({ cls := "RoseThrow$Reader", name := "number", desc := "(II)I" } : Jvm.MethodName)) ∈ lw_all := lw_g (lw_at lw_m4 71 rfl) rfl
theorem q955 : (Jvm.Cond.selects "RoseThrow$OrderReader" ({ cls := "RoseThrow$Reader", name := "value", desc := "()I" } : Jvm.MethodName) ({ cls := "RoseThrow$OrderReader", name := "value", desc := "()I" } : Jvm.MethodName)) ∈ lw_all := lw_g (lw_at lw_m4 110 rfl) rfl
theorem q956 : (Jvm.Cond.instanceMethod ({ cls := "RoseThrow$OrderReader", name := "value", desc := "()I" } : Jvm.MethodName)) ∈ lw_all := lw_g (lw_at lw_m4 111 rfl) rfl
theorem q957 : (Jvm.Cond.code ({ cls := "RoseThrow$OrderReader", name := "value", desc := "()I" } : Jvm.MethodName) prog_12_method_3_code (1 : Nat) (Option.some Jvm.ClassFile.FieldType.int)) ∈ lw_all := lw_g (lw_at lw_m4 112 rfl) rfl
theorem q958 : (Jvm.Cond.stringRef "RoseThrow$OrderReader" (84 : Nat) "catchers") ∈ lw_tbl := lw_at lw_m4 113 rfl
theorem q959 : (Jvm.Cond.methodLink "RoseThrow$OrderReader" (86 : Nat) ({ cls := "RoseThrow$OrderReader", name := "isValue", desc := "(Ljava/lang/String;)Z" } : Jvm.MethodName)) ∈ lw_all := lw_g (lw_at lw_m4 114 rfl) rfl
theorem q960 : (Jvm.Cond.sameMethod "RoseThrow$OrderReader" "RoseThrow$Reader" "isValue" "(Ljava/lang/String;)Z") ∈ lw_all := lw_g (lw_at lw_m4 115 rfl) rfl
theorem q961 : (Jvm.Cond.selects "RoseThrow$OrderReader" ({ cls := "RoseThrow$OrderReader", name := "isValue", desc := "(Ljava/lang/String;)Z" } : Jvm.MethodName) ({ cls := "RoseThrow$Reader", name := "isValue", desc := "(Ljava/lang/String;)Z" } : Jvm.MethodName)) ∈ lw_all := lw_g (lw_at lw_m4 116 rfl) rfl
theorem q962 : (Jvm.Cond.stringRef "RoseThrow$OrderReader" (89 : Nat) "done") ∈ lw_tbl := lw_at lw_m4 117 rfl
theorem q963 : (Jvm.Cond.stringRef "RoseThrow$OrderReader" (91 : Nat) "rushed") ∈ lw_tbl := lw_at lw_m4 118 rfl
theorem q964 : (Jvm.Cond.stringRef "RoseThrow$OrderReader" (93 : Nat) "cell") ∈ lw_tbl := lw_at lw_m4 119 rfl
theorem q965 : (Jvm.Cond.methodLink "RoseThrow$OrderReader" (63 : Nat) ({ cls := "RoseThrow$OrderReader", name := "number", desc := "(II)I" } : Jvm.MethodName)) ∈ lw_all := lw_g (lw_at lw_m4 120 rfl) rfl
theorem q966 : (Jvm.Cond.sameMethod "RoseThrow$OrderReader" "RoseThrow$Reader" "number" "(II)I") ∈ lw_all := lw_g (lw_at lw_m4 121 rfl) rfl
theorem q968 : (Jvm.Cond.selects "RoseThrow$OrderReader" ({ cls := "RoseThrow$OrderReader", name := "number", desc := "(II)I" } : Jvm.MethodName) ({ cls := "RoseThrow$Reader", name := "number", desc := "(II)I" } : Jvm.MethodName)) ∈ lw_all := lw_g (lw_at lw_m4 123 rfl) rfl
theorem q969 : (Jvm.Cond.stringRef "RoseThrow$OrderReader" (94 : Nat) "belief") ∈ lw_tbl := lw_at lw_m4 124 rfl
theorem q1016 : (Jvm.Cond.selects "RoseThrow$OrderReader" ({ cls := "RoseThrow$Reader", name := "both", desc := "()LRoseThrow$Test;" } : Jvm.MethodName) ({ cls := "RoseThrow$Reader", name := "both", desc := "()LRoseThrow$Test;" } : Jvm.MethodName)) ∈ lw_all := lw_g (lw_at lw_m4 171 rfl) rfl
theorem q1022 : (Jvm.Cond.selects "RoseThrow$OrderReader" ({ cls := "RoseThrow$Reader", name := "plain", desc := "()LRoseThrow$Test;" } : Jvm.MethodName) ({ cls := "RoseThrow$Reader", name := "plain", desc := "()LRoseThrow$Test;" } : Jvm.MethodName)) ∈ lw_all := lw_g (lw_at lw_m4 177 rfl) rfl
theorem q1029 : (Jvm.Cond.selects "RoseThrow$OrderReader" ({ cls := "RoseThrow$Reader", name := "positive", desc := "()LRoseThrow$Test;" } : Jvm.MethodName) ({ cls := "RoseThrow$Reader", name := "positive", desc := "()LRoseThrow$Test;" } : Jvm.MethodName)) ∈ lw_all := lw_g (lw_at lw_m4 184 rfl) rfl
theorem q1097 : (Jvm.Cond.selects "RoseThrow$OrderReader" ({ cls := "RoseThrow$Reader", name := "clause", desc := "()V" } : Jvm.MethodName) ({ cls := "RoseThrow$OrderReader", name := "clause", desc := "()V" } : Jvm.MethodName)) ∈ lw_all := lw_g (lw_at lw_m5 12 rfl) rfl
theorem q1098 : (Jvm.Cond.instanceMethod ({ cls := "RoseThrow$OrderReader", name := "clause", desc := "()V" } : Jvm.MethodName)) ∈ lw_all := lw_g (lw_at lw_m5 13 rfl) rfl
theorem q1099 : (Jvm.Cond.code ({ cls := "RoseThrow$OrderReader", name := "clause", desc := "()V" } : Jvm.MethodName) prog_12_method_2_code (3 : Nat) (Option.none : Option Jvm.ClassFile.FieldType)) ∈ lw_all := lw_g (lw_at lw_m5 14 rfl) rfl
theorem q1100 : (Jvm.Cond.stringRef "RoseThrow$OrderReader" (20 : Nat) "go") ∈ lw_tbl := lw_at lw_m5 15 rfl
theorem q1101 : (Jvm.Cond.methodLink "RoseThrow$OrderReader" (22 : Nat) ({ cls := "RoseThrow$OrderReader", name := "is", desc := "(Ljava/lang/String;)Z" } : Jvm.MethodName)) ∈ lw_all := lw_g (lw_at lw_m5 16 rfl) rfl
theorem q1102 : (Jvm.Cond.sameMethod "RoseThrow$OrderReader" "RoseThrow$Reader" "is" "(Ljava/lang/String;)Z") ∈ lw_all := lw_g (lw_at lw_m5 17 rfl) rfl
theorem q1103 : (Jvm.Cond.selects "RoseThrow$OrderReader" ({ cls := "RoseThrow$OrderReader", name := "is", desc := "(Ljava/lang/String;)Z" } : Jvm.MethodName) ({ cls := "RoseThrow$Reader", name := "is", desc := "(Ljava/lang/String;)Z" } : Jvm.MethodName)) ∈ lw_all := lw_g (lw_at lw_m5 18 rfl) rfl
theorem q1104 : (Jvm.Cond.stringRef "RoseThrow$OrderReader" (26 : Nat) "believe") ∈ lw_tbl := lw_at lw_m5 19 rfl
theorem q1105 : (Jvm.Cond.stringRef "RoseThrow$OrderReader" (28 : Nat) "rush") ∈ lw_tbl := lw_at lw_m5 20 rfl
theorem q1106 : (Jvm.Cond.methodLink "RoseThrow$OrderReader" (30 : Nat) ({ cls := "RoseThrow$OrderReader", name := "begins", desc := "(Z)V" } : Jvm.MethodName)) ∈ lw_all := lw_g (lw_at lw_m5 21 rfl) rfl
theorem q1107 : (Jvm.Cond.sameMethod "RoseThrow$OrderReader" "RoseThrow$Reader" "begins" "(Z)V") ∈ lw_all := lw_g (lw_at lw_m5 22 rfl) rfl
theorem q1108 : (Jvm.Cond.selects "RoseThrow$OrderReader" ({ cls := "RoseThrow$OrderReader", name := "begins", desc := "(Z)V" } : Jvm.MethodName) ({ cls := "RoseThrow$Reader", name := "begins", desc := "(Z)V" } : Jvm.MethodName)) ∈ lw_all := lw_g (lw_at lw_m5 23 rfl) rfl
theorem q1109 : (Jvm.Cond.methodLink "RoseThrow$OrderReader" (34 : Nat) ({ cls := "RoseThrow$OrderReader", name := "next", desc := "()V" } : Jvm.MethodName)) ∈ lw_all := lw_g (lw_at lw_m5 24 rfl) rfl
theorem q1110 : (Jvm.Cond.sameMethod "RoseThrow$OrderReader" "RoseThrow$Reader" "next" "()V") ∈ lw_all := lw_g (lw_at lw_m5 25 rfl) rfl
theorem q1111 : (Jvm.Cond.selects "RoseThrow$OrderReader" ({ cls := "RoseThrow$OrderReader", name := "next", desc := "()V" } : Jvm.MethodName) ({ cls := "RoseThrow$Reader", name := "next", desc := "()V" } : Jvm.MethodName)) ∈ lw_all := lw_g (lw_at lw_m5 26 rfl) rfl
theorem q1112 : (Jvm.Cond.classLink "RoseThrow$OrderReader" (38 : Nat) "RoseThrow$Order") ∈ lw_all := lw_g (lw_at lw_m5 27 rfl) rfl
theorem q1114 : (Jvm.Cond.methodLink "RoseThrow$OrderReader" (40 : Nat) ({ cls := "RoseThrow$Order", name := "<init>", desc := "(I)V" } : Jvm.MethodName)) ∈ lw_all := lw_g (lw_at lw_m5 29 rfl) rfl
theorem q1120 : (Jvm.Cond.fieldLinkNest "RoseThrow$OrderReader" (45 : Nat) "RoseThrow$Order" "catcher" "LRoseThrow$Sum;" "RoseThrow") ∈ lw_tbl := lw_at lw_m5 35 rfl
theorem q1122 : (Jvm.Cond.fieldLinkNest "RoseThrow$OrderReader" (55 : Nat) "RoseThrow$Order" "cell" "LRoseThrow$Sum;" "RoseThrow") ∈ lw_tbl := lw_at lw_m5 37 rfl
theorem q1125 : (Jvm.Cond.fieldLinkNest "RoseThrow$OrderReader" (67 : Nat) "RoseThrow$Order" "times" "I" "RoseThrow") ∈ lw_tbl := lw_at lw_m5 40 rfl
theorem q1128 : (Jvm.Cond.fieldLinkNest "RoseThrow$OrderReader" (76 : Nat) "RoseThrow$Order" "when" "LRoseThrow$Test;" "RoseThrow") ∈ lw_tbl := lw_at lw_m5 43 rfl
theorem q1140 : (Jvm.Cond.methodLink "RoseThrow$OrderReader" (41 : Nat) ({ cls := "RoseThrow$OrderReader", name := "sum", desc := "()LRoseThrow$Sum;" } : Jvm.MethodName)) ∈ lw_all := lw_g (lw_at lw_m5 55 rfl) rfl
theorem q1141 : (Jvm.Cond.sameMethod "RoseThrow$OrderReader" "RoseThrow$Reader" "sum" "()LRoseThrow$Sum;") ∈ lw_all := lw_g (lw_at lw_m5 56 rfl) rfl
theorem q1142 : (Jvm.Cond.selects "RoseThrow$OrderReader" ({ cls := "RoseThrow$OrderReader", name := "sum", desc := "()LRoseThrow$Sum;" } : Jvm.MethodName) ({ cls := "RoseThrow$Reader", name := "sum", desc := "()LRoseThrow$Sum;" } : Jvm.MethodName)) ∈ lw_all := lw_g (lw_at lw_m5 57 rfl) rfl
theorem q1143 : (Jvm.Cond.stringRef "RoseThrow$OrderReader" (49 : Nat) "at") ∈ lw_tbl := lw_at lw_m5 58 rfl
theorem q1144 : (Jvm.Cond.methodLink "RoseThrow$OrderReader" (51 : Nat) ({ cls := "RoseThrow$OrderReader", name := "need", desc := "(Ljava/lang/String;)V" } : Jvm.MethodName)) ∈ lw_all := lw_g (lw_at lw_m5 59 rfl) rfl
theorem q1145 : (Jvm.Cond.sameMethod "RoseThrow$OrderReader" "RoseThrow$Reader" "need" "(Ljava/lang/String;)V") ∈ lw_all := lw_g (lw_at lw_m5 60 rfl) rfl
theorem q1147 : (Jvm.Cond.selects "RoseThrow$OrderReader" ({ cls := "RoseThrow$OrderReader", name := "need", desc := "(Ljava/lang/String;)V" } : Jvm.MethodName) ({ cls := "RoseThrow$Reader", name := "need", desc := "(Ljava/lang/String;)V" } : Jvm.MethodName)) ∈ lw_all := lw_g (lw_at lw_m5 62 rfl) rfl
theorem q1148 : (Jvm.Cond.stringRef "RoseThrow$OrderReader" (58 : Nat) "times") ∈ lw_tbl := lw_at lw_m5 63 rfl
theorem q1149 : (Jvm.Cond.methodLink "RoseThrow$OrderReader" (60 : Nat) ({ cls := "RoseThrow$OrderReader", name := "takes", desc := "(Ljava/lang/String;)Z" } : Jvm.MethodName)) ∈ lw_all := lw_g (lw_at lw_m5 64 rfl) rfl
theorem q1150 : (Jvm.Cond.sameMethod "RoseThrow$OrderReader" "RoseThrow$Reader" "takes" "(Ljava/lang/String;)Z") ∈ lw_all := lw_g (lw_at lw_m5 65 rfl) rfl
theorem q1151 : (Jvm.Cond.selects "RoseThrow$OrderReader" ({ cls := "RoseThrow$OrderReader", name := "takes", desc := "(Ljava/lang/String;)Z" } : Jvm.MethodName) ({ cls := "RoseThrow$Reader", name := "takes", desc := "(Ljava/lang/String;)Z" } : Jvm.MethodName)) ∈ lw_all := lw_g (lw_at lw_m5 66 rfl) rfl
theorem q1152 : (Jvm.Cond.stringRef "RoseThrow$OrderReader" (70 : Nat) "if") ∈ lw_tbl := lw_at lw_m5 67 rfl
theorem q1153 : (Jvm.Cond.methodLink "RoseThrow$OrderReader" (72 : Nat) ({ cls := "RoseThrow$OrderReader", name := "test", desc := "()LRoseThrow$Test;" } : Jvm.MethodName)) ∈ lw_all := lw_g (lw_at lw_m5 68 rfl) rfl
theorem q1154 : (Jvm.Cond.sameMethod "RoseThrow$OrderReader" "RoseThrow$Reader" "test" "()LRoseThrow$Test;") ∈ lw_all := lw_g (lw_at lw_m5 69 rfl) rfl
theorem q1155 : (Jvm.Cond.selects "RoseThrow$OrderReader" ({ cls := "RoseThrow$OrderReader", name := "test", desc := "()LRoseThrow$Test;" } : Jvm.MethodName) ({ cls := "RoseThrow$Reader", name := "test", desc := "()LRoseThrow$Test;" } : Jvm.MethodName)) ∈ lw_all := lw_g (lw_at lw_m5 70 rfl) rfl
theorem q1156 : (Jvm.Cond.methodLink "RoseThrow$OrderReader" (80 : Nat) ({ cls := "java/util/ArrayList", name := "add", desc := "(Ljava/lang/Object;)Z" } : Jvm.MethodName)) ∈ lw_all := lw_g (lw_at lw_m5 71 rfl) rfl
theorem q1415 : (Jvm.Cond.instantiable "RoseThrow$OrderReader" (8 : Nat)) ∈ lw_all := lw_g (lw_at lw_m6 90 rfl) rfl
theorem q1417 : (Jvm.Cond.instanceMethod ({ cls := "RoseThrow$OrderReader", name := "<init>", desc := "([BI)V" } : Jvm.MethodName)) ∈ lw_all := lw_g (lw_at lw_m6 92 rfl) rfl
theorem q1418 : (Jvm.Cond.code ({ cls := "RoseThrow$OrderReader", name := "<init>", desc := "([BI)V" } : Jvm.MethodName) prog_12_method_1_code (3 : Nat) (Option.none : Option Jvm.ClassFile.FieldType)) ∈ lw_all := lw_g (lw_at lw_m6 93 rfl) rfl
theorem q1419 : (Jvm.Cond.methodLink "RoseThrow$OrderReader" (3 : Nat) ({ cls := "RoseThrow$Reader", name := "<init>", desc := "([BI)V" } : Jvm.MethodName)) ∈ lw_all := lw_g (lw_at lw_m6 94 rfl) rfl
theorem q1420 : (Jvm.Cond.classLink "RoseThrow$OrderReader" (9 : Nat) "java/util/ArrayList") ∈ lw_all := lw_g (lw_at lw_m6 95 rfl) rfl
theorem q1421 : (Jvm.Cond.methodLink "RoseThrow$OrderReader" (11 : Nat) ({ cls := "java/util/ArrayList", name := "<init>", desc := "(I)V" } : Jvm.MethodName)) ∈ lw_all := lw_g (lw_at lw_m6 96 rfl) rfl
theorem q1422 : (Jvm.Cond.fieldLink "RoseThrow$OrderReader" (14 : Nat) "RoseThrow$OrderReader" "orders" "Ljava/util/ArrayList;") ∈ lw_all := lw_g (lw_at lw_m6 97 rfl) rfl
theorem q1424 : (Jvm.Cond.laysFinal "RoseThrow$OrderReader" "RoseThrow$OrderReader" "orders" "Ljava/util/ArrayList;") ∈ lw_all := lw_g (lw_at lw_m6 99 rfl) rfl
theorem q1425 : (Jvm.Cond.soleField "RoseThrow$OrderReader" "orders") ∈ lw_all := lw_g (lw_at lw_m6 100 rfl) rfl
theorem q1426 : (Jvm.Cond.laysFinal "RoseThrow$OrderReader" "RoseThrow$Reader" "tape" "[B") ∈ lw_all := lw_g (lw_at lw_m6 101 rfl) rfl
theorem q1427 : (Jvm.Cond.laysFinal "RoseThrow$OrderReader" "RoseThrow$Reader" "size" "I") ∈ lw_all := lw_g (lw_at lw_m6 102 rfl) rfl
theorem q1428 : (Jvm.Cond.lays "RoseThrow$OrderReader" "RoseThrow$Reader" "made" "I") ∈ lw_all := lw_g (lw_at lw_m6 103 rfl) rfl
theorem q1429 : (Jvm.Cond.lays "RoseThrow$OrderReader" "RoseThrow$Reader" "from" "I") ∈ lw_all := lw_g (lw_at lw_m6 104 rfl) rfl
theorem q1430 : (Jvm.Cond.lays "RoseThrow$OrderReader" "RoseThrow$Reader" "to" "I") ∈ lw_all := lw_g (lw_at lw_m6 105 rfl) rfl
theorem q1431 : (Jvm.Cond.lays "RoseThrow$OrderReader" "RoseThrow$Reader" "leaves" "I") ∈ lw_all := lw_g (lw_at lw_m6 106 rfl) rfl
theorem q1432 : (Jvm.Cond.lays "RoseThrow$OrderReader" "RoseThrow$Reader" "deep" "I") ∈ lw_all := lw_g (lw_at lw_m6 107 rfl) rfl
theorem q1433 : (Jvm.Cond.superclass "RoseThrow$OrderReader" "RoseThrow$Reader") ∈ lw_all := lw_g (lw_at lw_m6 108 rfl) rfl
theorem q2254 : (Jvm.Cond.selects "RoseThrow$OrderReader" ({ cls := "RoseThrow$Reader", name := "is", desc := "(Ljava/lang/String;)Z" } : Jvm.MethodName) ({ cls := "RoseThrow$Reader", name := "is", desc := "(Ljava/lang/String;)Z" } : Jvm.MethodName)) ∈ lw_all := lw_g (lw_at lw_m9 209 rfl) rfl
theorem q2257 : (Jvm.Cond.selects "RoseThrow$OrderReader" ({ cls := "RoseThrow$Reader", name := "sum", desc := "()LRoseThrow$Sum;" } : Jvm.MethodName) ({ cls := "RoseThrow$Reader", name := "sum", desc := "()LRoseThrow$Sum;" } : Jvm.MethodName)) ∈ lw_all := lw_g (lw_at lw_m9 212 rfl) rfl
theorem q2260 : (Jvm.Cond.selects "RoseThrow$OrderReader" ({ cls := "RoseThrow$Reader", name := "test", desc := "()LRoseThrow$Test;" } : Jvm.MethodName) ({ cls := "RoseThrow$Reader", name := "test", desc := "()LRoseThrow$Test;" } : Jvm.MethodName)) ∈ lw_all := lw_g (lw_at lw_m9 215 rfl) rfl
theorem q2282 : (Jvm.Cond.castable "RoseThrow$OrderReader" "java/lang/Object") ∈ lw_tbl := lw_at lw_m9 237 rfl
theorem in_X20 : ∀ w ∈ wsX200, w ∈ lw_all := lw_in wsX200 [1426, 1427, 1428, 1429, 1430, 1431, 1432, 1424] (by decide +kernel) (by decide +kernel)
