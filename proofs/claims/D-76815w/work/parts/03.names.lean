/-! SafeClears$Signal -/
set_option maxRecDepth 100000
def RX2 : String := "SafeClears$Signal"
def TX2 : u_T := fun k => match k with
  | 0 => ("SafeClears$Signal", "kind", "LSafeClears$Kind;", false)
  | 1 => ("SafeClears$Signal", "cells", "[I", true)
  | 2 => ("SafeClears$Signal", "way", "Ljava/util/BitSet;", true)
  | 3 => ("SafeClears$Signal", "times", "[I", true)
  | 4 => ("SafeClears$Signal", "many", "I", false)
  | 5 => ("SafeClears$Signal", "queue", "I", false)
  | 6 => ("SafeClears$Signal", "isGreen", "Z", false)
  | 7 => ("SafeClears$Signal", "began", "I", false)
  | 8 => ("SafeClears$Signal", "ended", "I", false)
  | 9 => ("SafeClears$Signal", "seen", "I", false)
  | 10 => ("SafeClears$Signal", "served", "I", false)
  | _ => ("SafeClears$Signal", "greens", "I", false)
def tyX2 : Nat → FieldType := fun k => match k with
  | 0 => .object "SafeClears$Kind"
  | 1 => .array .int
  | 2 => .object "java/util/BitSet"
  | 3 => .array .int
  | 4 => .int
  | 5 => .int
  | 6 => .boolean
  | 7 => .int
  | 8 => .int
  | 9 => .int
  | 10 => .int
  | _ => .int
abbrev wsX20 : List Cond := u_ws RX2 TX2 12
theorem nmX2 : ∀ a, a < 12 → ∀ b, b < 12 → a ≠ b → (TX2 a).2.1 ≠ (TX2 b).2.1 := by decide +kernel
theorem tyX2_ok : ∀ k, k < 12 → parseFieldDescriptor (TX2 k).2.2.1 = some (tyX2 k) := by decide +kernel
abbrev cX2_init : ByteArray := prog_15_method_1_code
def yX2_init : MethodName := ⟨RX2, "<init>", "()V"⟩
def dkwX2_init_1 : List UInt8 := [183, 0, 9, 177]
abbrev dktX2_init_1 : List UInt8 := dkwX2_init_1 ++ []
def dkwX2_init_0 : List UInt8 := [42, 178, 0, 3, 7, 188, 10, 89, 3, 8, 79, 89, 4, 16, 40, 79, 89, 5, 6, 79, 89, 6, 3, 79]
abbrev dktX2_init_0 : List UInt8 := dkwX2_init_0 ++ dktX2_init_1
theorem dksX2_init_0 : cX2_init.data.toList.drop 0 = dktX2_init_0 := by decide +kernel
theorem dksX2_init_1 : cX2_init.data.toList.drop 24 = dktX2_init_1 := dk_seg dksX2_init_0 24 rfl rfl
theorem dX2_init_0 : decode cX2_init 0 = .ok (.aload_n 0, 1) := dk_42 (dk_at dksX2_init_0 0 rfl rfl)
theorem dX2_init_1 : decode cX2_init 1 = .ok (.getstatic 3, 3) := dk_178 0 3 (dk_at dksX2_init_0 1 rfl rfl)
theorem dX2_init_4 : decode cX2_init 4 = .ok (.iconst 4, 1) := dk_7 (dk_at dksX2_init_0 4 rfl rfl)
theorem dX2_init_5 : decode cX2_init 5 = .ok (.newarray .int, 2) := dk_188_10 (dk_at dksX2_init_0 5 rfl rfl)
theorem dX2_init_7 : decode cX2_init 7 = .ok (.dup, 1) := dk_89 (dk_at dksX2_init_0 7 rfl rfl)
theorem dX2_init_8 : decode cX2_init 8 = .ok (.iconst 0, 1) := dk_3 (dk_at dksX2_init_0 8 rfl rfl)
theorem dX2_init_9 : decode cX2_init 9 = .ok (.iconst 5, 1) := dk_8 (dk_at dksX2_init_0 9 rfl rfl)
theorem dX2_init_10 : decode cX2_init 10 = .ok (.iastore, 1) := dk_79 (dk_at dksX2_init_0 10 rfl rfl)
theorem dX2_init_11 : decode cX2_init 11 = .ok (.dup, 1) := dk_89 (dk_at dksX2_init_0 11 rfl rfl)
theorem dX2_init_12 : decode cX2_init 12 = .ok (.iconst 1, 1) := dk_4 (dk_at dksX2_init_0 12 rfl rfl)
theorem dX2_init_13 : decode cX2_init 13 = .ok (.bipush 40, 2) := dk_16 40 (dk_at dksX2_init_0 13 rfl rfl)
theorem dX2_init_15 : decode cX2_init 15 = .ok (.iastore, 1) := dk_79 (dk_at dksX2_init_0 15 rfl rfl)
theorem dX2_init_16 : decode cX2_init 16 = .ok (.dup, 1) := dk_89 (dk_at dksX2_init_0 16 rfl rfl)
theorem dX2_init_17 : decode cX2_init 17 = .ok (.iconst 2, 1) := dk_5 (dk_at dksX2_init_0 17 rfl rfl)
theorem dX2_init_18 : decode cX2_init 18 = .ok (.iconst 3, 1) := dk_6 (dk_at dksX2_init_0 18 rfl rfl)
theorem dX2_init_19 : decode cX2_init 19 = .ok (.iastore, 1) := dk_79 (dk_at dksX2_init_0 19 rfl rfl)
theorem dX2_init_20 : decode cX2_init 20 = .ok (.dup, 1) := dk_89 (dk_at dksX2_init_0 20 rfl rfl)
theorem dX2_init_21 : decode cX2_init 21 = .ok (.iconst 3, 1) := dk_6 (dk_at dksX2_init_0 21 rfl rfl)
theorem dX2_init_22 : decode cX2_init 22 = .ok (.iconst 0, 1) := dk_3 (dk_at dksX2_init_0 22 rfl rfl)
theorem dX2_init_23 : decode cX2_init 23 = .ok (.iastore, 1) := dk_79 (dk_at dksX2_init_0 23 rfl rfl)
theorem dX2_init_24 : decode cX2_init 24 = .ok (.invokespecial 9, 3) := dk_183 0 9 (dk_at dksX2_init_1 0 rfl rfl)
theorem dX2_init_27 : decode cX2_init 27 = .ok (.return_, 1) := dk_177 (dk_at dksX2_init_1 3 rfl rfl)
abbrev cX2_init_2 : ByteArray := prog_15_method_2_code
def yX2_init_2 : MethodName := ⟨RX2, "<init>", "(LSafeClears$Kind;[I)V"⟩
def dkwX2_init_2_2 : List UInt8 := [16, 251, 181, 0, 43, 42, 43, 181, 0, 46, 44, 3, 42, 180, 0, 33, 3, 7, 184, 0, 49, 177]
abbrev dktX2_init_2_2 : List UInt8 := dkwX2_init_2_2 ++ []
def dkwX2_init_2_1 : List UInt8 := [181, 0, 29, 42, 7, 188, 10, 181, 0, 33, 42, 16, 251, 181, 0, 36, 42, 16, 251, 181, 0, 40, 42]
abbrev dktX2_init_2_1 : List UInt8 := dkwX2_init_2_1 ++ dktX2_init_2_2
def dkwX2_init_2_0 : List UInt8 := [42, 183, 0, 15, 42, 16, 8, 188, 10, 181, 0, 20, 42, 187, 0, 24, 89, 16, 64, 183, 0, 26]
abbrev dktX2_init_2_0 : List UInt8 := dkwX2_init_2_0 ++ dktX2_init_2_1
theorem dksX2_init_2_0 : cX2_init_2.data.toList.drop 0 = dktX2_init_2_0 := by decide +kernel
theorem dksX2_init_2_1 : cX2_init_2.data.toList.drop 22 = dktX2_init_2_1 := dk_seg dksX2_init_2_0 22 rfl rfl
theorem dksX2_init_2_2 : cX2_init_2.data.toList.drop 45 = dktX2_init_2_2 := dk_seg dksX2_init_2_1 23 rfl rfl
theorem dX2_init_2_0 : decode cX2_init_2 0 = .ok (.aload_n 0, 1) := dk_42 (dk_at dksX2_init_2_0 0 rfl rfl)
theorem dX2_init_2_1 : decode cX2_init_2 1 = .ok (.invokespecial 15, 3) := dk_183 0 15 (dk_at dksX2_init_2_0 1 rfl rfl)
theorem dX2_init_2_4 : decode cX2_init_2 4 = .ok (.aload_n 0, 1) := dk_42 (dk_at dksX2_init_2_0 4 rfl rfl)
theorem dX2_init_2_5 : decode cX2_init_2 5 = .ok (.bipush 8, 2) := dk_16 8 (dk_at dksX2_init_2_0 5 rfl rfl)
theorem dX2_init_2_7 : decode cX2_init_2 7 = .ok (.newarray .int, 2) := dk_188_10 (dk_at dksX2_init_2_0 7 rfl rfl)
theorem dX2_init_2_9 : decode cX2_init_2 9 = .ok (.putfield 20, 3) := dk_181 0 20 (dk_at dksX2_init_2_0 9 rfl rfl)
theorem dX2_init_2_12 : decode cX2_init_2 12 = .ok (.aload_n 0, 1) := dk_42 (dk_at dksX2_init_2_0 12 rfl rfl)
theorem dX2_init_2_13 : decode cX2_init_2 13 = .ok (.new 24, 3) := dk_187 0 24 (dk_at dksX2_init_2_0 13 rfl rfl)
theorem dX2_init_2_16 : decode cX2_init_2 16 = .ok (.dup, 1) := dk_89 (dk_at dksX2_init_2_0 16 rfl rfl)
theorem dX2_init_2_17 : decode cX2_init_2 17 = .ok (.bipush 64, 2) := dk_16 64 (dk_at dksX2_init_2_0 17 rfl rfl)
theorem dX2_init_2_19 : decode cX2_init_2 19 = .ok (.invokespecial 26, 3) := dk_183 0 26 (dk_at dksX2_init_2_0 19 rfl rfl)
theorem dX2_init_2_22 : decode cX2_init_2 22 = .ok (.putfield 29, 3) := dk_181 0 29 (dk_at dksX2_init_2_1 0 rfl rfl)
theorem dX2_init_2_25 : decode cX2_init_2 25 = .ok (.aload_n 0, 1) := dk_42 (dk_at dksX2_init_2_1 3 rfl rfl)
theorem dX2_init_2_26 : decode cX2_init_2 26 = .ok (.iconst 4, 1) := dk_7 (dk_at dksX2_init_2_1 4 rfl rfl)
theorem dX2_init_2_27 : decode cX2_init_2 27 = .ok (.newarray .int, 2) := dk_188_10 (dk_at dksX2_init_2_1 5 rfl rfl)
theorem dX2_init_2_29 : decode cX2_init_2 29 = .ok (.putfield 33, 3) := dk_181 0 33 (dk_at dksX2_init_2_1 7 rfl rfl)
theorem dX2_init_2_32 : decode cX2_init_2 32 = .ok (.aload_n 0, 1) := dk_42 (dk_at dksX2_init_2_1 10 rfl rfl)
theorem dX2_init_2_33 : decode cX2_init_2 33 = .ok (.bipush (-5), 2) := dk_16 251 (dk_at dksX2_init_2_1 11 rfl rfl)
theorem dX2_init_2_35 : decode cX2_init_2 35 = .ok (.putfield 36, 3) := dk_181 0 36 (dk_at dksX2_init_2_1 13 rfl rfl)
theorem dX2_init_2_38 : decode cX2_init_2 38 = .ok (.aload_n 0, 1) := dk_42 (dk_at dksX2_init_2_1 16 rfl rfl)
theorem dX2_init_2_39 : decode cX2_init_2 39 = .ok (.bipush (-5), 2) := dk_16 251 (dk_at dksX2_init_2_1 17 rfl rfl)
theorem dX2_init_2_41 : decode cX2_init_2 41 = .ok (.putfield 40, 3) := dk_181 0 40 (dk_at dksX2_init_2_1 19 rfl rfl)
theorem dX2_init_2_44 : decode cX2_init_2 44 = .ok (.aload_n 0, 1) := dk_42 (dk_at dksX2_init_2_1 22 rfl rfl)
theorem dX2_init_2_45 : decode cX2_init_2 45 = .ok (.bipush (-5), 2) := dk_16 251 (dk_at dksX2_init_2_2 0 rfl rfl)
theorem dX2_init_2_47 : decode cX2_init_2 47 = .ok (.putfield 43, 3) := dk_181 0 43 (dk_at dksX2_init_2_2 2 rfl rfl)
theorem dX2_init_2_50 : decode cX2_init_2 50 = .ok (.aload_n 0, 1) := dk_42 (dk_at dksX2_init_2_2 5 rfl rfl)
theorem dX2_init_2_51 : decode cX2_init_2 51 = .ok (.aload_n 1, 1) := dk_43 (dk_at dksX2_init_2_2 6 rfl rfl)
theorem dX2_init_2_52 : decode cX2_init_2 52 = .ok (.putfield 46, 3) := dk_181 0 46 (dk_at dksX2_init_2_2 7 rfl rfl)
theorem dX2_init_2_55 : decode cX2_init_2 55 = .ok (.aload_n 2, 1) := dk_44 (dk_at dksX2_init_2_2 10 rfl rfl)
theorem dX2_init_2_56 : decode cX2_init_2 56 = .ok (.iconst 0, 1) := dk_3 (dk_at dksX2_init_2_2 11 rfl rfl)
theorem dX2_init_2_57 : decode cX2_init_2 57 = .ok (.aload_n 0, 1) := dk_42 (dk_at dksX2_init_2_2 12 rfl rfl)
theorem dX2_init_2_58 : decode cX2_init_2 58 = .ok (.getfield 33, 3) := dk_180 0 33 (dk_at dksX2_init_2_2 13 rfl rfl)
theorem dX2_init_2_61 : decode cX2_init_2 61 = .ok (.iconst 0, 1) := dk_3 (dk_at dksX2_init_2_2 16 rfl rfl)
theorem dX2_init_2_62 : decode cX2_init_2 62 = .ok (.iconst 4, 1) := dk_7 (dk_at dksX2_init_2_2 17 rfl rfl)
theorem dX2_init_2_63 : decode cX2_init_2 63 = .ok (.invokestatic 49, 3) := dk_184 0 49 (dk_at dksX2_init_2_2 18 rfl rfl)
theorem dX2_init_2_66 : decode cX2_init_2 66 = .ok (.return_, 1) := dk_177 (dk_at dksX2_init_2_2 21 rfl rfl)
abbrev cX2_begins : ByteArray := prog_15_method_3_code
def yX2_begins : MethodName := ⟨RX2, "begins", "(LSafeClears$Kind;)V"⟩
def dkwX2_begins_3 : List UInt8 := [181, 0, 43, 42, 3, 181, 0, 68, 42, 3, 181, 0, 71, 177]
abbrev dktX2_begins_3 : List UInt8 := dkwX2_begins_3 ++ []
def dkwX2_begins_2 : List UInt8 := [181, 0, 61, 42, 3, 181, 0, 64, 42, 16, 251, 181, 0, 36, 42, 16, 251, 181, 0, 40, 42, 16, 251]
abbrev dktX2_begins_2 : List UInt8 := dkwX2_begins_2 ++ dktX2_begins_3
def dkwX2_begins_1 : List UInt8 := [42, 180, 0, 33, 4, 16, 40, 79, 42, 180, 0, 33, 5, 6, 79, 42, 180, 0, 33, 6, 3, 79, 42, 3]
abbrev dktX2_begins_1 : List UInt8 := dkwX2_begins_1 ++ dktX2_begins_2
def dkwX2_begins_0 : List UInt8 := [42, 43, 181, 0, 46, 42, 3, 181, 0, 55, 42, 180, 0, 29, 182, 0, 58, 42, 180, 0, 33, 3, 8, 79]
abbrev dktX2_begins_0 : List UInt8 := dkwX2_begins_0 ++ dktX2_begins_1
theorem dksX2_begins_0 : cX2_begins.data.toList.drop 0 = dktX2_begins_0 := by decide +kernel
theorem dksX2_begins_1 : cX2_begins.data.toList.drop 24 = dktX2_begins_1 := dk_seg dksX2_begins_0 24 rfl rfl
theorem dksX2_begins_2 : cX2_begins.data.toList.drop 48 = dktX2_begins_2 := dk_seg dksX2_begins_1 24 rfl rfl
theorem dksX2_begins_3 : cX2_begins.data.toList.drop 71 = dktX2_begins_3 := dk_seg dksX2_begins_2 23 rfl rfl
theorem dX2_begins_0 : decode cX2_begins 0 = .ok (.aload_n 0, 1) := dk_42 (dk_at dksX2_begins_0 0 rfl rfl)
theorem dX2_begins_1 : decode cX2_begins 1 = .ok (.aload_n 1, 1) := dk_43 (dk_at dksX2_begins_0 1 rfl rfl)
theorem dX2_begins_2 : decode cX2_begins 2 = .ok (.putfield 46, 3) := dk_181 0 46 (dk_at dksX2_begins_0 2 rfl rfl)
theorem dX2_begins_5 : decode cX2_begins 5 = .ok (.aload_n 0, 1) := dk_42 (dk_at dksX2_begins_0 5 rfl rfl)
theorem dX2_begins_6 : decode cX2_begins 6 = .ok (.iconst 0, 1) := dk_3 (dk_at dksX2_begins_0 6 rfl rfl)
theorem dX2_begins_7 : decode cX2_begins 7 = .ok (.putfield 55, 3) := dk_181 0 55 (dk_at dksX2_begins_0 7 rfl rfl)
theorem dX2_begins_10 : decode cX2_begins 10 = .ok (.aload_n 0, 1) := dk_42 (dk_at dksX2_begins_0 10 rfl rfl)
theorem dX2_begins_11 : decode cX2_begins 11 = .ok (.getfield 29, 3) := dk_180 0 29 (dk_at dksX2_begins_0 11 rfl rfl)
theorem dX2_begins_14 : decode cX2_begins 14 = .ok (.invokevirtual 58, 3) := dk_182 0 58 (dk_at dksX2_begins_0 14 rfl rfl)
theorem dX2_begins_17 : decode cX2_begins 17 = .ok (.aload_n 0, 1) := dk_42 (dk_at dksX2_begins_0 17 rfl rfl)
theorem dX2_begins_18 : decode cX2_begins 18 = .ok (.getfield 33, 3) := dk_180 0 33 (dk_at dksX2_begins_0 18 rfl rfl)
theorem dX2_begins_21 : decode cX2_begins 21 = .ok (.iconst 0, 1) := dk_3 (dk_at dksX2_begins_0 21 rfl rfl)
theorem dX2_begins_22 : decode cX2_begins 22 = .ok (.iconst 5, 1) := dk_8 (dk_at dksX2_begins_0 22 rfl rfl)
theorem dX2_begins_23 : decode cX2_begins 23 = .ok (.iastore, 1) := dk_79 (dk_at dksX2_begins_0 23 rfl rfl)
theorem dX2_begins_24 : decode cX2_begins 24 = .ok (.aload_n 0, 1) := dk_42 (dk_at dksX2_begins_1 0 rfl rfl)
theorem dX2_begins_25 : decode cX2_begins 25 = .ok (.getfield 33, 3) := dk_180 0 33 (dk_at dksX2_begins_1 1 rfl rfl)
theorem dX2_begins_28 : decode cX2_begins 28 = .ok (.iconst 1, 1) := dk_4 (dk_at dksX2_begins_1 4 rfl rfl)
theorem dX2_begins_29 : decode cX2_begins 29 = .ok (.bipush 40, 2) := dk_16 40 (dk_at dksX2_begins_1 5 rfl rfl)
theorem dX2_begins_31 : decode cX2_begins 31 = .ok (.iastore, 1) := dk_79 (dk_at dksX2_begins_1 7 rfl rfl)
theorem dX2_begins_32 : decode cX2_begins 32 = .ok (.aload_n 0, 1) := dk_42 (dk_at dksX2_begins_1 8 rfl rfl)
theorem dX2_begins_33 : decode cX2_begins 33 = .ok (.getfield 33, 3) := dk_180 0 33 (dk_at dksX2_begins_1 9 rfl rfl)
theorem dX2_begins_36 : decode cX2_begins 36 = .ok (.iconst 2, 1) := dk_5 (dk_at dksX2_begins_1 12 rfl rfl)
theorem dX2_begins_37 : decode cX2_begins 37 = .ok (.iconst 3, 1) := dk_6 (dk_at dksX2_begins_1 13 rfl rfl)
theorem dX2_begins_38 : decode cX2_begins 38 = .ok (.iastore, 1) := dk_79 (dk_at dksX2_begins_1 14 rfl rfl)
theorem dX2_begins_39 : decode cX2_begins 39 = .ok (.aload_n 0, 1) := dk_42 (dk_at dksX2_begins_1 15 rfl rfl)
theorem dX2_begins_40 : decode cX2_begins 40 = .ok (.getfield 33, 3) := dk_180 0 33 (dk_at dksX2_begins_1 16 rfl rfl)
theorem dX2_begins_43 : decode cX2_begins 43 = .ok (.iconst 3, 1) := dk_6 (dk_at dksX2_begins_1 19 rfl rfl)
theorem dX2_begins_44 : decode cX2_begins 44 = .ok (.iconst 0, 1) := dk_3 (dk_at dksX2_begins_1 20 rfl rfl)
theorem dX2_begins_45 : decode cX2_begins 45 = .ok (.iastore, 1) := dk_79 (dk_at dksX2_begins_1 21 rfl rfl)
theorem dX2_begins_46 : decode cX2_begins 46 = .ok (.aload_n 0, 1) := dk_42 (dk_at dksX2_begins_1 22 rfl rfl)
theorem dX2_begins_47 : decode cX2_begins 47 = .ok (.iconst 0, 1) := dk_3 (dk_at dksX2_begins_1 23 rfl rfl)
theorem dX2_begins_48 : decode cX2_begins 48 = .ok (.putfield 61, 3) := dk_181 0 61 (dk_at dksX2_begins_2 0 rfl rfl)
theorem dX2_begins_51 : decode cX2_begins 51 = .ok (.aload_n 0, 1) := dk_42 (dk_at dksX2_begins_2 3 rfl rfl)
theorem dX2_begins_52 : decode cX2_begins 52 = .ok (.iconst 0, 1) := dk_3 (dk_at dksX2_begins_2 4 rfl rfl)
theorem dX2_begins_53 : decode cX2_begins 53 = .ok (.putfield 64, 3) := dk_181 0 64 (dk_at dksX2_begins_2 5 rfl rfl)
theorem dX2_begins_56 : decode cX2_begins 56 = .ok (.aload_n 0, 1) := dk_42 (dk_at dksX2_begins_2 8 rfl rfl)
theorem dX2_begins_57 : decode cX2_begins 57 = .ok (.bipush (-5), 2) := dk_16 251 (dk_at dksX2_begins_2 9 rfl rfl)
theorem dX2_begins_59 : decode cX2_begins 59 = .ok (.putfield 36, 3) := dk_181 0 36 (dk_at dksX2_begins_2 11 rfl rfl)
theorem dX2_begins_62 : decode cX2_begins 62 = .ok (.aload_n 0, 1) := dk_42 (dk_at dksX2_begins_2 14 rfl rfl)
theorem dX2_begins_63 : decode cX2_begins 63 = .ok (.bipush (-5), 2) := dk_16 251 (dk_at dksX2_begins_2 15 rfl rfl)
theorem dX2_begins_65 : decode cX2_begins 65 = .ok (.putfield 40, 3) := dk_181 0 40 (dk_at dksX2_begins_2 17 rfl rfl)
theorem dX2_begins_68 : decode cX2_begins 68 = .ok (.aload_n 0, 1) := dk_42 (dk_at dksX2_begins_2 20 rfl rfl)
theorem dX2_begins_69 : decode cX2_begins 69 = .ok (.bipush (-5), 2) := dk_16 251 (dk_at dksX2_begins_2 21 rfl rfl)
theorem dX2_begins_71 : decode cX2_begins 71 = .ok (.putfield 43, 3) := dk_181 0 43 (dk_at dksX2_begins_3 0 rfl rfl)
theorem dX2_begins_74 : decode cX2_begins 74 = .ok (.aload_n 0, 1) := dk_42 (dk_at dksX2_begins_3 3 rfl rfl)
theorem dX2_begins_75 : decode cX2_begins 75 = .ok (.iconst 0, 1) := dk_3 (dk_at dksX2_begins_3 4 rfl rfl)
theorem dX2_begins_76 : decode cX2_begins 76 = .ok (.putfield 68, 3) := dk_181 0 68 (dk_at dksX2_begins_3 5 rfl rfl)
theorem dX2_begins_79 : decode cX2_begins 79 = .ok (.aload_n 0, 1) := dk_42 (dk_at dksX2_begins_3 8 rfl rfl)
theorem dX2_begins_80 : decode cX2_begins 80 = .ok (.iconst 0, 1) := dk_3 (dk_at dksX2_begins_3 9 rfl rfl)
theorem dX2_begins_81 : decode cX2_begins 81 = .ok (.putfield 71, 3) := dk_181 0 71 (dk_at dksX2_begins_3 10 rfl rfl)
theorem dX2_begins_84 : decode cX2_begins 84 = .ok (.return_, 1) := dk_177 (dk_at dksX2_begins_3 13 rfl rfl)
abbrev cX2_goesOver : ByteArray := prog_15_method_4_code
def yX2_goesOver : MethodName := ⟨RX2, "goesOver", "(I)V"⟩
def dkwX2_goesOver_1 : List UInt8 := [96, 181, 0, 55, 177]
abbrev dktX2_goesOver_1 : List UInt8 := dkwX2_goesOver_1 ++ []
def dkwX2_goesOver_0 : List UInt8 := [42, 180, 0, 20, 42, 180, 0, 55, 27, 79, 42, 180, 0, 29, 27, 182, 0, 74, 42, 89, 180, 0, 55, 4]
abbrev dktX2_goesOver_0 : List UInt8 := dkwX2_goesOver_0 ++ dktX2_goesOver_1
theorem dksX2_goesOver_0 : cX2_goesOver.data.toList.drop 0 = dktX2_goesOver_0 := by decide +kernel
theorem dksX2_goesOver_1 : cX2_goesOver.data.toList.drop 24 = dktX2_goesOver_1 := dk_seg dksX2_goesOver_0 24 rfl rfl
theorem dX2_goesOver_0 : decode cX2_goesOver 0 = .ok (.aload_n 0, 1) := dk_42 (dk_at dksX2_goesOver_0 0 rfl rfl)
theorem dX2_goesOver_1 : decode cX2_goesOver 1 = .ok (.getfield 20, 3) := dk_180 0 20 (dk_at dksX2_goesOver_0 1 rfl rfl)
theorem dX2_goesOver_4 : decode cX2_goesOver 4 = .ok (.aload_n 0, 1) := dk_42 (dk_at dksX2_goesOver_0 4 rfl rfl)
theorem dX2_goesOver_5 : decode cX2_goesOver 5 = .ok (.getfield 55, 3) := dk_180 0 55 (dk_at dksX2_goesOver_0 5 rfl rfl)
theorem dX2_goesOver_8 : decode cX2_goesOver 8 = .ok (.iload_n 1, 1) := dk_27 (dk_at dksX2_goesOver_0 8 rfl rfl)
theorem dX2_goesOver_9 : decode cX2_goesOver 9 = .ok (.iastore, 1) := dk_79 (dk_at dksX2_goesOver_0 9 rfl rfl)
theorem dX2_goesOver_10 : decode cX2_goesOver 10 = .ok (.aload_n 0, 1) := dk_42 (dk_at dksX2_goesOver_0 10 rfl rfl)
theorem dX2_goesOver_11 : decode cX2_goesOver 11 = .ok (.getfield 29, 3) := dk_180 0 29 (dk_at dksX2_goesOver_0 11 rfl rfl)
theorem dX2_goesOver_14 : decode cX2_goesOver 14 = .ok (.iload_n 1, 1) := dk_27 (dk_at dksX2_goesOver_0 14 rfl rfl)
theorem dX2_goesOver_15 : decode cX2_goesOver 15 = .ok (.invokevirtual 74, 3) := dk_182 0 74 (dk_at dksX2_goesOver_0 15 rfl rfl)
theorem dX2_goesOver_18 : decode cX2_goesOver 18 = .ok (.aload_n 0, 1) := dk_42 (dk_at dksX2_goesOver_0 18 rfl rfl)
theorem dX2_goesOver_19 : decode cX2_goesOver 19 = .ok (.dup, 1) := dk_89 (dk_at dksX2_goesOver_0 19 rfl rfl)
theorem dX2_goesOver_20 : decode cX2_goesOver 20 = .ok (.getfield 55, 3) := dk_180 0 55 (dk_at dksX2_goesOver_0 20 rfl rfl)
theorem dX2_goesOver_23 : decode cX2_goesOver 23 = .ok (.iconst 1, 1) := dk_4 (dk_at dksX2_goesOver_0 23 rfl rfl)
theorem dX2_goesOver_24 : decode cX2_goesOver 24 = .ok (.iadd, 1) := dk_96 (dk_at dksX2_goesOver_1 0 rfl rfl)
theorem dX2_goesOver_25 : decode cX2_goesOver 25 = .ok (.putfield 55, 3) := dk_181 0 55 (dk_at dksX2_goesOver_1 1 rfl rfl)
theorem dX2_goesOver_28 : decode cX2_goesOver 28 = .ok (.return_, 1) := dk_177 (dk_at dksX2_goesOver_1 4 rfl rfl)
abbrev cX2_placeOf : ByteArray := prog_15_method_9_code
def yX2_placeOf : MethodName := ⟨RX2, "placeOf", "(I)I"⟩
def dkwX2_placeOf_1 : List UInt8 := [132, 2, 1, 167, 255, 233, 2, 172]
abbrev dktX2_placeOf_1 : List UInt8 := dkwX2_placeOf_1 ++ []
def dkwX2_placeOf_0 : List UInt8 := [3, 61, 28, 42, 180, 0, 55, 162, 0, 21, 42, 180, 0, 20, 28, 46, 27, 160, 0, 5, 28, 172]
abbrev dktX2_placeOf_0 : List UInt8 := dkwX2_placeOf_0 ++ dktX2_placeOf_1
theorem dksX2_placeOf_0 : cX2_placeOf.data.toList.drop 0 = dktX2_placeOf_0 := by decide +kernel
theorem dksX2_placeOf_1 : cX2_placeOf.data.toList.drop 22 = dktX2_placeOf_1 := dk_seg dksX2_placeOf_0 22 rfl rfl
theorem dX2_placeOf_0 : decode cX2_placeOf 0 = .ok (.iconst 0, 1) := dk_3 (dk_at dksX2_placeOf_0 0 rfl rfl)
theorem dX2_placeOf_1 : decode cX2_placeOf 1 = .ok (.istore_n 2, 1) := dk_61 (dk_at dksX2_placeOf_0 1 rfl rfl)
theorem dX2_placeOf_2 : decode cX2_placeOf 2 = .ok (.iload_n 2, 1) := dk_28 (dk_at dksX2_placeOf_0 2 rfl rfl)
theorem dX2_placeOf_3 : decode cX2_placeOf 3 = .ok (.aload_n 0, 1) := dk_42 (dk_at dksX2_placeOf_0 3 rfl rfl)
theorem dX2_placeOf_4 : decode cX2_placeOf 4 = .ok (.getfield 55, 3) := dk_180 0 55 (dk_at dksX2_placeOf_0 4 rfl rfl)
theorem dX2_placeOf_7 : decode cX2_placeOf 7 = .ok (.if_icmp .ge 21, 3) := dk_162 0 21 (dk_at dksX2_placeOf_0 7 rfl rfl)
theorem dX2_placeOf_10 : decode cX2_placeOf 10 = .ok (.aload_n 0, 1) := dk_42 (dk_at dksX2_placeOf_0 10 rfl rfl)
theorem dX2_placeOf_11 : decode cX2_placeOf 11 = .ok (.getfield 20, 3) := dk_180 0 20 (dk_at dksX2_placeOf_0 11 rfl rfl)
theorem dX2_placeOf_14 : decode cX2_placeOf 14 = .ok (.iload_n 2, 1) := dk_28 (dk_at dksX2_placeOf_0 14 rfl rfl)
theorem dX2_placeOf_15 : decode cX2_placeOf 15 = .ok (.iaload, 1) := dk_46 (dk_at dksX2_placeOf_0 15 rfl rfl)
theorem dX2_placeOf_16 : decode cX2_placeOf 16 = .ok (.iload_n 1, 1) := dk_27 (dk_at dksX2_placeOf_0 16 rfl rfl)
theorem dX2_placeOf_17 : decode cX2_placeOf 17 = .ok (.if_icmp .ne 5, 3) := dk_160 0 5 (dk_at dksX2_placeOf_0 17 rfl rfl)
theorem dX2_placeOf_20 : decode cX2_placeOf 20 = .ok (.iload_n 2, 1) := dk_28 (dk_at dksX2_placeOf_0 20 rfl rfl)
theorem dX2_placeOf_21 : decode cX2_placeOf 21 = .ok (.ireturn, 1) := dk_172 (dk_at dksX2_placeOf_0 21 rfl rfl)
theorem dX2_placeOf_22 : decode cX2_placeOf 22 = .ok (.iinc 2 1, 3) := dk_132 2 1 (dk_at dksX2_placeOf_1 0 rfl rfl)
theorem dX2_placeOf_25 : decode cX2_placeOf 25 = .ok (.goto (-23), 3) := dk_167 255 233 (dk_at dksX2_placeOf_1 3 rfl rfl)
theorem dX2_placeOf_28 : decode cX2_placeOf 28 = .ok (.iconst (-1), 1) := dk_2 (dk_at dksX2_placeOf_1 6 rfl rfl)
theorem dX2_placeOf_29 : decode cX2_placeOf 29 = .ok (.ireturn, 1) := dk_172 (dk_at dksX2_placeOf_1 7 rfl rfl)
abbrev cX2_most : ByteArray := prog_15_method_6_code
def yX2_most : MethodName := ⟨RX2, "most", "()I"⟩
def dkwX2_most_0 : List UInt8 := [42, 180, 0, 33, 4, 46, 172]
abbrev dktX2_most_0 : List UInt8 := dkwX2_most_0 ++ []
theorem dksX2_most_0 : cX2_most.data.toList.drop 0 = dktX2_most_0 := by decide +kernel
theorem dX2_most_0 : decode cX2_most 0 = .ok (.aload_n 0, 1) := dk_42 (dk_at dksX2_most_0 0 rfl rfl)
theorem dX2_most_1 : decode cX2_most 1 = .ok (.getfield 33, 3) := dk_180 0 33 (dk_at dksX2_most_0 1 rfl rfl)
theorem dX2_most_4 : decode cX2_most 4 = .ok (.iconst 1, 1) := dk_4 (dk_at dksX2_most_0 4 rfl rfl)
theorem dX2_most_5 : decode cX2_most 5 = .ok (.iaload, 1) := dk_46 (dk_at dksX2_most_0 5 rfl rfl)
theorem dX2_most_6 : decode cX2_most 6 = .ok (.ireturn, 1) := dk_172 (dk_at dksX2_most_0 6 rfl rfl)
abbrev cX2_least : ByteArray := prog_15_method_5_code
def yX2_least : MethodName := ⟨RX2, "least", "()I"⟩
def dkwX2_least_0 : List UInt8 := [42, 180, 0, 33, 3, 46, 172]
abbrev dktX2_least_0 : List UInt8 := dkwX2_least_0 ++ []
theorem dksX2_least_0 : cX2_least.data.toList.drop 0 = dktX2_least_0 := by decide +kernel
theorem dX2_least_0 : decode cX2_least 0 = .ok (.aload_n 0, 1) := dk_42 (dk_at dksX2_least_0 0 rfl rfl)
theorem dX2_least_1 : decode cX2_least 1 = .ok (.getfield 33, 3) := dk_180 0 33 (dk_at dksX2_least_0 1 rfl rfl)
theorem dX2_least_4 : decode cX2_least 4 = .ok (.iconst 0, 1) := dk_3 (dk_at dksX2_least_0 4 rfl rfl)
theorem dX2_least_5 : decode cX2_least 5 = .ok (.iaload, 1) := dk_46 (dk_at dksX2_least_0 5 rfl rfl)
theorem dX2_least_6 : decode cX2_least 6 = .ok (.ireturn, 1) := dk_172 (dk_at dksX2_least_0 6 rfl rfl)
abbrev cX2_like : ByteArray := prog_15_method_15_code
def yX2_like : MethodName := ⟨RX2, "like", "(LSafeClears$Signal;)V"⟩
def dkwX2_like_5 : List UInt8 := [181, 0, 71, 177]
abbrev dktX2_like_5 : List UInt8 := dkwX2_like_5 ++ []
def dkwX2_like_4 : List UInt8 := [181, 0, 40, 42, 43, 180, 0, 43, 181, 0, 43, 42, 43, 180, 0, 68, 181, 0, 68, 42, 43, 180, 0, 71]
abbrev dktX2_like_4 : List UInt8 := dkwX2_like_4 ++ dktX2_like_5
def dkwX2_like_3 : List UInt8 := [181, 0, 61, 42, 43, 180, 0, 64, 181, 0, 64, 42, 43, 180, 0, 36, 181, 0, 36, 42, 43, 180, 0, 40]
abbrev dktX2_like_3 : List UInt8 := dkwX2_like_3 ++ dktX2_like_4
def dkwX2_like_2 : List UInt8 := [182, 0, 91, 43, 180, 0, 33, 3, 42, 180, 0, 33, 3, 7, 184, 0, 49, 42, 43, 180, 0, 61]
abbrev dktX2_like_2 : List UInt8 := dkwX2_like_2 ++ dktX2_like_3
def dkwX2_like_1 : List UInt8 := [180, 0, 20, 3, 16, 8, 184, 0, 49, 42, 180, 0, 29, 182, 0, 58, 42, 180, 0, 29, 43, 180, 0, 29]
abbrev dktX2_like_1 : List UInt8 := dkwX2_like_1 ++ dktX2_like_2
def dkwX2_like_0 : List UInt8 := [42, 43, 180, 0, 46, 181, 0, 46, 42, 43, 180, 0, 55, 181, 0, 55, 43, 180, 0, 20, 3, 42]
abbrev dktX2_like_0 : List UInt8 := dkwX2_like_0 ++ dktX2_like_1
theorem dksX2_like_0 : cX2_like.data.toList.drop 0 = dktX2_like_0 := by decide +kernel
theorem dksX2_like_1 : cX2_like.data.toList.drop 22 = dktX2_like_1 := dk_seg dksX2_like_0 22 rfl rfl
theorem dksX2_like_2 : cX2_like.data.toList.drop 46 = dktX2_like_2 := dk_seg dksX2_like_1 24 rfl rfl
theorem dksX2_like_3 : cX2_like.data.toList.drop 68 = dktX2_like_3 := dk_seg dksX2_like_2 22 rfl rfl
theorem dksX2_like_4 : cX2_like.data.toList.drop 92 = dktX2_like_4 := dk_seg dksX2_like_3 24 rfl rfl
theorem dksX2_like_5 : cX2_like.data.toList.drop 116 = dktX2_like_5 := dk_seg dksX2_like_4 24 rfl rfl
theorem dX2_like_0 : decode cX2_like 0 = .ok (.aload_n 0, 1) := dk_42 (dk_at dksX2_like_0 0 rfl rfl)
theorem dX2_like_1 : decode cX2_like 1 = .ok (.aload_n 1, 1) := dk_43 (dk_at dksX2_like_0 1 rfl rfl)
theorem dX2_like_2 : decode cX2_like 2 = .ok (.getfield 46, 3) := dk_180 0 46 (dk_at dksX2_like_0 2 rfl rfl)
theorem dX2_like_5 : decode cX2_like 5 = .ok (.putfield 46, 3) := dk_181 0 46 (dk_at dksX2_like_0 5 rfl rfl)
theorem dX2_like_8 : decode cX2_like 8 = .ok (.aload_n 0, 1) := dk_42 (dk_at dksX2_like_0 8 rfl rfl)
theorem dX2_like_9 : decode cX2_like 9 = .ok (.aload_n 1, 1) := dk_43 (dk_at dksX2_like_0 9 rfl rfl)
theorem dX2_like_10 : decode cX2_like 10 = .ok (.getfield 55, 3) := dk_180 0 55 (dk_at dksX2_like_0 10 rfl rfl)
theorem dX2_like_13 : decode cX2_like 13 = .ok (.putfield 55, 3) := dk_181 0 55 (dk_at dksX2_like_0 13 rfl rfl)
theorem dX2_like_16 : decode cX2_like 16 = .ok (.aload_n 1, 1) := dk_43 (dk_at dksX2_like_0 16 rfl rfl)
theorem dX2_like_17 : decode cX2_like 17 = .ok (.getfield 20, 3) := dk_180 0 20 (dk_at dksX2_like_0 17 rfl rfl)
theorem dX2_like_20 : decode cX2_like 20 = .ok (.iconst 0, 1) := dk_3 (dk_at dksX2_like_0 20 rfl rfl)
theorem dX2_like_21 : decode cX2_like 21 = .ok (.aload_n 0, 1) := dk_42 (dk_at dksX2_like_0 21 rfl rfl)
theorem dX2_like_22 : decode cX2_like 22 = .ok (.getfield 20, 3) := dk_180 0 20 (dk_at dksX2_like_1 0 rfl rfl)
theorem dX2_like_25 : decode cX2_like 25 = .ok (.iconst 0, 1) := dk_3 (dk_at dksX2_like_1 3 rfl rfl)
theorem dX2_like_26 : decode cX2_like 26 = .ok (.bipush 8, 2) := dk_16 8 (dk_at dksX2_like_1 4 rfl rfl)
theorem dX2_like_28 : decode cX2_like 28 = .ok (.invokestatic 49, 3) := dk_184 0 49 (dk_at dksX2_like_1 6 rfl rfl)
theorem dX2_like_31 : decode cX2_like 31 = .ok (.aload_n 0, 1) := dk_42 (dk_at dksX2_like_1 9 rfl rfl)
theorem dX2_like_32 : decode cX2_like 32 = .ok (.getfield 29, 3) := dk_180 0 29 (dk_at dksX2_like_1 10 rfl rfl)
theorem dX2_like_35 : decode cX2_like 35 = .ok (.invokevirtual 58, 3) := dk_182 0 58 (dk_at dksX2_like_1 13 rfl rfl)
theorem dX2_like_38 : decode cX2_like 38 = .ok (.aload_n 0, 1) := dk_42 (dk_at dksX2_like_1 16 rfl rfl)
theorem dX2_like_39 : decode cX2_like 39 = .ok (.getfield 29, 3) := dk_180 0 29 (dk_at dksX2_like_1 17 rfl rfl)
theorem dX2_like_42 : decode cX2_like 42 = .ok (.aload_n 1, 1) := dk_43 (dk_at dksX2_like_1 20 rfl rfl)
theorem dX2_like_43 : decode cX2_like 43 = .ok (.getfield 29, 3) := dk_180 0 29 (dk_at dksX2_like_1 21 rfl rfl)
theorem dX2_like_46 : decode cX2_like 46 = .ok (.invokevirtual 91, 3) := dk_182 0 91 (dk_at dksX2_like_2 0 rfl rfl)
theorem dX2_like_49 : decode cX2_like 49 = .ok (.aload_n 1, 1) := dk_43 (dk_at dksX2_like_2 3 rfl rfl)
theorem dX2_like_50 : decode cX2_like 50 = .ok (.getfield 33, 3) := dk_180 0 33 (dk_at dksX2_like_2 4 rfl rfl)
theorem dX2_like_53 : decode cX2_like 53 = .ok (.iconst 0, 1) := dk_3 (dk_at dksX2_like_2 7 rfl rfl)
theorem dX2_like_54 : decode cX2_like 54 = .ok (.aload_n 0, 1) := dk_42 (dk_at dksX2_like_2 8 rfl rfl)
theorem dX2_like_55 : decode cX2_like 55 = .ok (.getfield 33, 3) := dk_180 0 33 (dk_at dksX2_like_2 9 rfl rfl)
theorem dX2_like_58 : decode cX2_like 58 = .ok (.iconst 0, 1) := dk_3 (dk_at dksX2_like_2 12 rfl rfl)
theorem dX2_like_59 : decode cX2_like 59 = .ok (.iconst 4, 1) := dk_7 (dk_at dksX2_like_2 13 rfl rfl)
theorem dX2_like_60 : decode cX2_like 60 = .ok (.invokestatic 49, 3) := dk_184 0 49 (dk_at dksX2_like_2 14 rfl rfl)
theorem dX2_like_63 : decode cX2_like 63 = .ok (.aload_n 0, 1) := dk_42 (dk_at dksX2_like_2 17 rfl rfl)
theorem dX2_like_64 : decode cX2_like 64 = .ok (.aload_n 1, 1) := dk_43 (dk_at dksX2_like_2 18 rfl rfl)
theorem dX2_like_65 : decode cX2_like 65 = .ok (.getfield 61, 3) := dk_180 0 61 (dk_at dksX2_like_2 19 rfl rfl)
theorem dX2_like_68 : decode cX2_like 68 = .ok (.putfield 61, 3) := dk_181 0 61 (dk_at dksX2_like_3 0 rfl rfl)
theorem dX2_like_71 : decode cX2_like 71 = .ok (.aload_n 0, 1) := dk_42 (dk_at dksX2_like_3 3 rfl rfl)
theorem dX2_like_72 : decode cX2_like 72 = .ok (.aload_n 1, 1) := dk_43 (dk_at dksX2_like_3 4 rfl rfl)
theorem dX2_like_73 : decode cX2_like 73 = .ok (.getfield 64, 3) := dk_180 0 64 (dk_at dksX2_like_3 5 rfl rfl)
theorem dX2_like_76 : decode cX2_like 76 = .ok (.putfield 64, 3) := dk_181 0 64 (dk_at dksX2_like_3 8 rfl rfl)
theorem dX2_like_79 : decode cX2_like 79 = .ok (.aload_n 0, 1) := dk_42 (dk_at dksX2_like_3 11 rfl rfl)
theorem dX2_like_80 : decode cX2_like 80 = .ok (.aload_n 1, 1) := dk_43 (dk_at dksX2_like_3 12 rfl rfl)
theorem dX2_like_81 : decode cX2_like 81 = .ok (.getfield 36, 3) := dk_180 0 36 (dk_at dksX2_like_3 13 rfl rfl)
theorem dX2_like_84 : decode cX2_like 84 = .ok (.putfield 36, 3) := dk_181 0 36 (dk_at dksX2_like_3 16 rfl rfl)
theorem dX2_like_87 : decode cX2_like 87 = .ok (.aload_n 0, 1) := dk_42 (dk_at dksX2_like_3 19 rfl rfl)
theorem dX2_like_88 : decode cX2_like 88 = .ok (.aload_n 1, 1) := dk_43 (dk_at dksX2_like_3 20 rfl rfl)
theorem dX2_like_89 : decode cX2_like 89 = .ok (.getfield 40, 3) := dk_180 0 40 (dk_at dksX2_like_3 21 rfl rfl)
theorem dX2_like_92 : decode cX2_like 92 = .ok (.putfield 40, 3) := dk_181 0 40 (dk_at dksX2_like_4 0 rfl rfl)
theorem dX2_like_95 : decode cX2_like 95 = .ok (.aload_n 0, 1) := dk_42 (dk_at dksX2_like_4 3 rfl rfl)
theorem dX2_like_96 : decode cX2_like 96 = .ok (.aload_n 1, 1) := dk_43 (dk_at dksX2_like_4 4 rfl rfl)
theorem dX2_like_97 : decode cX2_like 97 = .ok (.getfield 43, 3) := dk_180 0 43 (dk_at dksX2_like_4 5 rfl rfl)
theorem dX2_like_100 : decode cX2_like 100 = .ok (.putfield 43, 3) := dk_181 0 43 (dk_at dksX2_like_4 8 rfl rfl)
theorem dX2_like_103 : decode cX2_like 103 = .ok (.aload_n 0, 1) := dk_42 (dk_at dksX2_like_4 11 rfl rfl)
theorem dX2_like_104 : decode cX2_like 104 = .ok (.aload_n 1, 1) := dk_43 (dk_at dksX2_like_4 12 rfl rfl)
theorem dX2_like_105 : decode cX2_like 105 = .ok (.getfield 68, 3) := dk_180 0 68 (dk_at dksX2_like_4 13 rfl rfl)
theorem dX2_like_108 : decode cX2_like 108 = .ok (.putfield 68, 3) := dk_181 0 68 (dk_at dksX2_like_4 16 rfl rfl)
theorem dX2_like_111 : decode cX2_like 111 = .ok (.aload_n 0, 1) := dk_42 (dk_at dksX2_like_4 19 rfl rfl)
theorem dX2_like_112 : decode cX2_like 112 = .ok (.aload_n 1, 1) := dk_43 (dk_at dksX2_like_4 20 rfl rfl)
theorem dX2_like_113 : decode cX2_like 113 = .ok (.getfield 71, 3) := dk_180 0 71 (dk_at dksX2_like_4 21 rfl rfl)
theorem dX2_like_116 : decode cX2_like 116 = .ok (.putfield 71, 3) := dk_181 0 71 (dk_at dksX2_like_5 0 rfl rfl)
theorem dX2_like_119 : decode cX2_like 119 = .ok (.return_, 1) := dk_177 (dk_at dksX2_like_5 3 rfl rfl)
abbrev cX2_comes : ByteArray := prog_15_method_13_code
def yX2_comes : MethodName := ⟨RX2, "comes", "(I)V"⟩
def dkwX2_comes_0 : List UInt8 := [42, 89, 180, 0, 61, 27, 96, 181, 0, 61, 177]
abbrev dktX2_comes_0 : List UInt8 := dkwX2_comes_0 ++ []
theorem dksX2_comes_0 : cX2_comes.data.toList.drop 0 = dktX2_comes_0 := by decide +kernel
theorem dX2_comes_0 : decode cX2_comes 0 = .ok (.aload_n 0, 1) := dk_42 (dk_at dksX2_comes_0 0 rfl rfl)
theorem dX2_comes_1 : decode cX2_comes 1 = .ok (.dup, 1) := dk_89 (dk_at dksX2_comes_0 1 rfl rfl)
theorem dX2_comes_2 : decode cX2_comes 2 = .ok (.getfield 61, 3) := dk_180 0 61 (dk_at dksX2_comes_0 2 rfl rfl)
theorem dX2_comes_5 : decode cX2_comes 5 = .ok (.iload_n 1, 1) := dk_27 (dk_at dksX2_comes_0 5 rfl rfl)
theorem dX2_comes_6 : decode cX2_comes 6 = .ok (.iadd, 1) := dk_96 (dk_at dksX2_comes_0 6 rfl rfl)
theorem dX2_comes_7 : decode cX2_comes 7 = .ok (.putfield 61, 3) := dk_181 0 61 (dk_at dksX2_comes_0 7 rfl rfl)
theorem dX2_comes_10 : decode cX2_comes 10 = .ok (.return_, 1) := dk_177 (dk_at dksX2_comes_0 10 rfl rfl)
abbrev cX2_rate : ByteArray := prog_15_method_8_code
def yX2_rate : MethodName := ⟨RX2, "rate", "()I"⟩
def dkwX2_rate_0 : List UInt8 := [42, 180, 0, 33, 6, 46, 172]
abbrev dktX2_rate_0 : List UInt8 := dkwX2_rate_0 ++ []
theorem dksX2_rate_0 : cX2_rate.data.toList.drop 0 = dktX2_rate_0 := by decide +kernel
theorem dX2_rate_0 : decode cX2_rate 0 = .ok (.aload_n 0, 1) := dk_42 (dk_at dksX2_rate_0 0 rfl rfl)
theorem dX2_rate_1 : decode cX2_rate 1 = .ok (.getfield 33, 3) := dk_180 0 33 (dk_at dksX2_rate_0 1 rfl rfl)
theorem dX2_rate_4 : decode cX2_rate 4 = .ok (.iconst 3, 1) := dk_6 (dk_at dksX2_rate_0 4 rfl rfl)
theorem dX2_rate_5 : decode cX2_rate 5 = .ok (.iaload, 1) := dk_46 (dk_at dksX2_rate_0 5 rfl rfl)
theorem dX2_rate_6 : decode cX2_rate 6 = .ok (.ireturn, 1) := dk_172 (dk_at dksX2_rate_0 6 rfl rfl)
abbrev cX2_isGreenFor : ByteArray := prog_15_method_11_code
def yX2_isGreenFor : MethodName := ⟨RX2, "isGreenFor", "(II)Z"⟩
def dkwX2_isGreenFor_0 : List UInt8 := [42, 180, 0, 64, 153, 0, 17, 28, 42, 180, 0, 36, 100, 27, 161, 0, 7, 4, 167, 0, 4, 3, 172]
abbrev dktX2_isGreenFor_0 : List UInt8 := dkwX2_isGreenFor_0 ++ []
theorem dksX2_isGreenFor_0 : cX2_isGreenFor.data.toList.drop 0 = dktX2_isGreenFor_0 := by decide +kernel
theorem dX2_isGreenFor_0 : decode cX2_isGreenFor 0 = .ok (.aload_n 0, 1) := dk_42 (dk_at dksX2_isGreenFor_0 0 rfl rfl)
theorem dX2_isGreenFor_1 : decode cX2_isGreenFor 1 = .ok (.getfield 64, 3) := dk_180 0 64 (dk_at dksX2_isGreenFor_0 1 rfl rfl)
theorem dX2_isGreenFor_4 : decode cX2_isGreenFor 4 = .ok (.ifCond .eq 17, 3) := dk_153 0 17 (dk_at dksX2_isGreenFor_0 4 rfl rfl)
theorem dX2_isGreenFor_7 : decode cX2_isGreenFor 7 = .ok (.iload_n 2, 1) := dk_28 (dk_at dksX2_isGreenFor_0 7 rfl rfl)
theorem dX2_isGreenFor_8 : decode cX2_isGreenFor 8 = .ok (.aload_n 0, 1) := dk_42 (dk_at dksX2_isGreenFor_0 8 rfl rfl)
theorem dX2_isGreenFor_9 : decode cX2_isGreenFor 9 = .ok (.getfield 36, 3) := dk_180 0 36 (dk_at dksX2_isGreenFor_0 9 rfl rfl)
theorem dX2_isGreenFor_12 : decode cX2_isGreenFor 12 = .ok (.isub, 1) := dk_100 (dk_at dksX2_isGreenFor_0 12 rfl rfl)
theorem dX2_isGreenFor_13 : decode cX2_isGreenFor 13 = .ok (.iload_n 1, 1) := dk_27 (dk_at dksX2_isGreenFor_0 13 rfl rfl)
theorem dX2_isGreenFor_14 : decode cX2_isGreenFor 14 = .ok (.if_icmp .lt 7, 3) := dk_161 0 7 (dk_at dksX2_isGreenFor_0 14 rfl rfl)
theorem dX2_isGreenFor_17 : decode cX2_isGreenFor 17 = .ok (.iconst 1, 1) := dk_4 (dk_at dksX2_isGreenFor_0 17 rfl rfl)
theorem dX2_isGreenFor_18 : decode cX2_isGreenFor 18 = .ok (.goto 4, 3) := dk_167 0 4 (dk_at dksX2_isGreenFor_0 18 rfl rfl)
theorem dX2_isGreenFor_21 : decode cX2_isGreenFor 21 = .ok (.iconst 0, 1) := dk_3 (dk_at dksX2_isGreenFor_0 21 rfl rfl)
theorem dX2_isGreenFor_22 : decode cX2_isGreenFor 22 = .ok (.ireturn, 1) := dk_172 (dk_at dksX2_isGreenFor_0 22 rfl rfl)
abbrev cX2_isCalled : ByteArray := prog_15_method_10_code
def yX2_isCalled : MethodName := ⟨RX2, "isCalled", "()Z"⟩
def dkwX2_isCalled_0 : List UInt8 := [42, 180, 0, 61, 158, 0, 14, 42, 180, 0, 64, 154, 0, 7, 4, 167, 0, 4, 3, 172]
abbrev dktX2_isCalled_0 : List UInt8 := dkwX2_isCalled_0 ++ []
theorem dksX2_isCalled_0 : cX2_isCalled.data.toList.drop 0 = dktX2_isCalled_0 := by decide +kernel
theorem dX2_isCalled_0 : decode cX2_isCalled 0 = .ok (.aload_n 0, 1) := dk_42 (dk_at dksX2_isCalled_0 0 rfl rfl)
theorem dX2_isCalled_1 : decode cX2_isCalled 1 = .ok (.getfield 61, 3) := dk_180 0 61 (dk_at dksX2_isCalled_0 1 rfl rfl)
theorem dX2_isCalled_4 : decode cX2_isCalled 4 = .ok (.ifCond .le 14, 3) := dk_158 0 14 (dk_at dksX2_isCalled_0 4 rfl rfl)
theorem dX2_isCalled_7 : decode cX2_isCalled 7 = .ok (.aload_n 0, 1) := dk_42 (dk_at dksX2_isCalled_0 7 rfl rfl)
theorem dX2_isCalled_8 : decode cX2_isCalled 8 = .ok (.getfield 64, 3) := dk_180 0 64 (dk_at dksX2_isCalled_0 8 rfl rfl)
theorem dX2_isCalled_11 : decode cX2_isCalled 11 = .ok (.ifCond .ne 7, 3) := dk_154 0 7 (dk_at dksX2_isCalled_0 11 rfl rfl)
theorem dX2_isCalled_14 : decode cX2_isCalled 14 = .ok (.iconst 1, 1) := dk_4 (dk_at dksX2_isCalled_0 14 rfl rfl)
theorem dX2_isCalled_15 : decode cX2_isCalled 15 = .ok (.goto 4, 3) := dk_167 0 4 (dk_at dksX2_isCalled_0 15 rfl rfl)
theorem dX2_isCalled_18 : decode cX2_isCalled 18 = .ok (.iconst 0, 1) := dk_3 (dk_at dksX2_isCalled_0 18 rfl rfl)
theorem dX2_isCalled_19 : decode cX2_isCalled 19 = .ok (.ireturn, 1) := dk_172 (dk_at dksX2_isCalled_0 19 rfl rfl)
abbrev cX2_isGapped : ByteArray := prog_15_method_12_code
def yX2_isGapped : MethodName := ⟨RX2, "isGapped", "(I)Z"⟩
def dkwX2_isGapped_1 : List UInt8 := [167, 0, 4, 3, 172]
abbrev dktX2_isGapped_1 : List UInt8 := dkwX2_isGapped_1 ++ []
def dkwX2_isGapped_0 : List UInt8 := [42, 180, 0, 43, 16, 251, 159, 0, 16, 27, 42, 180, 0, 43, 100, 42, 182, 0, 77, 161, 0, 7, 4]
abbrev dktX2_isGapped_0 : List UInt8 := dkwX2_isGapped_0 ++ dktX2_isGapped_1
theorem dksX2_isGapped_0 : cX2_isGapped.data.toList.drop 0 = dktX2_isGapped_0 := by decide +kernel
theorem dksX2_isGapped_1 : cX2_isGapped.data.toList.drop 23 = dktX2_isGapped_1 := dk_seg dksX2_isGapped_0 23 rfl rfl
theorem dX2_isGapped_0 : decode cX2_isGapped 0 = .ok (.aload_n 0, 1) := dk_42 (dk_at dksX2_isGapped_0 0 rfl rfl)
theorem dX2_isGapped_1 : decode cX2_isGapped 1 = .ok (.getfield 43, 3) := dk_180 0 43 (dk_at dksX2_isGapped_0 1 rfl rfl)
theorem dX2_isGapped_4 : decode cX2_isGapped 4 = .ok (.bipush (-5), 2) := dk_16 251 (dk_at dksX2_isGapped_0 4 rfl rfl)
theorem dX2_isGapped_6 : decode cX2_isGapped 6 = .ok (.if_icmp .eq 16, 3) := dk_159 0 16 (dk_at dksX2_isGapped_0 6 rfl rfl)
theorem dX2_isGapped_9 : decode cX2_isGapped 9 = .ok (.iload_n 1, 1) := dk_27 (dk_at dksX2_isGapped_0 9 rfl rfl)
theorem dX2_isGapped_10 : decode cX2_isGapped 10 = .ok (.aload_n 0, 1) := dk_42 (dk_at dksX2_isGapped_0 10 rfl rfl)
theorem dX2_isGapped_11 : decode cX2_isGapped 11 = .ok (.getfield 43, 3) := dk_180 0 43 (dk_at dksX2_isGapped_0 11 rfl rfl)
theorem dX2_isGapped_14 : decode cX2_isGapped 14 = .ok (.isub, 1) := dk_100 (dk_at dksX2_isGapped_0 14 rfl rfl)
theorem dX2_isGapped_15 : decode cX2_isGapped 15 = .ok (.aload_n 0, 1) := dk_42 (dk_at dksX2_isGapped_0 15 rfl rfl)
theorem dX2_isGapped_16 : decode cX2_isGapped 16 = .ok (.invokevirtual 77, 3) := dk_182 0 77 (dk_at dksX2_isGapped_0 16 rfl rfl)
theorem dX2_isGapped_19 : decode cX2_isGapped 19 = .ok (.if_icmp .lt 7, 3) := dk_161 0 7 (dk_at dksX2_isGapped_0 19 rfl rfl)
theorem dX2_isGapped_22 : decode cX2_isGapped 22 = .ok (.iconst 1, 1) := dk_4 (dk_at dksX2_isGapped_0 22 rfl rfl)
theorem dX2_isGapped_23 : decode cX2_isGapped 23 = .ok (.goto 4, 3) := dk_167 0 4 (dk_at dksX2_isGapped_1 0 rfl rfl)
theorem dX2_isGapped_26 : decode cX2_isGapped 26 = .ok (.iconst 0, 1) := dk_3 (dk_at dksX2_isGapped_1 3 rfl rfl)
theorem dX2_isGapped_27 : decode cX2_isGapped 27 = .ok (.ireturn, 1) := dk_172 (dk_at dksX2_isGapped_1 4 rfl rfl)
abbrev cX2_gap : ByteArray := prog_15_method_7_code
def yX2_gap : MethodName := ⟨RX2, "gap", "()I"⟩
def dkwX2_gap_0 : List UInt8 := [42, 180, 0, 33, 5, 46, 172]
abbrev dktX2_gap_0 : List UInt8 := dkwX2_gap_0 ++ []
theorem dksX2_gap_0 : cX2_gap.data.toList.drop 0 = dktX2_gap_0 := by decide +kernel
theorem dX2_gap_0 : decode cX2_gap 0 = .ok (.aload_n 0, 1) := dk_42 (dk_at dksX2_gap_0 0 rfl rfl)
theorem dX2_gap_1 : decode cX2_gap 1 = .ok (.getfield 33, 3) := dk_180 0 33 (dk_at dksX2_gap_0 1 rfl rfl)
theorem dX2_gap_4 : decode cX2_gap 4 = .ok (.iconst 2, 1) := dk_5 (dk_at dksX2_gap_0 4 rfl rfl)
theorem dX2_gap_5 : decode cX2_gap 5 = .ok (.iaload, 1) := dk_46 (dk_at dksX2_gap_0 5 rfl rfl)
theorem dX2_gap_6 : decode cX2_gap 6 = .ok (.ireturn, 1) := dk_172 (dk_at dksX2_gap_0 6 rfl rfl)
abbrev cX2_couldTake : ByteArray := prog_15_method_14_code
def yX2_couldTake : MethodName := ⟨RX2, "couldTake", "(IIII)Z"⟩
def dkwX2_couldTake_2 : List UInt8 := [180, 0, 46, 180, 0, 85, 21, 5, 4, 96, 104, 96, 162, 0, 7, 4, 167, 0, 4, 3, 172]
abbrev dktX2_couldTake_2 : List UInt8 := dkwX2_couldTake_2 ++ []
def dkwX2_couldTake_1 : List UInt8 := [96, 161, 0, 41, 21, 4, 16, 251, 159, 0, 30, 28, 21, 4, 42, 180, 0, 46, 180, 0, 88, 96, 42]
abbrev dktX2_couldTake_1 : List UInt8 := dkwX2_couldTake_1 ++ dktX2_couldTake_2
def dkwX2_couldTake_0 : List UInt8 := [42, 27, 182, 0, 81, 54, 5, 21, 5, 155, 0, 57, 28, 29, 42, 180, 0, 46, 180, 0, 85, 21, 5, 104]
abbrev dktX2_couldTake_0 : List UInt8 := dkwX2_couldTake_0 ++ dktX2_couldTake_1
theorem dksX2_couldTake_0 : cX2_couldTake.data.toList.drop 0 = dktX2_couldTake_0 := by decide +kernel
theorem dksX2_couldTake_1 : cX2_couldTake.data.toList.drop 24 = dktX2_couldTake_1 := dk_seg dksX2_couldTake_0 24 rfl rfl
theorem dksX2_couldTake_2 : cX2_couldTake.data.toList.drop 47 = dktX2_couldTake_2 := dk_seg dksX2_couldTake_1 23 rfl rfl
theorem dX2_couldTake_0 : decode cX2_couldTake 0 = .ok (.aload_n 0, 1) := dk_42 (dk_at dksX2_couldTake_0 0 rfl rfl)
theorem dX2_couldTake_1 : decode cX2_couldTake 1 = .ok (.iload_n 1, 1) := dk_27 (dk_at dksX2_couldTake_0 1 rfl rfl)
theorem dX2_couldTake_2 : decode cX2_couldTake 2 = .ok (.invokevirtual 81, 3) := dk_182 0 81 (dk_at dksX2_couldTake_0 2 rfl rfl)
theorem dX2_couldTake_5 : decode cX2_couldTake 5 = .ok (.istore 5, 2) := dk_54 5 (dk_at dksX2_couldTake_0 5 rfl rfl)
theorem dX2_couldTake_7 : decode cX2_couldTake 7 = .ok (.iload 5, 2) := dk_21 5 (dk_at dksX2_couldTake_0 7 rfl rfl)
theorem dX2_couldTake_9 : decode cX2_couldTake 9 = .ok (.ifCond .lt 57, 3) := dk_155 0 57 (dk_at dksX2_couldTake_0 9 rfl rfl)
theorem dX2_couldTake_12 : decode cX2_couldTake 12 = .ok (.iload_n 2, 1) := dk_28 (dk_at dksX2_couldTake_0 12 rfl rfl)
theorem dX2_couldTake_13 : decode cX2_couldTake 13 = .ok (.iload_n 3, 1) := dk_29 (dk_at dksX2_couldTake_0 13 rfl rfl)
theorem dX2_couldTake_14 : decode cX2_couldTake 14 = .ok (.aload_n 0, 1) := dk_42 (dk_at dksX2_couldTake_0 14 rfl rfl)
theorem dX2_couldTake_15 : decode cX2_couldTake 15 = .ok (.getfield 46, 3) := dk_180 0 46 (dk_at dksX2_couldTake_0 15 rfl rfl)
theorem dX2_couldTake_18 : decode cX2_couldTake 18 = .ok (.getfield 85, 3) := dk_180 0 85 (dk_at dksX2_couldTake_0 18 rfl rfl)
theorem dX2_couldTake_21 : decode cX2_couldTake 21 = .ok (.iload 5, 2) := dk_21 5 (dk_at dksX2_couldTake_0 21 rfl rfl)
theorem dX2_couldTake_23 : decode cX2_couldTake 23 = .ok (.imul, 1) := dk_104 (dk_at dksX2_couldTake_0 23 rfl rfl)
theorem dX2_couldTake_24 : decode cX2_couldTake 24 = .ok (.iadd, 1) := dk_96 (dk_at dksX2_couldTake_1 0 rfl rfl)
theorem dX2_couldTake_25 : decode cX2_couldTake 25 = .ok (.if_icmp .lt 41, 3) := dk_161 0 41 (dk_at dksX2_couldTake_1 1 rfl rfl)
theorem dX2_couldTake_28 : decode cX2_couldTake 28 = .ok (.iload 4, 2) := dk_21 4 (dk_at dksX2_couldTake_1 4 rfl rfl)
theorem dX2_couldTake_30 : decode cX2_couldTake 30 = .ok (.bipush (-5), 2) := dk_16 251 (dk_at dksX2_couldTake_1 6 rfl rfl)
theorem dX2_couldTake_32 : decode cX2_couldTake 32 = .ok (.if_icmp .eq 30, 3) := dk_159 0 30 (dk_at dksX2_couldTake_1 8 rfl rfl)
theorem dX2_couldTake_35 : decode cX2_couldTake 35 = .ok (.iload_n 2, 1) := dk_28 (dk_at dksX2_couldTake_1 11 rfl rfl)
theorem dX2_couldTake_36 : decode cX2_couldTake 36 = .ok (.iload 4, 2) := dk_21 4 (dk_at dksX2_couldTake_1 12 rfl rfl)
theorem dX2_couldTake_38 : decode cX2_couldTake 38 = .ok (.aload_n 0, 1) := dk_42 (dk_at dksX2_couldTake_1 14 rfl rfl)
theorem dX2_couldTake_39 : decode cX2_couldTake 39 = .ok (.getfield 46, 3) := dk_180 0 46 (dk_at dksX2_couldTake_1 15 rfl rfl)
theorem dX2_couldTake_42 : decode cX2_couldTake 42 = .ok (.getfield 88, 3) := dk_180 0 88 (dk_at dksX2_couldTake_1 18 rfl rfl)
theorem dX2_couldTake_45 : decode cX2_couldTake 45 = .ok (.iadd, 1) := dk_96 (dk_at dksX2_couldTake_1 21 rfl rfl)
theorem dX2_couldTake_46 : decode cX2_couldTake 46 = .ok (.aload_n 0, 1) := dk_42 (dk_at dksX2_couldTake_1 22 rfl rfl)
theorem dX2_couldTake_47 : decode cX2_couldTake 47 = .ok (.getfield 46, 3) := dk_180 0 46 (dk_at dksX2_couldTake_2 0 rfl rfl)
theorem dX2_couldTake_50 : decode cX2_couldTake 50 = .ok (.getfield 85, 3) := dk_180 0 85 (dk_at dksX2_couldTake_2 3 rfl rfl)
theorem dX2_couldTake_53 : decode cX2_couldTake 53 = .ok (.iload 5, 2) := dk_21 5 (dk_at dksX2_couldTake_2 6 rfl rfl)
theorem dX2_couldTake_55 : decode cX2_couldTake 55 = .ok (.iconst 1, 1) := dk_4 (dk_at dksX2_couldTake_2 8 rfl rfl)
theorem dX2_couldTake_56 : decode cX2_couldTake 56 = .ok (.iadd, 1) := dk_96 (dk_at dksX2_couldTake_2 9 rfl rfl)
theorem dX2_couldTake_57 : decode cX2_couldTake 57 = .ok (.imul, 1) := dk_104 (dk_at dksX2_couldTake_2 10 rfl rfl)
theorem dX2_couldTake_58 : decode cX2_couldTake 58 = .ok (.iadd, 1) := dk_96 (dk_at dksX2_couldTake_2 11 rfl rfl)
theorem dX2_couldTake_59 : decode cX2_couldTake 59 = .ok (.if_icmp .ge 7, 3) := dk_162 0 7 (dk_at dksX2_couldTake_2 12 rfl rfl)
theorem dX2_couldTake_62 : decode cX2_couldTake 62 = .ok (.iconst 1, 1) := dk_4 (dk_at dksX2_couldTake_2 15 rfl rfl)
theorem dX2_couldTake_63 : decode cX2_couldTake 63 = .ok (.goto 4, 3) := dk_167 0 4 (dk_at dksX2_couldTake_2 16 rfl rfl)
theorem dX2_couldTake_66 : decode cX2_couldTake 66 = .ok (.iconst 0, 1) := dk_3 (dk_at dksX2_couldTake_2 19 rfl rfl)
theorem dX2_couldTake_67 : decode cX2_couldTake 67 = .ok (.ireturn, 1) := dk_172 (dk_at dksX2_couldTake_2 20 rfl rfl)
theorem q94 : (Jvm.Cond.initialized "SafeClears$Signal") ∈ lw_all := lw_g (lw_at lw_m1 3 rfl) rfl
theorem q154 : (Jvm.Cond.instantiable "SafeClears$Signal" (12 : Nat)) ∈ lw_all := lw_g (lw_at lw_m1 63 rfl) rfl
theorem q156 : (Jvm.Cond.instanceMethod ({ cls := "SafeClears$Signal", name := "<init>", desc := "()V" } : Jvm.MethodName)) ∈ lw_all := lw_g (lw_at lw_m1 65 rfl) rfl
theorem q157 : (Jvm.Cond.code ({ cls := "SafeClears$Signal", name := "<init>", desc := "()V" } : Jvm.MethodName) prog_15_method_1_code (1 : Nat) (Option.none : Option Jvm.ClassFile.FieldType)) ∈ lw_all := lw_g (lw_at lw_m1 66 rfl) rfl
theorem q158 : (Jvm.Cond.fieldLink "SafeClears$Signal" (3 : Nat) "SafeClears$Kind" "CARS" "LSafeClears$Kind;") ∈ lw_all := lw_g (lw_at lw_m1 67 rfl) rfl
theorem q160 : (Jvm.Cond.methodLink "SafeClears$Signal" (9 : Nat) ({ cls := "SafeClears$Signal", name := "<init>", desc := "(LSafeClears$Kind;[I)V" } : Jvm.MethodName)) ∈ lw_all := lw_g (lw_at lw_m1 69 rfl) rfl
theorem q161 : (Jvm.Cond.instanceMethod ({ cls := "SafeClears$Signal", name := "<init>", desc := "(LSafeClears$Kind;[I)V" } : Jvm.MethodName)) ∈ lw_all := lw_g (lw_at lw_m1 70 rfl) rfl
theorem q162 : (Jvm.Cond.code ({ cls := "SafeClears$Signal", name := "<init>", desc := "(LSafeClears$Kind;[I)V" } : Jvm.MethodName) prog_15_method_2_code (3 : Nat) (Option.none : Option Jvm.ClassFile.FieldType)) ∈ lw_all := lw_g (lw_at lw_m1 71 rfl) rfl
theorem q163 : (Jvm.Cond.methodLink "SafeClears$Signal" (15 : Nat) ({ cls := "java/lang/Object", name := "<init>", desc := "()V" } : Jvm.MethodName)) ∈ lw_all := lw_g (lw_at lw_m1 72 rfl) rfl
theorem q164 : (Jvm.Cond.classLink "SafeClears$Signal" (24 : Nat) "java/util/BitSet") ∈ lw_all := lw_g (lw_at lw_m1 73 rfl) rfl
theorem q166 : (Jvm.Cond.methodLink "SafeClears$Signal" (26 : Nat) ({ cls := "java/util/BitSet", name := "<init>", desc := "(I)V" } : Jvm.MethodName)) ∈ lw_all := lw_g (lw_at lw_m1 75 rfl) rfl
theorem q507 : (Jvm.Cond.methodLink "SafeClears$Signal" (49 : Nat) ({ cls := "java/lang/System", name := "arraycopy", desc := "(Ljava/lang/Object;ILjava/lang/Object;II)V" } : Jvm.MethodName)) ∈ lw_all := lw_g (lw_at lw_m2 176 rfl) rfl
theorem q508 : (Jvm.Cond.fieldLink "SafeClears$Signal" (46 : Nat) "SafeClears$Signal" "kind" "LSafeClears$Kind;") ∈ lw_all := lw_g (lw_at lw_m2 177 rfl) rfl
theorem q511 : (Jvm.Cond.fieldLink "SafeClears$Signal" (20 : Nat) "SafeClears$Signal" "cells" "[I") ∈ lw_all := lw_g (lw_at lw_m2 180 rfl) rfl
theorem q514 : (Jvm.Cond.fieldLink "SafeClears$Signal" (29 : Nat) "SafeClears$Signal" "way" "Ljava/util/BitSet;") ∈ lw_all := lw_g (lw_at lw_m2 183 rfl) rfl
theorem q518 : (Jvm.Cond.fieldLink "SafeClears$Signal" (33 : Nat) "SafeClears$Signal" "times" "[I") ∈ lw_all := lw_g (lw_at lw_m2 187 rfl) rfl
theorem q522 : (Jvm.Cond.fieldLink "SafeClears$Signal" (55 : Nat) "SafeClears$Signal" "many" "I") ∈ lw_all := lw_g (lw_at lw_m2 191 rfl) rfl
theorem q526 : (Jvm.Cond.fieldLink "SafeClears$Signal" (61 : Nat) "SafeClears$Signal" "queue" "I") ∈ lw_all := lw_g (lw_at lw_m2 195 rfl) rfl
theorem q529 : (Jvm.Cond.fieldLink "SafeClears$Signal" (64 : Nat) "SafeClears$Signal" "isGreen" "Z") ∈ lw_all := lw_g (lw_at lw_m2 198 rfl) rfl
theorem q532 : (Jvm.Cond.fieldLink "SafeClears$Signal" (36 : Nat) "SafeClears$Signal" "began" "I") ∈ lw_all := lw_g (lw_at lw_m2 201 rfl) rfl
theorem q535 : (Jvm.Cond.fieldLink "SafeClears$Signal" (40 : Nat) "SafeClears$Signal" "ended" "I") ∈ lw_all := lw_g (lw_at lw_m2 204 rfl) rfl
theorem q538 : (Jvm.Cond.fieldLink "SafeClears$Signal" (43 : Nat) "SafeClears$Signal" "seen" "I") ∈ lw_all := lw_g (lw_at lw_m2 207 rfl) rfl
theorem q541 : (Jvm.Cond.fieldLink "SafeClears$Signal" (68 : Nat) "SafeClears$Signal" "served" "I") ∈ lw_all := lw_g (lw_at lw_m2 210 rfl) rfl
theorem q544 : (Jvm.Cond.fieldLink "SafeClears$Signal" (71 : Nat) "SafeClears$Signal" "greens" "I") ∈ lw_all := lw_g (lw_at lw_m2 213 rfl) rfl
theorem q547 : (Jvm.Cond.lays "SafeClears$Signal" "SafeClears$Signal" "kind" "LSafeClears$Kind;") ∈ lw_all := lw_g (lw_at lw_m2 216 rfl) rfl
theorem q548 : (Jvm.Cond.soleField "SafeClears$Signal" "kind") ∈ lw_all := lw_g (lw_at lw_m2 217 rfl) rfl
theorem q549 : (Jvm.Cond.laysFinal "SafeClears$Signal" "SafeClears$Signal" "cells" "[I") ∈ lw_all := lw_g (lw_at lw_m2 218 rfl) rfl
theorem q550 : (Jvm.Cond.soleField "SafeClears$Signal" "cells") ∈ lw_all := lw_g (lw_at lw_m2 219 rfl) rfl
theorem q551 : (Jvm.Cond.laysFinal "SafeClears$Signal" "SafeClears$Signal" "way" "Ljava/util/BitSet;") ∈ lw_all := lw_g (lw_at lw_m2 220 rfl) rfl
theorem q552 : (Jvm.Cond.soleField "SafeClears$Signal" "way") ∈ lw_all := lw_g (lw_at lw_m2 221 rfl) rfl
theorem q553 : (Jvm.Cond.laysFinal "SafeClears$Signal" "SafeClears$Signal" "times" "[I") ∈ lw_all := lw_g (lw_at lw_m2 222 rfl) rfl
theorem q554 : (Jvm.Cond.soleField "SafeClears$Signal" "times") ∈ lw_all := lw_g (lw_at lw_m2 223 rfl) rfl
theorem q555 : (Jvm.Cond.lays "SafeClears$Signal" "SafeClears$Signal" "many" "I") ∈ lw_all := lw_g (lw_at lw_m2 224 rfl) rfl
theorem q556 : (Jvm.Cond.soleField "SafeClears$Signal" "many") ∈ lw_all := lw_g (lw_at lw_m2 225 rfl) rfl
theorem q557 : (Jvm.Cond.lays "SafeClears$Signal" "SafeClears$Signal" "queue" "I") ∈ lw_all := lw_g (lw_at lw_m2 226 rfl) rfl
theorem q558 : (Jvm.Cond.soleField "SafeClears$Signal" "queue") ∈ lw_all := lw_g (lw_at lw_m2 227 rfl) rfl
theorem q559 : (Jvm.Cond.lays "SafeClears$Signal" "SafeClears$Signal" "isGreen" "Z") ∈ lw_all := lw_g (lw_at lw_m2 228 rfl) rfl
theorem q560 : (Jvm.Cond.soleField "SafeClears$Signal" "isGreen") ∈ lw_all := lw_g (lw_at lw_m2 229 rfl) rfl
theorem q561 : (Jvm.Cond.lays "SafeClears$Signal" "SafeClears$Signal" "began" "I") ∈ lw_all := lw_g (lw_at lw_m2 230 rfl) rfl
theorem q562 : (Jvm.Cond.soleField "SafeClears$Signal" "began") ∈ lw_all := lw_g (lw_at lw_m2 231 rfl) rfl
theorem q563 : (Jvm.Cond.lays "SafeClears$Signal" "SafeClears$Signal" "ended" "I") ∈ lw_all := lw_g (lw_at lw_m2 232 rfl) rfl
theorem q564 : (Jvm.Cond.soleField "SafeClears$Signal" "ended") ∈ lw_all := lw_g (lw_at lw_m2 233 rfl) rfl
theorem q565 : (Jvm.Cond.lays "SafeClears$Signal" "SafeClears$Signal" "seen" "I") ∈ lw_all := lw_g (lw_at lw_m2 234 rfl) rfl
theorem q566 : (Jvm.Cond.soleField "SafeClears$Signal" "seen") ∈ lw_all := lw_g (lw_at lw_m2 235 rfl) rfl
theorem q567 : (Jvm.Cond.lays "SafeClears$Signal" "SafeClears$Signal" "served" "I") ∈ lw_all := lw_g (lw_at lw_m2 236 rfl) rfl
theorem q568 : (Jvm.Cond.soleField "SafeClears$Signal" "served") ∈ lw_all := lw_g (lw_at lw_m2 237 rfl) rfl
theorem q569 : (Jvm.Cond.lays "SafeClears$Signal" "SafeClears$Signal" "greens" "I") ∈ lw_all := lw_g (lw_at lw_m2 238 rfl) rfl
theorem q570 : (Jvm.Cond.soleField "SafeClears$Signal" "greens") ∈ lw_all := lw_g (lw_at lw_m2 239 rfl) rfl
theorem q571 : (Jvm.Cond.superclass "SafeClears$Signal" "java/lang/Object") ∈ lw_all := lw_g (lw_at lw_m3 0 rfl) rfl
theorem q848 : (Jvm.Cond.instanceMethod ({ cls := "SafeClears$Signal", name := "begins", desc := "(LSafeClears$Kind;)V" } : Jvm.MethodName)) ∈ lw_all := lw_g (lw_at lw_m4 37 rfl) rfl
theorem q849 : (Jvm.Cond.selects "SafeClears$Signal" ({ cls := "SafeClears$Signal", name := "begins", desc := "(LSafeClears$Kind;)V" } : Jvm.MethodName) ({ cls := "SafeClears$Signal", name := "begins", desc := "(LSafeClears$Kind;)V" } : Jvm.MethodName)) ∈ lw_all := lw_g (lw_at lw_m4 38 rfl) rfl
theorem q850 : (Jvm.Cond.code ({ cls := "SafeClears$Signal", name := "begins", desc := "(LSafeClears$Kind;)V" } : Jvm.MethodName) prog_15_method_3_code (2 : Nat) (Option.none : Option Jvm.ClassFile.FieldType)) ∈ lw_all := lw_g (lw_at lw_m4 39 rfl) rfl
theorem q851 : (Jvm.Cond.methodLink "SafeClears$Signal" (58 : Nat) ({ cls := "java/util/BitSet", name := "clear", desc := "()V" } : Jvm.MethodName)) ∈ lw_all := lw_g (lw_at lw_m4 40 rfl) rfl
theorem q856 : (Jvm.Cond.instanceMethod ({ cls := "SafeClears$Signal", name := "goesOver", desc := "(I)V" } : Jvm.MethodName)) ∈ lw_all := lw_g (lw_at lw_m4 45 rfl) rfl
theorem q857 : (Jvm.Cond.selects "SafeClears$Signal" ({ cls := "SafeClears$Signal", name := "goesOver", desc := "(I)V" } : Jvm.MethodName) ({ cls := "SafeClears$Signal", name := "goesOver", desc := "(I)V" } : Jvm.MethodName)) ∈ lw_all := lw_g (lw_at lw_m4 46 rfl) rfl
theorem q858 : (Jvm.Cond.code ({ cls := "SafeClears$Signal", name := "goesOver", desc := "(I)V" } : Jvm.MethodName) prog_15_method_4_code (2 : Nat) (Option.none : Option Jvm.ClassFile.FieldType)) ∈ lw_all := lw_g (lw_at lw_m4 47 rfl) rfl
theorem q859 : (Jvm.Cond.methodLink "SafeClears$Signal" (74 : Nat) ({ cls := "java/util/BitSet", name := "set", desc := "(I)V" } : Jvm.MethodName)) ∈ lw_all := lw_g (lw_at lw_m4 48 rfl) rfl
theorem q923 : (Jvm.Cond.instanceMethod ({ cls := "SafeClears$Signal", name := "placeOf", desc := "(I)I" } : Jvm.MethodName)) ∈ lw_all := lw_g (lw_at lw_m4 112 rfl) rfl
theorem q924 : (Jvm.Cond.selects "SafeClears$Signal" ({ cls := "SafeClears$Signal", name := "placeOf", desc := "(I)I" } : Jvm.MethodName) ({ cls := "SafeClears$Signal", name := "placeOf", desc := "(I)I" } : Jvm.MethodName)) ∈ lw_all := lw_g (lw_at lw_m4 113 rfl) rfl
theorem q925 : (Jvm.Cond.code ({ cls := "SafeClears$Signal", name := "placeOf", desc := "(I)I" } : Jvm.MethodName) prog_15_method_9_code (3 : Nat) (Option.some Jvm.ClassFile.FieldType.int)) ∈ lw_all := lw_g (lw_at lw_m4 114 rfl) rfl
theorem q941 : (Jvm.Cond.instanceMethod ({ cls := "SafeClears$Signal", name := "most", desc := "()I" } : Jvm.MethodName)) ∈ lw_all := lw_g (lw_at lw_m4 130 rfl) rfl
theorem q942 : (Jvm.Cond.selects "SafeClears$Signal" ({ cls := "SafeClears$Signal", name := "most", desc := "()I" } : Jvm.MethodName) ({ cls := "SafeClears$Signal", name := "most", desc := "()I" } : Jvm.MethodName)) ∈ lw_all := lw_g (lw_at lw_m4 131 rfl) rfl
theorem q943 : (Jvm.Cond.code ({ cls := "SafeClears$Signal", name := "most", desc := "()I" } : Jvm.MethodName) prog_15_method_6_code (1 : Nat) (Option.some Jvm.ClassFile.FieldType.int)) ∈ lw_all := lw_g (lw_at lw_m4 132 rfl) rfl
theorem q946 : (Jvm.Cond.instanceMethod ({ cls := "SafeClears$Signal", name := "least", desc := "()I" } : Jvm.MethodName)) ∈ lw_all := lw_g (lw_at lw_m4 135 rfl) rfl
theorem q947 : (Jvm.Cond.selects "SafeClears$Signal" ({ cls := "SafeClears$Signal", name := "least", desc := "()I" } : Jvm.MethodName) ({ cls := "SafeClears$Signal", name := "least", desc := "()I" } : Jvm.MethodName)) ∈ lw_all := lw_g (lw_at lw_m4 136 rfl) rfl
theorem q948 : (Jvm.Cond.code ({ cls := "SafeClears$Signal", name := "least", desc := "()I" } : Jvm.MethodName) prog_15_method_5_code (1 : Nat) (Option.some Jvm.ClassFile.FieldType.int)) ∈ lw_all := lw_g (lw_at lw_m4 137 rfl) rfl
theorem q1048 : (Jvm.Cond.instanceMethod ({ cls := "SafeClears$Signal", name := "like", desc := "(LSafeClears$Signal;)V" } : Jvm.MethodName)) ∈ lw_all := lw_g (lw_at lw_m4 237 rfl) rfl
theorem q1049 : (Jvm.Cond.selects "SafeClears$Signal" ({ cls := "SafeClears$Signal", name := "like", desc := "(LSafeClears$Signal;)V" } : Jvm.MethodName) ({ cls := "SafeClears$Signal", name := "like", desc := "(LSafeClears$Signal;)V" } : Jvm.MethodName)) ∈ lw_all := lw_g (lw_at lw_m4 238 rfl) rfl
theorem q1050 : (Jvm.Cond.code ({ cls := "SafeClears$Signal", name := "like", desc := "(LSafeClears$Signal;)V" } : Jvm.MethodName) prog_15_method_15_code (2 : Nat) (Option.none : Option Jvm.ClassFile.FieldType)) ∈ lw_all := lw_g (lw_at lw_m4 239 rfl) rfl
theorem q1051 : (Jvm.Cond.methodLink "SafeClears$Signal" (91 : Nat) ({ cls := "java/util/BitSet", name := "or", desc := "(Ljava/util/BitSet;)V" } : Jvm.MethodName)) ∈ lw_all := lw_g (lw_at lw_m5 0 rfl) rfl
theorem q1101 : (Jvm.Cond.instanceMethod ({ cls := "SafeClears$Signal", name := "comes", desc := "(I)V" } : Jvm.MethodName)) ∈ lw_all := lw_g (lw_at lw_m5 50 rfl) rfl
theorem q1102 : (Jvm.Cond.selects "SafeClears$Signal" ({ cls := "SafeClears$Signal", name := "comes", desc := "(I)V" } : Jvm.MethodName) ({ cls := "SafeClears$Signal", name := "comes", desc := "(I)V" } : Jvm.MethodName)) ∈ lw_all := lw_g (lw_at lw_m5 51 rfl) rfl
theorem q1103 : (Jvm.Cond.code ({ cls := "SafeClears$Signal", name := "comes", desc := "(I)V" } : Jvm.MethodName) prog_15_method_13_code (2 : Nat) (Option.none : Option Jvm.ClassFile.FieldType)) ∈ lw_all := lw_g (lw_at lw_m5 52 rfl) rfl
theorem q1146 : (Jvm.Cond.instanceMethod ({ cls := "SafeClears$Signal", name := "rate", desc := "()I" } : Jvm.MethodName)) ∈ lw_all := lw_g (lw_at lw_m5 95 rfl) rfl
theorem q1147 : (Jvm.Cond.selects "SafeClears$Signal" ({ cls := "SafeClears$Signal", name := "rate", desc := "()I" } : Jvm.MethodName) ({ cls := "SafeClears$Signal", name := "rate", desc := "()I" } : Jvm.MethodName)) ∈ lw_all := lw_g (lw_at lw_m5 96 rfl) rfl
theorem q1148 : (Jvm.Cond.code ({ cls := "SafeClears$Signal", name := "rate", desc := "()I" } : Jvm.MethodName) prog_15_method_8_code (1 : Nat) (Option.some Jvm.ClassFile.FieldType.int)) ∈ lw_all := lw_g (lw_at lw_m5 97 rfl) rfl
theorem q1165 : (Jvm.Cond.instanceMethod ({ cls := "SafeClears$Signal", name := "isGreenFor", desc := "(II)Z" } : Jvm.MethodName)) ∈ lw_all := lw_g (lw_at lw_m5 114 rfl) rfl
theorem q1166 : (Jvm.Cond.selects "SafeClears$Signal" ({ cls := "SafeClears$Signal", name := "isGreenFor", desc := "(II)Z" } : Jvm.MethodName) ({ cls := "SafeClears$Signal", name := "isGreenFor", desc := "(II)Z" } : Jvm.MethodName)) ∈ lw_all := lw_g (lw_at lw_m5 115 rfl) rfl
theorem q1167 : (Jvm.Cond.code ({ cls := "SafeClears$Signal", name := "isGreenFor", desc := "(II)Z" } : Jvm.MethodName) prog_15_method_11_code (3 : Nat) (Option.some Jvm.ClassFile.FieldType.boolean)) ∈ lw_all := lw_g (lw_at lw_m5 116 rfl) rfl
theorem q1185 : (Jvm.Cond.instanceMethod ({ cls := "SafeClears$Signal", name := "isCalled", desc := "()Z" } : Jvm.MethodName)) ∈ lw_all := lw_g (lw_at lw_m5 134 rfl) rfl
theorem q1186 : (Jvm.Cond.selects "SafeClears$Signal" ({ cls := "SafeClears$Signal", name := "isCalled", desc := "()Z" } : Jvm.MethodName) ({ cls := "SafeClears$Signal", name := "isCalled", desc := "()Z" } : Jvm.MethodName)) ∈ lw_all := lw_g (lw_at lw_m5 135 rfl) rfl
theorem q1187 : (Jvm.Cond.code ({ cls := "SafeClears$Signal", name := "isCalled", desc := "()Z" } : Jvm.MethodName) prog_15_method_10_code (1 : Nat) (Option.some Jvm.ClassFile.FieldType.boolean)) ∈ lw_all := lw_g (lw_at lw_m5 136 rfl) rfl
theorem q1213 : (Jvm.Cond.instanceMethod ({ cls := "SafeClears$Signal", name := "isGapped", desc := "(I)Z" } : Jvm.MethodName)) ∈ lw_all := lw_g (lw_at lw_m5 162 rfl) rfl
theorem q1214 : (Jvm.Cond.selects "SafeClears$Signal" ({ cls := "SafeClears$Signal", name := "isGapped", desc := "(I)Z" } : Jvm.MethodName) ({ cls := "SafeClears$Signal", name := "isGapped", desc := "(I)Z" } : Jvm.MethodName)) ∈ lw_all := lw_g (lw_at lw_m5 163 rfl) rfl
theorem q1215 : (Jvm.Cond.code ({ cls := "SafeClears$Signal", name := "isGapped", desc := "(I)Z" } : Jvm.MethodName) prog_15_method_12_code (2 : Nat) (Option.some Jvm.ClassFile.FieldType.boolean)) ∈ lw_all := lw_g (lw_at lw_m5 164 rfl) rfl
theorem q1216 : (Jvm.Cond.methodLink "SafeClears$Signal" (77 : Nat) ({ cls := "SafeClears$Signal", name := "gap", desc := "()I" } : Jvm.MethodName)) ∈ lw_all := lw_g (lw_at lw_m5 165 rfl) rfl
theorem q1217 : (Jvm.Cond.instanceMethod ({ cls := "SafeClears$Signal", name := "gap", desc := "()I" } : Jvm.MethodName)) ∈ lw_all := lw_g (lw_at lw_m5 166 rfl) rfl
theorem q1218 : (Jvm.Cond.selects "SafeClears$Signal" ({ cls := "SafeClears$Signal", name := "gap", desc := "()I" } : Jvm.MethodName) ({ cls := "SafeClears$Signal", name := "gap", desc := "()I" } : Jvm.MethodName)) ∈ lw_all := lw_g (lw_at lw_m5 167 rfl) rfl
theorem q1219 : (Jvm.Cond.code ({ cls := "SafeClears$Signal", name := "gap", desc := "()I" } : Jvm.MethodName) prog_15_method_7_code (1 : Nat) (Option.some Jvm.ClassFile.FieldType.int)) ∈ lw_all := lw_g (lw_at lw_m5 168 rfl) rfl
theorem q1419 : (Jvm.Cond.instanceMethod ({ cls := "SafeClears$Signal", name := "couldTake", desc := "(IIII)Z" } : Jvm.MethodName)) ∈ lw_all := lw_g (lw_at lw_m6 128 rfl) rfl
theorem q1420 : (Jvm.Cond.selects "SafeClears$Signal" ({ cls := "SafeClears$Signal", name := "couldTake", desc := "(IIII)Z" } : Jvm.MethodName) ({ cls := "SafeClears$Signal", name := "couldTake", desc := "(IIII)Z" } : Jvm.MethodName)) ∈ lw_all := lw_g (lw_at lw_m6 129 rfl) rfl
theorem q1421 : (Jvm.Cond.code ({ cls := "SafeClears$Signal", name := "couldTake", desc := "(IIII)Z" } : Jvm.MethodName) prog_15_method_14_code (6 : Nat) (Option.some Jvm.ClassFile.FieldType.boolean)) ∈ lw_all := lw_g (lw_at lw_m6 130 rfl) rfl
theorem q1422 : (Jvm.Cond.methodLink "SafeClears$Signal" (81 : Nat) ({ cls := "SafeClears$Signal", name := "placeOf", desc := "(I)I" } : Jvm.MethodName)) ∈ lw_all := lw_g (lw_at lw_m6 131 rfl) rfl
theorem q2229 : (Jvm.Cond.castable "SafeClears$Signal" "java/lang/Object") ∈ lw_tbl := lw_at lw_m9 218 rfl
theorem q2261 : (Jvm.Cond.fieldLinkNest "SafeClears$Signal" (85 : Nat) "SafeClears$Kind" "pace" "I" "SafeClears") ∈ lw_tbl := lw_at lw_m10 10 rfl
theorem q2262 : (Jvm.Cond.fieldLinkNest "SafeClears$Signal" (88 : Nat) "SafeClears$Kind" "amber" "I" "SafeClears") ∈ lw_tbl := lw_at lw_m10 11 rfl
theorem in_X2 : ∀ w ∈ wsX20, w ∈ lw_all := lw_in wsX20 [547, 549, 551, 553, 555, 557, 559, 561, 563, 565, 567, 569] (by decide +kernel) (by decide +kernel)
/-! SafeClears$Kind -/
set_option maxRecDepth 100000
def RX3 : String := "SafeClears$Kind"
abbrev cX3_of : ByteArray := prog_6_method_5_code
def yX3_of : MethodName := ⟨RX3, "of", "(I)LSafeClears$Kind;"⟩
def dkwX3_of_2 : List UInt8 := [178, 0, 3, 176, 178, 0, 7, 176, 178, 0, 10, 176, 178, 0, 13, 176]
abbrev dktX3_of_2 : List UInt8 := dkwX3_of_2 ++ []
def dkwX3_of_1 : List UInt8 := [170, 0, 0, 0, 0, 0, 39, 0, 0, 0, 0, 0, 0, 0, 2, 0, 0, 0, 27, 0, 0, 0, 31, 0, 0, 0, 35]
abbrev dktX3_of_1 : List UInt8 := dkwX3_of_1 ++ dktX3_of_2
def dkwX3_of_0 : List UInt8 := [26]
abbrev dktX3_of_0 : List UInt8 := dkwX3_of_0 ++ dktX3_of_1
theorem dksX3_of_0 : cX3_of.data.toList.drop 0 = dktX3_of_0 := by decide +kernel
theorem dksX3_of_1 : cX3_of.data.toList.drop 1 = dktX3_of_1 := dk_seg dksX3_of_0 1 rfl rfl
theorem dksX3_of_2 : cX3_of.data.toList.drop 28 = dktX3_of_2 := dk_seg dksX3_of_1 27 rfl rfl
theorem dX3_of_0 : decode cX3_of 0 = .ok (.iload_n 0, 1) := dk_26 (dk_at dksX3_of_0 0 rfl rfl)
theorem dX3_of_1 : decode cX3_of 1 = .ok (.tableswitch 39 0 2 #[27, 31, 35], 27) := by decide +kernel
theorem dX3_of_28 : decode cX3_of 28 = .ok (.getstatic 3, 3) := dk_178 0 3 (dk_at dksX3_of_2 0 rfl rfl)
theorem dX3_of_31 : decode cX3_of 31 = .ok (.areturn, 1) := dk_176 (dk_at dksX3_of_2 3 rfl rfl)
theorem dX3_of_32 : decode cX3_of 32 = .ok (.getstatic 7, 3) := dk_178 0 7 (dk_at dksX3_of_2 4 rfl rfl)
theorem dX3_of_35 : decode cX3_of 35 = .ok (.areturn, 1) := dk_176 (dk_at dksX3_of_2 7 rfl rfl)
theorem dX3_of_36 : decode cX3_of 36 = .ok (.getstatic 10, 3) := dk_178 0 10 (dk_at dksX3_of_2 8 rfl rfl)
theorem dX3_of_39 : decode cX3_of 39 = .ok (.areturn, 1) := dk_176 (dk_at dksX3_of_2 11 rfl rfl)
theorem dX3_of_40 : decode cX3_of 40 = .ok (.getstatic 13, 3) := dk_178 0 13 (dk_at dksX3_of_2 12 rfl rfl)
theorem dX3_of_43 : decode cX3_of 43 = .ok (.areturn, 1) := dk_176 (dk_at dksX3_of_2 15 rfl rfl)
theorem q96 : (Jvm.Cond.initialized "SafeClears$Kind") ∈ lw_all := lw_g (lw_at lw_m1 5 rfl) rfl
theorem q159 : (Jvm.Cond.laysStatic "SafeClears$Kind" "CARS" "LSafeClears$Kind;") ∈ lw_tbl := lw_at lw_m1 68 rfl
theorem q838 : (Jvm.Cond.static ({ cls := "SafeClears$Kind", name := "of", desc := "(I)LSafeClears$Kind;" } : Jvm.MethodName)) ∈ lw_all := lw_g (lw_at lw_m4 27 rfl) rfl
theorem q839 : (Jvm.Cond.code ({ cls := "SafeClears$Kind", name := "of", desc := "(I)LSafeClears$Kind;" } : Jvm.MethodName) prog_6_method_5_code (1 : Nat) (Option.some (Jvm.ClassFile.FieldType.object "SafeClears$Kind"))) ∈ lw_all := lw_g (lw_at lw_m4 28 rfl) rfl
theorem q840 : (Jvm.Cond.fieldLink "SafeClears$Kind" (3 : Nat) "SafeClears$Kind" "CARS" "LSafeClears$Kind;") ∈ lw_all := lw_g (lw_at lw_m4 29 rfl) rfl
theorem q841 : (Jvm.Cond.fieldLink "SafeClears$Kind" (7 : Nat) "SafeClears$Kind" "WALK" "LSafeClears$Kind;") ∈ lw_all := lw_g (lw_at lw_m4 30 rfl) rfl
theorem q842 : (Jvm.Cond.laysStatic "SafeClears$Kind" "WALK" "LSafeClears$Kind;") ∈ lw_tbl := lw_at lw_m4 31 rfl
theorem q843 : (Jvm.Cond.fieldLink "SafeClears$Kind" (10 : Nat) "SafeClears$Kind" "TRAM" "LSafeClears$Kind;") ∈ lw_all := lw_g (lw_at lw_m4 32 rfl) rfl
theorem q844 : (Jvm.Cond.laysStatic "SafeClears$Kind" "TRAM" "LSafeClears$Kind;") ∈ lw_tbl := lw_at lw_m4 33 rfl
theorem q845 : (Jvm.Cond.fieldLink "SafeClears$Kind" (13 : Nat) "SafeClears$Kind" "BIKES" "LSafeClears$Kind;") ∈ lw_all := lw_g (lw_at lw_m4 34 rfl) rfl
theorem q846 : (Jvm.Cond.laysStatic "SafeClears$Kind" "BIKES" "LSafeClears$Kind;") ∈ lw_tbl := lw_at lw_m4 35 rfl
theorem q1233 : (Jvm.Cond.declares ({ cls := "SafeClears$Kind", name := "leaves", desc := "(II)I" } : Jvm.MethodName)) ∈ lw_tbl := lw_at lw_m5 182 rfl
theorem q1234 : (Jvm.Cond.sameMethod "SafeClears$Kind" "SafeClears$Kind" "leaves" "(II)I") ∈ lw_all := lw_g (lw_at lw_m5 183 rfl) rfl
theorem q1278 : (Jvm.Cond.sameMethod "SafeClears$Kind" "java/lang/Enum" "ordinal" "()I") ∈ lw_all := lw_g (lw_at lw_m5 227 rfl) rfl
/-! SafeClears$Phase -/
set_option maxRecDepth 100000
def RX4 : String := "SafeClears$Phase"
def TX4 : u_T := fun k => match k with
  | 0 => ("SafeClears$Phase", "set", "I", false)
  | 1 => ("SafeClears$Phase", "force", "I", false)
  | _ => ("SafeClears$Phase", "ons", "I", false)
def tyX4 : Nat → FieldType := fun k => match k with
  | 0 => .int
  | 1 => .int
  | _ => .int
abbrev wsX40 : List Cond := u_ws RX4 TX4 3
theorem nmX4 : ∀ a, a < 3 → ∀ b, b < 3 → a ≠ b → (TX4 a).2.1 ≠ (TX4 b).2.1 := by decide +kernel
theorem tyX4_ok : ∀ k, k < 3 → parseFieldDescriptor (TX4 k).2.2.1 = some (tyX4 k) := by decide +kernel
abbrev cX4_init : ByteArray := prog_13_method_1_code
def yX4_init : MethodName := ⟨RX4, "<init>", "()V"⟩
theorem dX4_init_0 : decode cX4_init 0 = .ok (.aload_n 0, 1) := by decide +kernel
theorem dX4_init_1 : decode cX4_init 1 = .ok (.invokespecial 1, 3) := by decide +kernel
theorem dX4_init_4 : decode cX4_init 4 = .ok (.return_, 1) := by decide +kernel
abbrev cX4_is : ByteArray := prog_13_method_3_code
def yX4_is : MethodName := ⟨RX4, "is", "(III)V"⟩
def dkwX4_is_0 : List UInt8 := [42, 27, 181, 0, 7, 42, 28, 181, 0, 13, 42, 29, 181, 0, 16, 177]
abbrev dktX4_is_0 : List UInt8 := dkwX4_is_0 ++ []
theorem dksX4_is_0 : cX4_is.data.toList.drop 0 = dktX4_is_0 := by decide +kernel
theorem dX4_is_0 : decode cX4_is 0 = .ok (.aload_n 0, 1) := dk_42 (dk_at dksX4_is_0 0 rfl rfl)
theorem dX4_is_1 : decode cX4_is 1 = .ok (.iload_n 1, 1) := dk_27 (dk_at dksX4_is_0 1 rfl rfl)
theorem dX4_is_2 : decode cX4_is 2 = .ok (.putfield 7, 3) := dk_181 0 7 (dk_at dksX4_is_0 2 rfl rfl)
theorem dX4_is_5 : decode cX4_is 5 = .ok (.aload_n 0, 1) := dk_42 (dk_at dksX4_is_0 5 rfl rfl)
theorem dX4_is_6 : decode cX4_is 6 = .ok (.iload_n 2, 1) := dk_28 (dk_at dksX4_is_0 6 rfl rfl)
theorem dX4_is_7 : decode cX4_is 7 = .ok (.putfield 13, 3) := dk_181 0 13 (dk_at dksX4_is_0 7 rfl rfl)
theorem dX4_is_10 : decode cX4_is 10 = .ok (.aload_n 0, 1) := dk_42 (dk_at dksX4_is_0 10 rfl rfl)
theorem dX4_is_11 : decode cX4_is 11 = .ok (.iload_n 3, 1) := dk_29 (dk_at dksX4_is_0 11 rfl rfl)
theorem dX4_is_12 : decode cX4_is 12 = .ok (.putfield 16, 3) := dk_181 0 16 (dk_at dksX4_is_0 12 rfl rfl)
theorem dX4_is_15 : decode cX4_is 15 = .ok (.return_, 1) := dk_177 (dk_at dksX4_is_0 15 rfl rfl)
abbrev cX4_has : ByteArray := prog_13_method_2_code
def yX4_has : MethodName := ⟨RX4, "has", "(I)Z"⟩
def dkwX4_has_0 : List UInt8 := [42, 180, 0, 7, 27, 122, 4, 126, 4, 160, 0, 7, 4, 167, 0, 4, 3, 172]
abbrev dktX4_has_0 : List UInt8 := dkwX4_has_0 ++ []
theorem dksX4_has_0 : cX4_has.data.toList.drop 0 = dktX4_has_0 := by decide +kernel
theorem dX4_has_0 : decode cX4_has 0 = .ok (.aload_n 0, 1) := dk_42 (dk_at dksX4_has_0 0 rfl rfl)
theorem dX4_has_1 : decode cX4_has 1 = .ok (.getfield 7, 3) := dk_180 0 7 (dk_at dksX4_has_0 1 rfl rfl)
theorem dX4_has_4 : decode cX4_has 4 = .ok (.iload_n 1, 1) := dk_27 (dk_at dksX4_has_0 4 rfl rfl)
theorem dX4_has_5 : decode cX4_has 5 = .ok (.ishr, 1) := dk_122 (dk_at dksX4_has_0 5 rfl rfl)
theorem dX4_has_6 : decode cX4_has 6 = .ok (.iconst 1, 1) := dk_4 (dk_at dksX4_has_0 6 rfl rfl)
theorem dX4_has_7 : decode cX4_has 7 = .ok (.iand, 1) := dk_126 (dk_at dksX4_has_0 7 rfl rfl)
theorem dX4_has_8 : decode cX4_has 8 = .ok (.iconst 1, 1) := dk_4 (dk_at dksX4_has_0 8 rfl rfl)
theorem dX4_has_9 : decode cX4_has 9 = .ok (.if_icmp .ne 7, 3) := dk_160 0 7 (dk_at dksX4_has_0 9 rfl rfl)
theorem dX4_has_12 : decode cX4_has 12 = .ok (.iconst 1, 1) := dk_4 (dk_at dksX4_has_0 12 rfl rfl)
theorem dX4_has_13 : decode cX4_has 13 = .ok (.goto 4, 3) := dk_167 0 4 (dk_at dksX4_has_0 13 rfl rfl)
theorem dX4_has_16 : decode cX4_has 16 = .ok (.iconst 0, 1) := dk_3 (dk_at dksX4_has_0 16 rfl rfl)
theorem dX4_has_17 : decode cX4_has 17 = .ok (.ireturn, 1) := dk_172 (dk_at dksX4_has_0 17 rfl rfl)
theorem q114 : (Jvm.Cond.initialized "SafeClears$Phase") ∈ lw_all := lw_g (lw_at lw_m1 23 rfl) rfl
theorem q572 : (Jvm.Cond.instantiable "SafeClears$Phase" (3 : Nat)) ∈ lw_all := lw_g (lw_at lw_m3 1 rfl) rfl
theorem q574 : (Jvm.Cond.instanceMethod ({ cls := "SafeClears$Phase", name := "<init>", desc := "()V" } : Jvm.MethodName)) ∈ lw_all := lw_g (lw_at lw_m3 3 rfl) rfl
theorem q575 : (Jvm.Cond.code ({ cls := "SafeClears$Phase", name := "<init>", desc := "()V" } : Jvm.MethodName) prog_13_method_1_code (1 : Nat) (Option.none : Option Jvm.ClassFile.FieldType)) ∈ lw_all := lw_g (lw_at lw_m3 4 rfl) rfl
theorem q576 : (Jvm.Cond.methodLink "SafeClears$Phase" (1 : Nat) ({ cls := "java/lang/Object", name := "<init>", desc := "()V" } : Jvm.MethodName)) ∈ lw_all := lw_g (lw_at lw_m3 5 rfl) rfl
theorem q577 : (Jvm.Cond.fieldLink "SafeClears$Phase" (7 : Nat) "SafeClears$Phase" "set" "I") ∈ lw_all := lw_g (lw_at lw_m3 6 rfl) rfl
theorem q581 : (Jvm.Cond.fieldLink "SafeClears$Phase" (13 : Nat) "SafeClears$Phase" "force" "I") ∈ lw_all := lw_g (lw_at lw_m3 10 rfl) rfl
theorem q584 : (Jvm.Cond.fieldLink "SafeClears$Phase" (16 : Nat) "SafeClears$Phase" "ons" "I") ∈ lw_all := lw_g (lw_at lw_m3 13 rfl) rfl
theorem q586 : (Jvm.Cond.lays "SafeClears$Phase" "SafeClears$Phase" "set" "I") ∈ lw_all := lw_g (lw_at lw_m3 15 rfl) rfl
theorem q587 : (Jvm.Cond.soleField "SafeClears$Phase" "set") ∈ lw_all := lw_g (lw_at lw_m3 16 rfl) rfl
theorem q588 : (Jvm.Cond.lays "SafeClears$Phase" "SafeClears$Phase" "force" "I") ∈ lw_all := lw_g (lw_at lw_m3 17 rfl) rfl
theorem q589 : (Jvm.Cond.soleField "SafeClears$Phase" "force") ∈ lw_all := lw_g (lw_at lw_m3 18 rfl) rfl
theorem q590 : (Jvm.Cond.lays "SafeClears$Phase" "SafeClears$Phase" "ons" "I") ∈ lw_all := lw_g (lw_at lw_m3 19 rfl) rfl
theorem q591 : (Jvm.Cond.soleField "SafeClears$Phase" "ons") ∈ lw_all := lw_g (lw_at lw_m3 20 rfl) rfl
theorem q592 : (Jvm.Cond.superclass "SafeClears$Phase" "java/lang/Object") ∈ lw_all := lw_g (lw_at lw_m3 21 rfl) rfl
theorem q1083 : (Jvm.Cond.instanceMethod ({ cls := "SafeClears$Phase", name := "is", desc := "(III)V" } : Jvm.MethodName)) ∈ lw_all := lw_g (lw_at lw_m5 32 rfl) rfl
theorem q1084 : (Jvm.Cond.selects "SafeClears$Phase" ({ cls := "SafeClears$Phase", name := "is", desc := "(III)V" } : Jvm.MethodName) ({ cls := "SafeClears$Phase", name := "is", desc := "(III)V" } : Jvm.MethodName)) ∈ lw_all := lw_g (lw_at lw_m5 33 rfl) rfl
theorem q1085 : (Jvm.Cond.code ({ cls := "SafeClears$Phase", name := "is", desc := "(III)V" } : Jvm.MethodName) prog_13_method_3_code (4 : Nat) (Option.none : Option Jvm.ClassFile.FieldType)) ∈ lw_all := lw_g (lw_at lw_m5 34 rfl) rfl
theorem q1117 : (Jvm.Cond.instanceMethod ({ cls := "SafeClears$Phase", name := "has", desc := "(I)Z" } : Jvm.MethodName)) ∈ lw_all := lw_g (lw_at lw_m5 66 rfl) rfl
theorem q1118 : (Jvm.Cond.selects "SafeClears$Phase" ({ cls := "SafeClears$Phase", name := "has", desc := "(I)Z" } : Jvm.MethodName) ({ cls := "SafeClears$Phase", name := "has", desc := "(I)Z" } : Jvm.MethodName)) ∈ lw_all := lw_g (lw_at lw_m5 67 rfl) rfl
theorem q1119 : (Jvm.Cond.code ({ cls := "SafeClears$Phase", name := "has", desc := "(I)Z" } : Jvm.MethodName) prog_13_method_2_code (2 : Nat) (Option.some Jvm.ClassFile.FieldType.boolean)) ∈ lw_all := lw_g (lw_at lw_m5 68 rfl) rfl
theorem q2235 : (Jvm.Cond.castable "SafeClears$Phase" "java/lang/Object") ∈ lw_tbl := lw_at lw_m9 224 rfl
theorem in_X4 : ∀ w ∈ wsX40, w ∈ lw_all := lw_in wsX40 [586, 588, 590] (by decide +kernel) (by decide +kernel)
/-! SafeClears$Green -/
set_option maxRecDepth 100000
def RX5 : String := "SafeClears$Green"
def TX5 : u_T := fun k => match k with
  | 0 => ("SafeClears$Green", "signal", "I", false)
  | 1 => ("SafeClears$Green", "began", "I", false)
  | _ => ("SafeClears$Green", "ended", "I", false)
def tyX5 : Nat → FieldType := fun k => match k with
  | 0 => .int
  | 1 => .int
  | _ => .int
abbrev wsX50 : List Cond := u_ws RX5 TX5 3
theorem nmX5 : ∀ a, a < 3 → ∀ b, b < 3 → a ≠ b → (TX5 a).2.1 ≠ (TX5 b).2.1 := by decide +kernel
theorem tyX5_ok : ∀ k, k < 3 → parseFieldDescriptor (TX5 k).2.2.1 = some (tyX5 k) := by decide +kernel
abbrev cX5_init : ByteArray := prog_5_method_1_code
def yX5_init : MethodName := ⟨RX5, "<init>", "()V"⟩
theorem dX5_init_0 : decode cX5_init 0 = .ok (.aload_n 0, 1) := by decide +kernel
theorem dX5_init_1 : decode cX5_init 1 = .ok (.invokespecial 1, 3) := by decide +kernel
theorem dX5_init_4 : decode cX5_init 4 = .ok (.return_, 1) := by decide +kernel
abbrev cX5_is : ByteArray := prog_5_method_2_code
def yX5_is : MethodName := ⟨RX5, "is", "(III)V"⟩
def dkwX5_is_0 : List UInt8 := [42, 27, 181, 0, 7, 42, 28, 181, 0, 13, 42, 29, 181, 0, 16, 177]
abbrev dktX5_is_0 : List UInt8 := dkwX5_is_0 ++ []
theorem dksX5_is_0 : cX5_is.data.toList.drop 0 = dktX5_is_0 := by decide +kernel
theorem dX5_is_0 : decode cX5_is 0 = .ok (.aload_n 0, 1) := dk_42 (dk_at dksX5_is_0 0 rfl rfl)
theorem dX5_is_1 : decode cX5_is 1 = .ok (.iload_n 1, 1) := dk_27 (dk_at dksX5_is_0 1 rfl rfl)
theorem dX5_is_2 : decode cX5_is 2 = .ok (.putfield 7, 3) := dk_181 0 7 (dk_at dksX5_is_0 2 rfl rfl)
theorem dX5_is_5 : decode cX5_is 5 = .ok (.aload_n 0, 1) := dk_42 (dk_at dksX5_is_0 5 rfl rfl)
theorem dX5_is_6 : decode cX5_is 6 = .ok (.iload_n 2, 1) := dk_28 (dk_at dksX5_is_0 6 rfl rfl)
theorem dX5_is_7 : decode cX5_is 7 = .ok (.putfield 13, 3) := dk_181 0 13 (dk_at dksX5_is_0 7 rfl rfl)
theorem dX5_is_10 : decode cX5_is 10 = .ok (.aload_n 0, 1) := dk_42 (dk_at dksX5_is_0 10 rfl rfl)
theorem dX5_is_11 : decode cX5_is 11 = .ok (.iload_n 3, 1) := dk_29 (dk_at dksX5_is_0 11 rfl rfl)
theorem dX5_is_12 : decode cX5_is 12 = .ok (.putfield 16, 3) := dk_181 0 16 (dk_at dksX5_is_0 12 rfl rfl)
theorem dX5_is_15 : decode cX5_is 15 = .ok (.return_, 1) := dk_177 (dk_at dksX5_is_0 15 rfl rfl)
abbrev cX5_to : ByteArray := prog_5_method_5_code
def yX5_to : MethodName := ⟨RX5, "to", "()I"⟩
theorem dX5_to_0 : decode cX5_to 0 = .ok (.aload_n 0, 1) := by decide +kernel
theorem dX5_to_1 : decode cX5_to 1 = .ok (.getfield 16, 3) := by decide +kernel
theorem dX5_to_4 : decode cX5_to 4 = .ok (.ireturn, 1) := by decide +kernel
abbrev cX5_from : ByteArray := prog_5_method_4_code
def yX5_from : MethodName := ⟨RX5, "from", "()I"⟩
theorem dX5_from_0 : decode cX5_from 0 = .ok (.aload_n 0, 1) := by decide +kernel
theorem dX5_from_1 : decode cX5_from 1 = .ok (.getfield 13, 3) := by decide +kernel
theorem dX5_from_4 : decode cX5_from 4 = .ok (.ireturn, 1) := by decide +kernel
abbrev cX5_like : ByteArray := prog_5_method_3_code
def yX5_like : MethodName := ⟨RX5, "like", "(LSafeClears$Green;)V"⟩
def dkwX5_like_0 : List UInt8 := [42, 43, 180, 0, 7, 43, 180, 0, 13, 43, 180, 0, 16, 182, 0, 19, 177]
abbrev dktX5_like_0 : List UInt8 := dkwX5_like_0 ++ []
theorem dksX5_like_0 : cX5_like.data.toList.drop 0 = dktX5_like_0 := by decide +kernel
theorem dX5_like_0 : decode cX5_like 0 = .ok (.aload_n 0, 1) := dk_42 (dk_at dksX5_like_0 0 rfl rfl)
theorem dX5_like_1 : decode cX5_like 1 = .ok (.aload_n 1, 1) := dk_43 (dk_at dksX5_like_0 1 rfl rfl)
theorem dX5_like_2 : decode cX5_like 2 = .ok (.getfield 7, 3) := dk_180 0 7 (dk_at dksX5_like_0 2 rfl rfl)
theorem dX5_like_5 : decode cX5_like 5 = .ok (.aload_n 1, 1) := dk_43 (dk_at dksX5_like_0 5 rfl rfl)
theorem dX5_like_6 : decode cX5_like 6 = .ok (.getfield 13, 3) := dk_180 0 13 (dk_at dksX5_like_0 6 rfl rfl)
theorem dX5_like_9 : decode cX5_like 9 = .ok (.aload_n 1, 1) := dk_43 (dk_at dksX5_like_0 9 rfl rfl)
theorem dX5_like_10 : decode cX5_like 10 = .ok (.getfield 16, 3) := dk_180 0 16 (dk_at dksX5_like_0 10 rfl rfl)
theorem dX5_like_13 : decode cX5_like 13 = .ok (.invokevirtual 19, 3) := dk_182 0 19 (dk_at dksX5_like_0 13 rfl rfl)
theorem dX5_like_16 : decode cX5_like 16 = .ok (.return_, 1) := dk_177 (dk_at dksX5_like_0 16 rfl rfl)
theorem q115 : (Jvm.Cond.initialized "SafeClears$Green") ∈ lw_all := lw_g (lw_at lw_m1 24 rfl) rfl
theorem q593 : (Jvm.Cond.instantiable "SafeClears$Green" (3 : Nat)) ∈ lw_all := lw_g (lw_at lw_m3 22 rfl) rfl
theorem q595 : (Jvm.Cond.instanceMethod ({ cls := "SafeClears$Green", name := "<init>", desc := "()V" } : Jvm.MethodName)) ∈ lw_all := lw_g (lw_at lw_m3 24 rfl) rfl
theorem q596 : (Jvm.Cond.code ({ cls := "SafeClears$Green", name := "<init>", desc := "()V" } : Jvm.MethodName) prog_5_method_1_code (1 : Nat) (Option.none : Option Jvm.ClassFile.FieldType)) ∈ lw_all := lw_g (lw_at lw_m3 25 rfl) rfl
theorem q597 : (Jvm.Cond.methodLink "SafeClears$Green" (1 : Nat) ({ cls := "java/lang/Object", name := "<init>", desc := "()V" } : Jvm.MethodName)) ∈ lw_all := lw_g (lw_at lw_m3 26 rfl) rfl
theorem q598 : (Jvm.Cond.fieldLink "SafeClears$Green" (7 : Nat) "SafeClears$Green" "signal" "I") ∈ lw_all := lw_g (lw_at lw_m3 27 rfl) rfl
theorem q600 : (Jvm.Cond.fieldLink "SafeClears$Green" (13 : Nat) "SafeClears$Green" "began" "I") ∈ lw_all := lw_g (lw_at lw_m3 29 rfl) rfl
theorem q602 : (Jvm.Cond.fieldLink "SafeClears$Green" (16 : Nat) "SafeClears$Green" "ended" "I") ∈ lw_all := lw_g (lw_at lw_m3 31 rfl) rfl
theorem q604 : (Jvm.Cond.lays "SafeClears$Green" "SafeClears$Green" "signal" "I") ∈ lw_all := lw_g (lw_at lw_m3 33 rfl) rfl
theorem q605 : (Jvm.Cond.soleField "SafeClears$Green" "signal") ∈ lw_all := lw_g (lw_at lw_m3 34 rfl) rfl
theorem q606 : (Jvm.Cond.lays "SafeClears$Green" "SafeClears$Green" "began" "I") ∈ lw_all := lw_g (lw_at lw_m3 35 rfl) rfl
theorem q607 : (Jvm.Cond.soleField "SafeClears$Green" "began") ∈ lw_all := lw_g (lw_at lw_m3 36 rfl) rfl
theorem q608 : (Jvm.Cond.lays "SafeClears$Green" "SafeClears$Green" "ended" "I") ∈ lw_all := lw_g (lw_at lw_m3 37 rfl) rfl
theorem q609 : (Jvm.Cond.soleField "SafeClears$Green" "ended") ∈ lw_all := lw_g (lw_at lw_m3 38 rfl) rfl
theorem q610 : (Jvm.Cond.superclass "SafeClears$Green" "java/lang/Object") ∈ lw_all := lw_g (lw_at lw_m3 39 rfl) rfl
theorem q1177 : (Jvm.Cond.instanceMethod ({ cls := "SafeClears$Green", name := "is", desc := "(III)V" } : Jvm.MethodName)) ∈ lw_all := lw_g (lw_at lw_m5 126 rfl) rfl
theorem q1178 : (Jvm.Cond.selects "SafeClears$Green" ({ cls := "SafeClears$Green", name := "is", desc := "(III)V" } : Jvm.MethodName) ({ cls := "SafeClears$Green", name := "is", desc := "(III)V" } : Jvm.MethodName)) ∈ lw_all := lw_g (lw_at lw_m5 127 rfl) rfl
theorem q1179 : (Jvm.Cond.code ({ cls := "SafeClears$Green", name := "is", desc := "(III)V" } : Jvm.MethodName) prog_5_method_2_code (4 : Nat) (Option.none : Option Jvm.ClassFile.FieldType)) ∈ lw_all := lw_g (lw_at lw_m5 128 rfl) rfl
theorem q1382 : (Jvm.Cond.castable "SafeClears$Green" "SafeClears$Span") ∈ lw_tbl := lw_at lw_m6 91 rfl
theorem q1383 : (Jvm.Cond.unhidden "SafeClears$Green" "lasts" "()I") ∈ lw_tbl := lw_at lw_m6 92 rfl
theorem q1391 : (Jvm.Cond.selects "SafeClears$Green" ({ cls := "SafeClears$Span", name := "to", desc := "()I" } : Jvm.MethodName) ({ cls := "SafeClears$Green", name := "to", desc := "()I" } : Jvm.MethodName)) ∈ lw_all := lw_g (lw_at lw_m6 100 rfl) rfl
theorem q1392 : (Jvm.Cond.unhidden "SafeClears$Green" "to" "()I") ∈ lw_tbl := lw_at lw_m6 101 rfl
theorem q1393 : (Jvm.Cond.instanceMethod ({ cls := "SafeClears$Green", name := "to", desc := "()I" } : Jvm.MethodName)) ∈ lw_all := lw_g (lw_at lw_m6 102 rfl) rfl
theorem q1394 : (Jvm.Cond.publicMethod ({ cls := "SafeClears$Green", name := "to", desc := "()I" } : Jvm.MethodName)) ∈ lw_tbl := lw_at lw_m6 103 rfl
theorem q1395 : (Jvm.Cond.code ({ cls := "SafeClears$Green", name := "to", desc := "()I" } : Jvm.MethodName) prog_5_method_5_code (1 : Nat) (Option.some Jvm.ClassFile.FieldType.int)) ∈ lw_all := lw_g (lw_at lw_m6 104 rfl) rfl
theorem q1400 : (Jvm.Cond.selects "SafeClears$Green" ({ cls := "SafeClears$Span", name := "from", desc := "()I" } : Jvm.MethodName) ({ cls := "SafeClears$Green", name := "from", desc := "()I" } : Jvm.MethodName)) ∈ lw_all := lw_g (lw_at lw_m6 109 rfl) rfl
theorem q1401 : (Jvm.Cond.unhidden "SafeClears$Green" "from" "()I") ∈ lw_tbl := lw_at lw_m6 110 rfl
theorem q1402 : (Jvm.Cond.instanceMethod ({ cls := "SafeClears$Green", name := "from", desc := "()I" } : Jvm.MethodName)) ∈ lw_all := lw_g (lw_at lw_m6 111 rfl) rfl
theorem q1403 : (Jvm.Cond.publicMethod ({ cls := "SafeClears$Green", name := "from", desc := "()I" } : Jvm.MethodName)) ∈ lw_tbl := lw_at lw_m6 112 rfl
theorem q1404 : (Jvm.Cond.code ({ cls := "SafeClears$Green", name := "from", desc := "()I" } : Jvm.MethodName) prog_5_method_4_code (1 : Nat) (Option.some Jvm.ClassFile.FieldType.int)) ∈ lw_all := lw_g (lw_at lw_m6 113 rfl) rfl
theorem q1444 : (Jvm.Cond.unhidden "SafeClears$Green" "isAhead" "(LSafeClears$Span;I)Z") ∈ lw_tbl := lw_at lw_m6 153 rfl
theorem q1505 : (Jvm.Cond.instanceMethod ({ cls := "SafeClears$Green", name := "like", desc := "(LSafeClears$Green;)V" } : Jvm.MethodName)) ∈ lw_all := lw_g (lw_at lw_m6 214 rfl) rfl
theorem q1506 : (Jvm.Cond.selects "SafeClears$Green" ({ cls := "SafeClears$Green", name := "like", desc := "(LSafeClears$Green;)V" } : Jvm.MethodName) ({ cls := "SafeClears$Green", name := "like", desc := "(LSafeClears$Green;)V" } : Jvm.MethodName)) ∈ lw_all := lw_g (lw_at lw_m6 215 rfl) rfl
theorem q1507 : (Jvm.Cond.code ({ cls := "SafeClears$Green", name := "like", desc := "(LSafeClears$Green;)V" } : Jvm.MethodName) prog_5_method_3_code (2 : Nat) (Option.none : Option Jvm.ClassFile.FieldType)) ∈ lw_all := lw_g (lw_at lw_m6 216 rfl) rfl
theorem q1508 : (Jvm.Cond.methodLink "SafeClears$Green" (19 : Nat) ({ cls := "SafeClears$Green", name := "is", desc := "(III)V" } : Jvm.MethodName)) ∈ lw_all := lw_g (lw_at lw_m6 217 rfl) rfl
theorem q2236 : (Jvm.Cond.castable "SafeClears$Green" "java/lang/Object") ∈ lw_tbl := lw_at lw_m9 225 rfl
theorem in_X5 : ∀ w ∈ wsX50, w ∈ lw_all := lw_in wsX50 [604, 606, 608] (by decide +kernel) (by decide +kernel)
/-! SafeClears$Node -/
set_option maxRecDepth 100000
def RX6 : String := "SafeClears$Node"
def TX6 : u_T := fun k => match k with
  | _ => ("SafeClears$Node", "told", "[I", true)
def tyX6 : Nat → FieldType := fun k => match k with
  | _ => .array .int
abbrev wsX60 : List Cond := u_ws RX6 TX6 1
theorem nmX6 : ∀ a, a < 1 → ∀ b, b < 1 → a ≠ b → (TX6 a).2.1 ≠ (TX6 b).2.1 := by decide +kernel
theorem tyX6_ok : ∀ k, k < 1 → parseFieldDescriptor (TX6 k).2.2.1 = some (tyX6 k) := by decide +kernel
abbrev cX6_init : ByteArray := prog_12_method_1_code
def yX6_init : MethodName := ⟨RX6, "<init>", "()V"⟩
def dkwX6_init_0 : List UInt8 := [42, 183, 0, 1, 42, 6, 188, 10, 181, 0, 7, 177]
abbrev dktX6_init_0 : List UInt8 := dkwX6_init_0 ++ []
theorem dksX6_init_0 : cX6_init.data.toList.drop 0 = dktX6_init_0 := by decide +kernel
theorem dX6_init_0 : decode cX6_init 0 = .ok (.aload_n 0, 1) := dk_42 (dk_at dksX6_init_0 0 rfl rfl)
theorem dX6_init_1 : decode cX6_init 1 = .ok (.invokespecial 1, 3) := dk_183 0 1 (dk_at dksX6_init_0 1 rfl rfl)
theorem dX6_init_4 : decode cX6_init 4 = .ok (.aload_n 0, 1) := dk_42 (dk_at dksX6_init_0 4 rfl rfl)
theorem dX6_init_5 : decode cX6_init 5 = .ok (.iconst 3, 1) := dk_6 (dk_at dksX6_init_0 5 rfl rfl)
theorem dX6_init_6 : decode cX6_init 6 = .ok (.newarray .int, 2) := dk_188_10 (dk_at dksX6_init_0 6 rfl rfl)
theorem dX6_init_8 : decode cX6_init 8 = .ok (.putfield 7, 3) := dk_181 0 7 (dk_at dksX6_init_0 8 rfl rfl)
theorem dX6_init_11 : decode cX6_init 11 = .ok (.return_, 1) := dk_177 (dk_at dksX6_init_0 11 rfl rfl)
abbrev cX6_isOpen : ByteArray := prog_12_method_2_code
def yX6_isOpen : MethodName := ⟨RX6, "isOpen", "(II)Z"⟩
def dkwX6_isOpen_1 : List UInt8 := [167, 0, 4, 3, 172]
abbrev dktX6_isOpen_1 : List UInt8 := dkwX6_isOpen_1 ++ []
def dkwX6_isOpen_0 : List UInt8 := [27, 42, 180, 0, 7, 3, 46, 100, 28, 184, 0, 13, 42, 180, 0, 7, 4, 46, 162, 0, 7, 4]
abbrev dktX6_isOpen_0 : List UInt8 := dkwX6_isOpen_0 ++ dktX6_isOpen_1
theorem dksX6_isOpen_0 : cX6_isOpen.data.toList.drop 0 = dktX6_isOpen_0 := by decide +kernel
theorem dksX6_isOpen_1 : cX6_isOpen.data.toList.drop 22 = dktX6_isOpen_1 := dk_seg dksX6_isOpen_0 22 rfl rfl
theorem dX6_isOpen_0 : decode cX6_isOpen 0 = .ok (.iload_n 1, 1) := dk_27 (dk_at dksX6_isOpen_0 0 rfl rfl)
theorem dX6_isOpen_1 : decode cX6_isOpen 1 = .ok (.aload_n 0, 1) := dk_42 (dk_at dksX6_isOpen_0 1 rfl rfl)
theorem dX6_isOpen_2 : decode cX6_isOpen 2 = .ok (.getfield 7, 3) := dk_180 0 7 (dk_at dksX6_isOpen_0 2 rfl rfl)
theorem dX6_isOpen_5 : decode cX6_isOpen 5 = .ok (.iconst 0, 1) := dk_3 (dk_at dksX6_isOpen_0 5 rfl rfl)
theorem dX6_isOpen_6 : decode cX6_isOpen 6 = .ok (.iaload, 1) := dk_46 (dk_at dksX6_isOpen_0 6 rfl rfl)
theorem dX6_isOpen_7 : decode cX6_isOpen 7 = .ok (.isub, 1) := dk_100 (dk_at dksX6_isOpen_0 7 rfl rfl)
theorem dX6_isOpen_8 : decode cX6_isOpen 8 = .ok (.iload_n 2, 1) := dk_28 (dk_at dksX6_isOpen_0 8 rfl rfl)
theorem dX6_isOpen_9 : decode cX6_isOpen 9 = .ok (.invokestatic 13, 3) := dk_184 0 13 (dk_at dksX6_isOpen_0 9 rfl rfl)
theorem dX6_isOpen_12 : decode cX6_isOpen 12 = .ok (.aload_n 0, 1) := dk_42 (dk_at dksX6_isOpen_0 12 rfl rfl)
theorem dX6_isOpen_13 : decode cX6_isOpen 13 = .ok (.getfield 7, 3) := dk_180 0 7 (dk_at dksX6_isOpen_0 13 rfl rfl)
theorem dX6_isOpen_16 : decode cX6_isOpen 16 = .ok (.iconst 1, 1) := dk_4 (dk_at dksX6_isOpen_0 16 rfl rfl)
theorem dX6_isOpen_17 : decode cX6_isOpen 17 = .ok (.iaload, 1) := dk_46 (dk_at dksX6_isOpen_0 17 rfl rfl)
theorem dX6_isOpen_18 : decode cX6_isOpen 18 = .ok (.if_icmp .ge 7, 3) := dk_162 0 7 (dk_at dksX6_isOpen_0 18 rfl rfl)
theorem dX6_isOpen_21 : decode cX6_isOpen 21 = .ok (.iconst 1, 1) := dk_4 (dk_at dksX6_isOpen_0 21 rfl rfl)
theorem dX6_isOpen_22 : decode cX6_isOpen 22 = .ok (.goto 4, 3) := dk_167 0 4 (dk_at dksX6_isOpen_1 0 rfl rfl)
theorem dX6_isOpen_25 : decode cX6_isOpen 25 = .ok (.iconst 0, 1) := dk_3 (dk_at dksX6_isOpen_1 3 rfl rfl)
theorem dX6_isOpen_26 : decode cX6_isOpen 26 = .ok (.ireturn, 1) := dk_172 (dk_at dksX6_isOpen_1 4 rfl rfl)
theorem q116 : (Jvm.Cond.initialized "SafeClears$Node") ∈ lw_all := lw_g (lw_at lw_m1 25 rfl) rfl
theorem q611 : (Jvm.Cond.instantiable "SafeClears$Node" (1 : Nat)) ∈ lw_all := lw_g (lw_at lw_m3 40 rfl) rfl
theorem q613 : (Jvm.Cond.instanceMethod ({ cls := "SafeClears$Node", name := "<init>", desc := "()V" } : Jvm.MethodName)) ∈ lw_all := lw_g (lw_at lw_m3 42 rfl) rfl
theorem q614 : (Jvm.Cond.code ({ cls := "SafeClears$Node", name := "<init>", desc := "()V" } : Jvm.MethodName) prog_12_method_1_code (1 : Nat) (Option.none : Option Jvm.ClassFile.FieldType)) ∈ lw_all := lw_g (lw_at lw_m3 43 rfl) rfl
theorem q615 : (Jvm.Cond.methodLink "SafeClears$Node" (1 : Nat) ({ cls := "java/lang/Object", name := "<init>", desc := "()V" } : Jvm.MethodName)) ∈ lw_all := lw_g (lw_at lw_m3 44 rfl) rfl
theorem q616 : (Jvm.Cond.fieldLink "SafeClears$Node" (7 : Nat) "SafeClears$Node" "told" "[I") ∈ lw_all := lw_g (lw_at lw_m3 45 rfl) rfl
theorem q619 : (Jvm.Cond.laysFinal "SafeClears$Node" "SafeClears$Node" "told" "[I") ∈ lw_all := lw_g (lw_at lw_m3 48 rfl) rfl
theorem q620 : (Jvm.Cond.soleField "SafeClears$Node" "told") ∈ lw_all := lw_g (lw_at lw_m3 49 rfl) rfl
theorem q621 : (Jvm.Cond.superclass "SafeClears$Node" "java/lang/Object") ∈ lw_all := lw_g (lw_at lw_m3 50 rfl) rfl
theorem q1485 : (Jvm.Cond.instanceMethod ({ cls := "SafeClears$Node", name := "isOpen", desc := "(II)Z" } : Jvm.MethodName)) ∈ lw_all := lw_g (lw_at lw_m6 194 rfl) rfl
theorem q1486 : (Jvm.Cond.selects "SafeClears$Node" ({ cls := "SafeClears$Node", name := "isOpen", desc := "(II)Z" } : Jvm.MethodName) ({ cls := "SafeClears$Node", name := "isOpen", desc := "(II)Z" } : Jvm.MethodName)) ∈ lw_all := lw_g (lw_at lw_m6 195 rfl) rfl
theorem q1487 : (Jvm.Cond.code ({ cls := "SafeClears$Node", name := "isOpen", desc := "(II)Z" } : Jvm.MethodName) prog_12_method_2_code (3 : Nat) (Option.some Jvm.ClassFile.FieldType.boolean)) ∈ lw_all := lw_g (lw_at lw_m6 196 rfl) rfl
theorem q1488 : (Jvm.Cond.methodLink "SafeClears$Node" (13 : Nat) ({ cls := "java/lang/Math", name := "floorMod", desc := "(II)I" } : Jvm.MethodName)) ∈ lw_all := lw_g (lw_at lw_m6 197 rfl) rfl
theorem q2237 : (Jvm.Cond.castable "SafeClears$Node" "java/lang/Object") ∈ lw_tbl := lw_at lw_m9 226 rfl
theorem in_X6 : ∀ w ∈ wsX60, w ∈ lw_all := lw_in wsX60 [619] (by decide +kernel) (by decide +kernel)
/-! SafeClears$Anyone -/
set_option maxRecDepth 100000
def RX7 : String := "SafeClears$Anyone"
abbrev cX7_init : ByteArray := prog_2_method_1_code
def yX7_init : MethodName := ⟨RX7, "<init>", "(I)V"⟩
def dkwX7_init_0 : List UInt8 := [42, 183, 0, 1, 42, 27, 181, 0, 7, 177]
abbrev dktX7_init_0 : List UInt8 := dkwX7_init_0 ++ []
theorem dksX7_init_0 : cX7_init.data.toList.drop 0 = dktX7_init_0 := by decide +kernel
theorem dX7_init_0 : decode cX7_init 0 = .ok (.aload_n 0, 1) := dk_42 (dk_at dksX7_init_0 0 rfl rfl)
theorem dX7_init_1 : decode cX7_init 1 = .ok (.invokespecial 1, 3) := dk_183 0 1 (dk_at dksX7_init_0 1 rfl rfl)
theorem dX7_init_4 : decode cX7_init 4 = .ok (.aload_n 0, 1) := dk_42 (dk_at dksX7_init_0 4 rfl rfl)
theorem dX7_init_5 : decode cX7_init 5 = .ok (.iload_n 1, 1) := dk_27 (dk_at dksX7_init_0 5 rfl rfl)
theorem dX7_init_6 : decode cX7_init 6 = .ok (.putfield 7, 3) := dk_181 0 7 (dk_at dksX7_init_0 6 rfl rfl)
theorem dX7_init_9 : decode cX7_init 9 = .ok (.return_, 1) := dk_177 (dk_at dksX7_init_0 9 rfl rfl)
abbrev cX7_kind : ByteArray := prog_2_method_2_code
def yX7_kind : MethodName := ⟨RX7, "kind", "()I"⟩
theorem dX7_kind_0 : decode cX7_kind 0 = .ok (.aload_n 0, 1) := by decide +kernel
theorem dX7_kind_1 : decode cX7_kind 1 = .ok (.getfield 7, 3) := by decide +kernel
theorem dX7_kind_4 : decode cX7_kind 4 = .ok (.ireturn, 1) := by decide +kernel
theorem q117 : (Jvm.Cond.initialized "SafeClears$Anyone") ∈ lw_all := lw_g (lw_at lw_m1 26 rfl) rfl
theorem q755 : (Jvm.Cond.instanceMethod ({ cls := "SafeClears$Anyone", name := "<init>", desc := "(I)V" } : Jvm.MethodName)) ∈ lw_all := lw_g (lw_at lw_m3 184 rfl) rfl
theorem q756 : (Jvm.Cond.code ({ cls := "SafeClears$Anyone", name := "<init>", desc := "(I)V" } : Jvm.MethodName) prog_2_method_1_code (2 : Nat) (Option.none : Option Jvm.ClassFile.FieldType)) ∈ lw_all := lw_g (lw_at lw_m3 185 rfl) rfl
theorem q757 : (Jvm.Cond.methodLink "SafeClears$Anyone" (1 : Nat) ({ cls := "java/lang/Object", name := "<init>", desc := "()V" } : Jvm.MethodName)) ∈ lw_all := lw_g (lw_at lw_m3 186 rfl) rfl
theorem q758 : (Jvm.Cond.fieldLink "SafeClears$Anyone" (7 : Nat) "SafeClears$Anyone" "kind" "I") ∈ lw_all := lw_g (lw_at lw_m3 187 rfl) rfl
theorem q760 : (Jvm.Cond.soleField "SafeClears$Anyone" "kind") ∈ lw_all := lw_g (lw_at lw_m3 189 rfl) rfl
theorem q1342 : (Jvm.Cond.instanceMethod ({ cls := "SafeClears$Anyone", name := "kind", desc := "()I" } : Jvm.MethodName)) ∈ lw_all := lw_g (lw_at lw_m6 51 rfl) rfl
theorem q1343 : (Jvm.Cond.sameMethod "SafeClears$Anyone" "SafeClears$Anyone" "kind" "()I") ∈ lw_all := lw_g (lw_at lw_m6 52 rfl) rfl
theorem q1348 : (Jvm.Cond.code ({ cls := "SafeClears$Anyone", name := "kind", desc := "()I" } : Jvm.MethodName) prog_2_method_2_code (1 : Nat) (Option.some Jvm.ClassFile.FieldType.int)) ∈ lw_all := lw_g (lw_at lw_m6 57 rfl) rfl
theorem q1351 : (Jvm.Cond.declares ({ cls := "SafeClears$Anyone", name := "kind", desc := "()I" } : Jvm.MethodName)) ∈ lw_tbl := lw_at lw_m6 60 rfl
/-! SafeClears$Wheels -/
set_option maxRecDepth 100000
def RX8 : String := "SafeClears$Wheels"
def TX8 : u_T := fun k => match k with
  | _ => ("SafeClears$Anyone", "kind", "I", true)
def tyX8 : Nat → FieldType := fun k => match k with
  | _ => .int
abbrev wsX80 : List Cond := u_ws RX8 TX8 1
theorem nmX8 : ∀ a, a < 1 → ∀ b, b < 1 → a ≠ b → (TX8 a).2.1 ≠ (TX8 b).2.1 := by decide +kernel
theorem tyX8_ok : ∀ k, k < 1 → parseFieldDescriptor (TX8 k).2.2.1 = some (tyX8 k) := by decide +kernel
abbrev cX8_init : ByteArray := prog_19_method_1_code
def yX8_init : MethodName := ⟨RX8, "<init>", "(I)V"⟩
def dkwX8_init_0 : List UInt8 := [42, 27, 183, 0, 1, 177]
abbrev dktX8_init_0 : List UInt8 := dkwX8_init_0 ++ []
theorem dksX8_init_0 : cX8_init.data.toList.drop 0 = dktX8_init_0 := by decide +kernel
theorem dX8_init_0 : decode cX8_init 0 = .ok (.aload_n 0, 1) := dk_42 (dk_at dksX8_init_0 0 rfl rfl)
theorem dX8_init_1 : decode cX8_init 1 = .ok (.iload_n 1, 1) := dk_27 (dk_at dksX8_init_0 1 rfl rfl)
theorem dX8_init_2 : decode cX8_init 2 = .ok (.invokespecial 1, 3) := dk_183 0 1 (dk_at dksX8_init_0 2 rfl rfl)
theorem dX8_init_5 : decode cX8_init 5 = .ok (.return_, 1) := dk_177 (dk_at dksX8_init_0 5 rfl rfl)
theorem q118 : (Jvm.Cond.initialized "SafeClears$Wheels") ∈ lw_all := lw_g (lw_at lw_m1 27 rfl) rfl
theorem q752 : (Jvm.Cond.instanceMethod ({ cls := "SafeClears$Wheels", name := "<init>", desc := "(I)V" } : Jvm.MethodName)) ∈ lw_all := lw_g (lw_at lw_m3 181 rfl) rfl
theorem q753 : (Jvm.Cond.code ({ cls := "SafeClears$Wheels", name := "<init>", desc := "(I)V" } : Jvm.MethodName) prog_19_method_1_code (2 : Nat) (Option.none : Option Jvm.ClassFile.FieldType)) ∈ lw_all := lw_g (lw_at lw_m3 182 rfl) rfl
theorem q754 : (Jvm.Cond.methodLink "SafeClears$Wheels" (1 : Nat) ({ cls := "SafeClears$Anyone", name := "<init>", desc := "(I)V" } : Jvm.MethodName)) ∈ lw_all := lw_g (lw_at lw_m3 183 rfl) rfl
theorem q776 : (Jvm.Cond.instantiable "SafeClears$Wheels" (1 : Nat)) ∈ lw_all := lw_g (lw_at lw_m3 205 rfl) rfl
theorem q778 : (Jvm.Cond.laysFinal "SafeClears$Wheels" "SafeClears$Anyone" "kind" "I") ∈ lw_all := lw_g (lw_at lw_m3 207 rfl) rfl
theorem q779 : (Jvm.Cond.superclass "SafeClears$Wheels" "SafeClears$Anyone") ∈ lw_all := lw_g (lw_at lw_m3 208 rfl) rfl
theorem q1347 : (Jvm.Cond.selects "SafeClears$Wheels" ({ cls := "SafeClears$Anyone", name := "kind", desc := "()I" } : Jvm.MethodName) ({ cls := "SafeClears$Anyone", name := "kind", desc := "()I" } : Jvm.MethodName)) ∈ lw_all := lw_g (lw_at lw_m6 56 rfl) rfl
theorem q1350 : (Jvm.Cond.sameMethod "SafeClears$Wheels" "SafeClears$Anyone" "kind" "()I") ∈ lw_all := lw_g (lw_at lw_m6 59 rfl) rfl
theorem q1354 : (Jvm.Cond.selects "SafeClears$Wheels" ({ cls := "SafeClears$Wheels", name := "kind", desc := "()I" } : Jvm.MethodName) ({ cls := "SafeClears$Anyone", name := "kind", desc := "()I" } : Jvm.MethodName)) ∈ lw_all := lw_g (lw_at lw_m6 63 rfl) rfl
theorem q2241 : (Jvm.Cond.castable "SafeClears$Wheels" "java/lang/Object") ∈ lw_tbl := lw_at lw_m9 230 rfl
theorem q2257 : (Jvm.Cond.castable "SafeClears$Wheels" "SafeClears$Anyone") ∈ lw_tbl := lw_at lw_m10 6 rfl
theorem in_X8 : ∀ w ∈ wsX80, w ∈ lw_all := lw_in wsX80 [778] (by decide +kernel) (by decide +kernel)
/-! SafeClears$Motor -/
set_option maxRecDepth 100000
def RX9 : String := "SafeClears$Motor"
def TX9 : u_T := fun k => match k with
  | _ => ("SafeClears$Anyone", "kind", "I", true)
def tyX9 : Nat → FieldType := fun k => match k with
  | _ => .int
abbrev wsX90 : List Cond := u_ws RX9 TX9 1
theorem nmX9 : ∀ a, a < 1 → ∀ b, b < 1 → a ≠ b → (TX9 a).2.1 ≠ (TX9 b).2.1 := by decide +kernel
theorem tyX9_ok : ∀ k, k < 1 → parseFieldDescriptor (TX9 k).2.2.1 = some (tyX9 k) := by decide +kernel
abbrev cX9_init : ByteArray := prog_11_method_1_code
def yX9_init : MethodName := ⟨RX9, "<init>", "(I)V"⟩
def dkwX9_init_0 : List UInt8 := [42, 27, 183, 0, 1, 177]
abbrev dktX9_init_0 : List UInt8 := dkwX9_init_0 ++ []
theorem dksX9_init_0 : cX9_init.data.toList.drop 0 = dktX9_init_0 := by decide +kernel
theorem dX9_init_0 : decode cX9_init 0 = .ok (.aload_n 0, 1) := dk_42 (dk_at dksX9_init_0 0 rfl rfl)
theorem dX9_init_1 : decode cX9_init 1 = .ok (.iload_n 1, 1) := dk_27 (dk_at dksX9_init_0 1 rfl rfl)
theorem dX9_init_2 : decode cX9_init 2 = .ok (.invokespecial 1, 3) := dk_183 0 1 (dk_at dksX9_init_0 2 rfl rfl)
theorem dX9_init_5 : decode cX9_init 5 = .ok (.return_, 1) := dk_177 (dk_at dksX9_init_0 5 rfl rfl)
theorem q119 : (Jvm.Cond.initialized "SafeClears$Motor") ∈ lw_all := lw_g (lw_at lw_m1 28 rfl) rfl
theorem q749 : (Jvm.Cond.instanceMethod ({ cls := "SafeClears$Motor", name := "<init>", desc := "(I)V" } : Jvm.MethodName)) ∈ lw_all := lw_g (lw_at lw_m3 178 rfl) rfl
theorem q750 : (Jvm.Cond.code ({ cls := "SafeClears$Motor", name := "<init>", desc := "(I)V" } : Jvm.MethodName) prog_11_method_1_code (2 : Nat) (Option.none : Option Jvm.ClassFile.FieldType)) ∈ lw_all := lw_g (lw_at lw_m3 179 rfl) rfl
theorem q751 : (Jvm.Cond.methodLink "SafeClears$Motor" (1 : Nat) ({ cls := "SafeClears$Wheels", name := "<init>", desc := "(I)V" } : Jvm.MethodName)) ∈ lw_all := lw_g (lw_at lw_m3 180 rfl) rfl
theorem q771 : (Jvm.Cond.instantiable "SafeClears$Motor" (1 : Nat)) ∈ lw_all := lw_g (lw_at lw_m3 200 rfl) rfl
theorem q773 : (Jvm.Cond.laysFinal "SafeClears$Motor" "SafeClears$Anyone" "kind" "I") ∈ lw_all := lw_g (lw_at lw_m3 202 rfl) rfl
theorem q774 : (Jvm.Cond.superclass "SafeClears$Motor" "SafeClears$Wheels") ∈ lw_all := lw_g (lw_at lw_m3 203 rfl) rfl
theorem q1345 : (Jvm.Cond.selects "SafeClears$Motor" ({ cls := "SafeClears$Anyone", name := "kind", desc := "()I" } : Jvm.MethodName) ({ cls := "SafeClears$Anyone", name := "kind", desc := "()I" } : Jvm.MethodName)) ∈ lw_all := lw_g (lw_at lw_m6 54 rfl) rfl
theorem q1353 : (Jvm.Cond.selects "SafeClears$Motor" ({ cls := "SafeClears$Wheels", name := "kind", desc := "()I" } : Jvm.MethodName) ({ cls := "SafeClears$Anyone", name := "kind", desc := "()I" } : Jvm.MethodName)) ∈ lw_all := lw_g (lw_at lw_m6 62 rfl) rfl
theorem q1356 : (Jvm.Cond.sameMethod "SafeClears$Motor" "SafeClears$Anyone" "kind" "()I") ∈ lw_all := lw_g (lw_at lw_m6 65 rfl) rfl
theorem q1358 : (Jvm.Cond.selects "SafeClears$Motor" ({ cls := "SafeClears$Motor", name := "kind", desc := "()I" } : Jvm.MethodName) ({ cls := "SafeClears$Anyone", name := "kind", desc := "()I" } : Jvm.MethodName)) ∈ lw_all := lw_g (lw_at lw_m6 67 rfl) rfl
theorem q2225 : (Jvm.Cond.castable "SafeClears$Motor" "SafeClears$Wheels") ∈ lw_tbl := lw_at lw_m9 214 rfl
theorem q2240 : (Jvm.Cond.castable "SafeClears$Motor" "java/lang/Object") ∈ lw_tbl := lw_at lw_m9 229 rfl
theorem q2256 : (Jvm.Cond.castable "SafeClears$Motor" "SafeClears$Anyone") ∈ lw_tbl := lw_at lw_m10 5 rfl
theorem in_X9 : ∀ w ∈ wsX90, w ∈ lw_all := lw_in wsX90 [773] (by decide +kernel) (by decide +kernel)
/-! SafeClears$Car -/
set_option maxRecDepth 100000
def RX10 : String := "SafeClears$Car"
def TX10 : u_T := fun k => match k with
  | _ => ("SafeClears$Anyone", "kind", "I", true)
def tyX10 : Nat → FieldType := fun k => match k with
  | _ => .int
abbrev wsX100 : List Cond := u_ws RX10 TX10 1
theorem nmX10 : ∀ a, a < 1 → ∀ b, b < 1 → a ≠ b → (TX10 a).2.1 ≠ (TX10 b).2.1 := by decide +kernel
theorem tyX10_ok : ∀ k, k < 1 → parseFieldDescriptor (TX10 k).2.2.1 = some (tyX10 k) := by decide +kernel
abbrev cX10_init : ByteArray := prog_3_method_1_code
def yX10_init : MethodName := ⟨RX10, "<init>", "()V"⟩
def dkwX10_init_0 : List UInt8 := [42, 3, 183, 0, 1, 177]
abbrev dktX10_init_0 : List UInt8 := dkwX10_init_0 ++ []
theorem dksX10_init_0 : cX10_init.data.toList.drop 0 = dktX10_init_0 := by decide +kernel
theorem dX10_init_0 : decode cX10_init 0 = .ok (.aload_n 0, 1) := dk_42 (dk_at dksX10_init_0 0 rfl rfl)
theorem dX10_init_1 : decode cX10_init 1 = .ok (.iconst 0, 1) := dk_3 (dk_at dksX10_init_0 1 rfl rfl)
theorem dX10_init_2 : decode cX10_init 2 = .ok (.invokespecial 1, 3) := dk_183 0 1 (dk_at dksX10_init_0 2 rfl rfl)
theorem dX10_init_5 : decode cX10_init 5 = .ok (.return_, 1) := dk_177 (dk_at dksX10_init_0 5 rfl rfl)
theorem q120 : (Jvm.Cond.initialized "SafeClears$Car") ∈ lw_all := lw_g (lw_at lw_m1 29 rfl) rfl
theorem q744 : (Jvm.Cond.instantiable "SafeClears$Car" (1 : Nat)) ∈ lw_all := lw_g (lw_at lw_m3 173 rfl) rfl
theorem q746 : (Jvm.Cond.instanceMethod ({ cls := "SafeClears$Car", name := "<init>", desc := "()V" } : Jvm.MethodName)) ∈ lw_all := lw_g (lw_at lw_m3 175 rfl) rfl
theorem q747 : (Jvm.Cond.code ({ cls := "SafeClears$Car", name := "<init>", desc := "()V" } : Jvm.MethodName) prog_3_method_1_code (1 : Nat) (Option.none : Option Jvm.ClassFile.FieldType)) ∈ lw_all := lw_g (lw_at lw_m3 176 rfl) rfl
theorem q748 : (Jvm.Cond.methodLink "SafeClears$Car" (1 : Nat) ({ cls := "SafeClears$Motor", name := "<init>", desc := "(I)V" } : Jvm.MethodName)) ∈ lw_all := lw_g (lw_at lw_m3 177 rfl) rfl
theorem q759 : (Jvm.Cond.laysFinal "SafeClears$Car" "SafeClears$Anyone" "kind" "I") ∈ lw_all := lw_g (lw_at lw_m3 188 rfl) rfl
theorem q761 : (Jvm.Cond.superclass "SafeClears$Car" "SafeClears$Motor") ∈ lw_all := lw_g (lw_at lw_m3 190 rfl) rfl
theorem q1344 : (Jvm.Cond.selects "SafeClears$Car" ({ cls := "SafeClears$Anyone", name := "kind", desc := "()I" } : Jvm.MethodName) ({ cls := "SafeClears$Anyone", name := "kind", desc := "()I" } : Jvm.MethodName)) ∈ lw_all := lw_g (lw_at lw_m6 53 rfl) rfl
theorem q1352 : (Jvm.Cond.selects "SafeClears$Car" ({ cls := "SafeClears$Wheels", name := "kind", desc := "()I" } : Jvm.MethodName) ({ cls := "SafeClears$Anyone", name := "kind", desc := "()I" } : Jvm.MethodName)) ∈ lw_all := lw_g (lw_at lw_m6 61 rfl) rfl
theorem q1357 : (Jvm.Cond.selects "SafeClears$Car" ({ cls := "SafeClears$Motor", name := "kind", desc := "()I" } : Jvm.MethodName) ({ cls := "SafeClears$Anyone", name := "kind", desc := "()I" } : Jvm.MethodName)) ∈ lw_all := lw_g (lw_at lw_m6 66 rfl) rfl
theorem q1360 : (Jvm.Cond.sameMethod "SafeClears$Car" "SafeClears$Anyone" "kind" "()I") ∈ lw_all := lw_g (lw_at lw_m6 69 rfl) rfl
theorem q1361 : (Jvm.Cond.selects "SafeClears$Car" ({ cls := "SafeClears$Car", name := "kind", desc := "()I" } : Jvm.MethodName) ({ cls := "SafeClears$Anyone", name := "kind", desc := "()I" } : Jvm.MethodName)) ∈ lw_all := lw_g (lw_at lw_m6 70 rfl) rfl
theorem q2224 : (Jvm.Cond.castable "SafeClears$Car" "SafeClears$Wheels") ∈ lw_tbl := lw_at lw_m9 213 rfl
theorem q2226 : (Jvm.Cond.castable "SafeClears$Car" "SafeClears$Motor") ∈ lw_tbl := lw_at lw_m9 215 rfl
theorem q2238 : (Jvm.Cond.castable "SafeClears$Car" "java/lang/Object") ∈ lw_tbl := lw_at lw_m9 227 rfl
theorem q2254 : (Jvm.Cond.castable "SafeClears$Car" "SafeClears$Anyone") ∈ lw_tbl := lw_at lw_m10 3 rfl
theorem in_X10 : ∀ w ∈ wsX100, w ∈ lw_all := lw_in wsX100 [759] (by decide +kernel) (by decide +kernel)
/-! SafeClears$Walker -/
set_option maxRecDepth 100000
def RX11 : String := "SafeClears$Walker"
def TX11 : u_T := fun k => match k with
  | _ => ("SafeClears$Anyone", "kind", "I", true)
def tyX11 : Nat → FieldType := fun k => match k with
  | _ => .int
abbrev wsX110 : List Cond := u_ws RX11 TX11 1
theorem nmX11 : ∀ a, a < 1 → ∀ b, b < 1 → a ≠ b → (TX11 a).2.1 ≠ (TX11 b).2.1 := by decide +kernel
theorem tyX11_ok : ∀ k, k < 1 → parseFieldDescriptor (TX11 k).2.2.1 = some (tyX11 k) := by decide +kernel
abbrev cX11_init : ByteArray := prog_18_method_1_code
def yX11_init : MethodName := ⟨RX11, "<init>", "()V"⟩
def dkwX11_init_0 : List UInt8 := [42, 4, 183, 0, 1, 177]
abbrev dktX11_init_0 : List UInt8 := dkwX11_init_0 ++ []
theorem dksX11_init_0 : cX11_init.data.toList.drop 0 = dktX11_init_0 := by decide +kernel
theorem dX11_init_0 : decode cX11_init 0 = .ok (.aload_n 0, 1) := dk_42 (dk_at dksX11_init_0 0 rfl rfl)
theorem dX11_init_1 : decode cX11_init 1 = .ok (.iconst 1, 1) := dk_4 (dk_at dksX11_init_0 1 rfl rfl)
theorem dX11_init_2 : decode cX11_init 2 = .ok (.invokespecial 1, 3) := dk_183 0 1 (dk_at dksX11_init_0 2 rfl rfl)
theorem dX11_init_5 : decode cX11_init 5 = .ok (.return_, 1) := dk_177 (dk_at dksX11_init_0 5 rfl rfl)
theorem q121 : (Jvm.Cond.initialized "SafeClears$Walker") ∈ lw_all := lw_g (lw_at lw_m1 30 rfl) rfl
theorem q763 : (Jvm.Cond.instantiable "SafeClears$Walker" (1 : Nat)) ∈ lw_all := lw_g (lw_at lw_m3 192 rfl) rfl
theorem q765 : (Jvm.Cond.instanceMethod ({ cls := "SafeClears$Walker", name := "<init>", desc := "()V" } : Jvm.MethodName)) ∈ lw_all := lw_g (lw_at lw_m3 194 rfl) rfl
theorem q766 : (Jvm.Cond.code ({ cls := "SafeClears$Walker", name := "<init>", desc := "()V" } : Jvm.MethodName) prog_18_method_1_code (1 : Nat) (Option.none : Option Jvm.ClassFile.FieldType)) ∈ lw_all := lw_g (lw_at lw_m3 195 rfl) rfl
theorem q767 : (Jvm.Cond.methodLink "SafeClears$Walker" (1 : Nat) ({ cls := "SafeClears$Anyone", name := "<init>", desc := "(I)V" } : Jvm.MethodName)) ∈ lw_all := lw_g (lw_at lw_m3 196 rfl) rfl
theorem q768 : (Jvm.Cond.laysFinal "SafeClears$Walker" "SafeClears$Anyone" "kind" "I") ∈ lw_all := lw_g (lw_at lw_m3 197 rfl) rfl
theorem q769 : (Jvm.Cond.superclass "SafeClears$Walker" "SafeClears$Anyone") ∈ lw_all := lw_g (lw_at lw_m3 198 rfl) rfl
theorem q1346 : (Jvm.Cond.selects "SafeClears$Walker" ({ cls := "SafeClears$Anyone", name := "kind", desc := "()I" } : Jvm.MethodName) ({ cls := "SafeClears$Anyone", name := "kind", desc := "()I" } : Jvm.MethodName)) ∈ lw_all := lw_g (lw_at lw_m6 55 rfl) rfl
theorem q1363 : (Jvm.Cond.sameMethod "SafeClears$Walker" "SafeClears$Anyone" "kind" "()I") ∈ lw_all := lw_g (lw_at lw_m6 72 rfl) rfl
theorem q1364 : (Jvm.Cond.selects "SafeClears$Walker" ({ cls := "SafeClears$Walker", name := "kind", desc := "()I" } : Jvm.MethodName) ({ cls := "SafeClears$Anyone", name := "kind", desc := "()I" } : Jvm.MethodName)) ∈ lw_all := lw_g (lw_at lw_m6 73 rfl) rfl
theorem q2239 : (Jvm.Cond.castable "SafeClears$Walker" "java/lang/Object") ∈ lw_tbl := lw_at lw_m9 228 rfl
theorem q2255 : (Jvm.Cond.castable "SafeClears$Walker" "SafeClears$Anyone") ∈ lw_tbl := lw_at lw_m10 4 rfl
theorem in_X11 : ∀ w ∈ wsX110, w ∈ lw_all := lw_in wsX110 [768] (by decide +kernel) (by decide +kernel)
/-! SafeClears$Tape -/
set_option maxRecDepth 100000
def RX12 : String := "SafeClears$Tape"
def TX12 : u_T := fun k => match k with
  | _ => ("SafeClears$Tape", "row", "Ljava/lang/Object;", false)
def tyX12 : Nat → FieldType := fun k => match k with
  | _ => .object "java/lang/Object"
abbrev wsX120 : List Cond := u_ws RX12 TX12 1
theorem nmX12 : ∀ a, a < 1 → ∀ b, b < 1 → a ≠ b → (TX12 a).2.1 ≠ (TX12 b).2.1 := by decide +kernel
theorem tyX12_ok : ∀ k, k < 1 → parseFieldDescriptor (TX12 k).2.2.1 = some (tyX12 k) := by decide +kernel
abbrev cX12_init : ByteArray := prog_17_method_1_code
def yX12_init : MethodName := ⟨RX12, "<init>", "()V"⟩
theorem dX12_init_0 : decode cX12_init 0 = .ok (.aload_n 0, 1) := by decide +kernel
theorem dX12_init_1 : decode cX12_init 1 = .ok (.invokespecial 1, 3) := by decide +kernel
theorem dX12_init_4 : decode cX12_init 4 = .ok (.return_, 1) := by decide +kernel
abbrev cX12_sort : ByteArray := prog_17_method_2_code
def yX12_sort : MethodName := ⟨RX12, "sort", "()I"⟩
def dkwX12_sort_2 : List UInt8 := [153, 0, 7, 5, 167, 0, 18, 42, 180, 0, 7, 193, 0, 19, 153, 0, 7, 6, 167, 0, 4, 7, 172]
abbrev dktX12_sort_2 : List UInt8 := dkwX12_sort_2 ++ []
def dkwX12_sort_1 : List UInt8 := [167, 0, 46, 42, 180, 0, 7, 193, 0, 15, 153, 0, 7, 4, 167, 0, 32, 42, 180, 0, 7, 193, 0, 17]
abbrev dktX12_sort_1 : List UInt8 := dkwX12_sort_1 ++ dktX12_sort_2
def dkwX12_sort_0 : List UInt8 := [42, 180, 0, 7, 199, 0, 7, 2, 167, 0, 60, 42, 180, 0, 7, 193, 0, 13, 153, 0, 7, 3]
abbrev dktX12_sort_0 : List UInt8 := dkwX12_sort_0 ++ dktX12_sort_1
theorem dksX12_sort_0 : cX12_sort.data.toList.drop 0 = dktX12_sort_0 := by decide +kernel
theorem dksX12_sort_1 : cX12_sort.data.toList.drop 22 = dktX12_sort_1 := dk_seg dksX12_sort_0 22 rfl rfl
theorem dksX12_sort_2 : cX12_sort.data.toList.drop 46 = dktX12_sort_2 := dk_seg dksX12_sort_1 24 rfl rfl
theorem dX12_sort_0 : decode cX12_sort 0 = .ok (.aload_n 0, 1) := dk_42 (dk_at dksX12_sort_0 0 rfl rfl)
theorem dX12_sort_1 : decode cX12_sort 1 = .ok (.getfield 7, 3) := dk_180 0 7 (dk_at dksX12_sort_0 1 rfl rfl)
theorem dX12_sort_4 : decode cX12_sort 4 = .ok (.ifnonnull 7, 3) := dk_199 0 7 (dk_at dksX12_sort_0 4 rfl rfl)
theorem dX12_sort_7 : decode cX12_sort 7 = .ok (.iconst (-1), 1) := dk_2 (dk_at dksX12_sort_0 7 rfl rfl)
theorem dX12_sort_8 : decode cX12_sort 8 = .ok (.goto 60, 3) := dk_167 0 60 (dk_at dksX12_sort_0 8 rfl rfl)
theorem dX12_sort_11 : decode cX12_sort 11 = .ok (.aload_n 0, 1) := dk_42 (dk_at dksX12_sort_0 11 rfl rfl)
theorem dX12_sort_12 : decode cX12_sort 12 = .ok (.getfield 7, 3) := dk_180 0 7 (dk_at dksX12_sort_0 12 rfl rfl)
theorem dX12_sort_15 : decode cX12_sort 15 = .ok (.instanceof 13, 3) := dk_193 0 13 (dk_at dksX12_sort_0 15 rfl rfl)
theorem dX12_sort_18 : decode cX12_sort 18 = .ok (.ifCond .eq 7, 3) := dk_153 0 7 (dk_at dksX12_sort_0 18 rfl rfl)
theorem dX12_sort_21 : decode cX12_sort 21 = .ok (.iconst 0, 1) := dk_3 (dk_at dksX12_sort_0 21 rfl rfl)
theorem dX12_sort_22 : decode cX12_sort 22 = .ok (.goto 46, 3) := dk_167 0 46 (dk_at dksX12_sort_1 0 rfl rfl)
theorem dX12_sort_25 : decode cX12_sort 25 = .ok (.aload_n 0, 1) := dk_42 (dk_at dksX12_sort_1 3 rfl rfl)
theorem dX12_sort_26 : decode cX12_sort 26 = .ok (.getfield 7, 3) := dk_180 0 7 (dk_at dksX12_sort_1 4 rfl rfl)
theorem dX12_sort_29 : decode cX12_sort 29 = .ok (.instanceof 15, 3) := dk_193 0 15 (dk_at dksX12_sort_1 7 rfl rfl)
theorem dX12_sort_32 : decode cX12_sort 32 = .ok (.ifCond .eq 7, 3) := dk_153 0 7 (dk_at dksX12_sort_1 10 rfl rfl)
theorem dX12_sort_35 : decode cX12_sort 35 = .ok (.iconst 1, 1) := dk_4 (dk_at dksX12_sort_1 13 rfl rfl)
theorem dX12_sort_36 : decode cX12_sort 36 = .ok (.goto 32, 3) := dk_167 0 32 (dk_at dksX12_sort_1 14 rfl rfl)
theorem dX12_sort_39 : decode cX12_sort 39 = .ok (.aload_n 0, 1) := dk_42 (dk_at dksX12_sort_1 17 rfl rfl)
theorem dX12_sort_40 : decode cX12_sort 40 = .ok (.getfield 7, 3) := dk_180 0 7 (dk_at dksX12_sort_1 18 rfl rfl)
theorem dX12_sort_43 : decode cX12_sort 43 = .ok (.instanceof 17, 3) := dk_193 0 17 (dk_at dksX12_sort_1 21 rfl rfl)
theorem dX12_sort_46 : decode cX12_sort 46 = .ok (.ifCond .eq 7, 3) := dk_153 0 7 (dk_at dksX12_sort_2 0 rfl rfl)
theorem dX12_sort_49 : decode cX12_sort 49 = .ok (.iconst 2, 1) := dk_5 (dk_at dksX12_sort_2 3 rfl rfl)
theorem dX12_sort_50 : decode cX12_sort 50 = .ok (.goto 18, 3) := dk_167 0 18 (dk_at dksX12_sort_2 4 rfl rfl)
theorem dX12_sort_53 : decode cX12_sort 53 = .ok (.aload_n 0, 1) := dk_42 (dk_at dksX12_sort_2 7 rfl rfl)
theorem dX12_sort_54 : decode cX12_sort 54 = .ok (.getfield 7, 3) := dk_180 0 7 (dk_at dksX12_sort_2 8 rfl rfl)
theorem dX12_sort_57 : decode cX12_sort 57 = .ok (.instanceof 19, 3) := dk_193 0 19 (dk_at dksX12_sort_2 11 rfl rfl)
theorem dX12_sort_60 : decode cX12_sort 60 = .ok (.ifCond .eq 7, 3) := dk_153 0 7 (dk_at dksX12_sort_2 14 rfl rfl)
theorem dX12_sort_63 : decode cX12_sort 63 = .ok (.iconst 3, 1) := dk_6 (dk_at dksX12_sort_2 17 rfl rfl)
theorem dX12_sort_64 : decode cX12_sort 64 = .ok (.goto 4, 3) := dk_167 0 4 (dk_at dksX12_sort_2 18 rfl rfl)
theorem dX12_sort_67 : decode cX12_sort 67 = .ok (.iconst 4, 1) := dk_7 (dk_at dksX12_sort_2 21 rfl rfl)
theorem dX12_sort_68 : decode cX12_sort 68 = .ok (.ireturn, 1) := dk_172 (dk_at dksX12_sort_2 22 rfl rfl)
abbrev cX12_size : ByteArray := prog_17_method_3_code
def yX12_size : MethodName := ⟨RX12, "size", "()I"⟩
def dkwX12_size_3 : List UInt8 := [192, 0, 17, 190, 172, 42, 180, 0, 7, 192, 0, 19, 190, 172, 42, 180, 0, 7, 192, 0, 25, 190, 172]
abbrev dktX12_size_3 : List UInt8 := dkwX12_size_3 ++ []
def dkwX12_size_2 : List UInt8 := [3, 172, 42, 180, 0, 7, 192, 0, 13, 190, 172, 42, 180, 0, 7, 192, 0, 15, 190, 172, 42, 180, 0, 7]
abbrev dktX12_size_2 : List UInt8 := dkwX12_size_2 ++ dktX12_size_3
def dkwX12_size_1 : List UInt8 := [170, 0, 0, 0, 0, 0, 0, 74, 255, 255, 255, 255, 0, 0, 0, 3, 0, 0, 0, 36, 0, 0, 0, 38, 0, 0, 0, 47, 0, 0, 0, 56, 0, 0, 0, 65]
abbrev dktX12_size_1 : List UInt8 := dkwX12_size_1 ++ dktX12_size_2
def dkwX12_size_0 : List UInt8 := [42, 182, 0, 21]
abbrev dktX12_size_0 : List UInt8 := dkwX12_size_0 ++ dktX12_size_1
theorem dksX12_size_0 : cX12_size.data.toList.drop 0 = dktX12_size_0 := by decide +kernel
theorem dksX12_size_1 : cX12_size.data.toList.drop 4 = dktX12_size_1 := dk_seg dksX12_size_0 4 rfl rfl
theorem dksX12_size_2 : cX12_size.data.toList.drop 40 = dktX12_size_2 := dk_seg dksX12_size_1 36 rfl rfl
theorem dksX12_size_3 : cX12_size.data.toList.drop 64 = dktX12_size_3 := dk_seg dksX12_size_2 24 rfl rfl
theorem dX12_size_0 : decode cX12_size 0 = .ok (.aload_n 0, 1) := dk_42 (dk_at dksX12_size_0 0 rfl rfl)
theorem dX12_size_1 : decode cX12_size 1 = .ok (.invokevirtual 21, 3) := dk_182 0 21 (dk_at dksX12_size_0 1 rfl rfl)
theorem dX12_size_4 : decode cX12_size 4 = .ok (.tableswitch 74 (-1) 3 #[36, 38, 47, 56, 65], 36) := by decide +kernel
theorem dX12_size_40 : decode cX12_size 40 = .ok (.iconst 0, 1) := dk_3 (dk_at dksX12_size_2 0 rfl rfl)
theorem dX12_size_41 : decode cX12_size 41 = .ok (.ireturn, 1) := dk_172 (dk_at dksX12_size_2 1 rfl rfl)
theorem dX12_size_42 : decode cX12_size 42 = .ok (.aload_n 0, 1) := dk_42 (dk_at dksX12_size_2 2 rfl rfl)
theorem dX12_size_43 : decode cX12_size 43 = .ok (.getfield 7, 3) := dk_180 0 7 (dk_at dksX12_size_2 3 rfl rfl)
theorem dX12_size_46 : decode cX12_size 46 = .ok (.checkcast 13, 3) := dk_192 0 13 (dk_at dksX12_size_2 6 rfl rfl)
theorem dX12_size_49 : decode cX12_size 49 = .ok (.arraylength, 1) := dk_190 (dk_at dksX12_size_2 9 rfl rfl)
theorem dX12_size_50 : decode cX12_size 50 = .ok (.ireturn, 1) := dk_172 (dk_at dksX12_size_2 10 rfl rfl)
theorem dX12_size_51 : decode cX12_size 51 = .ok (.aload_n 0, 1) := dk_42 (dk_at dksX12_size_2 11 rfl rfl)
theorem dX12_size_52 : decode cX12_size 52 = .ok (.getfield 7, 3) := dk_180 0 7 (dk_at dksX12_size_2 12 rfl rfl)
theorem dX12_size_55 : decode cX12_size 55 = .ok (.checkcast 15, 3) := dk_192 0 15 (dk_at dksX12_size_2 15 rfl rfl)
theorem dX12_size_58 : decode cX12_size 58 = .ok (.arraylength, 1) := dk_190 (dk_at dksX12_size_2 18 rfl rfl)
theorem dX12_size_59 : decode cX12_size 59 = .ok (.ireturn, 1) := dk_172 (dk_at dksX12_size_2 19 rfl rfl)
theorem dX12_size_60 : decode cX12_size 60 = .ok (.aload_n 0, 1) := dk_42 (dk_at dksX12_size_2 20 rfl rfl)
theorem dX12_size_61 : decode cX12_size 61 = .ok (.getfield 7, 3) := dk_180 0 7 (dk_at dksX12_size_2 21 rfl rfl)
theorem dX12_size_64 : decode cX12_size 64 = .ok (.checkcast 17, 3) := dk_192 0 17 (dk_at dksX12_size_3 0 rfl rfl)
theorem dX12_size_67 : decode cX12_size 67 = .ok (.arraylength, 1) := dk_190 (dk_at dksX12_size_3 3 rfl rfl)
theorem dX12_size_68 : decode cX12_size 68 = .ok (.ireturn, 1) := dk_172 (dk_at dksX12_size_3 4 rfl rfl)
theorem dX12_size_69 : decode cX12_size 69 = .ok (.aload_n 0, 1) := dk_42 (dk_at dksX12_size_3 5 rfl rfl)
theorem dX12_size_70 : decode cX12_size 70 = .ok (.getfield 7, 3) := dk_180 0 7 (dk_at dksX12_size_3 6 rfl rfl)
theorem dX12_size_73 : decode cX12_size 73 = .ok (.checkcast 19, 3) := dk_192 0 19 (dk_at dksX12_size_3 9 rfl rfl)
theorem dX12_size_76 : decode cX12_size 76 = .ok (.arraylength, 1) := dk_190 (dk_at dksX12_size_3 12 rfl rfl)
theorem dX12_size_77 : decode cX12_size 77 = .ok (.ireturn, 1) := dk_172 (dk_at dksX12_size_3 13 rfl rfl)
theorem dX12_size_78 : decode cX12_size 78 = .ok (.aload_n 0, 1) := dk_42 (dk_at dksX12_size_3 14 rfl rfl)
theorem dX12_size_79 : decode cX12_size 79 = .ok (.getfield 7, 3) := dk_180 0 7 (dk_at dksX12_size_3 15 rfl rfl)
theorem dX12_size_82 : decode cX12_size 82 = .ok (.checkcast 25, 3) := dk_192 0 25 (dk_at dksX12_size_3 18 rfl rfl)
theorem dX12_size_85 : decode cX12_size 85 = .ok (.arraylength, 1) := dk_190 (dk_at dksX12_size_3 21 rfl rfl)
theorem dX12_size_86 : decode cX12_size 86 = .ok (.ireturn, 1) := dk_172 (dk_at dksX12_size_3 22 rfl rfl)
abbrev cX12_at : ByteArray := prog_17_method_6_code
def yX12_at : MethodName := ⟨RX12, "at", "(I)J"⟩
def dkwX12_at_4 : List UInt8 := [192, 0, 25, 27, 51, 153, 0, 7, 10, 167, 0, 4, 9, 173]
abbrev dktX12_at_4 : List UInt8 := dkwX12_at_4 ++ []
def dkwX12_at_3 : List UInt8 := [180, 0, 7, 192, 0, 17, 27, 46, 133, 173, 42, 180, 0, 7, 192, 0, 19, 27, 47, 173, 42, 180, 0, 7]
abbrev dktX12_at_3 : List UInt8 := dkwX12_at_3 ++ dktX12_at_4
def dkwX12_at_2 : List UInt8 := [42, 180, 0, 7, 192, 0, 13, 27, 51, 133, 173, 42, 180, 0, 7, 192, 0, 15, 27, 53, 133, 173, 42]
abbrev dktX12_at_2 : List UInt8 := dkwX12_at_2 ++ dktX12_at_3
def dkwX12_at_1 : List UInt8 := [170, 0, 0, 0, 0, 0, 0, 75, 0, 0, 0, 0, 0, 0, 0, 3, 0, 0, 0, 32, 0, 0, 0, 43, 0, 0, 0, 54, 0, 0, 0, 65]
abbrev dktX12_at_1 : List UInt8 := dkwX12_at_1 ++ dktX12_at_2
def dkwX12_at_0 : List UInt8 := [42, 182, 0, 21]
abbrev dktX12_at_0 : List UInt8 := dkwX12_at_0 ++ dktX12_at_1
theorem dksX12_at_0 : cX12_at.data.toList.drop 0 = dktX12_at_0 := by decide +kernel
theorem dksX12_at_1 : cX12_at.data.toList.drop 4 = dktX12_at_1 := dk_seg dksX12_at_0 4 rfl rfl
theorem dksX12_at_2 : cX12_at.data.toList.drop 36 = dktX12_at_2 := dk_seg dksX12_at_1 32 rfl rfl
theorem dksX12_at_3 : cX12_at.data.toList.drop 59 = dktX12_at_3 := dk_seg dksX12_at_2 23 rfl rfl
theorem dksX12_at_4 : cX12_at.data.toList.drop 83 = dktX12_at_4 := dk_seg dksX12_at_3 24 rfl rfl
theorem dX12_at_0 : decode cX12_at 0 = .ok (.aload_n 0, 1) := dk_42 (dk_at dksX12_at_0 0 rfl rfl)
theorem dX12_at_1 : decode cX12_at 1 = .ok (.invokevirtual 21, 3) := dk_182 0 21 (dk_at dksX12_at_0 1 rfl rfl)
theorem dX12_at_4 : decode cX12_at 4 = .ok (.tableswitch 75 0 3 #[32, 43, 54, 65], 32) := by decide +kernel
theorem dX12_at_36 : decode cX12_at 36 = .ok (.aload_n 0, 1) := dk_42 (dk_at dksX12_at_2 0 rfl rfl)
theorem dX12_at_37 : decode cX12_at 37 = .ok (.getfield 7, 3) := dk_180 0 7 (dk_at dksX12_at_2 1 rfl rfl)
theorem dX12_at_40 : decode cX12_at 40 = .ok (.checkcast 13, 3) := dk_192 0 13 (dk_at dksX12_at_2 4 rfl rfl)
theorem dX12_at_43 : decode cX12_at 43 = .ok (.iload_n 1, 1) := dk_27 (dk_at dksX12_at_2 7 rfl rfl)
theorem dX12_at_44 : decode cX12_at 44 = .ok (.baload, 1) := dk_51 (dk_at dksX12_at_2 8 rfl rfl)
theorem dX12_at_45 : decode cX12_at 45 = .ok (.i2l, 1) := dk_133 (dk_at dksX12_at_2 9 rfl rfl)
theorem dX12_at_46 : decode cX12_at 46 = .ok (.lreturn, 1) := dk_173 (dk_at dksX12_at_2 10 rfl rfl)
theorem dX12_at_47 : decode cX12_at 47 = .ok (.aload_n 0, 1) := dk_42 (dk_at dksX12_at_2 11 rfl rfl)
theorem dX12_at_48 : decode cX12_at 48 = .ok (.getfield 7, 3) := dk_180 0 7 (dk_at dksX12_at_2 12 rfl rfl)
theorem dX12_at_51 : decode cX12_at 51 = .ok (.checkcast 15, 3) := dk_192 0 15 (dk_at dksX12_at_2 15 rfl rfl)
theorem dX12_at_54 : decode cX12_at 54 = .ok (.iload_n 1, 1) := dk_27 (dk_at dksX12_at_2 18 rfl rfl)
theorem dX12_at_55 : decode cX12_at 55 = .ok (.saload, 1) := dk_53 (dk_at dksX12_at_2 19 rfl rfl)
theorem dX12_at_56 : decode cX12_at 56 = .ok (.i2l, 1) := dk_133 (dk_at dksX12_at_2 20 rfl rfl)
theorem dX12_at_57 : decode cX12_at 57 = .ok (.lreturn, 1) := dk_173 (dk_at dksX12_at_2 21 rfl rfl)
theorem dX12_at_58 : decode cX12_at 58 = .ok (.aload_n 0, 1) := dk_42 (dk_at dksX12_at_2 22 rfl rfl)
theorem dX12_at_59 : decode cX12_at 59 = .ok (.getfield 7, 3) := dk_180 0 7 (dk_at dksX12_at_3 0 rfl rfl)
theorem dX12_at_62 : decode cX12_at 62 = .ok (.checkcast 17, 3) := dk_192 0 17 (dk_at dksX12_at_3 3 rfl rfl)
theorem dX12_at_65 : decode cX12_at 65 = .ok (.iload_n 1, 1) := dk_27 (dk_at dksX12_at_3 6 rfl rfl)
theorem dX12_at_66 : decode cX12_at 66 = .ok (.iaload, 1) := dk_46 (dk_at dksX12_at_3 7 rfl rfl)
theorem dX12_at_67 : decode cX12_at 67 = .ok (.i2l, 1) := dk_133 (dk_at dksX12_at_3 8 rfl rfl)
theorem dX12_at_68 : decode cX12_at 68 = .ok (.lreturn, 1) := dk_173 (dk_at dksX12_at_3 9 rfl rfl)
theorem dX12_at_69 : decode cX12_at 69 = .ok (.aload_n 0, 1) := dk_42 (dk_at dksX12_at_3 10 rfl rfl)
theorem dX12_at_70 : decode cX12_at 70 = .ok (.getfield 7, 3) := dk_180 0 7 (dk_at dksX12_at_3 11 rfl rfl)
theorem dX12_at_73 : decode cX12_at 73 = .ok (.checkcast 19, 3) := dk_192 0 19 (dk_at dksX12_at_3 14 rfl rfl)
theorem dX12_at_76 : decode cX12_at 76 = .ok (.iload_n 1, 1) := dk_27 (dk_at dksX12_at_3 17 rfl rfl)
theorem dX12_at_77 : decode cX12_at 77 = .ok (.laload, 1) := dk_47 (dk_at dksX12_at_3 18 rfl rfl)
theorem dX12_at_78 : decode cX12_at 78 = .ok (.lreturn, 1) := dk_173 (dk_at dksX12_at_3 19 rfl rfl)
theorem dX12_at_79 : decode cX12_at 79 = .ok (.aload_n 0, 1) := dk_42 (dk_at dksX12_at_3 20 rfl rfl)
theorem dX12_at_80 : decode cX12_at 80 = .ok (.getfield 7, 3) := dk_180 0 7 (dk_at dksX12_at_3 21 rfl rfl)
theorem dX12_at_83 : decode cX12_at 83 = .ok (.checkcast 25, 3) := dk_192 0 25 (dk_at dksX12_at_4 0 rfl rfl)
theorem dX12_at_86 : decode cX12_at 86 = .ok (.iload_n 1, 1) := dk_27 (dk_at dksX12_at_4 3 rfl rfl)
theorem dX12_at_87 : decode cX12_at 87 = .ok (.baload, 1) := dk_51 (dk_at dksX12_at_4 4 rfl rfl)
theorem dX12_at_88 : decode cX12_at 88 = .ok (.ifCond .eq 7, 3) := dk_153 0 7 (dk_at dksX12_at_4 5 rfl rfl)
theorem dX12_at_91 : decode cX12_at 91 = .ok (.lconst 1, 1) := dk_10 (dk_at dksX12_at_4 8 rfl rfl)
theorem dX12_at_92 : decode cX12_at 92 = .ok (.goto 4, 3) := dk_167 0 4 (dk_at dksX12_at_4 9 rfl rfl)
theorem dX12_at_95 : decode cX12_at 95 = .ok (.lconst 0, 1) := dk_9 (dk_at dksX12_at_4 12 rfl rfl)
theorem dX12_at_96 : decode cX12_at 96 = .ok (.lreturn, 1) := dk_173 (dk_at dksX12_at_4 13 rfl rfl)
abbrev cX12_becomes : ByteArray := prog_17_method_4_code
def yX12_becomes : MethodName := ⟨RX12, "becomes", "(II)V"⟩
def dkwX12_becomes_2 : List UInt8 := [188, 11, 167, 0, 6, 28, 188, 4, 181, 0, 7, 177]
abbrev dktX12_becomes_2 : List UInt8 := dkwX12_becomes_2 ++ []
def dkwX12_becomes_1 : List UInt8 := [28, 188, 9, 167, 0, 28, 27, 5, 160, 0, 9, 28, 188, 10, 167, 0, 17, 27, 6, 160, 0, 9, 28]
abbrev dktX12_becomes_1 : List UInt8 := dkwX12_becomes_1 ++ dktX12_becomes_2
def dkwX12_becomes_0 : List UInt8 := [42, 27, 156, 0, 7, 1, 167, 0, 49, 27, 154, 0, 9, 28, 188, 8, 167, 0, 39, 27, 4, 160, 0, 9]
abbrev dktX12_becomes_0 : List UInt8 := dkwX12_becomes_0 ++ dktX12_becomes_1
theorem dksX12_becomes_0 : cX12_becomes.data.toList.drop 0 = dktX12_becomes_0 := by decide +kernel
theorem dksX12_becomes_1 : cX12_becomes.data.toList.drop 24 = dktX12_becomes_1 := dk_seg dksX12_becomes_0 24 rfl rfl
theorem dksX12_becomes_2 : cX12_becomes.data.toList.drop 47 = dktX12_becomes_2 := dk_seg dksX12_becomes_1 23 rfl rfl
theorem dX12_becomes_0 : decode cX12_becomes 0 = .ok (.aload_n 0, 1) := dk_42 (dk_at dksX12_becomes_0 0 rfl rfl)
theorem dX12_becomes_1 : decode cX12_becomes 1 = .ok (.iload_n 1, 1) := dk_27 (dk_at dksX12_becomes_0 1 rfl rfl)
theorem dX12_becomes_2 : decode cX12_becomes 2 = .ok (.ifCond .ge 7, 3) := dk_156 0 7 (dk_at dksX12_becomes_0 2 rfl rfl)
theorem dX12_becomes_5 : decode cX12_becomes 5 = .ok (.aconst_null, 1) := dk_1 (dk_at dksX12_becomes_0 5 rfl rfl)
theorem dX12_becomes_6 : decode cX12_becomes 6 = .ok (.goto 49, 3) := dk_167 0 49 (dk_at dksX12_becomes_0 6 rfl rfl)
theorem dX12_becomes_9 : decode cX12_becomes 9 = .ok (.iload_n 1, 1) := dk_27 (dk_at dksX12_becomes_0 9 rfl rfl)
theorem dX12_becomes_10 : decode cX12_becomes 10 = .ok (.ifCond .ne 9, 3) := dk_154 0 9 (dk_at dksX12_becomes_0 10 rfl rfl)
theorem dX12_becomes_13 : decode cX12_becomes 13 = .ok (.iload_n 2, 1) := dk_28 (dk_at dksX12_becomes_0 13 rfl rfl)
theorem dX12_becomes_14 : decode cX12_becomes 14 = .ok (.newarray .byte, 2) := dk_188_8 (dk_at dksX12_becomes_0 14 rfl rfl)
theorem dX12_becomes_16 : decode cX12_becomes 16 = .ok (.goto 39, 3) := dk_167 0 39 (dk_at dksX12_becomes_0 16 rfl rfl)
theorem dX12_becomes_19 : decode cX12_becomes 19 = .ok (.iload_n 1, 1) := dk_27 (dk_at dksX12_becomes_0 19 rfl rfl)
theorem dX12_becomes_20 : decode cX12_becomes 20 = .ok (.iconst 1, 1) := dk_4 (dk_at dksX12_becomes_0 20 rfl rfl)
theorem dX12_becomes_21 : decode cX12_becomes 21 = .ok (.if_icmp .ne 9, 3) := dk_160 0 9 (dk_at dksX12_becomes_0 21 rfl rfl)
theorem dX12_becomes_24 : decode cX12_becomes 24 = .ok (.iload_n 2, 1) := dk_28 (dk_at dksX12_becomes_1 0 rfl rfl)
theorem dX12_becomes_25 : decode cX12_becomes 25 = .ok (.newarray .short, 2) := dk_188_9 (dk_at dksX12_becomes_1 1 rfl rfl)
theorem dX12_becomes_27 : decode cX12_becomes 27 = .ok (.goto 28, 3) := dk_167 0 28 (dk_at dksX12_becomes_1 3 rfl rfl)
theorem dX12_becomes_30 : decode cX12_becomes 30 = .ok (.iload_n 1, 1) := dk_27 (dk_at dksX12_becomes_1 6 rfl rfl)
theorem dX12_becomes_31 : decode cX12_becomes 31 = .ok (.iconst 2, 1) := dk_5 (dk_at dksX12_becomes_1 7 rfl rfl)
theorem dX12_becomes_32 : decode cX12_becomes 32 = .ok (.if_icmp .ne 9, 3) := dk_160 0 9 (dk_at dksX12_becomes_1 8 rfl rfl)
theorem dX12_becomes_35 : decode cX12_becomes 35 = .ok (.iload_n 2, 1) := dk_28 (dk_at dksX12_becomes_1 11 rfl rfl)
theorem dX12_becomes_36 : decode cX12_becomes 36 = .ok (.newarray .int, 2) := dk_188_10 (dk_at dksX12_becomes_1 12 rfl rfl)
theorem dX12_becomes_38 : decode cX12_becomes 38 = .ok (.goto 17, 3) := dk_167 0 17 (dk_at dksX12_becomes_1 14 rfl rfl)
theorem dX12_becomes_41 : decode cX12_becomes 41 = .ok (.iload_n 1, 1) := dk_27 (dk_at dksX12_becomes_1 17 rfl rfl)
theorem dX12_becomes_42 : decode cX12_becomes 42 = .ok (.iconst 3, 1) := dk_6 (dk_at dksX12_becomes_1 18 rfl rfl)
theorem dX12_becomes_43 : decode cX12_becomes 43 = .ok (.if_icmp .ne 9, 3) := dk_160 0 9 (dk_at dksX12_becomes_1 19 rfl rfl)
theorem dX12_becomes_46 : decode cX12_becomes 46 = .ok (.iload_n 2, 1) := dk_28 (dk_at dksX12_becomes_1 22 rfl rfl)
theorem dX12_becomes_47 : decode cX12_becomes 47 = .ok (.newarray .long, 2) := dk_188_11 (dk_at dksX12_becomes_2 0 rfl rfl)
theorem dX12_becomes_49 : decode cX12_becomes 49 = .ok (.goto 6, 3) := dk_167 0 6 (dk_at dksX12_becomes_2 2 rfl rfl)
theorem dX12_becomes_52 : decode cX12_becomes 52 = .ok (.iload_n 2, 1) := dk_28 (dk_at dksX12_becomes_2 5 rfl rfl)
theorem dX12_becomes_53 : decode cX12_becomes 53 = .ok (.newarray .boolean, 2) := dk_188_4 (dk_at dksX12_becomes_2 6 rfl rfl)
theorem dX12_becomes_55 : decode cX12_becomes 55 = .ok (.putfield 7, 3) := dk_181 0 7 (dk_at dksX12_becomes_2 8 rfl rfl)
theorem dX12_becomes_58 : decode cX12_becomes 58 = .ok (.return_, 1) := dk_177 (dk_at dksX12_becomes_2 11 rfl rfl)
abbrev cX12_puts : ByteArray := prog_17_method_5_code
def yX12_puts : MethodName := ⟨RX12, "puts", "(IJ)V"⟩
def dkwX12_puts_5 : List UInt8 := [167, 0, 4, 3, 84, 177]
abbrev dktX12_puts_5 : List UInt8 := dkwX12_puts_5 ++ []
def dkwX12_puts_4 : List UInt8 := [192, 0, 19, 27, 32, 80, 167, 0, 23, 42, 180, 0, 7, 192, 0, 25, 27, 32, 9, 148, 153, 0, 7, 4]
abbrev dktX12_puts_4 : List UInt8 := dkwX12_puts_4 ++ dktX12_puts_5
def dkwX12_puts_3 : List UInt8 := [136, 147, 86, 167, 0, 50, 42, 180, 0, 7, 192, 0, 17, 27, 32, 136, 79, 167, 0, 36, 42, 180, 0, 7]
abbrev dktX12_puts_3 : List UInt8 := dkwX12_puts_3 ++ dktX12_puts_4
def dkwX12_puts_2 : List UInt8 := [42, 180, 0, 7, 192, 0, 13, 27, 32, 136, 145, 84, 167, 0, 65, 42, 180, 0, 7, 192, 0, 15, 27, 32]
abbrev dktX12_puts_2 : List UInt8 := dkwX12_puts_2 ++ dktX12_puts_3
def dkwX12_puts_1 : List UInt8 := [170, 0, 0, 0, 0, 0, 0, 89, 0, 0, 0, 0, 0, 0, 0, 3, 0, 0, 0, 32, 0, 0, 0, 47, 0, 0, 0, 62, 0, 0, 0, 76]
abbrev dktX12_puts_1 : List UInt8 := dkwX12_puts_1 ++ dktX12_puts_2
def dkwX12_puts_0 : List UInt8 := [42, 182, 0, 21]
abbrev dktX12_puts_0 : List UInt8 := dkwX12_puts_0 ++ dktX12_puts_1
theorem dksX12_puts_0 : cX12_puts.data.toList.drop 0 = dktX12_puts_0 := by decide +kernel
theorem dksX12_puts_1 : cX12_puts.data.toList.drop 4 = dktX12_puts_1 := dk_seg dksX12_puts_0 4 rfl rfl
theorem dksX12_puts_2 : cX12_puts.data.toList.drop 36 = dktX12_puts_2 := dk_seg dksX12_puts_1 32 rfl rfl
theorem dksX12_puts_3 : cX12_puts.data.toList.drop 60 = dktX12_puts_3 := dk_seg dksX12_puts_2 24 rfl rfl
theorem dksX12_puts_4 : cX12_puts.data.toList.drop 84 = dktX12_puts_4 := dk_seg dksX12_puts_3 24 rfl rfl
theorem dksX12_puts_5 : cX12_puts.data.toList.drop 108 = dktX12_puts_5 := dk_seg dksX12_puts_4 24 rfl rfl
theorem dX12_puts_0 : decode cX12_puts 0 = .ok (.aload_n 0, 1) := dk_42 (dk_at dksX12_puts_0 0 rfl rfl)
theorem dX12_puts_1 : decode cX12_puts 1 = .ok (.invokevirtual 21, 3) := dk_182 0 21 (dk_at dksX12_puts_0 1 rfl rfl)
theorem dX12_puts_4 : decode cX12_puts 4 = .ok (.tableswitch 89 0 3 #[32, 47, 62, 76], 32) := by decide +kernel
theorem dX12_puts_36 : decode cX12_puts 36 = .ok (.aload_n 0, 1) := dk_42 (dk_at dksX12_puts_2 0 rfl rfl)
theorem dX12_puts_37 : decode cX12_puts 37 = .ok (.getfield 7, 3) := dk_180 0 7 (dk_at dksX12_puts_2 1 rfl rfl)
theorem dX12_puts_40 : decode cX12_puts 40 = .ok (.checkcast 13, 3) := dk_192 0 13 (dk_at dksX12_puts_2 4 rfl rfl)
theorem dX12_puts_43 : decode cX12_puts 43 = .ok (.iload_n 1, 1) := dk_27 (dk_at dksX12_puts_2 7 rfl rfl)
theorem dX12_puts_44 : decode cX12_puts 44 = .ok (.lload_n 2, 1) := dk_32 (dk_at dksX12_puts_2 8 rfl rfl)
theorem dX12_puts_45 : decode cX12_puts 45 = .ok (.l2i, 1) := dk_136 (dk_at dksX12_puts_2 9 rfl rfl)
theorem dX12_puts_46 : decode cX12_puts 46 = .ok (.i2b, 1) := dk_145 (dk_at dksX12_puts_2 10 rfl rfl)
theorem dX12_puts_47 : decode cX12_puts 47 = .ok (.bastore, 1) := dk_84 (dk_at dksX12_puts_2 11 rfl rfl)
theorem dX12_puts_48 : decode cX12_puts 48 = .ok (.goto 65, 3) := dk_167 0 65 (dk_at dksX12_puts_2 12 rfl rfl)
theorem dX12_puts_51 : decode cX12_puts 51 = .ok (.aload_n 0, 1) := dk_42 (dk_at dksX12_puts_2 15 rfl rfl)
theorem dX12_puts_52 : decode cX12_puts 52 = .ok (.getfield 7, 3) := dk_180 0 7 (dk_at dksX12_puts_2 16 rfl rfl)
theorem dX12_puts_55 : decode cX12_puts 55 = .ok (.checkcast 15, 3) := dk_192 0 15 (dk_at dksX12_puts_2 19 rfl rfl)
theorem dX12_puts_58 : decode cX12_puts 58 = .ok (.iload_n 1, 1) := dk_27 (dk_at dksX12_puts_2 22 rfl rfl)
theorem dX12_puts_59 : decode cX12_puts 59 = .ok (.lload_n 2, 1) := dk_32 (dk_at dksX12_puts_2 23 rfl rfl)
theorem dX12_puts_60 : decode cX12_puts 60 = .ok (.l2i, 1) := dk_136 (dk_at dksX12_puts_3 0 rfl rfl)
theorem dX12_puts_61 : decode cX12_puts 61 = .ok (.i2s, 1) := dk_147 (dk_at dksX12_puts_3 1 rfl rfl)
theorem dX12_puts_62 : decode cX12_puts 62 = .ok (.sastore, 1) := dk_86 (dk_at dksX12_puts_3 2 rfl rfl)
theorem dX12_puts_63 : decode cX12_puts 63 = .ok (.goto 50, 3) := dk_167 0 50 (dk_at dksX12_puts_3 3 rfl rfl)
theorem dX12_puts_66 : decode cX12_puts 66 = .ok (.aload_n 0, 1) := dk_42 (dk_at dksX12_puts_3 6 rfl rfl)
theorem dX12_puts_67 : decode cX12_puts 67 = .ok (.getfield 7, 3) := dk_180 0 7 (dk_at dksX12_puts_3 7 rfl rfl)
theorem dX12_puts_70 : decode cX12_puts 70 = .ok (.checkcast 17, 3) := dk_192 0 17 (dk_at dksX12_puts_3 10 rfl rfl)
theorem dX12_puts_73 : decode cX12_puts 73 = .ok (.iload_n 1, 1) := dk_27 (dk_at dksX12_puts_3 13 rfl rfl)
theorem dX12_puts_74 : decode cX12_puts 74 = .ok (.lload_n 2, 1) := dk_32 (dk_at dksX12_puts_3 14 rfl rfl)
theorem dX12_puts_75 : decode cX12_puts 75 = .ok (.l2i, 1) := dk_136 (dk_at dksX12_puts_3 15 rfl rfl)
theorem dX12_puts_76 : decode cX12_puts 76 = .ok (.iastore, 1) := dk_79 (dk_at dksX12_puts_3 16 rfl rfl)
theorem dX12_puts_77 : decode cX12_puts 77 = .ok (.goto 36, 3) := dk_167 0 36 (dk_at dksX12_puts_3 17 rfl rfl)
theorem dX12_puts_80 : decode cX12_puts 80 = .ok (.aload_n 0, 1) := dk_42 (dk_at dksX12_puts_3 20 rfl rfl)
theorem dX12_puts_81 : decode cX12_puts 81 = .ok (.getfield 7, 3) := dk_180 0 7 (dk_at dksX12_puts_3 21 rfl rfl)
theorem dX12_puts_84 : decode cX12_puts 84 = .ok (.checkcast 19, 3) := dk_192 0 19 (dk_at dksX12_puts_4 0 rfl rfl)
theorem dX12_puts_87 : decode cX12_puts 87 = .ok (.iload_n 1, 1) := dk_27 (dk_at dksX12_puts_4 3 rfl rfl)
theorem dX12_puts_88 : decode cX12_puts 88 = .ok (.lload_n 2, 1) := dk_32 (dk_at dksX12_puts_4 4 rfl rfl)
theorem dX12_puts_89 : decode cX12_puts 89 = .ok (.lastore, 1) := dk_80 (dk_at dksX12_puts_4 5 rfl rfl)
theorem dX12_puts_90 : decode cX12_puts 90 = .ok (.goto 23, 3) := dk_167 0 23 (dk_at dksX12_puts_4 6 rfl rfl)
theorem dX12_puts_93 : decode cX12_puts 93 = .ok (.aload_n 0, 1) := dk_42 (dk_at dksX12_puts_4 9 rfl rfl)
theorem dX12_puts_94 : decode cX12_puts 94 = .ok (.getfield 7, 3) := dk_180 0 7 (dk_at dksX12_puts_4 10 rfl rfl)
theorem dX12_puts_97 : decode cX12_puts 97 = .ok (.checkcast 25, 3) := dk_192 0 25 (dk_at dksX12_puts_4 13 rfl rfl)
theorem dX12_puts_100 : decode cX12_puts 100 = .ok (.iload_n 1, 1) := dk_27 (dk_at dksX12_puts_4 16 rfl rfl)
theorem dX12_puts_101 : decode cX12_puts 101 = .ok (.lload_n 2, 1) := dk_32 (dk_at dksX12_puts_4 17 rfl rfl)
theorem dX12_puts_102 : decode cX12_puts 102 = .ok (.lconst 0, 1) := dk_9 (dk_at dksX12_puts_4 18 rfl rfl)
theorem dX12_puts_103 : decode cX12_puts 103 = .ok (.lcmp, 1) := dk_148 (dk_at dksX12_puts_4 19 rfl rfl)
theorem dX12_puts_104 : decode cX12_puts 104 = .ok (.ifCond .eq 7, 3) := dk_153 0 7 (dk_at dksX12_puts_4 20 rfl rfl)
theorem dX12_puts_107 : decode cX12_puts 107 = .ok (.iconst 1, 1) := dk_4 (dk_at dksX12_puts_4 23 rfl rfl)
theorem dX12_puts_108 : decode cX12_puts 108 = .ok (.goto 4, 3) := dk_167 0 4 (dk_at dksX12_puts_5 0 rfl rfl)
theorem dX12_puts_111 : decode cX12_puts 111 = .ok (.iconst 0, 1) := dk_3 (dk_at dksX12_puts_5 3 rfl rfl)
theorem dX12_puts_112 : decode cX12_puts 112 = .ok (.bastore, 1) := dk_84 (dk_at dksX12_puts_5 4 rfl rfl)
theorem dX12_puts_113 : decode cX12_puts 113 = .ok (.return_, 1) := dk_177 (dk_at dksX12_puts_5 5 rfl rfl)
theorem q122 : (Jvm.Cond.initialized "SafeClears$Tape") ∈ lw_all := lw_g (lw_at lw_m1 31 rfl) rfl
theorem q782 : (Jvm.Cond.instantiable "SafeClears$Tape" (1 : Nat)) ∈ lw_all := lw_g (lw_at lw_m3 211 rfl) rfl
theorem q784 : (Jvm.Cond.instanceMethod ({ cls := "SafeClears$Tape", name := "<init>", desc := "()V" } : Jvm.MethodName)) ∈ lw_all := lw_g (lw_at lw_m3 213 rfl) rfl
theorem q785 : (Jvm.Cond.code ({ cls := "SafeClears$Tape", name := "<init>", desc := "()V" } : Jvm.MethodName) prog_17_method_1_code (1 : Nat) (Option.none : Option Jvm.ClassFile.FieldType)) ∈ lw_all := lw_g (lw_at lw_m3 214 rfl) rfl
theorem q786 : (Jvm.Cond.methodLink "SafeClears$Tape" (1 : Nat) ({ cls := "java/lang/Object", name := "<init>", desc := "()V" } : Jvm.MethodName)) ∈ lw_all := lw_g (lw_at lw_m3 215 rfl) rfl
theorem q787 : (Jvm.Cond.fieldLink "SafeClears$Tape" (7 : Nat) "SafeClears$Tape" "row" "Ljava/lang/Object;") ∈ lw_all := lw_g (lw_at lw_m3 216 rfl) rfl
theorem q789 : (Jvm.Cond.lays "SafeClears$Tape" "SafeClears$Tape" "row" "Ljava/lang/Object;") ∈ lw_all := lw_g (lw_at lw_m3 218 rfl) rfl
theorem q790 : (Jvm.Cond.soleField "SafeClears$Tape" "row") ∈ lw_all := lw_g (lw_at lw_m3 219 rfl) rfl
theorem q791 : (Jvm.Cond.superclass "SafeClears$Tape" "java/lang/Object") ∈ lw_all := lw_g (lw_at lw_m3 220 rfl) rfl
theorem q1605 : (Jvm.Cond.instanceMethod ({ cls := "SafeClears$Tape", name := "sort", desc := "()I" } : Jvm.MethodName)) ∈ lw_all := lw_g (lw_at lw_m7 74 rfl) rfl
theorem q1606 : (Jvm.Cond.selects "SafeClears$Tape" ({ cls := "SafeClears$Tape", name := "sort", desc := "()I" } : Jvm.MethodName) ({ cls := "SafeClears$Tape", name := "sort", desc := "()I" } : Jvm.MethodName)) ∈ lw_all := lw_g (lw_at lw_m7 75 rfl) rfl
theorem q1607 : (Jvm.Cond.code ({ cls := "SafeClears$Tape", name := "sort", desc := "()I" } : Jvm.MethodName) prog_17_method_2_code (1 : Nat) (Option.some Jvm.ClassFile.FieldType.int)) ∈ lw_all := lw_g (lw_at lw_m7 76 rfl) rfl
theorem q1608 : (Jvm.Cond.classLink "SafeClears$Tape" (13 : Nat) "[B") ∈ lw_all := lw_g (lw_at lw_m7 77 rfl) rfl
theorem q1609 : (Jvm.Cond.classLink "SafeClears$Tape" (15 : Nat) "[S") ∈ lw_all := lw_g (lw_at lw_m7 78 rfl) rfl
theorem q1610 : (Jvm.Cond.classLink "SafeClears$Tape" (17 : Nat) "[I") ∈ lw_all := lw_g (lw_at lw_m7 79 rfl) rfl
theorem q1611 : (Jvm.Cond.classLink "SafeClears$Tape" (19 : Nat) "[J") ∈ lw_all := lw_g (lw_at lw_m7 80 rfl) rfl
theorem q1613 : (Jvm.Cond.instanceMethod ({ cls := "SafeClears$Tape", name := "size", desc := "()I" } : Jvm.MethodName)) ∈ lw_all := lw_g (lw_at lw_m7 82 rfl) rfl
theorem q1614 : (Jvm.Cond.selects "SafeClears$Tape" ({ cls := "SafeClears$Tape", name := "size", desc := "()I" } : Jvm.MethodName) ({ cls := "SafeClears$Tape", name := "size", desc := "()I" } : Jvm.MethodName)) ∈ lw_all := lw_g (lw_at lw_m7 83 rfl) rfl
theorem q1615 : (Jvm.Cond.code ({ cls := "SafeClears$Tape", name := "size", desc := "()I" } : Jvm.MethodName) prog_17_method_3_code (1 : Nat) (Option.some Jvm.ClassFile.FieldType.int)) ∈ lw_all := lw_g (lw_at lw_m7 84 rfl) rfl
theorem q1616 : (Jvm.Cond.methodLink "SafeClears$Tape" (21 : Nat) ({ cls := "SafeClears$Tape", name := "sort", desc := "()I" } : Jvm.MethodName)) ∈ lw_all := lw_g (lw_at lw_m7 85 rfl) rfl
theorem q1617 : (Jvm.Cond.classLink "SafeClears$Tape" (25 : Nat) "[Z") ∈ lw_all := lw_g (lw_at lw_m7 86 rfl) rfl
theorem q1619 : (Jvm.Cond.instanceMethod ({ cls := "SafeClears$Tape", name := "at", desc := "(I)J" } : Jvm.MethodName)) ∈ lw_all := lw_g (lw_at lw_m7 88 rfl) rfl
theorem q1620 : (Jvm.Cond.selects "SafeClears$Tape" ({ cls := "SafeClears$Tape", name := "at", desc := "(I)J" } : Jvm.MethodName) ({ cls := "SafeClears$Tape", name := "at", desc := "(I)J" } : Jvm.MethodName)) ∈ lw_all := lw_g (lw_at lw_m7 89 rfl) rfl
theorem q1621 : (Jvm.Cond.code ({ cls := "SafeClears$Tape", name := "at", desc := "(I)J" } : Jvm.MethodName) prog_17_method_6_code (2 : Nat) (Option.some Jvm.ClassFile.FieldType.long)) ∈ lw_all := lw_g (lw_at lw_m7 90 rfl) rfl
theorem q1629 : (Jvm.Cond.instanceMethod ({ cls := "SafeClears$Tape", name := "becomes", desc := "(II)V" } : Jvm.MethodName)) ∈ lw_all := lw_g (lw_at lw_m7 98 rfl) rfl
theorem q1630 : (Jvm.Cond.selects "SafeClears$Tape" ({ cls := "SafeClears$Tape", name := "becomes", desc := "(II)V" } : Jvm.MethodName) ({ cls := "SafeClears$Tape", name := "becomes", desc := "(II)V" } : Jvm.MethodName)) ∈ lw_all := lw_g (lw_at lw_m7 99 rfl) rfl
theorem q1631 : (Jvm.Cond.code ({ cls := "SafeClears$Tape", name := "becomes", desc := "(II)V" } : Jvm.MethodName) prog_17_method_4_code (3 : Nat) (Option.none : Option Jvm.ClassFile.FieldType)) ∈ lw_all := lw_g (lw_at lw_m7 100 rfl) rfl
theorem q1654 : (Jvm.Cond.instanceMethod ({ cls := "SafeClears$Tape", name := "puts", desc := "(IJ)V" } : Jvm.MethodName)) ∈ lw_all := lw_g (lw_at lw_m7 123 rfl) rfl
theorem q1655 : (Jvm.Cond.selects "SafeClears$Tape" ({ cls := "SafeClears$Tape", name := "puts", desc := "(IJ)V" } : Jvm.MethodName) ({ cls := "SafeClears$Tape", name := "puts", desc := "(IJ)V" } : Jvm.MethodName)) ∈ lw_all := lw_g (lw_at lw_m7 124 rfl) rfl
theorem q1656 : (Jvm.Cond.code ({ cls := "SafeClears$Tape", name := "puts", desc := "(IJ)V" } : Jvm.MethodName) prog_17_method_5_code (4 : Nat) (Option.none : Option Jvm.ClassFile.FieldType)) ∈ lw_all := lw_g (lw_at lw_m7 125 rfl) rfl
theorem q2242 : (Jvm.Cond.castable "SafeClears$Tape" "java/lang/Object") ∈ lw_tbl := lw_at lw_m9 231 rfl
theorem in_X12 : ∀ w ∈ wsX120, w ∈ lw_all := lw_in wsX120 [789] (by decide +kernel) (by decide +kernel)
/-! SafeClears$Reader -/
set_option maxRecDepth 100000
def RX14 : String := "SafeClears$Reader"
def TX14 : u_T := fun k => match k with
  | 0 => ("SafeClears$Reader", "read", "[LSafeClears$Signal;", true)
  | 1 => ("SafeClears$Reader", "many", "I", false)
  | 2 => ("SafeClears$Reader", "at", "I", false)
  | _ => ("SafeClears$Reader", "this$0", "LSafeClears;", true)
def tyX14 : Nat → FieldType := fun k => match k with
  | 0 => .array (.object "SafeClears$Signal")
  | 1 => .int
  | 2 => .int
  | _ => .object "SafeClears"
abbrev wsX140 : List Cond := u_ws RX14 TX14 4
theorem nmX14 : ∀ a, a < 4 → ∀ b, b < 4 → a ≠ b → (TX14 a).2.1 ≠ (TX14 b).2.1 := by decide +kernel
theorem tyX14_ok : ∀ k, k < 4 → parseFieldDescriptor (TX14 k).2.2.1 = some (tyX14 k) := by decide +kernel
abbrev cX14_init : ByteArray := prog_14_method_1_code
def yX14_init : MethodName := ⟨RX14, "<init>", "(LSafeClears;)V"⟩
def dkwX14_init_1 : List UInt8 := [42, 180, 0, 17, 28, 187, 0, 15, 89, 183, 0, 21, 83, 132, 2, 1, 167, 255, 235, 177]
abbrev dktX14_init_1 : List UInt8 := dkwX14_init_1 ++ []
def dkwX14_init_0 : List UInt8 := [42, 43, 181, 0, 3, 42, 183, 0, 9, 42, 7, 189, 0, 15, 181, 0, 17, 3, 61, 28, 7, 162, 0, 22]
abbrev dktX14_init_0 : List UInt8 := dkwX14_init_0 ++ dktX14_init_1
theorem dksX14_init_0 : cX14_init.data.toList.drop 0 = dktX14_init_0 := by decide +kernel
theorem dksX14_init_1 : cX14_init.data.toList.drop 24 = dktX14_init_1 := dk_seg dksX14_init_0 24 rfl rfl
theorem dX14_init_0 : decode cX14_init 0 = .ok (.aload_n 0, 1) := dk_42 (dk_at dksX14_init_0 0 rfl rfl)
theorem dX14_init_1 : decode cX14_init 1 = .ok (.aload_n 1, 1) := dk_43 (dk_at dksX14_init_0 1 rfl rfl)
theorem dX14_init_2 : decode cX14_init 2 = .ok (.putfield 3, 3) := dk_181 0 3 (dk_at dksX14_init_0 2 rfl rfl)
theorem dX14_init_5 : decode cX14_init 5 = .ok (.aload_n 0, 1) := dk_42 (dk_at dksX14_init_0 5 rfl rfl)
theorem dX14_init_6 : decode cX14_init 6 = .ok (.invokespecial 9, 3) := dk_183 0 9 (dk_at dksX14_init_0 6 rfl rfl)
theorem dX14_init_9 : decode cX14_init 9 = .ok (.aload_n 0, 1) := dk_42 (dk_at dksX14_init_0 9 rfl rfl)
theorem dX14_init_10 : decode cX14_init 10 = .ok (.iconst 4, 1) := dk_7 (dk_at dksX14_init_0 10 rfl rfl)
theorem dX14_init_11 : decode cX14_init 11 = .ok (.anewarray 15, 3) := dk_189 0 15 (dk_at dksX14_init_0 11 rfl rfl)
theorem dX14_init_14 : decode cX14_init 14 = .ok (.putfield 17, 3) := dk_181 0 17 (dk_at dksX14_init_0 14 rfl rfl)
theorem dX14_init_17 : decode cX14_init 17 = .ok (.iconst 0, 1) := dk_3 (dk_at dksX14_init_0 17 rfl rfl)
theorem dX14_init_18 : decode cX14_init 18 = .ok (.istore_n 2, 1) := dk_61 (dk_at dksX14_init_0 18 rfl rfl)
theorem dX14_init_19 : decode cX14_init 19 = .ok (.iload_n 2, 1) := dk_28 (dk_at dksX14_init_0 19 rfl rfl)
theorem dX14_init_20 : decode cX14_init 20 = .ok (.iconst 4, 1) := dk_7 (dk_at dksX14_init_0 20 rfl rfl)
theorem dX14_init_21 : decode cX14_init 21 = .ok (.if_icmp .ge 22, 3) := dk_162 0 22 (dk_at dksX14_init_0 21 rfl rfl)
theorem dX14_init_24 : decode cX14_init 24 = .ok (.aload_n 0, 1) := dk_42 (dk_at dksX14_init_1 0 rfl rfl)
theorem dX14_init_25 : decode cX14_init 25 = .ok (.getfield 17, 3) := dk_180 0 17 (dk_at dksX14_init_1 1 rfl rfl)
theorem dX14_init_28 : decode cX14_init 28 = .ok (.iload_n 2, 1) := dk_28 (dk_at dksX14_init_1 4 rfl rfl)
theorem dX14_init_29 : decode cX14_init 29 = .ok (.new 15, 3) := dk_187 0 15 (dk_at dksX14_init_1 5 rfl rfl)
theorem dX14_init_32 : decode cX14_init 32 = .ok (.dup, 1) := dk_89 (dk_at dksX14_init_1 8 rfl rfl)
theorem dX14_init_33 : decode cX14_init 33 = .ok (.invokespecial 21, 3) := dk_183 0 21 (dk_at dksX14_init_1 9 rfl rfl)
theorem dX14_init_36 : decode cX14_init 36 = .ok (.aastore, 1) := dk_83 (dk_at dksX14_init_1 12 rfl rfl)
theorem dX14_init_37 : decode cX14_init 37 = .ok (.iinc 2 1, 3) := dk_132 2 1 (dk_at dksX14_init_1 13 rfl rfl)
theorem dX14_init_40 : decode cX14_init 40 = .ok (.goto (-21), 3) := dk_167 255 235 (dk_at dksX14_init_1 16 rfl rfl)
theorem dX14_init_43 : decode cX14_init 43 = .ok (.return_, 1) := dk_177 (dk_at dksX14_init_1 19 rfl rfl)
abbrev cX14_reads : ByteArray := prog_14_method_7_code
def yX14_reads : MethodName := ⟨RX14, "reads", "()V"⟩
def dkwX14_reads_2 : List UInt8 := [89, 180, 0, 22, 4, 96, 181, 0, 22, 42, 182, 0, 106, 167, 255, 199, 177]
abbrev dktX14_reads_2 : List UInt8 := dkwX14_reads_2 ++ []
def dkwX14_reads_1 : List UInt8 := [160, 0, 11, 42, 180, 0, 78, 7, 160, 0, 15, 187, 0, 45, 89, 42, 180, 0, 22, 183, 0, 47, 191, 42]
abbrev dktX14_reads_1 : List UInt8 := dkwX14_reads_1 ++ dktX14_reads_2
def dkwX14_reads_0 : List UInt8 := [42, 182, 0, 106, 42, 180, 0, 22, 42, 180, 0, 3, 180, 0, 26, 162, 0, 49, 42, 182, 0, 33, 16, 59]
abbrev dktX14_reads_0 : List UInt8 := dkwX14_reads_0 ++ dktX14_reads_1
theorem dksX14_reads_0 : cX14_reads.data.toList.drop 0 = dktX14_reads_0 := by decide +kernel
theorem dksX14_reads_1 : cX14_reads.data.toList.drop 24 = dktX14_reads_1 := dk_seg dksX14_reads_0 24 rfl rfl
theorem dksX14_reads_2 : cX14_reads.data.toList.drop 48 = dktX14_reads_2 := dk_seg dksX14_reads_1 24 rfl rfl
theorem dX14_reads_0 : decode cX14_reads 0 = .ok (.aload_n 0, 1) := dk_42 (dk_at dksX14_reads_0 0 rfl rfl)
theorem dX14_reads_1 : decode cX14_reads 1 = .ok (.invokevirtual 106, 3) := dk_182 0 106 (dk_at dksX14_reads_0 1 rfl rfl)
theorem dX14_reads_4 : decode cX14_reads 4 = .ok (.aload_n 0, 1) := dk_42 (dk_at dksX14_reads_0 4 rfl rfl)
theorem dX14_reads_5 : decode cX14_reads 5 = .ok (.getfield 22, 3) := dk_180 0 22 (dk_at dksX14_reads_0 5 rfl rfl)
theorem dX14_reads_8 : decode cX14_reads 8 = .ok (.aload_n 0, 1) := dk_42 (dk_at dksX14_reads_0 8 rfl rfl)
theorem dX14_reads_9 : decode cX14_reads 9 = .ok (.getfield 3, 3) := dk_180 0 3 (dk_at dksX14_reads_0 9 rfl rfl)
theorem dX14_reads_12 : decode cX14_reads 12 = .ok (.getfield 26, 3) := dk_180 0 26 (dk_at dksX14_reads_0 12 rfl rfl)
theorem dX14_reads_15 : decode cX14_reads 15 = .ok (.if_icmp .ge 49, 3) := dk_162 0 49 (dk_at dksX14_reads_0 15 rfl rfl)
theorem dX14_reads_18 : decode cX14_reads 18 = .ok (.aload_n 0, 1) := dk_42 (dk_at dksX14_reads_0 18 rfl rfl)
theorem dX14_reads_19 : decode cX14_reads 19 = .ok (.invokevirtual 33, 3) := dk_182 0 33 (dk_at dksX14_reads_0 19 rfl rfl)
theorem dX14_reads_22 : decode cX14_reads 22 = .ok (.bipush 59, 2) := dk_16 59 (dk_at dksX14_reads_0 22 rfl rfl)
theorem dX14_reads_24 : decode cX14_reads 24 = .ok (.if_icmp .ne 11, 3) := dk_160 0 11 (dk_at dksX14_reads_1 0 rfl rfl)
theorem dX14_reads_27 : decode cX14_reads 27 = .ok (.aload_n 0, 1) := dk_42 (dk_at dksX14_reads_1 3 rfl rfl)
theorem dX14_reads_28 : decode cX14_reads 28 = .ok (.getfield 78, 3) := dk_180 0 78 (dk_at dksX14_reads_1 4 rfl rfl)
theorem dX14_reads_31 : decode cX14_reads 31 = .ok (.iconst 4, 1) := dk_7 (dk_at dksX14_reads_1 7 rfl rfl)
theorem dX14_reads_32 : decode cX14_reads 32 = .ok (.if_icmp .ne 15, 3) := dk_160 0 15 (dk_at dksX14_reads_1 8 rfl rfl)
theorem dX14_reads_35 : decode cX14_reads 35 = .ok (.new 45, 3) := dk_187 0 45 (dk_at dksX14_reads_1 11 rfl rfl)
theorem dX14_reads_38 : decode cX14_reads 38 = .ok (.dup, 1) := dk_89 (dk_at dksX14_reads_1 14 rfl rfl)
theorem dX14_reads_39 : decode cX14_reads 39 = .ok (.aload_n 0, 1) := dk_42 (dk_at dksX14_reads_1 15 rfl rfl)
theorem dX14_reads_40 : decode cX14_reads 40 = .ok (.getfield 22, 3) := dk_180 0 22 (dk_at dksX14_reads_1 16 rfl rfl)
theorem dX14_reads_43 : decode cX14_reads 43 = .ok (.invokespecial 47, 3) := dk_183 0 47 (dk_at dksX14_reads_1 19 rfl rfl)
theorem dX14_reads_46 : decode cX14_reads 46 = .ok (.athrow, 1) := dk_191 (dk_at dksX14_reads_1 22 rfl rfl)
theorem dX14_reads_47 : decode cX14_reads 47 = .ok (.aload_n 0, 1) := dk_42 (dk_at dksX14_reads_1 23 rfl rfl)
theorem dX14_reads_48 : decode cX14_reads 48 = .ok (.dup, 1) := dk_89 (dk_at dksX14_reads_2 0 rfl rfl)
theorem dX14_reads_49 : decode cX14_reads 49 = .ok (.getfield 22, 3) := dk_180 0 22 (dk_at dksX14_reads_2 1 rfl rfl)
theorem dX14_reads_52 : decode cX14_reads 52 = .ok (.iconst 1, 1) := dk_4 (dk_at dksX14_reads_2 4 rfl rfl)
theorem dX14_reads_53 : decode cX14_reads 53 = .ok (.iadd, 1) := dk_96 (dk_at dksX14_reads_2 5 rfl rfl)
theorem dX14_reads_54 : decode cX14_reads 54 = .ok (.putfield 22, 3) := dk_181 0 22 (dk_at dksX14_reads_2 6 rfl rfl)
theorem dX14_reads_57 : decode cX14_reads 57 = .ok (.aload_n 0, 1) := dk_42 (dk_at dksX14_reads_2 9 rfl rfl)
theorem dX14_reads_58 : decode cX14_reads 58 = .ok (.invokevirtual 106, 3) := dk_182 0 106 (dk_at dksX14_reads_2 10 rfl rfl)
theorem dX14_reads_61 : decode cX14_reads 61 = .ok (.goto (-57), 3) := dk_167 255 199 (dk_at dksX14_reads_2 13 rfl rfl)
theorem dX14_reads_64 : decode cX14_reads 64 = .ok (.return_, 1) := dk_177 (dk_at dksX14_reads_2 16 rfl rfl)
abbrev cX14_clause : ByteArray := prog_14_method_6_code
def yX14_clause : MethodName := ⟨RX14, "clause", "()V"⟩
def dkwX14_clause_8 : List UInt8 := [3, 16, 60, 182, 0, 99, 79, 42, 89, 180, 0, 78, 4, 96, 181, 0, 78, 177]
abbrev dktX14_clause_8 : List UInt8 := dkwX14_clause_8 ++ []
def dkwX14_clause_7 : List UInt8 := [4, 4, 16, 9, 182, 0, 99, 79, 42, 16, 64, 182, 0, 93, 153, 0, 17, 44, 180, 0, 96, 6, 42, 5]
abbrev dktX14_clause_7 : List UInt8 := dkwX14_clause_7 ++ dktX14_clause_8
def dkwX14_clause_6 : List UInt8 := [182, 0, 103, 16, 99, 182, 0, 99, 79, 42, 16, 126, 182, 0, 93, 153, 0, 17, 44, 180, 0, 96, 5, 42]
abbrev dktX14_clause_6 : List UInt8 := dkwX14_clause_6 ++ dktX14_clause_7
def dkwX14_clause_5 : List UInt8 := [16, 20, 182, 0, 99, 79, 42, 16, 47, 182, 0, 93, 153, 0, 20, 44, 180, 0, 96, 4, 42, 5, 44]
abbrev dktX14_clause_5 : List UInt8 := dkwX14_clause_5 ++ dktX14_clause_6
def dkwX14_clause_4 : List UInt8 := [182, 0, 89, 167, 255, 234, 42, 16, 42, 182, 0, 93, 153, 0, 17, 44, 180, 0, 96, 3, 42, 5, 4]
abbrev dktX14_clause_4 : List UInt8 := dkwX14_clause_4 ++ dktX14_clause_5
def dkwX14_clause_3 : List UInt8 := [182, 0, 89, 42, 182, 0, 33, 133, 20, 0, 50, 20, 0, 52, 184, 0, 41, 153, 0, 11, 42, 44]
abbrev dktX14_clause_3 : List UInt8 := dkwX14_clause_3 ++ dktX14_clause_4
def dkwX14_clause_2 : List UInt8 := [181, 0, 22, 42, 180, 0, 17, 42, 180, 0, 78, 50, 77, 44, 27, 184, 0, 79, 182, 0, 85, 42, 44]
abbrev dktX14_clause_2 : List UInt8 := dkwX14_clause_2 ++ dktX14_clause_3
def dkwX14_clause_1 : List UInt8 := [160, 0, 15, 187, 0, 45, 89, 42, 180, 0, 22, 183, 0, 47, 191, 42, 89, 180, 0, 22, 4, 96]
abbrev dktX14_clause_1 : List UInt8 := dkwX14_clause_1 ++ dktX14_clause_2
def dkwX14_clause_0 : List UInt8 := [42, 182, 0, 33, 156, 0, 7, 2, 167, 0, 11, 178, 0, 74, 42, 182, 0, 33, 46, 60, 27, 2]
abbrev dktX14_clause_0 : List UInt8 := dkwX14_clause_0 ++ dktX14_clause_1
theorem dksX14_clause_0 : cX14_clause.data.toList.drop 0 = dktX14_clause_0 := by decide +kernel
theorem dksX14_clause_1 : cX14_clause.data.toList.drop 22 = dktX14_clause_1 := dk_seg dksX14_clause_0 22 rfl rfl
theorem dksX14_clause_2 : cX14_clause.data.toList.drop 44 = dktX14_clause_2 := dk_seg dksX14_clause_1 22 rfl rfl
theorem dksX14_clause_3 : cX14_clause.data.toList.drop 67 = dktX14_clause_3 := dk_seg dksX14_clause_2 23 rfl rfl
theorem dksX14_clause_4 : cX14_clause.data.toList.drop 89 = dktX14_clause_4 := dk_seg dksX14_clause_3 22 rfl rfl
theorem dksX14_clause_5 : cX14_clause.data.toList.drop 112 = dktX14_clause_5 := dk_seg dksX14_clause_4 23 rfl rfl
theorem dksX14_clause_6 : cX14_clause.data.toList.drop 135 = dktX14_clause_6 := dk_seg dksX14_clause_5 23 rfl rfl
theorem dksX14_clause_7 : cX14_clause.data.toList.drop 159 = dktX14_clause_7 := dk_seg dksX14_clause_6 24 rfl rfl
theorem dksX14_clause_8 : cX14_clause.data.toList.drop 183 = dktX14_clause_8 := dk_seg dksX14_clause_7 24 rfl rfl
theorem dX14_clause_0 : decode cX14_clause 0 = .ok (.aload_n 0, 1) := dk_42 (dk_at dksX14_clause_0 0 rfl rfl)
theorem dX14_clause_1 : decode cX14_clause 1 = .ok (.invokevirtual 33, 3) := dk_182 0 33 (dk_at dksX14_clause_0 1 rfl rfl)
theorem dX14_clause_4 : decode cX14_clause 4 = .ok (.ifCond .ge 7, 3) := dk_156 0 7 (dk_at dksX14_clause_0 4 rfl rfl)
theorem dX14_clause_7 : decode cX14_clause 7 = .ok (.iconst (-1), 1) := dk_2 (dk_at dksX14_clause_0 7 rfl rfl)
theorem dX14_clause_8 : decode cX14_clause 8 = .ok (.goto 11, 3) := dk_167 0 11 (dk_at dksX14_clause_0 8 rfl rfl)
theorem dX14_clause_11 : decode cX14_clause 11 = .ok (.getstatic 74, 3) := dk_178 0 74 (dk_at dksX14_clause_0 11 rfl rfl)
theorem dX14_clause_14 : decode cX14_clause 14 = .ok (.aload_n 0, 1) := dk_42 (dk_at dksX14_clause_0 14 rfl rfl)
theorem dX14_clause_15 : decode cX14_clause 15 = .ok (.invokevirtual 33, 3) := dk_182 0 33 (dk_at dksX14_clause_0 15 rfl rfl)
theorem dX14_clause_18 : decode cX14_clause 18 = .ok (.iaload, 1) := dk_46 (dk_at dksX14_clause_0 18 rfl rfl)
theorem dX14_clause_19 : decode cX14_clause 19 = .ok (.istore_n 1, 1) := dk_60 (dk_at dksX14_clause_0 19 rfl rfl)
theorem dX14_clause_20 : decode cX14_clause 20 = .ok (.iload_n 1, 1) := dk_27 (dk_at dksX14_clause_0 20 rfl rfl)
theorem dX14_clause_21 : decode cX14_clause 21 = .ok (.iconst (-1), 1) := dk_2 (dk_at dksX14_clause_0 21 rfl rfl)
theorem dX14_clause_22 : decode cX14_clause 22 = .ok (.if_icmp .ne 15, 3) := dk_160 0 15 (dk_at dksX14_clause_1 0 rfl rfl)
theorem dX14_clause_25 : decode cX14_clause 25 = .ok (.new 45, 3) := dk_187 0 45 (dk_at dksX14_clause_1 3 rfl rfl)
theorem dX14_clause_28 : decode cX14_clause 28 = .ok (.dup, 1) := dk_89 (dk_at dksX14_clause_1 6 rfl rfl)
theorem dX14_clause_29 : decode cX14_clause 29 = .ok (.aload_n 0, 1) := dk_42 (dk_at dksX14_clause_1 7 rfl rfl)
theorem dX14_clause_30 : decode cX14_clause 30 = .ok (.getfield 22, 3) := dk_180 0 22 (dk_at dksX14_clause_1 8 rfl rfl)
theorem dX14_clause_33 : decode cX14_clause 33 = .ok (.invokespecial 47, 3) := dk_183 0 47 (dk_at dksX14_clause_1 11 rfl rfl)
theorem dX14_clause_36 : decode cX14_clause 36 = .ok (.athrow, 1) := dk_191 (dk_at dksX14_clause_1 14 rfl rfl)
theorem dX14_clause_37 : decode cX14_clause 37 = .ok (.aload_n 0, 1) := dk_42 (dk_at dksX14_clause_1 15 rfl rfl)
theorem dX14_clause_38 : decode cX14_clause 38 = .ok (.dup, 1) := dk_89 (dk_at dksX14_clause_1 16 rfl rfl)
theorem dX14_clause_39 : decode cX14_clause 39 = .ok (.getfield 22, 3) := dk_180 0 22 (dk_at dksX14_clause_1 17 rfl rfl)
theorem dX14_clause_42 : decode cX14_clause 42 = .ok (.iconst 1, 1) := dk_4 (dk_at dksX14_clause_1 20 rfl rfl)
theorem dX14_clause_43 : decode cX14_clause 43 = .ok (.iadd, 1) := dk_96 (dk_at dksX14_clause_1 21 rfl rfl)
theorem dX14_clause_44 : decode cX14_clause 44 = .ok (.putfield 22, 3) := dk_181 0 22 (dk_at dksX14_clause_2 0 rfl rfl)
theorem dX14_clause_47 : decode cX14_clause 47 = .ok (.aload_n 0, 1) := dk_42 (dk_at dksX14_clause_2 3 rfl rfl)
theorem dX14_clause_48 : decode cX14_clause 48 = .ok (.getfield 17, 3) := dk_180 0 17 (dk_at dksX14_clause_2 4 rfl rfl)
theorem dX14_clause_51 : decode cX14_clause 51 = .ok (.aload_n 0, 1) := dk_42 (dk_at dksX14_clause_2 7 rfl rfl)
theorem dX14_clause_52 : decode cX14_clause 52 = .ok (.getfield 78, 3) := dk_180 0 78 (dk_at dksX14_clause_2 8 rfl rfl)
theorem dX14_clause_55 : decode cX14_clause 55 = .ok (.aaload, 1) := dk_50 (dk_at dksX14_clause_2 11 rfl rfl)
theorem dX14_clause_56 : decode cX14_clause 56 = .ok (.astore_n 2, 1) := dk_77 (dk_at dksX14_clause_2 12 rfl rfl)
theorem dX14_clause_57 : decode cX14_clause 57 = .ok (.aload_n 2, 1) := dk_44 (dk_at dksX14_clause_2 13 rfl rfl)
theorem dX14_clause_58 : decode cX14_clause 58 = .ok (.iload_n 1, 1) := dk_27 (dk_at dksX14_clause_2 14 rfl rfl)
theorem dX14_clause_59 : decode cX14_clause 59 = .ok (.invokestatic 79, 3) := dk_184 0 79 (dk_at dksX14_clause_2 15 rfl rfl)
theorem dX14_clause_62 : decode cX14_clause 62 = .ok (.invokevirtual 85, 3) := dk_182 0 85 (dk_at dksX14_clause_2 18 rfl rfl)
theorem dX14_clause_65 : decode cX14_clause 65 = .ok (.aload_n 0, 1) := dk_42 (dk_at dksX14_clause_2 21 rfl rfl)
theorem dX14_clause_66 : decode cX14_clause 66 = .ok (.aload_n 2, 1) := dk_44 (dk_at dksX14_clause_2 22 rfl rfl)
theorem dX14_clause_67 : decode cX14_clause 67 = .ok (.invokevirtual 89, 3) := dk_182 0 89 (dk_at dksX14_clause_3 0 rfl rfl)
theorem dX14_clause_70 : decode cX14_clause 70 = .ok (.aload_n 0, 1) := dk_42 (dk_at dksX14_clause_3 3 rfl rfl)
theorem dX14_clause_71 : decode cX14_clause 71 = .ok (.invokevirtual 33, 3) := dk_182 0 33 (dk_at dksX14_clause_3 4 rfl rfl)
theorem dX14_clause_74 : decode cX14_clause 74 = .ok (.i2l, 1) := dk_133 (dk_at dksX14_clause_3 7 rfl rfl)
theorem dX14_clause_75 : decode cX14_clause 75 = .ok (.ldc2_w 50, 3) := dk_20 0 50 (dk_at dksX14_clause_3 8 rfl rfl)
theorem dX14_clause_78 : decode cX14_clause 78 = .ok (.ldc2_w 52, 3) := dk_20 0 52 (dk_at dksX14_clause_3 11 rfl rfl)
theorem dX14_clause_81 : decode cX14_clause 81 = .ok (.invokestatic 41, 3) := dk_184 0 41 (dk_at dksX14_clause_3 14 rfl rfl)
theorem dX14_clause_84 : decode cX14_clause 84 = .ok (.ifCond .eq 11, 3) := dk_153 0 11 (dk_at dksX14_clause_3 17 rfl rfl)
theorem dX14_clause_87 : decode cX14_clause 87 = .ok (.aload_n 0, 1) := dk_42 (dk_at dksX14_clause_3 20 rfl rfl)
theorem dX14_clause_88 : decode cX14_clause 88 = .ok (.aload_n 2, 1) := dk_44 (dk_at dksX14_clause_3 21 rfl rfl)
theorem dX14_clause_89 : decode cX14_clause 89 = .ok (.invokevirtual 89, 3) := dk_182 0 89 (dk_at dksX14_clause_4 0 rfl rfl)
theorem dX14_clause_92 : decode cX14_clause 92 = .ok (.goto (-22), 3) := dk_167 255 234 (dk_at dksX14_clause_4 3 rfl rfl)
theorem dX14_clause_95 : decode cX14_clause 95 = .ok (.aload_n 0, 1) := dk_42 (dk_at dksX14_clause_4 6 rfl rfl)
theorem dX14_clause_96 : decode cX14_clause 96 = .ok (.bipush 42, 2) := dk_16 42 (dk_at dksX14_clause_4 7 rfl rfl)
theorem dX14_clause_98 : decode cX14_clause 98 = .ok (.invokevirtual 93, 3) := dk_182 0 93 (dk_at dksX14_clause_4 9 rfl rfl)
theorem dX14_clause_101 : decode cX14_clause 101 = .ok (.ifCond .eq 17, 3) := dk_153 0 17 (dk_at dksX14_clause_4 12 rfl rfl)
theorem dX14_clause_104 : decode cX14_clause 104 = .ok (.aload_n 2, 1) := dk_44 (dk_at dksX14_clause_4 15 rfl rfl)
theorem dX14_clause_105 : decode cX14_clause 105 = .ok (.getfield 96, 3) := dk_180 0 96 (dk_at dksX14_clause_4 16 rfl rfl)
theorem dX14_clause_108 : decode cX14_clause 108 = .ok (.iconst 0, 1) := dk_3 (dk_at dksX14_clause_4 19 rfl rfl)
theorem dX14_clause_109 : decode cX14_clause 109 = .ok (.aload_n 0, 1) := dk_42 (dk_at dksX14_clause_4 20 rfl rfl)
theorem dX14_clause_110 : decode cX14_clause 110 = .ok (.iconst 2, 1) := dk_5 (dk_at dksX14_clause_4 21 rfl rfl)
theorem dX14_clause_111 : decode cX14_clause 111 = .ok (.iconst 1, 1) := dk_4 (dk_at dksX14_clause_4 22 rfl rfl)
theorem dX14_clause_112 : decode cX14_clause 112 = .ok (.bipush 20, 2) := dk_16 20 (dk_at dksX14_clause_5 0 rfl rfl)
theorem dX14_clause_114 : decode cX14_clause 114 = .ok (.invokevirtual 99, 3) := dk_182 0 99 (dk_at dksX14_clause_5 2 rfl rfl)
theorem dX14_clause_117 : decode cX14_clause 117 = .ok (.iastore, 1) := dk_79 (dk_at dksX14_clause_5 5 rfl rfl)
theorem dX14_clause_118 : decode cX14_clause 118 = .ok (.aload_n 0, 1) := dk_42 (dk_at dksX14_clause_5 6 rfl rfl)
theorem dX14_clause_119 : decode cX14_clause 119 = .ok (.bipush 47, 2) := dk_16 47 (dk_at dksX14_clause_5 7 rfl rfl)
theorem dX14_clause_121 : decode cX14_clause 121 = .ok (.invokevirtual 93, 3) := dk_182 0 93 (dk_at dksX14_clause_5 9 rfl rfl)
theorem dX14_clause_124 : decode cX14_clause 124 = .ok (.ifCond .eq 20, 3) := dk_153 0 20 (dk_at dksX14_clause_5 12 rfl rfl)
theorem dX14_clause_127 : decode cX14_clause 127 = .ok (.aload_n 2, 1) := dk_44 (dk_at dksX14_clause_5 15 rfl rfl)
theorem dX14_clause_128 : decode cX14_clause 128 = .ok (.getfield 96, 3) := dk_180 0 96 (dk_at dksX14_clause_5 16 rfl rfl)
theorem dX14_clause_131 : decode cX14_clause 131 = .ok (.iconst 1, 1) := dk_4 (dk_at dksX14_clause_5 19 rfl rfl)
theorem dX14_clause_132 : decode cX14_clause 132 = .ok (.aload_n 0, 1) := dk_42 (dk_at dksX14_clause_5 20 rfl rfl)
theorem dX14_clause_133 : decode cX14_clause 133 = .ok (.iconst 2, 1) := dk_5 (dk_at dksX14_clause_5 21 rfl rfl)
theorem dX14_clause_134 : decode cX14_clause 134 = .ok (.aload_n 2, 1) := dk_44 (dk_at dksX14_clause_5 22 rfl rfl)
theorem dX14_clause_135 : decode cX14_clause 135 = .ok (.invokevirtual 103, 3) := dk_182 0 103 (dk_at dksX14_clause_6 0 rfl rfl)
theorem dX14_clause_138 : decode cX14_clause 138 = .ok (.bipush 99, 2) := dk_16 99 (dk_at dksX14_clause_6 3 rfl rfl)
theorem dX14_clause_140 : decode cX14_clause 140 = .ok (.invokevirtual 99, 3) := dk_182 0 99 (dk_at dksX14_clause_6 5 rfl rfl)
theorem dX14_clause_143 : decode cX14_clause 143 = .ok (.iastore, 1) := dk_79 (dk_at dksX14_clause_6 8 rfl rfl)
theorem dX14_clause_144 : decode cX14_clause 144 = .ok (.aload_n 0, 1) := dk_42 (dk_at dksX14_clause_6 9 rfl rfl)
theorem dX14_clause_145 : decode cX14_clause 145 = .ok (.bipush 126, 2) := dk_16 126 (dk_at dksX14_clause_6 10 rfl rfl)
theorem dX14_clause_147 : decode cX14_clause 147 = .ok (.invokevirtual 93, 3) := dk_182 0 93 (dk_at dksX14_clause_6 12 rfl rfl)
theorem dX14_clause_150 : decode cX14_clause 150 = .ok (.ifCond .eq 17, 3) := dk_153 0 17 (dk_at dksX14_clause_6 15 rfl rfl)
theorem dX14_clause_153 : decode cX14_clause 153 = .ok (.aload_n 2, 1) := dk_44 (dk_at dksX14_clause_6 18 rfl rfl)
theorem dX14_clause_154 : decode cX14_clause 154 = .ok (.getfield 96, 3) := dk_180 0 96 (dk_at dksX14_clause_6 19 rfl rfl)
theorem dX14_clause_157 : decode cX14_clause 157 = .ok (.iconst 2, 1) := dk_5 (dk_at dksX14_clause_6 22 rfl rfl)
theorem dX14_clause_158 : decode cX14_clause 158 = .ok (.aload_n 0, 1) := dk_42 (dk_at dksX14_clause_6 23 rfl rfl)
theorem dX14_clause_159 : decode cX14_clause 159 = .ok (.iconst 1, 1) := dk_4 (dk_at dksX14_clause_7 0 rfl rfl)
theorem dX14_clause_160 : decode cX14_clause 160 = .ok (.iconst 1, 1) := dk_4 (dk_at dksX14_clause_7 1 rfl rfl)
theorem dX14_clause_161 : decode cX14_clause 161 = .ok (.bipush 9, 2) := dk_16 9 (dk_at dksX14_clause_7 2 rfl rfl)
theorem dX14_clause_163 : decode cX14_clause 163 = .ok (.invokevirtual 99, 3) := dk_182 0 99 (dk_at dksX14_clause_7 4 rfl rfl)
theorem dX14_clause_166 : decode cX14_clause 166 = .ok (.iastore, 1) := dk_79 (dk_at dksX14_clause_7 7 rfl rfl)
theorem dX14_clause_167 : decode cX14_clause 167 = .ok (.aload_n 0, 1) := dk_42 (dk_at dksX14_clause_7 8 rfl rfl)
theorem dX14_clause_168 : decode cX14_clause 168 = .ok (.bipush 64, 2) := dk_16 64 (dk_at dksX14_clause_7 9 rfl rfl)
theorem dX14_clause_170 : decode cX14_clause 170 = .ok (.invokevirtual 93, 3) := dk_182 0 93 (dk_at dksX14_clause_7 11 rfl rfl)
theorem dX14_clause_173 : decode cX14_clause 173 = .ok (.ifCond .eq 17, 3) := dk_153 0 17 (dk_at dksX14_clause_7 14 rfl rfl)
theorem dX14_clause_176 : decode cX14_clause 176 = .ok (.aload_n 2, 1) := dk_44 (dk_at dksX14_clause_7 17 rfl rfl)
theorem dX14_clause_177 : decode cX14_clause 177 = .ok (.getfield 96, 3) := dk_180 0 96 (dk_at dksX14_clause_7 18 rfl rfl)
theorem dX14_clause_180 : decode cX14_clause 180 = .ok (.iconst 3, 1) := dk_6 (dk_at dksX14_clause_7 21 rfl rfl)
theorem dX14_clause_181 : decode cX14_clause 181 = .ok (.aload_n 0, 1) := dk_42 (dk_at dksX14_clause_7 22 rfl rfl)
theorem dX14_clause_182 : decode cX14_clause 182 = .ok (.iconst 2, 1) := dk_5 (dk_at dksX14_clause_7 23 rfl rfl)
theorem dX14_clause_183 : decode cX14_clause 183 = .ok (.iconst 0, 1) := dk_3 (dk_at dksX14_clause_8 0 rfl rfl)
theorem dX14_clause_184 : decode cX14_clause 184 = .ok (.bipush 60, 2) := dk_16 60 (dk_at dksX14_clause_8 1 rfl rfl)
theorem dX14_clause_186 : decode cX14_clause 186 = .ok (.invokevirtual 99, 3) := dk_182 0 99 (dk_at dksX14_clause_8 3 rfl rfl)
theorem dX14_clause_189 : decode cX14_clause 189 = .ok (.iastore, 1) := dk_79 (dk_at dksX14_clause_8 6 rfl rfl)
theorem dX14_clause_190 : decode cX14_clause 190 = .ok (.aload_n 0, 1) := dk_42 (dk_at dksX14_clause_8 7 rfl rfl)
theorem dX14_clause_191 : decode cX14_clause 191 = .ok (.dup, 1) := dk_89 (dk_at dksX14_clause_8 8 rfl rfl)
theorem dX14_clause_192 : decode cX14_clause 192 = .ok (.getfield 78, 3) := dk_180 0 78 (dk_at dksX14_clause_8 9 rfl rfl)
theorem dX14_clause_195 : decode cX14_clause 195 = .ok (.iconst 1, 1) := dk_4 (dk_at dksX14_clause_8 12 rfl rfl)
theorem dX14_clause_196 : decode cX14_clause 196 = .ok (.iadd, 1) := dk_96 (dk_at dksX14_clause_8 13 rfl rfl)
theorem dX14_clause_197 : decode cX14_clause 197 = .ok (.putfield 78, 3) := dk_181 0 78 (dk_at dksX14_clause_8 14 rfl rfl)
theorem dX14_clause_200 : decode cX14_clause 200 = .ok (.return_, 1) := dk_177 (dk_at dksX14_clause_8 17 rfl rfl)
abbrev cX14_here : ByteArray := prog_14_method_2_code
def yX14_here : MethodName := ⟨RX14, "here", "()I"⟩
def dkwX14_here_1 : List UInt8 := [180, 0, 22, 51, 167, 0, 4, 2, 172]
abbrev dktX14_here_1 : List UInt8 := dkwX14_here_1 ++ []
def dkwX14_here_0 : List UInt8 := [42, 180, 0, 22, 42, 180, 0, 3, 180, 0, 26, 162, 0, 18, 42, 180, 0, 3, 180, 0, 29, 42]
abbrev dktX14_here_0 : List UInt8 := dkwX14_here_0 ++ dktX14_here_1
theorem dksX14_here_0 : cX14_here.data.toList.drop 0 = dktX14_here_0 := by decide +kernel
theorem dksX14_here_1 : cX14_here.data.toList.drop 22 = dktX14_here_1 := dk_seg dksX14_here_0 22 rfl rfl
theorem dX14_here_0 : decode cX14_here 0 = .ok (.aload_n 0, 1) := dk_42 (dk_at dksX14_here_0 0 rfl rfl)
theorem dX14_here_1 : decode cX14_here 1 = .ok (.getfield 22, 3) := dk_180 0 22 (dk_at dksX14_here_0 1 rfl rfl)
theorem dX14_here_4 : decode cX14_here 4 = .ok (.aload_n 0, 1) := dk_42 (dk_at dksX14_here_0 4 rfl rfl)
theorem dX14_here_5 : decode cX14_here 5 = .ok (.getfield 3, 3) := dk_180 0 3 (dk_at dksX14_here_0 5 rfl rfl)
theorem dX14_here_8 : decode cX14_here 8 = .ok (.getfield 26, 3) := dk_180 0 26 (dk_at dksX14_here_0 8 rfl rfl)
theorem dX14_here_11 : decode cX14_here 11 = .ok (.if_icmp .ge 18, 3) := dk_162 0 18 (dk_at dksX14_here_0 11 rfl rfl)
theorem dX14_here_14 : decode cX14_here 14 = .ok (.aload_n 0, 1) := dk_42 (dk_at dksX14_here_0 14 rfl rfl)
theorem dX14_here_15 : decode cX14_here 15 = .ok (.getfield 3, 3) := dk_180 0 3 (dk_at dksX14_here_0 15 rfl rfl)
theorem dX14_here_18 : decode cX14_here 18 = .ok (.getfield 29, 3) := dk_180 0 29 (dk_at dksX14_here_0 18 rfl rfl)
theorem dX14_here_21 : decode cX14_here 21 = .ok (.aload_n 0, 1) := dk_42 (dk_at dksX14_here_0 21 rfl rfl)
theorem dX14_here_22 : decode cX14_here 22 = .ok (.getfield 22, 3) := dk_180 0 22 (dk_at dksX14_here_1 0 rfl rfl)
theorem dX14_here_25 : decode cX14_here 25 = .ok (.baload, 1) := dk_51 (dk_at dksX14_here_1 3 rfl rfl)
theorem dX14_here_26 : decode cX14_here 26 = .ok (.goto 4, 3) := dk_167 0 4 (dk_at dksX14_here_1 4 rfl rfl)
theorem dX14_here_29 : decode cX14_here 29 = .ok (.iconst (-1), 1) := dk_2 (dk_at dksX14_here_1 7 rfl rfl)
theorem dX14_here_30 : decode cX14_here 30 = .ok (.ireturn, 1) := dk_172 (dk_at dksX14_here_1 8 rfl rfl)
abbrev cX14_cell : ByteArray := prog_14_method_5_code
def yX14_cell : MethodName := ⟨RX14, "cell", "(LSafeClears$Signal;)V"⟩
def dkwX14_cell_5 : List UInt8 := [183, 0, 47, 191, 42, 89, 180, 0, 22, 4, 96, 181, 0, 22, 43, 29, 182, 0, 71, 177]
abbrev dktX14_cell_5 : List UInt8 := dkwX14_cell_5 ++ []
def dkwX14_cell_4 : List UInt8 := [100, 104, 96, 62, 43, 180, 0, 61, 29, 182, 0, 65, 153, 0, 15, 187, 0, 45, 89, 42, 180, 0, 22]
abbrev dktX14_cell_4 : List UInt8 := dkwX14_cell_4 ++ dktX14_cell_5
def dkwX14_cell_3 : List UInt8 := [154, 0, 15, 187, 0, 45, 89, 42, 180, 0, 22, 183, 0, 47, 191, 28, 16, 8, 42, 182, 0, 33, 16, 49]
abbrev dktX14_cell_3 : List UInt8 := dkwX14_cell_3 ++ dktX14_cell_4
def dkwX14_cell_2 : List UInt8 := [89, 180, 0, 22, 4, 96, 181, 0, 22, 42, 182, 0, 33, 133, 20, 0, 57, 20, 0, 59, 184, 0, 41]
abbrev dktX14_cell_2 : List UInt8 := dkwX14_cell_2 ++ dktX14_cell_3
def dkwX14_cell_1 : List UInt8 := [160, 0, 15, 187, 0, 45, 89, 42, 180, 0, 22, 183, 0, 47, 191, 42, 182, 0, 33, 16, 97, 100, 61, 42]
abbrev dktX14_cell_1 : List UInt8 := dkwX14_cell_1 ++ dktX14_cell_2
def dkwX14_cell_0 : List UInt8 := [42, 182, 0, 33, 133, 20, 0, 50, 20, 0, 52, 184, 0, 41, 153, 0, 12, 43, 180, 0, 54, 16, 8]
abbrev dktX14_cell_0 : List UInt8 := dkwX14_cell_0 ++ dktX14_cell_1
theorem dksX14_cell_0 : cX14_cell.data.toList.drop 0 = dktX14_cell_0 := by decide +kernel
theorem dksX14_cell_1 : cX14_cell.data.toList.drop 23 = dktX14_cell_1 := dk_seg dksX14_cell_0 23 rfl rfl
theorem dksX14_cell_2 : cX14_cell.data.toList.drop 47 = dktX14_cell_2 := dk_seg dksX14_cell_1 24 rfl rfl
theorem dksX14_cell_3 : cX14_cell.data.toList.drop 70 = dktX14_cell_3 := dk_seg dksX14_cell_2 23 rfl rfl
theorem dksX14_cell_4 : cX14_cell.data.toList.drop 94 = dktX14_cell_4 := dk_seg dksX14_cell_3 24 rfl rfl
theorem dksX14_cell_5 : cX14_cell.data.toList.drop 117 = dktX14_cell_5 := dk_seg dksX14_cell_4 23 rfl rfl
theorem dX14_cell_0 : decode cX14_cell 0 = .ok (.aload_n 0, 1) := dk_42 (dk_at dksX14_cell_0 0 rfl rfl)
theorem dX14_cell_1 : decode cX14_cell 1 = .ok (.invokevirtual 33, 3) := dk_182 0 33 (dk_at dksX14_cell_0 1 rfl rfl)
theorem dX14_cell_4 : decode cX14_cell 4 = .ok (.i2l, 1) := dk_133 (dk_at dksX14_cell_0 4 rfl rfl)
theorem dX14_cell_5 : decode cX14_cell 5 = .ok (.ldc2_w 50, 3) := dk_20 0 50 (dk_at dksX14_cell_0 5 rfl rfl)
theorem dX14_cell_8 : decode cX14_cell 8 = .ok (.ldc2_w 52, 3) := dk_20 0 52 (dk_at dksX14_cell_0 8 rfl rfl)
theorem dX14_cell_11 : decode cX14_cell 11 = .ok (.invokestatic 41, 3) := dk_184 0 41 (dk_at dksX14_cell_0 11 rfl rfl)
theorem dX14_cell_14 : decode cX14_cell 14 = .ok (.ifCond .eq 12, 3) := dk_153 0 12 (dk_at dksX14_cell_0 14 rfl rfl)
theorem dX14_cell_17 : decode cX14_cell 17 = .ok (.aload_n 1, 1) := dk_43 (dk_at dksX14_cell_0 17 rfl rfl)
theorem dX14_cell_18 : decode cX14_cell 18 = .ok (.getfield 54, 3) := dk_180 0 54 (dk_at dksX14_cell_0 18 rfl rfl)
theorem dX14_cell_21 : decode cX14_cell 21 = .ok (.bipush 8, 2) := dk_16 8 (dk_at dksX14_cell_0 21 rfl rfl)
theorem dX14_cell_23 : decode cX14_cell 23 = .ok (.if_icmp .ne 15, 3) := dk_160 0 15 (dk_at dksX14_cell_1 0 rfl rfl)
theorem dX14_cell_26 : decode cX14_cell 26 = .ok (.new 45, 3) := dk_187 0 45 (dk_at dksX14_cell_1 3 rfl rfl)
theorem dX14_cell_29 : decode cX14_cell 29 = .ok (.dup, 1) := dk_89 (dk_at dksX14_cell_1 6 rfl rfl)
theorem dX14_cell_30 : decode cX14_cell 30 = .ok (.aload_n 0, 1) := dk_42 (dk_at dksX14_cell_1 7 rfl rfl)
theorem dX14_cell_31 : decode cX14_cell 31 = .ok (.getfield 22, 3) := dk_180 0 22 (dk_at dksX14_cell_1 8 rfl rfl)
theorem dX14_cell_34 : decode cX14_cell 34 = .ok (.invokespecial 47, 3) := dk_183 0 47 (dk_at dksX14_cell_1 11 rfl rfl)
theorem dX14_cell_37 : decode cX14_cell 37 = .ok (.athrow, 1) := dk_191 (dk_at dksX14_cell_1 14 rfl rfl)
theorem dX14_cell_38 : decode cX14_cell 38 = .ok (.aload_n 0, 1) := dk_42 (dk_at dksX14_cell_1 15 rfl rfl)
theorem dX14_cell_39 : decode cX14_cell 39 = .ok (.invokevirtual 33, 3) := dk_182 0 33 (dk_at dksX14_cell_1 16 rfl rfl)
theorem dX14_cell_42 : decode cX14_cell 42 = .ok (.bipush 97, 2) := dk_16 97 (dk_at dksX14_cell_1 19 rfl rfl)
theorem dX14_cell_44 : decode cX14_cell 44 = .ok (.isub, 1) := dk_100 (dk_at dksX14_cell_1 21 rfl rfl)
theorem dX14_cell_45 : decode cX14_cell 45 = .ok (.istore_n 2, 1) := dk_61 (dk_at dksX14_cell_1 22 rfl rfl)
theorem dX14_cell_46 : decode cX14_cell 46 = .ok (.aload_n 0, 1) := dk_42 (dk_at dksX14_cell_1 23 rfl rfl)
theorem dX14_cell_47 : decode cX14_cell 47 = .ok (.dup, 1) := dk_89 (dk_at dksX14_cell_2 0 rfl rfl)
theorem dX14_cell_48 : decode cX14_cell 48 = .ok (.getfield 22, 3) := dk_180 0 22 (dk_at dksX14_cell_2 1 rfl rfl)
theorem dX14_cell_51 : decode cX14_cell 51 = .ok (.iconst 1, 1) := dk_4 (dk_at dksX14_cell_2 4 rfl rfl)
theorem dX14_cell_52 : decode cX14_cell 52 = .ok (.iadd, 1) := dk_96 (dk_at dksX14_cell_2 5 rfl rfl)
theorem dX14_cell_53 : decode cX14_cell 53 = .ok (.putfield 22, 3) := dk_181 0 22 (dk_at dksX14_cell_2 6 rfl rfl)
theorem dX14_cell_56 : decode cX14_cell 56 = .ok (.aload_n 0, 1) := dk_42 (dk_at dksX14_cell_2 9 rfl rfl)
theorem dX14_cell_57 : decode cX14_cell 57 = .ok (.invokevirtual 33, 3) := dk_182 0 33 (dk_at dksX14_cell_2 10 rfl rfl)
theorem dX14_cell_60 : decode cX14_cell 60 = .ok (.i2l, 1) := dk_133 (dk_at dksX14_cell_2 13 rfl rfl)
theorem dX14_cell_61 : decode cX14_cell 61 = .ok (.ldc2_w 57, 3) := dk_20 0 57 (dk_at dksX14_cell_2 14 rfl rfl)
theorem dX14_cell_64 : decode cX14_cell 64 = .ok (.ldc2_w 59, 3) := dk_20 0 59 (dk_at dksX14_cell_2 17 rfl rfl)
theorem dX14_cell_67 : decode cX14_cell 67 = .ok (.invokestatic 41, 3) := dk_184 0 41 (dk_at dksX14_cell_2 20 rfl rfl)
theorem dX14_cell_70 : decode cX14_cell 70 = .ok (.ifCond .ne 15, 3) := dk_154 0 15 (dk_at dksX14_cell_3 0 rfl rfl)
theorem dX14_cell_73 : decode cX14_cell 73 = .ok (.new 45, 3) := dk_187 0 45 (dk_at dksX14_cell_3 3 rfl rfl)
theorem dX14_cell_76 : decode cX14_cell 76 = .ok (.dup, 1) := dk_89 (dk_at dksX14_cell_3 6 rfl rfl)
theorem dX14_cell_77 : decode cX14_cell 77 = .ok (.aload_n 0, 1) := dk_42 (dk_at dksX14_cell_3 7 rfl rfl)
theorem dX14_cell_78 : decode cX14_cell 78 = .ok (.getfield 22, 3) := dk_180 0 22 (dk_at dksX14_cell_3 8 rfl rfl)
theorem dX14_cell_81 : decode cX14_cell 81 = .ok (.invokespecial 47, 3) := dk_183 0 47 (dk_at dksX14_cell_3 11 rfl rfl)
theorem dX14_cell_84 : decode cX14_cell 84 = .ok (.athrow, 1) := dk_191 (dk_at dksX14_cell_3 14 rfl rfl)
theorem dX14_cell_85 : decode cX14_cell 85 = .ok (.iload_n 2, 1) := dk_28 (dk_at dksX14_cell_3 15 rfl rfl)
theorem dX14_cell_86 : decode cX14_cell 86 = .ok (.bipush 8, 2) := dk_16 8 (dk_at dksX14_cell_3 16 rfl rfl)
theorem dX14_cell_88 : decode cX14_cell 88 = .ok (.aload_n 0, 1) := dk_42 (dk_at dksX14_cell_3 18 rfl rfl)
theorem dX14_cell_89 : decode cX14_cell 89 = .ok (.invokevirtual 33, 3) := dk_182 0 33 (dk_at dksX14_cell_3 19 rfl rfl)
theorem dX14_cell_92 : decode cX14_cell 92 = .ok (.bipush 49, 2) := dk_16 49 (dk_at dksX14_cell_3 22 rfl rfl)
theorem dX14_cell_94 : decode cX14_cell 94 = .ok (.isub, 1) := dk_100 (dk_at dksX14_cell_4 0 rfl rfl)
theorem dX14_cell_95 : decode cX14_cell 95 = .ok (.imul, 1) := dk_104 (dk_at dksX14_cell_4 1 rfl rfl)
theorem dX14_cell_96 : decode cX14_cell 96 = .ok (.iadd, 1) := dk_96 (dk_at dksX14_cell_4 2 rfl rfl)
theorem dX14_cell_97 : decode cX14_cell 97 = .ok (.istore_n 3, 1) := dk_62 (dk_at dksX14_cell_4 3 rfl rfl)
theorem dX14_cell_98 : decode cX14_cell 98 = .ok (.aload_n 1, 1) := dk_43 (dk_at dksX14_cell_4 4 rfl rfl)
theorem dX14_cell_99 : decode cX14_cell 99 = .ok (.getfield 61, 3) := dk_180 0 61 (dk_at dksX14_cell_4 5 rfl rfl)
theorem dX14_cell_102 : decode cX14_cell 102 = .ok (.iload_n 3, 1) := dk_29 (dk_at dksX14_cell_4 8 rfl rfl)
theorem dX14_cell_103 : decode cX14_cell 103 = .ok (.invokevirtual 65, 3) := dk_182 0 65 (dk_at dksX14_cell_4 9 rfl rfl)
theorem dX14_cell_106 : decode cX14_cell 106 = .ok (.ifCond .eq 15, 3) := dk_153 0 15 (dk_at dksX14_cell_4 12 rfl rfl)
theorem dX14_cell_109 : decode cX14_cell 109 = .ok (.new 45, 3) := dk_187 0 45 (dk_at dksX14_cell_4 15 rfl rfl)
theorem dX14_cell_112 : decode cX14_cell 112 = .ok (.dup, 1) := dk_89 (dk_at dksX14_cell_4 18 rfl rfl)
theorem dX14_cell_113 : decode cX14_cell 113 = .ok (.aload_n 0, 1) := dk_42 (dk_at dksX14_cell_4 19 rfl rfl)
theorem dX14_cell_114 : decode cX14_cell 114 = .ok (.getfield 22, 3) := dk_180 0 22 (dk_at dksX14_cell_4 20 rfl rfl)
theorem dX14_cell_117 : decode cX14_cell 117 = .ok (.invokespecial 47, 3) := dk_183 0 47 (dk_at dksX14_cell_5 0 rfl rfl)
theorem dX14_cell_120 : decode cX14_cell 120 = .ok (.athrow, 1) := dk_191 (dk_at dksX14_cell_5 3 rfl rfl)
theorem dX14_cell_121 : decode cX14_cell 121 = .ok (.aload_n 0, 1) := dk_42 (dk_at dksX14_cell_5 4 rfl rfl)
theorem dX14_cell_122 : decode cX14_cell 122 = .ok (.dup, 1) := dk_89 (dk_at dksX14_cell_5 5 rfl rfl)
theorem dX14_cell_123 : decode cX14_cell 123 = .ok (.getfield 22, 3) := dk_180 0 22 (dk_at dksX14_cell_5 6 rfl rfl)
theorem dX14_cell_126 : decode cX14_cell 126 = .ok (.iconst 1, 1) := dk_4 (dk_at dksX14_cell_5 9 rfl rfl)
theorem dX14_cell_127 : decode cX14_cell 127 = .ok (.iadd, 1) := dk_96 (dk_at dksX14_cell_5 10 rfl rfl)
theorem dX14_cell_128 : decode cX14_cell 128 = .ok (.putfield 22, 3) := dk_181 0 22 (dk_at dksX14_cell_5 11 rfl rfl)
theorem dX14_cell_131 : decode cX14_cell 131 = .ok (.aload_n 1, 1) := dk_43 (dk_at dksX14_cell_5 14 rfl rfl)
theorem dX14_cell_132 : decode cX14_cell 132 = .ok (.iload_n 3, 1) := dk_29 (dk_at dksX14_cell_5 15 rfl rfl)
theorem dX14_cell_133 : decode cX14_cell 133 = .ok (.invokevirtual 71, 3) := dk_182 0 71 (dk_at dksX14_cell_5 16 rfl rfl)
theorem dX14_cell_136 : decode cX14_cell 136 = .ok (.return_, 1) := dk_177 (dk_at dksX14_cell_5 19 rfl rfl)
abbrev cX14_is : ByteArray := prog_14_method_3_code
def yX14_is : MethodName := ⟨RX14, "is", "(I)Z"⟩
def dkwX14_is_0 : List UInt8 := [42, 182, 0, 33, 27, 159, 0, 5, 3, 172, 42, 89, 180, 0, 22, 4, 96, 181, 0, 22, 4, 172]
abbrev dktX14_is_0 : List UInt8 := dkwX14_is_0 ++ []
theorem dksX14_is_0 : cX14_is.data.toList.drop 0 = dktX14_is_0 := by decide +kernel
theorem dX14_is_0 : decode cX14_is 0 = .ok (.aload_n 0, 1) := dk_42 (dk_at dksX14_is_0 0 rfl rfl)
theorem dX14_is_1 : decode cX14_is 1 = .ok (.invokevirtual 33, 3) := dk_182 0 33 (dk_at dksX14_is_0 1 rfl rfl)
theorem dX14_is_4 : decode cX14_is 4 = .ok (.iload_n 1, 1) := dk_27 (dk_at dksX14_is_0 4 rfl rfl)
theorem dX14_is_5 : decode cX14_is 5 = .ok (.if_icmp .eq 5, 3) := dk_159 0 5 (dk_at dksX14_is_0 5 rfl rfl)
theorem dX14_is_8 : decode cX14_is 8 = .ok (.iconst 0, 1) := dk_3 (dk_at dksX14_is_0 8 rfl rfl)
theorem dX14_is_9 : decode cX14_is 9 = .ok (.ireturn, 1) := dk_172 (dk_at dksX14_is_0 9 rfl rfl)
theorem dX14_is_10 : decode cX14_is 10 = .ok (.aload_n 0, 1) := dk_42 (dk_at dksX14_is_0 10 rfl rfl)
theorem dX14_is_11 : decode cX14_is 11 = .ok (.dup, 1) := dk_89 (dk_at dksX14_is_0 11 rfl rfl)
theorem dX14_is_12 : decode cX14_is 12 = .ok (.getfield 22, 3) := dk_180 0 22 (dk_at dksX14_is_0 12 rfl rfl)
theorem dX14_is_15 : decode cX14_is 15 = .ok (.iconst 1, 1) := dk_4 (dk_at dksX14_is_0 15 rfl rfl)
theorem dX14_is_16 : decode cX14_is 16 = .ok (.iadd, 1) := dk_96 (dk_at dksX14_is_0 16 rfl rfl)
theorem dX14_is_17 : decode cX14_is 17 = .ok (.putfield 22, 3) := dk_181 0 22 (dk_at dksX14_is_0 17 rfl rfl)
theorem dX14_is_20 : decode cX14_is 20 = .ok (.iconst 1, 1) := dk_4 (dk_at dksX14_is_0 20 rfl rfl)
theorem dX14_is_21 : decode cX14_is 21 = .ok (.ireturn, 1) := dk_172 (dk_at dksX14_is_0 21 rfl rfl)
abbrev cX14_number : ByteArray := prog_14_method_4_code
def yX14_number : MethodName := ⟨RX14, "number", "(III)I"⟩
def dkwX14_number_4 : List UInt8 := [184, 0, 41, 154, 0, 17, 187, 0, 45, 89, 42, 180, 0, 22, 4, 100, 183, 0, 47, 191, 21, 5, 172]
abbrev dktX14_number_4 : List UInt8 := dkwX14_number_4 ++ []
def dkwX14_number_3 : List UInt8 := [160, 0, 15, 187, 0, 45, 89, 42, 180, 0, 22, 183, 0, 47, 191, 21, 5, 133, 28, 133, 29, 133]
abbrev dktX14_number_3 : List UInt8 := dkwX14_number_3 ++ dktX14_number_4
def dkwX14_number_2 : List UInt8 := [16, 48, 100, 54, 5, 42, 89, 180, 0, 22, 4, 96, 181, 0, 22, 167, 255, 203, 42, 180, 0, 22, 21, 4]
abbrev dktX14_number_2 : List UInt8 := dkwX14_number_2 ++ dktX14_number_3
def dkwX14_number_1 : List UInt8 := [133, 20, 0, 37, 20, 0, 39, 184, 0, 41, 153, 0, 31, 16, 10, 21, 5, 104, 42, 182, 0, 33, 96]
abbrev dktX14_number_1 : List UInt8 := dkwX14_number_1 ++ dktX14_number_2
def dkwX14_number_0 : List UInt8 := [42, 180, 0, 22, 54, 4, 3, 54, 5, 42, 180, 0, 22, 21, 4, 100, 27, 162, 0, 48, 42, 182, 0, 33]
abbrev dktX14_number_0 : List UInt8 := dkwX14_number_0 ++ dktX14_number_1
theorem dksX14_number_0 : cX14_number.data.toList.drop 0 = dktX14_number_0 := by decide +kernel
theorem dksX14_number_1 : cX14_number.data.toList.drop 24 = dktX14_number_1 := dk_seg dksX14_number_0 24 rfl rfl
theorem dksX14_number_2 : cX14_number.data.toList.drop 47 = dktX14_number_2 := dk_seg dksX14_number_1 23 rfl rfl
theorem dksX14_number_3 : cX14_number.data.toList.drop 71 = dktX14_number_3 := dk_seg dksX14_number_2 24 rfl rfl
theorem dksX14_number_4 : cX14_number.data.toList.drop 93 = dktX14_number_4 := dk_seg dksX14_number_3 22 rfl rfl
theorem dX14_number_0 : decode cX14_number 0 = .ok (.aload_n 0, 1) := dk_42 (dk_at dksX14_number_0 0 rfl rfl)
theorem dX14_number_1 : decode cX14_number 1 = .ok (.getfield 22, 3) := dk_180 0 22 (dk_at dksX14_number_0 1 rfl rfl)
theorem dX14_number_4 : decode cX14_number 4 = .ok (.istore 4, 2) := dk_54 4 (dk_at dksX14_number_0 4 rfl rfl)
theorem dX14_number_6 : decode cX14_number 6 = .ok (.iconst 0, 1) := dk_3 (dk_at dksX14_number_0 6 rfl rfl)
theorem dX14_number_7 : decode cX14_number 7 = .ok (.istore 5, 2) := dk_54 5 (dk_at dksX14_number_0 7 rfl rfl)
theorem dX14_number_9 : decode cX14_number 9 = .ok (.aload_n 0, 1) := dk_42 (dk_at dksX14_number_0 9 rfl rfl)
theorem dX14_number_10 : decode cX14_number 10 = .ok (.getfield 22, 3) := dk_180 0 22 (dk_at dksX14_number_0 10 rfl rfl)
theorem dX14_number_13 : decode cX14_number 13 = .ok (.iload 4, 2) := dk_21 4 (dk_at dksX14_number_0 13 rfl rfl)
theorem dX14_number_15 : decode cX14_number 15 = .ok (.isub, 1) := dk_100 (dk_at dksX14_number_0 15 rfl rfl)
theorem dX14_number_16 : decode cX14_number 16 = .ok (.iload_n 1, 1) := dk_27 (dk_at dksX14_number_0 16 rfl rfl)
theorem dX14_number_17 : decode cX14_number 17 = .ok (.if_icmp .ge 48, 3) := dk_162 0 48 (dk_at dksX14_number_0 17 rfl rfl)
theorem dX14_number_20 : decode cX14_number 20 = .ok (.aload_n 0, 1) := dk_42 (dk_at dksX14_number_0 20 rfl rfl)
theorem dX14_number_21 : decode cX14_number 21 = .ok (.invokevirtual 33, 3) := dk_182 0 33 (dk_at dksX14_number_0 21 rfl rfl)
theorem dX14_number_24 : decode cX14_number 24 = .ok (.i2l, 1) := dk_133 (dk_at dksX14_number_1 0 rfl rfl)
theorem dX14_number_25 : decode cX14_number 25 = .ok (.ldc2_w 37, 3) := dk_20 0 37 (dk_at dksX14_number_1 1 rfl rfl)
theorem dX14_number_28 : decode cX14_number 28 = .ok (.ldc2_w 39, 3) := dk_20 0 39 (dk_at dksX14_number_1 4 rfl rfl)
theorem dX14_number_31 : decode cX14_number 31 = .ok (.invokestatic 41, 3) := dk_184 0 41 (dk_at dksX14_number_1 7 rfl rfl)
theorem dX14_number_34 : decode cX14_number 34 = .ok (.ifCond .eq 31, 3) := dk_153 0 31 (dk_at dksX14_number_1 10 rfl rfl)
theorem dX14_number_37 : decode cX14_number 37 = .ok (.bipush 10, 2) := dk_16 10 (dk_at dksX14_number_1 13 rfl rfl)
theorem dX14_number_39 : decode cX14_number 39 = .ok (.iload 5, 2) := dk_21 5 (dk_at dksX14_number_1 15 rfl rfl)
theorem dX14_number_41 : decode cX14_number 41 = .ok (.imul, 1) := dk_104 (dk_at dksX14_number_1 17 rfl rfl)
theorem dX14_number_42 : decode cX14_number 42 = .ok (.aload_n 0, 1) := dk_42 (dk_at dksX14_number_1 18 rfl rfl)
theorem dX14_number_43 : decode cX14_number 43 = .ok (.invokevirtual 33, 3) := dk_182 0 33 (dk_at dksX14_number_1 19 rfl rfl)
theorem dX14_number_46 : decode cX14_number 46 = .ok (.iadd, 1) := dk_96 (dk_at dksX14_number_1 22 rfl rfl)
theorem dX14_number_47 : decode cX14_number 47 = .ok (.bipush 48, 2) := dk_16 48 (dk_at dksX14_number_2 0 rfl rfl)
theorem dX14_number_49 : decode cX14_number 49 = .ok (.isub, 1) := dk_100 (dk_at dksX14_number_2 2 rfl rfl)
theorem dX14_number_50 : decode cX14_number 50 = .ok (.istore 5, 2) := dk_54 5 (dk_at dksX14_number_2 3 rfl rfl)
theorem dX14_number_52 : decode cX14_number 52 = .ok (.aload_n 0, 1) := dk_42 (dk_at dksX14_number_2 5 rfl rfl)
theorem dX14_number_53 : decode cX14_number 53 = .ok (.dup, 1) := dk_89 (dk_at dksX14_number_2 6 rfl rfl)
theorem dX14_number_54 : decode cX14_number 54 = .ok (.getfield 22, 3) := dk_180 0 22 (dk_at dksX14_number_2 7 rfl rfl)
theorem dX14_number_57 : decode cX14_number 57 = .ok (.iconst 1, 1) := dk_4 (dk_at dksX14_number_2 10 rfl rfl)
theorem dX14_number_58 : decode cX14_number 58 = .ok (.iadd, 1) := dk_96 (dk_at dksX14_number_2 11 rfl rfl)
theorem dX14_number_59 : decode cX14_number 59 = .ok (.putfield 22, 3) := dk_181 0 22 (dk_at dksX14_number_2 12 rfl rfl)
theorem dX14_number_62 : decode cX14_number 62 = .ok (.goto (-53), 3) := dk_167 255 203 (dk_at dksX14_number_2 15 rfl rfl)
theorem dX14_number_65 : decode cX14_number 65 = .ok (.aload_n 0, 1) := dk_42 (dk_at dksX14_number_2 18 rfl rfl)
theorem dX14_number_66 : decode cX14_number 66 = .ok (.getfield 22, 3) := dk_180 0 22 (dk_at dksX14_number_2 19 rfl rfl)
theorem dX14_number_69 : decode cX14_number 69 = .ok (.iload 4, 2) := dk_21 4 (dk_at dksX14_number_2 22 rfl rfl)
theorem dX14_number_71 : decode cX14_number 71 = .ok (.if_icmp .ne 15, 3) := dk_160 0 15 (dk_at dksX14_number_3 0 rfl rfl)
theorem dX14_number_74 : decode cX14_number 74 = .ok (.new 45, 3) := dk_187 0 45 (dk_at dksX14_number_3 3 rfl rfl)
theorem dX14_number_77 : decode cX14_number 77 = .ok (.dup, 1) := dk_89 (dk_at dksX14_number_3 6 rfl rfl)
theorem dX14_number_78 : decode cX14_number 78 = .ok (.aload_n 0, 1) := dk_42 (dk_at dksX14_number_3 7 rfl rfl)
theorem dX14_number_79 : decode cX14_number 79 = .ok (.getfield 22, 3) := dk_180 0 22 (dk_at dksX14_number_3 8 rfl rfl)
theorem dX14_number_82 : decode cX14_number 82 = .ok (.invokespecial 47, 3) := dk_183 0 47 (dk_at dksX14_number_3 11 rfl rfl)
theorem dX14_number_85 : decode cX14_number 85 = .ok (.athrow, 1) := dk_191 (dk_at dksX14_number_3 14 rfl rfl)
theorem dX14_number_86 : decode cX14_number 86 = .ok (.iload 5, 2) := dk_21 5 (dk_at dksX14_number_3 15 rfl rfl)
theorem dX14_number_88 : decode cX14_number 88 = .ok (.i2l, 1) := dk_133 (dk_at dksX14_number_3 17 rfl rfl)
theorem dX14_number_89 : decode cX14_number 89 = .ok (.iload_n 2, 1) := dk_28 (dk_at dksX14_number_3 18 rfl rfl)
theorem dX14_number_90 : decode cX14_number 90 = .ok (.i2l, 1) := dk_133 (dk_at dksX14_number_3 19 rfl rfl)
theorem dX14_number_91 : decode cX14_number 91 = .ok (.iload_n 3, 1) := dk_29 (dk_at dksX14_number_3 20 rfl rfl)
theorem dX14_number_92 : decode cX14_number 92 = .ok (.i2l, 1) := dk_133 (dk_at dksX14_number_3 21 rfl rfl)
theorem dX14_number_93 : decode cX14_number 93 = .ok (.invokestatic 41, 3) := dk_184 0 41 (dk_at dksX14_number_4 0 rfl rfl)
theorem dX14_number_96 : decode cX14_number 96 = .ok (.ifCond .ne 17, 3) := dk_154 0 17 (dk_at dksX14_number_4 3 rfl rfl)
theorem dX14_number_99 : decode cX14_number 99 = .ok (.new 45, 3) := dk_187 0 45 (dk_at dksX14_number_4 6 rfl rfl)
theorem dX14_number_102 : decode cX14_number 102 = .ok (.dup, 1) := dk_89 (dk_at dksX14_number_4 9 rfl rfl)
theorem dX14_number_103 : decode cX14_number 103 = .ok (.aload_n 0, 1) := dk_42 (dk_at dksX14_number_4 10 rfl rfl)
theorem dX14_number_104 : decode cX14_number 104 = .ok (.getfield 22, 3) := dk_180 0 22 (dk_at dksX14_number_4 11 rfl rfl)
theorem dX14_number_107 : decode cX14_number 107 = .ok (.iconst 1, 1) := dk_4 (dk_at dksX14_number_4 14 rfl rfl)
theorem dX14_number_108 : decode cX14_number 108 = .ok (.isub, 1) := dk_100 (dk_at dksX14_number_4 15 rfl rfl)
theorem dX14_number_109 : decode cX14_number 109 = .ok (.invokespecial 47, 3) := dk_183 0 47 (dk_at dksX14_number_4 16 rfl rfl)
theorem dX14_number_112 : decode cX14_number 112 = .ok (.athrow, 1) := dk_191 (dk_at dksX14_number_4 19 rfl rfl)
theorem dX14_number_113 : decode cX14_number 113 = .ok (.iload 5, 2) := dk_21 5 (dk_at dksX14_number_4 20 rfl rfl)
theorem dX14_number_115 : decode cX14_number 115 = .ok (.ireturn, 1) := dk_172 (dk_at dksX14_number_4 22 rfl rfl)
theorem q125 : (Jvm.Cond.initialized "SafeClears$Reader") ∈ lw_all := lw_g (lw_at lw_m1 34 rfl) rfl
theorem q516 : (Jvm.Cond.fieldLinkNest "SafeClears$Reader" (61 : Nat) "SafeClears$Signal" "way" "Ljava/util/BitSet;" "SafeClears") ∈ lw_tbl := lw_at lw_m2 185 rfl
theorem q519 : (Jvm.Cond.fieldLinkNest "SafeClears$Reader" (96 : Nat) "SafeClears$Signal" "times" "[I" "SafeClears") ∈ lw_tbl := lw_at lw_m2 188 rfl
theorem q524 : (Jvm.Cond.fieldLinkNest "SafeClears$Reader" (54 : Nat) "SafeClears$Signal" "many" "I" "SafeClears") ∈ lw_tbl := lw_at lw_m2 193 rfl
theorem q796 : (Jvm.Cond.fieldLinkNest "SafeClears$Reader" (29 : Nat) "SafeClears" "text" "[B" "SafeClears") ∈ lw_tbl := lw_at lw_m3 225 rfl
theorem q798 : (Jvm.Cond.fieldLinkNest "SafeClears$Reader" (26 : Nat) "SafeClears" "texted" "I" "SafeClears") ∈ lw_tbl := lw_at lw_m3 227 rfl
theorem q963 : (Jvm.Cond.instantiable "SafeClears$Reader" (4 : Nat)) ∈ lw_all := lw_g (lw_at lw_m4 152 rfl) rfl
theorem q965 : (Jvm.Cond.instanceMethod ({ cls := "SafeClears$Reader", name := "<init>", desc := "(LSafeClears;)V" } : Jvm.MethodName)) ∈ lw_all := lw_g (lw_at lw_m4 154 rfl) rfl
theorem q966 : (Jvm.Cond.code ({ cls := "SafeClears$Reader", name := "<init>", desc := "(LSafeClears;)V" } : Jvm.MethodName) prog_14_method_1_code (3 : Nat) (Option.none : Option Jvm.ClassFile.FieldType)) ∈ lw_all := lw_g (lw_at lw_m4 155 rfl) rfl
theorem q967 : (Jvm.Cond.methodLink "SafeClears$Reader" (9 : Nat) ({ cls := "java/lang/Object", name := "<init>", desc := "()V" } : Jvm.MethodName)) ∈ lw_all := lw_g (lw_at lw_m4 156 rfl) rfl
theorem q968 : (Jvm.Cond.classLink "SafeClears$Reader" (15 : Nat) "SafeClears$Signal") ∈ lw_all := lw_g (lw_at lw_m4 157 rfl) rfl
theorem q969 : (Jvm.Cond.methodLink "SafeClears$Reader" (21 : Nat) ({ cls := "SafeClears$Signal", name := "<init>", desc := "()V" } : Jvm.MethodName)) ∈ lw_all := lw_g (lw_at lw_m4 158 rfl) rfl
theorem q970 : (Jvm.Cond.fieldLink "SafeClears$Reader" (17 : Nat) "SafeClears$Reader" "read" "[LSafeClears$Signal;") ∈ lw_all := lw_g (lw_at lw_m4 159 rfl) rfl
theorem q972 : (Jvm.Cond.fieldLink "SafeClears$Reader" (78 : Nat) "SafeClears$Reader" "many" "I") ∈ lw_all := lw_g (lw_at lw_m4 161 rfl) rfl
theorem q974 : (Jvm.Cond.fieldLink "SafeClears$Reader" (22 : Nat) "SafeClears$Reader" "at" "I") ∈ lw_all := lw_g (lw_at lw_m4 163 rfl) rfl
theorem q975 : (Jvm.Cond.fieldLink "SafeClears$Reader" (3 : Nat) "SafeClears$Reader" "this$0" "LSafeClears;") ∈ lw_all := lw_g (lw_at lw_m4 164 rfl) rfl
theorem q976 : (Jvm.Cond.laysFinal "SafeClears$Reader" "SafeClears$Reader" "read" "[LSafeClears$Signal;") ∈ lw_all := lw_g (lw_at lw_m4 165 rfl) rfl
theorem q977 : (Jvm.Cond.soleField "SafeClears$Reader" "read") ∈ lw_all := lw_g (lw_at lw_m4 166 rfl) rfl
theorem q978 : (Jvm.Cond.lays "SafeClears$Reader" "SafeClears$Reader" "many" "I") ∈ lw_all := lw_g (lw_at lw_m4 167 rfl) rfl
theorem q979 : (Jvm.Cond.soleField "SafeClears$Reader" "many") ∈ lw_all := lw_g (lw_at lw_m4 168 rfl) rfl
theorem q980 : (Jvm.Cond.lays "SafeClears$Reader" "SafeClears$Reader" "at" "I") ∈ lw_all := lw_g (lw_at lw_m4 169 rfl) rfl
theorem q981 : (Jvm.Cond.soleField "SafeClears$Reader" "at") ∈ lw_all := lw_g (lw_at lw_m4 170 rfl) rfl
theorem q982 : (Jvm.Cond.laysFinal "SafeClears$Reader" "SafeClears$Reader" "this$0" "LSafeClears;") ∈ lw_all := lw_g (lw_at lw_m4 171 rfl) rfl
theorem q983 : (Jvm.Cond.soleField "SafeClears$Reader" "this$0") ∈ lw_all := lw_g (lw_at lw_m4 172 rfl) rfl
theorem q984 : (Jvm.Cond.superclass "SafeClears$Reader" "java/lang/Object") ∈ lw_all := lw_g (lw_at lw_m4 173 rfl) rfl
theorem q986 : (Jvm.Cond.instanceMethod ({ cls := "SafeClears$Reader", name := "reads", desc := "()V" } : Jvm.MethodName)) ∈ lw_all := lw_g (lw_at lw_m4 175 rfl) rfl
theorem q987 : (Jvm.Cond.selects "SafeClears$Reader" ({ cls := "SafeClears$Reader", name := "reads", desc := "()V" } : Jvm.MethodName) ({ cls := "SafeClears$Reader", name := "reads", desc := "()V" } : Jvm.MethodName)) ∈ lw_all := lw_g (lw_at lw_m4 176 rfl) rfl
theorem q988 : (Jvm.Cond.code ({ cls := "SafeClears$Reader", name := "reads", desc := "()V" } : Jvm.MethodName) prog_14_method_7_code (1 : Nat) (Option.none : Option Jvm.ClassFile.FieldType)) ∈ lw_all := lw_g (lw_at lw_m4 177 rfl) rfl
theorem q989 : (Jvm.Cond.methodLink "SafeClears$Reader" (106 : Nat) ({ cls := "SafeClears$Reader", name := "clause", desc := "()V" } : Jvm.MethodName)) ∈ lw_all := lw_g (lw_at lw_m4 178 rfl) rfl
theorem q990 : (Jvm.Cond.privateMethod ({ cls := "SafeClears$Reader", name := "clause", desc := "()V" } : Jvm.MethodName)) ∈ lw_tbl := lw_at lw_m4 179 rfl
theorem q991 : (Jvm.Cond.instanceMethod ({ cls := "SafeClears$Reader", name := "clause", desc := "()V" } : Jvm.MethodName)) ∈ lw_all := lw_g (lw_at lw_m4 180 rfl) rfl
theorem q992 : (Jvm.Cond.code ({ cls := "SafeClears$Reader", name := "clause", desc := "()V" } : Jvm.MethodName) prog_14_method_6_code (3 : Nat) (Option.none : Option Jvm.ClassFile.FieldType)) ∈ lw_all := lw_g (lw_at lw_m4 181 rfl) rfl
theorem q993 : (Jvm.Cond.methodLink "SafeClears$Reader" (33 : Nat) ({ cls := "SafeClears$Reader", name := "here", desc := "()I" } : Jvm.MethodName)) ∈ lw_all := lw_g (lw_at lw_m4 182 rfl) rfl
theorem q994 : (Jvm.Cond.privateMethod ({ cls := "SafeClears$Reader", name := "here", desc := "()I" } : Jvm.MethodName)) ∈ lw_tbl := lw_at lw_m4 183 rfl
theorem q995 : (Jvm.Cond.instanceMethod ({ cls := "SafeClears$Reader", name := "here", desc := "()I" } : Jvm.MethodName)) ∈ lw_all := lw_g (lw_at lw_m4 184 rfl) rfl
theorem q996 : (Jvm.Cond.code ({ cls := "SafeClears$Reader", name := "here", desc := "()I" } : Jvm.MethodName) prog_14_method_2_code (1 : Nat) (Option.some Jvm.ClassFile.FieldType.int)) ∈ lw_all := lw_g (lw_at lw_m4 185 rfl) rfl
theorem q997 : (Jvm.Cond.fieldLinkNest "SafeClears$Reader" (74 : Nat) "SafeClears" "KIND_OF" "[I" "SafeClears") ∈ lw_tbl := lw_at lw_m4 186 rfl
theorem q999 : (Jvm.Cond.classLink "SafeClears$Reader" (45 : Nat) "SafeClears$Fault") ∈ lw_all := lw_g (lw_at lw_m4 188 rfl) rfl
theorem q1008 : (Jvm.Cond.methodLink "SafeClears$Reader" (47 : Nat) ({ cls := "SafeClears$Fault", name := "<init>", desc := "(I)V" } : Jvm.MethodName)) ∈ lw_all := lw_g (lw_at lw_m4 197 rfl) rfl
theorem q1023 : (Jvm.Cond.methodLink "SafeClears$Reader" (79 : Nat) ({ cls := "SafeClears$Kind", name := "of", desc := "(I)LSafeClears$Kind;" } : Jvm.MethodName)) ∈ lw_all := lw_g (lw_at lw_m4 212 rfl) rfl
theorem q1024 : (Jvm.Cond.methodLink "SafeClears$Reader" (85 : Nat) ({ cls := "SafeClears$Signal", name := "begins", desc := "(LSafeClears$Kind;)V" } : Jvm.MethodName)) ∈ lw_all := lw_g (lw_at lw_m4 213 rfl) rfl
theorem q1025 : (Jvm.Cond.methodLink "SafeClears$Reader" (89 : Nat) ({ cls := "SafeClears$Reader", name := "cell", desc := "(LSafeClears$Signal;)V" } : Jvm.MethodName)) ∈ lw_all := lw_g (lw_at lw_m4 214 rfl) rfl
theorem q1026 : (Jvm.Cond.privateMethod ({ cls := "SafeClears$Reader", name := "cell", desc := "(LSafeClears$Signal;)V" } : Jvm.MethodName)) ∈ lw_tbl := lw_at lw_m4 215 rfl
theorem q1027 : (Jvm.Cond.instanceMethod ({ cls := "SafeClears$Reader", name := "cell", desc := "(LSafeClears$Signal;)V" } : Jvm.MethodName)) ∈ lw_all := lw_g (lw_at lw_m4 216 rfl) rfl
theorem q1028 : (Jvm.Cond.code ({ cls := "SafeClears$Reader", name := "cell", desc := "(LSafeClears$Signal;)V" } : Jvm.MethodName) prog_14_method_5_code (4 : Nat) (Option.none : Option Jvm.ClassFile.FieldType)) ∈ lw_all := lw_g (lw_at lw_m4 217 rfl) rfl
theorem q1029 : (Jvm.Cond.constantLong "SafeClears$Reader" (50 : Nat) (97 : Int64)) ∈ lw_all := lw_g (lw_at lw_m4 218 rfl) rfl
theorem q1030 : (Jvm.Cond.constantLong "SafeClears$Reader" (52 : Nat) (104 : Int64)) ∈ lw_all := lw_g (lw_at lw_m4 219 rfl) rfl
theorem q1031 : (Jvm.Cond.methodLinkNest "SafeClears$Reader" (41 : Nat) ({ cls := "SafeClears", name := "in", desc := "(JJJ)Z" } : Jvm.MethodName) "SafeClears") ∈ lw_tbl := lw_at lw_m4 220 rfl
theorem q1032 : (Jvm.Cond.constantLong "SafeClears$Reader" (57 : Nat) (49 : Int64)) ∈ lw_all := lw_g (lw_at lw_m4 221 rfl) rfl
theorem q1033 : (Jvm.Cond.constantLong "SafeClears$Reader" (59 : Nat) (56 : Int64)) ∈ lw_all := lw_g (lw_at lw_m4 222 rfl) rfl
theorem q1034 : (Jvm.Cond.methodLink "SafeClears$Reader" (65 : Nat) ({ cls := "java/util/BitSet", name := "get", desc := "(I)Z" } : Jvm.MethodName)) ∈ lw_all := lw_g (lw_at lw_m4 223 rfl) rfl
theorem q1035 : (Jvm.Cond.methodLink "SafeClears$Reader" (71 : Nat) ({ cls := "SafeClears$Signal", name := "goesOver", desc := "(I)V" } : Jvm.MethodName)) ∈ lw_all := lw_g (lw_at lw_m4 224 rfl) rfl
theorem q1036 : (Jvm.Cond.methodLink "SafeClears$Reader" (93 : Nat) ({ cls := "SafeClears$Reader", name := "is", desc := "(I)Z" } : Jvm.MethodName)) ∈ lw_all := lw_g (lw_at lw_m4 225 rfl) rfl
theorem q1037 : (Jvm.Cond.privateMethod ({ cls := "SafeClears$Reader", name := "is", desc := "(I)Z" } : Jvm.MethodName)) ∈ lw_tbl := lw_at lw_m4 226 rfl
theorem q1038 : (Jvm.Cond.instanceMethod ({ cls := "SafeClears$Reader", name := "is", desc := "(I)Z" } : Jvm.MethodName)) ∈ lw_all := lw_g (lw_at lw_m4 227 rfl) rfl
theorem q1039 : (Jvm.Cond.code ({ cls := "SafeClears$Reader", name := "is", desc := "(I)Z" } : Jvm.MethodName) prog_14_method_3_code (2 : Nat) (Option.some Jvm.ClassFile.FieldType.boolean)) ∈ lw_all := lw_g (lw_at lw_m4 228 rfl) rfl
theorem q1040 : (Jvm.Cond.methodLink "SafeClears$Reader" (99 : Nat) ({ cls := "SafeClears$Reader", name := "number", desc := "(III)I" } : Jvm.MethodName)) ∈ lw_all := lw_g (lw_at lw_m4 229 rfl) rfl
theorem q1041 : (Jvm.Cond.privateMethod ({ cls := "SafeClears$Reader", name := "number", desc := "(III)I" } : Jvm.MethodName)) ∈ lw_tbl := lw_at lw_m4 230 rfl
theorem q1042 : (Jvm.Cond.instanceMethod ({ cls := "SafeClears$Reader", name := "number", desc := "(III)I" } : Jvm.MethodName)) ∈ lw_all := lw_g (lw_at lw_m4 231 rfl) rfl
theorem q1043 : (Jvm.Cond.code ({ cls := "SafeClears$Reader", name := "number", desc := "(III)I" } : Jvm.MethodName) prog_14_method_4_code (6 : Nat) (Option.some Jvm.ClassFile.FieldType.int)) ∈ lw_all := lw_g (lw_at lw_m4 232 rfl) rfl
theorem q1044 : (Jvm.Cond.constantLong "SafeClears$Reader" (37 : Nat) (48 : Int64)) ∈ lw_all := lw_g (lw_at lw_m4 233 rfl) rfl
theorem q1045 : (Jvm.Cond.constantLong "SafeClears$Reader" (39 : Nat) (57 : Int64)) ∈ lw_all := lw_g (lw_at lw_m4 234 rfl) rfl
theorem q1046 : (Jvm.Cond.methodLink "SafeClears$Reader" (103 : Nat) ({ cls := "SafeClears$Signal", name := "least", desc := "()I" } : Jvm.MethodName)) ∈ lw_all := lw_g (lw_at lw_m4 235 rfl) rfl
theorem q2248 : (Jvm.Cond.castable "SafeClears$Reader" "java/lang/Object") ∈ lw_tbl := lw_at lw_m9 237 rfl
theorem in_X14 : ∀ w ∈ wsX140, w ∈ lw_all := lw_in wsX140 [976, 978, 980, 982] (by decide +kernel) (by decide +kernel)
/-! SafeClears$Fault -/
set_option maxRecDepth 100000
def RX15 : String := "SafeClears$Fault"
def TX15 : u_T := fun k => match k with
  | 0 => ("java/lang/Throwable", "cause", "Ljava/lang/Throwable;", false)
  | 1 => ("java/lang/Throwable", "stackTrace", "[Ljava/lang/StackTraceElement;", false)
  | 2 => ("java/lang/Throwable", "suppressedExceptions", "Ljava/util/List;", false)
  | 3 => ("java/lang/Throwable", "detailMessage", "Ljava/lang/String;", false)
  | 4 => ("java/lang/Throwable", "backtrace", "Ljava/lang/Object;", false)
  | 5 => ("java/lang/Throwable", "depth", "I", false)
  | _ => ("SafeClears$Fault", "place", "I", true)
def tyX15 : Nat → FieldType := fun k => match k with
  | 0 => .object "java/lang/Throwable"
  | 1 => .array (.object "java/lang/StackTraceElement")
  | 2 => .object "java/util/List"
  | 3 => .object "java/lang/String"
  | 4 => .object "java/lang/Object"
  | 5 => .int
  | _ => .int
abbrev wsX150 : List Cond := u_ws RX15 TX15 7
theorem nmX15 : ∀ a, a < 7 → ∀ b, b < 7 → a ≠ b → (TX15 a).2.1 ≠ (TX15 b).2.1 := by decide +kernel
theorem tyX15_ok : ∀ k, k < 7 → parseFieldDescriptor (TX15 k).2.2.1 = some (tyX15 k) := by decide +kernel
abbrev cX15_init : ByteArray := prog_4_method_1_code
def yX15_init : MethodName := ⟨RX15, "<init>", "(I)V"⟩
def dkwX15_init_0 : List UInt8 := [42, 1, 1, 3, 3, 183, 0, 1, 42, 27, 181, 0, 7, 177]
abbrev dktX15_init_0 : List UInt8 := dkwX15_init_0 ++ []
theorem dksX15_init_0 : cX15_init.data.toList.drop 0 = dktX15_init_0 := by decide +kernel
theorem dX15_init_0 : decode cX15_init 0 = .ok (.aload_n 0, 1) := dk_42 (dk_at dksX15_init_0 0 rfl rfl)
theorem dX15_init_1 : decode cX15_init 1 = .ok (.aconst_null, 1) := dk_1 (dk_at dksX15_init_0 1 rfl rfl)
theorem dX15_init_2 : decode cX15_init 2 = .ok (.aconst_null, 1) := dk_1 (dk_at dksX15_init_0 2 rfl rfl)
theorem dX15_init_3 : decode cX15_init 3 = .ok (.iconst 0, 1) := dk_3 (dk_at dksX15_init_0 3 rfl rfl)
theorem dX15_init_4 : decode cX15_init 4 = .ok (.iconst 0, 1) := dk_3 (dk_at dksX15_init_0 4 rfl rfl)
theorem dX15_init_5 : decode cX15_init 5 = .ok (.invokespecial 1, 3) := dk_183 0 1 (dk_at dksX15_init_0 5 rfl rfl)
theorem dX15_init_8 : decode cX15_init 8 = .ok (.aload_n 0, 1) := dk_42 (dk_at dksX15_init_0 8 rfl rfl)
theorem dX15_init_9 : decode cX15_init 9 = .ok (.iload_n 1, 1) := dk_27 (dk_at dksX15_init_0 9 rfl rfl)
theorem dX15_init_10 : decode cX15_init 10 = .ok (.putfield 7, 3) := dk_181 0 7 (dk_at dksX15_init_0 10 rfl rfl)
theorem dX15_init_13 : decode cX15_init 13 = .ok (.return_, 1) := dk_177 (dk_at dksX15_init_0 13 rfl rfl)
theorem q126 : (Jvm.Cond.initialized "SafeClears$Fault") ∈ lw_all := lw_g (lw_at lw_m1 35 rfl) rfl
theorem q203 : (Jvm.Cond.selects "SafeClears$Fault" ({ cls := "java/lang/Throwable", name := "fillInStackTrace", desc := "()Ljava/lang/Throwable;" } : Jvm.MethodName) ({ cls := "java/lang/Throwable", name := "fillInStackTrace", desc := "()Ljava/lang/Throwable;" } : Jvm.MethodName)) ∈ lw_all := lw_g (lw_at lw_m1 112 rfl) rfl
theorem q1000 : (Jvm.Cond.instantiable "SafeClears$Fault" (7 : Nat)) ∈ lw_all := lw_g (lw_at lw_m4 189 rfl) rfl
theorem q1001 : (Jvm.Cond.castable "SafeClears$Fault" "SafeClears$Fault") ∈ lw_tbl := lw_at lw_m4 190 rfl
theorem q1002 : (Jvm.Cond.selects "SafeClears$Fault" ({ cls := "java/lang/Throwable", name := "fillInStackTrace", desc := "(I)Ljava/lang/Throwable;" } : Jvm.MethodName) ({ cls := "java/lang/Throwable", name := "fillInStackTrace", desc := "(I)Ljava/lang/Throwable;" } : Jvm.MethodName)) ∈ lw_all := lw_g (lw_at lw_m4 191 rfl) rfl
theorem q1003 : (Jvm.Cond.lays "SafeClears$Fault" "java/lang/Throwable" "cause" "Ljava/lang/Throwable;") ∈ lw_all := lw_g (lw_at lw_m4 192 rfl) rfl
theorem q1004 : (Jvm.Cond.lays "SafeClears$Fault" "java/lang/Throwable" "stackTrace" "[Ljava/lang/StackTraceElement;") ∈ lw_all := lw_g (lw_at lw_m4 193 rfl) rfl
theorem q1005 : (Jvm.Cond.lays "SafeClears$Fault" "java/lang/Throwable" "suppressedExceptions" "Ljava/util/List;") ∈ lw_all := lw_g (lw_at lw_m4 194 rfl) rfl
theorem q1006 : (Jvm.Cond.lays "SafeClears$Fault" "java/lang/Throwable" "detailMessage" "Ljava/lang/String;") ∈ lw_all := lw_g (lw_at lw_m4 195 rfl) rfl
theorem q1007 : (Jvm.Cond.lays "SafeClears$Fault" "java/lang/Throwable" "backtrace" "Ljava/lang/Object;") ∈ lw_all := lw_g (lw_at lw_m4 196 rfl) rfl
theorem q1009 : (Jvm.Cond.instanceMethod ({ cls := "SafeClears$Fault", name := "<init>", desc := "(I)V" } : Jvm.MethodName)) ∈ lw_all := lw_g (lw_at lw_m4 198 rfl) rfl
theorem q1010 : (Jvm.Cond.code ({ cls := "SafeClears$Fault", name := "<init>", desc := "(I)V" } : Jvm.MethodName) prog_4_method_1_code (2 : Nat) (Option.none : Option Jvm.ClassFile.FieldType)) ∈ lw_all := lw_g (lw_at lw_m4 199 rfl) rfl
theorem q1011 : (Jvm.Cond.methodLink "SafeClears$Fault" (1 : Nat) ({ cls := "java/lang/Exception", name := "<init>", desc := "(Ljava/lang/String;Ljava/lang/Throwable;ZZ)V" } : Jvm.MethodName)) ∈ lw_all := lw_g (lw_at lw_m4 200 rfl) rfl
theorem q1017 : (Jvm.Cond.fieldLink "SafeClears$Fault" (7 : Nat) "SafeClears$Fault" "place" "I") ∈ lw_all := lw_g (lw_at lw_m4 206 rfl) rfl
theorem q1019 : (Jvm.Cond.laysFinal "SafeClears$Fault" "SafeClears$Fault" "place" "I") ∈ lw_all := lw_g (lw_at lw_m4 208 rfl) rfl
theorem q1020 : (Jvm.Cond.soleField "SafeClears$Fault" "place") ∈ lw_all := lw_g (lw_at lw_m4 209 rfl) rfl
theorem q1021 : (Jvm.Cond.lays "SafeClears$Fault" "java/lang/Throwable" "depth" "I") ∈ lw_all := lw_g (lw_at lw_m4 210 rfl) rfl
theorem q1022 : (Jvm.Cond.superclass "SafeClears$Fault" "java/lang/Exception") ∈ lw_all := lw_g (lw_at lw_m4 211 rfl) rfl
theorem q2249 : (Jvm.Cond.castable "SafeClears$Fault" "java/lang/Object") ∈ lw_tbl := lw_at lw_m9 238 rfl
theorem in_X15 : ∀ w ∈ wsX150, w ∈ lw_all := lw_in wsX150 [1003, 1004, 1005, 1006, 1007, 1021, 1019] (by decide +kernel) (by decide +kernel)
/-! SafeClears$Span -/
set_option maxRecDepth 100000
def RX16 : String := "SafeClears$Span"
abbrev cX16_lasts : ByteArray := prog_16_method_3_code
def yX16_lasts : MethodName := ⟨RX16, "lasts", "()I"⟩
def dkwX16_lasts_0 : List UInt8 := [42, 185, 0, 1, 1, 0, 42, 185, 0, 7, 1, 0, 100, 172]
abbrev dktX16_lasts_0 : List UInt8 := dkwX16_lasts_0 ++ []
theorem dksX16_lasts_0 : cX16_lasts.data.toList.drop 0 = dktX16_lasts_0 := by decide +kernel
theorem dX16_lasts_0 : decode cX16_lasts 0 = .ok (.aload_n 0, 1) := dk_42 (dk_at dksX16_lasts_0 0 rfl rfl)
theorem dX16_lasts_1 : decode cX16_lasts 1 = .ok (.invokeinterface 1 1, 5) := by decide +kernel
theorem dX16_lasts_6 : decode cX16_lasts 6 = .ok (.aload_n 0, 1) := dk_42 (dk_at dksX16_lasts_0 6 rfl rfl)
theorem dX16_lasts_7 : decode cX16_lasts 7 = .ok (.invokeinterface 7 1, 5) := by decide +kernel
theorem dX16_lasts_12 : decode cX16_lasts 12 = .ok (.isub, 1) := dk_100 (dk_at dksX16_lasts_0 12 rfl rfl)
theorem dX16_lasts_13 : decode cX16_lasts 13 = .ok (.ireturn, 1) := dk_172 (dk_at dksX16_lasts_0 13 rfl rfl)
abbrev cX16_hold : ByteArray := prog_16_method_5_code
def yX16_hold : MethodName := ⟨RX16, "hold", "(LSafeClears$Span;LSafeClears$Span;II)Z"⟩
def dkwX16_hold_1 : List UInt8 := [167, 0, 4, 3, 172]
abbrev dktX16_hold_1 : List UInt8 := dkwX16_hold_1 ++ []
def dkwX16_hold_0 : List UInt8 := [42, 43, 28, 185, 0, 10, 3, 0, 154, 0, 14, 43, 42, 29, 185, 0, 10, 3, 0, 153, 0, 7, 4]
abbrev dktX16_hold_0 : List UInt8 := dkwX16_hold_0 ++ dktX16_hold_1
theorem dksX16_hold_0 : cX16_hold.data.toList.drop 0 = dktX16_hold_0 := by decide +kernel
theorem dksX16_hold_1 : cX16_hold.data.toList.drop 23 = dktX16_hold_1 := dk_seg dksX16_hold_0 23 rfl rfl
theorem dX16_hold_0 : decode cX16_hold 0 = .ok (.aload_n 0, 1) := dk_42 (dk_at dksX16_hold_0 0 rfl rfl)
theorem dX16_hold_1 : decode cX16_hold 1 = .ok (.aload_n 1, 1) := dk_43 (dk_at dksX16_hold_0 1 rfl rfl)
theorem dX16_hold_2 : decode cX16_hold 2 = .ok (.iload_n 2, 1) := dk_28 (dk_at dksX16_hold_0 2 rfl rfl)
theorem dX16_hold_3 : decode cX16_hold 3 = .ok (.invokeinterface 10 3, 5) := by decide +kernel
theorem dX16_hold_8 : decode cX16_hold 8 = .ok (.ifCond .ne 14, 3) := dk_154 0 14 (dk_at dksX16_hold_0 8 rfl rfl)
theorem dX16_hold_11 : decode cX16_hold 11 = .ok (.aload_n 1, 1) := dk_43 (dk_at dksX16_hold_0 11 rfl rfl)
theorem dX16_hold_12 : decode cX16_hold 12 = .ok (.aload_n 0, 1) := dk_42 (dk_at dksX16_hold_0 12 rfl rfl)
theorem dX16_hold_13 : decode cX16_hold 13 = .ok (.iload_n 3, 1) := dk_29 (dk_at dksX16_hold_0 13 rfl rfl)
theorem dX16_hold_14 : decode cX16_hold 14 = .ok (.invokeinterface 10 3, 5) := by decide +kernel
theorem dX16_hold_19 : decode cX16_hold 19 = .ok (.ifCond .eq 7, 3) := dk_153 0 7 (dk_at dksX16_hold_0 19 rfl rfl)
theorem dX16_hold_22 : decode cX16_hold 22 = .ok (.iconst 1, 1) := dk_4 (dk_at dksX16_hold_0 22 rfl rfl)
theorem dX16_hold_23 : decode cX16_hold 23 = .ok (.goto 4, 3) := dk_167 0 4 (dk_at dksX16_hold_1 0 rfl rfl)
theorem dX16_hold_26 : decode cX16_hold 26 = .ok (.iconst 0, 1) := dk_3 (dk_at dksX16_hold_1 3 rfl rfl)
theorem dX16_hold_27 : decode cX16_hold 27 = .ok (.ireturn, 1) := dk_172 (dk_at dksX16_hold_1 4 rfl rfl)
abbrev cX16_isAhead : ByteArray := prog_16_method_4_code
def yX16_isAhead : MethodName := ⟨RX16, "isAhead", "(LSafeClears$Span;I)Z"⟩
def dkwX16_isAhead_0 : List UInt8 := [43, 185, 0, 7, 1, 0, 42, 185, 0, 1, 1, 0, 100, 28, 161, 0, 7, 4, 167, 0, 4, 3, 172]
abbrev dktX16_isAhead_0 : List UInt8 := dkwX16_isAhead_0 ++ []
theorem dksX16_isAhead_0 : cX16_isAhead.data.toList.drop 0 = dktX16_isAhead_0 := by decide +kernel
theorem dX16_isAhead_0 : decode cX16_isAhead 0 = .ok (.aload_n 1, 1) := dk_43 (dk_at dksX16_isAhead_0 0 rfl rfl)
theorem dX16_isAhead_1 : decode cX16_isAhead 1 = .ok (.invokeinterface 7 1, 5) := by decide +kernel
theorem dX16_isAhead_6 : decode cX16_isAhead 6 = .ok (.aload_n 0, 1) := dk_42 (dk_at dksX16_isAhead_0 6 rfl rfl)
theorem dX16_isAhead_7 : decode cX16_isAhead 7 = .ok (.invokeinterface 1 1, 5) := by decide +kernel
theorem dX16_isAhead_12 : decode cX16_isAhead 12 = .ok (.isub, 1) := dk_100 (dk_at dksX16_isAhead_0 12 rfl rfl)
theorem dX16_isAhead_13 : decode cX16_isAhead 13 = .ok (.iload_n 2, 1) := dk_28 (dk_at dksX16_isAhead_0 13 rfl rfl)
theorem dX16_isAhead_14 : decode cX16_isAhead 14 = .ok (.if_icmp .lt 7, 3) := dk_161 0 7 (dk_at dksX16_isAhead_0 14 rfl rfl)
theorem dX16_isAhead_17 : decode cX16_isAhead 17 = .ok (.iconst 1, 1) := dk_4 (dk_at dksX16_isAhead_0 17 rfl rfl)
theorem dX16_isAhead_18 : decode cX16_isAhead 18 = .ok (.goto 4, 3) := dk_167 0 4 (dk_at dksX16_isAhead_0 18 rfl rfl)
theorem dX16_isAhead_21 : decode cX16_isAhead 21 = .ok (.iconst 0, 1) := dk_3 (dk_at dksX16_isAhead_0 21 rfl rfl)
theorem dX16_isAhead_22 : decode cX16_isAhead 22 = .ok (.ireturn, 1) := dk_172 (dk_at dksX16_isAhead_0 22 rfl rfl)
theorem q129 : (Jvm.Cond.initialized "SafeClears$Span") ∈ lw_all := lw_g (lw_at lw_m1 38 rfl) rfl
theorem q1380 : (Jvm.Cond.interfaceMethod "SafeClears$Span" "SafeClears$Span" "lasts" "()I") ∈ lw_tbl := lw_at lw_m6 89 rfl
theorem q1381 : (Jvm.Cond.declares ({ cls := "SafeClears$Span", name := "lasts", desc := "()I" } : Jvm.MethodName)) ∈ lw_tbl := lw_at lw_m6 90 rfl
theorem q1384 : (Jvm.Cond.instanceMethod ({ cls := "SafeClears$Span", name := "lasts", desc := "()I" } : Jvm.MethodName)) ∈ lw_all := lw_g (lw_at lw_m6 93 rfl) rfl
theorem q1385 : (Jvm.Cond.publicMethod ({ cls := "SafeClears$Span", name := "lasts", desc := "()I" } : Jvm.MethodName)) ∈ lw_tbl := lw_at lw_m6 94 rfl
theorem q1386 : (Jvm.Cond.code ({ cls := "SafeClears$Span", name := "lasts", desc := "()I" } : Jvm.MethodName) prog_16_method_3_code (1 : Nat) (Option.some Jvm.ClassFile.FieldType.int)) ∈ lw_all := lw_g (lw_at lw_m6 95 rfl) rfl
theorem q1387 : (Jvm.Cond.interfaceEntry "SafeClears$Span" (1 : Nat)) ∈ lw_tbl := lw_at lw_m6 96 rfl
theorem q1388 : (Jvm.Cond.methodLink "SafeClears$Span" (1 : Nat) ({ cls := "SafeClears$Span", name := "to", desc := "()I" } : Jvm.MethodName)) ∈ lw_all := lw_g (lw_at lw_m6 97 rfl) rfl
theorem q1389 : (Jvm.Cond.interfaceMethod "SafeClears$Span" "SafeClears$Span" "to" "()I") ∈ lw_tbl := lw_at lw_m6 98 rfl
theorem q1390 : (Jvm.Cond.declares ({ cls := "SafeClears$Span", name := "to", desc := "()I" } : Jvm.MethodName)) ∈ lw_tbl := lw_at lw_m6 99 rfl
theorem q1396 : (Jvm.Cond.interfaceEntry "SafeClears$Span" (7 : Nat)) ∈ lw_tbl := lw_at lw_m6 105 rfl
theorem q1397 : (Jvm.Cond.methodLink "SafeClears$Span" (7 : Nat) ({ cls := "SafeClears$Span", name := "from", desc := "()I" } : Jvm.MethodName)) ∈ lw_all := lw_g (lw_at lw_m6 106 rfl) rfl
theorem q1398 : (Jvm.Cond.interfaceMethod "SafeClears$Span" "SafeClears$Span" "from" "()I") ∈ lw_tbl := lw_at lw_m6 107 rfl
theorem q1399 : (Jvm.Cond.declares ({ cls := "SafeClears$Span", name := "from", desc := "()I" } : Jvm.MethodName)) ∈ lw_tbl := lw_at lw_m6 108 rfl
theorem q1438 : (Jvm.Cond.static ({ cls := "SafeClears$Span", name := "hold", desc := "(LSafeClears$Span;LSafeClears$Span;II)Z" } : Jvm.MethodName)) ∈ lw_all := lw_g (lw_at lw_m6 147 rfl) rfl
theorem q1439 : (Jvm.Cond.code ({ cls := "SafeClears$Span", name := "hold", desc := "(LSafeClears$Span;LSafeClears$Span;II)Z" } : Jvm.MethodName) prog_16_method_5_code (4 : Nat) (Option.some Jvm.ClassFile.FieldType.boolean)) ∈ lw_all := lw_g (lw_at lw_m6 148 rfl) rfl
theorem q1440 : (Jvm.Cond.interfaceEntry "SafeClears$Span" (10 : Nat)) ∈ lw_tbl := lw_at lw_m6 149 rfl
theorem q1441 : (Jvm.Cond.methodLink "SafeClears$Span" (10 : Nat) ({ cls := "SafeClears$Span", name := "isAhead", desc := "(LSafeClears$Span;I)Z" } : Jvm.MethodName)) ∈ lw_all := lw_g (lw_at lw_m6 150 rfl) rfl
theorem q1442 : (Jvm.Cond.interfaceMethod "SafeClears$Span" "SafeClears$Span" "isAhead" "(LSafeClears$Span;I)Z") ∈ lw_tbl := lw_at lw_m6 151 rfl
theorem q1443 : (Jvm.Cond.declares ({ cls := "SafeClears$Span", name := "isAhead", desc := "(LSafeClears$Span;I)Z" } : Jvm.MethodName)) ∈ lw_tbl := lw_at lw_m6 152 rfl
theorem q1445 : (Jvm.Cond.instanceMethod ({ cls := "SafeClears$Span", name := "isAhead", desc := "(LSafeClears$Span;I)Z" } : Jvm.MethodName)) ∈ lw_all := lw_g (lw_at lw_m6 154 rfl) rfl
theorem q1446 : (Jvm.Cond.publicMethod ({ cls := "SafeClears$Span", name := "isAhead", desc := "(LSafeClears$Span;I)Z" } : Jvm.MethodName)) ∈ lw_tbl := lw_at lw_m6 155 rfl
theorem q1447 : (Jvm.Cond.code ({ cls := "SafeClears$Span", name := "isAhead", desc := "(LSafeClears$Span;I)Z" } : Jvm.MethodName) prog_16_method_4_code (3 : Nat) (Option.some Jvm.ClassFile.FieldType.boolean)) ∈ lw_all := lw_g (lw_at lw_m6 156 rfl) rfl
/-! SafeClears$Kind$1 -/
set_option maxRecDepth 100000
def RX17 : String := "SafeClears$Kind$1"
abbrev cX17_leaves : ByteArray := prog_7_method_2_code
def yX17_leaves : MethodName := ⟨RX17, "leaves", "(II)I"⟩
def dkwX17_leaves_0 : List UInt8 := [27, 5, 112, 154, 0, 7, 4, 167, 0, 4, 3, 172]
abbrev dktX17_leaves_0 : List UInt8 := dkwX17_leaves_0 ++ []
theorem dksX17_leaves_0 : cX17_leaves.data.toList.drop 0 = dktX17_leaves_0 := by decide +kernel
theorem dX17_leaves_0 : decode cX17_leaves 0 = .ok (.iload_n 1, 1) := dk_27 (dk_at dksX17_leaves_0 0 rfl rfl)
theorem dX17_leaves_1 : decode cX17_leaves 1 = .ok (.iconst 2, 1) := dk_5 (dk_at dksX17_leaves_0 1 rfl rfl)
theorem dX17_leaves_2 : decode cX17_leaves 2 = .ok (.irem, 1) := dk_112 (dk_at dksX17_leaves_0 2 rfl rfl)
theorem dX17_leaves_3 : decode cX17_leaves 3 = .ok (.ifCond .ne 7, 3) := dk_154 0 7 (dk_at dksX17_leaves_0 3 rfl rfl)
theorem dX17_leaves_6 : decode cX17_leaves 6 = .ok (.iconst 1, 1) := dk_4 (dk_at dksX17_leaves_0 6 rfl rfl)
theorem dX17_leaves_7 : decode cX17_leaves 7 = .ok (.goto 4, 3) := dk_167 0 4 (dk_at dksX17_leaves_0 7 rfl rfl)
theorem dX17_leaves_10 : decode cX17_leaves 10 = .ok (.iconst 0, 1) := dk_3 (dk_at dksX17_leaves_0 10 rfl rfl)
theorem dX17_leaves_11 : decode cX17_leaves 11 = .ok (.ireturn, 1) := dk_172 (dk_at dksX17_leaves_0 11 rfl rfl)
theorem q1235 : (Jvm.Cond.selects "SafeClears$Kind$1" ({ cls := "SafeClears$Kind", name := "leaves", desc := "(II)I" } : Jvm.MethodName) ({ cls := "SafeClears$Kind$1", name := "leaves", desc := "(II)I" } : Jvm.MethodName)) ∈ lw_all := lw_g (lw_at lw_m5 184 rfl) rfl
theorem q1236 : (Jvm.Cond.instanceMethod ({ cls := "SafeClears$Kind$1", name := "leaves", desc := "(II)I" } : Jvm.MethodName)) ∈ lw_all := lw_g (lw_at lw_m5 185 rfl) rfl
theorem q1237 : (Jvm.Cond.code ({ cls := "SafeClears$Kind$1", name := "leaves", desc := "(II)I" } : Jvm.MethodName) prog_7_method_2_code (3 : Nat) (Option.some Jvm.ClassFile.FieldType.int)) ∈ lw_all := lw_g (lw_at lw_m5 186 rfl) rfl
theorem q1280 : (Jvm.Cond.selects "SafeClears$Kind$1" ({ cls := "SafeClears$Kind", name := "ordinal", desc := "()I" } : Jvm.MethodName) ({ cls := "java/lang/Enum", name := "ordinal", desc := "()I" } : Jvm.MethodName)) ∈ lw_all := lw_g (lw_at lw_m5 229 rfl) rfl
theorem q2230 : (Jvm.Cond.castable "SafeClears$Kind$1" "java/lang/Object") ∈ lw_tbl := lw_at lw_m9 219 rfl
/-! SafeClears$Kind$2 -/
set_option maxRecDepth 100000
def RX18 : String := "SafeClears$Kind$2"
abbrev cX18_leaves : ByteArray := prog_8_method_2_code
def yX18_leaves : MethodName := ⟨RX18, "leaves", "(II)I"⟩
theorem dX18_leaves_0 : decode cX18_leaves 0 = .ok (.iload_n 2, 1) := by decide +kernel
theorem dX18_leaves_1 : decode cX18_leaves 1 = .ok (.ireturn, 1) := by decide +kernel
theorem q1238 : (Jvm.Cond.selects "SafeClears$Kind$2" ({ cls := "SafeClears$Kind", name := "leaves", desc := "(II)I" } : Jvm.MethodName) ({ cls := "SafeClears$Kind$2", name := "leaves", desc := "(II)I" } : Jvm.MethodName)) ∈ lw_all := lw_g (lw_at lw_m5 187 rfl) rfl
theorem q1239 : (Jvm.Cond.instanceMethod ({ cls := "SafeClears$Kind$2", name := "leaves", desc := "(II)I" } : Jvm.MethodName)) ∈ lw_all := lw_g (lw_at lw_m5 188 rfl) rfl
theorem q1240 : (Jvm.Cond.code ({ cls := "SafeClears$Kind$2", name := "leaves", desc := "(II)I" } : Jvm.MethodName) prog_8_method_2_code (3 : Nat) (Option.some Jvm.ClassFile.FieldType.int)) ∈ lw_all := lw_g (lw_at lw_m5 189 rfl) rfl
theorem q1281 : (Jvm.Cond.selects "SafeClears$Kind$2" ({ cls := "SafeClears$Kind", name := "ordinal", desc := "()I" } : Jvm.MethodName) ({ cls := "java/lang/Enum", name := "ordinal", desc := "()I" } : Jvm.MethodName)) ∈ lw_all := lw_g (lw_at lw_m5 230 rfl) rfl
theorem q2244 : (Jvm.Cond.castable "SafeClears$Kind$2" "java/lang/Object") ∈ lw_tbl := lw_at lw_m9 233 rfl
/-! SafeClears$Kind$3 -/
set_option maxRecDepth 100000
def RX19 : String := "SafeClears$Kind$3"
abbrev cX19_leaves : ByteArray := prog_9_method_2_code
def yX19_leaves : MethodName := ⟨RX19, "leaves", "(II)I"⟩
def dkwX19_leaves_0 : List UInt8 := [27, 7, 112, 154, 0, 7, 4, 167, 0, 4, 3, 172]
abbrev dktX19_leaves_0 : List UInt8 := dkwX19_leaves_0 ++ []
theorem dksX19_leaves_0 : cX19_leaves.data.toList.drop 0 = dktX19_leaves_0 := by decide +kernel
theorem dX19_leaves_0 : decode cX19_leaves 0 = .ok (.iload_n 1, 1) := dk_27 (dk_at dksX19_leaves_0 0 rfl rfl)
theorem dX19_leaves_1 : decode cX19_leaves 1 = .ok (.iconst 4, 1) := dk_7 (dk_at dksX19_leaves_0 1 rfl rfl)
theorem dX19_leaves_2 : decode cX19_leaves 2 = .ok (.irem, 1) := dk_112 (dk_at dksX19_leaves_0 2 rfl rfl)
theorem dX19_leaves_3 : decode cX19_leaves 3 = .ok (.ifCond .ne 7, 3) := dk_154 0 7 (dk_at dksX19_leaves_0 3 rfl rfl)
theorem dX19_leaves_6 : decode cX19_leaves 6 = .ok (.iconst 1, 1) := dk_4 (dk_at dksX19_leaves_0 6 rfl rfl)
theorem dX19_leaves_7 : decode cX19_leaves 7 = .ok (.goto 4, 3) := dk_167 0 4 (dk_at dksX19_leaves_0 7 rfl rfl)
theorem dX19_leaves_10 : decode cX19_leaves 10 = .ok (.iconst 0, 1) := dk_3 (dk_at dksX19_leaves_0 10 rfl rfl)
theorem dX19_leaves_11 : decode cX19_leaves 11 = .ok (.ireturn, 1) := dk_172 (dk_at dksX19_leaves_0 11 rfl rfl)
theorem q1241 : (Jvm.Cond.selects "SafeClears$Kind$3" ({ cls := "SafeClears$Kind", name := "leaves", desc := "(II)I" } : Jvm.MethodName) ({ cls := "SafeClears$Kind$3", name := "leaves", desc := "(II)I" } : Jvm.MethodName)) ∈ lw_all := lw_g (lw_at lw_m5 190 rfl) rfl
theorem q1242 : (Jvm.Cond.instanceMethod ({ cls := "SafeClears$Kind$3", name := "leaves", desc := "(II)I" } : Jvm.MethodName)) ∈ lw_all := lw_g (lw_at lw_m5 191 rfl) rfl
theorem q1243 : (Jvm.Cond.code ({ cls := "SafeClears$Kind$3", name := "leaves", desc := "(II)I" } : Jvm.MethodName) prog_9_method_2_code (3 : Nat) (Option.some Jvm.ClassFile.FieldType.int)) ∈ lw_all := lw_g (lw_at lw_m5 192 rfl) rfl
theorem q1282 : (Jvm.Cond.selects "SafeClears$Kind$3" ({ cls := "SafeClears$Kind", name := "ordinal", desc := "()I" } : Jvm.MethodName) ({ cls := "java/lang/Enum", name := "ordinal", desc := "()I" } : Jvm.MethodName)) ∈ lw_all := lw_g (lw_at lw_m5 231 rfl) rfl
theorem q2245 : (Jvm.Cond.castable "SafeClears$Kind$3" "java/lang/Object") ∈ lw_tbl := lw_at lw_m9 234 rfl
/-! SafeClears$Kind$4 -/
set_option maxRecDepth 100000
def RX20 : String := "SafeClears$Kind$4"
abbrev cX20_leaves : ByteArray := prog_10_method_2_code
def yX20_leaves : MethodName := ⟨RX20, "leaves", "(II)I"⟩
theorem dX20_leaves_0 : decode cX20_leaves 0 = .ok (.iconst 1, 1) := by decide +kernel
theorem dX20_leaves_1 : decode cX20_leaves 1 = .ok (.ireturn, 1) := by decide +kernel
theorem q1244 : (Jvm.Cond.selects "SafeClears$Kind$4" ({ cls := "SafeClears$Kind", name := "leaves", desc := "(II)I" } : Jvm.MethodName) ({ cls := "SafeClears$Kind$4", name := "leaves", desc := "(II)I" } : Jvm.MethodName)) ∈ lw_all := lw_g (lw_at lw_m5 193 rfl) rfl
theorem q1245 : (Jvm.Cond.instanceMethod ({ cls := "SafeClears$Kind$4", name := "leaves", desc := "(II)I" } : Jvm.MethodName)) ∈ lw_all := lw_g (lw_at lw_m5 194 rfl) rfl
theorem q1246 : (Jvm.Cond.code ({ cls := "SafeClears$Kind$4", name := "leaves", desc := "(II)I" } : Jvm.MethodName) prog_10_method_2_code (3 : Nat) (Option.some Jvm.ClassFile.FieldType.int)) ∈ lw_all := lw_g (lw_at lw_m5 195 rfl) rfl
theorem q1283 : (Jvm.Cond.selects "SafeClears$Kind$4" ({ cls := "SafeClears$Kind", name := "ordinal", desc := "()I" } : Jvm.MethodName) ({ cls := "java/lang/Enum", name := "ordinal", desc := "()I" } : Jvm.MethodName)) ∈ lw_all := lw_g (lw_at lw_m5 232 rfl) rfl
theorem q2246 : (Jvm.Cond.castable "SafeClears$Kind$4" "java/lang/Object") ∈ lw_tbl := lw_at lw_m9 235 rfl
/-! java/lang/Enum -/
set_option maxRecDepth 100000
def RJ0 : String := "java/lang/Enum"
abbrev cJ0_ordinal : ByteArray := prog_32_method_2_code
def yJ0_ordinal : MethodName := ⟨RJ0, "ordinal", "()I"⟩
theorem dJ0_ordinal_0 : decode cJ0_ordinal 0 = .ok (.aload_n 0, 1) := by decide +kernel
theorem dJ0_ordinal_1 : decode cJ0_ordinal 1 = .ok (.getfield 7, 3) := by decide +kernel
theorem dJ0_ordinal_4 : decode cJ0_ordinal 4 = .ok (.ireturn, 1) := by decide +kernel
theorem q95 : (Jvm.Cond.initialized "java/lang/Enum") ∈ lw_all := lw_g (lw_at lw_m1 4 rfl) rfl
theorem q1279 : (Jvm.Cond.declares ({ cls := "java/lang/Enum", name := "ordinal", desc := "()I" } : Jvm.MethodName)) ∈ lw_tbl := lw_at lw_m5 228 rfl
theorem q1284 : (Jvm.Cond.instanceMethod ({ cls := "java/lang/Enum", name := "ordinal", desc := "()I" } : Jvm.MethodName)) ∈ lw_all := lw_g (lw_at lw_m5 233 rfl) rfl
theorem q1285 : (Jvm.Cond.code ({ cls := "java/lang/Enum", name := "ordinal", desc := "()I" } : Jvm.MethodName) prog_32_method_2_code (1 : Nat) (Option.some Jvm.ClassFile.FieldType.int)) ∈ lw_all := lw_g (lw_at lw_m5 234 rfl) rfl
theorem q2260 : (Jvm.Cond.fieldLink "java/lang/Enum" (7 : Nat) "java/lang/Enum" "ordinal" "I") ∈ lw_all := lw_g (lw_at lw_m10 9 rfl) rfl
/-! java/util/BitSet -/
set_option maxRecDepth 100000
def RJ1 : String := "java/util/BitSet"
def TJ1 : u_T := fun k => match k with
  | 0 => ("java/util/BitSet", "words", "[J", false)
  | 1 => ("java/util/BitSet", "wordsInUse", "I", false)
  | _ => ("java/util/BitSet", "sizeIsSticky", "Z", false)
def tyJ1 : Nat → FieldType := fun k => match k with
  | 0 => .array .long
  | 1 => .int
  | _ => .boolean
abbrev wsJ10 : List Cond := u_ws RJ1 TJ1 3
theorem nmJ1 : ∀ a, a < 3 → ∀ b, b < 3 → a ≠ b → (TJ1 a).2.1 ≠ (TJ1 b).2.1 := by decide +kernel
theorem tyJ1_ok : ∀ k, k < 3 → parseFieldDescriptor (TJ1 k).2.2.1 = some (tyJ1 k) := by decide +kernel
abbrev cJ1_init : ByteArray := prog_50_method_5_code
def yJ1_init : MethodName := ⟨RJ1, "<init>", "(I)V"⟩
def dkwJ1_init_2 : List UInt8 := [27, 182, 0, 27, 42, 4, 181, 0, 24, 177]
abbrev dktJ1_init_2 : List UInt8 := dkwJ1_init_2 ++ []
def dkwJ1_init_1 : List UInt8 := [187, 0, 33, 89, 183, 0, 35, 18, 36, 182, 0, 38, 27, 182, 0, 42, 182, 0, 45, 183, 0, 49, 191, 42]
abbrev dktJ1_init_1 : List UInt8 := dkwJ1_init_1 ++ dktJ1_init_2
def dkwJ1_init_0 : List UInt8 := [42, 183, 0, 21, 42, 3, 181, 0, 7, 42, 3, 181, 0, 24, 27, 156, 0, 30, 187, 0, 31, 89]
abbrev dktJ1_init_0 : List UInt8 := dkwJ1_init_0 ++ dktJ1_init_1
theorem dksJ1_init_0 : cJ1_init.data.toList.drop 0 = dktJ1_init_0 := by decide +kernel
theorem dksJ1_init_1 : cJ1_init.data.toList.drop 22 = dktJ1_init_1 := dk_seg dksJ1_init_0 22 rfl rfl
theorem dksJ1_init_2 : cJ1_init.data.toList.drop 46 = dktJ1_init_2 := dk_seg dksJ1_init_1 24 rfl rfl
theorem dJ1_init_0 : decode cJ1_init 0 = .ok (.aload_n 0, 1) := dk_42 (dk_at dksJ1_init_0 0 rfl rfl)
theorem dJ1_init_1 : decode cJ1_init 1 = .ok (.invokespecial 21, 3) := dk_183 0 21 (dk_at dksJ1_init_0 1 rfl rfl)
theorem dJ1_init_4 : decode cJ1_init 4 = .ok (.aload_n 0, 1) := dk_42 (dk_at dksJ1_init_0 4 rfl rfl)
theorem dJ1_init_5 : decode cJ1_init 5 = .ok (.iconst 0, 1) := dk_3 (dk_at dksJ1_init_0 5 rfl rfl)
theorem dJ1_init_6 : decode cJ1_init 6 = .ok (.putfield 7, 3) := dk_181 0 7 (dk_at dksJ1_init_0 6 rfl rfl)
theorem dJ1_init_9 : decode cJ1_init 9 = .ok (.aload_n 0, 1) := dk_42 (dk_at dksJ1_init_0 9 rfl rfl)
theorem dJ1_init_10 : decode cJ1_init 10 = .ok (.iconst 0, 1) := dk_3 (dk_at dksJ1_init_0 10 rfl rfl)
theorem dJ1_init_11 : decode cJ1_init 11 = .ok (.putfield 24, 3) := dk_181 0 24 (dk_at dksJ1_init_0 11 rfl rfl)
theorem dJ1_init_14 : decode cJ1_init 14 = .ok (.iload_n 1, 1) := dk_27 (dk_at dksJ1_init_0 14 rfl rfl)
theorem dJ1_init_15 : decode cJ1_init 15 = .ok (.ifCond .ge 30, 3) := dk_156 0 30 (dk_at dksJ1_init_0 15 rfl rfl)
theorem dJ1_init_18 : decode cJ1_init 18 = .ok (.new 31, 3) := dk_187 0 31 (dk_at dksJ1_init_0 18 rfl rfl)
theorem dJ1_init_21 : decode cJ1_init 21 = .ok (.dup, 1) := dk_89 (dk_at dksJ1_init_0 21 rfl rfl)
theorem dJ1_init_22 : decode cJ1_init 22 = .ok (.new 33, 3) := dk_187 0 33 (dk_at dksJ1_init_1 0 rfl rfl)
theorem dJ1_init_25 : decode cJ1_init 25 = .ok (.dup, 1) := dk_89 (dk_at dksJ1_init_1 3 rfl rfl)
theorem dJ1_init_26 : decode cJ1_init 26 = .ok (.invokespecial 35, 3) := dk_183 0 35 (dk_at dksJ1_init_1 4 rfl rfl)
theorem dJ1_init_29 : decode cJ1_init 29 = .ok (.ldc 36, 2) := dk_18 36 (dk_at dksJ1_init_1 7 rfl rfl)
theorem dJ1_init_31 : decode cJ1_init 31 = .ok (.invokevirtual 38, 3) := dk_182 0 38 (dk_at dksJ1_init_1 9 rfl rfl)
theorem dJ1_init_34 : decode cJ1_init 34 = .ok (.iload_n 1, 1) := dk_27 (dk_at dksJ1_init_1 12 rfl rfl)
theorem dJ1_init_35 : decode cJ1_init 35 = .ok (.invokevirtual 42, 3) := dk_182 0 42 (dk_at dksJ1_init_1 13 rfl rfl)
theorem dJ1_init_38 : decode cJ1_init 38 = .ok (.invokevirtual 45, 3) := dk_182 0 45 (dk_at dksJ1_init_1 16 rfl rfl)
theorem dJ1_init_41 : decode cJ1_init 41 = .ok (.invokespecial 49, 3) := dk_183 0 49 (dk_at dksJ1_init_1 19 rfl rfl)
theorem dJ1_init_44 : decode cJ1_init 44 = .ok (.athrow, 1) := dk_191 (dk_at dksJ1_init_1 22 rfl rfl)
theorem dJ1_init_45 : decode cJ1_init 45 = .ok (.aload_n 0, 1) := dk_42 (dk_at dksJ1_init_1 23 rfl rfl)
theorem dJ1_init_46 : decode cJ1_init 46 = .ok (.iload_n 1, 1) := dk_27 (dk_at dksJ1_init_2 0 rfl rfl)
theorem dJ1_init_47 : decode cJ1_init 47 = .ok (.invokevirtual 27, 3) := dk_182 0 27 (dk_at dksJ1_init_2 1 rfl rfl)
theorem dJ1_init_50 : decode cJ1_init 50 = .ok (.aload_n 0, 1) := dk_42 (dk_at dksJ1_init_2 4 rfl rfl)
theorem dJ1_init_51 : decode cJ1_init 51 = .ok (.iconst 1, 1) := dk_4 (dk_at dksJ1_init_2 5 rfl rfl)
theorem dJ1_init_52 : decode cJ1_init 52 = .ok (.putfield 24, 3) := dk_181 0 24 (dk_at dksJ1_init_2 6 rfl rfl)
theorem dJ1_init_55 : decode cJ1_init 55 = .ok (.return_, 1) := dk_177 (dk_at dksJ1_init_2 9 rfl rfl)
abbrev cJ1_initWords : ByteArray := prog_50_method_6_code
def yJ1_initWords : MethodName := ⟨RJ1, "initWords", "(I)V"⟩
def dkwJ1_initWords_0 : List UInt8 := [42, 27, 4, 100, 184, 0, 52, 4, 96, 188, 11, 181, 0, 11, 177]
abbrev dktJ1_initWords_0 : List UInt8 := dkwJ1_initWords_0 ++ []
theorem dksJ1_initWords_0 : cJ1_initWords.data.toList.drop 0 = dktJ1_initWords_0 := by decide +kernel
theorem dJ1_initWords_0 : decode cJ1_initWords 0 = .ok (.aload_n 0, 1) := dk_42 (dk_at dksJ1_initWords_0 0 rfl rfl)
theorem dJ1_initWords_1 : decode cJ1_initWords 1 = .ok (.iload_n 1, 1) := dk_27 (dk_at dksJ1_initWords_0 1 rfl rfl)
theorem dJ1_initWords_2 : decode cJ1_initWords 2 = .ok (.iconst 1, 1) := dk_4 (dk_at dksJ1_initWords_0 2 rfl rfl)
theorem dJ1_initWords_3 : decode cJ1_initWords 3 = .ok (.isub, 1) := dk_100 (dk_at dksJ1_initWords_0 3 rfl rfl)
theorem dJ1_initWords_4 : decode cJ1_initWords 4 = .ok (.invokestatic 52, 3) := dk_184 0 52 (dk_at dksJ1_initWords_0 4 rfl rfl)
theorem dJ1_initWords_7 : decode cJ1_initWords 7 = .ok (.iconst 1, 1) := dk_4 (dk_at dksJ1_initWords_0 7 rfl rfl)
theorem dJ1_initWords_8 : decode cJ1_initWords 8 = .ok (.iadd, 1) := dk_96 (dk_at dksJ1_initWords_0 8 rfl rfl)
theorem dJ1_initWords_9 : decode cJ1_initWords 9 = .ok (.newarray .long, 2) := dk_188_11 (dk_at dksJ1_initWords_0 9 rfl rfl)
theorem dJ1_initWords_11 : decode cJ1_initWords 11 = .ok (.putfield 11, 3) := dk_181 0 11 (dk_at dksJ1_initWords_0 11 rfl rfl)
theorem dJ1_initWords_14 : decode cJ1_initWords 14 = .ok (.return_, 1) := dk_177 (dk_at dksJ1_initWords_0 14 rfl rfl)
abbrev cJ1_wordIndex : ByteArray := prog_50_method_1_code
def yJ1_wordIndex : MethodName := ⟨RJ1, "wordIndex", "(I)I"⟩
def dkwJ1_wordIndex_0 : List UInt8 := [26, 16, 6, 122, 172]
abbrev dktJ1_wordIndex_0 : List UInt8 := dkwJ1_wordIndex_0 ++ []
theorem dksJ1_wordIndex_0 : cJ1_wordIndex.data.toList.drop 0 = dktJ1_wordIndex_0 := by decide +kernel
theorem dJ1_wordIndex_0 : decode cJ1_wordIndex 0 = .ok (.iload_n 0, 1) := dk_26 (dk_at dksJ1_wordIndex_0 0 rfl rfl)
theorem dJ1_wordIndex_1 : decode cJ1_wordIndex 1 = .ok (.bipush 6, 2) := dk_16 6 (dk_at dksJ1_wordIndex_0 1 rfl rfl)
theorem dJ1_wordIndex_3 : decode cJ1_wordIndex 3 = .ok (.ishr, 1) := dk_122 (dk_at dksJ1_wordIndex_0 3 rfl rfl)
theorem dJ1_wordIndex_4 : decode cJ1_wordIndex 4 = .ok (.ireturn, 1) := dk_172 (dk_at dksJ1_wordIndex_0 4 rfl rfl)
abbrev cJ1_clear : ByteArray := prog_50_method_25_code
def yJ1_clear : MethodName := ⟨RJ1, "clear", "()V"⟩
def dkwJ1_clear_1 : List UInt8 := [167, 255, 232, 177]
abbrev dktJ1_clear_1 : List UInt8 := dkwJ1_clear_1 ++ []
def dkwJ1_clear_0 : List UInt8 := [42, 180, 0, 7, 158, 0, 23, 42, 180, 0, 11, 42, 89, 180, 0, 7, 4, 100, 90, 181, 0, 7, 9, 80]
abbrev dktJ1_clear_0 : List UInt8 := dkwJ1_clear_0 ++ dktJ1_clear_1
theorem dksJ1_clear_0 : cJ1_clear.data.toList.drop 0 = dktJ1_clear_0 := by decide +kernel
theorem dksJ1_clear_1 : cJ1_clear.data.toList.drop 24 = dktJ1_clear_1 := dk_seg dksJ1_clear_0 24 rfl rfl
theorem dJ1_clear_0 : decode cJ1_clear 0 = .ok (.aload_n 0, 1) := dk_42 (dk_at dksJ1_clear_0 0 rfl rfl)
theorem dJ1_clear_1 : decode cJ1_clear 1 = .ok (.getfield 7, 3) := dk_180 0 7 (dk_at dksJ1_clear_0 1 rfl rfl)
theorem dJ1_clear_4 : decode cJ1_clear 4 = .ok (.ifCond .le 23, 3) := dk_158 0 23 (dk_at dksJ1_clear_0 4 rfl rfl)
theorem dJ1_clear_7 : decode cJ1_clear 7 = .ok (.aload_n 0, 1) := dk_42 (dk_at dksJ1_clear_0 7 rfl rfl)
theorem dJ1_clear_8 : decode cJ1_clear 8 = .ok (.getfield 11, 3) := dk_180 0 11 (dk_at dksJ1_clear_0 8 rfl rfl)
theorem dJ1_clear_11 : decode cJ1_clear 11 = .ok (.aload_n 0, 1) := dk_42 (dk_at dksJ1_clear_0 11 rfl rfl)
theorem dJ1_clear_12 : decode cJ1_clear 12 = .ok (.dup, 1) := dk_89 (dk_at dksJ1_clear_0 12 rfl rfl)
theorem dJ1_clear_13 : decode cJ1_clear 13 = .ok (.getfield 7, 3) := dk_180 0 7 (dk_at dksJ1_clear_0 13 rfl rfl)
theorem dJ1_clear_16 : decode cJ1_clear 16 = .ok (.iconst 1, 1) := dk_4 (dk_at dksJ1_clear_0 16 rfl rfl)
theorem dJ1_clear_17 : decode cJ1_clear 17 = .ok (.isub, 1) := dk_100 (dk_at dksJ1_clear_0 17 rfl rfl)
theorem dJ1_clear_18 : decode cJ1_clear 18 = .ok (.dup_x1, 1) := dk_90 (dk_at dksJ1_clear_0 18 rfl rfl)
theorem dJ1_clear_19 : decode cJ1_clear 19 = .ok (.putfield 7, 3) := dk_181 0 7 (dk_at dksJ1_clear_0 19 rfl rfl)
theorem dJ1_clear_22 : decode cJ1_clear 22 = .ok (.lconst 0, 1) := dk_9 (dk_at dksJ1_clear_0 22 rfl rfl)
theorem dJ1_clear_23 : decode cJ1_clear 23 = .ok (.lastore, 1) := dk_80 (dk_at dksJ1_clear_0 23 rfl rfl)
theorem dJ1_clear_24 : decode cJ1_clear 24 = .ok (.goto (-24), 3) := dk_167 255 232 (dk_at dksJ1_clear_1 0 rfl rfl)
theorem dJ1_clear_27 : decode cJ1_clear 27 = .ok (.return_, 1) := dk_177 (dk_at dksJ1_clear_1 3 rfl rfl)
abbrev cJ1_set : ByteArray := prog_50_method_19_code
def yJ1_set : MethodName := ⟨RJ1, "set", "(I)V"⟩
def dkwJ1_set_2 : List UInt8 := [10, 27, 121, 129, 80, 42, 182, 0, 56, 177]
abbrev dktJ1_set_2 : List UInt8 := dkwJ1_set_2 ++ []
def dkwJ1_set_1 : List UInt8 := [182, 0, 45, 183, 0, 146, 191, 27, 184, 0, 52, 61, 42, 28, 182, 0, 155, 42, 180, 0, 11, 28, 92, 47]
abbrev dktJ1_set_1 : List UInt8 := dkwJ1_set_1 ++ dktJ1_set_2
def dkwJ1_set_0 : List UInt8 := [27, 156, 0, 30, 187, 0, 142, 89, 187, 0, 33, 89, 183, 0, 35, 18, 153, 182, 0, 38, 27, 182, 0, 42]
abbrev dktJ1_set_0 : List UInt8 := dkwJ1_set_0 ++ dktJ1_set_1
theorem dksJ1_set_0 : cJ1_set.data.toList.drop 0 = dktJ1_set_0 := by decide +kernel
theorem dksJ1_set_1 : cJ1_set.data.toList.drop 24 = dktJ1_set_1 := dk_seg dksJ1_set_0 24 rfl rfl
theorem dksJ1_set_2 : cJ1_set.data.toList.drop 48 = dktJ1_set_2 := dk_seg dksJ1_set_1 24 rfl rfl
theorem dJ1_set_0 : decode cJ1_set 0 = .ok (.iload_n 1, 1) := dk_27 (dk_at dksJ1_set_0 0 rfl rfl)
theorem dJ1_set_1 : decode cJ1_set 1 = .ok (.ifCond .ge 30, 3) := dk_156 0 30 (dk_at dksJ1_set_0 1 rfl rfl)
theorem dJ1_set_4 : decode cJ1_set 4 = .ok (.new 142, 3) := dk_187 0 142 (dk_at dksJ1_set_0 4 rfl rfl)
theorem dJ1_set_7 : decode cJ1_set 7 = .ok (.dup, 1) := dk_89 (dk_at dksJ1_set_0 7 rfl rfl)
theorem dJ1_set_8 : decode cJ1_set 8 = .ok (.new 33, 3) := dk_187 0 33 (dk_at dksJ1_set_0 8 rfl rfl)
theorem dJ1_set_11 : decode cJ1_set 11 = .ok (.dup, 1) := dk_89 (dk_at dksJ1_set_0 11 rfl rfl)
theorem dJ1_set_12 : decode cJ1_set 12 = .ok (.invokespecial 35, 3) := dk_183 0 35 (dk_at dksJ1_set_0 12 rfl rfl)
theorem dJ1_set_15 : decode cJ1_set 15 = .ok (.ldc 153, 2) := dk_18 153 (dk_at dksJ1_set_0 15 rfl rfl)
theorem dJ1_set_17 : decode cJ1_set 17 = .ok (.invokevirtual 38, 3) := dk_182 0 38 (dk_at dksJ1_set_0 17 rfl rfl)
theorem dJ1_set_20 : decode cJ1_set 20 = .ok (.iload_n 1, 1) := dk_27 (dk_at dksJ1_set_0 20 rfl rfl)
theorem dJ1_set_21 : decode cJ1_set 21 = .ok (.invokevirtual 42, 3) := dk_182 0 42 (dk_at dksJ1_set_0 21 rfl rfl)
theorem dJ1_set_24 : decode cJ1_set 24 = .ok (.invokevirtual 45, 3) := dk_182 0 45 (dk_at dksJ1_set_1 0 rfl rfl)
theorem dJ1_set_27 : decode cJ1_set 27 = .ok (.invokespecial 146, 3) := dk_183 0 146 (dk_at dksJ1_set_1 3 rfl rfl)
theorem dJ1_set_30 : decode cJ1_set 30 = .ok (.athrow, 1) := dk_191 (dk_at dksJ1_set_1 6 rfl rfl)
theorem dJ1_set_31 : decode cJ1_set 31 = .ok (.iload_n 1, 1) := dk_27 (dk_at dksJ1_set_1 7 rfl rfl)
theorem dJ1_set_32 : decode cJ1_set 32 = .ok (.invokestatic 52, 3) := dk_184 0 52 (dk_at dksJ1_set_1 8 rfl rfl)
theorem dJ1_set_35 : decode cJ1_set 35 = .ok (.istore_n 2, 1) := dk_61 (dk_at dksJ1_set_1 11 rfl rfl)
theorem dJ1_set_36 : decode cJ1_set 36 = .ok (.aload_n 0, 1) := dk_42 (dk_at dksJ1_set_1 12 rfl rfl)
theorem dJ1_set_37 : decode cJ1_set 37 = .ok (.iload_n 2, 1) := dk_28 (dk_at dksJ1_set_1 13 rfl rfl)
theorem dJ1_set_38 : decode cJ1_set 38 = .ok (.invokevirtual 155, 3) := dk_182 0 155 (dk_at dksJ1_set_1 14 rfl rfl)
theorem dJ1_set_41 : decode cJ1_set 41 = .ok (.aload_n 0, 1) := dk_42 (dk_at dksJ1_set_1 17 rfl rfl)
theorem dJ1_set_42 : decode cJ1_set 42 = .ok (.getfield 11, 3) := dk_180 0 11 (dk_at dksJ1_set_1 18 rfl rfl)
theorem dJ1_set_45 : decode cJ1_set 45 = .ok (.iload_n 2, 1) := dk_28 (dk_at dksJ1_set_1 21 rfl rfl)
theorem dJ1_set_46 : decode cJ1_set 46 = .ok (.dup2, 1) := dk_92 (dk_at dksJ1_set_1 22 rfl rfl)
theorem dJ1_set_47 : decode cJ1_set 47 = .ok (.laload, 1) := dk_47 (dk_at dksJ1_set_1 23 rfl rfl)
theorem dJ1_set_48 : decode cJ1_set 48 = .ok (.lconst 1, 1) := dk_10 (dk_at dksJ1_set_2 0 rfl rfl)
theorem dJ1_set_49 : decode cJ1_set 49 = .ok (.iload_n 1, 1) := dk_27 (dk_at dksJ1_set_2 1 rfl rfl)
theorem dJ1_set_50 : decode cJ1_set 50 = .ok (.lshl, 1) := dk_121 (dk_at dksJ1_set_2 2 rfl rfl)
theorem dJ1_set_51 : decode cJ1_set 51 = .ok (.lor, 1) := dk_129 (dk_at dksJ1_set_2 3 rfl rfl)
theorem dJ1_set_52 : decode cJ1_set 52 = .ok (.lastore, 1) := dk_80 (dk_at dksJ1_set_2 4 rfl rfl)
theorem dJ1_set_53 : decode cJ1_set 53 = .ok (.aload_n 0, 1) := dk_42 (dk_at dksJ1_set_2 5 rfl rfl)
theorem dJ1_set_54 : decode cJ1_set 54 = .ok (.invokevirtual 56, 3) := dk_182 0 56 (dk_at dksJ1_set_2 6 rfl rfl)
theorem dJ1_set_57 : decode cJ1_set 57 = .ok (.return_, 1) := dk_177 (dk_at dksJ1_set_2 9 rfl rfl)
abbrev cJ1_expandTo : ByteArray := prog_50_method_15_code
def yJ1_expandTo : MethodName := ⟨RJ1, "expandTo", "(I)V"⟩
def dkwJ1_expandTo_0 : List UInt8 := [27, 4, 96, 61, 42, 180, 0, 7, 28, 162, 0, 13, 42, 28, 182, 0, 139, 42, 28, 181, 0, 7, 177]
abbrev dktJ1_expandTo_0 : List UInt8 := dkwJ1_expandTo_0 ++ []
theorem dksJ1_expandTo_0 : cJ1_expandTo.data.toList.drop 0 = dktJ1_expandTo_0 := by decide +kernel
theorem dJ1_expandTo_0 : decode cJ1_expandTo 0 = .ok (.iload_n 1, 1) := dk_27 (dk_at dksJ1_expandTo_0 0 rfl rfl)
theorem dJ1_expandTo_1 : decode cJ1_expandTo 1 = .ok (.iconst 1, 1) := dk_4 (dk_at dksJ1_expandTo_0 1 rfl rfl)
theorem dJ1_expandTo_2 : decode cJ1_expandTo 2 = .ok (.iadd, 1) := dk_96 (dk_at dksJ1_expandTo_0 2 rfl rfl)
theorem dJ1_expandTo_3 : decode cJ1_expandTo 3 = .ok (.istore_n 2, 1) := dk_61 (dk_at dksJ1_expandTo_0 3 rfl rfl)
theorem dJ1_expandTo_4 : decode cJ1_expandTo 4 = .ok (.aload_n 0, 1) := dk_42 (dk_at dksJ1_expandTo_0 4 rfl rfl)
theorem dJ1_expandTo_5 : decode cJ1_expandTo 5 = .ok (.getfield 7, 3) := dk_180 0 7 (dk_at dksJ1_expandTo_0 5 rfl rfl)
theorem dJ1_expandTo_8 : decode cJ1_expandTo 8 = .ok (.iload_n 2, 1) := dk_28 (dk_at dksJ1_expandTo_0 8 rfl rfl)
theorem dJ1_expandTo_9 : decode cJ1_expandTo 9 = .ok (.if_icmp .ge 13, 3) := dk_162 0 13 (dk_at dksJ1_expandTo_0 9 rfl rfl)
theorem dJ1_expandTo_12 : decode cJ1_expandTo 12 = .ok (.aload_n 0, 1) := dk_42 (dk_at dksJ1_expandTo_0 12 rfl rfl)
theorem dJ1_expandTo_13 : decode cJ1_expandTo 13 = .ok (.iload_n 2, 1) := dk_28 (dk_at dksJ1_expandTo_0 13 rfl rfl)
theorem dJ1_expandTo_14 : decode cJ1_expandTo 14 = .ok (.invokevirtual 139, 3) := dk_182 0 139 (dk_at dksJ1_expandTo_0 14 rfl rfl)
theorem dJ1_expandTo_17 : decode cJ1_expandTo 17 = .ok (.aload_n 0, 1) := dk_42 (dk_at dksJ1_expandTo_0 17 rfl rfl)
theorem dJ1_expandTo_18 : decode cJ1_expandTo 18 = .ok (.iload_n 2, 1) := dk_28 (dk_at dksJ1_expandTo_0 18 rfl rfl)
theorem dJ1_expandTo_19 : decode cJ1_expandTo 19 = .ok (.putfield 7, 3) := dk_181 0 7 (dk_at dksJ1_expandTo_0 19 rfl rfl)
theorem dJ1_expandTo_22 : decode cJ1_expandTo 22 = .ok (.return_, 1) := dk_177 (dk_at dksJ1_expandTo_0 22 rfl rfl)
abbrev cJ1_ensureCapacity : ByteArray := prog_50_method_14_code
def yJ1_ensureCapacity : MethodName := ⟨RJ1, "ensureCapacity", "(I)V"⟩
def dkwJ1_ensureCapacity_1 : List UInt8 := [180, 0, 11, 28, 184, 0, 59, 181, 0, 11, 42, 3, 181, 0, 24, 177]
abbrev dktJ1_ensureCapacity_1 : List UInt8 := dkwJ1_ensureCapacity_1 ++ []
def dkwJ1_ensureCapacity_0 : List UInt8 := [42, 180, 0, 11, 190, 27, 162, 0, 32, 5, 42, 180, 0, 11, 190, 104, 27, 184, 0, 133, 61, 42, 42]
abbrev dktJ1_ensureCapacity_0 : List UInt8 := dkwJ1_ensureCapacity_0 ++ dktJ1_ensureCapacity_1
theorem dksJ1_ensureCapacity_0 : cJ1_ensureCapacity.data.toList.drop 0 = dktJ1_ensureCapacity_0 := by decide +kernel
theorem dksJ1_ensureCapacity_1 : cJ1_ensureCapacity.data.toList.drop 23 = dktJ1_ensureCapacity_1 := dk_seg dksJ1_ensureCapacity_0 23 rfl rfl
theorem dJ1_ensureCapacity_0 : decode cJ1_ensureCapacity 0 = .ok (.aload_n 0, 1) := dk_42 (dk_at dksJ1_ensureCapacity_0 0 rfl rfl)
theorem dJ1_ensureCapacity_1 : decode cJ1_ensureCapacity 1 = .ok (.getfield 11, 3) := dk_180 0 11 (dk_at dksJ1_ensureCapacity_0 1 rfl rfl)
theorem dJ1_ensureCapacity_4 : decode cJ1_ensureCapacity 4 = .ok (.arraylength, 1) := dk_190 (dk_at dksJ1_ensureCapacity_0 4 rfl rfl)
theorem dJ1_ensureCapacity_5 : decode cJ1_ensureCapacity 5 = .ok (.iload_n 1, 1) := dk_27 (dk_at dksJ1_ensureCapacity_0 5 rfl rfl)
theorem dJ1_ensureCapacity_6 : decode cJ1_ensureCapacity 6 = .ok (.if_icmp .ge 32, 3) := dk_162 0 32 (dk_at dksJ1_ensureCapacity_0 6 rfl rfl)
theorem dJ1_ensureCapacity_9 : decode cJ1_ensureCapacity 9 = .ok (.iconst 2, 1) := dk_5 (dk_at dksJ1_ensureCapacity_0 9 rfl rfl)
theorem dJ1_ensureCapacity_10 : decode cJ1_ensureCapacity 10 = .ok (.aload_n 0, 1) := dk_42 (dk_at dksJ1_ensureCapacity_0 10 rfl rfl)
theorem dJ1_ensureCapacity_11 : decode cJ1_ensureCapacity 11 = .ok (.getfield 11, 3) := dk_180 0 11 (dk_at dksJ1_ensureCapacity_0 11 rfl rfl)
theorem dJ1_ensureCapacity_14 : decode cJ1_ensureCapacity 14 = .ok (.arraylength, 1) := dk_190 (dk_at dksJ1_ensureCapacity_0 14 rfl rfl)
theorem dJ1_ensureCapacity_15 : decode cJ1_ensureCapacity 15 = .ok (.imul, 1) := dk_104 (dk_at dksJ1_ensureCapacity_0 15 rfl rfl)
theorem dJ1_ensureCapacity_16 : decode cJ1_ensureCapacity 16 = .ok (.iload_n 1, 1) := dk_27 (dk_at dksJ1_ensureCapacity_0 16 rfl rfl)
theorem dJ1_ensureCapacity_17 : decode cJ1_ensureCapacity 17 = .ok (.invokestatic 133, 3) := dk_184 0 133 (dk_at dksJ1_ensureCapacity_0 17 rfl rfl)
theorem dJ1_ensureCapacity_20 : decode cJ1_ensureCapacity 20 = .ok (.istore_n 2, 1) := dk_61 (dk_at dksJ1_ensureCapacity_0 20 rfl rfl)
theorem dJ1_ensureCapacity_21 : decode cJ1_ensureCapacity 21 = .ok (.aload_n 0, 1) := dk_42 (dk_at dksJ1_ensureCapacity_0 21 rfl rfl)
theorem dJ1_ensureCapacity_22 : decode cJ1_ensureCapacity 22 = .ok (.aload_n 0, 1) := dk_42 (dk_at dksJ1_ensureCapacity_0 22 rfl rfl)
theorem dJ1_ensureCapacity_23 : decode cJ1_ensureCapacity 23 = .ok (.getfield 11, 3) := dk_180 0 11 (dk_at dksJ1_ensureCapacity_1 0 rfl rfl)
theorem dJ1_ensureCapacity_26 : decode cJ1_ensureCapacity 26 = .ok (.iload_n 2, 1) := dk_28 (dk_at dksJ1_ensureCapacity_1 3 rfl rfl)
theorem dJ1_ensureCapacity_27 : decode cJ1_ensureCapacity 27 = .ok (.invokestatic 59, 3) := dk_184 0 59 (dk_at dksJ1_ensureCapacity_1 4 rfl rfl)
theorem dJ1_ensureCapacity_30 : decode cJ1_ensureCapacity 30 = .ok (.putfield 11, 3) := dk_181 0 11 (dk_at dksJ1_ensureCapacity_1 7 rfl rfl)
theorem dJ1_ensureCapacity_33 : decode cJ1_ensureCapacity 33 = .ok (.aload_n 0, 1) := dk_42 (dk_at dksJ1_ensureCapacity_1 10 rfl rfl)
theorem dJ1_ensureCapacity_34 : decode cJ1_ensureCapacity 34 = .ok (.iconst 0, 1) := dk_3 (dk_at dksJ1_ensureCapacity_1 11 rfl rfl)
theorem dJ1_ensureCapacity_35 : decode cJ1_ensureCapacity 35 = .ok (.putfield 24, 3) := dk_181 0 24 (dk_at dksJ1_ensureCapacity_1 12 rfl rfl)
theorem dJ1_ensureCapacity_38 : decode cJ1_ensureCapacity 38 = .ok (.return_, 1) := dk_177 (dk_at dksJ1_ensureCapacity_1 15 rfl rfl)
abbrev cJ1_checkInvariants : ByteArray := prog_50_method_2_code
def yJ1_checkInvariants : MethodName := ⟨RJ1, "checkInvariants", "()V"⟩
def dkwJ1_checkInvariants_4 : List UInt8 := [180, 0, 7, 47, 9, 148, 153, 0, 11, 187, 0, 15, 89, 183, 0, 17, 191, 177]
abbrev dktJ1_checkInvariants_4 : List UInt8 := dkwJ1_checkInvariants_4 ++ []
def dkwJ1_checkInvariants_3 : List UInt8 := [178, 0, 3, 154, 0, 37, 42, 180, 0, 7, 42, 180, 0, 11, 190, 159, 0, 25, 42, 180, 0, 11, 42]
abbrev dktJ1_checkInvariants_3 : List UInt8 := dkwJ1_checkInvariants_3 ++ dktJ1_checkInvariants_4
def dkwJ1_checkInvariants_2 : List UInt8 := [155, 0, 15, 42, 180, 0, 7, 42, 180, 0, 11, 190, 164, 0, 11, 187, 0, 15, 89, 183, 0, 17, 191]
abbrev dktJ1_checkInvariants_2 : List UInt8 := dkwJ1_checkInvariants_2 ++ dktJ1_checkInvariants_3
def dkwJ1_checkInvariants_1 : List UInt8 := [9, 148, 154, 0, 11, 187, 0, 15, 89, 183, 0, 17, 191, 178, 0, 3, 154, 0, 30, 42, 180, 0, 7]
abbrev dktJ1_checkInvariants_1 : List UInt8 := dkwJ1_checkInvariants_1 ++ dktJ1_checkInvariants_2
def dkwJ1_checkInvariants_0 : List UInt8 := [178, 0, 3, 154, 0, 34, 42, 180, 0, 7, 153, 0, 27, 42, 180, 0, 11, 42, 180, 0, 7, 4, 100, 47]
abbrev dktJ1_checkInvariants_0 : List UInt8 := dkwJ1_checkInvariants_0 ++ dktJ1_checkInvariants_1
theorem dksJ1_checkInvariants_0 : cJ1_checkInvariants.data.toList.drop 0 = dktJ1_checkInvariants_0 := by decide +kernel
theorem dksJ1_checkInvariants_1 : cJ1_checkInvariants.data.toList.drop 24 = dktJ1_checkInvariants_1 := dk_seg dksJ1_checkInvariants_0 24 rfl rfl
theorem dksJ1_checkInvariants_2 : cJ1_checkInvariants.data.toList.drop 47 = dktJ1_checkInvariants_2 := dk_seg dksJ1_checkInvariants_1 23 rfl rfl
theorem dksJ1_checkInvariants_3 : cJ1_checkInvariants.data.toList.drop 70 = dktJ1_checkInvariants_3 := dk_seg dksJ1_checkInvariants_2 23 rfl rfl
theorem dksJ1_checkInvariants_4 : cJ1_checkInvariants.data.toList.drop 93 = dktJ1_checkInvariants_4 := dk_seg dksJ1_checkInvariants_3 23 rfl rfl
theorem dJ1_checkInvariants_0 : decode cJ1_checkInvariants 0 = .ok (.getstatic 3, 3) := dk_178 0 3 (dk_at dksJ1_checkInvariants_0 0 rfl rfl)
theorem dJ1_checkInvariants_3 : decode cJ1_checkInvariants 3 = .ok (.ifCond .ne 34, 3) := dk_154 0 34 (dk_at dksJ1_checkInvariants_0 3 rfl rfl)
theorem dJ1_checkInvariants_6 : decode cJ1_checkInvariants 6 = .ok (.aload_n 0, 1) := dk_42 (dk_at dksJ1_checkInvariants_0 6 rfl rfl)
theorem dJ1_checkInvariants_7 : decode cJ1_checkInvariants 7 = .ok (.getfield 7, 3) := dk_180 0 7 (dk_at dksJ1_checkInvariants_0 7 rfl rfl)
theorem dJ1_checkInvariants_10 : decode cJ1_checkInvariants 10 = .ok (.ifCond .eq 27, 3) := dk_153 0 27 (dk_at dksJ1_checkInvariants_0 10 rfl rfl)
theorem dJ1_checkInvariants_13 : decode cJ1_checkInvariants 13 = .ok (.aload_n 0, 1) := dk_42 (dk_at dksJ1_checkInvariants_0 13 rfl rfl)
theorem dJ1_checkInvariants_14 : decode cJ1_checkInvariants 14 = .ok (.getfield 11, 3) := dk_180 0 11 (dk_at dksJ1_checkInvariants_0 14 rfl rfl)
theorem dJ1_checkInvariants_17 : decode cJ1_checkInvariants 17 = .ok (.aload_n 0, 1) := dk_42 (dk_at dksJ1_checkInvariants_0 17 rfl rfl)
theorem dJ1_checkInvariants_18 : decode cJ1_checkInvariants 18 = .ok (.getfield 7, 3) := dk_180 0 7 (dk_at dksJ1_checkInvariants_0 18 rfl rfl)
theorem dJ1_checkInvariants_21 : decode cJ1_checkInvariants 21 = .ok (.iconst 1, 1) := dk_4 (dk_at dksJ1_checkInvariants_0 21 rfl rfl)
theorem dJ1_checkInvariants_22 : decode cJ1_checkInvariants 22 = .ok (.isub, 1) := dk_100 (dk_at dksJ1_checkInvariants_0 22 rfl rfl)
theorem dJ1_checkInvariants_23 : decode cJ1_checkInvariants 23 = .ok (.laload, 1) := dk_47 (dk_at dksJ1_checkInvariants_0 23 rfl rfl)
theorem dJ1_checkInvariants_24 : decode cJ1_checkInvariants 24 = .ok (.lconst 0, 1) := dk_9 (dk_at dksJ1_checkInvariants_1 0 rfl rfl)
theorem dJ1_checkInvariants_25 : decode cJ1_checkInvariants 25 = .ok (.lcmp, 1) := dk_148 (dk_at dksJ1_checkInvariants_1 1 rfl rfl)
theorem dJ1_checkInvariants_26 : decode cJ1_checkInvariants 26 = .ok (.ifCond .ne 11, 3) := dk_154 0 11 (dk_at dksJ1_checkInvariants_1 2 rfl rfl)
theorem dJ1_checkInvariants_29 : decode cJ1_checkInvariants 29 = .ok (.new 15, 3) := dk_187 0 15 (dk_at dksJ1_checkInvariants_1 5 rfl rfl)
theorem dJ1_checkInvariants_32 : decode cJ1_checkInvariants 32 = .ok (.dup, 1) := dk_89 (dk_at dksJ1_checkInvariants_1 8 rfl rfl)
theorem dJ1_checkInvariants_33 : decode cJ1_checkInvariants 33 = .ok (.invokespecial 17, 3) := dk_183 0 17 (dk_at dksJ1_checkInvariants_1 9 rfl rfl)
theorem dJ1_checkInvariants_36 : decode cJ1_checkInvariants 36 = .ok (.athrow, 1) := dk_191 (dk_at dksJ1_checkInvariants_1 12 rfl rfl)
theorem dJ1_checkInvariants_37 : decode cJ1_checkInvariants 37 = .ok (.getstatic 3, 3) := dk_178 0 3 (dk_at dksJ1_checkInvariants_1 13 rfl rfl)
theorem dJ1_checkInvariants_40 : decode cJ1_checkInvariants 40 = .ok (.ifCond .ne 30, 3) := dk_154 0 30 (dk_at dksJ1_checkInvariants_1 16 rfl rfl)
theorem dJ1_checkInvariants_43 : decode cJ1_checkInvariants 43 = .ok (.aload_n 0, 1) := dk_42 (dk_at dksJ1_checkInvariants_1 19 rfl rfl)
theorem dJ1_checkInvariants_44 : decode cJ1_checkInvariants 44 = .ok (.getfield 7, 3) := dk_180 0 7 (dk_at dksJ1_checkInvariants_1 20 rfl rfl)
theorem dJ1_checkInvariants_47 : decode cJ1_checkInvariants 47 = .ok (.ifCond .lt 15, 3) := dk_155 0 15 (dk_at dksJ1_checkInvariants_2 0 rfl rfl)
theorem dJ1_checkInvariants_50 : decode cJ1_checkInvariants 50 = .ok (.aload_n 0, 1) := dk_42 (dk_at dksJ1_checkInvariants_2 3 rfl rfl)
theorem dJ1_checkInvariants_51 : decode cJ1_checkInvariants 51 = .ok (.getfield 7, 3) := dk_180 0 7 (dk_at dksJ1_checkInvariants_2 4 rfl rfl)
theorem dJ1_checkInvariants_54 : decode cJ1_checkInvariants 54 = .ok (.aload_n 0, 1) := dk_42 (dk_at dksJ1_checkInvariants_2 7 rfl rfl)
theorem dJ1_checkInvariants_55 : decode cJ1_checkInvariants 55 = .ok (.getfield 11, 3) := dk_180 0 11 (dk_at dksJ1_checkInvariants_2 8 rfl rfl)
theorem dJ1_checkInvariants_58 : decode cJ1_checkInvariants 58 = .ok (.arraylength, 1) := dk_190 (dk_at dksJ1_checkInvariants_2 11 rfl rfl)
theorem dJ1_checkInvariants_59 : decode cJ1_checkInvariants 59 = .ok (.if_icmp .le 11, 3) := dk_164 0 11 (dk_at dksJ1_checkInvariants_2 12 rfl rfl)
theorem dJ1_checkInvariants_62 : decode cJ1_checkInvariants 62 = .ok (.new 15, 3) := dk_187 0 15 (dk_at dksJ1_checkInvariants_2 15 rfl rfl)
theorem dJ1_checkInvariants_65 : decode cJ1_checkInvariants 65 = .ok (.dup, 1) := dk_89 (dk_at dksJ1_checkInvariants_2 18 rfl rfl)
theorem dJ1_checkInvariants_66 : decode cJ1_checkInvariants 66 = .ok (.invokespecial 17, 3) := dk_183 0 17 (dk_at dksJ1_checkInvariants_2 19 rfl rfl)
theorem dJ1_checkInvariants_69 : decode cJ1_checkInvariants 69 = .ok (.athrow, 1) := dk_191 (dk_at dksJ1_checkInvariants_2 22 rfl rfl)
theorem dJ1_checkInvariants_70 : decode cJ1_checkInvariants 70 = .ok (.getstatic 3, 3) := dk_178 0 3 (dk_at dksJ1_checkInvariants_3 0 rfl rfl)
theorem dJ1_checkInvariants_73 : decode cJ1_checkInvariants 73 = .ok (.ifCond .ne 37, 3) := dk_154 0 37 (dk_at dksJ1_checkInvariants_3 3 rfl rfl)
theorem dJ1_checkInvariants_76 : decode cJ1_checkInvariants 76 = .ok (.aload_n 0, 1) := dk_42 (dk_at dksJ1_checkInvariants_3 6 rfl rfl)
theorem dJ1_checkInvariants_77 : decode cJ1_checkInvariants 77 = .ok (.getfield 7, 3) := dk_180 0 7 (dk_at dksJ1_checkInvariants_3 7 rfl rfl)
theorem dJ1_checkInvariants_80 : decode cJ1_checkInvariants 80 = .ok (.aload_n 0, 1) := dk_42 (dk_at dksJ1_checkInvariants_3 10 rfl rfl)
theorem dJ1_checkInvariants_81 : decode cJ1_checkInvariants 81 = .ok (.getfield 11, 3) := dk_180 0 11 (dk_at dksJ1_checkInvariants_3 11 rfl rfl)
theorem dJ1_checkInvariants_84 : decode cJ1_checkInvariants 84 = .ok (.arraylength, 1) := dk_190 (dk_at dksJ1_checkInvariants_3 14 rfl rfl)
theorem dJ1_checkInvariants_85 : decode cJ1_checkInvariants 85 = .ok (.if_icmp .eq 25, 3) := dk_159 0 25 (dk_at dksJ1_checkInvariants_3 15 rfl rfl)
theorem dJ1_checkInvariants_88 : decode cJ1_checkInvariants 88 = .ok (.aload_n 0, 1) := dk_42 (dk_at dksJ1_checkInvariants_3 18 rfl rfl)
theorem dJ1_checkInvariants_89 : decode cJ1_checkInvariants 89 = .ok (.getfield 11, 3) := dk_180 0 11 (dk_at dksJ1_checkInvariants_3 19 rfl rfl)
theorem dJ1_checkInvariants_92 : decode cJ1_checkInvariants 92 = .ok (.aload_n 0, 1) := dk_42 (dk_at dksJ1_checkInvariants_3 22 rfl rfl)
theorem dJ1_checkInvariants_93 : decode cJ1_checkInvariants 93 = .ok (.getfield 7, 3) := dk_180 0 7 (dk_at dksJ1_checkInvariants_4 0 rfl rfl)
theorem dJ1_checkInvariants_96 : decode cJ1_checkInvariants 96 = .ok (.laload, 1) := dk_47 (dk_at dksJ1_checkInvariants_4 3 rfl rfl)
theorem dJ1_checkInvariants_97 : decode cJ1_checkInvariants 97 = .ok (.lconst 0, 1) := dk_9 (dk_at dksJ1_checkInvariants_4 4 rfl rfl)
theorem dJ1_checkInvariants_98 : decode cJ1_checkInvariants 98 = .ok (.lcmp, 1) := dk_148 (dk_at dksJ1_checkInvariants_4 5 rfl rfl)
theorem dJ1_checkInvariants_99 : decode cJ1_checkInvariants 99 = .ok (.ifCond .eq 11, 3) := dk_153 0 11 (dk_at dksJ1_checkInvariants_4 6 rfl rfl)
theorem dJ1_checkInvariants_102 : decode cJ1_checkInvariants 102 = .ok (.new 15, 3) := dk_187 0 15 (dk_at dksJ1_checkInvariants_4 9 rfl rfl)
theorem dJ1_checkInvariants_105 : decode cJ1_checkInvariants 105 = .ok (.dup, 1) := dk_89 (dk_at dksJ1_checkInvariants_4 12 rfl rfl)
theorem dJ1_checkInvariants_106 : decode cJ1_checkInvariants 106 = .ok (.invokespecial 17, 3) := dk_183 0 17 (dk_at dksJ1_checkInvariants_4 13 rfl rfl)
theorem dJ1_checkInvariants_109 : decode cJ1_checkInvariants 109 = .ok (.athrow, 1) := dk_191 (dk_at dksJ1_checkInvariants_4 16 rfl rfl)
theorem dJ1_checkInvariants_110 : decode cJ1_checkInvariants 110 = .ok (.return_, 1) := dk_177 (dk_at dksJ1_checkInvariants_4 17 rfl rfl)
abbrev cJ1_intersects : ByteArray := prog_50_method_34_code
def yJ1_intersects : MethodName := ⟨RJ1, "intersects", "(Ljava/util/BitSet;)Z"⟩
def dkwJ1_intersects_1 : List UInt8 := [43, 180, 0, 11, 28, 47, 127, 9, 148, 153, 0, 5, 4, 172, 132, 2, 255, 167, 255, 229, 3, 172]
abbrev dktJ1_intersects_1 : List UInt8 := dkwJ1_intersects_1 ++ []
def dkwJ1_intersects_0 : List UInt8 := [42, 180, 0, 7, 43, 180, 0, 7, 184, 0, 193, 4, 100, 61, 28, 155, 0, 29, 42, 180, 0, 11, 28, 47]
abbrev dktJ1_intersects_0 : List UInt8 := dkwJ1_intersects_0 ++ dktJ1_intersects_1
theorem dksJ1_intersects_0 : cJ1_intersects.data.toList.drop 0 = dktJ1_intersects_0 := by decide +kernel
theorem dksJ1_intersects_1 : cJ1_intersects.data.toList.drop 24 = dktJ1_intersects_1 := dk_seg dksJ1_intersects_0 24 rfl rfl
theorem dJ1_intersects_0 : decode cJ1_intersects 0 = .ok (.aload_n 0, 1) := dk_42 (dk_at dksJ1_intersects_0 0 rfl rfl)
theorem dJ1_intersects_1 : decode cJ1_intersects 1 = .ok (.getfield 7, 3) := dk_180 0 7 (dk_at dksJ1_intersects_0 1 rfl rfl)
theorem dJ1_intersects_4 : decode cJ1_intersects 4 = .ok (.aload_n 1, 1) := dk_43 (dk_at dksJ1_intersects_0 4 rfl rfl)
theorem dJ1_intersects_5 : decode cJ1_intersects 5 = .ok (.getfield 7, 3) := dk_180 0 7 (dk_at dksJ1_intersects_0 5 rfl rfl)
theorem dJ1_intersects_8 : decode cJ1_intersects 8 = .ok (.invokestatic 193, 3) := dk_184 0 193 (dk_at dksJ1_intersects_0 8 rfl rfl)
theorem dJ1_intersects_11 : decode cJ1_intersects 11 = .ok (.iconst 1, 1) := dk_4 (dk_at dksJ1_intersects_0 11 rfl rfl)
theorem dJ1_intersects_12 : decode cJ1_intersects 12 = .ok (.isub, 1) := dk_100 (dk_at dksJ1_intersects_0 12 rfl rfl)
theorem dJ1_intersects_13 : decode cJ1_intersects 13 = .ok (.istore_n 2, 1) := dk_61 (dk_at dksJ1_intersects_0 13 rfl rfl)
theorem dJ1_intersects_14 : decode cJ1_intersects 14 = .ok (.iload_n 2, 1) := dk_28 (dk_at dksJ1_intersects_0 14 rfl rfl)
theorem dJ1_intersects_15 : decode cJ1_intersects 15 = .ok (.ifCond .lt 29, 3) := dk_155 0 29 (dk_at dksJ1_intersects_0 15 rfl rfl)
theorem dJ1_intersects_18 : decode cJ1_intersects 18 = .ok (.aload_n 0, 1) := dk_42 (dk_at dksJ1_intersects_0 18 rfl rfl)
theorem dJ1_intersects_19 : decode cJ1_intersects 19 = .ok (.getfield 11, 3) := dk_180 0 11 (dk_at dksJ1_intersects_0 19 rfl rfl)
theorem dJ1_intersects_22 : decode cJ1_intersects 22 = .ok (.iload_n 2, 1) := dk_28 (dk_at dksJ1_intersects_0 22 rfl rfl)
theorem dJ1_intersects_23 : decode cJ1_intersects 23 = .ok (.laload, 1) := dk_47 (dk_at dksJ1_intersects_0 23 rfl rfl)
theorem dJ1_intersects_24 : decode cJ1_intersects 24 = .ok (.aload_n 1, 1) := dk_43 (dk_at dksJ1_intersects_1 0 rfl rfl)
theorem dJ1_intersects_25 : decode cJ1_intersects 25 = .ok (.getfield 11, 3) := dk_180 0 11 (dk_at dksJ1_intersects_1 1 rfl rfl)
theorem dJ1_intersects_28 : decode cJ1_intersects 28 = .ok (.iload_n 2, 1) := dk_28 (dk_at dksJ1_intersects_1 4 rfl rfl)
theorem dJ1_intersects_29 : decode cJ1_intersects 29 = .ok (.laload, 1) := dk_47 (dk_at dksJ1_intersects_1 5 rfl rfl)
theorem dJ1_intersects_30 : decode cJ1_intersects 30 = .ok (.land, 1) := dk_127 (dk_at dksJ1_intersects_1 6 rfl rfl)
theorem dJ1_intersects_31 : decode cJ1_intersects 31 = .ok (.lconst 0, 1) := dk_9 (dk_at dksJ1_intersects_1 7 rfl rfl)
theorem dJ1_intersects_32 : decode cJ1_intersects 32 = .ok (.lcmp, 1) := dk_148 (dk_at dksJ1_intersects_1 8 rfl rfl)
theorem dJ1_intersects_33 : decode cJ1_intersects 33 = .ok (.ifCond .eq 5, 3) := dk_153 0 5 (dk_at dksJ1_intersects_1 9 rfl rfl)
theorem dJ1_intersects_36 : decode cJ1_intersects 36 = .ok (.iconst 1, 1) := dk_4 (dk_at dksJ1_intersects_1 12 rfl rfl)
theorem dJ1_intersects_37 : decode cJ1_intersects 37 = .ok (.ireturn, 1) := dk_172 (dk_at dksJ1_intersects_1 13 rfl rfl)
theorem dJ1_intersects_38 : decode cJ1_intersects 38 = .ok (.iinc 2 (-1), 3) := dk_132 2 255 (dk_at dksJ1_intersects_1 14 rfl rfl)
theorem dJ1_intersects_41 : decode cJ1_intersects 41 = .ok (.goto (-27), 3) := dk_167 255 229 (dk_at dksJ1_intersects_1 17 rfl rfl)
theorem dJ1_intersects_44 : decode cJ1_intersects 44 = .ok (.iconst 0, 1) := dk_3 (dk_at dksJ1_intersects_1 20 rfl rfl)
theorem dJ1_intersects_45 : decode cJ1_intersects 45 = .ok (.ireturn, 1) := dk_172 (dk_at dksJ1_intersects_1 21 rfl rfl)
abbrev cJ1_get : ByteArray := prog_50_method_26_code
def yJ1_get : MethodName := ⟨RJ1, "get", "(I)Z"⟩
def dkwJ1_get_2 : List UInt8 := [42, 180, 0, 11, 28, 47, 10, 27, 121, 127, 9, 148, 153, 0, 7, 4, 167, 0, 4, 3, 172]
abbrev dktJ1_get_2 : List UInt8 := dkwJ1_get_2 ++ []
def dkwJ1_get_1 : List UInt8 := [182, 0, 45, 183, 0, 146, 191, 42, 182, 0, 56, 27, 184, 0, 52, 61, 28, 42, 180, 0, 7, 162, 0, 22]
abbrev dktJ1_get_1 : List UInt8 := dkwJ1_get_1 ++ dktJ1_get_2
def dkwJ1_get_0 : List UInt8 := [27, 156, 0, 30, 187, 0, 142, 89, 187, 0, 33, 89, 183, 0, 35, 18, 153, 182, 0, 38, 27, 182, 0, 42]
abbrev dktJ1_get_0 : List UInt8 := dkwJ1_get_0 ++ dktJ1_get_1
theorem dksJ1_get_0 : cJ1_get.data.toList.drop 0 = dktJ1_get_0 := by decide +kernel
theorem dksJ1_get_1 : cJ1_get.data.toList.drop 24 = dktJ1_get_1 := dk_seg dksJ1_get_0 24 rfl rfl
theorem dksJ1_get_2 : cJ1_get.data.toList.drop 48 = dktJ1_get_2 := dk_seg dksJ1_get_1 24 rfl rfl
theorem dJ1_get_0 : decode cJ1_get 0 = .ok (.iload_n 1, 1) := dk_27 (dk_at dksJ1_get_0 0 rfl rfl)
theorem dJ1_get_1 : decode cJ1_get 1 = .ok (.ifCond .ge 30, 3) := dk_156 0 30 (dk_at dksJ1_get_0 1 rfl rfl)
theorem dJ1_get_4 : decode cJ1_get 4 = .ok (.new 142, 3) := dk_187 0 142 (dk_at dksJ1_get_0 4 rfl rfl)
theorem dJ1_get_7 : decode cJ1_get 7 = .ok (.dup, 1) := dk_89 (dk_at dksJ1_get_0 7 rfl rfl)
theorem dJ1_get_8 : decode cJ1_get 8 = .ok (.new 33, 3) := dk_187 0 33 (dk_at dksJ1_get_0 8 rfl rfl)
theorem dJ1_get_11 : decode cJ1_get 11 = .ok (.dup, 1) := dk_89 (dk_at dksJ1_get_0 11 rfl rfl)
theorem dJ1_get_12 : decode cJ1_get 12 = .ok (.invokespecial 35, 3) := dk_183 0 35 (dk_at dksJ1_get_0 12 rfl rfl)
theorem dJ1_get_15 : decode cJ1_get 15 = .ok (.ldc 153, 2) := dk_18 153 (dk_at dksJ1_get_0 15 rfl rfl)
theorem dJ1_get_17 : decode cJ1_get 17 = .ok (.invokevirtual 38, 3) := dk_182 0 38 (dk_at dksJ1_get_0 17 rfl rfl)
theorem dJ1_get_20 : decode cJ1_get 20 = .ok (.iload_n 1, 1) := dk_27 (dk_at dksJ1_get_0 20 rfl rfl)
theorem dJ1_get_21 : decode cJ1_get 21 = .ok (.invokevirtual 42, 3) := dk_182 0 42 (dk_at dksJ1_get_0 21 rfl rfl)
theorem dJ1_get_24 : decode cJ1_get 24 = .ok (.invokevirtual 45, 3) := dk_182 0 45 (dk_at dksJ1_get_1 0 rfl rfl)
theorem dJ1_get_27 : decode cJ1_get 27 = .ok (.invokespecial 146, 3) := dk_183 0 146 (dk_at dksJ1_get_1 3 rfl rfl)
theorem dJ1_get_30 : decode cJ1_get 30 = .ok (.athrow, 1) := dk_191 (dk_at dksJ1_get_1 6 rfl rfl)
theorem dJ1_get_31 : decode cJ1_get 31 = .ok (.aload_n 0, 1) := dk_42 (dk_at dksJ1_get_1 7 rfl rfl)
theorem dJ1_get_32 : decode cJ1_get 32 = .ok (.invokevirtual 56, 3) := dk_182 0 56 (dk_at dksJ1_get_1 8 rfl rfl)
theorem dJ1_get_35 : decode cJ1_get 35 = .ok (.iload_n 1, 1) := dk_27 (dk_at dksJ1_get_1 11 rfl rfl)
theorem dJ1_get_36 : decode cJ1_get 36 = .ok (.invokestatic 52, 3) := dk_184 0 52 (dk_at dksJ1_get_1 12 rfl rfl)
theorem dJ1_get_39 : decode cJ1_get 39 = .ok (.istore_n 2, 1) := dk_61 (dk_at dksJ1_get_1 15 rfl rfl)
theorem dJ1_get_40 : decode cJ1_get 40 = .ok (.iload_n 2, 1) := dk_28 (dk_at dksJ1_get_1 16 rfl rfl)
theorem dJ1_get_41 : decode cJ1_get 41 = .ok (.aload_n 0, 1) := dk_42 (dk_at dksJ1_get_1 17 rfl rfl)
theorem dJ1_get_42 : decode cJ1_get 42 = .ok (.getfield 7, 3) := dk_180 0 7 (dk_at dksJ1_get_1 18 rfl rfl)
theorem dJ1_get_45 : decode cJ1_get 45 = .ok (.if_icmp .ge 22, 3) := dk_162 0 22 (dk_at dksJ1_get_1 21 rfl rfl)
theorem dJ1_get_48 : decode cJ1_get 48 = .ok (.aload_n 0, 1) := dk_42 (dk_at dksJ1_get_2 0 rfl rfl)
theorem dJ1_get_49 : decode cJ1_get 49 = .ok (.getfield 11, 3) := dk_180 0 11 (dk_at dksJ1_get_2 1 rfl rfl)
theorem dJ1_get_52 : decode cJ1_get 52 = .ok (.iload_n 2, 1) := dk_28 (dk_at dksJ1_get_2 4 rfl rfl)
theorem dJ1_get_53 : decode cJ1_get 53 = .ok (.laload, 1) := dk_47 (dk_at dksJ1_get_2 5 rfl rfl)
theorem dJ1_get_54 : decode cJ1_get 54 = .ok (.lconst 1, 1) := dk_10 (dk_at dksJ1_get_2 6 rfl rfl)
theorem dJ1_get_55 : decode cJ1_get 55 = .ok (.iload_n 1, 1) := dk_27 (dk_at dksJ1_get_2 7 rfl rfl)
theorem dJ1_get_56 : decode cJ1_get 56 = .ok (.lshl, 1) := dk_121 (dk_at dksJ1_get_2 8 rfl rfl)
theorem dJ1_get_57 : decode cJ1_get 57 = .ok (.land, 1) := dk_127 (dk_at dksJ1_get_2 9 rfl rfl)
theorem dJ1_get_58 : decode cJ1_get 58 = .ok (.lconst 0, 1) := dk_9 (dk_at dksJ1_get_2 10 rfl rfl)
theorem dJ1_get_59 : decode cJ1_get 59 = .ok (.lcmp, 1) := dk_148 (dk_at dksJ1_get_2 11 rfl rfl)
theorem dJ1_get_60 : decode cJ1_get 60 = .ok (.ifCond .eq 7, 3) := dk_153 0 7 (dk_at dksJ1_get_2 12 rfl rfl)
theorem dJ1_get_63 : decode cJ1_get 63 = .ok (.iconst 1, 1) := dk_4 (dk_at dksJ1_get_2 15 rfl rfl)
theorem dJ1_get_64 : decode cJ1_get 64 = .ok (.goto 4, 3) := dk_167 0 4 (dk_at dksJ1_get_2 16 rfl rfl)
theorem dJ1_get_67 : decode cJ1_get 67 = .ok (.iconst 0, 1) := dk_3 (dk_at dksJ1_get_2 19 rfl rfl)
theorem dJ1_get_68 : decode cJ1_get 68 = .ok (.ireturn, 1) := dk_172 (dk_at dksJ1_get_2 20 rfl rfl)
abbrev cJ1_or : ByteArray := prog_50_method_37_code
def yJ1_or : MethodName := ⟨RJ1, "or", "(Ljava/util/BitSet;)V"⟩
def dkwJ1_or_4 : List UInt8 := [180, 0, 7, 28, 100, 184, 0, 199, 42, 182, 0, 56, 177]
abbrev dktJ1_or_4 : List UInt8 := dkwJ1_or_4 ++ []
def dkwJ1_or_3 : List UInt8 := [167, 255, 233, 28, 43, 180, 0, 7, 162, 0, 22, 43, 180, 0, 11, 28, 42, 180, 0, 11, 28, 42]
abbrev dktJ1_or_3 : List UInt8 := dkwJ1_or_3 ++ dktJ1_or_4
def dkwJ1_or_2 : List UInt8 := [29, 28, 162, 0, 24, 42, 180, 0, 11, 29, 92, 47, 43, 180, 0, 11, 29, 47, 129, 80, 132, 3, 1]
abbrev dktJ1_or_2 : List UInt8 := dkwJ1_or_2 ++ dktJ1_or_3
def dkwJ1_or_1 : List UInt8 := [180, 0, 7, 162, 0, 19, 42, 43, 180, 0, 7, 182, 0, 139, 42, 43, 180, 0, 7, 181, 0, 7, 3, 62]
abbrev dktJ1_or_1 : List UInt8 := dkwJ1_or_1 ++ dktJ1_or_2
def dkwJ1_or_0 : List UInt8 := [42, 43, 166, 0, 4, 177, 42, 180, 0, 7, 43, 180, 0, 7, 184, 0, 193, 61, 42, 180, 0, 7, 43]
abbrev dktJ1_or_0 : List UInt8 := dkwJ1_or_0 ++ dktJ1_or_1
theorem dksJ1_or_0 : cJ1_or.data.toList.drop 0 = dktJ1_or_0 := by decide +kernel
theorem dksJ1_or_1 : cJ1_or.data.toList.drop 23 = dktJ1_or_1 := dk_seg dksJ1_or_0 23 rfl rfl
theorem dksJ1_or_2 : cJ1_or.data.toList.drop 47 = dktJ1_or_2 := dk_seg dksJ1_or_1 24 rfl rfl
theorem dksJ1_or_3 : cJ1_or.data.toList.drop 70 = dktJ1_or_3 := dk_seg dksJ1_or_2 23 rfl rfl
theorem dksJ1_or_4 : cJ1_or.data.toList.drop 92 = dktJ1_or_4 := dk_seg dksJ1_or_3 22 rfl rfl
theorem dJ1_or_0 : decode cJ1_or 0 = .ok (.aload_n 0, 1) := dk_42 (dk_at dksJ1_or_0 0 rfl rfl)
theorem dJ1_or_1 : decode cJ1_or 1 = .ok (.aload_n 1, 1) := dk_43 (dk_at dksJ1_or_0 1 rfl rfl)
theorem dJ1_or_2 : decode cJ1_or 2 = .ok (.if_acmp .ne 4, 3) := dk_166 0 4 (dk_at dksJ1_or_0 2 rfl rfl)
theorem dJ1_or_5 : decode cJ1_or 5 = .ok (.return_, 1) := dk_177 (dk_at dksJ1_or_0 5 rfl rfl)
theorem dJ1_or_6 : decode cJ1_or 6 = .ok (.aload_n 0, 1) := dk_42 (dk_at dksJ1_or_0 6 rfl rfl)
theorem dJ1_or_7 : decode cJ1_or 7 = .ok (.getfield 7, 3) := dk_180 0 7 (dk_at dksJ1_or_0 7 rfl rfl)
theorem dJ1_or_10 : decode cJ1_or 10 = .ok (.aload_n 1, 1) := dk_43 (dk_at dksJ1_or_0 10 rfl rfl)
theorem dJ1_or_11 : decode cJ1_or 11 = .ok (.getfield 7, 3) := dk_180 0 7 (dk_at dksJ1_or_0 11 rfl rfl)
theorem dJ1_or_14 : decode cJ1_or 14 = .ok (.invokestatic 193, 3) := dk_184 0 193 (dk_at dksJ1_or_0 14 rfl rfl)
theorem dJ1_or_17 : decode cJ1_or 17 = .ok (.istore_n 2, 1) := dk_61 (dk_at dksJ1_or_0 17 rfl rfl)
theorem dJ1_or_18 : decode cJ1_or 18 = .ok (.aload_n 0, 1) := dk_42 (dk_at dksJ1_or_0 18 rfl rfl)
theorem dJ1_or_19 : decode cJ1_or 19 = .ok (.getfield 7, 3) := dk_180 0 7 (dk_at dksJ1_or_0 19 rfl rfl)
theorem dJ1_or_22 : decode cJ1_or 22 = .ok (.aload_n 1, 1) := dk_43 (dk_at dksJ1_or_0 22 rfl rfl)
theorem dJ1_or_23 : decode cJ1_or 23 = .ok (.getfield 7, 3) := dk_180 0 7 (dk_at dksJ1_or_1 0 rfl rfl)
theorem dJ1_or_26 : decode cJ1_or 26 = .ok (.if_icmp .ge 19, 3) := dk_162 0 19 (dk_at dksJ1_or_1 3 rfl rfl)
theorem dJ1_or_29 : decode cJ1_or 29 = .ok (.aload_n 0, 1) := dk_42 (dk_at dksJ1_or_1 6 rfl rfl)
theorem dJ1_or_30 : decode cJ1_or 30 = .ok (.aload_n 1, 1) := dk_43 (dk_at dksJ1_or_1 7 rfl rfl)
theorem dJ1_or_31 : decode cJ1_or 31 = .ok (.getfield 7, 3) := dk_180 0 7 (dk_at dksJ1_or_1 8 rfl rfl)
theorem dJ1_or_34 : decode cJ1_or 34 = .ok (.invokevirtual 139, 3) := dk_182 0 139 (dk_at dksJ1_or_1 11 rfl rfl)
theorem dJ1_or_37 : decode cJ1_or 37 = .ok (.aload_n 0, 1) := dk_42 (dk_at dksJ1_or_1 14 rfl rfl)
theorem dJ1_or_38 : decode cJ1_or 38 = .ok (.aload_n 1, 1) := dk_43 (dk_at dksJ1_or_1 15 rfl rfl)
theorem dJ1_or_39 : decode cJ1_or 39 = .ok (.getfield 7, 3) := dk_180 0 7 (dk_at dksJ1_or_1 16 rfl rfl)
theorem dJ1_or_42 : decode cJ1_or 42 = .ok (.putfield 7, 3) := dk_181 0 7 (dk_at dksJ1_or_1 19 rfl rfl)
theorem dJ1_or_45 : decode cJ1_or 45 = .ok (.iconst 0, 1) := dk_3 (dk_at dksJ1_or_1 22 rfl rfl)
theorem dJ1_or_46 : decode cJ1_or 46 = .ok (.istore_n 3, 1) := dk_62 (dk_at dksJ1_or_1 23 rfl rfl)
theorem dJ1_or_47 : decode cJ1_or 47 = .ok (.iload_n 3, 1) := dk_29 (dk_at dksJ1_or_2 0 rfl rfl)
theorem dJ1_or_48 : decode cJ1_or 48 = .ok (.iload_n 2, 1) := dk_28 (dk_at dksJ1_or_2 1 rfl rfl)
theorem dJ1_or_49 : decode cJ1_or 49 = .ok (.if_icmp .ge 24, 3) := dk_162 0 24 (dk_at dksJ1_or_2 2 rfl rfl)
theorem dJ1_or_52 : decode cJ1_or 52 = .ok (.aload_n 0, 1) := dk_42 (dk_at dksJ1_or_2 5 rfl rfl)
theorem dJ1_or_53 : decode cJ1_or 53 = .ok (.getfield 11, 3) := dk_180 0 11 (dk_at dksJ1_or_2 6 rfl rfl)
theorem dJ1_or_56 : decode cJ1_or 56 = .ok (.iload_n 3, 1) := dk_29 (dk_at dksJ1_or_2 9 rfl rfl)
theorem dJ1_or_57 : decode cJ1_or 57 = .ok (.dup2, 1) := dk_92 (dk_at dksJ1_or_2 10 rfl rfl)
theorem dJ1_or_58 : decode cJ1_or 58 = .ok (.laload, 1) := dk_47 (dk_at dksJ1_or_2 11 rfl rfl)
theorem dJ1_or_59 : decode cJ1_or 59 = .ok (.aload_n 1, 1) := dk_43 (dk_at dksJ1_or_2 12 rfl rfl)
theorem dJ1_or_60 : decode cJ1_or 60 = .ok (.getfield 11, 3) := dk_180 0 11 (dk_at dksJ1_or_2 13 rfl rfl)
theorem dJ1_or_63 : decode cJ1_or 63 = .ok (.iload_n 3, 1) := dk_29 (dk_at dksJ1_or_2 16 rfl rfl)
theorem dJ1_or_64 : decode cJ1_or 64 = .ok (.laload, 1) := dk_47 (dk_at dksJ1_or_2 17 rfl rfl)
theorem dJ1_or_65 : decode cJ1_or 65 = .ok (.lor, 1) := dk_129 (dk_at dksJ1_or_2 18 rfl rfl)
theorem dJ1_or_66 : decode cJ1_or 66 = .ok (.lastore, 1) := dk_80 (dk_at dksJ1_or_2 19 rfl rfl)
theorem dJ1_or_67 : decode cJ1_or 67 = .ok (.iinc 3 1, 3) := dk_132 3 1 (dk_at dksJ1_or_2 20 rfl rfl)
theorem dJ1_or_70 : decode cJ1_or 70 = .ok (.goto (-23), 3) := dk_167 255 233 (dk_at dksJ1_or_3 0 rfl rfl)
theorem dJ1_or_73 : decode cJ1_or 73 = .ok (.iload_n 2, 1) := dk_28 (dk_at dksJ1_or_3 3 rfl rfl)
theorem dJ1_or_74 : decode cJ1_or 74 = .ok (.aload_n 1, 1) := dk_43 (dk_at dksJ1_or_3 4 rfl rfl)
theorem dJ1_or_75 : decode cJ1_or 75 = .ok (.getfield 7, 3) := dk_180 0 7 (dk_at dksJ1_or_3 5 rfl rfl)
theorem dJ1_or_78 : decode cJ1_or 78 = .ok (.if_icmp .ge 22, 3) := dk_162 0 22 (dk_at dksJ1_or_3 8 rfl rfl)
theorem dJ1_or_81 : decode cJ1_or 81 = .ok (.aload_n 1, 1) := dk_43 (dk_at dksJ1_or_3 11 rfl rfl)
theorem dJ1_or_82 : decode cJ1_or 82 = .ok (.getfield 11, 3) := dk_180 0 11 (dk_at dksJ1_or_3 12 rfl rfl)
theorem dJ1_or_85 : decode cJ1_or 85 = .ok (.iload_n 2, 1) := dk_28 (dk_at dksJ1_or_3 15 rfl rfl)
theorem dJ1_or_86 : decode cJ1_or 86 = .ok (.aload_n 0, 1) := dk_42 (dk_at dksJ1_or_3 16 rfl rfl)
theorem dJ1_or_87 : decode cJ1_or 87 = .ok (.getfield 11, 3) := dk_180 0 11 (dk_at dksJ1_or_3 17 rfl rfl)
theorem dJ1_or_90 : decode cJ1_or 90 = .ok (.iload_n 2, 1) := dk_28 (dk_at dksJ1_or_3 20 rfl rfl)
theorem dJ1_or_91 : decode cJ1_or 91 = .ok (.aload_n 0, 1) := dk_42 (dk_at dksJ1_or_3 21 rfl rfl)
theorem dJ1_or_92 : decode cJ1_or 92 = .ok (.getfield 7, 3) := dk_180 0 7 (dk_at dksJ1_or_4 0 rfl rfl)
theorem dJ1_or_95 : decode cJ1_or 95 = .ok (.iload_n 2, 1) := dk_28 (dk_at dksJ1_or_4 3 rfl rfl)
theorem dJ1_or_96 : decode cJ1_or 96 = .ok (.isub, 1) := dk_100 (dk_at dksJ1_or_4 4 rfl rfl)
theorem dJ1_or_97 : decode cJ1_or 97 = .ok (.invokestatic 199, 3) := dk_184 0 199 (dk_at dksJ1_or_4 5 rfl rfl)
theorem dJ1_or_100 : decode cJ1_or 100 = .ok (.aload_n 0, 1) := dk_42 (dk_at dksJ1_or_4 8 rfl rfl)
theorem dJ1_or_101 : decode cJ1_or 101 = .ok (.invokevirtual 56, 3) := dk_182 0 56 (dk_at dksJ1_or_4 9 rfl rfl)
theorem dJ1_or_104 : decode cJ1_or 104 = .ok (.return_, 1) := dk_177 (dk_at dksJ1_or_4 12 rfl rfl)
abbrev cJ1_cardinality : ByteArray := prog_50_method_35_code
def yJ1_cardinality : MethodName := ⟨RJ1, "cardinality", "()I"⟩
def dkwJ1_cardinality_1 : List UInt8 := [132, 2, 1, 167, 255, 233, 27, 172]
abbrev dktJ1_cardinality_1 : List UInt8 := dkwJ1_cardinality_1 ++ []
def dkwJ1_cardinality_0 : List UInt8 := [3, 60, 3, 61, 28, 42, 180, 0, 7, 162, 0, 21, 27, 42, 180, 0, 11, 28, 47, 184, 0, 196, 96, 60]
abbrev dktJ1_cardinality_0 : List UInt8 := dkwJ1_cardinality_0 ++ dktJ1_cardinality_1
theorem dksJ1_cardinality_0 : cJ1_cardinality.data.toList.drop 0 = dktJ1_cardinality_0 := by decide +kernel
theorem dksJ1_cardinality_1 : cJ1_cardinality.data.toList.drop 24 = dktJ1_cardinality_1 := dk_seg dksJ1_cardinality_0 24 rfl rfl
theorem dJ1_cardinality_0 : decode cJ1_cardinality 0 = .ok (.iconst 0, 1) := dk_3 (dk_at dksJ1_cardinality_0 0 rfl rfl)
theorem dJ1_cardinality_1 : decode cJ1_cardinality 1 = .ok (.istore_n 1, 1) := dk_60 (dk_at dksJ1_cardinality_0 1 rfl rfl)
theorem dJ1_cardinality_2 : decode cJ1_cardinality 2 = .ok (.iconst 0, 1) := dk_3 (dk_at dksJ1_cardinality_0 2 rfl rfl)
theorem dJ1_cardinality_3 : decode cJ1_cardinality 3 = .ok (.istore_n 2, 1) := dk_61 (dk_at dksJ1_cardinality_0 3 rfl rfl)
theorem dJ1_cardinality_4 : decode cJ1_cardinality 4 = .ok (.iload_n 2, 1) := dk_28 (dk_at dksJ1_cardinality_0 4 rfl rfl)
theorem dJ1_cardinality_5 : decode cJ1_cardinality 5 = .ok (.aload_n 0, 1) := dk_42 (dk_at dksJ1_cardinality_0 5 rfl rfl)
theorem dJ1_cardinality_6 : decode cJ1_cardinality 6 = .ok (.getfield 7, 3) := dk_180 0 7 (dk_at dksJ1_cardinality_0 6 rfl rfl)
theorem dJ1_cardinality_9 : decode cJ1_cardinality 9 = .ok (.if_icmp .ge 21, 3) := dk_162 0 21 (dk_at dksJ1_cardinality_0 9 rfl rfl)
theorem dJ1_cardinality_12 : decode cJ1_cardinality 12 = .ok (.iload_n 1, 1) := dk_27 (dk_at dksJ1_cardinality_0 12 rfl rfl)
theorem dJ1_cardinality_13 : decode cJ1_cardinality 13 = .ok (.aload_n 0, 1) := dk_42 (dk_at dksJ1_cardinality_0 13 rfl rfl)
theorem dJ1_cardinality_14 : decode cJ1_cardinality 14 = .ok (.getfield 11, 3) := dk_180 0 11 (dk_at dksJ1_cardinality_0 14 rfl rfl)
theorem dJ1_cardinality_17 : decode cJ1_cardinality 17 = .ok (.iload_n 2, 1) := dk_28 (dk_at dksJ1_cardinality_0 17 rfl rfl)
theorem dJ1_cardinality_18 : decode cJ1_cardinality 18 = .ok (.laload, 1) := dk_47 (dk_at dksJ1_cardinality_0 18 rfl rfl)
theorem dJ1_cardinality_19 : decode cJ1_cardinality 19 = .ok (.invokestatic 196, 3) := dk_184 0 196 (dk_at dksJ1_cardinality_0 19 rfl rfl)
theorem dJ1_cardinality_22 : decode cJ1_cardinality 22 = .ok (.iadd, 1) := dk_96 (dk_at dksJ1_cardinality_0 22 rfl rfl)
theorem dJ1_cardinality_23 : decode cJ1_cardinality 23 = .ok (.istore_n 1, 1) := dk_60 (dk_at dksJ1_cardinality_0 23 rfl rfl)
theorem dJ1_cardinality_24 : decode cJ1_cardinality 24 = .ok (.iinc 2 1, 3) := dk_132 2 1 (dk_at dksJ1_cardinality_1 0 rfl rfl)
theorem dJ1_cardinality_27 : decode cJ1_cardinality 27 = .ok (.goto (-23), 3) := dk_167 255 233 (dk_at dksJ1_cardinality_1 3 rfl rfl)
theorem dJ1_cardinality_30 : decode cJ1_cardinality 30 = .ok (.iload_n 1, 1) := dk_27 (dk_at dksJ1_cardinality_1 6 rfl rfl)
theorem dJ1_cardinality_31 : decode cJ1_cardinality 31 = .ok (.ireturn, 1) := dk_172 (dk_at dksJ1_cardinality_1 7 rfl rfl)
theorem q97 : (Jvm.Cond.initialized "java/util/BitSet") ∈ lw_all := lw_g (lw_at lw_m1 6 rfl) rfl
theorem q165 : (Jvm.Cond.instantiable "java/util/BitSet" (3 : Nat)) ∈ lw_all := lw_g (lw_at lw_m1 74 rfl) rfl
theorem q167 : (Jvm.Cond.instanceMethod ({ cls := "java/util/BitSet", name := "<init>", desc := "(I)V" } : Jvm.MethodName)) ∈ lw_all := lw_g (lw_at lw_m1 76 rfl) rfl
theorem q168 : (Jvm.Cond.code ({ cls := "java/util/BitSet", name := "<init>", desc := "(I)V" } : Jvm.MethodName) prog_50_method_5_code (2 : Nat) (Option.none : Option Jvm.ClassFile.FieldType)) ∈ lw_all := lw_g (lw_at lw_m1 77 rfl) rfl
theorem q169 : (Jvm.Cond.methodLink "java/util/BitSet" (21 : Nat) ({ cls := "java/lang/Object", name := "<init>", desc := "()V" } : Jvm.MethodName)) ∈ lw_all := lw_g (lw_at lw_m1 78 rfl) rfl
theorem q170 : (Jvm.Cond.classLink "java/util/BitSet" (31 : Nat) "java/lang/NegativeArraySizeException") ∈ lw_all := lw_g (lw_at lw_m1 79 rfl) rfl
theorem q214 : (Jvm.Cond.classLink "java/util/BitSet" (33 : Nat) "java/lang/StringBuilder") ∈ lw_all := lw_g (lw_at lw_m1 123 rfl) rfl
theorem q216 : (Jvm.Cond.methodLink "java/util/BitSet" (35 : Nat) ({ cls := "java/lang/StringBuilder", name := "<init>", desc := "()V" } : Jvm.MethodName)) ∈ lw_all := lw_g (lw_at lw_m1 125 rfl) rfl
theorem q271 : (Jvm.Cond.stringRef "java/util/BitSet" (36 : Nat) "nbits < 0: ") ∈ lw_tbl := lw_at lw_m1 180 rfl
theorem q272 : (Jvm.Cond.methodLink "java/util/BitSet" (38 : Nat) ({ cls := "java/lang/StringBuilder", name := "append", desc := "(Ljava/lang/String;)Ljava/lang/StringBuilder;" } : Jvm.MethodName)) ∈ lw_all := lw_g (lw_at lw_m1 181 rfl) rfl
theorem q392 : (Jvm.Cond.methodLink "java/util/BitSet" (42 : Nat) ({ cls := "java/lang/StringBuilder", name := "append", desc := "(I)Ljava/lang/StringBuilder;" } : Jvm.MethodName)) ∈ lw_all := lw_g (lw_at lw_m2 61 rfl) rfl
theorem q417 : (Jvm.Cond.methodLink "java/util/BitSet" (45 : Nat) ({ cls := "java/lang/StringBuilder", name := "toString", desc := "()Ljava/lang/String;" } : Jvm.MethodName)) ∈ lw_all := lw_g (lw_at lw_m2 86 rfl) rfl
theorem q477 : (Jvm.Cond.methodLink "java/util/BitSet" (49 : Nat) ({ cls := "java/lang/NegativeArraySizeException", name := "<init>", desc := "(Ljava/lang/String;)V" } : Jvm.MethodName)) ∈ lw_all := lw_g (lw_at lw_m2 146 rfl) rfl
theorem q489 : (Jvm.Cond.methodLink "java/util/BitSet" (27 : Nat) ({ cls := "java/util/BitSet", name := "initWords", desc := "(I)V" } : Jvm.MethodName)) ∈ lw_all := lw_g (lw_at lw_m2 158 rfl) rfl
theorem q490 : (Jvm.Cond.privateMethod ({ cls := "java/util/BitSet", name := "initWords", desc := "(I)V" } : Jvm.MethodName)) ∈ lw_tbl := lw_at lw_m2 159 rfl
theorem q491 : (Jvm.Cond.instanceMethod ({ cls := "java/util/BitSet", name := "initWords", desc := "(I)V" } : Jvm.MethodName)) ∈ lw_all := lw_g (lw_at lw_m2 160 rfl) rfl
theorem q492 : (Jvm.Cond.code ({ cls := "java/util/BitSet", name := "initWords", desc := "(I)V" } : Jvm.MethodName) prog_50_method_6_code (2 : Nat) (Option.none : Option Jvm.ClassFile.FieldType)) ∈ lw_all := lw_g (lw_at lw_m2 161 rfl) rfl
theorem q493 : (Jvm.Cond.methodLink "java/util/BitSet" (52 : Nat) ({ cls := "java/util/BitSet", name := "wordIndex", desc := "(I)I" } : Jvm.MethodName)) ∈ lw_all := lw_g (lw_at lw_m2 162 rfl) rfl
theorem q494 : (Jvm.Cond.static ({ cls := "java/util/BitSet", name := "wordIndex", desc := "(I)I" } : Jvm.MethodName)) ∈ lw_all := lw_g (lw_at lw_m2 163 rfl) rfl
theorem q495 : (Jvm.Cond.code ({ cls := "java/util/BitSet", name := "wordIndex", desc := "(I)I" } : Jvm.MethodName) prog_50_method_1_code (1 : Nat) (Option.some Jvm.ClassFile.FieldType.int)) ∈ lw_all := lw_g (lw_at lw_m2 164 rfl) rfl
theorem q496 : (Jvm.Cond.fieldLink "java/util/BitSet" (11 : Nat) "java/util/BitSet" "words" "[J") ∈ lw_all := lw_g (lw_at lw_m2 165 rfl) rfl
theorem q497 : (Jvm.Cond.fieldLink "java/util/BitSet" (7 : Nat) "java/util/BitSet" "wordsInUse" "I") ∈ lw_all := lw_g (lw_at lw_m2 166 rfl) rfl
theorem q498 : (Jvm.Cond.fieldLink "java/util/BitSet" (24 : Nat) "java/util/BitSet" "sizeIsSticky" "Z") ∈ lw_all := lw_g (lw_at lw_m2 167 rfl) rfl
theorem q499 : (Jvm.Cond.lays "java/util/BitSet" "java/util/BitSet" "words" "[J") ∈ lw_all := lw_g (lw_at lw_m2 168 rfl) rfl
theorem q500 : (Jvm.Cond.soleField "java/util/BitSet" "words") ∈ lw_all := lw_g (lw_at lw_m2 169 rfl) rfl
theorem q501 : (Jvm.Cond.lays "java/util/BitSet" "java/util/BitSet" "wordsInUse" "I") ∈ lw_all := lw_g (lw_at lw_m2 170 rfl) rfl
theorem q502 : (Jvm.Cond.soleField "java/util/BitSet" "wordsInUse") ∈ lw_all := lw_g (lw_at lw_m2 171 rfl) rfl
theorem q503 : (Jvm.Cond.lays "java/util/BitSet" "java/util/BitSet" "sizeIsSticky" "Z") ∈ lw_all := lw_g (lw_at lw_m2 172 rfl) rfl
theorem q504 : (Jvm.Cond.soleField "java/util/BitSet" "sizeIsSticky") ∈ lw_all := lw_g (lw_at lw_m2 173 rfl) rfl
theorem q505 : (Jvm.Cond.superclass "java/util/BitSet" "java/lang/Object") ∈ lw_all := lw_g (lw_at lw_m2 174 rfl) rfl
theorem q852 : (Jvm.Cond.instanceMethod ({ cls := "java/util/BitSet", name := "clear", desc := "()V" } : Jvm.MethodName)) ∈ lw_all := lw_g (lw_at lw_m4 41 rfl) rfl
theorem q853 : (Jvm.Cond.selects "java/util/BitSet" ({ cls := "java/util/BitSet", name := "clear", desc := "()V" } : Jvm.MethodName) ({ cls := "java/util/BitSet", name := "clear", desc := "()V" } : Jvm.MethodName)) ∈ lw_all := lw_g (lw_at lw_m4 42 rfl) rfl
theorem q854 : (Jvm.Cond.code ({ cls := "java/util/BitSet", name := "clear", desc := "()V" } : Jvm.MethodName) prog_50_method_25_code (1 : Nat) (Option.none : Option Jvm.ClassFile.FieldType)) ∈ lw_all := lw_g (lw_at lw_m4 43 rfl) rfl
theorem q860 : (Jvm.Cond.instanceMethod ({ cls := "java/util/BitSet", name := "set", desc := "(I)V" } : Jvm.MethodName)) ∈ lw_all := lw_g (lw_at lw_m4 49 rfl) rfl
theorem q861 : (Jvm.Cond.selects "java/util/BitSet" ({ cls := "java/util/BitSet", name := "set", desc := "(I)V" } : Jvm.MethodName) ({ cls := "java/util/BitSet", name := "set", desc := "(I)V" } : Jvm.MethodName)) ∈ lw_all := lw_g (lw_at lw_m4 50 rfl) rfl
theorem q862 : (Jvm.Cond.code ({ cls := "java/util/BitSet", name := "set", desc := "(I)V" } : Jvm.MethodName) prog_50_method_19_code (3 : Nat) (Option.none : Option Jvm.ClassFile.FieldType)) ∈ lw_all := lw_g (lw_at lw_m4 51 rfl) rfl
theorem q863 : (Jvm.Cond.classLink "java/util/BitSet" (142 : Nat) "java/lang/IndexOutOfBoundsException") ∈ lw_all := lw_g (lw_at lw_m4 52 rfl) rfl
theorem q872 : (Jvm.Cond.stringRef "java/util/BitSet" (153 : Nat) "bitIndex < 0: ") ∈ lw_tbl := lw_at lw_m4 61 rfl
theorem q873 : (Jvm.Cond.methodLink "java/util/BitSet" (146 : Nat) ({ cls := "java/lang/IndexOutOfBoundsException", name := "<init>", desc := "(Ljava/lang/String;)V" } : Jvm.MethodName)) ∈ lw_all := lw_g (lw_at lw_m4 62 rfl) rfl
theorem q880 : (Jvm.Cond.methodLink "java/util/BitSet" (155 : Nat) ({ cls := "java/util/BitSet", name := "expandTo", desc := "(I)V" } : Jvm.MethodName)) ∈ lw_all := lw_g (lw_at lw_m4 69 rfl) rfl
theorem q881 : (Jvm.Cond.privateMethod ({ cls := "java/util/BitSet", name := "expandTo", desc := "(I)V" } : Jvm.MethodName)) ∈ lw_tbl := lw_at lw_m4 70 rfl
theorem q882 : (Jvm.Cond.instanceMethod ({ cls := "java/util/BitSet", name := "expandTo", desc := "(I)V" } : Jvm.MethodName)) ∈ lw_all := lw_g (lw_at lw_m4 71 rfl) rfl
theorem q883 : (Jvm.Cond.code ({ cls := "java/util/BitSet", name := "expandTo", desc := "(I)V" } : Jvm.MethodName) prog_50_method_15_code (3 : Nat) (Option.none : Option Jvm.ClassFile.FieldType)) ∈ lw_all := lw_g (lw_at lw_m4 72 rfl) rfl
theorem q884 : (Jvm.Cond.methodLink "java/util/BitSet" (139 : Nat) ({ cls := "java/util/BitSet", name := "ensureCapacity", desc := "(I)V" } : Jvm.MethodName)) ∈ lw_all := lw_g (lw_at lw_m4 73 rfl) rfl
theorem q885 : (Jvm.Cond.privateMethod ({ cls := "java/util/BitSet", name := "ensureCapacity", desc := "(I)V" } : Jvm.MethodName)) ∈ lw_tbl := lw_at lw_m4 74 rfl
theorem q886 : (Jvm.Cond.instanceMethod ({ cls := "java/util/BitSet", name := "ensureCapacity", desc := "(I)V" } : Jvm.MethodName)) ∈ lw_all := lw_g (lw_at lw_m4 75 rfl) rfl
theorem q887 : (Jvm.Cond.code ({ cls := "java/util/BitSet", name := "ensureCapacity", desc := "(I)V" } : Jvm.MethodName) prog_50_method_14_code (3 : Nat) (Option.none : Option Jvm.ClassFile.FieldType)) ∈ lw_all := lw_g (lw_at lw_m4 76 rfl) rfl
theorem q888 : (Jvm.Cond.methodLink "java/util/BitSet" (133 : Nat) ({ cls := "java/lang/Math", name := "max", desc := "(II)I" } : Jvm.MethodName)) ∈ lw_all := lw_g (lw_at lw_m4 77 rfl) rfl
theorem q889 : (Jvm.Cond.methodLink "java/util/BitSet" (59 : Nat) ({ cls := "java/util/Arrays", name := "copyOf", desc := "([JI)[J" } : Jvm.MethodName)) ∈ lw_all := lw_g (lw_at lw_m4 78 rfl) rfl
theorem q897 : (Jvm.Cond.methodLink "java/util/BitSet" (56 : Nat) ({ cls := "java/util/BitSet", name := "checkInvariants", desc := "()V" } : Jvm.MethodName)) ∈ lw_all := lw_g (lw_at lw_m4 86 rfl) rfl
theorem q898 : (Jvm.Cond.privateMethod ({ cls := "java/util/BitSet", name := "checkInvariants", desc := "()V" } : Jvm.MethodName)) ∈ lw_tbl := lw_at lw_m4 87 rfl
theorem q899 : (Jvm.Cond.instanceMethod ({ cls := "java/util/BitSet", name := "checkInvariants", desc := "()V" } : Jvm.MethodName)) ∈ lw_all := lw_g (lw_at lw_m4 88 rfl) rfl
theorem q900 : (Jvm.Cond.code ({ cls := "java/util/BitSet", name := "checkInvariants", desc := "()V" } : Jvm.MethodName) prog_50_method_2_code (1 : Nat) (Option.none : Option Jvm.ClassFile.FieldType)) ∈ lw_all := lw_g (lw_at lw_m4 89 rfl) rfl
theorem q901 : (Jvm.Cond.fieldLink "java/util/BitSet" (3 : Nat) "java/util/BitSet" "$assertionsDisabled" "Z") ∈ lw_all := lw_g (lw_at lw_m4 90 rfl) rfl
theorem q902 : (Jvm.Cond.laysStatic "java/util/BitSet" "$assertionsDisabled" "Z") ∈ lw_tbl := lw_at lw_m4 91 rfl
theorem q908 : (Jvm.Cond.instanceMethod ({ cls := "java/util/BitSet", name := "intersects", desc := "(Ljava/util/BitSet;)Z" } : Jvm.MethodName)) ∈ lw_all := lw_g (lw_at lw_m4 97 rfl) rfl
theorem q909 : (Jvm.Cond.selects "java/util/BitSet" ({ cls := "java/util/BitSet", name := "intersects", desc := "(Ljava/util/BitSet;)Z" } : Jvm.MethodName) ({ cls := "java/util/BitSet", name := "intersects", desc := "(Ljava/util/BitSet;)Z" } : Jvm.MethodName)) ∈ lw_all := lw_g (lw_at lw_m4 98 rfl) rfl
theorem q910 : (Jvm.Cond.code ({ cls := "java/util/BitSet", name := "intersects", desc := "(Ljava/util/BitSet;)Z" } : Jvm.MethodName) prog_50_method_34_code (3 : Nat) (Option.some Jvm.ClassFile.FieldType.boolean)) ∈ lw_all := lw_g (lw_at lw_m4 99 rfl) rfl
theorem q911 : (Jvm.Cond.methodLink "java/util/BitSet" (193 : Nat) ({ cls := "java/lang/Math", name := "min", desc := "(II)I" } : Jvm.MethodName)) ∈ lw_all := lw_g (lw_at lw_m4 100 rfl) rfl
theorem q916 : (Jvm.Cond.instanceMethod ({ cls := "java/util/BitSet", name := "get", desc := "(I)Z" } : Jvm.MethodName)) ∈ lw_all := lw_g (lw_at lw_m4 105 rfl) rfl
theorem q917 : (Jvm.Cond.selects "java/util/BitSet" ({ cls := "java/util/BitSet", name := "get", desc := "(I)Z" } : Jvm.MethodName) ({ cls := "java/util/BitSet", name := "get", desc := "(I)Z" } : Jvm.MethodName)) ∈ lw_all := lw_g (lw_at lw_m4 106 rfl) rfl
theorem q918 : (Jvm.Cond.code ({ cls := "java/util/BitSet", name := "get", desc := "(I)Z" } : Jvm.MethodName) prog_50_method_26_code (3 : Nat) (Option.some Jvm.ClassFile.FieldType.boolean)) ∈ lw_all := lw_g (lw_at lw_m4 107 rfl) rfl
theorem q1052 : (Jvm.Cond.instanceMethod ({ cls := "java/util/BitSet", name := "or", desc := "(Ljava/util/BitSet;)V" } : Jvm.MethodName)) ∈ lw_all := lw_g (lw_at lw_m5 1 rfl) rfl
theorem q1053 : (Jvm.Cond.selects "java/util/BitSet" ({ cls := "java/util/BitSet", name := "or", desc := "(Ljava/util/BitSet;)V" } : Jvm.MethodName) ({ cls := "java/util/BitSet", name := "or", desc := "(Ljava/util/BitSet;)V" } : Jvm.MethodName)) ∈ lw_all := lw_g (lw_at lw_m5 2 rfl) rfl
theorem q1054 : (Jvm.Cond.code ({ cls := "java/util/BitSet", name := "or", desc := "(Ljava/util/BitSet;)V" } : Jvm.MethodName) prog_50_method_37_code (4 : Nat) (Option.none : Option Jvm.ClassFile.FieldType)) ∈ lw_all := lw_g (lw_at lw_m5 3 rfl) rfl
theorem q1055 : (Jvm.Cond.methodLink "java/util/BitSet" (199 : Nat) ({ cls := "java/lang/System", name := "arraycopy", desc := "(Ljava/lang/Object;ILjava/lang/Object;II)V" } : Jvm.MethodName)) ∈ lw_all := lw_g (lw_at lw_m5 4 rfl) rfl
theorem q1288 : (Jvm.Cond.instanceMethod ({ cls := "java/util/BitSet", name := "cardinality", desc := "()I" } : Jvm.MethodName)) ∈ lw_all := lw_g (lw_at lw_m5 237 rfl) rfl
theorem q1289 : (Jvm.Cond.selects "java/util/BitSet" ({ cls := "java/util/BitSet", name := "cardinality", desc := "()I" } : Jvm.MethodName) ({ cls := "java/util/BitSet", name := "cardinality", desc := "()I" } : Jvm.MethodName)) ∈ lw_all := lw_g (lw_at lw_m5 238 rfl) rfl
theorem q1290 : (Jvm.Cond.code ({ cls := "java/util/BitSet", name := "cardinality", desc := "()I" } : Jvm.MethodName) prog_50_method_35_code (3 : Nat) (Option.some Jvm.ClassFile.FieldType.int)) ∈ lw_all := lw_g (lw_at lw_m5 239 rfl) rfl
theorem q1291 : (Jvm.Cond.methodLink "java/util/BitSet" (196 : Nat) ({ cls := "java/lang/Long", name := "bitCount", desc := "(J)I" } : Jvm.MethodName)) ∈ lw_all := lw_g (lw_at lw_m6 0 rfl) rfl
theorem q2231 : (Jvm.Cond.castable "java/util/BitSet" "java/lang/Object") ∈ lw_tbl := lw_at lw_m9 220 rfl
theorem in_J1 : ∀ w ∈ wsJ10, w ∈ lw_all := lw_in wsJ10 [499, 501, 503] (by decide +kernel) (by decide +kernel)
/-! java/lang/Throwable -/
set_option maxRecDepth 100000
def RJ2 : String := "java/lang/Throwable"
def TJ2 : u_T := fun k => match k with
  | 0 => ("java/lang/Throwable", "cause", "Ljava/lang/Throwable;", false)
  | 1 => ("java/lang/Throwable", "stackTrace", "[Ljava/lang/StackTraceElement;", false)
  | 2 => ("java/lang/Throwable", "suppressedExceptions", "Ljava/util/List;", false)
  | 3 => ("java/lang/Throwable", "detailMessage", "Ljava/lang/String;", false)
  | _ => ("java/lang/Throwable", "backtrace", "Ljava/lang/Object;", false)
def tyJ2 : Nat → FieldType := fun k => match k with
  | 0 => .object "java/lang/Throwable"
  | 1 => .array (.object "java/lang/StackTraceElement")
  | 2 => .object "java/util/List"
  | 3 => .object "java/lang/String"
  | _ => .object "java/lang/Object"
abbrev wsJ20 : List Cond := u_ws RJ2 TJ2 5
theorem nmJ2 : ∀ a, a < 5 → ∀ b, b < 5 → a ≠ b → (TJ2 a).2.1 ≠ (TJ2 b).2.1 := by decide +kernel
theorem tyJ2_ok : ∀ k, k < 5 → parseFieldDescriptor (TJ2 k).2.2.1 = some (tyJ2 k) := by decide +kernel
abbrev cJ2_init : ByteArray := prog_46_method_1_code
def yJ2_init : MethodName := ⟨RJ2, "<init>", "()V"⟩
def dkwJ2_init_1 : List UInt8 := [182, 0, 27, 87, 177]
abbrev dktJ2_init_1 : List UInt8 := dkwJ2_init_1 ++ []
def dkwJ2_init_0 : List UInt8 := [42, 183, 0, 1, 42, 42, 181, 0, 7, 42, 178, 0, 13, 181, 0, 17, 42, 178, 0, 20, 181, 0, 24, 42]
abbrev dktJ2_init_0 : List UInt8 := dkwJ2_init_0 ++ dktJ2_init_1
theorem dksJ2_init_0 : cJ2_init.data.toList.drop 0 = dktJ2_init_0 := by decide +kernel
theorem dksJ2_init_1 : cJ2_init.data.toList.drop 24 = dktJ2_init_1 := dk_seg dksJ2_init_0 24 rfl rfl
theorem dJ2_init_0 : decode cJ2_init 0 = .ok (.aload_n 0, 1) := dk_42 (dk_at dksJ2_init_0 0 rfl rfl)
theorem dJ2_init_1 : decode cJ2_init 1 = .ok (.invokespecial 1, 3) := dk_183 0 1 (dk_at dksJ2_init_0 1 rfl rfl)
theorem dJ2_init_4 : decode cJ2_init 4 = .ok (.aload_n 0, 1) := dk_42 (dk_at dksJ2_init_0 4 rfl rfl)
theorem dJ2_init_5 : decode cJ2_init 5 = .ok (.aload_n 0, 1) := dk_42 (dk_at dksJ2_init_0 5 rfl rfl)
theorem dJ2_init_6 : decode cJ2_init 6 = .ok (.putfield 7, 3) := dk_181 0 7 (dk_at dksJ2_init_0 6 rfl rfl)
theorem dJ2_init_9 : decode cJ2_init 9 = .ok (.aload_n 0, 1) := dk_42 (dk_at dksJ2_init_0 9 rfl rfl)
theorem dJ2_init_10 : decode cJ2_init 10 = .ok (.getstatic 13, 3) := dk_178 0 13 (dk_at dksJ2_init_0 10 rfl rfl)
theorem dJ2_init_13 : decode cJ2_init 13 = .ok (.putfield 17, 3) := dk_181 0 17 (dk_at dksJ2_init_0 13 rfl rfl)
theorem dJ2_init_16 : decode cJ2_init 16 = .ok (.aload_n 0, 1) := dk_42 (dk_at dksJ2_init_0 16 rfl rfl)
theorem dJ2_init_17 : decode cJ2_init 17 = .ok (.getstatic 20, 3) := dk_178 0 20 (dk_at dksJ2_init_0 17 rfl rfl)
theorem dJ2_init_20 : decode cJ2_init 20 = .ok (.putfield 24, 3) := dk_181 0 24 (dk_at dksJ2_init_0 20 rfl rfl)
theorem dJ2_init_23 : decode cJ2_init 23 = .ok (.aload_n 0, 1) := dk_42 (dk_at dksJ2_init_0 23 rfl rfl)
theorem dJ2_init_24 : decode cJ2_init 24 = .ok (.invokevirtual 27, 3) := dk_182 0 27 (dk_at dksJ2_init_1 0 rfl rfl)
theorem dJ2_init_27 : decode cJ2_init 27 = .ok (.pop, 1) := dk_87 (dk_at dksJ2_init_1 3 rfl rfl)
theorem dJ2_init_28 : decode cJ2_init 28 = .ok (.return_, 1) := dk_177 (dk_at dksJ2_init_1 4 rfl rfl)
abbrev cJ2_init_2 : ByteArray := prog_46_method_2_code
def yJ2_init_2 : MethodName := ⟨RJ2, "<init>", "(Ljava/lang/String;)V"⟩
def dkwJ2_init_2_1 : List UInt8 := [182, 0, 27, 87, 42, 43, 181, 0, 31, 177]
abbrev dktJ2_init_2_1 : List UInt8 := dkwJ2_init_2_1 ++ []
def dkwJ2_init_2_0 : List UInt8 := [42, 183, 0, 1, 42, 42, 181, 0, 7, 42, 178, 0, 13, 181, 0, 17, 42, 178, 0, 20, 181, 0, 24, 42]
abbrev dktJ2_init_2_0 : List UInt8 := dkwJ2_init_2_0 ++ dktJ2_init_2_1
theorem dksJ2_init_2_0 : cJ2_init_2.data.toList.drop 0 = dktJ2_init_2_0 := by decide +kernel
theorem dksJ2_init_2_1 : cJ2_init_2.data.toList.drop 24 = dktJ2_init_2_1 := dk_seg dksJ2_init_2_0 24 rfl rfl
theorem dJ2_init_2_0 : decode cJ2_init_2 0 = .ok (.aload_n 0, 1) := dk_42 (dk_at dksJ2_init_2_0 0 rfl rfl)
theorem dJ2_init_2_1 : decode cJ2_init_2 1 = .ok (.invokespecial 1, 3) := dk_183 0 1 (dk_at dksJ2_init_2_0 1 rfl rfl)
theorem dJ2_init_2_4 : decode cJ2_init_2 4 = .ok (.aload_n 0, 1) := dk_42 (dk_at dksJ2_init_2_0 4 rfl rfl)
theorem dJ2_init_2_5 : decode cJ2_init_2 5 = .ok (.aload_n 0, 1) := dk_42 (dk_at dksJ2_init_2_0 5 rfl rfl)
theorem dJ2_init_2_6 : decode cJ2_init_2 6 = .ok (.putfield 7, 3) := dk_181 0 7 (dk_at dksJ2_init_2_0 6 rfl rfl)
theorem dJ2_init_2_9 : decode cJ2_init_2 9 = .ok (.aload_n 0, 1) := dk_42 (dk_at dksJ2_init_2_0 9 rfl rfl)
theorem dJ2_init_2_10 : decode cJ2_init_2 10 = .ok (.getstatic 13, 3) := dk_178 0 13 (dk_at dksJ2_init_2_0 10 rfl rfl)
theorem dJ2_init_2_13 : decode cJ2_init_2 13 = .ok (.putfield 17, 3) := dk_181 0 17 (dk_at dksJ2_init_2_0 13 rfl rfl)
theorem dJ2_init_2_16 : decode cJ2_init_2 16 = .ok (.aload_n 0, 1) := dk_42 (dk_at dksJ2_init_2_0 16 rfl rfl)
theorem dJ2_init_2_17 : decode cJ2_init_2 17 = .ok (.getstatic 20, 3) := dk_178 0 20 (dk_at dksJ2_init_2_0 17 rfl rfl)
theorem dJ2_init_2_20 : decode cJ2_init_2 20 = .ok (.putfield 24, 3) := dk_181 0 24 (dk_at dksJ2_init_2_0 20 rfl rfl)
theorem dJ2_init_2_23 : decode cJ2_init_2 23 = .ok (.aload_n 0, 1) := dk_42 (dk_at dksJ2_init_2_0 23 rfl rfl)
theorem dJ2_init_2_24 : decode cJ2_init_2 24 = .ok (.invokevirtual 27, 3) := dk_182 0 27 (dk_at dksJ2_init_2_1 0 rfl rfl)
theorem dJ2_init_2_27 : decode cJ2_init_2 27 = .ok (.pop, 1) := dk_87 (dk_at dksJ2_init_2_1 3 rfl rfl)
theorem dJ2_init_2_28 : decode cJ2_init_2 28 = .ok (.aload_n 0, 1) := dk_42 (dk_at dksJ2_init_2_1 4 rfl rfl)
theorem dJ2_init_2_29 : decode cJ2_init_2 29 = .ok (.aload_n 1, 1) := dk_43 (dk_at dksJ2_init_2_1 5 rfl rfl)
theorem dJ2_init_2_30 : decode cJ2_init_2 30 = .ok (.putfield 31, 3) := dk_181 0 31 (dk_at dksJ2_init_2_1 6 rfl rfl)
theorem dJ2_init_2_33 : decode cJ2_init_2 33 = .ok (.return_, 1) := dk_177 (dk_at dksJ2_init_2_1 9 rfl rfl)
abbrev cJ2_init_3 : ByteArray := prog_46_method_5_code
def yJ2_init_3 : MethodName := ⟨RJ2, "<init>", "(Ljava/lang/String;Ljava/lang/Throwable;ZZ)V"⟩
def dkwJ2_init_3_2 : List UInt8 := [44, 181, 0, 7, 29, 154, 0, 8, 42, 1, 181, 0, 24, 177]
abbrev dktJ2_init_3_2 : List UInt8 := dkwJ2_init_3_2 ++ []
def dkwJ2_init_3_1 : List UInt8 := [21, 4, 153, 0, 11, 42, 182, 0, 27, 87, 167, 0, 8, 42, 1, 181, 0, 17, 42, 43, 181, 0, 31, 42]
abbrev dktJ2_init_3_1 : List UInt8 := dkwJ2_init_3_1 ++ dktJ2_init_3_2
def dkwJ2_init_3_0 : List UInt8 := [42, 183, 0, 1, 42, 42, 181, 0, 7, 42, 178, 0, 13, 181, 0, 17, 42, 178, 0, 20, 181, 0, 24]
abbrev dktJ2_init_3_0 : List UInt8 := dkwJ2_init_3_0 ++ dktJ2_init_3_1
theorem dksJ2_init_3_0 : cJ2_init_3.data.toList.drop 0 = dktJ2_init_3_0 := by decide +kernel
theorem dksJ2_init_3_1 : cJ2_init_3.data.toList.drop 23 = dktJ2_init_3_1 := dk_seg dksJ2_init_3_0 23 rfl rfl
theorem dksJ2_init_3_2 : cJ2_init_3.data.toList.drop 47 = dktJ2_init_3_2 := dk_seg dksJ2_init_3_1 24 rfl rfl
theorem dJ2_init_3_0 : decode cJ2_init_3 0 = .ok (.aload_n 0, 1) := dk_42 (dk_at dksJ2_init_3_0 0 rfl rfl)
theorem dJ2_init_3_1 : decode cJ2_init_3 1 = .ok (.invokespecial 1, 3) := dk_183 0 1 (dk_at dksJ2_init_3_0 1 rfl rfl)
theorem dJ2_init_3_4 : decode cJ2_init_3 4 = .ok (.aload_n 0, 1) := dk_42 (dk_at dksJ2_init_3_0 4 rfl rfl)
theorem dJ2_init_3_5 : decode cJ2_init_3 5 = .ok (.aload_n 0, 1) := dk_42 (dk_at dksJ2_init_3_0 5 rfl rfl)
theorem dJ2_init_3_6 : decode cJ2_init_3 6 = .ok (.putfield 7, 3) := dk_181 0 7 (dk_at dksJ2_init_3_0 6 rfl rfl)
theorem dJ2_init_3_9 : decode cJ2_init_3 9 = .ok (.aload_n 0, 1) := dk_42 (dk_at dksJ2_init_3_0 9 rfl rfl)
theorem dJ2_init_3_10 : decode cJ2_init_3 10 = .ok (.getstatic 13, 3) := dk_178 0 13 (dk_at dksJ2_init_3_0 10 rfl rfl)
theorem dJ2_init_3_13 : decode cJ2_init_3 13 = .ok (.putfield 17, 3) := dk_181 0 17 (dk_at dksJ2_init_3_0 13 rfl rfl)
theorem dJ2_init_3_16 : decode cJ2_init_3 16 = .ok (.aload_n 0, 1) := dk_42 (dk_at dksJ2_init_3_0 16 rfl rfl)
theorem dJ2_init_3_17 : decode cJ2_init_3 17 = .ok (.getstatic 20, 3) := dk_178 0 20 (dk_at dksJ2_init_3_0 17 rfl rfl)
theorem dJ2_init_3_20 : decode cJ2_init_3 20 = .ok (.putfield 24, 3) := dk_181 0 24 (dk_at dksJ2_init_3_0 20 rfl rfl)
theorem dJ2_init_3_23 : decode cJ2_init_3 23 = .ok (.iload 4, 2) := dk_21 4 (dk_at dksJ2_init_3_1 0 rfl rfl)
theorem dJ2_init_3_25 : decode cJ2_init_3 25 = .ok (.ifCond .eq 11, 3) := dk_153 0 11 (dk_at dksJ2_init_3_1 2 rfl rfl)
theorem dJ2_init_3_28 : decode cJ2_init_3 28 = .ok (.aload_n 0, 1) := dk_42 (dk_at dksJ2_init_3_1 5 rfl rfl)
theorem dJ2_init_3_29 : decode cJ2_init_3 29 = .ok (.invokevirtual 27, 3) := dk_182 0 27 (dk_at dksJ2_init_3_1 6 rfl rfl)
theorem dJ2_init_3_32 : decode cJ2_init_3 32 = .ok (.pop, 1) := dk_87 (dk_at dksJ2_init_3_1 9 rfl rfl)
theorem dJ2_init_3_33 : decode cJ2_init_3 33 = .ok (.goto 8, 3) := dk_167 0 8 (dk_at dksJ2_init_3_1 10 rfl rfl)
theorem dJ2_init_3_36 : decode cJ2_init_3 36 = .ok (.aload_n 0, 1) := dk_42 (dk_at dksJ2_init_3_1 13 rfl rfl)
theorem dJ2_init_3_37 : decode cJ2_init_3 37 = .ok (.aconst_null, 1) := dk_1 (dk_at dksJ2_init_3_1 14 rfl rfl)
theorem dJ2_init_3_38 : decode cJ2_init_3 38 = .ok (.putfield 17, 3) := dk_181 0 17 (dk_at dksJ2_init_3_1 15 rfl rfl)
theorem dJ2_init_3_41 : decode cJ2_init_3 41 = .ok (.aload_n 0, 1) := dk_42 (dk_at dksJ2_init_3_1 18 rfl rfl)
theorem dJ2_init_3_42 : decode cJ2_init_3 42 = .ok (.aload_n 1, 1) := dk_43 (dk_at dksJ2_init_3_1 19 rfl rfl)
theorem dJ2_init_3_43 : decode cJ2_init_3 43 = .ok (.putfield 31, 3) := dk_181 0 31 (dk_at dksJ2_init_3_1 20 rfl rfl)
theorem dJ2_init_3_46 : decode cJ2_init_3 46 = .ok (.aload_n 0, 1) := dk_42 (dk_at dksJ2_init_3_1 23 rfl rfl)
theorem dJ2_init_3_47 : decode cJ2_init_3 47 = .ok (.aload_n 2, 1) := dk_44 (dk_at dksJ2_init_3_2 0 rfl rfl)
theorem dJ2_init_3_48 : decode cJ2_init_3 48 = .ok (.putfield 7, 3) := dk_181 0 7 (dk_at dksJ2_init_3_2 1 rfl rfl)
theorem dJ2_init_3_51 : decode cJ2_init_3 51 = .ok (.iload_n 3, 1) := dk_29 (dk_at dksJ2_init_3_2 4 rfl rfl)
theorem dJ2_init_3_52 : decode cJ2_init_3 52 = .ok (.ifCond .ne 8, 3) := dk_154 0 8 (dk_at dksJ2_init_3_2 5 rfl rfl)
theorem dJ2_init_3_55 : decode cJ2_init_3 55 = .ok (.aload_n 0, 1) := dk_42 (dk_at dksJ2_init_3_2 8 rfl rfl)
theorem dJ2_init_3_56 : decode cJ2_init_3 56 = .ok (.aconst_null, 1) := dk_1 (dk_at dksJ2_init_3_2 9 rfl rfl)
theorem dJ2_init_3_57 : decode cJ2_init_3 57 = .ok (.putfield 24, 3) := dk_181 0 24 (dk_at dksJ2_init_3_2 10 rfl rfl)
theorem dJ2_init_3_60 : decode cJ2_init_3 60 = .ok (.return_, 1) := dk_177 (dk_at dksJ2_init_3_2 13 rfl rfl)
theorem q98 : (Jvm.Cond.initialized "java/lang/Throwable") ∈ lw_all := lw_g (lw_at lw_m1 7 rfl) rfl
theorem q177 : (Jvm.Cond.declares ({ cls := "java/lang/Throwable", name := "<init>", desc := "()V" } : Jvm.MethodName)) ∈ lw_tbl := lw_at lw_m1 86 rfl
theorem q178 : (Jvm.Cond.declares ({ cls := "java/lang/Throwable", name := "<init>", desc := "(Ljava/lang/String;)V" } : Jvm.MethodName)) ∈ lw_tbl := lw_at lw_m1 87 rfl
theorem q182 : (Jvm.Cond.lays "java/lang/Throwable" "java/lang/Throwable" "cause" "Ljava/lang/Throwable;") ∈ lw_all := lw_g (lw_at lw_m1 91 rfl) rfl
theorem q184 : (Jvm.Cond.lays "java/lang/Throwable" "java/lang/Throwable" "stackTrace" "[Ljava/lang/StackTraceElement;") ∈ lw_all := lw_g (lw_at lw_m1 93 rfl) rfl
theorem q186 : (Jvm.Cond.lays "java/lang/Throwable" "java/lang/Throwable" "suppressedExceptions" "Ljava/util/List;") ∈ lw_all := lw_g (lw_at lw_m1 95 rfl) rfl
theorem q188 : (Jvm.Cond.lays "java/lang/Throwable" "java/lang/Throwable" "detailMessage" "Ljava/lang/String;") ∈ lw_all := lw_g (lw_at lw_m1 97 rfl) rfl
theorem q190 : (Jvm.Cond.lays "java/lang/Throwable" "java/lang/Throwable" "backtrace" "Ljava/lang/Object;") ∈ lw_all := lw_g (lw_at lw_m1 99 rfl) rfl
theorem q191 : (Jvm.Cond.fieldLink "java/lang/Throwable" (198 : Nat) "java/lang/Throwable" "backtrace" "Ljava/lang/Object;") ∈ lw_all := lw_g (lw_at lw_m1 100 rfl) rfl
theorem q192 : (Jvm.Cond.superclass "java/lang/Throwable" "java/lang/Object") ∈ lw_all := lw_g (lw_at lw_m1 101 rfl) rfl
theorem q193 : (Jvm.Cond.instanceMethod ({ cls := "java/lang/Throwable", name := "<init>", desc := "()V" } : Jvm.MethodName)) ∈ lw_all := lw_g (lw_at lw_m1 102 rfl) rfl
theorem q194 : (Jvm.Cond.code ({ cls := "java/lang/Throwable", name := "<init>", desc := "()V" } : Jvm.MethodName) prog_46_method_1_code (1 : Nat) (Option.none : Option Jvm.ClassFile.FieldType)) ∈ lw_all := lw_g (lw_at lw_m1 103 rfl) rfl
theorem q195 : (Jvm.Cond.methodLink "java/lang/Throwable" (1 : Nat) ({ cls := "java/lang/Object", name := "<init>", desc := "()V" } : Jvm.MethodName)) ∈ lw_all := lw_g (lw_at lw_m1 104 rfl) rfl
theorem q196 : (Jvm.Cond.fieldLink "java/lang/Throwable" (13 : Nat) "java/lang/Throwable" "UNASSIGNED_STACK" "[Ljava/lang/StackTraceElement;") ∈ lw_all := lw_g (lw_at lw_m1 105 rfl) rfl
theorem q197 : (Jvm.Cond.laysStatic "java/lang/Throwable" "UNASSIGNED_STACK" "[Ljava/lang/StackTraceElement;") ∈ lw_tbl := lw_at lw_m1 106 rfl
theorem q198 : (Jvm.Cond.fieldLink "java/lang/Throwable" (20 : Nat) "java/lang/Throwable" "SUPPRESSED_SENTINEL" "Ljava/util/List;") ∈ lw_all := lw_g (lw_at lw_m1 107 rfl) rfl
theorem q199 : (Jvm.Cond.laysStatic "java/lang/Throwable" "SUPPRESSED_SENTINEL" "Ljava/util/List;") ∈ lw_tbl := lw_at lw_m1 108 rfl
theorem q200 : (Jvm.Cond.methodLink "java/lang/Throwable" (27 : Nat) ({ cls := "java/lang/Throwable", name := "fillInStackTrace", desc := "()Ljava/lang/Throwable;" } : Jvm.MethodName)) ∈ lw_all := lw_g (lw_at lw_m1 109 rfl) rfl
theorem q201 : (Jvm.Cond.instanceMethod ({ cls := "java/lang/Throwable", name := "fillInStackTrace", desc := "()Ljava/lang/Throwable;" } : Jvm.MethodName)) ∈ lw_all := lw_g (lw_at lw_m1 110 rfl) rfl
theorem q202 : (Jvm.Cond.sameMethod "java/lang/Throwable" "java/lang/Throwable" "fillInStackTrace" "()Ljava/lang/Throwable;") ∈ lw_all := lw_g (lw_at lw_m1 111 rfl) rfl
theorem q208 : (Jvm.Cond.codeSync ({ cls := "java/lang/Throwable", name := "fillInStackTrace", desc := "()Ljava/lang/Throwable;" } : Jvm.MethodName) prog_46_method_18_code (1 : Nat) (Option.some (Jvm.ClassFile.FieldType.object "java/lang/Throwable"))) ∈ lw_all := lw_g (lw_at lw_m1 117 rfl) rfl
theorem q209 : (Jvm.Cond.methodLink "java/lang/Throwable" (202 : Nat) ({ cls := "java/lang/Throwable", name := "fillInStackTrace", desc := "(I)Ljava/lang/Throwable;" } : Jvm.MethodName)) ∈ lw_all := lw_g (lw_at lw_m1 118 rfl) rfl
theorem q210 : (Jvm.Cond.privateMethod ({ cls := "java/lang/Throwable", name := "fillInStackTrace", desc := "(I)Ljava/lang/Throwable;" } : Jvm.MethodName)) ∈ lw_tbl := lw_at lw_m1 119 rfl
theorem q211 : (Jvm.Cond.instanceMethod ({ cls := "java/lang/Throwable", name := "fillInStackTrace", desc := "(I)Ljava/lang/Throwable;" } : Jvm.MethodName)) ∈ lw_all := lw_g (lw_at lw_m1 120 rfl) rfl
theorem q212 : (Jvm.Cond.instantiable "java/lang/Throwable" (6 : Nat)) ∈ lw_all := lw_g (lw_at lw_m1 121 rfl) rfl
theorem q213 : (Jvm.Cond.native ({ cls := "java/lang/Throwable", name := "fillInStackTrace", desc := "(I)Ljava/lang/Throwable;" } : Jvm.MethodName)) ∈ lw_all := lw_g (lw_at lw_m1 122 rfl) rfl
theorem q242 : (Jvm.Cond.fieldLink "java/lang/Throwable" (198 : Nat) "java/lang/Throwable" "backtrace" "Ljava/lang/Object;") ∈ lw_all := lw_g (lw_at lw_m1 151 rfl) rfl
theorem q243 : (Jvm.Cond.fieldLink "java/lang/Throwable" (31 : Nat) "java/lang/Throwable" "detailMessage" "Ljava/lang/String;") ∈ lw_all := lw_g (lw_at lw_m1 152 rfl) rfl
theorem q244 : (Jvm.Cond.fieldLink "java/lang/Throwable" (7 : Nat) "java/lang/Throwable" "cause" "Ljava/lang/Throwable;") ∈ lw_all := lw_g (lw_at lw_m1 153 rfl) rfl
theorem q245 : (Jvm.Cond.fieldLink "java/lang/Throwable" (17 : Nat) "java/lang/Throwable" "stackTrace" "[Ljava/lang/StackTraceElement;") ∈ lw_all := lw_g (lw_at lw_m1 154 rfl) rfl
theorem q246 : (Jvm.Cond.fieldLink "java/lang/Throwable" (24 : Nat) "java/lang/Throwable" "suppressedExceptions" "Ljava/util/List;") ∈ lw_all := lw_g (lw_at lw_m1 155 rfl) rfl
theorem q247 : (Jvm.Cond.soleField "java/lang/Throwable" "backtrace") ∈ lw_all := lw_g (lw_at lw_m1 156 rfl) rfl
theorem q248 : (Jvm.Cond.soleField "java/lang/Throwable" "detailMessage") ∈ lw_all := lw_g (lw_at lw_m1 157 rfl) rfl
theorem q249 : (Jvm.Cond.soleField "java/lang/Throwable" "cause") ∈ lw_all := lw_g (lw_at lw_m1 158 rfl) rfl
theorem q250 : (Jvm.Cond.soleField "java/lang/Throwable" "stackTrace") ∈ lw_all := lw_g (lw_at lw_m1 159 rfl) rfl
theorem q252 : (Jvm.Cond.soleField "java/lang/Throwable" "depth") ∈ lw_all := lw_g (lw_at lw_m1 161 rfl) rfl
theorem q253 : (Jvm.Cond.soleField "java/lang/Throwable" "suppressedExceptions") ∈ lw_all := lw_g (lw_at lw_m1 162 rfl) rfl
theorem q487 : (Jvm.Cond.instanceMethod ({ cls := "java/lang/Throwable", name := "<init>", desc := "(Ljava/lang/String;)V" } : Jvm.MethodName)) ∈ lw_all := lw_g (lw_at lw_m2 156 rfl) rfl
theorem q488 : (Jvm.Cond.code ({ cls := "java/lang/Throwable", name := "<init>", desc := "(Ljava/lang/String;)V" } : Jvm.MethodName) prog_46_method_2_code (2 : Nat) (Option.none : Option Jvm.ClassFile.FieldType)) ∈ lw_all := lw_g (lw_at lw_m2 157 rfl) rfl
theorem q1015 : (Jvm.Cond.instanceMethod ({ cls := "java/lang/Throwable", name := "<init>", desc := "(Ljava/lang/String;Ljava/lang/Throwable;ZZ)V" } : Jvm.MethodName)) ∈ lw_all := lw_g (lw_at lw_m4 204 rfl) rfl
theorem q1016 : (Jvm.Cond.code ({ cls := "java/lang/Throwable", name := "<init>", desc := "(Ljava/lang/String;Ljava/lang/Throwable;ZZ)V" } : Jvm.MethodName) prog_46_method_5_code (5 : Nat) (Option.none : Option Jvm.ClassFile.FieldType)) ∈ lw_all := lw_g (lw_at lw_m4 205 rfl) rfl
theorem q2213 : (Jvm.Cond.sameMethod "java/lang/Throwable" "java/lang/Throwable" "fillInStackTrace" "(I)Ljava/lang/Throwable;") ∈ lw_all := lw_g (lw_at lw_m9 202 rfl) rfl
theorem q2253 : (Jvm.Cond.castable "java/lang/Throwable" "java/lang/Object") ∈ lw_tbl := lw_at lw_m10 2 rfl
theorem in_J2 : ∀ w ∈ wsJ20, w ∈ lw_all := lw_in wsJ20 [182, 184, 186, 188, 190] (by decide +kernel) (by decide +kernel)
/-! java/lang/Exception -/
set_option maxRecDepth 100000
def RJ3 : String := "java/lang/Exception"
abbrev cJ3_init : ByteArray := prog_33_method_1_code
def yJ3_init : MethodName := ⟨RJ3, "<init>", "()V"⟩
theorem dJ3_init_0 : decode cJ3_init 0 = .ok (.aload_n 0, 1) := by decide +kernel
theorem dJ3_init_1 : decode cJ3_init 1 = .ok (.invokespecial 1, 3) := by decide +kernel
theorem dJ3_init_4 : decode cJ3_init 4 = .ok (.return_, 1) := by decide +kernel
abbrev cJ3_init_2 : ByteArray := prog_33_method_2_code
def yJ3_init_2 : MethodName := ⟨RJ3, "<init>", "(Ljava/lang/String;)V"⟩
def dkwJ3_init_2_0 : List UInt8 := [42, 43, 183, 0, 7, 177]
abbrev dktJ3_init_2_0 : List UInt8 := dkwJ3_init_2_0 ++ []
theorem dksJ3_init_2_0 : cJ3_init_2.data.toList.drop 0 = dktJ3_init_2_0 := by decide +kernel
theorem dJ3_init_2_0 : decode cJ3_init_2 0 = .ok (.aload_n 0, 1) := dk_42 (dk_at dksJ3_init_2_0 0 rfl rfl)
theorem dJ3_init_2_1 : decode cJ3_init_2 1 = .ok (.aload_n 1, 1) := dk_43 (dk_at dksJ3_init_2_0 1 rfl rfl)
theorem dJ3_init_2_2 : decode cJ3_init_2 2 = .ok (.invokespecial 7, 3) := dk_183 0 7 (dk_at dksJ3_init_2_0 2 rfl rfl)
theorem dJ3_init_2_5 : decode cJ3_init_2 5 = .ok (.return_, 1) := dk_177 (dk_at dksJ3_init_2_0 5 rfl rfl)
abbrev cJ3_init_3 : ByteArray := prog_33_method_5_code
def yJ3_init_3 : MethodName := ⟨RJ3, "<init>", "(Ljava/lang/String;Ljava/lang/Throwable;ZZ)V"⟩
def dkwJ3_init_3_0 : List UInt8 := [42, 43, 44, 29, 21, 4, 183, 0, 16, 177]
abbrev dktJ3_init_3_0 : List UInt8 := dkwJ3_init_3_0 ++ []
theorem dksJ3_init_3_0 : cJ3_init_3.data.toList.drop 0 = dktJ3_init_3_0 := by decide +kernel
theorem dJ3_init_3_0 : decode cJ3_init_3 0 = .ok (.aload_n 0, 1) := dk_42 (dk_at dksJ3_init_3_0 0 rfl rfl)
theorem dJ3_init_3_1 : decode cJ3_init_3 1 = .ok (.aload_n 1, 1) := dk_43 (dk_at dksJ3_init_3_0 1 rfl rfl)
theorem dJ3_init_3_2 : decode cJ3_init_3 2 = .ok (.aload_n 2, 1) := dk_44 (dk_at dksJ3_init_3_0 2 rfl rfl)
theorem dJ3_init_3_3 : decode cJ3_init_3 3 = .ok (.iload_n 3, 1) := dk_29 (dk_at dksJ3_init_3_0 3 rfl rfl)
theorem dJ3_init_3_4 : decode cJ3_init_3 4 = .ok (.iload 4, 2) := dk_21 4 (dk_at dksJ3_init_3_0 4 rfl rfl)
theorem dJ3_init_3_6 : decode cJ3_init_3 6 = .ok (.invokespecial 16, 3) := dk_183 0 16 (dk_at dksJ3_init_3_0 6 rfl rfl)
theorem dJ3_init_3_9 : decode cJ3_init_3 9 = .ok (.return_, 1) := dk_177 (dk_at dksJ3_init_3_0 9 rfl rfl)
theorem q99 : (Jvm.Cond.initialized "java/lang/Exception") ∈ lw_all := lw_g (lw_at lw_m1 8 rfl) rfl
theorem q175 : (Jvm.Cond.declares ({ cls := "java/lang/Exception", name := "<init>", desc := "()V" } : Jvm.MethodName)) ∈ lw_tbl := lw_at lw_m1 84 rfl
theorem q176 : (Jvm.Cond.declares ({ cls := "java/lang/Exception", name := "<init>", desc := "(Ljava/lang/String;)V" } : Jvm.MethodName)) ∈ lw_tbl := lw_at lw_m1 85 rfl
theorem q239 : (Jvm.Cond.instanceMethod ({ cls := "java/lang/Exception", name := "<init>", desc := "()V" } : Jvm.MethodName)) ∈ lw_all := lw_g (lw_at lw_m1 148 rfl) rfl
theorem q240 : (Jvm.Cond.code ({ cls := "java/lang/Exception", name := "<init>", desc := "()V" } : Jvm.MethodName) prog_33_method_1_code (1 : Nat) (Option.none : Option Jvm.ClassFile.FieldType)) ∈ lw_all := lw_g (lw_at lw_m1 149 rfl) rfl
theorem q241 : (Jvm.Cond.methodLink "java/lang/Exception" (1 : Nat) ({ cls := "java/lang/Throwable", name := "<init>", desc := "()V" } : Jvm.MethodName)) ∈ lw_all := lw_g (lw_at lw_m1 150 rfl) rfl
theorem q484 : (Jvm.Cond.instanceMethod ({ cls := "java/lang/Exception", name := "<init>", desc := "(Ljava/lang/String;)V" } : Jvm.MethodName)) ∈ lw_all := lw_g (lw_at lw_m2 153 rfl) rfl
theorem q485 : (Jvm.Cond.code ({ cls := "java/lang/Exception", name := "<init>", desc := "(Ljava/lang/String;)V" } : Jvm.MethodName) prog_33_method_2_code (2 : Nat) (Option.none : Option Jvm.ClassFile.FieldType)) ∈ lw_all := lw_g (lw_at lw_m2 154 rfl) rfl
theorem q486 : (Jvm.Cond.methodLink "java/lang/Exception" (7 : Nat) ({ cls := "java/lang/Throwable", name := "<init>", desc := "(Ljava/lang/String;)V" } : Jvm.MethodName)) ∈ lw_all := lw_g (lw_at lw_m2 155 rfl) rfl
theorem q1012 : (Jvm.Cond.instanceMethod ({ cls := "java/lang/Exception", name := "<init>", desc := "(Ljava/lang/String;Ljava/lang/Throwable;ZZ)V" } : Jvm.MethodName)) ∈ lw_all := lw_g (lw_at lw_m4 201 rfl) rfl
theorem q1013 : (Jvm.Cond.code ({ cls := "java/lang/Exception", name := "<init>", desc := "(Ljava/lang/String;Ljava/lang/Throwable;ZZ)V" } : Jvm.MethodName) prog_33_method_5_code (5 : Nat) (Option.none : Option Jvm.ClassFile.FieldType)) ∈ lw_all := lw_g (lw_at lw_m4 202 rfl) rfl
theorem q1014 : (Jvm.Cond.methodLink "java/lang/Exception" (16 : Nat) ({ cls := "java/lang/Throwable", name := "<init>", desc := "(Ljava/lang/String;Ljava/lang/Throwable;ZZ)V" } : Jvm.MethodName)) ∈ lw_all := lw_g (lw_at lw_m4 203 rfl) rfl
/-! java/lang/RuntimeException -/
set_option maxRecDepth 100000
def RJ4 : String := "java/lang/RuntimeException"
abbrev cJ4_init : ByteArray := prog_40_method_1_code
def yJ4_init : MethodName := ⟨RJ4, "<init>", "()V"⟩
theorem dJ4_init_0 : decode cJ4_init 0 = .ok (.aload_n 0, 1) := by decide +kernel
theorem dJ4_init_1 : decode cJ4_init 1 = .ok (.invokespecial 1, 3) := by decide +kernel
theorem dJ4_init_4 : decode cJ4_init 4 = .ok (.return_, 1) := by decide +kernel
abbrev cJ4_init_2 : ByteArray := prog_40_method_2_code
def yJ4_init_2 : MethodName := ⟨RJ4, "<init>", "(Ljava/lang/String;)V"⟩
def dkwJ4_init_2_0 : List UInt8 := [42, 43, 183, 0, 7, 177]
abbrev dktJ4_init_2_0 : List UInt8 := dkwJ4_init_2_0 ++ []
theorem dksJ4_init_2_0 : cJ4_init_2.data.toList.drop 0 = dktJ4_init_2_0 := by decide +kernel
theorem dJ4_init_2_0 : decode cJ4_init_2 0 = .ok (.aload_n 0, 1) := dk_42 (dk_at dksJ4_init_2_0 0 rfl rfl)
theorem dJ4_init_2_1 : decode cJ4_init_2 1 = .ok (.aload_n 1, 1) := dk_43 (dk_at dksJ4_init_2_0 1 rfl rfl)
theorem dJ4_init_2_2 : decode cJ4_init_2 2 = .ok (.invokespecial 7, 3) := dk_183 0 7 (dk_at dksJ4_init_2_0 2 rfl rfl)
theorem dJ4_init_2_5 : decode cJ4_init_2 5 = .ok (.return_, 1) := dk_177 (dk_at dksJ4_init_2_0 5 rfl rfl)
theorem q100 : (Jvm.Cond.initialized "java/lang/RuntimeException") ∈ lw_all := lw_g (lw_at lw_m1 9 rfl) rfl
theorem q173 : (Jvm.Cond.declares ({ cls := "java/lang/RuntimeException", name := "<init>", desc := "()V" } : Jvm.MethodName)) ∈ lw_tbl := lw_at lw_m1 82 rfl
theorem q174 : (Jvm.Cond.declares ({ cls := "java/lang/RuntimeException", name := "<init>", desc := "(Ljava/lang/String;)V" } : Jvm.MethodName)) ∈ lw_tbl := lw_at lw_m1 83 rfl
theorem q236 : (Jvm.Cond.instanceMethod ({ cls := "java/lang/RuntimeException", name := "<init>", desc := "()V" } : Jvm.MethodName)) ∈ lw_all := lw_g (lw_at lw_m1 145 rfl) rfl
theorem q237 : (Jvm.Cond.code ({ cls := "java/lang/RuntimeException", name := "<init>", desc := "()V" } : Jvm.MethodName) prog_40_method_1_code (1 : Nat) (Option.none : Option Jvm.ClassFile.FieldType)) ∈ lw_all := lw_g (lw_at lw_m1 146 rfl) rfl
theorem q238 : (Jvm.Cond.methodLink "java/lang/RuntimeException" (1 : Nat) ({ cls := "java/lang/Exception", name := "<init>", desc := "()V" } : Jvm.MethodName)) ∈ lw_all := lw_g (lw_at lw_m1 147 rfl) rfl
theorem q481 : (Jvm.Cond.instanceMethod ({ cls := "java/lang/RuntimeException", name := "<init>", desc := "(Ljava/lang/String;)V" } : Jvm.MethodName)) ∈ lw_all := lw_g (lw_at lw_m2 150 rfl) rfl
theorem q482 : (Jvm.Cond.code ({ cls := "java/lang/RuntimeException", name := "<init>", desc := "(Ljava/lang/String;)V" } : Jvm.MethodName) prog_40_method_2_code (2 : Nat) (Option.none : Option Jvm.ClassFile.FieldType)) ∈ lw_all := lw_g (lw_at lw_m2 151 rfl) rfl
theorem q483 : (Jvm.Cond.methodLink "java/lang/RuntimeException" (7 : Nat) ({ cls := "java/lang/Exception", name := "<init>", desc := "(Ljava/lang/String;)V" } : Jvm.MethodName)) ∈ lw_all := lw_g (lw_at lw_m2 152 rfl) rfl
/-! java/lang/NegativeArraySizeException -/
set_option maxRecDepth 100000
def RJ5 : String := "java/lang/NegativeArraySizeException"
def TJ5 : u_T := fun k => match k with
  | 0 => ("java/lang/Throwable", "cause", "Ljava/lang/Throwable;", false)
  | 1 => ("java/lang/Throwable", "stackTrace", "[Ljava/lang/StackTraceElement;", false)
  | 2 => ("java/lang/Throwable", "suppressedExceptions", "Ljava/util/List;", false)
  | 3 => ("java/lang/Throwable", "detailMessage", "Ljava/lang/String;", false)
  | 4 => ("java/lang/Throwable", "backtrace", "Ljava/lang/Object;", false)
  | _ => ("java/lang/Throwable", "depth", "I", false)
def tyJ5 : Nat → FieldType := fun k => match k with
  | 0 => .object "java/lang/Throwable"
  | 1 => .array (.object "java/lang/StackTraceElement")
  | 2 => .object "java/util/List"
  | 3 => .object "java/lang/String"
  | 4 => .object "java/lang/Object"
  | _ => .int
abbrev wsJ50 : List Cond := u_ws RJ5 TJ5 6
theorem nmJ5 : ∀ a, a < 6 → ∀ b, b < 6 → a ≠ b → (TJ5 a).2.1 ≠ (TJ5 b).2.1 := by decide +kernel
theorem tyJ5_ok : ∀ k, k < 6 → parseFieldDescriptor (TJ5 k).2.2.1 = some (tyJ5 k) := by decide +kernel
abbrev cJ5_init : ByteArray := prog_38_method_1_code
def yJ5_init : MethodName := ⟨RJ5, "<init>", "()V"⟩
theorem dJ5_init_0 : decode cJ5_init 0 = .ok (.aload_n 0, 1) := by decide +kernel
theorem dJ5_init_1 : decode cJ5_init 1 = .ok (.invokespecial 1, 3) := by decide +kernel
theorem dJ5_init_4 : decode cJ5_init 4 = .ok (.return_, 1) := by decide +kernel
abbrev cJ5_init_2 : ByteArray := prog_38_method_2_code
def yJ5_init_2 : MethodName := ⟨RJ5, "<init>", "(Ljava/lang/String;)V"⟩
def dkwJ5_init_2_0 : List UInt8 := [42, 43, 183, 0, 7, 177]
abbrev dktJ5_init_2_0 : List UInt8 := dkwJ5_init_2_0 ++ []
theorem dksJ5_init_2_0 : cJ5_init_2.data.toList.drop 0 = dktJ5_init_2_0 := by decide +kernel
theorem dJ5_init_2_0 : decode cJ5_init_2 0 = .ok (.aload_n 0, 1) := dk_42 (dk_at dksJ5_init_2_0 0 rfl rfl)
theorem dJ5_init_2_1 : decode cJ5_init_2 1 = .ok (.aload_n 1, 1) := dk_43 (dk_at dksJ5_init_2_0 1 rfl rfl)
theorem dJ5_init_2_2 : decode cJ5_init_2 2 = .ok (.invokespecial 7, 3) := dk_183 0 7 (dk_at dksJ5_init_2_0 2 rfl rfl)
theorem dJ5_init_2_5 : decode cJ5_init_2 5 = .ok (.return_, 1) := dk_177 (dk_at dksJ5_init_2_0 5 rfl rfl)
theorem q101 : (Jvm.Cond.initialized "java/lang/NegativeArraySizeException") ∈ lw_all := lw_g (lw_at lw_m1 10 rfl) rfl
theorem q171 : (Jvm.Cond.instantiable "java/lang/NegativeArraySizeException" (6 : Nat)) ∈ lw_all := lw_g (lw_at lw_m1 80 rfl) rfl
theorem q172 : (Jvm.Cond.castable "java/lang/NegativeArraySizeException" "java/lang/NegativeArraySizeException") ∈ lw_tbl := lw_at lw_m1 81 rfl
theorem q179 : (Jvm.Cond.selects "java/lang/NegativeArraySizeException" ({ cls := "java/lang/Throwable", name := "fillInStackTrace", desc := "(I)Ljava/lang/Throwable;" } : Jvm.MethodName) ({ cls := "java/lang/Throwable", name := "fillInStackTrace", desc := "(I)Ljava/lang/Throwable;" } : Jvm.MethodName)) ∈ lw_all := lw_g (lw_at lw_m1 88 rfl) rfl
theorem q180 : (Jvm.Cond.selects "java/lang/NegativeArraySizeException" ({ cls := "java/lang/Throwable", name := "fillInStackTrace", desc := "()Ljava/lang/Throwable;" } : Jvm.MethodName) ({ cls := "java/lang/Throwable", name := "fillInStackTrace", desc := "()Ljava/lang/Throwable;" } : Jvm.MethodName)) ∈ lw_all := lw_g (lw_at lw_m1 89 rfl) rfl
theorem q181 : (Jvm.Cond.lays "java/lang/NegativeArraySizeException" "java/lang/Throwable" "cause" "Ljava/lang/Throwable;") ∈ lw_all := lw_g (lw_at lw_m1 90 rfl) rfl
theorem q183 : (Jvm.Cond.lays "java/lang/NegativeArraySizeException" "java/lang/Throwable" "stackTrace" "[Ljava/lang/StackTraceElement;") ∈ lw_all := lw_g (lw_at lw_m1 92 rfl) rfl
theorem q185 : (Jvm.Cond.lays "java/lang/NegativeArraySizeException" "java/lang/Throwable" "suppressedExceptions" "Ljava/util/List;") ∈ lw_all := lw_g (lw_at lw_m1 94 rfl) rfl
theorem q187 : (Jvm.Cond.lays "java/lang/NegativeArraySizeException" "java/lang/Throwable" "detailMessage" "Ljava/lang/String;") ∈ lw_all := lw_g (lw_at lw_m1 96 rfl) rfl
theorem q189 : (Jvm.Cond.lays "java/lang/NegativeArraySizeException" "java/lang/Throwable" "backtrace" "Ljava/lang/Object;") ∈ lw_all := lw_g (lw_at lw_m1 98 rfl) rfl
theorem q233 : (Jvm.Cond.instanceMethod ({ cls := "java/lang/NegativeArraySizeException", name := "<init>", desc := "()V" } : Jvm.MethodName)) ∈ lw_all := lw_g (lw_at lw_m1 142 rfl) rfl
theorem q234 : (Jvm.Cond.code ({ cls := "java/lang/NegativeArraySizeException", name := "<init>", desc := "()V" } : Jvm.MethodName) prog_38_method_1_code (1 : Nat) (Option.none : Option Jvm.ClassFile.FieldType)) ∈ lw_all := lw_g (lw_at lw_m1 143 rfl) rfl
theorem q235 : (Jvm.Cond.methodLink "java/lang/NegativeArraySizeException" (1 : Nat) ({ cls := "java/lang/RuntimeException", name := "<init>", desc := "()V" } : Jvm.MethodName)) ∈ lw_all := lw_g (lw_at lw_m1 144 rfl) rfl
theorem q251 : (Jvm.Cond.lays "java/lang/NegativeArraySizeException" "java/lang/Throwable" "depth" "I") ∈ lw_all := lw_g (lw_at lw_m1 160 rfl) rfl
theorem q254 : (Jvm.Cond.superclass "java/lang/NegativeArraySizeException" "java/lang/RuntimeException") ∈ lw_all := lw_g (lw_at lw_m1 163 rfl) rfl
theorem q478 : (Jvm.Cond.instanceMethod ({ cls := "java/lang/NegativeArraySizeException", name := "<init>", desc := "(Ljava/lang/String;)V" } : Jvm.MethodName)) ∈ lw_all := lw_g (lw_at lw_m2 147 rfl) rfl
theorem q479 : (Jvm.Cond.code ({ cls := "java/lang/NegativeArraySizeException", name := "<init>", desc := "(Ljava/lang/String;)V" } : Jvm.MethodName) prog_38_method_2_code (2 : Nat) (Option.none : Option Jvm.ClassFile.FieldType)) ∈ lw_all := lw_g (lw_at lw_m2 148 rfl) rfl
theorem q480 : (Jvm.Cond.methodLink "java/lang/NegativeArraySizeException" (7 : Nat) ({ cls := "java/lang/RuntimeException", name := "<init>", desc := "(Ljava/lang/String;)V" } : Jvm.MethodName)) ∈ lw_all := lw_g (lw_at lw_m2 149 rfl) rfl
theorem q2232 : (Jvm.Cond.castable "java/lang/NegativeArraySizeException" "java/lang/Object") ∈ lw_tbl := lw_at lw_m9 221 rfl
theorem in_J5 : ∀ w ∈ wsJ50, w ∈ lw_all := lw_in wsJ50 [181, 183, 185, 187, 189, 251] (by decide +kernel) (by decide +kernel)
/-! java/lang/Math -/
set_option maxRecDepth 100000
def RJ11 : String := "java/lang/Math"
abbrev cJ11_max : ByteArray := prog_37_method_65_code
def yJ11_max : MethodName := ⟨RJ11, "max", "(II)I"⟩
def dkwJ11_max_0 : List UInt8 := [26, 27, 161, 0, 7, 26, 167, 0, 4, 27, 172]
abbrev dktJ11_max_0 : List UInt8 := dkwJ11_max_0 ++ []
theorem dksJ11_max_0 : cJ11_max.data.toList.drop 0 = dktJ11_max_0 := by decide +kernel
theorem dJ11_max_0 : decode cJ11_max 0 = .ok (.iload_n 0, 1) := dk_26 (dk_at dksJ11_max_0 0 rfl rfl)
theorem dJ11_max_1 : decode cJ11_max 1 = .ok (.iload_n 1, 1) := dk_27 (dk_at dksJ11_max_0 1 rfl rfl)
theorem dJ11_max_2 : decode cJ11_max 2 = .ok (.if_icmp .lt 7, 3) := dk_161 0 7 (dk_at dksJ11_max_0 2 rfl rfl)
theorem dJ11_max_5 : decode cJ11_max 5 = .ok (.iload_n 0, 1) := dk_26 (dk_at dksJ11_max_0 5 rfl rfl)
theorem dJ11_max_6 : decode cJ11_max 6 = .ok (.goto 4, 3) := dk_167 0 4 (dk_at dksJ11_max_0 6 rfl rfl)
theorem dJ11_max_9 : decode cJ11_max 9 = .ok (.iload_n 1, 1) := dk_27 (dk_at dksJ11_max_0 9 rfl rfl)
theorem dJ11_max_10 : decode cJ11_max 10 = .ok (.ireturn, 1) := dk_172 (dk_at dksJ11_max_0 10 rfl rfl)
abbrev cJ11_min : ByteArray := prog_37_method_69_code
def yJ11_min : MethodName := ⟨RJ11, "min", "(II)I"⟩
def dkwJ11_min_0 : List UInt8 := [26, 27, 163, 0, 7, 26, 167, 0, 4, 27, 172]
abbrev dktJ11_min_0 : List UInt8 := dkwJ11_min_0 ++ []
theorem dksJ11_min_0 : cJ11_min.data.toList.drop 0 = dktJ11_min_0 := by decide +kernel
theorem dJ11_min_0 : decode cJ11_min 0 = .ok (.iload_n 0, 1) := dk_26 (dk_at dksJ11_min_0 0 rfl rfl)
theorem dJ11_min_1 : decode cJ11_min 1 = .ok (.iload_n 1, 1) := dk_27 (dk_at dksJ11_min_0 1 rfl rfl)
theorem dJ11_min_2 : decode cJ11_min 2 = .ok (.if_icmp .gt 7, 3) := dk_163 0 7 (dk_at dksJ11_min_0 2 rfl rfl)
theorem dJ11_min_5 : decode cJ11_min 5 = .ok (.iload_n 0, 1) := dk_26 (dk_at dksJ11_min_0 5 rfl rfl)
theorem dJ11_min_6 : decode cJ11_min 6 = .ok (.goto 4, 3) := dk_167 0 4 (dk_at dksJ11_min_0 6 rfl rfl)
theorem dJ11_min_9 : decode cJ11_min 9 = .ok (.iload_n 1, 1) := dk_27 (dk_at dksJ11_min_0 9 rfl rfl)
theorem dJ11_min_10 : decode cJ11_min 10 = .ok (.ireturn, 1) := dk_172 (dk_at dksJ11_min_0 10 rfl rfl)
abbrev cJ11_floorMod : ByteArray := prog_37_method_50_code
def yJ11_floorMod : MethodName := ⟨RJ11, "floorMod", "(II)I"⟩
def dkwJ11_floorMod_0 : List UInt8 := [26, 27, 112, 61, 26, 27, 130, 156, 0, 11, 28, 153, 0, 7, 28, 27, 96, 172, 28, 172]
abbrev dktJ11_floorMod_0 : List UInt8 := dkwJ11_floorMod_0 ++ []
theorem dksJ11_floorMod_0 : cJ11_floorMod.data.toList.drop 0 = dktJ11_floorMod_0 := by decide +kernel
theorem dJ11_floorMod_0 : decode cJ11_floorMod 0 = .ok (.iload_n 0, 1) := dk_26 (dk_at dksJ11_floorMod_0 0 rfl rfl)
theorem dJ11_floorMod_1 : decode cJ11_floorMod 1 = .ok (.iload_n 1, 1) := dk_27 (dk_at dksJ11_floorMod_0 1 rfl rfl)
theorem dJ11_floorMod_2 : decode cJ11_floorMod 2 = .ok (.irem, 1) := dk_112 (dk_at dksJ11_floorMod_0 2 rfl rfl)
theorem dJ11_floorMod_3 : decode cJ11_floorMod 3 = .ok (.istore_n 2, 1) := dk_61 (dk_at dksJ11_floorMod_0 3 rfl rfl)
theorem dJ11_floorMod_4 : decode cJ11_floorMod 4 = .ok (.iload_n 0, 1) := dk_26 (dk_at dksJ11_floorMod_0 4 rfl rfl)
theorem dJ11_floorMod_5 : decode cJ11_floorMod 5 = .ok (.iload_n 1, 1) := dk_27 (dk_at dksJ11_floorMod_0 5 rfl rfl)
theorem dJ11_floorMod_6 : decode cJ11_floorMod 6 = .ok (.ixor, 1) := dk_130 (dk_at dksJ11_floorMod_0 6 rfl rfl)
theorem dJ11_floorMod_7 : decode cJ11_floorMod 7 = .ok (.ifCond .ge 11, 3) := dk_156 0 11 (dk_at dksJ11_floorMod_0 7 rfl rfl)
theorem dJ11_floorMod_10 : decode cJ11_floorMod 10 = .ok (.iload_n 2, 1) := dk_28 (dk_at dksJ11_floorMod_0 10 rfl rfl)
theorem dJ11_floorMod_11 : decode cJ11_floorMod 11 = .ok (.ifCond .eq 7, 3) := dk_153 0 7 (dk_at dksJ11_floorMod_0 11 rfl rfl)
theorem dJ11_floorMod_14 : decode cJ11_floorMod 14 = .ok (.iload_n 2, 1) := dk_28 (dk_at dksJ11_floorMod_0 14 rfl rfl)
theorem dJ11_floorMod_15 : decode cJ11_floorMod 15 = .ok (.iload_n 1, 1) := dk_27 (dk_at dksJ11_floorMod_0 15 rfl rfl)
theorem dJ11_floorMod_16 : decode cJ11_floorMod 16 = .ok (.iadd, 1) := dk_96 (dk_at dksJ11_floorMod_0 16 rfl rfl)
theorem dJ11_floorMod_17 : decode cJ11_floorMod 17 = .ok (.ireturn, 1) := dk_172 (dk_at dksJ11_floorMod_0 17 rfl rfl)
theorem dJ11_floorMod_18 : decode cJ11_floorMod 18 = .ok (.iload_n 2, 1) := dk_28 (dk_at dksJ11_floorMod_0 18 rfl rfl)
theorem dJ11_floorMod_19 : decode cJ11_floorMod 19 = .ok (.ireturn, 1) := dk_172 (dk_at dksJ11_floorMod_0 19 rfl rfl)
theorem q107 : (Jvm.Cond.initialized "java/lang/Math") ∈ lw_all := lw_g (lw_at lw_m1 16 rfl) rfl
theorem q295 : (Jvm.Cond.static ({ cls := "java/lang/Math", name := "max", desc := "(II)I" } : Jvm.MethodName)) ∈ lw_all := lw_g (lw_at lw_m1 204 rfl) rfl
theorem q296 : (Jvm.Cond.code ({ cls := "java/lang/Math", name := "max", desc := "(II)I" } : Jvm.MethodName) prog_37_method_65_code (2 : Nat) (Option.some Jvm.ClassFile.FieldType.int)) ∈ lw_all := lw_g (lw_at lw_m1 205 rfl) rfl
theorem q313 : (Jvm.Cond.static ({ cls := "java/lang/Math", name := "min", desc := "(II)I" } : Jvm.MethodName)) ∈ lw_all := lw_g (lw_at lw_m1 222 rfl) rfl
theorem q314 : (Jvm.Cond.code ({ cls := "java/lang/Math", name := "min", desc := "(II)I" } : Jvm.MethodName) prog_37_method_69_code (2 : Nat) (Option.some Jvm.ClassFile.FieldType.int)) ∈ lw_all := lw_g (lw_at lw_m1 223 rfl) rfl
theorem q1201 : (Jvm.Cond.static ({ cls := "java/lang/Math", name := "floorMod", desc := "(II)I" } : Jvm.MethodName)) ∈ lw_all := lw_g (lw_at lw_m5 150 rfl) rfl
theorem q1202 : (Jvm.Cond.code ({ cls := "java/lang/Math", name := "floorMod", desc := "(II)I" } : Jvm.MethodName) prog_37_method_50_code (3 : Nat) (Option.some Jvm.ClassFile.FieldType.int)) ∈ lw_all := lw_g (lw_at lw_m5 151 rfl) rfl
/-! java/lang/Integer -/
set_option maxRecDepth 100000
def RJ15 : String := "java/lang/Integer"
abbrev cJ15_stringSize : ByteArray := prog_35_method_13_code
def yJ15_stringSize : MethodName := ⟨RJ15, "stringSize", "(I)I"⟩
def dkwJ15_stringSize_1 : List UInt8 := [164, 0, 7, 29, 27, 96, 172, 16, 10, 28, 104, 61, 132, 3, 1, 167, 255, 233, 16, 10, 27, 96, 172]
abbrev dktJ15_stringSize_1 : List UInt8 := dkwJ15_stringSize_1 ++ []
def dkwJ15_stringSize_0 : List UInt8 := [4, 60, 26, 155, 0, 8, 3, 60, 26, 116, 59, 16, 246, 61, 4, 62, 29, 16, 10, 162, 0, 23, 26, 28]
abbrev dktJ15_stringSize_0 : List UInt8 := dkwJ15_stringSize_0 ++ dktJ15_stringSize_1
theorem dksJ15_stringSize_0 : cJ15_stringSize.data.toList.drop 0 = dktJ15_stringSize_0 := by decide +kernel
theorem dksJ15_stringSize_1 : cJ15_stringSize.data.toList.drop 24 = dktJ15_stringSize_1 := dk_seg dksJ15_stringSize_0 24 rfl rfl
theorem dJ15_stringSize_0 : decode cJ15_stringSize 0 = .ok (.iconst 1, 1) := dk_4 (dk_at dksJ15_stringSize_0 0 rfl rfl)
theorem dJ15_stringSize_1 : decode cJ15_stringSize 1 = .ok (.istore_n 1, 1) := dk_60 (dk_at dksJ15_stringSize_0 1 rfl rfl)
theorem dJ15_stringSize_2 : decode cJ15_stringSize 2 = .ok (.iload_n 0, 1) := dk_26 (dk_at dksJ15_stringSize_0 2 rfl rfl)
theorem dJ15_stringSize_3 : decode cJ15_stringSize 3 = .ok (.ifCond .lt 8, 3) := dk_155 0 8 (dk_at dksJ15_stringSize_0 3 rfl rfl)
theorem dJ15_stringSize_6 : decode cJ15_stringSize 6 = .ok (.iconst 0, 1) := dk_3 (dk_at dksJ15_stringSize_0 6 rfl rfl)
theorem dJ15_stringSize_7 : decode cJ15_stringSize 7 = .ok (.istore_n 1, 1) := dk_60 (dk_at dksJ15_stringSize_0 7 rfl rfl)
theorem dJ15_stringSize_8 : decode cJ15_stringSize 8 = .ok (.iload_n 0, 1) := dk_26 (dk_at dksJ15_stringSize_0 8 rfl rfl)
theorem dJ15_stringSize_9 : decode cJ15_stringSize 9 = .ok (.ineg, 1) := dk_116 (dk_at dksJ15_stringSize_0 9 rfl rfl)
theorem dJ15_stringSize_10 : decode cJ15_stringSize 10 = .ok (.istore_n 0, 1) := dk_59 (dk_at dksJ15_stringSize_0 10 rfl rfl)
theorem dJ15_stringSize_11 : decode cJ15_stringSize 11 = .ok (.bipush (-10), 2) := dk_16 246 (dk_at dksJ15_stringSize_0 11 rfl rfl)
theorem dJ15_stringSize_13 : decode cJ15_stringSize 13 = .ok (.istore_n 2, 1) := dk_61 (dk_at dksJ15_stringSize_0 13 rfl rfl)
theorem dJ15_stringSize_14 : decode cJ15_stringSize 14 = .ok (.iconst 1, 1) := dk_4 (dk_at dksJ15_stringSize_0 14 rfl rfl)
theorem dJ15_stringSize_15 : decode cJ15_stringSize 15 = .ok (.istore_n 3, 1) := dk_62 (dk_at dksJ15_stringSize_0 15 rfl rfl)
theorem dJ15_stringSize_16 : decode cJ15_stringSize 16 = .ok (.iload_n 3, 1) := dk_29 (dk_at dksJ15_stringSize_0 16 rfl rfl)
theorem dJ15_stringSize_17 : decode cJ15_stringSize 17 = .ok (.bipush 10, 2) := dk_16 10 (dk_at dksJ15_stringSize_0 17 rfl rfl)
theorem dJ15_stringSize_19 : decode cJ15_stringSize 19 = .ok (.if_icmp .ge 23, 3) := dk_162 0 23 (dk_at dksJ15_stringSize_0 19 rfl rfl)
theorem dJ15_stringSize_22 : decode cJ15_stringSize 22 = .ok (.iload_n 0, 1) := dk_26 (dk_at dksJ15_stringSize_0 22 rfl rfl)
theorem dJ15_stringSize_23 : decode cJ15_stringSize 23 = .ok (.iload_n 2, 1) := dk_28 (dk_at dksJ15_stringSize_0 23 rfl rfl)
theorem dJ15_stringSize_24 : decode cJ15_stringSize 24 = .ok (.if_icmp .le 7, 3) := dk_164 0 7 (dk_at dksJ15_stringSize_1 0 rfl rfl)
theorem dJ15_stringSize_27 : decode cJ15_stringSize 27 = .ok (.iload_n 3, 1) := dk_29 (dk_at dksJ15_stringSize_1 3 rfl rfl)
theorem dJ15_stringSize_28 : decode cJ15_stringSize 28 = .ok (.iload_n 1, 1) := dk_27 (dk_at dksJ15_stringSize_1 4 rfl rfl)
theorem dJ15_stringSize_29 : decode cJ15_stringSize 29 = .ok (.iadd, 1) := dk_96 (dk_at dksJ15_stringSize_1 5 rfl rfl)
theorem dJ15_stringSize_30 : decode cJ15_stringSize 30 = .ok (.ireturn, 1) := dk_172 (dk_at dksJ15_stringSize_1 6 rfl rfl)
theorem dJ15_stringSize_31 : decode cJ15_stringSize 31 = .ok (.bipush 10, 2) := dk_16 10 (dk_at dksJ15_stringSize_1 7 rfl rfl)
theorem dJ15_stringSize_33 : decode cJ15_stringSize 33 = .ok (.iload_n 2, 1) := dk_28 (dk_at dksJ15_stringSize_1 9 rfl rfl)
theorem dJ15_stringSize_34 : decode cJ15_stringSize 34 = .ok (.imul, 1) := dk_104 (dk_at dksJ15_stringSize_1 10 rfl rfl)
theorem dJ15_stringSize_35 : decode cJ15_stringSize 35 = .ok (.istore_n 2, 1) := dk_61 (dk_at dksJ15_stringSize_1 11 rfl rfl)
theorem dJ15_stringSize_36 : decode cJ15_stringSize 36 = .ok (.iinc 3 1, 3) := dk_132 3 1 (dk_at dksJ15_stringSize_1 12 rfl rfl)
theorem dJ15_stringSize_39 : decode cJ15_stringSize 39 = .ok (.goto (-23), 3) := dk_167 255 233 (dk_at dksJ15_stringSize_1 15 rfl rfl)
theorem dJ15_stringSize_42 : decode cJ15_stringSize 42 = .ok (.bipush 10, 2) := dk_16 10 (dk_at dksJ15_stringSize_1 18 rfl rfl)
theorem dJ15_stringSize_44 : decode cJ15_stringSize 44 = .ok (.iload_n 1, 1) := dk_27 (dk_at dksJ15_stringSize_1 20 rfl rfl)
theorem dJ15_stringSize_45 : decode cJ15_stringSize 45 = .ok (.iadd, 1) := dk_96 (dk_at dksJ15_stringSize_1 21 rfl rfl)
theorem dJ15_stringSize_46 : decode cJ15_stringSize 46 = .ok (.ireturn, 1) := dk_172 (dk_at dksJ15_stringSize_1 22 rfl rfl)
abbrev cJ15_getChars : ByteArray := prog_35_method_12_code
def yJ15_getChars : MethodName := ⟨RJ15, "getChars", "(II[B)I"⟩
def dkwJ15_getChars_5 : List UInt8 := [16, 45, 84, 21, 5, 172]
abbrev dktJ15_getChars_5 : List UInt8 := dkwJ15_getChars_5 ++ []
def dkwJ15_getChars_4 : List UInt8 := [132, 5, 255, 21, 5, 178, 0, 87, 26, 116, 51, 84, 21, 6, 153, 0, 12, 44, 132, 5, 255, 21, 5]
abbrev dktJ15_getChars_4 : List UInt8 := dkwJ15_getChars_4 ++ dktJ15_getChars_5
def dkwJ15_getChars_3 : List UInt8 := [167, 255, 209, 44, 132, 5, 255, 21, 5, 178, 0, 83, 26, 116, 51, 84, 26, 16, 247, 162, 0, 16, 44]
abbrev dktJ15_getChars_3 : List UInt8 := dkwJ15_getChars_3 ++ dktJ15_getChars_4
def dkwJ15_getChars_2 : List UInt8 := [21, 5, 178, 0, 83, 21, 4, 51, 84, 44, 132, 5, 255, 21, 5, 178, 0, 87, 21, 4, 51, 84]
abbrev dktJ15_getChars_2 : List UInt8 := dkwJ15_getChars_2 ++ dktJ15_getChars_3
def dkwJ15_getChars_1 : List UInt8 := [16, 156, 163, 0, 47, 26, 16, 100, 108, 62, 29, 16, 100, 104, 26, 100, 54, 4, 29, 59, 44, 132, 5, 255]
abbrev dktJ15_getChars_1 : List UInt8 := dkwJ15_getChars_1 ++ dktJ15_getChars_2
def dkwJ15_getChars_0 : List UInt8 := [27, 54, 5, 26, 156, 0, 7, 4, 167, 0, 4, 3, 54, 6, 21, 6, 154, 0, 6, 26, 116, 59, 26]
abbrev dktJ15_getChars_0 : List UInt8 := dkwJ15_getChars_0 ++ dktJ15_getChars_1
theorem dksJ15_getChars_0 : cJ15_getChars.data.toList.drop 0 = dktJ15_getChars_0 := by decide +kernel
theorem dksJ15_getChars_1 : cJ15_getChars.data.toList.drop 23 = dktJ15_getChars_1 := dk_seg dksJ15_getChars_0 23 rfl rfl
theorem dksJ15_getChars_2 : cJ15_getChars.data.toList.drop 47 = dktJ15_getChars_2 := dk_seg dksJ15_getChars_1 24 rfl rfl
theorem dksJ15_getChars_3 : cJ15_getChars.data.toList.drop 69 = dktJ15_getChars_3 := dk_seg dksJ15_getChars_2 22 rfl rfl
theorem dksJ15_getChars_4 : cJ15_getChars.data.toList.drop 92 = dktJ15_getChars_4 := dk_seg dksJ15_getChars_3 23 rfl rfl
theorem dksJ15_getChars_5 : cJ15_getChars.data.toList.drop 115 = dktJ15_getChars_5 := dk_seg dksJ15_getChars_4 23 rfl rfl
theorem dJ15_getChars_0 : decode cJ15_getChars 0 = .ok (.iload_n 1, 1) := dk_27 (dk_at dksJ15_getChars_0 0 rfl rfl)
theorem dJ15_getChars_1 : decode cJ15_getChars 1 = .ok (.istore 5, 2) := dk_54 5 (dk_at dksJ15_getChars_0 1 rfl rfl)
theorem dJ15_getChars_3 : decode cJ15_getChars 3 = .ok (.iload_n 0, 1) := dk_26 (dk_at dksJ15_getChars_0 3 rfl rfl)
theorem dJ15_getChars_4 : decode cJ15_getChars 4 = .ok (.ifCond .ge 7, 3) := dk_156 0 7 (dk_at dksJ15_getChars_0 4 rfl rfl)
theorem dJ15_getChars_7 : decode cJ15_getChars 7 = .ok (.iconst 1, 1) := dk_4 (dk_at dksJ15_getChars_0 7 rfl rfl)
theorem dJ15_getChars_8 : decode cJ15_getChars 8 = .ok (.goto 4, 3) := dk_167 0 4 (dk_at dksJ15_getChars_0 8 rfl rfl)
theorem dJ15_getChars_11 : decode cJ15_getChars 11 = .ok (.iconst 0, 1) := dk_3 (dk_at dksJ15_getChars_0 11 rfl rfl)
theorem dJ15_getChars_12 : decode cJ15_getChars 12 = .ok (.istore 6, 2) := dk_54 6 (dk_at dksJ15_getChars_0 12 rfl rfl)
theorem dJ15_getChars_14 : decode cJ15_getChars 14 = .ok (.iload 6, 2) := dk_21 6 (dk_at dksJ15_getChars_0 14 rfl rfl)
theorem dJ15_getChars_16 : decode cJ15_getChars 16 = .ok (.ifCond .ne 6, 3) := dk_154 0 6 (dk_at dksJ15_getChars_0 16 rfl rfl)
theorem dJ15_getChars_19 : decode cJ15_getChars 19 = .ok (.iload_n 0, 1) := dk_26 (dk_at dksJ15_getChars_0 19 rfl rfl)
theorem dJ15_getChars_20 : decode cJ15_getChars 20 = .ok (.ineg, 1) := dk_116 (dk_at dksJ15_getChars_0 20 rfl rfl)
theorem dJ15_getChars_21 : decode cJ15_getChars 21 = .ok (.istore_n 0, 1) := dk_59 (dk_at dksJ15_getChars_0 21 rfl rfl)
theorem dJ15_getChars_22 : decode cJ15_getChars 22 = .ok (.iload_n 0, 1) := dk_26 (dk_at dksJ15_getChars_0 22 rfl rfl)
theorem dJ15_getChars_23 : decode cJ15_getChars 23 = .ok (.bipush (-100), 2) := dk_16 156 (dk_at dksJ15_getChars_1 0 rfl rfl)
theorem dJ15_getChars_25 : decode cJ15_getChars 25 = .ok (.if_icmp .gt 47, 3) := dk_163 0 47 (dk_at dksJ15_getChars_1 2 rfl rfl)
theorem dJ15_getChars_28 : decode cJ15_getChars 28 = .ok (.iload_n 0, 1) := dk_26 (dk_at dksJ15_getChars_1 5 rfl rfl)
theorem dJ15_getChars_29 : decode cJ15_getChars 29 = .ok (.bipush 100, 2) := dk_16 100 (dk_at dksJ15_getChars_1 6 rfl rfl)
theorem dJ15_getChars_31 : decode cJ15_getChars 31 = .ok (.idiv, 1) := dk_108 (dk_at dksJ15_getChars_1 8 rfl rfl)
theorem dJ15_getChars_32 : decode cJ15_getChars 32 = .ok (.istore_n 3, 1) := dk_62 (dk_at dksJ15_getChars_1 9 rfl rfl)
theorem dJ15_getChars_33 : decode cJ15_getChars 33 = .ok (.iload_n 3, 1) := dk_29 (dk_at dksJ15_getChars_1 10 rfl rfl)
theorem dJ15_getChars_34 : decode cJ15_getChars 34 = .ok (.bipush 100, 2) := dk_16 100 (dk_at dksJ15_getChars_1 11 rfl rfl)
theorem dJ15_getChars_36 : decode cJ15_getChars 36 = .ok (.imul, 1) := dk_104 (dk_at dksJ15_getChars_1 13 rfl rfl)
theorem dJ15_getChars_37 : decode cJ15_getChars 37 = .ok (.iload_n 0, 1) := dk_26 (dk_at dksJ15_getChars_1 14 rfl rfl)
theorem dJ15_getChars_38 : decode cJ15_getChars 38 = .ok (.isub, 1) := dk_100 (dk_at dksJ15_getChars_1 15 rfl rfl)
theorem dJ15_getChars_39 : decode cJ15_getChars 39 = .ok (.istore 4, 2) := dk_54 4 (dk_at dksJ15_getChars_1 16 rfl rfl)
theorem dJ15_getChars_41 : decode cJ15_getChars 41 = .ok (.iload_n 3, 1) := dk_29 (dk_at dksJ15_getChars_1 18 rfl rfl)
theorem dJ15_getChars_42 : decode cJ15_getChars 42 = .ok (.istore_n 0, 1) := dk_59 (dk_at dksJ15_getChars_1 19 rfl rfl)
theorem dJ15_getChars_43 : decode cJ15_getChars 43 = .ok (.aload_n 2, 1) := dk_44 (dk_at dksJ15_getChars_1 20 rfl rfl)
theorem dJ15_getChars_44 : decode cJ15_getChars 44 = .ok (.iinc 5 (-1), 3) := dk_132 5 255 (dk_at dksJ15_getChars_1 21 rfl rfl)
theorem dJ15_getChars_47 : decode cJ15_getChars 47 = .ok (.iload 5, 2) := dk_21 5 (dk_at dksJ15_getChars_2 0 rfl rfl)
theorem dJ15_getChars_49 : decode cJ15_getChars 49 = .ok (.getstatic 83, 3) := dk_178 0 83 (dk_at dksJ15_getChars_2 2 rfl rfl)
theorem dJ15_getChars_52 : decode cJ15_getChars 52 = .ok (.iload 4, 2) := dk_21 4 (dk_at dksJ15_getChars_2 5 rfl rfl)
theorem dJ15_getChars_54 : decode cJ15_getChars 54 = .ok (.baload, 1) := dk_51 (dk_at dksJ15_getChars_2 7 rfl rfl)
theorem dJ15_getChars_55 : decode cJ15_getChars 55 = .ok (.bastore, 1) := dk_84 (dk_at dksJ15_getChars_2 8 rfl rfl)
theorem dJ15_getChars_56 : decode cJ15_getChars 56 = .ok (.aload_n 2, 1) := dk_44 (dk_at dksJ15_getChars_2 9 rfl rfl)
theorem dJ15_getChars_57 : decode cJ15_getChars 57 = .ok (.iinc 5 (-1), 3) := dk_132 5 255 (dk_at dksJ15_getChars_2 10 rfl rfl)
theorem dJ15_getChars_60 : decode cJ15_getChars 60 = .ok (.iload 5, 2) := dk_21 5 (dk_at dksJ15_getChars_2 13 rfl rfl)
theorem dJ15_getChars_62 : decode cJ15_getChars 62 = .ok (.getstatic 87, 3) := dk_178 0 87 (dk_at dksJ15_getChars_2 15 rfl rfl)
theorem dJ15_getChars_65 : decode cJ15_getChars 65 = .ok (.iload 4, 2) := dk_21 4 (dk_at dksJ15_getChars_2 18 rfl rfl)
theorem dJ15_getChars_67 : decode cJ15_getChars 67 = .ok (.baload, 1) := dk_51 (dk_at dksJ15_getChars_2 20 rfl rfl)
theorem dJ15_getChars_68 : decode cJ15_getChars 68 = .ok (.bastore, 1) := dk_84 (dk_at dksJ15_getChars_2 21 rfl rfl)
theorem dJ15_getChars_69 : decode cJ15_getChars 69 = .ok (.goto (-47), 3) := dk_167 255 209 (dk_at dksJ15_getChars_3 0 rfl rfl)
theorem dJ15_getChars_72 : decode cJ15_getChars 72 = .ok (.aload_n 2, 1) := dk_44 (dk_at dksJ15_getChars_3 3 rfl rfl)
theorem dJ15_getChars_73 : decode cJ15_getChars 73 = .ok (.iinc 5 (-1), 3) := dk_132 5 255 (dk_at dksJ15_getChars_3 4 rfl rfl)
theorem dJ15_getChars_76 : decode cJ15_getChars 76 = .ok (.iload 5, 2) := dk_21 5 (dk_at dksJ15_getChars_3 7 rfl rfl)
theorem dJ15_getChars_78 : decode cJ15_getChars 78 = .ok (.getstatic 83, 3) := dk_178 0 83 (dk_at dksJ15_getChars_3 9 rfl rfl)
theorem dJ15_getChars_81 : decode cJ15_getChars 81 = .ok (.iload_n 0, 1) := dk_26 (dk_at dksJ15_getChars_3 12 rfl rfl)
theorem dJ15_getChars_82 : decode cJ15_getChars 82 = .ok (.ineg, 1) := dk_116 (dk_at dksJ15_getChars_3 13 rfl rfl)
theorem dJ15_getChars_83 : decode cJ15_getChars 83 = .ok (.baload, 1) := dk_51 (dk_at dksJ15_getChars_3 14 rfl rfl)
theorem dJ15_getChars_84 : decode cJ15_getChars 84 = .ok (.bastore, 1) := dk_84 (dk_at dksJ15_getChars_3 15 rfl rfl)
theorem dJ15_getChars_85 : decode cJ15_getChars 85 = .ok (.iload_n 0, 1) := dk_26 (dk_at dksJ15_getChars_3 16 rfl rfl)
theorem dJ15_getChars_86 : decode cJ15_getChars 86 = .ok (.bipush (-9), 2) := dk_16 247 (dk_at dksJ15_getChars_3 17 rfl rfl)
theorem dJ15_getChars_88 : decode cJ15_getChars 88 = .ok (.if_icmp .ge 16, 3) := dk_162 0 16 (dk_at dksJ15_getChars_3 19 rfl rfl)
theorem dJ15_getChars_91 : decode cJ15_getChars 91 = .ok (.aload_n 2, 1) := dk_44 (dk_at dksJ15_getChars_3 22 rfl rfl)
theorem dJ15_getChars_92 : decode cJ15_getChars 92 = .ok (.iinc 5 (-1), 3) := dk_132 5 255 (dk_at dksJ15_getChars_4 0 rfl rfl)
theorem dJ15_getChars_95 : decode cJ15_getChars 95 = .ok (.iload 5, 2) := dk_21 5 (dk_at dksJ15_getChars_4 3 rfl rfl)
theorem dJ15_getChars_97 : decode cJ15_getChars 97 = .ok (.getstatic 87, 3) := dk_178 0 87 (dk_at dksJ15_getChars_4 5 rfl rfl)
theorem dJ15_getChars_100 : decode cJ15_getChars 100 = .ok (.iload_n 0, 1) := dk_26 (dk_at dksJ15_getChars_4 8 rfl rfl)
theorem dJ15_getChars_101 : decode cJ15_getChars 101 = .ok (.ineg, 1) := dk_116 (dk_at dksJ15_getChars_4 9 rfl rfl)
theorem dJ15_getChars_102 : decode cJ15_getChars 102 = .ok (.baload, 1) := dk_51 (dk_at dksJ15_getChars_4 10 rfl rfl)
theorem dJ15_getChars_103 : decode cJ15_getChars 103 = .ok (.bastore, 1) := dk_84 (dk_at dksJ15_getChars_4 11 rfl rfl)
theorem dJ15_getChars_104 : decode cJ15_getChars 104 = .ok (.iload 6, 2) := dk_21 6 (dk_at dksJ15_getChars_4 12 rfl rfl)
theorem dJ15_getChars_106 : decode cJ15_getChars 106 = .ok (.ifCond .eq 12, 3) := dk_153 0 12 (dk_at dksJ15_getChars_4 14 rfl rfl)
theorem dJ15_getChars_109 : decode cJ15_getChars 109 = .ok (.aload_n 2, 1) := dk_44 (dk_at dksJ15_getChars_4 17 rfl rfl)
theorem dJ15_getChars_110 : decode cJ15_getChars 110 = .ok (.iinc 5 (-1), 3) := dk_132 5 255 (dk_at dksJ15_getChars_4 18 rfl rfl)
theorem dJ15_getChars_113 : decode cJ15_getChars 113 = .ok (.iload 5, 2) := dk_21 5 (dk_at dksJ15_getChars_4 21 rfl rfl)
theorem dJ15_getChars_115 : decode cJ15_getChars 115 = .ok (.bipush 45, 2) := dk_16 45 (dk_at dksJ15_getChars_5 0 rfl rfl)
theorem dJ15_getChars_117 : decode cJ15_getChars 117 = .ok (.bastore, 1) := dk_84 (dk_at dksJ15_getChars_5 2 rfl rfl)
theorem dJ15_getChars_118 : decode cJ15_getChars 118 = .ok (.iload 5, 2) := dk_21 5 (dk_at dksJ15_getChars_5 3 rfl rfl)
theorem dJ15_getChars_120 : decode cJ15_getChars 120 = .ok (.ireturn, 1) := dk_172 (dk_at dksJ15_getChars_5 5 rfl rfl)
theorem q113 : (Jvm.Cond.initialized "java/lang/Integer") ∈ lw_all := lw_g (lw_at lw_m1 22 rfl) rfl
theorem q400 : (Jvm.Cond.static ({ cls := "java/lang/Integer", name := "stringSize", desc := "(I)I" } : Jvm.MethodName)) ∈ lw_all := lw_g (lw_at lw_m2 69 rfl) rfl
theorem q401 : (Jvm.Cond.code ({ cls := "java/lang/Integer", name := "stringSize", desc := "(I)I" } : Jvm.MethodName) prog_35_method_13_code (4 : Nat) (Option.some Jvm.ClassFile.FieldType.int)) ∈ lw_all := lw_g (lw_at lw_m2 70 rfl) rfl
theorem q403 : (Jvm.Cond.static ({ cls := "java/lang/Integer", name := "getChars", desc := "(II[B)I" } : Jvm.MethodName)) ∈ lw_all := lw_g (lw_at lw_m2 72 rfl) rfl
theorem q404 : (Jvm.Cond.code ({ cls := "java/lang/Integer", name := "getChars", desc := "(II[B)I" } : Jvm.MethodName) prog_35_method_12_code (7 : Nat) (Option.some Jvm.ClassFile.FieldType.int)) ∈ lw_all := lw_g (lw_at lw_m2 73 rfl) rfl
theorem q405 : (Jvm.Cond.fieldLink "java/lang/Integer" (83 : Nat) "java/lang/Integer" "DigitOnes" "[B") ∈ lw_all := lw_g (lw_at lw_m2 74 rfl) rfl
theorem q406 : (Jvm.Cond.laysStatic "java/lang/Integer" "DigitOnes" "[B") ∈ lw_tbl := lw_at lw_m2 75 rfl
theorem q407 : (Jvm.Cond.fieldLink "java/lang/Integer" (87 : Nat) "java/lang/Integer" "DigitTens" "[B") ∈ lw_all := lw_g (lw_at lw_m2 76 rfl) rfl
theorem q408 : (Jvm.Cond.laysStatic "java/lang/Integer" "DigitTens" "[B") ∈ lw_tbl := lw_at lw_m2 77 rfl
/-! java/lang/IndexOutOfBoundsException -/
set_option maxRecDepth 100000
def RJ16 : String := "java/lang/IndexOutOfBoundsException"
def TJ16 : u_T := fun k => match k with
  | 0 => ("java/lang/Throwable", "cause", "Ljava/lang/Throwable;", false)
  | 1 => ("java/lang/Throwable", "stackTrace", "[Ljava/lang/StackTraceElement;", false)
  | 2 => ("java/lang/Throwable", "suppressedExceptions", "Ljava/util/List;", false)
  | 3 => ("java/lang/Throwable", "detailMessage", "Ljava/lang/String;", false)
  | 4 => ("java/lang/Throwable", "backtrace", "Ljava/lang/Object;", false)
  | _ => ("java/lang/Throwable", "depth", "I", false)
def tyJ16 : Nat → FieldType := fun k => match k with
  | 0 => .object "java/lang/Throwable"
  | 1 => .array (.object "java/lang/StackTraceElement")
  | 2 => .object "java/util/List"
  | 3 => .object "java/lang/String"
  | 4 => .object "java/lang/Object"
  | _ => .int
abbrev wsJ160 : List Cond := u_ws RJ16 TJ16 6
theorem nmJ16 : ∀ a, a < 6 → ∀ b, b < 6 → a ≠ b → (TJ16 a).2.1 ≠ (TJ16 b).2.1 := by decide +kernel
theorem tyJ16_ok : ∀ k, k < 6 → parseFieldDescriptor (TJ16 k).2.2.1 = some (tyJ16 k) := by decide +kernel
abbrev cJ16_init : ByteArray := prog_34_method_2_code
def yJ16_init : MethodName := ⟨RJ16, "<init>", "(Ljava/lang/String;)V"⟩
def dkwJ16_init_0 : List UInt8 := [42, 43, 183, 0, 7, 177]
abbrev dktJ16_init_0 : List UInt8 := dkwJ16_init_0 ++ []
theorem dksJ16_init_0 : cJ16_init.data.toList.drop 0 = dktJ16_init_0 := by decide +kernel
theorem dJ16_init_0 : decode cJ16_init 0 = .ok (.aload_n 0, 1) := dk_42 (dk_at dksJ16_init_0 0 rfl rfl)
theorem dJ16_init_1 : decode cJ16_init 1 = .ok (.aload_n 1, 1) := dk_43 (dk_at dksJ16_init_0 1 rfl rfl)
theorem dJ16_init_2 : decode cJ16_init 2 = .ok (.invokespecial 7, 3) := dk_183 0 7 (dk_at dksJ16_init_0 2 rfl rfl)
theorem dJ16_init_5 : decode cJ16_init 5 = .ok (.return_, 1) := dk_177 (dk_at dksJ16_init_0 5 rfl rfl)
theorem q124 : (Jvm.Cond.initialized "java/lang/IndexOutOfBoundsException") ∈ lw_all := lw_g (lw_at lw_m1 33 rfl) rfl
theorem q207 : (Jvm.Cond.selects "java/lang/IndexOutOfBoundsException" ({ cls := "java/lang/Throwable", name := "fillInStackTrace", desc := "()Ljava/lang/Throwable;" } : Jvm.MethodName) ({ cls := "java/lang/Throwable", name := "fillInStackTrace", desc := "()Ljava/lang/Throwable;" } : Jvm.MethodName)) ∈ lw_all := lw_g (lw_at lw_m1 116 rfl) rfl
theorem q864 : (Jvm.Cond.instantiable "java/lang/IndexOutOfBoundsException" (6 : Nat)) ∈ lw_all := lw_g (lw_at lw_m4 53 rfl) rfl
theorem q865 : (Jvm.Cond.castable "java/lang/IndexOutOfBoundsException" "java/lang/IndexOutOfBoundsException") ∈ lw_tbl := lw_at lw_m4 54 rfl
theorem q866 : (Jvm.Cond.selects "java/lang/IndexOutOfBoundsException" ({ cls := "java/lang/Throwable", name := "fillInStackTrace", desc := "(I)Ljava/lang/Throwable;" } : Jvm.MethodName) ({ cls := "java/lang/Throwable", name := "fillInStackTrace", desc := "(I)Ljava/lang/Throwable;" } : Jvm.MethodName)) ∈ lw_all := lw_g (lw_at lw_m4 55 rfl) rfl
theorem q867 : (Jvm.Cond.lays "java/lang/IndexOutOfBoundsException" "java/lang/Throwable" "cause" "Ljava/lang/Throwable;") ∈ lw_all := lw_g (lw_at lw_m4 56 rfl) rfl
theorem q868 : (Jvm.Cond.lays "java/lang/IndexOutOfBoundsException" "java/lang/Throwable" "stackTrace" "[Ljava/lang/StackTraceElement;") ∈ lw_all := lw_g (lw_at lw_m4 57 rfl) rfl
theorem q869 : (Jvm.Cond.lays "java/lang/IndexOutOfBoundsException" "java/lang/Throwable" "suppressedExceptions" "Ljava/util/List;") ∈ lw_all := lw_g (lw_at lw_m4 58 rfl) rfl
theorem q870 : (Jvm.Cond.lays "java/lang/IndexOutOfBoundsException" "java/lang/Throwable" "detailMessage" "Ljava/lang/String;") ∈ lw_all := lw_g (lw_at lw_m4 59 rfl) rfl
theorem q871 : (Jvm.Cond.lays "java/lang/IndexOutOfBoundsException" "java/lang/Throwable" "backtrace" "Ljava/lang/Object;") ∈ lw_all := lw_g (lw_at lw_m4 60 rfl) rfl
theorem q874 : (Jvm.Cond.instanceMethod ({ cls := "java/lang/IndexOutOfBoundsException", name := "<init>", desc := "(Ljava/lang/String;)V" } : Jvm.MethodName)) ∈ lw_all := lw_g (lw_at lw_m4 63 rfl) rfl
theorem q875 : (Jvm.Cond.code ({ cls := "java/lang/IndexOutOfBoundsException", name := "<init>", desc := "(Ljava/lang/String;)V" } : Jvm.MethodName) prog_34_method_2_code (2 : Nat) (Option.none : Option Jvm.ClassFile.FieldType)) ∈ lw_all := lw_g (lw_at lw_m4 64 rfl) rfl
theorem q876 : (Jvm.Cond.methodLink "java/lang/IndexOutOfBoundsException" (7 : Nat) ({ cls := "java/lang/RuntimeException", name := "<init>", desc := "(Ljava/lang/String;)V" } : Jvm.MethodName)) ∈ lw_all := lw_g (lw_at lw_m4 65 rfl) rfl
theorem q877 : (Jvm.Cond.lays "java/lang/IndexOutOfBoundsException" "java/lang/Throwable" "depth" "I") ∈ lw_all := lw_g (lw_at lw_m4 66 rfl) rfl
theorem q878 : (Jvm.Cond.superclass "java/lang/IndexOutOfBoundsException" "java/lang/RuntimeException") ∈ lw_all := lw_g (lw_at lw_m4 67 rfl) rfl
theorem q1650 : (Jvm.Cond.declares ({ cls := "java/lang/IndexOutOfBoundsException", name := "<init>", desc := "()V" } : Jvm.MethodName)) ∈ lw_tbl := lw_at lw_m7 119 rfl
theorem q1651 : (Jvm.Cond.declares ({ cls := "java/lang/IndexOutOfBoundsException", name := "<init>", desc := "(Ljava/lang/String;)V" } : Jvm.MethodName)) ∈ lw_tbl := lw_at lw_m7 120 rfl
theorem q2247 : (Jvm.Cond.castable "java/lang/IndexOutOfBoundsException" "java/lang/Object") ∈ lw_tbl := lw_at lw_m9 236 rfl
theorem in_J16 : ∀ w ∈ wsJ160, w ∈ lw_all := lw_in wsJ160 [867, 868, 869, 870, 871, 877] (by decide +kernel) (by decide +kernel)
/-! java/lang/Long -/
set_option maxRecDepth 100000
def RJ17 : String := "java/lang/Long"
abbrev cJ17_bitCount : ByteArray := prog_36_method_50_code
def yJ17_bitCount : MethodName := ⟨RJ17, "bitCount", "(J)I"⟩
def dkwJ17_bitCount_2 : List UInt8 := [30, 30, 16, 32, 125, 97, 63, 30, 136, 16, 127, 126, 172]
abbrev dktJ17_bitCount_2 : List UInt8 := dkwJ17_bitCount_2 ++ []
def dkwJ17_bitCount_1 : List UInt8 := [30, 30, 7, 125, 97, 20, 1, 62, 127, 63, 30, 30, 16, 8, 125, 97, 63, 30, 30, 16, 16, 125, 97, 63]
abbrev dktJ17_bitCount_1 : List UInt8 := dkwJ17_bitCount_1 ++ dktJ17_bitCount_2
def dkwJ17_bitCount_0 : List UInt8 := [30, 30, 4, 125, 20, 1, 58, 127, 101, 63, 30, 20, 1, 60, 127, 30, 5, 125, 20, 1, 60, 127, 97, 63]
abbrev dktJ17_bitCount_0 : List UInt8 := dkwJ17_bitCount_0 ++ dktJ17_bitCount_1
theorem dksJ17_bitCount_0 : cJ17_bitCount.data.toList.drop 0 = dktJ17_bitCount_0 := by decide +kernel
theorem dksJ17_bitCount_1 : cJ17_bitCount.data.toList.drop 24 = dktJ17_bitCount_1 := dk_seg dksJ17_bitCount_0 24 rfl rfl
theorem dksJ17_bitCount_2 : cJ17_bitCount.data.toList.drop 48 = dktJ17_bitCount_2 := dk_seg dksJ17_bitCount_1 24 rfl rfl
theorem dJ17_bitCount_0 : decode cJ17_bitCount 0 = .ok (.lload_n 0, 1) := dk_30 (dk_at dksJ17_bitCount_0 0 rfl rfl)
theorem dJ17_bitCount_1 : decode cJ17_bitCount 1 = .ok (.lload_n 0, 1) := dk_30 (dk_at dksJ17_bitCount_0 1 rfl rfl)
theorem dJ17_bitCount_2 : decode cJ17_bitCount 2 = .ok (.iconst 1, 1) := dk_4 (dk_at dksJ17_bitCount_0 2 rfl rfl)
theorem dJ17_bitCount_3 : decode cJ17_bitCount 3 = .ok (.lushr, 1) := dk_125 (dk_at dksJ17_bitCount_0 3 rfl rfl)
theorem dJ17_bitCount_4 : decode cJ17_bitCount 4 = .ok (.ldc2_w 314, 3) := dk_20 1 58 (dk_at dksJ17_bitCount_0 4 rfl rfl)
theorem dJ17_bitCount_7 : decode cJ17_bitCount 7 = .ok (.land, 1) := dk_127 (dk_at dksJ17_bitCount_0 7 rfl rfl)
theorem dJ17_bitCount_8 : decode cJ17_bitCount 8 = .ok (.lsub, 1) := dk_101 (dk_at dksJ17_bitCount_0 8 rfl rfl)
theorem dJ17_bitCount_9 : decode cJ17_bitCount 9 = .ok (.lstore_n 0, 1) := dk_63 (dk_at dksJ17_bitCount_0 9 rfl rfl)
theorem dJ17_bitCount_10 : decode cJ17_bitCount 10 = .ok (.lload_n 0, 1) := dk_30 (dk_at dksJ17_bitCount_0 10 rfl rfl)
theorem dJ17_bitCount_11 : decode cJ17_bitCount 11 = .ok (.ldc2_w 316, 3) := dk_20 1 60 (dk_at dksJ17_bitCount_0 11 rfl rfl)
theorem dJ17_bitCount_14 : decode cJ17_bitCount 14 = .ok (.land, 1) := dk_127 (dk_at dksJ17_bitCount_0 14 rfl rfl)
theorem dJ17_bitCount_15 : decode cJ17_bitCount 15 = .ok (.lload_n 0, 1) := dk_30 (dk_at dksJ17_bitCount_0 15 rfl rfl)
theorem dJ17_bitCount_16 : decode cJ17_bitCount 16 = .ok (.iconst 2, 1) := dk_5 (dk_at dksJ17_bitCount_0 16 rfl rfl)
theorem dJ17_bitCount_17 : decode cJ17_bitCount 17 = .ok (.lushr, 1) := dk_125 (dk_at dksJ17_bitCount_0 17 rfl rfl)
theorem dJ17_bitCount_18 : decode cJ17_bitCount 18 = .ok (.ldc2_w 316, 3) := dk_20 1 60 (dk_at dksJ17_bitCount_0 18 rfl rfl)
theorem dJ17_bitCount_21 : decode cJ17_bitCount 21 = .ok (.land, 1) := dk_127 (dk_at dksJ17_bitCount_0 21 rfl rfl)
theorem dJ17_bitCount_22 : decode cJ17_bitCount 22 = .ok (.ladd, 1) := dk_97 (dk_at dksJ17_bitCount_0 22 rfl rfl)
theorem dJ17_bitCount_23 : decode cJ17_bitCount 23 = .ok (.lstore_n 0, 1) := dk_63 (dk_at dksJ17_bitCount_0 23 rfl rfl)
theorem dJ17_bitCount_24 : decode cJ17_bitCount 24 = .ok (.lload_n 0, 1) := dk_30 (dk_at dksJ17_bitCount_1 0 rfl rfl)
theorem dJ17_bitCount_25 : decode cJ17_bitCount 25 = .ok (.lload_n 0, 1) := dk_30 (dk_at dksJ17_bitCount_1 1 rfl rfl)
theorem dJ17_bitCount_26 : decode cJ17_bitCount 26 = .ok (.iconst 4, 1) := dk_7 (dk_at dksJ17_bitCount_1 2 rfl rfl)
theorem dJ17_bitCount_27 : decode cJ17_bitCount 27 = .ok (.lushr, 1) := dk_125 (dk_at dksJ17_bitCount_1 3 rfl rfl)
theorem dJ17_bitCount_28 : decode cJ17_bitCount 28 = .ok (.ladd, 1) := dk_97 (dk_at dksJ17_bitCount_1 4 rfl rfl)
theorem dJ17_bitCount_29 : decode cJ17_bitCount 29 = .ok (.ldc2_w 318, 3) := dk_20 1 62 (dk_at dksJ17_bitCount_1 5 rfl rfl)
theorem dJ17_bitCount_32 : decode cJ17_bitCount 32 = .ok (.land, 1) := dk_127 (dk_at dksJ17_bitCount_1 8 rfl rfl)
theorem dJ17_bitCount_33 : decode cJ17_bitCount 33 = .ok (.lstore_n 0, 1) := dk_63 (dk_at dksJ17_bitCount_1 9 rfl rfl)
theorem dJ17_bitCount_34 : decode cJ17_bitCount 34 = .ok (.lload_n 0, 1) := dk_30 (dk_at dksJ17_bitCount_1 10 rfl rfl)
theorem dJ17_bitCount_35 : decode cJ17_bitCount 35 = .ok (.lload_n 0, 1) := dk_30 (dk_at dksJ17_bitCount_1 11 rfl rfl)
theorem dJ17_bitCount_36 : decode cJ17_bitCount 36 = .ok (.bipush 8, 2) := dk_16 8 (dk_at dksJ17_bitCount_1 12 rfl rfl)
theorem dJ17_bitCount_38 : decode cJ17_bitCount 38 = .ok (.lushr, 1) := dk_125 (dk_at dksJ17_bitCount_1 14 rfl rfl)
theorem dJ17_bitCount_39 : decode cJ17_bitCount 39 = .ok (.ladd, 1) := dk_97 (dk_at dksJ17_bitCount_1 15 rfl rfl)
theorem dJ17_bitCount_40 : decode cJ17_bitCount 40 = .ok (.lstore_n 0, 1) := dk_63 (dk_at dksJ17_bitCount_1 16 rfl rfl)
theorem dJ17_bitCount_41 : decode cJ17_bitCount 41 = .ok (.lload_n 0, 1) := dk_30 (dk_at dksJ17_bitCount_1 17 rfl rfl)
theorem dJ17_bitCount_42 : decode cJ17_bitCount 42 = .ok (.lload_n 0, 1) := dk_30 (dk_at dksJ17_bitCount_1 18 rfl rfl)
theorem dJ17_bitCount_43 : decode cJ17_bitCount 43 = .ok (.bipush 16, 2) := dk_16 16 (dk_at dksJ17_bitCount_1 19 rfl rfl)
theorem dJ17_bitCount_45 : decode cJ17_bitCount 45 = .ok (.lushr, 1) := dk_125 (dk_at dksJ17_bitCount_1 21 rfl rfl)
theorem dJ17_bitCount_46 : decode cJ17_bitCount 46 = .ok (.ladd, 1) := dk_97 (dk_at dksJ17_bitCount_1 22 rfl rfl)
theorem dJ17_bitCount_47 : decode cJ17_bitCount 47 = .ok (.lstore_n 0, 1) := dk_63 (dk_at dksJ17_bitCount_1 23 rfl rfl)
theorem dJ17_bitCount_48 : decode cJ17_bitCount 48 = .ok (.lload_n 0, 1) := dk_30 (dk_at dksJ17_bitCount_2 0 rfl rfl)
theorem dJ17_bitCount_49 : decode cJ17_bitCount 49 = .ok (.lload_n 0, 1) := dk_30 (dk_at dksJ17_bitCount_2 1 rfl rfl)
theorem dJ17_bitCount_50 : decode cJ17_bitCount 50 = .ok (.bipush 32, 2) := dk_16 32 (dk_at dksJ17_bitCount_2 2 rfl rfl)
theorem dJ17_bitCount_52 : decode cJ17_bitCount 52 = .ok (.lushr, 1) := dk_125 (dk_at dksJ17_bitCount_2 4 rfl rfl)
theorem dJ17_bitCount_53 : decode cJ17_bitCount 53 = .ok (.ladd, 1) := dk_97 (dk_at dksJ17_bitCount_2 5 rfl rfl)
theorem dJ17_bitCount_54 : decode cJ17_bitCount 54 = .ok (.lstore_n 0, 1) := dk_63 (dk_at dksJ17_bitCount_2 6 rfl rfl)
theorem dJ17_bitCount_55 : decode cJ17_bitCount 55 = .ok (.lload_n 0, 1) := dk_30 (dk_at dksJ17_bitCount_2 7 rfl rfl)
theorem dJ17_bitCount_56 : decode cJ17_bitCount 56 = .ok (.l2i, 1) := dk_136 (dk_at dksJ17_bitCount_2 8 rfl rfl)
theorem dJ17_bitCount_57 : decode cJ17_bitCount 57 = .ok (.bipush 127, 2) := dk_16 127 (dk_at dksJ17_bitCount_2 9 rfl rfl)
theorem dJ17_bitCount_59 : decode cJ17_bitCount 59 = .ok (.iand, 1) := dk_126 (dk_at dksJ17_bitCount_2 11 rfl rfl)
theorem dJ17_bitCount_60 : decode cJ17_bitCount 60 = .ok (.ireturn, 1) := dk_172 (dk_at dksJ17_bitCount_2 12 rfl rfl)
theorem q127 : (Jvm.Cond.initialized "java/lang/Long") ∈ lw_all := lw_g (lw_at lw_m1 36 rfl) rfl
theorem q1292 : (Jvm.Cond.static ({ cls := "java/lang/Long", name := "bitCount", desc := "(J)I" } : Jvm.MethodName)) ∈ lw_all := lw_g (lw_at lw_m6 1 rfl) rfl
theorem q1293 : (Jvm.Cond.code ({ cls := "java/lang/Long", name := "bitCount", desc := "(J)I" } : Jvm.MethodName) prog_36_method_50_code (2 : Nat) (Option.some Jvm.ClassFile.FieldType.int)) ∈ lw_all := lw_g (lw_at lw_m6 2 rfl) rfl
theorem q1294 : (Jvm.Cond.constantLong "java/lang/Long" (314 : Nat) (6148914691236517205 : Int64)) ∈ lw_all := lw_g (lw_at lw_m6 3 rfl) rfl
theorem q1295 : (Jvm.Cond.constantLong "java/lang/Long" (316 : Nat) (3689348814741910323 : Int64)) ∈ lw_all := lw_g (lw_at lw_m6 4 rfl) rfl
theorem q1296 : (Jvm.Cond.constantLong "java/lang/Long" (318 : Nat) (1085102592571150095 : Int64)) ∈ lw_all := lw_g (lw_at lw_m6 5 rfl) rfl
/-! java/lang/ClassCastException -/
set_option maxRecDepth 100000
def RJ18 : String := "java/lang/ClassCastException"
def TJ18 : u_T := fun k => match k with
  | 0 => ("java/lang/Throwable", "backtrace", "Ljava/lang/Object;", false)
  | 1 => ("java/lang/Throwable", "detailMessage", "Ljava/lang/String;", false)
  | 2 => ("java/lang/Throwable", "cause", "Ljava/lang/Throwable;", false)
  | 3 => ("java/lang/Throwable", "stackTrace", "[Ljava/lang/StackTraceElement;", false)
  | 4 => ("java/lang/Throwable", "depth", "I", false)
  | _ => ("java/lang/Throwable", "suppressedExceptions", "Ljava/util/List;", false)
def tyJ18 : Nat → FieldType := fun k => match k with
  | 0 => .object "java/lang/Object"
  | 1 => .object "java/lang/String"
  | 2 => .object "java/lang/Throwable"
  | 3 => .array (.object "java/lang/StackTraceElement")
  | 4 => .int
  | _ => .object "java/util/List"
abbrev wsJ180 : List Cond := u_ws RJ18 TJ18 6
theorem nmJ18 : ∀ a, a < 6 → ∀ b, b < 6 → a ≠ b → (TJ18 a).2.1 ≠ (TJ18 b).2.1 := by decide +kernel
theorem tyJ18_ok : ∀ k, k < 6 → parseFieldDescriptor (TJ18 k).2.2.1 = some (tyJ18 k) := by decide +kernel
abbrev cJ18_init : ByteArray := prog_29_method_2_code
def yJ18_init : MethodName := ⟨RJ18, "<init>", "(Ljava/lang/String;)V"⟩
def dkwJ18_init_0 : List UInt8 := [42, 43, 183, 0, 7, 177]
abbrev dktJ18_init_0 : List UInt8 := dkwJ18_init_0 ++ []
theorem dksJ18_init_0 : cJ18_init.data.toList.drop 0 = dktJ18_init_0 := by decide +kernel
theorem dJ18_init_0 : decode cJ18_init 0 = .ok (.aload_n 0, 1) := dk_42 (dk_at dksJ18_init_0 0 rfl rfl)
theorem dJ18_init_1 : decode cJ18_init 1 = .ok (.aload_n 1, 1) := dk_43 (dk_at dksJ18_init_0 1 rfl rfl)
theorem dJ18_init_2 : decode cJ18_init 2 = .ok (.invokespecial 7, 3) := dk_183 0 7 (dk_at dksJ18_init_0 2 rfl rfl)
theorem dJ18_init_5 : decode cJ18_init 5 = .ok (.return_, 1) := dk_177 (dk_at dksJ18_init_0 5 rfl rfl)
theorem q128 : (Jvm.Cond.initialized "java/lang/ClassCastException") ∈ lw_all := lw_g (lw_at lw_m1 37 rfl) rfl
theorem q206 : (Jvm.Cond.selects "java/lang/ClassCastException" ({ cls := "java/lang/Throwable", name := "fillInStackTrace", desc := "()Ljava/lang/Throwable;" } : Jvm.MethodName) ({ cls := "java/lang/Throwable", name := "fillInStackTrace", desc := "()Ljava/lang/Throwable;" } : Jvm.MethodName)) ∈ lw_all := lw_g (lw_at lw_m1 115 rfl) rfl
theorem q1327 : (Jvm.Cond.instantiable "java/lang/ClassCastException" (6 : Nat)) ∈ lw_all := lw_g (lw_at lw_m6 36 rfl) rfl
theorem q1328 : (Jvm.Cond.instanceMethod ({ cls := "java/lang/ClassCastException", name := "<init>", desc := "(Ljava/lang/String;)V" } : Jvm.MethodName)) ∈ lw_all := lw_g (lw_at lw_m6 37 rfl) rfl
theorem q1329 : (Jvm.Cond.code ({ cls := "java/lang/ClassCastException", name := "<init>", desc := "(Ljava/lang/String;)V" } : Jvm.MethodName) prog_29_method_2_code (2 : Nat) (Option.none : Option Jvm.ClassFile.FieldType)) ∈ lw_all := lw_g (lw_at lw_m6 38 rfl) rfl
theorem q1330 : (Jvm.Cond.methodLink "java/lang/ClassCastException" (7 : Nat) ({ cls := "java/lang/RuntimeException", name := "<init>", desc := "(Ljava/lang/String;)V" } : Jvm.MethodName)) ∈ lw_all := lw_g (lw_at lw_m6 39 rfl) rfl
theorem q1331 : (Jvm.Cond.lays "java/lang/ClassCastException" "java/lang/Throwable" "backtrace" "Ljava/lang/Object;") ∈ lw_all := lw_g (lw_at lw_m6 40 rfl) rfl
theorem q1332 : (Jvm.Cond.lays "java/lang/ClassCastException" "java/lang/Throwable" "detailMessage" "Ljava/lang/String;") ∈ lw_all := lw_g (lw_at lw_m6 41 rfl) rfl
theorem q1333 : (Jvm.Cond.lays "java/lang/ClassCastException" "java/lang/Throwable" "cause" "Ljava/lang/Throwable;") ∈ lw_all := lw_g (lw_at lw_m6 42 rfl) rfl
theorem q1334 : (Jvm.Cond.lays "java/lang/ClassCastException" "java/lang/Throwable" "stackTrace" "[Ljava/lang/StackTraceElement;") ∈ lw_all := lw_g (lw_at lw_m6 43 rfl) rfl
theorem q1335 : (Jvm.Cond.lays "java/lang/ClassCastException" "java/lang/Throwable" "depth" "I") ∈ lw_all := lw_g (lw_at lw_m6 44 rfl) rfl
theorem q1336 : (Jvm.Cond.lays "java/lang/ClassCastException" "java/lang/Throwable" "suppressedExceptions" "Ljava/util/List;") ∈ lw_all := lw_g (lw_at lw_m6 45 rfl) rfl
theorem q1337 : (Jvm.Cond.superclass "java/lang/ClassCastException" "java/lang/RuntimeException") ∈ lw_all := lw_g (lw_at lw_m6 46 rfl) rfl
theorem q1338 : (Jvm.Cond.castable "java/lang/ClassCastException" "java/lang/ClassCastException") ∈ lw_tbl := lw_at lw_m6 47 rfl
theorem q1339 : (Jvm.Cond.selects "java/lang/ClassCastException" ({ cls := "java/lang/Throwable", name := "fillInStackTrace", desc := "(I)Ljava/lang/Throwable;" } : Jvm.MethodName) ({ cls := "java/lang/Throwable", name := "fillInStackTrace", desc := "(I)Ljava/lang/Throwable;" } : Jvm.MethodName)) ∈ lw_all := lw_g (lw_at lw_m6 48 rfl) rfl
theorem q2250 : (Jvm.Cond.castable "java/lang/ClassCastException" "java/lang/Object") ∈ lw_tbl := lw_at lw_m9 239 rfl
theorem in_J18 : ∀ w ∈ wsJ180, w ∈ lw_all := lw_in wsJ180 [1331, 1332, 1333, 1334, 1335, 1336] (by decide +kernel) (by decide +kernel)
/-! java/lang/ArrayIndexOutOfBoundsException -/
set_option maxRecDepth 100000
def RJ19 : String := "java/lang/ArrayIndexOutOfBoundsException"
def TJ19 : u_T := fun k => match k with
  | 0 => ("java/lang/Throwable", "backtrace", "Ljava/lang/Object;", false)
  | 1 => ("java/lang/Throwable", "detailMessage", "Ljava/lang/String;", false)
  | 2 => ("java/lang/Throwable", "cause", "Ljava/lang/Throwable;", false)
  | 3 => ("java/lang/Throwable", "stackTrace", "[Ljava/lang/StackTraceElement;", false)
  | 4 => ("java/lang/Throwable", "depth", "I", false)
  | _ => ("java/lang/Throwable", "suppressedExceptions", "Ljava/util/List;", false)
def tyJ19 : Nat → FieldType := fun k => match k with
  | 0 => .object "java/lang/Object"
  | 1 => .object "java/lang/String"
  | 2 => .object "java/lang/Throwable"
  | 3 => .array (.object "java/lang/StackTraceElement")
  | 4 => .int
  | _ => .object "java/util/List"
abbrev wsJ190 : List Cond := u_ws RJ19 TJ19 6
theorem nmJ19 : ∀ a, a < 6 → ∀ b, b < 6 → a ≠ b → (TJ19 a).2.1 ≠ (TJ19 b).2.1 := by decide +kernel
theorem tyJ19_ok : ∀ k, k < 6 → parseFieldDescriptor (TJ19 k).2.2.1 = some (tyJ19 k) := by decide +kernel
abbrev cJ19_init : ByteArray := prog_26_method_2_code
def yJ19_init : MethodName := ⟨RJ19, "<init>", "(Ljava/lang/String;)V"⟩
def dkwJ19_init_0 : List UInt8 := [42, 43, 183, 0, 7, 177]
abbrev dktJ19_init_0 : List UInt8 := dkwJ19_init_0 ++ []
theorem dksJ19_init_0 : cJ19_init.data.toList.drop 0 = dktJ19_init_0 := by decide +kernel
theorem dJ19_init_0 : decode cJ19_init 0 = .ok (.aload_n 0, 1) := dk_42 (dk_at dksJ19_init_0 0 rfl rfl)
theorem dJ19_init_1 : decode cJ19_init 1 = .ok (.aload_n 1, 1) := dk_43 (dk_at dksJ19_init_0 1 rfl rfl)
theorem dJ19_init_2 : decode cJ19_init 2 = .ok (.invokespecial 7, 3) := dk_183 0 7 (dk_at dksJ19_init_0 2 rfl rfl)
theorem dJ19_init_5 : decode cJ19_init 5 = .ok (.return_, 1) := dk_177 (dk_at dksJ19_init_0 5 rfl rfl)
theorem q130 : (Jvm.Cond.initialized "java/lang/ArrayIndexOutOfBoundsException") ∈ lw_all := lw_g (lw_at lw_m1 39 rfl) rfl
theorem q204 : (Jvm.Cond.selects "java/lang/ArrayIndexOutOfBoundsException" ({ cls := "java/lang/Throwable", name := "fillInStackTrace", desc := "()Ljava/lang/Throwable;" } : Jvm.MethodName) ({ cls := "java/lang/Throwable", name := "fillInStackTrace", desc := "()Ljava/lang/Throwable;" } : Jvm.MethodName)) ∈ lw_all := lw_g (lw_at lw_m1 113 rfl) rfl
theorem q1638 : (Jvm.Cond.instantiable "java/lang/ArrayIndexOutOfBoundsException" (6 : Nat)) ∈ lw_all := lw_g (lw_at lw_m7 107 rfl) rfl
theorem q1639 : (Jvm.Cond.instanceMethod ({ cls := "java/lang/ArrayIndexOutOfBoundsException", name := "<init>", desc := "(Ljava/lang/String;)V" } : Jvm.MethodName)) ∈ lw_all := lw_g (lw_at lw_m7 108 rfl) rfl
theorem q1640 : (Jvm.Cond.code ({ cls := "java/lang/ArrayIndexOutOfBoundsException", name := "<init>", desc := "(Ljava/lang/String;)V" } : Jvm.MethodName) prog_26_method_2_code (2 : Nat) (Option.none : Option Jvm.ClassFile.FieldType)) ∈ lw_all := lw_g (lw_at lw_m7 109 rfl) rfl
theorem q1641 : (Jvm.Cond.methodLink "java/lang/ArrayIndexOutOfBoundsException" (7 : Nat) ({ cls := "java/lang/IndexOutOfBoundsException", name := "<init>", desc := "(Ljava/lang/String;)V" } : Jvm.MethodName)) ∈ lw_all := lw_g (lw_at lw_m7 110 rfl) rfl
theorem q1642 : (Jvm.Cond.lays "java/lang/ArrayIndexOutOfBoundsException" "java/lang/Throwable" "backtrace" "Ljava/lang/Object;") ∈ lw_all := lw_g (lw_at lw_m7 111 rfl) rfl
theorem q1643 : (Jvm.Cond.lays "java/lang/ArrayIndexOutOfBoundsException" "java/lang/Throwable" "detailMessage" "Ljava/lang/String;") ∈ lw_all := lw_g (lw_at lw_m7 112 rfl) rfl
theorem q1644 : (Jvm.Cond.lays "java/lang/ArrayIndexOutOfBoundsException" "java/lang/Throwable" "cause" "Ljava/lang/Throwable;") ∈ lw_all := lw_g (lw_at lw_m7 113 rfl) rfl
theorem q1645 : (Jvm.Cond.lays "java/lang/ArrayIndexOutOfBoundsException" "java/lang/Throwable" "stackTrace" "[Ljava/lang/StackTraceElement;") ∈ lw_all := lw_g (lw_at lw_m7 114 rfl) rfl
theorem q1646 : (Jvm.Cond.lays "java/lang/ArrayIndexOutOfBoundsException" "java/lang/Throwable" "depth" "I") ∈ lw_all := lw_g (lw_at lw_m7 115 rfl) rfl
theorem q1647 : (Jvm.Cond.lays "java/lang/ArrayIndexOutOfBoundsException" "java/lang/Throwable" "suppressedExceptions" "Ljava/util/List;") ∈ lw_all := lw_g (lw_at lw_m7 116 rfl) rfl
theorem q1648 : (Jvm.Cond.superclass "java/lang/ArrayIndexOutOfBoundsException" "java/lang/IndexOutOfBoundsException") ∈ lw_all := lw_g (lw_at lw_m7 117 rfl) rfl
theorem q1649 : (Jvm.Cond.castable "java/lang/ArrayIndexOutOfBoundsException" "java/lang/ArrayIndexOutOfBoundsException") ∈ lw_tbl := lw_at lw_m7 118 rfl
theorem q1652 : (Jvm.Cond.selects "java/lang/ArrayIndexOutOfBoundsException" ({ cls := "java/lang/Throwable", name := "fillInStackTrace", desc := "(I)Ljava/lang/Throwable;" } : Jvm.MethodName) ({ cls := "java/lang/Throwable", name := "fillInStackTrace", desc := "(I)Ljava/lang/Throwable;" } : Jvm.MethodName)) ∈ lw_all := lw_g (lw_at lw_m7 121 rfl) rfl
theorem q2223 : (Jvm.Cond.castable "java/lang/ArrayIndexOutOfBoundsException" "java/lang/IndexOutOfBoundsException") ∈ lw_tbl := lw_at lw_m9 212 rfl
theorem q2251 : (Jvm.Cond.castable "java/lang/ArrayIndexOutOfBoundsException" "java/lang/Object") ∈ lw_tbl := lw_at lw_m10 0 rfl
theorem in_J19 : ∀ w ∈ wsJ190, w ∈ lw_all := lw_in wsJ190 [1642, 1643, 1644, 1645, 1646, 1647] (by decide +kernel) (by decide +kernel)
/-! java/lang/ArrayStoreException -/
set_option maxRecDepth 100000
def RJ20 : String := "java/lang/ArrayStoreException"
def TJ20 : u_T := fun k => match k with
  | 0 => ("java/lang/Throwable", "backtrace", "Ljava/lang/Object;", false)
  | 1 => ("java/lang/Throwable", "detailMessage", "Ljava/lang/String;", false)
  | 2 => ("java/lang/Throwable", "cause", "Ljava/lang/Throwable;", false)
  | 3 => ("java/lang/Throwable", "stackTrace", "[Ljava/lang/StackTraceElement;", false)
  | 4 => ("java/lang/Throwable", "depth", "I", false)
  | _ => ("java/lang/Throwable", "suppressedExceptions", "Ljava/util/List;", false)
def tyJ20 : Nat → FieldType := fun k => match k with
  | 0 => .object "java/lang/Object"
  | 1 => .object "java/lang/String"
  | 2 => .object "java/lang/Throwable"
  | 3 => .array (.object "java/lang/StackTraceElement")
  | 4 => .int
  | _ => .object "java/util/List"
abbrev wsJ200 : List Cond := u_ws RJ20 TJ20 6
theorem nmJ20 : ∀ a, a < 6 → ∀ b, b < 6 → a ≠ b → (TJ20 a).2.1 ≠ (TJ20 b).2.1 := by decide +kernel
theorem tyJ20_ok : ∀ k, k < 6 → parseFieldDescriptor (TJ20 k).2.2.1 = some (tyJ20 k) := by decide +kernel
abbrev cJ20_init : ByteArray := prog_27_method_2_code
def yJ20_init : MethodName := ⟨RJ20, "<init>", "(Ljava/lang/String;)V"⟩
def dkwJ20_init_0 : List UInt8 := [42, 43, 183, 0, 7, 177]
abbrev dktJ20_init_0 : List UInt8 := dkwJ20_init_0 ++ []
theorem dksJ20_init_0 : cJ20_init.data.toList.drop 0 = dktJ20_init_0 := by decide +kernel
theorem dJ20_init_0 : decode cJ20_init 0 = .ok (.aload_n 0, 1) := dk_42 (dk_at dksJ20_init_0 0 rfl rfl)
theorem dJ20_init_1 : decode cJ20_init 1 = .ok (.aload_n 1, 1) := dk_43 (dk_at dksJ20_init_0 1 rfl rfl)
theorem dJ20_init_2 : decode cJ20_init 2 = .ok (.invokespecial 7, 3) := dk_183 0 7 (dk_at dksJ20_init_0 2 rfl rfl)
theorem dJ20_init_5 : decode cJ20_init 5 = .ok (.return_, 1) := dk_177 (dk_at dksJ20_init_0 5 rfl rfl)
theorem q131 : (Jvm.Cond.initialized "java/lang/ArrayStoreException") ∈ lw_all := lw_g (lw_at lw_m1 40 rfl) rfl
theorem q205 : (Jvm.Cond.selects "java/lang/ArrayStoreException" ({ cls := "java/lang/Throwable", name := "fillInStackTrace", desc := "()Ljava/lang/Throwable;" } : Jvm.MethodName) ({ cls := "java/lang/Throwable", name := "fillInStackTrace", desc := "()Ljava/lang/Throwable;" } : Jvm.MethodName)) ∈ lw_all := lw_g (lw_at lw_m1 114 rfl) rfl
theorem q1666 : (Jvm.Cond.instantiable "java/lang/ArrayStoreException" (6 : Nat)) ∈ lw_all := lw_g (lw_at lw_m7 135 rfl) rfl
theorem q1667 : (Jvm.Cond.instanceMethod ({ cls := "java/lang/ArrayStoreException", name := "<init>", desc := "(Ljava/lang/String;)V" } : Jvm.MethodName)) ∈ lw_all := lw_g (lw_at lw_m7 136 rfl) rfl
theorem q1668 : (Jvm.Cond.code ({ cls := "java/lang/ArrayStoreException", name := "<init>", desc := "(Ljava/lang/String;)V" } : Jvm.MethodName) prog_27_method_2_code (2 : Nat) (Option.none : Option Jvm.ClassFile.FieldType)) ∈ lw_all := lw_g (lw_at lw_m7 137 rfl) rfl
theorem q1669 : (Jvm.Cond.methodLink "java/lang/ArrayStoreException" (7 : Nat) ({ cls := "java/lang/RuntimeException", name := "<init>", desc := "(Ljava/lang/String;)V" } : Jvm.MethodName)) ∈ lw_all := lw_g (lw_at lw_m7 138 rfl) rfl
theorem q1670 : (Jvm.Cond.lays "java/lang/ArrayStoreException" "java/lang/Throwable" "backtrace" "Ljava/lang/Object;") ∈ lw_all := lw_g (lw_at lw_m7 139 rfl) rfl
theorem q1671 : (Jvm.Cond.lays "java/lang/ArrayStoreException" "java/lang/Throwable" "detailMessage" "Ljava/lang/String;") ∈ lw_all := lw_g (lw_at lw_m7 140 rfl) rfl
theorem q1672 : (Jvm.Cond.lays "java/lang/ArrayStoreException" "java/lang/Throwable" "cause" "Ljava/lang/Throwable;") ∈ lw_all := lw_g (lw_at lw_m7 141 rfl) rfl
theorem q1673 : (Jvm.Cond.lays "java/lang/ArrayStoreException" "java/lang/Throwable" "stackTrace" "[Ljava/lang/StackTraceElement;") ∈ lw_all := lw_g (lw_at lw_m7 142 rfl) rfl
theorem q1674 : (Jvm.Cond.lays "java/lang/ArrayStoreException" "java/lang/Throwable" "depth" "I") ∈ lw_all := lw_g (lw_at lw_m7 143 rfl) rfl
theorem q1675 : (Jvm.Cond.lays "java/lang/ArrayStoreException" "java/lang/Throwable" "suppressedExceptions" "Ljava/util/List;") ∈ lw_all := lw_g (lw_at lw_m7 144 rfl) rfl
theorem q1676 : (Jvm.Cond.superclass "java/lang/ArrayStoreException" "java/lang/RuntimeException") ∈ lw_all := lw_g (lw_at lw_m7 145 rfl) rfl
theorem q1677 : (Jvm.Cond.castable "java/lang/ArrayStoreException" "java/lang/ArrayStoreException") ∈ lw_tbl := lw_at lw_m7 146 rfl
theorem q1678 : (Jvm.Cond.selects "java/lang/ArrayStoreException" ({ cls := "java/lang/Throwable", name := "fillInStackTrace", desc := "(I)Ljava/lang/Throwable;" } : Jvm.MethodName) ({ cls := "java/lang/Throwable", name := "fillInStackTrace", desc := "(I)Ljava/lang/Throwable;" } : Jvm.MethodName)) ∈ lw_all := lw_g (lw_at lw_m7 147 rfl) rfl
theorem q2252 : (Jvm.Cond.castable "java/lang/ArrayStoreException" "java/lang/Object") ∈ lw_tbl := lw_at lw_m10 1 rfl
theorem in_J20 : ∀ w ∈ wsJ200, w ∈ lw_all := lw_in wsJ200 [1670, 1671, 1672, 1673, 1674, 1675] (by decide +kernel) (by decide +kernel)
/-! java/lang/Object -/
set_option maxRecDepth 100000
def RJ21 : String := "java/lang/Object"
abbrev cJ21_init : ByteArray := object_method_1_code
def yJ21_init : MethodName := ⟨RJ21, "<init>", "()V"⟩
theorem dJ21_init_0 : decode cJ21_init 0 = .ok (.return_, 1) := by decide +kernel
theorem q138 : (Jvm.Cond.instanceMethod ({ cls := "java/lang/Object", name := "<init>", desc := "()V" } : Jvm.MethodName)) ∈ lw_all := lw_g (lw_at lw_m1 47 rfl) rfl
theorem q139 : (Jvm.Cond.code ({ cls := "java/lang/Object", name := "<init>", desc := "()V" } : Jvm.MethodName) object_method_1_code (1 : Nat) (Option.none : Option Jvm.ClassFile.FieldType)) ∈ lw_all := lw_g (lw_at lw_m1 48 rfl) rfl
theorem q307 : (Jvm.Cond.native ({ cls := "java/lang/Object", name := "clone", desc := "()Ljava/lang/Object;" } : Jvm.MethodName)) ∈ lw_all := lw_g (lw_at lw_m1 216 rfl) rfl
theorem q308 : (Jvm.Cond.instanceMethod ({ cls := "java/lang/Object", name := "clone", desc := "()Ljava/lang/Object;" } : Jvm.MethodName)) ∈ lw_all := lw_g (lw_at lw_m1 217 rfl) rfl
theorem q2222 : (Jvm.Cond.initialized "java/lang/Object") ∈ lw_all := lw_g (lw_at lw_m9 211 rfl) rfl
theorem q91 : (Jvm.Cond.initialized "SafeClearsLaw") ∈ lw_all := lw_g (lw_at lw_m1 0 rfl) rfl
set_option maxRecDepth 100000
theorem q132 : (Jvm.Cond.classLink "SafeClearsLaw" (7 : Nat) "SafeClears") ∈ lw_all := lw_g (lw_at lw_m1 41 rfl) rfl
theorem q134 : (Jvm.Cond.methodLink "SafeClearsLaw" (9 : Nat) ({ cls := "SafeClears", name := "<init>", desc := "()V" } : Jvm.MethodName)) ∈ lw_all := lw_g (lw_at lw_m1 43 rfl) rfl
theorem q825 : (Jvm.Cond.methodLink "SafeClearsLaw" (13 : Nat) ({ cls := "SafeClears", name := "signal", desc := "(II)I" } : Jvm.MethodName)) ∈ lw_all := lw_g (lw_at lw_m4 14 rfl) rfl
theorem q927 : (Jvm.Cond.methodLink "SafeClearsLaw" (18 : Nat) ({ cls := "SafeClears", name := "goes", desc := "(II)I" } : Jvm.MethodName)) ∈ lw_all := lw_g (lw_at lw_m4 116 rfl) rfl
theorem q936 : (Jvm.Cond.methodLink "SafeClearsLaw" (22 : Nat) ({ cls := "SafeClears", name := "tell", desc := "(III)I" } : Jvm.MethodName)) ∈ lw_all := lw_g (lw_at lw_m4 125 rfl) rfl
theorem q952 : (Jvm.Cond.methodLink "SafeClearsLaw" (27 : Nat) ({ cls := "SafeClears", name := "feed", desc := "(I)I" } : Jvm.MethodName)) ∈ lw_all := lw_g (lw_at lw_m4 141 rfl) rfl
theorem q957 : (Jvm.Cond.methodLink "SafeClearsLaw" (32 : Nat) ({ cls := "SafeClears", name := "read", desc := "()I" } : Jvm.MethodName)) ∈ lw_all := lw_g (lw_at lw_m4 146 rfl) rfl
theorem q1056 : (Jvm.Cond.methodLink "SafeClearsLaw" (37 : Nat) ({ cls := "SafeClears", name := "safety", desc := "(I)I" } : Jvm.MethodName)) ∈ lw_all := lw_g (lw_at lw_m5 5 rfl) rfl
theorem q1061 : (Jvm.Cond.methodLink "SafeClearsLaw" (41 : Nat) ({ cls := "SafeClears", name := "phase", desc := "(II)I" } : Jvm.MethodName)) ∈ lw_all := lw_g (lw_at lw_m5 10 rfl) rfl
theorem q1086 : (Jvm.Cond.methodLink "SafeClearsLaw" (45 : Nat) ({ cls := "SafeClears", name := "start", desc := "()I" } : Jvm.MethodName)) ∈ lw_all := lw_g (lw_at lw_m5 35 rfl) rfl
theorem q1090 : (Jvm.Cond.methodLink "SafeClearsLaw" (49 : Nat) ({ cls := "SafeClears", name := "cycle", desc := "(III)I" } : Jvm.MethodName)) ∈ lw_all := lw_g (lw_at lw_m5 39 rfl) rfl
theorem q1096 : (Jvm.Cond.methodLink "SafeClearsLaw" (53 : Nat) ({ cls := "SafeClears", name := "come", desc := "(II)I" } : Jvm.MethodName)) ∈ lw_all := lw_g (lw_at lw_m5 45 rfl) rfl
theorem q1104 : (Jvm.Cond.methodLink "SafeClearsLaw" (57 : Nat) ({ cls := "SafeClears", name := "seed", desc := "(I)I" } : Jvm.MethodName)) ∈ lw_all := lw_g (lw_at lw_m5 53 rfl) rfl
theorem q1108 : (Jvm.Cond.methodLink "SafeClearsLaw" (61 : Nat) ({ cls := "SafeClears", name := "emergency", desc := "(I)I" } : Jvm.MethodName)) ∈ lw_all := lw_g (lw_at lw_m5 57 rfl) rfl
theorem q1125 : (Jvm.Cond.methodLink "SafeClearsLaw" (65 : Nat) ({ cls := "SafeClears", name := "over", desc := "()I" } : Jvm.MethodName)) ∈ lw_all := lw_g (lw_at lw_m5 74 rfl) rfl
theorem q1129 : (Jvm.Cond.methodLink "SafeClearsLaw" (69 : Nat) ({ cls := "SafeClears", name := "pass", desc := "(I)I" } : Jvm.MethodName)) ∈ lw_all := lw_g (lw_at lw_m5 78 rfl) rfl
theorem q1247 : (Jvm.Cond.methodLink "SafeClearsLaw" (73 : Nat) ({ cls := "SafeClears", name := "told", desc := "(I)I" } : Jvm.MethodName)) ∈ lw_all := lw_g (lw_at lw_m5 196 rfl) rfl
theorem q1272 : (Jvm.Cond.methodLink "SafeClearsLaw" (77 : Nat) ({ cls := "SafeClears", name := "of", desc := "(II)I" } : Jvm.MethodName)) ∈ lw_all := lw_g (lw_at lw_m5 221 rfl) rfl
theorem q1297 : (Jvm.Cond.methodLink "SafeClearsLaw" (81 : Nat) ({ cls := "SafeClears", name := "way", desc := "(II)I" } : Jvm.MethodName)) ∈ lw_all := lw_g (lw_at lw_m6 6 rfl) rfl
theorem q1301 : (Jvm.Cond.methodLink "SafeClearsLaw" (85 : Nat) ({ cls := "SafeClears", name := "clear", desc := "(II)I" } : Jvm.MethodName)) ∈ lw_all := lw_g (lw_at lw_m6 10 rfl) rfl
theorem q1306 : (Jvm.Cond.methodLink "SafeClearsLaw" (89 : Nat) ({ cls := "SafeClears", name := "narrow", desc := "(II)I" } : Jvm.MethodName)) ∈ lw_all := lw_g (lw_at lw_m6 15 rfl) rfl
theorem q1312 : (Jvm.Cond.methodLink "SafeClearsLaw" (93 : Nat) ({ cls := "SafeClears", name := "table", desc := "(I)I" } : Jvm.MethodName)) ∈ lw_all := lw_g (lw_at lw_m6 21 rfl) rfl
theorem q1317 : (Jvm.Cond.methodLink "SafeClearsLaw" (97 : Nat) ({ cls := "SafeClears", name := "phaseOf", desc := "(II)I" } : Jvm.MethodName)) ∈ lw_all := lw_g (lw_at lw_m6 26 rfl) rfl
theorem q1322 : (Jvm.Cond.methodLink "SafeClearsLaw" (101 : Nat) ({ cls := "SafeClears", name := "taken", desc := "(II)I" } : Jvm.MethodName)) ∈ lw_all := lw_g (lw_at lw_m6 31 rfl) rfl
theorem q1365 : (Jvm.Cond.methodLink "SafeClearsLaw" (105 : Nat) ({ cls := "SafeClears", name := "recorded", desc := "(II)I" } : Jvm.MethodName)) ∈ lw_all := lw_g (lw_at lw_m6 74 rfl) rfl
theorem q1374 : (Jvm.Cond.methodLink "SafeClearsLaw" (109 : Nat) ({ cls := "SafeClears", name := "greens", desc := "(II)I" } : Jvm.MethodName)) ∈ lw_all := lw_g (lw_at lw_m6 83 rfl) rfl
theorem q1405 : (Jvm.Cond.methodLink "SafeClearsLaw" (113 : Nat) ({ cls := "SafeClears", name := "could", desc := "(III)I" } : Jvm.MethodName)) ∈ lw_all := lw_g (lw_at lw_m6 114 rfl) rfl
theorem q1423 : (Jvm.Cond.methodLink "SafeClearsLaw" (117 : Nat) ({ cls := "SafeClears", name := "crowded", desc := "(II)I" } : Jvm.MethodName)) ∈ lw_all := lw_g (lw_at lw_m6 132 rfl) rfl
theorem q1427 : (Jvm.Cond.methodLink "SafeClearsLaw" (121 : Nat) ({ cls := "SafeClears", name := "green", desc := "(III)I" } : Jvm.MethodName)) ∈ lw_all := lw_g (lw_at lw_m6 136 rfl) rfl
theorem q1433 : (Jvm.Cond.methodLink "SafeClearsLaw" (125 : Nat) ({ cls := "SafeClears", name := "proved", desc := "()I" } : Jvm.MethodName)) ∈ lw_all := lw_g (lw_at lw_m6 142 rfl) rfl
theorem q1448 : (Jvm.Cond.methodLink "SafeClearsLaw" (129 : Nat) ({ cls := "SafeClears", name := "wave", desc := "(I)I" } : Jvm.MethodName)) ∈ lw_all := lw_g (lw_at lw_m6 157 rfl) rfl
theorem q1452 : (Jvm.Cond.methodLink "SafeClearsLaw" (133 : Nat) ({ cls := "SafeClears", name := "node", desc := "(III)I" } : Jvm.MethodName)) ∈ lw_all := lw_g (lw_at lw_m6 161 rfl) rfl
theorem q1460 : (Jvm.Cond.methodLink "SafeClearsLaw" (137 : Nat) ({ cls := "SafeClears", name := "change", desc := "(III)I" } : Jvm.MethodName)) ∈ lw_all := lw_g (lw_at lw_m6 169 rfl) rfl
theorem q1468 : (Jvm.Cond.methodLink "SafeClearsLaw" (141 : Nat) ({ cls := "SafeClears", name := "band", desc := "(I)I" } : Jvm.MethodName)) ∈ lw_all := lw_g (lw_at lw_m6 177 rfl) rfl
theorem q1490 : (Jvm.Cond.methodLink "SafeClearsLaw" (145 : Nat) ({ cls := "SafeClears", name := "nodeBest", desc := "(II)I" } : Jvm.MethodName)) ∈ lw_all := lw_g (lw_at lw_m6 199 rfl) rfl
theorem q1515 : (Jvm.Cond.methodLink "SafeClearsLaw" (149 : Nat) ({ cls := "SafeClears", name := "tune", desc := "()I" } : Jvm.MethodName)) ∈ lw_all := lw_g (lw_at lw_m6 224 rfl) rfl
theorem q1519 : (Jvm.Cond.methodLink "SafeClearsLaw" (153 : Nat) ({ cls := "SafeClears", name := "would", desc := "(II)I" } : Jvm.MethodName)) ∈ lw_all := lw_g (lw_at lw_m6 228 rfl) rfl
theorem q1523 : (Jvm.Cond.methodLink "SafeClearsLaw" (157 : Nat) ({ cls := "SafeClears", name := "turns", desc := "(II)I" } : Jvm.MethodName)) ∈ lw_all := lw_g (lw_at lw_m6 232 rfl) rfl
theorem q1527 : (Jvm.Cond.methodLink "SafeClearsLaw" (161 : Nat) ({ cls := "SafeClears", name := "best", desc := "(II)I" } : Jvm.MethodName)) ∈ lw_all := lw_g (lw_at lw_m6 236 rfl) rfl
theorem q1535 : (Jvm.Cond.methodLink "SafeClearsLaw" (165 : Nat) ({ cls := "SafeClears", name := "note", desc := "(II)I" } : Jvm.MethodName)) ∈ lw_all := lw_g (lw_at lw_m7 4 rfl) rfl
theorem q1541 : (Jvm.Cond.methodLink "SafeClearsLaw" (169 : Nat) ({ cls := "SafeClears", name := "fits", desc := "(I)I" } : Jvm.MethodName)) ∈ lw_all := lw_g (lw_at lw_m7 10 rfl) rfl
theorem q1550 : (Jvm.Cond.methodLink "SafeClearsLaw" (173 : Nat) ({ cls := "SafeClears", name := "day", desc := "(II)I" } : Jvm.MethodName)) ∈ lw_all := lw_g (lw_at lw_m7 19 rfl) rfl
theorem q1558 : (Jvm.Cond.methodLink "SafeClearsLaw" (177 : Nat) ({ cls := "SafeClears", name := "chance", desc := "(IIIII)J" } : Jvm.MethodName)) ∈ lw_all := lw_g (lw_at lw_m7 27 rfl) rfl
theorem q1569 : (Jvm.Cond.methodLink "SafeClearsLaw" (182 : Nat) ({ cls := "SafeClears", name := "mean", desc := "(I)J" } : Jvm.MethodName)) ∈ lw_all := lw_g (lw_at lw_m7 38 rfl) rfl
theorem q1573 : (Jvm.Cond.methodLink "SafeClearsLaw" (187 : Nat) ({ cls := "SafeClears", name := "plan", desc := "(II)I" } : Jvm.MethodName)) ∈ lw_all := lw_g (lw_at lw_m7 42 rfl) rfl
theorem q1578 : (Jvm.Cond.methodLink "SafeClearsLaw" (191 : Nat) ({ cls := "SafeClears", name := "ends", desc := "(I)I" } : Jvm.MethodName)) ∈ lw_all := lw_g (lw_at lw_m7 47 rfl) rfl
theorem q1585 : (Jvm.Cond.methodLink "SafeClearsLaw" (199 : Nat) ({ cls := "SafeClears", name := "image", desc := "()I" } : Jvm.MethodName)) ∈ lw_all := lw_g (lw_at lw_m7 54 rfl) rfl
theorem q1589 : (Jvm.Cond.methodLink "SafeClearsLaw" (203 : Nat) ({ cls := "SafeClears", name := "undo", desc := "()I" } : Jvm.MethodName)) ∈ lw_all := lw_g (lw_at lw_m7 58 rfl) rfl
theorem q1593 : (Jvm.Cond.methodLink "SafeClearsLaw" (207 : Nat) ({ cls := "SafeClears", name := "count", desc := "(I)I" } : Jvm.MethodName)) ∈ lw_all := lw_g (lw_at lw_m7 62 rfl) rfl
theorem q1597 : (Jvm.Cond.methodLink "SafeClearsLaw" (195 : Nat) ({ cls := "SafeClears", name := "judge", desc := "(II)I" } : Jvm.MethodName)) ∈ lw_all := lw_g (lw_at lw_m7 66 rfl) rfl
theorem q1622 : (Jvm.Cond.methodLink "SafeClearsLaw" (211 : Nat) ({ cls := "SafeClears", name := "tape", desc := "(III)I" } : Jvm.MethodName)) ∈ lw_all := lw_g (lw_at lw_m7 91 rfl) rfl
theorem q1633 : (Jvm.Cond.methodLink "SafeClearsLaw" (217 : Nat) ({ cls := "SafeClears", name := "item", desc := "(IIJ)I" } : Jvm.MethodName)) ∈ lw_all := lw_g (lw_at lw_m7 102 rfl) rfl
theorem q1657 : (Jvm.Cond.methodLink "SafeClearsLaw" (222 : Nat) ({ cls := "SafeClears", name := "peek", desc := "(II)J" } : Jvm.MethodName)) ∈ lw_all := lw_g (lw_at lw_m7 126 rfl) rfl
theorem q1661 : (Jvm.Cond.methodLink "SafeClearsLaw" (227 : Nat) ({ cls := "SafeClears", name := "shift", desc := "(IIIII)I" } : Jvm.MethodName)) ∈ lw_all := lw_g (lw_at lw_m7 130 rfl) rfl
theorem q1681 : (Jvm.Cond.classLink "SafeClearsLaw" (10 : Nat) "SafeClearsModel") ∈ lw_all := lw_g (lw_at lw_m7 150 rfl) rfl
theorem q1683 : (Jvm.Cond.methodLink "SafeClearsLaw" (12 : Nat) ({ cls := "SafeClearsModel", name := "<init>", desc := "()V" } : Jvm.MethodName)) ∈ lw_all := lw_g (lw_at lw_m7 152 rfl) rfl
theorem q1768 : (Jvm.Cond.methodLink "SafeClearsLaw" (17 : Nat) ({ cls := "SafeClearsModel", name := "signal", desc := "(II)I" } : Jvm.MethodName)) ∈ lw_all := lw_g (lw_at lw_m7 237 rfl) rfl
theorem q1787 : (Jvm.Cond.methodLink "SafeClearsLaw" (21 : Nat) ({ cls := "SafeClearsModel", name := "goes", desc := "(II)I" } : Jvm.MethodName)) ∈ lw_all := lw_g (lw_at lw_m8 16 rfl) rfl
theorem q1795 : (Jvm.Cond.methodLink "SafeClearsLaw" (26 : Nat) ({ cls := "SafeClearsModel", name := "tell", desc := "(III)I" } : Jvm.MethodName)) ∈ lw_all := lw_g (lw_at lw_m8 24 rfl) rfl
theorem q1800 : (Jvm.Cond.methodLink "SafeClearsLaw" (31 : Nat) ({ cls := "SafeClearsModel", name := "feed", desc := "(I)I" } : Jvm.MethodName)) ∈ lw_all := lw_g (lw_at lw_m8 29 rfl) rfl
theorem q1804 : (Jvm.Cond.methodLink "SafeClearsLaw" (36 : Nat) ({ cls := "SafeClearsModel", name := "read", desc := "()I" } : Jvm.MethodName)) ∈ lw_all := lw_g (lw_at lw_m8 33 rfl) rfl
theorem q1831 : (Jvm.Cond.methodLink "SafeClearsLaw" (40 : Nat) ({ cls := "SafeClearsModel", name := "safety", desc := "(I)I" } : Jvm.MethodName)) ∈ lw_all := lw_g (lw_at lw_m8 60 rfl) rfl
theorem q1835 : (Jvm.Cond.methodLink "SafeClearsLaw" (44 : Nat) ({ cls := "SafeClearsModel", name := "phase", desc := "(II)I" } : Jvm.MethodName)) ∈ lw_all := lw_g (lw_at lw_m8 64 rfl) rfl
theorem q1854 : (Jvm.Cond.methodLink "SafeClearsLaw" (48 : Nat) ({ cls := "SafeClearsModel", name := "start", desc := "()I" } : Jvm.MethodName)) ∈ lw_all := lw_g (lw_at lw_m8 83 rfl) rfl
theorem q1862 : (Jvm.Cond.methodLink "SafeClearsLaw" (52 : Nat) ({ cls := "SafeClearsModel", name := "cycle", desc := "(III)I" } : Jvm.MethodName)) ∈ lw_all := lw_g (lw_at lw_m8 91 rfl) rfl
theorem q1866 : (Jvm.Cond.methodLink "SafeClearsLaw" (56 : Nat) ({ cls := "SafeClearsModel", name := "come", desc := "(II)I" } : Jvm.MethodName)) ∈ lw_all := lw_g (lw_at lw_m8 95 rfl) rfl
theorem q1874 : (Jvm.Cond.methodLink "SafeClearsLaw" (60 : Nat) ({ cls := "SafeClearsModel", name := "seed", desc := "(I)I" } : Jvm.MethodName)) ∈ lw_all := lw_g (lw_at lw_m8 103 rfl) rfl
theorem q1878 : (Jvm.Cond.methodLink "SafeClearsLaw" (64 : Nat) ({ cls := "SafeClearsModel", name := "emergency", desc := "(I)I" } : Jvm.MethodName)) ∈ lw_all := lw_g (lw_at lw_m8 107 rfl) rfl
theorem q1890 : (Jvm.Cond.methodLink "SafeClearsLaw" (68 : Nat) ({ cls := "SafeClearsModel", name := "over", desc := "()I" } : Jvm.MethodName)) ∈ lw_all := lw_g (lw_at lw_m8 119 rfl) rfl
theorem q1894 : (Jvm.Cond.methodLink "SafeClearsLaw" (72 : Nat) ({ cls := "SafeClearsModel", name := "pass", desc := "(I)I" } : Jvm.MethodName)) ∈ lw_all := lw_g (lw_at lw_m8 123 rfl) rfl
theorem q1967 : (Jvm.Cond.methodLink "SafeClearsLaw" (76 : Nat) ({ cls := "SafeClearsModel", name := "told", desc := "(I)I" } : Jvm.MethodName)) ∈ lw_all := lw_g (lw_at lw_m8 196 rfl) rfl
theorem q1979 : (Jvm.Cond.methodLink "SafeClearsLaw" (80 : Nat) ({ cls := "SafeClearsModel", name := "of", desc := "(II)I" } : Jvm.MethodName)) ∈ lw_all := lw_g (lw_at lw_m8 208 rfl) rfl
theorem q1983 : (Jvm.Cond.methodLink "SafeClearsLaw" (84 : Nat) ({ cls := "SafeClearsModel", name := "way", desc := "(II)I" } : Jvm.MethodName)) ∈ lw_all := lw_g (lw_at lw_m8 212 rfl) rfl
theorem q1987 : (Jvm.Cond.methodLink "SafeClearsLaw" (88 : Nat) ({ cls := "SafeClearsModel", name := "clear", desc := "(II)I" } : Jvm.MethodName)) ∈ lw_all := lw_g (lw_at lw_m8 216 rfl) rfl
theorem q1991 : (Jvm.Cond.methodLink "SafeClearsLaw" (92 : Nat) ({ cls := "SafeClearsModel", name := "narrow", desc := "(II)I" } : Jvm.MethodName)) ∈ lw_all := lw_g (lw_at lw_m8 220 rfl) rfl
theorem q1995 : (Jvm.Cond.methodLink "SafeClearsLaw" (96 : Nat) ({ cls := "SafeClearsModel", name := "table", desc := "(I)I" } : Jvm.MethodName)) ∈ lw_all := lw_g (lw_at lw_m8 224 rfl) rfl
theorem q1999 : (Jvm.Cond.methodLink "SafeClearsLaw" (100 : Nat) ({ cls := "SafeClearsModel", name := "phaseOf", desc := "(II)I" } : Jvm.MethodName)) ∈ lw_all := lw_g (lw_at lw_m8 228 rfl) rfl
theorem q2007 : (Jvm.Cond.methodLink "SafeClearsLaw" (104 : Nat) ({ cls := "SafeClearsModel", name := "taken", desc := "(II)I" } : Jvm.MethodName)) ∈ lw_all := lw_g (lw_at lw_m8 236 rfl) rfl
theorem q2011 : (Jvm.Cond.methodLink "SafeClearsLaw" (108 : Nat) ({ cls := "SafeClearsModel", name := "recorded", desc := "(II)I" } : Jvm.MethodName)) ∈ lw_all := lw_g (lw_at lw_m9 0 rfl) rfl
theorem q2019 : (Jvm.Cond.methodLink "SafeClearsLaw" (112 : Nat) ({ cls := "SafeClearsModel", name := "greens", desc := "(II)I" } : Jvm.MethodName)) ∈ lw_all := lw_g (lw_at lw_m9 8 rfl) rfl
theorem q2023 : (Jvm.Cond.methodLink "SafeClearsLaw" (116 : Nat) ({ cls := "SafeClearsModel", name := "could", desc := "(III)I" } : Jvm.MethodName)) ∈ lw_all := lw_g (lw_at lw_m9 12 rfl) rfl
theorem q2035 : (Jvm.Cond.methodLink "SafeClearsLaw" (120 : Nat) ({ cls := "SafeClearsModel", name := "crowded", desc := "(II)I" } : Jvm.MethodName)) ∈ lw_all := lw_g (lw_at lw_m9 24 rfl) rfl
theorem q2039 : (Jvm.Cond.methodLink "SafeClearsLaw" (124 : Nat) ({ cls := "SafeClearsModel", name := "green", desc := "(III)I" } : Jvm.MethodName)) ∈ lw_all := lw_g (lw_at lw_m9 28 rfl) rfl
theorem q2043 : (Jvm.Cond.methodLink "SafeClearsLaw" (128 : Nat) ({ cls := "SafeClearsModel", name := "proved", desc := "()I" } : Jvm.MethodName)) ∈ lw_all := lw_g (lw_at lw_m9 32 rfl) rfl
theorem q2051 : (Jvm.Cond.methodLink "SafeClearsLaw" (132 : Nat) ({ cls := "SafeClearsModel", name := "wave", desc := "(I)I" } : Jvm.MethodName)) ∈ lw_all := lw_g (lw_at lw_m9 40 rfl) rfl
theorem q2055 : (Jvm.Cond.methodLink "SafeClearsLaw" (136 : Nat) ({ cls := "SafeClearsModel", name := "node", desc := "(III)I" } : Jvm.MethodName)) ∈ lw_all := lw_g (lw_at lw_m9 44 rfl) rfl
theorem q2063 : (Jvm.Cond.methodLink "SafeClearsLaw" (140 : Nat) ({ cls := "SafeClearsModel", name := "change", desc := "(III)I" } : Jvm.MethodName)) ∈ lw_all := lw_g (lw_at lw_m9 52 rfl) rfl
theorem q2071 : (Jvm.Cond.methodLink "SafeClearsLaw" (144 : Nat) ({ cls := "SafeClearsModel", name := "band", desc := "(I)I" } : Jvm.MethodName)) ∈ lw_all := lw_g (lw_at lw_m9 60 rfl) rfl
theorem q2087 : (Jvm.Cond.methodLink "SafeClearsLaw" (148 : Nat) ({ cls := "SafeClearsModel", name := "nodeBest", desc := "(II)I" } : Jvm.MethodName)) ∈ lw_all := lw_g (lw_at lw_m9 76 rfl) rfl
theorem q2095 : (Jvm.Cond.methodLink "SafeClearsLaw" (152 : Nat) ({ cls := "SafeClearsModel", name := "tune", desc := "()I" } : Jvm.MethodName)) ∈ lw_all := lw_g (lw_at lw_m9 84 rfl) rfl
theorem q2099 : (Jvm.Cond.methodLink "SafeClearsLaw" (156 : Nat) ({ cls := "SafeClearsModel", name := "would", desc := "(II)I" } : Jvm.MethodName)) ∈ lw_all := lw_g (lw_at lw_m9 88 rfl) rfl
theorem q2115 : (Jvm.Cond.methodLink "SafeClearsLaw" (160 : Nat) ({ cls := "SafeClearsModel", name := "turns", desc := "(II)I" } : Jvm.MethodName)) ∈ lw_all := lw_g (lw_at lw_m9 104 rfl) rfl
theorem q2119 : (Jvm.Cond.methodLink "SafeClearsLaw" (164 : Nat) ({ cls := "SafeClearsModel", name := "best", desc := "(II)I" } : Jvm.MethodName)) ∈ lw_all := lw_g (lw_at lw_m9 108 rfl) rfl
theorem q2127 : (Jvm.Cond.methodLink "SafeClearsLaw" (168 : Nat) ({ cls := "SafeClearsModel", name := "note", desc := "(II)I" } : Jvm.MethodName)) ∈ lw_all := lw_g (lw_at lw_m9 116 rfl) rfl
theorem q2132 : (Jvm.Cond.methodLink "SafeClearsLaw" (172 : Nat) ({ cls := "SafeClearsModel", name := "fits", desc := "(I)I" } : Jvm.MethodName)) ∈ lw_all := lw_g (lw_at lw_m9 121 rfl) rfl
theorem q2140 : (Jvm.Cond.methodLink "SafeClearsLaw" (176 : Nat) ({ cls := "SafeClearsModel", name := "day", desc := "(II)I" } : Jvm.MethodName)) ∈ lw_all := lw_g (lw_at lw_m9 129 rfl) rfl
theorem q2148 : (Jvm.Cond.methodLink "SafeClearsLaw" (181 : Nat) ({ cls := "SafeClearsModel", name := "chance", desc := "(IIIII)J" } : Jvm.MethodName)) ∈ lw_all := lw_g (lw_at lw_m9 137 rfl) rfl
theorem q2159 : (Jvm.Cond.methodLink "SafeClearsLaw" (186 : Nat) ({ cls := "SafeClearsModel", name := "mean", desc := "(I)J" } : Jvm.MethodName)) ∈ lw_all := lw_g (lw_at lw_m9 148 rfl) rfl
theorem q2163 : (Jvm.Cond.methodLink "SafeClearsLaw" (190 : Nat) ({ cls := "SafeClearsModel", name := "plan", desc := "(II)I" } : Jvm.MethodName)) ∈ lw_all := lw_g (lw_at lw_m9 152 rfl) rfl
theorem q2167 : (Jvm.Cond.methodLink "SafeClearsLaw" (194 : Nat) ({ cls := "SafeClearsModel", name := "ends", desc := "(I)I" } : Jvm.MethodName)) ∈ lw_all := lw_g (lw_at lw_m9 156 rfl) rfl
theorem q2177 : (Jvm.Cond.methodLink "SafeClearsLaw" (198 : Nat) ({ cls := "SafeClearsModel", name := "judge", desc := "(II)I" } : Jvm.MethodName)) ∈ lw_all := lw_g (lw_at lw_m9 166 rfl) rfl
theorem q2184 : (Jvm.Cond.methodLink "SafeClearsLaw" (202 : Nat) ({ cls := "SafeClearsModel", name := "image", desc := "()I" } : Jvm.MethodName)) ∈ lw_all := lw_g (lw_at lw_m9 173 rfl) rfl
theorem q2188 : (Jvm.Cond.methodLink "SafeClearsLaw" (206 : Nat) ({ cls := "SafeClearsModel", name := "undo", desc := "()I" } : Jvm.MethodName)) ∈ lw_all := lw_g (lw_at lw_m9 177 rfl) rfl
theorem q2192 : (Jvm.Cond.methodLink "SafeClearsLaw" (210 : Nat) ({ cls := "SafeClearsModel", name := "count", desc := "(I)I" } : Jvm.MethodName)) ∈ lw_all := lw_g (lw_at lw_m9 181 rfl) rfl
theorem q2196 : (Jvm.Cond.methodLink "SafeClearsLaw" (214 : Nat) ({ cls := "SafeClearsModel", name := "tape", desc := "(III)I" } : Jvm.MethodName)) ∈ lw_all := lw_g (lw_at lw_m9 185 rfl) rfl
theorem q2200 : (Jvm.Cond.methodLink "SafeClearsLaw" (221 : Nat) ({ cls := "SafeClearsModel", name := "item", desc := "(IIJ)I" } : Jvm.MethodName)) ∈ lw_all := lw_g (lw_at lw_m9 189 rfl) rfl
theorem q2204 : (Jvm.Cond.methodLink "SafeClearsLaw" (226 : Nat) ({ cls := "SafeClearsModel", name := "peek", desc := "(II)J" } : Jvm.MethodName)) ∈ lw_all := lw_g (lw_at lw_m9 193 rfl) rfl
theorem q2208 : (Jvm.Cond.methodLink "SafeClearsLaw" (231 : Nat) ({ cls := "SafeClearsModel", name := "shift", desc := "(IIIII)I" } : Jvm.MethodName)) ∈ lw_all := lw_g (lw_at lw_m9 197 rfl) rfl
theorem q2212 : (Jvm.Cond.constantLong "SafeClearsLaw" (215 : Nat) (4294967295 : Int64)) ∈ lw_all := lw_g (lw_at lw_m9 201 rfl) rfl
theorem q306 : (Jvm.Cond.sameMethod "[B" "java/lang/Object" "clone" "()Ljava/lang/Object;") ∈ lw_all := lw_g (lw_at lw_m1 215 rfl) rfl
set_option maxRecDepth 100000
theorem q309 : (Jvm.Cond.selects "[B" ({ cls := "[B", name := "clone", desc := "()Ljava/lang/Object;" } : Jvm.MethodName) ({ cls := "java/lang/Object", name := "clone", desc := "()Ljava/lang/Object;" } : Jvm.MethodName)) ∈ lw_all := lw_g (lw_at lw_m1 218 rfl) rfl
theorem q310 : (Jvm.Cond.castable "[B" "java/lang/Cloneable") ∈ lw_tbl := lw_at lw_m1 219 rfl
theorem q893 : (Jvm.Cond.sameMethod "[J" "java/lang/Object" "clone" "()Ljava/lang/Object;") ∈ lw_all := lw_g (lw_at lw_m4 82 rfl) rfl
set_option maxRecDepth 100000
theorem q894 : (Jvm.Cond.selects "[J" ({ cls := "[J", name := "clone", desc := "()Ljava/lang/Object;" } : Jvm.MethodName) ({ cls := "java/lang/Object", name := "clone", desc := "()Ljava/lang/Object;" } : Jvm.MethodName)) ∈ lw_all := lw_g (lw_at lw_m4 83 rfl) rfl
theorem q895 : (Jvm.Cond.castable "[J" "java/lang/Cloneable") ∈ lw_tbl := lw_at lw_m4 84 rfl
theorem q112 : (Jvm.Cond.initialized "java/lang/Number") ∈ lw_all := lw_g (lw_at lw_m1 21 rfl) rfl
set_option maxRecDepth 100000
theorem q109 : (Jvm.Cond.initialized "java/lang/System") ∈ lw_all := lw_g (lw_at lw_m1 18 rfl) rfl
set_option maxRecDepth 100000
theorem q316 : (Jvm.Cond.static ({ cls := "java/lang/System", name := "arraycopy", desc := "(Ljava/lang/Object;ILjava/lang/Object;II)V" } : Jvm.MethodName)) ∈ lw_all := lw_g (lw_at lw_m1 225 rfl) rfl
theorem q317 : (Jvm.Cond.native ({ cls := "java/lang/System", name := "arraycopy", desc := "(Ljava/lang/Object;ILjava/lang/Object;II)V" } : Jvm.MethodName)) ∈ lw_all := lw_g (lw_at lw_m1 226 rfl) rfl
theorem q147 : (Jvm.Cond.arrayOver (Jvm.ClassFile.FieldType.object "SafeClears$Signal")) ∈ lw_tbl := lw_at lw_m1 56 rfl
set_option maxRecDepth 100000
theorem q149 : (Jvm.Cond.arrayOver (Jvm.ClassFile.FieldType.object "SafeClears$Phase")) ∈ lw_tbl := lw_at lw_m1 58 rfl
theorem q151 : (Jvm.Cond.arrayOver (Jvm.ClassFile.FieldType.object "SafeClears$Green")) ∈ lw_tbl := lw_at lw_m1 60 rfl
theorem q153 : (Jvm.Cond.arrayOver (Jvm.ClassFile.FieldType.object "SafeClears$Node")) ∈ lw_tbl := lw_at lw_m1 62 rfl
theorem q255 : (Jvm.Cond.arrayClass Jvm.ClassFile.FieldType.int) ∈ lw_all := lw_g (lw_at lw_m1 164 rfl) rfl
theorem q256 : (Jvm.Cond.arrayClass Jvm.ClassFile.FieldType.byte) ∈ lw_all := lw_g (lw_at lw_m1 165 rfl) rfl
theorem q506 : (Jvm.Cond.arrayClass Jvm.ClassFile.FieldType.long) ∈ lw_all := lw_g (lw_at lw_m2 175 rfl) rfl
theorem q742 : (Jvm.Cond.arrayOver (Jvm.ClassFile.FieldType.object "SafeClears$Anyone")) ∈ lw_tbl := lw_at lw_m3 171 rfl
theorem q781 : (Jvm.Cond.arrayOver (Jvm.ClassFile.FieldType.object "SafeClears$Tape")) ∈ lw_tbl := lw_at lw_m3 210 rfl
theorem q879 : (Jvm.Cond.arrayClass Jvm.ClassFile.FieldType.boolean) ∈ lw_all := lw_g (lw_at lw_m4 68 rfl) rfl
theorem q1632 : (Jvm.Cond.arrayClass Jvm.ClassFile.FieldType.short) ∈ lw_all := lw_g (lw_at lw_m7 101 rfl) rfl
