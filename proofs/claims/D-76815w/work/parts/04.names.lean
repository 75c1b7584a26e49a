/-! SafeClears -/
set_option maxRecDepth 100000
def RX0 : String := "SafeClears"
def TX0 : u_T := fun k => match k with
  | 0 => ("SafeClears", "w", "LSafeClears$World;", true)
  | 1 => ("SafeClears", "trial", "LSafeClears$World;", true)
  | 2 => ("SafeClears", "kept", "LSafeClears$World;", true)
  | 3 => ("SafeClears", "counted", "I", false)
  | 4 => ("SafeClears", "text", "[B", true)
  | 5 => ("SafeClears", "texted", "I", false)
  | 6 => ("SafeClears", "takenFor", "[LSafeClears$Anyone;", true)
  | 7 => ("SafeClears", "greenSets", "[I", true)
  | 8 => ("SafeClears", "hasImage", "Z", false)
  | _ => ("SafeClears", "tapes", "[LSafeClears$Tape;", true)
def tyX0 : Nat → FieldType := fun k => match k with
  | 0 => .object "SafeClears$World"
  | 1 => .object "SafeClears$World"
  | 2 => .object "SafeClears$World"
  | 3 => .int
  | 4 => .array .byte
  | 5 => .int
  | 6 => .array (.object "SafeClears$Anyone")
  | 7 => .array .int
  | 8 => .boolean
  | _ => .array (.object "SafeClears$Tape")
abbrev wsX00 : List Cond := u_ws RX0 TX0 10
theorem nmX0 : ∀ a, a < 10 → ∀ b, b < 10 → a ≠ b → (TX0 a).2.1 ≠ (TX0 b).2.1 := by decide +kernel
theorem tyX0_ok : ∀ k, k < 10 → parseFieldDescriptor (TX0 k).2.2.1 = some (tyX0 k) := by decide +kernel
abbrev cX0_init : ByteArray := prog_1_method_7_code
def yX0_init : MethodName := ⟨RX0, "<init>", "()V"⟩
def dkwX0_init_7 : List UInt8 := [183, 0, 66, 83, 181, 0, 67, 177]
abbrev dktX0_init_7 : List UInt8 := dkwX0_init_7 ++ []
def dkwX0_init_6 : List UInt8 := [187, 0, 64, 89, 183, 0, 66, 83, 89, 7, 187, 0, 64, 89, 183, 0, 66, 83, 89, 8, 187, 0, 64, 89]
abbrev dktX0_init_6 : List UInt8 := dkwX0_init_6 ++ dktX0_init_7
def dkwX0_init_5 : List UInt8 := [89, 4, 187, 0, 64, 89, 183, 0, 66, 83, 89, 5, 187, 0, 64, 89, 183, 0, 66, 83, 89, 6]
abbrev dktX0_init_5 : List UInt8 := dkwX0_init_5 ++ dktX0_init_6
def dkwX0_init_4 : List UInt8 := [42, 16, 60, 188, 10, 181, 0, 60, 42, 16, 6, 189, 0, 64, 89, 3, 187, 0, 64, 89, 183, 0, 66, 83]
abbrev dktX0_init_4 : List UInt8 := dkwX0_init_4 ++ dktX0_init_5
def dkwX0_init_3 : List UInt8 := [5, 187, 0, 48, 89, 5, 183, 0, 50, 83, 89, 6, 187, 0, 53, 89, 6, 183, 0, 55, 83, 181, 0, 56]
abbrev dktX0_init_3 : List UInt8 := dkwX0_init_3 ++ dktX0_init_4
def dkwX0_init_2 : List UInt8 := [189, 0, 40, 89, 3, 187, 0, 42, 89, 183, 0, 44, 83, 89, 4, 187, 0, 45, 89, 183, 0, 47, 83, 89]
abbrev dktX0_init_2 : List UInt8 := dkwX0_init_2 ++ dktX0_init_3
def dkwX0_init_1 : List UInt8 := [181, 0, 13, 42, 187, 0, 21, 89, 183, 0, 32, 181, 0, 33, 42, 16, 100, 188, 8, 181, 0, 36, 42, 7]
abbrev dktX0_init_1 : List UInt8 := dkwX0_init_1 ++ dktX0_init_2
def dkwX0_init_0 : List UInt8 := [42, 183, 0, 26, 42, 187, 0, 21, 89, 183, 0, 32, 181, 0, 17, 42, 187, 0, 21, 89, 183, 0, 32]
abbrev dktX0_init_0 : List UInt8 := dkwX0_init_0 ++ dktX0_init_1
theorem dksX0_init_0 : cX0_init.data.toList.drop 0 = dktX0_init_0 := by decide +kernel
theorem dksX0_init_1 : cX0_init.data.toList.drop 23 = dktX0_init_1 := dk_seg dksX0_init_0 23 rfl rfl
theorem dksX0_init_2 : cX0_init.data.toList.drop 47 = dktX0_init_2 := dk_seg dksX0_init_1 24 rfl rfl
theorem dksX0_init_3 : cX0_init.data.toList.drop 71 = dktX0_init_3 := dk_seg dksX0_init_2 24 rfl rfl
theorem dksX0_init_4 : cX0_init.data.toList.drop 95 = dktX0_init_4 := dk_seg dksX0_init_3 24 rfl rfl
theorem dksX0_init_5 : cX0_init.data.toList.drop 119 = dktX0_init_5 := dk_seg dksX0_init_4 24 rfl rfl
theorem dksX0_init_6 : cX0_init.data.toList.drop 141 = dktX0_init_6 := dk_seg dksX0_init_5 22 rfl rfl
theorem dksX0_init_7 : cX0_init.data.toList.drop 165 = dktX0_init_7 := dk_seg dksX0_init_6 24 rfl rfl
theorem dX0_init_0 : decode cX0_init 0 = .ok (.aload_n 0, 1) := dk_42 (dk_at dksX0_init_0 0 rfl rfl)
theorem dX0_init_1 : decode cX0_init 1 = .ok (.invokespecial 26, 3) := dk_183 0 26 (dk_at dksX0_init_0 1 rfl rfl)
theorem dX0_init_4 : decode cX0_init 4 = .ok (.aload_n 0, 1) := dk_42 (dk_at dksX0_init_0 4 rfl rfl)
theorem dX0_init_5 : decode cX0_init 5 = .ok (.new 21, 3) := dk_187 0 21 (dk_at dksX0_init_0 5 rfl rfl)
theorem dX0_init_8 : decode cX0_init 8 = .ok (.dup, 1) := dk_89 (dk_at dksX0_init_0 8 rfl rfl)
theorem dX0_init_9 : decode cX0_init 9 = .ok (.invokespecial 32, 3) := dk_183 0 32 (dk_at dksX0_init_0 9 rfl rfl)
theorem dX0_init_12 : decode cX0_init 12 = .ok (.putfield 17, 3) := dk_181 0 17 (dk_at dksX0_init_0 12 rfl rfl)
theorem dX0_init_15 : decode cX0_init 15 = .ok (.aload_n 0, 1) := dk_42 (dk_at dksX0_init_0 15 rfl rfl)
theorem dX0_init_16 : decode cX0_init 16 = .ok (.new 21, 3) := dk_187 0 21 (dk_at dksX0_init_0 16 rfl rfl)
theorem dX0_init_19 : decode cX0_init 19 = .ok (.dup, 1) := dk_89 (dk_at dksX0_init_0 19 rfl rfl)
theorem dX0_init_20 : decode cX0_init 20 = .ok (.invokespecial 32, 3) := dk_183 0 32 (dk_at dksX0_init_0 20 rfl rfl)
theorem dX0_init_23 : decode cX0_init 23 = .ok (.putfield 13, 3) := dk_181 0 13 (dk_at dksX0_init_1 0 rfl rfl)
theorem dX0_init_26 : decode cX0_init 26 = .ok (.aload_n 0, 1) := dk_42 (dk_at dksX0_init_1 3 rfl rfl)
theorem dX0_init_27 : decode cX0_init 27 = .ok (.new 21, 3) := dk_187 0 21 (dk_at dksX0_init_1 4 rfl rfl)
theorem dX0_init_30 : decode cX0_init 30 = .ok (.dup, 1) := dk_89 (dk_at dksX0_init_1 7 rfl rfl)
theorem dX0_init_31 : decode cX0_init 31 = .ok (.invokespecial 32, 3) := dk_183 0 32 (dk_at dksX0_init_1 8 rfl rfl)
theorem dX0_init_34 : decode cX0_init 34 = .ok (.putfield 33, 3) := dk_181 0 33 (dk_at dksX0_init_1 11 rfl rfl)
theorem dX0_init_37 : decode cX0_init 37 = .ok (.aload_n 0, 1) := dk_42 (dk_at dksX0_init_1 14 rfl rfl)
theorem dX0_init_38 : decode cX0_init 38 = .ok (.bipush 100, 2) := dk_16 100 (dk_at dksX0_init_1 15 rfl rfl)
theorem dX0_init_40 : decode cX0_init 40 = .ok (.newarray .byte, 2) := dk_188_8 (dk_at dksX0_init_1 17 rfl rfl)
theorem dX0_init_42 : decode cX0_init 42 = .ok (.putfield 36, 3) := dk_181 0 36 (dk_at dksX0_init_1 19 rfl rfl)
theorem dX0_init_45 : decode cX0_init 45 = .ok (.aload_n 0, 1) := dk_42 (dk_at dksX0_init_1 22 rfl rfl)
theorem dX0_init_46 : decode cX0_init 46 = .ok (.iconst 4, 1) := dk_7 (dk_at dksX0_init_1 23 rfl rfl)
theorem dX0_init_47 : decode cX0_init 47 = .ok (.anewarray 40, 3) := dk_189 0 40 (dk_at dksX0_init_2 0 rfl rfl)
theorem dX0_init_50 : decode cX0_init 50 = .ok (.dup, 1) := dk_89 (dk_at dksX0_init_2 3 rfl rfl)
theorem dX0_init_51 : decode cX0_init 51 = .ok (.iconst 0, 1) := dk_3 (dk_at dksX0_init_2 4 rfl rfl)
theorem dX0_init_52 : decode cX0_init 52 = .ok (.new 42, 3) := dk_187 0 42 (dk_at dksX0_init_2 5 rfl rfl)
theorem dX0_init_55 : decode cX0_init 55 = .ok (.dup, 1) := dk_89 (dk_at dksX0_init_2 8 rfl rfl)
theorem dX0_init_56 : decode cX0_init 56 = .ok (.invokespecial 44, 3) := dk_183 0 44 (dk_at dksX0_init_2 9 rfl rfl)
theorem dX0_init_59 : decode cX0_init 59 = .ok (.aastore, 1) := dk_83 (dk_at dksX0_init_2 12 rfl rfl)
theorem dX0_init_60 : decode cX0_init 60 = .ok (.dup, 1) := dk_89 (dk_at dksX0_init_2 13 rfl rfl)
theorem dX0_init_61 : decode cX0_init 61 = .ok (.iconst 1, 1) := dk_4 (dk_at dksX0_init_2 14 rfl rfl)
theorem dX0_init_62 : decode cX0_init 62 = .ok (.new 45, 3) := dk_187 0 45 (dk_at dksX0_init_2 15 rfl rfl)
theorem dX0_init_65 : decode cX0_init 65 = .ok (.dup, 1) := dk_89 (dk_at dksX0_init_2 18 rfl rfl)
theorem dX0_init_66 : decode cX0_init 66 = .ok (.invokespecial 47, 3) := dk_183 0 47 (dk_at dksX0_init_2 19 rfl rfl)
theorem dX0_init_69 : decode cX0_init 69 = .ok (.aastore, 1) := dk_83 (dk_at dksX0_init_2 22 rfl rfl)
theorem dX0_init_70 : decode cX0_init 70 = .ok (.dup, 1) := dk_89 (dk_at dksX0_init_2 23 rfl rfl)
theorem dX0_init_71 : decode cX0_init 71 = .ok (.iconst 2, 1) := dk_5 (dk_at dksX0_init_3 0 rfl rfl)
theorem dX0_init_72 : decode cX0_init 72 = .ok (.new 48, 3) := dk_187 0 48 (dk_at dksX0_init_3 1 rfl rfl)
theorem dX0_init_75 : decode cX0_init 75 = .ok (.dup, 1) := dk_89 (dk_at dksX0_init_3 4 rfl rfl)
theorem dX0_init_76 : decode cX0_init 76 = .ok (.iconst 2, 1) := dk_5 (dk_at dksX0_init_3 5 rfl rfl)
theorem dX0_init_77 : decode cX0_init 77 = .ok (.invokespecial 50, 3) := dk_183 0 50 (dk_at dksX0_init_3 6 rfl rfl)
theorem dX0_init_80 : decode cX0_init 80 = .ok (.aastore, 1) := dk_83 (dk_at dksX0_init_3 9 rfl rfl)
theorem dX0_init_81 : decode cX0_init 81 = .ok (.dup, 1) := dk_89 (dk_at dksX0_init_3 10 rfl rfl)
theorem dX0_init_82 : decode cX0_init 82 = .ok (.iconst 3, 1) := dk_6 (dk_at dksX0_init_3 11 rfl rfl)
theorem dX0_init_83 : decode cX0_init 83 = .ok (.new 53, 3) := dk_187 0 53 (dk_at dksX0_init_3 12 rfl rfl)
theorem dX0_init_86 : decode cX0_init 86 = .ok (.dup, 1) := dk_89 (dk_at dksX0_init_3 15 rfl rfl)
theorem dX0_init_87 : decode cX0_init 87 = .ok (.iconst 3, 1) := dk_6 (dk_at dksX0_init_3 16 rfl rfl)
theorem dX0_init_88 : decode cX0_init 88 = .ok (.invokespecial 55, 3) := dk_183 0 55 (dk_at dksX0_init_3 17 rfl rfl)
theorem dX0_init_91 : decode cX0_init 91 = .ok (.aastore, 1) := dk_83 (dk_at dksX0_init_3 20 rfl rfl)
theorem dX0_init_92 : decode cX0_init 92 = .ok (.putfield 56, 3) := dk_181 0 56 (dk_at dksX0_init_3 21 rfl rfl)
theorem dX0_init_95 : decode cX0_init 95 = .ok (.aload_n 0, 1) := dk_42 (dk_at dksX0_init_4 0 rfl rfl)
theorem dX0_init_96 : decode cX0_init 96 = .ok (.bipush 60, 2) := dk_16 60 (dk_at dksX0_init_4 1 rfl rfl)
theorem dX0_init_98 : decode cX0_init 98 = .ok (.newarray .int, 2) := dk_188_10 (dk_at dksX0_init_4 3 rfl rfl)
theorem dX0_init_100 : decode cX0_init 100 = .ok (.putfield 60, 3) := dk_181 0 60 (dk_at dksX0_init_4 5 rfl rfl)
theorem dX0_init_103 : decode cX0_init 103 = .ok (.aload_n 0, 1) := dk_42 (dk_at dksX0_init_4 8 rfl rfl)
theorem dX0_init_104 : decode cX0_init 104 = .ok (.bipush 6, 2) := dk_16 6 (dk_at dksX0_init_4 9 rfl rfl)
theorem dX0_init_106 : decode cX0_init 106 = .ok (.anewarray 64, 3) := dk_189 0 64 (dk_at dksX0_init_4 11 rfl rfl)
theorem dX0_init_109 : decode cX0_init 109 = .ok (.dup, 1) := dk_89 (dk_at dksX0_init_4 14 rfl rfl)
theorem dX0_init_110 : decode cX0_init 110 = .ok (.iconst 0, 1) := dk_3 (dk_at dksX0_init_4 15 rfl rfl)
theorem dX0_init_111 : decode cX0_init 111 = .ok (.new 64, 3) := dk_187 0 64 (dk_at dksX0_init_4 16 rfl rfl)
theorem dX0_init_114 : decode cX0_init 114 = .ok (.dup, 1) := dk_89 (dk_at dksX0_init_4 19 rfl rfl)
theorem dX0_init_115 : decode cX0_init 115 = .ok (.invokespecial 66, 3) := dk_183 0 66 (dk_at dksX0_init_4 20 rfl rfl)
theorem dX0_init_118 : decode cX0_init 118 = .ok (.aastore, 1) := dk_83 (dk_at dksX0_init_4 23 rfl rfl)
theorem dX0_init_119 : decode cX0_init 119 = .ok (.dup, 1) := dk_89 (dk_at dksX0_init_5 0 rfl rfl)
theorem dX0_init_120 : decode cX0_init 120 = .ok (.iconst 1, 1) := dk_4 (dk_at dksX0_init_5 1 rfl rfl)
theorem dX0_init_121 : decode cX0_init 121 = .ok (.new 64, 3) := dk_187 0 64 (dk_at dksX0_init_5 2 rfl rfl)
theorem dX0_init_124 : decode cX0_init 124 = .ok (.dup, 1) := dk_89 (dk_at dksX0_init_5 5 rfl rfl)
theorem dX0_init_125 : decode cX0_init 125 = .ok (.invokespecial 66, 3) := dk_183 0 66 (dk_at dksX0_init_5 6 rfl rfl)
theorem dX0_init_128 : decode cX0_init 128 = .ok (.aastore, 1) := dk_83 (dk_at dksX0_init_5 9 rfl rfl)
theorem dX0_init_129 : decode cX0_init 129 = .ok (.dup, 1) := dk_89 (dk_at dksX0_init_5 10 rfl rfl)
theorem dX0_init_130 : decode cX0_init 130 = .ok (.iconst 2, 1) := dk_5 (dk_at dksX0_init_5 11 rfl rfl)
theorem dX0_init_131 : decode cX0_init 131 = .ok (.new 64, 3) := dk_187 0 64 (dk_at dksX0_init_5 12 rfl rfl)
theorem dX0_init_134 : decode cX0_init 134 = .ok (.dup, 1) := dk_89 (dk_at dksX0_init_5 15 rfl rfl)
theorem dX0_init_135 : decode cX0_init 135 = .ok (.invokespecial 66, 3) := dk_183 0 66 (dk_at dksX0_init_5 16 rfl rfl)
theorem dX0_init_138 : decode cX0_init 138 = .ok (.aastore, 1) := dk_83 (dk_at dksX0_init_5 19 rfl rfl)
theorem dX0_init_139 : decode cX0_init 139 = .ok (.dup, 1) := dk_89 (dk_at dksX0_init_5 20 rfl rfl)
theorem dX0_init_140 : decode cX0_init 140 = .ok (.iconst 3, 1) := dk_6 (dk_at dksX0_init_5 21 rfl rfl)
theorem dX0_init_141 : decode cX0_init 141 = .ok (.new 64, 3) := dk_187 0 64 (dk_at dksX0_init_6 0 rfl rfl)
theorem dX0_init_144 : decode cX0_init 144 = .ok (.dup, 1) := dk_89 (dk_at dksX0_init_6 3 rfl rfl)
theorem dX0_init_145 : decode cX0_init 145 = .ok (.invokespecial 66, 3) := dk_183 0 66 (dk_at dksX0_init_6 4 rfl rfl)
theorem dX0_init_148 : decode cX0_init 148 = .ok (.aastore, 1) := dk_83 (dk_at dksX0_init_6 7 rfl rfl)
theorem dX0_init_149 : decode cX0_init 149 = .ok (.dup, 1) := dk_89 (dk_at dksX0_init_6 8 rfl rfl)
theorem dX0_init_150 : decode cX0_init 150 = .ok (.iconst 4, 1) := dk_7 (dk_at dksX0_init_6 9 rfl rfl)
theorem dX0_init_151 : decode cX0_init 151 = .ok (.new 64, 3) := dk_187 0 64 (dk_at dksX0_init_6 10 rfl rfl)
theorem dX0_init_154 : decode cX0_init 154 = .ok (.dup, 1) := dk_89 (dk_at dksX0_init_6 13 rfl rfl)
theorem dX0_init_155 : decode cX0_init 155 = .ok (.invokespecial 66, 3) := dk_183 0 66 (dk_at dksX0_init_6 14 rfl rfl)
theorem dX0_init_158 : decode cX0_init 158 = .ok (.aastore, 1) := dk_83 (dk_at dksX0_init_6 17 rfl rfl)
theorem dX0_init_159 : decode cX0_init 159 = .ok (.dup, 1) := dk_89 (dk_at dksX0_init_6 18 rfl rfl)
theorem dX0_init_160 : decode cX0_init 160 = .ok (.iconst 5, 1) := dk_8 (dk_at dksX0_init_6 19 rfl rfl)
theorem dX0_init_161 : decode cX0_init 161 = .ok (.new 64, 3) := dk_187 0 64 (dk_at dksX0_init_6 20 rfl rfl)
theorem dX0_init_164 : decode cX0_init 164 = .ok (.dup, 1) := dk_89 (dk_at dksX0_init_6 23 rfl rfl)
theorem dX0_init_165 : decode cX0_init 165 = .ok (.invokespecial 66, 3) := dk_183 0 66 (dk_at dksX0_init_7 0 rfl rfl)
theorem dX0_init_168 : decode cX0_init 168 = .ok (.aastore, 1) := dk_83 (dk_at dksX0_init_7 3 rfl rfl)
theorem dX0_init_169 : decode cX0_init 169 = .ok (.putfield 67, 3) := dk_181 0 67 (dk_at dksX0_init_7 4 rfl rfl)
theorem dX0_init_172 : decode cX0_init 172 = .ok (.return_, 1) := dk_177 (dk_at dksX0_init_7 7 rfl rfl)
abbrev cX0_signal : ByteArray := prog_1_method_9_code
def yX0_signal : MethodName := ⟨RX0, "signal", "(II)I"⟩
def dkwX0_signal_5 : List UInt8 := [180, 0, 17, 180, 0, 71, 4, 100, 172]
abbrev dktX0_signal_5 : List UInt8 := dkwX0_signal_5 ++ []
def dkwX0_signal_4 : List UInt8 := [182, 0, 106, 42, 180, 0, 17, 89, 180, 0, 71, 4, 96, 181, 0, 71, 42, 180, 0, 17, 182, 0, 109, 42]
abbrev dktX0_signal_4 : List UInt8 := dkwX0_signal_4 ++ dktX0_signal_5
def dkwX0_signal_3 : List UInt8 := [180, 0, 90, 42, 180, 0, 17, 180, 0, 71, 50, 78, 45, 27, 184, 0, 94, 182, 0, 100, 45, 28]
abbrev dktX0_signal_3 : List UInt8 := dkwX0_signal_3 ++ dktX0_signal_4
def dkwX0_signal_2 : List UInt8 := [16, 253, 172, 42, 180, 0, 17, 180, 0, 71, 16, 8, 160, 0, 6, 16, 252, 172, 42, 180, 0, 17]
abbrev dktX0_signal_2 : List UInt8 := dkwX0_signal_2 ++ dktX0_signal_3
def dkwX0_signal_1 : List UInt8 := [184, 0, 74, 84, 184, 0, 82, 154, 0, 6, 16, 254, 172, 42, 180, 0, 17, 180, 0, 86, 153, 0, 6]
abbrev dktX0_signal_1 : List UInt8 := dkwX0_signal_1 ++ dktX0_signal_2
def dkwX0_signal_0 : List UInt8 := [5, 188, 4, 89, 3, 27, 133, 9, 20, 0, 78, 184, 0, 74, 84, 89, 4, 28, 133, 9, 20, 0, 80]
abbrev dktX0_signal_0 : List UInt8 := dkwX0_signal_0 ++ dktX0_signal_1
theorem dksX0_signal_0 : cX0_signal.data.toList.drop 0 = dktX0_signal_0 := by decide +kernel
theorem dksX0_signal_1 : cX0_signal.data.toList.drop 23 = dktX0_signal_1 := dk_seg dksX0_signal_0 23 rfl rfl
theorem dksX0_signal_2 : cX0_signal.data.toList.drop 46 = dktX0_signal_2 := dk_seg dksX0_signal_1 23 rfl rfl
theorem dksX0_signal_3 : cX0_signal.data.toList.drop 68 = dktX0_signal_3 := dk_seg dksX0_signal_2 22 rfl rfl
theorem dksX0_signal_4 : cX0_signal.data.toList.drop 90 = dktX0_signal_4 := dk_seg dksX0_signal_3 22 rfl rfl
theorem dksX0_signal_5 : cX0_signal.data.toList.drop 114 = dktX0_signal_5 := dk_seg dksX0_signal_4 24 rfl rfl
theorem dX0_signal_0 : decode cX0_signal 0 = .ok (.iconst 2, 1) := dk_5 (dk_at dksX0_signal_0 0 rfl rfl)
theorem dX0_signal_1 : decode cX0_signal 1 = .ok (.newarray .boolean, 2) := dk_188_4 (dk_at dksX0_signal_0 1 rfl rfl)
theorem dX0_signal_3 : decode cX0_signal 3 = .ok (.dup, 1) := dk_89 (dk_at dksX0_signal_0 3 rfl rfl)
theorem dX0_signal_4 : decode cX0_signal 4 = .ok (.iconst 0, 1) := dk_3 (dk_at dksX0_signal_0 4 rfl rfl)
theorem dX0_signal_5 : decode cX0_signal 5 = .ok (.iload_n 1, 1) := dk_27 (dk_at dksX0_signal_0 5 rfl rfl)
theorem dX0_signal_6 : decode cX0_signal 6 = .ok (.i2l, 1) := dk_133 (dk_at dksX0_signal_0 6 rfl rfl)
theorem dX0_signal_7 : decode cX0_signal 7 = .ok (.lconst 0, 1) := dk_9 (dk_at dksX0_signal_0 7 rfl rfl)
theorem dX0_signal_8 : decode cX0_signal 8 = .ok (.ldc2_w 78, 3) := dk_20 0 78 (dk_at dksX0_signal_0 8 rfl rfl)
theorem dX0_signal_11 : decode cX0_signal 11 = .ok (.invokestatic 74, 3) := dk_184 0 74 (dk_at dksX0_signal_0 11 rfl rfl)
theorem dX0_signal_14 : decode cX0_signal 14 = .ok (.bastore, 1) := dk_84 (dk_at dksX0_signal_0 14 rfl rfl)
theorem dX0_signal_15 : decode cX0_signal 15 = .ok (.dup, 1) := dk_89 (dk_at dksX0_signal_0 15 rfl rfl)
theorem dX0_signal_16 : decode cX0_signal 16 = .ok (.iconst 1, 1) := dk_4 (dk_at dksX0_signal_0 16 rfl rfl)
theorem dX0_signal_17 : decode cX0_signal 17 = .ok (.iload_n 2, 1) := dk_28 (dk_at dksX0_signal_0 17 rfl rfl)
theorem dX0_signal_18 : decode cX0_signal 18 = .ok (.i2l, 1) := dk_133 (dk_at dksX0_signal_0 18 rfl rfl)
theorem dX0_signal_19 : decode cX0_signal 19 = .ok (.lconst 0, 1) := dk_9 (dk_at dksX0_signal_0 19 rfl rfl)
theorem dX0_signal_20 : decode cX0_signal 20 = .ok (.ldc2_w 80, 3) := dk_20 0 80 (dk_at dksX0_signal_0 20 rfl rfl)
theorem dX0_signal_23 : decode cX0_signal 23 = .ok (.invokestatic 74, 3) := dk_184 0 74 (dk_at dksX0_signal_1 0 rfl rfl)
theorem dX0_signal_26 : decode cX0_signal 26 = .ok (.bastore, 1) := dk_84 (dk_at dksX0_signal_1 3 rfl rfl)
theorem dX0_signal_27 : decode cX0_signal 27 = .ok (.invokestatic 82, 3) := dk_184 0 82 (dk_at dksX0_signal_1 4 rfl rfl)
theorem dX0_signal_30 : decode cX0_signal 30 = .ok (.ifCond .ne 6, 3) := dk_154 0 6 (dk_at dksX0_signal_1 7 rfl rfl)
theorem dX0_signal_33 : decode cX0_signal 33 = .ok (.bipush (-2), 2) := dk_16 254 (dk_at dksX0_signal_1 10 rfl rfl)
theorem dX0_signal_35 : decode cX0_signal 35 = .ok (.ireturn, 1) := dk_172 (dk_at dksX0_signal_1 12 rfl rfl)
theorem dX0_signal_36 : decode cX0_signal 36 = .ok (.aload_n 0, 1) := dk_42 (dk_at dksX0_signal_1 13 rfl rfl)
theorem dX0_signal_37 : decode cX0_signal 37 = .ok (.getfield 17, 3) := dk_180 0 17 (dk_at dksX0_signal_1 14 rfl rfl)
theorem dX0_signal_40 : decode cX0_signal 40 = .ok (.getfield 86, 3) := dk_180 0 86 (dk_at dksX0_signal_1 17 rfl rfl)
theorem dX0_signal_43 : decode cX0_signal 43 = .ok (.ifCond .eq 6, 3) := dk_153 0 6 (dk_at dksX0_signal_1 20 rfl rfl)
theorem dX0_signal_46 : decode cX0_signal 46 = .ok (.bipush (-3), 2) := dk_16 253 (dk_at dksX0_signal_2 0 rfl rfl)
theorem dX0_signal_48 : decode cX0_signal 48 = .ok (.ireturn, 1) := dk_172 (dk_at dksX0_signal_2 2 rfl rfl)
theorem dX0_signal_49 : decode cX0_signal 49 = .ok (.aload_n 0, 1) := dk_42 (dk_at dksX0_signal_2 3 rfl rfl)
theorem dX0_signal_50 : decode cX0_signal 50 = .ok (.getfield 17, 3) := dk_180 0 17 (dk_at dksX0_signal_2 4 rfl rfl)
theorem dX0_signal_53 : decode cX0_signal 53 = .ok (.getfield 71, 3) := dk_180 0 71 (dk_at dksX0_signal_2 7 rfl rfl)
theorem dX0_signal_56 : decode cX0_signal 56 = .ok (.bipush 8, 2) := dk_16 8 (dk_at dksX0_signal_2 10 rfl rfl)
theorem dX0_signal_58 : decode cX0_signal 58 = .ok (.if_icmp .ne 6, 3) := dk_160 0 6 (dk_at dksX0_signal_2 12 rfl rfl)
theorem dX0_signal_61 : decode cX0_signal 61 = .ok (.bipush (-4), 2) := dk_16 252 (dk_at dksX0_signal_2 15 rfl rfl)
theorem dX0_signal_63 : decode cX0_signal 63 = .ok (.ireturn, 1) := dk_172 (dk_at dksX0_signal_2 17 rfl rfl)
theorem dX0_signal_64 : decode cX0_signal 64 = .ok (.aload_n 0, 1) := dk_42 (dk_at dksX0_signal_2 18 rfl rfl)
theorem dX0_signal_65 : decode cX0_signal 65 = .ok (.getfield 17, 3) := dk_180 0 17 (dk_at dksX0_signal_2 19 rfl rfl)
theorem dX0_signal_68 : decode cX0_signal 68 = .ok (.getfield 90, 3) := dk_180 0 90 (dk_at dksX0_signal_3 0 rfl rfl)
theorem dX0_signal_71 : decode cX0_signal 71 = .ok (.aload_n 0, 1) := dk_42 (dk_at dksX0_signal_3 3 rfl rfl)
theorem dX0_signal_72 : decode cX0_signal 72 = .ok (.getfield 17, 3) := dk_180 0 17 (dk_at dksX0_signal_3 4 rfl rfl)
theorem dX0_signal_75 : decode cX0_signal 75 = .ok (.getfield 71, 3) := dk_180 0 71 (dk_at dksX0_signal_3 7 rfl rfl)
theorem dX0_signal_78 : decode cX0_signal 78 = .ok (.aaload, 1) := dk_50 (dk_at dksX0_signal_3 10 rfl rfl)
theorem dX0_signal_79 : decode cX0_signal 79 = .ok (.astore_n 3, 1) := dk_78 (dk_at dksX0_signal_3 11 rfl rfl)
theorem dX0_signal_80 : decode cX0_signal 80 = .ok (.aload_n 3, 1) := dk_45 (dk_at dksX0_signal_3 12 rfl rfl)
theorem dX0_signal_81 : decode cX0_signal 81 = .ok (.iload_n 1, 1) := dk_27 (dk_at dksX0_signal_3 13 rfl rfl)
theorem dX0_signal_82 : decode cX0_signal 82 = .ok (.invokestatic 94, 3) := dk_184 0 94 (dk_at dksX0_signal_3 14 rfl rfl)
theorem dX0_signal_85 : decode cX0_signal 85 = .ok (.invokevirtual 100, 3) := dk_182 0 100 (dk_at dksX0_signal_3 17 rfl rfl)
theorem dX0_signal_88 : decode cX0_signal 88 = .ok (.aload_n 3, 1) := dk_45 (dk_at dksX0_signal_3 20 rfl rfl)
theorem dX0_signal_89 : decode cX0_signal 89 = .ok (.iload_n 2, 1) := dk_28 (dk_at dksX0_signal_3 21 rfl rfl)
theorem dX0_signal_90 : decode cX0_signal 90 = .ok (.invokevirtual 106, 3) := dk_182 0 106 (dk_at dksX0_signal_4 0 rfl rfl)
theorem dX0_signal_93 : decode cX0_signal 93 = .ok (.aload_n 0, 1) := dk_42 (dk_at dksX0_signal_4 3 rfl rfl)
theorem dX0_signal_94 : decode cX0_signal 94 = .ok (.getfield 17, 3) := dk_180 0 17 (dk_at dksX0_signal_4 4 rfl rfl)
theorem dX0_signal_97 : decode cX0_signal 97 = .ok (.dup, 1) := dk_89 (dk_at dksX0_signal_4 7 rfl rfl)
theorem dX0_signal_98 : decode cX0_signal 98 = .ok (.getfield 71, 3) := dk_180 0 71 (dk_at dksX0_signal_4 8 rfl rfl)
theorem dX0_signal_101 : decode cX0_signal 101 = .ok (.iconst 1, 1) := dk_4 (dk_at dksX0_signal_4 11 rfl rfl)
theorem dX0_signal_102 : decode cX0_signal 102 = .ok (.iadd, 1) := dk_96 (dk_at dksX0_signal_4 12 rfl rfl)
theorem dX0_signal_103 : decode cX0_signal 103 = .ok (.putfield 71, 3) := dk_181 0 71 (dk_at dksX0_signal_4 13 rfl rfl)
theorem dX0_signal_106 : decode cX0_signal 106 = .ok (.aload_n 0, 1) := dk_42 (dk_at dksX0_signal_4 16 rfl rfl)
theorem dX0_signal_107 : decode cX0_signal 107 = .ok (.getfield 17, 3) := dk_180 0 17 (dk_at dksX0_signal_4 17 rfl rfl)
theorem dX0_signal_110 : decode cX0_signal 110 = .ok (.invokevirtual 109, 3) := dk_182 0 109 (dk_at dksX0_signal_4 20 rfl rfl)
theorem dX0_signal_113 : decode cX0_signal 113 = .ok (.aload_n 0, 1) := dk_42 (dk_at dksX0_signal_4 23 rfl rfl)
theorem dX0_signal_114 : decode cX0_signal 114 = .ok (.getfield 17, 3) := dk_180 0 17 (dk_at dksX0_signal_5 0 rfl rfl)
theorem dX0_signal_117 : decode cX0_signal 117 = .ok (.getfield 71, 3) := dk_180 0 71 (dk_at dksX0_signal_5 3 rfl rfl)
theorem dX0_signal_120 : decode cX0_signal 120 = .ok (.iconst 1, 1) := dk_4 (dk_at dksX0_signal_5 6 rfl rfl)
theorem dX0_signal_121 : decode cX0_signal 121 = .ok (.isub, 1) := dk_100 (dk_at dksX0_signal_5 7 rfl rfl)
theorem dX0_signal_122 : decode cX0_signal 122 = .ok (.ireturn, 1) := dk_172 (dk_at dksX0_signal_5 8 rfl rfl)
abbrev cX0_in : ByteArray := prog_1_method_1_code
def yX0_in : MethodName := ⟨RX0, "in", "(JJJ)Z"⟩
def dkwX0_in_0 : List UInt8 := [30, 32, 148, 155, 0, 14, 30, 22, 4, 148, 157, 0, 7, 4, 167, 0, 4, 3, 172]
abbrev dktX0_in_0 : List UInt8 := dkwX0_in_0 ++ []
theorem dksX0_in_0 : cX0_in.data.toList.drop 0 = dktX0_in_0 := by decide +kernel
theorem dX0_in_0 : decode cX0_in 0 = .ok (.lload_n 0, 1) := dk_30 (dk_at dksX0_in_0 0 rfl rfl)
theorem dX0_in_1 : decode cX0_in 1 = .ok (.lload_n 2, 1) := dk_32 (dk_at dksX0_in_0 1 rfl rfl)
theorem dX0_in_2 : decode cX0_in 2 = .ok (.lcmp, 1) := dk_148 (dk_at dksX0_in_0 2 rfl rfl)
theorem dX0_in_3 : decode cX0_in 3 = .ok (.ifCond .lt 14, 3) := dk_155 0 14 (dk_at dksX0_in_0 3 rfl rfl)
theorem dX0_in_6 : decode cX0_in 6 = .ok (.lload_n 0, 1) := dk_30 (dk_at dksX0_in_0 6 rfl rfl)
theorem dX0_in_7 : decode cX0_in 7 = .ok (.lload 4, 2) := dk_22 4 (dk_at dksX0_in_0 7 rfl rfl)
theorem dX0_in_9 : decode cX0_in 9 = .ok (.lcmp, 1) := dk_148 (dk_at dksX0_in_0 9 rfl rfl)
theorem dX0_in_10 : decode cX0_in 10 = .ok (.ifCond .gt 7, 3) := dk_157 0 7 (dk_at dksX0_in_0 10 rfl rfl)
theorem dX0_in_13 : decode cX0_in 13 = .ok (.iconst 1, 1) := dk_4 (dk_at dksX0_in_0 13 rfl rfl)
theorem dX0_in_14 : decode cX0_in 14 = .ok (.goto 4, 3) := dk_167 0 4 (dk_at dksX0_in_0 14 rfl rfl)
theorem dX0_in_17 : decode cX0_in 17 = .ok (.iconst 0, 1) := dk_3 (dk_at dksX0_in_0 17 rfl rfl)
theorem dX0_in_18 : decode cX0_in 18 = .ok (.ireturn, 1) := dk_172 (dk_at dksX0_in_0 18 rfl rfl)
abbrev cX0_are : ByteArray := prog_1_method_2_code
def yX0_are : MethodName := ⟨RX0, "are", "([Z)Z"⟩
def dkwX0_are_1 : List UInt8 := [132, 3, 1, 167, 255, 236, 4, 172]
abbrev dktX0_are_1 : List UInt8 := dkwX0_are_1 ++ []
def dkwX0_are_0 : List UInt8 := [42, 76, 43, 190, 61, 3, 62, 29, 28, 162, 0, 21, 43, 29, 51, 54, 4, 21, 4, 154, 0, 5, 3, 172]
abbrev dktX0_are_0 : List UInt8 := dkwX0_are_0 ++ dktX0_are_1
theorem dksX0_are_0 : cX0_are.data.toList.drop 0 = dktX0_are_0 := by decide +kernel
theorem dksX0_are_1 : cX0_are.data.toList.drop 24 = dktX0_are_1 := dk_seg dksX0_are_0 24 rfl rfl
theorem dX0_are_0 : decode cX0_are 0 = .ok (.aload_n 0, 1) := dk_42 (dk_at dksX0_are_0 0 rfl rfl)
theorem dX0_are_1 : decode cX0_are 1 = .ok (.astore_n 1, 1) := dk_76 (dk_at dksX0_are_0 1 rfl rfl)
theorem dX0_are_2 : decode cX0_are 2 = .ok (.aload_n 1, 1) := dk_43 (dk_at dksX0_are_0 2 rfl rfl)
theorem dX0_are_3 : decode cX0_are 3 = .ok (.arraylength, 1) := dk_190 (dk_at dksX0_are_0 3 rfl rfl)
theorem dX0_are_4 : decode cX0_are 4 = .ok (.istore_n 2, 1) := dk_61 (dk_at dksX0_are_0 4 rfl rfl)
theorem dX0_are_5 : decode cX0_are 5 = .ok (.iconst 0, 1) := dk_3 (dk_at dksX0_are_0 5 rfl rfl)
theorem dX0_are_6 : decode cX0_are 6 = .ok (.istore_n 3, 1) := dk_62 (dk_at dksX0_are_0 6 rfl rfl)
theorem dX0_are_7 : decode cX0_are 7 = .ok (.iload_n 3, 1) := dk_29 (dk_at dksX0_are_0 7 rfl rfl)
theorem dX0_are_8 : decode cX0_are 8 = .ok (.iload_n 2, 1) := dk_28 (dk_at dksX0_are_0 8 rfl rfl)
theorem dX0_are_9 : decode cX0_are 9 = .ok (.if_icmp .ge 21, 3) := dk_162 0 21 (dk_at dksX0_are_0 9 rfl rfl)
theorem dX0_are_12 : decode cX0_are 12 = .ok (.aload_n 1, 1) := dk_43 (dk_at dksX0_are_0 12 rfl rfl)
theorem dX0_are_13 : decode cX0_are 13 = .ok (.iload_n 3, 1) := dk_29 (dk_at dksX0_are_0 13 rfl rfl)
theorem dX0_are_14 : decode cX0_are 14 = .ok (.baload, 1) := dk_51 (dk_at dksX0_are_0 14 rfl rfl)
theorem dX0_are_15 : decode cX0_are 15 = .ok (.istore 4, 2) := dk_54 4 (dk_at dksX0_are_0 15 rfl rfl)
theorem dX0_are_17 : decode cX0_are 17 = .ok (.iload 4, 2) := dk_21 4 (dk_at dksX0_are_0 17 rfl rfl)
theorem dX0_are_19 : decode cX0_are 19 = .ok (.ifCond .ne 5, 3) := dk_154 0 5 (dk_at dksX0_are_0 19 rfl rfl)
theorem dX0_are_22 : decode cX0_are 22 = .ok (.iconst 0, 1) := dk_3 (dk_at dksX0_are_0 22 rfl rfl)
theorem dX0_are_23 : decode cX0_are 23 = .ok (.ireturn, 1) := dk_172 (dk_at dksX0_are_0 23 rfl rfl)
theorem dX0_are_24 : decode cX0_are 24 = .ok (.iinc 3 1, 3) := dk_132 3 1 (dk_at dksX0_are_1 0 rfl rfl)
theorem dX0_are_27 : decode cX0_are 27 = .ok (.goto (-20), 3) := dk_167 255 236 (dk_at dksX0_are_1 3 rfl rfl)
theorem dX0_are_30 : decode cX0_are 30 = .ok (.iconst 1, 1) := dk_4 (dk_at dksX0_are_1 6 rfl rfl)
theorem dX0_are_31 : decode cX0_are 31 = .ok (.ireturn, 1) := dk_172 (dk_at dksX0_are_1 7 rfl rfl)
abbrev cX0_goes : ByteArray := prog_1_method_10_code
def yX0_goes : MethodName := ⟨RX0, "goes", "(II)I"⟩
def dkwX0_goes_3 : List UInt8 := [45, 28, 182, 0, 106, 42, 180, 0, 17, 182, 0, 109, 45, 180, 0, 128, 172]
abbrev dktX0_goes_3 : List UInt8 := dkwX0_goes_3 ++ []
def dkwX0_goes_2 : List UInt8 := [180, 0, 17, 180, 0, 125, 158, 0, 6, 16, 253, 172, 45, 180, 0, 128, 16, 8, 160, 0, 6, 16, 252, 172]
abbrev dktX0_goes_2 : List UInt8 := dkwX0_goes_2 ++ dktX0_goes_3
def dkwX0_goes_1 : List UInt8 := [20, 0, 80, 184, 0, 74, 153, 0, 14, 45, 180, 0, 116, 28, 182, 0, 120, 153, 0, 6, 16, 254, 172, 42]
abbrev dktX0_goes_1 : List UInt8 := dkwX0_goes_1 ++ dktX0_goes_2
def dkwX0_goes_0 : List UInt8 := [42, 27, 182, 0, 112, 154, 0, 5, 2, 172, 42, 180, 0, 17, 180, 0, 90, 27, 50, 78, 28, 133, 9]
abbrev dktX0_goes_0 : List UInt8 := dkwX0_goes_0 ++ dktX0_goes_1
theorem dksX0_goes_0 : cX0_goes.data.toList.drop 0 = dktX0_goes_0 := by decide +kernel
theorem dksX0_goes_1 : cX0_goes.data.toList.drop 23 = dktX0_goes_1 := dk_seg dksX0_goes_0 23 rfl rfl
theorem dksX0_goes_2 : cX0_goes.data.toList.drop 47 = dktX0_goes_2 := dk_seg dksX0_goes_1 24 rfl rfl
theorem dksX0_goes_3 : cX0_goes.data.toList.drop 71 = dktX0_goes_3 := dk_seg dksX0_goes_2 24 rfl rfl
theorem dX0_goes_0 : decode cX0_goes 0 = .ok (.aload_n 0, 1) := dk_42 (dk_at dksX0_goes_0 0 rfl rfl)
theorem dX0_goes_1 : decode cX0_goes 1 = .ok (.iload_n 1, 1) := dk_27 (dk_at dksX0_goes_0 1 rfl rfl)
theorem dX0_goes_2 : decode cX0_goes 2 = .ok (.invokevirtual 112, 3) := dk_182 0 112 (dk_at dksX0_goes_0 2 rfl rfl)
theorem dX0_goes_5 : decode cX0_goes 5 = .ok (.ifCond .ne 5, 3) := dk_154 0 5 (dk_at dksX0_goes_0 5 rfl rfl)
theorem dX0_goes_8 : decode cX0_goes 8 = .ok (.iconst (-1), 1) := dk_2 (dk_at dksX0_goes_0 8 rfl rfl)
theorem dX0_goes_9 : decode cX0_goes 9 = .ok (.ireturn, 1) := dk_172 (dk_at dksX0_goes_0 9 rfl rfl)
theorem dX0_goes_10 : decode cX0_goes 10 = .ok (.aload_n 0, 1) := dk_42 (dk_at dksX0_goes_0 10 rfl rfl)
theorem dX0_goes_11 : decode cX0_goes 11 = .ok (.getfield 17, 3) := dk_180 0 17 (dk_at dksX0_goes_0 11 rfl rfl)
theorem dX0_goes_14 : decode cX0_goes 14 = .ok (.getfield 90, 3) := dk_180 0 90 (dk_at dksX0_goes_0 14 rfl rfl)
theorem dX0_goes_17 : decode cX0_goes 17 = .ok (.iload_n 1, 1) := dk_27 (dk_at dksX0_goes_0 17 rfl rfl)
theorem dX0_goes_18 : decode cX0_goes 18 = .ok (.aaload, 1) := dk_50 (dk_at dksX0_goes_0 18 rfl rfl)
theorem dX0_goes_19 : decode cX0_goes 19 = .ok (.astore_n 3, 1) := dk_78 (dk_at dksX0_goes_0 19 rfl rfl)
theorem dX0_goes_20 : decode cX0_goes 20 = .ok (.iload_n 2, 1) := dk_28 (dk_at dksX0_goes_0 20 rfl rfl)
theorem dX0_goes_21 : decode cX0_goes 21 = .ok (.i2l, 1) := dk_133 (dk_at dksX0_goes_0 21 rfl rfl)
theorem dX0_goes_22 : decode cX0_goes 22 = .ok (.lconst 0, 1) := dk_9 (dk_at dksX0_goes_0 22 rfl rfl)
theorem dX0_goes_23 : decode cX0_goes 23 = .ok (.ldc2_w 80, 3) := dk_20 0 80 (dk_at dksX0_goes_1 0 rfl rfl)
theorem dX0_goes_26 : decode cX0_goes 26 = .ok (.invokestatic 74, 3) := dk_184 0 74 (dk_at dksX0_goes_1 3 rfl rfl)
theorem dX0_goes_29 : decode cX0_goes 29 = .ok (.ifCond .eq 14, 3) := dk_153 0 14 (dk_at dksX0_goes_1 6 rfl rfl)
theorem dX0_goes_32 : decode cX0_goes 32 = .ok (.aload_n 3, 1) := dk_45 (dk_at dksX0_goes_1 9 rfl rfl)
theorem dX0_goes_33 : decode cX0_goes 33 = .ok (.getfield 116, 3) := dk_180 0 116 (dk_at dksX0_goes_1 10 rfl rfl)
theorem dX0_goes_36 : decode cX0_goes 36 = .ok (.iload_n 2, 1) := dk_28 (dk_at dksX0_goes_1 13 rfl rfl)
theorem dX0_goes_37 : decode cX0_goes 37 = .ok (.invokevirtual 120, 3) := dk_182 0 120 (dk_at dksX0_goes_1 14 rfl rfl)
theorem dX0_goes_40 : decode cX0_goes 40 = .ok (.ifCond .eq 6, 3) := dk_153 0 6 (dk_at dksX0_goes_1 17 rfl rfl)
theorem dX0_goes_43 : decode cX0_goes 43 = .ok (.bipush (-2), 2) := dk_16 254 (dk_at dksX0_goes_1 20 rfl rfl)
theorem dX0_goes_45 : decode cX0_goes 45 = .ok (.ireturn, 1) := dk_172 (dk_at dksX0_goes_1 22 rfl rfl)
theorem dX0_goes_46 : decode cX0_goes 46 = .ok (.aload_n 0, 1) := dk_42 (dk_at dksX0_goes_1 23 rfl rfl)
theorem dX0_goes_47 : decode cX0_goes 47 = .ok (.getfield 17, 3) := dk_180 0 17 (dk_at dksX0_goes_2 0 rfl rfl)
theorem dX0_goes_50 : decode cX0_goes 50 = .ok (.getfield 125, 3) := dk_180 0 125 (dk_at dksX0_goes_2 3 rfl rfl)
theorem dX0_goes_53 : decode cX0_goes 53 = .ok (.ifCond .le 6, 3) := dk_158 0 6 (dk_at dksX0_goes_2 6 rfl rfl)
theorem dX0_goes_56 : decode cX0_goes 56 = .ok (.bipush (-3), 2) := dk_16 253 (dk_at dksX0_goes_2 9 rfl rfl)
theorem dX0_goes_58 : decode cX0_goes 58 = .ok (.ireturn, 1) := dk_172 (dk_at dksX0_goes_2 11 rfl rfl)
theorem dX0_goes_59 : decode cX0_goes 59 = .ok (.aload_n 3, 1) := dk_45 (dk_at dksX0_goes_2 12 rfl rfl)
theorem dX0_goes_60 : decode cX0_goes 60 = .ok (.getfield 128, 3) := dk_180 0 128 (dk_at dksX0_goes_2 13 rfl rfl)
theorem dX0_goes_63 : decode cX0_goes 63 = .ok (.bipush 8, 2) := dk_16 8 (dk_at dksX0_goes_2 16 rfl rfl)
theorem dX0_goes_65 : decode cX0_goes 65 = .ok (.if_icmp .ne 6, 3) := dk_160 0 6 (dk_at dksX0_goes_2 18 rfl rfl)
theorem dX0_goes_68 : decode cX0_goes 68 = .ok (.bipush (-4), 2) := dk_16 252 (dk_at dksX0_goes_2 21 rfl rfl)
theorem dX0_goes_70 : decode cX0_goes 70 = .ok (.ireturn, 1) := dk_172 (dk_at dksX0_goes_2 23 rfl rfl)
theorem dX0_goes_71 : decode cX0_goes 71 = .ok (.aload_n 3, 1) := dk_45 (dk_at dksX0_goes_3 0 rfl rfl)
theorem dX0_goes_72 : decode cX0_goes 72 = .ok (.iload_n 2, 1) := dk_28 (dk_at dksX0_goes_3 1 rfl rfl)
theorem dX0_goes_73 : decode cX0_goes 73 = .ok (.invokevirtual 106, 3) := dk_182 0 106 (dk_at dksX0_goes_3 2 rfl rfl)
theorem dX0_goes_76 : decode cX0_goes 76 = .ok (.aload_n 0, 1) := dk_42 (dk_at dksX0_goes_3 5 rfl rfl)
theorem dX0_goes_77 : decode cX0_goes 77 = .ok (.getfield 17, 3) := dk_180 0 17 (dk_at dksX0_goes_3 6 rfl rfl)
theorem dX0_goes_80 : decode cX0_goes 80 = .ok (.invokevirtual 109, 3) := dk_182 0 109 (dk_at dksX0_goes_3 9 rfl rfl)
theorem dX0_goes_83 : decode cX0_goes 83 = .ok (.aload_n 3, 1) := dk_45 (dk_at dksX0_goes_3 12 rfl rfl)
theorem dX0_goes_84 : decode cX0_goes 84 = .ok (.getfield 128, 3) := dk_180 0 128 (dk_at dksX0_goes_3 13 rfl rfl)
theorem dX0_goes_87 : decode cX0_goes 87 = .ok (.ireturn, 1) := dk_172 (dk_at dksX0_goes_3 16 rfl rfl)
abbrev cX0_isSignal : ByteArray := prog_1_method_8_code
def yX0_isSignal : MethodName := ⟨RX0, "isSignal", "(I)Z"⟩
def dkwX0_isSignal_0 : List UInt8 := [27, 133, 9, 42, 180, 0, 17, 180, 0, 71, 4, 100, 133, 184, 0, 74, 172]
abbrev dktX0_isSignal_0 : List UInt8 := dkwX0_isSignal_0 ++ []
theorem dksX0_isSignal_0 : cX0_isSignal.data.toList.drop 0 = dktX0_isSignal_0 := by decide +kernel
theorem dX0_isSignal_0 : decode cX0_isSignal 0 = .ok (.iload_n 1, 1) := dk_27 (dk_at dksX0_isSignal_0 0 rfl rfl)
theorem dX0_isSignal_1 : decode cX0_isSignal 1 = .ok (.i2l, 1) := dk_133 (dk_at dksX0_isSignal_0 1 rfl rfl)
theorem dX0_isSignal_2 : decode cX0_isSignal 2 = .ok (.lconst 0, 1) := dk_9 (dk_at dksX0_isSignal_0 2 rfl rfl)
theorem dX0_isSignal_3 : decode cX0_isSignal 3 = .ok (.aload_n 0, 1) := dk_42 (dk_at dksX0_isSignal_0 3 rfl rfl)
theorem dX0_isSignal_4 : decode cX0_isSignal 4 = .ok (.getfield 17, 3) := dk_180 0 17 (dk_at dksX0_isSignal_0 4 rfl rfl)
theorem dX0_isSignal_7 : decode cX0_isSignal 7 = .ok (.getfield 71, 3) := dk_180 0 71 (dk_at dksX0_isSignal_0 7 rfl rfl)
theorem dX0_isSignal_10 : decode cX0_isSignal 10 = .ok (.iconst 1, 1) := dk_4 (dk_at dksX0_isSignal_0 10 rfl rfl)
theorem dX0_isSignal_11 : decode cX0_isSignal 11 = .ok (.isub, 1) := dk_100 (dk_at dksX0_isSignal_0 11 rfl rfl)
theorem dX0_isSignal_12 : decode cX0_isSignal 12 = .ok (.i2l, 1) := dk_133 (dk_at dksX0_isSignal_0 12 rfl rfl)
theorem dX0_isSignal_13 : decode cX0_isSignal 13 = .ok (.invokestatic 74, 3) := dk_184 0 74 (dk_at dksX0_isSignal_0 13 rfl rfl)
theorem dX0_isSignal_16 : decode cX0_isSignal 16 = .ok (.ireturn, 1) := dk_172 (dk_at dksX0_isSignal_0 16 rfl rfl)
abbrev cX0_tell : ByteArray := prog_1_method_11_code
def yX0_tell : MethodName := ⟨RX0, "tell", "(III)I"⟩
def dkwX0_tell_5 : List UInt8 := [180, 0, 150, 28, 46, 54, 6, 25, 4, 180, 0, 150, 28, 29, 79, 21, 6, 172]
abbrev dktX0_tell_5 : List UInt8 := dkwX0_tell_5 ++ []
def dkwX0_tell_4 : List UInt8 := [167, 0, 12, 29, 133, 9, 20, 0, 148, 184, 0, 74, 54, 5, 21, 5, 154, 0, 6, 16, 254, 172, 25, 4]
abbrev dktX0_tell_4 : List UInt8 := dkwX0_tell_4 ++ dktX0_tell_5
def dkwX0_tell_3 : List UInt8 := [20, 0, 144, 184, 0, 74, 167, 0, 29, 28, 5, 160, 0, 15, 29, 133, 10, 20, 0, 146, 184, 0, 74]
abbrev dktX0_tell_3 : List UInt8 := dkwX0_tell_3 ++ dktX0_tell_4
def dkwX0_tell_2 : List UInt8 := [184, 0, 135, 133, 184, 0, 74, 167, 0, 51, 28, 4, 160, 0, 20, 29, 133, 25, 4, 182, 0, 141, 133]
abbrev dktX0_tell_2 : List UInt8 := dkwX0_tell_2 ++ dktX0_tell_3
def dkwX0_tell_1 : List UInt8 := [180, 0, 17, 180, 0, 90, 27, 50, 58, 4, 28, 154, 0, 23, 29, 133, 10, 16, 20, 25, 4, 182, 0, 131]
abbrev dktX0_tell_1 : List UInt8 := dkwX0_tell_1 ++ dktX0_tell_2
def dkwX0_tell_0 : List UInt8 := [42, 27, 182, 0, 112, 153, 0, 15, 28, 133, 9, 20, 0, 78, 184, 0, 74, 154, 0, 5, 2, 172, 42]
abbrev dktX0_tell_0 : List UInt8 := dkwX0_tell_0 ++ dktX0_tell_1
theorem dksX0_tell_0 : cX0_tell.data.toList.drop 0 = dktX0_tell_0 := by decide +kernel
theorem dksX0_tell_1 : cX0_tell.data.toList.drop 23 = dktX0_tell_1 := dk_seg dksX0_tell_0 23 rfl rfl
theorem dksX0_tell_2 : cX0_tell.data.toList.drop 47 = dktX0_tell_2 := dk_seg dksX0_tell_1 24 rfl rfl
theorem dksX0_tell_3 : cX0_tell.data.toList.drop 70 = dktX0_tell_3 := dk_seg dksX0_tell_2 23 rfl rfl
theorem dksX0_tell_4 : cX0_tell.data.toList.drop 93 = dktX0_tell_4 := dk_seg dksX0_tell_3 23 rfl rfl
theorem dksX0_tell_5 : cX0_tell.data.toList.drop 117 = dktX0_tell_5 := dk_seg dksX0_tell_4 24 rfl rfl
theorem dX0_tell_0 : decode cX0_tell 0 = .ok (.aload_n 0, 1) := dk_42 (dk_at dksX0_tell_0 0 rfl rfl)
theorem dX0_tell_1 : decode cX0_tell 1 = .ok (.iload_n 1, 1) := dk_27 (dk_at dksX0_tell_0 1 rfl rfl)
theorem dX0_tell_2 : decode cX0_tell 2 = .ok (.invokevirtual 112, 3) := dk_182 0 112 (dk_at dksX0_tell_0 2 rfl rfl)
theorem dX0_tell_5 : decode cX0_tell 5 = .ok (.ifCond .eq 15, 3) := dk_153 0 15 (dk_at dksX0_tell_0 5 rfl rfl)
theorem dX0_tell_8 : decode cX0_tell 8 = .ok (.iload_n 2, 1) := dk_28 (dk_at dksX0_tell_0 8 rfl rfl)
theorem dX0_tell_9 : decode cX0_tell 9 = .ok (.i2l, 1) := dk_133 (dk_at dksX0_tell_0 9 rfl rfl)
theorem dX0_tell_10 : decode cX0_tell 10 = .ok (.lconst 0, 1) := dk_9 (dk_at dksX0_tell_0 10 rfl rfl)
theorem dX0_tell_11 : decode cX0_tell 11 = .ok (.ldc2_w 78, 3) := dk_20 0 78 (dk_at dksX0_tell_0 11 rfl rfl)
theorem dX0_tell_14 : decode cX0_tell 14 = .ok (.invokestatic 74, 3) := dk_184 0 74 (dk_at dksX0_tell_0 14 rfl rfl)
theorem dX0_tell_17 : decode cX0_tell 17 = .ok (.ifCond .ne 5, 3) := dk_154 0 5 (dk_at dksX0_tell_0 17 rfl rfl)
theorem dX0_tell_20 : decode cX0_tell 20 = .ok (.iconst (-1), 1) := dk_2 (dk_at dksX0_tell_0 20 rfl rfl)
theorem dX0_tell_21 : decode cX0_tell 21 = .ok (.ireturn, 1) := dk_172 (dk_at dksX0_tell_0 21 rfl rfl)
theorem dX0_tell_22 : decode cX0_tell 22 = .ok (.aload_n 0, 1) := dk_42 (dk_at dksX0_tell_0 22 rfl rfl)
theorem dX0_tell_23 : decode cX0_tell 23 = .ok (.getfield 17, 3) := dk_180 0 17 (dk_at dksX0_tell_1 0 rfl rfl)
theorem dX0_tell_26 : decode cX0_tell 26 = .ok (.getfield 90, 3) := dk_180 0 90 (dk_at dksX0_tell_1 3 rfl rfl)
theorem dX0_tell_29 : decode cX0_tell 29 = .ok (.iload_n 1, 1) := dk_27 (dk_at dksX0_tell_1 6 rfl rfl)
theorem dX0_tell_30 : decode cX0_tell 30 = .ok (.aaload, 1) := dk_50 (dk_at dksX0_tell_1 7 rfl rfl)
theorem dX0_tell_31 : decode cX0_tell 31 = .ok (.astore 4, 2) := dk_58 4 (dk_at dksX0_tell_1 8 rfl rfl)
theorem dX0_tell_33 : decode cX0_tell 33 = .ok (.iload_n 2, 1) := dk_28 (dk_at dksX0_tell_1 10 rfl rfl)
theorem dX0_tell_34 : decode cX0_tell 34 = .ok (.ifCond .ne 23, 3) := dk_154 0 23 (dk_at dksX0_tell_1 11 rfl rfl)
theorem dX0_tell_37 : decode cX0_tell 37 = .ok (.iload_n 3, 1) := dk_29 (dk_at dksX0_tell_1 14 rfl rfl)
theorem dX0_tell_38 : decode cX0_tell 38 = .ok (.i2l, 1) := dk_133 (dk_at dksX0_tell_1 15 rfl rfl)
theorem dX0_tell_39 : decode cX0_tell 39 = .ok (.lconst 1, 1) := dk_10 (dk_at dksX0_tell_1 16 rfl rfl)
theorem dX0_tell_40 : decode cX0_tell 40 = .ok (.bipush 20, 2) := dk_16 20 (dk_at dksX0_tell_1 17 rfl rfl)
theorem dX0_tell_42 : decode cX0_tell 42 = .ok (.aload 4, 2) := dk_25 4 (dk_at dksX0_tell_1 19 rfl rfl)
theorem dX0_tell_44 : decode cX0_tell 44 = .ok (.invokevirtual 131, 3) := dk_182 0 131 (dk_at dksX0_tell_1 21 rfl rfl)
theorem dX0_tell_47 : decode cX0_tell 47 = .ok (.invokestatic 135, 3) := dk_184 0 135 (dk_at dksX0_tell_2 0 rfl rfl)
theorem dX0_tell_50 : decode cX0_tell 50 = .ok (.i2l, 1) := dk_133 (dk_at dksX0_tell_2 3 rfl rfl)
theorem dX0_tell_51 : decode cX0_tell 51 = .ok (.invokestatic 74, 3) := dk_184 0 74 (dk_at dksX0_tell_2 4 rfl rfl)
theorem dX0_tell_54 : decode cX0_tell 54 = .ok (.goto 51, 3) := dk_167 0 51 (dk_at dksX0_tell_2 7 rfl rfl)
theorem dX0_tell_57 : decode cX0_tell 57 = .ok (.iload_n 2, 1) := dk_28 (dk_at dksX0_tell_2 10 rfl rfl)
theorem dX0_tell_58 : decode cX0_tell 58 = .ok (.iconst 1, 1) := dk_4 (dk_at dksX0_tell_2 11 rfl rfl)
theorem dX0_tell_59 : decode cX0_tell 59 = .ok (.if_icmp .ne 20, 3) := dk_160 0 20 (dk_at dksX0_tell_2 12 rfl rfl)
theorem dX0_tell_62 : decode cX0_tell 62 = .ok (.iload_n 3, 1) := dk_29 (dk_at dksX0_tell_2 15 rfl rfl)
theorem dX0_tell_63 : decode cX0_tell 63 = .ok (.i2l, 1) := dk_133 (dk_at dksX0_tell_2 16 rfl rfl)
theorem dX0_tell_64 : decode cX0_tell 64 = .ok (.aload 4, 2) := dk_25 4 (dk_at dksX0_tell_2 17 rfl rfl)
theorem dX0_tell_66 : decode cX0_tell 66 = .ok (.invokevirtual 141, 3) := dk_182 0 141 (dk_at dksX0_tell_2 19 rfl rfl)
theorem dX0_tell_69 : decode cX0_tell 69 = .ok (.i2l, 1) := dk_133 (dk_at dksX0_tell_2 22 rfl rfl)
theorem dX0_tell_70 : decode cX0_tell 70 = .ok (.ldc2_w 144, 3) := dk_20 0 144 (dk_at dksX0_tell_3 0 rfl rfl)
theorem dX0_tell_73 : decode cX0_tell 73 = .ok (.invokestatic 74, 3) := dk_184 0 74 (dk_at dksX0_tell_3 3 rfl rfl)
theorem dX0_tell_76 : decode cX0_tell 76 = .ok (.goto 29, 3) := dk_167 0 29 (dk_at dksX0_tell_3 6 rfl rfl)
theorem dX0_tell_79 : decode cX0_tell 79 = .ok (.iload_n 2, 1) := dk_28 (dk_at dksX0_tell_3 9 rfl rfl)
theorem dX0_tell_80 : decode cX0_tell 80 = .ok (.iconst 2, 1) := dk_5 (dk_at dksX0_tell_3 10 rfl rfl)
theorem dX0_tell_81 : decode cX0_tell 81 = .ok (.if_icmp .ne 15, 3) := dk_160 0 15 (dk_at dksX0_tell_3 11 rfl rfl)
theorem dX0_tell_84 : decode cX0_tell 84 = .ok (.iload_n 3, 1) := dk_29 (dk_at dksX0_tell_3 14 rfl rfl)
theorem dX0_tell_85 : decode cX0_tell 85 = .ok (.i2l, 1) := dk_133 (dk_at dksX0_tell_3 15 rfl rfl)
theorem dX0_tell_86 : decode cX0_tell 86 = .ok (.lconst 1, 1) := dk_10 (dk_at dksX0_tell_3 16 rfl rfl)
theorem dX0_tell_87 : decode cX0_tell 87 = .ok (.ldc2_w 146, 3) := dk_20 0 146 (dk_at dksX0_tell_3 17 rfl rfl)
theorem dX0_tell_90 : decode cX0_tell 90 = .ok (.invokestatic 74, 3) := dk_184 0 74 (dk_at dksX0_tell_3 20 rfl rfl)
theorem dX0_tell_93 : decode cX0_tell 93 = .ok (.goto 12, 3) := dk_167 0 12 (dk_at dksX0_tell_4 0 rfl rfl)
theorem dX0_tell_96 : decode cX0_tell 96 = .ok (.iload_n 3, 1) := dk_29 (dk_at dksX0_tell_4 3 rfl rfl)
theorem dX0_tell_97 : decode cX0_tell 97 = .ok (.i2l, 1) := dk_133 (dk_at dksX0_tell_4 4 rfl rfl)
theorem dX0_tell_98 : decode cX0_tell 98 = .ok (.lconst 0, 1) := dk_9 (dk_at dksX0_tell_4 5 rfl rfl)
theorem dX0_tell_99 : decode cX0_tell 99 = .ok (.ldc2_w 148, 3) := dk_20 0 148 (dk_at dksX0_tell_4 6 rfl rfl)
theorem dX0_tell_102 : decode cX0_tell 102 = .ok (.invokestatic 74, 3) := dk_184 0 74 (dk_at dksX0_tell_4 9 rfl rfl)
theorem dX0_tell_105 : decode cX0_tell 105 = .ok (.istore 5, 2) := dk_54 5 (dk_at dksX0_tell_4 12 rfl rfl)
theorem dX0_tell_107 : decode cX0_tell 107 = .ok (.iload 5, 2) := dk_21 5 (dk_at dksX0_tell_4 14 rfl rfl)
theorem dX0_tell_109 : decode cX0_tell 109 = .ok (.ifCond .ne 6, 3) := dk_154 0 6 (dk_at dksX0_tell_4 16 rfl rfl)
theorem dX0_tell_112 : decode cX0_tell 112 = .ok (.bipush (-2), 2) := dk_16 254 (dk_at dksX0_tell_4 19 rfl rfl)
theorem dX0_tell_114 : decode cX0_tell 114 = .ok (.ireturn, 1) := dk_172 (dk_at dksX0_tell_4 21 rfl rfl)
theorem dX0_tell_115 : decode cX0_tell 115 = .ok (.aload 4, 2) := dk_25 4 (dk_at dksX0_tell_4 22 rfl rfl)
theorem dX0_tell_117 : decode cX0_tell 117 = .ok (.getfield 150, 3) := dk_180 0 150 (dk_at dksX0_tell_5 0 rfl rfl)
theorem dX0_tell_120 : decode cX0_tell 120 = .ok (.iload_n 2, 1) := dk_28 (dk_at dksX0_tell_5 3 rfl rfl)
theorem dX0_tell_121 : decode cX0_tell 121 = .ok (.iaload, 1) := dk_46 (dk_at dksX0_tell_5 4 rfl rfl)
theorem dX0_tell_122 : decode cX0_tell 122 = .ok (.istore 6, 2) := dk_54 6 (dk_at dksX0_tell_5 5 rfl rfl)
theorem dX0_tell_124 : decode cX0_tell 124 = .ok (.aload 4, 2) := dk_25 4 (dk_at dksX0_tell_5 7 rfl rfl)
theorem dX0_tell_126 : decode cX0_tell 126 = .ok (.getfield 150, 3) := dk_180 0 150 (dk_at dksX0_tell_5 9 rfl rfl)
theorem dX0_tell_129 : decode cX0_tell 129 = .ok (.iload_n 2, 1) := dk_28 (dk_at dksX0_tell_5 12 rfl rfl)
theorem dX0_tell_130 : decode cX0_tell 130 = .ok (.iload_n 3, 1) := dk_29 (dk_at dksX0_tell_5 13 rfl rfl)
theorem dX0_tell_131 : decode cX0_tell 131 = .ok (.iastore, 1) := dk_79 (dk_at dksX0_tell_5 14 rfl rfl)
theorem dX0_tell_132 : decode cX0_tell 132 = .ok (.iload 6, 2) := dk_21 6 (dk_at dksX0_tell_5 15 rfl rfl)
theorem dX0_tell_134 : decode cX0_tell 134 = .ok (.ireturn, 1) := dk_172 (dk_at dksX0_tell_5 17 rfl rfl)
abbrev cX0_feed : ByteArray := prog_1_method_12_code
def yX0_feed : MethodName := ⟨RX0, "feed", "(I)I"⟩
def dkwX0_feed_2 : List UInt8 := [42, 180, 0, 155, 172]
abbrev dktX0_feed_2 : List UInt8 := dkwX0_feed_2 ++ []
def dkwX0_feed_1 : List UInt8 := [16, 252, 172, 42, 180, 0, 36, 42, 180, 0, 155, 27, 145, 84, 42, 89, 180, 0, 155, 4, 96, 181, 0, 155]
abbrev dktX0_feed_1 : List UInt8 := dkwX0_feed_1 ++ dktX0_feed_2
def dkwX0_feed_0 : List UInt8 := [27, 133, 9, 20, 0, 153, 184, 0, 74, 154, 0, 6, 16, 254, 172, 42, 180, 0, 155, 16, 100, 160, 0, 6]
abbrev dktX0_feed_0 : List UInt8 := dkwX0_feed_0 ++ dktX0_feed_1
theorem dksX0_feed_0 : cX0_feed.data.toList.drop 0 = dktX0_feed_0 := by decide +kernel
theorem dksX0_feed_1 : cX0_feed.data.toList.drop 24 = dktX0_feed_1 := dk_seg dksX0_feed_0 24 rfl rfl
theorem dksX0_feed_2 : cX0_feed.data.toList.drop 48 = dktX0_feed_2 := dk_seg dksX0_feed_1 24 rfl rfl
theorem dX0_feed_0 : decode cX0_feed 0 = .ok (.iload_n 1, 1) := dk_27 (dk_at dksX0_feed_0 0 rfl rfl)
theorem dX0_feed_1 : decode cX0_feed 1 = .ok (.i2l, 1) := dk_133 (dk_at dksX0_feed_0 1 rfl rfl)
theorem dX0_feed_2 : decode cX0_feed 2 = .ok (.lconst 0, 1) := dk_9 (dk_at dksX0_feed_0 2 rfl rfl)
theorem dX0_feed_3 : decode cX0_feed 3 = .ok (.ldc2_w 153, 3) := dk_20 0 153 (dk_at dksX0_feed_0 3 rfl rfl)
theorem dX0_feed_6 : decode cX0_feed 6 = .ok (.invokestatic 74, 3) := dk_184 0 74 (dk_at dksX0_feed_0 6 rfl rfl)
theorem dX0_feed_9 : decode cX0_feed 9 = .ok (.ifCond .ne 6, 3) := dk_154 0 6 (dk_at dksX0_feed_0 9 rfl rfl)
theorem dX0_feed_12 : decode cX0_feed 12 = .ok (.bipush (-2), 2) := dk_16 254 (dk_at dksX0_feed_0 12 rfl rfl)
theorem dX0_feed_14 : decode cX0_feed 14 = .ok (.ireturn, 1) := dk_172 (dk_at dksX0_feed_0 14 rfl rfl)
theorem dX0_feed_15 : decode cX0_feed 15 = .ok (.aload_n 0, 1) := dk_42 (dk_at dksX0_feed_0 15 rfl rfl)
theorem dX0_feed_16 : decode cX0_feed 16 = .ok (.getfield 155, 3) := dk_180 0 155 (dk_at dksX0_feed_0 16 rfl rfl)
theorem dX0_feed_19 : decode cX0_feed 19 = .ok (.bipush 100, 2) := dk_16 100 (dk_at dksX0_feed_0 19 rfl rfl)
theorem dX0_feed_21 : decode cX0_feed 21 = .ok (.if_icmp .ne 6, 3) := dk_160 0 6 (dk_at dksX0_feed_0 21 rfl rfl)
theorem dX0_feed_24 : decode cX0_feed 24 = .ok (.bipush (-4), 2) := dk_16 252 (dk_at dksX0_feed_1 0 rfl rfl)
theorem dX0_feed_26 : decode cX0_feed 26 = .ok (.ireturn, 1) := dk_172 (dk_at dksX0_feed_1 2 rfl rfl)
theorem dX0_feed_27 : decode cX0_feed 27 = .ok (.aload_n 0, 1) := dk_42 (dk_at dksX0_feed_1 3 rfl rfl)
theorem dX0_feed_28 : decode cX0_feed 28 = .ok (.getfield 36, 3) := dk_180 0 36 (dk_at dksX0_feed_1 4 rfl rfl)
theorem dX0_feed_31 : decode cX0_feed 31 = .ok (.aload_n 0, 1) := dk_42 (dk_at dksX0_feed_1 7 rfl rfl)
theorem dX0_feed_32 : decode cX0_feed 32 = .ok (.getfield 155, 3) := dk_180 0 155 (dk_at dksX0_feed_1 8 rfl rfl)
theorem dX0_feed_35 : decode cX0_feed 35 = .ok (.iload_n 1, 1) := dk_27 (dk_at dksX0_feed_1 11 rfl rfl)
theorem dX0_feed_36 : decode cX0_feed 36 = .ok (.i2b, 1) := dk_145 (dk_at dksX0_feed_1 12 rfl rfl)
theorem dX0_feed_37 : decode cX0_feed 37 = .ok (.bastore, 1) := dk_84 (dk_at dksX0_feed_1 13 rfl rfl)
theorem dX0_feed_38 : decode cX0_feed 38 = .ok (.aload_n 0, 1) := dk_42 (dk_at dksX0_feed_1 14 rfl rfl)
theorem dX0_feed_39 : decode cX0_feed 39 = .ok (.dup, 1) := dk_89 (dk_at dksX0_feed_1 15 rfl rfl)
theorem dX0_feed_40 : decode cX0_feed 40 = .ok (.getfield 155, 3) := dk_180 0 155 (dk_at dksX0_feed_1 16 rfl rfl)
theorem dX0_feed_43 : decode cX0_feed 43 = .ok (.iconst 1, 1) := dk_4 (dk_at dksX0_feed_1 19 rfl rfl)
theorem dX0_feed_44 : decode cX0_feed 44 = .ok (.iadd, 1) := dk_96 (dk_at dksX0_feed_1 20 rfl rfl)
theorem dX0_feed_45 : decode cX0_feed 45 = .ok (.putfield 155, 3) := dk_181 0 155 (dk_at dksX0_feed_1 21 rfl rfl)
theorem dX0_feed_48 : decode cX0_feed 48 = .ok (.aload_n 0, 1) := dk_42 (dk_at dksX0_feed_2 0 rfl rfl)
theorem dX0_feed_49 : decode cX0_feed 49 = .ok (.getfield 155, 3) := dk_180 0 155 (dk_at dksX0_feed_2 1 rfl rfl)
theorem dX0_feed_52 : decode cX0_feed 52 = .ok (.ireturn, 1) := dk_172 (dk_at dksX0_feed_2 4 rfl rfl)
abbrev cX0_read : ByteArray := prog_1_method_13_code
def yX0_read : MethodName := ⟨RX0, "read", "()I"⟩
def dkwX0_read_6 : List UInt8 := [42, 3, 181, 0, 155, 29, 172, 58, 4, 42, 3, 181, 0, 155, 25, 4, 191]
abbrev dktX0_read_6 : List UInt8 := dkwX0_read_6 ++ []
def dkwX0_read_5 : List UInt8 := [182, 0, 109, 43, 180, 0, 166, 61, 42, 3, 181, 0, 155, 28, 172, 77, 16, 246, 44, 180, 0, 175, 100, 62]
abbrev dktX0_read_5 : List UInt8 := dkwX0_read_5 ++ dktX0_read_6
def dkwX0_read_4 : List UInt8 := [180, 0, 17, 89, 180, 0, 71, 4, 96, 181, 0, 71, 132, 2, 1, 167, 255, 208, 42, 180, 0, 17]
abbrev dktX0_read_4 : List UInt8 := dkwX0_read_4 ++ dktX0_read_5
def dkwX0_read_3 : List UInt8 := [180, 0, 17, 180, 0, 90, 42, 180, 0, 17, 180, 0, 71, 50, 43, 180, 0, 167, 28, 50, 182, 0, 170, 42]
abbrev dktX0_read_3 : List UInt8 := dkwX0_read_3 ++ dktX0_read_4
def dkwX0_read_2 : List UInt8 := [164, 0, 13, 16, 252, 61, 42, 3, 181, 0, 155, 28, 172, 3, 61, 28, 43, 180, 0, 166, 162, 0, 46, 42]
abbrev dktX0_read_2 : List UInt8 := dkwX0_read_2 ++ dktX0_read_3
def dkwX0_read_1 : List UInt8 := [181, 0, 155, 28, 172, 43, 182, 0, 163, 42, 180, 0, 17, 180, 0, 71, 43, 180, 0, 166, 96, 16, 8]
abbrev dktX0_read_1 : List UInt8 := dkwX0_read_1 ++ dktX0_read_2
def dkwX0_read_0 : List UInt8 := [187, 0, 158, 89, 42, 183, 0, 160, 76, 42, 180, 0, 17, 180, 0, 86, 153, 0, 13, 16, 253, 61, 42, 3]
abbrev dktX0_read_0 : List UInt8 := dkwX0_read_0 ++ dktX0_read_1
theorem dksX0_read_0 : cX0_read.data.toList.drop 0 = dktX0_read_0 := by decide +kernel
theorem dksX0_read_1 : cX0_read.data.toList.drop 24 = dktX0_read_1 := dk_seg dksX0_read_0 24 rfl rfl
theorem dksX0_read_2 : cX0_read.data.toList.drop 47 = dktX0_read_2 := dk_seg dksX0_read_1 23 rfl rfl
theorem dksX0_read_3 : cX0_read.data.toList.drop 71 = dktX0_read_3 := dk_seg dksX0_read_2 24 rfl rfl
theorem dksX0_read_4 : cX0_read.data.toList.drop 95 = dktX0_read_4 := dk_seg dksX0_read_3 24 rfl rfl
theorem dksX0_read_5 : cX0_read.data.toList.drop 117 = dktX0_read_5 := dk_seg dksX0_read_4 22 rfl rfl
theorem dksX0_read_6 : cX0_read.data.toList.drop 141 = dktX0_read_6 := dk_seg dksX0_read_5 24 rfl rfl
theorem dX0_read_0 : decode cX0_read 0 = .ok (.new 158, 3) := dk_187 0 158 (dk_at dksX0_read_0 0 rfl rfl)
theorem dX0_read_3 : decode cX0_read 3 = .ok (.dup, 1) := dk_89 (dk_at dksX0_read_0 3 rfl rfl)
theorem dX0_read_4 : decode cX0_read 4 = .ok (.aload_n 0, 1) := dk_42 (dk_at dksX0_read_0 4 rfl rfl)
theorem dX0_read_5 : decode cX0_read 5 = .ok (.invokespecial 160, 3) := dk_183 0 160 (dk_at dksX0_read_0 5 rfl rfl)
theorem dX0_read_8 : decode cX0_read 8 = .ok (.astore_n 1, 1) := dk_76 (dk_at dksX0_read_0 8 rfl rfl)
theorem dX0_read_9 : decode cX0_read 9 = .ok (.aload_n 0, 1) := dk_42 (dk_at dksX0_read_0 9 rfl rfl)
theorem dX0_read_10 : decode cX0_read 10 = .ok (.getfield 17, 3) := dk_180 0 17 (dk_at dksX0_read_0 10 rfl rfl)
theorem dX0_read_13 : decode cX0_read 13 = .ok (.getfield 86, 3) := dk_180 0 86 (dk_at dksX0_read_0 13 rfl rfl)
theorem dX0_read_16 : decode cX0_read 16 = .ok (.ifCond .eq 13, 3) := dk_153 0 13 (dk_at dksX0_read_0 16 rfl rfl)
theorem dX0_read_19 : decode cX0_read 19 = .ok (.bipush (-3), 2) := dk_16 253 (dk_at dksX0_read_0 19 rfl rfl)
theorem dX0_read_21 : decode cX0_read 21 = .ok (.istore_n 2, 1) := dk_61 (dk_at dksX0_read_0 21 rfl rfl)
theorem dX0_read_22 : decode cX0_read 22 = .ok (.aload_n 0, 1) := dk_42 (dk_at dksX0_read_0 22 rfl rfl)
theorem dX0_read_23 : decode cX0_read 23 = .ok (.iconst 0, 1) := dk_3 (dk_at dksX0_read_0 23 rfl rfl)
theorem dX0_read_24 : decode cX0_read 24 = .ok (.putfield 155, 3) := dk_181 0 155 (dk_at dksX0_read_1 0 rfl rfl)
theorem dX0_read_27 : decode cX0_read 27 = .ok (.iload_n 2, 1) := dk_28 (dk_at dksX0_read_1 3 rfl rfl)
theorem dX0_read_28 : decode cX0_read 28 = .ok (.ireturn, 1) := dk_172 (dk_at dksX0_read_1 4 rfl rfl)
theorem dX0_read_29 : decode cX0_read 29 = .ok (.aload_n 1, 1) := dk_43 (dk_at dksX0_read_1 5 rfl rfl)
theorem dX0_read_30 : decode cX0_read 30 = .ok (.invokevirtual 163, 3) := dk_182 0 163 (dk_at dksX0_read_1 6 rfl rfl)
theorem dX0_read_33 : decode cX0_read 33 = .ok (.aload_n 0, 1) := dk_42 (dk_at dksX0_read_1 9 rfl rfl)
theorem dX0_read_34 : decode cX0_read 34 = .ok (.getfield 17, 3) := dk_180 0 17 (dk_at dksX0_read_1 10 rfl rfl)
theorem dX0_read_37 : decode cX0_read 37 = .ok (.getfield 71, 3) := dk_180 0 71 (dk_at dksX0_read_1 13 rfl rfl)
theorem dX0_read_40 : decode cX0_read 40 = .ok (.aload_n 1, 1) := dk_43 (dk_at dksX0_read_1 16 rfl rfl)
theorem dX0_read_41 : decode cX0_read 41 = .ok (.getfield 166, 3) := dk_180 0 166 (dk_at dksX0_read_1 17 rfl rfl)
theorem dX0_read_44 : decode cX0_read 44 = .ok (.iadd, 1) := dk_96 (dk_at dksX0_read_1 20 rfl rfl)
theorem dX0_read_45 : decode cX0_read 45 = .ok (.bipush 8, 2) := dk_16 8 (dk_at dksX0_read_1 21 rfl rfl)
theorem dX0_read_47 : decode cX0_read 47 = .ok (.if_icmp .le 13, 3) := dk_164 0 13 (dk_at dksX0_read_2 0 rfl rfl)
theorem dX0_read_50 : decode cX0_read 50 = .ok (.bipush (-4), 2) := dk_16 252 (dk_at dksX0_read_2 3 rfl rfl)
theorem dX0_read_52 : decode cX0_read 52 = .ok (.istore_n 2, 1) := dk_61 (dk_at dksX0_read_2 5 rfl rfl)
theorem dX0_read_53 : decode cX0_read 53 = .ok (.aload_n 0, 1) := dk_42 (dk_at dksX0_read_2 6 rfl rfl)
theorem dX0_read_54 : decode cX0_read 54 = .ok (.iconst 0, 1) := dk_3 (dk_at dksX0_read_2 7 rfl rfl)
theorem dX0_read_55 : decode cX0_read 55 = .ok (.putfield 155, 3) := dk_181 0 155 (dk_at dksX0_read_2 8 rfl rfl)
theorem dX0_read_58 : decode cX0_read 58 = .ok (.iload_n 2, 1) := dk_28 (dk_at dksX0_read_2 11 rfl rfl)
theorem dX0_read_59 : decode cX0_read 59 = .ok (.ireturn, 1) := dk_172 (dk_at dksX0_read_2 12 rfl rfl)
theorem dX0_read_60 : decode cX0_read 60 = .ok (.iconst 0, 1) := dk_3 (dk_at dksX0_read_2 13 rfl rfl)
theorem dX0_read_61 : decode cX0_read 61 = .ok (.istore_n 2, 1) := dk_61 (dk_at dksX0_read_2 14 rfl rfl)
theorem dX0_read_62 : decode cX0_read 62 = .ok (.iload_n 2, 1) := dk_28 (dk_at dksX0_read_2 15 rfl rfl)
theorem dX0_read_63 : decode cX0_read 63 = .ok (.aload_n 1, 1) := dk_43 (dk_at dksX0_read_2 16 rfl rfl)
theorem dX0_read_64 : decode cX0_read 64 = .ok (.getfield 166, 3) := dk_180 0 166 (dk_at dksX0_read_2 17 rfl rfl)
theorem dX0_read_67 : decode cX0_read 67 = .ok (.if_icmp .ge 46, 3) := dk_162 0 46 (dk_at dksX0_read_2 20 rfl rfl)
theorem dX0_read_70 : decode cX0_read 70 = .ok (.aload_n 0, 1) := dk_42 (dk_at dksX0_read_2 23 rfl rfl)
theorem dX0_read_71 : decode cX0_read 71 = .ok (.getfield 17, 3) := dk_180 0 17 (dk_at dksX0_read_3 0 rfl rfl)
theorem dX0_read_74 : decode cX0_read 74 = .ok (.getfield 90, 3) := dk_180 0 90 (dk_at dksX0_read_3 3 rfl rfl)
theorem dX0_read_77 : decode cX0_read 77 = .ok (.aload_n 0, 1) := dk_42 (dk_at dksX0_read_3 6 rfl rfl)
theorem dX0_read_78 : decode cX0_read 78 = .ok (.getfield 17, 3) := dk_180 0 17 (dk_at dksX0_read_3 7 rfl rfl)
theorem dX0_read_81 : decode cX0_read 81 = .ok (.getfield 71, 3) := dk_180 0 71 (dk_at dksX0_read_3 10 rfl rfl)
theorem dX0_read_84 : decode cX0_read 84 = .ok (.aaload, 1) := dk_50 (dk_at dksX0_read_3 13 rfl rfl)
theorem dX0_read_85 : decode cX0_read 85 = .ok (.aload_n 1, 1) := dk_43 (dk_at dksX0_read_3 14 rfl rfl)
theorem dX0_read_86 : decode cX0_read 86 = .ok (.getfield 167, 3) := dk_180 0 167 (dk_at dksX0_read_3 15 rfl rfl)
theorem dX0_read_89 : decode cX0_read 89 = .ok (.iload_n 2, 1) := dk_28 (dk_at dksX0_read_3 18 rfl rfl)
theorem dX0_read_90 : decode cX0_read 90 = .ok (.aaload, 1) := dk_50 (dk_at dksX0_read_3 19 rfl rfl)
theorem dX0_read_91 : decode cX0_read 91 = .ok (.invokevirtual 170, 3) := dk_182 0 170 (dk_at dksX0_read_3 20 rfl rfl)
theorem dX0_read_94 : decode cX0_read 94 = .ok (.aload_n 0, 1) := dk_42 (dk_at dksX0_read_3 23 rfl rfl)
theorem dX0_read_95 : decode cX0_read 95 = .ok (.getfield 17, 3) := dk_180 0 17 (dk_at dksX0_read_4 0 rfl rfl)
theorem dX0_read_98 : decode cX0_read 98 = .ok (.dup, 1) := dk_89 (dk_at dksX0_read_4 3 rfl rfl)
theorem dX0_read_99 : decode cX0_read 99 = .ok (.getfield 71, 3) := dk_180 0 71 (dk_at dksX0_read_4 4 rfl rfl)
theorem dX0_read_102 : decode cX0_read 102 = .ok (.iconst 1, 1) := dk_4 (dk_at dksX0_read_4 7 rfl rfl)
theorem dX0_read_103 : decode cX0_read 103 = .ok (.iadd, 1) := dk_96 (dk_at dksX0_read_4 8 rfl rfl)
theorem dX0_read_104 : decode cX0_read 104 = .ok (.putfield 71, 3) := dk_181 0 71 (dk_at dksX0_read_4 9 rfl rfl)
theorem dX0_read_107 : decode cX0_read 107 = .ok (.iinc 2 1, 3) := dk_132 2 1 (dk_at dksX0_read_4 12 rfl rfl)
theorem dX0_read_110 : decode cX0_read 110 = .ok (.goto (-48), 3) := dk_167 255 208 (dk_at dksX0_read_4 15 rfl rfl)
theorem dX0_read_113 : decode cX0_read 113 = .ok (.aload_n 0, 1) := dk_42 (dk_at dksX0_read_4 18 rfl rfl)
theorem dX0_read_114 : decode cX0_read 114 = .ok (.getfield 17, 3) := dk_180 0 17 (dk_at dksX0_read_4 19 rfl rfl)
theorem dX0_read_117 : decode cX0_read 117 = .ok (.invokevirtual 109, 3) := dk_182 0 109 (dk_at dksX0_read_5 0 rfl rfl)
theorem dX0_read_120 : decode cX0_read 120 = .ok (.aload_n 1, 1) := dk_43 (dk_at dksX0_read_5 3 rfl rfl)
theorem dX0_read_121 : decode cX0_read 121 = .ok (.getfield 166, 3) := dk_180 0 166 (dk_at dksX0_read_5 4 rfl rfl)
theorem dX0_read_124 : decode cX0_read 124 = .ok (.istore_n 2, 1) := dk_61 (dk_at dksX0_read_5 7 rfl rfl)
theorem dX0_read_125 : decode cX0_read 125 = .ok (.aload_n 0, 1) := dk_42 (dk_at dksX0_read_5 8 rfl rfl)
theorem dX0_read_126 : decode cX0_read 126 = .ok (.iconst 0, 1) := dk_3 (dk_at dksX0_read_5 9 rfl rfl)
theorem dX0_read_127 : decode cX0_read 127 = .ok (.putfield 155, 3) := dk_181 0 155 (dk_at dksX0_read_5 10 rfl rfl)
theorem dX0_read_130 : decode cX0_read 130 = .ok (.iload_n 2, 1) := dk_28 (dk_at dksX0_read_5 13 rfl rfl)
theorem dX0_read_131 : decode cX0_read 131 = .ok (.ireturn, 1) := dk_172 (dk_at dksX0_read_5 14 rfl rfl)
theorem dX0_read_132 : decode cX0_read 132 = .ok (.astore_n 2, 1) := dk_77 (dk_at dksX0_read_5 15 rfl rfl)
theorem dX0_read_133 : decode cX0_read 133 = .ok (.bipush (-10), 2) := dk_16 246 (dk_at dksX0_read_5 16 rfl rfl)
theorem dX0_read_135 : decode cX0_read 135 = .ok (.aload_n 2, 1) := dk_44 (dk_at dksX0_read_5 18 rfl rfl)
theorem dX0_read_136 : decode cX0_read 136 = .ok (.getfield 175, 3) := dk_180 0 175 (dk_at dksX0_read_5 19 rfl rfl)
theorem dX0_read_139 : decode cX0_read 139 = .ok (.isub, 1) := dk_100 (dk_at dksX0_read_5 22 rfl rfl)
theorem dX0_read_140 : decode cX0_read 140 = .ok (.istore_n 3, 1) := dk_62 (dk_at dksX0_read_5 23 rfl rfl)
theorem dX0_read_141 : decode cX0_read 141 = .ok (.aload_n 0, 1) := dk_42 (dk_at dksX0_read_6 0 rfl rfl)
theorem dX0_read_142 : decode cX0_read 142 = .ok (.iconst 0, 1) := dk_3 (dk_at dksX0_read_6 1 rfl rfl)
theorem dX0_read_143 : decode cX0_read 143 = .ok (.putfield 155, 3) := dk_181 0 155 (dk_at dksX0_read_6 2 rfl rfl)
theorem dX0_read_146 : decode cX0_read 146 = .ok (.iload_n 3, 1) := dk_29 (dk_at dksX0_read_6 5 rfl rfl)
theorem dX0_read_147 : decode cX0_read 147 = .ok (.ireturn, 1) := dk_172 (dk_at dksX0_read_6 6 rfl rfl)
theorem dX0_read_148 : decode cX0_read 148 = .ok (.astore 4, 2) := dk_58 4 (dk_at dksX0_read_6 7 rfl rfl)
theorem dX0_read_150 : decode cX0_read 150 = .ok (.aload_n 0, 1) := dk_42 (dk_at dksX0_read_6 9 rfl rfl)
theorem dX0_read_151 : decode cX0_read 151 = .ok (.iconst 0, 1) := dk_3 (dk_at dksX0_read_6 10 rfl rfl)
theorem dX0_read_152 : decode cX0_read 152 = .ok (.putfield 155, 3) := dk_181 0 155 (dk_at dksX0_read_6 11 rfl rfl)
theorem dX0_read_155 : decode cX0_read 155 = .ok (.aload 4, 2) := dk_25 4 (dk_at dksX0_read_6 14 rfl rfl)
theorem dX0_read_157 : decode cX0_read 157 = .ok (.athrow, 1) := dk_191 (dk_at dksX0_read_6 16 rfl rfl)
abbrev cX0_safety : ByteArray := prog_1_method_14_code
def yX0_safety : MethodName := ⟨RX0, "safety", "(I)I"⟩
def dkwX0_safety_2 : List UInt8 := [180, 0, 17, 182, 0, 109, 28, 172]
abbrev dktX0_safety_2 : List UInt8 := dkwX0_safety_2 ++ []
def dkwX0_safety_1 : List UInt8 := [153, 0, 6, 16, 253, 172, 42, 180, 0, 17, 180, 0, 180, 61, 42, 180, 0, 17, 27, 181, 0, 180, 42]
abbrev dktX0_safety_1 : List UInt8 := dkwX0_safety_1 ++ dktX0_safety_2
def dkwX0_safety_0 : List UInt8 := [27, 133, 9, 20, 0, 178, 184, 0, 74, 154, 0, 6, 16, 254, 172, 42, 180, 0, 17, 180, 0, 86]
abbrev dktX0_safety_0 : List UInt8 := dkwX0_safety_0 ++ dktX0_safety_1
theorem dksX0_safety_0 : cX0_safety.data.toList.drop 0 = dktX0_safety_0 := by decide +kernel
theorem dksX0_safety_1 : cX0_safety.data.toList.drop 22 = dktX0_safety_1 := dk_seg dksX0_safety_0 22 rfl rfl
theorem dksX0_safety_2 : cX0_safety.data.toList.drop 45 = dktX0_safety_2 := dk_seg dksX0_safety_1 23 rfl rfl
theorem dX0_safety_0 : decode cX0_safety 0 = .ok (.iload_n 1, 1) := dk_27 (dk_at dksX0_safety_0 0 rfl rfl)
theorem dX0_safety_1 : decode cX0_safety 1 = .ok (.i2l, 1) := dk_133 (dk_at dksX0_safety_0 1 rfl rfl)
theorem dX0_safety_2 : decode cX0_safety 2 = .ok (.lconst 0, 1) := dk_9 (dk_at dksX0_safety_0 2 rfl rfl)
theorem dX0_safety_3 : decode cX0_safety 3 = .ok (.ldc2_w 178, 3) := dk_20 0 178 (dk_at dksX0_safety_0 3 rfl rfl)
theorem dX0_safety_6 : decode cX0_safety 6 = .ok (.invokestatic 74, 3) := dk_184 0 74 (dk_at dksX0_safety_0 6 rfl rfl)
theorem dX0_safety_9 : decode cX0_safety 9 = .ok (.ifCond .ne 6, 3) := dk_154 0 6 (dk_at dksX0_safety_0 9 rfl rfl)
theorem dX0_safety_12 : decode cX0_safety 12 = .ok (.bipush (-2), 2) := dk_16 254 (dk_at dksX0_safety_0 12 rfl rfl)
theorem dX0_safety_14 : decode cX0_safety 14 = .ok (.ireturn, 1) := dk_172 (dk_at dksX0_safety_0 14 rfl rfl)
theorem dX0_safety_15 : decode cX0_safety 15 = .ok (.aload_n 0, 1) := dk_42 (dk_at dksX0_safety_0 15 rfl rfl)
theorem dX0_safety_16 : decode cX0_safety 16 = .ok (.getfield 17, 3) := dk_180 0 17 (dk_at dksX0_safety_0 16 rfl rfl)
theorem dX0_safety_19 : decode cX0_safety 19 = .ok (.getfield 86, 3) := dk_180 0 86 (dk_at dksX0_safety_0 19 rfl rfl)
theorem dX0_safety_22 : decode cX0_safety 22 = .ok (.ifCond .eq 6, 3) := dk_153 0 6 (dk_at dksX0_safety_1 0 rfl rfl)
theorem dX0_safety_25 : decode cX0_safety 25 = .ok (.bipush (-3), 2) := dk_16 253 (dk_at dksX0_safety_1 3 rfl rfl)
theorem dX0_safety_27 : decode cX0_safety 27 = .ok (.ireturn, 1) := dk_172 (dk_at dksX0_safety_1 5 rfl rfl)
theorem dX0_safety_28 : decode cX0_safety 28 = .ok (.aload_n 0, 1) := dk_42 (dk_at dksX0_safety_1 6 rfl rfl)
theorem dX0_safety_29 : decode cX0_safety 29 = .ok (.getfield 17, 3) := dk_180 0 17 (dk_at dksX0_safety_1 7 rfl rfl)
theorem dX0_safety_32 : decode cX0_safety 32 = .ok (.getfield 180, 3) := dk_180 0 180 (dk_at dksX0_safety_1 10 rfl rfl)
theorem dX0_safety_35 : decode cX0_safety 35 = .ok (.istore_n 2, 1) := dk_61 (dk_at dksX0_safety_1 13 rfl rfl)
theorem dX0_safety_36 : decode cX0_safety 36 = .ok (.aload_n 0, 1) := dk_42 (dk_at dksX0_safety_1 14 rfl rfl)
theorem dX0_safety_37 : decode cX0_safety 37 = .ok (.getfield 17, 3) := dk_180 0 17 (dk_at dksX0_safety_1 15 rfl rfl)
theorem dX0_safety_40 : decode cX0_safety 40 = .ok (.iload_n 1, 1) := dk_27 (dk_at dksX0_safety_1 18 rfl rfl)
theorem dX0_safety_41 : decode cX0_safety 41 = .ok (.putfield 180, 3) := dk_181 0 180 (dk_at dksX0_safety_1 19 rfl rfl)
theorem dX0_safety_44 : decode cX0_safety 44 = .ok (.aload_n 0, 1) := dk_42 (dk_at dksX0_safety_1 22 rfl rfl)
theorem dX0_safety_45 : decode cX0_safety 45 = .ok (.getfield 17, 3) := dk_180 0 17 (dk_at dksX0_safety_2 0 rfl rfl)
theorem dX0_safety_48 : decode cX0_safety 48 = .ok (.invokevirtual 109, 3) := dk_182 0 109 (dk_at dksX0_safety_2 3 rfl rfl)
theorem dX0_safety_51 : decode cX0_safety 51 = .ok (.iload_n 2, 1) := dk_28 (dk_at dksX0_safety_2 6 rfl rfl)
theorem dX0_safety_52 : decode cX0_safety 52 = .ok (.ireturn, 1) := dk_172 (dk_at dksX0_safety_2 7 rfl rfl)
abbrev cX0_phase : ByteArray := prog_1_method_16_code
def yX0_phase : MethodName := ⟨RX0, "phase", "(II)I"⟩
def dkwX0_phase_5 : List UInt8 := [180, 0, 17, 180, 0, 125, 4, 100, 172]
abbrev dktX0_phase_5 : List UInt8 := dkwX0_phase_5 ++ []
def dkwX0_phase_4 : List UInt8 := [180, 0, 125, 50, 27, 28, 3, 182, 0, 196, 42, 180, 0, 17, 89, 180, 0, 125, 4, 96, 181, 0, 125, 42]
abbrev dktX0_phase_4 : List UInt8 := dkwX0_phase_4 ++ dktX0_phase_5
def dkwX0_phase_3 : List UInt8 := [180, 0, 125, 16, 6, 160, 0, 6, 16, 252, 172, 42, 180, 0, 17, 180, 0, 192, 42, 180, 0, 17]
abbrev dktX0_phase_3 : List UInt8 := dkwX0_phase_3 ++ dktX0_phase_4
def dkwX0_phase_2 : List UInt8 := [180, 0, 17, 180, 0, 86, 154, 0, 11, 42, 27, 182, 0, 189, 153, 0, 6, 16, 253, 172, 42, 180, 0, 17]
abbrev dktX0_phase_2 : List UInt8 := dkwX0_phase_2 ++ dktX0_phase_3
def dkwX0_phase_1 : List UInt8 := [89, 4, 28, 133, 9, 20, 0, 187, 184, 0, 74, 84, 184, 0, 82, 154, 0, 6, 16, 254, 172, 42]
abbrev dktX0_phase_1 : List UInt8 := dkwX0_phase_1 ++ dktX0_phase_2
def dkwX0_phase_0 : List UInt8 := [5, 188, 4, 89, 3, 27, 133, 10, 4, 42, 180, 0, 17, 180, 0, 71, 120, 4, 100, 133, 184, 0, 74, 84]
abbrev dktX0_phase_0 : List UInt8 := dkwX0_phase_0 ++ dktX0_phase_1
theorem dksX0_phase_0 : cX0_phase.data.toList.drop 0 = dktX0_phase_0 := by decide +kernel
theorem dksX0_phase_1 : cX0_phase.data.toList.drop 24 = dktX0_phase_1 := dk_seg dksX0_phase_0 24 rfl rfl
theorem dksX0_phase_2 : cX0_phase.data.toList.drop 46 = dktX0_phase_2 := dk_seg dksX0_phase_1 22 rfl rfl
theorem dksX0_phase_3 : cX0_phase.data.toList.drop 70 = dktX0_phase_3 := dk_seg dksX0_phase_2 24 rfl rfl
theorem dksX0_phase_4 : cX0_phase.data.toList.drop 92 = dktX0_phase_4 := dk_seg dksX0_phase_3 22 rfl rfl
theorem dksX0_phase_5 : cX0_phase.data.toList.drop 116 = dktX0_phase_5 := dk_seg dksX0_phase_4 24 rfl rfl
theorem dX0_phase_0 : decode cX0_phase 0 = .ok (.iconst 2, 1) := dk_5 (dk_at dksX0_phase_0 0 rfl rfl)
theorem dX0_phase_1 : decode cX0_phase 1 = .ok (.newarray .boolean, 2) := dk_188_4 (dk_at dksX0_phase_0 1 rfl rfl)
theorem dX0_phase_3 : decode cX0_phase 3 = .ok (.dup, 1) := dk_89 (dk_at dksX0_phase_0 3 rfl rfl)
theorem dX0_phase_4 : decode cX0_phase 4 = .ok (.iconst 0, 1) := dk_3 (dk_at dksX0_phase_0 4 rfl rfl)
theorem dX0_phase_5 : decode cX0_phase 5 = .ok (.iload_n 1, 1) := dk_27 (dk_at dksX0_phase_0 5 rfl rfl)
theorem dX0_phase_6 : decode cX0_phase 6 = .ok (.i2l, 1) := dk_133 (dk_at dksX0_phase_0 6 rfl rfl)
theorem dX0_phase_7 : decode cX0_phase 7 = .ok (.lconst 1, 1) := dk_10 (dk_at dksX0_phase_0 7 rfl rfl)
theorem dX0_phase_8 : decode cX0_phase 8 = .ok (.iconst 1, 1) := dk_4 (dk_at dksX0_phase_0 8 rfl rfl)
theorem dX0_phase_9 : decode cX0_phase 9 = .ok (.aload_n 0, 1) := dk_42 (dk_at dksX0_phase_0 9 rfl rfl)
theorem dX0_phase_10 : decode cX0_phase 10 = .ok (.getfield 17, 3) := dk_180 0 17 (dk_at dksX0_phase_0 10 rfl rfl)
theorem dX0_phase_13 : decode cX0_phase 13 = .ok (.getfield 71, 3) := dk_180 0 71 (dk_at dksX0_phase_0 13 rfl rfl)
theorem dX0_phase_16 : decode cX0_phase 16 = .ok (.ishl, 1) := dk_120 (dk_at dksX0_phase_0 16 rfl rfl)
theorem dX0_phase_17 : decode cX0_phase 17 = .ok (.iconst 1, 1) := dk_4 (dk_at dksX0_phase_0 17 rfl rfl)
theorem dX0_phase_18 : decode cX0_phase 18 = .ok (.isub, 1) := dk_100 (dk_at dksX0_phase_0 18 rfl rfl)
theorem dX0_phase_19 : decode cX0_phase 19 = .ok (.i2l, 1) := dk_133 (dk_at dksX0_phase_0 19 rfl rfl)
theorem dX0_phase_20 : decode cX0_phase 20 = .ok (.invokestatic 74, 3) := dk_184 0 74 (dk_at dksX0_phase_0 20 rfl rfl)
theorem dX0_phase_23 : decode cX0_phase 23 = .ok (.bastore, 1) := dk_84 (dk_at dksX0_phase_0 23 rfl rfl)
theorem dX0_phase_24 : decode cX0_phase 24 = .ok (.dup, 1) := dk_89 (dk_at dksX0_phase_1 0 rfl rfl)
theorem dX0_phase_25 : decode cX0_phase 25 = .ok (.iconst 1, 1) := dk_4 (dk_at dksX0_phase_1 1 rfl rfl)
theorem dX0_phase_26 : decode cX0_phase 26 = .ok (.iload_n 2, 1) := dk_28 (dk_at dksX0_phase_1 2 rfl rfl)
theorem dX0_phase_27 : decode cX0_phase 27 = .ok (.i2l, 1) := dk_133 (dk_at dksX0_phase_1 3 rfl rfl)
theorem dX0_phase_28 : decode cX0_phase 28 = .ok (.lconst 0, 1) := dk_9 (dk_at dksX0_phase_1 4 rfl rfl)
theorem dX0_phase_29 : decode cX0_phase 29 = .ok (.ldc2_w 187, 3) := dk_20 0 187 (dk_at dksX0_phase_1 5 rfl rfl)
theorem dX0_phase_32 : decode cX0_phase 32 = .ok (.invokestatic 74, 3) := dk_184 0 74 (dk_at dksX0_phase_1 8 rfl rfl)
theorem dX0_phase_35 : decode cX0_phase 35 = .ok (.bastore, 1) := dk_84 (dk_at dksX0_phase_1 11 rfl rfl)
theorem dX0_phase_36 : decode cX0_phase 36 = .ok (.invokestatic 82, 3) := dk_184 0 82 (dk_at dksX0_phase_1 12 rfl rfl)
theorem dX0_phase_39 : decode cX0_phase 39 = .ok (.ifCond .ne 6, 3) := dk_154 0 6 (dk_at dksX0_phase_1 15 rfl rfl)
theorem dX0_phase_42 : decode cX0_phase 42 = .ok (.bipush (-2), 2) := dk_16 254 (dk_at dksX0_phase_1 18 rfl rfl)
theorem dX0_phase_44 : decode cX0_phase 44 = .ok (.ireturn, 1) := dk_172 (dk_at dksX0_phase_1 20 rfl rfl)
theorem dX0_phase_45 : decode cX0_phase 45 = .ok (.aload_n 0, 1) := dk_42 (dk_at dksX0_phase_1 21 rfl rfl)
theorem dX0_phase_46 : decode cX0_phase 46 = .ok (.getfield 17, 3) := dk_180 0 17 (dk_at dksX0_phase_2 0 rfl rfl)
theorem dX0_phase_49 : decode cX0_phase 49 = .ok (.getfield 86, 3) := dk_180 0 86 (dk_at dksX0_phase_2 3 rfl rfl)
theorem dX0_phase_52 : decode cX0_phase 52 = .ok (.ifCond .ne 11, 3) := dk_154 0 11 (dk_at dksX0_phase_2 6 rfl rfl)
theorem dX0_phase_55 : decode cX0_phase 55 = .ok (.aload_n 0, 1) := dk_42 (dk_at dksX0_phase_2 9 rfl rfl)
theorem dX0_phase_56 : decode cX0_phase 56 = .ok (.iload_n 1, 1) := dk_27 (dk_at dksX0_phase_2 10 rfl rfl)
theorem dX0_phase_57 : decode cX0_phase 57 = .ok (.invokevirtual 189, 3) := dk_182 0 189 (dk_at dksX0_phase_2 11 rfl rfl)
theorem dX0_phase_60 : decode cX0_phase 60 = .ok (.ifCond .eq 6, 3) := dk_153 0 6 (dk_at dksX0_phase_2 14 rfl rfl)
theorem dX0_phase_63 : decode cX0_phase 63 = .ok (.bipush (-3), 2) := dk_16 253 (dk_at dksX0_phase_2 17 rfl rfl)
theorem dX0_phase_65 : decode cX0_phase 65 = .ok (.ireturn, 1) := dk_172 (dk_at dksX0_phase_2 19 rfl rfl)
theorem dX0_phase_66 : decode cX0_phase 66 = .ok (.aload_n 0, 1) := dk_42 (dk_at dksX0_phase_2 20 rfl rfl)
theorem dX0_phase_67 : decode cX0_phase 67 = .ok (.getfield 17, 3) := dk_180 0 17 (dk_at dksX0_phase_2 21 rfl rfl)
theorem dX0_phase_70 : decode cX0_phase 70 = .ok (.getfield 125, 3) := dk_180 0 125 (dk_at dksX0_phase_3 0 rfl rfl)
theorem dX0_phase_73 : decode cX0_phase 73 = .ok (.bipush 6, 2) := dk_16 6 (dk_at dksX0_phase_3 3 rfl rfl)
theorem dX0_phase_75 : decode cX0_phase 75 = .ok (.if_icmp .ne 6, 3) := dk_160 0 6 (dk_at dksX0_phase_3 5 rfl rfl)
theorem dX0_phase_78 : decode cX0_phase 78 = .ok (.bipush (-4), 2) := dk_16 252 (dk_at dksX0_phase_3 8 rfl rfl)
theorem dX0_phase_80 : decode cX0_phase 80 = .ok (.ireturn, 1) := dk_172 (dk_at dksX0_phase_3 10 rfl rfl)
theorem dX0_phase_81 : decode cX0_phase 81 = .ok (.aload_n 0, 1) := dk_42 (dk_at dksX0_phase_3 11 rfl rfl)
theorem dX0_phase_82 : decode cX0_phase 82 = .ok (.getfield 17, 3) := dk_180 0 17 (dk_at dksX0_phase_3 12 rfl rfl)
theorem dX0_phase_85 : decode cX0_phase 85 = .ok (.getfield 192, 3) := dk_180 0 192 (dk_at dksX0_phase_3 15 rfl rfl)
theorem dX0_phase_88 : decode cX0_phase 88 = .ok (.aload_n 0, 1) := dk_42 (dk_at dksX0_phase_3 18 rfl rfl)
theorem dX0_phase_89 : decode cX0_phase 89 = .ok (.getfield 17, 3) := dk_180 0 17 (dk_at dksX0_phase_3 19 rfl rfl)
theorem dX0_phase_92 : decode cX0_phase 92 = .ok (.getfield 125, 3) := dk_180 0 125 (dk_at dksX0_phase_4 0 rfl rfl)
theorem dX0_phase_95 : decode cX0_phase 95 = .ok (.aaload, 1) := dk_50 (dk_at dksX0_phase_4 3 rfl rfl)
theorem dX0_phase_96 : decode cX0_phase 96 = .ok (.iload_n 1, 1) := dk_27 (dk_at dksX0_phase_4 4 rfl rfl)
theorem dX0_phase_97 : decode cX0_phase 97 = .ok (.iload_n 2, 1) := dk_28 (dk_at dksX0_phase_4 5 rfl rfl)
theorem dX0_phase_98 : decode cX0_phase 98 = .ok (.iconst 0, 1) := dk_3 (dk_at dksX0_phase_4 6 rfl rfl)
theorem dX0_phase_99 : decode cX0_phase 99 = .ok (.invokevirtual 196, 3) := dk_182 0 196 (dk_at dksX0_phase_4 7 rfl rfl)
theorem dX0_phase_102 : decode cX0_phase 102 = .ok (.aload_n 0, 1) := dk_42 (dk_at dksX0_phase_4 10 rfl rfl)
theorem dX0_phase_103 : decode cX0_phase 103 = .ok (.getfield 17, 3) := dk_180 0 17 (dk_at dksX0_phase_4 11 rfl rfl)
theorem dX0_phase_106 : decode cX0_phase 106 = .ok (.dup, 1) := dk_89 (dk_at dksX0_phase_4 14 rfl rfl)
theorem dX0_phase_107 : decode cX0_phase 107 = .ok (.getfield 125, 3) := dk_180 0 125 (dk_at dksX0_phase_4 15 rfl rfl)
theorem dX0_phase_110 : decode cX0_phase 110 = .ok (.iconst 1, 1) := dk_4 (dk_at dksX0_phase_4 18 rfl rfl)
theorem dX0_phase_111 : decode cX0_phase 111 = .ok (.iadd, 1) := dk_96 (dk_at dksX0_phase_4 19 rfl rfl)
theorem dX0_phase_112 : decode cX0_phase 112 = .ok (.putfield 125, 3) := dk_181 0 125 (dk_at dksX0_phase_4 20 rfl rfl)
theorem dX0_phase_115 : decode cX0_phase 115 = .ok (.aload_n 0, 1) := dk_42 (dk_at dksX0_phase_4 23 rfl rfl)
theorem dX0_phase_116 : decode cX0_phase 116 = .ok (.getfield 17, 3) := dk_180 0 17 (dk_at dksX0_phase_5 0 rfl rfl)
theorem dX0_phase_119 : decode cX0_phase 119 = .ok (.getfield 125, 3) := dk_180 0 125 (dk_at dksX0_phase_5 3 rfl rfl)
theorem dX0_phase_122 : decode cX0_phase 122 = .ok (.iconst 1, 1) := dk_4 (dk_at dksX0_phase_5 6 rfl rfl)
theorem dX0_phase_123 : decode cX0_phase 123 = .ok (.isub, 1) := dk_100 (dk_at dksX0_phase_5 7 rfl rfl)
theorem dX0_phase_124 : decode cX0_phase 124 = .ok (.ireturn, 1) := dk_172 (dk_at dksX0_phase_5 8 rfl rfl)
abbrev cX0_meetIn : ByteArray := prog_1_method_15_code
def yX0_meetIn : MethodName := ⟨RX0, "meetIn", "(I)Z"⟩
def dkwX0_meetIn_1 : List UInt8 := [180, 0, 17, 28, 182, 0, 183, 27, 126, 153, 0, 5, 4, 172, 132, 2, 1, 167, 255, 218, 3, 172]
abbrev dktX0_meetIn_1 : List UInt8 := dkwX0_meetIn_1 ++ []
def dkwX0_meetIn_0 : List UInt8 := [3, 61, 28, 42, 180, 0, 17, 180, 0, 71, 162, 0, 33, 27, 28, 122, 4, 126, 4, 160, 0, 18, 42]
abbrev dktX0_meetIn_0 : List UInt8 := dkwX0_meetIn_0 ++ dktX0_meetIn_1
theorem dksX0_meetIn_0 : cX0_meetIn.data.toList.drop 0 = dktX0_meetIn_0 := by decide +kernel
theorem dksX0_meetIn_1 : cX0_meetIn.data.toList.drop 23 = dktX0_meetIn_1 := dk_seg dksX0_meetIn_0 23 rfl rfl
theorem dX0_meetIn_0 : decode cX0_meetIn 0 = .ok (.iconst 0, 1) := dk_3 (dk_at dksX0_meetIn_0 0 rfl rfl)
theorem dX0_meetIn_1 : decode cX0_meetIn 1 = .ok (.istore_n 2, 1) := dk_61 (dk_at dksX0_meetIn_0 1 rfl rfl)
theorem dX0_meetIn_2 : decode cX0_meetIn 2 = .ok (.iload_n 2, 1) := dk_28 (dk_at dksX0_meetIn_0 2 rfl rfl)
theorem dX0_meetIn_3 : decode cX0_meetIn 3 = .ok (.aload_n 0, 1) := dk_42 (dk_at dksX0_meetIn_0 3 rfl rfl)
theorem dX0_meetIn_4 : decode cX0_meetIn 4 = .ok (.getfield 17, 3) := dk_180 0 17 (dk_at dksX0_meetIn_0 4 rfl rfl)
theorem dX0_meetIn_7 : decode cX0_meetIn 7 = .ok (.getfield 71, 3) := dk_180 0 71 (dk_at dksX0_meetIn_0 7 rfl rfl)
theorem dX0_meetIn_10 : decode cX0_meetIn 10 = .ok (.if_icmp .ge 33, 3) := dk_162 0 33 (dk_at dksX0_meetIn_0 10 rfl rfl)
theorem dX0_meetIn_13 : decode cX0_meetIn 13 = .ok (.iload_n 1, 1) := dk_27 (dk_at dksX0_meetIn_0 13 rfl rfl)
theorem dX0_meetIn_14 : decode cX0_meetIn 14 = .ok (.iload_n 2, 1) := dk_28 (dk_at dksX0_meetIn_0 14 rfl rfl)
theorem dX0_meetIn_15 : decode cX0_meetIn 15 = .ok (.ishr, 1) := dk_122 (dk_at dksX0_meetIn_0 15 rfl rfl)
theorem dX0_meetIn_16 : decode cX0_meetIn 16 = .ok (.iconst 1, 1) := dk_4 (dk_at dksX0_meetIn_0 16 rfl rfl)
theorem dX0_meetIn_17 : decode cX0_meetIn 17 = .ok (.iand, 1) := dk_126 (dk_at dksX0_meetIn_0 17 rfl rfl)
theorem dX0_meetIn_18 : decode cX0_meetIn 18 = .ok (.iconst 1, 1) := dk_4 (dk_at dksX0_meetIn_0 18 rfl rfl)
theorem dX0_meetIn_19 : decode cX0_meetIn 19 = .ok (.if_icmp .ne 18, 3) := dk_160 0 18 (dk_at dksX0_meetIn_0 19 rfl rfl)
theorem dX0_meetIn_22 : decode cX0_meetIn 22 = .ok (.aload_n 0, 1) := dk_42 (dk_at dksX0_meetIn_0 22 rfl rfl)
theorem dX0_meetIn_23 : decode cX0_meetIn 23 = .ok (.getfield 17, 3) := dk_180 0 17 (dk_at dksX0_meetIn_1 0 rfl rfl)
theorem dX0_meetIn_26 : decode cX0_meetIn 26 = .ok (.iload_n 2, 1) := dk_28 (dk_at dksX0_meetIn_1 3 rfl rfl)
theorem dX0_meetIn_27 : decode cX0_meetIn 27 = .ok (.invokevirtual 183, 3) := dk_182 0 183 (dk_at dksX0_meetIn_1 4 rfl rfl)
theorem dX0_meetIn_30 : decode cX0_meetIn 30 = .ok (.iload_n 1, 1) := dk_27 (dk_at dksX0_meetIn_1 7 rfl rfl)
theorem dX0_meetIn_31 : decode cX0_meetIn 31 = .ok (.iand, 1) := dk_126 (dk_at dksX0_meetIn_1 8 rfl rfl)
theorem dX0_meetIn_32 : decode cX0_meetIn 32 = .ok (.ifCond .eq 5, 3) := dk_153 0 5 (dk_at dksX0_meetIn_1 9 rfl rfl)
theorem dX0_meetIn_35 : decode cX0_meetIn 35 = .ok (.iconst 1, 1) := dk_4 (dk_at dksX0_meetIn_1 12 rfl rfl)
theorem dX0_meetIn_36 : decode cX0_meetIn 36 = .ok (.ireturn, 1) := dk_172 (dk_at dksX0_meetIn_1 13 rfl rfl)
theorem dX0_meetIn_37 : decode cX0_meetIn 37 = .ok (.iinc 2 1, 3) := dk_132 2 1 (dk_at dksX0_meetIn_1 14 rfl rfl)
theorem dX0_meetIn_40 : decode cX0_meetIn 40 = .ok (.goto (-38), 3) := dk_167 255 218 (dk_at dksX0_meetIn_1 17 rfl rfl)
theorem dX0_meetIn_43 : decode cX0_meetIn 43 = .ok (.iconst 0, 1) := dk_3 (dk_at dksX0_meetIn_1 20 rfl rfl)
theorem dX0_meetIn_44 : decode cX0_meetIn 44 = .ok (.ireturn, 1) := dk_172 (dk_at dksX0_meetIn_1 21 rfl rfl)
abbrev cX0_start : ByteArray := prog_1_method_17_code
def yX0_start : MethodName := ⟨RX0, "start", "()I"⟩
def dkwX0_start_2 : List UInt8 := [89, 180, 0, 205, 4, 96, 181, 0, 205, 42, 180, 0, 17, 180, 0, 125, 172]
abbrev dktX0_start_2 : List UInt8 := dkwX0_start_2 ++ []
def dkwX0_start_1 : List UInt8 := [180, 0, 17, 4, 181, 0, 86, 42, 180, 0, 17, 3, 181, 0, 202, 42, 180, 0, 17, 180, 0, 192, 3, 50]
abbrev dktX0_start_1 : List UInt8 := dkwX0_start_1 ++ dktX0_start_2
def dkwX0_start_0 : List UInt8 := [42, 180, 0, 17, 180, 0, 86, 154, 0, 13, 42, 180, 0, 17, 180, 0, 125, 154, 0, 6, 16, 253, 172, 42]
abbrev dktX0_start_0 : List UInt8 := dkwX0_start_0 ++ dktX0_start_1
theorem dksX0_start_0 : cX0_start.data.toList.drop 0 = dktX0_start_0 := by decide +kernel
theorem dksX0_start_1 : cX0_start.data.toList.drop 24 = dktX0_start_1 := dk_seg dksX0_start_0 24 rfl rfl
theorem dksX0_start_2 : cX0_start.data.toList.drop 48 = dktX0_start_2 := dk_seg dksX0_start_1 24 rfl rfl
theorem dX0_start_0 : decode cX0_start 0 = .ok (.aload_n 0, 1) := dk_42 (dk_at dksX0_start_0 0 rfl rfl)
theorem dX0_start_1 : decode cX0_start 1 = .ok (.getfield 17, 3) := dk_180 0 17 (dk_at dksX0_start_0 1 rfl rfl)
theorem dX0_start_4 : decode cX0_start 4 = .ok (.getfield 86, 3) := dk_180 0 86 (dk_at dksX0_start_0 4 rfl rfl)
theorem dX0_start_7 : decode cX0_start 7 = .ok (.ifCond .ne 13, 3) := dk_154 0 13 (dk_at dksX0_start_0 7 rfl rfl)
theorem dX0_start_10 : decode cX0_start 10 = .ok (.aload_n 0, 1) := dk_42 (dk_at dksX0_start_0 10 rfl rfl)
theorem dX0_start_11 : decode cX0_start 11 = .ok (.getfield 17, 3) := dk_180 0 17 (dk_at dksX0_start_0 11 rfl rfl)
theorem dX0_start_14 : decode cX0_start 14 = .ok (.getfield 125, 3) := dk_180 0 125 (dk_at dksX0_start_0 14 rfl rfl)
theorem dX0_start_17 : decode cX0_start 17 = .ok (.ifCond .ne 6, 3) := dk_154 0 6 (dk_at dksX0_start_0 17 rfl rfl)
theorem dX0_start_20 : decode cX0_start 20 = .ok (.bipush (-3), 2) := dk_16 253 (dk_at dksX0_start_0 20 rfl rfl)
theorem dX0_start_22 : decode cX0_start 22 = .ok (.ireturn, 1) := dk_172 (dk_at dksX0_start_0 22 rfl rfl)
theorem dX0_start_23 : decode cX0_start 23 = .ok (.aload_n 0, 1) := dk_42 (dk_at dksX0_start_0 23 rfl rfl)
theorem dX0_start_24 : decode cX0_start 24 = .ok (.getfield 17, 3) := dk_180 0 17 (dk_at dksX0_start_1 0 rfl rfl)
theorem dX0_start_27 : decode cX0_start 27 = .ok (.iconst 1, 1) := dk_4 (dk_at dksX0_start_1 3 rfl rfl)
theorem dX0_start_28 : decode cX0_start 28 = .ok (.putfield 86, 3) := dk_181 0 86 (dk_at dksX0_start_1 4 rfl rfl)
theorem dX0_start_31 : decode cX0_start 31 = .ok (.aload_n 0, 1) := dk_42 (dk_at dksX0_start_1 7 rfl rfl)
theorem dX0_start_32 : decode cX0_start 32 = .ok (.getfield 17, 3) := dk_180 0 17 (dk_at dksX0_start_1 8 rfl rfl)
theorem dX0_start_35 : decode cX0_start 35 = .ok (.iconst 0, 1) := dk_3 (dk_at dksX0_start_1 11 rfl rfl)
theorem dX0_start_36 : decode cX0_start 36 = .ok (.putfield 202, 3) := dk_181 0 202 (dk_at dksX0_start_1 12 rfl rfl)
theorem dX0_start_39 : decode cX0_start 39 = .ok (.aload_n 0, 1) := dk_42 (dk_at dksX0_start_1 15 rfl rfl)
theorem dX0_start_40 : decode cX0_start 40 = .ok (.getfield 17, 3) := dk_180 0 17 (dk_at dksX0_start_1 16 rfl rfl)
theorem dX0_start_43 : decode cX0_start 43 = .ok (.getfield 192, 3) := dk_180 0 192 (dk_at dksX0_start_1 19 rfl rfl)
theorem dX0_start_46 : decode cX0_start 46 = .ok (.iconst 0, 1) := dk_3 (dk_at dksX0_start_1 22 rfl rfl)
theorem dX0_start_47 : decode cX0_start 47 = .ok (.aaload, 1) := dk_50 (dk_at dksX0_start_1 23 rfl rfl)
theorem dX0_start_48 : decode cX0_start 48 = .ok (.dup, 1) := dk_89 (dk_at dksX0_start_2 0 rfl rfl)
theorem dX0_start_49 : decode cX0_start 49 = .ok (.getfield 205, 3) := dk_180 0 205 (dk_at dksX0_start_2 1 rfl rfl)
theorem dX0_start_52 : decode cX0_start 52 = .ok (.iconst 1, 1) := dk_4 (dk_at dksX0_start_2 4 rfl rfl)
theorem dX0_start_53 : decode cX0_start 53 = .ok (.iadd, 1) := dk_96 (dk_at dksX0_start_2 5 rfl rfl)
theorem dX0_start_54 : decode cX0_start 54 = .ok (.putfield 205, 3) := dk_181 0 205 (dk_at dksX0_start_2 6 rfl rfl)
theorem dX0_start_57 : decode cX0_start 57 = .ok (.aload_n 0, 1) := dk_42 (dk_at dksX0_start_2 9 rfl rfl)
theorem dX0_start_58 : decode cX0_start 58 = .ok (.getfield 17, 3) := dk_180 0 17 (dk_at dksX0_start_2 10 rfl rfl)
theorem dX0_start_61 : decode cX0_start 61 = .ok (.getfield 125, 3) := dk_180 0 125 (dk_at dksX0_start_2 13 rfl rfl)
theorem dX0_start_64 : decode cX0_start 64 = .ok (.ireturn, 1) := dk_172 (dk_at dksX0_start_2 16 rfl rfl)
abbrev cX0_cycle : ByteArray := prog_1_method_18_code
def yX0_cycle : MethodName := ⟨RX0, "cycle", "(III)I"⟩
def dkwX0_cycle_4 : List UInt8 := [167, 0, 4, 29, 181, 0, 218, 21, 4, 172]
abbrev dktX0_cycle_4 : List UInt8 := dkwX0_cycle_4 ++ []
def dkwX0_cycle_3 : List UInt8 := [180, 0, 17, 27, 154, 0, 7, 3, 167, 0, 4, 28, 181, 0, 215, 42, 180, 0, 17, 27, 154, 0, 7, 3]
abbrev dktX0_cycle_3 : List UInt8 := dkwX0_cycle_3 ++ dktX0_cycle_4
def dkwX0_cycle_2 : List UInt8 := [154, 0, 6, 16, 254, 172, 42, 180, 0, 17, 180, 0, 212, 54, 4, 42, 180, 0, 17, 27, 181, 0, 212, 42]
abbrev dktX0_cycle_2 : List UInt8 := dkwX0_cycle_2 ++ dktX0_cycle_3
def dkwX0_cycle_1 : List UInt8 := [133, 9, 27, 4, 100, 133, 184, 0, 74, 84, 89, 5, 29, 133, 10, 27, 133, 184, 0, 74, 84, 184, 0, 82]
abbrev dktX0_cycle_1 : List UInt8 := dkwX0_cycle_1 ++ dktX0_cycle_2
def dkwX0_cycle_0 : List UInt8 := [27, 153, 0, 53, 6, 188, 4, 89, 3, 27, 133, 20, 0, 208, 20, 0, 210, 184, 0, 74, 84, 89, 4, 28]
abbrev dktX0_cycle_0 : List UInt8 := dkwX0_cycle_0 ++ dktX0_cycle_1
theorem dksX0_cycle_0 : cX0_cycle.data.toList.drop 0 = dktX0_cycle_0 := by decide +kernel
theorem dksX0_cycle_1 : cX0_cycle.data.toList.drop 24 = dktX0_cycle_1 := dk_seg dksX0_cycle_0 24 rfl rfl
theorem dksX0_cycle_2 : cX0_cycle.data.toList.drop 48 = dktX0_cycle_2 := dk_seg dksX0_cycle_1 24 rfl rfl
theorem dksX0_cycle_3 : cX0_cycle.data.toList.drop 72 = dktX0_cycle_3 := dk_seg dksX0_cycle_2 24 rfl rfl
theorem dksX0_cycle_4 : cX0_cycle.data.toList.drop 96 = dktX0_cycle_4 := dk_seg dksX0_cycle_3 24 rfl rfl
theorem dX0_cycle_0 : decode cX0_cycle 0 = .ok (.iload_n 1, 1) := dk_27 (dk_at dksX0_cycle_0 0 rfl rfl)
theorem dX0_cycle_1 : decode cX0_cycle 1 = .ok (.ifCond .eq 53, 3) := dk_153 0 53 (dk_at dksX0_cycle_0 1 rfl rfl)
theorem dX0_cycle_4 : decode cX0_cycle 4 = .ok (.iconst 3, 1) := dk_6 (dk_at dksX0_cycle_0 4 rfl rfl)
theorem dX0_cycle_5 : decode cX0_cycle 5 = .ok (.newarray .boolean, 2) := dk_188_4 (dk_at dksX0_cycle_0 5 rfl rfl)
theorem dX0_cycle_7 : decode cX0_cycle 7 = .ok (.dup, 1) := dk_89 (dk_at dksX0_cycle_0 7 rfl rfl)
theorem dX0_cycle_8 : decode cX0_cycle 8 = .ok (.iconst 0, 1) := dk_3 (dk_at dksX0_cycle_0 8 rfl rfl)
theorem dX0_cycle_9 : decode cX0_cycle 9 = .ok (.iload_n 1, 1) := dk_27 (dk_at dksX0_cycle_0 9 rfl rfl)
theorem dX0_cycle_10 : decode cX0_cycle 10 = .ok (.i2l, 1) := dk_133 (dk_at dksX0_cycle_0 10 rfl rfl)
theorem dX0_cycle_11 : decode cX0_cycle 11 = .ok (.ldc2_w 208, 3) := dk_20 0 208 (dk_at dksX0_cycle_0 11 rfl rfl)
theorem dX0_cycle_14 : decode cX0_cycle 14 = .ok (.ldc2_w 210, 3) := dk_20 0 210 (dk_at dksX0_cycle_0 14 rfl rfl)
theorem dX0_cycle_17 : decode cX0_cycle 17 = .ok (.invokestatic 74, 3) := dk_184 0 74 (dk_at dksX0_cycle_0 17 rfl rfl)
theorem dX0_cycle_20 : decode cX0_cycle 20 = .ok (.bastore, 1) := dk_84 (dk_at dksX0_cycle_0 20 rfl rfl)
theorem dX0_cycle_21 : decode cX0_cycle 21 = .ok (.dup, 1) := dk_89 (dk_at dksX0_cycle_0 21 rfl rfl)
theorem dX0_cycle_22 : decode cX0_cycle 22 = .ok (.iconst 1, 1) := dk_4 (dk_at dksX0_cycle_0 22 rfl rfl)
theorem dX0_cycle_23 : decode cX0_cycle 23 = .ok (.iload_n 2, 1) := dk_28 (dk_at dksX0_cycle_0 23 rfl rfl)
theorem dX0_cycle_24 : decode cX0_cycle 24 = .ok (.i2l, 1) := dk_133 (dk_at dksX0_cycle_1 0 rfl rfl)
theorem dX0_cycle_25 : decode cX0_cycle 25 = .ok (.lconst 0, 1) := dk_9 (dk_at dksX0_cycle_1 1 rfl rfl)
theorem dX0_cycle_26 : decode cX0_cycle 26 = .ok (.iload_n 1, 1) := dk_27 (dk_at dksX0_cycle_1 2 rfl rfl)
theorem dX0_cycle_27 : decode cX0_cycle 27 = .ok (.iconst 1, 1) := dk_4 (dk_at dksX0_cycle_1 3 rfl rfl)
theorem dX0_cycle_28 : decode cX0_cycle 28 = .ok (.isub, 1) := dk_100 (dk_at dksX0_cycle_1 4 rfl rfl)
theorem dX0_cycle_29 : decode cX0_cycle 29 = .ok (.i2l, 1) := dk_133 (dk_at dksX0_cycle_1 5 rfl rfl)
theorem dX0_cycle_30 : decode cX0_cycle 30 = .ok (.invokestatic 74, 3) := dk_184 0 74 (dk_at dksX0_cycle_1 6 rfl rfl)
theorem dX0_cycle_33 : decode cX0_cycle 33 = .ok (.bastore, 1) := dk_84 (dk_at dksX0_cycle_1 9 rfl rfl)
theorem dX0_cycle_34 : decode cX0_cycle 34 = .ok (.dup, 1) := dk_89 (dk_at dksX0_cycle_1 10 rfl rfl)
theorem dX0_cycle_35 : decode cX0_cycle 35 = .ok (.iconst 2, 1) := dk_5 (dk_at dksX0_cycle_1 11 rfl rfl)
theorem dX0_cycle_36 : decode cX0_cycle 36 = .ok (.iload_n 3, 1) := dk_29 (dk_at dksX0_cycle_1 12 rfl rfl)
theorem dX0_cycle_37 : decode cX0_cycle 37 = .ok (.i2l, 1) := dk_133 (dk_at dksX0_cycle_1 13 rfl rfl)
theorem dX0_cycle_38 : decode cX0_cycle 38 = .ok (.lconst 1, 1) := dk_10 (dk_at dksX0_cycle_1 14 rfl rfl)
theorem dX0_cycle_39 : decode cX0_cycle 39 = .ok (.iload_n 1, 1) := dk_27 (dk_at dksX0_cycle_1 15 rfl rfl)
theorem dX0_cycle_40 : decode cX0_cycle 40 = .ok (.i2l, 1) := dk_133 (dk_at dksX0_cycle_1 16 rfl rfl)
theorem dX0_cycle_41 : decode cX0_cycle 41 = .ok (.invokestatic 74, 3) := dk_184 0 74 (dk_at dksX0_cycle_1 17 rfl rfl)
theorem dX0_cycle_44 : decode cX0_cycle 44 = .ok (.bastore, 1) := dk_84 (dk_at dksX0_cycle_1 20 rfl rfl)
theorem dX0_cycle_45 : decode cX0_cycle 45 = .ok (.invokestatic 82, 3) := dk_184 0 82 (dk_at dksX0_cycle_1 21 rfl rfl)
theorem dX0_cycle_48 : decode cX0_cycle 48 = .ok (.ifCond .ne 6, 3) := dk_154 0 6 (dk_at dksX0_cycle_2 0 rfl rfl)
theorem dX0_cycle_51 : decode cX0_cycle 51 = .ok (.bipush (-2), 2) := dk_16 254 (dk_at dksX0_cycle_2 3 rfl rfl)
theorem dX0_cycle_53 : decode cX0_cycle 53 = .ok (.ireturn, 1) := dk_172 (dk_at dksX0_cycle_2 5 rfl rfl)
theorem dX0_cycle_54 : decode cX0_cycle 54 = .ok (.aload_n 0, 1) := dk_42 (dk_at dksX0_cycle_2 6 rfl rfl)
theorem dX0_cycle_55 : decode cX0_cycle 55 = .ok (.getfield 17, 3) := dk_180 0 17 (dk_at dksX0_cycle_2 7 rfl rfl)
theorem dX0_cycle_58 : decode cX0_cycle 58 = .ok (.getfield 212, 3) := dk_180 0 212 (dk_at dksX0_cycle_2 10 rfl rfl)
theorem dX0_cycle_61 : decode cX0_cycle 61 = .ok (.istore 4, 2) := dk_54 4 (dk_at dksX0_cycle_2 13 rfl rfl)
theorem dX0_cycle_63 : decode cX0_cycle 63 = .ok (.aload_n 0, 1) := dk_42 (dk_at dksX0_cycle_2 15 rfl rfl)
theorem dX0_cycle_64 : decode cX0_cycle 64 = .ok (.getfield 17, 3) := dk_180 0 17 (dk_at dksX0_cycle_2 16 rfl rfl)
theorem dX0_cycle_67 : decode cX0_cycle 67 = .ok (.iload_n 1, 1) := dk_27 (dk_at dksX0_cycle_2 19 rfl rfl)
theorem dX0_cycle_68 : decode cX0_cycle 68 = .ok (.putfield 212, 3) := dk_181 0 212 (dk_at dksX0_cycle_2 20 rfl rfl)
theorem dX0_cycle_71 : decode cX0_cycle 71 = .ok (.aload_n 0, 1) := dk_42 (dk_at dksX0_cycle_2 23 rfl rfl)
theorem dX0_cycle_72 : decode cX0_cycle 72 = .ok (.getfield 17, 3) := dk_180 0 17 (dk_at dksX0_cycle_3 0 rfl rfl)
theorem dX0_cycle_75 : decode cX0_cycle 75 = .ok (.iload_n 1, 1) := dk_27 (dk_at dksX0_cycle_3 3 rfl rfl)
theorem dX0_cycle_76 : decode cX0_cycle 76 = .ok (.ifCond .ne 7, 3) := dk_154 0 7 (dk_at dksX0_cycle_3 4 rfl rfl)
theorem dX0_cycle_79 : decode cX0_cycle 79 = .ok (.iconst 0, 1) := dk_3 (dk_at dksX0_cycle_3 7 rfl rfl)
theorem dX0_cycle_80 : decode cX0_cycle 80 = .ok (.goto 4, 3) := dk_167 0 4 (dk_at dksX0_cycle_3 8 rfl rfl)
theorem dX0_cycle_83 : decode cX0_cycle 83 = .ok (.iload_n 2, 1) := dk_28 (dk_at dksX0_cycle_3 11 rfl rfl)
theorem dX0_cycle_84 : decode cX0_cycle 84 = .ok (.putfield 215, 3) := dk_181 0 215 (dk_at dksX0_cycle_3 12 rfl rfl)
theorem dX0_cycle_87 : decode cX0_cycle 87 = .ok (.aload_n 0, 1) := dk_42 (dk_at dksX0_cycle_3 15 rfl rfl)
theorem dX0_cycle_88 : decode cX0_cycle 88 = .ok (.getfield 17, 3) := dk_180 0 17 (dk_at dksX0_cycle_3 16 rfl rfl)
theorem dX0_cycle_91 : decode cX0_cycle 91 = .ok (.iload_n 1, 1) := dk_27 (dk_at dksX0_cycle_3 19 rfl rfl)
theorem dX0_cycle_92 : decode cX0_cycle 92 = .ok (.ifCond .ne 7, 3) := dk_154 0 7 (dk_at dksX0_cycle_3 20 rfl rfl)
theorem dX0_cycle_95 : decode cX0_cycle 95 = .ok (.iconst 0, 1) := dk_3 (dk_at dksX0_cycle_3 23 rfl rfl)
theorem dX0_cycle_96 : decode cX0_cycle 96 = .ok (.goto 4, 3) := dk_167 0 4 (dk_at dksX0_cycle_4 0 rfl rfl)
theorem dX0_cycle_99 : decode cX0_cycle 99 = .ok (.iload_n 3, 1) := dk_29 (dk_at dksX0_cycle_4 3 rfl rfl)
theorem dX0_cycle_100 : decode cX0_cycle 100 = .ok (.putfield 218, 3) := dk_181 0 218 (dk_at dksX0_cycle_4 4 rfl rfl)
theorem dX0_cycle_103 : decode cX0_cycle 103 = .ok (.iload 4, 2) := dk_21 4 (dk_at dksX0_cycle_4 7 rfl rfl)
theorem dX0_cycle_105 : decode cX0_cycle 105 = .ok (.ireturn, 1) := dk_172 (dk_at dksX0_cycle_4 9 rfl rfl)
abbrev cX0_come : ByteArray := prog_1_method_19_code
def yX0_come : MethodName := ⟨RX0, "come", "(II)I"⟩
def dkwX0_come_3 : List UInt8 := [180, 0, 221, 172]
abbrev dktX0_come_3 : List UInt8 := dkwX0_come_3 ++ []
def dkwX0_come_2 : List UInt8 := [45, 21, 4, 182, 0, 224, 42, 180, 0, 17, 89, 180, 0, 227, 28, 21, 4, 100, 96, 181, 0, 227, 45]
abbrev dktX0_come_2 : List UInt8 := dkwX0_come_2 ++ dktX0_come_3
def dkwX0_come_1 : List UInt8 := [172, 42, 180, 0, 17, 180, 0, 90, 27, 50, 78, 28, 16, 99, 45, 180, 0, 221, 100, 184, 0, 135, 54, 4]
abbrev dktX0_come_1 : List UInt8 := dkwX0_come_1 ++ dktX0_come_2
def dkwX0_come_0 : List UInt8 := [42, 27, 182, 0, 112, 154, 0, 5, 2, 172, 28, 133, 10, 20, 0, 208, 184, 0, 74, 154, 0, 6, 16, 254]
abbrev dktX0_come_0 : List UInt8 := dkwX0_come_0 ++ dktX0_come_1
theorem dksX0_come_0 : cX0_come.data.toList.drop 0 = dktX0_come_0 := by decide +kernel
theorem dksX0_come_1 : cX0_come.data.toList.drop 24 = dktX0_come_1 := dk_seg dksX0_come_0 24 rfl rfl
theorem dksX0_come_2 : cX0_come.data.toList.drop 48 = dktX0_come_2 := dk_seg dksX0_come_1 24 rfl rfl
theorem dksX0_come_3 : cX0_come.data.toList.drop 71 = dktX0_come_3 := dk_seg dksX0_come_2 23 rfl rfl
theorem dX0_come_0 : decode cX0_come 0 = .ok (.aload_n 0, 1) := dk_42 (dk_at dksX0_come_0 0 rfl rfl)
theorem dX0_come_1 : decode cX0_come 1 = .ok (.iload_n 1, 1) := dk_27 (dk_at dksX0_come_0 1 rfl rfl)
theorem dX0_come_2 : decode cX0_come 2 = .ok (.invokevirtual 112, 3) := dk_182 0 112 (dk_at dksX0_come_0 2 rfl rfl)
theorem dX0_come_5 : decode cX0_come 5 = .ok (.ifCond .ne 5, 3) := dk_154 0 5 (dk_at dksX0_come_0 5 rfl rfl)
theorem dX0_come_8 : decode cX0_come 8 = .ok (.iconst (-1), 1) := dk_2 (dk_at dksX0_come_0 8 rfl rfl)
theorem dX0_come_9 : decode cX0_come 9 = .ok (.ireturn, 1) := dk_172 (dk_at dksX0_come_0 9 rfl rfl)
theorem dX0_come_10 : decode cX0_come 10 = .ok (.iload_n 2, 1) := dk_28 (dk_at dksX0_come_0 10 rfl rfl)
theorem dX0_come_11 : decode cX0_come 11 = .ok (.i2l, 1) := dk_133 (dk_at dksX0_come_0 11 rfl rfl)
theorem dX0_come_12 : decode cX0_come 12 = .ok (.lconst 1, 1) := dk_10 (dk_at dksX0_come_0 12 rfl rfl)
theorem dX0_come_13 : decode cX0_come 13 = .ok (.ldc2_w 208, 3) := dk_20 0 208 (dk_at dksX0_come_0 13 rfl rfl)
theorem dX0_come_16 : decode cX0_come 16 = .ok (.invokestatic 74, 3) := dk_184 0 74 (dk_at dksX0_come_0 16 rfl rfl)
theorem dX0_come_19 : decode cX0_come 19 = .ok (.ifCond .ne 6, 3) := dk_154 0 6 (dk_at dksX0_come_0 19 rfl rfl)
theorem dX0_come_22 : decode cX0_come 22 = .ok (.bipush (-2), 2) := dk_16 254 (dk_at dksX0_come_0 22 rfl rfl)
theorem dX0_come_24 : decode cX0_come 24 = .ok (.ireturn, 1) := dk_172 (dk_at dksX0_come_1 0 rfl rfl)
theorem dX0_come_25 : decode cX0_come 25 = .ok (.aload_n 0, 1) := dk_42 (dk_at dksX0_come_1 1 rfl rfl)
theorem dX0_come_26 : decode cX0_come 26 = .ok (.getfield 17, 3) := dk_180 0 17 (dk_at dksX0_come_1 2 rfl rfl)
theorem dX0_come_29 : decode cX0_come 29 = .ok (.getfield 90, 3) := dk_180 0 90 (dk_at dksX0_come_1 5 rfl rfl)
theorem dX0_come_32 : decode cX0_come 32 = .ok (.iload_n 1, 1) := dk_27 (dk_at dksX0_come_1 8 rfl rfl)
theorem dX0_come_33 : decode cX0_come 33 = .ok (.aaload, 1) := dk_50 (dk_at dksX0_come_1 9 rfl rfl)
theorem dX0_come_34 : decode cX0_come 34 = .ok (.astore_n 3, 1) := dk_78 (dk_at dksX0_come_1 10 rfl rfl)
theorem dX0_come_35 : decode cX0_come 35 = .ok (.iload_n 2, 1) := dk_28 (dk_at dksX0_come_1 11 rfl rfl)
theorem dX0_come_36 : decode cX0_come 36 = .ok (.bipush 99, 2) := dk_16 99 (dk_at dksX0_come_1 12 rfl rfl)
theorem dX0_come_38 : decode cX0_come 38 = .ok (.aload_n 3, 1) := dk_45 (dk_at dksX0_come_1 14 rfl rfl)
theorem dX0_come_39 : decode cX0_come 39 = .ok (.getfield 221, 3) := dk_180 0 221 (dk_at dksX0_come_1 15 rfl rfl)
theorem dX0_come_42 : decode cX0_come 42 = .ok (.isub, 1) := dk_100 (dk_at dksX0_come_1 18 rfl rfl)
theorem dX0_come_43 : decode cX0_come 43 = .ok (.invokestatic 135, 3) := dk_184 0 135 (dk_at dksX0_come_1 19 rfl rfl)
theorem dX0_come_46 : decode cX0_come 46 = .ok (.istore 4, 2) := dk_54 4 (dk_at dksX0_come_1 22 rfl rfl)
theorem dX0_come_48 : decode cX0_come 48 = .ok (.aload_n 3, 1) := dk_45 (dk_at dksX0_come_2 0 rfl rfl)
theorem dX0_come_49 : decode cX0_come 49 = .ok (.iload 4, 2) := dk_21 4 (dk_at dksX0_come_2 1 rfl rfl)
theorem dX0_come_51 : decode cX0_come 51 = .ok (.invokevirtual 224, 3) := dk_182 0 224 (dk_at dksX0_come_2 3 rfl rfl)
theorem dX0_come_54 : decode cX0_come 54 = .ok (.aload_n 0, 1) := dk_42 (dk_at dksX0_come_2 6 rfl rfl)
theorem dX0_come_55 : decode cX0_come 55 = .ok (.getfield 17, 3) := dk_180 0 17 (dk_at dksX0_come_2 7 rfl rfl)
theorem dX0_come_58 : decode cX0_come 58 = .ok (.dup, 1) := dk_89 (dk_at dksX0_come_2 10 rfl rfl)
theorem dX0_come_59 : decode cX0_come 59 = .ok (.getfield 227, 3) := dk_180 0 227 (dk_at dksX0_come_2 11 rfl rfl)
theorem dX0_come_62 : decode cX0_come 62 = .ok (.iload_n 2, 1) := dk_28 (dk_at dksX0_come_2 14 rfl rfl)
theorem dX0_come_63 : decode cX0_come 63 = .ok (.iload 4, 2) := dk_21 4 (dk_at dksX0_come_2 15 rfl rfl)
theorem dX0_come_65 : decode cX0_come 65 = .ok (.isub, 1) := dk_100 (dk_at dksX0_come_2 17 rfl rfl)
theorem dX0_come_66 : decode cX0_come 66 = .ok (.iadd, 1) := dk_96 (dk_at dksX0_come_2 18 rfl rfl)
theorem dX0_come_67 : decode cX0_come 67 = .ok (.putfield 227, 3) := dk_181 0 227 (dk_at dksX0_come_2 19 rfl rfl)
theorem dX0_come_70 : decode cX0_come 70 = .ok (.aload_n 3, 1) := dk_45 (dk_at dksX0_come_2 22 rfl rfl)
theorem dX0_come_71 : decode cX0_come 71 = .ok (.getfield 221, 3) := dk_180 0 221 (dk_at dksX0_come_3 0 rfl rfl)
theorem dX0_come_74 : decode cX0_come 74 = .ok (.ireturn, 1) := dk_172 (dk_at dksX0_come_3 3 rfl rfl)
abbrev cX0_seed : ByteArray := prog_1_method_20_code
def yX0_seed : MethodName := ⟨RX0, "seed", "(I)I"⟩
def dkwX0_seed_0 : List UInt8 := [42, 180, 0, 17, 180, 0, 230, 61, 42, 180, 0, 17, 27, 181, 0, 230, 28, 172]
abbrev dktX0_seed_0 : List UInt8 := dkwX0_seed_0 ++ []
theorem dksX0_seed_0 : cX0_seed.data.toList.drop 0 = dktX0_seed_0 := by decide +kernel
theorem dX0_seed_0 : decode cX0_seed 0 = .ok (.aload_n 0, 1) := dk_42 (dk_at dksX0_seed_0 0 rfl rfl)
theorem dX0_seed_1 : decode cX0_seed 1 = .ok (.getfield 17, 3) := dk_180 0 17 (dk_at dksX0_seed_0 1 rfl rfl)
theorem dX0_seed_4 : decode cX0_seed 4 = .ok (.getfield 230, 3) := dk_180 0 230 (dk_at dksX0_seed_0 4 rfl rfl)
theorem dX0_seed_7 : decode cX0_seed 7 = .ok (.istore_n 2, 1) := dk_61 (dk_at dksX0_seed_0 7 rfl rfl)
theorem dX0_seed_8 : decode cX0_seed 8 = .ok (.aload_n 0, 1) := dk_42 (dk_at dksX0_seed_0 8 rfl rfl)
theorem dX0_seed_9 : decode cX0_seed 9 = .ok (.getfield 17, 3) := dk_180 0 17 (dk_at dksX0_seed_0 9 rfl rfl)
theorem dX0_seed_12 : decode cX0_seed 12 = .ok (.iload_n 1, 1) := dk_27 (dk_at dksX0_seed_0 12 rfl rfl)
theorem dX0_seed_13 : decode cX0_seed 13 = .ok (.putfield 230, 3) := dk_181 0 230 (dk_at dksX0_seed_0 13 rfl rfl)
theorem dX0_seed_16 : decode cX0_seed 16 = .ok (.iload_n 2, 1) := dk_28 (dk_at dksX0_seed_0 16 rfl rfl)
theorem dX0_seed_17 : decode cX0_seed 17 = .ok (.ireturn, 1) := dk_172 (dk_at dksX0_seed_0 17 rfl rfl)
abbrev cX0_emergency : ByteArray := prog_1_method_21_code
def yX0_emergency : MethodName := ⟨RX0, "emergency", "(I)I"⟩
def dkwX0_emergency_3 : List UInt8 := [16, 253, 172, 42, 180, 0, 17, 27, 182, 0, 239, 42, 180, 0, 17, 27, 182, 0, 236, 172]
abbrev dktX0_emergency_3 : List UInt8 := dkwX0_emergency_3 ++ []
def dkwX0_emergency_2 : List UInt8 := [180, 0, 17, 27, 182, 0, 236, 16, 251, 159, 0, 7, 4, 167, 0, 4, 3, 84, 184, 0, 82, 154, 0, 6]
abbrev dktX0_emergency_2 : List UInt8 := dkwX0_emergency_2 ++ dktX0_emergency_3
def dkwX0_emergency_1 : List UInt8 := [4, 42, 180, 0, 17, 180, 0, 233, 16, 251, 160, 0, 7, 4, 167, 0, 4, 3, 84, 89, 5, 42]
abbrev dktX0_emergency_1 : List UInt8 := dkwX0_emergency_1 ++ dktX0_emergency_2
def dkwX0_emergency_0 : List UInt8 := [42, 27, 182, 0, 112, 154, 0, 5, 2, 172, 6, 188, 4, 89, 3, 42, 180, 0, 17, 180, 0, 86, 84, 89]
abbrev dktX0_emergency_0 : List UInt8 := dkwX0_emergency_0 ++ dktX0_emergency_1
theorem dksX0_emergency_0 : cX0_emergency.data.toList.drop 0 = dktX0_emergency_0 := by decide +kernel
theorem dksX0_emergency_1 : cX0_emergency.data.toList.drop 24 = dktX0_emergency_1 := dk_seg dksX0_emergency_0 24 rfl rfl
theorem dksX0_emergency_2 : cX0_emergency.data.toList.drop 46 = dktX0_emergency_2 := dk_seg dksX0_emergency_1 22 rfl rfl
theorem dksX0_emergency_3 : cX0_emergency.data.toList.drop 70 = dktX0_emergency_3 := dk_seg dksX0_emergency_2 24 rfl rfl
theorem dX0_emergency_0 : decode cX0_emergency 0 = .ok (.aload_n 0, 1) := dk_42 (dk_at dksX0_emergency_0 0 rfl rfl)
theorem dX0_emergency_1 : decode cX0_emergency 1 = .ok (.iload_n 1, 1) := dk_27 (dk_at dksX0_emergency_0 1 rfl rfl)
theorem dX0_emergency_2 : decode cX0_emergency 2 = .ok (.invokevirtual 112, 3) := dk_182 0 112 (dk_at dksX0_emergency_0 2 rfl rfl)
theorem dX0_emergency_5 : decode cX0_emergency 5 = .ok (.ifCond .ne 5, 3) := dk_154 0 5 (dk_at dksX0_emergency_0 5 rfl rfl)
theorem dX0_emergency_8 : decode cX0_emergency 8 = .ok (.iconst (-1), 1) := dk_2 (dk_at dksX0_emergency_0 8 rfl rfl)
theorem dX0_emergency_9 : decode cX0_emergency 9 = .ok (.ireturn, 1) := dk_172 (dk_at dksX0_emergency_0 9 rfl rfl)
theorem dX0_emergency_10 : decode cX0_emergency 10 = .ok (.iconst 3, 1) := dk_6 (dk_at dksX0_emergency_0 10 rfl rfl)
theorem dX0_emergency_11 : decode cX0_emergency 11 = .ok (.newarray .boolean, 2) := dk_188_4 (dk_at dksX0_emergency_0 11 rfl rfl)
theorem dX0_emergency_13 : decode cX0_emergency 13 = .ok (.dup, 1) := dk_89 (dk_at dksX0_emergency_0 13 rfl rfl)
theorem dX0_emergency_14 : decode cX0_emergency 14 = .ok (.iconst 0, 1) := dk_3 (dk_at dksX0_emergency_0 14 rfl rfl)
theorem dX0_emergency_15 : decode cX0_emergency 15 = .ok (.aload_n 0, 1) := dk_42 (dk_at dksX0_emergency_0 15 rfl rfl)
theorem dX0_emergency_16 : decode cX0_emergency 16 = .ok (.getfield 17, 3) := dk_180 0 17 (dk_at dksX0_emergency_0 16 rfl rfl)
theorem dX0_emergency_19 : decode cX0_emergency 19 = .ok (.getfield 86, 3) := dk_180 0 86 (dk_at dksX0_emergency_0 19 rfl rfl)
theorem dX0_emergency_22 : decode cX0_emergency 22 = .ok (.bastore, 1) := dk_84 (dk_at dksX0_emergency_0 22 rfl rfl)
theorem dX0_emergency_23 : decode cX0_emergency 23 = .ok (.dup, 1) := dk_89 (dk_at dksX0_emergency_0 23 rfl rfl)
theorem dX0_emergency_24 : decode cX0_emergency 24 = .ok (.iconst 1, 1) := dk_4 (dk_at dksX0_emergency_1 0 rfl rfl)
theorem dX0_emergency_25 : decode cX0_emergency 25 = .ok (.aload_n 0, 1) := dk_42 (dk_at dksX0_emergency_1 1 rfl rfl)
theorem dX0_emergency_26 : decode cX0_emergency 26 = .ok (.getfield 17, 3) := dk_180 0 17 (dk_at dksX0_emergency_1 2 rfl rfl)
theorem dX0_emergency_29 : decode cX0_emergency 29 = .ok (.getfield 233, 3) := dk_180 0 233 (dk_at dksX0_emergency_1 5 rfl rfl)
theorem dX0_emergency_32 : decode cX0_emergency 32 = .ok (.bipush (-5), 2) := dk_16 251 (dk_at dksX0_emergency_1 8 rfl rfl)
theorem dX0_emergency_34 : decode cX0_emergency 34 = .ok (.if_icmp .ne 7, 3) := dk_160 0 7 (dk_at dksX0_emergency_1 10 rfl rfl)
theorem dX0_emergency_37 : decode cX0_emergency 37 = .ok (.iconst 1, 1) := dk_4 (dk_at dksX0_emergency_1 13 rfl rfl)
theorem dX0_emergency_38 : decode cX0_emergency 38 = .ok (.goto 4, 3) := dk_167 0 4 (dk_at dksX0_emergency_1 14 rfl rfl)
theorem dX0_emergency_41 : decode cX0_emergency 41 = .ok (.iconst 0, 1) := dk_3 (dk_at dksX0_emergency_1 17 rfl rfl)
theorem dX0_emergency_42 : decode cX0_emergency 42 = .ok (.bastore, 1) := dk_84 (dk_at dksX0_emergency_1 18 rfl rfl)
theorem dX0_emergency_43 : decode cX0_emergency 43 = .ok (.dup, 1) := dk_89 (dk_at dksX0_emergency_1 19 rfl rfl)
theorem dX0_emergency_44 : decode cX0_emergency 44 = .ok (.iconst 2, 1) := dk_5 (dk_at dksX0_emergency_1 20 rfl rfl)
theorem dX0_emergency_45 : decode cX0_emergency 45 = .ok (.aload_n 0, 1) := dk_42 (dk_at dksX0_emergency_1 21 rfl rfl)
theorem dX0_emergency_46 : decode cX0_emergency 46 = .ok (.getfield 17, 3) := dk_180 0 17 (dk_at dksX0_emergency_2 0 rfl rfl)
theorem dX0_emergency_49 : decode cX0_emergency 49 = .ok (.iload_n 1, 1) := dk_27 (dk_at dksX0_emergency_2 3 rfl rfl)
theorem dX0_emergency_50 : decode cX0_emergency 50 = .ok (.invokevirtual 236, 3) := dk_182 0 236 (dk_at dksX0_emergency_2 4 rfl rfl)
theorem dX0_emergency_53 : decode cX0_emergency 53 = .ok (.bipush (-5), 2) := dk_16 251 (dk_at dksX0_emergency_2 7 rfl rfl)
theorem dX0_emergency_55 : decode cX0_emergency 55 = .ok (.if_icmp .eq 7, 3) := dk_159 0 7 (dk_at dksX0_emergency_2 9 rfl rfl)
theorem dX0_emergency_58 : decode cX0_emergency 58 = .ok (.iconst 1, 1) := dk_4 (dk_at dksX0_emergency_2 12 rfl rfl)
theorem dX0_emergency_59 : decode cX0_emergency 59 = .ok (.goto 4, 3) := dk_167 0 4 (dk_at dksX0_emergency_2 13 rfl rfl)
theorem dX0_emergency_62 : decode cX0_emergency 62 = .ok (.iconst 0, 1) := dk_3 (dk_at dksX0_emergency_2 16 rfl rfl)
theorem dX0_emergency_63 : decode cX0_emergency 63 = .ok (.bastore, 1) := dk_84 (dk_at dksX0_emergency_2 17 rfl rfl)
theorem dX0_emergency_64 : decode cX0_emergency 64 = .ok (.invokestatic 82, 3) := dk_184 0 82 (dk_at dksX0_emergency_2 18 rfl rfl)
theorem dX0_emergency_67 : decode cX0_emergency 67 = .ok (.ifCond .ne 6, 3) := dk_154 0 6 (dk_at dksX0_emergency_2 21 rfl rfl)
theorem dX0_emergency_70 : decode cX0_emergency 70 = .ok (.bipush (-3), 2) := dk_16 253 (dk_at dksX0_emergency_3 0 rfl rfl)
theorem dX0_emergency_72 : decode cX0_emergency 72 = .ok (.ireturn, 1) := dk_172 (dk_at dksX0_emergency_3 2 rfl rfl)
theorem dX0_emergency_73 : decode cX0_emergency 73 = .ok (.aload_n 0, 1) := dk_42 (dk_at dksX0_emergency_3 3 rfl rfl)
theorem dX0_emergency_74 : decode cX0_emergency 74 = .ok (.getfield 17, 3) := dk_180 0 17 (dk_at dksX0_emergency_3 4 rfl rfl)
theorem dX0_emergency_77 : decode cX0_emergency 77 = .ok (.iload_n 1, 1) := dk_27 (dk_at dksX0_emergency_3 7 rfl rfl)
theorem dX0_emergency_78 : decode cX0_emergency 78 = .ok (.invokevirtual 239, 3) := dk_182 0 239 (dk_at dksX0_emergency_3 8 rfl rfl)
theorem dX0_emergency_81 : decode cX0_emergency 81 = .ok (.aload_n 0, 1) := dk_42 (dk_at dksX0_emergency_3 11 rfl rfl)
theorem dX0_emergency_82 : decode cX0_emergency 82 = .ok (.getfield 17, 3) := dk_180 0 17 (dk_at dksX0_emergency_3 12 rfl rfl)
theorem dX0_emergency_85 : decode cX0_emergency 85 = .ok (.iload_n 1, 1) := dk_27 (dk_at dksX0_emergency_3 15 rfl rfl)
theorem dX0_emergency_86 : decode cX0_emergency 86 = .ok (.invokevirtual 236, 3) := dk_182 0 236 (dk_at dksX0_emergency_3 16 rfl rfl)
theorem dX0_emergency_89 : decode cX0_emergency 89 = .ok (.ireturn, 1) := dk_172 (dk_at dksX0_emergency_3 19 rfl rfl)
abbrev cX0_over : ByteArray := prog_1_method_22_code
def yX0_over : MethodName := ⟨RX0, "over", "()I"⟩
def dkwX0_over_1 : List UInt8 := [180, 0, 17, 16, 251, 181, 0, 233, 27, 172]
abbrev dktX0_over_1 : List UInt8 := dkwX0_over_1 ++ []
def dkwX0_over_0 : List UInt8 := [42, 180, 0, 17, 180, 0, 233, 16, 251, 160, 0, 6, 16, 253, 172, 42, 180, 0, 17, 180, 0, 233, 60, 42]
abbrev dktX0_over_0 : List UInt8 := dkwX0_over_0 ++ dktX0_over_1
theorem dksX0_over_0 : cX0_over.data.toList.drop 0 = dktX0_over_0 := by decide +kernel
theorem dksX0_over_1 : cX0_over.data.toList.drop 24 = dktX0_over_1 := dk_seg dksX0_over_0 24 rfl rfl
theorem dX0_over_0 : decode cX0_over 0 = .ok (.aload_n 0, 1) := dk_42 (dk_at dksX0_over_0 0 rfl rfl)
theorem dX0_over_1 : decode cX0_over 1 = .ok (.getfield 17, 3) := dk_180 0 17 (dk_at dksX0_over_0 1 rfl rfl)
theorem dX0_over_4 : decode cX0_over 4 = .ok (.getfield 233, 3) := dk_180 0 233 (dk_at dksX0_over_0 4 rfl rfl)
theorem dX0_over_7 : decode cX0_over 7 = .ok (.bipush (-5), 2) := dk_16 251 (dk_at dksX0_over_0 7 rfl rfl)
theorem dX0_over_9 : decode cX0_over 9 = .ok (.if_icmp .ne 6, 3) := dk_160 0 6 (dk_at dksX0_over_0 9 rfl rfl)
theorem dX0_over_12 : decode cX0_over 12 = .ok (.bipush (-3), 2) := dk_16 253 (dk_at dksX0_over_0 12 rfl rfl)
theorem dX0_over_14 : decode cX0_over 14 = .ok (.ireturn, 1) := dk_172 (dk_at dksX0_over_0 14 rfl rfl)
theorem dX0_over_15 : decode cX0_over 15 = .ok (.aload_n 0, 1) := dk_42 (dk_at dksX0_over_0 15 rfl rfl)
theorem dX0_over_16 : decode cX0_over 16 = .ok (.getfield 17, 3) := dk_180 0 17 (dk_at dksX0_over_0 16 rfl rfl)
theorem dX0_over_19 : decode cX0_over 19 = .ok (.getfield 233, 3) := dk_180 0 233 (dk_at dksX0_over_0 19 rfl rfl)
theorem dX0_over_22 : decode cX0_over 22 = .ok (.istore_n 1, 1) := dk_60 (dk_at dksX0_over_0 22 rfl rfl)
theorem dX0_over_23 : decode cX0_over 23 = .ok (.aload_n 0, 1) := dk_42 (dk_at dksX0_over_0 23 rfl rfl)
theorem dX0_over_24 : decode cX0_over 24 = .ok (.getfield 17, 3) := dk_180 0 17 (dk_at dksX0_over_1 0 rfl rfl)
theorem dX0_over_27 : decode cX0_over 27 = .ok (.bipush (-5), 2) := dk_16 251 (dk_at dksX0_over_1 3 rfl rfl)
theorem dX0_over_29 : decode cX0_over 29 = .ok (.putfield 233, 3) := dk_181 0 233 (dk_at dksX0_over_1 5 rfl rfl)
theorem dX0_over_32 : decode cX0_over 32 = .ok (.iload_n 1, 1) := dk_27 (dk_at dksX0_over_1 8 rfl rfl)
theorem dX0_over_33 : decode cX0_over 33 = .ok (.ireturn, 1) := dk_172 (dk_at dksX0_over_1 9 rfl rfl)
abbrev cX0_pass : ByteArray := prog_1_method_23_code
def yX0_pass : MethodName := ⟨RX0, "pass", "(I)I"⟩
def dkwX0_pass_2 : List UInt8 := [61, 42, 180, 0, 17, 27, 182, 0, 248, 180, 0, 245, 28, 100, 172]
abbrev dktX0_pass_2 : List UInt8 := dkwX0_pass_2 ++ []
def dkwX0_pass_1 : List UInt8 := [154, 0, 6, 16, 253, 172, 42, 27, 182, 0, 242, 154, 0, 6, 16, 252, 172, 42, 180, 0, 17, 180, 0, 245]
abbrev dktX0_pass_1 : List UInt8 := dkwX0_pass_1 ++ dktX0_pass_2
def dkwX0_pass_0 : List UInt8 := [27, 133, 9, 20, 0, 144, 184, 0, 74, 154, 0, 6, 16, 254, 172, 42, 180, 0, 17, 180, 0, 86]
abbrev dktX0_pass_0 : List UInt8 := dkwX0_pass_0 ++ dktX0_pass_1
theorem dksX0_pass_0 : cX0_pass.data.toList.drop 0 = dktX0_pass_0 := by decide +kernel
theorem dksX0_pass_1 : cX0_pass.data.toList.drop 22 = dktX0_pass_1 := dk_seg dksX0_pass_0 22 rfl rfl
theorem dksX0_pass_2 : cX0_pass.data.toList.drop 46 = dktX0_pass_2 := dk_seg dksX0_pass_1 24 rfl rfl
theorem dX0_pass_0 : decode cX0_pass 0 = .ok (.iload_n 1, 1) := dk_27 (dk_at dksX0_pass_0 0 rfl rfl)
theorem dX0_pass_1 : decode cX0_pass 1 = .ok (.i2l, 1) := dk_133 (dk_at dksX0_pass_0 1 rfl rfl)
theorem dX0_pass_2 : decode cX0_pass 2 = .ok (.lconst 0, 1) := dk_9 (dk_at dksX0_pass_0 2 rfl rfl)
theorem dX0_pass_3 : decode cX0_pass 3 = .ok (.ldc2_w 144, 3) := dk_20 0 144 (dk_at dksX0_pass_0 3 rfl rfl)
theorem dX0_pass_6 : decode cX0_pass 6 = .ok (.invokestatic 74, 3) := dk_184 0 74 (dk_at dksX0_pass_0 6 rfl rfl)
theorem dX0_pass_9 : decode cX0_pass 9 = .ok (.ifCond .ne 6, 3) := dk_154 0 6 (dk_at dksX0_pass_0 9 rfl rfl)
theorem dX0_pass_12 : decode cX0_pass 12 = .ok (.bipush (-2), 2) := dk_16 254 (dk_at dksX0_pass_0 12 rfl rfl)
theorem dX0_pass_14 : decode cX0_pass 14 = .ok (.ireturn, 1) := dk_172 (dk_at dksX0_pass_0 14 rfl rfl)
theorem dX0_pass_15 : decode cX0_pass 15 = .ok (.aload_n 0, 1) := dk_42 (dk_at dksX0_pass_0 15 rfl rfl)
theorem dX0_pass_16 : decode cX0_pass 16 = .ok (.getfield 17, 3) := dk_180 0 17 (dk_at dksX0_pass_0 16 rfl rfl)
theorem dX0_pass_19 : decode cX0_pass 19 = .ok (.getfield 86, 3) := dk_180 0 86 (dk_at dksX0_pass_0 19 rfl rfl)
theorem dX0_pass_22 : decode cX0_pass 22 = .ok (.ifCond .ne 6, 3) := dk_154 0 6 (dk_at dksX0_pass_1 0 rfl rfl)
theorem dX0_pass_25 : decode cX0_pass 25 = .ok (.bipush (-3), 2) := dk_16 253 (dk_at dksX0_pass_1 3 rfl rfl)
theorem dX0_pass_27 : decode cX0_pass 27 = .ok (.ireturn, 1) := dk_172 (dk_at dksX0_pass_1 5 rfl rfl)
theorem dX0_pass_28 : decode cX0_pass 28 = .ok (.aload_n 0, 1) := dk_42 (dk_at dksX0_pass_1 6 rfl rfl)
theorem dX0_pass_29 : decode cX0_pass 29 = .ok (.iload_n 1, 1) := dk_27 (dk_at dksX0_pass_1 7 rfl rfl)
theorem dX0_pass_30 : decode cX0_pass 30 = .ok (.invokevirtual 242, 3) := dk_182 0 242 (dk_at dksX0_pass_1 8 rfl rfl)
theorem dX0_pass_33 : decode cX0_pass 33 = .ok (.ifCond .ne 6, 3) := dk_154 0 6 (dk_at dksX0_pass_1 11 rfl rfl)
theorem dX0_pass_36 : decode cX0_pass 36 = .ok (.bipush (-4), 2) := dk_16 252 (dk_at dksX0_pass_1 14 rfl rfl)
theorem dX0_pass_38 : decode cX0_pass 38 = .ok (.ireturn, 1) := dk_172 (dk_at dksX0_pass_1 16 rfl rfl)
theorem dX0_pass_39 : decode cX0_pass 39 = .ok (.aload_n 0, 1) := dk_42 (dk_at dksX0_pass_1 17 rfl rfl)
theorem dX0_pass_40 : decode cX0_pass 40 = .ok (.getfield 17, 3) := dk_180 0 17 (dk_at dksX0_pass_1 18 rfl rfl)
theorem dX0_pass_43 : decode cX0_pass 43 = .ok (.getfield 245, 3) := dk_180 0 245 (dk_at dksX0_pass_1 21 rfl rfl)
theorem dX0_pass_46 : decode cX0_pass 46 = .ok (.istore_n 2, 1) := dk_61 (dk_at dksX0_pass_2 0 rfl rfl)
theorem dX0_pass_47 : decode cX0_pass 47 = .ok (.aload_n 0, 1) := dk_42 (dk_at dksX0_pass_2 1 rfl rfl)
theorem dX0_pass_48 : decode cX0_pass 48 = .ok (.getfield 17, 3) := dk_180 0 17 (dk_at dksX0_pass_2 2 rfl rfl)
theorem dX0_pass_51 : decode cX0_pass 51 = .ok (.iload_n 1, 1) := dk_27 (dk_at dksX0_pass_2 5 rfl rfl)
theorem dX0_pass_52 : decode cX0_pass 52 = .ok (.invokevirtual 248, 3) := dk_182 0 248 (dk_at dksX0_pass_2 6 rfl rfl)
theorem dX0_pass_55 : decode cX0_pass 55 = .ok (.getfield 245, 3) := dk_180 0 245 (dk_at dksX0_pass_2 9 rfl rfl)
theorem dX0_pass_58 : decode cX0_pass 58 = .ok (.iload_n 2, 1) := dk_28 (dk_at dksX0_pass_2 12 rfl rfl)
theorem dX0_pass_59 : decode cX0_pass 59 = .ok (.isub, 1) := dk_100 (dk_at dksX0_pass_2 13 rfl rfl)
theorem dX0_pass_60 : decode cX0_pass 60 = .ok (.ireturn, 1) := dk_172 (dk_at dksX0_pass_2 14 rfl rfl)
abbrev cX0_counts : ByteArray := prog_1_method_5_code
def yX0_counts : MethodName := ⟨RX0, "counts", "(I)Z"⟩
def dkwX0_counts_1 : List UInt8 := [4, 172]
abbrev dktX0_counts_1 : List UInt8 := dkwX0_counts_1 ++ []
def dkwX0_counts_0 : List UInt8 := [42, 180, 0, 9, 27, 96, 17, 46, 224, 164, 0, 5, 3, 172, 42, 89, 180, 0, 9, 27, 96, 181, 0, 9]
abbrev dktX0_counts_0 : List UInt8 := dkwX0_counts_0 ++ dktX0_counts_1
theorem dksX0_counts_0 : cX0_counts.data.toList.drop 0 = dktX0_counts_0 := by decide +kernel
theorem dksX0_counts_1 : cX0_counts.data.toList.drop 24 = dktX0_counts_1 := dk_seg dksX0_counts_0 24 rfl rfl
theorem dX0_counts_0 : decode cX0_counts 0 = .ok (.aload_n 0, 1) := dk_42 (dk_at dksX0_counts_0 0 rfl rfl)
theorem dX0_counts_1 : decode cX0_counts 1 = .ok (.getfield 9, 3) := dk_180 0 9 (dk_at dksX0_counts_0 1 rfl rfl)
theorem dX0_counts_4 : decode cX0_counts 4 = .ok (.iload_n 1, 1) := dk_27 (dk_at dksX0_counts_0 4 rfl rfl)
theorem dX0_counts_5 : decode cX0_counts 5 = .ok (.iadd, 1) := dk_96 (dk_at dksX0_counts_0 5 rfl rfl)
theorem dX0_counts_6 : decode cX0_counts 6 = .ok (.sipush 12000, 3) := dk_17 46 224 (dk_at dksX0_counts_0 6 rfl rfl)
theorem dX0_counts_9 : decode cX0_counts 9 = .ok (.if_icmp .le 5, 3) := dk_164 0 5 (dk_at dksX0_counts_0 9 rfl rfl)
theorem dX0_counts_12 : decode cX0_counts 12 = .ok (.iconst 0, 1) := dk_3 (dk_at dksX0_counts_0 12 rfl rfl)
theorem dX0_counts_13 : decode cX0_counts 13 = .ok (.ireturn, 1) := dk_172 (dk_at dksX0_counts_0 13 rfl rfl)
theorem dX0_counts_14 : decode cX0_counts 14 = .ok (.aload_n 0, 1) := dk_42 (dk_at dksX0_counts_0 14 rfl rfl)
theorem dX0_counts_15 : decode cX0_counts 15 = .ok (.dup, 1) := dk_89 (dk_at dksX0_counts_0 15 rfl rfl)
theorem dX0_counts_16 : decode cX0_counts 16 = .ok (.getfield 9, 3) := dk_180 0 9 (dk_at dksX0_counts_0 16 rfl rfl)
theorem dX0_counts_19 : decode cX0_counts 19 = .ok (.iload_n 1, 1) := dk_27 (dk_at dksX0_counts_0 19 rfl rfl)
theorem dX0_counts_20 : decode cX0_counts 20 = .ok (.iadd, 1) := dk_96 (dk_at dksX0_counts_0 20 rfl rfl)
theorem dX0_counts_21 : decode cX0_counts 21 = .ok (.putfield 9, 3) := dk_181 0 9 (dk_at dksX0_counts_0 21 rfl rfl)
theorem dX0_counts_24 : decode cX0_counts 24 = .ok (.iconst 1, 1) := dk_4 (dk_at dksX0_counts_1 0 rfl rfl)
theorem dX0_counts_25 : decode cX0_counts 25 = .ok (.ireturn, 1) := dk_172 (dk_at dksX0_counts_1 1 rfl rfl)
abbrev cX0_told : ByteArray := prog_1_method_25_code
def yX0_told : MethodName := ⟨RX0, "told", "(I)I"⟩
def dkwX0_told_1 : List UInt8 := [172]
abbrev dktX0_told_1 : List UInt8 := dkwX0_told_1 ++ []
def dkwX0_told_0 : List UInt8 := [27, 133, 9, 20, 1, 17, 184, 0, 74, 153, 0, 14, 42, 180, 0, 17, 27, 184, 1, 19, 167, 0, 4, 2]
abbrev dktX0_told_0 : List UInt8 := dkwX0_told_0 ++ dktX0_told_1
theorem dksX0_told_0 : cX0_told.data.toList.drop 0 = dktX0_told_0 := by decide +kernel
theorem dksX0_told_1 : cX0_told.data.toList.drop 24 = dktX0_told_1 := dk_seg dksX0_told_0 24 rfl rfl
theorem dX0_told_0 : decode cX0_told 0 = .ok (.iload_n 1, 1) := dk_27 (dk_at dksX0_told_0 0 rfl rfl)
theorem dX0_told_1 : decode cX0_told 1 = .ok (.i2l, 1) := dk_133 (dk_at dksX0_told_0 1 rfl rfl)
theorem dX0_told_2 : decode cX0_told 2 = .ok (.lconst 0, 1) := dk_9 (dk_at dksX0_told_0 2 rfl rfl)
theorem dX0_told_3 : decode cX0_told 3 = .ok (.ldc2_w 273, 3) := dk_20 1 17 (dk_at dksX0_told_0 3 rfl rfl)
theorem dX0_told_6 : decode cX0_told 6 = .ok (.invokestatic 74, 3) := dk_184 0 74 (dk_at dksX0_told_0 6 rfl rfl)
theorem dX0_told_9 : decode cX0_told 9 = .ok (.ifCond .eq 14, 3) := dk_153 0 14 (dk_at dksX0_told_0 9 rfl rfl)
theorem dX0_told_12 : decode cX0_told 12 = .ok (.aload_n 0, 1) := dk_42 (dk_at dksX0_told_0 12 rfl rfl)
theorem dX0_told_13 : decode cX0_told 13 = .ok (.getfield 17, 3) := dk_180 0 17 (dk_at dksX0_told_0 13 rfl rfl)
theorem dX0_told_16 : decode cX0_told 16 = .ok (.iload_n 1, 1) := dk_27 (dk_at dksX0_told_0 16 rfl rfl)
theorem dX0_told_17 : decode cX0_told 17 = .ok (.invokestatic 275, 3) := dk_184 1 19 (dk_at dksX0_told_0 17 rfl rfl)
theorem dX0_told_20 : decode cX0_told 20 = .ok (.goto 4, 3) := dk_167 0 4 (dk_at dksX0_told_0 20 rfl rfl)
theorem dX0_told_23 : decode cX0_told 23 = .ok (.iconst (-1), 1) := dk_2 (dk_at dksX0_told_0 23 rfl rfl)
theorem dX0_told_24 : decode cX0_told 24 = .ok (.ireturn, 1) := dk_172 (dk_at dksX0_told_1 0 rfl rfl)
abbrev cX0_toldOf : ByteArray := prog_1_method_24_code
def yX0_toldOf : MethodName := ⟨RX0, "toldOf", "(LSafeClears$World;I)I"⟩
def dkwX0_toldOf_6 : List UInt8 := [172]
abbrev dktX0_toldOf_6 : List UInt8 := dkwX0_toldOf_6 ++ []
def dkwX0_toldOf_5 : List UInt8 := [42, 180, 0, 218, 172, 42, 182, 1, 11, 172, 42, 180, 0, 71, 172, 42, 180, 0, 125, 172, 42, 182, 1, 14]
abbrev dktX0_toldOf_5 : List UInt8 := dkwX0_toldOf_5 ++ dktX0_toldOf_6
def dkwX0_toldOf_4 : List UInt8 := [182, 1, 8, 172, 42, 180, 0, 230, 172, 42, 180, 0, 180, 172, 42, 180, 0, 212, 172, 42, 180, 0, 215, 172]
abbrev dktX0_toldOf_4 : List UInt8 := dkwX0_toldOf_4 ++ dktX0_toldOf_5
def dkwX0_toldOf_3 : List UInt8 := [172, 42, 180, 0, 245, 172, 42, 180, 0, 227, 172, 42, 5, 182, 1, 5, 172, 42, 4, 182, 1, 5, 172, 42]
abbrev dktX0_toldOf_3 : List UInt8 := dkwX0_toldOf_3 ++ dktX0_toldOf_4
def dkwX0_toldOf_2 : List UInt8 := [42, 180, 0, 252, 172, 42, 180, 0, 202, 172, 42, 180, 0, 255, 172, 42, 180, 0, 233, 172, 42, 180, 1, 2]
abbrev dktX0_toldOf_2 : List UInt8 := dkwX0_toldOf_2 ++ dktX0_toldOf_3
def dkwX0_toldOf_1 : List UInt8 := [170, 0, 0, 0, 0, 0, 179, 0, 0, 0, 0, 0, 0, 0, 17, 0, 0, 0, 87, 0, 0, 0, 92, 0, 0, 0, 97, 0, 0, 0, 102, 0, 0, 0, 107, 0, 0, 0, 112, 0, 0, 0, 117, 0, 0, 0, 122, 0, 0, 0, 128, 0, 0, 0, 134, 0, 0, 0, 139, 0, 0, 0, 144, 0, 0, 0, 149, 0, 0, 0, 154, 0, 0, 0, 159, 0, 0, 0, 164, 0, 0, 0, 169, 0, 0, 0, 174]
abbrev dktX0_toldOf_1 : List UInt8 := dkwX0_toldOf_1 ++ dktX0_toldOf_2
def dkwX0_toldOf_0 : List UInt8 := [27]
abbrev dktX0_toldOf_0 : List UInt8 := dkwX0_toldOf_0 ++ dktX0_toldOf_1
theorem dksX0_toldOf_0 : cX0_toldOf.data.toList.drop 0 = dktX0_toldOf_0 := by decide +kernel
theorem dksX0_toldOf_1 : cX0_toldOf.data.toList.drop 1 = dktX0_toldOf_1 := dk_seg dksX0_toldOf_0 1 rfl rfl
theorem dksX0_toldOf_2 : cX0_toldOf.data.toList.drop 88 = dktX0_toldOf_2 := dk_seg dksX0_toldOf_1 87 rfl rfl
theorem dksX0_toldOf_3 : cX0_toldOf.data.toList.drop 112 = dktX0_toldOf_3 := dk_seg dksX0_toldOf_2 24 rfl rfl
theorem dksX0_toldOf_4 : cX0_toldOf.data.toList.drop 136 = dktX0_toldOf_4 := dk_seg dksX0_toldOf_3 24 rfl rfl
theorem dksX0_toldOf_5 : cX0_toldOf.data.toList.drop 160 = dktX0_toldOf_5 := dk_seg dksX0_toldOf_4 24 rfl rfl
theorem dksX0_toldOf_6 : cX0_toldOf.data.toList.drop 184 = dktX0_toldOf_6 := dk_seg dksX0_toldOf_5 24 rfl rfl
theorem dX0_toldOf_0 : decode cX0_toldOf 0 = .ok (.iload_n 1, 1) := dk_27 (dk_at dksX0_toldOf_0 0 rfl rfl)
theorem dX0_toldOf_1 : decode cX0_toldOf 1 = .ok (.tableswitch 179 0 17 #[87, 92, 97, 102, 107, 112, 117, 122, 128, 134, 139, 144, 149, 154, 159, 164, 169, 174], 87) := by decide +kernel
theorem dX0_toldOf_88 : decode cX0_toldOf 88 = .ok (.aload_n 0, 1) := dk_42 (dk_at dksX0_toldOf_2 0 rfl rfl)
theorem dX0_toldOf_89 : decode cX0_toldOf 89 = .ok (.getfield 252, 3) := dk_180 0 252 (dk_at dksX0_toldOf_2 1 rfl rfl)
theorem dX0_toldOf_92 : decode cX0_toldOf 92 = .ok (.ireturn, 1) := dk_172 (dk_at dksX0_toldOf_2 4 rfl rfl)
theorem dX0_toldOf_93 : decode cX0_toldOf 93 = .ok (.aload_n 0, 1) := dk_42 (dk_at dksX0_toldOf_2 5 rfl rfl)
theorem dX0_toldOf_94 : decode cX0_toldOf 94 = .ok (.getfield 202, 3) := dk_180 0 202 (dk_at dksX0_toldOf_2 6 rfl rfl)
theorem dX0_toldOf_97 : decode cX0_toldOf 97 = .ok (.ireturn, 1) := dk_172 (dk_at dksX0_toldOf_2 9 rfl rfl)
theorem dX0_toldOf_98 : decode cX0_toldOf 98 = .ok (.aload_n 0, 1) := dk_42 (dk_at dksX0_toldOf_2 10 rfl rfl)
theorem dX0_toldOf_99 : decode cX0_toldOf 99 = .ok (.getfield 255, 3) := dk_180 0 255 (dk_at dksX0_toldOf_2 11 rfl rfl)
theorem dX0_toldOf_102 : decode cX0_toldOf 102 = .ok (.ireturn, 1) := dk_172 (dk_at dksX0_toldOf_2 14 rfl rfl)
theorem dX0_toldOf_103 : decode cX0_toldOf 103 = .ok (.aload_n 0, 1) := dk_42 (dk_at dksX0_toldOf_2 15 rfl rfl)
theorem dX0_toldOf_104 : decode cX0_toldOf 104 = .ok (.getfield 233, 3) := dk_180 0 233 (dk_at dksX0_toldOf_2 16 rfl rfl)
theorem dX0_toldOf_107 : decode cX0_toldOf 107 = .ok (.ireturn, 1) := dk_172 (dk_at dksX0_toldOf_2 19 rfl rfl)
theorem dX0_toldOf_108 : decode cX0_toldOf 108 = .ok (.aload_n 0, 1) := dk_42 (dk_at dksX0_toldOf_2 20 rfl rfl)
theorem dX0_toldOf_109 : decode cX0_toldOf 109 = .ok (.getfield 258, 3) := dk_180 1 2 (dk_at dksX0_toldOf_2 21 rfl rfl)
theorem dX0_toldOf_112 : decode cX0_toldOf 112 = .ok (.ireturn, 1) := dk_172 (dk_at dksX0_toldOf_3 0 rfl rfl)
theorem dX0_toldOf_113 : decode cX0_toldOf 113 = .ok (.aload_n 0, 1) := dk_42 (dk_at dksX0_toldOf_3 1 rfl rfl)
theorem dX0_toldOf_114 : decode cX0_toldOf 114 = .ok (.getfield 245, 3) := dk_180 0 245 (dk_at dksX0_toldOf_3 2 rfl rfl)
theorem dX0_toldOf_117 : decode cX0_toldOf 117 = .ok (.ireturn, 1) := dk_172 (dk_at dksX0_toldOf_3 5 rfl rfl)
theorem dX0_toldOf_118 : decode cX0_toldOf 118 = .ok (.aload_n 0, 1) := dk_42 (dk_at dksX0_toldOf_3 6 rfl rfl)
theorem dX0_toldOf_119 : decode cX0_toldOf 119 = .ok (.getfield 227, 3) := dk_180 0 227 (dk_at dksX0_toldOf_3 7 rfl rfl)
theorem dX0_toldOf_122 : decode cX0_toldOf 122 = .ok (.ireturn, 1) := dk_172 (dk_at dksX0_toldOf_3 10 rfl rfl)
theorem dX0_toldOf_123 : decode cX0_toldOf 123 = .ok (.aload_n 0, 1) := dk_42 (dk_at dksX0_toldOf_3 11 rfl rfl)
theorem dX0_toldOf_124 : decode cX0_toldOf 124 = .ok (.iconst 2, 1) := dk_5 (dk_at dksX0_toldOf_3 12 rfl rfl)
theorem dX0_toldOf_125 : decode cX0_toldOf 125 = .ok (.invokevirtual 261, 3) := dk_182 1 5 (dk_at dksX0_toldOf_3 13 rfl rfl)
theorem dX0_toldOf_128 : decode cX0_toldOf 128 = .ok (.ireturn, 1) := dk_172 (dk_at dksX0_toldOf_3 16 rfl rfl)
theorem dX0_toldOf_129 : decode cX0_toldOf 129 = .ok (.aload_n 0, 1) := dk_42 (dk_at dksX0_toldOf_3 17 rfl rfl)
theorem dX0_toldOf_130 : decode cX0_toldOf 130 = .ok (.iconst 1, 1) := dk_4 (dk_at dksX0_toldOf_3 18 rfl rfl)
theorem dX0_toldOf_131 : decode cX0_toldOf 131 = .ok (.invokevirtual 261, 3) := dk_182 1 5 (dk_at dksX0_toldOf_3 19 rfl rfl)
theorem dX0_toldOf_134 : decode cX0_toldOf 134 = .ok (.ireturn, 1) := dk_172 (dk_at dksX0_toldOf_3 22 rfl rfl)
theorem dX0_toldOf_135 : decode cX0_toldOf 135 = .ok (.aload_n 0, 1) := dk_42 (dk_at dksX0_toldOf_3 23 rfl rfl)
theorem dX0_toldOf_136 : decode cX0_toldOf 136 = .ok (.invokevirtual 264, 3) := dk_182 1 8 (dk_at dksX0_toldOf_4 0 rfl rfl)
theorem dX0_toldOf_139 : decode cX0_toldOf 139 = .ok (.ireturn, 1) := dk_172 (dk_at dksX0_toldOf_4 3 rfl rfl)
theorem dX0_toldOf_140 : decode cX0_toldOf 140 = .ok (.aload_n 0, 1) := dk_42 (dk_at dksX0_toldOf_4 4 rfl rfl)
theorem dX0_toldOf_141 : decode cX0_toldOf 141 = .ok (.getfield 230, 3) := dk_180 0 230 (dk_at dksX0_toldOf_4 5 rfl rfl)
theorem dX0_toldOf_144 : decode cX0_toldOf 144 = .ok (.ireturn, 1) := dk_172 (dk_at dksX0_toldOf_4 8 rfl rfl)
theorem dX0_toldOf_145 : decode cX0_toldOf 145 = .ok (.aload_n 0, 1) := dk_42 (dk_at dksX0_toldOf_4 9 rfl rfl)
theorem dX0_toldOf_146 : decode cX0_toldOf 146 = .ok (.getfield 180, 3) := dk_180 0 180 (dk_at dksX0_toldOf_4 10 rfl rfl)
theorem dX0_toldOf_149 : decode cX0_toldOf 149 = .ok (.ireturn, 1) := dk_172 (dk_at dksX0_toldOf_4 13 rfl rfl)
theorem dX0_toldOf_150 : decode cX0_toldOf 150 = .ok (.aload_n 0, 1) := dk_42 (dk_at dksX0_toldOf_4 14 rfl rfl)
theorem dX0_toldOf_151 : decode cX0_toldOf 151 = .ok (.getfield 212, 3) := dk_180 0 212 (dk_at dksX0_toldOf_4 15 rfl rfl)
theorem dX0_toldOf_154 : decode cX0_toldOf 154 = .ok (.ireturn, 1) := dk_172 (dk_at dksX0_toldOf_4 18 rfl rfl)
theorem dX0_toldOf_155 : decode cX0_toldOf 155 = .ok (.aload_n 0, 1) := dk_42 (dk_at dksX0_toldOf_4 19 rfl rfl)
theorem dX0_toldOf_156 : decode cX0_toldOf 156 = .ok (.getfield 215, 3) := dk_180 0 215 (dk_at dksX0_toldOf_4 20 rfl rfl)
theorem dX0_toldOf_159 : decode cX0_toldOf 159 = .ok (.ireturn, 1) := dk_172 (dk_at dksX0_toldOf_4 23 rfl rfl)
theorem dX0_toldOf_160 : decode cX0_toldOf 160 = .ok (.aload_n 0, 1) := dk_42 (dk_at dksX0_toldOf_5 0 rfl rfl)
theorem dX0_toldOf_161 : decode cX0_toldOf 161 = .ok (.getfield 218, 3) := dk_180 0 218 (dk_at dksX0_toldOf_5 1 rfl rfl)
theorem dX0_toldOf_164 : decode cX0_toldOf 164 = .ok (.ireturn, 1) := dk_172 (dk_at dksX0_toldOf_5 4 rfl rfl)
theorem dX0_toldOf_165 : decode cX0_toldOf 165 = .ok (.aload_n 0, 1) := dk_42 (dk_at dksX0_toldOf_5 5 rfl rfl)
theorem dX0_toldOf_166 : decode cX0_toldOf 166 = .ok (.invokevirtual 267, 3) := dk_182 1 11 (dk_at dksX0_toldOf_5 6 rfl rfl)
theorem dX0_toldOf_169 : decode cX0_toldOf 169 = .ok (.ireturn, 1) := dk_172 (dk_at dksX0_toldOf_5 9 rfl rfl)
theorem dX0_toldOf_170 : decode cX0_toldOf 170 = .ok (.aload_n 0, 1) := dk_42 (dk_at dksX0_toldOf_5 10 rfl rfl)
theorem dX0_toldOf_171 : decode cX0_toldOf 171 = .ok (.getfield 71, 3) := dk_180 0 71 (dk_at dksX0_toldOf_5 11 rfl rfl)
theorem dX0_toldOf_174 : decode cX0_toldOf 174 = .ok (.ireturn, 1) := dk_172 (dk_at dksX0_toldOf_5 14 rfl rfl)
theorem dX0_toldOf_175 : decode cX0_toldOf 175 = .ok (.aload_n 0, 1) := dk_42 (dk_at dksX0_toldOf_5 15 rfl rfl)
theorem dX0_toldOf_176 : decode cX0_toldOf 176 = .ok (.getfield 125, 3) := dk_180 0 125 (dk_at dksX0_toldOf_5 16 rfl rfl)
theorem dX0_toldOf_179 : decode cX0_toldOf 179 = .ok (.ireturn, 1) := dk_172 (dk_at dksX0_toldOf_5 19 rfl rfl)
theorem dX0_toldOf_180 : decode cX0_toldOf 180 = .ok (.aload_n 0, 1) := dk_42 (dk_at dksX0_toldOf_5 20 rfl rfl)
theorem dX0_toldOf_181 : decode cX0_toldOf 181 = .ok (.invokevirtual 270, 3) := dk_182 1 14 (dk_at dksX0_toldOf_5 21 rfl rfl)
theorem dX0_toldOf_184 : decode cX0_toldOf 184 = .ok (.ireturn, 1) := dk_172 (dk_at dksX0_toldOf_6 0 rfl rfl)
abbrev cX0_of : ByteArray := prog_1_method_26_code
def yX0_of : MethodName := ⟨RX0, "of", "(II)I"⟩
def dkwX0_of_6 : List UInt8 := [100, 46, 172]
abbrev dktX0_of_6 : List UInt8 := dkwX0_of_6 ++ []
def dkwX0_of_5 : List UInt8 := [182, 1, 45, 172, 42, 180, 0, 17, 27, 182, 0, 183, 172, 45, 180, 1, 48, 172, 45, 180, 0, 150, 28, 4]
abbrev dktX0_of_5 : List UInt8 := dkwX0_of_5 ++ dktX0_of_6
def dkwX0_of_4 : List UInt8 := [180, 1, 35, 172, 45, 180, 1, 38, 172, 45, 180, 1, 41, 172, 45, 180, 1, 44, 172, 45, 180, 0, 116]
abbrev dktX0_of_4 : List UInt8 := dkwX0_of_4 ++ dktX0_of_5
def dkwX0_of_3 : List UInt8 := [45, 180, 1, 25, 182, 1, 29, 172, 45, 180, 0, 221, 172, 42, 180, 0, 17, 27, 182, 1, 32, 172, 45]
abbrev dktX0_of_3 : List UInt8 := dkwX0_of_3 ++ dktX0_of_4
def dkwX0_of_2 : List UInt8 := [170, 0, 0, 0, 0, 0, 135, 0, 0, 0, 0, 0, 0, 0, 13, 0, 0, 0, 71, 0, 0, 0, 135, 0, 0, 0, 135, 0, 0, 0, 135, 0, 0, 0, 135, 0, 0, 0, 79, 0, 0, 0, 84, 0, 0, 0, 93, 0, 0, 0, 98, 0, 0, 0, 103, 0, 0, 0, 108, 0, 0, 0, 113, 0, 0, 0, 121, 0, 0, 0, 130]
abbrev dktX0_of_2 : List UInt8 := dkwX0_of_2 ++ dktX0_of_3
def dkwX0_of_1 : List UInt8 := [180, 0, 17, 180, 0, 90, 27, 50, 78, 28]
abbrev dktX0_of_1 : List UInt8 := dkwX0_of_1 ++ dktX0_of_2
def dkwX0_of_0 : List UInt8 := [42, 27, 182, 0, 112, 153, 0, 15, 28, 133, 9, 20, 1, 23, 184, 0, 74, 154, 0, 5, 2, 172, 42]
abbrev dktX0_of_0 : List UInt8 := dkwX0_of_0 ++ dktX0_of_1
theorem dksX0_of_0 : cX0_of.data.toList.drop 0 = dktX0_of_0 := by decide +kernel
theorem dksX0_of_1 : cX0_of.data.toList.drop 23 = dktX0_of_1 := dk_seg dksX0_of_0 23 rfl rfl
theorem dksX0_of_2 : cX0_of.data.toList.drop 33 = dktX0_of_2 := dk_seg dksX0_of_1 10 rfl rfl
theorem dksX0_of_3 : cX0_of.data.toList.drop 104 = dktX0_of_3 := dk_seg dksX0_of_2 71 rfl rfl
theorem dksX0_of_4 : cX0_of.data.toList.drop 127 = dktX0_of_4 := dk_seg dksX0_of_3 23 rfl rfl
theorem dksX0_of_5 : cX0_of.data.toList.drop 150 = dktX0_of_5 := dk_seg dksX0_of_4 23 rfl rfl
theorem dksX0_of_6 : cX0_of.data.toList.drop 174 = dktX0_of_6 := dk_seg dksX0_of_5 24 rfl rfl
theorem dX0_of_0 : decode cX0_of 0 = .ok (.aload_n 0, 1) := dk_42 (dk_at dksX0_of_0 0 rfl rfl)
theorem dX0_of_1 : decode cX0_of 1 = .ok (.iload_n 1, 1) := dk_27 (dk_at dksX0_of_0 1 rfl rfl)
theorem dX0_of_2 : decode cX0_of 2 = .ok (.invokevirtual 112, 3) := dk_182 0 112 (dk_at dksX0_of_0 2 rfl rfl)
theorem dX0_of_5 : decode cX0_of 5 = .ok (.ifCond .eq 15, 3) := dk_153 0 15 (dk_at dksX0_of_0 5 rfl rfl)
theorem dX0_of_8 : decode cX0_of 8 = .ok (.iload_n 2, 1) := dk_28 (dk_at dksX0_of_0 8 rfl rfl)
theorem dX0_of_9 : decode cX0_of 9 = .ok (.i2l, 1) := dk_133 (dk_at dksX0_of_0 9 rfl rfl)
theorem dX0_of_10 : decode cX0_of 10 = .ok (.lconst 0, 1) := dk_9 (dk_at dksX0_of_0 10 rfl rfl)
theorem dX0_of_11 : decode cX0_of 11 = .ok (.ldc2_w 279, 3) := dk_20 1 23 (dk_at dksX0_of_0 11 rfl rfl)
theorem dX0_of_14 : decode cX0_of 14 = .ok (.invokestatic 74, 3) := dk_184 0 74 (dk_at dksX0_of_0 14 rfl rfl)
theorem dX0_of_17 : decode cX0_of 17 = .ok (.ifCond .ne 5, 3) := dk_154 0 5 (dk_at dksX0_of_0 17 rfl rfl)
theorem dX0_of_20 : decode cX0_of 20 = .ok (.iconst (-1), 1) := dk_2 (dk_at dksX0_of_0 20 rfl rfl)
theorem dX0_of_21 : decode cX0_of 21 = .ok (.ireturn, 1) := dk_172 (dk_at dksX0_of_0 21 rfl rfl)
theorem dX0_of_22 : decode cX0_of 22 = .ok (.aload_n 0, 1) := dk_42 (dk_at dksX0_of_0 22 rfl rfl)
theorem dX0_of_23 : decode cX0_of 23 = .ok (.getfield 17, 3) := dk_180 0 17 (dk_at dksX0_of_1 0 rfl rfl)
theorem dX0_of_26 : decode cX0_of 26 = .ok (.getfield 90, 3) := dk_180 0 90 (dk_at dksX0_of_1 3 rfl rfl)
theorem dX0_of_29 : decode cX0_of 29 = .ok (.iload_n 1, 1) := dk_27 (dk_at dksX0_of_1 6 rfl rfl)
theorem dX0_of_30 : decode cX0_of 30 = .ok (.aaload, 1) := dk_50 (dk_at dksX0_of_1 7 rfl rfl)
theorem dX0_of_31 : decode cX0_of 31 = .ok (.astore_n 3, 1) := dk_78 (dk_at dksX0_of_1 8 rfl rfl)
theorem dX0_of_32 : decode cX0_of 32 = .ok (.iload_n 2, 1) := dk_28 (dk_at dksX0_of_1 9 rfl rfl)
theorem dX0_of_33 : decode cX0_of 33 = .ok (.tableswitch 135 0 13 #[71, 135, 135, 135, 135, 79, 84, 93, 98, 103, 108, 113, 121, 130], 71) := by decide +kernel
theorem dX0_of_104 : decode cX0_of 104 = .ok (.aload_n 3, 1) := dk_45 (dk_at dksX0_of_3 0 rfl rfl)
theorem dX0_of_105 : decode cX0_of 105 = .ok (.getfield 281, 3) := dk_180 1 25 (dk_at dksX0_of_3 1 rfl rfl)
theorem dX0_of_108 : decode cX0_of 108 = .ok (.invokevirtual 285, 3) := dk_182 1 29 (dk_at dksX0_of_3 4 rfl rfl)
theorem dX0_of_111 : decode cX0_of 111 = .ok (.ireturn, 1) := dk_172 (dk_at dksX0_of_3 7 rfl rfl)
theorem dX0_of_112 : decode cX0_of 112 = .ok (.aload_n 3, 1) := dk_45 (dk_at dksX0_of_3 8 rfl rfl)
theorem dX0_of_113 : decode cX0_of 113 = .ok (.getfield 221, 3) := dk_180 0 221 (dk_at dksX0_of_3 9 rfl rfl)
theorem dX0_of_116 : decode cX0_of 116 = .ok (.ireturn, 1) := dk_172 (dk_at dksX0_of_3 12 rfl rfl)
theorem dX0_of_117 : decode cX0_of 117 = .ok (.aload_n 0, 1) := dk_42 (dk_at dksX0_of_3 13 rfl rfl)
theorem dX0_of_118 : decode cX0_of 118 = .ok (.getfield 17, 3) := dk_180 0 17 (dk_at dksX0_of_3 14 rfl rfl)
theorem dX0_of_121 : decode cX0_of 121 = .ok (.iload_n 1, 1) := dk_27 (dk_at dksX0_of_3 17 rfl rfl)
theorem dX0_of_122 : decode cX0_of 122 = .ok (.invokevirtual 288, 3) := dk_182 1 32 (dk_at dksX0_of_3 18 rfl rfl)
theorem dX0_of_125 : decode cX0_of 125 = .ok (.ireturn, 1) := dk_172 (dk_at dksX0_of_3 21 rfl rfl)
theorem dX0_of_126 : decode cX0_of 126 = .ok (.aload_n 3, 1) := dk_45 (dk_at dksX0_of_3 22 rfl rfl)
theorem dX0_of_127 : decode cX0_of 127 = .ok (.getfield 291, 3) := dk_180 1 35 (dk_at dksX0_of_4 0 rfl rfl)
theorem dX0_of_130 : decode cX0_of 130 = .ok (.ireturn, 1) := dk_172 (dk_at dksX0_of_4 3 rfl rfl)
theorem dX0_of_131 : decode cX0_of 131 = .ok (.aload_n 3, 1) := dk_45 (dk_at dksX0_of_4 4 rfl rfl)
theorem dX0_of_132 : decode cX0_of 132 = .ok (.getfield 294, 3) := dk_180 1 38 (dk_at dksX0_of_4 5 rfl rfl)
theorem dX0_of_135 : decode cX0_of 135 = .ok (.ireturn, 1) := dk_172 (dk_at dksX0_of_4 8 rfl rfl)
theorem dX0_of_136 : decode cX0_of 136 = .ok (.aload_n 3, 1) := dk_45 (dk_at dksX0_of_4 9 rfl rfl)
theorem dX0_of_137 : decode cX0_of 137 = .ok (.getfield 297, 3) := dk_180 1 41 (dk_at dksX0_of_4 10 rfl rfl)
theorem dX0_of_140 : decode cX0_of 140 = .ok (.ireturn, 1) := dk_172 (dk_at dksX0_of_4 13 rfl rfl)
theorem dX0_of_141 : decode cX0_of 141 = .ok (.aload_n 3, 1) := dk_45 (dk_at dksX0_of_4 14 rfl rfl)
theorem dX0_of_142 : decode cX0_of 142 = .ok (.getfield 300, 3) := dk_180 1 44 (dk_at dksX0_of_4 15 rfl rfl)
theorem dX0_of_145 : decode cX0_of 145 = .ok (.ireturn, 1) := dk_172 (dk_at dksX0_of_4 18 rfl rfl)
theorem dX0_of_146 : decode cX0_of 146 = .ok (.aload_n 3, 1) := dk_45 (dk_at dksX0_of_4 19 rfl rfl)
theorem dX0_of_147 : decode cX0_of 147 = .ok (.getfield 116, 3) := dk_180 0 116 (dk_at dksX0_of_4 20 rfl rfl)
theorem dX0_of_150 : decode cX0_of 150 = .ok (.invokevirtual 301, 3) := dk_182 1 45 (dk_at dksX0_of_5 0 rfl rfl)
theorem dX0_of_153 : decode cX0_of 153 = .ok (.ireturn, 1) := dk_172 (dk_at dksX0_of_5 3 rfl rfl)
theorem dX0_of_154 : decode cX0_of 154 = .ok (.aload_n 0, 1) := dk_42 (dk_at dksX0_of_5 4 rfl rfl)
theorem dX0_of_155 : decode cX0_of 155 = .ok (.getfield 17, 3) := dk_180 0 17 (dk_at dksX0_of_5 5 rfl rfl)
theorem dX0_of_158 : decode cX0_of 158 = .ok (.iload_n 1, 1) := dk_27 (dk_at dksX0_of_5 8 rfl rfl)
theorem dX0_of_159 : decode cX0_of 159 = .ok (.invokevirtual 183, 3) := dk_182 0 183 (dk_at dksX0_of_5 9 rfl rfl)
theorem dX0_of_162 : decode cX0_of 162 = .ok (.ireturn, 1) := dk_172 (dk_at dksX0_of_5 12 rfl rfl)
theorem dX0_of_163 : decode cX0_of 163 = .ok (.aload_n 3, 1) := dk_45 (dk_at dksX0_of_5 13 rfl rfl)
theorem dX0_of_164 : decode cX0_of 164 = .ok (.getfield 304, 3) := dk_180 1 48 (dk_at dksX0_of_5 14 rfl rfl)
theorem dX0_of_167 : decode cX0_of 167 = .ok (.ireturn, 1) := dk_172 (dk_at dksX0_of_5 17 rfl rfl)
theorem dX0_of_168 : decode cX0_of 168 = .ok (.aload_n 3, 1) := dk_45 (dk_at dksX0_of_5 18 rfl rfl)
theorem dX0_of_169 : decode cX0_of 169 = .ok (.getfield 150, 3) := dk_180 0 150 (dk_at dksX0_of_5 19 rfl rfl)
theorem dX0_of_172 : decode cX0_of 172 = .ok (.iload_n 2, 1) := dk_28 (dk_at dksX0_of_5 22 rfl rfl)
theorem dX0_of_173 : decode cX0_of 173 = .ok (.iconst 1, 1) := dk_4 (dk_at dksX0_of_5 23 rfl rfl)
theorem dX0_of_174 : decode cX0_of 174 = .ok (.isub, 1) := dk_100 (dk_at dksX0_of_6 0 rfl rfl)
theorem dX0_of_175 : decode cX0_of 175 = .ok (.iaload, 1) := dk_46 (dk_at dksX0_of_6 1 rfl rfl)
theorem dX0_of_176 : decode cX0_of 176 = .ok (.ireturn, 1) := dk_172 (dk_at dksX0_of_6 2 rfl rfl)
abbrev cX0_way : ByteArray := prog_1_method_27_code
def yX0_way : MethodName := ⟨RX0, "way", "(II)I"⟩
def dkwX0_way_2 : List UInt8 := [28, 46, 167, 0, 5, 16, 254, 172]
abbrev dktX0_way_2 : List UInt8 := dkwX0_way_2 ++ []
def dkwX0_way_1 : List UInt8 := [180, 0, 128, 4, 100, 133, 184, 0, 74, 153, 0, 20, 42, 180, 0, 17, 180, 0, 90, 27, 50, 180, 1, 51]
abbrev dktX0_way_1 : List UInt8 := dkwX0_way_1 ++ dktX0_way_2
def dkwX0_way_0 : List UInt8 := [42, 27, 182, 0, 112, 154, 0, 5, 2, 172, 28, 133, 9, 42, 180, 0, 17, 180, 0, 90, 27, 50]
abbrev dktX0_way_0 : List UInt8 := dkwX0_way_0 ++ dktX0_way_1
theorem dksX0_way_0 : cX0_way.data.toList.drop 0 = dktX0_way_0 := by decide +kernel
theorem dksX0_way_1 : cX0_way.data.toList.drop 22 = dktX0_way_1 := dk_seg dksX0_way_0 22 rfl rfl
theorem dksX0_way_2 : cX0_way.data.toList.drop 46 = dktX0_way_2 := dk_seg dksX0_way_1 24 rfl rfl
theorem dX0_way_0 : decode cX0_way 0 = .ok (.aload_n 0, 1) := dk_42 (dk_at dksX0_way_0 0 rfl rfl)
theorem dX0_way_1 : decode cX0_way 1 = .ok (.iload_n 1, 1) := dk_27 (dk_at dksX0_way_0 1 rfl rfl)
theorem dX0_way_2 : decode cX0_way 2 = .ok (.invokevirtual 112, 3) := dk_182 0 112 (dk_at dksX0_way_0 2 rfl rfl)
theorem dX0_way_5 : decode cX0_way 5 = .ok (.ifCond .ne 5, 3) := dk_154 0 5 (dk_at dksX0_way_0 5 rfl rfl)
theorem dX0_way_8 : decode cX0_way 8 = .ok (.iconst (-1), 1) := dk_2 (dk_at dksX0_way_0 8 rfl rfl)
theorem dX0_way_9 : decode cX0_way 9 = .ok (.ireturn, 1) := dk_172 (dk_at dksX0_way_0 9 rfl rfl)
theorem dX0_way_10 : decode cX0_way 10 = .ok (.iload_n 2, 1) := dk_28 (dk_at dksX0_way_0 10 rfl rfl)
theorem dX0_way_11 : decode cX0_way 11 = .ok (.i2l, 1) := dk_133 (dk_at dksX0_way_0 11 rfl rfl)
theorem dX0_way_12 : decode cX0_way 12 = .ok (.lconst 0, 1) := dk_9 (dk_at dksX0_way_0 12 rfl rfl)
theorem dX0_way_13 : decode cX0_way 13 = .ok (.aload_n 0, 1) := dk_42 (dk_at dksX0_way_0 13 rfl rfl)
theorem dX0_way_14 : decode cX0_way 14 = .ok (.getfield 17, 3) := dk_180 0 17 (dk_at dksX0_way_0 14 rfl rfl)
theorem dX0_way_17 : decode cX0_way 17 = .ok (.getfield 90, 3) := dk_180 0 90 (dk_at dksX0_way_0 17 rfl rfl)
theorem dX0_way_20 : decode cX0_way 20 = .ok (.iload_n 1, 1) := dk_27 (dk_at dksX0_way_0 20 rfl rfl)
theorem dX0_way_21 : decode cX0_way 21 = .ok (.aaload, 1) := dk_50 (dk_at dksX0_way_0 21 rfl rfl)
theorem dX0_way_22 : decode cX0_way 22 = .ok (.getfield 128, 3) := dk_180 0 128 (dk_at dksX0_way_1 0 rfl rfl)
theorem dX0_way_25 : decode cX0_way 25 = .ok (.iconst 1, 1) := dk_4 (dk_at dksX0_way_1 3 rfl rfl)
theorem dX0_way_26 : decode cX0_way 26 = .ok (.isub, 1) := dk_100 (dk_at dksX0_way_1 4 rfl rfl)
theorem dX0_way_27 : decode cX0_way 27 = .ok (.i2l, 1) := dk_133 (dk_at dksX0_way_1 5 rfl rfl)
theorem dX0_way_28 : decode cX0_way 28 = .ok (.invokestatic 74, 3) := dk_184 0 74 (dk_at dksX0_way_1 6 rfl rfl)
theorem dX0_way_31 : decode cX0_way 31 = .ok (.ifCond .eq 20, 3) := dk_153 0 20 (dk_at dksX0_way_1 9 rfl rfl)
theorem dX0_way_34 : decode cX0_way 34 = .ok (.aload_n 0, 1) := dk_42 (dk_at dksX0_way_1 12 rfl rfl)
theorem dX0_way_35 : decode cX0_way 35 = .ok (.getfield 17, 3) := dk_180 0 17 (dk_at dksX0_way_1 13 rfl rfl)
theorem dX0_way_38 : decode cX0_way 38 = .ok (.getfield 90, 3) := dk_180 0 90 (dk_at dksX0_way_1 16 rfl rfl)
theorem dX0_way_41 : decode cX0_way 41 = .ok (.iload_n 1, 1) := dk_27 (dk_at dksX0_way_1 19 rfl rfl)
theorem dX0_way_42 : decode cX0_way 42 = .ok (.aaload, 1) := dk_50 (dk_at dksX0_way_1 20 rfl rfl)
theorem dX0_way_43 : decode cX0_way 43 = .ok (.getfield 307, 3) := dk_180 1 51 (dk_at dksX0_way_1 21 rfl rfl)
theorem dX0_way_46 : decode cX0_way 46 = .ok (.iload_n 2, 1) := dk_28 (dk_at dksX0_way_2 0 rfl rfl)
theorem dX0_way_47 : decode cX0_way 47 = .ok (.iaload, 1) := dk_46 (dk_at dksX0_way_2 1 rfl rfl)
theorem dX0_way_48 : decode cX0_way 48 = .ok (.goto 5, 3) := dk_167 0 5 (dk_at dksX0_way_2 2 rfl rfl)
theorem dX0_way_51 : decode cX0_way 51 = .ok (.bipush (-2), 2) := dk_16 254 (dk_at dksX0_way_2 5 rfl rfl)
theorem dX0_way_53 : decode cX0_way 53 = .ok (.ireturn, 1) := dk_172 (dk_at dksX0_way_2 7 rfl rfl)
abbrev cX0_clear : ByteArray := prog_1_method_28_code
def yX0_clear : MethodName := ⟨RX0, "clear", "(II)I"⟩
def dkwX0_clear_1 : List UInt8 := [153, 0, 15, 42, 180, 0, 17, 27, 28, 182, 1, 54, 167, 0, 4, 2, 172]
abbrev dktX0_clear_1 : List UInt8 := dkwX0_clear_1 ++ []
def dkwX0_clear_0 : List UInt8 := [5, 188, 4, 89, 3, 42, 27, 182, 0, 112, 84, 89, 4, 42, 28, 182, 0, 112, 84, 184, 0, 82]
abbrev dktX0_clear_0 : List UInt8 := dkwX0_clear_0 ++ dktX0_clear_1
theorem dksX0_clear_0 : cX0_clear.data.toList.drop 0 = dktX0_clear_0 := by decide +kernel
theorem dksX0_clear_1 : cX0_clear.data.toList.drop 22 = dktX0_clear_1 := dk_seg dksX0_clear_0 22 rfl rfl
theorem dX0_clear_0 : decode cX0_clear 0 = .ok (.iconst 2, 1) := dk_5 (dk_at dksX0_clear_0 0 rfl rfl)
theorem dX0_clear_1 : decode cX0_clear 1 = .ok (.newarray .boolean, 2) := dk_188_4 (dk_at dksX0_clear_0 1 rfl rfl)
theorem dX0_clear_3 : decode cX0_clear 3 = .ok (.dup, 1) := dk_89 (dk_at dksX0_clear_0 3 rfl rfl)
theorem dX0_clear_4 : decode cX0_clear 4 = .ok (.iconst 0, 1) := dk_3 (dk_at dksX0_clear_0 4 rfl rfl)
theorem dX0_clear_5 : decode cX0_clear 5 = .ok (.aload_n 0, 1) := dk_42 (dk_at dksX0_clear_0 5 rfl rfl)
theorem dX0_clear_6 : decode cX0_clear 6 = .ok (.iload_n 1, 1) := dk_27 (dk_at dksX0_clear_0 6 rfl rfl)
theorem dX0_clear_7 : decode cX0_clear 7 = .ok (.invokevirtual 112, 3) := dk_182 0 112 (dk_at dksX0_clear_0 7 rfl rfl)
theorem dX0_clear_10 : decode cX0_clear 10 = .ok (.bastore, 1) := dk_84 (dk_at dksX0_clear_0 10 rfl rfl)
theorem dX0_clear_11 : decode cX0_clear 11 = .ok (.dup, 1) := dk_89 (dk_at dksX0_clear_0 11 rfl rfl)
theorem dX0_clear_12 : decode cX0_clear 12 = .ok (.iconst 1, 1) := dk_4 (dk_at dksX0_clear_0 12 rfl rfl)
theorem dX0_clear_13 : decode cX0_clear 13 = .ok (.aload_n 0, 1) := dk_42 (dk_at dksX0_clear_0 13 rfl rfl)
theorem dX0_clear_14 : decode cX0_clear 14 = .ok (.iload_n 2, 1) := dk_28 (dk_at dksX0_clear_0 14 rfl rfl)
theorem dX0_clear_15 : decode cX0_clear 15 = .ok (.invokevirtual 112, 3) := dk_182 0 112 (dk_at dksX0_clear_0 15 rfl rfl)
theorem dX0_clear_18 : decode cX0_clear 18 = .ok (.bastore, 1) := dk_84 (dk_at dksX0_clear_0 18 rfl rfl)
theorem dX0_clear_19 : decode cX0_clear 19 = .ok (.invokestatic 82, 3) := dk_184 0 82 (dk_at dksX0_clear_0 19 rfl rfl)
theorem dX0_clear_22 : decode cX0_clear 22 = .ok (.ifCond .eq 15, 3) := dk_153 0 15 (dk_at dksX0_clear_1 0 rfl rfl)
theorem dX0_clear_25 : decode cX0_clear 25 = .ok (.aload_n 0, 1) := dk_42 (dk_at dksX0_clear_1 3 rfl rfl)
theorem dX0_clear_26 : decode cX0_clear 26 = .ok (.getfield 17, 3) := dk_180 0 17 (dk_at dksX0_clear_1 4 rfl rfl)
theorem dX0_clear_29 : decode cX0_clear 29 = .ok (.iload_n 1, 1) := dk_27 (dk_at dksX0_clear_1 7 rfl rfl)
theorem dX0_clear_30 : decode cX0_clear 30 = .ok (.iload_n 2, 1) := dk_28 (dk_at dksX0_clear_1 8 rfl rfl)
theorem dX0_clear_31 : decode cX0_clear 31 = .ok (.invokevirtual 310, 3) := dk_182 1 54 (dk_at dksX0_clear_1 9 rfl rfl)
theorem dX0_clear_34 : decode cX0_clear 34 = .ok (.goto 4, 3) := dk_167 0 4 (dk_at dksX0_clear_1 12 rfl rfl)
theorem dX0_clear_37 : decode cX0_clear 37 = .ok (.iconst (-1), 1) := dk_2 (dk_at dksX0_clear_1 15 rfl rfl)
theorem dX0_clear_38 : decode cX0_clear 38 = .ok (.ireturn, 1) := dk_172 (dk_at dksX0_clear_1 16 rfl rfl)
abbrev cX0_narrow : ByteArray := prog_1_method_29_code
def yX0_narrow : MethodName := ⟨RX0, "narrow", "(II)I"⟩
def dkwX0_narrow_3 : List UInt8 := [184, 1, 61, 46, 167, 0, 5, 16, 251, 172]
abbrev dktX0_narrow_3 : List UInt8 := dkwX0_narrow_3 ++ []
def dkwX0_narrow_2 : List UInt8 := [27, 50, 180, 1, 51, 42, 180, 0, 17, 180, 0, 90, 27, 50, 42, 180, 0, 17, 180, 0, 90, 28, 50]
abbrev dktX0_narrow_2 : List UInt8 := dkwX0_narrow_2 ++ dktX0_narrow_3
def dkwX0_narrow_1 : List UInt8 := [154, 0, 5, 2, 172, 42, 180, 0, 17, 27, 28, 182, 1, 57, 153, 0, 40, 42, 180, 0, 17, 180, 0, 90]
abbrev dktX0_narrow_1 : List UInt8 := dkwX0_narrow_1 ++ dktX0_narrow_2
def dkwX0_narrow_0 : List UInt8 := [5, 188, 4, 89, 3, 42, 27, 182, 0, 112, 84, 89, 4, 42, 28, 182, 0, 112, 84, 184, 0, 82]
abbrev dktX0_narrow_0 : List UInt8 := dkwX0_narrow_0 ++ dktX0_narrow_1
theorem dksX0_narrow_0 : cX0_narrow.data.toList.drop 0 = dktX0_narrow_0 := by decide +kernel
theorem dksX0_narrow_1 : cX0_narrow.data.toList.drop 22 = dktX0_narrow_1 := dk_seg dksX0_narrow_0 22 rfl rfl
theorem dksX0_narrow_2 : cX0_narrow.data.toList.drop 46 = dktX0_narrow_2 := dk_seg dksX0_narrow_1 24 rfl rfl
theorem dksX0_narrow_3 : cX0_narrow.data.toList.drop 69 = dktX0_narrow_3 := dk_seg dksX0_narrow_2 23 rfl rfl
theorem dX0_narrow_0 : decode cX0_narrow 0 = .ok (.iconst 2, 1) := dk_5 (dk_at dksX0_narrow_0 0 rfl rfl)
theorem dX0_narrow_1 : decode cX0_narrow 1 = .ok (.newarray .boolean, 2) := dk_188_4 (dk_at dksX0_narrow_0 1 rfl rfl)
theorem dX0_narrow_3 : decode cX0_narrow 3 = .ok (.dup, 1) := dk_89 (dk_at dksX0_narrow_0 3 rfl rfl)
theorem dX0_narrow_4 : decode cX0_narrow 4 = .ok (.iconst 0, 1) := dk_3 (dk_at dksX0_narrow_0 4 rfl rfl)
theorem dX0_narrow_5 : decode cX0_narrow 5 = .ok (.aload_n 0, 1) := dk_42 (dk_at dksX0_narrow_0 5 rfl rfl)
theorem dX0_narrow_6 : decode cX0_narrow 6 = .ok (.iload_n 1, 1) := dk_27 (dk_at dksX0_narrow_0 6 rfl rfl)
theorem dX0_narrow_7 : decode cX0_narrow 7 = .ok (.invokevirtual 112, 3) := dk_182 0 112 (dk_at dksX0_narrow_0 7 rfl rfl)
theorem dX0_narrow_10 : decode cX0_narrow 10 = .ok (.bastore, 1) := dk_84 (dk_at dksX0_narrow_0 10 rfl rfl)
theorem dX0_narrow_11 : decode cX0_narrow 11 = .ok (.dup, 1) := dk_89 (dk_at dksX0_narrow_0 11 rfl rfl)
theorem dX0_narrow_12 : decode cX0_narrow 12 = .ok (.iconst 1, 1) := dk_4 (dk_at dksX0_narrow_0 12 rfl rfl)
theorem dX0_narrow_13 : decode cX0_narrow 13 = .ok (.aload_n 0, 1) := dk_42 (dk_at dksX0_narrow_0 13 rfl rfl)
theorem dX0_narrow_14 : decode cX0_narrow 14 = .ok (.iload_n 2, 1) := dk_28 (dk_at dksX0_narrow_0 14 rfl rfl)
theorem dX0_narrow_15 : decode cX0_narrow 15 = .ok (.invokevirtual 112, 3) := dk_182 0 112 (dk_at dksX0_narrow_0 15 rfl rfl)
theorem dX0_narrow_18 : decode cX0_narrow 18 = .ok (.bastore, 1) := dk_84 (dk_at dksX0_narrow_0 18 rfl rfl)
theorem dX0_narrow_19 : decode cX0_narrow 19 = .ok (.invokestatic 82, 3) := dk_184 0 82 (dk_at dksX0_narrow_0 19 rfl rfl)
theorem dX0_narrow_22 : decode cX0_narrow 22 = .ok (.ifCond .ne 5, 3) := dk_154 0 5 (dk_at dksX0_narrow_1 0 rfl rfl)
theorem dX0_narrow_25 : decode cX0_narrow 25 = .ok (.iconst (-1), 1) := dk_2 (dk_at dksX0_narrow_1 3 rfl rfl)
theorem dX0_narrow_26 : decode cX0_narrow 26 = .ok (.ireturn, 1) := dk_172 (dk_at dksX0_narrow_1 4 rfl rfl)
theorem dX0_narrow_27 : decode cX0_narrow 27 = .ok (.aload_n 0, 1) := dk_42 (dk_at dksX0_narrow_1 5 rfl rfl)
theorem dX0_narrow_28 : decode cX0_narrow 28 = .ok (.getfield 17, 3) := dk_180 0 17 (dk_at dksX0_narrow_1 6 rfl rfl)
theorem dX0_narrow_31 : decode cX0_narrow 31 = .ok (.iload_n 1, 1) := dk_27 (dk_at dksX0_narrow_1 9 rfl rfl)
theorem dX0_narrow_32 : decode cX0_narrow 32 = .ok (.iload_n 2, 1) := dk_28 (dk_at dksX0_narrow_1 10 rfl rfl)
theorem dX0_narrow_33 : decode cX0_narrow 33 = .ok (.invokevirtual 313, 3) := dk_182 1 57 (dk_at dksX0_narrow_1 11 rfl rfl)
theorem dX0_narrow_36 : decode cX0_narrow 36 = .ok (.ifCond .eq 40, 3) := dk_153 0 40 (dk_at dksX0_narrow_1 14 rfl rfl)
theorem dX0_narrow_39 : decode cX0_narrow 39 = .ok (.aload_n 0, 1) := dk_42 (dk_at dksX0_narrow_1 17 rfl rfl)
theorem dX0_narrow_40 : decode cX0_narrow 40 = .ok (.getfield 17, 3) := dk_180 0 17 (dk_at dksX0_narrow_1 18 rfl rfl)
theorem dX0_narrow_43 : decode cX0_narrow 43 = .ok (.getfield 90, 3) := dk_180 0 90 (dk_at dksX0_narrow_1 21 rfl rfl)
theorem dX0_narrow_46 : decode cX0_narrow 46 = .ok (.iload_n 1, 1) := dk_27 (dk_at dksX0_narrow_2 0 rfl rfl)
theorem dX0_narrow_47 : decode cX0_narrow 47 = .ok (.aaload, 1) := dk_50 (dk_at dksX0_narrow_2 1 rfl rfl)
theorem dX0_narrow_48 : decode cX0_narrow 48 = .ok (.getfield 307, 3) := dk_180 1 51 (dk_at dksX0_narrow_2 2 rfl rfl)
theorem dX0_narrow_51 : decode cX0_narrow 51 = .ok (.aload_n 0, 1) := dk_42 (dk_at dksX0_narrow_2 5 rfl rfl)
theorem dX0_narrow_52 : decode cX0_narrow 52 = .ok (.getfield 17, 3) := dk_180 0 17 (dk_at dksX0_narrow_2 6 rfl rfl)
theorem dX0_narrow_55 : decode cX0_narrow 55 = .ok (.getfield 90, 3) := dk_180 0 90 (dk_at dksX0_narrow_2 9 rfl rfl)
theorem dX0_narrow_58 : decode cX0_narrow 58 = .ok (.iload_n 1, 1) := dk_27 (dk_at dksX0_narrow_2 12 rfl rfl)
theorem dX0_narrow_59 : decode cX0_narrow 59 = .ok (.aaload, 1) := dk_50 (dk_at dksX0_narrow_2 13 rfl rfl)
theorem dX0_narrow_60 : decode cX0_narrow 60 = .ok (.aload_n 0, 1) := dk_42 (dk_at dksX0_narrow_2 14 rfl rfl)
theorem dX0_narrow_61 : decode cX0_narrow 61 = .ok (.getfield 17, 3) := dk_180 0 17 (dk_at dksX0_narrow_2 15 rfl rfl)
theorem dX0_narrow_64 : decode cX0_narrow 64 = .ok (.getfield 90, 3) := dk_180 0 90 (dk_at dksX0_narrow_2 18 rfl rfl)
theorem dX0_narrow_67 : decode cX0_narrow 67 = .ok (.iload_n 2, 1) := dk_28 (dk_at dksX0_narrow_2 21 rfl rfl)
theorem dX0_narrow_68 : decode cX0_narrow 68 = .ok (.aaload, 1) := dk_50 (dk_at dksX0_narrow_2 22 rfl rfl)
theorem dX0_narrow_69 : decode cX0_narrow 69 = .ok (.invokestatic 317, 3) := dk_184 1 61 (dk_at dksX0_narrow_3 0 rfl rfl)
theorem dX0_narrow_72 : decode cX0_narrow 72 = .ok (.iaload, 1) := dk_46 (dk_at dksX0_narrow_3 3 rfl rfl)
theorem dX0_narrow_73 : decode cX0_narrow 73 = .ok (.goto 5, 3) := dk_167 0 5 (dk_at dksX0_narrow_3 4 rfl rfl)
theorem dX0_narrow_76 : decode cX0_narrow 76 = .ok (.bipush (-5), 2) := dk_16 251 (dk_at dksX0_narrow_3 7 rfl rfl)
theorem dX0_narrow_78 : decode cX0_narrow 78 = .ok (.ireturn, 1) := dk_172 (dk_at dksX0_narrow_3 9 rfl rfl)
abbrev cX0_table : ByteArray := prog_1_method_30_code
def yX0_table : MethodName := ⟨RX0, "table", "(I)I"⟩
def dkwX0_table_8 : List UInt8 := [104, 172, 2, 172]
abbrev dktX0_table_8 : List UInt8 := dkwX0_table_8 ++ []
def dkwX0_table_7 : List UInt8 := [28, 5, 108, 172, 29, 172, 21, 4, 172, 42, 180, 0, 17, 180, 0, 125, 4, 96, 29, 21, 5, 96, 4, 96]
abbrev dktX0_table_7 : List UInt8 := dkwX0_table_7 ++ dktX0_table_8
def dkwX0_table_6 : List UInt8 := [170, 0, 0, 0, 0, 56, 0, 0, 0, 0, 0, 0, 0, 3, 0, 0, 0, 30, 0, 0, 0, 34, 0, 0, 0, 36, 0, 0, 0, 39]
abbrev dktX0_table_6 : List UInt8 := dkwX0_table_6 ++ dktX0_table_7
def dkwX0_table_5 : List UInt8 := [132, 6, 1, 167, 255, 151, 27]
abbrev dktX0_table_5 : List UInt8 := dkwX0_table_5 ++ dktX0_table_6
def dkwX0_table_4 : List UInt8 := [54, 4, 29, 42, 180, 0, 17, 21, 6, 21, 7, 182, 1, 54, 184, 1, 65, 62, 132, 7, 1, 167, 255, 192]
abbrev dktX0_table_4 : List UInt8 := dkwX0_table_4 ++ dktX0_table_5
def dkwX0_table_3 : List UInt8 := [182, 1, 57, 153, 0, 38, 132, 2, 1, 21, 4, 42, 180, 0, 17, 21, 6, 21, 7, 182, 1, 54, 96]
abbrev dktX0_table_3 : List UInt8 := dkwX0_table_3 ++ dktX0_table_4
def dkwX0_table_2 : List UInt8 := [54, 7, 21, 7, 42, 180, 0, 17, 180, 0, 71, 162, 0, 58, 42, 180, 0, 17, 21, 6, 21, 7]
abbrev dktX0_table_2 : List UInt8 := dkwX0_table_2 ++ dktX0_table_3
def dkwX0_table_1 : List UInt8 := [162, 0, 99, 21, 5, 42, 180, 0, 17, 180, 0, 90, 21, 6, 50, 182, 0, 131, 184, 1, 65, 54, 5, 3]
abbrev dktX0_table_1 : List UInt8 := dkwX0_table_1 ++ dktX0_table_2
def dkwX0_table_0 : List UInt8 := [3, 61, 3, 62, 3, 54, 4, 3, 54, 5, 3, 54, 6, 21, 6, 42, 180, 0, 17, 180, 0, 71]
abbrev dktX0_table_0 : List UInt8 := dkwX0_table_0 ++ dktX0_table_1
theorem dksX0_table_0 : cX0_table.data.toList.drop 0 = dktX0_table_0 := by decide +kernel
theorem dksX0_table_1 : cX0_table.data.toList.drop 22 = dktX0_table_1 := dk_seg dksX0_table_0 22 rfl rfl
theorem dksX0_table_2 : cX0_table.data.toList.drop 46 = dktX0_table_2 := dk_seg dksX0_table_1 24 rfl rfl
theorem dksX0_table_3 : cX0_table.data.toList.drop 68 = dktX0_table_3 := dk_seg dksX0_table_2 22 rfl rfl
theorem dksX0_table_4 : cX0_table.data.toList.drop 91 = dktX0_table_4 := dk_seg dksX0_table_3 23 rfl rfl
theorem dksX0_table_5 : cX0_table.data.toList.drop 115 = dktX0_table_5 := dk_seg dksX0_table_4 24 rfl rfl
theorem dksX0_table_6 : cX0_table.data.toList.drop 122 = dktX0_table_6 := dk_seg dksX0_table_5 7 rfl rfl
theorem dksX0_table_7 : cX0_table.data.toList.drop 152 = dktX0_table_7 := dk_seg dksX0_table_6 30 rfl rfl
theorem dksX0_table_8 : cX0_table.data.toList.drop 176 = dktX0_table_8 := dk_seg dksX0_table_7 24 rfl rfl
theorem dX0_table_0 : decode cX0_table 0 = .ok (.iconst 0, 1) := dk_3 (dk_at dksX0_table_0 0 rfl rfl)
theorem dX0_table_1 : decode cX0_table 1 = .ok (.istore_n 2, 1) := dk_61 (dk_at dksX0_table_0 1 rfl rfl)
theorem dX0_table_2 : decode cX0_table 2 = .ok (.iconst 0, 1) := dk_3 (dk_at dksX0_table_0 2 rfl rfl)
theorem dX0_table_3 : decode cX0_table 3 = .ok (.istore_n 3, 1) := dk_62 (dk_at dksX0_table_0 3 rfl rfl)
theorem dX0_table_4 : decode cX0_table 4 = .ok (.iconst 0, 1) := dk_3 (dk_at dksX0_table_0 4 rfl rfl)
theorem dX0_table_5 : decode cX0_table 5 = .ok (.istore 4, 2) := dk_54 4 (dk_at dksX0_table_0 5 rfl rfl)
theorem dX0_table_7 : decode cX0_table 7 = .ok (.iconst 0, 1) := dk_3 (dk_at dksX0_table_0 7 rfl rfl)
theorem dX0_table_8 : decode cX0_table 8 = .ok (.istore 5, 2) := dk_54 5 (dk_at dksX0_table_0 8 rfl rfl)
theorem dX0_table_10 : decode cX0_table 10 = .ok (.iconst 0, 1) := dk_3 (dk_at dksX0_table_0 10 rfl rfl)
theorem dX0_table_11 : decode cX0_table 11 = .ok (.istore 6, 2) := dk_54 6 (dk_at dksX0_table_0 11 rfl rfl)
theorem dX0_table_13 : decode cX0_table 13 = .ok (.iload 6, 2) := dk_21 6 (dk_at dksX0_table_0 13 rfl rfl)
theorem dX0_table_15 : decode cX0_table 15 = .ok (.aload_n 0, 1) := dk_42 (dk_at dksX0_table_0 15 rfl rfl)
theorem dX0_table_16 : decode cX0_table 16 = .ok (.getfield 17, 3) := dk_180 0 17 (dk_at dksX0_table_0 16 rfl rfl)
theorem dX0_table_19 : decode cX0_table 19 = .ok (.getfield 71, 3) := dk_180 0 71 (dk_at dksX0_table_0 19 rfl rfl)
theorem dX0_table_22 : decode cX0_table 22 = .ok (.if_icmp .ge 99, 3) := dk_162 0 99 (dk_at dksX0_table_1 0 rfl rfl)
theorem dX0_table_25 : decode cX0_table 25 = .ok (.iload 5, 2) := dk_21 5 (dk_at dksX0_table_1 3 rfl rfl)
theorem dX0_table_27 : decode cX0_table 27 = .ok (.aload_n 0, 1) := dk_42 (dk_at dksX0_table_1 5 rfl rfl)
theorem dX0_table_28 : decode cX0_table 28 = .ok (.getfield 17, 3) := dk_180 0 17 (dk_at dksX0_table_1 6 rfl rfl)
theorem dX0_table_31 : decode cX0_table 31 = .ok (.getfield 90, 3) := dk_180 0 90 (dk_at dksX0_table_1 9 rfl rfl)
theorem dX0_table_34 : decode cX0_table 34 = .ok (.iload 6, 2) := dk_21 6 (dk_at dksX0_table_1 12 rfl rfl)
theorem dX0_table_36 : decode cX0_table 36 = .ok (.aaload, 1) := dk_50 (dk_at dksX0_table_1 14 rfl rfl)
theorem dX0_table_37 : decode cX0_table 37 = .ok (.invokevirtual 131, 3) := dk_182 0 131 (dk_at dksX0_table_1 15 rfl rfl)
theorem dX0_table_40 : decode cX0_table 40 = .ok (.invokestatic 321, 3) := dk_184 1 65 (dk_at dksX0_table_1 18 rfl rfl)
theorem dX0_table_43 : decode cX0_table 43 = .ok (.istore 5, 2) := dk_54 5 (dk_at dksX0_table_1 21 rfl rfl)
theorem dX0_table_45 : decode cX0_table 45 = .ok (.iconst 0, 1) := dk_3 (dk_at dksX0_table_1 23 rfl rfl)
theorem dX0_table_46 : decode cX0_table 46 = .ok (.istore 7, 2) := dk_54 7 (dk_at dksX0_table_2 0 rfl rfl)
theorem dX0_table_48 : decode cX0_table 48 = .ok (.iload 7, 2) := dk_21 7 (dk_at dksX0_table_2 2 rfl rfl)
theorem dX0_table_50 : decode cX0_table 50 = .ok (.aload_n 0, 1) := dk_42 (dk_at dksX0_table_2 4 rfl rfl)
theorem dX0_table_51 : decode cX0_table 51 = .ok (.getfield 17, 3) := dk_180 0 17 (dk_at dksX0_table_2 5 rfl rfl)
theorem dX0_table_54 : decode cX0_table 54 = .ok (.getfield 71, 3) := dk_180 0 71 (dk_at dksX0_table_2 8 rfl rfl)
theorem dX0_table_57 : decode cX0_table 57 = .ok (.if_icmp .ge 58, 3) := dk_162 0 58 (dk_at dksX0_table_2 11 rfl rfl)
theorem dX0_table_60 : decode cX0_table 60 = .ok (.aload_n 0, 1) := dk_42 (dk_at dksX0_table_2 14 rfl rfl)
theorem dX0_table_61 : decode cX0_table 61 = .ok (.getfield 17, 3) := dk_180 0 17 (dk_at dksX0_table_2 15 rfl rfl)
theorem dX0_table_64 : decode cX0_table 64 = .ok (.iload 6, 2) := dk_21 6 (dk_at dksX0_table_2 18 rfl rfl)
theorem dX0_table_66 : decode cX0_table 66 = .ok (.iload 7, 2) := dk_21 7 (dk_at dksX0_table_2 20 rfl rfl)
theorem dX0_table_68 : decode cX0_table 68 = .ok (.invokevirtual 313, 3) := dk_182 1 57 (dk_at dksX0_table_3 0 rfl rfl)
theorem dX0_table_71 : decode cX0_table 71 = .ok (.ifCond .eq 38, 3) := dk_153 0 38 (dk_at dksX0_table_3 3 rfl rfl)
theorem dX0_table_74 : decode cX0_table 74 = .ok (.iinc 2 1, 3) := dk_132 2 1 (dk_at dksX0_table_3 6 rfl rfl)
theorem dX0_table_77 : decode cX0_table 77 = .ok (.iload 4, 2) := dk_21 4 (dk_at dksX0_table_3 9 rfl rfl)
theorem dX0_table_79 : decode cX0_table 79 = .ok (.aload_n 0, 1) := dk_42 (dk_at dksX0_table_3 11 rfl rfl)
theorem dX0_table_80 : decode cX0_table 80 = .ok (.getfield 17, 3) := dk_180 0 17 (dk_at dksX0_table_3 12 rfl rfl)
theorem dX0_table_83 : decode cX0_table 83 = .ok (.iload 6, 2) := dk_21 6 (dk_at dksX0_table_3 15 rfl rfl)
theorem dX0_table_85 : decode cX0_table 85 = .ok (.iload 7, 2) := dk_21 7 (dk_at dksX0_table_3 17 rfl rfl)
theorem dX0_table_87 : decode cX0_table 87 = .ok (.invokevirtual 310, 3) := dk_182 1 54 (dk_at dksX0_table_3 19 rfl rfl)
theorem dX0_table_90 : decode cX0_table 90 = .ok (.iadd, 1) := dk_96 (dk_at dksX0_table_3 22 rfl rfl)
theorem dX0_table_91 : decode cX0_table 91 = .ok (.istore 4, 2) := dk_54 4 (dk_at dksX0_table_4 0 rfl rfl)
theorem dX0_table_93 : decode cX0_table 93 = .ok (.iload_n 3, 1) := dk_29 (dk_at dksX0_table_4 2 rfl rfl)
theorem dX0_table_94 : decode cX0_table 94 = .ok (.aload_n 0, 1) := dk_42 (dk_at dksX0_table_4 3 rfl rfl)
theorem dX0_table_95 : decode cX0_table 95 = .ok (.getfield 17, 3) := dk_180 0 17 (dk_at dksX0_table_4 4 rfl rfl)
theorem dX0_table_98 : decode cX0_table 98 = .ok (.iload 6, 2) := dk_21 6 (dk_at dksX0_table_4 7 rfl rfl)
theorem dX0_table_100 : decode cX0_table 100 = .ok (.iload 7, 2) := dk_21 7 (dk_at dksX0_table_4 9 rfl rfl)
theorem dX0_table_102 : decode cX0_table 102 = .ok (.invokevirtual 310, 3) := dk_182 1 54 (dk_at dksX0_table_4 11 rfl rfl)
theorem dX0_table_105 : decode cX0_table 105 = .ok (.invokestatic 321, 3) := dk_184 1 65 (dk_at dksX0_table_4 14 rfl rfl)
theorem dX0_table_108 : decode cX0_table 108 = .ok (.istore_n 3, 1) := dk_62 (dk_at dksX0_table_4 17 rfl rfl)
theorem dX0_table_109 : decode cX0_table 109 = .ok (.iinc 7 1, 3) := dk_132 7 1 (dk_at dksX0_table_4 18 rfl rfl)
theorem dX0_table_112 : decode cX0_table 112 = .ok (.goto (-64), 3) := dk_167 255 192 (dk_at dksX0_table_4 21 rfl rfl)
theorem dX0_table_115 : decode cX0_table 115 = .ok (.iinc 6 1, 3) := dk_132 6 1 (dk_at dksX0_table_5 0 rfl rfl)
theorem dX0_table_118 : decode cX0_table 118 = .ok (.goto (-105), 3) := dk_167 255 151 (dk_at dksX0_table_5 3 rfl rfl)
theorem dX0_table_121 : decode cX0_table 121 = .ok (.iload_n 1, 1) := dk_27 (dk_at dksX0_table_5 6 rfl rfl)
theorem dX0_table_122 : decode cX0_table 122 = .ok (.tableswitch 56 0 3 #[30, 34, 36, 39], 30) := by decide +kernel
theorem dX0_table_152 : decode cX0_table 152 = .ok (.iload_n 2, 1) := dk_28 (dk_at dksX0_table_7 0 rfl rfl)
theorem dX0_table_153 : decode cX0_table 153 = .ok (.iconst 2, 1) := dk_5 (dk_at dksX0_table_7 1 rfl rfl)
theorem dX0_table_154 : decode cX0_table 154 = .ok (.idiv, 1) := dk_108 (dk_at dksX0_table_7 2 rfl rfl)
theorem dX0_table_155 : decode cX0_table 155 = .ok (.ireturn, 1) := dk_172 (dk_at dksX0_table_7 3 rfl rfl)
theorem dX0_table_156 : decode cX0_table 156 = .ok (.iload_n 3, 1) := dk_29 (dk_at dksX0_table_7 4 rfl rfl)
theorem dX0_table_157 : decode cX0_table 157 = .ok (.ireturn, 1) := dk_172 (dk_at dksX0_table_7 5 rfl rfl)
theorem dX0_table_158 : decode cX0_table 158 = .ok (.iload 4, 2) := dk_21 4 (dk_at dksX0_table_7 6 rfl rfl)
theorem dX0_table_160 : decode cX0_table 160 = .ok (.ireturn, 1) := dk_172 (dk_at dksX0_table_7 8 rfl rfl)
theorem dX0_table_161 : decode cX0_table 161 = .ok (.aload_n 0, 1) := dk_42 (dk_at dksX0_table_7 9 rfl rfl)
theorem dX0_table_162 : decode cX0_table 162 = .ok (.getfield 17, 3) := dk_180 0 17 (dk_at dksX0_table_7 10 rfl rfl)
theorem dX0_table_165 : decode cX0_table 165 = .ok (.getfield 125, 3) := dk_180 0 125 (dk_at dksX0_table_7 13 rfl rfl)
theorem dX0_table_168 : decode cX0_table 168 = .ok (.iconst 1, 1) := dk_4 (dk_at dksX0_table_7 16 rfl rfl)
theorem dX0_table_169 : decode cX0_table 169 = .ok (.iadd, 1) := dk_96 (dk_at dksX0_table_7 17 rfl rfl)
theorem dX0_table_170 : decode cX0_table 170 = .ok (.iload_n 3, 1) := dk_29 (dk_at dksX0_table_7 18 rfl rfl)
theorem dX0_table_171 : decode cX0_table 171 = .ok (.iload 5, 2) := dk_21 5 (dk_at dksX0_table_7 19 rfl rfl)
theorem dX0_table_173 : decode cX0_table 173 = .ok (.iadd, 1) := dk_96 (dk_at dksX0_table_7 21 rfl rfl)
theorem dX0_table_174 : decode cX0_table 174 = .ok (.iconst 1, 1) := dk_4 (dk_at dksX0_table_7 22 rfl rfl)
theorem dX0_table_175 : decode cX0_table 175 = .ok (.iadd, 1) := dk_96 (dk_at dksX0_table_7 23 rfl rfl)
theorem dX0_table_176 : decode cX0_table 176 = .ok (.imul, 1) := dk_104 (dk_at dksX0_table_8 0 rfl rfl)
theorem dX0_table_177 : decode cX0_table 177 = .ok (.ireturn, 1) := dk_172 (dk_at dksX0_table_8 1 rfl rfl)
theorem dX0_table_178 : decode cX0_table 178 = .ok (.iconst (-1), 1) := dk_2 (dk_at dksX0_table_8 2 rfl rfl)
theorem dX0_table_179 : decode cX0_table 179 = .ok (.ireturn, 1) := dk_172 (dk_at dksX0_table_8 3 rfl rfl)
abbrev cX0_phaseOf : ByteArray := prog_1_method_31_code
def yX0_phaseOf : MethodName := ⟨RX0, "phaseOf", "(II)I"⟩
def dkwX0_phaseOf_4 : List UInt8 := [167, 0, 4, 3, 172]
abbrev dktX0_phaseOf_4 : List UInt8 := dkwX0_phaseOf_4 ++ []
def dkwX0_phaseOf_3 : List UInt8 := [160, 0, 10, 45, 180, 0, 205, 167, 0, 19, 42, 180, 0, 17, 27, 182, 1, 74, 153, 0, 7, 4]
abbrev dktX0_phaseOf_3 : List UInt8 := dkwX0_phaseOf_3 ++ dktX0_phaseOf_4
def dkwX0_phaseOf_2 : List UInt8 := [154, 0, 10, 45, 180, 1, 68, 167, 0, 43, 28, 4, 160, 0, 10, 45, 180, 1, 71, 167, 0, 31, 28, 5]
abbrev dktX0_phaseOf_2 : List UInt8 := dkwX0_phaseOf_2 ++ dktX0_phaseOf_3
def dkwX0_phaseOf_1 : List UInt8 := [20, 0, 78, 184, 0, 74, 154, 0, 5, 2, 172, 42, 180, 0, 17, 180, 0, 192, 27, 50, 78, 28]
abbrev dktX0_phaseOf_1 : List UInt8 := dkwX0_phaseOf_1 ++ dktX0_phaseOf_2
def dkwX0_phaseOf_0 : List UInt8 := [27, 133, 9, 42, 180, 0, 17, 180, 0, 125, 4, 100, 133, 184, 0, 74, 153, 0, 15, 28, 133, 9]
abbrev dktX0_phaseOf_0 : List UInt8 := dkwX0_phaseOf_0 ++ dktX0_phaseOf_1
theorem dksX0_phaseOf_0 : cX0_phaseOf.data.toList.drop 0 = dktX0_phaseOf_0 := by decide +kernel
theorem dksX0_phaseOf_1 : cX0_phaseOf.data.toList.drop 22 = dktX0_phaseOf_1 := dk_seg dksX0_phaseOf_0 22 rfl rfl
theorem dksX0_phaseOf_2 : cX0_phaseOf.data.toList.drop 44 = dktX0_phaseOf_2 := dk_seg dksX0_phaseOf_1 22 rfl rfl
theorem dksX0_phaseOf_3 : cX0_phaseOf.data.toList.drop 68 = dktX0_phaseOf_3 := dk_seg dksX0_phaseOf_2 24 rfl rfl
theorem dksX0_phaseOf_4 : cX0_phaseOf.data.toList.drop 90 = dktX0_phaseOf_4 := dk_seg dksX0_phaseOf_3 22 rfl rfl
theorem dX0_phaseOf_0 : decode cX0_phaseOf 0 = .ok (.iload_n 1, 1) := dk_27 (dk_at dksX0_phaseOf_0 0 rfl rfl)
theorem dX0_phaseOf_1 : decode cX0_phaseOf 1 = .ok (.i2l, 1) := dk_133 (dk_at dksX0_phaseOf_0 1 rfl rfl)
theorem dX0_phaseOf_2 : decode cX0_phaseOf 2 = .ok (.lconst 0, 1) := dk_9 (dk_at dksX0_phaseOf_0 2 rfl rfl)
theorem dX0_phaseOf_3 : decode cX0_phaseOf 3 = .ok (.aload_n 0, 1) := dk_42 (dk_at dksX0_phaseOf_0 3 rfl rfl)
theorem dX0_phaseOf_4 : decode cX0_phaseOf 4 = .ok (.getfield 17, 3) := dk_180 0 17 (dk_at dksX0_phaseOf_0 4 rfl rfl)
theorem dX0_phaseOf_7 : decode cX0_phaseOf 7 = .ok (.getfield 125, 3) := dk_180 0 125 (dk_at dksX0_phaseOf_0 7 rfl rfl)
theorem dX0_phaseOf_10 : decode cX0_phaseOf 10 = .ok (.iconst 1, 1) := dk_4 (dk_at dksX0_phaseOf_0 10 rfl rfl)
theorem dX0_phaseOf_11 : decode cX0_phaseOf 11 = .ok (.isub, 1) := dk_100 (dk_at dksX0_phaseOf_0 11 rfl rfl)
theorem dX0_phaseOf_12 : decode cX0_phaseOf 12 = .ok (.i2l, 1) := dk_133 (dk_at dksX0_phaseOf_0 12 rfl rfl)
theorem dX0_phaseOf_13 : decode cX0_phaseOf 13 = .ok (.invokestatic 74, 3) := dk_184 0 74 (dk_at dksX0_phaseOf_0 13 rfl rfl)
theorem dX0_phaseOf_16 : decode cX0_phaseOf 16 = .ok (.ifCond .eq 15, 3) := dk_153 0 15 (dk_at dksX0_phaseOf_0 16 rfl rfl)
theorem dX0_phaseOf_19 : decode cX0_phaseOf 19 = .ok (.iload_n 2, 1) := dk_28 (dk_at dksX0_phaseOf_0 19 rfl rfl)
theorem dX0_phaseOf_20 : decode cX0_phaseOf 20 = .ok (.i2l, 1) := dk_133 (dk_at dksX0_phaseOf_0 20 rfl rfl)
theorem dX0_phaseOf_21 : decode cX0_phaseOf 21 = .ok (.lconst 0, 1) := dk_9 (dk_at dksX0_phaseOf_0 21 rfl rfl)
theorem dX0_phaseOf_22 : decode cX0_phaseOf 22 = .ok (.ldc2_w 78, 3) := dk_20 0 78 (dk_at dksX0_phaseOf_1 0 rfl rfl)
theorem dX0_phaseOf_25 : decode cX0_phaseOf 25 = .ok (.invokestatic 74, 3) := dk_184 0 74 (dk_at dksX0_phaseOf_1 3 rfl rfl)
theorem dX0_phaseOf_28 : decode cX0_phaseOf 28 = .ok (.ifCond .ne 5, 3) := dk_154 0 5 (dk_at dksX0_phaseOf_1 6 rfl rfl)
theorem dX0_phaseOf_31 : decode cX0_phaseOf 31 = .ok (.iconst (-1), 1) := dk_2 (dk_at dksX0_phaseOf_1 9 rfl rfl)
theorem dX0_phaseOf_32 : decode cX0_phaseOf 32 = .ok (.ireturn, 1) := dk_172 (dk_at dksX0_phaseOf_1 10 rfl rfl)
theorem dX0_phaseOf_33 : decode cX0_phaseOf 33 = .ok (.aload_n 0, 1) := dk_42 (dk_at dksX0_phaseOf_1 11 rfl rfl)
theorem dX0_phaseOf_34 : decode cX0_phaseOf 34 = .ok (.getfield 17, 3) := dk_180 0 17 (dk_at dksX0_phaseOf_1 12 rfl rfl)
theorem dX0_phaseOf_37 : decode cX0_phaseOf 37 = .ok (.getfield 192, 3) := dk_180 0 192 (dk_at dksX0_phaseOf_1 15 rfl rfl)
theorem dX0_phaseOf_40 : decode cX0_phaseOf 40 = .ok (.iload_n 1, 1) := dk_27 (dk_at dksX0_phaseOf_1 18 rfl rfl)
theorem dX0_phaseOf_41 : decode cX0_phaseOf 41 = .ok (.aaload, 1) := dk_50 (dk_at dksX0_phaseOf_1 19 rfl rfl)
theorem dX0_phaseOf_42 : decode cX0_phaseOf 42 = .ok (.astore_n 3, 1) := dk_78 (dk_at dksX0_phaseOf_1 20 rfl rfl)
theorem dX0_phaseOf_43 : decode cX0_phaseOf 43 = .ok (.iload_n 2, 1) := dk_28 (dk_at dksX0_phaseOf_1 21 rfl rfl)
theorem dX0_phaseOf_44 : decode cX0_phaseOf 44 = .ok (.ifCond .ne 10, 3) := dk_154 0 10 (dk_at dksX0_phaseOf_2 0 rfl rfl)
theorem dX0_phaseOf_47 : decode cX0_phaseOf 47 = .ok (.aload_n 3, 1) := dk_45 (dk_at dksX0_phaseOf_2 3 rfl rfl)
theorem dX0_phaseOf_48 : decode cX0_phaseOf 48 = .ok (.getfield 324, 3) := dk_180 1 68 (dk_at dksX0_phaseOf_2 4 rfl rfl)
theorem dX0_phaseOf_51 : decode cX0_phaseOf 51 = .ok (.goto 43, 3) := dk_167 0 43 (dk_at dksX0_phaseOf_2 7 rfl rfl)
theorem dX0_phaseOf_54 : decode cX0_phaseOf 54 = .ok (.iload_n 2, 1) := dk_28 (dk_at dksX0_phaseOf_2 10 rfl rfl)
theorem dX0_phaseOf_55 : decode cX0_phaseOf 55 = .ok (.iconst 1, 1) := dk_4 (dk_at dksX0_phaseOf_2 11 rfl rfl)
theorem dX0_phaseOf_56 : decode cX0_phaseOf 56 = .ok (.if_icmp .ne 10, 3) := dk_160 0 10 (dk_at dksX0_phaseOf_2 12 rfl rfl)
theorem dX0_phaseOf_59 : decode cX0_phaseOf 59 = .ok (.aload_n 3, 1) := dk_45 (dk_at dksX0_phaseOf_2 15 rfl rfl)
theorem dX0_phaseOf_60 : decode cX0_phaseOf 60 = .ok (.getfield 327, 3) := dk_180 1 71 (dk_at dksX0_phaseOf_2 16 rfl rfl)
theorem dX0_phaseOf_63 : decode cX0_phaseOf 63 = .ok (.goto 31, 3) := dk_167 0 31 (dk_at dksX0_phaseOf_2 19 rfl rfl)
theorem dX0_phaseOf_66 : decode cX0_phaseOf 66 = .ok (.iload_n 2, 1) := dk_28 (dk_at dksX0_phaseOf_2 22 rfl rfl)
theorem dX0_phaseOf_67 : decode cX0_phaseOf 67 = .ok (.iconst 2, 1) := dk_5 (dk_at dksX0_phaseOf_2 23 rfl rfl)
theorem dX0_phaseOf_68 : decode cX0_phaseOf 68 = .ok (.if_icmp .ne 10, 3) := dk_160 0 10 (dk_at dksX0_phaseOf_3 0 rfl rfl)
theorem dX0_phaseOf_71 : decode cX0_phaseOf 71 = .ok (.aload_n 3, 1) := dk_45 (dk_at dksX0_phaseOf_3 3 rfl rfl)
theorem dX0_phaseOf_72 : decode cX0_phaseOf 72 = .ok (.getfield 205, 3) := dk_180 0 205 (dk_at dksX0_phaseOf_3 4 rfl rfl)
theorem dX0_phaseOf_75 : decode cX0_phaseOf 75 = .ok (.goto 19, 3) := dk_167 0 19 (dk_at dksX0_phaseOf_3 7 rfl rfl)
theorem dX0_phaseOf_78 : decode cX0_phaseOf 78 = .ok (.aload_n 0, 1) := dk_42 (dk_at dksX0_phaseOf_3 10 rfl rfl)
theorem dX0_phaseOf_79 : decode cX0_phaseOf 79 = .ok (.getfield 17, 3) := dk_180 0 17 (dk_at dksX0_phaseOf_3 11 rfl rfl)
theorem dX0_phaseOf_82 : decode cX0_phaseOf 82 = .ok (.iload_n 1, 1) := dk_27 (dk_at dksX0_phaseOf_3 14 rfl rfl)
theorem dX0_phaseOf_83 : decode cX0_phaseOf 83 = .ok (.invokevirtual 330, 3) := dk_182 1 74 (dk_at dksX0_phaseOf_3 15 rfl rfl)
theorem dX0_phaseOf_86 : decode cX0_phaseOf 86 = .ok (.ifCond .eq 7, 3) := dk_153 0 7 (dk_at dksX0_phaseOf_3 18 rfl rfl)
theorem dX0_phaseOf_89 : decode cX0_phaseOf 89 = .ok (.iconst 1, 1) := dk_4 (dk_at dksX0_phaseOf_3 21 rfl rfl)
theorem dX0_phaseOf_90 : decode cX0_phaseOf 90 = .ok (.goto 4, 3) := dk_167 0 4 (dk_at dksX0_phaseOf_4 0 rfl rfl)
theorem dX0_phaseOf_93 : decode cX0_phaseOf 93 = .ok (.iconst 0, 1) := dk_3 (dk_at dksX0_phaseOf_4 3 rfl rfl)
theorem dX0_phaseOf_94 : decode cX0_phaseOf 94 = .ok (.ireturn, 1) := dk_172 (dk_at dksX0_phaseOf_4 4 rfl rfl)
abbrev cX0_taken : ByteArray := prog_1_method_32_code
def yX0_taken : MethodName := ⟨RX0, "taken", "(II)I"⟩
def dkwX0_taken_4 : List UInt8 := [192, 0, 42, 182, 1, 83, 172, 45, 192, 0, 45, 182, 1, 84, 172, 58, 4, 16, 244, 172]
abbrev dktX0_taken_4 : List UInt8 := dkwX0_taken_4 ++ []
def dkwX0_taken_3 : List UInt8 := [45, 182, 1, 79, 172, 45, 192, 0, 53, 182, 1, 81, 172, 45, 192, 0, 48, 182, 1, 82, 172, 45]
abbrev dktX0_taken_3 : List UInt8 := dkwX0_taken_3 ++ dktX0_taken_4
def dkwX0_taken_2 : List UInt8 := [170, 0, 0, 0, 58, 0, 0, 0, 0, 0, 0, 0, 3, 0, 0, 0, 29, 0, 0, 0, 34, 0, 0, 0, 42, 0, 0, 0, 50]
abbrev dktX0_taken_2 : List UInt8 := dkwX0_taken_2 ++ dktX0_taken_3
def dkwX0_taken_1 : List UInt8 := [172, 42, 180, 0, 56, 42, 180, 0, 17, 180, 0, 90, 27, 50, 180, 1, 25, 182, 1, 29, 50, 78, 28]
abbrev dktX0_taken_1 : List UInt8 := dkwX0_taken_1 ++ dktX0_taken_2
def dkwX0_taken_0 : List UInt8 := [42, 27, 182, 0, 112, 154, 0, 5, 2, 172, 28, 133, 9, 20, 1, 77, 184, 0, 74, 154, 0, 6, 16, 254]
abbrev dktX0_taken_0 : List UInt8 := dkwX0_taken_0 ++ dktX0_taken_1
theorem dksX0_taken_0 : cX0_taken.data.toList.drop 0 = dktX0_taken_0 := by decide +kernel
theorem dksX0_taken_1 : cX0_taken.data.toList.drop 24 = dktX0_taken_1 := dk_seg dksX0_taken_0 24 rfl rfl
theorem dksX0_taken_2 : cX0_taken.data.toList.drop 47 = dktX0_taken_2 := dk_seg dksX0_taken_1 23 rfl rfl
theorem dksX0_taken_3 : cX0_taken.data.toList.drop 76 = dktX0_taken_3 := dk_seg dksX0_taken_2 29 rfl rfl
theorem dksX0_taken_4 : cX0_taken.data.toList.drop 98 = dktX0_taken_4 := dk_seg dksX0_taken_3 22 rfl rfl
theorem dX0_taken_0 : decode cX0_taken 0 = .ok (.aload_n 0, 1) := dk_42 (dk_at dksX0_taken_0 0 rfl rfl)
theorem dX0_taken_1 : decode cX0_taken 1 = .ok (.iload_n 1, 1) := dk_27 (dk_at dksX0_taken_0 1 rfl rfl)
theorem dX0_taken_2 : decode cX0_taken 2 = .ok (.invokevirtual 112, 3) := dk_182 0 112 (dk_at dksX0_taken_0 2 rfl rfl)
theorem dX0_taken_5 : decode cX0_taken 5 = .ok (.ifCond .ne 5, 3) := dk_154 0 5 (dk_at dksX0_taken_0 5 rfl rfl)
theorem dX0_taken_8 : decode cX0_taken 8 = .ok (.iconst (-1), 1) := dk_2 (dk_at dksX0_taken_0 8 rfl rfl)
theorem dX0_taken_9 : decode cX0_taken 9 = .ok (.ireturn, 1) := dk_172 (dk_at dksX0_taken_0 9 rfl rfl)
theorem dX0_taken_10 : decode cX0_taken 10 = .ok (.iload_n 2, 1) := dk_28 (dk_at dksX0_taken_0 10 rfl rfl)
theorem dX0_taken_11 : decode cX0_taken 11 = .ok (.i2l, 1) := dk_133 (dk_at dksX0_taken_0 11 rfl rfl)
theorem dX0_taken_12 : decode cX0_taken 12 = .ok (.lconst 0, 1) := dk_9 (dk_at dksX0_taken_0 12 rfl rfl)
theorem dX0_taken_13 : decode cX0_taken 13 = .ok (.ldc2_w 333, 3) := dk_20 1 77 (dk_at dksX0_taken_0 13 rfl rfl)
theorem dX0_taken_16 : decode cX0_taken 16 = .ok (.invokestatic 74, 3) := dk_184 0 74 (dk_at dksX0_taken_0 16 rfl rfl)
theorem dX0_taken_19 : decode cX0_taken 19 = .ok (.ifCond .ne 6, 3) := dk_154 0 6 (dk_at dksX0_taken_0 19 rfl rfl)
theorem dX0_taken_22 : decode cX0_taken 22 = .ok (.bipush (-2), 2) := dk_16 254 (dk_at dksX0_taken_0 22 rfl rfl)
theorem dX0_taken_24 : decode cX0_taken 24 = .ok (.ireturn, 1) := dk_172 (dk_at dksX0_taken_1 0 rfl rfl)
theorem dX0_taken_25 : decode cX0_taken 25 = .ok (.aload_n 0, 1) := dk_42 (dk_at dksX0_taken_1 1 rfl rfl)
theorem dX0_taken_26 : decode cX0_taken 26 = .ok (.getfield 56, 3) := dk_180 0 56 (dk_at dksX0_taken_1 2 rfl rfl)
theorem dX0_taken_29 : decode cX0_taken 29 = .ok (.aload_n 0, 1) := dk_42 (dk_at dksX0_taken_1 5 rfl rfl)
theorem dX0_taken_30 : decode cX0_taken 30 = .ok (.getfield 17, 3) := dk_180 0 17 (dk_at dksX0_taken_1 6 rfl rfl)
theorem dX0_taken_33 : decode cX0_taken 33 = .ok (.getfield 90, 3) := dk_180 0 90 (dk_at dksX0_taken_1 9 rfl rfl)
theorem dX0_taken_36 : decode cX0_taken 36 = .ok (.iload_n 1, 1) := dk_27 (dk_at dksX0_taken_1 12 rfl rfl)
theorem dX0_taken_37 : decode cX0_taken 37 = .ok (.aaload, 1) := dk_50 (dk_at dksX0_taken_1 13 rfl rfl)
theorem dX0_taken_38 : decode cX0_taken 38 = .ok (.getfield 281, 3) := dk_180 1 25 (dk_at dksX0_taken_1 14 rfl rfl)
theorem dX0_taken_41 : decode cX0_taken 41 = .ok (.invokevirtual 285, 3) := dk_182 1 29 (dk_at dksX0_taken_1 17 rfl rfl)
theorem dX0_taken_44 : decode cX0_taken 44 = .ok (.aaload, 1) := dk_50 (dk_at dksX0_taken_1 20 rfl rfl)
theorem dX0_taken_45 : decode cX0_taken 45 = .ok (.astore_n 3, 1) := dk_78 (dk_at dksX0_taken_1 21 rfl rfl)
theorem dX0_taken_46 : decode cX0_taken 46 = .ok (.iload_n 2, 1) := dk_28 (dk_at dksX0_taken_1 22 rfl rfl)
theorem dX0_taken_47 : decode cX0_taken 47 = .ok (.tableswitch 58 0 3 #[29, 34, 42, 50], 29) := by decide +kernel
theorem dX0_taken_76 : decode cX0_taken 76 = .ok (.aload_n 3, 1) := dk_45 (dk_at dksX0_taken_3 0 rfl rfl)
theorem dX0_taken_77 : decode cX0_taken 77 = .ok (.invokevirtual 335, 3) := dk_182 1 79 (dk_at dksX0_taken_3 1 rfl rfl)
theorem dX0_taken_80 : decode cX0_taken 80 = .ok (.ireturn, 1) := dk_172 (dk_at dksX0_taken_3 4 rfl rfl)
theorem dX0_taken_81 : decode cX0_taken 81 = .ok (.aload_n 3, 1) := dk_45 (dk_at dksX0_taken_3 5 rfl rfl)
theorem dX0_taken_82 : decode cX0_taken 82 = .ok (.checkcast 53, 3) := dk_192 0 53 (dk_at dksX0_taken_3 6 rfl rfl)
theorem dX0_taken_85 : decode cX0_taken 85 = .ok (.invokevirtual 337, 3) := dk_182 1 81 (dk_at dksX0_taken_3 9 rfl rfl)
theorem dX0_taken_88 : decode cX0_taken 88 = .ok (.ireturn, 1) := dk_172 (dk_at dksX0_taken_3 12 rfl rfl)
theorem dX0_taken_89 : decode cX0_taken 89 = .ok (.aload_n 3, 1) := dk_45 (dk_at dksX0_taken_3 13 rfl rfl)
theorem dX0_taken_90 : decode cX0_taken 90 = .ok (.checkcast 48, 3) := dk_192 0 48 (dk_at dksX0_taken_3 14 rfl rfl)
theorem dX0_taken_93 : decode cX0_taken 93 = .ok (.invokevirtual 338, 3) := dk_182 1 82 (dk_at dksX0_taken_3 17 rfl rfl)
theorem dX0_taken_96 : decode cX0_taken 96 = .ok (.ireturn, 1) := dk_172 (dk_at dksX0_taken_3 20 rfl rfl)
theorem dX0_taken_97 : decode cX0_taken 97 = .ok (.aload_n 3, 1) := dk_45 (dk_at dksX0_taken_3 21 rfl rfl)
theorem dX0_taken_98 : decode cX0_taken 98 = .ok (.checkcast 42, 3) := dk_192 0 42 (dk_at dksX0_taken_4 0 rfl rfl)
theorem dX0_taken_101 : decode cX0_taken 101 = .ok (.invokevirtual 339, 3) := dk_182 1 83 (dk_at dksX0_taken_4 3 rfl rfl)
theorem dX0_taken_104 : decode cX0_taken 104 = .ok (.ireturn, 1) := dk_172 (dk_at dksX0_taken_4 6 rfl rfl)
theorem dX0_taken_105 : decode cX0_taken 105 = .ok (.aload_n 3, 1) := dk_45 (dk_at dksX0_taken_4 7 rfl rfl)
theorem dX0_taken_106 : decode cX0_taken 106 = .ok (.checkcast 45, 3) := dk_192 0 45 (dk_at dksX0_taken_4 8 rfl rfl)
theorem dX0_taken_109 : decode cX0_taken 109 = .ok (.invokevirtual 340, 3) := dk_182 1 84 (dk_at dksX0_taken_4 11 rfl rfl)
theorem dX0_taken_112 : decode cX0_taken 112 = .ok (.ireturn, 1) := dk_172 (dk_at dksX0_taken_4 14 rfl rfl)
theorem dX0_taken_113 : decode cX0_taken 113 = .ok (.astore 4, 2) := dk_58 4 (dk_at dksX0_taken_4 15 rfl rfl)
theorem dX0_taken_115 : decode cX0_taken 115 = .ok (.bipush (-12), 2) := dk_16 244 (dk_at dksX0_taken_4 17 rfl rfl)
theorem dX0_taken_117 : decode cX0_taken 117 = .ok (.ireturn, 1) := dk_172 (dk_at dksX0_taken_4 19 rfl rfl)
abbrev cX0_recorded : ByteArray := prog_1_method_33_code
def yX0_recorded : MethodName := ⟨RX0, "recorded", "(II)I"⟩
def dkwX0_recorded_3 : List UInt8 := [180, 1, 102, 172]
abbrev dktX0_recorded_3 : List UInt8 := dkwX0_recorded_3 ++ []
def dkwX0_recorded_2 : List UInt8 := [154, 0, 10, 45, 180, 1, 96, 167, 0, 19, 28, 4, 160, 0, 10, 45, 180, 1, 101, 167, 0, 7, 45]
abbrev dktX0_recorded_2 : List UInt8 := dkwX0_recorded_2 ++ dktX0_recorded_3
def dkwX0_recorded_1 : List UInt8 := [4, 100, 133, 184, 0, 74, 154, 0, 6, 16, 254, 172, 42, 180, 0, 17, 27, 182, 1, 92, 78, 28]
abbrev dktX0_recorded_1 : List UInt8 := dkwX0_recorded_1 ++ dktX0_recorded_2
def dkwX0_recorded_0 : List UInt8 := [28, 133, 9, 20, 1, 87, 184, 0, 74, 154, 0, 5, 2, 172, 27, 133, 9, 42, 180, 0, 17, 180, 1, 89]
abbrev dktX0_recorded_0 : List UInt8 := dkwX0_recorded_0 ++ dktX0_recorded_1
theorem dksX0_recorded_0 : cX0_recorded.data.toList.drop 0 = dktX0_recorded_0 := by decide +kernel
theorem dksX0_recorded_1 : cX0_recorded.data.toList.drop 24 = dktX0_recorded_1 := dk_seg dksX0_recorded_0 24 rfl rfl
theorem dksX0_recorded_2 : cX0_recorded.data.toList.drop 46 = dktX0_recorded_2 := dk_seg dksX0_recorded_1 22 rfl rfl
theorem dksX0_recorded_3 : cX0_recorded.data.toList.drop 69 = dktX0_recorded_3 := dk_seg dksX0_recorded_2 23 rfl rfl
theorem dX0_recorded_0 : decode cX0_recorded 0 = .ok (.iload_n 2, 1) := dk_28 (dk_at dksX0_recorded_0 0 rfl rfl)
theorem dX0_recorded_1 : decode cX0_recorded 1 = .ok (.i2l, 1) := dk_133 (dk_at dksX0_recorded_0 1 rfl rfl)
theorem dX0_recorded_2 : decode cX0_recorded 2 = .ok (.lconst 0, 1) := dk_9 (dk_at dksX0_recorded_0 2 rfl rfl)
theorem dX0_recorded_3 : decode cX0_recorded 3 = .ok (.ldc2_w 343, 3) := dk_20 1 87 (dk_at dksX0_recorded_0 3 rfl rfl)
theorem dX0_recorded_6 : decode cX0_recorded 6 = .ok (.invokestatic 74, 3) := dk_184 0 74 (dk_at dksX0_recorded_0 6 rfl rfl)
theorem dX0_recorded_9 : decode cX0_recorded 9 = .ok (.ifCond .ne 5, 3) := dk_154 0 5 (dk_at dksX0_recorded_0 9 rfl rfl)
theorem dX0_recorded_12 : decode cX0_recorded 12 = .ok (.iconst (-1), 1) := dk_2 (dk_at dksX0_recorded_0 12 rfl rfl)
theorem dX0_recorded_13 : decode cX0_recorded 13 = .ok (.ireturn, 1) := dk_172 (dk_at dksX0_recorded_0 13 rfl rfl)
theorem dX0_recorded_14 : decode cX0_recorded 14 = .ok (.iload_n 1, 1) := dk_27 (dk_at dksX0_recorded_0 14 rfl rfl)
theorem dX0_recorded_15 : decode cX0_recorded 15 = .ok (.i2l, 1) := dk_133 (dk_at dksX0_recorded_0 15 rfl rfl)
theorem dX0_recorded_16 : decode cX0_recorded 16 = .ok (.lconst 0, 1) := dk_9 (dk_at dksX0_recorded_0 16 rfl rfl)
theorem dX0_recorded_17 : decode cX0_recorded 17 = .ok (.aload_n 0, 1) := dk_42 (dk_at dksX0_recorded_0 17 rfl rfl)
theorem dX0_recorded_18 : decode cX0_recorded 18 = .ok (.getfield 17, 3) := dk_180 0 17 (dk_at dksX0_recorded_0 18 rfl rfl)
theorem dX0_recorded_21 : decode cX0_recorded 21 = .ok (.getfield 345, 3) := dk_180 1 89 (dk_at dksX0_recorded_0 21 rfl rfl)
theorem dX0_recorded_24 : decode cX0_recorded 24 = .ok (.iconst 1, 1) := dk_4 (dk_at dksX0_recorded_1 0 rfl rfl)
theorem dX0_recorded_25 : decode cX0_recorded 25 = .ok (.isub, 1) := dk_100 (dk_at dksX0_recorded_1 1 rfl rfl)
theorem dX0_recorded_26 : decode cX0_recorded 26 = .ok (.i2l, 1) := dk_133 (dk_at dksX0_recorded_1 2 rfl rfl)
theorem dX0_recorded_27 : decode cX0_recorded 27 = .ok (.invokestatic 74, 3) := dk_184 0 74 (dk_at dksX0_recorded_1 3 rfl rfl)
theorem dX0_recorded_30 : decode cX0_recorded 30 = .ok (.ifCond .ne 6, 3) := dk_154 0 6 (dk_at dksX0_recorded_1 6 rfl rfl)
theorem dX0_recorded_33 : decode cX0_recorded 33 = .ok (.bipush (-2), 2) := dk_16 254 (dk_at dksX0_recorded_1 9 rfl rfl)
theorem dX0_recorded_35 : decode cX0_recorded 35 = .ok (.ireturn, 1) := dk_172 (dk_at dksX0_recorded_1 11 rfl rfl)
theorem dX0_recorded_36 : decode cX0_recorded 36 = .ok (.aload_n 0, 1) := dk_42 (dk_at dksX0_recorded_1 12 rfl rfl)
theorem dX0_recorded_37 : decode cX0_recorded 37 = .ok (.getfield 17, 3) := dk_180 0 17 (dk_at dksX0_recorded_1 13 rfl rfl)
theorem dX0_recorded_40 : decode cX0_recorded 40 = .ok (.iload_n 1, 1) := dk_27 (dk_at dksX0_recorded_1 16 rfl rfl)
theorem dX0_recorded_41 : decode cX0_recorded 41 = .ok (.invokevirtual 348, 3) := dk_182 1 92 (dk_at dksX0_recorded_1 17 rfl rfl)
theorem dX0_recorded_44 : decode cX0_recorded 44 = .ok (.astore_n 3, 1) := dk_78 (dk_at dksX0_recorded_1 20 rfl rfl)
theorem dX0_recorded_45 : decode cX0_recorded 45 = .ok (.iload_n 2, 1) := dk_28 (dk_at dksX0_recorded_1 21 rfl rfl)
theorem dX0_recorded_46 : decode cX0_recorded 46 = .ok (.ifCond .ne 10, 3) := dk_154 0 10 (dk_at dksX0_recorded_2 0 rfl rfl)
theorem dX0_recorded_49 : decode cX0_recorded 49 = .ok (.aload_n 3, 1) := dk_45 (dk_at dksX0_recorded_2 3 rfl rfl)
theorem dX0_recorded_50 : decode cX0_recorded 50 = .ok (.getfield 352, 3) := dk_180 1 96 (dk_at dksX0_recorded_2 4 rfl rfl)
theorem dX0_recorded_53 : decode cX0_recorded 53 = .ok (.goto 19, 3) := dk_167 0 19 (dk_at dksX0_recorded_2 7 rfl rfl)
theorem dX0_recorded_56 : decode cX0_recorded 56 = .ok (.iload_n 2, 1) := dk_28 (dk_at dksX0_recorded_2 10 rfl rfl)
theorem dX0_recorded_57 : decode cX0_recorded 57 = .ok (.iconst 1, 1) := dk_4 (dk_at dksX0_recorded_2 11 rfl rfl)
theorem dX0_recorded_58 : decode cX0_recorded 58 = .ok (.if_icmp .ne 10, 3) := dk_160 0 10 (dk_at dksX0_recorded_2 12 rfl rfl)
theorem dX0_recorded_61 : decode cX0_recorded 61 = .ok (.aload_n 3, 1) := dk_45 (dk_at dksX0_recorded_2 15 rfl rfl)
theorem dX0_recorded_62 : decode cX0_recorded 62 = .ok (.getfield 357, 3) := dk_180 1 101 (dk_at dksX0_recorded_2 16 rfl rfl)
theorem dX0_recorded_65 : decode cX0_recorded 65 = .ok (.goto 7, 3) := dk_167 0 7 (dk_at dksX0_recorded_2 19 rfl rfl)
theorem dX0_recorded_68 : decode cX0_recorded 68 = .ok (.aload_n 3, 1) := dk_45 (dk_at dksX0_recorded_2 22 rfl rfl)
theorem dX0_recorded_69 : decode cX0_recorded 69 = .ok (.getfield 358, 3) := dk_180 1 102 (dk_at dksX0_recorded_3 0 rfl rfl)
theorem dX0_recorded_72 : decode cX0_recorded 72 = .ok (.ireturn, 1) := dk_172 (dk_at dksX0_recorded_3 3 rfl rfl)
abbrev cX0_greens : ByteArray := prog_1_method_34_code
def yX0_greens : MethodName := ⟨RX0, "greens", "(II)I"⟩
def dkwX0_greens_7 : List UInt8 := [160, 0, 8, 21, 5, 167, 0, 5, 21, 6, 172]
abbrev dktX0_greens_7 : List UInt8 := dkwX0_greens_7 ++ []
def dkwX0_greens_6 : List UInt8 := [167, 255, 154, 28, 154, 0, 7, 29, 167, 0, 25, 28, 4, 160, 0, 8, 21, 4, 167, 0, 15, 28, 5]
abbrev dktX0_greens_6 : List UInt8 := dkwX0_greens_6 ++ dktX0_greens_7
def dkwX0_greens_5 : List UInt8 := [184, 0, 135, 54, 5, 21, 6, 25, 8, 185, 1, 107, 1, 0, 184, 1, 65, 54, 6, 132, 7, 1]
abbrev dktX0_greens_5 : List UInt8 := dkwX0_greens_5 ++ dktX0_greens_6
def dkwX0_greens_4 : List UInt8 := [4, 160, 0, 13, 25, 8, 185, 1, 107, 1, 0, 167, 0, 15, 21, 5, 25, 8, 185, 1, 107, 1, 0]
abbrev dktX0_greens_4 : List UInt8 := dkwX0_greens_4 ++ dktX0_greens_5
def dkwX0_greens_3 : List UInt8 := [180, 1, 103, 21, 7, 50, 58, 8, 132, 3, 1, 21, 4, 25, 8, 185, 1, 107, 1, 0, 96, 54, 4, 29]
abbrev dktX0_greens_3 : List UInt8 := dkwX0_greens_3 ++ dktX0_greens_4
def dkwX0_greens_2 : List UInt8 := [162, 0, 96, 42, 180, 0, 17, 180, 1, 103, 21, 7, 50, 180, 1, 96, 27, 160, 0, 73, 42, 180, 0, 17]
abbrev dktX0_greens_2 : List UInt8 := dkwX0_greens_2 ++ dktX0_greens_3
def dkwX0_greens_1 : List UInt8 := [3, 54, 4, 16, 251, 54, 5, 16, 251, 54, 6, 3, 54, 7, 21, 7, 42, 180, 0, 17, 180, 1, 89]
abbrev dktX0_greens_1 : List UInt8 := dkwX0_greens_1 ++ dktX0_greens_2
def dkwX0_greens_0 : List UInt8 := [42, 27, 182, 0, 112, 153, 0, 15, 28, 133, 9, 20, 0, 78, 184, 0, 74, 154, 0, 5, 2, 172, 3, 62]
abbrev dktX0_greens_0 : List UInt8 := dkwX0_greens_0 ++ dktX0_greens_1
theorem dksX0_greens_0 : cX0_greens.data.toList.drop 0 = dktX0_greens_0 := by decide +kernel
theorem dksX0_greens_1 : cX0_greens.data.toList.drop 24 = dktX0_greens_1 := dk_seg dksX0_greens_0 24 rfl rfl
theorem dksX0_greens_2 : cX0_greens.data.toList.drop 47 = dktX0_greens_2 := dk_seg dksX0_greens_1 23 rfl rfl
theorem dksX0_greens_3 : cX0_greens.data.toList.drop 71 = dktX0_greens_3 := dk_seg dksX0_greens_2 24 rfl rfl
theorem dksX0_greens_4 : cX0_greens.data.toList.drop 95 = dktX0_greens_4 := dk_seg dksX0_greens_3 24 rfl rfl
theorem dksX0_greens_5 : cX0_greens.data.toList.drop 118 = dktX0_greens_5 := dk_seg dksX0_greens_4 23 rfl rfl
theorem dksX0_greens_6 : cX0_greens.data.toList.drop 140 = dktX0_greens_6 := dk_seg dksX0_greens_5 22 rfl rfl
theorem dksX0_greens_7 : cX0_greens.data.toList.drop 163 = dktX0_greens_7 := dk_seg dksX0_greens_6 23 rfl rfl
theorem dX0_greens_0 : decode cX0_greens 0 = .ok (.aload_n 0, 1) := dk_42 (dk_at dksX0_greens_0 0 rfl rfl)
theorem dX0_greens_1 : decode cX0_greens 1 = .ok (.iload_n 1, 1) := dk_27 (dk_at dksX0_greens_0 1 rfl rfl)
theorem dX0_greens_2 : decode cX0_greens 2 = .ok (.invokevirtual 112, 3) := dk_182 0 112 (dk_at dksX0_greens_0 2 rfl rfl)
theorem dX0_greens_5 : decode cX0_greens 5 = .ok (.ifCond .eq 15, 3) := dk_153 0 15 (dk_at dksX0_greens_0 5 rfl rfl)
theorem dX0_greens_8 : decode cX0_greens 8 = .ok (.iload_n 2, 1) := dk_28 (dk_at dksX0_greens_0 8 rfl rfl)
theorem dX0_greens_9 : decode cX0_greens 9 = .ok (.i2l, 1) := dk_133 (dk_at dksX0_greens_0 9 rfl rfl)
theorem dX0_greens_10 : decode cX0_greens 10 = .ok (.lconst 0, 1) := dk_9 (dk_at dksX0_greens_0 10 rfl rfl)
theorem dX0_greens_11 : decode cX0_greens 11 = .ok (.ldc2_w 78, 3) := dk_20 0 78 (dk_at dksX0_greens_0 11 rfl rfl)
theorem dX0_greens_14 : decode cX0_greens 14 = .ok (.invokestatic 74, 3) := dk_184 0 74 (dk_at dksX0_greens_0 14 rfl rfl)
theorem dX0_greens_17 : decode cX0_greens 17 = .ok (.ifCond .ne 5, 3) := dk_154 0 5 (dk_at dksX0_greens_0 17 rfl rfl)
theorem dX0_greens_20 : decode cX0_greens 20 = .ok (.iconst (-1), 1) := dk_2 (dk_at dksX0_greens_0 20 rfl rfl)
theorem dX0_greens_21 : decode cX0_greens 21 = .ok (.ireturn, 1) := dk_172 (dk_at dksX0_greens_0 21 rfl rfl)
theorem dX0_greens_22 : decode cX0_greens 22 = .ok (.iconst 0, 1) := dk_3 (dk_at dksX0_greens_0 22 rfl rfl)
theorem dX0_greens_23 : decode cX0_greens 23 = .ok (.istore_n 3, 1) := dk_62 (dk_at dksX0_greens_0 23 rfl rfl)
theorem dX0_greens_24 : decode cX0_greens 24 = .ok (.iconst 0, 1) := dk_3 (dk_at dksX0_greens_1 0 rfl rfl)
theorem dX0_greens_25 : decode cX0_greens 25 = .ok (.istore 4, 2) := dk_54 4 (dk_at dksX0_greens_1 1 rfl rfl)
theorem dX0_greens_27 : decode cX0_greens 27 = .ok (.bipush (-5), 2) := dk_16 251 (dk_at dksX0_greens_1 3 rfl rfl)
theorem dX0_greens_29 : decode cX0_greens 29 = .ok (.istore 5, 2) := dk_54 5 (dk_at dksX0_greens_1 5 rfl rfl)
theorem dX0_greens_31 : decode cX0_greens 31 = .ok (.bipush (-5), 2) := dk_16 251 (dk_at dksX0_greens_1 7 rfl rfl)
theorem dX0_greens_33 : decode cX0_greens 33 = .ok (.istore 6, 2) := dk_54 6 (dk_at dksX0_greens_1 9 rfl rfl)
theorem dX0_greens_35 : decode cX0_greens 35 = .ok (.iconst 0, 1) := dk_3 (dk_at dksX0_greens_1 11 rfl rfl)
theorem dX0_greens_36 : decode cX0_greens 36 = .ok (.istore 7, 2) := dk_54 7 (dk_at dksX0_greens_1 12 rfl rfl)
theorem dX0_greens_38 : decode cX0_greens 38 = .ok (.iload 7, 2) := dk_21 7 (dk_at dksX0_greens_1 14 rfl rfl)
theorem dX0_greens_40 : decode cX0_greens 40 = .ok (.aload_n 0, 1) := dk_42 (dk_at dksX0_greens_1 16 rfl rfl)
theorem dX0_greens_41 : decode cX0_greens 41 = .ok (.getfield 17, 3) := dk_180 0 17 (dk_at dksX0_greens_1 17 rfl rfl)
theorem dX0_greens_44 : decode cX0_greens 44 = .ok (.getfield 345, 3) := dk_180 1 89 (dk_at dksX0_greens_1 20 rfl rfl)
theorem dX0_greens_47 : decode cX0_greens 47 = .ok (.if_icmp .ge 96, 3) := dk_162 0 96 (dk_at dksX0_greens_2 0 rfl rfl)
theorem dX0_greens_50 : decode cX0_greens 50 = .ok (.aload_n 0, 1) := dk_42 (dk_at dksX0_greens_2 3 rfl rfl)
theorem dX0_greens_51 : decode cX0_greens 51 = .ok (.getfield 17, 3) := dk_180 0 17 (dk_at dksX0_greens_2 4 rfl rfl)
theorem dX0_greens_54 : decode cX0_greens 54 = .ok (.getfield 359, 3) := dk_180 1 103 (dk_at dksX0_greens_2 7 rfl rfl)
theorem dX0_greens_57 : decode cX0_greens 57 = .ok (.iload 7, 2) := dk_21 7 (dk_at dksX0_greens_2 10 rfl rfl)
theorem dX0_greens_59 : decode cX0_greens 59 = .ok (.aaload, 1) := dk_50 (dk_at dksX0_greens_2 12 rfl rfl)
theorem dX0_greens_60 : decode cX0_greens 60 = .ok (.getfield 352, 3) := dk_180 1 96 (dk_at dksX0_greens_2 13 rfl rfl)
theorem dX0_greens_63 : decode cX0_greens 63 = .ok (.iload_n 1, 1) := dk_27 (dk_at dksX0_greens_2 16 rfl rfl)
theorem dX0_greens_64 : decode cX0_greens 64 = .ok (.if_icmp .ne 73, 3) := dk_160 0 73 (dk_at dksX0_greens_2 17 rfl rfl)
theorem dX0_greens_67 : decode cX0_greens 67 = .ok (.aload_n 0, 1) := dk_42 (dk_at dksX0_greens_2 20 rfl rfl)
theorem dX0_greens_68 : decode cX0_greens 68 = .ok (.getfield 17, 3) := dk_180 0 17 (dk_at dksX0_greens_2 21 rfl rfl)
theorem dX0_greens_71 : decode cX0_greens 71 = .ok (.getfield 359, 3) := dk_180 1 103 (dk_at dksX0_greens_3 0 rfl rfl)
theorem dX0_greens_74 : decode cX0_greens 74 = .ok (.iload 7, 2) := dk_21 7 (dk_at dksX0_greens_3 3 rfl rfl)
theorem dX0_greens_76 : decode cX0_greens 76 = .ok (.aaload, 1) := dk_50 (dk_at dksX0_greens_3 5 rfl rfl)
theorem dX0_greens_77 : decode cX0_greens 77 = .ok (.astore 8, 2) := dk_58 8 (dk_at dksX0_greens_3 6 rfl rfl)
theorem dX0_greens_79 : decode cX0_greens 79 = .ok (.iinc 3 1, 3) := dk_132 3 1 (dk_at dksX0_greens_3 8 rfl rfl)
theorem dX0_greens_82 : decode cX0_greens 82 = .ok (.iload 4, 2) := dk_21 4 (dk_at dksX0_greens_3 11 rfl rfl)
theorem dX0_greens_84 : decode cX0_greens 84 = .ok (.aload 8, 2) := dk_25 8 (dk_at dksX0_greens_3 13 rfl rfl)
theorem dX0_greens_86 : decode cX0_greens 86 = .ok (.invokeinterface 363 1, 5) := by decide +kernel
theorem dX0_greens_91 : decode cX0_greens 91 = .ok (.iadd, 1) := dk_96 (dk_at dksX0_greens_3 20 rfl rfl)
theorem dX0_greens_92 : decode cX0_greens 92 = .ok (.istore 4, 2) := dk_54 4 (dk_at dksX0_greens_3 21 rfl rfl)
theorem dX0_greens_94 : decode cX0_greens 94 = .ok (.iload_n 3, 1) := dk_29 (dk_at dksX0_greens_3 23 rfl rfl)
theorem dX0_greens_95 : decode cX0_greens 95 = .ok (.iconst 1, 1) := dk_4 (dk_at dksX0_greens_4 0 rfl rfl)
theorem dX0_greens_96 : decode cX0_greens 96 = .ok (.if_icmp .ne 13, 3) := dk_160 0 13 (dk_at dksX0_greens_4 1 rfl rfl)
theorem dX0_greens_99 : decode cX0_greens 99 = .ok (.aload 8, 2) := dk_25 8 (dk_at dksX0_greens_4 4 rfl rfl)
theorem dX0_greens_101 : decode cX0_greens 101 = .ok (.invokeinterface 363 1, 5) := by decide +kernel
theorem dX0_greens_106 : decode cX0_greens 106 = .ok (.goto 15, 3) := dk_167 0 15 (dk_at dksX0_greens_4 11 rfl rfl)
theorem dX0_greens_109 : decode cX0_greens 109 = .ok (.iload 5, 2) := dk_21 5 (dk_at dksX0_greens_4 14 rfl rfl)
theorem dX0_greens_111 : decode cX0_greens 111 = .ok (.aload 8, 2) := dk_25 8 (dk_at dksX0_greens_4 16 rfl rfl)
theorem dX0_greens_113 : decode cX0_greens 113 = .ok (.invokeinterface 363 1, 5) := by decide +kernel
theorem dX0_greens_118 : decode cX0_greens 118 = .ok (.invokestatic 135, 3) := dk_184 0 135 (dk_at dksX0_greens_5 0 rfl rfl)
theorem dX0_greens_121 : decode cX0_greens 121 = .ok (.istore 5, 2) := dk_54 5 (dk_at dksX0_greens_5 3 rfl rfl)
theorem dX0_greens_123 : decode cX0_greens 123 = .ok (.iload 6, 2) := dk_21 6 (dk_at dksX0_greens_5 5 rfl rfl)
theorem dX0_greens_125 : decode cX0_greens 125 = .ok (.aload 8, 2) := dk_25 8 (dk_at dksX0_greens_5 7 rfl rfl)
theorem dX0_greens_127 : decode cX0_greens 127 = .ok (.invokeinterface 363 1, 5) := by decide +kernel
theorem dX0_greens_132 : decode cX0_greens 132 = .ok (.invokestatic 321, 3) := dk_184 1 65 (dk_at dksX0_greens_5 14 rfl rfl)
theorem dX0_greens_135 : decode cX0_greens 135 = .ok (.istore 6, 2) := dk_54 6 (dk_at dksX0_greens_5 17 rfl rfl)
theorem dX0_greens_137 : decode cX0_greens 137 = .ok (.iinc 7 1, 3) := dk_132 7 1 (dk_at dksX0_greens_5 19 rfl rfl)
theorem dX0_greens_140 : decode cX0_greens 140 = .ok (.goto (-102), 3) := dk_167 255 154 (dk_at dksX0_greens_6 0 rfl rfl)
theorem dX0_greens_143 : decode cX0_greens 143 = .ok (.iload_n 2, 1) := dk_28 (dk_at dksX0_greens_6 3 rfl rfl)
theorem dX0_greens_144 : decode cX0_greens 144 = .ok (.ifCond .ne 7, 3) := dk_154 0 7 (dk_at dksX0_greens_6 4 rfl rfl)
theorem dX0_greens_147 : decode cX0_greens 147 = .ok (.iload_n 3, 1) := dk_29 (dk_at dksX0_greens_6 7 rfl rfl)
theorem dX0_greens_148 : decode cX0_greens 148 = .ok (.goto 25, 3) := dk_167 0 25 (dk_at dksX0_greens_6 8 rfl rfl)
theorem dX0_greens_151 : decode cX0_greens 151 = .ok (.iload_n 2, 1) := dk_28 (dk_at dksX0_greens_6 11 rfl rfl)
theorem dX0_greens_152 : decode cX0_greens 152 = .ok (.iconst 1, 1) := dk_4 (dk_at dksX0_greens_6 12 rfl rfl)
theorem dX0_greens_153 : decode cX0_greens 153 = .ok (.if_icmp .ne 8, 3) := dk_160 0 8 (dk_at dksX0_greens_6 13 rfl rfl)
theorem dX0_greens_156 : decode cX0_greens 156 = .ok (.iload 4, 2) := dk_21 4 (dk_at dksX0_greens_6 16 rfl rfl)
theorem dX0_greens_158 : decode cX0_greens 158 = .ok (.goto 15, 3) := dk_167 0 15 (dk_at dksX0_greens_6 18 rfl rfl)
theorem dX0_greens_161 : decode cX0_greens 161 = .ok (.iload_n 2, 1) := dk_28 (dk_at dksX0_greens_6 21 rfl rfl)
theorem dX0_greens_162 : decode cX0_greens 162 = .ok (.iconst 2, 1) := dk_5 (dk_at dksX0_greens_6 22 rfl rfl)
theorem dX0_greens_163 : decode cX0_greens 163 = .ok (.if_icmp .ne 8, 3) := dk_160 0 8 (dk_at dksX0_greens_7 0 rfl rfl)
theorem dX0_greens_166 : decode cX0_greens 166 = .ok (.iload 5, 2) := dk_21 5 (dk_at dksX0_greens_7 3 rfl rfl)
theorem dX0_greens_168 : decode cX0_greens 168 = .ok (.goto 5, 3) := dk_167 0 5 (dk_at dksX0_greens_7 5 rfl rfl)
theorem dX0_greens_171 : decode cX0_greens 171 = .ok (.iload 6, 2) := dk_21 6 (dk_at dksX0_greens_7 8 rfl rfl)
theorem dX0_greens_173 : decode cX0_greens 173 = .ok (.ireturn, 1) := dk_172 (dk_at dksX0_greens_7 10 rfl rfl)
abbrev cX0_could : ByteArray := prog_1_method_37_code
def yX0_could : MethodName := ⟨RX0, "could", "(III)I"⟩
def dkwX0_could_2 : List UInt8 := [28, 29, 182, 1, 131, 167, 0, 5, 16, 254, 172]
abbrev dktX0_could_2 : List UInt8 := dkwX0_could_2 ++ []
def dkwX0_could_1 : List UInt8 := [184, 0, 74, 84, 89, 4, 28, 133, 9, 20, 1, 129, 184, 0, 74, 84, 184, 0, 82, 153, 0, 13, 42, 27]
abbrev dktX0_could_1 : List UInt8 := dkwX0_could_1 ++ dktX0_could_2
def dkwX0_could_0 : List UInt8 := [29, 133, 9, 10, 184, 0, 74, 154, 0, 5, 2, 172, 5, 188, 4, 89, 3, 27, 133, 9, 20, 0, 80]
abbrev dktX0_could_0 : List UInt8 := dkwX0_could_0 ++ dktX0_could_1
theorem dksX0_could_0 : cX0_could.data.toList.drop 0 = dktX0_could_0 := by decide +kernel
theorem dksX0_could_1 : cX0_could.data.toList.drop 23 = dktX0_could_1 := dk_seg dksX0_could_0 23 rfl rfl
theorem dksX0_could_2 : cX0_could.data.toList.drop 47 = dktX0_could_2 := dk_seg dksX0_could_1 24 rfl rfl
theorem dX0_could_0 : decode cX0_could 0 = .ok (.iload_n 3, 1) := dk_29 (dk_at dksX0_could_0 0 rfl rfl)
theorem dX0_could_1 : decode cX0_could 1 = .ok (.i2l, 1) := dk_133 (dk_at dksX0_could_0 1 rfl rfl)
theorem dX0_could_2 : decode cX0_could 2 = .ok (.lconst 0, 1) := dk_9 (dk_at dksX0_could_0 2 rfl rfl)
theorem dX0_could_3 : decode cX0_could 3 = .ok (.lconst 1, 1) := dk_10 (dk_at dksX0_could_0 3 rfl rfl)
theorem dX0_could_4 : decode cX0_could 4 = .ok (.invokestatic 74, 3) := dk_184 0 74 (dk_at dksX0_could_0 4 rfl rfl)
theorem dX0_could_7 : decode cX0_could 7 = .ok (.ifCond .ne 5, 3) := dk_154 0 5 (dk_at dksX0_could_0 7 rfl rfl)
theorem dX0_could_10 : decode cX0_could 10 = .ok (.iconst (-1), 1) := dk_2 (dk_at dksX0_could_0 10 rfl rfl)
theorem dX0_could_11 : decode cX0_could 11 = .ok (.ireturn, 1) := dk_172 (dk_at dksX0_could_0 11 rfl rfl)
theorem dX0_could_12 : decode cX0_could 12 = .ok (.iconst 2, 1) := dk_5 (dk_at dksX0_could_0 12 rfl rfl)
theorem dX0_could_13 : decode cX0_could 13 = .ok (.newarray .boolean, 2) := dk_188_4 (dk_at dksX0_could_0 13 rfl rfl)
theorem dX0_could_15 : decode cX0_could 15 = .ok (.dup, 1) := dk_89 (dk_at dksX0_could_0 15 rfl rfl)
theorem dX0_could_16 : decode cX0_could 16 = .ok (.iconst 0, 1) := dk_3 (dk_at dksX0_could_0 16 rfl rfl)
theorem dX0_could_17 : decode cX0_could 17 = .ok (.iload_n 1, 1) := dk_27 (dk_at dksX0_could_0 17 rfl rfl)
theorem dX0_could_18 : decode cX0_could 18 = .ok (.i2l, 1) := dk_133 (dk_at dksX0_could_0 18 rfl rfl)
theorem dX0_could_19 : decode cX0_could 19 = .ok (.lconst 0, 1) := dk_9 (dk_at dksX0_could_0 19 rfl rfl)
theorem dX0_could_20 : decode cX0_could 20 = .ok (.ldc2_w 80, 3) := dk_20 0 80 (dk_at dksX0_could_0 20 rfl rfl)
theorem dX0_could_23 : decode cX0_could 23 = .ok (.invokestatic 74, 3) := dk_184 0 74 (dk_at dksX0_could_1 0 rfl rfl)
theorem dX0_could_26 : decode cX0_could 26 = .ok (.bastore, 1) := dk_84 (dk_at dksX0_could_1 3 rfl rfl)
theorem dX0_could_27 : decode cX0_could 27 = .ok (.dup, 1) := dk_89 (dk_at dksX0_could_1 4 rfl rfl)
theorem dX0_could_28 : decode cX0_could 28 = .ok (.iconst 1, 1) := dk_4 (dk_at dksX0_could_1 5 rfl rfl)
theorem dX0_could_29 : decode cX0_could 29 = .ok (.iload_n 2, 1) := dk_28 (dk_at dksX0_could_1 6 rfl rfl)
theorem dX0_could_30 : decode cX0_could 30 = .ok (.i2l, 1) := dk_133 (dk_at dksX0_could_1 7 rfl rfl)
theorem dX0_could_31 : decode cX0_could 31 = .ok (.lconst 0, 1) := dk_9 (dk_at dksX0_could_1 8 rfl rfl)
theorem dX0_could_32 : decode cX0_could 32 = .ok (.ldc2_w 385, 3) := dk_20 1 129 (dk_at dksX0_could_1 9 rfl rfl)
theorem dX0_could_35 : decode cX0_could 35 = .ok (.invokestatic 74, 3) := dk_184 0 74 (dk_at dksX0_could_1 12 rfl rfl)
theorem dX0_could_38 : decode cX0_could 38 = .ok (.bastore, 1) := dk_84 (dk_at dksX0_could_1 15 rfl rfl)
theorem dX0_could_39 : decode cX0_could 39 = .ok (.invokestatic 82, 3) := dk_184 0 82 (dk_at dksX0_could_1 16 rfl rfl)
theorem dX0_could_42 : decode cX0_could 42 = .ok (.ifCond .eq 13, 3) := dk_153 0 13 (dk_at dksX0_could_1 19 rfl rfl)
theorem dX0_could_45 : decode cX0_could 45 = .ok (.aload_n 0, 1) := dk_42 (dk_at dksX0_could_1 22 rfl rfl)
theorem dX0_could_46 : decode cX0_could 46 = .ok (.iload_n 1, 1) := dk_27 (dk_at dksX0_could_1 23 rfl rfl)
theorem dX0_could_47 : decode cX0_could 47 = .ok (.iload_n 2, 1) := dk_28 (dk_at dksX0_could_2 0 rfl rfl)
theorem dX0_could_48 : decode cX0_could 48 = .ok (.iload_n 3, 1) := dk_29 (dk_at dksX0_could_2 1 rfl rfl)
theorem dX0_could_49 : decode cX0_could 49 = .ok (.invokevirtual 387, 3) := dk_182 1 131 (dk_at dksX0_could_2 2 rfl rfl)
theorem dX0_could_52 : decode cX0_could 52 = .ok (.goto 5, 3) := dk_167 0 5 (dk_at dksX0_could_2 5 rfl rfl)
theorem dX0_could_55 : decode cX0_could 55 = .ok (.bipush (-2), 2) := dk_16 254 (dk_at dksX0_could_2 8 rfl rfl)
theorem dX0_could_57 : decode cX0_could 57 = .ok (.ireturn, 1) := dk_172 (dk_at dksX0_could_2 10 rfl rfl)
abbrev cX0_couldOf : ByteArray := prog_1_method_36_code
def yX0_couldOf : MethodName := ⟨RX0, "couldOf", "(III)I"⟩
def dkwX0_couldOf_5 : List UInt8 := [167, 255, 191, 21, 4, 172]
abbrev dktX0_couldOf_5 : List UInt8 := dkwX0_couldOf_5 ++ []
def dkwX0_couldOf_4 : List UInt8 := [16, 251, 182, 1, 112, 153, 0, 10, 4, 21, 5, 120, 167, 0, 4, 3, 128, 54, 4, 132, 5, 1]
abbrev dktX0_couldOf_4 : List UInt8 := dkwX0_couldOf_4 ++ dktX0_couldOf_5
def dkwX0_couldOf_3 : List UInt8 := [21, 5, 50, 58, 6, 21, 4, 25, 6, 180, 1, 126, 153, 0, 27, 25, 6, 27, 28, 25, 6, 180, 1, 35]
abbrev dktX0_couldOf_3 : List UInt8 := dkwX0_couldOf_3 ++ dktX0_couldOf_4
def dkwX0_couldOf_2 : List UInt8 := [54, 4, 3, 54, 5, 21, 5, 42, 180, 0, 17, 180, 0, 71, 162, 0, 59, 42, 180, 0, 17, 180, 0, 90]
abbrev dktX0_couldOf_2 : List UInt8 := dkwX0_couldOf_2 ++ dktX0_couldOf_3
def dkwX0_couldOf_1 : List UInt8 := [182, 1, 122, 172, 42, 42, 180, 0, 17, 180, 1, 103, 42, 180, 0, 17, 180, 1, 89, 27, 28, 182, 1, 122]
abbrev dktX0_couldOf_1 : List UInt8 := dkwX0_couldOf_1 ++ dktX0_couldOf_2
def dkwX0_couldOf_0 : List UInt8 := [29, 4, 160, 0, 24, 42, 42, 180, 0, 17, 180, 1, 116, 42, 180, 0, 17, 180, 1, 119, 27, 28]
abbrev dktX0_couldOf_0 : List UInt8 := dkwX0_couldOf_0 ++ dktX0_couldOf_1
theorem dksX0_couldOf_0 : cX0_couldOf.data.toList.drop 0 = dktX0_couldOf_0 := by decide +kernel
theorem dksX0_couldOf_1 : cX0_couldOf.data.toList.drop 22 = dktX0_couldOf_1 := dk_seg dksX0_couldOf_0 22 rfl rfl
theorem dksX0_couldOf_2 : cX0_couldOf.data.toList.drop 46 = dktX0_couldOf_2 := dk_seg dksX0_couldOf_1 24 rfl rfl
theorem dksX0_couldOf_3 : cX0_couldOf.data.toList.drop 70 = dktX0_couldOf_3 := dk_seg dksX0_couldOf_2 24 rfl rfl
theorem dksX0_couldOf_4 : cX0_couldOf.data.toList.drop 94 = dktX0_couldOf_4 := dk_seg dksX0_couldOf_3 24 rfl rfl
theorem dksX0_couldOf_5 : cX0_couldOf.data.toList.drop 116 = dktX0_couldOf_5 := dk_seg dksX0_couldOf_4 22 rfl rfl
theorem dX0_couldOf_0 : decode cX0_couldOf 0 = .ok (.iload_n 3, 1) := dk_29 (dk_at dksX0_couldOf_0 0 rfl rfl)
theorem dX0_couldOf_1 : decode cX0_couldOf 1 = .ok (.iconst 1, 1) := dk_4 (dk_at dksX0_couldOf_0 1 rfl rfl)
theorem dX0_couldOf_2 : decode cX0_couldOf 2 = .ok (.if_icmp .ne 24, 3) := dk_160 0 24 (dk_at dksX0_couldOf_0 2 rfl rfl)
theorem dX0_couldOf_5 : decode cX0_couldOf 5 = .ok (.aload_n 0, 1) := dk_42 (dk_at dksX0_couldOf_0 5 rfl rfl)
theorem dX0_couldOf_6 : decode cX0_couldOf 6 = .ok (.aload_n 0, 1) := dk_42 (dk_at dksX0_couldOf_0 6 rfl rfl)
theorem dX0_couldOf_7 : decode cX0_couldOf 7 = .ok (.getfield 17, 3) := dk_180 0 17 (dk_at dksX0_couldOf_0 7 rfl rfl)
theorem dX0_couldOf_10 : decode cX0_couldOf 10 = .ok (.getfield 372, 3) := dk_180 1 116 (dk_at dksX0_couldOf_0 10 rfl rfl)
theorem dX0_couldOf_13 : decode cX0_couldOf 13 = .ok (.aload_n 0, 1) := dk_42 (dk_at dksX0_couldOf_0 13 rfl rfl)
theorem dX0_couldOf_14 : decode cX0_couldOf 14 = .ok (.getfield 17, 3) := dk_180 0 17 (dk_at dksX0_couldOf_0 14 rfl rfl)
theorem dX0_couldOf_17 : decode cX0_couldOf 17 = .ok (.getfield 375, 3) := dk_180 1 119 (dk_at dksX0_couldOf_0 17 rfl rfl)
theorem dX0_couldOf_20 : decode cX0_couldOf 20 = .ok (.iload_n 1, 1) := dk_27 (dk_at dksX0_couldOf_0 20 rfl rfl)
theorem dX0_couldOf_21 : decode cX0_couldOf 21 = .ok (.iload_n 2, 1) := dk_28 (dk_at dksX0_couldOf_0 21 rfl rfl)
theorem dX0_couldOf_22 : decode cX0_couldOf 22 = .ok (.invokevirtual 378, 3) := dk_182 1 122 (dk_at dksX0_couldOf_1 0 rfl rfl)
theorem dX0_couldOf_25 : decode cX0_couldOf 25 = .ok (.ireturn, 1) := dk_172 (dk_at dksX0_couldOf_1 3 rfl rfl)
theorem dX0_couldOf_26 : decode cX0_couldOf 26 = .ok (.aload_n 0, 1) := dk_42 (dk_at dksX0_couldOf_1 4 rfl rfl)
theorem dX0_couldOf_27 : decode cX0_couldOf 27 = .ok (.aload_n 0, 1) := dk_42 (dk_at dksX0_couldOf_1 5 rfl rfl)
theorem dX0_couldOf_28 : decode cX0_couldOf 28 = .ok (.getfield 17, 3) := dk_180 0 17 (dk_at dksX0_couldOf_1 6 rfl rfl)
theorem dX0_couldOf_31 : decode cX0_couldOf 31 = .ok (.getfield 359, 3) := dk_180 1 103 (dk_at dksX0_couldOf_1 9 rfl rfl)
theorem dX0_couldOf_34 : decode cX0_couldOf 34 = .ok (.aload_n 0, 1) := dk_42 (dk_at dksX0_couldOf_1 12 rfl rfl)
theorem dX0_couldOf_35 : decode cX0_couldOf 35 = .ok (.getfield 17, 3) := dk_180 0 17 (dk_at dksX0_couldOf_1 13 rfl rfl)
theorem dX0_couldOf_38 : decode cX0_couldOf 38 = .ok (.getfield 345, 3) := dk_180 1 89 (dk_at dksX0_couldOf_1 16 rfl rfl)
theorem dX0_couldOf_41 : decode cX0_couldOf 41 = .ok (.iload_n 1, 1) := dk_27 (dk_at dksX0_couldOf_1 19 rfl rfl)
theorem dX0_couldOf_42 : decode cX0_couldOf 42 = .ok (.iload_n 2, 1) := dk_28 (dk_at dksX0_couldOf_1 20 rfl rfl)
theorem dX0_couldOf_43 : decode cX0_couldOf 43 = .ok (.invokevirtual 378, 3) := dk_182 1 122 (dk_at dksX0_couldOf_1 21 rfl rfl)
theorem dX0_couldOf_46 : decode cX0_couldOf 46 = .ok (.istore 4, 2) := dk_54 4 (dk_at dksX0_couldOf_2 0 rfl rfl)
theorem dX0_couldOf_48 : decode cX0_couldOf 48 = .ok (.iconst 0, 1) := dk_3 (dk_at dksX0_couldOf_2 2 rfl rfl)
theorem dX0_couldOf_49 : decode cX0_couldOf 49 = .ok (.istore 5, 2) := dk_54 5 (dk_at dksX0_couldOf_2 3 rfl rfl)
theorem dX0_couldOf_51 : decode cX0_couldOf 51 = .ok (.iload 5, 2) := dk_21 5 (dk_at dksX0_couldOf_2 5 rfl rfl)
theorem dX0_couldOf_53 : decode cX0_couldOf 53 = .ok (.aload_n 0, 1) := dk_42 (dk_at dksX0_couldOf_2 7 rfl rfl)
theorem dX0_couldOf_54 : decode cX0_couldOf 54 = .ok (.getfield 17, 3) := dk_180 0 17 (dk_at dksX0_couldOf_2 8 rfl rfl)
theorem dX0_couldOf_57 : decode cX0_couldOf 57 = .ok (.getfield 71, 3) := dk_180 0 71 (dk_at dksX0_couldOf_2 11 rfl rfl)
theorem dX0_couldOf_60 : decode cX0_couldOf 60 = .ok (.if_icmp .ge 59, 3) := dk_162 0 59 (dk_at dksX0_couldOf_2 14 rfl rfl)
theorem dX0_couldOf_63 : decode cX0_couldOf 63 = .ok (.aload_n 0, 1) := dk_42 (dk_at dksX0_couldOf_2 17 rfl rfl)
theorem dX0_couldOf_64 : decode cX0_couldOf 64 = .ok (.getfield 17, 3) := dk_180 0 17 (dk_at dksX0_couldOf_2 18 rfl rfl)
theorem dX0_couldOf_67 : decode cX0_couldOf 67 = .ok (.getfield 90, 3) := dk_180 0 90 (dk_at dksX0_couldOf_2 21 rfl rfl)
theorem dX0_couldOf_70 : decode cX0_couldOf 70 = .ok (.iload 5, 2) := dk_21 5 (dk_at dksX0_couldOf_3 0 rfl rfl)
theorem dX0_couldOf_72 : decode cX0_couldOf 72 = .ok (.aaload, 1) := dk_50 (dk_at dksX0_couldOf_3 2 rfl rfl)
theorem dX0_couldOf_73 : decode cX0_couldOf 73 = .ok (.astore 6, 2) := dk_58 6 (dk_at dksX0_couldOf_3 3 rfl rfl)
theorem dX0_couldOf_75 : decode cX0_couldOf 75 = .ok (.iload 4, 2) := dk_21 4 (dk_at dksX0_couldOf_3 5 rfl rfl)
theorem dX0_couldOf_77 : decode cX0_couldOf 77 = .ok (.aload 6, 2) := dk_25 6 (dk_at dksX0_couldOf_3 7 rfl rfl)
theorem dX0_couldOf_79 : decode cX0_couldOf 79 = .ok (.getfield 382, 3) := dk_180 1 126 (dk_at dksX0_couldOf_3 9 rfl rfl)
theorem dX0_couldOf_82 : decode cX0_couldOf 82 = .ok (.ifCond .eq 27, 3) := dk_153 0 27 (dk_at dksX0_couldOf_3 12 rfl rfl)
theorem dX0_couldOf_85 : decode cX0_couldOf 85 = .ok (.aload 6, 2) := dk_25 6 (dk_at dksX0_couldOf_3 15 rfl rfl)
theorem dX0_couldOf_87 : decode cX0_couldOf 87 = .ok (.iload_n 1, 1) := dk_27 (dk_at dksX0_couldOf_3 17 rfl rfl)
theorem dX0_couldOf_88 : decode cX0_couldOf 88 = .ok (.iload_n 2, 1) := dk_28 (dk_at dksX0_couldOf_3 18 rfl rfl)
theorem dX0_couldOf_89 : decode cX0_couldOf 89 = .ok (.aload 6, 2) := dk_25 6 (dk_at dksX0_couldOf_3 19 rfl rfl)
theorem dX0_couldOf_91 : decode cX0_couldOf 91 = .ok (.getfield 291, 3) := dk_180 1 35 (dk_at dksX0_couldOf_3 21 rfl rfl)
theorem dX0_couldOf_94 : decode cX0_couldOf 94 = .ok (.bipush (-5), 2) := dk_16 251 (dk_at dksX0_couldOf_4 0 rfl rfl)
theorem dX0_couldOf_96 : decode cX0_couldOf 96 = .ok (.invokevirtual 368, 3) := dk_182 1 112 (dk_at dksX0_couldOf_4 2 rfl rfl)
theorem dX0_couldOf_99 : decode cX0_couldOf 99 = .ok (.ifCond .eq 10, 3) := dk_153 0 10 (dk_at dksX0_couldOf_4 5 rfl rfl)
theorem dX0_couldOf_102 : decode cX0_couldOf 102 = .ok (.iconst 1, 1) := dk_4 (dk_at dksX0_couldOf_4 8 rfl rfl)
theorem dX0_couldOf_103 : decode cX0_couldOf 103 = .ok (.iload 5, 2) := dk_21 5 (dk_at dksX0_couldOf_4 9 rfl rfl)
theorem dX0_couldOf_105 : decode cX0_couldOf 105 = .ok (.ishl, 1) := dk_120 (dk_at dksX0_couldOf_4 11 rfl rfl)
theorem dX0_couldOf_106 : decode cX0_couldOf 106 = .ok (.goto 4, 3) := dk_167 0 4 (dk_at dksX0_couldOf_4 12 rfl rfl)
theorem dX0_couldOf_109 : decode cX0_couldOf 109 = .ok (.iconst 0, 1) := dk_3 (dk_at dksX0_couldOf_4 15 rfl rfl)
theorem dX0_couldOf_110 : decode cX0_couldOf 110 = .ok (.ior, 1) := dk_128 (dk_at dksX0_couldOf_4 16 rfl rfl)
theorem dX0_couldOf_111 : decode cX0_couldOf 111 = .ok (.istore 4, 2) := dk_54 4 (dk_at dksX0_couldOf_4 17 rfl rfl)
theorem dX0_couldOf_113 : decode cX0_couldOf 113 = .ok (.iinc 5 1, 3) := dk_132 5 1 (dk_at dksX0_couldOf_4 19 rfl rfl)
theorem dX0_couldOf_116 : decode cX0_couldOf 116 = .ok (.goto (-65), 3) := dk_167 255 191 (dk_at dksX0_couldOf_5 0 rfl rfl)
theorem dX0_couldOf_119 : decode cX0_couldOf 119 = .ok (.iload 4, 2) := dk_21 4 (dk_at dksX0_couldOf_5 3 rfl rfl)
theorem dX0_couldOf_121 : decode cX0_couldOf 121 = .ok (.ireturn, 1) := dk_172 (dk_at dksX0_couldOf_5 5 rfl rfl)
abbrev cX0_couldBy : ByteArray := prog_1_method_35_code
def yX0_couldBy : MethodName := ⟨RX0, "couldBy", "([LSafeClears$Green;III)I"⟩
def dkwX0_couldBy_3 : List UInt8 := [167, 255, 193, 21, 5, 172]
abbrev dktX0_couldBy_3 : List UInt8 := dkwX0_couldBy_3 ++ []
def dkwX0_couldBy_2 : List UInt8 := [182, 1, 112, 153, 0, 13, 4, 25, 7, 180, 1, 96, 120, 167, 0, 4, 3, 128, 54, 5, 132, 6, 1]
abbrev dktX0_couldBy_2 : List UInt8 := dkwX0_couldBy_2 ++ dktX0_couldBy_3
def dkwX0_couldBy_1 : List UInt8 := [180, 0, 90, 25, 7, 180, 1, 96, 50, 29, 21, 4, 25, 7, 180, 1, 101, 25, 7, 180, 1, 102]
abbrev dktX0_couldBy_1 : List UInt8 := dkwX0_couldBy_1 ++ dktX0_couldBy_2
def dkwX0_couldBy_0 : List UInt8 := [3, 54, 5, 3, 54, 6, 21, 6, 28, 162, 0, 63, 43, 21, 6, 50, 58, 7, 21, 5, 42, 180, 0, 17]
abbrev dktX0_couldBy_0 : List UInt8 := dkwX0_couldBy_0 ++ dktX0_couldBy_1
theorem dksX0_couldBy_0 : cX0_couldBy.data.toList.drop 0 = dktX0_couldBy_0 := by decide +kernel
theorem dksX0_couldBy_1 : cX0_couldBy.data.toList.drop 24 = dktX0_couldBy_1 := dk_seg dksX0_couldBy_0 24 rfl rfl
theorem dksX0_couldBy_2 : cX0_couldBy.data.toList.drop 46 = dktX0_couldBy_2 := dk_seg dksX0_couldBy_1 22 rfl rfl
theorem dksX0_couldBy_3 : cX0_couldBy.data.toList.drop 69 = dktX0_couldBy_3 := dk_seg dksX0_couldBy_2 23 rfl rfl
theorem dX0_couldBy_0 : decode cX0_couldBy 0 = .ok (.iconst 0, 1) := dk_3 (dk_at dksX0_couldBy_0 0 rfl rfl)
theorem dX0_couldBy_1 : decode cX0_couldBy 1 = .ok (.istore 5, 2) := dk_54 5 (dk_at dksX0_couldBy_0 1 rfl rfl)
theorem dX0_couldBy_3 : decode cX0_couldBy 3 = .ok (.iconst 0, 1) := dk_3 (dk_at dksX0_couldBy_0 3 rfl rfl)
theorem dX0_couldBy_4 : decode cX0_couldBy 4 = .ok (.istore 6, 2) := dk_54 6 (dk_at dksX0_couldBy_0 4 rfl rfl)
theorem dX0_couldBy_6 : decode cX0_couldBy 6 = .ok (.iload 6, 2) := dk_21 6 (dk_at dksX0_couldBy_0 6 rfl rfl)
theorem dX0_couldBy_8 : decode cX0_couldBy 8 = .ok (.iload_n 2, 1) := dk_28 (dk_at dksX0_couldBy_0 8 rfl rfl)
theorem dX0_couldBy_9 : decode cX0_couldBy 9 = .ok (.if_icmp .ge 63, 3) := dk_162 0 63 (dk_at dksX0_couldBy_0 9 rfl rfl)
theorem dX0_couldBy_12 : decode cX0_couldBy 12 = .ok (.aload_n 1, 1) := dk_43 (dk_at dksX0_couldBy_0 12 rfl rfl)
theorem dX0_couldBy_13 : decode cX0_couldBy 13 = .ok (.iload 6, 2) := dk_21 6 (dk_at dksX0_couldBy_0 13 rfl rfl)
theorem dX0_couldBy_15 : decode cX0_couldBy 15 = .ok (.aaload, 1) := dk_50 (dk_at dksX0_couldBy_0 15 rfl rfl)
theorem dX0_couldBy_16 : decode cX0_couldBy 16 = .ok (.astore 7, 2) := dk_58 7 (dk_at dksX0_couldBy_0 16 rfl rfl)
theorem dX0_couldBy_18 : decode cX0_couldBy 18 = .ok (.iload 5, 2) := dk_21 5 (dk_at dksX0_couldBy_0 18 rfl rfl)
theorem dX0_couldBy_20 : decode cX0_couldBy 20 = .ok (.aload_n 0, 1) := dk_42 (dk_at dksX0_couldBy_0 20 rfl rfl)
theorem dX0_couldBy_21 : decode cX0_couldBy 21 = .ok (.getfield 17, 3) := dk_180 0 17 (dk_at dksX0_couldBy_0 21 rfl rfl)
theorem dX0_couldBy_24 : decode cX0_couldBy 24 = .ok (.getfield 90, 3) := dk_180 0 90 (dk_at dksX0_couldBy_1 0 rfl rfl)
theorem dX0_couldBy_27 : decode cX0_couldBy 27 = .ok (.aload 7, 2) := dk_25 7 (dk_at dksX0_couldBy_1 3 rfl rfl)
theorem dX0_couldBy_29 : decode cX0_couldBy 29 = .ok (.getfield 352, 3) := dk_180 1 96 (dk_at dksX0_couldBy_1 5 rfl rfl)
theorem dX0_couldBy_32 : decode cX0_couldBy 32 = .ok (.aaload, 1) := dk_50 (dk_at dksX0_couldBy_1 8 rfl rfl)
theorem dX0_couldBy_33 : decode cX0_couldBy 33 = .ok (.iload_n 3, 1) := dk_29 (dk_at dksX0_couldBy_1 9 rfl rfl)
theorem dX0_couldBy_34 : decode cX0_couldBy 34 = .ok (.iload 4, 2) := dk_21 4 (dk_at dksX0_couldBy_1 10 rfl rfl)
theorem dX0_couldBy_36 : decode cX0_couldBy 36 = .ok (.aload 7, 2) := dk_25 7 (dk_at dksX0_couldBy_1 12 rfl rfl)
theorem dX0_couldBy_38 : decode cX0_couldBy 38 = .ok (.getfield 357, 3) := dk_180 1 101 (dk_at dksX0_couldBy_1 14 rfl rfl)
theorem dX0_couldBy_41 : decode cX0_couldBy 41 = .ok (.aload 7, 2) := dk_25 7 (dk_at dksX0_couldBy_1 17 rfl rfl)
theorem dX0_couldBy_43 : decode cX0_couldBy 43 = .ok (.getfield 358, 3) := dk_180 1 102 (dk_at dksX0_couldBy_1 19 rfl rfl)
theorem dX0_couldBy_46 : decode cX0_couldBy 46 = .ok (.invokevirtual 368, 3) := dk_182 1 112 (dk_at dksX0_couldBy_2 0 rfl rfl)
theorem dX0_couldBy_49 : decode cX0_couldBy 49 = .ok (.ifCond .eq 13, 3) := dk_153 0 13 (dk_at dksX0_couldBy_2 3 rfl rfl)
theorem dX0_couldBy_52 : decode cX0_couldBy 52 = .ok (.iconst 1, 1) := dk_4 (dk_at dksX0_couldBy_2 6 rfl rfl)
theorem dX0_couldBy_53 : decode cX0_couldBy 53 = .ok (.aload 7, 2) := dk_25 7 (dk_at dksX0_couldBy_2 7 rfl rfl)
theorem dX0_couldBy_55 : decode cX0_couldBy 55 = .ok (.getfield 352, 3) := dk_180 1 96 (dk_at dksX0_couldBy_2 9 rfl rfl)
theorem dX0_couldBy_58 : decode cX0_couldBy 58 = .ok (.ishl, 1) := dk_120 (dk_at dksX0_couldBy_2 12 rfl rfl)
theorem dX0_couldBy_59 : decode cX0_couldBy 59 = .ok (.goto 4, 3) := dk_167 0 4 (dk_at dksX0_couldBy_2 13 rfl rfl)
theorem dX0_couldBy_62 : decode cX0_couldBy 62 = .ok (.iconst 0, 1) := dk_3 (dk_at dksX0_couldBy_2 16 rfl rfl)
theorem dX0_couldBy_63 : decode cX0_couldBy 63 = .ok (.ior, 1) := dk_128 (dk_at dksX0_couldBy_2 17 rfl rfl)
theorem dX0_couldBy_64 : decode cX0_couldBy 64 = .ok (.istore 5, 2) := dk_54 5 (dk_at dksX0_couldBy_2 18 rfl rfl)
theorem dX0_couldBy_66 : decode cX0_couldBy 66 = .ok (.iinc 6 1, 3) := dk_132 6 1 (dk_at dksX0_couldBy_2 20 rfl rfl)
theorem dX0_couldBy_69 : decode cX0_couldBy 69 = .ok (.goto (-63), 3) := dk_167 255 193 (dk_at dksX0_couldBy_3 0 rfl rfl)
theorem dX0_couldBy_72 : decode cX0_couldBy 72 = .ok (.iload 5, 2) := dk_21 5 (dk_at dksX0_couldBy_3 3 rfl rfl)
theorem dX0_couldBy_74 : decode cX0_couldBy 74 = .ok (.ireturn, 1) := dk_172 (dk_at dksX0_couldBy_3 5 rfl rfl)
abbrev cX0_crowded : ByteArray := prog_1_method_38_code
def yX0_crowded : MethodName := ⟨RX0, "crowded", "(II)I"⟩
def dkwX0_crowded_2 : List UInt8 := [4, 100, 126, 153, 0, 5, 29, 172, 132, 3, 1, 167, 255, 226, 16, 251, 172]
abbrev dktX0_crowded_2 : List UInt8 := dkwX0_crowded_2 ++ []
def dkwX0_crowded_1 : List UInt8 := [16, 254, 172, 3, 62, 29, 16, 64, 162, 0, 30, 42, 29, 27, 28, 182, 1, 131, 54, 4, 21, 4, 21, 4]
abbrev dktX0_crowded_1 : List UInt8 := dkwX0_crowded_1 ++ dktX0_crowded_2
def dkwX0_crowded_0 : List UInt8 := [28, 133, 9, 10, 184, 0, 74, 154, 0, 5, 2, 172, 27, 133, 9, 20, 1, 129, 184, 0, 74, 154, 0, 6]
abbrev dktX0_crowded_0 : List UInt8 := dkwX0_crowded_0 ++ dktX0_crowded_1
theorem dksX0_crowded_0 : cX0_crowded.data.toList.drop 0 = dktX0_crowded_0 := by decide +kernel
theorem dksX0_crowded_1 : cX0_crowded.data.toList.drop 24 = dktX0_crowded_1 := dk_seg dksX0_crowded_0 24 rfl rfl
theorem dksX0_crowded_2 : cX0_crowded.data.toList.drop 48 = dktX0_crowded_2 := dk_seg dksX0_crowded_1 24 rfl rfl
theorem dX0_crowded_0 : decode cX0_crowded 0 = .ok (.iload_n 2, 1) := dk_28 (dk_at dksX0_crowded_0 0 rfl rfl)
theorem dX0_crowded_1 : decode cX0_crowded 1 = .ok (.i2l, 1) := dk_133 (dk_at dksX0_crowded_0 1 rfl rfl)
theorem dX0_crowded_2 : decode cX0_crowded 2 = .ok (.lconst 0, 1) := dk_9 (dk_at dksX0_crowded_0 2 rfl rfl)
theorem dX0_crowded_3 : decode cX0_crowded 3 = .ok (.lconst 1, 1) := dk_10 (dk_at dksX0_crowded_0 3 rfl rfl)
theorem dX0_crowded_4 : decode cX0_crowded 4 = .ok (.invokestatic 74, 3) := dk_184 0 74 (dk_at dksX0_crowded_0 4 rfl rfl)
theorem dX0_crowded_7 : decode cX0_crowded 7 = .ok (.ifCond .ne 5, 3) := dk_154 0 5 (dk_at dksX0_crowded_0 7 rfl rfl)
theorem dX0_crowded_10 : decode cX0_crowded 10 = .ok (.iconst (-1), 1) := dk_2 (dk_at dksX0_crowded_0 10 rfl rfl)
theorem dX0_crowded_11 : decode cX0_crowded 11 = .ok (.ireturn, 1) := dk_172 (dk_at dksX0_crowded_0 11 rfl rfl)
theorem dX0_crowded_12 : decode cX0_crowded 12 = .ok (.iload_n 1, 1) := dk_27 (dk_at dksX0_crowded_0 12 rfl rfl)
theorem dX0_crowded_13 : decode cX0_crowded 13 = .ok (.i2l, 1) := dk_133 (dk_at dksX0_crowded_0 13 rfl rfl)
theorem dX0_crowded_14 : decode cX0_crowded 14 = .ok (.lconst 0, 1) := dk_9 (dk_at dksX0_crowded_0 14 rfl rfl)
theorem dX0_crowded_15 : decode cX0_crowded 15 = .ok (.ldc2_w 385, 3) := dk_20 1 129 (dk_at dksX0_crowded_0 15 rfl rfl)
theorem dX0_crowded_18 : decode cX0_crowded 18 = .ok (.invokestatic 74, 3) := dk_184 0 74 (dk_at dksX0_crowded_0 18 rfl rfl)
theorem dX0_crowded_21 : decode cX0_crowded 21 = .ok (.ifCond .ne 6, 3) := dk_154 0 6 (dk_at dksX0_crowded_0 21 rfl rfl)
theorem dX0_crowded_24 : decode cX0_crowded 24 = .ok (.bipush (-2), 2) := dk_16 254 (dk_at dksX0_crowded_1 0 rfl rfl)
theorem dX0_crowded_26 : decode cX0_crowded 26 = .ok (.ireturn, 1) := dk_172 (dk_at dksX0_crowded_1 2 rfl rfl)
theorem dX0_crowded_27 : decode cX0_crowded 27 = .ok (.iconst 0, 1) := dk_3 (dk_at dksX0_crowded_1 3 rfl rfl)
theorem dX0_crowded_28 : decode cX0_crowded 28 = .ok (.istore_n 3, 1) := dk_62 (dk_at dksX0_crowded_1 4 rfl rfl)
theorem dX0_crowded_29 : decode cX0_crowded 29 = .ok (.iload_n 3, 1) := dk_29 (dk_at dksX0_crowded_1 5 rfl rfl)
theorem dX0_crowded_30 : decode cX0_crowded 30 = .ok (.bipush 64, 2) := dk_16 64 (dk_at dksX0_crowded_1 6 rfl rfl)
theorem dX0_crowded_32 : decode cX0_crowded 32 = .ok (.if_icmp .ge 30, 3) := dk_162 0 30 (dk_at dksX0_crowded_1 8 rfl rfl)
theorem dX0_crowded_35 : decode cX0_crowded 35 = .ok (.aload_n 0, 1) := dk_42 (dk_at dksX0_crowded_1 11 rfl rfl)
theorem dX0_crowded_36 : decode cX0_crowded 36 = .ok (.iload_n 3, 1) := dk_29 (dk_at dksX0_crowded_1 12 rfl rfl)
theorem dX0_crowded_37 : decode cX0_crowded 37 = .ok (.iload_n 1, 1) := dk_27 (dk_at dksX0_crowded_1 13 rfl rfl)
theorem dX0_crowded_38 : decode cX0_crowded 38 = .ok (.iload_n 2, 1) := dk_28 (dk_at dksX0_crowded_1 14 rfl rfl)
theorem dX0_crowded_39 : decode cX0_crowded 39 = .ok (.invokevirtual 387, 3) := dk_182 1 131 (dk_at dksX0_crowded_1 15 rfl rfl)
theorem dX0_crowded_42 : decode cX0_crowded 42 = .ok (.istore 4, 2) := dk_54 4 (dk_at dksX0_crowded_1 18 rfl rfl)
theorem dX0_crowded_44 : decode cX0_crowded 44 = .ok (.iload 4, 2) := dk_21 4 (dk_at dksX0_crowded_1 20 rfl rfl)
theorem dX0_crowded_46 : decode cX0_crowded 46 = .ok (.iload 4, 2) := dk_21 4 (dk_at dksX0_crowded_1 22 rfl rfl)
theorem dX0_crowded_48 : decode cX0_crowded 48 = .ok (.iconst 1, 1) := dk_4 (dk_at dksX0_crowded_2 0 rfl rfl)
theorem dX0_crowded_49 : decode cX0_crowded 49 = .ok (.isub, 1) := dk_100 (dk_at dksX0_crowded_2 1 rfl rfl)
theorem dX0_crowded_50 : decode cX0_crowded 50 = .ok (.iand, 1) := dk_126 (dk_at dksX0_crowded_2 2 rfl rfl)
theorem dX0_crowded_51 : decode cX0_crowded 51 = .ok (.ifCond .eq 5, 3) := dk_153 0 5 (dk_at dksX0_crowded_2 3 rfl rfl)
theorem dX0_crowded_54 : decode cX0_crowded 54 = .ok (.iload_n 3, 1) := dk_29 (dk_at dksX0_crowded_2 6 rfl rfl)
theorem dX0_crowded_55 : decode cX0_crowded 55 = .ok (.ireturn, 1) := dk_172 (dk_at dksX0_crowded_2 7 rfl rfl)
theorem dX0_crowded_56 : decode cX0_crowded 56 = .ok (.iinc 3 1, 3) := dk_132 3 1 (dk_at dksX0_crowded_2 8 rfl rfl)
theorem dX0_crowded_59 : decode cX0_crowded 59 = .ok (.goto (-30), 3) := dk_167 255 226 (dk_at dksX0_crowded_2 11 rfl rfl)
theorem dX0_crowded_62 : decode cX0_crowded 62 = .ok (.bipush (-5), 2) := dk_16 251 (dk_at dksX0_crowded_2 14 rfl rfl)
theorem dX0_crowded_64 : decode cX0_crowded 64 = .ok (.ireturn, 1) := dk_172 (dk_at dksX0_crowded_2 16 rfl rfl)
abbrev cX0_green : ByteArray := prog_1_method_39_code
def yX0_green : MethodName := ⟨RX0, "green", "(III)I"⟩
def dkwX0_green_5 : List UInt8 := [180, 1, 119, 172]
abbrev dktX0_green_5 : List UInt8 := dkwX0_green_5 ++ []
def dkwX0_green_4 : List UInt8 := [28, 29, 182, 1, 137, 42, 180, 0, 17, 89, 180, 1, 119, 4, 96, 181, 1, 119, 42, 180, 0, 17]
abbrev dktX0_green_4 : List UInt8 := dkwX0_green_4 ++ dktX0_green_5
def dkwX0_green_3 : List UInt8 := [16, 8, 160, 0, 6, 16, 252, 172, 42, 180, 0, 17, 180, 1, 116, 42, 180, 0, 17, 180, 1, 119, 50, 27]
abbrev dktX0_green_3 : List UInt8 := dkwX0_green_3 ++ dktX0_green_4
def dkwX0_green_2 : List UInt8 := [20, 1, 129, 184, 0, 74, 84, 184, 0, 82, 154, 0, 6, 16, 254, 172, 42, 180, 0, 17, 180, 1, 119]
abbrev dktX0_green_2 : List UInt8 := dkwX0_green_2 ++ dktX0_green_3
def dkwX0_green_1 : List UInt8 := [172, 5, 188, 4, 89, 3, 28, 133, 9, 20, 1, 135, 184, 0, 74, 84, 89, 4, 29, 133, 28, 133, 10, 97]
abbrev dktX0_green_1 : List UInt8 := dkwX0_green_1 ++ dktX0_green_2
def dkwX0_green_0 : List UInt8 := [27, 2, 160, 0, 13, 42, 180, 0, 17, 3, 181, 1, 119, 3, 172, 42, 27, 182, 0, 112, 154, 0, 5, 2]
abbrev dktX0_green_0 : List UInt8 := dkwX0_green_0 ++ dktX0_green_1
theorem dksX0_green_0 : cX0_green.data.toList.drop 0 = dktX0_green_0 := by decide +kernel
theorem dksX0_green_1 : cX0_green.data.toList.drop 24 = dktX0_green_1 := dk_seg dksX0_green_0 24 rfl rfl
theorem dksX0_green_2 : cX0_green.data.toList.drop 48 = dktX0_green_2 := dk_seg dksX0_green_1 24 rfl rfl
theorem dksX0_green_3 : cX0_green.data.toList.drop 71 = dktX0_green_3 := dk_seg dksX0_green_2 23 rfl rfl
theorem dksX0_green_4 : cX0_green.data.toList.drop 95 = dktX0_green_4 := dk_seg dksX0_green_3 24 rfl rfl
theorem dksX0_green_5 : cX0_green.data.toList.drop 117 = dktX0_green_5 := dk_seg dksX0_green_4 22 rfl rfl
theorem dX0_green_0 : decode cX0_green 0 = .ok (.iload_n 1, 1) := dk_27 (dk_at dksX0_green_0 0 rfl rfl)
theorem dX0_green_1 : decode cX0_green 1 = .ok (.iconst (-1), 1) := dk_2 (dk_at dksX0_green_0 1 rfl rfl)
theorem dX0_green_2 : decode cX0_green 2 = .ok (.if_icmp .ne 13, 3) := dk_160 0 13 (dk_at dksX0_green_0 2 rfl rfl)
theorem dX0_green_5 : decode cX0_green 5 = .ok (.aload_n 0, 1) := dk_42 (dk_at dksX0_green_0 5 rfl rfl)
theorem dX0_green_6 : decode cX0_green 6 = .ok (.getfield 17, 3) := dk_180 0 17 (dk_at dksX0_green_0 6 rfl rfl)
theorem dX0_green_9 : decode cX0_green 9 = .ok (.iconst 0, 1) := dk_3 (dk_at dksX0_green_0 9 rfl rfl)
theorem dX0_green_10 : decode cX0_green 10 = .ok (.putfield 375, 3) := dk_181 1 119 (dk_at dksX0_green_0 10 rfl rfl)
theorem dX0_green_13 : decode cX0_green 13 = .ok (.iconst 0, 1) := dk_3 (dk_at dksX0_green_0 13 rfl rfl)
theorem dX0_green_14 : decode cX0_green 14 = .ok (.ireturn, 1) := dk_172 (dk_at dksX0_green_0 14 rfl rfl)
theorem dX0_green_15 : decode cX0_green 15 = .ok (.aload_n 0, 1) := dk_42 (dk_at dksX0_green_0 15 rfl rfl)
theorem dX0_green_16 : decode cX0_green 16 = .ok (.iload_n 1, 1) := dk_27 (dk_at dksX0_green_0 16 rfl rfl)
theorem dX0_green_17 : decode cX0_green 17 = .ok (.invokevirtual 112, 3) := dk_182 0 112 (dk_at dksX0_green_0 17 rfl rfl)
theorem dX0_green_20 : decode cX0_green 20 = .ok (.ifCond .ne 5, 3) := dk_154 0 5 (dk_at dksX0_green_0 20 rfl rfl)
theorem dX0_green_23 : decode cX0_green 23 = .ok (.iconst (-1), 1) := dk_2 (dk_at dksX0_green_0 23 rfl rfl)
theorem dX0_green_24 : decode cX0_green 24 = .ok (.ireturn, 1) := dk_172 (dk_at dksX0_green_1 0 rfl rfl)
theorem dX0_green_25 : decode cX0_green 25 = .ok (.iconst 2, 1) := dk_5 (dk_at dksX0_green_1 1 rfl rfl)
theorem dX0_green_26 : decode cX0_green 26 = .ok (.newarray .boolean, 2) := dk_188_4 (dk_at dksX0_green_1 2 rfl rfl)
theorem dX0_green_28 : decode cX0_green 28 = .ok (.dup, 1) := dk_89 (dk_at dksX0_green_1 4 rfl rfl)
theorem dX0_green_29 : decode cX0_green 29 = .ok (.iconst 0, 1) := dk_3 (dk_at dksX0_green_1 5 rfl rfl)
theorem dX0_green_30 : decode cX0_green 30 = .ok (.iload_n 2, 1) := dk_28 (dk_at dksX0_green_1 6 rfl rfl)
theorem dX0_green_31 : decode cX0_green 31 = .ok (.i2l, 1) := dk_133 (dk_at dksX0_green_1 7 rfl rfl)
theorem dX0_green_32 : decode cX0_green 32 = .ok (.lconst 0, 1) := dk_9 (dk_at dksX0_green_1 8 rfl rfl)
theorem dX0_green_33 : decode cX0_green 33 = .ok (.ldc2_w 391, 3) := dk_20 1 135 (dk_at dksX0_green_1 9 rfl rfl)
theorem dX0_green_36 : decode cX0_green 36 = .ok (.invokestatic 74, 3) := dk_184 0 74 (dk_at dksX0_green_1 12 rfl rfl)
theorem dX0_green_39 : decode cX0_green 39 = .ok (.bastore, 1) := dk_84 (dk_at dksX0_green_1 15 rfl rfl)
theorem dX0_green_40 : decode cX0_green 40 = .ok (.dup, 1) := dk_89 (dk_at dksX0_green_1 16 rfl rfl)
theorem dX0_green_41 : decode cX0_green 41 = .ok (.iconst 1, 1) := dk_4 (dk_at dksX0_green_1 17 rfl rfl)
theorem dX0_green_42 : decode cX0_green 42 = .ok (.iload_n 3, 1) := dk_29 (dk_at dksX0_green_1 18 rfl rfl)
theorem dX0_green_43 : decode cX0_green 43 = .ok (.i2l, 1) := dk_133 (dk_at dksX0_green_1 19 rfl rfl)
theorem dX0_green_44 : decode cX0_green 44 = .ok (.iload_n 2, 1) := dk_28 (dk_at dksX0_green_1 20 rfl rfl)
theorem dX0_green_45 : decode cX0_green 45 = .ok (.i2l, 1) := dk_133 (dk_at dksX0_green_1 21 rfl rfl)
theorem dX0_green_46 : decode cX0_green 46 = .ok (.lconst 1, 1) := dk_10 (dk_at dksX0_green_1 22 rfl rfl)
theorem dX0_green_47 : decode cX0_green 47 = .ok (.ladd, 1) := dk_97 (dk_at dksX0_green_1 23 rfl rfl)
theorem dX0_green_48 : decode cX0_green 48 = .ok (.ldc2_w 385, 3) := dk_20 1 129 (dk_at dksX0_green_2 0 rfl rfl)
theorem dX0_green_51 : decode cX0_green 51 = .ok (.invokestatic 74, 3) := dk_184 0 74 (dk_at dksX0_green_2 3 rfl rfl)
theorem dX0_green_54 : decode cX0_green 54 = .ok (.bastore, 1) := dk_84 (dk_at dksX0_green_2 6 rfl rfl)
theorem dX0_green_55 : decode cX0_green 55 = .ok (.invokestatic 82, 3) := dk_184 0 82 (dk_at dksX0_green_2 7 rfl rfl)
theorem dX0_green_58 : decode cX0_green 58 = .ok (.ifCond .ne 6, 3) := dk_154 0 6 (dk_at dksX0_green_2 10 rfl rfl)
theorem dX0_green_61 : decode cX0_green 61 = .ok (.bipush (-2), 2) := dk_16 254 (dk_at dksX0_green_2 13 rfl rfl)
theorem dX0_green_63 : decode cX0_green 63 = .ok (.ireturn, 1) := dk_172 (dk_at dksX0_green_2 15 rfl rfl)
theorem dX0_green_64 : decode cX0_green 64 = .ok (.aload_n 0, 1) := dk_42 (dk_at dksX0_green_2 16 rfl rfl)
theorem dX0_green_65 : decode cX0_green 65 = .ok (.getfield 17, 3) := dk_180 0 17 (dk_at dksX0_green_2 17 rfl rfl)
theorem dX0_green_68 : decode cX0_green 68 = .ok (.getfield 375, 3) := dk_180 1 119 (dk_at dksX0_green_2 20 rfl rfl)
theorem dX0_green_71 : decode cX0_green 71 = .ok (.bipush 8, 2) := dk_16 8 (dk_at dksX0_green_3 0 rfl rfl)
theorem dX0_green_73 : decode cX0_green 73 = .ok (.if_icmp .ne 6, 3) := dk_160 0 6 (dk_at dksX0_green_3 2 rfl rfl)
theorem dX0_green_76 : decode cX0_green 76 = .ok (.bipush (-4), 2) := dk_16 252 (dk_at dksX0_green_3 5 rfl rfl)
theorem dX0_green_78 : decode cX0_green 78 = .ok (.ireturn, 1) := dk_172 (dk_at dksX0_green_3 7 rfl rfl)
theorem dX0_green_79 : decode cX0_green 79 = .ok (.aload_n 0, 1) := dk_42 (dk_at dksX0_green_3 8 rfl rfl)
theorem dX0_green_80 : decode cX0_green 80 = .ok (.getfield 17, 3) := dk_180 0 17 (dk_at dksX0_green_3 9 rfl rfl)
theorem dX0_green_83 : decode cX0_green 83 = .ok (.getfield 372, 3) := dk_180 1 116 (dk_at dksX0_green_3 12 rfl rfl)
theorem dX0_green_86 : decode cX0_green 86 = .ok (.aload_n 0, 1) := dk_42 (dk_at dksX0_green_3 15 rfl rfl)
theorem dX0_green_87 : decode cX0_green 87 = .ok (.getfield 17, 3) := dk_180 0 17 (dk_at dksX0_green_3 16 rfl rfl)
theorem dX0_green_90 : decode cX0_green 90 = .ok (.getfield 375, 3) := dk_180 1 119 (dk_at dksX0_green_3 19 rfl rfl)
theorem dX0_green_93 : decode cX0_green 93 = .ok (.aaload, 1) := dk_50 (dk_at dksX0_green_3 22 rfl rfl)
theorem dX0_green_94 : decode cX0_green 94 = .ok (.iload_n 1, 1) := dk_27 (dk_at dksX0_green_3 23 rfl rfl)
theorem dX0_green_95 : decode cX0_green 95 = .ok (.iload_n 2, 1) := dk_28 (dk_at dksX0_green_4 0 rfl rfl)
theorem dX0_green_96 : decode cX0_green 96 = .ok (.iload_n 3, 1) := dk_29 (dk_at dksX0_green_4 1 rfl rfl)
theorem dX0_green_97 : decode cX0_green 97 = .ok (.invokevirtual 393, 3) := dk_182 1 137 (dk_at dksX0_green_4 2 rfl rfl)
theorem dX0_green_100 : decode cX0_green 100 = .ok (.aload_n 0, 1) := dk_42 (dk_at dksX0_green_4 5 rfl rfl)
theorem dX0_green_101 : decode cX0_green 101 = .ok (.getfield 17, 3) := dk_180 0 17 (dk_at dksX0_green_4 6 rfl rfl)
theorem dX0_green_104 : decode cX0_green 104 = .ok (.dup, 1) := dk_89 (dk_at dksX0_green_4 9 rfl rfl)
theorem dX0_green_105 : decode cX0_green 105 = .ok (.getfield 375, 3) := dk_180 1 119 (dk_at dksX0_green_4 10 rfl rfl)
theorem dX0_green_108 : decode cX0_green 108 = .ok (.iconst 1, 1) := dk_4 (dk_at dksX0_green_4 13 rfl rfl)
theorem dX0_green_109 : decode cX0_green 109 = .ok (.iadd, 1) := dk_96 (dk_at dksX0_green_4 14 rfl rfl)
theorem dX0_green_110 : decode cX0_green 110 = .ok (.putfield 375, 3) := dk_181 1 119 (dk_at dksX0_green_4 15 rfl rfl)
theorem dX0_green_113 : decode cX0_green 113 = .ok (.aload_n 0, 1) := dk_42 (dk_at dksX0_green_4 18 rfl rfl)
theorem dX0_green_114 : decode cX0_green 114 = .ok (.getfield 17, 3) := dk_180 0 17 (dk_at dksX0_green_4 19 rfl rfl)
theorem dX0_green_117 : decode cX0_green 117 = .ok (.getfield 375, 3) := dk_180 1 119 (dk_at dksX0_green_5 0 rfl rfl)
theorem dX0_green_120 : decode cX0_green 120 = .ok (.ireturn, 1) := dk_172 (dk_at dksX0_green_5 3 rfl rfl)
abbrev cX0_proved : ByteArray := prog_1_method_40_code
def yX0_proved : MethodName := ⟨RX0, "proved", "()I"⟩
def dkwX0_proved_4 : List UInt8 := [154, 0, 5, 27, 172, 132, 3, 1, 167, 255, 177, 132, 1, 1, 167, 255, 148, 16, 251, 172]
abbrev dktX0_proved_4 : List UInt8 := dkwX0_proved_4 ++ []
def dkwX0_proved_3 : List UInt8 := [180, 0, 17, 21, 5, 21, 6, 182, 1, 54, 42, 180, 0, 17, 21, 6, 21, 5, 182, 1, 54, 184, 1, 138]
abbrev dktX0_proved_3 : List UInt8 := dkwX0_proved_3 ++ dktX0_proved_4
def dkwX0_proved_2 : List UInt8 := [44, 180, 1, 96, 54, 6, 42, 180, 0, 17, 21, 5, 21, 6, 182, 1, 57, 153, 0, 36, 25, 4, 44, 42]
abbrev dktX0_proved_2 : List UInt8 := dkwX0_proved_2 ++ dktX0_proved_3
def dkwX0_proved_1 : List UInt8 := [62, 29, 27, 162, 0, 80, 42, 180, 0, 17, 180, 1, 116, 29, 50, 58, 4, 25, 4, 180, 1, 96, 54, 5]
abbrev dktX0_proved_1 : List UInt8 := dkwX0_proved_1 ++ dktX0_proved_2
def dkwX0_proved_0 : List UInt8 := [3, 60, 27, 42, 180, 0, 17, 180, 1, 119, 162, 0, 103, 42, 180, 0, 17, 180, 1, 116, 27, 50, 77, 3]
abbrev dktX0_proved_0 : List UInt8 := dkwX0_proved_0 ++ dktX0_proved_1
theorem dksX0_proved_0 : cX0_proved.data.toList.drop 0 = dktX0_proved_0 := by decide +kernel
theorem dksX0_proved_1 : cX0_proved.data.toList.drop 24 = dktX0_proved_1 := dk_seg dksX0_proved_0 24 rfl rfl
theorem dksX0_proved_2 : cX0_proved.data.toList.drop 48 = dktX0_proved_2 := dk_seg dksX0_proved_1 24 rfl rfl
theorem dksX0_proved_3 : cX0_proved.data.toList.drop 72 = dktX0_proved_3 := dk_seg dksX0_proved_2 24 rfl rfl
theorem dksX0_proved_4 : cX0_proved.data.toList.drop 96 = dktX0_proved_4 := dk_seg dksX0_proved_3 24 rfl rfl
theorem dX0_proved_0 : decode cX0_proved 0 = .ok (.iconst 0, 1) := dk_3 (dk_at dksX0_proved_0 0 rfl rfl)
theorem dX0_proved_1 : decode cX0_proved 1 = .ok (.istore_n 1, 1) := dk_60 (dk_at dksX0_proved_0 1 rfl rfl)
theorem dX0_proved_2 : decode cX0_proved 2 = .ok (.iload_n 1, 1) := dk_27 (dk_at dksX0_proved_0 2 rfl rfl)
theorem dX0_proved_3 : decode cX0_proved 3 = .ok (.aload_n 0, 1) := dk_42 (dk_at dksX0_proved_0 3 rfl rfl)
theorem dX0_proved_4 : decode cX0_proved 4 = .ok (.getfield 17, 3) := dk_180 0 17 (dk_at dksX0_proved_0 4 rfl rfl)
theorem dX0_proved_7 : decode cX0_proved 7 = .ok (.getfield 375, 3) := dk_180 1 119 (dk_at dksX0_proved_0 7 rfl rfl)
theorem dX0_proved_10 : decode cX0_proved 10 = .ok (.if_icmp .ge 103, 3) := dk_162 0 103 (dk_at dksX0_proved_0 10 rfl rfl)
theorem dX0_proved_13 : decode cX0_proved 13 = .ok (.aload_n 0, 1) := dk_42 (dk_at dksX0_proved_0 13 rfl rfl)
theorem dX0_proved_14 : decode cX0_proved 14 = .ok (.getfield 17, 3) := dk_180 0 17 (dk_at dksX0_proved_0 14 rfl rfl)
theorem dX0_proved_17 : decode cX0_proved 17 = .ok (.getfield 372, 3) := dk_180 1 116 (dk_at dksX0_proved_0 17 rfl rfl)
theorem dX0_proved_20 : decode cX0_proved 20 = .ok (.iload_n 1, 1) := dk_27 (dk_at dksX0_proved_0 20 rfl rfl)
theorem dX0_proved_21 : decode cX0_proved 21 = .ok (.aaload, 1) := dk_50 (dk_at dksX0_proved_0 21 rfl rfl)
theorem dX0_proved_22 : decode cX0_proved 22 = .ok (.astore_n 2, 1) := dk_77 (dk_at dksX0_proved_0 22 rfl rfl)
theorem dX0_proved_23 : decode cX0_proved 23 = .ok (.iconst 0, 1) := dk_3 (dk_at dksX0_proved_0 23 rfl rfl)
theorem dX0_proved_24 : decode cX0_proved 24 = .ok (.istore_n 3, 1) := dk_62 (dk_at dksX0_proved_1 0 rfl rfl)
theorem dX0_proved_25 : decode cX0_proved 25 = .ok (.iload_n 3, 1) := dk_29 (dk_at dksX0_proved_1 1 rfl rfl)
theorem dX0_proved_26 : decode cX0_proved 26 = .ok (.iload_n 1, 1) := dk_27 (dk_at dksX0_proved_1 2 rfl rfl)
theorem dX0_proved_27 : decode cX0_proved 27 = .ok (.if_icmp .ge 80, 3) := dk_162 0 80 (dk_at dksX0_proved_1 3 rfl rfl)
theorem dX0_proved_30 : decode cX0_proved 30 = .ok (.aload_n 0, 1) := dk_42 (dk_at dksX0_proved_1 6 rfl rfl)
theorem dX0_proved_31 : decode cX0_proved 31 = .ok (.getfield 17, 3) := dk_180 0 17 (dk_at dksX0_proved_1 7 rfl rfl)
theorem dX0_proved_34 : decode cX0_proved 34 = .ok (.getfield 372, 3) := dk_180 1 116 (dk_at dksX0_proved_1 10 rfl rfl)
theorem dX0_proved_37 : decode cX0_proved 37 = .ok (.iload_n 3, 1) := dk_29 (dk_at dksX0_proved_1 13 rfl rfl)
theorem dX0_proved_38 : decode cX0_proved 38 = .ok (.aaload, 1) := dk_50 (dk_at dksX0_proved_1 14 rfl rfl)
theorem dX0_proved_39 : decode cX0_proved 39 = .ok (.astore 4, 2) := dk_58 4 (dk_at dksX0_proved_1 15 rfl rfl)
theorem dX0_proved_41 : decode cX0_proved 41 = .ok (.aload 4, 2) := dk_25 4 (dk_at dksX0_proved_1 17 rfl rfl)
theorem dX0_proved_43 : decode cX0_proved 43 = .ok (.getfield 352, 3) := dk_180 1 96 (dk_at dksX0_proved_1 19 rfl rfl)
theorem dX0_proved_46 : decode cX0_proved 46 = .ok (.istore 5, 2) := dk_54 5 (dk_at dksX0_proved_1 22 rfl rfl)
theorem dX0_proved_48 : decode cX0_proved 48 = .ok (.aload_n 2, 1) := dk_44 (dk_at dksX0_proved_2 0 rfl rfl)
theorem dX0_proved_49 : decode cX0_proved 49 = .ok (.getfield 352, 3) := dk_180 1 96 (dk_at dksX0_proved_2 1 rfl rfl)
theorem dX0_proved_52 : decode cX0_proved 52 = .ok (.istore 6, 2) := dk_54 6 (dk_at dksX0_proved_2 4 rfl rfl)
theorem dX0_proved_54 : decode cX0_proved 54 = .ok (.aload_n 0, 1) := dk_42 (dk_at dksX0_proved_2 6 rfl rfl)
theorem dX0_proved_55 : decode cX0_proved 55 = .ok (.getfield 17, 3) := dk_180 0 17 (dk_at dksX0_proved_2 7 rfl rfl)
theorem dX0_proved_58 : decode cX0_proved 58 = .ok (.iload 5, 2) := dk_21 5 (dk_at dksX0_proved_2 10 rfl rfl)
theorem dX0_proved_60 : decode cX0_proved 60 = .ok (.iload 6, 2) := dk_21 6 (dk_at dksX0_proved_2 12 rfl rfl)
theorem dX0_proved_62 : decode cX0_proved 62 = .ok (.invokevirtual 313, 3) := dk_182 1 57 (dk_at dksX0_proved_2 14 rfl rfl)
theorem dX0_proved_65 : decode cX0_proved 65 = .ok (.ifCond .eq 36, 3) := dk_153 0 36 (dk_at dksX0_proved_2 17 rfl rfl)
theorem dX0_proved_68 : decode cX0_proved 68 = .ok (.aload 4, 2) := dk_25 4 (dk_at dksX0_proved_2 20 rfl rfl)
theorem dX0_proved_70 : decode cX0_proved 70 = .ok (.aload_n 2, 1) := dk_44 (dk_at dksX0_proved_2 22 rfl rfl)
theorem dX0_proved_71 : decode cX0_proved 71 = .ok (.aload_n 0, 1) := dk_42 (dk_at dksX0_proved_2 23 rfl rfl)
theorem dX0_proved_72 : decode cX0_proved 72 = .ok (.getfield 17, 3) := dk_180 0 17 (dk_at dksX0_proved_3 0 rfl rfl)
theorem dX0_proved_75 : decode cX0_proved 75 = .ok (.iload 5, 2) := dk_21 5 (dk_at dksX0_proved_3 3 rfl rfl)
theorem dX0_proved_77 : decode cX0_proved 77 = .ok (.iload 6, 2) := dk_21 6 (dk_at dksX0_proved_3 5 rfl rfl)
theorem dX0_proved_79 : decode cX0_proved 79 = .ok (.invokevirtual 310, 3) := dk_182 1 54 (dk_at dksX0_proved_3 7 rfl rfl)
theorem dX0_proved_82 : decode cX0_proved 82 = .ok (.aload_n 0, 1) := dk_42 (dk_at dksX0_proved_3 10 rfl rfl)
theorem dX0_proved_83 : decode cX0_proved 83 = .ok (.getfield 17, 3) := dk_180 0 17 (dk_at dksX0_proved_3 11 rfl rfl)
theorem dX0_proved_86 : decode cX0_proved 86 = .ok (.iload 6, 2) := dk_21 6 (dk_at dksX0_proved_3 14 rfl rfl)
theorem dX0_proved_88 : decode cX0_proved 88 = .ok (.iload 5, 2) := dk_21 5 (dk_at dksX0_proved_3 16 rfl rfl)
theorem dX0_proved_90 : decode cX0_proved 90 = .ok (.invokevirtual 310, 3) := dk_182 1 54 (dk_at dksX0_proved_3 18 rfl rfl)
theorem dX0_proved_93 : decode cX0_proved 93 = .ok (.invokestatic 394, 3) := dk_184 1 138 (dk_at dksX0_proved_3 21 rfl rfl)
theorem dX0_proved_96 : decode cX0_proved 96 = .ok (.ifCond .ne 5, 3) := dk_154 0 5 (dk_at dksX0_proved_4 0 rfl rfl)
theorem dX0_proved_99 : decode cX0_proved 99 = .ok (.iload_n 1, 1) := dk_27 (dk_at dksX0_proved_4 3 rfl rfl)
theorem dX0_proved_100 : decode cX0_proved 100 = .ok (.ireturn, 1) := dk_172 (dk_at dksX0_proved_4 4 rfl rfl)
theorem dX0_proved_101 : decode cX0_proved 101 = .ok (.iinc 3 1, 3) := dk_132 3 1 (dk_at dksX0_proved_4 5 rfl rfl)
theorem dX0_proved_104 : decode cX0_proved 104 = .ok (.goto (-79), 3) := dk_167 255 177 (dk_at dksX0_proved_4 8 rfl rfl)
theorem dX0_proved_107 : decode cX0_proved 107 = .ok (.iinc 1 1, 3) := dk_132 1 1 (dk_at dksX0_proved_4 11 rfl rfl)
theorem dX0_proved_110 : decode cX0_proved 110 = .ok (.goto (-108), 3) := dk_167 255 148 (dk_at dksX0_proved_4 14 rfl rfl)
theorem dX0_proved_113 : decode cX0_proved 113 = .ok (.bipush (-5), 2) := dk_16 251 (dk_at dksX0_proved_4 17 rfl rfl)
theorem dX0_proved_115 : decode cX0_proved 115 = .ok (.ireturn, 1) := dk_172 (dk_at dksX0_proved_4 19 rfl rfl)
abbrev cX0_wave : ByteArray := prog_1_method_41_code
def yX0_wave : MethodName := ⟨RX0, "wave", "(I)I"⟩
def dkwX0_wave_1 : List UInt8 := [61, 42, 180, 0, 17, 27, 181, 1, 142, 42, 180, 0, 17, 3, 181, 1, 145, 28, 172]
abbrev dktX0_wave_1 : List UInt8 := dkwX0_wave_1 ++ []
def dkwX0_wave_0 : List UInt8 := [27, 133, 20, 0, 208, 20, 0, 148, 184, 0, 74, 154, 0, 6, 16, 254, 172, 42, 180, 0, 17, 180, 1, 142]
abbrev dktX0_wave_0 : List UInt8 := dkwX0_wave_0 ++ dktX0_wave_1
theorem dksX0_wave_0 : cX0_wave.data.toList.drop 0 = dktX0_wave_0 := by decide +kernel
theorem dksX0_wave_1 : cX0_wave.data.toList.drop 24 = dktX0_wave_1 := dk_seg dksX0_wave_0 24 rfl rfl
theorem dX0_wave_0 : decode cX0_wave 0 = .ok (.iload_n 1, 1) := dk_27 (dk_at dksX0_wave_0 0 rfl rfl)
theorem dX0_wave_1 : decode cX0_wave 1 = .ok (.i2l, 1) := dk_133 (dk_at dksX0_wave_0 1 rfl rfl)
theorem dX0_wave_2 : decode cX0_wave 2 = .ok (.ldc2_w 208, 3) := dk_20 0 208 (dk_at dksX0_wave_0 2 rfl rfl)
theorem dX0_wave_5 : decode cX0_wave 5 = .ok (.ldc2_w 148, 3) := dk_20 0 148 (dk_at dksX0_wave_0 5 rfl rfl)
theorem dX0_wave_8 : decode cX0_wave 8 = .ok (.invokestatic 74, 3) := dk_184 0 74 (dk_at dksX0_wave_0 8 rfl rfl)
theorem dX0_wave_11 : decode cX0_wave 11 = .ok (.ifCond .ne 6, 3) := dk_154 0 6 (dk_at dksX0_wave_0 11 rfl rfl)
theorem dX0_wave_14 : decode cX0_wave 14 = .ok (.bipush (-2), 2) := dk_16 254 (dk_at dksX0_wave_0 14 rfl rfl)
theorem dX0_wave_16 : decode cX0_wave 16 = .ok (.ireturn, 1) := dk_172 (dk_at dksX0_wave_0 16 rfl rfl)
theorem dX0_wave_17 : decode cX0_wave 17 = .ok (.aload_n 0, 1) := dk_42 (dk_at dksX0_wave_0 17 rfl rfl)
theorem dX0_wave_18 : decode cX0_wave 18 = .ok (.getfield 17, 3) := dk_180 0 17 (dk_at dksX0_wave_0 18 rfl rfl)
theorem dX0_wave_21 : decode cX0_wave 21 = .ok (.getfield 398, 3) := dk_180 1 142 (dk_at dksX0_wave_0 21 rfl rfl)
theorem dX0_wave_24 : decode cX0_wave 24 = .ok (.istore_n 2, 1) := dk_61 (dk_at dksX0_wave_1 0 rfl rfl)
theorem dX0_wave_25 : decode cX0_wave 25 = .ok (.aload_n 0, 1) := dk_42 (dk_at dksX0_wave_1 1 rfl rfl)
theorem dX0_wave_26 : decode cX0_wave 26 = .ok (.getfield 17, 3) := dk_180 0 17 (dk_at dksX0_wave_1 2 rfl rfl)
theorem dX0_wave_29 : decode cX0_wave 29 = .ok (.iload_n 1, 1) := dk_27 (dk_at dksX0_wave_1 5 rfl rfl)
theorem dX0_wave_30 : decode cX0_wave 30 = .ok (.putfield 398, 3) := dk_181 1 142 (dk_at dksX0_wave_1 6 rfl rfl)
theorem dX0_wave_33 : decode cX0_wave 33 = .ok (.aload_n 0, 1) := dk_42 (dk_at dksX0_wave_1 9 rfl rfl)
theorem dX0_wave_34 : decode cX0_wave 34 = .ok (.getfield 17, 3) := dk_180 0 17 (dk_at dksX0_wave_1 10 rfl rfl)
theorem dX0_wave_37 : decode cX0_wave 37 = .ok (.iconst 0, 1) := dk_3 (dk_at dksX0_wave_1 13 rfl rfl)
theorem dX0_wave_38 : decode cX0_wave 38 = .ok (.putfield 401, 3) := dk_181 1 145 (dk_at dksX0_wave_1 14 rfl rfl)
theorem dX0_wave_41 : decode cX0_wave 41 = .ok (.iload_n 2, 1) := dk_28 (dk_at dksX0_wave_1 17 rfl rfl)
theorem dX0_wave_42 : decode cX0_wave 42 = .ok (.ireturn, 1) := dk_172 (dk_at dksX0_wave_1 18 rfl rfl)
abbrev cX0_node : ByteArray := prog_1_method_43_code
def yX0_node : MethodName := ⟨RX0, "node", "(III)I"⟩
def dkwX0_node_4 : List UInt8 := [180, 1, 145, 4, 96, 181, 1, 145, 42, 180, 0, 17, 180, 1, 145, 4, 100, 172]
abbrev dktX0_node_4 : List UInt8 := dkwX0_node_4 ++ []
def dkwX0_node_3 : List UInt8 := [58, 4, 25, 4, 3, 27, 79, 25, 4, 4, 28, 79, 25, 4, 5, 29, 79, 42, 180, 0, 17, 89]
abbrev dktX0_node_3 : List UInt8 := dkwX0_node_3 ++ dktX0_node_4
def dkwX0_node_2 : List UInt8 := [160, 0, 6, 16, 252, 172, 42, 180, 0, 17, 180, 1, 151, 42, 180, 0, 17, 180, 1, 145, 50, 180, 1, 155]
abbrev dktX0_node_2 : List UInt8 := dkwX0_node_2 ++ dktX0_node_3
def dkwX0_node_1 : List UInt8 := [5, 29, 182, 1, 148, 84, 184, 0, 82, 154, 0, 6, 16, 254, 172, 42, 180, 0, 17, 180, 1, 145, 8]
abbrev dktX0_node_1 : List UInt8 := dkwX0_node_1 ++ dktX0_node_2
def dkwX0_node_0 : List UInt8 := [6, 188, 4, 89, 3, 42, 3, 27, 182, 1, 148, 84, 89, 4, 42, 4, 28, 182, 1, 148, 84, 89, 5, 42]
abbrev dktX0_node_0 : List UInt8 := dkwX0_node_0 ++ dktX0_node_1
theorem dksX0_node_0 : cX0_node.data.toList.drop 0 = dktX0_node_0 := by decide +kernel
theorem dksX0_node_1 : cX0_node.data.toList.drop 24 = dktX0_node_1 := dk_seg dksX0_node_0 24 rfl rfl
theorem dksX0_node_2 : cX0_node.data.toList.drop 47 = dktX0_node_2 := dk_seg dksX0_node_1 23 rfl rfl
theorem dksX0_node_3 : cX0_node.data.toList.drop 71 = dktX0_node_3 := dk_seg dksX0_node_2 24 rfl rfl
theorem dksX0_node_4 : cX0_node.data.toList.drop 93 = dktX0_node_4 := dk_seg dksX0_node_3 22 rfl rfl
theorem dX0_node_0 : decode cX0_node 0 = .ok (.iconst 3, 1) := dk_6 (dk_at dksX0_node_0 0 rfl rfl)
theorem dX0_node_1 : decode cX0_node 1 = .ok (.newarray .boolean, 2) := dk_188_4 (dk_at dksX0_node_0 1 rfl rfl)
theorem dX0_node_3 : decode cX0_node 3 = .ok (.dup, 1) := dk_89 (dk_at dksX0_node_0 3 rfl rfl)
theorem dX0_node_4 : decode cX0_node 4 = .ok (.iconst 0, 1) := dk_3 (dk_at dksX0_node_0 4 rfl rfl)
theorem dX0_node_5 : decode cX0_node 5 = .ok (.aload_n 0, 1) := dk_42 (dk_at dksX0_node_0 5 rfl rfl)
theorem dX0_node_6 : decode cX0_node 6 = .ok (.iconst 0, 1) := dk_3 (dk_at dksX0_node_0 6 rfl rfl)
theorem dX0_node_7 : decode cX0_node 7 = .ok (.iload_n 1, 1) := dk_27 (dk_at dksX0_node_0 7 rfl rfl)
theorem dX0_node_8 : decode cX0_node 8 = .ok (.invokevirtual 404, 3) := dk_182 1 148 (dk_at dksX0_node_0 8 rfl rfl)
theorem dX0_node_11 : decode cX0_node 11 = .ok (.bastore, 1) := dk_84 (dk_at dksX0_node_0 11 rfl rfl)
theorem dX0_node_12 : decode cX0_node 12 = .ok (.dup, 1) := dk_89 (dk_at dksX0_node_0 12 rfl rfl)
theorem dX0_node_13 : decode cX0_node 13 = .ok (.iconst 1, 1) := dk_4 (dk_at dksX0_node_0 13 rfl rfl)
theorem dX0_node_14 : decode cX0_node 14 = .ok (.aload_n 0, 1) := dk_42 (dk_at dksX0_node_0 14 rfl rfl)
theorem dX0_node_15 : decode cX0_node 15 = .ok (.iconst 1, 1) := dk_4 (dk_at dksX0_node_0 15 rfl rfl)
theorem dX0_node_16 : decode cX0_node 16 = .ok (.iload_n 2, 1) := dk_28 (dk_at dksX0_node_0 16 rfl rfl)
theorem dX0_node_17 : decode cX0_node 17 = .ok (.invokevirtual 404, 3) := dk_182 1 148 (dk_at dksX0_node_0 17 rfl rfl)
theorem dX0_node_20 : decode cX0_node 20 = .ok (.bastore, 1) := dk_84 (dk_at dksX0_node_0 20 rfl rfl)
theorem dX0_node_21 : decode cX0_node 21 = .ok (.dup, 1) := dk_89 (dk_at dksX0_node_0 21 rfl rfl)
theorem dX0_node_22 : decode cX0_node 22 = .ok (.iconst 2, 1) := dk_5 (dk_at dksX0_node_0 22 rfl rfl)
theorem dX0_node_23 : decode cX0_node 23 = .ok (.aload_n 0, 1) := dk_42 (dk_at dksX0_node_0 23 rfl rfl)
theorem dX0_node_24 : decode cX0_node 24 = .ok (.iconst 2, 1) := dk_5 (dk_at dksX0_node_1 0 rfl rfl)
theorem dX0_node_25 : decode cX0_node 25 = .ok (.iload_n 3, 1) := dk_29 (dk_at dksX0_node_1 1 rfl rfl)
theorem dX0_node_26 : decode cX0_node 26 = .ok (.invokevirtual 404, 3) := dk_182 1 148 (dk_at dksX0_node_1 2 rfl rfl)
theorem dX0_node_29 : decode cX0_node 29 = .ok (.bastore, 1) := dk_84 (dk_at dksX0_node_1 5 rfl rfl)
theorem dX0_node_30 : decode cX0_node 30 = .ok (.invokestatic 82, 3) := dk_184 0 82 (dk_at dksX0_node_1 6 rfl rfl)
theorem dX0_node_33 : decode cX0_node 33 = .ok (.ifCond .ne 6, 3) := dk_154 0 6 (dk_at dksX0_node_1 9 rfl rfl)
theorem dX0_node_36 : decode cX0_node 36 = .ok (.bipush (-2), 2) := dk_16 254 (dk_at dksX0_node_1 12 rfl rfl)
theorem dX0_node_38 : decode cX0_node 38 = .ok (.ireturn, 1) := dk_172 (dk_at dksX0_node_1 14 rfl rfl)
theorem dX0_node_39 : decode cX0_node 39 = .ok (.aload_n 0, 1) := dk_42 (dk_at dksX0_node_1 15 rfl rfl)
theorem dX0_node_40 : decode cX0_node 40 = .ok (.getfield 17, 3) := dk_180 0 17 (dk_at dksX0_node_1 16 rfl rfl)
theorem dX0_node_43 : decode cX0_node 43 = .ok (.getfield 401, 3) := dk_180 1 145 (dk_at dksX0_node_1 19 rfl rfl)
theorem dX0_node_46 : decode cX0_node 46 = .ok (.iconst 5, 1) := dk_8 (dk_at dksX0_node_1 22 rfl rfl)
theorem dX0_node_47 : decode cX0_node 47 = .ok (.if_icmp .ne 6, 3) := dk_160 0 6 (dk_at dksX0_node_2 0 rfl rfl)
theorem dX0_node_50 : decode cX0_node 50 = .ok (.bipush (-4), 2) := dk_16 252 (dk_at dksX0_node_2 3 rfl rfl)
theorem dX0_node_52 : decode cX0_node 52 = .ok (.ireturn, 1) := dk_172 (dk_at dksX0_node_2 5 rfl rfl)
theorem dX0_node_53 : decode cX0_node 53 = .ok (.aload_n 0, 1) := dk_42 (dk_at dksX0_node_2 6 rfl rfl)
theorem dX0_node_54 : decode cX0_node 54 = .ok (.getfield 17, 3) := dk_180 0 17 (dk_at dksX0_node_2 7 rfl rfl)
theorem dX0_node_57 : decode cX0_node 57 = .ok (.getfield 407, 3) := dk_180 1 151 (dk_at dksX0_node_2 10 rfl rfl)
theorem dX0_node_60 : decode cX0_node 60 = .ok (.aload_n 0, 1) := dk_42 (dk_at dksX0_node_2 13 rfl rfl)
theorem dX0_node_61 : decode cX0_node 61 = .ok (.getfield 17, 3) := dk_180 0 17 (dk_at dksX0_node_2 14 rfl rfl)
theorem dX0_node_64 : decode cX0_node 64 = .ok (.getfield 401, 3) := dk_180 1 145 (dk_at dksX0_node_2 17 rfl rfl)
theorem dX0_node_67 : decode cX0_node 67 = .ok (.aaload, 1) := dk_50 (dk_at dksX0_node_2 20 rfl rfl)
theorem dX0_node_68 : decode cX0_node 68 = .ok (.getfield 411, 3) := dk_180 1 155 (dk_at dksX0_node_2 21 rfl rfl)
theorem dX0_node_71 : decode cX0_node 71 = .ok (.astore 4, 2) := dk_58 4 (dk_at dksX0_node_3 0 rfl rfl)
theorem dX0_node_73 : decode cX0_node 73 = .ok (.aload 4, 2) := dk_25 4 (dk_at dksX0_node_3 2 rfl rfl)
theorem dX0_node_75 : decode cX0_node 75 = .ok (.iconst 0, 1) := dk_3 (dk_at dksX0_node_3 4 rfl rfl)
theorem dX0_node_76 : decode cX0_node 76 = .ok (.iload_n 1, 1) := dk_27 (dk_at dksX0_node_3 5 rfl rfl)
theorem dX0_node_77 : decode cX0_node 77 = .ok (.iastore, 1) := dk_79 (dk_at dksX0_node_3 6 rfl rfl)
theorem dX0_node_78 : decode cX0_node 78 = .ok (.aload 4, 2) := dk_25 4 (dk_at dksX0_node_3 7 rfl rfl)
theorem dX0_node_80 : decode cX0_node 80 = .ok (.iconst 1, 1) := dk_4 (dk_at dksX0_node_3 9 rfl rfl)
theorem dX0_node_81 : decode cX0_node 81 = .ok (.iload_n 2, 1) := dk_28 (dk_at dksX0_node_3 10 rfl rfl)
theorem dX0_node_82 : decode cX0_node 82 = .ok (.iastore, 1) := dk_79 (dk_at dksX0_node_3 11 rfl rfl)
theorem dX0_node_83 : decode cX0_node 83 = .ok (.aload 4, 2) := dk_25 4 (dk_at dksX0_node_3 12 rfl rfl)
theorem dX0_node_85 : decode cX0_node 85 = .ok (.iconst 2, 1) := dk_5 (dk_at dksX0_node_3 14 rfl rfl)
theorem dX0_node_86 : decode cX0_node 86 = .ok (.iload_n 3, 1) := dk_29 (dk_at dksX0_node_3 15 rfl rfl)
theorem dX0_node_87 : decode cX0_node 87 = .ok (.iastore, 1) := dk_79 (dk_at dksX0_node_3 16 rfl rfl)
theorem dX0_node_88 : decode cX0_node 88 = .ok (.aload_n 0, 1) := dk_42 (dk_at dksX0_node_3 17 rfl rfl)
theorem dX0_node_89 : decode cX0_node 89 = .ok (.getfield 17, 3) := dk_180 0 17 (dk_at dksX0_node_3 18 rfl rfl)
theorem dX0_node_92 : decode cX0_node 92 = .ok (.dup, 1) := dk_89 (dk_at dksX0_node_3 21 rfl rfl)
theorem dX0_node_93 : decode cX0_node 93 = .ok (.getfield 401, 3) := dk_180 1 145 (dk_at dksX0_node_4 0 rfl rfl)
theorem dX0_node_96 : decode cX0_node 96 = .ok (.iconst 1, 1) := dk_4 (dk_at dksX0_node_4 3 rfl rfl)
theorem dX0_node_97 : decode cX0_node 97 = .ok (.iadd, 1) := dk_96 (dk_at dksX0_node_4 4 rfl rfl)
theorem dX0_node_98 : decode cX0_node 98 = .ok (.putfield 401, 3) := dk_181 1 145 (dk_at dksX0_node_4 5 rfl rfl)
theorem dX0_node_101 : decode cX0_node 101 = .ok (.aload_n 0, 1) := dk_42 (dk_at dksX0_node_4 8 rfl rfl)
theorem dX0_node_102 : decode cX0_node 102 = .ok (.getfield 17, 3) := dk_180 0 17 (dk_at dksX0_node_4 9 rfl rfl)
theorem dX0_node_105 : decode cX0_node 105 = .ok (.getfield 401, 3) := dk_180 1 145 (dk_at dksX0_node_4 12 rfl rfl)
theorem dX0_node_108 : decode cX0_node 108 = .ok (.iconst 1, 1) := dk_4 (dk_at dksX0_node_4 15 rfl rfl)
theorem dX0_node_109 : decode cX0_node 109 = .ok (.isub, 1) := dk_100 (dk_at dksX0_node_4 16 rfl rfl)
theorem dX0_node_110 : decode cX0_node 110 = .ok (.ireturn, 1) := dk_172 (dk_at dksX0_node_4 17 rfl rfl)
abbrev cX0_isOfNode : ByteArray := prog_1_method_42_code
def yX0_isOfNode : MethodName := ⟨RX0, "isOfNode", "(II)Z"⟩
def dkwX0_isOfNode_2 : List UInt8 := [20, 0, 144, 184, 0, 74, 172]
abbrev dktX0_isOfNode_2 : List UInt8 := dkwX0_isOfNode_2 ++ []
def dkwX0_isOfNode_1 : List UInt8 := [4, 160, 0, 20, 28, 133, 10, 42, 180, 0, 17, 180, 1, 142, 133, 184, 0, 74, 167, 0, 12, 28, 133, 9]
abbrev dktX0_isOfNode_1 : List UInt8 := dkwX0_isOfNode_1 ++ dktX0_isOfNode_2
def dkwX0_isOfNode_0 : List UInt8 := [27, 154, 0, 22, 28, 133, 9, 42, 180, 0, 17, 180, 1, 142, 4, 100, 133, 184, 0, 74, 167, 0, 34, 27]
abbrev dktX0_isOfNode_0 : List UInt8 := dkwX0_isOfNode_0 ++ dktX0_isOfNode_1
theorem dksX0_isOfNode_0 : cX0_isOfNode.data.toList.drop 0 = dktX0_isOfNode_0 := by decide +kernel
theorem dksX0_isOfNode_1 : cX0_isOfNode.data.toList.drop 24 = dktX0_isOfNode_1 := dk_seg dksX0_isOfNode_0 24 rfl rfl
theorem dksX0_isOfNode_2 : cX0_isOfNode.data.toList.drop 48 = dktX0_isOfNode_2 := dk_seg dksX0_isOfNode_1 24 rfl rfl
theorem dX0_isOfNode_0 : decode cX0_isOfNode 0 = .ok (.iload_n 1, 1) := dk_27 (dk_at dksX0_isOfNode_0 0 rfl rfl)
theorem dX0_isOfNode_1 : decode cX0_isOfNode 1 = .ok (.ifCond .ne 22, 3) := dk_154 0 22 (dk_at dksX0_isOfNode_0 1 rfl rfl)
theorem dX0_isOfNode_4 : decode cX0_isOfNode 4 = .ok (.iload_n 2, 1) := dk_28 (dk_at dksX0_isOfNode_0 4 rfl rfl)
theorem dX0_isOfNode_5 : decode cX0_isOfNode 5 = .ok (.i2l, 1) := dk_133 (dk_at dksX0_isOfNode_0 5 rfl rfl)
theorem dX0_isOfNode_6 : decode cX0_isOfNode 6 = .ok (.lconst 0, 1) := dk_9 (dk_at dksX0_isOfNode_0 6 rfl rfl)
theorem dX0_isOfNode_7 : decode cX0_isOfNode 7 = .ok (.aload_n 0, 1) := dk_42 (dk_at dksX0_isOfNode_0 7 rfl rfl)
theorem dX0_isOfNode_8 : decode cX0_isOfNode 8 = .ok (.getfield 17, 3) := dk_180 0 17 (dk_at dksX0_isOfNode_0 8 rfl rfl)
theorem dX0_isOfNode_11 : decode cX0_isOfNode 11 = .ok (.getfield 398, 3) := dk_180 1 142 (dk_at dksX0_isOfNode_0 11 rfl rfl)
theorem dX0_isOfNode_14 : decode cX0_isOfNode 14 = .ok (.iconst 1, 1) := dk_4 (dk_at dksX0_isOfNode_0 14 rfl rfl)
theorem dX0_isOfNode_15 : decode cX0_isOfNode 15 = .ok (.isub, 1) := dk_100 (dk_at dksX0_isOfNode_0 15 rfl rfl)
theorem dX0_isOfNode_16 : decode cX0_isOfNode 16 = .ok (.i2l, 1) := dk_133 (dk_at dksX0_isOfNode_0 16 rfl rfl)
theorem dX0_isOfNode_17 : decode cX0_isOfNode 17 = .ok (.invokestatic 74, 3) := dk_184 0 74 (dk_at dksX0_isOfNode_0 17 rfl rfl)
theorem dX0_isOfNode_20 : decode cX0_isOfNode 20 = .ok (.goto 34, 3) := dk_167 0 34 (dk_at dksX0_isOfNode_0 20 rfl rfl)
theorem dX0_isOfNode_23 : decode cX0_isOfNode 23 = .ok (.iload_n 1, 1) := dk_27 (dk_at dksX0_isOfNode_0 23 rfl rfl)
theorem dX0_isOfNode_24 : decode cX0_isOfNode 24 = .ok (.iconst 1, 1) := dk_4 (dk_at dksX0_isOfNode_1 0 rfl rfl)
theorem dX0_isOfNode_25 : decode cX0_isOfNode 25 = .ok (.if_icmp .ne 20, 3) := dk_160 0 20 (dk_at dksX0_isOfNode_1 1 rfl rfl)
theorem dX0_isOfNode_28 : decode cX0_isOfNode 28 = .ok (.iload_n 2, 1) := dk_28 (dk_at dksX0_isOfNode_1 4 rfl rfl)
theorem dX0_isOfNode_29 : decode cX0_isOfNode 29 = .ok (.i2l, 1) := dk_133 (dk_at dksX0_isOfNode_1 5 rfl rfl)
theorem dX0_isOfNode_30 : decode cX0_isOfNode 30 = .ok (.lconst 1, 1) := dk_10 (dk_at dksX0_isOfNode_1 6 rfl rfl)
theorem dX0_isOfNode_31 : decode cX0_isOfNode 31 = .ok (.aload_n 0, 1) := dk_42 (dk_at dksX0_isOfNode_1 7 rfl rfl)
theorem dX0_isOfNode_32 : decode cX0_isOfNode 32 = .ok (.getfield 17, 3) := dk_180 0 17 (dk_at dksX0_isOfNode_1 8 rfl rfl)
theorem dX0_isOfNode_35 : decode cX0_isOfNode 35 = .ok (.getfield 398, 3) := dk_180 1 142 (dk_at dksX0_isOfNode_1 11 rfl rfl)
theorem dX0_isOfNode_38 : decode cX0_isOfNode 38 = .ok (.i2l, 1) := dk_133 (dk_at dksX0_isOfNode_1 14 rfl rfl)
theorem dX0_isOfNode_39 : decode cX0_isOfNode 39 = .ok (.invokestatic 74, 3) := dk_184 0 74 (dk_at dksX0_isOfNode_1 15 rfl rfl)
theorem dX0_isOfNode_42 : decode cX0_isOfNode 42 = .ok (.goto 12, 3) := dk_167 0 12 (dk_at dksX0_isOfNode_1 18 rfl rfl)
theorem dX0_isOfNode_45 : decode cX0_isOfNode 45 = .ok (.iload_n 2, 1) := dk_28 (dk_at dksX0_isOfNode_1 21 rfl rfl)
theorem dX0_isOfNode_46 : decode cX0_isOfNode 46 = .ok (.i2l, 1) := dk_133 (dk_at dksX0_isOfNode_1 22 rfl rfl)
theorem dX0_isOfNode_47 : decode cX0_isOfNode 47 = .ok (.lconst 0, 1) := dk_9 (dk_at dksX0_isOfNode_1 23 rfl rfl)
theorem dX0_isOfNode_48 : decode cX0_isOfNode 48 = .ok (.ldc2_w 144, 3) := dk_20 0 144 (dk_at dksX0_isOfNode_2 0 rfl rfl)
theorem dX0_isOfNode_51 : decode cX0_isOfNode 51 = .ok (.invokestatic 74, 3) := dk_184 0 74 (dk_at dksX0_isOfNode_2 3 rfl rfl)
theorem dX0_isOfNode_54 : decode cX0_isOfNode 54 = .ok (.ireturn, 1) := dk_172 (dk_at dksX0_isOfNode_2 6 rfl rfl)
abbrev cX0_change : ByteArray := prog_1_method_45_code
def yX0_change : MethodName := ⟨RX0, "change", "(III)I"⟩
def dkwX0_change_2 : List UInt8 := [54, 4, 42, 180, 0, 17, 180, 1, 151, 27, 50, 180, 1, 155, 28, 29, 79, 21, 4, 172]
abbrev dktX0_change_2 : List UInt8 := dkwX0_change_2 ++ []
def dkwX0_change_1 : List UInt8 := [29, 182, 1, 148, 154, 0, 6, 16, 254, 172, 42, 180, 0, 17, 180, 1, 151, 27, 50, 180, 1, 155, 28, 46]
abbrev dktX0_change_1 : List UInt8 := dkwX0_change_1 ++ dktX0_change_2
def dkwX0_change_0 : List UInt8 := [42, 27, 182, 1, 160, 153, 0, 15, 28, 133, 9, 20, 1, 87, 184, 0, 74, 154, 0, 5, 2, 172, 42, 28]
abbrev dktX0_change_0 : List UInt8 := dkwX0_change_0 ++ dktX0_change_1
theorem dksX0_change_0 : cX0_change.data.toList.drop 0 = dktX0_change_0 := by decide +kernel
theorem dksX0_change_1 : cX0_change.data.toList.drop 24 = dktX0_change_1 := dk_seg dksX0_change_0 24 rfl rfl
theorem dksX0_change_2 : cX0_change.data.toList.drop 48 = dktX0_change_2 := dk_seg dksX0_change_1 24 rfl rfl
theorem dX0_change_0 : decode cX0_change 0 = .ok (.aload_n 0, 1) := dk_42 (dk_at dksX0_change_0 0 rfl rfl)
theorem dX0_change_1 : decode cX0_change 1 = .ok (.iload_n 1, 1) := dk_27 (dk_at dksX0_change_0 1 rfl rfl)
theorem dX0_change_2 : decode cX0_change 2 = .ok (.invokevirtual 416, 3) := dk_182 1 160 (dk_at dksX0_change_0 2 rfl rfl)
theorem dX0_change_5 : decode cX0_change 5 = .ok (.ifCond .eq 15, 3) := dk_153 0 15 (dk_at dksX0_change_0 5 rfl rfl)
theorem dX0_change_8 : decode cX0_change 8 = .ok (.iload_n 2, 1) := dk_28 (dk_at dksX0_change_0 8 rfl rfl)
theorem dX0_change_9 : decode cX0_change 9 = .ok (.i2l, 1) := dk_133 (dk_at dksX0_change_0 9 rfl rfl)
theorem dX0_change_10 : decode cX0_change 10 = .ok (.lconst 0, 1) := dk_9 (dk_at dksX0_change_0 10 rfl rfl)
theorem dX0_change_11 : decode cX0_change 11 = .ok (.ldc2_w 343, 3) := dk_20 1 87 (dk_at dksX0_change_0 11 rfl rfl)
theorem dX0_change_14 : decode cX0_change 14 = .ok (.invokestatic 74, 3) := dk_184 0 74 (dk_at dksX0_change_0 14 rfl rfl)
theorem dX0_change_17 : decode cX0_change 17 = .ok (.ifCond .ne 5, 3) := dk_154 0 5 (dk_at dksX0_change_0 17 rfl rfl)
theorem dX0_change_20 : decode cX0_change 20 = .ok (.iconst (-1), 1) := dk_2 (dk_at dksX0_change_0 20 rfl rfl)
theorem dX0_change_21 : decode cX0_change 21 = .ok (.ireturn, 1) := dk_172 (dk_at dksX0_change_0 21 rfl rfl)
theorem dX0_change_22 : decode cX0_change 22 = .ok (.aload_n 0, 1) := dk_42 (dk_at dksX0_change_0 22 rfl rfl)
theorem dX0_change_23 : decode cX0_change 23 = .ok (.iload_n 2, 1) := dk_28 (dk_at dksX0_change_0 23 rfl rfl)
theorem dX0_change_24 : decode cX0_change 24 = .ok (.iload_n 3, 1) := dk_29 (dk_at dksX0_change_1 0 rfl rfl)
theorem dX0_change_25 : decode cX0_change 25 = .ok (.invokevirtual 404, 3) := dk_182 1 148 (dk_at dksX0_change_1 1 rfl rfl)
theorem dX0_change_28 : decode cX0_change 28 = .ok (.ifCond .ne 6, 3) := dk_154 0 6 (dk_at dksX0_change_1 4 rfl rfl)
theorem dX0_change_31 : decode cX0_change 31 = .ok (.bipush (-2), 2) := dk_16 254 (dk_at dksX0_change_1 7 rfl rfl)
theorem dX0_change_33 : decode cX0_change 33 = .ok (.ireturn, 1) := dk_172 (dk_at dksX0_change_1 9 rfl rfl)
theorem dX0_change_34 : decode cX0_change 34 = .ok (.aload_n 0, 1) := dk_42 (dk_at dksX0_change_1 10 rfl rfl)
theorem dX0_change_35 : decode cX0_change 35 = .ok (.getfield 17, 3) := dk_180 0 17 (dk_at dksX0_change_1 11 rfl rfl)
theorem dX0_change_38 : decode cX0_change 38 = .ok (.getfield 407, 3) := dk_180 1 151 (dk_at dksX0_change_1 14 rfl rfl)
theorem dX0_change_41 : decode cX0_change 41 = .ok (.iload_n 1, 1) := dk_27 (dk_at dksX0_change_1 17 rfl rfl)
theorem dX0_change_42 : decode cX0_change 42 = .ok (.aaload, 1) := dk_50 (dk_at dksX0_change_1 18 rfl rfl)
theorem dX0_change_43 : decode cX0_change 43 = .ok (.getfield 411, 3) := dk_180 1 155 (dk_at dksX0_change_1 19 rfl rfl)
theorem dX0_change_46 : decode cX0_change 46 = .ok (.iload_n 2, 1) := dk_28 (dk_at dksX0_change_1 22 rfl rfl)
theorem dX0_change_47 : decode cX0_change 47 = .ok (.iaload, 1) := dk_46 (dk_at dksX0_change_1 23 rfl rfl)
theorem dX0_change_48 : decode cX0_change 48 = .ok (.istore 4, 2) := dk_54 4 (dk_at dksX0_change_2 0 rfl rfl)
theorem dX0_change_50 : decode cX0_change 50 = .ok (.aload_n 0, 1) := dk_42 (dk_at dksX0_change_2 2 rfl rfl)
theorem dX0_change_51 : decode cX0_change 51 = .ok (.getfield 17, 3) := dk_180 0 17 (dk_at dksX0_change_2 3 rfl rfl)
theorem dX0_change_54 : decode cX0_change 54 = .ok (.getfield 407, 3) := dk_180 1 151 (dk_at dksX0_change_2 6 rfl rfl)
theorem dX0_change_57 : decode cX0_change 57 = .ok (.iload_n 1, 1) := dk_27 (dk_at dksX0_change_2 9 rfl rfl)
theorem dX0_change_58 : decode cX0_change 58 = .ok (.aaload, 1) := dk_50 (dk_at dksX0_change_2 10 rfl rfl)
theorem dX0_change_59 : decode cX0_change 59 = .ok (.getfield 411, 3) := dk_180 1 155 (dk_at dksX0_change_2 11 rfl rfl)
theorem dX0_change_62 : decode cX0_change 62 = .ok (.iload_n 2, 1) := dk_28 (dk_at dksX0_change_2 14 rfl rfl)
theorem dX0_change_63 : decode cX0_change 63 = .ok (.iload_n 3, 1) := dk_29 (dk_at dksX0_change_2 15 rfl rfl)
theorem dX0_change_64 : decode cX0_change 64 = .ok (.iastore, 1) := dk_79 (dk_at dksX0_change_2 16 rfl rfl)
theorem dX0_change_65 : decode cX0_change 65 = .ok (.iload 4, 2) := dk_21 4 (dk_at dksX0_change_2 17 rfl rfl)
theorem dX0_change_67 : decode cX0_change 67 = .ok (.ireturn, 1) := dk_172 (dk_at dksX0_change_2 19 rfl rfl)
abbrev cX0_isNode : ByteArray := prog_1_method_44_code
def yX0_isNode : MethodName := ⟨RX0, "isNode", "(I)Z"⟩
def dkwX0_isNode_0 : List UInt8 := [27, 133, 9, 42, 180, 0, 17, 180, 1, 145, 4, 100, 133, 184, 0, 74, 172]
abbrev dktX0_isNode_0 : List UInt8 := dkwX0_isNode_0 ++ []
theorem dksX0_isNode_0 : cX0_isNode.data.toList.drop 0 = dktX0_isNode_0 := by decide +kernel
theorem dX0_isNode_0 : decode cX0_isNode 0 = .ok (.iload_n 1, 1) := dk_27 (dk_at dksX0_isNode_0 0 rfl rfl)
theorem dX0_isNode_1 : decode cX0_isNode 1 = .ok (.i2l, 1) := dk_133 (dk_at dksX0_isNode_0 1 rfl rfl)
theorem dX0_isNode_2 : decode cX0_isNode 2 = .ok (.lconst 0, 1) := dk_9 (dk_at dksX0_isNode_0 2 rfl rfl)
theorem dX0_isNode_3 : decode cX0_isNode 3 = .ok (.aload_n 0, 1) := dk_42 (dk_at dksX0_isNode_0 3 rfl rfl)
theorem dX0_isNode_4 : decode cX0_isNode 4 = .ok (.getfield 17, 3) := dk_180 0 17 (dk_at dksX0_isNode_0 4 rfl rfl)
theorem dX0_isNode_7 : decode cX0_isNode 7 = .ok (.getfield 401, 3) := dk_180 1 145 (dk_at dksX0_isNode_0 7 rfl rfl)
theorem dX0_isNode_10 : decode cX0_isNode 10 = .ok (.iconst 1, 1) := dk_4 (dk_at dksX0_isNode_0 10 rfl rfl)
theorem dX0_isNode_11 : decode cX0_isNode 11 = .ok (.isub, 1) := dk_100 (dk_at dksX0_isNode_0 11 rfl rfl)
theorem dX0_isNode_12 : decode cX0_isNode 12 = .ok (.i2l, 1) := dk_133 (dk_at dksX0_isNode_0 12 rfl rfl)
theorem dX0_isNode_13 : decode cX0_isNode 13 = .ok (.invokestatic 74, 3) := dk_184 0 74 (dk_at dksX0_isNode_0 13 rfl rfl)
theorem dX0_isNode_16 : decode cX0_isNode 16 = .ok (.ireturn, 1) := dk_172 (dk_at dksX0_isNode_0 16 rfl rfl)
abbrev cX0_band : ByteArray := prog_1_method_46_code
def yX0_band : MethodName := ⟨RX0, "band", "(I)I"⟩
def dkwX0_band_1 : List UInt8 := [153, 0, 14, 42, 180, 0, 17, 27, 182, 1, 166, 167, 0, 4, 2, 172]
abbrev dktX0_band_1 : List UInt8 := dkwX0_band_1 ++ []
def dkwX0_band_0 : List UInt8 := [27, 5, 160, 0, 13, 42, 180, 0, 17, 182, 1, 163, 167, 0, 25, 27, 133, 9, 10, 184, 0, 74]
abbrev dktX0_band_0 : List UInt8 := dkwX0_band_0 ++ dktX0_band_1
theorem dksX0_band_0 : cX0_band.data.toList.drop 0 = dktX0_band_0 := by decide +kernel
theorem dksX0_band_1 : cX0_band.data.toList.drop 22 = dktX0_band_1 := dk_seg dksX0_band_0 22 rfl rfl
theorem dX0_band_0 : decode cX0_band 0 = .ok (.iload_n 1, 1) := dk_27 (dk_at dksX0_band_0 0 rfl rfl)
theorem dX0_band_1 : decode cX0_band 1 = .ok (.iconst 2, 1) := dk_5 (dk_at dksX0_band_0 1 rfl rfl)
theorem dX0_band_2 : decode cX0_band 2 = .ok (.if_icmp .ne 13, 3) := dk_160 0 13 (dk_at dksX0_band_0 2 rfl rfl)
theorem dX0_band_5 : decode cX0_band 5 = .ok (.aload_n 0, 1) := dk_42 (dk_at dksX0_band_0 5 rfl rfl)
theorem dX0_band_6 : decode cX0_band 6 = .ok (.getfield 17, 3) := dk_180 0 17 (dk_at dksX0_band_0 6 rfl rfl)
theorem dX0_band_9 : decode cX0_band 9 = .ok (.invokevirtual 419, 3) := dk_182 1 163 (dk_at dksX0_band_0 9 rfl rfl)
theorem dX0_band_12 : decode cX0_band 12 = .ok (.goto 25, 3) := dk_167 0 25 (dk_at dksX0_band_0 12 rfl rfl)
theorem dX0_band_15 : decode cX0_band 15 = .ok (.iload_n 1, 1) := dk_27 (dk_at dksX0_band_0 15 rfl rfl)
theorem dX0_band_16 : decode cX0_band 16 = .ok (.i2l, 1) := dk_133 (dk_at dksX0_band_0 16 rfl rfl)
theorem dX0_band_17 : decode cX0_band 17 = .ok (.lconst 0, 1) := dk_9 (dk_at dksX0_band_0 17 rfl rfl)
theorem dX0_band_18 : decode cX0_band 18 = .ok (.lconst 1, 1) := dk_10 (dk_at dksX0_band_0 18 rfl rfl)
theorem dX0_band_19 : decode cX0_band 19 = .ok (.invokestatic 74, 3) := dk_184 0 74 (dk_at dksX0_band_0 19 rfl rfl)
theorem dX0_band_22 : decode cX0_band 22 = .ok (.ifCond .eq 14, 3) := dk_153 0 14 (dk_at dksX0_band_1 0 rfl rfl)
theorem dX0_band_25 : decode cX0_band 25 = .ok (.aload_n 0, 1) := dk_42 (dk_at dksX0_band_1 3 rfl rfl)
theorem dX0_band_26 : decode cX0_band 26 = .ok (.getfield 17, 3) := dk_180 0 17 (dk_at dksX0_band_1 4 rfl rfl)
theorem dX0_band_29 : decode cX0_band 29 = .ok (.iload_n 1, 1) := dk_27 (dk_at dksX0_band_1 7 rfl rfl)
theorem dX0_band_30 : decode cX0_band 30 = .ok (.invokevirtual 422, 3) := dk_182 1 166 (dk_at dksX0_band_1 8 rfl rfl)
theorem dX0_band_33 : decode cX0_band 33 = .ok (.goto 4, 3) := dk_167 0 4 (dk_at dksX0_band_1 11 rfl rfl)
theorem dX0_band_36 : decode cX0_band 36 = .ok (.iconst (-1), 1) := dk_2 (dk_at dksX0_band_1 14 rfl rfl)
theorem dX0_band_37 : decode cX0_band 37 = .ok (.ireturn, 1) := dk_172 (dk_at dksX0_band_1 15 rfl rfl)
abbrev cX0_nodeBest : ByteArray := prog_1_method_47_code
def yX0_nodeBest : MethodName := ⟨RX0, "nodeBest", "(II)I"⟩
def dkwX0_nodeBest_2 : List UInt8 := [154, 0, 17, 45, 180, 1, 151, 27, 50, 180, 1, 155, 3, 46, 167, 0, 5, 21, 4, 172]
abbrev dktX0_nodeBest_2 : List UInt8 := dkwX0_nodeBest_2 ++ []
def dkwX0_nodeBest_1 : List UInt8 := [182, 0, 242, 154, 0, 6, 16, 252, 172, 42, 182, 1, 169, 78, 45, 27, 182, 1, 173, 54, 4, 28]
abbrev dktX0_nodeBest_1 : List UInt8 := dkwX0_nodeBest_1 ++ dktX0_nodeBest_2
def dkwX0_nodeBest_0 : List UInt8 := [42, 27, 182, 1, 160, 153, 0, 13, 28, 133, 9, 10, 184, 0, 74, 154, 0, 5, 2, 172, 42, 16, 10]
abbrev dktX0_nodeBest_0 : List UInt8 := dkwX0_nodeBest_0 ++ dktX0_nodeBest_1
theorem dksX0_nodeBest_0 : cX0_nodeBest.data.toList.drop 0 = dktX0_nodeBest_0 := by decide +kernel
theorem dksX0_nodeBest_1 : cX0_nodeBest.data.toList.drop 23 = dktX0_nodeBest_1 := dk_seg dksX0_nodeBest_0 23 rfl rfl
theorem dksX0_nodeBest_2 : cX0_nodeBest.data.toList.drop 45 = dktX0_nodeBest_2 := dk_seg dksX0_nodeBest_1 22 rfl rfl
theorem dX0_nodeBest_0 : decode cX0_nodeBest 0 = .ok (.aload_n 0, 1) := dk_42 (dk_at dksX0_nodeBest_0 0 rfl rfl)
theorem dX0_nodeBest_1 : decode cX0_nodeBest 1 = .ok (.iload_n 1, 1) := dk_27 (dk_at dksX0_nodeBest_0 1 rfl rfl)
theorem dX0_nodeBest_2 : decode cX0_nodeBest 2 = .ok (.invokevirtual 416, 3) := dk_182 1 160 (dk_at dksX0_nodeBest_0 2 rfl rfl)
theorem dX0_nodeBest_5 : decode cX0_nodeBest 5 = .ok (.ifCond .eq 13, 3) := dk_153 0 13 (dk_at dksX0_nodeBest_0 5 rfl rfl)
theorem dX0_nodeBest_8 : decode cX0_nodeBest 8 = .ok (.iload_n 2, 1) := dk_28 (dk_at dksX0_nodeBest_0 8 rfl rfl)
theorem dX0_nodeBest_9 : decode cX0_nodeBest 9 = .ok (.i2l, 1) := dk_133 (dk_at dksX0_nodeBest_0 9 rfl rfl)
theorem dX0_nodeBest_10 : decode cX0_nodeBest 10 = .ok (.lconst 0, 1) := dk_9 (dk_at dksX0_nodeBest_0 10 rfl rfl)
theorem dX0_nodeBest_11 : decode cX0_nodeBest 11 = .ok (.lconst 1, 1) := dk_10 (dk_at dksX0_nodeBest_0 11 rfl rfl)
theorem dX0_nodeBest_12 : decode cX0_nodeBest 12 = .ok (.invokestatic 74, 3) := dk_184 0 74 (dk_at dksX0_nodeBest_0 12 rfl rfl)
theorem dX0_nodeBest_15 : decode cX0_nodeBest 15 = .ok (.ifCond .ne 5, 3) := dk_154 0 5 (dk_at dksX0_nodeBest_0 15 rfl rfl)
theorem dX0_nodeBest_18 : decode cX0_nodeBest 18 = .ok (.iconst (-1), 1) := dk_2 (dk_at dksX0_nodeBest_0 18 rfl rfl)
theorem dX0_nodeBest_19 : decode cX0_nodeBest 19 = .ok (.ireturn, 1) := dk_172 (dk_at dksX0_nodeBest_0 19 rfl rfl)
theorem dX0_nodeBest_20 : decode cX0_nodeBest 20 = .ok (.aload_n 0, 1) := dk_42 (dk_at dksX0_nodeBest_0 20 rfl rfl)
theorem dX0_nodeBest_21 : decode cX0_nodeBest 21 = .ok (.bipush 10, 2) := dk_16 10 (dk_at dksX0_nodeBest_0 21 rfl rfl)
theorem dX0_nodeBest_23 : decode cX0_nodeBest 23 = .ok (.invokevirtual 242, 3) := dk_182 0 242 (dk_at dksX0_nodeBest_1 0 rfl rfl)
theorem dX0_nodeBest_26 : decode cX0_nodeBest 26 = .ok (.ifCond .ne 6, 3) := dk_154 0 6 (dk_at dksX0_nodeBest_1 3 rfl rfl)
theorem dX0_nodeBest_29 : decode cX0_nodeBest 29 = .ok (.bipush (-4), 2) := dk_16 252 (dk_at dksX0_nodeBest_1 6 rfl rfl)
theorem dX0_nodeBest_31 : decode cX0_nodeBest 31 = .ok (.ireturn, 1) := dk_172 (dk_at dksX0_nodeBest_1 8 rfl rfl)
theorem dX0_nodeBest_32 : decode cX0_nodeBest 32 = .ok (.aload_n 0, 1) := dk_42 (dk_at dksX0_nodeBest_1 9 rfl rfl)
theorem dX0_nodeBest_33 : decode cX0_nodeBest 33 = .ok (.invokevirtual 425, 3) := dk_182 1 169 (dk_at dksX0_nodeBest_1 10 rfl rfl)
theorem dX0_nodeBest_36 : decode cX0_nodeBest 36 = .ok (.astore_n 3, 1) := dk_78 (dk_at dksX0_nodeBest_1 13 rfl rfl)
theorem dX0_nodeBest_37 : decode cX0_nodeBest 37 = .ok (.aload_n 3, 1) := dk_45 (dk_at dksX0_nodeBest_1 14 rfl rfl)
theorem dX0_nodeBest_38 : decode cX0_nodeBest 38 = .ok (.iload_n 1, 1) := dk_27 (dk_at dksX0_nodeBest_1 15 rfl rfl)
theorem dX0_nodeBest_39 : decode cX0_nodeBest 39 = .ok (.invokevirtual 429, 3) := dk_182 1 173 (dk_at dksX0_nodeBest_1 16 rfl rfl)
theorem dX0_nodeBest_42 : decode cX0_nodeBest 42 = .ok (.istore 4, 2) := dk_54 4 (dk_at dksX0_nodeBest_1 19 rfl rfl)
theorem dX0_nodeBest_44 : decode cX0_nodeBest 44 = .ok (.iload_n 2, 1) := dk_28 (dk_at dksX0_nodeBest_1 21 rfl rfl)
theorem dX0_nodeBest_45 : decode cX0_nodeBest 45 = .ok (.ifCond .ne 17, 3) := dk_154 0 17 (dk_at dksX0_nodeBest_2 0 rfl rfl)
theorem dX0_nodeBest_48 : decode cX0_nodeBest 48 = .ok (.aload_n 3, 1) := dk_45 (dk_at dksX0_nodeBest_2 3 rfl rfl)
theorem dX0_nodeBest_49 : decode cX0_nodeBest 49 = .ok (.getfield 407, 3) := dk_180 1 151 (dk_at dksX0_nodeBest_2 4 rfl rfl)
theorem dX0_nodeBest_52 : decode cX0_nodeBest 52 = .ok (.iload_n 1, 1) := dk_27 (dk_at dksX0_nodeBest_2 7 rfl rfl)
theorem dX0_nodeBest_53 : decode cX0_nodeBest 53 = .ok (.aaload, 1) := dk_50 (dk_at dksX0_nodeBest_2 8 rfl rfl)
theorem dX0_nodeBest_54 : decode cX0_nodeBest 54 = .ok (.getfield 411, 3) := dk_180 1 155 (dk_at dksX0_nodeBest_2 9 rfl rfl)
theorem dX0_nodeBest_57 : decode cX0_nodeBest 57 = .ok (.iconst 0, 1) := dk_3 (dk_at dksX0_nodeBest_2 12 rfl rfl)
theorem dX0_nodeBest_58 : decode cX0_nodeBest 58 = .ok (.iaload, 1) := dk_46 (dk_at dksX0_nodeBest_2 13 rfl rfl)
theorem dX0_nodeBest_59 : decode cX0_nodeBest 59 = .ok (.goto 5, 3) := dk_167 0 5 (dk_at dksX0_nodeBest_2 14 rfl rfl)
theorem dX0_nodeBest_62 : decode cX0_nodeBest 62 = .ok (.iload 4, 2) := dk_21 4 (dk_at dksX0_nodeBest_2 17 rfl rfl)
theorem dX0_nodeBest_64 : decode cX0_nodeBest 64 = .ok (.ireturn, 1) := dk_172 (dk_at dksX0_nodeBest_2 19 rfl rfl)
abbrev cX0_thought : ByteArray := prog_1_method_6_code
def yX0_thought : MethodName := ⟨RX0, "thought", "()LSafeClears$World;"⟩
def dkwX0_thought_0 : List UInt8 := [42, 180, 0, 13, 42, 180, 0, 17, 182, 0, 20, 176]
abbrev dktX0_thought_0 : List UInt8 := dkwX0_thought_0 ++ []
theorem dksX0_thought_0 : cX0_thought.data.toList.drop 0 = dktX0_thought_0 := by decide +kernel
theorem dX0_thought_0 : decode cX0_thought 0 = .ok (.aload_n 0, 1) := dk_42 (dk_at dksX0_thought_0 0 rfl rfl)
theorem dX0_thought_1 : decode cX0_thought 1 = .ok (.getfield 13, 3) := dk_180 0 13 (dk_at dksX0_thought_0 1 rfl rfl)
theorem dX0_thought_4 : decode cX0_thought 4 = .ok (.aload_n 0, 1) := dk_42 (dk_at dksX0_thought_0 4 rfl rfl)
theorem dX0_thought_5 : decode cX0_thought 5 = .ok (.getfield 17, 3) := dk_180 0 17 (dk_at dksX0_thought_0 5 rfl rfl)
theorem dX0_thought_8 : decode cX0_thought 8 = .ok (.invokevirtual 20, 3) := dk_182 0 20 (dk_at dksX0_thought_0 8 rfl rfl)
theorem dX0_thought_11 : decode cX0_thought 11 = .ok (.areturn, 1) := dk_176 (dk_at dksX0_thought_0 11 rfl rfl)
abbrev cX0_tune : ByteArray := prog_1_method_48_code
def yX0_tune : MethodName := ⟨RX0, "tune", "()I"⟩
def dkwX0_tune_4 : List UInt8 := [167, 255, 178, 42, 180, 0, 17, 182, 1, 163, 172]
abbrev dktX0_tune_4 : List UInt8 := dkwX0_tune_4 ++ []
def dkwX0_tune_3 : List UInt8 := [21, 4, 160, 0, 18, 42, 180, 0, 17, 180, 1, 151, 28, 50, 180, 1, 155, 3, 29, 79, 132, 1, 1]
abbrev dktX0_tune_3 : List UInt8 := dkwX0_tune_3 ++ dktX0_tune_4
def dkwX0_tune_2 : List UInt8 := [180, 1, 155, 3, 46, 62, 42, 180, 0, 17, 182, 1, 163, 54, 4, 42, 180, 0, 17, 28, 182, 1, 173]
abbrev dktX0_tune_2 : List UInt8 := dkwX0_tune_2 ++ dktX0_tune_3
def dkwX0_tune_1 : List UInt8 := [104, 162, 0, 71, 27, 42, 180, 0, 17, 180, 1, 145, 112, 61, 42, 180, 0, 17, 180, 1, 151, 28, 50]
abbrev dktX0_tune_1 : List UInt8 := dkwX0_tune_1 ++ dktX0_tune_2
def dkwX0_tune_0 : List UInt8 := [42, 17, 0, 200, 182, 0, 242, 154, 0, 6, 16, 252, 172, 3, 60, 27, 7, 42, 180, 0, 17, 180, 1, 145]
abbrev dktX0_tune_0 : List UInt8 := dkwX0_tune_0 ++ dktX0_tune_1
theorem dksX0_tune_0 : cX0_tune.data.toList.drop 0 = dktX0_tune_0 := by decide +kernel
theorem dksX0_tune_1 : cX0_tune.data.toList.drop 24 = dktX0_tune_1 := dk_seg dksX0_tune_0 24 rfl rfl
theorem dksX0_tune_2 : cX0_tune.data.toList.drop 47 = dktX0_tune_2 := dk_seg dksX0_tune_1 23 rfl rfl
theorem dksX0_tune_3 : cX0_tune.data.toList.drop 70 = dktX0_tune_3 := dk_seg dksX0_tune_2 23 rfl rfl
theorem dksX0_tune_4 : cX0_tune.data.toList.drop 93 = dktX0_tune_4 := dk_seg dksX0_tune_3 23 rfl rfl
theorem dX0_tune_0 : decode cX0_tune 0 = .ok (.aload_n 0, 1) := dk_42 (dk_at dksX0_tune_0 0 rfl rfl)
theorem dX0_tune_1 : decode cX0_tune 1 = .ok (.sipush 200, 3) := dk_17 0 200 (dk_at dksX0_tune_0 1 rfl rfl)
theorem dX0_tune_4 : decode cX0_tune 4 = .ok (.invokevirtual 242, 3) := dk_182 0 242 (dk_at dksX0_tune_0 4 rfl rfl)
theorem dX0_tune_7 : decode cX0_tune 7 = .ok (.ifCond .ne 6, 3) := dk_154 0 6 (dk_at dksX0_tune_0 7 rfl rfl)
theorem dX0_tune_10 : decode cX0_tune 10 = .ok (.bipush (-4), 2) := dk_16 252 (dk_at dksX0_tune_0 10 rfl rfl)
theorem dX0_tune_12 : decode cX0_tune 12 = .ok (.ireturn, 1) := dk_172 (dk_at dksX0_tune_0 12 rfl rfl)
theorem dX0_tune_13 : decode cX0_tune 13 = .ok (.iconst 0, 1) := dk_3 (dk_at dksX0_tune_0 13 rfl rfl)
theorem dX0_tune_14 : decode cX0_tune 14 = .ok (.istore_n 1, 1) := dk_60 (dk_at dksX0_tune_0 14 rfl rfl)
theorem dX0_tune_15 : decode cX0_tune 15 = .ok (.iload_n 1, 1) := dk_27 (dk_at dksX0_tune_0 15 rfl rfl)
theorem dX0_tune_16 : decode cX0_tune 16 = .ok (.iconst 4, 1) := dk_7 (dk_at dksX0_tune_0 16 rfl rfl)
theorem dX0_tune_17 : decode cX0_tune 17 = .ok (.aload_n 0, 1) := dk_42 (dk_at dksX0_tune_0 17 rfl rfl)
theorem dX0_tune_18 : decode cX0_tune 18 = .ok (.getfield 17, 3) := dk_180 0 17 (dk_at dksX0_tune_0 18 rfl rfl)
theorem dX0_tune_21 : decode cX0_tune 21 = .ok (.getfield 401, 3) := dk_180 1 145 (dk_at dksX0_tune_0 21 rfl rfl)
theorem dX0_tune_24 : decode cX0_tune 24 = .ok (.imul, 1) := dk_104 (dk_at dksX0_tune_1 0 rfl rfl)
theorem dX0_tune_25 : decode cX0_tune 25 = .ok (.if_icmp .ge 71, 3) := dk_162 0 71 (dk_at dksX0_tune_1 1 rfl rfl)
theorem dX0_tune_28 : decode cX0_tune 28 = .ok (.iload_n 1, 1) := dk_27 (dk_at dksX0_tune_1 4 rfl rfl)
theorem dX0_tune_29 : decode cX0_tune 29 = .ok (.aload_n 0, 1) := dk_42 (dk_at dksX0_tune_1 5 rfl rfl)
theorem dX0_tune_30 : decode cX0_tune 30 = .ok (.getfield 17, 3) := dk_180 0 17 (dk_at dksX0_tune_1 6 rfl rfl)
theorem dX0_tune_33 : decode cX0_tune 33 = .ok (.getfield 401, 3) := dk_180 1 145 (dk_at dksX0_tune_1 9 rfl rfl)
theorem dX0_tune_36 : decode cX0_tune 36 = .ok (.irem, 1) := dk_112 (dk_at dksX0_tune_1 12 rfl rfl)
theorem dX0_tune_37 : decode cX0_tune 37 = .ok (.istore_n 2, 1) := dk_61 (dk_at dksX0_tune_1 13 rfl rfl)
theorem dX0_tune_38 : decode cX0_tune 38 = .ok (.aload_n 0, 1) := dk_42 (dk_at dksX0_tune_1 14 rfl rfl)
theorem dX0_tune_39 : decode cX0_tune 39 = .ok (.getfield 17, 3) := dk_180 0 17 (dk_at dksX0_tune_1 15 rfl rfl)
theorem dX0_tune_42 : decode cX0_tune 42 = .ok (.getfield 407, 3) := dk_180 1 151 (dk_at dksX0_tune_1 18 rfl rfl)
theorem dX0_tune_45 : decode cX0_tune 45 = .ok (.iload_n 2, 1) := dk_28 (dk_at dksX0_tune_1 21 rfl rfl)
theorem dX0_tune_46 : decode cX0_tune 46 = .ok (.aaload, 1) := dk_50 (dk_at dksX0_tune_1 22 rfl rfl)
theorem dX0_tune_47 : decode cX0_tune 47 = .ok (.getfield 411, 3) := dk_180 1 155 (dk_at dksX0_tune_2 0 rfl rfl)
theorem dX0_tune_50 : decode cX0_tune 50 = .ok (.iconst 0, 1) := dk_3 (dk_at dksX0_tune_2 3 rfl rfl)
theorem dX0_tune_51 : decode cX0_tune 51 = .ok (.iaload, 1) := dk_46 (dk_at dksX0_tune_2 4 rfl rfl)
theorem dX0_tune_52 : decode cX0_tune 52 = .ok (.istore_n 3, 1) := dk_62 (dk_at dksX0_tune_2 5 rfl rfl)
theorem dX0_tune_53 : decode cX0_tune 53 = .ok (.aload_n 0, 1) := dk_42 (dk_at dksX0_tune_2 6 rfl rfl)
theorem dX0_tune_54 : decode cX0_tune 54 = .ok (.getfield 17, 3) := dk_180 0 17 (dk_at dksX0_tune_2 7 rfl rfl)
theorem dX0_tune_57 : decode cX0_tune 57 = .ok (.invokevirtual 419, 3) := dk_182 1 163 (dk_at dksX0_tune_2 10 rfl rfl)
theorem dX0_tune_60 : decode cX0_tune 60 = .ok (.istore 4, 2) := dk_54 4 (dk_at dksX0_tune_2 13 rfl rfl)
theorem dX0_tune_62 : decode cX0_tune 62 = .ok (.aload_n 0, 1) := dk_42 (dk_at dksX0_tune_2 15 rfl rfl)
theorem dX0_tune_63 : decode cX0_tune 63 = .ok (.getfield 17, 3) := dk_180 0 17 (dk_at dksX0_tune_2 16 rfl rfl)
theorem dX0_tune_66 : decode cX0_tune 66 = .ok (.iload_n 2, 1) := dk_28 (dk_at dksX0_tune_2 19 rfl rfl)
theorem dX0_tune_67 : decode cX0_tune 67 = .ok (.invokevirtual 429, 3) := dk_182 1 173 (dk_at dksX0_tune_2 20 rfl rfl)
theorem dX0_tune_70 : decode cX0_tune 70 = .ok (.iload 4, 2) := dk_21 4 (dk_at dksX0_tune_3 0 rfl rfl)
theorem dX0_tune_72 : decode cX0_tune 72 = .ok (.if_icmp .ne 18, 3) := dk_160 0 18 (dk_at dksX0_tune_3 2 rfl rfl)
theorem dX0_tune_75 : decode cX0_tune 75 = .ok (.aload_n 0, 1) := dk_42 (dk_at dksX0_tune_3 5 rfl rfl)
theorem dX0_tune_76 : decode cX0_tune 76 = .ok (.getfield 17, 3) := dk_180 0 17 (dk_at dksX0_tune_3 6 rfl rfl)
theorem dX0_tune_79 : decode cX0_tune 79 = .ok (.getfield 407, 3) := dk_180 1 151 (dk_at dksX0_tune_3 9 rfl rfl)
theorem dX0_tune_82 : decode cX0_tune 82 = .ok (.iload_n 2, 1) := dk_28 (dk_at dksX0_tune_3 12 rfl rfl)
theorem dX0_tune_83 : decode cX0_tune 83 = .ok (.aaload, 1) := dk_50 (dk_at dksX0_tune_3 13 rfl rfl)
theorem dX0_tune_84 : decode cX0_tune 84 = .ok (.getfield 411, 3) := dk_180 1 155 (dk_at dksX0_tune_3 14 rfl rfl)
theorem dX0_tune_87 : decode cX0_tune 87 = .ok (.iconst 0, 1) := dk_3 (dk_at dksX0_tune_3 17 rfl rfl)
theorem dX0_tune_88 : decode cX0_tune 88 = .ok (.iload_n 3, 1) := dk_29 (dk_at dksX0_tune_3 18 rfl rfl)
theorem dX0_tune_89 : decode cX0_tune 89 = .ok (.iastore, 1) := dk_79 (dk_at dksX0_tune_3 19 rfl rfl)
theorem dX0_tune_90 : decode cX0_tune 90 = .ok (.iinc 1 1, 3) := dk_132 1 1 (dk_at dksX0_tune_3 20 rfl rfl)
theorem dX0_tune_93 : decode cX0_tune 93 = .ok (.goto (-78), 3) := dk_167 255 178 (dk_at dksX0_tune_4 0 rfl rfl)
theorem dX0_tune_96 : decode cX0_tune 96 = .ok (.aload_n 0, 1) := dk_42 (dk_at dksX0_tune_4 3 rfl rfl)
theorem dX0_tune_97 : decode cX0_tune 97 = .ok (.getfield 17, 3) := dk_180 0 17 (dk_at dksX0_tune_4 4 rfl rfl)
theorem dX0_tune_100 : decode cX0_tune 100 = .ok (.invokevirtual 419, 3) := dk_182 1 163 (dk_at dksX0_tune_4 7 rfl rfl)
theorem dX0_tune_103 : decode cX0_tune 103 = .ok (.ireturn, 1) := dk_172 (dk_at dksX0_tune_4 10 rfl rfl)
abbrev cX0_would : ByteArray := prog_1_method_49_code
def yX0_would : MethodName := ⟨RX0, "would", "(II)I"⟩
def dkwX0_would_2 : List UInt8 := [153, 0, 18, 42, 182, 1, 169, 27, 182, 0, 248, 28, 184, 1, 19, 167, 0, 5, 16, 252, 172]
abbrev dktX0_would_2 : List UInt8 := dkwX0_would_2 ++ []
def dkwX0_would_1 : List UInt8 := [154, 0, 6, 16, 254, 172, 42, 180, 0, 17, 180, 0, 86, 154, 0, 6, 16, 253, 172, 42, 27, 182, 0, 242]
abbrev dktX0_would_1 : List UInt8 := dkwX0_would_1 ++ dktX0_would_2
def dkwX0_would_0 : List UInt8 := [28, 133, 9, 20, 1, 17, 184, 0, 74, 154, 0, 5, 2, 172, 27, 133, 9, 20, 0, 144, 184, 0, 74]
abbrev dktX0_would_0 : List UInt8 := dkwX0_would_0 ++ dktX0_would_1
theorem dksX0_would_0 : cX0_would.data.toList.drop 0 = dktX0_would_0 := by decide +kernel
theorem dksX0_would_1 : cX0_would.data.toList.drop 23 = dktX0_would_1 := dk_seg dksX0_would_0 23 rfl rfl
theorem dksX0_would_2 : cX0_would.data.toList.drop 47 = dktX0_would_2 := dk_seg dksX0_would_1 24 rfl rfl
theorem dX0_would_0 : decode cX0_would 0 = .ok (.iload_n 2, 1) := dk_28 (dk_at dksX0_would_0 0 rfl rfl)
theorem dX0_would_1 : decode cX0_would 1 = .ok (.i2l, 1) := dk_133 (dk_at dksX0_would_0 1 rfl rfl)
theorem dX0_would_2 : decode cX0_would 2 = .ok (.lconst 0, 1) := dk_9 (dk_at dksX0_would_0 2 rfl rfl)
theorem dX0_would_3 : decode cX0_would 3 = .ok (.ldc2_w 273, 3) := dk_20 1 17 (dk_at dksX0_would_0 3 rfl rfl)
theorem dX0_would_6 : decode cX0_would 6 = .ok (.invokestatic 74, 3) := dk_184 0 74 (dk_at dksX0_would_0 6 rfl rfl)
theorem dX0_would_9 : decode cX0_would 9 = .ok (.ifCond .ne 5, 3) := dk_154 0 5 (dk_at dksX0_would_0 9 rfl rfl)
theorem dX0_would_12 : decode cX0_would 12 = .ok (.iconst (-1), 1) := dk_2 (dk_at dksX0_would_0 12 rfl rfl)
theorem dX0_would_13 : decode cX0_would 13 = .ok (.ireturn, 1) := dk_172 (dk_at dksX0_would_0 13 rfl rfl)
theorem dX0_would_14 : decode cX0_would 14 = .ok (.iload_n 1, 1) := dk_27 (dk_at dksX0_would_0 14 rfl rfl)
theorem dX0_would_15 : decode cX0_would 15 = .ok (.i2l, 1) := dk_133 (dk_at dksX0_would_0 15 rfl rfl)
theorem dX0_would_16 : decode cX0_would 16 = .ok (.lconst 0, 1) := dk_9 (dk_at dksX0_would_0 16 rfl rfl)
theorem dX0_would_17 : decode cX0_would 17 = .ok (.ldc2_w 144, 3) := dk_20 0 144 (dk_at dksX0_would_0 17 rfl rfl)
theorem dX0_would_20 : decode cX0_would 20 = .ok (.invokestatic 74, 3) := dk_184 0 74 (dk_at dksX0_would_0 20 rfl rfl)
theorem dX0_would_23 : decode cX0_would 23 = .ok (.ifCond .ne 6, 3) := dk_154 0 6 (dk_at dksX0_would_1 0 rfl rfl)
theorem dX0_would_26 : decode cX0_would 26 = .ok (.bipush (-2), 2) := dk_16 254 (dk_at dksX0_would_1 3 rfl rfl)
theorem dX0_would_28 : decode cX0_would 28 = .ok (.ireturn, 1) := dk_172 (dk_at dksX0_would_1 5 rfl rfl)
theorem dX0_would_29 : decode cX0_would 29 = .ok (.aload_n 0, 1) := dk_42 (dk_at dksX0_would_1 6 rfl rfl)
theorem dX0_would_30 : decode cX0_would 30 = .ok (.getfield 17, 3) := dk_180 0 17 (dk_at dksX0_would_1 7 rfl rfl)
theorem dX0_would_33 : decode cX0_would 33 = .ok (.getfield 86, 3) := dk_180 0 86 (dk_at dksX0_would_1 10 rfl rfl)
theorem dX0_would_36 : decode cX0_would 36 = .ok (.ifCond .ne 6, 3) := dk_154 0 6 (dk_at dksX0_would_1 13 rfl rfl)
theorem dX0_would_39 : decode cX0_would 39 = .ok (.bipush (-3), 2) := dk_16 253 (dk_at dksX0_would_1 16 rfl rfl)
theorem dX0_would_41 : decode cX0_would 41 = .ok (.ireturn, 1) := dk_172 (dk_at dksX0_would_1 18 rfl rfl)
theorem dX0_would_42 : decode cX0_would 42 = .ok (.aload_n 0, 1) := dk_42 (dk_at dksX0_would_1 19 rfl rfl)
theorem dX0_would_43 : decode cX0_would 43 = .ok (.iload_n 1, 1) := dk_27 (dk_at dksX0_would_1 20 rfl rfl)
theorem dX0_would_44 : decode cX0_would 44 = .ok (.invokevirtual 242, 3) := dk_182 0 242 (dk_at dksX0_would_1 21 rfl rfl)
theorem dX0_would_47 : decode cX0_would 47 = .ok (.ifCond .eq 18, 3) := dk_153 0 18 (dk_at dksX0_would_2 0 rfl rfl)
theorem dX0_would_50 : decode cX0_would 50 = .ok (.aload_n 0, 1) := dk_42 (dk_at dksX0_would_2 3 rfl rfl)
theorem dX0_would_51 : decode cX0_would 51 = .ok (.invokevirtual 425, 3) := dk_182 1 169 (dk_at dksX0_would_2 4 rfl rfl)
theorem dX0_would_54 : decode cX0_would 54 = .ok (.iload_n 1, 1) := dk_27 (dk_at dksX0_would_2 7 rfl rfl)
theorem dX0_would_55 : decode cX0_would 55 = .ok (.invokevirtual 248, 3) := dk_182 0 248 (dk_at dksX0_would_2 8 rfl rfl)
theorem dX0_would_58 : decode cX0_would 58 = .ok (.iload_n 2, 1) := dk_28 (dk_at dksX0_would_2 11 rfl rfl)
theorem dX0_would_59 : decode cX0_would 59 = .ok (.invokestatic 275, 3) := dk_184 1 19 (dk_at dksX0_would_2 12 rfl rfl)
theorem dX0_would_62 : decode cX0_would 62 = .ok (.goto 5, 3) := dk_167 0 5 (dk_at dksX0_would_2 15 rfl rfl)
theorem dX0_would_65 : decode cX0_would 65 = .ok (.bipush (-4), 2) := dk_16 252 (dk_at dksX0_would_2 18 rfl rfl)
theorem dX0_would_67 : decode cX0_would 67 = .ok (.ireturn, 1) := dk_172 (dk_at dksX0_would_2 20 rfl rfl)
abbrev cX0_turns : ByteArray := prog_1_method_50_code
def yX0_turns : MethodName := ⟨RX0, "turns", "(II)I"⟩
def dkwX0_turns_3 : List UInt8 := [50, 180, 1, 126, 153, 0, 10, 45, 180, 0, 252, 4, 100, 172, 132, 4, 1, 167, 255, 224, 16, 251, 172]
abbrev dktX0_turns_3 : List UInt8 := dkwX0_turns_3 ++ []
def dkwX0_turns_2 : List UInt8 := [172, 42, 182, 1, 169, 78, 3, 54, 4, 21, 4, 28, 162, 0, 32, 45, 4, 182, 0, 248, 180, 0, 90, 27]
abbrev dktX0_turns_2 : List UInt8 := dkwX0_turns_2 ++ dktX0_turns_3
def dkwX0_turns_1 : List UInt8 := [172, 42, 180, 0, 17, 180, 0, 86, 154, 0, 6, 16, 253, 172, 42, 28, 182, 0, 242, 154, 0, 6, 16, 252]
abbrev dktX0_turns_1 : List UInt8 := dkwX0_turns_1 ++ dktX0_turns_2
def dkwX0_turns_0 : List UInt8 := [42, 27, 182, 0, 112, 154, 0, 5, 2, 172, 28, 133, 9, 20, 0, 144, 184, 0, 74, 154, 0, 6, 16, 254]
abbrev dktX0_turns_0 : List UInt8 := dkwX0_turns_0 ++ dktX0_turns_1
theorem dksX0_turns_0 : cX0_turns.data.toList.drop 0 = dktX0_turns_0 := by decide +kernel
theorem dksX0_turns_1 : cX0_turns.data.toList.drop 24 = dktX0_turns_1 := dk_seg dksX0_turns_0 24 rfl rfl
theorem dksX0_turns_2 : cX0_turns.data.toList.drop 48 = dktX0_turns_2 := dk_seg dksX0_turns_1 24 rfl rfl
theorem dksX0_turns_3 : cX0_turns.data.toList.drop 72 = dktX0_turns_3 := dk_seg dksX0_turns_2 24 rfl rfl
theorem dX0_turns_0 : decode cX0_turns 0 = .ok (.aload_n 0, 1) := dk_42 (dk_at dksX0_turns_0 0 rfl rfl)
theorem dX0_turns_1 : decode cX0_turns 1 = .ok (.iload_n 1, 1) := dk_27 (dk_at dksX0_turns_0 1 rfl rfl)
theorem dX0_turns_2 : decode cX0_turns 2 = .ok (.invokevirtual 112, 3) := dk_182 0 112 (dk_at dksX0_turns_0 2 rfl rfl)
theorem dX0_turns_5 : decode cX0_turns 5 = .ok (.ifCond .ne 5, 3) := dk_154 0 5 (dk_at dksX0_turns_0 5 rfl rfl)
theorem dX0_turns_8 : decode cX0_turns 8 = .ok (.iconst (-1), 1) := dk_2 (dk_at dksX0_turns_0 8 rfl rfl)
theorem dX0_turns_9 : decode cX0_turns 9 = .ok (.ireturn, 1) := dk_172 (dk_at dksX0_turns_0 9 rfl rfl)
theorem dX0_turns_10 : decode cX0_turns 10 = .ok (.iload_n 2, 1) := dk_28 (dk_at dksX0_turns_0 10 rfl rfl)
theorem dX0_turns_11 : decode cX0_turns 11 = .ok (.i2l, 1) := dk_133 (dk_at dksX0_turns_0 11 rfl rfl)
theorem dX0_turns_12 : decode cX0_turns 12 = .ok (.lconst 0, 1) := dk_9 (dk_at dksX0_turns_0 12 rfl rfl)
theorem dX0_turns_13 : decode cX0_turns 13 = .ok (.ldc2_w 144, 3) := dk_20 0 144 (dk_at dksX0_turns_0 13 rfl rfl)
theorem dX0_turns_16 : decode cX0_turns 16 = .ok (.invokestatic 74, 3) := dk_184 0 74 (dk_at dksX0_turns_0 16 rfl rfl)
theorem dX0_turns_19 : decode cX0_turns 19 = .ok (.ifCond .ne 6, 3) := dk_154 0 6 (dk_at dksX0_turns_0 19 rfl rfl)
theorem dX0_turns_22 : decode cX0_turns 22 = .ok (.bipush (-2), 2) := dk_16 254 (dk_at dksX0_turns_0 22 rfl rfl)
theorem dX0_turns_24 : decode cX0_turns 24 = .ok (.ireturn, 1) := dk_172 (dk_at dksX0_turns_1 0 rfl rfl)
theorem dX0_turns_25 : decode cX0_turns 25 = .ok (.aload_n 0, 1) := dk_42 (dk_at dksX0_turns_1 1 rfl rfl)
theorem dX0_turns_26 : decode cX0_turns 26 = .ok (.getfield 17, 3) := dk_180 0 17 (dk_at dksX0_turns_1 2 rfl rfl)
theorem dX0_turns_29 : decode cX0_turns 29 = .ok (.getfield 86, 3) := dk_180 0 86 (dk_at dksX0_turns_1 5 rfl rfl)
theorem dX0_turns_32 : decode cX0_turns 32 = .ok (.ifCond .ne 6, 3) := dk_154 0 6 (dk_at dksX0_turns_1 8 rfl rfl)
theorem dX0_turns_35 : decode cX0_turns 35 = .ok (.bipush (-3), 2) := dk_16 253 (dk_at dksX0_turns_1 11 rfl rfl)
theorem dX0_turns_37 : decode cX0_turns 37 = .ok (.ireturn, 1) := dk_172 (dk_at dksX0_turns_1 13 rfl rfl)
theorem dX0_turns_38 : decode cX0_turns 38 = .ok (.aload_n 0, 1) := dk_42 (dk_at dksX0_turns_1 14 rfl rfl)
theorem dX0_turns_39 : decode cX0_turns 39 = .ok (.iload_n 2, 1) := dk_28 (dk_at dksX0_turns_1 15 rfl rfl)
theorem dX0_turns_40 : decode cX0_turns 40 = .ok (.invokevirtual 242, 3) := dk_182 0 242 (dk_at dksX0_turns_1 16 rfl rfl)
theorem dX0_turns_43 : decode cX0_turns 43 = .ok (.ifCond .ne 6, 3) := dk_154 0 6 (dk_at dksX0_turns_1 19 rfl rfl)
theorem dX0_turns_46 : decode cX0_turns 46 = .ok (.bipush (-4), 2) := dk_16 252 (dk_at dksX0_turns_1 22 rfl rfl)
theorem dX0_turns_48 : decode cX0_turns 48 = .ok (.ireturn, 1) := dk_172 (dk_at dksX0_turns_2 0 rfl rfl)
theorem dX0_turns_49 : decode cX0_turns 49 = .ok (.aload_n 0, 1) := dk_42 (dk_at dksX0_turns_2 1 rfl rfl)
theorem dX0_turns_50 : decode cX0_turns 50 = .ok (.invokevirtual 425, 3) := dk_182 1 169 (dk_at dksX0_turns_2 2 rfl rfl)
theorem dX0_turns_53 : decode cX0_turns 53 = .ok (.astore_n 3, 1) := dk_78 (dk_at dksX0_turns_2 5 rfl rfl)
theorem dX0_turns_54 : decode cX0_turns 54 = .ok (.iconst 0, 1) := dk_3 (dk_at dksX0_turns_2 6 rfl rfl)
theorem dX0_turns_55 : decode cX0_turns 55 = .ok (.istore 4, 2) := dk_54 4 (dk_at dksX0_turns_2 7 rfl rfl)
theorem dX0_turns_57 : decode cX0_turns 57 = .ok (.iload 4, 2) := dk_21 4 (dk_at dksX0_turns_2 9 rfl rfl)
theorem dX0_turns_59 : decode cX0_turns 59 = .ok (.iload_n 2, 1) := dk_28 (dk_at dksX0_turns_2 11 rfl rfl)
theorem dX0_turns_60 : decode cX0_turns 60 = .ok (.if_icmp .ge 32, 3) := dk_162 0 32 (dk_at dksX0_turns_2 12 rfl rfl)
theorem dX0_turns_63 : decode cX0_turns 63 = .ok (.aload_n 3, 1) := dk_45 (dk_at dksX0_turns_2 15 rfl rfl)
theorem dX0_turns_64 : decode cX0_turns 64 = .ok (.iconst 1, 1) := dk_4 (dk_at dksX0_turns_2 16 rfl rfl)
theorem dX0_turns_65 : decode cX0_turns 65 = .ok (.invokevirtual 248, 3) := dk_182 0 248 (dk_at dksX0_turns_2 17 rfl rfl)
theorem dX0_turns_68 : decode cX0_turns 68 = .ok (.getfield 90, 3) := dk_180 0 90 (dk_at dksX0_turns_2 20 rfl rfl)
theorem dX0_turns_71 : decode cX0_turns 71 = .ok (.iload_n 1, 1) := dk_27 (dk_at dksX0_turns_2 23 rfl rfl)
theorem dX0_turns_72 : decode cX0_turns 72 = .ok (.aaload, 1) := dk_50 (dk_at dksX0_turns_3 0 rfl rfl)
theorem dX0_turns_73 : decode cX0_turns 73 = .ok (.getfield 382, 3) := dk_180 1 126 (dk_at dksX0_turns_3 1 rfl rfl)
theorem dX0_turns_76 : decode cX0_turns 76 = .ok (.ifCond .eq 10, 3) := dk_153 0 10 (dk_at dksX0_turns_3 4 rfl rfl)
theorem dX0_turns_79 : decode cX0_turns 79 = .ok (.aload_n 3, 1) := dk_45 (dk_at dksX0_turns_3 7 rfl rfl)
theorem dX0_turns_80 : decode cX0_turns 80 = .ok (.getfield 252, 3) := dk_180 0 252 (dk_at dksX0_turns_3 8 rfl rfl)
theorem dX0_turns_83 : decode cX0_turns 83 = .ok (.iconst 1, 1) := dk_4 (dk_at dksX0_turns_3 11 rfl rfl)
theorem dX0_turns_84 : decode cX0_turns 84 = .ok (.isub, 1) := dk_100 (dk_at dksX0_turns_3 12 rfl rfl)
theorem dX0_turns_85 : decode cX0_turns 85 = .ok (.ireturn, 1) := dk_172 (dk_at dksX0_turns_3 13 rfl rfl)
theorem dX0_turns_86 : decode cX0_turns 86 = .ok (.iinc 4 1, 3) := dk_132 4 1 (dk_at dksX0_turns_3 14 rfl rfl)
theorem dX0_turns_89 : decode cX0_turns 89 = .ok (.goto (-32), 3) := dk_167 255 224 (dk_at dksX0_turns_3 17 rfl rfl)
theorem dX0_turns_92 : decode cX0_turns 92 = .ok (.bipush (-5), 2) := dk_16 251 (dk_at dksX0_turns_3 20 rfl rfl)
theorem dX0_turns_94 : decode cX0_turns 94 = .ok (.ireturn, 1) := dk_172 (dk_at dksX0_turns_3 22 rfl rfl)
abbrev cX0_best : ByteArray := prog_1_method_51_code
def yX0_best : MethodName := ⟨RX0, "best", "(II)I"⟩
def dkwX0_best_5 : List UInt8 := [167, 0, 5, 21, 4, 172]
abbrev dktX0_best_5 : List UInt8 := dkwX0_best_5 ++ []
def dkwX0_best_4 : List UInt8 := [21, 4, 162, 0, 10, 21, 5, 62, 21, 6, 54, 4, 132, 5, 1, 167, 255, 209, 28, 154, 0, 7, 29]
abbrev dktX0_best_4 : List UInt8 := dkwX0_best_4 ++ dktX0_best_5
def dkwX0_best_3 : List UInt8 := [182, 1, 169, 21, 5, 182, 1, 176, 27, 182, 0, 248, 180, 1, 2, 54, 6, 29, 2, 159, 0, 10, 21, 6]
abbrev dktX0_best_3 : List UInt8 := dkwX0_best_3 ++ dktX0_best_4
def dkwX0_best_2 : List UInt8 := [154, 0, 6, 16, 252, 172, 2, 62, 3, 54, 4, 4, 54, 5, 21, 5, 16, 9, 163, 0, 46, 42]
abbrev dktX0_best_2 : List UInt8 := dkwX0_best_2 ++ dktX0_best_3
def dkwX0_best_1 : List UInt8 := [16, 254, 172, 42, 180, 0, 17, 180, 0, 86, 154, 0, 6, 16, 253, 172, 42, 16, 9, 27, 104, 182, 0, 242]
abbrev dktX0_best_1 : List UInt8 := dkwX0_best_1 ++ dktX0_best_2
def dkwX0_best_0 : List UInt8 := [28, 133, 9, 10, 184, 0, 74, 154, 0, 5, 2, 172, 27, 133, 9, 20, 0, 148, 184, 0, 74, 154, 0, 6]
abbrev dktX0_best_0 : List UInt8 := dkwX0_best_0 ++ dktX0_best_1
theorem dksX0_best_0 : cX0_best.data.toList.drop 0 = dktX0_best_0 := by decide +kernel
theorem dksX0_best_1 : cX0_best.data.toList.drop 24 = dktX0_best_1 := dk_seg dksX0_best_0 24 rfl rfl
theorem dksX0_best_2 : cX0_best.data.toList.drop 48 = dktX0_best_2 := dk_seg dksX0_best_1 24 rfl rfl
theorem dksX0_best_3 : cX0_best.data.toList.drop 70 = dktX0_best_3 := dk_seg dksX0_best_2 22 rfl rfl
theorem dksX0_best_4 : cX0_best.data.toList.drop 94 = dktX0_best_4 := dk_seg dksX0_best_3 24 rfl rfl
theorem dksX0_best_5 : cX0_best.data.toList.drop 117 = dktX0_best_5 := dk_seg dksX0_best_4 23 rfl rfl
theorem dX0_best_0 : decode cX0_best 0 = .ok (.iload_n 2, 1) := dk_28 (dk_at dksX0_best_0 0 rfl rfl)
theorem dX0_best_1 : decode cX0_best 1 = .ok (.i2l, 1) := dk_133 (dk_at dksX0_best_0 1 rfl rfl)
theorem dX0_best_2 : decode cX0_best 2 = .ok (.lconst 0, 1) := dk_9 (dk_at dksX0_best_0 2 rfl rfl)
theorem dX0_best_3 : decode cX0_best 3 = .ok (.lconst 1, 1) := dk_10 (dk_at dksX0_best_0 3 rfl rfl)
theorem dX0_best_4 : decode cX0_best 4 = .ok (.invokestatic 74, 3) := dk_184 0 74 (dk_at dksX0_best_0 4 rfl rfl)
theorem dX0_best_7 : decode cX0_best 7 = .ok (.ifCond .ne 5, 3) := dk_154 0 5 (dk_at dksX0_best_0 7 rfl rfl)
theorem dX0_best_10 : decode cX0_best 10 = .ok (.iconst (-1), 1) := dk_2 (dk_at dksX0_best_0 10 rfl rfl)
theorem dX0_best_11 : decode cX0_best 11 = .ok (.ireturn, 1) := dk_172 (dk_at dksX0_best_0 11 rfl rfl)
theorem dX0_best_12 : decode cX0_best 12 = .ok (.iload_n 1, 1) := dk_27 (dk_at dksX0_best_0 12 rfl rfl)
theorem dX0_best_13 : decode cX0_best 13 = .ok (.i2l, 1) := dk_133 (dk_at dksX0_best_0 13 rfl rfl)
theorem dX0_best_14 : decode cX0_best 14 = .ok (.lconst 0, 1) := dk_9 (dk_at dksX0_best_0 14 rfl rfl)
theorem dX0_best_15 : decode cX0_best 15 = .ok (.ldc2_w 148, 3) := dk_20 0 148 (dk_at dksX0_best_0 15 rfl rfl)
theorem dX0_best_18 : decode cX0_best 18 = .ok (.invokestatic 74, 3) := dk_184 0 74 (dk_at dksX0_best_0 18 rfl rfl)
theorem dX0_best_21 : decode cX0_best 21 = .ok (.ifCond .ne 6, 3) := dk_154 0 6 (dk_at dksX0_best_0 21 rfl rfl)
theorem dX0_best_24 : decode cX0_best 24 = .ok (.bipush (-2), 2) := dk_16 254 (dk_at dksX0_best_1 0 rfl rfl)
theorem dX0_best_26 : decode cX0_best 26 = .ok (.ireturn, 1) := dk_172 (dk_at dksX0_best_1 2 rfl rfl)
theorem dX0_best_27 : decode cX0_best 27 = .ok (.aload_n 0, 1) := dk_42 (dk_at dksX0_best_1 3 rfl rfl)
theorem dX0_best_28 : decode cX0_best 28 = .ok (.getfield 17, 3) := dk_180 0 17 (dk_at dksX0_best_1 4 rfl rfl)
theorem dX0_best_31 : decode cX0_best 31 = .ok (.getfield 86, 3) := dk_180 0 86 (dk_at dksX0_best_1 7 rfl rfl)
theorem dX0_best_34 : decode cX0_best 34 = .ok (.ifCond .ne 6, 3) := dk_154 0 6 (dk_at dksX0_best_1 10 rfl rfl)
theorem dX0_best_37 : decode cX0_best 37 = .ok (.bipush (-3), 2) := dk_16 253 (dk_at dksX0_best_1 13 rfl rfl)
theorem dX0_best_39 : decode cX0_best 39 = .ok (.ireturn, 1) := dk_172 (dk_at dksX0_best_1 15 rfl rfl)
theorem dX0_best_40 : decode cX0_best 40 = .ok (.aload_n 0, 1) := dk_42 (dk_at dksX0_best_1 16 rfl rfl)
theorem dX0_best_41 : decode cX0_best 41 = .ok (.bipush 9, 2) := dk_16 9 (dk_at dksX0_best_1 17 rfl rfl)
theorem dX0_best_43 : decode cX0_best 43 = .ok (.iload_n 1, 1) := dk_27 (dk_at dksX0_best_1 19 rfl rfl)
theorem dX0_best_44 : decode cX0_best 44 = .ok (.imul, 1) := dk_104 (dk_at dksX0_best_1 20 rfl rfl)
theorem dX0_best_45 : decode cX0_best 45 = .ok (.invokevirtual 242, 3) := dk_182 0 242 (dk_at dksX0_best_1 21 rfl rfl)
theorem dX0_best_48 : decode cX0_best 48 = .ok (.ifCond .ne 6, 3) := dk_154 0 6 (dk_at dksX0_best_2 0 rfl rfl)
theorem dX0_best_51 : decode cX0_best 51 = .ok (.bipush (-4), 2) := dk_16 252 (dk_at dksX0_best_2 3 rfl rfl)
theorem dX0_best_53 : decode cX0_best 53 = .ok (.ireturn, 1) := dk_172 (dk_at dksX0_best_2 5 rfl rfl)
theorem dX0_best_54 : decode cX0_best 54 = .ok (.iconst (-1), 1) := dk_2 (dk_at dksX0_best_2 6 rfl rfl)
theorem dX0_best_55 : decode cX0_best 55 = .ok (.istore_n 3, 1) := dk_62 (dk_at dksX0_best_2 7 rfl rfl)
theorem dX0_best_56 : decode cX0_best 56 = .ok (.iconst 0, 1) := dk_3 (dk_at dksX0_best_2 8 rfl rfl)
theorem dX0_best_57 : decode cX0_best 57 = .ok (.istore 4, 2) := dk_54 4 (dk_at dksX0_best_2 9 rfl rfl)
theorem dX0_best_59 : decode cX0_best 59 = .ok (.iconst 1, 1) := dk_4 (dk_at dksX0_best_2 11 rfl rfl)
theorem dX0_best_60 : decode cX0_best 60 = .ok (.istore 5, 2) := dk_54 5 (dk_at dksX0_best_2 12 rfl rfl)
theorem dX0_best_62 : decode cX0_best 62 = .ok (.iload 5, 2) := dk_21 5 (dk_at dksX0_best_2 14 rfl rfl)
theorem dX0_best_64 : decode cX0_best 64 = .ok (.bipush 9, 2) := dk_16 9 (dk_at dksX0_best_2 16 rfl rfl)
theorem dX0_best_66 : decode cX0_best 66 = .ok (.if_icmp .gt 46, 3) := dk_163 0 46 (dk_at dksX0_best_2 18 rfl rfl)
theorem dX0_best_69 : decode cX0_best 69 = .ok (.aload_n 0, 1) := dk_42 (dk_at dksX0_best_2 21 rfl rfl)
theorem dX0_best_70 : decode cX0_best 70 = .ok (.invokevirtual 425, 3) := dk_182 1 169 (dk_at dksX0_best_3 0 rfl rfl)
theorem dX0_best_73 : decode cX0_best 73 = .ok (.iload 5, 2) := dk_21 5 (dk_at dksX0_best_3 3 rfl rfl)
theorem dX0_best_75 : decode cX0_best 75 = .ok (.invokevirtual 432, 3) := dk_182 1 176 (dk_at dksX0_best_3 5 rfl rfl)
theorem dX0_best_78 : decode cX0_best 78 = .ok (.iload_n 1, 1) := dk_27 (dk_at dksX0_best_3 8 rfl rfl)
theorem dX0_best_79 : decode cX0_best 79 = .ok (.invokevirtual 248, 3) := dk_182 0 248 (dk_at dksX0_best_3 9 rfl rfl)
theorem dX0_best_82 : decode cX0_best 82 = .ok (.getfield 258, 3) := dk_180 1 2 (dk_at dksX0_best_3 12 rfl rfl)
theorem dX0_best_85 : decode cX0_best 85 = .ok (.istore 6, 2) := dk_54 6 (dk_at dksX0_best_3 15 rfl rfl)
theorem dX0_best_87 : decode cX0_best 87 = .ok (.iload_n 3, 1) := dk_29 (dk_at dksX0_best_3 17 rfl rfl)
theorem dX0_best_88 : decode cX0_best 88 = .ok (.iconst (-1), 1) := dk_2 (dk_at dksX0_best_3 18 rfl rfl)
theorem dX0_best_89 : decode cX0_best 89 = .ok (.if_icmp .eq 10, 3) := dk_159 0 10 (dk_at dksX0_best_3 19 rfl rfl)
theorem dX0_best_92 : decode cX0_best 92 = .ok (.iload 6, 2) := dk_21 6 (dk_at dksX0_best_3 22 rfl rfl)
theorem dX0_best_94 : decode cX0_best 94 = .ok (.iload 4, 2) := dk_21 4 (dk_at dksX0_best_4 0 rfl rfl)
theorem dX0_best_96 : decode cX0_best 96 = .ok (.if_icmp .ge 10, 3) := dk_162 0 10 (dk_at dksX0_best_4 2 rfl rfl)
theorem dX0_best_99 : decode cX0_best 99 = .ok (.iload 5, 2) := dk_21 5 (dk_at dksX0_best_4 5 rfl rfl)
theorem dX0_best_101 : decode cX0_best 101 = .ok (.istore_n 3, 1) := dk_62 (dk_at dksX0_best_4 7 rfl rfl)
theorem dX0_best_102 : decode cX0_best 102 = .ok (.iload 6, 2) := dk_21 6 (dk_at dksX0_best_4 8 rfl rfl)
theorem dX0_best_104 : decode cX0_best 104 = .ok (.istore 4, 2) := dk_54 4 (dk_at dksX0_best_4 10 rfl rfl)
theorem dX0_best_106 : decode cX0_best 106 = .ok (.iinc 5 1, 3) := dk_132 5 1 (dk_at dksX0_best_4 12 rfl rfl)
theorem dX0_best_109 : decode cX0_best 109 = .ok (.goto (-47), 3) := dk_167 255 209 (dk_at dksX0_best_4 15 rfl rfl)
theorem dX0_best_112 : decode cX0_best 112 = .ok (.iload_n 2, 1) := dk_28 (dk_at dksX0_best_4 18 rfl rfl)
theorem dX0_best_113 : decode cX0_best 113 = .ok (.ifCond .ne 7, 3) := dk_154 0 7 (dk_at dksX0_best_4 19 rfl rfl)
theorem dX0_best_116 : decode cX0_best 116 = .ok (.iload_n 3, 1) := dk_29 (dk_at dksX0_best_4 22 rfl rfl)
theorem dX0_best_117 : decode cX0_best 117 = .ok (.goto 5, 3) := dk_167 0 5 (dk_at dksX0_best_5 0 rfl rfl)
theorem dX0_best_120 : decode cX0_best 120 = .ok (.iload 4, 2) := dk_21 4 (dk_at dksX0_best_5 3 rfl rfl)
theorem dX0_best_122 : decode cX0_best 122 = .ok (.ireturn, 1) := dk_172 (dk_at dksX0_best_5 5 rfl rfl)
abbrev cX0_note : ByteArray := prog_1_method_52_code
def yX0_note : MethodName := ⟨RX0, "note", "(II)I"⟩
def dkwX0_note_5 : List UInt8 := [42, 180, 0, 17, 180, 1, 179, 172]
abbrev dktX0_note_5 : List UInt8 := dkwX0_note_5 ++ []
def dkwX0_note_4 : List UInt8 := [180, 0, 17, 180, 1, 179, 104, 4, 96, 28, 79, 42, 180, 0, 17, 89, 180, 1, 179, 4, 96, 181, 1, 179]
abbrev dktX0_note_4 : List UInt8 := dkwX0_note_4 ++ dktX0_note_5
def dkwX0_note_3 : List UInt8 := [180, 1, 186, 5, 42, 180, 0, 17, 180, 1, 179, 104, 27, 79, 42, 180, 0, 17, 180, 1, 186, 5, 42]
abbrev dktX0_note_3 : List UInt8 := dkwX0_note_3 ++ dktX0_note_4
def dkwX0_note_2 : List UInt8 := [154, 0, 6, 16, 254, 172, 42, 180, 0, 17, 180, 1, 179, 8, 160, 0, 6, 16, 252, 172, 42, 180, 0, 17]
abbrev dktX0_note_2 : List UInt8 := dkwX0_note_2 ++ dktX0_note_3
def dkwX0_note_1 : List UInt8 := [20, 1, 182, 184, 0, 74, 84, 89, 4, 28, 133, 9, 20, 1, 184, 184, 0, 74, 84, 184, 0, 82]
abbrev dktX0_note_1 : List UInt8 := dkwX0_note_1 ++ dktX0_note_2
def dkwX0_note_0 : List UInt8 := [27, 2, 160, 0, 13, 42, 180, 0, 17, 3, 181, 1, 179, 3, 172, 5, 188, 4, 89, 3, 27, 133, 9]
abbrev dktX0_note_0 : List UInt8 := dkwX0_note_0 ++ dktX0_note_1
theorem dksX0_note_0 : cX0_note.data.toList.drop 0 = dktX0_note_0 := by decide +kernel
theorem dksX0_note_1 : cX0_note.data.toList.drop 23 = dktX0_note_1 := dk_seg dksX0_note_0 23 rfl rfl
theorem dksX0_note_2 : cX0_note.data.toList.drop 45 = dktX0_note_2 := dk_seg dksX0_note_1 22 rfl rfl
theorem dksX0_note_3 : cX0_note.data.toList.drop 69 = dktX0_note_3 := dk_seg dksX0_note_2 24 rfl rfl
theorem dksX0_note_4 : cX0_note.data.toList.drop 92 = dktX0_note_4 := dk_seg dksX0_note_3 23 rfl rfl
theorem dksX0_note_5 : cX0_note.data.toList.drop 116 = dktX0_note_5 := dk_seg dksX0_note_4 24 rfl rfl
theorem dX0_note_0 : decode cX0_note 0 = .ok (.iload_n 1, 1) := dk_27 (dk_at dksX0_note_0 0 rfl rfl)
theorem dX0_note_1 : decode cX0_note 1 = .ok (.iconst (-1), 1) := dk_2 (dk_at dksX0_note_0 1 rfl rfl)
theorem dX0_note_2 : decode cX0_note 2 = .ok (.if_icmp .ne 13, 3) := dk_160 0 13 (dk_at dksX0_note_0 2 rfl rfl)
theorem dX0_note_5 : decode cX0_note 5 = .ok (.aload_n 0, 1) := dk_42 (dk_at dksX0_note_0 5 rfl rfl)
theorem dX0_note_6 : decode cX0_note 6 = .ok (.getfield 17, 3) := dk_180 0 17 (dk_at dksX0_note_0 6 rfl rfl)
theorem dX0_note_9 : decode cX0_note 9 = .ok (.iconst 0, 1) := dk_3 (dk_at dksX0_note_0 9 rfl rfl)
theorem dX0_note_10 : decode cX0_note 10 = .ok (.putfield 435, 3) := dk_181 1 179 (dk_at dksX0_note_0 10 rfl rfl)
theorem dX0_note_13 : decode cX0_note 13 = .ok (.iconst 0, 1) := dk_3 (dk_at dksX0_note_0 13 rfl rfl)
theorem dX0_note_14 : decode cX0_note 14 = .ok (.ireturn, 1) := dk_172 (dk_at dksX0_note_0 14 rfl rfl)
theorem dX0_note_15 : decode cX0_note 15 = .ok (.iconst 2, 1) := dk_5 (dk_at dksX0_note_0 15 rfl rfl)
theorem dX0_note_16 : decode cX0_note 16 = .ok (.newarray .boolean, 2) := dk_188_4 (dk_at dksX0_note_0 16 rfl rfl)
theorem dX0_note_18 : decode cX0_note 18 = .ok (.dup, 1) := dk_89 (dk_at dksX0_note_0 18 rfl rfl)
theorem dX0_note_19 : decode cX0_note 19 = .ok (.iconst 0, 1) := dk_3 (dk_at dksX0_note_0 19 rfl rfl)
theorem dX0_note_20 : decode cX0_note 20 = .ok (.iload_n 1, 1) := dk_27 (dk_at dksX0_note_0 20 rfl rfl)
theorem dX0_note_21 : decode cX0_note 21 = .ok (.i2l, 1) := dk_133 (dk_at dksX0_note_0 21 rfl rfl)
theorem dX0_note_22 : decode cX0_note 22 = .ok (.lconst 0, 1) := dk_9 (dk_at dksX0_note_0 22 rfl rfl)
theorem dX0_note_23 : decode cX0_note 23 = .ok (.ldc2_w 438, 3) := dk_20 1 182 (dk_at dksX0_note_1 0 rfl rfl)
theorem dX0_note_26 : decode cX0_note 26 = .ok (.invokestatic 74, 3) := dk_184 0 74 (dk_at dksX0_note_1 3 rfl rfl)
theorem dX0_note_29 : decode cX0_note 29 = .ok (.bastore, 1) := dk_84 (dk_at dksX0_note_1 6 rfl rfl)
theorem dX0_note_30 : decode cX0_note 30 = .ok (.dup, 1) := dk_89 (dk_at dksX0_note_1 7 rfl rfl)
theorem dX0_note_31 : decode cX0_note 31 = .ok (.iconst 1, 1) := dk_4 (dk_at dksX0_note_1 8 rfl rfl)
theorem dX0_note_32 : decode cX0_note 32 = .ok (.iload_n 2, 1) := dk_28 (dk_at dksX0_note_1 9 rfl rfl)
theorem dX0_note_33 : decode cX0_note 33 = .ok (.i2l, 1) := dk_133 (dk_at dksX0_note_1 10 rfl rfl)
theorem dX0_note_34 : decode cX0_note 34 = .ok (.lconst 0, 1) := dk_9 (dk_at dksX0_note_1 11 rfl rfl)
theorem dX0_note_35 : decode cX0_note 35 = .ok (.ldc2_w 440, 3) := dk_20 1 184 (dk_at dksX0_note_1 12 rfl rfl)
theorem dX0_note_38 : decode cX0_note 38 = .ok (.invokestatic 74, 3) := dk_184 0 74 (dk_at dksX0_note_1 15 rfl rfl)
theorem dX0_note_41 : decode cX0_note 41 = .ok (.bastore, 1) := dk_84 (dk_at dksX0_note_1 18 rfl rfl)
theorem dX0_note_42 : decode cX0_note 42 = .ok (.invokestatic 82, 3) := dk_184 0 82 (dk_at dksX0_note_1 19 rfl rfl)
theorem dX0_note_45 : decode cX0_note 45 = .ok (.ifCond .ne 6, 3) := dk_154 0 6 (dk_at dksX0_note_2 0 rfl rfl)
theorem dX0_note_48 : decode cX0_note 48 = .ok (.bipush (-2), 2) := dk_16 254 (dk_at dksX0_note_2 3 rfl rfl)
theorem dX0_note_50 : decode cX0_note 50 = .ok (.ireturn, 1) := dk_172 (dk_at dksX0_note_2 5 rfl rfl)
theorem dX0_note_51 : decode cX0_note 51 = .ok (.aload_n 0, 1) := dk_42 (dk_at dksX0_note_2 6 rfl rfl)
theorem dX0_note_52 : decode cX0_note 52 = .ok (.getfield 17, 3) := dk_180 0 17 (dk_at dksX0_note_2 7 rfl rfl)
theorem dX0_note_55 : decode cX0_note 55 = .ok (.getfield 435, 3) := dk_180 1 179 (dk_at dksX0_note_2 10 rfl rfl)
theorem dX0_note_58 : decode cX0_note 58 = .ok (.iconst 5, 1) := dk_8 (dk_at dksX0_note_2 13 rfl rfl)
theorem dX0_note_59 : decode cX0_note 59 = .ok (.if_icmp .ne 6, 3) := dk_160 0 6 (dk_at dksX0_note_2 14 rfl rfl)
theorem dX0_note_62 : decode cX0_note 62 = .ok (.bipush (-4), 2) := dk_16 252 (dk_at dksX0_note_2 17 rfl rfl)
theorem dX0_note_64 : decode cX0_note 64 = .ok (.ireturn, 1) := dk_172 (dk_at dksX0_note_2 19 rfl rfl)
theorem dX0_note_65 : decode cX0_note 65 = .ok (.aload_n 0, 1) := dk_42 (dk_at dksX0_note_2 20 rfl rfl)
theorem dX0_note_66 : decode cX0_note 66 = .ok (.getfield 17, 3) := dk_180 0 17 (dk_at dksX0_note_2 21 rfl rfl)
theorem dX0_note_69 : decode cX0_note 69 = .ok (.getfield 442, 3) := dk_180 1 186 (dk_at dksX0_note_3 0 rfl rfl)
theorem dX0_note_72 : decode cX0_note 72 = .ok (.iconst 2, 1) := dk_5 (dk_at dksX0_note_3 3 rfl rfl)
theorem dX0_note_73 : decode cX0_note 73 = .ok (.aload_n 0, 1) := dk_42 (dk_at dksX0_note_3 4 rfl rfl)
theorem dX0_note_74 : decode cX0_note 74 = .ok (.getfield 17, 3) := dk_180 0 17 (dk_at dksX0_note_3 5 rfl rfl)
theorem dX0_note_77 : decode cX0_note 77 = .ok (.getfield 435, 3) := dk_180 1 179 (dk_at dksX0_note_3 8 rfl rfl)
theorem dX0_note_80 : decode cX0_note 80 = .ok (.imul, 1) := dk_104 (dk_at dksX0_note_3 11 rfl rfl)
theorem dX0_note_81 : decode cX0_note 81 = .ok (.iload_n 1, 1) := dk_27 (dk_at dksX0_note_3 12 rfl rfl)
theorem dX0_note_82 : decode cX0_note 82 = .ok (.iastore, 1) := dk_79 (dk_at dksX0_note_3 13 rfl rfl)
theorem dX0_note_83 : decode cX0_note 83 = .ok (.aload_n 0, 1) := dk_42 (dk_at dksX0_note_3 14 rfl rfl)
theorem dX0_note_84 : decode cX0_note 84 = .ok (.getfield 17, 3) := dk_180 0 17 (dk_at dksX0_note_3 15 rfl rfl)
theorem dX0_note_87 : decode cX0_note 87 = .ok (.getfield 442, 3) := dk_180 1 186 (dk_at dksX0_note_3 18 rfl rfl)
theorem dX0_note_90 : decode cX0_note 90 = .ok (.iconst 2, 1) := dk_5 (dk_at dksX0_note_3 21 rfl rfl)
theorem dX0_note_91 : decode cX0_note 91 = .ok (.aload_n 0, 1) := dk_42 (dk_at dksX0_note_3 22 rfl rfl)
theorem dX0_note_92 : decode cX0_note 92 = .ok (.getfield 17, 3) := dk_180 0 17 (dk_at dksX0_note_4 0 rfl rfl)
theorem dX0_note_95 : decode cX0_note 95 = .ok (.getfield 435, 3) := dk_180 1 179 (dk_at dksX0_note_4 3 rfl rfl)
theorem dX0_note_98 : decode cX0_note 98 = .ok (.imul, 1) := dk_104 (dk_at dksX0_note_4 6 rfl rfl)
theorem dX0_note_99 : decode cX0_note 99 = .ok (.iconst 1, 1) := dk_4 (dk_at dksX0_note_4 7 rfl rfl)
theorem dX0_note_100 : decode cX0_note 100 = .ok (.iadd, 1) := dk_96 (dk_at dksX0_note_4 8 rfl rfl)
theorem dX0_note_101 : decode cX0_note 101 = .ok (.iload_n 2, 1) := dk_28 (dk_at dksX0_note_4 9 rfl rfl)
theorem dX0_note_102 : decode cX0_note 102 = .ok (.iastore, 1) := dk_79 (dk_at dksX0_note_4 10 rfl rfl)
theorem dX0_note_103 : decode cX0_note 103 = .ok (.aload_n 0, 1) := dk_42 (dk_at dksX0_note_4 11 rfl rfl)
theorem dX0_note_104 : decode cX0_note 104 = .ok (.getfield 17, 3) := dk_180 0 17 (dk_at dksX0_note_4 12 rfl rfl)
theorem dX0_note_107 : decode cX0_note 107 = .ok (.dup, 1) := dk_89 (dk_at dksX0_note_4 15 rfl rfl)
theorem dX0_note_108 : decode cX0_note 108 = .ok (.getfield 435, 3) := dk_180 1 179 (dk_at dksX0_note_4 16 rfl rfl)
theorem dX0_note_111 : decode cX0_note 111 = .ok (.iconst 1, 1) := dk_4 (dk_at dksX0_note_4 19 rfl rfl)
theorem dX0_note_112 : decode cX0_note 112 = .ok (.iadd, 1) := dk_96 (dk_at dksX0_note_4 20 rfl rfl)
theorem dX0_note_113 : decode cX0_note 113 = .ok (.putfield 435, 3) := dk_181 1 179 (dk_at dksX0_note_4 21 rfl rfl)
theorem dX0_note_116 : decode cX0_note 116 = .ok (.aload_n 0, 1) := dk_42 (dk_at dksX0_note_5 0 rfl rfl)
theorem dX0_note_117 : decode cX0_note 117 = .ok (.getfield 17, 3) := dk_180 0 17 (dk_at dksX0_note_5 1 rfl rfl)
theorem dX0_note_120 : decode cX0_note 120 = .ok (.getfield 435, 3) := dk_180 1 179 (dk_at dksX0_note_5 4 rfl rfl)
theorem dX0_note_123 : decode cX0_note 123 = .ok (.ireturn, 1) := dk_172 (dk_at dksX0_note_5 7 rfl rfl)
abbrev cX0_fits : ByteArray := prog_1_method_54_code
def yX0_fits : MethodName := ⟨RX0, "fits", "(I)I"⟩
def dkwX0_fits_5 : List UInt8 := [154, 0, 7, 28, 167, 0, 4, 29, 172]
abbrev dktX0_fits_5 : List UInt8 := dkwX0_fits_5 ++ []
def dkwX0_fits_4 : List UInt8 := [167, 255, 229, 42, 182, 1, 191, 153, 0, 9, 132, 2, 1, 21, 4, 62, 132, 4, 255, 167, 255, 191, 27]
abbrev dktX0_fits_4 : List UInt8 := dkwX0_fits_4 ++ dktX0_fits_5
def dkwX0_fits_3 : List UInt8 := [162, 0, 26, 42, 180, 0, 60, 21, 6, 25, 5, 4, 182, 0, 248, 5, 182, 1, 5, 79, 132, 6, 1]
abbrev dktX0_fits_3 : List UInt8 := dkwX0_fits_3 ++ dktX0_fits_4
def dkwX0_fits_2 : List UInt8 := [21, 4, 158, 0, 66, 42, 182, 1, 169, 21, 4, 182, 1, 176, 58, 5, 3, 54, 6, 21, 6, 16, 60]
abbrev dktX0_fits_2 : List UInt8 := dkwX0_fits_2 ++ dktX0_fits_3
def dkwX0_fits_1 : List UInt8 := [172, 42, 17, 2, 28, 182, 0, 242, 154, 0, 6, 16, 252, 172, 3, 61, 16, 251, 62, 16, 9, 54, 4]
abbrev dktX0_fits_1 : List UInt8 := dkwX0_fits_1 ++ dktX0_fits_2
def dkwX0_fits_0 : List UInt8 := [27, 133, 9, 10, 184, 0, 74, 154, 0, 5, 2, 172, 42, 180, 0, 17, 180, 0, 86, 154, 0, 6, 16, 253]
abbrev dktX0_fits_0 : List UInt8 := dkwX0_fits_0 ++ dktX0_fits_1
theorem dksX0_fits_0 : cX0_fits.data.toList.drop 0 = dktX0_fits_0 := by decide +kernel
theorem dksX0_fits_1 : cX0_fits.data.toList.drop 24 = dktX0_fits_1 := dk_seg dksX0_fits_0 24 rfl rfl
theorem dksX0_fits_2 : cX0_fits.data.toList.drop 47 = dktX0_fits_2 := dk_seg dksX0_fits_1 23 rfl rfl
theorem dksX0_fits_3 : cX0_fits.data.toList.drop 70 = dktX0_fits_3 := dk_seg dksX0_fits_2 23 rfl rfl
theorem dksX0_fits_4 : cX0_fits.data.toList.drop 93 = dktX0_fits_4 := dk_seg dksX0_fits_3 23 rfl rfl
theorem dksX0_fits_5 : cX0_fits.data.toList.drop 116 = dktX0_fits_5 := dk_seg dksX0_fits_4 23 rfl rfl
theorem dX0_fits_0 : decode cX0_fits 0 = .ok (.iload_n 1, 1) := dk_27 (dk_at dksX0_fits_0 0 rfl rfl)
theorem dX0_fits_1 : decode cX0_fits 1 = .ok (.i2l, 1) := dk_133 (dk_at dksX0_fits_0 1 rfl rfl)
theorem dX0_fits_2 : decode cX0_fits 2 = .ok (.lconst 0, 1) := dk_9 (dk_at dksX0_fits_0 2 rfl rfl)
theorem dX0_fits_3 : decode cX0_fits 3 = .ok (.lconst 1, 1) := dk_10 (dk_at dksX0_fits_0 3 rfl rfl)
theorem dX0_fits_4 : decode cX0_fits 4 = .ok (.invokestatic 74, 3) := dk_184 0 74 (dk_at dksX0_fits_0 4 rfl rfl)
theorem dX0_fits_7 : decode cX0_fits 7 = .ok (.ifCond .ne 5, 3) := dk_154 0 5 (dk_at dksX0_fits_0 7 rfl rfl)
theorem dX0_fits_10 : decode cX0_fits 10 = .ok (.iconst (-1), 1) := dk_2 (dk_at dksX0_fits_0 10 rfl rfl)
theorem dX0_fits_11 : decode cX0_fits 11 = .ok (.ireturn, 1) := dk_172 (dk_at dksX0_fits_0 11 rfl rfl)
theorem dX0_fits_12 : decode cX0_fits 12 = .ok (.aload_n 0, 1) := dk_42 (dk_at dksX0_fits_0 12 rfl rfl)
theorem dX0_fits_13 : decode cX0_fits 13 = .ok (.getfield 17, 3) := dk_180 0 17 (dk_at dksX0_fits_0 13 rfl rfl)
theorem dX0_fits_16 : decode cX0_fits 16 = .ok (.getfield 86, 3) := dk_180 0 86 (dk_at dksX0_fits_0 16 rfl rfl)
theorem dX0_fits_19 : decode cX0_fits 19 = .ok (.ifCond .ne 6, 3) := dk_154 0 6 (dk_at dksX0_fits_0 19 rfl rfl)
theorem dX0_fits_22 : decode cX0_fits 22 = .ok (.bipush (-3), 2) := dk_16 253 (dk_at dksX0_fits_0 22 rfl rfl)
theorem dX0_fits_24 : decode cX0_fits 24 = .ok (.ireturn, 1) := dk_172 (dk_at dksX0_fits_1 0 rfl rfl)
theorem dX0_fits_25 : decode cX0_fits 25 = .ok (.aload_n 0, 1) := dk_42 (dk_at dksX0_fits_1 1 rfl rfl)
theorem dX0_fits_26 : decode cX0_fits 26 = .ok (.sipush 540, 3) := dk_17 2 28 (dk_at dksX0_fits_1 2 rfl rfl)
theorem dX0_fits_29 : decode cX0_fits 29 = .ok (.invokevirtual 242, 3) := dk_182 0 242 (dk_at dksX0_fits_1 5 rfl rfl)
theorem dX0_fits_32 : decode cX0_fits 32 = .ok (.ifCond .ne 6, 3) := dk_154 0 6 (dk_at dksX0_fits_1 8 rfl rfl)
theorem dX0_fits_35 : decode cX0_fits 35 = .ok (.bipush (-4), 2) := dk_16 252 (dk_at dksX0_fits_1 11 rfl rfl)
theorem dX0_fits_37 : decode cX0_fits 37 = .ok (.ireturn, 1) := dk_172 (dk_at dksX0_fits_1 13 rfl rfl)
theorem dX0_fits_38 : decode cX0_fits 38 = .ok (.iconst 0, 1) := dk_3 (dk_at dksX0_fits_1 14 rfl rfl)
theorem dX0_fits_39 : decode cX0_fits 39 = .ok (.istore_n 2, 1) := dk_61 (dk_at dksX0_fits_1 15 rfl rfl)
theorem dX0_fits_40 : decode cX0_fits 40 = .ok (.bipush (-5), 2) := dk_16 251 (dk_at dksX0_fits_1 16 rfl rfl)
theorem dX0_fits_42 : decode cX0_fits 42 = .ok (.istore_n 3, 1) := dk_62 (dk_at dksX0_fits_1 18 rfl rfl)
theorem dX0_fits_43 : decode cX0_fits 43 = .ok (.bipush 9, 2) := dk_16 9 (dk_at dksX0_fits_1 19 rfl rfl)
theorem dX0_fits_45 : decode cX0_fits 45 = .ok (.istore 4, 2) := dk_54 4 (dk_at dksX0_fits_1 21 rfl rfl)
theorem dX0_fits_47 : decode cX0_fits 47 = .ok (.iload 4, 2) := dk_21 4 (dk_at dksX0_fits_2 0 rfl rfl)
theorem dX0_fits_49 : decode cX0_fits 49 = .ok (.ifCond .le 66, 3) := dk_158 0 66 (dk_at dksX0_fits_2 2 rfl rfl)
theorem dX0_fits_52 : decode cX0_fits 52 = .ok (.aload_n 0, 1) := dk_42 (dk_at dksX0_fits_2 5 rfl rfl)
theorem dX0_fits_53 : decode cX0_fits 53 = .ok (.invokevirtual 425, 3) := dk_182 1 169 (dk_at dksX0_fits_2 6 rfl rfl)
theorem dX0_fits_56 : decode cX0_fits 56 = .ok (.iload 4, 2) := dk_21 4 (dk_at dksX0_fits_2 9 rfl rfl)
theorem dX0_fits_58 : decode cX0_fits 58 = .ok (.invokevirtual 432, 3) := dk_182 1 176 (dk_at dksX0_fits_2 11 rfl rfl)
theorem dX0_fits_61 : decode cX0_fits 61 = .ok (.astore 5, 2) := dk_58 5 (dk_at dksX0_fits_2 14 rfl rfl)
theorem dX0_fits_63 : decode cX0_fits 63 = .ok (.iconst 0, 1) := dk_3 (dk_at dksX0_fits_2 16 rfl rfl)
theorem dX0_fits_64 : decode cX0_fits 64 = .ok (.istore 6, 2) := dk_54 6 (dk_at dksX0_fits_2 17 rfl rfl)
theorem dX0_fits_66 : decode cX0_fits 66 = .ok (.iload 6, 2) := dk_21 6 (dk_at dksX0_fits_2 19 rfl rfl)
theorem dX0_fits_68 : decode cX0_fits 68 = .ok (.bipush 60, 2) := dk_16 60 (dk_at dksX0_fits_2 21 rfl rfl)
theorem dX0_fits_70 : decode cX0_fits 70 = .ok (.if_icmp .ge 26, 3) := dk_162 0 26 (dk_at dksX0_fits_3 0 rfl rfl)
theorem dX0_fits_73 : decode cX0_fits 73 = .ok (.aload_n 0, 1) := dk_42 (dk_at dksX0_fits_3 3 rfl rfl)
theorem dX0_fits_74 : decode cX0_fits 74 = .ok (.getfield 60, 3) := dk_180 0 60 (dk_at dksX0_fits_3 4 rfl rfl)
theorem dX0_fits_77 : decode cX0_fits 77 = .ok (.iload 6, 2) := dk_21 6 (dk_at dksX0_fits_3 7 rfl rfl)
theorem dX0_fits_79 : decode cX0_fits 79 = .ok (.aload 5, 2) := dk_25 5 (dk_at dksX0_fits_3 9 rfl rfl)
theorem dX0_fits_81 : decode cX0_fits 81 = .ok (.iconst 1, 1) := dk_4 (dk_at dksX0_fits_3 11 rfl rfl)
theorem dX0_fits_82 : decode cX0_fits 82 = .ok (.invokevirtual 248, 3) := dk_182 0 248 (dk_at dksX0_fits_3 12 rfl rfl)
theorem dX0_fits_85 : decode cX0_fits 85 = .ok (.iconst 2, 1) := dk_5 (dk_at dksX0_fits_3 15 rfl rfl)
theorem dX0_fits_86 : decode cX0_fits 86 = .ok (.invokevirtual 261, 3) := dk_182 1 5 (dk_at dksX0_fits_3 16 rfl rfl)
theorem dX0_fits_89 : decode cX0_fits 89 = .ok (.iastore, 1) := dk_79 (dk_at dksX0_fits_3 19 rfl rfl)
theorem dX0_fits_90 : decode cX0_fits 90 = .ok (.iinc 6 1, 3) := dk_132 6 1 (dk_at dksX0_fits_3 20 rfl rfl)
theorem dX0_fits_93 : decode cX0_fits 93 = .ok (.goto (-27), 3) := dk_167 255 229 (dk_at dksX0_fits_4 0 rfl rfl)
theorem dX0_fits_96 : decode cX0_fits 96 = .ok (.aload_n 0, 1) := dk_42 (dk_at dksX0_fits_4 3 rfl rfl)
theorem dX0_fits_97 : decode cX0_fits 97 = .ok (.invokevirtual 447, 3) := dk_182 1 191 (dk_at dksX0_fits_4 4 rfl rfl)
theorem dX0_fits_100 : decode cX0_fits 100 = .ok (.ifCond .eq 9, 3) := dk_153 0 9 (dk_at dksX0_fits_4 7 rfl rfl)
theorem dX0_fits_103 : decode cX0_fits 103 = .ok (.iinc 2 1, 3) := dk_132 2 1 (dk_at dksX0_fits_4 10 rfl rfl)
theorem dX0_fits_106 : decode cX0_fits 106 = .ok (.iload 4, 2) := dk_21 4 (dk_at dksX0_fits_4 13 rfl rfl)
theorem dX0_fits_108 : decode cX0_fits 108 = .ok (.istore_n 3, 1) := dk_62 (dk_at dksX0_fits_4 15 rfl rfl)
theorem dX0_fits_109 : decode cX0_fits 109 = .ok (.iinc 4 (-1), 3) := dk_132 4 255 (dk_at dksX0_fits_4 16 rfl rfl)
theorem dX0_fits_112 : decode cX0_fits 112 = .ok (.goto (-65), 3) := dk_167 255 191 (dk_at dksX0_fits_4 19 rfl rfl)
theorem dX0_fits_115 : decode cX0_fits 115 = .ok (.iload_n 1, 1) := dk_27 (dk_at dksX0_fits_4 22 rfl rfl)
theorem dX0_fits_116 : decode cX0_fits 116 = .ok (.ifCond .ne 7, 3) := dk_154 0 7 (dk_at dksX0_fits_5 0 rfl rfl)
theorem dX0_fits_119 : decode cX0_fits 119 = .ok (.iload_n 2, 1) := dk_28 (dk_at dksX0_fits_5 3 rfl rfl)
theorem dX0_fits_120 : decode cX0_fits 120 = .ok (.goto 4, 3) := dk_167 0 4 (dk_at dksX0_fits_5 4 rfl rfl)
theorem dX0_fits_123 : decode cX0_fits 123 = .ok (.iload_n 3, 1) := dk_29 (dk_at dksX0_fits_5 7 rfl rfl)
theorem dX0_fits_124 : decode cX0_fits 124 = .ok (.ireturn, 1) := dk_172 (dk_at dksX0_fits_5 8 rfl rfl)
abbrev cX0_isNoted : ByteArray := prog_1_method_53_code
def yX0_isNoted : MethodName := ⟨RX0, "isNoted", "()Z"⟩
def dkwX0_isNoted_3 : List UInt8 := [132, 1, 1, 167, 255, 186, 4, 172]
abbrev dktX0_isNoted_3 : List UInt8 := dkwX0_isNoted_3 ++ []
def dkwX0_isNoted_2 : List UInt8 := [180, 0, 60, 28, 46, 42, 180, 0, 17, 180, 1, 186, 5, 27, 104, 4, 96, 46, 159, 0, 5, 3, 172]
abbrev dktX0_isNoted_2 : List UInt8 := dkwX0_isNoted_2 ++ dktX0_isNoted_3
def dkwX0_isNoted_1 : List UInt8 := [42, 180, 0, 17, 180, 0, 252, 100, 61, 28, 133, 9, 20, 1, 189, 184, 0, 74, 153, 0, 25, 42]
abbrev dktX0_isNoted_1 : List UInt8 := dkwX0_isNoted_1 ++ dktX0_isNoted_2
def dkwX0_isNoted_0 : List UInt8 := [3, 60, 27, 42, 180, 0, 17, 180, 1, 179, 162, 0, 65, 42, 180, 0, 17, 180, 1, 186, 5, 27, 104, 46]
abbrev dktX0_isNoted_0 : List UInt8 := dkwX0_isNoted_0 ++ dktX0_isNoted_1
theorem dksX0_isNoted_0 : cX0_isNoted.data.toList.drop 0 = dktX0_isNoted_0 := by decide +kernel
theorem dksX0_isNoted_1 : cX0_isNoted.data.toList.drop 24 = dktX0_isNoted_1 := dk_seg dksX0_isNoted_0 24 rfl rfl
theorem dksX0_isNoted_2 : cX0_isNoted.data.toList.drop 46 = dktX0_isNoted_2 := dk_seg dksX0_isNoted_1 22 rfl rfl
theorem dksX0_isNoted_3 : cX0_isNoted.data.toList.drop 69 = dktX0_isNoted_3 := dk_seg dksX0_isNoted_2 23 rfl rfl
theorem dX0_isNoted_0 : decode cX0_isNoted 0 = .ok (.iconst 0, 1) := dk_3 (dk_at dksX0_isNoted_0 0 rfl rfl)
theorem dX0_isNoted_1 : decode cX0_isNoted 1 = .ok (.istore_n 1, 1) := dk_60 (dk_at dksX0_isNoted_0 1 rfl rfl)
theorem dX0_isNoted_2 : decode cX0_isNoted 2 = .ok (.iload_n 1, 1) := dk_27 (dk_at dksX0_isNoted_0 2 rfl rfl)
theorem dX0_isNoted_3 : decode cX0_isNoted 3 = .ok (.aload_n 0, 1) := dk_42 (dk_at dksX0_isNoted_0 3 rfl rfl)
theorem dX0_isNoted_4 : decode cX0_isNoted 4 = .ok (.getfield 17, 3) := dk_180 0 17 (dk_at dksX0_isNoted_0 4 rfl rfl)
theorem dX0_isNoted_7 : decode cX0_isNoted 7 = .ok (.getfield 435, 3) := dk_180 1 179 (dk_at dksX0_isNoted_0 7 rfl rfl)
theorem dX0_isNoted_10 : decode cX0_isNoted 10 = .ok (.if_icmp .ge 65, 3) := dk_162 0 65 (dk_at dksX0_isNoted_0 10 rfl rfl)
theorem dX0_isNoted_13 : decode cX0_isNoted 13 = .ok (.aload_n 0, 1) := dk_42 (dk_at dksX0_isNoted_0 13 rfl rfl)
theorem dX0_isNoted_14 : decode cX0_isNoted 14 = .ok (.getfield 17, 3) := dk_180 0 17 (dk_at dksX0_isNoted_0 14 rfl rfl)
theorem dX0_isNoted_17 : decode cX0_isNoted 17 = .ok (.getfield 442, 3) := dk_180 1 186 (dk_at dksX0_isNoted_0 17 rfl rfl)
theorem dX0_isNoted_20 : decode cX0_isNoted 20 = .ok (.iconst 2, 1) := dk_5 (dk_at dksX0_isNoted_0 20 rfl rfl)
theorem dX0_isNoted_21 : decode cX0_isNoted 21 = .ok (.iload_n 1, 1) := dk_27 (dk_at dksX0_isNoted_0 21 rfl rfl)
theorem dX0_isNoted_22 : decode cX0_isNoted 22 = .ok (.imul, 1) := dk_104 (dk_at dksX0_isNoted_0 22 rfl rfl)
theorem dX0_isNoted_23 : decode cX0_isNoted 23 = .ok (.iaload, 1) := dk_46 (dk_at dksX0_isNoted_0 23 rfl rfl)
theorem dX0_isNoted_24 : decode cX0_isNoted 24 = .ok (.aload_n 0, 1) := dk_42 (dk_at dksX0_isNoted_1 0 rfl rfl)
theorem dX0_isNoted_25 : decode cX0_isNoted 25 = .ok (.getfield 17, 3) := dk_180 0 17 (dk_at dksX0_isNoted_1 1 rfl rfl)
theorem dX0_isNoted_28 : decode cX0_isNoted 28 = .ok (.getfield 252, 3) := dk_180 0 252 (dk_at dksX0_isNoted_1 4 rfl rfl)
theorem dX0_isNoted_31 : decode cX0_isNoted 31 = .ok (.isub, 1) := dk_100 (dk_at dksX0_isNoted_1 7 rfl rfl)
theorem dX0_isNoted_32 : decode cX0_isNoted 32 = .ok (.istore_n 2, 1) := dk_61 (dk_at dksX0_isNoted_1 8 rfl rfl)
theorem dX0_isNoted_33 : decode cX0_isNoted 33 = .ok (.iload_n 2, 1) := dk_28 (dk_at dksX0_isNoted_1 9 rfl rfl)
theorem dX0_isNoted_34 : decode cX0_isNoted 34 = .ok (.i2l, 1) := dk_133 (dk_at dksX0_isNoted_1 10 rfl rfl)
theorem dX0_isNoted_35 : decode cX0_isNoted 35 = .ok (.lconst 0, 1) := dk_9 (dk_at dksX0_isNoted_1 11 rfl rfl)
theorem dX0_isNoted_36 : decode cX0_isNoted 36 = .ok (.ldc2_w 445, 3) := dk_20 1 189 (dk_at dksX0_isNoted_1 12 rfl rfl)
theorem dX0_isNoted_39 : decode cX0_isNoted 39 = .ok (.invokestatic 74, 3) := dk_184 0 74 (dk_at dksX0_isNoted_1 15 rfl rfl)
theorem dX0_isNoted_42 : decode cX0_isNoted 42 = .ok (.ifCond .eq 25, 3) := dk_153 0 25 (dk_at dksX0_isNoted_1 18 rfl rfl)
theorem dX0_isNoted_45 : decode cX0_isNoted 45 = .ok (.aload_n 0, 1) := dk_42 (dk_at dksX0_isNoted_1 21 rfl rfl)
theorem dX0_isNoted_46 : decode cX0_isNoted 46 = .ok (.getfield 60, 3) := dk_180 0 60 (dk_at dksX0_isNoted_2 0 rfl rfl)
theorem dX0_isNoted_49 : decode cX0_isNoted 49 = .ok (.iload_n 2, 1) := dk_28 (dk_at dksX0_isNoted_2 3 rfl rfl)
theorem dX0_isNoted_50 : decode cX0_isNoted 50 = .ok (.iaload, 1) := dk_46 (dk_at dksX0_isNoted_2 4 rfl rfl)
theorem dX0_isNoted_51 : decode cX0_isNoted 51 = .ok (.aload_n 0, 1) := dk_42 (dk_at dksX0_isNoted_2 5 rfl rfl)
theorem dX0_isNoted_52 : decode cX0_isNoted 52 = .ok (.getfield 17, 3) := dk_180 0 17 (dk_at dksX0_isNoted_2 6 rfl rfl)
theorem dX0_isNoted_55 : decode cX0_isNoted 55 = .ok (.getfield 442, 3) := dk_180 1 186 (dk_at dksX0_isNoted_2 9 rfl rfl)
theorem dX0_isNoted_58 : decode cX0_isNoted 58 = .ok (.iconst 2, 1) := dk_5 (dk_at dksX0_isNoted_2 12 rfl rfl)
theorem dX0_isNoted_59 : decode cX0_isNoted 59 = .ok (.iload_n 1, 1) := dk_27 (dk_at dksX0_isNoted_2 13 rfl rfl)
theorem dX0_isNoted_60 : decode cX0_isNoted 60 = .ok (.imul, 1) := dk_104 (dk_at dksX0_isNoted_2 14 rfl rfl)
theorem dX0_isNoted_61 : decode cX0_isNoted 61 = .ok (.iconst 1, 1) := dk_4 (dk_at dksX0_isNoted_2 15 rfl rfl)
theorem dX0_isNoted_62 : decode cX0_isNoted 62 = .ok (.iadd, 1) := dk_96 (dk_at dksX0_isNoted_2 16 rfl rfl)
theorem dX0_isNoted_63 : decode cX0_isNoted 63 = .ok (.iaload, 1) := dk_46 (dk_at dksX0_isNoted_2 17 rfl rfl)
theorem dX0_isNoted_64 : decode cX0_isNoted 64 = .ok (.if_icmp .eq 5, 3) := dk_159 0 5 (dk_at dksX0_isNoted_2 18 rfl rfl)
theorem dX0_isNoted_67 : decode cX0_isNoted 67 = .ok (.iconst 0, 1) := dk_3 (dk_at dksX0_isNoted_2 21 rfl rfl)
theorem dX0_isNoted_68 : decode cX0_isNoted 68 = .ok (.ireturn, 1) := dk_172 (dk_at dksX0_isNoted_2 22 rfl rfl)
theorem dX0_isNoted_69 : decode cX0_isNoted 69 = .ok (.iinc 1 1, 3) := dk_132 1 1 (dk_at dksX0_isNoted_3 0 rfl rfl)
theorem dX0_isNoted_72 : decode cX0_isNoted 72 = .ok (.goto (-70), 3) := dk_167 255 186 (dk_at dksX0_isNoted_3 3 rfl rfl)
theorem dX0_isNoted_75 : decode cX0_isNoted 75 = .ok (.iconst 1, 1) := dk_4 (dk_at dksX0_isNoted_3 6 rfl rfl)
theorem dX0_isNoted_76 : decode cX0_isNoted 76 = .ok (.ireturn, 1) := dk_172 (dk_at dksX0_isNoted_3 7 rfl rfl)
abbrev cX0_day : ByteArray := prog_1_method_56_code
def yX0_day : MethodName := ⟨RX0, "day", "(II)I"⟩
def dkwX0_day_2 : List UInt8 := [16, 252, 172]
abbrev dktX0_day_2 : List UInt8 := dkwX0_day_2 ++ []
def dkwX0_day_1 : List UInt8 := [154, 0, 6, 16, 253, 172, 42, 28, 182, 0, 242, 153, 0, 12, 42, 27, 28, 182, 1, 195, 167, 0, 5]
abbrev dktX0_day_1 : List UInt8 := dkwX0_day_1 ++ dktX0_day_2
def dkwX0_day_0 : List UInt8 := [28, 133, 9, 20, 0, 144, 184, 0, 74, 154, 0, 6, 16, 254, 172, 42, 180, 0, 17, 180, 0, 86]
abbrev dktX0_day_0 : List UInt8 := dkwX0_day_0 ++ dktX0_day_1
theorem dksX0_day_0 : cX0_day.data.toList.drop 0 = dktX0_day_0 := by decide +kernel
theorem dksX0_day_1 : cX0_day.data.toList.drop 22 = dktX0_day_1 := dk_seg dksX0_day_0 22 rfl rfl
theorem dksX0_day_2 : cX0_day.data.toList.drop 45 = dktX0_day_2 := dk_seg dksX0_day_1 23 rfl rfl
theorem dX0_day_0 : decode cX0_day 0 = .ok (.iload_n 2, 1) := dk_28 (dk_at dksX0_day_0 0 rfl rfl)
theorem dX0_day_1 : decode cX0_day 1 = .ok (.i2l, 1) := dk_133 (dk_at dksX0_day_0 1 rfl rfl)
theorem dX0_day_2 : decode cX0_day 2 = .ok (.lconst 0, 1) := dk_9 (dk_at dksX0_day_0 2 rfl rfl)
theorem dX0_day_3 : decode cX0_day 3 = .ok (.ldc2_w 144, 3) := dk_20 0 144 (dk_at dksX0_day_0 3 rfl rfl)
theorem dX0_day_6 : decode cX0_day 6 = .ok (.invokestatic 74, 3) := dk_184 0 74 (dk_at dksX0_day_0 6 rfl rfl)
theorem dX0_day_9 : decode cX0_day 9 = .ok (.ifCond .ne 6, 3) := dk_154 0 6 (dk_at dksX0_day_0 9 rfl rfl)
theorem dX0_day_12 : decode cX0_day 12 = .ok (.bipush (-2), 2) := dk_16 254 (dk_at dksX0_day_0 12 rfl rfl)
theorem dX0_day_14 : decode cX0_day 14 = .ok (.ireturn, 1) := dk_172 (dk_at dksX0_day_0 14 rfl rfl)
theorem dX0_day_15 : decode cX0_day 15 = .ok (.aload_n 0, 1) := dk_42 (dk_at dksX0_day_0 15 rfl rfl)
theorem dX0_day_16 : decode cX0_day 16 = .ok (.getfield 17, 3) := dk_180 0 17 (dk_at dksX0_day_0 16 rfl rfl)
theorem dX0_day_19 : decode cX0_day 19 = .ok (.getfield 86, 3) := dk_180 0 86 (dk_at dksX0_day_0 19 rfl rfl)
theorem dX0_day_22 : decode cX0_day 22 = .ok (.ifCond .ne 6, 3) := dk_154 0 6 (dk_at dksX0_day_1 0 rfl rfl)
theorem dX0_day_25 : decode cX0_day 25 = .ok (.bipush (-3), 2) := dk_16 253 (dk_at dksX0_day_1 3 rfl rfl)
theorem dX0_day_27 : decode cX0_day 27 = .ok (.ireturn, 1) := dk_172 (dk_at dksX0_day_1 5 rfl rfl)
theorem dX0_day_28 : decode cX0_day 28 = .ok (.aload_n 0, 1) := dk_42 (dk_at dksX0_day_1 6 rfl rfl)
theorem dX0_day_29 : decode cX0_day 29 = .ok (.iload_n 2, 1) := dk_28 (dk_at dksX0_day_1 7 rfl rfl)
theorem dX0_day_30 : decode cX0_day 30 = .ok (.invokevirtual 242, 3) := dk_182 0 242 (dk_at dksX0_day_1 8 rfl rfl)
theorem dX0_day_33 : decode cX0_day 33 = .ok (.ifCond .eq 12, 3) := dk_153 0 12 (dk_at dksX0_day_1 11 rfl rfl)
theorem dX0_day_36 : decode cX0_day 36 = .ok (.aload_n 0, 1) := dk_42 (dk_at dksX0_day_1 14 rfl rfl)
theorem dX0_day_37 : decode cX0_day 37 = .ok (.iload_n 1, 1) := dk_27 (dk_at dksX0_day_1 15 rfl rfl)
theorem dX0_day_38 : decode cX0_day 38 = .ok (.iload_n 2, 1) := dk_28 (dk_at dksX0_day_1 16 rfl rfl)
theorem dX0_day_39 : decode cX0_day 39 = .ok (.invokevirtual 451, 3) := dk_182 1 195 (dk_at dksX0_day_1 17 rfl rfl)
theorem dX0_day_42 : decode cX0_day 42 = .ok (.goto 5, 3) := dk_167 0 5 (dk_at dksX0_day_1 20 rfl rfl)
theorem dX0_day_45 : decode cX0_day 45 = .ok (.bipush (-4), 2) := dk_16 252 (dk_at dksX0_day_2 0 rfl rfl)
theorem dX0_day_47 : decode cX0_day 47 = .ok (.ireturn, 1) := dk_172 (dk_at dksX0_day_2 2 rfl rfl)
abbrev cX0_dayBy : ByteArray := prog_1_method_55_code
def yX0_dayBy : MethodName := ⟨RX0, "dayBy", "(II)I"⟩
def dkwX0_dayBy_1 : List UInt8 := [180, 1, 2, 100, 172]
abbrev dktX0_dayBy_1 : List UInt8 := dkwX0_dayBy_1 ++ []
def dkwX0_dayBy_0 : List UInt8 := [42, 182, 1, 169, 78, 45, 27, 181, 0, 230, 45, 28, 182, 0, 248, 180, 1, 2, 42, 180, 0, 17]
abbrev dktX0_dayBy_0 : List UInt8 := dkwX0_dayBy_0 ++ dktX0_dayBy_1
theorem dksX0_dayBy_0 : cX0_dayBy.data.toList.drop 0 = dktX0_dayBy_0 := by decide +kernel
theorem dksX0_dayBy_1 : cX0_dayBy.data.toList.drop 22 = dktX0_dayBy_1 := dk_seg dksX0_dayBy_0 22 rfl rfl
theorem dX0_dayBy_0 : decode cX0_dayBy 0 = .ok (.aload_n 0, 1) := dk_42 (dk_at dksX0_dayBy_0 0 rfl rfl)
theorem dX0_dayBy_1 : decode cX0_dayBy 1 = .ok (.invokevirtual 425, 3) := dk_182 1 169 (dk_at dksX0_dayBy_0 1 rfl rfl)
theorem dX0_dayBy_4 : decode cX0_dayBy 4 = .ok (.astore_n 3, 1) := dk_78 (dk_at dksX0_dayBy_0 4 rfl rfl)
theorem dX0_dayBy_5 : decode cX0_dayBy 5 = .ok (.aload_n 3, 1) := dk_45 (dk_at dksX0_dayBy_0 5 rfl rfl)
theorem dX0_dayBy_6 : decode cX0_dayBy 6 = .ok (.iload_n 1, 1) := dk_27 (dk_at dksX0_dayBy_0 6 rfl rfl)
theorem dX0_dayBy_7 : decode cX0_dayBy 7 = .ok (.putfield 230, 3) := dk_181 0 230 (dk_at dksX0_dayBy_0 7 rfl rfl)
theorem dX0_dayBy_10 : decode cX0_dayBy 10 = .ok (.aload_n 3, 1) := dk_45 (dk_at dksX0_dayBy_0 10 rfl rfl)
theorem dX0_dayBy_11 : decode cX0_dayBy 11 = .ok (.iload_n 2, 1) := dk_28 (dk_at dksX0_dayBy_0 11 rfl rfl)
theorem dX0_dayBy_12 : decode cX0_dayBy 12 = .ok (.invokevirtual 248, 3) := dk_182 0 248 (dk_at dksX0_dayBy_0 12 rfl rfl)
theorem dX0_dayBy_15 : decode cX0_dayBy 15 = .ok (.getfield 258, 3) := dk_180 1 2 (dk_at dksX0_dayBy_0 15 rfl rfl)
theorem dX0_dayBy_18 : decode cX0_dayBy 18 = .ok (.aload_n 0, 1) := dk_42 (dk_at dksX0_dayBy_0 18 rfl rfl)
theorem dX0_dayBy_19 : decode cX0_dayBy 19 = .ok (.getfield 17, 3) := dk_180 0 17 (dk_at dksX0_dayBy_0 19 rfl rfl)
theorem dX0_dayBy_22 : decode cX0_dayBy 22 = .ok (.getfield 258, 3) := dk_180 1 2 (dk_at dksX0_dayBy_1 0 rfl rfl)
theorem dX0_dayBy_25 : decode cX0_dayBy 25 = .ok (.isub, 1) := dk_100 (dk_at dksX0_dayBy_1 3 rfl rfl)
theorem dX0_dayBy_26 : decode cX0_dayBy 26 = .ok (.ireturn, 1) := dk_172 (dk_at dksX0_dayBy_1 4 rfl rfl)
abbrev cX0_chance : ByteArray := prog_1_method_57_code
def yX0_chance : MethodName := ⟨RX0, "chance", "(IIIII)J"⟩
def dkwX0_chance_5 : List UInt8 := [132, 7, 1, 167, 255, 223, 21, 6, 133, 29, 133, 21, 5, 184, 1, 200, 173]
abbrev dktX0_chance_5 : List UInt8 := dkwX0_chance_5 ++ []
def dkwX0_chance_4 : List UInt8 := [42, 27, 21, 7, 96, 28, 182, 1, 195, 21, 4, 163, 0, 7, 4, 167, 0, 4, 3, 96, 54, 6]
abbrev dktX0_chance_4 : List UInt8 := dkwX0_chance_4 ++ dktX0_chance_5
def dkwX0_chance_3 : List UInt8 := [182, 0, 242, 154, 0, 7, 20, 1, 198, 173, 3, 54, 6, 3, 54, 7, 21, 7, 29, 162, 0, 33, 21, 6]
abbrev dktX0_chance_3 : List UInt8 := dkwX0_chance_3 ++ dktX0_chance_4
def dkwX0_chance_2 : List UInt8 := [184, 0, 74, 84, 89, 7, 42, 180, 0, 17, 180, 0, 86, 84, 184, 0, 82, 153, 0, 13, 42, 29, 28, 104]
abbrev dktX0_chance_2 : List UInt8 := dkwX0_chance_2 ++ dktX0_chance_3
def dkwX0_chance_1 : List UInt8 := [184, 0, 74, 84, 89, 5, 21, 4, 133, 9, 20, 1, 182, 184, 0, 74, 84, 89, 6, 21, 5, 133, 9, 10]
abbrev dktX0_chance_1 : List UInt8 := dkwX0_chance_1 ++ dktX0_chance_2
def dkwX0_chance_0 : List UInt8 := [8, 188, 4, 89, 3, 28, 133, 9, 20, 0, 144, 184, 0, 74, 84, 89, 4, 29, 133, 10, 20, 1, 77]
abbrev dktX0_chance_0 : List UInt8 := dkwX0_chance_0 ++ dktX0_chance_1
theorem dksX0_chance_0 : cX0_chance.data.toList.drop 0 = dktX0_chance_0 := by decide +kernel
theorem dksX0_chance_1 : cX0_chance.data.toList.drop 23 = dktX0_chance_1 := dk_seg dksX0_chance_0 23 rfl rfl
theorem dksX0_chance_2 : cX0_chance.data.toList.drop 47 = dktX0_chance_2 := dk_seg dksX0_chance_1 24 rfl rfl
theorem dksX0_chance_3 : cX0_chance.data.toList.drop 71 = dktX0_chance_3 := dk_seg dksX0_chance_2 24 rfl rfl
theorem dksX0_chance_4 : cX0_chance.data.toList.drop 95 = dktX0_chance_4 := dk_seg dksX0_chance_3 24 rfl rfl
theorem dksX0_chance_5 : cX0_chance.data.toList.drop 117 = dktX0_chance_5 := dk_seg dksX0_chance_4 22 rfl rfl
theorem dX0_chance_0 : decode cX0_chance 0 = .ok (.iconst 5, 1) := dk_8 (dk_at dksX0_chance_0 0 rfl rfl)
theorem dX0_chance_1 : decode cX0_chance 1 = .ok (.newarray .boolean, 2) := dk_188_4 (dk_at dksX0_chance_0 1 rfl rfl)
theorem dX0_chance_3 : decode cX0_chance 3 = .ok (.dup, 1) := dk_89 (dk_at dksX0_chance_0 3 rfl rfl)
theorem dX0_chance_4 : decode cX0_chance 4 = .ok (.iconst 0, 1) := dk_3 (dk_at dksX0_chance_0 4 rfl rfl)
theorem dX0_chance_5 : decode cX0_chance 5 = .ok (.iload_n 2, 1) := dk_28 (dk_at dksX0_chance_0 5 rfl rfl)
theorem dX0_chance_6 : decode cX0_chance 6 = .ok (.i2l, 1) := dk_133 (dk_at dksX0_chance_0 6 rfl rfl)
theorem dX0_chance_7 : decode cX0_chance 7 = .ok (.lconst 0, 1) := dk_9 (dk_at dksX0_chance_0 7 rfl rfl)
theorem dX0_chance_8 : decode cX0_chance 8 = .ok (.ldc2_w 144, 3) := dk_20 0 144 (dk_at dksX0_chance_0 8 rfl rfl)
theorem dX0_chance_11 : decode cX0_chance 11 = .ok (.invokestatic 74, 3) := dk_184 0 74 (dk_at dksX0_chance_0 11 rfl rfl)
theorem dX0_chance_14 : decode cX0_chance 14 = .ok (.bastore, 1) := dk_84 (dk_at dksX0_chance_0 14 rfl rfl)
theorem dX0_chance_15 : decode cX0_chance 15 = .ok (.dup, 1) := dk_89 (dk_at dksX0_chance_0 15 rfl rfl)
theorem dX0_chance_16 : decode cX0_chance 16 = .ok (.iconst 1, 1) := dk_4 (dk_at dksX0_chance_0 16 rfl rfl)
theorem dX0_chance_17 : decode cX0_chance 17 = .ok (.iload_n 3, 1) := dk_29 (dk_at dksX0_chance_0 17 rfl rfl)
theorem dX0_chance_18 : decode cX0_chance 18 = .ok (.i2l, 1) := dk_133 (dk_at dksX0_chance_0 18 rfl rfl)
theorem dX0_chance_19 : decode cX0_chance 19 = .ok (.lconst 1, 1) := dk_10 (dk_at dksX0_chance_0 19 rfl rfl)
theorem dX0_chance_20 : decode cX0_chance 20 = .ok (.ldc2_w 333, 3) := dk_20 1 77 (dk_at dksX0_chance_0 20 rfl rfl)
theorem dX0_chance_23 : decode cX0_chance 23 = .ok (.invokestatic 74, 3) := dk_184 0 74 (dk_at dksX0_chance_1 0 rfl rfl)
theorem dX0_chance_26 : decode cX0_chance 26 = .ok (.bastore, 1) := dk_84 (dk_at dksX0_chance_1 3 rfl rfl)
theorem dX0_chance_27 : decode cX0_chance 27 = .ok (.dup, 1) := dk_89 (dk_at dksX0_chance_1 4 rfl rfl)
theorem dX0_chance_28 : decode cX0_chance 28 = .ok (.iconst 2, 1) := dk_5 (dk_at dksX0_chance_1 5 rfl rfl)
theorem dX0_chance_29 : decode cX0_chance 29 = .ok (.iload 4, 2) := dk_21 4 (dk_at dksX0_chance_1 6 rfl rfl)
theorem dX0_chance_31 : decode cX0_chance 31 = .ok (.i2l, 1) := dk_133 (dk_at dksX0_chance_1 8 rfl rfl)
theorem dX0_chance_32 : decode cX0_chance 32 = .ok (.lconst 0, 1) := dk_9 (dk_at dksX0_chance_1 9 rfl rfl)
theorem dX0_chance_33 : decode cX0_chance 33 = .ok (.ldc2_w 438, 3) := dk_20 1 182 (dk_at dksX0_chance_1 10 rfl rfl)
theorem dX0_chance_36 : decode cX0_chance 36 = .ok (.invokestatic 74, 3) := dk_184 0 74 (dk_at dksX0_chance_1 13 rfl rfl)
theorem dX0_chance_39 : decode cX0_chance 39 = .ok (.bastore, 1) := dk_84 (dk_at dksX0_chance_1 16 rfl rfl)
theorem dX0_chance_40 : decode cX0_chance 40 = .ok (.dup, 1) := dk_89 (dk_at dksX0_chance_1 17 rfl rfl)
theorem dX0_chance_41 : decode cX0_chance 41 = .ok (.iconst 3, 1) := dk_6 (dk_at dksX0_chance_1 18 rfl rfl)
theorem dX0_chance_42 : decode cX0_chance 42 = .ok (.iload 5, 2) := dk_21 5 (dk_at dksX0_chance_1 19 rfl rfl)
theorem dX0_chance_44 : decode cX0_chance 44 = .ok (.i2l, 1) := dk_133 (dk_at dksX0_chance_1 21 rfl rfl)
theorem dX0_chance_45 : decode cX0_chance 45 = .ok (.lconst 0, 1) := dk_9 (dk_at dksX0_chance_1 22 rfl rfl)
theorem dX0_chance_46 : decode cX0_chance 46 = .ok (.lconst 1, 1) := dk_10 (dk_at dksX0_chance_1 23 rfl rfl)
theorem dX0_chance_47 : decode cX0_chance 47 = .ok (.invokestatic 74, 3) := dk_184 0 74 (dk_at dksX0_chance_2 0 rfl rfl)
theorem dX0_chance_50 : decode cX0_chance 50 = .ok (.bastore, 1) := dk_84 (dk_at dksX0_chance_2 3 rfl rfl)
theorem dX0_chance_51 : decode cX0_chance 51 = .ok (.dup, 1) := dk_89 (dk_at dksX0_chance_2 4 rfl rfl)
theorem dX0_chance_52 : decode cX0_chance 52 = .ok (.iconst 4, 1) := dk_7 (dk_at dksX0_chance_2 5 rfl rfl)
theorem dX0_chance_53 : decode cX0_chance 53 = .ok (.aload_n 0, 1) := dk_42 (dk_at dksX0_chance_2 6 rfl rfl)
theorem dX0_chance_54 : decode cX0_chance 54 = .ok (.getfield 17, 3) := dk_180 0 17 (dk_at dksX0_chance_2 7 rfl rfl)
theorem dX0_chance_57 : decode cX0_chance 57 = .ok (.getfield 86, 3) := dk_180 0 86 (dk_at dksX0_chance_2 10 rfl rfl)
theorem dX0_chance_60 : decode cX0_chance 60 = .ok (.bastore, 1) := dk_84 (dk_at dksX0_chance_2 13 rfl rfl)
theorem dX0_chance_61 : decode cX0_chance 61 = .ok (.invokestatic 82, 3) := dk_184 0 82 (dk_at dksX0_chance_2 14 rfl rfl)
theorem dX0_chance_64 : decode cX0_chance 64 = .ok (.ifCond .eq 13, 3) := dk_153 0 13 (dk_at dksX0_chance_2 17 rfl rfl)
theorem dX0_chance_67 : decode cX0_chance 67 = .ok (.aload_n 0, 1) := dk_42 (dk_at dksX0_chance_2 20 rfl rfl)
theorem dX0_chance_68 : decode cX0_chance 68 = .ok (.iload_n 3, 1) := dk_29 (dk_at dksX0_chance_2 21 rfl rfl)
theorem dX0_chance_69 : decode cX0_chance 69 = .ok (.iload_n 2, 1) := dk_28 (dk_at dksX0_chance_2 22 rfl rfl)
theorem dX0_chance_70 : decode cX0_chance 70 = .ok (.imul, 1) := dk_104 (dk_at dksX0_chance_2 23 rfl rfl)
theorem dX0_chance_71 : decode cX0_chance 71 = .ok (.invokevirtual 242, 3) := dk_182 0 242 (dk_at dksX0_chance_3 0 rfl rfl)
theorem dX0_chance_74 : decode cX0_chance 74 = .ok (.ifCond .ne 7, 3) := dk_154 0 7 (dk_at dksX0_chance_3 3 rfl rfl)
theorem dX0_chance_77 : decode cX0_chance 77 = .ok (.ldc2_w 454, 3) := dk_20 1 198 (dk_at dksX0_chance_3 6 rfl rfl)
theorem dX0_chance_80 : decode cX0_chance 80 = .ok (.lreturn, 1) := dk_173 (dk_at dksX0_chance_3 9 rfl rfl)
theorem dX0_chance_81 : decode cX0_chance 81 = .ok (.iconst 0, 1) := dk_3 (dk_at dksX0_chance_3 10 rfl rfl)
theorem dX0_chance_82 : decode cX0_chance 82 = .ok (.istore 6, 2) := dk_54 6 (dk_at dksX0_chance_3 11 rfl rfl)
theorem dX0_chance_84 : decode cX0_chance 84 = .ok (.iconst 0, 1) := dk_3 (dk_at dksX0_chance_3 13 rfl rfl)
theorem dX0_chance_85 : decode cX0_chance 85 = .ok (.istore 7, 2) := dk_54 7 (dk_at dksX0_chance_3 14 rfl rfl)
theorem dX0_chance_87 : decode cX0_chance 87 = .ok (.iload 7, 2) := dk_21 7 (dk_at dksX0_chance_3 16 rfl rfl)
theorem dX0_chance_89 : decode cX0_chance 89 = .ok (.iload_n 3, 1) := dk_29 (dk_at dksX0_chance_3 18 rfl rfl)
theorem dX0_chance_90 : decode cX0_chance 90 = .ok (.if_icmp .ge 33, 3) := dk_162 0 33 (dk_at dksX0_chance_3 19 rfl rfl)
theorem dX0_chance_93 : decode cX0_chance 93 = .ok (.iload 6, 2) := dk_21 6 (dk_at dksX0_chance_3 22 rfl rfl)
theorem dX0_chance_95 : decode cX0_chance 95 = .ok (.aload_n 0, 1) := dk_42 (dk_at dksX0_chance_4 0 rfl rfl)
theorem dX0_chance_96 : decode cX0_chance 96 = .ok (.iload_n 1, 1) := dk_27 (dk_at dksX0_chance_4 1 rfl rfl)
theorem dX0_chance_97 : decode cX0_chance 97 = .ok (.iload 7, 2) := dk_21 7 (dk_at dksX0_chance_4 2 rfl rfl)
theorem dX0_chance_99 : decode cX0_chance 99 = .ok (.iadd, 1) := dk_96 (dk_at dksX0_chance_4 4 rfl rfl)
theorem dX0_chance_100 : decode cX0_chance 100 = .ok (.iload_n 2, 1) := dk_28 (dk_at dksX0_chance_4 5 rfl rfl)
theorem dX0_chance_101 : decode cX0_chance 101 = .ok (.invokevirtual 451, 3) := dk_182 1 195 (dk_at dksX0_chance_4 6 rfl rfl)
theorem dX0_chance_104 : decode cX0_chance 104 = .ok (.iload 4, 2) := dk_21 4 (dk_at dksX0_chance_4 9 rfl rfl)
theorem dX0_chance_106 : decode cX0_chance 106 = .ok (.if_icmp .gt 7, 3) := dk_163 0 7 (dk_at dksX0_chance_4 11 rfl rfl)
theorem dX0_chance_109 : decode cX0_chance 109 = .ok (.iconst 1, 1) := dk_4 (dk_at dksX0_chance_4 14 rfl rfl)
theorem dX0_chance_110 : decode cX0_chance 110 = .ok (.goto 4, 3) := dk_167 0 4 (dk_at dksX0_chance_4 15 rfl rfl)
theorem dX0_chance_113 : decode cX0_chance 113 = .ok (.iconst 0, 1) := dk_3 (dk_at dksX0_chance_4 18 rfl rfl)
theorem dX0_chance_114 : decode cX0_chance 114 = .ok (.iadd, 1) := dk_96 (dk_at dksX0_chance_4 19 rfl rfl)
theorem dX0_chance_115 : decode cX0_chance 115 = .ok (.istore 6, 2) := dk_54 6 (dk_at dksX0_chance_4 20 rfl rfl)
theorem dX0_chance_117 : decode cX0_chance 117 = .ok (.iinc 7 1, 3) := dk_132 7 1 (dk_at dksX0_chance_5 0 rfl rfl)
theorem dX0_chance_120 : decode cX0_chance 120 = .ok (.goto (-33), 3) := dk_167 255 223 (dk_at dksX0_chance_5 3 rfl rfl)
theorem dX0_chance_123 : decode cX0_chance 123 = .ok (.iload 6, 2) := dk_21 6 (dk_at dksX0_chance_5 6 rfl rfl)
theorem dX0_chance_125 : decode cX0_chance 125 = .ok (.i2l, 1) := dk_133 (dk_at dksX0_chance_5 8 rfl rfl)
theorem dX0_chance_126 : decode cX0_chance 126 = .ok (.iload_n 3, 1) := dk_29 (dk_at dksX0_chance_5 9 rfl rfl)
theorem dX0_chance_127 : decode cX0_chance 127 = .ok (.i2l, 1) := dk_133 (dk_at dksX0_chance_5 10 rfl rfl)
theorem dX0_chance_128 : decode cX0_chance 128 = .ok (.iload 5, 2) := dk_21 5 (dk_at dksX0_chance_5 11 rfl rfl)
theorem dX0_chance_130 : decode cX0_chance 130 = .ok (.invokestatic 456, 3) := dk_184 1 200 (dk_at dksX0_chance_5 13 rfl rfl)
theorem dX0_chance_133 : decode cX0_chance 133 = .ok (.lreturn, 1) := dk_173 (dk_at dksX0_chance_5 16 rfl rfl)
abbrev cX0_lowest : ByteArray := prog_1_method_4_code
def yX0_lowest : MethodName := ⟨RX0, "lowest", "(JJI)J"⟩
def dkwX0_lowest_0 : List UInt8 := [21, 4, 154, 0, 7, 30, 167, 0, 4, 32, 30, 32, 184, 0, 3, 109, 173]
abbrev dktX0_lowest_0 : List UInt8 := dkwX0_lowest_0 ++ []
theorem dksX0_lowest_0 : cX0_lowest.data.toList.drop 0 = dktX0_lowest_0 := by decide +kernel
theorem dX0_lowest_0 : decode cX0_lowest 0 = .ok (.iload 4, 2) := dk_21 4 (dk_at dksX0_lowest_0 0 rfl rfl)
theorem dX0_lowest_2 : decode cX0_lowest 2 = .ok (.ifCond .ne 7, 3) := dk_154 0 7 (dk_at dksX0_lowest_0 2 rfl rfl)
theorem dX0_lowest_5 : decode cX0_lowest 5 = .ok (.lload_n 0, 1) := dk_30 (dk_at dksX0_lowest_0 5 rfl rfl)
theorem dX0_lowest_6 : decode cX0_lowest 6 = .ok (.goto 4, 3) := dk_167 0 4 (dk_at dksX0_lowest_0 6 rfl rfl)
theorem dX0_lowest_9 : decode cX0_lowest 9 = .ok (.lload_n 2, 1) := dk_32 (dk_at dksX0_lowest_0 9 rfl rfl)
theorem dX0_lowest_10 : decode cX0_lowest 10 = .ok (.lload_n 0, 1) := dk_30 (dk_at dksX0_lowest_0 10 rfl rfl)
theorem dX0_lowest_11 : decode cX0_lowest 11 = .ok (.lload_n 2, 1) := dk_32 (dk_at dksX0_lowest_0 11 rfl rfl)
theorem dX0_lowest_12 : decode cX0_lowest 12 = .ok (.invokestatic 3, 3) := dk_184 0 3 (dk_at dksX0_lowest_0 12 rfl rfl)
theorem dX0_lowest_15 : decode cX0_lowest 15 = .ok (.ldiv, 1) := dk_109 (dk_at dksX0_lowest_0 15 rfl rfl)
theorem dX0_lowest_16 : decode cX0_lowest 16 = .ok (.lreturn, 1) := dk_173 (dk_at dksX0_lowest_0 16 rfl rfl)
abbrev cX0_divisor : ByteArray := prog_1_method_3_code
def yX0_divisor : MethodName := ⟨RX0, "divisor", "(JJ)J"⟩
def dkwX0_divisor_1 : List UInt8 := [22, 8, 55, 6, 167, 255, 234, 22, 4, 173]
abbrev dktX0_divisor_1 : List UInt8 := dkwX0_divisor_1 ++ []
def dkwX0_divisor_0 : List UInt8 := [30, 55, 4, 32, 55, 6, 22, 6, 9, 148, 153, 0, 21, 22, 4, 22, 6, 113, 55, 8, 22, 6, 55, 4]
abbrev dktX0_divisor_0 : List UInt8 := dkwX0_divisor_0 ++ dktX0_divisor_1
theorem dksX0_divisor_0 : cX0_divisor.data.toList.drop 0 = dktX0_divisor_0 := by decide +kernel
theorem dksX0_divisor_1 : cX0_divisor.data.toList.drop 24 = dktX0_divisor_1 := dk_seg dksX0_divisor_0 24 rfl rfl
theorem dX0_divisor_0 : decode cX0_divisor 0 = .ok (.lload_n 0, 1) := dk_30 (dk_at dksX0_divisor_0 0 rfl rfl)
theorem dX0_divisor_1 : decode cX0_divisor 1 = .ok (.lstore 4, 2) := dk_55 4 (dk_at dksX0_divisor_0 1 rfl rfl)
theorem dX0_divisor_3 : decode cX0_divisor 3 = .ok (.lload_n 2, 1) := dk_32 (dk_at dksX0_divisor_0 3 rfl rfl)
theorem dX0_divisor_4 : decode cX0_divisor 4 = .ok (.lstore 6, 2) := dk_55 6 (dk_at dksX0_divisor_0 4 rfl rfl)
theorem dX0_divisor_6 : decode cX0_divisor 6 = .ok (.lload 6, 2) := dk_22 6 (dk_at dksX0_divisor_0 6 rfl rfl)
theorem dX0_divisor_8 : decode cX0_divisor 8 = .ok (.lconst 0, 1) := dk_9 (dk_at dksX0_divisor_0 8 rfl rfl)
theorem dX0_divisor_9 : decode cX0_divisor 9 = .ok (.lcmp, 1) := dk_148 (dk_at dksX0_divisor_0 9 rfl rfl)
theorem dX0_divisor_10 : decode cX0_divisor 10 = .ok (.ifCond .eq 21, 3) := dk_153 0 21 (dk_at dksX0_divisor_0 10 rfl rfl)
theorem dX0_divisor_13 : decode cX0_divisor 13 = .ok (.lload 4, 2) := dk_22 4 (dk_at dksX0_divisor_0 13 rfl rfl)
theorem dX0_divisor_15 : decode cX0_divisor 15 = .ok (.lload 6, 2) := dk_22 6 (dk_at dksX0_divisor_0 15 rfl rfl)
theorem dX0_divisor_17 : decode cX0_divisor 17 = .ok (.lrem, 1) := dk_113 (dk_at dksX0_divisor_0 17 rfl rfl)
theorem dX0_divisor_18 : decode cX0_divisor 18 = .ok (.lstore 8, 2) := dk_55 8 (dk_at dksX0_divisor_0 18 rfl rfl)
theorem dX0_divisor_20 : decode cX0_divisor 20 = .ok (.lload 6, 2) := dk_22 6 (dk_at dksX0_divisor_0 20 rfl rfl)
theorem dX0_divisor_22 : decode cX0_divisor 22 = .ok (.lstore 4, 2) := dk_55 4 (dk_at dksX0_divisor_0 22 rfl rfl)
theorem dX0_divisor_24 : decode cX0_divisor 24 = .ok (.lload 8, 2) := dk_22 8 (dk_at dksX0_divisor_1 0 rfl rfl)
theorem dX0_divisor_26 : decode cX0_divisor 26 = .ok (.lstore 6, 2) := dk_55 6 (dk_at dksX0_divisor_1 2 rfl rfl)
theorem dX0_divisor_28 : decode cX0_divisor 28 = .ok (.goto (-22), 3) := dk_167 255 234 (dk_at dksX0_divisor_1 4 rfl rfl)
theorem dX0_divisor_31 : decode cX0_divisor 31 = .ok (.lload 4, 2) := dk_22 4 (dk_at dksX0_divisor_1 7 rfl rfl)
theorem dX0_divisor_33 : decode cX0_divisor 33 = .ok (.lreturn, 1) := dk_173 (dk_at dksX0_divisor_1 9 rfl rfl)
abbrev cX0_mean : ByteArray := prog_1_method_58_code
def yX0_mean : MethodName := ⟨RX0, "mean", "(I)J"⟩
def dkwX0_mean_2 : List UInt8 := [180, 0, 17, 180, 0, 245, 133, 27, 184, 1, 200, 167, 0, 6, 20, 1, 198, 173]
abbrev dktX0_mean_2 : List UInt8 := dkwX0_mean_2 ++ []
def dkwX0_mean_1 : List UInt8 := [158, 0, 7, 4, 167, 0, 4, 3, 84, 184, 0, 82, 153, 0, 26, 42, 180, 0, 17, 180, 1, 2, 133, 42]
abbrev dktX0_mean_1 : List UInt8 := dkwX0_mean_1 ++ dktX0_mean_2
def dkwX0_mean_0 : List UInt8 := [5, 188, 4, 89, 3, 27, 133, 9, 10, 184, 0, 74, 84, 89, 4, 42, 180, 0, 17, 180, 0, 245]
abbrev dktX0_mean_0 : List UInt8 := dkwX0_mean_0 ++ dktX0_mean_1
theorem dksX0_mean_0 : cX0_mean.data.toList.drop 0 = dktX0_mean_0 := by decide +kernel
theorem dksX0_mean_1 : cX0_mean.data.toList.drop 22 = dktX0_mean_1 := dk_seg dksX0_mean_0 22 rfl rfl
theorem dksX0_mean_2 : cX0_mean.data.toList.drop 46 = dktX0_mean_2 := dk_seg dksX0_mean_1 24 rfl rfl
theorem dX0_mean_0 : decode cX0_mean 0 = .ok (.iconst 2, 1) := dk_5 (dk_at dksX0_mean_0 0 rfl rfl)
theorem dX0_mean_1 : decode cX0_mean 1 = .ok (.newarray .boolean, 2) := dk_188_4 (dk_at dksX0_mean_0 1 rfl rfl)
theorem dX0_mean_3 : decode cX0_mean 3 = .ok (.dup, 1) := dk_89 (dk_at dksX0_mean_0 3 rfl rfl)
theorem dX0_mean_4 : decode cX0_mean 4 = .ok (.iconst 0, 1) := dk_3 (dk_at dksX0_mean_0 4 rfl rfl)
theorem dX0_mean_5 : decode cX0_mean 5 = .ok (.iload_n 1, 1) := dk_27 (dk_at dksX0_mean_0 5 rfl rfl)
theorem dX0_mean_6 : decode cX0_mean 6 = .ok (.i2l, 1) := dk_133 (dk_at dksX0_mean_0 6 rfl rfl)
theorem dX0_mean_7 : decode cX0_mean 7 = .ok (.lconst 0, 1) := dk_9 (dk_at dksX0_mean_0 7 rfl rfl)
theorem dX0_mean_8 : decode cX0_mean 8 = .ok (.lconst 1, 1) := dk_10 (dk_at dksX0_mean_0 8 rfl rfl)
theorem dX0_mean_9 : decode cX0_mean 9 = .ok (.invokestatic 74, 3) := dk_184 0 74 (dk_at dksX0_mean_0 9 rfl rfl)
theorem dX0_mean_12 : decode cX0_mean 12 = .ok (.bastore, 1) := dk_84 (dk_at dksX0_mean_0 12 rfl rfl)
theorem dX0_mean_13 : decode cX0_mean 13 = .ok (.dup, 1) := dk_89 (dk_at dksX0_mean_0 13 rfl rfl)
theorem dX0_mean_14 : decode cX0_mean 14 = .ok (.iconst 1, 1) := dk_4 (dk_at dksX0_mean_0 14 rfl rfl)
theorem dX0_mean_15 : decode cX0_mean 15 = .ok (.aload_n 0, 1) := dk_42 (dk_at dksX0_mean_0 15 rfl rfl)
theorem dX0_mean_16 : decode cX0_mean 16 = .ok (.getfield 17, 3) := dk_180 0 17 (dk_at dksX0_mean_0 16 rfl rfl)
theorem dX0_mean_19 : decode cX0_mean 19 = .ok (.getfield 245, 3) := dk_180 0 245 (dk_at dksX0_mean_0 19 rfl rfl)
theorem dX0_mean_22 : decode cX0_mean 22 = .ok (.ifCond .le 7, 3) := dk_158 0 7 (dk_at dksX0_mean_1 0 rfl rfl)
theorem dX0_mean_25 : decode cX0_mean 25 = .ok (.iconst 1, 1) := dk_4 (dk_at dksX0_mean_1 3 rfl rfl)
theorem dX0_mean_26 : decode cX0_mean 26 = .ok (.goto 4, 3) := dk_167 0 4 (dk_at dksX0_mean_1 4 rfl rfl)
theorem dX0_mean_29 : decode cX0_mean 29 = .ok (.iconst 0, 1) := dk_3 (dk_at dksX0_mean_1 7 rfl rfl)
theorem dX0_mean_30 : decode cX0_mean 30 = .ok (.bastore, 1) := dk_84 (dk_at dksX0_mean_1 8 rfl rfl)
theorem dX0_mean_31 : decode cX0_mean 31 = .ok (.invokestatic 82, 3) := dk_184 0 82 (dk_at dksX0_mean_1 9 rfl rfl)
theorem dX0_mean_34 : decode cX0_mean 34 = .ok (.ifCond .eq 26, 3) := dk_153 0 26 (dk_at dksX0_mean_1 12 rfl rfl)
theorem dX0_mean_37 : decode cX0_mean 37 = .ok (.aload_n 0, 1) := dk_42 (dk_at dksX0_mean_1 15 rfl rfl)
theorem dX0_mean_38 : decode cX0_mean 38 = .ok (.getfield 17, 3) := dk_180 0 17 (dk_at dksX0_mean_1 16 rfl rfl)
theorem dX0_mean_41 : decode cX0_mean 41 = .ok (.getfield 258, 3) := dk_180 1 2 (dk_at dksX0_mean_1 19 rfl rfl)
theorem dX0_mean_44 : decode cX0_mean 44 = .ok (.i2l, 1) := dk_133 (dk_at dksX0_mean_1 22 rfl rfl)
theorem dX0_mean_45 : decode cX0_mean 45 = .ok (.aload_n 0, 1) := dk_42 (dk_at dksX0_mean_1 23 rfl rfl)
theorem dX0_mean_46 : decode cX0_mean 46 = .ok (.getfield 17, 3) := dk_180 0 17 (dk_at dksX0_mean_2 0 rfl rfl)
theorem dX0_mean_49 : decode cX0_mean 49 = .ok (.getfield 245, 3) := dk_180 0 245 (dk_at dksX0_mean_2 3 rfl rfl)
theorem dX0_mean_52 : decode cX0_mean 52 = .ok (.i2l, 1) := dk_133 (dk_at dksX0_mean_2 6 rfl rfl)
theorem dX0_mean_53 : decode cX0_mean 53 = .ok (.iload_n 1, 1) := dk_27 (dk_at dksX0_mean_2 7 rfl rfl)
theorem dX0_mean_54 : decode cX0_mean 54 = .ok (.invokestatic 456, 3) := dk_184 1 200 (dk_at dksX0_mean_2 8 rfl rfl)
theorem dX0_mean_57 : decode cX0_mean 57 = .ok (.goto 6, 3) := dk_167 0 6 (dk_at dksX0_mean_2 11 rfl rfl)
theorem dX0_mean_60 : decode cX0_mean 60 = .ok (.ldc2_w 454, 3) := dk_20 1 198 (dk_at dksX0_mean_2 14 rfl rfl)
theorem dX0_mean_63 : decode cX0_mean 63 = .ok (.lreturn, 1) := dk_173 (dk_at dksX0_mean_2 17 rfl rfl)
abbrev cX0_plan : ByteArray := prog_1_method_59_code
def yX0_plan : MethodName := ⟨RX0, "plan", "(II)I"⟩
def dkwX0_plan_5 : List UInt8 := [180, 1, 204, 4, 96, 181, 1, 204, 42, 180, 0, 17, 180, 1, 204, 172]
abbrev dktX0_plan_5 : List UInt8 := dkwX0_plan_5 ++ []
def dkwX0_plan_4 : List UInt8 := [180, 0, 17, 180, 1, 209, 5, 42, 180, 0, 17, 180, 1, 204, 104, 4, 96, 28, 79, 42, 180, 0, 17, 89]
abbrev dktX0_plan_4 : List UInt8 := dkwX0_plan_4 ++ dktX0_plan_5
def dkwX0_plan_3 : List UInt8 := [16, 252, 172, 42, 180, 0, 17, 180, 1, 209, 5, 42, 180, 0, 17, 180, 1, 204, 104, 27, 79, 42]
abbrev dktX0_plan_3 : List UInt8 := dkwX0_plan_3 ++ dktX0_plan_4
def dkwX0_plan_2 : List UInt8 := [20, 1, 207, 184, 0, 74, 154, 0, 6, 16, 254, 172, 42, 180, 0, 17, 180, 1, 204, 16, 8, 160, 0, 6]
abbrev dktX0_plan_2 : List UInt8 := dkwX0_plan_2 ++ dktX0_plan_3
def dkwX0_plan_1 : List UInt8 := [154, 0, 5, 2, 172, 27, 5, 159, 0, 28, 28, 133, 9, 27, 154, 0, 9, 20, 0, 144, 167, 0, 6]
abbrev dktX0_plan_1 : List UInt8 := dkwX0_plan_1 ++ dktX0_plan_2
def dkwX0_plan_0 : List UInt8 := [27, 2, 160, 0, 13, 42, 180, 0, 17, 3, 181, 1, 204, 3, 172, 27, 133, 9, 20, 0, 78, 184, 0, 74]
abbrev dktX0_plan_0 : List UInt8 := dkwX0_plan_0 ++ dktX0_plan_1
theorem dksX0_plan_0 : cX0_plan.data.toList.drop 0 = dktX0_plan_0 := by decide +kernel
theorem dksX0_plan_1 : cX0_plan.data.toList.drop 24 = dktX0_plan_1 := dk_seg dksX0_plan_0 24 rfl rfl
theorem dksX0_plan_2 : cX0_plan.data.toList.drop 47 = dktX0_plan_2 := dk_seg dksX0_plan_1 23 rfl rfl
theorem dksX0_plan_3 : cX0_plan.data.toList.drop 71 = dktX0_plan_3 := dk_seg dksX0_plan_2 24 rfl rfl
theorem dksX0_plan_4 : cX0_plan.data.toList.drop 93 = dktX0_plan_4 := dk_seg dksX0_plan_3 22 rfl rfl
theorem dksX0_plan_5 : cX0_plan.data.toList.drop 117 = dktX0_plan_5 := dk_seg dksX0_plan_4 24 rfl rfl
theorem dX0_plan_0 : decode cX0_plan 0 = .ok (.iload_n 1, 1) := dk_27 (dk_at dksX0_plan_0 0 rfl rfl)
theorem dX0_plan_1 : decode cX0_plan 1 = .ok (.iconst (-1), 1) := dk_2 (dk_at dksX0_plan_0 1 rfl rfl)
theorem dX0_plan_2 : decode cX0_plan 2 = .ok (.if_icmp .ne 13, 3) := dk_160 0 13 (dk_at dksX0_plan_0 2 rfl rfl)
theorem dX0_plan_5 : decode cX0_plan 5 = .ok (.aload_n 0, 1) := dk_42 (dk_at dksX0_plan_0 5 rfl rfl)
theorem dX0_plan_6 : decode cX0_plan 6 = .ok (.getfield 17, 3) := dk_180 0 17 (dk_at dksX0_plan_0 6 rfl rfl)
theorem dX0_plan_9 : decode cX0_plan 9 = .ok (.iconst 0, 1) := dk_3 (dk_at dksX0_plan_0 9 rfl rfl)
theorem dX0_plan_10 : decode cX0_plan 10 = .ok (.putfield 460, 3) := dk_181 1 204 (dk_at dksX0_plan_0 10 rfl rfl)
theorem dX0_plan_13 : decode cX0_plan 13 = .ok (.iconst 0, 1) := dk_3 (dk_at dksX0_plan_0 13 rfl rfl)
theorem dX0_plan_14 : decode cX0_plan 14 = .ok (.ireturn, 1) := dk_172 (dk_at dksX0_plan_0 14 rfl rfl)
theorem dX0_plan_15 : decode cX0_plan 15 = .ok (.iload_n 1, 1) := dk_27 (dk_at dksX0_plan_0 15 rfl rfl)
theorem dX0_plan_16 : decode cX0_plan 16 = .ok (.i2l, 1) := dk_133 (dk_at dksX0_plan_0 16 rfl rfl)
theorem dX0_plan_17 : decode cX0_plan 17 = .ok (.lconst 0, 1) := dk_9 (dk_at dksX0_plan_0 17 rfl rfl)
theorem dX0_plan_18 : decode cX0_plan 18 = .ok (.ldc2_w 78, 3) := dk_20 0 78 (dk_at dksX0_plan_0 18 rfl rfl)
theorem dX0_plan_21 : decode cX0_plan 21 = .ok (.invokestatic 74, 3) := dk_184 0 74 (dk_at dksX0_plan_0 21 rfl rfl)
theorem dX0_plan_24 : decode cX0_plan 24 = .ok (.ifCond .ne 5, 3) := dk_154 0 5 (dk_at dksX0_plan_1 0 rfl rfl)
theorem dX0_plan_27 : decode cX0_plan 27 = .ok (.iconst (-1), 1) := dk_2 (dk_at dksX0_plan_1 3 rfl rfl)
theorem dX0_plan_28 : decode cX0_plan 28 = .ok (.ireturn, 1) := dk_172 (dk_at dksX0_plan_1 4 rfl rfl)
theorem dX0_plan_29 : decode cX0_plan 29 = .ok (.iload_n 1, 1) := dk_27 (dk_at dksX0_plan_1 5 rfl rfl)
theorem dX0_plan_30 : decode cX0_plan 30 = .ok (.iconst 2, 1) := dk_5 (dk_at dksX0_plan_1 6 rfl rfl)
theorem dX0_plan_31 : decode cX0_plan 31 = .ok (.if_icmp .eq 28, 3) := dk_159 0 28 (dk_at dksX0_plan_1 7 rfl rfl)
theorem dX0_plan_34 : decode cX0_plan 34 = .ok (.iload_n 2, 1) := dk_28 (dk_at dksX0_plan_1 10 rfl rfl)
theorem dX0_plan_35 : decode cX0_plan 35 = .ok (.i2l, 1) := dk_133 (dk_at dksX0_plan_1 11 rfl rfl)
theorem dX0_plan_36 : decode cX0_plan 36 = .ok (.lconst 0, 1) := dk_9 (dk_at dksX0_plan_1 12 rfl rfl)
theorem dX0_plan_37 : decode cX0_plan 37 = .ok (.iload_n 1, 1) := dk_27 (dk_at dksX0_plan_1 13 rfl rfl)
theorem dX0_plan_38 : decode cX0_plan 38 = .ok (.ifCond .ne 9, 3) := dk_154 0 9 (dk_at dksX0_plan_1 14 rfl rfl)
theorem dX0_plan_41 : decode cX0_plan 41 = .ok (.ldc2_w 144, 3) := dk_20 0 144 (dk_at dksX0_plan_1 17 rfl rfl)
theorem dX0_plan_44 : decode cX0_plan 44 = .ok (.goto 6, 3) := dk_167 0 6 (dk_at dksX0_plan_1 20 rfl rfl)
theorem dX0_plan_47 : decode cX0_plan 47 = .ok (.ldc2_w 463, 3) := dk_20 1 207 (dk_at dksX0_plan_2 0 rfl rfl)
theorem dX0_plan_50 : decode cX0_plan 50 = .ok (.invokestatic 74, 3) := dk_184 0 74 (dk_at dksX0_plan_2 3 rfl rfl)
theorem dX0_plan_53 : decode cX0_plan 53 = .ok (.ifCond .ne 6, 3) := dk_154 0 6 (dk_at dksX0_plan_2 6 rfl rfl)
theorem dX0_plan_56 : decode cX0_plan 56 = .ok (.bipush (-2), 2) := dk_16 254 (dk_at dksX0_plan_2 9 rfl rfl)
theorem dX0_plan_58 : decode cX0_plan 58 = .ok (.ireturn, 1) := dk_172 (dk_at dksX0_plan_2 11 rfl rfl)
theorem dX0_plan_59 : decode cX0_plan 59 = .ok (.aload_n 0, 1) := dk_42 (dk_at dksX0_plan_2 12 rfl rfl)
theorem dX0_plan_60 : decode cX0_plan 60 = .ok (.getfield 17, 3) := dk_180 0 17 (dk_at dksX0_plan_2 13 rfl rfl)
theorem dX0_plan_63 : decode cX0_plan 63 = .ok (.getfield 460, 3) := dk_180 1 204 (dk_at dksX0_plan_2 16 rfl rfl)
theorem dX0_plan_66 : decode cX0_plan 66 = .ok (.bipush 8, 2) := dk_16 8 (dk_at dksX0_plan_2 19 rfl rfl)
theorem dX0_plan_68 : decode cX0_plan 68 = .ok (.if_icmp .ne 6, 3) := dk_160 0 6 (dk_at dksX0_plan_2 21 rfl rfl)
theorem dX0_plan_71 : decode cX0_plan 71 = .ok (.bipush (-4), 2) := dk_16 252 (dk_at dksX0_plan_3 0 rfl rfl)
theorem dX0_plan_73 : decode cX0_plan 73 = .ok (.ireturn, 1) := dk_172 (dk_at dksX0_plan_3 2 rfl rfl)
theorem dX0_plan_74 : decode cX0_plan 74 = .ok (.aload_n 0, 1) := dk_42 (dk_at dksX0_plan_3 3 rfl rfl)
theorem dX0_plan_75 : decode cX0_plan 75 = .ok (.getfield 17, 3) := dk_180 0 17 (dk_at dksX0_plan_3 4 rfl rfl)
theorem dX0_plan_78 : decode cX0_plan 78 = .ok (.getfield 465, 3) := dk_180 1 209 (dk_at dksX0_plan_3 7 rfl rfl)
theorem dX0_plan_81 : decode cX0_plan 81 = .ok (.iconst 2, 1) := dk_5 (dk_at dksX0_plan_3 10 rfl rfl)
theorem dX0_plan_82 : decode cX0_plan 82 = .ok (.aload_n 0, 1) := dk_42 (dk_at dksX0_plan_3 11 rfl rfl)
theorem dX0_plan_83 : decode cX0_plan 83 = .ok (.getfield 17, 3) := dk_180 0 17 (dk_at dksX0_plan_3 12 rfl rfl)
theorem dX0_plan_86 : decode cX0_plan 86 = .ok (.getfield 460, 3) := dk_180 1 204 (dk_at dksX0_plan_3 15 rfl rfl)
theorem dX0_plan_89 : decode cX0_plan 89 = .ok (.imul, 1) := dk_104 (dk_at dksX0_plan_3 18 rfl rfl)
theorem dX0_plan_90 : decode cX0_plan 90 = .ok (.iload_n 1, 1) := dk_27 (dk_at dksX0_plan_3 19 rfl rfl)
theorem dX0_plan_91 : decode cX0_plan 91 = .ok (.iastore, 1) := dk_79 (dk_at dksX0_plan_3 20 rfl rfl)
theorem dX0_plan_92 : decode cX0_plan 92 = .ok (.aload_n 0, 1) := dk_42 (dk_at dksX0_plan_3 21 rfl rfl)
theorem dX0_plan_93 : decode cX0_plan 93 = .ok (.getfield 17, 3) := dk_180 0 17 (dk_at dksX0_plan_4 0 rfl rfl)
theorem dX0_plan_96 : decode cX0_plan 96 = .ok (.getfield 465, 3) := dk_180 1 209 (dk_at dksX0_plan_4 3 rfl rfl)
theorem dX0_plan_99 : decode cX0_plan 99 = .ok (.iconst 2, 1) := dk_5 (dk_at dksX0_plan_4 6 rfl rfl)
theorem dX0_plan_100 : decode cX0_plan 100 = .ok (.aload_n 0, 1) := dk_42 (dk_at dksX0_plan_4 7 rfl rfl)
theorem dX0_plan_101 : decode cX0_plan 101 = .ok (.getfield 17, 3) := dk_180 0 17 (dk_at dksX0_plan_4 8 rfl rfl)
theorem dX0_plan_104 : decode cX0_plan 104 = .ok (.getfield 460, 3) := dk_180 1 204 (dk_at dksX0_plan_4 11 rfl rfl)
theorem dX0_plan_107 : decode cX0_plan 107 = .ok (.imul, 1) := dk_104 (dk_at dksX0_plan_4 14 rfl rfl)
theorem dX0_plan_108 : decode cX0_plan 108 = .ok (.iconst 1, 1) := dk_4 (dk_at dksX0_plan_4 15 rfl rfl)
theorem dX0_plan_109 : decode cX0_plan 109 = .ok (.iadd, 1) := dk_96 (dk_at dksX0_plan_4 16 rfl rfl)
theorem dX0_plan_110 : decode cX0_plan 110 = .ok (.iload_n 2, 1) := dk_28 (dk_at dksX0_plan_4 17 rfl rfl)
theorem dX0_plan_111 : decode cX0_plan 111 = .ok (.iastore, 1) := dk_79 (dk_at dksX0_plan_4 18 rfl rfl)
theorem dX0_plan_112 : decode cX0_plan 112 = .ok (.aload_n 0, 1) := dk_42 (dk_at dksX0_plan_4 19 rfl rfl)
theorem dX0_plan_113 : decode cX0_plan 113 = .ok (.getfield 17, 3) := dk_180 0 17 (dk_at dksX0_plan_4 20 rfl rfl)
theorem dX0_plan_116 : decode cX0_plan 116 = .ok (.dup, 1) := dk_89 (dk_at dksX0_plan_4 23 rfl rfl)
theorem dX0_plan_117 : decode cX0_plan 117 = .ok (.getfield 460, 3) := dk_180 1 204 (dk_at dksX0_plan_5 0 rfl rfl)
theorem dX0_plan_120 : decode cX0_plan 120 = .ok (.iconst 1, 1) := dk_4 (dk_at dksX0_plan_5 3 rfl rfl)
theorem dX0_plan_121 : decode cX0_plan 121 = .ok (.iadd, 1) := dk_96 (dk_at dksX0_plan_5 4 rfl rfl)
theorem dX0_plan_122 : decode cX0_plan 122 = .ok (.putfield 460, 3) := dk_181 1 204 (dk_at dksX0_plan_5 5 rfl rfl)
theorem dX0_plan_125 : decode cX0_plan 125 = .ok (.aload_n 0, 1) := dk_42 (dk_at dksX0_plan_5 8 rfl rfl)
theorem dX0_plan_126 : decode cX0_plan 126 = .ok (.getfield 17, 3) := dk_180 0 17 (dk_at dksX0_plan_5 9 rfl rfl)
theorem dX0_plan_129 : decode cX0_plan 129 = .ok (.getfield 460, 3) := dk_180 1 204 (dk_at dksX0_plan_5 12 rfl rfl)
theorem dX0_plan_132 : decode cX0_plan 132 = .ok (.ireturn, 1) := dk_172 (dk_at dksX0_plan_5 15 rfl rfl)
abbrev cX0_ends : ByteArray := prog_1_method_61_code
def yX0_ends : MethodName := ⟨RX0, "ends", "(I)I"⟩
def dkwX0_ends_6 : List UInt8 := [167, 255, 211, 27, 154, 0, 10, 45, 180, 1, 2, 167, 0, 7, 45, 180, 0, 245, 172]
abbrev dktX0_ends_6 : List UInt8 := dkwX0_ends_6 ++ []
def dkwX0_ends_5 : List UInt8 := [21, 4, 104, 46, 42, 180, 0, 17, 180, 1, 209, 5, 21, 4, 104, 4, 96, 46, 184, 1, 212, 132, 4, 1]
abbrev dktX0_ends_5 : List UInt8 := dkwX0_ends_5 ++ dktX0_ends_6
def dkwX0_ends_4 : List UInt8 := [3, 54, 4, 21, 4, 42, 180, 0, 17, 180, 1, 204, 162, 0, 39, 45, 42, 180, 0, 17, 180, 1, 209, 5]
abbrev dktX0_ends_4 : List UInt8 := dkwX0_ends_4 ++ dktX0_ends_5
def dkwX0_ends_3 : List UInt8 := [96, 61, 132, 3, 1, 167, 255, 208, 42, 28, 182, 0, 242, 154, 0, 6, 16, 252, 172, 42, 182, 1, 169, 78]
abbrev dktX0_ends_3 : List UInt8 := dkwX0_ends_3 ++ dktX0_ends_4
def dkwX0_ends_2 : List UInt8 := [5, 29, 104, 46, 154, 0, 19, 42, 180, 0, 17, 180, 1, 209, 5, 29, 104, 4, 96, 46, 167, 0, 4, 3]
abbrev dktX0_ends_2 : List UInt8 := dkwX0_ends_2 ++ dktX0_ends_3
def dkwX0_ends_1 : List UInt8 := [172, 3, 61, 3, 62, 29, 42, 180, 0, 17, 180, 1, 204, 162, 0, 43, 28, 42, 180, 0, 17, 180, 1, 209]
abbrev dktX0_ends_1 : List UInt8 := dkwX0_ends_1 ++ dktX0_ends_2
def dkwX0_ends_0 : List UInt8 := [27, 133, 9, 10, 184, 0, 74, 154, 0, 5, 2, 172, 42, 180, 0, 17, 180, 0, 86, 154, 0, 6, 16, 253]
abbrev dktX0_ends_0 : List UInt8 := dkwX0_ends_0 ++ dktX0_ends_1
theorem dksX0_ends_0 : cX0_ends.data.toList.drop 0 = dktX0_ends_0 := by decide +kernel
theorem dksX0_ends_1 : cX0_ends.data.toList.drop 24 = dktX0_ends_1 := dk_seg dksX0_ends_0 24 rfl rfl
theorem dksX0_ends_2 : cX0_ends.data.toList.drop 48 = dktX0_ends_2 := dk_seg dksX0_ends_1 24 rfl rfl
theorem dksX0_ends_3 : cX0_ends.data.toList.drop 72 = dktX0_ends_3 := dk_seg dksX0_ends_2 24 rfl rfl
theorem dksX0_ends_4 : cX0_ends.data.toList.drop 96 = dktX0_ends_4 := dk_seg dksX0_ends_3 24 rfl rfl
theorem dksX0_ends_5 : cX0_ends.data.toList.drop 120 = dktX0_ends_5 := dk_seg dksX0_ends_4 24 rfl rfl
theorem dksX0_ends_6 : cX0_ends.data.toList.drop 144 = dktX0_ends_6 := dk_seg dksX0_ends_5 24 rfl rfl
theorem dX0_ends_0 : decode cX0_ends 0 = .ok (.iload_n 1, 1) := dk_27 (dk_at dksX0_ends_0 0 rfl rfl)
theorem dX0_ends_1 : decode cX0_ends 1 = .ok (.i2l, 1) := dk_133 (dk_at dksX0_ends_0 1 rfl rfl)
theorem dX0_ends_2 : decode cX0_ends 2 = .ok (.lconst 0, 1) := dk_9 (dk_at dksX0_ends_0 2 rfl rfl)
theorem dX0_ends_3 : decode cX0_ends 3 = .ok (.lconst 1, 1) := dk_10 (dk_at dksX0_ends_0 3 rfl rfl)
theorem dX0_ends_4 : decode cX0_ends 4 = .ok (.invokestatic 74, 3) := dk_184 0 74 (dk_at dksX0_ends_0 4 rfl rfl)
theorem dX0_ends_7 : decode cX0_ends 7 = .ok (.ifCond .ne 5, 3) := dk_154 0 5 (dk_at dksX0_ends_0 7 rfl rfl)
theorem dX0_ends_10 : decode cX0_ends 10 = .ok (.iconst (-1), 1) := dk_2 (dk_at dksX0_ends_0 10 rfl rfl)
theorem dX0_ends_11 : decode cX0_ends 11 = .ok (.ireturn, 1) := dk_172 (dk_at dksX0_ends_0 11 rfl rfl)
theorem dX0_ends_12 : decode cX0_ends 12 = .ok (.aload_n 0, 1) := dk_42 (dk_at dksX0_ends_0 12 rfl rfl)
theorem dX0_ends_13 : decode cX0_ends 13 = .ok (.getfield 17, 3) := dk_180 0 17 (dk_at dksX0_ends_0 13 rfl rfl)
theorem dX0_ends_16 : decode cX0_ends 16 = .ok (.getfield 86, 3) := dk_180 0 86 (dk_at dksX0_ends_0 16 rfl rfl)
theorem dX0_ends_19 : decode cX0_ends 19 = .ok (.ifCond .ne 6, 3) := dk_154 0 6 (dk_at dksX0_ends_0 19 rfl rfl)
theorem dX0_ends_22 : decode cX0_ends 22 = .ok (.bipush (-3), 2) := dk_16 253 (dk_at dksX0_ends_0 22 rfl rfl)
theorem dX0_ends_24 : decode cX0_ends 24 = .ok (.ireturn, 1) := dk_172 (dk_at dksX0_ends_1 0 rfl rfl)
theorem dX0_ends_25 : decode cX0_ends 25 = .ok (.iconst 0, 1) := dk_3 (dk_at dksX0_ends_1 1 rfl rfl)
theorem dX0_ends_26 : decode cX0_ends 26 = .ok (.istore_n 2, 1) := dk_61 (dk_at dksX0_ends_1 2 rfl rfl)
theorem dX0_ends_27 : decode cX0_ends 27 = .ok (.iconst 0, 1) := dk_3 (dk_at dksX0_ends_1 3 rfl rfl)
theorem dX0_ends_28 : decode cX0_ends 28 = .ok (.istore_n 3, 1) := dk_62 (dk_at dksX0_ends_1 4 rfl rfl)
theorem dX0_ends_29 : decode cX0_ends 29 = .ok (.iload_n 3, 1) := dk_29 (dk_at dksX0_ends_1 5 rfl rfl)
theorem dX0_ends_30 : decode cX0_ends 30 = .ok (.aload_n 0, 1) := dk_42 (dk_at dksX0_ends_1 6 rfl rfl)
theorem dX0_ends_31 : decode cX0_ends 31 = .ok (.getfield 17, 3) := dk_180 0 17 (dk_at dksX0_ends_1 7 rfl rfl)
theorem dX0_ends_34 : decode cX0_ends 34 = .ok (.getfield 460, 3) := dk_180 1 204 (dk_at dksX0_ends_1 10 rfl rfl)
theorem dX0_ends_37 : decode cX0_ends 37 = .ok (.if_icmp .ge 43, 3) := dk_162 0 43 (dk_at dksX0_ends_1 13 rfl rfl)
theorem dX0_ends_40 : decode cX0_ends 40 = .ok (.iload_n 2, 1) := dk_28 (dk_at dksX0_ends_1 16 rfl rfl)
theorem dX0_ends_41 : decode cX0_ends 41 = .ok (.aload_n 0, 1) := dk_42 (dk_at dksX0_ends_1 17 rfl rfl)
theorem dX0_ends_42 : decode cX0_ends 42 = .ok (.getfield 17, 3) := dk_180 0 17 (dk_at dksX0_ends_1 18 rfl rfl)
theorem dX0_ends_45 : decode cX0_ends 45 = .ok (.getfield 465, 3) := dk_180 1 209 (dk_at dksX0_ends_1 21 rfl rfl)
theorem dX0_ends_48 : decode cX0_ends 48 = .ok (.iconst 2, 1) := dk_5 (dk_at dksX0_ends_2 0 rfl rfl)
theorem dX0_ends_49 : decode cX0_ends 49 = .ok (.iload_n 3, 1) := dk_29 (dk_at dksX0_ends_2 1 rfl rfl)
theorem dX0_ends_50 : decode cX0_ends 50 = .ok (.imul, 1) := dk_104 (dk_at dksX0_ends_2 2 rfl rfl)
theorem dX0_ends_51 : decode cX0_ends 51 = .ok (.iaload, 1) := dk_46 (dk_at dksX0_ends_2 3 rfl rfl)
theorem dX0_ends_52 : decode cX0_ends 52 = .ok (.ifCond .ne 19, 3) := dk_154 0 19 (dk_at dksX0_ends_2 4 rfl rfl)
theorem dX0_ends_55 : decode cX0_ends 55 = .ok (.aload_n 0, 1) := dk_42 (dk_at dksX0_ends_2 7 rfl rfl)
theorem dX0_ends_56 : decode cX0_ends 56 = .ok (.getfield 17, 3) := dk_180 0 17 (dk_at dksX0_ends_2 8 rfl rfl)
theorem dX0_ends_59 : decode cX0_ends 59 = .ok (.getfield 465, 3) := dk_180 1 209 (dk_at dksX0_ends_2 11 rfl rfl)
theorem dX0_ends_62 : decode cX0_ends 62 = .ok (.iconst 2, 1) := dk_5 (dk_at dksX0_ends_2 14 rfl rfl)
theorem dX0_ends_63 : decode cX0_ends 63 = .ok (.iload_n 3, 1) := dk_29 (dk_at dksX0_ends_2 15 rfl rfl)
theorem dX0_ends_64 : decode cX0_ends 64 = .ok (.imul, 1) := dk_104 (dk_at dksX0_ends_2 16 rfl rfl)
theorem dX0_ends_65 : decode cX0_ends 65 = .ok (.iconst 1, 1) := dk_4 (dk_at dksX0_ends_2 17 rfl rfl)
theorem dX0_ends_66 : decode cX0_ends 66 = .ok (.iadd, 1) := dk_96 (dk_at dksX0_ends_2 18 rfl rfl)
theorem dX0_ends_67 : decode cX0_ends 67 = .ok (.iaload, 1) := dk_46 (dk_at dksX0_ends_2 19 rfl rfl)
theorem dX0_ends_68 : decode cX0_ends 68 = .ok (.goto 4, 3) := dk_167 0 4 (dk_at dksX0_ends_2 20 rfl rfl)
theorem dX0_ends_71 : decode cX0_ends 71 = .ok (.iconst 0, 1) := dk_3 (dk_at dksX0_ends_2 23 rfl rfl)
theorem dX0_ends_72 : decode cX0_ends 72 = .ok (.iadd, 1) := dk_96 (dk_at dksX0_ends_3 0 rfl rfl)
theorem dX0_ends_73 : decode cX0_ends 73 = .ok (.istore_n 2, 1) := dk_61 (dk_at dksX0_ends_3 1 rfl rfl)
theorem dX0_ends_74 : decode cX0_ends 74 = .ok (.iinc 3 1, 3) := dk_132 3 1 (dk_at dksX0_ends_3 2 rfl rfl)
theorem dX0_ends_77 : decode cX0_ends 77 = .ok (.goto (-48), 3) := dk_167 255 208 (dk_at dksX0_ends_3 5 rfl rfl)
theorem dX0_ends_80 : decode cX0_ends 80 = .ok (.aload_n 0, 1) := dk_42 (dk_at dksX0_ends_3 8 rfl rfl)
theorem dX0_ends_81 : decode cX0_ends 81 = .ok (.iload_n 2, 1) := dk_28 (dk_at dksX0_ends_3 9 rfl rfl)
theorem dX0_ends_82 : decode cX0_ends 82 = .ok (.invokevirtual 242, 3) := dk_182 0 242 (dk_at dksX0_ends_3 10 rfl rfl)
theorem dX0_ends_85 : decode cX0_ends 85 = .ok (.ifCond .ne 6, 3) := dk_154 0 6 (dk_at dksX0_ends_3 13 rfl rfl)
theorem dX0_ends_88 : decode cX0_ends 88 = .ok (.bipush (-4), 2) := dk_16 252 (dk_at dksX0_ends_3 16 rfl rfl)
theorem dX0_ends_90 : decode cX0_ends 90 = .ok (.ireturn, 1) := dk_172 (dk_at dksX0_ends_3 18 rfl rfl)
theorem dX0_ends_91 : decode cX0_ends 91 = .ok (.aload_n 0, 1) := dk_42 (dk_at dksX0_ends_3 19 rfl rfl)
theorem dX0_ends_92 : decode cX0_ends 92 = .ok (.invokevirtual 425, 3) := dk_182 1 169 (dk_at dksX0_ends_3 20 rfl rfl)
theorem dX0_ends_95 : decode cX0_ends 95 = .ok (.astore_n 3, 1) := dk_78 (dk_at dksX0_ends_3 23 rfl rfl)
theorem dX0_ends_96 : decode cX0_ends 96 = .ok (.iconst 0, 1) := dk_3 (dk_at dksX0_ends_4 0 rfl rfl)
theorem dX0_ends_97 : decode cX0_ends 97 = .ok (.istore 4, 2) := dk_54 4 (dk_at dksX0_ends_4 1 rfl rfl)
theorem dX0_ends_99 : decode cX0_ends 99 = .ok (.iload 4, 2) := dk_21 4 (dk_at dksX0_ends_4 3 rfl rfl)
theorem dX0_ends_101 : decode cX0_ends 101 = .ok (.aload_n 0, 1) := dk_42 (dk_at dksX0_ends_4 5 rfl rfl)
theorem dX0_ends_102 : decode cX0_ends 102 = .ok (.getfield 17, 3) := dk_180 0 17 (dk_at dksX0_ends_4 6 rfl rfl)
theorem dX0_ends_105 : decode cX0_ends 105 = .ok (.getfield 460, 3) := dk_180 1 204 (dk_at dksX0_ends_4 9 rfl rfl)
theorem dX0_ends_108 : decode cX0_ends 108 = .ok (.if_icmp .ge 39, 3) := dk_162 0 39 (dk_at dksX0_ends_4 12 rfl rfl)
theorem dX0_ends_111 : decode cX0_ends 111 = .ok (.aload_n 3, 1) := dk_45 (dk_at dksX0_ends_4 15 rfl rfl)
theorem dX0_ends_112 : decode cX0_ends 112 = .ok (.aload_n 0, 1) := dk_42 (dk_at dksX0_ends_4 16 rfl rfl)
theorem dX0_ends_113 : decode cX0_ends 113 = .ok (.getfield 17, 3) := dk_180 0 17 (dk_at dksX0_ends_4 17 rfl rfl)
theorem dX0_ends_116 : decode cX0_ends 116 = .ok (.getfield 465, 3) := dk_180 1 209 (dk_at dksX0_ends_4 20 rfl rfl)
theorem dX0_ends_119 : decode cX0_ends 119 = .ok (.iconst 2, 1) := dk_5 (dk_at dksX0_ends_4 23 rfl rfl)
theorem dX0_ends_120 : decode cX0_ends 120 = .ok (.iload 4, 2) := dk_21 4 (dk_at dksX0_ends_5 0 rfl rfl)
theorem dX0_ends_122 : decode cX0_ends 122 = .ok (.imul, 1) := dk_104 (dk_at dksX0_ends_5 2 rfl rfl)
theorem dX0_ends_123 : decode cX0_ends 123 = .ok (.iaload, 1) := dk_46 (dk_at dksX0_ends_5 3 rfl rfl)
theorem dX0_ends_124 : decode cX0_ends 124 = .ok (.aload_n 0, 1) := dk_42 (dk_at dksX0_ends_5 4 rfl rfl)
theorem dX0_ends_125 : decode cX0_ends 125 = .ok (.getfield 17, 3) := dk_180 0 17 (dk_at dksX0_ends_5 5 rfl rfl)
theorem dX0_ends_128 : decode cX0_ends 128 = .ok (.getfield 465, 3) := dk_180 1 209 (dk_at dksX0_ends_5 8 rfl rfl)
theorem dX0_ends_131 : decode cX0_ends 131 = .ok (.iconst 2, 1) := dk_5 (dk_at dksX0_ends_5 11 rfl rfl)
theorem dX0_ends_132 : decode cX0_ends 132 = .ok (.iload 4, 2) := dk_21 4 (dk_at dksX0_ends_5 12 rfl rfl)
theorem dX0_ends_134 : decode cX0_ends 134 = .ok (.imul, 1) := dk_104 (dk_at dksX0_ends_5 14 rfl rfl)
theorem dX0_ends_135 : decode cX0_ends 135 = .ok (.iconst 1, 1) := dk_4 (dk_at dksX0_ends_5 15 rfl rfl)
theorem dX0_ends_136 : decode cX0_ends 136 = .ok (.iadd, 1) := dk_96 (dk_at dksX0_ends_5 16 rfl rfl)
theorem dX0_ends_137 : decode cX0_ends 137 = .ok (.iaload, 1) := dk_46 (dk_at dksX0_ends_5 17 rfl rfl)
theorem dX0_ends_138 : decode cX0_ends 138 = .ok (.invokestatic 468, 3) := dk_184 1 212 (dk_at dksX0_ends_5 18 rfl rfl)
theorem dX0_ends_141 : decode cX0_ends 141 = .ok (.iinc 4 1, 3) := dk_132 4 1 (dk_at dksX0_ends_5 21 rfl rfl)
theorem dX0_ends_144 : decode cX0_ends 144 = .ok (.goto (-45), 3) := dk_167 255 211 (dk_at dksX0_ends_6 0 rfl rfl)
theorem dX0_ends_147 : decode cX0_ends 147 = .ok (.iload_n 1, 1) := dk_27 (dk_at dksX0_ends_6 3 rfl rfl)
theorem dX0_ends_148 : decode cX0_ends 148 = .ok (.ifCond .ne 10, 3) := dk_154 0 10 (dk_at dksX0_ends_6 4 rfl rfl)
theorem dX0_ends_151 : decode cX0_ends 151 = .ok (.aload_n 3, 1) := dk_45 (dk_at dksX0_ends_6 7 rfl rfl)
theorem dX0_ends_152 : decode cX0_ends 152 = .ok (.getfield 258, 3) := dk_180 1 2 (dk_at dksX0_ends_6 8 rfl rfl)
theorem dX0_ends_155 : decode cX0_ends 155 = .ok (.goto 7, 3) := dk_167 0 7 (dk_at dksX0_ends_6 11 rfl rfl)
theorem dX0_ends_158 : decode cX0_ends 158 = .ok (.aload_n 3, 1) := dk_45 (dk_at dksX0_ends_6 14 rfl rfl)
theorem dX0_ends_159 : decode cX0_ends 159 = .ok (.getfield 245, 3) := dk_180 0 245 (dk_at dksX0_ends_6 15 rfl rfl)
theorem dX0_ends_162 : decode cX0_ends 162 = .ok (.ireturn, 1) := dk_172 (dk_at dksX0_ends_6 18 rfl rfl)
abbrev cX0_does : ByteArray := prog_1_method_60_code
def yX0_does : MethodName := ⟨RX0, "does", "(LSafeClears$World;II)V"⟩
def dkwX0_does_3 : List UInt8 := [167, 0, 21, 28, 42, 180, 0, 71, 162, 0, 13, 42, 180, 0, 90, 28, 50, 3, 181, 0, 221, 177]
abbrev dktX0_does_3 : List UInt8 := dkwX0_does_3 ++ []
def dkwX0_does_2 : List UInt8 := [42, 28, 182, 0, 248, 75, 167, 0, 38, 42, 28, 182, 0, 239, 167, 0, 30, 42, 16, 251, 181, 0, 233]
abbrev dktX0_does_2 : List UInt8 := dkwX0_does_2 ++ dktX0_does_3
def dkwX0_does_1 : List UInt8 := [170, 0, 0, 0, 0, 0, 53, 0, 0, 0, 0, 0, 0, 0, 2, 0, 0, 0, 27, 0, 0, 0, 36, 0, 0, 0, 44]
abbrev dktX0_does_1 : List UInt8 := dkwX0_does_1 ++ dktX0_does_2
def dkwX0_does_0 : List UInt8 := [27]
abbrev dktX0_does_0 : List UInt8 := dkwX0_does_0 ++ dktX0_does_1
theorem dksX0_does_0 : cX0_does.data.toList.drop 0 = dktX0_does_0 := by decide +kernel
theorem dksX0_does_1 : cX0_does.data.toList.drop 1 = dktX0_does_1 := dk_seg dksX0_does_0 1 rfl rfl
theorem dksX0_does_2 : cX0_does.data.toList.drop 28 = dktX0_does_2 := dk_seg dksX0_does_1 27 rfl rfl
theorem dksX0_does_3 : cX0_does.data.toList.drop 51 = dktX0_does_3 := dk_seg dksX0_does_2 23 rfl rfl
theorem dX0_does_0 : decode cX0_does 0 = .ok (.iload_n 1, 1) := dk_27 (dk_at dksX0_does_0 0 rfl rfl)
theorem dX0_does_1 : decode cX0_does 1 = .ok (.tableswitch 53 0 2 #[27, 36, 44], 27) := by decide +kernel
theorem dX0_does_28 : decode cX0_does 28 = .ok (.aload_n 0, 1) := dk_42 (dk_at dksX0_does_2 0 rfl rfl)
theorem dX0_does_29 : decode cX0_does 29 = .ok (.iload_n 2, 1) := dk_28 (dk_at dksX0_does_2 1 rfl rfl)
theorem dX0_does_30 : decode cX0_does 30 = .ok (.invokevirtual 248, 3) := dk_182 0 248 (dk_at dksX0_does_2 2 rfl rfl)
theorem dX0_does_33 : decode cX0_does 33 = .ok (.astore_n 0, 1) := dk_75 (dk_at dksX0_does_2 5 rfl rfl)
theorem dX0_does_34 : decode cX0_does 34 = .ok (.goto 38, 3) := dk_167 0 38 (dk_at dksX0_does_2 6 rfl rfl)
theorem dX0_does_37 : decode cX0_does 37 = .ok (.aload_n 0, 1) := dk_42 (dk_at dksX0_does_2 9 rfl rfl)
theorem dX0_does_38 : decode cX0_does 38 = .ok (.iload_n 2, 1) := dk_28 (dk_at dksX0_does_2 10 rfl rfl)
theorem dX0_does_39 : decode cX0_does 39 = .ok (.invokevirtual 239, 3) := dk_182 0 239 (dk_at dksX0_does_2 11 rfl rfl)
theorem dX0_does_42 : decode cX0_does 42 = .ok (.goto 30, 3) := dk_167 0 30 (dk_at dksX0_does_2 14 rfl rfl)
theorem dX0_does_45 : decode cX0_does 45 = .ok (.aload_n 0, 1) := dk_42 (dk_at dksX0_does_2 17 rfl rfl)
theorem dX0_does_46 : decode cX0_does 46 = .ok (.bipush (-5), 2) := dk_16 251 (dk_at dksX0_does_2 18 rfl rfl)
theorem dX0_does_48 : decode cX0_does 48 = .ok (.putfield 233, 3) := dk_181 0 233 (dk_at dksX0_does_2 20 rfl rfl)
theorem dX0_does_51 : decode cX0_does 51 = .ok (.goto 21, 3) := dk_167 0 21 (dk_at dksX0_does_3 0 rfl rfl)
theorem dX0_does_54 : decode cX0_does 54 = .ok (.iload_n 2, 1) := dk_28 (dk_at dksX0_does_3 3 rfl rfl)
theorem dX0_does_55 : decode cX0_does 55 = .ok (.aload_n 0, 1) := dk_42 (dk_at dksX0_does_3 4 rfl rfl)
theorem dX0_does_56 : decode cX0_does 56 = .ok (.getfield 71, 3) := dk_180 0 71 (dk_at dksX0_does_3 5 rfl rfl)
theorem dX0_does_59 : decode cX0_does 59 = .ok (.if_icmp .ge 13, 3) := dk_162 0 13 (dk_at dksX0_does_3 8 rfl rfl)
theorem dX0_does_62 : decode cX0_does 62 = .ok (.aload_n 0, 1) := dk_42 (dk_at dksX0_does_3 11 rfl rfl)
theorem dX0_does_63 : decode cX0_does 63 = .ok (.getfield 90, 3) := dk_180 0 90 (dk_at dksX0_does_3 12 rfl rfl)
theorem dX0_does_66 : decode cX0_does 66 = .ok (.iload_n 2, 1) := dk_28 (dk_at dksX0_does_3 15 rfl rfl)
theorem dX0_does_67 : decode cX0_does 67 = .ok (.aaload, 1) := dk_50 (dk_at dksX0_does_3 16 rfl rfl)
theorem dX0_does_68 : decode cX0_does 68 = .ok (.iconst 0, 1) := dk_3 (dk_at dksX0_does_3 17 rfl rfl)
theorem dX0_does_69 : decode cX0_does 69 = .ok (.putfield 221, 3) := dk_181 0 221 (dk_at dksX0_does_3 18 rfl rfl)
theorem dX0_does_72 : decode cX0_does 72 = .ok (.return_, 1) := dk_177 (dk_at dksX0_does_3 21 rfl rfl)
abbrev cX0_image : ByteArray := prog_1_method_62_code
def yX0_image : MethodName := ⟨RX0, "image", "()I"⟩
def dkwX0_image_0 : List UInt8 := [42, 4, 181, 1, 216, 42, 180, 0, 33, 42, 180, 0, 17, 182, 0, 20, 180, 0, 252, 172]
abbrev dktX0_image_0 : List UInt8 := dkwX0_image_0 ++ []
theorem dksX0_image_0 : cX0_image.data.toList.drop 0 = dktX0_image_0 := by decide +kernel
theorem dX0_image_0 : decode cX0_image 0 = .ok (.aload_n 0, 1) := dk_42 (dk_at dksX0_image_0 0 rfl rfl)
theorem dX0_image_1 : decode cX0_image 1 = .ok (.iconst 1, 1) := dk_4 (dk_at dksX0_image_0 1 rfl rfl)
theorem dX0_image_2 : decode cX0_image 2 = .ok (.putfield 472, 3) := dk_181 1 216 (dk_at dksX0_image_0 2 rfl rfl)
theorem dX0_image_5 : decode cX0_image 5 = .ok (.aload_n 0, 1) := dk_42 (dk_at dksX0_image_0 5 rfl rfl)
theorem dX0_image_6 : decode cX0_image 6 = .ok (.getfield 33, 3) := dk_180 0 33 (dk_at dksX0_image_0 6 rfl rfl)
theorem dX0_image_9 : decode cX0_image 9 = .ok (.aload_n 0, 1) := dk_42 (dk_at dksX0_image_0 9 rfl rfl)
theorem dX0_image_10 : decode cX0_image 10 = .ok (.getfield 17, 3) := dk_180 0 17 (dk_at dksX0_image_0 10 rfl rfl)
theorem dX0_image_13 : decode cX0_image 13 = .ok (.invokevirtual 20, 3) := dk_182 0 20 (dk_at dksX0_image_0 13 rfl rfl)
theorem dX0_image_16 : decode cX0_image 16 = .ok (.getfield 252, 3) := dk_180 0 252 (dk_at dksX0_image_0 16 rfl rfl)
theorem dX0_image_19 : decode cX0_image 19 = .ok (.ireturn, 1) := dk_172 (dk_at dksX0_image_0 19 rfl rfl)
abbrev cX0_undo : ByteArray := prog_1_method_63_code
def yX0_undo : MethodName := ⟨RX0, "undo", "()I"⟩
def dkwX0_undo_1 : List UInt8 := [16, 253, 172]
abbrev dktX0_undo_1 : List UInt8 := dkwX0_undo_1 ++ []
def dkwX0_undo_0 : List UInt8 := [42, 180, 1, 216, 153, 0, 20, 42, 180, 0, 17, 42, 180, 0, 33, 182, 0, 20, 180, 0, 252, 167, 0, 5]
abbrev dktX0_undo_0 : List UInt8 := dkwX0_undo_0 ++ dktX0_undo_1
theorem dksX0_undo_0 : cX0_undo.data.toList.drop 0 = dktX0_undo_0 := by decide +kernel
theorem dksX0_undo_1 : cX0_undo.data.toList.drop 24 = dktX0_undo_1 := dk_seg dksX0_undo_0 24 rfl rfl
theorem dX0_undo_0 : decode cX0_undo 0 = .ok (.aload_n 0, 1) := dk_42 (dk_at dksX0_undo_0 0 rfl rfl)
theorem dX0_undo_1 : decode cX0_undo 1 = .ok (.getfield 472, 3) := dk_180 1 216 (dk_at dksX0_undo_0 1 rfl rfl)
theorem dX0_undo_4 : decode cX0_undo 4 = .ok (.ifCond .eq 20, 3) := dk_153 0 20 (dk_at dksX0_undo_0 4 rfl rfl)
theorem dX0_undo_7 : decode cX0_undo 7 = .ok (.aload_n 0, 1) := dk_42 (dk_at dksX0_undo_0 7 rfl rfl)
theorem dX0_undo_8 : decode cX0_undo 8 = .ok (.getfield 17, 3) := dk_180 0 17 (dk_at dksX0_undo_0 8 rfl rfl)
theorem dX0_undo_11 : decode cX0_undo 11 = .ok (.aload_n 0, 1) := dk_42 (dk_at dksX0_undo_0 11 rfl rfl)
theorem dX0_undo_12 : decode cX0_undo 12 = .ok (.getfield 33, 3) := dk_180 0 33 (dk_at dksX0_undo_0 12 rfl rfl)
theorem dX0_undo_15 : decode cX0_undo 15 = .ok (.invokevirtual 20, 3) := dk_182 0 20 (dk_at dksX0_undo_0 15 rfl rfl)
theorem dX0_undo_18 : decode cX0_undo 18 = .ok (.getfield 252, 3) := dk_180 0 252 (dk_at dksX0_undo_0 18 rfl rfl)
theorem dX0_undo_21 : decode cX0_undo 21 = .ok (.goto 5, 3) := dk_167 0 5 (dk_at dksX0_undo_0 21 rfl rfl)
theorem dX0_undo_24 : decode cX0_undo 24 = .ok (.bipush (-3), 2) := dk_16 253 (dk_at dksX0_undo_1 0 rfl rfl)
theorem dX0_undo_26 : decode cX0_undo 26 = .ok (.ireturn, 1) := dk_172 (dk_at dksX0_undo_1 2 rfl rfl)
abbrev cX0_count : ByteArray := prog_1_method_64_code
def yX0_count : MethodName := ⟨RX0, "count", "(I)I"⟩
def dkwX0_count_4 : List UInt8 := [180, 1, 89, 172, 42, 180, 0, 17, 180, 1, 142, 172, 16, 254, 172]
abbrev dktX0_count_4 : List UInt8 := dkwX0_count_4 ++ []
def dkwX0_count_3 : List UInt8 := [180, 0, 17, 180, 1, 119, 172, 42, 180, 0, 17, 180, 1, 145, 172, 42, 180, 0, 9, 172, 42, 180, 0, 17]
abbrev dktX0_count_3 : List UInt8 := dkwX0_count_3 ++ dktX0_count_4
def dkwX0_count_2 : List UInt8 := [42, 180, 0, 155, 172, 42, 180, 0, 17, 180, 1, 179, 172, 42, 180, 0, 17, 180, 1, 204, 172, 42]
abbrev dktX0_count_2 : List UInt8 := dkwX0_count_2 ++ dktX0_count_3
def dkwX0_count_1 : List UInt8 := [170, 0, 0, 0, 0, 0, 105, 0, 0, 0, 0, 0, 0, 0, 7, 0, 0, 0, 47, 0, 0, 0, 52, 0, 0, 0, 60, 0, 0, 0, 68, 0, 0, 0, 76, 0, 0, 0, 84, 0, 0, 0, 89, 0, 0, 0, 97]
abbrev dktX0_count_1 : List UInt8 := dkwX0_count_1 ++ dktX0_count_2
def dkwX0_count_0 : List UInt8 := [27]
abbrev dktX0_count_0 : List UInt8 := dkwX0_count_0 ++ dktX0_count_1
theorem dksX0_count_0 : cX0_count.data.toList.drop 0 = dktX0_count_0 := by decide +kernel
theorem dksX0_count_1 : cX0_count.data.toList.drop 1 = dktX0_count_1 := dk_seg dksX0_count_0 1 rfl rfl
theorem dksX0_count_2 : cX0_count.data.toList.drop 48 = dktX0_count_2 := dk_seg dksX0_count_1 47 rfl rfl
theorem dksX0_count_3 : cX0_count.data.toList.drop 70 = dktX0_count_3 := dk_seg dksX0_count_2 22 rfl rfl
theorem dksX0_count_4 : cX0_count.data.toList.drop 94 = dktX0_count_4 := dk_seg dksX0_count_3 24 rfl rfl
theorem dX0_count_0 : decode cX0_count 0 = .ok (.iload_n 1, 1) := dk_27 (dk_at dksX0_count_0 0 rfl rfl)
theorem dX0_count_1 : decode cX0_count 1 = .ok (.tableswitch 105 0 7 #[47, 52, 60, 68, 76, 84, 89, 97], 47) := by decide +kernel
theorem dX0_count_48 : decode cX0_count 48 = .ok (.aload_n 0, 1) := dk_42 (dk_at dksX0_count_2 0 rfl rfl)
theorem dX0_count_49 : decode cX0_count 49 = .ok (.getfield 155, 3) := dk_180 0 155 (dk_at dksX0_count_2 1 rfl rfl)
theorem dX0_count_52 : decode cX0_count 52 = .ok (.ireturn, 1) := dk_172 (dk_at dksX0_count_2 4 rfl rfl)
theorem dX0_count_53 : decode cX0_count 53 = .ok (.aload_n 0, 1) := dk_42 (dk_at dksX0_count_2 5 rfl rfl)
theorem dX0_count_54 : decode cX0_count 54 = .ok (.getfield 17, 3) := dk_180 0 17 (dk_at dksX0_count_2 6 rfl rfl)
theorem dX0_count_57 : decode cX0_count 57 = .ok (.getfield 435, 3) := dk_180 1 179 (dk_at dksX0_count_2 9 rfl rfl)
theorem dX0_count_60 : decode cX0_count 60 = .ok (.ireturn, 1) := dk_172 (dk_at dksX0_count_2 12 rfl rfl)
theorem dX0_count_61 : decode cX0_count 61 = .ok (.aload_n 0, 1) := dk_42 (dk_at dksX0_count_2 13 rfl rfl)
theorem dX0_count_62 : decode cX0_count 62 = .ok (.getfield 17, 3) := dk_180 0 17 (dk_at dksX0_count_2 14 rfl rfl)
theorem dX0_count_65 : decode cX0_count 65 = .ok (.getfield 460, 3) := dk_180 1 204 (dk_at dksX0_count_2 17 rfl rfl)
theorem dX0_count_68 : decode cX0_count 68 = .ok (.ireturn, 1) := dk_172 (dk_at dksX0_count_2 20 rfl rfl)
theorem dX0_count_69 : decode cX0_count 69 = .ok (.aload_n 0, 1) := dk_42 (dk_at dksX0_count_2 21 rfl rfl)
theorem dX0_count_70 : decode cX0_count 70 = .ok (.getfield 17, 3) := dk_180 0 17 (dk_at dksX0_count_3 0 rfl rfl)
theorem dX0_count_73 : decode cX0_count 73 = .ok (.getfield 375, 3) := dk_180 1 119 (dk_at dksX0_count_3 3 rfl rfl)
theorem dX0_count_76 : decode cX0_count 76 = .ok (.ireturn, 1) := dk_172 (dk_at dksX0_count_3 6 rfl rfl)
theorem dX0_count_77 : decode cX0_count 77 = .ok (.aload_n 0, 1) := dk_42 (dk_at dksX0_count_3 7 rfl rfl)
theorem dX0_count_78 : decode cX0_count 78 = .ok (.getfield 17, 3) := dk_180 0 17 (dk_at dksX0_count_3 8 rfl rfl)
theorem dX0_count_81 : decode cX0_count 81 = .ok (.getfield 401, 3) := dk_180 1 145 (dk_at dksX0_count_3 11 rfl rfl)
theorem dX0_count_84 : decode cX0_count 84 = .ok (.ireturn, 1) := dk_172 (dk_at dksX0_count_3 14 rfl rfl)
theorem dX0_count_85 : decode cX0_count 85 = .ok (.aload_n 0, 1) := dk_42 (dk_at dksX0_count_3 15 rfl rfl)
theorem dX0_count_86 : decode cX0_count 86 = .ok (.getfield 9, 3) := dk_180 0 9 (dk_at dksX0_count_3 16 rfl rfl)
theorem dX0_count_89 : decode cX0_count 89 = .ok (.ireturn, 1) := dk_172 (dk_at dksX0_count_3 19 rfl rfl)
theorem dX0_count_90 : decode cX0_count 90 = .ok (.aload_n 0, 1) := dk_42 (dk_at dksX0_count_3 20 rfl rfl)
theorem dX0_count_91 : decode cX0_count 91 = .ok (.getfield 17, 3) := dk_180 0 17 (dk_at dksX0_count_3 21 rfl rfl)
theorem dX0_count_94 : decode cX0_count 94 = .ok (.getfield 345, 3) := dk_180 1 89 (dk_at dksX0_count_4 0 rfl rfl)
theorem dX0_count_97 : decode cX0_count 97 = .ok (.ireturn, 1) := dk_172 (dk_at dksX0_count_4 3 rfl rfl)
theorem dX0_count_98 : decode cX0_count 98 = .ok (.aload_n 0, 1) := dk_42 (dk_at dksX0_count_4 4 rfl rfl)
theorem dX0_count_99 : decode cX0_count 99 = .ok (.getfield 17, 3) := dk_180 0 17 (dk_at dksX0_count_4 5 rfl rfl)
theorem dX0_count_102 : decode cX0_count 102 = .ok (.getfield 398, 3) := dk_180 1 142 (dk_at dksX0_count_4 8 rfl rfl)
theorem dX0_count_105 : decode cX0_count 105 = .ok (.ireturn, 1) := dk_172 (dk_at dksX0_count_4 11 rfl rfl)
theorem dX0_count_106 : decode cX0_count 106 = .ok (.bipush (-2), 2) := dk_16 254 (dk_at dksX0_count_4 12 rfl rfl)
theorem dX0_count_108 : decode cX0_count 108 = .ok (.ireturn, 1) := dk_172 (dk_at dksX0_count_4 14 rfl rfl)
abbrev cX0_judge : ByteArray := prog_1_method_66_code
def yX0_judge : MethodName := ⟨RX0, "judge", "(II)I"⟩
def dkwX0_judge_4 : List UInt8 := [172]
abbrev dktX0_judge_4 : List UInt8 := dkwX0_judge_4 ++ []
def dkwX0_judge_3 : List UInt8 := [180, 0, 17, 21, 4, 182, 1, 32, 133, 148, 153, 0, 6, 21, 4, 172, 132, 4, 1, 167, 255, 195, 16, 251]
abbrev dktX0_judge_3 : List UInt8 := dkwX0_judge_3 ++ dktX0_judge_4
def dkwX0_judge_2 : List UInt8 := [45, 182, 1, 225, 28, 100, 161, 0, 9, 16, 100, 21, 4, 96, 172, 45, 28, 21, 4, 96, 182, 1, 228, 42]
abbrev dktX0_judge_2 : List UInt8 := dkwX0_judge_2 ++ dktX0_judge_3
def dkwX0_judge_1 : List UInt8 := [16, 244, 172, 3, 54, 4, 21, 4, 42, 180, 0, 17, 180, 0, 71, 162, 0, 55, 28, 155, 0, 14, 21, 4]
abbrev dktX0_judge_1 : List UInt8 := dkwX0_judge_1 ++ dktX0_judge_2
def dkwX0_judge_0 : List UInt8 := [27, 184, 1, 219, 154, 0, 5, 2, 172, 42, 180, 0, 67, 27, 50, 78, 45, 182, 1, 222, 158, 0, 6]
abbrev dktX0_judge_0 : List UInt8 := dkwX0_judge_0 ++ dktX0_judge_1
theorem dksX0_judge_0 : cX0_judge.data.toList.drop 0 = dktX0_judge_0 := by decide +kernel
theorem dksX0_judge_1 : cX0_judge.data.toList.drop 23 = dktX0_judge_1 := dk_seg dksX0_judge_0 23 rfl rfl
theorem dksX0_judge_2 : cX0_judge.data.toList.drop 47 = dktX0_judge_2 := dk_seg dksX0_judge_1 24 rfl rfl
theorem dksX0_judge_3 : cX0_judge.data.toList.drop 71 = dktX0_judge_3 := dk_seg dksX0_judge_2 24 rfl rfl
theorem dksX0_judge_4 : cX0_judge.data.toList.drop 95 = dktX0_judge_4 := dk_seg dksX0_judge_3 24 rfl rfl
theorem dX0_judge_0 : decode cX0_judge 0 = .ok (.iload_n 1, 1) := dk_27 (dk_at dksX0_judge_0 0 rfl rfl)
theorem dX0_judge_1 : decode cX0_judge 1 = .ok (.invokestatic 475, 3) := dk_184 1 219 (dk_at dksX0_judge_0 1 rfl rfl)
theorem dX0_judge_4 : decode cX0_judge 4 = .ok (.ifCond .ne 5, 3) := dk_154 0 5 (dk_at dksX0_judge_0 4 rfl rfl)
theorem dX0_judge_7 : decode cX0_judge 7 = .ok (.iconst (-1), 1) := dk_2 (dk_at dksX0_judge_0 7 rfl rfl)
theorem dX0_judge_8 : decode cX0_judge 8 = .ok (.ireturn, 1) := dk_172 (dk_at dksX0_judge_0 8 rfl rfl)
theorem dX0_judge_9 : decode cX0_judge 9 = .ok (.aload_n 0, 1) := dk_42 (dk_at dksX0_judge_0 9 rfl rfl)
theorem dX0_judge_10 : decode cX0_judge 10 = .ok (.getfield 67, 3) := dk_180 0 67 (dk_at dksX0_judge_0 10 rfl rfl)
theorem dX0_judge_13 : decode cX0_judge 13 = .ok (.iload_n 1, 1) := dk_27 (dk_at dksX0_judge_0 13 rfl rfl)
theorem dX0_judge_14 : decode cX0_judge 14 = .ok (.aaload, 1) := dk_50 (dk_at dksX0_judge_0 14 rfl rfl)
theorem dX0_judge_15 : decode cX0_judge 15 = .ok (.astore_n 3, 1) := dk_78 (dk_at dksX0_judge_0 15 rfl rfl)
theorem dX0_judge_16 : decode cX0_judge 16 = .ok (.aload_n 3, 1) := dk_45 (dk_at dksX0_judge_0 16 rfl rfl)
theorem dX0_judge_17 : decode cX0_judge 17 = .ok (.invokevirtual 478, 3) := dk_182 1 222 (dk_at dksX0_judge_0 17 rfl rfl)
theorem dX0_judge_20 : decode cX0_judge 20 = .ok (.ifCond .le 6, 3) := dk_158 0 6 (dk_at dksX0_judge_0 20 rfl rfl)
theorem dX0_judge_23 : decode cX0_judge 23 = .ok (.bipush (-12), 2) := dk_16 244 (dk_at dksX0_judge_1 0 rfl rfl)
theorem dX0_judge_25 : decode cX0_judge 25 = .ok (.ireturn, 1) := dk_172 (dk_at dksX0_judge_1 2 rfl rfl)
theorem dX0_judge_26 : decode cX0_judge 26 = .ok (.iconst 0, 1) := dk_3 (dk_at dksX0_judge_1 3 rfl rfl)
theorem dX0_judge_27 : decode cX0_judge 27 = .ok (.istore 4, 2) := dk_54 4 (dk_at dksX0_judge_1 4 rfl rfl)
theorem dX0_judge_29 : decode cX0_judge 29 = .ok (.iload 4, 2) := dk_21 4 (dk_at dksX0_judge_1 6 rfl rfl)
theorem dX0_judge_31 : decode cX0_judge 31 = .ok (.aload_n 0, 1) := dk_42 (dk_at dksX0_judge_1 8 rfl rfl)
theorem dX0_judge_32 : decode cX0_judge 32 = .ok (.getfield 17, 3) := dk_180 0 17 (dk_at dksX0_judge_1 9 rfl rfl)
theorem dX0_judge_35 : decode cX0_judge 35 = .ok (.getfield 71, 3) := dk_180 0 71 (dk_at dksX0_judge_1 12 rfl rfl)
theorem dX0_judge_38 : decode cX0_judge 38 = .ok (.if_icmp .ge 55, 3) := dk_162 0 55 (dk_at dksX0_judge_1 15 rfl rfl)
theorem dX0_judge_41 : decode cX0_judge 41 = .ok (.iload_n 2, 1) := dk_28 (dk_at dksX0_judge_1 18 rfl rfl)
theorem dX0_judge_42 : decode cX0_judge 42 = .ok (.ifCond .lt 14, 3) := dk_155 0 14 (dk_at dksX0_judge_1 19 rfl rfl)
theorem dX0_judge_45 : decode cX0_judge 45 = .ok (.iload 4, 2) := dk_21 4 (dk_at dksX0_judge_1 22 rfl rfl)
theorem dX0_judge_47 : decode cX0_judge 47 = .ok (.aload_n 3, 1) := dk_45 (dk_at dksX0_judge_2 0 rfl rfl)
theorem dX0_judge_48 : decode cX0_judge 48 = .ok (.invokevirtual 481, 3) := dk_182 1 225 (dk_at dksX0_judge_2 1 rfl rfl)
theorem dX0_judge_51 : decode cX0_judge 51 = .ok (.iload_n 2, 1) := dk_28 (dk_at dksX0_judge_2 4 rfl rfl)
theorem dX0_judge_52 : decode cX0_judge 52 = .ok (.isub, 1) := dk_100 (dk_at dksX0_judge_2 5 rfl rfl)
theorem dX0_judge_53 : decode cX0_judge 53 = .ok (.if_icmp .lt 9, 3) := dk_161 0 9 (dk_at dksX0_judge_2 6 rfl rfl)
theorem dX0_judge_56 : decode cX0_judge 56 = .ok (.bipush 100, 2) := dk_16 100 (dk_at dksX0_judge_2 9 rfl rfl)
theorem dX0_judge_58 : decode cX0_judge 58 = .ok (.iload 4, 2) := dk_21 4 (dk_at dksX0_judge_2 11 rfl rfl)
theorem dX0_judge_60 : decode cX0_judge 60 = .ok (.iadd, 1) := dk_96 (dk_at dksX0_judge_2 13 rfl rfl)
theorem dX0_judge_61 : decode cX0_judge 61 = .ok (.ireturn, 1) := dk_172 (dk_at dksX0_judge_2 14 rfl rfl)
theorem dX0_judge_62 : decode cX0_judge 62 = .ok (.aload_n 3, 1) := dk_45 (dk_at dksX0_judge_2 15 rfl rfl)
theorem dX0_judge_63 : decode cX0_judge 63 = .ok (.iload_n 2, 1) := dk_28 (dk_at dksX0_judge_2 16 rfl rfl)
theorem dX0_judge_64 : decode cX0_judge 64 = .ok (.iload 4, 2) := dk_21 4 (dk_at dksX0_judge_2 17 rfl rfl)
theorem dX0_judge_66 : decode cX0_judge 66 = .ok (.iadd, 1) := dk_96 (dk_at dksX0_judge_2 19 rfl rfl)
theorem dX0_judge_67 : decode cX0_judge 67 = .ok (.invokevirtual 484, 3) := dk_182 1 228 (dk_at dksX0_judge_2 20 rfl rfl)
theorem dX0_judge_70 : decode cX0_judge 70 = .ok (.aload_n 0, 1) := dk_42 (dk_at dksX0_judge_2 23 rfl rfl)
theorem dX0_judge_71 : decode cX0_judge 71 = .ok (.getfield 17, 3) := dk_180 0 17 (dk_at dksX0_judge_3 0 rfl rfl)
theorem dX0_judge_74 : decode cX0_judge 74 = .ok (.iload 4, 2) := dk_21 4 (dk_at dksX0_judge_3 3 rfl rfl)
theorem dX0_judge_76 : decode cX0_judge 76 = .ok (.invokevirtual 288, 3) := dk_182 1 32 (dk_at dksX0_judge_3 5 rfl rfl)
theorem dX0_judge_79 : decode cX0_judge 79 = .ok (.i2l, 1) := dk_133 (dk_at dksX0_judge_3 8 rfl rfl)
theorem dX0_judge_80 : decode cX0_judge 80 = .ok (.lcmp, 1) := dk_148 (dk_at dksX0_judge_3 9 rfl rfl)
theorem dX0_judge_81 : decode cX0_judge 81 = .ok (.ifCond .eq 6, 3) := dk_153 0 6 (dk_at dksX0_judge_3 10 rfl rfl)
theorem dX0_judge_84 : decode cX0_judge 84 = .ok (.iload 4, 2) := dk_21 4 (dk_at dksX0_judge_3 13 rfl rfl)
theorem dX0_judge_86 : decode cX0_judge 86 = .ok (.ireturn, 1) := dk_172 (dk_at dksX0_judge_3 15 rfl rfl)
theorem dX0_judge_87 : decode cX0_judge 87 = .ok (.iinc 4 1, 3) := dk_132 4 1 (dk_at dksX0_judge_3 16 rfl rfl)
theorem dX0_judge_90 : decode cX0_judge 90 = .ok (.goto (-61), 3) := dk_167 255 195 (dk_at dksX0_judge_3 19 rfl rfl)
theorem dX0_judge_93 : decode cX0_judge 93 = .ok (.bipush (-5), 2) := dk_16 251 (dk_at dksX0_judge_3 22 rfl rfl)
theorem dX0_judge_95 : decode cX0_judge 95 = .ok (.ireturn, 1) := dk_172 (dk_at dksX0_judge_4 0 rfl rfl)
abbrev cX0_isTape : ByteArray := prog_1_method_65_code
def yX0_isTape : MethodName := ⟨RX0, "isTape", "(I)Z"⟩
def dkwX0_isTape_0 : List UInt8 := [26, 133, 9, 20, 0, 178, 184, 0, 74, 172]
abbrev dktX0_isTape_0 : List UInt8 := dkwX0_isTape_0 ++ []
theorem dksX0_isTape_0 : cX0_isTape.data.toList.drop 0 = dktX0_isTape_0 := by decide +kernel
theorem dX0_isTape_0 : decode cX0_isTape 0 = .ok (.iload_n 0, 1) := dk_26 (dk_at dksX0_isTape_0 0 rfl rfl)
theorem dX0_isTape_1 : decode cX0_isTape 1 = .ok (.i2l, 1) := dk_133 (dk_at dksX0_isTape_0 1 rfl rfl)
theorem dX0_isTape_2 : decode cX0_isTape 2 = .ok (.lconst 0, 1) := dk_9 (dk_at dksX0_isTape_0 2 rfl rfl)
theorem dX0_isTape_3 : decode cX0_isTape 3 = .ok (.ldc2_w 178, 3) := dk_20 0 178 (dk_at dksX0_isTape_0 3 rfl rfl)
theorem dX0_isTape_6 : decode cX0_isTape 6 = .ok (.invokestatic 74, 3) := dk_184 0 74 (dk_at dksX0_isTape_0 6 rfl rfl)
theorem dX0_isTape_9 : decode cX0_isTape 9 = .ok (.ireturn, 1) := dk_172 (dk_at dksX0_isTape_0 9 rfl rfl)
abbrev cX0_tape : ByteArray := prog_1_method_67_code
def yX0_tape : MethodName := ⟨RX0, "tape", "(III)I"⟩
def dkwX0_tape_2 : List UInt8 := [167, 0, 8, 58, 4, 16, 242, 172, 4, 172]
abbrev dktX0_tape_2 : List UInt8 := dkwX0_tape_2 ++ []
def dkwX0_tape_1 : List UInt8 := [155, 0, 12, 29, 16, 60, 164, 0, 6, 16, 254, 172, 42, 180, 0, 67, 27, 50, 28, 29, 182, 1, 234]
abbrev dktX0_tape_1 : List UInt8 := dkwX0_tape_1 ++ dktX0_tape_2
def dkwX0_tape_0 : List UInt8 := [27, 184, 1, 219, 154, 0, 5, 2, 172, 28, 133, 20, 1, 232, 20, 1, 77, 184, 0, 74, 153, 0, 13, 28]
abbrev dktX0_tape_0 : List UInt8 := dkwX0_tape_0 ++ dktX0_tape_1
theorem dksX0_tape_0 : cX0_tape.data.toList.drop 0 = dktX0_tape_0 := by decide +kernel
theorem dksX0_tape_1 : cX0_tape.data.toList.drop 24 = dktX0_tape_1 := dk_seg dksX0_tape_0 24 rfl rfl
theorem dksX0_tape_2 : cX0_tape.data.toList.drop 47 = dktX0_tape_2 := dk_seg dksX0_tape_1 23 rfl rfl
theorem dX0_tape_0 : decode cX0_tape 0 = .ok (.iload_n 1, 1) := dk_27 (dk_at dksX0_tape_0 0 rfl rfl)
theorem dX0_tape_1 : decode cX0_tape 1 = .ok (.invokestatic 475, 3) := dk_184 1 219 (dk_at dksX0_tape_0 1 rfl rfl)
theorem dX0_tape_4 : decode cX0_tape 4 = .ok (.ifCond .ne 5, 3) := dk_154 0 5 (dk_at dksX0_tape_0 4 rfl rfl)
theorem dX0_tape_7 : decode cX0_tape 7 = .ok (.iconst (-1), 1) := dk_2 (dk_at dksX0_tape_0 7 rfl rfl)
theorem dX0_tape_8 : decode cX0_tape 8 = .ok (.ireturn, 1) := dk_172 (dk_at dksX0_tape_0 8 rfl rfl)
theorem dX0_tape_9 : decode cX0_tape 9 = .ok (.iload_n 2, 1) := dk_28 (dk_at dksX0_tape_0 9 rfl rfl)
theorem dX0_tape_10 : decode cX0_tape 10 = .ok (.i2l, 1) := dk_133 (dk_at dksX0_tape_0 10 rfl rfl)
theorem dX0_tape_11 : decode cX0_tape 11 = .ok (.ldc2_w 488, 3) := dk_20 1 232 (dk_at dksX0_tape_0 11 rfl rfl)
theorem dX0_tape_14 : decode cX0_tape 14 = .ok (.ldc2_w 333, 3) := dk_20 1 77 (dk_at dksX0_tape_0 14 rfl rfl)
theorem dX0_tape_17 : decode cX0_tape 17 = .ok (.invokestatic 74, 3) := dk_184 0 74 (dk_at dksX0_tape_0 17 rfl rfl)
theorem dX0_tape_20 : decode cX0_tape 20 = .ok (.ifCond .eq 13, 3) := dk_153 0 13 (dk_at dksX0_tape_0 20 rfl rfl)
theorem dX0_tape_23 : decode cX0_tape 23 = .ok (.iload_n 2, 1) := dk_28 (dk_at dksX0_tape_0 23 rfl rfl)
theorem dX0_tape_24 : decode cX0_tape 24 = .ok (.ifCond .lt 12, 3) := dk_155 0 12 (dk_at dksX0_tape_1 0 rfl rfl)
theorem dX0_tape_27 : decode cX0_tape 27 = .ok (.iload_n 3, 1) := dk_29 (dk_at dksX0_tape_1 3 rfl rfl)
theorem dX0_tape_28 : decode cX0_tape 28 = .ok (.bipush 60, 2) := dk_16 60 (dk_at dksX0_tape_1 4 rfl rfl)
theorem dX0_tape_30 : decode cX0_tape 30 = .ok (.if_icmp .le 6, 3) := dk_164 0 6 (dk_at dksX0_tape_1 6 rfl rfl)
theorem dX0_tape_33 : decode cX0_tape 33 = .ok (.bipush (-2), 2) := dk_16 254 (dk_at dksX0_tape_1 9 rfl rfl)
theorem dX0_tape_35 : decode cX0_tape 35 = .ok (.ireturn, 1) := dk_172 (dk_at dksX0_tape_1 11 rfl rfl)
theorem dX0_tape_36 : decode cX0_tape 36 = .ok (.aload_n 0, 1) := dk_42 (dk_at dksX0_tape_1 12 rfl rfl)
theorem dX0_tape_37 : decode cX0_tape 37 = .ok (.getfield 67, 3) := dk_180 0 67 (dk_at dksX0_tape_1 13 rfl rfl)
theorem dX0_tape_40 : decode cX0_tape 40 = .ok (.iload_n 1, 1) := dk_27 (dk_at dksX0_tape_1 16 rfl rfl)
theorem dX0_tape_41 : decode cX0_tape 41 = .ok (.aaload, 1) := dk_50 (dk_at dksX0_tape_1 17 rfl rfl)
theorem dX0_tape_42 : decode cX0_tape 42 = .ok (.iload_n 2, 1) := dk_28 (dk_at dksX0_tape_1 18 rfl rfl)
theorem dX0_tape_43 : decode cX0_tape 43 = .ok (.iload_n 3, 1) := dk_29 (dk_at dksX0_tape_1 19 rfl rfl)
theorem dX0_tape_44 : decode cX0_tape 44 = .ok (.invokevirtual 490, 3) := dk_182 1 234 (dk_at dksX0_tape_1 20 rfl rfl)
theorem dX0_tape_47 : decode cX0_tape 47 = .ok (.goto 8, 3) := dk_167 0 8 (dk_at dksX0_tape_2 0 rfl rfl)
theorem dX0_tape_50 : decode cX0_tape 50 = .ok (.astore 4, 2) := dk_58 4 (dk_at dksX0_tape_2 3 rfl rfl)
theorem dX0_tape_52 : decode cX0_tape 52 = .ok (.bipush (-14), 2) := dk_16 242 (dk_at dksX0_tape_2 5 rfl rfl)
theorem dX0_tape_54 : decode cX0_tape 54 = .ok (.ireturn, 1) := dk_172 (dk_at dksX0_tape_2 7 rfl rfl)
theorem dX0_tape_55 : decode cX0_tape 55 = .ok (.iconst 1, 1) := dk_4 (dk_at dksX0_tape_2 8 rfl rfl)
theorem dX0_tape_56 : decode cX0_tape 56 = .ok (.ireturn, 1) := dk_172 (dk_at dksX0_tape_2 9 rfl rfl)
abbrev cX0_item : ByteArray := prog_1_method_68_code
def yX0_item : MethodName := ⟨RX0, "item", "(IIJ)I"⟩
def dkwX0_item_1 : List UInt8 := [42, 180, 0, 67, 27, 50, 28, 33, 182, 1, 244, 167, 0, 8, 58, 5, 16, 243, 172, 4, 172]
abbrev dktX0_item_1 : List UInt8 := dkwX0_item_1 ++ []
def dkwX0_item_0 : List UInt8 := [27, 184, 1, 219, 154, 0, 5, 2, 172, 42, 180, 0, 67, 27, 50, 180, 1, 240, 199, 0, 6, 16, 245, 172]
abbrev dktX0_item_0 : List UInt8 := dkwX0_item_0 ++ dktX0_item_1
theorem dksX0_item_0 : cX0_item.data.toList.drop 0 = dktX0_item_0 := by decide +kernel
theorem dksX0_item_1 : cX0_item.data.toList.drop 24 = dktX0_item_1 := dk_seg dksX0_item_0 24 rfl rfl
theorem dX0_item_0 : decode cX0_item 0 = .ok (.iload_n 1, 1) := dk_27 (dk_at dksX0_item_0 0 rfl rfl)
theorem dX0_item_1 : decode cX0_item 1 = .ok (.invokestatic 475, 3) := dk_184 1 219 (dk_at dksX0_item_0 1 rfl rfl)
theorem dX0_item_4 : decode cX0_item 4 = .ok (.ifCond .ne 5, 3) := dk_154 0 5 (dk_at dksX0_item_0 4 rfl rfl)
theorem dX0_item_7 : decode cX0_item 7 = .ok (.iconst (-1), 1) := dk_2 (dk_at dksX0_item_0 7 rfl rfl)
theorem dX0_item_8 : decode cX0_item 8 = .ok (.ireturn, 1) := dk_172 (dk_at dksX0_item_0 8 rfl rfl)
theorem dX0_item_9 : decode cX0_item 9 = .ok (.aload_n 0, 1) := dk_42 (dk_at dksX0_item_0 9 rfl rfl)
theorem dX0_item_10 : decode cX0_item 10 = .ok (.getfield 67, 3) := dk_180 0 67 (dk_at dksX0_item_0 10 rfl rfl)
theorem dX0_item_13 : decode cX0_item 13 = .ok (.iload_n 1, 1) := dk_27 (dk_at dksX0_item_0 13 rfl rfl)
theorem dX0_item_14 : decode cX0_item 14 = .ok (.aaload, 1) := dk_50 (dk_at dksX0_item_0 14 rfl rfl)
theorem dX0_item_15 : decode cX0_item 15 = .ok (.getfield 496, 3) := dk_180 1 240 (dk_at dksX0_item_0 15 rfl rfl)
theorem dX0_item_18 : decode cX0_item 18 = .ok (.ifnonnull 6, 3) := dk_199 0 6 (dk_at dksX0_item_0 18 rfl rfl)
theorem dX0_item_21 : decode cX0_item 21 = .ok (.bipush (-11), 2) := dk_16 245 (dk_at dksX0_item_0 21 rfl rfl)
theorem dX0_item_23 : decode cX0_item 23 = .ok (.ireturn, 1) := dk_172 (dk_at dksX0_item_0 23 rfl rfl)
theorem dX0_item_24 : decode cX0_item 24 = .ok (.aload_n 0, 1) := dk_42 (dk_at dksX0_item_1 0 rfl rfl)
theorem dX0_item_25 : decode cX0_item 25 = .ok (.getfield 67, 3) := dk_180 0 67 (dk_at dksX0_item_1 1 rfl rfl)
theorem dX0_item_28 : decode cX0_item 28 = .ok (.iload_n 1, 1) := dk_27 (dk_at dksX0_item_1 4 rfl rfl)
theorem dX0_item_29 : decode cX0_item 29 = .ok (.aaload, 1) := dk_50 (dk_at dksX0_item_1 5 rfl rfl)
theorem dX0_item_30 : decode cX0_item 30 = .ok (.iload_n 2, 1) := dk_28 (dk_at dksX0_item_1 6 rfl rfl)
theorem dX0_item_31 : decode cX0_item 31 = .ok (.lload_n 3, 1) := dk_33 (dk_at dksX0_item_1 7 rfl rfl)
theorem dX0_item_32 : decode cX0_item 32 = .ok (.invokevirtual 500, 3) := dk_182 1 244 (dk_at dksX0_item_1 8 rfl rfl)
theorem dX0_item_35 : decode cX0_item 35 = .ok (.goto 8, 3) := dk_167 0 8 (dk_at dksX0_item_1 11 rfl rfl)
theorem dX0_item_38 : decode cX0_item 38 = .ok (.astore 5, 2) := dk_58 5 (dk_at dksX0_item_1 14 rfl rfl)
theorem dX0_item_40 : decode cX0_item 40 = .ok (.bipush (-13), 2) := dk_16 243 (dk_at dksX0_item_1 16 rfl rfl)
theorem dX0_item_42 : decode cX0_item 42 = .ok (.ireturn, 1) := dk_172 (dk_at dksX0_item_1 18 rfl rfl)
theorem dX0_item_43 : decode cX0_item 43 = .ok (.iconst 1, 1) := dk_4 (dk_at dksX0_item_1 19 rfl rfl)
theorem dX0_item_44 : decode cX0_item 44 = .ok (.ireturn, 1) := dk_172 (dk_at dksX0_item_1 20 rfl rfl)
abbrev cX0_peek : ByteArray := prog_1_method_69_code
def yX0_peek : MethodName := ⟨RX0, "peek", "(II)J"⟩
def dkwX0_peek_1 : List UInt8 := [184, 0, 74, 153, 0, 16, 42, 180, 0, 67, 27, 50, 28, 182, 1, 228, 167, 0, 6, 20, 1, 198, 173]
abbrev dktX0_peek_1 : List UInt8 := dkwX0_peek_1 ++ []
def dkwX0_peek_0 : List UInt8 := [27, 184, 1, 219, 153, 0, 37, 28, 133, 9, 42, 180, 0, 67, 27, 50, 182, 1, 225, 4, 100, 133]
abbrev dktX0_peek_0 : List UInt8 := dkwX0_peek_0 ++ dktX0_peek_1
theorem dksX0_peek_0 : cX0_peek.data.toList.drop 0 = dktX0_peek_0 := by decide +kernel
theorem dksX0_peek_1 : cX0_peek.data.toList.drop 22 = dktX0_peek_1 := dk_seg dksX0_peek_0 22 rfl rfl
theorem dX0_peek_0 : decode cX0_peek 0 = .ok (.iload_n 1, 1) := dk_27 (dk_at dksX0_peek_0 0 rfl rfl)
theorem dX0_peek_1 : decode cX0_peek 1 = .ok (.invokestatic 475, 3) := dk_184 1 219 (dk_at dksX0_peek_0 1 rfl rfl)
theorem dX0_peek_4 : decode cX0_peek 4 = .ok (.ifCond .eq 37, 3) := dk_153 0 37 (dk_at dksX0_peek_0 4 rfl rfl)
theorem dX0_peek_7 : decode cX0_peek 7 = .ok (.iload_n 2, 1) := dk_28 (dk_at dksX0_peek_0 7 rfl rfl)
theorem dX0_peek_8 : decode cX0_peek 8 = .ok (.i2l, 1) := dk_133 (dk_at dksX0_peek_0 8 rfl rfl)
theorem dX0_peek_9 : decode cX0_peek 9 = .ok (.lconst 0, 1) := dk_9 (dk_at dksX0_peek_0 9 rfl rfl)
theorem dX0_peek_10 : decode cX0_peek 10 = .ok (.aload_n 0, 1) := dk_42 (dk_at dksX0_peek_0 10 rfl rfl)
theorem dX0_peek_11 : decode cX0_peek 11 = .ok (.getfield 67, 3) := dk_180 0 67 (dk_at dksX0_peek_0 11 rfl rfl)
theorem dX0_peek_14 : decode cX0_peek 14 = .ok (.iload_n 1, 1) := dk_27 (dk_at dksX0_peek_0 14 rfl rfl)
theorem dX0_peek_15 : decode cX0_peek 15 = .ok (.aaload, 1) := dk_50 (dk_at dksX0_peek_0 15 rfl rfl)
theorem dX0_peek_16 : decode cX0_peek 16 = .ok (.invokevirtual 481, 3) := dk_182 1 225 (dk_at dksX0_peek_0 16 rfl rfl)
theorem dX0_peek_19 : decode cX0_peek 19 = .ok (.iconst 1, 1) := dk_4 (dk_at dksX0_peek_0 19 rfl rfl)
theorem dX0_peek_20 : decode cX0_peek 20 = .ok (.isub, 1) := dk_100 (dk_at dksX0_peek_0 20 rfl rfl)
theorem dX0_peek_21 : decode cX0_peek 21 = .ok (.i2l, 1) := dk_133 (dk_at dksX0_peek_0 21 rfl rfl)
theorem dX0_peek_22 : decode cX0_peek 22 = .ok (.invokestatic 74, 3) := dk_184 0 74 (dk_at dksX0_peek_1 0 rfl rfl)
theorem dX0_peek_25 : decode cX0_peek 25 = .ok (.ifCond .eq 16, 3) := dk_153 0 16 (dk_at dksX0_peek_1 3 rfl rfl)
theorem dX0_peek_28 : decode cX0_peek 28 = .ok (.aload_n 0, 1) := dk_42 (dk_at dksX0_peek_1 6 rfl rfl)
theorem dX0_peek_29 : decode cX0_peek 29 = .ok (.getfield 67, 3) := dk_180 0 67 (dk_at dksX0_peek_1 7 rfl rfl)
theorem dX0_peek_32 : decode cX0_peek 32 = .ok (.iload_n 1, 1) := dk_27 (dk_at dksX0_peek_1 10 rfl rfl)
theorem dX0_peek_33 : decode cX0_peek 33 = .ok (.aaload, 1) := dk_50 (dk_at dksX0_peek_1 11 rfl rfl)
theorem dX0_peek_34 : decode cX0_peek 34 = .ok (.iload_n 2, 1) := dk_28 (dk_at dksX0_peek_1 12 rfl rfl)
theorem dX0_peek_35 : decode cX0_peek 35 = .ok (.invokevirtual 484, 3) := dk_182 1 228 (dk_at dksX0_peek_1 13 rfl rfl)
theorem dX0_peek_38 : decode cX0_peek 38 = .ok (.goto 6, 3) := dk_167 0 6 (dk_at dksX0_peek_1 16 rfl rfl)
theorem dX0_peek_41 : decode cX0_peek 41 = .ok (.ldc2_w 454, 3) := dk_20 1 198 (dk_at dksX0_peek_1 19 rfl rfl)
theorem dX0_peek_44 : decode cX0_peek 44 = .ok (.lreturn, 1) := dk_173 (dk_at dksX0_peek_1 22 rfl rfl)
abbrev cX0_shift : ByteArray := prog_1_method_70_code
def yX0_shift : MethodName := ⟨RX0, "shift", "(IIIII)I"⟩
def dkwX0_shift_3 : List UInt8 := [184, 1, 250, 167, 0, 13, 58, 6, 16, 244, 172, 58, 6, 16, 243, 172, 21, 5, 172]
abbrev dktX0_shift_3 : List UInt8 := dkwX0_shift_3 ++ []
def dkwX0_shift_2 : List UInt8 := [180, 0, 67, 27, 50, 180, 1, 240, 28, 42, 180, 0, 67, 29, 50, 180, 1, 240, 21, 4, 21, 5]
abbrev dktX0_shift_2 : List UInt8 := dkwX0_shift_2 ++ dktX0_shift_3
def dkwX0_shift_1 : List UInt8 := [180, 1, 240, 198, 0, 15, 42, 180, 0, 67, 29, 50, 180, 1, 240, 199, 0, 6, 16, 245, 172, 42]
abbrev dktX0_shift_1 : List UInt8 := dkwX0_shift_1 ++ dktX0_shift_2
def dkwX0_shift_0 : List UInt8 := [27, 184, 1, 219, 153, 0, 10, 29, 184, 1, 219, 154, 0, 5, 2, 172, 42, 180, 0, 67, 27, 50]
abbrev dktX0_shift_0 : List UInt8 := dkwX0_shift_0 ++ dktX0_shift_1
theorem dksX0_shift_0 : cX0_shift.data.toList.drop 0 = dktX0_shift_0 := by decide +kernel
theorem dksX0_shift_1 : cX0_shift.data.toList.drop 22 = dktX0_shift_1 := dk_seg dksX0_shift_0 22 rfl rfl
theorem dksX0_shift_2 : cX0_shift.data.toList.drop 44 = dktX0_shift_2 := dk_seg dksX0_shift_1 22 rfl rfl
theorem dksX0_shift_3 : cX0_shift.data.toList.drop 66 = dktX0_shift_3 := dk_seg dksX0_shift_2 22 rfl rfl
theorem dX0_shift_0 : decode cX0_shift 0 = .ok (.iload_n 1, 1) := dk_27 (dk_at dksX0_shift_0 0 rfl rfl)
theorem dX0_shift_1 : decode cX0_shift 1 = .ok (.invokestatic 475, 3) := dk_184 1 219 (dk_at dksX0_shift_0 1 rfl rfl)
theorem dX0_shift_4 : decode cX0_shift 4 = .ok (.ifCond .eq 10, 3) := dk_153 0 10 (dk_at dksX0_shift_0 4 rfl rfl)
theorem dX0_shift_7 : decode cX0_shift 7 = .ok (.iload_n 3, 1) := dk_29 (dk_at dksX0_shift_0 7 rfl rfl)
theorem dX0_shift_8 : decode cX0_shift 8 = .ok (.invokestatic 475, 3) := dk_184 1 219 (dk_at dksX0_shift_0 8 rfl rfl)
theorem dX0_shift_11 : decode cX0_shift 11 = .ok (.ifCond .ne 5, 3) := dk_154 0 5 (dk_at dksX0_shift_0 11 rfl rfl)
theorem dX0_shift_14 : decode cX0_shift 14 = .ok (.iconst (-1), 1) := dk_2 (dk_at dksX0_shift_0 14 rfl rfl)
theorem dX0_shift_15 : decode cX0_shift 15 = .ok (.ireturn, 1) := dk_172 (dk_at dksX0_shift_0 15 rfl rfl)
theorem dX0_shift_16 : decode cX0_shift 16 = .ok (.aload_n 0, 1) := dk_42 (dk_at dksX0_shift_0 16 rfl rfl)
theorem dX0_shift_17 : decode cX0_shift 17 = .ok (.getfield 67, 3) := dk_180 0 67 (dk_at dksX0_shift_0 17 rfl rfl)
theorem dX0_shift_20 : decode cX0_shift 20 = .ok (.iload_n 1, 1) := dk_27 (dk_at dksX0_shift_0 20 rfl rfl)
theorem dX0_shift_21 : decode cX0_shift 21 = .ok (.aaload, 1) := dk_50 (dk_at dksX0_shift_0 21 rfl rfl)
theorem dX0_shift_22 : decode cX0_shift 22 = .ok (.getfield 496, 3) := dk_180 1 240 (dk_at dksX0_shift_1 0 rfl rfl)
theorem dX0_shift_25 : decode cX0_shift 25 = .ok (.ifnull 15, 3) := dk_198 0 15 (dk_at dksX0_shift_1 3 rfl rfl)
theorem dX0_shift_28 : decode cX0_shift 28 = .ok (.aload_n 0, 1) := dk_42 (dk_at dksX0_shift_1 6 rfl rfl)
theorem dX0_shift_29 : decode cX0_shift 29 = .ok (.getfield 67, 3) := dk_180 0 67 (dk_at dksX0_shift_1 7 rfl rfl)
theorem dX0_shift_32 : decode cX0_shift 32 = .ok (.iload_n 3, 1) := dk_29 (dk_at dksX0_shift_1 10 rfl rfl)
theorem dX0_shift_33 : decode cX0_shift 33 = .ok (.aaload, 1) := dk_50 (dk_at dksX0_shift_1 11 rfl rfl)
theorem dX0_shift_34 : decode cX0_shift 34 = .ok (.getfield 496, 3) := dk_180 1 240 (dk_at dksX0_shift_1 12 rfl rfl)
theorem dX0_shift_37 : decode cX0_shift 37 = .ok (.ifnonnull 6, 3) := dk_199 0 6 (dk_at dksX0_shift_1 15 rfl rfl)
theorem dX0_shift_40 : decode cX0_shift 40 = .ok (.bipush (-11), 2) := dk_16 245 (dk_at dksX0_shift_1 18 rfl rfl)
theorem dX0_shift_42 : decode cX0_shift 42 = .ok (.ireturn, 1) := dk_172 (dk_at dksX0_shift_1 20 rfl rfl)
theorem dX0_shift_43 : decode cX0_shift 43 = .ok (.aload_n 0, 1) := dk_42 (dk_at dksX0_shift_1 21 rfl rfl)
theorem dX0_shift_44 : decode cX0_shift 44 = .ok (.getfield 67, 3) := dk_180 0 67 (dk_at dksX0_shift_2 0 rfl rfl)
theorem dX0_shift_47 : decode cX0_shift 47 = .ok (.iload_n 1, 1) := dk_27 (dk_at dksX0_shift_2 3 rfl rfl)
theorem dX0_shift_48 : decode cX0_shift 48 = .ok (.aaload, 1) := dk_50 (dk_at dksX0_shift_2 4 rfl rfl)
theorem dX0_shift_49 : decode cX0_shift 49 = .ok (.getfield 496, 3) := dk_180 1 240 (dk_at dksX0_shift_2 5 rfl rfl)
theorem dX0_shift_52 : decode cX0_shift 52 = .ok (.iload_n 2, 1) := dk_28 (dk_at dksX0_shift_2 8 rfl rfl)
theorem dX0_shift_53 : decode cX0_shift 53 = .ok (.aload_n 0, 1) := dk_42 (dk_at dksX0_shift_2 9 rfl rfl)
theorem dX0_shift_54 : decode cX0_shift 54 = .ok (.getfield 67, 3) := dk_180 0 67 (dk_at dksX0_shift_2 10 rfl rfl)
theorem dX0_shift_57 : decode cX0_shift 57 = .ok (.iload_n 3, 1) := dk_29 (dk_at dksX0_shift_2 13 rfl rfl)
theorem dX0_shift_58 : decode cX0_shift 58 = .ok (.aaload, 1) := dk_50 (dk_at dksX0_shift_2 14 rfl rfl)
theorem dX0_shift_59 : decode cX0_shift 59 = .ok (.getfield 496, 3) := dk_180 1 240 (dk_at dksX0_shift_2 15 rfl rfl)
theorem dX0_shift_62 : decode cX0_shift 62 = .ok (.iload 4, 2) := dk_21 4 (dk_at dksX0_shift_2 18 rfl rfl)
theorem dX0_shift_64 : decode cX0_shift 64 = .ok (.iload 5, 2) := dk_21 5 (dk_at dksX0_shift_2 20 rfl rfl)
theorem dX0_shift_66 : decode cX0_shift 66 = .ok (.invokestatic 506, 3) := dk_184 1 250 (dk_at dksX0_shift_3 0 rfl rfl)
theorem dX0_shift_69 : decode cX0_shift 69 = .ok (.goto 13, 3) := dk_167 0 13 (dk_at dksX0_shift_3 3 rfl rfl)
theorem dX0_shift_72 : decode cX0_shift 72 = .ok (.astore 6, 2) := dk_58 6 (dk_at dksX0_shift_3 6 rfl rfl)
theorem dX0_shift_74 : decode cX0_shift 74 = .ok (.bipush (-12), 2) := dk_16 244 (dk_at dksX0_shift_3 8 rfl rfl)
theorem dX0_shift_76 : decode cX0_shift 76 = .ok (.ireturn, 1) := dk_172 (dk_at dksX0_shift_3 10 rfl rfl)
theorem dX0_shift_77 : decode cX0_shift 77 = .ok (.astore 6, 2) := dk_58 6 (dk_at dksX0_shift_3 11 rfl rfl)
theorem dX0_shift_79 : decode cX0_shift 79 = .ok (.bipush (-13), 2) := dk_16 243 (dk_at dksX0_shift_3 13 rfl rfl)
theorem dX0_shift_81 : decode cX0_shift 81 = .ok (.ireturn, 1) := dk_172 (dk_at dksX0_shift_3 15 rfl rfl)
theorem dX0_shift_82 : decode cX0_shift 82 = .ok (.iload 5, 2) := dk_21 5 (dk_at dksX0_shift_3 16 rfl rfl)
theorem dX0_shift_84 : decode cX0_shift 84 = .ok (.ireturn, 1) := dk_172 (dk_at dksX0_shift_3 18 rfl rfl)
theorem q92 : (Jvm.Cond.initialized "SafeClears") ∈ lw_all := lw_g (lw_at lw_m1 1 rfl) rfl
theorem q133 : (Jvm.Cond.instantiable "SafeClears" (10 : Nat)) ∈ lw_all := lw_g (lw_at lw_m1 42 rfl) rfl
theorem q135 : (Jvm.Cond.instanceMethod ({ cls := "SafeClears", name := "<init>", desc := "()V" } : Jvm.MethodName)) ∈ lw_all := lw_g (lw_at lw_m1 44 rfl) rfl
theorem q136 : (Jvm.Cond.code ({ cls := "SafeClears", name := "<init>", desc := "()V" } : Jvm.MethodName) prog_1_method_7_code (1 : Nat) (Option.none : Option Jvm.ClassFile.FieldType)) ∈ lw_all := lw_g (lw_at lw_m1 45 rfl) rfl
theorem q137 : (Jvm.Cond.methodLink "SafeClears" (26 : Nat) ({ cls := "java/lang/Object", name := "<init>", desc := "()V" } : Jvm.MethodName)) ∈ lw_all := lw_g (lw_at lw_m1 46 rfl) rfl
theorem q140 : (Jvm.Cond.classLink "SafeClears" (21 : Nat) "SafeClears$World") ∈ lw_all := lw_g (lw_at lw_m1 49 rfl) rfl
theorem q142 : (Jvm.Cond.methodLinkNest "SafeClears" (32 : Nat) ({ cls := "SafeClears$World", name := "<init>", desc := "()V" } : Jvm.MethodName) "SafeClears") ∈ lw_tbl := lw_at lw_m1 51 rfl
theorem q510 : (Jvm.Cond.fieldLinkNest "SafeClears" (281 : Nat) "SafeClears$Signal" "kind" "LSafeClears$Kind;" "SafeClears") ∈ lw_tbl := lw_at lw_m2 179 rfl
theorem q513 : (Jvm.Cond.fieldLinkNest "SafeClears" (307 : Nat) "SafeClears$Signal" "cells" "[I" "SafeClears") ∈ lw_tbl := lw_at lw_m2 182 rfl
theorem q517 : (Jvm.Cond.fieldLinkNest "SafeClears" (116 : Nat) "SafeClears$Signal" "way" "Ljava/util/BitSet;" "SafeClears") ∈ lw_tbl := lw_at lw_m2 186 rfl
theorem q520 : (Jvm.Cond.fieldLinkNest "SafeClears" (150 : Nat) "SafeClears$Signal" "times" "[I" "SafeClears") ∈ lw_tbl := lw_at lw_m2 189 rfl
theorem q525 : (Jvm.Cond.fieldLinkNest "SafeClears" (128 : Nat) "SafeClears$Signal" "many" "I" "SafeClears") ∈ lw_tbl := lw_at lw_m2 194 rfl
theorem q528 : (Jvm.Cond.fieldLinkNest "SafeClears" (221 : Nat) "SafeClears$Signal" "queue" "I" "SafeClears") ∈ lw_tbl := lw_at lw_m2 197 rfl
theorem q531 : (Jvm.Cond.fieldLinkNest "SafeClears" (382 : Nat) "SafeClears$Signal" "isGreen" "Z" "SafeClears") ∈ lw_tbl := lw_at lw_m2 200 rfl
theorem q534 : (Jvm.Cond.fieldLinkNest "SafeClears" (291 : Nat) "SafeClears$Signal" "began" "I" "SafeClears") ∈ lw_tbl := lw_at lw_m2 203 rfl
theorem q537 : (Jvm.Cond.fieldLinkNest "SafeClears" (294 : Nat) "SafeClears$Signal" "ended" "I" "SafeClears") ∈ lw_tbl := lw_at lw_m2 206 rfl
theorem q540 : (Jvm.Cond.fieldLinkNest "SafeClears" (297 : Nat) "SafeClears$Signal" "seen" "I" "SafeClears") ∈ lw_tbl := lw_at lw_m2 209 rfl
theorem q543 : (Jvm.Cond.fieldLinkNest "SafeClears" (300 : Nat) "SafeClears$Signal" "served" "I" "SafeClears") ∈ lw_tbl := lw_at lw_m2 212 rfl
theorem q546 : (Jvm.Cond.fieldLinkNest "SafeClears" (304 : Nat) "SafeClears$Signal" "greens" "I" "SafeClears") ∈ lw_tbl := lw_at lw_m2 215 rfl
theorem q579 : (Jvm.Cond.fieldLinkNest "SafeClears" (324 : Nat) "SafeClears$Phase" "set" "I" "SafeClears") ∈ lw_tbl := lw_at lw_m3 8 rfl
theorem q582 : (Jvm.Cond.fieldLinkNest "SafeClears" (327 : Nat) "SafeClears$Phase" "force" "I" "SafeClears") ∈ lw_tbl := lw_at lw_m3 11 rfl
theorem q585 : (Jvm.Cond.fieldLinkNest "SafeClears" (205 : Nat) "SafeClears$Phase" "ons" "I" "SafeClears") ∈ lw_tbl := lw_at lw_m3 14 rfl
theorem q599 : (Jvm.Cond.fieldLinkNest "SafeClears" (352 : Nat) "SafeClears$Green" "signal" "I" "SafeClears") ∈ lw_tbl := lw_at lw_m3 28 rfl
theorem q601 : (Jvm.Cond.fieldLinkNest "SafeClears" (357 : Nat) "SafeClears$Green" "began" "I" "SafeClears") ∈ lw_tbl := lw_at lw_m3 30 rfl
theorem q603 : (Jvm.Cond.fieldLinkNest "SafeClears" (358 : Nat) "SafeClears$Green" "ended" "I" "SafeClears") ∈ lw_tbl := lw_at lw_m3 32 rfl
theorem q618 : (Jvm.Cond.fieldLinkNest "SafeClears" (411 : Nat) "SafeClears$Node" "told" "[I" "SafeClears") ∈ lw_tbl := lw_at lw_m3 47 rfl
theorem q623 : (Jvm.Cond.fieldLinkNest "SafeClears" (86 : Nat) "SafeClears$World" "isStarted" "Z" "SafeClears") ∈ lw_tbl := lw_at lw_m3 52 rfl
theorem q625 : (Jvm.Cond.fieldLinkNest "SafeClears" (252 : Nat) "SafeClears$World" "second" "I" "SafeClears") ∈ lw_tbl := lw_at lw_m3 54 rfl
theorem q627 : (Jvm.Cond.fieldLinkNest "SafeClears" (202 : Nat) "SafeClears$World" "on" "I" "SafeClears") ∈ lw_tbl := lw_at lw_m3 56 rfl
theorem q629 : (Jvm.Cond.fieldLinkNest "SafeClears" (255 : Nat) "SafeClears$World" "cut" "I" "SafeClears") ∈ lw_tbl := lw_at lw_m3 58 rfl
theorem q631 : (Jvm.Cond.fieldLinkNest "SafeClears" (233 : Nat) "SafeClears$World" "emergency" "I" "SafeClears") ∈ lw_tbl := lw_at lw_m3 60 rfl
theorem q633 : (Jvm.Cond.fieldLinkNest "SafeClears" (258 : Nat) "SafeClears$World" "waited" "I" "SafeClears") ∈ lw_tbl := lw_at lw_m3 62 rfl
theorem q635 : (Jvm.Cond.fieldLinkNest "SafeClears" (245 : Nat) "SafeClears$World" "served" "I" "SafeClears") ∈ lw_tbl := lw_at lw_m3 64 rfl
theorem q637 : (Jvm.Cond.fieldLinkNest "SafeClears" (227 : Nat) "SafeClears$World" "lost" "I" "SafeClears") ∈ lw_tbl := lw_at lw_m3 66 rfl
theorem q639 : (Jvm.Cond.fieldLinkNest "SafeClears" (230 : Nat) "SafeClears$World" "seed" "I" "SafeClears") ∈ lw_tbl := lw_at lw_m3 68 rfl
theorem q641 : (Jvm.Cond.fieldLinkNest "SafeClears" (180 : Nat) "SafeClears$World" "safety" "I" "SafeClears") ∈ lw_tbl := lw_at lw_m3 70 rfl
theorem q643 : (Jvm.Cond.fieldLinkNest "SafeClears" (212 : Nat) "SafeClears$World" "cycle" "I" "SafeClears") ∈ lw_tbl := lw_at lw_m3 72 rfl
theorem q645 : (Jvm.Cond.fieldLinkNest "SafeClears" (215 : Nat) "SafeClears$World" "offset" "I" "SafeClears") ∈ lw_tbl := lw_at lw_m3 74 rfl
theorem q647 : (Jvm.Cond.fieldLinkNest "SafeClears" (218 : Nat) "SafeClears$World" "split" "I" "SafeClears") ∈ lw_tbl := lw_at lw_m3 76 rfl
theorem q649 : (Jvm.Cond.fieldLinkNest "SafeClears" (71 : Nat) "SafeClears$World" "signalMany" "I" "SafeClears") ∈ lw_tbl := lw_at lw_m3 78 rfl
theorem q651 : (Jvm.Cond.fieldLinkNest "SafeClears" (125 : Nat) "SafeClears$World" "phaseMany" "I" "SafeClears") ∈ lw_tbl := lw_at lw_m3 80 rfl
theorem q653 : (Jvm.Cond.fieldLinkNest "SafeClears" (345 : Nat) "SafeClears$World" "recordMany" "I" "SafeClears") ∈ lw_tbl := lw_at lw_m3 82 rfl
theorem q656 : (Jvm.Cond.fieldLinkNest "SafeClears" (375 : Nat) "SafeClears$World" "toldMany" "I" "SafeClears") ∈ lw_tbl := lw_at lw_m3 85 rfl
theorem q658 : (Jvm.Cond.fieldLinkNest "SafeClears" (401 : Nat) "SafeClears$World" "nodeMany" "I" "SafeClears") ∈ lw_tbl := lw_at lw_m3 87 rfl
theorem q660 : (Jvm.Cond.fieldLinkNest "SafeClears" (398 : Nat) "SafeClears$World" "round" "I" "SafeClears") ∈ lw_tbl := lw_at lw_m3 89 rfl
theorem q662 : (Jvm.Cond.fieldLinkNest "SafeClears" (435 : Nat) "SafeClears$World" "noteMany" "I" "SafeClears") ∈ lw_tbl := lw_at lw_m3 91 rfl
theorem q664 : (Jvm.Cond.fieldLinkNest "SafeClears" (460 : Nat) "SafeClears$World" "planMany" "I" "SafeClears") ∈ lw_tbl := lw_at lw_m3 93 rfl
theorem q666 : (Jvm.Cond.fieldLinkNest "SafeClears" (90 : Nat) "SafeClears$World" "signals" "[LSafeClears$Signal;" "SafeClears") ∈ lw_tbl := lw_at lw_m3 95 rfl
theorem q668 : (Jvm.Cond.fieldLinkNest "SafeClears" (192 : Nat) "SafeClears$World" "phases" "[LSafeClears$Phase;" "SafeClears") ∈ lw_tbl := lw_at lw_m3 97 rfl
theorem q670 : (Jvm.Cond.fieldLinkNest "SafeClears" (359 : Nat) "SafeClears$World" "record" "[LSafeClears$Green;" "SafeClears") ∈ lw_tbl := lw_at lw_m3 99 rfl
theorem q672 : (Jvm.Cond.fieldLinkNest "SafeClears" (372 : Nat) "SafeClears$World" "tolds" "[LSafeClears$Green;" "SafeClears") ∈ lw_tbl := lw_at lw_m3 101 rfl
theorem q674 : (Jvm.Cond.fieldLinkNest "SafeClears" (407 : Nat) "SafeClears$World" "nodes" "[LSafeClears$Node;" "SafeClears") ∈ lw_tbl := lw_at lw_m3 103 rfl
theorem q676 : (Jvm.Cond.fieldLinkNest "SafeClears" (442 : Nat) "SafeClears$World" "notes" "[I" "SafeClears") ∈ lw_tbl := lw_at lw_m3 105 rfl
theorem q678 : (Jvm.Cond.fieldLinkNest "SafeClears" (465 : Nat) "SafeClears$World" "plans" "[I" "SafeClears") ∈ lw_tbl := lw_at lw_m3 107 rfl
theorem q741 : (Jvm.Cond.classLink "SafeClears" (40 : Nat) "SafeClears$Anyone") ∈ lw_all := lw_g (lw_at lw_m3 170 rfl) rfl
theorem q743 : (Jvm.Cond.classLink "SafeClears" (42 : Nat) "SafeClears$Car") ∈ lw_all := lw_g (lw_at lw_m3 172 rfl) rfl
theorem q745 : (Jvm.Cond.methodLink "SafeClears" (44 : Nat) ({ cls := "SafeClears$Car", name := "<init>", desc := "()V" } : Jvm.MethodName)) ∈ lw_all := lw_g (lw_at lw_m3 174 rfl) rfl
theorem q762 : (Jvm.Cond.classLink "SafeClears" (45 : Nat) "SafeClears$Walker") ∈ lw_all := lw_g (lw_at lw_m3 191 rfl) rfl
theorem q764 : (Jvm.Cond.methodLink "SafeClears" (47 : Nat) ({ cls := "SafeClears$Walker", name := "<init>", desc := "()V" } : Jvm.MethodName)) ∈ lw_all := lw_g (lw_at lw_m3 193 rfl) rfl
theorem q770 : (Jvm.Cond.classLink "SafeClears" (48 : Nat) "SafeClears$Motor") ∈ lw_all := lw_g (lw_at lw_m3 199 rfl) rfl
theorem q772 : (Jvm.Cond.methodLink "SafeClears" (50 : Nat) ({ cls := "SafeClears$Motor", name := "<init>", desc := "(I)V" } : Jvm.MethodName)) ∈ lw_all := lw_g (lw_at lw_m3 201 rfl) rfl
theorem q775 : (Jvm.Cond.classLink "SafeClears" (53 : Nat) "SafeClears$Wheels") ∈ lw_all := lw_g (lw_at lw_m3 204 rfl) rfl
theorem q777 : (Jvm.Cond.methodLink "SafeClears" (55 : Nat) ({ cls := "SafeClears$Wheels", name := "<init>", desc := "(I)V" } : Jvm.MethodName)) ∈ lw_all := lw_g (lw_at lw_m3 206 rfl) rfl
theorem q780 : (Jvm.Cond.classLink "SafeClears" (64 : Nat) "SafeClears$Tape") ∈ lw_all := lw_g (lw_at lw_m3 209 rfl) rfl
theorem q783 : (Jvm.Cond.methodLinkNest "SafeClears" (66 : Nat) ({ cls := "SafeClears$Tape", name := "<init>", desc := "()V" } : Jvm.MethodName) "SafeClears") ∈ lw_tbl := lw_at lw_m3 212 rfl
theorem q788 : (Jvm.Cond.fieldLinkNest "SafeClears" (496 : Nat) "SafeClears$Tape" "row" "Ljava/lang/Object;" "SafeClears") ∈ lw_tbl := lw_at lw_m3 217 rfl
theorem q792 : (Jvm.Cond.fieldLink "SafeClears" (17 : Nat) "SafeClears" "w" "LSafeClears$World;") ∈ lw_all := lw_g (lw_at lw_m3 221 rfl) rfl
theorem q793 : (Jvm.Cond.fieldLink "SafeClears" (13 : Nat) "SafeClears" "trial" "LSafeClears$World;") ∈ lw_all := lw_g (lw_at lw_m3 222 rfl) rfl
theorem q794 : (Jvm.Cond.fieldLink "SafeClears" (33 : Nat) "SafeClears" "kept" "LSafeClears$World;") ∈ lw_all := lw_g (lw_at lw_m3 223 rfl) rfl
theorem q795 : (Jvm.Cond.fieldLink "SafeClears" (9 : Nat) "SafeClears" "counted" "I") ∈ lw_all := lw_g (lw_at lw_m3 224 rfl) rfl
theorem q797 : (Jvm.Cond.fieldLink "SafeClears" (36 : Nat) "SafeClears" "text" "[B") ∈ lw_all := lw_g (lw_at lw_m3 226 rfl) rfl
theorem q799 : (Jvm.Cond.fieldLink "SafeClears" (155 : Nat) "SafeClears" "texted" "I") ∈ lw_all := lw_g (lw_at lw_m3 228 rfl) rfl
theorem q800 : (Jvm.Cond.fieldLink "SafeClears" (56 : Nat) "SafeClears" "takenFor" "[LSafeClears$Anyone;") ∈ lw_all := lw_g (lw_at lw_m3 229 rfl) rfl
theorem q801 : (Jvm.Cond.fieldLink "SafeClears" (60 : Nat) "SafeClears" "greenSets" "[I") ∈ lw_all := lw_g (lw_at lw_m3 230 rfl) rfl
theorem q802 : (Jvm.Cond.fieldLink "SafeClears" (472 : Nat) "SafeClears" "hasImage" "Z") ∈ lw_all := lw_g (lw_at lw_m3 231 rfl) rfl
theorem q803 : (Jvm.Cond.fieldLink "SafeClears" (67 : Nat) "SafeClears" "tapes" "[LSafeClears$Tape;") ∈ lw_all := lw_g (lw_at lw_m3 232 rfl) rfl
theorem q804 : (Jvm.Cond.laysFinal "SafeClears" "SafeClears" "w" "LSafeClears$World;") ∈ lw_all := lw_g (lw_at lw_m3 233 rfl) rfl
theorem q805 : (Jvm.Cond.soleField "SafeClears" "w") ∈ lw_all := lw_g (lw_at lw_m3 234 rfl) rfl
theorem q806 : (Jvm.Cond.laysFinal "SafeClears" "SafeClears" "trial" "LSafeClears$World;") ∈ lw_all := lw_g (lw_at lw_m3 235 rfl) rfl
theorem q807 : (Jvm.Cond.soleField "SafeClears" "trial") ∈ lw_all := lw_g (lw_at lw_m3 236 rfl) rfl
theorem q808 : (Jvm.Cond.laysFinal "SafeClears" "SafeClears" "kept" "LSafeClears$World;") ∈ lw_all := lw_g (lw_at lw_m3 237 rfl) rfl
theorem q809 : (Jvm.Cond.soleField "SafeClears" "kept") ∈ lw_all := lw_g (lw_at lw_m3 238 rfl) rfl
theorem q810 : (Jvm.Cond.lays "SafeClears" "SafeClears" "counted" "I") ∈ lw_all := lw_g (lw_at lw_m3 239 rfl) rfl
theorem q811 : (Jvm.Cond.soleField "SafeClears" "counted") ∈ lw_all := lw_g (lw_at lw_m4 0 rfl) rfl
theorem q812 : (Jvm.Cond.laysFinal "SafeClears" "SafeClears" "text" "[B") ∈ lw_all := lw_g (lw_at lw_m4 1 rfl) rfl
theorem q813 : (Jvm.Cond.soleField "SafeClears" "text") ∈ lw_all := lw_g (lw_at lw_m4 2 rfl) rfl
theorem q814 : (Jvm.Cond.lays "SafeClears" "SafeClears" "texted" "I") ∈ lw_all := lw_g (lw_at lw_m4 3 rfl) rfl
theorem q815 : (Jvm.Cond.soleField "SafeClears" "texted") ∈ lw_all := lw_g (lw_at lw_m4 4 rfl) rfl
theorem q816 : (Jvm.Cond.laysFinal "SafeClears" "SafeClears" "takenFor" "[LSafeClears$Anyone;") ∈ lw_all := lw_g (lw_at lw_m4 5 rfl) rfl
theorem q817 : (Jvm.Cond.soleField "SafeClears" "takenFor") ∈ lw_all := lw_g (lw_at lw_m4 6 rfl) rfl
theorem q818 : (Jvm.Cond.laysFinal "SafeClears" "SafeClears" "greenSets" "[I") ∈ lw_all := lw_g (lw_at lw_m4 7 rfl) rfl
theorem q819 : (Jvm.Cond.soleField "SafeClears" "greenSets") ∈ lw_all := lw_g (lw_at lw_m4 8 rfl) rfl
theorem q820 : (Jvm.Cond.lays "SafeClears" "SafeClears" "hasImage" "Z") ∈ lw_all := lw_g (lw_at lw_m4 9 rfl) rfl
theorem q821 : (Jvm.Cond.soleField "SafeClears" "hasImage") ∈ lw_all := lw_g (lw_at lw_m4 10 rfl) rfl
theorem q822 : (Jvm.Cond.laysFinal "SafeClears" "SafeClears" "tapes" "[LSafeClears$Tape;") ∈ lw_all := lw_g (lw_at lw_m4 11 rfl) rfl
theorem q823 : (Jvm.Cond.soleField "SafeClears" "tapes") ∈ lw_all := lw_g (lw_at lw_m4 12 rfl) rfl
theorem q824 : (Jvm.Cond.superclass "SafeClears" "java/lang/Object") ∈ lw_all := lw_g (lw_at lw_m4 13 rfl) rfl
theorem q826 : (Jvm.Cond.instanceMethod ({ cls := "SafeClears", name := "signal", desc := "(II)I" } : Jvm.MethodName)) ∈ lw_all := lw_g (lw_at lw_m4 15 rfl) rfl
theorem q827 : (Jvm.Cond.selects "SafeClears" ({ cls := "SafeClears", name := "signal", desc := "(II)I" } : Jvm.MethodName) ({ cls := "SafeClears", name := "signal", desc := "(II)I" } : Jvm.MethodName)) ∈ lw_all := lw_g (lw_at lw_m4 16 rfl) rfl
theorem q828 : (Jvm.Cond.code ({ cls := "SafeClears", name := "signal", desc := "(II)I" } : Jvm.MethodName) prog_1_method_9_code (4 : Nat) (Option.some Jvm.ClassFile.FieldType.int)) ∈ lw_all := lw_g (lw_at lw_m4 17 rfl) rfl
theorem q829 : (Jvm.Cond.constantLong "SafeClears" (78 : Nat) (3 : Int64)) ∈ lw_all := lw_g (lw_at lw_m4 18 rfl) rfl
theorem q830 : (Jvm.Cond.methodLink "SafeClears" (74 : Nat) ({ cls := "SafeClears", name := "in", desc := "(JJJ)Z" } : Jvm.MethodName)) ∈ lw_all := lw_g (lw_at lw_m4 19 rfl) rfl
theorem q831 : (Jvm.Cond.static ({ cls := "SafeClears", name := "in", desc := "(JJJ)Z" } : Jvm.MethodName)) ∈ lw_all := lw_g (lw_at lw_m4 20 rfl) rfl
theorem q832 : (Jvm.Cond.code ({ cls := "SafeClears", name := "in", desc := "(JJJ)Z" } : Jvm.MethodName) prog_1_method_1_code (6 : Nat) (Option.some Jvm.ClassFile.FieldType.boolean)) ∈ lw_all := lw_g (lw_at lw_m4 21 rfl) rfl
theorem q833 : (Jvm.Cond.constantLong "SafeClears" (80 : Nat) (63 : Int64)) ∈ lw_all := lw_g (lw_at lw_m4 22 rfl) rfl
theorem q834 : (Jvm.Cond.methodLink "SafeClears" (82 : Nat) ({ cls := "SafeClears", name := "are", desc := "([Z)Z" } : Jvm.MethodName)) ∈ lw_all := lw_g (lw_at lw_m4 23 rfl) rfl
theorem q835 : (Jvm.Cond.static ({ cls := "SafeClears", name := "are", desc := "([Z)Z" } : Jvm.MethodName)) ∈ lw_all := lw_g (lw_at lw_m4 24 rfl) rfl
theorem q836 : (Jvm.Cond.code ({ cls := "SafeClears", name := "are", desc := "([Z)Z" } : Jvm.MethodName) prog_1_method_2_code (5 : Nat) (Option.some Jvm.ClassFile.FieldType.boolean)) ∈ lw_all := lw_g (lw_at lw_m4 25 rfl) rfl
theorem q837 : (Jvm.Cond.methodLink "SafeClears" (94 : Nat) ({ cls := "SafeClears$Kind", name := "of", desc := "(I)LSafeClears$Kind;" } : Jvm.MethodName)) ∈ lw_all := lw_g (lw_at lw_m4 26 rfl) rfl
theorem q847 : (Jvm.Cond.methodLink "SafeClears" (100 : Nat) ({ cls := "SafeClears$Signal", name := "begins", desc := "(LSafeClears$Kind;)V" } : Jvm.MethodName)) ∈ lw_all := lw_g (lw_at lw_m4 36 rfl) rfl
theorem q855 : (Jvm.Cond.methodLink "SafeClears" (106 : Nat) ({ cls := "SafeClears$Signal", name := "goesOver", desc := "(I)V" } : Jvm.MethodName)) ∈ lw_all := lw_g (lw_at lw_m4 44 rfl) rfl
theorem q903 : (Jvm.Cond.methodLink "SafeClears" (109 : Nat) ({ cls := "SafeClears$World", name := "settles", desc := "()V" } : Jvm.MethodName)) ∈ lw_all := lw_g (lw_at lw_m4 92 rfl) rfl
theorem q928 : (Jvm.Cond.instanceMethod ({ cls := "SafeClears", name := "goes", desc := "(II)I" } : Jvm.MethodName)) ∈ lw_all := lw_g (lw_at lw_m4 117 rfl) rfl
theorem q929 : (Jvm.Cond.selects "SafeClears" ({ cls := "SafeClears", name := "goes", desc := "(II)I" } : Jvm.MethodName) ({ cls := "SafeClears", name := "goes", desc := "(II)I" } : Jvm.MethodName)) ∈ lw_all := lw_g (lw_at lw_m4 118 rfl) rfl
theorem q930 : (Jvm.Cond.code ({ cls := "SafeClears", name := "goes", desc := "(II)I" } : Jvm.MethodName) prog_1_method_10_code (4 : Nat) (Option.some Jvm.ClassFile.FieldType.int)) ∈ lw_all := lw_g (lw_at lw_m4 119 rfl) rfl
theorem q931 : (Jvm.Cond.methodLink "SafeClears" (112 : Nat) ({ cls := "SafeClears", name := "isSignal", desc := "(I)Z" } : Jvm.MethodName)) ∈ lw_all := lw_g (lw_at lw_m4 120 rfl) rfl
theorem q932 : (Jvm.Cond.privateMethod ({ cls := "SafeClears", name := "isSignal", desc := "(I)Z" } : Jvm.MethodName)) ∈ lw_tbl := lw_at lw_m4 121 rfl
theorem q933 : (Jvm.Cond.instanceMethod ({ cls := "SafeClears", name := "isSignal", desc := "(I)Z" } : Jvm.MethodName)) ∈ lw_all := lw_g (lw_at lw_m4 122 rfl) rfl
theorem q934 : (Jvm.Cond.code ({ cls := "SafeClears", name := "isSignal", desc := "(I)Z" } : Jvm.MethodName) prog_1_method_8_code (2 : Nat) (Option.some Jvm.ClassFile.FieldType.boolean)) ∈ lw_all := lw_g (lw_at lw_m4 123 rfl) rfl
theorem q935 : (Jvm.Cond.methodLink "SafeClears" (120 : Nat) ({ cls := "java/util/BitSet", name := "get", desc := "(I)Z" } : Jvm.MethodName)) ∈ lw_all := lw_g (lw_at lw_m4 124 rfl) rfl
theorem q937 : (Jvm.Cond.instanceMethod ({ cls := "SafeClears", name := "tell", desc := "(III)I" } : Jvm.MethodName)) ∈ lw_all := lw_g (lw_at lw_m4 126 rfl) rfl
theorem q938 : (Jvm.Cond.selects "SafeClears" ({ cls := "SafeClears", name := "tell", desc := "(III)I" } : Jvm.MethodName) ({ cls := "SafeClears", name := "tell", desc := "(III)I" } : Jvm.MethodName)) ∈ lw_all := lw_g (lw_at lw_m4 127 rfl) rfl
theorem q939 : (Jvm.Cond.code ({ cls := "SafeClears", name := "tell", desc := "(III)I" } : Jvm.MethodName) prog_1_method_11_code (7 : Nat) (Option.some Jvm.ClassFile.FieldType.int)) ∈ lw_all := lw_g (lw_at lw_m4 128 rfl) rfl
theorem q940 : (Jvm.Cond.methodLink "SafeClears" (131 : Nat) ({ cls := "SafeClears$Signal", name := "most", desc := "()I" } : Jvm.MethodName)) ∈ lw_all := lw_g (lw_at lw_m4 129 rfl) rfl
theorem q944 : (Jvm.Cond.methodLink "SafeClears" (135 : Nat) ({ cls := "java/lang/Math", name := "min", desc := "(II)I" } : Jvm.MethodName)) ∈ lw_all := lw_g (lw_at lw_m4 133 rfl) rfl
theorem q945 : (Jvm.Cond.methodLink "SafeClears" (141 : Nat) ({ cls := "SafeClears$Signal", name := "least", desc := "()I" } : Jvm.MethodName)) ∈ lw_all := lw_g (lw_at lw_m4 134 rfl) rfl
theorem q949 : (Jvm.Cond.constantLong "SafeClears" (144 : Nat) (99 : Int64)) ∈ lw_all := lw_g (lw_at lw_m4 138 rfl) rfl
theorem q950 : (Jvm.Cond.constantLong "SafeClears" (146 : Nat) (9 : Int64)) ∈ lw_all := lw_g (lw_at lw_m4 139 rfl) rfl
theorem q951 : (Jvm.Cond.constantLong "SafeClears" (148 : Nat) (60 : Int64)) ∈ lw_all := lw_g (lw_at lw_m4 140 rfl) rfl
theorem q953 : (Jvm.Cond.instanceMethod ({ cls := "SafeClears", name := "feed", desc := "(I)I" } : Jvm.MethodName)) ∈ lw_all := lw_g (lw_at lw_m4 142 rfl) rfl
theorem q954 : (Jvm.Cond.selects "SafeClears" ({ cls := "SafeClears", name := "feed", desc := "(I)I" } : Jvm.MethodName) ({ cls := "SafeClears", name := "feed", desc := "(I)I" } : Jvm.MethodName)) ∈ lw_all := lw_g (lw_at lw_m4 143 rfl) rfl
theorem q955 : (Jvm.Cond.code ({ cls := "SafeClears", name := "feed", desc := "(I)I" } : Jvm.MethodName) prog_1_method_12_code (2 : Nat) (Option.some Jvm.ClassFile.FieldType.int)) ∈ lw_all := lw_g (lw_at lw_m4 144 rfl) rfl
theorem q956 : (Jvm.Cond.constantLong "SafeClears" (153 : Nat) (127 : Int64)) ∈ lw_all := lw_g (lw_at lw_m4 145 rfl) rfl
theorem q958 : (Jvm.Cond.instanceMethod ({ cls := "SafeClears", name := "read", desc := "()I" } : Jvm.MethodName)) ∈ lw_all := lw_g (lw_at lw_m4 147 rfl) rfl
theorem q959 : (Jvm.Cond.selects "SafeClears" ({ cls := "SafeClears", name := "read", desc := "()I" } : Jvm.MethodName) ({ cls := "SafeClears", name := "read", desc := "()I" } : Jvm.MethodName)) ∈ lw_all := lw_g (lw_at lw_m4 148 rfl) rfl
theorem q960 : (Jvm.Cond.codeWith ({ cls := "SafeClears", name := "read", desc := "()I" } : Jvm.MethodName) prog_1_method_13_code (5 : Nat) (Option.some Jvm.ClassFile.FieldType.int) [((9 : Nat), (22 : Nat), (132 : Nat), (173 : Nat)), ((29 : Nat), (53 : Nat), (132 : Nat), (173 : Nat)), ((60 : Nat), (125 : Nat), (132 : Nat), (173 : Nat)), ((9 : Nat), (22 : Nat), (148 : Nat), (0 : Nat)), ((29 : Nat), (53 : Nat), (148 : Nat), (0 : Nat)), ((60 : Nat), (125 : Nat), (148 : Nat), (0 : Nat)), ((132 : Nat), (141 : Nat), (148 : Nat), (0 : Nat)), ((148 : Nat), (150 : Nat), (148 : Nat), (0 : Nat))]) ∈ lw_all := lw_g (lw_at lw_m4 149 rfl) rfl
theorem q961 : (Jvm.Cond.classLink "SafeClears" (173 : Nat) "SafeClears$Fault") ∈ lw_all := lw_g (lw_at lw_m4 150 rfl) rfl
theorem q962 : (Jvm.Cond.classLink "SafeClears" (158 : Nat) "SafeClears$Reader") ∈ lw_all := lw_g (lw_at lw_m4 151 rfl) rfl
theorem q964 : (Jvm.Cond.methodLinkNest "SafeClears" (160 : Nat) ({ cls := "SafeClears$Reader", name := "<init>", desc := "(LSafeClears;)V" } : Jvm.MethodName) "SafeClears") ∈ lw_tbl := lw_at lw_m4 153 rfl
theorem q971 : (Jvm.Cond.fieldLinkNest "SafeClears" (167 : Nat) "SafeClears$Reader" "read" "[LSafeClears$Signal;" "SafeClears") ∈ lw_tbl := lw_at lw_m4 160 rfl
theorem q973 : (Jvm.Cond.fieldLinkNest "SafeClears" (166 : Nat) "SafeClears$Reader" "many" "I" "SafeClears") ∈ lw_tbl := lw_at lw_m4 162 rfl
theorem q985 : (Jvm.Cond.methodLink "SafeClears" (163 : Nat) ({ cls := "SafeClears$Reader", name := "reads", desc := "()V" } : Jvm.MethodName)) ∈ lw_all := lw_g (lw_at lw_m4 174 rfl) rfl
theorem q998 : (Jvm.Cond.laysStatic "SafeClears" "KIND_OF" "[I") ∈ lw_tbl := lw_at lw_m4 187 rfl
theorem q1018 : (Jvm.Cond.fieldLinkNest "SafeClears" (175 : Nat) "SafeClears$Fault" "place" "I" "SafeClears") ∈ lw_tbl := lw_at lw_m4 207 rfl
theorem q1047 : (Jvm.Cond.methodLink "SafeClears" (170 : Nat) ({ cls := "SafeClears$Signal", name := "like", desc := "(LSafeClears$Signal;)V" } : Jvm.MethodName)) ∈ lw_all := lw_g (lw_at lw_m4 236 rfl) rfl
theorem q1057 : (Jvm.Cond.instanceMethod ({ cls := "SafeClears", name := "safety", desc := "(I)I" } : Jvm.MethodName)) ∈ lw_all := lw_g (lw_at lw_m5 6 rfl) rfl
theorem q1058 : (Jvm.Cond.selects "SafeClears" ({ cls := "SafeClears", name := "safety", desc := "(I)I" } : Jvm.MethodName) ({ cls := "SafeClears", name := "safety", desc := "(I)I" } : Jvm.MethodName)) ∈ lw_all := lw_g (lw_at lw_m5 7 rfl) rfl
theorem q1059 : (Jvm.Cond.code ({ cls := "SafeClears", name := "safety", desc := "(I)I" } : Jvm.MethodName) prog_1_method_14_code (3 : Nat) (Option.some Jvm.ClassFile.FieldType.int)) ∈ lw_all := lw_g (lw_at lw_m5 8 rfl) rfl
theorem q1060 : (Jvm.Cond.constantLong "SafeClears" (178 : Nat) (5 : Int64)) ∈ lw_all := lw_g (lw_at lw_m5 9 rfl) rfl
theorem q1062 : (Jvm.Cond.instanceMethod ({ cls := "SafeClears", name := "phase", desc := "(II)I" } : Jvm.MethodName)) ∈ lw_all := lw_g (lw_at lw_m5 11 rfl) rfl
theorem q1063 : (Jvm.Cond.selects "SafeClears" ({ cls := "SafeClears", name := "phase", desc := "(II)I" } : Jvm.MethodName) ({ cls := "SafeClears", name := "phase", desc := "(II)I" } : Jvm.MethodName)) ∈ lw_all := lw_g (lw_at lw_m5 12 rfl) rfl
theorem q1064 : (Jvm.Cond.code ({ cls := "SafeClears", name := "phase", desc := "(II)I" } : Jvm.MethodName) prog_1_method_16_code (3 : Nat) (Option.some Jvm.ClassFile.FieldType.int)) ∈ lw_all := lw_g (lw_at lw_m5 13 rfl) rfl
theorem q1065 : (Jvm.Cond.constantLong "SafeClears" (187 : Nat) (239 : Int64)) ∈ lw_all := lw_g (lw_at lw_m5 14 rfl) rfl
theorem q1066 : (Jvm.Cond.methodLink "SafeClears" (189 : Nat) ({ cls := "SafeClears", name := "meetIn", desc := "(I)Z" } : Jvm.MethodName)) ∈ lw_all := lw_g (lw_at lw_m5 15 rfl) rfl
theorem q1067 : (Jvm.Cond.privateMethod ({ cls := "SafeClears", name := "meetIn", desc := "(I)Z" } : Jvm.MethodName)) ∈ lw_tbl := lw_at lw_m5 16 rfl
theorem q1068 : (Jvm.Cond.instanceMethod ({ cls := "SafeClears", name := "meetIn", desc := "(I)Z" } : Jvm.MethodName)) ∈ lw_all := lw_g (lw_at lw_m5 17 rfl) rfl
theorem q1069 : (Jvm.Cond.code ({ cls := "SafeClears", name := "meetIn", desc := "(I)Z" } : Jvm.MethodName) prog_1_method_15_code (3 : Nat) (Option.some Jvm.ClassFile.FieldType.boolean)) ∈ lw_all := lw_g (lw_at lw_m5 18 rfl) rfl
theorem q1070 : (Jvm.Cond.methodLink "SafeClears" (183 : Nat) ({ cls := "SafeClears$World", name := "meets", desc := "(I)I" } : Jvm.MethodName)) ∈ lw_all := lw_g (lw_at lw_m5 19 rfl) rfl
theorem q1082 : (Jvm.Cond.methodLink "SafeClears" (196 : Nat) ({ cls := "SafeClears$Phase", name := "is", desc := "(III)V" } : Jvm.MethodName)) ∈ lw_all := lw_g (lw_at lw_m5 31 rfl) rfl
theorem q1087 : (Jvm.Cond.instanceMethod ({ cls := "SafeClears", name := "start", desc := "()I" } : Jvm.MethodName)) ∈ lw_all := lw_g (lw_at lw_m5 36 rfl) rfl
theorem q1088 : (Jvm.Cond.selects "SafeClears" ({ cls := "SafeClears", name := "start", desc := "()I" } : Jvm.MethodName) ({ cls := "SafeClears", name := "start", desc := "()I" } : Jvm.MethodName)) ∈ lw_all := lw_g (lw_at lw_m5 37 rfl) rfl
theorem q1089 : (Jvm.Cond.code ({ cls := "SafeClears", name := "start", desc := "()I" } : Jvm.MethodName) prog_1_method_17_code (1 : Nat) (Option.some Jvm.ClassFile.FieldType.int)) ∈ lw_all := lw_g (lw_at lw_m5 38 rfl) rfl
theorem q1091 : (Jvm.Cond.instanceMethod ({ cls := "SafeClears", name := "cycle", desc := "(III)I" } : Jvm.MethodName)) ∈ lw_all := lw_g (lw_at lw_m5 40 rfl) rfl
theorem q1092 : (Jvm.Cond.selects "SafeClears" ({ cls := "SafeClears", name := "cycle", desc := "(III)I" } : Jvm.MethodName) ({ cls := "SafeClears", name := "cycle", desc := "(III)I" } : Jvm.MethodName)) ∈ lw_all := lw_g (lw_at lw_m5 41 rfl) rfl
theorem q1093 : (Jvm.Cond.code ({ cls := "SafeClears", name := "cycle", desc := "(III)I" } : Jvm.MethodName) prog_1_method_18_code (5 : Nat) (Option.some Jvm.ClassFile.FieldType.int)) ∈ lw_all := lw_g (lw_at lw_m5 42 rfl) rfl
theorem q1094 : (Jvm.Cond.constantLong "SafeClears" (208 : Nat) (20 : Int64)) ∈ lw_all := lw_g (lw_at lw_m5 43 rfl) rfl
theorem q1095 : (Jvm.Cond.constantLong "SafeClears" (210 : Nat) (240 : Int64)) ∈ lw_all := lw_g (lw_at lw_m5 44 rfl) rfl
theorem q1097 : (Jvm.Cond.instanceMethod ({ cls := "SafeClears", name := "come", desc := "(II)I" } : Jvm.MethodName)) ∈ lw_all := lw_g (lw_at lw_m5 46 rfl) rfl
theorem q1098 : (Jvm.Cond.selects "SafeClears" ({ cls := "SafeClears", name := "come", desc := "(II)I" } : Jvm.MethodName) ({ cls := "SafeClears", name := "come", desc := "(II)I" } : Jvm.MethodName)) ∈ lw_all := lw_g (lw_at lw_m5 47 rfl) rfl
theorem q1099 : (Jvm.Cond.code ({ cls := "SafeClears", name := "come", desc := "(II)I" } : Jvm.MethodName) prog_1_method_19_code (5 : Nat) (Option.some Jvm.ClassFile.FieldType.int)) ∈ lw_all := lw_g (lw_at lw_m5 48 rfl) rfl
theorem q1100 : (Jvm.Cond.methodLink "SafeClears" (224 : Nat) ({ cls := "SafeClears$Signal", name := "comes", desc := "(I)V" } : Jvm.MethodName)) ∈ lw_all := lw_g (lw_at lw_m5 49 rfl) rfl
theorem q1105 : (Jvm.Cond.instanceMethod ({ cls := "SafeClears", name := "seed", desc := "(I)I" } : Jvm.MethodName)) ∈ lw_all := lw_g (lw_at lw_m5 54 rfl) rfl
theorem q1106 : (Jvm.Cond.selects "SafeClears" ({ cls := "SafeClears", name := "seed", desc := "(I)I" } : Jvm.MethodName) ({ cls := "SafeClears", name := "seed", desc := "(I)I" } : Jvm.MethodName)) ∈ lw_all := lw_g (lw_at lw_m5 55 rfl) rfl
theorem q1107 : (Jvm.Cond.code ({ cls := "SafeClears", name := "seed", desc := "(I)I" } : Jvm.MethodName) prog_1_method_20_code (3 : Nat) (Option.some Jvm.ClassFile.FieldType.int)) ∈ lw_all := lw_g (lw_at lw_m5 56 rfl) rfl
theorem q1109 : (Jvm.Cond.instanceMethod ({ cls := "SafeClears", name := "emergency", desc := "(I)I" } : Jvm.MethodName)) ∈ lw_all := lw_g (lw_at lw_m5 58 rfl) rfl
theorem q1110 : (Jvm.Cond.selects "SafeClears" ({ cls := "SafeClears", name := "emergency", desc := "(I)I" } : Jvm.MethodName) ({ cls := "SafeClears", name := "emergency", desc := "(I)I" } : Jvm.MethodName)) ∈ lw_all := lw_g (lw_at lw_m5 59 rfl) rfl
theorem q1111 : (Jvm.Cond.code ({ cls := "SafeClears", name := "emergency", desc := "(I)I" } : Jvm.MethodName) prog_1_method_21_code (2 : Nat) (Option.some Jvm.ClassFile.FieldType.int)) ∈ lw_all := lw_g (lw_at lw_m5 60 rfl) rfl
theorem q1112 : (Jvm.Cond.methodLink "SafeClears" (236 : Nat) ({ cls := "SafeClears$World", name := "phaseWith", desc := "(I)I" } : Jvm.MethodName)) ∈ lw_all := lw_g (lw_at lw_m5 61 rfl) rfl
theorem q1120 : (Jvm.Cond.methodLink "SafeClears" (239 : Nat) ({ cls := "SafeClears$World", name := "comesToEmergency", desc := "(I)V" } : Jvm.MethodName)) ∈ lw_all := lw_g (lw_at lw_m5 69 rfl) rfl
theorem q1126 : (Jvm.Cond.instanceMethod ({ cls := "SafeClears", name := "over", desc := "()I" } : Jvm.MethodName)) ∈ lw_all := lw_g (lw_at lw_m5 75 rfl) rfl
theorem q1127 : (Jvm.Cond.selects "SafeClears" ({ cls := "SafeClears", name := "over", desc := "()I" } : Jvm.MethodName) ({ cls := "SafeClears", name := "over", desc := "()I" } : Jvm.MethodName)) ∈ lw_all := lw_g (lw_at lw_m5 76 rfl) rfl
theorem q1128 : (Jvm.Cond.code ({ cls := "SafeClears", name := "over", desc := "()I" } : Jvm.MethodName) prog_1_method_22_code (2 : Nat) (Option.some Jvm.ClassFile.FieldType.int)) ∈ lw_all := lw_g (lw_at lw_m5 77 rfl) rfl
theorem q1130 : (Jvm.Cond.instanceMethod ({ cls := "SafeClears", name := "pass", desc := "(I)I" } : Jvm.MethodName)) ∈ lw_all := lw_g (lw_at lw_m5 79 rfl) rfl
theorem q1131 : (Jvm.Cond.selects "SafeClears" ({ cls := "SafeClears", name := "pass", desc := "(I)I" } : Jvm.MethodName) ({ cls := "SafeClears", name := "pass", desc := "(I)I" } : Jvm.MethodName)) ∈ lw_all := lw_g (lw_at lw_m5 80 rfl) rfl
theorem q1132 : (Jvm.Cond.code ({ cls := "SafeClears", name := "pass", desc := "(I)I" } : Jvm.MethodName) prog_1_method_23_code (3 : Nat) (Option.some Jvm.ClassFile.FieldType.int)) ∈ lw_all := lw_g (lw_at lw_m5 81 rfl) rfl
theorem q1133 : (Jvm.Cond.methodLink "SafeClears" (242 : Nat) ({ cls := "SafeClears", name := "counts", desc := "(I)Z" } : Jvm.MethodName)) ∈ lw_all := lw_g (lw_at lw_m5 82 rfl) rfl
theorem q1134 : (Jvm.Cond.privateMethod ({ cls := "SafeClears", name := "counts", desc := "(I)Z" } : Jvm.MethodName)) ∈ lw_tbl := lw_at lw_m5 83 rfl
theorem q1135 : (Jvm.Cond.instanceMethod ({ cls := "SafeClears", name := "counts", desc := "(I)Z" } : Jvm.MethodName)) ∈ lw_all := lw_g (lw_at lw_m5 84 rfl) rfl
theorem q1136 : (Jvm.Cond.code ({ cls := "SafeClears", name := "counts", desc := "(I)Z" } : Jvm.MethodName) prog_1_method_5_code (2 : Nat) (Option.some Jvm.ClassFile.FieldType.boolean)) ∈ lw_all := lw_g (lw_at lw_m5 85 rfl) rfl
theorem q1137 : (Jvm.Cond.methodLink "SafeClears" (248 : Nat) ({ cls := "SafeClears$World", name := "passes", desc := "(I)LSafeClears$World;" } : Jvm.MethodName)) ∈ lw_all := lw_g (lw_at lw_m5 86 rfl) rfl
theorem q1248 : (Jvm.Cond.instanceMethod ({ cls := "SafeClears", name := "told", desc := "(I)I" } : Jvm.MethodName)) ∈ lw_all := lw_g (lw_at lw_m5 197 rfl) rfl
theorem q1249 : (Jvm.Cond.selects "SafeClears" ({ cls := "SafeClears", name := "told", desc := "(I)I" } : Jvm.MethodName) ({ cls := "SafeClears", name := "told", desc := "(I)I" } : Jvm.MethodName)) ∈ lw_all := lw_g (lw_at lw_m5 198 rfl) rfl
theorem q1250 : (Jvm.Cond.code ({ cls := "SafeClears", name := "told", desc := "(I)I" } : Jvm.MethodName) prog_1_method_25_code (2 : Nat) (Option.some Jvm.ClassFile.FieldType.int)) ∈ lw_all := lw_g (lw_at lw_m5 199 rfl) rfl
theorem q1251 : (Jvm.Cond.constantLong "SafeClears" (273 : Nat) (18 : Int64)) ∈ lw_all := lw_g (lw_at lw_m5 200 rfl) rfl
theorem q1252 : (Jvm.Cond.methodLink "SafeClears" (275 : Nat) ({ cls := "SafeClears", name := "toldOf", desc := "(LSafeClears$World;I)I" } : Jvm.MethodName)) ∈ lw_all := lw_g (lw_at lw_m5 201 rfl) rfl
theorem q1253 : (Jvm.Cond.static ({ cls := "SafeClears", name := "toldOf", desc := "(LSafeClears$World;I)I" } : Jvm.MethodName)) ∈ lw_all := lw_g (lw_at lw_m5 202 rfl) rfl
theorem q1254 : (Jvm.Cond.code ({ cls := "SafeClears", name := "toldOf", desc := "(LSafeClears$World;I)I" } : Jvm.MethodName) prog_1_method_24_code (2 : Nat) (Option.some Jvm.ClassFile.FieldType.int)) ∈ lw_all := lw_g (lw_at lw_m5 203 rfl) rfl
theorem q1255 : (Jvm.Cond.methodLink "SafeClears" (261 : Nat) ({ cls := "SafeClears$World", name := "withLight", desc := "(I)I" } : Jvm.MethodName)) ∈ lw_all := lw_g (lw_at lw_m5 204 rfl) rfl
theorem q1263 : (Jvm.Cond.methodLink "SafeClears" (264 : Nat) ({ cls := "SafeClears$World", name := "calledPhases", desc := "()I" } : Jvm.MethodName)) ∈ lw_all := lw_g (lw_at lw_m5 212 rfl) rfl
theorem q1267 : (Jvm.Cond.methodLink "SafeClears" (267 : Nat) ({ cls := "SafeClears$World", name := "local", desc := "()I" } : Jvm.MethodName)) ∈ lw_all := lw_g (lw_at lw_m5 216 rfl) rfl
theorem q1268 : (Jvm.Cond.methodLink "SafeClears" (270 : Nat) ({ cls := "SafeClears$World", name := "queues", desc := "()I" } : Jvm.MethodName)) ∈ lw_all := lw_g (lw_at lw_m5 217 rfl) rfl
theorem q1273 : (Jvm.Cond.instanceMethod ({ cls := "SafeClears", name := "of", desc := "(II)I" } : Jvm.MethodName)) ∈ lw_all := lw_g (lw_at lw_m5 222 rfl) rfl
theorem q1274 : (Jvm.Cond.selects "SafeClears" ({ cls := "SafeClears", name := "of", desc := "(II)I" } : Jvm.MethodName) ({ cls := "SafeClears", name := "of", desc := "(II)I" } : Jvm.MethodName)) ∈ lw_all := lw_g (lw_at lw_m5 223 rfl) rfl
theorem q1275 : (Jvm.Cond.code ({ cls := "SafeClears", name := "of", desc := "(II)I" } : Jvm.MethodName) prog_1_method_26_code (4 : Nat) (Option.some Jvm.ClassFile.FieldType.int)) ∈ lw_all := lw_g (lw_at lw_m5 224 rfl) rfl
theorem q1276 : (Jvm.Cond.constantLong "SafeClears" (279 : Nat) (13 : Int64)) ∈ lw_all := lw_g (lw_at lw_m5 225 rfl) rfl
theorem q1277 : (Jvm.Cond.methodLink "SafeClears" (285 : Nat) ({ cls := "SafeClears$Kind", name := "ordinal", desc := "()I" } : Jvm.MethodName)) ∈ lw_all := lw_g (lw_at lw_m5 226 rfl) rfl
theorem q1286 : (Jvm.Cond.methodLink "SafeClears" (288 : Nat) ({ cls := "SafeClears$World", name := "light", desc := "(I)I" } : Jvm.MethodName)) ∈ lw_all := lw_g (lw_at lw_m5 235 rfl) rfl
theorem q1287 : (Jvm.Cond.methodLink "SafeClears" (301 : Nat) ({ cls := "java/util/BitSet", name := "cardinality", desc := "()I" } : Jvm.MethodName)) ∈ lw_all := lw_g (lw_at lw_m5 236 rfl) rfl
theorem q1298 : (Jvm.Cond.instanceMethod ({ cls := "SafeClears", name := "way", desc := "(II)I" } : Jvm.MethodName)) ∈ lw_all := lw_g (lw_at lw_m6 7 rfl) rfl
theorem q1299 : (Jvm.Cond.selects "SafeClears" ({ cls := "SafeClears", name := "way", desc := "(II)I" } : Jvm.MethodName) ({ cls := "SafeClears", name := "way", desc := "(II)I" } : Jvm.MethodName)) ∈ lw_all := lw_g (lw_at lw_m6 8 rfl) rfl
theorem q1300 : (Jvm.Cond.code ({ cls := "SafeClears", name := "way", desc := "(II)I" } : Jvm.MethodName) prog_1_method_27_code (3 : Nat) (Option.some Jvm.ClassFile.FieldType.int)) ∈ lw_all := lw_g (lw_at lw_m6 9 rfl) rfl
theorem q1302 : (Jvm.Cond.instanceMethod ({ cls := "SafeClears", name := "clear", desc := "(II)I" } : Jvm.MethodName)) ∈ lw_all := lw_g (lw_at lw_m6 11 rfl) rfl
theorem q1303 : (Jvm.Cond.selects "SafeClears" ({ cls := "SafeClears", name := "clear", desc := "(II)I" } : Jvm.MethodName) ({ cls := "SafeClears", name := "clear", desc := "(II)I" } : Jvm.MethodName)) ∈ lw_all := lw_g (lw_at lw_m6 12 rfl) rfl
theorem q1304 : (Jvm.Cond.code ({ cls := "SafeClears", name := "clear", desc := "(II)I" } : Jvm.MethodName) prog_1_method_28_code (3 : Nat) (Option.some Jvm.ClassFile.FieldType.int)) ∈ lw_all := lw_g (lw_at lw_m6 13 rfl) rfl
theorem q1305 : (Jvm.Cond.methodLink "SafeClears" (310 : Nat) ({ cls := "SafeClears$World", name := "clearOf", desc := "(II)I" } : Jvm.MethodName)) ∈ lw_all := lw_g (lw_at lw_m6 14 rfl) rfl
theorem q1307 : (Jvm.Cond.instanceMethod ({ cls := "SafeClears", name := "narrow", desc := "(II)I" } : Jvm.MethodName)) ∈ lw_all := lw_g (lw_at lw_m6 16 rfl) rfl
theorem q1308 : (Jvm.Cond.selects "SafeClears" ({ cls := "SafeClears", name := "narrow", desc := "(II)I" } : Jvm.MethodName) ({ cls := "SafeClears", name := "narrow", desc := "(II)I" } : Jvm.MethodName)) ∈ lw_all := lw_g (lw_at lw_m6 17 rfl) rfl
theorem q1309 : (Jvm.Cond.code ({ cls := "SafeClears", name := "narrow", desc := "(II)I" } : Jvm.MethodName) prog_1_method_29_code (3 : Nat) (Option.some Jvm.ClassFile.FieldType.int)) ∈ lw_all := lw_g (lw_at lw_m6 18 rfl) rfl
theorem q1310 : (Jvm.Cond.methodLink "SafeClears" (313 : Nat) ({ cls := "SafeClears$World", name := "meet", desc := "(II)Z" } : Jvm.MethodName)) ∈ lw_all := lw_g (lw_at lw_m6 19 rfl) rfl
theorem q1311 : (Jvm.Cond.methodLinkNest "SafeClears" (317 : Nat) ({ cls := "SafeClears$World", name := "narrowOf", desc := "(LSafeClears$Signal;LSafeClears$Signal;)I" } : Jvm.MethodName) "SafeClears") ∈ lw_tbl := lw_at lw_m6 20 rfl
theorem q1313 : (Jvm.Cond.instanceMethod ({ cls := "SafeClears", name := "table", desc := "(I)I" } : Jvm.MethodName)) ∈ lw_all := lw_g (lw_at lw_m6 22 rfl) rfl
theorem q1314 : (Jvm.Cond.selects "SafeClears" ({ cls := "SafeClears", name := "table", desc := "(I)I" } : Jvm.MethodName) ({ cls := "SafeClears", name := "table", desc := "(I)I" } : Jvm.MethodName)) ∈ lw_all := lw_g (lw_at lw_m6 23 rfl) rfl
theorem q1315 : (Jvm.Cond.code ({ cls := "SafeClears", name := "table", desc := "(I)I" } : Jvm.MethodName) prog_1_method_30_code (8 : Nat) (Option.some Jvm.ClassFile.FieldType.int)) ∈ lw_all := lw_g (lw_at lw_m6 24 rfl) rfl
theorem q1316 : (Jvm.Cond.methodLink "SafeClears" (321 : Nat) ({ cls := "java/lang/Math", name := "max", desc := "(II)I" } : Jvm.MethodName)) ∈ lw_all := lw_g (lw_at lw_m6 25 rfl) rfl
theorem q1318 : (Jvm.Cond.instanceMethod ({ cls := "SafeClears", name := "phaseOf", desc := "(II)I" } : Jvm.MethodName)) ∈ lw_all := lw_g (lw_at lw_m6 27 rfl) rfl
theorem q1319 : (Jvm.Cond.selects "SafeClears" ({ cls := "SafeClears", name := "phaseOf", desc := "(II)I" } : Jvm.MethodName) ({ cls := "SafeClears", name := "phaseOf", desc := "(II)I" } : Jvm.MethodName)) ∈ lw_all := lw_g (lw_at lw_m6 28 rfl) rfl
theorem q1320 : (Jvm.Cond.code ({ cls := "SafeClears", name := "phaseOf", desc := "(II)I" } : Jvm.MethodName) prog_1_method_31_code (4 : Nat) (Option.some Jvm.ClassFile.FieldType.int)) ∈ lw_all := lw_g (lw_at lw_m6 29 rfl) rfl
theorem q1321 : (Jvm.Cond.methodLink "SafeClears" (330 : Nat) ({ cls := "SafeClears$World", name := "isCalled", desc := "(I)Z" } : Jvm.MethodName)) ∈ lw_all := lw_g (lw_at lw_m6 30 rfl) rfl
theorem q1323 : (Jvm.Cond.instanceMethod ({ cls := "SafeClears", name := "taken", desc := "(II)I" } : Jvm.MethodName)) ∈ lw_all := lw_g (lw_at lw_m6 32 rfl) rfl
theorem q1324 : (Jvm.Cond.selects "SafeClears" ({ cls := "SafeClears", name := "taken", desc := "(II)I" } : Jvm.MethodName) ({ cls := "SafeClears", name := "taken", desc := "(II)I" } : Jvm.MethodName)) ∈ lw_all := lw_g (lw_at lw_m6 33 rfl) rfl
theorem q1325 : (Jvm.Cond.codeWith ({ cls := "SafeClears", name := "taken", desc := "(II)I" } : Jvm.MethodName) prog_1_method_32_code (5 : Nat) (Option.some Jvm.ClassFile.FieldType.int) [((46 : Nat), (80 : Nat), (113 : Nat), (341 : Nat)), ((81 : Nat), (88 : Nat), (113 : Nat), (341 : Nat)), ((89 : Nat), (96 : Nat), (113 : Nat), (341 : Nat)), ((97 : Nat), (104 : Nat), (113 : Nat), (341 : Nat)), ((105 : Nat), (112 : Nat), (113 : Nat), (341 : Nat))]) ∈ lw_all := lw_g (lw_at lw_m6 34 rfl) rfl
theorem q1326 : (Jvm.Cond.classLink "SafeClears" (341 : Nat) "java/lang/ClassCastException") ∈ lw_all := lw_g (lw_at lw_m6 35 rfl) rfl
theorem q1340 : (Jvm.Cond.constantLong "SafeClears" (333 : Nat) (4 : Int64)) ∈ lw_all := lw_g (lw_at lw_m6 49 rfl) rfl
theorem q1341 : (Jvm.Cond.methodLink "SafeClears" (335 : Nat) ({ cls := "SafeClears$Anyone", name := "kind", desc := "()I" } : Jvm.MethodName)) ∈ lw_all := lw_g (lw_at lw_m6 50 rfl) rfl
theorem q1349 : (Jvm.Cond.methodLink "SafeClears" (337 : Nat) ({ cls := "SafeClears$Wheels", name := "kind", desc := "()I" } : Jvm.MethodName)) ∈ lw_all := lw_g (lw_at lw_m6 58 rfl) rfl
theorem q1355 : (Jvm.Cond.methodLink "SafeClears" (338 : Nat) ({ cls := "SafeClears$Motor", name := "kind", desc := "()I" } : Jvm.MethodName)) ∈ lw_all := lw_g (lw_at lw_m6 64 rfl) rfl
theorem q1359 : (Jvm.Cond.methodLink "SafeClears" (339 : Nat) ({ cls := "SafeClears$Car", name := "kind", desc := "()I" } : Jvm.MethodName)) ∈ lw_all := lw_g (lw_at lw_m6 68 rfl) rfl
theorem q1362 : (Jvm.Cond.methodLink "SafeClears" (340 : Nat) ({ cls := "SafeClears$Walker", name := "kind", desc := "()I" } : Jvm.MethodName)) ∈ lw_all := lw_g (lw_at lw_m6 71 rfl) rfl
theorem q1366 : (Jvm.Cond.instanceMethod ({ cls := "SafeClears", name := "recorded", desc := "(II)I" } : Jvm.MethodName)) ∈ lw_all := lw_g (lw_at lw_m6 75 rfl) rfl
theorem q1367 : (Jvm.Cond.selects "SafeClears" ({ cls := "SafeClears", name := "recorded", desc := "(II)I" } : Jvm.MethodName) ({ cls := "SafeClears", name := "recorded", desc := "(II)I" } : Jvm.MethodName)) ∈ lw_all := lw_g (lw_at lw_m6 76 rfl) rfl
theorem q1368 : (Jvm.Cond.code ({ cls := "SafeClears", name := "recorded", desc := "(II)I" } : Jvm.MethodName) prog_1_method_33_code (4 : Nat) (Option.some Jvm.ClassFile.FieldType.int)) ∈ lw_all := lw_g (lw_at lw_m6 77 rfl) rfl
theorem q1369 : (Jvm.Cond.constantLong "SafeClears" (343 : Nat) (2 : Int64)) ∈ lw_all := lw_g (lw_at lw_m6 78 rfl) rfl
theorem q1370 : (Jvm.Cond.methodLink "SafeClears" (348 : Nat) ({ cls := "SafeClears$World", name := "latest", desc := "(I)LSafeClears$Green;" } : Jvm.MethodName)) ∈ lw_all := lw_g (lw_at lw_m6 79 rfl) rfl
theorem q1375 : (Jvm.Cond.instanceMethod ({ cls := "SafeClears", name := "greens", desc := "(II)I" } : Jvm.MethodName)) ∈ lw_all := lw_g (lw_at lw_m6 84 rfl) rfl
theorem q1376 : (Jvm.Cond.selects "SafeClears" ({ cls := "SafeClears", name := "greens", desc := "(II)I" } : Jvm.MethodName) ({ cls := "SafeClears", name := "greens", desc := "(II)I" } : Jvm.MethodName)) ∈ lw_all := lw_g (lw_at lw_m6 85 rfl) rfl
theorem q1377 : (Jvm.Cond.code ({ cls := "SafeClears", name := "greens", desc := "(II)I" } : Jvm.MethodName) prog_1_method_34_code (9 : Nat) (Option.some Jvm.ClassFile.FieldType.int)) ∈ lw_all := lw_g (lw_at lw_m6 86 rfl) rfl
theorem q1378 : (Jvm.Cond.interfaceEntry "SafeClears" (363 : Nat)) ∈ lw_tbl := lw_at lw_m6 87 rfl
theorem q1379 : (Jvm.Cond.methodLink "SafeClears" (363 : Nat) ({ cls := "SafeClears$Span", name := "lasts", desc := "()I" } : Jvm.MethodName)) ∈ lw_all := lw_g (lw_at lw_m6 88 rfl) rfl
theorem q1406 : (Jvm.Cond.instanceMethod ({ cls := "SafeClears", name := "could", desc := "(III)I" } : Jvm.MethodName)) ∈ lw_all := lw_g (lw_at lw_m6 115 rfl) rfl
theorem q1407 : (Jvm.Cond.selects "SafeClears" ({ cls := "SafeClears", name := "could", desc := "(III)I" } : Jvm.MethodName) ({ cls := "SafeClears", name := "could", desc := "(III)I" } : Jvm.MethodName)) ∈ lw_all := lw_g (lw_at lw_m6 116 rfl) rfl
theorem q1408 : (Jvm.Cond.code ({ cls := "SafeClears", name := "could", desc := "(III)I" } : Jvm.MethodName) prog_1_method_37_code (4 : Nat) (Option.some Jvm.ClassFile.FieldType.int)) ∈ lw_all := lw_g (lw_at lw_m6 117 rfl) rfl
theorem q1409 : (Jvm.Cond.constantLong "SafeClears" (385 : Nat) (9999 : Int64)) ∈ lw_all := lw_g (lw_at lw_m6 118 rfl) rfl
theorem q1410 : (Jvm.Cond.methodLink "SafeClears" (387 : Nat) ({ cls := "SafeClears", name := "couldOf", desc := "(III)I" } : Jvm.MethodName)) ∈ lw_all := lw_g (lw_at lw_m6 119 rfl) rfl
theorem q1411 : (Jvm.Cond.privateMethod ({ cls := "SafeClears", name := "couldOf", desc := "(III)I" } : Jvm.MethodName)) ∈ lw_tbl := lw_at lw_m6 120 rfl
theorem q1412 : (Jvm.Cond.instanceMethod ({ cls := "SafeClears", name := "couldOf", desc := "(III)I" } : Jvm.MethodName)) ∈ lw_all := lw_g (lw_at lw_m6 121 rfl) rfl
theorem q1413 : (Jvm.Cond.code ({ cls := "SafeClears", name := "couldOf", desc := "(III)I" } : Jvm.MethodName) prog_1_method_36_code (7 : Nat) (Option.some Jvm.ClassFile.FieldType.int)) ∈ lw_all := lw_g (lw_at lw_m6 122 rfl) rfl
theorem q1414 : (Jvm.Cond.methodLink "SafeClears" (378 : Nat) ({ cls := "SafeClears", name := "couldBy", desc := "([LSafeClears$Green;III)I" } : Jvm.MethodName)) ∈ lw_all := lw_g (lw_at lw_m6 123 rfl) rfl
theorem q1415 : (Jvm.Cond.privateMethod ({ cls := "SafeClears", name := "couldBy", desc := "([LSafeClears$Green;III)I" } : Jvm.MethodName)) ∈ lw_tbl := lw_at lw_m6 124 rfl
theorem q1416 : (Jvm.Cond.instanceMethod ({ cls := "SafeClears", name := "couldBy", desc := "([LSafeClears$Green;III)I" } : Jvm.MethodName)) ∈ lw_all := lw_g (lw_at lw_m6 125 rfl) rfl
theorem q1417 : (Jvm.Cond.code ({ cls := "SafeClears", name := "couldBy", desc := "([LSafeClears$Green;III)I" } : Jvm.MethodName) prog_1_method_35_code (8 : Nat) (Option.some Jvm.ClassFile.FieldType.int)) ∈ lw_all := lw_g (lw_at lw_m6 126 rfl) rfl
theorem q1418 : (Jvm.Cond.methodLink "SafeClears" (368 : Nat) ({ cls := "SafeClears$Signal", name := "couldTake", desc := "(IIII)Z" } : Jvm.MethodName)) ∈ lw_all := lw_g (lw_at lw_m6 127 rfl) rfl
theorem q1424 : (Jvm.Cond.instanceMethod ({ cls := "SafeClears", name := "crowded", desc := "(II)I" } : Jvm.MethodName)) ∈ lw_all := lw_g (lw_at lw_m6 133 rfl) rfl
theorem q1425 : (Jvm.Cond.selects "SafeClears" ({ cls := "SafeClears", name := "crowded", desc := "(II)I" } : Jvm.MethodName) ({ cls := "SafeClears", name := "crowded", desc := "(II)I" } : Jvm.MethodName)) ∈ lw_all := lw_g (lw_at lw_m6 134 rfl) rfl
theorem q1426 : (Jvm.Cond.code ({ cls := "SafeClears", name := "crowded", desc := "(II)I" } : Jvm.MethodName) prog_1_method_38_code (5 : Nat) (Option.some Jvm.ClassFile.FieldType.int)) ∈ lw_all := lw_g (lw_at lw_m6 135 rfl) rfl
theorem q1428 : (Jvm.Cond.instanceMethod ({ cls := "SafeClears", name := "green", desc := "(III)I" } : Jvm.MethodName)) ∈ lw_all := lw_g (lw_at lw_m6 137 rfl) rfl
theorem q1429 : (Jvm.Cond.selects "SafeClears" ({ cls := "SafeClears", name := "green", desc := "(III)I" } : Jvm.MethodName) ({ cls := "SafeClears", name := "green", desc := "(III)I" } : Jvm.MethodName)) ∈ lw_all := lw_g (lw_at lw_m6 138 rfl) rfl
theorem q1430 : (Jvm.Cond.code ({ cls := "SafeClears", name := "green", desc := "(III)I" } : Jvm.MethodName) prog_1_method_39_code (4 : Nat) (Option.some Jvm.ClassFile.FieldType.int)) ∈ lw_all := lw_g (lw_at lw_m6 139 rfl) rfl
theorem q1431 : (Jvm.Cond.constantLong "SafeClears" (391 : Nat) (9998 : Int64)) ∈ lw_all := lw_g (lw_at lw_m6 140 rfl) rfl
theorem q1432 : (Jvm.Cond.methodLink "SafeClears" (393 : Nat) ({ cls := "SafeClears$Green", name := "is", desc := "(III)V" } : Jvm.MethodName)) ∈ lw_all := lw_g (lw_at lw_m6 141 rfl) rfl
theorem q1434 : (Jvm.Cond.instanceMethod ({ cls := "SafeClears", name := "proved", desc := "()I" } : Jvm.MethodName)) ∈ lw_all := lw_g (lw_at lw_m6 143 rfl) rfl
theorem q1435 : (Jvm.Cond.selects "SafeClears" ({ cls := "SafeClears", name := "proved", desc := "()I" } : Jvm.MethodName) ({ cls := "SafeClears", name := "proved", desc := "()I" } : Jvm.MethodName)) ∈ lw_all := lw_g (lw_at lw_m6 144 rfl) rfl
theorem q1436 : (Jvm.Cond.code ({ cls := "SafeClears", name := "proved", desc := "()I" } : Jvm.MethodName) prog_1_method_40_code (7 : Nat) (Option.some Jvm.ClassFile.FieldType.int)) ∈ lw_all := lw_g (lw_at lw_m6 145 rfl) rfl
theorem q1437 : (Jvm.Cond.methodLink "SafeClears" (394 : Nat) ({ cls := "SafeClears$Span", name := "hold", desc := "(LSafeClears$Span;LSafeClears$Span;II)Z" } : Jvm.MethodName)) ∈ lw_all := lw_g (lw_at lw_m6 146 rfl) rfl
theorem q1449 : (Jvm.Cond.instanceMethod ({ cls := "SafeClears", name := "wave", desc := "(I)I" } : Jvm.MethodName)) ∈ lw_all := lw_g (lw_at lw_m6 158 rfl) rfl
theorem q1450 : (Jvm.Cond.selects "SafeClears" ({ cls := "SafeClears", name := "wave", desc := "(I)I" } : Jvm.MethodName) ({ cls := "SafeClears", name := "wave", desc := "(I)I" } : Jvm.MethodName)) ∈ lw_all := lw_g (lw_at lw_m6 159 rfl) rfl
theorem q1451 : (Jvm.Cond.code ({ cls := "SafeClears", name := "wave", desc := "(I)I" } : Jvm.MethodName) prog_1_method_41_code (3 : Nat) (Option.some Jvm.ClassFile.FieldType.int)) ∈ lw_all := lw_g (lw_at lw_m6 160 rfl) rfl
theorem q1453 : (Jvm.Cond.instanceMethod ({ cls := "SafeClears", name := "node", desc := "(III)I" } : Jvm.MethodName)) ∈ lw_all := lw_g (lw_at lw_m6 162 rfl) rfl
theorem q1454 : (Jvm.Cond.selects "SafeClears" ({ cls := "SafeClears", name := "node", desc := "(III)I" } : Jvm.MethodName) ({ cls := "SafeClears", name := "node", desc := "(III)I" } : Jvm.MethodName)) ∈ lw_all := lw_g (lw_at lw_m6 163 rfl) rfl
theorem q1455 : (Jvm.Cond.code ({ cls := "SafeClears", name := "node", desc := "(III)I" } : Jvm.MethodName) prog_1_method_43_code (5 : Nat) (Option.some Jvm.ClassFile.FieldType.int)) ∈ lw_all := lw_g (lw_at lw_m6 164 rfl) rfl
theorem q1456 : (Jvm.Cond.methodLink "SafeClears" (404 : Nat) ({ cls := "SafeClears", name := "isOfNode", desc := "(II)Z" } : Jvm.MethodName)) ∈ lw_all := lw_g (lw_at lw_m6 165 rfl) rfl
theorem q1457 : (Jvm.Cond.privateMethod ({ cls := "SafeClears", name := "isOfNode", desc := "(II)Z" } : Jvm.MethodName)) ∈ lw_tbl := lw_at lw_m6 166 rfl
theorem q1458 : (Jvm.Cond.instanceMethod ({ cls := "SafeClears", name := "isOfNode", desc := "(II)Z" } : Jvm.MethodName)) ∈ lw_all := lw_g (lw_at lw_m6 167 rfl) rfl
theorem q1459 : (Jvm.Cond.code ({ cls := "SafeClears", name := "isOfNode", desc := "(II)Z" } : Jvm.MethodName) prog_1_method_42_code (3 : Nat) (Option.some Jvm.ClassFile.FieldType.boolean)) ∈ lw_all := lw_g (lw_at lw_m6 168 rfl) rfl
theorem q1461 : (Jvm.Cond.instanceMethod ({ cls := "SafeClears", name := "change", desc := "(III)I" } : Jvm.MethodName)) ∈ lw_all := lw_g (lw_at lw_m6 170 rfl) rfl
theorem q1462 : (Jvm.Cond.selects "SafeClears" ({ cls := "SafeClears", name := "change", desc := "(III)I" } : Jvm.MethodName) ({ cls := "SafeClears", name := "change", desc := "(III)I" } : Jvm.MethodName)) ∈ lw_all := lw_g (lw_at lw_m6 171 rfl) rfl
theorem q1463 : (Jvm.Cond.code ({ cls := "SafeClears", name := "change", desc := "(III)I" } : Jvm.MethodName) prog_1_method_45_code (5 : Nat) (Option.some Jvm.ClassFile.FieldType.int)) ∈ lw_all := lw_g (lw_at lw_m6 172 rfl) rfl
theorem q1464 : (Jvm.Cond.methodLink "SafeClears" (416 : Nat) ({ cls := "SafeClears", name := "isNode", desc := "(I)Z" } : Jvm.MethodName)) ∈ lw_all := lw_g (lw_at lw_m6 173 rfl) rfl
theorem q1465 : (Jvm.Cond.privateMethod ({ cls := "SafeClears", name := "isNode", desc := "(I)Z" } : Jvm.MethodName)) ∈ lw_tbl := lw_at lw_m6 174 rfl
theorem q1466 : (Jvm.Cond.instanceMethod ({ cls := "SafeClears", name := "isNode", desc := "(I)Z" } : Jvm.MethodName)) ∈ lw_all := lw_g (lw_at lw_m6 175 rfl) rfl
theorem q1467 : (Jvm.Cond.code ({ cls := "SafeClears", name := "isNode", desc := "(I)Z" } : Jvm.MethodName) prog_1_method_44_code (2 : Nat) (Option.some Jvm.ClassFile.FieldType.boolean)) ∈ lw_all := lw_g (lw_at lw_m6 176 rfl) rfl
theorem q1469 : (Jvm.Cond.instanceMethod ({ cls := "SafeClears", name := "band", desc := "(I)I" } : Jvm.MethodName)) ∈ lw_all := lw_g (lw_at lw_m6 178 rfl) rfl
theorem q1470 : (Jvm.Cond.selects "SafeClears" ({ cls := "SafeClears", name := "band", desc := "(I)I" } : Jvm.MethodName) ({ cls := "SafeClears", name := "band", desc := "(I)I" } : Jvm.MethodName)) ∈ lw_all := lw_g (lw_at lw_m6 179 rfl) rfl
theorem q1471 : (Jvm.Cond.code ({ cls := "SafeClears", name := "band", desc := "(I)I" } : Jvm.MethodName) prog_1_method_46_code (2 : Nat) (Option.some Jvm.ClassFile.FieldType.int)) ∈ lw_all := lw_g (lw_at lw_m6 180 rfl) rfl
theorem q1472 : (Jvm.Cond.methodLink "SafeClears" (419 : Nat) ({ cls := "SafeClears$World", name := "bands", desc := "()I" } : Jvm.MethodName)) ∈ lw_all := lw_g (lw_at lw_m6 181 rfl) rfl
theorem q1489 : (Jvm.Cond.methodLink "SafeClears" (422 : Nat) ({ cls := "SafeClears$World", name := "band", desc := "(I)I" } : Jvm.MethodName)) ∈ lw_all := lw_g (lw_at lw_m6 198 rfl) rfl
theorem q1491 : (Jvm.Cond.instanceMethod ({ cls := "SafeClears", name := "nodeBest", desc := "(II)I" } : Jvm.MethodName)) ∈ lw_all := lw_g (lw_at lw_m6 200 rfl) rfl
theorem q1492 : (Jvm.Cond.selects "SafeClears" ({ cls := "SafeClears", name := "nodeBest", desc := "(II)I" } : Jvm.MethodName) ({ cls := "SafeClears", name := "nodeBest", desc := "(II)I" } : Jvm.MethodName)) ∈ lw_all := lw_g (lw_at lw_m6 201 rfl) rfl
theorem q1493 : (Jvm.Cond.code ({ cls := "SafeClears", name := "nodeBest", desc := "(II)I" } : Jvm.MethodName) prog_1_method_47_code (5 : Nat) (Option.some Jvm.ClassFile.FieldType.int)) ∈ lw_all := lw_g (lw_at lw_m6 202 rfl) rfl
theorem q1494 : (Jvm.Cond.methodLink "SafeClears" (425 : Nat) ({ cls := "SafeClears", name := "thought", desc := "()LSafeClears$World;" } : Jvm.MethodName)) ∈ lw_all := lw_g (lw_at lw_m6 203 rfl) rfl
theorem q1495 : (Jvm.Cond.privateMethod ({ cls := "SafeClears", name := "thought", desc := "()LSafeClears$World;" } : Jvm.MethodName)) ∈ lw_tbl := lw_at lw_m6 204 rfl
theorem q1496 : (Jvm.Cond.instanceMethod ({ cls := "SafeClears", name := "thought", desc := "()LSafeClears$World;" } : Jvm.MethodName)) ∈ lw_all := lw_g (lw_at lw_m6 205 rfl) rfl
theorem q1497 : (Jvm.Cond.code ({ cls := "SafeClears", name := "thought", desc := "()LSafeClears$World;" } : Jvm.MethodName) prog_1_method_6_code (1 : Nat) (Option.some (Jvm.ClassFile.FieldType.object "SafeClears$World"))) ∈ lw_all := lw_g (lw_at lw_m6 206 rfl) rfl
theorem q1498 : (Jvm.Cond.methodLink "SafeClears" (20 : Nat) ({ cls := "SafeClears$World", name := "like", desc := "(LSafeClears$World;)LSafeClears$World;" } : Jvm.MethodName)) ∈ lw_all := lw_g (lw_at lw_m6 207 rfl) rfl
theorem q1510 : (Jvm.Cond.methodLink "SafeClears" (429 : Nat) ({ cls := "SafeClears$World", name := "tunes", desc := "(I)I" } : Jvm.MethodName)) ∈ lw_all := lw_g (lw_at lw_m6 219 rfl) rfl
theorem q1516 : (Jvm.Cond.instanceMethod ({ cls := "SafeClears", name := "tune", desc := "()I" } : Jvm.MethodName)) ∈ lw_all := lw_g (lw_at lw_m6 225 rfl) rfl
theorem q1517 : (Jvm.Cond.selects "SafeClears" ({ cls := "SafeClears", name := "tune", desc := "()I" } : Jvm.MethodName) ({ cls := "SafeClears", name := "tune", desc := "()I" } : Jvm.MethodName)) ∈ lw_all := lw_g (lw_at lw_m6 226 rfl) rfl
theorem q1518 : (Jvm.Cond.code ({ cls := "SafeClears", name := "tune", desc := "()I" } : Jvm.MethodName) prog_1_method_48_code (5 : Nat) (Option.some Jvm.ClassFile.FieldType.int)) ∈ lw_all := lw_g (lw_at lw_m6 227 rfl) rfl
theorem q1520 : (Jvm.Cond.instanceMethod ({ cls := "SafeClears", name := "would", desc := "(II)I" } : Jvm.MethodName)) ∈ lw_all := lw_g (lw_at lw_m6 229 rfl) rfl
theorem q1521 : (Jvm.Cond.selects "SafeClears" ({ cls := "SafeClears", name := "would", desc := "(II)I" } : Jvm.MethodName) ({ cls := "SafeClears", name := "would", desc := "(II)I" } : Jvm.MethodName)) ∈ lw_all := lw_g (lw_at lw_m6 230 rfl) rfl
theorem q1522 : (Jvm.Cond.code ({ cls := "SafeClears", name := "would", desc := "(II)I" } : Jvm.MethodName) prog_1_method_49_code (3 : Nat) (Option.some Jvm.ClassFile.FieldType.int)) ∈ lw_all := lw_g (lw_at lw_m6 231 rfl) rfl
theorem q1524 : (Jvm.Cond.instanceMethod ({ cls := "SafeClears", name := "turns", desc := "(II)I" } : Jvm.MethodName)) ∈ lw_all := lw_g (lw_at lw_m6 233 rfl) rfl
theorem q1525 : (Jvm.Cond.selects "SafeClears" ({ cls := "SafeClears", name := "turns", desc := "(II)I" } : Jvm.MethodName) ({ cls := "SafeClears", name := "turns", desc := "(II)I" } : Jvm.MethodName)) ∈ lw_all := lw_g (lw_at lw_m6 234 rfl) rfl
theorem q1526 : (Jvm.Cond.code ({ cls := "SafeClears", name := "turns", desc := "(II)I" } : Jvm.MethodName) prog_1_method_50_code (5 : Nat) (Option.some Jvm.ClassFile.FieldType.int)) ∈ lw_all := lw_g (lw_at lw_m6 235 rfl) rfl
theorem q1528 : (Jvm.Cond.instanceMethod ({ cls := "SafeClears", name := "best", desc := "(II)I" } : Jvm.MethodName)) ∈ lw_all := lw_g (lw_at lw_m6 237 rfl) rfl
theorem q1529 : (Jvm.Cond.selects "SafeClears" ({ cls := "SafeClears", name := "best", desc := "(II)I" } : Jvm.MethodName) ({ cls := "SafeClears", name := "best", desc := "(II)I" } : Jvm.MethodName)) ∈ lw_all := lw_g (lw_at lw_m6 238 rfl) rfl
theorem q1530 : (Jvm.Cond.code ({ cls := "SafeClears", name := "best", desc := "(II)I" } : Jvm.MethodName) prog_1_method_51_code (7 : Nat) (Option.some Jvm.ClassFile.FieldType.int)) ∈ lw_all := lw_g (lw_at lw_m6 239 rfl) rfl
theorem q1531 : (Jvm.Cond.methodLink "SafeClears" (432 : Nat) ({ cls := "SafeClears$World", name := "withGap", desc := "(I)LSafeClears$World;" } : Jvm.MethodName)) ∈ lw_all := lw_g (lw_at lw_m7 0 rfl) rfl
theorem q1536 : (Jvm.Cond.instanceMethod ({ cls := "SafeClears", name := "note", desc := "(II)I" } : Jvm.MethodName)) ∈ lw_all := lw_g (lw_at lw_m7 5 rfl) rfl
theorem q1537 : (Jvm.Cond.selects "SafeClears" ({ cls := "SafeClears", name := "note", desc := "(II)I" } : Jvm.MethodName) ({ cls := "SafeClears", name := "note", desc := "(II)I" } : Jvm.MethodName)) ∈ lw_all := lw_g (lw_at lw_m7 6 rfl) rfl
theorem q1538 : (Jvm.Cond.code ({ cls := "SafeClears", name := "note", desc := "(II)I" } : Jvm.MethodName) prog_1_method_52_code (3 : Nat) (Option.some Jvm.ClassFile.FieldType.int)) ∈ lw_all := lw_g (lw_at lw_m7 7 rfl) rfl
theorem q1539 : (Jvm.Cond.constantLong "SafeClears" (438 : Nat) (99999 : Int64)) ∈ lw_all := lw_g (lw_at lw_m7 8 rfl) rfl
theorem q1540 : (Jvm.Cond.constantLong "SafeClears" (440 : Nat) (255 : Int64)) ∈ lw_all := lw_g (lw_at lw_m7 9 rfl) rfl
theorem q1542 : (Jvm.Cond.instanceMethod ({ cls := "SafeClears", name := "fits", desc := "(I)I" } : Jvm.MethodName)) ∈ lw_all := lw_g (lw_at lw_m7 11 rfl) rfl
theorem q1543 : (Jvm.Cond.selects "SafeClears" ({ cls := "SafeClears", name := "fits", desc := "(I)I" } : Jvm.MethodName) ({ cls := "SafeClears", name := "fits", desc := "(I)I" } : Jvm.MethodName)) ∈ lw_all := lw_g (lw_at lw_m7 12 rfl) rfl
theorem q1544 : (Jvm.Cond.code ({ cls := "SafeClears", name := "fits", desc := "(I)I" } : Jvm.MethodName) prog_1_method_54_code (7 : Nat) (Option.some Jvm.ClassFile.FieldType.int)) ∈ lw_all := lw_g (lw_at lw_m7 13 rfl) rfl
theorem q1545 : (Jvm.Cond.methodLink "SafeClears" (447 : Nat) ({ cls := "SafeClears", name := "isNoted", desc := "()Z" } : Jvm.MethodName)) ∈ lw_all := lw_g (lw_at lw_m7 14 rfl) rfl
theorem q1546 : (Jvm.Cond.privateMethod ({ cls := "SafeClears", name := "isNoted", desc := "()Z" } : Jvm.MethodName)) ∈ lw_tbl := lw_at lw_m7 15 rfl
theorem q1547 : (Jvm.Cond.instanceMethod ({ cls := "SafeClears", name := "isNoted", desc := "()Z" } : Jvm.MethodName)) ∈ lw_all := lw_g (lw_at lw_m7 16 rfl) rfl
theorem q1548 : (Jvm.Cond.code ({ cls := "SafeClears", name := "isNoted", desc := "()Z" } : Jvm.MethodName) prog_1_method_53_code (3 : Nat) (Option.some Jvm.ClassFile.FieldType.boolean)) ∈ lw_all := lw_g (lw_at lw_m7 17 rfl) rfl
theorem q1549 : (Jvm.Cond.constantLong "SafeClears" (445 : Nat) (59 : Int64)) ∈ lw_all := lw_g (lw_at lw_m7 18 rfl) rfl
theorem q1551 : (Jvm.Cond.instanceMethod ({ cls := "SafeClears", name := "day", desc := "(II)I" } : Jvm.MethodName)) ∈ lw_all := lw_g (lw_at lw_m7 20 rfl) rfl
theorem q1552 : (Jvm.Cond.selects "SafeClears" ({ cls := "SafeClears", name := "day", desc := "(II)I" } : Jvm.MethodName) ({ cls := "SafeClears", name := "day", desc := "(II)I" } : Jvm.MethodName)) ∈ lw_all := lw_g (lw_at lw_m7 21 rfl) rfl
theorem q1553 : (Jvm.Cond.code ({ cls := "SafeClears", name := "day", desc := "(II)I" } : Jvm.MethodName) prog_1_method_56_code (3 : Nat) (Option.some Jvm.ClassFile.FieldType.int)) ∈ lw_all := lw_g (lw_at lw_m7 22 rfl) rfl
theorem q1554 : (Jvm.Cond.methodLink "SafeClears" (451 : Nat) ({ cls := "SafeClears", name := "dayBy", desc := "(II)I" } : Jvm.MethodName)) ∈ lw_all := lw_g (lw_at lw_m7 23 rfl) rfl
theorem q1555 : (Jvm.Cond.privateMethod ({ cls := "SafeClears", name := "dayBy", desc := "(II)I" } : Jvm.MethodName)) ∈ lw_tbl := lw_at lw_m7 24 rfl
theorem q1556 : (Jvm.Cond.instanceMethod ({ cls := "SafeClears", name := "dayBy", desc := "(II)I" } : Jvm.MethodName)) ∈ lw_all := lw_g (lw_at lw_m7 25 rfl) rfl
theorem q1557 : (Jvm.Cond.code ({ cls := "SafeClears", name := "dayBy", desc := "(II)I" } : Jvm.MethodName) prog_1_method_55_code (4 : Nat) (Option.some Jvm.ClassFile.FieldType.int)) ∈ lw_all := lw_g (lw_at lw_m7 26 rfl) rfl
theorem q1559 : (Jvm.Cond.instanceMethod ({ cls := "SafeClears", name := "chance", desc := "(IIIII)J" } : Jvm.MethodName)) ∈ lw_all := lw_g (lw_at lw_m7 28 rfl) rfl
theorem q1560 : (Jvm.Cond.selects "SafeClears" ({ cls := "SafeClears", name := "chance", desc := "(IIIII)J" } : Jvm.MethodName) ({ cls := "SafeClears", name := "chance", desc := "(IIIII)J" } : Jvm.MethodName)) ∈ lw_all := lw_g (lw_at lw_m7 29 rfl) rfl
theorem q1561 : (Jvm.Cond.code ({ cls := "SafeClears", name := "chance", desc := "(IIIII)J" } : Jvm.MethodName) prog_1_method_57_code (8 : Nat) (Option.some Jvm.ClassFile.FieldType.long)) ∈ lw_all := lw_g (lw_at lw_m7 30 rfl) rfl
theorem q1562 : (Jvm.Cond.constantLong "SafeClears" (454 : Nat) (-9223372036854775808 : Int64)) ∈ lw_all := lw_g (lw_at lw_m7 31 rfl) rfl
theorem q1563 : (Jvm.Cond.methodLink "SafeClears" (456 : Nat) ({ cls := "SafeClears", name := "lowest", desc := "(JJI)J" } : Jvm.MethodName)) ∈ lw_all := lw_g (lw_at lw_m7 32 rfl) rfl
theorem q1564 : (Jvm.Cond.static ({ cls := "SafeClears", name := "lowest", desc := "(JJI)J" } : Jvm.MethodName)) ∈ lw_all := lw_g (lw_at lw_m7 33 rfl) rfl
theorem q1565 : (Jvm.Cond.code ({ cls := "SafeClears", name := "lowest", desc := "(JJI)J" } : Jvm.MethodName) prog_1_method_4_code (5 : Nat) (Option.some Jvm.ClassFile.FieldType.long)) ∈ lw_all := lw_g (lw_at lw_m7 34 rfl) rfl
theorem q1566 : (Jvm.Cond.methodLink "SafeClears" (3 : Nat) ({ cls := "SafeClears", name := "divisor", desc := "(JJ)J" } : Jvm.MethodName)) ∈ lw_all := lw_g (lw_at lw_m7 35 rfl) rfl
theorem q1567 : (Jvm.Cond.static ({ cls := "SafeClears", name := "divisor", desc := "(JJ)J" } : Jvm.MethodName)) ∈ lw_all := lw_g (lw_at lw_m7 36 rfl) rfl
theorem q1568 : (Jvm.Cond.code ({ cls := "SafeClears", name := "divisor", desc := "(JJ)J" } : Jvm.MethodName) prog_1_method_3_code (10 : Nat) (Option.some Jvm.ClassFile.FieldType.long)) ∈ lw_all := lw_g (lw_at lw_m7 37 rfl) rfl
theorem q1570 : (Jvm.Cond.instanceMethod ({ cls := "SafeClears", name := "mean", desc := "(I)J" } : Jvm.MethodName)) ∈ lw_all := lw_g (lw_at lw_m7 39 rfl) rfl
theorem q1571 : (Jvm.Cond.selects "SafeClears" ({ cls := "SafeClears", name := "mean", desc := "(I)J" } : Jvm.MethodName) ({ cls := "SafeClears", name := "mean", desc := "(I)J" } : Jvm.MethodName)) ∈ lw_all := lw_g (lw_at lw_m7 40 rfl) rfl
theorem q1572 : (Jvm.Cond.code ({ cls := "SafeClears", name := "mean", desc := "(I)J" } : Jvm.MethodName) prog_1_method_58_code (2 : Nat) (Option.some Jvm.ClassFile.FieldType.long)) ∈ lw_all := lw_g (lw_at lw_m7 41 rfl) rfl
theorem q1574 : (Jvm.Cond.instanceMethod ({ cls := "SafeClears", name := "plan", desc := "(II)I" } : Jvm.MethodName)) ∈ lw_all := lw_g (lw_at lw_m7 43 rfl) rfl
theorem q1575 : (Jvm.Cond.selects "SafeClears" ({ cls := "SafeClears", name := "plan", desc := "(II)I" } : Jvm.MethodName) ({ cls := "SafeClears", name := "plan", desc := "(II)I" } : Jvm.MethodName)) ∈ lw_all := lw_g (lw_at lw_m7 44 rfl) rfl
theorem q1576 : (Jvm.Cond.code ({ cls := "SafeClears", name := "plan", desc := "(II)I" } : Jvm.MethodName) prog_1_method_59_code (3 : Nat) (Option.some Jvm.ClassFile.FieldType.int)) ∈ lw_all := lw_g (lw_at lw_m7 45 rfl) rfl
theorem q1577 : (Jvm.Cond.constantLong "SafeClears" (463 : Nat) (7 : Int64)) ∈ lw_all := lw_g (lw_at lw_m7 46 rfl) rfl
theorem q1579 : (Jvm.Cond.instanceMethod ({ cls := "SafeClears", name := "ends", desc := "(I)I" } : Jvm.MethodName)) ∈ lw_all := lw_g (lw_at lw_m7 48 rfl) rfl
theorem q1580 : (Jvm.Cond.selects "SafeClears" ({ cls := "SafeClears", name := "ends", desc := "(I)I" } : Jvm.MethodName) ({ cls := "SafeClears", name := "ends", desc := "(I)I" } : Jvm.MethodName)) ∈ lw_all := lw_g (lw_at lw_m7 49 rfl) rfl
theorem q1581 : (Jvm.Cond.code ({ cls := "SafeClears", name := "ends", desc := "(I)I" } : Jvm.MethodName) prog_1_method_61_code (5 : Nat) (Option.some Jvm.ClassFile.FieldType.int)) ∈ lw_all := lw_g (lw_at lw_m7 50 rfl) rfl
theorem q1582 : (Jvm.Cond.methodLink "SafeClears" (468 : Nat) ({ cls := "SafeClears", name := "does", desc := "(LSafeClears$World;II)V" } : Jvm.MethodName)) ∈ lw_all := lw_g (lw_at lw_m7 51 rfl) rfl
theorem q1583 : (Jvm.Cond.static ({ cls := "SafeClears", name := "does", desc := "(LSafeClears$World;II)V" } : Jvm.MethodName)) ∈ lw_all := lw_g (lw_at lw_m7 52 rfl) rfl
theorem q1584 : (Jvm.Cond.code ({ cls := "SafeClears", name := "does", desc := "(LSafeClears$World;II)V" } : Jvm.MethodName) prog_1_method_60_code (3 : Nat) (Option.none : Option Jvm.ClassFile.FieldType)) ∈ lw_all := lw_g (lw_at lw_m7 53 rfl) rfl
theorem q1586 : (Jvm.Cond.instanceMethod ({ cls := "SafeClears", name := "image", desc := "()I" } : Jvm.MethodName)) ∈ lw_all := lw_g (lw_at lw_m7 55 rfl) rfl
theorem q1587 : (Jvm.Cond.selects "SafeClears" ({ cls := "SafeClears", name := "image", desc := "()I" } : Jvm.MethodName) ({ cls := "SafeClears", name := "image", desc := "()I" } : Jvm.MethodName)) ∈ lw_all := lw_g (lw_at lw_m7 56 rfl) rfl
theorem q1588 : (Jvm.Cond.code ({ cls := "SafeClears", name := "image", desc := "()I" } : Jvm.MethodName) prog_1_method_62_code (1 : Nat) (Option.some Jvm.ClassFile.FieldType.int)) ∈ lw_all := lw_g (lw_at lw_m7 57 rfl) rfl
theorem q1590 : (Jvm.Cond.instanceMethod ({ cls := "SafeClears", name := "undo", desc := "()I" } : Jvm.MethodName)) ∈ lw_all := lw_g (lw_at lw_m7 59 rfl) rfl
theorem q1591 : (Jvm.Cond.selects "SafeClears" ({ cls := "SafeClears", name := "undo", desc := "()I" } : Jvm.MethodName) ({ cls := "SafeClears", name := "undo", desc := "()I" } : Jvm.MethodName)) ∈ lw_all := lw_g (lw_at lw_m7 60 rfl) rfl
theorem q1592 : (Jvm.Cond.code ({ cls := "SafeClears", name := "undo", desc := "()I" } : Jvm.MethodName) prog_1_method_63_code (1 : Nat) (Option.some Jvm.ClassFile.FieldType.int)) ∈ lw_all := lw_g (lw_at lw_m7 61 rfl) rfl
theorem q1594 : (Jvm.Cond.instanceMethod ({ cls := "SafeClears", name := "count", desc := "(I)I" } : Jvm.MethodName)) ∈ lw_all := lw_g (lw_at lw_m7 63 rfl) rfl
theorem q1595 : (Jvm.Cond.selects "SafeClears" ({ cls := "SafeClears", name := "count", desc := "(I)I" } : Jvm.MethodName) ({ cls := "SafeClears", name := "count", desc := "(I)I" } : Jvm.MethodName)) ∈ lw_all := lw_g (lw_at lw_m7 64 rfl) rfl
theorem q1596 : (Jvm.Cond.code ({ cls := "SafeClears", name := "count", desc := "(I)I" } : Jvm.MethodName) prog_1_method_64_code (2 : Nat) (Option.some Jvm.ClassFile.FieldType.int)) ∈ lw_all := lw_g (lw_at lw_m7 65 rfl) rfl
theorem q1598 : (Jvm.Cond.instanceMethod ({ cls := "SafeClears", name := "judge", desc := "(II)I" } : Jvm.MethodName)) ∈ lw_all := lw_g (lw_at lw_m7 67 rfl) rfl
theorem q1599 : (Jvm.Cond.selects "SafeClears" ({ cls := "SafeClears", name := "judge", desc := "(II)I" } : Jvm.MethodName) ({ cls := "SafeClears", name := "judge", desc := "(II)I" } : Jvm.MethodName)) ∈ lw_all := lw_g (lw_at lw_m7 68 rfl) rfl
theorem q1600 : (Jvm.Cond.code ({ cls := "SafeClears", name := "judge", desc := "(II)I" } : Jvm.MethodName) prog_1_method_66_code (5 : Nat) (Option.some Jvm.ClassFile.FieldType.int)) ∈ lw_all := lw_g (lw_at lw_m7 69 rfl) rfl
theorem q1601 : (Jvm.Cond.methodLink "SafeClears" (475 : Nat) ({ cls := "SafeClears", name := "isTape", desc := "(I)Z" } : Jvm.MethodName)) ∈ lw_all := lw_g (lw_at lw_m7 70 rfl) rfl
theorem q1602 : (Jvm.Cond.static ({ cls := "SafeClears", name := "isTape", desc := "(I)Z" } : Jvm.MethodName)) ∈ lw_all := lw_g (lw_at lw_m7 71 rfl) rfl
theorem q1603 : (Jvm.Cond.code ({ cls := "SafeClears", name := "isTape", desc := "(I)Z" } : Jvm.MethodName) prog_1_method_65_code (1 : Nat) (Option.some Jvm.ClassFile.FieldType.boolean)) ∈ lw_all := lw_g (lw_at lw_m7 72 rfl) rfl
theorem q1604 : (Jvm.Cond.methodLink "SafeClears" (478 : Nat) ({ cls := "SafeClears$Tape", name := "sort", desc := "()I" } : Jvm.MethodName)) ∈ lw_all := lw_g (lw_at lw_m7 73 rfl) rfl
theorem q1612 : (Jvm.Cond.methodLink "SafeClears" (481 : Nat) ({ cls := "SafeClears$Tape", name := "size", desc := "()I" } : Jvm.MethodName)) ∈ lw_all := lw_g (lw_at lw_m7 81 rfl) rfl
theorem q1618 : (Jvm.Cond.methodLink "SafeClears" (484 : Nat) ({ cls := "SafeClears$Tape", name := "at", desc := "(I)J" } : Jvm.MethodName)) ∈ lw_all := lw_g (lw_at lw_m7 87 rfl) rfl
theorem q1623 : (Jvm.Cond.instanceMethod ({ cls := "SafeClears", name := "tape", desc := "(III)I" } : Jvm.MethodName)) ∈ lw_all := lw_g (lw_at lw_m7 92 rfl) rfl
theorem q1624 : (Jvm.Cond.selects "SafeClears" ({ cls := "SafeClears", name := "tape", desc := "(III)I" } : Jvm.MethodName) ({ cls := "SafeClears", name := "tape", desc := "(III)I" } : Jvm.MethodName)) ∈ lw_all := lw_g (lw_at lw_m7 93 rfl) rfl
theorem q1625 : (Jvm.Cond.codeWith ({ cls := "SafeClears", name := "tape", desc := "(III)I" } : Jvm.MethodName) prog_1_method_67_code (5 : Nat) (Option.some Jvm.ClassFile.FieldType.int) [((36 : Nat), (47 : Nat), (50 : Nat), (494 : Nat))]) ∈ lw_all := lw_g (lw_at lw_m7 94 rfl) rfl
theorem q1626 : (Jvm.Cond.classLink "SafeClears" (494 : Nat) "java/lang/NegativeArraySizeException") ∈ lw_all := lw_g (lw_at lw_m7 95 rfl) rfl
theorem q1627 : (Jvm.Cond.constantLong "SafeClears" (488 : Nat) (-1 : Int64)) ∈ lw_all := lw_g (lw_at lw_m7 96 rfl) rfl
theorem q1628 : (Jvm.Cond.methodLink "SafeClears" (490 : Nat) ({ cls := "SafeClears$Tape", name := "becomes", desc := "(II)V" } : Jvm.MethodName)) ∈ lw_all := lw_g (lw_at lw_m7 97 rfl) rfl
theorem q1634 : (Jvm.Cond.instanceMethod ({ cls := "SafeClears", name := "item", desc := "(IIJ)I" } : Jvm.MethodName)) ∈ lw_all := lw_g (lw_at lw_m7 103 rfl) rfl
theorem q1635 : (Jvm.Cond.selects "SafeClears" ({ cls := "SafeClears", name := "item", desc := "(IIJ)I" } : Jvm.MethodName) ({ cls := "SafeClears", name := "item", desc := "(IIJ)I" } : Jvm.MethodName)) ∈ lw_all := lw_g (lw_at lw_m7 104 rfl) rfl
theorem q1636 : (Jvm.Cond.codeWith ({ cls := "SafeClears", name := "item", desc := "(IIJ)I" } : Jvm.MethodName) prog_1_method_68_code (6 : Nat) (Option.some Jvm.ClassFile.FieldType.int) [((24 : Nat), (35 : Nat), (38 : Nat), (504 : Nat))]) ∈ lw_all := lw_g (lw_at lw_m7 105 rfl) rfl
theorem q1637 : (Jvm.Cond.classLink "SafeClears" (504 : Nat) "java/lang/ArrayIndexOutOfBoundsException") ∈ lw_all := lw_g (lw_at lw_m7 106 rfl) rfl
theorem q1653 : (Jvm.Cond.methodLink "SafeClears" (500 : Nat) ({ cls := "SafeClears$Tape", name := "puts", desc := "(IJ)V" } : Jvm.MethodName)) ∈ lw_all := lw_g (lw_at lw_m7 122 rfl) rfl
theorem q1658 : (Jvm.Cond.instanceMethod ({ cls := "SafeClears", name := "peek", desc := "(II)J" } : Jvm.MethodName)) ∈ lw_all := lw_g (lw_at lw_m7 127 rfl) rfl
theorem q1659 : (Jvm.Cond.selects "SafeClears" ({ cls := "SafeClears", name := "peek", desc := "(II)J" } : Jvm.MethodName) ({ cls := "SafeClears", name := "peek", desc := "(II)J" } : Jvm.MethodName)) ∈ lw_all := lw_g (lw_at lw_m7 128 rfl) rfl
theorem q1660 : (Jvm.Cond.code ({ cls := "SafeClears", name := "peek", desc := "(II)J" } : Jvm.MethodName) prog_1_method_69_code (3 : Nat) (Option.some Jvm.ClassFile.FieldType.long)) ∈ lw_all := lw_g (lw_at lw_m7 129 rfl) rfl
theorem q1662 : (Jvm.Cond.instanceMethod ({ cls := "SafeClears", name := "shift", desc := "(IIIII)I" } : Jvm.MethodName)) ∈ lw_all := lw_g (lw_at lw_m7 131 rfl) rfl
theorem q1663 : (Jvm.Cond.selects "SafeClears" ({ cls := "SafeClears", name := "shift", desc := "(IIIII)I" } : Jvm.MethodName) ({ cls := "SafeClears", name := "shift", desc := "(IIIII)I" } : Jvm.MethodName)) ∈ lw_all := lw_g (lw_at lw_m7 132 rfl) rfl
theorem q1664 : (Jvm.Cond.codeWith ({ cls := "SafeClears", name := "shift", desc := "(IIIII)I" } : Jvm.MethodName) prog_1_method_70_code (7 : Nat) (Option.some Jvm.ClassFile.FieldType.int) [((43 : Nat), (69 : Nat), (72 : Nat), (512 : Nat)), ((43 : Nat), (69 : Nat), (77 : Nat), (514 : Nat))]) ∈ lw_all := lw_g (lw_at lw_m7 133 rfl) rfl
theorem q1665 : (Jvm.Cond.classLink "SafeClears" (512 : Nat) "java/lang/ArrayStoreException") ∈ lw_all := lw_g (lw_at lw_m7 134 rfl) rfl
theorem q1679 : (Jvm.Cond.classLink "SafeClears" (514 : Nat) "java/lang/IndexOutOfBoundsException") ∈ lw_all := lw_g (lw_at lw_m7 148 rfl) rfl
theorem q1680 : (Jvm.Cond.methodLink "SafeClears" (506 : Nat) ({ cls := "java/lang/System", name := "arraycopy", desc := "(Ljava/lang/Object;ILjava/lang/Object;II)V" } : Jvm.MethodName)) ∈ lw_all := lw_g (lw_at lw_m7 149 rfl) rfl
theorem q2227 : (Jvm.Cond.castable "SafeClears" "java/lang/Object") ∈ lw_tbl := lw_at lw_m9 216 rfl
theorem in_X0 : ∀ w ∈ wsX00, w ∈ lw_all := lw_in wsX00 [804, 806, 808, 810, 812, 814, 816, 818, 820, 822] (by decide +kernel) (by decide +kernel)
