/-! SafeClearsModel -/
set_option maxRecDepth 100000
def RX13 : String := "SafeClearsModel"
def TX13 : u_T := fun k => match k with
  | 0 => ("SafeClearsModel", "s", "[I", true)
  | 1 => ("SafeClearsModel", "image", "[I", true)
  | 2 => ("SafeClearsModel", "mind", "[I", true)
  | 3 => ("SafeClearsModel", "isKept", "Z", false)
  | 4 => ("SafeClearsModel", "counted", "I", false)
  | 5 => ("SafeClearsModel", "clear", "[I", true)
  | 6 => ("SafeClearsModel", "narrow", "[I", true)
  | 7 => ("SafeClearsModel", "text", "[I", true)
  | 8 => ("SafeClearsModel", "read", "[I", true)
  | 9 => ("SafeClearsModel", "letters", "I", false)
  | 10 => ("SafeClearsModel", "at", "I", false)
  | 11 => ("SafeClearsModel", "fault", "I", false)
  | 12 => ("SafeClearsModel", "sort", "[I", true)
  | 13 => ("SafeClearsModel", "items", "[I", true)
  | 14 => ("SafeClearsModel", "cell", "[J", true)
  | 15 => ("SafeClearsModel", "carried", "[J", true)
  | _ => ("SafeClearsModel", "bestBands", "I", false)
def tyX13 : Nat → FieldType := fun k => match k with
  | 0 => .array .int
  | 1 => .array .int
  | 2 => .array .int
  | 3 => .boolean
  | 4 => .int
  | 5 => .array .int
  | 6 => .array .int
  | 7 => .array .int
  | 8 => .array .int
  | 9 => .int
  | 10 => .int
  | 11 => .int
  | 12 => .array .int
  | 13 => .array .int
  | 14 => .array .long
  | 15 => .array .long
  | _ => .int
abbrev wsX130 : List Cond := u_ws RX13 TX13 17
set_option maxRecDepth 100000 in
theorem nmX13 : ∀ a, a < 17 → ∀ b, b < 17 → a ≠ b → (TX13 a).2.1 ≠ (TX13 b).2.1 := by decide +kernel
set_option maxRecDepth 100000 in
theorem tyX13_ok : ∀ k, k < 17 → parseFieldDescriptor (TX13 k).2.2.1 = some (tyX13 k) := by decide +kernel
abbrev cX13_init : ByteArray := prog_22_method_1_code
def yX13_init : MethodName := ⟨RX13, "<init>", "()V"⟩
def dkwX13_init_7 : List UInt8 := [42, 182, 0, 46, 177]
abbrev dktX13_init_7 : List UInt8 := dkwX13_init_7 ++ []
def dkwX13_init_6 : List UInt8 := [16, 30, 79, 3, 60, 27, 16, 6, 162, 0, 16, 42, 180, 0, 33, 27, 2, 79, 132, 1, 1, 167, 255, 240]
abbrev dktX13_init_6 : List UInt8 := dkwX13_init_6 ++ dktX13_init_7
def dkwX13_init_5 : List UInt8 := [79, 42, 180, 0, 11, 8, 16, 251, 79, 42, 180, 0, 11, 16, 6, 16, 251, 79, 42, 180, 0, 11, 16, 16]
abbrev dktX13_init_5 : List UInt8 := dkwX13_init_5 ++ dktX13_init_6
def dkwX13_init_4 : List UInt8 := [181, 0, 43, 42, 180, 0, 11, 3, 4, 79, 42, 180, 0, 11, 4, 4, 79, 42, 180, 0, 11, 7, 16, 251]
abbrev dktX13_init_4 : List UInt8 := dkwX13_init_4 ++ dktX13_init_5
def dkwX13_init_3 : List UInt8 := [42, 16, 6, 188, 10, 181, 0, 36, 42, 17, 1, 104, 188, 11, 181, 0, 39, 42, 16, 60, 188, 11]
abbrev dktX13_init_3 : List UInt8 := dkwX13_init_3 ++ dktX13_init_4
def dkwX13_init_2 : List UInt8 := [42, 16, 100, 188, 10, 181, 0, 27, 42, 16, 56, 188, 10, 181, 0, 30, 42, 16, 6, 188, 10, 181, 0, 33]
abbrev dktX13_init_2 : List UInt8 := dkwX13_init_2 ++ dktX13_init_3
def dkwX13_init_1 : List UInt8 := [17, 1, 116, 188, 10, 181, 0, 18, 42, 16, 64, 188, 10, 181, 0, 21, 42, 16, 64, 188, 10, 181, 0, 24]
abbrev dktX13_init_1 : List UInt8 := dkwX13_init_1 ++ dktX13_init_2
def dkwX13_init_0 : List UInt8 := [42, 183, 0, 3, 42, 17, 1, 116, 188, 10, 181, 0, 11, 42, 17, 1, 116, 188, 10, 181, 0, 15, 42]
abbrev dktX13_init_0 : List UInt8 := dkwX13_init_0 ++ dktX13_init_1
theorem dksX13_init_0 : cX13_init.data.toList.drop 0 = dktX13_init_0 := by decide +kernel
theorem dksX13_init_1 : cX13_init.data.toList.drop 23 = dktX13_init_1 := dk_seg dksX13_init_0 23 rfl rfl
theorem dksX13_init_2 : cX13_init.data.toList.drop 47 = dktX13_init_2 := dk_seg dksX13_init_1 24 rfl rfl
theorem dksX13_init_3 : cX13_init.data.toList.drop 71 = dktX13_init_3 := dk_seg dksX13_init_2 24 rfl rfl
theorem dksX13_init_4 : cX13_init.data.toList.drop 93 = dktX13_init_4 := dk_seg dksX13_init_3 22 rfl rfl
theorem dksX13_init_5 : cX13_init.data.toList.drop 117 = dktX13_init_5 := dk_seg dksX13_init_4 24 rfl rfl
theorem dksX13_init_6 : cX13_init.data.toList.drop 141 = dktX13_init_6 := dk_seg dksX13_init_5 24 rfl rfl
theorem dksX13_init_7 : cX13_init.data.toList.drop 165 = dktX13_init_7 := dk_seg dksX13_init_6 24 rfl rfl
theorem dX13_init_0 : decode cX13_init 0 = .ok (.aload_n 0, 1) := dk_42 (dk_at dksX13_init_0 0 rfl rfl)
theorem dX13_init_1 : decode cX13_init 1 = .ok (.invokespecial 3, 3) := dk_183 0 3 (dk_at dksX13_init_0 1 rfl rfl)
theorem dX13_init_4 : decode cX13_init 4 = .ok (.aload_n 0, 1) := dk_42 (dk_at dksX13_init_0 4 rfl rfl)
theorem dX13_init_5 : decode cX13_init 5 = .ok (.sipush 372, 3) := dk_17 1 116 (dk_at dksX13_init_0 5 rfl rfl)
theorem dX13_init_8 : decode cX13_init 8 = .ok (.newarray .int, 2) := dk_188_10 (dk_at dksX13_init_0 8 rfl rfl)
theorem dX13_init_10 : decode cX13_init 10 = .ok (.putfield 11, 3) := dk_181 0 11 (dk_at dksX13_init_0 10 rfl rfl)
theorem dX13_init_13 : decode cX13_init 13 = .ok (.aload_n 0, 1) := dk_42 (dk_at dksX13_init_0 13 rfl rfl)
theorem dX13_init_14 : decode cX13_init 14 = .ok (.sipush 372, 3) := dk_17 1 116 (dk_at dksX13_init_0 14 rfl rfl)
theorem dX13_init_17 : decode cX13_init 17 = .ok (.newarray .int, 2) := dk_188_10 (dk_at dksX13_init_0 17 rfl rfl)
theorem dX13_init_19 : decode cX13_init 19 = .ok (.putfield 15, 3) := dk_181 0 15 (dk_at dksX13_init_0 19 rfl rfl)
theorem dX13_init_22 : decode cX13_init 22 = .ok (.aload_n 0, 1) := dk_42 (dk_at dksX13_init_0 22 rfl rfl)
theorem dX13_init_23 : decode cX13_init 23 = .ok (.sipush 372, 3) := dk_17 1 116 (dk_at dksX13_init_1 0 rfl rfl)
theorem dX13_init_26 : decode cX13_init 26 = .ok (.newarray .int, 2) := dk_188_10 (dk_at dksX13_init_1 3 rfl rfl)
theorem dX13_init_28 : decode cX13_init 28 = .ok (.putfield 18, 3) := dk_181 0 18 (dk_at dksX13_init_1 5 rfl rfl)
theorem dX13_init_31 : decode cX13_init 31 = .ok (.aload_n 0, 1) := dk_42 (dk_at dksX13_init_1 8 rfl rfl)
theorem dX13_init_32 : decode cX13_init 32 = .ok (.bipush 64, 2) := dk_16 64 (dk_at dksX13_init_1 9 rfl rfl)
theorem dX13_init_34 : decode cX13_init 34 = .ok (.newarray .int, 2) := dk_188_10 (dk_at dksX13_init_1 11 rfl rfl)
theorem dX13_init_36 : decode cX13_init 36 = .ok (.putfield 21, 3) := dk_181 0 21 (dk_at dksX13_init_1 13 rfl rfl)
theorem dX13_init_39 : decode cX13_init 39 = .ok (.aload_n 0, 1) := dk_42 (dk_at dksX13_init_1 16 rfl rfl)
theorem dX13_init_40 : decode cX13_init 40 = .ok (.bipush 64, 2) := dk_16 64 (dk_at dksX13_init_1 17 rfl rfl)
theorem dX13_init_42 : decode cX13_init 42 = .ok (.newarray .int, 2) := dk_188_10 (dk_at dksX13_init_1 19 rfl rfl)
theorem dX13_init_44 : decode cX13_init 44 = .ok (.putfield 24, 3) := dk_181 0 24 (dk_at dksX13_init_1 21 rfl rfl)
theorem dX13_init_47 : decode cX13_init 47 = .ok (.aload_n 0, 1) := dk_42 (dk_at dksX13_init_2 0 rfl rfl)
theorem dX13_init_48 : decode cX13_init 48 = .ok (.bipush 100, 2) := dk_16 100 (dk_at dksX13_init_2 1 rfl rfl)
theorem dX13_init_50 : decode cX13_init 50 = .ok (.newarray .int, 2) := dk_188_10 (dk_at dksX13_init_2 3 rfl rfl)
theorem dX13_init_52 : decode cX13_init 52 = .ok (.putfield 27, 3) := dk_181 0 27 (dk_at dksX13_init_2 5 rfl rfl)
theorem dX13_init_55 : decode cX13_init 55 = .ok (.aload_n 0, 1) := dk_42 (dk_at dksX13_init_2 8 rfl rfl)
theorem dX13_init_56 : decode cX13_init 56 = .ok (.bipush 56, 2) := dk_16 56 (dk_at dksX13_init_2 9 rfl rfl)
theorem dX13_init_58 : decode cX13_init 58 = .ok (.newarray .int, 2) := dk_188_10 (dk_at dksX13_init_2 11 rfl rfl)
theorem dX13_init_60 : decode cX13_init 60 = .ok (.putfield 30, 3) := dk_181 0 30 (dk_at dksX13_init_2 13 rfl rfl)
theorem dX13_init_63 : decode cX13_init 63 = .ok (.aload_n 0, 1) := dk_42 (dk_at dksX13_init_2 16 rfl rfl)
theorem dX13_init_64 : decode cX13_init 64 = .ok (.bipush 6, 2) := dk_16 6 (dk_at dksX13_init_2 17 rfl rfl)
theorem dX13_init_66 : decode cX13_init 66 = .ok (.newarray .int, 2) := dk_188_10 (dk_at dksX13_init_2 19 rfl rfl)
theorem dX13_init_68 : decode cX13_init 68 = .ok (.putfield 33, 3) := dk_181 0 33 (dk_at dksX13_init_2 21 rfl rfl)
theorem dX13_init_71 : decode cX13_init 71 = .ok (.aload_n 0, 1) := dk_42 (dk_at dksX13_init_3 0 rfl rfl)
theorem dX13_init_72 : decode cX13_init 72 = .ok (.bipush 6, 2) := dk_16 6 (dk_at dksX13_init_3 1 rfl rfl)
theorem dX13_init_74 : decode cX13_init 74 = .ok (.newarray .int, 2) := dk_188_10 (dk_at dksX13_init_3 3 rfl rfl)
theorem dX13_init_76 : decode cX13_init 76 = .ok (.putfield 36, 3) := dk_181 0 36 (dk_at dksX13_init_3 5 rfl rfl)
theorem dX13_init_79 : decode cX13_init 79 = .ok (.aload_n 0, 1) := dk_42 (dk_at dksX13_init_3 8 rfl rfl)
theorem dX13_init_80 : decode cX13_init 80 = .ok (.sipush 360, 3) := dk_17 1 104 (dk_at dksX13_init_3 9 rfl rfl)
theorem dX13_init_83 : decode cX13_init 83 = .ok (.newarray .long, 2) := dk_188_11 (dk_at dksX13_init_3 12 rfl rfl)
theorem dX13_init_85 : decode cX13_init 85 = .ok (.putfield 39, 3) := dk_181 0 39 (dk_at dksX13_init_3 14 rfl rfl)
theorem dX13_init_88 : decode cX13_init 88 = .ok (.aload_n 0, 1) := dk_42 (dk_at dksX13_init_3 17 rfl rfl)
theorem dX13_init_89 : decode cX13_init 89 = .ok (.bipush 60, 2) := dk_16 60 (dk_at dksX13_init_3 18 rfl rfl)
theorem dX13_init_91 : decode cX13_init 91 = .ok (.newarray .long, 2) := dk_188_11 (dk_at dksX13_init_3 20 rfl rfl)
theorem dX13_init_93 : decode cX13_init 93 = .ok (.putfield 43, 3) := dk_181 0 43 (dk_at dksX13_init_4 0 rfl rfl)
theorem dX13_init_96 : decode cX13_init 96 = .ok (.aload_n 0, 1) := dk_42 (dk_at dksX13_init_4 3 rfl rfl)
theorem dX13_init_97 : decode cX13_init 97 = .ok (.getfield 11, 3) := dk_180 0 11 (dk_at dksX13_init_4 4 rfl rfl)
theorem dX13_init_100 : decode cX13_init 100 = .ok (.iconst 0, 1) := dk_3 (dk_at dksX13_init_4 7 rfl rfl)
theorem dX13_init_101 : decode cX13_init 101 = .ok (.iconst 1, 1) := dk_4 (dk_at dksX13_init_4 8 rfl rfl)
theorem dX13_init_102 : decode cX13_init 102 = .ok (.iastore, 1) := dk_79 (dk_at dksX13_init_4 9 rfl rfl)
theorem dX13_init_103 : decode cX13_init 103 = .ok (.aload_n 0, 1) := dk_42 (dk_at dksX13_init_4 10 rfl rfl)
theorem dX13_init_104 : decode cX13_init 104 = .ok (.getfield 11, 3) := dk_180 0 11 (dk_at dksX13_init_4 11 rfl rfl)
theorem dX13_init_107 : decode cX13_init 107 = .ok (.iconst 1, 1) := dk_4 (dk_at dksX13_init_4 14 rfl rfl)
theorem dX13_init_108 : decode cX13_init 108 = .ok (.iconst 1, 1) := dk_4 (dk_at dksX13_init_4 15 rfl rfl)
theorem dX13_init_109 : decode cX13_init 109 = .ok (.iastore, 1) := dk_79 (dk_at dksX13_init_4 16 rfl rfl)
theorem dX13_init_110 : decode cX13_init 110 = .ok (.aload_n 0, 1) := dk_42 (dk_at dksX13_init_4 17 rfl rfl)
theorem dX13_init_111 : decode cX13_init 111 = .ok (.getfield 11, 3) := dk_180 0 11 (dk_at dksX13_init_4 18 rfl rfl)
theorem dX13_init_114 : decode cX13_init 114 = .ok (.iconst 4, 1) := dk_7 (dk_at dksX13_init_4 21 rfl rfl)
theorem dX13_init_115 : decode cX13_init 115 = .ok (.bipush (-5), 2) := dk_16 251 (dk_at dksX13_init_4 22 rfl rfl)
theorem dX13_init_117 : decode cX13_init 117 = .ok (.iastore, 1) := dk_79 (dk_at dksX13_init_5 0 rfl rfl)
theorem dX13_init_118 : decode cX13_init 118 = .ok (.aload_n 0, 1) := dk_42 (dk_at dksX13_init_5 1 rfl rfl)
theorem dX13_init_119 : decode cX13_init 119 = .ok (.getfield 11, 3) := dk_180 0 11 (dk_at dksX13_init_5 2 rfl rfl)
theorem dX13_init_122 : decode cX13_init 122 = .ok (.iconst 5, 1) := dk_8 (dk_at dksX13_init_5 5 rfl rfl)
theorem dX13_init_123 : decode cX13_init 123 = .ok (.bipush (-5), 2) := dk_16 251 (dk_at dksX13_init_5 6 rfl rfl)
theorem dX13_init_125 : decode cX13_init 125 = .ok (.iastore, 1) := dk_79 (dk_at dksX13_init_5 8 rfl rfl)
theorem dX13_init_126 : decode cX13_init 126 = .ok (.aload_n 0, 1) := dk_42 (dk_at dksX13_init_5 9 rfl rfl)
theorem dX13_init_127 : decode cX13_init 127 = .ok (.getfield 11, 3) := dk_180 0 11 (dk_at dksX13_init_5 10 rfl rfl)
theorem dX13_init_130 : decode cX13_init 130 = .ok (.bipush 6, 2) := dk_16 6 (dk_at dksX13_init_5 13 rfl rfl)
theorem dX13_init_132 : decode cX13_init 132 = .ok (.bipush (-5), 2) := dk_16 251 (dk_at dksX13_init_5 15 rfl rfl)
theorem dX13_init_134 : decode cX13_init 134 = .ok (.iastore, 1) := dk_79 (dk_at dksX13_init_5 17 rfl rfl)
theorem dX13_init_135 : decode cX13_init 135 = .ok (.aload_n 0, 1) := dk_42 (dk_at dksX13_init_5 18 rfl rfl)
theorem dX13_init_136 : decode cX13_init 136 = .ok (.getfield 11, 3) := dk_180 0 11 (dk_at dksX13_init_5 19 rfl rfl)
theorem dX13_init_139 : decode cX13_init 139 = .ok (.bipush 16, 2) := dk_16 16 (dk_at dksX13_init_5 22 rfl rfl)
theorem dX13_init_141 : decode cX13_init 141 = .ok (.bipush 30, 2) := dk_16 30 (dk_at dksX13_init_6 0 rfl rfl)
theorem dX13_init_143 : decode cX13_init 143 = .ok (.iastore, 1) := dk_79 (dk_at dksX13_init_6 2 rfl rfl)
theorem dX13_init_144 : decode cX13_init 144 = .ok (.iconst 0, 1) := dk_3 (dk_at dksX13_init_6 3 rfl rfl)
theorem dX13_init_145 : decode cX13_init 145 = .ok (.istore_n 1, 1) := dk_60 (dk_at dksX13_init_6 4 rfl rfl)
theorem dX13_init_146 : decode cX13_init 146 = .ok (.iload_n 1, 1) := dk_27 (dk_at dksX13_init_6 5 rfl rfl)
theorem dX13_init_147 : decode cX13_init 147 = .ok (.bipush 6, 2) := dk_16 6 (dk_at dksX13_init_6 6 rfl rfl)
theorem dX13_init_149 : decode cX13_init 149 = .ok (.if_icmp .ge 16, 3) := dk_162 0 16 (dk_at dksX13_init_6 8 rfl rfl)
theorem dX13_init_152 : decode cX13_init 152 = .ok (.aload_n 0, 1) := dk_42 (dk_at dksX13_init_6 11 rfl rfl)
theorem dX13_init_153 : decode cX13_init 153 = .ok (.getfield 33, 3) := dk_180 0 33 (dk_at dksX13_init_6 12 rfl rfl)
theorem dX13_init_156 : decode cX13_init 156 = .ok (.iload_n 1, 1) := dk_27 (dk_at dksX13_init_6 15 rfl rfl)
theorem dX13_init_157 : decode cX13_init 157 = .ok (.iconst (-1), 1) := dk_2 (dk_at dksX13_init_6 16 rfl rfl)
theorem dX13_init_158 : decode cX13_init 158 = .ok (.iastore, 1) := dk_79 (dk_at dksX13_init_6 17 rfl rfl)
theorem dX13_init_159 : decode cX13_init 159 = .ok (.iinc 1 1, 3) := dk_132 1 1 (dk_at dksX13_init_6 18 rfl rfl)
theorem dX13_init_162 : decode cX13_init 162 = .ok (.goto (-16), 3) := dk_167 255 240 (dk_at dksX13_init_6 21 rfl rfl)
theorem dX13_init_165 : decode cX13_init 165 = .ok (.aload_n 0, 1) := dk_42 (dk_at dksX13_init_7 0 rfl rfl)
theorem dX13_init_166 : decode cX13_init 166 = .ok (.invokevirtual 46, 3) := dk_182 0 46 (dk_at dksX13_init_7 1 rfl rfl)
theorem dX13_init_169 : decode cX13_init 169 = .ok (.return_, 1) := dk_177 (dk_at dksX13_init_7 4 rfl rfl)
abbrev cX13_clears : ByteArray := prog_22_method_14_code
def yX13_clears : MethodName := ⟨RX13, "clears", "()V"⟩
def dkwX13_clears_1 : List UInt8 := [132, 2, 1, 167, 255, 241, 132, 1, 1, 167, 255, 227, 177]
abbrev dktX13_clears_1 : List UInt8 := dkwX13_clears_1 ++ []
def dkwX13_clears_0 : List UInt8 := [3, 60, 27, 16, 8, 162, 0, 29, 3, 61, 28, 16, 8, 162, 0, 15, 42, 27, 28, 182, 0, 78]
abbrev dktX13_clears_0 : List UInt8 := dkwX13_clears_0 ++ dktX13_clears_1
theorem dksX13_clears_0 : cX13_clears.data.toList.drop 0 = dktX13_clears_0 := by decide +kernel
theorem dksX13_clears_1 : cX13_clears.data.toList.drop 22 = dktX13_clears_1 := dk_seg dksX13_clears_0 22 rfl rfl
theorem dX13_clears_0 : decode cX13_clears 0 = .ok (.iconst 0, 1) := dk_3 (dk_at dksX13_clears_0 0 rfl rfl)
theorem dX13_clears_1 : decode cX13_clears 1 = .ok (.istore_n 1, 1) := dk_60 (dk_at dksX13_clears_0 1 rfl rfl)
theorem dX13_clears_2 : decode cX13_clears 2 = .ok (.iload_n 1, 1) := dk_27 (dk_at dksX13_clears_0 2 rfl rfl)
theorem dX13_clears_3 : decode cX13_clears 3 = .ok (.bipush 8, 2) := dk_16 8 (dk_at dksX13_clears_0 3 rfl rfl)
theorem dX13_clears_5 : decode cX13_clears 5 = .ok (.if_icmp .ge 29, 3) := dk_162 0 29 (dk_at dksX13_clears_0 5 rfl rfl)
theorem dX13_clears_8 : decode cX13_clears 8 = .ok (.iconst 0, 1) := dk_3 (dk_at dksX13_clears_0 8 rfl rfl)
theorem dX13_clears_9 : decode cX13_clears 9 = .ok (.istore_n 2, 1) := dk_61 (dk_at dksX13_clears_0 9 rfl rfl)
theorem dX13_clears_10 : decode cX13_clears 10 = .ok (.iload_n 2, 1) := dk_28 (dk_at dksX13_clears_0 10 rfl rfl)
theorem dX13_clears_11 : decode cX13_clears 11 = .ok (.bipush 8, 2) := dk_16 8 (dk_at dksX13_clears_0 11 rfl rfl)
theorem dX13_clears_13 : decode cX13_clears 13 = .ok (.if_icmp .ge 15, 3) := dk_162 0 15 (dk_at dksX13_clears_0 13 rfl rfl)
theorem dX13_clears_16 : decode cX13_clears 16 = .ok (.aload_n 0, 1) := dk_42 (dk_at dksX13_clears_0 16 rfl rfl)
theorem dX13_clears_17 : decode cX13_clears 17 = .ok (.iload_n 1, 1) := dk_27 (dk_at dksX13_clears_0 17 rfl rfl)
theorem dX13_clears_18 : decode cX13_clears 18 = .ok (.iload_n 2, 1) := dk_28 (dk_at dksX13_clears_0 18 rfl rfl)
theorem dX13_clears_19 : decode cX13_clears 19 = .ok (.invokevirtual 78, 3) := dk_182 0 78 (dk_at dksX13_clears_0 19 rfl rfl)
theorem dX13_clears_22 : decode cX13_clears 22 = .ok (.iinc 2 1, 3) := dk_132 2 1 (dk_at dksX13_clears_1 0 rfl rfl)
theorem dX13_clears_25 : decode cX13_clears 25 = .ok (.goto (-15), 3) := dk_167 255 241 (dk_at dksX13_clears_1 3 rfl rfl)
theorem dX13_clears_28 : decode cX13_clears 28 = .ok (.iinc 1 1, 3) := dk_132 1 1 (dk_at dksX13_clears_1 6 rfl rfl)
theorem dX13_clears_31 : decode cX13_clears 31 = .ok (.goto (-29), 3) := dk_167 255 227 (dk_at dksX13_clears_1 9 rfl rfl)
theorem dX13_clears_34 : decode cX13_clears 34 = .ok (.return_, 1) := dk_177 (dk_at dksX13_clears_1 12 rfl rfl)
abbrev cX13_clears_2 : ByteArray := prog_22_method_13_code
def yX13_clears_2 : MethodName := ⟨RX13, "clears", "(II)V"⟩
def dkwX13_clears_2_7 : List UInt8 := [79, 177]
abbrev dktX13_clears_2_7 : List UInt8 := dkwX13_clears_2_7 ++ []
def dkwX13_clears_2_6 : List UInt8 := [156, 0, 8, 16, 251, 167, 0, 19, 42, 27, 182, 0, 66, 29, 184, 0, 73, 42, 180, 0, 11, 4, 46, 96]
abbrev dktX13_clears_2_6 : List UInt8 := dkwX13_clears_2_6 ++ dktX13_clears_2_7
def dkwX13_clears_2_5 : List UInt8 := [180, 0, 24, 16, 8, 27, 104, 28, 96, 21, 4, 79, 42, 180, 0, 21, 16, 8, 27, 104, 28, 96, 21, 4]
abbrev dktX13_clears_2_5 : List UInt8 := dkwX13_clears_2_5 ++ dktX13_clears_2_6
def dkwX13_clears_2_4 : List UInt8 := [21, 7, 62, 42, 27, 16, 12, 21, 5, 96, 182, 0, 56, 54, 4, 132, 5, 1, 167, 255, 155, 42]
abbrev dktX13_clears_2_4 : List UInt8 := dkwX13_clears_2_4 ++ dktX13_clears_2_5
def dkwX13_clears_2_3 : List UInt8 := [182, 0, 70, 21, 6, 104, 100, 54, 7, 21, 4, 155, 0, 12, 21, 7, 29, 163, 0, 6, 167, 0, 18]
abbrev dktX13_clears_2_3 : List UInt8 := dkwX13_clears_2_3 ++ dktX13_clears_2_4
def dkwX13_clears_2_2 : List UInt8 := [156, 0, 6, 167, 0, 59, 42, 27, 182, 0, 66, 42, 27, 182, 0, 70, 21, 5, 4, 96, 104, 96, 42, 28]
abbrev dktX13_clears_2_2 : List UInt8 := dkwX13_clears_2_2 ++ dktX13_clears_2_3
def dkwX13_clears_2_1 : List UInt8 := [159, 0, 90, 42, 28, 42, 27, 16, 12, 21, 5, 96, 182, 0, 56, 182, 0, 63, 54, 6, 21, 6]
abbrev dktX13_clears_2_1 : List UInt8 := dkwX13_clears_2_1 ++ dktX13_clears_2_2
def dkwX13_clears_2_0 : List UInt8 := [3, 62, 16, 251, 54, 4, 3, 54, 5, 21, 5, 42, 27, 16, 11, 182, 0, 56, 162, 0, 95, 27, 28]
abbrev dktX13_clears_2_0 : List UInt8 := dkwX13_clears_2_0 ++ dktX13_clears_2_1
theorem dksX13_clears_2_0 : cX13_clears_2.data.toList.drop 0 = dktX13_clears_2_0 := by decide +kernel
theorem dksX13_clears_2_1 : cX13_clears_2.data.toList.drop 23 = dktX13_clears_2_1 := dk_seg dksX13_clears_2_0 23 rfl rfl
theorem dksX13_clears_2_2 : cX13_clears_2.data.toList.drop 45 = dktX13_clears_2_2 := dk_seg dksX13_clears_2_1 22 rfl rfl
theorem dksX13_clears_2_3 : cX13_clears_2.data.toList.drop 69 = dktX13_clears_2_3 := dk_seg dksX13_clears_2_2 24 rfl rfl
theorem dksX13_clears_2_4 : cX13_clears_2.data.toList.drop 92 = dktX13_clears_2_4 := dk_seg dksX13_clears_2_3 23 rfl rfl
theorem dksX13_clears_2_5 : cX13_clears_2.data.toList.drop 114 = dktX13_clears_2_5 := dk_seg dksX13_clears_2_4 22 rfl rfl
theorem dksX13_clears_2_6 : cX13_clears_2.data.toList.drop 138 = dktX13_clears_2_6 := dk_seg dksX13_clears_2_5 24 rfl rfl
theorem dksX13_clears_2_7 : cX13_clears_2.data.toList.drop 162 = dktX13_clears_2_7 := dk_seg dksX13_clears_2_6 24 rfl rfl
theorem dX13_clears_2_0 : decode cX13_clears_2 0 = .ok (.iconst 0, 1) := dk_3 (dk_at dksX13_clears_2_0 0 rfl rfl)
theorem dX13_clears_2_1 : decode cX13_clears_2 1 = .ok (.istore_n 3, 1) := dk_62 (dk_at dksX13_clears_2_0 1 rfl rfl)
theorem dX13_clears_2_2 : decode cX13_clears_2 2 = .ok (.bipush (-5), 2) := dk_16 251 (dk_at dksX13_clears_2_0 2 rfl rfl)
theorem dX13_clears_2_4 : decode cX13_clears_2 4 = .ok (.istore 4, 2) := dk_54 4 (dk_at dksX13_clears_2_0 4 rfl rfl)
theorem dX13_clears_2_6 : decode cX13_clears_2 6 = .ok (.iconst 0, 1) := dk_3 (dk_at dksX13_clears_2_0 6 rfl rfl)
theorem dX13_clears_2_7 : decode cX13_clears_2 7 = .ok (.istore 5, 2) := dk_54 5 (dk_at dksX13_clears_2_0 7 rfl rfl)
theorem dX13_clears_2_9 : decode cX13_clears_2 9 = .ok (.iload 5, 2) := dk_21 5 (dk_at dksX13_clears_2_0 9 rfl rfl)
theorem dX13_clears_2_11 : decode cX13_clears_2 11 = .ok (.aload_n 0, 1) := dk_42 (dk_at dksX13_clears_2_0 11 rfl rfl)
theorem dX13_clears_2_12 : decode cX13_clears_2 12 = .ok (.iload_n 1, 1) := dk_27 (dk_at dksX13_clears_2_0 12 rfl rfl)
theorem dX13_clears_2_13 : decode cX13_clears_2 13 = .ok (.bipush 11, 2) := dk_16 11 (dk_at dksX13_clears_2_0 13 rfl rfl)
theorem dX13_clears_2_15 : decode cX13_clears_2 15 = .ok (.invokevirtual 56, 3) := dk_182 0 56 (dk_at dksX13_clears_2_0 15 rfl rfl)
theorem dX13_clears_2_18 : decode cX13_clears_2 18 = .ok (.if_icmp .ge 95, 3) := dk_162 0 95 (dk_at dksX13_clears_2_0 18 rfl rfl)
theorem dX13_clears_2_21 : decode cX13_clears_2 21 = .ok (.iload_n 1, 1) := dk_27 (dk_at dksX13_clears_2_0 21 rfl rfl)
theorem dX13_clears_2_22 : decode cX13_clears_2 22 = .ok (.iload_n 2, 1) := dk_28 (dk_at dksX13_clears_2_0 22 rfl rfl)
theorem dX13_clears_2_23 : decode cX13_clears_2 23 = .ok (.if_icmp .eq 90, 3) := dk_159 0 90 (dk_at dksX13_clears_2_1 0 rfl rfl)
theorem dX13_clears_2_26 : decode cX13_clears_2 26 = .ok (.aload_n 0, 1) := dk_42 (dk_at dksX13_clears_2_1 3 rfl rfl)
theorem dX13_clears_2_27 : decode cX13_clears_2 27 = .ok (.iload_n 2, 1) := dk_28 (dk_at dksX13_clears_2_1 4 rfl rfl)
theorem dX13_clears_2_28 : decode cX13_clears_2 28 = .ok (.aload_n 0, 1) := dk_42 (dk_at dksX13_clears_2_1 5 rfl rfl)
theorem dX13_clears_2_29 : decode cX13_clears_2 29 = .ok (.iload_n 1, 1) := dk_27 (dk_at dksX13_clears_2_1 6 rfl rfl)
theorem dX13_clears_2_30 : decode cX13_clears_2 30 = .ok (.bipush 12, 2) := dk_16 12 (dk_at dksX13_clears_2_1 7 rfl rfl)
theorem dX13_clears_2_32 : decode cX13_clears_2 32 = .ok (.iload 5, 2) := dk_21 5 (dk_at dksX13_clears_2_1 9 rfl rfl)
theorem dX13_clears_2_34 : decode cX13_clears_2 34 = .ok (.iadd, 1) := dk_96 (dk_at dksX13_clears_2_1 11 rfl rfl)
theorem dX13_clears_2_35 : decode cX13_clears_2 35 = .ok (.invokevirtual 56, 3) := dk_182 0 56 (dk_at dksX13_clears_2_1 12 rfl rfl)
theorem dX13_clears_2_38 : decode cX13_clears_2 38 = .ok (.invokevirtual 63, 3) := dk_182 0 63 (dk_at dksX13_clears_2_1 15 rfl rfl)
theorem dX13_clears_2_41 : decode cX13_clears_2 41 = .ok (.istore 6, 2) := dk_54 6 (dk_at dksX13_clears_2_1 18 rfl rfl)
theorem dX13_clears_2_43 : decode cX13_clears_2 43 = .ok (.iload 6, 2) := dk_21 6 (dk_at dksX13_clears_2_1 20 rfl rfl)
theorem dX13_clears_2_45 : decode cX13_clears_2 45 = .ok (.ifCond .ge 6, 3) := dk_156 0 6 (dk_at dksX13_clears_2_2 0 rfl rfl)
theorem dX13_clears_2_48 : decode cX13_clears_2 48 = .ok (.goto 59, 3) := dk_167 0 59 (dk_at dksX13_clears_2_2 3 rfl rfl)
theorem dX13_clears_2_51 : decode cX13_clears_2 51 = .ok (.aload_n 0, 1) := dk_42 (dk_at dksX13_clears_2_2 6 rfl rfl)
theorem dX13_clears_2_52 : decode cX13_clears_2 52 = .ok (.iload_n 1, 1) := dk_27 (dk_at dksX13_clears_2_2 7 rfl rfl)
theorem dX13_clears_2_53 : decode cX13_clears_2 53 = .ok (.invokevirtual 66, 3) := dk_182 0 66 (dk_at dksX13_clears_2_2 8 rfl rfl)
theorem dX13_clears_2_56 : decode cX13_clears_2 56 = .ok (.aload_n 0, 1) := dk_42 (dk_at dksX13_clears_2_2 11 rfl rfl)
theorem dX13_clears_2_57 : decode cX13_clears_2 57 = .ok (.iload_n 1, 1) := dk_27 (dk_at dksX13_clears_2_2 12 rfl rfl)
theorem dX13_clears_2_58 : decode cX13_clears_2 58 = .ok (.invokevirtual 70, 3) := dk_182 0 70 (dk_at dksX13_clears_2_2 13 rfl rfl)
theorem dX13_clears_2_61 : decode cX13_clears_2 61 = .ok (.iload 5, 2) := dk_21 5 (dk_at dksX13_clears_2_2 16 rfl rfl)
theorem dX13_clears_2_63 : decode cX13_clears_2 63 = .ok (.iconst 1, 1) := dk_4 (dk_at dksX13_clears_2_2 18 rfl rfl)
theorem dX13_clears_2_64 : decode cX13_clears_2 64 = .ok (.iadd, 1) := dk_96 (dk_at dksX13_clears_2_2 19 rfl rfl)
theorem dX13_clears_2_65 : decode cX13_clears_2 65 = .ok (.imul, 1) := dk_104 (dk_at dksX13_clears_2_2 20 rfl rfl)
theorem dX13_clears_2_66 : decode cX13_clears_2 66 = .ok (.iadd, 1) := dk_96 (dk_at dksX13_clears_2_2 21 rfl rfl)
theorem dX13_clears_2_67 : decode cX13_clears_2 67 = .ok (.aload_n 0, 1) := dk_42 (dk_at dksX13_clears_2_2 22 rfl rfl)
theorem dX13_clears_2_68 : decode cX13_clears_2 68 = .ok (.iload_n 2, 1) := dk_28 (dk_at dksX13_clears_2_2 23 rfl rfl)
theorem dX13_clears_2_69 : decode cX13_clears_2 69 = .ok (.invokevirtual 70, 3) := dk_182 0 70 (dk_at dksX13_clears_2_3 0 rfl rfl)
theorem dX13_clears_2_72 : decode cX13_clears_2 72 = .ok (.iload 6, 2) := dk_21 6 (dk_at dksX13_clears_2_3 3 rfl rfl)
theorem dX13_clears_2_74 : decode cX13_clears_2 74 = .ok (.imul, 1) := dk_104 (dk_at dksX13_clears_2_3 5 rfl rfl)
theorem dX13_clears_2_75 : decode cX13_clears_2 75 = .ok (.isub, 1) := dk_100 (dk_at dksX13_clears_2_3 6 rfl rfl)
theorem dX13_clears_2_76 : decode cX13_clears_2 76 = .ok (.istore 7, 2) := dk_54 7 (dk_at dksX13_clears_2_3 7 rfl rfl)
theorem dX13_clears_2_78 : decode cX13_clears_2 78 = .ok (.iload 4, 2) := dk_21 4 (dk_at dksX13_clears_2_3 9 rfl rfl)
theorem dX13_clears_2_80 : decode cX13_clears_2 80 = .ok (.ifCond .lt 12, 3) := dk_155 0 12 (dk_at dksX13_clears_2_3 11 rfl rfl)
theorem dX13_clears_2_83 : decode cX13_clears_2 83 = .ok (.iload 7, 2) := dk_21 7 (dk_at dksX13_clears_2_3 14 rfl rfl)
theorem dX13_clears_2_85 : decode cX13_clears_2 85 = .ok (.iload_n 3, 1) := dk_29 (dk_at dksX13_clears_2_3 16 rfl rfl)
theorem dX13_clears_2_86 : decode cX13_clears_2 86 = .ok (.if_icmp .gt 6, 3) := dk_163 0 6 (dk_at dksX13_clears_2_3 17 rfl rfl)
theorem dX13_clears_2_89 : decode cX13_clears_2 89 = .ok (.goto 18, 3) := dk_167 0 18 (dk_at dksX13_clears_2_3 20 rfl rfl)
theorem dX13_clears_2_92 : decode cX13_clears_2 92 = .ok (.iload 7, 2) := dk_21 7 (dk_at dksX13_clears_2_4 0 rfl rfl)
theorem dX13_clears_2_94 : decode cX13_clears_2 94 = .ok (.istore_n 3, 1) := dk_62 (dk_at dksX13_clears_2_4 2 rfl rfl)
theorem dX13_clears_2_95 : decode cX13_clears_2 95 = .ok (.aload_n 0, 1) := dk_42 (dk_at dksX13_clears_2_4 3 rfl rfl)
theorem dX13_clears_2_96 : decode cX13_clears_2 96 = .ok (.iload_n 1, 1) := dk_27 (dk_at dksX13_clears_2_4 4 rfl rfl)
theorem dX13_clears_2_97 : decode cX13_clears_2 97 = .ok (.bipush 12, 2) := dk_16 12 (dk_at dksX13_clears_2_4 5 rfl rfl)
theorem dX13_clears_2_99 : decode cX13_clears_2 99 = .ok (.iload 5, 2) := dk_21 5 (dk_at dksX13_clears_2_4 7 rfl rfl)
theorem dX13_clears_2_101 : decode cX13_clears_2 101 = .ok (.iadd, 1) := dk_96 (dk_at dksX13_clears_2_4 9 rfl rfl)
theorem dX13_clears_2_102 : decode cX13_clears_2 102 = .ok (.invokevirtual 56, 3) := dk_182 0 56 (dk_at dksX13_clears_2_4 10 rfl rfl)
theorem dX13_clears_2_105 : decode cX13_clears_2 105 = .ok (.istore 4, 2) := dk_54 4 (dk_at dksX13_clears_2_4 13 rfl rfl)
theorem dX13_clears_2_107 : decode cX13_clears_2 107 = .ok (.iinc 5 1, 3) := dk_132 5 1 (dk_at dksX13_clears_2_4 15 rfl rfl)
theorem dX13_clears_2_110 : decode cX13_clears_2 110 = .ok (.goto (-101), 3) := dk_167 255 155 (dk_at dksX13_clears_2_4 18 rfl rfl)
theorem dX13_clears_2_113 : decode cX13_clears_2 113 = .ok (.aload_n 0, 1) := dk_42 (dk_at dksX13_clears_2_4 21 rfl rfl)
theorem dX13_clears_2_114 : decode cX13_clears_2 114 = .ok (.getfield 24, 3) := dk_180 0 24 (dk_at dksX13_clears_2_5 0 rfl rfl)
theorem dX13_clears_2_117 : decode cX13_clears_2 117 = .ok (.bipush 8, 2) := dk_16 8 (dk_at dksX13_clears_2_5 3 rfl rfl)
theorem dX13_clears_2_119 : decode cX13_clears_2 119 = .ok (.iload_n 1, 1) := dk_27 (dk_at dksX13_clears_2_5 5 rfl rfl)
theorem dX13_clears_2_120 : decode cX13_clears_2 120 = .ok (.imul, 1) := dk_104 (dk_at dksX13_clears_2_5 6 rfl rfl)
theorem dX13_clears_2_121 : decode cX13_clears_2 121 = .ok (.iload_n 2, 1) := dk_28 (dk_at dksX13_clears_2_5 7 rfl rfl)
theorem dX13_clears_2_122 : decode cX13_clears_2 122 = .ok (.iadd, 1) := dk_96 (dk_at dksX13_clears_2_5 8 rfl rfl)
theorem dX13_clears_2_123 : decode cX13_clears_2 123 = .ok (.iload 4, 2) := dk_21 4 (dk_at dksX13_clears_2_5 9 rfl rfl)
theorem dX13_clears_2_125 : decode cX13_clears_2 125 = .ok (.iastore, 1) := dk_79 (dk_at dksX13_clears_2_5 11 rfl rfl)
theorem dX13_clears_2_126 : decode cX13_clears_2 126 = .ok (.aload_n 0, 1) := dk_42 (dk_at dksX13_clears_2_5 12 rfl rfl)
theorem dX13_clears_2_127 : decode cX13_clears_2 127 = .ok (.getfield 21, 3) := dk_180 0 21 (dk_at dksX13_clears_2_5 13 rfl rfl)
theorem dX13_clears_2_130 : decode cX13_clears_2 130 = .ok (.bipush 8, 2) := dk_16 8 (dk_at dksX13_clears_2_5 16 rfl rfl)
theorem dX13_clears_2_132 : decode cX13_clears_2 132 = .ok (.iload_n 1, 1) := dk_27 (dk_at dksX13_clears_2_5 18 rfl rfl)
theorem dX13_clears_2_133 : decode cX13_clears_2 133 = .ok (.imul, 1) := dk_104 (dk_at dksX13_clears_2_5 19 rfl rfl)
theorem dX13_clears_2_134 : decode cX13_clears_2 134 = .ok (.iload_n 2, 1) := dk_28 (dk_at dksX13_clears_2_5 20 rfl rfl)
theorem dX13_clears_2_135 : decode cX13_clears_2 135 = .ok (.iadd, 1) := dk_96 (dk_at dksX13_clears_2_5 21 rfl rfl)
theorem dX13_clears_2_136 : decode cX13_clears_2 136 = .ok (.iload 4, 2) := dk_21 4 (dk_at dksX13_clears_2_5 22 rfl rfl)
theorem dX13_clears_2_138 : decode cX13_clears_2 138 = .ok (.ifCond .ge 8, 3) := dk_156 0 8 (dk_at dksX13_clears_2_6 0 rfl rfl)
theorem dX13_clears_2_141 : decode cX13_clears_2 141 = .ok (.bipush (-5), 2) := dk_16 251 (dk_at dksX13_clears_2_6 3 rfl rfl)
theorem dX13_clears_2_143 : decode cX13_clears_2 143 = .ok (.goto 19, 3) := dk_167 0 19 (dk_at dksX13_clears_2_6 5 rfl rfl)
theorem dX13_clears_2_146 : decode cX13_clears_2 146 = .ok (.aload_n 0, 1) := dk_42 (dk_at dksX13_clears_2_6 8 rfl rfl)
theorem dX13_clears_2_147 : decode cX13_clears_2 147 = .ok (.iload_n 1, 1) := dk_27 (dk_at dksX13_clears_2_6 9 rfl rfl)
theorem dX13_clears_2_148 : decode cX13_clears_2 148 = .ok (.invokevirtual 66, 3) := dk_182 0 66 (dk_at dksX13_clears_2_6 10 rfl rfl)
theorem dX13_clears_2_151 : decode cX13_clears_2 151 = .ok (.iload_n 3, 1) := dk_29 (dk_at dksX13_clears_2_6 13 rfl rfl)
theorem dX13_clears_2_152 : decode cX13_clears_2 152 = .ok (.invokestatic 73, 3) := dk_184 0 73 (dk_at dksX13_clears_2_6 14 rfl rfl)
theorem dX13_clears_2_155 : decode cX13_clears_2 155 = .ok (.aload_n 0, 1) := dk_42 (dk_at dksX13_clears_2_6 17 rfl rfl)
theorem dX13_clears_2_156 : decode cX13_clears_2 156 = .ok (.getfield 11, 3) := dk_180 0 11 (dk_at dksX13_clears_2_6 18 rfl rfl)
theorem dX13_clears_2_159 : decode cX13_clears_2 159 = .ok (.iconst 1, 1) := dk_4 (dk_at dksX13_clears_2_6 21 rfl rfl)
theorem dX13_clears_2_160 : decode cX13_clears_2 160 = .ok (.iaload, 1) := dk_46 (dk_at dksX13_clears_2_6 22 rfl rfl)
theorem dX13_clears_2_161 : decode cX13_clears_2 161 = .ok (.iadd, 1) := dk_96 (dk_at dksX13_clears_2_6 23 rfl rfl)
theorem dX13_clears_2_162 : decode cX13_clears_2 162 = .ok (.iastore, 1) := dk_79 (dk_at dksX13_clears_2_7 0 rfl rfl)
theorem dX13_clears_2_163 : decode cX13_clears_2 163 = .ok (.return_, 1) := dk_177 (dk_at dksX13_clears_2_7 1 rfl rfl)
abbrev cX13_at : ByteArray := prog_22_method_6_code
def yX13_at : MethodName := ⟨RX13, "at", "(II)I"⟩
def dkwX13_at_0 : List UInt8 := [42, 180, 0, 11, 16, 24, 16, 24, 27, 104, 96, 28, 96, 46, 172]
abbrev dktX13_at_0 : List UInt8 := dkwX13_at_0 ++ []
theorem dksX13_at_0 : cX13_at.data.toList.drop 0 = dktX13_at_0 := by decide +kernel
theorem dX13_at_0 : decode cX13_at 0 = .ok (.aload_n 0, 1) := dk_42 (dk_at dksX13_at_0 0 rfl rfl)
theorem dX13_at_1 : decode cX13_at 1 = .ok (.getfield 11, 3) := dk_180 0 11 (dk_at dksX13_at_0 1 rfl rfl)
theorem dX13_at_4 : decode cX13_at 4 = .ok (.bipush 24, 2) := dk_16 24 (dk_at dksX13_at_0 4 rfl rfl)
theorem dX13_at_6 : decode cX13_at 6 = .ok (.bipush 24, 2) := dk_16 24 (dk_at dksX13_at_0 6 rfl rfl)
theorem dX13_at_8 : decode cX13_at 8 = .ok (.iload_n 1, 1) := dk_27 (dk_at dksX13_at_0 8 rfl rfl)
theorem dX13_at_9 : decode cX13_at 9 = .ok (.imul, 1) := dk_104 (dk_at dksX13_at_0 9 rfl rfl)
theorem dX13_at_10 : decode cX13_at 10 = .ok (.iadd, 1) := dk_96 (dk_at dksX13_at_0 10 rfl rfl)
theorem dX13_at_11 : decode cX13_at 11 = .ok (.iload_n 2, 1) := dk_28 (dk_at dksX13_at_0 11 rfl rfl)
theorem dX13_at_12 : decode cX13_at 12 = .ok (.iadd, 1) := dk_96 (dk_at dksX13_at_0 12 rfl rfl)
theorem dX13_at_13 : decode cX13_at 13 = .ok (.iaload, 1) := dk_46 (dk_at dksX13_at_0 13 rfl rfl)
theorem dX13_at_14 : decode cX13_at 14 = .ok (.ireturn, 1) := dk_172 (dk_at dksX13_at_0 14 rfl rfl)
abbrev cX13_placeIn : ByteArray := prog_22_method_12_code
def yX13_placeIn : MethodName := ⟨RX13, "placeIn", "(II)I"⟩
def dkwX13_placeIn_1 : List UInt8 := [160, 0, 5, 29, 172, 132, 3, 1, 167, 255, 227, 16, 251, 172]
abbrev dktX13_placeIn_1 : List UInt8 := dkwX13_placeIn_1 ++ []
def dkwX13_placeIn_0 : List UInt8 := [3, 62, 29, 42, 27, 16, 11, 182, 0, 56, 162, 0, 24, 42, 27, 16, 12, 29, 96, 182, 0, 56, 28]
abbrev dktX13_placeIn_0 : List UInt8 := dkwX13_placeIn_0 ++ dktX13_placeIn_1
theorem dksX13_placeIn_0 : cX13_placeIn.data.toList.drop 0 = dktX13_placeIn_0 := by decide +kernel
theorem dksX13_placeIn_1 : cX13_placeIn.data.toList.drop 23 = dktX13_placeIn_1 := dk_seg dksX13_placeIn_0 23 rfl rfl
theorem dX13_placeIn_0 : decode cX13_placeIn 0 = .ok (.iconst 0, 1) := dk_3 (dk_at dksX13_placeIn_0 0 rfl rfl)
theorem dX13_placeIn_1 : decode cX13_placeIn 1 = .ok (.istore_n 3, 1) := dk_62 (dk_at dksX13_placeIn_0 1 rfl rfl)
theorem dX13_placeIn_2 : decode cX13_placeIn 2 = .ok (.iload_n 3, 1) := dk_29 (dk_at dksX13_placeIn_0 2 rfl rfl)
theorem dX13_placeIn_3 : decode cX13_placeIn 3 = .ok (.aload_n 0, 1) := dk_42 (dk_at dksX13_placeIn_0 3 rfl rfl)
theorem dX13_placeIn_4 : decode cX13_placeIn 4 = .ok (.iload_n 1, 1) := dk_27 (dk_at dksX13_placeIn_0 4 rfl rfl)
theorem dX13_placeIn_5 : decode cX13_placeIn 5 = .ok (.bipush 11, 2) := dk_16 11 (dk_at dksX13_placeIn_0 5 rfl rfl)
theorem dX13_placeIn_7 : decode cX13_placeIn 7 = .ok (.invokevirtual 56, 3) := dk_182 0 56 (dk_at dksX13_placeIn_0 7 rfl rfl)
theorem dX13_placeIn_10 : decode cX13_placeIn 10 = .ok (.if_icmp .ge 24, 3) := dk_162 0 24 (dk_at dksX13_placeIn_0 10 rfl rfl)
theorem dX13_placeIn_13 : decode cX13_placeIn 13 = .ok (.aload_n 0, 1) := dk_42 (dk_at dksX13_placeIn_0 13 rfl rfl)
theorem dX13_placeIn_14 : decode cX13_placeIn 14 = .ok (.iload_n 1, 1) := dk_27 (dk_at dksX13_placeIn_0 14 rfl rfl)
theorem dX13_placeIn_15 : decode cX13_placeIn 15 = .ok (.bipush 12, 2) := dk_16 12 (dk_at dksX13_placeIn_0 15 rfl rfl)
theorem dX13_placeIn_17 : decode cX13_placeIn 17 = .ok (.iload_n 3, 1) := dk_29 (dk_at dksX13_placeIn_0 17 rfl rfl)
theorem dX13_placeIn_18 : decode cX13_placeIn 18 = .ok (.iadd, 1) := dk_96 (dk_at dksX13_placeIn_0 18 rfl rfl)
theorem dX13_placeIn_19 : decode cX13_placeIn 19 = .ok (.invokevirtual 56, 3) := dk_182 0 56 (dk_at dksX13_placeIn_0 19 rfl rfl)
theorem dX13_placeIn_22 : decode cX13_placeIn 22 = .ok (.iload_n 2, 1) := dk_28 (dk_at dksX13_placeIn_0 22 rfl rfl)
theorem dX13_placeIn_23 : decode cX13_placeIn 23 = .ok (.if_icmp .ne 5, 3) := dk_160 0 5 (dk_at dksX13_placeIn_1 0 rfl rfl)
theorem dX13_placeIn_26 : decode cX13_placeIn 26 = .ok (.iload_n 3, 1) := dk_29 (dk_at dksX13_placeIn_1 3 rfl rfl)
theorem dX13_placeIn_27 : decode cX13_placeIn 27 = .ok (.ireturn, 1) := dk_172 (dk_at dksX13_placeIn_1 4 rfl rfl)
theorem dX13_placeIn_28 : decode cX13_placeIn 28 = .ok (.iinc 3 1, 3) := dk_132 3 1 (dk_at dksX13_placeIn_1 5 rfl rfl)
theorem dX13_placeIn_31 : decode cX13_placeIn 31 = .ok (.goto (-29), 3) := dk_167 255 227 (dk_at dksX13_placeIn_1 8 rfl rfl)
theorem dX13_placeIn_34 : decode cX13_placeIn 34 = .ok (.bipush (-5), 2) := dk_16 251 (dk_at dksX13_placeIn_1 11 rfl rfl)
theorem dX13_placeIn_36 : decode cX13_placeIn 36 = .ok (.ireturn, 1) := dk_172 (dk_at dksX13_placeIn_1 13 rfl rfl)
abbrev cX13_amber : ByteArray := prog_22_method_9_code
def yX13_amber : MethodName := ⟨RX13, "amber", "(I)I"⟩
def dkwX13_amber_0 : List UInt8 := [178, 0, 53, 42, 27, 3, 182, 0, 56, 46, 172]
abbrev dktX13_amber_0 : List UInt8 := dkwX13_amber_0 ++ []
theorem dksX13_amber_0 : cX13_amber.data.toList.drop 0 = dktX13_amber_0 := by decide +kernel
theorem dX13_amber_0 : decode cX13_amber 0 = .ok (.getstatic 53, 3) := dk_178 0 53 (dk_at dksX13_amber_0 0 rfl rfl)
theorem dX13_amber_3 : decode cX13_amber 3 = .ok (.aload_n 0, 1) := dk_42 (dk_at dksX13_amber_0 3 rfl rfl)
theorem dX13_amber_4 : decode cX13_amber 4 = .ok (.iload_n 1, 1) := dk_27 (dk_at dksX13_amber_0 4 rfl rfl)
theorem dX13_amber_5 : decode cX13_amber 5 = .ok (.iconst 0, 1) := dk_3 (dk_at dksX13_amber_0 5 rfl rfl)
theorem dX13_amber_6 : decode cX13_amber 6 = .ok (.invokevirtual 56, 3) := dk_182 0 56 (dk_at dksX13_amber_0 6 rfl rfl)
theorem dX13_amber_9 : decode cX13_amber 9 = .ok (.iaload, 1) := dk_46 (dk_at dksX13_amber_0 9 rfl rfl)
theorem dX13_amber_10 : decode cX13_amber 10 = .ok (.ireturn, 1) := dk_172 (dk_at dksX13_amber_0 10 rfl rfl)
abbrev cX13_pace : ByteArray := prog_22_method_10_code
def yX13_pace : MethodName := ⟨RX13, "pace", "(I)I"⟩
def dkwX13_pace_0 : List UInt8 := [178, 0, 60, 42, 27, 3, 182, 0, 56, 46, 172]
abbrev dktX13_pace_0 : List UInt8 := dkwX13_pace_0 ++ []
theorem dksX13_pace_0 : cX13_pace.data.toList.drop 0 = dktX13_pace_0 := by decide +kernel
theorem dX13_pace_0 : decode cX13_pace 0 = .ok (.getstatic 60, 3) := dk_178 0 60 (dk_at dksX13_pace_0 0 rfl rfl)
theorem dX13_pace_3 : decode cX13_pace 3 = .ok (.aload_n 0, 1) := dk_42 (dk_at dksX13_pace_0 3 rfl rfl)
theorem dX13_pace_4 : decode cX13_pace 4 = .ok (.iload_n 1, 1) := dk_27 (dk_at dksX13_pace_0 4 rfl rfl)
theorem dX13_pace_5 : decode cX13_pace 5 = .ok (.iconst 0, 1) := dk_3 (dk_at dksX13_pace_0 5 rfl rfl)
theorem dX13_pace_6 : decode cX13_pace 6 = .ok (.invokevirtual 56, 3) := dk_182 0 56 (dk_at dksX13_pace_0 6 rfl rfl)
theorem dX13_pace_9 : decode cX13_pace 9 = .ok (.iaload, 1) := dk_46 (dk_at dksX13_pace_0 9 rfl rfl)
theorem dX13_pace_10 : decode cX13_pace 10 = .ok (.ireturn, 1) := dk_172 (dk_at dksX13_pace_0 10 rfl rfl)
abbrev cX13_signal : ByteArray := prog_22_method_19_code
def yX13_signal : MethodName := ⟨RX13, "signal", "(II)I"⟩
def dkwX13_signal_3 : List UInt8 := [182, 0, 93, 42, 182, 0, 46, 42, 180, 0, 11, 16, 13, 46, 4, 100, 172]
abbrev dktX13_signal_3 : List UInt8 := dkwX13_signal_3 ++ []
def dkwX13_signal_2 : List UInt8 := [16, 252, 172, 42, 27, 8, 16, 40, 6, 3, 182, 0, 89, 42, 42, 180, 0, 11, 16, 13, 46, 4, 100, 28]
abbrev dktX13_signal_2 : List UInt8 := dkwX13_signal_2 ++ dktX13_signal_3
def dkwX13_signal_1 : List UInt8 := [180, 0, 11, 5, 46, 4, 160, 0, 6, 16, 253, 172, 42, 180, 0, 11, 16, 13, 46, 16, 8, 160, 0, 6]
abbrev dktX13_signal_1 : List UInt8 := dkwX13_signal_1 ++ dktX13_signal_2
def dkwX13_signal_0 : List UInt8 := [27, 3, 6, 184, 0, 49, 153, 0, 13, 28, 3, 16, 63, 184, 0, 49, 154, 0, 6, 16, 254, 172, 42]
abbrev dktX13_signal_0 : List UInt8 := dkwX13_signal_0 ++ dktX13_signal_1
theorem dksX13_signal_0 : cX13_signal.data.toList.drop 0 = dktX13_signal_0 := by decide +kernel
theorem dksX13_signal_1 : cX13_signal.data.toList.drop 23 = dktX13_signal_1 := dk_seg dksX13_signal_0 23 rfl rfl
theorem dksX13_signal_2 : cX13_signal.data.toList.drop 47 = dktX13_signal_2 := dk_seg dksX13_signal_1 24 rfl rfl
theorem dksX13_signal_3 : cX13_signal.data.toList.drop 71 = dktX13_signal_3 := dk_seg dksX13_signal_2 24 rfl rfl
theorem dX13_signal_0 : decode cX13_signal 0 = .ok (.iload_n 1, 1) := dk_27 (dk_at dksX13_signal_0 0 rfl rfl)
theorem dX13_signal_1 : decode cX13_signal 1 = .ok (.iconst 0, 1) := dk_3 (dk_at dksX13_signal_0 1 rfl rfl)
theorem dX13_signal_2 : decode cX13_signal 2 = .ok (.iconst 3, 1) := dk_6 (dk_at dksX13_signal_0 2 rfl rfl)
theorem dX13_signal_3 : decode cX13_signal 3 = .ok (.invokestatic 49, 3) := dk_184 0 49 (dk_at dksX13_signal_0 3 rfl rfl)
theorem dX13_signal_6 : decode cX13_signal 6 = .ok (.ifCond .eq 13, 3) := dk_153 0 13 (dk_at dksX13_signal_0 6 rfl rfl)
theorem dX13_signal_9 : decode cX13_signal 9 = .ok (.iload_n 2, 1) := dk_28 (dk_at dksX13_signal_0 9 rfl rfl)
theorem dX13_signal_10 : decode cX13_signal 10 = .ok (.iconst 0, 1) := dk_3 (dk_at dksX13_signal_0 10 rfl rfl)
theorem dX13_signal_11 : decode cX13_signal 11 = .ok (.bipush 63, 2) := dk_16 63 (dk_at dksX13_signal_0 11 rfl rfl)
theorem dX13_signal_13 : decode cX13_signal 13 = .ok (.invokestatic 49, 3) := dk_184 0 49 (dk_at dksX13_signal_0 13 rfl rfl)
theorem dX13_signal_16 : decode cX13_signal 16 = .ok (.ifCond .ne 6, 3) := dk_154 0 6 (dk_at dksX13_signal_0 16 rfl rfl)
theorem dX13_signal_19 : decode cX13_signal 19 = .ok (.bipush (-2), 2) := dk_16 254 (dk_at dksX13_signal_0 19 rfl rfl)
theorem dX13_signal_21 : decode cX13_signal 21 = .ok (.ireturn, 1) := dk_172 (dk_at dksX13_signal_0 21 rfl rfl)
theorem dX13_signal_22 : decode cX13_signal 22 = .ok (.aload_n 0, 1) := dk_42 (dk_at dksX13_signal_0 22 rfl rfl)
theorem dX13_signal_23 : decode cX13_signal 23 = .ok (.getfield 11, 3) := dk_180 0 11 (dk_at dksX13_signal_1 0 rfl rfl)
theorem dX13_signal_26 : decode cX13_signal 26 = .ok (.iconst 2, 1) := dk_5 (dk_at dksX13_signal_1 3 rfl rfl)
theorem dX13_signal_27 : decode cX13_signal 27 = .ok (.iaload, 1) := dk_46 (dk_at dksX13_signal_1 4 rfl rfl)
theorem dX13_signal_28 : decode cX13_signal 28 = .ok (.iconst 1, 1) := dk_4 (dk_at dksX13_signal_1 5 rfl rfl)
theorem dX13_signal_29 : decode cX13_signal 29 = .ok (.if_icmp .ne 6, 3) := dk_160 0 6 (dk_at dksX13_signal_1 6 rfl rfl)
theorem dX13_signal_32 : decode cX13_signal 32 = .ok (.bipush (-3), 2) := dk_16 253 (dk_at dksX13_signal_1 9 rfl rfl)
theorem dX13_signal_34 : decode cX13_signal 34 = .ok (.ireturn, 1) := dk_172 (dk_at dksX13_signal_1 11 rfl rfl)
theorem dX13_signal_35 : decode cX13_signal 35 = .ok (.aload_n 0, 1) := dk_42 (dk_at dksX13_signal_1 12 rfl rfl)
theorem dX13_signal_36 : decode cX13_signal 36 = .ok (.getfield 11, 3) := dk_180 0 11 (dk_at dksX13_signal_1 13 rfl rfl)
theorem dX13_signal_39 : decode cX13_signal 39 = .ok (.bipush 13, 2) := dk_16 13 (dk_at dksX13_signal_1 16 rfl rfl)
theorem dX13_signal_41 : decode cX13_signal 41 = .ok (.iaload, 1) := dk_46 (dk_at dksX13_signal_1 18 rfl rfl)
theorem dX13_signal_42 : decode cX13_signal 42 = .ok (.bipush 8, 2) := dk_16 8 (dk_at dksX13_signal_1 19 rfl rfl)
theorem dX13_signal_44 : decode cX13_signal 44 = .ok (.if_icmp .ne 6, 3) := dk_160 0 6 (dk_at dksX13_signal_1 21 rfl rfl)
theorem dX13_signal_47 : decode cX13_signal 47 = .ok (.bipush (-4), 2) := dk_16 252 (dk_at dksX13_signal_2 0 rfl rfl)
theorem dX13_signal_49 : decode cX13_signal 49 = .ok (.ireturn, 1) := dk_172 (dk_at dksX13_signal_2 2 rfl rfl)
theorem dX13_signal_50 : decode cX13_signal 50 = .ok (.aload_n 0, 1) := dk_42 (dk_at dksX13_signal_2 3 rfl rfl)
theorem dX13_signal_51 : decode cX13_signal 51 = .ok (.iload_n 1, 1) := dk_27 (dk_at dksX13_signal_2 4 rfl rfl)
theorem dX13_signal_52 : decode cX13_signal 52 = .ok (.iconst 5, 1) := dk_8 (dk_at dksX13_signal_2 5 rfl rfl)
theorem dX13_signal_53 : decode cX13_signal 53 = .ok (.bipush 40, 2) := dk_16 40 (dk_at dksX13_signal_2 6 rfl rfl)
theorem dX13_signal_55 : decode cX13_signal 55 = .ok (.iconst 3, 1) := dk_6 (dk_at dksX13_signal_2 8 rfl rfl)
theorem dX13_signal_56 : decode cX13_signal 56 = .ok (.iconst 0, 1) := dk_3 (dk_at dksX13_signal_2 9 rfl rfl)
theorem dX13_signal_57 : decode cX13_signal 57 = .ok (.invokevirtual 89, 3) := dk_182 0 89 (dk_at dksX13_signal_2 10 rfl rfl)
theorem dX13_signal_60 : decode cX13_signal 60 = .ok (.aload_n 0, 1) := dk_42 (dk_at dksX13_signal_2 13 rfl rfl)
theorem dX13_signal_61 : decode cX13_signal 61 = .ok (.aload_n 0, 1) := dk_42 (dk_at dksX13_signal_2 14 rfl rfl)
theorem dX13_signal_62 : decode cX13_signal 62 = .ok (.getfield 11, 3) := dk_180 0 11 (dk_at dksX13_signal_2 15 rfl rfl)
theorem dX13_signal_65 : decode cX13_signal 65 = .ok (.bipush 13, 2) := dk_16 13 (dk_at dksX13_signal_2 18 rfl rfl)
theorem dX13_signal_67 : decode cX13_signal 67 = .ok (.iaload, 1) := dk_46 (dk_at dksX13_signal_2 20 rfl rfl)
theorem dX13_signal_68 : decode cX13_signal 68 = .ok (.iconst 1, 1) := dk_4 (dk_at dksX13_signal_2 21 rfl rfl)
theorem dX13_signal_69 : decode cX13_signal 69 = .ok (.isub, 1) := dk_100 (dk_at dksX13_signal_2 22 rfl rfl)
theorem dX13_signal_70 : decode cX13_signal 70 = .ok (.iload_n 2, 1) := dk_28 (dk_at dksX13_signal_2 23 rfl rfl)
theorem dX13_signal_71 : decode cX13_signal 71 = .ok (.invokevirtual 93, 3) := dk_182 0 93 (dk_at dksX13_signal_3 0 rfl rfl)
theorem dX13_signal_74 : decode cX13_signal 74 = .ok (.aload_n 0, 1) := dk_42 (dk_at dksX13_signal_3 3 rfl rfl)
theorem dX13_signal_75 : decode cX13_signal 75 = .ok (.invokevirtual 46, 3) := dk_182 0 46 (dk_at dksX13_signal_3 4 rfl rfl)
theorem dX13_signal_78 : decode cX13_signal 78 = .ok (.aload_n 0, 1) := dk_42 (dk_at dksX13_signal_3 7 rfl rfl)
theorem dX13_signal_79 : decode cX13_signal 79 = .ok (.getfield 11, 3) := dk_180 0 11 (dk_at dksX13_signal_3 8 rfl rfl)
theorem dX13_signal_82 : decode cX13_signal 82 = .ok (.bipush 13, 2) := dk_16 13 (dk_at dksX13_signal_3 11 rfl rfl)
theorem dX13_signal_84 : decode cX13_signal 84 = .ok (.iaload, 1) := dk_46 (dk_at dksX13_signal_3 13 rfl rfl)
theorem dX13_signal_85 : decode cX13_signal 85 = .ok (.iconst 1, 1) := dk_4 (dk_at dksX13_signal_3 14 rfl rfl)
theorem dX13_signal_86 : decode cX13_signal 86 = .ok (.isub, 1) := dk_100 (dk_at dksX13_signal_3 15 rfl rfl)
theorem dX13_signal_87 : decode cX13_signal 87 = .ok (.ireturn, 1) := dk_172 (dk_at dksX13_signal_3 16 rfl rfl)
abbrev cX13_isIn : ByteArray := prog_22_method_2_code
def yX13_isIn : MethodName := ⟨RX13, "isIn", "(III)Z"⟩
def dkwX13_isIn_0 : List UInt8 := [26, 27, 161, 0, 12, 26, 28, 163, 0, 7, 4, 167, 0, 4, 3, 172]
abbrev dktX13_isIn_0 : List UInt8 := dkwX13_isIn_0 ++ []
theorem dksX13_isIn_0 : cX13_isIn.data.toList.drop 0 = dktX13_isIn_0 := by decide +kernel
theorem dX13_isIn_0 : decode cX13_isIn 0 = .ok (.iload_n 0, 1) := dk_26 (dk_at dksX13_isIn_0 0 rfl rfl)
theorem dX13_isIn_1 : decode cX13_isIn 1 = .ok (.iload_n 1, 1) := dk_27 (dk_at dksX13_isIn_0 1 rfl rfl)
theorem dX13_isIn_2 : decode cX13_isIn 2 = .ok (.if_icmp .lt 12, 3) := dk_161 0 12 (dk_at dksX13_isIn_0 2 rfl rfl)
theorem dX13_isIn_5 : decode cX13_isIn 5 = .ok (.iload_n 0, 1) := dk_26 (dk_at dksX13_isIn_0 5 rfl rfl)
theorem dX13_isIn_6 : decode cX13_isIn 6 = .ok (.iload_n 2, 1) := dk_28 (dk_at dksX13_isIn_0 6 rfl rfl)
theorem dX13_isIn_7 : decode cX13_isIn 7 = .ok (.if_icmp .gt 7, 3) := dk_163 0 7 (dk_at dksX13_isIn_0 7 rfl rfl)
theorem dX13_isIn_10 : decode cX13_isIn 10 = .ok (.iconst 1, 1) := dk_4 (dk_at dksX13_isIn_0 10 rfl rfl)
theorem dX13_isIn_11 : decode cX13_isIn 11 = .ok (.goto 4, 3) := dk_167 0 4 (dk_at dksX13_isIn_0 11 rfl rfl)
theorem dX13_isIn_14 : decode cX13_isIn 14 = .ok (.iconst 0, 1) := dk_3 (dk_at dksX13_isIn_0 14 rfl rfl)
theorem dX13_isIn_15 : decode cX13_isIn 15 = .ok (.ireturn, 1) := dk_172 (dk_at dksX13_isIn_0 15 rfl rfl)
abbrev cX13_comes : ByteArray := prog_22_method_17_code
def yX13_comes : MethodName := ⟨RX13, "comes", "(IIIII)V"⟩
def dkwX13_comes_5 : List UInt8 := [177]
abbrev dktX13_comes_5 : List UInt8 := dkwX13_comes_5 ++ []
def dkwX13_comes_4 : List UInt8 := [182, 0, 85, 42, 21, 6, 16, 9, 16, 251, 182, 0, 85, 42, 180, 0, 11, 16, 13, 92, 46, 4, 96, 79]
abbrev dktX13_comes_4 : List UInt8 := dkwX13_comes_4 ++ dktX13_comes_5
def dkwX13_comes_3 : List UInt8 := [21, 5, 182, 0, 85, 42, 21, 6, 16, 7, 16, 251, 182, 0, 85, 42, 21, 6, 16, 8, 16, 251]
abbrev dktX13_comes_3 : List UInt8 := dkwX13_comes_3 ++ dktX13_comes_4
def dkwX13_comes_2 : List UInt8 := [182, 0, 85, 42, 21, 6, 5, 29, 182, 0, 85, 42, 21, 6, 6, 21, 4, 182, 0, 85, 42, 21, 6, 7]
abbrev dktX13_comes_2 : List UInt8 := dkwX13_comes_2 ++ dktX13_comes_3
def dkwX13_comes_1 : List UInt8 := [3, 182, 0, 85, 132, 7, 1, 167, 255, 237, 42, 21, 6, 3, 27, 182, 0, 85, 42, 21, 6, 4, 28]
abbrev dktX13_comes_1 : List UInt8 := dkwX13_comes_1 ++ dktX13_comes_2
def dkwX13_comes_0 : List UInt8 := [42, 180, 0, 11, 16, 13, 46, 54, 6, 3, 54, 7, 21, 7, 16, 24, 162, 0, 18, 42, 21, 6, 21, 7]
abbrev dktX13_comes_0 : List UInt8 := dkwX13_comes_0 ++ dktX13_comes_1
theorem dksX13_comes_0 : cX13_comes.data.toList.drop 0 = dktX13_comes_0 := by decide +kernel
theorem dksX13_comes_1 : cX13_comes.data.toList.drop 24 = dktX13_comes_1 := dk_seg dksX13_comes_0 24 rfl rfl
theorem dksX13_comes_2 : cX13_comes.data.toList.drop 47 = dktX13_comes_2 := dk_seg dksX13_comes_1 23 rfl rfl
theorem dksX13_comes_3 : cX13_comes.data.toList.drop 71 = dktX13_comes_3 := dk_seg dksX13_comes_2 24 rfl rfl
theorem dksX13_comes_4 : cX13_comes.data.toList.drop 93 = dktX13_comes_4 := dk_seg dksX13_comes_3 22 rfl rfl
theorem dksX13_comes_5 : cX13_comes.data.toList.drop 117 = dktX13_comes_5 := dk_seg dksX13_comes_4 24 rfl rfl
theorem dX13_comes_0 : decode cX13_comes 0 = .ok (.aload_n 0, 1) := dk_42 (dk_at dksX13_comes_0 0 rfl rfl)
theorem dX13_comes_1 : decode cX13_comes 1 = .ok (.getfield 11, 3) := dk_180 0 11 (dk_at dksX13_comes_0 1 rfl rfl)
theorem dX13_comes_4 : decode cX13_comes 4 = .ok (.bipush 13, 2) := dk_16 13 (dk_at dksX13_comes_0 4 rfl rfl)
theorem dX13_comes_6 : decode cX13_comes 6 = .ok (.iaload, 1) := dk_46 (dk_at dksX13_comes_0 6 rfl rfl)
theorem dX13_comes_7 : decode cX13_comes 7 = .ok (.istore 6, 2) := dk_54 6 (dk_at dksX13_comes_0 7 rfl rfl)
theorem dX13_comes_9 : decode cX13_comes 9 = .ok (.iconst 0, 1) := dk_3 (dk_at dksX13_comes_0 9 rfl rfl)
theorem dX13_comes_10 : decode cX13_comes 10 = .ok (.istore 7, 2) := dk_54 7 (dk_at dksX13_comes_0 10 rfl rfl)
theorem dX13_comes_12 : decode cX13_comes 12 = .ok (.iload 7, 2) := dk_21 7 (dk_at dksX13_comes_0 12 rfl rfl)
theorem dX13_comes_14 : decode cX13_comes 14 = .ok (.bipush 24, 2) := dk_16 24 (dk_at dksX13_comes_0 14 rfl rfl)
theorem dX13_comes_16 : decode cX13_comes 16 = .ok (.if_icmp .ge 18, 3) := dk_162 0 18 (dk_at dksX13_comes_0 16 rfl rfl)
theorem dX13_comes_19 : decode cX13_comes 19 = .ok (.aload_n 0, 1) := dk_42 (dk_at dksX13_comes_0 19 rfl rfl)
theorem dX13_comes_20 : decode cX13_comes 20 = .ok (.iload 6, 2) := dk_21 6 (dk_at dksX13_comes_0 20 rfl rfl)
theorem dX13_comes_22 : decode cX13_comes 22 = .ok (.iload 7, 2) := dk_21 7 (dk_at dksX13_comes_0 22 rfl rfl)
theorem dX13_comes_24 : decode cX13_comes 24 = .ok (.iconst 0, 1) := dk_3 (dk_at dksX13_comes_1 0 rfl rfl)
theorem dX13_comes_25 : decode cX13_comes 25 = .ok (.invokevirtual 85, 3) := dk_182 0 85 (dk_at dksX13_comes_1 1 rfl rfl)
theorem dX13_comes_28 : decode cX13_comes 28 = .ok (.iinc 7 1, 3) := dk_132 7 1 (dk_at dksX13_comes_1 4 rfl rfl)
theorem dX13_comes_31 : decode cX13_comes 31 = .ok (.goto (-19), 3) := dk_167 255 237 (dk_at dksX13_comes_1 7 rfl rfl)
theorem dX13_comes_34 : decode cX13_comes 34 = .ok (.aload_n 0, 1) := dk_42 (dk_at dksX13_comes_1 10 rfl rfl)
theorem dX13_comes_35 : decode cX13_comes 35 = .ok (.iload 6, 2) := dk_21 6 (dk_at dksX13_comes_1 11 rfl rfl)
theorem dX13_comes_37 : decode cX13_comes 37 = .ok (.iconst 0, 1) := dk_3 (dk_at dksX13_comes_1 13 rfl rfl)
theorem dX13_comes_38 : decode cX13_comes 38 = .ok (.iload_n 1, 1) := dk_27 (dk_at dksX13_comes_1 14 rfl rfl)
theorem dX13_comes_39 : decode cX13_comes 39 = .ok (.invokevirtual 85, 3) := dk_182 0 85 (dk_at dksX13_comes_1 15 rfl rfl)
theorem dX13_comes_42 : decode cX13_comes 42 = .ok (.aload_n 0, 1) := dk_42 (dk_at dksX13_comes_1 18 rfl rfl)
theorem dX13_comes_43 : decode cX13_comes 43 = .ok (.iload 6, 2) := dk_21 6 (dk_at dksX13_comes_1 19 rfl rfl)
theorem dX13_comes_45 : decode cX13_comes 45 = .ok (.iconst 1, 1) := dk_4 (dk_at dksX13_comes_1 21 rfl rfl)
theorem dX13_comes_46 : decode cX13_comes 46 = .ok (.iload_n 2, 1) := dk_28 (dk_at dksX13_comes_1 22 rfl rfl)
theorem dX13_comes_47 : decode cX13_comes 47 = .ok (.invokevirtual 85, 3) := dk_182 0 85 (dk_at dksX13_comes_2 0 rfl rfl)
theorem dX13_comes_50 : decode cX13_comes 50 = .ok (.aload_n 0, 1) := dk_42 (dk_at dksX13_comes_2 3 rfl rfl)
theorem dX13_comes_51 : decode cX13_comes 51 = .ok (.iload 6, 2) := dk_21 6 (dk_at dksX13_comes_2 4 rfl rfl)
theorem dX13_comes_53 : decode cX13_comes 53 = .ok (.iconst 2, 1) := dk_5 (dk_at dksX13_comes_2 6 rfl rfl)
theorem dX13_comes_54 : decode cX13_comes 54 = .ok (.iload_n 3, 1) := dk_29 (dk_at dksX13_comes_2 7 rfl rfl)
theorem dX13_comes_55 : decode cX13_comes 55 = .ok (.invokevirtual 85, 3) := dk_182 0 85 (dk_at dksX13_comes_2 8 rfl rfl)
theorem dX13_comes_58 : decode cX13_comes 58 = .ok (.aload_n 0, 1) := dk_42 (dk_at dksX13_comes_2 11 rfl rfl)
theorem dX13_comes_59 : decode cX13_comes 59 = .ok (.iload 6, 2) := dk_21 6 (dk_at dksX13_comes_2 12 rfl rfl)
theorem dX13_comes_61 : decode cX13_comes 61 = .ok (.iconst 3, 1) := dk_6 (dk_at dksX13_comes_2 14 rfl rfl)
theorem dX13_comes_62 : decode cX13_comes 62 = .ok (.iload 4, 2) := dk_21 4 (dk_at dksX13_comes_2 15 rfl rfl)
theorem dX13_comes_64 : decode cX13_comes 64 = .ok (.invokevirtual 85, 3) := dk_182 0 85 (dk_at dksX13_comes_2 17 rfl rfl)
theorem dX13_comes_67 : decode cX13_comes 67 = .ok (.aload_n 0, 1) := dk_42 (dk_at dksX13_comes_2 20 rfl rfl)
theorem dX13_comes_68 : decode cX13_comes 68 = .ok (.iload 6, 2) := dk_21 6 (dk_at dksX13_comes_2 21 rfl rfl)
theorem dX13_comes_70 : decode cX13_comes 70 = .ok (.iconst 4, 1) := dk_7 (dk_at dksX13_comes_2 23 rfl rfl)
theorem dX13_comes_71 : decode cX13_comes 71 = .ok (.iload 5, 2) := dk_21 5 (dk_at dksX13_comes_3 0 rfl rfl)
theorem dX13_comes_73 : decode cX13_comes 73 = .ok (.invokevirtual 85, 3) := dk_182 0 85 (dk_at dksX13_comes_3 2 rfl rfl)
theorem dX13_comes_76 : decode cX13_comes 76 = .ok (.aload_n 0, 1) := dk_42 (dk_at dksX13_comes_3 5 rfl rfl)
theorem dX13_comes_77 : decode cX13_comes 77 = .ok (.iload 6, 2) := dk_21 6 (dk_at dksX13_comes_3 6 rfl rfl)
theorem dX13_comes_79 : decode cX13_comes 79 = .ok (.bipush 7, 2) := dk_16 7 (dk_at dksX13_comes_3 8 rfl rfl)
theorem dX13_comes_81 : decode cX13_comes 81 = .ok (.bipush (-5), 2) := dk_16 251 (dk_at dksX13_comes_3 10 rfl rfl)
theorem dX13_comes_83 : decode cX13_comes 83 = .ok (.invokevirtual 85, 3) := dk_182 0 85 (dk_at dksX13_comes_3 12 rfl rfl)
theorem dX13_comes_86 : decode cX13_comes 86 = .ok (.aload_n 0, 1) := dk_42 (dk_at dksX13_comes_3 15 rfl rfl)
theorem dX13_comes_87 : decode cX13_comes 87 = .ok (.iload 6, 2) := dk_21 6 (dk_at dksX13_comes_3 16 rfl rfl)
theorem dX13_comes_89 : decode cX13_comes 89 = .ok (.bipush 8, 2) := dk_16 8 (dk_at dksX13_comes_3 18 rfl rfl)
theorem dX13_comes_91 : decode cX13_comes 91 = .ok (.bipush (-5), 2) := dk_16 251 (dk_at dksX13_comes_3 20 rfl rfl)
theorem dX13_comes_93 : decode cX13_comes 93 = .ok (.invokevirtual 85, 3) := dk_182 0 85 (dk_at dksX13_comes_4 0 rfl rfl)
theorem dX13_comes_96 : decode cX13_comes 96 = .ok (.aload_n 0, 1) := dk_42 (dk_at dksX13_comes_4 3 rfl rfl)
theorem dX13_comes_97 : decode cX13_comes 97 = .ok (.iload 6, 2) := dk_21 6 (dk_at dksX13_comes_4 4 rfl rfl)
theorem dX13_comes_99 : decode cX13_comes 99 = .ok (.bipush 9, 2) := dk_16 9 (dk_at dksX13_comes_4 6 rfl rfl)
theorem dX13_comes_101 : decode cX13_comes 101 = .ok (.bipush (-5), 2) := dk_16 251 (dk_at dksX13_comes_4 8 rfl rfl)
theorem dX13_comes_103 : decode cX13_comes 103 = .ok (.invokevirtual 85, 3) := dk_182 0 85 (dk_at dksX13_comes_4 10 rfl rfl)
theorem dX13_comes_106 : decode cX13_comes 106 = .ok (.aload_n 0, 1) := dk_42 (dk_at dksX13_comes_4 13 rfl rfl)
theorem dX13_comes_107 : decode cX13_comes 107 = .ok (.getfield 11, 3) := dk_180 0 11 (dk_at dksX13_comes_4 14 rfl rfl)
theorem dX13_comes_110 : decode cX13_comes 110 = .ok (.bipush 13, 2) := dk_16 13 (dk_at dksX13_comes_4 17 rfl rfl)
theorem dX13_comes_112 : decode cX13_comes 112 = .ok (.dup2, 1) := dk_92 (dk_at dksX13_comes_4 19 rfl rfl)
theorem dX13_comes_113 : decode cX13_comes 113 = .ok (.iaload, 1) := dk_46 (dk_at dksX13_comes_4 20 rfl rfl)
theorem dX13_comes_114 : decode cX13_comes 114 = .ok (.iconst 1, 1) := dk_4 (dk_at dksX13_comes_4 21 rfl rfl)
theorem dX13_comes_115 : decode cX13_comes 115 = .ok (.iadd, 1) := dk_96 (dk_at dksX13_comes_4 22 rfl rfl)
theorem dX13_comes_116 : decode cX13_comes 116 = .ok (.iastore, 1) := dk_79 (dk_at dksX13_comes_4 23 rfl rfl)
theorem dX13_comes_117 : decode cX13_comes 117 = .ok (.return_, 1) := dk_177 (dk_at dksX13_comes_5 0 rfl rfl)
abbrev cX13_puts : ByteArray := prog_22_method_7_code
def yX13_puts : MethodName := ⟨RX13, "puts", "(III)V"⟩
def dkwX13_puts_0 : List UInt8 := [42, 180, 0, 11, 16, 24, 16, 24, 27, 104, 96, 28, 96, 29, 79, 177]
abbrev dktX13_puts_0 : List UInt8 := dkwX13_puts_0 ++ []
theorem dksX13_puts_0 : cX13_puts.data.toList.drop 0 = dktX13_puts_0 := by decide +kernel
theorem dX13_puts_0 : decode cX13_puts 0 = .ok (.aload_n 0, 1) := dk_42 (dk_at dksX13_puts_0 0 rfl rfl)
theorem dX13_puts_1 : decode cX13_puts 1 = .ok (.getfield 11, 3) := dk_180 0 11 (dk_at dksX13_puts_0 1 rfl rfl)
theorem dX13_puts_4 : decode cX13_puts 4 = .ok (.bipush 24, 2) := dk_16 24 (dk_at dksX13_puts_0 4 rfl rfl)
theorem dX13_puts_6 : decode cX13_puts 6 = .ok (.bipush 24, 2) := dk_16 24 (dk_at dksX13_puts_0 6 rfl rfl)
theorem dX13_puts_8 : decode cX13_puts 8 = .ok (.iload_n 1, 1) := dk_27 (dk_at dksX13_puts_0 8 rfl rfl)
theorem dX13_puts_9 : decode cX13_puts 9 = .ok (.imul, 1) := dk_104 (dk_at dksX13_puts_0 9 rfl rfl)
theorem dX13_puts_10 : decode cX13_puts 10 = .ok (.iadd, 1) := dk_96 (dk_at dksX13_puts_0 10 rfl rfl)
theorem dX13_puts_11 : decode cX13_puts 11 = .ok (.iload_n 2, 1) := dk_28 (dk_at dksX13_puts_0 11 rfl rfl)
theorem dX13_puts_12 : decode cX13_puts 12 = .ok (.iadd, 1) := dk_96 (dk_at dksX13_puts_0 12 rfl rfl)
theorem dX13_puts_13 : decode cX13_puts 13 = .ok (.iload_n 3, 1) := dk_29 (dk_at dksX13_puts_0 13 rfl rfl)
theorem dX13_puts_14 : decode cX13_puts 14 = .ok (.iastore, 1) := dk_79 (dk_at dksX13_puts_0 14 rfl rfl)
theorem dX13_puts_15 : decode cX13_puts 15 = .ok (.return_, 1) := dk_177 (dk_at dksX13_puts_0 15 rfl rfl)
abbrev cX13_goesOn : ByteArray := prog_22_method_18_code
def yX13_goesOn : MethodName := ⟨RX13, "goesOn", "(II)V"⟩
def dkwX13_goesOn_1 : List UInt8 := [182, 0, 56, 4, 96, 182, 0, 85, 177]
abbrev dktX13_goesOn_1 : List UInt8 := dkwX13_goesOn_1 ++ []
def dkwX13_goesOn_0 : List UInt8 := [42, 27, 16, 12, 42, 27, 16, 11, 182, 0, 56, 96, 28, 182, 0, 85, 42, 27, 16, 11, 42, 27, 16, 11]
abbrev dktX13_goesOn_0 : List UInt8 := dkwX13_goesOn_0 ++ dktX13_goesOn_1
theorem dksX13_goesOn_0 : cX13_goesOn.data.toList.drop 0 = dktX13_goesOn_0 := by decide +kernel
theorem dksX13_goesOn_1 : cX13_goesOn.data.toList.drop 24 = dktX13_goesOn_1 := dk_seg dksX13_goesOn_0 24 rfl rfl
theorem dX13_goesOn_0 : decode cX13_goesOn 0 = .ok (.aload_n 0, 1) := dk_42 (dk_at dksX13_goesOn_0 0 rfl rfl)
theorem dX13_goesOn_1 : decode cX13_goesOn 1 = .ok (.iload_n 1, 1) := dk_27 (dk_at dksX13_goesOn_0 1 rfl rfl)
theorem dX13_goesOn_2 : decode cX13_goesOn 2 = .ok (.bipush 12, 2) := dk_16 12 (dk_at dksX13_goesOn_0 2 rfl rfl)
theorem dX13_goesOn_4 : decode cX13_goesOn 4 = .ok (.aload_n 0, 1) := dk_42 (dk_at dksX13_goesOn_0 4 rfl rfl)
theorem dX13_goesOn_5 : decode cX13_goesOn 5 = .ok (.iload_n 1, 1) := dk_27 (dk_at dksX13_goesOn_0 5 rfl rfl)
theorem dX13_goesOn_6 : decode cX13_goesOn 6 = .ok (.bipush 11, 2) := dk_16 11 (dk_at dksX13_goesOn_0 6 rfl rfl)
theorem dX13_goesOn_8 : decode cX13_goesOn 8 = .ok (.invokevirtual 56, 3) := dk_182 0 56 (dk_at dksX13_goesOn_0 8 rfl rfl)
theorem dX13_goesOn_11 : decode cX13_goesOn 11 = .ok (.iadd, 1) := dk_96 (dk_at dksX13_goesOn_0 11 rfl rfl)
theorem dX13_goesOn_12 : decode cX13_goesOn 12 = .ok (.iload_n 2, 1) := dk_28 (dk_at dksX13_goesOn_0 12 rfl rfl)
theorem dX13_goesOn_13 : decode cX13_goesOn 13 = .ok (.invokevirtual 85, 3) := dk_182 0 85 (dk_at dksX13_goesOn_0 13 rfl rfl)
theorem dX13_goesOn_16 : decode cX13_goesOn 16 = .ok (.aload_n 0, 1) := dk_42 (dk_at dksX13_goesOn_0 16 rfl rfl)
theorem dX13_goesOn_17 : decode cX13_goesOn 17 = .ok (.iload_n 1, 1) := dk_27 (dk_at dksX13_goesOn_0 17 rfl rfl)
theorem dX13_goesOn_18 : decode cX13_goesOn 18 = .ok (.bipush 11, 2) := dk_16 11 (dk_at dksX13_goesOn_0 18 rfl rfl)
theorem dX13_goesOn_20 : decode cX13_goesOn 20 = .ok (.aload_n 0, 1) := dk_42 (dk_at dksX13_goesOn_0 20 rfl rfl)
theorem dX13_goesOn_21 : decode cX13_goesOn 21 = .ok (.iload_n 1, 1) := dk_27 (dk_at dksX13_goesOn_0 21 rfl rfl)
theorem dX13_goesOn_22 : decode cX13_goesOn 22 = .ok (.bipush 11, 2) := dk_16 11 (dk_at dksX13_goesOn_0 22 rfl rfl)
theorem dX13_goesOn_24 : decode cX13_goesOn 24 = .ok (.invokevirtual 56, 3) := dk_182 0 56 (dk_at dksX13_goesOn_1 0 rfl rfl)
theorem dX13_goesOn_27 : decode cX13_goesOn 27 = .ok (.iconst 1, 1) := dk_4 (dk_at dksX13_goesOn_1 3 rfl rfl)
theorem dX13_goesOn_28 : decode cX13_goesOn 28 = .ok (.iadd, 1) := dk_96 (dk_at dksX13_goesOn_1 4 rfl rfl)
theorem dX13_goesOn_29 : decode cX13_goesOn 29 = .ok (.invokevirtual 85, 3) := dk_182 0 85 (dk_at dksX13_goesOn_1 5 rfl rfl)
theorem dX13_goesOn_32 : decode cX13_goesOn 32 = .ok (.return_, 1) := dk_177 (dk_at dksX13_goesOn_1 8 rfl rfl)
abbrev cX13_goes : ByteArray := prog_22_method_20_code
def yX13_goes : MethodName := ⟨RX13, "goes", "(II)I"⟩
def dkwX13_goes_3 : List UInt8 := [27, 16, 11, 182, 0, 56, 172]
abbrev dktX13_goes_3 : List UInt8 := dkwX13_goes_3 ++ []
def dkwX13_goes_2 : List UInt8 := [16, 11, 182, 0, 56, 16, 8, 160, 0, 6, 16, 252, 172, 42, 27, 28, 182, 0, 93, 42, 182, 0, 46, 42]
abbrev dktX13_goes_2 : List UInt8 := dkwX13_goes_2 ++ dktX13_goes_3
def dkwX13_goes_1 : List UInt8 := [182, 0, 63, 155, 0, 6, 16, 254, 172, 42, 180, 0, 11, 16, 14, 46, 158, 0, 6, 16, 253, 172, 42, 27]
abbrev dktX13_goes_1 : List UInt8 := dkwX13_goes_1 ++ dktX13_goes_2
def dkwX13_goes_0 : List UInt8 := [42, 27, 182, 0, 96, 154, 0, 5, 2, 172, 28, 3, 16, 63, 184, 0, 49, 153, 0, 12, 42, 27, 28]
abbrev dktX13_goes_0 : List UInt8 := dkwX13_goes_0 ++ dktX13_goes_1
theorem dksX13_goes_0 : cX13_goes.data.toList.drop 0 = dktX13_goes_0 := by decide +kernel
theorem dksX13_goes_1 : cX13_goes.data.toList.drop 23 = dktX13_goes_1 := dk_seg dksX13_goes_0 23 rfl rfl
theorem dksX13_goes_2 : cX13_goes.data.toList.drop 47 = dktX13_goes_2 := dk_seg dksX13_goes_1 24 rfl rfl
theorem dksX13_goes_3 : cX13_goes.data.toList.drop 71 = dktX13_goes_3 := dk_seg dksX13_goes_2 24 rfl rfl
theorem dX13_goes_0 : decode cX13_goes 0 = .ok (.aload_n 0, 1) := dk_42 (dk_at dksX13_goes_0 0 rfl rfl)
theorem dX13_goes_1 : decode cX13_goes 1 = .ok (.iload_n 1, 1) := dk_27 (dk_at dksX13_goes_0 1 rfl rfl)
theorem dX13_goes_2 : decode cX13_goes 2 = .ok (.invokevirtual 96, 3) := dk_182 0 96 (dk_at dksX13_goes_0 2 rfl rfl)
theorem dX13_goes_5 : decode cX13_goes 5 = .ok (.ifCond .ne 5, 3) := dk_154 0 5 (dk_at dksX13_goes_0 5 rfl rfl)
theorem dX13_goes_8 : decode cX13_goes 8 = .ok (.iconst (-1), 1) := dk_2 (dk_at dksX13_goes_0 8 rfl rfl)
theorem dX13_goes_9 : decode cX13_goes 9 = .ok (.ireturn, 1) := dk_172 (dk_at dksX13_goes_0 9 rfl rfl)
theorem dX13_goes_10 : decode cX13_goes 10 = .ok (.iload_n 2, 1) := dk_28 (dk_at dksX13_goes_0 10 rfl rfl)
theorem dX13_goes_11 : decode cX13_goes 11 = .ok (.iconst 0, 1) := dk_3 (dk_at dksX13_goes_0 11 rfl rfl)
theorem dX13_goes_12 : decode cX13_goes 12 = .ok (.bipush 63, 2) := dk_16 63 (dk_at dksX13_goes_0 12 rfl rfl)
theorem dX13_goes_14 : decode cX13_goes 14 = .ok (.invokestatic 49, 3) := dk_184 0 49 (dk_at dksX13_goes_0 14 rfl rfl)
theorem dX13_goes_17 : decode cX13_goes 17 = .ok (.ifCond .eq 12, 3) := dk_153 0 12 (dk_at dksX13_goes_0 17 rfl rfl)
theorem dX13_goes_20 : decode cX13_goes 20 = .ok (.aload_n 0, 1) := dk_42 (dk_at dksX13_goes_0 20 rfl rfl)
theorem dX13_goes_21 : decode cX13_goes 21 = .ok (.iload_n 1, 1) := dk_27 (dk_at dksX13_goes_0 21 rfl rfl)
theorem dX13_goes_22 : decode cX13_goes 22 = .ok (.iload_n 2, 1) := dk_28 (dk_at dksX13_goes_0 22 rfl rfl)
theorem dX13_goes_23 : decode cX13_goes 23 = .ok (.invokevirtual 63, 3) := dk_182 0 63 (dk_at dksX13_goes_1 0 rfl rfl)
theorem dX13_goes_26 : decode cX13_goes 26 = .ok (.ifCond .lt 6, 3) := dk_155 0 6 (dk_at dksX13_goes_1 3 rfl rfl)
theorem dX13_goes_29 : decode cX13_goes 29 = .ok (.bipush (-2), 2) := dk_16 254 (dk_at dksX13_goes_1 6 rfl rfl)
theorem dX13_goes_31 : decode cX13_goes 31 = .ok (.ireturn, 1) := dk_172 (dk_at dksX13_goes_1 8 rfl rfl)
theorem dX13_goes_32 : decode cX13_goes 32 = .ok (.aload_n 0, 1) := dk_42 (dk_at dksX13_goes_1 9 rfl rfl)
theorem dX13_goes_33 : decode cX13_goes 33 = .ok (.getfield 11, 3) := dk_180 0 11 (dk_at dksX13_goes_1 10 rfl rfl)
theorem dX13_goes_36 : decode cX13_goes 36 = .ok (.bipush 14, 2) := dk_16 14 (dk_at dksX13_goes_1 13 rfl rfl)
theorem dX13_goes_38 : decode cX13_goes 38 = .ok (.iaload, 1) := dk_46 (dk_at dksX13_goes_1 15 rfl rfl)
theorem dX13_goes_39 : decode cX13_goes 39 = .ok (.ifCond .le 6, 3) := dk_158 0 6 (dk_at dksX13_goes_1 16 rfl rfl)
theorem dX13_goes_42 : decode cX13_goes 42 = .ok (.bipush (-3), 2) := dk_16 253 (dk_at dksX13_goes_1 19 rfl rfl)
theorem dX13_goes_44 : decode cX13_goes 44 = .ok (.ireturn, 1) := dk_172 (dk_at dksX13_goes_1 21 rfl rfl)
theorem dX13_goes_45 : decode cX13_goes 45 = .ok (.aload_n 0, 1) := dk_42 (dk_at dksX13_goes_1 22 rfl rfl)
theorem dX13_goes_46 : decode cX13_goes 46 = .ok (.iload_n 1, 1) := dk_27 (dk_at dksX13_goes_1 23 rfl rfl)
theorem dX13_goes_47 : decode cX13_goes 47 = .ok (.bipush 11, 2) := dk_16 11 (dk_at dksX13_goes_2 0 rfl rfl)
theorem dX13_goes_49 : decode cX13_goes 49 = .ok (.invokevirtual 56, 3) := dk_182 0 56 (dk_at dksX13_goes_2 2 rfl rfl)
theorem dX13_goes_52 : decode cX13_goes 52 = .ok (.bipush 8, 2) := dk_16 8 (dk_at dksX13_goes_2 5 rfl rfl)
theorem dX13_goes_54 : decode cX13_goes 54 = .ok (.if_icmp .ne 6, 3) := dk_160 0 6 (dk_at dksX13_goes_2 7 rfl rfl)
theorem dX13_goes_57 : decode cX13_goes 57 = .ok (.bipush (-4), 2) := dk_16 252 (dk_at dksX13_goes_2 10 rfl rfl)
theorem dX13_goes_59 : decode cX13_goes 59 = .ok (.ireturn, 1) := dk_172 (dk_at dksX13_goes_2 12 rfl rfl)
theorem dX13_goes_60 : decode cX13_goes 60 = .ok (.aload_n 0, 1) := dk_42 (dk_at dksX13_goes_2 13 rfl rfl)
theorem dX13_goes_61 : decode cX13_goes 61 = .ok (.iload_n 1, 1) := dk_27 (dk_at dksX13_goes_2 14 rfl rfl)
theorem dX13_goes_62 : decode cX13_goes 62 = .ok (.iload_n 2, 1) := dk_28 (dk_at dksX13_goes_2 15 rfl rfl)
theorem dX13_goes_63 : decode cX13_goes 63 = .ok (.invokevirtual 93, 3) := dk_182 0 93 (dk_at dksX13_goes_2 16 rfl rfl)
theorem dX13_goes_66 : decode cX13_goes 66 = .ok (.aload_n 0, 1) := dk_42 (dk_at dksX13_goes_2 19 rfl rfl)
theorem dX13_goes_67 : decode cX13_goes 67 = .ok (.invokevirtual 46, 3) := dk_182 0 46 (dk_at dksX13_goes_2 20 rfl rfl)
theorem dX13_goes_70 : decode cX13_goes 70 = .ok (.aload_n 0, 1) := dk_42 (dk_at dksX13_goes_2 23 rfl rfl)
theorem dX13_goes_71 : decode cX13_goes 71 = .ok (.iload_n 1, 1) := dk_27 (dk_at dksX13_goes_3 0 rfl rfl)
theorem dX13_goes_72 : decode cX13_goes 72 = .ok (.bipush 11, 2) := dk_16 11 (dk_at dksX13_goes_3 1 rfl rfl)
theorem dX13_goes_74 : decode cX13_goes 74 = .ok (.invokevirtual 56, 3) := dk_182 0 56 (dk_at dksX13_goes_3 3 rfl rfl)
theorem dX13_goes_77 : decode cX13_goes 77 = .ok (.ireturn, 1) := dk_172 (dk_at dksX13_goes_3 6 rfl rfl)
abbrev cX13_isSignal : ByteArray := prog_22_method_4_code
def yX13_isSignal : MethodName := ⟨RX13, "isSignal", "(I)Z"⟩
def dkwX13_isSignal_0 : List UInt8 := [27, 3, 42, 180, 0, 11, 16, 13, 46, 4, 100, 184, 0, 49, 172]
abbrev dktX13_isSignal_0 : List UInt8 := dkwX13_isSignal_0 ++ []
theorem dksX13_isSignal_0 : cX13_isSignal.data.toList.drop 0 = dktX13_isSignal_0 := by decide +kernel
theorem dX13_isSignal_0 : decode cX13_isSignal 0 = .ok (.iload_n 1, 1) := dk_27 (dk_at dksX13_isSignal_0 0 rfl rfl)
theorem dX13_isSignal_1 : decode cX13_isSignal 1 = .ok (.iconst 0, 1) := dk_3 (dk_at dksX13_isSignal_0 1 rfl rfl)
theorem dX13_isSignal_2 : decode cX13_isSignal 2 = .ok (.aload_n 0, 1) := dk_42 (dk_at dksX13_isSignal_0 2 rfl rfl)
theorem dX13_isSignal_3 : decode cX13_isSignal 3 = .ok (.getfield 11, 3) := dk_180 0 11 (dk_at dksX13_isSignal_0 3 rfl rfl)
theorem dX13_isSignal_6 : decode cX13_isSignal 6 = .ok (.bipush 13, 2) := dk_16 13 (dk_at dksX13_isSignal_0 6 rfl rfl)
theorem dX13_isSignal_8 : decode cX13_isSignal 8 = .ok (.iaload, 1) := dk_46 (dk_at dksX13_isSignal_0 8 rfl rfl)
theorem dX13_isSignal_9 : decode cX13_isSignal 9 = .ok (.iconst 1, 1) := dk_4 (dk_at dksX13_isSignal_0 9 rfl rfl)
theorem dX13_isSignal_10 : decode cX13_isSignal 10 = .ok (.isub, 1) := dk_100 (dk_at dksX13_isSignal_0 10 rfl rfl)
theorem dX13_isSignal_11 : decode cX13_isSignal 11 = .ok (.invokestatic 49, 3) := dk_184 0 49 (dk_at dksX13_isSignal_0 11 rfl rfl)
theorem dX13_isSignal_14 : decode cX13_isSignal 14 = .ok (.ireturn, 1) := dk_172 (dk_at dksX13_isSignal_0 14 rfl rfl)
abbrev cX13_tell : ByteArray := prog_22_method_21_code
def yX13_tell : MethodName := ⟨RX13, "tell", "(III)I"⟩
def dkwX13_tell_4 : List UInt8 := [27, 4, 28, 96, 182, 0, 56, 54, 5, 42, 27, 4, 28, 96, 29, 182, 0, 85, 21, 5, 172]
abbrev dktX13_tell_4 : List UInt8 := dkwX13_tell_4 ++ []
def dkwX13_tell_3 : List UInt8 := [184, 0, 49, 167, 0, 10, 29, 3, 16, 60, 184, 0, 49, 54, 4, 21, 4, 154, 0, 6, 16, 254, 172, 42]
abbrev dktX13_tell_3 : List UInt8 := dkwX13_tell_3 ++ dktX13_tell_4
def dkwX13_tell_2 : List UInt8 := [42, 27, 4, 182, 0, 56, 16, 99, 184, 0, 49, 167, 0, 25, 28, 5, 160, 0, 13, 29, 4, 16, 9]
abbrev dktX13_tell_2 : List UInt8 := dkwX13_tell_2 ++ dktX13_tell_3
def dkwX13_tell_1 : List UInt8 := [4, 16, 20, 42, 27, 5, 182, 0, 56, 184, 0, 100, 184, 0, 49, 167, 0, 45, 28, 4, 160, 0, 18, 29]
abbrev dktX13_tell_1 : List UInt8 := dkwX13_tell_1 ++ dktX13_tell_2
def dkwX13_tell_0 : List UInt8 := [42, 27, 182, 0, 96, 153, 0, 12, 28, 3, 6, 184, 0, 49, 154, 0, 5, 2, 172, 28, 154, 0, 22, 29]
abbrev dktX13_tell_0 : List UInt8 := dkwX13_tell_0 ++ dktX13_tell_1
theorem dksX13_tell_0 : cX13_tell.data.toList.drop 0 = dktX13_tell_0 := by decide +kernel
theorem dksX13_tell_1 : cX13_tell.data.toList.drop 24 = dktX13_tell_1 := dk_seg dksX13_tell_0 24 rfl rfl
theorem dksX13_tell_2 : cX13_tell.data.toList.drop 48 = dktX13_tell_2 := dk_seg dksX13_tell_1 24 rfl rfl
theorem dksX13_tell_3 : cX13_tell.data.toList.drop 71 = dktX13_tell_3 := dk_seg dksX13_tell_2 23 rfl rfl
theorem dksX13_tell_4 : cX13_tell.data.toList.drop 95 = dktX13_tell_4 := dk_seg dksX13_tell_3 24 rfl rfl
theorem dX13_tell_0 : decode cX13_tell 0 = .ok (.aload_n 0, 1) := dk_42 (dk_at dksX13_tell_0 0 rfl rfl)
theorem dX13_tell_1 : decode cX13_tell 1 = .ok (.iload_n 1, 1) := dk_27 (dk_at dksX13_tell_0 1 rfl rfl)
theorem dX13_tell_2 : decode cX13_tell 2 = .ok (.invokevirtual 96, 3) := dk_182 0 96 (dk_at dksX13_tell_0 2 rfl rfl)
theorem dX13_tell_5 : decode cX13_tell 5 = .ok (.ifCond .eq 12, 3) := dk_153 0 12 (dk_at dksX13_tell_0 5 rfl rfl)
theorem dX13_tell_8 : decode cX13_tell 8 = .ok (.iload_n 2, 1) := dk_28 (dk_at dksX13_tell_0 8 rfl rfl)
theorem dX13_tell_9 : decode cX13_tell 9 = .ok (.iconst 0, 1) := dk_3 (dk_at dksX13_tell_0 9 rfl rfl)
theorem dX13_tell_10 : decode cX13_tell 10 = .ok (.iconst 3, 1) := dk_6 (dk_at dksX13_tell_0 10 rfl rfl)
theorem dX13_tell_11 : decode cX13_tell 11 = .ok (.invokestatic 49, 3) := dk_184 0 49 (dk_at dksX13_tell_0 11 rfl rfl)
theorem dX13_tell_14 : decode cX13_tell 14 = .ok (.ifCond .ne 5, 3) := dk_154 0 5 (dk_at dksX13_tell_0 14 rfl rfl)
theorem dX13_tell_17 : decode cX13_tell 17 = .ok (.iconst (-1), 1) := dk_2 (dk_at dksX13_tell_0 17 rfl rfl)
theorem dX13_tell_18 : decode cX13_tell 18 = .ok (.ireturn, 1) := dk_172 (dk_at dksX13_tell_0 18 rfl rfl)
theorem dX13_tell_19 : decode cX13_tell 19 = .ok (.iload_n 2, 1) := dk_28 (dk_at dksX13_tell_0 19 rfl rfl)
theorem dX13_tell_20 : decode cX13_tell 20 = .ok (.ifCond .ne 22, 3) := dk_154 0 22 (dk_at dksX13_tell_0 20 rfl rfl)
theorem dX13_tell_23 : decode cX13_tell 23 = .ok (.iload_n 3, 1) := dk_29 (dk_at dksX13_tell_0 23 rfl rfl)
theorem dX13_tell_24 : decode cX13_tell 24 = .ok (.iconst 1, 1) := dk_4 (dk_at dksX13_tell_1 0 rfl rfl)
theorem dX13_tell_25 : decode cX13_tell 25 = .ok (.bipush 20, 2) := dk_16 20 (dk_at dksX13_tell_1 1 rfl rfl)
theorem dX13_tell_27 : decode cX13_tell 27 = .ok (.aload_n 0, 1) := dk_42 (dk_at dksX13_tell_1 3 rfl rfl)
theorem dX13_tell_28 : decode cX13_tell 28 = .ok (.iload_n 1, 1) := dk_27 (dk_at dksX13_tell_1 4 rfl rfl)
theorem dX13_tell_29 : decode cX13_tell 29 = .ok (.iconst 2, 1) := dk_5 (dk_at dksX13_tell_1 5 rfl rfl)
theorem dX13_tell_30 : decode cX13_tell 30 = .ok (.invokevirtual 56, 3) := dk_182 0 56 (dk_at dksX13_tell_1 6 rfl rfl)
theorem dX13_tell_33 : decode cX13_tell 33 = .ok (.invokestatic 100, 3) := dk_184 0 100 (dk_at dksX13_tell_1 9 rfl rfl)
theorem dX13_tell_36 : decode cX13_tell 36 = .ok (.invokestatic 49, 3) := dk_184 0 49 (dk_at dksX13_tell_1 12 rfl rfl)
theorem dX13_tell_39 : decode cX13_tell 39 = .ok (.goto 45, 3) := dk_167 0 45 (dk_at dksX13_tell_1 15 rfl rfl)
theorem dX13_tell_42 : decode cX13_tell 42 = .ok (.iload_n 2, 1) := dk_28 (dk_at dksX13_tell_1 18 rfl rfl)
theorem dX13_tell_43 : decode cX13_tell 43 = .ok (.iconst 1, 1) := dk_4 (dk_at dksX13_tell_1 19 rfl rfl)
theorem dX13_tell_44 : decode cX13_tell 44 = .ok (.if_icmp .ne 18, 3) := dk_160 0 18 (dk_at dksX13_tell_1 20 rfl rfl)
theorem dX13_tell_47 : decode cX13_tell 47 = .ok (.iload_n 3, 1) := dk_29 (dk_at dksX13_tell_1 23 rfl rfl)
theorem dX13_tell_48 : decode cX13_tell 48 = .ok (.aload_n 0, 1) := dk_42 (dk_at dksX13_tell_2 0 rfl rfl)
theorem dX13_tell_49 : decode cX13_tell 49 = .ok (.iload_n 1, 1) := dk_27 (dk_at dksX13_tell_2 1 rfl rfl)
theorem dX13_tell_50 : decode cX13_tell 50 = .ok (.iconst 1, 1) := dk_4 (dk_at dksX13_tell_2 2 rfl rfl)
theorem dX13_tell_51 : decode cX13_tell 51 = .ok (.invokevirtual 56, 3) := dk_182 0 56 (dk_at dksX13_tell_2 3 rfl rfl)
theorem dX13_tell_54 : decode cX13_tell 54 = .ok (.bipush 99, 2) := dk_16 99 (dk_at dksX13_tell_2 6 rfl rfl)
theorem dX13_tell_56 : decode cX13_tell 56 = .ok (.invokestatic 49, 3) := dk_184 0 49 (dk_at dksX13_tell_2 8 rfl rfl)
theorem dX13_tell_59 : decode cX13_tell 59 = .ok (.goto 25, 3) := dk_167 0 25 (dk_at dksX13_tell_2 11 rfl rfl)
theorem dX13_tell_62 : decode cX13_tell 62 = .ok (.iload_n 2, 1) := dk_28 (dk_at dksX13_tell_2 14 rfl rfl)
theorem dX13_tell_63 : decode cX13_tell 63 = .ok (.iconst 2, 1) := dk_5 (dk_at dksX13_tell_2 15 rfl rfl)
theorem dX13_tell_64 : decode cX13_tell 64 = .ok (.if_icmp .ne 13, 3) := dk_160 0 13 (dk_at dksX13_tell_2 16 rfl rfl)
theorem dX13_tell_67 : decode cX13_tell 67 = .ok (.iload_n 3, 1) := dk_29 (dk_at dksX13_tell_2 19 rfl rfl)
theorem dX13_tell_68 : decode cX13_tell 68 = .ok (.iconst 1, 1) := dk_4 (dk_at dksX13_tell_2 20 rfl rfl)
theorem dX13_tell_69 : decode cX13_tell 69 = .ok (.bipush 9, 2) := dk_16 9 (dk_at dksX13_tell_2 21 rfl rfl)
theorem dX13_tell_71 : decode cX13_tell 71 = .ok (.invokestatic 49, 3) := dk_184 0 49 (dk_at dksX13_tell_3 0 rfl rfl)
theorem dX13_tell_74 : decode cX13_tell 74 = .ok (.goto 10, 3) := dk_167 0 10 (dk_at dksX13_tell_3 3 rfl rfl)
theorem dX13_tell_77 : decode cX13_tell 77 = .ok (.iload_n 3, 1) := dk_29 (dk_at dksX13_tell_3 6 rfl rfl)
theorem dX13_tell_78 : decode cX13_tell 78 = .ok (.iconst 0, 1) := dk_3 (dk_at dksX13_tell_3 7 rfl rfl)
theorem dX13_tell_79 : decode cX13_tell 79 = .ok (.bipush 60, 2) := dk_16 60 (dk_at dksX13_tell_3 8 rfl rfl)
theorem dX13_tell_81 : decode cX13_tell 81 = .ok (.invokestatic 49, 3) := dk_184 0 49 (dk_at dksX13_tell_3 10 rfl rfl)
theorem dX13_tell_84 : decode cX13_tell 84 = .ok (.istore 4, 2) := dk_54 4 (dk_at dksX13_tell_3 13 rfl rfl)
theorem dX13_tell_86 : decode cX13_tell 86 = .ok (.iload 4, 2) := dk_21 4 (dk_at dksX13_tell_3 15 rfl rfl)
theorem dX13_tell_88 : decode cX13_tell 88 = .ok (.ifCond .ne 6, 3) := dk_154 0 6 (dk_at dksX13_tell_3 17 rfl rfl)
theorem dX13_tell_91 : decode cX13_tell 91 = .ok (.bipush (-2), 2) := dk_16 254 (dk_at dksX13_tell_3 20 rfl rfl)
theorem dX13_tell_93 : decode cX13_tell 93 = .ok (.ireturn, 1) := dk_172 (dk_at dksX13_tell_3 22 rfl rfl)
theorem dX13_tell_94 : decode cX13_tell 94 = .ok (.aload_n 0, 1) := dk_42 (dk_at dksX13_tell_3 23 rfl rfl)
theorem dX13_tell_95 : decode cX13_tell 95 = .ok (.iload_n 1, 1) := dk_27 (dk_at dksX13_tell_4 0 rfl rfl)
theorem dX13_tell_96 : decode cX13_tell 96 = .ok (.iconst 1, 1) := dk_4 (dk_at dksX13_tell_4 1 rfl rfl)
theorem dX13_tell_97 : decode cX13_tell 97 = .ok (.iload_n 2, 1) := dk_28 (dk_at dksX13_tell_4 2 rfl rfl)
theorem dX13_tell_98 : decode cX13_tell 98 = .ok (.iadd, 1) := dk_96 (dk_at dksX13_tell_4 3 rfl rfl)
theorem dX13_tell_99 : decode cX13_tell 99 = .ok (.invokevirtual 56, 3) := dk_182 0 56 (dk_at dksX13_tell_4 4 rfl rfl)
theorem dX13_tell_102 : decode cX13_tell 102 = .ok (.istore 5, 2) := dk_54 5 (dk_at dksX13_tell_4 7 rfl rfl)
theorem dX13_tell_104 : decode cX13_tell 104 = .ok (.aload_n 0, 1) := dk_42 (dk_at dksX13_tell_4 9 rfl rfl)
theorem dX13_tell_105 : decode cX13_tell 105 = .ok (.iload_n 1, 1) := dk_27 (dk_at dksX13_tell_4 10 rfl rfl)
theorem dX13_tell_106 : decode cX13_tell 106 = .ok (.iconst 1, 1) := dk_4 (dk_at dksX13_tell_4 11 rfl rfl)
theorem dX13_tell_107 : decode cX13_tell 107 = .ok (.iload_n 2, 1) := dk_28 (dk_at dksX13_tell_4 12 rfl rfl)
theorem dX13_tell_108 : decode cX13_tell 108 = .ok (.iadd, 1) := dk_96 (dk_at dksX13_tell_4 13 rfl rfl)
theorem dX13_tell_109 : decode cX13_tell 109 = .ok (.iload_n 3, 1) := dk_29 (dk_at dksX13_tell_4 14 rfl rfl)
theorem dX13_tell_110 : decode cX13_tell 110 = .ok (.invokevirtual 85, 3) := dk_182 0 85 (dk_at dksX13_tell_4 15 rfl rfl)
theorem dX13_tell_113 : decode cX13_tell 113 = .ok (.iload 5, 2) := dk_21 5 (dk_at dksX13_tell_4 18 rfl rfl)
theorem dX13_tell_115 : decode cX13_tell 115 = .ok (.ireturn, 1) := dk_172 (dk_at dksX13_tell_4 20 rfl rfl)
abbrev cX13_feed : ByteArray := prog_22_method_22_code
def yX13_feed : MethodName := ⟨RX13, "feed", "(I)I"⟩
def dkwX13_feed_2 : List UInt8 := [180, 0, 103, 172]
abbrev dktX13_feed_2 : List UInt8 := dkwX13_feed_2 ++ []
def dkwX13_feed_1 : List UInt8 := [172, 42, 180, 0, 27, 42, 180, 0, 103, 27, 79, 42, 89, 180, 0, 103, 4, 96, 181, 0, 103, 42]
abbrev dktX13_feed_1 : List UInt8 := dkwX13_feed_1 ++ dktX13_feed_2
def dkwX13_feed_0 : List UInt8 := [27, 3, 16, 127, 184, 0, 49, 154, 0, 6, 16, 254, 172, 42, 180, 0, 103, 16, 100, 160, 0, 6, 16, 252]
abbrev dktX13_feed_0 : List UInt8 := dkwX13_feed_0 ++ dktX13_feed_1
theorem dksX13_feed_0 : cX13_feed.data.toList.drop 0 = dktX13_feed_0 := by decide +kernel
theorem dksX13_feed_1 : cX13_feed.data.toList.drop 24 = dktX13_feed_1 := dk_seg dksX13_feed_0 24 rfl rfl
theorem dksX13_feed_2 : cX13_feed.data.toList.drop 46 = dktX13_feed_2 := dk_seg dksX13_feed_1 22 rfl rfl
theorem dX13_feed_0 : decode cX13_feed 0 = .ok (.iload_n 1, 1) := dk_27 (dk_at dksX13_feed_0 0 rfl rfl)
theorem dX13_feed_1 : decode cX13_feed 1 = .ok (.iconst 0, 1) := dk_3 (dk_at dksX13_feed_0 1 rfl rfl)
theorem dX13_feed_2 : decode cX13_feed 2 = .ok (.bipush 127, 2) := dk_16 127 (dk_at dksX13_feed_0 2 rfl rfl)
theorem dX13_feed_4 : decode cX13_feed 4 = .ok (.invokestatic 49, 3) := dk_184 0 49 (dk_at dksX13_feed_0 4 rfl rfl)
theorem dX13_feed_7 : decode cX13_feed 7 = .ok (.ifCond .ne 6, 3) := dk_154 0 6 (dk_at dksX13_feed_0 7 rfl rfl)
theorem dX13_feed_10 : decode cX13_feed 10 = .ok (.bipush (-2), 2) := dk_16 254 (dk_at dksX13_feed_0 10 rfl rfl)
theorem dX13_feed_12 : decode cX13_feed 12 = .ok (.ireturn, 1) := dk_172 (dk_at dksX13_feed_0 12 rfl rfl)
theorem dX13_feed_13 : decode cX13_feed 13 = .ok (.aload_n 0, 1) := dk_42 (dk_at dksX13_feed_0 13 rfl rfl)
theorem dX13_feed_14 : decode cX13_feed 14 = .ok (.getfield 103, 3) := dk_180 0 103 (dk_at dksX13_feed_0 14 rfl rfl)
theorem dX13_feed_17 : decode cX13_feed 17 = .ok (.bipush 100, 2) := dk_16 100 (dk_at dksX13_feed_0 17 rfl rfl)
theorem dX13_feed_19 : decode cX13_feed 19 = .ok (.if_icmp .ne 6, 3) := dk_160 0 6 (dk_at dksX13_feed_0 19 rfl rfl)
theorem dX13_feed_22 : decode cX13_feed 22 = .ok (.bipush (-4), 2) := dk_16 252 (dk_at dksX13_feed_0 22 rfl rfl)
theorem dX13_feed_24 : decode cX13_feed 24 = .ok (.ireturn, 1) := dk_172 (dk_at dksX13_feed_1 0 rfl rfl)
theorem dX13_feed_25 : decode cX13_feed 25 = .ok (.aload_n 0, 1) := dk_42 (dk_at dksX13_feed_1 1 rfl rfl)
theorem dX13_feed_26 : decode cX13_feed 26 = .ok (.getfield 27, 3) := dk_180 0 27 (dk_at dksX13_feed_1 2 rfl rfl)
theorem dX13_feed_29 : decode cX13_feed 29 = .ok (.aload_n 0, 1) := dk_42 (dk_at dksX13_feed_1 5 rfl rfl)
theorem dX13_feed_30 : decode cX13_feed 30 = .ok (.getfield 103, 3) := dk_180 0 103 (dk_at dksX13_feed_1 6 rfl rfl)
theorem dX13_feed_33 : decode cX13_feed 33 = .ok (.iload_n 1, 1) := dk_27 (dk_at dksX13_feed_1 9 rfl rfl)
theorem dX13_feed_34 : decode cX13_feed 34 = .ok (.iastore, 1) := dk_79 (dk_at dksX13_feed_1 10 rfl rfl)
theorem dX13_feed_35 : decode cX13_feed 35 = .ok (.aload_n 0, 1) := dk_42 (dk_at dksX13_feed_1 11 rfl rfl)
theorem dX13_feed_36 : decode cX13_feed 36 = .ok (.dup, 1) := dk_89 (dk_at dksX13_feed_1 12 rfl rfl)
theorem dX13_feed_37 : decode cX13_feed 37 = .ok (.getfield 103, 3) := dk_180 0 103 (dk_at dksX13_feed_1 13 rfl rfl)
theorem dX13_feed_40 : decode cX13_feed 40 = .ok (.iconst 1, 1) := dk_4 (dk_at dksX13_feed_1 16 rfl rfl)
theorem dX13_feed_41 : decode cX13_feed 41 = .ok (.iadd, 1) := dk_96 (dk_at dksX13_feed_1 17 rfl rfl)
theorem dX13_feed_42 : decode cX13_feed 42 = .ok (.putfield 103, 3) := dk_181 0 103 (dk_at dksX13_feed_1 18 rfl rfl)
theorem dX13_feed_45 : decode cX13_feed 45 = .ok (.aload_n 0, 1) := dk_42 (dk_at dksX13_feed_1 21 rfl rfl)
theorem dX13_feed_46 : decode cX13_feed 46 = .ok (.getfield 103, 3) := dk_180 0 103 (dk_at dksX13_feed_2 0 rfl rfl)
theorem dX13_feed_49 : decode cX13_feed 49 = .ok (.ireturn, 1) := dk_172 (dk_at dksX13_feed_2 3 rfl rfl)
abbrev cX13_read : ByteArray := prog_22_method_29_code
def yX13_read : MethodName := ⟨RX13, "read", "()I"⟩
def dkwX13_read_9 : List UInt8 := [96, 46, 182, 0, 93, 132, 5, 1, 167, 255, 213, 132, 3, 1, 167, 255, 146, 42, 182, 0, 46, 28, 172]
abbrev dktX13_read_9 : List UInt8 := dkwX13_read_9 ++ []
def dkwX13_read_8 : List UInt8 := [162, 0, 35, 42, 42, 180, 0, 11, 16, 13, 46, 4, 100, 42, 180, 0, 30, 21, 4, 16, 6, 96, 21, 5]
abbrev dktX13_read_8 : List UInt8 := dkwX13_read_8 ++ dktX13_read_9
def dkwX13_read_7 : List UInt8 := [21, 4, 7, 96, 46, 182, 0, 89, 3, 54, 5, 21, 5, 42, 180, 0, 30, 21, 4, 8, 96, 46]
abbrev dktX13_read_7 : List UInt8 := dkwX13_read_7 ++ dktX13_read_8
def dkwX13_read_6 : List UInt8 := [96, 46, 42, 180, 0, 30, 21, 4, 5, 96, 46, 42, 180, 0, 30, 21, 4, 6, 96, 46, 42, 180, 0, 30]
abbrev dktX13_read_6 : List UInt8 := dkwX13_read_6 ++ dktX13_read_7
def dkwX13_read_5 : List UInt8 := [162, 0, 111, 16, 14, 29, 104, 54, 4, 42, 42, 180, 0, 30, 21, 4, 46, 42, 180, 0, 30, 21, 4, 4]
abbrev dktX13_read_5 : List UInt8 := dkwX13_read_5 ++ dktX13_read_6
def dkwX13_read_4 : List UInt8 := [100, 172, 42, 180, 0, 11, 16, 13, 46, 28, 96, 16, 8, 164, 0, 6, 16, 252, 172, 3, 62, 29, 28]
abbrev dktX13_read_4 : List UInt8 := dkwX13_read_4 ++ dktX13_read_5
def dkwX13_read_3 : List UInt8 := [180, 0, 110, 182, 0, 115, 42, 3, 181, 0, 103, 42, 180, 0, 107, 155, 0, 11, 16, 246, 42, 180, 0, 107]
abbrev dktX13_read_3 : List UInt8 := dkwX13_read_3 ++ dktX13_read_4
def dkwX13_read_2 : List UInt8 := [28, 7, 162, 0, 12, 42, 16, 59, 182, 0, 122, 154, 255, 232, 42, 180, 0, 110, 27, 162, 0, 11, 42, 42]
abbrev dktX13_read_2 : List UInt8 := dkwX13_read_2 ++ dktX13_read_3
def dkwX13_read_1 : List UInt8 := [3, 181, 0, 110, 42, 2, 181, 0, 107, 3, 61, 42, 16, 14, 28, 7, 112, 104, 182, 0, 129, 132, 2, 1]
abbrev dktX13_read_1 : List UInt8 := dkwX13_read_1 ++ dktX13_read_2
def dkwX13_read_0 : List UInt8 := [42, 180, 0, 103, 60, 42, 180, 0, 11, 5, 46, 4, 160, 0, 11, 42, 3, 181, 0, 103, 16, 253, 172, 42]
abbrev dktX13_read_0 : List UInt8 := dkwX13_read_0 ++ dktX13_read_1
theorem dksX13_read_0 : cX13_read.data.toList.drop 0 = dktX13_read_0 := by decide +kernel
theorem dksX13_read_1 : cX13_read.data.toList.drop 24 = dktX13_read_1 := dk_seg dksX13_read_0 24 rfl rfl
theorem dksX13_read_2 : cX13_read.data.toList.drop 48 = dktX13_read_2 := dk_seg dksX13_read_1 24 rfl rfl
theorem dksX13_read_3 : cX13_read.data.toList.drop 72 = dktX13_read_3 := dk_seg dksX13_read_2 24 rfl rfl
theorem dksX13_read_4 : cX13_read.data.toList.drop 96 = dktX13_read_4 := dk_seg dksX13_read_3 24 rfl rfl
theorem dksX13_read_5 : cX13_read.data.toList.drop 119 = dktX13_read_5 := dk_seg dksX13_read_4 23 rfl rfl
theorem dksX13_read_6 : cX13_read.data.toList.drop 143 = dktX13_read_6 := dk_seg dksX13_read_5 24 rfl rfl
theorem dksX13_read_7 : cX13_read.data.toList.drop 167 = dktX13_read_7 := dk_seg dksX13_read_6 24 rfl rfl
theorem dksX13_read_8 : cX13_read.data.toList.drop 189 = dktX13_read_8 := dk_seg dksX13_read_7 22 rfl rfl
theorem dksX13_read_9 : cX13_read.data.toList.drop 213 = dktX13_read_9 := dk_seg dksX13_read_8 24 rfl rfl
theorem dX13_read_0 : decode cX13_read 0 = .ok (.aload_n 0, 1) := dk_42 (dk_at dksX13_read_0 0 rfl rfl)
theorem dX13_read_1 : decode cX13_read 1 = .ok (.getfield 103, 3) := dk_180 0 103 (dk_at dksX13_read_0 1 rfl rfl)
theorem dX13_read_4 : decode cX13_read 4 = .ok (.istore_n 1, 1) := dk_60 (dk_at dksX13_read_0 4 rfl rfl)
theorem dX13_read_5 : decode cX13_read 5 = .ok (.aload_n 0, 1) := dk_42 (dk_at dksX13_read_0 5 rfl rfl)
theorem dX13_read_6 : decode cX13_read 6 = .ok (.getfield 11, 3) := dk_180 0 11 (dk_at dksX13_read_0 6 rfl rfl)
theorem dX13_read_9 : decode cX13_read 9 = .ok (.iconst 2, 1) := dk_5 (dk_at dksX13_read_0 9 rfl rfl)
theorem dX13_read_10 : decode cX13_read 10 = .ok (.iaload, 1) := dk_46 (dk_at dksX13_read_0 10 rfl rfl)
theorem dX13_read_11 : decode cX13_read 11 = .ok (.iconst 1, 1) := dk_4 (dk_at dksX13_read_0 11 rfl rfl)
theorem dX13_read_12 : decode cX13_read 12 = .ok (.if_icmp .ne 11, 3) := dk_160 0 11 (dk_at dksX13_read_0 12 rfl rfl)
theorem dX13_read_15 : decode cX13_read 15 = .ok (.aload_n 0, 1) := dk_42 (dk_at dksX13_read_0 15 rfl rfl)
theorem dX13_read_16 : decode cX13_read 16 = .ok (.iconst 0, 1) := dk_3 (dk_at dksX13_read_0 16 rfl rfl)
theorem dX13_read_17 : decode cX13_read 17 = .ok (.putfield 103, 3) := dk_181 0 103 (dk_at dksX13_read_0 17 rfl rfl)
theorem dX13_read_20 : decode cX13_read 20 = .ok (.bipush (-3), 2) := dk_16 253 (dk_at dksX13_read_0 20 rfl rfl)
theorem dX13_read_22 : decode cX13_read 22 = .ok (.ireturn, 1) := dk_172 (dk_at dksX13_read_0 22 rfl rfl)
theorem dX13_read_23 : decode cX13_read 23 = .ok (.aload_n 0, 1) := dk_42 (dk_at dksX13_read_0 23 rfl rfl)
theorem dX13_read_24 : decode cX13_read 24 = .ok (.iconst 0, 1) := dk_3 (dk_at dksX13_read_1 0 rfl rfl)
theorem dX13_read_25 : decode cX13_read 25 = .ok (.putfield 110, 3) := dk_181 0 110 (dk_at dksX13_read_1 1 rfl rfl)
theorem dX13_read_28 : decode cX13_read 28 = .ok (.aload_n 0, 1) := dk_42 (dk_at dksX13_read_1 4 rfl rfl)
theorem dX13_read_29 : decode cX13_read 29 = .ok (.iconst (-1), 1) := dk_2 (dk_at dksX13_read_1 5 rfl rfl)
theorem dX13_read_30 : decode cX13_read 30 = .ok (.putfield 107, 3) := dk_181 0 107 (dk_at dksX13_read_1 6 rfl rfl)
theorem dX13_read_33 : decode cX13_read 33 = .ok (.iconst 0, 1) := dk_3 (dk_at dksX13_read_1 9 rfl rfl)
theorem dX13_read_34 : decode cX13_read 34 = .ok (.istore_n 2, 1) := dk_61 (dk_at dksX13_read_1 10 rfl rfl)
theorem dX13_read_35 : decode cX13_read 35 = .ok (.aload_n 0, 1) := dk_42 (dk_at dksX13_read_1 11 rfl rfl)
theorem dX13_read_36 : decode cX13_read 36 = .ok (.bipush 14, 2) := dk_16 14 (dk_at dksX13_read_1 12 rfl rfl)
theorem dX13_read_38 : decode cX13_read 38 = .ok (.iload_n 2, 1) := dk_28 (dk_at dksX13_read_1 14 rfl rfl)
theorem dX13_read_39 : decode cX13_read 39 = .ok (.iconst 4, 1) := dk_7 (dk_at dksX13_read_1 15 rfl rfl)
theorem dX13_read_40 : decode cX13_read 40 = .ok (.irem, 1) := dk_112 (dk_at dksX13_read_1 16 rfl rfl)
theorem dX13_read_41 : decode cX13_read 41 = .ok (.imul, 1) := dk_104 (dk_at dksX13_read_1 17 rfl rfl)
theorem dX13_read_42 : decode cX13_read 42 = .ok (.invokevirtual 129, 3) := dk_182 0 129 (dk_at dksX13_read_1 18 rfl rfl)
theorem dX13_read_45 : decode cX13_read 45 = .ok (.iinc 2 1, 3) := dk_132 2 1 (dk_at dksX13_read_1 21 rfl rfl)
theorem dX13_read_48 : decode cX13_read 48 = .ok (.iload_n 2, 1) := dk_28 (dk_at dksX13_read_2 0 rfl rfl)
theorem dX13_read_49 : decode cX13_read 49 = .ok (.iconst 4, 1) := dk_7 (dk_at dksX13_read_2 1 rfl rfl)
theorem dX13_read_50 : decode cX13_read 50 = .ok (.if_icmp .ge 12, 3) := dk_162 0 12 (dk_at dksX13_read_2 2 rfl rfl)
theorem dX13_read_53 : decode cX13_read 53 = .ok (.aload_n 0, 1) := dk_42 (dk_at dksX13_read_2 5 rfl rfl)
theorem dX13_read_54 : decode cX13_read 54 = .ok (.bipush 59, 2) := dk_16 59 (dk_at dksX13_read_2 6 rfl rfl)
theorem dX13_read_56 : decode cX13_read 56 = .ok (.invokevirtual 122, 3) := dk_182 0 122 (dk_at dksX13_read_2 8 rfl rfl)
theorem dX13_read_59 : decode cX13_read 59 = .ok (.ifCond .ne (-24), 3) := dk_154 255 232 (dk_at dksX13_read_2 11 rfl rfl)
theorem dX13_read_62 : decode cX13_read 62 = .ok (.aload_n 0, 1) := dk_42 (dk_at dksX13_read_2 14 rfl rfl)
theorem dX13_read_63 : decode cX13_read 63 = .ok (.getfield 110, 3) := dk_180 0 110 (dk_at dksX13_read_2 15 rfl rfl)
theorem dX13_read_66 : decode cX13_read 66 = .ok (.iload_n 1, 1) := dk_27 (dk_at dksX13_read_2 18 rfl rfl)
theorem dX13_read_67 : decode cX13_read 67 = .ok (.if_icmp .ge 11, 3) := dk_162 0 11 (dk_at dksX13_read_2 19 rfl rfl)
theorem dX13_read_70 : decode cX13_read 70 = .ok (.aload_n 0, 1) := dk_42 (dk_at dksX13_read_2 22 rfl rfl)
theorem dX13_read_71 : decode cX13_read 71 = .ok (.aload_n 0, 1) := dk_42 (dk_at dksX13_read_2 23 rfl rfl)
theorem dX13_read_72 : decode cX13_read 72 = .ok (.getfield 110, 3) := dk_180 0 110 (dk_at dksX13_read_3 0 rfl rfl)
theorem dX13_read_75 : decode cX13_read 75 = .ok (.invokevirtual 115, 3) := dk_182 0 115 (dk_at dksX13_read_3 3 rfl rfl)
theorem dX13_read_78 : decode cX13_read 78 = .ok (.aload_n 0, 1) := dk_42 (dk_at dksX13_read_3 6 rfl rfl)
theorem dX13_read_79 : decode cX13_read 79 = .ok (.iconst 0, 1) := dk_3 (dk_at dksX13_read_3 7 rfl rfl)
theorem dX13_read_80 : decode cX13_read 80 = .ok (.putfield 103, 3) := dk_181 0 103 (dk_at dksX13_read_3 8 rfl rfl)
theorem dX13_read_83 : decode cX13_read 83 = .ok (.aload_n 0, 1) := dk_42 (dk_at dksX13_read_3 11 rfl rfl)
theorem dX13_read_84 : decode cX13_read 84 = .ok (.getfield 107, 3) := dk_180 0 107 (dk_at dksX13_read_3 12 rfl rfl)
theorem dX13_read_87 : decode cX13_read 87 = .ok (.ifCond .lt 11, 3) := dk_155 0 11 (dk_at dksX13_read_3 15 rfl rfl)
theorem dX13_read_90 : decode cX13_read 90 = .ok (.bipush (-10), 2) := dk_16 246 (dk_at dksX13_read_3 18 rfl rfl)
theorem dX13_read_92 : decode cX13_read 92 = .ok (.aload_n 0, 1) := dk_42 (dk_at dksX13_read_3 20 rfl rfl)
theorem dX13_read_93 : decode cX13_read 93 = .ok (.getfield 107, 3) := dk_180 0 107 (dk_at dksX13_read_3 21 rfl rfl)
theorem dX13_read_96 : decode cX13_read 96 = .ok (.isub, 1) := dk_100 (dk_at dksX13_read_4 0 rfl rfl)
theorem dX13_read_97 : decode cX13_read 97 = .ok (.ireturn, 1) := dk_172 (dk_at dksX13_read_4 1 rfl rfl)
theorem dX13_read_98 : decode cX13_read 98 = .ok (.aload_n 0, 1) := dk_42 (dk_at dksX13_read_4 2 rfl rfl)
theorem dX13_read_99 : decode cX13_read 99 = .ok (.getfield 11, 3) := dk_180 0 11 (dk_at dksX13_read_4 3 rfl rfl)
theorem dX13_read_102 : decode cX13_read 102 = .ok (.bipush 13, 2) := dk_16 13 (dk_at dksX13_read_4 6 rfl rfl)
theorem dX13_read_104 : decode cX13_read 104 = .ok (.iaload, 1) := dk_46 (dk_at dksX13_read_4 8 rfl rfl)
theorem dX13_read_105 : decode cX13_read 105 = .ok (.iload_n 2, 1) := dk_28 (dk_at dksX13_read_4 9 rfl rfl)
theorem dX13_read_106 : decode cX13_read 106 = .ok (.iadd, 1) := dk_96 (dk_at dksX13_read_4 10 rfl rfl)
theorem dX13_read_107 : decode cX13_read 107 = .ok (.bipush 8, 2) := dk_16 8 (dk_at dksX13_read_4 11 rfl rfl)
theorem dX13_read_109 : decode cX13_read 109 = .ok (.if_icmp .le 6, 3) := dk_164 0 6 (dk_at dksX13_read_4 13 rfl rfl)
theorem dX13_read_112 : decode cX13_read 112 = .ok (.bipush (-4), 2) := dk_16 252 (dk_at dksX13_read_4 16 rfl rfl)
theorem dX13_read_114 : decode cX13_read 114 = .ok (.ireturn, 1) := dk_172 (dk_at dksX13_read_4 18 rfl rfl)
theorem dX13_read_115 : decode cX13_read 115 = .ok (.iconst 0, 1) := dk_3 (dk_at dksX13_read_4 19 rfl rfl)
theorem dX13_read_116 : decode cX13_read 116 = .ok (.istore_n 3, 1) := dk_62 (dk_at dksX13_read_4 20 rfl rfl)
theorem dX13_read_117 : decode cX13_read 117 = .ok (.iload_n 3, 1) := dk_29 (dk_at dksX13_read_4 21 rfl rfl)
theorem dX13_read_118 : decode cX13_read 118 = .ok (.iload_n 2, 1) := dk_28 (dk_at dksX13_read_4 22 rfl rfl)
theorem dX13_read_119 : decode cX13_read 119 = .ok (.if_icmp .ge 111, 3) := dk_162 0 111 (dk_at dksX13_read_5 0 rfl rfl)
theorem dX13_read_122 : decode cX13_read 122 = .ok (.bipush 14, 2) := dk_16 14 (dk_at dksX13_read_5 3 rfl rfl)
theorem dX13_read_124 : decode cX13_read 124 = .ok (.iload_n 3, 1) := dk_29 (dk_at dksX13_read_5 5 rfl rfl)
theorem dX13_read_125 : decode cX13_read 125 = .ok (.imul, 1) := dk_104 (dk_at dksX13_read_5 6 rfl rfl)
theorem dX13_read_126 : decode cX13_read 126 = .ok (.istore 4, 2) := dk_54 4 (dk_at dksX13_read_5 7 rfl rfl)
theorem dX13_read_128 : decode cX13_read 128 = .ok (.aload_n 0, 1) := dk_42 (dk_at dksX13_read_5 9 rfl rfl)
theorem dX13_read_129 : decode cX13_read 129 = .ok (.aload_n 0, 1) := dk_42 (dk_at dksX13_read_5 10 rfl rfl)
theorem dX13_read_130 : decode cX13_read 130 = .ok (.getfield 30, 3) := dk_180 0 30 (dk_at dksX13_read_5 11 rfl rfl)
theorem dX13_read_133 : decode cX13_read 133 = .ok (.iload 4, 2) := dk_21 4 (dk_at dksX13_read_5 14 rfl rfl)
theorem dX13_read_135 : decode cX13_read 135 = .ok (.iaload, 1) := dk_46 (dk_at dksX13_read_5 16 rfl rfl)
theorem dX13_read_136 : decode cX13_read 136 = .ok (.aload_n 0, 1) := dk_42 (dk_at dksX13_read_5 17 rfl rfl)
theorem dX13_read_137 : decode cX13_read 137 = .ok (.getfield 30, 3) := dk_180 0 30 (dk_at dksX13_read_5 18 rfl rfl)
theorem dX13_read_140 : decode cX13_read 140 = .ok (.iload 4, 2) := dk_21 4 (dk_at dksX13_read_5 21 rfl rfl)
theorem dX13_read_142 : decode cX13_read 142 = .ok (.iconst 1, 1) := dk_4 (dk_at dksX13_read_5 23 rfl rfl)
theorem dX13_read_143 : decode cX13_read 143 = .ok (.iadd, 1) := dk_96 (dk_at dksX13_read_6 0 rfl rfl)
theorem dX13_read_144 : decode cX13_read 144 = .ok (.iaload, 1) := dk_46 (dk_at dksX13_read_6 1 rfl rfl)
theorem dX13_read_145 : decode cX13_read 145 = .ok (.aload_n 0, 1) := dk_42 (dk_at dksX13_read_6 2 rfl rfl)
theorem dX13_read_146 : decode cX13_read 146 = .ok (.getfield 30, 3) := dk_180 0 30 (dk_at dksX13_read_6 3 rfl rfl)
theorem dX13_read_149 : decode cX13_read 149 = .ok (.iload 4, 2) := dk_21 4 (dk_at dksX13_read_6 6 rfl rfl)
theorem dX13_read_151 : decode cX13_read 151 = .ok (.iconst 2, 1) := dk_5 (dk_at dksX13_read_6 8 rfl rfl)
theorem dX13_read_152 : decode cX13_read 152 = .ok (.iadd, 1) := dk_96 (dk_at dksX13_read_6 9 rfl rfl)
theorem dX13_read_153 : decode cX13_read 153 = .ok (.iaload, 1) := dk_46 (dk_at dksX13_read_6 10 rfl rfl)
theorem dX13_read_154 : decode cX13_read 154 = .ok (.aload_n 0, 1) := dk_42 (dk_at dksX13_read_6 11 rfl rfl)
theorem dX13_read_155 : decode cX13_read 155 = .ok (.getfield 30, 3) := dk_180 0 30 (dk_at dksX13_read_6 12 rfl rfl)
theorem dX13_read_158 : decode cX13_read 158 = .ok (.iload 4, 2) := dk_21 4 (dk_at dksX13_read_6 15 rfl rfl)
theorem dX13_read_160 : decode cX13_read 160 = .ok (.iconst 3, 1) := dk_6 (dk_at dksX13_read_6 17 rfl rfl)
theorem dX13_read_161 : decode cX13_read 161 = .ok (.iadd, 1) := dk_96 (dk_at dksX13_read_6 18 rfl rfl)
theorem dX13_read_162 : decode cX13_read 162 = .ok (.iaload, 1) := dk_46 (dk_at dksX13_read_6 19 rfl rfl)
theorem dX13_read_163 : decode cX13_read 163 = .ok (.aload_n 0, 1) := dk_42 (dk_at dksX13_read_6 20 rfl rfl)
theorem dX13_read_164 : decode cX13_read 164 = .ok (.getfield 30, 3) := dk_180 0 30 (dk_at dksX13_read_6 21 rfl rfl)
theorem dX13_read_167 : decode cX13_read 167 = .ok (.iload 4, 2) := dk_21 4 (dk_at dksX13_read_7 0 rfl rfl)
theorem dX13_read_169 : decode cX13_read 169 = .ok (.iconst 4, 1) := dk_7 (dk_at dksX13_read_7 2 rfl rfl)
theorem dX13_read_170 : decode cX13_read 170 = .ok (.iadd, 1) := dk_96 (dk_at dksX13_read_7 3 rfl rfl)
theorem dX13_read_171 : decode cX13_read 171 = .ok (.iaload, 1) := dk_46 (dk_at dksX13_read_7 4 rfl rfl)
theorem dX13_read_172 : decode cX13_read 172 = .ok (.invokevirtual 89, 3) := dk_182 0 89 (dk_at dksX13_read_7 5 rfl rfl)
theorem dX13_read_175 : decode cX13_read 175 = .ok (.iconst 0, 1) := dk_3 (dk_at dksX13_read_7 8 rfl rfl)
theorem dX13_read_176 : decode cX13_read 176 = .ok (.istore 5, 2) := dk_54 5 (dk_at dksX13_read_7 9 rfl rfl)
theorem dX13_read_178 : decode cX13_read 178 = .ok (.iload 5, 2) := dk_21 5 (dk_at dksX13_read_7 11 rfl rfl)
theorem dX13_read_180 : decode cX13_read 180 = .ok (.aload_n 0, 1) := dk_42 (dk_at dksX13_read_7 13 rfl rfl)
theorem dX13_read_181 : decode cX13_read 181 = .ok (.getfield 30, 3) := dk_180 0 30 (dk_at dksX13_read_7 14 rfl rfl)
theorem dX13_read_184 : decode cX13_read 184 = .ok (.iload 4, 2) := dk_21 4 (dk_at dksX13_read_7 17 rfl rfl)
theorem dX13_read_186 : decode cX13_read 186 = .ok (.iconst 5, 1) := dk_8 (dk_at dksX13_read_7 19 rfl rfl)
theorem dX13_read_187 : decode cX13_read 187 = .ok (.iadd, 1) := dk_96 (dk_at dksX13_read_7 20 rfl rfl)
theorem dX13_read_188 : decode cX13_read 188 = .ok (.iaload, 1) := dk_46 (dk_at dksX13_read_7 21 rfl rfl)
theorem dX13_read_189 : decode cX13_read 189 = .ok (.if_icmp .ge 35, 3) := dk_162 0 35 (dk_at dksX13_read_8 0 rfl rfl)
theorem dX13_read_192 : decode cX13_read 192 = .ok (.aload_n 0, 1) := dk_42 (dk_at dksX13_read_8 3 rfl rfl)
theorem dX13_read_193 : decode cX13_read 193 = .ok (.aload_n 0, 1) := dk_42 (dk_at dksX13_read_8 4 rfl rfl)
theorem dX13_read_194 : decode cX13_read 194 = .ok (.getfield 11, 3) := dk_180 0 11 (dk_at dksX13_read_8 5 rfl rfl)
theorem dX13_read_197 : decode cX13_read 197 = .ok (.bipush 13, 2) := dk_16 13 (dk_at dksX13_read_8 8 rfl rfl)
theorem dX13_read_199 : decode cX13_read 199 = .ok (.iaload, 1) := dk_46 (dk_at dksX13_read_8 10 rfl rfl)
theorem dX13_read_200 : decode cX13_read 200 = .ok (.iconst 1, 1) := dk_4 (dk_at dksX13_read_8 11 rfl rfl)
theorem dX13_read_201 : decode cX13_read 201 = .ok (.isub, 1) := dk_100 (dk_at dksX13_read_8 12 rfl rfl)
theorem dX13_read_202 : decode cX13_read 202 = .ok (.aload_n 0, 1) := dk_42 (dk_at dksX13_read_8 13 rfl rfl)
theorem dX13_read_203 : decode cX13_read 203 = .ok (.getfield 30, 3) := dk_180 0 30 (dk_at dksX13_read_8 14 rfl rfl)
theorem dX13_read_206 : decode cX13_read 206 = .ok (.iload 4, 2) := dk_21 4 (dk_at dksX13_read_8 17 rfl rfl)
theorem dX13_read_208 : decode cX13_read 208 = .ok (.bipush 6, 2) := dk_16 6 (dk_at dksX13_read_8 19 rfl rfl)
theorem dX13_read_210 : decode cX13_read 210 = .ok (.iadd, 1) := dk_96 (dk_at dksX13_read_8 21 rfl rfl)
theorem dX13_read_211 : decode cX13_read 211 = .ok (.iload 5, 2) := dk_21 5 (dk_at dksX13_read_8 22 rfl rfl)
theorem dX13_read_213 : decode cX13_read 213 = .ok (.iadd, 1) := dk_96 (dk_at dksX13_read_9 0 rfl rfl)
theorem dX13_read_214 : decode cX13_read 214 = .ok (.iaload, 1) := dk_46 (dk_at dksX13_read_9 1 rfl rfl)
theorem dX13_read_215 : decode cX13_read 215 = .ok (.invokevirtual 93, 3) := dk_182 0 93 (dk_at dksX13_read_9 2 rfl rfl)
theorem dX13_read_218 : decode cX13_read 218 = .ok (.iinc 5 1, 3) := dk_132 5 1 (dk_at dksX13_read_9 5 rfl rfl)
theorem dX13_read_221 : decode cX13_read 221 = .ok (.goto (-43), 3) := dk_167 255 213 (dk_at dksX13_read_9 8 rfl rfl)
theorem dX13_read_224 : decode cX13_read 224 = .ok (.iinc 3 1, 3) := dk_132 3 1 (dk_at dksX13_read_9 11 rfl rfl)
theorem dX13_read_227 : decode cX13_read 227 = .ok (.goto (-110), 3) := dk_167 255 146 (dk_at dksX13_read_9 14 rfl rfl)
theorem dX13_read_230 : decode cX13_read 230 = .ok (.aload_n 0, 1) := dk_42 (dk_at dksX13_read_9 17 rfl rfl)
theorem dX13_read_231 : decode cX13_read 231 = .ok (.invokevirtual 46, 3) := dk_182 0 46 (dk_at dksX13_read_9 18 rfl rfl)
theorem dX13_read_234 : decode cX13_read 234 = .ok (.iload_n 2, 1) := dk_28 (dk_at dksX13_read_9 21 rfl rfl)
theorem dX13_read_235 : decode cX13_read 235 = .ok (.ireturn, 1) := dk_172 (dk_at dksX13_read_9 22 rfl rfl)
abbrev cX13_clause : ByteArray := prog_22_method_28_code
def yX13_clause : MethodName := ⟨RX13, "clause", "(I)V"⟩
def dkwX13_clause_16 : List UInt8 := [177]
abbrev dktX13_clause_16 : List UInt8 := dkwX13_clause_16 ++ []
def dkwX13_clause_15 : List UInt8 := [7, 96, 42, 16, 64, 182, 0, 122, 153, 0, 14, 42, 5, 3, 16, 60, 182, 0, 125, 167, 0, 4, 3, 79]
abbrev dktX13_clause_15 : List UInt8 := dkwX13_clause_15 ++ dktX13_clause_16
def dkwX13_clause_14 : List UInt8 := [182, 0, 122, 153, 0, 14, 42, 4, 4, 16, 9, 182, 0, 125, 167, 0, 4, 6, 79, 42, 180, 0, 30, 27]
abbrev dktX13_clause_14 : List UInt8 := dkwX13_clause_14 ++ dktX13_clause_15
def dkwX13_clause_13 : List UInt8 := [46, 16, 99, 182, 0, 125, 167, 0, 5, 16, 40, 79, 42, 180, 0, 30, 27, 6, 96, 42, 16, 126]
abbrev dktX13_clause_13 : List UInt8 := dkwX13_clause_13 ++ dktX13_clause_14
def dkwX13_clause_12 : List UInt8 := [180, 0, 30, 27, 5, 96, 42, 16, 47, 182, 0, 122, 153, 0, 21, 42, 5, 42, 180, 0, 30, 27, 4, 96]
abbrev dktX13_clause_12 : List UInt8 := dkwX13_clause_12 ++ dktX13_clause_13
def dkwX13_clause_11 : List UInt8 := [96, 42, 16, 42, 182, 0, 122, 153, 0, 14, 42, 5, 4, 16, 20, 182, 0, 125, 167, 0, 4, 8, 79, 42]
abbrev dktX13_clause_11 : List UInt8 := dkwX13_clause_11 ++ dktX13_clause_12
def dkwX13_clause_10 : List UInt8 := [21, 4, 79, 132, 2, 1, 42, 180, 0, 30, 27, 8, 96, 28, 79, 167, 255, 78, 42, 180, 0, 30, 27, 4]
abbrev dktX13_clause_10 : List UInt8 := dkwX13_clause_10 ++ dktX13_clause_11
def dkwX13_clause_9 : List UInt8 := [167, 255, 222, 42, 89, 180, 0, 110, 4, 96, 181, 0, 110, 42, 180, 0, 30, 27, 16, 6, 96, 28, 96]
abbrev dktX13_clause_9 : List UInt8 := dkwX13_clause_9 ++ dktX13_clause_10
def dkwX13_clause_8 : List UInt8 := [27, 16, 6, 96, 21, 5, 96, 46, 21, 4, 160, 0, 11, 42, 42, 180, 0, 110, 182, 0, 115, 132, 5, 1]
abbrev dktX13_clause_8 : List UInt8 := dkwX13_clause_8 ++ dktX13_clause_9
def dkwX13_clause_7 : List UInt8 := [180, 0, 110, 46, 16, 49, 100, 104, 96, 54, 4, 3, 54, 5, 21, 5, 28, 162, 0, 34, 42, 180, 0, 30]
abbrev dktX13_clause_7 : List UInt8 := dkwX13_clause_7 ++ dktX13_clause_8
def dkwX13_clause_6 : List UInt8 := [182, 0, 112, 154, 0, 12, 42, 42, 180, 0, 110, 182, 0, 115, 177, 29, 16, 8, 42, 180, 0, 27, 42]
abbrev dktX13_clause_6 : List UInt8 := dkwX13_clause_6 ++ dktX13_clause_7
def dkwX13_clause_5 : List UInt8 := [180, 0, 110, 46, 16, 97, 100, 62, 42, 89, 180, 0, 110, 4, 96, 181, 0, 110, 42, 16, 49, 16, 56]
abbrev dktX13_clause_5 : List UInt8 := dkwX13_clause_5 ++ dktX13_clause_6
def dkwX13_clause_4 : List UInt8 := [16, 104, 182, 0, 112, 154, 0, 12, 42, 42, 180, 0, 110, 182, 0, 115, 177, 42, 180, 0, 27, 42]
abbrev dktX13_clause_4 : List UInt8 := dkwX13_clause_4 ++ dktX13_clause_5
def dkwX13_clause_3 : List UInt8 := [28, 153, 0, 20, 28, 16, 8, 162, 0, 174, 42, 16, 97, 16, 104, 182, 0, 112, 153, 0, 163, 42, 16, 97]
abbrev dktX13_clause_3 : List UInt8 := dkwX13_clause_3 ++ dktX13_clause_4
def dkwX13_clause_2 : List UInt8 := [156, 0, 12, 42, 42, 180, 0, 110, 182, 0, 115, 177, 42, 89, 180, 0, 110, 4, 96, 181, 0, 110, 3, 61]
abbrev dktX13_clause_2 : List UInt8 := dkwX13_clause_2 ++ dktX13_clause_3
def dkwX13_clause_1 : List UInt8 := [180, 0, 27, 42, 180, 0, 110, 46, 184, 0, 119, 167, 0, 4, 2, 79, 42, 180, 0, 30, 27, 46]
abbrev dktX13_clause_1 : List UInt8 := dkwX13_clause_1 ++ dktX13_clause_2
def dkwX13_clause_0 : List UInt8 := [42, 180, 0, 30, 27, 42, 180, 0, 107, 156, 0, 29, 42, 180, 0, 110, 42, 180, 0, 103, 162, 0, 18, 42]
abbrev dktX13_clause_0 : List UInt8 := dkwX13_clause_0 ++ dktX13_clause_1
theorem dksX13_clause_0 : cX13_clause.data.toList.drop 0 = dktX13_clause_0 := by decide +kernel
theorem dksX13_clause_1 : cX13_clause.data.toList.drop 24 = dktX13_clause_1 := dk_seg dksX13_clause_0 24 rfl rfl
theorem dksX13_clause_2 : cX13_clause.data.toList.drop 46 = dktX13_clause_2 := dk_seg dksX13_clause_1 22 rfl rfl
theorem dksX13_clause_3 : cX13_clause.data.toList.drop 70 = dktX13_clause_3 := dk_seg dksX13_clause_2 24 rfl rfl
theorem dksX13_clause_4 : cX13_clause.data.toList.drop 94 = dktX13_clause_4 := dk_seg dksX13_clause_3 24 rfl rfl
theorem dksX13_clause_5 : cX13_clause.data.toList.drop 116 = dktX13_clause_5 := dk_seg dksX13_clause_4 22 rfl rfl
theorem dksX13_clause_6 : cX13_clause.data.toList.drop 139 = dktX13_clause_6 := dk_seg dksX13_clause_5 23 rfl rfl
theorem dksX13_clause_7 : cX13_clause.data.toList.drop 162 = dktX13_clause_7 := dk_seg dksX13_clause_6 23 rfl rfl
theorem dksX13_clause_8 : cX13_clause.data.toList.drop 186 = dktX13_clause_8 := dk_seg dksX13_clause_7 24 rfl rfl
theorem dksX13_clause_9 : cX13_clause.data.toList.drop 210 = dktX13_clause_9 := dk_seg dksX13_clause_8 24 rfl rfl
theorem dksX13_clause_10 : cX13_clause.data.toList.drop 233 = dktX13_clause_10 := dk_seg dksX13_clause_9 23 rfl rfl
theorem dksX13_clause_11 : cX13_clause.data.toList.drop 257 = dktX13_clause_11 := dk_seg dksX13_clause_10 24 rfl rfl
theorem dksX13_clause_12 : cX13_clause.data.toList.drop 281 = dktX13_clause_12 := dk_seg dksX13_clause_11 24 rfl rfl
theorem dksX13_clause_13 : cX13_clause.data.toList.drop 305 = dktX13_clause_13 := dk_seg dksX13_clause_12 24 rfl rfl
theorem dksX13_clause_14 : cX13_clause.data.toList.drop 327 = dktX13_clause_14 := dk_seg dksX13_clause_13 22 rfl rfl
theorem dksX13_clause_15 : cX13_clause.data.toList.drop 351 = dktX13_clause_15 := dk_seg dksX13_clause_14 24 rfl rfl
theorem dksX13_clause_16 : cX13_clause.data.toList.drop 375 = dktX13_clause_16 := dk_seg dksX13_clause_15 24 rfl rfl
theorem dX13_clause_0 : decode cX13_clause 0 = .ok (.aload_n 0, 1) := dk_42 (dk_at dksX13_clause_0 0 rfl rfl)
theorem dX13_clause_1 : decode cX13_clause 1 = .ok (.getfield 30, 3) := dk_180 0 30 (dk_at dksX13_clause_0 1 rfl rfl)
theorem dX13_clause_4 : decode cX13_clause 4 = .ok (.iload_n 1, 1) := dk_27 (dk_at dksX13_clause_0 4 rfl rfl)
theorem dX13_clause_5 : decode cX13_clause 5 = .ok (.aload_n 0, 1) := dk_42 (dk_at dksX13_clause_0 5 rfl rfl)
theorem dX13_clause_6 : decode cX13_clause 6 = .ok (.getfield 107, 3) := dk_180 0 107 (dk_at dksX13_clause_0 6 rfl rfl)
theorem dX13_clause_9 : decode cX13_clause 9 = .ok (.ifCond .ge 29, 3) := dk_156 0 29 (dk_at dksX13_clause_0 9 rfl rfl)
theorem dX13_clause_12 : decode cX13_clause 12 = .ok (.aload_n 0, 1) := dk_42 (dk_at dksX13_clause_0 12 rfl rfl)
theorem dX13_clause_13 : decode cX13_clause 13 = .ok (.getfield 110, 3) := dk_180 0 110 (dk_at dksX13_clause_0 13 rfl rfl)
theorem dX13_clause_16 : decode cX13_clause 16 = .ok (.aload_n 0, 1) := dk_42 (dk_at dksX13_clause_0 16 rfl rfl)
theorem dX13_clause_17 : decode cX13_clause 17 = .ok (.getfield 103, 3) := dk_180 0 103 (dk_at dksX13_clause_0 17 rfl rfl)
theorem dX13_clause_20 : decode cX13_clause 20 = .ok (.if_icmp .ge 18, 3) := dk_162 0 18 (dk_at dksX13_clause_0 20 rfl rfl)
theorem dX13_clause_23 : decode cX13_clause 23 = .ok (.aload_n 0, 1) := dk_42 (dk_at dksX13_clause_0 23 rfl rfl)
theorem dX13_clause_24 : decode cX13_clause 24 = .ok (.getfield 27, 3) := dk_180 0 27 (dk_at dksX13_clause_1 0 rfl rfl)
theorem dX13_clause_27 : decode cX13_clause 27 = .ok (.aload_n 0, 1) := dk_42 (dk_at dksX13_clause_1 3 rfl rfl)
theorem dX13_clause_28 : decode cX13_clause 28 = .ok (.getfield 110, 3) := dk_180 0 110 (dk_at dksX13_clause_1 4 rfl rfl)
theorem dX13_clause_31 : decode cX13_clause 31 = .ok (.iaload, 1) := dk_46 (dk_at dksX13_clause_1 7 rfl rfl)
theorem dX13_clause_32 : decode cX13_clause 32 = .ok (.invokestatic 119, 3) := dk_184 0 119 (dk_at dksX13_clause_1 8 rfl rfl)
theorem dX13_clause_35 : decode cX13_clause 35 = .ok (.goto 4, 3) := dk_167 0 4 (dk_at dksX13_clause_1 11 rfl rfl)
theorem dX13_clause_38 : decode cX13_clause 38 = .ok (.iconst (-1), 1) := dk_2 (dk_at dksX13_clause_1 14 rfl rfl)
theorem dX13_clause_39 : decode cX13_clause 39 = .ok (.iastore, 1) := dk_79 (dk_at dksX13_clause_1 15 rfl rfl)
theorem dX13_clause_40 : decode cX13_clause 40 = .ok (.aload_n 0, 1) := dk_42 (dk_at dksX13_clause_1 16 rfl rfl)
theorem dX13_clause_41 : decode cX13_clause 41 = .ok (.getfield 30, 3) := dk_180 0 30 (dk_at dksX13_clause_1 17 rfl rfl)
theorem dX13_clause_44 : decode cX13_clause 44 = .ok (.iload_n 1, 1) := dk_27 (dk_at dksX13_clause_1 20 rfl rfl)
theorem dX13_clause_45 : decode cX13_clause 45 = .ok (.iaload, 1) := dk_46 (dk_at dksX13_clause_1 21 rfl rfl)
theorem dX13_clause_46 : decode cX13_clause 46 = .ok (.ifCond .ge 12, 3) := dk_156 0 12 (dk_at dksX13_clause_2 0 rfl rfl)
theorem dX13_clause_49 : decode cX13_clause 49 = .ok (.aload_n 0, 1) := dk_42 (dk_at dksX13_clause_2 3 rfl rfl)
theorem dX13_clause_50 : decode cX13_clause 50 = .ok (.aload_n 0, 1) := dk_42 (dk_at dksX13_clause_2 4 rfl rfl)
theorem dX13_clause_51 : decode cX13_clause 51 = .ok (.getfield 110, 3) := dk_180 0 110 (dk_at dksX13_clause_2 5 rfl rfl)
theorem dX13_clause_54 : decode cX13_clause 54 = .ok (.invokevirtual 115, 3) := dk_182 0 115 (dk_at dksX13_clause_2 8 rfl rfl)
theorem dX13_clause_57 : decode cX13_clause 57 = .ok (.return_, 1) := dk_177 (dk_at dksX13_clause_2 11 rfl rfl)
theorem dX13_clause_58 : decode cX13_clause 58 = .ok (.aload_n 0, 1) := dk_42 (dk_at dksX13_clause_2 12 rfl rfl)
theorem dX13_clause_59 : decode cX13_clause 59 = .ok (.dup, 1) := dk_89 (dk_at dksX13_clause_2 13 rfl rfl)
theorem dX13_clause_60 : decode cX13_clause 60 = .ok (.getfield 110, 3) := dk_180 0 110 (dk_at dksX13_clause_2 14 rfl rfl)
theorem dX13_clause_63 : decode cX13_clause 63 = .ok (.iconst 1, 1) := dk_4 (dk_at dksX13_clause_2 17 rfl rfl)
theorem dX13_clause_64 : decode cX13_clause 64 = .ok (.iadd, 1) := dk_96 (dk_at dksX13_clause_2 18 rfl rfl)
theorem dX13_clause_65 : decode cX13_clause 65 = .ok (.putfield 110, 3) := dk_181 0 110 (dk_at dksX13_clause_2 19 rfl rfl)
theorem dX13_clause_68 : decode cX13_clause 68 = .ok (.iconst 0, 1) := dk_3 (dk_at dksX13_clause_2 22 rfl rfl)
theorem dX13_clause_69 : decode cX13_clause 69 = .ok (.istore_n 2, 1) := dk_61 (dk_at dksX13_clause_2 23 rfl rfl)
theorem dX13_clause_70 : decode cX13_clause 70 = .ok (.iload_n 2, 1) := dk_28 (dk_at dksX13_clause_3 0 rfl rfl)
theorem dX13_clause_71 : decode cX13_clause 71 = .ok (.ifCond .eq 20, 3) := dk_153 0 20 (dk_at dksX13_clause_3 1 rfl rfl)
theorem dX13_clause_74 : decode cX13_clause 74 = .ok (.iload_n 2, 1) := dk_28 (dk_at dksX13_clause_3 4 rfl rfl)
theorem dX13_clause_75 : decode cX13_clause 75 = .ok (.bipush 8, 2) := dk_16 8 (dk_at dksX13_clause_3 5 rfl rfl)
theorem dX13_clause_77 : decode cX13_clause 77 = .ok (.if_icmp .ge 174, 3) := dk_162 0 174 (dk_at dksX13_clause_3 7 rfl rfl)
theorem dX13_clause_80 : decode cX13_clause 80 = .ok (.aload_n 0, 1) := dk_42 (dk_at dksX13_clause_3 10 rfl rfl)
theorem dX13_clause_81 : decode cX13_clause 81 = .ok (.bipush 97, 2) := dk_16 97 (dk_at dksX13_clause_3 11 rfl rfl)
theorem dX13_clause_83 : decode cX13_clause 83 = .ok (.bipush 104, 2) := dk_16 104 (dk_at dksX13_clause_3 13 rfl rfl)
theorem dX13_clause_85 : decode cX13_clause 85 = .ok (.invokevirtual 112, 3) := dk_182 0 112 (dk_at dksX13_clause_3 15 rfl rfl)
theorem dX13_clause_88 : decode cX13_clause 88 = .ok (.ifCond .eq 163, 3) := dk_153 0 163 (dk_at dksX13_clause_3 18 rfl rfl)
theorem dX13_clause_91 : decode cX13_clause 91 = .ok (.aload_n 0, 1) := dk_42 (dk_at dksX13_clause_3 21 rfl rfl)
theorem dX13_clause_92 : decode cX13_clause 92 = .ok (.bipush 97, 2) := dk_16 97 (dk_at dksX13_clause_3 22 rfl rfl)
theorem dX13_clause_94 : decode cX13_clause 94 = .ok (.bipush 104, 2) := dk_16 104 (dk_at dksX13_clause_4 0 rfl rfl)
theorem dX13_clause_96 : decode cX13_clause 96 = .ok (.invokevirtual 112, 3) := dk_182 0 112 (dk_at dksX13_clause_4 2 rfl rfl)
theorem dX13_clause_99 : decode cX13_clause 99 = .ok (.ifCond .ne 12, 3) := dk_154 0 12 (dk_at dksX13_clause_4 5 rfl rfl)
theorem dX13_clause_102 : decode cX13_clause 102 = .ok (.aload_n 0, 1) := dk_42 (dk_at dksX13_clause_4 8 rfl rfl)
theorem dX13_clause_103 : decode cX13_clause 103 = .ok (.aload_n 0, 1) := dk_42 (dk_at dksX13_clause_4 9 rfl rfl)
theorem dX13_clause_104 : decode cX13_clause 104 = .ok (.getfield 110, 3) := dk_180 0 110 (dk_at dksX13_clause_4 10 rfl rfl)
theorem dX13_clause_107 : decode cX13_clause 107 = .ok (.invokevirtual 115, 3) := dk_182 0 115 (dk_at dksX13_clause_4 13 rfl rfl)
theorem dX13_clause_110 : decode cX13_clause 110 = .ok (.return_, 1) := dk_177 (dk_at dksX13_clause_4 16 rfl rfl)
theorem dX13_clause_111 : decode cX13_clause 111 = .ok (.aload_n 0, 1) := dk_42 (dk_at dksX13_clause_4 17 rfl rfl)
theorem dX13_clause_112 : decode cX13_clause 112 = .ok (.getfield 27, 3) := dk_180 0 27 (dk_at dksX13_clause_4 18 rfl rfl)
theorem dX13_clause_115 : decode cX13_clause 115 = .ok (.aload_n 0, 1) := dk_42 (dk_at dksX13_clause_4 21 rfl rfl)
theorem dX13_clause_116 : decode cX13_clause 116 = .ok (.getfield 110, 3) := dk_180 0 110 (dk_at dksX13_clause_5 0 rfl rfl)
theorem dX13_clause_119 : decode cX13_clause 119 = .ok (.iaload, 1) := dk_46 (dk_at dksX13_clause_5 3 rfl rfl)
theorem dX13_clause_120 : decode cX13_clause 120 = .ok (.bipush 97, 2) := dk_16 97 (dk_at dksX13_clause_5 4 rfl rfl)
theorem dX13_clause_122 : decode cX13_clause 122 = .ok (.isub, 1) := dk_100 (dk_at dksX13_clause_5 6 rfl rfl)
theorem dX13_clause_123 : decode cX13_clause 123 = .ok (.istore_n 3, 1) := dk_62 (dk_at dksX13_clause_5 7 rfl rfl)
theorem dX13_clause_124 : decode cX13_clause 124 = .ok (.aload_n 0, 1) := dk_42 (dk_at dksX13_clause_5 8 rfl rfl)
theorem dX13_clause_125 : decode cX13_clause 125 = .ok (.dup, 1) := dk_89 (dk_at dksX13_clause_5 9 rfl rfl)
theorem dX13_clause_126 : decode cX13_clause 126 = .ok (.getfield 110, 3) := dk_180 0 110 (dk_at dksX13_clause_5 10 rfl rfl)
theorem dX13_clause_129 : decode cX13_clause 129 = .ok (.iconst 1, 1) := dk_4 (dk_at dksX13_clause_5 13 rfl rfl)
theorem dX13_clause_130 : decode cX13_clause 130 = .ok (.iadd, 1) := dk_96 (dk_at dksX13_clause_5 14 rfl rfl)
theorem dX13_clause_131 : decode cX13_clause 131 = .ok (.putfield 110, 3) := dk_181 0 110 (dk_at dksX13_clause_5 15 rfl rfl)
theorem dX13_clause_134 : decode cX13_clause 134 = .ok (.aload_n 0, 1) := dk_42 (dk_at dksX13_clause_5 18 rfl rfl)
theorem dX13_clause_135 : decode cX13_clause 135 = .ok (.bipush 49, 2) := dk_16 49 (dk_at dksX13_clause_5 19 rfl rfl)
theorem dX13_clause_137 : decode cX13_clause 137 = .ok (.bipush 56, 2) := dk_16 56 (dk_at dksX13_clause_5 21 rfl rfl)
theorem dX13_clause_139 : decode cX13_clause 139 = .ok (.invokevirtual 112, 3) := dk_182 0 112 (dk_at dksX13_clause_6 0 rfl rfl)
theorem dX13_clause_142 : decode cX13_clause 142 = .ok (.ifCond .ne 12, 3) := dk_154 0 12 (dk_at dksX13_clause_6 3 rfl rfl)
theorem dX13_clause_145 : decode cX13_clause 145 = .ok (.aload_n 0, 1) := dk_42 (dk_at dksX13_clause_6 6 rfl rfl)
theorem dX13_clause_146 : decode cX13_clause 146 = .ok (.aload_n 0, 1) := dk_42 (dk_at dksX13_clause_6 7 rfl rfl)
theorem dX13_clause_147 : decode cX13_clause 147 = .ok (.getfield 110, 3) := dk_180 0 110 (dk_at dksX13_clause_6 8 rfl rfl)
theorem dX13_clause_150 : decode cX13_clause 150 = .ok (.invokevirtual 115, 3) := dk_182 0 115 (dk_at dksX13_clause_6 11 rfl rfl)
theorem dX13_clause_153 : decode cX13_clause 153 = .ok (.return_, 1) := dk_177 (dk_at dksX13_clause_6 14 rfl rfl)
theorem dX13_clause_154 : decode cX13_clause 154 = .ok (.iload_n 3, 1) := dk_29 (dk_at dksX13_clause_6 15 rfl rfl)
theorem dX13_clause_155 : decode cX13_clause 155 = .ok (.bipush 8, 2) := dk_16 8 (dk_at dksX13_clause_6 16 rfl rfl)
theorem dX13_clause_157 : decode cX13_clause 157 = .ok (.aload_n 0, 1) := dk_42 (dk_at dksX13_clause_6 18 rfl rfl)
theorem dX13_clause_158 : decode cX13_clause 158 = .ok (.getfield 27, 3) := dk_180 0 27 (dk_at dksX13_clause_6 19 rfl rfl)
theorem dX13_clause_161 : decode cX13_clause 161 = .ok (.aload_n 0, 1) := dk_42 (dk_at dksX13_clause_6 22 rfl rfl)
theorem dX13_clause_162 : decode cX13_clause 162 = .ok (.getfield 110, 3) := dk_180 0 110 (dk_at dksX13_clause_7 0 rfl rfl)
theorem dX13_clause_165 : decode cX13_clause 165 = .ok (.iaload, 1) := dk_46 (dk_at dksX13_clause_7 3 rfl rfl)
theorem dX13_clause_166 : decode cX13_clause 166 = .ok (.bipush 49, 2) := dk_16 49 (dk_at dksX13_clause_7 4 rfl rfl)
theorem dX13_clause_168 : decode cX13_clause 168 = .ok (.isub, 1) := dk_100 (dk_at dksX13_clause_7 6 rfl rfl)
theorem dX13_clause_169 : decode cX13_clause 169 = .ok (.imul, 1) := dk_104 (dk_at dksX13_clause_7 7 rfl rfl)
theorem dX13_clause_170 : decode cX13_clause 170 = .ok (.iadd, 1) := dk_96 (dk_at dksX13_clause_7 8 rfl rfl)
theorem dX13_clause_171 : decode cX13_clause 171 = .ok (.istore 4, 2) := dk_54 4 (dk_at dksX13_clause_7 9 rfl rfl)
theorem dX13_clause_173 : decode cX13_clause 173 = .ok (.iconst 0, 1) := dk_3 (dk_at dksX13_clause_7 11 rfl rfl)
theorem dX13_clause_174 : decode cX13_clause 174 = .ok (.istore 5, 2) := dk_54 5 (dk_at dksX13_clause_7 12 rfl rfl)
theorem dX13_clause_176 : decode cX13_clause 176 = .ok (.iload 5, 2) := dk_21 5 (dk_at dksX13_clause_7 14 rfl rfl)
theorem dX13_clause_178 : decode cX13_clause 178 = .ok (.iload_n 2, 1) := dk_28 (dk_at dksX13_clause_7 16 rfl rfl)
theorem dX13_clause_179 : decode cX13_clause 179 = .ok (.if_icmp .ge 34, 3) := dk_162 0 34 (dk_at dksX13_clause_7 17 rfl rfl)
theorem dX13_clause_182 : decode cX13_clause 182 = .ok (.aload_n 0, 1) := dk_42 (dk_at dksX13_clause_7 20 rfl rfl)
theorem dX13_clause_183 : decode cX13_clause 183 = .ok (.getfield 30, 3) := dk_180 0 30 (dk_at dksX13_clause_7 21 rfl rfl)
theorem dX13_clause_186 : decode cX13_clause 186 = .ok (.iload_n 1, 1) := dk_27 (dk_at dksX13_clause_8 0 rfl rfl)
theorem dX13_clause_187 : decode cX13_clause 187 = .ok (.bipush 6, 2) := dk_16 6 (dk_at dksX13_clause_8 1 rfl rfl)
theorem dX13_clause_189 : decode cX13_clause 189 = .ok (.iadd, 1) := dk_96 (dk_at dksX13_clause_8 3 rfl rfl)
theorem dX13_clause_190 : decode cX13_clause 190 = .ok (.iload 5, 2) := dk_21 5 (dk_at dksX13_clause_8 4 rfl rfl)
theorem dX13_clause_192 : decode cX13_clause 192 = .ok (.iadd, 1) := dk_96 (dk_at dksX13_clause_8 6 rfl rfl)
theorem dX13_clause_193 : decode cX13_clause 193 = .ok (.iaload, 1) := dk_46 (dk_at dksX13_clause_8 7 rfl rfl)
theorem dX13_clause_194 : decode cX13_clause 194 = .ok (.iload 4, 2) := dk_21 4 (dk_at dksX13_clause_8 8 rfl rfl)
theorem dX13_clause_196 : decode cX13_clause 196 = .ok (.if_icmp .ne 11, 3) := dk_160 0 11 (dk_at dksX13_clause_8 10 rfl rfl)
theorem dX13_clause_199 : decode cX13_clause 199 = .ok (.aload_n 0, 1) := dk_42 (dk_at dksX13_clause_8 13 rfl rfl)
theorem dX13_clause_200 : decode cX13_clause 200 = .ok (.aload_n 0, 1) := dk_42 (dk_at dksX13_clause_8 14 rfl rfl)
theorem dX13_clause_201 : decode cX13_clause 201 = .ok (.getfield 110, 3) := dk_180 0 110 (dk_at dksX13_clause_8 15 rfl rfl)
theorem dX13_clause_204 : decode cX13_clause 204 = .ok (.invokevirtual 115, 3) := dk_182 0 115 (dk_at dksX13_clause_8 18 rfl rfl)
theorem dX13_clause_207 : decode cX13_clause 207 = .ok (.iinc 5 1, 3) := dk_132 5 1 (dk_at dksX13_clause_8 21 rfl rfl)
theorem dX13_clause_210 : decode cX13_clause 210 = .ok (.goto (-34), 3) := dk_167 255 222 (dk_at dksX13_clause_9 0 rfl rfl)
theorem dX13_clause_213 : decode cX13_clause 213 = .ok (.aload_n 0, 1) := dk_42 (dk_at dksX13_clause_9 3 rfl rfl)
theorem dX13_clause_214 : decode cX13_clause 214 = .ok (.dup, 1) := dk_89 (dk_at dksX13_clause_9 4 rfl rfl)
theorem dX13_clause_215 : decode cX13_clause 215 = .ok (.getfield 110, 3) := dk_180 0 110 (dk_at dksX13_clause_9 5 rfl rfl)
theorem dX13_clause_218 : decode cX13_clause 218 = .ok (.iconst 1, 1) := dk_4 (dk_at dksX13_clause_9 8 rfl rfl)
theorem dX13_clause_219 : decode cX13_clause 219 = .ok (.iadd, 1) := dk_96 (dk_at dksX13_clause_9 9 rfl rfl)
theorem dX13_clause_220 : decode cX13_clause 220 = .ok (.putfield 110, 3) := dk_181 0 110 (dk_at dksX13_clause_9 10 rfl rfl)
theorem dX13_clause_223 : decode cX13_clause 223 = .ok (.aload_n 0, 1) := dk_42 (dk_at dksX13_clause_9 13 rfl rfl)
theorem dX13_clause_224 : decode cX13_clause 224 = .ok (.getfield 30, 3) := dk_180 0 30 (dk_at dksX13_clause_9 14 rfl rfl)
theorem dX13_clause_227 : decode cX13_clause 227 = .ok (.iload_n 1, 1) := dk_27 (dk_at dksX13_clause_9 17 rfl rfl)
theorem dX13_clause_228 : decode cX13_clause 228 = .ok (.bipush 6, 2) := dk_16 6 (dk_at dksX13_clause_9 18 rfl rfl)
theorem dX13_clause_230 : decode cX13_clause 230 = .ok (.iadd, 1) := dk_96 (dk_at dksX13_clause_9 20 rfl rfl)
theorem dX13_clause_231 : decode cX13_clause 231 = .ok (.iload_n 2, 1) := dk_28 (dk_at dksX13_clause_9 21 rfl rfl)
theorem dX13_clause_232 : decode cX13_clause 232 = .ok (.iadd, 1) := dk_96 (dk_at dksX13_clause_9 22 rfl rfl)
theorem dX13_clause_233 : decode cX13_clause 233 = .ok (.iload 4, 2) := dk_21 4 (dk_at dksX13_clause_10 0 rfl rfl)
theorem dX13_clause_235 : decode cX13_clause 235 = .ok (.iastore, 1) := dk_79 (dk_at dksX13_clause_10 2 rfl rfl)
theorem dX13_clause_236 : decode cX13_clause 236 = .ok (.iinc 2 1, 3) := dk_132 2 1 (dk_at dksX13_clause_10 3 rfl rfl)
theorem dX13_clause_239 : decode cX13_clause 239 = .ok (.aload_n 0, 1) := dk_42 (dk_at dksX13_clause_10 6 rfl rfl)
theorem dX13_clause_240 : decode cX13_clause 240 = .ok (.getfield 30, 3) := dk_180 0 30 (dk_at dksX13_clause_10 7 rfl rfl)
theorem dX13_clause_243 : decode cX13_clause 243 = .ok (.iload_n 1, 1) := dk_27 (dk_at dksX13_clause_10 10 rfl rfl)
theorem dX13_clause_244 : decode cX13_clause 244 = .ok (.iconst 5, 1) := dk_8 (dk_at dksX13_clause_10 11 rfl rfl)
theorem dX13_clause_245 : decode cX13_clause 245 = .ok (.iadd, 1) := dk_96 (dk_at dksX13_clause_10 12 rfl rfl)
theorem dX13_clause_246 : decode cX13_clause 246 = .ok (.iload_n 2, 1) := dk_28 (dk_at dksX13_clause_10 13 rfl rfl)
theorem dX13_clause_247 : decode cX13_clause 247 = .ok (.iastore, 1) := dk_79 (dk_at dksX13_clause_10 14 rfl rfl)
theorem dX13_clause_248 : decode cX13_clause 248 = .ok (.goto (-178), 3) := dk_167 255 78 (dk_at dksX13_clause_10 15 rfl rfl)
theorem dX13_clause_251 : decode cX13_clause 251 = .ok (.aload_n 0, 1) := dk_42 (dk_at dksX13_clause_10 18 rfl rfl)
theorem dX13_clause_252 : decode cX13_clause 252 = .ok (.getfield 30, 3) := dk_180 0 30 (dk_at dksX13_clause_10 19 rfl rfl)
theorem dX13_clause_255 : decode cX13_clause 255 = .ok (.iload_n 1, 1) := dk_27 (dk_at dksX13_clause_10 22 rfl rfl)
theorem dX13_clause_256 : decode cX13_clause 256 = .ok (.iconst 1, 1) := dk_4 (dk_at dksX13_clause_10 23 rfl rfl)
theorem dX13_clause_257 : decode cX13_clause 257 = .ok (.iadd, 1) := dk_96 (dk_at dksX13_clause_11 0 rfl rfl)
theorem dX13_clause_258 : decode cX13_clause 258 = .ok (.aload_n 0, 1) := dk_42 (dk_at dksX13_clause_11 1 rfl rfl)
theorem dX13_clause_259 : decode cX13_clause 259 = .ok (.bipush 42, 2) := dk_16 42 (dk_at dksX13_clause_11 2 rfl rfl)
theorem dX13_clause_261 : decode cX13_clause 261 = .ok (.invokevirtual 122, 3) := dk_182 0 122 (dk_at dksX13_clause_11 4 rfl rfl)
theorem dX13_clause_264 : decode cX13_clause 264 = .ok (.ifCond .eq 14, 3) := dk_153 0 14 (dk_at dksX13_clause_11 7 rfl rfl)
theorem dX13_clause_267 : decode cX13_clause 267 = .ok (.aload_n 0, 1) := dk_42 (dk_at dksX13_clause_11 10 rfl rfl)
theorem dX13_clause_268 : decode cX13_clause 268 = .ok (.iconst 2, 1) := dk_5 (dk_at dksX13_clause_11 11 rfl rfl)
theorem dX13_clause_269 : decode cX13_clause 269 = .ok (.iconst 1, 1) := dk_4 (dk_at dksX13_clause_11 12 rfl rfl)
theorem dX13_clause_270 : decode cX13_clause 270 = .ok (.bipush 20, 2) := dk_16 20 (dk_at dksX13_clause_11 13 rfl rfl)
theorem dX13_clause_272 : decode cX13_clause 272 = .ok (.invokevirtual 125, 3) := dk_182 0 125 (dk_at dksX13_clause_11 15 rfl rfl)
theorem dX13_clause_275 : decode cX13_clause 275 = .ok (.goto 4, 3) := dk_167 0 4 (dk_at dksX13_clause_11 18 rfl rfl)
theorem dX13_clause_278 : decode cX13_clause 278 = .ok (.iconst 5, 1) := dk_8 (dk_at dksX13_clause_11 21 rfl rfl)
theorem dX13_clause_279 : decode cX13_clause 279 = .ok (.iastore, 1) := dk_79 (dk_at dksX13_clause_11 22 rfl rfl)
theorem dX13_clause_280 : decode cX13_clause 280 = .ok (.aload_n 0, 1) := dk_42 (dk_at dksX13_clause_11 23 rfl rfl)
theorem dX13_clause_281 : decode cX13_clause 281 = .ok (.getfield 30, 3) := dk_180 0 30 (dk_at dksX13_clause_12 0 rfl rfl)
theorem dX13_clause_284 : decode cX13_clause 284 = .ok (.iload_n 1, 1) := dk_27 (dk_at dksX13_clause_12 3 rfl rfl)
theorem dX13_clause_285 : decode cX13_clause 285 = .ok (.iconst 2, 1) := dk_5 (dk_at dksX13_clause_12 4 rfl rfl)
theorem dX13_clause_286 : decode cX13_clause 286 = .ok (.iadd, 1) := dk_96 (dk_at dksX13_clause_12 5 rfl rfl)
theorem dX13_clause_287 : decode cX13_clause 287 = .ok (.aload_n 0, 1) := dk_42 (dk_at dksX13_clause_12 6 rfl rfl)
theorem dX13_clause_288 : decode cX13_clause 288 = .ok (.bipush 47, 2) := dk_16 47 (dk_at dksX13_clause_12 7 rfl rfl)
theorem dX13_clause_290 : decode cX13_clause 290 = .ok (.invokevirtual 122, 3) := dk_182 0 122 (dk_at dksX13_clause_12 9 rfl rfl)
theorem dX13_clause_293 : decode cX13_clause 293 = .ok (.ifCond .eq 21, 3) := dk_153 0 21 (dk_at dksX13_clause_12 12 rfl rfl)
theorem dX13_clause_296 : decode cX13_clause 296 = .ok (.aload_n 0, 1) := dk_42 (dk_at dksX13_clause_12 15 rfl rfl)
theorem dX13_clause_297 : decode cX13_clause 297 = .ok (.iconst 2, 1) := dk_5 (dk_at dksX13_clause_12 16 rfl rfl)
theorem dX13_clause_298 : decode cX13_clause 298 = .ok (.aload_n 0, 1) := dk_42 (dk_at dksX13_clause_12 17 rfl rfl)
theorem dX13_clause_299 : decode cX13_clause 299 = .ok (.getfield 30, 3) := dk_180 0 30 (dk_at dksX13_clause_12 18 rfl rfl)
theorem dX13_clause_302 : decode cX13_clause 302 = .ok (.iload_n 1, 1) := dk_27 (dk_at dksX13_clause_12 21 rfl rfl)
theorem dX13_clause_303 : decode cX13_clause 303 = .ok (.iconst 1, 1) := dk_4 (dk_at dksX13_clause_12 22 rfl rfl)
theorem dX13_clause_304 : decode cX13_clause 304 = .ok (.iadd, 1) := dk_96 (dk_at dksX13_clause_12 23 rfl rfl)
theorem dX13_clause_305 : decode cX13_clause 305 = .ok (.iaload, 1) := dk_46 (dk_at dksX13_clause_13 0 rfl rfl)
theorem dX13_clause_306 : decode cX13_clause 306 = .ok (.bipush 99, 2) := dk_16 99 (dk_at dksX13_clause_13 1 rfl rfl)
theorem dX13_clause_308 : decode cX13_clause 308 = .ok (.invokevirtual 125, 3) := dk_182 0 125 (dk_at dksX13_clause_13 3 rfl rfl)
theorem dX13_clause_311 : decode cX13_clause 311 = .ok (.goto 5, 3) := dk_167 0 5 (dk_at dksX13_clause_13 6 rfl rfl)
theorem dX13_clause_314 : decode cX13_clause 314 = .ok (.bipush 40, 2) := dk_16 40 (dk_at dksX13_clause_13 9 rfl rfl)
theorem dX13_clause_316 : decode cX13_clause 316 = .ok (.iastore, 1) := dk_79 (dk_at dksX13_clause_13 11 rfl rfl)
theorem dX13_clause_317 : decode cX13_clause 317 = .ok (.aload_n 0, 1) := dk_42 (dk_at dksX13_clause_13 12 rfl rfl)
theorem dX13_clause_318 : decode cX13_clause 318 = .ok (.getfield 30, 3) := dk_180 0 30 (dk_at dksX13_clause_13 13 rfl rfl)
theorem dX13_clause_321 : decode cX13_clause 321 = .ok (.iload_n 1, 1) := dk_27 (dk_at dksX13_clause_13 16 rfl rfl)
theorem dX13_clause_322 : decode cX13_clause 322 = .ok (.iconst 3, 1) := dk_6 (dk_at dksX13_clause_13 17 rfl rfl)
theorem dX13_clause_323 : decode cX13_clause 323 = .ok (.iadd, 1) := dk_96 (dk_at dksX13_clause_13 18 rfl rfl)
theorem dX13_clause_324 : decode cX13_clause 324 = .ok (.aload_n 0, 1) := dk_42 (dk_at dksX13_clause_13 19 rfl rfl)
theorem dX13_clause_325 : decode cX13_clause 325 = .ok (.bipush 126, 2) := dk_16 126 (dk_at dksX13_clause_13 20 rfl rfl)
theorem dX13_clause_327 : decode cX13_clause 327 = .ok (.invokevirtual 122, 3) := dk_182 0 122 (dk_at dksX13_clause_14 0 rfl rfl)
theorem dX13_clause_330 : decode cX13_clause 330 = .ok (.ifCond .eq 14, 3) := dk_153 0 14 (dk_at dksX13_clause_14 3 rfl rfl)
theorem dX13_clause_333 : decode cX13_clause 333 = .ok (.aload_n 0, 1) := dk_42 (dk_at dksX13_clause_14 6 rfl rfl)
theorem dX13_clause_334 : decode cX13_clause 334 = .ok (.iconst 1, 1) := dk_4 (dk_at dksX13_clause_14 7 rfl rfl)
theorem dX13_clause_335 : decode cX13_clause 335 = .ok (.iconst 1, 1) := dk_4 (dk_at dksX13_clause_14 8 rfl rfl)
theorem dX13_clause_336 : decode cX13_clause 336 = .ok (.bipush 9, 2) := dk_16 9 (dk_at dksX13_clause_14 9 rfl rfl)
theorem dX13_clause_338 : decode cX13_clause 338 = .ok (.invokevirtual 125, 3) := dk_182 0 125 (dk_at dksX13_clause_14 11 rfl rfl)
theorem dX13_clause_341 : decode cX13_clause 341 = .ok (.goto 4, 3) := dk_167 0 4 (dk_at dksX13_clause_14 14 rfl rfl)
theorem dX13_clause_344 : decode cX13_clause 344 = .ok (.iconst 3, 1) := dk_6 (dk_at dksX13_clause_14 17 rfl rfl)
theorem dX13_clause_345 : decode cX13_clause 345 = .ok (.iastore, 1) := dk_79 (dk_at dksX13_clause_14 18 rfl rfl)
theorem dX13_clause_346 : decode cX13_clause 346 = .ok (.aload_n 0, 1) := dk_42 (dk_at dksX13_clause_14 19 rfl rfl)
theorem dX13_clause_347 : decode cX13_clause 347 = .ok (.getfield 30, 3) := dk_180 0 30 (dk_at dksX13_clause_14 20 rfl rfl)
theorem dX13_clause_350 : decode cX13_clause 350 = .ok (.iload_n 1, 1) := dk_27 (dk_at dksX13_clause_14 23 rfl rfl)
theorem dX13_clause_351 : decode cX13_clause 351 = .ok (.iconst 4, 1) := dk_7 (dk_at dksX13_clause_15 0 rfl rfl)
theorem dX13_clause_352 : decode cX13_clause 352 = .ok (.iadd, 1) := dk_96 (dk_at dksX13_clause_15 1 rfl rfl)
theorem dX13_clause_353 : decode cX13_clause 353 = .ok (.aload_n 0, 1) := dk_42 (dk_at dksX13_clause_15 2 rfl rfl)
theorem dX13_clause_354 : decode cX13_clause 354 = .ok (.bipush 64, 2) := dk_16 64 (dk_at dksX13_clause_15 3 rfl rfl)
theorem dX13_clause_356 : decode cX13_clause 356 = .ok (.invokevirtual 122, 3) := dk_182 0 122 (dk_at dksX13_clause_15 5 rfl rfl)
theorem dX13_clause_359 : decode cX13_clause 359 = .ok (.ifCond .eq 14, 3) := dk_153 0 14 (dk_at dksX13_clause_15 8 rfl rfl)
theorem dX13_clause_362 : decode cX13_clause 362 = .ok (.aload_n 0, 1) := dk_42 (dk_at dksX13_clause_15 11 rfl rfl)
theorem dX13_clause_363 : decode cX13_clause 363 = .ok (.iconst 2, 1) := dk_5 (dk_at dksX13_clause_15 12 rfl rfl)
theorem dX13_clause_364 : decode cX13_clause 364 = .ok (.iconst 0, 1) := dk_3 (dk_at dksX13_clause_15 13 rfl rfl)
theorem dX13_clause_365 : decode cX13_clause 365 = .ok (.bipush 60, 2) := dk_16 60 (dk_at dksX13_clause_15 14 rfl rfl)
theorem dX13_clause_367 : decode cX13_clause 367 = .ok (.invokevirtual 125, 3) := dk_182 0 125 (dk_at dksX13_clause_15 16 rfl rfl)
theorem dX13_clause_370 : decode cX13_clause 370 = .ok (.goto 4, 3) := dk_167 0 4 (dk_at dksX13_clause_15 19 rfl rfl)
theorem dX13_clause_373 : decode cX13_clause 373 = .ok (.iconst 0, 1) := dk_3 (dk_at dksX13_clause_15 22 rfl rfl)
theorem dX13_clause_374 : decode cX13_clause 374 = .ok (.iastore, 1) := dk_79 (dk_at dksX13_clause_15 23 rfl rfl)
theorem dX13_clause_375 : decode cX13_clause 375 = .ok (.return_, 1) := dk_177 (dk_at dksX13_clause_16 0 rfl rfl)
abbrev cX13_kindOf : ByteArray := prog_22_method_27_code
def yX13_kindOf : MethodName := ⟨RX13, "kindOf", "(I)I"⟩
def dkwX13_kindOf_1 : List UInt8 := [160, 0, 7, 5, 167, 0, 14, 26, 16, 98, 160, 0, 7, 6, 167, 0, 4, 2, 172]
abbrev dktX13_kindOf_1 : List UInt8 := dkwX13_kindOf_1 ++ []
def dkwX13_kindOf_0 : List UInt8 := [26, 16, 99, 160, 0, 7, 3, 167, 0, 34, 26, 16, 119, 160, 0, 7, 4, 167, 0, 24, 26, 16, 116]
abbrev dktX13_kindOf_0 : List UInt8 := dkwX13_kindOf_0 ++ dktX13_kindOf_1
theorem dksX13_kindOf_0 : cX13_kindOf.data.toList.drop 0 = dktX13_kindOf_0 := by decide +kernel
theorem dksX13_kindOf_1 : cX13_kindOf.data.toList.drop 23 = dktX13_kindOf_1 := dk_seg dksX13_kindOf_0 23 rfl rfl
theorem dX13_kindOf_0 : decode cX13_kindOf 0 = .ok (.iload_n 0, 1) := dk_26 (dk_at dksX13_kindOf_0 0 rfl rfl)
theorem dX13_kindOf_1 : decode cX13_kindOf 1 = .ok (.bipush 99, 2) := dk_16 99 (dk_at dksX13_kindOf_0 1 rfl rfl)
theorem dX13_kindOf_3 : decode cX13_kindOf 3 = .ok (.if_icmp .ne 7, 3) := dk_160 0 7 (dk_at dksX13_kindOf_0 3 rfl rfl)
theorem dX13_kindOf_6 : decode cX13_kindOf 6 = .ok (.iconst 0, 1) := dk_3 (dk_at dksX13_kindOf_0 6 rfl rfl)
theorem dX13_kindOf_7 : decode cX13_kindOf 7 = .ok (.goto 34, 3) := dk_167 0 34 (dk_at dksX13_kindOf_0 7 rfl rfl)
theorem dX13_kindOf_10 : decode cX13_kindOf 10 = .ok (.iload_n 0, 1) := dk_26 (dk_at dksX13_kindOf_0 10 rfl rfl)
theorem dX13_kindOf_11 : decode cX13_kindOf 11 = .ok (.bipush 119, 2) := dk_16 119 (dk_at dksX13_kindOf_0 11 rfl rfl)
theorem dX13_kindOf_13 : decode cX13_kindOf 13 = .ok (.if_icmp .ne 7, 3) := dk_160 0 7 (dk_at dksX13_kindOf_0 13 rfl rfl)
theorem dX13_kindOf_16 : decode cX13_kindOf 16 = .ok (.iconst 1, 1) := dk_4 (dk_at dksX13_kindOf_0 16 rfl rfl)
theorem dX13_kindOf_17 : decode cX13_kindOf 17 = .ok (.goto 24, 3) := dk_167 0 24 (dk_at dksX13_kindOf_0 17 rfl rfl)
theorem dX13_kindOf_20 : decode cX13_kindOf 20 = .ok (.iload_n 0, 1) := dk_26 (dk_at dksX13_kindOf_0 20 rfl rfl)
theorem dX13_kindOf_21 : decode cX13_kindOf 21 = .ok (.bipush 116, 2) := dk_16 116 (dk_at dksX13_kindOf_0 21 rfl rfl)
theorem dX13_kindOf_23 : decode cX13_kindOf 23 = .ok (.if_icmp .ne 7, 3) := dk_160 0 7 (dk_at dksX13_kindOf_1 0 rfl rfl)
theorem dX13_kindOf_26 : decode cX13_kindOf 26 = .ok (.iconst 2, 1) := dk_5 (dk_at dksX13_kindOf_1 3 rfl rfl)
theorem dX13_kindOf_27 : decode cX13_kindOf 27 = .ok (.goto 14, 3) := dk_167 0 14 (dk_at dksX13_kindOf_1 4 rfl rfl)
theorem dX13_kindOf_30 : decode cX13_kindOf 30 = .ok (.iload_n 0, 1) := dk_26 (dk_at dksX13_kindOf_1 7 rfl rfl)
theorem dX13_kindOf_31 : decode cX13_kindOf 31 = .ok (.bipush 98, 2) := dk_16 98 (dk_at dksX13_kindOf_1 8 rfl rfl)
theorem dX13_kindOf_33 : decode cX13_kindOf 33 = .ok (.if_icmp .ne 7, 3) := dk_160 0 7 (dk_at dksX13_kindOf_1 10 rfl rfl)
theorem dX13_kindOf_36 : decode cX13_kindOf 36 = .ok (.iconst 3, 1) := dk_6 (dk_at dksX13_kindOf_1 13 rfl rfl)
theorem dX13_kindOf_37 : decode cX13_kindOf 37 = .ok (.goto 4, 3) := dk_167 0 4 (dk_at dksX13_kindOf_1 14 rfl rfl)
theorem dX13_kindOf_40 : decode cX13_kindOf 40 = .ok (.iconst (-1), 1) := dk_2 (dk_at dksX13_kindOf_1 17 rfl rfl)
theorem dX13_kindOf_41 : decode cX13_kindOf 41 = .ok (.ireturn, 1) := dk_172 (dk_at dksX13_kindOf_1 18 rfl rfl)
abbrev cX13_fails : ByteArray := prog_22_method_23_code
def yX13_fails : MethodName := ⟨RX13, "fails", "(I)V"⟩
def dkwX13_fails_0 : List UInt8 := [42, 180, 0, 107, 156, 0, 8, 42, 27, 181, 0, 107, 177]
abbrev dktX13_fails_0 : List UInt8 := dkwX13_fails_0 ++ []
theorem dksX13_fails_0 : cX13_fails.data.toList.drop 0 = dktX13_fails_0 := by decide +kernel
theorem dX13_fails_0 : decode cX13_fails 0 = .ok (.aload_n 0, 1) := dk_42 (dk_at dksX13_fails_0 0 rfl rfl)
theorem dX13_fails_1 : decode cX13_fails 1 = .ok (.getfield 107, 3) := dk_180 0 107 (dk_at dksX13_fails_0 1 rfl rfl)
theorem dX13_fails_4 : decode cX13_fails 4 = .ok (.ifCond .ge 8, 3) := dk_156 0 8 (dk_at dksX13_fails_0 4 rfl rfl)
theorem dX13_fails_7 : decode cX13_fails 7 = .ok (.aload_n 0, 1) := dk_42 (dk_at dksX13_fails_0 7 rfl rfl)
theorem dX13_fails_8 : decode cX13_fails 8 = .ok (.iload_n 1, 1) := dk_27 (dk_at dksX13_fails_0 8 rfl rfl)
theorem dX13_fails_9 : decode cX13_fails 9 = .ok (.putfield 107, 3) := dk_181 0 107 (dk_at dksX13_fails_0 9 rfl rfl)
theorem dX13_fails_12 : decode cX13_fails 12 = .ok (.return_, 1) := dk_177 (dk_at dksX13_fails_0 12 rfl rfl)
abbrev cX13_sees : ByteArray := prog_22_method_25_code
def yX13_sees : MethodName := ⟨RX13, "sees", "(II)Z"⟩
def dkwX13_sees_1 : List UInt8 := [180, 0, 110, 46, 27, 28, 184, 0, 49, 153, 0, 7, 4, 167, 0, 4, 3, 172]
abbrev dktX13_sees_1 : List UInt8 := dkwX13_sees_1 ++ []
def dkwX13_sees_0 : List UInt8 := [42, 180, 0, 107, 156, 0, 35, 42, 180, 0, 110, 42, 180, 0, 103, 162, 0, 24, 42, 180, 0, 27, 42]
abbrev dktX13_sees_0 : List UInt8 := dkwX13_sees_0 ++ dktX13_sees_1
theorem dksX13_sees_0 : cX13_sees.data.toList.drop 0 = dktX13_sees_0 := by decide +kernel
theorem dksX13_sees_1 : cX13_sees.data.toList.drop 23 = dktX13_sees_1 := dk_seg dksX13_sees_0 23 rfl rfl
theorem dX13_sees_0 : decode cX13_sees 0 = .ok (.aload_n 0, 1) := dk_42 (dk_at dksX13_sees_0 0 rfl rfl)
theorem dX13_sees_1 : decode cX13_sees 1 = .ok (.getfield 107, 3) := dk_180 0 107 (dk_at dksX13_sees_0 1 rfl rfl)
theorem dX13_sees_4 : decode cX13_sees 4 = .ok (.ifCond .ge 35, 3) := dk_156 0 35 (dk_at dksX13_sees_0 4 rfl rfl)
theorem dX13_sees_7 : decode cX13_sees 7 = .ok (.aload_n 0, 1) := dk_42 (dk_at dksX13_sees_0 7 rfl rfl)
theorem dX13_sees_8 : decode cX13_sees 8 = .ok (.getfield 110, 3) := dk_180 0 110 (dk_at dksX13_sees_0 8 rfl rfl)
theorem dX13_sees_11 : decode cX13_sees 11 = .ok (.aload_n 0, 1) := dk_42 (dk_at dksX13_sees_0 11 rfl rfl)
theorem dX13_sees_12 : decode cX13_sees 12 = .ok (.getfield 103, 3) := dk_180 0 103 (dk_at dksX13_sees_0 12 rfl rfl)
theorem dX13_sees_15 : decode cX13_sees 15 = .ok (.if_icmp .ge 24, 3) := dk_162 0 24 (dk_at dksX13_sees_0 15 rfl rfl)
theorem dX13_sees_18 : decode cX13_sees 18 = .ok (.aload_n 0, 1) := dk_42 (dk_at dksX13_sees_0 18 rfl rfl)
theorem dX13_sees_19 : decode cX13_sees 19 = .ok (.getfield 27, 3) := dk_180 0 27 (dk_at dksX13_sees_0 19 rfl rfl)
theorem dX13_sees_22 : decode cX13_sees 22 = .ok (.aload_n 0, 1) := dk_42 (dk_at dksX13_sees_0 22 rfl rfl)
theorem dX13_sees_23 : decode cX13_sees 23 = .ok (.getfield 110, 3) := dk_180 0 110 (dk_at dksX13_sees_1 0 rfl rfl)
theorem dX13_sees_26 : decode cX13_sees 26 = .ok (.iaload, 1) := dk_46 (dk_at dksX13_sees_1 3 rfl rfl)
theorem dX13_sees_27 : decode cX13_sees 27 = .ok (.iload_n 1, 1) := dk_27 (dk_at dksX13_sees_1 4 rfl rfl)
theorem dX13_sees_28 : decode cX13_sees 28 = .ok (.iload_n 2, 1) := dk_28 (dk_at dksX13_sees_1 5 rfl rfl)
theorem dX13_sees_29 : decode cX13_sees 29 = .ok (.invokestatic 49, 3) := dk_184 0 49 (dk_at dksX13_sees_1 6 rfl rfl)
theorem dX13_sees_32 : decode cX13_sees 32 = .ok (.ifCond .eq 7, 3) := dk_153 0 7 (dk_at dksX13_sees_1 9 rfl rfl)
theorem dX13_sees_35 : decode cX13_sees 35 = .ok (.iconst 1, 1) := dk_4 (dk_at dksX13_sees_1 12 rfl rfl)
theorem dX13_sees_36 : decode cX13_sees 36 = .ok (.goto 4, 3) := dk_167 0 4 (dk_at dksX13_sees_1 13 rfl rfl)
theorem dX13_sees_39 : decode cX13_sees 39 = .ok (.iconst 0, 1) := dk_3 (dk_at dksX13_sees_1 16 rfl rfl)
theorem dX13_sees_40 : decode cX13_sees 40 = .ok (.ireturn, 1) := dk_172 (dk_at dksX13_sees_1 17 rfl rfl)
abbrev cX13_takes : ByteArray := prog_22_method_24_code
def yX13_takes : MethodName := ⟨RX13, "takes", "(I)Z"⟩
def dkwX13_takes_2 : List UInt8 := [167, 0, 4, 3, 96, 181, 0, 110, 28, 172]
abbrev dktX13_takes_2 : List UInt8 := dkwX13_takes_2 ++ []
def dkwX13_takes_1 : List UInt8 := [180, 0, 110, 46, 27, 160, 0, 7, 4, 167, 0, 4, 3, 61, 42, 89, 180, 0, 110, 28, 153, 0, 7, 4]
abbrev dktX13_takes_1 : List UInt8 := dkwX13_takes_1 ++ dktX13_takes_2
def dkwX13_takes_0 : List UInt8 := [42, 180, 0, 107, 156, 0, 31, 42, 180, 0, 110, 42, 180, 0, 103, 162, 0, 20, 42, 180, 0, 27, 42]
abbrev dktX13_takes_0 : List UInt8 := dkwX13_takes_0 ++ dktX13_takes_1
theorem dksX13_takes_0 : cX13_takes.data.toList.drop 0 = dktX13_takes_0 := by decide +kernel
theorem dksX13_takes_1 : cX13_takes.data.toList.drop 23 = dktX13_takes_1 := dk_seg dksX13_takes_0 23 rfl rfl
theorem dksX13_takes_2 : cX13_takes.data.toList.drop 47 = dktX13_takes_2 := dk_seg dksX13_takes_1 24 rfl rfl
theorem dX13_takes_0 : decode cX13_takes 0 = .ok (.aload_n 0, 1) := dk_42 (dk_at dksX13_takes_0 0 rfl rfl)
theorem dX13_takes_1 : decode cX13_takes 1 = .ok (.getfield 107, 3) := dk_180 0 107 (dk_at dksX13_takes_0 1 rfl rfl)
theorem dX13_takes_4 : decode cX13_takes 4 = .ok (.ifCond .ge 31, 3) := dk_156 0 31 (dk_at dksX13_takes_0 4 rfl rfl)
theorem dX13_takes_7 : decode cX13_takes 7 = .ok (.aload_n 0, 1) := dk_42 (dk_at dksX13_takes_0 7 rfl rfl)
theorem dX13_takes_8 : decode cX13_takes 8 = .ok (.getfield 110, 3) := dk_180 0 110 (dk_at dksX13_takes_0 8 rfl rfl)
theorem dX13_takes_11 : decode cX13_takes 11 = .ok (.aload_n 0, 1) := dk_42 (dk_at dksX13_takes_0 11 rfl rfl)
theorem dX13_takes_12 : decode cX13_takes 12 = .ok (.getfield 103, 3) := dk_180 0 103 (dk_at dksX13_takes_0 12 rfl rfl)
theorem dX13_takes_15 : decode cX13_takes 15 = .ok (.if_icmp .ge 20, 3) := dk_162 0 20 (dk_at dksX13_takes_0 15 rfl rfl)
theorem dX13_takes_18 : decode cX13_takes 18 = .ok (.aload_n 0, 1) := dk_42 (dk_at dksX13_takes_0 18 rfl rfl)
theorem dX13_takes_19 : decode cX13_takes 19 = .ok (.getfield 27, 3) := dk_180 0 27 (dk_at dksX13_takes_0 19 rfl rfl)
theorem dX13_takes_22 : decode cX13_takes 22 = .ok (.aload_n 0, 1) := dk_42 (dk_at dksX13_takes_0 22 rfl rfl)
theorem dX13_takes_23 : decode cX13_takes 23 = .ok (.getfield 110, 3) := dk_180 0 110 (dk_at dksX13_takes_1 0 rfl rfl)
theorem dX13_takes_26 : decode cX13_takes 26 = .ok (.iaload, 1) := dk_46 (dk_at dksX13_takes_1 3 rfl rfl)
theorem dX13_takes_27 : decode cX13_takes 27 = .ok (.iload_n 1, 1) := dk_27 (dk_at dksX13_takes_1 4 rfl rfl)
theorem dX13_takes_28 : decode cX13_takes 28 = .ok (.if_icmp .ne 7, 3) := dk_160 0 7 (dk_at dksX13_takes_1 5 rfl rfl)
theorem dX13_takes_31 : decode cX13_takes 31 = .ok (.iconst 1, 1) := dk_4 (dk_at dksX13_takes_1 8 rfl rfl)
theorem dX13_takes_32 : decode cX13_takes 32 = .ok (.goto 4, 3) := dk_167 0 4 (dk_at dksX13_takes_1 9 rfl rfl)
theorem dX13_takes_35 : decode cX13_takes 35 = .ok (.iconst 0, 1) := dk_3 (dk_at dksX13_takes_1 12 rfl rfl)
theorem dX13_takes_36 : decode cX13_takes 36 = .ok (.istore_n 2, 1) := dk_61 (dk_at dksX13_takes_1 13 rfl rfl)
theorem dX13_takes_37 : decode cX13_takes 37 = .ok (.aload_n 0, 1) := dk_42 (dk_at dksX13_takes_1 14 rfl rfl)
theorem dX13_takes_38 : decode cX13_takes 38 = .ok (.dup, 1) := dk_89 (dk_at dksX13_takes_1 15 rfl rfl)
theorem dX13_takes_39 : decode cX13_takes 39 = .ok (.getfield 110, 3) := dk_180 0 110 (dk_at dksX13_takes_1 16 rfl rfl)
theorem dX13_takes_42 : decode cX13_takes 42 = .ok (.iload_n 2, 1) := dk_28 (dk_at dksX13_takes_1 19 rfl rfl)
theorem dX13_takes_43 : decode cX13_takes 43 = .ok (.ifCond .eq 7, 3) := dk_153 0 7 (dk_at dksX13_takes_1 20 rfl rfl)
theorem dX13_takes_46 : decode cX13_takes 46 = .ok (.iconst 1, 1) := dk_4 (dk_at dksX13_takes_1 23 rfl rfl)
theorem dX13_takes_47 : decode cX13_takes 47 = .ok (.goto 4, 3) := dk_167 0 4 (dk_at dksX13_takes_2 0 rfl rfl)
theorem dX13_takes_50 : decode cX13_takes 50 = .ok (.iconst 0, 1) := dk_3 (dk_at dksX13_takes_2 3 rfl rfl)
theorem dX13_takes_51 : decode cX13_takes 51 = .ok (.iadd, 1) := dk_96 (dk_at dksX13_takes_2 4 rfl rfl)
theorem dX13_takes_52 : decode cX13_takes 52 = .ok (.putfield 110, 3) := dk_181 0 110 (dk_at dksX13_takes_2 5 rfl rfl)
theorem dX13_takes_55 : decode cX13_takes 55 = .ok (.iload_n 2, 1) := dk_28 (dk_at dksX13_takes_2 8 rfl rfl)
theorem dX13_takes_56 : decode cX13_takes 56 = .ok (.ireturn, 1) := dk_172 (dk_at dksX13_takes_2 9 rfl rfl)
abbrev cX13_number : ByteArray := prog_22_method_26_code
def yX13_number : MethodName := ⟨RX13, "number", "(III)I"⟩
def dkwX13_number_4 : List UInt8 := [180, 0, 110, 4, 100, 182, 0, 115, 21, 5, 172]
abbrev dktX13_number_4 : List UInt8 := dkwX13_number_4 ++ []
def dkwX13_number_3 : List UInt8 := [160, 0, 11, 42, 42, 180, 0, 110, 182, 0, 115, 21, 5, 28, 29, 184, 0, 49, 154, 0, 13, 42, 42]
abbrev dktX13_number_3 : List UInt8 := dkwX13_number_3 ++ dktX13_number_4
def dkwX13_number_2 : List UInt8 := [16, 48, 100, 54, 5, 42, 89, 180, 0, 110, 4, 96, 181, 0, 110, 167, 255, 204, 42, 180, 0, 110, 21, 4]
abbrev dktX13_number_2 : List UInt8 := dkwX13_number_2 ++ dktX13_number_3
def dkwX13_number_1 : List UInt8 := [16, 57, 182, 0, 112, 153, 0, 36, 16, 10, 21, 5, 104, 42, 180, 0, 27, 42, 180, 0, 110, 46, 96]
abbrev dktX13_number_1 : List UInt8 := dkwX13_number_1 ++ dktX13_number_2
def dkwX13_number_0 : List UInt8 := [42, 180, 0, 110, 54, 4, 3, 54, 5, 42, 180, 0, 110, 21, 4, 27, 96, 162, 0, 47, 42, 16, 48]
abbrev dktX13_number_0 : List UInt8 := dkwX13_number_0 ++ dktX13_number_1
theorem dksX13_number_0 : cX13_number.data.toList.drop 0 = dktX13_number_0 := by decide +kernel
theorem dksX13_number_1 : cX13_number.data.toList.drop 23 = dktX13_number_1 := dk_seg dksX13_number_0 23 rfl rfl
theorem dksX13_number_2 : cX13_number.data.toList.drop 46 = dktX13_number_2 := dk_seg dksX13_number_1 23 rfl rfl
theorem dksX13_number_3 : cX13_number.data.toList.drop 70 = dktX13_number_3 := dk_seg dksX13_number_2 24 rfl rfl
theorem dksX13_number_4 : cX13_number.data.toList.drop 93 = dktX13_number_4 := dk_seg dksX13_number_3 23 rfl rfl
theorem dX13_number_0 : decode cX13_number 0 = .ok (.aload_n 0, 1) := dk_42 (dk_at dksX13_number_0 0 rfl rfl)
theorem dX13_number_1 : decode cX13_number 1 = .ok (.getfield 110, 3) := dk_180 0 110 (dk_at dksX13_number_0 1 rfl rfl)
theorem dX13_number_4 : decode cX13_number 4 = .ok (.istore 4, 2) := dk_54 4 (dk_at dksX13_number_0 4 rfl rfl)
theorem dX13_number_6 : decode cX13_number 6 = .ok (.iconst 0, 1) := dk_3 (dk_at dksX13_number_0 6 rfl rfl)
theorem dX13_number_7 : decode cX13_number 7 = .ok (.istore 5, 2) := dk_54 5 (dk_at dksX13_number_0 7 rfl rfl)
theorem dX13_number_9 : decode cX13_number 9 = .ok (.aload_n 0, 1) := dk_42 (dk_at dksX13_number_0 9 rfl rfl)
theorem dX13_number_10 : decode cX13_number 10 = .ok (.getfield 110, 3) := dk_180 0 110 (dk_at dksX13_number_0 10 rfl rfl)
theorem dX13_number_13 : decode cX13_number 13 = .ok (.iload 4, 2) := dk_21 4 (dk_at dksX13_number_0 13 rfl rfl)
theorem dX13_number_15 : decode cX13_number 15 = .ok (.iload_n 1, 1) := dk_27 (dk_at dksX13_number_0 15 rfl rfl)
theorem dX13_number_16 : decode cX13_number 16 = .ok (.iadd, 1) := dk_96 (dk_at dksX13_number_0 16 rfl rfl)
theorem dX13_number_17 : decode cX13_number 17 = .ok (.if_icmp .ge 47, 3) := dk_162 0 47 (dk_at dksX13_number_0 17 rfl rfl)
theorem dX13_number_20 : decode cX13_number 20 = .ok (.aload_n 0, 1) := dk_42 (dk_at dksX13_number_0 20 rfl rfl)
theorem dX13_number_21 : decode cX13_number 21 = .ok (.bipush 48, 2) := dk_16 48 (dk_at dksX13_number_0 21 rfl rfl)
theorem dX13_number_23 : decode cX13_number 23 = .ok (.bipush 57, 2) := dk_16 57 (dk_at dksX13_number_1 0 rfl rfl)
theorem dX13_number_25 : decode cX13_number 25 = .ok (.invokevirtual 112, 3) := dk_182 0 112 (dk_at dksX13_number_1 2 rfl rfl)
theorem dX13_number_28 : decode cX13_number 28 = .ok (.ifCond .eq 36, 3) := dk_153 0 36 (dk_at dksX13_number_1 5 rfl rfl)
theorem dX13_number_31 : decode cX13_number 31 = .ok (.bipush 10, 2) := dk_16 10 (dk_at dksX13_number_1 8 rfl rfl)
theorem dX13_number_33 : decode cX13_number 33 = .ok (.iload 5, 2) := dk_21 5 (dk_at dksX13_number_1 10 rfl rfl)
theorem dX13_number_35 : decode cX13_number 35 = .ok (.imul, 1) := dk_104 (dk_at dksX13_number_1 12 rfl rfl)
theorem dX13_number_36 : decode cX13_number 36 = .ok (.aload_n 0, 1) := dk_42 (dk_at dksX13_number_1 13 rfl rfl)
theorem dX13_number_37 : decode cX13_number 37 = .ok (.getfield 27, 3) := dk_180 0 27 (dk_at dksX13_number_1 14 rfl rfl)
theorem dX13_number_40 : decode cX13_number 40 = .ok (.aload_n 0, 1) := dk_42 (dk_at dksX13_number_1 17 rfl rfl)
theorem dX13_number_41 : decode cX13_number 41 = .ok (.getfield 110, 3) := dk_180 0 110 (dk_at dksX13_number_1 18 rfl rfl)
theorem dX13_number_44 : decode cX13_number 44 = .ok (.iaload, 1) := dk_46 (dk_at dksX13_number_1 21 rfl rfl)
theorem dX13_number_45 : decode cX13_number 45 = .ok (.iadd, 1) := dk_96 (dk_at dksX13_number_1 22 rfl rfl)
theorem dX13_number_46 : decode cX13_number 46 = .ok (.bipush 48, 2) := dk_16 48 (dk_at dksX13_number_2 0 rfl rfl)
theorem dX13_number_48 : decode cX13_number 48 = .ok (.isub, 1) := dk_100 (dk_at dksX13_number_2 2 rfl rfl)
theorem dX13_number_49 : decode cX13_number 49 = .ok (.istore 5, 2) := dk_54 5 (dk_at dksX13_number_2 3 rfl rfl)
theorem dX13_number_51 : decode cX13_number 51 = .ok (.aload_n 0, 1) := dk_42 (dk_at dksX13_number_2 5 rfl rfl)
theorem dX13_number_52 : decode cX13_number 52 = .ok (.dup, 1) := dk_89 (dk_at dksX13_number_2 6 rfl rfl)
theorem dX13_number_53 : decode cX13_number 53 = .ok (.getfield 110, 3) := dk_180 0 110 (dk_at dksX13_number_2 7 rfl rfl)
theorem dX13_number_56 : decode cX13_number 56 = .ok (.iconst 1, 1) := dk_4 (dk_at dksX13_number_2 10 rfl rfl)
theorem dX13_number_57 : decode cX13_number 57 = .ok (.iadd, 1) := dk_96 (dk_at dksX13_number_2 11 rfl rfl)
theorem dX13_number_58 : decode cX13_number 58 = .ok (.putfield 110, 3) := dk_181 0 110 (dk_at dksX13_number_2 12 rfl rfl)
theorem dX13_number_61 : decode cX13_number 61 = .ok (.goto (-52), 3) := dk_167 255 204 (dk_at dksX13_number_2 15 rfl rfl)
theorem dX13_number_64 : decode cX13_number 64 = .ok (.aload_n 0, 1) := dk_42 (dk_at dksX13_number_2 18 rfl rfl)
theorem dX13_number_65 : decode cX13_number 65 = .ok (.getfield 110, 3) := dk_180 0 110 (dk_at dksX13_number_2 19 rfl rfl)
theorem dX13_number_68 : decode cX13_number 68 = .ok (.iload 4, 2) := dk_21 4 (dk_at dksX13_number_2 22 rfl rfl)
theorem dX13_number_70 : decode cX13_number 70 = .ok (.if_icmp .ne 11, 3) := dk_160 0 11 (dk_at dksX13_number_3 0 rfl rfl)
theorem dX13_number_73 : decode cX13_number 73 = .ok (.aload_n 0, 1) := dk_42 (dk_at dksX13_number_3 3 rfl rfl)
theorem dX13_number_74 : decode cX13_number 74 = .ok (.aload_n 0, 1) := dk_42 (dk_at dksX13_number_3 4 rfl rfl)
theorem dX13_number_75 : decode cX13_number 75 = .ok (.getfield 110, 3) := dk_180 0 110 (dk_at dksX13_number_3 5 rfl rfl)
theorem dX13_number_78 : decode cX13_number 78 = .ok (.invokevirtual 115, 3) := dk_182 0 115 (dk_at dksX13_number_3 8 rfl rfl)
theorem dX13_number_81 : decode cX13_number 81 = .ok (.iload 5, 2) := dk_21 5 (dk_at dksX13_number_3 11 rfl rfl)
theorem dX13_number_83 : decode cX13_number 83 = .ok (.iload_n 2, 1) := dk_28 (dk_at dksX13_number_3 13 rfl rfl)
theorem dX13_number_84 : decode cX13_number 84 = .ok (.iload_n 3, 1) := dk_29 (dk_at dksX13_number_3 14 rfl rfl)
theorem dX13_number_85 : decode cX13_number 85 = .ok (.invokestatic 49, 3) := dk_184 0 49 (dk_at dksX13_number_3 15 rfl rfl)
theorem dX13_number_88 : decode cX13_number 88 = .ok (.ifCond .ne 13, 3) := dk_154 0 13 (dk_at dksX13_number_3 18 rfl rfl)
theorem dX13_number_91 : decode cX13_number 91 = .ok (.aload_n 0, 1) := dk_42 (dk_at dksX13_number_3 21 rfl rfl)
theorem dX13_number_92 : decode cX13_number 92 = .ok (.aload_n 0, 1) := dk_42 (dk_at dksX13_number_3 22 rfl rfl)
theorem dX13_number_93 : decode cX13_number 93 = .ok (.getfield 110, 3) := dk_180 0 110 (dk_at dksX13_number_4 0 rfl rfl)
theorem dX13_number_96 : decode cX13_number 96 = .ok (.iconst 1, 1) := dk_4 (dk_at dksX13_number_4 3 rfl rfl)
theorem dX13_number_97 : decode cX13_number 97 = .ok (.isub, 1) := dk_100 (dk_at dksX13_number_4 4 rfl rfl)
theorem dX13_number_98 : decode cX13_number 98 = .ok (.invokevirtual 115, 3) := dk_182 0 115 (dk_at dksX13_number_4 5 rfl rfl)
theorem dX13_number_101 : decode cX13_number 101 = .ok (.iload 5, 2) := dk_21 5 (dk_at dksX13_number_4 8 rfl rfl)
theorem dX13_number_103 : decode cX13_number 103 = .ok (.ireturn, 1) := dk_172 (dk_at dksX13_number_4 10 rfl rfl)
abbrev cX13_safety : ByteArray := prog_22_method_30_code
def yX13_safety : MethodName := ⟨RX13, "safety", "(I)I"⟩
def dkwX13_safety_1 : List UInt8 := [172, 42, 180, 0, 11, 4, 46, 61, 42, 180, 0, 11, 4, 27, 79, 42, 182, 0, 46, 28, 172]
abbrev dktX13_safety_1 : List UInt8 := dkwX13_safety_1 ++ []
def dkwX13_safety_0 : List UInt8 := [27, 3, 8, 184, 0, 49, 154, 0, 6, 16, 254, 172, 42, 180, 0, 11, 5, 46, 4, 160, 0, 6, 16, 253]
abbrev dktX13_safety_0 : List UInt8 := dkwX13_safety_0 ++ dktX13_safety_1
theorem dksX13_safety_0 : cX13_safety.data.toList.drop 0 = dktX13_safety_0 := by decide +kernel
theorem dksX13_safety_1 : cX13_safety.data.toList.drop 24 = dktX13_safety_1 := dk_seg dksX13_safety_0 24 rfl rfl
theorem dX13_safety_0 : decode cX13_safety 0 = .ok (.iload_n 1, 1) := dk_27 (dk_at dksX13_safety_0 0 rfl rfl)
theorem dX13_safety_1 : decode cX13_safety 1 = .ok (.iconst 0, 1) := dk_3 (dk_at dksX13_safety_0 1 rfl rfl)
theorem dX13_safety_2 : decode cX13_safety 2 = .ok (.iconst 5, 1) := dk_8 (dk_at dksX13_safety_0 2 rfl rfl)
theorem dX13_safety_3 : decode cX13_safety 3 = .ok (.invokestatic 49, 3) := dk_184 0 49 (dk_at dksX13_safety_0 3 rfl rfl)
theorem dX13_safety_6 : decode cX13_safety 6 = .ok (.ifCond .ne 6, 3) := dk_154 0 6 (dk_at dksX13_safety_0 6 rfl rfl)
theorem dX13_safety_9 : decode cX13_safety 9 = .ok (.bipush (-2), 2) := dk_16 254 (dk_at dksX13_safety_0 9 rfl rfl)
theorem dX13_safety_11 : decode cX13_safety 11 = .ok (.ireturn, 1) := dk_172 (dk_at dksX13_safety_0 11 rfl rfl)
theorem dX13_safety_12 : decode cX13_safety 12 = .ok (.aload_n 0, 1) := dk_42 (dk_at dksX13_safety_0 12 rfl rfl)
theorem dX13_safety_13 : decode cX13_safety 13 = .ok (.getfield 11, 3) := dk_180 0 11 (dk_at dksX13_safety_0 13 rfl rfl)
theorem dX13_safety_16 : decode cX13_safety 16 = .ok (.iconst 2, 1) := dk_5 (dk_at dksX13_safety_0 16 rfl rfl)
theorem dX13_safety_17 : decode cX13_safety 17 = .ok (.iaload, 1) := dk_46 (dk_at dksX13_safety_0 17 rfl rfl)
theorem dX13_safety_18 : decode cX13_safety 18 = .ok (.iconst 1, 1) := dk_4 (dk_at dksX13_safety_0 18 rfl rfl)
theorem dX13_safety_19 : decode cX13_safety 19 = .ok (.if_icmp .ne 6, 3) := dk_160 0 6 (dk_at dksX13_safety_0 19 rfl rfl)
theorem dX13_safety_22 : decode cX13_safety 22 = .ok (.bipush (-3), 2) := dk_16 253 (dk_at dksX13_safety_0 22 rfl rfl)
theorem dX13_safety_24 : decode cX13_safety 24 = .ok (.ireturn, 1) := dk_172 (dk_at dksX13_safety_1 0 rfl rfl)
theorem dX13_safety_25 : decode cX13_safety 25 = .ok (.aload_n 0, 1) := dk_42 (dk_at dksX13_safety_1 1 rfl rfl)
theorem dX13_safety_26 : decode cX13_safety 26 = .ok (.getfield 11, 3) := dk_180 0 11 (dk_at dksX13_safety_1 2 rfl rfl)
theorem dX13_safety_29 : decode cX13_safety 29 = .ok (.iconst 1, 1) := dk_4 (dk_at dksX13_safety_1 5 rfl rfl)
theorem dX13_safety_30 : decode cX13_safety 30 = .ok (.iaload, 1) := dk_46 (dk_at dksX13_safety_1 6 rfl rfl)
theorem dX13_safety_31 : decode cX13_safety 31 = .ok (.istore_n 2, 1) := dk_61 (dk_at dksX13_safety_1 7 rfl rfl)
theorem dX13_safety_32 : decode cX13_safety 32 = .ok (.aload_n 0, 1) := dk_42 (dk_at dksX13_safety_1 8 rfl rfl)
theorem dX13_safety_33 : decode cX13_safety 33 = .ok (.getfield 11, 3) := dk_180 0 11 (dk_at dksX13_safety_1 9 rfl rfl)
theorem dX13_safety_36 : decode cX13_safety 36 = .ok (.iconst 1, 1) := dk_4 (dk_at dksX13_safety_1 12 rfl rfl)
theorem dX13_safety_37 : decode cX13_safety 37 = .ok (.iload_n 1, 1) := dk_27 (dk_at dksX13_safety_1 13 rfl rfl)
theorem dX13_safety_38 : decode cX13_safety 38 = .ok (.iastore, 1) := dk_79 (dk_at dksX13_safety_1 14 rfl rfl)
theorem dX13_safety_39 : decode cX13_safety 39 = .ok (.aload_n 0, 1) := dk_42 (dk_at dksX13_safety_1 15 rfl rfl)
theorem dX13_safety_40 : decode cX13_safety 40 = .ok (.invokevirtual 46, 3) := dk_182 0 46 (dk_at dksX13_safety_1 16 rfl rfl)
theorem dX13_safety_43 : decode cX13_safety 43 = .ok (.iload_n 2, 1) := dk_28 (dk_at dksX13_safety_1 19 rfl rfl)
theorem dX13_safety_44 : decode cX13_safety 44 = .ok (.ireturn, 1) := dk_172 (dk_at dksX13_safety_1 20 rfl rfl)
abbrev cX13_phase : ByteArray := prog_22_method_32_code
def yX13_phase : MethodName := ⟨RX13, "phase", "(II)I"⟩
def dkwX13_phase_5 : List UInt8 := [180, 0, 11, 16, 14, 46, 4, 100, 172]
abbrev dktX13_phase_5 : List UInt8 := dkwX13_phase_5 ++ []
def dkwX13_phase_4 : List UInt8 := [96, 28, 79, 42, 180, 0, 11, 29, 5, 96, 3, 79, 42, 180, 0, 11, 16, 14, 92, 46, 4, 96, 79, 42]
abbrev dktX13_phase_4 : List UInt8 := dkwX13_phase_4 ++ dktX13_phase_5
def dkwX13_phase_3 : List UInt8 := [6, 42, 180, 0, 11, 16, 14, 46, 104, 96, 62, 42, 180, 0, 11, 29, 27, 79, 42, 180, 0, 11, 29, 4]
abbrev dktX13_phase_3 : List UInt8 := dkwX13_phase_3 ++ dktX13_phase_4
def dkwX13_phase_2 : List UInt8 := [153, 0, 6, 16, 253, 172, 42, 180, 0, 11, 16, 14, 46, 16, 6, 160, 0, 6, 16, 252, 172, 17, 0, 216]
abbrev dktX13_phase_2 : List UInt8 := dkwX13_phase_2 ++ dktX13_phase_3
def dkwX13_phase_1 : List UInt8 := [184, 0, 49, 154, 0, 6, 16, 254, 172, 42, 180, 0, 11, 5, 46, 4, 159, 0, 11, 42, 27, 182, 0, 138]
abbrev dktX13_phase_1 : List UInt8 := dkwX13_phase_1 ++ dktX13_phase_2
def dkwX13_phase_0 : List UInt8 := [27, 4, 4, 42, 180, 0, 11, 16, 13, 46, 120, 4, 100, 184, 0, 49, 153, 0, 14, 28, 3, 17, 0, 239]
abbrev dktX13_phase_0 : List UInt8 := dkwX13_phase_0 ++ dktX13_phase_1
theorem dksX13_phase_0 : cX13_phase.data.toList.drop 0 = dktX13_phase_0 := by decide +kernel
theorem dksX13_phase_1 : cX13_phase.data.toList.drop 24 = dktX13_phase_1 := dk_seg dksX13_phase_0 24 rfl rfl
theorem dksX13_phase_2 : cX13_phase.data.toList.drop 48 = dktX13_phase_2 := dk_seg dksX13_phase_1 24 rfl rfl
theorem dksX13_phase_3 : cX13_phase.data.toList.drop 72 = dktX13_phase_3 := dk_seg dksX13_phase_2 24 rfl rfl
theorem dksX13_phase_4 : cX13_phase.data.toList.drop 96 = dktX13_phase_4 := dk_seg dksX13_phase_3 24 rfl rfl
theorem dksX13_phase_5 : cX13_phase.data.toList.drop 120 = dktX13_phase_5 := dk_seg dksX13_phase_4 24 rfl rfl
theorem dX13_phase_0 : decode cX13_phase 0 = .ok (.iload_n 1, 1) := dk_27 (dk_at dksX13_phase_0 0 rfl rfl)
theorem dX13_phase_1 : decode cX13_phase 1 = .ok (.iconst 1, 1) := dk_4 (dk_at dksX13_phase_0 1 rfl rfl)
theorem dX13_phase_2 : decode cX13_phase 2 = .ok (.iconst 1, 1) := dk_4 (dk_at dksX13_phase_0 2 rfl rfl)
theorem dX13_phase_3 : decode cX13_phase 3 = .ok (.aload_n 0, 1) := dk_42 (dk_at dksX13_phase_0 3 rfl rfl)
theorem dX13_phase_4 : decode cX13_phase 4 = .ok (.getfield 11, 3) := dk_180 0 11 (dk_at dksX13_phase_0 4 rfl rfl)
theorem dX13_phase_7 : decode cX13_phase 7 = .ok (.bipush 13, 2) := dk_16 13 (dk_at dksX13_phase_0 7 rfl rfl)
theorem dX13_phase_9 : decode cX13_phase 9 = .ok (.iaload, 1) := dk_46 (dk_at dksX13_phase_0 9 rfl rfl)
theorem dX13_phase_10 : decode cX13_phase 10 = .ok (.ishl, 1) := dk_120 (dk_at dksX13_phase_0 10 rfl rfl)
theorem dX13_phase_11 : decode cX13_phase 11 = .ok (.iconst 1, 1) := dk_4 (dk_at dksX13_phase_0 11 rfl rfl)
theorem dX13_phase_12 : decode cX13_phase 12 = .ok (.isub, 1) := dk_100 (dk_at dksX13_phase_0 12 rfl rfl)
theorem dX13_phase_13 : decode cX13_phase 13 = .ok (.invokestatic 49, 3) := dk_184 0 49 (dk_at dksX13_phase_0 13 rfl rfl)
theorem dX13_phase_16 : decode cX13_phase 16 = .ok (.ifCond .eq 14, 3) := dk_153 0 14 (dk_at dksX13_phase_0 16 rfl rfl)
theorem dX13_phase_19 : decode cX13_phase 19 = .ok (.iload_n 2, 1) := dk_28 (dk_at dksX13_phase_0 19 rfl rfl)
theorem dX13_phase_20 : decode cX13_phase 20 = .ok (.iconst 0, 1) := dk_3 (dk_at dksX13_phase_0 20 rfl rfl)
theorem dX13_phase_21 : decode cX13_phase 21 = .ok (.sipush 239, 3) := dk_17 0 239 (dk_at dksX13_phase_0 21 rfl rfl)
theorem dX13_phase_24 : decode cX13_phase 24 = .ok (.invokestatic 49, 3) := dk_184 0 49 (dk_at dksX13_phase_1 0 rfl rfl)
theorem dX13_phase_27 : decode cX13_phase 27 = .ok (.ifCond .ne 6, 3) := dk_154 0 6 (dk_at dksX13_phase_1 3 rfl rfl)
theorem dX13_phase_30 : decode cX13_phase 30 = .ok (.bipush (-2), 2) := dk_16 254 (dk_at dksX13_phase_1 6 rfl rfl)
theorem dX13_phase_32 : decode cX13_phase 32 = .ok (.ireturn, 1) := dk_172 (dk_at dksX13_phase_1 8 rfl rfl)
theorem dX13_phase_33 : decode cX13_phase 33 = .ok (.aload_n 0, 1) := dk_42 (dk_at dksX13_phase_1 9 rfl rfl)
theorem dX13_phase_34 : decode cX13_phase 34 = .ok (.getfield 11, 3) := dk_180 0 11 (dk_at dksX13_phase_1 10 rfl rfl)
theorem dX13_phase_37 : decode cX13_phase 37 = .ok (.iconst 2, 1) := dk_5 (dk_at dksX13_phase_1 13 rfl rfl)
theorem dX13_phase_38 : decode cX13_phase 38 = .ok (.iaload, 1) := dk_46 (dk_at dksX13_phase_1 14 rfl rfl)
theorem dX13_phase_39 : decode cX13_phase 39 = .ok (.iconst 1, 1) := dk_4 (dk_at dksX13_phase_1 15 rfl rfl)
theorem dX13_phase_40 : decode cX13_phase 40 = .ok (.if_icmp .eq 11, 3) := dk_159 0 11 (dk_at dksX13_phase_1 16 rfl rfl)
theorem dX13_phase_43 : decode cX13_phase 43 = .ok (.aload_n 0, 1) := dk_42 (dk_at dksX13_phase_1 19 rfl rfl)
theorem dX13_phase_44 : decode cX13_phase 44 = .ok (.iload_n 1, 1) := dk_27 (dk_at dksX13_phase_1 20 rfl rfl)
theorem dX13_phase_45 : decode cX13_phase 45 = .ok (.invokevirtual 138, 3) := dk_182 0 138 (dk_at dksX13_phase_1 21 rfl rfl)
theorem dX13_phase_48 : decode cX13_phase 48 = .ok (.ifCond .eq 6, 3) := dk_153 0 6 (dk_at dksX13_phase_2 0 rfl rfl)
theorem dX13_phase_51 : decode cX13_phase 51 = .ok (.bipush (-3), 2) := dk_16 253 (dk_at dksX13_phase_2 3 rfl rfl)
theorem dX13_phase_53 : decode cX13_phase 53 = .ok (.ireturn, 1) := dk_172 (dk_at dksX13_phase_2 5 rfl rfl)
theorem dX13_phase_54 : decode cX13_phase 54 = .ok (.aload_n 0, 1) := dk_42 (dk_at dksX13_phase_2 6 rfl rfl)
theorem dX13_phase_55 : decode cX13_phase 55 = .ok (.getfield 11, 3) := dk_180 0 11 (dk_at dksX13_phase_2 7 rfl rfl)
theorem dX13_phase_58 : decode cX13_phase 58 = .ok (.bipush 14, 2) := dk_16 14 (dk_at dksX13_phase_2 10 rfl rfl)
theorem dX13_phase_60 : decode cX13_phase 60 = .ok (.iaload, 1) := dk_46 (dk_at dksX13_phase_2 12 rfl rfl)
theorem dX13_phase_61 : decode cX13_phase 61 = .ok (.bipush 6, 2) := dk_16 6 (dk_at dksX13_phase_2 13 rfl rfl)
theorem dX13_phase_63 : decode cX13_phase 63 = .ok (.if_icmp .ne 6, 3) := dk_160 0 6 (dk_at dksX13_phase_2 15 rfl rfl)
theorem dX13_phase_66 : decode cX13_phase 66 = .ok (.bipush (-4), 2) := dk_16 252 (dk_at dksX13_phase_2 18 rfl rfl)
theorem dX13_phase_68 : decode cX13_phase 68 = .ok (.ireturn, 1) := dk_172 (dk_at dksX13_phase_2 20 rfl rfl)
theorem dX13_phase_69 : decode cX13_phase 69 = .ok (.sipush 216, 3) := dk_17 0 216 (dk_at dksX13_phase_2 21 rfl rfl)
theorem dX13_phase_72 : decode cX13_phase 72 = .ok (.iconst 3, 1) := dk_6 (dk_at dksX13_phase_3 0 rfl rfl)
theorem dX13_phase_73 : decode cX13_phase 73 = .ok (.aload_n 0, 1) := dk_42 (dk_at dksX13_phase_3 1 rfl rfl)
theorem dX13_phase_74 : decode cX13_phase 74 = .ok (.getfield 11, 3) := dk_180 0 11 (dk_at dksX13_phase_3 2 rfl rfl)
theorem dX13_phase_77 : decode cX13_phase 77 = .ok (.bipush 14, 2) := dk_16 14 (dk_at dksX13_phase_3 5 rfl rfl)
theorem dX13_phase_79 : decode cX13_phase 79 = .ok (.iaload, 1) := dk_46 (dk_at dksX13_phase_3 7 rfl rfl)
theorem dX13_phase_80 : decode cX13_phase 80 = .ok (.imul, 1) := dk_104 (dk_at dksX13_phase_3 8 rfl rfl)
theorem dX13_phase_81 : decode cX13_phase 81 = .ok (.iadd, 1) := dk_96 (dk_at dksX13_phase_3 9 rfl rfl)
theorem dX13_phase_82 : decode cX13_phase 82 = .ok (.istore_n 3, 1) := dk_62 (dk_at dksX13_phase_3 10 rfl rfl)
theorem dX13_phase_83 : decode cX13_phase 83 = .ok (.aload_n 0, 1) := dk_42 (dk_at dksX13_phase_3 11 rfl rfl)
theorem dX13_phase_84 : decode cX13_phase 84 = .ok (.getfield 11, 3) := dk_180 0 11 (dk_at dksX13_phase_3 12 rfl rfl)
theorem dX13_phase_87 : decode cX13_phase 87 = .ok (.iload_n 3, 1) := dk_29 (dk_at dksX13_phase_3 15 rfl rfl)
theorem dX13_phase_88 : decode cX13_phase 88 = .ok (.iload_n 1, 1) := dk_27 (dk_at dksX13_phase_3 16 rfl rfl)
theorem dX13_phase_89 : decode cX13_phase 89 = .ok (.iastore, 1) := dk_79 (dk_at dksX13_phase_3 17 rfl rfl)
theorem dX13_phase_90 : decode cX13_phase 90 = .ok (.aload_n 0, 1) := dk_42 (dk_at dksX13_phase_3 18 rfl rfl)
theorem dX13_phase_91 : decode cX13_phase 91 = .ok (.getfield 11, 3) := dk_180 0 11 (dk_at dksX13_phase_3 19 rfl rfl)
theorem dX13_phase_94 : decode cX13_phase 94 = .ok (.iload_n 3, 1) := dk_29 (dk_at dksX13_phase_3 22 rfl rfl)
theorem dX13_phase_95 : decode cX13_phase 95 = .ok (.iconst 1, 1) := dk_4 (dk_at dksX13_phase_3 23 rfl rfl)
theorem dX13_phase_96 : decode cX13_phase 96 = .ok (.iadd, 1) := dk_96 (dk_at dksX13_phase_4 0 rfl rfl)
theorem dX13_phase_97 : decode cX13_phase 97 = .ok (.iload_n 2, 1) := dk_28 (dk_at dksX13_phase_4 1 rfl rfl)
theorem dX13_phase_98 : decode cX13_phase 98 = .ok (.iastore, 1) := dk_79 (dk_at dksX13_phase_4 2 rfl rfl)
theorem dX13_phase_99 : decode cX13_phase 99 = .ok (.aload_n 0, 1) := dk_42 (dk_at dksX13_phase_4 3 rfl rfl)
theorem dX13_phase_100 : decode cX13_phase 100 = .ok (.getfield 11, 3) := dk_180 0 11 (dk_at dksX13_phase_4 4 rfl rfl)
theorem dX13_phase_103 : decode cX13_phase 103 = .ok (.iload_n 3, 1) := dk_29 (dk_at dksX13_phase_4 7 rfl rfl)
theorem dX13_phase_104 : decode cX13_phase 104 = .ok (.iconst 2, 1) := dk_5 (dk_at dksX13_phase_4 8 rfl rfl)
theorem dX13_phase_105 : decode cX13_phase 105 = .ok (.iadd, 1) := dk_96 (dk_at dksX13_phase_4 9 rfl rfl)
theorem dX13_phase_106 : decode cX13_phase 106 = .ok (.iconst 0, 1) := dk_3 (dk_at dksX13_phase_4 10 rfl rfl)
theorem dX13_phase_107 : decode cX13_phase 107 = .ok (.iastore, 1) := dk_79 (dk_at dksX13_phase_4 11 rfl rfl)
theorem dX13_phase_108 : decode cX13_phase 108 = .ok (.aload_n 0, 1) := dk_42 (dk_at dksX13_phase_4 12 rfl rfl)
theorem dX13_phase_109 : decode cX13_phase 109 = .ok (.getfield 11, 3) := dk_180 0 11 (dk_at dksX13_phase_4 13 rfl rfl)
theorem dX13_phase_112 : decode cX13_phase 112 = .ok (.bipush 14, 2) := dk_16 14 (dk_at dksX13_phase_4 16 rfl rfl)
theorem dX13_phase_114 : decode cX13_phase 114 = .ok (.dup2, 1) := dk_92 (dk_at dksX13_phase_4 18 rfl rfl)
theorem dX13_phase_115 : decode cX13_phase 115 = .ok (.iaload, 1) := dk_46 (dk_at dksX13_phase_4 19 rfl rfl)
theorem dX13_phase_116 : decode cX13_phase 116 = .ok (.iconst 1, 1) := dk_4 (dk_at dksX13_phase_4 20 rfl rfl)
theorem dX13_phase_117 : decode cX13_phase 117 = .ok (.iadd, 1) := dk_96 (dk_at dksX13_phase_4 21 rfl rfl)
theorem dX13_phase_118 : decode cX13_phase 118 = .ok (.iastore, 1) := dk_79 (dk_at dksX13_phase_4 22 rfl rfl)
theorem dX13_phase_119 : decode cX13_phase 119 = .ok (.aload_n 0, 1) := dk_42 (dk_at dksX13_phase_4 23 rfl rfl)
theorem dX13_phase_120 : decode cX13_phase 120 = .ok (.getfield 11, 3) := dk_180 0 11 (dk_at dksX13_phase_5 0 rfl rfl)
theorem dX13_phase_123 : decode cX13_phase 123 = .ok (.bipush 14, 2) := dk_16 14 (dk_at dksX13_phase_5 3 rfl rfl)
theorem dX13_phase_125 : decode cX13_phase 125 = .ok (.iaload, 1) := dk_46 (dk_at dksX13_phase_5 5 rfl rfl)
theorem dX13_phase_126 : decode cX13_phase 126 = .ok (.iconst 1, 1) := dk_4 (dk_at dksX13_phase_5 6 rfl rfl)
theorem dX13_phase_127 : decode cX13_phase 127 = .ok (.isub, 1) := dk_100 (dk_at dksX13_phase_5 7 rfl rfl)
theorem dX13_phase_128 : decode cX13_phase 128 = .ok (.ireturn, 1) := dk_172 (dk_at dksX13_phase_5 8 rfl rfl)
abbrev cX13_anyMeet : ByteArray := prog_22_method_31_code
def yX13_anyMeet : MethodName := ⟨RX13, "anyMeet", "(I)Z"⟩
def dkwX13_anyMeet_1 : List UInt8 := [182, 0, 135, 27, 126, 153, 0, 5, 4, 172, 132, 2, 1, 167, 255, 222, 3, 172]
abbrev dktX13_anyMeet_1 : List UInt8 := dkwX13_anyMeet_1 ++ []
def dkwX13_anyMeet_0 : List UInt8 := [3, 61, 28, 42, 180, 0, 11, 16, 13, 46, 162, 0, 29, 27, 28, 184, 0, 132, 153, 0, 15, 42, 28]
abbrev dktX13_anyMeet_0 : List UInt8 := dkwX13_anyMeet_0 ++ dktX13_anyMeet_1
theorem dksX13_anyMeet_0 : cX13_anyMeet.data.toList.drop 0 = dktX13_anyMeet_0 := by decide +kernel
theorem dksX13_anyMeet_1 : cX13_anyMeet.data.toList.drop 23 = dktX13_anyMeet_1 := dk_seg dksX13_anyMeet_0 23 rfl rfl
theorem dX13_anyMeet_0 : decode cX13_anyMeet 0 = .ok (.iconst 0, 1) := dk_3 (dk_at dksX13_anyMeet_0 0 rfl rfl)
theorem dX13_anyMeet_1 : decode cX13_anyMeet 1 = .ok (.istore_n 2, 1) := dk_61 (dk_at dksX13_anyMeet_0 1 rfl rfl)
theorem dX13_anyMeet_2 : decode cX13_anyMeet 2 = .ok (.iload_n 2, 1) := dk_28 (dk_at dksX13_anyMeet_0 2 rfl rfl)
theorem dX13_anyMeet_3 : decode cX13_anyMeet 3 = .ok (.aload_n 0, 1) := dk_42 (dk_at dksX13_anyMeet_0 3 rfl rfl)
theorem dX13_anyMeet_4 : decode cX13_anyMeet 4 = .ok (.getfield 11, 3) := dk_180 0 11 (dk_at dksX13_anyMeet_0 4 rfl rfl)
theorem dX13_anyMeet_7 : decode cX13_anyMeet 7 = .ok (.bipush 13, 2) := dk_16 13 (dk_at dksX13_anyMeet_0 7 rfl rfl)
theorem dX13_anyMeet_9 : decode cX13_anyMeet 9 = .ok (.iaload, 1) := dk_46 (dk_at dksX13_anyMeet_0 9 rfl rfl)
theorem dX13_anyMeet_10 : decode cX13_anyMeet 10 = .ok (.if_icmp .ge 29, 3) := dk_162 0 29 (dk_at dksX13_anyMeet_0 10 rfl rfl)
theorem dX13_anyMeet_13 : decode cX13_anyMeet 13 = .ok (.iload_n 1, 1) := dk_27 (dk_at dksX13_anyMeet_0 13 rfl rfl)
theorem dX13_anyMeet_14 : decode cX13_anyMeet 14 = .ok (.iload_n 2, 1) := dk_28 (dk_at dksX13_anyMeet_0 14 rfl rfl)
theorem dX13_anyMeet_15 : decode cX13_anyMeet 15 = .ok (.invokestatic 132, 3) := dk_184 0 132 (dk_at dksX13_anyMeet_0 15 rfl rfl)
theorem dX13_anyMeet_18 : decode cX13_anyMeet 18 = .ok (.ifCond .eq 15, 3) := dk_153 0 15 (dk_at dksX13_anyMeet_0 18 rfl rfl)
theorem dX13_anyMeet_21 : decode cX13_anyMeet 21 = .ok (.aload_n 0, 1) := dk_42 (dk_at dksX13_anyMeet_0 21 rfl rfl)
theorem dX13_anyMeet_22 : decode cX13_anyMeet 22 = .ok (.iload_n 2, 1) := dk_28 (dk_at dksX13_anyMeet_0 22 rfl rfl)
theorem dX13_anyMeet_23 : decode cX13_anyMeet 23 = .ok (.invokevirtual 135, 3) := dk_182 0 135 (dk_at dksX13_anyMeet_1 0 rfl rfl)
theorem dX13_anyMeet_26 : decode cX13_anyMeet 26 = .ok (.iload_n 1, 1) := dk_27 (dk_at dksX13_anyMeet_1 3 rfl rfl)
theorem dX13_anyMeet_27 : decode cX13_anyMeet 27 = .ok (.iand, 1) := dk_126 (dk_at dksX13_anyMeet_1 4 rfl rfl)
theorem dX13_anyMeet_28 : decode cX13_anyMeet 28 = .ok (.ifCond .eq 5, 3) := dk_153 0 5 (dk_at dksX13_anyMeet_1 5 rfl rfl)
theorem dX13_anyMeet_31 : decode cX13_anyMeet 31 = .ok (.iconst 1, 1) := dk_4 (dk_at dksX13_anyMeet_1 8 rfl rfl)
theorem dX13_anyMeet_32 : decode cX13_anyMeet 32 = .ok (.ireturn, 1) := dk_172 (dk_at dksX13_anyMeet_1 9 rfl rfl)
theorem dX13_anyMeet_33 : decode cX13_anyMeet 33 = .ok (.iinc 2 1, 3) := dk_132 2 1 (dk_at dksX13_anyMeet_1 10 rfl rfl)
theorem dX13_anyMeet_36 : decode cX13_anyMeet 36 = .ok (.goto (-34), 3) := dk_167 255 222 (dk_at dksX13_anyMeet_1 13 rfl rfl)
theorem dX13_anyMeet_39 : decode cX13_anyMeet 39 = .ok (.iconst 0, 1) := dk_3 (dk_at dksX13_anyMeet_1 16 rfl rfl)
theorem dX13_anyMeet_40 : decode cX13_anyMeet 40 = .ok (.ireturn, 1) := dk_172 (dk_at dksX13_anyMeet_1 17 rfl rfl)
abbrev cX13_has : ByteArray := prog_22_method_3_code
def yX13_has : MethodName := ⟨RX13, "has", "(II)Z"⟩
def dkwX13_has_0 : List UInt8 := [26, 27, 122, 4, 126, 4, 160, 0, 7, 4, 167, 0, 4, 3, 172]
abbrev dktX13_has_0 : List UInt8 := dkwX13_has_0 ++ []
theorem dksX13_has_0 : cX13_has.data.toList.drop 0 = dktX13_has_0 := by decide +kernel
theorem dX13_has_0 : decode cX13_has 0 = .ok (.iload_n 0, 1) := dk_26 (dk_at dksX13_has_0 0 rfl rfl)
theorem dX13_has_1 : decode cX13_has 1 = .ok (.iload_n 1, 1) := dk_27 (dk_at dksX13_has_0 1 rfl rfl)
theorem dX13_has_2 : decode cX13_has 2 = .ok (.ishr, 1) := dk_122 (dk_at dksX13_has_0 2 rfl rfl)
theorem dX13_has_3 : decode cX13_has 3 = .ok (.iconst 1, 1) := dk_4 (dk_at dksX13_has_0 3 rfl rfl)
theorem dX13_has_4 : decode cX13_has 4 = .ok (.iand, 1) := dk_126 (dk_at dksX13_has_0 4 rfl rfl)
theorem dX13_has_5 : decode cX13_has 5 = .ok (.iconst 1, 1) := dk_4 (dk_at dksX13_has_0 5 rfl rfl)
theorem dX13_has_6 : decode cX13_has 6 = .ok (.if_icmp .ne 7, 3) := dk_160 0 7 (dk_at dksX13_has_0 6 rfl rfl)
theorem dX13_has_9 : decode cX13_has 9 = .ok (.iconst 1, 1) := dk_4 (dk_at dksX13_has_0 9 rfl rfl)
theorem dX13_has_10 : decode cX13_has 10 = .ok (.goto 4, 3) := dk_167 0 4 (dk_at dksX13_has_0 10 rfl rfl)
theorem dX13_has_13 : decode cX13_has 13 = .ok (.iconst 0, 1) := dk_3 (dk_at dksX13_has_0 13 rfl rfl)
theorem dX13_has_14 : decode cX13_has 14 = .ok (.ireturn, 1) := dk_172 (dk_at dksX13_has_0 14 rfl rfl)
abbrev cX13_meets : ByteArray := prog_22_method_16_code
def yX13_meets : MethodName := ⟨RX13, "meets", "(I)I"⟩
def dkwX13_meets_1 : List UInt8 := [153, 0, 9, 4, 29, 120, 167, 0, 4, 3, 128, 61, 132, 3, 1, 167, 255, 223, 28, 172]
abbrev dktX13_meets_1 : List UInt8 := dkwX13_meets_1 ++ []
def dkwX13_meets_0 : List UInt8 := [3, 61, 3, 62, 29, 42, 180, 0, 11, 16, 13, 46, 162, 0, 28, 28, 42, 27, 29, 182, 0, 81]
abbrev dktX13_meets_0 : List UInt8 := dkwX13_meets_0 ++ dktX13_meets_1
theorem dksX13_meets_0 : cX13_meets.data.toList.drop 0 = dktX13_meets_0 := by decide +kernel
theorem dksX13_meets_1 : cX13_meets.data.toList.drop 22 = dktX13_meets_1 := dk_seg dksX13_meets_0 22 rfl rfl
theorem dX13_meets_0 : decode cX13_meets 0 = .ok (.iconst 0, 1) := dk_3 (dk_at dksX13_meets_0 0 rfl rfl)
theorem dX13_meets_1 : decode cX13_meets 1 = .ok (.istore_n 2, 1) := dk_61 (dk_at dksX13_meets_0 1 rfl rfl)
theorem dX13_meets_2 : decode cX13_meets 2 = .ok (.iconst 0, 1) := dk_3 (dk_at dksX13_meets_0 2 rfl rfl)
theorem dX13_meets_3 : decode cX13_meets 3 = .ok (.istore_n 3, 1) := dk_62 (dk_at dksX13_meets_0 3 rfl rfl)
theorem dX13_meets_4 : decode cX13_meets 4 = .ok (.iload_n 3, 1) := dk_29 (dk_at dksX13_meets_0 4 rfl rfl)
theorem dX13_meets_5 : decode cX13_meets 5 = .ok (.aload_n 0, 1) := dk_42 (dk_at dksX13_meets_0 5 rfl rfl)
theorem dX13_meets_6 : decode cX13_meets 6 = .ok (.getfield 11, 3) := dk_180 0 11 (dk_at dksX13_meets_0 6 rfl rfl)
theorem dX13_meets_9 : decode cX13_meets 9 = .ok (.bipush 13, 2) := dk_16 13 (dk_at dksX13_meets_0 9 rfl rfl)
theorem dX13_meets_11 : decode cX13_meets 11 = .ok (.iaload, 1) := dk_46 (dk_at dksX13_meets_0 11 rfl rfl)
theorem dX13_meets_12 : decode cX13_meets 12 = .ok (.if_icmp .ge 28, 3) := dk_162 0 28 (dk_at dksX13_meets_0 12 rfl rfl)
theorem dX13_meets_15 : decode cX13_meets 15 = .ok (.iload_n 2, 1) := dk_28 (dk_at dksX13_meets_0 15 rfl rfl)
theorem dX13_meets_16 : decode cX13_meets 16 = .ok (.aload_n 0, 1) := dk_42 (dk_at dksX13_meets_0 16 rfl rfl)
theorem dX13_meets_17 : decode cX13_meets 17 = .ok (.iload_n 1, 1) := dk_27 (dk_at dksX13_meets_0 17 rfl rfl)
theorem dX13_meets_18 : decode cX13_meets 18 = .ok (.iload_n 3, 1) := dk_29 (dk_at dksX13_meets_0 18 rfl rfl)
theorem dX13_meets_19 : decode cX13_meets 19 = .ok (.invokevirtual 81, 3) := dk_182 0 81 (dk_at dksX13_meets_0 19 rfl rfl)
theorem dX13_meets_22 : decode cX13_meets 22 = .ok (.ifCond .eq 9, 3) := dk_153 0 9 (dk_at dksX13_meets_1 0 rfl rfl)
theorem dX13_meets_25 : decode cX13_meets 25 = .ok (.iconst 1, 1) := dk_4 (dk_at dksX13_meets_1 3 rfl rfl)
theorem dX13_meets_26 : decode cX13_meets 26 = .ok (.iload_n 3, 1) := dk_29 (dk_at dksX13_meets_1 4 rfl rfl)
theorem dX13_meets_27 : decode cX13_meets 27 = .ok (.ishl, 1) := dk_120 (dk_at dksX13_meets_1 5 rfl rfl)
theorem dX13_meets_28 : decode cX13_meets 28 = .ok (.goto 4, 3) := dk_167 0 4 (dk_at dksX13_meets_1 6 rfl rfl)
theorem dX13_meets_31 : decode cX13_meets 31 = .ok (.iconst 0, 1) := dk_3 (dk_at dksX13_meets_1 9 rfl rfl)
theorem dX13_meets_32 : decode cX13_meets 32 = .ok (.ior, 1) := dk_128 (dk_at dksX13_meets_1 10 rfl rfl)
theorem dX13_meets_33 : decode cX13_meets 33 = .ok (.istore_n 2, 1) := dk_61 (dk_at dksX13_meets_1 11 rfl rfl)
theorem dX13_meets_34 : decode cX13_meets 34 = .ok (.iinc 3 1, 3) := dk_132 3 1 (dk_at dksX13_meets_1 12 rfl rfl)
theorem dX13_meets_37 : decode cX13_meets 37 = .ok (.goto (-33), 3) := dk_167 255 223 (dk_at dksX13_meets_1 15 rfl rfl)
theorem dX13_meets_40 : decode cX13_meets 40 = .ok (.iload_n 2, 1) := dk_28 (dk_at dksX13_meets_1 18 rfl rfl)
theorem dX13_meets_41 : decode cX13_meets 41 = .ok (.ireturn, 1) := dk_172 (dk_at dksX13_meets_1 19 rfl rfl)
abbrev cX13_meet : ByteArray := prog_22_method_15_code
def yX13_meet : MethodName := ⟨RX13, "meet", "(II)Z"⟩
def dkwX13_meet_0 : List UInt8 := [42, 180, 0, 21, 16, 8, 27, 104, 28, 96, 46, 155, 0, 7, 4, 167, 0, 4, 3, 172]
abbrev dktX13_meet_0 : List UInt8 := dkwX13_meet_0 ++ []
theorem dksX13_meet_0 : cX13_meet.data.toList.drop 0 = dktX13_meet_0 := by decide +kernel
theorem dX13_meet_0 : decode cX13_meet 0 = .ok (.aload_n 0, 1) := dk_42 (dk_at dksX13_meet_0 0 rfl rfl)
theorem dX13_meet_1 : decode cX13_meet 1 = .ok (.getfield 21, 3) := dk_180 0 21 (dk_at dksX13_meet_0 1 rfl rfl)
theorem dX13_meet_4 : decode cX13_meet 4 = .ok (.bipush 8, 2) := dk_16 8 (dk_at dksX13_meet_0 4 rfl rfl)
theorem dX13_meet_6 : decode cX13_meet 6 = .ok (.iload_n 1, 1) := dk_27 (dk_at dksX13_meet_0 6 rfl rfl)
theorem dX13_meet_7 : decode cX13_meet 7 = .ok (.imul, 1) := dk_104 (dk_at dksX13_meet_0 7 rfl rfl)
theorem dX13_meet_8 : decode cX13_meet 8 = .ok (.iload_n 2, 1) := dk_28 (dk_at dksX13_meet_0 8 rfl rfl)
theorem dX13_meet_9 : decode cX13_meet 9 = .ok (.iadd, 1) := dk_96 (dk_at dksX13_meet_0 9 rfl rfl)
theorem dX13_meet_10 : decode cX13_meet 10 = .ok (.iaload, 1) := dk_46 (dk_at dksX13_meet_0 10 rfl rfl)
theorem dX13_meet_11 : decode cX13_meet 11 = .ok (.ifCond .lt 7, 3) := dk_155 0 7 (dk_at dksX13_meet_0 11 rfl rfl)
theorem dX13_meet_14 : decode cX13_meet 14 = .ok (.iconst 1, 1) := dk_4 (dk_at dksX13_meet_0 14 rfl rfl)
theorem dX13_meet_15 : decode cX13_meet 15 = .ok (.goto 4, 3) := dk_167 0 4 (dk_at dksX13_meet_0 15 rfl rfl)
theorem dX13_meet_18 : decode cX13_meet 18 = .ok (.iconst 0, 1) := dk_3 (dk_at dksX13_meet_0 18 rfl rfl)
theorem dX13_meet_19 : decode cX13_meet 19 = .ok (.ireturn, 1) := dk_172 (dk_at dksX13_meet_0 19 rfl rfl)
abbrev cX13_start : ByteArray := prog_22_method_34_code
def yX13_start : MethodName := ⟨RX13, "start", "()I"⟩
def dkwX13_start_1 : List UInt8 := [180, 0, 11, 5, 4, 79, 42, 3, 182, 0, 141, 42, 180, 0, 11, 16, 14, 46, 172]
abbrev dktX13_start_1 : List UInt8 := dkwX13_start_1 ++ []
def dkwX13_start_0 : List UInt8 := [42, 180, 0, 11, 5, 46, 4, 159, 0, 13, 42, 180, 0, 11, 16, 14, 46, 154, 0, 6, 16, 253, 172, 42]
abbrev dktX13_start_0 : List UInt8 := dkwX13_start_0 ++ dktX13_start_1
theorem dksX13_start_0 : cX13_start.data.toList.drop 0 = dktX13_start_0 := by decide +kernel
theorem dksX13_start_1 : cX13_start.data.toList.drop 24 = dktX13_start_1 := dk_seg dksX13_start_0 24 rfl rfl
theorem dX13_start_0 : decode cX13_start 0 = .ok (.aload_n 0, 1) := dk_42 (dk_at dksX13_start_0 0 rfl rfl)
theorem dX13_start_1 : decode cX13_start 1 = .ok (.getfield 11, 3) := dk_180 0 11 (dk_at dksX13_start_0 1 rfl rfl)
theorem dX13_start_4 : decode cX13_start 4 = .ok (.iconst 2, 1) := dk_5 (dk_at dksX13_start_0 4 rfl rfl)
theorem dX13_start_5 : decode cX13_start 5 = .ok (.iaload, 1) := dk_46 (dk_at dksX13_start_0 5 rfl rfl)
theorem dX13_start_6 : decode cX13_start 6 = .ok (.iconst 1, 1) := dk_4 (dk_at dksX13_start_0 6 rfl rfl)
theorem dX13_start_7 : decode cX13_start 7 = .ok (.if_icmp .eq 13, 3) := dk_159 0 13 (dk_at dksX13_start_0 7 rfl rfl)
theorem dX13_start_10 : decode cX13_start 10 = .ok (.aload_n 0, 1) := dk_42 (dk_at dksX13_start_0 10 rfl rfl)
theorem dX13_start_11 : decode cX13_start 11 = .ok (.getfield 11, 3) := dk_180 0 11 (dk_at dksX13_start_0 11 rfl rfl)
theorem dX13_start_14 : decode cX13_start 14 = .ok (.bipush 14, 2) := dk_16 14 (dk_at dksX13_start_0 14 rfl rfl)
theorem dX13_start_16 : decode cX13_start 16 = .ok (.iaload, 1) := dk_46 (dk_at dksX13_start_0 16 rfl rfl)
theorem dX13_start_17 : decode cX13_start 17 = .ok (.ifCond .ne 6, 3) := dk_154 0 6 (dk_at dksX13_start_0 17 rfl rfl)
theorem dX13_start_20 : decode cX13_start 20 = .ok (.bipush (-3), 2) := dk_16 253 (dk_at dksX13_start_0 20 rfl rfl)
theorem dX13_start_22 : decode cX13_start 22 = .ok (.ireturn, 1) := dk_172 (dk_at dksX13_start_0 22 rfl rfl)
theorem dX13_start_23 : decode cX13_start 23 = .ok (.aload_n 0, 1) := dk_42 (dk_at dksX13_start_0 23 rfl rfl)
theorem dX13_start_24 : decode cX13_start 24 = .ok (.getfield 11, 3) := dk_180 0 11 (dk_at dksX13_start_1 0 rfl rfl)
theorem dX13_start_27 : decode cX13_start 27 = .ok (.iconst 2, 1) := dk_5 (dk_at dksX13_start_1 3 rfl rfl)
theorem dX13_start_28 : decode cX13_start 28 = .ok (.iconst 1, 1) := dk_4 (dk_at dksX13_start_1 4 rfl rfl)
theorem dX13_start_29 : decode cX13_start 29 = .ok (.iastore, 1) := dk_79 (dk_at dksX13_start_1 5 rfl rfl)
theorem dX13_start_30 : decode cX13_start 30 = .ok (.aload_n 0, 1) := dk_42 (dk_at dksX13_start_1 6 rfl rfl)
theorem dX13_start_31 : decode cX13_start 31 = .ok (.iconst 0, 1) := dk_3 (dk_at dksX13_start_1 7 rfl rfl)
theorem dX13_start_32 : decode cX13_start 32 = .ok (.invokevirtual 141, 3) := dk_182 0 141 (dk_at dksX13_start_1 8 rfl rfl)
theorem dX13_start_35 : decode cX13_start 35 = .ok (.aload_n 0, 1) := dk_42 (dk_at dksX13_start_1 11 rfl rfl)
theorem dX13_start_36 : decode cX13_start 36 = .ok (.getfield 11, 3) := dk_180 0 11 (dk_at dksX13_start_1 12 rfl rfl)
theorem dX13_start_39 : decode cX13_start 39 = .ok (.bipush 14, 2) := dk_16 14 (dk_at dksX13_start_1 15 rfl rfl)
theorem dX13_start_41 : decode cX13_start 41 = .ok (.iaload, 1) := dk_46 (dk_at dksX13_start_1 17 rfl rfl)
theorem dX13_start_42 : decode cX13_start 42 = .ok (.ireturn, 1) := dk_172 (dk_at dksX13_start_1 18 rfl rfl)
abbrev cX13_comesOn : ByteArray := prog_22_method_33_code
def yX13_comesOn : MethodName := ⟨RX13, "comesOn", "(I)V"⟩
def dkwX13_comesOn_1 : List UInt8 := [79, 177]
abbrev dktX13_comesOn_1 : List UInt8 := dkwX13_comesOn_1 ++ []
def dkwX13_comesOn_0 : List UInt8 := [42, 180, 0, 11, 7, 27, 79, 42, 180, 0, 11, 17, 0, 216, 6, 27, 104, 96, 5, 96, 92, 46, 4, 96]
abbrev dktX13_comesOn_0 : List UInt8 := dkwX13_comesOn_0 ++ dktX13_comesOn_1
theorem dksX13_comesOn_0 : cX13_comesOn.data.toList.drop 0 = dktX13_comesOn_0 := by decide +kernel
theorem dksX13_comesOn_1 : cX13_comesOn.data.toList.drop 24 = dktX13_comesOn_1 := dk_seg dksX13_comesOn_0 24 rfl rfl
theorem dX13_comesOn_0 : decode cX13_comesOn 0 = .ok (.aload_n 0, 1) := dk_42 (dk_at dksX13_comesOn_0 0 rfl rfl)
theorem dX13_comesOn_1 : decode cX13_comesOn 1 = .ok (.getfield 11, 3) := dk_180 0 11 (dk_at dksX13_comesOn_0 1 rfl rfl)
theorem dX13_comesOn_4 : decode cX13_comesOn 4 = .ok (.iconst 4, 1) := dk_7 (dk_at dksX13_comesOn_0 4 rfl rfl)
theorem dX13_comesOn_5 : decode cX13_comesOn 5 = .ok (.iload_n 1, 1) := dk_27 (dk_at dksX13_comesOn_0 5 rfl rfl)
theorem dX13_comesOn_6 : decode cX13_comesOn 6 = .ok (.iastore, 1) := dk_79 (dk_at dksX13_comesOn_0 6 rfl rfl)
theorem dX13_comesOn_7 : decode cX13_comesOn 7 = .ok (.aload_n 0, 1) := dk_42 (dk_at dksX13_comesOn_0 7 rfl rfl)
theorem dX13_comesOn_8 : decode cX13_comesOn 8 = .ok (.getfield 11, 3) := dk_180 0 11 (dk_at dksX13_comesOn_0 8 rfl rfl)
theorem dX13_comesOn_11 : decode cX13_comesOn 11 = .ok (.sipush 216, 3) := dk_17 0 216 (dk_at dksX13_comesOn_0 11 rfl rfl)
theorem dX13_comesOn_14 : decode cX13_comesOn 14 = .ok (.iconst 3, 1) := dk_6 (dk_at dksX13_comesOn_0 14 rfl rfl)
theorem dX13_comesOn_15 : decode cX13_comesOn 15 = .ok (.iload_n 1, 1) := dk_27 (dk_at dksX13_comesOn_0 15 rfl rfl)
theorem dX13_comesOn_16 : decode cX13_comesOn 16 = .ok (.imul, 1) := dk_104 (dk_at dksX13_comesOn_0 16 rfl rfl)
theorem dX13_comesOn_17 : decode cX13_comesOn 17 = .ok (.iadd, 1) := dk_96 (dk_at dksX13_comesOn_0 17 rfl rfl)
theorem dX13_comesOn_18 : decode cX13_comesOn 18 = .ok (.iconst 2, 1) := dk_5 (dk_at dksX13_comesOn_0 18 rfl rfl)
theorem dX13_comesOn_19 : decode cX13_comesOn 19 = .ok (.iadd, 1) := dk_96 (dk_at dksX13_comesOn_0 19 rfl rfl)
theorem dX13_comesOn_20 : decode cX13_comesOn 20 = .ok (.dup2, 1) := dk_92 (dk_at dksX13_comesOn_0 20 rfl rfl)
theorem dX13_comesOn_21 : decode cX13_comesOn 21 = .ok (.iaload, 1) := dk_46 (dk_at dksX13_comesOn_0 21 rfl rfl)
theorem dX13_comesOn_22 : decode cX13_comesOn 22 = .ok (.iconst 1, 1) := dk_4 (dk_at dksX13_comesOn_0 22 rfl rfl)
theorem dX13_comesOn_23 : decode cX13_comesOn 23 = .ok (.iadd, 1) := dk_96 (dk_at dksX13_comesOn_0 23 rfl rfl)
theorem dX13_comesOn_24 : decode cX13_comesOn 24 = .ok (.iastore, 1) := dk_79 (dk_at dksX13_comesOn_1 0 rfl rfl)
theorem dX13_comesOn_25 : decode cX13_comesOn 25 = .ok (.return_, 1) := dk_177 (dk_at dksX13_comesOn_1 1 rfl rfl)
abbrev cX13_cycle : ByteArray := prog_22_method_54_code
def yX13_cycle : MethodName := ⟨RX13, "cycle", "(III)I"⟩
def dkwX13_cycle_3 : List UInt8 := [42, 180, 0, 11, 16, 12, 27, 154, 0, 7, 3, 167, 0, 4, 29, 79, 21, 4, 172]
abbrev dktX13_cycle_3 : List UInt8 := dkwX13_cycle_3 ++ []
def dkwX13_cycle_2 : List UInt8 := [42, 180, 0, 11, 16, 10, 27, 79, 42, 180, 0, 11, 16, 11, 27, 154, 0, 7, 3, 167, 0, 4, 28, 79]
abbrev dktX13_cycle_2 : List UInt8 := dkwX13_cycle_2 ++ dktX13_cycle_3
def dkwX13_cycle_1 : List UInt8 := [153, 0, 12, 29, 4, 27, 184, 0, 49, 154, 0, 6, 16, 254, 172, 42, 180, 0, 11, 16, 10, 46, 54, 4]
abbrev dktX13_cycle_1 : List UInt8 := dkwX13_cycle_1 ++ dktX13_cycle_2
def dkwX13_cycle_0 : List UInt8 := [27, 153, 0, 38, 27, 16, 20, 17, 0, 240, 184, 0, 49, 153, 0, 23, 28, 3, 27, 4, 100, 184, 0, 49]
abbrev dktX13_cycle_0 : List UInt8 := dkwX13_cycle_0 ++ dktX13_cycle_1
theorem dksX13_cycle_0 : cX13_cycle.data.toList.drop 0 = dktX13_cycle_0 := by decide +kernel
theorem dksX13_cycle_1 : cX13_cycle.data.toList.drop 24 = dktX13_cycle_1 := dk_seg dksX13_cycle_0 24 rfl rfl
theorem dksX13_cycle_2 : cX13_cycle.data.toList.drop 48 = dktX13_cycle_2 := dk_seg dksX13_cycle_1 24 rfl rfl
theorem dksX13_cycle_3 : cX13_cycle.data.toList.drop 72 = dktX13_cycle_3 := dk_seg dksX13_cycle_2 24 rfl rfl
theorem dX13_cycle_0 : decode cX13_cycle 0 = .ok (.iload_n 1, 1) := dk_27 (dk_at dksX13_cycle_0 0 rfl rfl)
theorem dX13_cycle_1 : decode cX13_cycle 1 = .ok (.ifCond .eq 38, 3) := dk_153 0 38 (dk_at dksX13_cycle_0 1 rfl rfl)
theorem dX13_cycle_4 : decode cX13_cycle 4 = .ok (.iload_n 1, 1) := dk_27 (dk_at dksX13_cycle_0 4 rfl rfl)
theorem dX13_cycle_5 : decode cX13_cycle 5 = .ok (.bipush 20, 2) := dk_16 20 (dk_at dksX13_cycle_0 5 rfl rfl)
theorem dX13_cycle_7 : decode cX13_cycle 7 = .ok (.sipush 240, 3) := dk_17 0 240 (dk_at dksX13_cycle_0 7 rfl rfl)
theorem dX13_cycle_10 : decode cX13_cycle 10 = .ok (.invokestatic 49, 3) := dk_184 0 49 (dk_at dksX13_cycle_0 10 rfl rfl)
theorem dX13_cycle_13 : decode cX13_cycle 13 = .ok (.ifCond .eq 23, 3) := dk_153 0 23 (dk_at dksX13_cycle_0 13 rfl rfl)
theorem dX13_cycle_16 : decode cX13_cycle 16 = .ok (.iload_n 2, 1) := dk_28 (dk_at dksX13_cycle_0 16 rfl rfl)
theorem dX13_cycle_17 : decode cX13_cycle 17 = .ok (.iconst 0, 1) := dk_3 (dk_at dksX13_cycle_0 17 rfl rfl)
theorem dX13_cycle_18 : decode cX13_cycle 18 = .ok (.iload_n 1, 1) := dk_27 (dk_at dksX13_cycle_0 18 rfl rfl)
theorem dX13_cycle_19 : decode cX13_cycle 19 = .ok (.iconst 1, 1) := dk_4 (dk_at dksX13_cycle_0 19 rfl rfl)
theorem dX13_cycle_20 : decode cX13_cycle 20 = .ok (.isub, 1) := dk_100 (dk_at dksX13_cycle_0 20 rfl rfl)
theorem dX13_cycle_21 : decode cX13_cycle 21 = .ok (.invokestatic 49, 3) := dk_184 0 49 (dk_at dksX13_cycle_0 21 rfl rfl)
theorem dX13_cycle_24 : decode cX13_cycle 24 = .ok (.ifCond .eq 12, 3) := dk_153 0 12 (dk_at dksX13_cycle_1 0 rfl rfl)
theorem dX13_cycle_27 : decode cX13_cycle 27 = .ok (.iload_n 3, 1) := dk_29 (dk_at dksX13_cycle_1 3 rfl rfl)
theorem dX13_cycle_28 : decode cX13_cycle 28 = .ok (.iconst 1, 1) := dk_4 (dk_at dksX13_cycle_1 4 rfl rfl)
theorem dX13_cycle_29 : decode cX13_cycle 29 = .ok (.iload_n 1, 1) := dk_27 (dk_at dksX13_cycle_1 5 rfl rfl)
theorem dX13_cycle_30 : decode cX13_cycle 30 = .ok (.invokestatic 49, 3) := dk_184 0 49 (dk_at dksX13_cycle_1 6 rfl rfl)
theorem dX13_cycle_33 : decode cX13_cycle 33 = .ok (.ifCond .ne 6, 3) := dk_154 0 6 (dk_at dksX13_cycle_1 9 rfl rfl)
theorem dX13_cycle_36 : decode cX13_cycle 36 = .ok (.bipush (-2), 2) := dk_16 254 (dk_at dksX13_cycle_1 12 rfl rfl)
theorem dX13_cycle_38 : decode cX13_cycle 38 = .ok (.ireturn, 1) := dk_172 (dk_at dksX13_cycle_1 14 rfl rfl)
theorem dX13_cycle_39 : decode cX13_cycle 39 = .ok (.aload_n 0, 1) := dk_42 (dk_at dksX13_cycle_1 15 rfl rfl)
theorem dX13_cycle_40 : decode cX13_cycle 40 = .ok (.getfield 11, 3) := dk_180 0 11 (dk_at dksX13_cycle_1 16 rfl rfl)
theorem dX13_cycle_43 : decode cX13_cycle 43 = .ok (.bipush 10, 2) := dk_16 10 (dk_at dksX13_cycle_1 19 rfl rfl)
theorem dX13_cycle_45 : decode cX13_cycle 45 = .ok (.iaload, 1) := dk_46 (dk_at dksX13_cycle_1 21 rfl rfl)
theorem dX13_cycle_46 : decode cX13_cycle 46 = .ok (.istore 4, 2) := dk_54 4 (dk_at dksX13_cycle_1 22 rfl rfl)
theorem dX13_cycle_48 : decode cX13_cycle 48 = .ok (.aload_n 0, 1) := dk_42 (dk_at dksX13_cycle_2 0 rfl rfl)
theorem dX13_cycle_49 : decode cX13_cycle 49 = .ok (.getfield 11, 3) := dk_180 0 11 (dk_at dksX13_cycle_2 1 rfl rfl)
theorem dX13_cycle_52 : decode cX13_cycle 52 = .ok (.bipush 10, 2) := dk_16 10 (dk_at dksX13_cycle_2 4 rfl rfl)
theorem dX13_cycle_54 : decode cX13_cycle 54 = .ok (.iload_n 1, 1) := dk_27 (dk_at dksX13_cycle_2 6 rfl rfl)
theorem dX13_cycle_55 : decode cX13_cycle 55 = .ok (.iastore, 1) := dk_79 (dk_at dksX13_cycle_2 7 rfl rfl)
theorem dX13_cycle_56 : decode cX13_cycle 56 = .ok (.aload_n 0, 1) := dk_42 (dk_at dksX13_cycle_2 8 rfl rfl)
theorem dX13_cycle_57 : decode cX13_cycle 57 = .ok (.getfield 11, 3) := dk_180 0 11 (dk_at dksX13_cycle_2 9 rfl rfl)
theorem dX13_cycle_60 : decode cX13_cycle 60 = .ok (.bipush 11, 2) := dk_16 11 (dk_at dksX13_cycle_2 12 rfl rfl)
theorem dX13_cycle_62 : decode cX13_cycle 62 = .ok (.iload_n 1, 1) := dk_27 (dk_at dksX13_cycle_2 14 rfl rfl)
theorem dX13_cycle_63 : decode cX13_cycle 63 = .ok (.ifCond .ne 7, 3) := dk_154 0 7 (dk_at dksX13_cycle_2 15 rfl rfl)
theorem dX13_cycle_66 : decode cX13_cycle 66 = .ok (.iconst 0, 1) := dk_3 (dk_at dksX13_cycle_2 18 rfl rfl)
theorem dX13_cycle_67 : decode cX13_cycle 67 = .ok (.goto 4, 3) := dk_167 0 4 (dk_at dksX13_cycle_2 19 rfl rfl)
theorem dX13_cycle_70 : decode cX13_cycle 70 = .ok (.iload_n 2, 1) := dk_28 (dk_at dksX13_cycle_2 22 rfl rfl)
theorem dX13_cycle_71 : decode cX13_cycle 71 = .ok (.iastore, 1) := dk_79 (dk_at dksX13_cycle_2 23 rfl rfl)
theorem dX13_cycle_72 : decode cX13_cycle 72 = .ok (.aload_n 0, 1) := dk_42 (dk_at dksX13_cycle_3 0 rfl rfl)
theorem dX13_cycle_73 : decode cX13_cycle 73 = .ok (.getfield 11, 3) := dk_180 0 11 (dk_at dksX13_cycle_3 1 rfl rfl)
theorem dX13_cycle_76 : decode cX13_cycle 76 = .ok (.bipush 12, 2) := dk_16 12 (dk_at dksX13_cycle_3 4 rfl rfl)
theorem dX13_cycle_78 : decode cX13_cycle 78 = .ok (.iload_n 1, 1) := dk_27 (dk_at dksX13_cycle_3 6 rfl rfl)
theorem dX13_cycle_79 : decode cX13_cycle 79 = .ok (.ifCond .ne 7, 3) := dk_154 0 7 (dk_at dksX13_cycle_3 7 rfl rfl)
theorem dX13_cycle_82 : decode cX13_cycle 82 = .ok (.iconst 0, 1) := dk_3 (dk_at dksX13_cycle_3 10 rfl rfl)
theorem dX13_cycle_83 : decode cX13_cycle 83 = .ok (.goto 4, 3) := dk_167 0 4 (dk_at dksX13_cycle_3 11 rfl rfl)
theorem dX13_cycle_86 : decode cX13_cycle 86 = .ok (.iload_n 3, 1) := dk_29 (dk_at dksX13_cycle_3 14 rfl rfl)
theorem dX13_cycle_87 : decode cX13_cycle 87 = .ok (.iastore, 1) := dk_79 (dk_at dksX13_cycle_3 15 rfl rfl)
theorem dX13_cycle_88 : decode cX13_cycle 88 = .ok (.iload 4, 2) := dk_21 4 (dk_at dksX13_cycle_3 16 rfl rfl)
theorem dX13_cycle_90 : decode cX13_cycle 90 = .ok (.ireturn, 1) := dk_172 (dk_at dksX13_cycle_3 18 rfl rfl)
abbrev cX13_come : ByteArray := prog_22_method_55_code
def yX13_come : MethodName := ⟨RX13, "come", "(II)I"⟩
def dkwX13_come_1 : List UInt8 := [182, 0, 148, 167, 0, 5, 16, 254, 172]
abbrev dktX13_come_1 : List UInt8 := dkwX13_come_1 ++ []
def dkwX13_come_0 : List UInt8 := [42, 27, 182, 0, 96, 154, 0, 5, 2, 172, 28, 4, 16, 20, 184, 0, 49, 153, 0, 12, 42, 27, 28]
abbrev dktX13_come_0 : List UInt8 := dkwX13_come_0 ++ dktX13_come_1
theorem dksX13_come_0 : cX13_come.data.toList.drop 0 = dktX13_come_0 := by decide +kernel
theorem dksX13_come_1 : cX13_come.data.toList.drop 23 = dktX13_come_1 := dk_seg dksX13_come_0 23 rfl rfl
theorem dX13_come_0 : decode cX13_come 0 = .ok (.aload_n 0, 1) := dk_42 (dk_at dksX13_come_0 0 rfl rfl)
theorem dX13_come_1 : decode cX13_come 1 = .ok (.iload_n 1, 1) := dk_27 (dk_at dksX13_come_0 1 rfl rfl)
theorem dX13_come_2 : decode cX13_come 2 = .ok (.invokevirtual 96, 3) := dk_182 0 96 (dk_at dksX13_come_0 2 rfl rfl)
theorem dX13_come_5 : decode cX13_come 5 = .ok (.ifCond .ne 5, 3) := dk_154 0 5 (dk_at dksX13_come_0 5 rfl rfl)
theorem dX13_come_8 : decode cX13_come 8 = .ok (.iconst (-1), 1) := dk_2 (dk_at dksX13_come_0 8 rfl rfl)
theorem dX13_come_9 : decode cX13_come 9 = .ok (.ireturn, 1) := dk_172 (dk_at dksX13_come_0 9 rfl rfl)
theorem dX13_come_10 : decode cX13_come 10 = .ok (.iload_n 2, 1) := dk_28 (dk_at dksX13_come_0 10 rfl rfl)
theorem dX13_come_11 : decode cX13_come 11 = .ok (.iconst 1, 1) := dk_4 (dk_at dksX13_come_0 11 rfl rfl)
theorem dX13_come_12 : decode cX13_come 12 = .ok (.bipush 20, 2) := dk_16 20 (dk_at dksX13_come_0 12 rfl rfl)
theorem dX13_come_14 : decode cX13_come 14 = .ok (.invokestatic 49, 3) := dk_184 0 49 (dk_at dksX13_come_0 14 rfl rfl)
theorem dX13_come_17 : decode cX13_come 17 = .ok (.ifCond .eq 12, 3) := dk_153 0 12 (dk_at dksX13_come_0 17 rfl rfl)
theorem dX13_come_20 : decode cX13_come 20 = .ok (.aload_n 0, 1) := dk_42 (dk_at dksX13_come_0 20 rfl rfl)
theorem dX13_come_21 : decode cX13_come 21 = .ok (.iload_n 1, 1) := dk_27 (dk_at dksX13_come_0 21 rfl rfl)
theorem dX13_come_22 : decode cX13_come 22 = .ok (.iload_n 2, 1) := dk_28 (dk_at dksX13_come_0 22 rfl rfl)
theorem dX13_come_23 : decode cX13_come 23 = .ok (.invokevirtual 148, 3) := dk_182 0 148 (dk_at dksX13_come_1 0 rfl rfl)
theorem dX13_come_26 : decode cX13_come 26 = .ok (.goto 5, 3) := dk_167 0 5 (dk_at dksX13_come_1 3 rfl rfl)
theorem dX13_come_29 : decode cX13_come 29 = .ok (.bipush (-2), 2) := dk_16 254 (dk_at dksX13_come_1 6 rfl rfl)
theorem dX13_come_31 : decode cX13_come 31 = .ok (.ireturn, 1) := dk_172 (dk_at dksX13_come_1 8 rfl rfl)
abbrev cX13_joins : ByteArray := prog_22_method_36_code
def yX13_joins : MethodName := ⟨RX13, "joins", "(II)I"⟩
def dkwX13_joins_1 : List UInt8 := [180, 0, 11, 16, 9, 92, 46, 3, 29, 16, 99, 100, 184, 0, 73, 96, 79, 42, 27, 8, 182, 0, 56, 172]
abbrev dktX13_joins_1 : List UInt8 := dkwX13_joins_1 ++ []
def dkwX13_joins_0 : List UInt8 := [42, 27, 8, 182, 0, 56, 28, 96, 62, 42, 27, 8, 16, 99, 29, 184, 0, 100, 182, 0, 85, 42]
abbrev dktX13_joins_0 : List UInt8 := dkwX13_joins_0 ++ dktX13_joins_1
theorem dksX13_joins_0 : cX13_joins.data.toList.drop 0 = dktX13_joins_0 := by decide +kernel
theorem dksX13_joins_1 : cX13_joins.data.toList.drop 22 = dktX13_joins_1 := dk_seg dksX13_joins_0 22 rfl rfl
theorem dX13_joins_0 : decode cX13_joins 0 = .ok (.aload_n 0, 1) := dk_42 (dk_at dksX13_joins_0 0 rfl rfl)
theorem dX13_joins_1 : decode cX13_joins 1 = .ok (.iload_n 1, 1) := dk_27 (dk_at dksX13_joins_0 1 rfl rfl)
theorem dX13_joins_2 : decode cX13_joins 2 = .ok (.iconst 5, 1) := dk_8 (dk_at dksX13_joins_0 2 rfl rfl)
theorem dX13_joins_3 : decode cX13_joins 3 = .ok (.invokevirtual 56, 3) := dk_182 0 56 (dk_at dksX13_joins_0 3 rfl rfl)
theorem dX13_joins_6 : decode cX13_joins 6 = .ok (.iload_n 2, 1) := dk_28 (dk_at dksX13_joins_0 6 rfl rfl)
theorem dX13_joins_7 : decode cX13_joins 7 = .ok (.iadd, 1) := dk_96 (dk_at dksX13_joins_0 7 rfl rfl)
theorem dX13_joins_8 : decode cX13_joins 8 = .ok (.istore_n 3, 1) := dk_62 (dk_at dksX13_joins_0 8 rfl rfl)
theorem dX13_joins_9 : decode cX13_joins 9 = .ok (.aload_n 0, 1) := dk_42 (dk_at dksX13_joins_0 9 rfl rfl)
theorem dX13_joins_10 : decode cX13_joins 10 = .ok (.iload_n 1, 1) := dk_27 (dk_at dksX13_joins_0 10 rfl rfl)
theorem dX13_joins_11 : decode cX13_joins 11 = .ok (.iconst 5, 1) := dk_8 (dk_at dksX13_joins_0 11 rfl rfl)
theorem dX13_joins_12 : decode cX13_joins 12 = .ok (.bipush 99, 2) := dk_16 99 (dk_at dksX13_joins_0 12 rfl rfl)
theorem dX13_joins_14 : decode cX13_joins 14 = .ok (.iload_n 3, 1) := dk_29 (dk_at dksX13_joins_0 14 rfl rfl)
theorem dX13_joins_15 : decode cX13_joins 15 = .ok (.invokestatic 100, 3) := dk_184 0 100 (dk_at dksX13_joins_0 15 rfl rfl)
theorem dX13_joins_18 : decode cX13_joins 18 = .ok (.invokevirtual 85, 3) := dk_182 0 85 (dk_at dksX13_joins_0 18 rfl rfl)
theorem dX13_joins_21 : decode cX13_joins 21 = .ok (.aload_n 0, 1) := dk_42 (dk_at dksX13_joins_0 21 rfl rfl)
theorem dX13_joins_22 : decode cX13_joins 22 = .ok (.getfield 11, 3) := dk_180 0 11 (dk_at dksX13_joins_1 0 rfl rfl)
theorem dX13_joins_25 : decode cX13_joins 25 = .ok (.bipush 9, 2) := dk_16 9 (dk_at dksX13_joins_1 3 rfl rfl)
theorem dX13_joins_27 : decode cX13_joins 27 = .ok (.dup2, 1) := dk_92 (dk_at dksX13_joins_1 5 rfl rfl)
theorem dX13_joins_28 : decode cX13_joins 28 = .ok (.iaload, 1) := dk_46 (dk_at dksX13_joins_1 6 rfl rfl)
theorem dX13_joins_29 : decode cX13_joins 29 = .ok (.iconst 0, 1) := dk_3 (dk_at dksX13_joins_1 7 rfl rfl)
theorem dX13_joins_30 : decode cX13_joins 30 = .ok (.iload_n 3, 1) := dk_29 (dk_at dksX13_joins_1 8 rfl rfl)
theorem dX13_joins_31 : decode cX13_joins 31 = .ok (.bipush 99, 2) := dk_16 99 (dk_at dksX13_joins_1 9 rfl rfl)
theorem dX13_joins_33 : decode cX13_joins 33 = .ok (.isub, 1) := dk_100 (dk_at dksX13_joins_1 11 rfl rfl)
theorem dX13_joins_34 : decode cX13_joins 34 = .ok (.invokestatic 73, 3) := dk_184 0 73 (dk_at dksX13_joins_1 12 rfl rfl)
theorem dX13_joins_37 : decode cX13_joins 37 = .ok (.iadd, 1) := dk_96 (dk_at dksX13_joins_1 15 rfl rfl)
theorem dX13_joins_38 : decode cX13_joins 38 = .ok (.iastore, 1) := dk_79 (dk_at dksX13_joins_1 16 rfl rfl)
theorem dX13_joins_39 : decode cX13_joins 39 = .ok (.aload_n 0, 1) := dk_42 (dk_at dksX13_joins_1 17 rfl rfl)
theorem dX13_joins_40 : decode cX13_joins 40 = .ok (.iload_n 1, 1) := dk_27 (dk_at dksX13_joins_1 18 rfl rfl)
theorem dX13_joins_41 : decode cX13_joins 41 = .ok (.iconst 5, 1) := dk_8 (dk_at dksX13_joins_1 19 rfl rfl)
theorem dX13_joins_42 : decode cX13_joins 42 = .ok (.invokevirtual 56, 3) := dk_182 0 56 (dk_at dksX13_joins_1 20 rfl rfl)
theorem dX13_joins_45 : decode cX13_joins 45 = .ok (.ireturn, 1) := dk_172 (dk_at dksX13_joins_1 23 rfl rfl)
abbrev cX13_seed : ByteArray := prog_22_method_56_code
def yX13_seed : MethodName := ⟨RX13, "seed", "(I)I"⟩
def dkwX13_seed_0 : List UInt8 := [42, 180, 0, 11, 3, 46, 61, 42, 180, 0, 11, 3, 27, 79, 28, 172]
abbrev dktX13_seed_0 : List UInt8 := dkwX13_seed_0 ++ []
theorem dksX13_seed_0 : cX13_seed.data.toList.drop 0 = dktX13_seed_0 := by decide +kernel
theorem dX13_seed_0 : decode cX13_seed 0 = .ok (.aload_n 0, 1) := dk_42 (dk_at dksX13_seed_0 0 rfl rfl)
theorem dX13_seed_1 : decode cX13_seed 1 = .ok (.getfield 11, 3) := dk_180 0 11 (dk_at dksX13_seed_0 1 rfl rfl)
theorem dX13_seed_4 : decode cX13_seed 4 = .ok (.iconst 0, 1) := dk_3 (dk_at dksX13_seed_0 4 rfl rfl)
theorem dX13_seed_5 : decode cX13_seed 5 = .ok (.iaload, 1) := dk_46 (dk_at dksX13_seed_0 5 rfl rfl)
theorem dX13_seed_6 : decode cX13_seed 6 = .ok (.istore_n 2, 1) := dk_61 (dk_at dksX13_seed_0 6 rfl rfl)
theorem dX13_seed_7 : decode cX13_seed 7 = .ok (.aload_n 0, 1) := dk_42 (dk_at dksX13_seed_0 7 rfl rfl)
theorem dX13_seed_8 : decode cX13_seed 8 = .ok (.getfield 11, 3) := dk_180 0 11 (dk_at dksX13_seed_0 8 rfl rfl)
theorem dX13_seed_11 : decode cX13_seed 11 = .ok (.iconst 0, 1) := dk_3 (dk_at dksX13_seed_0 11 rfl rfl)
theorem dX13_seed_12 : decode cX13_seed 12 = .ok (.iload_n 1, 1) := dk_27 (dk_at dksX13_seed_0 12 rfl rfl)
theorem dX13_seed_13 : decode cX13_seed 13 = .ok (.iastore, 1) := dk_79 (dk_at dksX13_seed_0 13 rfl rfl)
theorem dX13_seed_14 : decode cX13_seed 14 = .ok (.iload_n 2, 1) := dk_28 (dk_at dksX13_seed_0 14 rfl rfl)
theorem dX13_seed_15 : decode cX13_seed 15 = .ok (.ireturn, 1) := dk_172 (dk_at dksX13_seed_0 15 rfl rfl)
abbrev cX13_emergency : ByteArray := prog_22_method_57_code
def yX13_emergency : MethodName := ⟨RX13, "emergency", "(I)I"⟩
def dkwX13_emergency_2 : List UInt8 := [79, 42, 27, 182, 0, 160, 172]
abbrev dktX13_emergency_2 : List UInt8 := dkwX13_emergency_2 ++ []
def dkwX13_emergency_1 : List UInt8 := [16, 6, 46, 156, 0, 11, 42, 27, 182, 0, 160, 156, 0, 6, 16, 253, 172, 42, 180, 0, 11, 16, 6, 27]
abbrev dktX13_emergency_1 : List UInt8 := dkwX13_emergency_1 ++ dktX13_emergency_2
def dkwX13_emergency_0 : List UInt8 := [42, 27, 182, 0, 96, 154, 0, 5, 2, 172, 42, 180, 0, 11, 5, 46, 153, 0, 21, 42, 180, 0, 11]
abbrev dktX13_emergency_0 : List UInt8 := dkwX13_emergency_0 ++ dktX13_emergency_1
theorem dksX13_emergency_0 : cX13_emergency.data.toList.drop 0 = dktX13_emergency_0 := by decide +kernel
theorem dksX13_emergency_1 : cX13_emergency.data.toList.drop 23 = dktX13_emergency_1 := dk_seg dksX13_emergency_0 23 rfl rfl
theorem dksX13_emergency_2 : cX13_emergency.data.toList.drop 47 = dktX13_emergency_2 := dk_seg dksX13_emergency_1 24 rfl rfl
theorem dX13_emergency_0 : decode cX13_emergency 0 = .ok (.aload_n 0, 1) := dk_42 (dk_at dksX13_emergency_0 0 rfl rfl)
theorem dX13_emergency_1 : decode cX13_emergency 1 = .ok (.iload_n 1, 1) := dk_27 (dk_at dksX13_emergency_0 1 rfl rfl)
theorem dX13_emergency_2 : decode cX13_emergency 2 = .ok (.invokevirtual 96, 3) := dk_182 0 96 (dk_at dksX13_emergency_0 2 rfl rfl)
theorem dX13_emergency_5 : decode cX13_emergency 5 = .ok (.ifCond .ne 5, 3) := dk_154 0 5 (dk_at dksX13_emergency_0 5 rfl rfl)
theorem dX13_emergency_8 : decode cX13_emergency 8 = .ok (.iconst (-1), 1) := dk_2 (dk_at dksX13_emergency_0 8 rfl rfl)
theorem dX13_emergency_9 : decode cX13_emergency 9 = .ok (.ireturn, 1) := dk_172 (dk_at dksX13_emergency_0 9 rfl rfl)
theorem dX13_emergency_10 : decode cX13_emergency 10 = .ok (.aload_n 0, 1) := dk_42 (dk_at dksX13_emergency_0 10 rfl rfl)
theorem dX13_emergency_11 : decode cX13_emergency 11 = .ok (.getfield 11, 3) := dk_180 0 11 (dk_at dksX13_emergency_0 11 rfl rfl)
theorem dX13_emergency_14 : decode cX13_emergency 14 = .ok (.iconst 2, 1) := dk_5 (dk_at dksX13_emergency_0 14 rfl rfl)
theorem dX13_emergency_15 : decode cX13_emergency 15 = .ok (.iaload, 1) := dk_46 (dk_at dksX13_emergency_0 15 rfl rfl)
theorem dX13_emergency_16 : decode cX13_emergency 16 = .ok (.ifCond .eq 21, 3) := dk_153 0 21 (dk_at dksX13_emergency_0 16 rfl rfl)
theorem dX13_emergency_19 : decode cX13_emergency 19 = .ok (.aload_n 0, 1) := dk_42 (dk_at dksX13_emergency_0 19 rfl rfl)
theorem dX13_emergency_20 : decode cX13_emergency 20 = .ok (.getfield 11, 3) := dk_180 0 11 (dk_at dksX13_emergency_0 20 rfl rfl)
theorem dX13_emergency_23 : decode cX13_emergency 23 = .ok (.bipush 6, 2) := dk_16 6 (dk_at dksX13_emergency_1 0 rfl rfl)
theorem dX13_emergency_25 : decode cX13_emergency 25 = .ok (.iaload, 1) := dk_46 (dk_at dksX13_emergency_1 2 rfl rfl)
theorem dX13_emergency_26 : decode cX13_emergency 26 = .ok (.ifCond .ge 11, 3) := dk_156 0 11 (dk_at dksX13_emergency_1 3 rfl rfl)
theorem dX13_emergency_29 : decode cX13_emergency 29 = .ok (.aload_n 0, 1) := dk_42 (dk_at dksX13_emergency_1 6 rfl rfl)
theorem dX13_emergency_30 : decode cX13_emergency 30 = .ok (.iload_n 1, 1) := dk_27 (dk_at dksX13_emergency_1 7 rfl rfl)
theorem dX13_emergency_31 : decode cX13_emergency 31 = .ok (.invokevirtual 160, 3) := dk_182 0 160 (dk_at dksX13_emergency_1 8 rfl rfl)
theorem dX13_emergency_34 : decode cX13_emergency 34 = .ok (.ifCond .ge 6, 3) := dk_156 0 6 (dk_at dksX13_emergency_1 11 rfl rfl)
theorem dX13_emergency_37 : decode cX13_emergency 37 = .ok (.bipush (-3), 2) := dk_16 253 (dk_at dksX13_emergency_1 14 rfl rfl)
theorem dX13_emergency_39 : decode cX13_emergency 39 = .ok (.ireturn, 1) := dk_172 (dk_at dksX13_emergency_1 16 rfl rfl)
theorem dX13_emergency_40 : decode cX13_emergency 40 = .ok (.aload_n 0, 1) := dk_42 (dk_at dksX13_emergency_1 17 rfl rfl)
theorem dX13_emergency_41 : decode cX13_emergency 41 = .ok (.getfield 11, 3) := dk_180 0 11 (dk_at dksX13_emergency_1 18 rfl rfl)
theorem dX13_emergency_44 : decode cX13_emergency 44 = .ok (.bipush 6, 2) := dk_16 6 (dk_at dksX13_emergency_1 21 rfl rfl)
theorem dX13_emergency_46 : decode cX13_emergency 46 = .ok (.iload_n 1, 1) := dk_27 (dk_at dksX13_emergency_1 23 rfl rfl)
theorem dX13_emergency_47 : decode cX13_emergency 47 = .ok (.iastore, 1) := dk_79 (dk_at dksX13_emergency_2 0 rfl rfl)
theorem dX13_emergency_48 : decode cX13_emergency 48 = .ok (.aload_n 0, 1) := dk_42 (dk_at dksX13_emergency_2 1 rfl rfl)
theorem dX13_emergency_49 : decode cX13_emergency 49 = .ok (.iload_n 1, 1) := dk_27 (dk_at dksX13_emergency_2 2 rfl rfl)
theorem dX13_emergency_50 : decode cX13_emergency 50 = .ok (.invokevirtual 160, 3) := dk_182 0 160 (dk_at dksX13_emergency_2 3 rfl rfl)
theorem dX13_emergency_53 : decode cX13_emergency 53 = .ok (.ireturn, 1) := dk_172 (dk_at dksX13_emergency_2 6 rfl rfl)
abbrev cX13_firstWith : ByteArray := prog_22_method_41_code
def yX13_firstWith : MethodName := ⟨RX13, "firstWith", "(I)I"⟩
def dkwX13_firstWith_1 : List UInt8 := [153, 0, 5, 28, 172, 132, 2, 1, 167, 255, 228, 16, 251, 172]
abbrev dktX13_firstWith_1 : List UInt8 := dkwX13_firstWith_1 ++ []
def dkwX13_firstWith_0 : List UInt8 := [3, 61, 28, 42, 180, 0, 11, 16, 14, 46, 162, 0, 23, 42, 28, 182, 0, 151, 27, 184, 0, 132]
abbrev dktX13_firstWith_0 : List UInt8 := dkwX13_firstWith_0 ++ dktX13_firstWith_1
theorem dksX13_firstWith_0 : cX13_firstWith.data.toList.drop 0 = dktX13_firstWith_0 := by decide +kernel
theorem dksX13_firstWith_1 : cX13_firstWith.data.toList.drop 22 = dktX13_firstWith_1 := dk_seg dksX13_firstWith_0 22 rfl rfl
theorem dX13_firstWith_0 : decode cX13_firstWith 0 = .ok (.iconst 0, 1) := dk_3 (dk_at dksX13_firstWith_0 0 rfl rfl)
theorem dX13_firstWith_1 : decode cX13_firstWith 1 = .ok (.istore_n 2, 1) := dk_61 (dk_at dksX13_firstWith_0 1 rfl rfl)
theorem dX13_firstWith_2 : decode cX13_firstWith 2 = .ok (.iload_n 2, 1) := dk_28 (dk_at dksX13_firstWith_0 2 rfl rfl)
theorem dX13_firstWith_3 : decode cX13_firstWith 3 = .ok (.aload_n 0, 1) := dk_42 (dk_at dksX13_firstWith_0 3 rfl rfl)
theorem dX13_firstWith_4 : decode cX13_firstWith 4 = .ok (.getfield 11, 3) := dk_180 0 11 (dk_at dksX13_firstWith_0 4 rfl rfl)
theorem dX13_firstWith_7 : decode cX13_firstWith 7 = .ok (.bipush 14, 2) := dk_16 14 (dk_at dksX13_firstWith_0 7 rfl rfl)
theorem dX13_firstWith_9 : decode cX13_firstWith 9 = .ok (.iaload, 1) := dk_46 (dk_at dksX13_firstWith_0 9 rfl rfl)
theorem dX13_firstWith_10 : decode cX13_firstWith 10 = .ok (.if_icmp .ge 23, 3) := dk_162 0 23 (dk_at dksX13_firstWith_0 10 rfl rfl)
theorem dX13_firstWith_13 : decode cX13_firstWith 13 = .ok (.aload_n 0, 1) := dk_42 (dk_at dksX13_firstWith_0 13 rfl rfl)
theorem dX13_firstWith_14 : decode cX13_firstWith 14 = .ok (.iload_n 2, 1) := dk_28 (dk_at dksX13_firstWith_0 14 rfl rfl)
theorem dX13_firstWith_15 : decode cX13_firstWith 15 = .ok (.invokevirtual 151, 3) := dk_182 0 151 (dk_at dksX13_firstWith_0 15 rfl rfl)
theorem dX13_firstWith_18 : decode cX13_firstWith 18 = .ok (.iload_n 1, 1) := dk_27 (dk_at dksX13_firstWith_0 18 rfl rfl)
theorem dX13_firstWith_19 : decode cX13_firstWith 19 = .ok (.invokestatic 132, 3) := dk_184 0 132 (dk_at dksX13_firstWith_0 19 rfl rfl)
theorem dX13_firstWith_22 : decode cX13_firstWith 22 = .ok (.ifCond .eq 5, 3) := dk_153 0 5 (dk_at dksX13_firstWith_1 0 rfl rfl)
theorem dX13_firstWith_25 : decode cX13_firstWith 25 = .ok (.iload_n 2, 1) := dk_28 (dk_at dksX13_firstWith_1 3 rfl rfl)
theorem dX13_firstWith_26 : decode cX13_firstWith 26 = .ok (.ireturn, 1) := dk_172 (dk_at dksX13_firstWith_1 4 rfl rfl)
theorem dX13_firstWith_27 : decode cX13_firstWith 27 = .ok (.iinc 2 1, 3) := dk_132 2 1 (dk_at dksX13_firstWith_1 5 rfl rfl)
theorem dX13_firstWith_30 : decode cX13_firstWith 30 = .ok (.goto (-28), 3) := dk_167 255 228 (dk_at dksX13_firstWith_1 8 rfl rfl)
theorem dX13_firstWith_33 : decode cX13_firstWith 33 = .ok (.bipush (-5), 2) := dk_16 251 (dk_at dksX13_firstWith_1 11 rfl rfl)
theorem dX13_firstWith_35 : decode cX13_firstWith 35 = .ok (.ireturn, 1) := dk_172 (dk_at dksX13_firstWith_1 13 rfl rfl)
abbrev cX13_setOf : ByteArray := prog_22_method_8_code
def yX13_setOf : MethodName := ⟨RX13, "setOf", "(I)I"⟩
def dkwX13_setOf_0 : List UInt8 := [42, 180, 0, 11, 17, 0, 216, 6, 27, 104, 96, 46, 172]
abbrev dktX13_setOf_0 : List UInt8 := dkwX13_setOf_0 ++ []
theorem dksX13_setOf_0 : cX13_setOf.data.toList.drop 0 = dktX13_setOf_0 := by decide +kernel
theorem dX13_setOf_0 : decode cX13_setOf 0 = .ok (.aload_n 0, 1) := dk_42 (dk_at dksX13_setOf_0 0 rfl rfl)
theorem dX13_setOf_1 : decode cX13_setOf 1 = .ok (.getfield 11, 3) := dk_180 0 11 (dk_at dksX13_setOf_0 1 rfl rfl)
theorem dX13_setOf_4 : decode cX13_setOf 4 = .ok (.sipush 216, 3) := dk_17 0 216 (dk_at dksX13_setOf_0 4 rfl rfl)
theorem dX13_setOf_7 : decode cX13_setOf 7 = .ok (.iconst 3, 1) := dk_6 (dk_at dksX13_setOf_0 7 rfl rfl)
theorem dX13_setOf_8 : decode cX13_setOf 8 = .ok (.iload_n 1, 1) := dk_27 (dk_at dksX13_setOf_0 8 rfl rfl)
theorem dX13_setOf_9 : decode cX13_setOf 9 = .ok (.imul, 1) := dk_104 (dk_at dksX13_setOf_0 9 rfl rfl)
theorem dX13_setOf_10 : decode cX13_setOf 10 = .ok (.iadd, 1) := dk_96 (dk_at dksX13_setOf_0 10 rfl rfl)
theorem dX13_setOf_11 : decode cX13_setOf 11 = .ok (.iaload, 1) := dk_46 (dk_at dksX13_setOf_0 11 rfl rfl)
theorem dX13_setOf_12 : decode cX13_setOf 12 = .ok (.ireturn, 1) := dk_172 (dk_at dksX13_setOf_0 12 rfl rfl)
abbrev cX13_over : ByteArray := prog_22_method_58_code
def yX13_over : MethodName := ⟨RX13, "over", "()I"⟩
def dkwX13_over_1 : List UInt8 := [180, 0, 11, 16, 6, 16, 251, 79, 27, 172]
abbrev dktX13_over_1 : List UInt8 := dkwX13_over_1 ++ []
def dkwX13_over_0 : List UInt8 := [42, 180, 0, 11, 16, 6, 46, 156, 0, 6, 16, 253, 172, 42, 180, 0, 11, 16, 6, 46, 60, 42]
abbrev dktX13_over_0 : List UInt8 := dkwX13_over_0 ++ dktX13_over_1
theorem dksX13_over_0 : cX13_over.data.toList.drop 0 = dktX13_over_0 := by decide +kernel
theorem dksX13_over_1 : cX13_over.data.toList.drop 22 = dktX13_over_1 := dk_seg dksX13_over_0 22 rfl rfl
theorem dX13_over_0 : decode cX13_over 0 = .ok (.aload_n 0, 1) := dk_42 (dk_at dksX13_over_0 0 rfl rfl)
theorem dX13_over_1 : decode cX13_over 1 = .ok (.getfield 11, 3) := dk_180 0 11 (dk_at dksX13_over_0 1 rfl rfl)
theorem dX13_over_4 : decode cX13_over 4 = .ok (.bipush 6, 2) := dk_16 6 (dk_at dksX13_over_0 4 rfl rfl)
theorem dX13_over_6 : decode cX13_over 6 = .ok (.iaload, 1) := dk_46 (dk_at dksX13_over_0 6 rfl rfl)
theorem dX13_over_7 : decode cX13_over 7 = .ok (.ifCond .ge 6, 3) := dk_156 0 6 (dk_at dksX13_over_0 7 rfl rfl)
theorem dX13_over_10 : decode cX13_over 10 = .ok (.bipush (-3), 2) := dk_16 253 (dk_at dksX13_over_0 10 rfl rfl)
theorem dX13_over_12 : decode cX13_over 12 = .ok (.ireturn, 1) := dk_172 (dk_at dksX13_over_0 12 rfl rfl)
theorem dX13_over_13 : decode cX13_over 13 = .ok (.aload_n 0, 1) := dk_42 (dk_at dksX13_over_0 13 rfl rfl)
theorem dX13_over_14 : decode cX13_over 14 = .ok (.getfield 11, 3) := dk_180 0 11 (dk_at dksX13_over_0 14 rfl rfl)
theorem dX13_over_17 : decode cX13_over 17 = .ok (.bipush 6, 2) := dk_16 6 (dk_at dksX13_over_0 17 rfl rfl)
theorem dX13_over_19 : decode cX13_over 19 = .ok (.iaload, 1) := dk_46 (dk_at dksX13_over_0 19 rfl rfl)
theorem dX13_over_20 : decode cX13_over 20 = .ok (.istore_n 1, 1) := dk_60 (dk_at dksX13_over_0 20 rfl rfl)
theorem dX13_over_21 : decode cX13_over 21 = .ok (.aload_n 0, 1) := dk_42 (dk_at dksX13_over_0 21 rfl rfl)
theorem dX13_over_22 : decode cX13_over 22 = .ok (.getfield 11, 3) := dk_180 0 11 (dk_at dksX13_over_1 0 rfl rfl)
theorem dX13_over_25 : decode cX13_over 25 = .ok (.bipush 6, 2) := dk_16 6 (dk_at dksX13_over_1 3 rfl rfl)
theorem dX13_over_27 : decode cX13_over 27 = .ok (.bipush (-5), 2) := dk_16 251 (dk_at dksX13_over_1 5 rfl rfl)
theorem dX13_over_29 : decode cX13_over 29 = .ok (.iastore, 1) := dk_79 (dk_at dksX13_over_1 7 rfl rfl)
theorem dX13_over_30 : decode cX13_over 30 = .ok (.iload_n 1, 1) := dk_27 (dk_at dksX13_over_1 8 rfl rfl)
theorem dX13_over_31 : decode cX13_over 31 = .ok (.ireturn, 1) := dk_172 (dk_at dksX13_over_1 9 rfl rfl)
abbrev cX13_pass : ByteArray := prog_22_method_59_code
def yX13_pass : MethodName := ⟨RX13, "pass", "(I)I"⟩
def dkwX13_pass_2 : List UInt8 := [182, 0, 206, 42, 180, 0, 11, 16, 8, 46, 28, 100, 172]
abbrev dktX13_pass_2 : List UInt8 := dkwX13_pass_2 ++ []
def dkwX13_pass_1 : List UInt8 := [172, 42, 27, 182, 0, 203, 154, 0, 6, 16, 252, 172, 42, 180, 0, 11, 16, 8, 46, 61, 42, 27]
abbrev dktX13_pass_1 : List UInt8 := dkwX13_pass_1 ++ dktX13_pass_2
def dkwX13_pass_0 : List UInt8 := [27, 3, 16, 99, 184, 0, 49, 154, 0, 6, 16, 254, 172, 42, 180, 0, 11, 5, 46, 154, 0, 6, 16, 253]
abbrev dktX13_pass_0 : List UInt8 := dkwX13_pass_0 ++ dktX13_pass_1
theorem dksX13_pass_0 : cX13_pass.data.toList.drop 0 = dktX13_pass_0 := by decide +kernel
theorem dksX13_pass_1 : cX13_pass.data.toList.drop 24 = dktX13_pass_1 := dk_seg dksX13_pass_0 24 rfl rfl
theorem dksX13_pass_2 : cX13_pass.data.toList.drop 46 = dktX13_pass_2 := dk_seg dksX13_pass_1 22 rfl rfl
theorem dX13_pass_0 : decode cX13_pass 0 = .ok (.iload_n 1, 1) := dk_27 (dk_at dksX13_pass_0 0 rfl rfl)
theorem dX13_pass_1 : decode cX13_pass 1 = .ok (.iconst 0, 1) := dk_3 (dk_at dksX13_pass_0 1 rfl rfl)
theorem dX13_pass_2 : decode cX13_pass 2 = .ok (.bipush 99, 2) := dk_16 99 (dk_at dksX13_pass_0 2 rfl rfl)
theorem dX13_pass_4 : decode cX13_pass 4 = .ok (.invokestatic 49, 3) := dk_184 0 49 (dk_at dksX13_pass_0 4 rfl rfl)
theorem dX13_pass_7 : decode cX13_pass 7 = .ok (.ifCond .ne 6, 3) := dk_154 0 6 (dk_at dksX13_pass_0 7 rfl rfl)
theorem dX13_pass_10 : decode cX13_pass 10 = .ok (.bipush (-2), 2) := dk_16 254 (dk_at dksX13_pass_0 10 rfl rfl)
theorem dX13_pass_12 : decode cX13_pass 12 = .ok (.ireturn, 1) := dk_172 (dk_at dksX13_pass_0 12 rfl rfl)
theorem dX13_pass_13 : decode cX13_pass 13 = .ok (.aload_n 0, 1) := dk_42 (dk_at dksX13_pass_0 13 rfl rfl)
theorem dX13_pass_14 : decode cX13_pass 14 = .ok (.getfield 11, 3) := dk_180 0 11 (dk_at dksX13_pass_0 14 rfl rfl)
theorem dX13_pass_17 : decode cX13_pass 17 = .ok (.iconst 2, 1) := dk_5 (dk_at dksX13_pass_0 17 rfl rfl)
theorem dX13_pass_18 : decode cX13_pass 18 = .ok (.iaload, 1) := dk_46 (dk_at dksX13_pass_0 18 rfl rfl)
theorem dX13_pass_19 : decode cX13_pass 19 = .ok (.ifCond .ne 6, 3) := dk_154 0 6 (dk_at dksX13_pass_0 19 rfl rfl)
theorem dX13_pass_22 : decode cX13_pass 22 = .ok (.bipush (-3), 2) := dk_16 253 (dk_at dksX13_pass_0 22 rfl rfl)
theorem dX13_pass_24 : decode cX13_pass 24 = .ok (.ireturn, 1) := dk_172 (dk_at dksX13_pass_1 0 rfl rfl)
theorem dX13_pass_25 : decode cX13_pass 25 = .ok (.aload_n 0, 1) := dk_42 (dk_at dksX13_pass_1 1 rfl rfl)
theorem dX13_pass_26 : decode cX13_pass 26 = .ok (.iload_n 1, 1) := dk_27 (dk_at dksX13_pass_1 2 rfl rfl)
theorem dX13_pass_27 : decode cX13_pass 27 = .ok (.invokevirtual 203, 3) := dk_182 0 203 (dk_at dksX13_pass_1 3 rfl rfl)
theorem dX13_pass_30 : decode cX13_pass 30 = .ok (.ifCond .ne 6, 3) := dk_154 0 6 (dk_at dksX13_pass_1 6 rfl rfl)
theorem dX13_pass_33 : decode cX13_pass 33 = .ok (.bipush (-4), 2) := dk_16 252 (dk_at dksX13_pass_1 9 rfl rfl)
theorem dX13_pass_35 : decode cX13_pass 35 = .ok (.ireturn, 1) := dk_172 (dk_at dksX13_pass_1 11 rfl rfl)
theorem dX13_pass_36 : decode cX13_pass 36 = .ok (.aload_n 0, 1) := dk_42 (dk_at dksX13_pass_1 12 rfl rfl)
theorem dX13_pass_37 : decode cX13_pass 37 = .ok (.getfield 11, 3) := dk_180 0 11 (dk_at dksX13_pass_1 13 rfl rfl)
theorem dX13_pass_40 : decode cX13_pass 40 = .ok (.bipush 8, 2) := dk_16 8 (dk_at dksX13_pass_1 16 rfl rfl)
theorem dX13_pass_42 : decode cX13_pass 42 = .ok (.iaload, 1) := dk_46 (dk_at dksX13_pass_1 18 rfl rfl)
theorem dX13_pass_43 : decode cX13_pass 43 = .ok (.istore_n 2, 1) := dk_61 (dk_at dksX13_pass_1 19 rfl rfl)
theorem dX13_pass_44 : decode cX13_pass 44 = .ok (.aload_n 0, 1) := dk_42 (dk_at dksX13_pass_1 20 rfl rfl)
theorem dX13_pass_45 : decode cX13_pass 45 = .ok (.iload_n 1, 1) := dk_27 (dk_at dksX13_pass_1 21 rfl rfl)
theorem dX13_pass_46 : decode cX13_pass 46 = .ok (.invokevirtual 206, 3) := dk_182 0 206 (dk_at dksX13_pass_2 0 rfl rfl)
theorem dX13_pass_49 : decode cX13_pass 49 = .ok (.aload_n 0, 1) := dk_42 (dk_at dksX13_pass_2 3 rfl rfl)
theorem dX13_pass_50 : decode cX13_pass 50 = .ok (.getfield 11, 3) := dk_180 0 11 (dk_at dksX13_pass_2 4 rfl rfl)
theorem dX13_pass_53 : decode cX13_pass 53 = .ok (.bipush 8, 2) := dk_16 8 (dk_at dksX13_pass_2 7 rfl rfl)
theorem dX13_pass_55 : decode cX13_pass 55 = .ok (.iaload, 1) := dk_46 (dk_at dksX13_pass_2 9 rfl rfl)
theorem dX13_pass_56 : decode cX13_pass 56 = .ok (.iload_n 2, 1) := dk_28 (dk_at dksX13_pass_2 10 rfl rfl)
theorem dX13_pass_57 : decode cX13_pass 57 = .ok (.isub, 1) := dk_100 (dk_at dksX13_pass_2 11 rfl rfl)
theorem dX13_pass_58 : decode cX13_pass 58 = .ok (.ireturn, 1) := dk_172 (dk_at dksX13_pass_2 12 rfl rfl)
abbrev cX13_counts : ByteArray := prog_22_method_53_code
def yX13_counts : MethodName := ⟨RX13, "counts", "(I)Z"⟩
def dkwX13_counts_1 : List UInt8 := [4, 172]
abbrev dktX13_counts_1 : List UInt8 := dkwX13_counts_1 ++ []
def dkwX13_counts_0 : List UInt8 := [42, 180, 0, 200, 27, 96, 17, 46, 224, 164, 0, 5, 3, 172, 42, 89, 180, 0, 200, 27, 96, 181, 0, 200]
abbrev dktX13_counts_0 : List UInt8 := dkwX13_counts_0 ++ dktX13_counts_1
theorem dksX13_counts_0 : cX13_counts.data.toList.drop 0 = dktX13_counts_0 := by decide +kernel
theorem dksX13_counts_1 : cX13_counts.data.toList.drop 24 = dktX13_counts_1 := dk_seg dksX13_counts_0 24 rfl rfl
theorem dX13_counts_0 : decode cX13_counts 0 = .ok (.aload_n 0, 1) := dk_42 (dk_at dksX13_counts_0 0 rfl rfl)
theorem dX13_counts_1 : decode cX13_counts 1 = .ok (.getfield 200, 3) := dk_180 0 200 (dk_at dksX13_counts_0 1 rfl rfl)
theorem dX13_counts_4 : decode cX13_counts 4 = .ok (.iload_n 1, 1) := dk_27 (dk_at dksX13_counts_0 4 rfl rfl)
theorem dX13_counts_5 : decode cX13_counts 5 = .ok (.iadd, 1) := dk_96 (dk_at dksX13_counts_0 5 rfl rfl)
theorem dX13_counts_6 : decode cX13_counts 6 = .ok (.sipush 12000, 3) := dk_17 46 224 (dk_at dksX13_counts_0 6 rfl rfl)
theorem dX13_counts_9 : decode cX13_counts 9 = .ok (.if_icmp .le 5, 3) := dk_164 0 5 (dk_at dksX13_counts_0 9 rfl rfl)
theorem dX13_counts_12 : decode cX13_counts 12 = .ok (.iconst 0, 1) := dk_3 (dk_at dksX13_counts_0 12 rfl rfl)
theorem dX13_counts_13 : decode cX13_counts 13 = .ok (.ireturn, 1) := dk_172 (dk_at dksX13_counts_0 13 rfl rfl)
theorem dX13_counts_14 : decode cX13_counts 14 = .ok (.aload_n 0, 1) := dk_42 (dk_at dksX13_counts_0 14 rfl rfl)
theorem dX13_counts_15 : decode cX13_counts 15 = .ok (.dup, 1) := dk_89 (dk_at dksX13_counts_0 15 rfl rfl)
theorem dX13_counts_16 : decode cX13_counts 16 = .ok (.getfield 200, 3) := dk_180 0 200 (dk_at dksX13_counts_0 16 rfl rfl)
theorem dX13_counts_19 : decode cX13_counts 19 = .ok (.iload_n 1, 1) := dk_27 (dk_at dksX13_counts_0 19 rfl rfl)
theorem dX13_counts_20 : decode cX13_counts 20 = .ok (.iadd, 1) := dk_96 (dk_at dksX13_counts_0 20 rfl rfl)
theorem dX13_counts_21 : decode cX13_counts 21 = .ok (.putfield 200, 3) := dk_181 0 200 (dk_at dksX13_counts_0 21 rfl rfl)
theorem dX13_counts_24 : decode cX13_counts 24 = .ok (.iconst 1, 1) := dk_4 (dk_at dksX13_counts_1 0 rfl rfl)
theorem dX13_counts_25 : decode cX13_counts 25 = .ok (.ireturn, 1) := dk_172 (dk_at dksX13_counts_1 1 rfl rfl)
abbrev cX13_passes : ByteArray := prog_22_method_52_code
def yX13_passes : MethodName := ⟨RX13, "passes", "(I)V"⟩
def dkwX13_passes_0 : List UInt8 := [3, 61, 28, 27, 162, 0, 17, 42, 182, 0, 194, 42, 182, 0, 197, 132, 2, 1, 167, 255, 240, 177]
abbrev dktX13_passes_0 : List UInt8 := dkwX13_passes_0 ++ []
theorem dksX13_passes_0 : cX13_passes.data.toList.drop 0 = dktX13_passes_0 := by decide +kernel
theorem dX13_passes_0 : decode cX13_passes 0 = .ok (.iconst 0, 1) := dk_3 (dk_at dksX13_passes_0 0 rfl rfl)
theorem dX13_passes_1 : decode cX13_passes 1 = .ok (.istore_n 2, 1) := dk_61 (dk_at dksX13_passes_0 1 rfl rfl)
theorem dX13_passes_2 : decode cX13_passes 2 = .ok (.iload_n 2, 1) := dk_28 (dk_at dksX13_passes_0 2 rfl rfl)
theorem dX13_passes_3 : decode cX13_passes 3 = .ok (.iload_n 1, 1) := dk_27 (dk_at dksX13_passes_0 3 rfl rfl)
theorem dX13_passes_4 : decode cX13_passes 4 = .ok (.if_icmp .ge 17, 3) := dk_162 0 17 (dk_at dksX13_passes_0 4 rfl rfl)
theorem dX13_passes_7 : decode cX13_passes 7 = .ok (.aload_n 0, 1) := dk_42 (dk_at dksX13_passes_0 7 rfl rfl)
theorem dX13_passes_8 : decode cX13_passes 8 = .ok (.invokevirtual 194, 3) := dk_182 0 194 (dk_at dksX13_passes_0 8 rfl rfl)
theorem dX13_passes_11 : decode cX13_passes 11 = .ok (.aload_n 0, 1) := dk_42 (dk_at dksX13_passes_0 11 rfl rfl)
theorem dX13_passes_12 : decode cX13_passes 12 = .ok (.invokevirtual 197, 3) := dk_182 0 197 (dk_at dksX13_passes_0 12 rfl rfl)
theorem dX13_passes_15 : decode cX13_passes 15 = .ok (.iinc 2 1, 3) := dk_132 2 1 (dk_at dksX13_passes_0 15 rfl rfl)
theorem dX13_passes_18 : decode cX13_passes 18 = .ok (.goto (-16), 3) := dk_167 255 240 (dk_at dksX13_passes_0 18 rfl rfl)
theorem dX13_passes_21 : decode cX13_passes 21 = .ok (.return_, 1) := dk_177 (dk_at dksX13_passes_0 21 rfl rfl)
abbrev cX13_turns : ByteArray := prog_22_method_50_code
def yX13_turns : MethodName := ⟨RX13, "turns", "()V"⟩
def dkwX13_turns_1 : List UInt8 := [182, 0, 182, 42, 182, 0, 185, 177]
abbrev dktX13_turns_1 : List UInt8 := dkwX13_turns_1 ++ []
def dkwX13_turns_0 : List UInt8 := [42, 182, 0, 176, 42, 180, 0, 11, 16, 6, 46, 155, 0, 10, 42, 182, 0, 179, 167, 0, 7, 42]
abbrev dktX13_turns_0 : List UInt8 := dkwX13_turns_0 ++ dktX13_turns_1
theorem dksX13_turns_0 : cX13_turns.data.toList.drop 0 = dktX13_turns_0 := by decide +kernel
theorem dksX13_turns_1 : cX13_turns.data.toList.drop 22 = dktX13_turns_1 := dk_seg dksX13_turns_0 22 rfl rfl
theorem dX13_turns_0 : decode cX13_turns 0 = .ok (.aload_n 0, 1) := dk_42 (dk_at dksX13_turns_0 0 rfl rfl)
theorem dX13_turns_1 : decode cX13_turns 1 = .ok (.invokevirtual 176, 3) := dk_182 0 176 (dk_at dksX13_turns_0 1 rfl rfl)
theorem dX13_turns_4 : decode cX13_turns 4 = .ok (.aload_n 0, 1) := dk_42 (dk_at dksX13_turns_0 4 rfl rfl)
theorem dX13_turns_5 : decode cX13_turns 5 = .ok (.getfield 11, 3) := dk_180 0 11 (dk_at dksX13_turns_0 5 rfl rfl)
theorem dX13_turns_8 : decode cX13_turns 8 = .ok (.bipush 6, 2) := dk_16 6 (dk_at dksX13_turns_0 8 rfl rfl)
theorem dX13_turns_10 : decode cX13_turns 10 = .ok (.iaload, 1) := dk_46 (dk_at dksX13_turns_0 10 rfl rfl)
theorem dX13_turns_11 : decode cX13_turns 11 = .ok (.ifCond .lt 10, 3) := dk_155 0 10 (dk_at dksX13_turns_0 11 rfl rfl)
theorem dX13_turns_14 : decode cX13_turns 14 = .ok (.aload_n 0, 1) := dk_42 (dk_at dksX13_turns_0 14 rfl rfl)
theorem dX13_turns_15 : decode cX13_turns 15 = .ok (.invokevirtual 179, 3) := dk_182 0 179 (dk_at dksX13_turns_0 15 rfl rfl)
theorem dX13_turns_18 : decode cX13_turns 18 = .ok (.goto 7, 3) := dk_167 0 7 (dk_at dksX13_turns_0 18 rfl rfl)
theorem dX13_turns_21 : decode cX13_turns 21 = .ok (.aload_n 0, 1) := dk_42 (dk_at dksX13_turns_0 21 rfl rfl)
theorem dX13_turns_22 : decode cX13_turns 22 = .ok (.invokevirtual 182, 3) := dk_182 0 182 (dk_at dksX13_turns_1 0 rfl rfl)
theorem dX13_turns_25 : decode cX13_turns 25 = .ok (.aload_n 0, 1) := dk_42 (dk_at dksX13_turns_1 3 rfl rfl)
theorem dX13_turns_26 : decode cX13_turns 26 = .ok (.invokevirtual 185, 3) := dk_182 0 185 (dk_at dksX13_turns_1 4 rfl rfl)
theorem dX13_turns_29 : decode cX13_turns 29 = .ok (.return_, 1) := dk_177 (dk_at dksX13_turns_1 7 rfl rfl)
abbrev cX13_coming : ByteArray := prog_22_method_37_code
def yX13_coming : MethodName := ⟨RX13, "coming", "()V"⟩
def dkwX13_coming_3 : List UInt8 := [158, 0, 16, 42, 27, 16, 9, 42, 180, 0, 11, 6, 46, 182, 0, 85, 132, 1, 1, 167, 255, 220, 177]
abbrev dktX13_coming_3 : List UInt8 := dkwX13_coming_3 ++ []
def dkwX13_coming_2 : List UInt8 := [167, 255, 211, 3, 60, 27, 42, 180, 0, 11, 16, 13, 46, 162, 0, 31, 42, 27, 8, 182, 0, 56]
abbrev dktX13_coming_2 : List UInt8 := dkwX13_coming_2 ++ dktX13_coming_3
def dkwX13_coming_1 : List UInt8 := [16, 60, 182, 0, 145, 42, 27, 7, 182, 0, 56, 162, 0, 10, 42, 27, 4, 182, 0, 148, 87, 132, 1, 1]
abbrev dktX13_coming_1 : List UInt8 := dkwX13_coming_1 ++ dktX13_coming_2
def dkwX13_coming_0 : List UInt8 := [3, 60, 27, 42, 180, 0, 11, 16, 13, 46, 162, 0, 40, 42, 27, 7, 182, 0, 56, 158, 0, 25, 42]
abbrev dktX13_coming_0 : List UInt8 := dkwX13_coming_0 ++ dktX13_coming_1
theorem dksX13_coming_0 : cX13_coming.data.toList.drop 0 = dktX13_coming_0 := by decide +kernel
theorem dksX13_coming_1 : cX13_coming.data.toList.drop 23 = dktX13_coming_1 := dk_seg dksX13_coming_0 23 rfl rfl
theorem dksX13_coming_2 : cX13_coming.data.toList.drop 47 = dktX13_coming_2 := dk_seg dksX13_coming_1 24 rfl rfl
theorem dksX13_coming_3 : cX13_coming.data.toList.drop 69 = dktX13_coming_3 := dk_seg dksX13_coming_2 22 rfl rfl
theorem dX13_coming_0 : decode cX13_coming 0 = .ok (.iconst 0, 1) := dk_3 (dk_at dksX13_coming_0 0 rfl rfl)
theorem dX13_coming_1 : decode cX13_coming 1 = .ok (.istore_n 1, 1) := dk_60 (dk_at dksX13_coming_0 1 rfl rfl)
theorem dX13_coming_2 : decode cX13_coming 2 = .ok (.iload_n 1, 1) := dk_27 (dk_at dksX13_coming_0 2 rfl rfl)
theorem dX13_coming_3 : decode cX13_coming 3 = .ok (.aload_n 0, 1) := dk_42 (dk_at dksX13_coming_0 3 rfl rfl)
theorem dX13_coming_4 : decode cX13_coming 4 = .ok (.getfield 11, 3) := dk_180 0 11 (dk_at dksX13_coming_0 4 rfl rfl)
theorem dX13_coming_7 : decode cX13_coming 7 = .ok (.bipush 13, 2) := dk_16 13 (dk_at dksX13_coming_0 7 rfl rfl)
theorem dX13_coming_9 : decode cX13_coming 9 = .ok (.iaload, 1) := dk_46 (dk_at dksX13_coming_0 9 rfl rfl)
theorem dX13_coming_10 : decode cX13_coming 10 = .ok (.if_icmp .ge 40, 3) := dk_162 0 40 (dk_at dksX13_coming_0 10 rfl rfl)
theorem dX13_coming_13 : decode cX13_coming 13 = .ok (.aload_n 0, 1) := dk_42 (dk_at dksX13_coming_0 13 rfl rfl)
theorem dX13_coming_14 : decode cX13_coming 14 = .ok (.iload_n 1, 1) := dk_27 (dk_at dksX13_coming_0 14 rfl rfl)
theorem dX13_coming_15 : decode cX13_coming 15 = .ok (.iconst 4, 1) := dk_7 (dk_at dksX13_coming_0 15 rfl rfl)
theorem dX13_coming_16 : decode cX13_coming 16 = .ok (.invokevirtual 56, 3) := dk_182 0 56 (dk_at dksX13_coming_0 16 rfl rfl)
theorem dX13_coming_19 : decode cX13_coming 19 = .ok (.ifCond .le 25, 3) := dk_158 0 25 (dk_at dksX13_coming_0 19 rfl rfl)
theorem dX13_coming_22 : decode cX13_coming 22 = .ok (.aload_n 0, 1) := dk_42 (dk_at dksX13_coming_0 22 rfl rfl)
theorem dX13_coming_23 : decode cX13_coming 23 = .ok (.bipush 60, 2) := dk_16 60 (dk_at dksX13_coming_1 0 rfl rfl)
theorem dX13_coming_25 : decode cX13_coming 25 = .ok (.invokevirtual 145, 3) := dk_182 0 145 (dk_at dksX13_coming_1 2 rfl rfl)
theorem dX13_coming_28 : decode cX13_coming 28 = .ok (.aload_n 0, 1) := dk_42 (dk_at dksX13_coming_1 5 rfl rfl)
theorem dX13_coming_29 : decode cX13_coming 29 = .ok (.iload_n 1, 1) := dk_27 (dk_at dksX13_coming_1 6 rfl rfl)
theorem dX13_coming_30 : decode cX13_coming 30 = .ok (.iconst 4, 1) := dk_7 (dk_at dksX13_coming_1 7 rfl rfl)
theorem dX13_coming_31 : decode cX13_coming 31 = .ok (.invokevirtual 56, 3) := dk_182 0 56 (dk_at dksX13_coming_1 8 rfl rfl)
theorem dX13_coming_34 : decode cX13_coming 34 = .ok (.if_icmp .ge 10, 3) := dk_162 0 10 (dk_at dksX13_coming_1 11 rfl rfl)
theorem dX13_coming_37 : decode cX13_coming 37 = .ok (.aload_n 0, 1) := dk_42 (dk_at dksX13_coming_1 14 rfl rfl)
theorem dX13_coming_38 : decode cX13_coming 38 = .ok (.iload_n 1, 1) := dk_27 (dk_at dksX13_coming_1 15 rfl rfl)
theorem dX13_coming_39 : decode cX13_coming 39 = .ok (.iconst 1, 1) := dk_4 (dk_at dksX13_coming_1 16 rfl rfl)
theorem dX13_coming_40 : decode cX13_coming 40 = .ok (.invokevirtual 148, 3) := dk_182 0 148 (dk_at dksX13_coming_1 17 rfl rfl)
theorem dX13_coming_43 : decode cX13_coming 43 = .ok (.pop, 1) := dk_87 (dk_at dksX13_coming_1 20 rfl rfl)
theorem dX13_coming_44 : decode cX13_coming 44 = .ok (.iinc 1 1, 3) := dk_132 1 1 (dk_at dksX13_coming_1 21 rfl rfl)
theorem dX13_coming_47 : decode cX13_coming 47 = .ok (.goto (-45), 3) := dk_167 255 211 (dk_at dksX13_coming_2 0 rfl rfl)
theorem dX13_coming_50 : decode cX13_coming 50 = .ok (.iconst 0, 1) := dk_3 (dk_at dksX13_coming_2 3 rfl rfl)
theorem dX13_coming_51 : decode cX13_coming 51 = .ok (.istore_n 1, 1) := dk_60 (dk_at dksX13_coming_2 4 rfl rfl)
theorem dX13_coming_52 : decode cX13_coming 52 = .ok (.iload_n 1, 1) := dk_27 (dk_at dksX13_coming_2 5 rfl rfl)
theorem dX13_coming_53 : decode cX13_coming 53 = .ok (.aload_n 0, 1) := dk_42 (dk_at dksX13_coming_2 6 rfl rfl)
theorem dX13_coming_54 : decode cX13_coming 54 = .ok (.getfield 11, 3) := dk_180 0 11 (dk_at dksX13_coming_2 7 rfl rfl)
theorem dX13_coming_57 : decode cX13_coming 57 = .ok (.bipush 13, 2) := dk_16 13 (dk_at dksX13_coming_2 10 rfl rfl)
theorem dX13_coming_59 : decode cX13_coming 59 = .ok (.iaload, 1) := dk_46 (dk_at dksX13_coming_2 12 rfl rfl)
theorem dX13_coming_60 : decode cX13_coming 60 = .ok (.if_icmp .ge 31, 3) := dk_162 0 31 (dk_at dksX13_coming_2 13 rfl rfl)
theorem dX13_coming_63 : decode cX13_coming 63 = .ok (.aload_n 0, 1) := dk_42 (dk_at dksX13_coming_2 16 rfl rfl)
theorem dX13_coming_64 : decode cX13_coming 64 = .ok (.iload_n 1, 1) := dk_27 (dk_at dksX13_coming_2 17 rfl rfl)
theorem dX13_coming_65 : decode cX13_coming 65 = .ok (.iconst 5, 1) := dk_8 (dk_at dksX13_coming_2 18 rfl rfl)
theorem dX13_coming_66 : decode cX13_coming 66 = .ok (.invokevirtual 56, 3) := dk_182 0 56 (dk_at dksX13_coming_2 19 rfl rfl)
theorem dX13_coming_69 : decode cX13_coming 69 = .ok (.ifCond .le 16, 3) := dk_158 0 16 (dk_at dksX13_coming_3 0 rfl rfl)
theorem dX13_coming_72 : decode cX13_coming 72 = .ok (.aload_n 0, 1) := dk_42 (dk_at dksX13_coming_3 3 rfl rfl)
theorem dX13_coming_73 : decode cX13_coming 73 = .ok (.iload_n 1, 1) := dk_27 (dk_at dksX13_coming_3 4 rfl rfl)
theorem dX13_coming_74 : decode cX13_coming 74 = .ok (.bipush 9, 2) := dk_16 9 (dk_at dksX13_coming_3 5 rfl rfl)
theorem dX13_coming_76 : decode cX13_coming 76 = .ok (.aload_n 0, 1) := dk_42 (dk_at dksX13_coming_3 7 rfl rfl)
theorem dX13_coming_77 : decode cX13_coming 77 = .ok (.getfield 11, 3) := dk_180 0 11 (dk_at dksX13_coming_3 8 rfl rfl)
theorem dX13_coming_80 : decode cX13_coming 80 = .ok (.iconst 3, 1) := dk_6 (dk_at dksX13_coming_3 11 rfl rfl)
theorem dX13_coming_81 : decode cX13_coming 81 = .ok (.iaload, 1) := dk_46 (dk_at dksX13_coming_3 12 rfl rfl)
theorem dX13_coming_82 : decode cX13_coming 82 = .ok (.invokevirtual 85, 3) := dk_182 0 85 (dk_at dksX13_coming_3 13 rfl rfl)
theorem dX13_coming_85 : decode cX13_coming 85 = .ok (.iinc 1 1, 3) := dk_132 1 1 (dk_at dksX13_coming_3 16 rfl rfl)
theorem dX13_coming_88 : decode cX13_coming 88 = .ok (.goto (-36), 3) := dk_167 255 220 (dk_at dksX13_coming_3 19 rfl rfl)
theorem dX13_coming_91 : decode cX13_coming 91 = .ok (.return_, 1) := dk_177 (dk_at dksX13_coming_3 22 rfl rfl)
abbrev cX13_draws : ByteArray := prog_22_method_35_code
def yX13_draws : MethodName := ⟨RX13, "draws", "(I)I"⟩
def dkwX13_draws_1 : List UInt8 := [46, 16, 9, 124, 27, 112, 172]
abbrev dktX13_draws_1 : List UInt8 := dkwX13_draws_1 ++ []
def dkwX13_draws_0 : List UInt8 := [42, 180, 0, 11, 3, 42, 180, 0, 11, 3, 46, 18, 144, 104, 17, 48, 57, 96, 79, 42, 180, 0, 11, 3]
abbrev dktX13_draws_0 : List UInt8 := dkwX13_draws_0 ++ dktX13_draws_1
theorem dksX13_draws_0 : cX13_draws.data.toList.drop 0 = dktX13_draws_0 := by decide +kernel
theorem dksX13_draws_1 : cX13_draws.data.toList.drop 24 = dktX13_draws_1 := dk_seg dksX13_draws_0 24 rfl rfl
theorem dX13_draws_0 : decode cX13_draws 0 = .ok (.aload_n 0, 1) := dk_42 (dk_at dksX13_draws_0 0 rfl rfl)
theorem dX13_draws_1 : decode cX13_draws 1 = .ok (.getfield 11, 3) := dk_180 0 11 (dk_at dksX13_draws_0 1 rfl rfl)
theorem dX13_draws_4 : decode cX13_draws 4 = .ok (.iconst 0, 1) := dk_3 (dk_at dksX13_draws_0 4 rfl rfl)
theorem dX13_draws_5 : decode cX13_draws 5 = .ok (.aload_n 0, 1) := dk_42 (dk_at dksX13_draws_0 5 rfl rfl)
theorem dX13_draws_6 : decode cX13_draws 6 = .ok (.getfield 11, 3) := dk_180 0 11 (dk_at dksX13_draws_0 6 rfl rfl)
theorem dX13_draws_9 : decode cX13_draws 9 = .ok (.iconst 0, 1) := dk_3 (dk_at dksX13_draws_0 9 rfl rfl)
theorem dX13_draws_10 : decode cX13_draws 10 = .ok (.iaload, 1) := dk_46 (dk_at dksX13_draws_0 10 rfl rfl)
theorem dX13_draws_11 : decode cX13_draws 11 = .ok (.ldc 144, 2) := dk_18 144 (dk_at dksX13_draws_0 11 rfl rfl)
theorem dX13_draws_13 : decode cX13_draws 13 = .ok (.imul, 1) := dk_104 (dk_at dksX13_draws_0 13 rfl rfl)
theorem dX13_draws_14 : decode cX13_draws 14 = .ok (.sipush 12345, 3) := dk_17 48 57 (dk_at dksX13_draws_0 14 rfl rfl)
theorem dX13_draws_17 : decode cX13_draws 17 = .ok (.iadd, 1) := dk_96 (dk_at dksX13_draws_0 17 rfl rfl)
theorem dX13_draws_18 : decode cX13_draws 18 = .ok (.iastore, 1) := dk_79 (dk_at dksX13_draws_0 18 rfl rfl)
theorem dX13_draws_19 : decode cX13_draws 19 = .ok (.aload_n 0, 1) := dk_42 (dk_at dksX13_draws_0 19 rfl rfl)
theorem dX13_draws_20 : decode cX13_draws 20 = .ok (.getfield 11, 3) := dk_180 0 11 (dk_at dksX13_draws_0 20 rfl rfl)
theorem dX13_draws_23 : decode cX13_draws 23 = .ok (.iconst 0, 1) := dk_3 (dk_at dksX13_draws_0 23 rfl rfl)
theorem dX13_draws_24 : decode cX13_draws 24 = .ok (.iaload, 1) := dk_46 (dk_at dksX13_draws_1 0 rfl rfl)
theorem dX13_draws_25 : decode cX13_draws 25 = .ok (.bipush 9, 2) := dk_16 9 (dk_at dksX13_draws_1 1 rfl rfl)
theorem dX13_draws_27 : decode cX13_draws 27 = .ok (.iushr, 1) := dk_124 (dk_at dksX13_draws_1 3 rfl rfl)
theorem dX13_draws_28 : decode cX13_draws 28 = .ok (.iload_n 1, 1) := dk_27 (dk_at dksX13_draws_1 4 rfl rfl)
theorem dX13_draws_29 : decode cX13_draws 29 = .ok (.irem, 1) := dk_112 (dk_at dksX13_draws_1 5 rfl rfl)
theorem dX13_draws_30 : decode cX13_draws 30 = .ok (.ireturn, 1) := dk_172 (dk_at dksX13_draws_1 6 rfl rfl)
abbrev cX13_changesByEmergency : ByteArray := prog_22_method_44_code
def yX13_changesByEmergency : MethodName := ⟨RX13, "changesByEmergency", "()V"⟩
def dkwX13_changesByEmergency_5 : List UInt8 := [46, 79, 42, 42, 42, 180, 0, 11, 16, 6, 46, 182, 0, 160, 182, 0, 163, 177]
abbrev dktX13_changesByEmergency_5 : List UInt8 := dkwX13_changesByEmergency_5 ++ []
def dkwX13_changesByEmergency_4 : List UInt8 := [28, 154, 0, 4, 177, 42, 180, 0, 11, 8, 46, 156, 0, 15, 42, 180, 0, 11, 8, 42, 180, 0, 11, 7]
abbrev dktX13_changesByEmergency_4 : List UInt8 := dkwX13_changesByEmergency_4 ++ dktX13_changesByEmergency_5
def dkwX13_changesByEmergency_3 : List UInt8 := [4, 182, 0, 56, 4, 96, 5, 108, 161, 0, 7, 4, 167, 0, 4, 3, 126, 61, 132, 3, 1, 167, 255, 198]
abbrev dktX13_changesByEmergency_3 : List UInt8 := dkwX13_changesByEmergency_3 ++ dktX13_changesByEmergency_4
def dkwX13_changesByEmergency_2 : List UInt8 := [29, 184, 0, 132, 153, 0, 31, 42, 29, 16, 6, 182, 0, 56, 153, 0, 21, 42, 29, 182, 0, 157, 42, 29]
abbrev dktX13_changesByEmergency_2 : List UInt8 := dkwX13_changesByEmergency_2 ++ dktX13_changesByEmergency_3
def dkwX13_changesByEmergency_1 : List UInt8 := [154, 0, 7, 4, 167, 0, 4, 3, 61, 3, 62, 29, 42, 180, 0, 11, 16, 13, 46, 162, 0, 53, 28, 27]
abbrev dktX13_changesByEmergency_1 : List UInt8 := dkwX13_changesByEmergency_1 ++ dktX13_changesByEmergency_2
def dkwX13_changesByEmergency_0 : List UInt8 := [42, 42, 180, 0, 11, 7, 46, 182, 0, 151, 60, 27, 42, 180, 0, 11, 16, 6, 46, 184, 0, 132]
abbrev dktX13_changesByEmergency_0 : List UInt8 := dkwX13_changesByEmergency_0 ++ dktX13_changesByEmergency_1
theorem dksX13_changesByEmergency_0 : cX13_changesByEmergency.data.toList.drop 0 = dktX13_changesByEmergency_0 := by decide +kernel
theorem dksX13_changesByEmergency_1 : cX13_changesByEmergency.data.toList.drop 22 = dktX13_changesByEmergency_1 := dk_seg dksX13_changesByEmergency_0 22 rfl rfl
theorem dksX13_changesByEmergency_2 : cX13_changesByEmergency.data.toList.drop 46 = dktX13_changesByEmergency_2 := dk_seg dksX13_changesByEmergency_1 24 rfl rfl
theorem dksX13_changesByEmergency_3 : cX13_changesByEmergency.data.toList.drop 70 = dktX13_changesByEmergency_3 := dk_seg dksX13_changesByEmergency_2 24 rfl rfl
theorem dksX13_changesByEmergency_4 : cX13_changesByEmergency.data.toList.drop 94 = dktX13_changesByEmergency_4 := dk_seg dksX13_changesByEmergency_3 24 rfl rfl
theorem dksX13_changesByEmergency_5 : cX13_changesByEmergency.data.toList.drop 118 = dktX13_changesByEmergency_5 := dk_seg dksX13_changesByEmergency_4 24 rfl rfl
theorem dX13_changesByEmergency_0 : decode cX13_changesByEmergency 0 = .ok (.aload_n 0, 1) := dk_42 (dk_at dksX13_changesByEmergency_0 0 rfl rfl)
theorem dX13_changesByEmergency_1 : decode cX13_changesByEmergency 1 = .ok (.aload_n 0, 1) := dk_42 (dk_at dksX13_changesByEmergency_0 1 rfl rfl)
theorem dX13_changesByEmergency_2 : decode cX13_changesByEmergency 2 = .ok (.getfield 11, 3) := dk_180 0 11 (dk_at dksX13_changesByEmergency_0 2 rfl rfl)
theorem dX13_changesByEmergency_5 : decode cX13_changesByEmergency 5 = .ok (.iconst 4, 1) := dk_7 (dk_at dksX13_changesByEmergency_0 5 rfl rfl)
theorem dX13_changesByEmergency_6 : decode cX13_changesByEmergency 6 = .ok (.iaload, 1) := dk_46 (dk_at dksX13_changesByEmergency_0 6 rfl rfl)
theorem dX13_changesByEmergency_7 : decode cX13_changesByEmergency 7 = .ok (.invokevirtual 151, 3) := dk_182 0 151 (dk_at dksX13_changesByEmergency_0 7 rfl rfl)
theorem dX13_changesByEmergency_10 : decode cX13_changesByEmergency 10 = .ok (.istore_n 1, 1) := dk_60 (dk_at dksX13_changesByEmergency_0 10 rfl rfl)
theorem dX13_changesByEmergency_11 : decode cX13_changesByEmergency 11 = .ok (.iload_n 1, 1) := dk_27 (dk_at dksX13_changesByEmergency_0 11 rfl rfl)
theorem dX13_changesByEmergency_12 : decode cX13_changesByEmergency 12 = .ok (.aload_n 0, 1) := dk_42 (dk_at dksX13_changesByEmergency_0 12 rfl rfl)
theorem dX13_changesByEmergency_13 : decode cX13_changesByEmergency 13 = .ok (.getfield 11, 3) := dk_180 0 11 (dk_at dksX13_changesByEmergency_0 13 rfl rfl)
theorem dX13_changesByEmergency_16 : decode cX13_changesByEmergency 16 = .ok (.bipush 6, 2) := dk_16 6 (dk_at dksX13_changesByEmergency_0 16 rfl rfl)
theorem dX13_changesByEmergency_18 : decode cX13_changesByEmergency 18 = .ok (.iaload, 1) := dk_46 (dk_at dksX13_changesByEmergency_0 18 rfl rfl)
theorem dX13_changesByEmergency_19 : decode cX13_changesByEmergency 19 = .ok (.invokestatic 132, 3) := dk_184 0 132 (dk_at dksX13_changesByEmergency_0 19 rfl rfl)
theorem dX13_changesByEmergency_22 : decode cX13_changesByEmergency 22 = .ok (.ifCond .ne 7, 3) := dk_154 0 7 (dk_at dksX13_changesByEmergency_1 0 rfl rfl)
theorem dX13_changesByEmergency_25 : decode cX13_changesByEmergency 25 = .ok (.iconst 1, 1) := dk_4 (dk_at dksX13_changesByEmergency_1 3 rfl rfl)
theorem dX13_changesByEmergency_26 : decode cX13_changesByEmergency 26 = .ok (.goto 4, 3) := dk_167 0 4 (dk_at dksX13_changesByEmergency_1 4 rfl rfl)
theorem dX13_changesByEmergency_29 : decode cX13_changesByEmergency 29 = .ok (.iconst 0, 1) := dk_3 (dk_at dksX13_changesByEmergency_1 7 rfl rfl)
theorem dX13_changesByEmergency_30 : decode cX13_changesByEmergency 30 = .ok (.istore_n 2, 1) := dk_61 (dk_at dksX13_changesByEmergency_1 8 rfl rfl)
theorem dX13_changesByEmergency_31 : decode cX13_changesByEmergency 31 = .ok (.iconst 0, 1) := dk_3 (dk_at dksX13_changesByEmergency_1 9 rfl rfl)
theorem dX13_changesByEmergency_32 : decode cX13_changesByEmergency 32 = .ok (.istore_n 3, 1) := dk_62 (dk_at dksX13_changesByEmergency_1 10 rfl rfl)
theorem dX13_changesByEmergency_33 : decode cX13_changesByEmergency 33 = .ok (.iload_n 3, 1) := dk_29 (dk_at dksX13_changesByEmergency_1 11 rfl rfl)
theorem dX13_changesByEmergency_34 : decode cX13_changesByEmergency 34 = .ok (.aload_n 0, 1) := dk_42 (dk_at dksX13_changesByEmergency_1 12 rfl rfl)
theorem dX13_changesByEmergency_35 : decode cX13_changesByEmergency 35 = .ok (.getfield 11, 3) := dk_180 0 11 (dk_at dksX13_changesByEmergency_1 13 rfl rfl)
theorem dX13_changesByEmergency_38 : decode cX13_changesByEmergency 38 = .ok (.bipush 13, 2) := dk_16 13 (dk_at dksX13_changesByEmergency_1 16 rfl rfl)
theorem dX13_changesByEmergency_40 : decode cX13_changesByEmergency 40 = .ok (.iaload, 1) := dk_46 (dk_at dksX13_changesByEmergency_1 18 rfl rfl)
theorem dX13_changesByEmergency_41 : decode cX13_changesByEmergency 41 = .ok (.if_icmp .ge 53, 3) := dk_162 0 53 (dk_at dksX13_changesByEmergency_1 19 rfl rfl)
theorem dX13_changesByEmergency_44 : decode cX13_changesByEmergency 44 = .ok (.iload_n 2, 1) := dk_28 (dk_at dksX13_changesByEmergency_1 22 rfl rfl)
theorem dX13_changesByEmergency_45 : decode cX13_changesByEmergency 45 = .ok (.iload_n 1, 1) := dk_27 (dk_at dksX13_changesByEmergency_1 23 rfl rfl)
theorem dX13_changesByEmergency_46 : decode cX13_changesByEmergency 46 = .ok (.iload_n 3, 1) := dk_29 (dk_at dksX13_changesByEmergency_2 0 rfl rfl)
theorem dX13_changesByEmergency_47 : decode cX13_changesByEmergency 47 = .ok (.invokestatic 132, 3) := dk_184 0 132 (dk_at dksX13_changesByEmergency_2 1 rfl rfl)
theorem dX13_changesByEmergency_50 : decode cX13_changesByEmergency 50 = .ok (.ifCond .eq 31, 3) := dk_153 0 31 (dk_at dksX13_changesByEmergency_2 4 rfl rfl)
theorem dX13_changesByEmergency_53 : decode cX13_changesByEmergency 53 = .ok (.aload_n 0, 1) := dk_42 (dk_at dksX13_changesByEmergency_2 7 rfl rfl)
theorem dX13_changesByEmergency_54 : decode cX13_changesByEmergency 54 = .ok (.iload_n 3, 1) := dk_29 (dk_at dksX13_changesByEmergency_2 8 rfl rfl)
theorem dX13_changesByEmergency_55 : decode cX13_changesByEmergency 55 = .ok (.bipush 6, 2) := dk_16 6 (dk_at dksX13_changesByEmergency_2 9 rfl rfl)
theorem dX13_changesByEmergency_57 : decode cX13_changesByEmergency 57 = .ok (.invokevirtual 56, 3) := dk_182 0 56 (dk_at dksX13_changesByEmergency_2 11 rfl rfl)
theorem dX13_changesByEmergency_60 : decode cX13_changesByEmergency 60 = .ok (.ifCond .eq 21, 3) := dk_153 0 21 (dk_at dksX13_changesByEmergency_2 14 rfl rfl)
theorem dX13_changesByEmergency_63 : decode cX13_changesByEmergency 63 = .ok (.aload_n 0, 1) := dk_42 (dk_at dksX13_changesByEmergency_2 17 rfl rfl)
theorem dX13_changesByEmergency_64 : decode cX13_changesByEmergency 64 = .ok (.iload_n 3, 1) := dk_29 (dk_at dksX13_changesByEmergency_2 18 rfl rfl)
theorem dX13_changesByEmergency_65 : decode cX13_changesByEmergency 65 = .ok (.invokevirtual 157, 3) := dk_182 0 157 (dk_at dksX13_changesByEmergency_2 19 rfl rfl)
theorem dX13_changesByEmergency_68 : decode cX13_changesByEmergency 68 = .ok (.aload_n 0, 1) := dk_42 (dk_at dksX13_changesByEmergency_2 22 rfl rfl)
theorem dX13_changesByEmergency_69 : decode cX13_changesByEmergency 69 = .ok (.iload_n 3, 1) := dk_29 (dk_at dksX13_changesByEmergency_2 23 rfl rfl)
theorem dX13_changesByEmergency_70 : decode cX13_changesByEmergency 70 = .ok (.iconst 1, 1) := dk_4 (dk_at dksX13_changesByEmergency_3 0 rfl rfl)
theorem dX13_changesByEmergency_71 : decode cX13_changesByEmergency 71 = .ok (.invokevirtual 56, 3) := dk_182 0 56 (dk_at dksX13_changesByEmergency_3 1 rfl rfl)
theorem dX13_changesByEmergency_74 : decode cX13_changesByEmergency 74 = .ok (.iconst 1, 1) := dk_4 (dk_at dksX13_changesByEmergency_3 4 rfl rfl)
theorem dX13_changesByEmergency_75 : decode cX13_changesByEmergency 75 = .ok (.iadd, 1) := dk_96 (dk_at dksX13_changesByEmergency_3 5 rfl rfl)
theorem dX13_changesByEmergency_76 : decode cX13_changesByEmergency 76 = .ok (.iconst 2, 1) := dk_5 (dk_at dksX13_changesByEmergency_3 6 rfl rfl)
theorem dX13_changesByEmergency_77 : decode cX13_changesByEmergency 77 = .ok (.idiv, 1) := dk_108 (dk_at dksX13_changesByEmergency_3 7 rfl rfl)
theorem dX13_changesByEmergency_78 : decode cX13_changesByEmergency 78 = .ok (.if_icmp .lt 7, 3) := dk_161 0 7 (dk_at dksX13_changesByEmergency_3 8 rfl rfl)
theorem dX13_changesByEmergency_81 : decode cX13_changesByEmergency 81 = .ok (.iconst 1, 1) := dk_4 (dk_at dksX13_changesByEmergency_3 11 rfl rfl)
theorem dX13_changesByEmergency_82 : decode cX13_changesByEmergency 82 = .ok (.goto 4, 3) := dk_167 0 4 (dk_at dksX13_changesByEmergency_3 12 rfl rfl)
theorem dX13_changesByEmergency_85 : decode cX13_changesByEmergency 85 = .ok (.iconst 0, 1) := dk_3 (dk_at dksX13_changesByEmergency_3 15 rfl rfl)
theorem dX13_changesByEmergency_86 : decode cX13_changesByEmergency 86 = .ok (.iand, 1) := dk_126 (dk_at dksX13_changesByEmergency_3 16 rfl rfl)
theorem dX13_changesByEmergency_87 : decode cX13_changesByEmergency 87 = .ok (.istore_n 2, 1) := dk_61 (dk_at dksX13_changesByEmergency_3 17 rfl rfl)
theorem dX13_changesByEmergency_88 : decode cX13_changesByEmergency 88 = .ok (.iinc 3 1, 3) := dk_132 3 1 (dk_at dksX13_changesByEmergency_3 18 rfl rfl)
theorem dX13_changesByEmergency_91 : decode cX13_changesByEmergency 91 = .ok (.goto (-58), 3) := dk_167 255 198 (dk_at dksX13_changesByEmergency_3 21 rfl rfl)
theorem dX13_changesByEmergency_94 : decode cX13_changesByEmergency 94 = .ok (.iload_n 2, 1) := dk_28 (dk_at dksX13_changesByEmergency_4 0 rfl rfl)
theorem dX13_changesByEmergency_95 : decode cX13_changesByEmergency 95 = .ok (.ifCond .ne 4, 3) := dk_154 0 4 (dk_at dksX13_changesByEmergency_4 1 rfl rfl)
theorem dX13_changesByEmergency_98 : decode cX13_changesByEmergency 98 = .ok (.return_, 1) := dk_177 (dk_at dksX13_changesByEmergency_4 4 rfl rfl)
theorem dX13_changesByEmergency_99 : decode cX13_changesByEmergency 99 = .ok (.aload_n 0, 1) := dk_42 (dk_at dksX13_changesByEmergency_4 5 rfl rfl)
theorem dX13_changesByEmergency_100 : decode cX13_changesByEmergency 100 = .ok (.getfield 11, 3) := dk_180 0 11 (dk_at dksX13_changesByEmergency_4 6 rfl rfl)
theorem dX13_changesByEmergency_103 : decode cX13_changesByEmergency 103 = .ok (.iconst 5, 1) := dk_8 (dk_at dksX13_changesByEmergency_4 9 rfl rfl)
theorem dX13_changesByEmergency_104 : decode cX13_changesByEmergency 104 = .ok (.iaload, 1) := dk_46 (dk_at dksX13_changesByEmergency_4 10 rfl rfl)
theorem dX13_changesByEmergency_105 : decode cX13_changesByEmergency 105 = .ok (.ifCond .ge 15, 3) := dk_156 0 15 (dk_at dksX13_changesByEmergency_4 11 rfl rfl)
theorem dX13_changesByEmergency_108 : decode cX13_changesByEmergency 108 = .ok (.aload_n 0, 1) := dk_42 (dk_at dksX13_changesByEmergency_4 14 rfl rfl)
theorem dX13_changesByEmergency_109 : decode cX13_changesByEmergency 109 = .ok (.getfield 11, 3) := dk_180 0 11 (dk_at dksX13_changesByEmergency_4 15 rfl rfl)
theorem dX13_changesByEmergency_112 : decode cX13_changesByEmergency 112 = .ok (.iconst 5, 1) := dk_8 (dk_at dksX13_changesByEmergency_4 18 rfl rfl)
theorem dX13_changesByEmergency_113 : decode cX13_changesByEmergency 113 = .ok (.aload_n 0, 1) := dk_42 (dk_at dksX13_changesByEmergency_4 19 rfl rfl)
theorem dX13_changesByEmergency_114 : decode cX13_changesByEmergency 114 = .ok (.getfield 11, 3) := dk_180 0 11 (dk_at dksX13_changesByEmergency_4 20 rfl rfl)
theorem dX13_changesByEmergency_117 : decode cX13_changesByEmergency 117 = .ok (.iconst 4, 1) := dk_7 (dk_at dksX13_changesByEmergency_4 23 rfl rfl)
theorem dX13_changesByEmergency_118 : decode cX13_changesByEmergency 118 = .ok (.iaload, 1) := dk_46 (dk_at dksX13_changesByEmergency_5 0 rfl rfl)
theorem dX13_changesByEmergency_119 : decode cX13_changesByEmergency 119 = .ok (.iastore, 1) := dk_79 (dk_at dksX13_changesByEmergency_5 1 rfl rfl)
theorem dX13_changesByEmergency_120 : decode cX13_changesByEmergency 120 = .ok (.aload_n 0, 1) := dk_42 (dk_at dksX13_changesByEmergency_5 2 rfl rfl)
theorem dX13_changesByEmergency_121 : decode cX13_changesByEmergency 121 = .ok (.aload_n 0, 1) := dk_42 (dk_at dksX13_changesByEmergency_5 3 rfl rfl)
theorem dX13_changesByEmergency_122 : decode cX13_changesByEmergency 122 = .ok (.aload_n 0, 1) := dk_42 (dk_at dksX13_changesByEmergency_5 4 rfl rfl)
theorem dX13_changesByEmergency_123 : decode cX13_changesByEmergency 123 = .ok (.getfield 11, 3) := dk_180 0 11 (dk_at dksX13_changesByEmergency_5 5 rfl rfl)
theorem dX13_changesByEmergency_126 : decode cX13_changesByEmergency 126 = .ok (.bipush 6, 2) := dk_16 6 (dk_at dksX13_changesByEmergency_5 8 rfl rfl)
theorem dX13_changesByEmergency_128 : decode cX13_changesByEmergency 128 = .ok (.iaload, 1) := dk_46 (dk_at dksX13_changesByEmergency_5 10 rfl rfl)
theorem dX13_changesByEmergency_129 : decode cX13_changesByEmergency 129 = .ok (.invokevirtual 160, 3) := dk_182 0 160 (dk_at dksX13_changesByEmergency_5 11 rfl rfl)
theorem dX13_changesByEmergency_132 : decode cX13_changesByEmergency 132 = .ok (.invokevirtual 163, 3) := dk_182 0 163 (dk_at dksX13_changesByEmergency_5 14 rfl rfl)
theorem dX13_changesByEmergency_135 : decode cX13_changesByEmergency 135 = .ok (.return_, 1) := dk_177 (dk_at dksX13_changesByEmergency_5 17 rfl rfl)
abbrev cX13_greenFor : ByteArray := prog_22_method_42_code
def yX13_greenFor : MethodName := ⟨RX13, "greenFor", "(I)I"⟩
def dkwX13_greenFor_0 : List UInt8 := [42, 180, 0, 11, 6, 46, 42, 27, 16, 7, 182, 0, 56, 100, 172]
abbrev dktX13_greenFor_0 : List UInt8 := dkwX13_greenFor_0 ++ []
theorem dksX13_greenFor_0 : cX13_greenFor.data.toList.drop 0 = dktX13_greenFor_0 := by decide +kernel
theorem dX13_greenFor_0 : decode cX13_greenFor 0 = .ok (.aload_n 0, 1) := dk_42 (dk_at dksX13_greenFor_0 0 rfl rfl)
theorem dX13_greenFor_1 : decode cX13_greenFor 1 = .ok (.getfield 11, 3) := dk_180 0 11 (dk_at dksX13_greenFor_0 1 rfl rfl)
theorem dX13_greenFor_4 : decode cX13_greenFor 4 = .ok (.iconst 3, 1) := dk_6 (dk_at dksX13_greenFor_0 4 rfl rfl)
theorem dX13_greenFor_5 : decode cX13_greenFor 5 = .ok (.iaload, 1) := dk_46 (dk_at dksX13_greenFor_0 5 rfl rfl)
theorem dX13_greenFor_6 : decode cX13_greenFor 6 = .ok (.aload_n 0, 1) := dk_42 (dk_at dksX13_greenFor_0 6 rfl rfl)
theorem dX13_greenFor_7 : decode cX13_greenFor 7 = .ok (.iload_n 1, 1) := dk_27 (dk_at dksX13_greenFor_0 7 rfl rfl)
theorem dX13_greenFor_8 : decode cX13_greenFor 8 = .ok (.bipush 7, 2) := dk_16 7 (dk_at dksX13_greenFor_0 8 rfl rfl)
theorem dX13_greenFor_10 : decode cX13_greenFor 10 = .ok (.invokevirtual 56, 3) := dk_182 0 56 (dk_at dksX13_greenFor_0 10 rfl rfl)
theorem dX13_greenFor_13 : decode cX13_greenFor 13 = .ok (.isub, 1) := dk_100 (dk_at dksX13_greenFor_0 13 rfl rfl)
theorem dX13_greenFor_14 : decode cX13_greenFor 14 = .ok (.ireturn, 1) := dk_172 (dk_at dksX13_greenFor_0 14 rfl rfl)
abbrev cX13_changes : ByteArray := prog_22_method_43_code
def yX13_changes : MethodName := ⟨RX13, "changes", "(I)V"⟩
def dkwX13_changes_8 : List UInt8 := [27, 182, 0, 141, 177]
abbrev dktX13_changes_8 : List UInt8 := dkwX13_changes_8 ++ []
def dkwX13_changes_7 : List UInt8 := [180, 0, 11, 6, 46, 79, 42, 180, 0, 11, 16, 15, 92, 46, 4, 96, 79, 132, 2, 1, 167, 255, 76, 42]
abbrev dktX13_changes_7 : List UInt8 := dkwX13_changes_7 ++ dktX13_changes_8
def dkwX13_changes_6 : List UInt8 := [180, 0, 11, 29, 4, 96, 42, 28, 16, 7, 182, 0, 56, 79, 42, 180, 0, 11, 29, 5, 96, 42]
abbrev dktX13_changes_6 : List UInt8 := dkwX13_changes_6 ++ dktX13_changes_7
def dkwX13_changes_5 : List UInt8 := [17, 0, 234, 6, 42, 180, 0, 11, 16, 15, 46, 104, 96, 62, 42, 180, 0, 11, 29, 28, 79, 42]
abbrev dktX13_changes_5 : List UInt8 := dkwX13_changes_5 ++ dktX13_changes_6
def dkwX13_changes_4 : List UInt8 := [96, 6, 96, 46, 79, 132, 3, 1, 167, 255, 225, 42, 180, 0, 11, 16, 15, 92, 46, 4, 100, 79]
abbrev dktX13_changes_4 : List UInt8 := dkwX13_changes_4 ++ dktX13_changes_5
def dkwX13_changes_3 : List UInt8 := [62, 29, 16, 69, 162, 0, 31, 42, 180, 0, 11, 17, 0, 234, 29, 96, 42, 180, 0, 11, 17, 0, 234, 29]
abbrev dktX13_changes_3 : List UInt8 := dkwX13_changes_3 ++ dktX13_changes_4
def dkwX13_changes_2 : List UInt8 := [16, 8, 42, 180, 0, 11, 6, 46, 182, 0, 85, 42, 180, 0, 11, 16, 15, 46, 16, 24, 160, 0, 50, 3]
abbrev dktX13_changes_2 : List UInt8 := dkwX13_changes_2 ++ dktX13_changes_3
def dkwX13_changes_1 : List UInt8 := [27, 182, 0, 151, 28, 184, 0, 132, 153, 0, 6, 167, 0, 144, 42, 28, 16, 6, 3, 182, 0, 85, 42, 28]
abbrev dktX13_changes_1 : List UInt8 := dkwX13_changes_1 ++ dktX13_changes_2
def dkwX13_changes_0 : List UInt8 := [3, 61, 28, 42, 180, 0, 11, 16, 13, 46, 162, 0, 175, 42, 28, 16, 6, 182, 0, 56, 153, 0, 159, 42]
abbrev dktX13_changes_0 : List UInt8 := dkwX13_changes_0 ++ dktX13_changes_1
theorem dksX13_changes_0 : cX13_changes.data.toList.drop 0 = dktX13_changes_0 := by decide +kernel
theorem dksX13_changes_1 : cX13_changes.data.toList.drop 24 = dktX13_changes_1 := dk_seg dksX13_changes_0 24 rfl rfl
theorem dksX13_changes_2 : cX13_changes.data.toList.drop 48 = dktX13_changes_2 := dk_seg dksX13_changes_1 24 rfl rfl
theorem dksX13_changes_3 : cX13_changes.data.toList.drop 72 = dktX13_changes_3 := dk_seg dksX13_changes_2 24 rfl rfl
theorem dksX13_changes_4 : cX13_changes.data.toList.drop 96 = dktX13_changes_4 := dk_seg dksX13_changes_3 24 rfl rfl
theorem dksX13_changes_5 : cX13_changes.data.toList.drop 118 = dktX13_changes_5 := dk_seg dksX13_changes_4 22 rfl rfl
theorem dksX13_changes_6 : cX13_changes.data.toList.drop 140 = dktX13_changes_6 := dk_seg dksX13_changes_5 22 rfl rfl
theorem dksX13_changes_7 : cX13_changes.data.toList.drop 162 = dktX13_changes_7 := dk_seg dksX13_changes_6 22 rfl rfl
theorem dksX13_changes_8 : cX13_changes.data.toList.drop 186 = dktX13_changes_8 := dk_seg dksX13_changes_7 24 rfl rfl
theorem dX13_changes_0 : decode cX13_changes 0 = .ok (.iconst 0, 1) := dk_3 (dk_at dksX13_changes_0 0 rfl rfl)
theorem dX13_changes_1 : decode cX13_changes 1 = .ok (.istore_n 2, 1) := dk_61 (dk_at dksX13_changes_0 1 rfl rfl)
theorem dX13_changes_2 : decode cX13_changes 2 = .ok (.iload_n 2, 1) := dk_28 (dk_at dksX13_changes_0 2 rfl rfl)
theorem dX13_changes_3 : decode cX13_changes 3 = .ok (.aload_n 0, 1) := dk_42 (dk_at dksX13_changes_0 3 rfl rfl)
theorem dX13_changes_4 : decode cX13_changes 4 = .ok (.getfield 11, 3) := dk_180 0 11 (dk_at dksX13_changes_0 4 rfl rfl)
theorem dX13_changes_7 : decode cX13_changes 7 = .ok (.bipush 13, 2) := dk_16 13 (dk_at dksX13_changes_0 7 rfl rfl)
theorem dX13_changes_9 : decode cX13_changes 9 = .ok (.iaload, 1) := dk_46 (dk_at dksX13_changes_0 9 rfl rfl)
theorem dX13_changes_10 : decode cX13_changes 10 = .ok (.if_icmp .ge 175, 3) := dk_162 0 175 (dk_at dksX13_changes_0 10 rfl rfl)
theorem dX13_changes_13 : decode cX13_changes 13 = .ok (.aload_n 0, 1) := dk_42 (dk_at dksX13_changes_0 13 rfl rfl)
theorem dX13_changes_14 : decode cX13_changes 14 = .ok (.iload_n 2, 1) := dk_28 (dk_at dksX13_changes_0 14 rfl rfl)
theorem dX13_changes_15 : decode cX13_changes 15 = .ok (.bipush 6, 2) := dk_16 6 (dk_at dksX13_changes_0 15 rfl rfl)
theorem dX13_changes_17 : decode cX13_changes 17 = .ok (.invokevirtual 56, 3) := dk_182 0 56 (dk_at dksX13_changes_0 17 rfl rfl)
theorem dX13_changes_20 : decode cX13_changes 20 = .ok (.ifCond .eq 159, 3) := dk_153 0 159 (dk_at dksX13_changes_0 20 rfl rfl)
theorem dX13_changes_23 : decode cX13_changes 23 = .ok (.aload_n 0, 1) := dk_42 (dk_at dksX13_changes_0 23 rfl rfl)
theorem dX13_changes_24 : decode cX13_changes 24 = .ok (.iload_n 1, 1) := dk_27 (dk_at dksX13_changes_1 0 rfl rfl)
theorem dX13_changes_25 : decode cX13_changes 25 = .ok (.invokevirtual 151, 3) := dk_182 0 151 (dk_at dksX13_changes_1 1 rfl rfl)
theorem dX13_changes_28 : decode cX13_changes 28 = .ok (.iload_n 2, 1) := dk_28 (dk_at dksX13_changes_1 4 rfl rfl)
theorem dX13_changes_29 : decode cX13_changes 29 = .ok (.invokestatic 132, 3) := dk_184 0 132 (dk_at dksX13_changes_1 5 rfl rfl)
theorem dX13_changes_32 : decode cX13_changes 32 = .ok (.ifCond .eq 6, 3) := dk_153 0 6 (dk_at dksX13_changes_1 8 rfl rfl)
theorem dX13_changes_35 : decode cX13_changes 35 = .ok (.goto 144, 3) := dk_167 0 144 (dk_at dksX13_changes_1 11 rfl rfl)
theorem dX13_changes_38 : decode cX13_changes 38 = .ok (.aload_n 0, 1) := dk_42 (dk_at dksX13_changes_1 14 rfl rfl)
theorem dX13_changes_39 : decode cX13_changes 39 = .ok (.iload_n 2, 1) := dk_28 (dk_at dksX13_changes_1 15 rfl rfl)
theorem dX13_changes_40 : decode cX13_changes 40 = .ok (.bipush 6, 2) := dk_16 6 (dk_at dksX13_changes_1 16 rfl rfl)
theorem dX13_changes_42 : decode cX13_changes 42 = .ok (.iconst 0, 1) := dk_3 (dk_at dksX13_changes_1 18 rfl rfl)
theorem dX13_changes_43 : decode cX13_changes 43 = .ok (.invokevirtual 85, 3) := dk_182 0 85 (dk_at dksX13_changes_1 19 rfl rfl)
theorem dX13_changes_46 : decode cX13_changes 46 = .ok (.aload_n 0, 1) := dk_42 (dk_at dksX13_changes_1 22 rfl rfl)
theorem dX13_changes_47 : decode cX13_changes 47 = .ok (.iload_n 2, 1) := dk_28 (dk_at dksX13_changes_1 23 rfl rfl)
theorem dX13_changes_48 : decode cX13_changes 48 = .ok (.bipush 8, 2) := dk_16 8 (dk_at dksX13_changes_2 0 rfl rfl)
theorem dX13_changes_50 : decode cX13_changes 50 = .ok (.aload_n 0, 1) := dk_42 (dk_at dksX13_changes_2 2 rfl rfl)
theorem dX13_changes_51 : decode cX13_changes 51 = .ok (.getfield 11, 3) := dk_180 0 11 (dk_at dksX13_changes_2 3 rfl rfl)
theorem dX13_changes_54 : decode cX13_changes 54 = .ok (.iconst 3, 1) := dk_6 (dk_at dksX13_changes_2 6 rfl rfl)
theorem dX13_changes_55 : decode cX13_changes 55 = .ok (.iaload, 1) := dk_46 (dk_at dksX13_changes_2 7 rfl rfl)
theorem dX13_changes_56 : decode cX13_changes 56 = .ok (.invokevirtual 85, 3) := dk_182 0 85 (dk_at dksX13_changes_2 8 rfl rfl)
theorem dX13_changes_59 : decode cX13_changes 59 = .ok (.aload_n 0, 1) := dk_42 (dk_at dksX13_changes_2 11 rfl rfl)
theorem dX13_changes_60 : decode cX13_changes 60 = .ok (.getfield 11, 3) := dk_180 0 11 (dk_at dksX13_changes_2 12 rfl rfl)
theorem dX13_changes_63 : decode cX13_changes 63 = .ok (.bipush 15, 2) := dk_16 15 (dk_at dksX13_changes_2 15 rfl rfl)
theorem dX13_changes_65 : decode cX13_changes 65 = .ok (.iaload, 1) := dk_46 (dk_at dksX13_changes_2 17 rfl rfl)
theorem dX13_changes_66 : decode cX13_changes 66 = .ok (.bipush 24, 2) := dk_16 24 (dk_at dksX13_changes_2 18 rfl rfl)
theorem dX13_changes_68 : decode cX13_changes 68 = .ok (.if_icmp .ne 50, 3) := dk_160 0 50 (dk_at dksX13_changes_2 20 rfl rfl)
theorem dX13_changes_71 : decode cX13_changes 71 = .ok (.iconst 0, 1) := dk_3 (dk_at dksX13_changes_2 23 rfl rfl)
theorem dX13_changes_72 : decode cX13_changes 72 = .ok (.istore_n 3, 1) := dk_62 (dk_at dksX13_changes_3 0 rfl rfl)
theorem dX13_changes_73 : decode cX13_changes 73 = .ok (.iload_n 3, 1) := dk_29 (dk_at dksX13_changes_3 1 rfl rfl)
theorem dX13_changes_74 : decode cX13_changes 74 = .ok (.bipush 69, 2) := dk_16 69 (dk_at dksX13_changes_3 2 rfl rfl)
theorem dX13_changes_76 : decode cX13_changes 76 = .ok (.if_icmp .ge 31, 3) := dk_162 0 31 (dk_at dksX13_changes_3 4 rfl rfl)
theorem dX13_changes_79 : decode cX13_changes 79 = .ok (.aload_n 0, 1) := dk_42 (dk_at dksX13_changes_3 7 rfl rfl)
theorem dX13_changes_80 : decode cX13_changes 80 = .ok (.getfield 11, 3) := dk_180 0 11 (dk_at dksX13_changes_3 8 rfl rfl)
theorem dX13_changes_83 : decode cX13_changes 83 = .ok (.sipush 234, 3) := dk_17 0 234 (dk_at dksX13_changes_3 11 rfl rfl)
theorem dX13_changes_86 : decode cX13_changes 86 = .ok (.iload_n 3, 1) := dk_29 (dk_at dksX13_changes_3 14 rfl rfl)
theorem dX13_changes_87 : decode cX13_changes 87 = .ok (.iadd, 1) := dk_96 (dk_at dksX13_changes_3 15 rfl rfl)
theorem dX13_changes_88 : decode cX13_changes 88 = .ok (.aload_n 0, 1) := dk_42 (dk_at dksX13_changes_3 16 rfl rfl)
theorem dX13_changes_89 : decode cX13_changes 89 = .ok (.getfield 11, 3) := dk_180 0 11 (dk_at dksX13_changes_3 17 rfl rfl)
theorem dX13_changes_92 : decode cX13_changes 92 = .ok (.sipush 234, 3) := dk_17 0 234 (dk_at dksX13_changes_3 20 rfl rfl)
theorem dX13_changes_95 : decode cX13_changes 95 = .ok (.iload_n 3, 1) := dk_29 (dk_at dksX13_changes_3 23 rfl rfl)
theorem dX13_changes_96 : decode cX13_changes 96 = .ok (.iadd, 1) := dk_96 (dk_at dksX13_changes_4 0 rfl rfl)
theorem dX13_changes_97 : decode cX13_changes 97 = .ok (.iconst 3, 1) := dk_6 (dk_at dksX13_changes_4 1 rfl rfl)
theorem dX13_changes_98 : decode cX13_changes 98 = .ok (.iadd, 1) := dk_96 (dk_at dksX13_changes_4 2 rfl rfl)
theorem dX13_changes_99 : decode cX13_changes 99 = .ok (.iaload, 1) := dk_46 (dk_at dksX13_changes_4 3 rfl rfl)
theorem dX13_changes_100 : decode cX13_changes 100 = .ok (.iastore, 1) := dk_79 (dk_at dksX13_changes_4 4 rfl rfl)
theorem dX13_changes_101 : decode cX13_changes 101 = .ok (.iinc 3 1, 3) := dk_132 3 1 (dk_at dksX13_changes_4 5 rfl rfl)
theorem dX13_changes_104 : decode cX13_changes 104 = .ok (.goto (-31), 3) := dk_167 255 225 (dk_at dksX13_changes_4 8 rfl rfl)
theorem dX13_changes_107 : decode cX13_changes 107 = .ok (.aload_n 0, 1) := dk_42 (dk_at dksX13_changes_4 11 rfl rfl)
theorem dX13_changes_108 : decode cX13_changes 108 = .ok (.getfield 11, 3) := dk_180 0 11 (dk_at dksX13_changes_4 12 rfl rfl)
theorem dX13_changes_111 : decode cX13_changes 111 = .ok (.bipush 15, 2) := dk_16 15 (dk_at dksX13_changes_4 15 rfl rfl)
theorem dX13_changes_113 : decode cX13_changes 113 = .ok (.dup2, 1) := dk_92 (dk_at dksX13_changes_4 17 rfl rfl)
theorem dX13_changes_114 : decode cX13_changes 114 = .ok (.iaload, 1) := dk_46 (dk_at dksX13_changes_4 18 rfl rfl)
theorem dX13_changes_115 : decode cX13_changes 115 = .ok (.iconst 1, 1) := dk_4 (dk_at dksX13_changes_4 19 rfl rfl)
theorem dX13_changes_116 : decode cX13_changes 116 = .ok (.isub, 1) := dk_100 (dk_at dksX13_changes_4 20 rfl rfl)
theorem dX13_changes_117 : decode cX13_changes 117 = .ok (.iastore, 1) := dk_79 (dk_at dksX13_changes_4 21 rfl rfl)
theorem dX13_changes_118 : decode cX13_changes 118 = .ok (.sipush 234, 3) := dk_17 0 234 (dk_at dksX13_changes_5 0 rfl rfl)
theorem dX13_changes_121 : decode cX13_changes 121 = .ok (.iconst 3, 1) := dk_6 (dk_at dksX13_changes_5 3 rfl rfl)
theorem dX13_changes_122 : decode cX13_changes 122 = .ok (.aload_n 0, 1) := dk_42 (dk_at dksX13_changes_5 4 rfl rfl)
theorem dX13_changes_123 : decode cX13_changes 123 = .ok (.getfield 11, 3) := dk_180 0 11 (dk_at dksX13_changes_5 5 rfl rfl)
theorem dX13_changes_126 : decode cX13_changes 126 = .ok (.bipush 15, 2) := dk_16 15 (dk_at dksX13_changes_5 8 rfl rfl)
theorem dX13_changes_128 : decode cX13_changes 128 = .ok (.iaload, 1) := dk_46 (dk_at dksX13_changes_5 10 rfl rfl)
theorem dX13_changes_129 : decode cX13_changes 129 = .ok (.imul, 1) := dk_104 (dk_at dksX13_changes_5 11 rfl rfl)
theorem dX13_changes_130 : decode cX13_changes 130 = .ok (.iadd, 1) := dk_96 (dk_at dksX13_changes_5 12 rfl rfl)
theorem dX13_changes_131 : decode cX13_changes 131 = .ok (.istore_n 3, 1) := dk_62 (dk_at dksX13_changes_5 13 rfl rfl)
theorem dX13_changes_132 : decode cX13_changes 132 = .ok (.aload_n 0, 1) := dk_42 (dk_at dksX13_changes_5 14 rfl rfl)
theorem dX13_changes_133 : decode cX13_changes 133 = .ok (.getfield 11, 3) := dk_180 0 11 (dk_at dksX13_changes_5 15 rfl rfl)
theorem dX13_changes_136 : decode cX13_changes 136 = .ok (.iload_n 3, 1) := dk_29 (dk_at dksX13_changes_5 18 rfl rfl)
theorem dX13_changes_137 : decode cX13_changes 137 = .ok (.iload_n 2, 1) := dk_28 (dk_at dksX13_changes_5 19 rfl rfl)
theorem dX13_changes_138 : decode cX13_changes 138 = .ok (.iastore, 1) := dk_79 (dk_at dksX13_changes_5 20 rfl rfl)
theorem dX13_changes_139 : decode cX13_changes 139 = .ok (.aload_n 0, 1) := dk_42 (dk_at dksX13_changes_5 21 rfl rfl)
theorem dX13_changes_140 : decode cX13_changes 140 = .ok (.getfield 11, 3) := dk_180 0 11 (dk_at dksX13_changes_6 0 rfl rfl)
theorem dX13_changes_143 : decode cX13_changes 143 = .ok (.iload_n 3, 1) := dk_29 (dk_at dksX13_changes_6 3 rfl rfl)
theorem dX13_changes_144 : decode cX13_changes 144 = .ok (.iconst 1, 1) := dk_4 (dk_at dksX13_changes_6 4 rfl rfl)
theorem dX13_changes_145 : decode cX13_changes 145 = .ok (.iadd, 1) := dk_96 (dk_at dksX13_changes_6 5 rfl rfl)
theorem dX13_changes_146 : decode cX13_changes 146 = .ok (.aload_n 0, 1) := dk_42 (dk_at dksX13_changes_6 6 rfl rfl)
theorem dX13_changes_147 : decode cX13_changes 147 = .ok (.iload_n 2, 1) := dk_28 (dk_at dksX13_changes_6 7 rfl rfl)
theorem dX13_changes_148 : decode cX13_changes 148 = .ok (.bipush 7, 2) := dk_16 7 (dk_at dksX13_changes_6 8 rfl rfl)
theorem dX13_changes_150 : decode cX13_changes 150 = .ok (.invokevirtual 56, 3) := dk_182 0 56 (dk_at dksX13_changes_6 10 rfl rfl)
theorem dX13_changes_153 : decode cX13_changes 153 = .ok (.iastore, 1) := dk_79 (dk_at dksX13_changes_6 13 rfl rfl)
theorem dX13_changes_154 : decode cX13_changes 154 = .ok (.aload_n 0, 1) := dk_42 (dk_at dksX13_changes_6 14 rfl rfl)
theorem dX13_changes_155 : decode cX13_changes 155 = .ok (.getfield 11, 3) := dk_180 0 11 (dk_at dksX13_changes_6 15 rfl rfl)
theorem dX13_changes_158 : decode cX13_changes 158 = .ok (.iload_n 3, 1) := dk_29 (dk_at dksX13_changes_6 18 rfl rfl)
theorem dX13_changes_159 : decode cX13_changes 159 = .ok (.iconst 2, 1) := dk_5 (dk_at dksX13_changes_6 19 rfl rfl)
theorem dX13_changes_160 : decode cX13_changes 160 = .ok (.iadd, 1) := dk_96 (dk_at dksX13_changes_6 20 rfl rfl)
theorem dX13_changes_161 : decode cX13_changes 161 = .ok (.aload_n 0, 1) := dk_42 (dk_at dksX13_changes_6 21 rfl rfl)
theorem dX13_changes_162 : decode cX13_changes 162 = .ok (.getfield 11, 3) := dk_180 0 11 (dk_at dksX13_changes_7 0 rfl rfl)
theorem dX13_changes_165 : decode cX13_changes 165 = .ok (.iconst 3, 1) := dk_6 (dk_at dksX13_changes_7 3 rfl rfl)
theorem dX13_changes_166 : decode cX13_changes 166 = .ok (.iaload, 1) := dk_46 (dk_at dksX13_changes_7 4 rfl rfl)
theorem dX13_changes_167 : decode cX13_changes 167 = .ok (.iastore, 1) := dk_79 (dk_at dksX13_changes_7 5 rfl rfl)
theorem dX13_changes_168 : decode cX13_changes 168 = .ok (.aload_n 0, 1) := dk_42 (dk_at dksX13_changes_7 6 rfl rfl)
theorem dX13_changes_169 : decode cX13_changes 169 = .ok (.getfield 11, 3) := dk_180 0 11 (dk_at dksX13_changes_7 7 rfl rfl)
theorem dX13_changes_172 : decode cX13_changes 172 = .ok (.bipush 15, 2) := dk_16 15 (dk_at dksX13_changes_7 10 rfl rfl)
theorem dX13_changes_174 : decode cX13_changes 174 = .ok (.dup2, 1) := dk_92 (dk_at dksX13_changes_7 12 rfl rfl)
theorem dX13_changes_175 : decode cX13_changes 175 = .ok (.iaload, 1) := dk_46 (dk_at dksX13_changes_7 13 rfl rfl)
theorem dX13_changes_176 : decode cX13_changes 176 = .ok (.iconst 1, 1) := dk_4 (dk_at dksX13_changes_7 14 rfl rfl)
theorem dX13_changes_177 : decode cX13_changes 177 = .ok (.iadd, 1) := dk_96 (dk_at dksX13_changes_7 15 rfl rfl)
theorem dX13_changes_178 : decode cX13_changes 178 = .ok (.iastore, 1) := dk_79 (dk_at dksX13_changes_7 16 rfl rfl)
theorem dX13_changes_179 : decode cX13_changes 179 = .ok (.iinc 2 1, 3) := dk_132 2 1 (dk_at dksX13_changes_7 17 rfl rfl)
theorem dX13_changes_182 : decode cX13_changes 182 = .ok (.goto (-180), 3) := dk_167 255 76 (dk_at dksX13_changes_7 20 rfl rfl)
theorem dX13_changes_185 : decode cX13_changes 185 = .ok (.aload_n 0, 1) := dk_42 (dk_at dksX13_changes_7 23 rfl rfl)
theorem dX13_changes_186 : decode cX13_changes 186 = .ok (.iload_n 1, 1) := dk_27 (dk_at dksX13_changes_8 0 rfl rfl)
theorem dX13_changes_187 : decode cX13_changes 187 = .ok (.invokevirtual 141, 3) := dk_182 0 141 (dk_at dksX13_changes_8 1 rfl rfl)
theorem dX13_changes_190 : decode cX13_changes 190 = .ok (.return_, 1) := dk_177 (dk_at dksX13_changes_8 4 rfl rfl)
abbrev cX13_changesByCalls : ByteArray := prog_22_method_45_code
def yX13_changesByCalls : MethodName := ⟨RX13, "changesByCalls", "()V"⟩
def dkwX13_changesByCalls_15 : List UInt8 := [180, 0, 11, 8, 16, 251, 79, 42, 21, 7, 182, 0, 163, 177]
abbrev dktX13_changesByCalls_15 : List UInt8 := dkwX13_changesByCalls_15 ++ []
def dkwX13_changesByCalls_14 : List UInt8 := [184, 0, 132, 154, 0, 20, 21, 7, 4, 96, 42, 180, 0, 11, 16, 14, 46, 112, 54, 7, 167, 255, 233, 42]
abbrev dktX13_changesByCalls_14 : List UInt8 := dkwX13_changesByCalls_14 ++ dktX13_changesByCalls_15
def dkwX13_changesByCalls_13 : List UInt8 := [154, 0, 47, 42, 180, 0, 11, 7, 46, 4, 96, 42, 180, 0, 11, 16, 14, 46, 112, 54, 7, 28, 21, 7]
abbrev dktX13_changesByCalls_13 : List UInt8 := dkwX13_changesByCalls_13 ++ dktX13_changesByCalls_14
def dkwX13_changesByCalls_12 : List UInt8 := [154, 0, 4, 177, 42, 180, 0, 11, 8, 46, 54, 7, 21, 7, 155, 0, 12, 28, 21, 7, 184, 0, 132]
abbrev dktX13_changesByCalls_12 : List UInt8 := dkwX13_changesByCalls_12 ++ dktX13_changesByCalls_13
def dkwX13_changesByCalls_11 : List UInt8 := [167, 0, 4, 3, 54, 6, 29, 153, 0, 18, 21, 6, 154, 0, 14, 21, 4, 154, 0, 9, 21, 5]
abbrev dktX13_changesByCalls_11 : List UInt8 := dkwX13_changesByCalls_11 ++ dktX13_changesByCalls_12
def dkwX13_changesByCalls_10 : List UInt8 := [180, 0, 11, 17, 0, 216, 6, 42, 180, 0, 11, 7, 46, 104, 96, 4, 96, 46, 161, 0, 7, 4]
abbrev dktX13_changesByCalls_10 : List UInt8 := dkwX13_changesByCalls_10 ++ dktX13_changesByCalls_11
def dkwX13_changesByCalls_9 : List UInt8 := [180, 0, 11, 16, 12, 46, 161, 0, 7, 4, 167, 0, 4, 3, 126, 62, 167, 0, 36, 42, 182, 0, 170, 42]
abbrev dktX13_changesByCalls_9 : List UInt8 := dkwX13_changesByCalls_9 ++ dktX13_changesByCalls_10
def dkwX13_changesByCalls_8 : List UInt8 := [180, 0, 11, 16, 10, 46, 158, 0, 70, 42, 180, 0, 11, 7, 46, 154, 0, 28, 29, 42, 182, 0, 170, 42]
abbrev dktX13_changesByCalls_8 : List UInt8 := dkwX13_changesByCalls_8 ++ dktX13_changesByCalls_9
def dkwX13_changesByCalls_7 : List UInt8 := [182, 0, 56, 161, 0, 7, 4, 167, 0, 4, 3, 126, 54, 5, 132, 6, 1, 167, 255, 109, 3, 54, 6, 42]
abbrev dktX13_changesByCalls_7 : List UInt8 := dkwX13_changesByCalls_7 ++ dktX13_changesByCalls_8
def dkwX13_changesByCalls_6 : List UInt8 := [155, 0, 28, 42, 180, 0, 11, 6, 46, 42, 21, 6, 16, 9, 182, 0, 56, 100, 42, 21, 6, 6]
abbrev dktX13_changesByCalls_6 : List UInt8 := dkwX13_changesByCalls_6 ++ dktX13_changesByCalls_7
def dkwX13_changesByCalls_5 : List UInt8 := [182, 0, 56, 161, 0, 7, 4, 167, 0, 4, 3, 128, 54, 4, 21, 5, 42, 21, 6, 16, 9, 182, 0, 56]
abbrev dktX13_changesByCalls_5 : List UInt8 := dkwX13_changesByCalls_5 ++ dktX13_changesByCalls_6
def dkwX13_changesByCalls_4 : List UInt8 := [21, 4, 42, 21, 6, 16, 6, 182, 0, 56, 4, 160, 0, 23, 42, 21, 6, 182, 0, 157, 42, 21, 6, 5]
abbrev dktX13_changesByCalls_4 : List UInt8 := dkwX13_changesByCalls_4 ++ dktX13_changesByCalls_5
def dkwX13_changesByCalls_3 : List UInt8 := [42, 21, 6, 182, 0, 157, 42, 21, 6, 4, 182, 0, 56, 161, 0, 7, 4, 167, 0, 4, 3, 126, 62]
abbrev dktX13_changesByCalls_3 : List UInt8 := dkwX13_changesByCalls_3 ++ dktX13_changesByCalls_4
def dkwX13_changesByCalls_2 : List UInt8 := [21, 6, 184, 0, 132, 154, 0, 6, 167, 0, 123, 29, 42, 21, 6, 16, 6, 182, 0, 56, 4, 160, 0, 23]
abbrev dktX13_changesByCalls_2 : List UInt8 := dkwX13_changesByCalls_2 ++ dktX13_changesByCalls_3
def dkwX13_changesByCalls_1 : List UInt8 := [3, 62, 3, 54, 4, 4, 54, 5, 3, 54, 6, 21, 6, 42, 180, 0, 11, 16, 13, 46, 162, 0, 141, 27]
abbrev dktX13_changesByCalls_1 : List UInt8 := dkwX13_changesByCalls_1 ++ dktX13_changesByCalls_2
def dkwX13_changesByCalls_0 : List UInt8 := [42, 42, 180, 0, 11, 7, 46, 182, 0, 151, 60, 42, 182, 0, 166, 61, 28, 153, 0, 7, 4, 167, 0, 4]
abbrev dktX13_changesByCalls_0 : List UInt8 := dkwX13_changesByCalls_0 ++ dktX13_changesByCalls_1
theorem dksX13_changesByCalls_0 : cX13_changesByCalls.data.toList.drop 0 = dktX13_changesByCalls_0 := by decide +kernel
theorem dksX13_changesByCalls_1 : cX13_changesByCalls.data.toList.drop 24 = dktX13_changesByCalls_1 := dk_seg dksX13_changesByCalls_0 24 rfl rfl
theorem dksX13_changesByCalls_2 : cX13_changesByCalls.data.toList.drop 48 = dktX13_changesByCalls_2 := dk_seg dksX13_changesByCalls_1 24 rfl rfl
theorem dksX13_changesByCalls_3 : cX13_changesByCalls.data.toList.drop 72 = dktX13_changesByCalls_3 := dk_seg dksX13_changesByCalls_2 24 rfl rfl
theorem dksX13_changesByCalls_4 : cX13_changesByCalls.data.toList.drop 95 = dktX13_changesByCalls_4 := dk_seg dksX13_changesByCalls_3 23 rfl rfl
theorem dksX13_changesByCalls_5 : cX13_changesByCalls.data.toList.drop 119 = dktX13_changesByCalls_5 := dk_seg dksX13_changesByCalls_4 24 rfl rfl
theorem dksX13_changesByCalls_6 : cX13_changesByCalls.data.toList.drop 143 = dktX13_changesByCalls_6 := dk_seg dksX13_changesByCalls_5 24 rfl rfl
theorem dksX13_changesByCalls_7 : cX13_changesByCalls.data.toList.drop 165 = dktX13_changesByCalls_7 := dk_seg dksX13_changesByCalls_6 22 rfl rfl
theorem dksX13_changesByCalls_8 : cX13_changesByCalls.data.toList.drop 189 = dktX13_changesByCalls_8 := dk_seg dksX13_changesByCalls_7 24 rfl rfl
theorem dksX13_changesByCalls_9 : cX13_changesByCalls.data.toList.drop 213 = dktX13_changesByCalls_9 := dk_seg dksX13_changesByCalls_8 24 rfl rfl
theorem dksX13_changesByCalls_10 : cX13_changesByCalls.data.toList.drop 237 = dktX13_changesByCalls_10 := dk_seg dksX13_changesByCalls_9 24 rfl rfl
theorem dksX13_changesByCalls_11 : cX13_changesByCalls.data.toList.drop 259 = dktX13_changesByCalls_11 := dk_seg dksX13_changesByCalls_10 22 rfl rfl
theorem dksX13_changesByCalls_12 : cX13_changesByCalls.data.toList.drop 281 = dktX13_changesByCalls_12 := dk_seg dksX13_changesByCalls_11 22 rfl rfl
theorem dksX13_changesByCalls_13 : cX13_changesByCalls.data.toList.drop 304 = dktX13_changesByCalls_13 := dk_seg dksX13_changesByCalls_12 23 rfl rfl
theorem dksX13_changesByCalls_14 : cX13_changesByCalls.data.toList.drop 328 = dktX13_changesByCalls_14 := dk_seg dksX13_changesByCalls_13 24 rfl rfl
theorem dksX13_changesByCalls_15 : cX13_changesByCalls.data.toList.drop 352 = dktX13_changesByCalls_15 := dk_seg dksX13_changesByCalls_14 24 rfl rfl
theorem dX13_changesByCalls_0 : decode cX13_changesByCalls 0 = .ok (.aload_n 0, 1) := dk_42 (dk_at dksX13_changesByCalls_0 0 rfl rfl)
theorem dX13_changesByCalls_1 : decode cX13_changesByCalls 1 = .ok (.aload_n 0, 1) := dk_42 (dk_at dksX13_changesByCalls_0 1 rfl rfl)
theorem dX13_changesByCalls_2 : decode cX13_changesByCalls 2 = .ok (.getfield 11, 3) := dk_180 0 11 (dk_at dksX13_changesByCalls_0 2 rfl rfl)
theorem dX13_changesByCalls_5 : decode cX13_changesByCalls 5 = .ok (.iconst 4, 1) := dk_7 (dk_at dksX13_changesByCalls_0 5 rfl rfl)
theorem dX13_changesByCalls_6 : decode cX13_changesByCalls 6 = .ok (.iaload, 1) := dk_46 (dk_at dksX13_changesByCalls_0 6 rfl rfl)
theorem dX13_changesByCalls_7 : decode cX13_changesByCalls 7 = .ok (.invokevirtual 151, 3) := dk_182 0 151 (dk_at dksX13_changesByCalls_0 7 rfl rfl)
theorem dX13_changesByCalls_10 : decode cX13_changesByCalls 10 = .ok (.istore_n 1, 1) := dk_60 (dk_at dksX13_changesByCalls_0 10 rfl rfl)
theorem dX13_changesByCalls_11 : decode cX13_changesByCalls 11 = .ok (.aload_n 0, 1) := dk_42 (dk_at dksX13_changesByCalls_0 11 rfl rfl)
theorem dX13_changesByCalls_12 : decode cX13_changesByCalls 12 = .ok (.invokevirtual 166, 3) := dk_182 0 166 (dk_at dksX13_changesByCalls_0 12 rfl rfl)
theorem dX13_changesByCalls_15 : decode cX13_changesByCalls 15 = .ok (.istore_n 2, 1) := dk_61 (dk_at dksX13_changesByCalls_0 15 rfl rfl)
theorem dX13_changesByCalls_16 : decode cX13_changesByCalls 16 = .ok (.iload_n 2, 1) := dk_28 (dk_at dksX13_changesByCalls_0 16 rfl rfl)
theorem dX13_changesByCalls_17 : decode cX13_changesByCalls 17 = .ok (.ifCond .eq 7, 3) := dk_153 0 7 (dk_at dksX13_changesByCalls_0 17 rfl rfl)
theorem dX13_changesByCalls_20 : decode cX13_changesByCalls 20 = .ok (.iconst 1, 1) := dk_4 (dk_at dksX13_changesByCalls_0 20 rfl rfl)
theorem dX13_changesByCalls_21 : decode cX13_changesByCalls 21 = .ok (.goto 4, 3) := dk_167 0 4 (dk_at dksX13_changesByCalls_0 21 rfl rfl)
theorem dX13_changesByCalls_24 : decode cX13_changesByCalls 24 = .ok (.iconst 0, 1) := dk_3 (dk_at dksX13_changesByCalls_1 0 rfl rfl)
theorem dX13_changesByCalls_25 : decode cX13_changesByCalls 25 = .ok (.istore_n 3, 1) := dk_62 (dk_at dksX13_changesByCalls_1 1 rfl rfl)
theorem dX13_changesByCalls_26 : decode cX13_changesByCalls 26 = .ok (.iconst 0, 1) := dk_3 (dk_at dksX13_changesByCalls_1 2 rfl rfl)
theorem dX13_changesByCalls_27 : decode cX13_changesByCalls 27 = .ok (.istore 4, 2) := dk_54 4 (dk_at dksX13_changesByCalls_1 3 rfl rfl)
theorem dX13_changesByCalls_29 : decode cX13_changesByCalls 29 = .ok (.iconst 1, 1) := dk_4 (dk_at dksX13_changesByCalls_1 5 rfl rfl)
theorem dX13_changesByCalls_30 : decode cX13_changesByCalls 30 = .ok (.istore 5, 2) := dk_54 5 (dk_at dksX13_changesByCalls_1 6 rfl rfl)
theorem dX13_changesByCalls_32 : decode cX13_changesByCalls 32 = .ok (.iconst 0, 1) := dk_3 (dk_at dksX13_changesByCalls_1 8 rfl rfl)
theorem dX13_changesByCalls_33 : decode cX13_changesByCalls 33 = .ok (.istore 6, 2) := dk_54 6 (dk_at dksX13_changesByCalls_1 9 rfl rfl)
theorem dX13_changesByCalls_35 : decode cX13_changesByCalls 35 = .ok (.iload 6, 2) := dk_21 6 (dk_at dksX13_changesByCalls_1 11 rfl rfl)
theorem dX13_changesByCalls_37 : decode cX13_changesByCalls 37 = .ok (.aload_n 0, 1) := dk_42 (dk_at dksX13_changesByCalls_1 13 rfl rfl)
theorem dX13_changesByCalls_38 : decode cX13_changesByCalls 38 = .ok (.getfield 11, 3) := dk_180 0 11 (dk_at dksX13_changesByCalls_1 14 rfl rfl)
theorem dX13_changesByCalls_41 : decode cX13_changesByCalls 41 = .ok (.bipush 13, 2) := dk_16 13 (dk_at dksX13_changesByCalls_1 17 rfl rfl)
theorem dX13_changesByCalls_43 : decode cX13_changesByCalls 43 = .ok (.iaload, 1) := dk_46 (dk_at dksX13_changesByCalls_1 19 rfl rfl)
theorem dX13_changesByCalls_44 : decode cX13_changesByCalls 44 = .ok (.if_icmp .ge 141, 3) := dk_162 0 141 (dk_at dksX13_changesByCalls_1 20 rfl rfl)
theorem dX13_changesByCalls_47 : decode cX13_changesByCalls 47 = .ok (.iload_n 1, 1) := dk_27 (dk_at dksX13_changesByCalls_1 23 rfl rfl)
theorem dX13_changesByCalls_48 : decode cX13_changesByCalls 48 = .ok (.iload 6, 2) := dk_21 6 (dk_at dksX13_changesByCalls_2 0 rfl rfl)
theorem dX13_changesByCalls_50 : decode cX13_changesByCalls 50 = .ok (.invokestatic 132, 3) := dk_184 0 132 (dk_at dksX13_changesByCalls_2 2 rfl rfl)
theorem dX13_changesByCalls_53 : decode cX13_changesByCalls 53 = .ok (.ifCond .ne 6, 3) := dk_154 0 6 (dk_at dksX13_changesByCalls_2 5 rfl rfl)
theorem dX13_changesByCalls_56 : decode cX13_changesByCalls 56 = .ok (.goto 123, 3) := dk_167 0 123 (dk_at dksX13_changesByCalls_2 8 rfl rfl)
theorem dX13_changesByCalls_59 : decode cX13_changesByCalls 59 = .ok (.iload_n 3, 1) := dk_29 (dk_at dksX13_changesByCalls_2 11 rfl rfl)
theorem dX13_changesByCalls_60 : decode cX13_changesByCalls 60 = .ok (.aload_n 0, 1) := dk_42 (dk_at dksX13_changesByCalls_2 12 rfl rfl)
theorem dX13_changesByCalls_61 : decode cX13_changesByCalls 61 = .ok (.iload 6, 2) := dk_21 6 (dk_at dksX13_changesByCalls_2 13 rfl rfl)
theorem dX13_changesByCalls_63 : decode cX13_changesByCalls 63 = .ok (.bipush 6, 2) := dk_16 6 (dk_at dksX13_changesByCalls_2 15 rfl rfl)
theorem dX13_changesByCalls_65 : decode cX13_changesByCalls 65 = .ok (.invokevirtual 56, 3) := dk_182 0 56 (dk_at dksX13_changesByCalls_2 17 rfl rfl)
theorem dX13_changesByCalls_68 : decode cX13_changesByCalls 68 = .ok (.iconst 1, 1) := dk_4 (dk_at dksX13_changesByCalls_2 20 rfl rfl)
theorem dX13_changesByCalls_69 : decode cX13_changesByCalls 69 = .ok (.if_icmp .ne 23, 3) := dk_160 0 23 (dk_at dksX13_changesByCalls_2 21 rfl rfl)
theorem dX13_changesByCalls_72 : decode cX13_changesByCalls 72 = .ok (.aload_n 0, 1) := dk_42 (dk_at dksX13_changesByCalls_3 0 rfl rfl)
theorem dX13_changesByCalls_73 : decode cX13_changesByCalls 73 = .ok (.iload 6, 2) := dk_21 6 (dk_at dksX13_changesByCalls_3 1 rfl rfl)
theorem dX13_changesByCalls_75 : decode cX13_changesByCalls 75 = .ok (.invokevirtual 157, 3) := dk_182 0 157 (dk_at dksX13_changesByCalls_3 3 rfl rfl)
theorem dX13_changesByCalls_78 : decode cX13_changesByCalls 78 = .ok (.aload_n 0, 1) := dk_42 (dk_at dksX13_changesByCalls_3 6 rfl rfl)
theorem dX13_changesByCalls_79 : decode cX13_changesByCalls 79 = .ok (.iload 6, 2) := dk_21 6 (dk_at dksX13_changesByCalls_3 7 rfl rfl)
theorem dX13_changesByCalls_81 : decode cX13_changesByCalls 81 = .ok (.iconst 1, 1) := dk_4 (dk_at dksX13_changesByCalls_3 9 rfl rfl)
theorem dX13_changesByCalls_82 : decode cX13_changesByCalls 82 = .ok (.invokevirtual 56, 3) := dk_182 0 56 (dk_at dksX13_changesByCalls_3 10 rfl rfl)
theorem dX13_changesByCalls_85 : decode cX13_changesByCalls 85 = .ok (.if_icmp .lt 7, 3) := dk_161 0 7 (dk_at dksX13_changesByCalls_3 13 rfl rfl)
theorem dX13_changesByCalls_88 : decode cX13_changesByCalls 88 = .ok (.iconst 1, 1) := dk_4 (dk_at dksX13_changesByCalls_3 16 rfl rfl)
theorem dX13_changesByCalls_89 : decode cX13_changesByCalls 89 = .ok (.goto 4, 3) := dk_167 0 4 (dk_at dksX13_changesByCalls_3 17 rfl rfl)
theorem dX13_changesByCalls_92 : decode cX13_changesByCalls 92 = .ok (.iconst 0, 1) := dk_3 (dk_at dksX13_changesByCalls_3 20 rfl rfl)
theorem dX13_changesByCalls_93 : decode cX13_changesByCalls 93 = .ok (.iand, 1) := dk_126 (dk_at dksX13_changesByCalls_3 21 rfl rfl)
theorem dX13_changesByCalls_94 : decode cX13_changesByCalls 94 = .ok (.istore_n 3, 1) := dk_62 (dk_at dksX13_changesByCalls_3 22 rfl rfl)
theorem dX13_changesByCalls_95 : decode cX13_changesByCalls 95 = .ok (.iload 4, 2) := dk_21 4 (dk_at dksX13_changesByCalls_4 0 rfl rfl)
theorem dX13_changesByCalls_97 : decode cX13_changesByCalls 97 = .ok (.aload_n 0, 1) := dk_42 (dk_at dksX13_changesByCalls_4 2 rfl rfl)
theorem dX13_changesByCalls_98 : decode cX13_changesByCalls 98 = .ok (.iload 6, 2) := dk_21 6 (dk_at dksX13_changesByCalls_4 3 rfl rfl)
theorem dX13_changesByCalls_100 : decode cX13_changesByCalls 100 = .ok (.bipush 6, 2) := dk_16 6 (dk_at dksX13_changesByCalls_4 5 rfl rfl)
theorem dX13_changesByCalls_102 : decode cX13_changesByCalls 102 = .ok (.invokevirtual 56, 3) := dk_182 0 56 (dk_at dksX13_changesByCalls_4 7 rfl rfl)
theorem dX13_changesByCalls_105 : decode cX13_changesByCalls 105 = .ok (.iconst 1, 1) := dk_4 (dk_at dksX13_changesByCalls_4 10 rfl rfl)
theorem dX13_changesByCalls_106 : decode cX13_changesByCalls 106 = .ok (.if_icmp .ne 23, 3) := dk_160 0 23 (dk_at dksX13_changesByCalls_4 11 rfl rfl)
theorem dX13_changesByCalls_109 : decode cX13_changesByCalls 109 = .ok (.aload_n 0, 1) := dk_42 (dk_at dksX13_changesByCalls_4 14 rfl rfl)
theorem dX13_changesByCalls_110 : decode cX13_changesByCalls 110 = .ok (.iload 6, 2) := dk_21 6 (dk_at dksX13_changesByCalls_4 15 rfl rfl)
theorem dX13_changesByCalls_112 : decode cX13_changesByCalls 112 = .ok (.invokevirtual 157, 3) := dk_182 0 157 (dk_at dksX13_changesByCalls_4 17 rfl rfl)
theorem dX13_changesByCalls_115 : decode cX13_changesByCalls 115 = .ok (.aload_n 0, 1) := dk_42 (dk_at dksX13_changesByCalls_4 20 rfl rfl)
theorem dX13_changesByCalls_116 : decode cX13_changesByCalls 116 = .ok (.iload 6, 2) := dk_21 6 (dk_at dksX13_changesByCalls_4 21 rfl rfl)
theorem dX13_changesByCalls_118 : decode cX13_changesByCalls 118 = .ok (.iconst 2, 1) := dk_5 (dk_at dksX13_changesByCalls_4 23 rfl rfl)
theorem dX13_changesByCalls_119 : decode cX13_changesByCalls 119 = .ok (.invokevirtual 56, 3) := dk_182 0 56 (dk_at dksX13_changesByCalls_5 0 rfl rfl)
theorem dX13_changesByCalls_122 : decode cX13_changesByCalls 122 = .ok (.if_icmp .lt 7, 3) := dk_161 0 7 (dk_at dksX13_changesByCalls_5 3 rfl rfl)
theorem dX13_changesByCalls_125 : decode cX13_changesByCalls 125 = .ok (.iconst 1, 1) := dk_4 (dk_at dksX13_changesByCalls_5 6 rfl rfl)
theorem dX13_changesByCalls_126 : decode cX13_changesByCalls 126 = .ok (.goto 4, 3) := dk_167 0 4 (dk_at dksX13_changesByCalls_5 7 rfl rfl)
theorem dX13_changesByCalls_129 : decode cX13_changesByCalls 129 = .ok (.iconst 0, 1) := dk_3 (dk_at dksX13_changesByCalls_5 10 rfl rfl)
theorem dX13_changesByCalls_130 : decode cX13_changesByCalls 130 = .ok (.ior, 1) := dk_128 (dk_at dksX13_changesByCalls_5 11 rfl rfl)
theorem dX13_changesByCalls_131 : decode cX13_changesByCalls 131 = .ok (.istore 4, 2) := dk_54 4 (dk_at dksX13_changesByCalls_5 12 rfl rfl)
theorem dX13_changesByCalls_133 : decode cX13_changesByCalls 133 = .ok (.iload 5, 2) := dk_21 5 (dk_at dksX13_changesByCalls_5 14 rfl rfl)
theorem dX13_changesByCalls_135 : decode cX13_changesByCalls 135 = .ok (.aload_n 0, 1) := dk_42 (dk_at dksX13_changesByCalls_5 16 rfl rfl)
theorem dX13_changesByCalls_136 : decode cX13_changesByCalls 136 = .ok (.iload 6, 2) := dk_21 6 (dk_at dksX13_changesByCalls_5 17 rfl rfl)
theorem dX13_changesByCalls_138 : decode cX13_changesByCalls 138 = .ok (.bipush 9, 2) := dk_16 9 (dk_at dksX13_changesByCalls_5 19 rfl rfl)
theorem dX13_changesByCalls_140 : decode cX13_changesByCalls 140 = .ok (.invokevirtual 56, 3) := dk_182 0 56 (dk_at dksX13_changesByCalls_5 21 rfl rfl)
theorem dX13_changesByCalls_143 : decode cX13_changesByCalls 143 = .ok (.ifCond .lt 28, 3) := dk_155 0 28 (dk_at dksX13_changesByCalls_6 0 rfl rfl)
theorem dX13_changesByCalls_146 : decode cX13_changesByCalls 146 = .ok (.aload_n 0, 1) := dk_42 (dk_at dksX13_changesByCalls_6 3 rfl rfl)
theorem dX13_changesByCalls_147 : decode cX13_changesByCalls 147 = .ok (.getfield 11, 3) := dk_180 0 11 (dk_at dksX13_changesByCalls_6 4 rfl rfl)
theorem dX13_changesByCalls_150 : decode cX13_changesByCalls 150 = .ok (.iconst 3, 1) := dk_6 (dk_at dksX13_changesByCalls_6 7 rfl rfl)
theorem dX13_changesByCalls_151 : decode cX13_changesByCalls 151 = .ok (.iaload, 1) := dk_46 (dk_at dksX13_changesByCalls_6 8 rfl rfl)
theorem dX13_changesByCalls_152 : decode cX13_changesByCalls 152 = .ok (.aload_n 0, 1) := dk_42 (dk_at dksX13_changesByCalls_6 9 rfl rfl)
theorem dX13_changesByCalls_153 : decode cX13_changesByCalls 153 = .ok (.iload 6, 2) := dk_21 6 (dk_at dksX13_changesByCalls_6 10 rfl rfl)
theorem dX13_changesByCalls_155 : decode cX13_changesByCalls 155 = .ok (.bipush 9, 2) := dk_16 9 (dk_at dksX13_changesByCalls_6 12 rfl rfl)
theorem dX13_changesByCalls_157 : decode cX13_changesByCalls 157 = .ok (.invokevirtual 56, 3) := dk_182 0 56 (dk_at dksX13_changesByCalls_6 14 rfl rfl)
theorem dX13_changesByCalls_160 : decode cX13_changesByCalls 160 = .ok (.isub, 1) := dk_100 (dk_at dksX13_changesByCalls_6 17 rfl rfl)
theorem dX13_changesByCalls_161 : decode cX13_changesByCalls 161 = .ok (.aload_n 0, 1) := dk_42 (dk_at dksX13_changesByCalls_6 18 rfl rfl)
theorem dX13_changesByCalls_162 : decode cX13_changesByCalls 162 = .ok (.iload 6, 2) := dk_21 6 (dk_at dksX13_changesByCalls_6 19 rfl rfl)
theorem dX13_changesByCalls_164 : decode cX13_changesByCalls 164 = .ok (.iconst 3, 1) := dk_6 (dk_at dksX13_changesByCalls_6 21 rfl rfl)
theorem dX13_changesByCalls_165 : decode cX13_changesByCalls 165 = .ok (.invokevirtual 56, 3) := dk_182 0 56 (dk_at dksX13_changesByCalls_7 0 rfl rfl)
theorem dX13_changesByCalls_168 : decode cX13_changesByCalls 168 = .ok (.if_icmp .lt 7, 3) := dk_161 0 7 (dk_at dksX13_changesByCalls_7 3 rfl rfl)
theorem dX13_changesByCalls_171 : decode cX13_changesByCalls 171 = .ok (.iconst 1, 1) := dk_4 (dk_at dksX13_changesByCalls_7 6 rfl rfl)
theorem dX13_changesByCalls_172 : decode cX13_changesByCalls 172 = .ok (.goto 4, 3) := dk_167 0 4 (dk_at dksX13_changesByCalls_7 7 rfl rfl)
theorem dX13_changesByCalls_175 : decode cX13_changesByCalls 175 = .ok (.iconst 0, 1) := dk_3 (dk_at dksX13_changesByCalls_7 10 rfl rfl)
theorem dX13_changesByCalls_176 : decode cX13_changesByCalls 176 = .ok (.iand, 1) := dk_126 (dk_at dksX13_changesByCalls_7 11 rfl rfl)
theorem dX13_changesByCalls_177 : decode cX13_changesByCalls 177 = .ok (.istore 5, 2) := dk_54 5 (dk_at dksX13_changesByCalls_7 12 rfl rfl)
theorem dX13_changesByCalls_179 : decode cX13_changesByCalls 179 = .ok (.iinc 6 1, 3) := dk_132 6 1 (dk_at dksX13_changesByCalls_7 14 rfl rfl)
theorem dX13_changesByCalls_182 : decode cX13_changesByCalls 182 = .ok (.goto (-147), 3) := dk_167 255 109 (dk_at dksX13_changesByCalls_7 17 rfl rfl)
theorem dX13_changesByCalls_185 : decode cX13_changesByCalls 185 = .ok (.iconst 0, 1) := dk_3 (dk_at dksX13_changesByCalls_7 20 rfl rfl)
theorem dX13_changesByCalls_186 : decode cX13_changesByCalls 186 = .ok (.istore 6, 2) := dk_54 6 (dk_at dksX13_changesByCalls_7 21 rfl rfl)
theorem dX13_changesByCalls_188 : decode cX13_changesByCalls 188 = .ok (.aload_n 0, 1) := dk_42 (dk_at dksX13_changesByCalls_7 23 rfl rfl)
theorem dX13_changesByCalls_189 : decode cX13_changesByCalls 189 = .ok (.getfield 11, 3) := dk_180 0 11 (dk_at dksX13_changesByCalls_8 0 rfl rfl)
theorem dX13_changesByCalls_192 : decode cX13_changesByCalls 192 = .ok (.bipush 10, 2) := dk_16 10 (dk_at dksX13_changesByCalls_8 3 rfl rfl)
theorem dX13_changesByCalls_194 : decode cX13_changesByCalls 194 = .ok (.iaload, 1) := dk_46 (dk_at dksX13_changesByCalls_8 5 rfl rfl)
theorem dX13_changesByCalls_195 : decode cX13_changesByCalls 195 = .ok (.ifCond .le 70, 3) := dk_158 0 70 (dk_at dksX13_changesByCalls_8 6 rfl rfl)
theorem dX13_changesByCalls_198 : decode cX13_changesByCalls 198 = .ok (.aload_n 0, 1) := dk_42 (dk_at dksX13_changesByCalls_8 9 rfl rfl)
theorem dX13_changesByCalls_199 : decode cX13_changesByCalls 199 = .ok (.getfield 11, 3) := dk_180 0 11 (dk_at dksX13_changesByCalls_8 10 rfl rfl)
theorem dX13_changesByCalls_202 : decode cX13_changesByCalls 202 = .ok (.iconst 4, 1) := dk_7 (dk_at dksX13_changesByCalls_8 13 rfl rfl)
theorem dX13_changesByCalls_203 : decode cX13_changesByCalls 203 = .ok (.iaload, 1) := dk_46 (dk_at dksX13_changesByCalls_8 14 rfl rfl)
theorem dX13_changesByCalls_204 : decode cX13_changesByCalls 204 = .ok (.ifCond .ne 28, 3) := dk_154 0 28 (dk_at dksX13_changesByCalls_8 15 rfl rfl)
theorem dX13_changesByCalls_207 : decode cX13_changesByCalls 207 = .ok (.iload_n 3, 1) := dk_29 (dk_at dksX13_changesByCalls_8 18 rfl rfl)
theorem dX13_changesByCalls_208 : decode cX13_changesByCalls 208 = .ok (.aload_n 0, 1) := dk_42 (dk_at dksX13_changesByCalls_8 19 rfl rfl)
theorem dX13_changesByCalls_209 : decode cX13_changesByCalls 209 = .ok (.invokevirtual 170, 3) := dk_182 0 170 (dk_at dksX13_changesByCalls_8 20 rfl rfl)
theorem dX13_changesByCalls_212 : decode cX13_changesByCalls 212 = .ok (.aload_n 0, 1) := dk_42 (dk_at dksX13_changesByCalls_8 23 rfl rfl)
theorem dX13_changesByCalls_213 : decode cX13_changesByCalls 213 = .ok (.getfield 11, 3) := dk_180 0 11 (dk_at dksX13_changesByCalls_9 0 rfl rfl)
theorem dX13_changesByCalls_216 : decode cX13_changesByCalls 216 = .ok (.bipush 12, 2) := dk_16 12 (dk_at dksX13_changesByCalls_9 3 rfl rfl)
theorem dX13_changesByCalls_218 : decode cX13_changesByCalls 218 = .ok (.iaload, 1) := dk_46 (dk_at dksX13_changesByCalls_9 5 rfl rfl)
theorem dX13_changesByCalls_219 : decode cX13_changesByCalls 219 = .ok (.if_icmp .lt 7, 3) := dk_161 0 7 (dk_at dksX13_changesByCalls_9 6 rfl rfl)
theorem dX13_changesByCalls_222 : decode cX13_changesByCalls 222 = .ok (.iconst 1, 1) := dk_4 (dk_at dksX13_changesByCalls_9 9 rfl rfl)
theorem dX13_changesByCalls_223 : decode cX13_changesByCalls 223 = .ok (.goto 4, 3) := dk_167 0 4 (dk_at dksX13_changesByCalls_9 10 rfl rfl)
theorem dX13_changesByCalls_226 : decode cX13_changesByCalls 226 = .ok (.iconst 0, 1) := dk_3 (dk_at dksX13_changesByCalls_9 13 rfl rfl)
theorem dX13_changesByCalls_227 : decode cX13_changesByCalls 227 = .ok (.iand, 1) := dk_126 (dk_at dksX13_changesByCalls_9 14 rfl rfl)
theorem dX13_changesByCalls_228 : decode cX13_changesByCalls 228 = .ok (.istore_n 3, 1) := dk_62 (dk_at dksX13_changesByCalls_9 15 rfl rfl)
theorem dX13_changesByCalls_229 : decode cX13_changesByCalls 229 = .ok (.goto 36, 3) := dk_167 0 36 (dk_at dksX13_changesByCalls_9 16 rfl rfl)
theorem dX13_changesByCalls_232 : decode cX13_changesByCalls 232 = .ok (.aload_n 0, 1) := dk_42 (dk_at dksX13_changesByCalls_9 19 rfl rfl)
theorem dX13_changesByCalls_233 : decode cX13_changesByCalls 233 = .ok (.invokevirtual 170, 3) := dk_182 0 170 (dk_at dksX13_changesByCalls_9 20 rfl rfl)
theorem dX13_changesByCalls_236 : decode cX13_changesByCalls 236 = .ok (.aload_n 0, 1) := dk_42 (dk_at dksX13_changesByCalls_9 23 rfl rfl)
theorem dX13_changesByCalls_237 : decode cX13_changesByCalls 237 = .ok (.getfield 11, 3) := dk_180 0 11 (dk_at dksX13_changesByCalls_10 0 rfl rfl)
theorem dX13_changesByCalls_240 : decode cX13_changesByCalls 240 = .ok (.sipush 216, 3) := dk_17 0 216 (dk_at dksX13_changesByCalls_10 3 rfl rfl)
theorem dX13_changesByCalls_243 : decode cX13_changesByCalls 243 = .ok (.iconst 3, 1) := dk_6 (dk_at dksX13_changesByCalls_10 6 rfl rfl)
theorem dX13_changesByCalls_244 : decode cX13_changesByCalls 244 = .ok (.aload_n 0, 1) := dk_42 (dk_at dksX13_changesByCalls_10 7 rfl rfl)
theorem dX13_changesByCalls_245 : decode cX13_changesByCalls 245 = .ok (.getfield 11, 3) := dk_180 0 11 (dk_at dksX13_changesByCalls_10 8 rfl rfl)
theorem dX13_changesByCalls_248 : decode cX13_changesByCalls 248 = .ok (.iconst 4, 1) := dk_7 (dk_at dksX13_changesByCalls_10 11 rfl rfl)
theorem dX13_changesByCalls_249 : decode cX13_changesByCalls 249 = .ok (.iaload, 1) := dk_46 (dk_at dksX13_changesByCalls_10 12 rfl rfl)
theorem dX13_changesByCalls_250 : decode cX13_changesByCalls 250 = .ok (.imul, 1) := dk_104 (dk_at dksX13_changesByCalls_10 13 rfl rfl)
theorem dX13_changesByCalls_251 : decode cX13_changesByCalls 251 = .ok (.iadd, 1) := dk_96 (dk_at dksX13_changesByCalls_10 14 rfl rfl)
theorem dX13_changesByCalls_252 : decode cX13_changesByCalls 252 = .ok (.iconst 1, 1) := dk_4 (dk_at dksX13_changesByCalls_10 15 rfl rfl)
theorem dX13_changesByCalls_253 : decode cX13_changesByCalls 253 = .ok (.iadd, 1) := dk_96 (dk_at dksX13_changesByCalls_10 16 rfl rfl)
theorem dX13_changesByCalls_254 : decode cX13_changesByCalls 254 = .ok (.iaload, 1) := dk_46 (dk_at dksX13_changesByCalls_10 17 rfl rfl)
theorem dX13_changesByCalls_255 : decode cX13_changesByCalls 255 = .ok (.if_icmp .lt 7, 3) := dk_161 0 7 (dk_at dksX13_changesByCalls_10 18 rfl rfl)
theorem dX13_changesByCalls_258 : decode cX13_changesByCalls 258 = .ok (.iconst 1, 1) := dk_4 (dk_at dksX13_changesByCalls_10 21 rfl rfl)
theorem dX13_changesByCalls_259 : decode cX13_changesByCalls 259 = .ok (.goto 4, 3) := dk_167 0 4 (dk_at dksX13_changesByCalls_11 0 rfl rfl)
theorem dX13_changesByCalls_262 : decode cX13_changesByCalls 262 = .ok (.iconst 0, 1) := dk_3 (dk_at dksX13_changesByCalls_11 3 rfl rfl)
theorem dX13_changesByCalls_263 : decode cX13_changesByCalls 263 = .ok (.istore 6, 2) := dk_54 6 (dk_at dksX13_changesByCalls_11 4 rfl rfl)
theorem dX13_changesByCalls_265 : decode cX13_changesByCalls 265 = .ok (.iload_n 3, 1) := dk_29 (dk_at dksX13_changesByCalls_11 6 rfl rfl)
theorem dX13_changesByCalls_266 : decode cX13_changesByCalls 266 = .ok (.ifCond .eq 18, 3) := dk_153 0 18 (dk_at dksX13_changesByCalls_11 7 rfl rfl)
theorem dX13_changesByCalls_269 : decode cX13_changesByCalls 269 = .ok (.iload 6, 2) := dk_21 6 (dk_at dksX13_changesByCalls_11 10 rfl rfl)
theorem dX13_changesByCalls_271 : decode cX13_changesByCalls 271 = .ok (.ifCond .ne 14, 3) := dk_154 0 14 (dk_at dksX13_changesByCalls_11 12 rfl rfl)
theorem dX13_changesByCalls_274 : decode cX13_changesByCalls 274 = .ok (.iload 4, 2) := dk_21 4 (dk_at dksX13_changesByCalls_11 15 rfl rfl)
theorem dX13_changesByCalls_276 : decode cX13_changesByCalls 276 = .ok (.ifCond .ne 9, 3) := dk_154 0 9 (dk_at dksX13_changesByCalls_11 17 rfl rfl)
theorem dX13_changesByCalls_279 : decode cX13_changesByCalls 279 = .ok (.iload 5, 2) := dk_21 5 (dk_at dksX13_changesByCalls_11 20 rfl rfl)
theorem dX13_changesByCalls_281 : decode cX13_changesByCalls 281 = .ok (.ifCond .ne 4, 3) := dk_154 0 4 (dk_at dksX13_changesByCalls_12 0 rfl rfl)
theorem dX13_changesByCalls_284 : decode cX13_changesByCalls 284 = .ok (.return_, 1) := dk_177 (dk_at dksX13_changesByCalls_12 3 rfl rfl)
theorem dX13_changesByCalls_285 : decode cX13_changesByCalls 285 = .ok (.aload_n 0, 1) := dk_42 (dk_at dksX13_changesByCalls_12 4 rfl rfl)
theorem dX13_changesByCalls_286 : decode cX13_changesByCalls 286 = .ok (.getfield 11, 3) := dk_180 0 11 (dk_at dksX13_changesByCalls_12 5 rfl rfl)
theorem dX13_changesByCalls_289 : decode cX13_changesByCalls 289 = .ok (.iconst 5, 1) := dk_8 (dk_at dksX13_changesByCalls_12 8 rfl rfl)
theorem dX13_changesByCalls_290 : decode cX13_changesByCalls 290 = .ok (.iaload, 1) := dk_46 (dk_at dksX13_changesByCalls_12 9 rfl rfl)
theorem dX13_changesByCalls_291 : decode cX13_changesByCalls 291 = .ok (.istore 7, 2) := dk_54 7 (dk_at dksX13_changesByCalls_12 10 rfl rfl)
theorem dX13_changesByCalls_293 : decode cX13_changesByCalls 293 = .ok (.iload 7, 2) := dk_21 7 (dk_at dksX13_changesByCalls_12 12 rfl rfl)
theorem dX13_changesByCalls_295 : decode cX13_changesByCalls 295 = .ok (.ifCond .lt 12, 3) := dk_155 0 12 (dk_at dksX13_changesByCalls_12 14 rfl rfl)
theorem dX13_changesByCalls_298 : decode cX13_changesByCalls 298 = .ok (.iload_n 2, 1) := dk_28 (dk_at dksX13_changesByCalls_12 17 rfl rfl)
theorem dX13_changesByCalls_299 : decode cX13_changesByCalls 299 = .ok (.iload 7, 2) := dk_21 7 (dk_at dksX13_changesByCalls_12 18 rfl rfl)
theorem dX13_changesByCalls_301 : decode cX13_changesByCalls 301 = .ok (.invokestatic 132, 3) := dk_184 0 132 (dk_at dksX13_changesByCalls_12 20 rfl rfl)
theorem dX13_changesByCalls_304 : decode cX13_changesByCalls 304 = .ok (.ifCond .ne 47, 3) := dk_154 0 47 (dk_at dksX13_changesByCalls_13 0 rfl rfl)
theorem dX13_changesByCalls_307 : decode cX13_changesByCalls 307 = .ok (.aload_n 0, 1) := dk_42 (dk_at dksX13_changesByCalls_13 3 rfl rfl)
theorem dX13_changesByCalls_308 : decode cX13_changesByCalls 308 = .ok (.getfield 11, 3) := dk_180 0 11 (dk_at dksX13_changesByCalls_13 4 rfl rfl)
theorem dX13_changesByCalls_311 : decode cX13_changesByCalls 311 = .ok (.iconst 4, 1) := dk_7 (dk_at dksX13_changesByCalls_13 7 rfl rfl)
theorem dX13_changesByCalls_312 : decode cX13_changesByCalls 312 = .ok (.iaload, 1) := dk_46 (dk_at dksX13_changesByCalls_13 8 rfl rfl)
theorem dX13_changesByCalls_313 : decode cX13_changesByCalls 313 = .ok (.iconst 1, 1) := dk_4 (dk_at dksX13_changesByCalls_13 9 rfl rfl)
theorem dX13_changesByCalls_314 : decode cX13_changesByCalls 314 = .ok (.iadd, 1) := dk_96 (dk_at dksX13_changesByCalls_13 10 rfl rfl)
theorem dX13_changesByCalls_315 : decode cX13_changesByCalls 315 = .ok (.aload_n 0, 1) := dk_42 (dk_at dksX13_changesByCalls_13 11 rfl rfl)
theorem dX13_changesByCalls_316 : decode cX13_changesByCalls 316 = .ok (.getfield 11, 3) := dk_180 0 11 (dk_at dksX13_changesByCalls_13 12 rfl rfl)
theorem dX13_changesByCalls_319 : decode cX13_changesByCalls 319 = .ok (.bipush 14, 2) := dk_16 14 (dk_at dksX13_changesByCalls_13 15 rfl rfl)
theorem dX13_changesByCalls_321 : decode cX13_changesByCalls 321 = .ok (.iaload, 1) := dk_46 (dk_at dksX13_changesByCalls_13 17 rfl rfl)
theorem dX13_changesByCalls_322 : decode cX13_changesByCalls 322 = .ok (.irem, 1) := dk_112 (dk_at dksX13_changesByCalls_13 18 rfl rfl)
theorem dX13_changesByCalls_323 : decode cX13_changesByCalls 323 = .ok (.istore 7, 2) := dk_54 7 (dk_at dksX13_changesByCalls_13 19 rfl rfl)
theorem dX13_changesByCalls_325 : decode cX13_changesByCalls 325 = .ok (.iload_n 2, 1) := dk_28 (dk_at dksX13_changesByCalls_13 21 rfl rfl)
theorem dX13_changesByCalls_326 : decode cX13_changesByCalls 326 = .ok (.iload 7, 2) := dk_21 7 (dk_at dksX13_changesByCalls_13 22 rfl rfl)
theorem dX13_changesByCalls_328 : decode cX13_changesByCalls 328 = .ok (.invokestatic 132, 3) := dk_184 0 132 (dk_at dksX13_changesByCalls_14 0 rfl rfl)
theorem dX13_changesByCalls_331 : decode cX13_changesByCalls 331 = .ok (.ifCond .ne 20, 3) := dk_154 0 20 (dk_at dksX13_changesByCalls_14 3 rfl rfl)
theorem dX13_changesByCalls_334 : decode cX13_changesByCalls 334 = .ok (.iload 7, 2) := dk_21 7 (dk_at dksX13_changesByCalls_14 6 rfl rfl)
theorem dX13_changesByCalls_336 : decode cX13_changesByCalls 336 = .ok (.iconst 1, 1) := dk_4 (dk_at dksX13_changesByCalls_14 8 rfl rfl)
theorem dX13_changesByCalls_337 : decode cX13_changesByCalls 337 = .ok (.iadd, 1) := dk_96 (dk_at dksX13_changesByCalls_14 9 rfl rfl)
theorem dX13_changesByCalls_338 : decode cX13_changesByCalls 338 = .ok (.aload_n 0, 1) := dk_42 (dk_at dksX13_changesByCalls_14 10 rfl rfl)
theorem dX13_changesByCalls_339 : decode cX13_changesByCalls 339 = .ok (.getfield 11, 3) := dk_180 0 11 (dk_at dksX13_changesByCalls_14 11 rfl rfl)
theorem dX13_changesByCalls_342 : decode cX13_changesByCalls 342 = .ok (.bipush 14, 2) := dk_16 14 (dk_at dksX13_changesByCalls_14 14 rfl rfl)
theorem dX13_changesByCalls_344 : decode cX13_changesByCalls 344 = .ok (.iaload, 1) := dk_46 (dk_at dksX13_changesByCalls_14 16 rfl rfl)
theorem dX13_changesByCalls_345 : decode cX13_changesByCalls 345 = .ok (.irem, 1) := dk_112 (dk_at dksX13_changesByCalls_14 17 rfl rfl)
theorem dX13_changesByCalls_346 : decode cX13_changesByCalls 346 = .ok (.istore 7, 2) := dk_54 7 (dk_at dksX13_changesByCalls_14 18 rfl rfl)
theorem dX13_changesByCalls_348 : decode cX13_changesByCalls 348 = .ok (.goto (-23), 3) := dk_167 255 233 (dk_at dksX13_changesByCalls_14 20 rfl rfl)
theorem dX13_changesByCalls_351 : decode cX13_changesByCalls 351 = .ok (.aload_n 0, 1) := dk_42 (dk_at dksX13_changesByCalls_14 23 rfl rfl)
theorem dX13_changesByCalls_352 : decode cX13_changesByCalls 352 = .ok (.getfield 11, 3) := dk_180 0 11 (dk_at dksX13_changesByCalls_15 0 rfl rfl)
theorem dX13_changesByCalls_355 : decode cX13_changesByCalls 355 = .ok (.iconst 5, 1) := dk_8 (dk_at dksX13_changesByCalls_15 3 rfl rfl)
theorem dX13_changesByCalls_356 : decode cX13_changesByCalls 356 = .ok (.bipush (-5), 2) := dk_16 251 (dk_at dksX13_changesByCalls_15 4 rfl rfl)
theorem dX13_changesByCalls_358 : decode cX13_changesByCalls 358 = .ok (.iastore, 1) := dk_79 (dk_at dksX13_changesByCalls_15 6 rfl rfl)
theorem dX13_changesByCalls_359 : decode cX13_changesByCalls 359 = .ok (.aload_n 0, 1) := dk_42 (dk_at dksX13_changesByCalls_15 7 rfl rfl)
theorem dX13_changesByCalls_360 : decode cX13_changesByCalls 360 = .ok (.iload 7, 2) := dk_21 7 (dk_at dksX13_changesByCalls_15 8 rfl rfl)
theorem dX13_changesByCalls_362 : decode cX13_changesByCalls 362 = .ok (.invokevirtual 163, 3) := dk_182 0 163 (dk_at dksX13_changesByCalls_15 10 rfl rfl)
theorem dX13_changesByCalls_365 : decode cX13_changesByCalls 365 = .ok (.return_, 1) := dk_177 (dk_at dksX13_changesByCalls_15 13 rfl rfl)
abbrev cX13_called : ByteArray := prog_22_method_40_code
def yX13_called : MethodName := ⟨RX13, "called", "()I"⟩
def dkwX13_called_1 : List UInt8 := [4, 28, 120, 167, 0, 4, 3, 128, 60, 132, 2, 1, 167, 255, 224, 27, 172]
abbrev dktX13_called_1 : List UInt8 := dkwX13_called_1 ++ []
def dkwX13_called_0 : List UInt8 := [3, 60, 3, 61, 28, 42, 180, 0, 11, 16, 14, 46, 162, 0, 27, 27, 42, 28, 182, 0, 154, 153, 0, 9]
abbrev dktX13_called_0 : List UInt8 := dkwX13_called_0 ++ dktX13_called_1
theorem dksX13_called_0 : cX13_called.data.toList.drop 0 = dktX13_called_0 := by decide +kernel
theorem dksX13_called_1 : cX13_called.data.toList.drop 24 = dktX13_called_1 := dk_seg dksX13_called_0 24 rfl rfl
theorem dX13_called_0 : decode cX13_called 0 = .ok (.iconst 0, 1) := dk_3 (dk_at dksX13_called_0 0 rfl rfl)
theorem dX13_called_1 : decode cX13_called 1 = .ok (.istore_n 1, 1) := dk_60 (dk_at dksX13_called_0 1 rfl rfl)
theorem dX13_called_2 : decode cX13_called 2 = .ok (.iconst 0, 1) := dk_3 (dk_at dksX13_called_0 2 rfl rfl)
theorem dX13_called_3 : decode cX13_called 3 = .ok (.istore_n 2, 1) := dk_61 (dk_at dksX13_called_0 3 rfl rfl)
theorem dX13_called_4 : decode cX13_called 4 = .ok (.iload_n 2, 1) := dk_28 (dk_at dksX13_called_0 4 rfl rfl)
theorem dX13_called_5 : decode cX13_called 5 = .ok (.aload_n 0, 1) := dk_42 (dk_at dksX13_called_0 5 rfl rfl)
theorem dX13_called_6 : decode cX13_called 6 = .ok (.getfield 11, 3) := dk_180 0 11 (dk_at dksX13_called_0 6 rfl rfl)
theorem dX13_called_9 : decode cX13_called 9 = .ok (.bipush 14, 2) := dk_16 14 (dk_at dksX13_called_0 9 rfl rfl)
theorem dX13_called_11 : decode cX13_called 11 = .ok (.iaload, 1) := dk_46 (dk_at dksX13_called_0 11 rfl rfl)
theorem dX13_called_12 : decode cX13_called 12 = .ok (.if_icmp .ge 27, 3) := dk_162 0 27 (dk_at dksX13_called_0 12 rfl rfl)
theorem dX13_called_15 : decode cX13_called 15 = .ok (.iload_n 1, 1) := dk_27 (dk_at dksX13_called_0 15 rfl rfl)
theorem dX13_called_16 : decode cX13_called 16 = .ok (.aload_n 0, 1) := dk_42 (dk_at dksX13_called_0 16 rfl rfl)
theorem dX13_called_17 : decode cX13_called 17 = .ok (.iload_n 2, 1) := dk_28 (dk_at dksX13_called_0 17 rfl rfl)
theorem dX13_called_18 : decode cX13_called 18 = .ok (.invokevirtual 154, 3) := dk_182 0 154 (dk_at dksX13_called_0 18 rfl rfl)
theorem dX13_called_21 : decode cX13_called 21 = .ok (.ifCond .eq 9, 3) := dk_153 0 9 (dk_at dksX13_called_0 21 rfl rfl)
theorem dX13_called_24 : decode cX13_called 24 = .ok (.iconst 1, 1) := dk_4 (dk_at dksX13_called_1 0 rfl rfl)
theorem dX13_called_25 : decode cX13_called 25 = .ok (.iload_n 2, 1) := dk_28 (dk_at dksX13_called_1 1 rfl rfl)
theorem dX13_called_26 : decode cX13_called 26 = .ok (.ishl, 1) := dk_120 (dk_at dksX13_called_1 2 rfl rfl)
theorem dX13_called_27 : decode cX13_called 27 = .ok (.goto 4, 3) := dk_167 0 4 (dk_at dksX13_called_1 3 rfl rfl)
theorem dX13_called_30 : decode cX13_called 30 = .ok (.iconst 0, 1) := dk_3 (dk_at dksX13_called_1 6 rfl rfl)
theorem dX13_called_31 : decode cX13_called 31 = .ok (.ior, 1) := dk_128 (dk_at dksX13_called_1 7 rfl rfl)
theorem dX13_called_32 : decode cX13_called 32 = .ok (.istore_n 1, 1) := dk_60 (dk_at dksX13_called_1 8 rfl rfl)
theorem dX13_called_33 : decode cX13_called 33 = .ok (.iinc 2 1, 3) := dk_132 2 1 (dk_at dksX13_called_1 9 rfl rfl)
theorem dX13_called_36 : decode cX13_called 36 = .ok (.goto (-32), 3) := dk_167 255 224 (dk_at dksX13_called_1 12 rfl rfl)
theorem dX13_called_39 : decode cX13_called 39 = .ok (.iload_n 1, 1) := dk_27 (dk_at dksX13_called_1 15 rfl rfl)
theorem dX13_called_40 : decode cX13_called 40 = .ok (.ireturn, 1) := dk_172 (dk_at dksX13_called_1 16 rfl rfl)
abbrev cX13_isCalled : ByteArray := prog_22_method_39_code
def yX13_isCalled : MethodName := ⟨RX13, "isCalled", "(I)Z"⟩
def dkwX13_isCalled_4 : List UInt8 := [132, 3, 1, 167, 255, 203, 28, 172]
abbrev dktX13_isCalled_4 : List UInt8 := dkwX13_isCalled_4 ++ []
def dkwX13_isCalled_3 : List UInt8 := [8, 182, 0, 56, 158, 0, 17, 42, 29, 16, 6, 182, 0, 56, 154, 0, 7, 4, 167, 0, 4, 3, 128, 61]
abbrev dktX13_isCalled_3 : List UInt8 := dkwX13_isCalled_3 ++ dktX13_isCalled_4
def dkwX13_isCalled_2 : List UInt8 := [180, 0, 11, 16, 13, 46, 162, 0, 48, 28, 42, 27, 182, 0, 151, 29, 184, 0, 132, 153, 0, 26, 42, 29]
abbrev dktX13_isCalled_2 : List UInt8 := dkwX13_isCalled_2 ++ dktX13_isCalled_3
def dkwX13_isCalled_1 : List UInt8 := [154, 0, 17, 42, 180, 0, 11, 16, 10, 46, 158, 0, 7, 4, 167, 0, 4, 3, 61, 3, 62, 29, 42]
abbrev dktX13_isCalled_1 : List UInt8 := dkwX13_isCalled_1 ++ dktX13_isCalled_2
def dkwX13_isCalled_0 : List UInt8 := [42, 180, 0, 11, 5, 46, 153, 0, 13, 27, 42, 180, 0, 11, 7, 46, 160, 0, 5, 3, 172, 27]
abbrev dktX13_isCalled_0 : List UInt8 := dkwX13_isCalled_0 ++ dktX13_isCalled_1
theorem dksX13_isCalled_0 : cX13_isCalled.data.toList.drop 0 = dktX13_isCalled_0 := by decide +kernel
theorem dksX13_isCalled_1 : cX13_isCalled.data.toList.drop 22 = dktX13_isCalled_1 := dk_seg dksX13_isCalled_0 22 rfl rfl
theorem dksX13_isCalled_2 : cX13_isCalled.data.toList.drop 45 = dktX13_isCalled_2 := dk_seg dksX13_isCalled_1 23 rfl rfl
theorem dksX13_isCalled_3 : cX13_isCalled.data.toList.drop 69 = dktX13_isCalled_3 := dk_seg dksX13_isCalled_2 24 rfl rfl
theorem dksX13_isCalled_4 : cX13_isCalled.data.toList.drop 93 = dktX13_isCalled_4 := dk_seg dksX13_isCalled_3 24 rfl rfl
theorem dX13_isCalled_0 : decode cX13_isCalled 0 = .ok (.aload_n 0, 1) := dk_42 (dk_at dksX13_isCalled_0 0 rfl rfl)
theorem dX13_isCalled_1 : decode cX13_isCalled 1 = .ok (.getfield 11, 3) := dk_180 0 11 (dk_at dksX13_isCalled_0 1 rfl rfl)
theorem dX13_isCalled_4 : decode cX13_isCalled 4 = .ok (.iconst 2, 1) := dk_5 (dk_at dksX13_isCalled_0 4 rfl rfl)
theorem dX13_isCalled_5 : decode cX13_isCalled 5 = .ok (.iaload, 1) := dk_46 (dk_at dksX13_isCalled_0 5 rfl rfl)
theorem dX13_isCalled_6 : decode cX13_isCalled 6 = .ok (.ifCond .eq 13, 3) := dk_153 0 13 (dk_at dksX13_isCalled_0 6 rfl rfl)
theorem dX13_isCalled_9 : decode cX13_isCalled 9 = .ok (.iload_n 1, 1) := dk_27 (dk_at dksX13_isCalled_0 9 rfl rfl)
theorem dX13_isCalled_10 : decode cX13_isCalled 10 = .ok (.aload_n 0, 1) := dk_42 (dk_at dksX13_isCalled_0 10 rfl rfl)
theorem dX13_isCalled_11 : decode cX13_isCalled 11 = .ok (.getfield 11, 3) := dk_180 0 11 (dk_at dksX13_isCalled_0 11 rfl rfl)
theorem dX13_isCalled_14 : decode cX13_isCalled 14 = .ok (.iconst 4, 1) := dk_7 (dk_at dksX13_isCalled_0 14 rfl rfl)
theorem dX13_isCalled_15 : decode cX13_isCalled 15 = .ok (.iaload, 1) := dk_46 (dk_at dksX13_isCalled_0 15 rfl rfl)
theorem dX13_isCalled_16 : decode cX13_isCalled 16 = .ok (.if_icmp .ne 5, 3) := dk_160 0 5 (dk_at dksX13_isCalled_0 16 rfl rfl)
theorem dX13_isCalled_19 : decode cX13_isCalled 19 = .ok (.iconst 0, 1) := dk_3 (dk_at dksX13_isCalled_0 19 rfl rfl)
theorem dX13_isCalled_20 : decode cX13_isCalled 20 = .ok (.ireturn, 1) := dk_172 (dk_at dksX13_isCalled_0 20 rfl rfl)
theorem dX13_isCalled_21 : decode cX13_isCalled 21 = .ok (.iload_n 1, 1) := dk_27 (dk_at dksX13_isCalled_0 21 rfl rfl)
theorem dX13_isCalled_22 : decode cX13_isCalled 22 = .ok (.ifCond .ne 17, 3) := dk_154 0 17 (dk_at dksX13_isCalled_1 0 rfl rfl)
theorem dX13_isCalled_25 : decode cX13_isCalled 25 = .ok (.aload_n 0, 1) := dk_42 (dk_at dksX13_isCalled_1 3 rfl rfl)
theorem dX13_isCalled_26 : decode cX13_isCalled 26 = .ok (.getfield 11, 3) := dk_180 0 11 (dk_at dksX13_isCalled_1 4 rfl rfl)
theorem dX13_isCalled_29 : decode cX13_isCalled 29 = .ok (.bipush 10, 2) := dk_16 10 (dk_at dksX13_isCalled_1 7 rfl rfl)
theorem dX13_isCalled_31 : decode cX13_isCalled 31 = .ok (.iaload, 1) := dk_46 (dk_at dksX13_isCalled_1 9 rfl rfl)
theorem dX13_isCalled_32 : decode cX13_isCalled 32 = .ok (.ifCond .le 7, 3) := dk_158 0 7 (dk_at dksX13_isCalled_1 10 rfl rfl)
theorem dX13_isCalled_35 : decode cX13_isCalled 35 = .ok (.iconst 1, 1) := dk_4 (dk_at dksX13_isCalled_1 13 rfl rfl)
theorem dX13_isCalled_36 : decode cX13_isCalled 36 = .ok (.goto 4, 3) := dk_167 0 4 (dk_at dksX13_isCalled_1 14 rfl rfl)
theorem dX13_isCalled_39 : decode cX13_isCalled 39 = .ok (.iconst 0, 1) := dk_3 (dk_at dksX13_isCalled_1 17 rfl rfl)
theorem dX13_isCalled_40 : decode cX13_isCalled 40 = .ok (.istore_n 2, 1) := dk_61 (dk_at dksX13_isCalled_1 18 rfl rfl)
theorem dX13_isCalled_41 : decode cX13_isCalled 41 = .ok (.iconst 0, 1) := dk_3 (dk_at dksX13_isCalled_1 19 rfl rfl)
theorem dX13_isCalled_42 : decode cX13_isCalled 42 = .ok (.istore_n 3, 1) := dk_62 (dk_at dksX13_isCalled_1 20 rfl rfl)
theorem dX13_isCalled_43 : decode cX13_isCalled 43 = .ok (.iload_n 3, 1) := dk_29 (dk_at dksX13_isCalled_1 21 rfl rfl)
theorem dX13_isCalled_44 : decode cX13_isCalled 44 = .ok (.aload_n 0, 1) := dk_42 (dk_at dksX13_isCalled_1 22 rfl rfl)
theorem dX13_isCalled_45 : decode cX13_isCalled 45 = .ok (.getfield 11, 3) := dk_180 0 11 (dk_at dksX13_isCalled_2 0 rfl rfl)
theorem dX13_isCalled_48 : decode cX13_isCalled 48 = .ok (.bipush 13, 2) := dk_16 13 (dk_at dksX13_isCalled_2 3 rfl rfl)
theorem dX13_isCalled_50 : decode cX13_isCalled 50 = .ok (.iaload, 1) := dk_46 (dk_at dksX13_isCalled_2 5 rfl rfl)
theorem dX13_isCalled_51 : decode cX13_isCalled 51 = .ok (.if_icmp .ge 48, 3) := dk_162 0 48 (dk_at dksX13_isCalled_2 6 rfl rfl)
theorem dX13_isCalled_54 : decode cX13_isCalled 54 = .ok (.iload_n 2, 1) := dk_28 (dk_at dksX13_isCalled_2 9 rfl rfl)
theorem dX13_isCalled_55 : decode cX13_isCalled 55 = .ok (.aload_n 0, 1) := dk_42 (dk_at dksX13_isCalled_2 10 rfl rfl)
theorem dX13_isCalled_56 : decode cX13_isCalled 56 = .ok (.iload_n 1, 1) := dk_27 (dk_at dksX13_isCalled_2 11 rfl rfl)
theorem dX13_isCalled_57 : decode cX13_isCalled 57 = .ok (.invokevirtual 151, 3) := dk_182 0 151 (dk_at dksX13_isCalled_2 12 rfl rfl)
theorem dX13_isCalled_60 : decode cX13_isCalled 60 = .ok (.iload_n 3, 1) := dk_29 (dk_at dksX13_isCalled_2 15 rfl rfl)
theorem dX13_isCalled_61 : decode cX13_isCalled 61 = .ok (.invokestatic 132, 3) := dk_184 0 132 (dk_at dksX13_isCalled_2 16 rfl rfl)
theorem dX13_isCalled_64 : decode cX13_isCalled 64 = .ok (.ifCond .eq 26, 3) := dk_153 0 26 (dk_at dksX13_isCalled_2 19 rfl rfl)
theorem dX13_isCalled_67 : decode cX13_isCalled 67 = .ok (.aload_n 0, 1) := dk_42 (dk_at dksX13_isCalled_2 22 rfl rfl)
theorem dX13_isCalled_68 : decode cX13_isCalled 68 = .ok (.iload_n 3, 1) := dk_29 (dk_at dksX13_isCalled_2 23 rfl rfl)
theorem dX13_isCalled_69 : decode cX13_isCalled 69 = .ok (.iconst 5, 1) := dk_8 (dk_at dksX13_isCalled_3 0 rfl rfl)
theorem dX13_isCalled_70 : decode cX13_isCalled 70 = .ok (.invokevirtual 56, 3) := dk_182 0 56 (dk_at dksX13_isCalled_3 1 rfl rfl)
theorem dX13_isCalled_73 : decode cX13_isCalled 73 = .ok (.ifCond .le 17, 3) := dk_158 0 17 (dk_at dksX13_isCalled_3 4 rfl rfl)
theorem dX13_isCalled_76 : decode cX13_isCalled 76 = .ok (.aload_n 0, 1) := dk_42 (dk_at dksX13_isCalled_3 7 rfl rfl)
theorem dX13_isCalled_77 : decode cX13_isCalled 77 = .ok (.iload_n 3, 1) := dk_29 (dk_at dksX13_isCalled_3 8 rfl rfl)
theorem dX13_isCalled_78 : decode cX13_isCalled 78 = .ok (.bipush 6, 2) := dk_16 6 (dk_at dksX13_isCalled_3 9 rfl rfl)
theorem dX13_isCalled_80 : decode cX13_isCalled 80 = .ok (.invokevirtual 56, 3) := dk_182 0 56 (dk_at dksX13_isCalled_3 11 rfl rfl)
theorem dX13_isCalled_83 : decode cX13_isCalled 83 = .ok (.ifCond .ne 7, 3) := dk_154 0 7 (dk_at dksX13_isCalled_3 14 rfl rfl)
theorem dX13_isCalled_86 : decode cX13_isCalled 86 = .ok (.iconst 1, 1) := dk_4 (dk_at dksX13_isCalled_3 17 rfl rfl)
theorem dX13_isCalled_87 : decode cX13_isCalled 87 = .ok (.goto 4, 3) := dk_167 0 4 (dk_at dksX13_isCalled_3 18 rfl rfl)
theorem dX13_isCalled_90 : decode cX13_isCalled 90 = .ok (.iconst 0, 1) := dk_3 (dk_at dksX13_isCalled_3 21 rfl rfl)
theorem dX13_isCalled_91 : decode cX13_isCalled 91 = .ok (.ior, 1) := dk_128 (dk_at dksX13_isCalled_3 22 rfl rfl)
theorem dX13_isCalled_92 : decode cX13_isCalled 92 = .ok (.istore_n 2, 1) := dk_61 (dk_at dksX13_isCalled_3 23 rfl rfl)
theorem dX13_isCalled_93 : decode cX13_isCalled 93 = .ok (.iinc 3 1, 3) := dk_132 3 1 (dk_at dksX13_isCalled_4 0 rfl rfl)
theorem dX13_isCalled_96 : decode cX13_isCalled 96 = .ok (.goto (-53), 3) := dk_167 255 203 (dk_at dksX13_isCalled_4 3 rfl rfl)
theorem dX13_isCalled_99 : decode cX13_isCalled 99 = .ok (.iload_n 2, 1) := dk_28 (dk_at dksX13_isCalled_4 6 rfl rfl)
theorem dX13_isCalled_100 : decode cX13_isCalled 100 = .ok (.ireturn, 1) := dk_172 (dk_at dksX13_isCalled_4 7 rfl rfl)
abbrev cX13_local : ByteArray := prog_22_method_38_code
def yX13_local : MethodName := ⟨RX13, "local", "()I"⟩
def dkwX13_local_1 : List UInt8 := [156, 0, 15, 27, 42, 180, 0, 11, 16, 10, 46, 96, 167, 0, 4, 27, 172]
abbrev dktX13_local_1 : List UInt8 := dkwX13_local_1 ++ []
def dkwX13_local_0 : List UInt8 := [42, 180, 0, 11, 6, 46, 42, 180, 0, 11, 16, 11, 46, 100, 42, 180, 0, 11, 16, 10, 46, 112, 60, 27]
abbrev dktX13_local_0 : List UInt8 := dkwX13_local_0 ++ dktX13_local_1
theorem dksX13_local_0 : cX13_local.data.toList.drop 0 = dktX13_local_0 := by decide +kernel
theorem dksX13_local_1 : cX13_local.data.toList.drop 24 = dktX13_local_1 := dk_seg dksX13_local_0 24 rfl rfl
theorem dX13_local_0 : decode cX13_local 0 = .ok (.aload_n 0, 1) := dk_42 (dk_at dksX13_local_0 0 rfl rfl)
theorem dX13_local_1 : decode cX13_local 1 = .ok (.getfield 11, 3) := dk_180 0 11 (dk_at dksX13_local_0 1 rfl rfl)
theorem dX13_local_4 : decode cX13_local 4 = .ok (.iconst 3, 1) := dk_6 (dk_at dksX13_local_0 4 rfl rfl)
theorem dX13_local_5 : decode cX13_local 5 = .ok (.iaload, 1) := dk_46 (dk_at dksX13_local_0 5 rfl rfl)
theorem dX13_local_6 : decode cX13_local 6 = .ok (.aload_n 0, 1) := dk_42 (dk_at dksX13_local_0 6 rfl rfl)
theorem dX13_local_7 : decode cX13_local 7 = .ok (.getfield 11, 3) := dk_180 0 11 (dk_at dksX13_local_0 7 rfl rfl)
theorem dX13_local_10 : decode cX13_local 10 = .ok (.bipush 11, 2) := dk_16 11 (dk_at dksX13_local_0 10 rfl rfl)
theorem dX13_local_12 : decode cX13_local 12 = .ok (.iaload, 1) := dk_46 (dk_at dksX13_local_0 12 rfl rfl)
theorem dX13_local_13 : decode cX13_local 13 = .ok (.isub, 1) := dk_100 (dk_at dksX13_local_0 13 rfl rfl)
theorem dX13_local_14 : decode cX13_local 14 = .ok (.aload_n 0, 1) := dk_42 (dk_at dksX13_local_0 14 rfl rfl)
theorem dX13_local_15 : decode cX13_local 15 = .ok (.getfield 11, 3) := dk_180 0 11 (dk_at dksX13_local_0 15 rfl rfl)
theorem dX13_local_18 : decode cX13_local 18 = .ok (.bipush 10, 2) := dk_16 10 (dk_at dksX13_local_0 18 rfl rfl)
theorem dX13_local_20 : decode cX13_local 20 = .ok (.iaload, 1) := dk_46 (dk_at dksX13_local_0 20 rfl rfl)
theorem dX13_local_21 : decode cX13_local 21 = .ok (.irem, 1) := dk_112 (dk_at dksX13_local_0 21 rfl rfl)
theorem dX13_local_22 : decode cX13_local 22 = .ok (.istore_n 1, 1) := dk_60 (dk_at dksX13_local_0 22 rfl rfl)
theorem dX13_local_23 : decode cX13_local 23 = .ok (.iload_n 1, 1) := dk_27 (dk_at dksX13_local_0 23 rfl rfl)
theorem dX13_local_24 : decode cX13_local 24 = .ok (.ifCond .ge 15, 3) := dk_156 0 15 (dk_at dksX13_local_1 0 rfl rfl)
theorem dX13_local_27 : decode cX13_local 27 = .ok (.iload_n 1, 1) := dk_27 (dk_at dksX13_local_1 3 rfl rfl)
theorem dX13_local_28 : decode cX13_local 28 = .ok (.aload_n 0, 1) := dk_42 (dk_at dksX13_local_1 4 rfl rfl)
theorem dX13_local_29 : decode cX13_local 29 = .ok (.getfield 11, 3) := dk_180 0 11 (dk_at dksX13_local_1 5 rfl rfl)
theorem dX13_local_32 : decode cX13_local 32 = .ok (.bipush 10, 2) := dk_16 10 (dk_at dksX13_local_1 8 rfl rfl)
theorem dX13_local_34 : decode cX13_local 34 = .ok (.iaload, 1) := dk_46 (dk_at dksX13_local_1 10 rfl rfl)
theorem dX13_local_35 : decode cX13_local 35 = .ok (.iadd, 1) := dk_96 (dk_at dksX13_local_1 11 rfl rfl)
theorem dX13_local_36 : decode cX13_local 36 = .ok (.goto 4, 3) := dk_167 0 4 (dk_at dksX13_local_1 12 rfl rfl)
theorem dX13_local_39 : decode cX13_local 39 = .ok (.iload_n 1, 1) := dk_27 (dk_at dksX13_local_1 15 rfl rfl)
theorem dX13_local_40 : decode cX13_local 40 = .ok (.ireturn, 1) := dk_172 (dk_at dksX13_local_1 16 rfl rfl)
abbrev cX13_turning : ByteArray := prog_22_method_47_code
def yX13_turning : MethodName := ⟨RX13, "turning", "()V"⟩
def dkwX13_turning_4 : List UInt8 := [167, 255, 166, 177]
abbrev dktX13_turning_4 : List UInt8 := dkwX13_turning_4 ++ []
def dkwX13_turning_3 : List UInt8 := [182, 0, 85, 42, 27, 16, 20, 42, 27, 16, 20, 182, 0, 56, 4, 96, 182, 0, 85, 132, 1, 1]
abbrev dktX13_turning_3 : List UInt8 := dkwX13_turning_3 ++ dktX13_turning_4
def dkwX13_turning_2 : List UInt8 := [154, 0, 6, 167, 0, 40, 42, 27, 16, 6, 4, 182, 0, 85, 42, 27, 16, 7, 42, 180, 0, 11, 6, 46]
abbrev dktX13_turning_2 : List UInt8 := dkwX13_turning_2 ++ dktX13_turning_3
def dkwX13_turning_1 : List UInt8 := [184, 0, 132, 153, 0, 62, 42, 27, 16, 6, 182, 0, 56, 4, 159, 0, 51, 42, 27, 182, 0, 173]
abbrev dktX13_turning_1 : List UInt8 := dkwX13_turning_1 ++ dktX13_turning_2
def dkwX13_turning_0 : List UInt8 := [3, 60, 27, 42, 180, 0, 11, 16, 13, 46, 162, 0, 85, 42, 42, 180, 0, 11, 7, 46, 182, 0, 151, 27]
abbrev dktX13_turning_0 : List UInt8 := dkwX13_turning_0 ++ dktX13_turning_1
theorem dksX13_turning_0 : cX13_turning.data.toList.drop 0 = dktX13_turning_0 := by decide +kernel
theorem dksX13_turning_1 : cX13_turning.data.toList.drop 24 = dktX13_turning_1 := dk_seg dksX13_turning_0 24 rfl rfl
theorem dksX13_turning_2 : cX13_turning.data.toList.drop 46 = dktX13_turning_2 := dk_seg dksX13_turning_1 22 rfl rfl
theorem dksX13_turning_3 : cX13_turning.data.toList.drop 70 = dktX13_turning_3 := dk_seg dksX13_turning_2 24 rfl rfl
theorem dksX13_turning_4 : cX13_turning.data.toList.drop 92 = dktX13_turning_4 := dk_seg dksX13_turning_3 22 rfl rfl
theorem dX13_turning_0 : decode cX13_turning 0 = .ok (.iconst 0, 1) := dk_3 (dk_at dksX13_turning_0 0 rfl rfl)
theorem dX13_turning_1 : decode cX13_turning 1 = .ok (.istore_n 1, 1) := dk_60 (dk_at dksX13_turning_0 1 rfl rfl)
theorem dX13_turning_2 : decode cX13_turning 2 = .ok (.iload_n 1, 1) := dk_27 (dk_at dksX13_turning_0 2 rfl rfl)
theorem dX13_turning_3 : decode cX13_turning 3 = .ok (.aload_n 0, 1) := dk_42 (dk_at dksX13_turning_0 3 rfl rfl)
theorem dX13_turning_4 : decode cX13_turning 4 = .ok (.getfield 11, 3) := dk_180 0 11 (dk_at dksX13_turning_0 4 rfl rfl)
theorem dX13_turning_7 : decode cX13_turning 7 = .ok (.bipush 13, 2) := dk_16 13 (dk_at dksX13_turning_0 7 rfl rfl)
theorem dX13_turning_9 : decode cX13_turning 9 = .ok (.iaload, 1) := dk_46 (dk_at dksX13_turning_0 9 rfl rfl)
theorem dX13_turning_10 : decode cX13_turning 10 = .ok (.if_icmp .ge 85, 3) := dk_162 0 85 (dk_at dksX13_turning_0 10 rfl rfl)
theorem dX13_turning_13 : decode cX13_turning 13 = .ok (.aload_n 0, 1) := dk_42 (dk_at dksX13_turning_0 13 rfl rfl)
theorem dX13_turning_14 : decode cX13_turning 14 = .ok (.aload_n 0, 1) := dk_42 (dk_at dksX13_turning_0 14 rfl rfl)
theorem dX13_turning_15 : decode cX13_turning 15 = .ok (.getfield 11, 3) := dk_180 0 11 (dk_at dksX13_turning_0 15 rfl rfl)
theorem dX13_turning_18 : decode cX13_turning 18 = .ok (.iconst 4, 1) := dk_7 (dk_at dksX13_turning_0 18 rfl rfl)
theorem dX13_turning_19 : decode cX13_turning 19 = .ok (.iaload, 1) := dk_46 (dk_at dksX13_turning_0 19 rfl rfl)
theorem dX13_turning_20 : decode cX13_turning 20 = .ok (.invokevirtual 151, 3) := dk_182 0 151 (dk_at dksX13_turning_0 20 rfl rfl)
theorem dX13_turning_23 : decode cX13_turning 23 = .ok (.iload_n 1, 1) := dk_27 (dk_at dksX13_turning_0 23 rfl rfl)
theorem dX13_turning_24 : decode cX13_turning 24 = .ok (.invokestatic 132, 3) := dk_184 0 132 (dk_at dksX13_turning_1 0 rfl rfl)
theorem dX13_turning_27 : decode cX13_turning 27 = .ok (.ifCond .eq 62, 3) := dk_153 0 62 (dk_at dksX13_turning_1 3 rfl rfl)
theorem dX13_turning_30 : decode cX13_turning 30 = .ok (.aload_n 0, 1) := dk_42 (dk_at dksX13_turning_1 6 rfl rfl)
theorem dX13_turning_31 : decode cX13_turning 31 = .ok (.iload_n 1, 1) := dk_27 (dk_at dksX13_turning_1 7 rfl rfl)
theorem dX13_turning_32 : decode cX13_turning 32 = .ok (.bipush 6, 2) := dk_16 6 (dk_at dksX13_turning_1 8 rfl rfl)
theorem dX13_turning_34 : decode cX13_turning 34 = .ok (.invokevirtual 56, 3) := dk_182 0 56 (dk_at dksX13_turning_1 10 rfl rfl)
theorem dX13_turning_37 : decode cX13_turning 37 = .ok (.iconst 1, 1) := dk_4 (dk_at dksX13_turning_1 13 rfl rfl)
theorem dX13_turning_38 : decode cX13_turning 38 = .ok (.if_icmp .eq 51, 3) := dk_159 0 51 (dk_at dksX13_turning_1 14 rfl rfl)
theorem dX13_turning_41 : decode cX13_turning 41 = .ok (.aload_n 0, 1) := dk_42 (dk_at dksX13_turning_1 17 rfl rfl)
theorem dX13_turning_42 : decode cX13_turning 42 = .ok (.iload_n 1, 1) := dk_27 (dk_at dksX13_turning_1 18 rfl rfl)
theorem dX13_turning_43 : decode cX13_turning 43 = .ok (.invokevirtual 173, 3) := dk_182 0 173 (dk_at dksX13_turning_1 19 rfl rfl)
theorem dX13_turning_46 : decode cX13_turning 46 = .ok (.ifCond .ne 6, 3) := dk_154 0 6 (dk_at dksX13_turning_2 0 rfl rfl)
theorem dX13_turning_49 : decode cX13_turning 49 = .ok (.goto 40, 3) := dk_167 0 40 (dk_at dksX13_turning_2 3 rfl rfl)
theorem dX13_turning_52 : decode cX13_turning 52 = .ok (.aload_n 0, 1) := dk_42 (dk_at dksX13_turning_2 6 rfl rfl)
theorem dX13_turning_53 : decode cX13_turning 53 = .ok (.iload_n 1, 1) := dk_27 (dk_at dksX13_turning_2 7 rfl rfl)
theorem dX13_turning_54 : decode cX13_turning 54 = .ok (.bipush 6, 2) := dk_16 6 (dk_at dksX13_turning_2 8 rfl rfl)
theorem dX13_turning_56 : decode cX13_turning 56 = .ok (.iconst 1, 1) := dk_4 (dk_at dksX13_turning_2 10 rfl rfl)
theorem dX13_turning_57 : decode cX13_turning 57 = .ok (.invokevirtual 85, 3) := dk_182 0 85 (dk_at dksX13_turning_2 11 rfl rfl)
theorem dX13_turning_60 : decode cX13_turning 60 = .ok (.aload_n 0, 1) := dk_42 (dk_at dksX13_turning_2 14 rfl rfl)
theorem dX13_turning_61 : decode cX13_turning 61 = .ok (.iload_n 1, 1) := dk_27 (dk_at dksX13_turning_2 15 rfl rfl)
theorem dX13_turning_62 : decode cX13_turning 62 = .ok (.bipush 7, 2) := dk_16 7 (dk_at dksX13_turning_2 16 rfl rfl)
theorem dX13_turning_64 : decode cX13_turning 64 = .ok (.aload_n 0, 1) := dk_42 (dk_at dksX13_turning_2 18 rfl rfl)
theorem dX13_turning_65 : decode cX13_turning 65 = .ok (.getfield 11, 3) := dk_180 0 11 (dk_at dksX13_turning_2 19 rfl rfl)
theorem dX13_turning_68 : decode cX13_turning 68 = .ok (.iconst 3, 1) := dk_6 (dk_at dksX13_turning_2 22 rfl rfl)
theorem dX13_turning_69 : decode cX13_turning 69 = .ok (.iaload, 1) := dk_46 (dk_at dksX13_turning_2 23 rfl rfl)
theorem dX13_turning_70 : decode cX13_turning 70 = .ok (.invokevirtual 85, 3) := dk_182 0 85 (dk_at dksX13_turning_3 0 rfl rfl)
theorem dX13_turning_73 : decode cX13_turning 73 = .ok (.aload_n 0, 1) := dk_42 (dk_at dksX13_turning_3 3 rfl rfl)
theorem dX13_turning_74 : decode cX13_turning 74 = .ok (.iload_n 1, 1) := dk_27 (dk_at dksX13_turning_3 4 rfl rfl)
theorem dX13_turning_75 : decode cX13_turning 75 = .ok (.bipush 20, 2) := dk_16 20 (dk_at dksX13_turning_3 5 rfl rfl)
theorem dX13_turning_77 : decode cX13_turning 77 = .ok (.aload_n 0, 1) := dk_42 (dk_at dksX13_turning_3 7 rfl rfl)
theorem dX13_turning_78 : decode cX13_turning 78 = .ok (.iload_n 1, 1) := dk_27 (dk_at dksX13_turning_3 8 rfl rfl)
theorem dX13_turning_79 : decode cX13_turning 79 = .ok (.bipush 20, 2) := dk_16 20 (dk_at dksX13_turning_3 9 rfl rfl)
theorem dX13_turning_81 : decode cX13_turning 81 = .ok (.invokevirtual 56, 3) := dk_182 0 56 (dk_at dksX13_turning_3 11 rfl rfl)
theorem dX13_turning_84 : decode cX13_turning 84 = .ok (.iconst 1, 1) := dk_4 (dk_at dksX13_turning_3 14 rfl rfl)
theorem dX13_turning_85 : decode cX13_turning 85 = .ok (.iadd, 1) := dk_96 (dk_at dksX13_turning_3 15 rfl rfl)
theorem dX13_turning_86 : decode cX13_turning 86 = .ok (.invokevirtual 85, 3) := dk_182 0 85 (dk_at dksX13_turning_3 16 rfl rfl)
theorem dX13_turning_89 : decode cX13_turning 89 = .ok (.iinc 1 1, 3) := dk_132 1 1 (dk_at dksX13_turning_3 19 rfl rfl)
theorem dX13_turning_92 : decode cX13_turning 92 = .ok (.goto (-90), 3) := dk_167 255 166 (dk_at dksX13_turning_4 0 rfl rfl)
theorem dX13_turning_95 : decode cX13_turning 95 = .ok (.return_, 1) := dk_177 (dk_at dksX13_turning_4 3 rfl rfl)
abbrev cX13_mayTurn : ByteArray := prog_22_method_46_code
def yX13_mayTurn : MethodName := ⟨RX13, "mayTurn", "(I)Z"⟩
def dkwX13_mayTurn_2 : List UInt8 := [180, 0, 21, 16, 8, 28, 104, 27, 96, 46, 162, 0, 5, 3, 172, 132, 2, 1, 167, 255, 193, 4, 172]
abbrev dktX13_mayTurn_2 : List UInt8 := dkwX13_mayTurn_2 ++ []
def dkwX13_mayTurn_1 : List UInt8 := [16, 8, 182, 0, 56, 155, 0, 33, 42, 180, 0, 11, 6, 46, 42, 28, 16, 8, 182, 0, 56, 100, 42]
abbrev dktX13_mayTurn_1 : List UInt8 := dkwX13_mayTurn_1 ++ dktX13_mayTurn_2
def dkwX13_mayTurn_0 : List UInt8 := [3, 61, 28, 42, 180, 0, 11, 16, 13, 46, 162, 0, 58, 42, 27, 28, 182, 0, 81, 153, 0, 43, 42, 28]
abbrev dktX13_mayTurn_0 : List UInt8 := dkwX13_mayTurn_0 ++ dktX13_mayTurn_1
theorem dksX13_mayTurn_0 : cX13_mayTurn.data.toList.drop 0 = dktX13_mayTurn_0 := by decide +kernel
theorem dksX13_mayTurn_1 : cX13_mayTurn.data.toList.drop 24 = dktX13_mayTurn_1 := dk_seg dksX13_mayTurn_0 24 rfl rfl
theorem dksX13_mayTurn_2 : cX13_mayTurn.data.toList.drop 47 = dktX13_mayTurn_2 := dk_seg dksX13_mayTurn_1 23 rfl rfl
theorem dX13_mayTurn_0 : decode cX13_mayTurn 0 = .ok (.iconst 0, 1) := dk_3 (dk_at dksX13_mayTurn_0 0 rfl rfl)
theorem dX13_mayTurn_1 : decode cX13_mayTurn 1 = .ok (.istore_n 2, 1) := dk_61 (dk_at dksX13_mayTurn_0 1 rfl rfl)
theorem dX13_mayTurn_2 : decode cX13_mayTurn 2 = .ok (.iload_n 2, 1) := dk_28 (dk_at dksX13_mayTurn_0 2 rfl rfl)
theorem dX13_mayTurn_3 : decode cX13_mayTurn 3 = .ok (.aload_n 0, 1) := dk_42 (dk_at dksX13_mayTurn_0 3 rfl rfl)
theorem dX13_mayTurn_4 : decode cX13_mayTurn 4 = .ok (.getfield 11, 3) := dk_180 0 11 (dk_at dksX13_mayTurn_0 4 rfl rfl)
theorem dX13_mayTurn_7 : decode cX13_mayTurn 7 = .ok (.bipush 13, 2) := dk_16 13 (dk_at dksX13_mayTurn_0 7 rfl rfl)
theorem dX13_mayTurn_9 : decode cX13_mayTurn 9 = .ok (.iaload, 1) := dk_46 (dk_at dksX13_mayTurn_0 9 rfl rfl)
theorem dX13_mayTurn_10 : decode cX13_mayTurn 10 = .ok (.if_icmp .ge 58, 3) := dk_162 0 58 (dk_at dksX13_mayTurn_0 10 rfl rfl)
theorem dX13_mayTurn_13 : decode cX13_mayTurn 13 = .ok (.aload_n 0, 1) := dk_42 (dk_at dksX13_mayTurn_0 13 rfl rfl)
theorem dX13_mayTurn_14 : decode cX13_mayTurn 14 = .ok (.iload_n 1, 1) := dk_27 (dk_at dksX13_mayTurn_0 14 rfl rfl)
theorem dX13_mayTurn_15 : decode cX13_mayTurn 15 = .ok (.iload_n 2, 1) := dk_28 (dk_at dksX13_mayTurn_0 15 rfl rfl)
theorem dX13_mayTurn_16 : decode cX13_mayTurn 16 = .ok (.invokevirtual 81, 3) := dk_182 0 81 (dk_at dksX13_mayTurn_0 16 rfl rfl)
theorem dX13_mayTurn_19 : decode cX13_mayTurn 19 = .ok (.ifCond .eq 43, 3) := dk_153 0 43 (dk_at dksX13_mayTurn_0 19 rfl rfl)
theorem dX13_mayTurn_22 : decode cX13_mayTurn 22 = .ok (.aload_n 0, 1) := dk_42 (dk_at dksX13_mayTurn_0 22 rfl rfl)
theorem dX13_mayTurn_23 : decode cX13_mayTurn 23 = .ok (.iload_n 2, 1) := dk_28 (dk_at dksX13_mayTurn_0 23 rfl rfl)
theorem dX13_mayTurn_24 : decode cX13_mayTurn 24 = .ok (.bipush 8, 2) := dk_16 8 (dk_at dksX13_mayTurn_1 0 rfl rfl)
theorem dX13_mayTurn_26 : decode cX13_mayTurn 26 = .ok (.invokevirtual 56, 3) := dk_182 0 56 (dk_at dksX13_mayTurn_1 2 rfl rfl)
theorem dX13_mayTurn_29 : decode cX13_mayTurn 29 = .ok (.ifCond .lt 33, 3) := dk_155 0 33 (dk_at dksX13_mayTurn_1 5 rfl rfl)
theorem dX13_mayTurn_32 : decode cX13_mayTurn 32 = .ok (.aload_n 0, 1) := dk_42 (dk_at dksX13_mayTurn_1 8 rfl rfl)
theorem dX13_mayTurn_33 : decode cX13_mayTurn 33 = .ok (.getfield 11, 3) := dk_180 0 11 (dk_at dksX13_mayTurn_1 9 rfl rfl)
theorem dX13_mayTurn_36 : decode cX13_mayTurn 36 = .ok (.iconst 3, 1) := dk_6 (dk_at dksX13_mayTurn_1 12 rfl rfl)
theorem dX13_mayTurn_37 : decode cX13_mayTurn 37 = .ok (.iaload, 1) := dk_46 (dk_at dksX13_mayTurn_1 13 rfl rfl)
theorem dX13_mayTurn_38 : decode cX13_mayTurn 38 = .ok (.aload_n 0, 1) := dk_42 (dk_at dksX13_mayTurn_1 14 rfl rfl)
theorem dX13_mayTurn_39 : decode cX13_mayTurn 39 = .ok (.iload_n 2, 1) := dk_28 (dk_at dksX13_mayTurn_1 15 rfl rfl)
theorem dX13_mayTurn_40 : decode cX13_mayTurn 40 = .ok (.bipush 8, 2) := dk_16 8 (dk_at dksX13_mayTurn_1 16 rfl rfl)
theorem dX13_mayTurn_42 : decode cX13_mayTurn 42 = .ok (.invokevirtual 56, 3) := dk_182 0 56 (dk_at dksX13_mayTurn_1 18 rfl rfl)
theorem dX13_mayTurn_45 : decode cX13_mayTurn 45 = .ok (.isub, 1) := dk_100 (dk_at dksX13_mayTurn_1 21 rfl rfl)
theorem dX13_mayTurn_46 : decode cX13_mayTurn 46 = .ok (.aload_n 0, 1) := dk_42 (dk_at dksX13_mayTurn_1 22 rfl rfl)
theorem dX13_mayTurn_47 : decode cX13_mayTurn 47 = .ok (.getfield 21, 3) := dk_180 0 21 (dk_at dksX13_mayTurn_2 0 rfl rfl)
theorem dX13_mayTurn_50 : decode cX13_mayTurn 50 = .ok (.bipush 8, 2) := dk_16 8 (dk_at dksX13_mayTurn_2 3 rfl rfl)
theorem dX13_mayTurn_52 : decode cX13_mayTurn 52 = .ok (.iload_n 2, 1) := dk_28 (dk_at dksX13_mayTurn_2 5 rfl rfl)
theorem dX13_mayTurn_53 : decode cX13_mayTurn 53 = .ok (.imul, 1) := dk_104 (dk_at dksX13_mayTurn_2 6 rfl rfl)
theorem dX13_mayTurn_54 : decode cX13_mayTurn 54 = .ok (.iload_n 1, 1) := dk_27 (dk_at dksX13_mayTurn_2 7 rfl rfl)
theorem dX13_mayTurn_55 : decode cX13_mayTurn 55 = .ok (.iadd, 1) := dk_96 (dk_at dksX13_mayTurn_2 8 rfl rfl)
theorem dX13_mayTurn_56 : decode cX13_mayTurn 56 = .ok (.iaload, 1) := dk_46 (dk_at dksX13_mayTurn_2 9 rfl rfl)
theorem dX13_mayTurn_57 : decode cX13_mayTurn 57 = .ok (.if_icmp .ge 5, 3) := dk_162 0 5 (dk_at dksX13_mayTurn_2 10 rfl rfl)
theorem dX13_mayTurn_60 : decode cX13_mayTurn 60 = .ok (.iconst 0, 1) := dk_3 (dk_at dksX13_mayTurn_2 13 rfl rfl)
theorem dX13_mayTurn_61 : decode cX13_mayTurn 61 = .ok (.ireturn, 1) := dk_172 (dk_at dksX13_mayTurn_2 14 rfl rfl)
theorem dX13_mayTurn_62 : decode cX13_mayTurn 62 = .ok (.iinc 2 1, 3) := dk_132 2 1 (dk_at dksX13_mayTurn_2 15 rfl rfl)
theorem dX13_mayTurn_65 : decode cX13_mayTurn 65 = .ok (.goto (-63), 3) := dk_167 255 193 (dk_at dksX13_mayTurn_2 18 rfl rfl)
theorem dX13_mayTurn_68 : decode cX13_mayTurn 68 = .ok (.iconst 1, 1) := dk_4 (dk_at dksX13_mayTurn_2 21 rfl rfl)
theorem dX13_mayTurn_69 : decode cX13_mayTurn 69 = .ok (.ireturn, 1) := dk_172 (dk_at dksX13_mayTurn_2 22 rfl rfl)
abbrev cX13_ends : ByteArray := prog_22_method_51_code
def yX13_ends : MethodName := ⟨RX13, "ends", "()V"⟩
def dkwX13_ends_1 : List UInt8 := [46, 4, 96, 79, 177]
abbrev dktX13_ends_1 : List UInt8 := dkwX13_ends_1 ++ []
def dkwX13_ends_0 : List UInt8 := [42, 182, 0, 188, 42, 180, 0, 11, 16, 7, 92, 46, 42, 182, 0, 191, 96, 79, 42, 180, 0, 11, 6, 92]
abbrev dktX13_ends_0 : List UInt8 := dkwX13_ends_0 ++ dktX13_ends_1
theorem dksX13_ends_0 : cX13_ends.data.toList.drop 0 = dktX13_ends_0 := by decide +kernel
theorem dksX13_ends_1 : cX13_ends.data.toList.drop 24 = dktX13_ends_1 := dk_seg dksX13_ends_0 24 rfl rfl
theorem dX13_ends_0 : decode cX13_ends 0 = .ok (.aload_n 0, 1) := dk_42 (dk_at dksX13_ends_0 0 rfl rfl)
theorem dX13_ends_1 : decode cX13_ends 1 = .ok (.invokevirtual 188, 3) := dk_182 0 188 (dk_at dksX13_ends_0 1 rfl rfl)
theorem dX13_ends_4 : decode cX13_ends 4 = .ok (.aload_n 0, 1) := dk_42 (dk_at dksX13_ends_0 4 rfl rfl)
theorem dX13_ends_5 : decode cX13_ends 5 = .ok (.getfield 11, 3) := dk_180 0 11 (dk_at dksX13_ends_0 5 rfl rfl)
theorem dX13_ends_8 : decode cX13_ends 8 = .ok (.bipush 7, 2) := dk_16 7 (dk_at dksX13_ends_0 8 rfl rfl)
theorem dX13_ends_10 : decode cX13_ends 10 = .ok (.dup2, 1) := dk_92 (dk_at dksX13_ends_0 10 rfl rfl)
theorem dX13_ends_11 : decode cX13_ends 11 = .ok (.iaload, 1) := dk_46 (dk_at dksX13_ends_0 11 rfl rfl)
theorem dX13_ends_12 : decode cX13_ends 12 = .ok (.aload_n 0, 1) := dk_42 (dk_at dksX13_ends_0 12 rfl rfl)
theorem dX13_ends_13 : decode cX13_ends 13 = .ok (.invokevirtual 191, 3) := dk_182 0 191 (dk_at dksX13_ends_0 13 rfl rfl)
theorem dX13_ends_16 : decode cX13_ends 16 = .ok (.iadd, 1) := dk_96 (dk_at dksX13_ends_0 16 rfl rfl)
theorem dX13_ends_17 : decode cX13_ends 17 = .ok (.iastore, 1) := dk_79 (dk_at dksX13_ends_0 17 rfl rfl)
theorem dX13_ends_18 : decode cX13_ends 18 = .ok (.aload_n 0, 1) := dk_42 (dk_at dksX13_ends_0 18 rfl rfl)
theorem dX13_ends_19 : decode cX13_ends 19 = .ok (.getfield 11, 3) := dk_180 0 11 (dk_at dksX13_ends_0 19 rfl rfl)
theorem dX13_ends_22 : decode cX13_ends 22 = .ok (.iconst 3, 1) := dk_6 (dk_at dksX13_ends_0 22 rfl rfl)
theorem dX13_ends_23 : decode cX13_ends 23 = .ok (.dup2, 1) := dk_92 (dk_at dksX13_ends_0 23 rfl rfl)
theorem dX13_ends_24 : decode cX13_ends 24 = .ok (.iaload, 1) := dk_46 (dk_at dksX13_ends_1 0 rfl rfl)
theorem dX13_ends_25 : decode cX13_ends 25 = .ok (.iconst 1, 1) := dk_4 (dk_at dksX13_ends_1 1 rfl rfl)
theorem dX13_ends_26 : decode cX13_ends 26 = .ok (.iadd, 1) := dk_96 (dk_at dksX13_ends_1 2 rfl rfl)
theorem dX13_ends_27 : decode cX13_ends 27 = .ok (.iastore, 1) := dk_79 (dk_at dksX13_ends_1 3 rfl rfl)
theorem dX13_ends_28 : decode cX13_ends 28 = .ok (.return_, 1) := dk_177 (dk_at dksX13_ends_1 4 rfl rfl)
abbrev cX13_going : ByteArray := prog_22_method_48_code
def yX13_going : MethodName := ⟨RX13, "going", "()V"⟩
def dkwX13_going_6 : List UInt8 := [79, 132, 1, 1, 167, 255, 115, 177]
abbrev dktX13_going_6 : List UInt8 := dkwX13_going_6 ++ []
def dkwX13_going_5 : List UInt8 := [42, 27, 16, 10, 182, 0, 56, 21, 5, 96, 182, 0, 85, 42, 180, 0, 11, 16, 8, 92, 46, 21, 5, 96]
abbrev dktX13_going_5 : List UInt8 := dkwX13_going_5 ++ dktX13_going_6
def dkwX13_going_4 : List UInt8 := [184, 0, 100, 54, 5, 42, 27, 8, 42, 27, 8, 182, 0, 56, 21, 5, 100, 182, 0, 85, 42, 27, 16, 10]
abbrev dktX13_going_4 : List UInt8 := dkwX13_going_4 ++ dktX13_going_5
def dkwX13_going_3 : List UInt8 := [154, 0, 7, 4, 167, 0, 8, 3, 167, 0, 4, 4, 54, 4, 21, 4, 42, 27, 8, 182, 0, 56]
abbrev dktX13_going_3 : List UInt8 := dkwX13_going_3 ++ dktX13_going_4
def dkwX13_going_2 : List UInt8 := [100, 167, 0, 33, 28, 4, 160, 0, 8, 16, 99, 167, 0, 23, 28, 5, 160, 0, 17, 29, 7, 112]
abbrev dktX13_going_2 : List UInt8 := dkwX13_going_2 ++ dktX13_going_3
def dkwX13_going_1 : List UInt8 := [167, 0, 117, 42, 27, 3, 182, 0, 56, 61, 42, 27, 182, 0, 157, 62, 28, 154, 0, 11, 4, 29, 5, 112]
abbrev dktX13_going_1 : List UInt8 := dkwX13_going_1 ++ dktX13_going_2
def dkwX13_going_0 : List UInt8 := [3, 60, 27, 42, 180, 0, 11, 16, 13, 46, 162, 0, 136, 42, 27, 16, 6, 182, 0, 56, 154, 0, 6]
abbrev dktX13_going_0 : List UInt8 := dkwX13_going_0 ++ dktX13_going_1
theorem dksX13_going_0 : cX13_going.data.toList.drop 0 = dktX13_going_0 := by decide +kernel
theorem dksX13_going_1 : cX13_going.data.toList.drop 23 = dktX13_going_1 := dk_seg dksX13_going_0 23 rfl rfl
theorem dksX13_going_2 : cX13_going.data.toList.drop 47 = dktX13_going_2 := dk_seg dksX13_going_1 24 rfl rfl
theorem dksX13_going_3 : cX13_going.data.toList.drop 69 = dktX13_going_3 := dk_seg dksX13_going_2 22 rfl rfl
theorem dksX13_going_4 : cX13_going.data.toList.drop 91 = dktX13_going_4 := dk_seg dksX13_going_3 22 rfl rfl
theorem dksX13_going_5 : cX13_going.data.toList.drop 115 = dktX13_going_5 := dk_seg dksX13_going_4 24 rfl rfl
theorem dksX13_going_6 : cX13_going.data.toList.drop 139 = dktX13_going_6 := dk_seg dksX13_going_5 24 rfl rfl
theorem dX13_going_0 : decode cX13_going 0 = .ok (.iconst 0, 1) := dk_3 (dk_at dksX13_going_0 0 rfl rfl)
theorem dX13_going_1 : decode cX13_going 1 = .ok (.istore_n 1, 1) := dk_60 (dk_at dksX13_going_0 1 rfl rfl)
theorem dX13_going_2 : decode cX13_going 2 = .ok (.iload_n 1, 1) := dk_27 (dk_at dksX13_going_0 2 rfl rfl)
theorem dX13_going_3 : decode cX13_going 3 = .ok (.aload_n 0, 1) := dk_42 (dk_at dksX13_going_0 3 rfl rfl)
theorem dX13_going_4 : decode cX13_going 4 = .ok (.getfield 11, 3) := dk_180 0 11 (dk_at dksX13_going_0 4 rfl rfl)
theorem dX13_going_7 : decode cX13_going 7 = .ok (.bipush 13, 2) := dk_16 13 (dk_at dksX13_going_0 7 rfl rfl)
theorem dX13_going_9 : decode cX13_going 9 = .ok (.iaload, 1) := dk_46 (dk_at dksX13_going_0 9 rfl rfl)
theorem dX13_going_10 : decode cX13_going 10 = .ok (.if_icmp .ge 136, 3) := dk_162 0 136 (dk_at dksX13_going_0 10 rfl rfl)
theorem dX13_going_13 : decode cX13_going 13 = .ok (.aload_n 0, 1) := dk_42 (dk_at dksX13_going_0 13 rfl rfl)
theorem dX13_going_14 : decode cX13_going 14 = .ok (.iload_n 1, 1) := dk_27 (dk_at dksX13_going_0 14 rfl rfl)
theorem dX13_going_15 : decode cX13_going 15 = .ok (.bipush 6, 2) := dk_16 6 (dk_at dksX13_going_0 15 rfl rfl)
theorem dX13_going_17 : decode cX13_going 17 = .ok (.invokevirtual 56, 3) := dk_182 0 56 (dk_at dksX13_going_0 17 rfl rfl)
theorem dX13_going_20 : decode cX13_going 20 = .ok (.ifCond .ne 6, 3) := dk_154 0 6 (dk_at dksX13_going_0 20 rfl rfl)
theorem dX13_going_23 : decode cX13_going 23 = .ok (.goto 117, 3) := dk_167 0 117 (dk_at dksX13_going_1 0 rfl rfl)
theorem dX13_going_26 : decode cX13_going 26 = .ok (.aload_n 0, 1) := dk_42 (dk_at dksX13_going_1 3 rfl rfl)
theorem dX13_going_27 : decode cX13_going 27 = .ok (.iload_n 1, 1) := dk_27 (dk_at dksX13_going_1 4 rfl rfl)
theorem dX13_going_28 : decode cX13_going 28 = .ok (.iconst 0, 1) := dk_3 (dk_at dksX13_going_1 5 rfl rfl)
theorem dX13_going_29 : decode cX13_going 29 = .ok (.invokevirtual 56, 3) := dk_182 0 56 (dk_at dksX13_going_1 6 rfl rfl)
theorem dX13_going_32 : decode cX13_going 32 = .ok (.istore_n 2, 1) := dk_61 (dk_at dksX13_going_1 9 rfl rfl)
theorem dX13_going_33 : decode cX13_going 33 = .ok (.aload_n 0, 1) := dk_42 (dk_at dksX13_going_1 10 rfl rfl)
theorem dX13_going_34 : decode cX13_going 34 = .ok (.iload_n 1, 1) := dk_27 (dk_at dksX13_going_1 11 rfl rfl)
theorem dX13_going_35 : decode cX13_going 35 = .ok (.invokevirtual 157, 3) := dk_182 0 157 (dk_at dksX13_going_1 12 rfl rfl)
theorem dX13_going_38 : decode cX13_going 38 = .ok (.istore_n 3, 1) := dk_62 (dk_at dksX13_going_1 15 rfl rfl)
theorem dX13_going_39 : decode cX13_going 39 = .ok (.iload_n 2, 1) := dk_28 (dk_at dksX13_going_1 16 rfl rfl)
theorem dX13_going_40 : decode cX13_going 40 = .ok (.ifCond .ne 11, 3) := dk_154 0 11 (dk_at dksX13_going_1 17 rfl rfl)
theorem dX13_going_43 : decode cX13_going 43 = .ok (.iconst 1, 1) := dk_4 (dk_at dksX13_going_1 20 rfl rfl)
theorem dX13_going_44 : decode cX13_going 44 = .ok (.iload_n 3, 1) := dk_29 (dk_at dksX13_going_1 21 rfl rfl)
theorem dX13_going_45 : decode cX13_going 45 = .ok (.iconst 2, 1) := dk_5 (dk_at dksX13_going_1 22 rfl rfl)
theorem dX13_going_46 : decode cX13_going 46 = .ok (.irem, 1) := dk_112 (dk_at dksX13_going_1 23 rfl rfl)
theorem dX13_going_47 : decode cX13_going 47 = .ok (.isub, 1) := dk_100 (dk_at dksX13_going_2 0 rfl rfl)
theorem dX13_going_48 : decode cX13_going 48 = .ok (.goto 33, 3) := dk_167 0 33 (dk_at dksX13_going_2 1 rfl rfl)
theorem dX13_going_51 : decode cX13_going 51 = .ok (.iload_n 2, 1) := dk_28 (dk_at dksX13_going_2 4 rfl rfl)
theorem dX13_going_52 : decode cX13_going 52 = .ok (.iconst 1, 1) := dk_4 (dk_at dksX13_going_2 5 rfl rfl)
theorem dX13_going_53 : decode cX13_going 53 = .ok (.if_icmp .ne 8, 3) := dk_160 0 8 (dk_at dksX13_going_2 6 rfl rfl)
theorem dX13_going_56 : decode cX13_going 56 = .ok (.bipush 99, 2) := dk_16 99 (dk_at dksX13_going_2 9 rfl rfl)
theorem dX13_going_58 : decode cX13_going 58 = .ok (.goto 23, 3) := dk_167 0 23 (dk_at dksX13_going_2 11 rfl rfl)
theorem dX13_going_61 : decode cX13_going 61 = .ok (.iload_n 2, 1) := dk_28 (dk_at dksX13_going_2 14 rfl rfl)
theorem dX13_going_62 : decode cX13_going 62 = .ok (.iconst 2, 1) := dk_5 (dk_at dksX13_going_2 15 rfl rfl)
theorem dX13_going_63 : decode cX13_going 63 = .ok (.if_icmp .ne 17, 3) := dk_160 0 17 (dk_at dksX13_going_2 16 rfl rfl)
theorem dX13_going_66 : decode cX13_going 66 = .ok (.iload_n 3, 1) := dk_29 (dk_at dksX13_going_2 19 rfl rfl)
theorem dX13_going_67 : decode cX13_going 67 = .ok (.iconst 4, 1) := dk_7 (dk_at dksX13_going_2 20 rfl rfl)
theorem dX13_going_68 : decode cX13_going 68 = .ok (.irem, 1) := dk_112 (dk_at dksX13_going_2 21 rfl rfl)
theorem dX13_going_69 : decode cX13_going 69 = .ok (.ifCond .ne 7, 3) := dk_154 0 7 (dk_at dksX13_going_3 0 rfl rfl)
theorem dX13_going_72 : decode cX13_going 72 = .ok (.iconst 1, 1) := dk_4 (dk_at dksX13_going_3 3 rfl rfl)
theorem dX13_going_73 : decode cX13_going 73 = .ok (.goto 8, 3) := dk_167 0 8 (dk_at dksX13_going_3 4 rfl rfl)
theorem dX13_going_76 : decode cX13_going 76 = .ok (.iconst 0, 1) := dk_3 (dk_at dksX13_going_3 7 rfl rfl)
theorem dX13_going_77 : decode cX13_going 77 = .ok (.goto 4, 3) := dk_167 0 4 (dk_at dksX13_going_3 8 rfl rfl)
theorem dX13_going_80 : decode cX13_going 80 = .ok (.iconst 1, 1) := dk_4 (dk_at dksX13_going_3 11 rfl rfl)
theorem dX13_going_81 : decode cX13_going 81 = .ok (.istore 4, 2) := dk_54 4 (dk_at dksX13_going_3 12 rfl rfl)
theorem dX13_going_83 : decode cX13_going 83 = .ok (.iload 4, 2) := dk_21 4 (dk_at dksX13_going_3 14 rfl rfl)
theorem dX13_going_85 : decode cX13_going 85 = .ok (.aload_n 0, 1) := dk_42 (dk_at dksX13_going_3 16 rfl rfl)
theorem dX13_going_86 : decode cX13_going 86 = .ok (.iload_n 1, 1) := dk_27 (dk_at dksX13_going_3 17 rfl rfl)
theorem dX13_going_87 : decode cX13_going 87 = .ok (.iconst 5, 1) := dk_8 (dk_at dksX13_going_3 18 rfl rfl)
theorem dX13_going_88 : decode cX13_going 88 = .ok (.invokevirtual 56, 3) := dk_182 0 56 (dk_at dksX13_going_3 19 rfl rfl)
theorem dX13_going_91 : decode cX13_going 91 = .ok (.invokestatic 100, 3) := dk_184 0 100 (dk_at dksX13_going_4 0 rfl rfl)
theorem dX13_going_94 : decode cX13_going 94 = .ok (.istore 5, 2) := dk_54 5 (dk_at dksX13_going_4 3 rfl rfl)
theorem dX13_going_96 : decode cX13_going 96 = .ok (.aload_n 0, 1) := dk_42 (dk_at dksX13_going_4 5 rfl rfl)
theorem dX13_going_97 : decode cX13_going 97 = .ok (.iload_n 1, 1) := dk_27 (dk_at dksX13_going_4 6 rfl rfl)
theorem dX13_going_98 : decode cX13_going 98 = .ok (.iconst 5, 1) := dk_8 (dk_at dksX13_going_4 7 rfl rfl)
theorem dX13_going_99 : decode cX13_going 99 = .ok (.aload_n 0, 1) := dk_42 (dk_at dksX13_going_4 8 rfl rfl)
theorem dX13_going_100 : decode cX13_going 100 = .ok (.iload_n 1, 1) := dk_27 (dk_at dksX13_going_4 9 rfl rfl)
theorem dX13_going_101 : decode cX13_going 101 = .ok (.iconst 5, 1) := dk_8 (dk_at dksX13_going_4 10 rfl rfl)
theorem dX13_going_102 : decode cX13_going 102 = .ok (.invokevirtual 56, 3) := dk_182 0 56 (dk_at dksX13_going_4 11 rfl rfl)
theorem dX13_going_105 : decode cX13_going 105 = .ok (.iload 5, 2) := dk_21 5 (dk_at dksX13_going_4 14 rfl rfl)
theorem dX13_going_107 : decode cX13_going 107 = .ok (.isub, 1) := dk_100 (dk_at dksX13_going_4 16 rfl rfl)
theorem dX13_going_108 : decode cX13_going 108 = .ok (.invokevirtual 85, 3) := dk_182 0 85 (dk_at dksX13_going_4 17 rfl rfl)
theorem dX13_going_111 : decode cX13_going 111 = .ok (.aload_n 0, 1) := dk_42 (dk_at dksX13_going_4 20 rfl rfl)
theorem dX13_going_112 : decode cX13_going 112 = .ok (.iload_n 1, 1) := dk_27 (dk_at dksX13_going_4 21 rfl rfl)
theorem dX13_going_113 : decode cX13_going 113 = .ok (.bipush 10, 2) := dk_16 10 (dk_at dksX13_going_4 22 rfl rfl)
theorem dX13_going_115 : decode cX13_going 115 = .ok (.aload_n 0, 1) := dk_42 (dk_at dksX13_going_5 0 rfl rfl)
theorem dX13_going_116 : decode cX13_going 116 = .ok (.iload_n 1, 1) := dk_27 (dk_at dksX13_going_5 1 rfl rfl)
theorem dX13_going_117 : decode cX13_going 117 = .ok (.bipush 10, 2) := dk_16 10 (dk_at dksX13_going_5 2 rfl rfl)
theorem dX13_going_119 : decode cX13_going 119 = .ok (.invokevirtual 56, 3) := dk_182 0 56 (dk_at dksX13_going_5 4 rfl rfl)
theorem dX13_going_122 : decode cX13_going 122 = .ok (.iload 5, 2) := dk_21 5 (dk_at dksX13_going_5 7 rfl rfl)
theorem dX13_going_124 : decode cX13_going 124 = .ok (.iadd, 1) := dk_96 (dk_at dksX13_going_5 9 rfl rfl)
theorem dX13_going_125 : decode cX13_going 125 = .ok (.invokevirtual 85, 3) := dk_182 0 85 (dk_at dksX13_going_5 10 rfl rfl)
theorem dX13_going_128 : decode cX13_going 128 = .ok (.aload_n 0, 1) := dk_42 (dk_at dksX13_going_5 13 rfl rfl)
theorem dX13_going_129 : decode cX13_going 129 = .ok (.getfield 11, 3) := dk_180 0 11 (dk_at dksX13_going_5 14 rfl rfl)
theorem dX13_going_132 : decode cX13_going 132 = .ok (.bipush 8, 2) := dk_16 8 (dk_at dksX13_going_5 17 rfl rfl)
theorem dX13_going_134 : decode cX13_going 134 = .ok (.dup2, 1) := dk_92 (dk_at dksX13_going_5 19 rfl rfl)
theorem dX13_going_135 : decode cX13_going 135 = .ok (.iaload, 1) := dk_46 (dk_at dksX13_going_5 20 rfl rfl)
theorem dX13_going_136 : decode cX13_going 136 = .ok (.iload 5, 2) := dk_21 5 (dk_at dksX13_going_5 21 rfl rfl)
theorem dX13_going_138 : decode cX13_going 138 = .ok (.iadd, 1) := dk_96 (dk_at dksX13_going_5 23 rfl rfl)
theorem dX13_going_139 : decode cX13_going 139 = .ok (.iastore, 1) := dk_79 (dk_at dksX13_going_6 0 rfl rfl)
theorem dX13_going_140 : decode cX13_going 140 = .ok (.iinc 1 1, 3) := dk_132 1 1 (dk_at dksX13_going_6 1 rfl rfl)
theorem dX13_going_143 : decode cX13_going 143 = .ok (.goto (-141), 3) := dk_167 255 115 (dk_at dksX13_going_6 4 rfl rfl)
theorem dX13_going_146 : decode cX13_going 146 = .ok (.return_, 1) := dk_177 (dk_at dksX13_going_6 7 rfl rfl)
abbrev cX13_queues : ByteArray := prog_22_method_49_code
def yX13_queues : MethodName := ⟨RX13, "queues", "()I"⟩
def dkwX13_queues_1 : List UInt8 := [132, 2, 1, 167, 255, 233, 27, 172]
abbrev dktX13_queues_1 : List UInt8 := dkwX13_queues_1 ++ []
def dkwX13_queues_0 : List UInt8 := [3, 60, 3, 61, 28, 42, 180, 0, 11, 16, 13, 46, 162, 0, 18, 27, 42, 28, 8, 182, 0, 56, 96, 60]
abbrev dktX13_queues_0 : List UInt8 := dkwX13_queues_0 ++ dktX13_queues_1
theorem dksX13_queues_0 : cX13_queues.data.toList.drop 0 = dktX13_queues_0 := by decide +kernel
theorem dksX13_queues_1 : cX13_queues.data.toList.drop 24 = dktX13_queues_1 := dk_seg dksX13_queues_0 24 rfl rfl
theorem dX13_queues_0 : decode cX13_queues 0 = .ok (.iconst 0, 1) := dk_3 (dk_at dksX13_queues_0 0 rfl rfl)
theorem dX13_queues_1 : decode cX13_queues 1 = .ok (.istore_n 1, 1) := dk_60 (dk_at dksX13_queues_0 1 rfl rfl)
theorem dX13_queues_2 : decode cX13_queues 2 = .ok (.iconst 0, 1) := dk_3 (dk_at dksX13_queues_0 2 rfl rfl)
theorem dX13_queues_3 : decode cX13_queues 3 = .ok (.istore_n 2, 1) := dk_61 (dk_at dksX13_queues_0 3 rfl rfl)
theorem dX13_queues_4 : decode cX13_queues 4 = .ok (.iload_n 2, 1) := dk_28 (dk_at dksX13_queues_0 4 rfl rfl)
theorem dX13_queues_5 : decode cX13_queues 5 = .ok (.aload_n 0, 1) := dk_42 (dk_at dksX13_queues_0 5 rfl rfl)
theorem dX13_queues_6 : decode cX13_queues 6 = .ok (.getfield 11, 3) := dk_180 0 11 (dk_at dksX13_queues_0 6 rfl rfl)
theorem dX13_queues_9 : decode cX13_queues 9 = .ok (.bipush 13, 2) := dk_16 13 (dk_at dksX13_queues_0 9 rfl rfl)
theorem dX13_queues_11 : decode cX13_queues 11 = .ok (.iaload, 1) := dk_46 (dk_at dksX13_queues_0 11 rfl rfl)
theorem dX13_queues_12 : decode cX13_queues 12 = .ok (.if_icmp .ge 18, 3) := dk_162 0 18 (dk_at dksX13_queues_0 12 rfl rfl)
theorem dX13_queues_15 : decode cX13_queues 15 = .ok (.iload_n 1, 1) := dk_27 (dk_at dksX13_queues_0 15 rfl rfl)
theorem dX13_queues_16 : decode cX13_queues 16 = .ok (.aload_n 0, 1) := dk_42 (dk_at dksX13_queues_0 16 rfl rfl)
theorem dX13_queues_17 : decode cX13_queues 17 = .ok (.iload_n 2, 1) := dk_28 (dk_at dksX13_queues_0 17 rfl rfl)
theorem dX13_queues_18 : decode cX13_queues 18 = .ok (.iconst 5, 1) := dk_8 (dk_at dksX13_queues_0 18 rfl rfl)
theorem dX13_queues_19 : decode cX13_queues 19 = .ok (.invokevirtual 56, 3) := dk_182 0 56 (dk_at dksX13_queues_0 19 rfl rfl)
theorem dX13_queues_22 : decode cX13_queues 22 = .ok (.iadd, 1) := dk_96 (dk_at dksX13_queues_0 22 rfl rfl)
theorem dX13_queues_23 : decode cX13_queues 23 = .ok (.istore_n 1, 1) := dk_60 (dk_at dksX13_queues_0 23 rfl rfl)
theorem dX13_queues_24 : decode cX13_queues 24 = .ok (.iinc 2 1, 3) := dk_132 2 1 (dk_at dksX13_queues_1 0 rfl rfl)
theorem dX13_queues_27 : decode cX13_queues 27 = .ok (.goto (-23), 3) := dk_167 255 233 (dk_at dksX13_queues_1 3 rfl rfl)
theorem dX13_queues_30 : decode cX13_queues 30 = .ok (.iload_n 1, 1) := dk_27 (dk_at dksX13_queues_1 6 rfl rfl)
theorem dX13_queues_31 : decode cX13_queues 31 = .ok (.ireturn, 1) := dk_172 (dk_at dksX13_queues_1 7 rfl rfl)
abbrev cX13_told : ByteArray := prog_22_method_62_code
def yX13_told : MethodName := ⟨RX13, "told", "(I)I"⟩
def dkwX13_told_7 : List UInt8 := [180, 0, 11, 16, 13, 46, 172, 42, 180, 0, 11, 16, 14, 46, 172, 42, 182, 0, 191, 172, 2, 172]
abbrev dktX13_told_7 : List UInt8 := dkwX13_told_7 ++ []
def dkwX13_told_6 : List UInt8 := [100, 46, 172, 42, 180, 0, 11, 16, 10, 46, 154, 0, 8, 16, 251, 167, 0, 7, 42, 182, 0, 170, 172, 42]
abbrev dktX13_told_6 : List UInt8 := dkwX13_told_6 ++ dktX13_told_7
def dkwX13_told_5 : List UInt8 := [42, 180, 0, 11, 3, 46, 172, 42, 180, 0, 11, 4, 46, 172, 42, 180, 0, 11, 16, 10, 27, 96, 16, 12]
abbrev dktX13_told_5 : List UInt8 := dkwX13_told_5 ++ dktX13_told_6
def dkwX13_told_4 : List UInt8 := [180, 0, 11, 16, 9, 46, 172, 42, 5, 182, 0, 212, 172, 42, 4, 182, 0, 212, 172, 42, 182, 0, 166, 172]
abbrev dktX13_told_4 : List UInt8 := dkwX13_told_4 ++ dktX13_told_5
def dkwX13_told_3 : List UInt8 := [180, 0, 11, 16, 6, 46, 172, 42, 180, 0, 11, 16, 7, 46, 172, 42, 180, 0, 11, 16, 8, 46, 172, 42]
abbrev dktX13_told_3 : List UInt8 := dkwX13_told_3 ++ dktX13_told_4
def dkwX13_told_2 : List UInt8 := [42, 180, 0, 11, 6, 46, 172, 42, 180, 0, 11, 7, 46, 172, 42, 180, 0, 11, 8, 46, 172, 42]
abbrev dktX13_told_2 : List UInt8 := dkwX13_told_2 ++ dktX13_told_3
def dkwX13_told_1 : List UInt8 := [170, 0, 0, 0, 0, 0, 229, 0, 0, 0, 0, 0, 0, 0, 18, 0, 0, 0, 91, 0, 0, 0, 98, 0, 0, 0, 105, 0, 0, 0, 112, 0, 0, 0, 120, 0, 0, 0, 128, 0, 0, 0, 136, 0, 0, 0, 144, 0, 0, 0, 150, 0, 0, 0, 156, 0, 0, 0, 161, 0, 0, 0, 168, 0, 0, 0, 175, 0, 0, 0, 175, 0, 0, 0, 175, 0, 0, 0, 188, 0, 0, 0, 208, 0, 0, 0, 216, 0, 0, 0, 224]
abbrev dktX13_told_1 : List UInt8 := dkwX13_told_1 ++ dktX13_told_2
def dkwX13_told_0 : List UInt8 := [27]
abbrev dktX13_told_0 : List UInt8 := dkwX13_told_0 ++ dktX13_told_1
theorem dksX13_told_0 : cX13_told.data.toList.drop 0 = dktX13_told_0 := by decide +kernel
theorem dksX13_told_1 : cX13_told.data.toList.drop 1 = dktX13_told_1 := dk_seg dksX13_told_0 1 rfl rfl
theorem dksX13_told_2 : cX13_told.data.toList.drop 92 = dktX13_told_2 := dk_seg dksX13_told_1 91 rfl rfl
theorem dksX13_told_3 : cX13_told.data.toList.drop 114 = dktX13_told_3 := dk_seg dksX13_told_2 22 rfl rfl
theorem dksX13_told_4 : cX13_told.data.toList.drop 138 = dktX13_told_4 := dk_seg dksX13_told_3 24 rfl rfl
theorem dksX13_told_5 : cX13_told.data.toList.drop 162 = dktX13_told_5 := dk_seg dksX13_told_4 24 rfl rfl
theorem dksX13_told_6 : cX13_told.data.toList.drop 186 = dktX13_told_6 := dk_seg dksX13_told_5 24 rfl rfl
theorem dksX13_told_7 : cX13_told.data.toList.drop 210 = dktX13_told_7 := dk_seg dksX13_told_6 24 rfl rfl
theorem dX13_told_0 : decode cX13_told 0 = .ok (.iload_n 1, 1) := dk_27 (dk_at dksX13_told_0 0 rfl rfl)
theorem dX13_told_1 : decode cX13_told 1 = .ok (.tableswitch 229 0 18 #[91, 98, 105, 112, 120, 128, 136, 144, 150, 156, 161, 168, 175, 175, 175, 188, 208, 216, 224], 91) := by decide +kernel
theorem dX13_told_92 : decode cX13_told 92 = .ok (.aload_n 0, 1) := dk_42 (dk_at dksX13_told_2 0 rfl rfl)
theorem dX13_told_93 : decode cX13_told 93 = .ok (.getfield 11, 3) := dk_180 0 11 (dk_at dksX13_told_2 1 rfl rfl)
theorem dX13_told_96 : decode cX13_told 96 = .ok (.iconst 3, 1) := dk_6 (dk_at dksX13_told_2 4 rfl rfl)
theorem dX13_told_97 : decode cX13_told 97 = .ok (.iaload, 1) := dk_46 (dk_at dksX13_told_2 5 rfl rfl)
theorem dX13_told_98 : decode cX13_told 98 = .ok (.ireturn, 1) := dk_172 (dk_at dksX13_told_2 6 rfl rfl)
theorem dX13_told_99 : decode cX13_told 99 = .ok (.aload_n 0, 1) := dk_42 (dk_at dksX13_told_2 7 rfl rfl)
theorem dX13_told_100 : decode cX13_told 100 = .ok (.getfield 11, 3) := dk_180 0 11 (dk_at dksX13_told_2 8 rfl rfl)
theorem dX13_told_103 : decode cX13_told 103 = .ok (.iconst 4, 1) := dk_7 (dk_at dksX13_told_2 11 rfl rfl)
theorem dX13_told_104 : decode cX13_told 104 = .ok (.iaload, 1) := dk_46 (dk_at dksX13_told_2 12 rfl rfl)
theorem dX13_told_105 : decode cX13_told 105 = .ok (.ireturn, 1) := dk_172 (dk_at dksX13_told_2 13 rfl rfl)
theorem dX13_told_106 : decode cX13_told 106 = .ok (.aload_n 0, 1) := dk_42 (dk_at dksX13_told_2 14 rfl rfl)
theorem dX13_told_107 : decode cX13_told 107 = .ok (.getfield 11, 3) := dk_180 0 11 (dk_at dksX13_told_2 15 rfl rfl)
theorem dX13_told_110 : decode cX13_told 110 = .ok (.iconst 5, 1) := dk_8 (dk_at dksX13_told_2 18 rfl rfl)
theorem dX13_told_111 : decode cX13_told 111 = .ok (.iaload, 1) := dk_46 (dk_at dksX13_told_2 19 rfl rfl)
theorem dX13_told_112 : decode cX13_told 112 = .ok (.ireturn, 1) := dk_172 (dk_at dksX13_told_2 20 rfl rfl)
theorem dX13_told_113 : decode cX13_told 113 = .ok (.aload_n 0, 1) := dk_42 (dk_at dksX13_told_2 21 rfl rfl)
theorem dX13_told_114 : decode cX13_told 114 = .ok (.getfield 11, 3) := dk_180 0 11 (dk_at dksX13_told_3 0 rfl rfl)
theorem dX13_told_117 : decode cX13_told 117 = .ok (.bipush 6, 2) := dk_16 6 (dk_at dksX13_told_3 3 rfl rfl)
theorem dX13_told_119 : decode cX13_told 119 = .ok (.iaload, 1) := dk_46 (dk_at dksX13_told_3 5 rfl rfl)
theorem dX13_told_120 : decode cX13_told 120 = .ok (.ireturn, 1) := dk_172 (dk_at dksX13_told_3 6 rfl rfl)
theorem dX13_told_121 : decode cX13_told 121 = .ok (.aload_n 0, 1) := dk_42 (dk_at dksX13_told_3 7 rfl rfl)
theorem dX13_told_122 : decode cX13_told 122 = .ok (.getfield 11, 3) := dk_180 0 11 (dk_at dksX13_told_3 8 rfl rfl)
theorem dX13_told_125 : decode cX13_told 125 = .ok (.bipush 7, 2) := dk_16 7 (dk_at dksX13_told_3 11 rfl rfl)
theorem dX13_told_127 : decode cX13_told 127 = .ok (.iaload, 1) := dk_46 (dk_at dksX13_told_3 13 rfl rfl)
theorem dX13_told_128 : decode cX13_told 128 = .ok (.ireturn, 1) := dk_172 (dk_at dksX13_told_3 14 rfl rfl)
theorem dX13_told_129 : decode cX13_told 129 = .ok (.aload_n 0, 1) := dk_42 (dk_at dksX13_told_3 15 rfl rfl)
theorem dX13_told_130 : decode cX13_told 130 = .ok (.getfield 11, 3) := dk_180 0 11 (dk_at dksX13_told_3 16 rfl rfl)
theorem dX13_told_133 : decode cX13_told 133 = .ok (.bipush 8, 2) := dk_16 8 (dk_at dksX13_told_3 19 rfl rfl)
theorem dX13_told_135 : decode cX13_told 135 = .ok (.iaload, 1) := dk_46 (dk_at dksX13_told_3 21 rfl rfl)
theorem dX13_told_136 : decode cX13_told 136 = .ok (.ireturn, 1) := dk_172 (dk_at dksX13_told_3 22 rfl rfl)
theorem dX13_told_137 : decode cX13_told 137 = .ok (.aload_n 0, 1) := dk_42 (dk_at dksX13_told_3 23 rfl rfl)
theorem dX13_told_138 : decode cX13_told 138 = .ok (.getfield 11, 3) := dk_180 0 11 (dk_at dksX13_told_4 0 rfl rfl)
theorem dX13_told_141 : decode cX13_told 141 = .ok (.bipush 9, 2) := dk_16 9 (dk_at dksX13_told_4 3 rfl rfl)
theorem dX13_told_143 : decode cX13_told 143 = .ok (.iaload, 1) := dk_46 (dk_at dksX13_told_4 5 rfl rfl)
theorem dX13_told_144 : decode cX13_told 144 = .ok (.ireturn, 1) := dk_172 (dk_at dksX13_told_4 6 rfl rfl)
theorem dX13_told_145 : decode cX13_told 145 = .ok (.aload_n 0, 1) := dk_42 (dk_at dksX13_told_4 7 rfl rfl)
theorem dX13_told_146 : decode cX13_told 146 = .ok (.iconst 2, 1) := dk_5 (dk_at dksX13_told_4 8 rfl rfl)
theorem dX13_told_147 : decode cX13_told 147 = .ok (.invokevirtual 212, 3) := dk_182 0 212 (dk_at dksX13_told_4 9 rfl rfl)
theorem dX13_told_150 : decode cX13_told 150 = .ok (.ireturn, 1) := dk_172 (dk_at dksX13_told_4 12 rfl rfl)
theorem dX13_told_151 : decode cX13_told 151 = .ok (.aload_n 0, 1) := dk_42 (dk_at dksX13_told_4 13 rfl rfl)
theorem dX13_told_152 : decode cX13_told 152 = .ok (.iconst 1, 1) := dk_4 (dk_at dksX13_told_4 14 rfl rfl)
theorem dX13_told_153 : decode cX13_told 153 = .ok (.invokevirtual 212, 3) := dk_182 0 212 (dk_at dksX13_told_4 15 rfl rfl)
theorem dX13_told_156 : decode cX13_told 156 = .ok (.ireturn, 1) := dk_172 (dk_at dksX13_told_4 18 rfl rfl)
theorem dX13_told_157 : decode cX13_told 157 = .ok (.aload_n 0, 1) := dk_42 (dk_at dksX13_told_4 19 rfl rfl)
theorem dX13_told_158 : decode cX13_told 158 = .ok (.invokevirtual 166, 3) := dk_182 0 166 (dk_at dksX13_told_4 20 rfl rfl)
theorem dX13_told_161 : decode cX13_told 161 = .ok (.ireturn, 1) := dk_172 (dk_at dksX13_told_4 23 rfl rfl)
theorem dX13_told_162 : decode cX13_told 162 = .ok (.aload_n 0, 1) := dk_42 (dk_at dksX13_told_5 0 rfl rfl)
theorem dX13_told_163 : decode cX13_told 163 = .ok (.getfield 11, 3) := dk_180 0 11 (dk_at dksX13_told_5 1 rfl rfl)
theorem dX13_told_166 : decode cX13_told 166 = .ok (.iconst 0, 1) := dk_3 (dk_at dksX13_told_5 4 rfl rfl)
theorem dX13_told_167 : decode cX13_told 167 = .ok (.iaload, 1) := dk_46 (dk_at dksX13_told_5 5 rfl rfl)
theorem dX13_told_168 : decode cX13_told 168 = .ok (.ireturn, 1) := dk_172 (dk_at dksX13_told_5 6 rfl rfl)
theorem dX13_told_169 : decode cX13_told 169 = .ok (.aload_n 0, 1) := dk_42 (dk_at dksX13_told_5 7 rfl rfl)
theorem dX13_told_170 : decode cX13_told 170 = .ok (.getfield 11, 3) := dk_180 0 11 (dk_at dksX13_told_5 8 rfl rfl)
theorem dX13_told_173 : decode cX13_told 173 = .ok (.iconst 1, 1) := dk_4 (dk_at dksX13_told_5 11 rfl rfl)
theorem dX13_told_174 : decode cX13_told 174 = .ok (.iaload, 1) := dk_46 (dk_at dksX13_told_5 12 rfl rfl)
theorem dX13_told_175 : decode cX13_told 175 = .ok (.ireturn, 1) := dk_172 (dk_at dksX13_told_5 13 rfl rfl)
theorem dX13_told_176 : decode cX13_told 176 = .ok (.aload_n 0, 1) := dk_42 (dk_at dksX13_told_5 14 rfl rfl)
theorem dX13_told_177 : decode cX13_told 177 = .ok (.getfield 11, 3) := dk_180 0 11 (dk_at dksX13_told_5 15 rfl rfl)
theorem dX13_told_180 : decode cX13_told 180 = .ok (.bipush 10, 2) := dk_16 10 (dk_at dksX13_told_5 18 rfl rfl)
theorem dX13_told_182 : decode cX13_told 182 = .ok (.iload_n 1, 1) := dk_27 (dk_at dksX13_told_5 20 rfl rfl)
theorem dX13_told_183 : decode cX13_told 183 = .ok (.iadd, 1) := dk_96 (dk_at dksX13_told_5 21 rfl rfl)
theorem dX13_told_184 : decode cX13_told 184 = .ok (.bipush 12, 2) := dk_16 12 (dk_at dksX13_told_5 22 rfl rfl)
theorem dX13_told_186 : decode cX13_told 186 = .ok (.isub, 1) := dk_100 (dk_at dksX13_told_6 0 rfl rfl)
theorem dX13_told_187 : decode cX13_told 187 = .ok (.iaload, 1) := dk_46 (dk_at dksX13_told_6 1 rfl rfl)
theorem dX13_told_188 : decode cX13_told 188 = .ok (.ireturn, 1) := dk_172 (dk_at dksX13_told_6 2 rfl rfl)
theorem dX13_told_189 : decode cX13_told 189 = .ok (.aload_n 0, 1) := dk_42 (dk_at dksX13_told_6 3 rfl rfl)
theorem dX13_told_190 : decode cX13_told 190 = .ok (.getfield 11, 3) := dk_180 0 11 (dk_at dksX13_told_6 4 rfl rfl)
theorem dX13_told_193 : decode cX13_told 193 = .ok (.bipush 10, 2) := dk_16 10 (dk_at dksX13_told_6 7 rfl rfl)
theorem dX13_told_195 : decode cX13_told 195 = .ok (.iaload, 1) := dk_46 (dk_at dksX13_told_6 9 rfl rfl)
theorem dX13_told_196 : decode cX13_told 196 = .ok (.ifCond .ne 8, 3) := dk_154 0 8 (dk_at dksX13_told_6 10 rfl rfl)
theorem dX13_told_199 : decode cX13_told 199 = .ok (.bipush (-5), 2) := dk_16 251 (dk_at dksX13_told_6 13 rfl rfl)
theorem dX13_told_201 : decode cX13_told 201 = .ok (.goto 7, 3) := dk_167 0 7 (dk_at dksX13_told_6 15 rfl rfl)
theorem dX13_told_204 : decode cX13_told 204 = .ok (.aload_n 0, 1) := dk_42 (dk_at dksX13_told_6 18 rfl rfl)
theorem dX13_told_205 : decode cX13_told 205 = .ok (.invokevirtual 170, 3) := dk_182 0 170 (dk_at dksX13_told_6 19 rfl rfl)
theorem dX13_told_208 : decode cX13_told 208 = .ok (.ireturn, 1) := dk_172 (dk_at dksX13_told_6 22 rfl rfl)
theorem dX13_told_209 : decode cX13_told 209 = .ok (.aload_n 0, 1) := dk_42 (dk_at dksX13_told_6 23 rfl rfl)
theorem dX13_told_210 : decode cX13_told 210 = .ok (.getfield 11, 3) := dk_180 0 11 (dk_at dksX13_told_7 0 rfl rfl)
theorem dX13_told_213 : decode cX13_told 213 = .ok (.bipush 13, 2) := dk_16 13 (dk_at dksX13_told_7 3 rfl rfl)
theorem dX13_told_215 : decode cX13_told 215 = .ok (.iaload, 1) := dk_46 (dk_at dksX13_told_7 5 rfl rfl)
theorem dX13_told_216 : decode cX13_told 216 = .ok (.ireturn, 1) := dk_172 (dk_at dksX13_told_7 6 rfl rfl)
theorem dX13_told_217 : decode cX13_told 217 = .ok (.aload_n 0, 1) := dk_42 (dk_at dksX13_told_7 7 rfl rfl)
theorem dX13_told_218 : decode cX13_told 218 = .ok (.getfield 11, 3) := dk_180 0 11 (dk_at dksX13_told_7 8 rfl rfl)
theorem dX13_told_221 : decode cX13_told 221 = .ok (.bipush 14, 2) := dk_16 14 (dk_at dksX13_told_7 11 rfl rfl)
theorem dX13_told_223 : decode cX13_told 223 = .ok (.iaload, 1) := dk_46 (dk_at dksX13_told_7 13 rfl rfl)
theorem dX13_told_224 : decode cX13_told 224 = .ok (.ireturn, 1) := dk_172 (dk_at dksX13_told_7 14 rfl rfl)
theorem dX13_told_225 : decode cX13_told 225 = .ok (.aload_n 0, 1) := dk_42 (dk_at dksX13_told_7 15 rfl rfl)
theorem dX13_told_226 : decode cX13_told 226 = .ok (.invokevirtual 191, 3) := dk_182 0 191 (dk_at dksX13_told_7 16 rfl rfl)
theorem dX13_told_229 : decode cX13_told 229 = .ok (.ireturn, 1) := dk_172 (dk_at dksX13_told_7 19 rfl rfl)
theorem dX13_told_230 : decode cX13_told 230 = .ok (.iconst (-1), 1) := dk_2 (dk_at dksX13_told_7 20 rfl rfl)
theorem dX13_told_231 : decode cX13_told 231 = .ok (.ireturn, 1) := dk_172 (dk_at dksX13_told_7 21 rfl rfl)
abbrev cX13_lights : ByteArray := prog_22_method_61_code
def yX13_lights : MethodName := ⟨RX13, "lights", "(I)I"⟩
def dkwX13_lights_1 : List UInt8 := [160, 0, 9, 4, 29, 120, 167, 0, 4, 3, 128, 61, 132, 3, 1, 167, 255, 223, 28, 172]
abbrev dktX13_lights_1 : List UInt8 := dkwX13_lights_1 ++ []
def dkwX13_lights_0 : List UInt8 := [3, 61, 3, 62, 29, 42, 180, 0, 11, 16, 13, 46, 162, 0, 28, 28, 42, 29, 182, 0, 209, 27]
abbrev dktX13_lights_0 : List UInt8 := dkwX13_lights_0 ++ dktX13_lights_1
theorem dksX13_lights_0 : cX13_lights.data.toList.drop 0 = dktX13_lights_0 := by decide +kernel
theorem dksX13_lights_1 : cX13_lights.data.toList.drop 22 = dktX13_lights_1 := dk_seg dksX13_lights_0 22 rfl rfl
theorem dX13_lights_0 : decode cX13_lights 0 = .ok (.iconst 0, 1) := dk_3 (dk_at dksX13_lights_0 0 rfl rfl)
theorem dX13_lights_1 : decode cX13_lights 1 = .ok (.istore_n 2, 1) := dk_61 (dk_at dksX13_lights_0 1 rfl rfl)
theorem dX13_lights_2 : decode cX13_lights 2 = .ok (.iconst 0, 1) := dk_3 (dk_at dksX13_lights_0 2 rfl rfl)
theorem dX13_lights_3 : decode cX13_lights 3 = .ok (.istore_n 3, 1) := dk_62 (dk_at dksX13_lights_0 3 rfl rfl)
theorem dX13_lights_4 : decode cX13_lights 4 = .ok (.iload_n 3, 1) := dk_29 (dk_at dksX13_lights_0 4 rfl rfl)
theorem dX13_lights_5 : decode cX13_lights 5 = .ok (.aload_n 0, 1) := dk_42 (dk_at dksX13_lights_0 5 rfl rfl)
theorem dX13_lights_6 : decode cX13_lights 6 = .ok (.getfield 11, 3) := dk_180 0 11 (dk_at dksX13_lights_0 6 rfl rfl)
theorem dX13_lights_9 : decode cX13_lights 9 = .ok (.bipush 13, 2) := dk_16 13 (dk_at dksX13_lights_0 9 rfl rfl)
theorem dX13_lights_11 : decode cX13_lights 11 = .ok (.iaload, 1) := dk_46 (dk_at dksX13_lights_0 11 rfl rfl)
theorem dX13_lights_12 : decode cX13_lights 12 = .ok (.if_icmp .ge 28, 3) := dk_162 0 28 (dk_at dksX13_lights_0 12 rfl rfl)
theorem dX13_lights_15 : decode cX13_lights 15 = .ok (.iload_n 2, 1) := dk_28 (dk_at dksX13_lights_0 15 rfl rfl)
theorem dX13_lights_16 : decode cX13_lights 16 = .ok (.aload_n 0, 1) := dk_42 (dk_at dksX13_lights_0 16 rfl rfl)
theorem dX13_lights_17 : decode cX13_lights 17 = .ok (.iload_n 3, 1) := dk_29 (dk_at dksX13_lights_0 17 rfl rfl)
theorem dX13_lights_18 : decode cX13_lights 18 = .ok (.invokevirtual 209, 3) := dk_182 0 209 (dk_at dksX13_lights_0 18 rfl rfl)
theorem dX13_lights_21 : decode cX13_lights 21 = .ok (.iload_n 1, 1) := dk_27 (dk_at dksX13_lights_0 21 rfl rfl)
theorem dX13_lights_22 : decode cX13_lights 22 = .ok (.if_icmp .ne 9, 3) := dk_160 0 9 (dk_at dksX13_lights_1 0 rfl rfl)
theorem dX13_lights_25 : decode cX13_lights 25 = .ok (.iconst 1, 1) := dk_4 (dk_at dksX13_lights_1 3 rfl rfl)
theorem dX13_lights_26 : decode cX13_lights 26 = .ok (.iload_n 3, 1) := dk_29 (dk_at dksX13_lights_1 4 rfl rfl)
theorem dX13_lights_27 : decode cX13_lights 27 = .ok (.ishl, 1) := dk_120 (dk_at dksX13_lights_1 5 rfl rfl)
theorem dX13_lights_28 : decode cX13_lights 28 = .ok (.goto 4, 3) := dk_167 0 4 (dk_at dksX13_lights_1 6 rfl rfl)
theorem dX13_lights_31 : decode cX13_lights 31 = .ok (.iconst 0, 1) := dk_3 (dk_at dksX13_lights_1 9 rfl rfl)
theorem dX13_lights_32 : decode cX13_lights 32 = .ok (.ior, 1) := dk_128 (dk_at dksX13_lights_1 10 rfl rfl)
theorem dX13_lights_33 : decode cX13_lights 33 = .ok (.istore_n 2, 1) := dk_61 (dk_at dksX13_lights_1 11 rfl rfl)
theorem dX13_lights_34 : decode cX13_lights 34 = .ok (.iinc 3 1, 3) := dk_132 3 1 (dk_at dksX13_lights_1 12 rfl rfl)
theorem dX13_lights_37 : decode cX13_lights 37 = .ok (.goto (-33), 3) := dk_167 255 223 (dk_at dksX13_lights_1 15 rfl rfl)
theorem dX13_lights_40 : decode cX13_lights 40 = .ok (.iload_n 2, 1) := dk_28 (dk_at dksX13_lights_1 18 rfl rfl)
theorem dX13_lights_41 : decode cX13_lights 41 = .ok (.ireturn, 1) := dk_172 (dk_at dksX13_lights_1 19 rfl rfl)
abbrev cX13_light : ByteArray := prog_22_method_60_code
def yX13_light : MethodName := ⟨RX13, "light", "(I)I"⟩
def dkwX13_light_2 : List UInt8 := [167, 0, 4, 3, 172]
abbrev dktX13_light_2 : List UInt8 := dkwX13_light_2 ++ []
def dkwX13_light_1 : List UInt8 := [180, 0, 11, 6, 46, 42, 27, 16, 8, 182, 0, 56, 42, 27, 182, 0, 66, 96, 162, 0, 7, 4]
abbrev dktX13_light_1 : List UInt8 := dkwX13_light_1 ++ dktX13_light_2
def dkwX13_light_0 : List UInt8 := [42, 27, 16, 6, 182, 0, 56, 4, 160, 0, 5, 5, 172, 42, 27, 16, 8, 182, 0, 56, 155, 0, 29, 42]
abbrev dktX13_light_0 : List UInt8 := dkwX13_light_0 ++ dktX13_light_1
theorem dksX13_light_0 : cX13_light.data.toList.drop 0 = dktX13_light_0 := by decide +kernel
theorem dksX13_light_1 : cX13_light.data.toList.drop 24 = dktX13_light_1 := dk_seg dksX13_light_0 24 rfl rfl
theorem dksX13_light_2 : cX13_light.data.toList.drop 46 = dktX13_light_2 := dk_seg dksX13_light_1 22 rfl rfl
theorem dX13_light_0 : decode cX13_light 0 = .ok (.aload_n 0, 1) := dk_42 (dk_at dksX13_light_0 0 rfl rfl)
theorem dX13_light_1 : decode cX13_light 1 = .ok (.iload_n 1, 1) := dk_27 (dk_at dksX13_light_0 1 rfl rfl)
theorem dX13_light_2 : decode cX13_light 2 = .ok (.bipush 6, 2) := dk_16 6 (dk_at dksX13_light_0 2 rfl rfl)
theorem dX13_light_4 : decode cX13_light 4 = .ok (.invokevirtual 56, 3) := dk_182 0 56 (dk_at dksX13_light_0 4 rfl rfl)
theorem dX13_light_7 : decode cX13_light 7 = .ok (.iconst 1, 1) := dk_4 (dk_at dksX13_light_0 7 rfl rfl)
theorem dX13_light_8 : decode cX13_light 8 = .ok (.if_icmp .ne 5, 3) := dk_160 0 5 (dk_at dksX13_light_0 8 rfl rfl)
theorem dX13_light_11 : decode cX13_light 11 = .ok (.iconst 2, 1) := dk_5 (dk_at dksX13_light_0 11 rfl rfl)
theorem dX13_light_12 : decode cX13_light 12 = .ok (.ireturn, 1) := dk_172 (dk_at dksX13_light_0 12 rfl rfl)
theorem dX13_light_13 : decode cX13_light 13 = .ok (.aload_n 0, 1) := dk_42 (dk_at dksX13_light_0 13 rfl rfl)
theorem dX13_light_14 : decode cX13_light 14 = .ok (.iload_n 1, 1) := dk_27 (dk_at dksX13_light_0 14 rfl rfl)
theorem dX13_light_15 : decode cX13_light 15 = .ok (.bipush 8, 2) := dk_16 8 (dk_at dksX13_light_0 15 rfl rfl)
theorem dX13_light_17 : decode cX13_light 17 = .ok (.invokevirtual 56, 3) := dk_182 0 56 (dk_at dksX13_light_0 17 rfl rfl)
theorem dX13_light_20 : decode cX13_light 20 = .ok (.ifCond .lt 29, 3) := dk_155 0 29 (dk_at dksX13_light_0 20 rfl rfl)
theorem dX13_light_23 : decode cX13_light 23 = .ok (.aload_n 0, 1) := dk_42 (dk_at dksX13_light_0 23 rfl rfl)
theorem dX13_light_24 : decode cX13_light 24 = .ok (.getfield 11, 3) := dk_180 0 11 (dk_at dksX13_light_1 0 rfl rfl)
theorem dX13_light_27 : decode cX13_light 27 = .ok (.iconst 3, 1) := dk_6 (dk_at dksX13_light_1 3 rfl rfl)
theorem dX13_light_28 : decode cX13_light 28 = .ok (.iaload, 1) := dk_46 (dk_at dksX13_light_1 4 rfl rfl)
theorem dX13_light_29 : decode cX13_light 29 = .ok (.aload_n 0, 1) := dk_42 (dk_at dksX13_light_1 5 rfl rfl)
theorem dX13_light_30 : decode cX13_light 30 = .ok (.iload_n 1, 1) := dk_27 (dk_at dksX13_light_1 6 rfl rfl)
theorem dX13_light_31 : decode cX13_light 31 = .ok (.bipush 8, 2) := dk_16 8 (dk_at dksX13_light_1 7 rfl rfl)
theorem dX13_light_33 : decode cX13_light 33 = .ok (.invokevirtual 56, 3) := dk_182 0 56 (dk_at dksX13_light_1 9 rfl rfl)
theorem dX13_light_36 : decode cX13_light 36 = .ok (.aload_n 0, 1) := dk_42 (dk_at dksX13_light_1 12 rfl rfl)
theorem dX13_light_37 : decode cX13_light 37 = .ok (.iload_n 1, 1) := dk_27 (dk_at dksX13_light_1 13 rfl rfl)
theorem dX13_light_38 : decode cX13_light 38 = .ok (.invokevirtual 66, 3) := dk_182 0 66 (dk_at dksX13_light_1 14 rfl rfl)
theorem dX13_light_41 : decode cX13_light 41 = .ok (.iadd, 1) := dk_96 (dk_at dksX13_light_1 17 rfl rfl)
theorem dX13_light_42 : decode cX13_light 42 = .ok (.if_icmp .ge 7, 3) := dk_162 0 7 (dk_at dksX13_light_1 18 rfl rfl)
theorem dX13_light_45 : decode cX13_light 45 = .ok (.iconst 1, 1) := dk_4 (dk_at dksX13_light_1 21 rfl rfl)
theorem dX13_light_46 : decode cX13_light 46 = .ok (.goto 4, 3) := dk_167 0 4 (dk_at dksX13_light_2 0 rfl rfl)
theorem dX13_light_49 : decode cX13_light 49 = .ok (.iconst 0, 1) := dk_3 (dk_at dksX13_light_2 3 rfl rfl)
theorem dX13_light_50 : decode cX13_light 50 = .ok (.ireturn, 1) := dk_172 (dk_at dksX13_light_2 4 rfl rfl)
abbrev cX13_of : ByteArray := prog_22_method_63_code
def yX13_of : MethodName := ⟨RX13, "of", "(II)I"⟩
def dkwX13_of_5 : List UInt8 := [172]
abbrev dktX13_of_5 : List UInt8 := dkwX13_of_5 ++ []
def dkwX13_of_4 : List UInt8 := [167, 0, 24, 28, 16, 12, 160, 0, 11, 42, 27, 182, 0, 135, 167, 0, 10, 42, 27, 16, 20, 182, 0, 56]
abbrev dktX13_of_4 : List UInt8 := dkwX13_of_4 ++ dktX13_of_5
def dkwX13_of_3 : List UInt8 := [42, 27, 16, 10, 182, 0, 56, 167, 0, 40, 28, 16, 11, 160, 0, 13, 42, 27, 16, 11, 182, 0, 56]
abbrev dktX13_of_3 : List UInt8 := dkwX13_of_3 ++ dktX13_of_4
def dkwX13_of_2 : List UInt8 := [16, 10, 162, 0, 16, 42, 27, 16, 7, 28, 96, 16, 7, 100, 182, 0, 56, 172, 28, 16, 10, 160, 0, 13]
abbrev dktX13_of_2 : List UInt8 := dkwX13_of_2 ++ dktX13_of_3
def dkwX13_of_1 : List UInt8 := [162, 0, 10, 42, 27, 28, 182, 0, 56, 172, 28, 16, 6, 160, 0, 9, 42, 27, 182, 0, 209, 172, 28]
abbrev dktX13_of_1 : List UInt8 := dkwX13_of_1 ++ dktX13_of_2
def dkwX13_of_0 : List UInt8 := [42, 27, 182, 0, 96, 153, 0, 13, 28, 3, 16, 13, 184, 0, 49, 154, 0, 5, 2, 172, 28, 16, 6]
abbrev dktX13_of_0 : List UInt8 := dkwX13_of_0 ++ dktX13_of_1
theorem dksX13_of_0 : cX13_of.data.toList.drop 0 = dktX13_of_0 := by decide +kernel
theorem dksX13_of_1 : cX13_of.data.toList.drop 23 = dktX13_of_1 := dk_seg dksX13_of_0 23 rfl rfl
theorem dksX13_of_2 : cX13_of.data.toList.drop 46 = dktX13_of_2 := dk_seg dksX13_of_1 23 rfl rfl
theorem dksX13_of_3 : cX13_of.data.toList.drop 70 = dktX13_of_3 := dk_seg dksX13_of_2 24 rfl rfl
theorem dksX13_of_4 : cX13_of.data.toList.drop 93 = dktX13_of_4 := dk_seg dksX13_of_3 23 rfl rfl
theorem dksX13_of_5 : cX13_of.data.toList.drop 117 = dktX13_of_5 := dk_seg dksX13_of_4 24 rfl rfl
theorem dX13_of_0 : decode cX13_of 0 = .ok (.aload_n 0, 1) := dk_42 (dk_at dksX13_of_0 0 rfl rfl)
theorem dX13_of_1 : decode cX13_of 1 = .ok (.iload_n 1, 1) := dk_27 (dk_at dksX13_of_0 1 rfl rfl)
theorem dX13_of_2 : decode cX13_of 2 = .ok (.invokevirtual 96, 3) := dk_182 0 96 (dk_at dksX13_of_0 2 rfl rfl)
theorem dX13_of_5 : decode cX13_of 5 = .ok (.ifCond .eq 13, 3) := dk_153 0 13 (dk_at dksX13_of_0 5 rfl rfl)
theorem dX13_of_8 : decode cX13_of 8 = .ok (.iload_n 2, 1) := dk_28 (dk_at dksX13_of_0 8 rfl rfl)
theorem dX13_of_9 : decode cX13_of 9 = .ok (.iconst 0, 1) := dk_3 (dk_at dksX13_of_0 9 rfl rfl)
theorem dX13_of_10 : decode cX13_of 10 = .ok (.bipush 13, 2) := dk_16 13 (dk_at dksX13_of_0 10 rfl rfl)
theorem dX13_of_12 : decode cX13_of 12 = .ok (.invokestatic 49, 3) := dk_184 0 49 (dk_at dksX13_of_0 12 rfl rfl)
theorem dX13_of_15 : decode cX13_of 15 = .ok (.ifCond .ne 5, 3) := dk_154 0 5 (dk_at dksX13_of_0 15 rfl rfl)
theorem dX13_of_18 : decode cX13_of 18 = .ok (.iconst (-1), 1) := dk_2 (dk_at dksX13_of_0 18 rfl rfl)
theorem dX13_of_19 : decode cX13_of 19 = .ok (.ireturn, 1) := dk_172 (dk_at dksX13_of_0 19 rfl rfl)
theorem dX13_of_20 : decode cX13_of 20 = .ok (.iload_n 2, 1) := dk_28 (dk_at dksX13_of_0 20 rfl rfl)
theorem dX13_of_21 : decode cX13_of 21 = .ok (.bipush 6, 2) := dk_16 6 (dk_at dksX13_of_0 21 rfl rfl)
theorem dX13_of_23 : decode cX13_of 23 = .ok (.if_icmp .ge 10, 3) := dk_162 0 10 (dk_at dksX13_of_1 0 rfl rfl)
theorem dX13_of_26 : decode cX13_of 26 = .ok (.aload_n 0, 1) := dk_42 (dk_at dksX13_of_1 3 rfl rfl)
theorem dX13_of_27 : decode cX13_of 27 = .ok (.iload_n 1, 1) := dk_27 (dk_at dksX13_of_1 4 rfl rfl)
theorem dX13_of_28 : decode cX13_of 28 = .ok (.iload_n 2, 1) := dk_28 (dk_at dksX13_of_1 5 rfl rfl)
theorem dX13_of_29 : decode cX13_of 29 = .ok (.invokevirtual 56, 3) := dk_182 0 56 (dk_at dksX13_of_1 6 rfl rfl)
theorem dX13_of_32 : decode cX13_of 32 = .ok (.ireturn, 1) := dk_172 (dk_at dksX13_of_1 9 rfl rfl)
theorem dX13_of_33 : decode cX13_of 33 = .ok (.iload_n 2, 1) := dk_28 (dk_at dksX13_of_1 10 rfl rfl)
theorem dX13_of_34 : decode cX13_of 34 = .ok (.bipush 6, 2) := dk_16 6 (dk_at dksX13_of_1 11 rfl rfl)
theorem dX13_of_36 : decode cX13_of 36 = .ok (.if_icmp .ne 9, 3) := dk_160 0 9 (dk_at dksX13_of_1 13 rfl rfl)
theorem dX13_of_39 : decode cX13_of 39 = .ok (.aload_n 0, 1) := dk_42 (dk_at dksX13_of_1 16 rfl rfl)
theorem dX13_of_40 : decode cX13_of 40 = .ok (.iload_n 1, 1) := dk_27 (dk_at dksX13_of_1 17 rfl rfl)
theorem dX13_of_41 : decode cX13_of 41 = .ok (.invokevirtual 209, 3) := dk_182 0 209 (dk_at dksX13_of_1 18 rfl rfl)
theorem dX13_of_44 : decode cX13_of 44 = .ok (.ireturn, 1) := dk_172 (dk_at dksX13_of_1 21 rfl rfl)
theorem dX13_of_45 : decode cX13_of 45 = .ok (.iload_n 2, 1) := dk_28 (dk_at dksX13_of_1 22 rfl rfl)
theorem dX13_of_46 : decode cX13_of 46 = .ok (.bipush 10, 2) := dk_16 10 (dk_at dksX13_of_2 0 rfl rfl)
theorem dX13_of_48 : decode cX13_of 48 = .ok (.if_icmp .ge 16, 3) := dk_162 0 16 (dk_at dksX13_of_2 2 rfl rfl)
theorem dX13_of_51 : decode cX13_of 51 = .ok (.aload_n 0, 1) := dk_42 (dk_at dksX13_of_2 5 rfl rfl)
theorem dX13_of_52 : decode cX13_of 52 = .ok (.iload_n 1, 1) := dk_27 (dk_at dksX13_of_2 6 rfl rfl)
theorem dX13_of_53 : decode cX13_of 53 = .ok (.bipush 7, 2) := dk_16 7 (dk_at dksX13_of_2 7 rfl rfl)
theorem dX13_of_55 : decode cX13_of 55 = .ok (.iload_n 2, 1) := dk_28 (dk_at dksX13_of_2 9 rfl rfl)
theorem dX13_of_56 : decode cX13_of 56 = .ok (.iadd, 1) := dk_96 (dk_at dksX13_of_2 10 rfl rfl)
theorem dX13_of_57 : decode cX13_of 57 = .ok (.bipush 7, 2) := dk_16 7 (dk_at dksX13_of_2 11 rfl rfl)
theorem dX13_of_59 : decode cX13_of 59 = .ok (.isub, 1) := dk_100 (dk_at dksX13_of_2 13 rfl rfl)
theorem dX13_of_60 : decode cX13_of 60 = .ok (.invokevirtual 56, 3) := dk_182 0 56 (dk_at dksX13_of_2 14 rfl rfl)
theorem dX13_of_63 : decode cX13_of 63 = .ok (.ireturn, 1) := dk_172 (dk_at dksX13_of_2 17 rfl rfl)
theorem dX13_of_64 : decode cX13_of 64 = .ok (.iload_n 2, 1) := dk_28 (dk_at dksX13_of_2 18 rfl rfl)
theorem dX13_of_65 : decode cX13_of 65 = .ok (.bipush 10, 2) := dk_16 10 (dk_at dksX13_of_2 19 rfl rfl)
theorem dX13_of_67 : decode cX13_of 67 = .ok (.if_icmp .ne 13, 3) := dk_160 0 13 (dk_at dksX13_of_2 21 rfl rfl)
theorem dX13_of_70 : decode cX13_of 70 = .ok (.aload_n 0, 1) := dk_42 (dk_at dksX13_of_3 0 rfl rfl)
theorem dX13_of_71 : decode cX13_of 71 = .ok (.iload_n 1, 1) := dk_27 (dk_at dksX13_of_3 1 rfl rfl)
theorem dX13_of_72 : decode cX13_of 72 = .ok (.bipush 10, 2) := dk_16 10 (dk_at dksX13_of_3 2 rfl rfl)
theorem dX13_of_74 : decode cX13_of 74 = .ok (.invokevirtual 56, 3) := dk_182 0 56 (dk_at dksX13_of_3 4 rfl rfl)
theorem dX13_of_77 : decode cX13_of 77 = .ok (.goto 40, 3) := dk_167 0 40 (dk_at dksX13_of_3 7 rfl rfl)
theorem dX13_of_80 : decode cX13_of 80 = .ok (.iload_n 2, 1) := dk_28 (dk_at dksX13_of_3 10 rfl rfl)
theorem dX13_of_81 : decode cX13_of 81 = .ok (.bipush 11, 2) := dk_16 11 (dk_at dksX13_of_3 11 rfl rfl)
theorem dX13_of_83 : decode cX13_of 83 = .ok (.if_icmp .ne 13, 3) := dk_160 0 13 (dk_at dksX13_of_3 13 rfl rfl)
theorem dX13_of_86 : decode cX13_of 86 = .ok (.aload_n 0, 1) := dk_42 (dk_at dksX13_of_3 16 rfl rfl)
theorem dX13_of_87 : decode cX13_of 87 = .ok (.iload_n 1, 1) := dk_27 (dk_at dksX13_of_3 17 rfl rfl)
theorem dX13_of_88 : decode cX13_of 88 = .ok (.bipush 11, 2) := dk_16 11 (dk_at dksX13_of_3 18 rfl rfl)
theorem dX13_of_90 : decode cX13_of 90 = .ok (.invokevirtual 56, 3) := dk_182 0 56 (dk_at dksX13_of_3 20 rfl rfl)
theorem dX13_of_93 : decode cX13_of 93 = .ok (.goto 24, 3) := dk_167 0 24 (dk_at dksX13_of_4 0 rfl rfl)
theorem dX13_of_96 : decode cX13_of 96 = .ok (.iload_n 2, 1) := dk_28 (dk_at dksX13_of_4 3 rfl rfl)
theorem dX13_of_97 : decode cX13_of 97 = .ok (.bipush 12, 2) := dk_16 12 (dk_at dksX13_of_4 4 rfl rfl)
theorem dX13_of_99 : decode cX13_of 99 = .ok (.if_icmp .ne 11, 3) := dk_160 0 11 (dk_at dksX13_of_4 6 rfl rfl)
theorem dX13_of_102 : decode cX13_of 102 = .ok (.aload_n 0, 1) := dk_42 (dk_at dksX13_of_4 9 rfl rfl)
theorem dX13_of_103 : decode cX13_of 103 = .ok (.iload_n 1, 1) := dk_27 (dk_at dksX13_of_4 10 rfl rfl)
theorem dX13_of_104 : decode cX13_of 104 = .ok (.invokevirtual 135, 3) := dk_182 0 135 (dk_at dksX13_of_4 11 rfl rfl)
theorem dX13_of_107 : decode cX13_of 107 = .ok (.goto 10, 3) := dk_167 0 10 (dk_at dksX13_of_4 14 rfl rfl)
theorem dX13_of_110 : decode cX13_of 110 = .ok (.aload_n 0, 1) := dk_42 (dk_at dksX13_of_4 17 rfl rfl)
theorem dX13_of_111 : decode cX13_of 111 = .ok (.iload_n 1, 1) := dk_27 (dk_at dksX13_of_4 18 rfl rfl)
theorem dX13_of_112 : decode cX13_of 112 = .ok (.bipush 20, 2) := dk_16 20 (dk_at dksX13_of_4 19 rfl rfl)
theorem dX13_of_114 : decode cX13_of 114 = .ok (.invokevirtual 56, 3) := dk_182 0 56 (dk_at dksX13_of_4 21 rfl rfl)
theorem dX13_of_117 : decode cX13_of 117 = .ok (.ireturn, 1) := dk_172 (dk_at dksX13_of_5 0 rfl rfl)
abbrev cX13_way : ByteArray := prog_22_method_64_code
def yX13_way : MethodName := ⟨RX13, "way", "(II)I"⟩
def dkwX13_way_1 : List UInt8 := [153, 0, 15, 42, 27, 16, 12, 28, 96, 182, 0, 56, 167, 0, 5, 16, 254, 172]
abbrev dktX13_way_1 : List UInt8 := dkwX13_way_1 ++ []
def dkwX13_way_0 : List UInt8 := [42, 27, 182, 0, 96, 154, 0, 5, 2, 172, 28, 3, 42, 27, 16, 11, 182, 0, 56, 4, 100, 184, 0, 49]
abbrev dktX13_way_0 : List UInt8 := dkwX13_way_0 ++ dktX13_way_1
theorem dksX13_way_0 : cX13_way.data.toList.drop 0 = dktX13_way_0 := by decide +kernel
theorem dksX13_way_1 : cX13_way.data.toList.drop 24 = dktX13_way_1 := dk_seg dksX13_way_0 24 rfl rfl
theorem dX13_way_0 : decode cX13_way 0 = .ok (.aload_n 0, 1) := dk_42 (dk_at dksX13_way_0 0 rfl rfl)
theorem dX13_way_1 : decode cX13_way 1 = .ok (.iload_n 1, 1) := dk_27 (dk_at dksX13_way_0 1 rfl rfl)
theorem dX13_way_2 : decode cX13_way 2 = .ok (.invokevirtual 96, 3) := dk_182 0 96 (dk_at dksX13_way_0 2 rfl rfl)
theorem dX13_way_5 : decode cX13_way 5 = .ok (.ifCond .ne 5, 3) := dk_154 0 5 (dk_at dksX13_way_0 5 rfl rfl)
theorem dX13_way_8 : decode cX13_way 8 = .ok (.iconst (-1), 1) := dk_2 (dk_at dksX13_way_0 8 rfl rfl)
theorem dX13_way_9 : decode cX13_way 9 = .ok (.ireturn, 1) := dk_172 (dk_at dksX13_way_0 9 rfl rfl)
theorem dX13_way_10 : decode cX13_way 10 = .ok (.iload_n 2, 1) := dk_28 (dk_at dksX13_way_0 10 rfl rfl)
theorem dX13_way_11 : decode cX13_way 11 = .ok (.iconst 0, 1) := dk_3 (dk_at dksX13_way_0 11 rfl rfl)
theorem dX13_way_12 : decode cX13_way 12 = .ok (.aload_n 0, 1) := dk_42 (dk_at dksX13_way_0 12 rfl rfl)
theorem dX13_way_13 : decode cX13_way 13 = .ok (.iload_n 1, 1) := dk_27 (dk_at dksX13_way_0 13 rfl rfl)
theorem dX13_way_14 : decode cX13_way 14 = .ok (.bipush 11, 2) := dk_16 11 (dk_at dksX13_way_0 14 rfl rfl)
theorem dX13_way_16 : decode cX13_way 16 = .ok (.invokevirtual 56, 3) := dk_182 0 56 (dk_at dksX13_way_0 16 rfl rfl)
theorem dX13_way_19 : decode cX13_way 19 = .ok (.iconst 1, 1) := dk_4 (dk_at dksX13_way_0 19 rfl rfl)
theorem dX13_way_20 : decode cX13_way 20 = .ok (.isub, 1) := dk_100 (dk_at dksX13_way_0 20 rfl rfl)
theorem dX13_way_21 : decode cX13_way 21 = .ok (.invokestatic 49, 3) := dk_184 0 49 (dk_at dksX13_way_0 21 rfl rfl)
theorem dX13_way_24 : decode cX13_way 24 = .ok (.ifCond .eq 15, 3) := dk_153 0 15 (dk_at dksX13_way_1 0 rfl rfl)
theorem dX13_way_27 : decode cX13_way 27 = .ok (.aload_n 0, 1) := dk_42 (dk_at dksX13_way_1 3 rfl rfl)
theorem dX13_way_28 : decode cX13_way 28 = .ok (.iload_n 1, 1) := dk_27 (dk_at dksX13_way_1 4 rfl rfl)
theorem dX13_way_29 : decode cX13_way 29 = .ok (.bipush 12, 2) := dk_16 12 (dk_at dksX13_way_1 5 rfl rfl)
theorem dX13_way_31 : decode cX13_way 31 = .ok (.iload_n 2, 1) := dk_28 (dk_at dksX13_way_1 7 rfl rfl)
theorem dX13_way_32 : decode cX13_way 32 = .ok (.iadd, 1) := dk_96 (dk_at dksX13_way_1 8 rfl rfl)
theorem dX13_way_33 : decode cX13_way 33 = .ok (.invokevirtual 56, 3) := dk_182 0 56 (dk_at dksX13_way_1 9 rfl rfl)
theorem dX13_way_36 : decode cX13_way 36 = .ok (.goto 5, 3) := dk_167 0 5 (dk_at dksX13_way_1 12 rfl rfl)
theorem dX13_way_39 : decode cX13_way 39 = .ok (.bipush (-2), 2) := dk_16 254 (dk_at dksX13_way_1 15 rfl rfl)
theorem dX13_way_41 : decode cX13_way 41 = .ok (.ireturn, 1) := dk_172 (dk_at dksX13_way_1 17 rfl rfl)
abbrev cX13_clear : ByteArray := prog_22_method_65_code
def yX13_clear : MethodName := ⟨RX13, "clear", "(II)I"⟩
def dkwX13_clear_1 : List UInt8 := [28, 96, 46, 167, 0, 4, 2, 172]
abbrev dktX13_clear_1 : List UInt8 := dkwX13_clear_1 ++ []
def dkwX13_clear_0 : List UInt8 := [42, 27, 182, 0, 96, 153, 0, 25, 42, 28, 182, 0, 96, 153, 0, 17, 42, 180, 0, 21, 16, 8, 27, 104]
abbrev dktX13_clear_0 : List UInt8 := dkwX13_clear_0 ++ dktX13_clear_1
theorem dksX13_clear_0 : cX13_clear.data.toList.drop 0 = dktX13_clear_0 := by decide +kernel
theorem dksX13_clear_1 : cX13_clear.data.toList.drop 24 = dktX13_clear_1 := dk_seg dksX13_clear_0 24 rfl rfl
theorem dX13_clear_0 : decode cX13_clear 0 = .ok (.aload_n 0, 1) := dk_42 (dk_at dksX13_clear_0 0 rfl rfl)
theorem dX13_clear_1 : decode cX13_clear 1 = .ok (.iload_n 1, 1) := dk_27 (dk_at dksX13_clear_0 1 rfl rfl)
theorem dX13_clear_2 : decode cX13_clear 2 = .ok (.invokevirtual 96, 3) := dk_182 0 96 (dk_at dksX13_clear_0 2 rfl rfl)
theorem dX13_clear_5 : decode cX13_clear 5 = .ok (.ifCond .eq 25, 3) := dk_153 0 25 (dk_at dksX13_clear_0 5 rfl rfl)
theorem dX13_clear_8 : decode cX13_clear 8 = .ok (.aload_n 0, 1) := dk_42 (dk_at dksX13_clear_0 8 rfl rfl)
theorem dX13_clear_9 : decode cX13_clear 9 = .ok (.iload_n 2, 1) := dk_28 (dk_at dksX13_clear_0 9 rfl rfl)
theorem dX13_clear_10 : decode cX13_clear 10 = .ok (.invokevirtual 96, 3) := dk_182 0 96 (dk_at dksX13_clear_0 10 rfl rfl)
theorem dX13_clear_13 : decode cX13_clear 13 = .ok (.ifCond .eq 17, 3) := dk_153 0 17 (dk_at dksX13_clear_0 13 rfl rfl)
theorem dX13_clear_16 : decode cX13_clear 16 = .ok (.aload_n 0, 1) := dk_42 (dk_at dksX13_clear_0 16 rfl rfl)
theorem dX13_clear_17 : decode cX13_clear 17 = .ok (.getfield 21, 3) := dk_180 0 21 (dk_at dksX13_clear_0 17 rfl rfl)
theorem dX13_clear_20 : decode cX13_clear 20 = .ok (.bipush 8, 2) := dk_16 8 (dk_at dksX13_clear_0 20 rfl rfl)
theorem dX13_clear_22 : decode cX13_clear 22 = .ok (.iload_n 1, 1) := dk_27 (dk_at dksX13_clear_0 22 rfl rfl)
theorem dX13_clear_23 : decode cX13_clear 23 = .ok (.imul, 1) := dk_104 (dk_at dksX13_clear_0 23 rfl rfl)
theorem dX13_clear_24 : decode cX13_clear 24 = .ok (.iload_n 2, 1) := dk_28 (dk_at dksX13_clear_1 0 rfl rfl)
theorem dX13_clear_25 : decode cX13_clear 25 = .ok (.iadd, 1) := dk_96 (dk_at dksX13_clear_1 1 rfl rfl)
theorem dX13_clear_26 : decode cX13_clear 26 = .ok (.iaload, 1) := dk_46 (dk_at dksX13_clear_1 2 rfl rfl)
theorem dX13_clear_27 : decode cX13_clear 27 = .ok (.goto 4, 3) := dk_167 0 4 (dk_at dksX13_clear_1 3 rfl rfl)
theorem dX13_clear_30 : decode cX13_clear 30 = .ok (.iconst (-1), 1) := dk_2 (dk_at dksX13_clear_1 6 rfl rfl)
theorem dX13_clear_31 : decode cX13_clear 31 = .ok (.ireturn, 1) := dk_172 (dk_at dksX13_clear_1 7 rfl rfl)
abbrev cX13_narrow : ByteArray := prog_22_method_66_code
def yX13_narrow : MethodName := ⟨RX13, "narrow", "(II)I"⟩
def dkwX13_narrow_1 : List UInt8 := [28, 96, 46, 167, 0, 4, 2, 172]
abbrev dktX13_narrow_1 : List UInt8 := dkwX13_narrow_1 ++ []
def dkwX13_narrow_0 : List UInt8 := [42, 27, 182, 0, 96, 153, 0, 25, 42, 28, 182, 0, 96, 153, 0, 17, 42, 180, 0, 24, 16, 8, 27, 104]
abbrev dktX13_narrow_0 : List UInt8 := dkwX13_narrow_0 ++ dktX13_narrow_1
theorem dksX13_narrow_0 : cX13_narrow.data.toList.drop 0 = dktX13_narrow_0 := by decide +kernel
theorem dksX13_narrow_1 : cX13_narrow.data.toList.drop 24 = dktX13_narrow_1 := dk_seg dksX13_narrow_0 24 rfl rfl
theorem dX13_narrow_0 : decode cX13_narrow 0 = .ok (.aload_n 0, 1) := dk_42 (dk_at dksX13_narrow_0 0 rfl rfl)
theorem dX13_narrow_1 : decode cX13_narrow 1 = .ok (.iload_n 1, 1) := dk_27 (dk_at dksX13_narrow_0 1 rfl rfl)
theorem dX13_narrow_2 : decode cX13_narrow 2 = .ok (.invokevirtual 96, 3) := dk_182 0 96 (dk_at dksX13_narrow_0 2 rfl rfl)
theorem dX13_narrow_5 : decode cX13_narrow 5 = .ok (.ifCond .eq 25, 3) := dk_153 0 25 (dk_at dksX13_narrow_0 5 rfl rfl)
theorem dX13_narrow_8 : decode cX13_narrow 8 = .ok (.aload_n 0, 1) := dk_42 (dk_at dksX13_narrow_0 8 rfl rfl)
theorem dX13_narrow_9 : decode cX13_narrow 9 = .ok (.iload_n 2, 1) := dk_28 (dk_at dksX13_narrow_0 9 rfl rfl)
theorem dX13_narrow_10 : decode cX13_narrow 10 = .ok (.invokevirtual 96, 3) := dk_182 0 96 (dk_at dksX13_narrow_0 10 rfl rfl)
theorem dX13_narrow_13 : decode cX13_narrow 13 = .ok (.ifCond .eq 17, 3) := dk_153 0 17 (dk_at dksX13_narrow_0 13 rfl rfl)
theorem dX13_narrow_16 : decode cX13_narrow 16 = .ok (.aload_n 0, 1) := dk_42 (dk_at dksX13_narrow_0 16 rfl rfl)
theorem dX13_narrow_17 : decode cX13_narrow 17 = .ok (.getfield 24, 3) := dk_180 0 24 (dk_at dksX13_narrow_0 17 rfl rfl)
theorem dX13_narrow_20 : decode cX13_narrow 20 = .ok (.bipush 8, 2) := dk_16 8 (dk_at dksX13_narrow_0 20 rfl rfl)
theorem dX13_narrow_22 : decode cX13_narrow 22 = .ok (.iload_n 1, 1) := dk_27 (dk_at dksX13_narrow_0 22 rfl rfl)
theorem dX13_narrow_23 : decode cX13_narrow 23 = .ok (.imul, 1) := dk_104 (dk_at dksX13_narrow_0 23 rfl rfl)
theorem dX13_narrow_24 : decode cX13_narrow 24 = .ok (.iload_n 2, 1) := dk_28 (dk_at dksX13_narrow_1 0 rfl rfl)
theorem dX13_narrow_25 : decode cX13_narrow 25 = .ok (.iadd, 1) := dk_96 (dk_at dksX13_narrow_1 1 rfl rfl)
theorem dX13_narrow_26 : decode cX13_narrow 26 = .ok (.iaload, 1) := dk_46 (dk_at dksX13_narrow_1 2 rfl rfl)
theorem dX13_narrow_27 : decode cX13_narrow 27 = .ok (.goto 4, 3) := dk_167 0 4 (dk_at dksX13_narrow_1 3 rfl rfl)
theorem dX13_narrow_30 : decode cX13_narrow 30 = .ok (.iconst (-1), 1) := dk_2 (dk_at dksX13_narrow_1 6 rfl rfl)
theorem dX13_narrow_31 : decode cX13_narrow 31 = .ok (.ireturn, 1) := dk_172 (dk_at dksX13_narrow_1 7 rfl rfl)
abbrev cX13_table : ByteArray := prog_22_method_67_code
def yX13_table : MethodName := ⟨RX13, "table", "(I)I"⟩
def dkwX13_table_7 : List UInt8 := [167, 0, 19, 42, 180, 0, 11, 16, 14, 46, 4, 96, 29, 21, 5, 96, 4, 96, 104, 172]
abbrev dktX13_table_7 : List UInt8 := dkwX13_table_7 ++ []
def dkwX13_table_6 : List UInt8 := [27, 154, 0, 7, 28, 167, 0, 38, 27, 4, 160, 0, 7, 29, 167, 0, 29, 27, 5, 160, 0, 8, 21, 4]
abbrev dktX13_table_6 : List UInt8 := dkwX13_table_6 ++ dktX13_table_7
def dkwX13_table_5 : List UInt8 := [16, 8, 21, 6, 104, 21, 7, 96, 46, 96, 54, 4, 132, 7, 1, 167, 255, 176, 132, 6, 1, 167, 255, 141]
abbrev dktX13_table_5 : List UInt8 := dkwX13_table_5 ++ dktX13_table_6
def dkwX13_table_4 : List UInt8 := [29, 42, 180, 0, 21, 16, 8, 21, 6, 104, 21, 7, 96, 46, 184, 0, 73, 62, 21, 4, 42, 180, 0, 21]
abbrev dktX13_table_4 : List UInt8 := dkwX13_table_4 ++ dktX13_table_5
def dkwX13_table_3 : List UInt8 := [182, 0, 81, 154, 0, 6, 167, 0, 54, 28, 21, 6, 21, 7, 162, 0, 7, 4, 167, 0, 4, 3, 96, 61]
abbrev dktX13_table_3 : List UInt8 := dkwX13_table_3 ++ dktX13_table_4
def dkwX13_table_2 : List UInt8 := [54, 5, 3, 54, 7, 21, 7, 42, 180, 0, 11, 16, 13, 46, 162, 0, 74, 42, 21, 6, 21, 7]
abbrev dktX13_table_2 : List UInt8 := dkwX13_table_2 ++ dktX13_table_3
def dkwX13_table_1 : List UInt8 := [21, 6, 42, 180, 0, 11, 16, 13, 46, 162, 0, 109, 21, 5, 42, 21, 6, 5, 182, 0, 56, 184, 0, 73]
abbrev dktX13_table_1 : List UInt8 := dkwX13_table_1 ++ dktX13_table_2
def dkwX13_table_0 : List UInt8 := [27, 3, 6, 184, 0, 49, 154, 0, 5, 2, 172, 3, 61, 3, 62, 3, 54, 4, 3, 54, 5, 3, 54, 6]
abbrev dktX13_table_0 : List UInt8 := dkwX13_table_0 ++ dktX13_table_1
theorem dksX13_table_0 : cX13_table.data.toList.drop 0 = dktX13_table_0 := by decide +kernel
theorem dksX13_table_1 : cX13_table.data.toList.drop 24 = dktX13_table_1 := dk_seg dksX13_table_0 24 rfl rfl
theorem dksX13_table_2 : cX13_table.data.toList.drop 48 = dktX13_table_2 := dk_seg dksX13_table_1 24 rfl rfl
theorem dksX13_table_3 : cX13_table.data.toList.drop 70 = dktX13_table_3 := dk_seg dksX13_table_2 22 rfl rfl
theorem dksX13_table_4 : cX13_table.data.toList.drop 94 = dktX13_table_4 := dk_seg dksX13_table_3 24 rfl rfl
theorem dksX13_table_5 : cX13_table.data.toList.drop 118 = dktX13_table_5 := dk_seg dksX13_table_4 24 rfl rfl
theorem dksX13_table_6 : cX13_table.data.toList.drop 142 = dktX13_table_6 := dk_seg dksX13_table_5 24 rfl rfl
theorem dksX13_table_7 : cX13_table.data.toList.drop 166 = dktX13_table_7 := dk_seg dksX13_table_6 24 rfl rfl
theorem dX13_table_0 : decode cX13_table 0 = .ok (.iload_n 1, 1) := dk_27 (dk_at dksX13_table_0 0 rfl rfl)
theorem dX13_table_1 : decode cX13_table 1 = .ok (.iconst 0, 1) := dk_3 (dk_at dksX13_table_0 1 rfl rfl)
theorem dX13_table_2 : decode cX13_table 2 = .ok (.iconst 3, 1) := dk_6 (dk_at dksX13_table_0 2 rfl rfl)
theorem dX13_table_3 : decode cX13_table 3 = .ok (.invokestatic 49, 3) := dk_184 0 49 (dk_at dksX13_table_0 3 rfl rfl)
theorem dX13_table_6 : decode cX13_table 6 = .ok (.ifCond .ne 5, 3) := dk_154 0 5 (dk_at dksX13_table_0 6 rfl rfl)
theorem dX13_table_9 : decode cX13_table 9 = .ok (.iconst (-1), 1) := dk_2 (dk_at dksX13_table_0 9 rfl rfl)
theorem dX13_table_10 : decode cX13_table 10 = .ok (.ireturn, 1) := dk_172 (dk_at dksX13_table_0 10 rfl rfl)
theorem dX13_table_11 : decode cX13_table 11 = .ok (.iconst 0, 1) := dk_3 (dk_at dksX13_table_0 11 rfl rfl)
theorem dX13_table_12 : decode cX13_table 12 = .ok (.istore_n 2, 1) := dk_61 (dk_at dksX13_table_0 12 rfl rfl)
theorem dX13_table_13 : decode cX13_table 13 = .ok (.iconst 0, 1) := dk_3 (dk_at dksX13_table_0 13 rfl rfl)
theorem dX13_table_14 : decode cX13_table 14 = .ok (.istore_n 3, 1) := dk_62 (dk_at dksX13_table_0 14 rfl rfl)
theorem dX13_table_15 : decode cX13_table 15 = .ok (.iconst 0, 1) := dk_3 (dk_at dksX13_table_0 15 rfl rfl)
theorem dX13_table_16 : decode cX13_table 16 = .ok (.istore 4, 2) := dk_54 4 (dk_at dksX13_table_0 16 rfl rfl)
theorem dX13_table_18 : decode cX13_table 18 = .ok (.iconst 0, 1) := dk_3 (dk_at dksX13_table_0 18 rfl rfl)
theorem dX13_table_19 : decode cX13_table 19 = .ok (.istore 5, 2) := dk_54 5 (dk_at dksX13_table_0 19 rfl rfl)
theorem dX13_table_21 : decode cX13_table 21 = .ok (.iconst 0, 1) := dk_3 (dk_at dksX13_table_0 21 rfl rfl)
theorem dX13_table_22 : decode cX13_table 22 = .ok (.istore 6, 2) := dk_54 6 (dk_at dksX13_table_0 22 rfl rfl)
theorem dX13_table_24 : decode cX13_table 24 = .ok (.iload 6, 2) := dk_21 6 (dk_at dksX13_table_1 0 rfl rfl)
theorem dX13_table_26 : decode cX13_table 26 = .ok (.aload_n 0, 1) := dk_42 (dk_at dksX13_table_1 2 rfl rfl)
theorem dX13_table_27 : decode cX13_table 27 = .ok (.getfield 11, 3) := dk_180 0 11 (dk_at dksX13_table_1 3 rfl rfl)
theorem dX13_table_30 : decode cX13_table 30 = .ok (.bipush 13, 2) := dk_16 13 (dk_at dksX13_table_1 6 rfl rfl)
theorem dX13_table_32 : decode cX13_table 32 = .ok (.iaload, 1) := dk_46 (dk_at dksX13_table_1 8 rfl rfl)
theorem dX13_table_33 : decode cX13_table 33 = .ok (.if_icmp .ge 109, 3) := dk_162 0 109 (dk_at dksX13_table_1 9 rfl rfl)
theorem dX13_table_36 : decode cX13_table 36 = .ok (.iload 5, 2) := dk_21 5 (dk_at dksX13_table_1 12 rfl rfl)
theorem dX13_table_38 : decode cX13_table 38 = .ok (.aload_n 0, 1) := dk_42 (dk_at dksX13_table_1 14 rfl rfl)
theorem dX13_table_39 : decode cX13_table 39 = .ok (.iload 6, 2) := dk_21 6 (dk_at dksX13_table_1 15 rfl rfl)
theorem dX13_table_41 : decode cX13_table 41 = .ok (.iconst 2, 1) := dk_5 (dk_at dksX13_table_1 17 rfl rfl)
theorem dX13_table_42 : decode cX13_table 42 = .ok (.invokevirtual 56, 3) := dk_182 0 56 (dk_at dksX13_table_1 18 rfl rfl)
theorem dX13_table_45 : decode cX13_table 45 = .ok (.invokestatic 73, 3) := dk_184 0 73 (dk_at dksX13_table_1 21 rfl rfl)
theorem dX13_table_48 : decode cX13_table 48 = .ok (.istore 5, 2) := dk_54 5 (dk_at dksX13_table_2 0 rfl rfl)
theorem dX13_table_50 : decode cX13_table 50 = .ok (.iconst 0, 1) := dk_3 (dk_at dksX13_table_2 2 rfl rfl)
theorem dX13_table_51 : decode cX13_table 51 = .ok (.istore 7, 2) := dk_54 7 (dk_at dksX13_table_2 3 rfl rfl)
theorem dX13_table_53 : decode cX13_table 53 = .ok (.iload 7, 2) := dk_21 7 (dk_at dksX13_table_2 5 rfl rfl)
theorem dX13_table_55 : decode cX13_table 55 = .ok (.aload_n 0, 1) := dk_42 (dk_at dksX13_table_2 7 rfl rfl)
theorem dX13_table_56 : decode cX13_table 56 = .ok (.getfield 11, 3) := dk_180 0 11 (dk_at dksX13_table_2 8 rfl rfl)
theorem dX13_table_59 : decode cX13_table 59 = .ok (.bipush 13, 2) := dk_16 13 (dk_at dksX13_table_2 11 rfl rfl)
theorem dX13_table_61 : decode cX13_table 61 = .ok (.iaload, 1) := dk_46 (dk_at dksX13_table_2 13 rfl rfl)
theorem dX13_table_62 : decode cX13_table 62 = .ok (.if_icmp .ge 74, 3) := dk_162 0 74 (dk_at dksX13_table_2 14 rfl rfl)
theorem dX13_table_65 : decode cX13_table 65 = .ok (.aload_n 0, 1) := dk_42 (dk_at dksX13_table_2 17 rfl rfl)
theorem dX13_table_66 : decode cX13_table 66 = .ok (.iload 6, 2) := dk_21 6 (dk_at dksX13_table_2 18 rfl rfl)
theorem dX13_table_68 : decode cX13_table 68 = .ok (.iload 7, 2) := dk_21 7 (dk_at dksX13_table_2 20 rfl rfl)
theorem dX13_table_70 : decode cX13_table 70 = .ok (.invokevirtual 81, 3) := dk_182 0 81 (dk_at dksX13_table_3 0 rfl rfl)
theorem dX13_table_73 : decode cX13_table 73 = .ok (.ifCond .ne 6, 3) := dk_154 0 6 (dk_at dksX13_table_3 3 rfl rfl)
theorem dX13_table_76 : decode cX13_table 76 = .ok (.goto 54, 3) := dk_167 0 54 (dk_at dksX13_table_3 6 rfl rfl)
theorem dX13_table_79 : decode cX13_table 79 = .ok (.iload_n 2, 1) := dk_28 (dk_at dksX13_table_3 9 rfl rfl)
theorem dX13_table_80 : decode cX13_table 80 = .ok (.iload 6, 2) := dk_21 6 (dk_at dksX13_table_3 10 rfl rfl)
theorem dX13_table_82 : decode cX13_table 82 = .ok (.iload 7, 2) := dk_21 7 (dk_at dksX13_table_3 12 rfl rfl)
theorem dX13_table_84 : decode cX13_table 84 = .ok (.if_icmp .ge 7, 3) := dk_162 0 7 (dk_at dksX13_table_3 14 rfl rfl)
theorem dX13_table_87 : decode cX13_table 87 = .ok (.iconst 1, 1) := dk_4 (dk_at dksX13_table_3 17 rfl rfl)
theorem dX13_table_88 : decode cX13_table 88 = .ok (.goto 4, 3) := dk_167 0 4 (dk_at dksX13_table_3 18 rfl rfl)
theorem dX13_table_91 : decode cX13_table 91 = .ok (.iconst 0, 1) := dk_3 (dk_at dksX13_table_3 21 rfl rfl)
theorem dX13_table_92 : decode cX13_table 92 = .ok (.iadd, 1) := dk_96 (dk_at dksX13_table_3 22 rfl rfl)
theorem dX13_table_93 : decode cX13_table 93 = .ok (.istore_n 2, 1) := dk_61 (dk_at dksX13_table_3 23 rfl rfl)
theorem dX13_table_94 : decode cX13_table 94 = .ok (.iload_n 3, 1) := dk_29 (dk_at dksX13_table_4 0 rfl rfl)
theorem dX13_table_95 : decode cX13_table 95 = .ok (.aload_n 0, 1) := dk_42 (dk_at dksX13_table_4 1 rfl rfl)
theorem dX13_table_96 : decode cX13_table 96 = .ok (.getfield 21, 3) := dk_180 0 21 (dk_at dksX13_table_4 2 rfl rfl)
theorem dX13_table_99 : decode cX13_table 99 = .ok (.bipush 8, 2) := dk_16 8 (dk_at dksX13_table_4 5 rfl rfl)
theorem dX13_table_101 : decode cX13_table 101 = .ok (.iload 6, 2) := dk_21 6 (dk_at dksX13_table_4 7 rfl rfl)
theorem dX13_table_103 : decode cX13_table 103 = .ok (.imul, 1) := dk_104 (dk_at dksX13_table_4 9 rfl rfl)
theorem dX13_table_104 : decode cX13_table 104 = .ok (.iload 7, 2) := dk_21 7 (dk_at dksX13_table_4 10 rfl rfl)
theorem dX13_table_106 : decode cX13_table 106 = .ok (.iadd, 1) := dk_96 (dk_at dksX13_table_4 12 rfl rfl)
theorem dX13_table_107 : decode cX13_table 107 = .ok (.iaload, 1) := dk_46 (dk_at dksX13_table_4 13 rfl rfl)
theorem dX13_table_108 : decode cX13_table 108 = .ok (.invokestatic 73, 3) := dk_184 0 73 (dk_at dksX13_table_4 14 rfl rfl)
theorem dX13_table_111 : decode cX13_table 111 = .ok (.istore_n 3, 1) := dk_62 (dk_at dksX13_table_4 17 rfl rfl)
theorem dX13_table_112 : decode cX13_table 112 = .ok (.iload 4, 2) := dk_21 4 (dk_at dksX13_table_4 18 rfl rfl)
theorem dX13_table_114 : decode cX13_table 114 = .ok (.aload_n 0, 1) := dk_42 (dk_at dksX13_table_4 20 rfl rfl)
theorem dX13_table_115 : decode cX13_table 115 = .ok (.getfield 21, 3) := dk_180 0 21 (dk_at dksX13_table_4 21 rfl rfl)
theorem dX13_table_118 : decode cX13_table 118 = .ok (.bipush 8, 2) := dk_16 8 (dk_at dksX13_table_5 0 rfl rfl)
theorem dX13_table_120 : decode cX13_table 120 = .ok (.iload 6, 2) := dk_21 6 (dk_at dksX13_table_5 2 rfl rfl)
theorem dX13_table_122 : decode cX13_table 122 = .ok (.imul, 1) := dk_104 (dk_at dksX13_table_5 4 rfl rfl)
theorem dX13_table_123 : decode cX13_table 123 = .ok (.iload 7, 2) := dk_21 7 (dk_at dksX13_table_5 5 rfl rfl)
theorem dX13_table_125 : decode cX13_table 125 = .ok (.iadd, 1) := dk_96 (dk_at dksX13_table_5 7 rfl rfl)
theorem dX13_table_126 : decode cX13_table 126 = .ok (.iaload, 1) := dk_46 (dk_at dksX13_table_5 8 rfl rfl)
theorem dX13_table_127 : decode cX13_table 127 = .ok (.iadd, 1) := dk_96 (dk_at dksX13_table_5 9 rfl rfl)
theorem dX13_table_128 : decode cX13_table 128 = .ok (.istore 4, 2) := dk_54 4 (dk_at dksX13_table_5 10 rfl rfl)
theorem dX13_table_130 : decode cX13_table 130 = .ok (.iinc 7 1, 3) := dk_132 7 1 (dk_at dksX13_table_5 12 rfl rfl)
theorem dX13_table_133 : decode cX13_table 133 = .ok (.goto (-80), 3) := dk_167 255 176 (dk_at dksX13_table_5 15 rfl rfl)
theorem dX13_table_136 : decode cX13_table 136 = .ok (.iinc 6 1, 3) := dk_132 6 1 (dk_at dksX13_table_5 18 rfl rfl)
theorem dX13_table_139 : decode cX13_table 139 = .ok (.goto (-115), 3) := dk_167 255 141 (dk_at dksX13_table_5 21 rfl rfl)
theorem dX13_table_142 : decode cX13_table 142 = .ok (.iload_n 1, 1) := dk_27 (dk_at dksX13_table_6 0 rfl rfl)
theorem dX13_table_143 : decode cX13_table 143 = .ok (.ifCond .ne 7, 3) := dk_154 0 7 (dk_at dksX13_table_6 1 rfl rfl)
theorem dX13_table_146 : decode cX13_table 146 = .ok (.iload_n 2, 1) := dk_28 (dk_at dksX13_table_6 4 rfl rfl)
theorem dX13_table_147 : decode cX13_table 147 = .ok (.goto 38, 3) := dk_167 0 38 (dk_at dksX13_table_6 5 rfl rfl)
theorem dX13_table_150 : decode cX13_table 150 = .ok (.iload_n 1, 1) := dk_27 (dk_at dksX13_table_6 8 rfl rfl)
theorem dX13_table_151 : decode cX13_table 151 = .ok (.iconst 1, 1) := dk_4 (dk_at dksX13_table_6 9 rfl rfl)
theorem dX13_table_152 : decode cX13_table 152 = .ok (.if_icmp .ne 7, 3) := dk_160 0 7 (dk_at dksX13_table_6 10 rfl rfl)
theorem dX13_table_155 : decode cX13_table 155 = .ok (.iload_n 3, 1) := dk_29 (dk_at dksX13_table_6 13 rfl rfl)
theorem dX13_table_156 : decode cX13_table 156 = .ok (.goto 29, 3) := dk_167 0 29 (dk_at dksX13_table_6 14 rfl rfl)
theorem dX13_table_159 : decode cX13_table 159 = .ok (.iload_n 1, 1) := dk_27 (dk_at dksX13_table_6 17 rfl rfl)
theorem dX13_table_160 : decode cX13_table 160 = .ok (.iconst 2, 1) := dk_5 (dk_at dksX13_table_6 18 rfl rfl)
theorem dX13_table_161 : decode cX13_table 161 = .ok (.if_icmp .ne 8, 3) := dk_160 0 8 (dk_at dksX13_table_6 19 rfl rfl)
theorem dX13_table_164 : decode cX13_table 164 = .ok (.iload 4, 2) := dk_21 4 (dk_at dksX13_table_6 22 rfl rfl)
theorem dX13_table_166 : decode cX13_table 166 = .ok (.goto 19, 3) := dk_167 0 19 (dk_at dksX13_table_7 0 rfl rfl)
theorem dX13_table_169 : decode cX13_table 169 = .ok (.aload_n 0, 1) := dk_42 (dk_at dksX13_table_7 3 rfl rfl)
theorem dX13_table_170 : decode cX13_table 170 = .ok (.getfield 11, 3) := dk_180 0 11 (dk_at dksX13_table_7 4 rfl rfl)
theorem dX13_table_173 : decode cX13_table 173 = .ok (.bipush 14, 2) := dk_16 14 (dk_at dksX13_table_7 7 rfl rfl)
theorem dX13_table_175 : decode cX13_table 175 = .ok (.iaload, 1) := dk_46 (dk_at dksX13_table_7 9 rfl rfl)
theorem dX13_table_176 : decode cX13_table 176 = .ok (.iconst 1, 1) := dk_4 (dk_at dksX13_table_7 10 rfl rfl)
theorem dX13_table_177 : decode cX13_table 177 = .ok (.iadd, 1) := dk_96 (dk_at dksX13_table_7 11 rfl rfl)
theorem dX13_table_178 : decode cX13_table 178 = .ok (.iload_n 3, 1) := dk_29 (dk_at dksX13_table_7 12 rfl rfl)
theorem dX13_table_179 : decode cX13_table 179 = .ok (.iload 5, 2) := dk_21 5 (dk_at dksX13_table_7 13 rfl rfl)
theorem dX13_table_181 : decode cX13_table 181 = .ok (.iadd, 1) := dk_96 (dk_at dksX13_table_7 15 rfl rfl)
theorem dX13_table_182 : decode cX13_table 182 = .ok (.iconst 1, 1) := dk_4 (dk_at dksX13_table_7 16 rfl rfl)
theorem dX13_table_183 : decode cX13_table 183 = .ok (.iadd, 1) := dk_96 (dk_at dksX13_table_7 17 rfl rfl)
theorem dX13_table_184 : decode cX13_table 184 = .ok (.imul, 1) := dk_104 (dk_at dksX13_table_7 18 rfl rfl)
theorem dX13_table_185 : decode cX13_table 185 = .ok (.ireturn, 1) := dk_172 (dk_at dksX13_table_7 19 rfl rfl)
abbrev cX13_phaseOf : ByteArray := prog_22_method_68_code
def yX13_phaseOf : MethodName := ⟨RX13, "phaseOf", "(II)I"⟩
def dkwX13_phaseOf_2 : List UInt8 := [153, 0, 7, 4, 167, 0, 4, 3, 172]
abbrev dktX13_phaseOf_2 : List UInt8 := dkwX13_phaseOf_2 ++ []
def dkwX13_phaseOf_1 : List UInt8 := [42, 180, 0, 11, 17, 0, 216, 6, 27, 104, 96, 28, 96, 46, 167, 0, 16, 42, 27, 182, 0, 154]
abbrev dktX13_phaseOf_1 : List UInt8 := dkwX13_phaseOf_1 ++ dktX13_phaseOf_2
def dkwX13_phaseOf_0 : List UInt8 := [42, 27, 182, 0, 215, 153, 0, 12, 28, 3, 6, 184, 0, 49, 154, 0, 5, 2, 172, 28, 6, 162, 0, 20]
abbrev dktX13_phaseOf_0 : List UInt8 := dkwX13_phaseOf_0 ++ dktX13_phaseOf_1
theorem dksX13_phaseOf_0 : cX13_phaseOf.data.toList.drop 0 = dktX13_phaseOf_0 := by decide +kernel
theorem dksX13_phaseOf_1 : cX13_phaseOf.data.toList.drop 24 = dktX13_phaseOf_1 := dk_seg dksX13_phaseOf_0 24 rfl rfl
theorem dksX13_phaseOf_2 : cX13_phaseOf.data.toList.drop 46 = dktX13_phaseOf_2 := dk_seg dksX13_phaseOf_1 22 rfl rfl
theorem dX13_phaseOf_0 : decode cX13_phaseOf 0 = .ok (.aload_n 0, 1) := dk_42 (dk_at dksX13_phaseOf_0 0 rfl rfl)
theorem dX13_phaseOf_1 : decode cX13_phaseOf 1 = .ok (.iload_n 1, 1) := dk_27 (dk_at dksX13_phaseOf_0 1 rfl rfl)
theorem dX13_phaseOf_2 : decode cX13_phaseOf 2 = .ok (.invokevirtual 215, 3) := dk_182 0 215 (dk_at dksX13_phaseOf_0 2 rfl rfl)
theorem dX13_phaseOf_5 : decode cX13_phaseOf 5 = .ok (.ifCond .eq 12, 3) := dk_153 0 12 (dk_at dksX13_phaseOf_0 5 rfl rfl)
theorem dX13_phaseOf_8 : decode cX13_phaseOf 8 = .ok (.iload_n 2, 1) := dk_28 (dk_at dksX13_phaseOf_0 8 rfl rfl)
theorem dX13_phaseOf_9 : decode cX13_phaseOf 9 = .ok (.iconst 0, 1) := dk_3 (dk_at dksX13_phaseOf_0 9 rfl rfl)
theorem dX13_phaseOf_10 : decode cX13_phaseOf 10 = .ok (.iconst 3, 1) := dk_6 (dk_at dksX13_phaseOf_0 10 rfl rfl)
theorem dX13_phaseOf_11 : decode cX13_phaseOf 11 = .ok (.invokestatic 49, 3) := dk_184 0 49 (dk_at dksX13_phaseOf_0 11 rfl rfl)
theorem dX13_phaseOf_14 : decode cX13_phaseOf 14 = .ok (.ifCond .ne 5, 3) := dk_154 0 5 (dk_at dksX13_phaseOf_0 14 rfl rfl)
theorem dX13_phaseOf_17 : decode cX13_phaseOf 17 = .ok (.iconst (-1), 1) := dk_2 (dk_at dksX13_phaseOf_0 17 rfl rfl)
theorem dX13_phaseOf_18 : decode cX13_phaseOf 18 = .ok (.ireturn, 1) := dk_172 (dk_at dksX13_phaseOf_0 18 rfl rfl)
theorem dX13_phaseOf_19 : decode cX13_phaseOf 19 = .ok (.iload_n 2, 1) := dk_28 (dk_at dksX13_phaseOf_0 19 rfl rfl)
theorem dX13_phaseOf_20 : decode cX13_phaseOf 20 = .ok (.iconst 3, 1) := dk_6 (dk_at dksX13_phaseOf_0 20 rfl rfl)
theorem dX13_phaseOf_21 : decode cX13_phaseOf 21 = .ok (.if_icmp .ge 20, 3) := dk_162 0 20 (dk_at dksX13_phaseOf_0 21 rfl rfl)
theorem dX13_phaseOf_24 : decode cX13_phaseOf 24 = .ok (.aload_n 0, 1) := dk_42 (dk_at dksX13_phaseOf_1 0 rfl rfl)
theorem dX13_phaseOf_25 : decode cX13_phaseOf 25 = .ok (.getfield 11, 3) := dk_180 0 11 (dk_at dksX13_phaseOf_1 1 rfl rfl)
theorem dX13_phaseOf_28 : decode cX13_phaseOf 28 = .ok (.sipush 216, 3) := dk_17 0 216 (dk_at dksX13_phaseOf_1 4 rfl rfl)
theorem dX13_phaseOf_31 : decode cX13_phaseOf 31 = .ok (.iconst 3, 1) := dk_6 (dk_at dksX13_phaseOf_1 7 rfl rfl)
theorem dX13_phaseOf_32 : decode cX13_phaseOf 32 = .ok (.iload_n 1, 1) := dk_27 (dk_at dksX13_phaseOf_1 8 rfl rfl)
theorem dX13_phaseOf_33 : decode cX13_phaseOf 33 = .ok (.imul, 1) := dk_104 (dk_at dksX13_phaseOf_1 9 rfl rfl)
theorem dX13_phaseOf_34 : decode cX13_phaseOf 34 = .ok (.iadd, 1) := dk_96 (dk_at dksX13_phaseOf_1 10 rfl rfl)
theorem dX13_phaseOf_35 : decode cX13_phaseOf 35 = .ok (.iload_n 2, 1) := dk_28 (dk_at dksX13_phaseOf_1 11 rfl rfl)
theorem dX13_phaseOf_36 : decode cX13_phaseOf 36 = .ok (.iadd, 1) := dk_96 (dk_at dksX13_phaseOf_1 12 rfl rfl)
theorem dX13_phaseOf_37 : decode cX13_phaseOf 37 = .ok (.iaload, 1) := dk_46 (dk_at dksX13_phaseOf_1 13 rfl rfl)
theorem dX13_phaseOf_38 : decode cX13_phaseOf 38 = .ok (.goto 16, 3) := dk_167 0 16 (dk_at dksX13_phaseOf_1 14 rfl rfl)
theorem dX13_phaseOf_41 : decode cX13_phaseOf 41 = .ok (.aload_n 0, 1) := dk_42 (dk_at dksX13_phaseOf_1 17 rfl rfl)
theorem dX13_phaseOf_42 : decode cX13_phaseOf 42 = .ok (.iload_n 1, 1) := dk_27 (dk_at dksX13_phaseOf_1 18 rfl rfl)
theorem dX13_phaseOf_43 : decode cX13_phaseOf 43 = .ok (.invokevirtual 154, 3) := dk_182 0 154 (dk_at dksX13_phaseOf_1 19 rfl rfl)
theorem dX13_phaseOf_46 : decode cX13_phaseOf 46 = .ok (.ifCond .eq 7, 3) := dk_153 0 7 (dk_at dksX13_phaseOf_2 0 rfl rfl)
theorem dX13_phaseOf_49 : decode cX13_phaseOf 49 = .ok (.iconst 1, 1) := dk_4 (dk_at dksX13_phaseOf_2 3 rfl rfl)
theorem dX13_phaseOf_50 : decode cX13_phaseOf 50 = .ok (.goto 4, 3) := dk_167 0 4 (dk_at dksX13_phaseOf_2 4 rfl rfl)
theorem dX13_phaseOf_53 : decode cX13_phaseOf 53 = .ok (.iconst 0, 1) := dk_3 (dk_at dksX13_phaseOf_2 7 rfl rfl)
theorem dX13_phaseOf_54 : decode cX13_phaseOf 54 = .ok (.ireturn, 1) := dk_172 (dk_at dksX13_phaseOf_2 8 rfl rfl)
abbrev cX13_isPhase : ByteArray := prog_22_method_5_code
def yX13_isPhase : MethodName := ⟨RX13, "isPhase", "(I)Z"⟩
def dkwX13_isPhase_0 : List UInt8 := [27, 3, 42, 180, 0, 11, 16, 14, 46, 4, 100, 184, 0, 49, 172]
abbrev dktX13_isPhase_0 : List UInt8 := dkwX13_isPhase_0 ++ []
theorem dksX13_isPhase_0 : cX13_isPhase.data.toList.drop 0 = dktX13_isPhase_0 := by decide +kernel
theorem dX13_isPhase_0 : decode cX13_isPhase 0 = .ok (.iload_n 1, 1) := dk_27 (dk_at dksX13_isPhase_0 0 rfl rfl)
theorem dX13_isPhase_1 : decode cX13_isPhase 1 = .ok (.iconst 0, 1) := dk_3 (dk_at dksX13_isPhase_0 1 rfl rfl)
theorem dX13_isPhase_2 : decode cX13_isPhase 2 = .ok (.aload_n 0, 1) := dk_42 (dk_at dksX13_isPhase_0 2 rfl rfl)
theorem dX13_isPhase_3 : decode cX13_isPhase 3 = .ok (.getfield 11, 3) := dk_180 0 11 (dk_at dksX13_isPhase_0 3 rfl rfl)
theorem dX13_isPhase_6 : decode cX13_isPhase 6 = .ok (.bipush 14, 2) := dk_16 14 (dk_at dksX13_isPhase_0 6 rfl rfl)
theorem dX13_isPhase_8 : decode cX13_isPhase 8 = .ok (.iaload, 1) := dk_46 (dk_at dksX13_isPhase_0 8 rfl rfl)
theorem dX13_isPhase_9 : decode cX13_isPhase 9 = .ok (.iconst 1, 1) := dk_4 (dk_at dksX13_isPhase_0 9 rfl rfl)
theorem dX13_isPhase_10 : decode cX13_isPhase 10 = .ok (.isub, 1) := dk_100 (dk_at dksX13_isPhase_0 10 rfl rfl)
theorem dX13_isPhase_11 : decode cX13_isPhase 11 = .ok (.invokestatic 49, 3) := dk_184 0 49 (dk_at dksX13_isPhase_0 11 rfl rfl)
theorem dX13_isPhase_14 : decode cX13_isPhase 14 = .ok (.ireturn, 1) := dk_172 (dk_at dksX13_isPhase_0 14 rfl rfl)
abbrev cX13_taken : ByteArray := prog_22_method_69_code
def yX13_taken : MethodName := ⟨RX13, "taken", "(II)I"⟩
def dkwX13_taken_3 : List UInt8 := [4, 160, 0, 7, 4, 167, 0, 4, 3, 54, 4, 21, 4, 153, 0, 7, 29, 167, 0, 5, 16, 244, 172]
abbrev dktX13_taken_3 : List UInt8 := dkwX13_taken_3 ++ []
def dkwX13_taken_2 : List UInt8 := [29, 153, 0, 27, 29, 5, 159, 0, 22, 28, 6, 160, 0, 7, 29, 153, 0, 13, 28, 7, 160, 0, 12, 29]
abbrev dktX13_taken_2 : List UInt8 := dkwX13_taken_2 ++ dktX13_taken_3
def dkwX13_taken_1 : List UInt8 := [3, 182, 0, 56, 62, 28, 153, 0, 46, 28, 4, 160, 0, 8, 29, 4, 160, 0, 36, 28, 5, 160, 0, 12]
abbrev dktX13_taken_1 : List UInt8 := dkwX13_taken_1 ++ dktX13_taken_2
def dkwX13_taken_0 : List UInt8 := [42, 27, 182, 0, 96, 154, 0, 5, 2, 172, 28, 3, 7, 184, 0, 49, 154, 0, 6, 16, 254, 172, 42, 27]
abbrev dktX13_taken_0 : List UInt8 := dkwX13_taken_0 ++ dktX13_taken_1
theorem dksX13_taken_0 : cX13_taken.data.toList.drop 0 = dktX13_taken_0 := by decide +kernel
theorem dksX13_taken_1 : cX13_taken.data.toList.drop 24 = dktX13_taken_1 := dk_seg dksX13_taken_0 24 rfl rfl
theorem dksX13_taken_2 : cX13_taken.data.toList.drop 48 = dktX13_taken_2 := dk_seg dksX13_taken_1 24 rfl rfl
theorem dksX13_taken_3 : cX13_taken.data.toList.drop 72 = dktX13_taken_3 := dk_seg dksX13_taken_2 24 rfl rfl
theorem dX13_taken_0 : decode cX13_taken 0 = .ok (.aload_n 0, 1) := dk_42 (dk_at dksX13_taken_0 0 rfl rfl)
theorem dX13_taken_1 : decode cX13_taken 1 = .ok (.iload_n 1, 1) := dk_27 (dk_at dksX13_taken_0 1 rfl rfl)
theorem dX13_taken_2 : decode cX13_taken 2 = .ok (.invokevirtual 96, 3) := dk_182 0 96 (dk_at dksX13_taken_0 2 rfl rfl)
theorem dX13_taken_5 : decode cX13_taken 5 = .ok (.ifCond .ne 5, 3) := dk_154 0 5 (dk_at dksX13_taken_0 5 rfl rfl)
theorem dX13_taken_8 : decode cX13_taken 8 = .ok (.iconst (-1), 1) := dk_2 (dk_at dksX13_taken_0 8 rfl rfl)
theorem dX13_taken_9 : decode cX13_taken 9 = .ok (.ireturn, 1) := dk_172 (dk_at dksX13_taken_0 9 rfl rfl)
theorem dX13_taken_10 : decode cX13_taken 10 = .ok (.iload_n 2, 1) := dk_28 (dk_at dksX13_taken_0 10 rfl rfl)
theorem dX13_taken_11 : decode cX13_taken 11 = .ok (.iconst 0, 1) := dk_3 (dk_at dksX13_taken_0 11 rfl rfl)
theorem dX13_taken_12 : decode cX13_taken 12 = .ok (.iconst 4, 1) := dk_7 (dk_at dksX13_taken_0 12 rfl rfl)
theorem dX13_taken_13 : decode cX13_taken 13 = .ok (.invokestatic 49, 3) := dk_184 0 49 (dk_at dksX13_taken_0 13 rfl rfl)
theorem dX13_taken_16 : decode cX13_taken 16 = .ok (.ifCond .ne 6, 3) := dk_154 0 6 (dk_at dksX13_taken_0 16 rfl rfl)
theorem dX13_taken_19 : decode cX13_taken 19 = .ok (.bipush (-2), 2) := dk_16 254 (dk_at dksX13_taken_0 19 rfl rfl)
theorem dX13_taken_21 : decode cX13_taken 21 = .ok (.ireturn, 1) := dk_172 (dk_at dksX13_taken_0 21 rfl rfl)
theorem dX13_taken_22 : decode cX13_taken 22 = .ok (.aload_n 0, 1) := dk_42 (dk_at dksX13_taken_0 22 rfl rfl)
theorem dX13_taken_23 : decode cX13_taken 23 = .ok (.iload_n 1, 1) := dk_27 (dk_at dksX13_taken_0 23 rfl rfl)
theorem dX13_taken_24 : decode cX13_taken 24 = .ok (.iconst 0, 1) := dk_3 (dk_at dksX13_taken_1 0 rfl rfl)
theorem dX13_taken_25 : decode cX13_taken 25 = .ok (.invokevirtual 56, 3) := dk_182 0 56 (dk_at dksX13_taken_1 1 rfl rfl)
theorem dX13_taken_28 : decode cX13_taken 28 = .ok (.istore_n 3, 1) := dk_62 (dk_at dksX13_taken_1 4 rfl rfl)
theorem dX13_taken_29 : decode cX13_taken 29 = .ok (.iload_n 2, 1) := dk_28 (dk_at dksX13_taken_1 5 rfl rfl)
theorem dX13_taken_30 : decode cX13_taken 30 = .ok (.ifCond .eq 46, 3) := dk_153 0 46 (dk_at dksX13_taken_1 6 rfl rfl)
theorem dX13_taken_33 : decode cX13_taken 33 = .ok (.iload_n 2, 1) := dk_28 (dk_at dksX13_taken_1 9 rfl rfl)
theorem dX13_taken_34 : decode cX13_taken 34 = .ok (.iconst 1, 1) := dk_4 (dk_at dksX13_taken_1 10 rfl rfl)
theorem dX13_taken_35 : decode cX13_taken 35 = .ok (.if_icmp .ne 8, 3) := dk_160 0 8 (dk_at dksX13_taken_1 11 rfl rfl)
theorem dX13_taken_38 : decode cX13_taken 38 = .ok (.iload_n 3, 1) := dk_29 (dk_at dksX13_taken_1 14 rfl rfl)
theorem dX13_taken_39 : decode cX13_taken 39 = .ok (.iconst 1, 1) := dk_4 (dk_at dksX13_taken_1 15 rfl rfl)
theorem dX13_taken_40 : decode cX13_taken 40 = .ok (.if_icmp .ne 36, 3) := dk_160 0 36 (dk_at dksX13_taken_1 16 rfl rfl)
theorem dX13_taken_43 : decode cX13_taken 43 = .ok (.iload_n 2, 1) := dk_28 (dk_at dksX13_taken_1 19 rfl rfl)
theorem dX13_taken_44 : decode cX13_taken 44 = .ok (.iconst 2, 1) := dk_5 (dk_at dksX13_taken_1 20 rfl rfl)
theorem dX13_taken_45 : decode cX13_taken 45 = .ok (.if_icmp .ne 12, 3) := dk_160 0 12 (dk_at dksX13_taken_1 21 rfl rfl)
theorem dX13_taken_48 : decode cX13_taken 48 = .ok (.iload_n 3, 1) := dk_29 (dk_at dksX13_taken_2 0 rfl rfl)
theorem dX13_taken_49 : decode cX13_taken 49 = .ok (.ifCond .eq 27, 3) := dk_153 0 27 (dk_at dksX13_taken_2 1 rfl rfl)
theorem dX13_taken_52 : decode cX13_taken 52 = .ok (.iload_n 3, 1) := dk_29 (dk_at dksX13_taken_2 4 rfl rfl)
theorem dX13_taken_53 : decode cX13_taken 53 = .ok (.iconst 2, 1) := dk_5 (dk_at dksX13_taken_2 5 rfl rfl)
theorem dX13_taken_54 : decode cX13_taken 54 = .ok (.if_icmp .eq 22, 3) := dk_159 0 22 (dk_at dksX13_taken_2 6 rfl rfl)
theorem dX13_taken_57 : decode cX13_taken 57 = .ok (.iload_n 2, 1) := dk_28 (dk_at dksX13_taken_2 9 rfl rfl)
theorem dX13_taken_58 : decode cX13_taken 58 = .ok (.iconst 3, 1) := dk_6 (dk_at dksX13_taken_2 10 rfl rfl)
theorem dX13_taken_59 : decode cX13_taken 59 = .ok (.if_icmp .ne 7, 3) := dk_160 0 7 (dk_at dksX13_taken_2 11 rfl rfl)
theorem dX13_taken_62 : decode cX13_taken 62 = .ok (.iload_n 3, 1) := dk_29 (dk_at dksX13_taken_2 14 rfl rfl)
theorem dX13_taken_63 : decode cX13_taken 63 = .ok (.ifCond .eq 13, 3) := dk_153 0 13 (dk_at dksX13_taken_2 15 rfl rfl)
theorem dX13_taken_66 : decode cX13_taken 66 = .ok (.iload_n 2, 1) := dk_28 (dk_at dksX13_taken_2 18 rfl rfl)
theorem dX13_taken_67 : decode cX13_taken 67 = .ok (.iconst 4, 1) := dk_7 (dk_at dksX13_taken_2 19 rfl rfl)
theorem dX13_taken_68 : decode cX13_taken 68 = .ok (.if_icmp .ne 12, 3) := dk_160 0 12 (dk_at dksX13_taken_2 20 rfl rfl)
theorem dX13_taken_71 : decode cX13_taken 71 = .ok (.iload_n 3, 1) := dk_29 (dk_at dksX13_taken_2 23 rfl rfl)
theorem dX13_taken_72 : decode cX13_taken 72 = .ok (.iconst 1, 1) := dk_4 (dk_at dksX13_taken_3 0 rfl rfl)
theorem dX13_taken_73 : decode cX13_taken 73 = .ok (.if_icmp .ne 7, 3) := dk_160 0 7 (dk_at dksX13_taken_3 1 rfl rfl)
theorem dX13_taken_76 : decode cX13_taken 76 = .ok (.iconst 1, 1) := dk_4 (dk_at dksX13_taken_3 4 rfl rfl)
theorem dX13_taken_77 : decode cX13_taken 77 = .ok (.goto 4, 3) := dk_167 0 4 (dk_at dksX13_taken_3 5 rfl rfl)
theorem dX13_taken_80 : decode cX13_taken 80 = .ok (.iconst 0, 1) := dk_3 (dk_at dksX13_taken_3 8 rfl rfl)
theorem dX13_taken_81 : decode cX13_taken 81 = .ok (.istore 4, 2) := dk_54 4 (dk_at dksX13_taken_3 9 rfl rfl)
theorem dX13_taken_83 : decode cX13_taken 83 = .ok (.iload 4, 2) := dk_21 4 (dk_at dksX13_taken_3 11 rfl rfl)
theorem dX13_taken_85 : decode cX13_taken 85 = .ok (.ifCond .eq 7, 3) := dk_153 0 7 (dk_at dksX13_taken_3 13 rfl rfl)
theorem dX13_taken_88 : decode cX13_taken 88 = .ok (.iload_n 3, 1) := dk_29 (dk_at dksX13_taken_3 16 rfl rfl)
theorem dX13_taken_89 : decode cX13_taken 89 = .ok (.goto 5, 3) := dk_167 0 5 (dk_at dksX13_taken_3 17 rfl rfl)
theorem dX13_taken_92 : decode cX13_taken 92 = .ok (.bipush (-12), 2) := dk_16 244 (dk_at dksX13_taken_3 20 rfl rfl)
theorem dX13_taken_94 : decode cX13_taken 94 = .ok (.ireturn, 1) := dk_172 (dk_at dksX13_taken_3 22 rfl rfl)
abbrev cX13_recorded : ByteArray := prog_22_method_71_code
def yX13_recorded : MethodName := ⟨RX13, "recorded", "(II)I"⟩
def dkwX13_recorded_2 : List UInt8 := [167, 0, 5, 16, 254, 172]
abbrev dktX13_recorded_2 : List UInt8 := dkwX13_recorded_2 ++ []
def dkwX13_recorded_1 : List UInt8 := [184, 0, 49, 153, 0, 22, 42, 42, 180, 0, 11, 16, 15, 46, 4, 100, 27, 100, 28, 182, 0, 218]
abbrev dktX13_recorded_1 : List UInt8 := dkwX13_recorded_1 ++ dktX13_recorded_2
def dkwX13_recorded_0 : List UInt8 := [28, 3, 5, 184, 0, 49, 154, 0, 5, 2, 172, 27, 3, 42, 180, 0, 11, 16, 15, 46, 4, 100]
abbrev dktX13_recorded_0 : List UInt8 := dkwX13_recorded_0 ++ dktX13_recorded_1
theorem dksX13_recorded_0 : cX13_recorded.data.toList.drop 0 = dktX13_recorded_0 := by decide +kernel
theorem dksX13_recorded_1 : cX13_recorded.data.toList.drop 22 = dktX13_recorded_1 := dk_seg dksX13_recorded_0 22 rfl rfl
theorem dksX13_recorded_2 : cX13_recorded.data.toList.drop 44 = dktX13_recorded_2 := dk_seg dksX13_recorded_1 22 rfl rfl
theorem dX13_recorded_0 : decode cX13_recorded 0 = .ok (.iload_n 2, 1) := dk_28 (dk_at dksX13_recorded_0 0 rfl rfl)
theorem dX13_recorded_1 : decode cX13_recorded 1 = .ok (.iconst 0, 1) := dk_3 (dk_at dksX13_recorded_0 1 rfl rfl)
theorem dX13_recorded_2 : decode cX13_recorded 2 = .ok (.iconst 2, 1) := dk_5 (dk_at dksX13_recorded_0 2 rfl rfl)
theorem dX13_recorded_3 : decode cX13_recorded 3 = .ok (.invokestatic 49, 3) := dk_184 0 49 (dk_at dksX13_recorded_0 3 rfl rfl)
theorem dX13_recorded_6 : decode cX13_recorded 6 = .ok (.ifCond .ne 5, 3) := dk_154 0 5 (dk_at dksX13_recorded_0 6 rfl rfl)
theorem dX13_recorded_9 : decode cX13_recorded 9 = .ok (.iconst (-1), 1) := dk_2 (dk_at dksX13_recorded_0 9 rfl rfl)
theorem dX13_recorded_10 : decode cX13_recorded 10 = .ok (.ireturn, 1) := dk_172 (dk_at dksX13_recorded_0 10 rfl rfl)
theorem dX13_recorded_11 : decode cX13_recorded 11 = .ok (.iload_n 1, 1) := dk_27 (dk_at dksX13_recorded_0 11 rfl rfl)
theorem dX13_recorded_12 : decode cX13_recorded 12 = .ok (.iconst 0, 1) := dk_3 (dk_at dksX13_recorded_0 12 rfl rfl)
theorem dX13_recorded_13 : decode cX13_recorded 13 = .ok (.aload_n 0, 1) := dk_42 (dk_at dksX13_recorded_0 13 rfl rfl)
theorem dX13_recorded_14 : decode cX13_recorded 14 = .ok (.getfield 11, 3) := dk_180 0 11 (dk_at dksX13_recorded_0 14 rfl rfl)
theorem dX13_recorded_17 : decode cX13_recorded 17 = .ok (.bipush 15, 2) := dk_16 15 (dk_at dksX13_recorded_0 17 rfl rfl)
theorem dX13_recorded_19 : decode cX13_recorded 19 = .ok (.iaload, 1) := dk_46 (dk_at dksX13_recorded_0 19 rfl rfl)
theorem dX13_recorded_20 : decode cX13_recorded 20 = .ok (.iconst 1, 1) := dk_4 (dk_at dksX13_recorded_0 20 rfl rfl)
theorem dX13_recorded_21 : decode cX13_recorded 21 = .ok (.isub, 1) := dk_100 (dk_at dksX13_recorded_0 21 rfl rfl)
theorem dX13_recorded_22 : decode cX13_recorded 22 = .ok (.invokestatic 49, 3) := dk_184 0 49 (dk_at dksX13_recorded_1 0 rfl rfl)
theorem dX13_recorded_25 : decode cX13_recorded 25 = .ok (.ifCond .eq 22, 3) := dk_153 0 22 (dk_at dksX13_recorded_1 3 rfl rfl)
theorem dX13_recorded_28 : decode cX13_recorded 28 = .ok (.aload_n 0, 1) := dk_42 (dk_at dksX13_recorded_1 6 rfl rfl)
theorem dX13_recorded_29 : decode cX13_recorded 29 = .ok (.aload_n 0, 1) := dk_42 (dk_at dksX13_recorded_1 7 rfl rfl)
theorem dX13_recorded_30 : decode cX13_recorded 30 = .ok (.getfield 11, 3) := dk_180 0 11 (dk_at dksX13_recorded_1 8 rfl rfl)
theorem dX13_recorded_33 : decode cX13_recorded 33 = .ok (.bipush 15, 2) := dk_16 15 (dk_at dksX13_recorded_1 11 rfl rfl)
theorem dX13_recorded_35 : decode cX13_recorded 35 = .ok (.iaload, 1) := dk_46 (dk_at dksX13_recorded_1 13 rfl rfl)
theorem dX13_recorded_36 : decode cX13_recorded 36 = .ok (.iconst 1, 1) := dk_4 (dk_at dksX13_recorded_1 14 rfl rfl)
theorem dX13_recorded_37 : decode cX13_recorded 37 = .ok (.isub, 1) := dk_100 (dk_at dksX13_recorded_1 15 rfl rfl)
theorem dX13_recorded_38 : decode cX13_recorded 38 = .ok (.iload_n 1, 1) := dk_27 (dk_at dksX13_recorded_1 16 rfl rfl)
theorem dX13_recorded_39 : decode cX13_recorded 39 = .ok (.isub, 1) := dk_100 (dk_at dksX13_recorded_1 17 rfl rfl)
theorem dX13_recorded_40 : decode cX13_recorded 40 = .ok (.iload_n 2, 1) := dk_28 (dk_at dksX13_recorded_1 18 rfl rfl)
theorem dX13_recorded_41 : decode cX13_recorded 41 = .ok (.invokevirtual 218, 3) := dk_182 0 218 (dk_at dksX13_recorded_1 19 rfl rfl)
theorem dX13_recorded_44 : decode cX13_recorded 44 = .ok (.goto 5, 3) := dk_167 0 5 (dk_at dksX13_recorded_2 0 rfl rfl)
theorem dX13_recorded_47 : decode cX13_recorded 47 = .ok (.bipush (-2), 2) := dk_16 254 (dk_at dksX13_recorded_2 3 rfl rfl)
theorem dX13_recorded_49 : decode cX13_recorded 49 = .ok (.ireturn, 1) := dk_172 (dk_at dksX13_recorded_2 5 rfl rfl)
abbrev cX13_recordAt : ByteArray := prog_22_method_70_code
def yX13_recordAt : MethodName := ⟨RX13, "recordAt", "(II)I"⟩
def dkwX13_recordAt_0 : List UInt8 := [42, 180, 0, 11, 17, 0, 234, 6, 27, 104, 96, 28, 96, 46, 172]
abbrev dktX13_recordAt_0 : List UInt8 := dkwX13_recordAt_0 ++ []
theorem dksX13_recordAt_0 : cX13_recordAt.data.toList.drop 0 = dktX13_recordAt_0 := by decide +kernel
theorem dX13_recordAt_0 : decode cX13_recordAt 0 = .ok (.aload_n 0, 1) := dk_42 (dk_at dksX13_recordAt_0 0 rfl rfl)
theorem dX13_recordAt_1 : decode cX13_recordAt 1 = .ok (.getfield 11, 3) := dk_180 0 11 (dk_at dksX13_recordAt_0 1 rfl rfl)
theorem dX13_recordAt_4 : decode cX13_recordAt 4 = .ok (.sipush 234, 3) := dk_17 0 234 (dk_at dksX13_recordAt_0 4 rfl rfl)
theorem dX13_recordAt_7 : decode cX13_recordAt 7 = .ok (.iconst 3, 1) := dk_6 (dk_at dksX13_recordAt_0 7 rfl rfl)
theorem dX13_recordAt_8 : decode cX13_recordAt 8 = .ok (.iload_n 1, 1) := dk_27 (dk_at dksX13_recordAt_0 8 rfl rfl)
theorem dX13_recordAt_9 : decode cX13_recordAt 9 = .ok (.imul, 1) := dk_104 (dk_at dksX13_recordAt_0 9 rfl rfl)
theorem dX13_recordAt_10 : decode cX13_recordAt 10 = .ok (.iadd, 1) := dk_96 (dk_at dksX13_recordAt_0 10 rfl rfl)
theorem dX13_recordAt_11 : decode cX13_recordAt 11 = .ok (.iload_n 2, 1) := dk_28 (dk_at dksX13_recordAt_0 11 rfl rfl)
theorem dX13_recordAt_12 : decode cX13_recordAt 12 = .ok (.iadd, 1) := dk_96 (dk_at dksX13_recordAt_0 12 rfl rfl)
theorem dX13_recordAt_13 : decode cX13_recordAt 13 = .ok (.iaload, 1) := dk_46 (dk_at dksX13_recordAt_0 13 rfl rfl)
theorem dX13_recordAt_14 : decode cX13_recordAt 14 = .ok (.ireturn, 1) := dk_172 (dk_at dksX13_recordAt_0 14 rfl rfl)
abbrev cX13_greens : ByteArray := prog_22_method_72_code
def yX13_greens : MethodName := ⟨RX13, "greens", "(II)I"⟩
def dkwX13_greens_6 : List UInt8 := [160, 0, 8, 21, 5, 167, 0, 5, 21, 6, 172]
abbrev dktX13_greens_6 : List UInt8 := dkwX13_greens_6 ++ []
def dkwX13_greens_5 : List UInt8 := [167, 255, 172, 28, 154, 0, 7, 29, 167, 0, 25, 28, 4, 160, 0, 8, 21, 4, 167, 0, 15, 28, 5]
abbrev dktX13_greens_5 : List UInt8 := dkwX13_greens_5 ++ dktX13_greens_6
def dkwX13_greens_4 : List UInt8 := [167, 0, 10, 21, 5, 21, 8, 184, 0, 100, 54, 5, 21, 6, 21, 8, 184, 0, 73, 54, 6, 132, 7, 1]
abbrev dktX13_greens_4 : List UInt8 := dkwX13_greens_4 ++ dktX13_greens_5
def dkwX13_greens_3 : List UInt8 := [182, 0, 218, 100, 54, 8, 132, 3, 1, 21, 4, 21, 8, 96, 54, 4, 21, 5, 156, 0, 8, 21, 8]
abbrev dktX13_greens_3 : List UInt8 := dkwX13_greens_3 ++ dktX13_greens_4
def dkwX13_greens_2 : List UInt8 := [21, 7, 3, 182, 0, 218, 27, 159, 0, 6, 167, 0, 58, 42, 21, 7, 5, 182, 0, 218, 42, 21, 7, 4]
abbrev dktX13_greens_2 : List UInt8 := dkwX13_greens_2 ++ dktX13_greens_3
def dkwX13_greens_1 : List UInt8 := [16, 251, 54, 5, 16, 251, 54, 6, 3, 54, 7, 21, 7, 42, 180, 0, 11, 16, 15, 46, 162, 0, 78, 42]
abbrev dktX13_greens_1 : List UInt8 := dkwX13_greens_1 ++ dktX13_greens_2
def dkwX13_greens_0 : List UInt8 := [42, 27, 182, 0, 96, 153, 0, 12, 28, 3, 6, 184, 0, 49, 154, 0, 5, 2, 172, 3, 62, 3, 54, 4]
abbrev dktX13_greens_0 : List UInt8 := dkwX13_greens_0 ++ dktX13_greens_1
theorem dksX13_greens_0 : cX13_greens.data.toList.drop 0 = dktX13_greens_0 := by decide +kernel
theorem dksX13_greens_1 : cX13_greens.data.toList.drop 24 = dktX13_greens_1 := dk_seg dksX13_greens_0 24 rfl rfl
theorem dksX13_greens_2 : cX13_greens.data.toList.drop 48 = dktX13_greens_2 := dk_seg dksX13_greens_1 24 rfl rfl
theorem dksX13_greens_3 : cX13_greens.data.toList.drop 72 = dktX13_greens_3 := dk_seg dksX13_greens_2 24 rfl rfl
theorem dksX13_greens_4 : cX13_greens.data.toList.drop 95 = dktX13_greens_4 := dk_seg dksX13_greens_3 23 rfl rfl
theorem dksX13_greens_5 : cX13_greens.data.toList.drop 119 = dktX13_greens_5 := dk_seg dksX13_greens_4 24 rfl rfl
theorem dksX13_greens_6 : cX13_greens.data.toList.drop 142 = dktX13_greens_6 := dk_seg dksX13_greens_5 23 rfl rfl
theorem dX13_greens_0 : decode cX13_greens 0 = .ok (.aload_n 0, 1) := dk_42 (dk_at dksX13_greens_0 0 rfl rfl)
theorem dX13_greens_1 : decode cX13_greens 1 = .ok (.iload_n 1, 1) := dk_27 (dk_at dksX13_greens_0 1 rfl rfl)
theorem dX13_greens_2 : decode cX13_greens 2 = .ok (.invokevirtual 96, 3) := dk_182 0 96 (dk_at dksX13_greens_0 2 rfl rfl)
theorem dX13_greens_5 : decode cX13_greens 5 = .ok (.ifCond .eq 12, 3) := dk_153 0 12 (dk_at dksX13_greens_0 5 rfl rfl)
theorem dX13_greens_8 : decode cX13_greens 8 = .ok (.iload_n 2, 1) := dk_28 (dk_at dksX13_greens_0 8 rfl rfl)
theorem dX13_greens_9 : decode cX13_greens 9 = .ok (.iconst 0, 1) := dk_3 (dk_at dksX13_greens_0 9 rfl rfl)
theorem dX13_greens_10 : decode cX13_greens 10 = .ok (.iconst 3, 1) := dk_6 (dk_at dksX13_greens_0 10 rfl rfl)
theorem dX13_greens_11 : decode cX13_greens 11 = .ok (.invokestatic 49, 3) := dk_184 0 49 (dk_at dksX13_greens_0 11 rfl rfl)
theorem dX13_greens_14 : decode cX13_greens 14 = .ok (.ifCond .ne 5, 3) := dk_154 0 5 (dk_at dksX13_greens_0 14 rfl rfl)
theorem dX13_greens_17 : decode cX13_greens 17 = .ok (.iconst (-1), 1) := dk_2 (dk_at dksX13_greens_0 17 rfl rfl)
theorem dX13_greens_18 : decode cX13_greens 18 = .ok (.ireturn, 1) := dk_172 (dk_at dksX13_greens_0 18 rfl rfl)
theorem dX13_greens_19 : decode cX13_greens 19 = .ok (.iconst 0, 1) := dk_3 (dk_at dksX13_greens_0 19 rfl rfl)
theorem dX13_greens_20 : decode cX13_greens 20 = .ok (.istore_n 3, 1) := dk_62 (dk_at dksX13_greens_0 20 rfl rfl)
theorem dX13_greens_21 : decode cX13_greens 21 = .ok (.iconst 0, 1) := dk_3 (dk_at dksX13_greens_0 21 rfl rfl)
theorem dX13_greens_22 : decode cX13_greens 22 = .ok (.istore 4, 2) := dk_54 4 (dk_at dksX13_greens_0 22 rfl rfl)
theorem dX13_greens_24 : decode cX13_greens 24 = .ok (.bipush (-5), 2) := dk_16 251 (dk_at dksX13_greens_1 0 rfl rfl)
theorem dX13_greens_26 : decode cX13_greens 26 = .ok (.istore 5, 2) := dk_54 5 (dk_at dksX13_greens_1 2 rfl rfl)
theorem dX13_greens_28 : decode cX13_greens 28 = .ok (.bipush (-5), 2) := dk_16 251 (dk_at dksX13_greens_1 4 rfl rfl)
theorem dX13_greens_30 : decode cX13_greens 30 = .ok (.istore 6, 2) := dk_54 6 (dk_at dksX13_greens_1 6 rfl rfl)
theorem dX13_greens_32 : decode cX13_greens 32 = .ok (.iconst 0, 1) := dk_3 (dk_at dksX13_greens_1 8 rfl rfl)
theorem dX13_greens_33 : decode cX13_greens 33 = .ok (.istore 7, 2) := dk_54 7 (dk_at dksX13_greens_1 9 rfl rfl)
theorem dX13_greens_35 : decode cX13_greens 35 = .ok (.iload 7, 2) := dk_21 7 (dk_at dksX13_greens_1 11 rfl rfl)
theorem dX13_greens_37 : decode cX13_greens 37 = .ok (.aload_n 0, 1) := dk_42 (dk_at dksX13_greens_1 13 rfl rfl)
theorem dX13_greens_38 : decode cX13_greens 38 = .ok (.getfield 11, 3) := dk_180 0 11 (dk_at dksX13_greens_1 14 rfl rfl)
theorem dX13_greens_41 : decode cX13_greens 41 = .ok (.bipush 15, 2) := dk_16 15 (dk_at dksX13_greens_1 17 rfl rfl)
theorem dX13_greens_43 : decode cX13_greens 43 = .ok (.iaload, 1) := dk_46 (dk_at dksX13_greens_1 19 rfl rfl)
theorem dX13_greens_44 : decode cX13_greens 44 = .ok (.if_icmp .ge 78, 3) := dk_162 0 78 (dk_at dksX13_greens_1 20 rfl rfl)
theorem dX13_greens_47 : decode cX13_greens 47 = .ok (.aload_n 0, 1) := dk_42 (dk_at dksX13_greens_1 23 rfl rfl)
theorem dX13_greens_48 : decode cX13_greens 48 = .ok (.iload 7, 2) := dk_21 7 (dk_at dksX13_greens_2 0 rfl rfl)
theorem dX13_greens_50 : decode cX13_greens 50 = .ok (.iconst 0, 1) := dk_3 (dk_at dksX13_greens_2 2 rfl rfl)
theorem dX13_greens_51 : decode cX13_greens 51 = .ok (.invokevirtual 218, 3) := dk_182 0 218 (dk_at dksX13_greens_2 3 rfl rfl)
theorem dX13_greens_54 : decode cX13_greens 54 = .ok (.iload_n 1, 1) := dk_27 (dk_at dksX13_greens_2 6 rfl rfl)
theorem dX13_greens_55 : decode cX13_greens 55 = .ok (.if_icmp .eq 6, 3) := dk_159 0 6 (dk_at dksX13_greens_2 7 rfl rfl)
theorem dX13_greens_58 : decode cX13_greens 58 = .ok (.goto 58, 3) := dk_167 0 58 (dk_at dksX13_greens_2 10 rfl rfl)
theorem dX13_greens_61 : decode cX13_greens 61 = .ok (.aload_n 0, 1) := dk_42 (dk_at dksX13_greens_2 13 rfl rfl)
theorem dX13_greens_62 : decode cX13_greens 62 = .ok (.iload 7, 2) := dk_21 7 (dk_at dksX13_greens_2 14 rfl rfl)
theorem dX13_greens_64 : decode cX13_greens 64 = .ok (.iconst 2, 1) := dk_5 (dk_at dksX13_greens_2 16 rfl rfl)
theorem dX13_greens_65 : decode cX13_greens 65 = .ok (.invokevirtual 218, 3) := dk_182 0 218 (dk_at dksX13_greens_2 17 rfl rfl)
theorem dX13_greens_68 : decode cX13_greens 68 = .ok (.aload_n 0, 1) := dk_42 (dk_at dksX13_greens_2 20 rfl rfl)
theorem dX13_greens_69 : decode cX13_greens 69 = .ok (.iload 7, 2) := dk_21 7 (dk_at dksX13_greens_2 21 rfl rfl)
theorem dX13_greens_71 : decode cX13_greens 71 = .ok (.iconst 1, 1) := dk_4 (dk_at dksX13_greens_2 23 rfl rfl)
theorem dX13_greens_72 : decode cX13_greens 72 = .ok (.invokevirtual 218, 3) := dk_182 0 218 (dk_at dksX13_greens_3 0 rfl rfl)
theorem dX13_greens_75 : decode cX13_greens 75 = .ok (.isub, 1) := dk_100 (dk_at dksX13_greens_3 3 rfl rfl)
theorem dX13_greens_76 : decode cX13_greens 76 = .ok (.istore 8, 2) := dk_54 8 (dk_at dksX13_greens_3 4 rfl rfl)
theorem dX13_greens_78 : decode cX13_greens 78 = .ok (.iinc 3 1, 3) := dk_132 3 1 (dk_at dksX13_greens_3 6 rfl rfl)
theorem dX13_greens_81 : decode cX13_greens 81 = .ok (.iload 4, 2) := dk_21 4 (dk_at dksX13_greens_3 9 rfl rfl)
theorem dX13_greens_83 : decode cX13_greens 83 = .ok (.iload 8, 2) := dk_21 8 (dk_at dksX13_greens_3 11 rfl rfl)
theorem dX13_greens_85 : decode cX13_greens 85 = .ok (.iadd, 1) := dk_96 (dk_at dksX13_greens_3 13 rfl rfl)
theorem dX13_greens_86 : decode cX13_greens 86 = .ok (.istore 4, 2) := dk_54 4 (dk_at dksX13_greens_3 14 rfl rfl)
theorem dX13_greens_88 : decode cX13_greens 88 = .ok (.iload 5, 2) := dk_21 5 (dk_at dksX13_greens_3 16 rfl rfl)
theorem dX13_greens_90 : decode cX13_greens 90 = .ok (.ifCond .ge 8, 3) := dk_156 0 8 (dk_at dksX13_greens_3 18 rfl rfl)
theorem dX13_greens_93 : decode cX13_greens 93 = .ok (.iload 8, 2) := dk_21 8 (dk_at dksX13_greens_3 21 rfl rfl)
theorem dX13_greens_95 : decode cX13_greens 95 = .ok (.goto 10, 3) := dk_167 0 10 (dk_at dksX13_greens_4 0 rfl rfl)
theorem dX13_greens_98 : decode cX13_greens 98 = .ok (.iload 5, 2) := dk_21 5 (dk_at dksX13_greens_4 3 rfl rfl)
theorem dX13_greens_100 : decode cX13_greens 100 = .ok (.iload 8, 2) := dk_21 8 (dk_at dksX13_greens_4 5 rfl rfl)
theorem dX13_greens_102 : decode cX13_greens 102 = .ok (.invokestatic 100, 3) := dk_184 0 100 (dk_at dksX13_greens_4 7 rfl rfl)
theorem dX13_greens_105 : decode cX13_greens 105 = .ok (.istore 5, 2) := dk_54 5 (dk_at dksX13_greens_4 10 rfl rfl)
theorem dX13_greens_107 : decode cX13_greens 107 = .ok (.iload 6, 2) := dk_21 6 (dk_at dksX13_greens_4 12 rfl rfl)
theorem dX13_greens_109 : decode cX13_greens 109 = .ok (.iload 8, 2) := dk_21 8 (dk_at dksX13_greens_4 14 rfl rfl)
theorem dX13_greens_111 : decode cX13_greens 111 = .ok (.invokestatic 73, 3) := dk_184 0 73 (dk_at dksX13_greens_4 16 rfl rfl)
theorem dX13_greens_114 : decode cX13_greens 114 = .ok (.istore 6, 2) := dk_54 6 (dk_at dksX13_greens_4 19 rfl rfl)
theorem dX13_greens_116 : decode cX13_greens 116 = .ok (.iinc 7 1, 3) := dk_132 7 1 (dk_at dksX13_greens_4 21 rfl rfl)
theorem dX13_greens_119 : decode cX13_greens 119 = .ok (.goto (-84), 3) := dk_167 255 172 (dk_at dksX13_greens_5 0 rfl rfl)
theorem dX13_greens_122 : decode cX13_greens 122 = .ok (.iload_n 2, 1) := dk_28 (dk_at dksX13_greens_5 3 rfl rfl)
theorem dX13_greens_123 : decode cX13_greens 123 = .ok (.ifCond .ne 7, 3) := dk_154 0 7 (dk_at dksX13_greens_5 4 rfl rfl)
theorem dX13_greens_126 : decode cX13_greens 126 = .ok (.iload_n 3, 1) := dk_29 (dk_at dksX13_greens_5 7 rfl rfl)
theorem dX13_greens_127 : decode cX13_greens 127 = .ok (.goto 25, 3) := dk_167 0 25 (dk_at dksX13_greens_5 8 rfl rfl)
theorem dX13_greens_130 : decode cX13_greens 130 = .ok (.iload_n 2, 1) := dk_28 (dk_at dksX13_greens_5 11 rfl rfl)
theorem dX13_greens_131 : decode cX13_greens 131 = .ok (.iconst 1, 1) := dk_4 (dk_at dksX13_greens_5 12 rfl rfl)
theorem dX13_greens_132 : decode cX13_greens 132 = .ok (.if_icmp .ne 8, 3) := dk_160 0 8 (dk_at dksX13_greens_5 13 rfl rfl)
theorem dX13_greens_135 : decode cX13_greens 135 = .ok (.iload 4, 2) := dk_21 4 (dk_at dksX13_greens_5 16 rfl rfl)
theorem dX13_greens_137 : decode cX13_greens 137 = .ok (.goto 15, 3) := dk_167 0 15 (dk_at dksX13_greens_5 18 rfl rfl)
theorem dX13_greens_140 : decode cX13_greens 140 = .ok (.iload_n 2, 1) := dk_28 (dk_at dksX13_greens_5 21 rfl rfl)
theorem dX13_greens_141 : decode cX13_greens 141 = .ok (.iconst 2, 1) := dk_5 (dk_at dksX13_greens_5 22 rfl rfl)
theorem dX13_greens_142 : decode cX13_greens 142 = .ok (.if_icmp .ne 8, 3) := dk_160 0 8 (dk_at dksX13_greens_6 0 rfl rfl)
theorem dX13_greens_145 : decode cX13_greens 145 = .ok (.iload 5, 2) := dk_21 5 (dk_at dksX13_greens_6 3 rfl rfl)
theorem dX13_greens_147 : decode cX13_greens 147 = .ok (.goto 5, 3) := dk_167 0 5 (dk_at dksX13_greens_6 5 rfl rfl)
theorem dX13_greens_150 : decode cX13_greens 150 = .ok (.iload 6, 2) := dk_21 6 (dk_at dksX13_greens_6 8 rfl rfl)
theorem dX13_greens_152 : decode cX13_greens 152 = .ok (.ireturn, 1) := dk_172 (dk_at dksX13_greens_6 10 rfl rfl)
abbrev cX13_could : ByteArray := prog_22_method_75_code
def yX13_could : MethodName := ⟨RX13, "could", "(III)I"⟩
def dkwX13_could_1 : List UInt8 := [17, 39, 15, 184, 0, 49, 153, 0, 13, 42, 27, 28, 29, 182, 0, 225, 167, 0, 5, 16, 254, 172]
abbrev dktX13_could_1 : List UInt8 := dkwX13_could_1 ++ []
def dkwX13_could_0 : List UInt8 := [29, 3, 4, 184, 0, 49, 154, 0, 5, 2, 172, 27, 3, 16, 63, 184, 0, 49, 153, 0, 24, 28, 3]
abbrev dktX13_could_0 : List UInt8 := dkwX13_could_0 ++ dktX13_could_1
theorem dksX13_could_0 : cX13_could.data.toList.drop 0 = dktX13_could_0 := by decide +kernel
theorem dksX13_could_1 : cX13_could.data.toList.drop 23 = dktX13_could_1 := dk_seg dksX13_could_0 23 rfl rfl
theorem dX13_could_0 : decode cX13_could 0 = .ok (.iload_n 3, 1) := dk_29 (dk_at dksX13_could_0 0 rfl rfl)
theorem dX13_could_1 : decode cX13_could 1 = .ok (.iconst 0, 1) := dk_3 (dk_at dksX13_could_0 1 rfl rfl)
theorem dX13_could_2 : decode cX13_could 2 = .ok (.iconst 1, 1) := dk_4 (dk_at dksX13_could_0 2 rfl rfl)
theorem dX13_could_3 : decode cX13_could 3 = .ok (.invokestatic 49, 3) := dk_184 0 49 (dk_at dksX13_could_0 3 rfl rfl)
theorem dX13_could_6 : decode cX13_could 6 = .ok (.ifCond .ne 5, 3) := dk_154 0 5 (dk_at dksX13_could_0 6 rfl rfl)
theorem dX13_could_9 : decode cX13_could 9 = .ok (.iconst (-1), 1) := dk_2 (dk_at dksX13_could_0 9 rfl rfl)
theorem dX13_could_10 : decode cX13_could 10 = .ok (.ireturn, 1) := dk_172 (dk_at dksX13_could_0 10 rfl rfl)
theorem dX13_could_11 : decode cX13_could 11 = .ok (.iload_n 1, 1) := dk_27 (dk_at dksX13_could_0 11 rfl rfl)
theorem dX13_could_12 : decode cX13_could 12 = .ok (.iconst 0, 1) := dk_3 (dk_at dksX13_could_0 12 rfl rfl)
theorem dX13_could_13 : decode cX13_could 13 = .ok (.bipush 63, 2) := dk_16 63 (dk_at dksX13_could_0 13 rfl rfl)
theorem dX13_could_15 : decode cX13_could 15 = .ok (.invokestatic 49, 3) := dk_184 0 49 (dk_at dksX13_could_0 15 rfl rfl)
theorem dX13_could_18 : decode cX13_could 18 = .ok (.ifCond .eq 24, 3) := dk_153 0 24 (dk_at dksX13_could_0 18 rfl rfl)
theorem dX13_could_21 : decode cX13_could 21 = .ok (.iload_n 2, 1) := dk_28 (dk_at dksX13_could_0 21 rfl rfl)
theorem dX13_could_22 : decode cX13_could 22 = .ok (.iconst 0, 1) := dk_3 (dk_at dksX13_could_0 22 rfl rfl)
theorem dX13_could_23 : decode cX13_could 23 = .ok (.sipush 9999, 3) := dk_17 39 15 (dk_at dksX13_could_1 0 rfl rfl)
theorem dX13_could_26 : decode cX13_could 26 = .ok (.invokestatic 49, 3) := dk_184 0 49 (dk_at dksX13_could_1 3 rfl rfl)
theorem dX13_could_29 : decode cX13_could 29 = .ok (.ifCond .eq 13, 3) := dk_153 0 13 (dk_at dksX13_could_1 6 rfl rfl)
theorem dX13_could_32 : decode cX13_could 32 = .ok (.aload_n 0, 1) := dk_42 (dk_at dksX13_could_1 9 rfl rfl)
theorem dX13_could_33 : decode cX13_could 33 = .ok (.iload_n 1, 1) := dk_27 (dk_at dksX13_could_1 10 rfl rfl)
theorem dX13_could_34 : decode cX13_could 34 = .ok (.iload_n 2, 1) := dk_28 (dk_at dksX13_could_1 11 rfl rfl)
theorem dX13_could_35 : decode cX13_could 35 = .ok (.iload_n 3, 1) := dk_29 (dk_at dksX13_could_1 12 rfl rfl)
theorem dX13_could_36 : decode cX13_could 36 = .ok (.invokevirtual 225, 3) := dk_182 0 225 (dk_at dksX13_could_1 13 rfl rfl)
theorem dX13_could_39 : decode cX13_could 39 = .ok (.goto 5, 3) := dk_167 0 5 (dk_at dksX13_could_1 16 rfl rfl)
theorem dX13_could_42 : decode cX13_could 42 = .ok (.bipush (-2), 2) := dk_16 254 (dk_at dksX13_could_1 19 rfl rfl)
theorem dX13_could_44 : decode cX13_could 44 = .ok (.ireturn, 1) := dk_172 (dk_at dksX13_could_1 21 rfl rfl)
abbrev cX13_coulds : ByteArray := prog_22_method_74_code
def yX13_coulds : MethodName := ⟨RX13, "coulds", "(III)I"⟩
def dkwX13_coulds_9 : List UInt8 := [132, 5, 1, 167, 255, 199, 21, 4, 172]
abbrev dktX13_coulds_9 : List UInt8 := dkwX13_coulds_9 ++ []
def dkwX13_coulds_8 : List UInt8 := [16, 7, 182, 0, 56, 16, 251, 27, 28, 182, 0, 221, 153, 0, 12, 21, 4, 4, 21, 5, 120, 128, 54, 4]
abbrev dktX13_coulds_8 : List UInt8 := dkwX13_coulds_8 ++ dktX13_coulds_9
def dkwX13_coulds_7 : List UInt8 := [16, 13, 46, 162, 0, 51, 42, 21, 5, 16, 6, 182, 0, 56, 4, 160, 0, 33, 42, 21, 5, 42, 21, 5]
abbrev dktX13_coulds_7 : List UInt8 := dkwX13_coulds_7 ++ dktX13_coulds_8
def dkwX13_coulds_6 : List UInt8 := [3, 182, 0, 218, 120, 128, 54, 4, 132, 5, 1, 167, 255, 197, 3, 54, 5, 21, 5, 42, 180, 0, 11]
abbrev dktX13_coulds_6 : List UInt8 := dkwX13_coulds_6 ++ dktX13_coulds_7
def dkwX13_coulds_5 : List UInt8 := [182, 0, 218, 42, 21, 5, 5, 182, 0, 218, 27, 28, 182, 0, 221, 153, 0, 17, 21, 4, 4, 42, 21, 5]
abbrev dktX13_coulds_5 : List UInt8 := dkwX13_coulds_5 ++ dktX13_coulds_6
def dkwX13_coulds_4 : List UInt8 := [42, 180, 0, 11, 16, 15, 46, 162, 0, 53, 42, 42, 21, 5, 3, 182, 0, 218, 42, 21, 5, 4]
abbrev dktX13_coulds_4 : List UInt8 := dkwX13_coulds_4 ++ dktX13_coulds_5
def dkwX13_coulds_3 : List UInt8 := [180, 0, 11, 21, 6, 46, 120, 128, 54, 4, 132, 5, 1, 167, 255, 183, 21, 4, 172, 3, 54, 5, 21, 5]
abbrev dktX13_coulds_3 : List UInt8 := dkwX13_coulds_3 ++ dktX13_coulds_4
def dkwX13_coulds_2 : List UInt8 := [4, 96, 46, 42, 180, 0, 11, 21, 6, 5, 96, 46, 27, 28, 182, 0, 221, 153, 0, 17, 21, 4, 4, 42]
abbrev dktX13_coulds_2 : List UInt8 := dkwX13_coulds_2 ++ dktX13_coulds_3
def dkwX13_coulds_1 : List UInt8 := [17, 1, 65, 6, 21, 5, 104, 96, 54, 6, 42, 42, 180, 0, 11, 21, 6, 46, 42, 180, 0, 11, 21, 6]
abbrev dktX13_coulds_1 : List UInt8 := dkwX13_coulds_1 ++ dktX13_coulds_2
def dkwX13_coulds_0 : List UInt8 := [3, 54, 4, 29, 4, 160, 0, 85, 3, 54, 5, 21, 5, 42, 180, 0, 11, 16, 18, 46, 162, 0, 67]
abbrev dktX13_coulds_0 : List UInt8 := dkwX13_coulds_0 ++ dktX13_coulds_1
theorem dksX13_coulds_0 : cX13_coulds.data.toList.drop 0 = dktX13_coulds_0 := by decide +kernel
theorem dksX13_coulds_1 : cX13_coulds.data.toList.drop 23 = dktX13_coulds_1 := dk_seg dksX13_coulds_0 23 rfl rfl
theorem dksX13_coulds_2 : cX13_coulds.data.toList.drop 47 = dktX13_coulds_2 := dk_seg dksX13_coulds_1 24 rfl rfl
theorem dksX13_coulds_3 : cX13_coulds.data.toList.drop 71 = dktX13_coulds_3 := dk_seg dksX13_coulds_2 24 rfl rfl
theorem dksX13_coulds_4 : cX13_coulds.data.toList.drop 95 = dktX13_coulds_4 := dk_seg dksX13_coulds_3 24 rfl rfl
theorem dksX13_coulds_5 : cX13_coulds.data.toList.drop 117 = dktX13_coulds_5 := dk_seg dksX13_coulds_4 22 rfl rfl
theorem dksX13_coulds_6 : cX13_coulds.data.toList.drop 141 = dktX13_coulds_6 := dk_seg dksX13_coulds_5 24 rfl rfl
theorem dksX13_coulds_7 : cX13_coulds.data.toList.drop 164 = dktX13_coulds_7 := dk_seg dksX13_coulds_6 23 rfl rfl
theorem dksX13_coulds_8 : cX13_coulds.data.toList.drop 188 = dktX13_coulds_8 := dk_seg dksX13_coulds_7 24 rfl rfl
theorem dksX13_coulds_9 : cX13_coulds.data.toList.drop 212 = dktX13_coulds_9 := dk_seg dksX13_coulds_8 24 rfl rfl
theorem dX13_coulds_0 : decode cX13_coulds 0 = .ok (.iconst 0, 1) := dk_3 (dk_at dksX13_coulds_0 0 rfl rfl)
theorem dX13_coulds_1 : decode cX13_coulds 1 = .ok (.istore 4, 2) := dk_54 4 (dk_at dksX13_coulds_0 1 rfl rfl)
theorem dX13_coulds_3 : decode cX13_coulds 3 = .ok (.iload_n 3, 1) := dk_29 (dk_at dksX13_coulds_0 3 rfl rfl)
theorem dX13_coulds_4 : decode cX13_coulds 4 = .ok (.iconst 1, 1) := dk_4 (dk_at dksX13_coulds_0 4 rfl rfl)
theorem dX13_coulds_5 : decode cX13_coulds 5 = .ok (.if_icmp .ne 85, 3) := dk_160 0 85 (dk_at dksX13_coulds_0 5 rfl rfl)
theorem dX13_coulds_8 : decode cX13_coulds 8 = .ok (.iconst 0, 1) := dk_3 (dk_at dksX13_coulds_0 8 rfl rfl)
theorem dX13_coulds_9 : decode cX13_coulds 9 = .ok (.istore 5, 2) := dk_54 5 (dk_at dksX13_coulds_0 9 rfl rfl)
theorem dX13_coulds_11 : decode cX13_coulds 11 = .ok (.iload 5, 2) := dk_21 5 (dk_at dksX13_coulds_0 11 rfl rfl)
theorem dX13_coulds_13 : decode cX13_coulds 13 = .ok (.aload_n 0, 1) := dk_42 (dk_at dksX13_coulds_0 13 rfl rfl)
theorem dX13_coulds_14 : decode cX13_coulds 14 = .ok (.getfield 11, 3) := dk_180 0 11 (dk_at dksX13_coulds_0 14 rfl rfl)
theorem dX13_coulds_17 : decode cX13_coulds 17 = .ok (.bipush 18, 2) := dk_16 18 (dk_at dksX13_coulds_0 17 rfl rfl)
theorem dX13_coulds_19 : decode cX13_coulds 19 = .ok (.iaload, 1) := dk_46 (dk_at dksX13_coulds_0 19 rfl rfl)
theorem dX13_coulds_20 : decode cX13_coulds 20 = .ok (.if_icmp .ge 67, 3) := dk_162 0 67 (dk_at dksX13_coulds_0 20 rfl rfl)
theorem dX13_coulds_23 : decode cX13_coulds 23 = .ok (.sipush 321, 3) := dk_17 1 65 (dk_at dksX13_coulds_1 0 rfl rfl)
theorem dX13_coulds_26 : decode cX13_coulds 26 = .ok (.iconst 3, 1) := dk_6 (dk_at dksX13_coulds_1 3 rfl rfl)
theorem dX13_coulds_27 : decode cX13_coulds 27 = .ok (.iload 5, 2) := dk_21 5 (dk_at dksX13_coulds_1 4 rfl rfl)
theorem dX13_coulds_29 : decode cX13_coulds 29 = .ok (.imul, 1) := dk_104 (dk_at dksX13_coulds_1 6 rfl rfl)
theorem dX13_coulds_30 : decode cX13_coulds 30 = .ok (.iadd, 1) := dk_96 (dk_at dksX13_coulds_1 7 rfl rfl)
theorem dX13_coulds_31 : decode cX13_coulds 31 = .ok (.istore 6, 2) := dk_54 6 (dk_at dksX13_coulds_1 8 rfl rfl)
theorem dX13_coulds_33 : decode cX13_coulds 33 = .ok (.aload_n 0, 1) := dk_42 (dk_at dksX13_coulds_1 10 rfl rfl)
theorem dX13_coulds_34 : decode cX13_coulds 34 = .ok (.aload_n 0, 1) := dk_42 (dk_at dksX13_coulds_1 11 rfl rfl)
theorem dX13_coulds_35 : decode cX13_coulds 35 = .ok (.getfield 11, 3) := dk_180 0 11 (dk_at dksX13_coulds_1 12 rfl rfl)
theorem dX13_coulds_38 : decode cX13_coulds 38 = .ok (.iload 6, 2) := dk_21 6 (dk_at dksX13_coulds_1 15 rfl rfl)
theorem dX13_coulds_40 : decode cX13_coulds 40 = .ok (.iaload, 1) := dk_46 (dk_at dksX13_coulds_1 17 rfl rfl)
theorem dX13_coulds_41 : decode cX13_coulds 41 = .ok (.aload_n 0, 1) := dk_42 (dk_at dksX13_coulds_1 18 rfl rfl)
theorem dX13_coulds_42 : decode cX13_coulds 42 = .ok (.getfield 11, 3) := dk_180 0 11 (dk_at dksX13_coulds_1 19 rfl rfl)
theorem dX13_coulds_45 : decode cX13_coulds 45 = .ok (.iload 6, 2) := dk_21 6 (dk_at dksX13_coulds_1 22 rfl rfl)
theorem dX13_coulds_47 : decode cX13_coulds 47 = .ok (.iconst 1, 1) := dk_4 (dk_at dksX13_coulds_2 0 rfl rfl)
theorem dX13_coulds_48 : decode cX13_coulds 48 = .ok (.iadd, 1) := dk_96 (dk_at dksX13_coulds_2 1 rfl rfl)
theorem dX13_coulds_49 : decode cX13_coulds 49 = .ok (.iaload, 1) := dk_46 (dk_at dksX13_coulds_2 2 rfl rfl)
theorem dX13_coulds_50 : decode cX13_coulds 50 = .ok (.aload_n 0, 1) := dk_42 (dk_at dksX13_coulds_2 3 rfl rfl)
theorem dX13_coulds_51 : decode cX13_coulds 51 = .ok (.getfield 11, 3) := dk_180 0 11 (dk_at dksX13_coulds_2 4 rfl rfl)
theorem dX13_coulds_54 : decode cX13_coulds 54 = .ok (.iload 6, 2) := dk_21 6 (dk_at dksX13_coulds_2 7 rfl rfl)
theorem dX13_coulds_56 : decode cX13_coulds 56 = .ok (.iconst 2, 1) := dk_5 (dk_at dksX13_coulds_2 9 rfl rfl)
theorem dX13_coulds_57 : decode cX13_coulds 57 = .ok (.iadd, 1) := dk_96 (dk_at dksX13_coulds_2 10 rfl rfl)
theorem dX13_coulds_58 : decode cX13_coulds 58 = .ok (.iaload, 1) := dk_46 (dk_at dksX13_coulds_2 11 rfl rfl)
theorem dX13_coulds_59 : decode cX13_coulds 59 = .ok (.iload_n 1, 1) := dk_27 (dk_at dksX13_coulds_2 12 rfl rfl)
theorem dX13_coulds_60 : decode cX13_coulds 60 = .ok (.iload_n 2, 1) := dk_28 (dk_at dksX13_coulds_2 13 rfl rfl)
theorem dX13_coulds_61 : decode cX13_coulds 61 = .ok (.invokevirtual 221, 3) := dk_182 0 221 (dk_at dksX13_coulds_2 14 rfl rfl)
theorem dX13_coulds_64 : decode cX13_coulds 64 = .ok (.ifCond .eq 17, 3) := dk_153 0 17 (dk_at dksX13_coulds_2 17 rfl rfl)
theorem dX13_coulds_67 : decode cX13_coulds 67 = .ok (.iload 4, 2) := dk_21 4 (dk_at dksX13_coulds_2 20 rfl rfl)
theorem dX13_coulds_69 : decode cX13_coulds 69 = .ok (.iconst 1, 1) := dk_4 (dk_at dksX13_coulds_2 22 rfl rfl)
theorem dX13_coulds_70 : decode cX13_coulds 70 = .ok (.aload_n 0, 1) := dk_42 (dk_at dksX13_coulds_2 23 rfl rfl)
theorem dX13_coulds_71 : decode cX13_coulds 71 = .ok (.getfield 11, 3) := dk_180 0 11 (dk_at dksX13_coulds_3 0 rfl rfl)
theorem dX13_coulds_74 : decode cX13_coulds 74 = .ok (.iload 6, 2) := dk_21 6 (dk_at dksX13_coulds_3 3 rfl rfl)
theorem dX13_coulds_76 : decode cX13_coulds 76 = .ok (.iaload, 1) := dk_46 (dk_at dksX13_coulds_3 5 rfl rfl)
theorem dX13_coulds_77 : decode cX13_coulds 77 = .ok (.ishl, 1) := dk_120 (dk_at dksX13_coulds_3 6 rfl rfl)
theorem dX13_coulds_78 : decode cX13_coulds 78 = .ok (.ior, 1) := dk_128 (dk_at dksX13_coulds_3 7 rfl rfl)
theorem dX13_coulds_79 : decode cX13_coulds 79 = .ok (.istore 4, 2) := dk_54 4 (dk_at dksX13_coulds_3 8 rfl rfl)
theorem dX13_coulds_81 : decode cX13_coulds 81 = .ok (.iinc 5 1, 3) := dk_132 5 1 (dk_at dksX13_coulds_3 10 rfl rfl)
theorem dX13_coulds_84 : decode cX13_coulds 84 = .ok (.goto (-73), 3) := dk_167 255 183 (dk_at dksX13_coulds_3 13 rfl rfl)
theorem dX13_coulds_87 : decode cX13_coulds 87 = .ok (.iload 4, 2) := dk_21 4 (dk_at dksX13_coulds_3 16 rfl rfl)
theorem dX13_coulds_89 : decode cX13_coulds 89 = .ok (.ireturn, 1) := dk_172 (dk_at dksX13_coulds_3 18 rfl rfl)
theorem dX13_coulds_90 : decode cX13_coulds 90 = .ok (.iconst 0, 1) := dk_3 (dk_at dksX13_coulds_3 19 rfl rfl)
theorem dX13_coulds_91 : decode cX13_coulds 91 = .ok (.istore 5, 2) := dk_54 5 (dk_at dksX13_coulds_3 20 rfl rfl)
theorem dX13_coulds_93 : decode cX13_coulds 93 = .ok (.iload 5, 2) := dk_21 5 (dk_at dksX13_coulds_3 22 rfl rfl)
theorem dX13_coulds_95 : decode cX13_coulds 95 = .ok (.aload_n 0, 1) := dk_42 (dk_at dksX13_coulds_4 0 rfl rfl)
theorem dX13_coulds_96 : decode cX13_coulds 96 = .ok (.getfield 11, 3) := dk_180 0 11 (dk_at dksX13_coulds_4 1 rfl rfl)
theorem dX13_coulds_99 : decode cX13_coulds 99 = .ok (.bipush 15, 2) := dk_16 15 (dk_at dksX13_coulds_4 4 rfl rfl)
theorem dX13_coulds_101 : decode cX13_coulds 101 = .ok (.iaload, 1) := dk_46 (dk_at dksX13_coulds_4 6 rfl rfl)
theorem dX13_coulds_102 : decode cX13_coulds 102 = .ok (.if_icmp .ge 53, 3) := dk_162 0 53 (dk_at dksX13_coulds_4 7 rfl rfl)
theorem dX13_coulds_105 : decode cX13_coulds 105 = .ok (.aload_n 0, 1) := dk_42 (dk_at dksX13_coulds_4 10 rfl rfl)
theorem dX13_coulds_106 : decode cX13_coulds 106 = .ok (.aload_n 0, 1) := dk_42 (dk_at dksX13_coulds_4 11 rfl rfl)
theorem dX13_coulds_107 : decode cX13_coulds 107 = .ok (.iload 5, 2) := dk_21 5 (dk_at dksX13_coulds_4 12 rfl rfl)
theorem dX13_coulds_109 : decode cX13_coulds 109 = .ok (.iconst 0, 1) := dk_3 (dk_at dksX13_coulds_4 14 rfl rfl)
theorem dX13_coulds_110 : decode cX13_coulds 110 = .ok (.invokevirtual 218, 3) := dk_182 0 218 (dk_at dksX13_coulds_4 15 rfl rfl)
theorem dX13_coulds_113 : decode cX13_coulds 113 = .ok (.aload_n 0, 1) := dk_42 (dk_at dksX13_coulds_4 18 rfl rfl)
theorem dX13_coulds_114 : decode cX13_coulds 114 = .ok (.iload 5, 2) := dk_21 5 (dk_at dksX13_coulds_4 19 rfl rfl)
theorem dX13_coulds_116 : decode cX13_coulds 116 = .ok (.iconst 1, 1) := dk_4 (dk_at dksX13_coulds_4 21 rfl rfl)
theorem dX13_coulds_117 : decode cX13_coulds 117 = .ok (.invokevirtual 218, 3) := dk_182 0 218 (dk_at dksX13_coulds_5 0 rfl rfl)
theorem dX13_coulds_120 : decode cX13_coulds 120 = .ok (.aload_n 0, 1) := dk_42 (dk_at dksX13_coulds_5 3 rfl rfl)
theorem dX13_coulds_121 : decode cX13_coulds 121 = .ok (.iload 5, 2) := dk_21 5 (dk_at dksX13_coulds_5 4 rfl rfl)
theorem dX13_coulds_123 : decode cX13_coulds 123 = .ok (.iconst 2, 1) := dk_5 (dk_at dksX13_coulds_5 6 rfl rfl)
theorem dX13_coulds_124 : decode cX13_coulds 124 = .ok (.invokevirtual 218, 3) := dk_182 0 218 (dk_at dksX13_coulds_5 7 rfl rfl)
theorem dX13_coulds_127 : decode cX13_coulds 127 = .ok (.iload_n 1, 1) := dk_27 (dk_at dksX13_coulds_5 10 rfl rfl)
theorem dX13_coulds_128 : decode cX13_coulds 128 = .ok (.iload_n 2, 1) := dk_28 (dk_at dksX13_coulds_5 11 rfl rfl)
theorem dX13_coulds_129 : decode cX13_coulds 129 = .ok (.invokevirtual 221, 3) := dk_182 0 221 (dk_at dksX13_coulds_5 12 rfl rfl)
theorem dX13_coulds_132 : decode cX13_coulds 132 = .ok (.ifCond .eq 17, 3) := dk_153 0 17 (dk_at dksX13_coulds_5 15 rfl rfl)
theorem dX13_coulds_135 : decode cX13_coulds 135 = .ok (.iload 4, 2) := dk_21 4 (dk_at dksX13_coulds_5 18 rfl rfl)
theorem dX13_coulds_137 : decode cX13_coulds 137 = .ok (.iconst 1, 1) := dk_4 (dk_at dksX13_coulds_5 20 rfl rfl)
theorem dX13_coulds_138 : decode cX13_coulds 138 = .ok (.aload_n 0, 1) := dk_42 (dk_at dksX13_coulds_5 21 rfl rfl)
theorem dX13_coulds_139 : decode cX13_coulds 139 = .ok (.iload 5, 2) := dk_21 5 (dk_at dksX13_coulds_5 22 rfl rfl)
theorem dX13_coulds_141 : decode cX13_coulds 141 = .ok (.iconst 0, 1) := dk_3 (dk_at dksX13_coulds_6 0 rfl rfl)
theorem dX13_coulds_142 : decode cX13_coulds 142 = .ok (.invokevirtual 218, 3) := dk_182 0 218 (dk_at dksX13_coulds_6 1 rfl rfl)
theorem dX13_coulds_145 : decode cX13_coulds 145 = .ok (.ishl, 1) := dk_120 (dk_at dksX13_coulds_6 4 rfl rfl)
theorem dX13_coulds_146 : decode cX13_coulds 146 = .ok (.ior, 1) := dk_128 (dk_at dksX13_coulds_6 5 rfl rfl)
theorem dX13_coulds_147 : decode cX13_coulds 147 = .ok (.istore 4, 2) := dk_54 4 (dk_at dksX13_coulds_6 6 rfl rfl)
theorem dX13_coulds_149 : decode cX13_coulds 149 = .ok (.iinc 5 1, 3) := dk_132 5 1 (dk_at dksX13_coulds_6 8 rfl rfl)
theorem dX13_coulds_152 : decode cX13_coulds 152 = .ok (.goto (-59), 3) := dk_167 255 197 (dk_at dksX13_coulds_6 11 rfl rfl)
theorem dX13_coulds_155 : decode cX13_coulds 155 = .ok (.iconst 0, 1) := dk_3 (dk_at dksX13_coulds_6 14 rfl rfl)
theorem dX13_coulds_156 : decode cX13_coulds 156 = .ok (.istore 5, 2) := dk_54 5 (dk_at dksX13_coulds_6 15 rfl rfl)
theorem dX13_coulds_158 : decode cX13_coulds 158 = .ok (.iload 5, 2) := dk_21 5 (dk_at dksX13_coulds_6 17 rfl rfl)
theorem dX13_coulds_160 : decode cX13_coulds 160 = .ok (.aload_n 0, 1) := dk_42 (dk_at dksX13_coulds_6 19 rfl rfl)
theorem dX13_coulds_161 : decode cX13_coulds 161 = .ok (.getfield 11, 3) := dk_180 0 11 (dk_at dksX13_coulds_6 20 rfl rfl)
theorem dX13_coulds_164 : decode cX13_coulds 164 = .ok (.bipush 13, 2) := dk_16 13 (dk_at dksX13_coulds_7 0 rfl rfl)
theorem dX13_coulds_166 : decode cX13_coulds 166 = .ok (.iaload, 1) := dk_46 (dk_at dksX13_coulds_7 2 rfl rfl)
theorem dX13_coulds_167 : decode cX13_coulds 167 = .ok (.if_icmp .ge 51, 3) := dk_162 0 51 (dk_at dksX13_coulds_7 3 rfl rfl)
theorem dX13_coulds_170 : decode cX13_coulds 170 = .ok (.aload_n 0, 1) := dk_42 (dk_at dksX13_coulds_7 6 rfl rfl)
theorem dX13_coulds_171 : decode cX13_coulds 171 = .ok (.iload 5, 2) := dk_21 5 (dk_at dksX13_coulds_7 7 rfl rfl)
theorem dX13_coulds_173 : decode cX13_coulds 173 = .ok (.bipush 6, 2) := dk_16 6 (dk_at dksX13_coulds_7 9 rfl rfl)
theorem dX13_coulds_175 : decode cX13_coulds 175 = .ok (.invokevirtual 56, 3) := dk_182 0 56 (dk_at dksX13_coulds_7 11 rfl rfl)
theorem dX13_coulds_178 : decode cX13_coulds 178 = .ok (.iconst 1, 1) := dk_4 (dk_at dksX13_coulds_7 14 rfl rfl)
theorem dX13_coulds_179 : decode cX13_coulds 179 = .ok (.if_icmp .ne 33, 3) := dk_160 0 33 (dk_at dksX13_coulds_7 15 rfl rfl)
theorem dX13_coulds_182 : decode cX13_coulds 182 = .ok (.aload_n 0, 1) := dk_42 (dk_at dksX13_coulds_7 18 rfl rfl)
theorem dX13_coulds_183 : decode cX13_coulds 183 = .ok (.iload 5, 2) := dk_21 5 (dk_at dksX13_coulds_7 19 rfl rfl)
theorem dX13_coulds_185 : decode cX13_coulds 185 = .ok (.aload_n 0, 1) := dk_42 (dk_at dksX13_coulds_7 21 rfl rfl)
theorem dX13_coulds_186 : decode cX13_coulds 186 = .ok (.iload 5, 2) := dk_21 5 (dk_at dksX13_coulds_7 22 rfl rfl)
theorem dX13_coulds_188 : decode cX13_coulds 188 = .ok (.bipush 7, 2) := dk_16 7 (dk_at dksX13_coulds_8 0 rfl rfl)
theorem dX13_coulds_190 : decode cX13_coulds 190 = .ok (.invokevirtual 56, 3) := dk_182 0 56 (dk_at dksX13_coulds_8 2 rfl rfl)
theorem dX13_coulds_193 : decode cX13_coulds 193 = .ok (.bipush (-5), 2) := dk_16 251 (dk_at dksX13_coulds_8 5 rfl rfl)
theorem dX13_coulds_195 : decode cX13_coulds 195 = .ok (.iload_n 1, 1) := dk_27 (dk_at dksX13_coulds_8 7 rfl rfl)
theorem dX13_coulds_196 : decode cX13_coulds 196 = .ok (.iload_n 2, 1) := dk_28 (dk_at dksX13_coulds_8 8 rfl rfl)
theorem dX13_coulds_197 : decode cX13_coulds 197 = .ok (.invokevirtual 221, 3) := dk_182 0 221 (dk_at dksX13_coulds_8 9 rfl rfl)
theorem dX13_coulds_200 : decode cX13_coulds 200 = .ok (.ifCond .eq 12, 3) := dk_153 0 12 (dk_at dksX13_coulds_8 12 rfl rfl)
theorem dX13_coulds_203 : decode cX13_coulds 203 = .ok (.iload 4, 2) := dk_21 4 (dk_at dksX13_coulds_8 15 rfl rfl)
theorem dX13_coulds_205 : decode cX13_coulds 205 = .ok (.iconst 1, 1) := dk_4 (dk_at dksX13_coulds_8 17 rfl rfl)
theorem dX13_coulds_206 : decode cX13_coulds 206 = .ok (.iload 5, 2) := dk_21 5 (dk_at dksX13_coulds_8 18 rfl rfl)
theorem dX13_coulds_208 : decode cX13_coulds 208 = .ok (.ishl, 1) := dk_120 (dk_at dksX13_coulds_8 20 rfl rfl)
theorem dX13_coulds_209 : decode cX13_coulds 209 = .ok (.ior, 1) := dk_128 (dk_at dksX13_coulds_8 21 rfl rfl)
theorem dX13_coulds_210 : decode cX13_coulds 210 = .ok (.istore 4, 2) := dk_54 4 (dk_at dksX13_coulds_8 22 rfl rfl)
theorem dX13_coulds_212 : decode cX13_coulds 212 = .ok (.iinc 5 1, 3) := dk_132 5 1 (dk_at dksX13_coulds_9 0 rfl rfl)
theorem dX13_coulds_215 : decode cX13_coulds 215 = .ok (.goto (-57), 3) := dk_167 255 199 (dk_at dksX13_coulds_9 3 rfl rfl)
theorem dX13_coulds_218 : decode cX13_coulds 218 = .ok (.iload 4, 2) := dk_21 4 (dk_at dksX13_coulds_9 6 rfl rfl)
theorem dX13_coulds_220 : decode cX13_coulds 220 = .ok (.ireturn, 1) := dk_172 (dk_at dksX13_coulds_9 8 rfl rfl)
abbrev cX13_couldBy : ByteArray := prog_22_method_73_code
def yX13_couldBy : MethodName := ⟨RX13, "couldBy", "(IIIII)Z"⟩
def dkwX13_couldBy_2 : List UInt8 := [182, 0, 70, 21, 6, 4, 96, 104, 96, 162, 0, 7, 4, 167, 0, 4, 3, 172]
abbrev dktX13_couldBy_2 : List UInt8 := dkwX13_couldBy_2 ++ []
def dkwX13_couldBy_1 : List UInt8 := [104, 96, 162, 0, 5, 3, 172, 29, 155, 0, 26, 21, 5, 29, 42, 27, 182, 0, 66, 96, 42, 27]
abbrev dktX13_couldBy_1 : List UInt8 := dkwX13_couldBy_1 ++ dktX13_couldBy_2
def dkwX13_couldBy_0 : List UInt8 := [42, 27, 21, 4, 182, 0, 63, 54, 6, 21, 6, 155, 0, 18, 21, 5, 28, 42, 27, 182, 0, 70, 21, 6]
abbrev dktX13_couldBy_0 : List UInt8 := dkwX13_couldBy_0 ++ dktX13_couldBy_1
theorem dksX13_couldBy_0 : cX13_couldBy.data.toList.drop 0 = dktX13_couldBy_0 := by decide +kernel
theorem dksX13_couldBy_1 : cX13_couldBy.data.toList.drop 24 = dktX13_couldBy_1 := dk_seg dksX13_couldBy_0 24 rfl rfl
theorem dksX13_couldBy_2 : cX13_couldBy.data.toList.drop 46 = dktX13_couldBy_2 := dk_seg dksX13_couldBy_1 22 rfl rfl
theorem dX13_couldBy_0 : decode cX13_couldBy 0 = .ok (.aload_n 0, 1) := dk_42 (dk_at dksX13_couldBy_0 0 rfl rfl)
theorem dX13_couldBy_1 : decode cX13_couldBy 1 = .ok (.iload_n 1, 1) := dk_27 (dk_at dksX13_couldBy_0 1 rfl rfl)
theorem dX13_couldBy_2 : decode cX13_couldBy 2 = .ok (.iload 4, 2) := dk_21 4 (dk_at dksX13_couldBy_0 2 rfl rfl)
theorem dX13_couldBy_4 : decode cX13_couldBy 4 = .ok (.invokevirtual 63, 3) := dk_182 0 63 (dk_at dksX13_couldBy_0 4 rfl rfl)
theorem dX13_couldBy_7 : decode cX13_couldBy 7 = .ok (.istore 6, 2) := dk_54 6 (dk_at dksX13_couldBy_0 7 rfl rfl)
theorem dX13_couldBy_9 : decode cX13_couldBy 9 = .ok (.iload 6, 2) := dk_21 6 (dk_at dksX13_couldBy_0 9 rfl rfl)
theorem dX13_couldBy_11 : decode cX13_couldBy 11 = .ok (.ifCond .lt 18, 3) := dk_155 0 18 (dk_at dksX13_couldBy_0 11 rfl rfl)
theorem dX13_couldBy_14 : decode cX13_couldBy 14 = .ok (.iload 5, 2) := dk_21 5 (dk_at dksX13_couldBy_0 14 rfl rfl)
theorem dX13_couldBy_16 : decode cX13_couldBy 16 = .ok (.iload_n 2, 1) := dk_28 (dk_at dksX13_couldBy_0 16 rfl rfl)
theorem dX13_couldBy_17 : decode cX13_couldBy 17 = .ok (.aload_n 0, 1) := dk_42 (dk_at dksX13_couldBy_0 17 rfl rfl)
theorem dX13_couldBy_18 : decode cX13_couldBy 18 = .ok (.iload_n 1, 1) := dk_27 (dk_at dksX13_couldBy_0 18 rfl rfl)
theorem dX13_couldBy_19 : decode cX13_couldBy 19 = .ok (.invokevirtual 70, 3) := dk_182 0 70 (dk_at dksX13_couldBy_0 19 rfl rfl)
theorem dX13_couldBy_22 : decode cX13_couldBy 22 = .ok (.iload 6, 2) := dk_21 6 (dk_at dksX13_couldBy_0 22 rfl rfl)
theorem dX13_couldBy_24 : decode cX13_couldBy 24 = .ok (.imul, 1) := dk_104 (dk_at dksX13_couldBy_1 0 rfl rfl)
theorem dX13_couldBy_25 : decode cX13_couldBy 25 = .ok (.iadd, 1) := dk_96 (dk_at dksX13_couldBy_1 1 rfl rfl)
theorem dX13_couldBy_26 : decode cX13_couldBy 26 = .ok (.if_icmp .ge 5, 3) := dk_162 0 5 (dk_at dksX13_couldBy_1 2 rfl rfl)
theorem dX13_couldBy_29 : decode cX13_couldBy 29 = .ok (.iconst 0, 1) := dk_3 (dk_at dksX13_couldBy_1 5 rfl rfl)
theorem dX13_couldBy_30 : decode cX13_couldBy 30 = .ok (.ireturn, 1) := dk_172 (dk_at dksX13_couldBy_1 6 rfl rfl)
theorem dX13_couldBy_31 : decode cX13_couldBy 31 = .ok (.iload_n 3, 1) := dk_29 (dk_at dksX13_couldBy_1 7 rfl rfl)
theorem dX13_couldBy_32 : decode cX13_couldBy 32 = .ok (.ifCond .lt 26, 3) := dk_155 0 26 (dk_at dksX13_couldBy_1 8 rfl rfl)
theorem dX13_couldBy_35 : decode cX13_couldBy 35 = .ok (.iload 5, 2) := dk_21 5 (dk_at dksX13_couldBy_1 11 rfl rfl)
theorem dX13_couldBy_37 : decode cX13_couldBy 37 = .ok (.iload_n 3, 1) := dk_29 (dk_at dksX13_couldBy_1 13 rfl rfl)
theorem dX13_couldBy_38 : decode cX13_couldBy 38 = .ok (.aload_n 0, 1) := dk_42 (dk_at dksX13_couldBy_1 14 rfl rfl)
theorem dX13_couldBy_39 : decode cX13_couldBy 39 = .ok (.iload_n 1, 1) := dk_27 (dk_at dksX13_couldBy_1 15 rfl rfl)
theorem dX13_couldBy_40 : decode cX13_couldBy 40 = .ok (.invokevirtual 66, 3) := dk_182 0 66 (dk_at dksX13_couldBy_1 16 rfl rfl)
theorem dX13_couldBy_43 : decode cX13_couldBy 43 = .ok (.iadd, 1) := dk_96 (dk_at dksX13_couldBy_1 19 rfl rfl)
theorem dX13_couldBy_44 : decode cX13_couldBy 44 = .ok (.aload_n 0, 1) := dk_42 (dk_at dksX13_couldBy_1 20 rfl rfl)
theorem dX13_couldBy_45 : decode cX13_couldBy 45 = .ok (.iload_n 1, 1) := dk_27 (dk_at dksX13_couldBy_1 21 rfl rfl)
theorem dX13_couldBy_46 : decode cX13_couldBy 46 = .ok (.invokevirtual 70, 3) := dk_182 0 70 (dk_at dksX13_couldBy_2 0 rfl rfl)
theorem dX13_couldBy_49 : decode cX13_couldBy 49 = .ok (.iload 6, 2) := dk_21 6 (dk_at dksX13_couldBy_2 3 rfl rfl)
theorem dX13_couldBy_51 : decode cX13_couldBy 51 = .ok (.iconst 1, 1) := dk_4 (dk_at dksX13_couldBy_2 5 rfl rfl)
theorem dX13_couldBy_52 : decode cX13_couldBy 52 = .ok (.iadd, 1) := dk_96 (dk_at dksX13_couldBy_2 6 rfl rfl)
theorem dX13_couldBy_53 : decode cX13_couldBy 53 = .ok (.imul, 1) := dk_104 (dk_at dksX13_couldBy_2 7 rfl rfl)
theorem dX13_couldBy_54 : decode cX13_couldBy 54 = .ok (.iadd, 1) := dk_96 (dk_at dksX13_couldBy_2 8 rfl rfl)
theorem dX13_couldBy_55 : decode cX13_couldBy 55 = .ok (.if_icmp .ge 7, 3) := dk_162 0 7 (dk_at dksX13_couldBy_2 9 rfl rfl)
theorem dX13_couldBy_58 : decode cX13_couldBy 58 = .ok (.iconst 1, 1) := dk_4 (dk_at dksX13_couldBy_2 12 rfl rfl)
theorem dX13_couldBy_59 : decode cX13_couldBy 59 = .ok (.goto 4, 3) := dk_167 0 4 (dk_at dksX13_couldBy_2 13 rfl rfl)
theorem dX13_couldBy_62 : decode cX13_couldBy 62 = .ok (.iconst 0, 1) := dk_3 (dk_at dksX13_couldBy_2 16 rfl rfl)
theorem dX13_couldBy_63 : decode cX13_couldBy 63 = .ok (.ireturn, 1) := dk_172 (dk_at dksX13_couldBy_2 17 rfl rfl)
abbrev cX13_crowded : ByteArray := prog_22_method_76_code
def yX13_crowded : MethodName := ⟨RX13, "crowded", "(II)I"⟩
def dkwX13_crowded_2 : List UInt8 := [126, 153, 0, 5, 29, 172, 132, 3, 1, 167, 255, 226, 16, 251, 172]
abbrev dktX13_crowded_2 : List UInt8 := dkwX13_crowded_2 ++ []
def dkwX13_crowded_1 : List UInt8 := [172, 3, 62, 29, 16, 64, 162, 0, 30, 42, 29, 27, 28, 182, 0, 225, 54, 4, 21, 4, 21, 4, 4, 100]
abbrev dktX13_crowded_1 : List UInt8 := dkwX13_crowded_1 ++ dktX13_crowded_2
def dkwX13_crowded_0 : List UInt8 := [28, 3, 4, 184, 0, 49, 154, 0, 5, 2, 172, 27, 3, 17, 39, 15, 184, 0, 49, 154, 0, 6, 16, 254]
abbrev dktX13_crowded_0 : List UInt8 := dkwX13_crowded_0 ++ dktX13_crowded_1
theorem dksX13_crowded_0 : cX13_crowded.data.toList.drop 0 = dktX13_crowded_0 := by decide +kernel
theorem dksX13_crowded_1 : cX13_crowded.data.toList.drop 24 = dktX13_crowded_1 := dk_seg dksX13_crowded_0 24 rfl rfl
theorem dksX13_crowded_2 : cX13_crowded.data.toList.drop 48 = dktX13_crowded_2 := dk_seg dksX13_crowded_1 24 rfl rfl
theorem dX13_crowded_0 : decode cX13_crowded 0 = .ok (.iload_n 2, 1) := dk_28 (dk_at dksX13_crowded_0 0 rfl rfl)
theorem dX13_crowded_1 : decode cX13_crowded 1 = .ok (.iconst 0, 1) := dk_3 (dk_at dksX13_crowded_0 1 rfl rfl)
theorem dX13_crowded_2 : decode cX13_crowded 2 = .ok (.iconst 1, 1) := dk_4 (dk_at dksX13_crowded_0 2 rfl rfl)
theorem dX13_crowded_3 : decode cX13_crowded 3 = .ok (.invokestatic 49, 3) := dk_184 0 49 (dk_at dksX13_crowded_0 3 rfl rfl)
theorem dX13_crowded_6 : decode cX13_crowded 6 = .ok (.ifCond .ne 5, 3) := dk_154 0 5 (dk_at dksX13_crowded_0 6 rfl rfl)
theorem dX13_crowded_9 : decode cX13_crowded 9 = .ok (.iconst (-1), 1) := dk_2 (dk_at dksX13_crowded_0 9 rfl rfl)
theorem dX13_crowded_10 : decode cX13_crowded 10 = .ok (.ireturn, 1) := dk_172 (dk_at dksX13_crowded_0 10 rfl rfl)
theorem dX13_crowded_11 : decode cX13_crowded 11 = .ok (.iload_n 1, 1) := dk_27 (dk_at dksX13_crowded_0 11 rfl rfl)
theorem dX13_crowded_12 : decode cX13_crowded 12 = .ok (.iconst 0, 1) := dk_3 (dk_at dksX13_crowded_0 12 rfl rfl)
theorem dX13_crowded_13 : decode cX13_crowded 13 = .ok (.sipush 9999, 3) := dk_17 39 15 (dk_at dksX13_crowded_0 13 rfl rfl)
theorem dX13_crowded_16 : decode cX13_crowded 16 = .ok (.invokestatic 49, 3) := dk_184 0 49 (dk_at dksX13_crowded_0 16 rfl rfl)
theorem dX13_crowded_19 : decode cX13_crowded 19 = .ok (.ifCond .ne 6, 3) := dk_154 0 6 (dk_at dksX13_crowded_0 19 rfl rfl)
theorem dX13_crowded_22 : decode cX13_crowded 22 = .ok (.bipush (-2), 2) := dk_16 254 (dk_at dksX13_crowded_0 22 rfl rfl)
theorem dX13_crowded_24 : decode cX13_crowded 24 = .ok (.ireturn, 1) := dk_172 (dk_at dksX13_crowded_1 0 rfl rfl)
theorem dX13_crowded_25 : decode cX13_crowded 25 = .ok (.iconst 0, 1) := dk_3 (dk_at dksX13_crowded_1 1 rfl rfl)
theorem dX13_crowded_26 : decode cX13_crowded 26 = .ok (.istore_n 3, 1) := dk_62 (dk_at dksX13_crowded_1 2 rfl rfl)
theorem dX13_crowded_27 : decode cX13_crowded 27 = .ok (.iload_n 3, 1) := dk_29 (dk_at dksX13_crowded_1 3 rfl rfl)
theorem dX13_crowded_28 : decode cX13_crowded 28 = .ok (.bipush 64, 2) := dk_16 64 (dk_at dksX13_crowded_1 4 rfl rfl)
theorem dX13_crowded_30 : decode cX13_crowded 30 = .ok (.if_icmp .ge 30, 3) := dk_162 0 30 (dk_at dksX13_crowded_1 6 rfl rfl)
theorem dX13_crowded_33 : decode cX13_crowded 33 = .ok (.aload_n 0, 1) := dk_42 (dk_at dksX13_crowded_1 9 rfl rfl)
theorem dX13_crowded_34 : decode cX13_crowded 34 = .ok (.iload_n 3, 1) := dk_29 (dk_at dksX13_crowded_1 10 rfl rfl)
theorem dX13_crowded_35 : decode cX13_crowded 35 = .ok (.iload_n 1, 1) := dk_27 (dk_at dksX13_crowded_1 11 rfl rfl)
theorem dX13_crowded_36 : decode cX13_crowded 36 = .ok (.iload_n 2, 1) := dk_28 (dk_at dksX13_crowded_1 12 rfl rfl)
theorem dX13_crowded_37 : decode cX13_crowded 37 = .ok (.invokevirtual 225, 3) := dk_182 0 225 (dk_at dksX13_crowded_1 13 rfl rfl)
theorem dX13_crowded_40 : decode cX13_crowded 40 = .ok (.istore 4, 2) := dk_54 4 (dk_at dksX13_crowded_1 16 rfl rfl)
theorem dX13_crowded_42 : decode cX13_crowded 42 = .ok (.iload 4, 2) := dk_21 4 (dk_at dksX13_crowded_1 18 rfl rfl)
theorem dX13_crowded_44 : decode cX13_crowded 44 = .ok (.iload 4, 2) := dk_21 4 (dk_at dksX13_crowded_1 20 rfl rfl)
theorem dX13_crowded_46 : decode cX13_crowded 46 = .ok (.iconst 1, 1) := dk_4 (dk_at dksX13_crowded_1 22 rfl rfl)
theorem dX13_crowded_47 : decode cX13_crowded 47 = .ok (.isub, 1) := dk_100 (dk_at dksX13_crowded_1 23 rfl rfl)
theorem dX13_crowded_48 : decode cX13_crowded 48 = .ok (.iand, 1) := dk_126 (dk_at dksX13_crowded_2 0 rfl rfl)
theorem dX13_crowded_49 : decode cX13_crowded 49 = .ok (.ifCond .eq 5, 3) := dk_153 0 5 (dk_at dksX13_crowded_2 1 rfl rfl)
theorem dX13_crowded_52 : decode cX13_crowded 52 = .ok (.iload_n 3, 1) := dk_29 (dk_at dksX13_crowded_2 4 rfl rfl)
theorem dX13_crowded_53 : decode cX13_crowded 53 = .ok (.ireturn, 1) := dk_172 (dk_at dksX13_crowded_2 5 rfl rfl)
theorem dX13_crowded_54 : decode cX13_crowded 54 = .ok (.iinc 3 1, 3) := dk_132 3 1 (dk_at dksX13_crowded_2 6 rfl rfl)
theorem dX13_crowded_57 : decode cX13_crowded 57 = .ok (.goto (-30), 3) := dk_167 255 226 (dk_at dksX13_crowded_2 9 rfl rfl)
theorem dX13_crowded_60 : decode cX13_crowded 60 = .ok (.bipush (-5), 2) := dk_16 251 (dk_at dksX13_crowded_2 12 rfl rfl)
theorem dX13_crowded_62 : decode cX13_crowded 62 = .ok (.ireturn, 1) := dk_172 (dk_at dksX13_crowded_2 14 rfl rfl)
abbrev cX13_green : ByteArray := prog_22_method_77_code
def yX13_green : MethodName := ⟨RX13, "green", "(III)I"⟩
def dkwX13_green_5 : List UInt8 := [79, 42, 180, 0, 11, 16, 18, 46, 172]
abbrev dktX13_green_5 : List UInt8 := dkwX13_green_5 ++ []
def dkwX13_green_4 : List UInt8 := [4, 96, 28, 79, 42, 180, 0, 11, 21, 4, 5, 96, 29, 79, 42, 180, 0, 11, 16, 18, 92, 46, 4, 96]
abbrev dktX13_green_4 : List UInt8 := dkwX13_green_4 ++ dktX13_green_5
def dkwX13_green_3 : List UInt8 := [180, 0, 11, 16, 18, 46, 104, 96, 54, 4, 42, 180, 0, 11, 21, 4, 27, 79, 42, 180, 0, 11, 21, 4]
abbrev dktX13_green_3 : List UInt8 := dkwX13_green_3 ++ dktX13_green_4
def dkwX13_green_2 : List UInt8 := [16, 254, 172, 42, 180, 0, 11, 16, 18, 46, 16, 8, 160, 0, 6, 16, 252, 172, 17, 1, 65, 6, 42]
abbrev dktX13_green_2 : List UInt8 := dkwX13_green_2 ++ dktX13_green_3
def dkwX13_green_1 : List UInt8 := [172, 28, 3, 17, 39, 14, 184, 0, 49, 153, 0, 15, 29, 28, 164, 0, 10, 29, 17, 39, 15, 164, 0, 6]
abbrev dktX13_green_1 : List UInt8 := dkwX13_green_1 ++ dktX13_green_2
def dkwX13_green_0 : List UInt8 := [27, 2, 160, 0, 13, 42, 180, 0, 11, 16, 18, 3, 79, 3, 172, 42, 27, 182, 0, 96, 154, 0, 5, 2]
abbrev dktX13_green_0 : List UInt8 := dkwX13_green_0 ++ dktX13_green_1
theorem dksX13_green_0 : cX13_green.data.toList.drop 0 = dktX13_green_0 := by decide +kernel
theorem dksX13_green_1 : cX13_green.data.toList.drop 24 = dktX13_green_1 := dk_seg dksX13_green_0 24 rfl rfl
theorem dksX13_green_2 : cX13_green.data.toList.drop 48 = dktX13_green_2 := dk_seg dksX13_green_1 24 rfl rfl
theorem dksX13_green_3 : cX13_green.data.toList.drop 71 = dktX13_green_3 := dk_seg dksX13_green_2 23 rfl rfl
theorem dksX13_green_4 : cX13_green.data.toList.drop 95 = dktX13_green_4 := dk_seg dksX13_green_3 24 rfl rfl
theorem dksX13_green_5 : cX13_green.data.toList.drop 119 = dktX13_green_5 := dk_seg dksX13_green_4 24 rfl rfl
theorem dX13_green_0 : decode cX13_green 0 = .ok (.iload_n 1, 1) := dk_27 (dk_at dksX13_green_0 0 rfl rfl)
theorem dX13_green_1 : decode cX13_green 1 = .ok (.iconst (-1), 1) := dk_2 (dk_at dksX13_green_0 1 rfl rfl)
theorem dX13_green_2 : decode cX13_green 2 = .ok (.if_icmp .ne 13, 3) := dk_160 0 13 (dk_at dksX13_green_0 2 rfl rfl)
theorem dX13_green_5 : decode cX13_green 5 = .ok (.aload_n 0, 1) := dk_42 (dk_at dksX13_green_0 5 rfl rfl)
theorem dX13_green_6 : decode cX13_green 6 = .ok (.getfield 11, 3) := dk_180 0 11 (dk_at dksX13_green_0 6 rfl rfl)
theorem dX13_green_9 : decode cX13_green 9 = .ok (.bipush 18, 2) := dk_16 18 (dk_at dksX13_green_0 9 rfl rfl)
theorem dX13_green_11 : decode cX13_green 11 = .ok (.iconst 0, 1) := dk_3 (dk_at dksX13_green_0 11 rfl rfl)
theorem dX13_green_12 : decode cX13_green 12 = .ok (.iastore, 1) := dk_79 (dk_at dksX13_green_0 12 rfl rfl)
theorem dX13_green_13 : decode cX13_green 13 = .ok (.iconst 0, 1) := dk_3 (dk_at dksX13_green_0 13 rfl rfl)
theorem dX13_green_14 : decode cX13_green 14 = .ok (.ireturn, 1) := dk_172 (dk_at dksX13_green_0 14 rfl rfl)
theorem dX13_green_15 : decode cX13_green 15 = .ok (.aload_n 0, 1) := dk_42 (dk_at dksX13_green_0 15 rfl rfl)
theorem dX13_green_16 : decode cX13_green 16 = .ok (.iload_n 1, 1) := dk_27 (dk_at dksX13_green_0 16 rfl rfl)
theorem dX13_green_17 : decode cX13_green 17 = .ok (.invokevirtual 96, 3) := dk_182 0 96 (dk_at dksX13_green_0 17 rfl rfl)
theorem dX13_green_20 : decode cX13_green 20 = .ok (.ifCond .ne 5, 3) := dk_154 0 5 (dk_at dksX13_green_0 20 rfl rfl)
theorem dX13_green_23 : decode cX13_green 23 = .ok (.iconst (-1), 1) := dk_2 (dk_at dksX13_green_0 23 rfl rfl)
theorem dX13_green_24 : decode cX13_green 24 = .ok (.ireturn, 1) := dk_172 (dk_at dksX13_green_1 0 rfl rfl)
theorem dX13_green_25 : decode cX13_green 25 = .ok (.iload_n 2, 1) := dk_28 (dk_at dksX13_green_1 1 rfl rfl)
theorem dX13_green_26 : decode cX13_green 26 = .ok (.iconst 0, 1) := dk_3 (dk_at dksX13_green_1 2 rfl rfl)
theorem dX13_green_27 : decode cX13_green 27 = .ok (.sipush 9998, 3) := dk_17 39 14 (dk_at dksX13_green_1 3 rfl rfl)
theorem dX13_green_30 : decode cX13_green 30 = .ok (.invokestatic 49, 3) := dk_184 0 49 (dk_at dksX13_green_1 6 rfl rfl)
theorem dX13_green_33 : decode cX13_green 33 = .ok (.ifCond .eq 15, 3) := dk_153 0 15 (dk_at dksX13_green_1 9 rfl rfl)
theorem dX13_green_36 : decode cX13_green 36 = .ok (.iload_n 3, 1) := dk_29 (dk_at dksX13_green_1 12 rfl rfl)
theorem dX13_green_37 : decode cX13_green 37 = .ok (.iload_n 2, 1) := dk_28 (dk_at dksX13_green_1 13 rfl rfl)
theorem dX13_green_38 : decode cX13_green 38 = .ok (.if_icmp .le 10, 3) := dk_164 0 10 (dk_at dksX13_green_1 14 rfl rfl)
theorem dX13_green_41 : decode cX13_green 41 = .ok (.iload_n 3, 1) := dk_29 (dk_at dksX13_green_1 17 rfl rfl)
theorem dX13_green_42 : decode cX13_green 42 = .ok (.sipush 9999, 3) := dk_17 39 15 (dk_at dksX13_green_1 18 rfl rfl)
theorem dX13_green_45 : decode cX13_green 45 = .ok (.if_icmp .le 6, 3) := dk_164 0 6 (dk_at dksX13_green_1 21 rfl rfl)
theorem dX13_green_48 : decode cX13_green 48 = .ok (.bipush (-2), 2) := dk_16 254 (dk_at dksX13_green_2 0 rfl rfl)
theorem dX13_green_50 : decode cX13_green 50 = .ok (.ireturn, 1) := dk_172 (dk_at dksX13_green_2 2 rfl rfl)
theorem dX13_green_51 : decode cX13_green 51 = .ok (.aload_n 0, 1) := dk_42 (dk_at dksX13_green_2 3 rfl rfl)
theorem dX13_green_52 : decode cX13_green 52 = .ok (.getfield 11, 3) := dk_180 0 11 (dk_at dksX13_green_2 4 rfl rfl)
theorem dX13_green_55 : decode cX13_green 55 = .ok (.bipush 18, 2) := dk_16 18 (dk_at dksX13_green_2 7 rfl rfl)
theorem dX13_green_57 : decode cX13_green 57 = .ok (.iaload, 1) := dk_46 (dk_at dksX13_green_2 9 rfl rfl)
theorem dX13_green_58 : decode cX13_green 58 = .ok (.bipush 8, 2) := dk_16 8 (dk_at dksX13_green_2 10 rfl rfl)
theorem dX13_green_60 : decode cX13_green 60 = .ok (.if_icmp .ne 6, 3) := dk_160 0 6 (dk_at dksX13_green_2 12 rfl rfl)
theorem dX13_green_63 : decode cX13_green 63 = .ok (.bipush (-4), 2) := dk_16 252 (dk_at dksX13_green_2 15 rfl rfl)
theorem dX13_green_65 : decode cX13_green 65 = .ok (.ireturn, 1) := dk_172 (dk_at dksX13_green_2 17 rfl rfl)
theorem dX13_green_66 : decode cX13_green 66 = .ok (.sipush 321, 3) := dk_17 1 65 (dk_at dksX13_green_2 18 rfl rfl)
theorem dX13_green_69 : decode cX13_green 69 = .ok (.iconst 3, 1) := dk_6 (dk_at dksX13_green_2 21 rfl rfl)
theorem dX13_green_70 : decode cX13_green 70 = .ok (.aload_n 0, 1) := dk_42 (dk_at dksX13_green_2 22 rfl rfl)
theorem dX13_green_71 : decode cX13_green 71 = .ok (.getfield 11, 3) := dk_180 0 11 (dk_at dksX13_green_3 0 rfl rfl)
theorem dX13_green_74 : decode cX13_green 74 = .ok (.bipush 18, 2) := dk_16 18 (dk_at dksX13_green_3 3 rfl rfl)
theorem dX13_green_76 : decode cX13_green 76 = .ok (.iaload, 1) := dk_46 (dk_at dksX13_green_3 5 rfl rfl)
theorem dX13_green_77 : decode cX13_green 77 = .ok (.imul, 1) := dk_104 (dk_at dksX13_green_3 6 rfl rfl)
theorem dX13_green_78 : decode cX13_green 78 = .ok (.iadd, 1) := dk_96 (dk_at dksX13_green_3 7 rfl rfl)
theorem dX13_green_79 : decode cX13_green 79 = .ok (.istore 4, 2) := dk_54 4 (dk_at dksX13_green_3 8 rfl rfl)
theorem dX13_green_81 : decode cX13_green 81 = .ok (.aload_n 0, 1) := dk_42 (dk_at dksX13_green_3 10 rfl rfl)
theorem dX13_green_82 : decode cX13_green 82 = .ok (.getfield 11, 3) := dk_180 0 11 (dk_at dksX13_green_3 11 rfl rfl)
theorem dX13_green_85 : decode cX13_green 85 = .ok (.iload 4, 2) := dk_21 4 (dk_at dksX13_green_3 14 rfl rfl)
theorem dX13_green_87 : decode cX13_green 87 = .ok (.iload_n 1, 1) := dk_27 (dk_at dksX13_green_3 16 rfl rfl)
theorem dX13_green_88 : decode cX13_green 88 = .ok (.iastore, 1) := dk_79 (dk_at dksX13_green_3 17 rfl rfl)
theorem dX13_green_89 : decode cX13_green 89 = .ok (.aload_n 0, 1) := dk_42 (dk_at dksX13_green_3 18 rfl rfl)
theorem dX13_green_90 : decode cX13_green 90 = .ok (.getfield 11, 3) := dk_180 0 11 (dk_at dksX13_green_3 19 rfl rfl)
theorem dX13_green_93 : decode cX13_green 93 = .ok (.iload 4, 2) := dk_21 4 (dk_at dksX13_green_3 22 rfl rfl)
theorem dX13_green_95 : decode cX13_green 95 = .ok (.iconst 1, 1) := dk_4 (dk_at dksX13_green_4 0 rfl rfl)
theorem dX13_green_96 : decode cX13_green 96 = .ok (.iadd, 1) := dk_96 (dk_at dksX13_green_4 1 rfl rfl)
theorem dX13_green_97 : decode cX13_green 97 = .ok (.iload_n 2, 1) := dk_28 (dk_at dksX13_green_4 2 rfl rfl)
theorem dX13_green_98 : decode cX13_green 98 = .ok (.iastore, 1) := dk_79 (dk_at dksX13_green_4 3 rfl rfl)
theorem dX13_green_99 : decode cX13_green 99 = .ok (.aload_n 0, 1) := dk_42 (dk_at dksX13_green_4 4 rfl rfl)
theorem dX13_green_100 : decode cX13_green 100 = .ok (.getfield 11, 3) := dk_180 0 11 (dk_at dksX13_green_4 5 rfl rfl)
theorem dX13_green_103 : decode cX13_green 103 = .ok (.iload 4, 2) := dk_21 4 (dk_at dksX13_green_4 8 rfl rfl)
theorem dX13_green_105 : decode cX13_green 105 = .ok (.iconst 2, 1) := dk_5 (dk_at dksX13_green_4 10 rfl rfl)
theorem dX13_green_106 : decode cX13_green 106 = .ok (.iadd, 1) := dk_96 (dk_at dksX13_green_4 11 rfl rfl)
theorem dX13_green_107 : decode cX13_green 107 = .ok (.iload_n 3, 1) := dk_29 (dk_at dksX13_green_4 12 rfl rfl)
theorem dX13_green_108 : decode cX13_green 108 = .ok (.iastore, 1) := dk_79 (dk_at dksX13_green_4 13 rfl rfl)
theorem dX13_green_109 : decode cX13_green 109 = .ok (.aload_n 0, 1) := dk_42 (dk_at dksX13_green_4 14 rfl rfl)
theorem dX13_green_110 : decode cX13_green 110 = .ok (.getfield 11, 3) := dk_180 0 11 (dk_at dksX13_green_4 15 rfl rfl)
theorem dX13_green_113 : decode cX13_green 113 = .ok (.bipush 18, 2) := dk_16 18 (dk_at dksX13_green_4 18 rfl rfl)
theorem dX13_green_115 : decode cX13_green 115 = .ok (.dup2, 1) := dk_92 (dk_at dksX13_green_4 20 rfl rfl)
theorem dX13_green_116 : decode cX13_green 116 = .ok (.iaload, 1) := dk_46 (dk_at dksX13_green_4 21 rfl rfl)
theorem dX13_green_117 : decode cX13_green 117 = .ok (.iconst 1, 1) := dk_4 (dk_at dksX13_green_4 22 rfl rfl)
theorem dX13_green_118 : decode cX13_green 118 = .ok (.iadd, 1) := dk_96 (dk_at dksX13_green_4 23 rfl rfl)
theorem dX13_green_119 : decode cX13_green 119 = .ok (.iastore, 1) := dk_79 (dk_at dksX13_green_5 0 rfl rfl)
theorem dX13_green_120 : decode cX13_green 120 = .ok (.aload_n 0, 1) := dk_42 (dk_at dksX13_green_5 1 rfl rfl)
theorem dX13_green_121 : decode cX13_green 121 = .ok (.getfield 11, 3) := dk_180 0 11 (dk_at dksX13_green_5 2 rfl rfl)
theorem dX13_green_124 : decode cX13_green 124 = .ok (.bipush 18, 2) := dk_16 18 (dk_at dksX13_green_5 5 rfl rfl)
theorem dX13_green_126 : decode cX13_green 126 = .ok (.iaload, 1) := dk_46 (dk_at dksX13_green_5 7 rfl rfl)
theorem dX13_green_127 : decode cX13_green 127 = .ok (.ireturn, 1) := dk_172 (dk_at dksX13_green_5 8 rfl rfl)
abbrev cX13_proved : ByteArray := prog_22_method_79_code
def yX13_proved : MethodName := ⟨RX13, "proved", "()I"⟩
def dkwX13_proved_1 : List UInt8 := [182, 0, 228, 154, 0, 5, 27, 172, 132, 2, 1, 167, 255, 237, 132, 1, 1, 167, 255, 218, 16, 251, 172]
abbrev dktX13_proved_1 : List UInt8 := dkwX13_proved_1 ++ []
def dkwX13_proved_0 : List UInt8 := [3, 60, 27, 42, 180, 0, 11, 16, 18, 46, 162, 0, 33, 3, 61, 28, 27, 162, 0, 20, 42, 27, 28]
abbrev dktX13_proved_0 : List UInt8 := dkwX13_proved_0 ++ dktX13_proved_1
theorem dksX13_proved_0 : cX13_proved.data.toList.drop 0 = dktX13_proved_0 := by decide +kernel
theorem dksX13_proved_1 : cX13_proved.data.toList.drop 23 = dktX13_proved_1 := dk_seg dksX13_proved_0 23 rfl rfl
theorem dX13_proved_0 : decode cX13_proved 0 = .ok (.iconst 0, 1) := dk_3 (dk_at dksX13_proved_0 0 rfl rfl)
theorem dX13_proved_1 : decode cX13_proved 1 = .ok (.istore_n 1, 1) := dk_60 (dk_at dksX13_proved_0 1 rfl rfl)
theorem dX13_proved_2 : decode cX13_proved 2 = .ok (.iload_n 1, 1) := dk_27 (dk_at dksX13_proved_0 2 rfl rfl)
theorem dX13_proved_3 : decode cX13_proved 3 = .ok (.aload_n 0, 1) := dk_42 (dk_at dksX13_proved_0 3 rfl rfl)
theorem dX13_proved_4 : decode cX13_proved 4 = .ok (.getfield 11, 3) := dk_180 0 11 (dk_at dksX13_proved_0 4 rfl rfl)
theorem dX13_proved_7 : decode cX13_proved 7 = .ok (.bipush 18, 2) := dk_16 18 (dk_at dksX13_proved_0 7 rfl rfl)
theorem dX13_proved_9 : decode cX13_proved 9 = .ok (.iaload, 1) := dk_46 (dk_at dksX13_proved_0 9 rfl rfl)
theorem dX13_proved_10 : decode cX13_proved 10 = .ok (.if_icmp .ge 33, 3) := dk_162 0 33 (dk_at dksX13_proved_0 10 rfl rfl)
theorem dX13_proved_13 : decode cX13_proved 13 = .ok (.iconst 0, 1) := dk_3 (dk_at dksX13_proved_0 13 rfl rfl)
theorem dX13_proved_14 : decode cX13_proved 14 = .ok (.istore_n 2, 1) := dk_61 (dk_at dksX13_proved_0 14 rfl rfl)
theorem dX13_proved_15 : decode cX13_proved 15 = .ok (.iload_n 2, 1) := dk_28 (dk_at dksX13_proved_0 15 rfl rfl)
theorem dX13_proved_16 : decode cX13_proved 16 = .ok (.iload_n 1, 1) := dk_27 (dk_at dksX13_proved_0 16 rfl rfl)
theorem dX13_proved_17 : decode cX13_proved 17 = .ok (.if_icmp .ge 20, 3) := dk_162 0 20 (dk_at dksX13_proved_0 17 rfl rfl)
theorem dX13_proved_20 : decode cX13_proved 20 = .ok (.aload_n 0, 1) := dk_42 (dk_at dksX13_proved_0 20 rfl rfl)
theorem dX13_proved_21 : decode cX13_proved 21 = .ok (.iload_n 1, 1) := dk_27 (dk_at dksX13_proved_0 21 rfl rfl)
theorem dX13_proved_22 : decode cX13_proved 22 = .ok (.iload_n 2, 1) := dk_28 (dk_at dksX13_proved_0 22 rfl rfl)
theorem dX13_proved_23 : decode cX13_proved 23 = .ok (.invokevirtual 228, 3) := dk_182 0 228 (dk_at dksX13_proved_1 0 rfl rfl)
theorem dX13_proved_26 : decode cX13_proved 26 = .ok (.ifCond .ne 5, 3) := dk_154 0 5 (dk_at dksX13_proved_1 3 rfl rfl)
theorem dX13_proved_29 : decode cX13_proved 29 = .ok (.iload_n 1, 1) := dk_27 (dk_at dksX13_proved_1 6 rfl rfl)
theorem dX13_proved_30 : decode cX13_proved 30 = .ok (.ireturn, 1) := dk_172 (dk_at dksX13_proved_1 7 rfl rfl)
theorem dX13_proved_31 : decode cX13_proved 31 = .ok (.iinc 2 1, 3) := dk_132 2 1 (dk_at dksX13_proved_1 8 rfl rfl)
theorem dX13_proved_34 : decode cX13_proved 34 = .ok (.goto (-19), 3) := dk_167 255 237 (dk_at dksX13_proved_1 11 rfl rfl)
theorem dX13_proved_37 : decode cX13_proved 37 = .ok (.iinc 1 1, 3) := dk_132 1 1 (dk_at dksX13_proved_1 14 rfl rfl)
theorem dX13_proved_40 : decode cX13_proved 40 = .ok (.goto (-38), 3) := dk_167 255 218 (dk_at dksX13_proved_1 17 rfl rfl)
theorem dX13_proved_43 : decode cX13_proved 43 = .ok (.bipush (-5), 2) := dk_16 251 (dk_at dksX13_proved_1 20 rfl rfl)
theorem dX13_proved_45 : decode cX13_proved 45 = .ok (.ireturn, 1) := dk_172 (dk_at dksX13_proved_1 22 rfl rfl)
abbrev cX13_isSafe : ByteArray := prog_22_method_78_code
def yX13_isSafe : MethodName := ⟨RX13, "isSafe", "(II)Z"⟩
def dkwX13_isSafe_5 : List UInt8 := [96, 46, 161, 0, 7, 4, 167, 0, 4, 3, 172]
abbrev dktX13_isSafe_5 : List UInt8 := dkwX13_isSafe_5 ++ []
def dkwX13_isSafe_4 : List UInt8 := [180, 0, 11, 17, 1, 65, 6, 27, 104, 96, 5, 96, 46, 100, 42, 180, 0, 21, 16, 8, 29, 104, 21, 4]
abbrev dktX13_isSafe_4 : List UInt8 := dkwX13_isSafe_4 ++ dktX13_isSafe_5
def dkwX13_isSafe_3 : List UInt8 := [21, 4, 104, 29, 96, 46, 162, 0, 47, 42, 180, 0, 11, 17, 1, 65, 6, 28, 104, 96, 4, 96, 46, 42]
abbrev dktX13_isSafe_3 : List UInt8 := dkwX13_isSafe_3 ++ dktX13_isSafe_4
def dkwX13_isSafe_2 : List UInt8 := [4, 96, 46, 42, 180, 0, 11, 17, 1, 65, 6, 28, 104, 96, 5, 96, 46, 100, 42, 180, 0, 21, 16, 8]
abbrev dktX13_isSafe_2 : List UInt8 := dkwX13_isSafe_2 ++ dktX13_isSafe_3
def dkwX13_isSafe_1 : List UInt8 := [46, 54, 4, 42, 29, 21, 4, 182, 0, 81, 153, 0, 91, 42, 180, 0, 11, 17, 1, 65, 6, 27, 104, 96]
abbrev dktX13_isSafe_1 : List UInt8 := dkwX13_isSafe_1 ++ dktX13_isSafe_2
def dkwX13_isSafe_0 : List UInt8 := [42, 180, 0, 11, 17, 1, 65, 6, 27, 104, 96, 46, 62, 42, 180, 0, 11, 17, 1, 65, 6, 28, 104, 96]
abbrev dktX13_isSafe_0 : List UInt8 := dkwX13_isSafe_0 ++ dktX13_isSafe_1
theorem dksX13_isSafe_0 : cX13_isSafe.data.toList.drop 0 = dktX13_isSafe_0 := by decide +kernel
theorem dksX13_isSafe_1 : cX13_isSafe.data.toList.drop 24 = dktX13_isSafe_1 := dk_seg dksX13_isSafe_0 24 rfl rfl
theorem dksX13_isSafe_2 : cX13_isSafe.data.toList.drop 48 = dktX13_isSafe_2 := dk_seg dksX13_isSafe_1 24 rfl rfl
theorem dksX13_isSafe_3 : cX13_isSafe.data.toList.drop 72 = dktX13_isSafe_3 := dk_seg dksX13_isSafe_2 24 rfl rfl
theorem dksX13_isSafe_4 : cX13_isSafe.data.toList.drop 96 = dktX13_isSafe_4 := dk_seg dksX13_isSafe_3 24 rfl rfl
theorem dksX13_isSafe_5 : cX13_isSafe.data.toList.drop 120 = dktX13_isSafe_5 := dk_seg dksX13_isSafe_4 24 rfl rfl
theorem dX13_isSafe_0 : decode cX13_isSafe 0 = .ok (.aload_n 0, 1) := dk_42 (dk_at dksX13_isSafe_0 0 rfl rfl)
theorem dX13_isSafe_1 : decode cX13_isSafe 1 = .ok (.getfield 11, 3) := dk_180 0 11 (dk_at dksX13_isSafe_0 1 rfl rfl)
theorem dX13_isSafe_4 : decode cX13_isSafe 4 = .ok (.sipush 321, 3) := dk_17 1 65 (dk_at dksX13_isSafe_0 4 rfl rfl)
theorem dX13_isSafe_7 : decode cX13_isSafe 7 = .ok (.iconst 3, 1) := dk_6 (dk_at dksX13_isSafe_0 7 rfl rfl)
theorem dX13_isSafe_8 : decode cX13_isSafe 8 = .ok (.iload_n 1, 1) := dk_27 (dk_at dksX13_isSafe_0 8 rfl rfl)
theorem dX13_isSafe_9 : decode cX13_isSafe 9 = .ok (.imul, 1) := dk_104 (dk_at dksX13_isSafe_0 9 rfl rfl)
theorem dX13_isSafe_10 : decode cX13_isSafe 10 = .ok (.iadd, 1) := dk_96 (dk_at dksX13_isSafe_0 10 rfl rfl)
theorem dX13_isSafe_11 : decode cX13_isSafe 11 = .ok (.iaload, 1) := dk_46 (dk_at dksX13_isSafe_0 11 rfl rfl)
theorem dX13_isSafe_12 : decode cX13_isSafe 12 = .ok (.istore_n 3, 1) := dk_62 (dk_at dksX13_isSafe_0 12 rfl rfl)
theorem dX13_isSafe_13 : decode cX13_isSafe 13 = .ok (.aload_n 0, 1) := dk_42 (dk_at dksX13_isSafe_0 13 rfl rfl)
theorem dX13_isSafe_14 : decode cX13_isSafe 14 = .ok (.getfield 11, 3) := dk_180 0 11 (dk_at dksX13_isSafe_0 14 rfl rfl)
theorem dX13_isSafe_17 : decode cX13_isSafe 17 = .ok (.sipush 321, 3) := dk_17 1 65 (dk_at dksX13_isSafe_0 17 rfl rfl)
theorem dX13_isSafe_20 : decode cX13_isSafe 20 = .ok (.iconst 3, 1) := dk_6 (dk_at dksX13_isSafe_0 20 rfl rfl)
theorem dX13_isSafe_21 : decode cX13_isSafe 21 = .ok (.iload_n 2, 1) := dk_28 (dk_at dksX13_isSafe_0 21 rfl rfl)
theorem dX13_isSafe_22 : decode cX13_isSafe 22 = .ok (.imul, 1) := dk_104 (dk_at dksX13_isSafe_0 22 rfl rfl)
theorem dX13_isSafe_23 : decode cX13_isSafe 23 = .ok (.iadd, 1) := dk_96 (dk_at dksX13_isSafe_0 23 rfl rfl)
theorem dX13_isSafe_24 : decode cX13_isSafe 24 = .ok (.iaload, 1) := dk_46 (dk_at dksX13_isSafe_1 0 rfl rfl)
theorem dX13_isSafe_25 : decode cX13_isSafe 25 = .ok (.istore 4, 2) := dk_54 4 (dk_at dksX13_isSafe_1 1 rfl rfl)
theorem dX13_isSafe_27 : decode cX13_isSafe 27 = .ok (.aload_n 0, 1) := dk_42 (dk_at dksX13_isSafe_1 3 rfl rfl)
theorem dX13_isSafe_28 : decode cX13_isSafe 28 = .ok (.iload_n 3, 1) := dk_29 (dk_at dksX13_isSafe_1 4 rfl rfl)
theorem dX13_isSafe_29 : decode cX13_isSafe 29 = .ok (.iload 4, 2) := dk_21 4 (dk_at dksX13_isSafe_1 5 rfl rfl)
theorem dX13_isSafe_31 : decode cX13_isSafe 31 = .ok (.invokevirtual 81, 3) := dk_182 0 81 (dk_at dksX13_isSafe_1 7 rfl rfl)
theorem dX13_isSafe_34 : decode cX13_isSafe 34 = .ok (.ifCond .eq 91, 3) := dk_153 0 91 (dk_at dksX13_isSafe_1 10 rfl rfl)
theorem dX13_isSafe_37 : decode cX13_isSafe 37 = .ok (.aload_n 0, 1) := dk_42 (dk_at dksX13_isSafe_1 13 rfl rfl)
theorem dX13_isSafe_38 : decode cX13_isSafe 38 = .ok (.getfield 11, 3) := dk_180 0 11 (dk_at dksX13_isSafe_1 14 rfl rfl)
theorem dX13_isSafe_41 : decode cX13_isSafe 41 = .ok (.sipush 321, 3) := dk_17 1 65 (dk_at dksX13_isSafe_1 17 rfl rfl)
theorem dX13_isSafe_44 : decode cX13_isSafe 44 = .ok (.iconst 3, 1) := dk_6 (dk_at dksX13_isSafe_1 20 rfl rfl)
theorem dX13_isSafe_45 : decode cX13_isSafe 45 = .ok (.iload_n 1, 1) := dk_27 (dk_at dksX13_isSafe_1 21 rfl rfl)
theorem dX13_isSafe_46 : decode cX13_isSafe 46 = .ok (.imul, 1) := dk_104 (dk_at dksX13_isSafe_1 22 rfl rfl)
theorem dX13_isSafe_47 : decode cX13_isSafe 47 = .ok (.iadd, 1) := dk_96 (dk_at dksX13_isSafe_1 23 rfl rfl)
theorem dX13_isSafe_48 : decode cX13_isSafe 48 = .ok (.iconst 1, 1) := dk_4 (dk_at dksX13_isSafe_2 0 rfl rfl)
theorem dX13_isSafe_49 : decode cX13_isSafe 49 = .ok (.iadd, 1) := dk_96 (dk_at dksX13_isSafe_2 1 rfl rfl)
theorem dX13_isSafe_50 : decode cX13_isSafe 50 = .ok (.iaload, 1) := dk_46 (dk_at dksX13_isSafe_2 2 rfl rfl)
theorem dX13_isSafe_51 : decode cX13_isSafe 51 = .ok (.aload_n 0, 1) := dk_42 (dk_at dksX13_isSafe_2 3 rfl rfl)
theorem dX13_isSafe_52 : decode cX13_isSafe 52 = .ok (.getfield 11, 3) := dk_180 0 11 (dk_at dksX13_isSafe_2 4 rfl rfl)
theorem dX13_isSafe_55 : decode cX13_isSafe 55 = .ok (.sipush 321, 3) := dk_17 1 65 (dk_at dksX13_isSafe_2 7 rfl rfl)
theorem dX13_isSafe_58 : decode cX13_isSafe 58 = .ok (.iconst 3, 1) := dk_6 (dk_at dksX13_isSafe_2 10 rfl rfl)
theorem dX13_isSafe_59 : decode cX13_isSafe 59 = .ok (.iload_n 2, 1) := dk_28 (dk_at dksX13_isSafe_2 11 rfl rfl)
theorem dX13_isSafe_60 : decode cX13_isSafe 60 = .ok (.imul, 1) := dk_104 (dk_at dksX13_isSafe_2 12 rfl rfl)
theorem dX13_isSafe_61 : decode cX13_isSafe 61 = .ok (.iadd, 1) := dk_96 (dk_at dksX13_isSafe_2 13 rfl rfl)
theorem dX13_isSafe_62 : decode cX13_isSafe 62 = .ok (.iconst 2, 1) := dk_5 (dk_at dksX13_isSafe_2 14 rfl rfl)
theorem dX13_isSafe_63 : decode cX13_isSafe 63 = .ok (.iadd, 1) := dk_96 (dk_at dksX13_isSafe_2 15 rfl rfl)
theorem dX13_isSafe_64 : decode cX13_isSafe 64 = .ok (.iaload, 1) := dk_46 (dk_at dksX13_isSafe_2 16 rfl rfl)
theorem dX13_isSafe_65 : decode cX13_isSafe 65 = .ok (.isub, 1) := dk_100 (dk_at dksX13_isSafe_2 17 rfl rfl)
theorem dX13_isSafe_66 : decode cX13_isSafe 66 = .ok (.aload_n 0, 1) := dk_42 (dk_at dksX13_isSafe_2 18 rfl rfl)
theorem dX13_isSafe_67 : decode cX13_isSafe 67 = .ok (.getfield 21, 3) := dk_180 0 21 (dk_at dksX13_isSafe_2 19 rfl rfl)
theorem dX13_isSafe_70 : decode cX13_isSafe 70 = .ok (.bipush 8, 2) := dk_16 8 (dk_at dksX13_isSafe_2 22 rfl rfl)
theorem dX13_isSafe_72 : decode cX13_isSafe 72 = .ok (.iload 4, 2) := dk_21 4 (dk_at dksX13_isSafe_3 0 rfl rfl)
theorem dX13_isSafe_74 : decode cX13_isSafe 74 = .ok (.imul, 1) := dk_104 (dk_at dksX13_isSafe_3 2 rfl rfl)
theorem dX13_isSafe_75 : decode cX13_isSafe 75 = .ok (.iload_n 3, 1) := dk_29 (dk_at dksX13_isSafe_3 3 rfl rfl)
theorem dX13_isSafe_76 : decode cX13_isSafe 76 = .ok (.iadd, 1) := dk_96 (dk_at dksX13_isSafe_3 4 rfl rfl)
theorem dX13_isSafe_77 : decode cX13_isSafe 77 = .ok (.iaload, 1) := dk_46 (dk_at dksX13_isSafe_3 5 rfl rfl)
theorem dX13_isSafe_78 : decode cX13_isSafe 78 = .ok (.if_icmp .ge 47, 3) := dk_162 0 47 (dk_at dksX13_isSafe_3 6 rfl rfl)
theorem dX13_isSafe_81 : decode cX13_isSafe 81 = .ok (.aload_n 0, 1) := dk_42 (dk_at dksX13_isSafe_3 9 rfl rfl)
theorem dX13_isSafe_82 : decode cX13_isSafe 82 = .ok (.getfield 11, 3) := dk_180 0 11 (dk_at dksX13_isSafe_3 10 rfl rfl)
theorem dX13_isSafe_85 : decode cX13_isSafe 85 = .ok (.sipush 321, 3) := dk_17 1 65 (dk_at dksX13_isSafe_3 13 rfl rfl)
theorem dX13_isSafe_88 : decode cX13_isSafe 88 = .ok (.iconst 3, 1) := dk_6 (dk_at dksX13_isSafe_3 16 rfl rfl)
theorem dX13_isSafe_89 : decode cX13_isSafe 89 = .ok (.iload_n 2, 1) := dk_28 (dk_at dksX13_isSafe_3 17 rfl rfl)
theorem dX13_isSafe_90 : decode cX13_isSafe 90 = .ok (.imul, 1) := dk_104 (dk_at dksX13_isSafe_3 18 rfl rfl)
theorem dX13_isSafe_91 : decode cX13_isSafe 91 = .ok (.iadd, 1) := dk_96 (dk_at dksX13_isSafe_3 19 rfl rfl)
theorem dX13_isSafe_92 : decode cX13_isSafe 92 = .ok (.iconst 1, 1) := dk_4 (dk_at dksX13_isSafe_3 20 rfl rfl)
theorem dX13_isSafe_93 : decode cX13_isSafe 93 = .ok (.iadd, 1) := dk_96 (dk_at dksX13_isSafe_3 21 rfl rfl)
theorem dX13_isSafe_94 : decode cX13_isSafe 94 = .ok (.iaload, 1) := dk_46 (dk_at dksX13_isSafe_3 22 rfl rfl)
theorem dX13_isSafe_95 : decode cX13_isSafe 95 = .ok (.aload_n 0, 1) := dk_42 (dk_at dksX13_isSafe_3 23 rfl rfl)
theorem dX13_isSafe_96 : decode cX13_isSafe 96 = .ok (.getfield 11, 3) := dk_180 0 11 (dk_at dksX13_isSafe_4 0 rfl rfl)
theorem dX13_isSafe_99 : decode cX13_isSafe 99 = .ok (.sipush 321, 3) := dk_17 1 65 (dk_at dksX13_isSafe_4 3 rfl rfl)
theorem dX13_isSafe_102 : decode cX13_isSafe 102 = .ok (.iconst 3, 1) := dk_6 (dk_at dksX13_isSafe_4 6 rfl rfl)
theorem dX13_isSafe_103 : decode cX13_isSafe 103 = .ok (.iload_n 1, 1) := dk_27 (dk_at dksX13_isSafe_4 7 rfl rfl)
theorem dX13_isSafe_104 : decode cX13_isSafe 104 = .ok (.imul, 1) := dk_104 (dk_at dksX13_isSafe_4 8 rfl rfl)
theorem dX13_isSafe_105 : decode cX13_isSafe 105 = .ok (.iadd, 1) := dk_96 (dk_at dksX13_isSafe_4 9 rfl rfl)
theorem dX13_isSafe_106 : decode cX13_isSafe 106 = .ok (.iconst 2, 1) := dk_5 (dk_at dksX13_isSafe_4 10 rfl rfl)
theorem dX13_isSafe_107 : decode cX13_isSafe 107 = .ok (.iadd, 1) := dk_96 (dk_at dksX13_isSafe_4 11 rfl rfl)
theorem dX13_isSafe_108 : decode cX13_isSafe 108 = .ok (.iaload, 1) := dk_46 (dk_at dksX13_isSafe_4 12 rfl rfl)
theorem dX13_isSafe_109 : decode cX13_isSafe 109 = .ok (.isub, 1) := dk_100 (dk_at dksX13_isSafe_4 13 rfl rfl)
theorem dX13_isSafe_110 : decode cX13_isSafe 110 = .ok (.aload_n 0, 1) := dk_42 (dk_at dksX13_isSafe_4 14 rfl rfl)
theorem dX13_isSafe_111 : decode cX13_isSafe 111 = .ok (.getfield 21, 3) := dk_180 0 21 (dk_at dksX13_isSafe_4 15 rfl rfl)
theorem dX13_isSafe_114 : decode cX13_isSafe 114 = .ok (.bipush 8, 2) := dk_16 8 (dk_at dksX13_isSafe_4 18 rfl rfl)
theorem dX13_isSafe_116 : decode cX13_isSafe 116 = .ok (.iload_n 3, 1) := dk_29 (dk_at dksX13_isSafe_4 20 rfl rfl)
theorem dX13_isSafe_117 : decode cX13_isSafe 117 = .ok (.imul, 1) := dk_104 (dk_at dksX13_isSafe_4 21 rfl rfl)
theorem dX13_isSafe_118 : decode cX13_isSafe 118 = .ok (.iload 4, 2) := dk_21 4 (dk_at dksX13_isSafe_4 22 rfl rfl)
theorem dX13_isSafe_120 : decode cX13_isSafe 120 = .ok (.iadd, 1) := dk_96 (dk_at dksX13_isSafe_5 0 rfl rfl)
theorem dX13_isSafe_121 : decode cX13_isSafe 121 = .ok (.iaload, 1) := dk_46 (dk_at dksX13_isSafe_5 1 rfl rfl)
theorem dX13_isSafe_122 : decode cX13_isSafe 122 = .ok (.if_icmp .lt 7, 3) := dk_161 0 7 (dk_at dksX13_isSafe_5 2 rfl rfl)
theorem dX13_isSafe_125 : decode cX13_isSafe 125 = .ok (.iconst 1, 1) := dk_4 (dk_at dksX13_isSafe_5 5 rfl rfl)
theorem dX13_isSafe_126 : decode cX13_isSafe 126 = .ok (.goto 4, 3) := dk_167 0 4 (dk_at dksX13_isSafe_5 6 rfl rfl)
theorem dX13_isSafe_129 : decode cX13_isSafe 129 = .ok (.iconst 0, 1) := dk_3 (dk_at dksX13_isSafe_5 9 rfl rfl)
theorem dX13_isSafe_130 : decode cX13_isSafe 130 = .ok (.ireturn, 1) := dk_172 (dk_at dksX13_isSafe_5 10 rfl rfl)
abbrev cX13_wave : ByteArray := prog_22_method_80_code
def yX13_wave : MethodName := ⟨RX13, "wave", "(I)I"⟩
def dkwX13_wave_1 : List UInt8 := [180, 0, 11, 16, 16, 27, 79, 42, 180, 0, 11, 16, 17, 3, 79, 28, 172]
abbrev dktX13_wave_1 : List UInt8 := dkwX13_wave_1 ++ []
def dkwX13_wave_0 : List UInt8 := [27, 16, 20, 16, 60, 184, 0, 49, 154, 0, 6, 16, 254, 172, 42, 180, 0, 11, 16, 16, 46, 61, 42]
abbrev dktX13_wave_0 : List UInt8 := dkwX13_wave_0 ++ dktX13_wave_1
theorem dksX13_wave_0 : cX13_wave.data.toList.drop 0 = dktX13_wave_0 := by decide +kernel
theorem dksX13_wave_1 : cX13_wave.data.toList.drop 23 = dktX13_wave_1 := dk_seg dksX13_wave_0 23 rfl rfl
theorem dX13_wave_0 : decode cX13_wave 0 = .ok (.iload_n 1, 1) := dk_27 (dk_at dksX13_wave_0 0 rfl rfl)
theorem dX13_wave_1 : decode cX13_wave 1 = .ok (.bipush 20, 2) := dk_16 20 (dk_at dksX13_wave_0 1 rfl rfl)
theorem dX13_wave_3 : decode cX13_wave 3 = .ok (.bipush 60, 2) := dk_16 60 (dk_at dksX13_wave_0 3 rfl rfl)
theorem dX13_wave_5 : decode cX13_wave 5 = .ok (.invokestatic 49, 3) := dk_184 0 49 (dk_at dksX13_wave_0 5 rfl rfl)
theorem dX13_wave_8 : decode cX13_wave 8 = .ok (.ifCond .ne 6, 3) := dk_154 0 6 (dk_at dksX13_wave_0 8 rfl rfl)
theorem dX13_wave_11 : decode cX13_wave 11 = .ok (.bipush (-2), 2) := dk_16 254 (dk_at dksX13_wave_0 11 rfl rfl)
theorem dX13_wave_13 : decode cX13_wave 13 = .ok (.ireturn, 1) := dk_172 (dk_at dksX13_wave_0 13 rfl rfl)
theorem dX13_wave_14 : decode cX13_wave 14 = .ok (.aload_n 0, 1) := dk_42 (dk_at dksX13_wave_0 14 rfl rfl)
theorem dX13_wave_15 : decode cX13_wave 15 = .ok (.getfield 11, 3) := dk_180 0 11 (dk_at dksX13_wave_0 15 rfl rfl)
theorem dX13_wave_18 : decode cX13_wave 18 = .ok (.bipush 16, 2) := dk_16 16 (dk_at dksX13_wave_0 18 rfl rfl)
theorem dX13_wave_20 : decode cX13_wave 20 = .ok (.iaload, 1) := dk_46 (dk_at dksX13_wave_0 20 rfl rfl)
theorem dX13_wave_21 : decode cX13_wave 21 = .ok (.istore_n 2, 1) := dk_61 (dk_at dksX13_wave_0 21 rfl rfl)
theorem dX13_wave_22 : decode cX13_wave 22 = .ok (.aload_n 0, 1) := dk_42 (dk_at dksX13_wave_0 22 rfl rfl)
theorem dX13_wave_23 : decode cX13_wave 23 = .ok (.getfield 11, 3) := dk_180 0 11 (dk_at dksX13_wave_1 0 rfl rfl)
theorem dX13_wave_26 : decode cX13_wave 26 = .ok (.bipush 16, 2) := dk_16 16 (dk_at dksX13_wave_1 3 rfl rfl)
theorem dX13_wave_28 : decode cX13_wave 28 = .ok (.iload_n 1, 1) := dk_27 (dk_at dksX13_wave_1 5 rfl rfl)
theorem dX13_wave_29 : decode cX13_wave 29 = .ok (.iastore, 1) := dk_79 (dk_at dksX13_wave_1 6 rfl rfl)
theorem dX13_wave_30 : decode cX13_wave 30 = .ok (.aload_n 0, 1) := dk_42 (dk_at dksX13_wave_1 7 rfl rfl)
theorem dX13_wave_31 : decode cX13_wave 31 = .ok (.getfield 11, 3) := dk_180 0 11 (dk_at dksX13_wave_1 8 rfl rfl)
theorem dX13_wave_34 : decode cX13_wave 34 = .ok (.bipush 17, 2) := dk_16 17 (dk_at dksX13_wave_1 11 rfl rfl)
theorem dX13_wave_36 : decode cX13_wave 36 = .ok (.iconst 0, 1) := dk_3 (dk_at dksX13_wave_1 13 rfl rfl)
theorem dX13_wave_37 : decode cX13_wave 37 = .ok (.iastore, 1) := dk_79 (dk_at dksX13_wave_1 14 rfl rfl)
theorem dX13_wave_38 : decode cX13_wave 38 = .ok (.iload_n 2, 1) := dk_28 (dk_at dksX13_wave_1 15 rfl rfl)
theorem dX13_wave_39 : decode cX13_wave 39 = .ok (.ireturn, 1) := dk_172 (dk_at dksX13_wave_1 16 rfl rfl)
abbrev cX13_node : ByteArray := prog_22_method_82_code
def yX13_node : MethodName := ⟨RX13, "node", "(III)I"⟩
def dkwX13_node_4 : List UInt8 := [4, 96, 79, 42, 180, 0, 11, 16, 17, 46, 4, 100, 172]
abbrev dktX13_node_4 : List UInt8 := dkwX13_node_4 ++ []
def dkwX13_node_3 : List UInt8 := [21, 4, 4, 96, 28, 79, 42, 180, 0, 11, 21, 4, 5, 96, 29, 79, 42, 180, 0, 11, 16, 17, 92, 46]
abbrev dktX13_node_3 : List UInt8 := dkwX13_node_3 ++ dktX13_node_4
def dkwX13_node_2 : List UInt8 := [42, 180, 0, 11, 16, 17, 46, 104, 96, 54, 4, 42, 180, 0, 11, 21, 4, 27, 79, 42, 180, 0, 11]
abbrev dktX13_node_2 : List UInt8 := dkwX13_node_2 ++ dktX13_node_3
def dkwX13_node_1 : List UInt8 := [154, 0, 6, 16, 254, 172, 42, 180, 0, 11, 16, 17, 46, 8, 160, 0, 6, 16, 252, 172, 17, 1, 50, 6]
abbrev dktX13_node_1 : List UInt8 := dkwX13_node_1 ++ dktX13_node_2
def dkwX13_node_0 : List UInt8 := [42, 3, 27, 182, 0, 231, 153, 0, 21, 42, 4, 28, 182, 0, 231, 153, 0, 12, 42, 5, 29, 182, 0, 231]
abbrev dktX13_node_0 : List UInt8 := dkwX13_node_0 ++ dktX13_node_1
theorem dksX13_node_0 : cX13_node.data.toList.drop 0 = dktX13_node_0 := by decide +kernel
theorem dksX13_node_1 : cX13_node.data.toList.drop 24 = dktX13_node_1 := dk_seg dksX13_node_0 24 rfl rfl
theorem dksX13_node_2 : cX13_node.data.toList.drop 48 = dktX13_node_2 := dk_seg dksX13_node_1 24 rfl rfl
theorem dksX13_node_3 : cX13_node.data.toList.drop 71 = dktX13_node_3 := dk_seg dksX13_node_2 23 rfl rfl
theorem dksX13_node_4 : cX13_node.data.toList.drop 95 = dktX13_node_4 := dk_seg dksX13_node_3 24 rfl rfl
theorem dX13_node_0 : decode cX13_node 0 = .ok (.aload_n 0, 1) := dk_42 (dk_at dksX13_node_0 0 rfl rfl)
theorem dX13_node_1 : decode cX13_node 1 = .ok (.iconst 0, 1) := dk_3 (dk_at dksX13_node_0 1 rfl rfl)
theorem dX13_node_2 : decode cX13_node 2 = .ok (.iload_n 1, 1) := dk_27 (dk_at dksX13_node_0 2 rfl rfl)
theorem dX13_node_3 : decode cX13_node 3 = .ok (.invokevirtual 231, 3) := dk_182 0 231 (dk_at dksX13_node_0 3 rfl rfl)
theorem dX13_node_6 : decode cX13_node 6 = .ok (.ifCond .eq 21, 3) := dk_153 0 21 (dk_at dksX13_node_0 6 rfl rfl)
theorem dX13_node_9 : decode cX13_node 9 = .ok (.aload_n 0, 1) := dk_42 (dk_at dksX13_node_0 9 rfl rfl)
theorem dX13_node_10 : decode cX13_node 10 = .ok (.iconst 1, 1) := dk_4 (dk_at dksX13_node_0 10 rfl rfl)
theorem dX13_node_11 : decode cX13_node 11 = .ok (.iload_n 2, 1) := dk_28 (dk_at dksX13_node_0 11 rfl rfl)
theorem dX13_node_12 : decode cX13_node 12 = .ok (.invokevirtual 231, 3) := dk_182 0 231 (dk_at dksX13_node_0 12 rfl rfl)
theorem dX13_node_15 : decode cX13_node 15 = .ok (.ifCond .eq 12, 3) := dk_153 0 12 (dk_at dksX13_node_0 15 rfl rfl)
theorem dX13_node_18 : decode cX13_node 18 = .ok (.aload_n 0, 1) := dk_42 (dk_at dksX13_node_0 18 rfl rfl)
theorem dX13_node_19 : decode cX13_node 19 = .ok (.iconst 2, 1) := dk_5 (dk_at dksX13_node_0 19 rfl rfl)
theorem dX13_node_20 : decode cX13_node 20 = .ok (.iload_n 3, 1) := dk_29 (dk_at dksX13_node_0 20 rfl rfl)
theorem dX13_node_21 : decode cX13_node 21 = .ok (.invokevirtual 231, 3) := dk_182 0 231 (dk_at dksX13_node_0 21 rfl rfl)
theorem dX13_node_24 : decode cX13_node 24 = .ok (.ifCond .ne 6, 3) := dk_154 0 6 (dk_at dksX13_node_1 0 rfl rfl)
theorem dX13_node_27 : decode cX13_node 27 = .ok (.bipush (-2), 2) := dk_16 254 (dk_at dksX13_node_1 3 rfl rfl)
theorem dX13_node_29 : decode cX13_node 29 = .ok (.ireturn, 1) := dk_172 (dk_at dksX13_node_1 5 rfl rfl)
theorem dX13_node_30 : decode cX13_node 30 = .ok (.aload_n 0, 1) := dk_42 (dk_at dksX13_node_1 6 rfl rfl)
theorem dX13_node_31 : decode cX13_node 31 = .ok (.getfield 11, 3) := dk_180 0 11 (dk_at dksX13_node_1 7 rfl rfl)
theorem dX13_node_34 : decode cX13_node 34 = .ok (.bipush 17, 2) := dk_16 17 (dk_at dksX13_node_1 10 rfl rfl)
theorem dX13_node_36 : decode cX13_node 36 = .ok (.iaload, 1) := dk_46 (dk_at dksX13_node_1 12 rfl rfl)
theorem dX13_node_37 : decode cX13_node 37 = .ok (.iconst 5, 1) := dk_8 (dk_at dksX13_node_1 13 rfl rfl)
theorem dX13_node_38 : decode cX13_node 38 = .ok (.if_icmp .ne 6, 3) := dk_160 0 6 (dk_at dksX13_node_1 14 rfl rfl)
theorem dX13_node_41 : decode cX13_node 41 = .ok (.bipush (-4), 2) := dk_16 252 (dk_at dksX13_node_1 17 rfl rfl)
theorem dX13_node_43 : decode cX13_node 43 = .ok (.ireturn, 1) := dk_172 (dk_at dksX13_node_1 19 rfl rfl)
theorem dX13_node_44 : decode cX13_node 44 = .ok (.sipush 306, 3) := dk_17 1 50 (dk_at dksX13_node_1 20 rfl rfl)
theorem dX13_node_47 : decode cX13_node 47 = .ok (.iconst 3, 1) := dk_6 (dk_at dksX13_node_1 23 rfl rfl)
theorem dX13_node_48 : decode cX13_node 48 = .ok (.aload_n 0, 1) := dk_42 (dk_at dksX13_node_2 0 rfl rfl)
theorem dX13_node_49 : decode cX13_node 49 = .ok (.getfield 11, 3) := dk_180 0 11 (dk_at dksX13_node_2 1 rfl rfl)
theorem dX13_node_52 : decode cX13_node 52 = .ok (.bipush 17, 2) := dk_16 17 (dk_at dksX13_node_2 4 rfl rfl)
theorem dX13_node_54 : decode cX13_node 54 = .ok (.iaload, 1) := dk_46 (dk_at dksX13_node_2 6 rfl rfl)
theorem dX13_node_55 : decode cX13_node 55 = .ok (.imul, 1) := dk_104 (dk_at dksX13_node_2 7 rfl rfl)
theorem dX13_node_56 : decode cX13_node 56 = .ok (.iadd, 1) := dk_96 (dk_at dksX13_node_2 8 rfl rfl)
theorem dX13_node_57 : decode cX13_node 57 = .ok (.istore 4, 2) := dk_54 4 (dk_at dksX13_node_2 9 rfl rfl)
theorem dX13_node_59 : decode cX13_node 59 = .ok (.aload_n 0, 1) := dk_42 (dk_at dksX13_node_2 11 rfl rfl)
theorem dX13_node_60 : decode cX13_node 60 = .ok (.getfield 11, 3) := dk_180 0 11 (dk_at dksX13_node_2 12 rfl rfl)
theorem dX13_node_63 : decode cX13_node 63 = .ok (.iload 4, 2) := dk_21 4 (dk_at dksX13_node_2 15 rfl rfl)
theorem dX13_node_65 : decode cX13_node 65 = .ok (.iload_n 1, 1) := dk_27 (dk_at dksX13_node_2 17 rfl rfl)
theorem dX13_node_66 : decode cX13_node 66 = .ok (.iastore, 1) := dk_79 (dk_at dksX13_node_2 18 rfl rfl)
theorem dX13_node_67 : decode cX13_node 67 = .ok (.aload_n 0, 1) := dk_42 (dk_at dksX13_node_2 19 rfl rfl)
theorem dX13_node_68 : decode cX13_node 68 = .ok (.getfield 11, 3) := dk_180 0 11 (dk_at dksX13_node_2 20 rfl rfl)
theorem dX13_node_71 : decode cX13_node 71 = .ok (.iload 4, 2) := dk_21 4 (dk_at dksX13_node_3 0 rfl rfl)
theorem dX13_node_73 : decode cX13_node 73 = .ok (.iconst 1, 1) := dk_4 (dk_at dksX13_node_3 2 rfl rfl)
theorem dX13_node_74 : decode cX13_node 74 = .ok (.iadd, 1) := dk_96 (dk_at dksX13_node_3 3 rfl rfl)
theorem dX13_node_75 : decode cX13_node 75 = .ok (.iload_n 2, 1) := dk_28 (dk_at dksX13_node_3 4 rfl rfl)
theorem dX13_node_76 : decode cX13_node 76 = .ok (.iastore, 1) := dk_79 (dk_at dksX13_node_3 5 rfl rfl)
theorem dX13_node_77 : decode cX13_node 77 = .ok (.aload_n 0, 1) := dk_42 (dk_at dksX13_node_3 6 rfl rfl)
theorem dX13_node_78 : decode cX13_node 78 = .ok (.getfield 11, 3) := dk_180 0 11 (dk_at dksX13_node_3 7 rfl rfl)
theorem dX13_node_81 : decode cX13_node 81 = .ok (.iload 4, 2) := dk_21 4 (dk_at dksX13_node_3 10 rfl rfl)
theorem dX13_node_83 : decode cX13_node 83 = .ok (.iconst 2, 1) := dk_5 (dk_at dksX13_node_3 12 rfl rfl)
theorem dX13_node_84 : decode cX13_node 84 = .ok (.iadd, 1) := dk_96 (dk_at dksX13_node_3 13 rfl rfl)
theorem dX13_node_85 : decode cX13_node 85 = .ok (.iload_n 3, 1) := dk_29 (dk_at dksX13_node_3 14 rfl rfl)
theorem dX13_node_86 : decode cX13_node 86 = .ok (.iastore, 1) := dk_79 (dk_at dksX13_node_3 15 rfl rfl)
theorem dX13_node_87 : decode cX13_node 87 = .ok (.aload_n 0, 1) := dk_42 (dk_at dksX13_node_3 16 rfl rfl)
theorem dX13_node_88 : decode cX13_node 88 = .ok (.getfield 11, 3) := dk_180 0 11 (dk_at dksX13_node_3 17 rfl rfl)
theorem dX13_node_91 : decode cX13_node 91 = .ok (.bipush 17, 2) := dk_16 17 (dk_at dksX13_node_3 20 rfl rfl)
theorem dX13_node_93 : decode cX13_node 93 = .ok (.dup2, 1) := dk_92 (dk_at dksX13_node_3 22 rfl rfl)
theorem dX13_node_94 : decode cX13_node 94 = .ok (.iaload, 1) := dk_46 (dk_at dksX13_node_3 23 rfl rfl)
theorem dX13_node_95 : decode cX13_node 95 = .ok (.iconst 1, 1) := dk_4 (dk_at dksX13_node_4 0 rfl rfl)
theorem dX13_node_96 : decode cX13_node 96 = .ok (.iadd, 1) := dk_96 (dk_at dksX13_node_4 1 rfl rfl)
theorem dX13_node_97 : decode cX13_node 97 = .ok (.iastore, 1) := dk_79 (dk_at dksX13_node_4 2 rfl rfl)
theorem dX13_node_98 : decode cX13_node 98 = .ok (.aload_n 0, 1) := dk_42 (dk_at dksX13_node_4 3 rfl rfl)
theorem dX13_node_99 : decode cX13_node 99 = .ok (.getfield 11, 3) := dk_180 0 11 (dk_at dksX13_node_4 4 rfl rfl)
theorem dX13_node_102 : decode cX13_node 102 = .ok (.bipush 17, 2) := dk_16 17 (dk_at dksX13_node_4 7 rfl rfl)
theorem dX13_node_104 : decode cX13_node 104 = .ok (.iaload, 1) := dk_46 (dk_at dksX13_node_4 9 rfl rfl)
theorem dX13_node_105 : decode cX13_node 105 = .ok (.iconst 1, 1) := dk_4 (dk_at dksX13_node_4 10 rfl rfl)
theorem dX13_node_106 : decode cX13_node 106 = .ok (.isub, 1) := dk_100 (dk_at dksX13_node_4 11 rfl rfl)
theorem dX13_node_107 : decode cX13_node 107 = .ok (.ireturn, 1) := dk_172 (dk_at dksX13_node_4 12 rfl rfl)
abbrev cX13_mayBe : ByteArray := prog_22_method_81_code
def yX13_mayBe : MethodName := ⟨RX13, "mayBe", "(II)Z"⟩
def dkwX13_mayBe_2 : List UInt8 := [184, 0, 49, 172]
abbrev dktX13_mayBe_2 : List UInt8 := dkwX13_mayBe_2 ++ []
def dkwX13_mayBe_1 : List UInt8 := [160, 0, 18, 28, 4, 42, 180, 0, 11, 16, 16, 46, 184, 0, 49, 167, 0, 10, 28, 3, 16, 99]
abbrev dktX13_mayBe_1 : List UInt8 := dkwX13_mayBe_1 ++ dktX13_mayBe_2
def dkwX13_mayBe_0 : List UInt8 := [27, 154, 0, 20, 28, 3, 42, 180, 0, 11, 16, 16, 46, 4, 100, 184, 0, 49, 167, 0, 30, 27, 4]
abbrev dktX13_mayBe_0 : List UInt8 := dkwX13_mayBe_0 ++ dktX13_mayBe_1
theorem dksX13_mayBe_0 : cX13_mayBe.data.toList.drop 0 = dktX13_mayBe_0 := by decide +kernel
theorem dksX13_mayBe_1 : cX13_mayBe.data.toList.drop 23 = dktX13_mayBe_1 := dk_seg dksX13_mayBe_0 23 rfl rfl
theorem dksX13_mayBe_2 : cX13_mayBe.data.toList.drop 45 = dktX13_mayBe_2 := dk_seg dksX13_mayBe_1 22 rfl rfl
theorem dX13_mayBe_0 : decode cX13_mayBe 0 = .ok (.iload_n 1, 1) := dk_27 (dk_at dksX13_mayBe_0 0 rfl rfl)
theorem dX13_mayBe_1 : decode cX13_mayBe 1 = .ok (.ifCond .ne 20, 3) := dk_154 0 20 (dk_at dksX13_mayBe_0 1 rfl rfl)
theorem dX13_mayBe_4 : decode cX13_mayBe 4 = .ok (.iload_n 2, 1) := dk_28 (dk_at dksX13_mayBe_0 4 rfl rfl)
theorem dX13_mayBe_5 : decode cX13_mayBe 5 = .ok (.iconst 0, 1) := dk_3 (dk_at dksX13_mayBe_0 5 rfl rfl)
theorem dX13_mayBe_6 : decode cX13_mayBe 6 = .ok (.aload_n 0, 1) := dk_42 (dk_at dksX13_mayBe_0 6 rfl rfl)
theorem dX13_mayBe_7 : decode cX13_mayBe 7 = .ok (.getfield 11, 3) := dk_180 0 11 (dk_at dksX13_mayBe_0 7 rfl rfl)
theorem dX13_mayBe_10 : decode cX13_mayBe 10 = .ok (.bipush 16, 2) := dk_16 16 (dk_at dksX13_mayBe_0 10 rfl rfl)
theorem dX13_mayBe_12 : decode cX13_mayBe 12 = .ok (.iaload, 1) := dk_46 (dk_at dksX13_mayBe_0 12 rfl rfl)
theorem dX13_mayBe_13 : decode cX13_mayBe 13 = .ok (.iconst 1, 1) := dk_4 (dk_at dksX13_mayBe_0 13 rfl rfl)
theorem dX13_mayBe_14 : decode cX13_mayBe 14 = .ok (.isub, 1) := dk_100 (dk_at dksX13_mayBe_0 14 rfl rfl)
theorem dX13_mayBe_15 : decode cX13_mayBe 15 = .ok (.invokestatic 49, 3) := dk_184 0 49 (dk_at dksX13_mayBe_0 15 rfl rfl)
theorem dX13_mayBe_18 : decode cX13_mayBe 18 = .ok (.goto 30, 3) := dk_167 0 30 (dk_at dksX13_mayBe_0 18 rfl rfl)
theorem dX13_mayBe_21 : decode cX13_mayBe 21 = .ok (.iload_n 1, 1) := dk_27 (dk_at dksX13_mayBe_0 21 rfl rfl)
theorem dX13_mayBe_22 : decode cX13_mayBe 22 = .ok (.iconst 1, 1) := dk_4 (dk_at dksX13_mayBe_0 22 rfl rfl)
theorem dX13_mayBe_23 : decode cX13_mayBe 23 = .ok (.if_icmp .ne 18, 3) := dk_160 0 18 (dk_at dksX13_mayBe_1 0 rfl rfl)
theorem dX13_mayBe_26 : decode cX13_mayBe 26 = .ok (.iload_n 2, 1) := dk_28 (dk_at dksX13_mayBe_1 3 rfl rfl)
theorem dX13_mayBe_27 : decode cX13_mayBe 27 = .ok (.iconst 1, 1) := dk_4 (dk_at dksX13_mayBe_1 4 rfl rfl)
theorem dX13_mayBe_28 : decode cX13_mayBe 28 = .ok (.aload_n 0, 1) := dk_42 (dk_at dksX13_mayBe_1 5 rfl rfl)
theorem dX13_mayBe_29 : decode cX13_mayBe 29 = .ok (.getfield 11, 3) := dk_180 0 11 (dk_at dksX13_mayBe_1 6 rfl rfl)
theorem dX13_mayBe_32 : decode cX13_mayBe 32 = .ok (.bipush 16, 2) := dk_16 16 (dk_at dksX13_mayBe_1 9 rfl rfl)
theorem dX13_mayBe_34 : decode cX13_mayBe 34 = .ok (.iaload, 1) := dk_46 (dk_at dksX13_mayBe_1 11 rfl rfl)
theorem dX13_mayBe_35 : decode cX13_mayBe 35 = .ok (.invokestatic 49, 3) := dk_184 0 49 (dk_at dksX13_mayBe_1 12 rfl rfl)
theorem dX13_mayBe_38 : decode cX13_mayBe 38 = .ok (.goto 10, 3) := dk_167 0 10 (dk_at dksX13_mayBe_1 15 rfl rfl)
theorem dX13_mayBe_41 : decode cX13_mayBe 41 = .ok (.iload_n 2, 1) := dk_28 (dk_at dksX13_mayBe_1 18 rfl rfl)
theorem dX13_mayBe_42 : decode cX13_mayBe 42 = .ok (.iconst 0, 1) := dk_3 (dk_at dksX13_mayBe_1 19 rfl rfl)
theorem dX13_mayBe_43 : decode cX13_mayBe 43 = .ok (.bipush 99, 2) := dk_16 99 (dk_at dksX13_mayBe_1 20 rfl rfl)
theorem dX13_mayBe_45 : decode cX13_mayBe 45 = .ok (.invokestatic 49, 3) := dk_184 0 49 (dk_at dksX13_mayBe_2 0 rfl rfl)
theorem dX13_mayBe_48 : decode cX13_mayBe 48 = .ok (.ireturn, 1) := dk_172 (dk_at dksX13_mayBe_2 3 rfl rfl)
abbrev cX13_change : ByteArray := prog_22_method_84_code
def yX13_change : MethodName := ⟨RX13, "change", "(III)I"⟩
def dkwX13_change_2 : List UInt8 := [54, 4, 42, 180, 0, 11, 17, 1, 50, 6, 27, 104, 96, 28, 96, 29, 79, 21, 4, 172]
abbrev dktX13_change_2 : List UInt8 := dkwX13_change_2 ++ []
def dkwX13_change_1 : List UInt8 := [182, 0, 231, 154, 0, 6, 16, 254, 172, 42, 180, 0, 11, 17, 1, 50, 6, 27, 104, 96, 28, 96, 46]
abbrev dktX13_change_1 : List UInt8 := dkwX13_change_1 ++ dktX13_change_2
def dkwX13_change_0 : List UInt8 := [42, 27, 182, 0, 234, 153, 0, 12, 28, 3, 5, 184, 0, 49, 154, 0, 5, 2, 172, 42, 28, 29]
abbrev dktX13_change_0 : List UInt8 := dkwX13_change_0 ++ dktX13_change_1
theorem dksX13_change_0 : cX13_change.data.toList.drop 0 = dktX13_change_0 := by decide +kernel
theorem dksX13_change_1 : cX13_change.data.toList.drop 22 = dktX13_change_1 := dk_seg dksX13_change_0 22 rfl rfl
theorem dksX13_change_2 : cX13_change.data.toList.drop 45 = dktX13_change_2 := dk_seg dksX13_change_1 23 rfl rfl
theorem dX13_change_0 : decode cX13_change 0 = .ok (.aload_n 0, 1) := dk_42 (dk_at dksX13_change_0 0 rfl rfl)
theorem dX13_change_1 : decode cX13_change 1 = .ok (.iload_n 1, 1) := dk_27 (dk_at dksX13_change_0 1 rfl rfl)
theorem dX13_change_2 : decode cX13_change 2 = .ok (.invokevirtual 234, 3) := dk_182 0 234 (dk_at dksX13_change_0 2 rfl rfl)
theorem dX13_change_5 : decode cX13_change 5 = .ok (.ifCond .eq 12, 3) := dk_153 0 12 (dk_at dksX13_change_0 5 rfl rfl)
theorem dX13_change_8 : decode cX13_change 8 = .ok (.iload_n 2, 1) := dk_28 (dk_at dksX13_change_0 8 rfl rfl)
theorem dX13_change_9 : decode cX13_change 9 = .ok (.iconst 0, 1) := dk_3 (dk_at dksX13_change_0 9 rfl rfl)
theorem dX13_change_10 : decode cX13_change 10 = .ok (.iconst 2, 1) := dk_5 (dk_at dksX13_change_0 10 rfl rfl)
theorem dX13_change_11 : decode cX13_change 11 = .ok (.invokestatic 49, 3) := dk_184 0 49 (dk_at dksX13_change_0 11 rfl rfl)
theorem dX13_change_14 : decode cX13_change 14 = .ok (.ifCond .ne 5, 3) := dk_154 0 5 (dk_at dksX13_change_0 14 rfl rfl)
theorem dX13_change_17 : decode cX13_change 17 = .ok (.iconst (-1), 1) := dk_2 (dk_at dksX13_change_0 17 rfl rfl)
theorem dX13_change_18 : decode cX13_change 18 = .ok (.ireturn, 1) := dk_172 (dk_at dksX13_change_0 18 rfl rfl)
theorem dX13_change_19 : decode cX13_change 19 = .ok (.aload_n 0, 1) := dk_42 (dk_at dksX13_change_0 19 rfl rfl)
theorem dX13_change_20 : decode cX13_change 20 = .ok (.iload_n 2, 1) := dk_28 (dk_at dksX13_change_0 20 rfl rfl)
theorem dX13_change_21 : decode cX13_change 21 = .ok (.iload_n 3, 1) := dk_29 (dk_at dksX13_change_0 21 rfl rfl)
theorem dX13_change_22 : decode cX13_change 22 = .ok (.invokevirtual 231, 3) := dk_182 0 231 (dk_at dksX13_change_1 0 rfl rfl)
theorem dX13_change_25 : decode cX13_change 25 = .ok (.ifCond .ne 6, 3) := dk_154 0 6 (dk_at dksX13_change_1 3 rfl rfl)
theorem dX13_change_28 : decode cX13_change 28 = .ok (.bipush (-2), 2) := dk_16 254 (dk_at dksX13_change_1 6 rfl rfl)
theorem dX13_change_30 : decode cX13_change 30 = .ok (.ireturn, 1) := dk_172 (dk_at dksX13_change_1 8 rfl rfl)
theorem dX13_change_31 : decode cX13_change 31 = .ok (.aload_n 0, 1) := dk_42 (dk_at dksX13_change_1 9 rfl rfl)
theorem dX13_change_32 : decode cX13_change 32 = .ok (.getfield 11, 3) := dk_180 0 11 (dk_at dksX13_change_1 10 rfl rfl)
theorem dX13_change_35 : decode cX13_change 35 = .ok (.sipush 306, 3) := dk_17 1 50 (dk_at dksX13_change_1 13 rfl rfl)
theorem dX13_change_38 : decode cX13_change 38 = .ok (.iconst 3, 1) := dk_6 (dk_at dksX13_change_1 16 rfl rfl)
theorem dX13_change_39 : decode cX13_change 39 = .ok (.iload_n 1, 1) := dk_27 (dk_at dksX13_change_1 17 rfl rfl)
theorem dX13_change_40 : decode cX13_change 40 = .ok (.imul, 1) := dk_104 (dk_at dksX13_change_1 18 rfl rfl)
theorem dX13_change_41 : decode cX13_change 41 = .ok (.iadd, 1) := dk_96 (dk_at dksX13_change_1 19 rfl rfl)
theorem dX13_change_42 : decode cX13_change 42 = .ok (.iload_n 2, 1) := dk_28 (dk_at dksX13_change_1 20 rfl rfl)
theorem dX13_change_43 : decode cX13_change 43 = .ok (.iadd, 1) := dk_96 (dk_at dksX13_change_1 21 rfl rfl)
theorem dX13_change_44 : decode cX13_change 44 = .ok (.iaload, 1) := dk_46 (dk_at dksX13_change_1 22 rfl rfl)
theorem dX13_change_45 : decode cX13_change 45 = .ok (.istore 4, 2) := dk_54 4 (dk_at dksX13_change_2 0 rfl rfl)
theorem dX13_change_47 : decode cX13_change 47 = .ok (.aload_n 0, 1) := dk_42 (dk_at dksX13_change_2 2 rfl rfl)
theorem dX13_change_48 : decode cX13_change 48 = .ok (.getfield 11, 3) := dk_180 0 11 (dk_at dksX13_change_2 3 rfl rfl)
theorem dX13_change_51 : decode cX13_change 51 = .ok (.sipush 306, 3) := dk_17 1 50 (dk_at dksX13_change_2 6 rfl rfl)
theorem dX13_change_54 : decode cX13_change 54 = .ok (.iconst 3, 1) := dk_6 (dk_at dksX13_change_2 9 rfl rfl)
theorem dX13_change_55 : decode cX13_change 55 = .ok (.iload_n 1, 1) := dk_27 (dk_at dksX13_change_2 10 rfl rfl)
theorem dX13_change_56 : decode cX13_change 56 = .ok (.imul, 1) := dk_104 (dk_at dksX13_change_2 11 rfl rfl)
theorem dX13_change_57 : decode cX13_change 57 = .ok (.iadd, 1) := dk_96 (dk_at dksX13_change_2 12 rfl rfl)
theorem dX13_change_58 : decode cX13_change 58 = .ok (.iload_n 2, 1) := dk_28 (dk_at dksX13_change_2 13 rfl rfl)
theorem dX13_change_59 : decode cX13_change 59 = .ok (.iadd, 1) := dk_96 (dk_at dksX13_change_2 14 rfl rfl)
theorem dX13_change_60 : decode cX13_change 60 = .ok (.iload_n 3, 1) := dk_29 (dk_at dksX13_change_2 15 rfl rfl)
theorem dX13_change_61 : decode cX13_change 61 = .ok (.iastore, 1) := dk_79 (dk_at dksX13_change_2 16 rfl rfl)
theorem dX13_change_62 : decode cX13_change 62 = .ok (.iload 4, 2) := dk_21 4 (dk_at dksX13_change_2 17 rfl rfl)
theorem dX13_change_64 : decode cX13_change 64 = .ok (.ireturn, 1) := dk_172 (dk_at dksX13_change_2 19 rfl rfl)
abbrev cX13_isNode : ByteArray := prog_22_method_83_code
def yX13_isNode : MethodName := ⟨RX13, "isNode", "(I)Z"⟩
def dkwX13_isNode_0 : List UInt8 := [27, 3, 42, 180, 0, 11, 16, 17, 46, 4, 100, 184, 0, 49, 172]
abbrev dktX13_isNode_0 : List UInt8 := dkwX13_isNode_0 ++ []
theorem dksX13_isNode_0 : cX13_isNode.data.toList.drop 0 = dktX13_isNode_0 := by decide +kernel
theorem dX13_isNode_0 : decode cX13_isNode 0 = .ok (.iload_n 1, 1) := dk_27 (dk_at dksX13_isNode_0 0 rfl rfl)
theorem dX13_isNode_1 : decode cX13_isNode 1 = .ok (.iconst 0, 1) := dk_3 (dk_at dksX13_isNode_0 1 rfl rfl)
theorem dX13_isNode_2 : decode cX13_isNode 2 = .ok (.aload_n 0, 1) := dk_42 (dk_at dksX13_isNode_0 2 rfl rfl)
theorem dX13_isNode_3 : decode cX13_isNode 3 = .ok (.getfield 11, 3) := dk_180 0 11 (dk_at dksX13_isNode_0 3 rfl rfl)
theorem dX13_isNode_6 : decode cX13_isNode 6 = .ok (.bipush 17, 2) := dk_16 17 (dk_at dksX13_isNode_0 6 rfl rfl)
theorem dX13_isNode_8 : decode cX13_isNode 8 = .ok (.iaload, 1) := dk_46 (dk_at dksX13_isNode_0 8 rfl rfl)
theorem dX13_isNode_9 : decode cX13_isNode 9 = .ok (.iconst 1, 1) := dk_4 (dk_at dksX13_isNode_0 9 rfl rfl)
theorem dX13_isNode_10 : decode cX13_isNode 10 = .ok (.isub, 1) := dk_100 (dk_at dksX13_isNode_0 10 rfl rfl)
theorem dX13_isNode_11 : decode cX13_isNode 11 = .ok (.invokestatic 49, 3) := dk_184 0 49 (dk_at dksX13_isNode_0 11 rfl rfl)
theorem dX13_isNode_14 : decode cX13_isNode 14 = .ok (.ireturn, 1) := dk_172 (dk_at dksX13_isNode_0 14 rfl rfl)
abbrev cX13_band : ByteArray := prog_22_method_88_code
def yX13_band : MethodName := ⟨RX13, "band", "(I)I"⟩
def dkwX13_band_1 : List UInt8 := [167, 0, 8, 42, 27, 182, 0, 240, 172]
abbrev dktX13_band_1 : List UInt8 := dkwX13_band_1 ++ []
def dkwX13_band_0 : List UInt8 := [27, 3, 5, 184, 0, 49, 154, 0, 7, 2, 167, 0, 20, 27, 5, 160, 0, 10, 42, 182, 0, 243]
abbrev dktX13_band_0 : List UInt8 := dkwX13_band_0 ++ dktX13_band_1
theorem dksX13_band_0 : cX13_band.data.toList.drop 0 = dktX13_band_0 := by decide +kernel
theorem dksX13_band_1 : cX13_band.data.toList.drop 22 = dktX13_band_1 := dk_seg dksX13_band_0 22 rfl rfl
theorem dX13_band_0 : decode cX13_band 0 = .ok (.iload_n 1, 1) := dk_27 (dk_at dksX13_band_0 0 rfl rfl)
theorem dX13_band_1 : decode cX13_band 1 = .ok (.iconst 0, 1) := dk_3 (dk_at dksX13_band_0 1 rfl rfl)
theorem dX13_band_2 : decode cX13_band 2 = .ok (.iconst 2, 1) := dk_5 (dk_at dksX13_band_0 2 rfl rfl)
theorem dX13_band_3 : decode cX13_band 3 = .ok (.invokestatic 49, 3) := dk_184 0 49 (dk_at dksX13_band_0 3 rfl rfl)
theorem dX13_band_6 : decode cX13_band 6 = .ok (.ifCond .ne 7, 3) := dk_154 0 7 (dk_at dksX13_band_0 6 rfl rfl)
theorem dX13_band_9 : decode cX13_band 9 = .ok (.iconst (-1), 1) := dk_2 (dk_at dksX13_band_0 9 rfl rfl)
theorem dX13_band_10 : decode cX13_band 10 = .ok (.goto 20, 3) := dk_167 0 20 (dk_at dksX13_band_0 10 rfl rfl)
theorem dX13_band_13 : decode cX13_band 13 = .ok (.iload_n 1, 1) := dk_27 (dk_at dksX13_band_0 13 rfl rfl)
theorem dX13_band_14 : decode cX13_band 14 = .ok (.iconst 2, 1) := dk_5 (dk_at dksX13_band_0 14 rfl rfl)
theorem dX13_band_15 : decode cX13_band 15 = .ok (.if_icmp .ne 10, 3) := dk_160 0 10 (dk_at dksX13_band_0 15 rfl rfl)
theorem dX13_band_18 : decode cX13_band 18 = .ok (.aload_n 0, 1) := dk_42 (dk_at dksX13_band_0 18 rfl rfl)
theorem dX13_band_19 : decode cX13_band 19 = .ok (.invokevirtual 243, 3) := dk_182 0 243 (dk_at dksX13_band_0 19 rfl rfl)
theorem dX13_band_22 : decode cX13_band 22 = .ok (.goto 8, 3) := dk_167 0 8 (dk_at dksX13_band_1 0 rfl rfl)
theorem dX13_band_25 : decode cX13_band 25 = .ok (.aload_n 0, 1) := dk_42 (dk_at dksX13_band_1 3 rfl rfl)
theorem dX13_band_26 : decode cX13_band 26 = .ok (.iload_n 1, 1) := dk_27 (dk_at dksX13_band_1 4 rfl rfl)
theorem dX13_band_27 : decode cX13_band 27 = .ok (.invokevirtual 240, 3) := dk_182 0 240 (dk_at dksX13_band_1 5 rfl rfl)
theorem dX13_band_30 : decode cX13_band 30 = .ok (.ireturn, 1) := dk_172 (dk_at dksX13_band_1 8 rfl rfl)
abbrev cX13_bands : ByteArray := prog_22_method_87_code
def yX13_bands : MethodName := ⟨RX13, "bands", "()I"⟩
def dkwX13_bands_0 : List UInt8 := [42, 3, 182, 0, 240, 42, 4, 182, 0, 240, 96, 172]
abbrev dktX13_bands_0 : List UInt8 := dkwX13_bands_0 ++ []
theorem dksX13_bands_0 : cX13_bands.data.toList.drop 0 = dktX13_bands_0 := by decide +kernel
theorem dX13_bands_0 : decode cX13_bands 0 = .ok (.aload_n 0, 1) := dk_42 (dk_at dksX13_bands_0 0 rfl rfl)
theorem dX13_bands_1 : decode cX13_bands 1 = .ok (.iconst 0, 1) := dk_3 (dk_at dksX13_bands_0 1 rfl rfl)
theorem dX13_bands_2 : decode cX13_bands 2 = .ok (.invokevirtual 240, 3) := dk_182 0 240 (dk_at dksX13_bands_0 2 rfl rfl)
theorem dX13_bands_5 : decode cX13_bands 5 = .ok (.aload_n 0, 1) := dk_42 (dk_at dksX13_bands_0 5 rfl rfl)
theorem dX13_bands_6 : decode cX13_bands 6 = .ok (.iconst 1, 1) := dk_4 (dk_at dksX13_bands_0 6 rfl rfl)
theorem dX13_bands_7 : decode cX13_bands 7 = .ok (.invokevirtual 240, 3) := dk_182 0 240 (dk_at dksX13_bands_0 7 rfl rfl)
theorem dX13_bands_10 : decode cX13_bands 10 = .ok (.iadd, 1) := dk_96 (dk_at dksX13_bands_0 10 rfl rfl)
theorem dX13_bands_11 : decode cX13_bands 11 = .ok (.ireturn, 1) := dk_172 (dk_at dksX13_bands_0 11 rfl rfl)
abbrev cX13_bandOf : ByteArray := prog_22_method_86_code
def yX13_bandOf : MethodName := ⟨RX13, "bandOf", "(I)I"⟩
def dkwX13_bandOf_6 : List UInt8 := [167, 255, 120, 28, 172]
abbrev dktX13_bandOf_6 : List UInt8 := dkwX13_bandOf_6 ++ []
def dkwX13_bandOf_5 : List UInt8 := [54, 4, 132, 6, 1, 167, 255, 169, 28, 21, 4, 153, 0, 7, 4, 167, 0, 4, 3, 96, 61, 132, 3, 1]
abbrev dktX13_bandOf_5 : List UInt8 := dkwX13_bandOf_5 ++ dktX13_bandOf_6
def dkwX13_bandOf_4 : List UInt8 := [167, 0, 5, 21, 7, 104, 96, 5, 96, 46, 96, 54, 5, 21, 4, 42, 21, 7, 21, 5, 182, 0, 237, 126]
abbrev dktX13_bandOf_4 : List UInt8 := dkwX13_bandOf_4 ++ dktX13_bandOf_5
def dkwX13_bandOf_3 : List UInt8 := [21, 6, 158, 0, 34, 21, 5, 42, 180, 0, 11, 17, 1, 50, 6, 27, 154, 0, 10, 21, 7, 4, 100]
abbrev dktX13_bandOf_3 : List UInt8 := dkwX13_bandOf_3 ++ dktX13_bandOf_4
def dkwX13_bandOf_2 : List UInt8 := [27, 154, 0, 8, 21, 6, 167, 0, 15, 42, 180, 0, 11, 16, 17, 46, 4, 100, 21, 6, 100, 54, 7]
abbrev dktX13_bandOf_2 : List UInt8 := dkwX13_bandOf_2 ++ dktX13_bandOf_3
def dkwX13_bandOf_1 : List UInt8 := [158, 0, 121, 4, 54, 4, 29, 54, 5, 3, 54, 6, 21, 6, 42, 180, 0, 11, 16, 17, 46, 162, 0, 81]
abbrev dktX13_bandOf_1 : List UInt8 := dkwX13_bandOf_1 ++ dktX13_bandOf_2
def dkwX13_bandOf_0 : List UInt8 := [3, 61, 3, 62, 29, 42, 180, 0, 11, 16, 16, 46, 162, 0, 131, 42, 180, 0, 11, 16, 17, 46]
abbrev dktX13_bandOf_0 : List UInt8 := dkwX13_bandOf_0 ++ dktX13_bandOf_1
theorem dksX13_bandOf_0 : cX13_bandOf.data.toList.drop 0 = dktX13_bandOf_0 := by decide +kernel
theorem dksX13_bandOf_1 : cX13_bandOf.data.toList.drop 22 = dktX13_bandOf_1 := dk_seg dksX13_bandOf_0 22 rfl rfl
theorem dksX13_bandOf_2 : cX13_bandOf.data.toList.drop 46 = dktX13_bandOf_2 := dk_seg dksX13_bandOf_1 24 rfl rfl
theorem dksX13_bandOf_3 : cX13_bandOf.data.toList.drop 69 = dktX13_bandOf_3 := dk_seg dksX13_bandOf_2 23 rfl rfl
theorem dksX13_bandOf_4 : cX13_bandOf.data.toList.drop 92 = dktX13_bandOf_4 := dk_seg dksX13_bandOf_3 23 rfl rfl
theorem dksX13_bandOf_5 : cX13_bandOf.data.toList.drop 116 = dktX13_bandOf_5 := dk_seg dksX13_bandOf_4 24 rfl rfl
theorem dksX13_bandOf_6 : cX13_bandOf.data.toList.drop 140 = dktX13_bandOf_6 := dk_seg dksX13_bandOf_5 24 rfl rfl
theorem dX13_bandOf_0 : decode cX13_bandOf 0 = .ok (.iconst 0, 1) := dk_3 (dk_at dksX13_bandOf_0 0 rfl rfl)
theorem dX13_bandOf_1 : decode cX13_bandOf 1 = .ok (.istore_n 2, 1) := dk_61 (dk_at dksX13_bandOf_0 1 rfl rfl)
theorem dX13_bandOf_2 : decode cX13_bandOf 2 = .ok (.iconst 0, 1) := dk_3 (dk_at dksX13_bandOf_0 2 rfl rfl)
theorem dX13_bandOf_3 : decode cX13_bandOf 3 = .ok (.istore_n 3, 1) := dk_62 (dk_at dksX13_bandOf_0 3 rfl rfl)
theorem dX13_bandOf_4 : decode cX13_bandOf 4 = .ok (.iload_n 3, 1) := dk_29 (dk_at dksX13_bandOf_0 4 rfl rfl)
theorem dX13_bandOf_5 : decode cX13_bandOf 5 = .ok (.aload_n 0, 1) := dk_42 (dk_at dksX13_bandOf_0 5 rfl rfl)
theorem dX13_bandOf_6 : decode cX13_bandOf 6 = .ok (.getfield 11, 3) := dk_180 0 11 (dk_at dksX13_bandOf_0 6 rfl rfl)
theorem dX13_bandOf_9 : decode cX13_bandOf 9 = .ok (.bipush 16, 2) := dk_16 16 (dk_at dksX13_bandOf_0 9 rfl rfl)
theorem dX13_bandOf_11 : decode cX13_bandOf 11 = .ok (.iaload, 1) := dk_46 (dk_at dksX13_bandOf_0 11 rfl rfl)
theorem dX13_bandOf_12 : decode cX13_bandOf 12 = .ok (.if_icmp .ge 131, 3) := dk_162 0 131 (dk_at dksX13_bandOf_0 12 rfl rfl)
theorem dX13_bandOf_15 : decode cX13_bandOf 15 = .ok (.aload_n 0, 1) := dk_42 (dk_at dksX13_bandOf_0 15 rfl rfl)
theorem dX13_bandOf_16 : decode cX13_bandOf 16 = .ok (.getfield 11, 3) := dk_180 0 11 (dk_at dksX13_bandOf_0 16 rfl rfl)
theorem dX13_bandOf_19 : decode cX13_bandOf 19 = .ok (.bipush 17, 2) := dk_16 17 (dk_at dksX13_bandOf_0 19 rfl rfl)
theorem dX13_bandOf_21 : decode cX13_bandOf 21 = .ok (.iaload, 1) := dk_46 (dk_at dksX13_bandOf_0 21 rfl rfl)
theorem dX13_bandOf_22 : decode cX13_bandOf 22 = .ok (.ifCond .le 121, 3) := dk_158 0 121 (dk_at dksX13_bandOf_1 0 rfl rfl)
theorem dX13_bandOf_25 : decode cX13_bandOf 25 = .ok (.iconst 1, 1) := dk_4 (dk_at dksX13_bandOf_1 3 rfl rfl)
theorem dX13_bandOf_26 : decode cX13_bandOf 26 = .ok (.istore 4, 2) := dk_54 4 (dk_at dksX13_bandOf_1 4 rfl rfl)
theorem dX13_bandOf_28 : decode cX13_bandOf 28 = .ok (.iload_n 3, 1) := dk_29 (dk_at dksX13_bandOf_1 6 rfl rfl)
theorem dX13_bandOf_29 : decode cX13_bandOf 29 = .ok (.istore 5, 2) := dk_54 5 (dk_at dksX13_bandOf_1 7 rfl rfl)
theorem dX13_bandOf_31 : decode cX13_bandOf 31 = .ok (.iconst 0, 1) := dk_3 (dk_at dksX13_bandOf_1 9 rfl rfl)
theorem dX13_bandOf_32 : decode cX13_bandOf 32 = .ok (.istore 6, 2) := dk_54 6 (dk_at dksX13_bandOf_1 10 rfl rfl)
theorem dX13_bandOf_34 : decode cX13_bandOf 34 = .ok (.iload 6, 2) := dk_21 6 (dk_at dksX13_bandOf_1 12 rfl rfl)
theorem dX13_bandOf_36 : decode cX13_bandOf 36 = .ok (.aload_n 0, 1) := dk_42 (dk_at dksX13_bandOf_1 14 rfl rfl)
theorem dX13_bandOf_37 : decode cX13_bandOf 37 = .ok (.getfield 11, 3) := dk_180 0 11 (dk_at dksX13_bandOf_1 15 rfl rfl)
theorem dX13_bandOf_40 : decode cX13_bandOf 40 = .ok (.bipush 17, 2) := dk_16 17 (dk_at dksX13_bandOf_1 18 rfl rfl)
theorem dX13_bandOf_42 : decode cX13_bandOf 42 = .ok (.iaload, 1) := dk_46 (dk_at dksX13_bandOf_1 20 rfl rfl)
theorem dX13_bandOf_43 : decode cX13_bandOf 43 = .ok (.if_icmp .ge 81, 3) := dk_162 0 81 (dk_at dksX13_bandOf_1 21 rfl rfl)
theorem dX13_bandOf_46 : decode cX13_bandOf 46 = .ok (.iload_n 1, 1) := dk_27 (dk_at dksX13_bandOf_2 0 rfl rfl)
theorem dX13_bandOf_47 : decode cX13_bandOf 47 = .ok (.ifCond .ne 8, 3) := dk_154 0 8 (dk_at dksX13_bandOf_2 1 rfl rfl)
theorem dX13_bandOf_50 : decode cX13_bandOf 50 = .ok (.iload 6, 2) := dk_21 6 (dk_at dksX13_bandOf_2 4 rfl rfl)
theorem dX13_bandOf_52 : decode cX13_bandOf 52 = .ok (.goto 15, 3) := dk_167 0 15 (dk_at dksX13_bandOf_2 6 rfl rfl)
theorem dX13_bandOf_55 : decode cX13_bandOf 55 = .ok (.aload_n 0, 1) := dk_42 (dk_at dksX13_bandOf_2 9 rfl rfl)
theorem dX13_bandOf_56 : decode cX13_bandOf 56 = .ok (.getfield 11, 3) := dk_180 0 11 (dk_at dksX13_bandOf_2 10 rfl rfl)
theorem dX13_bandOf_59 : decode cX13_bandOf 59 = .ok (.bipush 17, 2) := dk_16 17 (dk_at dksX13_bandOf_2 13 rfl rfl)
theorem dX13_bandOf_61 : decode cX13_bandOf 61 = .ok (.iaload, 1) := dk_46 (dk_at dksX13_bandOf_2 15 rfl rfl)
theorem dX13_bandOf_62 : decode cX13_bandOf 62 = .ok (.iconst 1, 1) := dk_4 (dk_at dksX13_bandOf_2 16 rfl rfl)
theorem dX13_bandOf_63 : decode cX13_bandOf 63 = .ok (.isub, 1) := dk_100 (dk_at dksX13_bandOf_2 17 rfl rfl)
theorem dX13_bandOf_64 : decode cX13_bandOf 64 = .ok (.iload 6, 2) := dk_21 6 (dk_at dksX13_bandOf_2 18 rfl rfl)
theorem dX13_bandOf_66 : decode cX13_bandOf 66 = .ok (.isub, 1) := dk_100 (dk_at dksX13_bandOf_2 20 rfl rfl)
theorem dX13_bandOf_67 : decode cX13_bandOf 67 = .ok (.istore 7, 2) := dk_54 7 (dk_at dksX13_bandOf_2 21 rfl rfl)
theorem dX13_bandOf_69 : decode cX13_bandOf 69 = .ok (.iload 6, 2) := dk_21 6 (dk_at dksX13_bandOf_3 0 rfl rfl)
theorem dX13_bandOf_71 : decode cX13_bandOf 71 = .ok (.ifCond .le 34, 3) := dk_158 0 34 (dk_at dksX13_bandOf_3 2 rfl rfl)
theorem dX13_bandOf_74 : decode cX13_bandOf 74 = .ok (.iload 5, 2) := dk_21 5 (dk_at dksX13_bandOf_3 5 rfl rfl)
theorem dX13_bandOf_76 : decode cX13_bandOf 76 = .ok (.aload_n 0, 1) := dk_42 (dk_at dksX13_bandOf_3 7 rfl rfl)
theorem dX13_bandOf_77 : decode cX13_bandOf 77 = .ok (.getfield 11, 3) := dk_180 0 11 (dk_at dksX13_bandOf_3 8 rfl rfl)
theorem dX13_bandOf_80 : decode cX13_bandOf 80 = .ok (.sipush 306, 3) := dk_17 1 50 (dk_at dksX13_bandOf_3 11 rfl rfl)
theorem dX13_bandOf_83 : decode cX13_bandOf 83 = .ok (.iconst 3, 1) := dk_6 (dk_at dksX13_bandOf_3 14 rfl rfl)
theorem dX13_bandOf_84 : decode cX13_bandOf 84 = .ok (.iload_n 1, 1) := dk_27 (dk_at dksX13_bandOf_3 15 rfl rfl)
theorem dX13_bandOf_85 : decode cX13_bandOf 85 = .ok (.ifCond .ne 10, 3) := dk_154 0 10 (dk_at dksX13_bandOf_3 16 rfl rfl)
theorem dX13_bandOf_88 : decode cX13_bandOf 88 = .ok (.iload 7, 2) := dk_21 7 (dk_at dksX13_bandOf_3 19 rfl rfl)
theorem dX13_bandOf_90 : decode cX13_bandOf 90 = .ok (.iconst 1, 1) := dk_4 (dk_at dksX13_bandOf_3 21 rfl rfl)
theorem dX13_bandOf_91 : decode cX13_bandOf 91 = .ok (.isub, 1) := dk_100 (dk_at dksX13_bandOf_3 22 rfl rfl)
theorem dX13_bandOf_92 : decode cX13_bandOf 92 = .ok (.goto 5, 3) := dk_167 0 5 (dk_at dksX13_bandOf_4 0 rfl rfl)
theorem dX13_bandOf_95 : decode cX13_bandOf 95 = .ok (.iload 7, 2) := dk_21 7 (dk_at dksX13_bandOf_4 3 rfl rfl)
theorem dX13_bandOf_97 : decode cX13_bandOf 97 = .ok (.imul, 1) := dk_104 (dk_at dksX13_bandOf_4 5 rfl rfl)
theorem dX13_bandOf_98 : decode cX13_bandOf 98 = .ok (.iadd, 1) := dk_96 (dk_at dksX13_bandOf_4 6 rfl rfl)
theorem dX13_bandOf_99 : decode cX13_bandOf 99 = .ok (.iconst 2, 1) := dk_5 (dk_at dksX13_bandOf_4 7 rfl rfl)
theorem dX13_bandOf_100 : decode cX13_bandOf 100 = .ok (.iadd, 1) := dk_96 (dk_at dksX13_bandOf_4 8 rfl rfl)
theorem dX13_bandOf_101 : decode cX13_bandOf 101 = .ok (.iaload, 1) := dk_46 (dk_at dksX13_bandOf_4 9 rfl rfl)
theorem dX13_bandOf_102 : decode cX13_bandOf 102 = .ok (.iadd, 1) := dk_96 (dk_at dksX13_bandOf_4 10 rfl rfl)
theorem dX13_bandOf_103 : decode cX13_bandOf 103 = .ok (.istore 5, 2) := dk_54 5 (dk_at dksX13_bandOf_4 11 rfl rfl)
theorem dX13_bandOf_105 : decode cX13_bandOf 105 = .ok (.iload 4, 2) := dk_21 4 (dk_at dksX13_bandOf_4 13 rfl rfl)
theorem dX13_bandOf_107 : decode cX13_bandOf 107 = .ok (.aload_n 0, 1) := dk_42 (dk_at dksX13_bandOf_4 15 rfl rfl)
theorem dX13_bandOf_108 : decode cX13_bandOf 108 = .ok (.iload 7, 2) := dk_21 7 (dk_at dksX13_bandOf_4 16 rfl rfl)
theorem dX13_bandOf_110 : decode cX13_bandOf 110 = .ok (.iload 5, 2) := dk_21 5 (dk_at dksX13_bandOf_4 18 rfl rfl)
theorem dX13_bandOf_112 : decode cX13_bandOf 112 = .ok (.invokevirtual 237, 3) := dk_182 0 237 (dk_at dksX13_bandOf_4 20 rfl rfl)
theorem dX13_bandOf_115 : decode cX13_bandOf 115 = .ok (.iand, 1) := dk_126 (dk_at dksX13_bandOf_4 23 rfl rfl)
theorem dX13_bandOf_116 : decode cX13_bandOf 116 = .ok (.istore 4, 2) := dk_54 4 (dk_at dksX13_bandOf_5 0 rfl rfl)
theorem dX13_bandOf_118 : decode cX13_bandOf 118 = .ok (.iinc 6 1, 3) := dk_132 6 1 (dk_at dksX13_bandOf_5 2 rfl rfl)
theorem dX13_bandOf_121 : decode cX13_bandOf 121 = .ok (.goto (-87), 3) := dk_167 255 169 (dk_at dksX13_bandOf_5 5 rfl rfl)
theorem dX13_bandOf_124 : decode cX13_bandOf 124 = .ok (.iload_n 2, 1) := dk_28 (dk_at dksX13_bandOf_5 8 rfl rfl)
theorem dX13_bandOf_125 : decode cX13_bandOf 125 = .ok (.iload 4, 2) := dk_21 4 (dk_at dksX13_bandOf_5 9 rfl rfl)
theorem dX13_bandOf_127 : decode cX13_bandOf 127 = .ok (.ifCond .eq 7, 3) := dk_153 0 7 (dk_at dksX13_bandOf_5 11 rfl rfl)
theorem dX13_bandOf_130 : decode cX13_bandOf 130 = .ok (.iconst 1, 1) := dk_4 (dk_at dksX13_bandOf_5 14 rfl rfl)
theorem dX13_bandOf_131 : decode cX13_bandOf 131 = .ok (.goto 4, 3) := dk_167 0 4 (dk_at dksX13_bandOf_5 15 rfl rfl)
theorem dX13_bandOf_134 : decode cX13_bandOf 134 = .ok (.iconst 0, 1) := dk_3 (dk_at dksX13_bandOf_5 18 rfl rfl)
theorem dX13_bandOf_135 : decode cX13_bandOf 135 = .ok (.iadd, 1) := dk_96 (dk_at dksX13_bandOf_5 19 rfl rfl)
theorem dX13_bandOf_136 : decode cX13_bandOf 136 = .ok (.istore_n 2, 1) := dk_61 (dk_at dksX13_bandOf_5 20 rfl rfl)
theorem dX13_bandOf_137 : decode cX13_bandOf 137 = .ok (.iinc 3 1, 3) := dk_132 3 1 (dk_at dksX13_bandOf_5 21 rfl rfl)
theorem dX13_bandOf_140 : decode cX13_bandOf 140 = .ok (.goto (-136), 3) := dk_167 255 120 (dk_at dksX13_bandOf_6 0 rfl rfl)
theorem dX13_bandOf_143 : decode cX13_bandOf 143 = .ok (.iload_n 2, 1) := dk_28 (dk_at dksX13_bandOf_6 3 rfl rfl)
theorem dX13_bandOf_144 : decode cX13_bandOf 144 = .ok (.ireturn, 1) := dk_172 (dk_at dksX13_bandOf_6 4 rfl rfl)
abbrev cX13_isOpen : ByteArray := prog_22_method_85_code
def yX13_isOpen : MethodName := ⟨RX13, "isOpen", "(II)Z"⟩
def dkwX13_isOpen_2 : List UInt8 := [27, 104, 96, 4, 96, 46, 162, 0, 7, 4, 167, 0, 4, 3, 172]
abbrev dktX13_isOpen_2 : List UInt8 := dkwX13_isOpen_2 ++ []
def dkwX13_isOpen_1 : List UInt8 := [156, 0, 15, 29, 42, 180, 0, 11, 16, 16, 46, 96, 167, 0, 4, 29, 42, 180, 0, 11, 17, 1, 50, 6]
abbrev dktX13_isOpen_1 : List UInt8 := dkwX13_isOpen_1 ++ dktX13_isOpen_2
def dkwX13_isOpen_0 : List UInt8 := [28, 42, 180, 0, 11, 17, 1, 50, 6, 27, 104, 96, 46, 100, 42, 180, 0, 11, 16, 16, 46, 112, 62, 29]
abbrev dktX13_isOpen_0 : List UInt8 := dkwX13_isOpen_0 ++ dktX13_isOpen_1
theorem dksX13_isOpen_0 : cX13_isOpen.data.toList.drop 0 = dktX13_isOpen_0 := by decide +kernel
theorem dksX13_isOpen_1 : cX13_isOpen.data.toList.drop 24 = dktX13_isOpen_1 := dk_seg dksX13_isOpen_0 24 rfl rfl
theorem dksX13_isOpen_2 : cX13_isOpen.data.toList.drop 48 = dktX13_isOpen_2 := dk_seg dksX13_isOpen_1 24 rfl rfl
theorem dX13_isOpen_0 : decode cX13_isOpen 0 = .ok (.iload_n 2, 1) := dk_28 (dk_at dksX13_isOpen_0 0 rfl rfl)
theorem dX13_isOpen_1 : decode cX13_isOpen 1 = .ok (.aload_n 0, 1) := dk_42 (dk_at dksX13_isOpen_0 1 rfl rfl)
theorem dX13_isOpen_2 : decode cX13_isOpen 2 = .ok (.getfield 11, 3) := dk_180 0 11 (dk_at dksX13_isOpen_0 2 rfl rfl)
theorem dX13_isOpen_5 : decode cX13_isOpen 5 = .ok (.sipush 306, 3) := dk_17 1 50 (dk_at dksX13_isOpen_0 5 rfl rfl)
theorem dX13_isOpen_8 : decode cX13_isOpen 8 = .ok (.iconst 3, 1) := dk_6 (dk_at dksX13_isOpen_0 8 rfl rfl)
theorem dX13_isOpen_9 : decode cX13_isOpen 9 = .ok (.iload_n 1, 1) := dk_27 (dk_at dksX13_isOpen_0 9 rfl rfl)
theorem dX13_isOpen_10 : decode cX13_isOpen 10 = .ok (.imul, 1) := dk_104 (dk_at dksX13_isOpen_0 10 rfl rfl)
theorem dX13_isOpen_11 : decode cX13_isOpen 11 = .ok (.iadd, 1) := dk_96 (dk_at dksX13_isOpen_0 11 rfl rfl)
theorem dX13_isOpen_12 : decode cX13_isOpen 12 = .ok (.iaload, 1) := dk_46 (dk_at dksX13_isOpen_0 12 rfl rfl)
theorem dX13_isOpen_13 : decode cX13_isOpen 13 = .ok (.isub, 1) := dk_100 (dk_at dksX13_isOpen_0 13 rfl rfl)
theorem dX13_isOpen_14 : decode cX13_isOpen 14 = .ok (.aload_n 0, 1) := dk_42 (dk_at dksX13_isOpen_0 14 rfl rfl)
theorem dX13_isOpen_15 : decode cX13_isOpen 15 = .ok (.getfield 11, 3) := dk_180 0 11 (dk_at dksX13_isOpen_0 15 rfl rfl)
theorem dX13_isOpen_18 : decode cX13_isOpen 18 = .ok (.bipush 16, 2) := dk_16 16 (dk_at dksX13_isOpen_0 18 rfl rfl)
theorem dX13_isOpen_20 : decode cX13_isOpen 20 = .ok (.iaload, 1) := dk_46 (dk_at dksX13_isOpen_0 20 rfl rfl)
theorem dX13_isOpen_21 : decode cX13_isOpen 21 = .ok (.irem, 1) := dk_112 (dk_at dksX13_isOpen_0 21 rfl rfl)
theorem dX13_isOpen_22 : decode cX13_isOpen 22 = .ok (.istore_n 3, 1) := dk_62 (dk_at dksX13_isOpen_0 22 rfl rfl)
theorem dX13_isOpen_23 : decode cX13_isOpen 23 = .ok (.iload_n 3, 1) := dk_29 (dk_at dksX13_isOpen_0 23 rfl rfl)
theorem dX13_isOpen_24 : decode cX13_isOpen 24 = .ok (.ifCond .ge 15, 3) := dk_156 0 15 (dk_at dksX13_isOpen_1 0 rfl rfl)
theorem dX13_isOpen_27 : decode cX13_isOpen 27 = .ok (.iload_n 3, 1) := dk_29 (dk_at dksX13_isOpen_1 3 rfl rfl)
theorem dX13_isOpen_28 : decode cX13_isOpen 28 = .ok (.aload_n 0, 1) := dk_42 (dk_at dksX13_isOpen_1 4 rfl rfl)
theorem dX13_isOpen_29 : decode cX13_isOpen 29 = .ok (.getfield 11, 3) := dk_180 0 11 (dk_at dksX13_isOpen_1 5 rfl rfl)
theorem dX13_isOpen_32 : decode cX13_isOpen 32 = .ok (.bipush 16, 2) := dk_16 16 (dk_at dksX13_isOpen_1 8 rfl rfl)
theorem dX13_isOpen_34 : decode cX13_isOpen 34 = .ok (.iaload, 1) := dk_46 (dk_at dksX13_isOpen_1 10 rfl rfl)
theorem dX13_isOpen_35 : decode cX13_isOpen 35 = .ok (.iadd, 1) := dk_96 (dk_at dksX13_isOpen_1 11 rfl rfl)
theorem dX13_isOpen_36 : decode cX13_isOpen 36 = .ok (.goto 4, 3) := dk_167 0 4 (dk_at dksX13_isOpen_1 12 rfl rfl)
theorem dX13_isOpen_39 : decode cX13_isOpen 39 = .ok (.iload_n 3, 1) := dk_29 (dk_at dksX13_isOpen_1 15 rfl rfl)
theorem dX13_isOpen_40 : decode cX13_isOpen 40 = .ok (.aload_n 0, 1) := dk_42 (dk_at dksX13_isOpen_1 16 rfl rfl)
theorem dX13_isOpen_41 : decode cX13_isOpen 41 = .ok (.getfield 11, 3) := dk_180 0 11 (dk_at dksX13_isOpen_1 17 rfl rfl)
theorem dX13_isOpen_44 : decode cX13_isOpen 44 = .ok (.sipush 306, 3) := dk_17 1 50 (dk_at dksX13_isOpen_1 20 rfl rfl)
theorem dX13_isOpen_47 : decode cX13_isOpen 47 = .ok (.iconst 3, 1) := dk_6 (dk_at dksX13_isOpen_1 23 rfl rfl)
theorem dX13_isOpen_48 : decode cX13_isOpen 48 = .ok (.iload_n 1, 1) := dk_27 (dk_at dksX13_isOpen_2 0 rfl rfl)
theorem dX13_isOpen_49 : decode cX13_isOpen 49 = .ok (.imul, 1) := dk_104 (dk_at dksX13_isOpen_2 1 rfl rfl)
theorem dX13_isOpen_50 : decode cX13_isOpen 50 = .ok (.iadd, 1) := dk_96 (dk_at dksX13_isOpen_2 2 rfl rfl)
theorem dX13_isOpen_51 : decode cX13_isOpen 51 = .ok (.iconst 1, 1) := dk_4 (dk_at dksX13_isOpen_2 3 rfl rfl)
theorem dX13_isOpen_52 : decode cX13_isOpen 52 = .ok (.iadd, 1) := dk_96 (dk_at dksX13_isOpen_2 4 rfl rfl)
theorem dX13_isOpen_53 : decode cX13_isOpen 53 = .ok (.iaload, 1) := dk_46 (dk_at dksX13_isOpen_2 5 rfl rfl)
theorem dX13_isOpen_54 : decode cX13_isOpen 54 = .ok (.if_icmp .ge 7, 3) := dk_162 0 7 (dk_at dksX13_isOpen_2 6 rfl rfl)
theorem dX13_isOpen_57 : decode cX13_isOpen 57 = .ok (.iconst 1, 1) := dk_4 (dk_at dksX13_isOpen_2 9 rfl rfl)
theorem dX13_isOpen_58 : decode cX13_isOpen 58 = .ok (.goto 4, 3) := dk_167 0 4 (dk_at dksX13_isOpen_2 10 rfl rfl)
theorem dX13_isOpen_61 : decode cX13_isOpen 61 = .ok (.iconst 0, 1) := dk_3 (dk_at dksX13_isOpen_2 13 rfl rfl)
theorem dX13_isOpen_62 : decode cX13_isOpen 62 = .ok (.ireturn, 1) := dk_172 (dk_at dksX13_isOpen_2 14 rfl rfl)
abbrev cX13_nodeBest : ByteArray := prog_22_method_90_code
def yX13_nodeBest : MethodName := ⟨RX13, "nodeBest", "(II)I"⟩
def dkwX13_nodeBest_2 : List UInt8 := [180, 0, 246, 172]
abbrev dktX13_nodeBest_2 : List UInt8 := dkwX13_nodeBest_2 ++ []
def dkwX13_nodeBest_1 : List UInt8 := [182, 0, 203, 154, 0, 6, 16, 252, 172, 42, 27, 182, 0, 249, 62, 28, 154, 0, 7, 29, 167, 0, 7, 42]
abbrev dktX13_nodeBest_1 : List UInt8 := dkwX13_nodeBest_1 ++ dktX13_nodeBest_2
def dkwX13_nodeBest_0 : List UInt8 := [42, 27, 182, 0, 234, 153, 0, 12, 28, 3, 4, 184, 0, 49, 154, 0, 5, 2, 172, 42, 16, 10]
abbrev dktX13_nodeBest_0 : List UInt8 := dkwX13_nodeBest_0 ++ dktX13_nodeBest_1
theorem dksX13_nodeBest_0 : cX13_nodeBest.data.toList.drop 0 = dktX13_nodeBest_0 := by decide +kernel
theorem dksX13_nodeBest_1 : cX13_nodeBest.data.toList.drop 22 = dktX13_nodeBest_1 := dk_seg dksX13_nodeBest_0 22 rfl rfl
theorem dksX13_nodeBest_2 : cX13_nodeBest.data.toList.drop 46 = dktX13_nodeBest_2 := dk_seg dksX13_nodeBest_1 24 rfl rfl
theorem dX13_nodeBest_0 : decode cX13_nodeBest 0 = .ok (.aload_n 0, 1) := dk_42 (dk_at dksX13_nodeBest_0 0 rfl rfl)
theorem dX13_nodeBest_1 : decode cX13_nodeBest 1 = .ok (.iload_n 1, 1) := dk_27 (dk_at dksX13_nodeBest_0 1 rfl rfl)
theorem dX13_nodeBest_2 : decode cX13_nodeBest 2 = .ok (.invokevirtual 234, 3) := dk_182 0 234 (dk_at dksX13_nodeBest_0 2 rfl rfl)
theorem dX13_nodeBest_5 : decode cX13_nodeBest 5 = .ok (.ifCond .eq 12, 3) := dk_153 0 12 (dk_at dksX13_nodeBest_0 5 rfl rfl)
theorem dX13_nodeBest_8 : decode cX13_nodeBest 8 = .ok (.iload_n 2, 1) := dk_28 (dk_at dksX13_nodeBest_0 8 rfl rfl)
theorem dX13_nodeBest_9 : decode cX13_nodeBest 9 = .ok (.iconst 0, 1) := dk_3 (dk_at dksX13_nodeBest_0 9 rfl rfl)
theorem dX13_nodeBest_10 : decode cX13_nodeBest 10 = .ok (.iconst 1, 1) := dk_4 (dk_at dksX13_nodeBest_0 10 rfl rfl)
theorem dX13_nodeBest_11 : decode cX13_nodeBest 11 = .ok (.invokestatic 49, 3) := dk_184 0 49 (dk_at dksX13_nodeBest_0 11 rfl rfl)
theorem dX13_nodeBest_14 : decode cX13_nodeBest 14 = .ok (.ifCond .ne 5, 3) := dk_154 0 5 (dk_at dksX13_nodeBest_0 14 rfl rfl)
theorem dX13_nodeBest_17 : decode cX13_nodeBest 17 = .ok (.iconst (-1), 1) := dk_2 (dk_at dksX13_nodeBest_0 17 rfl rfl)
theorem dX13_nodeBest_18 : decode cX13_nodeBest 18 = .ok (.ireturn, 1) := dk_172 (dk_at dksX13_nodeBest_0 18 rfl rfl)
theorem dX13_nodeBest_19 : decode cX13_nodeBest 19 = .ok (.aload_n 0, 1) := dk_42 (dk_at dksX13_nodeBest_0 19 rfl rfl)
theorem dX13_nodeBest_20 : decode cX13_nodeBest 20 = .ok (.bipush 10, 2) := dk_16 10 (dk_at dksX13_nodeBest_0 20 rfl rfl)
theorem dX13_nodeBest_22 : decode cX13_nodeBest 22 = .ok (.invokevirtual 203, 3) := dk_182 0 203 (dk_at dksX13_nodeBest_1 0 rfl rfl)
theorem dX13_nodeBest_25 : decode cX13_nodeBest 25 = .ok (.ifCond .ne 6, 3) := dk_154 0 6 (dk_at dksX13_nodeBest_1 3 rfl rfl)
theorem dX13_nodeBest_28 : decode cX13_nodeBest 28 = .ok (.bipush (-4), 2) := dk_16 252 (dk_at dksX13_nodeBest_1 6 rfl rfl)
theorem dX13_nodeBest_30 : decode cX13_nodeBest 30 = .ok (.ireturn, 1) := dk_172 (dk_at dksX13_nodeBest_1 8 rfl rfl)
theorem dX13_nodeBest_31 : decode cX13_nodeBest 31 = .ok (.aload_n 0, 1) := dk_42 (dk_at dksX13_nodeBest_1 9 rfl rfl)
theorem dX13_nodeBest_32 : decode cX13_nodeBest 32 = .ok (.iload_n 1, 1) := dk_27 (dk_at dksX13_nodeBest_1 10 rfl rfl)
theorem dX13_nodeBest_33 : decode cX13_nodeBest 33 = .ok (.invokevirtual 249, 3) := dk_182 0 249 (dk_at dksX13_nodeBest_1 11 rfl rfl)
theorem dX13_nodeBest_36 : decode cX13_nodeBest 36 = .ok (.istore_n 3, 1) := dk_62 (dk_at dksX13_nodeBest_1 14 rfl rfl)
theorem dX13_nodeBest_37 : decode cX13_nodeBest 37 = .ok (.iload_n 2, 1) := dk_28 (dk_at dksX13_nodeBest_1 15 rfl rfl)
theorem dX13_nodeBest_38 : decode cX13_nodeBest 38 = .ok (.ifCond .ne 7, 3) := dk_154 0 7 (dk_at dksX13_nodeBest_1 16 rfl rfl)
theorem dX13_nodeBest_41 : decode cX13_nodeBest 41 = .ok (.iload_n 3, 1) := dk_29 (dk_at dksX13_nodeBest_1 19 rfl rfl)
theorem dX13_nodeBest_42 : decode cX13_nodeBest 42 = .ok (.goto 7, 3) := dk_167 0 7 (dk_at dksX13_nodeBest_1 20 rfl rfl)
theorem dX13_nodeBest_45 : decode cX13_nodeBest 45 = .ok (.aload_n 0, 1) := dk_42 (dk_at dksX13_nodeBest_1 23 rfl rfl)
theorem dX13_nodeBest_46 : decode cX13_nodeBest 46 = .ok (.getfield 246, 3) := dk_180 0 246 (dk_at dksX13_nodeBest_2 0 rfl rfl)
theorem dX13_nodeBest_49 : decode cX13_nodeBest 49 = .ok (.ireturn, 1) := dk_172 (dk_at dksX13_nodeBest_2 3 rfl rfl)
abbrev cX13_bestOffset : ByteArray := prog_22_method_89_code
def yX13_bestOffset : MethodName := ⟨RX13, "bestOffset", "(I)I"⟩
def dkwX13_bestOffset_4 : List UInt8 := [79, 29, 172]
abbrev dktX13_bestOffset_4 : List UInt8 := dkwX13_bestOffset_4 ++ []
def dkwX13_bestOffset_3 : List UInt8 := [181, 0, 246, 21, 4, 62, 132, 4, 1, 167, 255, 200, 42, 180, 0, 11, 17, 1, 50, 6, 27, 104, 96, 28]
abbrev dktX13_bestOffset_3 : List UInt8 := dkwX13_bestOffset_3 ++ dktX13_bestOffset_4
def dkwX13_bestOffset_2 : List UInt8 := [21, 4, 79, 42, 182, 0, 243, 54, 5, 21, 5, 42, 180, 0, 246, 163, 0, 6, 167, 0, 12, 42, 21, 5]
abbrev dktX13_bestOffset_2 : List UInt8 := dkwX13_bestOffset_2 ++ dktX13_bestOffset_3
def dkwX13_bestOffset_1 : List UInt8 := [21, 4, 42, 180, 0, 11, 16, 16, 46, 162, 0, 50, 42, 180, 0, 11, 17, 1, 50, 6, 27, 104, 96]
abbrev dktX13_bestOffset_1 : List UInt8 := dkwX13_bestOffset_1 ++ dktX13_bestOffset_2
def dkwX13_bestOffset_0 : List UInt8 := [42, 180, 0, 11, 17, 1, 50, 6, 27, 104, 96, 46, 61, 3, 62, 42, 2, 181, 0, 246, 3, 54, 4]
abbrev dktX13_bestOffset_0 : List UInt8 := dkwX13_bestOffset_0 ++ dktX13_bestOffset_1
theorem dksX13_bestOffset_0 : cX13_bestOffset.data.toList.drop 0 = dktX13_bestOffset_0 := by decide +kernel
theorem dksX13_bestOffset_1 : cX13_bestOffset.data.toList.drop 23 = dktX13_bestOffset_1 := dk_seg dksX13_bestOffset_0 23 rfl rfl
theorem dksX13_bestOffset_2 : cX13_bestOffset.data.toList.drop 46 = dktX13_bestOffset_2 := dk_seg dksX13_bestOffset_1 23 rfl rfl
theorem dksX13_bestOffset_3 : cX13_bestOffset.data.toList.drop 70 = dktX13_bestOffset_3 := dk_seg dksX13_bestOffset_2 24 rfl rfl
theorem dksX13_bestOffset_4 : cX13_bestOffset.data.toList.drop 94 = dktX13_bestOffset_4 := dk_seg dksX13_bestOffset_3 24 rfl rfl
theorem dX13_bestOffset_0 : decode cX13_bestOffset 0 = .ok (.aload_n 0, 1) := dk_42 (dk_at dksX13_bestOffset_0 0 rfl rfl)
theorem dX13_bestOffset_1 : decode cX13_bestOffset 1 = .ok (.getfield 11, 3) := dk_180 0 11 (dk_at dksX13_bestOffset_0 1 rfl rfl)
theorem dX13_bestOffset_4 : decode cX13_bestOffset 4 = .ok (.sipush 306, 3) := dk_17 1 50 (dk_at dksX13_bestOffset_0 4 rfl rfl)
theorem dX13_bestOffset_7 : decode cX13_bestOffset 7 = .ok (.iconst 3, 1) := dk_6 (dk_at dksX13_bestOffset_0 7 rfl rfl)
theorem dX13_bestOffset_8 : decode cX13_bestOffset 8 = .ok (.iload_n 1, 1) := dk_27 (dk_at dksX13_bestOffset_0 8 rfl rfl)
theorem dX13_bestOffset_9 : decode cX13_bestOffset 9 = .ok (.imul, 1) := dk_104 (dk_at dksX13_bestOffset_0 9 rfl rfl)
theorem dX13_bestOffset_10 : decode cX13_bestOffset 10 = .ok (.iadd, 1) := dk_96 (dk_at dksX13_bestOffset_0 10 rfl rfl)
theorem dX13_bestOffset_11 : decode cX13_bestOffset 11 = .ok (.iaload, 1) := dk_46 (dk_at dksX13_bestOffset_0 11 rfl rfl)
theorem dX13_bestOffset_12 : decode cX13_bestOffset 12 = .ok (.istore_n 2, 1) := dk_61 (dk_at dksX13_bestOffset_0 12 rfl rfl)
theorem dX13_bestOffset_13 : decode cX13_bestOffset 13 = .ok (.iconst 0, 1) := dk_3 (dk_at dksX13_bestOffset_0 13 rfl rfl)
theorem dX13_bestOffset_14 : decode cX13_bestOffset 14 = .ok (.istore_n 3, 1) := dk_62 (dk_at dksX13_bestOffset_0 14 rfl rfl)
theorem dX13_bestOffset_15 : decode cX13_bestOffset 15 = .ok (.aload_n 0, 1) := dk_42 (dk_at dksX13_bestOffset_0 15 rfl rfl)
theorem dX13_bestOffset_16 : decode cX13_bestOffset 16 = .ok (.iconst (-1), 1) := dk_2 (dk_at dksX13_bestOffset_0 16 rfl rfl)
theorem dX13_bestOffset_17 : decode cX13_bestOffset 17 = .ok (.putfield 246, 3) := dk_181 0 246 (dk_at dksX13_bestOffset_0 17 rfl rfl)
theorem dX13_bestOffset_20 : decode cX13_bestOffset 20 = .ok (.iconst 0, 1) := dk_3 (dk_at dksX13_bestOffset_0 20 rfl rfl)
theorem dX13_bestOffset_21 : decode cX13_bestOffset 21 = .ok (.istore 4, 2) := dk_54 4 (dk_at dksX13_bestOffset_0 21 rfl rfl)
theorem dX13_bestOffset_23 : decode cX13_bestOffset 23 = .ok (.iload 4, 2) := dk_21 4 (dk_at dksX13_bestOffset_1 0 rfl rfl)
theorem dX13_bestOffset_25 : decode cX13_bestOffset 25 = .ok (.aload_n 0, 1) := dk_42 (dk_at dksX13_bestOffset_1 2 rfl rfl)
theorem dX13_bestOffset_26 : decode cX13_bestOffset 26 = .ok (.getfield 11, 3) := dk_180 0 11 (dk_at dksX13_bestOffset_1 3 rfl rfl)
theorem dX13_bestOffset_29 : decode cX13_bestOffset 29 = .ok (.bipush 16, 2) := dk_16 16 (dk_at dksX13_bestOffset_1 6 rfl rfl)
theorem dX13_bestOffset_31 : decode cX13_bestOffset 31 = .ok (.iaload, 1) := dk_46 (dk_at dksX13_bestOffset_1 8 rfl rfl)
theorem dX13_bestOffset_32 : decode cX13_bestOffset 32 = .ok (.if_icmp .ge 50, 3) := dk_162 0 50 (dk_at dksX13_bestOffset_1 9 rfl rfl)
theorem dX13_bestOffset_35 : decode cX13_bestOffset 35 = .ok (.aload_n 0, 1) := dk_42 (dk_at dksX13_bestOffset_1 12 rfl rfl)
theorem dX13_bestOffset_36 : decode cX13_bestOffset 36 = .ok (.getfield 11, 3) := dk_180 0 11 (dk_at dksX13_bestOffset_1 13 rfl rfl)
theorem dX13_bestOffset_39 : decode cX13_bestOffset 39 = .ok (.sipush 306, 3) := dk_17 1 50 (dk_at dksX13_bestOffset_1 16 rfl rfl)
theorem dX13_bestOffset_42 : decode cX13_bestOffset 42 = .ok (.iconst 3, 1) := dk_6 (dk_at dksX13_bestOffset_1 19 rfl rfl)
theorem dX13_bestOffset_43 : decode cX13_bestOffset 43 = .ok (.iload_n 1, 1) := dk_27 (dk_at dksX13_bestOffset_1 20 rfl rfl)
theorem dX13_bestOffset_44 : decode cX13_bestOffset 44 = .ok (.imul, 1) := dk_104 (dk_at dksX13_bestOffset_1 21 rfl rfl)
theorem dX13_bestOffset_45 : decode cX13_bestOffset 45 = .ok (.iadd, 1) := dk_96 (dk_at dksX13_bestOffset_1 22 rfl rfl)
theorem dX13_bestOffset_46 : decode cX13_bestOffset 46 = .ok (.iload 4, 2) := dk_21 4 (dk_at dksX13_bestOffset_2 0 rfl rfl)
theorem dX13_bestOffset_48 : decode cX13_bestOffset 48 = .ok (.iastore, 1) := dk_79 (dk_at dksX13_bestOffset_2 2 rfl rfl)
theorem dX13_bestOffset_49 : decode cX13_bestOffset 49 = .ok (.aload_n 0, 1) := dk_42 (dk_at dksX13_bestOffset_2 3 rfl rfl)
theorem dX13_bestOffset_50 : decode cX13_bestOffset 50 = .ok (.invokevirtual 243, 3) := dk_182 0 243 (dk_at dksX13_bestOffset_2 4 rfl rfl)
theorem dX13_bestOffset_53 : decode cX13_bestOffset 53 = .ok (.istore 5, 2) := dk_54 5 (dk_at dksX13_bestOffset_2 7 rfl rfl)
theorem dX13_bestOffset_55 : decode cX13_bestOffset 55 = .ok (.iload 5, 2) := dk_21 5 (dk_at dksX13_bestOffset_2 9 rfl rfl)
theorem dX13_bestOffset_57 : decode cX13_bestOffset 57 = .ok (.aload_n 0, 1) := dk_42 (dk_at dksX13_bestOffset_2 11 rfl rfl)
theorem dX13_bestOffset_58 : decode cX13_bestOffset 58 = .ok (.getfield 246, 3) := dk_180 0 246 (dk_at dksX13_bestOffset_2 12 rfl rfl)
theorem dX13_bestOffset_61 : decode cX13_bestOffset 61 = .ok (.if_icmp .gt 6, 3) := dk_163 0 6 (dk_at dksX13_bestOffset_2 15 rfl rfl)
theorem dX13_bestOffset_64 : decode cX13_bestOffset 64 = .ok (.goto 12, 3) := dk_167 0 12 (dk_at dksX13_bestOffset_2 18 rfl rfl)
theorem dX13_bestOffset_67 : decode cX13_bestOffset 67 = .ok (.aload_n 0, 1) := dk_42 (dk_at dksX13_bestOffset_2 21 rfl rfl)
theorem dX13_bestOffset_68 : decode cX13_bestOffset 68 = .ok (.iload 5, 2) := dk_21 5 (dk_at dksX13_bestOffset_2 22 rfl rfl)
theorem dX13_bestOffset_70 : decode cX13_bestOffset 70 = .ok (.putfield 246, 3) := dk_181 0 246 (dk_at dksX13_bestOffset_3 0 rfl rfl)
theorem dX13_bestOffset_73 : decode cX13_bestOffset 73 = .ok (.iload 4, 2) := dk_21 4 (dk_at dksX13_bestOffset_3 3 rfl rfl)
theorem dX13_bestOffset_75 : decode cX13_bestOffset 75 = .ok (.istore_n 3, 1) := dk_62 (dk_at dksX13_bestOffset_3 5 rfl rfl)
theorem dX13_bestOffset_76 : decode cX13_bestOffset 76 = .ok (.iinc 4 1, 3) := dk_132 4 1 (dk_at dksX13_bestOffset_3 6 rfl rfl)
theorem dX13_bestOffset_79 : decode cX13_bestOffset 79 = .ok (.goto (-56), 3) := dk_167 255 200 (dk_at dksX13_bestOffset_3 9 rfl rfl)
theorem dX13_bestOffset_82 : decode cX13_bestOffset 82 = .ok (.aload_n 0, 1) := dk_42 (dk_at dksX13_bestOffset_3 12 rfl rfl)
theorem dX13_bestOffset_83 : decode cX13_bestOffset 83 = .ok (.getfield 11, 3) := dk_180 0 11 (dk_at dksX13_bestOffset_3 13 rfl rfl)
theorem dX13_bestOffset_86 : decode cX13_bestOffset 86 = .ok (.sipush 306, 3) := dk_17 1 50 (dk_at dksX13_bestOffset_3 16 rfl rfl)
theorem dX13_bestOffset_89 : decode cX13_bestOffset 89 = .ok (.iconst 3, 1) := dk_6 (dk_at dksX13_bestOffset_3 19 rfl rfl)
theorem dX13_bestOffset_90 : decode cX13_bestOffset 90 = .ok (.iload_n 1, 1) := dk_27 (dk_at dksX13_bestOffset_3 20 rfl rfl)
theorem dX13_bestOffset_91 : decode cX13_bestOffset 91 = .ok (.imul, 1) := dk_104 (dk_at dksX13_bestOffset_3 21 rfl rfl)
theorem dX13_bestOffset_92 : decode cX13_bestOffset 92 = .ok (.iadd, 1) := dk_96 (dk_at dksX13_bestOffset_3 22 rfl rfl)
theorem dX13_bestOffset_93 : decode cX13_bestOffset 93 = .ok (.iload_n 2, 1) := dk_28 (dk_at dksX13_bestOffset_3 23 rfl rfl)
theorem dX13_bestOffset_94 : decode cX13_bestOffset 94 = .ok (.iastore, 1) := dk_79 (dk_at dksX13_bestOffset_4 0 rfl rfl)
theorem dX13_bestOffset_95 : decode cX13_bestOffset 95 = .ok (.iload_n 3, 1) := dk_29 (dk_at dksX13_bestOffset_4 1 rfl rfl)
theorem dX13_bestOffset_96 : decode cX13_bestOffset 96 = .ok (.ireturn, 1) := dk_172 (dk_at dksX13_bestOffset_4 2 rfl rfl)
abbrev cX13_tune : ByteArray := prog_22_method_91_code
def yX13_tune : MethodName := ⟨RX13, "tune", "()I"⟩
def dkwX13_tune_3 : List UInt8 := [132, 1, 1, 167, 255, 199, 42, 182, 0, 243, 172]
abbrev dktX13_tune_3 : List UInt8 := dkwX13_tune_3 ++ []
def dkwX13_tune_2 : List UInt8 := [164, 0, 16, 42, 180, 0, 11, 17, 1, 50, 6, 28, 104, 96, 29, 79, 132, 2, 1, 167, 255, 212]
abbrev dktX13_tune_2 : List UInt8 := dkwX13_tune_2 ++ dktX13_tune_3
def dkwX13_tune_1 : List UInt8 := [180, 0, 11, 16, 17, 46, 162, 0, 39, 42, 28, 182, 0, 249, 62, 42, 180, 0, 246, 42, 182, 0, 243]
abbrev dktX13_tune_1 : List UInt8 := dkwX13_tune_1 ++ dktX13_tune_2
def dkwX13_tune_0 : List UInt8 := [42, 17, 0, 200, 182, 0, 203, 154, 0, 6, 16, 252, 172, 3, 60, 27, 7, 162, 0, 58, 3, 61, 28, 42]
abbrev dktX13_tune_0 : List UInt8 := dkwX13_tune_0 ++ dktX13_tune_1
theorem dksX13_tune_0 : cX13_tune.data.toList.drop 0 = dktX13_tune_0 := by decide +kernel
theorem dksX13_tune_1 : cX13_tune.data.toList.drop 24 = dktX13_tune_1 := dk_seg dksX13_tune_0 24 rfl rfl
theorem dksX13_tune_2 : cX13_tune.data.toList.drop 47 = dktX13_tune_2 := dk_seg dksX13_tune_1 23 rfl rfl
theorem dksX13_tune_3 : cX13_tune.data.toList.drop 69 = dktX13_tune_3 := dk_seg dksX13_tune_2 22 rfl rfl
theorem dX13_tune_0 : decode cX13_tune 0 = .ok (.aload_n 0, 1) := dk_42 (dk_at dksX13_tune_0 0 rfl rfl)
theorem dX13_tune_1 : decode cX13_tune 1 = .ok (.sipush 200, 3) := dk_17 0 200 (dk_at dksX13_tune_0 1 rfl rfl)
theorem dX13_tune_4 : decode cX13_tune 4 = .ok (.invokevirtual 203, 3) := dk_182 0 203 (dk_at dksX13_tune_0 4 rfl rfl)
theorem dX13_tune_7 : decode cX13_tune 7 = .ok (.ifCond .ne 6, 3) := dk_154 0 6 (dk_at dksX13_tune_0 7 rfl rfl)
theorem dX13_tune_10 : decode cX13_tune 10 = .ok (.bipush (-4), 2) := dk_16 252 (dk_at dksX13_tune_0 10 rfl rfl)
theorem dX13_tune_12 : decode cX13_tune 12 = .ok (.ireturn, 1) := dk_172 (dk_at dksX13_tune_0 12 rfl rfl)
theorem dX13_tune_13 : decode cX13_tune 13 = .ok (.iconst 0, 1) := dk_3 (dk_at dksX13_tune_0 13 rfl rfl)
theorem dX13_tune_14 : decode cX13_tune 14 = .ok (.istore_n 1, 1) := dk_60 (dk_at dksX13_tune_0 14 rfl rfl)
theorem dX13_tune_15 : decode cX13_tune 15 = .ok (.iload_n 1, 1) := dk_27 (dk_at dksX13_tune_0 15 rfl rfl)
theorem dX13_tune_16 : decode cX13_tune 16 = .ok (.iconst 4, 1) := dk_7 (dk_at dksX13_tune_0 16 rfl rfl)
theorem dX13_tune_17 : decode cX13_tune 17 = .ok (.if_icmp .ge 58, 3) := dk_162 0 58 (dk_at dksX13_tune_0 17 rfl rfl)
theorem dX13_tune_20 : decode cX13_tune 20 = .ok (.iconst 0, 1) := dk_3 (dk_at dksX13_tune_0 20 rfl rfl)
theorem dX13_tune_21 : decode cX13_tune 21 = .ok (.istore_n 2, 1) := dk_61 (dk_at dksX13_tune_0 21 rfl rfl)
theorem dX13_tune_22 : decode cX13_tune 22 = .ok (.iload_n 2, 1) := dk_28 (dk_at dksX13_tune_0 22 rfl rfl)
theorem dX13_tune_23 : decode cX13_tune 23 = .ok (.aload_n 0, 1) := dk_42 (dk_at dksX13_tune_0 23 rfl rfl)
theorem dX13_tune_24 : decode cX13_tune 24 = .ok (.getfield 11, 3) := dk_180 0 11 (dk_at dksX13_tune_1 0 rfl rfl)
theorem dX13_tune_27 : decode cX13_tune 27 = .ok (.bipush 17, 2) := dk_16 17 (dk_at dksX13_tune_1 3 rfl rfl)
theorem dX13_tune_29 : decode cX13_tune 29 = .ok (.iaload, 1) := dk_46 (dk_at dksX13_tune_1 5 rfl rfl)
theorem dX13_tune_30 : decode cX13_tune 30 = .ok (.if_icmp .ge 39, 3) := dk_162 0 39 (dk_at dksX13_tune_1 6 rfl rfl)
theorem dX13_tune_33 : decode cX13_tune 33 = .ok (.aload_n 0, 1) := dk_42 (dk_at dksX13_tune_1 9 rfl rfl)
theorem dX13_tune_34 : decode cX13_tune 34 = .ok (.iload_n 2, 1) := dk_28 (dk_at dksX13_tune_1 10 rfl rfl)
theorem dX13_tune_35 : decode cX13_tune 35 = .ok (.invokevirtual 249, 3) := dk_182 0 249 (dk_at dksX13_tune_1 11 rfl rfl)
theorem dX13_tune_38 : decode cX13_tune 38 = .ok (.istore_n 3, 1) := dk_62 (dk_at dksX13_tune_1 14 rfl rfl)
theorem dX13_tune_39 : decode cX13_tune 39 = .ok (.aload_n 0, 1) := dk_42 (dk_at dksX13_tune_1 15 rfl rfl)
theorem dX13_tune_40 : decode cX13_tune 40 = .ok (.getfield 246, 3) := dk_180 0 246 (dk_at dksX13_tune_1 16 rfl rfl)
theorem dX13_tune_43 : decode cX13_tune 43 = .ok (.aload_n 0, 1) := dk_42 (dk_at dksX13_tune_1 19 rfl rfl)
theorem dX13_tune_44 : decode cX13_tune 44 = .ok (.invokevirtual 243, 3) := dk_182 0 243 (dk_at dksX13_tune_1 20 rfl rfl)
theorem dX13_tune_47 : decode cX13_tune 47 = .ok (.if_icmp .le 16, 3) := dk_164 0 16 (dk_at dksX13_tune_2 0 rfl rfl)
theorem dX13_tune_50 : decode cX13_tune 50 = .ok (.aload_n 0, 1) := dk_42 (dk_at dksX13_tune_2 3 rfl rfl)
theorem dX13_tune_51 : decode cX13_tune 51 = .ok (.getfield 11, 3) := dk_180 0 11 (dk_at dksX13_tune_2 4 rfl rfl)
theorem dX13_tune_54 : decode cX13_tune 54 = .ok (.sipush 306, 3) := dk_17 1 50 (dk_at dksX13_tune_2 7 rfl rfl)
theorem dX13_tune_57 : decode cX13_tune 57 = .ok (.iconst 3, 1) := dk_6 (dk_at dksX13_tune_2 10 rfl rfl)
theorem dX13_tune_58 : decode cX13_tune 58 = .ok (.iload_n 2, 1) := dk_28 (dk_at dksX13_tune_2 11 rfl rfl)
theorem dX13_tune_59 : decode cX13_tune 59 = .ok (.imul, 1) := dk_104 (dk_at dksX13_tune_2 12 rfl rfl)
theorem dX13_tune_60 : decode cX13_tune 60 = .ok (.iadd, 1) := dk_96 (dk_at dksX13_tune_2 13 rfl rfl)
theorem dX13_tune_61 : decode cX13_tune 61 = .ok (.iload_n 3, 1) := dk_29 (dk_at dksX13_tune_2 14 rfl rfl)
theorem dX13_tune_62 : decode cX13_tune 62 = .ok (.iastore, 1) := dk_79 (dk_at dksX13_tune_2 15 rfl rfl)
theorem dX13_tune_63 : decode cX13_tune 63 = .ok (.iinc 2 1, 3) := dk_132 2 1 (dk_at dksX13_tune_2 16 rfl rfl)
theorem dX13_tune_66 : decode cX13_tune 66 = .ok (.goto (-44), 3) := dk_167 255 212 (dk_at dksX13_tune_2 19 rfl rfl)
theorem dX13_tune_69 : decode cX13_tune 69 = .ok (.iinc 1 1, 3) := dk_132 1 1 (dk_at dksX13_tune_3 0 rfl rfl)
theorem dX13_tune_72 : decode cX13_tune 72 = .ok (.goto (-57), 3) := dk_167 255 199 (dk_at dksX13_tune_3 3 rfl rfl)
theorem dX13_tune_75 : decode cX13_tune 75 = .ok (.aload_n 0, 1) := dk_42 (dk_at dksX13_tune_3 6 rfl rfl)
theorem dX13_tune_76 : decode cX13_tune 76 = .ok (.invokevirtual 243, 3) := dk_182 0 243 (dk_at dksX13_tune_3 7 rfl rfl)
theorem dX13_tune_79 : decode cX13_tune 79 = .ok (.ireturn, 1) := dk_172 (dk_at dksX13_tune_3 10 rfl rfl)
abbrev cX13_would : ByteArray := prog_22_method_94_code
def yX13_would : MethodName := ⟨RX13, "would", "(II)I"⟩
def dkwX13_would_2 : List UInt8 := [42, 182, 1, 0, 42, 27, 182, 0, 206, 42, 28, 182, 1, 3, 62, 42, 182, 1, 6, 29, 172]
abbrev dktX13_would_2 : List UInt8 := dkwX13_would_2 ++ []
def dkwX13_would_1 : List UInt8 := [172, 42, 180, 0, 11, 5, 46, 154, 0, 6, 16, 253, 172, 42, 27, 182, 0, 203, 154, 0, 6, 16, 252, 172]
abbrev dktX13_would_1 : List UInt8 := dkwX13_would_1 ++ dktX13_would_2
def dkwX13_would_0 : List UInt8 := [28, 3, 16, 18, 184, 0, 49, 154, 0, 5, 2, 172, 27, 3, 16, 99, 184, 0, 49, 154, 0, 6, 16, 254]
abbrev dktX13_would_0 : List UInt8 := dkwX13_would_0 ++ dktX13_would_1
theorem dksX13_would_0 : cX13_would.data.toList.drop 0 = dktX13_would_0 := by decide +kernel
theorem dksX13_would_1 : cX13_would.data.toList.drop 24 = dktX13_would_1 := dk_seg dksX13_would_0 24 rfl rfl
theorem dksX13_would_2 : cX13_would.data.toList.drop 48 = dktX13_would_2 := dk_seg dksX13_would_1 24 rfl rfl
theorem dX13_would_0 : decode cX13_would 0 = .ok (.iload_n 2, 1) := dk_28 (dk_at dksX13_would_0 0 rfl rfl)
theorem dX13_would_1 : decode cX13_would 1 = .ok (.iconst 0, 1) := dk_3 (dk_at dksX13_would_0 1 rfl rfl)
theorem dX13_would_2 : decode cX13_would 2 = .ok (.bipush 18, 2) := dk_16 18 (dk_at dksX13_would_0 2 rfl rfl)
theorem dX13_would_4 : decode cX13_would 4 = .ok (.invokestatic 49, 3) := dk_184 0 49 (dk_at dksX13_would_0 4 rfl rfl)
theorem dX13_would_7 : decode cX13_would 7 = .ok (.ifCond .ne 5, 3) := dk_154 0 5 (dk_at dksX13_would_0 7 rfl rfl)
theorem dX13_would_10 : decode cX13_would 10 = .ok (.iconst (-1), 1) := dk_2 (dk_at dksX13_would_0 10 rfl rfl)
theorem dX13_would_11 : decode cX13_would 11 = .ok (.ireturn, 1) := dk_172 (dk_at dksX13_would_0 11 rfl rfl)
theorem dX13_would_12 : decode cX13_would 12 = .ok (.iload_n 1, 1) := dk_27 (dk_at dksX13_would_0 12 rfl rfl)
theorem dX13_would_13 : decode cX13_would 13 = .ok (.iconst 0, 1) := dk_3 (dk_at dksX13_would_0 13 rfl rfl)
theorem dX13_would_14 : decode cX13_would 14 = .ok (.bipush 99, 2) := dk_16 99 (dk_at dksX13_would_0 14 rfl rfl)
theorem dX13_would_16 : decode cX13_would 16 = .ok (.invokestatic 49, 3) := dk_184 0 49 (dk_at dksX13_would_0 16 rfl rfl)
theorem dX13_would_19 : decode cX13_would 19 = .ok (.ifCond .ne 6, 3) := dk_154 0 6 (dk_at dksX13_would_0 19 rfl rfl)
theorem dX13_would_22 : decode cX13_would 22 = .ok (.bipush (-2), 2) := dk_16 254 (dk_at dksX13_would_0 22 rfl rfl)
theorem dX13_would_24 : decode cX13_would 24 = .ok (.ireturn, 1) := dk_172 (dk_at dksX13_would_1 0 rfl rfl)
theorem dX13_would_25 : decode cX13_would 25 = .ok (.aload_n 0, 1) := dk_42 (dk_at dksX13_would_1 1 rfl rfl)
theorem dX13_would_26 : decode cX13_would 26 = .ok (.getfield 11, 3) := dk_180 0 11 (dk_at dksX13_would_1 2 rfl rfl)
theorem dX13_would_29 : decode cX13_would 29 = .ok (.iconst 2, 1) := dk_5 (dk_at dksX13_would_1 5 rfl rfl)
theorem dX13_would_30 : decode cX13_would 30 = .ok (.iaload, 1) := dk_46 (dk_at dksX13_would_1 6 rfl rfl)
theorem dX13_would_31 : decode cX13_would 31 = .ok (.ifCond .ne 6, 3) := dk_154 0 6 (dk_at dksX13_would_1 7 rfl rfl)
theorem dX13_would_34 : decode cX13_would 34 = .ok (.bipush (-3), 2) := dk_16 253 (dk_at dksX13_would_1 10 rfl rfl)
theorem dX13_would_36 : decode cX13_would 36 = .ok (.ireturn, 1) := dk_172 (dk_at dksX13_would_1 12 rfl rfl)
theorem dX13_would_37 : decode cX13_would 37 = .ok (.aload_n 0, 1) := dk_42 (dk_at dksX13_would_1 13 rfl rfl)
theorem dX13_would_38 : decode cX13_would 38 = .ok (.iload_n 1, 1) := dk_27 (dk_at dksX13_would_1 14 rfl rfl)
theorem dX13_would_39 : decode cX13_would 39 = .ok (.invokevirtual 203, 3) := dk_182 0 203 (dk_at dksX13_would_1 15 rfl rfl)
theorem dX13_would_42 : decode cX13_would 42 = .ok (.ifCond .ne 6, 3) := dk_154 0 6 (dk_at dksX13_would_1 18 rfl rfl)
theorem dX13_would_45 : decode cX13_would 45 = .ok (.bipush (-4), 2) := dk_16 252 (dk_at dksX13_would_1 21 rfl rfl)
theorem dX13_would_47 : decode cX13_would 47 = .ok (.ireturn, 1) := dk_172 (dk_at dksX13_would_1 23 rfl rfl)
theorem dX13_would_48 : decode cX13_would 48 = .ok (.aload_n 0, 1) := dk_42 (dk_at dksX13_would_2 0 rfl rfl)
theorem dX13_would_49 : decode cX13_would 49 = .ok (.invokevirtual 256, 3) := dk_182 1 0 (dk_at dksX13_would_2 1 rfl rfl)
theorem dX13_would_52 : decode cX13_would 52 = .ok (.aload_n 0, 1) := dk_42 (dk_at dksX13_would_2 4 rfl rfl)
theorem dX13_would_53 : decode cX13_would 53 = .ok (.iload_n 1, 1) := dk_27 (dk_at dksX13_would_2 5 rfl rfl)
theorem dX13_would_54 : decode cX13_would 54 = .ok (.invokevirtual 206, 3) := dk_182 0 206 (dk_at dksX13_would_2 6 rfl rfl)
theorem dX13_would_57 : decode cX13_would 57 = .ok (.aload_n 0, 1) := dk_42 (dk_at dksX13_would_2 9 rfl rfl)
theorem dX13_would_58 : decode cX13_would 58 = .ok (.iload_n 2, 1) := dk_28 (dk_at dksX13_would_2 10 rfl rfl)
theorem dX13_would_59 : decode cX13_would 59 = .ok (.invokevirtual 259, 3) := dk_182 1 3 (dk_at dksX13_would_2 11 rfl rfl)
theorem dX13_would_62 : decode cX13_would 62 = .ok (.istore_n 3, 1) := dk_62 (dk_at dksX13_would_2 14 rfl rfl)
theorem dX13_would_63 : decode cX13_would 63 = .ok (.aload_n 0, 1) := dk_42 (dk_at dksX13_would_2 15 rfl rfl)
theorem dX13_would_64 : decode cX13_would 64 = .ok (.invokevirtual 262, 3) := dk_182 1 6 (dk_at dksX13_would_2 16 rfl rfl)
theorem dX13_would_67 : decode cX13_would 67 = .ok (.iload_n 3, 1) := dk_29 (dk_at dksX13_would_2 19 rfl rfl)
theorem dX13_would_68 : decode cX13_would 68 = .ok (.ireturn, 1) := dk_172 (dk_at dksX13_would_2 20 rfl rfl)
abbrev cX13_thinks : ByteArray := prog_22_method_92_code
def yX13_thinks : MethodName := ⟨RX13, "thinks", "()V"⟩
def dkwX13_thinks_0 : List UInt8 := [42, 180, 0, 11, 42, 180, 0, 18, 184, 0, 252, 177]
abbrev dktX13_thinks_0 : List UInt8 := dkwX13_thinks_0 ++ []
theorem dksX13_thinks_0 : cX13_thinks.data.toList.drop 0 = dktX13_thinks_0 := by decide +kernel
theorem dX13_thinks_0 : decode cX13_thinks 0 = .ok (.aload_n 0, 1) := dk_42 (dk_at dksX13_thinks_0 0 rfl rfl)
theorem dX13_thinks_1 : decode cX13_thinks 1 = .ok (.getfield 11, 3) := dk_180 0 11 (dk_at dksX13_thinks_0 1 rfl rfl)
theorem dX13_thinks_4 : decode cX13_thinks 4 = .ok (.aload_n 0, 1) := dk_42 (dk_at dksX13_thinks_0 4 rfl rfl)
theorem dX13_thinks_5 : decode cX13_thinks 5 = .ok (.getfield 18, 3) := dk_180 0 18 (dk_at dksX13_thinks_0 5 rfl rfl)
theorem dX13_thinks_8 : decode cX13_thinks 8 = .ok (.invokestatic 252, 3) := dk_184 0 252 (dk_at dksX13_thinks_0 8 rfl rfl)
theorem dX13_thinks_11 : decode cX13_thinks 11 = .ok (.return_, 1) := dk_177 (dk_at dksX13_thinks_0 11 rfl rfl)
abbrev cX13_copies : ByteArray := prog_22_method_11_code
def yX13_copies : MethodName := ⟨RX13, "copies", "([I[I)V"⟩
def dkwX13_copies_0 : List UInt8 := [3, 61, 28, 42, 190, 162, 0, 15, 43, 28, 42, 28, 46, 79, 132, 2, 1, 167, 255, 241, 177]
abbrev dktX13_copies_0 : List UInt8 := dkwX13_copies_0 ++ []
theorem dksX13_copies_0 : cX13_copies.data.toList.drop 0 = dktX13_copies_0 := by decide +kernel
theorem dX13_copies_0 : decode cX13_copies 0 = .ok (.iconst 0, 1) := dk_3 (dk_at dksX13_copies_0 0 rfl rfl)
theorem dX13_copies_1 : decode cX13_copies 1 = .ok (.istore_n 2, 1) := dk_61 (dk_at dksX13_copies_0 1 rfl rfl)
theorem dX13_copies_2 : decode cX13_copies 2 = .ok (.iload_n 2, 1) := dk_28 (dk_at dksX13_copies_0 2 rfl rfl)
theorem dX13_copies_3 : decode cX13_copies 3 = .ok (.aload_n 0, 1) := dk_42 (dk_at dksX13_copies_0 3 rfl rfl)
theorem dX13_copies_4 : decode cX13_copies 4 = .ok (.arraylength, 1) := dk_190 (dk_at dksX13_copies_0 4 rfl rfl)
theorem dX13_copies_5 : decode cX13_copies 5 = .ok (.if_icmp .ge 15, 3) := dk_162 0 15 (dk_at dksX13_copies_0 5 rfl rfl)
theorem dX13_copies_8 : decode cX13_copies 8 = .ok (.aload_n 1, 1) := dk_43 (dk_at dksX13_copies_0 8 rfl rfl)
theorem dX13_copies_9 : decode cX13_copies 9 = .ok (.iload_n 2, 1) := dk_28 (dk_at dksX13_copies_0 9 rfl rfl)
theorem dX13_copies_10 : decode cX13_copies 10 = .ok (.aload_n 0, 1) := dk_42 (dk_at dksX13_copies_0 10 rfl rfl)
theorem dX13_copies_11 : decode cX13_copies 11 = .ok (.iload_n 2, 1) := dk_28 (dk_at dksX13_copies_0 11 rfl rfl)
theorem dX13_copies_12 : decode cX13_copies 12 = .ok (.iaload, 1) := dk_46 (dk_at dksX13_copies_0 12 rfl rfl)
theorem dX13_copies_13 : decode cX13_copies 13 = .ok (.iastore, 1) := dk_79 (dk_at dksX13_copies_0 13 rfl rfl)
theorem dX13_copies_14 : decode cX13_copies 14 = .ok (.iinc 2 1, 3) := dk_132 2 1 (dk_at dksX13_copies_0 14 rfl rfl)
theorem dX13_copies_17 : decode cX13_copies 17 = .ok (.goto (-15), 3) := dk_167 255 241 (dk_at dksX13_copies_0 17 rfl rfl)
theorem dX13_copies_20 : decode cX13_copies 20 = .ok (.return_, 1) := dk_177 (dk_at dksX13_copies_0 20 rfl rfl)
abbrev cX13_forgets : ByteArray := prog_22_method_93_code
def yX13_forgets : MethodName := ⟨RX13, "forgets", "()V"⟩
def dkwX13_forgets_0 : List UInt8 := [42, 180, 0, 18, 42, 180, 0, 11, 184, 0, 252, 177]
abbrev dktX13_forgets_0 : List UInt8 := dkwX13_forgets_0 ++ []
theorem dksX13_forgets_0 : cX13_forgets.data.toList.drop 0 = dktX13_forgets_0 := by decide +kernel
theorem dX13_forgets_0 : decode cX13_forgets 0 = .ok (.aload_n 0, 1) := dk_42 (dk_at dksX13_forgets_0 0 rfl rfl)
theorem dX13_forgets_1 : decode cX13_forgets 1 = .ok (.getfield 18, 3) := dk_180 0 18 (dk_at dksX13_forgets_0 1 rfl rfl)
theorem dX13_forgets_4 : decode cX13_forgets 4 = .ok (.aload_n 0, 1) := dk_42 (dk_at dksX13_forgets_0 4 rfl rfl)
theorem dX13_forgets_5 : decode cX13_forgets 5 = .ok (.getfield 11, 3) := dk_180 0 11 (dk_at dksX13_forgets_0 5 rfl rfl)
theorem dX13_forgets_8 : decode cX13_forgets 8 = .ok (.invokestatic 252, 3) := dk_184 0 252 (dk_at dksX13_forgets_0 8 rfl rfl)
theorem dX13_forgets_11 : decode cX13_forgets 11 = .ok (.return_, 1) := dk_177 (dk_at dksX13_forgets_0 11 rfl rfl)
abbrev cX13_turns_2 : ByteArray := prog_22_method_95_code
def yX13_turns_2 : MethodName := ⟨RX13, "turns", "(II)I"⟩
def dkwX13_turns_2_4 : List UInt8 := [182, 0, 197, 132, 4, 1, 167, 255, 212, 42, 182, 1, 6, 29, 172]
abbrev dktX13_turns_2_4 : List UInt8 := dkwX13_turns_2_4 ++ []
def dkwX13_turns_2_3 : List UInt8 := [27, 16, 6, 182, 0, 56, 4, 160, 0, 12, 42, 180, 0, 11, 6, 46, 167, 0, 5, 16, 251, 62, 42]
abbrev dktX13_turns_2_3 : List UInt8 := dkwX13_turns_2_3 ++ dktX13_turns_2_4
def dkwX13_turns_2_2 : List UInt8 := [182, 1, 0, 16, 251, 62, 3, 54, 4, 21, 4, 28, 162, 0, 44, 29, 156, 0, 40, 42, 182, 0, 194, 42]
abbrev dktX13_turns_2_2 : List UInt8 := dkwX13_turns_2_2 ++ dktX13_turns_2_3
def dkwX13_turns_2_1 : List UInt8 := [180, 0, 11, 5, 46, 154, 0, 6, 16, 253, 172, 42, 28, 182, 0, 203, 154, 0, 6, 16, 252, 172, 42]
abbrev dktX13_turns_2_1 : List UInt8 := dkwX13_turns_2_1 ++ dktX13_turns_2_2
def dkwX13_turns_2_0 : List UInt8 := [42, 27, 182, 0, 96, 154, 0, 5, 2, 172, 28, 3, 16, 99, 184, 0, 49, 154, 0, 6, 16, 254, 172, 42]
abbrev dktX13_turns_2_0 : List UInt8 := dkwX13_turns_2_0 ++ dktX13_turns_2_1
theorem dksX13_turns_2_0 : cX13_turns_2.data.toList.drop 0 = dktX13_turns_2_0 := by decide +kernel
theorem dksX13_turns_2_1 : cX13_turns_2.data.toList.drop 24 = dktX13_turns_2_1 := dk_seg dksX13_turns_2_0 24 rfl rfl
theorem dksX13_turns_2_2 : cX13_turns_2.data.toList.drop 47 = dktX13_turns_2_2 := dk_seg dksX13_turns_2_1 23 rfl rfl
theorem dksX13_turns_2_3 : cX13_turns_2.data.toList.drop 71 = dktX13_turns_2_3 := dk_seg dksX13_turns_2_2 24 rfl rfl
theorem dksX13_turns_2_4 : cX13_turns_2.data.toList.drop 94 = dktX13_turns_2_4 := dk_seg dksX13_turns_2_3 23 rfl rfl
theorem dX13_turns_2_0 : decode cX13_turns_2 0 = .ok (.aload_n 0, 1) := dk_42 (dk_at dksX13_turns_2_0 0 rfl rfl)
theorem dX13_turns_2_1 : decode cX13_turns_2 1 = .ok (.iload_n 1, 1) := dk_27 (dk_at dksX13_turns_2_0 1 rfl rfl)
theorem dX13_turns_2_2 : decode cX13_turns_2 2 = .ok (.invokevirtual 96, 3) := dk_182 0 96 (dk_at dksX13_turns_2_0 2 rfl rfl)
theorem dX13_turns_2_5 : decode cX13_turns_2 5 = .ok (.ifCond .ne 5, 3) := dk_154 0 5 (dk_at dksX13_turns_2_0 5 rfl rfl)
theorem dX13_turns_2_8 : decode cX13_turns_2 8 = .ok (.iconst (-1), 1) := dk_2 (dk_at dksX13_turns_2_0 8 rfl rfl)
theorem dX13_turns_2_9 : decode cX13_turns_2 9 = .ok (.ireturn, 1) := dk_172 (dk_at dksX13_turns_2_0 9 rfl rfl)
theorem dX13_turns_2_10 : decode cX13_turns_2 10 = .ok (.iload_n 2, 1) := dk_28 (dk_at dksX13_turns_2_0 10 rfl rfl)
theorem dX13_turns_2_11 : decode cX13_turns_2 11 = .ok (.iconst 0, 1) := dk_3 (dk_at dksX13_turns_2_0 11 rfl rfl)
theorem dX13_turns_2_12 : decode cX13_turns_2 12 = .ok (.bipush 99, 2) := dk_16 99 (dk_at dksX13_turns_2_0 12 rfl rfl)
theorem dX13_turns_2_14 : decode cX13_turns_2 14 = .ok (.invokestatic 49, 3) := dk_184 0 49 (dk_at dksX13_turns_2_0 14 rfl rfl)
theorem dX13_turns_2_17 : decode cX13_turns_2 17 = .ok (.ifCond .ne 6, 3) := dk_154 0 6 (dk_at dksX13_turns_2_0 17 rfl rfl)
theorem dX13_turns_2_20 : decode cX13_turns_2 20 = .ok (.bipush (-2), 2) := dk_16 254 (dk_at dksX13_turns_2_0 20 rfl rfl)
theorem dX13_turns_2_22 : decode cX13_turns_2 22 = .ok (.ireturn, 1) := dk_172 (dk_at dksX13_turns_2_0 22 rfl rfl)
theorem dX13_turns_2_23 : decode cX13_turns_2 23 = .ok (.aload_n 0, 1) := dk_42 (dk_at dksX13_turns_2_0 23 rfl rfl)
theorem dX13_turns_2_24 : decode cX13_turns_2 24 = .ok (.getfield 11, 3) := dk_180 0 11 (dk_at dksX13_turns_2_1 0 rfl rfl)
theorem dX13_turns_2_27 : decode cX13_turns_2 27 = .ok (.iconst 2, 1) := dk_5 (dk_at dksX13_turns_2_1 3 rfl rfl)
theorem dX13_turns_2_28 : decode cX13_turns_2 28 = .ok (.iaload, 1) := dk_46 (dk_at dksX13_turns_2_1 4 rfl rfl)
theorem dX13_turns_2_29 : decode cX13_turns_2 29 = .ok (.ifCond .ne 6, 3) := dk_154 0 6 (dk_at dksX13_turns_2_1 5 rfl rfl)
theorem dX13_turns_2_32 : decode cX13_turns_2 32 = .ok (.bipush (-3), 2) := dk_16 253 (dk_at dksX13_turns_2_1 8 rfl rfl)
theorem dX13_turns_2_34 : decode cX13_turns_2 34 = .ok (.ireturn, 1) := dk_172 (dk_at dksX13_turns_2_1 10 rfl rfl)
theorem dX13_turns_2_35 : decode cX13_turns_2 35 = .ok (.aload_n 0, 1) := dk_42 (dk_at dksX13_turns_2_1 11 rfl rfl)
theorem dX13_turns_2_36 : decode cX13_turns_2 36 = .ok (.iload_n 2, 1) := dk_28 (dk_at dksX13_turns_2_1 12 rfl rfl)
theorem dX13_turns_2_37 : decode cX13_turns_2 37 = .ok (.invokevirtual 203, 3) := dk_182 0 203 (dk_at dksX13_turns_2_1 13 rfl rfl)
theorem dX13_turns_2_40 : decode cX13_turns_2 40 = .ok (.ifCond .ne 6, 3) := dk_154 0 6 (dk_at dksX13_turns_2_1 16 rfl rfl)
theorem dX13_turns_2_43 : decode cX13_turns_2 43 = .ok (.bipush (-4), 2) := dk_16 252 (dk_at dksX13_turns_2_1 19 rfl rfl)
theorem dX13_turns_2_45 : decode cX13_turns_2 45 = .ok (.ireturn, 1) := dk_172 (dk_at dksX13_turns_2_1 21 rfl rfl)
theorem dX13_turns_2_46 : decode cX13_turns_2 46 = .ok (.aload_n 0, 1) := dk_42 (dk_at dksX13_turns_2_1 22 rfl rfl)
theorem dX13_turns_2_47 : decode cX13_turns_2 47 = .ok (.invokevirtual 256, 3) := dk_182 1 0 (dk_at dksX13_turns_2_2 0 rfl rfl)
theorem dX13_turns_2_50 : decode cX13_turns_2 50 = .ok (.bipush (-5), 2) := dk_16 251 (dk_at dksX13_turns_2_2 3 rfl rfl)
theorem dX13_turns_2_52 : decode cX13_turns_2 52 = .ok (.istore_n 3, 1) := dk_62 (dk_at dksX13_turns_2_2 5 rfl rfl)
theorem dX13_turns_2_53 : decode cX13_turns_2 53 = .ok (.iconst 0, 1) := dk_3 (dk_at dksX13_turns_2_2 6 rfl rfl)
theorem dX13_turns_2_54 : decode cX13_turns_2 54 = .ok (.istore 4, 2) := dk_54 4 (dk_at dksX13_turns_2_2 7 rfl rfl)
theorem dX13_turns_2_56 : decode cX13_turns_2 56 = .ok (.iload 4, 2) := dk_21 4 (dk_at dksX13_turns_2_2 9 rfl rfl)
theorem dX13_turns_2_58 : decode cX13_turns_2 58 = .ok (.iload_n 2, 1) := dk_28 (dk_at dksX13_turns_2_2 11 rfl rfl)
theorem dX13_turns_2_59 : decode cX13_turns_2 59 = .ok (.if_icmp .ge 44, 3) := dk_162 0 44 (dk_at dksX13_turns_2_2 12 rfl rfl)
theorem dX13_turns_2_62 : decode cX13_turns_2 62 = .ok (.iload_n 3, 1) := dk_29 (dk_at dksX13_turns_2_2 15 rfl rfl)
theorem dX13_turns_2_63 : decode cX13_turns_2 63 = .ok (.ifCond .ge 40, 3) := dk_156 0 40 (dk_at dksX13_turns_2_2 16 rfl rfl)
theorem dX13_turns_2_66 : decode cX13_turns_2 66 = .ok (.aload_n 0, 1) := dk_42 (dk_at dksX13_turns_2_2 19 rfl rfl)
theorem dX13_turns_2_67 : decode cX13_turns_2 67 = .ok (.invokevirtual 194, 3) := dk_182 0 194 (dk_at dksX13_turns_2_2 20 rfl rfl)
theorem dX13_turns_2_70 : decode cX13_turns_2 70 = .ok (.aload_n 0, 1) := dk_42 (dk_at dksX13_turns_2_2 23 rfl rfl)
theorem dX13_turns_2_71 : decode cX13_turns_2 71 = .ok (.iload_n 1, 1) := dk_27 (dk_at dksX13_turns_2_3 0 rfl rfl)
theorem dX13_turns_2_72 : decode cX13_turns_2 72 = .ok (.bipush 6, 2) := dk_16 6 (dk_at dksX13_turns_2_3 1 rfl rfl)
theorem dX13_turns_2_74 : decode cX13_turns_2 74 = .ok (.invokevirtual 56, 3) := dk_182 0 56 (dk_at dksX13_turns_2_3 3 rfl rfl)
theorem dX13_turns_2_77 : decode cX13_turns_2 77 = .ok (.iconst 1, 1) := dk_4 (dk_at dksX13_turns_2_3 6 rfl rfl)
theorem dX13_turns_2_78 : decode cX13_turns_2 78 = .ok (.if_icmp .ne 12, 3) := dk_160 0 12 (dk_at dksX13_turns_2_3 7 rfl rfl)
theorem dX13_turns_2_81 : decode cX13_turns_2 81 = .ok (.aload_n 0, 1) := dk_42 (dk_at dksX13_turns_2_3 10 rfl rfl)
theorem dX13_turns_2_82 : decode cX13_turns_2 82 = .ok (.getfield 11, 3) := dk_180 0 11 (dk_at dksX13_turns_2_3 11 rfl rfl)
theorem dX13_turns_2_85 : decode cX13_turns_2 85 = .ok (.iconst 3, 1) := dk_6 (dk_at dksX13_turns_2_3 14 rfl rfl)
theorem dX13_turns_2_86 : decode cX13_turns_2 86 = .ok (.iaload, 1) := dk_46 (dk_at dksX13_turns_2_3 15 rfl rfl)
theorem dX13_turns_2_87 : decode cX13_turns_2 87 = .ok (.goto 5, 3) := dk_167 0 5 (dk_at dksX13_turns_2_3 16 rfl rfl)
theorem dX13_turns_2_90 : decode cX13_turns_2 90 = .ok (.bipush (-5), 2) := dk_16 251 (dk_at dksX13_turns_2_3 19 rfl rfl)
theorem dX13_turns_2_92 : decode cX13_turns_2 92 = .ok (.istore_n 3, 1) := dk_62 (dk_at dksX13_turns_2_3 21 rfl rfl)
theorem dX13_turns_2_93 : decode cX13_turns_2 93 = .ok (.aload_n 0, 1) := dk_42 (dk_at dksX13_turns_2_3 22 rfl rfl)
theorem dX13_turns_2_94 : decode cX13_turns_2 94 = .ok (.invokevirtual 197, 3) := dk_182 0 197 (dk_at dksX13_turns_2_4 0 rfl rfl)
theorem dX13_turns_2_97 : decode cX13_turns_2 97 = .ok (.iinc 4 1, 3) := dk_132 4 1 (dk_at dksX13_turns_2_4 3 rfl rfl)
theorem dX13_turns_2_100 : decode cX13_turns_2 100 = .ok (.goto (-44), 3) := dk_167 255 212 (dk_at dksX13_turns_2_4 6 rfl rfl)
theorem dX13_turns_2_103 : decode cX13_turns_2 103 = .ok (.aload_n 0, 1) := dk_42 (dk_at dksX13_turns_2_4 9 rfl rfl)
theorem dX13_turns_2_104 : decode cX13_turns_2 104 = .ok (.invokevirtual 262, 3) := dk_182 1 6 (dk_at dksX13_turns_2_4 10 rfl rfl)
theorem dX13_turns_2_107 : decode cX13_turns_2 107 = .ok (.iload_n 3, 1) := dk_29 (dk_at dksX13_turns_2_4 13 rfl rfl)
theorem dX13_turns_2_108 : decode cX13_turns_2 108 = .ok (.ireturn, 1) := dk_172 (dk_at dksX13_turns_2_4 14 rfl rfl)
abbrev cX13_best : ByteArray := prog_22_method_97_code
def yX13_best : MethodName := ⟨RX13, "best", "(II)I"⟩
def dkwX13_best_5 : List UInt8 := [167, 255, 203, 28, 154, 0, 7, 29, 167, 0, 5, 21, 4, 172]
abbrev dktX13_best_5 : List UInt8 := dkwX13_best_5 ++ []
def dkwX13_best_4 : List UInt8 := [162, 0, 15, 21, 5, 62, 42, 180, 0, 11, 16, 7, 46, 54, 4, 42, 182, 1, 6, 132, 5, 1]
abbrev dktX13_best_4 : List UInt8 := dkwX13_best_4 ++ dktX13_best_5
def dkwX13_best_3 : List UInt8 := [21, 5, 182, 1, 9, 42, 27, 182, 0, 206, 29, 153, 0, 15, 42, 180, 0, 11, 16, 7, 46, 21, 4]
abbrev dktX13_best_3 : List UInt8 := dkwX13_best_3 ++ dktX13_best_4
def dkwX13_best_2 : List UInt8 := [16, 252, 172, 42, 182, 1, 0, 3, 62, 3, 54, 4, 4, 54, 5, 21, 5, 16, 9, 163, 0, 52, 42]
abbrev dktX13_best_2 : List UInt8 := dkwX13_best_2 ++ dktX13_best_3
def dkwX13_best_1 : List UInt8 := [42, 180, 0, 11, 5, 46, 154, 0, 6, 16, 253, 172, 42, 16, 9, 27, 104, 182, 0, 203, 154, 0, 6]
abbrev dktX13_best_1 : List UInt8 := dkwX13_best_1 ++ dktX13_best_2
def dkwX13_best_0 : List UInt8 := [28, 3, 4, 184, 0, 49, 154, 0, 5, 2, 172, 27, 3, 16, 60, 184, 0, 49, 154, 0, 6, 16, 254, 172]
abbrev dktX13_best_0 : List UInt8 := dkwX13_best_0 ++ dktX13_best_1
theorem dksX13_best_0 : cX13_best.data.toList.drop 0 = dktX13_best_0 := by decide +kernel
theorem dksX13_best_1 : cX13_best.data.toList.drop 24 = dktX13_best_1 := dk_seg dksX13_best_0 24 rfl rfl
theorem dksX13_best_2 : cX13_best.data.toList.drop 47 = dktX13_best_2 := dk_seg dksX13_best_1 23 rfl rfl
theorem dksX13_best_3 : cX13_best.data.toList.drop 70 = dktX13_best_3 := dk_seg dksX13_best_2 23 rfl rfl
theorem dksX13_best_4 : cX13_best.data.toList.drop 93 = dktX13_best_4 := dk_seg dksX13_best_3 23 rfl rfl
theorem dksX13_best_5 : cX13_best.data.toList.drop 115 = dktX13_best_5 := dk_seg dksX13_best_4 22 rfl rfl
theorem dX13_best_0 : decode cX13_best 0 = .ok (.iload_n 2, 1) := dk_28 (dk_at dksX13_best_0 0 rfl rfl)
theorem dX13_best_1 : decode cX13_best 1 = .ok (.iconst 0, 1) := dk_3 (dk_at dksX13_best_0 1 rfl rfl)
theorem dX13_best_2 : decode cX13_best 2 = .ok (.iconst 1, 1) := dk_4 (dk_at dksX13_best_0 2 rfl rfl)
theorem dX13_best_3 : decode cX13_best 3 = .ok (.invokestatic 49, 3) := dk_184 0 49 (dk_at dksX13_best_0 3 rfl rfl)
theorem dX13_best_6 : decode cX13_best 6 = .ok (.ifCond .ne 5, 3) := dk_154 0 5 (dk_at dksX13_best_0 6 rfl rfl)
theorem dX13_best_9 : decode cX13_best 9 = .ok (.iconst (-1), 1) := dk_2 (dk_at dksX13_best_0 9 rfl rfl)
theorem dX13_best_10 : decode cX13_best 10 = .ok (.ireturn, 1) := dk_172 (dk_at dksX13_best_0 10 rfl rfl)
theorem dX13_best_11 : decode cX13_best 11 = .ok (.iload_n 1, 1) := dk_27 (dk_at dksX13_best_0 11 rfl rfl)
theorem dX13_best_12 : decode cX13_best 12 = .ok (.iconst 0, 1) := dk_3 (dk_at dksX13_best_0 12 rfl rfl)
theorem dX13_best_13 : decode cX13_best 13 = .ok (.bipush 60, 2) := dk_16 60 (dk_at dksX13_best_0 13 rfl rfl)
theorem dX13_best_15 : decode cX13_best 15 = .ok (.invokestatic 49, 3) := dk_184 0 49 (dk_at dksX13_best_0 15 rfl rfl)
theorem dX13_best_18 : decode cX13_best 18 = .ok (.ifCond .ne 6, 3) := dk_154 0 6 (dk_at dksX13_best_0 18 rfl rfl)
theorem dX13_best_21 : decode cX13_best 21 = .ok (.bipush (-2), 2) := dk_16 254 (dk_at dksX13_best_0 21 rfl rfl)
theorem dX13_best_23 : decode cX13_best 23 = .ok (.ireturn, 1) := dk_172 (dk_at dksX13_best_0 23 rfl rfl)
theorem dX13_best_24 : decode cX13_best 24 = .ok (.aload_n 0, 1) := dk_42 (dk_at dksX13_best_1 0 rfl rfl)
theorem dX13_best_25 : decode cX13_best 25 = .ok (.getfield 11, 3) := dk_180 0 11 (dk_at dksX13_best_1 1 rfl rfl)
theorem dX13_best_28 : decode cX13_best 28 = .ok (.iconst 2, 1) := dk_5 (dk_at dksX13_best_1 4 rfl rfl)
theorem dX13_best_29 : decode cX13_best 29 = .ok (.iaload, 1) := dk_46 (dk_at dksX13_best_1 5 rfl rfl)
theorem dX13_best_30 : decode cX13_best 30 = .ok (.ifCond .ne 6, 3) := dk_154 0 6 (dk_at dksX13_best_1 6 rfl rfl)
theorem dX13_best_33 : decode cX13_best 33 = .ok (.bipush (-3), 2) := dk_16 253 (dk_at dksX13_best_1 9 rfl rfl)
theorem dX13_best_35 : decode cX13_best 35 = .ok (.ireturn, 1) := dk_172 (dk_at dksX13_best_1 11 rfl rfl)
theorem dX13_best_36 : decode cX13_best 36 = .ok (.aload_n 0, 1) := dk_42 (dk_at dksX13_best_1 12 rfl rfl)
theorem dX13_best_37 : decode cX13_best 37 = .ok (.bipush 9, 2) := dk_16 9 (dk_at dksX13_best_1 13 rfl rfl)
theorem dX13_best_39 : decode cX13_best 39 = .ok (.iload_n 1, 1) := dk_27 (dk_at dksX13_best_1 15 rfl rfl)
theorem dX13_best_40 : decode cX13_best 40 = .ok (.imul, 1) := dk_104 (dk_at dksX13_best_1 16 rfl rfl)
theorem dX13_best_41 : decode cX13_best 41 = .ok (.invokevirtual 203, 3) := dk_182 0 203 (dk_at dksX13_best_1 17 rfl rfl)
theorem dX13_best_44 : decode cX13_best 44 = .ok (.ifCond .ne 6, 3) := dk_154 0 6 (dk_at dksX13_best_1 20 rfl rfl)
theorem dX13_best_47 : decode cX13_best 47 = .ok (.bipush (-4), 2) := dk_16 252 (dk_at dksX13_best_2 0 rfl rfl)
theorem dX13_best_49 : decode cX13_best 49 = .ok (.ireturn, 1) := dk_172 (dk_at dksX13_best_2 2 rfl rfl)
theorem dX13_best_50 : decode cX13_best 50 = .ok (.aload_n 0, 1) := dk_42 (dk_at dksX13_best_2 3 rfl rfl)
theorem dX13_best_51 : decode cX13_best 51 = .ok (.invokevirtual 256, 3) := dk_182 1 0 (dk_at dksX13_best_2 4 rfl rfl)
theorem dX13_best_54 : decode cX13_best 54 = .ok (.iconst 0, 1) := dk_3 (dk_at dksX13_best_2 7 rfl rfl)
theorem dX13_best_55 : decode cX13_best 55 = .ok (.istore_n 3, 1) := dk_62 (dk_at dksX13_best_2 8 rfl rfl)
theorem dX13_best_56 : decode cX13_best 56 = .ok (.iconst 0, 1) := dk_3 (dk_at dksX13_best_2 9 rfl rfl)
theorem dX13_best_57 : decode cX13_best 57 = .ok (.istore 4, 2) := dk_54 4 (dk_at dksX13_best_2 10 rfl rfl)
theorem dX13_best_59 : decode cX13_best 59 = .ok (.iconst 1, 1) := dk_4 (dk_at dksX13_best_2 12 rfl rfl)
theorem dX13_best_60 : decode cX13_best 60 = .ok (.istore 5, 2) := dk_54 5 (dk_at dksX13_best_2 13 rfl rfl)
theorem dX13_best_62 : decode cX13_best 62 = .ok (.iload 5, 2) := dk_21 5 (dk_at dksX13_best_2 15 rfl rfl)
theorem dX13_best_64 : decode cX13_best 64 = .ok (.bipush 9, 2) := dk_16 9 (dk_at dksX13_best_2 17 rfl rfl)
theorem dX13_best_66 : decode cX13_best 66 = .ok (.if_icmp .gt 52, 3) := dk_163 0 52 (dk_at dksX13_best_2 19 rfl rfl)
theorem dX13_best_69 : decode cX13_best 69 = .ok (.aload_n 0, 1) := dk_42 (dk_at dksX13_best_2 22 rfl rfl)
theorem dX13_best_70 : decode cX13_best 70 = .ok (.iload 5, 2) := dk_21 5 (dk_at dksX13_best_3 0 rfl rfl)
theorem dX13_best_72 : decode cX13_best 72 = .ok (.invokevirtual 265, 3) := dk_182 1 9 (dk_at dksX13_best_3 2 rfl rfl)
theorem dX13_best_75 : decode cX13_best 75 = .ok (.aload_n 0, 1) := dk_42 (dk_at dksX13_best_3 5 rfl rfl)
theorem dX13_best_76 : decode cX13_best 76 = .ok (.iload_n 1, 1) := dk_27 (dk_at dksX13_best_3 6 rfl rfl)
theorem dX13_best_77 : decode cX13_best 77 = .ok (.invokevirtual 206, 3) := dk_182 0 206 (dk_at dksX13_best_3 7 rfl rfl)
theorem dX13_best_80 : decode cX13_best 80 = .ok (.iload_n 3, 1) := dk_29 (dk_at dksX13_best_3 10 rfl rfl)
theorem dX13_best_81 : decode cX13_best 81 = .ok (.ifCond .eq 15, 3) := dk_153 0 15 (dk_at dksX13_best_3 11 rfl rfl)
theorem dX13_best_84 : decode cX13_best 84 = .ok (.aload_n 0, 1) := dk_42 (dk_at dksX13_best_3 14 rfl rfl)
theorem dX13_best_85 : decode cX13_best 85 = .ok (.getfield 11, 3) := dk_180 0 11 (dk_at dksX13_best_3 15 rfl rfl)
theorem dX13_best_88 : decode cX13_best 88 = .ok (.bipush 7, 2) := dk_16 7 (dk_at dksX13_best_3 18 rfl rfl)
theorem dX13_best_90 : decode cX13_best 90 = .ok (.iaload, 1) := dk_46 (dk_at dksX13_best_3 20 rfl rfl)
theorem dX13_best_91 : decode cX13_best 91 = .ok (.iload 4, 2) := dk_21 4 (dk_at dksX13_best_3 21 rfl rfl)
theorem dX13_best_93 : decode cX13_best 93 = .ok (.if_icmp .ge 15, 3) := dk_162 0 15 (dk_at dksX13_best_4 0 rfl rfl)
theorem dX13_best_96 : decode cX13_best 96 = .ok (.iload 5, 2) := dk_21 5 (dk_at dksX13_best_4 3 rfl rfl)
theorem dX13_best_98 : decode cX13_best 98 = .ok (.istore_n 3, 1) := dk_62 (dk_at dksX13_best_4 5 rfl rfl)
theorem dX13_best_99 : decode cX13_best 99 = .ok (.aload_n 0, 1) := dk_42 (dk_at dksX13_best_4 6 rfl rfl)
theorem dX13_best_100 : decode cX13_best 100 = .ok (.getfield 11, 3) := dk_180 0 11 (dk_at dksX13_best_4 7 rfl rfl)
theorem dX13_best_103 : decode cX13_best 103 = .ok (.bipush 7, 2) := dk_16 7 (dk_at dksX13_best_4 10 rfl rfl)
theorem dX13_best_105 : decode cX13_best 105 = .ok (.iaload, 1) := dk_46 (dk_at dksX13_best_4 12 rfl rfl)
theorem dX13_best_106 : decode cX13_best 106 = .ok (.istore 4, 2) := dk_54 4 (dk_at dksX13_best_4 13 rfl rfl)
theorem dX13_best_108 : decode cX13_best 108 = .ok (.aload_n 0, 1) := dk_42 (dk_at dksX13_best_4 15 rfl rfl)
theorem dX13_best_109 : decode cX13_best 109 = .ok (.invokevirtual 262, 3) := dk_182 1 6 (dk_at dksX13_best_4 16 rfl rfl)
theorem dX13_best_112 : decode cX13_best 112 = .ok (.iinc 5 1, 3) := dk_132 5 1 (dk_at dksX13_best_4 19 rfl rfl)
theorem dX13_best_115 : decode cX13_best 115 = .ok (.goto (-53), 3) := dk_167 255 203 (dk_at dksX13_best_5 0 rfl rfl)
theorem dX13_best_118 : decode cX13_best 118 = .ok (.iload_n 2, 1) := dk_28 (dk_at dksX13_best_5 3 rfl rfl)
theorem dX13_best_119 : decode cX13_best 119 = .ok (.ifCond .ne 7, 3) := dk_154 0 7 (dk_at dksX13_best_5 4 rfl rfl)
theorem dX13_best_122 : decode cX13_best 122 = .ok (.iload_n 3, 1) := dk_29 (dk_at dksX13_best_5 7 rfl rfl)
theorem dX13_best_123 : decode cX13_best 123 = .ok (.goto 5, 3) := dk_167 0 5 (dk_at dksX13_best_5 8 rfl rfl)
theorem dX13_best_126 : decode cX13_best 126 = .ok (.iload 4, 2) := dk_21 4 (dk_at dksX13_best_5 11 rfl rfl)
theorem dX13_best_128 : decode cX13_best 128 = .ok (.ireturn, 1) := dk_172 (dk_at dksX13_best_5 13 rfl rfl)
abbrev cX13_gaps : ByteArray := prog_22_method_96_code
def yX13_gaps : MethodName := ⟨RX13, "gaps", "(I)V"⟩
def dkwX13_gaps_1 : List UInt8 := [167, 255, 235, 177]
abbrev dktX13_gaps_1 : List UInt8 := dkwX13_gaps_1 ++ []
def dkwX13_gaps_0 : List UInt8 := [3, 61, 28, 42, 180, 0, 11, 16, 13, 46, 162, 0, 16, 42, 28, 6, 27, 182, 0, 85, 132, 2, 1]
abbrev dktX13_gaps_0 : List UInt8 := dkwX13_gaps_0 ++ dktX13_gaps_1
theorem dksX13_gaps_0 : cX13_gaps.data.toList.drop 0 = dktX13_gaps_0 := by decide +kernel
theorem dksX13_gaps_1 : cX13_gaps.data.toList.drop 23 = dktX13_gaps_1 := dk_seg dksX13_gaps_0 23 rfl rfl
theorem dX13_gaps_0 : decode cX13_gaps 0 = .ok (.iconst 0, 1) := dk_3 (dk_at dksX13_gaps_0 0 rfl rfl)
theorem dX13_gaps_1 : decode cX13_gaps 1 = .ok (.istore_n 2, 1) := dk_61 (dk_at dksX13_gaps_0 1 rfl rfl)
theorem dX13_gaps_2 : decode cX13_gaps 2 = .ok (.iload_n 2, 1) := dk_28 (dk_at dksX13_gaps_0 2 rfl rfl)
theorem dX13_gaps_3 : decode cX13_gaps 3 = .ok (.aload_n 0, 1) := dk_42 (dk_at dksX13_gaps_0 3 rfl rfl)
theorem dX13_gaps_4 : decode cX13_gaps 4 = .ok (.getfield 11, 3) := dk_180 0 11 (dk_at dksX13_gaps_0 4 rfl rfl)
theorem dX13_gaps_7 : decode cX13_gaps 7 = .ok (.bipush 13, 2) := dk_16 13 (dk_at dksX13_gaps_0 7 rfl rfl)
theorem dX13_gaps_9 : decode cX13_gaps 9 = .ok (.iaload, 1) := dk_46 (dk_at dksX13_gaps_0 9 rfl rfl)
theorem dX13_gaps_10 : decode cX13_gaps 10 = .ok (.if_icmp .ge 16, 3) := dk_162 0 16 (dk_at dksX13_gaps_0 10 rfl rfl)
theorem dX13_gaps_13 : decode cX13_gaps 13 = .ok (.aload_n 0, 1) := dk_42 (dk_at dksX13_gaps_0 13 rfl rfl)
theorem dX13_gaps_14 : decode cX13_gaps 14 = .ok (.iload_n 2, 1) := dk_28 (dk_at dksX13_gaps_0 14 rfl rfl)
theorem dX13_gaps_15 : decode cX13_gaps 15 = .ok (.iconst 3, 1) := dk_6 (dk_at dksX13_gaps_0 15 rfl rfl)
theorem dX13_gaps_16 : decode cX13_gaps 16 = .ok (.iload_n 1, 1) := dk_27 (dk_at dksX13_gaps_0 16 rfl rfl)
theorem dX13_gaps_17 : decode cX13_gaps 17 = .ok (.invokevirtual 85, 3) := dk_182 0 85 (dk_at dksX13_gaps_0 17 rfl rfl)
theorem dX13_gaps_20 : decode cX13_gaps 20 = .ok (.iinc 2 1, 3) := dk_132 2 1 (dk_at dksX13_gaps_0 20 rfl rfl)
theorem dX13_gaps_23 : decode cX13_gaps 23 = .ok (.goto (-21), 3) := dk_167 255 235 (dk_at dksX13_gaps_1 0 rfl rfl)
theorem dX13_gaps_26 : decode cX13_gaps 26 = .ok (.return_, 1) := dk_177 (dk_at dksX13_gaps_1 3 rfl rfl)
abbrev cX13_note : ByteArray := prog_22_method_98_code
def yX13_note : MethodName := ⟨RX13, "note", "(II)I"⟩
def dkwX13_note_4 : List UInt8 := [180, 0, 11, 16, 19, 92, 46, 4, 96, 79, 42, 180, 0, 11, 16, 19, 46, 172]
abbrev dktX13_note_4 : List UInt8 := dkwX13_note_4 ++ []
def dkwX13_note_3 : List UInt8 := [27, 79, 42, 180, 0, 11, 17, 1, 89, 5, 42, 180, 0, 11, 16, 19, 46, 104, 96, 4, 96, 28, 79, 42]
abbrev dktX13_note_3 : List UInt8 := dkwX13_note_3 ++ dktX13_note_4
def dkwX13_note_2 : List UInt8 := [8, 160, 0, 6, 16, 252, 172, 42, 180, 0, 11, 17, 1, 89, 5, 42, 180, 0, 11, 16, 19, 46, 104, 96]
abbrev dktX13_note_2 : List UInt8 := dkwX13_note_2 ++ dktX13_note_3
def dkwX13_note_1 : List UInt8 := [153, 0, 14, 28, 3, 17, 0, 255, 184, 0, 49, 154, 0, 6, 16, 254, 172, 42, 180, 0, 11, 16, 19, 46]
abbrev dktX13_note_1 : List UInt8 := dkwX13_note_1 ++ dktX13_note_2
def dkwX13_note_0 : List UInt8 := [27, 2, 160, 0, 13, 42, 180, 0, 11, 16, 19, 3, 79, 3, 172, 27, 3, 19, 1, 12, 184, 0, 49]
abbrev dktX13_note_0 : List UInt8 := dkwX13_note_0 ++ dktX13_note_1
theorem dksX13_note_0 : cX13_note.data.toList.drop 0 = dktX13_note_0 := by decide +kernel
theorem dksX13_note_1 : cX13_note.data.toList.drop 23 = dktX13_note_1 := dk_seg dksX13_note_0 23 rfl rfl
theorem dksX13_note_2 : cX13_note.data.toList.drop 47 = dktX13_note_2 := dk_seg dksX13_note_1 24 rfl rfl
theorem dksX13_note_3 : cX13_note.data.toList.drop 71 = dktX13_note_3 := dk_seg dksX13_note_2 24 rfl rfl
theorem dksX13_note_4 : cX13_note.data.toList.drop 95 = dktX13_note_4 := dk_seg dksX13_note_3 24 rfl rfl
theorem dX13_note_0 : decode cX13_note 0 = .ok (.iload_n 1, 1) := dk_27 (dk_at dksX13_note_0 0 rfl rfl)
theorem dX13_note_1 : decode cX13_note 1 = .ok (.iconst (-1), 1) := dk_2 (dk_at dksX13_note_0 1 rfl rfl)
theorem dX13_note_2 : decode cX13_note 2 = .ok (.if_icmp .ne 13, 3) := dk_160 0 13 (dk_at dksX13_note_0 2 rfl rfl)
theorem dX13_note_5 : decode cX13_note 5 = .ok (.aload_n 0, 1) := dk_42 (dk_at dksX13_note_0 5 rfl rfl)
theorem dX13_note_6 : decode cX13_note 6 = .ok (.getfield 11, 3) := dk_180 0 11 (dk_at dksX13_note_0 6 rfl rfl)
theorem dX13_note_9 : decode cX13_note 9 = .ok (.bipush 19, 2) := dk_16 19 (dk_at dksX13_note_0 9 rfl rfl)
theorem dX13_note_11 : decode cX13_note 11 = .ok (.iconst 0, 1) := dk_3 (dk_at dksX13_note_0 11 rfl rfl)
theorem dX13_note_12 : decode cX13_note 12 = .ok (.iastore, 1) := dk_79 (dk_at dksX13_note_0 12 rfl rfl)
theorem dX13_note_13 : decode cX13_note 13 = .ok (.iconst 0, 1) := dk_3 (dk_at dksX13_note_0 13 rfl rfl)
theorem dX13_note_14 : decode cX13_note 14 = .ok (.ireturn, 1) := dk_172 (dk_at dksX13_note_0 14 rfl rfl)
theorem dX13_note_15 : decode cX13_note 15 = .ok (.iload_n 1, 1) := dk_27 (dk_at dksX13_note_0 15 rfl rfl)
theorem dX13_note_16 : decode cX13_note 16 = .ok (.iconst 0, 1) := dk_3 (dk_at dksX13_note_0 16 rfl rfl)
theorem dX13_note_17 : decode cX13_note 17 = .ok (.ldc_w 268, 3) := dk_19 1 12 (dk_at dksX13_note_0 17 rfl rfl)
theorem dX13_note_20 : decode cX13_note 20 = .ok (.invokestatic 49, 3) := dk_184 0 49 (dk_at dksX13_note_0 20 rfl rfl)
theorem dX13_note_23 : decode cX13_note 23 = .ok (.ifCond .eq 14, 3) := dk_153 0 14 (dk_at dksX13_note_1 0 rfl rfl)
theorem dX13_note_26 : decode cX13_note 26 = .ok (.iload_n 2, 1) := dk_28 (dk_at dksX13_note_1 3 rfl rfl)
theorem dX13_note_27 : decode cX13_note 27 = .ok (.iconst 0, 1) := dk_3 (dk_at dksX13_note_1 4 rfl rfl)
theorem dX13_note_28 : decode cX13_note 28 = .ok (.sipush 255, 3) := dk_17 0 255 (dk_at dksX13_note_1 5 rfl rfl)
theorem dX13_note_31 : decode cX13_note 31 = .ok (.invokestatic 49, 3) := dk_184 0 49 (dk_at dksX13_note_1 8 rfl rfl)
theorem dX13_note_34 : decode cX13_note 34 = .ok (.ifCond .ne 6, 3) := dk_154 0 6 (dk_at dksX13_note_1 11 rfl rfl)
theorem dX13_note_37 : decode cX13_note 37 = .ok (.bipush (-2), 2) := dk_16 254 (dk_at dksX13_note_1 14 rfl rfl)
theorem dX13_note_39 : decode cX13_note 39 = .ok (.ireturn, 1) := dk_172 (dk_at dksX13_note_1 16 rfl rfl)
theorem dX13_note_40 : decode cX13_note 40 = .ok (.aload_n 0, 1) := dk_42 (dk_at dksX13_note_1 17 rfl rfl)
theorem dX13_note_41 : decode cX13_note 41 = .ok (.getfield 11, 3) := dk_180 0 11 (dk_at dksX13_note_1 18 rfl rfl)
theorem dX13_note_44 : decode cX13_note 44 = .ok (.bipush 19, 2) := dk_16 19 (dk_at dksX13_note_1 21 rfl rfl)
theorem dX13_note_46 : decode cX13_note 46 = .ok (.iaload, 1) := dk_46 (dk_at dksX13_note_1 23 rfl rfl)
theorem dX13_note_47 : decode cX13_note 47 = .ok (.iconst 5, 1) := dk_8 (dk_at dksX13_note_2 0 rfl rfl)
theorem dX13_note_48 : decode cX13_note 48 = .ok (.if_icmp .ne 6, 3) := dk_160 0 6 (dk_at dksX13_note_2 1 rfl rfl)
theorem dX13_note_51 : decode cX13_note 51 = .ok (.bipush (-4), 2) := dk_16 252 (dk_at dksX13_note_2 4 rfl rfl)
theorem dX13_note_53 : decode cX13_note 53 = .ok (.ireturn, 1) := dk_172 (dk_at dksX13_note_2 6 rfl rfl)
theorem dX13_note_54 : decode cX13_note 54 = .ok (.aload_n 0, 1) := dk_42 (dk_at dksX13_note_2 7 rfl rfl)
theorem dX13_note_55 : decode cX13_note 55 = .ok (.getfield 11, 3) := dk_180 0 11 (dk_at dksX13_note_2 8 rfl rfl)
theorem dX13_note_58 : decode cX13_note 58 = .ok (.sipush 345, 3) := dk_17 1 89 (dk_at dksX13_note_2 11 rfl rfl)
theorem dX13_note_61 : decode cX13_note 61 = .ok (.iconst 2, 1) := dk_5 (dk_at dksX13_note_2 14 rfl rfl)
theorem dX13_note_62 : decode cX13_note 62 = .ok (.aload_n 0, 1) := dk_42 (dk_at dksX13_note_2 15 rfl rfl)
theorem dX13_note_63 : decode cX13_note 63 = .ok (.getfield 11, 3) := dk_180 0 11 (dk_at dksX13_note_2 16 rfl rfl)
theorem dX13_note_66 : decode cX13_note 66 = .ok (.bipush 19, 2) := dk_16 19 (dk_at dksX13_note_2 19 rfl rfl)
theorem dX13_note_68 : decode cX13_note 68 = .ok (.iaload, 1) := dk_46 (dk_at dksX13_note_2 21 rfl rfl)
theorem dX13_note_69 : decode cX13_note 69 = .ok (.imul, 1) := dk_104 (dk_at dksX13_note_2 22 rfl rfl)
theorem dX13_note_70 : decode cX13_note 70 = .ok (.iadd, 1) := dk_96 (dk_at dksX13_note_2 23 rfl rfl)
theorem dX13_note_71 : decode cX13_note 71 = .ok (.iload_n 1, 1) := dk_27 (dk_at dksX13_note_3 0 rfl rfl)
theorem dX13_note_72 : decode cX13_note 72 = .ok (.iastore, 1) := dk_79 (dk_at dksX13_note_3 1 rfl rfl)
theorem dX13_note_73 : decode cX13_note 73 = .ok (.aload_n 0, 1) := dk_42 (dk_at dksX13_note_3 2 rfl rfl)
theorem dX13_note_74 : decode cX13_note 74 = .ok (.getfield 11, 3) := dk_180 0 11 (dk_at dksX13_note_3 3 rfl rfl)
theorem dX13_note_77 : decode cX13_note 77 = .ok (.sipush 345, 3) := dk_17 1 89 (dk_at dksX13_note_3 6 rfl rfl)
theorem dX13_note_80 : decode cX13_note 80 = .ok (.iconst 2, 1) := dk_5 (dk_at dksX13_note_3 9 rfl rfl)
theorem dX13_note_81 : decode cX13_note 81 = .ok (.aload_n 0, 1) := dk_42 (dk_at dksX13_note_3 10 rfl rfl)
theorem dX13_note_82 : decode cX13_note 82 = .ok (.getfield 11, 3) := dk_180 0 11 (dk_at dksX13_note_3 11 rfl rfl)
theorem dX13_note_85 : decode cX13_note 85 = .ok (.bipush 19, 2) := dk_16 19 (dk_at dksX13_note_3 14 rfl rfl)
theorem dX13_note_87 : decode cX13_note 87 = .ok (.iaload, 1) := dk_46 (dk_at dksX13_note_3 16 rfl rfl)
theorem dX13_note_88 : decode cX13_note 88 = .ok (.imul, 1) := dk_104 (dk_at dksX13_note_3 17 rfl rfl)
theorem dX13_note_89 : decode cX13_note 89 = .ok (.iadd, 1) := dk_96 (dk_at dksX13_note_3 18 rfl rfl)
theorem dX13_note_90 : decode cX13_note 90 = .ok (.iconst 1, 1) := dk_4 (dk_at dksX13_note_3 19 rfl rfl)
theorem dX13_note_91 : decode cX13_note 91 = .ok (.iadd, 1) := dk_96 (dk_at dksX13_note_3 20 rfl rfl)
theorem dX13_note_92 : decode cX13_note 92 = .ok (.iload_n 2, 1) := dk_28 (dk_at dksX13_note_3 21 rfl rfl)
theorem dX13_note_93 : decode cX13_note 93 = .ok (.iastore, 1) := dk_79 (dk_at dksX13_note_3 22 rfl rfl)
theorem dX13_note_94 : decode cX13_note 94 = .ok (.aload_n 0, 1) := dk_42 (dk_at dksX13_note_3 23 rfl rfl)
theorem dX13_note_95 : decode cX13_note 95 = .ok (.getfield 11, 3) := dk_180 0 11 (dk_at dksX13_note_4 0 rfl rfl)
theorem dX13_note_98 : decode cX13_note 98 = .ok (.bipush 19, 2) := dk_16 19 (dk_at dksX13_note_4 3 rfl rfl)
theorem dX13_note_100 : decode cX13_note 100 = .ok (.dup2, 1) := dk_92 (dk_at dksX13_note_4 5 rfl rfl)
theorem dX13_note_101 : decode cX13_note 101 = .ok (.iaload, 1) := dk_46 (dk_at dksX13_note_4 6 rfl rfl)
theorem dX13_note_102 : decode cX13_note 102 = .ok (.iconst 1, 1) := dk_4 (dk_at dksX13_note_4 7 rfl rfl)
theorem dX13_note_103 : decode cX13_note 103 = .ok (.iadd, 1) := dk_96 (dk_at dksX13_note_4 8 rfl rfl)
theorem dX13_note_104 : decode cX13_note 104 = .ok (.iastore, 1) := dk_79 (dk_at dksX13_note_4 9 rfl rfl)
theorem dX13_note_105 : decode cX13_note 105 = .ok (.aload_n 0, 1) := dk_42 (dk_at dksX13_note_4 10 rfl rfl)
theorem dX13_note_106 : decode cX13_note 106 = .ok (.getfield 11, 3) := dk_180 0 11 (dk_at dksX13_note_4 11 rfl rfl)
theorem dX13_note_109 : decode cX13_note 109 = .ok (.bipush 19, 2) := dk_16 19 (dk_at dksX13_note_4 14 rfl rfl)
theorem dX13_note_111 : decode cX13_note 111 = .ok (.iaload, 1) := dk_46 (dk_at dksX13_note_4 16 rfl rfl)
theorem dX13_note_112 : decode cX13_note 112 = .ok (.ireturn, 1) := dk_172 (dk_at dksX13_note_4 17 rfl rfl)
abbrev cX13_fits : ByteArray := prog_22_method_100_code
def yX13_fits : MethodName := ⟨RX13, "fits", "(I)I"⟩
def dkwX13_fits_4 : List UInt8 := [28, 167, 0, 4, 29, 172]
abbrev dktX13_fits_4 : List UInt8 := dkwX13_fits_4 ++ []
def dkwX13_fits_3 : List UInt8 := [46, 160, 0, 9, 132, 2, 1, 21, 4, 62, 42, 182, 1, 6, 132, 4, 255, 167, 255, 217, 27, 154, 0, 7]
abbrev dktX13_fits_3 : List UInt8 := dkwX13_fits_3 ++ dktX13_fits_4
def dkwX13_fits_2 : List UInt8 := [54, 4, 21, 4, 4, 161, 0, 39, 42, 21, 4, 182, 1, 9, 42, 182, 1, 13, 42, 180, 0, 11, 16, 19]
abbrev dktX13_fits_2 : List UInt8 := dkwX13_fits_2 ++ dktX13_fits_3
def dkwX13_fits_1 : List UInt8 := [17, 2, 28, 182, 0, 203, 154, 0, 6, 16, 252, 172, 42, 182, 1, 0, 3, 61, 16, 251, 62, 16, 9]
abbrev dktX13_fits_1 : List UInt8 := dkwX13_fits_1 ++ dktX13_fits_2
def dkwX13_fits_0 : List UInt8 := [27, 3, 4, 184, 0, 49, 154, 0, 5, 2, 172, 42, 180, 0, 11, 5, 46, 154, 0, 6, 16, 253, 172, 42]
abbrev dktX13_fits_0 : List UInt8 := dkwX13_fits_0 ++ dktX13_fits_1
theorem dksX13_fits_0 : cX13_fits.data.toList.drop 0 = dktX13_fits_0 := by decide +kernel
theorem dksX13_fits_1 : cX13_fits.data.toList.drop 24 = dktX13_fits_1 := dk_seg dksX13_fits_0 24 rfl rfl
theorem dksX13_fits_2 : cX13_fits.data.toList.drop 47 = dktX13_fits_2 := dk_seg dksX13_fits_1 23 rfl rfl
theorem dksX13_fits_3 : cX13_fits.data.toList.drop 71 = dktX13_fits_3 := dk_seg dksX13_fits_2 24 rfl rfl
theorem dksX13_fits_4 : cX13_fits.data.toList.drop 95 = dktX13_fits_4 := dk_seg dksX13_fits_3 24 rfl rfl
theorem dX13_fits_0 : decode cX13_fits 0 = .ok (.iload_n 1, 1) := dk_27 (dk_at dksX13_fits_0 0 rfl rfl)
theorem dX13_fits_1 : decode cX13_fits 1 = .ok (.iconst 0, 1) := dk_3 (dk_at dksX13_fits_0 1 rfl rfl)
theorem dX13_fits_2 : decode cX13_fits 2 = .ok (.iconst 1, 1) := dk_4 (dk_at dksX13_fits_0 2 rfl rfl)
theorem dX13_fits_3 : decode cX13_fits 3 = .ok (.invokestatic 49, 3) := dk_184 0 49 (dk_at dksX13_fits_0 3 rfl rfl)
theorem dX13_fits_6 : decode cX13_fits 6 = .ok (.ifCond .ne 5, 3) := dk_154 0 5 (dk_at dksX13_fits_0 6 rfl rfl)
theorem dX13_fits_9 : decode cX13_fits 9 = .ok (.iconst (-1), 1) := dk_2 (dk_at dksX13_fits_0 9 rfl rfl)
theorem dX13_fits_10 : decode cX13_fits 10 = .ok (.ireturn, 1) := dk_172 (dk_at dksX13_fits_0 10 rfl rfl)
theorem dX13_fits_11 : decode cX13_fits 11 = .ok (.aload_n 0, 1) := dk_42 (dk_at dksX13_fits_0 11 rfl rfl)
theorem dX13_fits_12 : decode cX13_fits 12 = .ok (.getfield 11, 3) := dk_180 0 11 (dk_at dksX13_fits_0 12 rfl rfl)
theorem dX13_fits_15 : decode cX13_fits 15 = .ok (.iconst 2, 1) := dk_5 (dk_at dksX13_fits_0 15 rfl rfl)
theorem dX13_fits_16 : decode cX13_fits 16 = .ok (.iaload, 1) := dk_46 (dk_at dksX13_fits_0 16 rfl rfl)
theorem dX13_fits_17 : decode cX13_fits 17 = .ok (.ifCond .ne 6, 3) := dk_154 0 6 (dk_at dksX13_fits_0 17 rfl rfl)
theorem dX13_fits_20 : decode cX13_fits 20 = .ok (.bipush (-3), 2) := dk_16 253 (dk_at dksX13_fits_0 20 rfl rfl)
theorem dX13_fits_22 : decode cX13_fits 22 = .ok (.ireturn, 1) := dk_172 (dk_at dksX13_fits_0 22 rfl rfl)
theorem dX13_fits_23 : decode cX13_fits 23 = .ok (.aload_n 0, 1) := dk_42 (dk_at dksX13_fits_0 23 rfl rfl)
theorem dX13_fits_24 : decode cX13_fits 24 = .ok (.sipush 540, 3) := dk_17 2 28 (dk_at dksX13_fits_1 0 rfl rfl)
theorem dX13_fits_27 : decode cX13_fits 27 = .ok (.invokevirtual 203, 3) := dk_182 0 203 (dk_at dksX13_fits_1 3 rfl rfl)
theorem dX13_fits_30 : decode cX13_fits 30 = .ok (.ifCond .ne 6, 3) := dk_154 0 6 (dk_at dksX13_fits_1 6 rfl rfl)
theorem dX13_fits_33 : decode cX13_fits 33 = .ok (.bipush (-4), 2) := dk_16 252 (dk_at dksX13_fits_1 9 rfl rfl)
theorem dX13_fits_35 : decode cX13_fits 35 = .ok (.ireturn, 1) := dk_172 (dk_at dksX13_fits_1 11 rfl rfl)
theorem dX13_fits_36 : decode cX13_fits 36 = .ok (.aload_n 0, 1) := dk_42 (dk_at dksX13_fits_1 12 rfl rfl)
theorem dX13_fits_37 : decode cX13_fits 37 = .ok (.invokevirtual 256, 3) := dk_182 1 0 (dk_at dksX13_fits_1 13 rfl rfl)
theorem dX13_fits_40 : decode cX13_fits 40 = .ok (.iconst 0, 1) := dk_3 (dk_at dksX13_fits_1 16 rfl rfl)
theorem dX13_fits_41 : decode cX13_fits 41 = .ok (.istore_n 2, 1) := dk_61 (dk_at dksX13_fits_1 17 rfl rfl)
theorem dX13_fits_42 : decode cX13_fits 42 = .ok (.bipush (-5), 2) := dk_16 251 (dk_at dksX13_fits_1 18 rfl rfl)
theorem dX13_fits_44 : decode cX13_fits 44 = .ok (.istore_n 3, 1) := dk_62 (dk_at dksX13_fits_1 20 rfl rfl)
theorem dX13_fits_45 : decode cX13_fits 45 = .ok (.bipush 9, 2) := dk_16 9 (dk_at dksX13_fits_1 21 rfl rfl)
theorem dX13_fits_47 : decode cX13_fits 47 = .ok (.istore 4, 2) := dk_54 4 (dk_at dksX13_fits_2 0 rfl rfl)
theorem dX13_fits_49 : decode cX13_fits 49 = .ok (.iload 4, 2) := dk_21 4 (dk_at dksX13_fits_2 2 rfl rfl)
theorem dX13_fits_51 : decode cX13_fits 51 = .ok (.iconst 1, 1) := dk_4 (dk_at dksX13_fits_2 4 rfl rfl)
theorem dX13_fits_52 : decode cX13_fits 52 = .ok (.if_icmp .lt 39, 3) := dk_161 0 39 (dk_at dksX13_fits_2 5 rfl rfl)
theorem dX13_fits_55 : decode cX13_fits 55 = .ok (.aload_n 0, 1) := dk_42 (dk_at dksX13_fits_2 8 rfl rfl)
theorem dX13_fits_56 : decode cX13_fits 56 = .ok (.iload 4, 2) := dk_21 4 (dk_at dksX13_fits_2 9 rfl rfl)
theorem dX13_fits_58 : decode cX13_fits 58 = .ok (.invokevirtual 265, 3) := dk_182 1 9 (dk_at dksX13_fits_2 11 rfl rfl)
theorem dX13_fits_61 : decode cX13_fits 61 = .ok (.aload_n 0, 1) := dk_42 (dk_at dksX13_fits_2 14 rfl rfl)
theorem dX13_fits_62 : decode cX13_fits 62 = .ok (.invokevirtual 269, 3) := dk_182 1 13 (dk_at dksX13_fits_2 15 rfl rfl)
theorem dX13_fits_65 : decode cX13_fits 65 = .ok (.aload_n 0, 1) := dk_42 (dk_at dksX13_fits_2 18 rfl rfl)
theorem dX13_fits_66 : decode cX13_fits 66 = .ok (.getfield 11, 3) := dk_180 0 11 (dk_at dksX13_fits_2 19 rfl rfl)
theorem dX13_fits_69 : decode cX13_fits 69 = .ok (.bipush 19, 2) := dk_16 19 (dk_at dksX13_fits_2 22 rfl rfl)
theorem dX13_fits_71 : decode cX13_fits 71 = .ok (.iaload, 1) := dk_46 (dk_at dksX13_fits_3 0 rfl rfl)
theorem dX13_fits_72 : decode cX13_fits 72 = .ok (.if_icmp .ne 9, 3) := dk_160 0 9 (dk_at dksX13_fits_3 1 rfl rfl)
theorem dX13_fits_75 : decode cX13_fits 75 = .ok (.iinc 2 1, 3) := dk_132 2 1 (dk_at dksX13_fits_3 4 rfl rfl)
theorem dX13_fits_78 : decode cX13_fits 78 = .ok (.iload 4, 2) := dk_21 4 (dk_at dksX13_fits_3 7 rfl rfl)
theorem dX13_fits_80 : decode cX13_fits 80 = .ok (.istore_n 3, 1) := dk_62 (dk_at dksX13_fits_3 9 rfl rfl)
theorem dX13_fits_81 : decode cX13_fits 81 = .ok (.aload_n 0, 1) := dk_42 (dk_at dksX13_fits_3 10 rfl rfl)
theorem dX13_fits_82 : decode cX13_fits 82 = .ok (.invokevirtual 262, 3) := dk_182 1 6 (dk_at dksX13_fits_3 11 rfl rfl)
theorem dX13_fits_85 : decode cX13_fits 85 = .ok (.iinc 4 (-1), 3) := dk_132 4 255 (dk_at dksX13_fits_3 14 rfl rfl)
theorem dX13_fits_88 : decode cX13_fits 88 = .ok (.goto (-39), 3) := dk_167 255 217 (dk_at dksX13_fits_3 17 rfl rfl)
theorem dX13_fits_91 : decode cX13_fits 91 = .ok (.iload_n 1, 1) := dk_27 (dk_at dksX13_fits_3 20 rfl rfl)
theorem dX13_fits_92 : decode cX13_fits 92 = .ok (.ifCond .ne 7, 3) := dk_154 0 7 (dk_at dksX13_fits_3 21 rfl rfl)
theorem dX13_fits_95 : decode cX13_fits 95 = .ok (.iload_n 2, 1) := dk_28 (dk_at dksX13_fits_4 0 rfl rfl)
theorem dX13_fits_96 : decode cX13_fits 96 = .ok (.goto 4, 3) := dk_167 0 4 (dk_at dksX13_fits_4 1 rfl rfl)
theorem dX13_fits_99 : decode cX13_fits 99 = .ok (.iload_n 3, 1) := dk_29 (dk_at dksX13_fits_4 4 rfl rfl)
theorem dX13_fits_100 : decode cX13_fits 100 = .ok (.ireturn, 1) := dk_172 (dk_at dksX13_fits_4 5 rfl rfl)
abbrev cX13_notesSo : ByteArray := prog_22_method_99_code
def yX13_notesSo : MethodName := ⟨RX13, "notesSo", "()I"⟩
def dkwX13_notesSo_4 : List UInt8 := [167, 255, 166, 27, 172]
abbrev dktX13_notesSo_4 : List UInt8 := dkwX13_notesSo_4 ++ []
def dkwX13_notesSo_3 : List UInt8 := [42, 5, 182, 0, 212, 160, 0, 7, 4, 167, 0, 4, 3, 96, 60, 132, 4, 1, 167, 255, 193, 132, 2, 1]
abbrev dktX13_notesSo_3 : List UInt8 := dkwX13_notesSo_3 ++ dktX13_notesSo_4
def dkwX13_notesSo_2 : List UInt8 := [21, 4, 104, 96, 46, 29, 160, 0, 30, 42, 180, 0, 11, 17, 1, 89, 5, 21, 4, 104, 96, 4, 96, 46]
abbrev dktX13_notesSo_2 : List UInt8 := dkwX13_notesSo_2 ++ dktX13_notesSo_3
def dkwX13_notesSo_1 : List UInt8 := [54, 4, 21, 4, 42, 180, 0, 11, 16, 19, 46, 162, 0, 57, 27, 42, 180, 0, 11, 17, 1, 89, 5]
abbrev dktX13_notesSo_1 : List UInt8 := dkwX13_notesSo_1 ++ dktX13_notesSo_2
def dkwX13_notesSo_0 : List UInt8 := [3, 60, 3, 61, 28, 16, 60, 162, 0, 90, 42, 180, 0, 11, 6, 46, 62, 42, 4, 182, 0, 206, 3]
abbrev dktX13_notesSo_0 : List UInt8 := dkwX13_notesSo_0 ++ dktX13_notesSo_1
theorem dksX13_notesSo_0 : cX13_notesSo.data.toList.drop 0 = dktX13_notesSo_0 := by decide +kernel
theorem dksX13_notesSo_1 : cX13_notesSo.data.toList.drop 23 = dktX13_notesSo_1 := dk_seg dksX13_notesSo_0 23 rfl rfl
theorem dksX13_notesSo_2 : cX13_notesSo.data.toList.drop 46 = dktX13_notesSo_2 := dk_seg dksX13_notesSo_1 23 rfl rfl
theorem dksX13_notesSo_3 : cX13_notesSo.data.toList.drop 70 = dktX13_notesSo_3 := dk_seg dksX13_notesSo_2 24 rfl rfl
theorem dksX13_notesSo_4 : cX13_notesSo.data.toList.drop 94 = dktX13_notesSo_4 := dk_seg dksX13_notesSo_3 24 rfl rfl
theorem dX13_notesSo_0 : decode cX13_notesSo 0 = .ok (.iconst 0, 1) := dk_3 (dk_at dksX13_notesSo_0 0 rfl rfl)
theorem dX13_notesSo_1 : decode cX13_notesSo 1 = .ok (.istore_n 1, 1) := dk_60 (dk_at dksX13_notesSo_0 1 rfl rfl)
theorem dX13_notesSo_2 : decode cX13_notesSo 2 = .ok (.iconst 0, 1) := dk_3 (dk_at dksX13_notesSo_0 2 rfl rfl)
theorem dX13_notesSo_3 : decode cX13_notesSo 3 = .ok (.istore_n 2, 1) := dk_61 (dk_at dksX13_notesSo_0 3 rfl rfl)
theorem dX13_notesSo_4 : decode cX13_notesSo 4 = .ok (.iload_n 2, 1) := dk_28 (dk_at dksX13_notesSo_0 4 rfl rfl)
theorem dX13_notesSo_5 : decode cX13_notesSo 5 = .ok (.bipush 60, 2) := dk_16 60 (dk_at dksX13_notesSo_0 5 rfl rfl)
theorem dX13_notesSo_7 : decode cX13_notesSo 7 = .ok (.if_icmp .ge 90, 3) := dk_162 0 90 (dk_at dksX13_notesSo_0 7 rfl rfl)
theorem dX13_notesSo_10 : decode cX13_notesSo 10 = .ok (.aload_n 0, 1) := dk_42 (dk_at dksX13_notesSo_0 10 rfl rfl)
theorem dX13_notesSo_11 : decode cX13_notesSo 11 = .ok (.getfield 11, 3) := dk_180 0 11 (dk_at dksX13_notesSo_0 11 rfl rfl)
theorem dX13_notesSo_14 : decode cX13_notesSo 14 = .ok (.iconst 3, 1) := dk_6 (dk_at dksX13_notesSo_0 14 rfl rfl)
theorem dX13_notesSo_15 : decode cX13_notesSo 15 = .ok (.iaload, 1) := dk_46 (dk_at dksX13_notesSo_0 15 rfl rfl)
theorem dX13_notesSo_16 : decode cX13_notesSo 16 = .ok (.istore_n 3, 1) := dk_62 (dk_at dksX13_notesSo_0 16 rfl rfl)
theorem dX13_notesSo_17 : decode cX13_notesSo 17 = .ok (.aload_n 0, 1) := dk_42 (dk_at dksX13_notesSo_0 17 rfl rfl)
theorem dX13_notesSo_18 : decode cX13_notesSo 18 = .ok (.iconst 1, 1) := dk_4 (dk_at dksX13_notesSo_0 18 rfl rfl)
theorem dX13_notesSo_19 : decode cX13_notesSo 19 = .ok (.invokevirtual 206, 3) := dk_182 0 206 (dk_at dksX13_notesSo_0 19 rfl rfl)
theorem dX13_notesSo_22 : decode cX13_notesSo 22 = .ok (.iconst 0, 1) := dk_3 (dk_at dksX13_notesSo_0 22 rfl rfl)
theorem dX13_notesSo_23 : decode cX13_notesSo 23 = .ok (.istore 4, 2) := dk_54 4 (dk_at dksX13_notesSo_1 0 rfl rfl)
theorem dX13_notesSo_25 : decode cX13_notesSo 25 = .ok (.iload 4, 2) := dk_21 4 (dk_at dksX13_notesSo_1 2 rfl rfl)
theorem dX13_notesSo_27 : decode cX13_notesSo 27 = .ok (.aload_n 0, 1) := dk_42 (dk_at dksX13_notesSo_1 4 rfl rfl)
theorem dX13_notesSo_28 : decode cX13_notesSo 28 = .ok (.getfield 11, 3) := dk_180 0 11 (dk_at dksX13_notesSo_1 5 rfl rfl)
theorem dX13_notesSo_31 : decode cX13_notesSo 31 = .ok (.bipush 19, 2) := dk_16 19 (dk_at dksX13_notesSo_1 8 rfl rfl)
theorem dX13_notesSo_33 : decode cX13_notesSo 33 = .ok (.iaload, 1) := dk_46 (dk_at dksX13_notesSo_1 10 rfl rfl)
theorem dX13_notesSo_34 : decode cX13_notesSo 34 = .ok (.if_icmp .ge 57, 3) := dk_162 0 57 (dk_at dksX13_notesSo_1 11 rfl rfl)
theorem dX13_notesSo_37 : decode cX13_notesSo 37 = .ok (.iload_n 1, 1) := dk_27 (dk_at dksX13_notesSo_1 14 rfl rfl)
theorem dX13_notesSo_38 : decode cX13_notesSo 38 = .ok (.aload_n 0, 1) := dk_42 (dk_at dksX13_notesSo_1 15 rfl rfl)
theorem dX13_notesSo_39 : decode cX13_notesSo 39 = .ok (.getfield 11, 3) := dk_180 0 11 (dk_at dksX13_notesSo_1 16 rfl rfl)
theorem dX13_notesSo_42 : decode cX13_notesSo 42 = .ok (.sipush 345, 3) := dk_17 1 89 (dk_at dksX13_notesSo_1 19 rfl rfl)
theorem dX13_notesSo_45 : decode cX13_notesSo 45 = .ok (.iconst 2, 1) := dk_5 (dk_at dksX13_notesSo_1 22 rfl rfl)
theorem dX13_notesSo_46 : decode cX13_notesSo 46 = .ok (.iload 4, 2) := dk_21 4 (dk_at dksX13_notesSo_2 0 rfl rfl)
theorem dX13_notesSo_48 : decode cX13_notesSo 48 = .ok (.imul, 1) := dk_104 (dk_at dksX13_notesSo_2 2 rfl rfl)
theorem dX13_notesSo_49 : decode cX13_notesSo 49 = .ok (.iadd, 1) := dk_96 (dk_at dksX13_notesSo_2 3 rfl rfl)
theorem dX13_notesSo_50 : decode cX13_notesSo 50 = .ok (.iaload, 1) := dk_46 (dk_at dksX13_notesSo_2 4 rfl rfl)
theorem dX13_notesSo_51 : decode cX13_notesSo 51 = .ok (.iload_n 3, 1) := dk_29 (dk_at dksX13_notesSo_2 5 rfl rfl)
theorem dX13_notesSo_52 : decode cX13_notesSo 52 = .ok (.if_icmp .ne 30, 3) := dk_160 0 30 (dk_at dksX13_notesSo_2 6 rfl rfl)
theorem dX13_notesSo_55 : decode cX13_notesSo 55 = .ok (.aload_n 0, 1) := dk_42 (dk_at dksX13_notesSo_2 9 rfl rfl)
theorem dX13_notesSo_56 : decode cX13_notesSo 56 = .ok (.getfield 11, 3) := dk_180 0 11 (dk_at dksX13_notesSo_2 10 rfl rfl)
theorem dX13_notesSo_59 : decode cX13_notesSo 59 = .ok (.sipush 345, 3) := dk_17 1 89 (dk_at dksX13_notesSo_2 13 rfl rfl)
theorem dX13_notesSo_62 : decode cX13_notesSo 62 = .ok (.iconst 2, 1) := dk_5 (dk_at dksX13_notesSo_2 16 rfl rfl)
theorem dX13_notesSo_63 : decode cX13_notesSo 63 = .ok (.iload 4, 2) := dk_21 4 (dk_at dksX13_notesSo_2 17 rfl rfl)
theorem dX13_notesSo_65 : decode cX13_notesSo 65 = .ok (.imul, 1) := dk_104 (dk_at dksX13_notesSo_2 19 rfl rfl)
theorem dX13_notesSo_66 : decode cX13_notesSo 66 = .ok (.iadd, 1) := dk_96 (dk_at dksX13_notesSo_2 20 rfl rfl)
theorem dX13_notesSo_67 : decode cX13_notesSo 67 = .ok (.iconst 1, 1) := dk_4 (dk_at dksX13_notesSo_2 21 rfl rfl)
theorem dX13_notesSo_68 : decode cX13_notesSo 68 = .ok (.iadd, 1) := dk_96 (dk_at dksX13_notesSo_2 22 rfl rfl)
theorem dX13_notesSo_69 : decode cX13_notesSo 69 = .ok (.iaload, 1) := dk_46 (dk_at dksX13_notesSo_2 23 rfl rfl)
theorem dX13_notesSo_70 : decode cX13_notesSo 70 = .ok (.aload_n 0, 1) := dk_42 (dk_at dksX13_notesSo_3 0 rfl rfl)
theorem dX13_notesSo_71 : decode cX13_notesSo 71 = .ok (.iconst 2, 1) := dk_5 (dk_at dksX13_notesSo_3 1 rfl rfl)
theorem dX13_notesSo_72 : decode cX13_notesSo 72 = .ok (.invokevirtual 212, 3) := dk_182 0 212 (dk_at dksX13_notesSo_3 2 rfl rfl)
theorem dX13_notesSo_75 : decode cX13_notesSo 75 = .ok (.if_icmp .ne 7, 3) := dk_160 0 7 (dk_at dksX13_notesSo_3 5 rfl rfl)
theorem dX13_notesSo_78 : decode cX13_notesSo 78 = .ok (.iconst 1, 1) := dk_4 (dk_at dksX13_notesSo_3 8 rfl rfl)
theorem dX13_notesSo_79 : decode cX13_notesSo 79 = .ok (.goto 4, 3) := dk_167 0 4 (dk_at dksX13_notesSo_3 9 rfl rfl)
theorem dX13_notesSo_82 : decode cX13_notesSo 82 = .ok (.iconst 0, 1) := dk_3 (dk_at dksX13_notesSo_3 12 rfl rfl)
theorem dX13_notesSo_83 : decode cX13_notesSo 83 = .ok (.iadd, 1) := dk_96 (dk_at dksX13_notesSo_3 13 rfl rfl)
theorem dX13_notesSo_84 : decode cX13_notesSo 84 = .ok (.istore_n 1, 1) := dk_60 (dk_at dksX13_notesSo_3 14 rfl rfl)
theorem dX13_notesSo_85 : decode cX13_notesSo 85 = .ok (.iinc 4 1, 3) := dk_132 4 1 (dk_at dksX13_notesSo_3 15 rfl rfl)
theorem dX13_notesSo_88 : decode cX13_notesSo 88 = .ok (.goto (-63), 3) := dk_167 255 193 (dk_at dksX13_notesSo_3 18 rfl rfl)
theorem dX13_notesSo_91 : decode cX13_notesSo 91 = .ok (.iinc 2 1, 3) := dk_132 2 1 (dk_at dksX13_notesSo_3 21 rfl rfl)
theorem dX13_notesSo_94 : decode cX13_notesSo 94 = .ok (.goto (-90), 3) := dk_167 255 166 (dk_at dksX13_notesSo_4 0 rfl rfl)
theorem dX13_notesSo_97 : decode cX13_notesSo 97 = .ok (.iload_n 1, 1) := dk_27 (dk_at dksX13_notesSo_4 3 rfl rfl)
theorem dX13_notesSo_98 : decode cX13_notesSo 98 = .ok (.ireturn, 1) := dk_172 (dk_at dksX13_notesSo_4 4 rfl rfl)
abbrev cX13_day : ByteArray := prog_22_method_102_code
def yX13_day : MethodName := ⟨RX13, "day", "(II)I"⟩
def dkwX13_day_1 : List UInt8 := [172, 42, 28, 182, 0, 203, 153, 0, 12, 42, 27, 28, 182, 1, 16, 167, 0, 5, 16, 252, 172]
abbrev dktX13_day_1 : List UInt8 := dkwX13_day_1 ++ []
def dkwX13_day_0 : List UInt8 := [28, 3, 16, 99, 184, 0, 49, 154, 0, 6, 16, 254, 172, 42, 180, 0, 11, 5, 46, 154, 0, 6, 16, 253]
abbrev dktX13_day_0 : List UInt8 := dkwX13_day_0 ++ dktX13_day_1
theorem dksX13_day_0 : cX13_day.data.toList.drop 0 = dktX13_day_0 := by decide +kernel
theorem dksX13_day_1 : cX13_day.data.toList.drop 24 = dktX13_day_1 := dk_seg dksX13_day_0 24 rfl rfl
theorem dX13_day_0 : decode cX13_day 0 = .ok (.iload_n 2, 1) := dk_28 (dk_at dksX13_day_0 0 rfl rfl)
theorem dX13_day_1 : decode cX13_day 1 = .ok (.iconst 0, 1) := dk_3 (dk_at dksX13_day_0 1 rfl rfl)
theorem dX13_day_2 : decode cX13_day 2 = .ok (.bipush 99, 2) := dk_16 99 (dk_at dksX13_day_0 2 rfl rfl)
theorem dX13_day_4 : decode cX13_day 4 = .ok (.invokestatic 49, 3) := dk_184 0 49 (dk_at dksX13_day_0 4 rfl rfl)
theorem dX13_day_7 : decode cX13_day 7 = .ok (.ifCond .ne 6, 3) := dk_154 0 6 (dk_at dksX13_day_0 7 rfl rfl)
theorem dX13_day_10 : decode cX13_day 10 = .ok (.bipush (-2), 2) := dk_16 254 (dk_at dksX13_day_0 10 rfl rfl)
theorem dX13_day_12 : decode cX13_day 12 = .ok (.ireturn, 1) := dk_172 (dk_at dksX13_day_0 12 rfl rfl)
theorem dX13_day_13 : decode cX13_day 13 = .ok (.aload_n 0, 1) := dk_42 (dk_at dksX13_day_0 13 rfl rfl)
theorem dX13_day_14 : decode cX13_day 14 = .ok (.getfield 11, 3) := dk_180 0 11 (dk_at dksX13_day_0 14 rfl rfl)
theorem dX13_day_17 : decode cX13_day 17 = .ok (.iconst 2, 1) := dk_5 (dk_at dksX13_day_0 17 rfl rfl)
theorem dX13_day_18 : decode cX13_day 18 = .ok (.iaload, 1) := dk_46 (dk_at dksX13_day_0 18 rfl rfl)
theorem dX13_day_19 : decode cX13_day 19 = .ok (.ifCond .ne 6, 3) := dk_154 0 6 (dk_at dksX13_day_0 19 rfl rfl)
theorem dX13_day_22 : decode cX13_day 22 = .ok (.bipush (-3), 2) := dk_16 253 (dk_at dksX13_day_0 22 rfl rfl)
theorem dX13_day_24 : decode cX13_day 24 = .ok (.ireturn, 1) := dk_172 (dk_at dksX13_day_1 0 rfl rfl)
theorem dX13_day_25 : decode cX13_day 25 = .ok (.aload_n 0, 1) := dk_42 (dk_at dksX13_day_1 1 rfl rfl)
theorem dX13_day_26 : decode cX13_day 26 = .ok (.iload_n 2, 1) := dk_28 (dk_at dksX13_day_1 2 rfl rfl)
theorem dX13_day_27 : decode cX13_day 27 = .ok (.invokevirtual 203, 3) := dk_182 0 203 (dk_at dksX13_day_1 3 rfl rfl)
theorem dX13_day_30 : decode cX13_day 30 = .ok (.ifCond .eq 12, 3) := dk_153 0 12 (dk_at dksX13_day_1 6 rfl rfl)
theorem dX13_day_33 : decode cX13_day 33 = .ok (.aload_n 0, 1) := dk_42 (dk_at dksX13_day_1 9 rfl rfl)
theorem dX13_day_34 : decode cX13_day 34 = .ok (.iload_n 1, 1) := dk_27 (dk_at dksX13_day_1 10 rfl rfl)
theorem dX13_day_35 : decode cX13_day 35 = .ok (.iload_n 2, 1) := dk_28 (dk_at dksX13_day_1 11 rfl rfl)
theorem dX13_day_36 : decode cX13_day 36 = .ok (.invokevirtual 272, 3) := dk_182 1 16 (dk_at dksX13_day_1 12 rfl rfl)
theorem dX13_day_39 : decode cX13_day 39 = .ok (.goto 5, 3) := dk_167 0 5 (dk_at dksX13_day_1 15 rfl rfl)
theorem dX13_day_42 : decode cX13_day 42 = .ok (.bipush (-4), 2) := dk_16 252 (dk_at dksX13_day_1 18 rfl rfl)
theorem dX13_day_44 : decode cX13_day 44 = .ok (.ireturn, 1) := dk_172 (dk_at dksX13_day_1 20 rfl rfl)
abbrev cX13_dayOf : ByteArray := prog_22_method_101_code
def yX13_dayOf : MethodName := ⟨RX13, "dayOf", "(II)I"⟩
def dkwX13_dayOf_1 : List UInt8 := [42, 180, 0, 11, 16, 7, 46, 29, 100, 54, 4, 42, 182, 1, 6, 21, 4, 172]
abbrev dktX13_dayOf_1 : List UInt8 := dkwX13_dayOf_1 ++ []
def dkwX13_dayOf_0 : List UInt8 := [42, 182, 1, 0, 42, 180, 0, 11, 16, 7, 46, 62, 42, 180, 0, 11, 3, 27, 79, 42, 28, 182, 0, 206]
abbrev dktX13_dayOf_0 : List UInt8 := dkwX13_dayOf_0 ++ dktX13_dayOf_1
theorem dksX13_dayOf_0 : cX13_dayOf.data.toList.drop 0 = dktX13_dayOf_0 := by decide +kernel
theorem dksX13_dayOf_1 : cX13_dayOf.data.toList.drop 24 = dktX13_dayOf_1 := dk_seg dksX13_dayOf_0 24 rfl rfl
theorem dX13_dayOf_0 : decode cX13_dayOf 0 = .ok (.aload_n 0, 1) := dk_42 (dk_at dksX13_dayOf_0 0 rfl rfl)
theorem dX13_dayOf_1 : decode cX13_dayOf 1 = .ok (.invokevirtual 256, 3) := dk_182 1 0 (dk_at dksX13_dayOf_0 1 rfl rfl)
theorem dX13_dayOf_4 : decode cX13_dayOf 4 = .ok (.aload_n 0, 1) := dk_42 (dk_at dksX13_dayOf_0 4 rfl rfl)
theorem dX13_dayOf_5 : decode cX13_dayOf 5 = .ok (.getfield 11, 3) := dk_180 0 11 (dk_at dksX13_dayOf_0 5 rfl rfl)
theorem dX13_dayOf_8 : decode cX13_dayOf 8 = .ok (.bipush 7, 2) := dk_16 7 (dk_at dksX13_dayOf_0 8 rfl rfl)
theorem dX13_dayOf_10 : decode cX13_dayOf 10 = .ok (.iaload, 1) := dk_46 (dk_at dksX13_dayOf_0 10 rfl rfl)
theorem dX13_dayOf_11 : decode cX13_dayOf 11 = .ok (.istore_n 3, 1) := dk_62 (dk_at dksX13_dayOf_0 11 rfl rfl)
theorem dX13_dayOf_12 : decode cX13_dayOf 12 = .ok (.aload_n 0, 1) := dk_42 (dk_at dksX13_dayOf_0 12 rfl rfl)
theorem dX13_dayOf_13 : decode cX13_dayOf 13 = .ok (.getfield 11, 3) := dk_180 0 11 (dk_at dksX13_dayOf_0 13 rfl rfl)
theorem dX13_dayOf_16 : decode cX13_dayOf 16 = .ok (.iconst 0, 1) := dk_3 (dk_at dksX13_dayOf_0 16 rfl rfl)
theorem dX13_dayOf_17 : decode cX13_dayOf 17 = .ok (.iload_n 1, 1) := dk_27 (dk_at dksX13_dayOf_0 17 rfl rfl)
theorem dX13_dayOf_18 : decode cX13_dayOf 18 = .ok (.iastore, 1) := dk_79 (dk_at dksX13_dayOf_0 18 rfl rfl)
theorem dX13_dayOf_19 : decode cX13_dayOf 19 = .ok (.aload_n 0, 1) := dk_42 (dk_at dksX13_dayOf_0 19 rfl rfl)
theorem dX13_dayOf_20 : decode cX13_dayOf 20 = .ok (.iload_n 2, 1) := dk_28 (dk_at dksX13_dayOf_0 20 rfl rfl)
theorem dX13_dayOf_21 : decode cX13_dayOf 21 = .ok (.invokevirtual 206, 3) := dk_182 0 206 (dk_at dksX13_dayOf_0 21 rfl rfl)
theorem dX13_dayOf_24 : decode cX13_dayOf 24 = .ok (.aload_n 0, 1) := dk_42 (dk_at dksX13_dayOf_1 0 rfl rfl)
theorem dX13_dayOf_25 : decode cX13_dayOf 25 = .ok (.getfield 11, 3) := dk_180 0 11 (dk_at dksX13_dayOf_1 1 rfl rfl)
theorem dX13_dayOf_28 : decode cX13_dayOf 28 = .ok (.bipush 7, 2) := dk_16 7 (dk_at dksX13_dayOf_1 4 rfl rfl)
theorem dX13_dayOf_30 : decode cX13_dayOf 30 = .ok (.iaload, 1) := dk_46 (dk_at dksX13_dayOf_1 6 rfl rfl)
theorem dX13_dayOf_31 : decode cX13_dayOf 31 = .ok (.iload_n 3, 1) := dk_29 (dk_at dksX13_dayOf_1 7 rfl rfl)
theorem dX13_dayOf_32 : decode cX13_dayOf 32 = .ok (.isub, 1) := dk_100 (dk_at dksX13_dayOf_1 8 rfl rfl)
theorem dX13_dayOf_33 : decode cX13_dayOf 33 = .ok (.istore 4, 2) := dk_54 4 (dk_at dksX13_dayOf_1 9 rfl rfl)
theorem dX13_dayOf_35 : decode cX13_dayOf 35 = .ok (.aload_n 0, 1) := dk_42 (dk_at dksX13_dayOf_1 11 rfl rfl)
theorem dX13_dayOf_36 : decode cX13_dayOf 36 = .ok (.invokevirtual 262, 3) := dk_182 1 6 (dk_at dksX13_dayOf_1 12 rfl rfl)
theorem dX13_dayOf_39 : decode cX13_dayOf 39 = .ok (.iload 4, 2) := dk_21 4 (dk_at dksX13_dayOf_1 15 rfl rfl)
theorem dX13_dayOf_41 : decode cX13_dayOf 41 = .ok (.ireturn, 1) := dk_172 (dk_at dksX13_dayOf_1 17 rfl rfl)
abbrev cX13_chance : ByteArray := prog_22_method_105_code
def yX13_chance : MethodName := ⟨RX13, "chance", "(IIIII)J"⟩
def dkwX13_chance_4 : List UInt8 := [167, 0, 4, 3, 96, 54, 6, 132, 7, 1, 167, 255, 223, 21, 6, 29, 21, 5, 184, 1, 24, 173]
abbrev dktX13_chance_4 : List UInt8 := dkwX13_chance_4 ++ []
def dkwX13_chance_3 : List UInt8 := [21, 7, 29, 162, 0, 33, 21, 6, 42, 27, 21, 7, 96, 28, 182, 1, 16, 21, 4, 163, 0, 7, 4]
abbrev dktX13_chance_3 : List UInt8 := dkwX13_chance_3 ++ dktX13_chance_4
def dkwX13_chance_2 : List UInt8 := [46, 153, 0, 13, 42, 29, 28, 104, 182, 0, 203, 154, 0, 7, 20, 1, 22, 173, 3, 54, 6, 3, 54, 7]
abbrev dktX13_chance_2 : List UInt8 := dkwX13_chance_2 ++ dktX13_chance_3
def dkwX13_chance_1 : List UInt8 := [19, 1, 12, 184, 0, 49, 153, 0, 32, 21, 5, 3, 4, 184, 0, 49, 153, 0, 22, 42, 180, 0, 11, 5]
abbrev dktX13_chance_1 : List UInt8 := dkwX13_chance_1 ++ dktX13_chance_2
def dkwX13_chance_0 : List UInt8 := [28, 3, 16, 99, 184, 0, 49, 153, 0, 53, 29, 4, 7, 184, 0, 49, 153, 0, 44, 21, 4, 3]
abbrev dktX13_chance_0 : List UInt8 := dkwX13_chance_0 ++ dktX13_chance_1
theorem dksX13_chance_0 : cX13_chance.data.toList.drop 0 = dktX13_chance_0 := by decide +kernel
theorem dksX13_chance_1 : cX13_chance.data.toList.drop 22 = dktX13_chance_1 := dk_seg dksX13_chance_0 22 rfl rfl
theorem dksX13_chance_2 : cX13_chance.data.toList.drop 46 = dktX13_chance_2 := dk_seg dksX13_chance_1 24 rfl rfl
theorem dksX13_chance_3 : cX13_chance.data.toList.drop 70 = dktX13_chance_3 := dk_seg dksX13_chance_2 24 rfl rfl
theorem dksX13_chance_4 : cX13_chance.data.toList.drop 93 = dktX13_chance_4 := dk_seg dksX13_chance_3 23 rfl rfl
theorem dX13_chance_0 : decode cX13_chance 0 = .ok (.iload_n 2, 1) := dk_28 (dk_at dksX13_chance_0 0 rfl rfl)
theorem dX13_chance_1 : decode cX13_chance 1 = .ok (.iconst 0, 1) := dk_3 (dk_at dksX13_chance_0 1 rfl rfl)
theorem dX13_chance_2 : decode cX13_chance 2 = .ok (.bipush 99, 2) := dk_16 99 (dk_at dksX13_chance_0 2 rfl rfl)
theorem dX13_chance_4 : decode cX13_chance 4 = .ok (.invokestatic 49, 3) := dk_184 0 49 (dk_at dksX13_chance_0 4 rfl rfl)
theorem dX13_chance_7 : decode cX13_chance 7 = .ok (.ifCond .eq 53, 3) := dk_153 0 53 (dk_at dksX13_chance_0 7 rfl rfl)
theorem dX13_chance_10 : decode cX13_chance 10 = .ok (.iload_n 3, 1) := dk_29 (dk_at dksX13_chance_0 10 rfl rfl)
theorem dX13_chance_11 : decode cX13_chance 11 = .ok (.iconst 1, 1) := dk_4 (dk_at dksX13_chance_0 11 rfl rfl)
theorem dX13_chance_12 : decode cX13_chance 12 = .ok (.iconst 4, 1) := dk_7 (dk_at dksX13_chance_0 12 rfl rfl)
theorem dX13_chance_13 : decode cX13_chance 13 = .ok (.invokestatic 49, 3) := dk_184 0 49 (dk_at dksX13_chance_0 13 rfl rfl)
theorem dX13_chance_16 : decode cX13_chance 16 = .ok (.ifCond .eq 44, 3) := dk_153 0 44 (dk_at dksX13_chance_0 16 rfl rfl)
theorem dX13_chance_19 : decode cX13_chance 19 = .ok (.iload 4, 2) := dk_21 4 (dk_at dksX13_chance_0 19 rfl rfl)
theorem dX13_chance_21 : decode cX13_chance 21 = .ok (.iconst 0, 1) := dk_3 (dk_at dksX13_chance_0 21 rfl rfl)
theorem dX13_chance_22 : decode cX13_chance 22 = .ok (.ldc_w 268, 3) := dk_19 1 12 (dk_at dksX13_chance_1 0 rfl rfl)
theorem dX13_chance_25 : decode cX13_chance 25 = .ok (.invokestatic 49, 3) := dk_184 0 49 (dk_at dksX13_chance_1 3 rfl rfl)
theorem dX13_chance_28 : decode cX13_chance 28 = .ok (.ifCond .eq 32, 3) := dk_153 0 32 (dk_at dksX13_chance_1 6 rfl rfl)
theorem dX13_chance_31 : decode cX13_chance 31 = .ok (.iload 5, 2) := dk_21 5 (dk_at dksX13_chance_1 9 rfl rfl)
theorem dX13_chance_33 : decode cX13_chance 33 = .ok (.iconst 0, 1) := dk_3 (dk_at dksX13_chance_1 11 rfl rfl)
theorem dX13_chance_34 : decode cX13_chance 34 = .ok (.iconst 1, 1) := dk_4 (dk_at dksX13_chance_1 12 rfl rfl)
theorem dX13_chance_35 : decode cX13_chance 35 = .ok (.invokestatic 49, 3) := dk_184 0 49 (dk_at dksX13_chance_1 13 rfl rfl)
theorem dX13_chance_38 : decode cX13_chance 38 = .ok (.ifCond .eq 22, 3) := dk_153 0 22 (dk_at dksX13_chance_1 16 rfl rfl)
theorem dX13_chance_41 : decode cX13_chance 41 = .ok (.aload_n 0, 1) := dk_42 (dk_at dksX13_chance_1 19 rfl rfl)
theorem dX13_chance_42 : decode cX13_chance 42 = .ok (.getfield 11, 3) := dk_180 0 11 (dk_at dksX13_chance_1 20 rfl rfl)
theorem dX13_chance_45 : decode cX13_chance 45 = .ok (.iconst 2, 1) := dk_5 (dk_at dksX13_chance_1 23 rfl rfl)
theorem dX13_chance_46 : decode cX13_chance 46 = .ok (.iaload, 1) := dk_46 (dk_at dksX13_chance_2 0 rfl rfl)
theorem dX13_chance_47 : decode cX13_chance 47 = .ok (.ifCond .eq 13, 3) := dk_153 0 13 (dk_at dksX13_chance_2 1 rfl rfl)
theorem dX13_chance_50 : decode cX13_chance 50 = .ok (.aload_n 0, 1) := dk_42 (dk_at dksX13_chance_2 4 rfl rfl)
theorem dX13_chance_51 : decode cX13_chance 51 = .ok (.iload_n 3, 1) := dk_29 (dk_at dksX13_chance_2 5 rfl rfl)
theorem dX13_chance_52 : decode cX13_chance 52 = .ok (.iload_n 2, 1) := dk_28 (dk_at dksX13_chance_2 6 rfl rfl)
theorem dX13_chance_53 : decode cX13_chance 53 = .ok (.imul, 1) := dk_104 (dk_at dksX13_chance_2 7 rfl rfl)
theorem dX13_chance_54 : decode cX13_chance 54 = .ok (.invokevirtual 203, 3) := dk_182 0 203 (dk_at dksX13_chance_2 8 rfl rfl)
theorem dX13_chance_57 : decode cX13_chance 57 = .ok (.ifCond .ne 7, 3) := dk_154 0 7 (dk_at dksX13_chance_2 11 rfl rfl)
theorem dX13_chance_60 : decode cX13_chance 60 = .ok (.ldc2_w 278, 3) := dk_20 1 22 (dk_at dksX13_chance_2 14 rfl rfl)
theorem dX13_chance_63 : decode cX13_chance 63 = .ok (.lreturn, 1) := dk_173 (dk_at dksX13_chance_2 17 rfl rfl)
theorem dX13_chance_64 : decode cX13_chance 64 = .ok (.iconst 0, 1) := dk_3 (dk_at dksX13_chance_2 18 rfl rfl)
theorem dX13_chance_65 : decode cX13_chance 65 = .ok (.istore 6, 2) := dk_54 6 (dk_at dksX13_chance_2 19 rfl rfl)
theorem dX13_chance_67 : decode cX13_chance 67 = .ok (.iconst 0, 1) := dk_3 (dk_at dksX13_chance_2 21 rfl rfl)
theorem dX13_chance_68 : decode cX13_chance 68 = .ok (.istore 7, 2) := dk_54 7 (dk_at dksX13_chance_2 22 rfl rfl)
theorem dX13_chance_70 : decode cX13_chance 70 = .ok (.iload 7, 2) := dk_21 7 (dk_at dksX13_chance_3 0 rfl rfl)
theorem dX13_chance_72 : decode cX13_chance 72 = .ok (.iload_n 3, 1) := dk_29 (dk_at dksX13_chance_3 2 rfl rfl)
theorem dX13_chance_73 : decode cX13_chance 73 = .ok (.if_icmp .ge 33, 3) := dk_162 0 33 (dk_at dksX13_chance_3 3 rfl rfl)
theorem dX13_chance_76 : decode cX13_chance 76 = .ok (.iload 6, 2) := dk_21 6 (dk_at dksX13_chance_3 6 rfl rfl)
theorem dX13_chance_78 : decode cX13_chance 78 = .ok (.aload_n 0, 1) := dk_42 (dk_at dksX13_chance_3 8 rfl rfl)
theorem dX13_chance_79 : decode cX13_chance 79 = .ok (.iload_n 1, 1) := dk_27 (dk_at dksX13_chance_3 9 rfl rfl)
theorem dX13_chance_80 : decode cX13_chance 80 = .ok (.iload 7, 2) := dk_21 7 (dk_at dksX13_chance_3 10 rfl rfl)
theorem dX13_chance_82 : decode cX13_chance 82 = .ok (.iadd, 1) := dk_96 (dk_at dksX13_chance_3 12 rfl rfl)
theorem dX13_chance_83 : decode cX13_chance 83 = .ok (.iload_n 2, 1) := dk_28 (dk_at dksX13_chance_3 13 rfl rfl)
theorem dX13_chance_84 : decode cX13_chance 84 = .ok (.invokevirtual 272, 3) := dk_182 1 16 (dk_at dksX13_chance_3 14 rfl rfl)
theorem dX13_chance_87 : decode cX13_chance 87 = .ok (.iload 4, 2) := dk_21 4 (dk_at dksX13_chance_3 17 rfl rfl)
theorem dX13_chance_89 : decode cX13_chance 89 = .ok (.if_icmp .gt 7, 3) := dk_163 0 7 (dk_at dksX13_chance_3 19 rfl rfl)
theorem dX13_chance_92 : decode cX13_chance 92 = .ok (.iconst 1, 1) := dk_4 (dk_at dksX13_chance_3 22 rfl rfl)
theorem dX13_chance_93 : decode cX13_chance 93 = .ok (.goto 4, 3) := dk_167 0 4 (dk_at dksX13_chance_4 0 rfl rfl)
theorem dX13_chance_96 : decode cX13_chance 96 = .ok (.iconst 0, 1) := dk_3 (dk_at dksX13_chance_4 3 rfl rfl)
theorem dX13_chance_97 : decode cX13_chance 97 = .ok (.iadd, 1) := dk_96 (dk_at dksX13_chance_4 4 rfl rfl)
theorem dX13_chance_98 : decode cX13_chance 98 = .ok (.istore 6, 2) := dk_54 6 (dk_at dksX13_chance_4 5 rfl rfl)
theorem dX13_chance_100 : decode cX13_chance 100 = .ok (.iinc 7 1, 3) := dk_132 7 1 (dk_at dksX13_chance_4 7 rfl rfl)
theorem dX13_chance_103 : decode cX13_chance 103 = .ok (.goto (-33), 3) := dk_167 255 223 (dk_at dksX13_chance_4 10 rfl rfl)
theorem dX13_chance_106 : decode cX13_chance 106 = .ok (.iload 6, 2) := dk_21 6 (dk_at dksX13_chance_4 13 rfl rfl)
theorem dX13_chance_108 : decode cX13_chance 108 = .ok (.iload_n 3, 1) := dk_29 (dk_at dksX13_chance_4 15 rfl rfl)
theorem dX13_chance_109 : decode cX13_chance 109 = .ok (.iload 5, 2) := dk_21 5 (dk_at dksX13_chance_4 16 rfl rfl)
theorem dX13_chance_111 : decode cX13_chance 111 = .ok (.invokestatic 280, 3) := dk_184 1 24 (dk_at dksX13_chance_4 18 rfl rfl)
theorem dX13_chance_114 : decode cX13_chance 114 = .ok (.lreturn, 1) := dk_173 (dk_at dksX13_chance_4 21 rfl rfl)
abbrev cX13_part : ByteArray := prog_22_method_104_code
def yX13_part : MethodName := ⟨RX13, "part", "(III)J"⟩
def dkwX13_part_0 : List UInt8 := [28, 154, 0, 7, 26, 167, 0, 4, 27, 26, 27, 184, 1, 19, 108, 133, 173]
abbrev dktX13_part_0 : List UInt8 := dkwX13_part_0 ++ []
theorem dksX13_part_0 : cX13_part.data.toList.drop 0 = dktX13_part_0 := by decide +kernel
theorem dX13_part_0 : decode cX13_part 0 = .ok (.iload_n 2, 1) := dk_28 (dk_at dksX13_part_0 0 rfl rfl)
theorem dX13_part_1 : decode cX13_part 1 = .ok (.ifCond .ne 7, 3) := dk_154 0 7 (dk_at dksX13_part_0 1 rfl rfl)
theorem dX13_part_4 : decode cX13_part 4 = .ok (.iload_n 0, 1) := dk_26 (dk_at dksX13_part_0 4 rfl rfl)
theorem dX13_part_5 : decode cX13_part 5 = .ok (.goto 4, 3) := dk_167 0 4 (dk_at dksX13_part_0 5 rfl rfl)
theorem dX13_part_8 : decode cX13_part 8 = .ok (.iload_n 1, 1) := dk_27 (dk_at dksX13_part_0 8 rfl rfl)
theorem dX13_part_9 : decode cX13_part 9 = .ok (.iload_n 0, 1) := dk_26 (dk_at dksX13_part_0 9 rfl rfl)
theorem dX13_part_10 : decode cX13_part 10 = .ok (.iload_n 1, 1) := dk_27 (dk_at dksX13_part_0 10 rfl rfl)
theorem dX13_part_11 : decode cX13_part 11 = .ok (.invokestatic 275, 3) := dk_184 1 19 (dk_at dksX13_part_0 11 rfl rfl)
theorem dX13_part_14 : decode cX13_part 14 = .ok (.idiv, 1) := dk_108 (dk_at dksX13_part_0 14 rfl rfl)
theorem dX13_part_15 : decode cX13_part 15 = .ok (.i2l, 1) := dk_133 (dk_at dksX13_part_0 15 rfl rfl)
theorem dX13_part_16 : decode cX13_part 16 = .ok (.lreturn, 1) := dk_173 (dk_at dksX13_part_0 16 rfl rfl)
abbrev cX13_common : ByteArray := prog_22_method_103_code
def yX13_common : MethodName := ⟨RX13, "common", "(II)I"⟩
def dkwX13_common_0 : List UInt8 := [27, 154, 0, 7, 26, 167, 0, 10, 27, 26, 27, 112, 184, 1, 19, 172]
abbrev dktX13_common_0 : List UInt8 := dkwX13_common_0 ++ []
theorem dksX13_common_0 : cX13_common.data.toList.drop 0 = dktX13_common_0 := by decide +kernel
theorem dX13_common_0 : decode cX13_common 0 = .ok (.iload_n 1, 1) := dk_27 (dk_at dksX13_common_0 0 rfl rfl)
theorem dX13_common_1 : decode cX13_common 1 = .ok (.ifCond .ne 7, 3) := dk_154 0 7 (dk_at dksX13_common_0 1 rfl rfl)
theorem dX13_common_4 : decode cX13_common 4 = .ok (.iload_n 0, 1) := dk_26 (dk_at dksX13_common_0 4 rfl rfl)
theorem dX13_common_5 : decode cX13_common 5 = .ok (.goto 10, 3) := dk_167 0 10 (dk_at dksX13_common_0 5 rfl rfl)
theorem dX13_common_8 : decode cX13_common 8 = .ok (.iload_n 1, 1) := dk_27 (dk_at dksX13_common_0 8 rfl rfl)
theorem dX13_common_9 : decode cX13_common 9 = .ok (.iload_n 0, 1) := dk_26 (dk_at dksX13_common_0 9 rfl rfl)
theorem dX13_common_10 : decode cX13_common 10 = .ok (.iload_n 1, 1) := dk_27 (dk_at dksX13_common_0 10 rfl rfl)
theorem dX13_common_11 : decode cX13_common 11 = .ok (.irem, 1) := dk_112 (dk_at dksX13_common_0 11 rfl rfl)
theorem dX13_common_12 : decode cX13_common 12 = .ok (.invokestatic 275, 3) := dk_184 1 19 (dk_at dksX13_common_0 12 rfl rfl)
theorem dX13_common_15 : decode cX13_common 15 = .ok (.ireturn, 1) := dk_172 (dk_at dksX13_common_0 15 rfl rfl)
abbrev cX13_mean : ByteArray := prog_22_method_106_code
def yX13_mean : MethodName := ⟨RX13, "mean", "(I)J"⟩
def dkwX13_mean_1 : List UInt8 := [16, 7, 46, 42, 180, 0, 11, 16, 8, 46, 27, 184, 1, 24, 167, 0, 6, 20, 1, 22, 173]
abbrev dktX13_mean_1 : List UInt8 := dkwX13_mean_1 ++ []
def dkwX13_mean_0 : List UInt8 := [27, 3, 4, 184, 0, 49, 153, 0, 34, 42, 180, 0, 11, 16, 8, 46, 158, 0, 24, 42, 180, 0, 11]
abbrev dktX13_mean_0 : List UInt8 := dkwX13_mean_0 ++ dktX13_mean_1
theorem dksX13_mean_0 : cX13_mean.data.toList.drop 0 = dktX13_mean_0 := by decide +kernel
theorem dksX13_mean_1 : cX13_mean.data.toList.drop 23 = dktX13_mean_1 := dk_seg dksX13_mean_0 23 rfl rfl
theorem dX13_mean_0 : decode cX13_mean 0 = .ok (.iload_n 1, 1) := dk_27 (dk_at dksX13_mean_0 0 rfl rfl)
theorem dX13_mean_1 : decode cX13_mean 1 = .ok (.iconst 0, 1) := dk_3 (dk_at dksX13_mean_0 1 rfl rfl)
theorem dX13_mean_2 : decode cX13_mean 2 = .ok (.iconst 1, 1) := dk_4 (dk_at dksX13_mean_0 2 rfl rfl)
theorem dX13_mean_3 : decode cX13_mean 3 = .ok (.invokestatic 49, 3) := dk_184 0 49 (dk_at dksX13_mean_0 3 rfl rfl)
theorem dX13_mean_6 : decode cX13_mean 6 = .ok (.ifCond .eq 34, 3) := dk_153 0 34 (dk_at dksX13_mean_0 6 rfl rfl)
theorem dX13_mean_9 : decode cX13_mean 9 = .ok (.aload_n 0, 1) := dk_42 (dk_at dksX13_mean_0 9 rfl rfl)
theorem dX13_mean_10 : decode cX13_mean 10 = .ok (.getfield 11, 3) := dk_180 0 11 (dk_at dksX13_mean_0 10 rfl rfl)
theorem dX13_mean_13 : decode cX13_mean 13 = .ok (.bipush 8, 2) := dk_16 8 (dk_at dksX13_mean_0 13 rfl rfl)
theorem dX13_mean_15 : decode cX13_mean 15 = .ok (.iaload, 1) := dk_46 (dk_at dksX13_mean_0 15 rfl rfl)
theorem dX13_mean_16 : decode cX13_mean 16 = .ok (.ifCond .le 24, 3) := dk_158 0 24 (dk_at dksX13_mean_0 16 rfl rfl)
theorem dX13_mean_19 : decode cX13_mean 19 = .ok (.aload_n 0, 1) := dk_42 (dk_at dksX13_mean_0 19 rfl rfl)
theorem dX13_mean_20 : decode cX13_mean 20 = .ok (.getfield 11, 3) := dk_180 0 11 (dk_at dksX13_mean_0 20 rfl rfl)
theorem dX13_mean_23 : decode cX13_mean 23 = .ok (.bipush 7, 2) := dk_16 7 (dk_at dksX13_mean_1 0 rfl rfl)
theorem dX13_mean_25 : decode cX13_mean 25 = .ok (.iaload, 1) := dk_46 (dk_at dksX13_mean_1 2 rfl rfl)
theorem dX13_mean_26 : decode cX13_mean 26 = .ok (.aload_n 0, 1) := dk_42 (dk_at dksX13_mean_1 3 rfl rfl)
theorem dX13_mean_27 : decode cX13_mean 27 = .ok (.getfield 11, 3) := dk_180 0 11 (dk_at dksX13_mean_1 4 rfl rfl)
theorem dX13_mean_30 : decode cX13_mean 30 = .ok (.bipush 8, 2) := dk_16 8 (dk_at dksX13_mean_1 7 rfl rfl)
theorem dX13_mean_32 : decode cX13_mean 32 = .ok (.iaload, 1) := dk_46 (dk_at dksX13_mean_1 9 rfl rfl)
theorem dX13_mean_33 : decode cX13_mean 33 = .ok (.iload_n 1, 1) := dk_27 (dk_at dksX13_mean_1 10 rfl rfl)
theorem dX13_mean_34 : decode cX13_mean 34 = .ok (.invokestatic 280, 3) := dk_184 1 24 (dk_at dksX13_mean_1 11 rfl rfl)
theorem dX13_mean_37 : decode cX13_mean 37 = .ok (.goto 6, 3) := dk_167 0 6 (dk_at dksX13_mean_1 14 rfl rfl)
theorem dX13_mean_40 : decode cX13_mean 40 = .ok (.ldc2_w 278, 3) := dk_20 1 22 (dk_at dksX13_mean_1 17 rfl rfl)
theorem dX13_mean_43 : decode cX13_mean 43 = .ok (.lreturn, 1) := dk_173 (dk_at dksX13_mean_1 20 rfl rfl)
abbrev cX13_plan : ByteArray := prog_22_method_107_code
def yX13_plan : MethodName := ⟨RX13, "plan", "(II)I"⟩
def dkwX13_plan_5 : List UInt8 := [16, 20, 92, 46, 4, 96, 79, 42, 180, 0, 11, 16, 20, 46, 172]
abbrev dktX13_plan_5 : List UInt8 := dkwX13_plan_5 ++ []
def dkwX13_plan_4 : List UInt8 := [180, 0, 11, 17, 1, 99, 5, 42, 180, 0, 11, 16, 20, 46, 104, 96, 4, 96, 28, 79, 42, 180, 0, 11]
abbrev dktX13_plan_4 : List UInt8 := dkwX13_plan_4 ++ dktX13_plan_5
def dkwX13_plan_3 : List UInt8 := [16, 252, 172, 42, 180, 0, 11, 17, 1, 99, 5, 42, 180, 0, 11, 16, 20, 46, 104, 96, 27, 79, 42]
abbrev dktX13_plan_3 : List UInt8 := dkwX13_plan_3 ++ dktX13_plan_4
def dkwX13_plan_2 : List UInt8 := [3, 16, 7, 184, 0, 49, 154, 0, 6, 16, 254, 172, 42, 180, 0, 11, 16, 20, 46, 16, 8, 160, 0, 6]
abbrev dktX13_plan_2 : List UInt8 := dkwX13_plan_2 ++ dktX13_plan_3
def dkwX13_plan_1 : List UInt8 := [2, 172, 27, 154, 0, 13, 28, 3, 16, 99, 184, 0, 49, 153, 0, 20, 27, 5, 112, 4, 160, 0, 16, 28]
abbrev dktX13_plan_1 : List UInt8 := dkwX13_plan_1 ++ dktX13_plan_2
def dkwX13_plan_0 : List UInt8 := [27, 2, 160, 0, 13, 42, 180, 0, 11, 16, 20, 3, 79, 3, 172, 27, 3, 6, 184, 0, 49, 154, 0, 5]
abbrev dktX13_plan_0 : List UInt8 := dkwX13_plan_0 ++ dktX13_plan_1
theorem dksX13_plan_0 : cX13_plan.data.toList.drop 0 = dktX13_plan_0 := by decide +kernel
theorem dksX13_plan_1 : cX13_plan.data.toList.drop 24 = dktX13_plan_1 := dk_seg dksX13_plan_0 24 rfl rfl
theorem dksX13_plan_2 : cX13_plan.data.toList.drop 48 = dktX13_plan_2 := dk_seg dksX13_plan_1 24 rfl rfl
theorem dksX13_plan_3 : cX13_plan.data.toList.drop 72 = dktX13_plan_3 := dk_seg dksX13_plan_2 24 rfl rfl
theorem dksX13_plan_4 : cX13_plan.data.toList.drop 95 = dktX13_plan_4 := dk_seg dksX13_plan_3 23 rfl rfl
theorem dksX13_plan_5 : cX13_plan.data.toList.drop 119 = dktX13_plan_5 := dk_seg dksX13_plan_4 24 rfl rfl
theorem dX13_plan_0 : decode cX13_plan 0 = .ok (.iload_n 1, 1) := dk_27 (dk_at dksX13_plan_0 0 rfl rfl)
theorem dX13_plan_1 : decode cX13_plan 1 = .ok (.iconst (-1), 1) := dk_2 (dk_at dksX13_plan_0 1 rfl rfl)
theorem dX13_plan_2 : decode cX13_plan 2 = .ok (.if_icmp .ne 13, 3) := dk_160 0 13 (dk_at dksX13_plan_0 2 rfl rfl)
theorem dX13_plan_5 : decode cX13_plan 5 = .ok (.aload_n 0, 1) := dk_42 (dk_at dksX13_plan_0 5 rfl rfl)
theorem dX13_plan_6 : decode cX13_plan 6 = .ok (.getfield 11, 3) := dk_180 0 11 (dk_at dksX13_plan_0 6 rfl rfl)
theorem dX13_plan_9 : decode cX13_plan 9 = .ok (.bipush 20, 2) := dk_16 20 (dk_at dksX13_plan_0 9 rfl rfl)
theorem dX13_plan_11 : decode cX13_plan 11 = .ok (.iconst 0, 1) := dk_3 (dk_at dksX13_plan_0 11 rfl rfl)
theorem dX13_plan_12 : decode cX13_plan 12 = .ok (.iastore, 1) := dk_79 (dk_at dksX13_plan_0 12 rfl rfl)
theorem dX13_plan_13 : decode cX13_plan 13 = .ok (.iconst 0, 1) := dk_3 (dk_at dksX13_plan_0 13 rfl rfl)
theorem dX13_plan_14 : decode cX13_plan 14 = .ok (.ireturn, 1) := dk_172 (dk_at dksX13_plan_0 14 rfl rfl)
theorem dX13_plan_15 : decode cX13_plan 15 = .ok (.iload_n 1, 1) := dk_27 (dk_at dksX13_plan_0 15 rfl rfl)
theorem dX13_plan_16 : decode cX13_plan 16 = .ok (.iconst 0, 1) := dk_3 (dk_at dksX13_plan_0 16 rfl rfl)
theorem dX13_plan_17 : decode cX13_plan 17 = .ok (.iconst 3, 1) := dk_6 (dk_at dksX13_plan_0 17 rfl rfl)
theorem dX13_plan_18 : decode cX13_plan 18 = .ok (.invokestatic 49, 3) := dk_184 0 49 (dk_at dksX13_plan_0 18 rfl rfl)
theorem dX13_plan_21 : decode cX13_plan 21 = .ok (.ifCond .ne 5, 3) := dk_154 0 5 (dk_at dksX13_plan_0 21 rfl rfl)
theorem dX13_plan_24 : decode cX13_plan 24 = .ok (.iconst (-1), 1) := dk_2 (dk_at dksX13_plan_1 0 rfl rfl)
theorem dX13_plan_25 : decode cX13_plan 25 = .ok (.ireturn, 1) := dk_172 (dk_at dksX13_plan_1 1 rfl rfl)
theorem dX13_plan_26 : decode cX13_plan 26 = .ok (.iload_n 1, 1) := dk_27 (dk_at dksX13_plan_1 2 rfl rfl)
theorem dX13_plan_27 : decode cX13_plan 27 = .ok (.ifCond .ne 13, 3) := dk_154 0 13 (dk_at dksX13_plan_1 3 rfl rfl)
theorem dX13_plan_30 : decode cX13_plan 30 = .ok (.iload_n 2, 1) := dk_28 (dk_at dksX13_plan_1 6 rfl rfl)
theorem dX13_plan_31 : decode cX13_plan 31 = .ok (.iconst 0, 1) := dk_3 (dk_at dksX13_plan_1 7 rfl rfl)
theorem dX13_plan_32 : decode cX13_plan 32 = .ok (.bipush 99, 2) := dk_16 99 (dk_at dksX13_plan_1 8 rfl rfl)
theorem dX13_plan_34 : decode cX13_plan 34 = .ok (.invokestatic 49, 3) := dk_184 0 49 (dk_at dksX13_plan_1 10 rfl rfl)
theorem dX13_plan_37 : decode cX13_plan 37 = .ok (.ifCond .eq 20, 3) := dk_153 0 20 (dk_at dksX13_plan_1 13 rfl rfl)
theorem dX13_plan_40 : decode cX13_plan 40 = .ok (.iload_n 1, 1) := dk_27 (dk_at dksX13_plan_1 16 rfl rfl)
theorem dX13_plan_41 : decode cX13_plan 41 = .ok (.iconst 2, 1) := dk_5 (dk_at dksX13_plan_1 17 rfl rfl)
theorem dX13_plan_42 : decode cX13_plan 42 = .ok (.irem, 1) := dk_112 (dk_at dksX13_plan_1 18 rfl rfl)
theorem dX13_plan_43 : decode cX13_plan 43 = .ok (.iconst 1, 1) := dk_4 (dk_at dksX13_plan_1 19 rfl rfl)
theorem dX13_plan_44 : decode cX13_plan 44 = .ok (.if_icmp .ne 16, 3) := dk_160 0 16 (dk_at dksX13_plan_1 20 rfl rfl)
theorem dX13_plan_47 : decode cX13_plan 47 = .ok (.iload_n 2, 1) := dk_28 (dk_at dksX13_plan_1 23 rfl rfl)
theorem dX13_plan_48 : decode cX13_plan 48 = .ok (.iconst 0, 1) := dk_3 (dk_at dksX13_plan_2 0 rfl rfl)
theorem dX13_plan_49 : decode cX13_plan 49 = .ok (.bipush 7, 2) := dk_16 7 (dk_at dksX13_plan_2 1 rfl rfl)
theorem dX13_plan_51 : decode cX13_plan 51 = .ok (.invokestatic 49, 3) := dk_184 0 49 (dk_at dksX13_plan_2 3 rfl rfl)
theorem dX13_plan_54 : decode cX13_plan 54 = .ok (.ifCond .ne 6, 3) := dk_154 0 6 (dk_at dksX13_plan_2 6 rfl rfl)
theorem dX13_plan_57 : decode cX13_plan 57 = .ok (.bipush (-2), 2) := dk_16 254 (dk_at dksX13_plan_2 9 rfl rfl)
theorem dX13_plan_59 : decode cX13_plan 59 = .ok (.ireturn, 1) := dk_172 (dk_at dksX13_plan_2 11 rfl rfl)
theorem dX13_plan_60 : decode cX13_plan 60 = .ok (.aload_n 0, 1) := dk_42 (dk_at dksX13_plan_2 12 rfl rfl)
theorem dX13_plan_61 : decode cX13_plan 61 = .ok (.getfield 11, 3) := dk_180 0 11 (dk_at dksX13_plan_2 13 rfl rfl)
theorem dX13_plan_64 : decode cX13_plan 64 = .ok (.bipush 20, 2) := dk_16 20 (dk_at dksX13_plan_2 16 rfl rfl)
theorem dX13_plan_66 : decode cX13_plan 66 = .ok (.iaload, 1) := dk_46 (dk_at dksX13_plan_2 18 rfl rfl)
theorem dX13_plan_67 : decode cX13_plan 67 = .ok (.bipush 8, 2) := dk_16 8 (dk_at dksX13_plan_2 19 rfl rfl)
theorem dX13_plan_69 : decode cX13_plan 69 = .ok (.if_icmp .ne 6, 3) := dk_160 0 6 (dk_at dksX13_plan_2 21 rfl rfl)
theorem dX13_plan_72 : decode cX13_plan 72 = .ok (.bipush (-4), 2) := dk_16 252 (dk_at dksX13_plan_3 0 rfl rfl)
theorem dX13_plan_74 : decode cX13_plan 74 = .ok (.ireturn, 1) := dk_172 (dk_at dksX13_plan_3 2 rfl rfl)
theorem dX13_plan_75 : decode cX13_plan 75 = .ok (.aload_n 0, 1) := dk_42 (dk_at dksX13_plan_3 3 rfl rfl)
theorem dX13_plan_76 : decode cX13_plan 76 = .ok (.getfield 11, 3) := dk_180 0 11 (dk_at dksX13_plan_3 4 rfl rfl)
theorem dX13_plan_79 : decode cX13_plan 79 = .ok (.sipush 355, 3) := dk_17 1 99 (dk_at dksX13_plan_3 7 rfl rfl)
theorem dX13_plan_82 : decode cX13_plan 82 = .ok (.iconst 2, 1) := dk_5 (dk_at dksX13_plan_3 10 rfl rfl)
theorem dX13_plan_83 : decode cX13_plan 83 = .ok (.aload_n 0, 1) := dk_42 (dk_at dksX13_plan_3 11 rfl rfl)
theorem dX13_plan_84 : decode cX13_plan 84 = .ok (.getfield 11, 3) := dk_180 0 11 (dk_at dksX13_plan_3 12 rfl rfl)
theorem dX13_plan_87 : decode cX13_plan 87 = .ok (.bipush 20, 2) := dk_16 20 (dk_at dksX13_plan_3 15 rfl rfl)
theorem dX13_plan_89 : decode cX13_plan 89 = .ok (.iaload, 1) := dk_46 (dk_at dksX13_plan_3 17 rfl rfl)
theorem dX13_plan_90 : decode cX13_plan 90 = .ok (.imul, 1) := dk_104 (dk_at dksX13_plan_3 18 rfl rfl)
theorem dX13_plan_91 : decode cX13_plan 91 = .ok (.iadd, 1) := dk_96 (dk_at dksX13_plan_3 19 rfl rfl)
theorem dX13_plan_92 : decode cX13_plan 92 = .ok (.iload_n 1, 1) := dk_27 (dk_at dksX13_plan_3 20 rfl rfl)
theorem dX13_plan_93 : decode cX13_plan 93 = .ok (.iastore, 1) := dk_79 (dk_at dksX13_plan_3 21 rfl rfl)
theorem dX13_plan_94 : decode cX13_plan 94 = .ok (.aload_n 0, 1) := dk_42 (dk_at dksX13_plan_3 22 rfl rfl)
theorem dX13_plan_95 : decode cX13_plan 95 = .ok (.getfield 11, 3) := dk_180 0 11 (dk_at dksX13_plan_4 0 rfl rfl)
theorem dX13_plan_98 : decode cX13_plan 98 = .ok (.sipush 355, 3) := dk_17 1 99 (dk_at dksX13_plan_4 3 rfl rfl)
theorem dX13_plan_101 : decode cX13_plan 101 = .ok (.iconst 2, 1) := dk_5 (dk_at dksX13_plan_4 6 rfl rfl)
theorem dX13_plan_102 : decode cX13_plan 102 = .ok (.aload_n 0, 1) := dk_42 (dk_at dksX13_plan_4 7 rfl rfl)
theorem dX13_plan_103 : decode cX13_plan 103 = .ok (.getfield 11, 3) := dk_180 0 11 (dk_at dksX13_plan_4 8 rfl rfl)
theorem dX13_plan_106 : decode cX13_plan 106 = .ok (.bipush 20, 2) := dk_16 20 (dk_at dksX13_plan_4 11 rfl rfl)
theorem dX13_plan_108 : decode cX13_plan 108 = .ok (.iaload, 1) := dk_46 (dk_at dksX13_plan_4 13 rfl rfl)
theorem dX13_plan_109 : decode cX13_plan 109 = .ok (.imul, 1) := dk_104 (dk_at dksX13_plan_4 14 rfl rfl)
theorem dX13_plan_110 : decode cX13_plan 110 = .ok (.iadd, 1) := dk_96 (dk_at dksX13_plan_4 15 rfl rfl)
theorem dX13_plan_111 : decode cX13_plan 111 = .ok (.iconst 1, 1) := dk_4 (dk_at dksX13_plan_4 16 rfl rfl)
theorem dX13_plan_112 : decode cX13_plan 112 = .ok (.iadd, 1) := dk_96 (dk_at dksX13_plan_4 17 rfl rfl)
theorem dX13_plan_113 : decode cX13_plan 113 = .ok (.iload_n 2, 1) := dk_28 (dk_at dksX13_plan_4 18 rfl rfl)
theorem dX13_plan_114 : decode cX13_plan 114 = .ok (.iastore, 1) := dk_79 (dk_at dksX13_plan_4 19 rfl rfl)
theorem dX13_plan_115 : decode cX13_plan 115 = .ok (.aload_n 0, 1) := dk_42 (dk_at dksX13_plan_4 20 rfl rfl)
theorem dX13_plan_116 : decode cX13_plan 116 = .ok (.getfield 11, 3) := dk_180 0 11 (dk_at dksX13_plan_4 21 rfl rfl)
theorem dX13_plan_119 : decode cX13_plan 119 = .ok (.bipush 20, 2) := dk_16 20 (dk_at dksX13_plan_5 0 rfl rfl)
theorem dX13_plan_121 : decode cX13_plan 121 = .ok (.dup2, 1) := dk_92 (dk_at dksX13_plan_5 2 rfl rfl)
theorem dX13_plan_122 : decode cX13_plan 122 = .ok (.iaload, 1) := dk_46 (dk_at dksX13_plan_5 3 rfl rfl)
theorem dX13_plan_123 : decode cX13_plan 123 = .ok (.iconst 1, 1) := dk_4 (dk_at dksX13_plan_5 4 rfl rfl)
theorem dX13_plan_124 : decode cX13_plan 124 = .ok (.iadd, 1) := dk_96 (dk_at dksX13_plan_5 5 rfl rfl)
theorem dX13_plan_125 : decode cX13_plan 125 = .ok (.iastore, 1) := dk_79 (dk_at dksX13_plan_5 6 rfl rfl)
theorem dX13_plan_126 : decode cX13_plan 126 = .ok (.aload_n 0, 1) := dk_42 (dk_at dksX13_plan_5 7 rfl rfl)
theorem dX13_plan_127 : decode cX13_plan 127 = .ok (.getfield 11, 3) := dk_180 0 11 (dk_at dksX13_plan_5 8 rfl rfl)
theorem dX13_plan_130 : decode cX13_plan 130 = .ok (.bipush 20, 2) := dk_16 20 (dk_at dksX13_plan_5 11 rfl rfl)
theorem dX13_plan_132 : decode cX13_plan 132 = .ok (.iaload, 1) := dk_46 (dk_at dksX13_plan_5 13 rfl rfl)
theorem dX13_plan_133 : decode cX13_plan 133 = .ok (.ireturn, 1) := dk_172 (dk_at dksX13_plan_5 14 rfl rfl)
abbrev cX13_ends_2 : ByteArray := prog_22_method_109_code
def yX13_ends_2 : MethodName := ⟨RX13, "ends", "(I)I"⟩
def dkwX13_ends_2_6 : List UInt8 := [42, 180, 0, 11, 27, 154, 0, 8, 16, 7, 167, 0, 5, 16, 8, 46, 62, 42, 182, 1, 6, 29, 172]
abbrev dktX13_ends_2_6 : List UInt8 := dkwX13_ends_2_6 ++ []
def dkwX13_ends_2_5 : List UInt8 := [46, 42, 180, 0, 11, 17, 1, 99, 5, 29, 104, 96, 4, 96, 46, 182, 1, 34, 132, 3, 1, 167, 255, 212]
abbrev dktX13_ends_2_5 : List UInt8 := dkwX13_ends_2_5 ++ dktX13_ends_2_6
def dkwX13_ends_2_4 : List UInt8 := [62, 29, 42, 180, 0, 11, 16, 20, 46, 162, 0, 39, 42, 42, 180, 0, 11, 17, 1, 99, 5, 29, 104, 96]
abbrev dktX13_ends_2_4 : List UInt8 := dkwX13_ends_2_4 ++ dktX13_ends_2_5
def dkwX13_ends_2_3 : List UInt8 := [96, 61, 132, 3, 1, 167, 255, 206, 42, 28, 182, 0, 203, 154, 0, 6, 16, 252, 172, 42, 182, 1, 0, 3]
abbrev dktX13_ends_2_3 : List UInt8 := dkwX13_ends_2_3 ++ dktX13_ends_2_4
def dkwX13_ends_2_2 : List UInt8 := [104, 96, 46, 154, 0, 20, 42, 180, 0, 11, 17, 1, 99, 5, 29, 104, 96, 4, 96, 46, 167, 0, 4, 3]
abbrev dktX13_ends_2_2 : List UInt8 := dkwX13_ends_2_2 ++ dktX13_ends_2_3
def dkwX13_ends_2_1 : List UInt8 := [61, 3, 62, 29, 42, 180, 0, 11, 16, 20, 46, 162, 0, 45, 28, 42, 180, 0, 11, 17, 1, 99, 5, 29]
abbrev dktX13_ends_2_1 : List UInt8 := dkwX13_ends_2_1 ++ dktX13_ends_2_2
def dkwX13_ends_2_0 : List UInt8 := [27, 3, 4, 184, 0, 49, 154, 0, 5, 2, 172, 42, 180, 0, 11, 5, 46, 154, 0, 6, 16, 253, 172, 3]
abbrev dktX13_ends_2_0 : List UInt8 := dkwX13_ends_2_0 ++ dktX13_ends_2_1
theorem dksX13_ends_2_0 : cX13_ends_2.data.toList.drop 0 = dktX13_ends_2_0 := by decide +kernel
theorem dksX13_ends_2_1 : cX13_ends_2.data.toList.drop 24 = dktX13_ends_2_1 := dk_seg dksX13_ends_2_0 24 rfl rfl
theorem dksX13_ends_2_2 : cX13_ends_2.data.toList.drop 48 = dktX13_ends_2_2 := dk_seg dksX13_ends_2_1 24 rfl rfl
theorem dksX13_ends_2_3 : cX13_ends_2.data.toList.drop 72 = dktX13_ends_2_3 := dk_seg dksX13_ends_2_2 24 rfl rfl
theorem dksX13_ends_2_4 : cX13_ends_2.data.toList.drop 96 = dktX13_ends_2_4 := dk_seg dksX13_ends_2_3 24 rfl rfl
theorem dksX13_ends_2_5 : cX13_ends_2.data.toList.drop 120 = dktX13_ends_2_5 := dk_seg dksX13_ends_2_4 24 rfl rfl
theorem dksX13_ends_2_6 : cX13_ends_2.data.toList.drop 144 = dktX13_ends_2_6 := dk_seg dksX13_ends_2_5 24 rfl rfl
theorem dX13_ends_2_0 : decode cX13_ends_2 0 = .ok (.iload_n 1, 1) := dk_27 (dk_at dksX13_ends_2_0 0 rfl rfl)
theorem dX13_ends_2_1 : decode cX13_ends_2 1 = .ok (.iconst 0, 1) := dk_3 (dk_at dksX13_ends_2_0 1 rfl rfl)
theorem dX13_ends_2_2 : decode cX13_ends_2 2 = .ok (.iconst 1, 1) := dk_4 (dk_at dksX13_ends_2_0 2 rfl rfl)
theorem dX13_ends_2_3 : decode cX13_ends_2 3 = .ok (.invokestatic 49, 3) := dk_184 0 49 (dk_at dksX13_ends_2_0 3 rfl rfl)
theorem dX13_ends_2_6 : decode cX13_ends_2 6 = .ok (.ifCond .ne 5, 3) := dk_154 0 5 (dk_at dksX13_ends_2_0 6 rfl rfl)
theorem dX13_ends_2_9 : decode cX13_ends_2 9 = .ok (.iconst (-1), 1) := dk_2 (dk_at dksX13_ends_2_0 9 rfl rfl)
theorem dX13_ends_2_10 : decode cX13_ends_2 10 = .ok (.ireturn, 1) := dk_172 (dk_at dksX13_ends_2_0 10 rfl rfl)
theorem dX13_ends_2_11 : decode cX13_ends_2 11 = .ok (.aload_n 0, 1) := dk_42 (dk_at dksX13_ends_2_0 11 rfl rfl)
theorem dX13_ends_2_12 : decode cX13_ends_2 12 = .ok (.getfield 11, 3) := dk_180 0 11 (dk_at dksX13_ends_2_0 12 rfl rfl)
theorem dX13_ends_2_15 : decode cX13_ends_2 15 = .ok (.iconst 2, 1) := dk_5 (dk_at dksX13_ends_2_0 15 rfl rfl)
theorem dX13_ends_2_16 : decode cX13_ends_2 16 = .ok (.iaload, 1) := dk_46 (dk_at dksX13_ends_2_0 16 rfl rfl)
theorem dX13_ends_2_17 : decode cX13_ends_2 17 = .ok (.ifCond .ne 6, 3) := dk_154 0 6 (dk_at dksX13_ends_2_0 17 rfl rfl)
theorem dX13_ends_2_20 : decode cX13_ends_2 20 = .ok (.bipush (-3), 2) := dk_16 253 (dk_at dksX13_ends_2_0 20 rfl rfl)
theorem dX13_ends_2_22 : decode cX13_ends_2 22 = .ok (.ireturn, 1) := dk_172 (dk_at dksX13_ends_2_0 22 rfl rfl)
theorem dX13_ends_2_23 : decode cX13_ends_2 23 = .ok (.iconst 0, 1) := dk_3 (dk_at dksX13_ends_2_0 23 rfl rfl)
theorem dX13_ends_2_24 : decode cX13_ends_2 24 = .ok (.istore_n 2, 1) := dk_61 (dk_at dksX13_ends_2_1 0 rfl rfl)
theorem dX13_ends_2_25 : decode cX13_ends_2 25 = .ok (.iconst 0, 1) := dk_3 (dk_at dksX13_ends_2_1 1 rfl rfl)
theorem dX13_ends_2_26 : decode cX13_ends_2 26 = .ok (.istore_n 3, 1) := dk_62 (dk_at dksX13_ends_2_1 2 rfl rfl)
theorem dX13_ends_2_27 : decode cX13_ends_2 27 = .ok (.iload_n 3, 1) := dk_29 (dk_at dksX13_ends_2_1 3 rfl rfl)
theorem dX13_ends_2_28 : decode cX13_ends_2 28 = .ok (.aload_n 0, 1) := dk_42 (dk_at dksX13_ends_2_1 4 rfl rfl)
theorem dX13_ends_2_29 : decode cX13_ends_2 29 = .ok (.getfield 11, 3) := dk_180 0 11 (dk_at dksX13_ends_2_1 5 rfl rfl)
theorem dX13_ends_2_32 : decode cX13_ends_2 32 = .ok (.bipush 20, 2) := dk_16 20 (dk_at dksX13_ends_2_1 8 rfl rfl)
theorem dX13_ends_2_34 : decode cX13_ends_2 34 = .ok (.iaload, 1) := dk_46 (dk_at dksX13_ends_2_1 10 rfl rfl)
theorem dX13_ends_2_35 : decode cX13_ends_2 35 = .ok (.if_icmp .ge 45, 3) := dk_162 0 45 (dk_at dksX13_ends_2_1 11 rfl rfl)
theorem dX13_ends_2_38 : decode cX13_ends_2 38 = .ok (.iload_n 2, 1) := dk_28 (dk_at dksX13_ends_2_1 14 rfl rfl)
theorem dX13_ends_2_39 : decode cX13_ends_2 39 = .ok (.aload_n 0, 1) := dk_42 (dk_at dksX13_ends_2_1 15 rfl rfl)
theorem dX13_ends_2_40 : decode cX13_ends_2 40 = .ok (.getfield 11, 3) := dk_180 0 11 (dk_at dksX13_ends_2_1 16 rfl rfl)
theorem dX13_ends_2_43 : decode cX13_ends_2 43 = .ok (.sipush 355, 3) := dk_17 1 99 (dk_at dksX13_ends_2_1 19 rfl rfl)
theorem dX13_ends_2_46 : decode cX13_ends_2 46 = .ok (.iconst 2, 1) := dk_5 (dk_at dksX13_ends_2_1 22 rfl rfl)
theorem dX13_ends_2_47 : decode cX13_ends_2 47 = .ok (.iload_n 3, 1) := dk_29 (dk_at dksX13_ends_2_1 23 rfl rfl)
theorem dX13_ends_2_48 : decode cX13_ends_2 48 = .ok (.imul, 1) := dk_104 (dk_at dksX13_ends_2_2 0 rfl rfl)
theorem dX13_ends_2_49 : decode cX13_ends_2 49 = .ok (.iadd, 1) := dk_96 (dk_at dksX13_ends_2_2 1 rfl rfl)
theorem dX13_ends_2_50 : decode cX13_ends_2 50 = .ok (.iaload, 1) := dk_46 (dk_at dksX13_ends_2_2 2 rfl rfl)
theorem dX13_ends_2_51 : decode cX13_ends_2 51 = .ok (.ifCond .ne 20, 3) := dk_154 0 20 (dk_at dksX13_ends_2_2 3 rfl rfl)
theorem dX13_ends_2_54 : decode cX13_ends_2 54 = .ok (.aload_n 0, 1) := dk_42 (dk_at dksX13_ends_2_2 6 rfl rfl)
theorem dX13_ends_2_55 : decode cX13_ends_2 55 = .ok (.getfield 11, 3) := dk_180 0 11 (dk_at dksX13_ends_2_2 7 rfl rfl)
theorem dX13_ends_2_58 : decode cX13_ends_2 58 = .ok (.sipush 355, 3) := dk_17 1 99 (dk_at dksX13_ends_2_2 10 rfl rfl)
theorem dX13_ends_2_61 : decode cX13_ends_2 61 = .ok (.iconst 2, 1) := dk_5 (dk_at dksX13_ends_2_2 13 rfl rfl)
theorem dX13_ends_2_62 : decode cX13_ends_2 62 = .ok (.iload_n 3, 1) := dk_29 (dk_at dksX13_ends_2_2 14 rfl rfl)
theorem dX13_ends_2_63 : decode cX13_ends_2 63 = .ok (.imul, 1) := dk_104 (dk_at dksX13_ends_2_2 15 rfl rfl)
theorem dX13_ends_2_64 : decode cX13_ends_2 64 = .ok (.iadd, 1) := dk_96 (dk_at dksX13_ends_2_2 16 rfl rfl)
theorem dX13_ends_2_65 : decode cX13_ends_2 65 = .ok (.iconst 1, 1) := dk_4 (dk_at dksX13_ends_2_2 17 rfl rfl)
theorem dX13_ends_2_66 : decode cX13_ends_2 66 = .ok (.iadd, 1) := dk_96 (dk_at dksX13_ends_2_2 18 rfl rfl)
theorem dX13_ends_2_67 : decode cX13_ends_2 67 = .ok (.iaload, 1) := dk_46 (dk_at dksX13_ends_2_2 19 rfl rfl)
theorem dX13_ends_2_68 : decode cX13_ends_2 68 = .ok (.goto 4, 3) := dk_167 0 4 (dk_at dksX13_ends_2_2 20 rfl rfl)
theorem dX13_ends_2_71 : decode cX13_ends_2 71 = .ok (.iconst 0, 1) := dk_3 (dk_at dksX13_ends_2_2 23 rfl rfl)
theorem dX13_ends_2_72 : decode cX13_ends_2 72 = .ok (.iadd, 1) := dk_96 (dk_at dksX13_ends_2_3 0 rfl rfl)
theorem dX13_ends_2_73 : decode cX13_ends_2 73 = .ok (.istore_n 2, 1) := dk_61 (dk_at dksX13_ends_2_3 1 rfl rfl)
theorem dX13_ends_2_74 : decode cX13_ends_2 74 = .ok (.iinc 3 1, 3) := dk_132 3 1 (dk_at dksX13_ends_2_3 2 rfl rfl)
theorem dX13_ends_2_77 : decode cX13_ends_2 77 = .ok (.goto (-50), 3) := dk_167 255 206 (dk_at dksX13_ends_2_3 5 rfl rfl)
theorem dX13_ends_2_80 : decode cX13_ends_2 80 = .ok (.aload_n 0, 1) := dk_42 (dk_at dksX13_ends_2_3 8 rfl rfl)
theorem dX13_ends_2_81 : decode cX13_ends_2 81 = .ok (.iload_n 2, 1) := dk_28 (dk_at dksX13_ends_2_3 9 rfl rfl)
theorem dX13_ends_2_82 : decode cX13_ends_2 82 = .ok (.invokevirtual 203, 3) := dk_182 0 203 (dk_at dksX13_ends_2_3 10 rfl rfl)
theorem dX13_ends_2_85 : decode cX13_ends_2 85 = .ok (.ifCond .ne 6, 3) := dk_154 0 6 (dk_at dksX13_ends_2_3 13 rfl rfl)
theorem dX13_ends_2_88 : decode cX13_ends_2 88 = .ok (.bipush (-4), 2) := dk_16 252 (dk_at dksX13_ends_2_3 16 rfl rfl)
theorem dX13_ends_2_90 : decode cX13_ends_2 90 = .ok (.ireturn, 1) := dk_172 (dk_at dksX13_ends_2_3 18 rfl rfl)
theorem dX13_ends_2_91 : decode cX13_ends_2 91 = .ok (.aload_n 0, 1) := dk_42 (dk_at dksX13_ends_2_3 19 rfl rfl)
theorem dX13_ends_2_92 : decode cX13_ends_2 92 = .ok (.invokevirtual 256, 3) := dk_182 1 0 (dk_at dksX13_ends_2_3 20 rfl rfl)
theorem dX13_ends_2_95 : decode cX13_ends_2 95 = .ok (.iconst 0, 1) := dk_3 (dk_at dksX13_ends_2_3 23 rfl rfl)
theorem dX13_ends_2_96 : decode cX13_ends_2 96 = .ok (.istore_n 3, 1) := dk_62 (dk_at dksX13_ends_2_4 0 rfl rfl)
theorem dX13_ends_2_97 : decode cX13_ends_2 97 = .ok (.iload_n 3, 1) := dk_29 (dk_at dksX13_ends_2_4 1 rfl rfl)
theorem dX13_ends_2_98 : decode cX13_ends_2 98 = .ok (.aload_n 0, 1) := dk_42 (dk_at dksX13_ends_2_4 2 rfl rfl)
theorem dX13_ends_2_99 : decode cX13_ends_2 99 = .ok (.getfield 11, 3) := dk_180 0 11 (dk_at dksX13_ends_2_4 3 rfl rfl)
theorem dX13_ends_2_102 : decode cX13_ends_2 102 = .ok (.bipush 20, 2) := dk_16 20 (dk_at dksX13_ends_2_4 6 rfl rfl)
theorem dX13_ends_2_104 : decode cX13_ends_2 104 = .ok (.iaload, 1) := dk_46 (dk_at dksX13_ends_2_4 8 rfl rfl)
theorem dX13_ends_2_105 : decode cX13_ends_2 105 = .ok (.if_icmp .ge 39, 3) := dk_162 0 39 (dk_at dksX13_ends_2_4 9 rfl rfl)
theorem dX13_ends_2_108 : decode cX13_ends_2 108 = .ok (.aload_n 0, 1) := dk_42 (dk_at dksX13_ends_2_4 12 rfl rfl)
theorem dX13_ends_2_109 : decode cX13_ends_2 109 = .ok (.aload_n 0, 1) := dk_42 (dk_at dksX13_ends_2_4 13 rfl rfl)
theorem dX13_ends_2_110 : decode cX13_ends_2 110 = .ok (.getfield 11, 3) := dk_180 0 11 (dk_at dksX13_ends_2_4 14 rfl rfl)
theorem dX13_ends_2_113 : decode cX13_ends_2 113 = .ok (.sipush 355, 3) := dk_17 1 99 (dk_at dksX13_ends_2_4 17 rfl rfl)
theorem dX13_ends_2_116 : decode cX13_ends_2 116 = .ok (.iconst 2, 1) := dk_5 (dk_at dksX13_ends_2_4 20 rfl rfl)
theorem dX13_ends_2_117 : decode cX13_ends_2 117 = .ok (.iload_n 3, 1) := dk_29 (dk_at dksX13_ends_2_4 21 rfl rfl)
theorem dX13_ends_2_118 : decode cX13_ends_2 118 = .ok (.imul, 1) := dk_104 (dk_at dksX13_ends_2_4 22 rfl rfl)
theorem dX13_ends_2_119 : decode cX13_ends_2 119 = .ok (.iadd, 1) := dk_96 (dk_at dksX13_ends_2_4 23 rfl rfl)
theorem dX13_ends_2_120 : decode cX13_ends_2 120 = .ok (.iaload, 1) := dk_46 (dk_at dksX13_ends_2_5 0 rfl rfl)
theorem dX13_ends_2_121 : decode cX13_ends_2 121 = .ok (.aload_n 0, 1) := dk_42 (dk_at dksX13_ends_2_5 1 rfl rfl)
theorem dX13_ends_2_122 : decode cX13_ends_2 122 = .ok (.getfield 11, 3) := dk_180 0 11 (dk_at dksX13_ends_2_5 2 rfl rfl)
theorem dX13_ends_2_125 : decode cX13_ends_2 125 = .ok (.sipush 355, 3) := dk_17 1 99 (dk_at dksX13_ends_2_5 5 rfl rfl)
theorem dX13_ends_2_128 : decode cX13_ends_2 128 = .ok (.iconst 2, 1) := dk_5 (dk_at dksX13_ends_2_5 8 rfl rfl)
theorem dX13_ends_2_129 : decode cX13_ends_2 129 = .ok (.iload_n 3, 1) := dk_29 (dk_at dksX13_ends_2_5 9 rfl rfl)
theorem dX13_ends_2_130 : decode cX13_ends_2 130 = .ok (.imul, 1) := dk_104 (dk_at dksX13_ends_2_5 10 rfl rfl)
theorem dX13_ends_2_131 : decode cX13_ends_2 131 = .ok (.iadd, 1) := dk_96 (dk_at dksX13_ends_2_5 11 rfl rfl)
theorem dX13_ends_2_132 : decode cX13_ends_2 132 = .ok (.iconst 1, 1) := dk_4 (dk_at dksX13_ends_2_5 12 rfl rfl)
theorem dX13_ends_2_133 : decode cX13_ends_2 133 = .ok (.iadd, 1) := dk_96 (dk_at dksX13_ends_2_5 13 rfl rfl)
theorem dX13_ends_2_134 : decode cX13_ends_2 134 = .ok (.iaload, 1) := dk_46 (dk_at dksX13_ends_2_5 14 rfl rfl)
theorem dX13_ends_2_135 : decode cX13_ends_2 135 = .ok (.invokevirtual 290, 3) := dk_182 1 34 (dk_at dksX13_ends_2_5 15 rfl rfl)
theorem dX13_ends_2_138 : decode cX13_ends_2 138 = .ok (.iinc 3 1, 3) := dk_132 3 1 (dk_at dksX13_ends_2_5 18 rfl rfl)
theorem dX13_ends_2_141 : decode cX13_ends_2 141 = .ok (.goto (-44), 3) := dk_167 255 212 (dk_at dksX13_ends_2_5 21 rfl rfl)
theorem dX13_ends_2_144 : decode cX13_ends_2 144 = .ok (.aload_n 0, 1) := dk_42 (dk_at dksX13_ends_2_6 0 rfl rfl)
theorem dX13_ends_2_145 : decode cX13_ends_2 145 = .ok (.getfield 11, 3) := dk_180 0 11 (dk_at dksX13_ends_2_6 1 rfl rfl)
theorem dX13_ends_2_148 : decode cX13_ends_2 148 = .ok (.iload_n 1, 1) := dk_27 (dk_at dksX13_ends_2_6 4 rfl rfl)
theorem dX13_ends_2_149 : decode cX13_ends_2 149 = .ok (.ifCond .ne 8, 3) := dk_154 0 8 (dk_at dksX13_ends_2_6 5 rfl rfl)
theorem dX13_ends_2_152 : decode cX13_ends_2 152 = .ok (.bipush 7, 2) := dk_16 7 (dk_at dksX13_ends_2_6 8 rfl rfl)
theorem dX13_ends_2_154 : decode cX13_ends_2 154 = .ok (.goto 5, 3) := dk_167 0 5 (dk_at dksX13_ends_2_6 10 rfl rfl)
theorem dX13_ends_2_157 : decode cX13_ends_2 157 = .ok (.bipush 8, 2) := dk_16 8 (dk_at dksX13_ends_2_6 13 rfl rfl)
theorem dX13_ends_2_159 : decode cX13_ends_2 159 = .ok (.iaload, 1) := dk_46 (dk_at dksX13_ends_2_6 15 rfl rfl)
theorem dX13_ends_2_160 : decode cX13_ends_2 160 = .ok (.istore_n 3, 1) := dk_62 (dk_at dksX13_ends_2_6 16 rfl rfl)
theorem dX13_ends_2_161 : decode cX13_ends_2 161 = .ok (.aload_n 0, 1) := dk_42 (dk_at dksX13_ends_2_6 17 rfl rfl)
theorem dX13_ends_2_162 : decode cX13_ends_2 162 = .ok (.invokevirtual 262, 3) := dk_182 1 6 (dk_at dksX13_ends_2_6 18 rfl rfl)
theorem dX13_ends_2_165 : decode cX13_ends_2 165 = .ok (.iload_n 3, 1) := dk_29 (dk_at dksX13_ends_2_6 21 rfl rfl)
theorem dX13_ends_2_166 : decode cX13_ends_2 166 = .ok (.ireturn, 1) := dk_172 (dk_at dksX13_ends_2_6 22 rfl rfl)
abbrev cX13_does : ByteArray := prog_22_method_108_code
def yX13_does : MethodName := ⟨RX13, "does", "(II)V"⟩
def dkwX13_does_2 : List UInt8 := [3, 182, 0, 85, 177]
abbrev dktX13_does_2 : List UInt8 := dkwX13_does_2 ++ []
def dkwX13_does_1 : List UInt8 := [160, 0, 8, 42, 182, 1, 31, 87, 27, 6, 160, 0, 18, 42, 28, 182, 0, 96, 153, 0, 10, 42, 28, 8]
abbrev dktX13_does_1 : List UInt8 := dkwX13_does_1 ++ dktX13_does_2
def dkwX13_does_0 : List UInt8 := [27, 154, 0, 8, 42, 28, 182, 0, 206, 27, 4, 160, 0, 9, 42, 28, 182, 1, 28, 87, 27, 5]
abbrev dktX13_does_0 : List UInt8 := dkwX13_does_0 ++ dktX13_does_1
theorem dksX13_does_0 : cX13_does.data.toList.drop 0 = dktX13_does_0 := by decide +kernel
theorem dksX13_does_1 : cX13_does.data.toList.drop 22 = dktX13_does_1 := dk_seg dksX13_does_0 22 rfl rfl
theorem dksX13_does_2 : cX13_does.data.toList.drop 46 = dktX13_does_2 := dk_seg dksX13_does_1 24 rfl rfl
theorem dX13_does_0 : decode cX13_does 0 = .ok (.iload_n 1, 1) := dk_27 (dk_at dksX13_does_0 0 rfl rfl)
theorem dX13_does_1 : decode cX13_does 1 = .ok (.ifCond .ne 8, 3) := dk_154 0 8 (dk_at dksX13_does_0 1 rfl rfl)
theorem dX13_does_4 : decode cX13_does 4 = .ok (.aload_n 0, 1) := dk_42 (dk_at dksX13_does_0 4 rfl rfl)
theorem dX13_does_5 : decode cX13_does 5 = .ok (.iload_n 2, 1) := dk_28 (dk_at dksX13_does_0 5 rfl rfl)
theorem dX13_does_6 : decode cX13_does 6 = .ok (.invokevirtual 206, 3) := dk_182 0 206 (dk_at dksX13_does_0 6 rfl rfl)
theorem dX13_does_9 : decode cX13_does 9 = .ok (.iload_n 1, 1) := dk_27 (dk_at dksX13_does_0 9 rfl rfl)
theorem dX13_does_10 : decode cX13_does 10 = .ok (.iconst 1, 1) := dk_4 (dk_at dksX13_does_0 10 rfl rfl)
theorem dX13_does_11 : decode cX13_does 11 = .ok (.if_icmp .ne 9, 3) := dk_160 0 9 (dk_at dksX13_does_0 11 rfl rfl)
theorem dX13_does_14 : decode cX13_does 14 = .ok (.aload_n 0, 1) := dk_42 (dk_at dksX13_does_0 14 rfl rfl)
theorem dX13_does_15 : decode cX13_does 15 = .ok (.iload_n 2, 1) := dk_28 (dk_at dksX13_does_0 15 rfl rfl)
theorem dX13_does_16 : decode cX13_does 16 = .ok (.invokevirtual 284, 3) := dk_182 1 28 (dk_at dksX13_does_0 16 rfl rfl)
theorem dX13_does_19 : decode cX13_does 19 = .ok (.pop, 1) := dk_87 (dk_at dksX13_does_0 19 rfl rfl)
theorem dX13_does_20 : decode cX13_does 20 = .ok (.iload_n 1, 1) := dk_27 (dk_at dksX13_does_0 20 rfl rfl)
theorem dX13_does_21 : decode cX13_does 21 = .ok (.iconst 2, 1) := dk_5 (dk_at dksX13_does_0 21 rfl rfl)
theorem dX13_does_22 : decode cX13_does 22 = .ok (.if_icmp .ne 8, 3) := dk_160 0 8 (dk_at dksX13_does_1 0 rfl rfl)
theorem dX13_does_25 : decode cX13_does 25 = .ok (.aload_n 0, 1) := dk_42 (dk_at dksX13_does_1 3 rfl rfl)
theorem dX13_does_26 : decode cX13_does 26 = .ok (.invokevirtual 287, 3) := dk_182 1 31 (dk_at dksX13_does_1 4 rfl rfl)
theorem dX13_does_29 : decode cX13_does 29 = .ok (.pop, 1) := dk_87 (dk_at dksX13_does_1 7 rfl rfl)
theorem dX13_does_30 : decode cX13_does 30 = .ok (.iload_n 1, 1) := dk_27 (dk_at dksX13_does_1 8 rfl rfl)
theorem dX13_does_31 : decode cX13_does 31 = .ok (.iconst 3, 1) := dk_6 (dk_at dksX13_does_1 9 rfl rfl)
theorem dX13_does_32 : decode cX13_does 32 = .ok (.if_icmp .ne 18, 3) := dk_160 0 18 (dk_at dksX13_does_1 10 rfl rfl)
theorem dX13_does_35 : decode cX13_does 35 = .ok (.aload_n 0, 1) := dk_42 (dk_at dksX13_does_1 13 rfl rfl)
theorem dX13_does_36 : decode cX13_does 36 = .ok (.iload_n 2, 1) := dk_28 (dk_at dksX13_does_1 14 rfl rfl)
theorem dX13_does_37 : decode cX13_does 37 = .ok (.invokevirtual 96, 3) := dk_182 0 96 (dk_at dksX13_does_1 15 rfl rfl)
theorem dX13_does_40 : decode cX13_does 40 = .ok (.ifCond .eq 10, 3) := dk_153 0 10 (dk_at dksX13_does_1 18 rfl rfl)
theorem dX13_does_43 : decode cX13_does 43 = .ok (.aload_n 0, 1) := dk_42 (dk_at dksX13_does_1 21 rfl rfl)
theorem dX13_does_44 : decode cX13_does 44 = .ok (.iload_n 2, 1) := dk_28 (dk_at dksX13_does_1 22 rfl rfl)
theorem dX13_does_45 : decode cX13_does 45 = .ok (.iconst 5, 1) := dk_8 (dk_at dksX13_does_1 23 rfl rfl)
theorem dX13_does_46 : decode cX13_does 46 = .ok (.iconst 0, 1) := dk_3 (dk_at dksX13_does_2 0 rfl rfl)
theorem dX13_does_47 : decode cX13_does 47 = .ok (.invokevirtual 85, 3) := dk_182 0 85 (dk_at dksX13_does_2 1 rfl rfl)
theorem dX13_does_50 : decode cX13_does 50 = .ok (.return_, 1) := dk_177 (dk_at dksX13_does_2 4 rfl rfl)
abbrev cX13_judge : ByteArray := prog_22_method_111_code
def yX13_judge : MethodName := ⟨RX13, "judge", "(II)I"⟩
def dkwX13_judge_4 : List UInt8 := [167, 255, 185, 16, 251, 172]
abbrev dktX13_judge_4 : List UInt8 := dkwX13_judge_4 ++ []
def dkwX13_judge_3 : List UInt8 := [16, 60, 27, 104, 28, 96, 29, 96, 47, 42, 29, 182, 0, 209, 133, 148, 153, 0, 5, 29, 172, 132, 3, 1]
abbrev dktX13_judge_3 : List UInt8 := dkwX13_judge_3 ++ dktX13_judge_4
def dkwX13_judge_2 : List UInt8 := [180, 0, 36, 27, 46, 4, 100, 29, 100, 184, 0, 49, 154, 0, 8, 16, 100, 29, 96, 172, 42, 180, 0, 39]
abbrev dktX13_judge_2 : List UInt8 := dkwX13_judge_2 ++ dktX13_judge_3
def dkwX13_judge_1 : List UInt8 := [42, 180, 0, 11, 16, 13, 46, 162, 0, 66, 42, 180, 0, 33, 27, 46, 155, 0, 21, 28, 3, 42]
abbrev dktX13_judge_1 : List UInt8 := dkwX13_judge_1 ++ dktX13_judge_2
def dkwX13_judge_0 : List UInt8 := [27, 184, 1, 37, 154, 0, 5, 2, 172, 42, 180, 0, 33, 27, 46, 158, 0, 6, 16, 244, 172, 3, 62, 29]
abbrev dktX13_judge_0 : List UInt8 := dkwX13_judge_0 ++ dktX13_judge_1
theorem dksX13_judge_0 : cX13_judge.data.toList.drop 0 = dktX13_judge_0 := by decide +kernel
theorem dksX13_judge_1 : cX13_judge.data.toList.drop 24 = dktX13_judge_1 := dk_seg dksX13_judge_0 24 rfl rfl
theorem dksX13_judge_2 : cX13_judge.data.toList.drop 46 = dktX13_judge_2 := dk_seg dksX13_judge_1 22 rfl rfl
theorem dksX13_judge_3 : cX13_judge.data.toList.drop 70 = dktX13_judge_3 := dk_seg dksX13_judge_2 24 rfl rfl
theorem dksX13_judge_4 : cX13_judge.data.toList.drop 94 = dktX13_judge_4 := dk_seg dksX13_judge_3 24 rfl rfl
theorem dX13_judge_0 : decode cX13_judge 0 = .ok (.iload_n 1, 1) := dk_27 (dk_at dksX13_judge_0 0 rfl rfl)
theorem dX13_judge_1 : decode cX13_judge 1 = .ok (.invokestatic 293, 3) := dk_184 1 37 (dk_at dksX13_judge_0 1 rfl rfl)
theorem dX13_judge_4 : decode cX13_judge 4 = .ok (.ifCond .ne 5, 3) := dk_154 0 5 (dk_at dksX13_judge_0 4 rfl rfl)
theorem dX13_judge_7 : decode cX13_judge 7 = .ok (.iconst (-1), 1) := dk_2 (dk_at dksX13_judge_0 7 rfl rfl)
theorem dX13_judge_8 : decode cX13_judge 8 = .ok (.ireturn, 1) := dk_172 (dk_at dksX13_judge_0 8 rfl rfl)
theorem dX13_judge_9 : decode cX13_judge 9 = .ok (.aload_n 0, 1) := dk_42 (dk_at dksX13_judge_0 9 rfl rfl)
theorem dX13_judge_10 : decode cX13_judge 10 = .ok (.getfield 33, 3) := dk_180 0 33 (dk_at dksX13_judge_0 10 rfl rfl)
theorem dX13_judge_13 : decode cX13_judge 13 = .ok (.iload_n 1, 1) := dk_27 (dk_at dksX13_judge_0 13 rfl rfl)
theorem dX13_judge_14 : decode cX13_judge 14 = .ok (.iaload, 1) := dk_46 (dk_at dksX13_judge_0 14 rfl rfl)
theorem dX13_judge_15 : decode cX13_judge 15 = .ok (.ifCond .le 6, 3) := dk_158 0 6 (dk_at dksX13_judge_0 15 rfl rfl)
theorem dX13_judge_18 : decode cX13_judge 18 = .ok (.bipush (-12), 2) := dk_16 244 (dk_at dksX13_judge_0 18 rfl rfl)
theorem dX13_judge_20 : decode cX13_judge 20 = .ok (.ireturn, 1) := dk_172 (dk_at dksX13_judge_0 20 rfl rfl)
theorem dX13_judge_21 : decode cX13_judge 21 = .ok (.iconst 0, 1) := dk_3 (dk_at dksX13_judge_0 21 rfl rfl)
theorem dX13_judge_22 : decode cX13_judge 22 = .ok (.istore_n 3, 1) := dk_62 (dk_at dksX13_judge_0 22 rfl rfl)
theorem dX13_judge_23 : decode cX13_judge 23 = .ok (.iload_n 3, 1) := dk_29 (dk_at dksX13_judge_0 23 rfl rfl)
theorem dX13_judge_24 : decode cX13_judge 24 = .ok (.aload_n 0, 1) := dk_42 (dk_at dksX13_judge_1 0 rfl rfl)
theorem dX13_judge_25 : decode cX13_judge 25 = .ok (.getfield 11, 3) := dk_180 0 11 (dk_at dksX13_judge_1 1 rfl rfl)
theorem dX13_judge_28 : decode cX13_judge 28 = .ok (.bipush 13, 2) := dk_16 13 (dk_at dksX13_judge_1 4 rfl rfl)
theorem dX13_judge_30 : decode cX13_judge 30 = .ok (.iaload, 1) := dk_46 (dk_at dksX13_judge_1 6 rfl rfl)
theorem dX13_judge_31 : decode cX13_judge 31 = .ok (.if_icmp .ge 66, 3) := dk_162 0 66 (dk_at dksX13_judge_1 7 rfl rfl)
theorem dX13_judge_34 : decode cX13_judge 34 = .ok (.aload_n 0, 1) := dk_42 (dk_at dksX13_judge_1 10 rfl rfl)
theorem dX13_judge_35 : decode cX13_judge 35 = .ok (.getfield 33, 3) := dk_180 0 33 (dk_at dksX13_judge_1 11 rfl rfl)
theorem dX13_judge_38 : decode cX13_judge 38 = .ok (.iload_n 1, 1) := dk_27 (dk_at dksX13_judge_1 14 rfl rfl)
theorem dX13_judge_39 : decode cX13_judge 39 = .ok (.iaload, 1) := dk_46 (dk_at dksX13_judge_1 15 rfl rfl)
theorem dX13_judge_40 : decode cX13_judge 40 = .ok (.ifCond .lt 21, 3) := dk_155 0 21 (dk_at dksX13_judge_1 16 rfl rfl)
theorem dX13_judge_43 : decode cX13_judge 43 = .ok (.iload_n 2, 1) := dk_28 (dk_at dksX13_judge_1 19 rfl rfl)
theorem dX13_judge_44 : decode cX13_judge 44 = .ok (.iconst 0, 1) := dk_3 (dk_at dksX13_judge_1 20 rfl rfl)
theorem dX13_judge_45 : decode cX13_judge 45 = .ok (.aload_n 0, 1) := dk_42 (dk_at dksX13_judge_1 21 rfl rfl)
theorem dX13_judge_46 : decode cX13_judge 46 = .ok (.getfield 36, 3) := dk_180 0 36 (dk_at dksX13_judge_2 0 rfl rfl)
theorem dX13_judge_49 : decode cX13_judge 49 = .ok (.iload_n 1, 1) := dk_27 (dk_at dksX13_judge_2 3 rfl rfl)
theorem dX13_judge_50 : decode cX13_judge 50 = .ok (.iaload, 1) := dk_46 (dk_at dksX13_judge_2 4 rfl rfl)
theorem dX13_judge_51 : decode cX13_judge 51 = .ok (.iconst 1, 1) := dk_4 (dk_at dksX13_judge_2 5 rfl rfl)
theorem dX13_judge_52 : decode cX13_judge 52 = .ok (.isub, 1) := dk_100 (dk_at dksX13_judge_2 6 rfl rfl)
theorem dX13_judge_53 : decode cX13_judge 53 = .ok (.iload_n 3, 1) := dk_29 (dk_at dksX13_judge_2 7 rfl rfl)
theorem dX13_judge_54 : decode cX13_judge 54 = .ok (.isub, 1) := dk_100 (dk_at dksX13_judge_2 8 rfl rfl)
theorem dX13_judge_55 : decode cX13_judge 55 = .ok (.invokestatic 49, 3) := dk_184 0 49 (dk_at dksX13_judge_2 9 rfl rfl)
theorem dX13_judge_58 : decode cX13_judge 58 = .ok (.ifCond .ne 8, 3) := dk_154 0 8 (dk_at dksX13_judge_2 12 rfl rfl)
theorem dX13_judge_61 : decode cX13_judge 61 = .ok (.bipush 100, 2) := dk_16 100 (dk_at dksX13_judge_2 15 rfl rfl)
theorem dX13_judge_63 : decode cX13_judge 63 = .ok (.iload_n 3, 1) := dk_29 (dk_at dksX13_judge_2 17 rfl rfl)
theorem dX13_judge_64 : decode cX13_judge 64 = .ok (.iadd, 1) := dk_96 (dk_at dksX13_judge_2 18 rfl rfl)
theorem dX13_judge_65 : decode cX13_judge 65 = .ok (.ireturn, 1) := dk_172 (dk_at dksX13_judge_2 19 rfl rfl)
theorem dX13_judge_66 : decode cX13_judge 66 = .ok (.aload_n 0, 1) := dk_42 (dk_at dksX13_judge_2 20 rfl rfl)
theorem dX13_judge_67 : decode cX13_judge 67 = .ok (.getfield 39, 3) := dk_180 0 39 (dk_at dksX13_judge_2 21 rfl rfl)
theorem dX13_judge_70 : decode cX13_judge 70 = .ok (.bipush 60, 2) := dk_16 60 (dk_at dksX13_judge_3 0 rfl rfl)
theorem dX13_judge_72 : decode cX13_judge 72 = .ok (.iload_n 1, 1) := dk_27 (dk_at dksX13_judge_3 2 rfl rfl)
theorem dX13_judge_73 : decode cX13_judge 73 = .ok (.imul, 1) := dk_104 (dk_at dksX13_judge_3 3 rfl rfl)
theorem dX13_judge_74 : decode cX13_judge 74 = .ok (.iload_n 2, 1) := dk_28 (dk_at dksX13_judge_3 4 rfl rfl)
theorem dX13_judge_75 : decode cX13_judge 75 = .ok (.iadd, 1) := dk_96 (dk_at dksX13_judge_3 5 rfl rfl)
theorem dX13_judge_76 : decode cX13_judge 76 = .ok (.iload_n 3, 1) := dk_29 (dk_at dksX13_judge_3 6 rfl rfl)
theorem dX13_judge_77 : decode cX13_judge 77 = .ok (.iadd, 1) := dk_96 (dk_at dksX13_judge_3 7 rfl rfl)
theorem dX13_judge_78 : decode cX13_judge 78 = .ok (.laload, 1) := dk_47 (dk_at dksX13_judge_3 8 rfl rfl)
theorem dX13_judge_79 : decode cX13_judge 79 = .ok (.aload_n 0, 1) := dk_42 (dk_at dksX13_judge_3 9 rfl rfl)
theorem dX13_judge_80 : decode cX13_judge 80 = .ok (.iload_n 3, 1) := dk_29 (dk_at dksX13_judge_3 10 rfl rfl)
theorem dX13_judge_81 : decode cX13_judge 81 = .ok (.invokevirtual 209, 3) := dk_182 0 209 (dk_at dksX13_judge_3 11 rfl rfl)
theorem dX13_judge_84 : decode cX13_judge 84 = .ok (.i2l, 1) := dk_133 (dk_at dksX13_judge_3 14 rfl rfl)
theorem dX13_judge_85 : decode cX13_judge 85 = .ok (.lcmp, 1) := dk_148 (dk_at dksX13_judge_3 15 rfl rfl)
theorem dX13_judge_86 : decode cX13_judge 86 = .ok (.ifCond .eq 5, 3) := dk_153 0 5 (dk_at dksX13_judge_3 16 rfl rfl)
theorem dX13_judge_89 : decode cX13_judge 89 = .ok (.iload_n 3, 1) := dk_29 (dk_at dksX13_judge_3 19 rfl rfl)
theorem dX13_judge_90 : decode cX13_judge 90 = .ok (.ireturn, 1) := dk_172 (dk_at dksX13_judge_3 20 rfl rfl)
theorem dX13_judge_91 : decode cX13_judge 91 = .ok (.iinc 3 1, 3) := dk_132 3 1 (dk_at dksX13_judge_3 21 rfl rfl)
theorem dX13_judge_94 : decode cX13_judge 94 = .ok (.goto (-71), 3) := dk_167 255 185 (dk_at dksX13_judge_4 0 rfl rfl)
theorem dX13_judge_97 : decode cX13_judge 97 = .ok (.bipush (-5), 2) := dk_16 251 (dk_at dksX13_judge_4 3 rfl rfl)
theorem dX13_judge_99 : decode cX13_judge 99 = .ok (.ireturn, 1) := dk_172 (dk_at dksX13_judge_4 5 rfl rfl)
abbrev cX13_isTape : ByteArray := prog_22_method_110_code
def yX13_isTape : MethodName := ⟨RX13, "isTape", "(I)Z"⟩
def dkwX13_isTape_0 : List UInt8 := [26, 3, 8, 184, 0, 49, 172]
abbrev dktX13_isTape_0 : List UInt8 := dkwX13_isTape_0 ++ []
theorem dksX13_isTape_0 : cX13_isTape.data.toList.drop 0 = dktX13_isTape_0 := by decide +kernel
theorem dX13_isTape_0 : decode cX13_isTape 0 = .ok (.iload_n 0, 1) := dk_26 (dk_at dksX13_isTape_0 0 rfl rfl)
theorem dX13_isTape_1 : decode cX13_isTape 1 = .ok (.iconst 0, 1) := dk_3 (dk_at dksX13_isTape_0 1 rfl rfl)
theorem dX13_isTape_2 : decode cX13_isTape 2 = .ok (.iconst 5, 1) := dk_8 (dk_at dksX13_isTape_0 2 rfl rfl)
theorem dX13_isTape_3 : decode cX13_isTape 3 = .ok (.invokestatic 49, 3) := dk_184 0 49 (dk_at dksX13_isTape_0 3 rfl rfl)
theorem dX13_isTape_6 : decode cX13_isTape 6 = .ok (.ireturn, 1) := dk_172 (dk_at dksX13_isTape_0 6 rfl rfl)
abbrev cX13_image : ByteArray := prog_22_method_112_code
def yX13_image : MethodName := ⟨RX13, "image", "()I"⟩
def dkwX13_image_0 : List UInt8 := [42, 180, 0, 11, 42, 180, 0, 15, 184, 0, 252, 42, 4, 181, 1, 40, 42, 180, 0, 11, 6, 46, 172]
abbrev dktX13_image_0 : List UInt8 := dkwX13_image_0 ++ []
theorem dksX13_image_0 : cX13_image.data.toList.drop 0 = dktX13_image_0 := by decide +kernel
theorem dX13_image_0 : decode cX13_image 0 = .ok (.aload_n 0, 1) := dk_42 (dk_at dksX13_image_0 0 rfl rfl)
theorem dX13_image_1 : decode cX13_image 1 = .ok (.getfield 11, 3) := dk_180 0 11 (dk_at dksX13_image_0 1 rfl rfl)
theorem dX13_image_4 : decode cX13_image 4 = .ok (.aload_n 0, 1) := dk_42 (dk_at dksX13_image_0 4 rfl rfl)
theorem dX13_image_5 : decode cX13_image 5 = .ok (.getfield 15, 3) := dk_180 0 15 (dk_at dksX13_image_0 5 rfl rfl)
theorem dX13_image_8 : decode cX13_image 8 = .ok (.invokestatic 252, 3) := dk_184 0 252 (dk_at dksX13_image_0 8 rfl rfl)
theorem dX13_image_11 : decode cX13_image 11 = .ok (.aload_n 0, 1) := dk_42 (dk_at dksX13_image_0 11 rfl rfl)
theorem dX13_image_12 : decode cX13_image 12 = .ok (.iconst 1, 1) := dk_4 (dk_at dksX13_image_0 12 rfl rfl)
theorem dX13_image_13 : decode cX13_image 13 = .ok (.putfield 296, 3) := dk_181 1 40 (dk_at dksX13_image_0 13 rfl rfl)
theorem dX13_image_16 : decode cX13_image 16 = .ok (.aload_n 0, 1) := dk_42 (dk_at dksX13_image_0 16 rfl rfl)
theorem dX13_image_17 : decode cX13_image 17 = .ok (.getfield 11, 3) := dk_180 0 11 (dk_at dksX13_image_0 17 rfl rfl)
theorem dX13_image_20 : decode cX13_image 20 = .ok (.iconst 3, 1) := dk_6 (dk_at dksX13_image_0 20 rfl rfl)
theorem dX13_image_21 : decode cX13_image 21 = .ok (.iaload, 1) := dk_46 (dk_at dksX13_image_0 21 rfl rfl)
theorem dX13_image_22 : decode cX13_image 22 = .ok (.ireturn, 1) := dk_172 (dk_at dksX13_image_0 22 rfl rfl)
abbrev cX13_undo : ByteArray := prog_22_method_113_code
def yX13_undo : MethodName := ⟨RX13, "undo", "()I"⟩
def dkwX13_undo_1 : List UInt8 := [182, 0, 46, 42, 180, 0, 11, 6, 46, 172]
abbrev dktX13_undo_1 : List UInt8 := dkwX13_undo_1 ++ []
def dkwX13_undo_0 : List UInt8 := [42, 180, 1, 40, 154, 0, 6, 16, 253, 172, 42, 180, 0, 15, 42, 180, 0, 11, 184, 0, 252, 42]
abbrev dktX13_undo_0 : List UInt8 := dkwX13_undo_0 ++ dktX13_undo_1
theorem dksX13_undo_0 : cX13_undo.data.toList.drop 0 = dktX13_undo_0 := by decide +kernel
theorem dksX13_undo_1 : cX13_undo.data.toList.drop 22 = dktX13_undo_1 := dk_seg dksX13_undo_0 22 rfl rfl
theorem dX13_undo_0 : decode cX13_undo 0 = .ok (.aload_n 0, 1) := dk_42 (dk_at dksX13_undo_0 0 rfl rfl)
theorem dX13_undo_1 : decode cX13_undo 1 = .ok (.getfield 296, 3) := dk_180 1 40 (dk_at dksX13_undo_0 1 rfl rfl)
theorem dX13_undo_4 : decode cX13_undo 4 = .ok (.ifCond .ne 6, 3) := dk_154 0 6 (dk_at dksX13_undo_0 4 rfl rfl)
theorem dX13_undo_7 : decode cX13_undo 7 = .ok (.bipush (-3), 2) := dk_16 253 (dk_at dksX13_undo_0 7 rfl rfl)
theorem dX13_undo_9 : decode cX13_undo 9 = .ok (.ireturn, 1) := dk_172 (dk_at dksX13_undo_0 9 rfl rfl)
theorem dX13_undo_10 : decode cX13_undo 10 = .ok (.aload_n 0, 1) := dk_42 (dk_at dksX13_undo_0 10 rfl rfl)
theorem dX13_undo_11 : decode cX13_undo 11 = .ok (.getfield 15, 3) := dk_180 0 15 (dk_at dksX13_undo_0 11 rfl rfl)
theorem dX13_undo_14 : decode cX13_undo 14 = .ok (.aload_n 0, 1) := dk_42 (dk_at dksX13_undo_0 14 rfl rfl)
theorem dX13_undo_15 : decode cX13_undo 15 = .ok (.getfield 11, 3) := dk_180 0 11 (dk_at dksX13_undo_0 15 rfl rfl)
theorem dX13_undo_18 : decode cX13_undo 18 = .ok (.invokestatic 252, 3) := dk_184 0 252 (dk_at dksX13_undo_0 18 rfl rfl)
theorem dX13_undo_21 : decode cX13_undo 21 = .ok (.aload_n 0, 1) := dk_42 (dk_at dksX13_undo_0 21 rfl rfl)
theorem dX13_undo_22 : decode cX13_undo 22 = .ok (.invokevirtual 46, 3) := dk_182 0 46 (dk_at dksX13_undo_1 0 rfl rfl)
theorem dX13_undo_25 : decode cX13_undo 25 = .ok (.aload_n 0, 1) := dk_42 (dk_at dksX13_undo_1 3 rfl rfl)
theorem dX13_undo_26 : decode cX13_undo 26 = .ok (.getfield 11, 3) := dk_180 0 11 (dk_at dksX13_undo_1 4 rfl rfl)
theorem dX13_undo_29 : decode cX13_undo 29 = .ok (.iconst 3, 1) := dk_6 (dk_at dksX13_undo_1 7 rfl rfl)
theorem dX13_undo_30 : decode cX13_undo 30 = .ok (.iaload, 1) := dk_46 (dk_at dksX13_undo_1 8 rfl rfl)
theorem dX13_undo_31 : decode cX13_undo 31 = .ok (.ireturn, 1) := dk_172 (dk_at dksX13_undo_1 9 rfl rfl)
abbrev cX13_count : ByteArray := prog_22_method_114_code
def yX13_count : MethodName := ⟨RX13, "count", "(I)I"⟩
def dkwX13_count_4 : List UInt8 := [16, 15, 46, 172, 42, 180, 0, 11, 16, 16, 46, 172, 16, 254, 172]
abbrev dktX13_count_4 : List UInt8 := dkwX13_count_4 ++ []
def dkwX13_count_3 : List UInt8 := [180, 0, 11, 16, 18, 46, 172, 42, 180, 0, 11, 16, 17, 46, 172, 42, 180, 0, 200, 172, 42, 180, 0, 11]
abbrev dktX13_count_3 : List UInt8 := dkwX13_count_3 ++ dktX13_count_4
def dkwX13_count_2 : List UInt8 := [42, 180, 0, 103, 172, 42, 180, 0, 11, 16, 19, 46, 172, 42, 180, 0, 11, 16, 20, 46, 172, 42]
abbrev dktX13_count_2 : List UInt8 := dkwX13_count_2 ++ dktX13_count_3
def dkwX13_count_1 : List UInt8 := [170, 0, 0, 0, 0, 0, 105, 0, 0, 0, 0, 0, 0, 0, 7, 0, 0, 0, 47, 0, 0, 0, 52, 0, 0, 0, 60, 0, 0, 0, 68, 0, 0, 0, 76, 0, 0, 0, 84, 0, 0, 0, 89, 0, 0, 0, 97]
abbrev dktX13_count_1 : List UInt8 := dkwX13_count_1 ++ dktX13_count_2
def dkwX13_count_0 : List UInt8 := [27]
abbrev dktX13_count_0 : List UInt8 := dkwX13_count_0 ++ dktX13_count_1
theorem dksX13_count_0 : cX13_count.data.toList.drop 0 = dktX13_count_0 := by decide +kernel
theorem dksX13_count_1 : cX13_count.data.toList.drop 1 = dktX13_count_1 := dk_seg dksX13_count_0 1 rfl rfl
theorem dksX13_count_2 : cX13_count.data.toList.drop 48 = dktX13_count_2 := dk_seg dksX13_count_1 47 rfl rfl
theorem dksX13_count_3 : cX13_count.data.toList.drop 70 = dktX13_count_3 := dk_seg dksX13_count_2 22 rfl rfl
theorem dksX13_count_4 : cX13_count.data.toList.drop 94 = dktX13_count_4 := dk_seg dksX13_count_3 24 rfl rfl
theorem dX13_count_0 : decode cX13_count 0 = .ok (.iload_n 1, 1) := dk_27 (dk_at dksX13_count_0 0 rfl rfl)
theorem dX13_count_1 : decode cX13_count 1 = .ok (.tableswitch 105 0 7 #[47, 52, 60, 68, 76, 84, 89, 97], 47) := by decide +kernel
theorem dX13_count_48 : decode cX13_count 48 = .ok (.aload_n 0, 1) := dk_42 (dk_at dksX13_count_2 0 rfl rfl)
theorem dX13_count_49 : decode cX13_count 49 = .ok (.getfield 103, 3) := dk_180 0 103 (dk_at dksX13_count_2 1 rfl rfl)
theorem dX13_count_52 : decode cX13_count 52 = .ok (.ireturn, 1) := dk_172 (dk_at dksX13_count_2 4 rfl rfl)
theorem dX13_count_53 : decode cX13_count 53 = .ok (.aload_n 0, 1) := dk_42 (dk_at dksX13_count_2 5 rfl rfl)
theorem dX13_count_54 : decode cX13_count 54 = .ok (.getfield 11, 3) := dk_180 0 11 (dk_at dksX13_count_2 6 rfl rfl)
theorem dX13_count_57 : decode cX13_count 57 = .ok (.bipush 19, 2) := dk_16 19 (dk_at dksX13_count_2 9 rfl rfl)
theorem dX13_count_59 : decode cX13_count 59 = .ok (.iaload, 1) := dk_46 (dk_at dksX13_count_2 11 rfl rfl)
theorem dX13_count_60 : decode cX13_count 60 = .ok (.ireturn, 1) := dk_172 (dk_at dksX13_count_2 12 rfl rfl)
theorem dX13_count_61 : decode cX13_count 61 = .ok (.aload_n 0, 1) := dk_42 (dk_at dksX13_count_2 13 rfl rfl)
theorem dX13_count_62 : decode cX13_count 62 = .ok (.getfield 11, 3) := dk_180 0 11 (dk_at dksX13_count_2 14 rfl rfl)
theorem dX13_count_65 : decode cX13_count 65 = .ok (.bipush 20, 2) := dk_16 20 (dk_at dksX13_count_2 17 rfl rfl)
theorem dX13_count_67 : decode cX13_count 67 = .ok (.iaload, 1) := dk_46 (dk_at dksX13_count_2 19 rfl rfl)
theorem dX13_count_68 : decode cX13_count 68 = .ok (.ireturn, 1) := dk_172 (dk_at dksX13_count_2 20 rfl rfl)
theorem dX13_count_69 : decode cX13_count 69 = .ok (.aload_n 0, 1) := dk_42 (dk_at dksX13_count_2 21 rfl rfl)
theorem dX13_count_70 : decode cX13_count 70 = .ok (.getfield 11, 3) := dk_180 0 11 (dk_at dksX13_count_3 0 rfl rfl)
theorem dX13_count_73 : decode cX13_count 73 = .ok (.bipush 18, 2) := dk_16 18 (dk_at dksX13_count_3 3 rfl rfl)
theorem dX13_count_75 : decode cX13_count 75 = .ok (.iaload, 1) := dk_46 (dk_at dksX13_count_3 5 rfl rfl)
theorem dX13_count_76 : decode cX13_count 76 = .ok (.ireturn, 1) := dk_172 (dk_at dksX13_count_3 6 rfl rfl)
theorem dX13_count_77 : decode cX13_count 77 = .ok (.aload_n 0, 1) := dk_42 (dk_at dksX13_count_3 7 rfl rfl)
theorem dX13_count_78 : decode cX13_count 78 = .ok (.getfield 11, 3) := dk_180 0 11 (dk_at dksX13_count_3 8 rfl rfl)
theorem dX13_count_81 : decode cX13_count 81 = .ok (.bipush 17, 2) := dk_16 17 (dk_at dksX13_count_3 11 rfl rfl)
theorem dX13_count_83 : decode cX13_count 83 = .ok (.iaload, 1) := dk_46 (dk_at dksX13_count_3 13 rfl rfl)
theorem dX13_count_84 : decode cX13_count 84 = .ok (.ireturn, 1) := dk_172 (dk_at dksX13_count_3 14 rfl rfl)
theorem dX13_count_85 : decode cX13_count 85 = .ok (.aload_n 0, 1) := dk_42 (dk_at dksX13_count_3 15 rfl rfl)
theorem dX13_count_86 : decode cX13_count 86 = .ok (.getfield 200, 3) := dk_180 0 200 (dk_at dksX13_count_3 16 rfl rfl)
theorem dX13_count_89 : decode cX13_count 89 = .ok (.ireturn, 1) := dk_172 (dk_at dksX13_count_3 19 rfl rfl)
theorem dX13_count_90 : decode cX13_count 90 = .ok (.aload_n 0, 1) := dk_42 (dk_at dksX13_count_3 20 rfl rfl)
theorem dX13_count_91 : decode cX13_count 91 = .ok (.getfield 11, 3) := dk_180 0 11 (dk_at dksX13_count_3 21 rfl rfl)
theorem dX13_count_94 : decode cX13_count 94 = .ok (.bipush 15, 2) := dk_16 15 (dk_at dksX13_count_4 0 rfl rfl)
theorem dX13_count_96 : decode cX13_count 96 = .ok (.iaload, 1) := dk_46 (dk_at dksX13_count_4 2 rfl rfl)
theorem dX13_count_97 : decode cX13_count 97 = .ok (.ireturn, 1) := dk_172 (dk_at dksX13_count_4 3 rfl rfl)
theorem dX13_count_98 : decode cX13_count 98 = .ok (.aload_n 0, 1) := dk_42 (dk_at dksX13_count_4 4 rfl rfl)
theorem dX13_count_99 : decode cX13_count 99 = .ok (.getfield 11, 3) := dk_180 0 11 (dk_at dksX13_count_4 5 rfl rfl)
theorem dX13_count_102 : decode cX13_count 102 = .ok (.bipush 16, 2) := dk_16 16 (dk_at dksX13_count_4 8 rfl rfl)
theorem dX13_count_104 : decode cX13_count 104 = .ok (.iaload, 1) := dk_46 (dk_at dksX13_count_4 10 rfl rfl)
theorem dX13_count_105 : decode cX13_count 105 = .ok (.ireturn, 1) := dk_172 (dk_at dksX13_count_4 11 rfl rfl)
theorem dX13_count_106 : decode cX13_count 106 = .ok (.bipush (-2), 2) := dk_16 254 (dk_at dksX13_count_4 12 rfl rfl)
theorem dX13_count_108 : decode cX13_count 108 = .ok (.ireturn, 1) := dk_172 (dk_at dksX13_count_4 14 rfl rfl)
abbrev cX13_tape : ByteArray := prog_22_method_115_code
def yX13_tape : MethodName := ⟨RX13, "tape", "(III)I"⟩
def dkwX13_tape_4 : List UInt8 := [167, 255, 229, 4, 172]
abbrev dktX13_tape_4 : List UInt8 := dkwX13_tape_4 ++ []
def dkwX13_tape_3 : List UInt8 := [180, 0, 36, 27, 46, 162, 0, 22, 42, 180, 0, 39, 16, 60, 27, 104, 21, 4, 96, 9, 80, 132, 4, 1]
abbrev dktX13_tape_3 : List UInt8 := dkwX13_tape_3 ++ dktX13_tape_4
def dkwX13_tape_2 : List UInt8 := [28, 79, 42, 180, 0, 36, 27, 28, 156, 0, 7, 3, 167, 0, 4, 29, 79, 3, 54, 4, 21, 4, 42]
abbrev dktX13_tape_2 : List UInt8 := dkwX13_tape_2 ++ dktX13_tape_3
def dkwX13_tape_1 : List UInt8 := [16, 60, 164, 0, 6, 16, 254, 172, 28, 155, 0, 10, 29, 156, 0, 6, 16, 242, 172, 42, 180, 0, 33, 27]
abbrev dktX13_tape_1 : List UInt8 := dkwX13_tape_1 ++ dktX13_tape_2
def dkwX13_tape_0 : List UInt8 := [27, 184, 1, 37, 154, 0, 5, 2, 172, 28, 2, 7, 184, 0, 49, 153, 0, 13, 28, 155, 0, 12, 29]
abbrev dktX13_tape_0 : List UInt8 := dkwX13_tape_0 ++ dktX13_tape_1
theorem dksX13_tape_0 : cX13_tape.data.toList.drop 0 = dktX13_tape_0 := by decide +kernel
theorem dksX13_tape_1 : cX13_tape.data.toList.drop 23 = dktX13_tape_1 := dk_seg dksX13_tape_0 23 rfl rfl
theorem dksX13_tape_2 : cX13_tape.data.toList.drop 47 = dktX13_tape_2 := dk_seg dksX13_tape_1 24 rfl rfl
theorem dksX13_tape_3 : cX13_tape.data.toList.drop 70 = dktX13_tape_3 := dk_seg dksX13_tape_2 23 rfl rfl
theorem dksX13_tape_4 : cX13_tape.data.toList.drop 94 = dktX13_tape_4 := dk_seg dksX13_tape_3 24 rfl rfl
theorem dX13_tape_0 : decode cX13_tape 0 = .ok (.iload_n 1, 1) := dk_27 (dk_at dksX13_tape_0 0 rfl rfl)
theorem dX13_tape_1 : decode cX13_tape 1 = .ok (.invokestatic 293, 3) := dk_184 1 37 (dk_at dksX13_tape_0 1 rfl rfl)
theorem dX13_tape_4 : decode cX13_tape 4 = .ok (.ifCond .ne 5, 3) := dk_154 0 5 (dk_at dksX13_tape_0 4 rfl rfl)
theorem dX13_tape_7 : decode cX13_tape 7 = .ok (.iconst (-1), 1) := dk_2 (dk_at dksX13_tape_0 7 rfl rfl)
theorem dX13_tape_8 : decode cX13_tape 8 = .ok (.ireturn, 1) := dk_172 (dk_at dksX13_tape_0 8 rfl rfl)
theorem dX13_tape_9 : decode cX13_tape 9 = .ok (.iload_n 2, 1) := dk_28 (dk_at dksX13_tape_0 9 rfl rfl)
theorem dX13_tape_10 : decode cX13_tape 10 = .ok (.iconst (-1), 1) := dk_2 (dk_at dksX13_tape_0 10 rfl rfl)
theorem dX13_tape_11 : decode cX13_tape 11 = .ok (.iconst 4, 1) := dk_7 (dk_at dksX13_tape_0 11 rfl rfl)
theorem dX13_tape_12 : decode cX13_tape 12 = .ok (.invokestatic 49, 3) := dk_184 0 49 (dk_at dksX13_tape_0 12 rfl rfl)
theorem dX13_tape_15 : decode cX13_tape 15 = .ok (.ifCond .eq 13, 3) := dk_153 0 13 (dk_at dksX13_tape_0 15 rfl rfl)
theorem dX13_tape_18 : decode cX13_tape 18 = .ok (.iload_n 2, 1) := dk_28 (dk_at dksX13_tape_0 18 rfl rfl)
theorem dX13_tape_19 : decode cX13_tape 19 = .ok (.ifCond .lt 12, 3) := dk_155 0 12 (dk_at dksX13_tape_0 19 rfl rfl)
theorem dX13_tape_22 : decode cX13_tape 22 = .ok (.iload_n 3, 1) := dk_29 (dk_at dksX13_tape_0 22 rfl rfl)
theorem dX13_tape_23 : decode cX13_tape 23 = .ok (.bipush 60, 2) := dk_16 60 (dk_at dksX13_tape_1 0 rfl rfl)
theorem dX13_tape_25 : decode cX13_tape 25 = .ok (.if_icmp .le 6, 3) := dk_164 0 6 (dk_at dksX13_tape_1 2 rfl rfl)
theorem dX13_tape_28 : decode cX13_tape 28 = .ok (.bipush (-2), 2) := dk_16 254 (dk_at dksX13_tape_1 5 rfl rfl)
theorem dX13_tape_30 : decode cX13_tape 30 = .ok (.ireturn, 1) := dk_172 (dk_at dksX13_tape_1 7 rfl rfl)
theorem dX13_tape_31 : decode cX13_tape 31 = .ok (.iload_n 2, 1) := dk_28 (dk_at dksX13_tape_1 8 rfl rfl)
theorem dX13_tape_32 : decode cX13_tape 32 = .ok (.ifCond .lt 10, 3) := dk_155 0 10 (dk_at dksX13_tape_1 9 rfl rfl)
theorem dX13_tape_35 : decode cX13_tape 35 = .ok (.iload_n 3, 1) := dk_29 (dk_at dksX13_tape_1 12 rfl rfl)
theorem dX13_tape_36 : decode cX13_tape 36 = .ok (.ifCond .ge 6, 3) := dk_156 0 6 (dk_at dksX13_tape_1 13 rfl rfl)
theorem dX13_tape_39 : decode cX13_tape 39 = .ok (.bipush (-14), 2) := dk_16 242 (dk_at dksX13_tape_1 16 rfl rfl)
theorem dX13_tape_41 : decode cX13_tape 41 = .ok (.ireturn, 1) := dk_172 (dk_at dksX13_tape_1 18 rfl rfl)
theorem dX13_tape_42 : decode cX13_tape 42 = .ok (.aload_n 0, 1) := dk_42 (dk_at dksX13_tape_1 19 rfl rfl)
theorem dX13_tape_43 : decode cX13_tape 43 = .ok (.getfield 33, 3) := dk_180 0 33 (dk_at dksX13_tape_1 20 rfl rfl)
theorem dX13_tape_46 : decode cX13_tape 46 = .ok (.iload_n 1, 1) := dk_27 (dk_at dksX13_tape_1 23 rfl rfl)
theorem dX13_tape_47 : decode cX13_tape 47 = .ok (.iload_n 2, 1) := dk_28 (dk_at dksX13_tape_2 0 rfl rfl)
theorem dX13_tape_48 : decode cX13_tape 48 = .ok (.iastore, 1) := dk_79 (dk_at dksX13_tape_2 1 rfl rfl)
theorem dX13_tape_49 : decode cX13_tape 49 = .ok (.aload_n 0, 1) := dk_42 (dk_at dksX13_tape_2 2 rfl rfl)
theorem dX13_tape_50 : decode cX13_tape 50 = .ok (.getfield 36, 3) := dk_180 0 36 (dk_at dksX13_tape_2 3 rfl rfl)
theorem dX13_tape_53 : decode cX13_tape 53 = .ok (.iload_n 1, 1) := dk_27 (dk_at dksX13_tape_2 6 rfl rfl)
theorem dX13_tape_54 : decode cX13_tape 54 = .ok (.iload_n 2, 1) := dk_28 (dk_at dksX13_tape_2 7 rfl rfl)
theorem dX13_tape_55 : decode cX13_tape 55 = .ok (.ifCond .ge 7, 3) := dk_156 0 7 (dk_at dksX13_tape_2 8 rfl rfl)
theorem dX13_tape_58 : decode cX13_tape 58 = .ok (.iconst 0, 1) := dk_3 (dk_at dksX13_tape_2 11 rfl rfl)
theorem dX13_tape_59 : decode cX13_tape 59 = .ok (.goto 4, 3) := dk_167 0 4 (dk_at dksX13_tape_2 12 rfl rfl)
theorem dX13_tape_62 : decode cX13_tape 62 = .ok (.iload_n 3, 1) := dk_29 (dk_at dksX13_tape_2 15 rfl rfl)
theorem dX13_tape_63 : decode cX13_tape 63 = .ok (.iastore, 1) := dk_79 (dk_at dksX13_tape_2 16 rfl rfl)
theorem dX13_tape_64 : decode cX13_tape 64 = .ok (.iconst 0, 1) := dk_3 (dk_at dksX13_tape_2 17 rfl rfl)
theorem dX13_tape_65 : decode cX13_tape 65 = .ok (.istore 4, 2) := dk_54 4 (dk_at dksX13_tape_2 18 rfl rfl)
theorem dX13_tape_67 : decode cX13_tape 67 = .ok (.iload 4, 2) := dk_21 4 (dk_at dksX13_tape_2 20 rfl rfl)
theorem dX13_tape_69 : decode cX13_tape 69 = .ok (.aload_n 0, 1) := dk_42 (dk_at dksX13_tape_2 22 rfl rfl)
theorem dX13_tape_70 : decode cX13_tape 70 = .ok (.getfield 36, 3) := dk_180 0 36 (dk_at dksX13_tape_3 0 rfl rfl)
theorem dX13_tape_73 : decode cX13_tape 73 = .ok (.iload_n 1, 1) := dk_27 (dk_at dksX13_tape_3 3 rfl rfl)
theorem dX13_tape_74 : decode cX13_tape 74 = .ok (.iaload, 1) := dk_46 (dk_at dksX13_tape_3 4 rfl rfl)
theorem dX13_tape_75 : decode cX13_tape 75 = .ok (.if_icmp .ge 22, 3) := dk_162 0 22 (dk_at dksX13_tape_3 5 rfl rfl)
theorem dX13_tape_78 : decode cX13_tape 78 = .ok (.aload_n 0, 1) := dk_42 (dk_at dksX13_tape_3 8 rfl rfl)
theorem dX13_tape_79 : decode cX13_tape 79 = .ok (.getfield 39, 3) := dk_180 0 39 (dk_at dksX13_tape_3 9 rfl rfl)
theorem dX13_tape_82 : decode cX13_tape 82 = .ok (.bipush 60, 2) := dk_16 60 (dk_at dksX13_tape_3 12 rfl rfl)
theorem dX13_tape_84 : decode cX13_tape 84 = .ok (.iload_n 1, 1) := dk_27 (dk_at dksX13_tape_3 14 rfl rfl)
theorem dX13_tape_85 : decode cX13_tape 85 = .ok (.imul, 1) := dk_104 (dk_at dksX13_tape_3 15 rfl rfl)
theorem dX13_tape_86 : decode cX13_tape 86 = .ok (.iload 4, 2) := dk_21 4 (dk_at dksX13_tape_3 16 rfl rfl)
theorem dX13_tape_88 : decode cX13_tape 88 = .ok (.iadd, 1) := dk_96 (dk_at dksX13_tape_3 18 rfl rfl)
theorem dX13_tape_89 : decode cX13_tape 89 = .ok (.lconst 0, 1) := dk_9 (dk_at dksX13_tape_3 19 rfl rfl)
theorem dX13_tape_90 : decode cX13_tape 90 = .ok (.lastore, 1) := dk_80 (dk_at dksX13_tape_3 20 rfl rfl)
theorem dX13_tape_91 : decode cX13_tape 91 = .ok (.iinc 4 1, 3) := dk_132 4 1 (dk_at dksX13_tape_3 21 rfl rfl)
theorem dX13_tape_94 : decode cX13_tape 94 = .ok (.goto (-27), 3) := dk_167 255 229 (dk_at dksX13_tape_4 0 rfl rfl)
theorem dX13_tape_97 : decode cX13_tape 97 = .ok (.iconst 1, 1) := dk_4 (dk_at dksX13_tape_4 3 rfl rfl)
theorem dX13_tape_98 : decode cX13_tape 98 = .ok (.ireturn, 1) := dk_172 (dk_at dksX13_tape_4 4 rfl rfl)
abbrev cX13_item : ByteArray := prog_22_method_116_code
def yX13_item : MethodName := ⟨RX13, "item", "(IIJ)I"⟩
def dkwX13_item_5 : List UInt8 := [167, 0, 4, 9, 80, 4, 172]
abbrev dktX13_item_5 : List UInt8 := dkwX13_item_5 ++ []
def dkwX13_item_4 : List UInt8 := [167, 0, 28, 42, 180, 0, 33, 27, 46, 6, 160, 0, 7, 33, 167, 0, 14, 33, 9, 148, 153, 0, 7, 10]
abbrev dktX13_item_4 : List UInt8 := dkwX13_item_4 ++ dktX13_item_5
def dkwX13_item_3 : List UInt8 := [4, 160, 0, 10, 33, 136, 147, 133, 167, 0, 44, 42, 180, 0, 33, 27, 46, 5, 160, 0, 9, 33, 136, 133]
abbrev dktX13_item_3 : List UInt8 := dkwX13_item_3 ++ dktX13_item_4
def dkwX13_item_2 : List UInt8 := [28, 96, 42, 180, 0, 33, 27, 46, 154, 0, 10, 33, 136, 145, 133, 167, 0, 61, 42, 180, 0, 33, 27, 46]
abbrev dktX13_item_2 : List UInt8 := dkwX13_item_2 ++ dktX13_item_3
def dkwX13_item_1 : List UInt8 := [180, 0, 36, 27, 46, 4, 100, 184, 0, 49, 154, 0, 6, 16, 243, 172, 42, 180, 0, 39, 16, 60, 27, 104]
abbrev dktX13_item_1 : List UInt8 := dkwX13_item_1 ++ dktX13_item_2
def dkwX13_item_0 : List UInt8 := [27, 184, 1, 37, 154, 0, 5, 2, 172, 42, 180, 0, 33, 27, 46, 156, 0, 6, 16, 245, 172, 28, 3, 42]
abbrev dktX13_item_0 : List UInt8 := dkwX13_item_0 ++ dktX13_item_1
theorem dksX13_item_0 : cX13_item.data.toList.drop 0 = dktX13_item_0 := by decide +kernel
theorem dksX13_item_1 : cX13_item.data.toList.drop 24 = dktX13_item_1 := dk_seg dksX13_item_0 24 rfl rfl
theorem dksX13_item_2 : cX13_item.data.toList.drop 48 = dktX13_item_2 := dk_seg dksX13_item_1 24 rfl rfl
theorem dksX13_item_3 : cX13_item.data.toList.drop 72 = dktX13_item_3 := dk_seg dksX13_item_2 24 rfl rfl
theorem dksX13_item_4 : cX13_item.data.toList.drop 96 = dktX13_item_4 := dk_seg dksX13_item_3 24 rfl rfl
theorem dksX13_item_5 : cX13_item.data.toList.drop 120 = dktX13_item_5 := dk_seg dksX13_item_4 24 rfl rfl
theorem dX13_item_0 : decode cX13_item 0 = .ok (.iload_n 1, 1) := dk_27 (dk_at dksX13_item_0 0 rfl rfl)
theorem dX13_item_1 : decode cX13_item 1 = .ok (.invokestatic 293, 3) := dk_184 1 37 (dk_at dksX13_item_0 1 rfl rfl)
theorem dX13_item_4 : decode cX13_item 4 = .ok (.ifCond .ne 5, 3) := dk_154 0 5 (dk_at dksX13_item_0 4 rfl rfl)
theorem dX13_item_7 : decode cX13_item 7 = .ok (.iconst (-1), 1) := dk_2 (dk_at dksX13_item_0 7 rfl rfl)
theorem dX13_item_8 : decode cX13_item 8 = .ok (.ireturn, 1) := dk_172 (dk_at dksX13_item_0 8 rfl rfl)
theorem dX13_item_9 : decode cX13_item 9 = .ok (.aload_n 0, 1) := dk_42 (dk_at dksX13_item_0 9 rfl rfl)
theorem dX13_item_10 : decode cX13_item 10 = .ok (.getfield 33, 3) := dk_180 0 33 (dk_at dksX13_item_0 10 rfl rfl)
theorem dX13_item_13 : decode cX13_item 13 = .ok (.iload_n 1, 1) := dk_27 (dk_at dksX13_item_0 13 rfl rfl)
theorem dX13_item_14 : decode cX13_item 14 = .ok (.iaload, 1) := dk_46 (dk_at dksX13_item_0 14 rfl rfl)
theorem dX13_item_15 : decode cX13_item 15 = .ok (.ifCond .ge 6, 3) := dk_156 0 6 (dk_at dksX13_item_0 15 rfl rfl)
theorem dX13_item_18 : decode cX13_item 18 = .ok (.bipush (-11), 2) := dk_16 245 (dk_at dksX13_item_0 18 rfl rfl)
theorem dX13_item_20 : decode cX13_item 20 = .ok (.ireturn, 1) := dk_172 (dk_at dksX13_item_0 20 rfl rfl)
theorem dX13_item_21 : decode cX13_item 21 = .ok (.iload_n 2, 1) := dk_28 (dk_at dksX13_item_0 21 rfl rfl)
theorem dX13_item_22 : decode cX13_item 22 = .ok (.iconst 0, 1) := dk_3 (dk_at dksX13_item_0 22 rfl rfl)
theorem dX13_item_23 : decode cX13_item 23 = .ok (.aload_n 0, 1) := dk_42 (dk_at dksX13_item_0 23 rfl rfl)
theorem dX13_item_24 : decode cX13_item 24 = .ok (.getfield 36, 3) := dk_180 0 36 (dk_at dksX13_item_1 0 rfl rfl)
theorem dX13_item_27 : decode cX13_item 27 = .ok (.iload_n 1, 1) := dk_27 (dk_at dksX13_item_1 3 rfl rfl)
theorem dX13_item_28 : decode cX13_item 28 = .ok (.iaload, 1) := dk_46 (dk_at dksX13_item_1 4 rfl rfl)
theorem dX13_item_29 : decode cX13_item 29 = .ok (.iconst 1, 1) := dk_4 (dk_at dksX13_item_1 5 rfl rfl)
theorem dX13_item_30 : decode cX13_item 30 = .ok (.isub, 1) := dk_100 (dk_at dksX13_item_1 6 rfl rfl)
theorem dX13_item_31 : decode cX13_item 31 = .ok (.invokestatic 49, 3) := dk_184 0 49 (dk_at dksX13_item_1 7 rfl rfl)
theorem dX13_item_34 : decode cX13_item 34 = .ok (.ifCond .ne 6, 3) := dk_154 0 6 (dk_at dksX13_item_1 10 rfl rfl)
theorem dX13_item_37 : decode cX13_item 37 = .ok (.bipush (-13), 2) := dk_16 243 (dk_at dksX13_item_1 13 rfl rfl)
theorem dX13_item_39 : decode cX13_item 39 = .ok (.ireturn, 1) := dk_172 (dk_at dksX13_item_1 15 rfl rfl)
theorem dX13_item_40 : decode cX13_item 40 = .ok (.aload_n 0, 1) := dk_42 (dk_at dksX13_item_1 16 rfl rfl)
theorem dX13_item_41 : decode cX13_item 41 = .ok (.getfield 39, 3) := dk_180 0 39 (dk_at dksX13_item_1 17 rfl rfl)
theorem dX13_item_44 : decode cX13_item 44 = .ok (.bipush 60, 2) := dk_16 60 (dk_at dksX13_item_1 20 rfl rfl)
theorem dX13_item_46 : decode cX13_item 46 = .ok (.iload_n 1, 1) := dk_27 (dk_at dksX13_item_1 22 rfl rfl)
theorem dX13_item_47 : decode cX13_item 47 = .ok (.imul, 1) := dk_104 (dk_at dksX13_item_1 23 rfl rfl)
theorem dX13_item_48 : decode cX13_item 48 = .ok (.iload_n 2, 1) := dk_28 (dk_at dksX13_item_2 0 rfl rfl)
theorem dX13_item_49 : decode cX13_item 49 = .ok (.iadd, 1) := dk_96 (dk_at dksX13_item_2 1 rfl rfl)
theorem dX13_item_50 : decode cX13_item 50 = .ok (.aload_n 0, 1) := dk_42 (dk_at dksX13_item_2 2 rfl rfl)
theorem dX13_item_51 : decode cX13_item 51 = .ok (.getfield 33, 3) := dk_180 0 33 (dk_at dksX13_item_2 3 rfl rfl)
theorem dX13_item_54 : decode cX13_item 54 = .ok (.iload_n 1, 1) := dk_27 (dk_at dksX13_item_2 6 rfl rfl)
theorem dX13_item_55 : decode cX13_item 55 = .ok (.iaload, 1) := dk_46 (dk_at dksX13_item_2 7 rfl rfl)
theorem dX13_item_56 : decode cX13_item 56 = .ok (.ifCond .ne 10, 3) := dk_154 0 10 (dk_at dksX13_item_2 8 rfl rfl)
theorem dX13_item_59 : decode cX13_item 59 = .ok (.lload_n 3, 1) := dk_33 (dk_at dksX13_item_2 11 rfl rfl)
theorem dX13_item_60 : decode cX13_item 60 = .ok (.l2i, 1) := dk_136 (dk_at dksX13_item_2 12 rfl rfl)
theorem dX13_item_61 : decode cX13_item 61 = .ok (.i2b, 1) := dk_145 (dk_at dksX13_item_2 13 rfl rfl)
theorem dX13_item_62 : decode cX13_item 62 = .ok (.i2l, 1) := dk_133 (dk_at dksX13_item_2 14 rfl rfl)
theorem dX13_item_63 : decode cX13_item 63 = .ok (.goto 61, 3) := dk_167 0 61 (dk_at dksX13_item_2 15 rfl rfl)
theorem dX13_item_66 : decode cX13_item 66 = .ok (.aload_n 0, 1) := dk_42 (dk_at dksX13_item_2 18 rfl rfl)
theorem dX13_item_67 : decode cX13_item 67 = .ok (.getfield 33, 3) := dk_180 0 33 (dk_at dksX13_item_2 19 rfl rfl)
theorem dX13_item_70 : decode cX13_item 70 = .ok (.iload_n 1, 1) := dk_27 (dk_at dksX13_item_2 22 rfl rfl)
theorem dX13_item_71 : decode cX13_item 71 = .ok (.iaload, 1) := dk_46 (dk_at dksX13_item_2 23 rfl rfl)
theorem dX13_item_72 : decode cX13_item 72 = .ok (.iconst 1, 1) := dk_4 (dk_at dksX13_item_3 0 rfl rfl)
theorem dX13_item_73 : decode cX13_item 73 = .ok (.if_icmp .ne 10, 3) := dk_160 0 10 (dk_at dksX13_item_3 1 rfl rfl)
theorem dX13_item_76 : decode cX13_item 76 = .ok (.lload_n 3, 1) := dk_33 (dk_at dksX13_item_3 4 rfl rfl)
theorem dX13_item_77 : decode cX13_item 77 = .ok (.l2i, 1) := dk_136 (dk_at dksX13_item_3 5 rfl rfl)
theorem dX13_item_78 : decode cX13_item 78 = .ok (.i2s, 1) := dk_147 (dk_at dksX13_item_3 6 rfl rfl)
theorem dX13_item_79 : decode cX13_item 79 = .ok (.i2l, 1) := dk_133 (dk_at dksX13_item_3 7 rfl rfl)
theorem dX13_item_80 : decode cX13_item 80 = .ok (.goto 44, 3) := dk_167 0 44 (dk_at dksX13_item_3 8 rfl rfl)
theorem dX13_item_83 : decode cX13_item 83 = .ok (.aload_n 0, 1) := dk_42 (dk_at dksX13_item_3 11 rfl rfl)
theorem dX13_item_84 : decode cX13_item 84 = .ok (.getfield 33, 3) := dk_180 0 33 (dk_at dksX13_item_3 12 rfl rfl)
theorem dX13_item_87 : decode cX13_item 87 = .ok (.iload_n 1, 1) := dk_27 (dk_at dksX13_item_3 15 rfl rfl)
theorem dX13_item_88 : decode cX13_item 88 = .ok (.iaload, 1) := dk_46 (dk_at dksX13_item_3 16 rfl rfl)
theorem dX13_item_89 : decode cX13_item 89 = .ok (.iconst 2, 1) := dk_5 (dk_at dksX13_item_3 17 rfl rfl)
theorem dX13_item_90 : decode cX13_item 90 = .ok (.if_icmp .ne 9, 3) := dk_160 0 9 (dk_at dksX13_item_3 18 rfl rfl)
theorem dX13_item_93 : decode cX13_item 93 = .ok (.lload_n 3, 1) := dk_33 (dk_at dksX13_item_3 21 rfl rfl)
theorem dX13_item_94 : decode cX13_item 94 = .ok (.l2i, 1) := dk_136 (dk_at dksX13_item_3 22 rfl rfl)
theorem dX13_item_95 : decode cX13_item 95 = .ok (.i2l, 1) := dk_133 (dk_at dksX13_item_3 23 rfl rfl)
theorem dX13_item_96 : decode cX13_item 96 = .ok (.goto 28, 3) := dk_167 0 28 (dk_at dksX13_item_4 0 rfl rfl)
theorem dX13_item_99 : decode cX13_item 99 = .ok (.aload_n 0, 1) := dk_42 (dk_at dksX13_item_4 3 rfl rfl)
theorem dX13_item_100 : decode cX13_item 100 = .ok (.getfield 33, 3) := dk_180 0 33 (dk_at dksX13_item_4 4 rfl rfl)
theorem dX13_item_103 : decode cX13_item 103 = .ok (.iload_n 1, 1) := dk_27 (dk_at dksX13_item_4 7 rfl rfl)
theorem dX13_item_104 : decode cX13_item 104 = .ok (.iaload, 1) := dk_46 (dk_at dksX13_item_4 8 rfl rfl)
theorem dX13_item_105 : decode cX13_item 105 = .ok (.iconst 3, 1) := dk_6 (dk_at dksX13_item_4 9 rfl rfl)
theorem dX13_item_106 : decode cX13_item 106 = .ok (.if_icmp .ne 7, 3) := dk_160 0 7 (dk_at dksX13_item_4 10 rfl rfl)
theorem dX13_item_109 : decode cX13_item 109 = .ok (.lload_n 3, 1) := dk_33 (dk_at dksX13_item_4 13 rfl rfl)
theorem dX13_item_110 : decode cX13_item 110 = .ok (.goto 14, 3) := dk_167 0 14 (dk_at dksX13_item_4 14 rfl rfl)
theorem dX13_item_113 : decode cX13_item 113 = .ok (.lload_n 3, 1) := dk_33 (dk_at dksX13_item_4 17 rfl rfl)
theorem dX13_item_114 : decode cX13_item 114 = .ok (.lconst 0, 1) := dk_9 (dk_at dksX13_item_4 18 rfl rfl)
theorem dX13_item_115 : decode cX13_item 115 = .ok (.lcmp, 1) := dk_148 (dk_at dksX13_item_4 19 rfl rfl)
theorem dX13_item_116 : decode cX13_item 116 = .ok (.ifCond .eq 7, 3) := dk_153 0 7 (dk_at dksX13_item_4 20 rfl rfl)
theorem dX13_item_119 : decode cX13_item 119 = .ok (.lconst 1, 1) := dk_10 (dk_at dksX13_item_4 23 rfl rfl)
theorem dX13_item_120 : decode cX13_item 120 = .ok (.goto 4, 3) := dk_167 0 4 (dk_at dksX13_item_5 0 rfl rfl)
theorem dX13_item_123 : decode cX13_item 123 = .ok (.lconst 0, 1) := dk_9 (dk_at dksX13_item_5 3 rfl rfl)
theorem dX13_item_124 : decode cX13_item 124 = .ok (.lastore, 1) := dk_80 (dk_at dksX13_item_5 4 rfl rfl)
theorem dX13_item_125 : decode cX13_item 125 = .ok (.iconst 1, 1) := dk_4 (dk_at dksX13_item_5 5 rfl rfl)
theorem dX13_item_126 : decode cX13_item 126 = .ok (.ireturn, 1) := dk_172 (dk_at dksX13_item_5 6 rfl rfl)
abbrev cX13_peek : ByteArray := prog_22_method_117_code
def yX13_peek : MethodName := ⟨RX13, "peek", "(II)J"⟩
def dkwX13_peek_2 : List UInt8 := [20, 1, 22, 173]
abbrev dktX13_peek_2 : List UInt8 := dkwX13_peek_2 ++ []
def dkwX13_peek_1 : List UInt8 := [4, 100, 184, 0, 49, 153, 0, 17, 42, 180, 0, 39, 16, 60, 27, 104, 28, 96, 47, 167, 0, 6]
abbrev dktX13_peek_1 : List UInt8 := dkwX13_peek_1 ++ dktX13_peek_2
def dkwX13_peek_0 : List UInt8 := [27, 184, 1, 37, 153, 0, 42, 42, 180, 0, 33, 27, 46, 155, 0, 33, 28, 3, 42, 180, 0, 36, 27, 46]
abbrev dktX13_peek_0 : List UInt8 := dkwX13_peek_0 ++ dktX13_peek_1
theorem dksX13_peek_0 : cX13_peek.data.toList.drop 0 = dktX13_peek_0 := by decide +kernel
theorem dksX13_peek_1 : cX13_peek.data.toList.drop 24 = dktX13_peek_1 := dk_seg dksX13_peek_0 24 rfl rfl
theorem dksX13_peek_2 : cX13_peek.data.toList.drop 46 = dktX13_peek_2 := dk_seg dksX13_peek_1 22 rfl rfl
theorem dX13_peek_0 : decode cX13_peek 0 = .ok (.iload_n 1, 1) := dk_27 (dk_at dksX13_peek_0 0 rfl rfl)
theorem dX13_peek_1 : decode cX13_peek 1 = .ok (.invokestatic 293, 3) := dk_184 1 37 (dk_at dksX13_peek_0 1 rfl rfl)
theorem dX13_peek_4 : decode cX13_peek 4 = .ok (.ifCond .eq 42, 3) := dk_153 0 42 (dk_at dksX13_peek_0 4 rfl rfl)
theorem dX13_peek_7 : decode cX13_peek 7 = .ok (.aload_n 0, 1) := dk_42 (dk_at dksX13_peek_0 7 rfl rfl)
theorem dX13_peek_8 : decode cX13_peek 8 = .ok (.getfield 33, 3) := dk_180 0 33 (dk_at dksX13_peek_0 8 rfl rfl)
theorem dX13_peek_11 : decode cX13_peek 11 = .ok (.iload_n 1, 1) := dk_27 (dk_at dksX13_peek_0 11 rfl rfl)
theorem dX13_peek_12 : decode cX13_peek 12 = .ok (.iaload, 1) := dk_46 (dk_at dksX13_peek_0 12 rfl rfl)
theorem dX13_peek_13 : decode cX13_peek 13 = .ok (.ifCond .lt 33, 3) := dk_155 0 33 (dk_at dksX13_peek_0 13 rfl rfl)
theorem dX13_peek_16 : decode cX13_peek 16 = .ok (.iload_n 2, 1) := dk_28 (dk_at dksX13_peek_0 16 rfl rfl)
theorem dX13_peek_17 : decode cX13_peek 17 = .ok (.iconst 0, 1) := dk_3 (dk_at dksX13_peek_0 17 rfl rfl)
theorem dX13_peek_18 : decode cX13_peek 18 = .ok (.aload_n 0, 1) := dk_42 (dk_at dksX13_peek_0 18 rfl rfl)
theorem dX13_peek_19 : decode cX13_peek 19 = .ok (.getfield 36, 3) := dk_180 0 36 (dk_at dksX13_peek_0 19 rfl rfl)
theorem dX13_peek_22 : decode cX13_peek 22 = .ok (.iload_n 1, 1) := dk_27 (dk_at dksX13_peek_0 22 rfl rfl)
theorem dX13_peek_23 : decode cX13_peek 23 = .ok (.iaload, 1) := dk_46 (dk_at dksX13_peek_0 23 rfl rfl)
theorem dX13_peek_24 : decode cX13_peek 24 = .ok (.iconst 1, 1) := dk_4 (dk_at dksX13_peek_1 0 rfl rfl)
theorem dX13_peek_25 : decode cX13_peek 25 = .ok (.isub, 1) := dk_100 (dk_at dksX13_peek_1 1 rfl rfl)
theorem dX13_peek_26 : decode cX13_peek 26 = .ok (.invokestatic 49, 3) := dk_184 0 49 (dk_at dksX13_peek_1 2 rfl rfl)
theorem dX13_peek_29 : decode cX13_peek 29 = .ok (.ifCond .eq 17, 3) := dk_153 0 17 (dk_at dksX13_peek_1 5 rfl rfl)
theorem dX13_peek_32 : decode cX13_peek 32 = .ok (.aload_n 0, 1) := dk_42 (dk_at dksX13_peek_1 8 rfl rfl)
theorem dX13_peek_33 : decode cX13_peek 33 = .ok (.getfield 39, 3) := dk_180 0 39 (dk_at dksX13_peek_1 9 rfl rfl)
theorem dX13_peek_36 : decode cX13_peek 36 = .ok (.bipush 60, 2) := dk_16 60 (dk_at dksX13_peek_1 12 rfl rfl)
theorem dX13_peek_38 : decode cX13_peek 38 = .ok (.iload_n 1, 1) := dk_27 (dk_at dksX13_peek_1 14 rfl rfl)
theorem dX13_peek_39 : decode cX13_peek 39 = .ok (.imul, 1) := dk_104 (dk_at dksX13_peek_1 15 rfl rfl)
theorem dX13_peek_40 : decode cX13_peek 40 = .ok (.iload_n 2, 1) := dk_28 (dk_at dksX13_peek_1 16 rfl rfl)
theorem dX13_peek_41 : decode cX13_peek 41 = .ok (.iadd, 1) := dk_96 (dk_at dksX13_peek_1 17 rfl rfl)
theorem dX13_peek_42 : decode cX13_peek 42 = .ok (.laload, 1) := dk_47 (dk_at dksX13_peek_1 18 rfl rfl)
theorem dX13_peek_43 : decode cX13_peek 43 = .ok (.goto 6, 3) := dk_167 0 6 (dk_at dksX13_peek_1 19 rfl rfl)
theorem dX13_peek_46 : decode cX13_peek 46 = .ok (.ldc2_w 278, 3) := dk_20 1 22 (dk_at dksX13_peek_2 0 rfl rfl)
theorem dX13_peek_49 : decode cX13_peek 49 = .ok (.lreturn, 1) := dk_173 (dk_at dksX13_peek_2 3 rfl rfl)
abbrev cX13_shift : ByteArray := prog_22_method_118_code
def yX13_shift : MethodName := ⟨RX13, "shift", "(IIIII)I"⟩
def dkwX13_shift_7 : List UInt8 := [180, 0, 43, 21, 6, 47, 80, 132, 6, 1, 167, 255, 224, 21, 5, 172]
abbrev dktX13_shift_7 : List UInt8 := dkwX13_shift_7 ++ []
def dkwX13_shift_6 : List UInt8 := [54, 6, 21, 6, 21, 5, 162, 0, 31, 42, 180, 0, 39, 16, 60, 29, 104, 21, 4, 96, 21, 6, 96, 42]
abbrev dktX13_shift_6 : List UInt8 := dkwX13_shift_6 ++ dktX13_shift_7
def dkwX13_shift_5 : List UInt8 := [21, 6, 42, 180, 0, 39, 16, 60, 27, 104, 28, 96, 21, 6, 96, 47, 80, 132, 6, 1, 167, 255, 225, 3]
abbrev dktX13_shift_5 : List UInt8 := dkwX13_shift_5 ++ dktX13_shift_6
def dkwX13_shift_4 : List UInt8 := [21, 4, 100, 164, 0, 6, 16, 243, 172, 3, 54, 6, 21, 6, 21, 5, 162, 0, 30, 42, 180, 0, 43]
abbrev dktX13_shift_4 : List UInt8 := dkwX13_shift_4 ++ dktX13_shift_5
def dkwX13_shift_3 : List UInt8 := [155, 0, 30, 21, 5, 42, 180, 0, 36, 27, 46, 28, 100, 163, 0, 17, 21, 5, 42, 180, 0, 36, 29, 46]
abbrev dktX13_shift_3 : List UInt8 := dkwX13_shift_3 ++ dktX13_shift_4
def dkwX13_shift_2 : List UInt8 := [180, 0, 33, 29, 46, 159, 0, 6, 16, 244, 172, 21, 5, 155, 0, 39, 28, 155, 0, 35, 21, 4]
abbrev dktX13_shift_2 : List UInt8 := dkwX13_shift_2 ++ dktX13_shift_3
def dkwX13_shift_1 : List UInt8 := [155, 0, 12, 42, 180, 0, 33, 29, 46, 156, 0, 6, 16, 245, 172, 42, 180, 0, 33, 27, 46, 42]
abbrev dktX13_shift_1 : List UInt8 := dkwX13_shift_1 ++ dktX13_shift_2
def dkwX13_shift_0 : List UInt8 := [27, 184, 1, 37, 153, 0, 10, 29, 184, 1, 37, 154, 0, 5, 2, 172, 42, 180, 0, 33, 27, 46]
abbrev dktX13_shift_0 : List UInt8 := dkwX13_shift_0 ++ dktX13_shift_1
theorem dksX13_shift_0 : cX13_shift.data.toList.drop 0 = dktX13_shift_0 := by decide +kernel
theorem dksX13_shift_1 : cX13_shift.data.toList.drop 22 = dktX13_shift_1 := dk_seg dksX13_shift_0 22 rfl rfl
theorem dksX13_shift_2 : cX13_shift.data.toList.drop 44 = dktX13_shift_2 := dk_seg dksX13_shift_1 22 rfl rfl
theorem dksX13_shift_3 : cX13_shift.data.toList.drop 66 = dktX13_shift_3 := dk_seg dksX13_shift_2 22 rfl rfl
theorem dksX13_shift_4 : cX13_shift.data.toList.drop 90 = dktX13_shift_4 := dk_seg dksX13_shift_3 24 rfl rfl
theorem dksX13_shift_5 : cX13_shift.data.toList.drop 113 = dktX13_shift_5 := dk_seg dksX13_shift_4 23 rfl rfl
theorem dksX13_shift_6 : cX13_shift.data.toList.drop 137 = dktX13_shift_6 := dk_seg dksX13_shift_5 24 rfl rfl
theorem dksX13_shift_7 : cX13_shift.data.toList.drop 161 = dktX13_shift_7 := dk_seg dksX13_shift_6 24 rfl rfl
theorem dX13_shift_0 : decode cX13_shift 0 = .ok (.iload_n 1, 1) := dk_27 (dk_at dksX13_shift_0 0 rfl rfl)
theorem dX13_shift_1 : decode cX13_shift 1 = .ok (.invokestatic 293, 3) := dk_184 1 37 (dk_at dksX13_shift_0 1 rfl rfl)
theorem dX13_shift_4 : decode cX13_shift 4 = .ok (.ifCond .eq 10, 3) := dk_153 0 10 (dk_at dksX13_shift_0 4 rfl rfl)
theorem dX13_shift_7 : decode cX13_shift 7 = .ok (.iload_n 3, 1) := dk_29 (dk_at dksX13_shift_0 7 rfl rfl)
theorem dX13_shift_8 : decode cX13_shift 8 = .ok (.invokestatic 293, 3) := dk_184 1 37 (dk_at dksX13_shift_0 8 rfl rfl)
theorem dX13_shift_11 : decode cX13_shift 11 = .ok (.ifCond .ne 5, 3) := dk_154 0 5 (dk_at dksX13_shift_0 11 rfl rfl)
theorem dX13_shift_14 : decode cX13_shift 14 = .ok (.iconst (-1), 1) := dk_2 (dk_at dksX13_shift_0 14 rfl rfl)
theorem dX13_shift_15 : decode cX13_shift 15 = .ok (.ireturn, 1) := dk_172 (dk_at dksX13_shift_0 15 rfl rfl)
theorem dX13_shift_16 : decode cX13_shift 16 = .ok (.aload_n 0, 1) := dk_42 (dk_at dksX13_shift_0 16 rfl rfl)
theorem dX13_shift_17 : decode cX13_shift 17 = .ok (.getfield 33, 3) := dk_180 0 33 (dk_at dksX13_shift_0 17 rfl rfl)
theorem dX13_shift_20 : decode cX13_shift 20 = .ok (.iload_n 1, 1) := dk_27 (dk_at dksX13_shift_0 20 rfl rfl)
theorem dX13_shift_21 : decode cX13_shift 21 = .ok (.iaload, 1) := dk_46 (dk_at dksX13_shift_0 21 rfl rfl)
theorem dX13_shift_22 : decode cX13_shift 22 = .ok (.ifCond .lt 12, 3) := dk_155 0 12 (dk_at dksX13_shift_1 0 rfl rfl)
theorem dX13_shift_25 : decode cX13_shift 25 = .ok (.aload_n 0, 1) := dk_42 (dk_at dksX13_shift_1 3 rfl rfl)
theorem dX13_shift_26 : decode cX13_shift 26 = .ok (.getfield 33, 3) := dk_180 0 33 (dk_at dksX13_shift_1 4 rfl rfl)
theorem dX13_shift_29 : decode cX13_shift 29 = .ok (.iload_n 3, 1) := dk_29 (dk_at dksX13_shift_1 7 rfl rfl)
theorem dX13_shift_30 : decode cX13_shift 30 = .ok (.iaload, 1) := dk_46 (dk_at dksX13_shift_1 8 rfl rfl)
theorem dX13_shift_31 : decode cX13_shift 31 = .ok (.ifCond .ge 6, 3) := dk_156 0 6 (dk_at dksX13_shift_1 9 rfl rfl)
theorem dX13_shift_34 : decode cX13_shift 34 = .ok (.bipush (-11), 2) := dk_16 245 (dk_at dksX13_shift_1 12 rfl rfl)
theorem dX13_shift_36 : decode cX13_shift 36 = .ok (.ireturn, 1) := dk_172 (dk_at dksX13_shift_1 14 rfl rfl)
theorem dX13_shift_37 : decode cX13_shift 37 = .ok (.aload_n 0, 1) := dk_42 (dk_at dksX13_shift_1 15 rfl rfl)
theorem dX13_shift_38 : decode cX13_shift 38 = .ok (.getfield 33, 3) := dk_180 0 33 (dk_at dksX13_shift_1 16 rfl rfl)
theorem dX13_shift_41 : decode cX13_shift 41 = .ok (.iload_n 1, 1) := dk_27 (dk_at dksX13_shift_1 19 rfl rfl)
theorem dX13_shift_42 : decode cX13_shift 42 = .ok (.iaload, 1) := dk_46 (dk_at dksX13_shift_1 20 rfl rfl)
theorem dX13_shift_43 : decode cX13_shift 43 = .ok (.aload_n 0, 1) := dk_42 (dk_at dksX13_shift_1 21 rfl rfl)
theorem dX13_shift_44 : decode cX13_shift 44 = .ok (.getfield 33, 3) := dk_180 0 33 (dk_at dksX13_shift_2 0 rfl rfl)
theorem dX13_shift_47 : decode cX13_shift 47 = .ok (.iload_n 3, 1) := dk_29 (dk_at dksX13_shift_2 3 rfl rfl)
theorem dX13_shift_48 : decode cX13_shift 48 = .ok (.iaload, 1) := dk_46 (dk_at dksX13_shift_2 4 rfl rfl)
theorem dX13_shift_49 : decode cX13_shift 49 = .ok (.if_icmp .eq 6, 3) := dk_159 0 6 (dk_at dksX13_shift_2 5 rfl rfl)
theorem dX13_shift_52 : decode cX13_shift 52 = .ok (.bipush (-12), 2) := dk_16 244 (dk_at dksX13_shift_2 8 rfl rfl)
theorem dX13_shift_54 : decode cX13_shift 54 = .ok (.ireturn, 1) := dk_172 (dk_at dksX13_shift_2 10 rfl rfl)
theorem dX13_shift_55 : decode cX13_shift 55 = .ok (.iload 5, 2) := dk_21 5 (dk_at dksX13_shift_2 11 rfl rfl)
theorem dX13_shift_57 : decode cX13_shift 57 = .ok (.ifCond .lt 39, 3) := dk_155 0 39 (dk_at dksX13_shift_2 13 rfl rfl)
theorem dX13_shift_60 : decode cX13_shift 60 = .ok (.iload_n 2, 1) := dk_28 (dk_at dksX13_shift_2 16 rfl rfl)
theorem dX13_shift_61 : decode cX13_shift 61 = .ok (.ifCond .lt 35, 3) := dk_155 0 35 (dk_at dksX13_shift_2 17 rfl rfl)
theorem dX13_shift_64 : decode cX13_shift 64 = .ok (.iload 4, 2) := dk_21 4 (dk_at dksX13_shift_2 20 rfl rfl)
theorem dX13_shift_66 : decode cX13_shift 66 = .ok (.ifCond .lt 30, 3) := dk_155 0 30 (dk_at dksX13_shift_3 0 rfl rfl)
theorem dX13_shift_69 : decode cX13_shift 69 = .ok (.iload 5, 2) := dk_21 5 (dk_at dksX13_shift_3 3 rfl rfl)
theorem dX13_shift_71 : decode cX13_shift 71 = .ok (.aload_n 0, 1) := dk_42 (dk_at dksX13_shift_3 5 rfl rfl)
theorem dX13_shift_72 : decode cX13_shift 72 = .ok (.getfield 36, 3) := dk_180 0 36 (dk_at dksX13_shift_3 6 rfl rfl)
theorem dX13_shift_75 : decode cX13_shift 75 = .ok (.iload_n 1, 1) := dk_27 (dk_at dksX13_shift_3 9 rfl rfl)
theorem dX13_shift_76 : decode cX13_shift 76 = .ok (.iaload, 1) := dk_46 (dk_at dksX13_shift_3 10 rfl rfl)
theorem dX13_shift_77 : decode cX13_shift 77 = .ok (.iload_n 2, 1) := dk_28 (dk_at dksX13_shift_3 11 rfl rfl)
theorem dX13_shift_78 : decode cX13_shift 78 = .ok (.isub, 1) := dk_100 (dk_at dksX13_shift_3 12 rfl rfl)
theorem dX13_shift_79 : decode cX13_shift 79 = .ok (.if_icmp .gt 17, 3) := dk_163 0 17 (dk_at dksX13_shift_3 13 rfl rfl)
theorem dX13_shift_82 : decode cX13_shift 82 = .ok (.iload 5, 2) := dk_21 5 (dk_at dksX13_shift_3 16 rfl rfl)
theorem dX13_shift_84 : decode cX13_shift 84 = .ok (.aload_n 0, 1) := dk_42 (dk_at dksX13_shift_3 18 rfl rfl)
theorem dX13_shift_85 : decode cX13_shift 85 = .ok (.getfield 36, 3) := dk_180 0 36 (dk_at dksX13_shift_3 19 rfl rfl)
theorem dX13_shift_88 : decode cX13_shift 88 = .ok (.iload_n 3, 1) := dk_29 (dk_at dksX13_shift_3 22 rfl rfl)
theorem dX13_shift_89 : decode cX13_shift 89 = .ok (.iaload, 1) := dk_46 (dk_at dksX13_shift_3 23 rfl rfl)
theorem dX13_shift_90 : decode cX13_shift 90 = .ok (.iload 4, 2) := dk_21 4 (dk_at dksX13_shift_4 0 rfl rfl)
theorem dX13_shift_92 : decode cX13_shift 92 = .ok (.isub, 1) := dk_100 (dk_at dksX13_shift_4 2 rfl rfl)
theorem dX13_shift_93 : decode cX13_shift 93 = .ok (.if_icmp .le 6, 3) := dk_164 0 6 (dk_at dksX13_shift_4 3 rfl rfl)
theorem dX13_shift_96 : decode cX13_shift 96 = .ok (.bipush (-13), 2) := dk_16 243 (dk_at dksX13_shift_4 6 rfl rfl)
theorem dX13_shift_98 : decode cX13_shift 98 = .ok (.ireturn, 1) := dk_172 (dk_at dksX13_shift_4 8 rfl rfl)
theorem dX13_shift_99 : decode cX13_shift 99 = .ok (.iconst 0, 1) := dk_3 (dk_at dksX13_shift_4 9 rfl rfl)
theorem dX13_shift_100 : decode cX13_shift 100 = .ok (.istore 6, 2) := dk_54 6 (dk_at dksX13_shift_4 10 rfl rfl)
theorem dX13_shift_102 : decode cX13_shift 102 = .ok (.iload 6, 2) := dk_21 6 (dk_at dksX13_shift_4 12 rfl rfl)
theorem dX13_shift_104 : decode cX13_shift 104 = .ok (.iload 5, 2) := dk_21 5 (dk_at dksX13_shift_4 14 rfl rfl)
theorem dX13_shift_106 : decode cX13_shift 106 = .ok (.if_icmp .ge 30, 3) := dk_162 0 30 (dk_at dksX13_shift_4 16 rfl rfl)
theorem dX13_shift_109 : decode cX13_shift 109 = .ok (.aload_n 0, 1) := dk_42 (dk_at dksX13_shift_4 19 rfl rfl)
theorem dX13_shift_110 : decode cX13_shift 110 = .ok (.getfield 43, 3) := dk_180 0 43 (dk_at dksX13_shift_4 20 rfl rfl)
theorem dX13_shift_113 : decode cX13_shift 113 = .ok (.iload 6, 2) := dk_21 6 (dk_at dksX13_shift_5 0 rfl rfl)
theorem dX13_shift_115 : decode cX13_shift 115 = .ok (.aload_n 0, 1) := dk_42 (dk_at dksX13_shift_5 2 rfl rfl)
theorem dX13_shift_116 : decode cX13_shift 116 = .ok (.getfield 39, 3) := dk_180 0 39 (dk_at dksX13_shift_5 3 rfl rfl)
theorem dX13_shift_119 : decode cX13_shift 119 = .ok (.bipush 60, 2) := dk_16 60 (dk_at dksX13_shift_5 6 rfl rfl)
theorem dX13_shift_121 : decode cX13_shift 121 = .ok (.iload_n 1, 1) := dk_27 (dk_at dksX13_shift_5 8 rfl rfl)
theorem dX13_shift_122 : decode cX13_shift 122 = .ok (.imul, 1) := dk_104 (dk_at dksX13_shift_5 9 rfl rfl)
theorem dX13_shift_123 : decode cX13_shift 123 = .ok (.iload_n 2, 1) := dk_28 (dk_at dksX13_shift_5 10 rfl rfl)
theorem dX13_shift_124 : decode cX13_shift 124 = .ok (.iadd, 1) := dk_96 (dk_at dksX13_shift_5 11 rfl rfl)
theorem dX13_shift_125 : decode cX13_shift 125 = .ok (.iload 6, 2) := dk_21 6 (dk_at dksX13_shift_5 12 rfl rfl)
theorem dX13_shift_127 : decode cX13_shift 127 = .ok (.iadd, 1) := dk_96 (dk_at dksX13_shift_5 14 rfl rfl)
theorem dX13_shift_128 : decode cX13_shift 128 = .ok (.laload, 1) := dk_47 (dk_at dksX13_shift_5 15 rfl rfl)
theorem dX13_shift_129 : decode cX13_shift 129 = .ok (.lastore, 1) := dk_80 (dk_at dksX13_shift_5 16 rfl rfl)
theorem dX13_shift_130 : decode cX13_shift 130 = .ok (.iinc 6 1, 3) := dk_132 6 1 (dk_at dksX13_shift_5 17 rfl rfl)
theorem dX13_shift_133 : decode cX13_shift 133 = .ok (.goto (-31), 3) := dk_167 255 225 (dk_at dksX13_shift_5 20 rfl rfl)
theorem dX13_shift_136 : decode cX13_shift 136 = .ok (.iconst 0, 1) := dk_3 (dk_at dksX13_shift_5 23 rfl rfl)
theorem dX13_shift_137 : decode cX13_shift 137 = .ok (.istore 6, 2) := dk_54 6 (dk_at dksX13_shift_6 0 rfl rfl)
theorem dX13_shift_139 : decode cX13_shift 139 = .ok (.iload 6, 2) := dk_21 6 (dk_at dksX13_shift_6 2 rfl rfl)
theorem dX13_shift_141 : decode cX13_shift 141 = .ok (.iload 5, 2) := dk_21 5 (dk_at dksX13_shift_6 4 rfl rfl)
theorem dX13_shift_143 : decode cX13_shift 143 = .ok (.if_icmp .ge 31, 3) := dk_162 0 31 (dk_at dksX13_shift_6 6 rfl rfl)
theorem dX13_shift_146 : decode cX13_shift 146 = .ok (.aload_n 0, 1) := dk_42 (dk_at dksX13_shift_6 9 rfl rfl)
theorem dX13_shift_147 : decode cX13_shift 147 = .ok (.getfield 39, 3) := dk_180 0 39 (dk_at dksX13_shift_6 10 rfl rfl)
theorem dX13_shift_150 : decode cX13_shift 150 = .ok (.bipush 60, 2) := dk_16 60 (dk_at dksX13_shift_6 13 rfl rfl)
theorem dX13_shift_152 : decode cX13_shift 152 = .ok (.iload_n 3, 1) := dk_29 (dk_at dksX13_shift_6 15 rfl rfl)
theorem dX13_shift_153 : decode cX13_shift 153 = .ok (.imul, 1) := dk_104 (dk_at dksX13_shift_6 16 rfl rfl)
theorem dX13_shift_154 : decode cX13_shift 154 = .ok (.iload 4, 2) := dk_21 4 (dk_at dksX13_shift_6 17 rfl rfl)
theorem dX13_shift_156 : decode cX13_shift 156 = .ok (.iadd, 1) := dk_96 (dk_at dksX13_shift_6 19 rfl rfl)
theorem dX13_shift_157 : decode cX13_shift 157 = .ok (.iload 6, 2) := dk_21 6 (dk_at dksX13_shift_6 20 rfl rfl)
theorem dX13_shift_159 : decode cX13_shift 159 = .ok (.iadd, 1) := dk_96 (dk_at dksX13_shift_6 22 rfl rfl)
theorem dX13_shift_160 : decode cX13_shift 160 = .ok (.aload_n 0, 1) := dk_42 (dk_at dksX13_shift_6 23 rfl rfl)
theorem dX13_shift_161 : decode cX13_shift 161 = .ok (.getfield 43, 3) := dk_180 0 43 (dk_at dksX13_shift_7 0 rfl rfl)
theorem dX13_shift_164 : decode cX13_shift 164 = .ok (.iload 6, 2) := dk_21 6 (dk_at dksX13_shift_7 3 rfl rfl)
theorem dX13_shift_166 : decode cX13_shift 166 = .ok (.laload, 1) := dk_47 (dk_at dksX13_shift_7 5 rfl rfl)
theorem dX13_shift_167 : decode cX13_shift 167 = .ok (.lastore, 1) := dk_80 (dk_at dksX13_shift_7 6 rfl rfl)
theorem dX13_shift_168 : decode cX13_shift 168 = .ok (.iinc 6 1, 3) := dk_132 6 1 (dk_at dksX13_shift_7 7 rfl rfl)
theorem dX13_shift_171 : decode cX13_shift 171 = .ok (.goto (-32), 3) := dk_167 255 224 (dk_at dksX13_shift_7 10 rfl rfl)
theorem dX13_shift_174 : decode cX13_shift 174 = .ok (.iload 5, 2) := dk_21 5 (dk_at dksX13_shift_7 13 rfl rfl)
theorem dX13_shift_176 : decode cX13_shift 176 = .ok (.ireturn, 1) := dk_172 (dk_at dksX13_shift_7 15 rfl rfl)
theorem q123 : (Jvm.Cond.initialized "SafeClearsModel") ∈ lw_all := lw_g (lw_at lw_m1 32 rfl) rfl
theorem q1682 : (Jvm.Cond.instantiable "SafeClearsModel" (17 : Nat)) ∈ lw_all := lw_g (lw_at lw_m7 151 rfl) rfl
theorem q1684 : (Jvm.Cond.instanceMethod ({ cls := "SafeClearsModel", name := "<init>", desc := "()V" } : Jvm.MethodName)) ∈ lw_all := lw_g (lw_at lw_m7 153 rfl) rfl
theorem q1685 : (Jvm.Cond.code ({ cls := "SafeClearsModel", name := "<init>", desc := "()V" } : Jvm.MethodName) prog_22_method_1_code (2 : Nat) (Option.none : Option Jvm.ClassFile.FieldType)) ∈ lw_all := lw_g (lw_at lw_m7 154 rfl) rfl
theorem q1686 : (Jvm.Cond.methodLink "SafeClearsModel" (3 : Nat) ({ cls := "java/lang/Object", name := "<init>", desc := "()V" } : Jvm.MethodName)) ∈ lw_all := lw_g (lw_at lw_m7 155 rfl) rfl
theorem q1687 : (Jvm.Cond.methodLink "SafeClearsModel" (46 : Nat) ({ cls := "SafeClearsModel", name := "clears", desc := "()V" } : Jvm.MethodName)) ∈ lw_all := lw_g (lw_at lw_m7 156 rfl) rfl
theorem q1688 : (Jvm.Cond.privateMethod ({ cls := "SafeClearsModel", name := "clears", desc := "()V" } : Jvm.MethodName)) ∈ lw_tbl := lw_at lw_m7 157 rfl
theorem q1689 : (Jvm.Cond.instanceMethod ({ cls := "SafeClearsModel", name := "clears", desc := "()V" } : Jvm.MethodName)) ∈ lw_all := lw_g (lw_at lw_m7 158 rfl) rfl
theorem q1690 : (Jvm.Cond.code ({ cls := "SafeClearsModel", name := "clears", desc := "()V" } : Jvm.MethodName) prog_22_method_14_code (3 : Nat) (Option.none : Option Jvm.ClassFile.FieldType)) ∈ lw_all := lw_g (lw_at lw_m7 159 rfl) rfl
theorem q1691 : (Jvm.Cond.methodLink "SafeClearsModel" (78 : Nat) ({ cls := "SafeClearsModel", name := "clears", desc := "(II)V" } : Jvm.MethodName)) ∈ lw_all := lw_g (lw_at lw_m7 160 rfl) rfl
theorem q1692 : (Jvm.Cond.privateMethod ({ cls := "SafeClearsModel", name := "clears", desc := "(II)V" } : Jvm.MethodName)) ∈ lw_tbl := lw_at lw_m7 161 rfl
theorem q1693 : (Jvm.Cond.instanceMethod ({ cls := "SafeClearsModel", name := "clears", desc := "(II)V" } : Jvm.MethodName)) ∈ lw_all := lw_g (lw_at lw_m7 162 rfl) rfl
theorem q1694 : (Jvm.Cond.code ({ cls := "SafeClearsModel", name := "clears", desc := "(II)V" } : Jvm.MethodName) prog_22_method_13_code (8 : Nat) (Option.none : Option Jvm.ClassFile.FieldType)) ∈ lw_all := lw_g (lw_at lw_m7 163 rfl) rfl
theorem q1695 : (Jvm.Cond.methodLink "SafeClearsModel" (56 : Nat) ({ cls := "SafeClearsModel", name := "at", desc := "(II)I" } : Jvm.MethodName)) ∈ lw_all := lw_g (lw_at lw_m7 164 rfl) rfl
theorem q1696 : (Jvm.Cond.privateMethod ({ cls := "SafeClearsModel", name := "at", desc := "(II)I" } : Jvm.MethodName)) ∈ lw_tbl := lw_at lw_m7 165 rfl
theorem q1697 : (Jvm.Cond.instanceMethod ({ cls := "SafeClearsModel", name := "at", desc := "(II)I" } : Jvm.MethodName)) ∈ lw_all := lw_g (lw_at lw_m7 166 rfl) rfl
theorem q1698 : (Jvm.Cond.code ({ cls := "SafeClearsModel", name := "at", desc := "(II)I" } : Jvm.MethodName) prog_22_method_6_code (3 : Nat) (Option.some Jvm.ClassFile.FieldType.int)) ∈ lw_all := lw_g (lw_at lw_m7 167 rfl) rfl
theorem q1699 : (Jvm.Cond.methodLink "SafeClearsModel" (63 : Nat) ({ cls := "SafeClearsModel", name := "placeIn", desc := "(II)I" } : Jvm.MethodName)) ∈ lw_all := lw_g (lw_at lw_m7 168 rfl) rfl
theorem q1700 : (Jvm.Cond.privateMethod ({ cls := "SafeClearsModel", name := "placeIn", desc := "(II)I" } : Jvm.MethodName)) ∈ lw_tbl := lw_at lw_m7 169 rfl
theorem q1701 : (Jvm.Cond.instanceMethod ({ cls := "SafeClearsModel", name := "placeIn", desc := "(II)I" } : Jvm.MethodName)) ∈ lw_all := lw_g (lw_at lw_m7 170 rfl) rfl
theorem q1702 : (Jvm.Cond.code ({ cls := "SafeClearsModel", name := "placeIn", desc := "(II)I" } : Jvm.MethodName) prog_22_method_12_code (4 : Nat) (Option.some Jvm.ClassFile.FieldType.int)) ∈ lw_all := lw_g (lw_at lw_m7 171 rfl) rfl
theorem q1703 : (Jvm.Cond.methodLink "SafeClearsModel" (66 : Nat) ({ cls := "SafeClearsModel", name := "amber", desc := "(I)I" } : Jvm.MethodName)) ∈ lw_all := lw_g (lw_at lw_m7 172 rfl) rfl
theorem q1704 : (Jvm.Cond.privateMethod ({ cls := "SafeClearsModel", name := "amber", desc := "(I)I" } : Jvm.MethodName)) ∈ lw_tbl := lw_at lw_m7 173 rfl
theorem q1705 : (Jvm.Cond.instanceMethod ({ cls := "SafeClearsModel", name := "amber", desc := "(I)I" } : Jvm.MethodName)) ∈ lw_all := lw_g (lw_at lw_m7 174 rfl) rfl
theorem q1706 : (Jvm.Cond.code ({ cls := "SafeClearsModel", name := "amber", desc := "(I)I" } : Jvm.MethodName) prog_22_method_9_code (2 : Nat) (Option.some Jvm.ClassFile.FieldType.int)) ∈ lw_all := lw_g (lw_at lw_m7 175 rfl) rfl
theorem q1707 : (Jvm.Cond.fieldLink "SafeClearsModel" (53 : Nat) "SafeClearsModel" "AMBER" "[I") ∈ lw_all := lw_g (lw_at lw_m7 176 rfl) rfl
theorem q1708 : (Jvm.Cond.laysStatic "SafeClearsModel" "AMBER" "[I") ∈ lw_tbl := lw_at lw_m7 177 rfl
theorem q1709 : (Jvm.Cond.methodLink "SafeClearsModel" (70 : Nat) ({ cls := "SafeClearsModel", name := "pace", desc := "(I)I" } : Jvm.MethodName)) ∈ lw_all := lw_g (lw_at lw_m7 178 rfl) rfl
theorem q1710 : (Jvm.Cond.privateMethod ({ cls := "SafeClearsModel", name := "pace", desc := "(I)I" } : Jvm.MethodName)) ∈ lw_tbl := lw_at lw_m7 179 rfl
theorem q1711 : (Jvm.Cond.instanceMethod ({ cls := "SafeClearsModel", name := "pace", desc := "(I)I" } : Jvm.MethodName)) ∈ lw_all := lw_g (lw_at lw_m7 180 rfl) rfl
theorem q1712 : (Jvm.Cond.code ({ cls := "SafeClearsModel", name := "pace", desc := "(I)I" } : Jvm.MethodName) prog_22_method_10_code (2 : Nat) (Option.some Jvm.ClassFile.FieldType.int)) ∈ lw_all := lw_g (lw_at lw_m7 181 rfl) rfl
theorem q1713 : (Jvm.Cond.fieldLink "SafeClearsModel" (60 : Nat) "SafeClearsModel" "PACE" "[I") ∈ lw_all := lw_g (lw_at lw_m7 182 rfl) rfl
theorem q1714 : (Jvm.Cond.laysStatic "SafeClearsModel" "PACE" "[I") ∈ lw_tbl := lw_at lw_m7 183 rfl
theorem q1715 : (Jvm.Cond.methodLink "SafeClearsModel" (73 : Nat) ({ cls := "java/lang/Math", name := "max", desc := "(II)I" } : Jvm.MethodName)) ∈ lw_all := lw_g (lw_at lw_m7 184 rfl) rfl
theorem q1716 : (Jvm.Cond.fieldLink "SafeClearsModel" (11 : Nat) "SafeClearsModel" "s" "[I") ∈ lw_all := lw_g (lw_at lw_m7 185 rfl) rfl
theorem q1717 : (Jvm.Cond.fieldLink "SafeClearsModel" (15 : Nat) "SafeClearsModel" "image" "[I") ∈ lw_all := lw_g (lw_at lw_m7 186 rfl) rfl
theorem q1718 : (Jvm.Cond.fieldLink "SafeClearsModel" (18 : Nat) "SafeClearsModel" "mind" "[I") ∈ lw_all := lw_g (lw_at lw_m7 187 rfl) rfl
theorem q1719 : (Jvm.Cond.fieldLink "SafeClearsModel" (296 : Nat) "SafeClearsModel" "isKept" "Z") ∈ lw_all := lw_g (lw_at lw_m7 188 rfl) rfl
theorem q1720 : (Jvm.Cond.fieldLink "SafeClearsModel" (200 : Nat) "SafeClearsModel" "counted" "I") ∈ lw_all := lw_g (lw_at lw_m7 189 rfl) rfl
theorem q1721 : (Jvm.Cond.fieldLink "SafeClearsModel" (21 : Nat) "SafeClearsModel" "clear" "[I") ∈ lw_all := lw_g (lw_at lw_m7 190 rfl) rfl
theorem q1722 : (Jvm.Cond.fieldLink "SafeClearsModel" (24 : Nat) "SafeClearsModel" "narrow" "[I") ∈ lw_all := lw_g (lw_at lw_m7 191 rfl) rfl
theorem q1723 : (Jvm.Cond.fieldLink "SafeClearsModel" (27 : Nat) "SafeClearsModel" "text" "[I") ∈ lw_all := lw_g (lw_at lw_m7 192 rfl) rfl
theorem q1724 : (Jvm.Cond.fieldLink "SafeClearsModel" (30 : Nat) "SafeClearsModel" "read" "[I") ∈ lw_all := lw_g (lw_at lw_m7 193 rfl) rfl
theorem q1725 : (Jvm.Cond.fieldLink "SafeClearsModel" (103 : Nat) "SafeClearsModel" "letters" "I") ∈ lw_all := lw_g (lw_at lw_m7 194 rfl) rfl
theorem q1726 : (Jvm.Cond.fieldLink "SafeClearsModel" (110 : Nat) "SafeClearsModel" "at" "I") ∈ lw_all := lw_g (lw_at lw_m7 195 rfl) rfl
theorem q1727 : (Jvm.Cond.fieldLink "SafeClearsModel" (107 : Nat) "SafeClearsModel" "fault" "I") ∈ lw_all := lw_g (lw_at lw_m7 196 rfl) rfl
theorem q1728 : (Jvm.Cond.fieldLink "SafeClearsModel" (33 : Nat) "SafeClearsModel" "sort" "[I") ∈ lw_all := lw_g (lw_at lw_m7 197 rfl) rfl
theorem q1729 : (Jvm.Cond.fieldLink "SafeClearsModel" (36 : Nat) "SafeClearsModel" "items" "[I") ∈ lw_all := lw_g (lw_at lw_m7 198 rfl) rfl
theorem q1730 : (Jvm.Cond.fieldLink "SafeClearsModel" (39 : Nat) "SafeClearsModel" "cell" "[J") ∈ lw_all := lw_g (lw_at lw_m7 199 rfl) rfl
theorem q1731 : (Jvm.Cond.fieldLink "SafeClearsModel" (43 : Nat) "SafeClearsModel" "carried" "[J") ∈ lw_all := lw_g (lw_at lw_m7 200 rfl) rfl
theorem q1732 : (Jvm.Cond.fieldLink "SafeClearsModel" (246 : Nat) "SafeClearsModel" "bestBands" "I") ∈ lw_all := lw_g (lw_at lw_m7 201 rfl) rfl
theorem q1733 : (Jvm.Cond.laysFinal "SafeClearsModel" "SafeClearsModel" "s" "[I") ∈ lw_all := lw_g (lw_at lw_m7 202 rfl) rfl
theorem q1734 : (Jvm.Cond.soleField "SafeClearsModel" "s") ∈ lw_all := lw_g (lw_at lw_m7 203 rfl) rfl
theorem q1735 : (Jvm.Cond.laysFinal "SafeClearsModel" "SafeClearsModel" "image" "[I") ∈ lw_all := lw_g (lw_at lw_m7 204 rfl) rfl
theorem q1736 : (Jvm.Cond.soleField "SafeClearsModel" "image") ∈ lw_all := lw_g (lw_at lw_m7 205 rfl) rfl
theorem q1737 : (Jvm.Cond.laysFinal "SafeClearsModel" "SafeClearsModel" "mind" "[I") ∈ lw_all := lw_g (lw_at lw_m7 206 rfl) rfl
theorem q1738 : (Jvm.Cond.soleField "SafeClearsModel" "mind") ∈ lw_all := lw_g (lw_at lw_m7 207 rfl) rfl
theorem q1739 : (Jvm.Cond.lays "SafeClearsModel" "SafeClearsModel" "isKept" "Z") ∈ lw_all := lw_g (lw_at lw_m7 208 rfl) rfl
theorem q1740 : (Jvm.Cond.soleField "SafeClearsModel" "isKept") ∈ lw_all := lw_g (lw_at lw_m7 209 rfl) rfl
theorem q1741 : (Jvm.Cond.lays "SafeClearsModel" "SafeClearsModel" "counted" "I") ∈ lw_all := lw_g (lw_at lw_m7 210 rfl) rfl
theorem q1742 : (Jvm.Cond.soleField "SafeClearsModel" "counted") ∈ lw_all := lw_g (lw_at lw_m7 211 rfl) rfl
theorem q1743 : (Jvm.Cond.laysFinal "SafeClearsModel" "SafeClearsModel" "clear" "[I") ∈ lw_all := lw_g (lw_at lw_m7 212 rfl) rfl
theorem q1744 : (Jvm.Cond.soleField "SafeClearsModel" "clear") ∈ lw_all := lw_g (lw_at lw_m7 213 rfl) rfl
theorem q1745 : (Jvm.Cond.laysFinal "SafeClearsModel" "SafeClearsModel" "narrow" "[I") ∈ lw_all := lw_g (lw_at lw_m7 214 rfl) rfl
theorem q1746 : (Jvm.Cond.soleField "SafeClearsModel" "narrow") ∈ lw_all := lw_g (lw_at lw_m7 215 rfl) rfl
theorem q1747 : (Jvm.Cond.laysFinal "SafeClearsModel" "SafeClearsModel" "text" "[I") ∈ lw_all := lw_g (lw_at lw_m7 216 rfl) rfl
theorem q1748 : (Jvm.Cond.soleField "SafeClearsModel" "text") ∈ lw_all := lw_g (lw_at lw_m7 217 rfl) rfl
theorem q1749 : (Jvm.Cond.laysFinal "SafeClearsModel" "SafeClearsModel" "read" "[I") ∈ lw_all := lw_g (lw_at lw_m7 218 rfl) rfl
theorem q1750 : (Jvm.Cond.soleField "SafeClearsModel" "read") ∈ lw_all := lw_g (lw_at lw_m7 219 rfl) rfl
theorem q1751 : (Jvm.Cond.lays "SafeClearsModel" "SafeClearsModel" "letters" "I") ∈ lw_all := lw_g (lw_at lw_m7 220 rfl) rfl
theorem q1752 : (Jvm.Cond.soleField "SafeClearsModel" "letters") ∈ lw_all := lw_g (lw_at lw_m7 221 rfl) rfl
theorem q1753 : (Jvm.Cond.lays "SafeClearsModel" "SafeClearsModel" "at" "I") ∈ lw_all := lw_g (lw_at lw_m7 222 rfl) rfl
theorem q1754 : (Jvm.Cond.soleField "SafeClearsModel" "at") ∈ lw_all := lw_g (lw_at lw_m7 223 rfl) rfl
theorem q1755 : (Jvm.Cond.lays "SafeClearsModel" "SafeClearsModel" "fault" "I") ∈ lw_all := lw_g (lw_at lw_m7 224 rfl) rfl
theorem q1756 : (Jvm.Cond.soleField "SafeClearsModel" "fault") ∈ lw_all := lw_g (lw_at lw_m7 225 rfl) rfl
theorem q1757 : (Jvm.Cond.laysFinal "SafeClearsModel" "SafeClearsModel" "sort" "[I") ∈ lw_all := lw_g (lw_at lw_m7 226 rfl) rfl
theorem q1758 : (Jvm.Cond.soleField "SafeClearsModel" "sort") ∈ lw_all := lw_g (lw_at lw_m7 227 rfl) rfl
theorem q1759 : (Jvm.Cond.laysFinal "SafeClearsModel" "SafeClearsModel" "items" "[I") ∈ lw_all := lw_g (lw_at lw_m7 228 rfl) rfl
theorem q1760 : (Jvm.Cond.soleField "SafeClearsModel" "items") ∈ lw_all := lw_g (lw_at lw_m7 229 rfl) rfl
theorem q1761 : (Jvm.Cond.laysFinal "SafeClearsModel" "SafeClearsModel" "cell" "[J") ∈ lw_all := lw_g (lw_at lw_m7 230 rfl) rfl
theorem q1762 : (Jvm.Cond.soleField "SafeClearsModel" "cell") ∈ lw_all := lw_g (lw_at lw_m7 231 rfl) rfl
theorem q1763 : (Jvm.Cond.laysFinal "SafeClearsModel" "SafeClearsModel" "carried" "[J") ∈ lw_all := lw_g (lw_at lw_m7 232 rfl) rfl
theorem q1764 : (Jvm.Cond.soleField "SafeClearsModel" "carried") ∈ lw_all := lw_g (lw_at lw_m7 233 rfl) rfl
theorem q1765 : (Jvm.Cond.lays "SafeClearsModel" "SafeClearsModel" "bestBands" "I") ∈ lw_all := lw_g (lw_at lw_m7 234 rfl) rfl
theorem q1766 : (Jvm.Cond.soleField "SafeClearsModel" "bestBands") ∈ lw_all := lw_g (lw_at lw_m7 235 rfl) rfl
theorem q1767 : (Jvm.Cond.superclass "SafeClearsModel" "java/lang/Object") ∈ lw_all := lw_g (lw_at lw_m7 236 rfl) rfl
theorem q1769 : (Jvm.Cond.instanceMethod ({ cls := "SafeClearsModel", name := "signal", desc := "(II)I" } : Jvm.MethodName)) ∈ lw_all := lw_g (lw_at lw_m7 238 rfl) rfl
theorem q1770 : (Jvm.Cond.selects "SafeClearsModel" ({ cls := "SafeClearsModel", name := "signal", desc := "(II)I" } : Jvm.MethodName) ({ cls := "SafeClearsModel", name := "signal", desc := "(II)I" } : Jvm.MethodName)) ∈ lw_all := lw_g (lw_at lw_m7 239 rfl) rfl
theorem q1771 : (Jvm.Cond.code ({ cls := "SafeClearsModel", name := "signal", desc := "(II)I" } : Jvm.MethodName) prog_22_method_19_code (3 : Nat) (Option.some Jvm.ClassFile.FieldType.int)) ∈ lw_all := lw_g (lw_at lw_m8 0 rfl) rfl
theorem q1772 : (Jvm.Cond.methodLink "SafeClearsModel" (49 : Nat) ({ cls := "SafeClearsModel", name := "isIn", desc := "(III)Z" } : Jvm.MethodName)) ∈ lw_all := lw_g (lw_at lw_m8 1 rfl) rfl
theorem q1773 : (Jvm.Cond.static ({ cls := "SafeClearsModel", name := "isIn", desc := "(III)Z" } : Jvm.MethodName)) ∈ lw_all := lw_g (lw_at lw_m8 2 rfl) rfl
theorem q1774 : (Jvm.Cond.code ({ cls := "SafeClearsModel", name := "isIn", desc := "(III)Z" } : Jvm.MethodName) prog_22_method_2_code (3 : Nat) (Option.some Jvm.ClassFile.FieldType.boolean)) ∈ lw_all := lw_g (lw_at lw_m8 3 rfl) rfl
theorem q1775 : (Jvm.Cond.methodLink "SafeClearsModel" (89 : Nat) ({ cls := "SafeClearsModel", name := "comes", desc := "(IIIII)V" } : Jvm.MethodName)) ∈ lw_all := lw_g (lw_at lw_m8 4 rfl) rfl
theorem q1776 : (Jvm.Cond.privateMethod ({ cls := "SafeClearsModel", name := "comes", desc := "(IIIII)V" } : Jvm.MethodName)) ∈ lw_tbl := lw_at lw_m8 5 rfl
theorem q1777 : (Jvm.Cond.instanceMethod ({ cls := "SafeClearsModel", name := "comes", desc := "(IIIII)V" } : Jvm.MethodName)) ∈ lw_all := lw_g (lw_at lw_m8 6 rfl) rfl
theorem q1778 : (Jvm.Cond.code ({ cls := "SafeClearsModel", name := "comes", desc := "(IIIII)V" } : Jvm.MethodName) prog_22_method_17_code (8 : Nat) (Option.none : Option Jvm.ClassFile.FieldType)) ∈ lw_all := lw_g (lw_at lw_m8 7 rfl) rfl
theorem q1779 : (Jvm.Cond.methodLink "SafeClearsModel" (85 : Nat) ({ cls := "SafeClearsModel", name := "puts", desc := "(III)V" } : Jvm.MethodName)) ∈ lw_all := lw_g (lw_at lw_m8 8 rfl) rfl
theorem q1780 : (Jvm.Cond.privateMethod ({ cls := "SafeClearsModel", name := "puts", desc := "(III)V" } : Jvm.MethodName)) ∈ lw_tbl := lw_at lw_m8 9 rfl
theorem q1781 : (Jvm.Cond.instanceMethod ({ cls := "SafeClearsModel", name := "puts", desc := "(III)V" } : Jvm.MethodName)) ∈ lw_all := lw_g (lw_at lw_m8 10 rfl) rfl
theorem q1782 : (Jvm.Cond.code ({ cls := "SafeClearsModel", name := "puts", desc := "(III)V" } : Jvm.MethodName) prog_22_method_7_code (4 : Nat) (Option.none : Option Jvm.ClassFile.FieldType)) ∈ lw_all := lw_g (lw_at lw_m8 11 rfl) rfl
theorem q1783 : (Jvm.Cond.methodLink "SafeClearsModel" (93 : Nat) ({ cls := "SafeClearsModel", name := "goesOn", desc := "(II)V" } : Jvm.MethodName)) ∈ lw_all := lw_g (lw_at lw_m8 12 rfl) rfl
theorem q1784 : (Jvm.Cond.privateMethod ({ cls := "SafeClearsModel", name := "goesOn", desc := "(II)V" } : Jvm.MethodName)) ∈ lw_tbl := lw_at lw_m8 13 rfl
theorem q1785 : (Jvm.Cond.instanceMethod ({ cls := "SafeClearsModel", name := "goesOn", desc := "(II)V" } : Jvm.MethodName)) ∈ lw_all := lw_g (lw_at lw_m8 14 rfl) rfl
theorem q1786 : (Jvm.Cond.code ({ cls := "SafeClearsModel", name := "goesOn", desc := "(II)V" } : Jvm.MethodName) prog_22_method_18_code (3 : Nat) (Option.none : Option Jvm.ClassFile.FieldType)) ∈ lw_all := lw_g (lw_at lw_m8 15 rfl) rfl
theorem q1788 : (Jvm.Cond.instanceMethod ({ cls := "SafeClearsModel", name := "goes", desc := "(II)I" } : Jvm.MethodName)) ∈ lw_all := lw_g (lw_at lw_m8 17 rfl) rfl
theorem q1789 : (Jvm.Cond.selects "SafeClearsModel" ({ cls := "SafeClearsModel", name := "goes", desc := "(II)I" } : Jvm.MethodName) ({ cls := "SafeClearsModel", name := "goes", desc := "(II)I" } : Jvm.MethodName)) ∈ lw_all := lw_g (lw_at lw_m8 18 rfl) rfl
theorem q1790 : (Jvm.Cond.code ({ cls := "SafeClearsModel", name := "goes", desc := "(II)I" } : Jvm.MethodName) prog_22_method_20_code (3 : Nat) (Option.some Jvm.ClassFile.FieldType.int)) ∈ lw_all := lw_g (lw_at lw_m8 19 rfl) rfl
theorem q1791 : (Jvm.Cond.methodLink "SafeClearsModel" (96 : Nat) ({ cls := "SafeClearsModel", name := "isSignal", desc := "(I)Z" } : Jvm.MethodName)) ∈ lw_all := lw_g (lw_at lw_m8 20 rfl) rfl
theorem q1792 : (Jvm.Cond.privateMethod ({ cls := "SafeClearsModel", name := "isSignal", desc := "(I)Z" } : Jvm.MethodName)) ∈ lw_tbl := lw_at lw_m8 21 rfl
theorem q1793 : (Jvm.Cond.instanceMethod ({ cls := "SafeClearsModel", name := "isSignal", desc := "(I)Z" } : Jvm.MethodName)) ∈ lw_all := lw_g (lw_at lw_m8 22 rfl) rfl
theorem q1794 : (Jvm.Cond.code ({ cls := "SafeClearsModel", name := "isSignal", desc := "(I)Z" } : Jvm.MethodName) prog_22_method_4_code (2 : Nat) (Option.some Jvm.ClassFile.FieldType.boolean)) ∈ lw_all := lw_g (lw_at lw_m8 23 rfl) rfl
theorem q1796 : (Jvm.Cond.instanceMethod ({ cls := "SafeClearsModel", name := "tell", desc := "(III)I" } : Jvm.MethodName)) ∈ lw_all := lw_g (lw_at lw_m8 25 rfl) rfl
theorem q1797 : (Jvm.Cond.selects "SafeClearsModel" ({ cls := "SafeClearsModel", name := "tell", desc := "(III)I" } : Jvm.MethodName) ({ cls := "SafeClearsModel", name := "tell", desc := "(III)I" } : Jvm.MethodName)) ∈ lw_all := lw_g (lw_at lw_m8 26 rfl) rfl
theorem q1798 : (Jvm.Cond.code ({ cls := "SafeClearsModel", name := "tell", desc := "(III)I" } : Jvm.MethodName) prog_22_method_21_code (6 : Nat) (Option.some Jvm.ClassFile.FieldType.int)) ∈ lw_all := lw_g (lw_at lw_m8 27 rfl) rfl
theorem q1799 : (Jvm.Cond.methodLink "SafeClearsModel" (100 : Nat) ({ cls := "java/lang/Math", name := "min", desc := "(II)I" } : Jvm.MethodName)) ∈ lw_all := lw_g (lw_at lw_m8 28 rfl) rfl
theorem q1801 : (Jvm.Cond.instanceMethod ({ cls := "SafeClearsModel", name := "feed", desc := "(I)I" } : Jvm.MethodName)) ∈ lw_all := lw_g (lw_at lw_m8 30 rfl) rfl
theorem q1802 : (Jvm.Cond.selects "SafeClearsModel" ({ cls := "SafeClearsModel", name := "feed", desc := "(I)I" } : Jvm.MethodName) ({ cls := "SafeClearsModel", name := "feed", desc := "(I)I" } : Jvm.MethodName)) ∈ lw_all := lw_g (lw_at lw_m8 31 rfl) rfl
theorem q1803 : (Jvm.Cond.code ({ cls := "SafeClearsModel", name := "feed", desc := "(I)I" } : Jvm.MethodName) prog_22_method_22_code (2 : Nat) (Option.some Jvm.ClassFile.FieldType.int)) ∈ lw_all := lw_g (lw_at lw_m8 32 rfl) rfl
theorem q1805 : (Jvm.Cond.instanceMethod ({ cls := "SafeClearsModel", name := "read", desc := "()I" } : Jvm.MethodName)) ∈ lw_all := lw_g (lw_at lw_m8 34 rfl) rfl
theorem q1806 : (Jvm.Cond.selects "SafeClearsModel" ({ cls := "SafeClearsModel", name := "read", desc := "()I" } : Jvm.MethodName) ({ cls := "SafeClearsModel", name := "read", desc := "()I" } : Jvm.MethodName)) ∈ lw_all := lw_g (lw_at lw_m8 35 rfl) rfl
theorem q1807 : (Jvm.Cond.code ({ cls := "SafeClearsModel", name := "read", desc := "()I" } : Jvm.MethodName) prog_22_method_29_code (6 : Nat) (Option.some Jvm.ClassFile.FieldType.int)) ∈ lw_all := lw_g (lw_at lw_m8 36 rfl) rfl
theorem q1808 : (Jvm.Cond.methodLink "SafeClearsModel" (129 : Nat) ({ cls := "SafeClearsModel", name := "clause", desc := "(I)V" } : Jvm.MethodName)) ∈ lw_all := lw_g (lw_at lw_m8 37 rfl) rfl
theorem q1809 : (Jvm.Cond.privateMethod ({ cls := "SafeClearsModel", name := "clause", desc := "(I)V" } : Jvm.MethodName)) ∈ lw_tbl := lw_at lw_m8 38 rfl
theorem q1810 : (Jvm.Cond.instanceMethod ({ cls := "SafeClearsModel", name := "clause", desc := "(I)V" } : Jvm.MethodName)) ∈ lw_all := lw_g (lw_at lw_m8 39 rfl) rfl
theorem q1811 : (Jvm.Cond.code ({ cls := "SafeClearsModel", name := "clause", desc := "(I)V" } : Jvm.MethodName) prog_22_method_28_code (6 : Nat) (Option.none : Option Jvm.ClassFile.FieldType)) ∈ lw_all := lw_g (lw_at lw_m8 40 rfl) rfl
theorem q1812 : (Jvm.Cond.methodLink "SafeClearsModel" (119 : Nat) ({ cls := "SafeClearsModel", name := "kindOf", desc := "(I)I" } : Jvm.MethodName)) ∈ lw_all := lw_g (lw_at lw_m8 41 rfl) rfl
theorem q1813 : (Jvm.Cond.static ({ cls := "SafeClearsModel", name := "kindOf", desc := "(I)I" } : Jvm.MethodName)) ∈ lw_all := lw_g (lw_at lw_m8 42 rfl) rfl
theorem q1814 : (Jvm.Cond.code ({ cls := "SafeClearsModel", name := "kindOf", desc := "(I)I" } : Jvm.MethodName) prog_22_method_27_code (1 : Nat) (Option.some Jvm.ClassFile.FieldType.int)) ∈ lw_all := lw_g (lw_at lw_m8 43 rfl) rfl
theorem q1815 : (Jvm.Cond.methodLink "SafeClearsModel" (115 : Nat) ({ cls := "SafeClearsModel", name := "fails", desc := "(I)V" } : Jvm.MethodName)) ∈ lw_all := lw_g (lw_at lw_m8 44 rfl) rfl
theorem q1816 : (Jvm.Cond.privateMethod ({ cls := "SafeClearsModel", name := "fails", desc := "(I)V" } : Jvm.MethodName)) ∈ lw_tbl := lw_at lw_m8 45 rfl
theorem q1817 : (Jvm.Cond.instanceMethod ({ cls := "SafeClearsModel", name := "fails", desc := "(I)V" } : Jvm.MethodName)) ∈ lw_all := lw_g (lw_at lw_m8 46 rfl) rfl
theorem q1818 : (Jvm.Cond.code ({ cls := "SafeClearsModel", name := "fails", desc := "(I)V" } : Jvm.MethodName) prog_22_method_23_code (2 : Nat) (Option.none : Option Jvm.ClassFile.FieldType)) ∈ lw_all := lw_g (lw_at lw_m8 47 rfl) rfl
theorem q1819 : (Jvm.Cond.methodLink "SafeClearsModel" (112 : Nat) ({ cls := "SafeClearsModel", name := "sees", desc := "(II)Z" } : Jvm.MethodName)) ∈ lw_all := lw_g (lw_at lw_m8 48 rfl) rfl
theorem q1820 : (Jvm.Cond.privateMethod ({ cls := "SafeClearsModel", name := "sees", desc := "(II)Z" } : Jvm.MethodName)) ∈ lw_tbl := lw_at lw_m8 49 rfl
theorem q1821 : (Jvm.Cond.instanceMethod ({ cls := "SafeClearsModel", name := "sees", desc := "(II)Z" } : Jvm.MethodName)) ∈ lw_all := lw_g (lw_at lw_m8 50 rfl) rfl
theorem q1822 : (Jvm.Cond.code ({ cls := "SafeClearsModel", name := "sees", desc := "(II)Z" } : Jvm.MethodName) prog_22_method_25_code (3 : Nat) (Option.some Jvm.ClassFile.FieldType.boolean)) ∈ lw_all := lw_g (lw_at lw_m8 51 rfl) rfl
theorem q1823 : (Jvm.Cond.methodLink "SafeClearsModel" (122 : Nat) ({ cls := "SafeClearsModel", name := "takes", desc := "(I)Z" } : Jvm.MethodName)) ∈ lw_all := lw_g (lw_at lw_m8 52 rfl) rfl
theorem q1824 : (Jvm.Cond.privateMethod ({ cls := "SafeClearsModel", name := "takes", desc := "(I)Z" } : Jvm.MethodName)) ∈ lw_tbl := lw_at lw_m8 53 rfl
theorem q1825 : (Jvm.Cond.instanceMethod ({ cls := "SafeClearsModel", name := "takes", desc := "(I)Z" } : Jvm.MethodName)) ∈ lw_all := lw_g (lw_at lw_m8 54 rfl) rfl
theorem q1826 : (Jvm.Cond.code ({ cls := "SafeClearsModel", name := "takes", desc := "(I)Z" } : Jvm.MethodName) prog_22_method_24_code (3 : Nat) (Option.some Jvm.ClassFile.FieldType.boolean)) ∈ lw_all := lw_g (lw_at lw_m8 55 rfl) rfl
theorem q1827 : (Jvm.Cond.methodLink "SafeClearsModel" (125 : Nat) ({ cls := "SafeClearsModel", name := "number", desc := "(III)I" } : Jvm.MethodName)) ∈ lw_all := lw_g (lw_at lw_m8 56 rfl) rfl
theorem q1828 : (Jvm.Cond.privateMethod ({ cls := "SafeClearsModel", name := "number", desc := "(III)I" } : Jvm.MethodName)) ∈ lw_tbl := lw_at lw_m8 57 rfl
theorem q1829 : (Jvm.Cond.instanceMethod ({ cls := "SafeClearsModel", name := "number", desc := "(III)I" } : Jvm.MethodName)) ∈ lw_all := lw_g (lw_at lw_m8 58 rfl) rfl
theorem q1830 : (Jvm.Cond.code ({ cls := "SafeClearsModel", name := "number", desc := "(III)I" } : Jvm.MethodName) prog_22_method_26_code (6 : Nat) (Option.some Jvm.ClassFile.FieldType.int)) ∈ lw_all := lw_g (lw_at lw_m8 59 rfl) rfl
theorem q1832 : (Jvm.Cond.instanceMethod ({ cls := "SafeClearsModel", name := "safety", desc := "(I)I" } : Jvm.MethodName)) ∈ lw_all := lw_g (lw_at lw_m8 61 rfl) rfl
theorem q1833 : (Jvm.Cond.selects "SafeClearsModel" ({ cls := "SafeClearsModel", name := "safety", desc := "(I)I" } : Jvm.MethodName) ({ cls := "SafeClearsModel", name := "safety", desc := "(I)I" } : Jvm.MethodName)) ∈ lw_all := lw_g (lw_at lw_m8 62 rfl) rfl
theorem q1834 : (Jvm.Cond.code ({ cls := "SafeClearsModel", name := "safety", desc := "(I)I" } : Jvm.MethodName) prog_22_method_30_code (3 : Nat) (Option.some Jvm.ClassFile.FieldType.int)) ∈ lw_all := lw_g (lw_at lw_m8 63 rfl) rfl
theorem q1836 : (Jvm.Cond.instanceMethod ({ cls := "SafeClearsModel", name := "phase", desc := "(II)I" } : Jvm.MethodName)) ∈ lw_all := lw_g (lw_at lw_m8 65 rfl) rfl
theorem q1837 : (Jvm.Cond.selects "SafeClearsModel" ({ cls := "SafeClearsModel", name := "phase", desc := "(II)I" } : Jvm.MethodName) ({ cls := "SafeClearsModel", name := "phase", desc := "(II)I" } : Jvm.MethodName)) ∈ lw_all := lw_g (lw_at lw_m8 66 rfl) rfl
theorem q1838 : (Jvm.Cond.code ({ cls := "SafeClearsModel", name := "phase", desc := "(II)I" } : Jvm.MethodName) prog_22_method_32_code (4 : Nat) (Option.some Jvm.ClassFile.FieldType.int)) ∈ lw_all := lw_g (lw_at lw_m8 67 rfl) rfl
theorem q1839 : (Jvm.Cond.methodLink "SafeClearsModel" (138 : Nat) ({ cls := "SafeClearsModel", name := "anyMeet", desc := "(I)Z" } : Jvm.MethodName)) ∈ lw_all := lw_g (lw_at lw_m8 68 rfl) rfl
theorem q1840 : (Jvm.Cond.privateMethod ({ cls := "SafeClearsModel", name := "anyMeet", desc := "(I)Z" } : Jvm.MethodName)) ∈ lw_tbl := lw_at lw_m8 69 rfl
theorem q1841 : (Jvm.Cond.instanceMethod ({ cls := "SafeClearsModel", name := "anyMeet", desc := "(I)Z" } : Jvm.MethodName)) ∈ lw_all := lw_g (lw_at lw_m8 70 rfl) rfl
theorem q1842 : (Jvm.Cond.code ({ cls := "SafeClearsModel", name := "anyMeet", desc := "(I)Z" } : Jvm.MethodName) prog_22_method_31_code (3 : Nat) (Option.some Jvm.ClassFile.FieldType.boolean)) ∈ lw_all := lw_g (lw_at lw_m8 71 rfl) rfl
theorem q1843 : (Jvm.Cond.methodLink "SafeClearsModel" (132 : Nat) ({ cls := "SafeClearsModel", name := "has", desc := "(II)Z" } : Jvm.MethodName)) ∈ lw_all := lw_g (lw_at lw_m8 72 rfl) rfl
theorem q1844 : (Jvm.Cond.static ({ cls := "SafeClearsModel", name := "has", desc := "(II)Z" } : Jvm.MethodName)) ∈ lw_all := lw_g (lw_at lw_m8 73 rfl) rfl
theorem q1845 : (Jvm.Cond.code ({ cls := "SafeClearsModel", name := "has", desc := "(II)Z" } : Jvm.MethodName) prog_22_method_3_code (2 : Nat) (Option.some Jvm.ClassFile.FieldType.boolean)) ∈ lw_all := lw_g (lw_at lw_m8 74 rfl) rfl
theorem q1846 : (Jvm.Cond.methodLink "SafeClearsModel" (135 : Nat) ({ cls := "SafeClearsModel", name := "meets", desc := "(I)I" } : Jvm.MethodName)) ∈ lw_all := lw_g (lw_at lw_m8 75 rfl) rfl
theorem q1847 : (Jvm.Cond.privateMethod ({ cls := "SafeClearsModel", name := "meets", desc := "(I)I" } : Jvm.MethodName)) ∈ lw_tbl := lw_at lw_m8 76 rfl
theorem q1848 : (Jvm.Cond.instanceMethod ({ cls := "SafeClearsModel", name := "meets", desc := "(I)I" } : Jvm.MethodName)) ∈ lw_all := lw_g (lw_at lw_m8 77 rfl) rfl
theorem q1849 : (Jvm.Cond.code ({ cls := "SafeClearsModel", name := "meets", desc := "(I)I" } : Jvm.MethodName) prog_22_method_16_code (4 : Nat) (Option.some Jvm.ClassFile.FieldType.int)) ∈ lw_all := lw_g (lw_at lw_m8 78 rfl) rfl
theorem q1850 : (Jvm.Cond.methodLink "SafeClearsModel" (81 : Nat) ({ cls := "SafeClearsModel", name := "meet", desc := "(II)Z" } : Jvm.MethodName)) ∈ lw_all := lw_g (lw_at lw_m8 79 rfl) rfl
theorem q1851 : (Jvm.Cond.privateMethod ({ cls := "SafeClearsModel", name := "meet", desc := "(II)Z" } : Jvm.MethodName)) ∈ lw_tbl := lw_at lw_m8 80 rfl
theorem q1852 : (Jvm.Cond.instanceMethod ({ cls := "SafeClearsModel", name := "meet", desc := "(II)Z" } : Jvm.MethodName)) ∈ lw_all := lw_g (lw_at lw_m8 81 rfl) rfl
theorem q1853 : (Jvm.Cond.code ({ cls := "SafeClearsModel", name := "meet", desc := "(II)Z" } : Jvm.MethodName) prog_22_method_15_code (3 : Nat) (Option.some Jvm.ClassFile.FieldType.boolean)) ∈ lw_all := lw_g (lw_at lw_m8 82 rfl) rfl
theorem q1855 : (Jvm.Cond.instanceMethod ({ cls := "SafeClearsModel", name := "start", desc := "()I" } : Jvm.MethodName)) ∈ lw_all := lw_g (lw_at lw_m8 84 rfl) rfl
theorem q1856 : (Jvm.Cond.selects "SafeClearsModel" ({ cls := "SafeClearsModel", name := "start", desc := "()I" } : Jvm.MethodName) ({ cls := "SafeClearsModel", name := "start", desc := "()I" } : Jvm.MethodName)) ∈ lw_all := lw_g (lw_at lw_m8 85 rfl) rfl
theorem q1857 : (Jvm.Cond.code ({ cls := "SafeClearsModel", name := "start", desc := "()I" } : Jvm.MethodName) prog_22_method_34_code (1 : Nat) (Option.some Jvm.ClassFile.FieldType.int)) ∈ lw_all := lw_g (lw_at lw_m8 86 rfl) rfl
theorem q1858 : (Jvm.Cond.methodLink "SafeClearsModel" (141 : Nat) ({ cls := "SafeClearsModel", name := "comesOn", desc := "(I)V" } : Jvm.MethodName)) ∈ lw_all := lw_g (lw_at lw_m8 87 rfl) rfl
theorem q1859 : (Jvm.Cond.privateMethod ({ cls := "SafeClearsModel", name := "comesOn", desc := "(I)V" } : Jvm.MethodName)) ∈ lw_tbl := lw_at lw_m8 88 rfl
theorem q1860 : (Jvm.Cond.instanceMethod ({ cls := "SafeClearsModel", name := "comesOn", desc := "(I)V" } : Jvm.MethodName)) ∈ lw_all := lw_g (lw_at lw_m8 89 rfl) rfl
theorem q1861 : (Jvm.Cond.code ({ cls := "SafeClearsModel", name := "comesOn", desc := "(I)V" } : Jvm.MethodName) prog_22_method_33_code (2 : Nat) (Option.none : Option Jvm.ClassFile.FieldType)) ∈ lw_all := lw_g (lw_at lw_m8 90 rfl) rfl
theorem q1863 : (Jvm.Cond.instanceMethod ({ cls := "SafeClearsModel", name := "cycle", desc := "(III)I" } : Jvm.MethodName)) ∈ lw_all := lw_g (lw_at lw_m8 92 rfl) rfl
theorem q1864 : (Jvm.Cond.selects "SafeClearsModel" ({ cls := "SafeClearsModel", name := "cycle", desc := "(III)I" } : Jvm.MethodName) ({ cls := "SafeClearsModel", name := "cycle", desc := "(III)I" } : Jvm.MethodName)) ∈ lw_all := lw_g (lw_at lw_m8 93 rfl) rfl
theorem q1865 : (Jvm.Cond.code ({ cls := "SafeClearsModel", name := "cycle", desc := "(III)I" } : Jvm.MethodName) prog_22_method_54_code (5 : Nat) (Option.some Jvm.ClassFile.FieldType.int)) ∈ lw_all := lw_g (lw_at lw_m8 94 rfl) rfl
theorem q1867 : (Jvm.Cond.instanceMethod ({ cls := "SafeClearsModel", name := "come", desc := "(II)I" } : Jvm.MethodName)) ∈ lw_all := lw_g (lw_at lw_m8 96 rfl) rfl
theorem q1868 : (Jvm.Cond.selects "SafeClearsModel" ({ cls := "SafeClearsModel", name := "come", desc := "(II)I" } : Jvm.MethodName) ({ cls := "SafeClearsModel", name := "come", desc := "(II)I" } : Jvm.MethodName)) ∈ lw_all := lw_g (lw_at lw_m8 97 rfl) rfl
theorem q1869 : (Jvm.Cond.code ({ cls := "SafeClearsModel", name := "come", desc := "(II)I" } : Jvm.MethodName) prog_22_method_55_code (3 : Nat) (Option.some Jvm.ClassFile.FieldType.int)) ∈ lw_all := lw_g (lw_at lw_m8 98 rfl) rfl
theorem q1870 : (Jvm.Cond.methodLink "SafeClearsModel" (148 : Nat) ({ cls := "SafeClearsModel", name := "joins", desc := "(II)I" } : Jvm.MethodName)) ∈ lw_all := lw_g (lw_at lw_m8 99 rfl) rfl
theorem q1871 : (Jvm.Cond.privateMethod ({ cls := "SafeClearsModel", name := "joins", desc := "(II)I" } : Jvm.MethodName)) ∈ lw_tbl := lw_at lw_m8 100 rfl
theorem q1872 : (Jvm.Cond.instanceMethod ({ cls := "SafeClearsModel", name := "joins", desc := "(II)I" } : Jvm.MethodName)) ∈ lw_all := lw_g (lw_at lw_m8 101 rfl) rfl
theorem q1873 : (Jvm.Cond.code ({ cls := "SafeClearsModel", name := "joins", desc := "(II)I" } : Jvm.MethodName) prog_22_method_36_code (4 : Nat) (Option.some Jvm.ClassFile.FieldType.int)) ∈ lw_all := lw_g (lw_at lw_m8 102 rfl) rfl
theorem q1875 : (Jvm.Cond.instanceMethod ({ cls := "SafeClearsModel", name := "seed", desc := "(I)I" } : Jvm.MethodName)) ∈ lw_all := lw_g (lw_at lw_m8 104 rfl) rfl
theorem q1876 : (Jvm.Cond.selects "SafeClearsModel" ({ cls := "SafeClearsModel", name := "seed", desc := "(I)I" } : Jvm.MethodName) ({ cls := "SafeClearsModel", name := "seed", desc := "(I)I" } : Jvm.MethodName)) ∈ lw_all := lw_g (lw_at lw_m8 105 rfl) rfl
theorem q1877 : (Jvm.Cond.code ({ cls := "SafeClearsModel", name := "seed", desc := "(I)I" } : Jvm.MethodName) prog_22_method_56_code (3 : Nat) (Option.some Jvm.ClassFile.FieldType.int)) ∈ lw_all := lw_g (lw_at lw_m8 106 rfl) rfl
theorem q1879 : (Jvm.Cond.instanceMethod ({ cls := "SafeClearsModel", name := "emergency", desc := "(I)I" } : Jvm.MethodName)) ∈ lw_all := lw_g (lw_at lw_m8 108 rfl) rfl
theorem q1880 : (Jvm.Cond.selects "SafeClearsModel" ({ cls := "SafeClearsModel", name := "emergency", desc := "(I)I" } : Jvm.MethodName) ({ cls := "SafeClearsModel", name := "emergency", desc := "(I)I" } : Jvm.MethodName)) ∈ lw_all := lw_g (lw_at lw_m8 109 rfl) rfl
theorem q1881 : (Jvm.Cond.code ({ cls := "SafeClearsModel", name := "emergency", desc := "(I)I" } : Jvm.MethodName) prog_22_method_57_code (2 : Nat) (Option.some Jvm.ClassFile.FieldType.int)) ∈ lw_all := lw_g (lw_at lw_m8 110 rfl) rfl
theorem q1882 : (Jvm.Cond.methodLink "SafeClearsModel" (160 : Nat) ({ cls := "SafeClearsModel", name := "firstWith", desc := "(I)I" } : Jvm.MethodName)) ∈ lw_all := lw_g (lw_at lw_m8 111 rfl) rfl
theorem q1883 : (Jvm.Cond.privateMethod ({ cls := "SafeClearsModel", name := "firstWith", desc := "(I)I" } : Jvm.MethodName)) ∈ lw_tbl := lw_at lw_m8 112 rfl
theorem q1884 : (Jvm.Cond.instanceMethod ({ cls := "SafeClearsModel", name := "firstWith", desc := "(I)I" } : Jvm.MethodName)) ∈ lw_all := lw_g (lw_at lw_m8 113 rfl) rfl
theorem q1885 : (Jvm.Cond.code ({ cls := "SafeClearsModel", name := "firstWith", desc := "(I)I" } : Jvm.MethodName) prog_22_method_41_code (3 : Nat) (Option.some Jvm.ClassFile.FieldType.int)) ∈ lw_all := lw_g (lw_at lw_m8 114 rfl) rfl
theorem q1886 : (Jvm.Cond.methodLink "SafeClearsModel" (151 : Nat) ({ cls := "SafeClearsModel", name := "setOf", desc := "(I)I" } : Jvm.MethodName)) ∈ lw_all := lw_g (lw_at lw_m8 115 rfl) rfl
theorem q1887 : (Jvm.Cond.privateMethod ({ cls := "SafeClearsModel", name := "setOf", desc := "(I)I" } : Jvm.MethodName)) ∈ lw_tbl := lw_at lw_m8 116 rfl
theorem q1888 : (Jvm.Cond.instanceMethod ({ cls := "SafeClearsModel", name := "setOf", desc := "(I)I" } : Jvm.MethodName)) ∈ lw_all := lw_g (lw_at lw_m8 117 rfl) rfl
theorem q1889 : (Jvm.Cond.code ({ cls := "SafeClearsModel", name := "setOf", desc := "(I)I" } : Jvm.MethodName) prog_22_method_8_code (2 : Nat) (Option.some Jvm.ClassFile.FieldType.int)) ∈ lw_all := lw_g (lw_at lw_m8 118 rfl) rfl
theorem q1891 : (Jvm.Cond.instanceMethod ({ cls := "SafeClearsModel", name := "over", desc := "()I" } : Jvm.MethodName)) ∈ lw_all := lw_g (lw_at lw_m8 120 rfl) rfl
theorem q1892 : (Jvm.Cond.selects "SafeClearsModel" ({ cls := "SafeClearsModel", name := "over", desc := "()I" } : Jvm.MethodName) ({ cls := "SafeClearsModel", name := "over", desc := "()I" } : Jvm.MethodName)) ∈ lw_all := lw_g (lw_at lw_m8 121 rfl) rfl
theorem q1893 : (Jvm.Cond.code ({ cls := "SafeClearsModel", name := "over", desc := "()I" } : Jvm.MethodName) prog_22_method_58_code (2 : Nat) (Option.some Jvm.ClassFile.FieldType.int)) ∈ lw_all := lw_g (lw_at lw_m8 122 rfl) rfl
theorem q1895 : (Jvm.Cond.instanceMethod ({ cls := "SafeClearsModel", name := "pass", desc := "(I)I" } : Jvm.MethodName)) ∈ lw_all := lw_g (lw_at lw_m8 124 rfl) rfl
theorem q1896 : (Jvm.Cond.selects "SafeClearsModel" ({ cls := "SafeClearsModel", name := "pass", desc := "(I)I" } : Jvm.MethodName) ({ cls := "SafeClearsModel", name := "pass", desc := "(I)I" } : Jvm.MethodName)) ∈ lw_all := lw_g (lw_at lw_m8 125 rfl) rfl
theorem q1897 : (Jvm.Cond.code ({ cls := "SafeClearsModel", name := "pass", desc := "(I)I" } : Jvm.MethodName) prog_22_method_59_code (3 : Nat) (Option.some Jvm.ClassFile.FieldType.int)) ∈ lw_all := lw_g (lw_at lw_m8 126 rfl) rfl
theorem q1898 : (Jvm.Cond.methodLink "SafeClearsModel" (203 : Nat) ({ cls := "SafeClearsModel", name := "counts", desc := "(I)Z" } : Jvm.MethodName)) ∈ lw_all := lw_g (lw_at lw_m8 127 rfl) rfl
theorem q1899 : (Jvm.Cond.privateMethod ({ cls := "SafeClearsModel", name := "counts", desc := "(I)Z" } : Jvm.MethodName)) ∈ lw_tbl := lw_at lw_m8 128 rfl
theorem q1900 : (Jvm.Cond.instanceMethod ({ cls := "SafeClearsModel", name := "counts", desc := "(I)Z" } : Jvm.MethodName)) ∈ lw_all := lw_g (lw_at lw_m8 129 rfl) rfl
theorem q1901 : (Jvm.Cond.code ({ cls := "SafeClearsModel", name := "counts", desc := "(I)Z" } : Jvm.MethodName) prog_22_method_53_code (2 : Nat) (Option.some Jvm.ClassFile.FieldType.boolean)) ∈ lw_all := lw_g (lw_at lw_m8 130 rfl) rfl
theorem q1902 : (Jvm.Cond.methodLink "SafeClearsModel" (206 : Nat) ({ cls := "SafeClearsModel", name := "passes", desc := "(I)V" } : Jvm.MethodName)) ∈ lw_all := lw_g (lw_at lw_m8 131 rfl) rfl
theorem q1903 : (Jvm.Cond.privateMethod ({ cls := "SafeClearsModel", name := "passes", desc := "(I)V" } : Jvm.MethodName)) ∈ lw_tbl := lw_at lw_m8 132 rfl
theorem q1904 : (Jvm.Cond.instanceMethod ({ cls := "SafeClearsModel", name := "passes", desc := "(I)V" } : Jvm.MethodName)) ∈ lw_all := lw_g (lw_at lw_m8 133 rfl) rfl
theorem q1905 : (Jvm.Cond.code ({ cls := "SafeClearsModel", name := "passes", desc := "(I)V" } : Jvm.MethodName) prog_22_method_52_code (3 : Nat) (Option.none : Option Jvm.ClassFile.FieldType)) ∈ lw_all := lw_g (lw_at lw_m8 134 rfl) rfl
theorem q1906 : (Jvm.Cond.methodLink "SafeClearsModel" (194 : Nat) ({ cls := "SafeClearsModel", name := "turns", desc := "()V" } : Jvm.MethodName)) ∈ lw_all := lw_g (lw_at lw_m8 135 rfl) rfl
theorem q1907 : (Jvm.Cond.privateMethod ({ cls := "SafeClearsModel", name := "turns", desc := "()V" } : Jvm.MethodName)) ∈ lw_tbl := lw_at lw_m8 136 rfl
theorem q1908 : (Jvm.Cond.instanceMethod ({ cls := "SafeClearsModel", name := "turns", desc := "()V" } : Jvm.MethodName)) ∈ lw_all := lw_g (lw_at lw_m8 137 rfl) rfl
theorem q1909 : (Jvm.Cond.code ({ cls := "SafeClearsModel", name := "turns", desc := "()V" } : Jvm.MethodName) prog_22_method_50_code (1 : Nat) (Option.none : Option Jvm.ClassFile.FieldType)) ∈ lw_all := lw_g (lw_at lw_m8 138 rfl) rfl
theorem q1910 : (Jvm.Cond.methodLink "SafeClearsModel" (176 : Nat) ({ cls := "SafeClearsModel", name := "coming", desc := "()V" } : Jvm.MethodName)) ∈ lw_all := lw_g (lw_at lw_m8 139 rfl) rfl
theorem q1911 : (Jvm.Cond.privateMethod ({ cls := "SafeClearsModel", name := "coming", desc := "()V" } : Jvm.MethodName)) ∈ lw_tbl := lw_at lw_m8 140 rfl
theorem q1912 : (Jvm.Cond.instanceMethod ({ cls := "SafeClearsModel", name := "coming", desc := "()V" } : Jvm.MethodName)) ∈ lw_all := lw_g (lw_at lw_m8 141 rfl) rfl
theorem q1913 : (Jvm.Cond.code ({ cls := "SafeClearsModel", name := "coming", desc := "()V" } : Jvm.MethodName) prog_22_method_37_code (2 : Nat) (Option.none : Option Jvm.ClassFile.FieldType)) ∈ lw_all := lw_g (lw_at lw_m8 142 rfl) rfl
theorem q1914 : (Jvm.Cond.methodLink "SafeClearsModel" (145 : Nat) ({ cls := "SafeClearsModel", name := "draws", desc := "(I)I" } : Jvm.MethodName)) ∈ lw_all := lw_g (lw_at lw_m8 143 rfl) rfl
theorem q1915 : (Jvm.Cond.privateMethod ({ cls := "SafeClearsModel", name := "draws", desc := "(I)I" } : Jvm.MethodName)) ∈ lw_tbl := lw_at lw_m8 144 rfl
theorem q1916 : (Jvm.Cond.instanceMethod ({ cls := "SafeClearsModel", name := "draws", desc := "(I)I" } : Jvm.MethodName)) ∈ lw_all := lw_g (lw_at lw_m8 145 rfl) rfl
theorem q1917 : (Jvm.Cond.code ({ cls := "SafeClearsModel", name := "draws", desc := "(I)I" } : Jvm.MethodName) prog_22_method_35_code (2 : Nat) (Option.some Jvm.ClassFile.FieldType.int)) ∈ lw_all := lw_g (lw_at lw_m8 146 rfl) rfl
theorem q1918 : (Jvm.Cond.constant "SafeClearsModel" (144 : Nat) (1103515245 : Int32)) ∈ lw_all := lw_g (lw_at lw_m8 147 rfl) rfl
theorem q1919 : (Jvm.Cond.methodLink "SafeClearsModel" (179 : Nat) ({ cls := "SafeClearsModel", name := "changesByEmergency", desc := "()V" } : Jvm.MethodName)) ∈ lw_all := lw_g (lw_at lw_m8 148 rfl) rfl
theorem q1920 : (Jvm.Cond.privateMethod ({ cls := "SafeClearsModel", name := "changesByEmergency", desc := "()V" } : Jvm.MethodName)) ∈ lw_tbl := lw_at lw_m8 149 rfl
theorem q1921 : (Jvm.Cond.instanceMethod ({ cls := "SafeClearsModel", name := "changesByEmergency", desc := "()V" } : Jvm.MethodName)) ∈ lw_all := lw_g (lw_at lw_m8 150 rfl) rfl
theorem q1922 : (Jvm.Cond.code ({ cls := "SafeClearsModel", name := "changesByEmergency", desc := "()V" } : Jvm.MethodName) prog_22_method_44_code (4 : Nat) (Option.none : Option Jvm.ClassFile.FieldType)) ∈ lw_all := lw_g (lw_at lw_m8 151 rfl) rfl
theorem q1923 : (Jvm.Cond.methodLink "SafeClearsModel" (157 : Nat) ({ cls := "SafeClearsModel", name := "greenFor", desc := "(I)I" } : Jvm.MethodName)) ∈ lw_all := lw_g (lw_at lw_m8 152 rfl) rfl
theorem q1924 : (Jvm.Cond.privateMethod ({ cls := "SafeClearsModel", name := "greenFor", desc := "(I)I" } : Jvm.MethodName)) ∈ lw_tbl := lw_at lw_m8 153 rfl
theorem q1925 : (Jvm.Cond.instanceMethod ({ cls := "SafeClearsModel", name := "greenFor", desc := "(I)I" } : Jvm.MethodName)) ∈ lw_all := lw_g (lw_at lw_m8 154 rfl) rfl
theorem q1926 : (Jvm.Cond.code ({ cls := "SafeClearsModel", name := "greenFor", desc := "(I)I" } : Jvm.MethodName) prog_22_method_42_code (2 : Nat) (Option.some Jvm.ClassFile.FieldType.int)) ∈ lw_all := lw_g (lw_at lw_m8 155 rfl) rfl
theorem q1927 : (Jvm.Cond.methodLink "SafeClearsModel" (163 : Nat) ({ cls := "SafeClearsModel", name := "changes", desc := "(I)V" } : Jvm.MethodName)) ∈ lw_all := lw_g (lw_at lw_m8 156 rfl) rfl
theorem q1928 : (Jvm.Cond.privateMethod ({ cls := "SafeClearsModel", name := "changes", desc := "(I)V" } : Jvm.MethodName)) ∈ lw_tbl := lw_at lw_m8 157 rfl
theorem q1929 : (Jvm.Cond.instanceMethod ({ cls := "SafeClearsModel", name := "changes", desc := "(I)V" } : Jvm.MethodName)) ∈ lw_all := lw_g (lw_at lw_m8 158 rfl) rfl
theorem q1930 : (Jvm.Cond.code ({ cls := "SafeClearsModel", name := "changes", desc := "(I)V" } : Jvm.MethodName) prog_22_method_43_code (4 : Nat) (Option.none : Option Jvm.ClassFile.FieldType)) ∈ lw_all := lw_g (lw_at lw_m8 159 rfl) rfl
theorem q1931 : (Jvm.Cond.methodLink "SafeClearsModel" (182 : Nat) ({ cls := "SafeClearsModel", name := "changesByCalls", desc := "()V" } : Jvm.MethodName)) ∈ lw_all := lw_g (lw_at lw_m8 160 rfl) rfl
theorem q1932 : (Jvm.Cond.privateMethod ({ cls := "SafeClearsModel", name := "changesByCalls", desc := "()V" } : Jvm.MethodName)) ∈ lw_tbl := lw_at lw_m8 161 rfl
theorem q1933 : (Jvm.Cond.instanceMethod ({ cls := "SafeClearsModel", name := "changesByCalls", desc := "()V" } : Jvm.MethodName)) ∈ lw_all := lw_g (lw_at lw_m8 162 rfl) rfl
theorem q1934 : (Jvm.Cond.code ({ cls := "SafeClearsModel", name := "changesByCalls", desc := "()V" } : Jvm.MethodName) prog_22_method_45_code (8 : Nat) (Option.none : Option Jvm.ClassFile.FieldType)) ∈ lw_all := lw_g (lw_at lw_m8 163 rfl) rfl
theorem q1935 : (Jvm.Cond.methodLink "SafeClearsModel" (166 : Nat) ({ cls := "SafeClearsModel", name := "called", desc := "()I" } : Jvm.MethodName)) ∈ lw_all := lw_g (lw_at lw_m8 164 rfl) rfl
theorem q1936 : (Jvm.Cond.privateMethod ({ cls := "SafeClearsModel", name := "called", desc := "()I" } : Jvm.MethodName)) ∈ lw_tbl := lw_at lw_m8 165 rfl
theorem q1937 : (Jvm.Cond.instanceMethod ({ cls := "SafeClearsModel", name := "called", desc := "()I" } : Jvm.MethodName)) ∈ lw_all := lw_g (lw_at lw_m8 166 rfl) rfl
theorem q1938 : (Jvm.Cond.code ({ cls := "SafeClearsModel", name := "called", desc := "()I" } : Jvm.MethodName) prog_22_method_40_code (3 : Nat) (Option.some Jvm.ClassFile.FieldType.int)) ∈ lw_all := lw_g (lw_at lw_m8 167 rfl) rfl
theorem q1939 : (Jvm.Cond.methodLink "SafeClearsModel" (154 : Nat) ({ cls := "SafeClearsModel", name := "isCalled", desc := "(I)Z" } : Jvm.MethodName)) ∈ lw_all := lw_g (lw_at lw_m8 168 rfl) rfl
theorem q1940 : (Jvm.Cond.privateMethod ({ cls := "SafeClearsModel", name := "isCalled", desc := "(I)Z" } : Jvm.MethodName)) ∈ lw_tbl := lw_at lw_m8 169 rfl
theorem q1941 : (Jvm.Cond.instanceMethod ({ cls := "SafeClearsModel", name := "isCalled", desc := "(I)Z" } : Jvm.MethodName)) ∈ lw_all := lw_g (lw_at lw_m8 170 rfl) rfl
theorem q1942 : (Jvm.Cond.code ({ cls := "SafeClearsModel", name := "isCalled", desc := "(I)Z" } : Jvm.MethodName) prog_22_method_39_code (4 : Nat) (Option.some Jvm.ClassFile.FieldType.boolean)) ∈ lw_all := lw_g (lw_at lw_m8 171 rfl) rfl
theorem q1943 : (Jvm.Cond.methodLink "SafeClearsModel" (170 : Nat) ({ cls := "SafeClearsModel", name := "local", desc := "()I" } : Jvm.MethodName)) ∈ lw_all := lw_g (lw_at lw_m8 172 rfl) rfl
theorem q1944 : (Jvm.Cond.privateMethod ({ cls := "SafeClearsModel", name := "local", desc := "()I" } : Jvm.MethodName)) ∈ lw_tbl := lw_at lw_m8 173 rfl
theorem q1945 : (Jvm.Cond.instanceMethod ({ cls := "SafeClearsModel", name := "local", desc := "()I" } : Jvm.MethodName)) ∈ lw_all := lw_g (lw_at lw_m8 174 rfl) rfl
theorem q1946 : (Jvm.Cond.code ({ cls := "SafeClearsModel", name := "local", desc := "()I" } : Jvm.MethodName) prog_22_method_38_code (2 : Nat) (Option.some Jvm.ClassFile.FieldType.int)) ∈ lw_all := lw_g (lw_at lw_m8 175 rfl) rfl
theorem q1947 : (Jvm.Cond.methodLink "SafeClearsModel" (185 : Nat) ({ cls := "SafeClearsModel", name := "turning", desc := "()V" } : Jvm.MethodName)) ∈ lw_all := lw_g (lw_at lw_m8 176 rfl) rfl
theorem q1948 : (Jvm.Cond.privateMethod ({ cls := "SafeClearsModel", name := "turning", desc := "()V" } : Jvm.MethodName)) ∈ lw_tbl := lw_at lw_m8 177 rfl
theorem q1949 : (Jvm.Cond.instanceMethod ({ cls := "SafeClearsModel", name := "turning", desc := "()V" } : Jvm.MethodName)) ∈ lw_all := lw_g (lw_at lw_m8 178 rfl) rfl
theorem q1950 : (Jvm.Cond.code ({ cls := "SafeClearsModel", name := "turning", desc := "()V" } : Jvm.MethodName) prog_22_method_47_code (2 : Nat) (Option.none : Option Jvm.ClassFile.FieldType)) ∈ lw_all := lw_g (lw_at lw_m8 179 rfl) rfl
theorem q1951 : (Jvm.Cond.methodLink "SafeClearsModel" (173 : Nat) ({ cls := "SafeClearsModel", name := "mayTurn", desc := "(I)Z" } : Jvm.MethodName)) ∈ lw_all := lw_g (lw_at lw_m8 180 rfl) rfl
theorem q1952 : (Jvm.Cond.privateMethod ({ cls := "SafeClearsModel", name := "mayTurn", desc := "(I)Z" } : Jvm.MethodName)) ∈ lw_tbl := lw_at lw_m8 181 rfl
theorem q1953 : (Jvm.Cond.instanceMethod ({ cls := "SafeClearsModel", name := "mayTurn", desc := "(I)Z" } : Jvm.MethodName)) ∈ lw_all := lw_g (lw_at lw_m8 182 rfl) rfl
theorem q1954 : (Jvm.Cond.code ({ cls := "SafeClearsModel", name := "mayTurn", desc := "(I)Z" } : Jvm.MethodName) prog_22_method_46_code (3 : Nat) (Option.some Jvm.ClassFile.FieldType.boolean)) ∈ lw_all := lw_g (lw_at lw_m8 183 rfl) rfl
theorem q1955 : (Jvm.Cond.methodLink "SafeClearsModel" (197 : Nat) ({ cls := "SafeClearsModel", name := "ends", desc := "()V" } : Jvm.MethodName)) ∈ lw_all := lw_g (lw_at lw_m8 184 rfl) rfl
theorem q1956 : (Jvm.Cond.privateMethod ({ cls := "SafeClearsModel", name := "ends", desc := "()V" } : Jvm.MethodName)) ∈ lw_tbl := lw_at lw_m8 185 rfl
theorem q1957 : (Jvm.Cond.instanceMethod ({ cls := "SafeClearsModel", name := "ends", desc := "()V" } : Jvm.MethodName)) ∈ lw_all := lw_g (lw_at lw_m8 186 rfl) rfl
theorem q1958 : (Jvm.Cond.code ({ cls := "SafeClearsModel", name := "ends", desc := "()V" } : Jvm.MethodName) prog_22_method_51_code (1 : Nat) (Option.none : Option Jvm.ClassFile.FieldType)) ∈ lw_all := lw_g (lw_at lw_m8 187 rfl) rfl
theorem q1959 : (Jvm.Cond.methodLink "SafeClearsModel" (188 : Nat) ({ cls := "SafeClearsModel", name := "going", desc := "()V" } : Jvm.MethodName)) ∈ lw_all := lw_g (lw_at lw_m8 188 rfl) rfl
theorem q1960 : (Jvm.Cond.privateMethod ({ cls := "SafeClearsModel", name := "going", desc := "()V" } : Jvm.MethodName)) ∈ lw_tbl := lw_at lw_m8 189 rfl
theorem q1961 : (Jvm.Cond.instanceMethod ({ cls := "SafeClearsModel", name := "going", desc := "()V" } : Jvm.MethodName)) ∈ lw_all := lw_g (lw_at lw_m8 190 rfl) rfl
theorem q1962 : (Jvm.Cond.code ({ cls := "SafeClearsModel", name := "going", desc := "()V" } : Jvm.MethodName) prog_22_method_48_code (6 : Nat) (Option.none : Option Jvm.ClassFile.FieldType)) ∈ lw_all := lw_g (lw_at lw_m8 191 rfl) rfl
theorem q1963 : (Jvm.Cond.methodLink "SafeClearsModel" (191 : Nat) ({ cls := "SafeClearsModel", name := "queues", desc := "()I" } : Jvm.MethodName)) ∈ lw_all := lw_g (lw_at lw_m8 192 rfl) rfl
theorem q1964 : (Jvm.Cond.privateMethod ({ cls := "SafeClearsModel", name := "queues", desc := "()I" } : Jvm.MethodName)) ∈ lw_tbl := lw_at lw_m8 193 rfl
theorem q1965 : (Jvm.Cond.instanceMethod ({ cls := "SafeClearsModel", name := "queues", desc := "()I" } : Jvm.MethodName)) ∈ lw_all := lw_g (lw_at lw_m8 194 rfl) rfl
theorem q1966 : (Jvm.Cond.code ({ cls := "SafeClearsModel", name := "queues", desc := "()I" } : Jvm.MethodName) prog_22_method_49_code (3 : Nat) (Option.some Jvm.ClassFile.FieldType.int)) ∈ lw_all := lw_g (lw_at lw_m8 195 rfl) rfl
theorem q1968 : (Jvm.Cond.instanceMethod ({ cls := "SafeClearsModel", name := "told", desc := "(I)I" } : Jvm.MethodName)) ∈ lw_all := lw_g (lw_at lw_m8 197 rfl) rfl
theorem q1969 : (Jvm.Cond.selects "SafeClearsModel" ({ cls := "SafeClearsModel", name := "told", desc := "(I)I" } : Jvm.MethodName) ({ cls := "SafeClearsModel", name := "told", desc := "(I)I" } : Jvm.MethodName)) ∈ lw_all := lw_g (lw_at lw_m8 198 rfl) rfl
theorem q1970 : (Jvm.Cond.code ({ cls := "SafeClearsModel", name := "told", desc := "(I)I" } : Jvm.MethodName) prog_22_method_62_code (2 : Nat) (Option.some Jvm.ClassFile.FieldType.int)) ∈ lw_all := lw_g (lw_at lw_m8 199 rfl) rfl
theorem q1971 : (Jvm.Cond.methodLink "SafeClearsModel" (212 : Nat) ({ cls := "SafeClearsModel", name := "lights", desc := "(I)I" } : Jvm.MethodName)) ∈ lw_all := lw_g (lw_at lw_m8 200 rfl) rfl
theorem q1972 : (Jvm.Cond.privateMethod ({ cls := "SafeClearsModel", name := "lights", desc := "(I)I" } : Jvm.MethodName)) ∈ lw_tbl := lw_at lw_m8 201 rfl
theorem q1973 : (Jvm.Cond.instanceMethod ({ cls := "SafeClearsModel", name := "lights", desc := "(I)I" } : Jvm.MethodName)) ∈ lw_all := lw_g (lw_at lw_m8 202 rfl) rfl
theorem q1974 : (Jvm.Cond.code ({ cls := "SafeClearsModel", name := "lights", desc := "(I)I" } : Jvm.MethodName) prog_22_method_61_code (4 : Nat) (Option.some Jvm.ClassFile.FieldType.int)) ∈ lw_all := lw_g (lw_at lw_m8 203 rfl) rfl
theorem q1975 : (Jvm.Cond.methodLink "SafeClearsModel" (209 : Nat) ({ cls := "SafeClearsModel", name := "light", desc := "(I)I" } : Jvm.MethodName)) ∈ lw_all := lw_g (lw_at lw_m8 204 rfl) rfl
theorem q1976 : (Jvm.Cond.privateMethod ({ cls := "SafeClearsModel", name := "light", desc := "(I)I" } : Jvm.MethodName)) ∈ lw_tbl := lw_at lw_m8 205 rfl
theorem q1977 : (Jvm.Cond.instanceMethod ({ cls := "SafeClearsModel", name := "light", desc := "(I)I" } : Jvm.MethodName)) ∈ lw_all := lw_g (lw_at lw_m8 206 rfl) rfl
theorem q1978 : (Jvm.Cond.code ({ cls := "SafeClearsModel", name := "light", desc := "(I)I" } : Jvm.MethodName) prog_22_method_60_code (2 : Nat) (Option.some Jvm.ClassFile.FieldType.int)) ∈ lw_all := lw_g (lw_at lw_m8 207 rfl) rfl
theorem q1980 : (Jvm.Cond.instanceMethod ({ cls := "SafeClearsModel", name := "of", desc := "(II)I" } : Jvm.MethodName)) ∈ lw_all := lw_g (lw_at lw_m8 209 rfl) rfl
theorem q1981 : (Jvm.Cond.selects "SafeClearsModel" ({ cls := "SafeClearsModel", name := "of", desc := "(II)I" } : Jvm.MethodName) ({ cls := "SafeClearsModel", name := "of", desc := "(II)I" } : Jvm.MethodName)) ∈ lw_all := lw_g (lw_at lw_m8 210 rfl) rfl
theorem q1982 : (Jvm.Cond.code ({ cls := "SafeClearsModel", name := "of", desc := "(II)I" } : Jvm.MethodName) prog_22_method_63_code (3 : Nat) (Option.some Jvm.ClassFile.FieldType.int)) ∈ lw_all := lw_g (lw_at lw_m8 211 rfl) rfl
theorem q1984 : (Jvm.Cond.instanceMethod ({ cls := "SafeClearsModel", name := "way", desc := "(II)I" } : Jvm.MethodName)) ∈ lw_all := lw_g (lw_at lw_m8 213 rfl) rfl
theorem q1985 : (Jvm.Cond.selects "SafeClearsModel" ({ cls := "SafeClearsModel", name := "way", desc := "(II)I" } : Jvm.MethodName) ({ cls := "SafeClearsModel", name := "way", desc := "(II)I" } : Jvm.MethodName)) ∈ lw_all := lw_g (lw_at lw_m8 214 rfl) rfl
theorem q1986 : (Jvm.Cond.code ({ cls := "SafeClearsModel", name := "way", desc := "(II)I" } : Jvm.MethodName) prog_22_method_64_code (3 : Nat) (Option.some Jvm.ClassFile.FieldType.int)) ∈ lw_all := lw_g (lw_at lw_m8 215 rfl) rfl
theorem q1988 : (Jvm.Cond.instanceMethod ({ cls := "SafeClearsModel", name := "clear", desc := "(II)I" } : Jvm.MethodName)) ∈ lw_all := lw_g (lw_at lw_m8 217 rfl) rfl
theorem q1989 : (Jvm.Cond.selects "SafeClearsModel" ({ cls := "SafeClearsModel", name := "clear", desc := "(II)I" } : Jvm.MethodName) ({ cls := "SafeClearsModel", name := "clear", desc := "(II)I" } : Jvm.MethodName)) ∈ lw_all := lw_g (lw_at lw_m8 218 rfl) rfl
theorem q1990 : (Jvm.Cond.code ({ cls := "SafeClearsModel", name := "clear", desc := "(II)I" } : Jvm.MethodName) prog_22_method_65_code (3 : Nat) (Option.some Jvm.ClassFile.FieldType.int)) ∈ lw_all := lw_g (lw_at lw_m8 219 rfl) rfl
theorem q1992 : (Jvm.Cond.instanceMethod ({ cls := "SafeClearsModel", name := "narrow", desc := "(II)I" } : Jvm.MethodName)) ∈ lw_all := lw_g (lw_at lw_m8 221 rfl) rfl
theorem q1993 : (Jvm.Cond.selects "SafeClearsModel" ({ cls := "SafeClearsModel", name := "narrow", desc := "(II)I" } : Jvm.MethodName) ({ cls := "SafeClearsModel", name := "narrow", desc := "(II)I" } : Jvm.MethodName)) ∈ lw_all := lw_g (lw_at lw_m8 222 rfl) rfl
theorem q1994 : (Jvm.Cond.code ({ cls := "SafeClearsModel", name := "narrow", desc := "(II)I" } : Jvm.MethodName) prog_22_method_66_code (3 : Nat) (Option.some Jvm.ClassFile.FieldType.int)) ∈ lw_all := lw_g (lw_at lw_m8 223 rfl) rfl
theorem q1996 : (Jvm.Cond.instanceMethod ({ cls := "SafeClearsModel", name := "table", desc := "(I)I" } : Jvm.MethodName)) ∈ lw_all := lw_g (lw_at lw_m8 225 rfl) rfl
theorem q1997 : (Jvm.Cond.selects "SafeClearsModel" ({ cls := "SafeClearsModel", name := "table", desc := "(I)I" } : Jvm.MethodName) ({ cls := "SafeClearsModel", name := "table", desc := "(I)I" } : Jvm.MethodName)) ∈ lw_all := lw_g (lw_at lw_m8 226 rfl) rfl
theorem q1998 : (Jvm.Cond.code ({ cls := "SafeClearsModel", name := "table", desc := "(I)I" } : Jvm.MethodName) prog_22_method_67_code (8 : Nat) (Option.some Jvm.ClassFile.FieldType.int)) ∈ lw_all := lw_g (lw_at lw_m8 227 rfl) rfl
theorem q2000 : (Jvm.Cond.instanceMethod ({ cls := "SafeClearsModel", name := "phaseOf", desc := "(II)I" } : Jvm.MethodName)) ∈ lw_all := lw_g (lw_at lw_m8 229 rfl) rfl
theorem q2001 : (Jvm.Cond.selects "SafeClearsModel" ({ cls := "SafeClearsModel", name := "phaseOf", desc := "(II)I" } : Jvm.MethodName) ({ cls := "SafeClearsModel", name := "phaseOf", desc := "(II)I" } : Jvm.MethodName)) ∈ lw_all := lw_g (lw_at lw_m8 230 rfl) rfl
theorem q2002 : (Jvm.Cond.code ({ cls := "SafeClearsModel", name := "phaseOf", desc := "(II)I" } : Jvm.MethodName) prog_22_method_68_code (3 : Nat) (Option.some Jvm.ClassFile.FieldType.int)) ∈ lw_all := lw_g (lw_at lw_m8 231 rfl) rfl
theorem q2003 : (Jvm.Cond.methodLink "SafeClearsModel" (215 : Nat) ({ cls := "SafeClearsModel", name := "isPhase", desc := "(I)Z" } : Jvm.MethodName)) ∈ lw_all := lw_g (lw_at lw_m8 232 rfl) rfl
theorem q2004 : (Jvm.Cond.privateMethod ({ cls := "SafeClearsModel", name := "isPhase", desc := "(I)Z" } : Jvm.MethodName)) ∈ lw_tbl := lw_at lw_m8 233 rfl
theorem q2005 : (Jvm.Cond.instanceMethod ({ cls := "SafeClearsModel", name := "isPhase", desc := "(I)Z" } : Jvm.MethodName)) ∈ lw_all := lw_g (lw_at lw_m8 234 rfl) rfl
theorem q2006 : (Jvm.Cond.code ({ cls := "SafeClearsModel", name := "isPhase", desc := "(I)Z" } : Jvm.MethodName) prog_22_method_5_code (2 : Nat) (Option.some Jvm.ClassFile.FieldType.boolean)) ∈ lw_all := lw_g (lw_at lw_m8 235 rfl) rfl
theorem q2008 : (Jvm.Cond.instanceMethod ({ cls := "SafeClearsModel", name := "taken", desc := "(II)I" } : Jvm.MethodName)) ∈ lw_all := lw_g (lw_at lw_m8 237 rfl) rfl
theorem q2009 : (Jvm.Cond.selects "SafeClearsModel" ({ cls := "SafeClearsModel", name := "taken", desc := "(II)I" } : Jvm.MethodName) ({ cls := "SafeClearsModel", name := "taken", desc := "(II)I" } : Jvm.MethodName)) ∈ lw_all := lw_g (lw_at lw_m8 238 rfl) rfl
theorem q2010 : (Jvm.Cond.code ({ cls := "SafeClearsModel", name := "taken", desc := "(II)I" } : Jvm.MethodName) prog_22_method_69_code (5 : Nat) (Option.some Jvm.ClassFile.FieldType.int)) ∈ lw_all := lw_g (lw_at lw_m8 239 rfl) rfl
theorem q2012 : (Jvm.Cond.instanceMethod ({ cls := "SafeClearsModel", name := "recorded", desc := "(II)I" } : Jvm.MethodName)) ∈ lw_all := lw_g (lw_at lw_m9 1 rfl) rfl
theorem q2013 : (Jvm.Cond.selects "SafeClearsModel" ({ cls := "SafeClearsModel", name := "recorded", desc := "(II)I" } : Jvm.MethodName) ({ cls := "SafeClearsModel", name := "recorded", desc := "(II)I" } : Jvm.MethodName)) ∈ lw_all := lw_g (lw_at lw_m9 2 rfl) rfl
theorem q2014 : (Jvm.Cond.code ({ cls := "SafeClearsModel", name := "recorded", desc := "(II)I" } : Jvm.MethodName) prog_22_method_71_code (3 : Nat) (Option.some Jvm.ClassFile.FieldType.int)) ∈ lw_all := lw_g (lw_at lw_m9 3 rfl) rfl
theorem q2015 : (Jvm.Cond.methodLink "SafeClearsModel" (218 : Nat) ({ cls := "SafeClearsModel", name := "recordAt", desc := "(II)I" } : Jvm.MethodName)) ∈ lw_all := lw_g (lw_at lw_m9 4 rfl) rfl
theorem q2016 : (Jvm.Cond.privateMethod ({ cls := "SafeClearsModel", name := "recordAt", desc := "(II)I" } : Jvm.MethodName)) ∈ lw_tbl := lw_at lw_m9 5 rfl
theorem q2017 : (Jvm.Cond.instanceMethod ({ cls := "SafeClearsModel", name := "recordAt", desc := "(II)I" } : Jvm.MethodName)) ∈ lw_all := lw_g (lw_at lw_m9 6 rfl) rfl
theorem q2018 : (Jvm.Cond.code ({ cls := "SafeClearsModel", name := "recordAt", desc := "(II)I" } : Jvm.MethodName) prog_22_method_70_code (3 : Nat) (Option.some Jvm.ClassFile.FieldType.int)) ∈ lw_all := lw_g (lw_at lw_m9 7 rfl) rfl
theorem q2020 : (Jvm.Cond.instanceMethod ({ cls := "SafeClearsModel", name := "greens", desc := "(II)I" } : Jvm.MethodName)) ∈ lw_all := lw_g (lw_at lw_m9 9 rfl) rfl
theorem q2021 : (Jvm.Cond.selects "SafeClearsModel" ({ cls := "SafeClearsModel", name := "greens", desc := "(II)I" } : Jvm.MethodName) ({ cls := "SafeClearsModel", name := "greens", desc := "(II)I" } : Jvm.MethodName)) ∈ lw_all := lw_g (lw_at lw_m9 10 rfl) rfl
theorem q2022 : (Jvm.Cond.code ({ cls := "SafeClearsModel", name := "greens", desc := "(II)I" } : Jvm.MethodName) prog_22_method_72_code (9 : Nat) (Option.some Jvm.ClassFile.FieldType.int)) ∈ lw_all := lw_g (lw_at lw_m9 11 rfl) rfl
theorem q2024 : (Jvm.Cond.instanceMethod ({ cls := "SafeClearsModel", name := "could", desc := "(III)I" } : Jvm.MethodName)) ∈ lw_all := lw_g (lw_at lw_m9 13 rfl) rfl
theorem q2025 : (Jvm.Cond.selects "SafeClearsModel" ({ cls := "SafeClearsModel", name := "could", desc := "(III)I" } : Jvm.MethodName) ({ cls := "SafeClearsModel", name := "could", desc := "(III)I" } : Jvm.MethodName)) ∈ lw_all := lw_g (lw_at lw_m9 14 rfl) rfl
theorem q2026 : (Jvm.Cond.code ({ cls := "SafeClearsModel", name := "could", desc := "(III)I" } : Jvm.MethodName) prog_22_method_75_code (4 : Nat) (Option.some Jvm.ClassFile.FieldType.int)) ∈ lw_all := lw_g (lw_at lw_m9 15 rfl) rfl
theorem q2027 : (Jvm.Cond.methodLink "SafeClearsModel" (225 : Nat) ({ cls := "SafeClearsModel", name := "coulds", desc := "(III)I" } : Jvm.MethodName)) ∈ lw_all := lw_g (lw_at lw_m9 16 rfl) rfl
theorem q2028 : (Jvm.Cond.privateMethod ({ cls := "SafeClearsModel", name := "coulds", desc := "(III)I" } : Jvm.MethodName)) ∈ lw_tbl := lw_at lw_m9 17 rfl
theorem q2029 : (Jvm.Cond.instanceMethod ({ cls := "SafeClearsModel", name := "coulds", desc := "(III)I" } : Jvm.MethodName)) ∈ lw_all := lw_g (lw_at lw_m9 18 rfl) rfl
theorem q2030 : (Jvm.Cond.code ({ cls := "SafeClearsModel", name := "coulds", desc := "(III)I" } : Jvm.MethodName) prog_22_method_74_code (7 : Nat) (Option.some Jvm.ClassFile.FieldType.int)) ∈ lw_all := lw_g (lw_at lw_m9 19 rfl) rfl
theorem q2031 : (Jvm.Cond.methodLink "SafeClearsModel" (221 : Nat) ({ cls := "SafeClearsModel", name := "couldBy", desc := "(IIIII)Z" } : Jvm.MethodName)) ∈ lw_all := lw_g (lw_at lw_m9 20 rfl) rfl
theorem q2032 : (Jvm.Cond.privateMethod ({ cls := "SafeClearsModel", name := "couldBy", desc := "(IIIII)Z" } : Jvm.MethodName)) ∈ lw_tbl := lw_at lw_m9 21 rfl
theorem q2033 : (Jvm.Cond.instanceMethod ({ cls := "SafeClearsModel", name := "couldBy", desc := "(IIIII)Z" } : Jvm.MethodName)) ∈ lw_all := lw_g (lw_at lw_m9 22 rfl) rfl
theorem q2034 : (Jvm.Cond.code ({ cls := "SafeClearsModel", name := "couldBy", desc := "(IIIII)Z" } : Jvm.MethodName) prog_22_method_73_code (7 : Nat) (Option.some Jvm.ClassFile.FieldType.boolean)) ∈ lw_all := lw_g (lw_at lw_m9 23 rfl) rfl
theorem q2036 : (Jvm.Cond.instanceMethod ({ cls := "SafeClearsModel", name := "crowded", desc := "(II)I" } : Jvm.MethodName)) ∈ lw_all := lw_g (lw_at lw_m9 25 rfl) rfl
theorem q2037 : (Jvm.Cond.selects "SafeClearsModel" ({ cls := "SafeClearsModel", name := "crowded", desc := "(II)I" } : Jvm.MethodName) ({ cls := "SafeClearsModel", name := "crowded", desc := "(II)I" } : Jvm.MethodName)) ∈ lw_all := lw_g (lw_at lw_m9 26 rfl) rfl
theorem q2038 : (Jvm.Cond.code ({ cls := "SafeClearsModel", name := "crowded", desc := "(II)I" } : Jvm.MethodName) prog_22_method_76_code (5 : Nat) (Option.some Jvm.ClassFile.FieldType.int)) ∈ lw_all := lw_g (lw_at lw_m9 27 rfl) rfl
theorem q2040 : (Jvm.Cond.instanceMethod ({ cls := "SafeClearsModel", name := "green", desc := "(III)I" } : Jvm.MethodName)) ∈ lw_all := lw_g (lw_at lw_m9 29 rfl) rfl
theorem q2041 : (Jvm.Cond.selects "SafeClearsModel" ({ cls := "SafeClearsModel", name := "green", desc := "(III)I" } : Jvm.MethodName) ({ cls := "SafeClearsModel", name := "green", desc := "(III)I" } : Jvm.MethodName)) ∈ lw_all := lw_g (lw_at lw_m9 30 rfl) rfl
theorem q2042 : (Jvm.Cond.code ({ cls := "SafeClearsModel", name := "green", desc := "(III)I" } : Jvm.MethodName) prog_22_method_77_code (5 : Nat) (Option.some Jvm.ClassFile.FieldType.int)) ∈ lw_all := lw_g (lw_at lw_m9 31 rfl) rfl
theorem q2044 : (Jvm.Cond.instanceMethod ({ cls := "SafeClearsModel", name := "proved", desc := "()I" } : Jvm.MethodName)) ∈ lw_all := lw_g (lw_at lw_m9 33 rfl) rfl
theorem q2045 : (Jvm.Cond.selects "SafeClearsModel" ({ cls := "SafeClearsModel", name := "proved", desc := "()I" } : Jvm.MethodName) ({ cls := "SafeClearsModel", name := "proved", desc := "()I" } : Jvm.MethodName)) ∈ lw_all := lw_g (lw_at lw_m9 34 rfl) rfl
theorem q2046 : (Jvm.Cond.code ({ cls := "SafeClearsModel", name := "proved", desc := "()I" } : Jvm.MethodName) prog_22_method_79_code (3 : Nat) (Option.some Jvm.ClassFile.FieldType.int)) ∈ lw_all := lw_g (lw_at lw_m9 35 rfl) rfl
theorem q2047 : (Jvm.Cond.methodLink "SafeClearsModel" (228 : Nat) ({ cls := "SafeClearsModel", name := "isSafe", desc := "(II)Z" } : Jvm.MethodName)) ∈ lw_all := lw_g (lw_at lw_m9 36 rfl) rfl
theorem q2048 : (Jvm.Cond.privateMethod ({ cls := "SafeClearsModel", name := "isSafe", desc := "(II)Z" } : Jvm.MethodName)) ∈ lw_tbl := lw_at lw_m9 37 rfl
theorem q2049 : (Jvm.Cond.instanceMethod ({ cls := "SafeClearsModel", name := "isSafe", desc := "(II)Z" } : Jvm.MethodName)) ∈ lw_all := lw_g (lw_at lw_m9 38 rfl) rfl
theorem q2050 : (Jvm.Cond.code ({ cls := "SafeClearsModel", name := "isSafe", desc := "(II)Z" } : Jvm.MethodName) prog_22_method_78_code (5 : Nat) (Option.some Jvm.ClassFile.FieldType.boolean)) ∈ lw_all := lw_g (lw_at lw_m9 39 rfl) rfl
theorem q2052 : (Jvm.Cond.instanceMethod ({ cls := "SafeClearsModel", name := "wave", desc := "(I)I" } : Jvm.MethodName)) ∈ lw_all := lw_g (lw_at lw_m9 41 rfl) rfl
theorem q2053 : (Jvm.Cond.selects "SafeClearsModel" ({ cls := "SafeClearsModel", name := "wave", desc := "(I)I" } : Jvm.MethodName) ({ cls := "SafeClearsModel", name := "wave", desc := "(I)I" } : Jvm.MethodName)) ∈ lw_all := lw_g (lw_at lw_m9 42 rfl) rfl
theorem q2054 : (Jvm.Cond.code ({ cls := "SafeClearsModel", name := "wave", desc := "(I)I" } : Jvm.MethodName) prog_22_method_80_code (3 : Nat) (Option.some Jvm.ClassFile.FieldType.int)) ∈ lw_all := lw_g (lw_at lw_m9 43 rfl) rfl
theorem q2056 : (Jvm.Cond.instanceMethod ({ cls := "SafeClearsModel", name := "node", desc := "(III)I" } : Jvm.MethodName)) ∈ lw_all := lw_g (lw_at lw_m9 45 rfl) rfl
theorem q2057 : (Jvm.Cond.selects "SafeClearsModel" ({ cls := "SafeClearsModel", name := "node", desc := "(III)I" } : Jvm.MethodName) ({ cls := "SafeClearsModel", name := "node", desc := "(III)I" } : Jvm.MethodName)) ∈ lw_all := lw_g (lw_at lw_m9 46 rfl) rfl
theorem q2058 : (Jvm.Cond.code ({ cls := "SafeClearsModel", name := "node", desc := "(III)I" } : Jvm.MethodName) prog_22_method_82_code (5 : Nat) (Option.some Jvm.ClassFile.FieldType.int)) ∈ lw_all := lw_g (lw_at lw_m9 47 rfl) rfl
theorem q2059 : (Jvm.Cond.methodLink "SafeClearsModel" (231 : Nat) ({ cls := "SafeClearsModel", name := "mayBe", desc := "(II)Z" } : Jvm.MethodName)) ∈ lw_all := lw_g (lw_at lw_m9 48 rfl) rfl
theorem q2060 : (Jvm.Cond.privateMethod ({ cls := "SafeClearsModel", name := "mayBe", desc := "(II)Z" } : Jvm.MethodName)) ∈ lw_tbl := lw_at lw_m9 49 rfl
theorem q2061 : (Jvm.Cond.instanceMethod ({ cls := "SafeClearsModel", name := "mayBe", desc := "(II)Z" } : Jvm.MethodName)) ∈ lw_all := lw_g (lw_at lw_m9 50 rfl) rfl
theorem q2062 : (Jvm.Cond.code ({ cls := "SafeClearsModel", name := "mayBe", desc := "(II)Z" } : Jvm.MethodName) prog_22_method_81_code (3 : Nat) (Option.some Jvm.ClassFile.FieldType.boolean)) ∈ lw_all := lw_g (lw_at lw_m9 51 rfl) rfl
theorem q2064 : (Jvm.Cond.instanceMethod ({ cls := "SafeClearsModel", name := "change", desc := "(III)I" } : Jvm.MethodName)) ∈ lw_all := lw_g (lw_at lw_m9 53 rfl) rfl
theorem q2065 : (Jvm.Cond.selects "SafeClearsModel" ({ cls := "SafeClearsModel", name := "change", desc := "(III)I" } : Jvm.MethodName) ({ cls := "SafeClearsModel", name := "change", desc := "(III)I" } : Jvm.MethodName)) ∈ lw_all := lw_g (lw_at lw_m9 54 rfl) rfl
theorem q2066 : (Jvm.Cond.code ({ cls := "SafeClearsModel", name := "change", desc := "(III)I" } : Jvm.MethodName) prog_22_method_84_code (5 : Nat) (Option.some Jvm.ClassFile.FieldType.int)) ∈ lw_all := lw_g (lw_at lw_m9 55 rfl) rfl
theorem q2067 : (Jvm.Cond.methodLink "SafeClearsModel" (234 : Nat) ({ cls := "SafeClearsModel", name := "isNode", desc := "(I)Z" } : Jvm.MethodName)) ∈ lw_all := lw_g (lw_at lw_m9 56 rfl) rfl
theorem q2068 : (Jvm.Cond.privateMethod ({ cls := "SafeClearsModel", name := "isNode", desc := "(I)Z" } : Jvm.MethodName)) ∈ lw_tbl := lw_at lw_m9 57 rfl
theorem q2069 : (Jvm.Cond.instanceMethod ({ cls := "SafeClearsModel", name := "isNode", desc := "(I)Z" } : Jvm.MethodName)) ∈ lw_all := lw_g (lw_at lw_m9 58 rfl) rfl
theorem q2070 : (Jvm.Cond.code ({ cls := "SafeClearsModel", name := "isNode", desc := "(I)Z" } : Jvm.MethodName) prog_22_method_83_code (2 : Nat) (Option.some Jvm.ClassFile.FieldType.boolean)) ∈ lw_all := lw_g (lw_at lw_m9 59 rfl) rfl
theorem q2072 : (Jvm.Cond.instanceMethod ({ cls := "SafeClearsModel", name := "band", desc := "(I)I" } : Jvm.MethodName)) ∈ lw_all := lw_g (lw_at lw_m9 61 rfl) rfl
theorem q2073 : (Jvm.Cond.selects "SafeClearsModel" ({ cls := "SafeClearsModel", name := "band", desc := "(I)I" } : Jvm.MethodName) ({ cls := "SafeClearsModel", name := "band", desc := "(I)I" } : Jvm.MethodName)) ∈ lw_all := lw_g (lw_at lw_m9 62 rfl) rfl
theorem q2074 : (Jvm.Cond.code ({ cls := "SafeClearsModel", name := "band", desc := "(I)I" } : Jvm.MethodName) prog_22_method_88_code (2 : Nat) (Option.some Jvm.ClassFile.FieldType.int)) ∈ lw_all := lw_g (lw_at lw_m9 63 rfl) rfl
theorem q2075 : (Jvm.Cond.methodLink "SafeClearsModel" (243 : Nat) ({ cls := "SafeClearsModel", name := "bands", desc := "()I" } : Jvm.MethodName)) ∈ lw_all := lw_g (lw_at lw_m9 64 rfl) rfl
theorem q2076 : (Jvm.Cond.privateMethod ({ cls := "SafeClearsModel", name := "bands", desc := "()I" } : Jvm.MethodName)) ∈ lw_tbl := lw_at lw_m9 65 rfl
theorem q2077 : (Jvm.Cond.instanceMethod ({ cls := "SafeClearsModel", name := "bands", desc := "()I" } : Jvm.MethodName)) ∈ lw_all := lw_g (lw_at lw_m9 66 rfl) rfl
theorem q2078 : (Jvm.Cond.code ({ cls := "SafeClearsModel", name := "bands", desc := "()I" } : Jvm.MethodName) prog_22_method_87_code (1 : Nat) (Option.some Jvm.ClassFile.FieldType.int)) ∈ lw_all := lw_g (lw_at lw_m9 67 rfl) rfl
theorem q2079 : (Jvm.Cond.methodLink "SafeClearsModel" (240 : Nat) ({ cls := "SafeClearsModel", name := "bandOf", desc := "(I)I" } : Jvm.MethodName)) ∈ lw_all := lw_g (lw_at lw_m9 68 rfl) rfl
theorem q2080 : (Jvm.Cond.privateMethod ({ cls := "SafeClearsModel", name := "bandOf", desc := "(I)I" } : Jvm.MethodName)) ∈ lw_tbl := lw_at lw_m9 69 rfl
theorem q2081 : (Jvm.Cond.instanceMethod ({ cls := "SafeClearsModel", name := "bandOf", desc := "(I)I" } : Jvm.MethodName)) ∈ lw_all := lw_g (lw_at lw_m9 70 rfl) rfl
theorem q2082 : (Jvm.Cond.code ({ cls := "SafeClearsModel", name := "bandOf", desc := "(I)I" } : Jvm.MethodName) prog_22_method_86_code (8 : Nat) (Option.some Jvm.ClassFile.FieldType.int)) ∈ lw_all := lw_g (lw_at lw_m9 71 rfl) rfl
theorem q2083 : (Jvm.Cond.methodLink "SafeClearsModel" (237 : Nat) ({ cls := "SafeClearsModel", name := "isOpen", desc := "(II)Z" } : Jvm.MethodName)) ∈ lw_all := lw_g (lw_at lw_m9 72 rfl) rfl
theorem q2084 : (Jvm.Cond.privateMethod ({ cls := "SafeClearsModel", name := "isOpen", desc := "(II)Z" } : Jvm.MethodName)) ∈ lw_tbl := lw_at lw_m9 73 rfl
theorem q2085 : (Jvm.Cond.instanceMethod ({ cls := "SafeClearsModel", name := "isOpen", desc := "(II)Z" } : Jvm.MethodName)) ∈ lw_all := lw_g (lw_at lw_m9 74 rfl) rfl
theorem q2086 : (Jvm.Cond.code ({ cls := "SafeClearsModel", name := "isOpen", desc := "(II)Z" } : Jvm.MethodName) prog_22_method_85_code (4 : Nat) (Option.some Jvm.ClassFile.FieldType.boolean)) ∈ lw_all := lw_g (lw_at lw_m9 75 rfl) rfl
theorem q2088 : (Jvm.Cond.instanceMethod ({ cls := "SafeClearsModel", name := "nodeBest", desc := "(II)I" } : Jvm.MethodName)) ∈ lw_all := lw_g (lw_at lw_m9 77 rfl) rfl
theorem q2089 : (Jvm.Cond.selects "SafeClearsModel" ({ cls := "SafeClearsModel", name := "nodeBest", desc := "(II)I" } : Jvm.MethodName) ({ cls := "SafeClearsModel", name := "nodeBest", desc := "(II)I" } : Jvm.MethodName)) ∈ lw_all := lw_g (lw_at lw_m9 78 rfl) rfl
theorem q2090 : (Jvm.Cond.code ({ cls := "SafeClearsModel", name := "nodeBest", desc := "(II)I" } : Jvm.MethodName) prog_22_method_90_code (4 : Nat) (Option.some Jvm.ClassFile.FieldType.int)) ∈ lw_all := lw_g (lw_at lw_m9 79 rfl) rfl
theorem q2091 : (Jvm.Cond.methodLink "SafeClearsModel" (249 : Nat) ({ cls := "SafeClearsModel", name := "bestOffset", desc := "(I)I" } : Jvm.MethodName)) ∈ lw_all := lw_g (lw_at lw_m9 80 rfl) rfl
theorem q2092 : (Jvm.Cond.privateMethod ({ cls := "SafeClearsModel", name := "bestOffset", desc := "(I)I" } : Jvm.MethodName)) ∈ lw_tbl := lw_at lw_m9 81 rfl
theorem q2093 : (Jvm.Cond.instanceMethod ({ cls := "SafeClearsModel", name := "bestOffset", desc := "(I)I" } : Jvm.MethodName)) ∈ lw_all := lw_g (lw_at lw_m9 82 rfl) rfl
theorem q2094 : (Jvm.Cond.code ({ cls := "SafeClearsModel", name := "bestOffset", desc := "(I)I" } : Jvm.MethodName) prog_22_method_89_code (6 : Nat) (Option.some Jvm.ClassFile.FieldType.int)) ∈ lw_all := lw_g (lw_at lw_m9 83 rfl) rfl
theorem q2096 : (Jvm.Cond.instanceMethod ({ cls := "SafeClearsModel", name := "tune", desc := "()I" } : Jvm.MethodName)) ∈ lw_all := lw_g (lw_at lw_m9 85 rfl) rfl
theorem q2097 : (Jvm.Cond.selects "SafeClearsModel" ({ cls := "SafeClearsModel", name := "tune", desc := "()I" } : Jvm.MethodName) ({ cls := "SafeClearsModel", name := "tune", desc := "()I" } : Jvm.MethodName)) ∈ lw_all := lw_g (lw_at lw_m9 86 rfl) rfl
theorem q2098 : (Jvm.Cond.code ({ cls := "SafeClearsModel", name := "tune", desc := "()I" } : Jvm.MethodName) prog_22_method_91_code (4 : Nat) (Option.some Jvm.ClassFile.FieldType.int)) ∈ lw_all := lw_g (lw_at lw_m9 87 rfl) rfl
theorem q2100 : (Jvm.Cond.instanceMethod ({ cls := "SafeClearsModel", name := "would", desc := "(II)I" } : Jvm.MethodName)) ∈ lw_all := lw_g (lw_at lw_m9 89 rfl) rfl
theorem q2101 : (Jvm.Cond.selects "SafeClearsModel" ({ cls := "SafeClearsModel", name := "would", desc := "(II)I" } : Jvm.MethodName) ({ cls := "SafeClearsModel", name := "would", desc := "(II)I" } : Jvm.MethodName)) ∈ lw_all := lw_g (lw_at lw_m9 90 rfl) rfl
theorem q2102 : (Jvm.Cond.code ({ cls := "SafeClearsModel", name := "would", desc := "(II)I" } : Jvm.MethodName) prog_22_method_94_code (4 : Nat) (Option.some Jvm.ClassFile.FieldType.int)) ∈ lw_all := lw_g (lw_at lw_m9 91 rfl) rfl
theorem q2103 : (Jvm.Cond.methodLink "SafeClearsModel" (256 : Nat) ({ cls := "SafeClearsModel", name := "thinks", desc := "()V" } : Jvm.MethodName)) ∈ lw_all := lw_g (lw_at lw_m9 92 rfl) rfl
theorem q2104 : (Jvm.Cond.privateMethod ({ cls := "SafeClearsModel", name := "thinks", desc := "()V" } : Jvm.MethodName)) ∈ lw_tbl := lw_at lw_m9 93 rfl
theorem q2105 : (Jvm.Cond.instanceMethod ({ cls := "SafeClearsModel", name := "thinks", desc := "()V" } : Jvm.MethodName)) ∈ lw_all := lw_g (lw_at lw_m9 94 rfl) rfl
theorem q2106 : (Jvm.Cond.code ({ cls := "SafeClearsModel", name := "thinks", desc := "()V" } : Jvm.MethodName) prog_22_method_92_code (1 : Nat) (Option.none : Option Jvm.ClassFile.FieldType)) ∈ lw_all := lw_g (lw_at lw_m9 95 rfl) rfl
theorem q2107 : (Jvm.Cond.methodLink "SafeClearsModel" (252 : Nat) ({ cls := "SafeClearsModel", name := "copies", desc := "([I[I)V" } : Jvm.MethodName)) ∈ lw_all := lw_g (lw_at lw_m9 96 rfl) rfl
theorem q2108 : (Jvm.Cond.static ({ cls := "SafeClearsModel", name := "copies", desc := "([I[I)V" } : Jvm.MethodName)) ∈ lw_all := lw_g (lw_at lw_m9 97 rfl) rfl
theorem q2109 : (Jvm.Cond.code ({ cls := "SafeClearsModel", name := "copies", desc := "([I[I)V" } : Jvm.MethodName) prog_22_method_11_code (3 : Nat) (Option.none : Option Jvm.ClassFile.FieldType)) ∈ lw_all := lw_g (lw_at lw_m9 98 rfl) rfl
theorem q2110 : (Jvm.Cond.methodLink "SafeClearsModel" (259 : Nat) ({ cls := "SafeClearsModel", name := "told", desc := "(I)I" } : Jvm.MethodName)) ∈ lw_all := lw_g (lw_at lw_m9 99 rfl) rfl
theorem q2111 : (Jvm.Cond.methodLink "SafeClearsModel" (262 : Nat) ({ cls := "SafeClearsModel", name := "forgets", desc := "()V" } : Jvm.MethodName)) ∈ lw_all := lw_g (lw_at lw_m9 100 rfl) rfl
theorem q2112 : (Jvm.Cond.privateMethod ({ cls := "SafeClearsModel", name := "forgets", desc := "()V" } : Jvm.MethodName)) ∈ lw_tbl := lw_at lw_m9 101 rfl
theorem q2113 : (Jvm.Cond.instanceMethod ({ cls := "SafeClearsModel", name := "forgets", desc := "()V" } : Jvm.MethodName)) ∈ lw_all := lw_g (lw_at lw_m9 102 rfl) rfl
theorem q2114 : (Jvm.Cond.code ({ cls := "SafeClearsModel", name := "forgets", desc := "()V" } : Jvm.MethodName) prog_22_method_93_code (1 : Nat) (Option.none : Option Jvm.ClassFile.FieldType)) ∈ lw_all := lw_g (lw_at lw_m9 103 rfl) rfl
theorem q2116 : (Jvm.Cond.instanceMethod ({ cls := "SafeClearsModel", name := "turns", desc := "(II)I" } : Jvm.MethodName)) ∈ lw_all := lw_g (lw_at lw_m9 105 rfl) rfl
theorem q2117 : (Jvm.Cond.selects "SafeClearsModel" ({ cls := "SafeClearsModel", name := "turns", desc := "(II)I" } : Jvm.MethodName) ({ cls := "SafeClearsModel", name := "turns", desc := "(II)I" } : Jvm.MethodName)) ∈ lw_all := lw_g (lw_at lw_m9 106 rfl) rfl
theorem q2118 : (Jvm.Cond.code ({ cls := "SafeClearsModel", name := "turns", desc := "(II)I" } : Jvm.MethodName) prog_22_method_95_code (5 : Nat) (Option.some Jvm.ClassFile.FieldType.int)) ∈ lw_all := lw_g (lw_at lw_m9 107 rfl) rfl
theorem q2120 : (Jvm.Cond.instanceMethod ({ cls := "SafeClearsModel", name := "best", desc := "(II)I" } : Jvm.MethodName)) ∈ lw_all := lw_g (lw_at lw_m9 109 rfl) rfl
theorem q2121 : (Jvm.Cond.selects "SafeClearsModel" ({ cls := "SafeClearsModel", name := "best", desc := "(II)I" } : Jvm.MethodName) ({ cls := "SafeClearsModel", name := "best", desc := "(II)I" } : Jvm.MethodName)) ∈ lw_all := lw_g (lw_at lw_m9 110 rfl) rfl
theorem q2122 : (Jvm.Cond.code ({ cls := "SafeClearsModel", name := "best", desc := "(II)I" } : Jvm.MethodName) prog_22_method_97_code (6 : Nat) (Option.some Jvm.ClassFile.FieldType.int)) ∈ lw_all := lw_g (lw_at lw_m9 111 rfl) rfl
theorem q2123 : (Jvm.Cond.methodLink "SafeClearsModel" (265 : Nat) ({ cls := "SafeClearsModel", name := "gaps", desc := "(I)V" } : Jvm.MethodName)) ∈ lw_all := lw_g (lw_at lw_m9 112 rfl) rfl
theorem q2124 : (Jvm.Cond.privateMethod ({ cls := "SafeClearsModel", name := "gaps", desc := "(I)V" } : Jvm.MethodName)) ∈ lw_tbl := lw_at lw_m9 113 rfl
theorem q2125 : (Jvm.Cond.instanceMethod ({ cls := "SafeClearsModel", name := "gaps", desc := "(I)V" } : Jvm.MethodName)) ∈ lw_all := lw_g (lw_at lw_m9 114 rfl) rfl
theorem q2126 : (Jvm.Cond.code ({ cls := "SafeClearsModel", name := "gaps", desc := "(I)V" } : Jvm.MethodName) prog_22_method_96_code (3 : Nat) (Option.none : Option Jvm.ClassFile.FieldType)) ∈ lw_all := lw_g (lw_at lw_m9 115 rfl) rfl
theorem q2128 : (Jvm.Cond.instanceMethod ({ cls := "SafeClearsModel", name := "note", desc := "(II)I" } : Jvm.MethodName)) ∈ lw_all := lw_g (lw_at lw_m9 117 rfl) rfl
theorem q2129 : (Jvm.Cond.selects "SafeClearsModel" ({ cls := "SafeClearsModel", name := "note", desc := "(II)I" } : Jvm.MethodName) ({ cls := "SafeClearsModel", name := "note", desc := "(II)I" } : Jvm.MethodName)) ∈ lw_all := lw_g (lw_at lw_m9 118 rfl) rfl
theorem q2130 : (Jvm.Cond.code ({ cls := "SafeClearsModel", name := "note", desc := "(II)I" } : Jvm.MethodName) prog_22_method_98_code (3 : Nat) (Option.some Jvm.ClassFile.FieldType.int)) ∈ lw_all := lw_g (lw_at lw_m9 119 rfl) rfl
theorem q2131 : (Jvm.Cond.constant "SafeClearsModel" (268 : Nat) (99999 : Int32)) ∈ lw_all := lw_g (lw_at lw_m9 120 rfl) rfl
theorem q2133 : (Jvm.Cond.instanceMethod ({ cls := "SafeClearsModel", name := "fits", desc := "(I)I" } : Jvm.MethodName)) ∈ lw_all := lw_g (lw_at lw_m9 122 rfl) rfl
theorem q2134 : (Jvm.Cond.selects "SafeClearsModel" ({ cls := "SafeClearsModel", name := "fits", desc := "(I)I" } : Jvm.MethodName) ({ cls := "SafeClearsModel", name := "fits", desc := "(I)I" } : Jvm.MethodName)) ∈ lw_all := lw_g (lw_at lw_m9 123 rfl) rfl
theorem q2135 : (Jvm.Cond.code ({ cls := "SafeClearsModel", name := "fits", desc := "(I)I" } : Jvm.MethodName) prog_22_method_100_code (5 : Nat) (Option.some Jvm.ClassFile.FieldType.int)) ∈ lw_all := lw_g (lw_at lw_m9 124 rfl) rfl
theorem q2136 : (Jvm.Cond.methodLink "SafeClearsModel" (269 : Nat) ({ cls := "SafeClearsModel", name := "notesSo", desc := "()I" } : Jvm.MethodName)) ∈ lw_all := lw_g (lw_at lw_m9 125 rfl) rfl
theorem q2137 : (Jvm.Cond.privateMethod ({ cls := "SafeClearsModel", name := "notesSo", desc := "()I" } : Jvm.MethodName)) ∈ lw_tbl := lw_at lw_m9 126 rfl
theorem q2138 : (Jvm.Cond.instanceMethod ({ cls := "SafeClearsModel", name := "notesSo", desc := "()I" } : Jvm.MethodName)) ∈ lw_all := lw_g (lw_at lw_m9 127 rfl) rfl
theorem q2139 : (Jvm.Cond.code ({ cls := "SafeClearsModel", name := "notesSo", desc := "()I" } : Jvm.MethodName) prog_22_method_99_code (5 : Nat) (Option.some Jvm.ClassFile.FieldType.int)) ∈ lw_all := lw_g (lw_at lw_m9 128 rfl) rfl
theorem q2141 : (Jvm.Cond.instanceMethod ({ cls := "SafeClearsModel", name := "day", desc := "(II)I" } : Jvm.MethodName)) ∈ lw_all := lw_g (lw_at lw_m9 130 rfl) rfl
theorem q2142 : (Jvm.Cond.selects "SafeClearsModel" ({ cls := "SafeClearsModel", name := "day", desc := "(II)I" } : Jvm.MethodName) ({ cls := "SafeClearsModel", name := "day", desc := "(II)I" } : Jvm.MethodName)) ∈ lw_all := lw_g (lw_at lw_m9 131 rfl) rfl
theorem q2143 : (Jvm.Cond.code ({ cls := "SafeClearsModel", name := "day", desc := "(II)I" } : Jvm.MethodName) prog_22_method_102_code (3 : Nat) (Option.some Jvm.ClassFile.FieldType.int)) ∈ lw_all := lw_g (lw_at lw_m9 132 rfl) rfl
theorem q2144 : (Jvm.Cond.methodLink "SafeClearsModel" (272 : Nat) ({ cls := "SafeClearsModel", name := "dayOf", desc := "(II)I" } : Jvm.MethodName)) ∈ lw_all := lw_g (lw_at lw_m9 133 rfl) rfl
theorem q2145 : (Jvm.Cond.privateMethod ({ cls := "SafeClearsModel", name := "dayOf", desc := "(II)I" } : Jvm.MethodName)) ∈ lw_tbl := lw_at lw_m9 134 rfl
theorem q2146 : (Jvm.Cond.instanceMethod ({ cls := "SafeClearsModel", name := "dayOf", desc := "(II)I" } : Jvm.MethodName)) ∈ lw_all := lw_g (lw_at lw_m9 135 rfl) rfl
theorem q2147 : (Jvm.Cond.code ({ cls := "SafeClearsModel", name := "dayOf", desc := "(II)I" } : Jvm.MethodName) prog_22_method_101_code (5 : Nat) (Option.some Jvm.ClassFile.FieldType.int)) ∈ lw_all := lw_g (lw_at lw_m9 136 rfl) rfl
theorem q2149 : (Jvm.Cond.instanceMethod ({ cls := "SafeClearsModel", name := "chance", desc := "(IIIII)J" } : Jvm.MethodName)) ∈ lw_all := lw_g (lw_at lw_m9 138 rfl) rfl
theorem q2150 : (Jvm.Cond.selects "SafeClearsModel" ({ cls := "SafeClearsModel", name := "chance", desc := "(IIIII)J" } : Jvm.MethodName) ({ cls := "SafeClearsModel", name := "chance", desc := "(IIIII)J" } : Jvm.MethodName)) ∈ lw_all := lw_g (lw_at lw_m9 139 rfl) rfl
theorem q2151 : (Jvm.Cond.code ({ cls := "SafeClearsModel", name := "chance", desc := "(IIIII)J" } : Jvm.MethodName) prog_22_method_105_code (8 : Nat) (Option.some Jvm.ClassFile.FieldType.long)) ∈ lw_all := lw_g (lw_at lw_m9 140 rfl) rfl
theorem q2152 : (Jvm.Cond.constantLong "SafeClearsModel" (278 : Nat) (-9223372036854775808 : Int64)) ∈ lw_all := lw_g (lw_at lw_m9 141 rfl) rfl
theorem q2153 : (Jvm.Cond.methodLink "SafeClearsModel" (280 : Nat) ({ cls := "SafeClearsModel", name := "part", desc := "(III)J" } : Jvm.MethodName)) ∈ lw_all := lw_g (lw_at lw_m9 142 rfl) rfl
theorem q2154 : (Jvm.Cond.static ({ cls := "SafeClearsModel", name := "part", desc := "(III)J" } : Jvm.MethodName)) ∈ lw_all := lw_g (lw_at lw_m9 143 rfl) rfl
theorem q2155 : (Jvm.Cond.code ({ cls := "SafeClearsModel", name := "part", desc := "(III)J" } : Jvm.MethodName) prog_22_method_104_code (3 : Nat) (Option.some Jvm.ClassFile.FieldType.long)) ∈ lw_all := lw_g (lw_at lw_m9 144 rfl) rfl
theorem q2156 : (Jvm.Cond.methodLink "SafeClearsModel" (275 : Nat) ({ cls := "SafeClearsModel", name := "common", desc := "(II)I" } : Jvm.MethodName)) ∈ lw_all := lw_g (lw_at lw_m9 145 rfl) rfl
theorem q2157 : (Jvm.Cond.static ({ cls := "SafeClearsModel", name := "common", desc := "(II)I" } : Jvm.MethodName)) ∈ lw_all := lw_g (lw_at lw_m9 146 rfl) rfl
theorem q2158 : (Jvm.Cond.code ({ cls := "SafeClearsModel", name := "common", desc := "(II)I" } : Jvm.MethodName) prog_22_method_103_code (2 : Nat) (Option.some Jvm.ClassFile.FieldType.int)) ∈ lw_all := lw_g (lw_at lw_m9 147 rfl) rfl
theorem q2160 : (Jvm.Cond.instanceMethod ({ cls := "SafeClearsModel", name := "mean", desc := "(I)J" } : Jvm.MethodName)) ∈ lw_all := lw_g (lw_at lw_m9 149 rfl) rfl
theorem q2161 : (Jvm.Cond.selects "SafeClearsModel" ({ cls := "SafeClearsModel", name := "mean", desc := "(I)J" } : Jvm.MethodName) ({ cls := "SafeClearsModel", name := "mean", desc := "(I)J" } : Jvm.MethodName)) ∈ lw_all := lw_g (lw_at lw_m9 150 rfl) rfl
theorem q2162 : (Jvm.Cond.code ({ cls := "SafeClearsModel", name := "mean", desc := "(I)J" } : Jvm.MethodName) prog_22_method_106_code (2 : Nat) (Option.some Jvm.ClassFile.FieldType.long)) ∈ lw_all := lw_g (lw_at lw_m9 151 rfl) rfl
theorem q2164 : (Jvm.Cond.instanceMethod ({ cls := "SafeClearsModel", name := "plan", desc := "(II)I" } : Jvm.MethodName)) ∈ lw_all := lw_g (lw_at lw_m9 153 rfl) rfl
theorem q2165 : (Jvm.Cond.selects "SafeClearsModel" ({ cls := "SafeClearsModel", name := "plan", desc := "(II)I" } : Jvm.MethodName) ({ cls := "SafeClearsModel", name := "plan", desc := "(II)I" } : Jvm.MethodName)) ∈ lw_all := lw_g (lw_at lw_m9 154 rfl) rfl
theorem q2166 : (Jvm.Cond.code ({ cls := "SafeClearsModel", name := "plan", desc := "(II)I" } : Jvm.MethodName) prog_22_method_107_code (3 : Nat) (Option.some Jvm.ClassFile.FieldType.int)) ∈ lw_all := lw_g (lw_at lw_m9 155 rfl) rfl
theorem q2168 : (Jvm.Cond.instanceMethod ({ cls := "SafeClearsModel", name := "ends", desc := "(I)I" } : Jvm.MethodName)) ∈ lw_all := lw_g (lw_at lw_m9 157 rfl) rfl
theorem q2169 : (Jvm.Cond.selects "SafeClearsModel" ({ cls := "SafeClearsModel", name := "ends", desc := "(I)I" } : Jvm.MethodName) ({ cls := "SafeClearsModel", name := "ends", desc := "(I)I" } : Jvm.MethodName)) ∈ lw_all := lw_g (lw_at lw_m9 158 rfl) rfl
theorem q2170 : (Jvm.Cond.code ({ cls := "SafeClearsModel", name := "ends", desc := "(I)I" } : Jvm.MethodName) prog_22_method_109_code (4 : Nat) (Option.some Jvm.ClassFile.FieldType.int)) ∈ lw_all := lw_g (lw_at lw_m9 159 rfl) rfl
theorem q2171 : (Jvm.Cond.methodLink "SafeClearsModel" (290 : Nat) ({ cls := "SafeClearsModel", name := "does", desc := "(II)V" } : Jvm.MethodName)) ∈ lw_all := lw_g (lw_at lw_m9 160 rfl) rfl
theorem q2172 : (Jvm.Cond.privateMethod ({ cls := "SafeClearsModel", name := "does", desc := "(II)V" } : Jvm.MethodName)) ∈ lw_tbl := lw_at lw_m9 161 rfl
theorem q2173 : (Jvm.Cond.instanceMethod ({ cls := "SafeClearsModel", name := "does", desc := "(II)V" } : Jvm.MethodName)) ∈ lw_all := lw_g (lw_at lw_m9 162 rfl) rfl
theorem q2174 : (Jvm.Cond.code ({ cls := "SafeClearsModel", name := "does", desc := "(II)V" } : Jvm.MethodName) prog_22_method_108_code (3 : Nat) (Option.none : Option Jvm.ClassFile.FieldType)) ∈ lw_all := lw_g (lw_at lw_m9 163 rfl) rfl
theorem q2175 : (Jvm.Cond.methodLink "SafeClearsModel" (284 : Nat) ({ cls := "SafeClearsModel", name := "emergency", desc := "(I)I" } : Jvm.MethodName)) ∈ lw_all := lw_g (lw_at lw_m9 164 rfl) rfl
theorem q2176 : (Jvm.Cond.methodLink "SafeClearsModel" (287 : Nat) ({ cls := "SafeClearsModel", name := "over", desc := "()I" } : Jvm.MethodName)) ∈ lw_all := lw_g (lw_at lw_m9 165 rfl) rfl
theorem q2178 : (Jvm.Cond.instanceMethod ({ cls := "SafeClearsModel", name := "judge", desc := "(II)I" } : Jvm.MethodName)) ∈ lw_all := lw_g (lw_at lw_m9 167 rfl) rfl
theorem q2179 : (Jvm.Cond.selects "SafeClearsModel" ({ cls := "SafeClearsModel", name := "judge", desc := "(II)I" } : Jvm.MethodName) ({ cls := "SafeClearsModel", name := "judge", desc := "(II)I" } : Jvm.MethodName)) ∈ lw_all := lw_g (lw_at lw_m9 168 rfl) rfl
theorem q2180 : (Jvm.Cond.code ({ cls := "SafeClearsModel", name := "judge", desc := "(II)I" } : Jvm.MethodName) prog_22_method_111_code (4 : Nat) (Option.some Jvm.ClassFile.FieldType.int)) ∈ lw_all := lw_g (lw_at lw_m9 169 rfl) rfl
theorem q2181 : (Jvm.Cond.methodLink "SafeClearsModel" (293 : Nat) ({ cls := "SafeClearsModel", name := "isTape", desc := "(I)Z" } : Jvm.MethodName)) ∈ lw_all := lw_g (lw_at lw_m9 170 rfl) rfl
theorem q2182 : (Jvm.Cond.static ({ cls := "SafeClearsModel", name := "isTape", desc := "(I)Z" } : Jvm.MethodName)) ∈ lw_all := lw_g (lw_at lw_m9 171 rfl) rfl
theorem q2183 : (Jvm.Cond.code ({ cls := "SafeClearsModel", name := "isTape", desc := "(I)Z" } : Jvm.MethodName) prog_22_method_110_code (1 : Nat) (Option.some Jvm.ClassFile.FieldType.boolean)) ∈ lw_all := lw_g (lw_at lw_m9 172 rfl) rfl
theorem q2185 : (Jvm.Cond.instanceMethod ({ cls := "SafeClearsModel", name := "image", desc := "()I" } : Jvm.MethodName)) ∈ lw_all := lw_g (lw_at lw_m9 174 rfl) rfl
theorem q2186 : (Jvm.Cond.selects "SafeClearsModel" ({ cls := "SafeClearsModel", name := "image", desc := "()I" } : Jvm.MethodName) ({ cls := "SafeClearsModel", name := "image", desc := "()I" } : Jvm.MethodName)) ∈ lw_all := lw_g (lw_at lw_m9 175 rfl) rfl
theorem q2187 : (Jvm.Cond.code ({ cls := "SafeClearsModel", name := "image", desc := "()I" } : Jvm.MethodName) prog_22_method_112_code (1 : Nat) (Option.some Jvm.ClassFile.FieldType.int)) ∈ lw_all := lw_g (lw_at lw_m9 176 rfl) rfl
theorem q2189 : (Jvm.Cond.instanceMethod ({ cls := "SafeClearsModel", name := "undo", desc := "()I" } : Jvm.MethodName)) ∈ lw_all := lw_g (lw_at lw_m9 178 rfl) rfl
theorem q2190 : (Jvm.Cond.selects "SafeClearsModel" ({ cls := "SafeClearsModel", name := "undo", desc := "()I" } : Jvm.MethodName) ({ cls := "SafeClearsModel", name := "undo", desc := "()I" } : Jvm.MethodName)) ∈ lw_all := lw_g (lw_at lw_m9 179 rfl) rfl
theorem q2191 : (Jvm.Cond.code ({ cls := "SafeClearsModel", name := "undo", desc := "()I" } : Jvm.MethodName) prog_22_method_113_code (1 : Nat) (Option.some Jvm.ClassFile.FieldType.int)) ∈ lw_all := lw_g (lw_at lw_m9 180 rfl) rfl
theorem q2193 : (Jvm.Cond.instanceMethod ({ cls := "SafeClearsModel", name := "count", desc := "(I)I" } : Jvm.MethodName)) ∈ lw_all := lw_g (lw_at lw_m9 182 rfl) rfl
theorem q2194 : (Jvm.Cond.selects "SafeClearsModel" ({ cls := "SafeClearsModel", name := "count", desc := "(I)I" } : Jvm.MethodName) ({ cls := "SafeClearsModel", name := "count", desc := "(I)I" } : Jvm.MethodName)) ∈ lw_all := lw_g (lw_at lw_m9 183 rfl) rfl
theorem q2195 : (Jvm.Cond.code ({ cls := "SafeClearsModel", name := "count", desc := "(I)I" } : Jvm.MethodName) prog_22_method_114_code (2 : Nat) (Option.some Jvm.ClassFile.FieldType.int)) ∈ lw_all := lw_g (lw_at lw_m9 184 rfl) rfl
theorem q2197 : (Jvm.Cond.instanceMethod ({ cls := "SafeClearsModel", name := "tape", desc := "(III)I" } : Jvm.MethodName)) ∈ lw_all := lw_g (lw_at lw_m9 186 rfl) rfl
theorem q2198 : (Jvm.Cond.selects "SafeClearsModel" ({ cls := "SafeClearsModel", name := "tape", desc := "(III)I" } : Jvm.MethodName) ({ cls := "SafeClearsModel", name := "tape", desc := "(III)I" } : Jvm.MethodName)) ∈ lw_all := lw_g (lw_at lw_m9 187 rfl) rfl
theorem q2199 : (Jvm.Cond.code ({ cls := "SafeClearsModel", name := "tape", desc := "(III)I" } : Jvm.MethodName) prog_22_method_115_code (5 : Nat) (Option.some Jvm.ClassFile.FieldType.int)) ∈ lw_all := lw_g (lw_at lw_m9 188 rfl) rfl
theorem q2201 : (Jvm.Cond.instanceMethod ({ cls := "SafeClearsModel", name := "item", desc := "(IIJ)I" } : Jvm.MethodName)) ∈ lw_all := lw_g (lw_at lw_m9 190 rfl) rfl
theorem q2202 : (Jvm.Cond.selects "SafeClearsModel" ({ cls := "SafeClearsModel", name := "item", desc := "(IIJ)I" } : Jvm.MethodName) ({ cls := "SafeClearsModel", name := "item", desc := "(IIJ)I" } : Jvm.MethodName)) ∈ lw_all := lw_g (lw_at lw_m9 191 rfl) rfl
theorem q2203 : (Jvm.Cond.code ({ cls := "SafeClearsModel", name := "item", desc := "(IIJ)I" } : Jvm.MethodName) prog_22_method_116_code (5 : Nat) (Option.some Jvm.ClassFile.FieldType.int)) ∈ lw_all := lw_g (lw_at lw_m9 192 rfl) rfl
theorem q2205 : (Jvm.Cond.instanceMethod ({ cls := "SafeClearsModel", name := "peek", desc := "(II)J" } : Jvm.MethodName)) ∈ lw_all := lw_g (lw_at lw_m9 194 rfl) rfl
theorem q2206 : (Jvm.Cond.selects "SafeClearsModel" ({ cls := "SafeClearsModel", name := "peek", desc := "(II)J" } : Jvm.MethodName) ({ cls := "SafeClearsModel", name := "peek", desc := "(II)J" } : Jvm.MethodName)) ∈ lw_all := lw_g (lw_at lw_m9 195 rfl) rfl
theorem q2207 : (Jvm.Cond.code ({ cls := "SafeClearsModel", name := "peek", desc := "(II)J" } : Jvm.MethodName) prog_22_method_117_code (3 : Nat) (Option.some Jvm.ClassFile.FieldType.long)) ∈ lw_all := lw_g (lw_at lw_m9 196 rfl) rfl
theorem q2209 : (Jvm.Cond.instanceMethod ({ cls := "SafeClearsModel", name := "shift", desc := "(IIIII)I" } : Jvm.MethodName)) ∈ lw_all := lw_g (lw_at lw_m9 198 rfl) rfl
theorem q2210 : (Jvm.Cond.selects "SafeClearsModel" ({ cls := "SafeClearsModel", name := "shift", desc := "(IIIII)I" } : Jvm.MethodName) ({ cls := "SafeClearsModel", name := "shift", desc := "(IIIII)I" } : Jvm.MethodName)) ∈ lw_all := lw_g (lw_at lw_m9 199 rfl) rfl
theorem q2211 : (Jvm.Cond.code ({ cls := "SafeClearsModel", name := "shift", desc := "(IIIII)I" } : Jvm.MethodName) prog_22_method_118_code (7 : Nat) (Option.some Jvm.ClassFile.FieldType.int)) ∈ lw_all := lw_g (lw_at lw_m9 200 rfl) rfl
theorem q2243 : (Jvm.Cond.castable "SafeClearsModel" "java/lang/Object") ∈ lw_tbl := lw_at lw_m9 232 rfl
theorem in_X13 : ∀ w ∈ wsX130, w ∈ lw_all := lw_in wsX130 [1733, 1735, 1737, 1739, 1741, 1743, 1745, 1747, 1749, 1751, 1753, 1755, 1757, 1759, 1761, 1763, 1765] (by decide +kernel) (by decide +kernel)
