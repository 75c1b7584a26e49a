/-! SafeClears$World -/
set_option maxRecDepth 100000
def RX1 : String := "SafeClears$World"
def TX1 : u_T := fun k => match k with
  | 0 => ("SafeClears$World", "isStarted", "Z", false)
  | 1 => ("SafeClears$World", "second", "I", false)
  | 2 => ("SafeClears$World", "on", "I", false)
  | 3 => ("SafeClears$World", "cut", "I", false)
  | 4 => ("SafeClears$World", "emergency", "I", false)
  | 5 => ("SafeClears$World", "waited", "I", false)
  | 6 => ("SafeClears$World", "served", "I", false)
  | 7 => ("SafeClears$World", "lost", "I", false)
  | 8 => ("SafeClears$World", "seed", "I", false)
  | 9 => ("SafeClears$World", "safety", "I", false)
  | 10 => ("SafeClears$World", "cycle", "I", false)
  | 11 => ("SafeClears$World", "offset", "I", false)
  | 12 => ("SafeClears$World", "split", "I", false)
  | 13 => ("SafeClears$World", "signalMany", "I", false)
  | 14 => ("SafeClears$World", "phaseMany", "I", false)
  | 15 => ("SafeClears$World", "recordMany", "I", false)
  | 16 => ("SafeClears$World", "recordAt", "I", false)
  | 17 => ("SafeClears$World", "toldMany", "I", false)
  | 18 => ("SafeClears$World", "nodeMany", "I", false)
  | 19 => ("SafeClears$World", "round", "I", false)
  | 20 => ("SafeClears$World", "noteMany", "I", false)
  | 21 => ("SafeClears$World", "planMany", "I", false)
  | 22 => ("SafeClears$World", "signals", "[LSafeClears$Signal;", true)
  | 23 => ("SafeClears$World", "phases", "[LSafeClears$Phase;", true)
  | 24 => ("SafeClears$World", "record", "[LSafeClears$Green;", true)
  | 25 => ("SafeClears$World", "tolds", "[LSafeClears$Green;", true)
  | 26 => ("SafeClears$World", "nodes", "[LSafeClears$Node;", true)
  | 27 => ("SafeClears$World", "notes", "[I", true)
  | 28 => ("SafeClears$World", "plans", "[I", true)
  | _ => ("SafeClears$World", "clears", "[I", true)
def tyX1 : Nat → FieldType := fun k => match k with
  | 0 => .boolean
  | 1 => .int
  | 2 => .int
  | 3 => .int
  | 4 => .int
  | 5 => .int
  | 6 => .int
  | 7 => .int
  | 8 => .int
  | 9 => .int
  | 10 => .int
  | 11 => .int
  | 12 => .int
  | 13 => .int
  | 14 => .int
  | 15 => .int
  | 16 => .int
  | 17 => .int
  | 18 => .int
  | 19 => .int
  | 20 => .int
  | 21 => .int
  | 22 => .array (.object "SafeClears$Signal")
  | 23 => .array (.object "SafeClears$Phase")
  | 24 => .array (.object "SafeClears$Green")
  | 25 => .array (.object "SafeClears$Green")
  | 26 => .array (.object "SafeClears$Node")
  | 27 => .array .int
  | 28 => .array .int
  | _ => .array .int
abbrev wsX10 : List Cond := u_ws RX1 TX1 30
set_option maxRecDepth 100000 in
theorem nmX1 : ∀ a, a < 30 → ∀ b, b < 30 → a ≠ b → (TX1 a).2.1 ≠ (TX1 b).2.1 := by decide +kernel
set_option maxRecDepth 100000 in
theorem tyX1_ok : ∀ k, k < 30 → parseFieldDescriptor (TX1 k).2.2.1 = some (tyX1 k) := by decide +kernel
abbrev cX1_init : ByteArray := prog_20_method_1_code
def yX1_init : MethodName := ⟨RX1, "<init>", "()V"⟩
def dkwX1_init_10 : List UInt8 := [132, 1, 1, 167, 255, 235, 177]
abbrev dktX1_init_10 : List UInt8 := dkwX1_init_10 ++ []
def dkwX1_init_9 : List UInt8 := [167, 255, 234, 3, 60, 27, 8, 162, 0, 22, 42, 180, 0, 53, 27, 187, 0, 51, 89, 183, 0, 70, 83]
abbrev dktX1_init_9 : List UInt8 := dkwX1_init_9 ++ dktX1_init_10
def dkwX1_init_8 : List UInt8 := [27, 16, 8, 162, 0, 22, 42, 180, 0, 48, 27, 187, 0, 42, 89, 183, 0, 69, 83, 132, 1, 1]
abbrev dktX1_init_8 : List UInt8 := dkwX1_init_8 ++ dktX1_init_9
def dkwX1_init_7 : List UInt8 := [162, 0, 22, 42, 180, 0, 44, 27, 187, 0, 42, 89, 183, 0, 69, 83, 132, 1, 1, 167, 255, 234, 3, 60]
abbrev dktX1_init_7 : List UInt8 := dkwX1_init_7 ++ dktX1_init_8
def dkwX1_init_6 : List UInt8 := [180, 0, 38, 27, 187, 0, 36, 89, 183, 0, 68, 83, 132, 1, 1, 167, 255, 234, 3, 60, 27, 16, 24]
abbrev dktX1_init_6 : List UInt8 := dkwX1_init_6 ++ dktX1_init_7
def dkwX1_init_5 : List UInt8 := [187, 0, 30, 89, 183, 0, 67, 83, 132, 1, 1, 167, 255, 234, 3, 60, 27, 16, 6, 162, 0, 22, 42]
abbrev dktX1_init_5 : List UInt8 := dkwX1_init_5 ++ dktX1_init_6
def dkwX1_init_4 : List UInt8 := [181, 0, 61, 42, 16, 64, 188, 10, 181, 0, 64, 3, 60, 27, 16, 8, 162, 0, 22, 42, 180, 0, 32, 27]
abbrev dktX1_init_4 : List UInt8 := dkwX1_init_4 ++ dktX1_init_5
def dkwX1_init_3 : List UInt8 := [181, 0, 48, 42, 8, 189, 0, 51, 181, 0, 53, 42, 16, 10, 188, 10, 181, 0, 57, 42, 16, 16, 188, 10]
abbrev dktX1_init_3 : List UInt8 := dkwX1_init_3 ++ dktX1_init_4
def dkwX1_init_2 : List UInt8 := [16, 6, 189, 0, 36, 181, 0, 38, 42, 16, 24, 189, 0, 42, 181, 0, 44, 42, 16, 8, 189, 0, 42]
abbrev dktX1_init_2 : List UInt8 := dkwX1_init_2 ++ dktX1_init_3
def dkwX1_init_1 : List UInt8 := [181, 0, 21, 42, 4, 181, 0, 24, 42, 16, 30, 181, 0, 27, 42, 16, 8, 189, 0, 30, 181, 0, 32, 42]
abbrev dktX1_init_1 : List UInt8 := dkwX1_init_1 ++ dktX1_init_2
def dkwX1_init_0 : List UInt8 := [42, 183, 0, 3, 42, 16, 251, 181, 0, 9, 42, 16, 251, 181, 0, 15, 42, 16, 251, 181, 0, 18, 42, 4]
abbrev dktX1_init_0 : List UInt8 := dkwX1_init_0 ++ dktX1_init_1
theorem dksX1_init_0 : cX1_init.data.toList.drop 0 = dktX1_init_0 := by decide +kernel
theorem dksX1_init_1 : cX1_init.data.toList.drop 24 = dktX1_init_1 := dk_seg dksX1_init_0 24 rfl rfl
theorem dksX1_init_2 : cX1_init.data.toList.drop 48 = dktX1_init_2 := dk_seg dksX1_init_1 24 rfl rfl
theorem dksX1_init_3 : cX1_init.data.toList.drop 71 = dktX1_init_3 := dk_seg dksX1_init_2 23 rfl rfl
theorem dksX1_init_4 : cX1_init.data.toList.drop 95 = dktX1_init_4 := dk_seg dksX1_init_3 24 rfl rfl
theorem dksX1_init_5 : cX1_init.data.toList.drop 119 = dktX1_init_5 := dk_seg dksX1_init_4 24 rfl rfl
theorem dksX1_init_6 : cX1_init.data.toList.drop 142 = dktX1_init_6 := dk_seg dksX1_init_5 23 rfl rfl
theorem dksX1_init_7 : cX1_init.data.toList.drop 165 = dktX1_init_7 := dk_seg dksX1_init_6 23 rfl rfl
theorem dksX1_init_8 : cX1_init.data.toList.drop 189 = dktX1_init_8 := dk_seg dksX1_init_7 24 rfl rfl
theorem dksX1_init_9 : cX1_init.data.toList.drop 211 = dktX1_init_9 := dk_seg dksX1_init_8 22 rfl rfl
theorem dksX1_init_10 : cX1_init.data.toList.drop 234 = dktX1_init_10 := dk_seg dksX1_init_9 23 rfl rfl
theorem dX1_init_0 : decode cX1_init 0 = .ok (.aload_n 0, 1) := dk_42 (dk_at dksX1_init_0 0 rfl rfl)
theorem dX1_init_1 : decode cX1_init 1 = .ok (.invokespecial 3, 3) := dk_183 0 3 (dk_at dksX1_init_0 1 rfl rfl)
theorem dX1_init_4 : decode cX1_init 4 = .ok (.aload_n 0, 1) := dk_42 (dk_at dksX1_init_0 4 rfl rfl)
theorem dX1_init_5 : decode cX1_init 5 = .ok (.bipush (-5), 2) := dk_16 251 (dk_at dksX1_init_0 5 rfl rfl)
theorem dX1_init_7 : decode cX1_init 7 = .ok (.putfield 9, 3) := dk_181 0 9 (dk_at dksX1_init_0 7 rfl rfl)
theorem dX1_init_10 : decode cX1_init 10 = .ok (.aload_n 0, 1) := dk_42 (dk_at dksX1_init_0 10 rfl rfl)
theorem dX1_init_11 : decode cX1_init 11 = .ok (.bipush (-5), 2) := dk_16 251 (dk_at dksX1_init_0 11 rfl rfl)
theorem dX1_init_13 : decode cX1_init 13 = .ok (.putfield 15, 3) := dk_181 0 15 (dk_at dksX1_init_0 13 rfl rfl)
theorem dX1_init_16 : decode cX1_init 16 = .ok (.aload_n 0, 1) := dk_42 (dk_at dksX1_init_0 16 rfl rfl)
theorem dX1_init_17 : decode cX1_init 17 = .ok (.bipush (-5), 2) := dk_16 251 (dk_at dksX1_init_0 17 rfl rfl)
theorem dX1_init_19 : decode cX1_init 19 = .ok (.putfield 18, 3) := dk_181 0 18 (dk_at dksX1_init_0 19 rfl rfl)
theorem dX1_init_22 : decode cX1_init 22 = .ok (.aload_n 0, 1) := dk_42 (dk_at dksX1_init_0 22 rfl rfl)
theorem dX1_init_23 : decode cX1_init 23 = .ok (.iconst 1, 1) := dk_4 (dk_at dksX1_init_0 23 rfl rfl)
theorem dX1_init_24 : decode cX1_init 24 = .ok (.putfield 21, 3) := dk_181 0 21 (dk_at dksX1_init_1 0 rfl rfl)
theorem dX1_init_27 : decode cX1_init 27 = .ok (.aload_n 0, 1) := dk_42 (dk_at dksX1_init_1 3 rfl rfl)
theorem dX1_init_28 : decode cX1_init 28 = .ok (.iconst 1, 1) := dk_4 (dk_at dksX1_init_1 4 rfl rfl)
theorem dX1_init_29 : decode cX1_init 29 = .ok (.putfield 24, 3) := dk_181 0 24 (dk_at dksX1_init_1 5 rfl rfl)
theorem dX1_init_32 : decode cX1_init 32 = .ok (.aload_n 0, 1) := dk_42 (dk_at dksX1_init_1 8 rfl rfl)
theorem dX1_init_33 : decode cX1_init 33 = .ok (.bipush 30, 2) := dk_16 30 (dk_at dksX1_init_1 9 rfl rfl)
theorem dX1_init_35 : decode cX1_init 35 = .ok (.putfield 27, 3) := dk_181 0 27 (dk_at dksX1_init_1 11 rfl rfl)
theorem dX1_init_38 : decode cX1_init 38 = .ok (.aload_n 0, 1) := dk_42 (dk_at dksX1_init_1 14 rfl rfl)
theorem dX1_init_39 : decode cX1_init 39 = .ok (.bipush 8, 2) := dk_16 8 (dk_at dksX1_init_1 15 rfl rfl)
theorem dX1_init_41 : decode cX1_init 41 = .ok (.anewarray 30, 3) := dk_189 0 30 (dk_at dksX1_init_1 17 rfl rfl)
theorem dX1_init_44 : decode cX1_init 44 = .ok (.putfield 32, 3) := dk_181 0 32 (dk_at dksX1_init_1 20 rfl rfl)
theorem dX1_init_47 : decode cX1_init 47 = .ok (.aload_n 0, 1) := dk_42 (dk_at dksX1_init_1 23 rfl rfl)
theorem dX1_init_48 : decode cX1_init 48 = .ok (.bipush 6, 2) := dk_16 6 (dk_at dksX1_init_2 0 rfl rfl)
theorem dX1_init_50 : decode cX1_init 50 = .ok (.anewarray 36, 3) := dk_189 0 36 (dk_at dksX1_init_2 2 rfl rfl)
theorem dX1_init_53 : decode cX1_init 53 = .ok (.putfield 38, 3) := dk_181 0 38 (dk_at dksX1_init_2 5 rfl rfl)
theorem dX1_init_56 : decode cX1_init 56 = .ok (.aload_n 0, 1) := dk_42 (dk_at dksX1_init_2 8 rfl rfl)
theorem dX1_init_57 : decode cX1_init 57 = .ok (.bipush 24, 2) := dk_16 24 (dk_at dksX1_init_2 9 rfl rfl)
theorem dX1_init_59 : decode cX1_init 59 = .ok (.anewarray 42, 3) := dk_189 0 42 (dk_at dksX1_init_2 11 rfl rfl)
theorem dX1_init_62 : decode cX1_init 62 = .ok (.putfield 44, 3) := dk_181 0 44 (dk_at dksX1_init_2 14 rfl rfl)
theorem dX1_init_65 : decode cX1_init 65 = .ok (.aload_n 0, 1) := dk_42 (dk_at dksX1_init_2 17 rfl rfl)
theorem dX1_init_66 : decode cX1_init 66 = .ok (.bipush 8, 2) := dk_16 8 (dk_at dksX1_init_2 18 rfl rfl)
theorem dX1_init_68 : decode cX1_init 68 = .ok (.anewarray 42, 3) := dk_189 0 42 (dk_at dksX1_init_2 20 rfl rfl)
theorem dX1_init_71 : decode cX1_init 71 = .ok (.putfield 48, 3) := dk_181 0 48 (dk_at dksX1_init_3 0 rfl rfl)
theorem dX1_init_74 : decode cX1_init 74 = .ok (.aload_n 0, 1) := dk_42 (dk_at dksX1_init_3 3 rfl rfl)
theorem dX1_init_75 : decode cX1_init 75 = .ok (.iconst 5, 1) := dk_8 (dk_at dksX1_init_3 4 rfl rfl)
theorem dX1_init_76 : decode cX1_init 76 = .ok (.anewarray 51, 3) := dk_189 0 51 (dk_at dksX1_init_3 5 rfl rfl)
theorem dX1_init_79 : decode cX1_init 79 = .ok (.putfield 53, 3) := dk_181 0 53 (dk_at dksX1_init_3 8 rfl rfl)
theorem dX1_init_82 : decode cX1_init 82 = .ok (.aload_n 0, 1) := dk_42 (dk_at dksX1_init_3 11 rfl rfl)
theorem dX1_init_83 : decode cX1_init 83 = .ok (.bipush 10, 2) := dk_16 10 (dk_at dksX1_init_3 12 rfl rfl)
theorem dX1_init_85 : decode cX1_init 85 = .ok (.newarray .int, 2) := dk_188_10 (dk_at dksX1_init_3 14 rfl rfl)
theorem dX1_init_87 : decode cX1_init 87 = .ok (.putfield 57, 3) := dk_181 0 57 (dk_at dksX1_init_3 16 rfl rfl)
theorem dX1_init_90 : decode cX1_init 90 = .ok (.aload_n 0, 1) := dk_42 (dk_at dksX1_init_3 19 rfl rfl)
theorem dX1_init_91 : decode cX1_init 91 = .ok (.bipush 16, 2) := dk_16 16 (dk_at dksX1_init_3 20 rfl rfl)
theorem dX1_init_93 : decode cX1_init 93 = .ok (.newarray .int, 2) := dk_188_10 (dk_at dksX1_init_3 22 rfl rfl)
theorem dX1_init_95 : decode cX1_init 95 = .ok (.putfield 61, 3) := dk_181 0 61 (dk_at dksX1_init_4 0 rfl rfl)
theorem dX1_init_98 : decode cX1_init 98 = .ok (.aload_n 0, 1) := dk_42 (dk_at dksX1_init_4 3 rfl rfl)
theorem dX1_init_99 : decode cX1_init 99 = .ok (.bipush 64, 2) := dk_16 64 (dk_at dksX1_init_4 4 rfl rfl)
theorem dX1_init_101 : decode cX1_init 101 = .ok (.newarray .int, 2) := dk_188_10 (dk_at dksX1_init_4 6 rfl rfl)
theorem dX1_init_103 : decode cX1_init 103 = .ok (.putfield 64, 3) := dk_181 0 64 (dk_at dksX1_init_4 8 rfl rfl)
theorem dX1_init_106 : decode cX1_init 106 = .ok (.iconst 0, 1) := dk_3 (dk_at dksX1_init_4 11 rfl rfl)
theorem dX1_init_107 : decode cX1_init 107 = .ok (.istore_n 1, 1) := dk_60 (dk_at dksX1_init_4 12 rfl rfl)
theorem dX1_init_108 : decode cX1_init 108 = .ok (.iload_n 1, 1) := dk_27 (dk_at dksX1_init_4 13 rfl rfl)
theorem dX1_init_109 : decode cX1_init 109 = .ok (.bipush 8, 2) := dk_16 8 (dk_at dksX1_init_4 14 rfl rfl)
theorem dX1_init_111 : decode cX1_init 111 = .ok (.if_icmp .ge 22, 3) := dk_162 0 22 (dk_at dksX1_init_4 16 rfl rfl)
theorem dX1_init_114 : decode cX1_init 114 = .ok (.aload_n 0, 1) := dk_42 (dk_at dksX1_init_4 19 rfl rfl)
theorem dX1_init_115 : decode cX1_init 115 = .ok (.getfield 32, 3) := dk_180 0 32 (dk_at dksX1_init_4 20 rfl rfl)
theorem dX1_init_118 : decode cX1_init 118 = .ok (.iload_n 1, 1) := dk_27 (dk_at dksX1_init_4 23 rfl rfl)
theorem dX1_init_119 : decode cX1_init 119 = .ok (.new 30, 3) := dk_187 0 30 (dk_at dksX1_init_5 0 rfl rfl)
theorem dX1_init_122 : decode cX1_init 122 = .ok (.dup, 1) := dk_89 (dk_at dksX1_init_5 3 rfl rfl)
theorem dX1_init_123 : decode cX1_init 123 = .ok (.invokespecial 67, 3) := dk_183 0 67 (dk_at dksX1_init_5 4 rfl rfl)
theorem dX1_init_126 : decode cX1_init 126 = .ok (.aastore, 1) := dk_83 (dk_at dksX1_init_5 7 rfl rfl)
theorem dX1_init_127 : decode cX1_init 127 = .ok (.iinc 1 1, 3) := dk_132 1 1 (dk_at dksX1_init_5 8 rfl rfl)
theorem dX1_init_130 : decode cX1_init 130 = .ok (.goto (-22), 3) := dk_167 255 234 (dk_at dksX1_init_5 11 rfl rfl)
theorem dX1_init_133 : decode cX1_init 133 = .ok (.iconst 0, 1) := dk_3 (dk_at dksX1_init_5 14 rfl rfl)
theorem dX1_init_134 : decode cX1_init 134 = .ok (.istore_n 1, 1) := dk_60 (dk_at dksX1_init_5 15 rfl rfl)
theorem dX1_init_135 : decode cX1_init 135 = .ok (.iload_n 1, 1) := dk_27 (dk_at dksX1_init_5 16 rfl rfl)
theorem dX1_init_136 : decode cX1_init 136 = .ok (.bipush 6, 2) := dk_16 6 (dk_at dksX1_init_5 17 rfl rfl)
theorem dX1_init_138 : decode cX1_init 138 = .ok (.if_icmp .ge 22, 3) := dk_162 0 22 (dk_at dksX1_init_5 19 rfl rfl)
theorem dX1_init_141 : decode cX1_init 141 = .ok (.aload_n 0, 1) := dk_42 (dk_at dksX1_init_5 22 rfl rfl)
theorem dX1_init_142 : decode cX1_init 142 = .ok (.getfield 38, 3) := dk_180 0 38 (dk_at dksX1_init_6 0 rfl rfl)
theorem dX1_init_145 : decode cX1_init 145 = .ok (.iload_n 1, 1) := dk_27 (dk_at dksX1_init_6 3 rfl rfl)
theorem dX1_init_146 : decode cX1_init 146 = .ok (.new 36, 3) := dk_187 0 36 (dk_at dksX1_init_6 4 rfl rfl)
theorem dX1_init_149 : decode cX1_init 149 = .ok (.dup, 1) := dk_89 (dk_at dksX1_init_6 7 rfl rfl)
theorem dX1_init_150 : decode cX1_init 150 = .ok (.invokespecial 68, 3) := dk_183 0 68 (dk_at dksX1_init_6 8 rfl rfl)
theorem dX1_init_153 : decode cX1_init 153 = .ok (.aastore, 1) := dk_83 (dk_at dksX1_init_6 11 rfl rfl)
theorem dX1_init_154 : decode cX1_init 154 = .ok (.iinc 1 1, 3) := dk_132 1 1 (dk_at dksX1_init_6 12 rfl rfl)
theorem dX1_init_157 : decode cX1_init 157 = .ok (.goto (-22), 3) := dk_167 255 234 (dk_at dksX1_init_6 15 rfl rfl)
theorem dX1_init_160 : decode cX1_init 160 = .ok (.iconst 0, 1) := dk_3 (dk_at dksX1_init_6 18 rfl rfl)
theorem dX1_init_161 : decode cX1_init 161 = .ok (.istore_n 1, 1) := dk_60 (dk_at dksX1_init_6 19 rfl rfl)
theorem dX1_init_162 : decode cX1_init 162 = .ok (.iload_n 1, 1) := dk_27 (dk_at dksX1_init_6 20 rfl rfl)
theorem dX1_init_163 : decode cX1_init 163 = .ok (.bipush 24, 2) := dk_16 24 (dk_at dksX1_init_6 21 rfl rfl)
theorem dX1_init_165 : decode cX1_init 165 = .ok (.if_icmp .ge 22, 3) := dk_162 0 22 (dk_at dksX1_init_7 0 rfl rfl)
theorem dX1_init_168 : decode cX1_init 168 = .ok (.aload_n 0, 1) := dk_42 (dk_at dksX1_init_7 3 rfl rfl)
theorem dX1_init_169 : decode cX1_init 169 = .ok (.getfield 44, 3) := dk_180 0 44 (dk_at dksX1_init_7 4 rfl rfl)
theorem dX1_init_172 : decode cX1_init 172 = .ok (.iload_n 1, 1) := dk_27 (dk_at dksX1_init_7 7 rfl rfl)
theorem dX1_init_173 : decode cX1_init 173 = .ok (.new 42, 3) := dk_187 0 42 (dk_at dksX1_init_7 8 rfl rfl)
theorem dX1_init_176 : decode cX1_init 176 = .ok (.dup, 1) := dk_89 (dk_at dksX1_init_7 11 rfl rfl)
theorem dX1_init_177 : decode cX1_init 177 = .ok (.invokespecial 69, 3) := dk_183 0 69 (dk_at dksX1_init_7 12 rfl rfl)
theorem dX1_init_180 : decode cX1_init 180 = .ok (.aastore, 1) := dk_83 (dk_at dksX1_init_7 15 rfl rfl)
theorem dX1_init_181 : decode cX1_init 181 = .ok (.iinc 1 1, 3) := dk_132 1 1 (dk_at dksX1_init_7 16 rfl rfl)
theorem dX1_init_184 : decode cX1_init 184 = .ok (.goto (-22), 3) := dk_167 255 234 (dk_at dksX1_init_7 19 rfl rfl)
theorem dX1_init_187 : decode cX1_init 187 = .ok (.iconst 0, 1) := dk_3 (dk_at dksX1_init_7 22 rfl rfl)
theorem dX1_init_188 : decode cX1_init 188 = .ok (.istore_n 1, 1) := dk_60 (dk_at dksX1_init_7 23 rfl rfl)
theorem dX1_init_189 : decode cX1_init 189 = .ok (.iload_n 1, 1) := dk_27 (dk_at dksX1_init_8 0 rfl rfl)
theorem dX1_init_190 : decode cX1_init 190 = .ok (.bipush 8, 2) := dk_16 8 (dk_at dksX1_init_8 1 rfl rfl)
theorem dX1_init_192 : decode cX1_init 192 = .ok (.if_icmp .ge 22, 3) := dk_162 0 22 (dk_at dksX1_init_8 3 rfl rfl)
theorem dX1_init_195 : decode cX1_init 195 = .ok (.aload_n 0, 1) := dk_42 (dk_at dksX1_init_8 6 rfl rfl)
theorem dX1_init_196 : decode cX1_init 196 = .ok (.getfield 48, 3) := dk_180 0 48 (dk_at dksX1_init_8 7 rfl rfl)
theorem dX1_init_199 : decode cX1_init 199 = .ok (.iload_n 1, 1) := dk_27 (dk_at dksX1_init_8 10 rfl rfl)
theorem dX1_init_200 : decode cX1_init 200 = .ok (.new 42, 3) := dk_187 0 42 (dk_at dksX1_init_8 11 rfl rfl)
theorem dX1_init_203 : decode cX1_init 203 = .ok (.dup, 1) := dk_89 (dk_at dksX1_init_8 14 rfl rfl)
theorem dX1_init_204 : decode cX1_init 204 = .ok (.invokespecial 69, 3) := dk_183 0 69 (dk_at dksX1_init_8 15 rfl rfl)
theorem dX1_init_207 : decode cX1_init 207 = .ok (.aastore, 1) := dk_83 (dk_at dksX1_init_8 18 rfl rfl)
theorem dX1_init_208 : decode cX1_init 208 = .ok (.iinc 1 1, 3) := dk_132 1 1 (dk_at dksX1_init_8 19 rfl rfl)
theorem dX1_init_211 : decode cX1_init 211 = .ok (.goto (-22), 3) := dk_167 255 234 (dk_at dksX1_init_9 0 rfl rfl)
theorem dX1_init_214 : decode cX1_init 214 = .ok (.iconst 0, 1) := dk_3 (dk_at dksX1_init_9 3 rfl rfl)
theorem dX1_init_215 : decode cX1_init 215 = .ok (.istore_n 1, 1) := dk_60 (dk_at dksX1_init_9 4 rfl rfl)
theorem dX1_init_216 : decode cX1_init 216 = .ok (.iload_n 1, 1) := dk_27 (dk_at dksX1_init_9 5 rfl rfl)
theorem dX1_init_217 : decode cX1_init 217 = .ok (.iconst 5, 1) := dk_8 (dk_at dksX1_init_9 6 rfl rfl)
theorem dX1_init_218 : decode cX1_init 218 = .ok (.if_icmp .ge 22, 3) := dk_162 0 22 (dk_at dksX1_init_9 7 rfl rfl)
theorem dX1_init_221 : decode cX1_init 221 = .ok (.aload_n 0, 1) := dk_42 (dk_at dksX1_init_9 10 rfl rfl)
theorem dX1_init_222 : decode cX1_init 222 = .ok (.getfield 53, 3) := dk_180 0 53 (dk_at dksX1_init_9 11 rfl rfl)
theorem dX1_init_225 : decode cX1_init 225 = .ok (.iload_n 1, 1) := dk_27 (dk_at dksX1_init_9 14 rfl rfl)
theorem dX1_init_226 : decode cX1_init 226 = .ok (.new 51, 3) := dk_187 0 51 (dk_at dksX1_init_9 15 rfl rfl)
theorem dX1_init_229 : decode cX1_init 229 = .ok (.dup, 1) := dk_89 (dk_at dksX1_init_9 18 rfl rfl)
theorem dX1_init_230 : decode cX1_init 230 = .ok (.invokespecial 70, 3) := dk_183 0 70 (dk_at dksX1_init_9 19 rfl rfl)
theorem dX1_init_233 : decode cX1_init 233 = .ok (.aastore, 1) := dk_83 (dk_at dksX1_init_9 22 rfl rfl)
theorem dX1_init_234 : decode cX1_init 234 = .ok (.iinc 1 1, 3) := dk_132 1 1 (dk_at dksX1_init_10 0 rfl rfl)
theorem dX1_init_237 : decode cX1_init 237 = .ok (.goto (-21), 3) := dk_167 255 235 (dk_at dksX1_init_10 3 rfl rfl)
theorem dX1_init_240 : decode cX1_init 240 = .ok (.return_, 1) := dk_177 (dk_at dksX1_init_10 6 rfl rfl)
abbrev cX1_settles : ByteArray := prog_20_method_6_code
def yX1_settles : MethodName := ⟨RX1, "settles", "()V"⟩
def dkwX1_settles_5 : List UInt8 := [132, 1, 1, 167, 255, 139, 177]
abbrev dktX1_settles_5 : List UInt8 := dkwX1_settles_5 ++ []
def dkwX1_settles_4 : List UInt8 := [180, 0, 154, 184, 0, 194, 42, 180, 0, 24, 96, 167, 0, 5, 16, 251, 79, 132, 2, 1, 167, 255, 155]
abbrev dktX1_settles_4 : List UInt8 := dkwX1_settles_4 ++ dktX1_settles_5
def dkwX1_settles_3 : List UInt8 := [28, 96, 21, 5, 153, 0, 33, 45, 45, 25, 4, 184, 0, 190, 25, 4, 184, 0, 182, 45, 180, 0, 150]
abbrev dktX1_settles_3 : List UInt8 := dkwX1_settles_3 ++ dktX1_settles_4
def dkwX1_settles_2 : List UInt8 := [180, 0, 172, 182, 0, 186, 153, 0, 7, 4, 167, 0, 4, 3, 54, 5, 42, 180, 0, 64, 16, 8, 27, 104]
abbrev dktX1_settles_2 : List UInt8 := dkwX1_settles_2 ++ dktX1_settles_3
def dkwX1_settles_1 : List UInt8 := [27, 50, 78, 42, 180, 0, 32, 28, 50, 58, 4, 27, 28, 159, 0, 22, 45, 180, 0, 172, 25, 4]
abbrev dktX1_settles_1 : List UInt8 := dkwX1_settles_1 ++ dktX1_settles_2
def dkwX1_settles_0 : List UInt8 := [3, 60, 27, 42, 180, 0, 96, 162, 0, 115, 3, 61, 28, 42, 180, 0, 96, 162, 0, 99, 42, 180, 0, 32]
abbrev dktX1_settles_0 : List UInt8 := dkwX1_settles_0 ++ dktX1_settles_1
theorem dksX1_settles_0 : cX1_settles.data.toList.drop 0 = dktX1_settles_0 := by decide +kernel
theorem dksX1_settles_1 : cX1_settles.data.toList.drop 24 = dktX1_settles_1 := dk_seg dksX1_settles_0 24 rfl rfl
theorem dksX1_settles_2 : cX1_settles.data.toList.drop 46 = dktX1_settles_2 := dk_seg dksX1_settles_1 22 rfl rfl
theorem dksX1_settles_3 : cX1_settles.data.toList.drop 70 = dktX1_settles_3 := dk_seg dksX1_settles_2 24 rfl rfl
theorem dksX1_settles_4 : cX1_settles.data.toList.drop 93 = dktX1_settles_4 := dk_seg dksX1_settles_3 23 rfl rfl
theorem dksX1_settles_5 : cX1_settles.data.toList.drop 116 = dktX1_settles_5 := dk_seg dksX1_settles_4 23 rfl rfl
theorem dX1_settles_0 : decode cX1_settles 0 = .ok (.iconst 0, 1) := dk_3 (dk_at dksX1_settles_0 0 rfl rfl)
theorem dX1_settles_1 : decode cX1_settles 1 = .ok (.istore_n 1, 1) := dk_60 (dk_at dksX1_settles_0 1 rfl rfl)
theorem dX1_settles_2 : decode cX1_settles 2 = .ok (.iload_n 1, 1) := dk_27 (dk_at dksX1_settles_0 2 rfl rfl)
theorem dX1_settles_3 : decode cX1_settles 3 = .ok (.aload_n 0, 1) := dk_42 (dk_at dksX1_settles_0 3 rfl rfl)
theorem dX1_settles_4 : decode cX1_settles 4 = .ok (.getfield 96, 3) := dk_180 0 96 (dk_at dksX1_settles_0 4 rfl rfl)
theorem dX1_settles_7 : decode cX1_settles 7 = .ok (.if_icmp .ge 115, 3) := dk_162 0 115 (dk_at dksX1_settles_0 7 rfl rfl)
theorem dX1_settles_10 : decode cX1_settles 10 = .ok (.iconst 0, 1) := dk_3 (dk_at dksX1_settles_0 10 rfl rfl)
theorem dX1_settles_11 : decode cX1_settles 11 = .ok (.istore_n 2, 1) := dk_61 (dk_at dksX1_settles_0 11 rfl rfl)
theorem dX1_settles_12 : decode cX1_settles 12 = .ok (.iload_n 2, 1) := dk_28 (dk_at dksX1_settles_0 12 rfl rfl)
theorem dX1_settles_13 : decode cX1_settles 13 = .ok (.aload_n 0, 1) := dk_42 (dk_at dksX1_settles_0 13 rfl rfl)
theorem dX1_settles_14 : decode cX1_settles 14 = .ok (.getfield 96, 3) := dk_180 0 96 (dk_at dksX1_settles_0 14 rfl rfl)
theorem dX1_settles_17 : decode cX1_settles 17 = .ok (.if_icmp .ge 99, 3) := dk_162 0 99 (dk_at dksX1_settles_0 17 rfl rfl)
theorem dX1_settles_20 : decode cX1_settles 20 = .ok (.aload_n 0, 1) := dk_42 (dk_at dksX1_settles_0 20 rfl rfl)
theorem dX1_settles_21 : decode cX1_settles 21 = .ok (.getfield 32, 3) := dk_180 0 32 (dk_at dksX1_settles_0 21 rfl rfl)
theorem dX1_settles_24 : decode cX1_settles 24 = .ok (.iload_n 1, 1) := dk_27 (dk_at dksX1_settles_1 0 rfl rfl)
theorem dX1_settles_25 : decode cX1_settles 25 = .ok (.aaload, 1) := dk_50 (dk_at dksX1_settles_1 1 rfl rfl)
theorem dX1_settles_26 : decode cX1_settles 26 = .ok (.astore_n 3, 1) := dk_78 (dk_at dksX1_settles_1 2 rfl rfl)
theorem dX1_settles_27 : decode cX1_settles 27 = .ok (.aload_n 0, 1) := dk_42 (dk_at dksX1_settles_1 3 rfl rfl)
theorem dX1_settles_28 : decode cX1_settles 28 = .ok (.getfield 32, 3) := dk_180 0 32 (dk_at dksX1_settles_1 4 rfl rfl)
theorem dX1_settles_31 : decode cX1_settles 31 = .ok (.iload_n 2, 1) := dk_28 (dk_at dksX1_settles_1 7 rfl rfl)
theorem dX1_settles_32 : decode cX1_settles 32 = .ok (.aaload, 1) := dk_50 (dk_at dksX1_settles_1 8 rfl rfl)
theorem dX1_settles_33 : decode cX1_settles 33 = .ok (.astore 4, 2) := dk_58 4 (dk_at dksX1_settles_1 9 rfl rfl)
theorem dX1_settles_35 : decode cX1_settles 35 = .ok (.iload_n 1, 1) := dk_27 (dk_at dksX1_settles_1 11 rfl rfl)
theorem dX1_settles_36 : decode cX1_settles 36 = .ok (.iload_n 2, 1) := dk_28 (dk_at dksX1_settles_1 12 rfl rfl)
theorem dX1_settles_37 : decode cX1_settles 37 = .ok (.if_icmp .eq 22, 3) := dk_159 0 22 (dk_at dksX1_settles_1 13 rfl rfl)
theorem dX1_settles_40 : decode cX1_settles 40 = .ok (.aload_n 3, 1) := dk_45 (dk_at dksX1_settles_1 16 rfl rfl)
theorem dX1_settles_41 : decode cX1_settles 41 = .ok (.getfield 172, 3) := dk_180 0 172 (dk_at dksX1_settles_1 17 rfl rfl)
theorem dX1_settles_44 : decode cX1_settles 44 = .ok (.aload 4, 2) := dk_25 4 (dk_at dksX1_settles_1 20 rfl rfl)
theorem dX1_settles_46 : decode cX1_settles 46 = .ok (.getfield 172, 3) := dk_180 0 172 (dk_at dksX1_settles_2 0 rfl rfl)
theorem dX1_settles_49 : decode cX1_settles 49 = .ok (.invokevirtual 186, 3) := dk_182 0 186 (dk_at dksX1_settles_2 3 rfl rfl)
theorem dX1_settles_52 : decode cX1_settles 52 = .ok (.ifCond .eq 7, 3) := dk_153 0 7 (dk_at dksX1_settles_2 6 rfl rfl)
theorem dX1_settles_55 : decode cX1_settles 55 = .ok (.iconst 1, 1) := dk_4 (dk_at dksX1_settles_2 9 rfl rfl)
theorem dX1_settles_56 : decode cX1_settles 56 = .ok (.goto 4, 3) := dk_167 0 4 (dk_at dksX1_settles_2 10 rfl rfl)
theorem dX1_settles_59 : decode cX1_settles 59 = .ok (.iconst 0, 1) := dk_3 (dk_at dksX1_settles_2 13 rfl rfl)
theorem dX1_settles_60 : decode cX1_settles 60 = .ok (.istore 5, 2) := dk_54 5 (dk_at dksX1_settles_2 14 rfl rfl)
theorem dX1_settles_62 : decode cX1_settles 62 = .ok (.aload_n 0, 1) := dk_42 (dk_at dksX1_settles_2 16 rfl rfl)
theorem dX1_settles_63 : decode cX1_settles 63 = .ok (.getfield 64, 3) := dk_180 0 64 (dk_at dksX1_settles_2 17 rfl rfl)
theorem dX1_settles_66 : decode cX1_settles 66 = .ok (.bipush 8, 2) := dk_16 8 (dk_at dksX1_settles_2 20 rfl rfl)
theorem dX1_settles_68 : decode cX1_settles 68 = .ok (.iload_n 1, 1) := dk_27 (dk_at dksX1_settles_2 22 rfl rfl)
theorem dX1_settles_69 : decode cX1_settles 69 = .ok (.imul, 1) := dk_104 (dk_at dksX1_settles_2 23 rfl rfl)
theorem dX1_settles_70 : decode cX1_settles 70 = .ok (.iload_n 2, 1) := dk_28 (dk_at dksX1_settles_3 0 rfl rfl)
theorem dX1_settles_71 : decode cX1_settles 71 = .ok (.iadd, 1) := dk_96 (dk_at dksX1_settles_3 1 rfl rfl)
theorem dX1_settles_72 : decode cX1_settles 72 = .ok (.iload 5, 2) := dk_21 5 (dk_at dksX1_settles_3 2 rfl rfl)
theorem dX1_settles_74 : decode cX1_settles 74 = .ok (.ifCond .eq 33, 3) := dk_153 0 33 (dk_at dksX1_settles_3 4 rfl rfl)
theorem dX1_settles_77 : decode cX1_settles 77 = .ok (.aload_n 3, 1) := dk_45 (dk_at dksX1_settles_3 7 rfl rfl)
theorem dX1_settles_78 : decode cX1_settles 78 = .ok (.aload_n 3, 1) := dk_45 (dk_at dksX1_settles_3 8 rfl rfl)
theorem dX1_settles_79 : decode cX1_settles 79 = .ok (.aload 4, 2) := dk_25 4 (dk_at dksX1_settles_3 9 rfl rfl)
theorem dX1_settles_81 : decode cX1_settles 81 = .ok (.invokestatic 190, 3) := dk_184 0 190 (dk_at dksX1_settles_3 11 rfl rfl)
theorem dX1_settles_84 : decode cX1_settles 84 = .ok (.aload 4, 2) := dk_25 4 (dk_at dksX1_settles_3 14 rfl rfl)
theorem dX1_settles_86 : decode cX1_settles 86 = .ok (.invokestatic 182, 3) := dk_184 0 182 (dk_at dksX1_settles_3 16 rfl rfl)
theorem dX1_settles_89 : decode cX1_settles 89 = .ok (.aload_n 3, 1) := dk_45 (dk_at dksX1_settles_3 19 rfl rfl)
theorem dX1_settles_90 : decode cX1_settles 90 = .ok (.getfield 150, 3) := dk_180 0 150 (dk_at dksX1_settles_3 20 rfl rfl)
theorem dX1_settles_93 : decode cX1_settles 93 = .ok (.getfield 154, 3) := dk_180 0 154 (dk_at dksX1_settles_4 0 rfl rfl)
theorem dX1_settles_96 : decode cX1_settles 96 = .ok (.invokestatic 194, 3) := dk_184 0 194 (dk_at dksX1_settles_4 3 rfl rfl)
theorem dX1_settles_99 : decode cX1_settles 99 = .ok (.aload_n 0, 1) := dk_42 (dk_at dksX1_settles_4 6 rfl rfl)
theorem dX1_settles_100 : decode cX1_settles 100 = .ok (.getfield 24, 3) := dk_180 0 24 (dk_at dksX1_settles_4 7 rfl rfl)
theorem dX1_settles_103 : decode cX1_settles 103 = .ok (.iadd, 1) := dk_96 (dk_at dksX1_settles_4 10 rfl rfl)
theorem dX1_settles_104 : decode cX1_settles 104 = .ok (.goto 5, 3) := dk_167 0 5 (dk_at dksX1_settles_4 11 rfl rfl)
theorem dX1_settles_107 : decode cX1_settles 107 = .ok (.bipush (-5), 2) := dk_16 251 (dk_at dksX1_settles_4 14 rfl rfl)
theorem dX1_settles_109 : decode cX1_settles 109 = .ok (.iastore, 1) := dk_79 (dk_at dksX1_settles_4 16 rfl rfl)
theorem dX1_settles_110 : decode cX1_settles 110 = .ok (.iinc 2 1, 3) := dk_132 2 1 (dk_at dksX1_settles_4 17 rfl rfl)
theorem dX1_settles_113 : decode cX1_settles 113 = .ok (.goto (-101), 3) := dk_167 255 155 (dk_at dksX1_settles_4 20 rfl rfl)
theorem dX1_settles_116 : decode cX1_settles 116 = .ok (.iinc 1 1, 3) := dk_132 1 1 (dk_at dksX1_settles_5 0 rfl rfl)
theorem dX1_settles_119 : decode cX1_settles 119 = .ok (.goto (-117), 3) := dk_167 255 139 (dk_at dksX1_settles_5 3 rfl rfl)
theorem dX1_settles_122 : decode cX1_settles 122 = .ok (.return_, 1) := dk_177 (dk_at dksX1_settles_5 6 rfl rfl)
abbrev cX1_narrowOf : ByteArray := prog_20_method_5_code
def yX1_narrowOf : MethodName := ⟨RX1, "narrowOf", "(LSafeClears$Signal;LSafeClears$Signal;)I"⟩
def dkwX1_narrowOf_2 : List UInt8 := [164, 0, 5, 29, 61, 132, 3, 1, 167, 255, 207, 28, 172]
abbrev dktX1_narrowOf_2 : List UInt8 := dkwX1_narrowOf_2 ++ []
def dkwX1_narrowOf_1 : List UInt8 := [182, 0, 176, 153, 0, 25, 28, 2, 159, 0, 18, 42, 29, 43, 184, 0, 182, 42, 28, 43, 184, 0, 182]
abbrev dktX1_narrowOf_1 : List UInt8 := dkwX1_narrowOf_1 ++ dktX1_narrowOf_2
def dkwX1_narrowOf_0 : List UInt8 := [2, 61, 3, 62, 29, 42, 180, 0, 169, 162, 0, 47, 43, 180, 0, 172, 42, 180, 0, 162, 29, 46]
abbrev dktX1_narrowOf_0 : List UInt8 := dkwX1_narrowOf_0 ++ dktX1_narrowOf_1
theorem dksX1_narrowOf_0 : cX1_narrowOf.data.toList.drop 0 = dktX1_narrowOf_0 := by decide +kernel
theorem dksX1_narrowOf_1 : cX1_narrowOf.data.toList.drop 22 = dktX1_narrowOf_1 := dk_seg dksX1_narrowOf_0 22 rfl rfl
theorem dksX1_narrowOf_2 : cX1_narrowOf.data.toList.drop 45 = dktX1_narrowOf_2 := dk_seg dksX1_narrowOf_1 23 rfl rfl
theorem dX1_narrowOf_0 : decode cX1_narrowOf 0 = .ok (.iconst (-1), 1) := dk_2 (dk_at dksX1_narrowOf_0 0 rfl rfl)
theorem dX1_narrowOf_1 : decode cX1_narrowOf 1 = .ok (.istore_n 2, 1) := dk_61 (dk_at dksX1_narrowOf_0 1 rfl rfl)
theorem dX1_narrowOf_2 : decode cX1_narrowOf 2 = .ok (.iconst 0, 1) := dk_3 (dk_at dksX1_narrowOf_0 2 rfl rfl)
theorem dX1_narrowOf_3 : decode cX1_narrowOf 3 = .ok (.istore_n 3, 1) := dk_62 (dk_at dksX1_narrowOf_0 3 rfl rfl)
theorem dX1_narrowOf_4 : decode cX1_narrowOf 4 = .ok (.iload_n 3, 1) := dk_29 (dk_at dksX1_narrowOf_0 4 rfl rfl)
theorem dX1_narrowOf_5 : decode cX1_narrowOf 5 = .ok (.aload_n 0, 1) := dk_42 (dk_at dksX1_narrowOf_0 5 rfl rfl)
theorem dX1_narrowOf_6 : decode cX1_narrowOf 6 = .ok (.getfield 169, 3) := dk_180 0 169 (dk_at dksX1_narrowOf_0 6 rfl rfl)
theorem dX1_narrowOf_9 : decode cX1_narrowOf 9 = .ok (.if_icmp .ge 47, 3) := dk_162 0 47 (dk_at dksX1_narrowOf_0 9 rfl rfl)
theorem dX1_narrowOf_12 : decode cX1_narrowOf 12 = .ok (.aload_n 1, 1) := dk_43 (dk_at dksX1_narrowOf_0 12 rfl rfl)
theorem dX1_narrowOf_13 : decode cX1_narrowOf 13 = .ok (.getfield 172, 3) := dk_180 0 172 (dk_at dksX1_narrowOf_0 13 rfl rfl)
theorem dX1_narrowOf_16 : decode cX1_narrowOf 16 = .ok (.aload_n 0, 1) := dk_42 (dk_at dksX1_narrowOf_0 16 rfl rfl)
theorem dX1_narrowOf_17 : decode cX1_narrowOf 17 = .ok (.getfield 162, 3) := dk_180 0 162 (dk_at dksX1_narrowOf_0 17 rfl rfl)
theorem dX1_narrowOf_20 : decode cX1_narrowOf 20 = .ok (.iload_n 3, 1) := dk_29 (dk_at dksX1_narrowOf_0 20 rfl rfl)
theorem dX1_narrowOf_21 : decode cX1_narrowOf 21 = .ok (.iaload, 1) := dk_46 (dk_at dksX1_narrowOf_0 21 rfl rfl)
theorem dX1_narrowOf_22 : decode cX1_narrowOf 22 = .ok (.invokevirtual 176, 3) := dk_182 0 176 (dk_at dksX1_narrowOf_1 0 rfl rfl)
theorem dX1_narrowOf_25 : decode cX1_narrowOf 25 = .ok (.ifCond .eq 25, 3) := dk_153 0 25 (dk_at dksX1_narrowOf_1 3 rfl rfl)
theorem dX1_narrowOf_28 : decode cX1_narrowOf 28 = .ok (.iload_n 2, 1) := dk_28 (dk_at dksX1_narrowOf_1 6 rfl rfl)
theorem dX1_narrowOf_29 : decode cX1_narrowOf 29 = .ok (.iconst (-1), 1) := dk_2 (dk_at dksX1_narrowOf_1 7 rfl rfl)
theorem dX1_narrowOf_30 : decode cX1_narrowOf 30 = .ok (.if_icmp .eq 18, 3) := dk_159 0 18 (dk_at dksX1_narrowOf_1 8 rfl rfl)
theorem dX1_narrowOf_33 : decode cX1_narrowOf 33 = .ok (.aload_n 0, 1) := dk_42 (dk_at dksX1_narrowOf_1 11 rfl rfl)
theorem dX1_narrowOf_34 : decode cX1_narrowOf 34 = .ok (.iload_n 3, 1) := dk_29 (dk_at dksX1_narrowOf_1 12 rfl rfl)
theorem dX1_narrowOf_35 : decode cX1_narrowOf 35 = .ok (.aload_n 1, 1) := dk_43 (dk_at dksX1_narrowOf_1 13 rfl rfl)
theorem dX1_narrowOf_36 : decode cX1_narrowOf 36 = .ok (.invokestatic 182, 3) := dk_184 0 182 (dk_at dksX1_narrowOf_1 14 rfl rfl)
theorem dX1_narrowOf_39 : decode cX1_narrowOf 39 = .ok (.aload_n 0, 1) := dk_42 (dk_at dksX1_narrowOf_1 17 rfl rfl)
theorem dX1_narrowOf_40 : decode cX1_narrowOf 40 = .ok (.iload_n 2, 1) := dk_28 (dk_at dksX1_narrowOf_1 18 rfl rfl)
theorem dX1_narrowOf_41 : decode cX1_narrowOf 41 = .ok (.aload_n 1, 1) := dk_43 (dk_at dksX1_narrowOf_1 19 rfl rfl)
theorem dX1_narrowOf_42 : decode cX1_narrowOf 42 = .ok (.invokestatic 182, 3) := dk_184 0 182 (dk_at dksX1_narrowOf_1 20 rfl rfl)
theorem dX1_narrowOf_45 : decode cX1_narrowOf 45 = .ok (.if_icmp .le 5, 3) := dk_164 0 5 (dk_at dksX1_narrowOf_2 0 rfl rfl)
theorem dX1_narrowOf_48 : decode cX1_narrowOf 48 = .ok (.iload_n 3, 1) := dk_29 (dk_at dksX1_narrowOf_2 3 rfl rfl)
theorem dX1_narrowOf_49 : decode cX1_narrowOf 49 = .ok (.istore_n 2, 1) := dk_61 (dk_at dksX1_narrowOf_2 4 rfl rfl)
theorem dX1_narrowOf_50 : decode cX1_narrowOf 50 = .ok (.iinc 3 1, 3) := dk_132 3 1 (dk_at dksX1_narrowOf_2 5 rfl rfl)
theorem dX1_narrowOf_53 : decode cX1_narrowOf 53 = .ok (.goto (-49), 3) := dk_167 255 207 (dk_at dksX1_narrowOf_2 8 rfl rfl)
theorem dX1_narrowOf_56 : decode cX1_narrowOf 56 = .ok (.iload_n 2, 1) := dk_28 (dk_at dksX1_narrowOf_2 11 rfl rfl)
theorem dX1_narrowOf_57 : decode cX1_narrowOf 57 = .ok (.ireturn, 1) := dk_172 (dk_at dksX1_narrowOf_2 12 rfl rfl)
abbrev cX1_clearAt : ByteArray := prog_20_method_4_code
def yX1_clearAt : MethodName := ⟨RX1, "clearAt", "(LSafeClears$Signal;ILSafeClears$Signal;)I"⟩
def dkwX1_clearAt_1 : List UInt8 := [180, 0, 159, 44, 42, 180, 0, 162, 27, 46, 182, 0, 165, 104, 100, 172]
abbrev dktX1_clearAt_1 : List UInt8 := dkwX1_clearAt_1 ++ []
def dkwX1_clearAt_0 : List UInt8 := [42, 180, 0, 150, 180, 0, 154, 42, 180, 0, 150, 180, 0, 159, 27, 4, 96, 104, 96, 44, 180, 0, 150]
abbrev dktX1_clearAt_0 : List UInt8 := dkwX1_clearAt_0 ++ dktX1_clearAt_1
theorem dksX1_clearAt_0 : cX1_clearAt.data.toList.drop 0 = dktX1_clearAt_0 := by decide +kernel
theorem dksX1_clearAt_1 : cX1_clearAt.data.toList.drop 23 = dktX1_clearAt_1 := dk_seg dksX1_clearAt_0 23 rfl rfl
theorem dX1_clearAt_0 : decode cX1_clearAt 0 = .ok (.aload_n 0, 1) := dk_42 (dk_at dksX1_clearAt_0 0 rfl rfl)
theorem dX1_clearAt_1 : decode cX1_clearAt 1 = .ok (.getfield 150, 3) := dk_180 0 150 (dk_at dksX1_clearAt_0 1 rfl rfl)
theorem dX1_clearAt_4 : decode cX1_clearAt 4 = .ok (.getfield 154, 3) := dk_180 0 154 (dk_at dksX1_clearAt_0 4 rfl rfl)
theorem dX1_clearAt_7 : decode cX1_clearAt 7 = .ok (.aload_n 0, 1) := dk_42 (dk_at dksX1_clearAt_0 7 rfl rfl)
theorem dX1_clearAt_8 : decode cX1_clearAt 8 = .ok (.getfield 150, 3) := dk_180 0 150 (dk_at dksX1_clearAt_0 8 rfl rfl)
theorem dX1_clearAt_11 : decode cX1_clearAt 11 = .ok (.getfield 159, 3) := dk_180 0 159 (dk_at dksX1_clearAt_0 11 rfl rfl)
theorem dX1_clearAt_14 : decode cX1_clearAt 14 = .ok (.iload_n 1, 1) := dk_27 (dk_at dksX1_clearAt_0 14 rfl rfl)
theorem dX1_clearAt_15 : decode cX1_clearAt 15 = .ok (.iconst 1, 1) := dk_4 (dk_at dksX1_clearAt_0 15 rfl rfl)
theorem dX1_clearAt_16 : decode cX1_clearAt 16 = .ok (.iadd, 1) := dk_96 (dk_at dksX1_clearAt_0 16 rfl rfl)
theorem dX1_clearAt_17 : decode cX1_clearAt 17 = .ok (.imul, 1) := dk_104 (dk_at dksX1_clearAt_0 17 rfl rfl)
theorem dX1_clearAt_18 : decode cX1_clearAt 18 = .ok (.iadd, 1) := dk_96 (dk_at dksX1_clearAt_0 18 rfl rfl)
theorem dX1_clearAt_19 : decode cX1_clearAt 19 = .ok (.aload_n 2, 1) := dk_44 (dk_at dksX1_clearAt_0 19 rfl rfl)
theorem dX1_clearAt_20 : decode cX1_clearAt 20 = .ok (.getfield 150, 3) := dk_180 0 150 (dk_at dksX1_clearAt_0 20 rfl rfl)
theorem dX1_clearAt_23 : decode cX1_clearAt 23 = .ok (.getfield 159, 3) := dk_180 0 159 (dk_at dksX1_clearAt_1 0 rfl rfl)
theorem dX1_clearAt_26 : decode cX1_clearAt 26 = .ok (.aload_n 2, 1) := dk_44 (dk_at dksX1_clearAt_1 3 rfl rfl)
theorem dX1_clearAt_27 : decode cX1_clearAt 27 = .ok (.aload_n 0, 1) := dk_42 (dk_at dksX1_clearAt_1 4 rfl rfl)
theorem dX1_clearAt_28 : decode cX1_clearAt 28 = .ok (.getfield 162, 3) := dk_180 0 162 (dk_at dksX1_clearAt_1 5 rfl rfl)
theorem dX1_clearAt_31 : decode cX1_clearAt 31 = .ok (.iload_n 1, 1) := dk_27 (dk_at dksX1_clearAt_1 8 rfl rfl)
theorem dX1_clearAt_32 : decode cX1_clearAt 32 = .ok (.iaload, 1) := dk_46 (dk_at dksX1_clearAt_1 9 rfl rfl)
theorem dX1_clearAt_33 : decode cX1_clearAt 33 = .ok (.invokevirtual 165, 3) := dk_182 0 165 (dk_at dksX1_clearAt_1 10 rfl rfl)
theorem dX1_clearAt_36 : decode cX1_clearAt 36 = .ok (.imul, 1) := dk_104 (dk_at dksX1_clearAt_1 13 rfl rfl)
theorem dX1_clearAt_37 : decode cX1_clearAt 37 = .ok (.isub, 1) := dk_100 (dk_at dksX1_clearAt_1 14 rfl rfl)
theorem dX1_clearAt_38 : decode cX1_clearAt 38 = .ok (.ireturn, 1) := dk_172 (dk_at dksX1_clearAt_1 15 rfl rfl)
abbrev cX1_meets : ByteArray := prog_20_method_9_code
def yX1_meets : MethodName := ⟨RX1, "meets", "(I)I"⟩
def dkwX1_meets_1 : List UInt8 := [120, 167, 0, 4, 3, 128, 61, 132, 3, 1, 167, 255, 226, 28, 172]
abbrev dktX1_meets_1 : List UInt8 := dkwX1_meets_1 ++ []
def dkwX1_meets_0 : List UInt8 := [3, 61, 3, 62, 29, 42, 180, 0, 96, 162, 0, 28, 28, 42, 27, 29, 182, 0, 203, 153, 0, 9, 4, 29]
abbrev dktX1_meets_0 : List UInt8 := dkwX1_meets_0 ++ dktX1_meets_1
theorem dksX1_meets_0 : cX1_meets.data.toList.drop 0 = dktX1_meets_0 := by decide +kernel
theorem dksX1_meets_1 : cX1_meets.data.toList.drop 24 = dktX1_meets_1 := dk_seg dksX1_meets_0 24 rfl rfl
theorem dX1_meets_0 : decode cX1_meets 0 = .ok (.iconst 0, 1) := dk_3 (dk_at dksX1_meets_0 0 rfl rfl)
theorem dX1_meets_1 : decode cX1_meets 1 = .ok (.istore_n 2, 1) := dk_61 (dk_at dksX1_meets_0 1 rfl rfl)
theorem dX1_meets_2 : decode cX1_meets 2 = .ok (.iconst 0, 1) := dk_3 (dk_at dksX1_meets_0 2 rfl rfl)
theorem dX1_meets_3 : decode cX1_meets 3 = .ok (.istore_n 3, 1) := dk_62 (dk_at dksX1_meets_0 3 rfl rfl)
theorem dX1_meets_4 : decode cX1_meets 4 = .ok (.iload_n 3, 1) := dk_29 (dk_at dksX1_meets_0 4 rfl rfl)
theorem dX1_meets_5 : decode cX1_meets 5 = .ok (.aload_n 0, 1) := dk_42 (dk_at dksX1_meets_0 5 rfl rfl)
theorem dX1_meets_6 : decode cX1_meets 6 = .ok (.getfield 96, 3) := dk_180 0 96 (dk_at dksX1_meets_0 6 rfl rfl)
theorem dX1_meets_9 : decode cX1_meets 9 = .ok (.if_icmp .ge 28, 3) := dk_162 0 28 (dk_at dksX1_meets_0 9 rfl rfl)
theorem dX1_meets_12 : decode cX1_meets 12 = .ok (.iload_n 2, 1) := dk_28 (dk_at dksX1_meets_0 12 rfl rfl)
theorem dX1_meets_13 : decode cX1_meets 13 = .ok (.aload_n 0, 1) := dk_42 (dk_at dksX1_meets_0 13 rfl rfl)
theorem dX1_meets_14 : decode cX1_meets 14 = .ok (.iload_n 1, 1) := dk_27 (dk_at dksX1_meets_0 14 rfl rfl)
theorem dX1_meets_15 : decode cX1_meets 15 = .ok (.iload_n 3, 1) := dk_29 (dk_at dksX1_meets_0 15 rfl rfl)
theorem dX1_meets_16 : decode cX1_meets 16 = .ok (.invokevirtual 203, 3) := dk_182 0 203 (dk_at dksX1_meets_0 16 rfl rfl)
theorem dX1_meets_19 : decode cX1_meets 19 = .ok (.ifCond .eq 9, 3) := dk_153 0 9 (dk_at dksX1_meets_0 19 rfl rfl)
theorem dX1_meets_22 : decode cX1_meets 22 = .ok (.iconst 1, 1) := dk_4 (dk_at dksX1_meets_0 22 rfl rfl)
theorem dX1_meets_23 : decode cX1_meets 23 = .ok (.iload_n 3, 1) := dk_29 (dk_at dksX1_meets_0 23 rfl rfl)
theorem dX1_meets_24 : decode cX1_meets 24 = .ok (.ishl, 1) := dk_120 (dk_at dksX1_meets_1 0 rfl rfl)
theorem dX1_meets_25 : decode cX1_meets 25 = .ok (.goto 4, 3) := dk_167 0 4 (dk_at dksX1_meets_1 1 rfl rfl)
theorem dX1_meets_28 : decode cX1_meets 28 = .ok (.iconst 0, 1) := dk_3 (dk_at dksX1_meets_1 4 rfl rfl)
theorem dX1_meets_29 : decode cX1_meets 29 = .ok (.ior, 1) := dk_128 (dk_at dksX1_meets_1 5 rfl rfl)
theorem dX1_meets_30 : decode cX1_meets 30 = .ok (.istore_n 2, 1) := dk_61 (dk_at dksX1_meets_1 6 rfl rfl)
theorem dX1_meets_31 : decode cX1_meets 31 = .ok (.iinc 3 1, 3) := dk_132 3 1 (dk_at dksX1_meets_1 7 rfl rfl)
theorem dX1_meets_34 : decode cX1_meets 34 = .ok (.goto (-30), 3) := dk_167 255 226 (dk_at dksX1_meets_1 10 rfl rfl)
theorem dX1_meets_37 : decode cX1_meets 37 = .ok (.iload_n 2, 1) := dk_28 (dk_at dksX1_meets_1 13 rfl rfl)
theorem dX1_meets_38 : decode cX1_meets 38 = .ok (.ireturn, 1) := dk_172 (dk_at dksX1_meets_1 14 rfl rfl)
abbrev cX1_meet : ByteArray := prog_20_method_8_code
def yX1_meet : MethodName := ⟨RX1, "meet", "(II)Z"⟩
def dkwX1_meet_0 : List UInt8 := [42, 27, 28, 182, 0, 200, 155, 0, 7, 4, 167, 0, 4, 3, 172]
abbrev dktX1_meet_0 : List UInt8 := dkwX1_meet_0 ++ []
theorem dksX1_meet_0 : cX1_meet.data.toList.drop 0 = dktX1_meet_0 := by decide +kernel
theorem dX1_meet_0 : decode cX1_meet 0 = .ok (.aload_n 0, 1) := dk_42 (dk_at dksX1_meet_0 0 rfl rfl)
theorem dX1_meet_1 : decode cX1_meet 1 = .ok (.iload_n 1, 1) := dk_27 (dk_at dksX1_meet_0 1 rfl rfl)
theorem dX1_meet_2 : decode cX1_meet 2 = .ok (.iload_n 2, 1) := dk_28 (dk_at dksX1_meet_0 2 rfl rfl)
theorem dX1_meet_3 : decode cX1_meet 3 = .ok (.invokevirtual 200, 3) := dk_182 0 200 (dk_at dksX1_meet_0 3 rfl rfl)
theorem dX1_meet_6 : decode cX1_meet 6 = .ok (.ifCond .lt 7, 3) := dk_155 0 7 (dk_at dksX1_meet_0 6 rfl rfl)
theorem dX1_meet_9 : decode cX1_meet 9 = .ok (.iconst 1, 1) := dk_4 (dk_at dksX1_meet_0 9 rfl rfl)
theorem dX1_meet_10 : decode cX1_meet 10 = .ok (.goto 4, 3) := dk_167 0 4 (dk_at dksX1_meet_0 10 rfl rfl)
theorem dX1_meet_13 : decode cX1_meet 13 = .ok (.iconst 0, 1) := dk_3 (dk_at dksX1_meet_0 13 rfl rfl)
theorem dX1_meet_14 : decode cX1_meet 14 = .ok (.ireturn, 1) := dk_172 (dk_at dksX1_meet_0 14 rfl rfl)
abbrev cX1_clearOf : ByteArray := prog_20_method_7_code
def yX1_clearOf : MethodName := ⟨RX1, "clearOf", "(II)I"⟩
def dkwX1_clearOf_0 : List UInt8 := [42, 180, 0, 64, 16, 8, 27, 104, 28, 96, 46, 172]
abbrev dktX1_clearOf_0 : List UInt8 := dkwX1_clearOf_0 ++ []
theorem dksX1_clearOf_0 : cX1_clearOf.data.toList.drop 0 = dktX1_clearOf_0 := by decide +kernel
theorem dX1_clearOf_0 : decode cX1_clearOf 0 = .ok (.aload_n 0, 1) := dk_42 (dk_at dksX1_clearOf_0 0 rfl rfl)
theorem dX1_clearOf_1 : decode cX1_clearOf 1 = .ok (.getfield 64, 3) := dk_180 0 64 (dk_at dksX1_clearOf_0 1 rfl rfl)
theorem dX1_clearOf_4 : decode cX1_clearOf 4 = .ok (.bipush 8, 2) := dk_16 8 (dk_at dksX1_clearOf_0 4 rfl rfl)
theorem dX1_clearOf_6 : decode cX1_clearOf 6 = .ok (.iload_n 1, 1) := dk_27 (dk_at dksX1_clearOf_0 6 rfl rfl)
theorem dX1_clearOf_7 : decode cX1_clearOf 7 = .ok (.imul, 1) := dk_104 (dk_at dksX1_clearOf_0 7 rfl rfl)
theorem dX1_clearOf_8 : decode cX1_clearOf 8 = .ok (.iload_n 2, 1) := dk_28 (dk_at dksX1_clearOf_0 8 rfl rfl)
theorem dX1_clearOf_9 : decode cX1_clearOf 9 = .ok (.iadd, 1) := dk_96 (dk_at dksX1_clearOf_0 9 rfl rfl)
theorem dX1_clearOf_10 : decode cX1_clearOf 10 = .ok (.iaload, 1) := dk_46 (dk_at dksX1_clearOf_0 10 rfl rfl)
theorem dX1_clearOf_11 : decode cX1_clearOf 11 = .ok (.ireturn, 1) := dk_172 (dk_at dksX1_clearOf_0 11 rfl rfl)
abbrev cX1_phaseWith : ByteArray := prog_20_method_13_code
def yX1_phaseWith : MethodName := ⟨RX1, "phaseWith", "(I)I"⟩
def dkwX1_phaseWith_1 : List UInt8 := [172, 132, 2, 1, 167, 255, 230, 16, 251, 172]
abbrev dktX1_phaseWith_1 : List UInt8 := dkwX1_phaseWith_1 ++ []
def dkwX1_phaseWith_0 : List UInt8 := [3, 61, 28, 42, 180, 0, 99, 162, 0, 24, 42, 180, 0, 38, 28, 50, 27, 182, 0, 207, 153, 0, 5, 28]
abbrev dktX1_phaseWith_0 : List UInt8 := dkwX1_phaseWith_0 ++ dktX1_phaseWith_1
theorem dksX1_phaseWith_0 : cX1_phaseWith.data.toList.drop 0 = dktX1_phaseWith_0 := by decide +kernel
theorem dksX1_phaseWith_1 : cX1_phaseWith.data.toList.drop 24 = dktX1_phaseWith_1 := dk_seg dksX1_phaseWith_0 24 rfl rfl
theorem dX1_phaseWith_0 : decode cX1_phaseWith 0 = .ok (.iconst 0, 1) := dk_3 (dk_at dksX1_phaseWith_0 0 rfl rfl)
theorem dX1_phaseWith_1 : decode cX1_phaseWith 1 = .ok (.istore_n 2, 1) := dk_61 (dk_at dksX1_phaseWith_0 1 rfl rfl)
theorem dX1_phaseWith_2 : decode cX1_phaseWith 2 = .ok (.iload_n 2, 1) := dk_28 (dk_at dksX1_phaseWith_0 2 rfl rfl)
theorem dX1_phaseWith_3 : decode cX1_phaseWith 3 = .ok (.aload_n 0, 1) := dk_42 (dk_at dksX1_phaseWith_0 3 rfl rfl)
theorem dX1_phaseWith_4 : decode cX1_phaseWith 4 = .ok (.getfield 99, 3) := dk_180 0 99 (dk_at dksX1_phaseWith_0 4 rfl rfl)
theorem dX1_phaseWith_7 : decode cX1_phaseWith 7 = .ok (.if_icmp .ge 24, 3) := dk_162 0 24 (dk_at dksX1_phaseWith_0 7 rfl rfl)
theorem dX1_phaseWith_10 : decode cX1_phaseWith 10 = .ok (.aload_n 0, 1) := dk_42 (dk_at dksX1_phaseWith_0 10 rfl rfl)
theorem dX1_phaseWith_11 : decode cX1_phaseWith 11 = .ok (.getfield 38, 3) := dk_180 0 38 (dk_at dksX1_phaseWith_0 11 rfl rfl)
theorem dX1_phaseWith_14 : decode cX1_phaseWith 14 = .ok (.iload_n 2, 1) := dk_28 (dk_at dksX1_phaseWith_0 14 rfl rfl)
theorem dX1_phaseWith_15 : decode cX1_phaseWith 15 = .ok (.aaload, 1) := dk_50 (dk_at dksX1_phaseWith_0 15 rfl rfl)
theorem dX1_phaseWith_16 : decode cX1_phaseWith 16 = .ok (.iload_n 1, 1) := dk_27 (dk_at dksX1_phaseWith_0 16 rfl rfl)
theorem dX1_phaseWith_17 : decode cX1_phaseWith 17 = .ok (.invokevirtual 207, 3) := dk_182 0 207 (dk_at dksX1_phaseWith_0 17 rfl rfl)
theorem dX1_phaseWith_20 : decode cX1_phaseWith 20 = .ok (.ifCond .eq 5, 3) := dk_153 0 5 (dk_at dksX1_phaseWith_0 20 rfl rfl)
theorem dX1_phaseWith_23 : decode cX1_phaseWith 23 = .ok (.iload_n 2, 1) := dk_28 (dk_at dksX1_phaseWith_0 23 rfl rfl)
theorem dX1_phaseWith_24 : decode cX1_phaseWith 24 = .ok (.ireturn, 1) := dk_172 (dk_at dksX1_phaseWith_1 0 rfl rfl)
theorem dX1_phaseWith_25 : decode cX1_phaseWith 25 = .ok (.iinc 2 1, 3) := dk_132 2 1 (dk_at dksX1_phaseWith_1 1 rfl rfl)
theorem dX1_phaseWith_28 : decode cX1_phaseWith 28 = .ok (.goto (-26), 3) := dk_167 255 230 (dk_at dksX1_phaseWith_1 4 rfl rfl)
theorem dX1_phaseWith_31 : decode cX1_phaseWith 31 = .ok (.bipush (-5), 2) := dk_16 251 (dk_at dksX1_phaseWith_1 7 rfl rfl)
theorem dX1_phaseWith_33 : decode cX1_phaseWith 33 = .ok (.ireturn, 1) := dk_172 (dk_at dksX1_phaseWith_1 9 rfl rfl)
abbrev cX1_comesToEmergency : ByteArray := prog_20_method_32_code
def yX1_comesToEmergency : MethodName := ⟨RX1, "comesToEmergency", "(I)V"⟩
def dkwX1_comesToEmergency_1 : List UInt8 := [177]
abbrev dktX1_comesToEmergency_1 : List UInt8 := dkwX1_comesToEmergency_1 ++ []
def dkwX1_comesToEmergency_0 : List UInt8 := [42, 180, 0, 18, 16, 251, 160, 0, 18, 42, 27, 182, 1, 2, 16, 251, 159, 0, 8, 42, 27, 181, 0, 18]
abbrev dktX1_comesToEmergency_0 : List UInt8 := dkwX1_comesToEmergency_0 ++ dktX1_comesToEmergency_1
theorem dksX1_comesToEmergency_0 : cX1_comesToEmergency.data.toList.drop 0 = dktX1_comesToEmergency_0 := by decide +kernel
theorem dksX1_comesToEmergency_1 : cX1_comesToEmergency.data.toList.drop 24 = dktX1_comesToEmergency_1 := dk_seg dksX1_comesToEmergency_0 24 rfl rfl
theorem dX1_comesToEmergency_0 : decode cX1_comesToEmergency 0 = .ok (.aload_n 0, 1) := dk_42 (dk_at dksX1_comesToEmergency_0 0 rfl rfl)
theorem dX1_comesToEmergency_1 : decode cX1_comesToEmergency 1 = .ok (.getfield 18, 3) := dk_180 0 18 (dk_at dksX1_comesToEmergency_0 1 rfl rfl)
theorem dX1_comesToEmergency_4 : decode cX1_comesToEmergency 4 = .ok (.bipush (-5), 2) := dk_16 251 (dk_at dksX1_comesToEmergency_0 4 rfl rfl)
theorem dX1_comesToEmergency_6 : decode cX1_comesToEmergency 6 = .ok (.if_icmp .ne 18, 3) := dk_160 0 18 (dk_at dksX1_comesToEmergency_0 6 rfl rfl)
theorem dX1_comesToEmergency_9 : decode cX1_comesToEmergency 9 = .ok (.aload_n 0, 1) := dk_42 (dk_at dksX1_comesToEmergency_0 9 rfl rfl)
theorem dX1_comesToEmergency_10 : decode cX1_comesToEmergency 10 = .ok (.iload_n 1, 1) := dk_27 (dk_at dksX1_comesToEmergency_0 10 rfl rfl)
theorem dX1_comesToEmergency_11 : decode cX1_comesToEmergency 11 = .ok (.invokevirtual 258, 3) := dk_182 1 2 (dk_at dksX1_comesToEmergency_0 11 rfl rfl)
theorem dX1_comesToEmergency_14 : decode cX1_comesToEmergency 14 = .ok (.bipush (-5), 2) := dk_16 251 (dk_at dksX1_comesToEmergency_0 14 rfl rfl)
theorem dX1_comesToEmergency_16 : decode cX1_comesToEmergency 16 = .ok (.if_icmp .eq 8, 3) := dk_159 0 8 (dk_at dksX1_comesToEmergency_0 16 rfl rfl)
theorem dX1_comesToEmergency_19 : decode cX1_comesToEmergency 19 = .ok (.aload_n 0, 1) := dk_42 (dk_at dksX1_comesToEmergency_0 19 rfl rfl)
theorem dX1_comesToEmergency_20 : decode cX1_comesToEmergency 20 = .ok (.iload_n 1, 1) := dk_27 (dk_at dksX1_comesToEmergency_0 20 rfl rfl)
theorem dX1_comesToEmergency_21 : decode cX1_comesToEmergency 21 = .ok (.putfield 18, 3) := dk_181 0 18 (dk_at dksX1_comesToEmergency_0 21 rfl rfl)
theorem dX1_comesToEmergency_24 : decode cX1_comesToEmergency 24 = .ok (.return_, 1) := dk_177 (dk_at dksX1_comesToEmergency_1 0 rfl rfl)
abbrev cX1_passes : ByteArray := prog_20_method_27_code
def yX1_passes : MethodName := ⟨RX1, "passes", "(I)LSafeClears$World;"⟩
def dkwX1_passes_1 : List UInt8 := [89, 180, 0, 75, 4, 96, 181, 0, 75, 132, 2, 1, 167, 255, 222, 42, 176]
abbrev dktX1_passes_1 : List UInt8 := dkwX1_passes_1 ++ []
def dkwX1_passes_0 : List UInt8 := [3, 61, 28, 27, 162, 0, 35, 42, 182, 1, 39, 42, 182, 1, 42, 42, 182, 1, 45, 42, 182, 1, 48, 42]
abbrev dktX1_passes_0 : List UInt8 := dkwX1_passes_0 ++ dktX1_passes_1
theorem dksX1_passes_0 : cX1_passes.data.toList.drop 0 = dktX1_passes_0 := by decide +kernel
theorem dksX1_passes_1 : cX1_passes.data.toList.drop 24 = dktX1_passes_1 := dk_seg dksX1_passes_0 24 rfl rfl
theorem dX1_passes_0 : decode cX1_passes 0 = .ok (.iconst 0, 1) := dk_3 (dk_at dksX1_passes_0 0 rfl rfl)
theorem dX1_passes_1 : decode cX1_passes 1 = .ok (.istore_n 2, 1) := dk_61 (dk_at dksX1_passes_0 1 rfl rfl)
theorem dX1_passes_2 : decode cX1_passes 2 = .ok (.iload_n 2, 1) := dk_28 (dk_at dksX1_passes_0 2 rfl rfl)
theorem dX1_passes_3 : decode cX1_passes 3 = .ok (.iload_n 1, 1) := dk_27 (dk_at dksX1_passes_0 3 rfl rfl)
theorem dX1_passes_4 : decode cX1_passes 4 = .ok (.if_icmp .ge 35, 3) := dk_162 0 35 (dk_at dksX1_passes_0 4 rfl rfl)
theorem dX1_passes_7 : decode cX1_passes 7 = .ok (.aload_n 0, 1) := dk_42 (dk_at dksX1_passes_0 7 rfl rfl)
theorem dX1_passes_8 : decode cX1_passes 8 = .ok (.invokevirtual 295, 3) := dk_182 1 39 (dk_at dksX1_passes_0 8 rfl rfl)
theorem dX1_passes_11 : decode cX1_passes 11 = .ok (.aload_n 0, 1) := dk_42 (dk_at dksX1_passes_0 11 rfl rfl)
theorem dX1_passes_12 : decode cX1_passes 12 = .ok (.invokevirtual 298, 3) := dk_182 1 42 (dk_at dksX1_passes_0 12 rfl rfl)
theorem dX1_passes_15 : decode cX1_passes 15 = .ok (.aload_n 0, 1) := dk_42 (dk_at dksX1_passes_0 15 rfl rfl)
theorem dX1_passes_16 : decode cX1_passes 16 = .ok (.invokevirtual 301, 3) := dk_182 1 45 (dk_at dksX1_passes_0 16 rfl rfl)
theorem dX1_passes_19 : decode cX1_passes 19 = .ok (.aload_n 0, 1) := dk_42 (dk_at dksX1_passes_0 19 rfl rfl)
theorem dX1_passes_20 : decode cX1_passes 20 = .ok (.invokevirtual 304, 3) := dk_182 1 48 (dk_at dksX1_passes_0 20 rfl rfl)
theorem dX1_passes_23 : decode cX1_passes 23 = .ok (.aload_n 0, 1) := dk_42 (dk_at dksX1_passes_0 23 rfl rfl)
theorem dX1_passes_24 : decode cX1_passes 24 = .ok (.dup, 1) := dk_89 (dk_at dksX1_passes_1 0 rfl rfl)
theorem dX1_passes_25 : decode cX1_passes 25 = .ok (.getfield 75, 3) := dk_180 0 75 (dk_at dksX1_passes_1 1 rfl rfl)
theorem dX1_passes_28 : decode cX1_passes 28 = .ok (.iconst 1, 1) := dk_4 (dk_at dksX1_passes_1 4 rfl rfl)
theorem dX1_passes_29 : decode cX1_passes 29 = .ok (.iadd, 1) := dk_96 (dk_at dksX1_passes_1 5 rfl rfl)
theorem dX1_passes_30 : decode cX1_passes 30 = .ok (.putfield 75, 3) := dk_181 0 75 (dk_at dksX1_passes_1 6 rfl rfl)
theorem dX1_passes_33 : decode cX1_passes 33 = .ok (.iinc 2 1, 3) := dk_132 2 1 (dk_at dksX1_passes_1 9 rfl rfl)
theorem dX1_passes_36 : decode cX1_passes 36 = .ok (.goto (-34), 3) := dk_167 255 222 (dk_at dksX1_passes_1 12 rfl rfl)
theorem dX1_passes_39 : decode cX1_passes 39 = .ok (.aload_n 0, 1) := dk_42 (dk_at dksX1_passes_1 15 rfl rfl)
theorem dX1_passes_40 : decode cX1_passes 40 = .ok (.areturn, 1) := dk_176 (dk_at dksX1_passes_1 16 rfl rfl)
abbrev cX1_coming : ByteArray := prog_20_method_17_code
def yX1_coming : MethodName := ⟨RX1, "coming", "()V"⟩
def dkwX1_coming_3 : List UInt8 := [42, 180, 0, 75, 181, 0, 236, 132, 1, 1, 167, 255, 176, 177]
abbrev dktX1_coming_3 : List UInt8 := dkwX1_coming_3 ++ []
def dkwX1_coming_2 : List UInt8 := [182, 0, 232, 167, 0, 13, 42, 89, 180, 0, 84, 4, 96, 181, 0, 84, 44, 180, 0, 229, 158, 0, 11, 44]
abbrev dktX1_coming_2 : List UInt8 := dkwX1_coming_2 ++ dktX1_coming_3
def dkwX1_coming_1 : List UInt8 := [42, 16, 60, 182, 0, 226, 44, 182, 0, 223, 162, 0, 30, 44, 180, 0, 229, 16, 99, 162, 0, 11, 44, 4]
abbrev dktX1_coming_1 : List UInt8 := dkwX1_coming_1 ++ dktX1_coming_2
def dkwX1_coming_0 : List UInt8 := [3, 60, 27, 42, 180, 0, 96, 162, 0, 78, 42, 180, 0, 32, 27, 50, 77, 44, 182, 0, 223, 158, 0, 43]
abbrev dktX1_coming_0 : List UInt8 := dkwX1_coming_0 ++ dktX1_coming_1
theorem dksX1_coming_0 : cX1_coming.data.toList.drop 0 = dktX1_coming_0 := by decide +kernel
theorem dksX1_coming_1 : cX1_coming.data.toList.drop 24 = dktX1_coming_1 := dk_seg dksX1_coming_0 24 rfl rfl
theorem dksX1_coming_2 : cX1_coming.data.toList.drop 48 = dktX1_coming_2 := dk_seg dksX1_coming_1 24 rfl rfl
theorem dksX1_coming_3 : cX1_coming.data.toList.drop 72 = dktX1_coming_3 := dk_seg dksX1_coming_2 24 rfl rfl
theorem dX1_coming_0 : decode cX1_coming 0 = .ok (.iconst 0, 1) := dk_3 (dk_at dksX1_coming_0 0 rfl rfl)
theorem dX1_coming_1 : decode cX1_coming 1 = .ok (.istore_n 1, 1) := dk_60 (dk_at dksX1_coming_0 1 rfl rfl)
theorem dX1_coming_2 : decode cX1_coming 2 = .ok (.iload_n 1, 1) := dk_27 (dk_at dksX1_coming_0 2 rfl rfl)
theorem dX1_coming_3 : decode cX1_coming 3 = .ok (.aload_n 0, 1) := dk_42 (dk_at dksX1_coming_0 3 rfl rfl)
theorem dX1_coming_4 : decode cX1_coming 4 = .ok (.getfield 96, 3) := dk_180 0 96 (dk_at dksX1_coming_0 4 rfl rfl)
theorem dX1_coming_7 : decode cX1_coming 7 = .ok (.if_icmp .ge 78, 3) := dk_162 0 78 (dk_at dksX1_coming_0 7 rfl rfl)
theorem dX1_coming_10 : decode cX1_coming 10 = .ok (.aload_n 0, 1) := dk_42 (dk_at dksX1_coming_0 10 rfl rfl)
theorem dX1_coming_11 : decode cX1_coming 11 = .ok (.getfield 32, 3) := dk_180 0 32 (dk_at dksX1_coming_0 11 rfl rfl)
theorem dX1_coming_14 : decode cX1_coming 14 = .ok (.iload_n 1, 1) := dk_27 (dk_at dksX1_coming_0 14 rfl rfl)
theorem dX1_coming_15 : decode cX1_coming 15 = .ok (.aaload, 1) := dk_50 (dk_at dksX1_coming_0 15 rfl rfl)
theorem dX1_coming_16 : decode cX1_coming 16 = .ok (.astore_n 2, 1) := dk_77 (dk_at dksX1_coming_0 16 rfl rfl)
theorem dX1_coming_17 : decode cX1_coming 17 = .ok (.aload_n 2, 1) := dk_44 (dk_at dksX1_coming_0 17 rfl rfl)
theorem dX1_coming_18 : decode cX1_coming 18 = .ok (.invokevirtual 223, 3) := dk_182 0 223 (dk_at dksX1_coming_0 18 rfl rfl)
theorem dX1_coming_21 : decode cX1_coming 21 = .ok (.ifCond .le 43, 3) := dk_158 0 43 (dk_at dksX1_coming_0 21 rfl rfl)
theorem dX1_coming_24 : decode cX1_coming 24 = .ok (.aload_n 0, 1) := dk_42 (dk_at dksX1_coming_1 0 rfl rfl)
theorem dX1_coming_25 : decode cX1_coming 25 = .ok (.bipush 60, 2) := dk_16 60 (dk_at dksX1_coming_1 1 rfl rfl)
theorem dX1_coming_27 : decode cX1_coming 27 = .ok (.invokevirtual 226, 3) := dk_182 0 226 (dk_at dksX1_coming_1 3 rfl rfl)
theorem dX1_coming_30 : decode cX1_coming 30 = .ok (.aload_n 2, 1) := dk_44 (dk_at dksX1_coming_1 6 rfl rfl)
theorem dX1_coming_31 : decode cX1_coming 31 = .ok (.invokevirtual 223, 3) := dk_182 0 223 (dk_at dksX1_coming_1 7 rfl rfl)
theorem dX1_coming_34 : decode cX1_coming 34 = .ok (.if_icmp .ge 30, 3) := dk_162 0 30 (dk_at dksX1_coming_1 10 rfl rfl)
theorem dX1_coming_37 : decode cX1_coming 37 = .ok (.aload_n 2, 1) := dk_44 (dk_at dksX1_coming_1 13 rfl rfl)
theorem dX1_coming_38 : decode cX1_coming 38 = .ok (.getfield 229, 3) := dk_180 0 229 (dk_at dksX1_coming_1 14 rfl rfl)
theorem dX1_coming_41 : decode cX1_coming 41 = .ok (.bipush 99, 2) := dk_16 99 (dk_at dksX1_coming_1 17 rfl rfl)
theorem dX1_coming_43 : decode cX1_coming 43 = .ok (.if_icmp .ge 11, 3) := dk_162 0 11 (dk_at dksX1_coming_1 19 rfl rfl)
theorem dX1_coming_46 : decode cX1_coming 46 = .ok (.aload_n 2, 1) := dk_44 (dk_at dksX1_coming_1 22 rfl rfl)
theorem dX1_coming_47 : decode cX1_coming 47 = .ok (.iconst 1, 1) := dk_4 (dk_at dksX1_coming_1 23 rfl rfl)
theorem dX1_coming_48 : decode cX1_coming 48 = .ok (.invokevirtual 232, 3) := dk_182 0 232 (dk_at dksX1_coming_2 0 rfl rfl)
theorem dX1_coming_51 : decode cX1_coming 51 = .ok (.goto 13, 3) := dk_167 0 13 (dk_at dksX1_coming_2 3 rfl rfl)
theorem dX1_coming_54 : decode cX1_coming 54 = .ok (.aload_n 0, 1) := dk_42 (dk_at dksX1_coming_2 6 rfl rfl)
theorem dX1_coming_55 : decode cX1_coming 55 = .ok (.dup, 1) := dk_89 (dk_at dksX1_coming_2 7 rfl rfl)
theorem dX1_coming_56 : decode cX1_coming 56 = .ok (.getfield 84, 3) := dk_180 0 84 (dk_at dksX1_coming_2 8 rfl rfl)
theorem dX1_coming_59 : decode cX1_coming 59 = .ok (.iconst 1, 1) := dk_4 (dk_at dksX1_coming_2 11 rfl rfl)
theorem dX1_coming_60 : decode cX1_coming 60 = .ok (.iadd, 1) := dk_96 (dk_at dksX1_coming_2 12 rfl rfl)
theorem dX1_coming_61 : decode cX1_coming 61 = .ok (.putfield 84, 3) := dk_181 0 84 (dk_at dksX1_coming_2 13 rfl rfl)
theorem dX1_coming_64 : decode cX1_coming 64 = .ok (.aload_n 2, 1) := dk_44 (dk_at dksX1_coming_2 16 rfl rfl)
theorem dX1_coming_65 : decode cX1_coming 65 = .ok (.getfield 229, 3) := dk_180 0 229 (dk_at dksX1_coming_2 17 rfl rfl)
theorem dX1_coming_68 : decode cX1_coming 68 = .ok (.ifCond .le 11, 3) := dk_158 0 11 (dk_at dksX1_coming_2 20 rfl rfl)
theorem dX1_coming_71 : decode cX1_coming 71 = .ok (.aload_n 2, 1) := dk_44 (dk_at dksX1_coming_2 23 rfl rfl)
theorem dX1_coming_72 : decode cX1_coming 72 = .ok (.aload_n 0, 1) := dk_42 (dk_at dksX1_coming_3 0 rfl rfl)
theorem dX1_coming_73 : decode cX1_coming 73 = .ok (.getfield 75, 3) := dk_180 0 75 (dk_at dksX1_coming_3 1 rfl rfl)
theorem dX1_coming_76 : decode cX1_coming 76 = .ok (.putfield 236, 3) := dk_181 0 236 (dk_at dksX1_coming_3 4 rfl rfl)
theorem dX1_coming_79 : decode cX1_coming 79 = .ok (.iinc 1 1, 3) := dk_132 1 1 (dk_at dksX1_coming_3 7 rfl rfl)
theorem dX1_coming_82 : decode cX1_coming 82 = .ok (.goto (-80), 3) := dk_167 255 176 (dk_at dksX1_coming_3 10 rfl rfl)
theorem dX1_coming_85 : decode cX1_coming 85 = .ok (.return_, 1) := dk_177 (dk_at dksX1_coming_3 13 rfl rfl)
abbrev cX1_draw : ByteArray := prog_20_method_3_code
def yX1_draw : MethodName := ⟨RX1, "draw", "(I)I"⟩
def dkwX1_draw_1 : List UInt8 := [172]
abbrev dktX1_draw_1 : List UInt8 := dkwX1_draw_1 ++ []
def dkwX1_draw_0 : List UInt8 := [42, 42, 180, 0, 21, 18, 149, 104, 17, 48, 57, 96, 181, 0, 21, 42, 180, 0, 21, 16, 9, 124, 27, 112]
abbrev dktX1_draw_0 : List UInt8 := dkwX1_draw_0 ++ dktX1_draw_1
theorem dksX1_draw_0 : cX1_draw.data.toList.drop 0 = dktX1_draw_0 := by decide +kernel
theorem dksX1_draw_1 : cX1_draw.data.toList.drop 24 = dktX1_draw_1 := dk_seg dksX1_draw_0 24 rfl rfl
theorem dX1_draw_0 : decode cX1_draw 0 = .ok (.aload_n 0, 1) := dk_42 (dk_at dksX1_draw_0 0 rfl rfl)
theorem dX1_draw_1 : decode cX1_draw 1 = .ok (.aload_n 0, 1) := dk_42 (dk_at dksX1_draw_0 1 rfl rfl)
theorem dX1_draw_2 : decode cX1_draw 2 = .ok (.getfield 21, 3) := dk_180 0 21 (dk_at dksX1_draw_0 2 rfl rfl)
theorem dX1_draw_5 : decode cX1_draw 5 = .ok (.ldc 149, 2) := dk_18 149 (dk_at dksX1_draw_0 5 rfl rfl)
theorem dX1_draw_7 : decode cX1_draw 7 = .ok (.imul, 1) := dk_104 (dk_at dksX1_draw_0 7 rfl rfl)
theorem dX1_draw_8 : decode cX1_draw 8 = .ok (.sipush 12345, 3) := dk_17 48 57 (dk_at dksX1_draw_0 8 rfl rfl)
theorem dX1_draw_11 : decode cX1_draw 11 = .ok (.iadd, 1) := dk_96 (dk_at dksX1_draw_0 11 rfl rfl)
theorem dX1_draw_12 : decode cX1_draw 12 = .ok (.putfield 21, 3) := dk_181 0 21 (dk_at dksX1_draw_0 12 rfl rfl)
theorem dX1_draw_15 : decode cX1_draw 15 = .ok (.aload_n 0, 1) := dk_42 (dk_at dksX1_draw_0 15 rfl rfl)
theorem dX1_draw_16 : decode cX1_draw 16 = .ok (.getfield 21, 3) := dk_180 0 21 (dk_at dksX1_draw_0 16 rfl rfl)
theorem dX1_draw_19 : decode cX1_draw 19 = .ok (.bipush 9, 2) := dk_16 9 (dk_at dksX1_draw_0 19 rfl rfl)
theorem dX1_draw_21 : decode cX1_draw 21 = .ok (.iushr, 1) := dk_124 (dk_at dksX1_draw_0 21 rfl rfl)
theorem dX1_draw_22 : decode cX1_draw 22 = .ok (.iload_n 1, 1) := dk_27 (dk_at dksX1_draw_0 22 rfl rfl)
theorem dX1_draw_23 : decode cX1_draw 23 = .ok (.irem, 1) := dk_112 (dk_at dksX1_draw_0 23 rfl rfl)
theorem dX1_draw_24 : decode cX1_draw 24 = .ok (.ireturn, 1) := dk_172 (dk_at dksX1_draw_1 0 rfl rfl)
abbrev cX1_changes : ByteArray := prog_20_method_23_code
def yX1_changes : MethodName := ⟨RX1, "changes", "()V"⟩
def dkwX1_changes_3 : List UInt8 := [181, 0, 15, 42, 27, 182, 1, 5, 177]
abbrev dktX1_changes_3 : List UInt8 := dkwX1_changes_3 ++ []
def dkwX1_changes_2 : List UInt8 := [16, 251, 159, 0, 17, 42, 182, 1, 23, 154, 0, 10, 42, 182, 1, 26, 154, 0, 4, 177, 42, 16, 251]
abbrev dktX1_changes_2 : List UInt8 := dkwX1_changes_2 ++ dktX1_changes_3
def dkwX1_changes_1 : List UInt8 := [42, 180, 0, 15, 182, 0, 214, 153, 0, 10, 42, 180, 0, 15, 167, 0, 7, 42, 182, 1, 20, 60, 27]
abbrev dktX1_changes_1 : List UInt8 := dkwX1_changes_1 ++ dktX1_changes_2
def dkwX1_changes_0 : List UInt8 := [42, 180, 0, 18, 16, 251, 159, 0, 8, 42, 182, 1, 17, 177, 42, 180, 0, 15, 16, 251, 159, 0, 21, 42]
abbrev dktX1_changes_0 : List UInt8 := dkwX1_changes_0 ++ dktX1_changes_1
theorem dksX1_changes_0 : cX1_changes.data.toList.drop 0 = dktX1_changes_0 := by decide +kernel
theorem dksX1_changes_1 : cX1_changes.data.toList.drop 24 = dktX1_changes_1 := dk_seg dksX1_changes_0 24 rfl rfl
theorem dksX1_changes_2 : cX1_changes.data.toList.drop 47 = dktX1_changes_2 := dk_seg dksX1_changes_1 23 rfl rfl
theorem dksX1_changes_3 : cX1_changes.data.toList.drop 70 = dktX1_changes_3 := dk_seg dksX1_changes_2 23 rfl rfl
theorem dX1_changes_0 : decode cX1_changes 0 = .ok (.aload_n 0, 1) := dk_42 (dk_at dksX1_changes_0 0 rfl rfl)
theorem dX1_changes_1 : decode cX1_changes 1 = .ok (.getfield 18, 3) := dk_180 0 18 (dk_at dksX1_changes_0 1 rfl rfl)
theorem dX1_changes_4 : decode cX1_changes 4 = .ok (.bipush (-5), 2) := dk_16 251 (dk_at dksX1_changes_0 4 rfl rfl)
theorem dX1_changes_6 : decode cX1_changes 6 = .ok (.if_icmp .eq 8, 3) := dk_159 0 8 (dk_at dksX1_changes_0 6 rfl rfl)
theorem dX1_changes_9 : decode cX1_changes 9 = .ok (.aload_n 0, 1) := dk_42 (dk_at dksX1_changes_0 9 rfl rfl)
theorem dX1_changes_10 : decode cX1_changes 10 = .ok (.invokevirtual 273, 3) := dk_182 1 17 (dk_at dksX1_changes_0 10 rfl rfl)
theorem dX1_changes_13 : decode cX1_changes 13 = .ok (.return_, 1) := dk_177 (dk_at dksX1_changes_0 13 rfl rfl)
theorem dX1_changes_14 : decode cX1_changes 14 = .ok (.aload_n 0, 1) := dk_42 (dk_at dksX1_changes_0 14 rfl rfl)
theorem dX1_changes_15 : decode cX1_changes 15 = .ok (.getfield 15, 3) := dk_180 0 15 (dk_at dksX1_changes_0 15 rfl rfl)
theorem dX1_changes_18 : decode cX1_changes 18 = .ok (.bipush (-5), 2) := dk_16 251 (dk_at dksX1_changes_0 18 rfl rfl)
theorem dX1_changes_20 : decode cX1_changes 20 = .ok (.if_icmp .eq 21, 3) := dk_159 0 21 (dk_at dksX1_changes_0 20 rfl rfl)
theorem dX1_changes_23 : decode cX1_changes 23 = .ok (.aload_n 0, 1) := dk_42 (dk_at dksX1_changes_0 23 rfl rfl)
theorem dX1_changes_24 : decode cX1_changes 24 = .ok (.aload_n 0, 1) := dk_42 (dk_at dksX1_changes_1 0 rfl rfl)
theorem dX1_changes_25 : decode cX1_changes 25 = .ok (.getfield 15, 3) := dk_180 0 15 (dk_at dksX1_changes_1 1 rfl rfl)
theorem dX1_changes_28 : decode cX1_changes 28 = .ok (.invokevirtual 214, 3) := dk_182 0 214 (dk_at dksX1_changes_1 4 rfl rfl)
theorem dX1_changes_31 : decode cX1_changes 31 = .ok (.ifCond .eq 10, 3) := dk_153 0 10 (dk_at dksX1_changes_1 7 rfl rfl)
theorem dX1_changes_34 : decode cX1_changes 34 = .ok (.aload_n 0, 1) := dk_42 (dk_at dksX1_changes_1 10 rfl rfl)
theorem dX1_changes_35 : decode cX1_changes 35 = .ok (.getfield 15, 3) := dk_180 0 15 (dk_at dksX1_changes_1 11 rfl rfl)
theorem dX1_changes_38 : decode cX1_changes 38 = .ok (.goto 7, 3) := dk_167 0 7 (dk_at dksX1_changes_1 14 rfl rfl)
theorem dX1_changes_41 : decode cX1_changes 41 = .ok (.aload_n 0, 1) := dk_42 (dk_at dksX1_changes_1 17 rfl rfl)
theorem dX1_changes_42 : decode cX1_changes 42 = .ok (.invokevirtual 276, 3) := dk_182 1 20 (dk_at dksX1_changes_1 18 rfl rfl)
theorem dX1_changes_45 : decode cX1_changes 45 = .ok (.istore_n 1, 1) := dk_60 (dk_at dksX1_changes_1 21 rfl rfl)
theorem dX1_changes_46 : decode cX1_changes 46 = .ok (.iload_n 1, 1) := dk_27 (dk_at dksX1_changes_1 22 rfl rfl)
theorem dX1_changes_47 : decode cX1_changes 47 = .ok (.bipush (-5), 2) := dk_16 251 (dk_at dksX1_changes_2 0 rfl rfl)
theorem dX1_changes_49 : decode cX1_changes 49 = .ok (.if_icmp .eq 17, 3) := dk_159 0 17 (dk_at dksX1_changes_2 2 rfl rfl)
theorem dX1_changes_52 : decode cX1_changes 52 = .ok (.aload_n 0, 1) := dk_42 (dk_at dksX1_changes_2 5 rfl rfl)
theorem dX1_changes_53 : decode cX1_changes 53 = .ok (.invokevirtual 279, 3) := dk_182 1 23 (dk_at dksX1_changes_2 6 rfl rfl)
theorem dX1_changes_56 : decode cX1_changes 56 = .ok (.ifCond .ne 10, 3) := dk_154 0 10 (dk_at dksX1_changes_2 9 rfl rfl)
theorem dX1_changes_59 : decode cX1_changes 59 = .ok (.aload_n 0, 1) := dk_42 (dk_at dksX1_changes_2 12 rfl rfl)
theorem dX1_changes_60 : decode cX1_changes 60 = .ok (.invokevirtual 282, 3) := dk_182 1 26 (dk_at dksX1_changes_2 13 rfl rfl)
theorem dX1_changes_63 : decode cX1_changes 63 = .ok (.ifCond .ne 4, 3) := dk_154 0 4 (dk_at dksX1_changes_2 16 rfl rfl)
theorem dX1_changes_66 : decode cX1_changes 66 = .ok (.return_, 1) := dk_177 (dk_at dksX1_changes_2 19 rfl rfl)
theorem dX1_changes_67 : decode cX1_changes 67 = .ok (.aload_n 0, 1) := dk_42 (dk_at dksX1_changes_2 20 rfl rfl)
theorem dX1_changes_68 : decode cX1_changes 68 = .ok (.bipush (-5), 2) := dk_16 251 (dk_at dksX1_changes_2 21 rfl rfl)
theorem dX1_changes_70 : decode cX1_changes 70 = .ok (.putfield 15, 3) := dk_181 0 15 (dk_at dksX1_changes_3 0 rfl rfl)
theorem dX1_changes_73 : decode cX1_changes 73 = .ok (.aload_n 0, 1) := dk_42 (dk_at dksX1_changes_3 3 rfl rfl)
theorem dX1_changes_74 : decode cX1_changes 74 = .ok (.iload_n 1, 1) := dk_27 (dk_at dksX1_changes_3 4 rfl rfl)
theorem dX1_changes_75 : decode cX1_changes 75 = .ok (.invokevirtual 261, 3) := dk_182 1 5 (dk_at dksX1_changes_3 5 rfl rfl)
theorem dX1_changes_78 : decode cX1_changes 78 = .ok (.return_, 1) := dk_177 (dk_at dksX1_changes_3 8 rfl rfl)
abbrev cX1_isCutShort : ByteArray := prog_20_method_21_code
def yX1_isCutShort : MethodName := ⟨RX1, "isCutShort", "()V"⟩
def dkwX1_isCutShort_4 : List UInt8 := [167, 0, 7, 42, 180, 0, 15, 181, 0, 15, 42, 42, 42, 180, 0, 18, 182, 1, 2, 182, 1, 5, 177]
abbrev dktX1_isCutShort_4 : List UInt8 := dkwX1_isCutShort_4 ++ []
def dkwX1_isCutShort_3 : List UInt8 := [154, 0, 4, 177, 132, 2, 1, 167, 255, 203, 42, 42, 180, 0, 15, 16, 251, 160, 0, 10, 42, 180, 0, 9]
abbrev dktX1_isCutShort_3 : List UInt8 := dkwX1_isCutShort_3 ++ dktX1_isCutShort_4
def dkwX1_isCutShort_2 : List UInt8 := [180, 0, 246, 153, 0, 23, 45, 45, 182, 0, 252, 4, 96, 5, 108, 42, 180, 0, 75, 182, 0, 255]
abbrev dktX1_isCutShort_2 : List UInt8 := dkwX1_isCutShort_2 ++ dktX1_isCutShort_3
def dkwX1_isCutShort_1 : List UInt8 := [28, 42, 180, 0, 96, 162, 0, 51, 42, 180, 0, 32, 28, 50, 78, 43, 28, 182, 0, 207, 153, 0, 30, 45]
abbrev dktX1_isCutShort_1 : List UInt8 := dkwX1_isCutShort_1 ++ dktX1_isCutShort_2
def dkwX1_isCutShort_0 : List UInt8 := [42, 180, 0, 38, 42, 180, 0, 9, 50, 76, 43, 42, 180, 0, 18, 182, 0, 207, 153, 0, 4, 177, 3, 61]
abbrev dktX1_isCutShort_0 : List UInt8 := dkwX1_isCutShort_0 ++ dktX1_isCutShort_1
theorem dksX1_isCutShort_0 : cX1_isCutShort.data.toList.drop 0 = dktX1_isCutShort_0 := by decide +kernel
theorem dksX1_isCutShort_1 : cX1_isCutShort.data.toList.drop 24 = dktX1_isCutShort_1 := dk_seg dksX1_isCutShort_0 24 rfl rfl
theorem dksX1_isCutShort_2 : cX1_isCutShort.data.toList.drop 48 = dktX1_isCutShort_2 := dk_seg dksX1_isCutShort_1 24 rfl rfl
theorem dksX1_isCutShort_3 : cX1_isCutShort.data.toList.drop 70 = dktX1_isCutShort_3 := dk_seg dksX1_isCutShort_2 22 rfl rfl
theorem dksX1_isCutShort_4 : cX1_isCutShort.data.toList.drop 94 = dktX1_isCutShort_4 := dk_seg dksX1_isCutShort_3 24 rfl rfl
theorem dX1_isCutShort_0 : decode cX1_isCutShort 0 = .ok (.aload_n 0, 1) := dk_42 (dk_at dksX1_isCutShort_0 0 rfl rfl)
theorem dX1_isCutShort_1 : decode cX1_isCutShort 1 = .ok (.getfield 38, 3) := dk_180 0 38 (dk_at dksX1_isCutShort_0 1 rfl rfl)
theorem dX1_isCutShort_4 : decode cX1_isCutShort 4 = .ok (.aload_n 0, 1) := dk_42 (dk_at dksX1_isCutShort_0 4 rfl rfl)
theorem dX1_isCutShort_5 : decode cX1_isCutShort 5 = .ok (.getfield 9, 3) := dk_180 0 9 (dk_at dksX1_isCutShort_0 5 rfl rfl)
theorem dX1_isCutShort_8 : decode cX1_isCutShort 8 = .ok (.aaload, 1) := dk_50 (dk_at dksX1_isCutShort_0 8 rfl rfl)
theorem dX1_isCutShort_9 : decode cX1_isCutShort 9 = .ok (.astore_n 1, 1) := dk_76 (dk_at dksX1_isCutShort_0 9 rfl rfl)
theorem dX1_isCutShort_10 : decode cX1_isCutShort 10 = .ok (.aload_n 1, 1) := dk_43 (dk_at dksX1_isCutShort_0 10 rfl rfl)
theorem dX1_isCutShort_11 : decode cX1_isCutShort 11 = .ok (.aload_n 0, 1) := dk_42 (dk_at dksX1_isCutShort_0 11 rfl rfl)
theorem dX1_isCutShort_12 : decode cX1_isCutShort 12 = .ok (.getfield 18, 3) := dk_180 0 18 (dk_at dksX1_isCutShort_0 12 rfl rfl)
theorem dX1_isCutShort_15 : decode cX1_isCutShort 15 = .ok (.invokevirtual 207, 3) := dk_182 0 207 (dk_at dksX1_isCutShort_0 15 rfl rfl)
theorem dX1_isCutShort_18 : decode cX1_isCutShort 18 = .ok (.ifCond .eq 4, 3) := dk_153 0 4 (dk_at dksX1_isCutShort_0 18 rfl rfl)
theorem dX1_isCutShort_21 : decode cX1_isCutShort 21 = .ok (.return_, 1) := dk_177 (dk_at dksX1_isCutShort_0 21 rfl rfl)
theorem dX1_isCutShort_22 : decode cX1_isCutShort 22 = .ok (.iconst 0, 1) := dk_3 (dk_at dksX1_isCutShort_0 22 rfl rfl)
theorem dX1_isCutShort_23 : decode cX1_isCutShort 23 = .ok (.istore_n 2, 1) := dk_61 (dk_at dksX1_isCutShort_0 23 rfl rfl)
theorem dX1_isCutShort_24 : decode cX1_isCutShort 24 = .ok (.iload_n 2, 1) := dk_28 (dk_at dksX1_isCutShort_1 0 rfl rfl)
theorem dX1_isCutShort_25 : decode cX1_isCutShort 25 = .ok (.aload_n 0, 1) := dk_42 (dk_at dksX1_isCutShort_1 1 rfl rfl)
theorem dX1_isCutShort_26 : decode cX1_isCutShort 26 = .ok (.getfield 96, 3) := dk_180 0 96 (dk_at dksX1_isCutShort_1 2 rfl rfl)
theorem dX1_isCutShort_29 : decode cX1_isCutShort 29 = .ok (.if_icmp .ge 51, 3) := dk_162 0 51 (dk_at dksX1_isCutShort_1 5 rfl rfl)
theorem dX1_isCutShort_32 : decode cX1_isCutShort 32 = .ok (.aload_n 0, 1) := dk_42 (dk_at dksX1_isCutShort_1 8 rfl rfl)
theorem dX1_isCutShort_33 : decode cX1_isCutShort 33 = .ok (.getfield 32, 3) := dk_180 0 32 (dk_at dksX1_isCutShort_1 9 rfl rfl)
theorem dX1_isCutShort_36 : decode cX1_isCutShort 36 = .ok (.iload_n 2, 1) := dk_28 (dk_at dksX1_isCutShort_1 12 rfl rfl)
theorem dX1_isCutShort_37 : decode cX1_isCutShort 37 = .ok (.aaload, 1) := dk_50 (dk_at dksX1_isCutShort_1 13 rfl rfl)
theorem dX1_isCutShort_38 : decode cX1_isCutShort 38 = .ok (.astore_n 3, 1) := dk_78 (dk_at dksX1_isCutShort_1 14 rfl rfl)
theorem dX1_isCutShort_39 : decode cX1_isCutShort 39 = .ok (.aload_n 1, 1) := dk_43 (dk_at dksX1_isCutShort_1 15 rfl rfl)
theorem dX1_isCutShort_40 : decode cX1_isCutShort 40 = .ok (.iload_n 2, 1) := dk_28 (dk_at dksX1_isCutShort_1 16 rfl rfl)
theorem dX1_isCutShort_41 : decode cX1_isCutShort 41 = .ok (.invokevirtual 207, 3) := dk_182 0 207 (dk_at dksX1_isCutShort_1 17 rfl rfl)
theorem dX1_isCutShort_44 : decode cX1_isCutShort 44 = .ok (.ifCond .eq 30, 3) := dk_153 0 30 (dk_at dksX1_isCutShort_1 20 rfl rfl)
theorem dX1_isCutShort_47 : decode cX1_isCutShort 47 = .ok (.aload_n 3, 1) := dk_45 (dk_at dksX1_isCutShort_1 23 rfl rfl)
theorem dX1_isCutShort_48 : decode cX1_isCutShort 48 = .ok (.getfield 246, 3) := dk_180 0 246 (dk_at dksX1_isCutShort_2 0 rfl rfl)
theorem dX1_isCutShort_51 : decode cX1_isCutShort 51 = .ok (.ifCond .eq 23, 3) := dk_153 0 23 (dk_at dksX1_isCutShort_2 3 rfl rfl)
theorem dX1_isCutShort_54 : decode cX1_isCutShort 54 = .ok (.aload_n 3, 1) := dk_45 (dk_at dksX1_isCutShort_2 6 rfl rfl)
theorem dX1_isCutShort_55 : decode cX1_isCutShort 55 = .ok (.aload_n 3, 1) := dk_45 (dk_at dksX1_isCutShort_2 7 rfl rfl)
theorem dX1_isCutShort_56 : decode cX1_isCutShort 56 = .ok (.invokevirtual 252, 3) := dk_182 0 252 (dk_at dksX1_isCutShort_2 8 rfl rfl)
theorem dX1_isCutShort_59 : decode cX1_isCutShort 59 = .ok (.iconst 1, 1) := dk_4 (dk_at dksX1_isCutShort_2 11 rfl rfl)
theorem dX1_isCutShort_60 : decode cX1_isCutShort 60 = .ok (.iadd, 1) := dk_96 (dk_at dksX1_isCutShort_2 12 rfl rfl)
theorem dX1_isCutShort_61 : decode cX1_isCutShort 61 = .ok (.iconst 2, 1) := dk_5 (dk_at dksX1_isCutShort_2 13 rfl rfl)
theorem dX1_isCutShort_62 : decode cX1_isCutShort 62 = .ok (.idiv, 1) := dk_108 (dk_at dksX1_isCutShort_2 14 rfl rfl)
theorem dX1_isCutShort_63 : decode cX1_isCutShort 63 = .ok (.aload_n 0, 1) := dk_42 (dk_at dksX1_isCutShort_2 15 rfl rfl)
theorem dX1_isCutShort_64 : decode cX1_isCutShort 64 = .ok (.getfield 75, 3) := dk_180 0 75 (dk_at dksX1_isCutShort_2 16 rfl rfl)
theorem dX1_isCutShort_67 : decode cX1_isCutShort 67 = .ok (.invokevirtual 255, 3) := dk_182 0 255 (dk_at dksX1_isCutShort_2 19 rfl rfl)
theorem dX1_isCutShort_70 : decode cX1_isCutShort 70 = .ok (.ifCond .ne 4, 3) := dk_154 0 4 (dk_at dksX1_isCutShort_3 0 rfl rfl)
theorem dX1_isCutShort_73 : decode cX1_isCutShort 73 = .ok (.return_, 1) := dk_177 (dk_at dksX1_isCutShort_3 3 rfl rfl)
theorem dX1_isCutShort_74 : decode cX1_isCutShort 74 = .ok (.iinc 2 1, 3) := dk_132 2 1 (dk_at dksX1_isCutShort_3 4 rfl rfl)
theorem dX1_isCutShort_77 : decode cX1_isCutShort 77 = .ok (.goto (-53), 3) := dk_167 255 203 (dk_at dksX1_isCutShort_3 7 rfl rfl)
theorem dX1_isCutShort_80 : decode cX1_isCutShort 80 = .ok (.aload_n 0, 1) := dk_42 (dk_at dksX1_isCutShort_3 10 rfl rfl)
theorem dX1_isCutShort_81 : decode cX1_isCutShort 81 = .ok (.aload_n 0, 1) := dk_42 (dk_at dksX1_isCutShort_3 11 rfl rfl)
theorem dX1_isCutShort_82 : decode cX1_isCutShort 82 = .ok (.getfield 15, 3) := dk_180 0 15 (dk_at dksX1_isCutShort_3 12 rfl rfl)
theorem dX1_isCutShort_85 : decode cX1_isCutShort 85 = .ok (.bipush (-5), 2) := dk_16 251 (dk_at dksX1_isCutShort_3 15 rfl rfl)
theorem dX1_isCutShort_87 : decode cX1_isCutShort 87 = .ok (.if_icmp .ne 10, 3) := dk_160 0 10 (dk_at dksX1_isCutShort_3 17 rfl rfl)
theorem dX1_isCutShort_90 : decode cX1_isCutShort 90 = .ok (.aload_n 0, 1) := dk_42 (dk_at dksX1_isCutShort_3 20 rfl rfl)
theorem dX1_isCutShort_91 : decode cX1_isCutShort 91 = .ok (.getfield 9, 3) := dk_180 0 9 (dk_at dksX1_isCutShort_3 21 rfl rfl)
theorem dX1_isCutShort_94 : decode cX1_isCutShort 94 = .ok (.goto 7, 3) := dk_167 0 7 (dk_at dksX1_isCutShort_4 0 rfl rfl)
theorem dX1_isCutShort_97 : decode cX1_isCutShort 97 = .ok (.aload_n 0, 1) := dk_42 (dk_at dksX1_isCutShort_4 3 rfl rfl)
theorem dX1_isCutShort_98 : decode cX1_isCutShort 98 = .ok (.getfield 15, 3) := dk_180 0 15 (dk_at dksX1_isCutShort_4 4 rfl rfl)
theorem dX1_isCutShort_101 : decode cX1_isCutShort 101 = .ok (.putfield 15, 3) := dk_181 0 15 (dk_at dksX1_isCutShort_4 7 rfl rfl)
theorem dX1_isCutShort_104 : decode cX1_isCutShort 104 = .ok (.aload_n 0, 1) := dk_42 (dk_at dksX1_isCutShort_4 10 rfl rfl)
theorem dX1_isCutShort_105 : decode cX1_isCutShort 105 = .ok (.aload_n 0, 1) := dk_42 (dk_at dksX1_isCutShort_4 11 rfl rfl)
theorem dX1_isCutShort_106 : decode cX1_isCutShort 106 = .ok (.aload_n 0, 1) := dk_42 (dk_at dksX1_isCutShort_4 12 rfl rfl)
theorem dX1_isCutShort_107 : decode cX1_isCutShort 107 = .ok (.getfield 18, 3) := dk_180 0 18 (dk_at dksX1_isCutShort_4 13 rfl rfl)
theorem dX1_isCutShort_110 : decode cX1_isCutShort 110 = .ok (.invokevirtual 258, 3) := dk_182 1 2 (dk_at dksX1_isCutShort_4 16 rfl rfl)
theorem dX1_isCutShort_113 : decode cX1_isCutShort 113 = .ok (.invokevirtual 261, 3) := dk_182 1 5 (dk_at dksX1_isCutShort_4 19 rfl rfl)
theorem dX1_isCutShort_116 : decode cX1_isCutShort 116 = .ok (.return_, 1) := dk_177 (dk_at dksX1_isCutShort_4 22 rfl rfl)
abbrev cX1_changesTo : ByteArray := prog_20_method_20_code
def yX1_changesTo : MethodName := ⟨RX1, "changesTo", "(I)V"⟩
def dkwX1_changesTo_3 : List UInt8 := [50, 89, 180, 0, 130, 4, 96, 181, 0, 130, 177]
abbrev dktX1_changesTo_3 : List UInt8 := dkwX1_changesTo_3 ++ []
def dkwX1_changesTo_2 : List UInt8 := [181, 0, 242, 42, 28, 182, 0, 249, 132, 2, 1, 167, 255, 200, 42, 27, 181, 0, 9, 42, 180, 0, 38, 27]
abbrev dktX1_changesTo_2 : List UInt8 := dkwX1_changesTo_2 ++ dktX1_changesTo_3
def dkwX1_changesTo_1 : List UInt8 := [42, 180, 0, 38, 27, 50, 28, 182, 0, 207, 154, 0, 21, 45, 3, 181, 0, 246, 45, 42, 180, 0, 75]
abbrev dktX1_changesTo_1 : List UInt8 := dkwX1_changesTo_1 ++ dktX1_changesTo_2
def dkwX1_changesTo_0 : List UInt8 := [3, 61, 28, 42, 180, 0, 96, 162, 0, 54, 42, 180, 0, 32, 28, 50, 78, 45, 180, 0, 246, 153, 0, 34]
abbrev dktX1_changesTo_0 : List UInt8 := dkwX1_changesTo_0 ++ dktX1_changesTo_1
theorem dksX1_changesTo_0 : cX1_changesTo.data.toList.drop 0 = dktX1_changesTo_0 := by decide +kernel
theorem dksX1_changesTo_1 : cX1_changesTo.data.toList.drop 24 = dktX1_changesTo_1 := dk_seg dksX1_changesTo_0 24 rfl rfl
theorem dksX1_changesTo_2 : cX1_changesTo.data.toList.drop 47 = dktX1_changesTo_2 := dk_seg dksX1_changesTo_1 23 rfl rfl
theorem dksX1_changesTo_3 : cX1_changesTo.data.toList.drop 71 = dktX1_changesTo_3 := dk_seg dksX1_changesTo_2 24 rfl rfl
theorem dX1_changesTo_0 : decode cX1_changesTo 0 = .ok (.iconst 0, 1) := dk_3 (dk_at dksX1_changesTo_0 0 rfl rfl)
theorem dX1_changesTo_1 : decode cX1_changesTo 1 = .ok (.istore_n 2, 1) := dk_61 (dk_at dksX1_changesTo_0 1 rfl rfl)
theorem dX1_changesTo_2 : decode cX1_changesTo 2 = .ok (.iload_n 2, 1) := dk_28 (dk_at dksX1_changesTo_0 2 rfl rfl)
theorem dX1_changesTo_3 : decode cX1_changesTo 3 = .ok (.aload_n 0, 1) := dk_42 (dk_at dksX1_changesTo_0 3 rfl rfl)
theorem dX1_changesTo_4 : decode cX1_changesTo 4 = .ok (.getfield 96, 3) := dk_180 0 96 (dk_at dksX1_changesTo_0 4 rfl rfl)
theorem dX1_changesTo_7 : decode cX1_changesTo 7 = .ok (.if_icmp .ge 54, 3) := dk_162 0 54 (dk_at dksX1_changesTo_0 7 rfl rfl)
theorem dX1_changesTo_10 : decode cX1_changesTo 10 = .ok (.aload_n 0, 1) := dk_42 (dk_at dksX1_changesTo_0 10 rfl rfl)
theorem dX1_changesTo_11 : decode cX1_changesTo 11 = .ok (.getfield 32, 3) := dk_180 0 32 (dk_at dksX1_changesTo_0 11 rfl rfl)
theorem dX1_changesTo_14 : decode cX1_changesTo 14 = .ok (.iload_n 2, 1) := dk_28 (dk_at dksX1_changesTo_0 14 rfl rfl)
theorem dX1_changesTo_15 : decode cX1_changesTo 15 = .ok (.aaload, 1) := dk_50 (dk_at dksX1_changesTo_0 15 rfl rfl)
theorem dX1_changesTo_16 : decode cX1_changesTo 16 = .ok (.astore_n 3, 1) := dk_78 (dk_at dksX1_changesTo_0 16 rfl rfl)
theorem dX1_changesTo_17 : decode cX1_changesTo 17 = .ok (.aload_n 3, 1) := dk_45 (dk_at dksX1_changesTo_0 17 rfl rfl)
theorem dX1_changesTo_18 : decode cX1_changesTo 18 = .ok (.getfield 246, 3) := dk_180 0 246 (dk_at dksX1_changesTo_0 18 rfl rfl)
theorem dX1_changesTo_21 : decode cX1_changesTo 21 = .ok (.ifCond .eq 34, 3) := dk_153 0 34 (dk_at dksX1_changesTo_0 21 rfl rfl)
theorem dX1_changesTo_24 : decode cX1_changesTo 24 = .ok (.aload_n 0, 1) := dk_42 (dk_at dksX1_changesTo_1 0 rfl rfl)
theorem dX1_changesTo_25 : decode cX1_changesTo 25 = .ok (.getfield 38, 3) := dk_180 0 38 (dk_at dksX1_changesTo_1 1 rfl rfl)
theorem dX1_changesTo_28 : decode cX1_changesTo 28 = .ok (.iload_n 1, 1) := dk_27 (dk_at dksX1_changesTo_1 4 rfl rfl)
theorem dX1_changesTo_29 : decode cX1_changesTo 29 = .ok (.aaload, 1) := dk_50 (dk_at dksX1_changesTo_1 5 rfl rfl)
theorem dX1_changesTo_30 : decode cX1_changesTo 30 = .ok (.iload_n 2, 1) := dk_28 (dk_at dksX1_changesTo_1 6 rfl rfl)
theorem dX1_changesTo_31 : decode cX1_changesTo 31 = .ok (.invokevirtual 207, 3) := dk_182 0 207 (dk_at dksX1_changesTo_1 7 rfl rfl)
theorem dX1_changesTo_34 : decode cX1_changesTo 34 = .ok (.ifCond .ne 21, 3) := dk_154 0 21 (dk_at dksX1_changesTo_1 10 rfl rfl)
theorem dX1_changesTo_37 : decode cX1_changesTo 37 = .ok (.aload_n 3, 1) := dk_45 (dk_at dksX1_changesTo_1 13 rfl rfl)
theorem dX1_changesTo_38 : decode cX1_changesTo 38 = .ok (.iconst 0, 1) := dk_3 (dk_at dksX1_changesTo_1 14 rfl rfl)
theorem dX1_changesTo_39 : decode cX1_changesTo 39 = .ok (.putfield 246, 3) := dk_181 0 246 (dk_at dksX1_changesTo_1 15 rfl rfl)
theorem dX1_changesTo_42 : decode cX1_changesTo 42 = .ok (.aload_n 3, 1) := dk_45 (dk_at dksX1_changesTo_1 18 rfl rfl)
theorem dX1_changesTo_43 : decode cX1_changesTo 43 = .ok (.aload_n 0, 1) := dk_42 (dk_at dksX1_changesTo_1 19 rfl rfl)
theorem dX1_changesTo_44 : decode cX1_changesTo 44 = .ok (.getfield 75, 3) := dk_180 0 75 (dk_at dksX1_changesTo_1 20 rfl rfl)
theorem dX1_changesTo_47 : decode cX1_changesTo 47 = .ok (.putfield 242, 3) := dk_181 0 242 (dk_at dksX1_changesTo_2 0 rfl rfl)
theorem dX1_changesTo_50 : decode cX1_changesTo 50 = .ok (.aload_n 0, 1) := dk_42 (dk_at dksX1_changesTo_2 3 rfl rfl)
theorem dX1_changesTo_51 : decode cX1_changesTo 51 = .ok (.iload_n 2, 1) := dk_28 (dk_at dksX1_changesTo_2 4 rfl rfl)
theorem dX1_changesTo_52 : decode cX1_changesTo 52 = .ok (.invokevirtual 249, 3) := dk_182 0 249 (dk_at dksX1_changesTo_2 5 rfl rfl)
theorem dX1_changesTo_55 : decode cX1_changesTo 55 = .ok (.iinc 2 1, 3) := dk_132 2 1 (dk_at dksX1_changesTo_2 8 rfl rfl)
theorem dX1_changesTo_58 : decode cX1_changesTo 58 = .ok (.goto (-56), 3) := dk_167 255 200 (dk_at dksX1_changesTo_2 11 rfl rfl)
theorem dX1_changesTo_61 : decode cX1_changesTo 61 = .ok (.aload_n 0, 1) := dk_42 (dk_at dksX1_changesTo_2 14 rfl rfl)
theorem dX1_changesTo_62 : decode cX1_changesTo 62 = .ok (.iload_n 1, 1) := dk_27 (dk_at dksX1_changesTo_2 15 rfl rfl)
theorem dX1_changesTo_63 : decode cX1_changesTo 63 = .ok (.putfield 9, 3) := dk_181 0 9 (dk_at dksX1_changesTo_2 16 rfl rfl)
theorem dX1_changesTo_66 : decode cX1_changesTo 66 = .ok (.aload_n 0, 1) := dk_42 (dk_at dksX1_changesTo_2 19 rfl rfl)
theorem dX1_changesTo_67 : decode cX1_changesTo 67 = .ok (.getfield 38, 3) := dk_180 0 38 (dk_at dksX1_changesTo_2 20 rfl rfl)
theorem dX1_changesTo_70 : decode cX1_changesTo 70 = .ok (.iload_n 1, 1) := dk_27 (dk_at dksX1_changesTo_2 23 rfl rfl)
theorem dX1_changesTo_71 : decode cX1_changesTo 71 = .ok (.aaload, 1) := dk_50 (dk_at dksX1_changesTo_3 0 rfl rfl)
theorem dX1_changesTo_72 : decode cX1_changesTo 72 = .ok (.dup, 1) := dk_89 (dk_at dksX1_changesTo_3 1 rfl rfl)
theorem dX1_changesTo_73 : decode cX1_changesTo 73 = .ok (.getfield 130, 3) := dk_180 0 130 (dk_at dksX1_changesTo_3 2 rfl rfl)
theorem dX1_changesTo_76 : decode cX1_changesTo 76 = .ok (.iconst 1, 1) := dk_4 (dk_at dksX1_changesTo_3 5 rfl rfl)
theorem dX1_changesTo_77 : decode cX1_changesTo 77 = .ok (.iadd, 1) := dk_96 (dk_at dksX1_changesTo_3 6 rfl rfl)
theorem dX1_changesTo_78 : decode cX1_changesTo 78 = .ok (.putfield 130, 3) := dk_181 0 130 (dk_at dksX1_changesTo_3 7 rfl rfl)
theorem dX1_changesTo_81 : decode cX1_changesTo 81 = .ok (.return_, 1) := dk_177 (dk_at dksX1_changesTo_3 10 rfl rfl)
abbrev cX1_keepsGreen : ByteArray := prog_20_method_18_code
def yX1_keepsGreen : MethodName := ⟨RX1, "keepsGreen", "(I)V"⟩
def dkwX1_keepsGreen_3 : List UInt8 := [180, 0, 239, 42, 180, 0, 32, 27, 50, 180, 0, 242, 182, 0, 245, 177]
abbrev dktX1_keepsGreen_3 : List UInt8 := dkwX1_keepsGreen_3 ++ []
def dkwX1_keepsGreen_2 : List UInt8 := [50, 77, 42, 42, 180, 0, 105, 4, 96, 16, 24, 112, 181, 0, 105, 44, 27, 42, 180, 0, 32, 27, 50]
abbrev dktX1_keepsGreen_2 : List UInt8 := dkwX1_keepsGreen_2 ++ dktX1_keepsGreen_3
def dkwX1_keepsGreen_1 : List UInt8 := [112, 50, 77, 42, 89, 180, 0, 102, 4, 96, 181, 0, 102, 167, 0, 26, 42, 180, 0, 44, 42, 180, 0, 105]
abbrev dktX1_keepsGreen_1 : List UInt8 := dkwX1_keepsGreen_1 ++ dktX1_keepsGreen_2
def dkwX1_keepsGreen_0 : List UInt8 := [42, 180, 0, 102, 16, 24, 162, 0, 34, 42, 180, 0, 44, 42, 180, 0, 105, 42, 180, 0, 102, 96, 16, 24]
abbrev dktX1_keepsGreen_0 : List UInt8 := dkwX1_keepsGreen_0 ++ dktX1_keepsGreen_1
theorem dksX1_keepsGreen_0 : cX1_keepsGreen.data.toList.drop 0 = dktX1_keepsGreen_0 := by decide +kernel
theorem dksX1_keepsGreen_1 : cX1_keepsGreen.data.toList.drop 24 = dktX1_keepsGreen_1 := dk_seg dksX1_keepsGreen_0 24 rfl rfl
theorem dksX1_keepsGreen_2 : cX1_keepsGreen.data.toList.drop 48 = dktX1_keepsGreen_2 := dk_seg dksX1_keepsGreen_1 24 rfl rfl
theorem dksX1_keepsGreen_3 : cX1_keepsGreen.data.toList.drop 71 = dktX1_keepsGreen_3 := dk_seg dksX1_keepsGreen_2 23 rfl rfl
theorem dX1_keepsGreen_0 : decode cX1_keepsGreen 0 = .ok (.aload_n 0, 1) := dk_42 (dk_at dksX1_keepsGreen_0 0 rfl rfl)
theorem dX1_keepsGreen_1 : decode cX1_keepsGreen 1 = .ok (.getfield 102, 3) := dk_180 0 102 (dk_at dksX1_keepsGreen_0 1 rfl rfl)
theorem dX1_keepsGreen_4 : decode cX1_keepsGreen 4 = .ok (.bipush 24, 2) := dk_16 24 (dk_at dksX1_keepsGreen_0 4 rfl rfl)
theorem dX1_keepsGreen_6 : decode cX1_keepsGreen 6 = .ok (.if_icmp .ge 34, 3) := dk_162 0 34 (dk_at dksX1_keepsGreen_0 6 rfl rfl)
theorem dX1_keepsGreen_9 : decode cX1_keepsGreen 9 = .ok (.aload_n 0, 1) := dk_42 (dk_at dksX1_keepsGreen_0 9 rfl rfl)
theorem dX1_keepsGreen_10 : decode cX1_keepsGreen 10 = .ok (.getfield 44, 3) := dk_180 0 44 (dk_at dksX1_keepsGreen_0 10 rfl rfl)
theorem dX1_keepsGreen_13 : decode cX1_keepsGreen 13 = .ok (.aload_n 0, 1) := dk_42 (dk_at dksX1_keepsGreen_0 13 rfl rfl)
theorem dX1_keepsGreen_14 : decode cX1_keepsGreen 14 = .ok (.getfield 105, 3) := dk_180 0 105 (dk_at dksX1_keepsGreen_0 14 rfl rfl)
theorem dX1_keepsGreen_17 : decode cX1_keepsGreen 17 = .ok (.aload_n 0, 1) := dk_42 (dk_at dksX1_keepsGreen_0 17 rfl rfl)
theorem dX1_keepsGreen_18 : decode cX1_keepsGreen 18 = .ok (.getfield 102, 3) := dk_180 0 102 (dk_at dksX1_keepsGreen_0 18 rfl rfl)
theorem dX1_keepsGreen_21 : decode cX1_keepsGreen 21 = .ok (.iadd, 1) := dk_96 (dk_at dksX1_keepsGreen_0 21 rfl rfl)
theorem dX1_keepsGreen_22 : decode cX1_keepsGreen 22 = .ok (.bipush 24, 2) := dk_16 24 (dk_at dksX1_keepsGreen_0 22 rfl rfl)
theorem dX1_keepsGreen_24 : decode cX1_keepsGreen 24 = .ok (.irem, 1) := dk_112 (dk_at dksX1_keepsGreen_1 0 rfl rfl)
theorem dX1_keepsGreen_25 : decode cX1_keepsGreen 25 = .ok (.aaload, 1) := dk_50 (dk_at dksX1_keepsGreen_1 1 rfl rfl)
theorem dX1_keepsGreen_26 : decode cX1_keepsGreen 26 = .ok (.astore_n 2, 1) := dk_77 (dk_at dksX1_keepsGreen_1 2 rfl rfl)
theorem dX1_keepsGreen_27 : decode cX1_keepsGreen 27 = .ok (.aload_n 0, 1) := dk_42 (dk_at dksX1_keepsGreen_1 3 rfl rfl)
theorem dX1_keepsGreen_28 : decode cX1_keepsGreen 28 = .ok (.dup, 1) := dk_89 (dk_at dksX1_keepsGreen_1 4 rfl rfl)
theorem dX1_keepsGreen_29 : decode cX1_keepsGreen 29 = .ok (.getfield 102, 3) := dk_180 0 102 (dk_at dksX1_keepsGreen_1 5 rfl rfl)
theorem dX1_keepsGreen_32 : decode cX1_keepsGreen 32 = .ok (.iconst 1, 1) := dk_4 (dk_at dksX1_keepsGreen_1 8 rfl rfl)
theorem dX1_keepsGreen_33 : decode cX1_keepsGreen 33 = .ok (.iadd, 1) := dk_96 (dk_at dksX1_keepsGreen_1 9 rfl rfl)
theorem dX1_keepsGreen_34 : decode cX1_keepsGreen 34 = .ok (.putfield 102, 3) := dk_181 0 102 (dk_at dksX1_keepsGreen_1 10 rfl rfl)
theorem dX1_keepsGreen_37 : decode cX1_keepsGreen 37 = .ok (.goto 26, 3) := dk_167 0 26 (dk_at dksX1_keepsGreen_1 13 rfl rfl)
theorem dX1_keepsGreen_40 : decode cX1_keepsGreen 40 = .ok (.aload_n 0, 1) := dk_42 (dk_at dksX1_keepsGreen_1 16 rfl rfl)
theorem dX1_keepsGreen_41 : decode cX1_keepsGreen 41 = .ok (.getfield 44, 3) := dk_180 0 44 (dk_at dksX1_keepsGreen_1 17 rfl rfl)
theorem dX1_keepsGreen_44 : decode cX1_keepsGreen 44 = .ok (.aload_n 0, 1) := dk_42 (dk_at dksX1_keepsGreen_1 20 rfl rfl)
theorem dX1_keepsGreen_45 : decode cX1_keepsGreen 45 = .ok (.getfield 105, 3) := dk_180 0 105 (dk_at dksX1_keepsGreen_1 21 rfl rfl)
theorem dX1_keepsGreen_48 : decode cX1_keepsGreen 48 = .ok (.aaload, 1) := dk_50 (dk_at dksX1_keepsGreen_2 0 rfl rfl)
theorem dX1_keepsGreen_49 : decode cX1_keepsGreen 49 = .ok (.astore_n 2, 1) := dk_77 (dk_at dksX1_keepsGreen_2 1 rfl rfl)
theorem dX1_keepsGreen_50 : decode cX1_keepsGreen 50 = .ok (.aload_n 0, 1) := dk_42 (dk_at dksX1_keepsGreen_2 2 rfl rfl)
theorem dX1_keepsGreen_51 : decode cX1_keepsGreen 51 = .ok (.aload_n 0, 1) := dk_42 (dk_at dksX1_keepsGreen_2 3 rfl rfl)
theorem dX1_keepsGreen_52 : decode cX1_keepsGreen 52 = .ok (.getfield 105, 3) := dk_180 0 105 (dk_at dksX1_keepsGreen_2 4 rfl rfl)
theorem dX1_keepsGreen_55 : decode cX1_keepsGreen 55 = .ok (.iconst 1, 1) := dk_4 (dk_at dksX1_keepsGreen_2 7 rfl rfl)
theorem dX1_keepsGreen_56 : decode cX1_keepsGreen 56 = .ok (.iadd, 1) := dk_96 (dk_at dksX1_keepsGreen_2 8 rfl rfl)
theorem dX1_keepsGreen_57 : decode cX1_keepsGreen 57 = .ok (.bipush 24, 2) := dk_16 24 (dk_at dksX1_keepsGreen_2 9 rfl rfl)
theorem dX1_keepsGreen_59 : decode cX1_keepsGreen 59 = .ok (.irem, 1) := dk_112 (dk_at dksX1_keepsGreen_2 11 rfl rfl)
theorem dX1_keepsGreen_60 : decode cX1_keepsGreen 60 = .ok (.putfield 105, 3) := dk_181 0 105 (dk_at dksX1_keepsGreen_2 12 rfl rfl)
theorem dX1_keepsGreen_63 : decode cX1_keepsGreen 63 = .ok (.aload_n 2, 1) := dk_44 (dk_at dksX1_keepsGreen_2 15 rfl rfl)
theorem dX1_keepsGreen_64 : decode cX1_keepsGreen 64 = .ok (.iload_n 1, 1) := dk_27 (dk_at dksX1_keepsGreen_2 16 rfl rfl)
theorem dX1_keepsGreen_65 : decode cX1_keepsGreen 65 = .ok (.aload_n 0, 1) := dk_42 (dk_at dksX1_keepsGreen_2 17 rfl rfl)
theorem dX1_keepsGreen_66 : decode cX1_keepsGreen 66 = .ok (.getfield 32, 3) := dk_180 0 32 (dk_at dksX1_keepsGreen_2 18 rfl rfl)
theorem dX1_keepsGreen_69 : decode cX1_keepsGreen 69 = .ok (.iload_n 1, 1) := dk_27 (dk_at dksX1_keepsGreen_2 21 rfl rfl)
theorem dX1_keepsGreen_70 : decode cX1_keepsGreen 70 = .ok (.aaload, 1) := dk_50 (dk_at dksX1_keepsGreen_2 22 rfl rfl)
theorem dX1_keepsGreen_71 : decode cX1_keepsGreen 71 = .ok (.getfield 239, 3) := dk_180 0 239 (dk_at dksX1_keepsGreen_3 0 rfl rfl)
theorem dX1_keepsGreen_74 : decode cX1_keepsGreen 74 = .ok (.aload_n 0, 1) := dk_42 (dk_at dksX1_keepsGreen_3 3 rfl rfl)
theorem dX1_keepsGreen_75 : decode cX1_keepsGreen 75 = .ok (.getfield 32, 3) := dk_180 0 32 (dk_at dksX1_keepsGreen_3 4 rfl rfl)
theorem dX1_keepsGreen_78 : decode cX1_keepsGreen 78 = .ok (.iload_n 1, 1) := dk_27 (dk_at dksX1_keepsGreen_3 7 rfl rfl)
theorem dX1_keepsGreen_79 : decode cX1_keepsGreen 79 = .ok (.aaload, 1) := dk_50 (dk_at dksX1_keepsGreen_3 8 rfl rfl)
theorem dX1_keepsGreen_80 : decode cX1_keepsGreen 80 = .ok (.getfield 242, 3) := dk_180 0 242 (dk_at dksX1_keepsGreen_3 9 rfl rfl)
theorem dX1_keepsGreen_83 : decode cX1_keepsGreen 83 = .ok (.invokevirtual 245, 3) := dk_182 0 245 (dk_at dksX1_keepsGreen_3 12 rfl rfl)
theorem dX1_keepsGreen_86 : decode cX1_keepsGreen 86 = .ok (.return_, 1) := dk_177 (dk_at dksX1_keepsGreen_3 15 rfl rfl)
abbrev cX1_isCalled : ByteArray := prog_20_method_10_code
def yX1_isCalled : MethodName := ⟨RX1, "isCalled", "(I)Z"⟩
def dkwX1_isCalled_3 : List UInt8 := [158, 0, 7, 4, 167, 0, 4, 3, 172]
abbrev dktX1_isCalled_3 : List UInt8 := dkwX1_isCalled_3 ++ []
def dkwX1_isCalled_2 : List UInt8 := [182, 0, 210, 153, 0, 5, 4, 172, 132, 2, 1, 167, 255, 218, 27, 154, 0, 14, 42, 180, 0, 87]
abbrev dktX1_isCalled_2 : List UInt8 := dkwX1_isCalled_2 ++ dktX1_isCalled_3
def dkwX1_isCalled_1 : List UInt8 := [162, 0, 36, 42, 180, 0, 38, 27, 50, 28, 182, 0, 207, 153, 0, 17, 42, 180, 0, 32, 28, 50]
abbrev dktX1_isCalled_1 : List UInt8 := dkwX1_isCalled_1 ++ dktX1_isCalled_2
def dkwX1_isCalled_0 : List UInt8 := [42, 180, 0, 71, 153, 0, 11, 27, 42, 180, 0, 9, 160, 0, 5, 3, 172, 3, 61, 28, 42, 180, 0, 96]
abbrev dktX1_isCalled_0 : List UInt8 := dkwX1_isCalled_0 ++ dktX1_isCalled_1
theorem dksX1_isCalled_0 : cX1_isCalled.data.toList.drop 0 = dktX1_isCalled_0 := by decide +kernel
theorem dksX1_isCalled_1 : cX1_isCalled.data.toList.drop 24 = dktX1_isCalled_1 := dk_seg dksX1_isCalled_0 24 rfl rfl
theorem dksX1_isCalled_2 : cX1_isCalled.data.toList.drop 46 = dktX1_isCalled_2 := dk_seg dksX1_isCalled_1 22 rfl rfl
theorem dksX1_isCalled_3 : cX1_isCalled.data.toList.drop 68 = dktX1_isCalled_3 := dk_seg dksX1_isCalled_2 22 rfl rfl
theorem dX1_isCalled_0 : decode cX1_isCalled 0 = .ok (.aload_n 0, 1) := dk_42 (dk_at dksX1_isCalled_0 0 rfl rfl)
theorem dX1_isCalled_1 : decode cX1_isCalled 1 = .ok (.getfield 71, 3) := dk_180 0 71 (dk_at dksX1_isCalled_0 1 rfl rfl)
theorem dX1_isCalled_4 : decode cX1_isCalled 4 = .ok (.ifCond .eq 11, 3) := dk_153 0 11 (dk_at dksX1_isCalled_0 4 rfl rfl)
theorem dX1_isCalled_7 : decode cX1_isCalled 7 = .ok (.iload_n 1, 1) := dk_27 (dk_at dksX1_isCalled_0 7 rfl rfl)
theorem dX1_isCalled_8 : decode cX1_isCalled 8 = .ok (.aload_n 0, 1) := dk_42 (dk_at dksX1_isCalled_0 8 rfl rfl)
theorem dX1_isCalled_9 : decode cX1_isCalled 9 = .ok (.getfield 9, 3) := dk_180 0 9 (dk_at dksX1_isCalled_0 9 rfl rfl)
theorem dX1_isCalled_12 : decode cX1_isCalled 12 = .ok (.if_icmp .ne 5, 3) := dk_160 0 5 (dk_at dksX1_isCalled_0 12 rfl rfl)
theorem dX1_isCalled_15 : decode cX1_isCalled 15 = .ok (.iconst 0, 1) := dk_3 (dk_at dksX1_isCalled_0 15 rfl rfl)
theorem dX1_isCalled_16 : decode cX1_isCalled 16 = .ok (.ireturn, 1) := dk_172 (dk_at dksX1_isCalled_0 16 rfl rfl)
theorem dX1_isCalled_17 : decode cX1_isCalled 17 = .ok (.iconst 0, 1) := dk_3 (dk_at dksX1_isCalled_0 17 rfl rfl)
theorem dX1_isCalled_18 : decode cX1_isCalled 18 = .ok (.istore_n 2, 1) := dk_61 (dk_at dksX1_isCalled_0 18 rfl rfl)
theorem dX1_isCalled_19 : decode cX1_isCalled 19 = .ok (.iload_n 2, 1) := dk_28 (dk_at dksX1_isCalled_0 19 rfl rfl)
theorem dX1_isCalled_20 : decode cX1_isCalled 20 = .ok (.aload_n 0, 1) := dk_42 (dk_at dksX1_isCalled_0 20 rfl rfl)
theorem dX1_isCalled_21 : decode cX1_isCalled 21 = .ok (.getfield 96, 3) := dk_180 0 96 (dk_at dksX1_isCalled_0 21 rfl rfl)
theorem dX1_isCalled_24 : decode cX1_isCalled 24 = .ok (.if_icmp .ge 36, 3) := dk_162 0 36 (dk_at dksX1_isCalled_1 0 rfl rfl)
theorem dX1_isCalled_27 : decode cX1_isCalled 27 = .ok (.aload_n 0, 1) := dk_42 (dk_at dksX1_isCalled_1 3 rfl rfl)
theorem dX1_isCalled_28 : decode cX1_isCalled 28 = .ok (.getfield 38, 3) := dk_180 0 38 (dk_at dksX1_isCalled_1 4 rfl rfl)
theorem dX1_isCalled_31 : decode cX1_isCalled 31 = .ok (.iload_n 1, 1) := dk_27 (dk_at dksX1_isCalled_1 7 rfl rfl)
theorem dX1_isCalled_32 : decode cX1_isCalled 32 = .ok (.aaload, 1) := dk_50 (dk_at dksX1_isCalled_1 8 rfl rfl)
theorem dX1_isCalled_33 : decode cX1_isCalled 33 = .ok (.iload_n 2, 1) := dk_28 (dk_at dksX1_isCalled_1 9 rfl rfl)
theorem dX1_isCalled_34 : decode cX1_isCalled 34 = .ok (.invokevirtual 207, 3) := dk_182 0 207 (dk_at dksX1_isCalled_1 10 rfl rfl)
theorem dX1_isCalled_37 : decode cX1_isCalled 37 = .ok (.ifCond .eq 17, 3) := dk_153 0 17 (dk_at dksX1_isCalled_1 13 rfl rfl)
theorem dX1_isCalled_40 : decode cX1_isCalled 40 = .ok (.aload_n 0, 1) := dk_42 (dk_at dksX1_isCalled_1 16 rfl rfl)
theorem dX1_isCalled_41 : decode cX1_isCalled 41 = .ok (.getfield 32, 3) := dk_180 0 32 (dk_at dksX1_isCalled_1 17 rfl rfl)
theorem dX1_isCalled_44 : decode cX1_isCalled 44 = .ok (.iload_n 2, 1) := dk_28 (dk_at dksX1_isCalled_1 20 rfl rfl)
theorem dX1_isCalled_45 : decode cX1_isCalled 45 = .ok (.aaload, 1) := dk_50 (dk_at dksX1_isCalled_1 21 rfl rfl)
theorem dX1_isCalled_46 : decode cX1_isCalled 46 = .ok (.invokevirtual 210, 3) := dk_182 0 210 (dk_at dksX1_isCalled_2 0 rfl rfl)
theorem dX1_isCalled_49 : decode cX1_isCalled 49 = .ok (.ifCond .eq 5, 3) := dk_153 0 5 (dk_at dksX1_isCalled_2 3 rfl rfl)
theorem dX1_isCalled_52 : decode cX1_isCalled 52 = .ok (.iconst 1, 1) := dk_4 (dk_at dksX1_isCalled_2 6 rfl rfl)
theorem dX1_isCalled_53 : decode cX1_isCalled 53 = .ok (.ireturn, 1) := dk_172 (dk_at dksX1_isCalled_2 7 rfl rfl)
theorem dX1_isCalled_54 : decode cX1_isCalled 54 = .ok (.iinc 2 1, 3) := dk_132 2 1 (dk_at dksX1_isCalled_2 8 rfl rfl)
theorem dX1_isCalled_57 : decode cX1_isCalled 57 = .ok (.goto (-38), 3) := dk_167 255 218 (dk_at dksX1_isCalled_2 11 rfl rfl)
theorem dX1_isCalled_60 : decode cX1_isCalled 60 = .ok (.iload_n 1, 1) := dk_27 (dk_at dksX1_isCalled_2 14 rfl rfl)
theorem dX1_isCalled_61 : decode cX1_isCalled 61 = .ok (.ifCond .ne 14, 3) := dk_154 0 14 (dk_at dksX1_isCalled_2 15 rfl rfl)
theorem dX1_isCalled_64 : decode cX1_isCalled 64 = .ok (.aload_n 0, 1) := dk_42 (dk_at dksX1_isCalled_2 18 rfl rfl)
theorem dX1_isCalled_65 : decode cX1_isCalled 65 = .ok (.getfield 87, 3) := dk_180 0 87 (dk_at dksX1_isCalled_2 19 rfl rfl)
theorem dX1_isCalled_68 : decode cX1_isCalled 68 = .ok (.ifCond .le 7, 3) := dk_158 0 7 (dk_at dksX1_isCalled_3 0 rfl rfl)
theorem dX1_isCalled_71 : decode cX1_isCalled 71 = .ok (.iconst 1, 1) := dk_4 (dk_at dksX1_isCalled_3 3 rfl rfl)
theorem dX1_isCalled_72 : decode cX1_isCalled 72 = .ok (.goto 4, 3) := dk_167 0 4 (dk_at dksX1_isCalled_3 4 rfl rfl)
theorem dX1_isCalled_75 : decode cX1_isCalled 75 = .ok (.iconst 0, 1) := dk_3 (dk_at dksX1_isCalled_3 7 rfl rfl)
theorem dX1_isCalled_76 : decode cX1_isCalled 76 = .ok (.ireturn, 1) := dk_172 (dk_at dksX1_isCalled_3 8 rfl rfl)
abbrev cX1_firstCalled : ByteArray := prog_20_method_12_code
def yX1_firstCalled : MethodName := ⟨RX1, "firstCalled", "()I"⟩
def dkwX1_firstCalled_1 : List UInt8 := [182, 0, 214, 153, 0, 5, 28, 172, 132, 1, 1, 167, 255, 223, 16, 251, 172]
abbrev dktX1_firstCalled_1 : List UInt8 := dkwX1_firstCalled_1 ++ []
def dkwX1_firstCalled_0 : List UInt8 := [4, 60, 27, 42, 180, 0, 99, 162, 0, 31, 42, 180, 0, 9, 27, 96, 42, 180, 0, 99, 112, 61, 42, 28]
abbrev dktX1_firstCalled_0 : List UInt8 := dkwX1_firstCalled_0 ++ dktX1_firstCalled_1
theorem dksX1_firstCalled_0 : cX1_firstCalled.data.toList.drop 0 = dktX1_firstCalled_0 := by decide +kernel
theorem dksX1_firstCalled_1 : cX1_firstCalled.data.toList.drop 24 = dktX1_firstCalled_1 := dk_seg dksX1_firstCalled_0 24 rfl rfl
theorem dX1_firstCalled_0 : decode cX1_firstCalled 0 = .ok (.iconst 1, 1) := dk_4 (dk_at dksX1_firstCalled_0 0 rfl rfl)
theorem dX1_firstCalled_1 : decode cX1_firstCalled 1 = .ok (.istore_n 1, 1) := dk_60 (dk_at dksX1_firstCalled_0 1 rfl rfl)
theorem dX1_firstCalled_2 : decode cX1_firstCalled 2 = .ok (.iload_n 1, 1) := dk_27 (dk_at dksX1_firstCalled_0 2 rfl rfl)
theorem dX1_firstCalled_3 : decode cX1_firstCalled 3 = .ok (.aload_n 0, 1) := dk_42 (dk_at dksX1_firstCalled_0 3 rfl rfl)
theorem dX1_firstCalled_4 : decode cX1_firstCalled 4 = .ok (.getfield 99, 3) := dk_180 0 99 (dk_at dksX1_firstCalled_0 4 rfl rfl)
theorem dX1_firstCalled_7 : decode cX1_firstCalled 7 = .ok (.if_icmp .ge 31, 3) := dk_162 0 31 (dk_at dksX1_firstCalled_0 7 rfl rfl)
theorem dX1_firstCalled_10 : decode cX1_firstCalled 10 = .ok (.aload_n 0, 1) := dk_42 (dk_at dksX1_firstCalled_0 10 rfl rfl)
theorem dX1_firstCalled_11 : decode cX1_firstCalled 11 = .ok (.getfield 9, 3) := dk_180 0 9 (dk_at dksX1_firstCalled_0 11 rfl rfl)
theorem dX1_firstCalled_14 : decode cX1_firstCalled 14 = .ok (.iload_n 1, 1) := dk_27 (dk_at dksX1_firstCalled_0 14 rfl rfl)
theorem dX1_firstCalled_15 : decode cX1_firstCalled 15 = .ok (.iadd, 1) := dk_96 (dk_at dksX1_firstCalled_0 15 rfl rfl)
theorem dX1_firstCalled_16 : decode cX1_firstCalled 16 = .ok (.aload_n 0, 1) := dk_42 (dk_at dksX1_firstCalled_0 16 rfl rfl)
theorem dX1_firstCalled_17 : decode cX1_firstCalled 17 = .ok (.getfield 99, 3) := dk_180 0 99 (dk_at dksX1_firstCalled_0 17 rfl rfl)
theorem dX1_firstCalled_20 : decode cX1_firstCalled 20 = .ok (.irem, 1) := dk_112 (dk_at dksX1_firstCalled_0 20 rfl rfl)
theorem dX1_firstCalled_21 : decode cX1_firstCalled 21 = .ok (.istore_n 2, 1) := dk_61 (dk_at dksX1_firstCalled_0 21 rfl rfl)
theorem dX1_firstCalled_22 : decode cX1_firstCalled 22 = .ok (.aload_n 0, 1) := dk_42 (dk_at dksX1_firstCalled_0 22 rfl rfl)
theorem dX1_firstCalled_23 : decode cX1_firstCalled 23 = .ok (.iload_n 2, 1) := dk_28 (dk_at dksX1_firstCalled_0 23 rfl rfl)
theorem dX1_firstCalled_24 : decode cX1_firstCalled 24 = .ok (.invokevirtual 214, 3) := dk_182 0 214 (dk_at dksX1_firstCalled_1 0 rfl rfl)
theorem dX1_firstCalled_27 : decode cX1_firstCalled 27 = .ok (.ifCond .eq 5, 3) := dk_153 0 5 (dk_at dksX1_firstCalled_1 3 rfl rfl)
theorem dX1_firstCalled_30 : decode cX1_firstCalled 30 = .ok (.iload_n 2, 1) := dk_28 (dk_at dksX1_firstCalled_1 6 rfl rfl)
theorem dX1_firstCalled_31 : decode cX1_firstCalled 31 = .ok (.ireturn, 1) := dk_172 (dk_at dksX1_firstCalled_1 7 rfl rfl)
theorem dX1_firstCalled_32 : decode cX1_firstCalled 32 = .ok (.iinc 1 1, 3) := dk_132 1 1 (dk_at dksX1_firstCalled_1 8 rfl rfl)
theorem dX1_firstCalled_35 : decode cX1_firstCalled 35 = .ok (.goto (-33), 3) := dk_167 255 223 (dk_at dksX1_firstCalled_1 11 rfl rfl)
theorem dX1_firstCalled_38 : decode cX1_firstCalled 38 = .ok (.bipush (-5), 2) := dk_16 251 (dk_at dksX1_firstCalled_1 14 rfl rfl)
theorem dX1_firstCalled_40 : decode cX1_firstCalled 40 = .ok (.ireturn, 1) := dk_172 (dk_at dksX1_firstCalled_1 16 rfl rfl)
abbrev cX1_isHeld : ByteArray := prog_20_method_15_code
def yX1_isHeld : MethodName := ⟨RX1, "isHeld", "()Z"⟩
def dkwX1_isHeld_1 : List UInt8 := [162, 0, 7, 4, 167, 0, 4, 3, 172]
abbrev dktX1_isHeld_1 : List UInt8 := dkwX1_isHeld_1 ++ []
def dkwX1_isHeld_0 : List UInt8 := [42, 180, 0, 87, 158, 0, 25, 42, 180, 0, 9, 154, 0, 18, 42, 182, 0, 219, 42, 180, 0, 93]
abbrev dktX1_isHeld_0 : List UInt8 := dkwX1_isHeld_0 ++ dktX1_isHeld_1
theorem dksX1_isHeld_0 : cX1_isHeld.data.toList.drop 0 = dktX1_isHeld_0 := by decide +kernel
theorem dksX1_isHeld_1 : cX1_isHeld.data.toList.drop 22 = dktX1_isHeld_1 := dk_seg dksX1_isHeld_0 22 rfl rfl
theorem dX1_isHeld_0 : decode cX1_isHeld 0 = .ok (.aload_n 0, 1) := dk_42 (dk_at dksX1_isHeld_0 0 rfl rfl)
theorem dX1_isHeld_1 : decode cX1_isHeld 1 = .ok (.getfield 87, 3) := dk_180 0 87 (dk_at dksX1_isHeld_0 1 rfl rfl)
theorem dX1_isHeld_4 : decode cX1_isHeld 4 = .ok (.ifCond .le 25, 3) := dk_158 0 25 (dk_at dksX1_isHeld_0 4 rfl rfl)
theorem dX1_isHeld_7 : decode cX1_isHeld 7 = .ok (.aload_n 0, 1) := dk_42 (dk_at dksX1_isHeld_0 7 rfl rfl)
theorem dX1_isHeld_8 : decode cX1_isHeld 8 = .ok (.getfield 9, 3) := dk_180 0 9 (dk_at dksX1_isHeld_0 8 rfl rfl)
theorem dX1_isHeld_11 : decode cX1_isHeld 11 = .ok (.ifCond .ne 18, 3) := dk_154 0 18 (dk_at dksX1_isHeld_0 11 rfl rfl)
theorem dX1_isHeld_14 : decode cX1_isHeld 14 = .ok (.aload_n 0, 1) := dk_42 (dk_at dksX1_isHeld_0 14 rfl rfl)
theorem dX1_isHeld_15 : decode cX1_isHeld 15 = .ok (.invokevirtual 219, 3) := dk_182 0 219 (dk_at dksX1_isHeld_0 15 rfl rfl)
theorem dX1_isHeld_18 : decode cX1_isHeld 18 = .ok (.aload_n 0, 1) := dk_42 (dk_at dksX1_isHeld_0 18 rfl rfl)
theorem dX1_isHeld_19 : decode cX1_isHeld 19 = .ok (.getfield 93, 3) := dk_180 0 93 (dk_at dksX1_isHeld_0 19 rfl rfl)
theorem dX1_isHeld_22 : decode cX1_isHeld 22 = .ok (.if_icmp .ge 7, 3) := dk_162 0 7 (dk_at dksX1_isHeld_1 0 rfl rfl)
theorem dX1_isHeld_25 : decode cX1_isHeld 25 = .ok (.iconst 1, 1) := dk_4 (dk_at dksX1_isHeld_1 3 rfl rfl)
theorem dX1_isHeld_26 : decode cX1_isHeld 26 = .ok (.goto 4, 3) := dk_167 0 4 (dk_at dksX1_isHeld_1 4 rfl rfl)
theorem dX1_isHeld_29 : decode cX1_isHeld 29 = .ok (.iconst 0, 1) := dk_3 (dk_at dksX1_isHeld_1 7 rfl rfl)
theorem dX1_isHeld_30 : decode cX1_isHeld 30 = .ok (.ireturn, 1) := dk_172 (dk_at dksX1_isHeld_1 8 rfl rfl)
abbrev cX1_local : ByteArray := prog_20_method_14_code
def yX1_local : MethodName := ⟨RX1, "local", "()I"⟩
def dkwX1_local_1 : List UInt8 := [180, 0, 87, 184, 0, 216, 172]
abbrev dktX1_local_1 : List UInt8 := dkwX1_local_1 ++ []
def dkwX1_local_0 : List UInt8 := [42, 180, 0, 87, 154, 0, 8, 16, 251, 167, 0, 19, 42, 180, 0, 75, 42, 180, 0, 90, 100, 42]
abbrev dktX1_local_0 : List UInt8 := dkwX1_local_0 ++ dktX1_local_1
theorem dksX1_local_0 : cX1_local.data.toList.drop 0 = dktX1_local_0 := by decide +kernel
theorem dksX1_local_1 : cX1_local.data.toList.drop 22 = dktX1_local_1 := dk_seg dksX1_local_0 22 rfl rfl
theorem dX1_local_0 : decode cX1_local 0 = .ok (.aload_n 0, 1) := dk_42 (dk_at dksX1_local_0 0 rfl rfl)
theorem dX1_local_1 : decode cX1_local 1 = .ok (.getfield 87, 3) := dk_180 0 87 (dk_at dksX1_local_0 1 rfl rfl)
theorem dX1_local_4 : decode cX1_local 4 = .ok (.ifCond .ne 8, 3) := dk_154 0 8 (dk_at dksX1_local_0 4 rfl rfl)
theorem dX1_local_7 : decode cX1_local 7 = .ok (.bipush (-5), 2) := dk_16 251 (dk_at dksX1_local_0 7 rfl rfl)
theorem dX1_local_9 : decode cX1_local 9 = .ok (.goto 19, 3) := dk_167 0 19 (dk_at dksX1_local_0 9 rfl rfl)
theorem dX1_local_12 : decode cX1_local 12 = .ok (.aload_n 0, 1) := dk_42 (dk_at dksX1_local_0 12 rfl rfl)
theorem dX1_local_13 : decode cX1_local 13 = .ok (.getfield 75, 3) := dk_180 0 75 (dk_at dksX1_local_0 13 rfl rfl)
theorem dX1_local_16 : decode cX1_local 16 = .ok (.aload_n 0, 1) := dk_42 (dk_at dksX1_local_0 16 rfl rfl)
theorem dX1_local_17 : decode cX1_local 17 = .ok (.getfield 90, 3) := dk_180 0 90 (dk_at dksX1_local_0 17 rfl rfl)
theorem dX1_local_20 : decode cX1_local 20 = .ok (.isub, 1) := dk_100 (dk_at dksX1_local_0 20 rfl rfl)
theorem dX1_local_21 : decode cX1_local 21 = .ok (.aload_n 0, 1) := dk_42 (dk_at dksX1_local_0 21 rfl rfl)
theorem dX1_local_22 : decode cX1_local 22 = .ok (.getfield 87, 3) := dk_180 0 87 (dk_at dksX1_local_1 0 rfl rfl)
theorem dX1_local_25 : decode cX1_local 25 = .ok (.invokestatic 216, 3) := dk_184 0 216 (dk_at dksX1_local_1 3 rfl rfl)
theorem dX1_local_28 : decode cX1_local 28 = .ok (.ireturn, 1) := dk_172 (dk_at dksX1_local_1 6 rfl rfl)
abbrev cX1_isOver : ByteArray := prog_20_method_22_code
def yX1_isOver : MethodName := ⟨RX1, "isOver", "()Z"⟩
def dkwX1_isOver_5 : List UInt8 := [172]
abbrev dktX1_isOver_5 : List UInt8 := dkwX1_isOver_5 ++ []
def dkwX1_isOver_4 : List UInt8 := [182, 1, 14, 126, 62, 132, 4, 1, 167, 255, 175, 28, 154, 0, 7, 29, 153, 0, 7, 4, 167, 0, 4, 3]
abbrev dktX1_isOver_4 : List UInt8 := dkwX1_isOver_4 ++ dktX1_isOver_5
def dkwX1_isOver_3 : List UInt8 := [25, 5, 25, 5, 182, 1, 11, 42, 180, 0, 75, 182, 0, 255, 128, 61, 29, 25, 5, 42, 180, 0, 75]
abbrev dktX1_isOver_3 : List UInt8 := dkwX1_isOver_3 ++ dktX1_isOver_4
def dkwX1_isOver_2 : List UInt8 := [167, 0, 51, 25, 5, 25, 5, 182, 0, 252, 42, 180, 0, 75, 182, 0, 255, 154, 0, 5, 3, 172, 28]
abbrev dktX1_isOver_2 : List UInt8 := dkwX1_isOver_2 ++ dktX1_isOver_3
def dkwX1_isOver_1 : List UInt8 := [180, 0, 96, 162, 0, 78, 42, 180, 0, 32, 21, 4, 50, 58, 5, 43, 21, 4, 182, 0, 207, 154, 0, 6]
abbrev dktX1_isOver_1 : List UInt8 := dkwX1_isOver_1 ++ dktX1_isOver_2
def dkwX1_isOver_0 : List UInt8 := [42, 180, 0, 38, 42, 180, 0, 9, 50, 76, 42, 182, 1, 8, 61, 4, 62, 3, 54, 4, 21, 4, 42]
abbrev dktX1_isOver_0 : List UInt8 := dkwX1_isOver_0 ++ dktX1_isOver_1
theorem dksX1_isOver_0 : cX1_isOver.data.toList.drop 0 = dktX1_isOver_0 := by decide +kernel
theorem dksX1_isOver_1 : cX1_isOver.data.toList.drop 23 = dktX1_isOver_1 := dk_seg dksX1_isOver_0 23 rfl rfl
theorem dksX1_isOver_2 : cX1_isOver.data.toList.drop 47 = dktX1_isOver_2 := dk_seg dksX1_isOver_1 24 rfl rfl
theorem dksX1_isOver_3 : cX1_isOver.data.toList.drop 70 = dktX1_isOver_3 := dk_seg dksX1_isOver_2 23 rfl rfl
theorem dksX1_isOver_4 : cX1_isOver.data.toList.drop 93 = dktX1_isOver_4 := dk_seg dksX1_isOver_3 23 rfl rfl
theorem dksX1_isOver_5 : cX1_isOver.data.toList.drop 117 = dktX1_isOver_5 := dk_seg dksX1_isOver_4 24 rfl rfl
theorem dX1_isOver_0 : decode cX1_isOver 0 = .ok (.aload_n 0, 1) := dk_42 (dk_at dksX1_isOver_0 0 rfl rfl)
theorem dX1_isOver_1 : decode cX1_isOver 1 = .ok (.getfield 38, 3) := dk_180 0 38 (dk_at dksX1_isOver_0 1 rfl rfl)
theorem dX1_isOver_4 : decode cX1_isOver 4 = .ok (.aload_n 0, 1) := dk_42 (dk_at dksX1_isOver_0 4 rfl rfl)
theorem dX1_isOver_5 : decode cX1_isOver 5 = .ok (.getfield 9, 3) := dk_180 0 9 (dk_at dksX1_isOver_0 5 rfl rfl)
theorem dX1_isOver_8 : decode cX1_isOver 8 = .ok (.aaload, 1) := dk_50 (dk_at dksX1_isOver_0 8 rfl rfl)
theorem dX1_isOver_9 : decode cX1_isOver 9 = .ok (.astore_n 1, 1) := dk_76 (dk_at dksX1_isOver_0 9 rfl rfl)
theorem dX1_isOver_10 : decode cX1_isOver 10 = .ok (.aload_n 0, 1) := dk_42 (dk_at dksX1_isOver_0 10 rfl rfl)
theorem dX1_isOver_11 : decode cX1_isOver 11 = .ok (.invokevirtual 264, 3) := dk_182 1 8 (dk_at dksX1_isOver_0 11 rfl rfl)
theorem dX1_isOver_14 : decode cX1_isOver 14 = .ok (.istore_n 2, 1) := dk_61 (dk_at dksX1_isOver_0 14 rfl rfl)
theorem dX1_isOver_15 : decode cX1_isOver 15 = .ok (.iconst 1, 1) := dk_4 (dk_at dksX1_isOver_0 15 rfl rfl)
theorem dX1_isOver_16 : decode cX1_isOver 16 = .ok (.istore_n 3, 1) := dk_62 (dk_at dksX1_isOver_0 16 rfl rfl)
theorem dX1_isOver_17 : decode cX1_isOver 17 = .ok (.iconst 0, 1) := dk_3 (dk_at dksX1_isOver_0 17 rfl rfl)
theorem dX1_isOver_18 : decode cX1_isOver 18 = .ok (.istore 4, 2) := dk_54 4 (dk_at dksX1_isOver_0 18 rfl rfl)
theorem dX1_isOver_20 : decode cX1_isOver 20 = .ok (.iload 4, 2) := dk_21 4 (dk_at dksX1_isOver_0 20 rfl rfl)
theorem dX1_isOver_22 : decode cX1_isOver 22 = .ok (.aload_n 0, 1) := dk_42 (dk_at dksX1_isOver_0 22 rfl rfl)
theorem dX1_isOver_23 : decode cX1_isOver 23 = .ok (.getfield 96, 3) := dk_180 0 96 (dk_at dksX1_isOver_1 0 rfl rfl)
theorem dX1_isOver_26 : decode cX1_isOver 26 = .ok (.if_icmp .ge 78, 3) := dk_162 0 78 (dk_at dksX1_isOver_1 3 rfl rfl)
theorem dX1_isOver_29 : decode cX1_isOver 29 = .ok (.aload_n 0, 1) := dk_42 (dk_at dksX1_isOver_1 6 rfl rfl)
theorem dX1_isOver_30 : decode cX1_isOver 30 = .ok (.getfield 32, 3) := dk_180 0 32 (dk_at dksX1_isOver_1 7 rfl rfl)
theorem dX1_isOver_33 : decode cX1_isOver 33 = .ok (.iload 4, 2) := dk_21 4 (dk_at dksX1_isOver_1 10 rfl rfl)
theorem dX1_isOver_35 : decode cX1_isOver 35 = .ok (.aaload, 1) := dk_50 (dk_at dksX1_isOver_1 12 rfl rfl)
theorem dX1_isOver_36 : decode cX1_isOver 36 = .ok (.astore 5, 2) := dk_58 5 (dk_at dksX1_isOver_1 13 rfl rfl)
theorem dX1_isOver_38 : decode cX1_isOver 38 = .ok (.aload_n 1, 1) := dk_43 (dk_at dksX1_isOver_1 15 rfl rfl)
theorem dX1_isOver_39 : decode cX1_isOver 39 = .ok (.iload 4, 2) := dk_21 4 (dk_at dksX1_isOver_1 16 rfl rfl)
theorem dX1_isOver_41 : decode cX1_isOver 41 = .ok (.invokevirtual 207, 3) := dk_182 0 207 (dk_at dksX1_isOver_1 18 rfl rfl)
theorem dX1_isOver_44 : decode cX1_isOver 44 = .ok (.ifCond .ne 6, 3) := dk_154 0 6 (dk_at dksX1_isOver_1 21 rfl rfl)
theorem dX1_isOver_47 : decode cX1_isOver 47 = .ok (.goto 51, 3) := dk_167 0 51 (dk_at dksX1_isOver_2 0 rfl rfl)
theorem dX1_isOver_50 : decode cX1_isOver 50 = .ok (.aload 5, 2) := dk_25 5 (dk_at dksX1_isOver_2 3 rfl rfl)
theorem dX1_isOver_52 : decode cX1_isOver 52 = .ok (.aload 5, 2) := dk_25 5 (dk_at dksX1_isOver_2 5 rfl rfl)
theorem dX1_isOver_54 : decode cX1_isOver 54 = .ok (.invokevirtual 252, 3) := dk_182 0 252 (dk_at dksX1_isOver_2 7 rfl rfl)
theorem dX1_isOver_57 : decode cX1_isOver 57 = .ok (.aload_n 0, 1) := dk_42 (dk_at dksX1_isOver_2 10 rfl rfl)
theorem dX1_isOver_58 : decode cX1_isOver 58 = .ok (.getfield 75, 3) := dk_180 0 75 (dk_at dksX1_isOver_2 11 rfl rfl)
theorem dX1_isOver_61 : decode cX1_isOver 61 = .ok (.invokevirtual 255, 3) := dk_182 0 255 (dk_at dksX1_isOver_2 14 rfl rfl)
theorem dX1_isOver_64 : decode cX1_isOver 64 = .ok (.ifCond .ne 5, 3) := dk_154 0 5 (dk_at dksX1_isOver_2 17 rfl rfl)
theorem dX1_isOver_67 : decode cX1_isOver 67 = .ok (.iconst 0, 1) := dk_3 (dk_at dksX1_isOver_2 20 rfl rfl)
theorem dX1_isOver_68 : decode cX1_isOver 68 = .ok (.ireturn, 1) := dk_172 (dk_at dksX1_isOver_2 21 rfl rfl)
theorem dX1_isOver_69 : decode cX1_isOver 69 = .ok (.iload_n 2, 1) := dk_28 (dk_at dksX1_isOver_2 22 rfl rfl)
theorem dX1_isOver_70 : decode cX1_isOver 70 = .ok (.aload 5, 2) := dk_25 5 (dk_at dksX1_isOver_3 0 rfl rfl)
theorem dX1_isOver_72 : decode cX1_isOver 72 = .ok (.aload 5, 2) := dk_25 5 (dk_at dksX1_isOver_3 2 rfl rfl)
theorem dX1_isOver_74 : decode cX1_isOver 74 = .ok (.invokevirtual 267, 3) := dk_182 1 11 (dk_at dksX1_isOver_3 4 rfl rfl)
theorem dX1_isOver_77 : decode cX1_isOver 77 = .ok (.aload_n 0, 1) := dk_42 (dk_at dksX1_isOver_3 7 rfl rfl)
theorem dX1_isOver_78 : decode cX1_isOver 78 = .ok (.getfield 75, 3) := dk_180 0 75 (dk_at dksX1_isOver_3 8 rfl rfl)
theorem dX1_isOver_81 : decode cX1_isOver 81 = .ok (.invokevirtual 255, 3) := dk_182 0 255 (dk_at dksX1_isOver_3 11 rfl rfl)
theorem dX1_isOver_84 : decode cX1_isOver 84 = .ok (.ior, 1) := dk_128 (dk_at dksX1_isOver_3 14 rfl rfl)
theorem dX1_isOver_85 : decode cX1_isOver 85 = .ok (.istore_n 2, 1) := dk_61 (dk_at dksX1_isOver_3 15 rfl rfl)
theorem dX1_isOver_86 : decode cX1_isOver 86 = .ok (.iload_n 3, 1) := dk_29 (dk_at dksX1_isOver_3 16 rfl rfl)
theorem dX1_isOver_87 : decode cX1_isOver 87 = .ok (.aload 5, 2) := dk_25 5 (dk_at dksX1_isOver_3 17 rfl rfl)
theorem dX1_isOver_89 : decode cX1_isOver 89 = .ok (.aload_n 0, 1) := dk_42 (dk_at dksX1_isOver_3 19 rfl rfl)
theorem dX1_isOver_90 : decode cX1_isOver 90 = .ok (.getfield 75, 3) := dk_180 0 75 (dk_at dksX1_isOver_3 20 rfl rfl)
theorem dX1_isOver_93 : decode cX1_isOver 93 = .ok (.invokevirtual 270, 3) := dk_182 1 14 (dk_at dksX1_isOver_4 0 rfl rfl)
theorem dX1_isOver_96 : decode cX1_isOver 96 = .ok (.iand, 1) := dk_126 (dk_at dksX1_isOver_4 3 rfl rfl)
theorem dX1_isOver_97 : decode cX1_isOver 97 = .ok (.istore_n 3, 1) := dk_62 (dk_at dksX1_isOver_4 4 rfl rfl)
theorem dX1_isOver_98 : decode cX1_isOver 98 = .ok (.iinc 4 1, 3) := dk_132 4 1 (dk_at dksX1_isOver_4 5 rfl rfl)
theorem dX1_isOver_101 : decode cX1_isOver 101 = .ok (.goto (-81), 3) := dk_167 255 175 (dk_at dksX1_isOver_4 8 rfl rfl)
theorem dX1_isOver_104 : decode cX1_isOver 104 = .ok (.iload_n 2, 1) := dk_28 (dk_at dksX1_isOver_4 11 rfl rfl)
theorem dX1_isOver_105 : decode cX1_isOver 105 = .ok (.ifCond .ne 7, 3) := dk_154 0 7 (dk_at dksX1_isOver_4 12 rfl rfl)
theorem dX1_isOver_108 : decode cX1_isOver 108 = .ok (.iload_n 3, 1) := dk_29 (dk_at dksX1_isOver_4 15 rfl rfl)
theorem dX1_isOver_109 : decode cX1_isOver 109 = .ok (.ifCond .eq 7, 3) := dk_153 0 7 (dk_at dksX1_isOver_4 16 rfl rfl)
theorem dX1_isOver_112 : decode cX1_isOver 112 = .ok (.iconst 1, 1) := dk_4 (dk_at dksX1_isOver_4 19 rfl rfl)
theorem dX1_isOver_113 : decode cX1_isOver 113 = .ok (.goto 4, 3) := dk_167 0 4 (dk_at dksX1_isOver_4 20 rfl rfl)
theorem dX1_isOver_116 : decode cX1_isOver 116 = .ok (.iconst 0, 1) := dk_3 (dk_at dksX1_isOver_4 23 rfl rfl)
theorem dX1_isOver_117 : decode cX1_isOver 117 = .ok (.ireturn, 1) := dk_172 (dk_at dksX1_isOver_5 0 rfl rfl)
abbrev cX1_isForced : ByteArray := prog_20_method_16_code
def yX1_isForced : MethodName := ⟨RX1, "isForced", "()Z"⟩
def dkwX1_isForced_1 : List UInt8 := [180, 0, 9, 50, 180, 0, 127, 161, 0, 7, 4, 167, 0, 4, 3, 172]
abbrev dktX1_isForced_1 : List UInt8 := dkwX1_isForced_1 ++ []
def dkwX1_isForced_0 : List UInt8 := [42, 180, 0, 87, 158, 0, 33, 42, 180, 0, 9, 153, 0, 26, 42, 182, 0, 219, 42, 180, 0, 38, 42]
abbrev dktX1_isForced_0 : List UInt8 := dkwX1_isForced_0 ++ dktX1_isForced_1
theorem dksX1_isForced_0 : cX1_isForced.data.toList.drop 0 = dktX1_isForced_0 := by decide +kernel
theorem dksX1_isForced_1 : cX1_isForced.data.toList.drop 23 = dktX1_isForced_1 := dk_seg dksX1_isForced_0 23 rfl rfl
theorem dX1_isForced_0 : decode cX1_isForced 0 = .ok (.aload_n 0, 1) := dk_42 (dk_at dksX1_isForced_0 0 rfl rfl)
theorem dX1_isForced_1 : decode cX1_isForced 1 = .ok (.getfield 87, 3) := dk_180 0 87 (dk_at dksX1_isForced_0 1 rfl rfl)
theorem dX1_isForced_4 : decode cX1_isForced 4 = .ok (.ifCond .le 33, 3) := dk_158 0 33 (dk_at dksX1_isForced_0 4 rfl rfl)
theorem dX1_isForced_7 : decode cX1_isForced 7 = .ok (.aload_n 0, 1) := dk_42 (dk_at dksX1_isForced_0 7 rfl rfl)
theorem dX1_isForced_8 : decode cX1_isForced 8 = .ok (.getfield 9, 3) := dk_180 0 9 (dk_at dksX1_isForced_0 8 rfl rfl)
theorem dX1_isForced_11 : decode cX1_isForced 11 = .ok (.ifCond .eq 26, 3) := dk_153 0 26 (dk_at dksX1_isForced_0 11 rfl rfl)
theorem dX1_isForced_14 : decode cX1_isForced 14 = .ok (.aload_n 0, 1) := dk_42 (dk_at dksX1_isForced_0 14 rfl rfl)
theorem dX1_isForced_15 : decode cX1_isForced 15 = .ok (.invokevirtual 219, 3) := dk_182 0 219 (dk_at dksX1_isForced_0 15 rfl rfl)
theorem dX1_isForced_18 : decode cX1_isForced 18 = .ok (.aload_n 0, 1) := dk_42 (dk_at dksX1_isForced_0 18 rfl rfl)
theorem dX1_isForced_19 : decode cX1_isForced 19 = .ok (.getfield 38, 3) := dk_180 0 38 (dk_at dksX1_isForced_0 19 rfl rfl)
theorem dX1_isForced_22 : decode cX1_isForced 22 = .ok (.aload_n 0, 1) := dk_42 (dk_at dksX1_isForced_0 22 rfl rfl)
theorem dX1_isForced_23 : decode cX1_isForced 23 = .ok (.getfield 9, 3) := dk_180 0 9 (dk_at dksX1_isForced_1 0 rfl rfl)
theorem dX1_isForced_26 : decode cX1_isForced 26 = .ok (.aaload, 1) := dk_50 (dk_at dksX1_isForced_1 3 rfl rfl)
theorem dX1_isForced_27 : decode cX1_isForced 27 = .ok (.getfield 127, 3) := dk_180 0 127 (dk_at dksX1_isForced_1 4 rfl rfl)
theorem dX1_isForced_30 : decode cX1_isForced 30 = .ok (.if_icmp .lt 7, 3) := dk_161 0 7 (dk_at dksX1_isForced_1 7 rfl rfl)
theorem dX1_isForced_33 : decode cX1_isForced 33 = .ok (.iconst 1, 1) := dk_4 (dk_at dksX1_isForced_1 10 rfl rfl)
theorem dX1_isForced_34 : decode cX1_isForced 34 = .ok (.goto 4, 3) := dk_167 0 4 (dk_at dksX1_isForced_1 11 rfl rfl)
theorem dX1_isForced_37 : decode cX1_isForced 37 = .ok (.iconst 0, 1) := dk_3 (dk_at dksX1_isForced_1 14 rfl rfl)
theorem dX1_isForced_38 : decode cX1_isForced 38 = .ok (.ireturn, 1) := dk_172 (dk_at dksX1_isForced_1 15 rfl rfl)
abbrev cX1_turning : ByteArray := prog_20_method_25_code
def yX1_turning : MethodName := ⟨RX1, "turning", "()V"⟩
def dkwX1_turning_3 : List UInt8 := [181, 1, 32, 132, 1, 1, 167, 255, 184, 177]
abbrev dktX1_turning_3 : List UInt8 := dkwX1_turning_3 ++ []
def dkwX1_turning_2 : List UInt8 := [153, 0, 26, 44, 4, 181, 0, 246, 44, 42, 180, 0, 75, 181, 0, 239, 44, 89, 180, 1, 32, 4, 96]
abbrev dktX1_turning_2 : List UInt8 := dkwX1_turning_2 ++ dktX1_turning_3
def dkwX1_turning_1 : List UInt8 := [180, 0, 9, 50, 27, 182, 0, 207, 153, 0, 41, 44, 180, 0, 246, 154, 0, 34, 42, 27, 182, 1, 29]
abbrev dktX1_turning_1 : List UInt8 := dkwX1_turning_1 ++ dktX1_turning_2
def dkwX1_turning_0 : List UInt8 := [3, 60, 27, 42, 180, 0, 96, 162, 0, 70, 42, 180, 0, 32, 27, 50, 77, 42, 180, 0, 38, 42]
abbrev dktX1_turning_0 : List UInt8 := dkwX1_turning_0 ++ dktX1_turning_1
theorem dksX1_turning_0 : cX1_turning.data.toList.drop 0 = dktX1_turning_0 := by decide +kernel
theorem dksX1_turning_1 : cX1_turning.data.toList.drop 22 = dktX1_turning_1 := dk_seg dksX1_turning_0 22 rfl rfl
theorem dksX1_turning_2 : cX1_turning.data.toList.drop 45 = dktX1_turning_2 := dk_seg dksX1_turning_1 23 rfl rfl
theorem dksX1_turning_3 : cX1_turning.data.toList.drop 68 = dktX1_turning_3 := dk_seg dksX1_turning_2 23 rfl rfl
theorem dX1_turning_0 : decode cX1_turning 0 = .ok (.iconst 0, 1) := dk_3 (dk_at dksX1_turning_0 0 rfl rfl)
theorem dX1_turning_1 : decode cX1_turning 1 = .ok (.istore_n 1, 1) := dk_60 (dk_at dksX1_turning_0 1 rfl rfl)
theorem dX1_turning_2 : decode cX1_turning 2 = .ok (.iload_n 1, 1) := dk_27 (dk_at dksX1_turning_0 2 rfl rfl)
theorem dX1_turning_3 : decode cX1_turning 3 = .ok (.aload_n 0, 1) := dk_42 (dk_at dksX1_turning_0 3 rfl rfl)
theorem dX1_turning_4 : decode cX1_turning 4 = .ok (.getfield 96, 3) := dk_180 0 96 (dk_at dksX1_turning_0 4 rfl rfl)
theorem dX1_turning_7 : decode cX1_turning 7 = .ok (.if_icmp .ge 70, 3) := dk_162 0 70 (dk_at dksX1_turning_0 7 rfl rfl)
theorem dX1_turning_10 : decode cX1_turning 10 = .ok (.aload_n 0, 1) := dk_42 (dk_at dksX1_turning_0 10 rfl rfl)
theorem dX1_turning_11 : decode cX1_turning 11 = .ok (.getfield 32, 3) := dk_180 0 32 (dk_at dksX1_turning_0 11 rfl rfl)
theorem dX1_turning_14 : decode cX1_turning 14 = .ok (.iload_n 1, 1) := dk_27 (dk_at dksX1_turning_0 14 rfl rfl)
theorem dX1_turning_15 : decode cX1_turning 15 = .ok (.aaload, 1) := dk_50 (dk_at dksX1_turning_0 15 rfl rfl)
theorem dX1_turning_16 : decode cX1_turning 16 = .ok (.astore_n 2, 1) := dk_77 (dk_at dksX1_turning_0 16 rfl rfl)
theorem dX1_turning_17 : decode cX1_turning 17 = .ok (.aload_n 0, 1) := dk_42 (dk_at dksX1_turning_0 17 rfl rfl)
theorem dX1_turning_18 : decode cX1_turning 18 = .ok (.getfield 38, 3) := dk_180 0 38 (dk_at dksX1_turning_0 18 rfl rfl)
theorem dX1_turning_21 : decode cX1_turning 21 = .ok (.aload_n 0, 1) := dk_42 (dk_at dksX1_turning_0 21 rfl rfl)
theorem dX1_turning_22 : decode cX1_turning 22 = .ok (.getfield 9, 3) := dk_180 0 9 (dk_at dksX1_turning_1 0 rfl rfl)
theorem dX1_turning_25 : decode cX1_turning 25 = .ok (.aaload, 1) := dk_50 (dk_at dksX1_turning_1 3 rfl rfl)
theorem dX1_turning_26 : decode cX1_turning 26 = .ok (.iload_n 1, 1) := dk_27 (dk_at dksX1_turning_1 4 rfl rfl)
theorem dX1_turning_27 : decode cX1_turning 27 = .ok (.invokevirtual 207, 3) := dk_182 0 207 (dk_at dksX1_turning_1 5 rfl rfl)
theorem dX1_turning_30 : decode cX1_turning 30 = .ok (.ifCond .eq 41, 3) := dk_153 0 41 (dk_at dksX1_turning_1 8 rfl rfl)
theorem dX1_turning_33 : decode cX1_turning 33 = .ok (.aload_n 2, 1) := dk_44 (dk_at dksX1_turning_1 11 rfl rfl)
theorem dX1_turning_34 : decode cX1_turning 34 = .ok (.getfield 246, 3) := dk_180 0 246 (dk_at dksX1_turning_1 12 rfl rfl)
theorem dX1_turning_37 : decode cX1_turning 37 = .ok (.ifCond .ne 34, 3) := dk_154 0 34 (dk_at dksX1_turning_1 15 rfl rfl)
theorem dX1_turning_40 : decode cX1_turning 40 = .ok (.aload_n 0, 1) := dk_42 (dk_at dksX1_turning_1 18 rfl rfl)
theorem dX1_turning_41 : decode cX1_turning 41 = .ok (.iload_n 1, 1) := dk_27 (dk_at dksX1_turning_1 19 rfl rfl)
theorem dX1_turning_42 : decode cX1_turning 42 = .ok (.invokevirtual 285, 3) := dk_182 1 29 (dk_at dksX1_turning_1 20 rfl rfl)
theorem dX1_turning_45 : decode cX1_turning 45 = .ok (.ifCond .eq 26, 3) := dk_153 0 26 (dk_at dksX1_turning_2 0 rfl rfl)
theorem dX1_turning_48 : decode cX1_turning 48 = .ok (.aload_n 2, 1) := dk_44 (dk_at dksX1_turning_2 3 rfl rfl)
theorem dX1_turning_49 : decode cX1_turning 49 = .ok (.iconst 1, 1) := dk_4 (dk_at dksX1_turning_2 4 rfl rfl)
theorem dX1_turning_50 : decode cX1_turning 50 = .ok (.putfield 246, 3) := dk_181 0 246 (dk_at dksX1_turning_2 5 rfl rfl)
theorem dX1_turning_53 : decode cX1_turning 53 = .ok (.aload_n 2, 1) := dk_44 (dk_at dksX1_turning_2 8 rfl rfl)
theorem dX1_turning_54 : decode cX1_turning 54 = .ok (.aload_n 0, 1) := dk_42 (dk_at dksX1_turning_2 9 rfl rfl)
theorem dX1_turning_55 : decode cX1_turning 55 = .ok (.getfield 75, 3) := dk_180 0 75 (dk_at dksX1_turning_2 10 rfl rfl)
theorem dX1_turning_58 : decode cX1_turning 58 = .ok (.putfield 239, 3) := dk_181 0 239 (dk_at dksX1_turning_2 13 rfl rfl)
theorem dX1_turning_61 : decode cX1_turning 61 = .ok (.aload_n 2, 1) := dk_44 (dk_at dksX1_turning_2 16 rfl rfl)
theorem dX1_turning_62 : decode cX1_turning 62 = .ok (.dup, 1) := dk_89 (dk_at dksX1_turning_2 17 rfl rfl)
theorem dX1_turning_63 : decode cX1_turning 63 = .ok (.getfield 288, 3) := dk_180 1 32 (dk_at dksX1_turning_2 18 rfl rfl)
theorem dX1_turning_66 : decode cX1_turning 66 = .ok (.iconst 1, 1) := dk_4 (dk_at dksX1_turning_2 21 rfl rfl)
theorem dX1_turning_67 : decode cX1_turning 67 = .ok (.iadd, 1) := dk_96 (dk_at dksX1_turning_2 22 rfl rfl)
theorem dX1_turning_68 : decode cX1_turning 68 = .ok (.putfield 288, 3) := dk_181 1 32 (dk_at dksX1_turning_3 0 rfl rfl)
theorem dX1_turning_71 : decode cX1_turning 71 = .ok (.iinc 1 1, 3) := dk_132 1 1 (dk_at dksX1_turning_3 3 rfl rfl)
theorem dX1_turning_74 : decode cX1_turning 74 = .ok (.goto (-72), 3) := dk_167 255 184 (dk_at dksX1_turning_3 6 rfl rfl)
theorem dX1_turning_77 : decode cX1_turning 77 = .ok (.return_, 1) := dk_177 (dk_at dksX1_turning_3 9 rfl rfl)
abbrev cX1_mayTurn : ByteArray := prog_20_method_24_code
def yX1_mayTurn : MethodName := ⟨RX1, "mayTurn", "(I)Z"⟩
def dkwX1_mayTurn_2 : List UInt8 := [180, 0, 242, 100, 29, 162, 0, 5, 3, 172, 132, 2, 1, 167, 255, 200, 4, 172]
abbrev dktX1_mayTurn_2 : List UInt8 := dkwX1_mayTurn_2 ++ []
def dkwX1_mayTurn_1 : List UInt8 := [180, 0, 32, 28, 50, 180, 0, 242, 16, 251, 159, 0, 23, 42, 180, 0, 75, 42, 180, 0, 32, 28, 50]
abbrev dktX1_mayTurn_1 : List UInt8 := dkwX1_mayTurn_1 ++ dktX1_mayTurn_2
def dkwX1_mayTurn_0 : List UInt8 := [3, 61, 28, 42, 180, 0, 96, 162, 0, 54, 42, 28, 27, 182, 0, 200, 62, 29, 155, 0, 37, 42]
abbrev dktX1_mayTurn_0 : List UInt8 := dkwX1_mayTurn_0 ++ dktX1_mayTurn_1
theorem dksX1_mayTurn_0 : cX1_mayTurn.data.toList.drop 0 = dktX1_mayTurn_0 := by decide +kernel
theorem dksX1_mayTurn_1 : cX1_mayTurn.data.toList.drop 22 = dktX1_mayTurn_1 := dk_seg dksX1_mayTurn_0 22 rfl rfl
theorem dksX1_mayTurn_2 : cX1_mayTurn.data.toList.drop 45 = dktX1_mayTurn_2 := dk_seg dksX1_mayTurn_1 23 rfl rfl
theorem dX1_mayTurn_0 : decode cX1_mayTurn 0 = .ok (.iconst 0, 1) := dk_3 (dk_at dksX1_mayTurn_0 0 rfl rfl)
theorem dX1_mayTurn_1 : decode cX1_mayTurn 1 = .ok (.istore_n 2, 1) := dk_61 (dk_at dksX1_mayTurn_0 1 rfl rfl)
theorem dX1_mayTurn_2 : decode cX1_mayTurn 2 = .ok (.iload_n 2, 1) := dk_28 (dk_at dksX1_mayTurn_0 2 rfl rfl)
theorem dX1_mayTurn_3 : decode cX1_mayTurn 3 = .ok (.aload_n 0, 1) := dk_42 (dk_at dksX1_mayTurn_0 3 rfl rfl)
theorem dX1_mayTurn_4 : decode cX1_mayTurn 4 = .ok (.getfield 96, 3) := dk_180 0 96 (dk_at dksX1_mayTurn_0 4 rfl rfl)
theorem dX1_mayTurn_7 : decode cX1_mayTurn 7 = .ok (.if_icmp .ge 54, 3) := dk_162 0 54 (dk_at dksX1_mayTurn_0 7 rfl rfl)
theorem dX1_mayTurn_10 : decode cX1_mayTurn 10 = .ok (.aload_n 0, 1) := dk_42 (dk_at dksX1_mayTurn_0 10 rfl rfl)
theorem dX1_mayTurn_11 : decode cX1_mayTurn 11 = .ok (.iload_n 2, 1) := dk_28 (dk_at dksX1_mayTurn_0 11 rfl rfl)
theorem dX1_mayTurn_12 : decode cX1_mayTurn 12 = .ok (.iload_n 1, 1) := dk_27 (dk_at dksX1_mayTurn_0 12 rfl rfl)
theorem dX1_mayTurn_13 : decode cX1_mayTurn 13 = .ok (.invokevirtual 200, 3) := dk_182 0 200 (dk_at dksX1_mayTurn_0 13 rfl rfl)
theorem dX1_mayTurn_16 : decode cX1_mayTurn 16 = .ok (.istore_n 3, 1) := dk_62 (dk_at dksX1_mayTurn_0 16 rfl rfl)
theorem dX1_mayTurn_17 : decode cX1_mayTurn 17 = .ok (.iload_n 3, 1) := dk_29 (dk_at dksX1_mayTurn_0 17 rfl rfl)
theorem dX1_mayTurn_18 : decode cX1_mayTurn 18 = .ok (.ifCond .lt 37, 3) := dk_155 0 37 (dk_at dksX1_mayTurn_0 18 rfl rfl)
theorem dX1_mayTurn_21 : decode cX1_mayTurn 21 = .ok (.aload_n 0, 1) := dk_42 (dk_at dksX1_mayTurn_0 21 rfl rfl)
theorem dX1_mayTurn_22 : decode cX1_mayTurn 22 = .ok (.getfield 32, 3) := dk_180 0 32 (dk_at dksX1_mayTurn_1 0 rfl rfl)
theorem dX1_mayTurn_25 : decode cX1_mayTurn 25 = .ok (.iload_n 2, 1) := dk_28 (dk_at dksX1_mayTurn_1 3 rfl rfl)
theorem dX1_mayTurn_26 : decode cX1_mayTurn 26 = .ok (.aaload, 1) := dk_50 (dk_at dksX1_mayTurn_1 4 rfl rfl)
theorem dX1_mayTurn_27 : decode cX1_mayTurn 27 = .ok (.getfield 242, 3) := dk_180 0 242 (dk_at dksX1_mayTurn_1 5 rfl rfl)
theorem dX1_mayTurn_30 : decode cX1_mayTurn 30 = .ok (.bipush (-5), 2) := dk_16 251 (dk_at dksX1_mayTurn_1 8 rfl rfl)
theorem dX1_mayTurn_32 : decode cX1_mayTurn 32 = .ok (.if_icmp .eq 23, 3) := dk_159 0 23 (dk_at dksX1_mayTurn_1 10 rfl rfl)
theorem dX1_mayTurn_35 : decode cX1_mayTurn 35 = .ok (.aload_n 0, 1) := dk_42 (dk_at dksX1_mayTurn_1 13 rfl rfl)
theorem dX1_mayTurn_36 : decode cX1_mayTurn 36 = .ok (.getfield 75, 3) := dk_180 0 75 (dk_at dksX1_mayTurn_1 14 rfl rfl)
theorem dX1_mayTurn_39 : decode cX1_mayTurn 39 = .ok (.aload_n 0, 1) := dk_42 (dk_at dksX1_mayTurn_1 17 rfl rfl)
theorem dX1_mayTurn_40 : decode cX1_mayTurn 40 = .ok (.getfield 32, 3) := dk_180 0 32 (dk_at dksX1_mayTurn_1 18 rfl rfl)
theorem dX1_mayTurn_43 : decode cX1_mayTurn 43 = .ok (.iload_n 2, 1) := dk_28 (dk_at dksX1_mayTurn_1 21 rfl rfl)
theorem dX1_mayTurn_44 : decode cX1_mayTurn 44 = .ok (.aaload, 1) := dk_50 (dk_at dksX1_mayTurn_1 22 rfl rfl)
theorem dX1_mayTurn_45 : decode cX1_mayTurn 45 = .ok (.getfield 242, 3) := dk_180 0 242 (dk_at dksX1_mayTurn_2 0 rfl rfl)
theorem dX1_mayTurn_48 : decode cX1_mayTurn 48 = .ok (.isub, 1) := dk_100 (dk_at dksX1_mayTurn_2 3 rfl rfl)
theorem dX1_mayTurn_49 : decode cX1_mayTurn 49 = .ok (.iload_n 3, 1) := dk_29 (dk_at dksX1_mayTurn_2 4 rfl rfl)
theorem dX1_mayTurn_50 : decode cX1_mayTurn 50 = .ok (.if_icmp .ge 5, 3) := dk_162 0 5 (dk_at dksX1_mayTurn_2 5 rfl rfl)
theorem dX1_mayTurn_53 : decode cX1_mayTurn 53 = .ok (.iconst 0, 1) := dk_3 (dk_at dksX1_mayTurn_2 8 rfl rfl)
theorem dX1_mayTurn_54 : decode cX1_mayTurn 54 = .ok (.ireturn, 1) := dk_172 (dk_at dksX1_mayTurn_2 9 rfl rfl)
theorem dX1_mayTurn_55 : decode cX1_mayTurn 55 = .ok (.iinc 2 1, 3) := dk_132 2 1 (dk_at dksX1_mayTurn_2 10 rfl rfl)
theorem dX1_mayTurn_58 : decode cX1_mayTurn 58 = .ok (.goto (-56), 3) := dk_167 255 200 (dk_at dksX1_mayTurn_2 13 rfl rfl)
theorem dX1_mayTurn_61 : decode cX1_mayTurn 61 = .ok (.iconst 1, 1) := dk_4 (dk_at dksX1_mayTurn_2 16 rfl rfl)
theorem dX1_mayTurn_62 : decode cX1_mayTurn 62 = .ok (.ireturn, 1) := dk_172 (dk_at dksX1_mayTurn_2 17 rfl rfl)
abbrev cX1_going : ByteArray := prog_20_method_26_code
def yX1_going : MethodName := ⟨RX1, "going", "()V"⟩
def dkwX1_going_4 : List UInt8 := [132, 1, 1, 167, 255, 160, 177]
abbrev dktX1_going_4 : List UInt8 := dkwX1_going_4 ++ []
def dkwX1_going_3 : List UInt8 := [42, 89, 180, 0, 81, 29, 96, 181, 0, 81, 42, 89, 180, 0, 78, 44, 180, 0, 229, 96, 181, 0, 78]
abbrev dktX1_going_3 : List UInt8 := dkwX1_going_3 ++ dktX1_going_4
def dkwX1_going_2 : List UInt8 := [182, 1, 35, 62, 44, 89, 180, 0, 229, 29, 100, 181, 0, 229, 44, 89, 180, 1, 38, 29, 96, 181, 1, 38]
abbrev dktX1_going_2 : List UInt8 := dkwX1_going_2 ++ dktX1_going_3
def dkwX1_going_1 : List UInt8 := [44, 180, 0, 229, 158, 0, 54, 44, 180, 0, 150, 42, 180, 0, 75, 44, 180, 0, 239, 100, 44, 180, 0, 229]
abbrev dktX1_going_1 : List UInt8 := dkwX1_going_1 ++ dktX1_going_2
def dkwX1_going_0 : List UInt8 := [3, 60, 27, 42, 180, 0, 96, 162, 0, 94, 42, 180, 0, 32, 27, 50, 77, 44, 180, 0, 246, 153, 0, 61]
abbrev dktX1_going_0 : List UInt8 := dkwX1_going_0 ++ dktX1_going_1
theorem dksX1_going_0 : cX1_going.data.toList.drop 0 = dktX1_going_0 := by decide +kernel
theorem dksX1_going_1 : cX1_going.data.toList.drop 24 = dktX1_going_1 := dk_seg dksX1_going_0 24 rfl rfl
theorem dksX1_going_2 : cX1_going.data.toList.drop 48 = dktX1_going_2 := dk_seg dksX1_going_1 24 rfl rfl
theorem dksX1_going_3 : cX1_going.data.toList.drop 72 = dktX1_going_3 := dk_seg dksX1_going_2 24 rfl rfl
theorem dksX1_going_4 : cX1_going.data.toList.drop 95 = dktX1_going_4 := dk_seg dksX1_going_3 23 rfl rfl
theorem dX1_going_0 : decode cX1_going 0 = .ok (.iconst 0, 1) := dk_3 (dk_at dksX1_going_0 0 rfl rfl)
theorem dX1_going_1 : decode cX1_going 1 = .ok (.istore_n 1, 1) := dk_60 (dk_at dksX1_going_0 1 rfl rfl)
theorem dX1_going_2 : decode cX1_going 2 = .ok (.iload_n 1, 1) := dk_27 (dk_at dksX1_going_0 2 rfl rfl)
theorem dX1_going_3 : decode cX1_going 3 = .ok (.aload_n 0, 1) := dk_42 (dk_at dksX1_going_0 3 rfl rfl)
theorem dX1_going_4 : decode cX1_going 4 = .ok (.getfield 96, 3) := dk_180 0 96 (dk_at dksX1_going_0 4 rfl rfl)
theorem dX1_going_7 : decode cX1_going 7 = .ok (.if_icmp .ge 94, 3) := dk_162 0 94 (dk_at dksX1_going_0 7 rfl rfl)
theorem dX1_going_10 : decode cX1_going 10 = .ok (.aload_n 0, 1) := dk_42 (dk_at dksX1_going_0 10 rfl rfl)
theorem dX1_going_11 : decode cX1_going 11 = .ok (.getfield 32, 3) := dk_180 0 32 (dk_at dksX1_going_0 11 rfl rfl)
theorem dX1_going_14 : decode cX1_going 14 = .ok (.iload_n 1, 1) := dk_27 (dk_at dksX1_going_0 14 rfl rfl)
theorem dX1_going_15 : decode cX1_going 15 = .ok (.aaload, 1) := dk_50 (dk_at dksX1_going_0 15 rfl rfl)
theorem dX1_going_16 : decode cX1_going 16 = .ok (.astore_n 2, 1) := dk_77 (dk_at dksX1_going_0 16 rfl rfl)
theorem dX1_going_17 : decode cX1_going 17 = .ok (.aload_n 2, 1) := dk_44 (dk_at dksX1_going_0 17 rfl rfl)
theorem dX1_going_18 : decode cX1_going 18 = .ok (.getfield 246, 3) := dk_180 0 246 (dk_at dksX1_going_0 18 rfl rfl)
theorem dX1_going_21 : decode cX1_going 21 = .ok (.ifCond .eq 61, 3) := dk_153 0 61 (dk_at dksX1_going_0 21 rfl rfl)
theorem dX1_going_24 : decode cX1_going 24 = .ok (.aload_n 2, 1) := dk_44 (dk_at dksX1_going_1 0 rfl rfl)
theorem dX1_going_25 : decode cX1_going 25 = .ok (.getfield 229, 3) := dk_180 0 229 (dk_at dksX1_going_1 1 rfl rfl)
theorem dX1_going_28 : decode cX1_going 28 = .ok (.ifCond .le 54, 3) := dk_158 0 54 (dk_at dksX1_going_1 4 rfl rfl)
theorem dX1_going_31 : decode cX1_going 31 = .ok (.aload_n 2, 1) := dk_44 (dk_at dksX1_going_1 7 rfl rfl)
theorem dX1_going_32 : decode cX1_going 32 = .ok (.getfield 150, 3) := dk_180 0 150 (dk_at dksX1_going_1 8 rfl rfl)
theorem dX1_going_35 : decode cX1_going 35 = .ok (.aload_n 0, 1) := dk_42 (dk_at dksX1_going_1 11 rfl rfl)
theorem dX1_going_36 : decode cX1_going 36 = .ok (.getfield 75, 3) := dk_180 0 75 (dk_at dksX1_going_1 12 rfl rfl)
theorem dX1_going_39 : decode cX1_going 39 = .ok (.aload_n 2, 1) := dk_44 (dk_at dksX1_going_1 15 rfl rfl)
theorem dX1_going_40 : decode cX1_going 40 = .ok (.getfield 239, 3) := dk_180 0 239 (dk_at dksX1_going_1 16 rfl rfl)
theorem dX1_going_43 : decode cX1_going 43 = .ok (.isub, 1) := dk_100 (dk_at dksX1_going_1 19 rfl rfl)
theorem dX1_going_44 : decode cX1_going 44 = .ok (.aload_n 2, 1) := dk_44 (dk_at dksX1_going_1 20 rfl rfl)
theorem dX1_going_45 : decode cX1_going 45 = .ok (.getfield 229, 3) := dk_180 0 229 (dk_at dksX1_going_1 21 rfl rfl)
theorem dX1_going_48 : decode cX1_going 48 = .ok (.invokevirtual 291, 3) := dk_182 1 35 (dk_at dksX1_going_2 0 rfl rfl)
theorem dX1_going_51 : decode cX1_going 51 = .ok (.istore_n 3, 1) := dk_62 (dk_at dksX1_going_2 3 rfl rfl)
theorem dX1_going_52 : decode cX1_going 52 = .ok (.aload_n 2, 1) := dk_44 (dk_at dksX1_going_2 4 rfl rfl)
theorem dX1_going_53 : decode cX1_going 53 = .ok (.dup, 1) := dk_89 (dk_at dksX1_going_2 5 rfl rfl)
theorem dX1_going_54 : decode cX1_going 54 = .ok (.getfield 229, 3) := dk_180 0 229 (dk_at dksX1_going_2 6 rfl rfl)
theorem dX1_going_57 : decode cX1_going 57 = .ok (.iload_n 3, 1) := dk_29 (dk_at dksX1_going_2 9 rfl rfl)
theorem dX1_going_58 : decode cX1_going 58 = .ok (.isub, 1) := dk_100 (dk_at dksX1_going_2 10 rfl rfl)
theorem dX1_going_59 : decode cX1_going 59 = .ok (.putfield 229, 3) := dk_181 0 229 (dk_at dksX1_going_2 11 rfl rfl)
theorem dX1_going_62 : decode cX1_going 62 = .ok (.aload_n 2, 1) := dk_44 (dk_at dksX1_going_2 14 rfl rfl)
theorem dX1_going_63 : decode cX1_going 63 = .ok (.dup, 1) := dk_89 (dk_at dksX1_going_2 15 rfl rfl)
theorem dX1_going_64 : decode cX1_going 64 = .ok (.getfield 294, 3) := dk_180 1 38 (dk_at dksX1_going_2 16 rfl rfl)
theorem dX1_going_67 : decode cX1_going 67 = .ok (.iload_n 3, 1) := dk_29 (dk_at dksX1_going_2 19 rfl rfl)
theorem dX1_going_68 : decode cX1_going 68 = .ok (.iadd, 1) := dk_96 (dk_at dksX1_going_2 20 rfl rfl)
theorem dX1_going_69 : decode cX1_going 69 = .ok (.putfield 294, 3) := dk_181 1 38 (dk_at dksX1_going_2 21 rfl rfl)
theorem dX1_going_72 : decode cX1_going 72 = .ok (.aload_n 0, 1) := dk_42 (dk_at dksX1_going_3 0 rfl rfl)
theorem dX1_going_73 : decode cX1_going 73 = .ok (.dup, 1) := dk_89 (dk_at dksX1_going_3 1 rfl rfl)
theorem dX1_going_74 : decode cX1_going 74 = .ok (.getfield 81, 3) := dk_180 0 81 (dk_at dksX1_going_3 2 rfl rfl)
theorem dX1_going_77 : decode cX1_going 77 = .ok (.iload_n 3, 1) := dk_29 (dk_at dksX1_going_3 5 rfl rfl)
theorem dX1_going_78 : decode cX1_going 78 = .ok (.iadd, 1) := dk_96 (dk_at dksX1_going_3 6 rfl rfl)
theorem dX1_going_79 : decode cX1_going 79 = .ok (.putfield 81, 3) := dk_181 0 81 (dk_at dksX1_going_3 7 rfl rfl)
theorem dX1_going_82 : decode cX1_going 82 = .ok (.aload_n 0, 1) := dk_42 (dk_at dksX1_going_3 10 rfl rfl)
theorem dX1_going_83 : decode cX1_going 83 = .ok (.dup, 1) := dk_89 (dk_at dksX1_going_3 11 rfl rfl)
theorem dX1_going_84 : decode cX1_going 84 = .ok (.getfield 78, 3) := dk_180 0 78 (dk_at dksX1_going_3 12 rfl rfl)
theorem dX1_going_87 : decode cX1_going 87 = .ok (.aload_n 2, 1) := dk_44 (dk_at dksX1_going_3 15 rfl rfl)
theorem dX1_going_88 : decode cX1_going 88 = .ok (.getfield 229, 3) := dk_180 0 229 (dk_at dksX1_going_3 16 rfl rfl)
theorem dX1_going_91 : decode cX1_going 91 = .ok (.iadd, 1) := dk_96 (dk_at dksX1_going_3 19 rfl rfl)
theorem dX1_going_92 : decode cX1_going 92 = .ok (.putfield 78, 3) := dk_181 0 78 (dk_at dksX1_going_3 20 rfl rfl)
theorem dX1_going_95 : decode cX1_going 95 = .ok (.iinc 1 1, 3) := dk_132 1 1 (dk_at dksX1_going_4 0 rfl rfl)
theorem dX1_going_98 : decode cX1_going 98 = .ok (.goto (-96), 3) := dk_167 255 160 (dk_at dksX1_going_4 3 rfl rfl)
theorem dX1_going_101 : decode cX1_going 101 = .ok (.return_, 1) := dk_177 (dk_at dksX1_going_4 6 rfl rfl)
abbrev cX1_withLight : ByteArray := prog_20_method_29_code
def yX1_withLight : MethodName := ⟨RX1, "withLight", "(I)I"⟩
def dkwX1_withLight_1 : List UInt8 := [120, 167, 0, 4, 3, 128, 61, 132, 3, 1, 167, 255, 226, 28, 172]
abbrev dktX1_withLight_1 : List UInt8 := dkwX1_withLight_1 ++ []
def dkwX1_withLight_0 : List UInt8 := [3, 61, 3, 62, 29, 42, 180, 0, 96, 162, 0, 28, 28, 42, 29, 182, 1, 51, 27, 160, 0, 9, 4, 29]
abbrev dktX1_withLight_0 : List UInt8 := dkwX1_withLight_0 ++ dktX1_withLight_1
theorem dksX1_withLight_0 : cX1_withLight.data.toList.drop 0 = dktX1_withLight_0 := by decide +kernel
theorem dksX1_withLight_1 : cX1_withLight.data.toList.drop 24 = dktX1_withLight_1 := dk_seg dksX1_withLight_0 24 rfl rfl
theorem dX1_withLight_0 : decode cX1_withLight 0 = .ok (.iconst 0, 1) := dk_3 (dk_at dksX1_withLight_0 0 rfl rfl)
theorem dX1_withLight_1 : decode cX1_withLight 1 = .ok (.istore_n 2, 1) := dk_61 (dk_at dksX1_withLight_0 1 rfl rfl)
theorem dX1_withLight_2 : decode cX1_withLight 2 = .ok (.iconst 0, 1) := dk_3 (dk_at dksX1_withLight_0 2 rfl rfl)
theorem dX1_withLight_3 : decode cX1_withLight 3 = .ok (.istore_n 3, 1) := dk_62 (dk_at dksX1_withLight_0 3 rfl rfl)
theorem dX1_withLight_4 : decode cX1_withLight 4 = .ok (.iload_n 3, 1) := dk_29 (dk_at dksX1_withLight_0 4 rfl rfl)
theorem dX1_withLight_5 : decode cX1_withLight 5 = .ok (.aload_n 0, 1) := dk_42 (dk_at dksX1_withLight_0 5 rfl rfl)
theorem dX1_withLight_6 : decode cX1_withLight 6 = .ok (.getfield 96, 3) := dk_180 0 96 (dk_at dksX1_withLight_0 6 rfl rfl)
theorem dX1_withLight_9 : decode cX1_withLight 9 = .ok (.if_icmp .ge 28, 3) := dk_162 0 28 (dk_at dksX1_withLight_0 9 rfl rfl)
theorem dX1_withLight_12 : decode cX1_withLight 12 = .ok (.iload_n 2, 1) := dk_28 (dk_at dksX1_withLight_0 12 rfl rfl)
theorem dX1_withLight_13 : decode cX1_withLight 13 = .ok (.aload_n 0, 1) := dk_42 (dk_at dksX1_withLight_0 13 rfl rfl)
theorem dX1_withLight_14 : decode cX1_withLight 14 = .ok (.iload_n 3, 1) := dk_29 (dk_at dksX1_withLight_0 14 rfl rfl)
theorem dX1_withLight_15 : decode cX1_withLight 15 = .ok (.invokevirtual 307, 3) := dk_182 1 51 (dk_at dksX1_withLight_0 15 rfl rfl)
theorem dX1_withLight_18 : decode cX1_withLight 18 = .ok (.iload_n 1, 1) := dk_27 (dk_at dksX1_withLight_0 18 rfl rfl)
theorem dX1_withLight_19 : decode cX1_withLight 19 = .ok (.if_icmp .ne 9, 3) := dk_160 0 9 (dk_at dksX1_withLight_0 19 rfl rfl)
theorem dX1_withLight_22 : decode cX1_withLight 22 = .ok (.iconst 1, 1) := dk_4 (dk_at dksX1_withLight_0 22 rfl rfl)
theorem dX1_withLight_23 : decode cX1_withLight 23 = .ok (.iload_n 3, 1) := dk_29 (dk_at dksX1_withLight_0 23 rfl rfl)
theorem dX1_withLight_24 : decode cX1_withLight 24 = .ok (.ishl, 1) := dk_120 (dk_at dksX1_withLight_1 0 rfl rfl)
theorem dX1_withLight_25 : decode cX1_withLight 25 = .ok (.goto 4, 3) := dk_167 0 4 (dk_at dksX1_withLight_1 1 rfl rfl)
theorem dX1_withLight_28 : decode cX1_withLight 28 = .ok (.iconst 0, 1) := dk_3 (dk_at dksX1_withLight_1 4 rfl rfl)
theorem dX1_withLight_29 : decode cX1_withLight 29 = .ok (.ior, 1) := dk_128 (dk_at dksX1_withLight_1 5 rfl rfl)
theorem dX1_withLight_30 : decode cX1_withLight 30 = .ok (.istore_n 2, 1) := dk_61 (dk_at dksX1_withLight_1 6 rfl rfl)
theorem dX1_withLight_31 : decode cX1_withLight 31 = .ok (.iinc 3 1, 3) := dk_132 3 1 (dk_at dksX1_withLight_1 7 rfl rfl)
theorem dX1_withLight_34 : decode cX1_withLight 34 = .ok (.goto (-30), 3) := dk_167 255 226 (dk_at dksX1_withLight_1 10 rfl rfl)
theorem dX1_withLight_37 : decode cX1_withLight 37 = .ok (.iload_n 2, 1) := dk_28 (dk_at dksX1_withLight_1 13 rfl rfl)
theorem dX1_withLight_38 : decode cX1_withLight 38 = .ok (.ireturn, 1) := dk_172 (dk_at dksX1_withLight_1 14 rfl rfl)
abbrev cX1_light : ByteArray := prog_20_method_28_code
def yX1_light : MethodName := ⟨RX1, "light", "(I)I"⟩
def dkwX1_light_2 : List UInt8 := [167, 0, 4, 3, 172]
abbrev dktX1_light_2 : List UInt8 := dkwX1_light_2 ++ []
def dkwX1_light_1 : List UInt8 := [159, 0, 26, 42, 180, 0, 75, 44, 180, 0, 242, 44, 180, 0, 150, 180, 0, 154, 96, 162, 0, 7, 4]
abbrev dktX1_light_1 : List UInt8 := dkwX1_light_1 ++ dktX1_light_2
def dkwX1_light_0 : List UInt8 := [42, 180, 0, 32, 27, 50, 77, 44, 180, 0, 246, 153, 0, 7, 5, 167, 0, 36, 44, 180, 0, 242, 16, 251]
abbrev dktX1_light_0 : List UInt8 := dkwX1_light_0 ++ dktX1_light_1
theorem dksX1_light_0 : cX1_light.data.toList.drop 0 = dktX1_light_0 := by decide +kernel
theorem dksX1_light_1 : cX1_light.data.toList.drop 24 = dktX1_light_1 := dk_seg dksX1_light_0 24 rfl rfl
theorem dksX1_light_2 : cX1_light.data.toList.drop 47 = dktX1_light_2 := dk_seg dksX1_light_1 23 rfl rfl
theorem dX1_light_0 : decode cX1_light 0 = .ok (.aload_n 0, 1) := dk_42 (dk_at dksX1_light_0 0 rfl rfl)
theorem dX1_light_1 : decode cX1_light 1 = .ok (.getfield 32, 3) := dk_180 0 32 (dk_at dksX1_light_0 1 rfl rfl)
theorem dX1_light_4 : decode cX1_light 4 = .ok (.iload_n 1, 1) := dk_27 (dk_at dksX1_light_0 4 rfl rfl)
theorem dX1_light_5 : decode cX1_light 5 = .ok (.aaload, 1) := dk_50 (dk_at dksX1_light_0 5 rfl rfl)
theorem dX1_light_6 : decode cX1_light 6 = .ok (.astore_n 2, 1) := dk_77 (dk_at dksX1_light_0 6 rfl rfl)
theorem dX1_light_7 : decode cX1_light 7 = .ok (.aload_n 2, 1) := dk_44 (dk_at dksX1_light_0 7 rfl rfl)
theorem dX1_light_8 : decode cX1_light 8 = .ok (.getfield 246, 3) := dk_180 0 246 (dk_at dksX1_light_0 8 rfl rfl)
theorem dX1_light_11 : decode cX1_light 11 = .ok (.ifCond .eq 7, 3) := dk_153 0 7 (dk_at dksX1_light_0 11 rfl rfl)
theorem dX1_light_14 : decode cX1_light 14 = .ok (.iconst 2, 1) := dk_5 (dk_at dksX1_light_0 14 rfl rfl)
theorem dX1_light_15 : decode cX1_light 15 = .ok (.goto 36, 3) := dk_167 0 36 (dk_at dksX1_light_0 15 rfl rfl)
theorem dX1_light_18 : decode cX1_light 18 = .ok (.aload_n 2, 1) := dk_44 (dk_at dksX1_light_0 18 rfl rfl)
theorem dX1_light_19 : decode cX1_light 19 = .ok (.getfield 242, 3) := dk_180 0 242 (dk_at dksX1_light_0 19 rfl rfl)
theorem dX1_light_22 : decode cX1_light 22 = .ok (.bipush (-5), 2) := dk_16 251 (dk_at dksX1_light_0 22 rfl rfl)
theorem dX1_light_24 : decode cX1_light 24 = .ok (.if_icmp .eq 26, 3) := dk_159 0 26 (dk_at dksX1_light_1 0 rfl rfl)
theorem dX1_light_27 : decode cX1_light 27 = .ok (.aload_n 0, 1) := dk_42 (dk_at dksX1_light_1 3 rfl rfl)
theorem dX1_light_28 : decode cX1_light 28 = .ok (.getfield 75, 3) := dk_180 0 75 (dk_at dksX1_light_1 4 rfl rfl)
theorem dX1_light_31 : decode cX1_light 31 = .ok (.aload_n 2, 1) := dk_44 (dk_at dksX1_light_1 7 rfl rfl)
theorem dX1_light_32 : decode cX1_light 32 = .ok (.getfield 242, 3) := dk_180 0 242 (dk_at dksX1_light_1 8 rfl rfl)
theorem dX1_light_35 : decode cX1_light 35 = .ok (.aload_n 2, 1) := dk_44 (dk_at dksX1_light_1 11 rfl rfl)
theorem dX1_light_36 : decode cX1_light 36 = .ok (.getfield 150, 3) := dk_180 0 150 (dk_at dksX1_light_1 12 rfl rfl)
theorem dX1_light_39 : decode cX1_light 39 = .ok (.getfield 154, 3) := dk_180 0 154 (dk_at dksX1_light_1 15 rfl rfl)
theorem dX1_light_42 : decode cX1_light 42 = .ok (.iadd, 1) := dk_96 (dk_at dksX1_light_1 18 rfl rfl)
theorem dX1_light_43 : decode cX1_light 43 = .ok (.if_icmp .ge 7, 3) := dk_162 0 7 (dk_at dksX1_light_1 19 rfl rfl)
theorem dX1_light_46 : decode cX1_light 46 = .ok (.iconst 1, 1) := dk_4 (dk_at dksX1_light_1 22 rfl rfl)
theorem dX1_light_47 : decode cX1_light 47 = .ok (.goto 4, 3) := dk_167 0 4 (dk_at dksX1_light_2 0 rfl rfl)
theorem dX1_light_50 : decode cX1_light 50 = .ok (.iconst 0, 1) := dk_3 (dk_at dksX1_light_2 3 rfl rfl)
theorem dX1_light_51 : decode cX1_light 51 = .ok (.ireturn, 1) := dk_172 (dk_at dksX1_light_2 4 rfl rfl)
abbrev cX1_calledPhases : ByteArray := prog_20_method_11_code
def yX1_calledPhases : MethodName := ⟨RX1, "calledPhases", "()I"⟩
def dkwX1_calledPhases_1 : List UInt8 := [167, 0, 4, 3, 128, 60, 132, 2, 1, 167, 255, 227, 27, 172]
abbrev dktX1_calledPhases_1 : List UInt8 := dkwX1_calledPhases_1 ++ []
def dkwX1_calledPhases_0 : List UInt8 := [3, 60, 3, 61, 28, 42, 180, 0, 99, 162, 0, 27, 27, 42, 28, 182, 0, 214, 153, 0, 9, 4, 28, 120]
abbrev dktX1_calledPhases_0 : List UInt8 := dkwX1_calledPhases_0 ++ dktX1_calledPhases_1
theorem dksX1_calledPhases_0 : cX1_calledPhases.data.toList.drop 0 = dktX1_calledPhases_0 := by decide +kernel
theorem dksX1_calledPhases_1 : cX1_calledPhases.data.toList.drop 24 = dktX1_calledPhases_1 := dk_seg dksX1_calledPhases_0 24 rfl rfl
theorem dX1_calledPhases_0 : decode cX1_calledPhases 0 = .ok (.iconst 0, 1) := dk_3 (dk_at dksX1_calledPhases_0 0 rfl rfl)
theorem dX1_calledPhases_1 : decode cX1_calledPhases 1 = .ok (.istore_n 1, 1) := dk_60 (dk_at dksX1_calledPhases_0 1 rfl rfl)
theorem dX1_calledPhases_2 : decode cX1_calledPhases 2 = .ok (.iconst 0, 1) := dk_3 (dk_at dksX1_calledPhases_0 2 rfl rfl)
theorem dX1_calledPhases_3 : decode cX1_calledPhases 3 = .ok (.istore_n 2, 1) := dk_61 (dk_at dksX1_calledPhases_0 3 rfl rfl)
theorem dX1_calledPhases_4 : decode cX1_calledPhases 4 = .ok (.iload_n 2, 1) := dk_28 (dk_at dksX1_calledPhases_0 4 rfl rfl)
theorem dX1_calledPhases_5 : decode cX1_calledPhases 5 = .ok (.aload_n 0, 1) := dk_42 (dk_at dksX1_calledPhases_0 5 rfl rfl)
theorem dX1_calledPhases_6 : decode cX1_calledPhases 6 = .ok (.getfield 99, 3) := dk_180 0 99 (dk_at dksX1_calledPhases_0 6 rfl rfl)
theorem dX1_calledPhases_9 : decode cX1_calledPhases 9 = .ok (.if_icmp .ge 27, 3) := dk_162 0 27 (dk_at dksX1_calledPhases_0 9 rfl rfl)
theorem dX1_calledPhases_12 : decode cX1_calledPhases 12 = .ok (.iload_n 1, 1) := dk_27 (dk_at dksX1_calledPhases_0 12 rfl rfl)
theorem dX1_calledPhases_13 : decode cX1_calledPhases 13 = .ok (.aload_n 0, 1) := dk_42 (dk_at dksX1_calledPhases_0 13 rfl rfl)
theorem dX1_calledPhases_14 : decode cX1_calledPhases 14 = .ok (.iload_n 2, 1) := dk_28 (dk_at dksX1_calledPhases_0 14 rfl rfl)
theorem dX1_calledPhases_15 : decode cX1_calledPhases 15 = .ok (.invokevirtual 214, 3) := dk_182 0 214 (dk_at dksX1_calledPhases_0 15 rfl rfl)
theorem dX1_calledPhases_18 : decode cX1_calledPhases 18 = .ok (.ifCond .eq 9, 3) := dk_153 0 9 (dk_at dksX1_calledPhases_0 18 rfl rfl)
theorem dX1_calledPhases_21 : decode cX1_calledPhases 21 = .ok (.iconst 1, 1) := dk_4 (dk_at dksX1_calledPhases_0 21 rfl rfl)
theorem dX1_calledPhases_22 : decode cX1_calledPhases 22 = .ok (.iload_n 2, 1) := dk_28 (dk_at dksX1_calledPhases_0 22 rfl rfl)
theorem dX1_calledPhases_23 : decode cX1_calledPhases 23 = .ok (.ishl, 1) := dk_120 (dk_at dksX1_calledPhases_0 23 rfl rfl)
theorem dX1_calledPhases_24 : decode cX1_calledPhases 24 = .ok (.goto 4, 3) := dk_167 0 4 (dk_at dksX1_calledPhases_1 0 rfl rfl)
theorem dX1_calledPhases_27 : decode cX1_calledPhases 27 = .ok (.iconst 0, 1) := dk_3 (dk_at dksX1_calledPhases_1 3 rfl rfl)
theorem dX1_calledPhases_28 : decode cX1_calledPhases 28 = .ok (.ior, 1) := dk_128 (dk_at dksX1_calledPhases_1 4 rfl rfl)
theorem dX1_calledPhases_29 : decode cX1_calledPhases 29 = .ok (.istore_n 1, 1) := dk_60 (dk_at dksX1_calledPhases_1 5 rfl rfl)
theorem dX1_calledPhases_30 : decode cX1_calledPhases 30 = .ok (.iinc 2 1, 3) := dk_132 2 1 (dk_at dksX1_calledPhases_1 6 rfl rfl)
theorem dX1_calledPhases_33 : decode cX1_calledPhases 33 = .ok (.goto (-29), 3) := dk_167 255 227 (dk_at dksX1_calledPhases_1 9 rfl rfl)
theorem dX1_calledPhases_36 : decode cX1_calledPhases 36 = .ok (.iload_n 1, 1) := dk_27 (dk_at dksX1_calledPhases_1 12 rfl rfl)
theorem dX1_calledPhases_37 : decode cX1_calledPhases 37 = .ok (.ireturn, 1) := dk_172 (dk_at dksX1_calledPhases_1 13 rfl rfl)
abbrev cX1_queues : ByteArray := prog_20_method_30_code
def yX1_queues : MethodName := ⟨RX1, "queues", "()I"⟩
def dkwX1_queues_1 : List UInt8 := [132, 2, 1, 167, 255, 233, 27, 172]
abbrev dktX1_queues_1 : List UInt8 := dkwX1_queues_1 ++ []
def dkwX1_queues_0 : List UInt8 := [3, 60, 3, 61, 28, 42, 180, 0, 96, 162, 0, 21, 27, 42, 180, 0, 32, 28, 50, 180, 0, 229, 96, 60]
abbrev dktX1_queues_0 : List UInt8 := dkwX1_queues_0 ++ dktX1_queues_1
theorem dksX1_queues_0 : cX1_queues.data.toList.drop 0 = dktX1_queues_0 := by decide +kernel
theorem dksX1_queues_1 : cX1_queues.data.toList.drop 24 = dktX1_queues_1 := dk_seg dksX1_queues_0 24 rfl rfl
theorem dX1_queues_0 : decode cX1_queues 0 = .ok (.iconst 0, 1) := dk_3 (dk_at dksX1_queues_0 0 rfl rfl)
theorem dX1_queues_1 : decode cX1_queues 1 = .ok (.istore_n 1, 1) := dk_60 (dk_at dksX1_queues_0 1 rfl rfl)
theorem dX1_queues_2 : decode cX1_queues 2 = .ok (.iconst 0, 1) := dk_3 (dk_at dksX1_queues_0 2 rfl rfl)
theorem dX1_queues_3 : decode cX1_queues 3 = .ok (.istore_n 2, 1) := dk_61 (dk_at dksX1_queues_0 3 rfl rfl)
theorem dX1_queues_4 : decode cX1_queues 4 = .ok (.iload_n 2, 1) := dk_28 (dk_at dksX1_queues_0 4 rfl rfl)
theorem dX1_queues_5 : decode cX1_queues 5 = .ok (.aload_n 0, 1) := dk_42 (dk_at dksX1_queues_0 5 rfl rfl)
theorem dX1_queues_6 : decode cX1_queues 6 = .ok (.getfield 96, 3) := dk_180 0 96 (dk_at dksX1_queues_0 6 rfl rfl)
theorem dX1_queues_9 : decode cX1_queues 9 = .ok (.if_icmp .ge 21, 3) := dk_162 0 21 (dk_at dksX1_queues_0 9 rfl rfl)
theorem dX1_queues_12 : decode cX1_queues 12 = .ok (.iload_n 1, 1) := dk_27 (dk_at dksX1_queues_0 12 rfl rfl)
theorem dX1_queues_13 : decode cX1_queues 13 = .ok (.aload_n 0, 1) := dk_42 (dk_at dksX1_queues_0 13 rfl rfl)
theorem dX1_queues_14 : decode cX1_queues 14 = .ok (.getfield 32, 3) := dk_180 0 32 (dk_at dksX1_queues_0 14 rfl rfl)
theorem dX1_queues_17 : decode cX1_queues 17 = .ok (.iload_n 2, 1) := dk_28 (dk_at dksX1_queues_0 17 rfl rfl)
theorem dX1_queues_18 : decode cX1_queues 18 = .ok (.aaload, 1) := dk_50 (dk_at dksX1_queues_0 18 rfl rfl)
theorem dX1_queues_19 : decode cX1_queues 19 = .ok (.getfield 229, 3) := dk_180 0 229 (dk_at dksX1_queues_0 19 rfl rfl)
theorem dX1_queues_22 : decode cX1_queues 22 = .ok (.iadd, 1) := dk_96 (dk_at dksX1_queues_0 22 rfl rfl)
theorem dX1_queues_23 : decode cX1_queues 23 = .ok (.istore_n 1, 1) := dk_60 (dk_at dksX1_queues_0 23 rfl rfl)
theorem dX1_queues_24 : decode cX1_queues 24 = .ok (.iinc 2 1, 3) := dk_132 2 1 (dk_at dksX1_queues_1 0 rfl rfl)
theorem dX1_queues_27 : decode cX1_queues 27 = .ok (.goto (-23), 3) := dk_167 255 233 (dk_at dksX1_queues_1 3 rfl rfl)
theorem dX1_queues_30 : decode cX1_queues 30 = .ok (.iload_n 1, 1) := dk_27 (dk_at dksX1_queues_1 6 rfl rfl)
theorem dX1_queues_31 : decode cX1_queues 31 = .ok (.ireturn, 1) := dk_172 (dk_at dksX1_queues_1 7 rfl rfl)
abbrev cX1_latest : ByteArray := prog_20_method_19_code
def yX1_latest : MethodName := ⟨RX1, "latest", "(I)LSafeClears$Green;"⟩
def dkwX1_latest_0 : List UInt8 := [42, 180, 0, 44, 42, 180, 0, 105, 42, 180, 0, 102, 96, 4, 100, 27, 100, 16, 24, 112, 50, 176]
abbrev dktX1_latest_0 : List UInt8 := dkwX1_latest_0 ++ []
theorem dksX1_latest_0 : cX1_latest.data.toList.drop 0 = dktX1_latest_0 := by decide +kernel
theorem dX1_latest_0 : decode cX1_latest 0 = .ok (.aload_n 0, 1) := dk_42 (dk_at dksX1_latest_0 0 rfl rfl)
theorem dX1_latest_1 : decode cX1_latest 1 = .ok (.getfield 44, 3) := dk_180 0 44 (dk_at dksX1_latest_0 1 rfl rfl)
theorem dX1_latest_4 : decode cX1_latest 4 = .ok (.aload_n 0, 1) := dk_42 (dk_at dksX1_latest_0 4 rfl rfl)
theorem dX1_latest_5 : decode cX1_latest 5 = .ok (.getfield 105, 3) := dk_180 0 105 (dk_at dksX1_latest_0 5 rfl rfl)
theorem dX1_latest_8 : decode cX1_latest 8 = .ok (.aload_n 0, 1) := dk_42 (dk_at dksX1_latest_0 8 rfl rfl)
theorem dX1_latest_9 : decode cX1_latest 9 = .ok (.getfield 102, 3) := dk_180 0 102 (dk_at dksX1_latest_0 9 rfl rfl)
theorem dX1_latest_12 : decode cX1_latest 12 = .ok (.iadd, 1) := dk_96 (dk_at dksX1_latest_0 12 rfl rfl)
theorem dX1_latest_13 : decode cX1_latest 13 = .ok (.iconst 1, 1) := dk_4 (dk_at dksX1_latest_0 13 rfl rfl)
theorem dX1_latest_14 : decode cX1_latest 14 = .ok (.isub, 1) := dk_100 (dk_at dksX1_latest_0 14 rfl rfl)
theorem dX1_latest_15 : decode cX1_latest 15 = .ok (.iload_n 1, 1) := dk_27 (dk_at dksX1_latest_0 15 rfl rfl)
theorem dX1_latest_16 : decode cX1_latest 16 = .ok (.isub, 1) := dk_100 (dk_at dksX1_latest_0 16 rfl rfl)
theorem dX1_latest_17 : decode cX1_latest 17 = .ok (.bipush 24, 2) := dk_16 24 (dk_at dksX1_latest_0 17 rfl rfl)
theorem dX1_latest_19 : decode cX1_latest 19 = .ok (.irem, 1) := dk_112 (dk_at dksX1_latest_0 19 rfl rfl)
theorem dX1_latest_20 : decode cX1_latest 20 = .ok (.aaload, 1) := dk_50 (dk_at dksX1_latest_0 20 rfl rfl)
theorem dX1_latest_21 : decode cX1_latest 21 = .ok (.areturn, 1) := dk_176 (dk_at dksX1_latest_0 21 rfl rfl)
abbrev cX1_bands : ByteArray := prog_20_method_35_code
def yX1_bands : MethodName := ⟨RX1, "bands", "()I"⟩
def dkwX1_bands_0 : List UInt8 := [42, 3, 182, 1, 63, 42, 4, 182, 1, 63, 96, 172]
abbrev dktX1_bands_0 : List UInt8 := dkwX1_bands_0 ++ []
theorem dksX1_bands_0 : cX1_bands.data.toList.drop 0 = dktX1_bands_0 := by decide +kernel
theorem dX1_bands_0 : decode cX1_bands 0 = .ok (.aload_n 0, 1) := dk_42 (dk_at dksX1_bands_0 0 rfl rfl)
theorem dX1_bands_1 : decode cX1_bands 1 = .ok (.iconst 0, 1) := dk_3 (dk_at dksX1_bands_0 1 rfl rfl)
theorem dX1_bands_2 : decode cX1_bands 2 = .ok (.invokevirtual 319, 3) := dk_182 1 63 (dk_at dksX1_bands_0 2 rfl rfl)
theorem dX1_bands_5 : decode cX1_bands 5 = .ok (.aload_n 0, 1) := dk_42 (dk_at dksX1_bands_0 5 rfl rfl)
theorem dX1_bands_6 : decode cX1_bands 6 = .ok (.iconst 1, 1) := dk_4 (dk_at dksX1_bands_0 6 rfl rfl)
theorem dX1_bands_7 : decode cX1_bands 7 = .ok (.invokevirtual 319, 3) := dk_182 1 63 (dk_at dksX1_bands_0 7 rfl rfl)
theorem dX1_bands_10 : decode cX1_bands 10 = .ok (.iadd, 1) := dk_96 (dk_at dksX1_bands_0 10 rfl rfl)
theorem dX1_bands_11 : decode cX1_bands 11 = .ok (.ireturn, 1) := dk_172 (dk_at dksX1_bands_0 11 rfl rfl)
abbrev cX1_band : ByteArray := prog_20_method_34_code
def yX1_band : MethodName := ⟨RX1, "band", "(I)I"⟩
def dkwX1_band_1 : List UInt8 := [167, 0, 4, 3, 96, 61, 132, 3, 1, 167, 255, 228, 28, 172]
abbrev dktX1_band_1 : List UInt8 := dkwX1_band_1 ++ []
def dkwX1_band_0 : List UInt8 := [3, 61, 3, 62, 29, 42, 180, 0, 27, 162, 0, 26, 28, 42, 29, 27, 182, 1, 60, 153, 0, 7, 4]
abbrev dktX1_band_0 : List UInt8 := dkwX1_band_0 ++ dktX1_band_1
theorem dksX1_band_0 : cX1_band.data.toList.drop 0 = dktX1_band_0 := by decide +kernel
theorem dksX1_band_1 : cX1_band.data.toList.drop 23 = dktX1_band_1 := dk_seg dksX1_band_0 23 rfl rfl
theorem dX1_band_0 : decode cX1_band 0 = .ok (.iconst 0, 1) := dk_3 (dk_at dksX1_band_0 0 rfl rfl)
theorem dX1_band_1 : decode cX1_band 1 = .ok (.istore_n 2, 1) := dk_61 (dk_at dksX1_band_0 1 rfl rfl)
theorem dX1_band_2 : decode cX1_band 2 = .ok (.iconst 0, 1) := dk_3 (dk_at dksX1_band_0 2 rfl rfl)
theorem dX1_band_3 : decode cX1_band 3 = .ok (.istore_n 3, 1) := dk_62 (dk_at dksX1_band_0 3 rfl rfl)
theorem dX1_band_4 : decode cX1_band 4 = .ok (.iload_n 3, 1) := dk_29 (dk_at dksX1_band_0 4 rfl rfl)
theorem dX1_band_5 : decode cX1_band 5 = .ok (.aload_n 0, 1) := dk_42 (dk_at dksX1_band_0 5 rfl rfl)
theorem dX1_band_6 : decode cX1_band 6 = .ok (.getfield 27, 3) := dk_180 0 27 (dk_at dksX1_band_0 6 rfl rfl)
theorem dX1_band_9 : decode cX1_band 9 = .ok (.if_icmp .ge 26, 3) := dk_162 0 26 (dk_at dksX1_band_0 9 rfl rfl)
theorem dX1_band_12 : decode cX1_band 12 = .ok (.iload_n 2, 1) := dk_28 (dk_at dksX1_band_0 12 rfl rfl)
theorem dX1_band_13 : decode cX1_band 13 = .ok (.aload_n 0, 1) := dk_42 (dk_at dksX1_band_0 13 rfl rfl)
theorem dX1_band_14 : decode cX1_band 14 = .ok (.iload_n 3, 1) := dk_29 (dk_at dksX1_band_0 14 rfl rfl)
theorem dX1_band_15 : decode cX1_band 15 = .ok (.iload_n 1, 1) := dk_27 (dk_at dksX1_band_0 15 rfl rfl)
theorem dX1_band_16 : decode cX1_band 16 = .ok (.invokevirtual 316, 3) := dk_182 1 60 (dk_at dksX1_band_0 16 rfl rfl)
theorem dX1_band_19 : decode cX1_band 19 = .ok (.ifCond .eq 7, 3) := dk_153 0 7 (dk_at dksX1_band_0 19 rfl rfl)
theorem dX1_band_22 : decode cX1_band 22 = .ok (.iconst 1, 1) := dk_4 (dk_at dksX1_band_0 22 rfl rfl)
theorem dX1_band_23 : decode cX1_band 23 = .ok (.goto 4, 3) := dk_167 0 4 (dk_at dksX1_band_1 0 rfl rfl)
theorem dX1_band_26 : decode cX1_band 26 = .ok (.iconst 0, 1) := dk_3 (dk_at dksX1_band_1 3 rfl rfl)
theorem dX1_band_27 : decode cX1_band 27 = .ok (.iadd, 1) := dk_96 (dk_at dksX1_band_1 4 rfl rfl)
theorem dX1_band_28 : decode cX1_band 28 = .ok (.istore_n 2, 1) := dk_61 (dk_at dksX1_band_1 5 rfl rfl)
theorem dX1_band_29 : decode cX1_band 29 = .ok (.iinc 3 1, 3) := dk_132 3 1 (dk_at dksX1_band_1 6 rfl rfl)
theorem dX1_band_32 : decode cX1_band 32 = .ok (.goto (-28), 3) := dk_167 255 228 (dk_at dksX1_band_1 9 rfl rfl)
theorem dX1_band_35 : decode cX1_band 35 = .ok (.iload_n 2, 1) := dk_28 (dk_at dksX1_band_1 12 rfl rfl)
theorem dX1_band_36 : decode cX1_band 36 = .ok (.ireturn, 1) := dk_172 (dk_at dksX1_band_1 13 rfl rfl)
abbrev cX1_isThrough : ByteArray := prog_20_method_33_code
def yX1_isThrough : MethodName := ⟨RX1, "isThrough", "(II)Z"⟩
def dkwX1_isThrough_5 : List UInt8 := [172]
abbrev dktX1_isThrough_5 : List UInt8 := dkwX1_isThrough_5 ++ []
def dkwX1_isThrough_4 : List UInt8 := [167, 0, 4, 3, 96, 62, 132, 4, 1, 167, 255, 159, 42, 180, 0, 111, 158, 0, 7, 4, 167, 0, 4, 3]
abbrev dktX1_isThrough_4 : List UInt8 := dkwX1_isThrough_4 ++ dktX1_isThrough_5
def dkwX1_isThrough_3 : List UInt8 := [46, 167, 0, 26, 21, 5, 158, 0, 20, 42, 180, 0, 53, 21, 5, 4, 100, 50, 180, 0, 140, 5, 46]
abbrev dktX1_isThrough_3 : List UInt8 := dkwX1_isThrough_3 ++ dktX1_isThrough_4
def dkwX1_isThrough_2 : List UInt8 := [182, 1, 57, 154, 0, 5, 3, 172, 29, 28, 154, 0, 18, 42, 180, 0, 53, 21, 5, 50, 180, 0, 140, 5]
abbrev dktX1_isThrough_2 : List UInt8 := dkwX1_isThrough_2 ++ dktX1_isThrough_3
def dkwX1_isThrough_1 : List UInt8 := [180, 0, 111, 4, 100, 21, 4, 100, 54, 5, 42, 180, 0, 53, 21, 5, 50, 29, 42, 180, 0, 27]
abbrev dktX1_isThrough_1 : List UInt8 := dkwX1_isThrough_1 ++ dktX1_isThrough_2
def dkwX1_isThrough_0 : List UInt8 := [27, 62, 3, 54, 4, 21, 4, 42, 180, 0, 111, 162, 0, 94, 28, 154, 0, 8, 21, 4, 167, 0, 12, 42]
abbrev dktX1_isThrough_0 : List UInt8 := dkwX1_isThrough_0 ++ dktX1_isThrough_1
theorem dksX1_isThrough_0 : cX1_isThrough.data.toList.drop 0 = dktX1_isThrough_0 := by decide +kernel
theorem dksX1_isThrough_1 : cX1_isThrough.data.toList.drop 24 = dktX1_isThrough_1 := dk_seg dksX1_isThrough_0 24 rfl rfl
theorem dksX1_isThrough_2 : cX1_isThrough.data.toList.drop 46 = dktX1_isThrough_2 := dk_seg dksX1_isThrough_1 22 rfl rfl
theorem dksX1_isThrough_3 : cX1_isThrough.data.toList.drop 70 = dktX1_isThrough_3 := dk_seg dksX1_isThrough_2 24 rfl rfl
theorem dksX1_isThrough_4 : cX1_isThrough.data.toList.drop 93 = dktX1_isThrough_4 := dk_seg dksX1_isThrough_3 23 rfl rfl
theorem dksX1_isThrough_5 : cX1_isThrough.data.toList.drop 117 = dktX1_isThrough_5 := dk_seg dksX1_isThrough_4 24 rfl rfl
theorem dX1_isThrough_0 : decode cX1_isThrough 0 = .ok (.iload_n 1, 1) := dk_27 (dk_at dksX1_isThrough_0 0 rfl rfl)
theorem dX1_isThrough_1 : decode cX1_isThrough 1 = .ok (.istore_n 3, 1) := dk_62 (dk_at dksX1_isThrough_0 1 rfl rfl)
theorem dX1_isThrough_2 : decode cX1_isThrough 2 = .ok (.iconst 0, 1) := dk_3 (dk_at dksX1_isThrough_0 2 rfl rfl)
theorem dX1_isThrough_3 : decode cX1_isThrough 3 = .ok (.istore 4, 2) := dk_54 4 (dk_at dksX1_isThrough_0 3 rfl rfl)
theorem dX1_isThrough_5 : decode cX1_isThrough 5 = .ok (.iload 4, 2) := dk_21 4 (dk_at dksX1_isThrough_0 5 rfl rfl)
theorem dX1_isThrough_7 : decode cX1_isThrough 7 = .ok (.aload_n 0, 1) := dk_42 (dk_at dksX1_isThrough_0 7 rfl rfl)
theorem dX1_isThrough_8 : decode cX1_isThrough 8 = .ok (.getfield 111, 3) := dk_180 0 111 (dk_at dksX1_isThrough_0 8 rfl rfl)
theorem dX1_isThrough_11 : decode cX1_isThrough 11 = .ok (.if_icmp .ge 94, 3) := dk_162 0 94 (dk_at dksX1_isThrough_0 11 rfl rfl)
theorem dX1_isThrough_14 : decode cX1_isThrough 14 = .ok (.iload_n 2, 1) := dk_28 (dk_at dksX1_isThrough_0 14 rfl rfl)
theorem dX1_isThrough_15 : decode cX1_isThrough 15 = .ok (.ifCond .ne 8, 3) := dk_154 0 8 (dk_at dksX1_isThrough_0 15 rfl rfl)
theorem dX1_isThrough_18 : decode cX1_isThrough 18 = .ok (.iload 4, 2) := dk_21 4 (dk_at dksX1_isThrough_0 18 rfl rfl)
theorem dX1_isThrough_20 : decode cX1_isThrough 20 = .ok (.goto 12, 3) := dk_167 0 12 (dk_at dksX1_isThrough_0 20 rfl rfl)
theorem dX1_isThrough_23 : decode cX1_isThrough 23 = .ok (.aload_n 0, 1) := dk_42 (dk_at dksX1_isThrough_0 23 rfl rfl)
theorem dX1_isThrough_24 : decode cX1_isThrough 24 = .ok (.getfield 111, 3) := dk_180 0 111 (dk_at dksX1_isThrough_1 0 rfl rfl)
theorem dX1_isThrough_27 : decode cX1_isThrough 27 = .ok (.iconst 1, 1) := dk_4 (dk_at dksX1_isThrough_1 3 rfl rfl)
theorem dX1_isThrough_28 : decode cX1_isThrough 28 = .ok (.isub, 1) := dk_100 (dk_at dksX1_isThrough_1 4 rfl rfl)
theorem dX1_isThrough_29 : decode cX1_isThrough 29 = .ok (.iload 4, 2) := dk_21 4 (dk_at dksX1_isThrough_1 5 rfl rfl)
theorem dX1_isThrough_31 : decode cX1_isThrough 31 = .ok (.isub, 1) := dk_100 (dk_at dksX1_isThrough_1 7 rfl rfl)
theorem dX1_isThrough_32 : decode cX1_isThrough 32 = .ok (.istore 5, 2) := dk_54 5 (dk_at dksX1_isThrough_1 8 rfl rfl)
theorem dX1_isThrough_34 : decode cX1_isThrough 34 = .ok (.aload_n 0, 1) := dk_42 (dk_at dksX1_isThrough_1 10 rfl rfl)
theorem dX1_isThrough_35 : decode cX1_isThrough 35 = .ok (.getfield 53, 3) := dk_180 0 53 (dk_at dksX1_isThrough_1 11 rfl rfl)
theorem dX1_isThrough_38 : decode cX1_isThrough 38 = .ok (.iload 5, 2) := dk_21 5 (dk_at dksX1_isThrough_1 14 rfl rfl)
theorem dX1_isThrough_40 : decode cX1_isThrough 40 = .ok (.aaload, 1) := dk_50 (dk_at dksX1_isThrough_1 16 rfl rfl)
theorem dX1_isThrough_41 : decode cX1_isThrough 41 = .ok (.iload_n 3, 1) := dk_29 (dk_at dksX1_isThrough_1 17 rfl rfl)
theorem dX1_isThrough_42 : decode cX1_isThrough 42 = .ok (.aload_n 0, 1) := dk_42 (dk_at dksX1_isThrough_1 18 rfl rfl)
theorem dX1_isThrough_43 : decode cX1_isThrough 43 = .ok (.getfield 27, 3) := dk_180 0 27 (dk_at dksX1_isThrough_1 19 rfl rfl)
theorem dX1_isThrough_46 : decode cX1_isThrough 46 = .ok (.invokevirtual 313, 3) := dk_182 1 57 (dk_at dksX1_isThrough_2 0 rfl rfl)
theorem dX1_isThrough_49 : decode cX1_isThrough 49 = .ok (.ifCond .ne 5, 3) := dk_154 0 5 (dk_at dksX1_isThrough_2 3 rfl rfl)
theorem dX1_isThrough_52 : decode cX1_isThrough 52 = .ok (.iconst 0, 1) := dk_3 (dk_at dksX1_isThrough_2 6 rfl rfl)
theorem dX1_isThrough_53 : decode cX1_isThrough 53 = .ok (.ireturn, 1) := dk_172 (dk_at dksX1_isThrough_2 7 rfl rfl)
theorem dX1_isThrough_54 : decode cX1_isThrough 54 = .ok (.iload_n 3, 1) := dk_29 (dk_at dksX1_isThrough_2 8 rfl rfl)
theorem dX1_isThrough_55 : decode cX1_isThrough 55 = .ok (.iload_n 2, 1) := dk_28 (dk_at dksX1_isThrough_2 9 rfl rfl)
theorem dX1_isThrough_56 : decode cX1_isThrough 56 = .ok (.ifCond .ne 18, 3) := dk_154 0 18 (dk_at dksX1_isThrough_2 10 rfl rfl)
theorem dX1_isThrough_59 : decode cX1_isThrough 59 = .ok (.aload_n 0, 1) := dk_42 (dk_at dksX1_isThrough_2 13 rfl rfl)
theorem dX1_isThrough_60 : decode cX1_isThrough 60 = .ok (.getfield 53, 3) := dk_180 0 53 (dk_at dksX1_isThrough_2 14 rfl rfl)
theorem dX1_isThrough_63 : decode cX1_isThrough 63 = .ok (.iload 5, 2) := dk_21 5 (dk_at dksX1_isThrough_2 17 rfl rfl)
theorem dX1_isThrough_65 : decode cX1_isThrough 65 = .ok (.aaload, 1) := dk_50 (dk_at dksX1_isThrough_2 19 rfl rfl)
theorem dX1_isThrough_66 : decode cX1_isThrough 66 = .ok (.getfield 140, 3) := dk_180 0 140 (dk_at dksX1_isThrough_2 20 rfl rfl)
theorem dX1_isThrough_69 : decode cX1_isThrough 69 = .ok (.iconst 2, 1) := dk_5 (dk_at dksX1_isThrough_2 23 rfl rfl)
theorem dX1_isThrough_70 : decode cX1_isThrough 70 = .ok (.iaload, 1) := dk_46 (dk_at dksX1_isThrough_3 0 rfl rfl)
theorem dX1_isThrough_71 : decode cX1_isThrough 71 = .ok (.goto 26, 3) := dk_167 0 26 (dk_at dksX1_isThrough_3 1 rfl rfl)
theorem dX1_isThrough_74 : decode cX1_isThrough 74 = .ok (.iload 5, 2) := dk_21 5 (dk_at dksX1_isThrough_3 4 rfl rfl)
theorem dX1_isThrough_76 : decode cX1_isThrough 76 = .ok (.ifCond .le 20, 3) := dk_158 0 20 (dk_at dksX1_isThrough_3 6 rfl rfl)
theorem dX1_isThrough_79 : decode cX1_isThrough 79 = .ok (.aload_n 0, 1) := dk_42 (dk_at dksX1_isThrough_3 9 rfl rfl)
theorem dX1_isThrough_80 : decode cX1_isThrough 80 = .ok (.getfield 53, 3) := dk_180 0 53 (dk_at dksX1_isThrough_3 10 rfl rfl)
theorem dX1_isThrough_83 : decode cX1_isThrough 83 = .ok (.iload 5, 2) := dk_21 5 (dk_at dksX1_isThrough_3 13 rfl rfl)
theorem dX1_isThrough_85 : decode cX1_isThrough 85 = .ok (.iconst 1, 1) := dk_4 (dk_at dksX1_isThrough_3 15 rfl rfl)
theorem dX1_isThrough_86 : decode cX1_isThrough 86 = .ok (.isub, 1) := dk_100 (dk_at dksX1_isThrough_3 16 rfl rfl)
theorem dX1_isThrough_87 : decode cX1_isThrough 87 = .ok (.aaload, 1) := dk_50 (dk_at dksX1_isThrough_3 17 rfl rfl)
theorem dX1_isThrough_88 : decode cX1_isThrough 88 = .ok (.getfield 140, 3) := dk_180 0 140 (dk_at dksX1_isThrough_3 18 rfl rfl)
theorem dX1_isThrough_91 : decode cX1_isThrough 91 = .ok (.iconst 2, 1) := dk_5 (dk_at dksX1_isThrough_3 21 rfl rfl)
theorem dX1_isThrough_92 : decode cX1_isThrough 92 = .ok (.iaload, 1) := dk_46 (dk_at dksX1_isThrough_3 22 rfl rfl)
theorem dX1_isThrough_93 : decode cX1_isThrough 93 = .ok (.goto 4, 3) := dk_167 0 4 (dk_at dksX1_isThrough_4 0 rfl rfl)
theorem dX1_isThrough_96 : decode cX1_isThrough 96 = .ok (.iconst 0, 1) := dk_3 (dk_at dksX1_isThrough_4 3 rfl rfl)
theorem dX1_isThrough_97 : decode cX1_isThrough 97 = .ok (.iadd, 1) := dk_96 (dk_at dksX1_isThrough_4 4 rfl rfl)
theorem dX1_isThrough_98 : decode cX1_isThrough 98 = .ok (.istore_n 3, 1) := dk_62 (dk_at dksX1_isThrough_4 5 rfl rfl)
theorem dX1_isThrough_99 : decode cX1_isThrough 99 = .ok (.iinc 4 1, 3) := dk_132 4 1 (dk_at dksX1_isThrough_4 6 rfl rfl)
theorem dX1_isThrough_102 : decode cX1_isThrough 102 = .ok (.goto (-97), 3) := dk_167 255 159 (dk_at dksX1_isThrough_4 9 rfl rfl)
theorem dX1_isThrough_105 : decode cX1_isThrough 105 = .ok (.aload_n 0, 1) := dk_42 (dk_at dksX1_isThrough_4 12 rfl rfl)
theorem dX1_isThrough_106 : decode cX1_isThrough 106 = .ok (.getfield 111, 3) := dk_180 0 111 (dk_at dksX1_isThrough_4 13 rfl rfl)
theorem dX1_isThrough_109 : decode cX1_isThrough 109 = .ok (.ifCond .le 7, 3) := dk_158 0 7 (dk_at dksX1_isThrough_4 16 rfl rfl)
theorem dX1_isThrough_112 : decode cX1_isThrough 112 = .ok (.iconst 1, 1) := dk_4 (dk_at dksX1_isThrough_4 19 rfl rfl)
theorem dX1_isThrough_113 : decode cX1_isThrough 113 = .ok (.goto 4, 3) := dk_167 0 4 (dk_at dksX1_isThrough_4 20 rfl rfl)
theorem dX1_isThrough_116 : decode cX1_isThrough 116 = .ok (.iconst 0, 1) := dk_3 (dk_at dksX1_isThrough_4 23 rfl rfl)
theorem dX1_isThrough_117 : decode cX1_isThrough 117 = .ok (.ireturn, 1) := dk_172 (dk_at dksX1_isThrough_5 0 rfl rfl)
abbrev cX1_like : ByteArray := prog_20_method_2_code
def yX1_like : MethodName := ⟨RX1, "like", "(LSafeClears$World;)LSafeClears$World;"⟩
def dkwX1_like_17 : List UInt8 := [16, 64, 184, 0, 143, 42, 176]
abbrev dktX1_like_17 : List UInt8 := dkwX1_like_17 ++ []
def dkwX1_like_16 : List UInt8 := [180, 0, 61, 3, 42, 180, 0, 61, 3, 16, 16, 184, 0, 143, 43, 180, 0, 64, 3, 42, 180, 0, 64, 3]
abbrev dktX1_like_16 : List UInt8 := dkwX1_like_16 ++ dktX1_like_17
def dkwX1_like_15 : List UInt8 := [132, 2, 1, 167, 255, 221, 43, 180, 0, 57, 3, 42, 180, 0, 57, 3, 16, 10, 184, 0, 143, 43]
abbrev dktX1_like_15 : List UInt8 := dkwX1_like_15 ++ dktX1_like_16
def dkwX1_like_14 : List UInt8 := [43, 180, 0, 53, 28, 50, 180, 0, 140, 3, 42, 180, 0, 53, 28, 50, 180, 0, 140, 3, 6, 184, 0, 143]
abbrev dktX1_like_14 : List UInt8 := dkwX1_like_14 ++ dktX1_like_15
def dkwX1_like_13 : List UInt8 := [180, 0, 48, 28, 50, 182, 0, 137, 132, 2, 1, 167, 255, 230, 3, 61, 28, 42, 180, 0, 111, 162, 0, 33]
abbrev dktX1_like_13 : List UInt8 := dkwX1_like_13 ++ dktX1_like_14
def dkwX1_like_12 : List UInt8 := [132, 2, 1, 167, 255, 230, 3, 61, 28, 42, 180, 0, 108, 162, 0, 24, 42, 180, 0, 48, 28, 50, 43]
abbrev dktX1_like_12 : List UInt8 := dkwX1_like_12 ++ dktX1_like_13
def dkwX1_like_11 : List UInt8 := [42, 180, 0, 102, 162, 0, 24, 42, 180, 0, 44, 28, 50, 43, 180, 0, 44, 28, 50, 182, 0, 137]
abbrev dktX1_like_11 : List UInt8 := dkwX1_like_11 ++ dktX1_like_12
def dkwX1_like_10 : List UInt8 := [180, 0, 127, 43, 180, 0, 38, 28, 50, 180, 0, 130, 182, 0, 133, 132, 2, 1, 167, 255, 209, 3, 61, 28]
abbrev dktX1_like_10 : List UInt8 := dkwX1_like_10 ++ dktX1_like_11
def dkwX1_like_9 : List UInt8 := [162, 0, 45, 42, 180, 0, 38, 28, 50, 43, 180, 0, 38, 28, 50, 180, 0, 124, 43, 180, 0, 38, 28, 50]
abbrev dktX1_like_9 : List UInt8 := dkwX1_like_9 ++ dktX1_like_10
def dkwX1_like_8 : List UInt8 := [43, 180, 0, 32, 28, 50, 182, 0, 120, 132, 2, 1, 167, 255, 230, 3, 61, 28, 42, 180, 0, 99]
abbrev dktX1_like_8 : List UInt8 := dkwX1_like_8 ++ dktX1_like_9
def dkwX1_like_7 : List UInt8 := [42, 43, 180, 0, 117, 181, 0, 117, 3, 61, 28, 42, 180, 0, 96, 162, 0, 24, 42, 180, 0, 32, 28, 50]
abbrev dktX1_like_7 : List UInt8 := dkwX1_like_7 ++ dktX1_like_8
def dkwX1_like_6 : List UInt8 := [42, 43, 180, 0, 111, 181, 0, 111, 42, 43, 180, 0, 27, 181, 0, 27, 42, 43, 180, 0, 114, 181, 0, 114]
abbrev dktX1_like_6 : List UInt8 := dkwX1_like_6 ++ dktX1_like_7
def dkwX1_like_5 : List UInt8 := [42, 43, 180, 0, 102, 181, 0, 102, 42, 43, 180, 0, 105, 181, 0, 105, 42, 43, 180, 0, 108, 181, 0, 108]
abbrev dktX1_like_5 : List UInt8 := dkwX1_like_5 ++ dktX1_like_6
def dkwX1_like_4 : List UInt8 := [42, 43, 180, 0, 93, 181, 0, 93, 42, 43, 180, 0, 96, 181, 0, 96, 42, 43, 180, 0, 99, 181, 0, 99]
abbrev dktX1_like_4 : List UInt8 := dkwX1_like_4 ++ dktX1_like_5
def dkwX1_like_3 : List UInt8 := [42, 43, 180, 0, 24, 181, 0, 24, 42, 43, 180, 0, 87, 181, 0, 87, 42, 43, 180, 0, 90, 181, 0, 90]
abbrev dktX1_like_3 : List UInt8 := dkwX1_like_3 ++ dktX1_like_4
def dkwX1_like_2 : List UInt8 := [42, 43, 180, 0, 81, 181, 0, 81, 42, 43, 180, 0, 84, 181, 0, 84, 42, 43, 180, 0, 21, 181, 0, 21]
abbrev dktX1_like_2 : List UInt8 := dkwX1_like_2 ++ dktX1_like_3
def dkwX1_like_1 : List UInt8 := [42, 43, 180, 0, 15, 181, 0, 15, 42, 43, 180, 0, 18, 181, 0, 18, 42, 43, 180, 0, 78, 181, 0, 78]
abbrev dktX1_like_1 : List UInt8 := dkwX1_like_1 ++ dktX1_like_2
def dkwX1_like_0 : List UInt8 := [42, 43, 180, 0, 71, 181, 0, 71, 42, 43, 180, 0, 75, 181, 0, 75, 42, 43, 180, 0, 9, 181, 0, 9]
abbrev dktX1_like_0 : List UInt8 := dkwX1_like_0 ++ dktX1_like_1
theorem dksX1_like_0 : cX1_like.data.toList.drop 0 = dktX1_like_0 := by decide +kernel
theorem dksX1_like_1 : cX1_like.data.toList.drop 24 = dktX1_like_1 := dk_seg dksX1_like_0 24 rfl rfl
theorem dksX1_like_2 : cX1_like.data.toList.drop 48 = dktX1_like_2 := dk_seg dksX1_like_1 24 rfl rfl
theorem dksX1_like_3 : cX1_like.data.toList.drop 72 = dktX1_like_3 := dk_seg dksX1_like_2 24 rfl rfl
theorem dksX1_like_4 : cX1_like.data.toList.drop 96 = dktX1_like_4 := dk_seg dksX1_like_3 24 rfl rfl
theorem dksX1_like_5 : cX1_like.data.toList.drop 120 = dktX1_like_5 := dk_seg dksX1_like_4 24 rfl rfl
theorem dksX1_like_6 : cX1_like.data.toList.drop 144 = dktX1_like_6 := dk_seg dksX1_like_5 24 rfl rfl
theorem dksX1_like_7 : cX1_like.data.toList.drop 168 = dktX1_like_7 := dk_seg dksX1_like_6 24 rfl rfl
theorem dksX1_like_8 : cX1_like.data.toList.drop 192 = dktX1_like_8 := dk_seg dksX1_like_7 24 rfl rfl
theorem dksX1_like_9 : cX1_like.data.toList.drop 214 = dktX1_like_9 := dk_seg dksX1_like_8 22 rfl rfl
theorem dksX1_like_10 : cX1_like.data.toList.drop 238 = dktX1_like_10 := dk_seg dksX1_like_9 24 rfl rfl
theorem dksX1_like_11 : cX1_like.data.toList.drop 262 = dktX1_like_11 := dk_seg dksX1_like_10 24 rfl rfl
theorem dksX1_like_12 : cX1_like.data.toList.drop 284 = dktX1_like_12 := dk_seg dksX1_like_11 22 rfl rfl
theorem dksX1_like_13 : cX1_like.data.toList.drop 307 = dktX1_like_13 := dk_seg dksX1_like_12 23 rfl rfl
theorem dksX1_like_14 : cX1_like.data.toList.drop 331 = dktX1_like_14 := dk_seg dksX1_like_13 24 rfl rfl
theorem dksX1_like_15 : cX1_like.data.toList.drop 355 = dktX1_like_15 := dk_seg dksX1_like_14 24 rfl rfl
theorem dksX1_like_16 : cX1_like.data.toList.drop 377 = dktX1_like_16 := dk_seg dksX1_like_15 22 rfl rfl
theorem dksX1_like_17 : cX1_like.data.toList.drop 401 = dktX1_like_17 := dk_seg dksX1_like_16 24 rfl rfl
theorem dX1_like_0 : decode cX1_like 0 = .ok (.aload_n 0, 1) := dk_42 (dk_at dksX1_like_0 0 rfl rfl)
theorem dX1_like_1 : decode cX1_like 1 = .ok (.aload_n 1, 1) := dk_43 (dk_at dksX1_like_0 1 rfl rfl)
theorem dX1_like_2 : decode cX1_like 2 = .ok (.getfield 71, 3) := dk_180 0 71 (dk_at dksX1_like_0 2 rfl rfl)
theorem dX1_like_5 : decode cX1_like 5 = .ok (.putfield 71, 3) := dk_181 0 71 (dk_at dksX1_like_0 5 rfl rfl)
theorem dX1_like_8 : decode cX1_like 8 = .ok (.aload_n 0, 1) := dk_42 (dk_at dksX1_like_0 8 rfl rfl)
theorem dX1_like_9 : decode cX1_like 9 = .ok (.aload_n 1, 1) := dk_43 (dk_at dksX1_like_0 9 rfl rfl)
theorem dX1_like_10 : decode cX1_like 10 = .ok (.getfield 75, 3) := dk_180 0 75 (dk_at dksX1_like_0 10 rfl rfl)
theorem dX1_like_13 : decode cX1_like 13 = .ok (.putfield 75, 3) := dk_181 0 75 (dk_at dksX1_like_0 13 rfl rfl)
theorem dX1_like_16 : decode cX1_like 16 = .ok (.aload_n 0, 1) := dk_42 (dk_at dksX1_like_0 16 rfl rfl)
theorem dX1_like_17 : decode cX1_like 17 = .ok (.aload_n 1, 1) := dk_43 (dk_at dksX1_like_0 17 rfl rfl)
theorem dX1_like_18 : decode cX1_like 18 = .ok (.getfield 9, 3) := dk_180 0 9 (dk_at dksX1_like_0 18 rfl rfl)
theorem dX1_like_21 : decode cX1_like 21 = .ok (.putfield 9, 3) := dk_181 0 9 (dk_at dksX1_like_0 21 rfl rfl)
theorem dX1_like_24 : decode cX1_like 24 = .ok (.aload_n 0, 1) := dk_42 (dk_at dksX1_like_1 0 rfl rfl)
theorem dX1_like_25 : decode cX1_like 25 = .ok (.aload_n 1, 1) := dk_43 (dk_at dksX1_like_1 1 rfl rfl)
theorem dX1_like_26 : decode cX1_like 26 = .ok (.getfield 15, 3) := dk_180 0 15 (dk_at dksX1_like_1 2 rfl rfl)
theorem dX1_like_29 : decode cX1_like 29 = .ok (.putfield 15, 3) := dk_181 0 15 (dk_at dksX1_like_1 5 rfl rfl)
theorem dX1_like_32 : decode cX1_like 32 = .ok (.aload_n 0, 1) := dk_42 (dk_at dksX1_like_1 8 rfl rfl)
theorem dX1_like_33 : decode cX1_like 33 = .ok (.aload_n 1, 1) := dk_43 (dk_at dksX1_like_1 9 rfl rfl)
theorem dX1_like_34 : decode cX1_like 34 = .ok (.getfield 18, 3) := dk_180 0 18 (dk_at dksX1_like_1 10 rfl rfl)
theorem dX1_like_37 : decode cX1_like 37 = .ok (.putfield 18, 3) := dk_181 0 18 (dk_at dksX1_like_1 13 rfl rfl)
theorem dX1_like_40 : decode cX1_like 40 = .ok (.aload_n 0, 1) := dk_42 (dk_at dksX1_like_1 16 rfl rfl)
theorem dX1_like_41 : decode cX1_like 41 = .ok (.aload_n 1, 1) := dk_43 (dk_at dksX1_like_1 17 rfl rfl)
theorem dX1_like_42 : decode cX1_like 42 = .ok (.getfield 78, 3) := dk_180 0 78 (dk_at dksX1_like_1 18 rfl rfl)
theorem dX1_like_45 : decode cX1_like 45 = .ok (.putfield 78, 3) := dk_181 0 78 (dk_at dksX1_like_1 21 rfl rfl)
theorem dX1_like_48 : decode cX1_like 48 = .ok (.aload_n 0, 1) := dk_42 (dk_at dksX1_like_2 0 rfl rfl)
theorem dX1_like_49 : decode cX1_like 49 = .ok (.aload_n 1, 1) := dk_43 (dk_at dksX1_like_2 1 rfl rfl)
theorem dX1_like_50 : decode cX1_like 50 = .ok (.getfield 81, 3) := dk_180 0 81 (dk_at dksX1_like_2 2 rfl rfl)
theorem dX1_like_53 : decode cX1_like 53 = .ok (.putfield 81, 3) := dk_181 0 81 (dk_at dksX1_like_2 5 rfl rfl)
theorem dX1_like_56 : decode cX1_like 56 = .ok (.aload_n 0, 1) := dk_42 (dk_at dksX1_like_2 8 rfl rfl)
theorem dX1_like_57 : decode cX1_like 57 = .ok (.aload_n 1, 1) := dk_43 (dk_at dksX1_like_2 9 rfl rfl)
theorem dX1_like_58 : decode cX1_like 58 = .ok (.getfield 84, 3) := dk_180 0 84 (dk_at dksX1_like_2 10 rfl rfl)
theorem dX1_like_61 : decode cX1_like 61 = .ok (.putfield 84, 3) := dk_181 0 84 (dk_at dksX1_like_2 13 rfl rfl)
theorem dX1_like_64 : decode cX1_like 64 = .ok (.aload_n 0, 1) := dk_42 (dk_at dksX1_like_2 16 rfl rfl)
theorem dX1_like_65 : decode cX1_like 65 = .ok (.aload_n 1, 1) := dk_43 (dk_at dksX1_like_2 17 rfl rfl)
theorem dX1_like_66 : decode cX1_like 66 = .ok (.getfield 21, 3) := dk_180 0 21 (dk_at dksX1_like_2 18 rfl rfl)
theorem dX1_like_69 : decode cX1_like 69 = .ok (.putfield 21, 3) := dk_181 0 21 (dk_at dksX1_like_2 21 rfl rfl)
theorem dX1_like_72 : decode cX1_like 72 = .ok (.aload_n 0, 1) := dk_42 (dk_at dksX1_like_3 0 rfl rfl)
theorem dX1_like_73 : decode cX1_like 73 = .ok (.aload_n 1, 1) := dk_43 (dk_at dksX1_like_3 1 rfl rfl)
theorem dX1_like_74 : decode cX1_like 74 = .ok (.getfield 24, 3) := dk_180 0 24 (dk_at dksX1_like_3 2 rfl rfl)
theorem dX1_like_77 : decode cX1_like 77 = .ok (.putfield 24, 3) := dk_181 0 24 (dk_at dksX1_like_3 5 rfl rfl)
theorem dX1_like_80 : decode cX1_like 80 = .ok (.aload_n 0, 1) := dk_42 (dk_at dksX1_like_3 8 rfl rfl)
theorem dX1_like_81 : decode cX1_like 81 = .ok (.aload_n 1, 1) := dk_43 (dk_at dksX1_like_3 9 rfl rfl)
theorem dX1_like_82 : decode cX1_like 82 = .ok (.getfield 87, 3) := dk_180 0 87 (dk_at dksX1_like_3 10 rfl rfl)
theorem dX1_like_85 : decode cX1_like 85 = .ok (.putfield 87, 3) := dk_181 0 87 (dk_at dksX1_like_3 13 rfl rfl)
theorem dX1_like_88 : decode cX1_like 88 = .ok (.aload_n 0, 1) := dk_42 (dk_at dksX1_like_3 16 rfl rfl)
theorem dX1_like_89 : decode cX1_like 89 = .ok (.aload_n 1, 1) := dk_43 (dk_at dksX1_like_3 17 rfl rfl)
theorem dX1_like_90 : decode cX1_like 90 = .ok (.getfield 90, 3) := dk_180 0 90 (dk_at dksX1_like_3 18 rfl rfl)
theorem dX1_like_93 : decode cX1_like 93 = .ok (.putfield 90, 3) := dk_181 0 90 (dk_at dksX1_like_3 21 rfl rfl)
theorem dX1_like_96 : decode cX1_like 96 = .ok (.aload_n 0, 1) := dk_42 (dk_at dksX1_like_4 0 rfl rfl)
theorem dX1_like_97 : decode cX1_like 97 = .ok (.aload_n 1, 1) := dk_43 (dk_at dksX1_like_4 1 rfl rfl)
theorem dX1_like_98 : decode cX1_like 98 = .ok (.getfield 93, 3) := dk_180 0 93 (dk_at dksX1_like_4 2 rfl rfl)
theorem dX1_like_101 : decode cX1_like 101 = .ok (.putfield 93, 3) := dk_181 0 93 (dk_at dksX1_like_4 5 rfl rfl)
theorem dX1_like_104 : decode cX1_like 104 = .ok (.aload_n 0, 1) := dk_42 (dk_at dksX1_like_4 8 rfl rfl)
theorem dX1_like_105 : decode cX1_like 105 = .ok (.aload_n 1, 1) := dk_43 (dk_at dksX1_like_4 9 rfl rfl)
theorem dX1_like_106 : decode cX1_like 106 = .ok (.getfield 96, 3) := dk_180 0 96 (dk_at dksX1_like_4 10 rfl rfl)
theorem dX1_like_109 : decode cX1_like 109 = .ok (.putfield 96, 3) := dk_181 0 96 (dk_at dksX1_like_4 13 rfl rfl)
theorem dX1_like_112 : decode cX1_like 112 = .ok (.aload_n 0, 1) := dk_42 (dk_at dksX1_like_4 16 rfl rfl)
theorem dX1_like_113 : decode cX1_like 113 = .ok (.aload_n 1, 1) := dk_43 (dk_at dksX1_like_4 17 rfl rfl)
theorem dX1_like_114 : decode cX1_like 114 = .ok (.getfield 99, 3) := dk_180 0 99 (dk_at dksX1_like_4 18 rfl rfl)
theorem dX1_like_117 : decode cX1_like 117 = .ok (.putfield 99, 3) := dk_181 0 99 (dk_at dksX1_like_4 21 rfl rfl)
theorem dX1_like_120 : decode cX1_like 120 = .ok (.aload_n 0, 1) := dk_42 (dk_at dksX1_like_5 0 rfl rfl)
theorem dX1_like_121 : decode cX1_like 121 = .ok (.aload_n 1, 1) := dk_43 (dk_at dksX1_like_5 1 rfl rfl)
theorem dX1_like_122 : decode cX1_like 122 = .ok (.getfield 102, 3) := dk_180 0 102 (dk_at dksX1_like_5 2 rfl rfl)
theorem dX1_like_125 : decode cX1_like 125 = .ok (.putfield 102, 3) := dk_181 0 102 (dk_at dksX1_like_5 5 rfl rfl)
theorem dX1_like_128 : decode cX1_like 128 = .ok (.aload_n 0, 1) := dk_42 (dk_at dksX1_like_5 8 rfl rfl)
theorem dX1_like_129 : decode cX1_like 129 = .ok (.aload_n 1, 1) := dk_43 (dk_at dksX1_like_5 9 rfl rfl)
theorem dX1_like_130 : decode cX1_like 130 = .ok (.getfield 105, 3) := dk_180 0 105 (dk_at dksX1_like_5 10 rfl rfl)
theorem dX1_like_133 : decode cX1_like 133 = .ok (.putfield 105, 3) := dk_181 0 105 (dk_at dksX1_like_5 13 rfl rfl)
theorem dX1_like_136 : decode cX1_like 136 = .ok (.aload_n 0, 1) := dk_42 (dk_at dksX1_like_5 16 rfl rfl)
theorem dX1_like_137 : decode cX1_like 137 = .ok (.aload_n 1, 1) := dk_43 (dk_at dksX1_like_5 17 rfl rfl)
theorem dX1_like_138 : decode cX1_like 138 = .ok (.getfield 108, 3) := dk_180 0 108 (dk_at dksX1_like_5 18 rfl rfl)
theorem dX1_like_141 : decode cX1_like 141 = .ok (.putfield 108, 3) := dk_181 0 108 (dk_at dksX1_like_5 21 rfl rfl)
theorem dX1_like_144 : decode cX1_like 144 = .ok (.aload_n 0, 1) := dk_42 (dk_at dksX1_like_6 0 rfl rfl)
theorem dX1_like_145 : decode cX1_like 145 = .ok (.aload_n 1, 1) := dk_43 (dk_at dksX1_like_6 1 rfl rfl)
theorem dX1_like_146 : decode cX1_like 146 = .ok (.getfield 111, 3) := dk_180 0 111 (dk_at dksX1_like_6 2 rfl rfl)
theorem dX1_like_149 : decode cX1_like 149 = .ok (.putfield 111, 3) := dk_181 0 111 (dk_at dksX1_like_6 5 rfl rfl)
theorem dX1_like_152 : decode cX1_like 152 = .ok (.aload_n 0, 1) := dk_42 (dk_at dksX1_like_6 8 rfl rfl)
theorem dX1_like_153 : decode cX1_like 153 = .ok (.aload_n 1, 1) := dk_43 (dk_at dksX1_like_6 9 rfl rfl)
theorem dX1_like_154 : decode cX1_like 154 = .ok (.getfield 27, 3) := dk_180 0 27 (dk_at dksX1_like_6 10 rfl rfl)
theorem dX1_like_157 : decode cX1_like 157 = .ok (.putfield 27, 3) := dk_181 0 27 (dk_at dksX1_like_6 13 rfl rfl)
theorem dX1_like_160 : decode cX1_like 160 = .ok (.aload_n 0, 1) := dk_42 (dk_at dksX1_like_6 16 rfl rfl)
theorem dX1_like_161 : decode cX1_like 161 = .ok (.aload_n 1, 1) := dk_43 (dk_at dksX1_like_6 17 rfl rfl)
theorem dX1_like_162 : decode cX1_like 162 = .ok (.getfield 114, 3) := dk_180 0 114 (dk_at dksX1_like_6 18 rfl rfl)
theorem dX1_like_165 : decode cX1_like 165 = .ok (.putfield 114, 3) := dk_181 0 114 (dk_at dksX1_like_6 21 rfl rfl)
theorem dX1_like_168 : decode cX1_like 168 = .ok (.aload_n 0, 1) := dk_42 (dk_at dksX1_like_7 0 rfl rfl)
theorem dX1_like_169 : decode cX1_like 169 = .ok (.aload_n 1, 1) := dk_43 (dk_at dksX1_like_7 1 rfl rfl)
theorem dX1_like_170 : decode cX1_like 170 = .ok (.getfield 117, 3) := dk_180 0 117 (dk_at dksX1_like_7 2 rfl rfl)
theorem dX1_like_173 : decode cX1_like 173 = .ok (.putfield 117, 3) := dk_181 0 117 (dk_at dksX1_like_7 5 rfl rfl)
theorem dX1_like_176 : decode cX1_like 176 = .ok (.iconst 0, 1) := dk_3 (dk_at dksX1_like_7 8 rfl rfl)
theorem dX1_like_177 : decode cX1_like 177 = .ok (.istore_n 2, 1) := dk_61 (dk_at dksX1_like_7 9 rfl rfl)
theorem dX1_like_178 : decode cX1_like 178 = .ok (.iload_n 2, 1) := dk_28 (dk_at dksX1_like_7 10 rfl rfl)
theorem dX1_like_179 : decode cX1_like 179 = .ok (.aload_n 0, 1) := dk_42 (dk_at dksX1_like_7 11 rfl rfl)
theorem dX1_like_180 : decode cX1_like 180 = .ok (.getfield 96, 3) := dk_180 0 96 (dk_at dksX1_like_7 12 rfl rfl)
theorem dX1_like_183 : decode cX1_like 183 = .ok (.if_icmp .ge 24, 3) := dk_162 0 24 (dk_at dksX1_like_7 15 rfl rfl)
theorem dX1_like_186 : decode cX1_like 186 = .ok (.aload_n 0, 1) := dk_42 (dk_at dksX1_like_7 18 rfl rfl)
theorem dX1_like_187 : decode cX1_like 187 = .ok (.getfield 32, 3) := dk_180 0 32 (dk_at dksX1_like_7 19 rfl rfl)
theorem dX1_like_190 : decode cX1_like 190 = .ok (.iload_n 2, 1) := dk_28 (dk_at dksX1_like_7 22 rfl rfl)
theorem dX1_like_191 : decode cX1_like 191 = .ok (.aaload, 1) := dk_50 (dk_at dksX1_like_7 23 rfl rfl)
theorem dX1_like_192 : decode cX1_like 192 = .ok (.aload_n 1, 1) := dk_43 (dk_at dksX1_like_8 0 rfl rfl)
theorem dX1_like_193 : decode cX1_like 193 = .ok (.getfield 32, 3) := dk_180 0 32 (dk_at dksX1_like_8 1 rfl rfl)
theorem dX1_like_196 : decode cX1_like 196 = .ok (.iload_n 2, 1) := dk_28 (dk_at dksX1_like_8 4 rfl rfl)
theorem dX1_like_197 : decode cX1_like 197 = .ok (.aaload, 1) := dk_50 (dk_at dksX1_like_8 5 rfl rfl)
theorem dX1_like_198 : decode cX1_like 198 = .ok (.invokevirtual 120, 3) := dk_182 0 120 (dk_at dksX1_like_8 6 rfl rfl)
theorem dX1_like_201 : decode cX1_like 201 = .ok (.iinc 2 1, 3) := dk_132 2 1 (dk_at dksX1_like_8 9 rfl rfl)
theorem dX1_like_204 : decode cX1_like 204 = .ok (.goto (-26), 3) := dk_167 255 230 (dk_at dksX1_like_8 12 rfl rfl)
theorem dX1_like_207 : decode cX1_like 207 = .ok (.iconst 0, 1) := dk_3 (dk_at dksX1_like_8 15 rfl rfl)
theorem dX1_like_208 : decode cX1_like 208 = .ok (.istore_n 2, 1) := dk_61 (dk_at dksX1_like_8 16 rfl rfl)
theorem dX1_like_209 : decode cX1_like 209 = .ok (.iload_n 2, 1) := dk_28 (dk_at dksX1_like_8 17 rfl rfl)
theorem dX1_like_210 : decode cX1_like 210 = .ok (.aload_n 0, 1) := dk_42 (dk_at dksX1_like_8 18 rfl rfl)
theorem dX1_like_211 : decode cX1_like 211 = .ok (.getfield 99, 3) := dk_180 0 99 (dk_at dksX1_like_8 19 rfl rfl)
theorem dX1_like_214 : decode cX1_like 214 = .ok (.if_icmp .ge 45, 3) := dk_162 0 45 (dk_at dksX1_like_9 0 rfl rfl)
theorem dX1_like_217 : decode cX1_like 217 = .ok (.aload_n 0, 1) := dk_42 (dk_at dksX1_like_9 3 rfl rfl)
theorem dX1_like_218 : decode cX1_like 218 = .ok (.getfield 38, 3) := dk_180 0 38 (dk_at dksX1_like_9 4 rfl rfl)
theorem dX1_like_221 : decode cX1_like 221 = .ok (.iload_n 2, 1) := dk_28 (dk_at dksX1_like_9 7 rfl rfl)
theorem dX1_like_222 : decode cX1_like 222 = .ok (.aaload, 1) := dk_50 (dk_at dksX1_like_9 8 rfl rfl)
theorem dX1_like_223 : decode cX1_like 223 = .ok (.aload_n 1, 1) := dk_43 (dk_at dksX1_like_9 9 rfl rfl)
theorem dX1_like_224 : decode cX1_like 224 = .ok (.getfield 38, 3) := dk_180 0 38 (dk_at dksX1_like_9 10 rfl rfl)
theorem dX1_like_227 : decode cX1_like 227 = .ok (.iload_n 2, 1) := dk_28 (dk_at dksX1_like_9 13 rfl rfl)
theorem dX1_like_228 : decode cX1_like 228 = .ok (.aaload, 1) := dk_50 (dk_at dksX1_like_9 14 rfl rfl)
theorem dX1_like_229 : decode cX1_like 229 = .ok (.getfield 124, 3) := dk_180 0 124 (dk_at dksX1_like_9 15 rfl rfl)
theorem dX1_like_232 : decode cX1_like 232 = .ok (.aload_n 1, 1) := dk_43 (dk_at dksX1_like_9 18 rfl rfl)
theorem dX1_like_233 : decode cX1_like 233 = .ok (.getfield 38, 3) := dk_180 0 38 (dk_at dksX1_like_9 19 rfl rfl)
theorem dX1_like_236 : decode cX1_like 236 = .ok (.iload_n 2, 1) := dk_28 (dk_at dksX1_like_9 22 rfl rfl)
theorem dX1_like_237 : decode cX1_like 237 = .ok (.aaload, 1) := dk_50 (dk_at dksX1_like_9 23 rfl rfl)
theorem dX1_like_238 : decode cX1_like 238 = .ok (.getfield 127, 3) := dk_180 0 127 (dk_at dksX1_like_10 0 rfl rfl)
theorem dX1_like_241 : decode cX1_like 241 = .ok (.aload_n 1, 1) := dk_43 (dk_at dksX1_like_10 3 rfl rfl)
theorem dX1_like_242 : decode cX1_like 242 = .ok (.getfield 38, 3) := dk_180 0 38 (dk_at dksX1_like_10 4 rfl rfl)
theorem dX1_like_245 : decode cX1_like 245 = .ok (.iload_n 2, 1) := dk_28 (dk_at dksX1_like_10 7 rfl rfl)
theorem dX1_like_246 : decode cX1_like 246 = .ok (.aaload, 1) := dk_50 (dk_at dksX1_like_10 8 rfl rfl)
theorem dX1_like_247 : decode cX1_like 247 = .ok (.getfield 130, 3) := dk_180 0 130 (dk_at dksX1_like_10 9 rfl rfl)
theorem dX1_like_250 : decode cX1_like 250 = .ok (.invokevirtual 133, 3) := dk_182 0 133 (dk_at dksX1_like_10 12 rfl rfl)
theorem dX1_like_253 : decode cX1_like 253 = .ok (.iinc 2 1, 3) := dk_132 2 1 (dk_at dksX1_like_10 15 rfl rfl)
theorem dX1_like_256 : decode cX1_like 256 = .ok (.goto (-47), 3) := dk_167 255 209 (dk_at dksX1_like_10 18 rfl rfl)
theorem dX1_like_259 : decode cX1_like 259 = .ok (.iconst 0, 1) := dk_3 (dk_at dksX1_like_10 21 rfl rfl)
theorem dX1_like_260 : decode cX1_like 260 = .ok (.istore_n 2, 1) := dk_61 (dk_at dksX1_like_10 22 rfl rfl)
theorem dX1_like_261 : decode cX1_like 261 = .ok (.iload_n 2, 1) := dk_28 (dk_at dksX1_like_10 23 rfl rfl)
theorem dX1_like_262 : decode cX1_like 262 = .ok (.aload_n 0, 1) := dk_42 (dk_at dksX1_like_11 0 rfl rfl)
theorem dX1_like_263 : decode cX1_like 263 = .ok (.getfield 102, 3) := dk_180 0 102 (dk_at dksX1_like_11 1 rfl rfl)
theorem dX1_like_266 : decode cX1_like 266 = .ok (.if_icmp .ge 24, 3) := dk_162 0 24 (dk_at dksX1_like_11 4 rfl rfl)
theorem dX1_like_269 : decode cX1_like 269 = .ok (.aload_n 0, 1) := dk_42 (dk_at dksX1_like_11 7 rfl rfl)
theorem dX1_like_270 : decode cX1_like 270 = .ok (.getfield 44, 3) := dk_180 0 44 (dk_at dksX1_like_11 8 rfl rfl)
theorem dX1_like_273 : decode cX1_like 273 = .ok (.iload_n 2, 1) := dk_28 (dk_at dksX1_like_11 11 rfl rfl)
theorem dX1_like_274 : decode cX1_like 274 = .ok (.aaload, 1) := dk_50 (dk_at dksX1_like_11 12 rfl rfl)
theorem dX1_like_275 : decode cX1_like 275 = .ok (.aload_n 1, 1) := dk_43 (dk_at dksX1_like_11 13 rfl rfl)
theorem dX1_like_276 : decode cX1_like 276 = .ok (.getfield 44, 3) := dk_180 0 44 (dk_at dksX1_like_11 14 rfl rfl)
theorem dX1_like_279 : decode cX1_like 279 = .ok (.iload_n 2, 1) := dk_28 (dk_at dksX1_like_11 17 rfl rfl)
theorem dX1_like_280 : decode cX1_like 280 = .ok (.aaload, 1) := dk_50 (dk_at dksX1_like_11 18 rfl rfl)
theorem dX1_like_281 : decode cX1_like 281 = .ok (.invokevirtual 137, 3) := dk_182 0 137 (dk_at dksX1_like_11 19 rfl rfl)
theorem dX1_like_284 : decode cX1_like 284 = .ok (.iinc 2 1, 3) := dk_132 2 1 (dk_at dksX1_like_12 0 rfl rfl)
theorem dX1_like_287 : decode cX1_like 287 = .ok (.goto (-26), 3) := dk_167 255 230 (dk_at dksX1_like_12 3 rfl rfl)
theorem dX1_like_290 : decode cX1_like 290 = .ok (.iconst 0, 1) := dk_3 (dk_at dksX1_like_12 6 rfl rfl)
theorem dX1_like_291 : decode cX1_like 291 = .ok (.istore_n 2, 1) := dk_61 (dk_at dksX1_like_12 7 rfl rfl)
theorem dX1_like_292 : decode cX1_like 292 = .ok (.iload_n 2, 1) := dk_28 (dk_at dksX1_like_12 8 rfl rfl)
theorem dX1_like_293 : decode cX1_like 293 = .ok (.aload_n 0, 1) := dk_42 (dk_at dksX1_like_12 9 rfl rfl)
theorem dX1_like_294 : decode cX1_like 294 = .ok (.getfield 108, 3) := dk_180 0 108 (dk_at dksX1_like_12 10 rfl rfl)
theorem dX1_like_297 : decode cX1_like 297 = .ok (.if_icmp .ge 24, 3) := dk_162 0 24 (dk_at dksX1_like_12 13 rfl rfl)
theorem dX1_like_300 : decode cX1_like 300 = .ok (.aload_n 0, 1) := dk_42 (dk_at dksX1_like_12 16 rfl rfl)
theorem dX1_like_301 : decode cX1_like 301 = .ok (.getfield 48, 3) := dk_180 0 48 (dk_at dksX1_like_12 17 rfl rfl)
theorem dX1_like_304 : decode cX1_like 304 = .ok (.iload_n 2, 1) := dk_28 (dk_at dksX1_like_12 20 rfl rfl)
theorem dX1_like_305 : decode cX1_like 305 = .ok (.aaload, 1) := dk_50 (dk_at dksX1_like_12 21 rfl rfl)
theorem dX1_like_306 : decode cX1_like 306 = .ok (.aload_n 1, 1) := dk_43 (dk_at dksX1_like_12 22 rfl rfl)
theorem dX1_like_307 : decode cX1_like 307 = .ok (.getfield 48, 3) := dk_180 0 48 (dk_at dksX1_like_13 0 rfl rfl)
theorem dX1_like_310 : decode cX1_like 310 = .ok (.iload_n 2, 1) := dk_28 (dk_at dksX1_like_13 3 rfl rfl)
theorem dX1_like_311 : decode cX1_like 311 = .ok (.aaload, 1) := dk_50 (dk_at dksX1_like_13 4 rfl rfl)
theorem dX1_like_312 : decode cX1_like 312 = .ok (.invokevirtual 137, 3) := dk_182 0 137 (dk_at dksX1_like_13 5 rfl rfl)
theorem dX1_like_315 : decode cX1_like 315 = .ok (.iinc 2 1, 3) := dk_132 2 1 (dk_at dksX1_like_13 8 rfl rfl)
theorem dX1_like_318 : decode cX1_like 318 = .ok (.goto (-26), 3) := dk_167 255 230 (dk_at dksX1_like_13 11 rfl rfl)
theorem dX1_like_321 : decode cX1_like 321 = .ok (.iconst 0, 1) := dk_3 (dk_at dksX1_like_13 14 rfl rfl)
theorem dX1_like_322 : decode cX1_like 322 = .ok (.istore_n 2, 1) := dk_61 (dk_at dksX1_like_13 15 rfl rfl)
theorem dX1_like_323 : decode cX1_like 323 = .ok (.iload_n 2, 1) := dk_28 (dk_at dksX1_like_13 16 rfl rfl)
theorem dX1_like_324 : decode cX1_like 324 = .ok (.aload_n 0, 1) := dk_42 (dk_at dksX1_like_13 17 rfl rfl)
theorem dX1_like_325 : decode cX1_like 325 = .ok (.getfield 111, 3) := dk_180 0 111 (dk_at dksX1_like_13 18 rfl rfl)
theorem dX1_like_328 : decode cX1_like 328 = .ok (.if_icmp .ge 33, 3) := dk_162 0 33 (dk_at dksX1_like_13 21 rfl rfl)
theorem dX1_like_331 : decode cX1_like 331 = .ok (.aload_n 1, 1) := dk_43 (dk_at dksX1_like_14 0 rfl rfl)
theorem dX1_like_332 : decode cX1_like 332 = .ok (.getfield 53, 3) := dk_180 0 53 (dk_at dksX1_like_14 1 rfl rfl)
theorem dX1_like_335 : decode cX1_like 335 = .ok (.iload_n 2, 1) := dk_28 (dk_at dksX1_like_14 4 rfl rfl)
theorem dX1_like_336 : decode cX1_like 336 = .ok (.aaload, 1) := dk_50 (dk_at dksX1_like_14 5 rfl rfl)
theorem dX1_like_337 : decode cX1_like 337 = .ok (.getfield 140, 3) := dk_180 0 140 (dk_at dksX1_like_14 6 rfl rfl)
theorem dX1_like_340 : decode cX1_like 340 = .ok (.iconst 0, 1) := dk_3 (dk_at dksX1_like_14 9 rfl rfl)
theorem dX1_like_341 : decode cX1_like 341 = .ok (.aload_n 0, 1) := dk_42 (dk_at dksX1_like_14 10 rfl rfl)
theorem dX1_like_342 : decode cX1_like 342 = .ok (.getfield 53, 3) := dk_180 0 53 (dk_at dksX1_like_14 11 rfl rfl)
theorem dX1_like_345 : decode cX1_like 345 = .ok (.iload_n 2, 1) := dk_28 (dk_at dksX1_like_14 14 rfl rfl)
theorem dX1_like_346 : decode cX1_like 346 = .ok (.aaload, 1) := dk_50 (dk_at dksX1_like_14 15 rfl rfl)
theorem dX1_like_347 : decode cX1_like 347 = .ok (.getfield 140, 3) := dk_180 0 140 (dk_at dksX1_like_14 16 rfl rfl)
theorem dX1_like_350 : decode cX1_like 350 = .ok (.iconst 0, 1) := dk_3 (dk_at dksX1_like_14 19 rfl rfl)
theorem dX1_like_351 : decode cX1_like 351 = .ok (.iconst 3, 1) := dk_6 (dk_at dksX1_like_14 20 rfl rfl)
theorem dX1_like_352 : decode cX1_like 352 = .ok (.invokestatic 143, 3) := dk_184 0 143 (dk_at dksX1_like_14 21 rfl rfl)
theorem dX1_like_355 : decode cX1_like 355 = .ok (.iinc 2 1, 3) := dk_132 2 1 (dk_at dksX1_like_15 0 rfl rfl)
theorem dX1_like_358 : decode cX1_like 358 = .ok (.goto (-35), 3) := dk_167 255 221 (dk_at dksX1_like_15 3 rfl rfl)
theorem dX1_like_361 : decode cX1_like 361 = .ok (.aload_n 1, 1) := dk_43 (dk_at dksX1_like_15 6 rfl rfl)
theorem dX1_like_362 : decode cX1_like 362 = .ok (.getfield 57, 3) := dk_180 0 57 (dk_at dksX1_like_15 7 rfl rfl)
theorem dX1_like_365 : decode cX1_like 365 = .ok (.iconst 0, 1) := dk_3 (dk_at dksX1_like_15 10 rfl rfl)
theorem dX1_like_366 : decode cX1_like 366 = .ok (.aload_n 0, 1) := dk_42 (dk_at dksX1_like_15 11 rfl rfl)
theorem dX1_like_367 : decode cX1_like 367 = .ok (.getfield 57, 3) := dk_180 0 57 (dk_at dksX1_like_15 12 rfl rfl)
theorem dX1_like_370 : decode cX1_like 370 = .ok (.iconst 0, 1) := dk_3 (dk_at dksX1_like_15 15 rfl rfl)
theorem dX1_like_371 : decode cX1_like 371 = .ok (.bipush 10, 2) := dk_16 10 (dk_at dksX1_like_15 16 rfl rfl)
theorem dX1_like_373 : decode cX1_like 373 = .ok (.invokestatic 143, 3) := dk_184 0 143 (dk_at dksX1_like_15 18 rfl rfl)
theorem dX1_like_376 : decode cX1_like 376 = .ok (.aload_n 1, 1) := dk_43 (dk_at dksX1_like_15 21 rfl rfl)
theorem dX1_like_377 : decode cX1_like 377 = .ok (.getfield 61, 3) := dk_180 0 61 (dk_at dksX1_like_16 0 rfl rfl)
theorem dX1_like_380 : decode cX1_like 380 = .ok (.iconst 0, 1) := dk_3 (dk_at dksX1_like_16 3 rfl rfl)
theorem dX1_like_381 : decode cX1_like 381 = .ok (.aload_n 0, 1) := dk_42 (dk_at dksX1_like_16 4 rfl rfl)
theorem dX1_like_382 : decode cX1_like 382 = .ok (.getfield 61, 3) := dk_180 0 61 (dk_at dksX1_like_16 5 rfl rfl)
theorem dX1_like_385 : decode cX1_like 385 = .ok (.iconst 0, 1) := dk_3 (dk_at dksX1_like_16 8 rfl rfl)
theorem dX1_like_386 : decode cX1_like 386 = .ok (.bipush 16, 2) := dk_16 16 (dk_at dksX1_like_16 9 rfl rfl)
theorem dX1_like_388 : decode cX1_like 388 = .ok (.invokestatic 143, 3) := dk_184 0 143 (dk_at dksX1_like_16 11 rfl rfl)
theorem dX1_like_391 : decode cX1_like 391 = .ok (.aload_n 1, 1) := dk_43 (dk_at dksX1_like_16 14 rfl rfl)
theorem dX1_like_392 : decode cX1_like 392 = .ok (.getfield 64, 3) := dk_180 0 64 (dk_at dksX1_like_16 15 rfl rfl)
theorem dX1_like_395 : decode cX1_like 395 = .ok (.iconst 0, 1) := dk_3 (dk_at dksX1_like_16 18 rfl rfl)
theorem dX1_like_396 : decode cX1_like 396 = .ok (.aload_n 0, 1) := dk_42 (dk_at dksX1_like_16 19 rfl rfl)
theorem dX1_like_397 : decode cX1_like 397 = .ok (.getfield 64, 3) := dk_180 0 64 (dk_at dksX1_like_16 20 rfl rfl)
theorem dX1_like_400 : decode cX1_like 400 = .ok (.iconst 0, 1) := dk_3 (dk_at dksX1_like_16 23 rfl rfl)
theorem dX1_like_401 : decode cX1_like 401 = .ok (.bipush 64, 2) := dk_16 64 (dk_at dksX1_like_17 0 rfl rfl)
theorem dX1_like_403 : decode cX1_like 403 = .ok (.invokestatic 143, 3) := dk_184 0 143 (dk_at dksX1_like_17 2 rfl rfl)
theorem dX1_like_406 : decode cX1_like 406 = .ok (.aload_n 0, 1) := dk_42 (dk_at dksX1_like_17 5 rfl rfl)
theorem dX1_like_407 : decode cX1_like 407 = .ok (.areturn, 1) := dk_176 (dk_at dksX1_like_17 6 rfl rfl)
abbrev cX1_tunes : ByteArray := prog_20_method_36_code
def yX1_tunes : MethodName := ⟨RX1, "tunes", "(I)I"⟩
def dkwX1_tunes_2 : List UInt8 := [62, 132, 4, 1, 167, 255, 213, 42, 180, 0, 53, 27, 50, 180, 0, 140, 3, 28, 79, 29, 172]
abbrev dktX1_tunes_2 : List UInt8 := dkwX1_tunes_2 ++ []
def dkwX1_tunes_1 : List UInt8 := [180, 0, 140, 3, 21, 4, 79, 42, 182, 1, 66, 54, 5, 21, 5, 29, 164, 0, 9, 21, 4, 61, 21, 5]
abbrev dktX1_tunes_1 : List UInt8 := dkwX1_tunes_1 ++ dktX1_tunes_2
def dkwX1_tunes_0 : List UInt8 := [3, 61, 2, 62, 3, 54, 4, 21, 4, 42, 180, 0, 27, 162, 0, 40, 42, 180, 0, 53, 27, 50]
abbrev dktX1_tunes_0 : List UInt8 := dkwX1_tunes_0 ++ dktX1_tunes_1
theorem dksX1_tunes_0 : cX1_tunes.data.toList.drop 0 = dktX1_tunes_0 := by decide +kernel
theorem dksX1_tunes_1 : cX1_tunes.data.toList.drop 22 = dktX1_tunes_1 := dk_seg dksX1_tunes_0 22 rfl rfl
theorem dksX1_tunes_2 : cX1_tunes.data.toList.drop 46 = dktX1_tunes_2 := dk_seg dksX1_tunes_1 24 rfl rfl
theorem dX1_tunes_0 : decode cX1_tunes 0 = .ok (.iconst 0, 1) := dk_3 (dk_at dksX1_tunes_0 0 rfl rfl)
theorem dX1_tunes_1 : decode cX1_tunes 1 = .ok (.istore_n 2, 1) := dk_61 (dk_at dksX1_tunes_0 1 rfl rfl)
theorem dX1_tunes_2 : decode cX1_tunes 2 = .ok (.iconst (-1), 1) := dk_2 (dk_at dksX1_tunes_0 2 rfl rfl)
theorem dX1_tunes_3 : decode cX1_tunes 3 = .ok (.istore_n 3, 1) := dk_62 (dk_at dksX1_tunes_0 3 rfl rfl)
theorem dX1_tunes_4 : decode cX1_tunes 4 = .ok (.iconst 0, 1) := dk_3 (dk_at dksX1_tunes_0 4 rfl rfl)
theorem dX1_tunes_5 : decode cX1_tunes 5 = .ok (.istore 4, 2) := dk_54 4 (dk_at dksX1_tunes_0 5 rfl rfl)
theorem dX1_tunes_7 : decode cX1_tunes 7 = .ok (.iload 4, 2) := dk_21 4 (dk_at dksX1_tunes_0 7 rfl rfl)
theorem dX1_tunes_9 : decode cX1_tunes 9 = .ok (.aload_n 0, 1) := dk_42 (dk_at dksX1_tunes_0 9 rfl rfl)
theorem dX1_tunes_10 : decode cX1_tunes 10 = .ok (.getfield 27, 3) := dk_180 0 27 (dk_at dksX1_tunes_0 10 rfl rfl)
theorem dX1_tunes_13 : decode cX1_tunes 13 = .ok (.if_icmp .ge 40, 3) := dk_162 0 40 (dk_at dksX1_tunes_0 13 rfl rfl)
theorem dX1_tunes_16 : decode cX1_tunes 16 = .ok (.aload_n 0, 1) := dk_42 (dk_at dksX1_tunes_0 16 rfl rfl)
theorem dX1_tunes_17 : decode cX1_tunes 17 = .ok (.getfield 53, 3) := dk_180 0 53 (dk_at dksX1_tunes_0 17 rfl rfl)
theorem dX1_tunes_20 : decode cX1_tunes 20 = .ok (.iload_n 1, 1) := dk_27 (dk_at dksX1_tunes_0 20 rfl rfl)
theorem dX1_tunes_21 : decode cX1_tunes 21 = .ok (.aaload, 1) := dk_50 (dk_at dksX1_tunes_0 21 rfl rfl)
theorem dX1_tunes_22 : decode cX1_tunes 22 = .ok (.getfield 140, 3) := dk_180 0 140 (dk_at dksX1_tunes_1 0 rfl rfl)
theorem dX1_tunes_25 : decode cX1_tunes 25 = .ok (.iconst 0, 1) := dk_3 (dk_at dksX1_tunes_1 3 rfl rfl)
theorem dX1_tunes_26 : decode cX1_tunes 26 = .ok (.iload 4, 2) := dk_21 4 (dk_at dksX1_tunes_1 4 rfl rfl)
theorem dX1_tunes_28 : decode cX1_tunes 28 = .ok (.iastore, 1) := dk_79 (dk_at dksX1_tunes_1 6 rfl rfl)
theorem dX1_tunes_29 : decode cX1_tunes 29 = .ok (.aload_n 0, 1) := dk_42 (dk_at dksX1_tunes_1 7 rfl rfl)
theorem dX1_tunes_30 : decode cX1_tunes 30 = .ok (.invokevirtual 322, 3) := dk_182 1 66 (dk_at dksX1_tunes_1 8 rfl rfl)
theorem dX1_tunes_33 : decode cX1_tunes 33 = .ok (.istore 5, 2) := dk_54 5 (dk_at dksX1_tunes_1 11 rfl rfl)
theorem dX1_tunes_35 : decode cX1_tunes 35 = .ok (.iload 5, 2) := dk_21 5 (dk_at dksX1_tunes_1 13 rfl rfl)
theorem dX1_tunes_37 : decode cX1_tunes 37 = .ok (.iload_n 3, 1) := dk_29 (dk_at dksX1_tunes_1 15 rfl rfl)
theorem dX1_tunes_38 : decode cX1_tunes 38 = .ok (.if_icmp .le 9, 3) := dk_164 0 9 (dk_at dksX1_tunes_1 16 rfl rfl)
theorem dX1_tunes_41 : decode cX1_tunes 41 = .ok (.iload 4, 2) := dk_21 4 (dk_at dksX1_tunes_1 19 rfl rfl)
theorem dX1_tunes_43 : decode cX1_tunes 43 = .ok (.istore_n 2, 1) := dk_61 (dk_at dksX1_tunes_1 21 rfl rfl)
theorem dX1_tunes_44 : decode cX1_tunes 44 = .ok (.iload 5, 2) := dk_21 5 (dk_at dksX1_tunes_1 22 rfl rfl)
theorem dX1_tunes_46 : decode cX1_tunes 46 = .ok (.istore_n 3, 1) := dk_62 (dk_at dksX1_tunes_2 0 rfl rfl)
theorem dX1_tunes_47 : decode cX1_tunes 47 = .ok (.iinc 4 1, 3) := dk_132 4 1 (dk_at dksX1_tunes_2 1 rfl rfl)
theorem dX1_tunes_50 : decode cX1_tunes 50 = .ok (.goto (-43), 3) := dk_167 255 213 (dk_at dksX1_tunes_2 4 rfl rfl)
theorem dX1_tunes_53 : decode cX1_tunes 53 = .ok (.aload_n 0, 1) := dk_42 (dk_at dksX1_tunes_2 7 rfl rfl)
theorem dX1_tunes_54 : decode cX1_tunes 54 = .ok (.getfield 53, 3) := dk_180 0 53 (dk_at dksX1_tunes_2 8 rfl rfl)
theorem dX1_tunes_57 : decode cX1_tunes 57 = .ok (.iload_n 1, 1) := dk_27 (dk_at dksX1_tunes_2 11 rfl rfl)
theorem dX1_tunes_58 : decode cX1_tunes 58 = .ok (.aaload, 1) := dk_50 (dk_at dksX1_tunes_2 12 rfl rfl)
theorem dX1_tunes_59 : decode cX1_tunes 59 = .ok (.getfield 140, 3) := dk_180 0 140 (dk_at dksX1_tunes_2 13 rfl rfl)
theorem dX1_tunes_62 : decode cX1_tunes 62 = .ok (.iconst 0, 1) := dk_3 (dk_at dksX1_tunes_2 16 rfl rfl)
theorem dX1_tunes_63 : decode cX1_tunes 63 = .ok (.iload_n 2, 1) := dk_28 (dk_at dksX1_tunes_2 17 rfl rfl)
theorem dX1_tunes_64 : decode cX1_tunes 64 = .ok (.iastore, 1) := dk_79 (dk_at dksX1_tunes_2 18 rfl rfl)
theorem dX1_tunes_65 : decode cX1_tunes 65 = .ok (.iload_n 3, 1) := dk_29 (dk_at dksX1_tunes_2 19 rfl rfl)
theorem dX1_tunes_66 : decode cX1_tunes 66 = .ok (.ireturn, 1) := dk_172 (dk_at dksX1_tunes_2 20 rfl rfl)
abbrev cX1_withGap : ByteArray := prog_20_method_31_code
def yX1_withGap : MethodName := ⟨RX1, "withGap", "(I)LSafeClears$World;"⟩
def dkwX1_withGap_1 : List UInt8 := [132, 2, 1, 167, 255, 233, 42, 176]
abbrev dktX1_withGap_1 : List UInt8 := dkwX1_withGap_1 ++ []
def dkwX1_withGap_0 : List UInt8 := [3, 61, 28, 42, 180, 0, 96, 162, 0, 21, 42, 180, 0, 32, 28, 50, 180, 1, 54, 5, 27, 79]
abbrev dktX1_withGap_0 : List UInt8 := dkwX1_withGap_0 ++ dktX1_withGap_1
theorem dksX1_withGap_0 : cX1_withGap.data.toList.drop 0 = dktX1_withGap_0 := by decide +kernel
theorem dksX1_withGap_1 : cX1_withGap.data.toList.drop 22 = dktX1_withGap_1 := dk_seg dksX1_withGap_0 22 rfl rfl
theorem dX1_withGap_0 : decode cX1_withGap 0 = .ok (.iconst 0, 1) := dk_3 (dk_at dksX1_withGap_0 0 rfl rfl)
theorem dX1_withGap_1 : decode cX1_withGap 1 = .ok (.istore_n 2, 1) := dk_61 (dk_at dksX1_withGap_0 1 rfl rfl)
theorem dX1_withGap_2 : decode cX1_withGap 2 = .ok (.iload_n 2, 1) := dk_28 (dk_at dksX1_withGap_0 2 rfl rfl)
theorem dX1_withGap_3 : decode cX1_withGap 3 = .ok (.aload_n 0, 1) := dk_42 (dk_at dksX1_withGap_0 3 rfl rfl)
theorem dX1_withGap_4 : decode cX1_withGap 4 = .ok (.getfield 96, 3) := dk_180 0 96 (dk_at dksX1_withGap_0 4 rfl rfl)
theorem dX1_withGap_7 : decode cX1_withGap 7 = .ok (.if_icmp .ge 21, 3) := dk_162 0 21 (dk_at dksX1_withGap_0 7 rfl rfl)
theorem dX1_withGap_10 : decode cX1_withGap 10 = .ok (.aload_n 0, 1) := dk_42 (dk_at dksX1_withGap_0 10 rfl rfl)
theorem dX1_withGap_11 : decode cX1_withGap 11 = .ok (.getfield 32, 3) := dk_180 0 32 (dk_at dksX1_withGap_0 11 rfl rfl)
theorem dX1_withGap_14 : decode cX1_withGap 14 = .ok (.iload_n 2, 1) := dk_28 (dk_at dksX1_withGap_0 14 rfl rfl)
theorem dX1_withGap_15 : decode cX1_withGap 15 = .ok (.aaload, 1) := dk_50 (dk_at dksX1_withGap_0 15 rfl rfl)
theorem dX1_withGap_16 : decode cX1_withGap 16 = .ok (.getfield 310, 3) := dk_180 1 54 (dk_at dksX1_withGap_0 16 rfl rfl)
theorem dX1_withGap_19 : decode cX1_withGap 19 = .ok (.iconst 2, 1) := dk_5 (dk_at dksX1_withGap_0 19 rfl rfl)
theorem dX1_withGap_20 : decode cX1_withGap 20 = .ok (.iload_n 1, 1) := dk_27 (dk_at dksX1_withGap_0 20 rfl rfl)
theorem dX1_withGap_21 : decode cX1_withGap 21 = .ok (.iastore, 1) := dk_79 (dk_at dksX1_withGap_0 21 rfl rfl)
theorem dX1_withGap_22 : decode cX1_withGap 22 = .ok (.iinc 2 1, 3) := dk_132 2 1 (dk_at dksX1_withGap_1 0 rfl rfl)
theorem dX1_withGap_25 : decode cX1_withGap 25 = .ok (.goto (-23), 3) := dk_167 255 233 (dk_at dksX1_withGap_1 3 rfl rfl)
theorem dX1_withGap_28 : decode cX1_withGap 28 = .ok (.aload_n 0, 1) := dk_42 (dk_at dksX1_withGap_1 6 rfl rfl)
theorem dX1_withGap_29 : decode cX1_withGap 29 = .ok (.areturn, 1) := dk_176 (dk_at dksX1_withGap_1 7 rfl rfl)
theorem q93 : (Jvm.Cond.initialized "SafeClears$World") ∈ lw_all := lw_g (lw_at lw_m1 2 rfl) rfl
theorem q141 : (Jvm.Cond.instantiable "SafeClears$World" (30 : Nat)) ∈ lw_all := lw_g (lw_at lw_m1 50 rfl) rfl
theorem q143 : (Jvm.Cond.instanceMethod ({ cls := "SafeClears$World", name := "<init>", desc := "()V" } : Jvm.MethodName)) ∈ lw_all := lw_g (lw_at lw_m1 52 rfl) rfl
theorem q144 : (Jvm.Cond.code ({ cls := "SafeClears$World", name := "<init>", desc := "()V" } : Jvm.MethodName) prog_20_method_1_code (2 : Nat) (Option.none : Option Jvm.ClassFile.FieldType)) ∈ lw_all := lw_g (lw_at lw_m1 53 rfl) rfl
theorem q145 : (Jvm.Cond.methodLink "SafeClears$World" (3 : Nat) ({ cls := "java/lang/Object", name := "<init>", desc := "()V" } : Jvm.MethodName)) ∈ lw_all := lw_g (lw_at lw_m1 54 rfl) rfl
theorem q146 : (Jvm.Cond.classLink "SafeClears$World" (30 : Nat) "SafeClears$Signal") ∈ lw_all := lw_g (lw_at lw_m1 55 rfl) rfl
theorem q148 : (Jvm.Cond.classLink "SafeClears$World" (36 : Nat) "SafeClears$Phase") ∈ lw_all := lw_g (lw_at lw_m1 57 rfl) rfl
theorem q150 : (Jvm.Cond.classLink "SafeClears$World" (42 : Nat) "SafeClears$Green") ∈ lw_all := lw_g (lw_at lw_m1 59 rfl) rfl
theorem q152 : (Jvm.Cond.classLink "SafeClears$World" (51 : Nat) "SafeClears$Node") ∈ lw_all := lw_g (lw_at lw_m1 61 rfl) rfl
theorem q155 : (Jvm.Cond.methodLink "SafeClears$World" (67 : Nat) ({ cls := "SafeClears$Signal", name := "<init>", desc := "()V" } : Jvm.MethodName)) ∈ lw_all := lw_g (lw_at lw_m1 64 rfl) rfl
theorem q509 : (Jvm.Cond.fieldLinkNest "SafeClears$World" (150 : Nat) "SafeClears$Signal" "kind" "LSafeClears$Kind;" "SafeClears") ∈ lw_tbl := lw_at lw_m2 178 rfl
theorem q512 : (Jvm.Cond.fieldLinkNest "SafeClears$World" (162 : Nat) "SafeClears$Signal" "cells" "[I" "SafeClears") ∈ lw_tbl := lw_at lw_m2 181 rfl
theorem q515 : (Jvm.Cond.fieldLinkNest "SafeClears$World" (172 : Nat) "SafeClears$Signal" "way" "Ljava/util/BitSet;" "SafeClears") ∈ lw_tbl := lw_at lw_m2 184 rfl
theorem q521 : (Jvm.Cond.fieldLinkNest "SafeClears$World" (310 : Nat) "SafeClears$Signal" "times" "[I" "SafeClears") ∈ lw_tbl := lw_at lw_m2 190 rfl
theorem q523 : (Jvm.Cond.fieldLinkNest "SafeClears$World" (169 : Nat) "SafeClears$Signal" "many" "I" "SafeClears") ∈ lw_tbl := lw_at lw_m2 192 rfl
theorem q527 : (Jvm.Cond.fieldLinkNest "SafeClears$World" (229 : Nat) "SafeClears$Signal" "queue" "I" "SafeClears") ∈ lw_tbl := lw_at lw_m2 196 rfl
theorem q530 : (Jvm.Cond.fieldLinkNest "SafeClears$World" (246 : Nat) "SafeClears$Signal" "isGreen" "Z" "SafeClears") ∈ lw_tbl := lw_at lw_m2 199 rfl
theorem q533 : (Jvm.Cond.fieldLinkNest "SafeClears$World" (239 : Nat) "SafeClears$Signal" "began" "I" "SafeClears") ∈ lw_tbl := lw_at lw_m2 202 rfl
theorem q536 : (Jvm.Cond.fieldLinkNest "SafeClears$World" (242 : Nat) "SafeClears$Signal" "ended" "I" "SafeClears") ∈ lw_tbl := lw_at lw_m2 205 rfl
theorem q539 : (Jvm.Cond.fieldLinkNest "SafeClears$World" (236 : Nat) "SafeClears$Signal" "seen" "I" "SafeClears") ∈ lw_tbl := lw_at lw_m2 208 rfl
theorem q542 : (Jvm.Cond.fieldLinkNest "SafeClears$World" (294 : Nat) "SafeClears$Signal" "served" "I" "SafeClears") ∈ lw_tbl := lw_at lw_m2 211 rfl
theorem q545 : (Jvm.Cond.fieldLinkNest "SafeClears$World" (288 : Nat) "SafeClears$Signal" "greens" "I" "SafeClears") ∈ lw_tbl := lw_at lw_m2 214 rfl
theorem q573 : (Jvm.Cond.methodLinkNest "SafeClears$World" (68 : Nat) ({ cls := "SafeClears$Phase", name := "<init>", desc := "()V" } : Jvm.MethodName) "SafeClears") ∈ lw_tbl := lw_at lw_m3 2 rfl
theorem q578 : (Jvm.Cond.fieldLinkNest "SafeClears$World" (124 : Nat) "SafeClears$Phase" "set" "I" "SafeClears") ∈ lw_tbl := lw_at lw_m3 7 rfl
theorem q580 : (Jvm.Cond.fieldLinkNest "SafeClears$World" (127 : Nat) "SafeClears$Phase" "force" "I" "SafeClears") ∈ lw_tbl := lw_at lw_m3 9 rfl
theorem q583 : (Jvm.Cond.fieldLinkNest "SafeClears$World" (130 : Nat) "SafeClears$Phase" "ons" "I" "SafeClears") ∈ lw_tbl := lw_at lw_m3 12 rfl
theorem q594 : (Jvm.Cond.methodLinkNest "SafeClears$World" (69 : Nat) ({ cls := "SafeClears$Green", name := "<init>", desc := "()V" } : Jvm.MethodName) "SafeClears") ∈ lw_tbl := lw_at lw_m3 23 rfl
theorem q612 : (Jvm.Cond.methodLinkNest "SafeClears$World" (70 : Nat) ({ cls := "SafeClears$Node", name := "<init>", desc := "()V" } : Jvm.MethodName) "SafeClears") ∈ lw_tbl := lw_at lw_m3 41 rfl
theorem q617 : (Jvm.Cond.fieldLinkNest "SafeClears$World" (140 : Nat) "SafeClears$Node" "told" "[I" "SafeClears") ∈ lw_tbl := lw_at lw_m3 46 rfl
theorem q622 : (Jvm.Cond.fieldLink "SafeClears$World" (71 : Nat) "SafeClears$World" "isStarted" "Z") ∈ lw_all := lw_g (lw_at lw_m3 51 rfl) rfl
theorem q624 : (Jvm.Cond.fieldLink "SafeClears$World" (75 : Nat) "SafeClears$World" "second" "I") ∈ lw_all := lw_g (lw_at lw_m3 53 rfl) rfl
theorem q626 : (Jvm.Cond.fieldLink "SafeClears$World" (9 : Nat) "SafeClears$World" "on" "I") ∈ lw_all := lw_g (lw_at lw_m3 55 rfl) rfl
theorem q628 : (Jvm.Cond.fieldLink "SafeClears$World" (15 : Nat) "SafeClears$World" "cut" "I") ∈ lw_all := lw_g (lw_at lw_m3 57 rfl) rfl
theorem q630 : (Jvm.Cond.fieldLink "SafeClears$World" (18 : Nat) "SafeClears$World" "emergency" "I") ∈ lw_all := lw_g (lw_at lw_m3 59 rfl) rfl
theorem q632 : (Jvm.Cond.fieldLink "SafeClears$World" (78 : Nat) "SafeClears$World" "waited" "I") ∈ lw_all := lw_g (lw_at lw_m3 61 rfl) rfl
theorem q634 : (Jvm.Cond.fieldLink "SafeClears$World" (81 : Nat) "SafeClears$World" "served" "I") ∈ lw_all := lw_g (lw_at lw_m3 63 rfl) rfl
theorem q636 : (Jvm.Cond.fieldLink "SafeClears$World" (84 : Nat) "SafeClears$World" "lost" "I") ∈ lw_all := lw_g (lw_at lw_m3 65 rfl) rfl
theorem q638 : (Jvm.Cond.fieldLink "SafeClears$World" (21 : Nat) "SafeClears$World" "seed" "I") ∈ lw_all := lw_g (lw_at lw_m3 67 rfl) rfl
theorem q640 : (Jvm.Cond.fieldLink "SafeClears$World" (24 : Nat) "SafeClears$World" "safety" "I") ∈ lw_all := lw_g (lw_at lw_m3 69 rfl) rfl
theorem q642 : (Jvm.Cond.fieldLink "SafeClears$World" (87 : Nat) "SafeClears$World" "cycle" "I") ∈ lw_all := lw_g (lw_at lw_m3 71 rfl) rfl
theorem q644 : (Jvm.Cond.fieldLink "SafeClears$World" (90 : Nat) "SafeClears$World" "offset" "I") ∈ lw_all := lw_g (lw_at lw_m3 73 rfl) rfl
theorem q646 : (Jvm.Cond.fieldLink "SafeClears$World" (93 : Nat) "SafeClears$World" "split" "I") ∈ lw_all := lw_g (lw_at lw_m3 75 rfl) rfl
theorem q648 : (Jvm.Cond.fieldLink "SafeClears$World" (96 : Nat) "SafeClears$World" "signalMany" "I") ∈ lw_all := lw_g (lw_at lw_m3 77 rfl) rfl
theorem q650 : (Jvm.Cond.fieldLink "SafeClears$World" (99 : Nat) "SafeClears$World" "phaseMany" "I") ∈ lw_all := lw_g (lw_at lw_m3 79 rfl) rfl
theorem q652 : (Jvm.Cond.fieldLink "SafeClears$World" (102 : Nat) "SafeClears$World" "recordMany" "I") ∈ lw_all := lw_g (lw_at lw_m3 81 rfl) rfl
theorem q654 : (Jvm.Cond.fieldLink "SafeClears$World" (105 : Nat) "SafeClears$World" "recordAt" "I") ∈ lw_all := lw_g (lw_at lw_m3 83 rfl) rfl
theorem q655 : (Jvm.Cond.fieldLink "SafeClears$World" (108 : Nat) "SafeClears$World" "toldMany" "I") ∈ lw_all := lw_g (lw_at lw_m3 84 rfl) rfl
theorem q657 : (Jvm.Cond.fieldLink "SafeClears$World" (111 : Nat) "SafeClears$World" "nodeMany" "I") ∈ lw_all := lw_g (lw_at lw_m3 86 rfl) rfl
theorem q659 : (Jvm.Cond.fieldLink "SafeClears$World" (27 : Nat) "SafeClears$World" "round" "I") ∈ lw_all := lw_g (lw_at lw_m3 88 rfl) rfl
theorem q661 : (Jvm.Cond.fieldLink "SafeClears$World" (114 : Nat) "SafeClears$World" "noteMany" "I") ∈ lw_all := lw_g (lw_at lw_m3 90 rfl) rfl
theorem q663 : (Jvm.Cond.fieldLink "SafeClears$World" (117 : Nat) "SafeClears$World" "planMany" "I") ∈ lw_all := lw_g (lw_at lw_m3 92 rfl) rfl
theorem q665 : (Jvm.Cond.fieldLink "SafeClears$World" (32 : Nat) "SafeClears$World" "signals" "[LSafeClears$Signal;") ∈ lw_all := lw_g (lw_at lw_m3 94 rfl) rfl
theorem q667 : (Jvm.Cond.fieldLink "SafeClears$World" (38 : Nat) "SafeClears$World" "phases" "[LSafeClears$Phase;") ∈ lw_all := lw_g (lw_at lw_m3 96 rfl) rfl
theorem q669 : (Jvm.Cond.fieldLink "SafeClears$World" (44 : Nat) "SafeClears$World" "record" "[LSafeClears$Green;") ∈ lw_all := lw_g (lw_at lw_m3 98 rfl) rfl
theorem q671 : (Jvm.Cond.fieldLink "SafeClears$World" (48 : Nat) "SafeClears$World" "tolds" "[LSafeClears$Green;") ∈ lw_all := lw_g (lw_at lw_m3 100 rfl) rfl
theorem q673 : (Jvm.Cond.fieldLink "SafeClears$World" (53 : Nat) "SafeClears$World" "nodes" "[LSafeClears$Node;") ∈ lw_all := lw_g (lw_at lw_m3 102 rfl) rfl
theorem q675 : (Jvm.Cond.fieldLink "SafeClears$World" (57 : Nat) "SafeClears$World" "notes" "[I") ∈ lw_all := lw_g (lw_at lw_m3 104 rfl) rfl
theorem q677 : (Jvm.Cond.fieldLink "SafeClears$World" (61 : Nat) "SafeClears$World" "plans" "[I") ∈ lw_all := lw_g (lw_at lw_m3 106 rfl) rfl
theorem q679 : (Jvm.Cond.fieldLink "SafeClears$World" (64 : Nat) "SafeClears$World" "clears" "[I") ∈ lw_all := lw_g (lw_at lw_m3 108 rfl) rfl
theorem q680 : (Jvm.Cond.lays "SafeClears$World" "SafeClears$World" "isStarted" "Z") ∈ lw_all := lw_g (lw_at lw_m3 109 rfl) rfl
theorem q681 : (Jvm.Cond.soleField "SafeClears$World" "isStarted") ∈ lw_all := lw_g (lw_at lw_m3 110 rfl) rfl
theorem q682 : (Jvm.Cond.lays "SafeClears$World" "SafeClears$World" "second" "I") ∈ lw_all := lw_g (lw_at lw_m3 111 rfl) rfl
theorem q683 : (Jvm.Cond.soleField "SafeClears$World" "second") ∈ lw_all := lw_g (lw_at lw_m3 112 rfl) rfl
theorem q684 : (Jvm.Cond.lays "SafeClears$World" "SafeClears$World" "on" "I") ∈ lw_all := lw_g (lw_at lw_m3 113 rfl) rfl
theorem q685 : (Jvm.Cond.soleField "SafeClears$World" "on") ∈ lw_all := lw_g (lw_at lw_m3 114 rfl) rfl
theorem q686 : (Jvm.Cond.lays "SafeClears$World" "SafeClears$World" "cut" "I") ∈ lw_all := lw_g (lw_at lw_m3 115 rfl) rfl
theorem q687 : (Jvm.Cond.soleField "SafeClears$World" "cut") ∈ lw_all := lw_g (lw_at lw_m3 116 rfl) rfl
theorem q688 : (Jvm.Cond.lays "SafeClears$World" "SafeClears$World" "emergency" "I") ∈ lw_all := lw_g (lw_at lw_m3 117 rfl) rfl
theorem q689 : (Jvm.Cond.soleField "SafeClears$World" "emergency") ∈ lw_all := lw_g (lw_at lw_m3 118 rfl) rfl
theorem q690 : (Jvm.Cond.lays "SafeClears$World" "SafeClears$World" "waited" "I") ∈ lw_all := lw_g (lw_at lw_m3 119 rfl) rfl
theorem q691 : (Jvm.Cond.soleField "SafeClears$World" "waited") ∈ lw_all := lw_g (lw_at lw_m3 120 rfl) rfl
theorem q692 : (Jvm.Cond.lays "SafeClears$World" "SafeClears$World" "served" "I") ∈ lw_all := lw_g (lw_at lw_m3 121 rfl) rfl
theorem q693 : (Jvm.Cond.soleField "SafeClears$World" "served") ∈ lw_all := lw_g (lw_at lw_m3 122 rfl) rfl
theorem q694 : (Jvm.Cond.lays "SafeClears$World" "SafeClears$World" "lost" "I") ∈ lw_all := lw_g (lw_at lw_m3 123 rfl) rfl
theorem q695 : (Jvm.Cond.soleField "SafeClears$World" "lost") ∈ lw_all := lw_g (lw_at lw_m3 124 rfl) rfl
theorem q696 : (Jvm.Cond.lays "SafeClears$World" "SafeClears$World" "seed" "I") ∈ lw_all := lw_g (lw_at lw_m3 125 rfl) rfl
theorem q697 : (Jvm.Cond.soleField "SafeClears$World" "seed") ∈ lw_all := lw_g (lw_at lw_m3 126 rfl) rfl
theorem q698 : (Jvm.Cond.lays "SafeClears$World" "SafeClears$World" "safety" "I") ∈ lw_all := lw_g (lw_at lw_m3 127 rfl) rfl
theorem q699 : (Jvm.Cond.soleField "SafeClears$World" "safety") ∈ lw_all := lw_g (lw_at lw_m3 128 rfl) rfl
theorem q700 : (Jvm.Cond.lays "SafeClears$World" "SafeClears$World" "cycle" "I") ∈ lw_all := lw_g (lw_at lw_m3 129 rfl) rfl
theorem q701 : (Jvm.Cond.soleField "SafeClears$World" "cycle") ∈ lw_all := lw_g (lw_at lw_m3 130 rfl) rfl
theorem q702 : (Jvm.Cond.lays "SafeClears$World" "SafeClears$World" "offset" "I") ∈ lw_all := lw_g (lw_at lw_m3 131 rfl) rfl
theorem q703 : (Jvm.Cond.soleField "SafeClears$World" "offset") ∈ lw_all := lw_g (lw_at lw_m3 132 rfl) rfl
theorem q704 : (Jvm.Cond.lays "SafeClears$World" "SafeClears$World" "split" "I") ∈ lw_all := lw_g (lw_at lw_m3 133 rfl) rfl
theorem q705 : (Jvm.Cond.soleField "SafeClears$World" "split") ∈ lw_all := lw_g (lw_at lw_m3 134 rfl) rfl
theorem q706 : (Jvm.Cond.lays "SafeClears$World" "SafeClears$World" "signalMany" "I") ∈ lw_all := lw_g (lw_at lw_m3 135 rfl) rfl
theorem q707 : (Jvm.Cond.soleField "SafeClears$World" "signalMany") ∈ lw_all := lw_g (lw_at lw_m3 136 rfl) rfl
theorem q708 : (Jvm.Cond.lays "SafeClears$World" "SafeClears$World" "phaseMany" "I") ∈ lw_all := lw_g (lw_at lw_m3 137 rfl) rfl
theorem q709 : (Jvm.Cond.soleField "SafeClears$World" "phaseMany") ∈ lw_all := lw_g (lw_at lw_m3 138 rfl) rfl
theorem q710 : (Jvm.Cond.lays "SafeClears$World" "SafeClears$World" "recordMany" "I") ∈ lw_all := lw_g (lw_at lw_m3 139 rfl) rfl
theorem q711 : (Jvm.Cond.soleField "SafeClears$World" "recordMany") ∈ lw_all := lw_g (lw_at lw_m3 140 rfl) rfl
theorem q712 : (Jvm.Cond.lays "SafeClears$World" "SafeClears$World" "recordAt" "I") ∈ lw_all := lw_g (lw_at lw_m3 141 rfl) rfl
theorem q713 : (Jvm.Cond.soleField "SafeClears$World" "recordAt") ∈ lw_all := lw_g (lw_at lw_m3 142 rfl) rfl
theorem q714 : (Jvm.Cond.lays "SafeClears$World" "SafeClears$World" "toldMany" "I") ∈ lw_all := lw_g (lw_at lw_m3 143 rfl) rfl
theorem q715 : (Jvm.Cond.soleField "SafeClears$World" "toldMany") ∈ lw_all := lw_g (lw_at lw_m3 144 rfl) rfl
theorem q716 : (Jvm.Cond.lays "SafeClears$World" "SafeClears$World" "nodeMany" "I") ∈ lw_all := lw_g (lw_at lw_m3 145 rfl) rfl
theorem q717 : (Jvm.Cond.soleField "SafeClears$World" "nodeMany") ∈ lw_all := lw_g (lw_at lw_m3 146 rfl) rfl
theorem q718 : (Jvm.Cond.lays "SafeClears$World" "SafeClears$World" "round" "I") ∈ lw_all := lw_g (lw_at lw_m3 147 rfl) rfl
theorem q719 : (Jvm.Cond.soleField "SafeClears$World" "round") ∈ lw_all := lw_g (lw_at lw_m3 148 rfl) rfl
theorem q720 : (Jvm.Cond.lays "SafeClears$World" "SafeClears$World" "noteMany" "I") ∈ lw_all := lw_g (lw_at lw_m3 149 rfl) rfl
theorem q721 : (Jvm.Cond.soleField "SafeClears$World" "noteMany") ∈ lw_all := lw_g (lw_at lw_m3 150 rfl) rfl
theorem q722 : (Jvm.Cond.lays "SafeClears$World" "SafeClears$World" "planMany" "I") ∈ lw_all := lw_g (lw_at lw_m3 151 rfl) rfl
theorem q723 : (Jvm.Cond.soleField "SafeClears$World" "planMany") ∈ lw_all := lw_g (lw_at lw_m3 152 rfl) rfl
theorem q724 : (Jvm.Cond.laysFinal "SafeClears$World" "SafeClears$World" "signals" "[LSafeClears$Signal;") ∈ lw_all := lw_g (lw_at lw_m3 153 rfl) rfl
theorem q725 : (Jvm.Cond.soleField "SafeClears$World" "signals") ∈ lw_all := lw_g (lw_at lw_m3 154 rfl) rfl
theorem q726 : (Jvm.Cond.laysFinal "SafeClears$World" "SafeClears$World" "phases" "[LSafeClears$Phase;") ∈ lw_all := lw_g (lw_at lw_m3 155 rfl) rfl
theorem q727 : (Jvm.Cond.soleField "SafeClears$World" "phases") ∈ lw_all := lw_g (lw_at lw_m3 156 rfl) rfl
theorem q728 : (Jvm.Cond.laysFinal "SafeClears$World" "SafeClears$World" "record" "[LSafeClears$Green;") ∈ lw_all := lw_g (lw_at lw_m3 157 rfl) rfl
theorem q729 : (Jvm.Cond.soleField "SafeClears$World" "record") ∈ lw_all := lw_g (lw_at lw_m3 158 rfl) rfl
theorem q730 : (Jvm.Cond.laysFinal "SafeClears$World" "SafeClears$World" "tolds" "[LSafeClears$Green;") ∈ lw_all := lw_g (lw_at lw_m3 159 rfl) rfl
theorem q731 : (Jvm.Cond.soleField "SafeClears$World" "tolds") ∈ lw_all := lw_g (lw_at lw_m3 160 rfl) rfl
theorem q732 : (Jvm.Cond.laysFinal "SafeClears$World" "SafeClears$World" "nodes" "[LSafeClears$Node;") ∈ lw_all := lw_g (lw_at lw_m3 161 rfl) rfl
theorem q733 : (Jvm.Cond.soleField "SafeClears$World" "nodes") ∈ lw_all := lw_g (lw_at lw_m3 162 rfl) rfl
theorem q734 : (Jvm.Cond.laysFinal "SafeClears$World" "SafeClears$World" "notes" "[I") ∈ lw_all := lw_g (lw_at lw_m3 163 rfl) rfl
theorem q735 : (Jvm.Cond.soleField "SafeClears$World" "notes") ∈ lw_all := lw_g (lw_at lw_m3 164 rfl) rfl
theorem q736 : (Jvm.Cond.laysFinal "SafeClears$World" "SafeClears$World" "plans" "[I") ∈ lw_all := lw_g (lw_at lw_m3 165 rfl) rfl
theorem q737 : (Jvm.Cond.soleField "SafeClears$World" "plans") ∈ lw_all := lw_g (lw_at lw_m3 166 rfl) rfl
theorem q738 : (Jvm.Cond.laysFinal "SafeClears$World" "SafeClears$World" "clears" "[I") ∈ lw_all := lw_g (lw_at lw_m3 167 rfl) rfl
theorem q739 : (Jvm.Cond.soleField "SafeClears$World" "clears") ∈ lw_all := lw_g (lw_at lw_m3 168 rfl) rfl
theorem q740 : (Jvm.Cond.superclass "SafeClears$World" "java/lang/Object") ∈ lw_all := lw_g (lw_at lw_m3 169 rfl) rfl
theorem q904 : (Jvm.Cond.instanceMethod ({ cls := "SafeClears$World", name := "settles", desc := "()V" } : Jvm.MethodName)) ∈ lw_all := lw_g (lw_at lw_m4 93 rfl) rfl
theorem q905 : (Jvm.Cond.selects "SafeClears$World" ({ cls := "SafeClears$World", name := "settles", desc := "()V" } : Jvm.MethodName) ({ cls := "SafeClears$World", name := "settles", desc := "()V" } : Jvm.MethodName)) ∈ lw_all := lw_g (lw_at lw_m4 94 rfl) rfl
theorem q906 : (Jvm.Cond.code ({ cls := "SafeClears$World", name := "settles", desc := "()V" } : Jvm.MethodName) prog_20_method_6_code (6 : Nat) (Option.none : Option Jvm.ClassFile.FieldType)) ∈ lw_all := lw_g (lw_at lw_m4 95 rfl) rfl
theorem q907 : (Jvm.Cond.methodLink "SafeClears$World" (186 : Nat) ({ cls := "java/util/BitSet", name := "intersects", desc := "(Ljava/util/BitSet;)Z" } : Jvm.MethodName)) ∈ lw_all := lw_g (lw_at lw_m4 96 rfl) rfl
theorem q912 : (Jvm.Cond.methodLink "SafeClears$World" (190 : Nat) ({ cls := "SafeClears$World", name := "narrowOf", desc := "(LSafeClears$Signal;LSafeClears$Signal;)I" } : Jvm.MethodName)) ∈ lw_all := lw_g (lw_at lw_m4 101 rfl) rfl
theorem q913 : (Jvm.Cond.static ({ cls := "SafeClears$World", name := "narrowOf", desc := "(LSafeClears$Signal;LSafeClears$Signal;)I" } : Jvm.MethodName)) ∈ lw_all := lw_g (lw_at lw_m4 102 rfl) rfl
theorem q914 : (Jvm.Cond.code ({ cls := "SafeClears$World", name := "narrowOf", desc := "(LSafeClears$Signal;LSafeClears$Signal;)I" } : Jvm.MethodName) prog_20_method_5_code (4 : Nat) (Option.some Jvm.ClassFile.FieldType.int)) ∈ lw_all := lw_g (lw_at lw_m4 103 rfl) rfl
theorem q915 : (Jvm.Cond.methodLink "SafeClears$World" (176 : Nat) ({ cls := "java/util/BitSet", name := "get", desc := "(I)Z" } : Jvm.MethodName)) ∈ lw_all := lw_g (lw_at lw_m4 104 rfl) rfl
theorem q919 : (Jvm.Cond.methodLink "SafeClears$World" (182 : Nat) ({ cls := "SafeClears$World", name := "clearAt", desc := "(LSafeClears$Signal;ILSafeClears$Signal;)I" } : Jvm.MethodName)) ∈ lw_all := lw_g (lw_at lw_m4 108 rfl) rfl
theorem q920 : (Jvm.Cond.static ({ cls := "SafeClears$World", name := "clearAt", desc := "(LSafeClears$Signal;ILSafeClears$Signal;)I" } : Jvm.MethodName)) ∈ lw_all := lw_g (lw_at lw_m4 109 rfl) rfl
theorem q921 : (Jvm.Cond.code ({ cls := "SafeClears$World", name := "clearAt", desc := "(LSafeClears$Signal;ILSafeClears$Signal;)I" } : Jvm.MethodName) prog_20_method_4_code (3 : Nat) (Option.some Jvm.ClassFile.FieldType.int)) ∈ lw_all := lw_g (lw_at lw_m4 110 rfl) rfl
theorem q922 : (Jvm.Cond.methodLink "SafeClears$World" (165 : Nat) ({ cls := "SafeClears$Signal", name := "placeOf", desc := "(I)I" } : Jvm.MethodName)) ∈ lw_all := lw_g (lw_at lw_m4 111 rfl) rfl
theorem q926 : (Jvm.Cond.methodLink "SafeClears$World" (194 : Nat) ({ cls := "java/lang/Math", name := "max", desc := "(II)I" } : Jvm.MethodName)) ∈ lw_all := lw_g (lw_at lw_m4 115 rfl) rfl
theorem q1071 : (Jvm.Cond.instanceMethod ({ cls := "SafeClears$World", name := "meets", desc := "(I)I" } : Jvm.MethodName)) ∈ lw_all := lw_g (lw_at lw_m5 20 rfl) rfl
theorem q1072 : (Jvm.Cond.selects "SafeClears$World" ({ cls := "SafeClears$World", name := "meets", desc := "(I)I" } : Jvm.MethodName) ({ cls := "SafeClears$World", name := "meets", desc := "(I)I" } : Jvm.MethodName)) ∈ lw_all := lw_g (lw_at lw_m5 21 rfl) rfl
theorem q1073 : (Jvm.Cond.code ({ cls := "SafeClears$World", name := "meets", desc := "(I)I" } : Jvm.MethodName) prog_20_method_9_code (4 : Nat) (Option.some Jvm.ClassFile.FieldType.int)) ∈ lw_all := lw_g (lw_at lw_m5 22 rfl) rfl
theorem q1074 : (Jvm.Cond.methodLink "SafeClears$World" (203 : Nat) ({ cls := "SafeClears$World", name := "meet", desc := "(II)Z" } : Jvm.MethodName)) ∈ lw_all := lw_g (lw_at lw_m5 23 rfl) rfl
theorem q1075 : (Jvm.Cond.instanceMethod ({ cls := "SafeClears$World", name := "meet", desc := "(II)Z" } : Jvm.MethodName)) ∈ lw_all := lw_g (lw_at lw_m5 24 rfl) rfl
theorem q1076 : (Jvm.Cond.selects "SafeClears$World" ({ cls := "SafeClears$World", name := "meet", desc := "(II)Z" } : Jvm.MethodName) ({ cls := "SafeClears$World", name := "meet", desc := "(II)Z" } : Jvm.MethodName)) ∈ lw_all := lw_g (lw_at lw_m5 25 rfl) rfl
theorem q1077 : (Jvm.Cond.code ({ cls := "SafeClears$World", name := "meet", desc := "(II)Z" } : Jvm.MethodName) prog_20_method_8_code (3 : Nat) (Option.some Jvm.ClassFile.FieldType.boolean)) ∈ lw_all := lw_g (lw_at lw_m5 26 rfl) rfl
theorem q1078 : (Jvm.Cond.methodLink "SafeClears$World" (200 : Nat) ({ cls := "SafeClears$World", name := "clearOf", desc := "(II)I" } : Jvm.MethodName)) ∈ lw_all := lw_g (lw_at lw_m5 27 rfl) rfl
theorem q1079 : (Jvm.Cond.instanceMethod ({ cls := "SafeClears$World", name := "clearOf", desc := "(II)I" } : Jvm.MethodName)) ∈ lw_all := lw_g (lw_at lw_m5 28 rfl) rfl
theorem q1080 : (Jvm.Cond.selects "SafeClears$World" ({ cls := "SafeClears$World", name := "clearOf", desc := "(II)I" } : Jvm.MethodName) ({ cls := "SafeClears$World", name := "clearOf", desc := "(II)I" } : Jvm.MethodName)) ∈ lw_all := lw_g (lw_at lw_m5 29 rfl) rfl
theorem q1081 : (Jvm.Cond.code ({ cls := "SafeClears$World", name := "clearOf", desc := "(II)I" } : Jvm.MethodName) prog_20_method_7_code (3 : Nat) (Option.some Jvm.ClassFile.FieldType.int)) ∈ lw_all := lw_g (lw_at lw_m5 30 rfl) rfl
theorem q1113 : (Jvm.Cond.instanceMethod ({ cls := "SafeClears$World", name := "phaseWith", desc := "(I)I" } : Jvm.MethodName)) ∈ lw_all := lw_g (lw_at lw_m5 62 rfl) rfl
theorem q1114 : (Jvm.Cond.selects "SafeClears$World" ({ cls := "SafeClears$World", name := "phaseWith", desc := "(I)I" } : Jvm.MethodName) ({ cls := "SafeClears$World", name := "phaseWith", desc := "(I)I" } : Jvm.MethodName)) ∈ lw_all := lw_g (lw_at lw_m5 63 rfl) rfl
theorem q1115 : (Jvm.Cond.code ({ cls := "SafeClears$World", name := "phaseWith", desc := "(I)I" } : Jvm.MethodName) prog_20_method_13_code (3 : Nat) (Option.some Jvm.ClassFile.FieldType.int)) ∈ lw_all := lw_g (lw_at lw_m5 64 rfl) rfl
theorem q1116 : (Jvm.Cond.methodLink "SafeClears$World" (207 : Nat) ({ cls := "SafeClears$Phase", name := "has", desc := "(I)Z" } : Jvm.MethodName)) ∈ lw_all := lw_g (lw_at lw_m5 65 rfl) rfl
theorem q1121 : (Jvm.Cond.instanceMethod ({ cls := "SafeClears$World", name := "comesToEmergency", desc := "(I)V" } : Jvm.MethodName)) ∈ lw_all := lw_g (lw_at lw_m5 70 rfl) rfl
theorem q1122 : (Jvm.Cond.selects "SafeClears$World" ({ cls := "SafeClears$World", name := "comesToEmergency", desc := "(I)V" } : Jvm.MethodName) ({ cls := "SafeClears$World", name := "comesToEmergency", desc := "(I)V" } : Jvm.MethodName)) ∈ lw_all := lw_g (lw_at lw_m5 71 rfl) rfl
theorem q1123 : (Jvm.Cond.code ({ cls := "SafeClears$World", name := "comesToEmergency", desc := "(I)V" } : Jvm.MethodName) prog_20_method_32_code (2 : Nat) (Option.none : Option Jvm.ClassFile.FieldType)) ∈ lw_all := lw_g (lw_at lw_m5 72 rfl) rfl
theorem q1124 : (Jvm.Cond.methodLink "SafeClears$World" (258 : Nat) ({ cls := "SafeClears$World", name := "phaseWith", desc := "(I)I" } : Jvm.MethodName)) ∈ lw_all := lw_g (lw_at lw_m5 73 rfl) rfl
theorem q1138 : (Jvm.Cond.instanceMethod ({ cls := "SafeClears$World", name := "passes", desc := "(I)LSafeClears$World;" } : Jvm.MethodName)) ∈ lw_all := lw_g (lw_at lw_m5 87 rfl) rfl
theorem q1139 : (Jvm.Cond.selects "SafeClears$World" ({ cls := "SafeClears$World", name := "passes", desc := "(I)LSafeClears$World;" } : Jvm.MethodName) ({ cls := "SafeClears$World", name := "passes", desc := "(I)LSafeClears$World;" } : Jvm.MethodName)) ∈ lw_all := lw_g (lw_at lw_m5 88 rfl) rfl
theorem q1140 : (Jvm.Cond.code ({ cls := "SafeClears$World", name := "passes", desc := "(I)LSafeClears$World;" } : Jvm.MethodName) prog_20_method_27_code (3 : Nat) (Option.some (Jvm.ClassFile.FieldType.object "SafeClears$World"))) ∈ lw_all := lw_g (lw_at lw_m5 89 rfl) rfl
theorem q1141 : (Jvm.Cond.methodLink "SafeClears$World" (295 : Nat) ({ cls := "SafeClears$World", name := "coming", desc := "()V" } : Jvm.MethodName)) ∈ lw_all := lw_g (lw_at lw_m5 90 rfl) rfl
theorem q1142 : (Jvm.Cond.privateMethod ({ cls := "SafeClears$World", name := "coming", desc := "()V" } : Jvm.MethodName)) ∈ lw_tbl := lw_at lw_m5 91 rfl
theorem q1143 : (Jvm.Cond.instanceMethod ({ cls := "SafeClears$World", name := "coming", desc := "()V" } : Jvm.MethodName)) ∈ lw_all := lw_g (lw_at lw_m5 92 rfl) rfl
theorem q1144 : (Jvm.Cond.code ({ cls := "SafeClears$World", name := "coming", desc := "()V" } : Jvm.MethodName) prog_20_method_17_code (3 : Nat) (Option.none : Option Jvm.ClassFile.FieldType)) ∈ lw_all := lw_g (lw_at lw_m5 93 rfl) rfl
theorem q1145 : (Jvm.Cond.methodLink "SafeClears$World" (223 : Nat) ({ cls := "SafeClears$Signal", name := "rate", desc := "()I" } : Jvm.MethodName)) ∈ lw_all := lw_g (lw_at lw_m5 94 rfl) rfl
theorem q1149 : (Jvm.Cond.methodLink "SafeClears$World" (226 : Nat) ({ cls := "SafeClears$World", name := "draw", desc := "(I)I" } : Jvm.MethodName)) ∈ lw_all := lw_g (lw_at lw_m5 98 rfl) rfl
theorem q1150 : (Jvm.Cond.instanceMethod ({ cls := "SafeClears$World", name := "draw", desc := "(I)I" } : Jvm.MethodName)) ∈ lw_all := lw_g (lw_at lw_m5 99 rfl) rfl
theorem q1151 : (Jvm.Cond.selects "SafeClears$World" ({ cls := "SafeClears$World", name := "draw", desc := "(I)I" } : Jvm.MethodName) ({ cls := "SafeClears$World", name := "draw", desc := "(I)I" } : Jvm.MethodName)) ∈ lw_all := lw_g (lw_at lw_m5 100 rfl) rfl
theorem q1152 : (Jvm.Cond.code ({ cls := "SafeClears$World", name := "draw", desc := "(I)I" } : Jvm.MethodName) prog_20_method_3_code (2 : Nat) (Option.some Jvm.ClassFile.FieldType.int)) ∈ lw_all := lw_g (lw_at lw_m5 101 rfl) rfl
theorem q1153 : (Jvm.Cond.constant "SafeClears$World" (149 : Nat) (1103515245 : Int32)) ∈ lw_all := lw_g (lw_at lw_m5 102 rfl) rfl
theorem q1154 : (Jvm.Cond.methodLink "SafeClears$World" (232 : Nat) ({ cls := "SafeClears$Signal", name := "comes", desc := "(I)V" } : Jvm.MethodName)) ∈ lw_all := lw_g (lw_at lw_m5 103 rfl) rfl
theorem q1155 : (Jvm.Cond.methodLink "SafeClears$World" (298 : Nat) ({ cls := "SafeClears$World", name := "changes", desc := "()V" } : Jvm.MethodName)) ∈ lw_all := lw_g (lw_at lw_m5 104 rfl) rfl
theorem q1156 : (Jvm.Cond.privateMethod ({ cls := "SafeClears$World", name := "changes", desc := "()V" } : Jvm.MethodName)) ∈ lw_tbl := lw_at lw_m5 105 rfl
theorem q1157 : (Jvm.Cond.instanceMethod ({ cls := "SafeClears$World", name := "changes", desc := "()V" } : Jvm.MethodName)) ∈ lw_all := lw_g (lw_at lw_m5 106 rfl) rfl
theorem q1158 : (Jvm.Cond.code ({ cls := "SafeClears$World", name := "changes", desc := "()V" } : Jvm.MethodName) prog_20_method_23_code (2 : Nat) (Option.none : Option Jvm.ClassFile.FieldType)) ∈ lw_all := lw_g (lw_at lw_m5 107 rfl) rfl
theorem q1159 : (Jvm.Cond.methodLink "SafeClears$World" (273 : Nat) ({ cls := "SafeClears$World", name := "isCutShort", desc := "()V" } : Jvm.MethodName)) ∈ lw_all := lw_g (lw_at lw_m5 108 rfl) rfl
theorem q1160 : (Jvm.Cond.privateMethod ({ cls := "SafeClears$World", name := "isCutShort", desc := "()V" } : Jvm.MethodName)) ∈ lw_tbl := lw_at lw_m5 109 rfl
theorem q1161 : (Jvm.Cond.instanceMethod ({ cls := "SafeClears$World", name := "isCutShort", desc := "()V" } : Jvm.MethodName)) ∈ lw_all := lw_g (lw_at lw_m5 110 rfl) rfl
theorem q1162 : (Jvm.Cond.code ({ cls := "SafeClears$World", name := "isCutShort", desc := "()V" } : Jvm.MethodName) prog_20_method_21_code (4 : Nat) (Option.none : Option Jvm.ClassFile.FieldType)) ∈ lw_all := lw_g (lw_at lw_m5 111 rfl) rfl
theorem q1163 : (Jvm.Cond.methodLink "SafeClears$World" (252 : Nat) ({ cls := "SafeClears$Signal", name := "least", desc := "()I" } : Jvm.MethodName)) ∈ lw_all := lw_g (lw_at lw_m5 112 rfl) rfl
theorem q1164 : (Jvm.Cond.methodLink "SafeClears$World" (255 : Nat) ({ cls := "SafeClears$Signal", name := "isGreenFor", desc := "(II)Z" } : Jvm.MethodName)) ∈ lw_all := lw_g (lw_at lw_m5 113 rfl) rfl
theorem q1168 : (Jvm.Cond.methodLink "SafeClears$World" (261 : Nat) ({ cls := "SafeClears$World", name := "changesTo", desc := "(I)V" } : Jvm.MethodName)) ∈ lw_all := lw_g (lw_at lw_m5 117 rfl) rfl
theorem q1169 : (Jvm.Cond.privateMethod ({ cls := "SafeClears$World", name := "changesTo", desc := "(I)V" } : Jvm.MethodName)) ∈ lw_tbl := lw_at lw_m5 118 rfl
theorem q1170 : (Jvm.Cond.instanceMethod ({ cls := "SafeClears$World", name := "changesTo", desc := "(I)V" } : Jvm.MethodName)) ∈ lw_all := lw_g (lw_at lw_m5 119 rfl) rfl
theorem q1171 : (Jvm.Cond.code ({ cls := "SafeClears$World", name := "changesTo", desc := "(I)V" } : Jvm.MethodName) prog_20_method_20_code (4 : Nat) (Option.none : Option Jvm.ClassFile.FieldType)) ∈ lw_all := lw_g (lw_at lw_m5 120 rfl) rfl
theorem q1172 : (Jvm.Cond.methodLink "SafeClears$World" (249 : Nat) ({ cls := "SafeClears$World", name := "keepsGreen", desc := "(I)V" } : Jvm.MethodName)) ∈ lw_all := lw_g (lw_at lw_m5 121 rfl) rfl
theorem q1173 : (Jvm.Cond.privateMethod ({ cls := "SafeClears$World", name := "keepsGreen", desc := "(I)V" } : Jvm.MethodName)) ∈ lw_tbl := lw_at lw_m5 122 rfl
theorem q1174 : (Jvm.Cond.instanceMethod ({ cls := "SafeClears$World", name := "keepsGreen", desc := "(I)V" } : Jvm.MethodName)) ∈ lw_all := lw_g (lw_at lw_m5 123 rfl) rfl
theorem q1175 : (Jvm.Cond.code ({ cls := "SafeClears$World", name := "keepsGreen", desc := "(I)V" } : Jvm.MethodName) prog_20_method_18_code (3 : Nat) (Option.none : Option Jvm.ClassFile.FieldType)) ∈ lw_all := lw_g (lw_at lw_m5 124 rfl) rfl
theorem q1176 : (Jvm.Cond.methodLink "SafeClears$World" (245 : Nat) ({ cls := "SafeClears$Green", name := "is", desc := "(III)V" } : Jvm.MethodName)) ∈ lw_all := lw_g (lw_at lw_m5 125 rfl) rfl
theorem q1180 : (Jvm.Cond.methodLink "SafeClears$World" (214 : Nat) ({ cls := "SafeClears$World", name := "isCalled", desc := "(I)Z" } : Jvm.MethodName)) ∈ lw_all := lw_g (lw_at lw_m5 129 rfl) rfl
theorem q1181 : (Jvm.Cond.instanceMethod ({ cls := "SafeClears$World", name := "isCalled", desc := "(I)Z" } : Jvm.MethodName)) ∈ lw_all := lw_g (lw_at lw_m5 130 rfl) rfl
theorem q1182 : (Jvm.Cond.selects "SafeClears$World" ({ cls := "SafeClears$World", name := "isCalled", desc := "(I)Z" } : Jvm.MethodName) ({ cls := "SafeClears$World", name := "isCalled", desc := "(I)Z" } : Jvm.MethodName)) ∈ lw_all := lw_g (lw_at lw_m5 131 rfl) rfl
theorem q1183 : (Jvm.Cond.code ({ cls := "SafeClears$World", name := "isCalled", desc := "(I)Z" } : Jvm.MethodName) prog_20_method_10_code (3 : Nat) (Option.some Jvm.ClassFile.FieldType.boolean)) ∈ lw_all := lw_g (lw_at lw_m5 132 rfl) rfl
theorem q1184 : (Jvm.Cond.methodLink "SafeClears$World" (210 : Nat) ({ cls := "SafeClears$Signal", name := "isCalled", desc := "()Z" } : Jvm.MethodName)) ∈ lw_all := lw_g (lw_at lw_m5 133 rfl) rfl
theorem q1188 : (Jvm.Cond.methodLink "SafeClears$World" (276 : Nat) ({ cls := "SafeClears$World", name := "firstCalled", desc := "()I" } : Jvm.MethodName)) ∈ lw_all := lw_g (lw_at lw_m5 137 rfl) rfl
theorem q1189 : (Jvm.Cond.privateMethod ({ cls := "SafeClears$World", name := "firstCalled", desc := "()I" } : Jvm.MethodName)) ∈ lw_tbl := lw_at lw_m5 138 rfl
theorem q1190 : (Jvm.Cond.instanceMethod ({ cls := "SafeClears$World", name := "firstCalled", desc := "()I" } : Jvm.MethodName)) ∈ lw_all := lw_g (lw_at lw_m5 139 rfl) rfl
theorem q1191 : (Jvm.Cond.code ({ cls := "SafeClears$World", name := "firstCalled", desc := "()I" } : Jvm.MethodName) prog_20_method_12_code (3 : Nat) (Option.some Jvm.ClassFile.FieldType.int)) ∈ lw_all := lw_g (lw_at lw_m5 140 rfl) rfl
theorem q1192 : (Jvm.Cond.methodLink "SafeClears$World" (279 : Nat) ({ cls := "SafeClears$World", name := "isHeld", desc := "()Z" } : Jvm.MethodName)) ∈ lw_all := lw_g (lw_at lw_m5 141 rfl) rfl
theorem q1193 : (Jvm.Cond.privateMethod ({ cls := "SafeClears$World", name := "isHeld", desc := "()Z" } : Jvm.MethodName)) ∈ lw_tbl := lw_at lw_m5 142 rfl
theorem q1194 : (Jvm.Cond.instanceMethod ({ cls := "SafeClears$World", name := "isHeld", desc := "()Z" } : Jvm.MethodName)) ∈ lw_all := lw_g (lw_at lw_m5 143 rfl) rfl
theorem q1195 : (Jvm.Cond.code ({ cls := "SafeClears$World", name := "isHeld", desc := "()Z" } : Jvm.MethodName) prog_20_method_15_code (1 : Nat) (Option.some Jvm.ClassFile.FieldType.boolean)) ∈ lw_all := lw_g (lw_at lw_m5 144 rfl) rfl
theorem q1196 : (Jvm.Cond.methodLink "SafeClears$World" (219 : Nat) ({ cls := "SafeClears$World", name := "local", desc := "()I" } : Jvm.MethodName)) ∈ lw_all := lw_g (lw_at lw_m5 145 rfl) rfl
theorem q1197 : (Jvm.Cond.instanceMethod ({ cls := "SafeClears$World", name := "local", desc := "()I" } : Jvm.MethodName)) ∈ lw_all := lw_g (lw_at lw_m5 146 rfl) rfl
theorem q1198 : (Jvm.Cond.selects "SafeClears$World" ({ cls := "SafeClears$World", name := "local", desc := "()I" } : Jvm.MethodName) ({ cls := "SafeClears$World", name := "local", desc := "()I" } : Jvm.MethodName)) ∈ lw_all := lw_g (lw_at lw_m5 147 rfl) rfl
theorem q1199 : (Jvm.Cond.code ({ cls := "SafeClears$World", name := "local", desc := "()I" } : Jvm.MethodName) prog_20_method_14_code (1 : Nat) (Option.some Jvm.ClassFile.FieldType.int)) ∈ lw_all := lw_g (lw_at lw_m5 148 rfl) rfl
theorem q1200 : (Jvm.Cond.methodLink "SafeClears$World" (216 : Nat) ({ cls := "java/lang/Math", name := "floorMod", desc := "(II)I" } : Jvm.MethodName)) ∈ lw_all := lw_g (lw_at lw_m5 149 rfl) rfl
theorem q1203 : (Jvm.Cond.methodLink "SafeClears$World" (282 : Nat) ({ cls := "SafeClears$World", name := "isOver", desc := "()Z" } : Jvm.MethodName)) ∈ lw_all := lw_g (lw_at lw_m5 152 rfl) rfl
theorem q1204 : (Jvm.Cond.privateMethod ({ cls := "SafeClears$World", name := "isOver", desc := "()Z" } : Jvm.MethodName)) ∈ lw_tbl := lw_at lw_m5 153 rfl
theorem q1205 : (Jvm.Cond.instanceMethod ({ cls := "SafeClears$World", name := "isOver", desc := "()Z" } : Jvm.MethodName)) ∈ lw_all := lw_g (lw_at lw_m5 154 rfl) rfl
theorem q1206 : (Jvm.Cond.code ({ cls := "SafeClears$World", name := "isOver", desc := "()Z" } : Jvm.MethodName) prog_20_method_22_code (6 : Nat) (Option.some Jvm.ClassFile.FieldType.boolean)) ∈ lw_all := lw_g (lw_at lw_m5 155 rfl) rfl
theorem q1207 : (Jvm.Cond.methodLink "SafeClears$World" (264 : Nat) ({ cls := "SafeClears$World", name := "isForced", desc := "()Z" } : Jvm.MethodName)) ∈ lw_all := lw_g (lw_at lw_m5 156 rfl) rfl
theorem q1208 : (Jvm.Cond.privateMethod ({ cls := "SafeClears$World", name := "isForced", desc := "()Z" } : Jvm.MethodName)) ∈ lw_tbl := lw_at lw_m5 157 rfl
theorem q1209 : (Jvm.Cond.instanceMethod ({ cls := "SafeClears$World", name := "isForced", desc := "()Z" } : Jvm.MethodName)) ∈ lw_all := lw_g (lw_at lw_m5 158 rfl) rfl
theorem q1210 : (Jvm.Cond.code ({ cls := "SafeClears$World", name := "isForced", desc := "()Z" } : Jvm.MethodName) prog_20_method_16_code (1 : Nat) (Option.some Jvm.ClassFile.FieldType.boolean)) ∈ lw_all := lw_g (lw_at lw_m5 159 rfl) rfl
theorem q1211 : (Jvm.Cond.methodLink "SafeClears$World" (267 : Nat) ({ cls := "SafeClears$Signal", name := "most", desc := "()I" } : Jvm.MethodName)) ∈ lw_all := lw_g (lw_at lw_m5 160 rfl) rfl
theorem q1212 : (Jvm.Cond.methodLink "SafeClears$World" (270 : Nat) ({ cls := "SafeClears$Signal", name := "isGapped", desc := "(I)Z" } : Jvm.MethodName)) ∈ lw_all := lw_g (lw_at lw_m5 161 rfl) rfl
theorem q1220 : (Jvm.Cond.methodLink "SafeClears$World" (301 : Nat) ({ cls := "SafeClears$World", name := "turning", desc := "()V" } : Jvm.MethodName)) ∈ lw_all := lw_g (lw_at lw_m5 169 rfl) rfl
theorem q1221 : (Jvm.Cond.privateMethod ({ cls := "SafeClears$World", name := "turning", desc := "()V" } : Jvm.MethodName)) ∈ lw_tbl := lw_at lw_m5 170 rfl
theorem q1222 : (Jvm.Cond.instanceMethod ({ cls := "SafeClears$World", name := "turning", desc := "()V" } : Jvm.MethodName)) ∈ lw_all := lw_g (lw_at lw_m5 171 rfl) rfl
theorem q1223 : (Jvm.Cond.code ({ cls := "SafeClears$World", name := "turning", desc := "()V" } : Jvm.MethodName) prog_20_method_25_code (3 : Nat) (Option.none : Option Jvm.ClassFile.FieldType)) ∈ lw_all := lw_g (lw_at lw_m5 172 rfl) rfl
theorem q1224 : (Jvm.Cond.methodLink "SafeClears$World" (285 : Nat) ({ cls := "SafeClears$World", name := "mayTurn", desc := "(I)Z" } : Jvm.MethodName)) ∈ lw_all := lw_g (lw_at lw_m5 173 rfl) rfl
theorem q1225 : (Jvm.Cond.privateMethod ({ cls := "SafeClears$World", name := "mayTurn", desc := "(I)Z" } : Jvm.MethodName)) ∈ lw_tbl := lw_at lw_m5 174 rfl
theorem q1226 : (Jvm.Cond.instanceMethod ({ cls := "SafeClears$World", name := "mayTurn", desc := "(I)Z" } : Jvm.MethodName)) ∈ lw_all := lw_g (lw_at lw_m5 175 rfl) rfl
theorem q1227 : (Jvm.Cond.code ({ cls := "SafeClears$World", name := "mayTurn", desc := "(I)Z" } : Jvm.MethodName) prog_20_method_24_code (4 : Nat) (Option.some Jvm.ClassFile.FieldType.boolean)) ∈ lw_all := lw_g (lw_at lw_m5 176 rfl) rfl
theorem q1228 : (Jvm.Cond.methodLink "SafeClears$World" (304 : Nat) ({ cls := "SafeClears$World", name := "going", desc := "()V" } : Jvm.MethodName)) ∈ lw_all := lw_g (lw_at lw_m5 177 rfl) rfl
theorem q1229 : (Jvm.Cond.privateMethod ({ cls := "SafeClears$World", name := "going", desc := "()V" } : Jvm.MethodName)) ∈ lw_tbl := lw_at lw_m5 178 rfl
theorem q1230 : (Jvm.Cond.instanceMethod ({ cls := "SafeClears$World", name := "going", desc := "()V" } : Jvm.MethodName)) ∈ lw_all := lw_g (lw_at lw_m5 179 rfl) rfl
theorem q1231 : (Jvm.Cond.code ({ cls := "SafeClears$World", name := "going", desc := "()V" } : Jvm.MethodName) prog_20_method_26_code (4 : Nat) (Option.none : Option Jvm.ClassFile.FieldType)) ∈ lw_all := lw_g (lw_at lw_m5 180 rfl) rfl
theorem q1232 : (Jvm.Cond.methodLink "SafeClears$World" (291 : Nat) ({ cls := "SafeClears$Kind", name := "leaves", desc := "(II)I" } : Jvm.MethodName)) ∈ lw_all := lw_g (lw_at lw_m5 181 rfl) rfl
theorem q1256 : (Jvm.Cond.instanceMethod ({ cls := "SafeClears$World", name := "withLight", desc := "(I)I" } : Jvm.MethodName)) ∈ lw_all := lw_g (lw_at lw_m5 205 rfl) rfl
theorem q1257 : (Jvm.Cond.selects "SafeClears$World" ({ cls := "SafeClears$World", name := "withLight", desc := "(I)I" } : Jvm.MethodName) ({ cls := "SafeClears$World", name := "withLight", desc := "(I)I" } : Jvm.MethodName)) ∈ lw_all := lw_g (lw_at lw_m5 206 rfl) rfl
theorem q1258 : (Jvm.Cond.code ({ cls := "SafeClears$World", name := "withLight", desc := "(I)I" } : Jvm.MethodName) prog_20_method_29_code (4 : Nat) (Option.some Jvm.ClassFile.FieldType.int)) ∈ lw_all := lw_g (lw_at lw_m5 207 rfl) rfl
theorem q1259 : (Jvm.Cond.methodLink "SafeClears$World" (307 : Nat) ({ cls := "SafeClears$World", name := "light", desc := "(I)I" } : Jvm.MethodName)) ∈ lw_all := lw_g (lw_at lw_m5 208 rfl) rfl
theorem q1260 : (Jvm.Cond.instanceMethod ({ cls := "SafeClears$World", name := "light", desc := "(I)I" } : Jvm.MethodName)) ∈ lw_all := lw_g (lw_at lw_m5 209 rfl) rfl
theorem q1261 : (Jvm.Cond.selects "SafeClears$World" ({ cls := "SafeClears$World", name := "light", desc := "(I)I" } : Jvm.MethodName) ({ cls := "SafeClears$World", name := "light", desc := "(I)I" } : Jvm.MethodName)) ∈ lw_all := lw_g (lw_at lw_m5 210 rfl) rfl
theorem q1262 : (Jvm.Cond.code ({ cls := "SafeClears$World", name := "light", desc := "(I)I" } : Jvm.MethodName) prog_20_method_28_code (3 : Nat) (Option.some Jvm.ClassFile.FieldType.int)) ∈ lw_all := lw_g (lw_at lw_m5 211 rfl) rfl
theorem q1264 : (Jvm.Cond.instanceMethod ({ cls := "SafeClears$World", name := "calledPhases", desc := "()I" } : Jvm.MethodName)) ∈ lw_all := lw_g (lw_at lw_m5 213 rfl) rfl
theorem q1265 : (Jvm.Cond.selects "SafeClears$World" ({ cls := "SafeClears$World", name := "calledPhases", desc := "()I" } : Jvm.MethodName) ({ cls := "SafeClears$World", name := "calledPhases", desc := "()I" } : Jvm.MethodName)) ∈ lw_all := lw_g (lw_at lw_m5 214 rfl) rfl
theorem q1266 : (Jvm.Cond.code ({ cls := "SafeClears$World", name := "calledPhases", desc := "()I" } : Jvm.MethodName) prog_20_method_11_code (3 : Nat) (Option.some Jvm.ClassFile.FieldType.int)) ∈ lw_all := lw_g (lw_at lw_m5 215 rfl) rfl
theorem q1269 : (Jvm.Cond.instanceMethod ({ cls := "SafeClears$World", name := "queues", desc := "()I" } : Jvm.MethodName)) ∈ lw_all := lw_g (lw_at lw_m5 218 rfl) rfl
theorem q1270 : (Jvm.Cond.selects "SafeClears$World" ({ cls := "SafeClears$World", name := "queues", desc := "()I" } : Jvm.MethodName) ({ cls := "SafeClears$World", name := "queues", desc := "()I" } : Jvm.MethodName)) ∈ lw_all := lw_g (lw_at lw_m5 219 rfl) rfl
theorem q1271 : (Jvm.Cond.code ({ cls := "SafeClears$World", name := "queues", desc := "()I" } : Jvm.MethodName) prog_20_method_30_code (3 : Nat) (Option.some Jvm.ClassFile.FieldType.int)) ∈ lw_all := lw_g (lw_at lw_m5 220 rfl) rfl
theorem q1371 : (Jvm.Cond.instanceMethod ({ cls := "SafeClears$World", name := "latest", desc := "(I)LSafeClears$Green;" } : Jvm.MethodName)) ∈ lw_all := lw_g (lw_at lw_m6 80 rfl) rfl
theorem q1372 : (Jvm.Cond.selects "SafeClears$World" ({ cls := "SafeClears$World", name := "latest", desc := "(I)LSafeClears$Green;" } : Jvm.MethodName) ({ cls := "SafeClears$World", name := "latest", desc := "(I)LSafeClears$Green;" } : Jvm.MethodName)) ∈ lw_all := lw_g (lw_at lw_m6 81 rfl) rfl
theorem q1373 : (Jvm.Cond.code ({ cls := "SafeClears$World", name := "latest", desc := "(I)LSafeClears$Green;" } : Jvm.MethodName) prog_20_method_19_code (2 : Nat) (Option.some (Jvm.ClassFile.FieldType.object "SafeClears$Green"))) ∈ lw_all := lw_g (lw_at lw_m6 82 rfl) rfl
theorem q1473 : (Jvm.Cond.instanceMethod ({ cls := "SafeClears$World", name := "bands", desc := "()I" } : Jvm.MethodName)) ∈ lw_all := lw_g (lw_at lw_m6 182 rfl) rfl
theorem q1474 : (Jvm.Cond.selects "SafeClears$World" ({ cls := "SafeClears$World", name := "bands", desc := "()I" } : Jvm.MethodName) ({ cls := "SafeClears$World", name := "bands", desc := "()I" } : Jvm.MethodName)) ∈ lw_all := lw_g (lw_at lw_m6 183 rfl) rfl
theorem q1475 : (Jvm.Cond.code ({ cls := "SafeClears$World", name := "bands", desc := "()I" } : Jvm.MethodName) prog_20_method_35_code (1 : Nat) (Option.some Jvm.ClassFile.FieldType.int)) ∈ lw_all := lw_g (lw_at lw_m6 184 rfl) rfl
theorem q1476 : (Jvm.Cond.methodLink "SafeClears$World" (319 : Nat) ({ cls := "SafeClears$World", name := "band", desc := "(I)I" } : Jvm.MethodName)) ∈ lw_all := lw_g (lw_at lw_m6 185 rfl) rfl
theorem q1477 : (Jvm.Cond.instanceMethod ({ cls := "SafeClears$World", name := "band", desc := "(I)I" } : Jvm.MethodName)) ∈ lw_all := lw_g (lw_at lw_m6 186 rfl) rfl
theorem q1478 : (Jvm.Cond.selects "SafeClears$World" ({ cls := "SafeClears$World", name := "band", desc := "(I)I" } : Jvm.MethodName) ({ cls := "SafeClears$World", name := "band", desc := "(I)I" } : Jvm.MethodName)) ∈ lw_all := lw_g (lw_at lw_m6 187 rfl) rfl
theorem q1479 : (Jvm.Cond.code ({ cls := "SafeClears$World", name := "band", desc := "(I)I" } : Jvm.MethodName) prog_20_method_34_code (4 : Nat) (Option.some Jvm.ClassFile.FieldType.int)) ∈ lw_all := lw_g (lw_at lw_m6 188 rfl) rfl
theorem q1480 : (Jvm.Cond.methodLink "SafeClears$World" (316 : Nat) ({ cls := "SafeClears$World", name := "isThrough", desc := "(II)Z" } : Jvm.MethodName)) ∈ lw_all := lw_g (lw_at lw_m6 189 rfl) rfl
theorem q1481 : (Jvm.Cond.privateMethod ({ cls := "SafeClears$World", name := "isThrough", desc := "(II)Z" } : Jvm.MethodName)) ∈ lw_tbl := lw_at lw_m6 190 rfl
theorem q1482 : (Jvm.Cond.instanceMethod ({ cls := "SafeClears$World", name := "isThrough", desc := "(II)Z" } : Jvm.MethodName)) ∈ lw_all := lw_g (lw_at lw_m6 191 rfl) rfl
theorem q1483 : (Jvm.Cond.code ({ cls := "SafeClears$World", name := "isThrough", desc := "(II)Z" } : Jvm.MethodName) prog_20_method_33_code (6 : Nat) (Option.some Jvm.ClassFile.FieldType.boolean)) ∈ lw_all := lw_g (lw_at lw_m6 192 rfl) rfl
theorem q1484 : (Jvm.Cond.methodLink "SafeClears$World" (313 : Nat) ({ cls := "SafeClears$Node", name := "isOpen", desc := "(II)Z" } : Jvm.MethodName)) ∈ lw_all := lw_g (lw_at lw_m6 193 rfl) rfl
theorem q1499 : (Jvm.Cond.instanceMethod ({ cls := "SafeClears$World", name := "like", desc := "(LSafeClears$World;)LSafeClears$World;" } : Jvm.MethodName)) ∈ lw_all := lw_g (lw_at lw_m6 208 rfl) rfl
theorem q1500 : (Jvm.Cond.selects "SafeClears$World" ({ cls := "SafeClears$World", name := "like", desc := "(LSafeClears$World;)LSafeClears$World;" } : Jvm.MethodName) ({ cls := "SafeClears$World", name := "like", desc := "(LSafeClears$World;)LSafeClears$World;" } : Jvm.MethodName)) ∈ lw_all := lw_g (lw_at lw_m6 209 rfl) rfl
theorem q1501 : (Jvm.Cond.code ({ cls := "SafeClears$World", name := "like", desc := "(LSafeClears$World;)LSafeClears$World;" } : Jvm.MethodName) prog_20_method_2_code (3 : Nat) (Option.some (Jvm.ClassFile.FieldType.object "SafeClears$World"))) ∈ lw_all := lw_g (lw_at lw_m6 210 rfl) rfl
theorem q1502 : (Jvm.Cond.methodLink "SafeClears$World" (120 : Nat) ({ cls := "SafeClears$Signal", name := "like", desc := "(LSafeClears$Signal;)V" } : Jvm.MethodName)) ∈ lw_all := lw_g (lw_at lw_m6 211 rfl) rfl
theorem q1503 : (Jvm.Cond.methodLink "SafeClears$World" (133 : Nat) ({ cls := "SafeClears$Phase", name := "is", desc := "(III)V" } : Jvm.MethodName)) ∈ lw_all := lw_g (lw_at lw_m6 212 rfl) rfl
theorem q1504 : (Jvm.Cond.methodLink "SafeClears$World" (137 : Nat) ({ cls := "SafeClears$Green", name := "like", desc := "(LSafeClears$Green;)V" } : Jvm.MethodName)) ∈ lw_all := lw_g (lw_at lw_m6 213 rfl) rfl
theorem q1509 : (Jvm.Cond.methodLink "SafeClears$World" (143 : Nat) ({ cls := "java/lang/System", name := "arraycopy", desc := "(Ljava/lang/Object;ILjava/lang/Object;II)V" } : Jvm.MethodName)) ∈ lw_all := lw_g (lw_at lw_m6 218 rfl) rfl
theorem q1511 : (Jvm.Cond.instanceMethod ({ cls := "SafeClears$World", name := "tunes", desc := "(I)I" } : Jvm.MethodName)) ∈ lw_all := lw_g (lw_at lw_m6 220 rfl) rfl
theorem q1512 : (Jvm.Cond.selects "SafeClears$World" ({ cls := "SafeClears$World", name := "tunes", desc := "(I)I" } : Jvm.MethodName) ({ cls := "SafeClears$World", name := "tunes", desc := "(I)I" } : Jvm.MethodName)) ∈ lw_all := lw_g (lw_at lw_m6 221 rfl) rfl
theorem q1513 : (Jvm.Cond.code ({ cls := "SafeClears$World", name := "tunes", desc := "(I)I" } : Jvm.MethodName) prog_20_method_36_code (6 : Nat) (Option.some Jvm.ClassFile.FieldType.int)) ∈ lw_all := lw_g (lw_at lw_m6 222 rfl) rfl
theorem q1514 : (Jvm.Cond.methodLink "SafeClears$World" (322 : Nat) ({ cls := "SafeClears$World", name := "bands", desc := "()I" } : Jvm.MethodName)) ∈ lw_all := lw_g (lw_at lw_m6 223 rfl) rfl
theorem q1532 : (Jvm.Cond.instanceMethod ({ cls := "SafeClears$World", name := "withGap", desc := "(I)LSafeClears$World;" } : Jvm.MethodName)) ∈ lw_all := lw_g (lw_at lw_m7 1 rfl) rfl
theorem q1533 : (Jvm.Cond.selects "SafeClears$World" ({ cls := "SafeClears$World", name := "withGap", desc := "(I)LSafeClears$World;" } : Jvm.MethodName) ({ cls := "SafeClears$World", name := "withGap", desc := "(I)LSafeClears$World;" } : Jvm.MethodName)) ∈ lw_all := lw_g (lw_at lw_m7 2 rfl) rfl
theorem q1534 : (Jvm.Cond.code ({ cls := "SafeClears$World", name := "withGap", desc := "(I)LSafeClears$World;" } : Jvm.MethodName) prog_20_method_31_code (3 : Nat) (Option.some (Jvm.ClassFile.FieldType.object "SafeClears$World"))) ∈ lw_all := lw_g (lw_at lw_m7 3 rfl) rfl
theorem q2228 : (Jvm.Cond.castable "SafeClears$World" "java/lang/Object") ∈ lw_tbl := lw_at lw_m9 217 rfl
theorem q2258 : (Jvm.Cond.fieldLinkNest "SafeClears$World" (154 : Nat) "SafeClears$Kind" "amber" "I" "SafeClears") ∈ lw_tbl := lw_at lw_m10 7 rfl
theorem q2259 : (Jvm.Cond.fieldLinkNest "SafeClears$World" (159 : Nat) "SafeClears$Kind" "pace" "I" "SafeClears") ∈ lw_tbl := lw_at lw_m10 8 rfl
theorem in_X1 : ∀ w ∈ wsX10, w ∈ lw_all := lw_in wsX10 [680, 682, 684, 686, 688, 690, 692, 694, 696, 698, 700, 702, 704, 706, 708, 710, 712, 714, 716, 718, 720, 722, 724, 726, 728, 730, 732, 734, 736, 738] (by decide +kernel) (by decide +kernel)
