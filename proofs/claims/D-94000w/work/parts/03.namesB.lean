/-! SlimeNet -/
set_option maxRecDepth 100000
def RX0 : String := "SlimeNet"
def TX0 : u_T := fun k => match k with
  | 0 => ("SlimeNet", "wrong", "LSlimeNet$Wrong;", true)
  | 1 => ("SlimeNet", "tape", "[B", true)
  | 2 => ("SlimeNet", "taped", "I", false)
  | 3 => ("SlimeNet", "faultKind", "I", false)
  | 4 => ("SlimeNet", "faultPlace", "I", false)
  | 5 => ("SlimeNet", "plate", "LSlimeNet$Plate;", false)
  | 6 => ("SlimeNet", "slime", "LSlimeNet$Slime;", true)
  | 7 => ("SlimeNet", "other", "LSlimeNet$Slime;", true)
  | 8 => ("SlimeNet", "slots", "[LSlimeNet$Slime;", true)
  | 9 => ("SlimeNet", "isKept", "[Z", true)
  | 10 => ("SlimeNet", "ring", "I", false)
  | 11 => ("SlimeNet", "begins", "[I", true)
  | 12 => ("SlimeNet", "isListed", "Z", false)
  | 13 => ("SlimeNet", "lengths", "[I", true)
  | 14 => ("SlimeNet", "sures", "[I", true)
  | 15 => ("SlimeNet", "goods", "[I", true)
  | 16 => ("SlimeNet", "nets", "I", false)
  | 17 => ("SlimeNet", "goodMany", "I", false)
  | 18 => ("SlimeNet", "seenMany", "I", false)
  | 19 => ("SlimeNet", "rightMany", "I", false)
  | 20 => ("SlimeNet", "latestTold", "I", false)
  | 21 => ("SlimeNet", "sTold", "[I", true)
  | 22 => ("SlimeNet", "sHour", "[I", true)
  | 23 => ("SlimeNet", "sNet", "[I", true)
  | 24 => ("SlimeNet", "rTold", "[I", true)
  | 25 => ("SlimeNet", "rOf", "[I", true)
  | 26 => ("SlimeNet", "rNet", "[I", true)
  | 27 => ("SlimeNet", "known", "[I", true)
  | 28 => ("SlimeNet", "tracks", "[I", true)
  | 29 => ("SlimeNet", "fitting", "[I", true)
  | _ => ("SlimeNet", "fitMany", "I", false)
def tyX0 : Nat → FieldType := fun k => match k with
  | 0 => .object "SlimeNet$Wrong"
  | 1 => .array .byte
  | 2 => .int
  | 3 => .int
  | 4 => .int
  | 5 => .object "SlimeNet$Plate"
  | 6 => .object "SlimeNet$Slime"
  | 7 => .object "SlimeNet$Slime"
  | 8 => .array (.object "SlimeNet$Slime")
  | 9 => .array .boolean
  | 10 => .int
  | 11 => .array .int
  | 12 => .boolean
  | 13 => .array .int
  | 14 => .array .int
  | 15 => .array .int
  | 16 => .int
  | 17 => .int
  | 18 => .int
  | 19 => .int
  | 20 => .int
  | 21 => .array .int
  | 22 => .array .int
  | 23 => .array .int
  | 24 => .array .int
  | 25 => .array .int
  | 26 => .array .int
  | 27 => .array .int
  | 28 => .array .int
  | 29 => .array .int
  | _ => .int
abbrev wsX00 : List Cond := u_ws RX0 TX0 31
set_option maxRecDepth 100000 in
theorem nmX0 : ∀ a, a < 31 → ∀ b, b < 31 → a ≠ b → (TX0 a).2.1 ≠ (TX0 b).2.1 := by decide +kernel
set_option maxRecDepth 100000 in
theorem tyX0_ok : ∀ k, k < 31 → parseFieldDescriptor (TX0 k).2.2.1 = some (tyX0 k) := by decide +kernel
abbrev cX0_init : ByteArray := prog_1_method_2_code
def yX0_init : MethodName := ⟨RX0, "<init>", "()V"⟩
def dkwX0_init_10 : List UInt8 := [180, 0, 27, 182, 0, 92, 177]
abbrev dktX0_init_10 : List UInt8 := dkwX0_init_10 ++ []
def dkwX0_init_9 : List UInt8 := [132, 1, 1, 167, 255, 235, 42, 180, 0, 34, 42, 180, 0, 27, 182, 0, 92, 42, 180, 0, 38, 42]
abbrev dktX0_init_9 : List UInt8 := dkwX0_init_9 ++ dktX0_init_10
def dkwX0_init_8 : List UInt8 := [181, 0, 89, 3, 60, 27, 7, 162, 0, 22, 42, 180, 0, 41, 27, 187, 0, 31, 89, 183, 0, 33, 83]
abbrev dktX0_init_8 : List UInt8 := dkwX0_init_8 ++ dktX0_init_9
def dkwX0_init_7 : List UInt8 := [16, 41, 188, 10, 181, 0, 83, 42, 17, 70, 161, 188, 10, 181, 0, 86, 42, 17, 1, 185, 188, 10]
abbrev dktX0_init_7 : List UInt8 := dkwX0_init_7 ++ dktX0_init_8
def dkwX0_init_6 : List UInt8 := [16, 20, 188, 10, 181, 0, 74, 42, 16, 20, 188, 10, 181, 0, 77, 42, 16, 20, 188, 10, 181, 0, 80, 42]
abbrev dktX0_init_6 : List UInt8 := dkwX0_init_6 ++ dktX0_init_7
def dkwX0_init_5 : List UInt8 := [16, 16, 188, 10, 181, 0, 65, 42, 16, 16, 188, 10, 181, 0, 68, 42, 16, 16, 188, 10, 181, 0, 71, 42]
abbrev dktX0_init_5 : List UInt8 := dkwX0_init_5 ++ dktX0_init_6
def dkwX0_init_4 : List UInt8 := [188, 10, 181, 0, 56, 42, 17, 4, 0, 188, 10, 181, 0, 59, 42, 17, 4, 0, 188, 10, 181, 0, 62, 42]
abbrev dktX0_init_4 : List UInt8 := dkwX0_init_4 ++ dktX0_init_5
def dkwX0_init_3 : List UInt8 := [188, 4, 181, 0, 45, 42, 2, 181, 0, 49, 42, 17, 15, 180, 188, 10, 181, 0, 52, 42, 17, 4, 0]
abbrev dktX0_init_3 : List UInt8 := dkwX0_init_3 ++ dktX0_init_4
def dkwX0_init_2 : List UInt8 := [181, 0, 34, 42, 187, 0, 31, 89, 183, 0, 33, 181, 0, 38, 42, 7, 189, 0, 31, 181, 0, 41, 42, 7]
abbrev dktX0_init_2 : List UInt8 := dkwX0_init_2 ++ dktX0_init_3
def dkwX0_init_1 : List UInt8 := [42, 2, 181, 0, 20, 42, 187, 0, 24, 89, 183, 0, 26, 181, 0, 27, 42, 187, 0, 31, 89, 183, 0, 33]
abbrev dktX0_init_1 : List UInt8 := dkwX0_init_1 ++ dktX0_init_2
def dkwX0_init_0 : List UInt8 := [42, 183, 0, 1, 42, 187, 0, 7, 89, 183, 0, 9, 181, 0, 10, 42, 17, 2, 188, 188, 8, 181, 0, 16]
abbrev dktX0_init_0 : List UInt8 := dkwX0_init_0 ++ dktX0_init_1
theorem dksX0_init_0 : cX0_init.data.toList.drop 0 = dktX0_init_0 := by decide +kernel
theorem dksX0_init_1 : cX0_init.data.toList.drop 24 = dktX0_init_1 := dk_seg dksX0_init_0 24 rfl rfl
theorem dksX0_init_2 : cX0_init.data.toList.drop 48 = dktX0_init_2 := dk_seg dksX0_init_1 24 rfl rfl
theorem dksX0_init_3 : cX0_init.data.toList.drop 72 = dktX0_init_3 := dk_seg dksX0_init_2 24 rfl rfl
theorem dksX0_init_4 : cX0_init.data.toList.drop 95 = dktX0_init_4 := dk_seg dksX0_init_3 23 rfl rfl
theorem dksX0_init_5 : cX0_init.data.toList.drop 119 = dktX0_init_5 := dk_seg dksX0_init_4 24 rfl rfl
theorem dksX0_init_6 : cX0_init.data.toList.drop 143 = dktX0_init_6 := dk_seg dksX0_init_5 24 rfl rfl
theorem dksX0_init_7 : cX0_init.data.toList.drop 167 = dktX0_init_7 := dk_seg dksX0_init_6 24 rfl rfl
theorem dksX0_init_8 : cX0_init.data.toList.drop 189 = dktX0_init_8 := dk_seg dksX0_init_7 22 rfl rfl
theorem dksX0_init_9 : cX0_init.data.toList.drop 212 = dktX0_init_9 := dk_seg dksX0_init_8 23 rfl rfl
theorem dksX0_init_10 : cX0_init.data.toList.drop 234 = dktX0_init_10 := dk_seg dksX0_init_9 22 rfl rfl
theorem dX0_init_0 : decode cX0_init 0 = .ok (.aload_n 0, 1) := dk_42 (dk_at dksX0_init_0 0 rfl rfl)
theorem dX0_init_1 : decode cX0_init 1 = .ok (.invokespecial 1, 3) := dk_183 0 1 (dk_at dksX0_init_0 1 rfl rfl)
theorem dX0_init_4 : decode cX0_init 4 = .ok (.aload_n 0, 1) := dk_42 (dk_at dksX0_init_0 4 rfl rfl)
theorem dX0_init_5 : decode cX0_init 5 = .ok (.new 7, 3) := dk_187 0 7 (dk_at dksX0_init_0 5 rfl rfl)
theorem dX0_init_8 : decode cX0_init 8 = .ok (.dup, 1) := dk_89 (dk_at dksX0_init_0 8 rfl rfl)
theorem dX0_init_9 : decode cX0_init 9 = .ok (.invokespecial 9, 3) := dk_183 0 9 (dk_at dksX0_init_0 9 rfl rfl)
theorem dX0_init_12 : decode cX0_init 12 = .ok (.putfield 10, 3) := dk_181 0 10 (dk_at dksX0_init_0 12 rfl rfl)
theorem dX0_init_15 : decode cX0_init 15 = .ok (.aload_n 0, 1) := dk_42 (dk_at dksX0_init_0 15 rfl rfl)
theorem dX0_init_16 : decode cX0_init 16 = .ok (.sipush 700, 3) := dk_17 2 188 (dk_at dksX0_init_0 16 rfl rfl)
theorem dX0_init_19 : decode cX0_init 19 = .ok (.newarray .byte, 2) := dk_188_8 (dk_at dksX0_init_0 19 rfl rfl)
theorem dX0_init_21 : decode cX0_init 21 = .ok (.putfield 16, 3) := dk_181 0 16 (dk_at dksX0_init_0 21 rfl rfl)
theorem dX0_init_24 : decode cX0_init 24 = .ok (.aload_n 0, 1) := dk_42 (dk_at dksX0_init_1 0 rfl rfl)
theorem dX0_init_25 : decode cX0_init 25 = .ok (.iconst (-1), 1) := dk_2 (dk_at dksX0_init_1 1 rfl rfl)
theorem dX0_init_26 : decode cX0_init 26 = .ok (.putfield 20, 3) := dk_181 0 20 (dk_at dksX0_init_1 2 rfl rfl)
theorem dX0_init_29 : decode cX0_init 29 = .ok (.aload_n 0, 1) := dk_42 (dk_at dksX0_init_1 5 rfl rfl)
theorem dX0_init_30 : decode cX0_init 30 = .ok (.new 24, 3) := dk_187 0 24 (dk_at dksX0_init_1 6 rfl rfl)
theorem dX0_init_33 : decode cX0_init 33 = .ok (.dup, 1) := dk_89 (dk_at dksX0_init_1 9 rfl rfl)
theorem dX0_init_34 : decode cX0_init 34 = .ok (.invokespecial 26, 3) := dk_183 0 26 (dk_at dksX0_init_1 10 rfl rfl)
theorem dX0_init_37 : decode cX0_init 37 = .ok (.putfield 27, 3) := dk_181 0 27 (dk_at dksX0_init_1 13 rfl rfl)
theorem dX0_init_40 : decode cX0_init 40 = .ok (.aload_n 0, 1) := dk_42 (dk_at dksX0_init_1 16 rfl rfl)
theorem dX0_init_41 : decode cX0_init 41 = .ok (.new 31, 3) := dk_187 0 31 (dk_at dksX0_init_1 17 rfl rfl)
theorem dX0_init_44 : decode cX0_init 44 = .ok (.dup, 1) := dk_89 (dk_at dksX0_init_1 20 rfl rfl)
theorem dX0_init_45 : decode cX0_init 45 = .ok (.invokespecial 33, 3) := dk_183 0 33 (dk_at dksX0_init_1 21 rfl rfl)
theorem dX0_init_48 : decode cX0_init 48 = .ok (.putfield 34, 3) := dk_181 0 34 (dk_at dksX0_init_2 0 rfl rfl)
theorem dX0_init_51 : decode cX0_init 51 = .ok (.aload_n 0, 1) := dk_42 (dk_at dksX0_init_2 3 rfl rfl)
theorem dX0_init_52 : decode cX0_init 52 = .ok (.new 31, 3) := dk_187 0 31 (dk_at dksX0_init_2 4 rfl rfl)
theorem dX0_init_55 : decode cX0_init 55 = .ok (.dup, 1) := dk_89 (dk_at dksX0_init_2 7 rfl rfl)
theorem dX0_init_56 : decode cX0_init 56 = .ok (.invokespecial 33, 3) := dk_183 0 33 (dk_at dksX0_init_2 8 rfl rfl)
theorem dX0_init_59 : decode cX0_init 59 = .ok (.putfield 38, 3) := dk_181 0 38 (dk_at dksX0_init_2 11 rfl rfl)
theorem dX0_init_62 : decode cX0_init 62 = .ok (.aload_n 0, 1) := dk_42 (dk_at dksX0_init_2 14 rfl rfl)
theorem dX0_init_63 : decode cX0_init 63 = .ok (.iconst 4, 1) := dk_7 (dk_at dksX0_init_2 15 rfl rfl)
theorem dX0_init_64 : decode cX0_init 64 = .ok (.anewarray 31, 3) := dk_189 0 31 (dk_at dksX0_init_2 16 rfl rfl)
theorem dX0_init_67 : decode cX0_init 67 = .ok (.putfield 41, 3) := dk_181 0 41 (dk_at dksX0_init_2 19 rfl rfl)
theorem dX0_init_70 : decode cX0_init 70 = .ok (.aload_n 0, 1) := dk_42 (dk_at dksX0_init_2 22 rfl rfl)
theorem dX0_init_71 : decode cX0_init 71 = .ok (.iconst 4, 1) := dk_7 (dk_at dksX0_init_2 23 rfl rfl)
theorem dX0_init_72 : decode cX0_init 72 = .ok (.newarray .boolean, 2) := dk_188_4 (dk_at dksX0_init_3 0 rfl rfl)
theorem dX0_init_74 : decode cX0_init 74 = .ok (.putfield 45, 3) := dk_181 0 45 (dk_at dksX0_init_3 2 rfl rfl)
theorem dX0_init_77 : decode cX0_init 77 = .ok (.aload_n 0, 1) := dk_42 (dk_at dksX0_init_3 5 rfl rfl)
theorem dX0_init_78 : decode cX0_init 78 = .ok (.iconst (-1), 1) := dk_2 (dk_at dksX0_init_3 6 rfl rfl)
theorem dX0_init_79 : decode cX0_init 79 = .ok (.putfield 49, 3) := dk_181 0 49 (dk_at dksX0_init_3 7 rfl rfl)
theorem dX0_init_82 : decode cX0_init 82 = .ok (.aload_n 0, 1) := dk_42 (dk_at dksX0_init_3 10 rfl rfl)
theorem dX0_init_83 : decode cX0_init 83 = .ok (.sipush 4020, 3) := dk_17 15 180 (dk_at dksX0_init_3 11 rfl rfl)
theorem dX0_init_86 : decode cX0_init 86 = .ok (.newarray .int, 2) := dk_188_10 (dk_at dksX0_init_3 14 rfl rfl)
theorem dX0_init_88 : decode cX0_init 88 = .ok (.putfield 52, 3) := dk_181 0 52 (dk_at dksX0_init_3 16 rfl rfl)
theorem dX0_init_91 : decode cX0_init 91 = .ok (.aload_n 0, 1) := dk_42 (dk_at dksX0_init_3 19 rfl rfl)
theorem dX0_init_92 : decode cX0_init 92 = .ok (.sipush 1024, 3) := dk_17 4 0 (dk_at dksX0_init_3 20 rfl rfl)
theorem dX0_init_95 : decode cX0_init 95 = .ok (.newarray .int, 2) := dk_188_10 (dk_at dksX0_init_4 0 rfl rfl)
theorem dX0_init_97 : decode cX0_init 97 = .ok (.putfield 56, 3) := dk_181 0 56 (dk_at dksX0_init_4 2 rfl rfl)
theorem dX0_init_100 : decode cX0_init 100 = .ok (.aload_n 0, 1) := dk_42 (dk_at dksX0_init_4 5 rfl rfl)
theorem dX0_init_101 : decode cX0_init 101 = .ok (.sipush 1024, 3) := dk_17 4 0 (dk_at dksX0_init_4 6 rfl rfl)
theorem dX0_init_104 : decode cX0_init 104 = .ok (.newarray .int, 2) := dk_188_10 (dk_at dksX0_init_4 9 rfl rfl)
theorem dX0_init_106 : decode cX0_init 106 = .ok (.putfield 59, 3) := dk_181 0 59 (dk_at dksX0_init_4 11 rfl rfl)
theorem dX0_init_109 : decode cX0_init 109 = .ok (.aload_n 0, 1) := dk_42 (dk_at dksX0_init_4 14 rfl rfl)
theorem dX0_init_110 : decode cX0_init 110 = .ok (.sipush 1024, 3) := dk_17 4 0 (dk_at dksX0_init_4 15 rfl rfl)
theorem dX0_init_113 : decode cX0_init 113 = .ok (.newarray .int, 2) := dk_188_10 (dk_at dksX0_init_4 18 rfl rfl)
theorem dX0_init_115 : decode cX0_init 115 = .ok (.putfield 62, 3) := dk_181 0 62 (dk_at dksX0_init_4 20 rfl rfl)
theorem dX0_init_118 : decode cX0_init 118 = .ok (.aload_n 0, 1) := dk_42 (dk_at dksX0_init_4 23 rfl rfl)
theorem dX0_init_119 : decode cX0_init 119 = .ok (.bipush 16, 2) := dk_16 16 (dk_at dksX0_init_5 0 rfl rfl)
theorem dX0_init_121 : decode cX0_init 121 = .ok (.newarray .int, 2) := dk_188_10 (dk_at dksX0_init_5 2 rfl rfl)
theorem dX0_init_123 : decode cX0_init 123 = .ok (.putfield 65, 3) := dk_181 0 65 (dk_at dksX0_init_5 4 rfl rfl)
theorem dX0_init_126 : decode cX0_init 126 = .ok (.aload_n 0, 1) := dk_42 (dk_at dksX0_init_5 7 rfl rfl)
theorem dX0_init_127 : decode cX0_init 127 = .ok (.bipush 16, 2) := dk_16 16 (dk_at dksX0_init_5 8 rfl rfl)
theorem dX0_init_129 : decode cX0_init 129 = .ok (.newarray .int, 2) := dk_188_10 (dk_at dksX0_init_5 10 rfl rfl)
theorem dX0_init_131 : decode cX0_init 131 = .ok (.putfield 68, 3) := dk_181 0 68 (dk_at dksX0_init_5 12 rfl rfl)
theorem dX0_init_134 : decode cX0_init 134 = .ok (.aload_n 0, 1) := dk_42 (dk_at dksX0_init_5 15 rfl rfl)
theorem dX0_init_135 : decode cX0_init 135 = .ok (.bipush 16, 2) := dk_16 16 (dk_at dksX0_init_5 16 rfl rfl)
theorem dX0_init_137 : decode cX0_init 137 = .ok (.newarray .int, 2) := dk_188_10 (dk_at dksX0_init_5 18 rfl rfl)
theorem dX0_init_139 : decode cX0_init 139 = .ok (.putfield 71, 3) := dk_181 0 71 (dk_at dksX0_init_5 20 rfl rfl)
theorem dX0_init_142 : decode cX0_init 142 = .ok (.aload_n 0, 1) := dk_42 (dk_at dksX0_init_5 23 rfl rfl)
theorem dX0_init_143 : decode cX0_init 143 = .ok (.bipush 20, 2) := dk_16 20 (dk_at dksX0_init_6 0 rfl rfl)
theorem dX0_init_145 : decode cX0_init 145 = .ok (.newarray .int, 2) := dk_188_10 (dk_at dksX0_init_6 2 rfl rfl)
theorem dX0_init_147 : decode cX0_init 147 = .ok (.putfield 74, 3) := dk_181 0 74 (dk_at dksX0_init_6 4 rfl rfl)
theorem dX0_init_150 : decode cX0_init 150 = .ok (.aload_n 0, 1) := dk_42 (dk_at dksX0_init_6 7 rfl rfl)
theorem dX0_init_151 : decode cX0_init 151 = .ok (.bipush 20, 2) := dk_16 20 (dk_at dksX0_init_6 8 rfl rfl)
theorem dX0_init_153 : decode cX0_init 153 = .ok (.newarray .int, 2) := dk_188_10 (dk_at dksX0_init_6 10 rfl rfl)
theorem dX0_init_155 : decode cX0_init 155 = .ok (.putfield 77, 3) := dk_181 0 77 (dk_at dksX0_init_6 12 rfl rfl)
theorem dX0_init_158 : decode cX0_init 158 = .ok (.aload_n 0, 1) := dk_42 (dk_at dksX0_init_6 15 rfl rfl)
theorem dX0_init_159 : decode cX0_init 159 = .ok (.bipush 20, 2) := dk_16 20 (dk_at dksX0_init_6 16 rfl rfl)
theorem dX0_init_161 : decode cX0_init 161 = .ok (.newarray .int, 2) := dk_188_10 (dk_at dksX0_init_6 18 rfl rfl)
theorem dX0_init_163 : decode cX0_init 163 = .ok (.putfield 80, 3) := dk_181 0 80 (dk_at dksX0_init_6 20 rfl rfl)
theorem dX0_init_166 : decode cX0_init 166 = .ok (.aload_n 0, 1) := dk_42 (dk_at dksX0_init_6 23 rfl rfl)
theorem dX0_init_167 : decode cX0_init 167 = .ok (.bipush 41, 2) := dk_16 41 (dk_at dksX0_init_7 0 rfl rfl)
theorem dX0_init_169 : decode cX0_init 169 = .ok (.newarray .int, 2) := dk_188_10 (dk_at dksX0_init_7 2 rfl rfl)
theorem dX0_init_171 : decode cX0_init 171 = .ok (.putfield 83, 3) := dk_181 0 83 (dk_at dksX0_init_7 4 rfl rfl)
theorem dX0_init_174 : decode cX0_init 174 = .ok (.aload_n 0, 1) := dk_42 (dk_at dksX0_init_7 7 rfl rfl)
theorem dX0_init_175 : decode cX0_init 175 = .ok (.sipush 18081, 3) := dk_17 70 161 (dk_at dksX0_init_7 8 rfl rfl)
theorem dX0_init_178 : decode cX0_init 178 = .ok (.newarray .int, 2) := dk_188_10 (dk_at dksX0_init_7 11 rfl rfl)
theorem dX0_init_180 : decode cX0_init 180 = .ok (.putfield 86, 3) := dk_181 0 86 (dk_at dksX0_init_7 13 rfl rfl)
theorem dX0_init_183 : decode cX0_init 183 = .ok (.aload_n 0, 1) := dk_42 (dk_at dksX0_init_7 16 rfl rfl)
theorem dX0_init_184 : decode cX0_init 184 = .ok (.sipush 441, 3) := dk_17 1 185 (dk_at dksX0_init_7 17 rfl rfl)
theorem dX0_init_187 : decode cX0_init 187 = .ok (.newarray .int, 2) := dk_188_10 (dk_at dksX0_init_7 20 rfl rfl)
theorem dX0_init_189 : decode cX0_init 189 = .ok (.putfield 89, 3) := dk_181 0 89 (dk_at dksX0_init_8 0 rfl rfl)
theorem dX0_init_192 : decode cX0_init 192 = .ok (.iconst 0, 1) := dk_3 (dk_at dksX0_init_8 3 rfl rfl)
theorem dX0_init_193 : decode cX0_init 193 = .ok (.istore_n 1, 1) := dk_60 (dk_at dksX0_init_8 4 rfl rfl)
theorem dX0_init_194 : decode cX0_init 194 = .ok (.iload_n 1, 1) := dk_27 (dk_at dksX0_init_8 5 rfl rfl)
theorem dX0_init_195 : decode cX0_init 195 = .ok (.iconst 4, 1) := dk_7 (dk_at dksX0_init_8 6 rfl rfl)
theorem dX0_init_196 : decode cX0_init 196 = .ok (.if_icmp .ge 22, 3) := dk_162 0 22 (dk_at dksX0_init_8 7 rfl rfl)
theorem dX0_init_199 : decode cX0_init 199 = .ok (.aload_n 0, 1) := dk_42 (dk_at dksX0_init_8 10 rfl rfl)
theorem dX0_init_200 : decode cX0_init 200 = .ok (.getfield 41, 3) := dk_180 0 41 (dk_at dksX0_init_8 11 rfl rfl)
theorem dX0_init_203 : decode cX0_init 203 = .ok (.iload_n 1, 1) := dk_27 (dk_at dksX0_init_8 14 rfl rfl)
theorem dX0_init_204 : decode cX0_init 204 = .ok (.new 31, 3) := dk_187 0 31 (dk_at dksX0_init_8 15 rfl rfl)
theorem dX0_init_207 : decode cX0_init 207 = .ok (.dup, 1) := dk_89 (dk_at dksX0_init_8 18 rfl rfl)
theorem dX0_init_208 : decode cX0_init 208 = .ok (.invokespecial 33, 3) := dk_183 0 33 (dk_at dksX0_init_8 19 rfl rfl)
theorem dX0_init_211 : decode cX0_init 211 = .ok (.aastore, 1) := dk_83 (dk_at dksX0_init_8 22 rfl rfl)
theorem dX0_init_212 : decode cX0_init 212 = .ok (.iinc 1 1, 3) := dk_132 1 1 (dk_at dksX0_init_9 0 rfl rfl)
theorem dX0_init_215 : decode cX0_init 215 = .ok (.goto (-21), 3) := dk_167 255 235 (dk_at dksX0_init_9 3 rfl rfl)
theorem dX0_init_218 : decode cX0_init 218 = .ok (.aload_n 0, 1) := dk_42 (dk_at dksX0_init_9 6 rfl rfl)
theorem dX0_init_219 : decode cX0_init 219 = .ok (.getfield 34, 3) := dk_180 0 34 (dk_at dksX0_init_9 7 rfl rfl)
theorem dX0_init_222 : decode cX0_init 222 = .ok (.aload_n 0, 1) := dk_42 (dk_at dksX0_init_9 10 rfl rfl)
theorem dX0_init_223 : decode cX0_init 223 = .ok (.getfield 27, 3) := dk_180 0 27 (dk_at dksX0_init_9 11 rfl rfl)
theorem dX0_init_226 : decode cX0_init 226 = .ok (.invokevirtual 92, 3) := dk_182 0 92 (dk_at dksX0_init_9 14 rfl rfl)
theorem dX0_init_229 : decode cX0_init 229 = .ok (.aload_n 0, 1) := dk_42 (dk_at dksX0_init_9 17 rfl rfl)
theorem dX0_init_230 : decode cX0_init 230 = .ok (.getfield 38, 3) := dk_180 0 38 (dk_at dksX0_init_9 18 rfl rfl)
theorem dX0_init_233 : decode cX0_init 233 = .ok (.aload_n 0, 1) := dk_42 (dk_at dksX0_init_9 21 rfl rfl)
theorem dX0_init_234 : decode cX0_init 234 = .ok (.getfield 27, 3) := dk_180 0 27 (dk_at dksX0_init_10 0 rfl rfl)
theorem dX0_init_237 : decode cX0_init 237 = .ok (.invokevirtual 92, 3) := dk_182 0 92 (dk_at dksX0_init_10 3 rfl rfl)
theorem dX0_init_240 : decode cX0_init 240 = .ok (.return_, 1) := dk_177 (dk_at dksX0_init_10 6 rfl rfl)
abbrev cX0_feed : ByteArray := prog_1_method_4_code
def yX0_feed : MethodName := ⟨RX0, "feed", "(IIIII)I"⟩
def dkwX0_feed_2 : List UInt8 := [172]
abbrev dktX0_feed_2 : List UInt8 := dkwX0_feed_2 ++ []
def dkwX0_feed_1 : List UInt8 := [182, 0, 99, 42, 29, 182, 0, 99, 42, 21, 4, 182, 0, 99, 42, 21, 5, 182, 0, 99, 42, 180, 0, 96]
abbrev dktX0_feed_1 : List UInt8 := dkwX0_feed_1 ++ dktX0_feed_2
def dkwX0_feed_0 : List UInt8 := [42, 180, 0, 96, 16, 20, 96, 17, 2, 188, 164, 0, 6, 16, 253, 172, 42, 27, 182, 0, 99, 42, 28]
abbrev dktX0_feed_0 : List UInt8 := dkwX0_feed_0 ++ dktX0_feed_1
theorem dksX0_feed_0 : cX0_feed.data.toList.drop 0 = dktX0_feed_0 := by decide +kernel
theorem dksX0_feed_1 : cX0_feed.data.toList.drop 23 = dktX0_feed_1 := dk_seg dksX0_feed_0 23 rfl rfl
theorem dksX0_feed_2 : cX0_feed.data.toList.drop 47 = dktX0_feed_2 := dk_seg dksX0_feed_1 24 rfl rfl
theorem dX0_feed_0 : decode cX0_feed 0 = .ok (.aload_n 0, 1) := dk_42 (dk_at dksX0_feed_0 0 rfl rfl)
theorem dX0_feed_1 : decode cX0_feed 1 = .ok (.getfield 96, 3) := dk_180 0 96 (dk_at dksX0_feed_0 1 rfl rfl)
theorem dX0_feed_4 : decode cX0_feed 4 = .ok (.bipush 20, 2) := dk_16 20 (dk_at dksX0_feed_0 4 rfl rfl)
theorem dX0_feed_6 : decode cX0_feed 6 = .ok (.iadd, 1) := dk_96 (dk_at dksX0_feed_0 6 rfl rfl)
theorem dX0_feed_7 : decode cX0_feed 7 = .ok (.sipush 700, 3) := dk_17 2 188 (dk_at dksX0_feed_0 7 rfl rfl)
theorem dX0_feed_10 : decode cX0_feed 10 = .ok (.if_icmp .le 6, 3) := dk_164 0 6 (dk_at dksX0_feed_0 10 rfl rfl)
theorem dX0_feed_13 : decode cX0_feed 13 = .ok (.bipush (-3), 2) := dk_16 253 (dk_at dksX0_feed_0 13 rfl rfl)
theorem dX0_feed_15 : decode cX0_feed 15 = .ok (.ireturn, 1) := dk_172 (dk_at dksX0_feed_0 15 rfl rfl)
theorem dX0_feed_16 : decode cX0_feed 16 = .ok (.aload_n 0, 1) := dk_42 (dk_at dksX0_feed_0 16 rfl rfl)
theorem dX0_feed_17 : decode cX0_feed 17 = .ok (.iload_n 1, 1) := dk_27 (dk_at dksX0_feed_0 17 rfl rfl)
theorem dX0_feed_18 : decode cX0_feed 18 = .ok (.invokevirtual 99, 3) := dk_182 0 99 (dk_at dksX0_feed_0 18 rfl rfl)
theorem dX0_feed_21 : decode cX0_feed 21 = .ok (.aload_n 0, 1) := dk_42 (dk_at dksX0_feed_0 21 rfl rfl)
theorem dX0_feed_22 : decode cX0_feed 22 = .ok (.iload_n 2, 1) := dk_28 (dk_at dksX0_feed_0 22 rfl rfl)
theorem dX0_feed_23 : decode cX0_feed 23 = .ok (.invokevirtual 99, 3) := dk_182 0 99 (dk_at dksX0_feed_1 0 rfl rfl)
theorem dX0_feed_26 : decode cX0_feed 26 = .ok (.aload_n 0, 1) := dk_42 (dk_at dksX0_feed_1 3 rfl rfl)
theorem dX0_feed_27 : decode cX0_feed 27 = .ok (.iload_n 3, 1) := dk_29 (dk_at dksX0_feed_1 4 rfl rfl)
theorem dX0_feed_28 : decode cX0_feed 28 = .ok (.invokevirtual 99, 3) := dk_182 0 99 (dk_at dksX0_feed_1 5 rfl rfl)
theorem dX0_feed_31 : decode cX0_feed 31 = .ok (.aload_n 0, 1) := dk_42 (dk_at dksX0_feed_1 8 rfl rfl)
theorem dX0_feed_32 : decode cX0_feed 32 = .ok (.iload 4, 2) := dk_21 4 (dk_at dksX0_feed_1 9 rfl rfl)
theorem dX0_feed_34 : decode cX0_feed 34 = .ok (.invokevirtual 99, 3) := dk_182 0 99 (dk_at dksX0_feed_1 11 rfl rfl)
theorem dX0_feed_37 : decode cX0_feed 37 = .ok (.aload_n 0, 1) := dk_42 (dk_at dksX0_feed_1 14 rfl rfl)
theorem dX0_feed_38 : decode cX0_feed 38 = .ok (.iload 5, 2) := dk_21 5 (dk_at dksX0_feed_1 15 rfl rfl)
theorem dX0_feed_40 : decode cX0_feed 40 = .ok (.invokevirtual 99, 3) := dk_182 0 99 (dk_at dksX0_feed_1 17 rfl rfl)
theorem dX0_feed_43 : decode cX0_feed 43 = .ok (.aload_n 0, 1) := dk_42 (dk_at dksX0_feed_1 20 rfl rfl)
theorem dX0_feed_44 : decode cX0_feed 44 = .ok (.getfield 96, 3) := dk_180 0 96 (dk_at dksX0_feed_1 21 rfl rfl)
theorem dX0_feed_47 : decode cX0_feed 47 = .ok (.ireturn, 1) := dk_172 (dk_at dksX0_feed_2 0 rfl rfl)
abbrev cX0_four : ByteArray := prog_1_method_3_code
def yX0_four : MethodName := ⟨RX0, "four", "(I)V"⟩
def dkwX0_four_1 : List UInt8 := [180, 0, 96, 4, 96, 181, 0, 96, 132, 2, 248, 167, 255, 226, 177]
abbrev dktX0_four_1 : List UInt8 := dkwX0_four_1 ++ []
def dkwX0_four_0 : List UInt8 := [16, 24, 61, 28, 155, 0, 32, 42, 180, 0, 16, 42, 180, 0, 96, 27, 28, 122, 145, 84, 42, 89]
abbrev dktX0_four_0 : List UInt8 := dkwX0_four_0 ++ dktX0_four_1
theorem dksX0_four_0 : cX0_four.data.toList.drop 0 = dktX0_four_0 := by decide +kernel
theorem dksX0_four_1 : cX0_four.data.toList.drop 22 = dktX0_four_1 := dk_seg dksX0_four_0 22 rfl rfl
theorem dX0_four_0 : decode cX0_four 0 = .ok (.bipush 24, 2) := dk_16 24 (dk_at dksX0_four_0 0 rfl rfl)
theorem dX0_four_2 : decode cX0_four 2 = .ok (.istore_n 2, 1) := dk_61 (dk_at dksX0_four_0 2 rfl rfl)
theorem dX0_four_3 : decode cX0_four 3 = .ok (.iload_n 2, 1) := dk_28 (dk_at dksX0_four_0 3 rfl rfl)
theorem dX0_four_4 : decode cX0_four 4 = .ok (.ifCond .lt 32, 3) := dk_155 0 32 (dk_at dksX0_four_0 4 rfl rfl)
theorem dX0_four_7 : decode cX0_four 7 = .ok (.aload_n 0, 1) := dk_42 (dk_at dksX0_four_0 7 rfl rfl)
theorem dX0_four_8 : decode cX0_four 8 = .ok (.getfield 16, 3) := dk_180 0 16 (dk_at dksX0_four_0 8 rfl rfl)
theorem dX0_four_11 : decode cX0_four 11 = .ok (.aload_n 0, 1) := dk_42 (dk_at dksX0_four_0 11 rfl rfl)
theorem dX0_four_12 : decode cX0_four 12 = .ok (.getfield 96, 3) := dk_180 0 96 (dk_at dksX0_four_0 12 rfl rfl)
theorem dX0_four_15 : decode cX0_four 15 = .ok (.iload_n 1, 1) := dk_27 (dk_at dksX0_four_0 15 rfl rfl)
theorem dX0_four_16 : decode cX0_four 16 = .ok (.iload_n 2, 1) := dk_28 (dk_at dksX0_four_0 16 rfl rfl)
theorem dX0_four_17 : decode cX0_four 17 = .ok (.ishr, 1) := dk_122 (dk_at dksX0_four_0 17 rfl rfl)
theorem dX0_four_18 : decode cX0_four 18 = .ok (.i2b, 1) := dk_145 (dk_at dksX0_four_0 18 rfl rfl)
theorem dX0_four_19 : decode cX0_four 19 = .ok (.bastore, 1) := dk_84 (dk_at dksX0_four_0 19 rfl rfl)
theorem dX0_four_20 : decode cX0_four 20 = .ok (.aload_n 0, 1) := dk_42 (dk_at dksX0_four_0 20 rfl rfl)
theorem dX0_four_21 : decode cX0_four 21 = .ok (.dup, 1) := dk_89 (dk_at dksX0_four_0 21 rfl rfl)
theorem dX0_four_22 : decode cX0_four 22 = .ok (.getfield 96, 3) := dk_180 0 96 (dk_at dksX0_four_1 0 rfl rfl)
theorem dX0_four_25 : decode cX0_four 25 = .ok (.iconst 1, 1) := dk_4 (dk_at dksX0_four_1 3 rfl rfl)
theorem dX0_four_26 : decode cX0_four 26 = .ok (.iadd, 1) := dk_96 (dk_at dksX0_four_1 4 rfl rfl)
theorem dX0_four_27 : decode cX0_four 27 = .ok (.putfield 96, 3) := dk_181 0 96 (dk_at dksX0_four_1 5 rfl rfl)
theorem dX0_four_30 : decode cX0_four 30 = .ok (.iinc 2 (-8), 3) := dk_132 2 248 (dk_at dksX0_four_1 8 rfl rfl)
theorem dX0_four_33 : decode cX0_four 33 = .ok (.goto (-30), 3) := dk_167 255 226 (dk_at dksX0_four_1 11 rfl rfl)
theorem dX0_four_36 : decode cX0_four 36 = .ok (.return_, 1) := dk_177 (dk_at dksX0_four_1 14 rfl rfl)
abbrev cX0_end : ByteArray := prog_1_method_5_code
def yX0_end : MethodName := ⟨RX0, "end", "(I)I"⟩
def dkwX0_end_0 : List UInt8 := [27, 155, 0, 11, 27, 42, 180, 0, 96, 164, 0, 5, 2, 172, 42, 27, 181, 0, 96, 27, 172]
abbrev dktX0_end_0 : List UInt8 := dkwX0_end_0 ++ []
theorem dksX0_end_0 : cX0_end.data.toList.drop 0 = dktX0_end_0 := by decide +kernel
theorem dX0_end_0 : decode cX0_end 0 = .ok (.iload_n 1, 1) := dk_27 (dk_at dksX0_end_0 0 rfl rfl)
theorem dX0_end_1 : decode cX0_end 1 = .ok (.ifCond .lt 11, 3) := dk_155 0 11 (dk_at dksX0_end_0 1 rfl rfl)
theorem dX0_end_4 : decode cX0_end 4 = .ok (.iload_n 1, 1) := dk_27 (dk_at dksX0_end_0 4 rfl rfl)
theorem dX0_end_5 : decode cX0_end 5 = .ok (.aload_n 0, 1) := dk_42 (dk_at dksX0_end_0 5 rfl rfl)
theorem dX0_end_6 : decode cX0_end 6 = .ok (.getfield 96, 3) := dk_180 0 96 (dk_at dksX0_end_0 6 rfl rfl)
theorem dX0_end_9 : decode cX0_end 9 = .ok (.if_icmp .le 5, 3) := dk_164 0 5 (dk_at dksX0_end_0 9 rfl rfl)
theorem dX0_end_12 : decode cX0_end 12 = .ok (.iconst (-1), 1) := dk_2 (dk_at dksX0_end_0 12 rfl rfl)
theorem dX0_end_13 : decode cX0_end 13 = .ok (.ireturn, 1) := dk_172 (dk_at dksX0_end_0 13 rfl rfl)
theorem dX0_end_14 : decode cX0_end 14 = .ok (.aload_n 0, 1) := dk_42 (dk_at dksX0_end_0 14 rfl rfl)
theorem dX0_end_15 : decode cX0_end 15 = .ok (.iload_n 1, 1) := dk_27 (dk_at dksX0_end_0 15 rfl rfl)
theorem dX0_end_16 : decode cX0_end 16 = .ok (.putfield 96, 3) := dk_181 0 96 (dk_at dksX0_end_0 16 rfl rfl)
theorem dX0_end_19 : decode cX0_end 19 = .ok (.iload_n 1, 1) := dk_27 (dk_at dksX0_end_0 19 rfl rfl)
theorem dX0_end_20 : decode cX0_end 20 = .ok (.ireturn, 1) := dk_172 (dk_at dksX0_end_0 20 rfl rfl)
abbrev cX0_plate : ByteArray := prog_1_method_6_code
def yX0_plate : MethodName := ⟨RX0, "plate", "()I"⟩
def dkwX0_plate_4 : List UInt8 := [181, 0, 133, 42, 3, 181, 0, 136, 42, 180, 0, 27, 180, 0, 140, 172]
abbrev dktX0_plate_4 : List UInt8 := dkwX0_plate_4 ++ []
def dkwX0_plate_3 : List UInt8 := [180, 0, 45, 3, 184, 0, 121, 42, 2, 181, 0, 49, 42, 3, 181, 0, 127, 42, 3, 181, 0, 130, 42, 3]
abbrev dktX0_plate_3 : List UInt8 := dkwX0_plate_3 ++ dktX0_plate_4
def dkwX0_plate_2 : List UInt8 := [42, 44, 180, 0, 118, 181, 0, 20, 2, 172, 42, 180, 0, 34, 42, 180, 0, 27, 182, 0, 92, 42]
abbrev dktX0_plate_2 : List UInt8 := dkwX0_plate_2 ++ dktX0_plate_3
def dkwX0_plate_1 : List UInt8 := [89, 42, 27, 183, 0, 108, 182, 0, 111, 181, 0, 27, 167, 0, 22, 77, 42, 44, 180, 0, 115, 181, 0, 103]
abbrev dktX0_plate_1 : List UInt8 := dkwX0_plate_1 ++ dktX0_plate_2
def dkwX0_plate_0 : List UInt8 := [42, 180, 0, 96, 60, 42, 3, 181, 0, 96, 42, 3, 181, 0, 103, 42, 2, 181, 0, 20, 42, 187, 0, 106]
abbrev dktX0_plate_0 : List UInt8 := dkwX0_plate_0 ++ dktX0_plate_1
theorem dksX0_plate_0 : cX0_plate.data.toList.drop 0 = dktX0_plate_0 := by decide +kernel
theorem dksX0_plate_1 : cX0_plate.data.toList.drop 24 = dktX0_plate_1 := dk_seg dksX0_plate_0 24 rfl rfl
theorem dksX0_plate_2 : cX0_plate.data.toList.drop 48 = dktX0_plate_2 := dk_seg dksX0_plate_1 24 rfl rfl
theorem dksX0_plate_3 : cX0_plate.data.toList.drop 70 = dktX0_plate_3 := dk_seg dksX0_plate_2 22 rfl rfl
theorem dksX0_plate_4 : cX0_plate.data.toList.drop 94 = dktX0_plate_4 := dk_seg dksX0_plate_3 24 rfl rfl
theorem dX0_plate_0 : decode cX0_plate 0 = .ok (.aload_n 0, 1) := dk_42 (dk_at dksX0_plate_0 0 rfl rfl)
theorem dX0_plate_1 : decode cX0_plate 1 = .ok (.getfield 96, 3) := dk_180 0 96 (dk_at dksX0_plate_0 1 rfl rfl)
theorem dX0_plate_4 : decode cX0_plate 4 = .ok (.istore_n 1, 1) := dk_60 (dk_at dksX0_plate_0 4 rfl rfl)
theorem dX0_plate_5 : decode cX0_plate 5 = .ok (.aload_n 0, 1) := dk_42 (dk_at dksX0_plate_0 5 rfl rfl)
theorem dX0_plate_6 : decode cX0_plate 6 = .ok (.iconst 0, 1) := dk_3 (dk_at dksX0_plate_0 6 rfl rfl)
theorem dX0_plate_7 : decode cX0_plate 7 = .ok (.putfield 96, 3) := dk_181 0 96 (dk_at dksX0_plate_0 7 rfl rfl)
theorem dX0_plate_10 : decode cX0_plate 10 = .ok (.aload_n 0, 1) := dk_42 (dk_at dksX0_plate_0 10 rfl rfl)
theorem dX0_plate_11 : decode cX0_plate 11 = .ok (.iconst 0, 1) := dk_3 (dk_at dksX0_plate_0 11 rfl rfl)
theorem dX0_plate_12 : decode cX0_plate 12 = .ok (.putfield 103, 3) := dk_181 0 103 (dk_at dksX0_plate_0 12 rfl rfl)
theorem dX0_plate_15 : decode cX0_plate 15 = .ok (.aload_n 0, 1) := dk_42 (dk_at dksX0_plate_0 15 rfl rfl)
theorem dX0_plate_16 : decode cX0_plate 16 = .ok (.iconst (-1), 1) := dk_2 (dk_at dksX0_plate_0 16 rfl rfl)
theorem dX0_plate_17 : decode cX0_plate 17 = .ok (.putfield 20, 3) := dk_181 0 20 (dk_at dksX0_plate_0 17 rfl rfl)
theorem dX0_plate_20 : decode cX0_plate 20 = .ok (.aload_n 0, 1) := dk_42 (dk_at dksX0_plate_0 20 rfl rfl)
theorem dX0_plate_21 : decode cX0_plate 21 = .ok (.new 106, 3) := dk_187 0 106 (dk_at dksX0_plate_0 21 rfl rfl)
theorem dX0_plate_24 : decode cX0_plate 24 = .ok (.dup, 1) := dk_89 (dk_at dksX0_plate_1 0 rfl rfl)
theorem dX0_plate_25 : decode cX0_plate 25 = .ok (.aload_n 0, 1) := dk_42 (dk_at dksX0_plate_1 1 rfl rfl)
theorem dX0_plate_26 : decode cX0_plate 26 = .ok (.iload_n 1, 1) := dk_27 (dk_at dksX0_plate_1 2 rfl rfl)
theorem dX0_plate_27 : decode cX0_plate 27 = .ok (.invokespecial 108, 3) := dk_183 0 108 (dk_at dksX0_plate_1 3 rfl rfl)
theorem dX0_plate_30 : decode cX0_plate 30 = .ok (.invokevirtual 111, 3) := dk_182 0 111 (dk_at dksX0_plate_1 6 rfl rfl)
theorem dX0_plate_33 : decode cX0_plate 33 = .ok (.putfield 27, 3) := dk_181 0 27 (dk_at dksX0_plate_1 9 rfl rfl)
theorem dX0_plate_36 : decode cX0_plate 36 = .ok (.goto 22, 3) := dk_167 0 22 (dk_at dksX0_plate_1 12 rfl rfl)
theorem dX0_plate_39 : decode cX0_plate 39 = .ok (.astore_n 2, 1) := dk_77 (dk_at dksX0_plate_1 15 rfl rfl)
theorem dX0_plate_40 : decode cX0_plate 40 = .ok (.aload_n 0, 1) := dk_42 (dk_at dksX0_plate_1 16 rfl rfl)
theorem dX0_plate_41 : decode cX0_plate 41 = .ok (.aload_n 2, 1) := dk_44 (dk_at dksX0_plate_1 17 rfl rfl)
theorem dX0_plate_42 : decode cX0_plate 42 = .ok (.getfield 115, 3) := dk_180 0 115 (dk_at dksX0_plate_1 18 rfl rfl)
theorem dX0_plate_45 : decode cX0_plate 45 = .ok (.putfield 103, 3) := dk_181 0 103 (dk_at dksX0_plate_1 21 rfl rfl)
theorem dX0_plate_48 : decode cX0_plate 48 = .ok (.aload_n 0, 1) := dk_42 (dk_at dksX0_plate_2 0 rfl rfl)
theorem dX0_plate_49 : decode cX0_plate 49 = .ok (.aload_n 2, 1) := dk_44 (dk_at dksX0_plate_2 1 rfl rfl)
theorem dX0_plate_50 : decode cX0_plate 50 = .ok (.getfield 118, 3) := dk_180 0 118 (dk_at dksX0_plate_2 2 rfl rfl)
theorem dX0_plate_53 : decode cX0_plate 53 = .ok (.putfield 20, 3) := dk_181 0 20 (dk_at dksX0_plate_2 5 rfl rfl)
theorem dX0_plate_56 : decode cX0_plate 56 = .ok (.iconst (-1), 1) := dk_2 (dk_at dksX0_plate_2 8 rfl rfl)
theorem dX0_plate_57 : decode cX0_plate 57 = .ok (.ireturn, 1) := dk_172 (dk_at dksX0_plate_2 9 rfl rfl)
theorem dX0_plate_58 : decode cX0_plate 58 = .ok (.aload_n 0, 1) := dk_42 (dk_at dksX0_plate_2 10 rfl rfl)
theorem dX0_plate_59 : decode cX0_plate 59 = .ok (.getfield 34, 3) := dk_180 0 34 (dk_at dksX0_plate_2 11 rfl rfl)
theorem dX0_plate_62 : decode cX0_plate 62 = .ok (.aload_n 0, 1) := dk_42 (dk_at dksX0_plate_2 14 rfl rfl)
theorem dX0_plate_63 : decode cX0_plate 63 = .ok (.getfield 27, 3) := dk_180 0 27 (dk_at dksX0_plate_2 15 rfl rfl)
theorem dX0_plate_66 : decode cX0_plate 66 = .ok (.invokevirtual 92, 3) := dk_182 0 92 (dk_at dksX0_plate_2 18 rfl rfl)
theorem dX0_plate_69 : decode cX0_plate 69 = .ok (.aload_n 0, 1) := dk_42 (dk_at dksX0_plate_2 21 rfl rfl)
theorem dX0_plate_70 : decode cX0_plate 70 = .ok (.getfield 45, 3) := dk_180 0 45 (dk_at dksX0_plate_3 0 rfl rfl)
theorem dX0_plate_73 : decode cX0_plate 73 = .ok (.iconst 0, 1) := dk_3 (dk_at dksX0_plate_3 3 rfl rfl)
theorem dX0_plate_74 : decode cX0_plate 74 = .ok (.invokestatic 121, 3) := dk_184 0 121 (dk_at dksX0_plate_3 4 rfl rfl)
theorem dX0_plate_77 : decode cX0_plate 77 = .ok (.aload_n 0, 1) := dk_42 (dk_at dksX0_plate_3 7 rfl rfl)
theorem dX0_plate_78 : decode cX0_plate 78 = .ok (.iconst (-1), 1) := dk_2 (dk_at dksX0_plate_3 8 rfl rfl)
theorem dX0_plate_79 : decode cX0_plate 79 = .ok (.putfield 49, 3) := dk_181 0 49 (dk_at dksX0_plate_3 9 rfl rfl)
theorem dX0_plate_82 : decode cX0_plate 82 = .ok (.aload_n 0, 1) := dk_42 (dk_at dksX0_plate_3 12 rfl rfl)
theorem dX0_plate_83 : decode cX0_plate 83 = .ok (.iconst 0, 1) := dk_3 (dk_at dksX0_plate_3 13 rfl rfl)
theorem dX0_plate_84 : decode cX0_plate 84 = .ok (.putfield 127, 3) := dk_181 0 127 (dk_at dksX0_plate_3 14 rfl rfl)
theorem dX0_plate_87 : decode cX0_plate 87 = .ok (.aload_n 0, 1) := dk_42 (dk_at dksX0_plate_3 17 rfl rfl)
theorem dX0_plate_88 : decode cX0_plate 88 = .ok (.iconst 0, 1) := dk_3 (dk_at dksX0_plate_3 18 rfl rfl)
theorem dX0_plate_89 : decode cX0_plate 89 = .ok (.putfield 130, 3) := dk_181 0 130 (dk_at dksX0_plate_3 19 rfl rfl)
theorem dX0_plate_92 : decode cX0_plate 92 = .ok (.aload_n 0, 1) := dk_42 (dk_at dksX0_plate_3 22 rfl rfl)
theorem dX0_plate_93 : decode cX0_plate 93 = .ok (.iconst 0, 1) := dk_3 (dk_at dksX0_plate_3 23 rfl rfl)
theorem dX0_plate_94 : decode cX0_plate 94 = .ok (.putfield 133, 3) := dk_181 0 133 (dk_at dksX0_plate_4 0 rfl rfl)
theorem dX0_plate_97 : decode cX0_plate 97 = .ok (.aload_n 0, 1) := dk_42 (dk_at dksX0_plate_4 3 rfl rfl)
theorem dX0_plate_98 : decode cX0_plate 98 = .ok (.iconst 0, 1) := dk_3 (dk_at dksX0_plate_4 4 rfl rfl)
theorem dX0_plate_99 : decode cX0_plate 99 = .ok (.putfield 136, 3) := dk_181 0 136 (dk_at dksX0_plate_4 5 rfl rfl)
theorem dX0_plate_102 : decode cX0_plate 102 = .ok (.aload_n 0, 1) := dk_42 (dk_at dksX0_plate_4 8 rfl rfl)
theorem dX0_plate_103 : decode cX0_plate 103 = .ok (.getfield 27, 3) := dk_180 0 27 (dk_at dksX0_plate_4 9 rfl rfl)
theorem dX0_plate_106 : decode cX0_plate 106 = .ok (.getfield 140, 3) := dk_180 0 140 (dk_at dksX0_plate_4 12 rfl rfl)
theorem dX0_plate_109 : decode cX0_plate 109 = .ok (.ireturn, 1) := dk_172 (dk_at dksX0_plate_4 15 rfl rfl)
abbrev cX0_in : ByteArray := prog_1_method_1_code
def yX0_in : MethodName := ⟨RX0, "in", "(III)Z"⟩
def dkwX0_in_0 : List UInt8 := [26, 27, 161, 0, 12, 26, 28, 163, 0, 7, 4, 167, 0, 4, 3, 172]
abbrev dktX0_in_0 : List UInt8 := dkwX0_in_0 ++ []
theorem dksX0_in_0 : cX0_in.data.toList.drop 0 = dktX0_in_0 := by decide +kernel
theorem dX0_in_0 : decode cX0_in 0 = .ok (.iload_n 0, 1) := dk_26 (dk_at dksX0_in_0 0 rfl rfl)
theorem dX0_in_1 : decode cX0_in 1 = .ok (.iload_n 1, 1) := dk_27 (dk_at dksX0_in_0 1 rfl rfl)
theorem dX0_in_2 : decode cX0_in 2 = .ok (.if_icmp .lt 12, 3) := dk_161 0 12 (dk_at dksX0_in_0 2 rfl rfl)
theorem dX0_in_5 : decode cX0_in 5 = .ok (.iload_n 0, 1) := dk_26 (dk_at dksX0_in_0 5 rfl rfl)
theorem dX0_in_6 : decode cX0_in 6 = .ok (.iload_n 2, 1) := dk_28 (dk_at dksX0_in_0 6 rfl rfl)
theorem dX0_in_7 : decode cX0_in 7 = .ok (.if_icmp .gt 7, 3) := dk_163 0 7 (dk_at dksX0_in_0 7 rfl rfl)
theorem dX0_in_10 : decode cX0_in 10 = .ok (.iconst 1, 1) := dk_4 (dk_at dksX0_in_0 10 rfl rfl)
theorem dX0_in_11 : decode cX0_in 11 = .ok (.goto 4, 3) := dk_167 0 4 (dk_at dksX0_in_0 11 rfl rfl)
theorem dX0_in_14 : decode cX0_in 14 = .ok (.iconst 0, 1) := dk_3 (dk_at dksX0_in_0 14 rfl rfl)
theorem dX0_in_15 : decode cX0_in 15 = .ok (.ireturn, 1) := dk_172 (dk_at dksX0_in_0 15 rfl rfl)
abbrev cX0_fault : ByteArray := prog_1_method_7_code
def yX0_fault : MethodName := ⟨RX0, "fault", "(I)I"⟩
def dkwX0_fault_1 : List UInt8 := [172]
abbrev dktX0_fault_1 : List UInt8 := dkwX0_fault_1 ++ []
def dkwX0_fault_0 : List UInt8 := [27, 154, 0, 10, 42, 180, 0, 103, 167, 0, 16, 27, 4, 160, 0, 10, 42, 180, 0, 20, 167, 0, 4, 2]
abbrev dktX0_fault_0 : List UInt8 := dkwX0_fault_0 ++ dktX0_fault_1
theorem dksX0_fault_0 : cX0_fault.data.toList.drop 0 = dktX0_fault_0 := by decide +kernel
theorem dksX0_fault_1 : cX0_fault.data.toList.drop 24 = dktX0_fault_1 := dk_seg dksX0_fault_0 24 rfl rfl
theorem dX0_fault_0 : decode cX0_fault 0 = .ok (.iload_n 1, 1) := dk_27 (dk_at dksX0_fault_0 0 rfl rfl)
theorem dX0_fault_1 : decode cX0_fault 1 = .ok (.ifCond .ne 10, 3) := dk_154 0 10 (dk_at dksX0_fault_0 1 rfl rfl)
theorem dX0_fault_4 : decode cX0_fault 4 = .ok (.aload_n 0, 1) := dk_42 (dk_at dksX0_fault_0 4 rfl rfl)
theorem dX0_fault_5 : decode cX0_fault 5 = .ok (.getfield 103, 3) := dk_180 0 103 (dk_at dksX0_fault_0 5 rfl rfl)
theorem dX0_fault_8 : decode cX0_fault 8 = .ok (.goto 16, 3) := dk_167 0 16 (dk_at dksX0_fault_0 8 rfl rfl)
theorem dX0_fault_11 : decode cX0_fault 11 = .ok (.iload_n 1, 1) := dk_27 (dk_at dksX0_fault_0 11 rfl rfl)
theorem dX0_fault_12 : decode cX0_fault 12 = .ok (.iconst 1, 1) := dk_4 (dk_at dksX0_fault_0 12 rfl rfl)
theorem dX0_fault_13 : decode cX0_fault 13 = .ok (.if_icmp .ne 10, 3) := dk_160 0 10 (dk_at dksX0_fault_0 13 rfl rfl)
theorem dX0_fault_16 : decode cX0_fault 16 = .ok (.aload_n 0, 1) := dk_42 (dk_at dksX0_fault_0 16 rfl rfl)
theorem dX0_fault_17 : decode cX0_fault 17 = .ok (.getfield 20, 3) := dk_180 0 20 (dk_at dksX0_fault_0 17 rfl rfl)
theorem dX0_fault_20 : decode cX0_fault 20 = .ok (.goto 4, 3) := dk_167 0 4 (dk_at dksX0_fault_0 20 rfl rfl)
theorem dX0_fault_23 : decode cX0_fault 23 = .ok (.iconst (-1), 1) := dk_2 (dk_at dksX0_fault_0 23 rfl rfl)
theorem dX0_fault_24 : decode cX0_fault 24 = .ok (.ireturn, 1) := dk_172 (dk_at dksX0_fault_1 0 rfl rfl)
abbrev cX0_told : ByteArray := prog_1_method_9_code
def yX0_told : MethodName := ⟨RX0, "told", "(I)I"⟩
def dkwX0_told_9 : List UInt8 := [96, 184, 0, 153, 153, 0, 18, 42, 180, 0, 27, 180, 0, 197, 27, 16, 30, 100, 46, 167, 0, 4, 2, 172]
abbrev dktX0_told_9 : List UInt8 := dkwX0_told_9 ++ []
def dkwX0_told_8 : List UInt8 := [100, 182, 0, 182, 192, 0, 186, 180, 0, 194, 96, 172, 27, 16, 30, 16, 29, 42, 180, 0, 27, 180, 0, 160]
abbrev dktX0_told_8 : List UInt8 := dkwX0_told_8 ++ dktX0_told_9
def dkwX0_told_7 : List UInt8 := [27, 16, 20, 100, 182, 0, 182, 192, 0, 186, 180, 0, 191, 104, 42, 180, 0, 27, 180, 0, 143, 27, 16, 20]
abbrev dktX0_told_7 : List UInt8 := dkwX0_told_7 ++ dktX0_told_8
def dkwX0_told_6 : List UInt8 := [180, 0, 188, 172, 42, 27, 16, 20, 100, 182, 0, 178, 153, 0, 48, 16, 8, 42, 180, 0, 27, 180, 0, 143]
abbrev dktX0_told_6 : List UInt8 := dkwX0_told_6 ++ dktX0_told_7
def dkwX0_told_5 : List UInt8 := [182, 0, 178, 153, 0, 24, 42, 180, 0, 27, 180, 0, 143, 27, 16, 10, 100, 182, 0, 182, 192, 0, 186]
abbrev dktX0_told_5 : List UInt8 := dkwX0_told_5 ++ dktX0_told_6
def dkwX0_told_4 : List UInt8 := [180, 0, 169, 172, 42, 180, 0, 27, 182, 0, 172, 172, 42, 182, 0, 175, 172, 42, 27, 16, 10, 100]
abbrev dktX0_told_4 : List UInt8 := dkwX0_told_4 ++ dktX0_told_5
def dkwX0_told_3 : List UInt8 := [180, 0, 160, 172, 42, 180, 0, 34, 180, 0, 163, 172, 42, 180, 0, 34, 180, 0, 166, 172, 42, 180, 0, 27]
abbrev dktX0_told_3 : List UInt8 := dkwX0_told_3 ++ dktX0_told_4
def dkwX0_told_2 : List UInt8 := [42, 180, 0, 27, 180, 0, 157, 172, 42, 180, 0, 27, 180, 0, 143, 182, 0, 147, 172, 42, 180, 0, 27]
abbrev dktX0_told_2 : List UInt8 := dkwX0_told_2 ++ dktX0_told_3
def dkwX0_told_1 : List UInt8 := [170, 0, 0, 0, 0, 0, 111, 0, 0, 0, 0, 0, 0, 0, 7, 0, 0, 0, 47, 0, 0, 0, 55, 0, 0, 0, 66, 0, 0, 0, 74, 0, 0, 0, 82, 0, 0, 0, 90, 0, 0, 0, 98, 0, 0, 0, 106]
abbrev dktX0_told_1 : List UInt8 := dkwX0_told_1 ++ dktX0_told_2
def dkwX0_told_0 : List UInt8 := [27]
abbrev dktX0_told_0 : List UInt8 := dkwX0_told_0 ++ dktX0_told_1
theorem dksX0_told_0 : cX0_told.data.toList.drop 0 = dktX0_told_0 := by decide +kernel
theorem dksX0_told_1 : cX0_told.data.toList.drop 1 = dktX0_told_1 := dk_seg dksX0_told_0 1 rfl rfl
theorem dksX0_told_2 : cX0_told.data.toList.drop 48 = dktX0_told_2 := dk_seg dksX0_told_1 47 rfl rfl
theorem dksX0_told_3 : cX0_told.data.toList.drop 71 = dktX0_told_3 := dk_seg dksX0_told_2 23 rfl rfl
theorem dksX0_told_4 : cX0_told.data.toList.drop 95 = dktX0_told_4 := dk_seg dksX0_told_3 24 rfl rfl
theorem dksX0_told_5 : cX0_told.data.toList.drop 117 = dktX0_told_5 := dk_seg dksX0_told_4 22 rfl rfl
theorem dksX0_told_6 : cX0_told.data.toList.drop 140 = dktX0_told_6 := dk_seg dksX0_told_5 23 rfl rfl
theorem dksX0_told_7 : cX0_told.data.toList.drop 164 = dktX0_told_7 := dk_seg dksX0_told_6 24 rfl rfl
theorem dksX0_told_8 : cX0_told.data.toList.drop 188 = dktX0_told_8 := dk_seg dksX0_told_7 24 rfl rfl
theorem dksX0_told_9 : cX0_told.data.toList.drop 212 = dktX0_told_9 := dk_seg dksX0_told_8 24 rfl rfl
theorem dX0_told_0 : decode cX0_told 0 = .ok (.iload_n 1, 1) := dk_27 (dk_at dksX0_told_0 0 rfl rfl)
theorem dX0_told_1 : decode cX0_told 1 = .ok (.tableswitch 111 0 7 #[47, 55, 66, 74, 82, 90, 98, 106], 47) := by decide +kernel
theorem dX0_told_48 : decode cX0_told 48 = .ok (.aload_n 0, 1) := dk_42 (dk_at dksX0_told_2 0 rfl rfl)
theorem dX0_told_49 : decode cX0_told 49 = .ok (.getfield 27, 3) := dk_180 0 27 (dk_at dksX0_told_2 1 rfl rfl)
theorem dX0_told_52 : decode cX0_told 52 = .ok (.getfield 157, 3) := dk_180 0 157 (dk_at dksX0_told_2 4 rfl rfl)
theorem dX0_told_55 : decode cX0_told 55 = .ok (.ireturn, 1) := dk_172 (dk_at dksX0_told_2 7 rfl rfl)
theorem dX0_told_56 : decode cX0_told 56 = .ok (.aload_n 0, 1) := dk_42 (dk_at dksX0_told_2 8 rfl rfl)
theorem dX0_told_57 : decode cX0_told 57 = .ok (.getfield 27, 3) := dk_180 0 27 (dk_at dksX0_told_2 9 rfl rfl)
theorem dX0_told_60 : decode cX0_told 60 = .ok (.getfield 143, 3) := dk_180 0 143 (dk_at dksX0_told_2 12 rfl rfl)
theorem dX0_told_63 : decode cX0_told 63 = .ok (.invokevirtual 147, 3) := dk_182 0 147 (dk_at dksX0_told_2 15 rfl rfl)
theorem dX0_told_66 : decode cX0_told 66 = .ok (.ireturn, 1) := dk_172 (dk_at dksX0_told_2 18 rfl rfl)
theorem dX0_told_67 : decode cX0_told 67 = .ok (.aload_n 0, 1) := dk_42 (dk_at dksX0_told_2 19 rfl rfl)
theorem dX0_told_68 : decode cX0_told 68 = .ok (.getfield 27, 3) := dk_180 0 27 (dk_at dksX0_told_2 20 rfl rfl)
theorem dX0_told_71 : decode cX0_told 71 = .ok (.getfield 160, 3) := dk_180 0 160 (dk_at dksX0_told_3 0 rfl rfl)
theorem dX0_told_74 : decode cX0_told 74 = .ok (.ireturn, 1) := dk_172 (dk_at dksX0_told_3 3 rfl rfl)
theorem dX0_told_75 : decode cX0_told 75 = .ok (.aload_n 0, 1) := dk_42 (dk_at dksX0_told_3 4 rfl rfl)
theorem dX0_told_76 : decode cX0_told 76 = .ok (.getfield 34, 3) := dk_180 0 34 (dk_at dksX0_told_3 5 rfl rfl)
theorem dX0_told_79 : decode cX0_told 79 = .ok (.getfield 163, 3) := dk_180 0 163 (dk_at dksX0_told_3 8 rfl rfl)
theorem dX0_told_82 : decode cX0_told 82 = .ok (.ireturn, 1) := dk_172 (dk_at dksX0_told_3 11 rfl rfl)
theorem dX0_told_83 : decode cX0_told 83 = .ok (.aload_n 0, 1) := dk_42 (dk_at dksX0_told_3 12 rfl rfl)
theorem dX0_told_84 : decode cX0_told 84 = .ok (.getfield 34, 3) := dk_180 0 34 (dk_at dksX0_told_3 13 rfl rfl)
theorem dX0_told_87 : decode cX0_told 87 = .ok (.getfield 166, 3) := dk_180 0 166 (dk_at dksX0_told_3 16 rfl rfl)
theorem dX0_told_90 : decode cX0_told 90 = .ok (.ireturn, 1) := dk_172 (dk_at dksX0_told_3 19 rfl rfl)
theorem dX0_told_91 : decode cX0_told 91 = .ok (.aload_n 0, 1) := dk_42 (dk_at dksX0_told_3 20 rfl rfl)
theorem dX0_told_92 : decode cX0_told 92 = .ok (.getfield 27, 3) := dk_180 0 27 (dk_at dksX0_told_3 21 rfl rfl)
theorem dX0_told_95 : decode cX0_told 95 = .ok (.getfield 169, 3) := dk_180 0 169 (dk_at dksX0_told_4 0 rfl rfl)
theorem dX0_told_98 : decode cX0_told 98 = .ok (.ireturn, 1) := dk_172 (dk_at dksX0_told_4 3 rfl rfl)
theorem dX0_told_99 : decode cX0_told 99 = .ok (.aload_n 0, 1) := dk_42 (dk_at dksX0_told_4 4 rfl rfl)
theorem dX0_told_100 : decode cX0_told 100 = .ok (.getfield 27, 3) := dk_180 0 27 (dk_at dksX0_told_4 5 rfl rfl)
theorem dX0_told_103 : decode cX0_told 103 = .ok (.invokevirtual 172, 3) := dk_182 0 172 (dk_at dksX0_told_4 8 rfl rfl)
theorem dX0_told_106 : decode cX0_told 106 = .ok (.ireturn, 1) := dk_172 (dk_at dksX0_told_4 11 rfl rfl)
theorem dX0_told_107 : decode cX0_told 107 = .ok (.aload_n 0, 1) := dk_42 (dk_at dksX0_told_4 12 rfl rfl)
theorem dX0_told_108 : decode cX0_told 108 = .ok (.invokevirtual 175, 3) := dk_182 0 175 (dk_at dksX0_told_4 13 rfl rfl)
theorem dX0_told_111 : decode cX0_told 111 = .ok (.ireturn, 1) := dk_172 (dk_at dksX0_told_4 16 rfl rfl)
theorem dX0_told_112 : decode cX0_told 112 = .ok (.aload_n 0, 1) := dk_42 (dk_at dksX0_told_4 17 rfl rfl)
theorem dX0_told_113 : decode cX0_told 113 = .ok (.iload_n 1, 1) := dk_27 (dk_at dksX0_told_4 18 rfl rfl)
theorem dX0_told_114 : decode cX0_told 114 = .ok (.bipush 10, 2) := dk_16 10 (dk_at dksX0_told_4 19 rfl rfl)
theorem dX0_told_116 : decode cX0_told 116 = .ok (.isub, 1) := dk_100 (dk_at dksX0_told_4 21 rfl rfl)
theorem dX0_told_117 : decode cX0_told 117 = .ok (.invokevirtual 178, 3) := dk_182 0 178 (dk_at dksX0_told_5 0 rfl rfl)
theorem dX0_told_120 : decode cX0_told 120 = .ok (.ifCond .eq 24, 3) := dk_153 0 24 (dk_at dksX0_told_5 3 rfl rfl)
theorem dX0_told_123 : decode cX0_told 123 = .ok (.aload_n 0, 1) := dk_42 (dk_at dksX0_told_5 6 rfl rfl)
theorem dX0_told_124 : decode cX0_told 124 = .ok (.getfield 27, 3) := dk_180 0 27 (dk_at dksX0_told_5 7 rfl rfl)
theorem dX0_told_127 : decode cX0_told 127 = .ok (.getfield 143, 3) := dk_180 0 143 (dk_at dksX0_told_5 10 rfl rfl)
theorem dX0_told_130 : decode cX0_told 130 = .ok (.iload_n 1, 1) := dk_27 (dk_at dksX0_told_5 13 rfl rfl)
theorem dX0_told_131 : decode cX0_told 131 = .ok (.bipush 10, 2) := dk_16 10 (dk_at dksX0_told_5 14 rfl rfl)
theorem dX0_told_133 : decode cX0_told 133 = .ok (.isub, 1) := dk_100 (dk_at dksX0_told_5 16 rfl rfl)
theorem dX0_told_134 : decode cX0_told 134 = .ok (.invokevirtual 182, 3) := dk_182 0 182 (dk_at dksX0_told_5 17 rfl rfl)
theorem dX0_told_137 : decode cX0_told 137 = .ok (.checkcast 186, 3) := dk_192 0 186 (dk_at dksX0_told_5 20 rfl rfl)
theorem dX0_told_140 : decode cX0_told 140 = .ok (.getfield 188, 3) := dk_180 0 188 (dk_at dksX0_told_6 0 rfl rfl)
theorem dX0_told_143 : decode cX0_told 143 = .ok (.ireturn, 1) := dk_172 (dk_at dksX0_told_6 3 rfl rfl)
theorem dX0_told_144 : decode cX0_told 144 = .ok (.aload_n 0, 1) := dk_42 (dk_at dksX0_told_6 4 rfl rfl)
theorem dX0_told_145 : decode cX0_told 145 = .ok (.iload_n 1, 1) := dk_27 (dk_at dksX0_told_6 5 rfl rfl)
theorem dX0_told_146 : decode cX0_told 146 = .ok (.bipush 20, 2) := dk_16 20 (dk_at dksX0_told_6 6 rfl rfl)
theorem dX0_told_148 : decode cX0_told 148 = .ok (.isub, 1) := dk_100 (dk_at dksX0_told_6 8 rfl rfl)
theorem dX0_told_149 : decode cX0_told 149 = .ok (.invokevirtual 178, 3) := dk_182 0 178 (dk_at dksX0_told_6 9 rfl rfl)
theorem dX0_told_152 : decode cX0_told 152 = .ok (.ifCond .eq 48, 3) := dk_153 0 48 (dk_at dksX0_told_6 12 rfl rfl)
theorem dX0_told_155 : decode cX0_told 155 = .ok (.bipush 8, 2) := dk_16 8 (dk_at dksX0_told_6 15 rfl rfl)
theorem dX0_told_157 : decode cX0_told 157 = .ok (.aload_n 0, 1) := dk_42 (dk_at dksX0_told_6 17 rfl rfl)
theorem dX0_told_158 : decode cX0_told 158 = .ok (.getfield 27, 3) := dk_180 0 27 (dk_at dksX0_told_6 18 rfl rfl)
theorem dX0_told_161 : decode cX0_told 161 = .ok (.getfield 143, 3) := dk_180 0 143 (dk_at dksX0_told_6 21 rfl rfl)
theorem dX0_told_164 : decode cX0_told 164 = .ok (.iload_n 1, 1) := dk_27 (dk_at dksX0_told_7 0 rfl rfl)
theorem dX0_told_165 : decode cX0_told 165 = .ok (.bipush 20, 2) := dk_16 20 (dk_at dksX0_told_7 1 rfl rfl)
theorem dX0_told_167 : decode cX0_told 167 = .ok (.isub, 1) := dk_100 (dk_at dksX0_told_7 3 rfl rfl)
theorem dX0_told_168 : decode cX0_told 168 = .ok (.invokevirtual 182, 3) := dk_182 0 182 (dk_at dksX0_told_7 4 rfl rfl)
theorem dX0_told_171 : decode cX0_told 171 = .ok (.checkcast 186, 3) := dk_192 0 186 (dk_at dksX0_told_7 7 rfl rfl)
theorem dX0_told_174 : decode cX0_told 174 = .ok (.getfield 191, 3) := dk_180 0 191 (dk_at dksX0_told_7 10 rfl rfl)
theorem dX0_told_177 : decode cX0_told 177 = .ok (.imul, 1) := dk_104 (dk_at dksX0_told_7 13 rfl rfl)
theorem dX0_told_178 : decode cX0_told 178 = .ok (.aload_n 0, 1) := dk_42 (dk_at dksX0_told_7 14 rfl rfl)
theorem dX0_told_179 : decode cX0_told 179 = .ok (.getfield 27, 3) := dk_180 0 27 (dk_at dksX0_told_7 15 rfl rfl)
theorem dX0_told_182 : decode cX0_told 182 = .ok (.getfield 143, 3) := dk_180 0 143 (dk_at dksX0_told_7 18 rfl rfl)
theorem dX0_told_185 : decode cX0_told 185 = .ok (.iload_n 1, 1) := dk_27 (dk_at dksX0_told_7 21 rfl rfl)
theorem dX0_told_186 : decode cX0_told 186 = .ok (.bipush 20, 2) := dk_16 20 (dk_at dksX0_told_7 22 rfl rfl)
theorem dX0_told_188 : decode cX0_told 188 = .ok (.isub, 1) := dk_100 (dk_at dksX0_told_8 0 rfl rfl)
theorem dX0_told_189 : decode cX0_told 189 = .ok (.invokevirtual 182, 3) := dk_182 0 182 (dk_at dksX0_told_8 1 rfl rfl)
theorem dX0_told_192 : decode cX0_told 192 = .ok (.checkcast 186, 3) := dk_192 0 186 (dk_at dksX0_told_8 4 rfl rfl)
theorem dX0_told_195 : decode cX0_told 195 = .ok (.getfield 194, 3) := dk_180 0 194 (dk_at dksX0_told_8 7 rfl rfl)
theorem dX0_told_198 : decode cX0_told 198 = .ok (.iadd, 1) := dk_96 (dk_at dksX0_told_8 10 rfl rfl)
theorem dX0_told_199 : decode cX0_told 199 = .ok (.ireturn, 1) := dk_172 (dk_at dksX0_told_8 11 rfl rfl)
theorem dX0_told_200 : decode cX0_told 200 = .ok (.iload_n 1, 1) := dk_27 (dk_at dksX0_told_8 12 rfl rfl)
theorem dX0_told_201 : decode cX0_told 201 = .ok (.bipush 30, 2) := dk_16 30 (dk_at dksX0_told_8 13 rfl rfl)
theorem dX0_told_203 : decode cX0_told 203 = .ok (.bipush 29, 2) := dk_16 29 (dk_at dksX0_told_8 15 rfl rfl)
theorem dX0_told_205 : decode cX0_told 205 = .ok (.aload_n 0, 1) := dk_42 (dk_at dksX0_told_8 17 rfl rfl)
theorem dX0_told_206 : decode cX0_told 206 = .ok (.getfield 27, 3) := dk_180 0 27 (dk_at dksX0_told_8 18 rfl rfl)
theorem dX0_told_209 : decode cX0_told 209 = .ok (.getfield 160, 3) := dk_180 0 160 (dk_at dksX0_told_8 21 rfl rfl)
theorem dX0_told_212 : decode cX0_told 212 = .ok (.iadd, 1) := dk_96 (dk_at dksX0_told_9 0 rfl rfl)
theorem dX0_told_213 : decode cX0_told 213 = .ok (.invokestatic 153, 3) := dk_184 0 153 (dk_at dksX0_told_9 1 rfl rfl)
theorem dX0_told_216 : decode cX0_told 216 = .ok (.ifCond .eq 18, 3) := dk_153 0 18 (dk_at dksX0_told_9 4 rfl rfl)
theorem dX0_told_219 : decode cX0_told 219 = .ok (.aload_n 0, 1) := dk_42 (dk_at dksX0_told_9 7 rfl rfl)
theorem dX0_told_220 : decode cX0_told 220 = .ok (.getfield 27, 3) := dk_180 0 27 (dk_at dksX0_told_9 8 rfl rfl)
theorem dX0_told_223 : decode cX0_told 223 = .ok (.getfield 197, 3) := dk_180 0 197 (dk_at dksX0_told_9 11 rfl rfl)
theorem dX0_told_226 : decode cX0_told 226 = .ok (.iload_n 1, 1) := dk_27 (dk_at dksX0_told_9 14 rfl rfl)
theorem dX0_told_227 : decode cX0_told 227 = .ok (.bipush 30, 2) := dk_16 30 (dk_at dksX0_told_9 15 rfl rfl)
theorem dX0_told_229 : decode cX0_told 229 = .ok (.isub, 1) := dk_100 (dk_at dksX0_told_9 17 rfl rfl)
theorem dX0_told_230 : decode cX0_told 230 = .ok (.iaload, 1) := dk_46 (dk_at dksX0_told_9 18 rfl rfl)
theorem dX0_told_231 : decode cX0_told 231 = .ok (.goto 4, 3) := dk_167 0 4 (dk_at dksX0_told_9 19 rfl rfl)
theorem dX0_told_234 : decode cX0_told 234 = .ok (.iconst (-1), 1) := dk_2 (dk_at dksX0_told_9 22 rfl rfl)
theorem dX0_told_235 : decode cX0_told 235 = .ok (.ireturn, 1) := dk_172 (dk_at dksX0_told_9 23 rfl rfl)
abbrev cX0_salted : ByteArray := prog_1_method_10_code
def yX0_salted : MethodName := ⟨RX0, "salted", "()I"⟩
def dkwX0_salted_2 : List UInt8 := [60, 132, 2, 1, 167, 255, 209, 27, 172]
abbrev dktX0_salted_2 : List UInt8 := dkwX0_salted_2 ++ []
def dkwX0_salted_1 : List UInt8 := [180, 0, 143, 28, 182, 0, 182, 192, 0, 186, 180, 0, 200, 153, 0, 9, 4, 28, 120, 167, 0, 4, 3, 128]
abbrev dktX0_salted_1 : List UInt8 := dkwX0_salted_1 ++ dktX0_salted_2
def dkwX0_salted_0 : List UInt8 := [3, 60, 3, 61, 28, 42, 180, 0, 27, 180, 0, 143, 182, 0, 147, 162, 0, 39, 27, 42, 180, 0, 27]
abbrev dktX0_salted_0 : List UInt8 := dkwX0_salted_0 ++ dktX0_salted_1
theorem dksX0_salted_0 : cX0_salted.data.toList.drop 0 = dktX0_salted_0 := by decide +kernel
theorem dksX0_salted_1 : cX0_salted.data.toList.drop 23 = dktX0_salted_1 := dk_seg dksX0_salted_0 23 rfl rfl
theorem dksX0_salted_2 : cX0_salted.data.toList.drop 47 = dktX0_salted_2 := dk_seg dksX0_salted_1 24 rfl rfl
theorem dX0_salted_0 : decode cX0_salted 0 = .ok (.iconst 0, 1) := dk_3 (dk_at dksX0_salted_0 0 rfl rfl)
theorem dX0_salted_1 : decode cX0_salted 1 = .ok (.istore_n 1, 1) := dk_60 (dk_at dksX0_salted_0 1 rfl rfl)
theorem dX0_salted_2 : decode cX0_salted 2 = .ok (.iconst 0, 1) := dk_3 (dk_at dksX0_salted_0 2 rfl rfl)
theorem dX0_salted_3 : decode cX0_salted 3 = .ok (.istore_n 2, 1) := dk_61 (dk_at dksX0_salted_0 3 rfl rfl)
theorem dX0_salted_4 : decode cX0_salted 4 = .ok (.iload_n 2, 1) := dk_28 (dk_at dksX0_salted_0 4 rfl rfl)
theorem dX0_salted_5 : decode cX0_salted 5 = .ok (.aload_n 0, 1) := dk_42 (dk_at dksX0_salted_0 5 rfl rfl)
theorem dX0_salted_6 : decode cX0_salted 6 = .ok (.getfield 27, 3) := dk_180 0 27 (dk_at dksX0_salted_0 6 rfl rfl)
theorem dX0_salted_9 : decode cX0_salted 9 = .ok (.getfield 143, 3) := dk_180 0 143 (dk_at dksX0_salted_0 9 rfl rfl)
theorem dX0_salted_12 : decode cX0_salted 12 = .ok (.invokevirtual 147, 3) := dk_182 0 147 (dk_at dksX0_salted_0 12 rfl rfl)
theorem dX0_salted_15 : decode cX0_salted 15 = .ok (.if_icmp .ge 39, 3) := dk_162 0 39 (dk_at dksX0_salted_0 15 rfl rfl)
theorem dX0_salted_18 : decode cX0_salted 18 = .ok (.iload_n 1, 1) := dk_27 (dk_at dksX0_salted_0 18 rfl rfl)
theorem dX0_salted_19 : decode cX0_salted 19 = .ok (.aload_n 0, 1) := dk_42 (dk_at dksX0_salted_0 19 rfl rfl)
theorem dX0_salted_20 : decode cX0_salted 20 = .ok (.getfield 27, 3) := dk_180 0 27 (dk_at dksX0_salted_0 20 rfl rfl)
theorem dX0_salted_23 : decode cX0_salted 23 = .ok (.getfield 143, 3) := dk_180 0 143 (dk_at dksX0_salted_1 0 rfl rfl)
theorem dX0_salted_26 : decode cX0_salted 26 = .ok (.iload_n 2, 1) := dk_28 (dk_at dksX0_salted_1 3 rfl rfl)
theorem dX0_salted_27 : decode cX0_salted 27 = .ok (.invokevirtual 182, 3) := dk_182 0 182 (dk_at dksX0_salted_1 4 rfl rfl)
theorem dX0_salted_30 : decode cX0_salted 30 = .ok (.checkcast 186, 3) := dk_192 0 186 (dk_at dksX0_salted_1 7 rfl rfl)
theorem dX0_salted_33 : decode cX0_salted 33 = .ok (.getfield 200, 3) := dk_180 0 200 (dk_at dksX0_salted_1 10 rfl rfl)
theorem dX0_salted_36 : decode cX0_salted 36 = .ok (.ifCond .eq 9, 3) := dk_153 0 9 (dk_at dksX0_salted_1 13 rfl rfl)
theorem dX0_salted_39 : decode cX0_salted 39 = .ok (.iconst 1, 1) := dk_4 (dk_at dksX0_salted_1 16 rfl rfl)
theorem dX0_salted_40 : decode cX0_salted 40 = .ok (.iload_n 2, 1) := dk_28 (dk_at dksX0_salted_1 17 rfl rfl)
theorem dX0_salted_41 : decode cX0_salted 41 = .ok (.ishl, 1) := dk_120 (dk_at dksX0_salted_1 18 rfl rfl)
theorem dX0_salted_42 : decode cX0_salted 42 = .ok (.goto 4, 3) := dk_167 0 4 (dk_at dksX0_salted_1 19 rfl rfl)
theorem dX0_salted_45 : decode cX0_salted 45 = .ok (.iconst 0, 1) := dk_3 (dk_at dksX0_salted_1 22 rfl rfl)
theorem dX0_salted_46 : decode cX0_salted 46 = .ok (.ior, 1) := dk_128 (dk_at dksX0_salted_1 23 rfl rfl)
theorem dX0_salted_47 : decode cX0_salted 47 = .ok (.istore_n 1, 1) := dk_60 (dk_at dksX0_salted_2 0 rfl rfl)
theorem dX0_salted_48 : decode cX0_salted 48 = .ok (.iinc 2 1, 3) := dk_132 2 1 (dk_at dksX0_salted_2 1 rfl rfl)
theorem dX0_salted_51 : decode cX0_salted 51 = .ok (.goto (-47), 3) := dk_167 255 209 (dk_at dksX0_salted_2 4 rfl rfl)
theorem dX0_salted_54 : decode cX0_salted 54 = .ok (.iload_n 1, 1) := dk_27 (dk_at dksX0_salted_2 7 rfl rfl)
theorem dX0_salted_55 : decode cX0_salted 55 = .ok (.ireturn, 1) := dk_172 (dk_at dksX0_salted_2 8 rfl rfl)
abbrev cX0_isPipe : ByteArray := prog_1_method_8_code
def yX0_isPipe : MethodName := ⟨RX0, "isPipe", "(I)Z"⟩
def dkwX0_isPipe_0 : List UInt8 := [27, 3, 42, 180, 0, 27, 180, 0, 143, 182, 0, 147, 4, 100, 184, 0, 153, 172]
abbrev dktX0_isPipe_0 : List UInt8 := dkwX0_isPipe_0 ++ []
theorem dksX0_isPipe_0 : cX0_isPipe.data.toList.drop 0 = dktX0_isPipe_0 := by decide +kernel
theorem dX0_isPipe_0 : decode cX0_isPipe 0 = .ok (.iload_n 1, 1) := dk_27 (dk_at dksX0_isPipe_0 0 rfl rfl)
theorem dX0_isPipe_1 : decode cX0_isPipe 1 = .ok (.iconst 0, 1) := dk_3 (dk_at dksX0_isPipe_0 1 rfl rfl)
theorem dX0_isPipe_2 : decode cX0_isPipe 2 = .ok (.aload_n 0, 1) := dk_42 (dk_at dksX0_isPipe_0 2 rfl rfl)
theorem dX0_isPipe_3 : decode cX0_isPipe 3 = .ok (.getfield 27, 3) := dk_180 0 27 (dk_at dksX0_isPipe_0 3 rfl rfl)
theorem dX0_isPipe_6 : decode cX0_isPipe 6 = .ok (.getfield 143, 3) := dk_180 0 143 (dk_at dksX0_isPipe_0 6 rfl rfl)
theorem dX0_isPipe_9 : decode cX0_isPipe 9 = .ok (.invokevirtual 147, 3) := dk_182 0 147 (dk_at dksX0_isPipe_0 9 rfl rfl)
theorem dX0_isPipe_12 : decode cX0_isPipe 12 = .ok (.iconst 1, 1) := dk_4 (dk_at dksX0_isPipe_0 12 rfl rfl)
theorem dX0_isPipe_13 : decode cX0_isPipe 13 = .ok (.isub, 1) := dk_100 (dk_at dksX0_isPipe_0 13 rfl rfl)
theorem dX0_isPipe_14 : decode cX0_isPipe 14 = .ok (.invokestatic 153, 3) := dk_184 0 153 (dk_at dksX0_isPipe_0 14 rfl rfl)
theorem dX0_isPipe_17 : decode cX0_isPipe 17 = .ok (.ireturn, 1) := dk_172 (dk_at dksX0_isPipe_0 17 rfl rfl)
abbrev cX0_width : ByteArray := prog_1_method_11_code
def yX0_width : MethodName := ⟨RX0, "width", "(I)I"⟩
def dkwX0_width_0 : List UInt8 := [42, 27, 182, 0, 178, 153, 0, 15, 42, 180, 0, 34, 180, 0, 203, 27, 46, 167, 0, 5, 16, 254, 172]
abbrev dktX0_width_0 : List UInt8 := dkwX0_width_0 ++ []
theorem dksX0_width_0 : cX0_width.data.toList.drop 0 = dktX0_width_0 := by decide +kernel
theorem dX0_width_0 : decode cX0_width 0 = .ok (.aload_n 0, 1) := dk_42 (dk_at dksX0_width_0 0 rfl rfl)
theorem dX0_width_1 : decode cX0_width 1 = .ok (.iload_n 1, 1) := dk_27 (dk_at dksX0_width_0 1 rfl rfl)
theorem dX0_width_2 : decode cX0_width 2 = .ok (.invokevirtual 178, 3) := dk_182 0 178 (dk_at dksX0_width_0 2 rfl rfl)
theorem dX0_width_5 : decode cX0_width 5 = .ok (.ifCond .eq 15, 3) := dk_153 0 15 (dk_at dksX0_width_0 5 rfl rfl)
theorem dX0_width_8 : decode cX0_width 8 = .ok (.aload_n 0, 1) := dk_42 (dk_at dksX0_width_0 8 rfl rfl)
theorem dX0_width_9 : decode cX0_width 9 = .ok (.getfield 34, 3) := dk_180 0 34 (dk_at dksX0_width_0 9 rfl rfl)
theorem dX0_width_12 : decode cX0_width 12 = .ok (.getfield 203, 3) := dk_180 0 203 (dk_at dksX0_width_0 12 rfl rfl)
theorem dX0_width_15 : decode cX0_width 15 = .ok (.iload_n 1, 1) := dk_27 (dk_at dksX0_width_0 15 rfl rfl)
theorem dX0_width_16 : decode cX0_width 16 = .ok (.iaload, 1) := dk_46 (dk_at dksX0_width_0 16 rfl rfl)
theorem dX0_width_17 : decode cX0_width 17 = .ok (.goto 5, 3) := dk_167 0 5 (dk_at dksX0_width_0 17 rfl rfl)
theorem dX0_width_20 : decode cX0_width 20 = .ok (.bipush (-2), 2) := dk_16 254 (dk_at dksX0_width_0 20 rfl rfl)
theorem dX0_width_22 : decode cX0_width 22 = .ok (.ireturn, 1) := dk_172 (dk_at dksX0_width_0 22 rfl rfl)
abbrev cX0_learnt : ByteArray := prog_1_method_12_code
def yX0_learnt : MethodName := ⟨RX0, "learnt", "(I)I"⟩
def dkwX0_learnt_1 : List UInt8 := [192, 0, 186, 180, 0, 200, 153, 0, 15, 42, 180, 0, 34, 180, 0, 206, 27, 46, 167, 0, 4, 2, 172]
abbrev dktX0_learnt_1 : List UInt8 := dkwX0_learnt_1 ++ []
def dkwX0_learnt_0 : List UInt8 := [42, 27, 182, 0, 178, 154, 0, 8, 16, 254, 167, 0, 36, 42, 180, 0, 27, 180, 0, 143, 27, 182, 0, 182]
abbrev dktX0_learnt_0 : List UInt8 := dkwX0_learnt_0 ++ dktX0_learnt_1
theorem dksX0_learnt_0 : cX0_learnt.data.toList.drop 0 = dktX0_learnt_0 := by decide +kernel
theorem dksX0_learnt_1 : cX0_learnt.data.toList.drop 24 = dktX0_learnt_1 := dk_seg dksX0_learnt_0 24 rfl rfl
theorem dX0_learnt_0 : decode cX0_learnt 0 = .ok (.aload_n 0, 1) := dk_42 (dk_at dksX0_learnt_0 0 rfl rfl)
theorem dX0_learnt_1 : decode cX0_learnt 1 = .ok (.iload_n 1, 1) := dk_27 (dk_at dksX0_learnt_0 1 rfl rfl)
theorem dX0_learnt_2 : decode cX0_learnt 2 = .ok (.invokevirtual 178, 3) := dk_182 0 178 (dk_at dksX0_learnt_0 2 rfl rfl)
theorem dX0_learnt_5 : decode cX0_learnt 5 = .ok (.ifCond .ne 8, 3) := dk_154 0 8 (dk_at dksX0_learnt_0 5 rfl rfl)
theorem dX0_learnt_8 : decode cX0_learnt 8 = .ok (.bipush (-2), 2) := dk_16 254 (dk_at dksX0_learnt_0 8 rfl rfl)
theorem dX0_learnt_10 : decode cX0_learnt 10 = .ok (.goto 36, 3) := dk_167 0 36 (dk_at dksX0_learnt_0 10 rfl rfl)
theorem dX0_learnt_13 : decode cX0_learnt 13 = .ok (.aload_n 0, 1) := dk_42 (dk_at dksX0_learnt_0 13 rfl rfl)
theorem dX0_learnt_14 : decode cX0_learnt 14 = .ok (.getfield 27, 3) := dk_180 0 27 (dk_at dksX0_learnt_0 14 rfl rfl)
theorem dX0_learnt_17 : decode cX0_learnt 17 = .ok (.getfield 143, 3) := dk_180 0 143 (dk_at dksX0_learnt_0 17 rfl rfl)
theorem dX0_learnt_20 : decode cX0_learnt 20 = .ok (.iload_n 1, 1) := dk_27 (dk_at dksX0_learnt_0 20 rfl rfl)
theorem dX0_learnt_21 : decode cX0_learnt 21 = .ok (.invokevirtual 182, 3) := dk_182 0 182 (dk_at dksX0_learnt_0 21 rfl rfl)
theorem dX0_learnt_24 : decode cX0_learnt 24 = .ok (.checkcast 186, 3) := dk_192 0 186 (dk_at dksX0_learnt_1 0 rfl rfl)
theorem dX0_learnt_27 : decode cX0_learnt 27 = .ok (.getfield 200, 3) := dk_180 0 200 (dk_at dksX0_learnt_1 3 rfl rfl)
theorem dX0_learnt_30 : decode cX0_learnt 30 = .ok (.ifCond .eq 15, 3) := dk_153 0 15 (dk_at dksX0_learnt_1 6 rfl rfl)
theorem dX0_learnt_33 : decode cX0_learnt 33 = .ok (.aload_n 0, 1) := dk_42 (dk_at dksX0_learnt_1 9 rfl rfl)
theorem dX0_learnt_34 : decode cX0_learnt 34 = .ok (.getfield 34, 3) := dk_180 0 34 (dk_at dksX0_learnt_1 10 rfl rfl)
theorem dX0_learnt_37 : decode cX0_learnt 37 = .ok (.getfield 206, 3) := dk_180 0 206 (dk_at dksX0_learnt_1 13 rfl rfl)
theorem dX0_learnt_40 : decode cX0_learnt 40 = .ok (.iload_n 1, 1) := dk_27 (dk_at dksX0_learnt_1 16 rfl rfl)
theorem dX0_learnt_41 : decode cX0_learnt 41 = .ok (.iaload, 1) := dk_46 (dk_at dksX0_learnt_1 17 rfl rfl)
theorem dX0_learnt_42 : decode cX0_learnt 42 = .ok (.goto 4, 3) := dk_167 0 4 (dk_at dksX0_learnt_1 18 rfl rfl)
theorem dX0_learnt_45 : decode cX0_learnt 45 = .ok (.iconst (-1), 1) := dk_2 (dk_at dksX0_learnt_1 21 rfl rfl)
theorem dX0_learnt_46 : decode cX0_learnt 46 = .ok (.ireturn, 1) := dk_172 (dk_at dksX0_learnt_1 22 rfl rfl)
abbrev cX0_set : ByteArray := prog_1_method_13_code
def yX0_set : MethodName := ⟨RX0, "set", "(II)I"⟩
def dkwX0_set_1 : List UInt8 := [180, 0, 34, 180, 0, 203, 27, 46, 62, 42, 180, 0, 34, 180, 0, 203, 27, 28, 79, 29, 172]
abbrev dktX0_set_1 : List UInt8 := dkwX0_set_1 ++ []
def dkwX0_set_0 : List UInt8 := [42, 27, 182, 0, 178, 153, 0, 13, 28, 3, 16, 9, 184, 0, 153, 154, 0, 6, 16, 254, 172, 42]
abbrev dktX0_set_0 : List UInt8 := dkwX0_set_0 ++ dktX0_set_1
theorem dksX0_set_0 : cX0_set.data.toList.drop 0 = dktX0_set_0 := by decide +kernel
theorem dksX0_set_1 : cX0_set.data.toList.drop 22 = dktX0_set_1 := dk_seg dksX0_set_0 22 rfl rfl
theorem dX0_set_0 : decode cX0_set 0 = .ok (.aload_n 0, 1) := dk_42 (dk_at dksX0_set_0 0 rfl rfl)
theorem dX0_set_1 : decode cX0_set 1 = .ok (.iload_n 1, 1) := dk_27 (dk_at dksX0_set_0 1 rfl rfl)
theorem dX0_set_2 : decode cX0_set 2 = .ok (.invokevirtual 178, 3) := dk_182 0 178 (dk_at dksX0_set_0 2 rfl rfl)
theorem dX0_set_5 : decode cX0_set 5 = .ok (.ifCond .eq 13, 3) := dk_153 0 13 (dk_at dksX0_set_0 5 rfl rfl)
theorem dX0_set_8 : decode cX0_set 8 = .ok (.iload_n 2, 1) := dk_28 (dk_at dksX0_set_0 8 rfl rfl)
theorem dX0_set_9 : decode cX0_set 9 = .ok (.iconst 0, 1) := dk_3 (dk_at dksX0_set_0 9 rfl rfl)
theorem dX0_set_10 : decode cX0_set 10 = .ok (.bipush 9, 2) := dk_16 9 (dk_at dksX0_set_0 10 rfl rfl)
theorem dX0_set_12 : decode cX0_set 12 = .ok (.invokestatic 153, 3) := dk_184 0 153 (dk_at dksX0_set_0 12 rfl rfl)
theorem dX0_set_15 : decode cX0_set 15 = .ok (.ifCond .ne 6, 3) := dk_154 0 6 (dk_at dksX0_set_0 15 rfl rfl)
theorem dX0_set_18 : decode cX0_set 18 = .ok (.bipush (-2), 2) := dk_16 254 (dk_at dksX0_set_0 18 rfl rfl)
theorem dX0_set_20 : decode cX0_set 20 = .ok (.ireturn, 1) := dk_172 (dk_at dksX0_set_0 20 rfl rfl)
theorem dX0_set_21 : decode cX0_set 21 = .ok (.aload_n 0, 1) := dk_42 (dk_at dksX0_set_0 21 rfl rfl)
theorem dX0_set_22 : decode cX0_set 22 = .ok (.getfield 34, 3) := dk_180 0 34 (dk_at dksX0_set_1 0 rfl rfl)
theorem dX0_set_25 : decode cX0_set 25 = .ok (.getfield 203, 3) := dk_180 0 203 (dk_at dksX0_set_1 3 rfl rfl)
theorem dX0_set_28 : decode cX0_set 28 = .ok (.iload_n 1, 1) := dk_27 (dk_at dksX0_set_1 6 rfl rfl)
theorem dX0_set_29 : decode cX0_set 29 = .ok (.iaload, 1) := dk_46 (dk_at dksX0_set_1 7 rfl rfl)
theorem dX0_set_30 : decode cX0_set 30 = .ok (.istore_n 3, 1) := dk_62 (dk_at dksX0_set_1 8 rfl rfl)
theorem dX0_set_31 : decode cX0_set 31 = .ok (.aload_n 0, 1) := dk_42 (dk_at dksX0_set_1 9 rfl rfl)
theorem dX0_set_32 : decode cX0_set 32 = .ok (.getfield 34, 3) := dk_180 0 34 (dk_at dksX0_set_1 10 rfl rfl)
theorem dX0_set_35 : decode cX0_set 35 = .ok (.getfield 203, 3) := dk_180 0 203 (dk_at dksX0_set_1 13 rfl rfl)
theorem dX0_set_38 : decode cX0_set 38 = .ok (.iload_n 1, 1) := dk_27 (dk_at dksX0_set_1 16 rfl rfl)
theorem dX0_set_39 : decode cX0_set 39 = .ok (.iload_n 2, 1) := dk_28 (dk_at dksX0_set_1 17 rfl rfl)
theorem dX0_set_40 : decode cX0_set 40 = .ok (.iastore, 1) := dk_79 (dk_at dksX0_set_1 18 rfl rfl)
theorem dX0_set_41 : decode cX0_set 41 = .ok (.iload_n 3, 1) := dk_29 (dk_at dksX0_set_1 19 rfl rfl)
theorem dX0_set_42 : decode cX0_set 42 = .ok (.ireturn, 1) := dk_172 (dk_at dksX0_set_1 20 rfl rfl)
abbrev cX0_law : ByteArray := prog_1_method_14_code
def yX0_law : MethodName := ⟨RX0, "law", "(II)I"⟩
def dkwX0_law_1 : List UInt8 := [180, 0, 34, 27, 181, 0, 163, 42, 180, 0, 34, 28, 181, 0, 166, 4, 172]
abbrev dktX0_law_1 : List UInt8 := dkwX0_law_1 ++ []
def dkwX0_law_0 : List UInt8 := [27, 3, 16, 20, 184, 0, 153, 153, 0, 13, 28, 3, 16, 20, 184, 0, 153, 154, 0, 6, 16, 254, 172, 42]
abbrev dktX0_law_0 : List UInt8 := dkwX0_law_0 ++ dktX0_law_1
theorem dksX0_law_0 : cX0_law.data.toList.drop 0 = dktX0_law_0 := by decide +kernel
theorem dksX0_law_1 : cX0_law.data.toList.drop 24 = dktX0_law_1 := dk_seg dksX0_law_0 24 rfl rfl
theorem dX0_law_0 : decode cX0_law 0 = .ok (.iload_n 1, 1) := dk_27 (dk_at dksX0_law_0 0 rfl rfl)
theorem dX0_law_1 : decode cX0_law 1 = .ok (.iconst 0, 1) := dk_3 (dk_at dksX0_law_0 1 rfl rfl)
theorem dX0_law_2 : decode cX0_law 2 = .ok (.bipush 20, 2) := dk_16 20 (dk_at dksX0_law_0 2 rfl rfl)
theorem dX0_law_4 : decode cX0_law 4 = .ok (.invokestatic 153, 3) := dk_184 0 153 (dk_at dksX0_law_0 4 rfl rfl)
theorem dX0_law_7 : decode cX0_law 7 = .ok (.ifCond .eq 13, 3) := dk_153 0 13 (dk_at dksX0_law_0 7 rfl rfl)
theorem dX0_law_10 : decode cX0_law 10 = .ok (.iload_n 2, 1) := dk_28 (dk_at dksX0_law_0 10 rfl rfl)
theorem dX0_law_11 : decode cX0_law 11 = .ok (.iconst 0, 1) := dk_3 (dk_at dksX0_law_0 11 rfl rfl)
theorem dX0_law_12 : decode cX0_law 12 = .ok (.bipush 20, 2) := dk_16 20 (dk_at dksX0_law_0 12 rfl rfl)
theorem dX0_law_14 : decode cX0_law 14 = .ok (.invokestatic 153, 3) := dk_184 0 153 (dk_at dksX0_law_0 14 rfl rfl)
theorem dX0_law_17 : decode cX0_law 17 = .ok (.ifCond .ne 6, 3) := dk_154 0 6 (dk_at dksX0_law_0 17 rfl rfl)
theorem dX0_law_20 : decode cX0_law 20 = .ok (.bipush (-2), 2) := dk_16 254 (dk_at dksX0_law_0 20 rfl rfl)
theorem dX0_law_22 : decode cX0_law 22 = .ok (.ireturn, 1) := dk_172 (dk_at dksX0_law_0 22 rfl rfl)
theorem dX0_law_23 : decode cX0_law 23 = .ok (.aload_n 0, 1) := dk_42 (dk_at dksX0_law_0 23 rfl rfl)
theorem dX0_law_24 : decode cX0_law 24 = .ok (.getfield 34, 3) := dk_180 0 34 (dk_at dksX0_law_1 0 rfl rfl)
theorem dX0_law_27 : decode cX0_law 27 = .ok (.iload_n 1, 1) := dk_27 (dk_at dksX0_law_1 3 rfl rfl)
theorem dX0_law_28 : decode cX0_law 28 = .ok (.putfield 163, 3) := dk_181 0 163 (dk_at dksX0_law_1 4 rfl rfl)
theorem dX0_law_31 : decode cX0_law 31 = .ok (.aload_n 0, 1) := dk_42 (dk_at dksX0_law_1 7 rfl rfl)
theorem dX0_law_32 : decode cX0_law 32 = .ok (.getfield 34, 3) := dk_180 0 34 (dk_at dksX0_law_1 8 rfl rfl)
theorem dX0_law_35 : decode cX0_law 35 = .ok (.iload_n 2, 1) := dk_28 (dk_at dksX0_law_1 11 rfl rfl)
theorem dX0_law_36 : decode cX0_law 36 = .ok (.putfield 166, 3) := dk_181 0 166 (dk_at dksX0_law_1 12 rfl rfl)
theorem dX0_law_39 : decode cX0_law 39 = .ok (.iconst 1, 1) := dk_4 (dk_at dksX0_law_1 15 rfl rfl)
theorem dX0_law_40 : decode cX0_law 40 = .ok (.ireturn, 1) := dk_172 (dk_at dksX0_law_1 16 rfl rfl)
abbrev cX0_flow : ByteArray := prog_1_method_16_code
def yX0_flow : MethodName := ⟨RX0, "flow", "(I)J"⟩
def dkwX0_flow_2 : List UInt8 := [109, 173]
abbrev dktX0_flow_2 : List UInt8 := dkwX0_flow_2 ++ []
def dkwX0_flow_1 : List UInt8 := [180, 0, 220, 27, 47, 42, 180, 0, 34, 180, 0, 220, 27, 47, 42, 180, 0, 34, 180, 0, 223, 184, 0, 227]
abbrev dktX0_flow_1 : List UInt8 := dkwX0_flow_1 ++ dktX0_flow_2
def dkwX0_flow_0 : List UInt8 := [42, 27, 182, 0, 178, 154, 0, 7, 20, 0, 215, 173, 42, 180, 0, 34, 182, 0, 217, 42, 180, 0, 34]
abbrev dktX0_flow_0 : List UInt8 := dkwX0_flow_0 ++ dktX0_flow_1
theorem dksX0_flow_0 : cX0_flow.data.toList.drop 0 = dktX0_flow_0 := by decide +kernel
theorem dksX0_flow_1 : cX0_flow.data.toList.drop 23 = dktX0_flow_1 := dk_seg dksX0_flow_0 23 rfl rfl
theorem dksX0_flow_2 : cX0_flow.data.toList.drop 47 = dktX0_flow_2 := dk_seg dksX0_flow_1 24 rfl rfl
theorem dX0_flow_0 : decode cX0_flow 0 = .ok (.aload_n 0, 1) := dk_42 (dk_at dksX0_flow_0 0 rfl rfl)
theorem dX0_flow_1 : decode cX0_flow 1 = .ok (.iload_n 1, 1) := dk_27 (dk_at dksX0_flow_0 1 rfl rfl)
theorem dX0_flow_2 : decode cX0_flow 2 = .ok (.invokevirtual 178, 3) := dk_182 0 178 (dk_at dksX0_flow_0 2 rfl rfl)
theorem dX0_flow_5 : decode cX0_flow 5 = .ok (.ifCond .ne 7, 3) := dk_154 0 7 (dk_at dksX0_flow_0 5 rfl rfl)
theorem dX0_flow_8 : decode cX0_flow 8 = .ok (.ldc2_w 215, 3) := dk_20 0 215 (dk_at dksX0_flow_0 8 rfl rfl)
theorem dX0_flow_11 : decode cX0_flow 11 = .ok (.lreturn, 1) := dk_173 (dk_at dksX0_flow_0 11 rfl rfl)
theorem dX0_flow_12 : decode cX0_flow 12 = .ok (.aload_n 0, 1) := dk_42 (dk_at dksX0_flow_0 12 rfl rfl)
theorem dX0_flow_13 : decode cX0_flow 13 = .ok (.getfield 34, 3) := dk_180 0 34 (dk_at dksX0_flow_0 13 rfl rfl)
theorem dX0_flow_16 : decode cX0_flow 16 = .ok (.invokevirtual 217, 3) := dk_182 0 217 (dk_at dksX0_flow_0 16 rfl rfl)
theorem dX0_flow_19 : decode cX0_flow 19 = .ok (.aload_n 0, 1) := dk_42 (dk_at dksX0_flow_0 19 rfl rfl)
theorem dX0_flow_20 : decode cX0_flow 20 = .ok (.getfield 34, 3) := dk_180 0 34 (dk_at dksX0_flow_0 20 rfl rfl)
theorem dX0_flow_23 : decode cX0_flow 23 = .ok (.getfield 220, 3) := dk_180 0 220 (dk_at dksX0_flow_1 0 rfl rfl)
theorem dX0_flow_26 : decode cX0_flow 26 = .ok (.iload_n 1, 1) := dk_27 (dk_at dksX0_flow_1 3 rfl rfl)
theorem dX0_flow_27 : decode cX0_flow 27 = .ok (.laload, 1) := dk_47 (dk_at dksX0_flow_1 4 rfl rfl)
theorem dX0_flow_28 : decode cX0_flow 28 = .ok (.aload_n 0, 1) := dk_42 (dk_at dksX0_flow_1 5 rfl rfl)
theorem dX0_flow_29 : decode cX0_flow 29 = .ok (.getfield 34, 3) := dk_180 0 34 (dk_at dksX0_flow_1 6 rfl rfl)
theorem dX0_flow_32 : decode cX0_flow 32 = .ok (.getfield 220, 3) := dk_180 0 220 (dk_at dksX0_flow_1 9 rfl rfl)
theorem dX0_flow_35 : decode cX0_flow 35 = .ok (.iload_n 1, 1) := dk_27 (dk_at dksX0_flow_1 12 rfl rfl)
theorem dX0_flow_36 : decode cX0_flow 36 = .ok (.laload, 1) := dk_47 (dk_at dksX0_flow_1 13 rfl rfl)
theorem dX0_flow_37 : decode cX0_flow 37 = .ok (.aload_n 0, 1) := dk_42 (dk_at dksX0_flow_1 14 rfl rfl)
theorem dX0_flow_38 : decode cX0_flow 38 = .ok (.getfield 34, 3) := dk_180 0 34 (dk_at dksX0_flow_1 15 rfl rfl)
theorem dX0_flow_41 : decode cX0_flow 41 = .ok (.getfield 223, 3) := dk_180 0 223 (dk_at dksX0_flow_1 18 rfl rfl)
theorem dX0_flow_44 : decode cX0_flow 44 = .ok (.invokestatic 227, 3) := dk_184 0 227 (dk_at dksX0_flow_1 21 rfl rfl)
theorem dX0_flow_47 : decode cX0_flow 47 = .ok (.ldiv, 1) := dk_109 (dk_at dksX0_flow_2 0 rfl rfl)
theorem dX0_flow_48 : decode cX0_flow 48 = .ok (.lreturn, 1) := dk_173 (dk_at dksX0_flow_2 1 rfl rfl)
abbrev cX0_common : ByteArray := prog_1_method_15_code
def yX0_common : MethodName := ⟨RX0, "common", "(JJ)J"⟩
def dkwX0_common_1 : List UInt8 := [22, 6, 55, 4, 22, 8, 55, 6, 167, 255, 234, 22, 4, 173]
abbrev dktX0_common_1 : List UInt8 := dkwX0_common_1 ++ []
def dkwX0_common_0 : List UInt8 := [30, 184, 0, 209, 55, 4, 32, 55, 6, 22, 6, 9, 148, 153, 0, 21, 22, 4, 22, 6, 113, 55, 8]
abbrev dktX0_common_0 : List UInt8 := dkwX0_common_0 ++ dktX0_common_1
theorem dksX0_common_0 : cX0_common.data.toList.drop 0 = dktX0_common_0 := by decide +kernel
theorem dksX0_common_1 : cX0_common.data.toList.drop 23 = dktX0_common_1 := dk_seg dksX0_common_0 23 rfl rfl
theorem dX0_common_0 : decode cX0_common 0 = .ok (.lload_n 0, 1) := dk_30 (dk_at dksX0_common_0 0 rfl rfl)
theorem dX0_common_1 : decode cX0_common 1 = .ok (.invokestatic 209, 3) := dk_184 0 209 (dk_at dksX0_common_0 1 rfl rfl)
theorem dX0_common_4 : decode cX0_common 4 = .ok (.lstore 4, 2) := dk_55 4 (dk_at dksX0_common_0 4 rfl rfl)
theorem dX0_common_6 : decode cX0_common 6 = .ok (.lload_n 2, 1) := dk_32 (dk_at dksX0_common_0 6 rfl rfl)
theorem dX0_common_7 : decode cX0_common 7 = .ok (.lstore 6, 2) := dk_55 6 (dk_at dksX0_common_0 7 rfl rfl)
theorem dX0_common_9 : decode cX0_common 9 = .ok (.lload 6, 2) := dk_22 6 (dk_at dksX0_common_0 9 rfl rfl)
theorem dX0_common_11 : decode cX0_common 11 = .ok (.lconst 0, 1) := dk_9 (dk_at dksX0_common_0 11 rfl rfl)
theorem dX0_common_12 : decode cX0_common 12 = .ok (.lcmp, 1) := dk_148 (dk_at dksX0_common_0 12 rfl rfl)
theorem dX0_common_13 : decode cX0_common 13 = .ok (.ifCond .eq 21, 3) := dk_153 0 21 (dk_at dksX0_common_0 13 rfl rfl)
theorem dX0_common_16 : decode cX0_common 16 = .ok (.lload 4, 2) := dk_22 4 (dk_at dksX0_common_0 16 rfl rfl)
theorem dX0_common_18 : decode cX0_common 18 = .ok (.lload 6, 2) := dk_22 6 (dk_at dksX0_common_0 18 rfl rfl)
theorem dX0_common_20 : decode cX0_common 20 = .ok (.lrem, 1) := dk_113 (dk_at dksX0_common_0 20 rfl rfl)
theorem dX0_common_21 : decode cX0_common 21 = .ok (.lstore 8, 2) := dk_55 8 (dk_at dksX0_common_0 21 rfl rfl)
theorem dX0_common_23 : decode cX0_common 23 = .ok (.lload 6, 2) := dk_22 6 (dk_at dksX0_common_1 0 rfl rfl)
theorem dX0_common_25 : decode cX0_common 25 = .ok (.lstore 4, 2) := dk_55 4 (dk_at dksX0_common_1 2 rfl rfl)
theorem dX0_common_27 : decode cX0_common 27 = .ok (.lload 8, 2) := dk_22 8 (dk_at dksX0_common_1 4 rfl rfl)
theorem dX0_common_29 : decode cX0_common 29 = .ok (.lstore 6, 2) := dk_55 6 (dk_at dksX0_common_1 6 rfl rfl)
theorem dX0_common_31 : decode cX0_common 31 = .ok (.goto (-22), 3) := dk_167 255 234 (dk_at dksX0_common_1 8 rfl rfl)
theorem dX0_common_34 : decode cX0_common 34 = .ok (.lload 4, 2) := dk_22 4 (dk_at dksX0_common_1 11 rfl rfl)
theorem dX0_common_36 : decode cX0_common 36 = .ok (.lreturn, 1) := dk_173 (dk_at dksX0_common_1 13 rfl rfl)
abbrev cX0_under : ByteArray := prog_1_method_17_code
def yX0_under : MethodName := ⟨RX0, "under", "(I)J"⟩
def dkwX0_under_1 : List UInt8 := [42, 180, 0, 34, 180, 0, 220, 27, 47, 42, 180, 0, 34, 180, 0, 223, 184, 0, 227, 109, 173]
abbrev dktX0_under_1 : List UInt8 := dkwX0_under_1 ++ []
def dkwX0_under_0 : List UInt8 := [42, 27, 182, 0, 178, 154, 0, 5, 9, 173, 42, 180, 0, 34, 182, 0, 217, 42, 180, 0, 34, 180, 0, 223]
abbrev dktX0_under_0 : List UInt8 := dkwX0_under_0 ++ dktX0_under_1
theorem dksX0_under_0 : cX0_under.data.toList.drop 0 = dktX0_under_0 := by decide +kernel
theorem dksX0_under_1 : cX0_under.data.toList.drop 24 = dktX0_under_1 := dk_seg dksX0_under_0 24 rfl rfl
theorem dX0_under_0 : decode cX0_under 0 = .ok (.aload_n 0, 1) := dk_42 (dk_at dksX0_under_0 0 rfl rfl)
theorem dX0_under_1 : decode cX0_under 1 = .ok (.iload_n 1, 1) := dk_27 (dk_at dksX0_under_0 1 rfl rfl)
theorem dX0_under_2 : decode cX0_under 2 = .ok (.invokevirtual 178, 3) := dk_182 0 178 (dk_at dksX0_under_0 2 rfl rfl)
theorem dX0_under_5 : decode cX0_under 5 = .ok (.ifCond .ne 5, 3) := dk_154 0 5 (dk_at dksX0_under_0 5 rfl rfl)
theorem dX0_under_8 : decode cX0_under 8 = .ok (.lconst 0, 1) := dk_9 (dk_at dksX0_under_0 8 rfl rfl)
theorem dX0_under_9 : decode cX0_under 9 = .ok (.lreturn, 1) := dk_173 (dk_at dksX0_under_0 9 rfl rfl)
theorem dX0_under_10 : decode cX0_under 10 = .ok (.aload_n 0, 1) := dk_42 (dk_at dksX0_under_0 10 rfl rfl)
theorem dX0_under_11 : decode cX0_under 11 = .ok (.getfield 34, 3) := dk_180 0 34 (dk_at dksX0_under_0 11 rfl rfl)
theorem dX0_under_14 : decode cX0_under 14 = .ok (.invokevirtual 217, 3) := dk_182 0 217 (dk_at dksX0_under_0 14 rfl rfl)
theorem dX0_under_17 : decode cX0_under 17 = .ok (.aload_n 0, 1) := dk_42 (dk_at dksX0_under_0 17 rfl rfl)
theorem dX0_under_18 : decode cX0_under 18 = .ok (.getfield 34, 3) := dk_180 0 34 (dk_at dksX0_under_0 18 rfl rfl)
theorem dX0_under_21 : decode cX0_under 21 = .ok (.getfield 223, 3) := dk_180 0 223 (dk_at dksX0_under_0 21 rfl rfl)
theorem dX0_under_24 : decode cX0_under 24 = .ok (.aload_n 0, 1) := dk_42 (dk_at dksX0_under_1 0 rfl rfl)
theorem dX0_under_25 : decode cX0_under 25 = .ok (.getfield 34, 3) := dk_180 0 34 (dk_at dksX0_under_1 1 rfl rfl)
theorem dX0_under_28 : decode cX0_under 28 = .ok (.getfield 220, 3) := dk_180 0 220 (dk_at dksX0_under_1 4 rfl rfl)
theorem dX0_under_31 : decode cX0_under 31 = .ok (.iload_n 1, 1) := dk_27 (dk_at dksX0_under_1 7 rfl rfl)
theorem dX0_under_32 : decode cX0_under 32 = .ok (.laload, 1) := dk_47 (dk_at dksX0_under_1 8 rfl rfl)
theorem dX0_under_33 : decode cX0_under 33 = .ok (.aload_n 0, 1) := dk_42 (dk_at dksX0_under_1 9 rfl rfl)
theorem dX0_under_34 : decode cX0_under 34 = .ok (.getfield 34, 3) := dk_180 0 34 (dk_at dksX0_under_1 10 rfl rfl)
theorem dX0_under_37 : decode cX0_under 37 = .ok (.getfield 223, 3) := dk_180 0 223 (dk_at dksX0_under_1 13 rfl rfl)
theorem dX0_under_40 : decode cX0_under 40 = .ok (.invokestatic 227, 3) := dk_184 0 227 (dk_at dksX0_under_1 16 rfl rfl)
theorem dX0_under_43 : decode cX0_under 43 = .ok (.ldiv, 1) := dk_109 (dk_at dksX0_under_1 19 rfl rfl)
theorem dX0_under_44 : decode cX0_under 44 = .ok (.lreturn, 1) := dk_173 (dk_at dksX0_under_1 20 rfl rfl)
abbrev cX0_hours : ByteArray := prog_1_method_18_code
def yX0_hours : MethodName := ⟨RX0, "hours", "(I)I"⟩
def dkwX0_hours_1 : List UInt8 := [180, 0, 34, 182, 0, 231, 132, 2, 1, 167, 255, 241, 42, 180, 0, 34, 180, 0, 234, 172]
abbrev dktX0_hours_1 : List UInt8 := dkwX0_hours_1 ++ []
def dkwX0_hours_0 : List UInt8 := [27, 3, 17, 1, 244, 184, 0, 153, 154, 0, 6, 16, 254, 172, 3, 61, 28, 27, 162, 0, 16, 42]
abbrev dktX0_hours_0 : List UInt8 := dkwX0_hours_0 ++ dktX0_hours_1
theorem dksX0_hours_0 : cX0_hours.data.toList.drop 0 = dktX0_hours_0 := by decide +kernel
theorem dksX0_hours_1 : cX0_hours.data.toList.drop 22 = dktX0_hours_1 := dk_seg dksX0_hours_0 22 rfl rfl
theorem dX0_hours_0 : decode cX0_hours 0 = .ok (.iload_n 1, 1) := dk_27 (dk_at dksX0_hours_0 0 rfl rfl)
theorem dX0_hours_1 : decode cX0_hours 1 = .ok (.iconst 0, 1) := dk_3 (dk_at dksX0_hours_0 1 rfl rfl)
theorem dX0_hours_2 : decode cX0_hours 2 = .ok (.sipush 500, 3) := dk_17 1 244 (dk_at dksX0_hours_0 2 rfl rfl)
theorem dX0_hours_5 : decode cX0_hours 5 = .ok (.invokestatic 153, 3) := dk_184 0 153 (dk_at dksX0_hours_0 5 rfl rfl)
theorem dX0_hours_8 : decode cX0_hours 8 = .ok (.ifCond .ne 6, 3) := dk_154 0 6 (dk_at dksX0_hours_0 8 rfl rfl)
theorem dX0_hours_11 : decode cX0_hours 11 = .ok (.bipush (-2), 2) := dk_16 254 (dk_at dksX0_hours_0 11 rfl rfl)
theorem dX0_hours_13 : decode cX0_hours 13 = .ok (.ireturn, 1) := dk_172 (dk_at dksX0_hours_0 13 rfl rfl)
theorem dX0_hours_14 : decode cX0_hours 14 = .ok (.iconst 0, 1) := dk_3 (dk_at dksX0_hours_0 14 rfl rfl)
theorem dX0_hours_15 : decode cX0_hours 15 = .ok (.istore_n 2, 1) := dk_61 (dk_at dksX0_hours_0 15 rfl rfl)
theorem dX0_hours_16 : decode cX0_hours 16 = .ok (.iload_n 2, 1) := dk_28 (dk_at dksX0_hours_0 16 rfl rfl)
theorem dX0_hours_17 : decode cX0_hours 17 = .ok (.iload_n 1, 1) := dk_27 (dk_at dksX0_hours_0 17 rfl rfl)
theorem dX0_hours_18 : decode cX0_hours 18 = .ok (.if_icmp .ge 16, 3) := dk_162 0 16 (dk_at dksX0_hours_0 18 rfl rfl)
theorem dX0_hours_21 : decode cX0_hours 21 = .ok (.aload_n 0, 1) := dk_42 (dk_at dksX0_hours_0 21 rfl rfl)
theorem dX0_hours_22 : decode cX0_hours 22 = .ok (.getfield 34, 3) := dk_180 0 34 (dk_at dksX0_hours_1 0 rfl rfl)
theorem dX0_hours_25 : decode cX0_hours 25 = .ok (.invokevirtual 231, 3) := dk_182 0 231 (dk_at dksX0_hours_1 3 rfl rfl)
theorem dX0_hours_28 : decode cX0_hours 28 = .ok (.iinc 2 1, 3) := dk_132 2 1 (dk_at dksX0_hours_1 6 rfl rfl)
theorem dX0_hours_31 : decode cX0_hours 31 = .ok (.goto (-15), 3) := dk_167 255 241 (dk_at dksX0_hours_1 9 rfl rfl)
theorem dX0_hours_34 : decode cX0_hours 34 = .ok (.aload_n 0, 1) := dk_42 (dk_at dksX0_hours_1 12 rfl rfl)
theorem dX0_hours_35 : decode cX0_hours 35 = .ok (.getfield 34, 3) := dk_180 0 34 (dk_at dksX0_hours_1 13 rfl rfl)
theorem dX0_hours_38 : decode cX0_hours 38 = .ok (.getfield 234, 3) := dk_180 0 234 (dk_at dksX0_hours_1 16 rfl rfl)
theorem dX0_hours_41 : decode cX0_hours 41 = .ok (.ireturn, 1) := dk_172 (dk_at dksX0_hours_1 19 rfl rfl)
abbrev cX0_rest : ByteArray := prog_1_method_21_code
def yX0_rest : MethodName := ⟨RX0, "rest", "()I"⟩
def dkwX0_rest_2 : List UInt8 := [27, 28, 100, 181, 0, 49, 27, 172, 132, 2, 255, 167, 255, 228, 132, 1, 1, 167, 255, 199, 2, 172]
abbrev dktX0_rest_2 : List UInt8 := dkwX0_rest_2 ++ []
def dkwX0_rest_1 : List UInt8 := [182, 0, 237, 27, 4, 100, 61, 28, 155, 0, 30, 42, 27, 28, 182, 0, 243, 154, 0, 6, 167, 0, 12, 42]
abbrev dktX0_rest_1 : List UInt8 := dkwX0_rest_1 ++ dktX0_rest_2
def dkwX0_rest_0 : List UInt8 := [42, 3, 182, 0, 237, 4, 60, 27, 17, 0, 200, 163, 0, 56, 42, 180, 0, 34, 182, 0, 240, 42, 27]
abbrev dktX0_rest_0 : List UInt8 := dkwX0_rest_0 ++ dktX0_rest_1
theorem dksX0_rest_0 : cX0_rest.data.toList.drop 0 = dktX0_rest_0 := by decide +kernel
theorem dksX0_rest_1 : cX0_rest.data.toList.drop 23 = dktX0_rest_1 := dk_seg dksX0_rest_0 23 rfl rfl
theorem dksX0_rest_2 : cX0_rest.data.toList.drop 47 = dktX0_rest_2 := dk_seg dksX0_rest_1 24 rfl rfl
theorem dX0_rest_0 : decode cX0_rest 0 = .ok (.aload_n 0, 1) := dk_42 (dk_at dksX0_rest_0 0 rfl rfl)
theorem dX0_rest_1 : decode cX0_rest 1 = .ok (.iconst 0, 1) := dk_3 (dk_at dksX0_rest_0 1 rfl rfl)
theorem dX0_rest_2 : decode cX0_rest 2 = .ok (.invokevirtual 237, 3) := dk_182 0 237 (dk_at dksX0_rest_0 2 rfl rfl)
theorem dX0_rest_5 : decode cX0_rest 5 = .ok (.iconst 1, 1) := dk_4 (dk_at dksX0_rest_0 5 rfl rfl)
theorem dX0_rest_6 : decode cX0_rest 6 = .ok (.istore_n 1, 1) := dk_60 (dk_at dksX0_rest_0 6 rfl rfl)
theorem dX0_rest_7 : decode cX0_rest 7 = .ok (.iload_n 1, 1) := dk_27 (dk_at dksX0_rest_0 7 rfl rfl)
theorem dX0_rest_8 : decode cX0_rest 8 = .ok (.sipush 200, 3) := dk_17 0 200 (dk_at dksX0_rest_0 8 rfl rfl)
theorem dX0_rest_11 : decode cX0_rest 11 = .ok (.if_icmp .gt 56, 3) := dk_163 0 56 (dk_at dksX0_rest_0 11 rfl rfl)
theorem dX0_rest_14 : decode cX0_rest 14 = .ok (.aload_n 0, 1) := dk_42 (dk_at dksX0_rest_0 14 rfl rfl)
theorem dX0_rest_15 : decode cX0_rest 15 = .ok (.getfield 34, 3) := dk_180 0 34 (dk_at dksX0_rest_0 15 rfl rfl)
theorem dX0_rest_18 : decode cX0_rest 18 = .ok (.invokevirtual 240, 3) := dk_182 0 240 (dk_at dksX0_rest_0 18 rfl rfl)
theorem dX0_rest_21 : decode cX0_rest 21 = .ok (.aload_n 0, 1) := dk_42 (dk_at dksX0_rest_0 21 rfl rfl)
theorem dX0_rest_22 : decode cX0_rest 22 = .ok (.iload_n 1, 1) := dk_27 (dk_at dksX0_rest_0 22 rfl rfl)
theorem dX0_rest_23 : decode cX0_rest 23 = .ok (.invokevirtual 237, 3) := dk_182 0 237 (dk_at dksX0_rest_1 0 rfl rfl)
theorem dX0_rest_26 : decode cX0_rest 26 = .ok (.iload_n 1, 1) := dk_27 (dk_at dksX0_rest_1 3 rfl rfl)
theorem dX0_rest_27 : decode cX0_rest 27 = .ok (.iconst 1, 1) := dk_4 (dk_at dksX0_rest_1 4 rfl rfl)
theorem dX0_rest_28 : decode cX0_rest 28 = .ok (.isub, 1) := dk_100 (dk_at dksX0_rest_1 5 rfl rfl)
theorem dX0_rest_29 : decode cX0_rest 29 = .ok (.istore_n 2, 1) := dk_61 (dk_at dksX0_rest_1 6 rfl rfl)
theorem dX0_rest_30 : decode cX0_rest 30 = .ok (.iload_n 2, 1) := dk_28 (dk_at dksX0_rest_1 7 rfl rfl)
theorem dX0_rest_31 : decode cX0_rest 31 = .ok (.ifCond .lt 30, 3) := dk_155 0 30 (dk_at dksX0_rest_1 8 rfl rfl)
theorem dX0_rest_34 : decode cX0_rest 34 = .ok (.aload_n 0, 1) := dk_42 (dk_at dksX0_rest_1 11 rfl rfl)
theorem dX0_rest_35 : decode cX0_rest 35 = .ok (.iload_n 1, 1) := dk_27 (dk_at dksX0_rest_1 12 rfl rfl)
theorem dX0_rest_36 : decode cX0_rest 36 = .ok (.iload_n 2, 1) := dk_28 (dk_at dksX0_rest_1 13 rfl rfl)
theorem dX0_rest_37 : decode cX0_rest 37 = .ok (.invokevirtual 243, 3) := dk_182 0 243 (dk_at dksX0_rest_1 14 rfl rfl)
theorem dX0_rest_40 : decode cX0_rest 40 = .ok (.ifCond .ne 6, 3) := dk_154 0 6 (dk_at dksX0_rest_1 17 rfl rfl)
theorem dX0_rest_43 : decode cX0_rest 43 = .ok (.goto 12, 3) := dk_167 0 12 (dk_at dksX0_rest_1 20 rfl rfl)
theorem dX0_rest_46 : decode cX0_rest 46 = .ok (.aload_n 0, 1) := dk_42 (dk_at dksX0_rest_1 23 rfl rfl)
theorem dX0_rest_47 : decode cX0_rest 47 = .ok (.iload_n 1, 1) := dk_27 (dk_at dksX0_rest_2 0 rfl rfl)
theorem dX0_rest_48 : decode cX0_rest 48 = .ok (.iload_n 2, 1) := dk_28 (dk_at dksX0_rest_2 1 rfl rfl)
theorem dX0_rest_49 : decode cX0_rest 49 = .ok (.isub, 1) := dk_100 (dk_at dksX0_rest_2 2 rfl rfl)
theorem dX0_rest_50 : decode cX0_rest 50 = .ok (.putfield 49, 3) := dk_181 0 49 (dk_at dksX0_rest_2 3 rfl rfl)
theorem dX0_rest_53 : decode cX0_rest 53 = .ok (.iload_n 1, 1) := dk_27 (dk_at dksX0_rest_2 6 rfl rfl)
theorem dX0_rest_54 : decode cX0_rest 54 = .ok (.ireturn, 1) := dk_172 (dk_at dksX0_rest_2 7 rfl rfl)
theorem dX0_rest_55 : decode cX0_rest 55 = .ok (.iinc 2 (-1), 3) := dk_132 2 255 (dk_at dksX0_rest_2 8 rfl rfl)
theorem dX0_rest_58 : decode cX0_rest 58 = .ok (.goto (-28), 3) := dk_167 255 228 (dk_at dksX0_rest_2 11 rfl rfl)
theorem dX0_rest_61 : decode cX0_rest 61 = .ok (.iinc 1 1, 3) := dk_132 1 1 (dk_at dksX0_rest_2 14 rfl rfl)
theorem dX0_rest_64 : decode cX0_rest 64 = .ok (.goto (-57), 3) := dk_167 255 199 (dk_at dksX0_rest_2 17 rfl rfl)
theorem dX0_rest_67 : decode cX0_rest 67 = .ok (.iconst (-1), 1) := dk_2 (dk_at dksX0_rest_2 20 rfl rfl)
theorem dX0_rest_68 : decode cX0_rest 68 = .ok (.ireturn, 1) := dk_172 (dk_at dksX0_rest_2 21 rfl rfl)
abbrev cX0_note : ByteArray := prog_1_method_19_code
def yX0_note : MethodName := ⟨RX0, "note", "(I)V"⟩
def dkwX0_note_2 : List UInt8 := [180, 0, 206, 28, 46, 79, 132, 2, 1, 167, 255, 204, 177]
abbrev dktX0_note_2 : List UInt8 := dkwX0_note_2 ++ []
def dkwX0_note_1 : List UInt8 := [180, 0, 203, 28, 46, 79, 42, 180, 0, 52, 16, 20, 27, 104, 16, 10, 96, 28, 96, 42, 180, 0, 34]
abbrev dktX0_note_1 : List UInt8 := dkwX0_note_1 ++ dktX0_note_2
def dkwX0_note_0 : List UInt8 := [3, 61, 28, 16, 10, 162, 0, 52, 42, 180, 0, 52, 16, 20, 27, 104, 28, 96, 42, 180, 0, 34]
abbrev dktX0_note_0 : List UInt8 := dkwX0_note_0 ++ dktX0_note_1
theorem dksX0_note_0 : cX0_note.data.toList.drop 0 = dktX0_note_0 := by decide +kernel
theorem dksX0_note_1 : cX0_note.data.toList.drop 22 = dktX0_note_1 := dk_seg dksX0_note_0 22 rfl rfl
theorem dksX0_note_2 : cX0_note.data.toList.drop 45 = dktX0_note_2 := dk_seg dksX0_note_1 23 rfl rfl
theorem dX0_note_0 : decode cX0_note 0 = .ok (.iconst 0, 1) := dk_3 (dk_at dksX0_note_0 0 rfl rfl)
theorem dX0_note_1 : decode cX0_note 1 = .ok (.istore_n 2, 1) := dk_61 (dk_at dksX0_note_0 1 rfl rfl)
theorem dX0_note_2 : decode cX0_note 2 = .ok (.iload_n 2, 1) := dk_28 (dk_at dksX0_note_0 2 rfl rfl)
theorem dX0_note_3 : decode cX0_note 3 = .ok (.bipush 10, 2) := dk_16 10 (dk_at dksX0_note_0 3 rfl rfl)
theorem dX0_note_5 : decode cX0_note 5 = .ok (.if_icmp .ge 52, 3) := dk_162 0 52 (dk_at dksX0_note_0 5 rfl rfl)
theorem dX0_note_8 : decode cX0_note 8 = .ok (.aload_n 0, 1) := dk_42 (dk_at dksX0_note_0 8 rfl rfl)
theorem dX0_note_9 : decode cX0_note 9 = .ok (.getfield 52, 3) := dk_180 0 52 (dk_at dksX0_note_0 9 rfl rfl)
theorem dX0_note_12 : decode cX0_note 12 = .ok (.bipush 20, 2) := dk_16 20 (dk_at dksX0_note_0 12 rfl rfl)
theorem dX0_note_14 : decode cX0_note 14 = .ok (.iload_n 1, 1) := dk_27 (dk_at dksX0_note_0 14 rfl rfl)
theorem dX0_note_15 : decode cX0_note 15 = .ok (.imul, 1) := dk_104 (dk_at dksX0_note_0 15 rfl rfl)
theorem dX0_note_16 : decode cX0_note 16 = .ok (.iload_n 2, 1) := dk_28 (dk_at dksX0_note_0 16 rfl rfl)
theorem dX0_note_17 : decode cX0_note 17 = .ok (.iadd, 1) := dk_96 (dk_at dksX0_note_0 17 rfl rfl)
theorem dX0_note_18 : decode cX0_note 18 = .ok (.aload_n 0, 1) := dk_42 (dk_at dksX0_note_0 18 rfl rfl)
theorem dX0_note_19 : decode cX0_note 19 = .ok (.getfield 34, 3) := dk_180 0 34 (dk_at dksX0_note_0 19 rfl rfl)
theorem dX0_note_22 : decode cX0_note 22 = .ok (.getfield 203, 3) := dk_180 0 203 (dk_at dksX0_note_1 0 rfl rfl)
theorem dX0_note_25 : decode cX0_note 25 = .ok (.iload_n 2, 1) := dk_28 (dk_at dksX0_note_1 3 rfl rfl)
theorem dX0_note_26 : decode cX0_note 26 = .ok (.iaload, 1) := dk_46 (dk_at dksX0_note_1 4 rfl rfl)
theorem dX0_note_27 : decode cX0_note 27 = .ok (.iastore, 1) := dk_79 (dk_at dksX0_note_1 5 rfl rfl)
theorem dX0_note_28 : decode cX0_note 28 = .ok (.aload_n 0, 1) := dk_42 (dk_at dksX0_note_1 6 rfl rfl)
theorem dX0_note_29 : decode cX0_note 29 = .ok (.getfield 52, 3) := dk_180 0 52 (dk_at dksX0_note_1 7 rfl rfl)
theorem dX0_note_32 : decode cX0_note 32 = .ok (.bipush 20, 2) := dk_16 20 (dk_at dksX0_note_1 10 rfl rfl)
theorem dX0_note_34 : decode cX0_note 34 = .ok (.iload_n 1, 1) := dk_27 (dk_at dksX0_note_1 12 rfl rfl)
theorem dX0_note_35 : decode cX0_note 35 = .ok (.imul, 1) := dk_104 (dk_at dksX0_note_1 13 rfl rfl)
theorem dX0_note_36 : decode cX0_note 36 = .ok (.bipush 10, 2) := dk_16 10 (dk_at dksX0_note_1 14 rfl rfl)
theorem dX0_note_38 : decode cX0_note 38 = .ok (.iadd, 1) := dk_96 (dk_at dksX0_note_1 16 rfl rfl)
theorem dX0_note_39 : decode cX0_note 39 = .ok (.iload_n 2, 1) := dk_28 (dk_at dksX0_note_1 17 rfl rfl)
theorem dX0_note_40 : decode cX0_note 40 = .ok (.iadd, 1) := dk_96 (dk_at dksX0_note_1 18 rfl rfl)
theorem dX0_note_41 : decode cX0_note 41 = .ok (.aload_n 0, 1) := dk_42 (dk_at dksX0_note_1 19 rfl rfl)
theorem dX0_note_42 : decode cX0_note 42 = .ok (.getfield 34, 3) := dk_180 0 34 (dk_at dksX0_note_1 20 rfl rfl)
theorem dX0_note_45 : decode cX0_note 45 = .ok (.getfield 206, 3) := dk_180 0 206 (dk_at dksX0_note_2 0 rfl rfl)
theorem dX0_note_48 : decode cX0_note 48 = .ok (.iload_n 2, 1) := dk_28 (dk_at dksX0_note_2 3 rfl rfl)
theorem dX0_note_49 : decode cX0_note 49 = .ok (.iaload, 1) := dk_46 (dk_at dksX0_note_2 4 rfl rfl)
theorem dX0_note_50 : decode cX0_note 50 = .ok (.iastore, 1) := dk_79 (dk_at dksX0_note_2 5 rfl rfl)
theorem dX0_note_51 : decode cX0_note 51 = .ok (.iinc 2 1, 3) := dk_132 2 1 (dk_at dksX0_note_2 6 rfl rfl)
theorem dX0_note_54 : decode cX0_note 54 = .ok (.goto (-52), 3) := dk_167 255 204 (dk_at dksX0_note_2 9 rfl rfl)
theorem dX0_note_57 : decode cX0_note 57 = .ok (.return_, 1) := dk_177 (dk_at dksX0_note_2 12 rfl rfl)
abbrev cX0_isAsThen : ByteArray := prog_1_method_20_code
def yX0_isAsThen : MethodName := ⟨RX0, "isAsThen", "(II)Z"⟩
def dkwX0_isAsThen_1 : List UInt8 := [16, 20, 28, 104, 29, 96, 46, 159, 0, 5, 3, 172, 132, 3, 1, 167, 255, 220, 4, 172]
abbrev dktX0_isAsThen_1 : List UInt8 := dkwX0_isAsThen_1 ++ []
def dkwX0_isAsThen_0 : List UInt8 := [3, 62, 29, 16, 20, 162, 0, 36, 42, 180, 0, 52, 16, 20, 27, 104, 29, 96, 46, 42, 180, 0, 52]
abbrev dktX0_isAsThen_0 : List UInt8 := dkwX0_isAsThen_0 ++ dktX0_isAsThen_1
theorem dksX0_isAsThen_0 : cX0_isAsThen.data.toList.drop 0 = dktX0_isAsThen_0 := by decide +kernel
theorem dksX0_isAsThen_1 : cX0_isAsThen.data.toList.drop 23 = dktX0_isAsThen_1 := dk_seg dksX0_isAsThen_0 23 rfl rfl
theorem dX0_isAsThen_0 : decode cX0_isAsThen 0 = .ok (.iconst 0, 1) := dk_3 (dk_at dksX0_isAsThen_0 0 rfl rfl)
theorem dX0_isAsThen_1 : decode cX0_isAsThen 1 = .ok (.istore_n 3, 1) := dk_62 (dk_at dksX0_isAsThen_0 1 rfl rfl)
theorem dX0_isAsThen_2 : decode cX0_isAsThen 2 = .ok (.iload_n 3, 1) := dk_29 (dk_at dksX0_isAsThen_0 2 rfl rfl)
theorem dX0_isAsThen_3 : decode cX0_isAsThen 3 = .ok (.bipush 20, 2) := dk_16 20 (dk_at dksX0_isAsThen_0 3 rfl rfl)
theorem dX0_isAsThen_5 : decode cX0_isAsThen 5 = .ok (.if_icmp .ge 36, 3) := dk_162 0 36 (dk_at dksX0_isAsThen_0 5 rfl rfl)
theorem dX0_isAsThen_8 : decode cX0_isAsThen 8 = .ok (.aload_n 0, 1) := dk_42 (dk_at dksX0_isAsThen_0 8 rfl rfl)
theorem dX0_isAsThen_9 : decode cX0_isAsThen 9 = .ok (.getfield 52, 3) := dk_180 0 52 (dk_at dksX0_isAsThen_0 9 rfl rfl)
theorem dX0_isAsThen_12 : decode cX0_isAsThen 12 = .ok (.bipush 20, 2) := dk_16 20 (dk_at dksX0_isAsThen_0 12 rfl rfl)
theorem dX0_isAsThen_14 : decode cX0_isAsThen 14 = .ok (.iload_n 1, 1) := dk_27 (dk_at dksX0_isAsThen_0 14 rfl rfl)
theorem dX0_isAsThen_15 : decode cX0_isAsThen 15 = .ok (.imul, 1) := dk_104 (dk_at dksX0_isAsThen_0 15 rfl rfl)
theorem dX0_isAsThen_16 : decode cX0_isAsThen 16 = .ok (.iload_n 3, 1) := dk_29 (dk_at dksX0_isAsThen_0 16 rfl rfl)
theorem dX0_isAsThen_17 : decode cX0_isAsThen 17 = .ok (.iadd, 1) := dk_96 (dk_at dksX0_isAsThen_0 17 rfl rfl)
theorem dX0_isAsThen_18 : decode cX0_isAsThen 18 = .ok (.iaload, 1) := dk_46 (dk_at dksX0_isAsThen_0 18 rfl rfl)
theorem dX0_isAsThen_19 : decode cX0_isAsThen 19 = .ok (.aload_n 0, 1) := dk_42 (dk_at dksX0_isAsThen_0 19 rfl rfl)
theorem dX0_isAsThen_20 : decode cX0_isAsThen 20 = .ok (.getfield 52, 3) := dk_180 0 52 (dk_at dksX0_isAsThen_0 20 rfl rfl)
theorem dX0_isAsThen_23 : decode cX0_isAsThen 23 = .ok (.bipush 20, 2) := dk_16 20 (dk_at dksX0_isAsThen_1 0 rfl rfl)
theorem dX0_isAsThen_25 : decode cX0_isAsThen 25 = .ok (.iload_n 2, 1) := dk_28 (dk_at dksX0_isAsThen_1 2 rfl rfl)
theorem dX0_isAsThen_26 : decode cX0_isAsThen 26 = .ok (.imul, 1) := dk_104 (dk_at dksX0_isAsThen_1 3 rfl rfl)
theorem dX0_isAsThen_27 : decode cX0_isAsThen 27 = .ok (.iload_n 3, 1) := dk_29 (dk_at dksX0_isAsThen_1 4 rfl rfl)
theorem dX0_isAsThen_28 : decode cX0_isAsThen 28 = .ok (.iadd, 1) := dk_96 (dk_at dksX0_isAsThen_1 5 rfl rfl)
theorem dX0_isAsThen_29 : decode cX0_isAsThen 29 = .ok (.iaload, 1) := dk_46 (dk_at dksX0_isAsThen_1 6 rfl rfl)
theorem dX0_isAsThen_30 : decode cX0_isAsThen 30 = .ok (.if_icmp .eq 5, 3) := dk_159 0 5 (dk_at dksX0_isAsThen_1 7 rfl rfl)
theorem dX0_isAsThen_33 : decode cX0_isAsThen 33 = .ok (.iconst 0, 1) := dk_3 (dk_at dksX0_isAsThen_1 10 rfl rfl)
theorem dX0_isAsThen_34 : decode cX0_isAsThen 34 = .ok (.ireturn, 1) := dk_172 (dk_at dksX0_isAsThen_1 11 rfl rfl)
theorem dX0_isAsThen_35 : decode cX0_isAsThen 35 = .ok (.iinc 3 1, 3) := dk_132 3 1 (dk_at dksX0_isAsThen_1 12 rfl rfl)
theorem dX0_isAsThen_38 : decode cX0_isAsThen 38 = .ok (.goto (-36), 3) := dk_167 255 220 (dk_at dksX0_isAsThen_1 15 rfl rfl)
theorem dX0_isAsThen_41 : decode cX0_isAsThen 41 = .ok (.iconst 1, 1) := dk_4 (dk_at dksX0_isAsThen_1 18 rfl rfl)
theorem dX0_isAsThen_42 : decode cX0_isAsThen 42 = .ok (.ireturn, 1) := dk_172 (dk_at dksX0_isAsThen_1 19 rfl rfl)
abbrev cX0_ring : ByteArray := prog_1_method_22_code
def yX0_ring : MethodName := ⟨RX0, "ring", "()I"⟩
theorem dX0_ring_0 : decode cX0_ring 0 = .ok (.aload_n 0, 1) := by decide +kernel
theorem dX0_ring_1 : decode cX0_ring 1 = .ok (.getfield 49, 3) := by decide +kernel
theorem dX0_ring_4 : decode cX0_ring 4 = .ok (.ireturn, 1) := by decide +kernel
abbrev cX0_chance : ByteArray := prog_1_method_23_code
def yX0_chance : MethodName := ⟨RX0, "chance", "(I)I"⟩
def dkwX0_chance_3 : List UInt8 := [42, 180, 0, 34, 180, 0, 206, 3, 184, 1, 1, 42, 180, 0, 34, 3, 181, 0, 234, 4, 172]
abbrev dktX0_chance_3 : List UInt8 := dkwX0_chance_3 ++ []
def dkwX0_chance_2 : List UInt8 := [180, 0, 203, 21, 4, 10, 32, 20, 0, 253, 109, 20, 0, 255, 113, 97, 136, 79, 132, 4, 1, 167, 255, 202]
abbrev dktX0_chance_2 : List UInt8 := dkwX0_chance_2 ++ dktX0_chance_3
def dkwX0_chance_1 : List UInt8 := [182, 0, 147, 162, 0, 45, 20, 0, 247, 32, 105, 20, 0, 249, 97, 20, 0, 251, 113, 65, 42, 180, 0, 34]
abbrev dktX0_chance_1 : List UInt8 := dkwX0_chance_1 ++ dktX0_chance_2
def dkwX0_chance_0 : List UInt8 := [27, 156, 0, 6, 16, 254, 172, 27, 133, 65, 3, 54, 4, 21, 4, 42, 180, 0, 27, 180, 0, 143]
abbrev dktX0_chance_0 : List UInt8 := dkwX0_chance_0 ++ dktX0_chance_1
theorem dksX0_chance_0 : cX0_chance.data.toList.drop 0 = dktX0_chance_0 := by decide +kernel
theorem dksX0_chance_1 : cX0_chance.data.toList.drop 22 = dktX0_chance_1 := dk_seg dksX0_chance_0 22 rfl rfl
theorem dksX0_chance_2 : cX0_chance.data.toList.drop 46 = dktX0_chance_2 := dk_seg dksX0_chance_1 24 rfl rfl
theorem dksX0_chance_3 : cX0_chance.data.toList.drop 70 = dktX0_chance_3 := dk_seg dksX0_chance_2 24 rfl rfl
theorem dX0_chance_0 : decode cX0_chance 0 = .ok (.iload_n 1, 1) := dk_27 (dk_at dksX0_chance_0 0 rfl rfl)
theorem dX0_chance_1 : decode cX0_chance 1 = .ok (.ifCond .ge 6, 3) := dk_156 0 6 (dk_at dksX0_chance_0 1 rfl rfl)
theorem dX0_chance_4 : decode cX0_chance 4 = .ok (.bipush (-2), 2) := dk_16 254 (dk_at dksX0_chance_0 4 rfl rfl)
theorem dX0_chance_6 : decode cX0_chance 6 = .ok (.ireturn, 1) := dk_172 (dk_at dksX0_chance_0 6 rfl rfl)
theorem dX0_chance_7 : decode cX0_chance 7 = .ok (.iload_n 1, 1) := dk_27 (dk_at dksX0_chance_0 7 rfl rfl)
theorem dX0_chance_8 : decode cX0_chance 8 = .ok (.i2l, 1) := dk_133 (dk_at dksX0_chance_0 8 rfl rfl)
theorem dX0_chance_9 : decode cX0_chance 9 = .ok (.lstore_n 2, 1) := dk_65 (dk_at dksX0_chance_0 9 rfl rfl)
theorem dX0_chance_10 : decode cX0_chance 10 = .ok (.iconst 0, 1) := dk_3 (dk_at dksX0_chance_0 10 rfl rfl)
theorem dX0_chance_11 : decode cX0_chance 11 = .ok (.istore 4, 2) := dk_54 4 (dk_at dksX0_chance_0 11 rfl rfl)
theorem dX0_chance_13 : decode cX0_chance 13 = .ok (.iload 4, 2) := dk_21 4 (dk_at dksX0_chance_0 13 rfl rfl)
theorem dX0_chance_15 : decode cX0_chance 15 = .ok (.aload_n 0, 1) := dk_42 (dk_at dksX0_chance_0 15 rfl rfl)
theorem dX0_chance_16 : decode cX0_chance 16 = .ok (.getfield 27, 3) := dk_180 0 27 (dk_at dksX0_chance_0 16 rfl rfl)
theorem dX0_chance_19 : decode cX0_chance 19 = .ok (.getfield 143, 3) := dk_180 0 143 (dk_at dksX0_chance_0 19 rfl rfl)
theorem dX0_chance_22 : decode cX0_chance 22 = .ok (.invokevirtual 147, 3) := dk_182 0 147 (dk_at dksX0_chance_1 0 rfl rfl)
theorem dX0_chance_25 : decode cX0_chance 25 = .ok (.if_icmp .ge 45, 3) := dk_162 0 45 (dk_at dksX0_chance_1 3 rfl rfl)
theorem dX0_chance_28 : decode cX0_chance 28 = .ok (.ldc2_w 247, 3) := dk_20 0 247 (dk_at dksX0_chance_1 6 rfl rfl)
theorem dX0_chance_31 : decode cX0_chance 31 = .ok (.lload_n 2, 1) := dk_32 (dk_at dksX0_chance_1 9 rfl rfl)
theorem dX0_chance_32 : decode cX0_chance 32 = .ok (.lmul, 1) := dk_105 (dk_at dksX0_chance_1 10 rfl rfl)
theorem dX0_chance_33 : decode cX0_chance 33 = .ok (.ldc2_w 249, 3) := dk_20 0 249 (dk_at dksX0_chance_1 11 rfl rfl)
theorem dX0_chance_36 : decode cX0_chance 36 = .ok (.ladd, 1) := dk_97 (dk_at dksX0_chance_1 14 rfl rfl)
theorem dX0_chance_37 : decode cX0_chance 37 = .ok (.ldc2_w 251, 3) := dk_20 0 251 (dk_at dksX0_chance_1 15 rfl rfl)
theorem dX0_chance_40 : decode cX0_chance 40 = .ok (.lrem, 1) := dk_113 (dk_at dksX0_chance_1 18 rfl rfl)
theorem dX0_chance_41 : decode cX0_chance 41 = .ok (.lstore_n 2, 1) := dk_65 (dk_at dksX0_chance_1 19 rfl rfl)
theorem dX0_chance_42 : decode cX0_chance 42 = .ok (.aload_n 0, 1) := dk_42 (dk_at dksX0_chance_1 20 rfl rfl)
theorem dX0_chance_43 : decode cX0_chance 43 = .ok (.getfield 34, 3) := dk_180 0 34 (dk_at dksX0_chance_1 21 rfl rfl)
theorem dX0_chance_46 : decode cX0_chance 46 = .ok (.getfield 203, 3) := dk_180 0 203 (dk_at dksX0_chance_2 0 rfl rfl)
theorem dX0_chance_49 : decode cX0_chance 49 = .ok (.iload 4, 2) := dk_21 4 (dk_at dksX0_chance_2 3 rfl rfl)
theorem dX0_chance_51 : decode cX0_chance 51 = .ok (.lconst 1, 1) := dk_10 (dk_at dksX0_chance_2 5 rfl rfl)
theorem dX0_chance_52 : decode cX0_chance 52 = .ok (.lload_n 2, 1) := dk_32 (dk_at dksX0_chance_2 6 rfl rfl)
theorem dX0_chance_53 : decode cX0_chance 53 = .ok (.ldc2_w 253, 3) := dk_20 0 253 (dk_at dksX0_chance_2 7 rfl rfl)
theorem dX0_chance_56 : decode cX0_chance 56 = .ok (.ldiv, 1) := dk_109 (dk_at dksX0_chance_2 10 rfl rfl)
theorem dX0_chance_57 : decode cX0_chance 57 = .ok (.ldc2_w 255, 3) := dk_20 0 255 (dk_at dksX0_chance_2 11 rfl rfl)
theorem dX0_chance_60 : decode cX0_chance 60 = .ok (.lrem, 1) := dk_113 (dk_at dksX0_chance_2 14 rfl rfl)
theorem dX0_chance_61 : decode cX0_chance 61 = .ok (.ladd, 1) := dk_97 (dk_at dksX0_chance_2 15 rfl rfl)
theorem dX0_chance_62 : decode cX0_chance 62 = .ok (.l2i, 1) := dk_136 (dk_at dksX0_chance_2 16 rfl rfl)
theorem dX0_chance_63 : decode cX0_chance 63 = .ok (.iastore, 1) := dk_79 (dk_at dksX0_chance_2 17 rfl rfl)
theorem dX0_chance_64 : decode cX0_chance 64 = .ok (.iinc 4 1, 3) := dk_132 4 1 (dk_at dksX0_chance_2 18 rfl rfl)
theorem dX0_chance_67 : decode cX0_chance 67 = .ok (.goto (-54), 3) := dk_167 255 202 (dk_at dksX0_chance_2 21 rfl rfl)
theorem dX0_chance_70 : decode cX0_chance 70 = .ok (.aload_n 0, 1) := dk_42 (dk_at dksX0_chance_3 0 rfl rfl)
theorem dX0_chance_71 : decode cX0_chance 71 = .ok (.getfield 34, 3) := dk_180 0 34 (dk_at dksX0_chance_3 1 rfl rfl)
theorem dX0_chance_74 : decode cX0_chance 74 = .ok (.getfield 206, 3) := dk_180 0 206 (dk_at dksX0_chance_3 4 rfl rfl)
theorem dX0_chance_77 : decode cX0_chance 77 = .ok (.iconst 0, 1) := dk_3 (dk_at dksX0_chance_3 7 rfl rfl)
theorem dX0_chance_78 : decode cX0_chance 78 = .ok (.invokestatic 257, 3) := dk_184 1 1 (dk_at dksX0_chance_3 8 rfl rfl)
theorem dX0_chance_81 : decode cX0_chance 81 = .ok (.aload_n 0, 1) := dk_42 (dk_at dksX0_chance_3 11 rfl rfl)
theorem dX0_chance_82 : decode cX0_chance 82 = .ok (.getfield 34, 3) := dk_180 0 34 (dk_at dksX0_chance_3 12 rfl rfl)
theorem dX0_chance_85 : decode cX0_chance 85 = .ok (.iconst 0, 1) := dk_3 (dk_at dksX0_chance_3 15 rfl rfl)
theorem dX0_chance_86 : decode cX0_chance 86 = .ok (.putfield 234, 3) := dk_181 0 234 (dk_at dksX0_chance_3 16 rfl rfl)
theorem dX0_chance_89 : decode cX0_chance 89 = .ok (.iconst 1, 1) := dk_4 (dk_at dksX0_chance_3 19 rfl rfl)
theorem dX0_chance_90 : decode cX0_chance 90 = .ok (.ireturn, 1) := dk_172 (dk_at dksX0_chance_3 20 rfl rfl)
abbrev cX0_keep : ByteArray := prog_1_method_25_code
def yX0_keep : MethodName := ⟨RX0, "keep", "(I)I"⟩
def dkwX0_keep_1 : List UInt8 := [180, 0, 45, 27, 4, 84, 42, 180, 0, 34, 180, 0, 234, 172]
abbrev dktX0_keep_1 : List UInt8 := dkwX0_keep_1 ++ []
def dkwX0_keep_0 : List UInt8 := [27, 184, 1, 4, 154, 0, 6, 16, 254, 172, 42, 180, 0, 41, 27, 50, 42, 180, 0, 34, 182, 1, 7, 42]
abbrev dktX0_keep_0 : List UInt8 := dkwX0_keep_0 ++ dktX0_keep_1
theorem dksX0_keep_0 : cX0_keep.data.toList.drop 0 = dktX0_keep_0 := by decide +kernel
theorem dksX0_keep_1 : cX0_keep.data.toList.drop 24 = dktX0_keep_1 := dk_seg dksX0_keep_0 24 rfl rfl
theorem dX0_keep_0 : decode cX0_keep 0 = .ok (.iload_n 1, 1) := dk_27 (dk_at dksX0_keep_0 0 rfl rfl)
theorem dX0_keep_1 : decode cX0_keep 1 = .ok (.invokestatic 260, 3) := dk_184 1 4 (dk_at dksX0_keep_0 1 rfl rfl)
theorem dX0_keep_4 : decode cX0_keep 4 = .ok (.ifCond .ne 6, 3) := dk_154 0 6 (dk_at dksX0_keep_0 4 rfl rfl)
theorem dX0_keep_7 : decode cX0_keep 7 = .ok (.bipush (-2), 2) := dk_16 254 (dk_at dksX0_keep_0 7 rfl rfl)
theorem dX0_keep_9 : decode cX0_keep 9 = .ok (.ireturn, 1) := dk_172 (dk_at dksX0_keep_0 9 rfl rfl)
theorem dX0_keep_10 : decode cX0_keep 10 = .ok (.aload_n 0, 1) := dk_42 (dk_at dksX0_keep_0 10 rfl rfl)
theorem dX0_keep_11 : decode cX0_keep 11 = .ok (.getfield 41, 3) := dk_180 0 41 (dk_at dksX0_keep_0 11 rfl rfl)
theorem dX0_keep_14 : decode cX0_keep 14 = .ok (.iload_n 1, 1) := dk_27 (dk_at dksX0_keep_0 14 rfl rfl)
theorem dX0_keep_15 : decode cX0_keep 15 = .ok (.aaload, 1) := dk_50 (dk_at dksX0_keep_0 15 rfl rfl)
theorem dX0_keep_16 : decode cX0_keep 16 = .ok (.aload_n 0, 1) := dk_42 (dk_at dksX0_keep_0 16 rfl rfl)
theorem dX0_keep_17 : decode cX0_keep 17 = .ok (.getfield 34, 3) := dk_180 0 34 (dk_at dksX0_keep_0 17 rfl rfl)
theorem dX0_keep_20 : decode cX0_keep 20 = .ok (.invokevirtual 263, 3) := dk_182 1 7 (dk_at dksX0_keep_0 20 rfl rfl)
theorem dX0_keep_23 : decode cX0_keep 23 = .ok (.aload_n 0, 1) := dk_42 (dk_at dksX0_keep_0 23 rfl rfl)
theorem dX0_keep_24 : decode cX0_keep 24 = .ok (.getfield 45, 3) := dk_180 0 45 (dk_at dksX0_keep_1 0 rfl rfl)
theorem dX0_keep_27 : decode cX0_keep 27 = .ok (.iload_n 1, 1) := dk_27 (dk_at dksX0_keep_1 3 rfl rfl)
theorem dX0_keep_28 : decode cX0_keep 28 = .ok (.iconst 1, 1) := dk_4 (dk_at dksX0_keep_1 4 rfl rfl)
theorem dX0_keep_29 : decode cX0_keep 29 = .ok (.bastore, 1) := dk_84 (dk_at dksX0_keep_1 5 rfl rfl)
theorem dX0_keep_30 : decode cX0_keep 30 = .ok (.aload_n 0, 1) := dk_42 (dk_at dksX0_keep_1 6 rfl rfl)
theorem dX0_keep_31 : decode cX0_keep 31 = .ok (.getfield 34, 3) := dk_180 0 34 (dk_at dksX0_keep_1 7 rfl rfl)
theorem dX0_keep_34 : decode cX0_keep 34 = .ok (.getfield 234, 3) := dk_180 0 234 (dk_at dksX0_keep_1 10 rfl rfl)
theorem dX0_keep_37 : decode cX0_keep 37 = .ok (.ireturn, 1) := dk_172 (dk_at dksX0_keep_1 13 rfl rfl)
abbrev cX0_isSlot : ByteArray := prog_1_method_24_code
def yX0_isSlot : MethodName := ⟨RX0, "isSlot", "(I)Z"⟩
def dkwX0_isSlot_0 : List UInt8 := [26, 3, 6, 184, 0, 153, 172]
abbrev dktX0_isSlot_0 : List UInt8 := dkwX0_isSlot_0 ++ []
theorem dksX0_isSlot_0 : cX0_isSlot.data.toList.drop 0 = dktX0_isSlot_0 := by decide +kernel
theorem dX0_isSlot_0 : decode cX0_isSlot 0 = .ok (.iload_n 0, 1) := dk_26 (dk_at dksX0_isSlot_0 0 rfl rfl)
theorem dX0_isSlot_1 : decode cX0_isSlot 1 = .ok (.iconst 0, 1) := dk_3 (dk_at dksX0_isSlot_0 1 rfl rfl)
theorem dX0_isSlot_2 : decode cX0_isSlot 2 = .ok (.iconst 3, 1) := dk_6 (dk_at dksX0_isSlot_0 2 rfl rfl)
theorem dX0_isSlot_3 : decode cX0_isSlot 3 = .ok (.invokestatic 153, 3) := dk_184 0 153 (dk_at dksX0_isSlot_0 3 rfl rfl)
theorem dX0_isSlot_6 : decode cX0_isSlot 6 = .ok (.ireturn, 1) := dk_172 (dk_at dksX0_isSlot_0 6 rfl rfl)
abbrev cX0_take : ByteArray := prog_1_method_26_code
def yX0_take : MethodName := ⟨RX0, "take", "(I)I"⟩
def dkwX0_take_1 : List UInt8 := [180, 0, 34, 42, 180, 0, 41, 27, 50, 182, 1, 7, 42, 180, 0, 34, 180, 0, 234, 172]
abbrev dktX0_take_1 : List UInt8 := dkwX0_take_1 ++ []
def dkwX0_take_0 : List UInt8 := [27, 184, 1, 4, 154, 0, 6, 16, 254, 172, 42, 180, 0, 45, 27, 51, 154, 0, 6, 16, 252, 172, 42]
abbrev dktX0_take_0 : List UInt8 := dkwX0_take_0 ++ dktX0_take_1
theorem dksX0_take_0 : cX0_take.data.toList.drop 0 = dktX0_take_0 := by decide +kernel
theorem dksX0_take_1 : cX0_take.data.toList.drop 23 = dktX0_take_1 := dk_seg dksX0_take_0 23 rfl rfl
theorem dX0_take_0 : decode cX0_take 0 = .ok (.iload_n 1, 1) := dk_27 (dk_at dksX0_take_0 0 rfl rfl)
theorem dX0_take_1 : decode cX0_take 1 = .ok (.invokestatic 260, 3) := dk_184 1 4 (dk_at dksX0_take_0 1 rfl rfl)
theorem dX0_take_4 : decode cX0_take 4 = .ok (.ifCond .ne 6, 3) := dk_154 0 6 (dk_at dksX0_take_0 4 rfl rfl)
theorem dX0_take_7 : decode cX0_take 7 = .ok (.bipush (-2), 2) := dk_16 254 (dk_at dksX0_take_0 7 rfl rfl)
theorem dX0_take_9 : decode cX0_take 9 = .ok (.ireturn, 1) := dk_172 (dk_at dksX0_take_0 9 rfl rfl)
theorem dX0_take_10 : decode cX0_take 10 = .ok (.aload_n 0, 1) := dk_42 (dk_at dksX0_take_0 10 rfl rfl)
theorem dX0_take_11 : decode cX0_take 11 = .ok (.getfield 45, 3) := dk_180 0 45 (dk_at dksX0_take_0 11 rfl rfl)
theorem dX0_take_14 : decode cX0_take 14 = .ok (.iload_n 1, 1) := dk_27 (dk_at dksX0_take_0 14 rfl rfl)
theorem dX0_take_15 : decode cX0_take 15 = .ok (.baload, 1) := dk_51 (dk_at dksX0_take_0 15 rfl rfl)
theorem dX0_take_16 : decode cX0_take 16 = .ok (.ifCond .ne 6, 3) := dk_154 0 6 (dk_at dksX0_take_0 16 rfl rfl)
theorem dX0_take_19 : decode cX0_take 19 = .ok (.bipush (-4), 2) := dk_16 252 (dk_at dksX0_take_0 19 rfl rfl)
theorem dX0_take_21 : decode cX0_take 21 = .ok (.ireturn, 1) := dk_172 (dk_at dksX0_take_0 21 rfl rfl)
theorem dX0_take_22 : decode cX0_take 22 = .ok (.aload_n 0, 1) := dk_42 (dk_at dksX0_take_0 22 rfl rfl)
theorem dX0_take_23 : decode cX0_take 23 = .ok (.getfield 34, 3) := dk_180 0 34 (dk_at dksX0_take_1 0 rfl rfl)
theorem dX0_take_26 : decode cX0_take 26 = .ok (.aload_n 0, 1) := dk_42 (dk_at dksX0_take_1 3 rfl rfl)
theorem dX0_take_27 : decode cX0_take 27 = .ok (.getfield 41, 3) := dk_180 0 41 (dk_at dksX0_take_1 4 rfl rfl)
theorem dX0_take_30 : decode cX0_take 30 = .ok (.iload_n 1, 1) := dk_27 (dk_at dksX0_take_1 7 rfl rfl)
theorem dX0_take_31 : decode cX0_take 31 = .ok (.aaload, 1) := dk_50 (dk_at dksX0_take_1 8 rfl rfl)
theorem dX0_take_32 : decode cX0_take 32 = .ok (.invokevirtual 263, 3) := dk_182 1 7 (dk_at dksX0_take_1 9 rfl rfl)
theorem dX0_take_35 : decode cX0_take 35 = .ok (.aload_n 0, 1) := dk_42 (dk_at dksX0_take_1 12 rfl rfl)
theorem dX0_take_36 : decode cX0_take 36 = .ok (.getfield 34, 3) := dk_180 0 34 (dk_at dksX0_take_1 13 rfl rfl)
theorem dX0_take_39 : decode cX0_take 39 = .ok (.getfield 234, 3) := dk_180 0 234 (dk_at dksX0_take_1 16 rfl rfl)
theorem dX0_take_42 : decode cX0_take 42 = .ok (.ireturn, 1) := dk_172 (dk_at dksX0_take_1 19 rfl rfl)
abbrev cX0_alike : ByteArray := prog_1_method_27_code
def yX0_alike : MethodName := ⟨RX0, "alike", "(II)I"⟩
def dkwX0_alike_3 : List UInt8 := [184, 1, 14, 100, 172]
abbrev dktX0_alike_3 : List UInt8 := dkwX0_alike_3 ++ []
def dkwX0_alike_2 : List UInt8 := [182, 0, 147, 42, 180, 0, 41, 27, 50, 182, 1, 11, 42, 180, 0, 41, 28, 50, 182, 1, 11, 130]
abbrev dktX0_alike_2 : List UInt8 := dkwX0_alike_2 ++ dktX0_alike_3
def dkwX0_alike_1 : List UInt8 := [153, 0, 12, 42, 180, 0, 45, 28, 51, 154, 0, 6, 16, 252, 172, 42, 180, 0, 27, 180, 0, 143]
abbrev dktX0_alike_1 : List UInt8 := dkwX0_alike_1 ++ dktX0_alike_2
def dkwX0_alike_0 : List UInt8 := [27, 184, 1, 4, 153, 0, 10, 28, 184, 1, 4, 154, 0, 6, 16, 254, 172, 42, 180, 0, 45, 27, 51]
abbrev dktX0_alike_0 : List UInt8 := dkwX0_alike_0 ++ dktX0_alike_1
theorem dksX0_alike_0 : cX0_alike.data.toList.drop 0 = dktX0_alike_0 := by decide +kernel
theorem dksX0_alike_1 : cX0_alike.data.toList.drop 23 = dktX0_alike_1 := dk_seg dksX0_alike_0 23 rfl rfl
theorem dksX0_alike_2 : cX0_alike.data.toList.drop 45 = dktX0_alike_2 := dk_seg dksX0_alike_1 22 rfl rfl
theorem dksX0_alike_3 : cX0_alike.data.toList.drop 67 = dktX0_alike_3 := dk_seg dksX0_alike_2 22 rfl rfl
theorem dX0_alike_0 : decode cX0_alike 0 = .ok (.iload_n 1, 1) := dk_27 (dk_at dksX0_alike_0 0 rfl rfl)
theorem dX0_alike_1 : decode cX0_alike 1 = .ok (.invokestatic 260, 3) := dk_184 1 4 (dk_at dksX0_alike_0 1 rfl rfl)
theorem dX0_alike_4 : decode cX0_alike 4 = .ok (.ifCond .eq 10, 3) := dk_153 0 10 (dk_at dksX0_alike_0 4 rfl rfl)
theorem dX0_alike_7 : decode cX0_alike 7 = .ok (.iload_n 2, 1) := dk_28 (dk_at dksX0_alike_0 7 rfl rfl)
theorem dX0_alike_8 : decode cX0_alike 8 = .ok (.invokestatic 260, 3) := dk_184 1 4 (dk_at dksX0_alike_0 8 rfl rfl)
theorem dX0_alike_11 : decode cX0_alike 11 = .ok (.ifCond .ne 6, 3) := dk_154 0 6 (dk_at dksX0_alike_0 11 rfl rfl)
theorem dX0_alike_14 : decode cX0_alike 14 = .ok (.bipush (-2), 2) := dk_16 254 (dk_at dksX0_alike_0 14 rfl rfl)
theorem dX0_alike_16 : decode cX0_alike 16 = .ok (.ireturn, 1) := dk_172 (dk_at dksX0_alike_0 16 rfl rfl)
theorem dX0_alike_17 : decode cX0_alike 17 = .ok (.aload_n 0, 1) := dk_42 (dk_at dksX0_alike_0 17 rfl rfl)
theorem dX0_alike_18 : decode cX0_alike 18 = .ok (.getfield 45, 3) := dk_180 0 45 (dk_at dksX0_alike_0 18 rfl rfl)
theorem dX0_alike_21 : decode cX0_alike 21 = .ok (.iload_n 1, 1) := dk_27 (dk_at dksX0_alike_0 21 rfl rfl)
theorem dX0_alike_22 : decode cX0_alike 22 = .ok (.baload, 1) := dk_51 (dk_at dksX0_alike_0 22 rfl rfl)
theorem dX0_alike_23 : decode cX0_alike 23 = .ok (.ifCond .eq 12, 3) := dk_153 0 12 (dk_at dksX0_alike_1 0 rfl rfl)
theorem dX0_alike_26 : decode cX0_alike 26 = .ok (.aload_n 0, 1) := dk_42 (dk_at dksX0_alike_1 3 rfl rfl)
theorem dX0_alike_27 : decode cX0_alike 27 = .ok (.getfield 45, 3) := dk_180 0 45 (dk_at dksX0_alike_1 4 rfl rfl)
theorem dX0_alike_30 : decode cX0_alike 30 = .ok (.iload_n 2, 1) := dk_28 (dk_at dksX0_alike_1 7 rfl rfl)
theorem dX0_alike_31 : decode cX0_alike 31 = .ok (.baload, 1) := dk_51 (dk_at dksX0_alike_1 8 rfl rfl)
theorem dX0_alike_32 : decode cX0_alike 32 = .ok (.ifCond .ne 6, 3) := dk_154 0 6 (dk_at dksX0_alike_1 9 rfl rfl)
theorem dX0_alike_35 : decode cX0_alike 35 = .ok (.bipush (-4), 2) := dk_16 252 (dk_at dksX0_alike_1 12 rfl rfl)
theorem dX0_alike_37 : decode cX0_alike 37 = .ok (.ireturn, 1) := dk_172 (dk_at dksX0_alike_1 14 rfl rfl)
theorem dX0_alike_38 : decode cX0_alike 38 = .ok (.aload_n 0, 1) := dk_42 (dk_at dksX0_alike_1 15 rfl rfl)
theorem dX0_alike_39 : decode cX0_alike 39 = .ok (.getfield 27, 3) := dk_180 0 27 (dk_at dksX0_alike_1 16 rfl rfl)
theorem dX0_alike_42 : decode cX0_alike 42 = .ok (.getfield 143, 3) := dk_180 0 143 (dk_at dksX0_alike_1 19 rfl rfl)
theorem dX0_alike_45 : decode cX0_alike 45 = .ok (.invokevirtual 147, 3) := dk_182 0 147 (dk_at dksX0_alike_2 0 rfl rfl)
theorem dX0_alike_48 : decode cX0_alike 48 = .ok (.aload_n 0, 1) := dk_42 (dk_at dksX0_alike_2 3 rfl rfl)
theorem dX0_alike_49 : decode cX0_alike 49 = .ok (.getfield 41, 3) := dk_180 0 41 (dk_at dksX0_alike_2 4 rfl rfl)
theorem dX0_alike_52 : decode cX0_alike 52 = .ok (.iload_n 1, 1) := dk_27 (dk_at dksX0_alike_2 7 rfl rfl)
theorem dX0_alike_53 : decode cX0_alike 53 = .ok (.aaload, 1) := dk_50 (dk_at dksX0_alike_2 8 rfl rfl)
theorem dX0_alike_54 : decode cX0_alike 54 = .ok (.invokevirtual 267, 3) := dk_182 1 11 (dk_at dksX0_alike_2 9 rfl rfl)
theorem dX0_alike_57 : decode cX0_alike 57 = .ok (.aload_n 0, 1) := dk_42 (dk_at dksX0_alike_2 12 rfl rfl)
theorem dX0_alike_58 : decode cX0_alike 58 = .ok (.getfield 41, 3) := dk_180 0 41 (dk_at dksX0_alike_2 13 rfl rfl)
theorem dX0_alike_61 : decode cX0_alike 61 = .ok (.iload_n 2, 1) := dk_28 (dk_at dksX0_alike_2 16 rfl rfl)
theorem dX0_alike_62 : decode cX0_alike 62 = .ok (.aaload, 1) := dk_50 (dk_at dksX0_alike_2 17 rfl rfl)
theorem dX0_alike_63 : decode cX0_alike 63 = .ok (.invokevirtual 267, 3) := dk_182 1 11 (dk_at dksX0_alike_2 18 rfl rfl)
theorem dX0_alike_66 : decode cX0_alike 66 = .ok (.ixor, 1) := dk_130 (dk_at dksX0_alike_2 21 rfl rfl)
theorem dX0_alike_67 : decode cX0_alike 67 = .ok (.invokestatic 270, 3) := dk_184 1 14 (dk_at dksX0_alike_3 0 rfl rfl)
theorem dX0_alike_70 : decode cX0_alike 70 = .ok (.isub, 1) := dk_100 (dk_at dksX0_alike_3 3 rfl rfl)
theorem dX0_alike_71 : decode cX0_alike 71 = .ok (.ireturn, 1) := dk_172 (dk_at dksX0_alike_3 4 rfl rfl)
abbrev cX0_tell : ByteArray := prog_1_method_28_code
def yX0_tell : MethodName := ⟨RX0, "tell", "(I)I"⟩
def dkwX0_tell_3 : List UInt8 := [50, 180, 0, 206, 29, 46, 79, 132, 2, 1, 132, 3, 1, 167, 255, 198, 28, 172]
abbrev dktX0_tell_3 : List UInt8 := dkwX0_tell_3 ++ []
def dkwX0_tell_2 : List UInt8 := [180, 0, 206, 29, 46, 163, 0, 6, 167, 0, 26, 42, 180, 0, 34, 180, 0, 206, 29, 42, 180, 0, 41, 27]
abbrev dktX0_tell_2 : List UInt8 := dkwX0_tell_2 ++ dktX0_tell_3
def dkwX0_tell_1 : List UInt8 := [3, 62, 29, 16, 10, 162, 0, 58, 42, 180, 0, 41, 27, 50, 180, 0, 206, 29, 46, 42, 180, 0, 34]
abbrev dktX0_tell_1 : List UInt8 := dkwX0_tell_1 ++ dktX0_tell_2
def dkwX0_tell_0 : List UInt8 := [27, 184, 1, 4, 154, 0, 6, 16, 254, 172, 42, 180, 0, 45, 27, 51, 154, 0, 6, 16, 252, 172, 3, 61]
abbrev dktX0_tell_0 : List UInt8 := dkwX0_tell_0 ++ dktX0_tell_1
theorem dksX0_tell_0 : cX0_tell.data.toList.drop 0 = dktX0_tell_0 := by decide +kernel
theorem dksX0_tell_1 : cX0_tell.data.toList.drop 24 = dktX0_tell_1 := dk_seg dksX0_tell_0 24 rfl rfl
theorem dksX0_tell_2 : cX0_tell.data.toList.drop 47 = dktX0_tell_2 := dk_seg dksX0_tell_1 23 rfl rfl
theorem dksX0_tell_3 : cX0_tell.data.toList.drop 71 = dktX0_tell_3 := dk_seg dksX0_tell_2 24 rfl rfl
theorem dX0_tell_0 : decode cX0_tell 0 = .ok (.iload_n 1, 1) := dk_27 (dk_at dksX0_tell_0 0 rfl rfl)
theorem dX0_tell_1 : decode cX0_tell 1 = .ok (.invokestatic 260, 3) := dk_184 1 4 (dk_at dksX0_tell_0 1 rfl rfl)
theorem dX0_tell_4 : decode cX0_tell 4 = .ok (.ifCond .ne 6, 3) := dk_154 0 6 (dk_at dksX0_tell_0 4 rfl rfl)
theorem dX0_tell_7 : decode cX0_tell 7 = .ok (.bipush (-2), 2) := dk_16 254 (dk_at dksX0_tell_0 7 rfl rfl)
theorem dX0_tell_9 : decode cX0_tell 9 = .ok (.ireturn, 1) := dk_172 (dk_at dksX0_tell_0 9 rfl rfl)
theorem dX0_tell_10 : decode cX0_tell 10 = .ok (.aload_n 0, 1) := dk_42 (dk_at dksX0_tell_0 10 rfl rfl)
theorem dX0_tell_11 : decode cX0_tell 11 = .ok (.getfield 45, 3) := dk_180 0 45 (dk_at dksX0_tell_0 11 rfl rfl)
theorem dX0_tell_14 : decode cX0_tell 14 = .ok (.iload_n 1, 1) := dk_27 (dk_at dksX0_tell_0 14 rfl rfl)
theorem dX0_tell_15 : decode cX0_tell 15 = .ok (.baload, 1) := dk_51 (dk_at dksX0_tell_0 15 rfl rfl)
theorem dX0_tell_16 : decode cX0_tell 16 = .ok (.ifCond .ne 6, 3) := dk_154 0 6 (dk_at dksX0_tell_0 16 rfl rfl)
theorem dX0_tell_19 : decode cX0_tell 19 = .ok (.bipush (-4), 2) := dk_16 252 (dk_at dksX0_tell_0 19 rfl rfl)
theorem dX0_tell_21 : decode cX0_tell 21 = .ok (.ireturn, 1) := dk_172 (dk_at dksX0_tell_0 21 rfl rfl)
theorem dX0_tell_22 : decode cX0_tell 22 = .ok (.iconst 0, 1) := dk_3 (dk_at dksX0_tell_0 22 rfl rfl)
theorem dX0_tell_23 : decode cX0_tell 23 = .ok (.istore_n 2, 1) := dk_61 (dk_at dksX0_tell_0 23 rfl rfl)
theorem dX0_tell_24 : decode cX0_tell 24 = .ok (.iconst 0, 1) := dk_3 (dk_at dksX0_tell_1 0 rfl rfl)
theorem dX0_tell_25 : decode cX0_tell 25 = .ok (.istore_n 3, 1) := dk_62 (dk_at dksX0_tell_1 1 rfl rfl)
theorem dX0_tell_26 : decode cX0_tell 26 = .ok (.iload_n 3, 1) := dk_29 (dk_at dksX0_tell_1 2 rfl rfl)
theorem dX0_tell_27 : decode cX0_tell 27 = .ok (.bipush 10, 2) := dk_16 10 (dk_at dksX0_tell_1 3 rfl rfl)
theorem dX0_tell_29 : decode cX0_tell 29 = .ok (.if_icmp .ge 58, 3) := dk_162 0 58 (dk_at dksX0_tell_1 5 rfl rfl)
theorem dX0_tell_32 : decode cX0_tell 32 = .ok (.aload_n 0, 1) := dk_42 (dk_at dksX0_tell_1 8 rfl rfl)
theorem dX0_tell_33 : decode cX0_tell 33 = .ok (.getfield 41, 3) := dk_180 0 41 (dk_at dksX0_tell_1 9 rfl rfl)
theorem dX0_tell_36 : decode cX0_tell 36 = .ok (.iload_n 1, 1) := dk_27 (dk_at dksX0_tell_1 12 rfl rfl)
theorem dX0_tell_37 : decode cX0_tell 37 = .ok (.aaload, 1) := dk_50 (dk_at dksX0_tell_1 13 rfl rfl)
theorem dX0_tell_38 : decode cX0_tell 38 = .ok (.getfield 206, 3) := dk_180 0 206 (dk_at dksX0_tell_1 14 rfl rfl)
theorem dX0_tell_41 : decode cX0_tell 41 = .ok (.iload_n 3, 1) := dk_29 (dk_at dksX0_tell_1 17 rfl rfl)
theorem dX0_tell_42 : decode cX0_tell 42 = .ok (.iaload, 1) := dk_46 (dk_at dksX0_tell_1 18 rfl rfl)
theorem dX0_tell_43 : decode cX0_tell 43 = .ok (.aload_n 0, 1) := dk_42 (dk_at dksX0_tell_1 19 rfl rfl)
theorem dX0_tell_44 : decode cX0_tell 44 = .ok (.getfield 34, 3) := dk_180 0 34 (dk_at dksX0_tell_1 20 rfl rfl)
theorem dX0_tell_47 : decode cX0_tell 47 = .ok (.getfield 206, 3) := dk_180 0 206 (dk_at dksX0_tell_2 0 rfl rfl)
theorem dX0_tell_50 : decode cX0_tell 50 = .ok (.iload_n 3, 1) := dk_29 (dk_at dksX0_tell_2 3 rfl rfl)
theorem dX0_tell_51 : decode cX0_tell 51 = .ok (.iaload, 1) := dk_46 (dk_at dksX0_tell_2 4 rfl rfl)
theorem dX0_tell_52 : decode cX0_tell 52 = .ok (.if_icmp .gt 6, 3) := dk_163 0 6 (dk_at dksX0_tell_2 5 rfl rfl)
theorem dX0_tell_55 : decode cX0_tell 55 = .ok (.goto 26, 3) := dk_167 0 26 (dk_at dksX0_tell_2 8 rfl rfl)
theorem dX0_tell_58 : decode cX0_tell 58 = .ok (.aload_n 0, 1) := dk_42 (dk_at dksX0_tell_2 11 rfl rfl)
theorem dX0_tell_59 : decode cX0_tell 59 = .ok (.getfield 34, 3) := dk_180 0 34 (dk_at dksX0_tell_2 12 rfl rfl)
theorem dX0_tell_62 : decode cX0_tell 62 = .ok (.getfield 206, 3) := dk_180 0 206 (dk_at dksX0_tell_2 15 rfl rfl)
theorem dX0_tell_65 : decode cX0_tell 65 = .ok (.iload_n 3, 1) := dk_29 (dk_at dksX0_tell_2 18 rfl rfl)
theorem dX0_tell_66 : decode cX0_tell 66 = .ok (.aload_n 0, 1) := dk_42 (dk_at dksX0_tell_2 19 rfl rfl)
theorem dX0_tell_67 : decode cX0_tell 67 = .ok (.getfield 41, 3) := dk_180 0 41 (dk_at dksX0_tell_2 20 rfl rfl)
theorem dX0_tell_70 : decode cX0_tell 70 = .ok (.iload_n 1, 1) := dk_27 (dk_at dksX0_tell_2 23 rfl rfl)
theorem dX0_tell_71 : decode cX0_tell 71 = .ok (.aaload, 1) := dk_50 (dk_at dksX0_tell_3 0 rfl rfl)
theorem dX0_tell_72 : decode cX0_tell 72 = .ok (.getfield 206, 3) := dk_180 0 206 (dk_at dksX0_tell_3 1 rfl rfl)
theorem dX0_tell_75 : decode cX0_tell 75 = .ok (.iload_n 3, 1) := dk_29 (dk_at dksX0_tell_3 4 rfl rfl)
theorem dX0_tell_76 : decode cX0_tell 76 = .ok (.iaload, 1) := dk_46 (dk_at dksX0_tell_3 5 rfl rfl)
theorem dX0_tell_77 : decode cX0_tell 77 = .ok (.iastore, 1) := dk_79 (dk_at dksX0_tell_3 6 rfl rfl)
theorem dX0_tell_78 : decode cX0_tell 78 = .ok (.iinc 2 1, 3) := dk_132 2 1 (dk_at dksX0_tell_3 7 rfl rfl)
theorem dX0_tell_81 : decode cX0_tell 81 = .ok (.iinc 3 1, 3) := dk_132 3 1 (dk_at dksX0_tell_3 10 rfl rfl)
theorem dX0_tell_84 : decode cX0_tell 84 = .ok (.goto (-58), 3) := dk_167 255 198 (dk_at dksX0_tell_3 13 rfl rfl)
theorem dX0_tell_87 : decode cX0_tell 87 = .ok (.iload_n 2, 1) := dk_28 (dk_at dksX0_tell_3 16 rfl rfl)
theorem dX0_tell_88 : decode cX0_tell 88 = .ok (.ireturn, 1) := dk_172 (dk_at dksX0_tell_3 17 rfl rfl)
abbrev cX0_own : ByteArray := prog_1_method_32_code
def yX0_own : MethodName := ⟨RX0, "own", "()I"⟩
def dkwX0_own_0 : List UInt8 := [42, 180, 0, 34, 182, 1, 11, 172]
abbrev dktX0_own_0 : List UInt8 := dkwX0_own_0 ++ []
theorem dksX0_own_0 : cX0_own.data.toList.drop 0 = dktX0_own_0 := by decide +kernel
theorem dX0_own_0 : decode cX0_own 0 = .ok (.aload_n 0, 1) := dk_42 (dk_at dksX0_own_0 0 rfl rfl)
theorem dX0_own_1 : decode cX0_own 1 = .ok (.getfield 34, 3) := dk_180 0 34 (dk_at dksX0_own_0 1 rfl rfl)
theorem dX0_own_4 : decode cX0_own 4 = .ok (.invokevirtual 267, 3) := dk_182 1 11 (dk_at dksX0_own_0 4 rfl rfl)
theorem dX0_own_7 : decode cX0_own 7 = .ok (.ireturn, 1) := dk_172 (dk_at dksX0_own_0 7 rfl rfl)
abbrev cX0_net : ByteArray := prog_1_method_34_code
def yX0_net : MethodName := ⟨RX0, "net", "(II)I"⟩
def dkwX0_net_4 : List UInt8 := [180, 0, 27, 27, 182, 1, 43, 167, 0, 4, 2, 172, 42, 27, 182, 1, 46, 172]
abbrev dktX0_net_4 : List UInt8 := dkwX0_net_4 ++ []
def dkwX0_net_3 : List UInt8 := [3, 172, 42, 180, 0, 27, 27, 182, 1, 28, 172, 42, 180, 0, 27, 27, 182, 1, 23, 153, 0, 14, 42]
abbrev dktX0_net_3 : List UInt8 := dkwX0_net_3 ++ dktX0_net_4
def dkwX0_net_2 : List UInt8 := [42, 180, 0, 27, 27, 182, 1, 26, 172, 42, 180, 0, 27, 27, 182, 1, 23, 153, 0, 7, 4, 167, 0, 4]
abbrev dktX0_net_2 : List UInt8 := dkwX0_net_2 ++ dktX0_net_3
def dkwX0_net_1 : List UInt8 := [170, 0, 0, 0, 0, 0, 90, 0, 0, 0, 0, 0, 0, 0, 3, 0, 0, 0, 31, 0, 0, 0, 40, 0, 0, 0, 57, 0, 0, 0, 66]
abbrev dktX0_net_1 : List UInt8 := dkwX0_net_1 ++ dktX0_net_2
def dkwX0_net_0 : List UInt8 := [42, 27, 182, 1, 40, 153, 0, 12, 28, 3, 7, 184, 0, 153, 154, 0, 6, 16, 254, 172, 28]
abbrev dktX0_net_0 : List UInt8 := dkwX0_net_0 ++ dktX0_net_1
theorem dksX0_net_0 : cX0_net.data.toList.drop 0 = dktX0_net_0 := by decide +kernel
theorem dksX0_net_1 : cX0_net.data.toList.drop 21 = dktX0_net_1 := dk_seg dksX0_net_0 21 rfl rfl
theorem dksX0_net_2 : cX0_net.data.toList.drop 52 = dktX0_net_2 := dk_seg dksX0_net_1 31 rfl rfl
theorem dksX0_net_3 : cX0_net.data.toList.drop 76 = dktX0_net_3 := dk_seg dksX0_net_2 24 rfl rfl
theorem dksX0_net_4 : cX0_net.data.toList.drop 99 = dktX0_net_4 := dk_seg dksX0_net_3 23 rfl rfl
theorem dX0_net_0 : decode cX0_net 0 = .ok (.aload_n 0, 1) := dk_42 (dk_at dksX0_net_0 0 rfl rfl)
theorem dX0_net_1 : decode cX0_net 1 = .ok (.iload_n 1, 1) := dk_27 (dk_at dksX0_net_0 1 rfl rfl)
theorem dX0_net_2 : decode cX0_net 2 = .ok (.invokevirtual 296, 3) := dk_182 1 40 (dk_at dksX0_net_0 2 rfl rfl)
theorem dX0_net_5 : decode cX0_net 5 = .ok (.ifCond .eq 12, 3) := dk_153 0 12 (dk_at dksX0_net_0 5 rfl rfl)
theorem dX0_net_8 : decode cX0_net 8 = .ok (.iload_n 2, 1) := dk_28 (dk_at dksX0_net_0 8 rfl rfl)
theorem dX0_net_9 : decode cX0_net 9 = .ok (.iconst 0, 1) := dk_3 (dk_at dksX0_net_0 9 rfl rfl)
theorem dX0_net_10 : decode cX0_net 10 = .ok (.iconst 4, 1) := dk_7 (dk_at dksX0_net_0 10 rfl rfl)
theorem dX0_net_11 : decode cX0_net 11 = .ok (.invokestatic 153, 3) := dk_184 0 153 (dk_at dksX0_net_0 11 rfl rfl)
theorem dX0_net_14 : decode cX0_net 14 = .ok (.ifCond .ne 6, 3) := dk_154 0 6 (dk_at dksX0_net_0 14 rfl rfl)
theorem dX0_net_17 : decode cX0_net 17 = .ok (.bipush (-2), 2) := dk_16 254 (dk_at dksX0_net_0 17 rfl rfl)
theorem dX0_net_19 : decode cX0_net 19 = .ok (.ireturn, 1) := dk_172 (dk_at dksX0_net_0 19 rfl rfl)
theorem dX0_net_20 : decode cX0_net 20 = .ok (.iload_n 2, 1) := dk_28 (dk_at dksX0_net_0 20 rfl rfl)
theorem dX0_net_21 : decode cX0_net 21 = .ok (.tableswitch 90 0 3 #[31, 40, 57, 66], 31) := by decide +kernel
theorem dX0_net_52 : decode cX0_net 52 = .ok (.aload_n 0, 1) := dk_42 (dk_at dksX0_net_2 0 rfl rfl)
theorem dX0_net_53 : decode cX0_net 53 = .ok (.getfield 27, 3) := dk_180 0 27 (dk_at dksX0_net_2 1 rfl rfl)
theorem dX0_net_56 : decode cX0_net 56 = .ok (.iload_n 1, 1) := dk_27 (dk_at dksX0_net_2 4 rfl rfl)
theorem dX0_net_57 : decode cX0_net 57 = .ok (.invokevirtual 282, 3) := dk_182 1 26 (dk_at dksX0_net_2 5 rfl rfl)
theorem dX0_net_60 : decode cX0_net 60 = .ok (.ireturn, 1) := dk_172 (dk_at dksX0_net_2 8 rfl rfl)
theorem dX0_net_61 : decode cX0_net 61 = .ok (.aload_n 0, 1) := dk_42 (dk_at dksX0_net_2 9 rfl rfl)
theorem dX0_net_62 : decode cX0_net 62 = .ok (.getfield 27, 3) := dk_180 0 27 (dk_at dksX0_net_2 10 rfl rfl)
theorem dX0_net_65 : decode cX0_net 65 = .ok (.iload_n 1, 1) := dk_27 (dk_at dksX0_net_2 13 rfl rfl)
theorem dX0_net_66 : decode cX0_net 66 = .ok (.invokevirtual 279, 3) := dk_182 1 23 (dk_at dksX0_net_2 14 rfl rfl)
theorem dX0_net_69 : decode cX0_net 69 = .ok (.ifCond .eq 7, 3) := dk_153 0 7 (dk_at dksX0_net_2 17 rfl rfl)
theorem dX0_net_72 : decode cX0_net 72 = .ok (.iconst 1, 1) := dk_4 (dk_at dksX0_net_2 20 rfl rfl)
theorem dX0_net_73 : decode cX0_net 73 = .ok (.goto 4, 3) := dk_167 0 4 (dk_at dksX0_net_2 21 rfl rfl)
theorem dX0_net_76 : decode cX0_net 76 = .ok (.iconst 0, 1) := dk_3 (dk_at dksX0_net_3 0 rfl rfl)
theorem dX0_net_77 : decode cX0_net 77 = .ok (.ireturn, 1) := dk_172 (dk_at dksX0_net_3 1 rfl rfl)
theorem dX0_net_78 : decode cX0_net 78 = .ok (.aload_n 0, 1) := dk_42 (dk_at dksX0_net_3 2 rfl rfl)
theorem dX0_net_79 : decode cX0_net 79 = .ok (.getfield 27, 3) := dk_180 0 27 (dk_at dksX0_net_3 3 rfl rfl)
theorem dX0_net_82 : decode cX0_net 82 = .ok (.iload_n 1, 1) := dk_27 (dk_at dksX0_net_3 6 rfl rfl)
theorem dX0_net_83 : decode cX0_net 83 = .ok (.invokevirtual 284, 3) := dk_182 1 28 (dk_at dksX0_net_3 7 rfl rfl)
theorem dX0_net_86 : decode cX0_net 86 = .ok (.ireturn, 1) := dk_172 (dk_at dksX0_net_3 10 rfl rfl)
theorem dX0_net_87 : decode cX0_net 87 = .ok (.aload_n 0, 1) := dk_42 (dk_at dksX0_net_3 11 rfl rfl)
theorem dX0_net_88 : decode cX0_net 88 = .ok (.getfield 27, 3) := dk_180 0 27 (dk_at dksX0_net_3 12 rfl rfl)
theorem dX0_net_91 : decode cX0_net 91 = .ok (.iload_n 1, 1) := dk_27 (dk_at dksX0_net_3 15 rfl rfl)
theorem dX0_net_92 : decode cX0_net 92 = .ok (.invokevirtual 279, 3) := dk_182 1 23 (dk_at dksX0_net_3 16 rfl rfl)
theorem dX0_net_95 : decode cX0_net 95 = .ok (.ifCond .eq 14, 3) := dk_153 0 14 (dk_at dksX0_net_3 19 rfl rfl)
theorem dX0_net_98 : decode cX0_net 98 = .ok (.aload_n 0, 1) := dk_42 (dk_at dksX0_net_3 22 rfl rfl)
theorem dX0_net_99 : decode cX0_net 99 = .ok (.getfield 27, 3) := dk_180 0 27 (dk_at dksX0_net_4 0 rfl rfl)
theorem dX0_net_102 : decode cX0_net 102 = .ok (.iload_n 1, 1) := dk_27 (dk_at dksX0_net_4 3 rfl rfl)
theorem dX0_net_103 : decode cX0_net 103 = .ok (.invokevirtual 299, 3) := dk_182 1 43 (dk_at dksX0_net_4 4 rfl rfl)
theorem dX0_net_106 : decode cX0_net 106 = .ok (.goto 4, 3) := dk_167 0 4 (dk_at dksX0_net_4 7 rfl rfl)
theorem dX0_net_109 : decode cX0_net 109 = .ok (.iconst (-1), 1) := dk_2 (dk_at dksX0_net_4 10 rfl rfl)
theorem dX0_net_110 : decode cX0_net 110 = .ok (.ireturn, 1) := dk_172 (dk_at dksX0_net_4 11 rfl rfl)
theorem dX0_net_111 : decode cX0_net 111 = .ok (.aload_n 0, 1) := dk_42 (dk_at dksX0_net_4 12 rfl rfl)
theorem dX0_net_112 : decode cX0_net 112 = .ok (.iload_n 1, 1) := dk_27 (dk_at dksX0_net_4 13 rfl rfl)
theorem dX0_net_113 : decode cX0_net 113 = .ok (.invokevirtual 302, 3) := dk_182 1 46 (dk_at dksX0_net_4 14 rfl rfl)
theorem dX0_net_116 : decode cX0_net 116 = .ok (.ireturn, 1) := dk_172 (dk_at dksX0_net_4 17 rfl rfl)
abbrev cX0_isNet : ByteArray := prog_1_method_33_code
def yX0_isNet : MethodName := ⟨RX0, "isNet", "(I)Z"⟩
def dkwX0_isNet_0 : List UInt8 := [27, 3, 4, 42, 180, 0, 27, 180, 0, 143, 182, 0, 147, 120, 4, 100, 184, 0, 153, 172]
abbrev dktX0_isNet_0 : List UInt8 := dkwX0_isNet_0 ++ []
theorem dksX0_isNet_0 : cX0_isNet.data.toList.drop 0 = dktX0_isNet_0 := by decide +kernel
theorem dX0_isNet_0 : decode cX0_isNet 0 = .ok (.iload_n 1, 1) := dk_27 (dk_at dksX0_isNet_0 0 rfl rfl)
theorem dX0_isNet_1 : decode cX0_isNet 1 = .ok (.iconst 0, 1) := dk_3 (dk_at dksX0_isNet_0 1 rfl rfl)
theorem dX0_isNet_2 : decode cX0_isNet 2 = .ok (.iconst 1, 1) := dk_4 (dk_at dksX0_isNet_0 2 rfl rfl)
theorem dX0_isNet_3 : decode cX0_isNet 3 = .ok (.aload_n 0, 1) := dk_42 (dk_at dksX0_isNet_0 3 rfl rfl)
theorem dX0_isNet_4 : decode cX0_isNet 4 = .ok (.getfield 27, 3) := dk_180 0 27 (dk_at dksX0_isNet_0 4 rfl rfl)
theorem dX0_isNet_7 : decode cX0_isNet 7 = .ok (.getfield 143, 3) := dk_180 0 143 (dk_at dksX0_isNet_0 7 rfl rfl)
theorem dX0_isNet_10 : decode cX0_isNet 10 = .ok (.invokevirtual 147, 3) := dk_182 0 147 (dk_at dksX0_isNet_0 10 rfl rfl)
theorem dX0_isNet_13 : decode cX0_isNet 13 = .ok (.ishl, 1) := dk_120 (dk_at dksX0_isNet_0 13 rfl rfl)
theorem dX0_isNet_14 : decode cX0_isNet 14 = .ok (.iconst 1, 1) := dk_4 (dk_at dksX0_isNet_0 14 rfl rfl)
theorem dX0_isNet_15 : decode cX0_isNet 15 = .ok (.isub, 1) := dk_100 (dk_at dksX0_isNet_0 15 rfl rfl)
theorem dX0_isNet_16 : decode cX0_isNet 16 = .ok (.invokestatic 153, 3) := dk_184 0 153 (dk_at dksX0_isNet_0 16 rfl rfl)
theorem dX0_isNet_19 : decode cX0_isNet 19 = .ok (.ireturn, 1) := dk_172 (dk_at dksX0_isNet_0 19 rfl rfl)
abbrev cX0_beside : ByteArray := prog_1_method_35_code
def yX0_beside : MethodName := ⟨RX0, "beside", "(I)I"⟩
def dkwX0_beside_3 : List UInt8 := [96, 62, 132, 4, 1, 167, 255, 198, 29, 172]
abbrev dktX0_beside_3 : List UInt8 := dkwX0_beside_3 ++ []
def dkwX0_beside_2 : List UInt8 := [163, 0, 23, 42, 180, 0, 59, 21, 4, 46, 42, 180, 0, 59, 27, 46, 164, 0, 7, 4, 167, 0, 4, 3]
abbrev dktX0_beside_2 : List UInt8 := dkwX0_beside_2 ++ dktX0_beside_3
def dkwX0_beside_1 : List UInt8 := [162, 0, 55, 29, 42, 180, 0, 56, 21, 4, 46, 2, 159, 0, 34, 42, 180, 0, 56, 21, 4, 46, 28]
abbrev dktX0_beside_1 : List UInt8 := dkwX0_beside_1 ++ dktX0_beside_2
def dkwX0_beside_0 : List UInt8 := [42, 182, 1, 49, 42, 180, 0, 27, 27, 182, 1, 26, 61, 3, 62, 3, 54, 4, 21, 4, 42, 180, 1, 20]
abbrev dktX0_beside_0 : List UInt8 := dkwX0_beside_0 ++ dktX0_beside_1
theorem dksX0_beside_0 : cX0_beside.data.toList.drop 0 = dktX0_beside_0 := by decide +kernel
theorem dksX0_beside_1 : cX0_beside.data.toList.drop 24 = dktX0_beside_1 := dk_seg dksX0_beside_0 24 rfl rfl
theorem dksX0_beside_2 : cX0_beside.data.toList.drop 47 = dktX0_beside_2 := dk_seg dksX0_beside_1 23 rfl rfl
theorem dksX0_beside_3 : cX0_beside.data.toList.drop 71 = dktX0_beside_3 := dk_seg dksX0_beside_2 24 rfl rfl
theorem dX0_beside_0 : decode cX0_beside 0 = .ok (.aload_n 0, 1) := dk_42 (dk_at dksX0_beside_0 0 rfl rfl)
theorem dX0_beside_1 : decode cX0_beside 1 = .ok (.invokevirtual 305, 3) := dk_182 1 49 (dk_at dksX0_beside_0 1 rfl rfl)
theorem dX0_beside_4 : decode cX0_beside 4 = .ok (.aload_n 0, 1) := dk_42 (dk_at dksX0_beside_0 4 rfl rfl)
theorem dX0_beside_5 : decode cX0_beside 5 = .ok (.getfield 27, 3) := dk_180 0 27 (dk_at dksX0_beside_0 5 rfl rfl)
theorem dX0_beside_8 : decode cX0_beside 8 = .ok (.iload_n 1, 1) := dk_27 (dk_at dksX0_beside_0 8 rfl rfl)
theorem dX0_beside_9 : decode cX0_beside 9 = .ok (.invokevirtual 282, 3) := dk_182 1 26 (dk_at dksX0_beside_0 9 rfl rfl)
theorem dX0_beside_12 : decode cX0_beside 12 = .ok (.istore_n 2, 1) := dk_61 (dk_at dksX0_beside_0 12 rfl rfl)
theorem dX0_beside_13 : decode cX0_beside 13 = .ok (.iconst 0, 1) := dk_3 (dk_at dksX0_beside_0 13 rfl rfl)
theorem dX0_beside_14 : decode cX0_beside 14 = .ok (.istore_n 3, 1) := dk_62 (dk_at dksX0_beside_0 14 rfl rfl)
theorem dX0_beside_15 : decode cX0_beside 15 = .ok (.iconst 0, 1) := dk_3 (dk_at dksX0_beside_0 15 rfl rfl)
theorem dX0_beside_16 : decode cX0_beside 16 = .ok (.istore 4, 2) := dk_54 4 (dk_at dksX0_beside_0 16 rfl rfl)
theorem dX0_beside_18 : decode cX0_beside 18 = .ok (.iload 4, 2) := dk_21 4 (dk_at dksX0_beside_0 18 rfl rfl)
theorem dX0_beside_20 : decode cX0_beside 20 = .ok (.aload_n 0, 1) := dk_42 (dk_at dksX0_beside_0 20 rfl rfl)
theorem dX0_beside_21 : decode cX0_beside 21 = .ok (.getfield 276, 3) := dk_180 1 20 (dk_at dksX0_beside_0 21 rfl rfl)
theorem dX0_beside_24 : decode cX0_beside 24 = .ok (.if_icmp .ge 55, 3) := dk_162 0 55 (dk_at dksX0_beside_1 0 rfl rfl)
theorem dX0_beside_27 : decode cX0_beside 27 = .ok (.iload_n 3, 1) := dk_29 (dk_at dksX0_beside_1 3 rfl rfl)
theorem dX0_beside_28 : decode cX0_beside 28 = .ok (.aload_n 0, 1) := dk_42 (dk_at dksX0_beside_1 4 rfl rfl)
theorem dX0_beside_29 : decode cX0_beside 29 = .ok (.getfield 56, 3) := dk_180 0 56 (dk_at dksX0_beside_1 5 rfl rfl)
theorem dX0_beside_32 : decode cX0_beside 32 = .ok (.iload 4, 2) := dk_21 4 (dk_at dksX0_beside_1 8 rfl rfl)
theorem dX0_beside_34 : decode cX0_beside 34 = .ok (.iaload, 1) := dk_46 (dk_at dksX0_beside_1 10 rfl rfl)
theorem dX0_beside_35 : decode cX0_beside 35 = .ok (.iconst (-1), 1) := dk_2 (dk_at dksX0_beside_1 11 rfl rfl)
theorem dX0_beside_36 : decode cX0_beside 36 = .ok (.if_icmp .eq 34, 3) := dk_159 0 34 (dk_at dksX0_beside_1 12 rfl rfl)
theorem dX0_beside_39 : decode cX0_beside 39 = .ok (.aload_n 0, 1) := dk_42 (dk_at dksX0_beside_1 15 rfl rfl)
theorem dX0_beside_40 : decode cX0_beside 40 = .ok (.getfield 56, 3) := dk_180 0 56 (dk_at dksX0_beside_1 16 rfl rfl)
theorem dX0_beside_43 : decode cX0_beside 43 = .ok (.iload 4, 2) := dk_21 4 (dk_at dksX0_beside_1 19 rfl rfl)
theorem dX0_beside_45 : decode cX0_beside 45 = .ok (.iaload, 1) := dk_46 (dk_at dksX0_beside_1 21 rfl rfl)
theorem dX0_beside_46 : decode cX0_beside 46 = .ok (.iload_n 2, 1) := dk_28 (dk_at dksX0_beside_1 22 rfl rfl)
theorem dX0_beside_47 : decode cX0_beside 47 = .ok (.if_icmp .gt 23, 3) := dk_163 0 23 (dk_at dksX0_beside_2 0 rfl rfl)
theorem dX0_beside_50 : decode cX0_beside 50 = .ok (.aload_n 0, 1) := dk_42 (dk_at dksX0_beside_2 3 rfl rfl)
theorem dX0_beside_51 : decode cX0_beside 51 = .ok (.getfield 59, 3) := dk_180 0 59 (dk_at dksX0_beside_2 4 rfl rfl)
theorem dX0_beside_54 : decode cX0_beside 54 = .ok (.iload 4, 2) := dk_21 4 (dk_at dksX0_beside_2 7 rfl rfl)
theorem dX0_beside_56 : decode cX0_beside 56 = .ok (.iaload, 1) := dk_46 (dk_at dksX0_beside_2 9 rfl rfl)
theorem dX0_beside_57 : decode cX0_beside 57 = .ok (.aload_n 0, 1) := dk_42 (dk_at dksX0_beside_2 10 rfl rfl)
theorem dX0_beside_58 : decode cX0_beside 58 = .ok (.getfield 59, 3) := dk_180 0 59 (dk_at dksX0_beside_2 11 rfl rfl)
theorem dX0_beside_61 : decode cX0_beside 61 = .ok (.iload_n 1, 1) := dk_27 (dk_at dksX0_beside_2 14 rfl rfl)
theorem dX0_beside_62 : decode cX0_beside 62 = .ok (.iaload, 1) := dk_46 (dk_at dksX0_beside_2 15 rfl rfl)
theorem dX0_beside_63 : decode cX0_beside 63 = .ok (.if_icmp .le 7, 3) := dk_164 0 7 (dk_at dksX0_beside_2 16 rfl rfl)
theorem dX0_beside_66 : decode cX0_beside 66 = .ok (.iconst 1, 1) := dk_4 (dk_at dksX0_beside_2 19 rfl rfl)
theorem dX0_beside_67 : decode cX0_beside 67 = .ok (.goto 4, 3) := dk_167 0 4 (dk_at dksX0_beside_2 20 rfl rfl)
theorem dX0_beside_70 : decode cX0_beside 70 = .ok (.iconst 0, 1) := dk_3 (dk_at dksX0_beside_2 23 rfl rfl)
theorem dX0_beside_71 : decode cX0_beside 71 = .ok (.iadd, 1) := dk_96 (dk_at dksX0_beside_3 0 rfl rfl)
theorem dX0_beside_72 : decode cX0_beside 72 = .ok (.istore_n 3, 1) := dk_62 (dk_at dksX0_beside_3 1 rfl rfl)
theorem dX0_beside_73 : decode cX0_beside 73 = .ok (.iinc 4 1, 3) := dk_132 4 1 (dk_at dksX0_beside_3 2 rfl rfl)
theorem dX0_beside_76 : decode cX0_beside 76 = .ok (.goto (-58), 3) := dk_167 255 198 (dk_at dksX0_beside_3 5 rfl rfl)
theorem dX0_beside_79 : decode cX0_beside 79 = .ok (.iload_n 3, 1) := dk_29 (dk_at dksX0_beside_3 8 rfl rfl)
theorem dX0_beside_80 : decode cX0_beside 80 = .ok (.ireturn, 1) := dk_172 (dk_at dksX0_beside_3 9 rfl rfl)
abbrev cX0_list : ByteArray := prog_1_method_29_code
def yX0_list : MethodName := ⟨RX0, "list", "()V"⟩
def dkwX0_list_5 : List UInt8 := [182, 1, 34, 153, 0, 8, 42, 27, 182, 1, 37, 132, 1, 1, 167, 255, 222, 177]
abbrev dktX0_list_5 : List UInt8 := dkwX0_list_5 ++ []
def dkwX0_list_4 : List UInt8 := [3, 60, 27, 42, 180, 1, 20, 162, 0, 32, 42, 180, 0, 56, 27, 46, 2, 159, 0, 16, 42, 27]
abbrev dktX0_list_4 : List UInt8 := dkwX0_list_4 ++ dktX0_list_5
def dkwX0_list_3 : List UInt8 := [180, 0, 59, 27, 42, 180, 0, 27, 27, 182, 1, 28, 79, 132, 1, 1, 167, 255, 202, 42, 3, 181, 1, 31]
abbrev dktX0_list_3 : List UInt8 := dkwX0_list_3 ++ dktX0_list_4
def dkwX0_list_2 : List UInt8 := [180, 0, 27, 27, 182, 1, 23, 153, 0, 14, 42, 180, 0, 27, 27, 182, 1, 26, 167, 0, 4, 2, 79, 42]
abbrev dktX0_list_2 : List UInt8 := dkwX0_list_2 ++ dktX0_list_3
def dkwX0_list_1 : List UInt8 := [182, 0, 147, 120, 181, 1, 20, 3, 60, 27, 42, 180, 1, 20, 162, 0, 52, 42, 180, 0, 56, 27, 42]
abbrev dktX0_list_1 : List UInt8 := dkwX0_list_1 ++ dktX0_list_2
def dkwX0_list_0 : List UInt8 := [42, 180, 0, 136, 153, 0, 4, 177, 42, 4, 181, 0, 136, 42, 4, 42, 180, 0, 27, 180, 0, 143]
abbrev dktX0_list_0 : List UInt8 := dkwX0_list_0 ++ dktX0_list_1
theorem dksX0_list_0 : cX0_list.data.toList.drop 0 = dktX0_list_0 := by decide +kernel
theorem dksX0_list_1 : cX0_list.data.toList.drop 22 = dktX0_list_1 := dk_seg dksX0_list_0 22 rfl rfl
theorem dksX0_list_2 : cX0_list.data.toList.drop 45 = dktX0_list_2 := dk_seg dksX0_list_1 23 rfl rfl
theorem dksX0_list_3 : cX0_list.data.toList.drop 69 = dktX0_list_3 := dk_seg dksX0_list_2 24 rfl rfl
theorem dksX0_list_4 : cX0_list.data.toList.drop 93 = dktX0_list_4 := dk_seg dksX0_list_3 24 rfl rfl
theorem dksX0_list_5 : cX0_list.data.toList.drop 115 = dktX0_list_5 := dk_seg dksX0_list_4 22 rfl rfl
theorem dX0_list_0 : decode cX0_list 0 = .ok (.aload_n 0, 1) := dk_42 (dk_at dksX0_list_0 0 rfl rfl)
theorem dX0_list_1 : decode cX0_list 1 = .ok (.getfield 136, 3) := dk_180 0 136 (dk_at dksX0_list_0 1 rfl rfl)
theorem dX0_list_4 : decode cX0_list 4 = .ok (.ifCond .eq 4, 3) := dk_153 0 4 (dk_at dksX0_list_0 4 rfl rfl)
theorem dX0_list_7 : decode cX0_list 7 = .ok (.return_, 1) := dk_177 (dk_at dksX0_list_0 7 rfl rfl)
theorem dX0_list_8 : decode cX0_list 8 = .ok (.aload_n 0, 1) := dk_42 (dk_at dksX0_list_0 8 rfl rfl)
theorem dX0_list_9 : decode cX0_list 9 = .ok (.iconst 1, 1) := dk_4 (dk_at dksX0_list_0 9 rfl rfl)
theorem dX0_list_10 : decode cX0_list 10 = .ok (.putfield 136, 3) := dk_181 0 136 (dk_at dksX0_list_0 10 rfl rfl)
theorem dX0_list_13 : decode cX0_list 13 = .ok (.aload_n 0, 1) := dk_42 (dk_at dksX0_list_0 13 rfl rfl)
theorem dX0_list_14 : decode cX0_list 14 = .ok (.iconst 1, 1) := dk_4 (dk_at dksX0_list_0 14 rfl rfl)
theorem dX0_list_15 : decode cX0_list 15 = .ok (.aload_n 0, 1) := dk_42 (dk_at dksX0_list_0 15 rfl rfl)
theorem dX0_list_16 : decode cX0_list 16 = .ok (.getfield 27, 3) := dk_180 0 27 (dk_at dksX0_list_0 16 rfl rfl)
theorem dX0_list_19 : decode cX0_list 19 = .ok (.getfield 143, 3) := dk_180 0 143 (dk_at dksX0_list_0 19 rfl rfl)
theorem dX0_list_22 : decode cX0_list 22 = .ok (.invokevirtual 147, 3) := dk_182 0 147 (dk_at dksX0_list_1 0 rfl rfl)
theorem dX0_list_25 : decode cX0_list 25 = .ok (.ishl, 1) := dk_120 (dk_at dksX0_list_1 3 rfl rfl)
theorem dX0_list_26 : decode cX0_list 26 = .ok (.putfield 276, 3) := dk_181 1 20 (dk_at dksX0_list_1 4 rfl rfl)
theorem dX0_list_29 : decode cX0_list 29 = .ok (.iconst 0, 1) := dk_3 (dk_at dksX0_list_1 7 rfl rfl)
theorem dX0_list_30 : decode cX0_list 30 = .ok (.istore_n 1, 1) := dk_60 (dk_at dksX0_list_1 8 rfl rfl)
theorem dX0_list_31 : decode cX0_list 31 = .ok (.iload_n 1, 1) := dk_27 (dk_at dksX0_list_1 9 rfl rfl)
theorem dX0_list_32 : decode cX0_list 32 = .ok (.aload_n 0, 1) := dk_42 (dk_at dksX0_list_1 10 rfl rfl)
theorem dX0_list_33 : decode cX0_list 33 = .ok (.getfield 276, 3) := dk_180 1 20 (dk_at dksX0_list_1 11 rfl rfl)
theorem dX0_list_36 : decode cX0_list 36 = .ok (.if_icmp .ge 52, 3) := dk_162 0 52 (dk_at dksX0_list_1 14 rfl rfl)
theorem dX0_list_39 : decode cX0_list 39 = .ok (.aload_n 0, 1) := dk_42 (dk_at dksX0_list_1 17 rfl rfl)
theorem dX0_list_40 : decode cX0_list 40 = .ok (.getfield 56, 3) := dk_180 0 56 (dk_at dksX0_list_1 18 rfl rfl)
theorem dX0_list_43 : decode cX0_list 43 = .ok (.iload_n 1, 1) := dk_27 (dk_at dksX0_list_1 21 rfl rfl)
theorem dX0_list_44 : decode cX0_list 44 = .ok (.aload_n 0, 1) := dk_42 (dk_at dksX0_list_1 22 rfl rfl)
theorem dX0_list_45 : decode cX0_list 45 = .ok (.getfield 27, 3) := dk_180 0 27 (dk_at dksX0_list_2 0 rfl rfl)
theorem dX0_list_48 : decode cX0_list 48 = .ok (.iload_n 1, 1) := dk_27 (dk_at dksX0_list_2 3 rfl rfl)
theorem dX0_list_49 : decode cX0_list 49 = .ok (.invokevirtual 279, 3) := dk_182 1 23 (dk_at dksX0_list_2 4 rfl rfl)
theorem dX0_list_52 : decode cX0_list 52 = .ok (.ifCond .eq 14, 3) := dk_153 0 14 (dk_at dksX0_list_2 7 rfl rfl)
theorem dX0_list_55 : decode cX0_list 55 = .ok (.aload_n 0, 1) := dk_42 (dk_at dksX0_list_2 10 rfl rfl)
theorem dX0_list_56 : decode cX0_list 56 = .ok (.getfield 27, 3) := dk_180 0 27 (dk_at dksX0_list_2 11 rfl rfl)
theorem dX0_list_59 : decode cX0_list 59 = .ok (.iload_n 1, 1) := dk_27 (dk_at dksX0_list_2 14 rfl rfl)
theorem dX0_list_60 : decode cX0_list 60 = .ok (.invokevirtual 282, 3) := dk_182 1 26 (dk_at dksX0_list_2 15 rfl rfl)
theorem dX0_list_63 : decode cX0_list 63 = .ok (.goto 4, 3) := dk_167 0 4 (dk_at dksX0_list_2 18 rfl rfl)
theorem dX0_list_66 : decode cX0_list 66 = .ok (.iconst (-1), 1) := dk_2 (dk_at dksX0_list_2 21 rfl rfl)
theorem dX0_list_67 : decode cX0_list 67 = .ok (.iastore, 1) := dk_79 (dk_at dksX0_list_2 22 rfl rfl)
theorem dX0_list_68 : decode cX0_list 68 = .ok (.aload_n 0, 1) := dk_42 (dk_at dksX0_list_2 23 rfl rfl)
theorem dX0_list_69 : decode cX0_list 69 = .ok (.getfield 59, 3) := dk_180 0 59 (dk_at dksX0_list_3 0 rfl rfl)
theorem dX0_list_72 : decode cX0_list 72 = .ok (.iload_n 1, 1) := dk_27 (dk_at dksX0_list_3 3 rfl rfl)
theorem dX0_list_73 : decode cX0_list 73 = .ok (.aload_n 0, 1) := dk_42 (dk_at dksX0_list_3 4 rfl rfl)
theorem dX0_list_74 : decode cX0_list 74 = .ok (.getfield 27, 3) := dk_180 0 27 (dk_at dksX0_list_3 5 rfl rfl)
theorem dX0_list_77 : decode cX0_list 77 = .ok (.iload_n 1, 1) := dk_27 (dk_at dksX0_list_3 8 rfl rfl)
theorem dX0_list_78 : decode cX0_list 78 = .ok (.invokevirtual 284, 3) := dk_182 1 28 (dk_at dksX0_list_3 9 rfl rfl)
theorem dX0_list_81 : decode cX0_list 81 = .ok (.iastore, 1) := dk_79 (dk_at dksX0_list_3 12 rfl rfl)
theorem dX0_list_82 : decode cX0_list 82 = .ok (.iinc 1 1, 3) := dk_132 1 1 (dk_at dksX0_list_3 13 rfl rfl)
theorem dX0_list_85 : decode cX0_list 85 = .ok (.goto (-54), 3) := dk_167 255 202 (dk_at dksX0_list_3 16 rfl rfl)
theorem dX0_list_88 : decode cX0_list 88 = .ok (.aload_n 0, 1) := dk_42 (dk_at dksX0_list_3 19 rfl rfl)
theorem dX0_list_89 : decode cX0_list 89 = .ok (.iconst 0, 1) := dk_3 (dk_at dksX0_list_3 20 rfl rfl)
theorem dX0_list_90 : decode cX0_list 90 = .ok (.putfield 287, 3) := dk_181 1 31 (dk_at dksX0_list_3 21 rfl rfl)
theorem dX0_list_93 : decode cX0_list 93 = .ok (.iconst 0, 1) := dk_3 (dk_at dksX0_list_4 0 rfl rfl)
theorem dX0_list_94 : decode cX0_list 94 = .ok (.istore_n 1, 1) := dk_60 (dk_at dksX0_list_4 1 rfl rfl)
theorem dX0_list_95 : decode cX0_list 95 = .ok (.iload_n 1, 1) := dk_27 (dk_at dksX0_list_4 2 rfl rfl)
theorem dX0_list_96 : decode cX0_list 96 = .ok (.aload_n 0, 1) := dk_42 (dk_at dksX0_list_4 3 rfl rfl)
theorem dX0_list_97 : decode cX0_list 97 = .ok (.getfield 276, 3) := dk_180 1 20 (dk_at dksX0_list_4 4 rfl rfl)
theorem dX0_list_100 : decode cX0_list 100 = .ok (.if_icmp .ge 32, 3) := dk_162 0 32 (dk_at dksX0_list_4 7 rfl rfl)
theorem dX0_list_103 : decode cX0_list 103 = .ok (.aload_n 0, 1) := dk_42 (dk_at dksX0_list_4 10 rfl rfl)
theorem dX0_list_104 : decode cX0_list 104 = .ok (.getfield 56, 3) := dk_180 0 56 (dk_at dksX0_list_4 11 rfl rfl)
theorem dX0_list_107 : decode cX0_list 107 = .ok (.iload_n 1, 1) := dk_27 (dk_at dksX0_list_4 14 rfl rfl)
theorem dX0_list_108 : decode cX0_list 108 = .ok (.iaload, 1) := dk_46 (dk_at dksX0_list_4 15 rfl rfl)
theorem dX0_list_109 : decode cX0_list 109 = .ok (.iconst (-1), 1) := dk_2 (dk_at dksX0_list_4 16 rfl rfl)
theorem dX0_list_110 : decode cX0_list 110 = .ok (.if_icmp .eq 16, 3) := dk_159 0 16 (dk_at dksX0_list_4 17 rfl rfl)
theorem dX0_list_113 : decode cX0_list 113 = .ok (.aload_n 0, 1) := dk_42 (dk_at dksX0_list_4 20 rfl rfl)
theorem dX0_list_114 : decode cX0_list 114 = .ok (.iload_n 1, 1) := dk_27 (dk_at dksX0_list_4 21 rfl rfl)
theorem dX0_list_115 : decode cX0_list 115 = .ok (.invokevirtual 290, 3) := dk_182 1 34 (dk_at dksX0_list_5 0 rfl rfl)
theorem dX0_list_118 : decode cX0_list 118 = .ok (.ifCond .eq 8, 3) := dk_153 0 8 (dk_at dksX0_list_5 3 rfl rfl)
theorem dX0_list_121 : decode cX0_list 121 = .ok (.aload_n 0, 1) := dk_42 (dk_at dksX0_list_5 6 rfl rfl)
theorem dX0_list_122 : decode cX0_list 122 = .ok (.iload_n 1, 1) := dk_27 (dk_at dksX0_list_5 7 rfl rfl)
theorem dX0_list_123 : decode cX0_list 123 = .ok (.invokevirtual 293, 3) := dk_182 1 37 (dk_at dksX0_list_5 8 rfl rfl)
theorem dX0_list_126 : decode cX0_list 126 = .ok (.iinc 1 1, 3) := dk_132 1 1 (dk_at dksX0_list_5 11 rfl rfl)
theorem dX0_list_129 : decode cX0_list 129 = .ok (.goto (-34), 3) := dk_167 255 222 (dk_at dksX0_list_5 14 rfl rfl)
theorem dX0_list_132 : decode cX0_list 132 = .ok (.return_, 1) := dk_177 (dk_at dksX0_list_5 17 rfl rfl)
abbrev cX0_isGood : ByteArray := prog_1_method_30_code
def yX0_isGood : MethodName := ⟨RX0, "isGood", "(I)Z"⟩
def dkwX0_isGood_4 : List UInt8 := [167, 255, 165, 4, 172]
abbrev dktX0_isGood_4 : List UInt8 := dkwX0_isGood_4 ++ []
def dkwX0_isGood_3 : List UInt8 := [180, 0, 59, 28, 46, 42, 180, 0, 59, 27, 46, 163, 0, 8, 28, 27, 162, 0, 5, 3, 172, 132, 2, 1]
abbrev dktX0_isGood_3 : List UInt8 := dkwX0_isGood_3 ++ dktX0_isGood_4
def dkwX0_isGood_2 : List UInt8 := [162, 0, 6, 167, 0, 40, 42, 180, 0, 56, 28, 46, 42, 180, 0, 56, 27, 46, 161, 0, 23, 42]
abbrev dktX0_isGood_2 : List UInt8 := dkwX0_isGood_2 ++ dktX0_isGood_3
def dkwX0_isGood_1 : List UInt8 := [28, 46, 42, 180, 0, 56, 27, 46, 163, 0, 58, 42, 180, 0, 59, 28, 46, 42, 180, 0, 59, 27, 46]
abbrev dktX0_isGood_1 : List UInt8 := dkwX0_isGood_1 ++ dktX0_isGood_2
def dkwX0_isGood_0 : List UInt8 := [3, 61, 28, 42, 180, 1, 20, 162, 0, 89, 42, 180, 0, 56, 28, 46, 2, 159, 0, 73, 42, 180, 0, 56]
abbrev dktX0_isGood_0 : List UInt8 := dkwX0_isGood_0 ++ dktX0_isGood_1
theorem dksX0_isGood_0 : cX0_isGood.data.toList.drop 0 = dktX0_isGood_0 := by decide +kernel
theorem dksX0_isGood_1 : cX0_isGood.data.toList.drop 24 = dktX0_isGood_1 := dk_seg dksX0_isGood_0 24 rfl rfl
theorem dksX0_isGood_2 : cX0_isGood.data.toList.drop 47 = dktX0_isGood_2 := dk_seg dksX0_isGood_1 23 rfl rfl
theorem dksX0_isGood_3 : cX0_isGood.data.toList.drop 69 = dktX0_isGood_3 := dk_seg dksX0_isGood_2 22 rfl rfl
theorem dksX0_isGood_4 : cX0_isGood.data.toList.drop 93 = dktX0_isGood_4 := dk_seg dksX0_isGood_3 24 rfl rfl
theorem dX0_isGood_0 : decode cX0_isGood 0 = .ok (.iconst 0, 1) := dk_3 (dk_at dksX0_isGood_0 0 rfl rfl)
theorem dX0_isGood_1 : decode cX0_isGood 1 = .ok (.istore_n 2, 1) := dk_61 (dk_at dksX0_isGood_0 1 rfl rfl)
theorem dX0_isGood_2 : decode cX0_isGood 2 = .ok (.iload_n 2, 1) := dk_28 (dk_at dksX0_isGood_0 2 rfl rfl)
theorem dX0_isGood_3 : decode cX0_isGood 3 = .ok (.aload_n 0, 1) := dk_42 (dk_at dksX0_isGood_0 3 rfl rfl)
theorem dX0_isGood_4 : decode cX0_isGood 4 = .ok (.getfield 276, 3) := dk_180 1 20 (dk_at dksX0_isGood_0 4 rfl rfl)
theorem dX0_isGood_7 : decode cX0_isGood 7 = .ok (.if_icmp .ge 89, 3) := dk_162 0 89 (dk_at dksX0_isGood_0 7 rfl rfl)
theorem dX0_isGood_10 : decode cX0_isGood 10 = .ok (.aload_n 0, 1) := dk_42 (dk_at dksX0_isGood_0 10 rfl rfl)
theorem dX0_isGood_11 : decode cX0_isGood 11 = .ok (.getfield 56, 3) := dk_180 0 56 (dk_at dksX0_isGood_0 11 rfl rfl)
theorem dX0_isGood_14 : decode cX0_isGood 14 = .ok (.iload_n 2, 1) := dk_28 (dk_at dksX0_isGood_0 14 rfl rfl)
theorem dX0_isGood_15 : decode cX0_isGood 15 = .ok (.iaload, 1) := dk_46 (dk_at dksX0_isGood_0 15 rfl rfl)
theorem dX0_isGood_16 : decode cX0_isGood 16 = .ok (.iconst (-1), 1) := dk_2 (dk_at dksX0_isGood_0 16 rfl rfl)
theorem dX0_isGood_17 : decode cX0_isGood 17 = .ok (.if_icmp .eq 73, 3) := dk_159 0 73 (dk_at dksX0_isGood_0 17 rfl rfl)
theorem dX0_isGood_20 : decode cX0_isGood 20 = .ok (.aload_n 0, 1) := dk_42 (dk_at dksX0_isGood_0 20 rfl rfl)
theorem dX0_isGood_21 : decode cX0_isGood 21 = .ok (.getfield 56, 3) := dk_180 0 56 (dk_at dksX0_isGood_0 21 rfl rfl)
theorem dX0_isGood_24 : decode cX0_isGood 24 = .ok (.iload_n 2, 1) := dk_28 (dk_at dksX0_isGood_1 0 rfl rfl)
theorem dX0_isGood_25 : decode cX0_isGood 25 = .ok (.iaload, 1) := dk_46 (dk_at dksX0_isGood_1 1 rfl rfl)
theorem dX0_isGood_26 : decode cX0_isGood 26 = .ok (.aload_n 0, 1) := dk_42 (dk_at dksX0_isGood_1 2 rfl rfl)
theorem dX0_isGood_27 : decode cX0_isGood 27 = .ok (.getfield 56, 3) := dk_180 0 56 (dk_at dksX0_isGood_1 3 rfl rfl)
theorem dX0_isGood_30 : decode cX0_isGood 30 = .ok (.iload_n 1, 1) := dk_27 (dk_at dksX0_isGood_1 6 rfl rfl)
theorem dX0_isGood_31 : decode cX0_isGood 31 = .ok (.iaload, 1) := dk_46 (dk_at dksX0_isGood_1 7 rfl rfl)
theorem dX0_isGood_32 : decode cX0_isGood 32 = .ok (.if_icmp .gt 58, 3) := dk_163 0 58 (dk_at dksX0_isGood_1 8 rfl rfl)
theorem dX0_isGood_35 : decode cX0_isGood 35 = .ok (.aload_n 0, 1) := dk_42 (dk_at dksX0_isGood_1 11 rfl rfl)
theorem dX0_isGood_36 : decode cX0_isGood 36 = .ok (.getfield 59, 3) := dk_180 0 59 (dk_at dksX0_isGood_1 12 rfl rfl)
theorem dX0_isGood_39 : decode cX0_isGood 39 = .ok (.iload_n 2, 1) := dk_28 (dk_at dksX0_isGood_1 15 rfl rfl)
theorem dX0_isGood_40 : decode cX0_isGood 40 = .ok (.iaload, 1) := dk_46 (dk_at dksX0_isGood_1 16 rfl rfl)
theorem dX0_isGood_41 : decode cX0_isGood 41 = .ok (.aload_n 0, 1) := dk_42 (dk_at dksX0_isGood_1 17 rfl rfl)
theorem dX0_isGood_42 : decode cX0_isGood 42 = .ok (.getfield 59, 3) := dk_180 0 59 (dk_at dksX0_isGood_1 18 rfl rfl)
theorem dX0_isGood_45 : decode cX0_isGood 45 = .ok (.iload_n 1, 1) := dk_27 (dk_at dksX0_isGood_1 21 rfl rfl)
theorem dX0_isGood_46 : decode cX0_isGood 46 = .ok (.iaload, 1) := dk_46 (dk_at dksX0_isGood_1 22 rfl rfl)
theorem dX0_isGood_47 : decode cX0_isGood 47 = .ok (.if_icmp .ge 6, 3) := dk_162 0 6 (dk_at dksX0_isGood_2 0 rfl rfl)
theorem dX0_isGood_50 : decode cX0_isGood 50 = .ok (.goto 40, 3) := dk_167 0 40 (dk_at dksX0_isGood_2 3 rfl rfl)
theorem dX0_isGood_53 : decode cX0_isGood 53 = .ok (.aload_n 0, 1) := dk_42 (dk_at dksX0_isGood_2 6 rfl rfl)
theorem dX0_isGood_54 : decode cX0_isGood 54 = .ok (.getfield 56, 3) := dk_180 0 56 (dk_at dksX0_isGood_2 7 rfl rfl)
theorem dX0_isGood_57 : decode cX0_isGood 57 = .ok (.iload_n 2, 1) := dk_28 (dk_at dksX0_isGood_2 10 rfl rfl)
theorem dX0_isGood_58 : decode cX0_isGood 58 = .ok (.iaload, 1) := dk_46 (dk_at dksX0_isGood_2 11 rfl rfl)
theorem dX0_isGood_59 : decode cX0_isGood 59 = .ok (.aload_n 0, 1) := dk_42 (dk_at dksX0_isGood_2 12 rfl rfl)
theorem dX0_isGood_60 : decode cX0_isGood 60 = .ok (.getfield 56, 3) := dk_180 0 56 (dk_at dksX0_isGood_2 13 rfl rfl)
theorem dX0_isGood_63 : decode cX0_isGood 63 = .ok (.iload_n 1, 1) := dk_27 (dk_at dksX0_isGood_2 16 rfl rfl)
theorem dX0_isGood_64 : decode cX0_isGood 64 = .ok (.iaload, 1) := dk_46 (dk_at dksX0_isGood_2 17 rfl rfl)
theorem dX0_isGood_65 : decode cX0_isGood 65 = .ok (.if_icmp .lt 23, 3) := dk_161 0 23 (dk_at dksX0_isGood_2 18 rfl rfl)
theorem dX0_isGood_68 : decode cX0_isGood 68 = .ok (.aload_n 0, 1) := dk_42 (dk_at dksX0_isGood_2 21 rfl rfl)
theorem dX0_isGood_69 : decode cX0_isGood 69 = .ok (.getfield 59, 3) := dk_180 0 59 (dk_at dksX0_isGood_3 0 rfl rfl)
theorem dX0_isGood_72 : decode cX0_isGood 72 = .ok (.iload_n 2, 1) := dk_28 (dk_at dksX0_isGood_3 3 rfl rfl)
theorem dX0_isGood_73 : decode cX0_isGood 73 = .ok (.iaload, 1) := dk_46 (dk_at dksX0_isGood_3 4 rfl rfl)
theorem dX0_isGood_74 : decode cX0_isGood 74 = .ok (.aload_n 0, 1) := dk_42 (dk_at dksX0_isGood_3 5 rfl rfl)
theorem dX0_isGood_75 : decode cX0_isGood 75 = .ok (.getfield 59, 3) := dk_180 0 59 (dk_at dksX0_isGood_3 6 rfl rfl)
theorem dX0_isGood_78 : decode cX0_isGood 78 = .ok (.iload_n 1, 1) := dk_27 (dk_at dksX0_isGood_3 9 rfl rfl)
theorem dX0_isGood_79 : decode cX0_isGood 79 = .ok (.iaload, 1) := dk_46 (dk_at dksX0_isGood_3 10 rfl rfl)
theorem dX0_isGood_80 : decode cX0_isGood 80 = .ok (.if_icmp .gt 8, 3) := dk_163 0 8 (dk_at dksX0_isGood_3 11 rfl rfl)
theorem dX0_isGood_83 : decode cX0_isGood 83 = .ok (.iload_n 2, 1) := dk_28 (dk_at dksX0_isGood_3 14 rfl rfl)
theorem dX0_isGood_84 : decode cX0_isGood 84 = .ok (.iload_n 1, 1) := dk_27 (dk_at dksX0_isGood_3 15 rfl rfl)
theorem dX0_isGood_85 : decode cX0_isGood 85 = .ok (.if_icmp .ge 5, 3) := dk_162 0 5 (dk_at dksX0_isGood_3 16 rfl rfl)
theorem dX0_isGood_88 : decode cX0_isGood 88 = .ok (.iconst 0, 1) := dk_3 (dk_at dksX0_isGood_3 19 rfl rfl)
theorem dX0_isGood_89 : decode cX0_isGood 89 = .ok (.ireturn, 1) := dk_172 (dk_at dksX0_isGood_3 20 rfl rfl)
theorem dX0_isGood_90 : decode cX0_isGood 90 = .ok (.iinc 2 1, 3) := dk_132 2 1 (dk_at dksX0_isGood_3 21 rfl rfl)
theorem dX0_isGood_93 : decode cX0_isGood 93 = .ok (.goto (-91), 3) := dk_167 255 165 (dk_at dksX0_isGood_4 0 rfl rfl)
theorem dX0_isGood_96 : decode cX0_isGood 96 = .ok (.iconst 1, 1) := dk_4 (dk_at dksX0_isGood_4 3 rfl rfl)
theorem dX0_isGood_97 : decode cX0_isGood 97 = .ok (.ireturn, 1) := dk_172 (dk_at dksX0_isGood_4 4 rfl rfl)
abbrev cX0_insert : ByteArray := prog_1_method_31_code
def yX0_insert : MethodName := ⟨RX0, "insert", "(I)V"⟩
def dkwX0_insert_2 : List UInt8 := [132, 2, 255, 167, 255, 213, 42, 180, 0, 62, 28, 27, 79, 42, 89, 180, 1, 31, 4, 96, 181, 1, 31, 177]
abbrev dktX0_insert_2 : List UInt8 := dkwX0_insert_2 ++ []
def dkwX0_insert_1 : List UInt8 := [180, 0, 56, 27, 46, 164, 0, 23, 42, 180, 0, 62, 28, 42, 180, 0, 62, 28, 4, 100, 46, 79]
abbrev dktX0_insert_1 : List UInt8 := dkwX0_insert_1 ++ dktX0_insert_2
def dkwX0_insert_0 : List UInt8 := [42, 180, 1, 31, 61, 28, 158, 0, 45, 42, 180, 0, 56, 42, 180, 0, 62, 28, 4, 100, 46, 46, 42]
abbrev dktX0_insert_0 : List UInt8 := dkwX0_insert_0 ++ dktX0_insert_1
theorem dksX0_insert_0 : cX0_insert.data.toList.drop 0 = dktX0_insert_0 := by decide +kernel
theorem dksX0_insert_1 : cX0_insert.data.toList.drop 23 = dktX0_insert_1 := dk_seg dksX0_insert_0 23 rfl rfl
theorem dksX0_insert_2 : cX0_insert.data.toList.drop 45 = dktX0_insert_2 := dk_seg dksX0_insert_1 22 rfl rfl
theorem dX0_insert_0 : decode cX0_insert 0 = .ok (.aload_n 0, 1) := dk_42 (dk_at dksX0_insert_0 0 rfl rfl)
theorem dX0_insert_1 : decode cX0_insert 1 = .ok (.getfield 287, 3) := dk_180 1 31 (dk_at dksX0_insert_0 1 rfl rfl)
theorem dX0_insert_4 : decode cX0_insert 4 = .ok (.istore_n 2, 1) := dk_61 (dk_at dksX0_insert_0 4 rfl rfl)
theorem dX0_insert_5 : decode cX0_insert 5 = .ok (.iload_n 2, 1) := dk_28 (dk_at dksX0_insert_0 5 rfl rfl)
theorem dX0_insert_6 : decode cX0_insert 6 = .ok (.ifCond .le 45, 3) := dk_158 0 45 (dk_at dksX0_insert_0 6 rfl rfl)
theorem dX0_insert_9 : decode cX0_insert 9 = .ok (.aload_n 0, 1) := dk_42 (dk_at dksX0_insert_0 9 rfl rfl)
theorem dX0_insert_10 : decode cX0_insert 10 = .ok (.getfield 56, 3) := dk_180 0 56 (dk_at dksX0_insert_0 10 rfl rfl)
theorem dX0_insert_13 : decode cX0_insert 13 = .ok (.aload_n 0, 1) := dk_42 (dk_at dksX0_insert_0 13 rfl rfl)
theorem dX0_insert_14 : decode cX0_insert 14 = .ok (.getfield 62, 3) := dk_180 0 62 (dk_at dksX0_insert_0 14 rfl rfl)
theorem dX0_insert_17 : decode cX0_insert 17 = .ok (.iload_n 2, 1) := dk_28 (dk_at dksX0_insert_0 17 rfl rfl)
theorem dX0_insert_18 : decode cX0_insert 18 = .ok (.iconst 1, 1) := dk_4 (dk_at dksX0_insert_0 18 rfl rfl)
theorem dX0_insert_19 : decode cX0_insert 19 = .ok (.isub, 1) := dk_100 (dk_at dksX0_insert_0 19 rfl rfl)
theorem dX0_insert_20 : decode cX0_insert 20 = .ok (.iaload, 1) := dk_46 (dk_at dksX0_insert_0 20 rfl rfl)
theorem dX0_insert_21 : decode cX0_insert 21 = .ok (.iaload, 1) := dk_46 (dk_at dksX0_insert_0 21 rfl rfl)
theorem dX0_insert_22 : decode cX0_insert 22 = .ok (.aload_n 0, 1) := dk_42 (dk_at dksX0_insert_0 22 rfl rfl)
theorem dX0_insert_23 : decode cX0_insert 23 = .ok (.getfield 56, 3) := dk_180 0 56 (dk_at dksX0_insert_1 0 rfl rfl)
theorem dX0_insert_26 : decode cX0_insert 26 = .ok (.iload_n 1, 1) := dk_27 (dk_at dksX0_insert_1 3 rfl rfl)
theorem dX0_insert_27 : decode cX0_insert 27 = .ok (.iaload, 1) := dk_46 (dk_at dksX0_insert_1 4 rfl rfl)
theorem dX0_insert_28 : decode cX0_insert 28 = .ok (.if_icmp .le 23, 3) := dk_164 0 23 (dk_at dksX0_insert_1 5 rfl rfl)
theorem dX0_insert_31 : decode cX0_insert 31 = .ok (.aload_n 0, 1) := dk_42 (dk_at dksX0_insert_1 8 rfl rfl)
theorem dX0_insert_32 : decode cX0_insert 32 = .ok (.getfield 62, 3) := dk_180 0 62 (dk_at dksX0_insert_1 9 rfl rfl)
theorem dX0_insert_35 : decode cX0_insert 35 = .ok (.iload_n 2, 1) := dk_28 (dk_at dksX0_insert_1 12 rfl rfl)
theorem dX0_insert_36 : decode cX0_insert 36 = .ok (.aload_n 0, 1) := dk_42 (dk_at dksX0_insert_1 13 rfl rfl)
theorem dX0_insert_37 : decode cX0_insert 37 = .ok (.getfield 62, 3) := dk_180 0 62 (dk_at dksX0_insert_1 14 rfl rfl)
theorem dX0_insert_40 : decode cX0_insert 40 = .ok (.iload_n 2, 1) := dk_28 (dk_at dksX0_insert_1 17 rfl rfl)
theorem dX0_insert_41 : decode cX0_insert 41 = .ok (.iconst 1, 1) := dk_4 (dk_at dksX0_insert_1 18 rfl rfl)
theorem dX0_insert_42 : decode cX0_insert 42 = .ok (.isub, 1) := dk_100 (dk_at dksX0_insert_1 19 rfl rfl)
theorem dX0_insert_43 : decode cX0_insert 43 = .ok (.iaload, 1) := dk_46 (dk_at dksX0_insert_1 20 rfl rfl)
theorem dX0_insert_44 : decode cX0_insert 44 = .ok (.iastore, 1) := dk_79 (dk_at dksX0_insert_1 21 rfl rfl)
theorem dX0_insert_45 : decode cX0_insert 45 = .ok (.iinc 2 (-1), 3) := dk_132 2 255 (dk_at dksX0_insert_2 0 rfl rfl)
theorem dX0_insert_48 : decode cX0_insert 48 = .ok (.goto (-43), 3) := dk_167 255 213 (dk_at dksX0_insert_2 3 rfl rfl)
theorem dX0_insert_51 : decode cX0_insert 51 = .ok (.aload_n 0, 1) := dk_42 (dk_at dksX0_insert_2 6 rfl rfl)
theorem dX0_insert_52 : decode cX0_insert 52 = .ok (.getfield 62, 3) := dk_180 0 62 (dk_at dksX0_insert_2 7 rfl rfl)
theorem dX0_insert_55 : decode cX0_insert 55 = .ok (.iload_n 2, 1) := dk_28 (dk_at dksX0_insert_2 10 rfl rfl)
theorem dX0_insert_56 : decode cX0_insert 56 = .ok (.iload_n 1, 1) := dk_27 (dk_at dksX0_insert_2 11 rfl rfl)
theorem dX0_insert_57 : decode cX0_insert 57 = .ok (.iastore, 1) := dk_79 (dk_at dksX0_insert_2 12 rfl rfl)
theorem dX0_insert_58 : decode cX0_insert 58 = .ok (.aload_n 0, 1) := dk_42 (dk_at dksX0_insert_2 13 rfl rfl)
theorem dX0_insert_59 : decode cX0_insert 59 = .ok (.dup, 1) := dk_89 (dk_at dksX0_insert_2 14 rfl rfl)
theorem dX0_insert_60 : decode cX0_insert 60 = .ok (.getfield 287, 3) := dk_180 1 31 (dk_at dksX0_insert_2 15 rfl rfl)
theorem dX0_insert_63 : decode cX0_insert 63 = .ok (.iconst 1, 1) := dk_4 (dk_at dksX0_insert_2 18 rfl rfl)
theorem dX0_insert_64 : decode cX0_insert 64 = .ok (.iadd, 1) := dk_96 (dk_at dksX0_insert_2 19 rfl rfl)
theorem dX0_insert_65 : decode cX0_insert 65 = .ok (.putfield 287, 3) := dk_181 1 31 (dk_at dksX0_insert_2 20 rfl rfl)
theorem dX0_insert_68 : decode cX0_insert 68 = .ok (.return_, 1) := dk_177 (dk_at dksX0_insert_2 23 rfl rfl)
abbrev cX0_shortest : ByteArray := prog_1_method_36_code
def yX0_shortest : MethodName := ⟨RX0, "shortest", "()I"⟩
def dkwX0_shortest_3 : List UInt8 := [27, 46, 163, 0, 6, 167, 0, 5, 28, 60, 132, 2, 1, 167, 255, 180, 27, 172]
abbrev dktX0_shortest_3 : List UInt8 := dkwX0_shortest_3 ++ []
def dkwX0_shortest_2 : List UInt8 := [180, 0, 56, 28, 46, 42, 180, 0, 56, 27, 46, 160, 0, 21, 42, 180, 0, 59, 28, 46, 42, 180, 0, 59]
abbrev dktX0_shortest_2 : List UInt8 := dkwX0_shortest_2 ++ dktX0_shortest_3
def dkwX0_shortest_1 : List UInt8 := [159, 0, 58, 27, 2, 159, 0, 51, 42, 180, 0, 56, 28, 46, 42, 180, 0, 56, 27, 46, 163, 0, 38, 42]
abbrev dktX0_shortest_1 : List UInt8 := dkwX0_shortest_1 ++ dktX0_shortest_2
def dkwX0_shortest_0 : List UInt8 := [42, 182, 1, 49, 2, 60, 3, 61, 28, 42, 180, 1, 20, 162, 0, 74, 42, 180, 0, 56, 28, 46, 2]
abbrev dktX0_shortest_0 : List UInt8 := dkwX0_shortest_0 ++ dktX0_shortest_1
theorem dksX0_shortest_0 : cX0_shortest.data.toList.drop 0 = dktX0_shortest_0 := by decide +kernel
theorem dksX0_shortest_1 : cX0_shortest.data.toList.drop 23 = dktX0_shortest_1 := dk_seg dksX0_shortest_0 23 rfl rfl
theorem dksX0_shortest_2 : cX0_shortest.data.toList.drop 47 = dktX0_shortest_2 := dk_seg dksX0_shortest_1 24 rfl rfl
theorem dksX0_shortest_3 : cX0_shortest.data.toList.drop 71 = dktX0_shortest_3 := dk_seg dksX0_shortest_2 24 rfl rfl
theorem dX0_shortest_0 : decode cX0_shortest 0 = .ok (.aload_n 0, 1) := dk_42 (dk_at dksX0_shortest_0 0 rfl rfl)
theorem dX0_shortest_1 : decode cX0_shortest 1 = .ok (.invokevirtual 305, 3) := dk_182 1 49 (dk_at dksX0_shortest_0 1 rfl rfl)
theorem dX0_shortest_4 : decode cX0_shortest 4 = .ok (.iconst (-1), 1) := dk_2 (dk_at dksX0_shortest_0 4 rfl rfl)
theorem dX0_shortest_5 : decode cX0_shortest 5 = .ok (.istore_n 1, 1) := dk_60 (dk_at dksX0_shortest_0 5 rfl rfl)
theorem dX0_shortest_6 : decode cX0_shortest 6 = .ok (.iconst 0, 1) := dk_3 (dk_at dksX0_shortest_0 6 rfl rfl)
theorem dX0_shortest_7 : decode cX0_shortest 7 = .ok (.istore_n 2, 1) := dk_61 (dk_at dksX0_shortest_0 7 rfl rfl)
theorem dX0_shortest_8 : decode cX0_shortest 8 = .ok (.iload_n 2, 1) := dk_28 (dk_at dksX0_shortest_0 8 rfl rfl)
theorem dX0_shortest_9 : decode cX0_shortest 9 = .ok (.aload_n 0, 1) := dk_42 (dk_at dksX0_shortest_0 9 rfl rfl)
theorem dX0_shortest_10 : decode cX0_shortest 10 = .ok (.getfield 276, 3) := dk_180 1 20 (dk_at dksX0_shortest_0 10 rfl rfl)
theorem dX0_shortest_13 : decode cX0_shortest 13 = .ok (.if_icmp .ge 74, 3) := dk_162 0 74 (dk_at dksX0_shortest_0 13 rfl rfl)
theorem dX0_shortest_16 : decode cX0_shortest 16 = .ok (.aload_n 0, 1) := dk_42 (dk_at dksX0_shortest_0 16 rfl rfl)
theorem dX0_shortest_17 : decode cX0_shortest 17 = .ok (.getfield 56, 3) := dk_180 0 56 (dk_at dksX0_shortest_0 17 rfl rfl)
theorem dX0_shortest_20 : decode cX0_shortest 20 = .ok (.iload_n 2, 1) := dk_28 (dk_at dksX0_shortest_0 20 rfl rfl)
theorem dX0_shortest_21 : decode cX0_shortest 21 = .ok (.iaload, 1) := dk_46 (dk_at dksX0_shortest_0 21 rfl rfl)
theorem dX0_shortest_22 : decode cX0_shortest 22 = .ok (.iconst (-1), 1) := dk_2 (dk_at dksX0_shortest_0 22 rfl rfl)
theorem dX0_shortest_23 : decode cX0_shortest 23 = .ok (.if_icmp .eq 58, 3) := dk_159 0 58 (dk_at dksX0_shortest_1 0 rfl rfl)
theorem dX0_shortest_26 : decode cX0_shortest 26 = .ok (.iload_n 1, 1) := dk_27 (dk_at dksX0_shortest_1 3 rfl rfl)
theorem dX0_shortest_27 : decode cX0_shortest 27 = .ok (.iconst (-1), 1) := dk_2 (dk_at dksX0_shortest_1 4 rfl rfl)
theorem dX0_shortest_28 : decode cX0_shortest 28 = .ok (.if_icmp .eq 51, 3) := dk_159 0 51 (dk_at dksX0_shortest_1 5 rfl rfl)
theorem dX0_shortest_31 : decode cX0_shortest 31 = .ok (.aload_n 0, 1) := dk_42 (dk_at dksX0_shortest_1 8 rfl rfl)
theorem dX0_shortest_32 : decode cX0_shortest 32 = .ok (.getfield 56, 3) := dk_180 0 56 (dk_at dksX0_shortest_1 9 rfl rfl)
theorem dX0_shortest_35 : decode cX0_shortest 35 = .ok (.iload_n 2, 1) := dk_28 (dk_at dksX0_shortest_1 12 rfl rfl)
theorem dX0_shortest_36 : decode cX0_shortest 36 = .ok (.iaload, 1) := dk_46 (dk_at dksX0_shortest_1 13 rfl rfl)
theorem dX0_shortest_37 : decode cX0_shortest 37 = .ok (.aload_n 0, 1) := dk_42 (dk_at dksX0_shortest_1 14 rfl rfl)
theorem dX0_shortest_38 : decode cX0_shortest 38 = .ok (.getfield 56, 3) := dk_180 0 56 (dk_at dksX0_shortest_1 15 rfl rfl)
theorem dX0_shortest_41 : decode cX0_shortest 41 = .ok (.iload_n 1, 1) := dk_27 (dk_at dksX0_shortest_1 18 rfl rfl)
theorem dX0_shortest_42 : decode cX0_shortest 42 = .ok (.iaload, 1) := dk_46 (dk_at dksX0_shortest_1 19 rfl rfl)
theorem dX0_shortest_43 : decode cX0_shortest 43 = .ok (.if_icmp .gt 38, 3) := dk_163 0 38 (dk_at dksX0_shortest_1 20 rfl rfl)
theorem dX0_shortest_46 : decode cX0_shortest 46 = .ok (.aload_n 0, 1) := dk_42 (dk_at dksX0_shortest_1 23 rfl rfl)
theorem dX0_shortest_47 : decode cX0_shortest 47 = .ok (.getfield 56, 3) := dk_180 0 56 (dk_at dksX0_shortest_2 0 rfl rfl)
theorem dX0_shortest_50 : decode cX0_shortest 50 = .ok (.iload_n 2, 1) := dk_28 (dk_at dksX0_shortest_2 3 rfl rfl)
theorem dX0_shortest_51 : decode cX0_shortest 51 = .ok (.iaload, 1) := dk_46 (dk_at dksX0_shortest_2 4 rfl rfl)
theorem dX0_shortest_52 : decode cX0_shortest 52 = .ok (.aload_n 0, 1) := dk_42 (dk_at dksX0_shortest_2 5 rfl rfl)
theorem dX0_shortest_53 : decode cX0_shortest 53 = .ok (.getfield 56, 3) := dk_180 0 56 (dk_at dksX0_shortest_2 6 rfl rfl)
theorem dX0_shortest_56 : decode cX0_shortest 56 = .ok (.iload_n 1, 1) := dk_27 (dk_at dksX0_shortest_2 9 rfl rfl)
theorem dX0_shortest_57 : decode cX0_shortest 57 = .ok (.iaload, 1) := dk_46 (dk_at dksX0_shortest_2 10 rfl rfl)
theorem dX0_shortest_58 : decode cX0_shortest 58 = .ok (.if_icmp .ne 21, 3) := dk_160 0 21 (dk_at dksX0_shortest_2 11 rfl rfl)
theorem dX0_shortest_61 : decode cX0_shortest 61 = .ok (.aload_n 0, 1) := dk_42 (dk_at dksX0_shortest_2 14 rfl rfl)
theorem dX0_shortest_62 : decode cX0_shortest 62 = .ok (.getfield 59, 3) := dk_180 0 59 (dk_at dksX0_shortest_2 15 rfl rfl)
theorem dX0_shortest_65 : decode cX0_shortest 65 = .ok (.iload_n 2, 1) := dk_28 (dk_at dksX0_shortest_2 18 rfl rfl)
theorem dX0_shortest_66 : decode cX0_shortest 66 = .ok (.iaload, 1) := dk_46 (dk_at dksX0_shortest_2 19 rfl rfl)
theorem dX0_shortest_67 : decode cX0_shortest 67 = .ok (.aload_n 0, 1) := dk_42 (dk_at dksX0_shortest_2 20 rfl rfl)
theorem dX0_shortest_68 : decode cX0_shortest 68 = .ok (.getfield 59, 3) := dk_180 0 59 (dk_at dksX0_shortest_2 21 rfl rfl)
theorem dX0_shortest_71 : decode cX0_shortest 71 = .ok (.iload_n 1, 1) := dk_27 (dk_at dksX0_shortest_3 0 rfl rfl)
theorem dX0_shortest_72 : decode cX0_shortest 72 = .ok (.iaload, 1) := dk_46 (dk_at dksX0_shortest_3 1 rfl rfl)
theorem dX0_shortest_73 : decode cX0_shortest 73 = .ok (.if_icmp .gt 6, 3) := dk_163 0 6 (dk_at dksX0_shortest_3 2 rfl rfl)
theorem dX0_shortest_76 : decode cX0_shortest 76 = .ok (.goto 5, 3) := dk_167 0 5 (dk_at dksX0_shortest_3 5 rfl rfl)
theorem dX0_shortest_79 : decode cX0_shortest 79 = .ok (.iload_n 2, 1) := dk_28 (dk_at dksX0_shortest_3 8 rfl rfl)
theorem dX0_shortest_80 : decode cX0_shortest 80 = .ok (.istore_n 1, 1) := dk_60 (dk_at dksX0_shortest_3 9 rfl rfl)
theorem dX0_shortest_81 : decode cX0_shortest 81 = .ok (.iinc 2 1, 3) := dk_132 2 1 (dk_at dksX0_shortest_3 10 rfl rfl)
theorem dX0_shortest_84 : decode cX0_shortest 84 = .ok (.goto (-76), 3) := dk_167 255 180 (dk_at dksX0_shortest_3 13 rfl rfl)
theorem dX0_shortest_87 : decode cX0_shortest 87 = .ok (.iload_n 1, 1) := dk_27 (dk_at dksX0_shortest_3 16 rfl rfl)
theorem dX0_shortest_88 : decode cX0_shortest 88 = .ok (.ireturn, 1) := dk_172 (dk_at dksX0_shortest_3 17 rfl rfl)
abbrev cX0_good : ByteArray := prog_1_method_37_code
def yX0_good : MethodName := ⟨RX0, "good", "(I)I"⟩
def dkwX0_good_1 : List UInt8 := [184, 0, 153, 153, 0, 12, 42, 180, 0, 62, 27, 46, 167, 0, 4, 2, 172]
abbrev dktX0_good_1 : List UInt8 := dkwX0_good_1 ++ []
def dkwX0_good_0 : List UInt8 := [42, 182, 1, 49, 27, 2, 160, 0, 10, 42, 180, 1, 31, 167, 0, 27, 27, 3, 42, 180, 1, 31, 4, 100]
abbrev dktX0_good_0 : List UInt8 := dkwX0_good_0 ++ dktX0_good_1
theorem dksX0_good_0 : cX0_good.data.toList.drop 0 = dktX0_good_0 := by decide +kernel
theorem dksX0_good_1 : cX0_good.data.toList.drop 24 = dktX0_good_1 := dk_seg dksX0_good_0 24 rfl rfl
theorem dX0_good_0 : decode cX0_good 0 = .ok (.aload_n 0, 1) := dk_42 (dk_at dksX0_good_0 0 rfl rfl)
theorem dX0_good_1 : decode cX0_good 1 = .ok (.invokevirtual 305, 3) := dk_182 1 49 (dk_at dksX0_good_0 1 rfl rfl)
theorem dX0_good_4 : decode cX0_good 4 = .ok (.iload_n 1, 1) := dk_27 (dk_at dksX0_good_0 4 rfl rfl)
theorem dX0_good_5 : decode cX0_good 5 = .ok (.iconst (-1), 1) := dk_2 (dk_at dksX0_good_0 5 rfl rfl)
theorem dX0_good_6 : decode cX0_good 6 = .ok (.if_icmp .ne 10, 3) := dk_160 0 10 (dk_at dksX0_good_0 6 rfl rfl)
theorem dX0_good_9 : decode cX0_good 9 = .ok (.aload_n 0, 1) := dk_42 (dk_at dksX0_good_0 9 rfl rfl)
theorem dX0_good_10 : decode cX0_good 10 = .ok (.getfield 287, 3) := dk_180 1 31 (dk_at dksX0_good_0 10 rfl rfl)
theorem dX0_good_13 : decode cX0_good 13 = .ok (.goto 27, 3) := dk_167 0 27 (dk_at dksX0_good_0 13 rfl rfl)
theorem dX0_good_16 : decode cX0_good 16 = .ok (.iload_n 1, 1) := dk_27 (dk_at dksX0_good_0 16 rfl rfl)
theorem dX0_good_17 : decode cX0_good 17 = .ok (.iconst 0, 1) := dk_3 (dk_at dksX0_good_0 17 rfl rfl)
theorem dX0_good_18 : decode cX0_good 18 = .ok (.aload_n 0, 1) := dk_42 (dk_at dksX0_good_0 18 rfl rfl)
theorem dX0_good_19 : decode cX0_good 19 = .ok (.getfield 287, 3) := dk_180 1 31 (dk_at dksX0_good_0 19 rfl rfl)
theorem dX0_good_22 : decode cX0_good 22 = .ok (.iconst 1, 1) := dk_4 (dk_at dksX0_good_0 22 rfl rfl)
theorem dX0_good_23 : decode cX0_good 23 = .ok (.isub, 1) := dk_100 (dk_at dksX0_good_0 23 rfl rfl)
theorem dX0_good_24 : decode cX0_good 24 = .ok (.invokestatic 153, 3) := dk_184 0 153 (dk_at dksX0_good_1 0 rfl rfl)
theorem dX0_good_27 : decode cX0_good 27 = .ok (.ifCond .eq 12, 3) := dk_153 0 12 (dk_at dksX0_good_1 3 rfl rfl)
theorem dX0_good_30 : decode cX0_good 30 = .ok (.aload_n 0, 1) := dk_42 (dk_at dksX0_good_1 6 rfl rfl)
theorem dX0_good_31 : decode cX0_good 31 = .ok (.getfield 62, 3) := dk_180 0 62 (dk_at dksX0_good_1 7 rfl rfl)
theorem dX0_good_34 : decode cX0_good 34 = .ok (.iload_n 1, 1) := dk_27 (dk_at dksX0_good_1 10 rfl rfl)
theorem dX0_good_35 : decode cX0_good 35 = .ok (.iaload, 1) := dk_46 (dk_at dksX0_good_1 11 rfl rfl)
theorem dX0_good_36 : decode cX0_good 36 = .ok (.goto 4, 3) := dk_167 0 4 (dk_at dksX0_good_1 12 rfl rfl)
theorem dX0_good_39 : decode cX0_good 39 = .ok (.iconst (-1), 1) := dk_2 (dk_at dksX0_good_1 15 rfl rfl)
theorem dX0_good_40 : decode cX0_good 40 = .ok (.ireturn, 1) := dk_172 (dk_at dksX0_good_1 16 rfl rfl)
abbrev cX0_maze : ByteArray := prog_1_method_38_code
def yX0_maze : MethodName := ⟨RX0, "maze", "()I"⟩
def dkwX0_maze_4 : List UInt8 := [182, 1, 52, 160, 0, 7, 4, 167, 0, 4, 3, 172]
abbrev dktX0_maze_4 : List UInt8 := dkwX0_maze_4 ++ []
def dkwX0_maze_3 : List UInt8 := [180, 0, 27, 27, 42, 180, 0, 27, 180, 0, 197, 3, 46, 42, 180, 0, 27, 180, 0, 197, 4, 46]
abbrev dktX0_maze_3 : List UInt8 := dkwX0_maze_3 ++ dktX0_maze_4
def dkwX0_maze_2 : List UInt8 := [182, 1, 11, 61, 42, 180, 0, 27, 28, 182, 1, 23, 153, 0, 44, 42, 180, 0, 27, 28, 182, 1, 26, 42]
abbrev dktX0_maze_2 : List UInt8 := dkwX0_maze_2 ++ dktX0_maze_3
def dkwX0_maze_1 : List UInt8 := [182, 0, 147, 120, 4, 100, 60, 42, 180, 0, 27, 27, 182, 1, 23, 154, 0, 5, 2, 172, 42, 180, 0, 34]
abbrev dktX0_maze_1 : List UInt8 := dkwX0_maze_1 ++ dktX0_maze_2
def dkwX0_maze_0 : List UInt8 := [42, 180, 0, 27, 180, 0, 160, 5, 159, 0, 6, 16, 252, 172, 4, 42, 180, 0, 27, 180, 0, 143]
abbrev dktX0_maze_0 : List UInt8 := dkwX0_maze_0 ++ dktX0_maze_1
theorem dksX0_maze_0 : cX0_maze.data.toList.drop 0 = dktX0_maze_0 := by decide +kernel
theorem dksX0_maze_1 : cX0_maze.data.toList.drop 22 = dktX0_maze_1 := dk_seg dksX0_maze_0 22 rfl rfl
theorem dksX0_maze_2 : cX0_maze.data.toList.drop 46 = dktX0_maze_2 := dk_seg dksX0_maze_1 24 rfl rfl
theorem dksX0_maze_3 : cX0_maze.data.toList.drop 70 = dktX0_maze_3 := dk_seg dksX0_maze_2 24 rfl rfl
theorem dksX0_maze_4 : cX0_maze.data.toList.drop 92 = dktX0_maze_4 := dk_seg dksX0_maze_3 22 rfl rfl
theorem dX0_maze_0 : decode cX0_maze 0 = .ok (.aload_n 0, 1) := dk_42 (dk_at dksX0_maze_0 0 rfl rfl)
theorem dX0_maze_1 : decode cX0_maze 1 = .ok (.getfield 27, 3) := dk_180 0 27 (dk_at dksX0_maze_0 1 rfl rfl)
theorem dX0_maze_4 : decode cX0_maze 4 = .ok (.getfield 160, 3) := dk_180 0 160 (dk_at dksX0_maze_0 4 rfl rfl)
theorem dX0_maze_7 : decode cX0_maze 7 = .ok (.iconst 2, 1) := dk_5 (dk_at dksX0_maze_0 7 rfl rfl)
theorem dX0_maze_8 : decode cX0_maze 8 = .ok (.if_icmp .eq 6, 3) := dk_159 0 6 (dk_at dksX0_maze_0 8 rfl rfl)
theorem dX0_maze_11 : decode cX0_maze 11 = .ok (.bipush (-4), 2) := dk_16 252 (dk_at dksX0_maze_0 11 rfl rfl)
theorem dX0_maze_13 : decode cX0_maze 13 = .ok (.ireturn, 1) := dk_172 (dk_at dksX0_maze_0 13 rfl rfl)
theorem dX0_maze_14 : decode cX0_maze 14 = .ok (.iconst 1, 1) := dk_4 (dk_at dksX0_maze_0 14 rfl rfl)
theorem dX0_maze_15 : decode cX0_maze 15 = .ok (.aload_n 0, 1) := dk_42 (dk_at dksX0_maze_0 15 rfl rfl)
theorem dX0_maze_16 : decode cX0_maze 16 = .ok (.getfield 27, 3) := dk_180 0 27 (dk_at dksX0_maze_0 16 rfl rfl)
theorem dX0_maze_19 : decode cX0_maze 19 = .ok (.getfield 143, 3) := dk_180 0 143 (dk_at dksX0_maze_0 19 rfl rfl)
theorem dX0_maze_22 : decode cX0_maze 22 = .ok (.invokevirtual 147, 3) := dk_182 0 147 (dk_at dksX0_maze_1 0 rfl rfl)
theorem dX0_maze_25 : decode cX0_maze 25 = .ok (.ishl, 1) := dk_120 (dk_at dksX0_maze_1 3 rfl rfl)
theorem dX0_maze_26 : decode cX0_maze 26 = .ok (.iconst 1, 1) := dk_4 (dk_at dksX0_maze_1 4 rfl rfl)
theorem dX0_maze_27 : decode cX0_maze 27 = .ok (.isub, 1) := dk_100 (dk_at dksX0_maze_1 5 rfl rfl)
theorem dX0_maze_28 : decode cX0_maze 28 = .ok (.istore_n 1, 1) := dk_60 (dk_at dksX0_maze_1 6 rfl rfl)
theorem dX0_maze_29 : decode cX0_maze 29 = .ok (.aload_n 0, 1) := dk_42 (dk_at dksX0_maze_1 7 rfl rfl)
theorem dX0_maze_30 : decode cX0_maze 30 = .ok (.getfield 27, 3) := dk_180 0 27 (dk_at dksX0_maze_1 8 rfl rfl)
theorem dX0_maze_33 : decode cX0_maze 33 = .ok (.iload_n 1, 1) := dk_27 (dk_at dksX0_maze_1 11 rfl rfl)
theorem dX0_maze_34 : decode cX0_maze 34 = .ok (.invokevirtual 279, 3) := dk_182 1 23 (dk_at dksX0_maze_1 12 rfl rfl)
theorem dX0_maze_37 : decode cX0_maze 37 = .ok (.ifCond .ne 5, 3) := dk_154 0 5 (dk_at dksX0_maze_1 15 rfl rfl)
theorem dX0_maze_40 : decode cX0_maze 40 = .ok (.iconst (-1), 1) := dk_2 (dk_at dksX0_maze_1 18 rfl rfl)
theorem dX0_maze_41 : decode cX0_maze 41 = .ok (.ireturn, 1) := dk_172 (dk_at dksX0_maze_1 19 rfl rfl)
theorem dX0_maze_42 : decode cX0_maze 42 = .ok (.aload_n 0, 1) := dk_42 (dk_at dksX0_maze_1 20 rfl rfl)
theorem dX0_maze_43 : decode cX0_maze 43 = .ok (.getfield 34, 3) := dk_180 0 34 (dk_at dksX0_maze_1 21 rfl rfl)
theorem dX0_maze_46 : decode cX0_maze 46 = .ok (.invokevirtual 267, 3) := dk_182 1 11 (dk_at dksX0_maze_2 0 rfl rfl)
theorem dX0_maze_49 : decode cX0_maze 49 = .ok (.istore_n 2, 1) := dk_61 (dk_at dksX0_maze_2 3 rfl rfl)
theorem dX0_maze_50 : decode cX0_maze 50 = .ok (.aload_n 0, 1) := dk_42 (dk_at dksX0_maze_2 4 rfl rfl)
theorem dX0_maze_51 : decode cX0_maze 51 = .ok (.getfield 27, 3) := dk_180 0 27 (dk_at dksX0_maze_2 5 rfl rfl)
theorem dX0_maze_54 : decode cX0_maze 54 = .ok (.iload_n 2, 1) := dk_28 (dk_at dksX0_maze_2 8 rfl rfl)
theorem dX0_maze_55 : decode cX0_maze 55 = .ok (.invokevirtual 279, 3) := dk_182 1 23 (dk_at dksX0_maze_2 9 rfl rfl)
theorem dX0_maze_58 : decode cX0_maze 58 = .ok (.ifCond .eq 44, 3) := dk_153 0 44 (dk_at dksX0_maze_2 12 rfl rfl)
theorem dX0_maze_61 : decode cX0_maze 61 = .ok (.aload_n 0, 1) := dk_42 (dk_at dksX0_maze_2 15 rfl rfl)
theorem dX0_maze_62 : decode cX0_maze 62 = .ok (.getfield 27, 3) := dk_180 0 27 (dk_at dksX0_maze_2 16 rfl rfl)
theorem dX0_maze_65 : decode cX0_maze 65 = .ok (.iload_n 2, 1) := dk_28 (dk_at dksX0_maze_2 19 rfl rfl)
theorem dX0_maze_66 : decode cX0_maze 66 = .ok (.invokevirtual 282, 3) := dk_182 1 26 (dk_at dksX0_maze_2 20 rfl rfl)
theorem dX0_maze_69 : decode cX0_maze 69 = .ok (.aload_n 0, 1) := dk_42 (dk_at dksX0_maze_2 23 rfl rfl)
theorem dX0_maze_70 : decode cX0_maze 70 = .ok (.getfield 27, 3) := dk_180 0 27 (dk_at dksX0_maze_3 0 rfl rfl)
theorem dX0_maze_73 : decode cX0_maze 73 = .ok (.iload_n 1, 1) := dk_27 (dk_at dksX0_maze_3 3 rfl rfl)
theorem dX0_maze_74 : decode cX0_maze 74 = .ok (.aload_n 0, 1) := dk_42 (dk_at dksX0_maze_3 4 rfl rfl)
theorem dX0_maze_75 : decode cX0_maze 75 = .ok (.getfield 27, 3) := dk_180 0 27 (dk_at dksX0_maze_3 5 rfl rfl)
theorem dX0_maze_78 : decode cX0_maze 78 = .ok (.getfield 197, 3) := dk_180 0 197 (dk_at dksX0_maze_3 8 rfl rfl)
theorem dX0_maze_81 : decode cX0_maze 81 = .ok (.iconst 0, 1) := dk_3 (dk_at dksX0_maze_3 11 rfl rfl)
theorem dX0_maze_82 : decode cX0_maze 82 = .ok (.iaload, 1) := dk_46 (dk_at dksX0_maze_3 12 rfl rfl)
theorem dX0_maze_83 : decode cX0_maze 83 = .ok (.aload_n 0, 1) := dk_42 (dk_at dksX0_maze_3 13 rfl rfl)
theorem dX0_maze_84 : decode cX0_maze 84 = .ok (.getfield 27, 3) := dk_180 0 27 (dk_at dksX0_maze_3 14 rfl rfl)
theorem dX0_maze_87 : decode cX0_maze 87 = .ok (.getfield 197, 3) := dk_180 0 197 (dk_at dksX0_maze_3 17 rfl rfl)
theorem dX0_maze_90 : decode cX0_maze 90 = .ok (.iconst 1, 1) := dk_4 (dk_at dksX0_maze_3 20 rfl rfl)
theorem dX0_maze_91 : decode cX0_maze 91 = .ok (.iaload, 1) := dk_46 (dk_at dksX0_maze_3 21 rfl rfl)
theorem dX0_maze_92 : decode cX0_maze 92 = .ok (.invokevirtual 308, 3) := dk_182 1 52 (dk_at dksX0_maze_4 0 rfl rfl)
theorem dX0_maze_95 : decode cX0_maze 95 = .ok (.if_icmp .ne 7, 3) := dk_160 0 7 (dk_at dksX0_maze_4 3 rfl rfl)
theorem dX0_maze_98 : decode cX0_maze 98 = .ok (.iconst 1, 1) := dk_4 (dk_at dksX0_maze_4 6 rfl rfl)
theorem dX0_maze_99 : decode cX0_maze 99 = .ok (.goto 4, 3) := dk_167 0 4 (dk_at dksX0_maze_4 7 rfl rfl)
theorem dX0_maze_102 : decode cX0_maze 102 = .ok (.iconst 0, 1) := dk_3 (dk_at dksX0_maze_4 10 rfl rfl)
theorem dX0_maze_103 : decode cX0_maze 103 = .ok (.ireturn, 1) := dk_172 (dk_at dksX0_maze_4 11 rfl rfl)
abbrev cX0_see : ByteArray := prog_1_method_39_code
def yX0_see : MethodName := ⟨RX0, "see", "(III)I"⟩
def dkwX0_see_4 : List UInt8 := [4, 100, 172]
abbrev dktX0_see_4 : List UInt8 := dkwX0_see_4 ++ []
def dkwX0_see_3 : List UInt8 := [42, 180, 0, 71, 42, 180, 0, 127, 29, 79, 42, 89, 180, 0, 127, 4, 96, 181, 0, 127, 42, 180, 0, 127]
abbrev dktX0_see_3 : List UInt8 := dkwX0_see_3 ++ dktX0_see_4
def dkwX0_see_2 : List UInt8 := [27, 181, 0, 133, 42, 180, 0, 65, 42, 180, 0, 127, 27, 79, 42, 180, 0, 68, 42, 180, 0, 127, 28, 79]
abbrev dktX0_see_2 : List UInt8 := dkwX0_see_2 ++ dktX0_see_3
def dkwX0_see_1 : List UInt8 := [42, 29, 182, 1, 40, 154, 0, 6, 16, 254, 172, 42, 180, 0, 127, 16, 16, 160, 0, 6, 16, 253, 172, 42]
abbrev dktX0_see_1 : List UInt8 := dkwX0_see_1 ++ dktX0_see_2
def dkwX0_see_0 : List UInt8 := [27, 42, 180, 0, 133, 17, 3, 231, 184, 0, 153, 153, 0, 21, 28, 3, 16, 40, 184, 0, 153, 153, 0, 11]
abbrev dktX0_see_0 : List UInt8 := dkwX0_see_0 ++ dktX0_see_1
theorem dksX0_see_0 : cX0_see.data.toList.drop 0 = dktX0_see_0 := by decide +kernel
theorem dksX0_see_1 : cX0_see.data.toList.drop 24 = dktX0_see_1 := dk_seg dksX0_see_0 24 rfl rfl
theorem dksX0_see_2 : cX0_see.data.toList.drop 48 = dktX0_see_2 := dk_seg dksX0_see_1 24 rfl rfl
theorem dksX0_see_3 : cX0_see.data.toList.drop 72 = dktX0_see_3 := dk_seg dksX0_see_2 24 rfl rfl
theorem dksX0_see_4 : cX0_see.data.toList.drop 96 = dktX0_see_4 := dk_seg dksX0_see_3 24 rfl rfl
theorem dX0_see_0 : decode cX0_see 0 = .ok (.iload_n 1, 1) := dk_27 (dk_at dksX0_see_0 0 rfl rfl)
theorem dX0_see_1 : decode cX0_see 1 = .ok (.aload_n 0, 1) := dk_42 (dk_at dksX0_see_0 1 rfl rfl)
theorem dX0_see_2 : decode cX0_see 2 = .ok (.getfield 133, 3) := dk_180 0 133 (dk_at dksX0_see_0 2 rfl rfl)
theorem dX0_see_5 : decode cX0_see 5 = .ok (.sipush 999, 3) := dk_17 3 231 (dk_at dksX0_see_0 5 rfl rfl)
theorem dX0_see_8 : decode cX0_see 8 = .ok (.invokestatic 153, 3) := dk_184 0 153 (dk_at dksX0_see_0 8 rfl rfl)
theorem dX0_see_11 : decode cX0_see 11 = .ok (.ifCond .eq 21, 3) := dk_153 0 21 (dk_at dksX0_see_0 11 rfl rfl)
theorem dX0_see_14 : decode cX0_see 14 = .ok (.iload_n 2, 1) := dk_28 (dk_at dksX0_see_0 14 rfl rfl)
theorem dX0_see_15 : decode cX0_see 15 = .ok (.iconst 0, 1) := dk_3 (dk_at dksX0_see_0 15 rfl rfl)
theorem dX0_see_16 : decode cX0_see 16 = .ok (.bipush 40, 2) := dk_16 40 (dk_at dksX0_see_0 16 rfl rfl)
theorem dX0_see_18 : decode cX0_see 18 = .ok (.invokestatic 153, 3) := dk_184 0 153 (dk_at dksX0_see_0 18 rfl rfl)
theorem dX0_see_21 : decode cX0_see 21 = .ok (.ifCond .eq 11, 3) := dk_153 0 11 (dk_at dksX0_see_0 21 rfl rfl)
theorem dX0_see_24 : decode cX0_see 24 = .ok (.aload_n 0, 1) := dk_42 (dk_at dksX0_see_1 0 rfl rfl)
theorem dX0_see_25 : decode cX0_see 25 = .ok (.iload_n 3, 1) := dk_29 (dk_at dksX0_see_1 1 rfl rfl)
theorem dX0_see_26 : decode cX0_see 26 = .ok (.invokevirtual 296, 3) := dk_182 1 40 (dk_at dksX0_see_1 2 rfl rfl)
theorem dX0_see_29 : decode cX0_see 29 = .ok (.ifCond .ne 6, 3) := dk_154 0 6 (dk_at dksX0_see_1 5 rfl rfl)
theorem dX0_see_32 : decode cX0_see 32 = .ok (.bipush (-2), 2) := dk_16 254 (dk_at dksX0_see_1 8 rfl rfl)
theorem dX0_see_34 : decode cX0_see 34 = .ok (.ireturn, 1) := dk_172 (dk_at dksX0_see_1 10 rfl rfl)
theorem dX0_see_35 : decode cX0_see 35 = .ok (.aload_n 0, 1) := dk_42 (dk_at dksX0_see_1 11 rfl rfl)
theorem dX0_see_36 : decode cX0_see 36 = .ok (.getfield 127, 3) := dk_180 0 127 (dk_at dksX0_see_1 12 rfl rfl)
theorem dX0_see_39 : decode cX0_see 39 = .ok (.bipush 16, 2) := dk_16 16 (dk_at dksX0_see_1 15 rfl rfl)
theorem dX0_see_41 : decode cX0_see 41 = .ok (.if_icmp .ne 6, 3) := dk_160 0 6 (dk_at dksX0_see_1 17 rfl rfl)
theorem dX0_see_44 : decode cX0_see 44 = .ok (.bipush (-3), 2) := dk_16 253 (dk_at dksX0_see_1 20 rfl rfl)
theorem dX0_see_46 : decode cX0_see 46 = .ok (.ireturn, 1) := dk_172 (dk_at dksX0_see_1 22 rfl rfl)
theorem dX0_see_47 : decode cX0_see 47 = .ok (.aload_n 0, 1) := dk_42 (dk_at dksX0_see_1 23 rfl rfl)
theorem dX0_see_48 : decode cX0_see 48 = .ok (.iload_n 1, 1) := dk_27 (dk_at dksX0_see_2 0 rfl rfl)
theorem dX0_see_49 : decode cX0_see 49 = .ok (.putfield 133, 3) := dk_181 0 133 (dk_at dksX0_see_2 1 rfl rfl)
theorem dX0_see_52 : decode cX0_see 52 = .ok (.aload_n 0, 1) := dk_42 (dk_at dksX0_see_2 4 rfl rfl)
theorem dX0_see_53 : decode cX0_see 53 = .ok (.getfield 65, 3) := dk_180 0 65 (dk_at dksX0_see_2 5 rfl rfl)
theorem dX0_see_56 : decode cX0_see 56 = .ok (.aload_n 0, 1) := dk_42 (dk_at dksX0_see_2 8 rfl rfl)
theorem dX0_see_57 : decode cX0_see 57 = .ok (.getfield 127, 3) := dk_180 0 127 (dk_at dksX0_see_2 9 rfl rfl)
theorem dX0_see_60 : decode cX0_see 60 = .ok (.iload_n 1, 1) := dk_27 (dk_at dksX0_see_2 12 rfl rfl)
theorem dX0_see_61 : decode cX0_see 61 = .ok (.iastore, 1) := dk_79 (dk_at dksX0_see_2 13 rfl rfl)
theorem dX0_see_62 : decode cX0_see 62 = .ok (.aload_n 0, 1) := dk_42 (dk_at dksX0_see_2 14 rfl rfl)
theorem dX0_see_63 : decode cX0_see 63 = .ok (.getfield 68, 3) := dk_180 0 68 (dk_at dksX0_see_2 15 rfl rfl)
theorem dX0_see_66 : decode cX0_see 66 = .ok (.aload_n 0, 1) := dk_42 (dk_at dksX0_see_2 18 rfl rfl)
theorem dX0_see_67 : decode cX0_see 67 = .ok (.getfield 127, 3) := dk_180 0 127 (dk_at dksX0_see_2 19 rfl rfl)
theorem dX0_see_70 : decode cX0_see 70 = .ok (.iload_n 2, 1) := dk_28 (dk_at dksX0_see_2 22 rfl rfl)
theorem dX0_see_71 : decode cX0_see 71 = .ok (.iastore, 1) := dk_79 (dk_at dksX0_see_2 23 rfl rfl)
theorem dX0_see_72 : decode cX0_see 72 = .ok (.aload_n 0, 1) := dk_42 (dk_at dksX0_see_3 0 rfl rfl)
theorem dX0_see_73 : decode cX0_see 73 = .ok (.getfield 71, 3) := dk_180 0 71 (dk_at dksX0_see_3 1 rfl rfl)
theorem dX0_see_76 : decode cX0_see 76 = .ok (.aload_n 0, 1) := dk_42 (dk_at dksX0_see_3 4 rfl rfl)
theorem dX0_see_77 : decode cX0_see 77 = .ok (.getfield 127, 3) := dk_180 0 127 (dk_at dksX0_see_3 5 rfl rfl)
theorem dX0_see_80 : decode cX0_see 80 = .ok (.iload_n 3, 1) := dk_29 (dk_at dksX0_see_3 8 rfl rfl)
theorem dX0_see_81 : decode cX0_see 81 = .ok (.iastore, 1) := dk_79 (dk_at dksX0_see_3 9 rfl rfl)
theorem dX0_see_82 : decode cX0_see 82 = .ok (.aload_n 0, 1) := dk_42 (dk_at dksX0_see_3 10 rfl rfl)
theorem dX0_see_83 : decode cX0_see 83 = .ok (.dup, 1) := dk_89 (dk_at dksX0_see_3 11 rfl rfl)
theorem dX0_see_84 : decode cX0_see 84 = .ok (.getfield 127, 3) := dk_180 0 127 (dk_at dksX0_see_3 12 rfl rfl)
theorem dX0_see_87 : decode cX0_see 87 = .ok (.iconst 1, 1) := dk_4 (dk_at dksX0_see_3 15 rfl rfl)
theorem dX0_see_88 : decode cX0_see 88 = .ok (.iadd, 1) := dk_96 (dk_at dksX0_see_3 16 rfl rfl)
theorem dX0_see_89 : decode cX0_see 89 = .ok (.putfield 127, 3) := dk_181 0 127 (dk_at dksX0_see_3 17 rfl rfl)
theorem dX0_see_92 : decode cX0_see 92 = .ok (.aload_n 0, 1) := dk_42 (dk_at dksX0_see_3 20 rfl rfl)
theorem dX0_see_93 : decode cX0_see 93 = .ok (.getfield 127, 3) := dk_180 0 127 (dk_at dksX0_see_3 21 rfl rfl)
theorem dX0_see_96 : decode cX0_see 96 = .ok (.iconst 1, 1) := dk_4 (dk_at dksX0_see_4 0 rfl rfl)
theorem dX0_see_97 : decode cX0_see 97 = .ok (.isub, 1) := dk_100 (dk_at dksX0_see_4 1 rfl rfl)
theorem dX0_see_98 : decode cX0_see 98 = .ok (.ireturn, 1) := dk_172 (dk_at dksX0_see_4 2 rfl rfl)
abbrev cX0_right : ByteArray := prog_1_method_40_code
def yX0_right : MethodName := ⟨RX0, "right", "(III)I"⟩
def dkwX0_right_6 : List UInt8 := [21, 4, 172]
abbrev dktX0_right_6 : List UInt8 := dkwX0_right_6 ++ []
def dkwX0_right_5 : List UInt8 := [180, 0, 77, 21, 5, 46, 28, 160, 0, 7, 4, 167, 0, 4, 3, 96, 54, 4, 132, 5, 1, 167, 255, 223]
abbrev dktX0_right_5 : List UInt8 := dkwX0_right_5 ++ dktX0_right_6
def dkwX0_right_4 : List UInt8 := [4, 96, 181, 0, 130, 3, 54, 4, 3, 54, 5, 21, 5, 42, 180, 0, 130, 162, 0, 30, 21, 4, 42]
abbrev dktX0_right_4 : List UInt8 := dkwX0_right_4 ++ dktX0_right_5
def dkwX0_right_3 : List UInt8 := [180, 0, 77, 42, 180, 0, 130, 28, 79, 42, 180, 0, 80, 42, 180, 0, 130, 29, 79, 42, 89, 180, 0, 130]
abbrev dktX0_right_3 : List UInt8 := dkwX0_right_3 ++ dktX0_right_4
def dkwX0_right_2 : List UInt8 := [160, 0, 6, 16, 253, 172, 42, 27, 181, 0, 133, 42, 180, 0, 74, 42, 180, 0, 130, 27, 79, 42]
abbrev dktX0_right_2 : List UInt8 := dkwX0_right_2 ++ dktX0_right_3
def dkwX0_right_1 : List UInt8 := [184, 0, 153, 153, 0, 11, 42, 29, 182, 1, 40, 154, 0, 6, 16, 254, 172, 42, 180, 0, 130, 16, 20]
abbrev dktX0_right_1 : List UInt8 := dkwX0_right_1 ++ dktX0_right_2
def dkwX0_right_0 : List UInt8 := [27, 42, 180, 0, 133, 17, 3, 231, 184, 0, 153, 153, 0, 25, 28, 3, 42, 180, 0, 127, 4, 100]
abbrev dktX0_right_0 : List UInt8 := dkwX0_right_0 ++ dktX0_right_1
theorem dksX0_right_0 : cX0_right.data.toList.drop 0 = dktX0_right_0 := by decide +kernel
theorem dksX0_right_1 : cX0_right.data.toList.drop 22 = dktX0_right_1 := dk_seg dksX0_right_0 22 rfl rfl
theorem dksX0_right_2 : cX0_right.data.toList.drop 45 = dktX0_right_2 := dk_seg dksX0_right_1 23 rfl rfl
theorem dksX0_right_3 : cX0_right.data.toList.drop 67 = dktX0_right_3 := dk_seg dksX0_right_2 22 rfl rfl
theorem dksX0_right_4 : cX0_right.data.toList.drop 91 = dktX0_right_4 := dk_seg dksX0_right_3 24 rfl rfl
theorem dksX0_right_5 : cX0_right.data.toList.drop 114 = dktX0_right_5 := dk_seg dksX0_right_4 23 rfl rfl
theorem dksX0_right_6 : cX0_right.data.toList.drop 138 = dktX0_right_6 := dk_seg dksX0_right_5 24 rfl rfl
theorem dX0_right_0 : decode cX0_right 0 = .ok (.iload_n 1, 1) := dk_27 (dk_at dksX0_right_0 0 rfl rfl)
theorem dX0_right_1 : decode cX0_right 1 = .ok (.aload_n 0, 1) := dk_42 (dk_at dksX0_right_0 1 rfl rfl)
theorem dX0_right_2 : decode cX0_right 2 = .ok (.getfield 133, 3) := dk_180 0 133 (dk_at dksX0_right_0 2 rfl rfl)
theorem dX0_right_5 : decode cX0_right 5 = .ok (.sipush 999, 3) := dk_17 3 231 (dk_at dksX0_right_0 5 rfl rfl)
theorem dX0_right_8 : decode cX0_right 8 = .ok (.invokestatic 153, 3) := dk_184 0 153 (dk_at dksX0_right_0 8 rfl rfl)
theorem dX0_right_11 : decode cX0_right 11 = .ok (.ifCond .eq 25, 3) := dk_153 0 25 (dk_at dksX0_right_0 11 rfl rfl)
theorem dX0_right_14 : decode cX0_right 14 = .ok (.iload_n 2, 1) := dk_28 (dk_at dksX0_right_0 14 rfl rfl)
theorem dX0_right_15 : decode cX0_right 15 = .ok (.iconst 0, 1) := dk_3 (dk_at dksX0_right_0 15 rfl rfl)
theorem dX0_right_16 : decode cX0_right 16 = .ok (.aload_n 0, 1) := dk_42 (dk_at dksX0_right_0 16 rfl rfl)
theorem dX0_right_17 : decode cX0_right 17 = .ok (.getfield 127, 3) := dk_180 0 127 (dk_at dksX0_right_0 17 rfl rfl)
theorem dX0_right_20 : decode cX0_right 20 = .ok (.iconst 1, 1) := dk_4 (dk_at dksX0_right_0 20 rfl rfl)
theorem dX0_right_21 : decode cX0_right 21 = .ok (.isub, 1) := dk_100 (dk_at dksX0_right_0 21 rfl rfl)
theorem dX0_right_22 : decode cX0_right 22 = .ok (.invokestatic 153, 3) := dk_184 0 153 (dk_at dksX0_right_1 0 rfl rfl)
theorem dX0_right_25 : decode cX0_right 25 = .ok (.ifCond .eq 11, 3) := dk_153 0 11 (dk_at dksX0_right_1 3 rfl rfl)
theorem dX0_right_28 : decode cX0_right 28 = .ok (.aload_n 0, 1) := dk_42 (dk_at dksX0_right_1 6 rfl rfl)
theorem dX0_right_29 : decode cX0_right 29 = .ok (.iload_n 3, 1) := dk_29 (dk_at dksX0_right_1 7 rfl rfl)
theorem dX0_right_30 : decode cX0_right 30 = .ok (.invokevirtual 296, 3) := dk_182 1 40 (dk_at dksX0_right_1 8 rfl rfl)
theorem dX0_right_33 : decode cX0_right 33 = .ok (.ifCond .ne 6, 3) := dk_154 0 6 (dk_at dksX0_right_1 11 rfl rfl)
theorem dX0_right_36 : decode cX0_right 36 = .ok (.bipush (-2), 2) := dk_16 254 (dk_at dksX0_right_1 14 rfl rfl)
theorem dX0_right_38 : decode cX0_right 38 = .ok (.ireturn, 1) := dk_172 (dk_at dksX0_right_1 16 rfl rfl)
theorem dX0_right_39 : decode cX0_right 39 = .ok (.aload_n 0, 1) := dk_42 (dk_at dksX0_right_1 17 rfl rfl)
theorem dX0_right_40 : decode cX0_right 40 = .ok (.getfield 130, 3) := dk_180 0 130 (dk_at dksX0_right_1 18 rfl rfl)
theorem dX0_right_43 : decode cX0_right 43 = .ok (.bipush 20, 2) := dk_16 20 (dk_at dksX0_right_1 21 rfl rfl)
theorem dX0_right_45 : decode cX0_right 45 = .ok (.if_icmp .ne 6, 3) := dk_160 0 6 (dk_at dksX0_right_2 0 rfl rfl)
theorem dX0_right_48 : decode cX0_right 48 = .ok (.bipush (-3), 2) := dk_16 253 (dk_at dksX0_right_2 3 rfl rfl)
theorem dX0_right_50 : decode cX0_right 50 = .ok (.ireturn, 1) := dk_172 (dk_at dksX0_right_2 5 rfl rfl)
theorem dX0_right_51 : decode cX0_right 51 = .ok (.aload_n 0, 1) := dk_42 (dk_at dksX0_right_2 6 rfl rfl)
theorem dX0_right_52 : decode cX0_right 52 = .ok (.iload_n 1, 1) := dk_27 (dk_at dksX0_right_2 7 rfl rfl)
theorem dX0_right_53 : decode cX0_right 53 = .ok (.putfield 133, 3) := dk_181 0 133 (dk_at dksX0_right_2 8 rfl rfl)
theorem dX0_right_56 : decode cX0_right 56 = .ok (.aload_n 0, 1) := dk_42 (dk_at dksX0_right_2 11 rfl rfl)
theorem dX0_right_57 : decode cX0_right 57 = .ok (.getfield 74, 3) := dk_180 0 74 (dk_at dksX0_right_2 12 rfl rfl)
theorem dX0_right_60 : decode cX0_right 60 = .ok (.aload_n 0, 1) := dk_42 (dk_at dksX0_right_2 15 rfl rfl)
theorem dX0_right_61 : decode cX0_right 61 = .ok (.getfield 130, 3) := dk_180 0 130 (dk_at dksX0_right_2 16 rfl rfl)
theorem dX0_right_64 : decode cX0_right 64 = .ok (.iload_n 1, 1) := dk_27 (dk_at dksX0_right_2 19 rfl rfl)
theorem dX0_right_65 : decode cX0_right 65 = .ok (.iastore, 1) := dk_79 (dk_at dksX0_right_2 20 rfl rfl)
theorem dX0_right_66 : decode cX0_right 66 = .ok (.aload_n 0, 1) := dk_42 (dk_at dksX0_right_2 21 rfl rfl)
theorem dX0_right_67 : decode cX0_right 67 = .ok (.getfield 77, 3) := dk_180 0 77 (dk_at dksX0_right_3 0 rfl rfl)
theorem dX0_right_70 : decode cX0_right 70 = .ok (.aload_n 0, 1) := dk_42 (dk_at dksX0_right_3 3 rfl rfl)
theorem dX0_right_71 : decode cX0_right 71 = .ok (.getfield 130, 3) := dk_180 0 130 (dk_at dksX0_right_3 4 rfl rfl)
theorem dX0_right_74 : decode cX0_right 74 = .ok (.iload_n 2, 1) := dk_28 (dk_at dksX0_right_3 7 rfl rfl)
theorem dX0_right_75 : decode cX0_right 75 = .ok (.iastore, 1) := dk_79 (dk_at dksX0_right_3 8 rfl rfl)
theorem dX0_right_76 : decode cX0_right 76 = .ok (.aload_n 0, 1) := dk_42 (dk_at dksX0_right_3 9 rfl rfl)
theorem dX0_right_77 : decode cX0_right 77 = .ok (.getfield 80, 3) := dk_180 0 80 (dk_at dksX0_right_3 10 rfl rfl)
theorem dX0_right_80 : decode cX0_right 80 = .ok (.aload_n 0, 1) := dk_42 (dk_at dksX0_right_3 13 rfl rfl)
theorem dX0_right_81 : decode cX0_right 81 = .ok (.getfield 130, 3) := dk_180 0 130 (dk_at dksX0_right_3 14 rfl rfl)
theorem dX0_right_84 : decode cX0_right 84 = .ok (.iload_n 3, 1) := dk_29 (dk_at dksX0_right_3 17 rfl rfl)
theorem dX0_right_85 : decode cX0_right 85 = .ok (.iastore, 1) := dk_79 (dk_at dksX0_right_3 18 rfl rfl)
theorem dX0_right_86 : decode cX0_right 86 = .ok (.aload_n 0, 1) := dk_42 (dk_at dksX0_right_3 19 rfl rfl)
theorem dX0_right_87 : decode cX0_right 87 = .ok (.dup, 1) := dk_89 (dk_at dksX0_right_3 20 rfl rfl)
theorem dX0_right_88 : decode cX0_right 88 = .ok (.getfield 130, 3) := dk_180 0 130 (dk_at dksX0_right_3 21 rfl rfl)
theorem dX0_right_91 : decode cX0_right 91 = .ok (.iconst 1, 1) := dk_4 (dk_at dksX0_right_4 0 rfl rfl)
theorem dX0_right_92 : decode cX0_right 92 = .ok (.iadd, 1) := dk_96 (dk_at dksX0_right_4 1 rfl rfl)
theorem dX0_right_93 : decode cX0_right 93 = .ok (.putfield 130, 3) := dk_181 0 130 (dk_at dksX0_right_4 2 rfl rfl)
theorem dX0_right_96 : decode cX0_right 96 = .ok (.iconst 0, 1) := dk_3 (dk_at dksX0_right_4 5 rfl rfl)
theorem dX0_right_97 : decode cX0_right 97 = .ok (.istore 4, 2) := dk_54 4 (dk_at dksX0_right_4 6 rfl rfl)
theorem dX0_right_99 : decode cX0_right 99 = .ok (.iconst 0, 1) := dk_3 (dk_at dksX0_right_4 8 rfl rfl)
theorem dX0_right_100 : decode cX0_right 100 = .ok (.istore 5, 2) := dk_54 5 (dk_at dksX0_right_4 9 rfl rfl)
theorem dX0_right_102 : decode cX0_right 102 = .ok (.iload 5, 2) := dk_21 5 (dk_at dksX0_right_4 11 rfl rfl)
theorem dX0_right_104 : decode cX0_right 104 = .ok (.aload_n 0, 1) := dk_42 (dk_at dksX0_right_4 13 rfl rfl)
theorem dX0_right_105 : decode cX0_right 105 = .ok (.getfield 130, 3) := dk_180 0 130 (dk_at dksX0_right_4 14 rfl rfl)
theorem dX0_right_108 : decode cX0_right 108 = .ok (.if_icmp .ge 30, 3) := dk_162 0 30 (dk_at dksX0_right_4 17 rfl rfl)
theorem dX0_right_111 : decode cX0_right 111 = .ok (.iload 4, 2) := dk_21 4 (dk_at dksX0_right_4 20 rfl rfl)
theorem dX0_right_113 : decode cX0_right 113 = .ok (.aload_n 0, 1) := dk_42 (dk_at dksX0_right_4 22 rfl rfl)
theorem dX0_right_114 : decode cX0_right 114 = .ok (.getfield 77, 3) := dk_180 0 77 (dk_at dksX0_right_5 0 rfl rfl)
theorem dX0_right_117 : decode cX0_right 117 = .ok (.iload 5, 2) := dk_21 5 (dk_at dksX0_right_5 3 rfl rfl)
theorem dX0_right_119 : decode cX0_right 119 = .ok (.iaload, 1) := dk_46 (dk_at dksX0_right_5 5 rfl rfl)
theorem dX0_right_120 : decode cX0_right 120 = .ok (.iload_n 2, 1) := dk_28 (dk_at dksX0_right_5 6 rfl rfl)
theorem dX0_right_121 : decode cX0_right 121 = .ok (.if_icmp .ne 7, 3) := dk_160 0 7 (dk_at dksX0_right_5 7 rfl rfl)
theorem dX0_right_124 : decode cX0_right 124 = .ok (.iconst 1, 1) := dk_4 (dk_at dksX0_right_5 10 rfl rfl)
theorem dX0_right_125 : decode cX0_right 125 = .ok (.goto 4, 3) := dk_167 0 4 (dk_at dksX0_right_5 11 rfl rfl)
theorem dX0_right_128 : decode cX0_right 128 = .ok (.iconst 0, 1) := dk_3 (dk_at dksX0_right_5 14 rfl rfl)
theorem dX0_right_129 : decode cX0_right 129 = .ok (.iadd, 1) := dk_96 (dk_at dksX0_right_5 15 rfl rfl)
theorem dX0_right_130 : decode cX0_right 130 = .ok (.istore 4, 2) := dk_54 4 (dk_at dksX0_right_5 16 rfl rfl)
theorem dX0_right_132 : decode cX0_right 132 = .ok (.iinc 5 1, 3) := dk_132 5 1 (dk_at dksX0_right_5 18 rfl rfl)
theorem dX0_right_135 : decode cX0_right 135 = .ok (.goto (-33), 3) := dk_167 255 223 (dk_at dksX0_right_5 21 rfl rfl)
theorem dX0_right_138 : decode cX0_right 138 = .ok (.iload 4, 2) := dk_21 4 (dk_at dksX0_right_6 0 rfl rfl)
theorem dX0_right_140 : decode cX0_right 140 = .ok (.ireturn, 1) := dk_172 (dk_at dksX0_right_6 2 rfl rfl)
abbrev cX0_fit : ByteArray := prog_1_method_43_code
def yX0_fit : MethodName := ⟨RX0, "fit", "(II)I"⟩
def dkwX0_fit_2 : List UInt8 := [167, 0, 9, 42, 180, 0, 89, 3, 46, 172]
abbrev dktX0_fit_2 : List UInt8 := dkwX0_fit_2 ++ []
def dkwX0_fit_1 : List UInt8 := [27, 3, 182, 1, 66, 28, 154, 0, 10, 42, 180, 1, 63, 167, 0, 20, 42, 180, 1, 63, 154, 0, 7, 2]
abbrev dktX0_fit_1 : List UInt8 := dkwX0_fit_1 ++ dktX0_fit_2
def dkwX0_fit_0 : List UInt8 := [27, 3, 17, 3, 231, 184, 0, 153, 153, 0, 12, 28, 3, 4, 184, 0, 153, 154, 0, 6, 16, 254, 172, 42]
abbrev dktX0_fit_0 : List UInt8 := dkwX0_fit_0 ++ dktX0_fit_1
theorem dksX0_fit_0 : cX0_fit.data.toList.drop 0 = dktX0_fit_0 := by decide +kernel
theorem dksX0_fit_1 : cX0_fit.data.toList.drop 24 = dktX0_fit_1 := dk_seg dksX0_fit_0 24 rfl rfl
theorem dksX0_fit_2 : cX0_fit.data.toList.drop 48 = dktX0_fit_2 := dk_seg dksX0_fit_1 24 rfl rfl
theorem dX0_fit_0 : decode cX0_fit 0 = .ok (.iload_n 1, 1) := dk_27 (dk_at dksX0_fit_0 0 rfl rfl)
theorem dX0_fit_1 : decode cX0_fit 1 = .ok (.iconst 0, 1) := dk_3 (dk_at dksX0_fit_0 1 rfl rfl)
theorem dX0_fit_2 : decode cX0_fit 2 = .ok (.sipush 999, 3) := dk_17 3 231 (dk_at dksX0_fit_0 2 rfl rfl)
theorem dX0_fit_5 : decode cX0_fit 5 = .ok (.invokestatic 153, 3) := dk_184 0 153 (dk_at dksX0_fit_0 5 rfl rfl)
theorem dX0_fit_8 : decode cX0_fit 8 = .ok (.ifCond .eq 12, 3) := dk_153 0 12 (dk_at dksX0_fit_0 8 rfl rfl)
theorem dX0_fit_11 : decode cX0_fit 11 = .ok (.iload_n 2, 1) := dk_28 (dk_at dksX0_fit_0 11 rfl rfl)
theorem dX0_fit_12 : decode cX0_fit 12 = .ok (.iconst 0, 1) := dk_3 (dk_at dksX0_fit_0 12 rfl rfl)
theorem dX0_fit_13 : decode cX0_fit 13 = .ok (.iconst 1, 1) := dk_4 (dk_at dksX0_fit_0 13 rfl rfl)
theorem dX0_fit_14 : decode cX0_fit 14 = .ok (.invokestatic 153, 3) := dk_184 0 153 (dk_at dksX0_fit_0 14 rfl rfl)
theorem dX0_fit_17 : decode cX0_fit 17 = .ok (.ifCond .ne 6, 3) := dk_154 0 6 (dk_at dksX0_fit_0 17 rfl rfl)
theorem dX0_fit_20 : decode cX0_fit 20 = .ok (.bipush (-2), 2) := dk_16 254 (dk_at dksX0_fit_0 20 rfl rfl)
theorem dX0_fit_22 : decode cX0_fit 22 = .ok (.ireturn, 1) := dk_172 (dk_at dksX0_fit_0 22 rfl rfl)
theorem dX0_fit_23 : decode cX0_fit 23 = .ok (.aload_n 0, 1) := dk_42 (dk_at dksX0_fit_0 23 rfl rfl)
theorem dX0_fit_24 : decode cX0_fit 24 = .ok (.iload_n 1, 1) := dk_27 (dk_at dksX0_fit_1 0 rfl rfl)
theorem dX0_fit_25 : decode cX0_fit 25 = .ok (.iconst 0, 1) := dk_3 (dk_at dksX0_fit_1 1 rfl rfl)
theorem dX0_fit_26 : decode cX0_fit 26 = .ok (.invokevirtual 322, 3) := dk_182 1 66 (dk_at dksX0_fit_1 2 rfl rfl)
theorem dX0_fit_29 : decode cX0_fit 29 = .ok (.iload_n 2, 1) := dk_28 (dk_at dksX0_fit_1 5 rfl rfl)
theorem dX0_fit_30 : decode cX0_fit 30 = .ok (.ifCond .ne 10, 3) := dk_154 0 10 (dk_at dksX0_fit_1 6 rfl rfl)
theorem dX0_fit_33 : decode cX0_fit 33 = .ok (.aload_n 0, 1) := dk_42 (dk_at dksX0_fit_1 9 rfl rfl)
theorem dX0_fit_34 : decode cX0_fit 34 = .ok (.getfield 319, 3) := dk_180 1 63 (dk_at dksX0_fit_1 10 rfl rfl)
theorem dX0_fit_37 : decode cX0_fit 37 = .ok (.goto 20, 3) := dk_167 0 20 (dk_at dksX0_fit_1 13 rfl rfl)
theorem dX0_fit_40 : decode cX0_fit 40 = .ok (.aload_n 0, 1) := dk_42 (dk_at dksX0_fit_1 16 rfl rfl)
theorem dX0_fit_41 : decode cX0_fit 41 = .ok (.getfield 319, 3) := dk_180 1 63 (dk_at dksX0_fit_1 17 rfl rfl)
theorem dX0_fit_44 : decode cX0_fit 44 = .ok (.ifCond .ne 7, 3) := dk_154 0 7 (dk_at dksX0_fit_1 20 rfl rfl)
theorem dX0_fit_47 : decode cX0_fit 47 = .ok (.iconst (-1), 1) := dk_2 (dk_at dksX0_fit_1 23 rfl rfl)
theorem dX0_fit_48 : decode cX0_fit 48 = .ok (.goto 9, 3) := dk_167 0 9 (dk_at dksX0_fit_2 0 rfl rfl)
theorem dX0_fit_51 : decode cX0_fit 51 = .ok (.aload_n 0, 1) := dk_42 (dk_at dksX0_fit_2 3 rfl rfl)
theorem dX0_fit_52 : decode cX0_fit 52 = .ok (.getfield 89, 3) := dk_180 0 89 (dk_at dksX0_fit_2 4 rfl rfl)
theorem dX0_fit_55 : decode cX0_fit 55 = .ok (.iconst 0, 1) := dk_3 (dk_at dksX0_fit_2 7 rfl rfl)
theorem dX0_fit_56 : decode cX0_fit 56 = .ok (.iaload, 1) := dk_46 (dk_at dksX0_fit_2 8 rfl rfl)
theorem dX0_fit_57 : decode cX0_fit 57 = .ok (.ireturn, 1) := dk_172 (dk_at dksX0_fit_2 9 rfl rfl)
abbrev cX0_findFits : ByteArray := prog_1_method_42_code
def yX0_findFits : MethodName := ⟨RX0, "findFits", "(II)V"⟩
def dkwX0_findFits_9 : List UInt8 := [167, 255, 95, 177]
abbrev dktX0_findFits_9 : List UInt8 := dkwX0_findFits_9 ++ []
def dkwX0_findFits_8 : List UInt8 := [180, 0, 89, 42, 180, 1, 63, 21, 4, 79, 42, 89, 180, 1, 63, 4, 96, 181, 1, 63, 132, 4, 1]
abbrev dktX0_findFits_8 : List UInt8 := dkwX0_findFits_8 ++ dktX0_findFits_9
def dkwX0_findFits_7 : List UInt8 := [54, 5, 42, 180, 0, 38, 182, 0, 231, 132, 6, 1, 167, 255, 179, 21, 5, 154, 0, 6, 167, 0, 24, 42]
abbrev dktX0_findFits_7 : List UInt8 := dkwX0_findFits_7 ++ dktX0_findFits_8
def dkwX0_findFits_6 : List UInt8 := [21, 6, 46, 2, 159, 0, 15, 42, 180, 0, 83, 21, 6, 46, 21, 7, 160, 0, 7, 4, 167, 0, 4, 3]
abbrev dktX0_findFits_6 : List UInt8 := dkwX0_findFits_6 ++ dktX0_findFits_7
def dkwX0_findFits_5 : List UInt8 := [54, 7, 42, 180, 0, 86, 16, 41, 42, 180, 1, 63, 104, 21, 6, 96, 21, 7, 79, 42, 180, 0, 83]
abbrev dktX0_findFits_5 : List UInt8 := dkwX0_findFits_5 ++ dktX0_findFits_6
def dkwX0_findFits_4 : List UInt8 := [54, 5, 3, 54, 6, 21, 6, 29, 163, 0, 77, 21, 5, 153, 0, 72, 42, 180, 0, 38, 182, 1, 11]
abbrev dktX0_findFits_4 : List UInt8 := dkwX0_findFits_4 ++ dktX0_findFits_5
def dkwX0_findFits_3 : List UInt8 := [180, 0, 38, 21, 4, 16, 21, 108, 181, 0, 163, 42, 180, 0, 38, 21, 4, 16, 21, 112, 181, 0, 166, 4]
abbrev dktX0_findFits_3 : List UInt8 := dkwX0_findFits_3 ++ dktX0_findFits_4
def dkwX0_findFits_2 : List UInt8 := [54, 4, 21, 4, 17, 1, 185, 162, 0, 159, 42, 180, 0, 38, 42, 180, 0, 27, 182, 0, 92, 42]
abbrev dktX0_findFits_2 : List UInt8 := dkwX0_findFits_2 ++ dktX0_findFits_3
def dkwX0_findFits_1 : List UInt8 := [2, 159, 0, 10, 29, 21, 4, 184, 1, 59, 62, 132, 4, 1, 167, 255, 228, 42, 3, 181, 1, 63, 3]
abbrev dktX0_findFits_1 : List UInt8 := dkwX0_findFits_1 ++ dktX0_findFits_2
def dkwX0_findFits_0 : List UInt8 := [42, 27, 182, 1, 56, 28, 62, 3, 54, 4, 21, 4, 16, 40, 163, 0, 27, 42, 180, 0, 83, 21, 4, 46]
abbrev dktX0_findFits_0 : List UInt8 := dkwX0_findFits_0 ++ dktX0_findFits_1
theorem dksX0_findFits_0 : cX0_findFits.data.toList.drop 0 = dktX0_findFits_0 := by decide +kernel
theorem dksX0_findFits_1 : cX0_findFits.data.toList.drop 24 = dktX0_findFits_1 := dk_seg dksX0_findFits_0 24 rfl rfl
theorem dksX0_findFits_2 : cX0_findFits.data.toList.drop 47 = dktX0_findFits_2 := dk_seg dksX0_findFits_1 23 rfl rfl
theorem dksX0_findFits_3 : cX0_findFits.data.toList.drop 69 = dktX0_findFits_3 := dk_seg dksX0_findFits_2 22 rfl rfl
theorem dksX0_findFits_4 : cX0_findFits.data.toList.drop 93 = dktX0_findFits_4 := dk_seg dksX0_findFits_3 24 rfl rfl
theorem dksX0_findFits_5 : cX0_findFits.data.toList.drop 116 = dktX0_findFits_5 := dk_seg dksX0_findFits_4 23 rfl rfl
theorem dksX0_findFits_6 : cX0_findFits.data.toList.drop 139 = dktX0_findFits_6 := dk_seg dksX0_findFits_5 23 rfl rfl
theorem dksX0_findFits_7 : cX0_findFits.data.toList.drop 163 = dktX0_findFits_7 := dk_seg dksX0_findFits_6 24 rfl rfl
theorem dksX0_findFits_8 : cX0_findFits.data.toList.drop 187 = dktX0_findFits_8 := dk_seg dksX0_findFits_7 24 rfl rfl
theorem dksX0_findFits_9 : cX0_findFits.data.toList.drop 210 = dktX0_findFits_9 := dk_seg dksX0_findFits_8 23 rfl rfl
theorem dX0_findFits_0 : decode cX0_findFits 0 = .ok (.aload_n 0, 1) := dk_42 (dk_at dksX0_findFits_0 0 rfl rfl)
theorem dX0_findFits_1 : decode cX0_findFits 1 = .ok (.iload_n 1, 1) := dk_27 (dk_at dksX0_findFits_0 1 rfl rfl)
theorem dX0_findFits_2 : decode cX0_findFits 2 = .ok (.invokevirtual 312, 3) := dk_182 1 56 (dk_at dksX0_findFits_0 2 rfl rfl)
theorem dX0_findFits_5 : decode cX0_findFits 5 = .ok (.iload_n 2, 1) := dk_28 (dk_at dksX0_findFits_0 5 rfl rfl)
theorem dX0_findFits_6 : decode cX0_findFits 6 = .ok (.istore_n 3, 1) := dk_62 (dk_at dksX0_findFits_0 6 rfl rfl)
theorem dX0_findFits_7 : decode cX0_findFits 7 = .ok (.iconst 0, 1) := dk_3 (dk_at dksX0_findFits_0 7 rfl rfl)
theorem dX0_findFits_8 : decode cX0_findFits 8 = .ok (.istore 4, 2) := dk_54 4 (dk_at dksX0_findFits_0 8 rfl rfl)
theorem dX0_findFits_10 : decode cX0_findFits 10 = .ok (.iload 4, 2) := dk_21 4 (dk_at dksX0_findFits_0 10 rfl rfl)
theorem dX0_findFits_12 : decode cX0_findFits 12 = .ok (.bipush 40, 2) := dk_16 40 (dk_at dksX0_findFits_0 12 rfl rfl)
theorem dX0_findFits_14 : decode cX0_findFits 14 = .ok (.if_icmp .gt 27, 3) := dk_163 0 27 (dk_at dksX0_findFits_0 14 rfl rfl)
theorem dX0_findFits_17 : decode cX0_findFits 17 = .ok (.aload_n 0, 1) := dk_42 (dk_at dksX0_findFits_0 17 rfl rfl)
theorem dX0_findFits_18 : decode cX0_findFits 18 = .ok (.getfield 83, 3) := dk_180 0 83 (dk_at dksX0_findFits_0 18 rfl rfl)
theorem dX0_findFits_21 : decode cX0_findFits 21 = .ok (.iload 4, 2) := dk_21 4 (dk_at dksX0_findFits_0 21 rfl rfl)
theorem dX0_findFits_23 : decode cX0_findFits 23 = .ok (.iaload, 1) := dk_46 (dk_at dksX0_findFits_0 23 rfl rfl)
theorem dX0_findFits_24 : decode cX0_findFits 24 = .ok (.iconst (-1), 1) := dk_2 (dk_at dksX0_findFits_1 0 rfl rfl)
theorem dX0_findFits_25 : decode cX0_findFits 25 = .ok (.if_icmp .eq 10, 3) := dk_159 0 10 (dk_at dksX0_findFits_1 1 rfl rfl)
theorem dX0_findFits_28 : decode cX0_findFits 28 = .ok (.iload_n 3, 1) := dk_29 (dk_at dksX0_findFits_1 4 rfl rfl)
theorem dX0_findFits_29 : decode cX0_findFits 29 = .ok (.iload 4, 2) := dk_21 4 (dk_at dksX0_findFits_1 5 rfl rfl)
theorem dX0_findFits_31 : decode cX0_findFits 31 = .ok (.invokestatic 315, 3) := dk_184 1 59 (dk_at dksX0_findFits_1 7 rfl rfl)
theorem dX0_findFits_34 : decode cX0_findFits 34 = .ok (.istore_n 3, 1) := dk_62 (dk_at dksX0_findFits_1 10 rfl rfl)
theorem dX0_findFits_35 : decode cX0_findFits 35 = .ok (.iinc 4 1, 3) := dk_132 4 1 (dk_at dksX0_findFits_1 11 rfl rfl)
theorem dX0_findFits_38 : decode cX0_findFits 38 = .ok (.goto (-28), 3) := dk_167 255 228 (dk_at dksX0_findFits_1 14 rfl rfl)
theorem dX0_findFits_41 : decode cX0_findFits 41 = .ok (.aload_n 0, 1) := dk_42 (dk_at dksX0_findFits_1 17 rfl rfl)
theorem dX0_findFits_42 : decode cX0_findFits 42 = .ok (.iconst 0, 1) := dk_3 (dk_at dksX0_findFits_1 18 rfl rfl)
theorem dX0_findFits_43 : decode cX0_findFits 43 = .ok (.putfield 319, 3) := dk_181 1 63 (dk_at dksX0_findFits_1 19 rfl rfl)
theorem dX0_findFits_46 : decode cX0_findFits 46 = .ok (.iconst 0, 1) := dk_3 (dk_at dksX0_findFits_1 22 rfl rfl)
theorem dX0_findFits_47 : decode cX0_findFits 47 = .ok (.istore 4, 2) := dk_54 4 (dk_at dksX0_findFits_2 0 rfl rfl)
theorem dX0_findFits_49 : decode cX0_findFits 49 = .ok (.iload 4, 2) := dk_21 4 (dk_at dksX0_findFits_2 2 rfl rfl)
theorem dX0_findFits_51 : decode cX0_findFits 51 = .ok (.sipush 441, 3) := dk_17 1 185 (dk_at dksX0_findFits_2 4 rfl rfl)
theorem dX0_findFits_54 : decode cX0_findFits 54 = .ok (.if_icmp .ge 159, 3) := dk_162 0 159 (dk_at dksX0_findFits_2 7 rfl rfl)
theorem dX0_findFits_57 : decode cX0_findFits 57 = .ok (.aload_n 0, 1) := dk_42 (dk_at dksX0_findFits_2 10 rfl rfl)
theorem dX0_findFits_58 : decode cX0_findFits 58 = .ok (.getfield 38, 3) := dk_180 0 38 (dk_at dksX0_findFits_2 11 rfl rfl)
theorem dX0_findFits_61 : decode cX0_findFits 61 = .ok (.aload_n 0, 1) := dk_42 (dk_at dksX0_findFits_2 14 rfl rfl)
theorem dX0_findFits_62 : decode cX0_findFits 62 = .ok (.getfield 27, 3) := dk_180 0 27 (dk_at dksX0_findFits_2 15 rfl rfl)
theorem dX0_findFits_65 : decode cX0_findFits 65 = .ok (.invokevirtual 92, 3) := dk_182 0 92 (dk_at dksX0_findFits_2 18 rfl rfl)
theorem dX0_findFits_68 : decode cX0_findFits 68 = .ok (.aload_n 0, 1) := dk_42 (dk_at dksX0_findFits_2 21 rfl rfl)
theorem dX0_findFits_69 : decode cX0_findFits 69 = .ok (.getfield 38, 3) := dk_180 0 38 (dk_at dksX0_findFits_3 0 rfl rfl)
theorem dX0_findFits_72 : decode cX0_findFits 72 = .ok (.iload 4, 2) := dk_21 4 (dk_at dksX0_findFits_3 3 rfl rfl)
theorem dX0_findFits_74 : decode cX0_findFits 74 = .ok (.bipush 21, 2) := dk_16 21 (dk_at dksX0_findFits_3 5 rfl rfl)
theorem dX0_findFits_76 : decode cX0_findFits 76 = .ok (.idiv, 1) := dk_108 (dk_at dksX0_findFits_3 7 rfl rfl)
theorem dX0_findFits_77 : decode cX0_findFits 77 = .ok (.putfield 163, 3) := dk_181 0 163 (dk_at dksX0_findFits_3 8 rfl rfl)
theorem dX0_findFits_80 : decode cX0_findFits 80 = .ok (.aload_n 0, 1) := dk_42 (dk_at dksX0_findFits_3 11 rfl rfl)
theorem dX0_findFits_81 : decode cX0_findFits 81 = .ok (.getfield 38, 3) := dk_180 0 38 (dk_at dksX0_findFits_3 12 rfl rfl)
theorem dX0_findFits_84 : decode cX0_findFits 84 = .ok (.iload 4, 2) := dk_21 4 (dk_at dksX0_findFits_3 15 rfl rfl)
theorem dX0_findFits_86 : decode cX0_findFits 86 = .ok (.bipush 21, 2) := dk_16 21 (dk_at dksX0_findFits_3 17 rfl rfl)
theorem dX0_findFits_88 : decode cX0_findFits 88 = .ok (.irem, 1) := dk_112 (dk_at dksX0_findFits_3 19 rfl rfl)
theorem dX0_findFits_89 : decode cX0_findFits 89 = .ok (.putfield 166, 3) := dk_181 0 166 (dk_at dksX0_findFits_3 20 rfl rfl)
theorem dX0_findFits_92 : decode cX0_findFits 92 = .ok (.iconst 1, 1) := dk_4 (dk_at dksX0_findFits_3 23 rfl rfl)
theorem dX0_findFits_93 : decode cX0_findFits 93 = .ok (.istore 5, 2) := dk_54 5 (dk_at dksX0_findFits_4 0 rfl rfl)
theorem dX0_findFits_95 : decode cX0_findFits 95 = .ok (.iconst 0, 1) := dk_3 (dk_at dksX0_findFits_4 2 rfl rfl)
theorem dX0_findFits_96 : decode cX0_findFits 96 = .ok (.istore 6, 2) := dk_54 6 (dk_at dksX0_findFits_4 3 rfl rfl)
theorem dX0_findFits_98 : decode cX0_findFits 98 = .ok (.iload 6, 2) := dk_21 6 (dk_at dksX0_findFits_4 5 rfl rfl)
theorem dX0_findFits_100 : decode cX0_findFits 100 = .ok (.iload_n 3, 1) := dk_29 (dk_at dksX0_findFits_4 7 rfl rfl)
theorem dX0_findFits_101 : decode cX0_findFits 101 = .ok (.if_icmp .gt 77, 3) := dk_163 0 77 (dk_at dksX0_findFits_4 8 rfl rfl)
theorem dX0_findFits_104 : decode cX0_findFits 104 = .ok (.iload 5, 2) := dk_21 5 (dk_at dksX0_findFits_4 11 rfl rfl)
theorem dX0_findFits_106 : decode cX0_findFits 106 = .ok (.ifCond .eq 72, 3) := dk_153 0 72 (dk_at dksX0_findFits_4 13 rfl rfl)
theorem dX0_findFits_109 : decode cX0_findFits 109 = .ok (.aload_n 0, 1) := dk_42 (dk_at dksX0_findFits_4 16 rfl rfl)
theorem dX0_findFits_110 : decode cX0_findFits 110 = .ok (.getfield 38, 3) := dk_180 0 38 (dk_at dksX0_findFits_4 17 rfl rfl)
theorem dX0_findFits_113 : decode cX0_findFits 113 = .ok (.invokevirtual 267, 3) := dk_182 1 11 (dk_at dksX0_findFits_4 20 rfl rfl)
theorem dX0_findFits_116 : decode cX0_findFits 116 = .ok (.istore 7, 2) := dk_54 7 (dk_at dksX0_findFits_5 0 rfl rfl)
theorem dX0_findFits_118 : decode cX0_findFits 118 = .ok (.aload_n 0, 1) := dk_42 (dk_at dksX0_findFits_5 2 rfl rfl)
theorem dX0_findFits_119 : decode cX0_findFits 119 = .ok (.getfield 86, 3) := dk_180 0 86 (dk_at dksX0_findFits_5 3 rfl rfl)
theorem dX0_findFits_122 : decode cX0_findFits 122 = .ok (.bipush 41, 2) := dk_16 41 (dk_at dksX0_findFits_5 6 rfl rfl)
theorem dX0_findFits_124 : decode cX0_findFits 124 = .ok (.aload_n 0, 1) := dk_42 (dk_at dksX0_findFits_5 8 rfl rfl)
theorem dX0_findFits_125 : decode cX0_findFits 125 = .ok (.getfield 319, 3) := dk_180 1 63 (dk_at dksX0_findFits_5 9 rfl rfl)
theorem dX0_findFits_128 : decode cX0_findFits 128 = .ok (.imul, 1) := dk_104 (dk_at dksX0_findFits_5 12 rfl rfl)
theorem dX0_findFits_129 : decode cX0_findFits 129 = .ok (.iload 6, 2) := dk_21 6 (dk_at dksX0_findFits_5 13 rfl rfl)
theorem dX0_findFits_131 : decode cX0_findFits 131 = .ok (.iadd, 1) := dk_96 (dk_at dksX0_findFits_5 15 rfl rfl)
theorem dX0_findFits_132 : decode cX0_findFits 132 = .ok (.iload 7, 2) := dk_21 7 (dk_at dksX0_findFits_5 16 rfl rfl)
theorem dX0_findFits_134 : decode cX0_findFits 134 = .ok (.iastore, 1) := dk_79 (dk_at dksX0_findFits_5 18 rfl rfl)
theorem dX0_findFits_135 : decode cX0_findFits 135 = .ok (.aload_n 0, 1) := dk_42 (dk_at dksX0_findFits_5 19 rfl rfl)
theorem dX0_findFits_136 : decode cX0_findFits 136 = .ok (.getfield 83, 3) := dk_180 0 83 (dk_at dksX0_findFits_5 20 rfl rfl)
theorem dX0_findFits_139 : decode cX0_findFits 139 = .ok (.iload 6, 2) := dk_21 6 (dk_at dksX0_findFits_6 0 rfl rfl)
theorem dX0_findFits_141 : decode cX0_findFits 141 = .ok (.iaload, 1) := dk_46 (dk_at dksX0_findFits_6 2 rfl rfl)
theorem dX0_findFits_142 : decode cX0_findFits 142 = .ok (.iconst (-1), 1) := dk_2 (dk_at dksX0_findFits_6 3 rfl rfl)
theorem dX0_findFits_143 : decode cX0_findFits 143 = .ok (.if_icmp .eq 15, 3) := dk_159 0 15 (dk_at dksX0_findFits_6 4 rfl rfl)
theorem dX0_findFits_146 : decode cX0_findFits 146 = .ok (.aload_n 0, 1) := dk_42 (dk_at dksX0_findFits_6 7 rfl rfl)
theorem dX0_findFits_147 : decode cX0_findFits 147 = .ok (.getfield 83, 3) := dk_180 0 83 (dk_at dksX0_findFits_6 8 rfl rfl)
theorem dX0_findFits_150 : decode cX0_findFits 150 = .ok (.iload 6, 2) := dk_21 6 (dk_at dksX0_findFits_6 11 rfl rfl)
theorem dX0_findFits_152 : decode cX0_findFits 152 = .ok (.iaload, 1) := dk_46 (dk_at dksX0_findFits_6 13 rfl rfl)
theorem dX0_findFits_153 : decode cX0_findFits 153 = .ok (.iload 7, 2) := dk_21 7 (dk_at dksX0_findFits_6 14 rfl rfl)
theorem dX0_findFits_155 : decode cX0_findFits 155 = .ok (.if_icmp .ne 7, 3) := dk_160 0 7 (dk_at dksX0_findFits_6 16 rfl rfl)
theorem dX0_findFits_158 : decode cX0_findFits 158 = .ok (.iconst 1, 1) := dk_4 (dk_at dksX0_findFits_6 19 rfl rfl)
theorem dX0_findFits_159 : decode cX0_findFits 159 = .ok (.goto 4, 3) := dk_167 0 4 (dk_at dksX0_findFits_6 20 rfl rfl)
theorem dX0_findFits_162 : decode cX0_findFits 162 = .ok (.iconst 0, 1) := dk_3 (dk_at dksX0_findFits_6 23 rfl rfl)
theorem dX0_findFits_163 : decode cX0_findFits 163 = .ok (.istore 5, 2) := dk_54 5 (dk_at dksX0_findFits_7 0 rfl rfl)
theorem dX0_findFits_165 : decode cX0_findFits 165 = .ok (.aload_n 0, 1) := dk_42 (dk_at dksX0_findFits_7 2 rfl rfl)
theorem dX0_findFits_166 : decode cX0_findFits 166 = .ok (.getfield 38, 3) := dk_180 0 38 (dk_at dksX0_findFits_7 3 rfl rfl)
theorem dX0_findFits_169 : decode cX0_findFits 169 = .ok (.invokevirtual 231, 3) := dk_182 0 231 (dk_at dksX0_findFits_7 6 rfl rfl)
theorem dX0_findFits_172 : decode cX0_findFits 172 = .ok (.iinc 6 1, 3) := dk_132 6 1 (dk_at dksX0_findFits_7 9 rfl rfl)
theorem dX0_findFits_175 : decode cX0_findFits 175 = .ok (.goto (-77), 3) := dk_167 255 179 (dk_at dksX0_findFits_7 12 rfl rfl)
theorem dX0_findFits_178 : decode cX0_findFits 178 = .ok (.iload 5, 2) := dk_21 5 (dk_at dksX0_findFits_7 15 rfl rfl)
theorem dX0_findFits_180 : decode cX0_findFits 180 = .ok (.ifCond .ne 6, 3) := dk_154 0 6 (dk_at dksX0_findFits_7 17 rfl rfl)
theorem dX0_findFits_183 : decode cX0_findFits 183 = .ok (.goto 24, 3) := dk_167 0 24 (dk_at dksX0_findFits_7 20 rfl rfl)
theorem dX0_findFits_186 : decode cX0_findFits 186 = .ok (.aload_n 0, 1) := dk_42 (dk_at dksX0_findFits_7 23 rfl rfl)
theorem dX0_findFits_187 : decode cX0_findFits 187 = .ok (.getfield 89, 3) := dk_180 0 89 (dk_at dksX0_findFits_8 0 rfl rfl)
theorem dX0_findFits_190 : decode cX0_findFits 190 = .ok (.aload_n 0, 1) := dk_42 (dk_at dksX0_findFits_8 3 rfl rfl)
theorem dX0_findFits_191 : decode cX0_findFits 191 = .ok (.getfield 319, 3) := dk_180 1 63 (dk_at dksX0_findFits_8 4 rfl rfl)
theorem dX0_findFits_194 : decode cX0_findFits 194 = .ok (.iload 4, 2) := dk_21 4 (dk_at dksX0_findFits_8 7 rfl rfl)
theorem dX0_findFits_196 : decode cX0_findFits 196 = .ok (.iastore, 1) := dk_79 (dk_at dksX0_findFits_8 9 rfl rfl)
theorem dX0_findFits_197 : decode cX0_findFits 197 = .ok (.aload_n 0, 1) := dk_42 (dk_at dksX0_findFits_8 10 rfl rfl)
theorem dX0_findFits_198 : decode cX0_findFits 198 = .ok (.dup, 1) := dk_89 (dk_at dksX0_findFits_8 11 rfl rfl)
theorem dX0_findFits_199 : decode cX0_findFits 199 = .ok (.getfield 319, 3) := dk_180 1 63 (dk_at dksX0_findFits_8 12 rfl rfl)
theorem dX0_findFits_202 : decode cX0_findFits 202 = .ok (.iconst 1, 1) := dk_4 (dk_at dksX0_findFits_8 15 rfl rfl)
theorem dX0_findFits_203 : decode cX0_findFits 203 = .ok (.iadd, 1) := dk_96 (dk_at dksX0_findFits_8 16 rfl rfl)
theorem dX0_findFits_204 : decode cX0_findFits 204 = .ok (.putfield 319, 3) := dk_181 1 63 (dk_at dksX0_findFits_8 17 rfl rfl)
theorem dX0_findFits_207 : decode cX0_findFits 207 = .ok (.iinc 4 1, 3) := dk_132 4 1 (dk_at dksX0_findFits_8 20 rfl rfl)
theorem dX0_findFits_210 : decode cX0_findFits 210 = .ok (.goto (-161), 3) := dk_167 255 95 (dk_at dksX0_findFits_9 0 rfl rfl)
theorem dX0_findFits_213 : decode cX0_findFits 213 = .ok (.return_, 1) := dk_177 (dk_at dksX0_findFits_9 3 rfl rfl)
abbrev cX0_know : ByteArray := prog_1_method_41_code
def yX0_know : MethodName := ⟨RX0, "know", "(I)V"⟩
def dkwX0_know_5 : List UInt8 := [21, 4, 46, 29, 160, 0, 7, 29, 167, 0, 5, 16, 254, 79, 132, 2, 1, 167, 255, 134, 177]
abbrev dktX0_know_5 : List UInt8 := dkwX0_know_5 ++ []
def dkwX0_know_4 : List UInt8 := [54, 4, 42, 180, 0, 83, 21, 4, 42, 180, 0, 83, 21, 4, 46, 2, 159, 0, 14, 42, 180, 0, 83]
abbrev dktX0_know_4 : List UInt8 := dkwX0_know_4 ++ dktX0_know_5
def dkwX0_know_3 : List UInt8 := [163, 0, 11, 42, 180, 0, 80, 21, 4, 46, 62, 132, 4, 1, 167, 255, 214, 42, 180, 0, 68, 28, 46]
abbrev dktX0_know_3 : List UInt8 := dkwX0_know_3 ++ dktX0_know_4
def dkwX0_know_2 : List UInt8 := [162, 0, 39, 42, 180, 0, 77, 21, 4, 46, 28, 160, 0, 22, 42, 180, 0, 74, 21, 4, 46, 27]
abbrev dktX0_know_2 : List UInt8 := dkwX0_know_2 ++ dktX0_know_3
def dkwX0_know_1 : List UInt8 := [27, 164, 0, 6, 167, 0, 101, 42, 180, 0, 71, 28, 46, 62, 3, 54, 4, 21, 4, 42, 180, 0, 130]
abbrev dktX0_know_1 : List UInt8 := dkwX0_know_1 ++ dktX0_know_2
def dkwX0_know_0 : List UInt8 := [42, 180, 0, 83, 2, 184, 1, 1, 3, 61, 28, 42, 180, 0, 127, 162, 0, 120, 42, 180, 0, 65, 28, 46]
abbrev dktX0_know_0 : List UInt8 := dkwX0_know_0 ++ dktX0_know_1
theorem dksX0_know_0 : cX0_know.data.toList.drop 0 = dktX0_know_0 := by decide +kernel
theorem dksX0_know_1 : cX0_know.data.toList.drop 24 = dktX0_know_1 := dk_seg dksX0_know_0 24 rfl rfl
theorem dksX0_know_2 : cX0_know.data.toList.drop 47 = dktX0_know_2 := dk_seg dksX0_know_1 23 rfl rfl
theorem dksX0_know_3 : cX0_know.data.toList.drop 69 = dktX0_know_3 := dk_seg dksX0_know_2 22 rfl rfl
theorem dksX0_know_4 : cX0_know.data.toList.drop 92 = dktX0_know_4 := dk_seg dksX0_know_3 23 rfl rfl
theorem dksX0_know_5 : cX0_know.data.toList.drop 115 = dktX0_know_5 := dk_seg dksX0_know_4 23 rfl rfl
theorem dX0_know_0 : decode cX0_know 0 = .ok (.aload_n 0, 1) := dk_42 (dk_at dksX0_know_0 0 rfl rfl)
theorem dX0_know_1 : decode cX0_know 1 = .ok (.getfield 83, 3) := dk_180 0 83 (dk_at dksX0_know_0 1 rfl rfl)
theorem dX0_know_4 : decode cX0_know 4 = .ok (.iconst (-1), 1) := dk_2 (dk_at dksX0_know_0 4 rfl rfl)
theorem dX0_know_5 : decode cX0_know 5 = .ok (.invokestatic 257, 3) := dk_184 1 1 (dk_at dksX0_know_0 5 rfl rfl)
theorem dX0_know_8 : decode cX0_know 8 = .ok (.iconst 0, 1) := dk_3 (dk_at dksX0_know_0 8 rfl rfl)
theorem dX0_know_9 : decode cX0_know 9 = .ok (.istore_n 2, 1) := dk_61 (dk_at dksX0_know_0 9 rfl rfl)
theorem dX0_know_10 : decode cX0_know 10 = .ok (.iload_n 2, 1) := dk_28 (dk_at dksX0_know_0 10 rfl rfl)
theorem dX0_know_11 : decode cX0_know 11 = .ok (.aload_n 0, 1) := dk_42 (dk_at dksX0_know_0 11 rfl rfl)
theorem dX0_know_12 : decode cX0_know 12 = .ok (.getfield 127, 3) := dk_180 0 127 (dk_at dksX0_know_0 12 rfl rfl)
theorem dX0_know_15 : decode cX0_know 15 = .ok (.if_icmp .ge 120, 3) := dk_162 0 120 (dk_at dksX0_know_0 15 rfl rfl)
theorem dX0_know_18 : decode cX0_know 18 = .ok (.aload_n 0, 1) := dk_42 (dk_at dksX0_know_0 18 rfl rfl)
theorem dX0_know_19 : decode cX0_know 19 = .ok (.getfield 65, 3) := dk_180 0 65 (dk_at dksX0_know_0 19 rfl rfl)
theorem dX0_know_22 : decode cX0_know 22 = .ok (.iload_n 2, 1) := dk_28 (dk_at dksX0_know_0 22 rfl rfl)
theorem dX0_know_23 : decode cX0_know 23 = .ok (.iaload, 1) := dk_46 (dk_at dksX0_know_0 23 rfl rfl)
theorem dX0_know_24 : decode cX0_know 24 = .ok (.iload_n 1, 1) := dk_27 (dk_at dksX0_know_1 0 rfl rfl)
theorem dX0_know_25 : decode cX0_know 25 = .ok (.if_icmp .le 6, 3) := dk_164 0 6 (dk_at dksX0_know_1 1 rfl rfl)
theorem dX0_know_28 : decode cX0_know 28 = .ok (.goto 101, 3) := dk_167 0 101 (dk_at dksX0_know_1 4 rfl rfl)
theorem dX0_know_31 : decode cX0_know 31 = .ok (.aload_n 0, 1) := dk_42 (dk_at dksX0_know_1 7 rfl rfl)
theorem dX0_know_32 : decode cX0_know 32 = .ok (.getfield 71, 3) := dk_180 0 71 (dk_at dksX0_know_1 8 rfl rfl)
theorem dX0_know_35 : decode cX0_know 35 = .ok (.iload_n 2, 1) := dk_28 (dk_at dksX0_know_1 11 rfl rfl)
theorem dX0_know_36 : decode cX0_know 36 = .ok (.iaload, 1) := dk_46 (dk_at dksX0_know_1 12 rfl rfl)
theorem dX0_know_37 : decode cX0_know 37 = .ok (.istore_n 3, 1) := dk_62 (dk_at dksX0_know_1 13 rfl rfl)
theorem dX0_know_38 : decode cX0_know 38 = .ok (.iconst 0, 1) := dk_3 (dk_at dksX0_know_1 14 rfl rfl)
theorem dX0_know_39 : decode cX0_know 39 = .ok (.istore 4, 2) := dk_54 4 (dk_at dksX0_know_1 15 rfl rfl)
theorem dX0_know_41 : decode cX0_know 41 = .ok (.iload 4, 2) := dk_21 4 (dk_at dksX0_know_1 17 rfl rfl)
theorem dX0_know_43 : decode cX0_know 43 = .ok (.aload_n 0, 1) := dk_42 (dk_at dksX0_know_1 19 rfl rfl)
theorem dX0_know_44 : decode cX0_know 44 = .ok (.getfield 130, 3) := dk_180 0 130 (dk_at dksX0_know_1 20 rfl rfl)
theorem dX0_know_47 : decode cX0_know 47 = .ok (.if_icmp .ge 39, 3) := dk_162 0 39 (dk_at dksX0_know_2 0 rfl rfl)
theorem dX0_know_50 : decode cX0_know 50 = .ok (.aload_n 0, 1) := dk_42 (dk_at dksX0_know_2 3 rfl rfl)
theorem dX0_know_51 : decode cX0_know 51 = .ok (.getfield 77, 3) := dk_180 0 77 (dk_at dksX0_know_2 4 rfl rfl)
theorem dX0_know_54 : decode cX0_know 54 = .ok (.iload 4, 2) := dk_21 4 (dk_at dksX0_know_2 7 rfl rfl)
theorem dX0_know_56 : decode cX0_know 56 = .ok (.iaload, 1) := dk_46 (dk_at dksX0_know_2 9 rfl rfl)
theorem dX0_know_57 : decode cX0_know 57 = .ok (.iload_n 2, 1) := dk_28 (dk_at dksX0_know_2 10 rfl rfl)
theorem dX0_know_58 : decode cX0_know 58 = .ok (.if_icmp .ne 22, 3) := dk_160 0 22 (dk_at dksX0_know_2 11 rfl rfl)
theorem dX0_know_61 : decode cX0_know 61 = .ok (.aload_n 0, 1) := dk_42 (dk_at dksX0_know_2 14 rfl rfl)
theorem dX0_know_62 : decode cX0_know 62 = .ok (.getfield 74, 3) := dk_180 0 74 (dk_at dksX0_know_2 15 rfl rfl)
theorem dX0_know_65 : decode cX0_know 65 = .ok (.iload 4, 2) := dk_21 4 (dk_at dksX0_know_2 18 rfl rfl)
theorem dX0_know_67 : decode cX0_know 67 = .ok (.iaload, 1) := dk_46 (dk_at dksX0_know_2 20 rfl rfl)
theorem dX0_know_68 : decode cX0_know 68 = .ok (.iload_n 1, 1) := dk_27 (dk_at dksX0_know_2 21 rfl rfl)
theorem dX0_know_69 : decode cX0_know 69 = .ok (.if_icmp .gt 11, 3) := dk_163 0 11 (dk_at dksX0_know_3 0 rfl rfl)
theorem dX0_know_72 : decode cX0_know 72 = .ok (.aload_n 0, 1) := dk_42 (dk_at dksX0_know_3 3 rfl rfl)
theorem dX0_know_73 : decode cX0_know 73 = .ok (.getfield 80, 3) := dk_180 0 80 (dk_at dksX0_know_3 4 rfl rfl)
theorem dX0_know_76 : decode cX0_know 76 = .ok (.iload 4, 2) := dk_21 4 (dk_at dksX0_know_3 7 rfl rfl)
theorem dX0_know_78 : decode cX0_know 78 = .ok (.iaload, 1) := dk_46 (dk_at dksX0_know_3 9 rfl rfl)
theorem dX0_know_79 : decode cX0_know 79 = .ok (.istore_n 3, 1) := dk_62 (dk_at dksX0_know_3 10 rfl rfl)
theorem dX0_know_80 : decode cX0_know 80 = .ok (.iinc 4 1, 3) := dk_132 4 1 (dk_at dksX0_know_3 11 rfl rfl)
theorem dX0_know_83 : decode cX0_know 83 = .ok (.goto (-42), 3) := dk_167 255 214 (dk_at dksX0_know_3 14 rfl rfl)
theorem dX0_know_86 : decode cX0_know 86 = .ok (.aload_n 0, 1) := dk_42 (dk_at dksX0_know_3 17 rfl rfl)
theorem dX0_know_87 : decode cX0_know 87 = .ok (.getfield 68, 3) := dk_180 0 68 (dk_at dksX0_know_3 18 rfl rfl)
theorem dX0_know_90 : decode cX0_know 90 = .ok (.iload_n 2, 1) := dk_28 (dk_at dksX0_know_3 21 rfl rfl)
theorem dX0_know_91 : decode cX0_know 91 = .ok (.iaload, 1) := dk_46 (dk_at dksX0_know_3 22 rfl rfl)
theorem dX0_know_92 : decode cX0_know 92 = .ok (.istore 4, 2) := dk_54 4 (dk_at dksX0_know_4 0 rfl rfl)
theorem dX0_know_94 : decode cX0_know 94 = .ok (.aload_n 0, 1) := dk_42 (dk_at dksX0_know_4 2 rfl rfl)
theorem dX0_know_95 : decode cX0_know 95 = .ok (.getfield 83, 3) := dk_180 0 83 (dk_at dksX0_know_4 3 rfl rfl)
theorem dX0_know_98 : decode cX0_know 98 = .ok (.iload 4, 2) := dk_21 4 (dk_at dksX0_know_4 6 rfl rfl)
theorem dX0_know_100 : decode cX0_know 100 = .ok (.aload_n 0, 1) := dk_42 (dk_at dksX0_know_4 8 rfl rfl)
theorem dX0_know_101 : decode cX0_know 101 = .ok (.getfield 83, 3) := dk_180 0 83 (dk_at dksX0_know_4 9 rfl rfl)
theorem dX0_know_104 : decode cX0_know 104 = .ok (.iload 4, 2) := dk_21 4 (dk_at dksX0_know_4 12 rfl rfl)
theorem dX0_know_106 : decode cX0_know 106 = .ok (.iaload, 1) := dk_46 (dk_at dksX0_know_4 14 rfl rfl)
theorem dX0_know_107 : decode cX0_know 107 = .ok (.iconst (-1), 1) := dk_2 (dk_at dksX0_know_4 15 rfl rfl)
theorem dX0_know_108 : decode cX0_know 108 = .ok (.if_icmp .eq 14, 3) := dk_159 0 14 (dk_at dksX0_know_4 16 rfl rfl)
theorem dX0_know_111 : decode cX0_know 111 = .ok (.aload_n 0, 1) := dk_42 (dk_at dksX0_know_4 19 rfl rfl)
theorem dX0_know_112 : decode cX0_know 112 = .ok (.getfield 83, 3) := dk_180 0 83 (dk_at dksX0_know_4 20 rfl rfl)
theorem dX0_know_115 : decode cX0_know 115 = .ok (.iload 4, 2) := dk_21 4 (dk_at dksX0_know_5 0 rfl rfl)
theorem dX0_know_117 : decode cX0_know 117 = .ok (.iaload, 1) := dk_46 (dk_at dksX0_know_5 2 rfl rfl)
theorem dX0_know_118 : decode cX0_know 118 = .ok (.iload_n 3, 1) := dk_29 (dk_at dksX0_know_5 3 rfl rfl)
theorem dX0_know_119 : decode cX0_know 119 = .ok (.if_icmp .ne 7, 3) := dk_160 0 7 (dk_at dksX0_know_5 4 rfl rfl)
theorem dX0_know_122 : decode cX0_know 122 = .ok (.iload_n 3, 1) := dk_29 (dk_at dksX0_know_5 7 rfl rfl)
theorem dX0_know_123 : decode cX0_know 123 = .ok (.goto 5, 3) := dk_167 0 5 (dk_at dksX0_know_5 8 rfl rfl)
theorem dX0_know_126 : decode cX0_know 126 = .ok (.bipush (-2), 2) := dk_16 254 (dk_at dksX0_know_5 11 rfl rfl)
theorem dX0_know_128 : decode cX0_know 128 = .ok (.iastore, 1) := dk_79 (dk_at dksX0_know_5 13 rfl rfl)
theorem dX0_know_129 : decode cX0_know 129 = .ok (.iinc 2 1, 3) := dk_132 2 1 (dk_at dksX0_know_5 14 rfl rfl)
theorem dX0_know_132 : decode cX0_know 132 = .ok (.goto (-122), 3) := dk_167 255 134 (dk_at dksX0_know_5 17 rfl rfl)
theorem dX0_know_135 : decode cX0_know 135 = .ok (.return_, 1) := dk_177 (dk_at dksX0_know_5 20 rfl rfl)
abbrev cX0_surely : ByteArray := prog_1_method_44_code
def yX0_surely : MethodName := ⟨RX0, "surely", "(III)I"⟩
def dkwX0_surely_4 : List UInt8 := [180, 1, 63, 160, 0, 7, 4, 167, 0, 13, 21, 4, 154, 0, 7, 3, 167, 0, 4, 5, 172]
abbrev dktX0_surely_4 : List UInt8 := dkwX0_surely_4 ++ []
def dkwX0_surely_3 : List UInt8 := [96, 54, 4, 132, 5, 1, 167, 255, 223, 42, 180, 1, 63, 154, 0, 7, 2, 167, 0, 26, 21, 4, 42]
abbrev dktX0_surely_3 : List UInt8 := dkwX0_surely_3 ++ dktX0_surely_4
def dkwX0_surely_2 : List UInt8 := [180, 1, 63, 162, 0, 30, 21, 4, 42, 180, 0, 86, 16, 41, 21, 5, 104, 28, 96, 46, 27, 122, 4, 126]
abbrev dktX0_surely_2 : List UInt8 := dkwX0_surely_2 ++ dktX0_surely_3
def dkwX0_surely_1 : List UInt8 := [184, 0, 153, 154, 0, 6, 16, 254, 172, 42, 29, 28, 182, 1, 66, 3, 54, 4, 3, 54, 5, 21, 5, 42]
abbrev dktX0_surely_1 : List UInt8 := dkwX0_surely_1 ++ dktX0_surely_2
def dkwX0_surely_0 : List UInt8 := [42, 27, 182, 0, 178, 153, 0, 24, 28, 3, 16, 40, 184, 0, 153, 153, 0, 14, 29, 3, 17, 3, 231]
abbrev dktX0_surely_0 : List UInt8 := dkwX0_surely_0 ++ dktX0_surely_1
theorem dksX0_surely_0 : cX0_surely.data.toList.drop 0 = dktX0_surely_0 := by decide +kernel
theorem dksX0_surely_1 : cX0_surely.data.toList.drop 23 = dktX0_surely_1 := dk_seg dksX0_surely_0 23 rfl rfl
theorem dksX0_surely_2 : cX0_surely.data.toList.drop 47 = dktX0_surely_2 := dk_seg dksX0_surely_1 24 rfl rfl
theorem dksX0_surely_3 : cX0_surely.data.toList.drop 71 = dktX0_surely_3 := dk_seg dksX0_surely_2 24 rfl rfl
theorem dksX0_surely_4 : cX0_surely.data.toList.drop 94 = dktX0_surely_4 := dk_seg dksX0_surely_3 23 rfl rfl
theorem dX0_surely_0 : decode cX0_surely 0 = .ok (.aload_n 0, 1) := dk_42 (dk_at dksX0_surely_0 0 rfl rfl)
theorem dX0_surely_1 : decode cX0_surely 1 = .ok (.iload_n 1, 1) := dk_27 (dk_at dksX0_surely_0 1 rfl rfl)
theorem dX0_surely_2 : decode cX0_surely 2 = .ok (.invokevirtual 178, 3) := dk_182 0 178 (dk_at dksX0_surely_0 2 rfl rfl)
theorem dX0_surely_5 : decode cX0_surely 5 = .ok (.ifCond .eq 24, 3) := dk_153 0 24 (dk_at dksX0_surely_0 5 rfl rfl)
theorem dX0_surely_8 : decode cX0_surely 8 = .ok (.iload_n 2, 1) := dk_28 (dk_at dksX0_surely_0 8 rfl rfl)
theorem dX0_surely_9 : decode cX0_surely 9 = .ok (.iconst 0, 1) := dk_3 (dk_at dksX0_surely_0 9 rfl rfl)
theorem dX0_surely_10 : decode cX0_surely 10 = .ok (.bipush 40, 2) := dk_16 40 (dk_at dksX0_surely_0 10 rfl rfl)
theorem dX0_surely_12 : decode cX0_surely 12 = .ok (.invokestatic 153, 3) := dk_184 0 153 (dk_at dksX0_surely_0 12 rfl rfl)
theorem dX0_surely_15 : decode cX0_surely 15 = .ok (.ifCond .eq 14, 3) := dk_153 0 14 (dk_at dksX0_surely_0 15 rfl rfl)
theorem dX0_surely_18 : decode cX0_surely 18 = .ok (.iload_n 3, 1) := dk_29 (dk_at dksX0_surely_0 18 rfl rfl)
theorem dX0_surely_19 : decode cX0_surely 19 = .ok (.iconst 0, 1) := dk_3 (dk_at dksX0_surely_0 19 rfl rfl)
theorem dX0_surely_20 : decode cX0_surely 20 = .ok (.sipush 999, 3) := dk_17 3 231 (dk_at dksX0_surely_0 20 rfl rfl)
theorem dX0_surely_23 : decode cX0_surely 23 = .ok (.invokestatic 153, 3) := dk_184 0 153 (dk_at dksX0_surely_1 0 rfl rfl)
theorem dX0_surely_26 : decode cX0_surely 26 = .ok (.ifCond .ne 6, 3) := dk_154 0 6 (dk_at dksX0_surely_1 3 rfl rfl)
theorem dX0_surely_29 : decode cX0_surely 29 = .ok (.bipush (-2), 2) := dk_16 254 (dk_at dksX0_surely_1 6 rfl rfl)
theorem dX0_surely_31 : decode cX0_surely 31 = .ok (.ireturn, 1) := dk_172 (dk_at dksX0_surely_1 8 rfl rfl)
theorem dX0_surely_32 : decode cX0_surely 32 = .ok (.aload_n 0, 1) := dk_42 (dk_at dksX0_surely_1 9 rfl rfl)
theorem dX0_surely_33 : decode cX0_surely 33 = .ok (.iload_n 3, 1) := dk_29 (dk_at dksX0_surely_1 10 rfl rfl)
theorem dX0_surely_34 : decode cX0_surely 34 = .ok (.iload_n 2, 1) := dk_28 (dk_at dksX0_surely_1 11 rfl rfl)
theorem dX0_surely_35 : decode cX0_surely 35 = .ok (.invokevirtual 322, 3) := dk_182 1 66 (dk_at dksX0_surely_1 12 rfl rfl)
theorem dX0_surely_38 : decode cX0_surely 38 = .ok (.iconst 0, 1) := dk_3 (dk_at dksX0_surely_1 15 rfl rfl)
theorem dX0_surely_39 : decode cX0_surely 39 = .ok (.istore 4, 2) := dk_54 4 (dk_at dksX0_surely_1 16 rfl rfl)
theorem dX0_surely_41 : decode cX0_surely 41 = .ok (.iconst 0, 1) := dk_3 (dk_at dksX0_surely_1 18 rfl rfl)
theorem dX0_surely_42 : decode cX0_surely 42 = .ok (.istore 5, 2) := dk_54 5 (dk_at dksX0_surely_1 19 rfl rfl)
theorem dX0_surely_44 : decode cX0_surely 44 = .ok (.iload 5, 2) := dk_21 5 (dk_at dksX0_surely_1 21 rfl rfl)
theorem dX0_surely_46 : decode cX0_surely 46 = .ok (.aload_n 0, 1) := dk_42 (dk_at dksX0_surely_1 23 rfl rfl)
theorem dX0_surely_47 : decode cX0_surely 47 = .ok (.getfield 319, 3) := dk_180 1 63 (dk_at dksX0_surely_2 0 rfl rfl)
theorem dX0_surely_50 : decode cX0_surely 50 = .ok (.if_icmp .ge 30, 3) := dk_162 0 30 (dk_at dksX0_surely_2 3 rfl rfl)
theorem dX0_surely_53 : decode cX0_surely 53 = .ok (.iload 4, 2) := dk_21 4 (dk_at dksX0_surely_2 6 rfl rfl)
theorem dX0_surely_55 : decode cX0_surely 55 = .ok (.aload_n 0, 1) := dk_42 (dk_at dksX0_surely_2 8 rfl rfl)
theorem dX0_surely_56 : decode cX0_surely 56 = .ok (.getfield 86, 3) := dk_180 0 86 (dk_at dksX0_surely_2 9 rfl rfl)
theorem dX0_surely_59 : decode cX0_surely 59 = .ok (.bipush 41, 2) := dk_16 41 (dk_at dksX0_surely_2 12 rfl rfl)
theorem dX0_surely_61 : decode cX0_surely 61 = .ok (.iload 5, 2) := dk_21 5 (dk_at dksX0_surely_2 14 rfl rfl)
theorem dX0_surely_63 : decode cX0_surely 63 = .ok (.imul, 1) := dk_104 (dk_at dksX0_surely_2 16 rfl rfl)
theorem dX0_surely_64 : decode cX0_surely 64 = .ok (.iload_n 2, 1) := dk_28 (dk_at dksX0_surely_2 17 rfl rfl)
theorem dX0_surely_65 : decode cX0_surely 65 = .ok (.iadd, 1) := dk_96 (dk_at dksX0_surely_2 18 rfl rfl)
theorem dX0_surely_66 : decode cX0_surely 66 = .ok (.iaload, 1) := dk_46 (dk_at dksX0_surely_2 19 rfl rfl)
theorem dX0_surely_67 : decode cX0_surely 67 = .ok (.iload_n 1, 1) := dk_27 (dk_at dksX0_surely_2 20 rfl rfl)
theorem dX0_surely_68 : decode cX0_surely 68 = .ok (.ishr, 1) := dk_122 (dk_at dksX0_surely_2 21 rfl rfl)
theorem dX0_surely_69 : decode cX0_surely 69 = .ok (.iconst 1, 1) := dk_4 (dk_at dksX0_surely_2 22 rfl rfl)
theorem dX0_surely_70 : decode cX0_surely 70 = .ok (.iand, 1) := dk_126 (dk_at dksX0_surely_2 23 rfl rfl)
theorem dX0_surely_71 : decode cX0_surely 71 = .ok (.iadd, 1) := dk_96 (dk_at dksX0_surely_3 0 rfl rfl)
theorem dX0_surely_72 : decode cX0_surely 72 = .ok (.istore 4, 2) := dk_54 4 (dk_at dksX0_surely_3 1 rfl rfl)
theorem dX0_surely_74 : decode cX0_surely 74 = .ok (.iinc 5 1, 3) := dk_132 5 1 (dk_at dksX0_surely_3 3 rfl rfl)
theorem dX0_surely_77 : decode cX0_surely 77 = .ok (.goto (-33), 3) := dk_167 255 223 (dk_at dksX0_surely_3 6 rfl rfl)
theorem dX0_surely_80 : decode cX0_surely 80 = .ok (.aload_n 0, 1) := dk_42 (dk_at dksX0_surely_3 9 rfl rfl)
theorem dX0_surely_81 : decode cX0_surely 81 = .ok (.getfield 319, 3) := dk_180 1 63 (dk_at dksX0_surely_3 10 rfl rfl)
theorem dX0_surely_84 : decode cX0_surely 84 = .ok (.ifCond .ne 7, 3) := dk_154 0 7 (dk_at dksX0_surely_3 13 rfl rfl)
theorem dX0_surely_87 : decode cX0_surely 87 = .ok (.iconst (-1), 1) := dk_2 (dk_at dksX0_surely_3 16 rfl rfl)
theorem dX0_surely_88 : decode cX0_surely 88 = .ok (.goto 26, 3) := dk_167 0 26 (dk_at dksX0_surely_3 17 rfl rfl)
theorem dX0_surely_91 : decode cX0_surely 91 = .ok (.iload 4, 2) := dk_21 4 (dk_at dksX0_surely_3 20 rfl rfl)
theorem dX0_surely_93 : decode cX0_surely 93 = .ok (.aload_n 0, 1) := dk_42 (dk_at dksX0_surely_3 22 rfl rfl)
theorem dX0_surely_94 : decode cX0_surely 94 = .ok (.getfield 319, 3) := dk_180 1 63 (dk_at dksX0_surely_4 0 rfl rfl)
theorem dX0_surely_97 : decode cX0_surely 97 = .ok (.if_icmp .ne 7, 3) := dk_160 0 7 (dk_at dksX0_surely_4 3 rfl rfl)
theorem dX0_surely_100 : decode cX0_surely 100 = .ok (.iconst 1, 1) := dk_4 (dk_at dksX0_surely_4 6 rfl rfl)
theorem dX0_surely_101 : decode cX0_surely 101 = .ok (.goto 13, 3) := dk_167 0 13 (dk_at dksX0_surely_4 7 rfl rfl)
theorem dX0_surely_104 : decode cX0_surely 104 = .ok (.iload 4, 2) := dk_21 4 (dk_at dksX0_surely_4 10 rfl rfl)
theorem dX0_surely_106 : decode cX0_surely 106 = .ok (.ifCond .ne 7, 3) := dk_154 0 7 (dk_at dksX0_surely_4 12 rfl rfl)
theorem dX0_surely_109 : decode cX0_surely 109 = .ok (.iconst 0, 1) := dk_3 (dk_at dksX0_surely_4 15 rfl rfl)
theorem dX0_surely_110 : decode cX0_surely 110 = .ok (.goto 4, 3) := dk_167 0 4 (dk_at dksX0_surely_4 16 rfl rfl)
theorem dX0_surely_113 : decode cX0_surely 113 = .ok (.iconst 2, 1) := dk_5 (dk_at dksX0_surely_4 19 rfl rfl)
theorem dX0_surely_114 : decode cX0_surely 114 = .ok (.ireturn, 1) := dk_172 (dk_at dksX0_surely_4 20 rfl rfl)
abbrev cX0_look : ByteArray := prog_1_method_45_code
def yX0_look : MethodName := ⟨RX0, "look", "()I"⟩
def dkwX0_look_5 : List UInt8 := [167, 0, 8, 21, 4, 61, 29, 60, 132, 3, 1, 167, 255, 145, 27, 172]
abbrev dktX0_look_5 : List UInt8 := dkwX0_look_5 ++ []
def dkwX0_look_4 : List UInt8 := [167, 255, 207, 21, 4, 21, 6, 184, 1, 59, 54, 4, 132, 5, 1, 167, 255, 177, 21, 4, 28, 161, 0, 6]
abbrev dktX0_look_4 : List UInt8 := dkwX0_look_4 ++ dktX0_look_5
def dkwX0_look_3 : List UInt8 := [16, 41, 21, 7, 104, 29, 96, 46, 160, 0, 7, 4, 167, 0, 4, 3, 96, 54, 6, 132, 7, 1]
abbrev dktX0_look_3 : List UInt8 := dkwX0_look_3 ++ dktX0_look_4
def dkwX0_look_2 : List UInt8 := [180, 1, 63, 162, 0, 46, 21, 6, 42, 180, 0, 86, 16, 41, 21, 5, 104, 29, 96, 46, 42, 180, 0, 86]
abbrev dktX0_look_2 : List UInt8 := dkwX0_look_2 ++ dktX0_look_3
def dkwX0_look_1 : List UInt8 := [3, 54, 4, 3, 54, 5, 21, 5, 42, 180, 1, 63, 162, 0, 76, 3, 54, 6, 3, 54, 7, 21, 7, 42]
abbrev dktX0_look_1 : List UInt8 := dkwX0_look_1 ++ dktX0_look_2
def dkwX0_look_0 : List UInt8 := [42, 17, 3, 231, 16, 40, 182, 1, 66, 2, 60, 42, 180, 1, 63, 61, 3, 62, 29, 16, 40, 163, 0, 111]
abbrev dktX0_look_0 : List UInt8 := dkwX0_look_0 ++ dktX0_look_1
theorem dksX0_look_0 : cX0_look.data.toList.drop 0 = dktX0_look_0 := by decide +kernel
theorem dksX0_look_1 : cX0_look.data.toList.drop 24 = dktX0_look_1 := dk_seg dksX0_look_0 24 rfl rfl
theorem dksX0_look_2 : cX0_look.data.toList.drop 48 = dktX0_look_2 := dk_seg dksX0_look_1 24 rfl rfl
theorem dksX0_look_3 : cX0_look.data.toList.drop 72 = dktX0_look_3 := dk_seg dksX0_look_2 24 rfl rfl
theorem dksX0_look_4 : cX0_look.data.toList.drop 94 = dktX0_look_4 := dk_seg dksX0_look_3 22 rfl rfl
theorem dksX0_look_5 : cX0_look.data.toList.drop 118 = dktX0_look_5 := dk_seg dksX0_look_4 24 rfl rfl
theorem dX0_look_0 : decode cX0_look 0 = .ok (.aload_n 0, 1) := dk_42 (dk_at dksX0_look_0 0 rfl rfl)
theorem dX0_look_1 : decode cX0_look 1 = .ok (.sipush 999, 3) := dk_17 3 231 (dk_at dksX0_look_0 1 rfl rfl)
theorem dX0_look_4 : decode cX0_look 4 = .ok (.bipush 40, 2) := dk_16 40 (dk_at dksX0_look_0 4 rfl rfl)
theorem dX0_look_6 : decode cX0_look 6 = .ok (.invokevirtual 322, 3) := dk_182 1 66 (dk_at dksX0_look_0 6 rfl rfl)
theorem dX0_look_9 : decode cX0_look 9 = .ok (.iconst (-1), 1) := dk_2 (dk_at dksX0_look_0 9 rfl rfl)
theorem dX0_look_10 : decode cX0_look 10 = .ok (.istore_n 1, 1) := dk_60 (dk_at dksX0_look_0 10 rfl rfl)
theorem dX0_look_11 : decode cX0_look 11 = .ok (.aload_n 0, 1) := dk_42 (dk_at dksX0_look_0 11 rfl rfl)
theorem dX0_look_12 : decode cX0_look 12 = .ok (.getfield 319, 3) := dk_180 1 63 (dk_at dksX0_look_0 12 rfl rfl)
theorem dX0_look_15 : decode cX0_look 15 = .ok (.istore_n 2, 1) := dk_61 (dk_at dksX0_look_0 15 rfl rfl)
theorem dX0_look_16 : decode cX0_look 16 = .ok (.iconst 0, 1) := dk_3 (dk_at dksX0_look_0 16 rfl rfl)
theorem dX0_look_17 : decode cX0_look 17 = .ok (.istore_n 3, 1) := dk_62 (dk_at dksX0_look_0 17 rfl rfl)
theorem dX0_look_18 : decode cX0_look 18 = .ok (.iload_n 3, 1) := dk_29 (dk_at dksX0_look_0 18 rfl rfl)
theorem dX0_look_19 : decode cX0_look 19 = .ok (.bipush 40, 2) := dk_16 40 (dk_at dksX0_look_0 19 rfl rfl)
theorem dX0_look_21 : decode cX0_look 21 = .ok (.if_icmp .gt 111, 3) := dk_163 0 111 (dk_at dksX0_look_0 21 rfl rfl)
theorem dX0_look_24 : decode cX0_look 24 = .ok (.iconst 0, 1) := dk_3 (dk_at dksX0_look_1 0 rfl rfl)
theorem dX0_look_25 : decode cX0_look 25 = .ok (.istore 4, 2) := dk_54 4 (dk_at dksX0_look_1 1 rfl rfl)
theorem dX0_look_27 : decode cX0_look 27 = .ok (.iconst 0, 1) := dk_3 (dk_at dksX0_look_1 3 rfl rfl)
theorem dX0_look_28 : decode cX0_look 28 = .ok (.istore 5, 2) := dk_54 5 (dk_at dksX0_look_1 4 rfl rfl)
theorem dX0_look_30 : decode cX0_look 30 = .ok (.iload 5, 2) := dk_21 5 (dk_at dksX0_look_1 6 rfl rfl)
theorem dX0_look_32 : decode cX0_look 32 = .ok (.aload_n 0, 1) := dk_42 (dk_at dksX0_look_1 8 rfl rfl)
theorem dX0_look_33 : decode cX0_look 33 = .ok (.getfield 319, 3) := dk_180 1 63 (dk_at dksX0_look_1 9 rfl rfl)
theorem dX0_look_36 : decode cX0_look 36 = .ok (.if_icmp .ge 76, 3) := dk_162 0 76 (dk_at dksX0_look_1 12 rfl rfl)
theorem dX0_look_39 : decode cX0_look 39 = .ok (.iconst 0, 1) := dk_3 (dk_at dksX0_look_1 15 rfl rfl)
theorem dX0_look_40 : decode cX0_look 40 = .ok (.istore 6, 2) := dk_54 6 (dk_at dksX0_look_1 16 rfl rfl)
theorem dX0_look_42 : decode cX0_look 42 = .ok (.iconst 0, 1) := dk_3 (dk_at dksX0_look_1 18 rfl rfl)
theorem dX0_look_43 : decode cX0_look 43 = .ok (.istore 7, 2) := dk_54 7 (dk_at dksX0_look_1 19 rfl rfl)
theorem dX0_look_45 : decode cX0_look 45 = .ok (.iload 7, 2) := dk_21 7 (dk_at dksX0_look_1 21 rfl rfl)
theorem dX0_look_47 : decode cX0_look 47 = .ok (.aload_n 0, 1) := dk_42 (dk_at dksX0_look_1 23 rfl rfl)
theorem dX0_look_48 : decode cX0_look 48 = .ok (.getfield 319, 3) := dk_180 1 63 (dk_at dksX0_look_2 0 rfl rfl)
theorem dX0_look_51 : decode cX0_look 51 = .ok (.if_icmp .ge 46, 3) := dk_162 0 46 (dk_at dksX0_look_2 3 rfl rfl)
theorem dX0_look_54 : decode cX0_look 54 = .ok (.iload 6, 2) := dk_21 6 (dk_at dksX0_look_2 6 rfl rfl)
theorem dX0_look_56 : decode cX0_look 56 = .ok (.aload_n 0, 1) := dk_42 (dk_at dksX0_look_2 8 rfl rfl)
theorem dX0_look_57 : decode cX0_look 57 = .ok (.getfield 86, 3) := dk_180 0 86 (dk_at dksX0_look_2 9 rfl rfl)
theorem dX0_look_60 : decode cX0_look 60 = .ok (.bipush 41, 2) := dk_16 41 (dk_at dksX0_look_2 12 rfl rfl)
theorem dX0_look_62 : decode cX0_look 62 = .ok (.iload 5, 2) := dk_21 5 (dk_at dksX0_look_2 14 rfl rfl)
theorem dX0_look_64 : decode cX0_look 64 = .ok (.imul, 1) := dk_104 (dk_at dksX0_look_2 16 rfl rfl)
theorem dX0_look_65 : decode cX0_look 65 = .ok (.iload_n 3, 1) := dk_29 (dk_at dksX0_look_2 17 rfl rfl)
theorem dX0_look_66 : decode cX0_look 66 = .ok (.iadd, 1) := dk_96 (dk_at dksX0_look_2 18 rfl rfl)
theorem dX0_look_67 : decode cX0_look 67 = .ok (.iaload, 1) := dk_46 (dk_at dksX0_look_2 19 rfl rfl)
theorem dX0_look_68 : decode cX0_look 68 = .ok (.aload_n 0, 1) := dk_42 (dk_at dksX0_look_2 20 rfl rfl)
theorem dX0_look_69 : decode cX0_look 69 = .ok (.getfield 86, 3) := dk_180 0 86 (dk_at dksX0_look_2 21 rfl rfl)
theorem dX0_look_72 : decode cX0_look 72 = .ok (.bipush 41, 2) := dk_16 41 (dk_at dksX0_look_3 0 rfl rfl)
theorem dX0_look_74 : decode cX0_look 74 = .ok (.iload 7, 2) := dk_21 7 (dk_at dksX0_look_3 2 rfl rfl)
theorem dX0_look_76 : decode cX0_look 76 = .ok (.imul, 1) := dk_104 (dk_at dksX0_look_3 4 rfl rfl)
theorem dX0_look_77 : decode cX0_look 77 = .ok (.iload_n 3, 1) := dk_29 (dk_at dksX0_look_3 5 rfl rfl)
theorem dX0_look_78 : decode cX0_look 78 = .ok (.iadd, 1) := dk_96 (dk_at dksX0_look_3 6 rfl rfl)
theorem dX0_look_79 : decode cX0_look 79 = .ok (.iaload, 1) := dk_46 (dk_at dksX0_look_3 7 rfl rfl)
theorem dX0_look_80 : decode cX0_look 80 = .ok (.if_icmp .ne 7, 3) := dk_160 0 7 (dk_at dksX0_look_3 8 rfl rfl)
theorem dX0_look_83 : decode cX0_look 83 = .ok (.iconst 1, 1) := dk_4 (dk_at dksX0_look_3 11 rfl rfl)
theorem dX0_look_84 : decode cX0_look 84 = .ok (.goto 4, 3) := dk_167 0 4 (dk_at dksX0_look_3 12 rfl rfl)
theorem dX0_look_87 : decode cX0_look 87 = .ok (.iconst 0, 1) := dk_3 (dk_at dksX0_look_3 15 rfl rfl)
theorem dX0_look_88 : decode cX0_look 88 = .ok (.iadd, 1) := dk_96 (dk_at dksX0_look_3 16 rfl rfl)
theorem dX0_look_89 : decode cX0_look 89 = .ok (.istore 6, 2) := dk_54 6 (dk_at dksX0_look_3 17 rfl rfl)
theorem dX0_look_91 : decode cX0_look 91 = .ok (.iinc 7 1, 3) := dk_132 7 1 (dk_at dksX0_look_3 19 rfl rfl)
theorem dX0_look_94 : decode cX0_look 94 = .ok (.goto (-49), 3) := dk_167 255 207 (dk_at dksX0_look_4 0 rfl rfl)
theorem dX0_look_97 : decode cX0_look 97 = .ok (.iload 4, 2) := dk_21 4 (dk_at dksX0_look_4 3 rfl rfl)
theorem dX0_look_99 : decode cX0_look 99 = .ok (.iload 6, 2) := dk_21 6 (dk_at dksX0_look_4 5 rfl rfl)
theorem dX0_look_101 : decode cX0_look 101 = .ok (.invokestatic 315, 3) := dk_184 1 59 (dk_at dksX0_look_4 7 rfl rfl)
theorem dX0_look_104 : decode cX0_look 104 = .ok (.istore 4, 2) := dk_54 4 (dk_at dksX0_look_4 10 rfl rfl)
theorem dX0_look_106 : decode cX0_look 106 = .ok (.iinc 5 1, 3) := dk_132 5 1 (dk_at dksX0_look_4 12 rfl rfl)
theorem dX0_look_109 : decode cX0_look 109 = .ok (.goto (-79), 3) := dk_167 255 177 (dk_at dksX0_look_4 15 rfl rfl)
theorem dX0_look_112 : decode cX0_look 112 = .ok (.iload 4, 2) := dk_21 4 (dk_at dksX0_look_4 18 rfl rfl)
theorem dX0_look_114 : decode cX0_look 114 = .ok (.iload_n 2, 1) := dk_28 (dk_at dksX0_look_4 20 rfl rfl)
theorem dX0_look_115 : decode cX0_look 115 = .ok (.if_icmp .lt 6, 3) := dk_161 0 6 (dk_at dksX0_look_4 21 rfl rfl)
theorem dX0_look_118 : decode cX0_look 118 = .ok (.goto 8, 3) := dk_167 0 8 (dk_at dksX0_look_5 0 rfl rfl)
theorem dX0_look_121 : decode cX0_look 121 = .ok (.iload 4, 2) := dk_21 4 (dk_at dksX0_look_5 3 rfl rfl)
theorem dX0_look_123 : decode cX0_look 123 = .ok (.istore_n 2, 1) := dk_61 (dk_at dksX0_look_5 5 rfl rfl)
theorem dX0_look_124 : decode cX0_look 124 = .ok (.iload_n 3, 1) := dk_29 (dk_at dksX0_look_5 6 rfl rfl)
theorem dX0_look_125 : decode cX0_look 125 = .ok (.istore_n 1, 1) := dk_60 (dk_at dksX0_look_5 7 rfl rfl)
theorem dX0_look_126 : decode cX0_look 126 = .ok (.iinc 3 1, 3) := dk_132 3 1 (dk_at dksX0_look_5 8 rfl rfl)
theorem dX0_look_129 : decode cX0_look 129 = .ok (.goto (-111), 3) := dk_167 255 145 (dk_at dksX0_look_5 11 rfl rfl)
theorem dX0_look_132 : decode cX0_look 132 = .ok (.iload_n 1, 1) := dk_27 (dk_at dksX0_look_5 14 rfl rfl)
theorem dX0_look_133 : decode cX0_look 133 = .ok (.ireturn, 1) := dk_172 (dk_at dksX0_look_5 15 rfl rfl)
abbrev cX0_count : ByteArray := prog_1_method_46_code
def yX0_count : MethodName := ⟨RX0, "count", "(I)I"⟩
def dkwX0_count_3 : List UInt8 := [180, 0, 34, 180, 0, 234, 172, 2, 172]
abbrev dktX0_count_3 : List UInt8 := dkwX0_count_3 ++ []
def dkwX0_count_2 : List UInt8 := [42, 180, 0, 27, 180, 0, 140, 172, 42, 180, 0, 127, 172, 42, 180, 0, 130, 172, 42, 180, 0, 96, 172, 42]
abbrev dktX0_count_2 : List UInt8 := dkwX0_count_2 ++ dktX0_count_3
def dkwX0_count_1 : List UInt8 := [170, 0, 0, 0, 0, 0, 66, 0, 0, 0, 0, 0, 0, 0, 4, 0, 0, 0, 35, 0, 0, 0, 43, 0, 0, 0, 48, 0, 0, 0, 53, 0, 0, 0, 58]
abbrev dktX0_count_1 : List UInt8 := dkwX0_count_1 ++ dktX0_count_2
def dkwX0_count_0 : List UInt8 := [27]
abbrev dktX0_count_0 : List UInt8 := dkwX0_count_0 ++ dktX0_count_1
theorem dksX0_count_0 : cX0_count.data.toList.drop 0 = dktX0_count_0 := by decide +kernel
theorem dksX0_count_1 : cX0_count.data.toList.drop 1 = dktX0_count_1 := dk_seg dksX0_count_0 1 rfl rfl
theorem dksX0_count_2 : cX0_count.data.toList.drop 36 = dktX0_count_2 := dk_seg dksX0_count_1 35 rfl rfl
theorem dksX0_count_3 : cX0_count.data.toList.drop 60 = dktX0_count_3 := dk_seg dksX0_count_2 24 rfl rfl
theorem dX0_count_0 : decode cX0_count 0 = .ok (.iload_n 1, 1) := dk_27 (dk_at dksX0_count_0 0 rfl rfl)
theorem dX0_count_1 : decode cX0_count 1 = .ok (.tableswitch 66 0 4 #[35, 43, 48, 53, 58], 35) := by decide +kernel
theorem dX0_count_36 : decode cX0_count 36 = .ok (.aload_n 0, 1) := dk_42 (dk_at dksX0_count_2 0 rfl rfl)
theorem dX0_count_37 : decode cX0_count 37 = .ok (.getfield 27, 3) := dk_180 0 27 (dk_at dksX0_count_2 1 rfl rfl)
theorem dX0_count_40 : decode cX0_count 40 = .ok (.getfield 140, 3) := dk_180 0 140 (dk_at dksX0_count_2 4 rfl rfl)
theorem dX0_count_43 : decode cX0_count 43 = .ok (.ireturn, 1) := dk_172 (dk_at dksX0_count_2 7 rfl rfl)
theorem dX0_count_44 : decode cX0_count 44 = .ok (.aload_n 0, 1) := dk_42 (dk_at dksX0_count_2 8 rfl rfl)
theorem dX0_count_45 : decode cX0_count 45 = .ok (.getfield 127, 3) := dk_180 0 127 (dk_at dksX0_count_2 9 rfl rfl)
theorem dX0_count_48 : decode cX0_count 48 = .ok (.ireturn, 1) := dk_172 (dk_at dksX0_count_2 12 rfl rfl)
theorem dX0_count_49 : decode cX0_count 49 = .ok (.aload_n 0, 1) := dk_42 (dk_at dksX0_count_2 13 rfl rfl)
theorem dX0_count_50 : decode cX0_count 50 = .ok (.getfield 130, 3) := dk_180 0 130 (dk_at dksX0_count_2 14 rfl rfl)
theorem dX0_count_53 : decode cX0_count 53 = .ok (.ireturn, 1) := dk_172 (dk_at dksX0_count_2 17 rfl rfl)
theorem dX0_count_54 : decode cX0_count 54 = .ok (.aload_n 0, 1) := dk_42 (dk_at dksX0_count_2 18 rfl rfl)
theorem dX0_count_55 : decode cX0_count 55 = .ok (.getfield 96, 3) := dk_180 0 96 (dk_at dksX0_count_2 19 rfl rfl)
theorem dX0_count_58 : decode cX0_count 58 = .ok (.ireturn, 1) := dk_172 (dk_at dksX0_count_2 22 rfl rfl)
theorem dX0_count_59 : decode cX0_count 59 = .ok (.aload_n 0, 1) := dk_42 (dk_at dksX0_count_2 23 rfl rfl)
theorem dX0_count_60 : decode cX0_count 60 = .ok (.getfield 34, 3) := dk_180 0 34 (dk_at dksX0_count_3 0 rfl rfl)
theorem dX0_count_63 : decode cX0_count 63 = .ok (.getfield 234, 3) := dk_180 0 234 (dk_at dksX0_count_3 3 rfl rfl)
theorem dX0_count_66 : decode cX0_count 66 = .ok (.ireturn, 1) := dk_172 (dk_at dksX0_count_3 6 rfl rfl)
theorem dX0_count_67 : decode cX0_count 67 = .ok (.iconst (-1), 1) := dk_2 (dk_at dksX0_count_3 7 rfl rfl)
theorem dX0_count_68 : decode cX0_count 68 = .ok (.ireturn, 1) := dk_172 (dk_at dksX0_count_3 8 rfl rfl)
theorem q70 : (Jvm.Cond.initialized "SlimeNet") ∈ lw_all := lw_g (lw_at lw_m1 1 rfl) rfl
theorem q94 : (Jvm.Cond.instantiable "SlimeNet" (31 : Nat)) ∈ lw_all := lw_g (lw_at lw_m1 25 rfl) rfl
theorem q96 : (Jvm.Cond.instanceMethod ({ cls := "SlimeNet", name := "<init>", desc := "()V" } : Jvm.MethodName)) ∈ lw_all := lw_g (lw_at lw_m1 27 rfl) rfl
theorem q97 : (Jvm.Cond.code ({ cls := "SlimeNet", name := "<init>", desc := "()V" } : Jvm.MethodName) prog_1_method_2_code (2 : Nat) (Option.none : Option Jvm.ClassFile.FieldType)) ∈ lw_all := lw_g (lw_at lw_m1 28 rfl) rfl
theorem q98 : (Jvm.Cond.methodLink "SlimeNet" (1 : Nat) ({ cls := "java/lang/Object", name := "<init>", desc := "()V" } : Jvm.MethodName)) ∈ lw_all := lw_g (lw_at lw_m1 29 rfl) rfl
theorem q101 : (Jvm.Cond.classLink "SlimeNet" (7 : Nat) "SlimeNet$Wrong") ∈ lw_all := lw_g (lw_at lw_m1 32 rfl) rfl
theorem q138 : (Jvm.Cond.methodLink "SlimeNet" (9 : Nat) ({ cls := "SlimeNet$Wrong", name := "<init>", desc := "()V" } : Jvm.MethodName)) ∈ lw_all := lw_g (lw_at lw_m1 69 rfl) rfl
theorem q148 : (Jvm.Cond.fieldLinkNest "SlimeNet" (115 : Nat) "SlimeNet$Wrong" "kind" "I" "SlimeNet") ∈ lw_tbl := lw_at lw_m1 79 rfl
theorem q150 : (Jvm.Cond.fieldLinkNest "SlimeNet" (118 : Nat) "SlimeNet$Wrong" "place" "I" "SlimeNet") ∈ lw_tbl := lw_at lw_m1 81 rfl
theorem q168 : (Jvm.Cond.classLink "SlimeNet" (24 : Nat) "SlimeNet$Plate") ∈ lw_all := lw_g (lw_at lw_m1 99 rfl) rfl
theorem q170 : (Jvm.Cond.methodLinkNest "SlimeNet" (26 : Nat) ({ cls := "SlimeNet$Plate", name := "<init>", desc := "()V" } : Jvm.MethodName) "SlimeNet") ∈ lw_tbl := lw_at lw_m1 101 rfl
theorem q207 : (Jvm.Cond.fieldLinkNest "SlimeNet" (143 : Nat) "SlimeNet$Plate" "pipes" "Ljava/util/ArrayList;" "SlimeNet") ∈ lw_tbl := lw_at lw_m1 138 rfl
theorem q211 : (Jvm.Cond.fieldLinkNest "SlimeNet" (197 : Nat) "SlimeNet$Plate" "flakes" "[I" "SlimeNet") ∈ lw_tbl := lw_at lw_m1 142 rfl
theorem q215 : (Jvm.Cond.fieldLinkNest "SlimeNet" (157 : Nat) "SlimeNet$Plate" "spotMany" "I" "SlimeNet") ∈ lw_tbl := lw_at lw_m1 146 rfl
theorem q220 : (Jvm.Cond.fieldLinkNest "SlimeNet" (160 : Nat) "SlimeNet$Plate" "flakeMany" "I" "SlimeNet") ∈ lw_tbl := lw_at lw_m1 151 rfl
theorem q233 : (Jvm.Cond.fieldLinkNest "SlimeNet" (169 : Nat) "SlimeNet$Plate" "learn" "I" "SlimeNet") ∈ lw_tbl := lw_at lw_m1 164 rfl
theorem q235 : (Jvm.Cond.fieldLinkNest "SlimeNet" (140 : Nat) "SlimeNet$Plate" "clauses" "I" "SlimeNet") ∈ lw_tbl := lw_at lw_m1 166 rfl
theorem q260 : (Jvm.Cond.classLink "SlimeNet" (31 : Nat) "SlimeNet$Slime") ∈ lw_all := lw_g (lw_at lw_m1 191 rfl) rfl
theorem q262 : (Jvm.Cond.methodLinkNest "SlimeNet" (33 : Nat) ({ cls := "SlimeNet$Slime", name := "<init>", desc := "()V" } : Jvm.MethodName) "SlimeNet") ∈ lw_tbl := lw_at lw_m1 193 rfl
theorem q268 : (Jvm.Cond.fieldLinkNest "SlimeNet" (203 : Nat) "SlimeNet$Slime" "width" "[I" "SlimeNet") ∈ lw_tbl := lw_at lw_m1 199 rfl
theorem q270 : (Jvm.Cond.fieldLinkNest "SlimeNet" (206 : Nat) "SlimeNet$Slime" "count" "[I" "SlimeNet") ∈ lw_tbl := lw_at lw_m1 201 rfl
theorem q272 : (Jvm.Cond.fieldLinkNest "SlimeNet" (234 : Nat) "SlimeNet$Slime" "hour" "I" "SlimeNet") ∈ lw_tbl := lw_at lw_m1 203 rfl
theorem q274 : (Jvm.Cond.fieldLinkNest "SlimeNet" (163 : Nat) "SlimeNet$Slime" "up" "I" "SlimeNet") ∈ lw_tbl := lw_at lw_m1 205 rfl
theorem q276 : (Jvm.Cond.fieldLinkNest "SlimeNet" (166 : Nat) "SlimeNet$Slime" "down" "I" "SlimeNet") ∈ lw_tbl := lw_at lw_m1 207 rfl
theorem q282 : (Jvm.Cond.fieldLinkNest "SlimeNet" (220 : Nat) "SlimeNet$Slime" "flow" "[J" "SlimeNet") ∈ lw_tbl := lw_at lw_m1 213 rfl
theorem q284 : (Jvm.Cond.fieldLinkNest "SlimeNet" (223 : Nat) "SlimeNet$Slime" "under" "J" "SlimeNet") ∈ lw_tbl := lw_at lw_m1 215 rfl
theorem q314 : (Jvm.Cond.methodLink "SlimeNet" (92 : Nat) ({ cls := "SlimeNet$Slime", name := "begin", desc := "(LSlimeNet$Plate;)V" } : Jvm.MethodName)) ∈ lw_all := lw_g (lw_at lw_m2 5 rfl) rfl
theorem q322 : (Jvm.Cond.fieldLink "SlimeNet" (10 : Nat) "SlimeNet" "wrong" "LSlimeNet$Wrong;") ∈ lw_all := lw_g (lw_at lw_m2 13 rfl) rfl
theorem q325 : (Jvm.Cond.fieldLink "SlimeNet" (16 : Nat) "SlimeNet" "tape" "[B") ∈ lw_all := lw_g (lw_at lw_m2 16 rfl) rfl
theorem q326 : (Jvm.Cond.fieldLink "SlimeNet" (96 : Nat) "SlimeNet" "taped" "I") ∈ lw_all := lw_g (lw_at lw_m2 17 rfl) rfl
theorem q327 : (Jvm.Cond.fieldLink "SlimeNet" (103 : Nat) "SlimeNet" "faultKind" "I") ∈ lw_all := lw_g (lw_at lw_m2 18 rfl) rfl
theorem q328 : (Jvm.Cond.fieldLink "SlimeNet" (20 : Nat) "SlimeNet" "faultPlace" "I") ∈ lw_all := lw_g (lw_at lw_m2 19 rfl) rfl
theorem q329 : (Jvm.Cond.fieldLink "SlimeNet" (27 : Nat) "SlimeNet" "plate" "LSlimeNet$Plate;") ∈ lw_all := lw_g (lw_at lw_m2 20 rfl) rfl
theorem q330 : (Jvm.Cond.fieldLink "SlimeNet" (34 : Nat) "SlimeNet" "slime" "LSlimeNet$Slime;") ∈ lw_all := lw_g (lw_at lw_m2 21 rfl) rfl
theorem q331 : (Jvm.Cond.fieldLink "SlimeNet" (38 : Nat) "SlimeNet" "other" "LSlimeNet$Slime;") ∈ lw_all := lw_g (lw_at lw_m2 22 rfl) rfl
theorem q332 : (Jvm.Cond.fieldLink "SlimeNet" (41 : Nat) "SlimeNet" "slots" "[LSlimeNet$Slime;") ∈ lw_all := lw_g (lw_at lw_m2 23 rfl) rfl
theorem q333 : (Jvm.Cond.fieldLink "SlimeNet" (45 : Nat) "SlimeNet" "isKept" "[Z") ∈ lw_all := lw_g (lw_at lw_m2 24 rfl) rfl
theorem q334 : (Jvm.Cond.fieldLink "SlimeNet" (49 : Nat) "SlimeNet" "ring" "I") ∈ lw_all := lw_g (lw_at lw_m2 25 rfl) rfl
theorem q335 : (Jvm.Cond.fieldLink "SlimeNet" (52 : Nat) "SlimeNet" "begins" "[I") ∈ lw_all := lw_g (lw_at lw_m2 26 rfl) rfl
theorem q336 : (Jvm.Cond.fieldLink "SlimeNet" (136 : Nat) "SlimeNet" "isListed" "Z") ∈ lw_all := lw_g (lw_at lw_m2 27 rfl) rfl
theorem q337 : (Jvm.Cond.fieldLink "SlimeNet" (56 : Nat) "SlimeNet" "lengths" "[I") ∈ lw_all := lw_g (lw_at lw_m2 28 rfl) rfl
theorem q338 : (Jvm.Cond.fieldLink "SlimeNet" (59 : Nat) "SlimeNet" "sures" "[I") ∈ lw_all := lw_g (lw_at lw_m2 29 rfl) rfl
theorem q339 : (Jvm.Cond.fieldLink "SlimeNet" (62 : Nat) "SlimeNet" "goods" "[I") ∈ lw_all := lw_g (lw_at lw_m2 30 rfl) rfl
theorem q340 : (Jvm.Cond.fieldLink "SlimeNet" (276 : Nat) "SlimeNet" "nets" "I") ∈ lw_all := lw_g (lw_at lw_m2 31 rfl) rfl
theorem q341 : (Jvm.Cond.fieldLink "SlimeNet" (287 : Nat) "SlimeNet" "goodMany" "I") ∈ lw_all := lw_g (lw_at lw_m2 32 rfl) rfl
theorem q342 : (Jvm.Cond.fieldLink "SlimeNet" (127 : Nat) "SlimeNet" "seenMany" "I") ∈ lw_all := lw_g (lw_at lw_m2 33 rfl) rfl
theorem q343 : (Jvm.Cond.fieldLink "SlimeNet" (130 : Nat) "SlimeNet" "rightMany" "I") ∈ lw_all := lw_g (lw_at lw_m2 34 rfl) rfl
theorem q344 : (Jvm.Cond.fieldLink "SlimeNet" (133 : Nat) "SlimeNet" "latestTold" "I") ∈ lw_all := lw_g (lw_at lw_m2 35 rfl) rfl
theorem q345 : (Jvm.Cond.fieldLink "SlimeNet" (65 : Nat) "SlimeNet" "sTold" "[I") ∈ lw_all := lw_g (lw_at lw_m2 36 rfl) rfl
theorem q346 : (Jvm.Cond.fieldLink "SlimeNet" (68 : Nat) "SlimeNet" "sHour" "[I") ∈ lw_all := lw_g (lw_at lw_m2 37 rfl) rfl
theorem q347 : (Jvm.Cond.fieldLink "SlimeNet" (71 : Nat) "SlimeNet" "sNet" "[I") ∈ lw_all := lw_g (lw_at lw_m2 38 rfl) rfl
theorem q348 : (Jvm.Cond.fieldLink "SlimeNet" (74 : Nat) "SlimeNet" "rTold" "[I") ∈ lw_all := lw_g (lw_at lw_m2 39 rfl) rfl
theorem q349 : (Jvm.Cond.fieldLink "SlimeNet" (77 : Nat) "SlimeNet" "rOf" "[I") ∈ lw_all := lw_g (lw_at lw_m2 40 rfl) rfl
theorem q350 : (Jvm.Cond.fieldLink "SlimeNet" (80 : Nat) "SlimeNet" "rNet" "[I") ∈ lw_all := lw_g (lw_at lw_m2 41 rfl) rfl
theorem q351 : (Jvm.Cond.fieldLink "SlimeNet" (83 : Nat) "SlimeNet" "known" "[I") ∈ lw_all := lw_g (lw_at lw_m2 42 rfl) rfl
theorem q352 : (Jvm.Cond.fieldLink "SlimeNet" (86 : Nat) "SlimeNet" "tracks" "[I") ∈ lw_all := lw_g (lw_at lw_m2 43 rfl) rfl
theorem q353 : (Jvm.Cond.fieldLink "SlimeNet" (89 : Nat) "SlimeNet" "fitting" "[I") ∈ lw_all := lw_g (lw_at lw_m2 44 rfl) rfl
theorem q354 : (Jvm.Cond.fieldLink "SlimeNet" (319 : Nat) "SlimeNet" "fitMany" "I") ∈ lw_all := lw_g (lw_at lw_m2 45 rfl) rfl
theorem q355 : (Jvm.Cond.laysFinal "SlimeNet" "SlimeNet" "wrong" "LSlimeNet$Wrong;") ∈ lw_all := lw_g (lw_at lw_m2 46 rfl) rfl
theorem q356 : (Jvm.Cond.soleField "SlimeNet" "wrong") ∈ lw_all := lw_g (lw_at lw_m2 47 rfl) rfl
theorem q357 : (Jvm.Cond.laysFinal "SlimeNet" "SlimeNet" "tape" "[B") ∈ lw_all := lw_g (lw_at lw_m2 48 rfl) rfl
theorem q358 : (Jvm.Cond.soleField "SlimeNet" "tape") ∈ lw_all := lw_g (lw_at lw_m2 49 rfl) rfl
theorem q359 : (Jvm.Cond.lays "SlimeNet" "SlimeNet" "taped" "I") ∈ lw_all := lw_g (lw_at lw_m2 50 rfl) rfl
theorem q360 : (Jvm.Cond.soleField "SlimeNet" "taped") ∈ lw_all := lw_g (lw_at lw_m2 51 rfl) rfl
theorem q361 : (Jvm.Cond.lays "SlimeNet" "SlimeNet" "faultKind" "I") ∈ lw_all := lw_g (lw_at lw_m2 52 rfl) rfl
theorem q362 : (Jvm.Cond.soleField "SlimeNet" "faultKind") ∈ lw_all := lw_g (lw_at lw_m2 53 rfl) rfl
theorem q363 : (Jvm.Cond.lays "SlimeNet" "SlimeNet" "faultPlace" "I") ∈ lw_all := lw_g (lw_at lw_m2 54 rfl) rfl
theorem q364 : (Jvm.Cond.soleField "SlimeNet" "faultPlace") ∈ lw_all := lw_g (lw_at lw_m2 55 rfl) rfl
theorem q365 : (Jvm.Cond.lays "SlimeNet" "SlimeNet" "plate" "LSlimeNet$Plate;") ∈ lw_all := lw_g (lw_at lw_m2 56 rfl) rfl
theorem q366 : (Jvm.Cond.soleField "SlimeNet" "plate") ∈ lw_all := lw_g (lw_at lw_m2 57 rfl) rfl
theorem q367 : (Jvm.Cond.laysFinal "SlimeNet" "SlimeNet" "slime" "LSlimeNet$Slime;") ∈ lw_all := lw_g (lw_at lw_m2 58 rfl) rfl
theorem q368 : (Jvm.Cond.soleField "SlimeNet" "slime") ∈ lw_all := lw_g (lw_at lw_m2 59 rfl) rfl
theorem q369 : (Jvm.Cond.laysFinal "SlimeNet" "SlimeNet" "other" "LSlimeNet$Slime;") ∈ lw_all := lw_g (lw_at lw_m2 60 rfl) rfl
theorem q370 : (Jvm.Cond.soleField "SlimeNet" "other") ∈ lw_all := lw_g (lw_at lw_m2 61 rfl) rfl
theorem q371 : (Jvm.Cond.laysFinal "SlimeNet" "SlimeNet" "slots" "[LSlimeNet$Slime;") ∈ lw_all := lw_g (lw_at lw_m2 62 rfl) rfl
theorem q372 : (Jvm.Cond.soleField "SlimeNet" "slots") ∈ lw_all := lw_g (lw_at lw_m2 63 rfl) rfl
theorem q373 : (Jvm.Cond.laysFinal "SlimeNet" "SlimeNet" "isKept" "[Z") ∈ lw_all := lw_g (lw_at lw_m2 64 rfl) rfl
theorem q374 : (Jvm.Cond.soleField "SlimeNet" "isKept") ∈ lw_all := lw_g (lw_at lw_m2 65 rfl) rfl
theorem q375 : (Jvm.Cond.lays "SlimeNet" "SlimeNet" "ring" "I") ∈ lw_all := lw_g (lw_at lw_m2 66 rfl) rfl
theorem q376 : (Jvm.Cond.soleField "SlimeNet" "ring") ∈ lw_all := lw_g (lw_at lw_m2 67 rfl) rfl
theorem q377 : (Jvm.Cond.laysFinal "SlimeNet" "SlimeNet" "begins" "[I") ∈ lw_all := lw_g (lw_at lw_m2 68 rfl) rfl
theorem q378 : (Jvm.Cond.soleField "SlimeNet" "begins") ∈ lw_all := lw_g (lw_at lw_m2 69 rfl) rfl
theorem q379 : (Jvm.Cond.lays "SlimeNet" "SlimeNet" "isListed" "Z") ∈ lw_all := lw_g (lw_at lw_m2 70 rfl) rfl
theorem q380 : (Jvm.Cond.soleField "SlimeNet" "isListed") ∈ lw_all := lw_g (lw_at lw_m2 71 rfl) rfl
theorem q381 : (Jvm.Cond.laysFinal "SlimeNet" "SlimeNet" "lengths" "[I") ∈ lw_all := lw_g (lw_at lw_m2 72 rfl) rfl
theorem q382 : (Jvm.Cond.soleField "SlimeNet" "lengths") ∈ lw_all := lw_g (lw_at lw_m2 73 rfl) rfl
theorem q383 : (Jvm.Cond.laysFinal "SlimeNet" "SlimeNet" "sures" "[I") ∈ lw_all := lw_g (lw_at lw_m2 74 rfl) rfl
theorem q384 : (Jvm.Cond.soleField "SlimeNet" "sures") ∈ lw_all := lw_g (lw_at lw_m2 75 rfl) rfl
theorem q385 : (Jvm.Cond.laysFinal "SlimeNet" "SlimeNet" "goods" "[I") ∈ lw_all := lw_g (lw_at lw_m2 76 rfl) rfl
theorem q386 : (Jvm.Cond.soleField "SlimeNet" "goods") ∈ lw_all := lw_g (lw_at lw_m2 77 rfl) rfl
theorem q387 : (Jvm.Cond.lays "SlimeNet" "SlimeNet" "nets" "I") ∈ lw_all := lw_g (lw_at lw_m2 78 rfl) rfl
theorem q388 : (Jvm.Cond.soleField "SlimeNet" "nets") ∈ lw_all := lw_g (lw_at lw_m2 79 rfl) rfl
theorem q389 : (Jvm.Cond.lays "SlimeNet" "SlimeNet" "goodMany" "I") ∈ lw_all := lw_g (lw_at lw_m2 80 rfl) rfl
theorem q390 : (Jvm.Cond.soleField "SlimeNet" "goodMany") ∈ lw_all := lw_g (lw_at lw_m2 81 rfl) rfl
theorem q391 : (Jvm.Cond.lays "SlimeNet" "SlimeNet" "seenMany" "I") ∈ lw_all := lw_g (lw_at lw_m2 82 rfl) rfl
theorem q392 : (Jvm.Cond.soleField "SlimeNet" "seenMany") ∈ lw_all := lw_g (lw_at lw_m2 83 rfl) rfl
theorem q393 : (Jvm.Cond.lays "SlimeNet" "SlimeNet" "rightMany" "I") ∈ lw_all := lw_g (lw_at lw_m2 84 rfl) rfl
theorem q394 : (Jvm.Cond.soleField "SlimeNet" "rightMany") ∈ lw_all := lw_g (lw_at lw_m2 85 rfl) rfl
theorem q395 : (Jvm.Cond.lays "SlimeNet" "SlimeNet" "latestTold" "I") ∈ lw_all := lw_g (lw_at lw_m2 86 rfl) rfl
theorem q396 : (Jvm.Cond.soleField "SlimeNet" "latestTold") ∈ lw_all := lw_g (lw_at lw_m2 87 rfl) rfl
theorem q397 : (Jvm.Cond.laysFinal "SlimeNet" "SlimeNet" "sTold" "[I") ∈ lw_all := lw_g (lw_at lw_m2 88 rfl) rfl
theorem q398 : (Jvm.Cond.soleField "SlimeNet" "sTold") ∈ lw_all := lw_g (lw_at lw_m2 89 rfl) rfl
theorem q399 : (Jvm.Cond.laysFinal "SlimeNet" "SlimeNet" "sHour" "[I") ∈ lw_all := lw_g (lw_at lw_m2 90 rfl) rfl
theorem q400 : (Jvm.Cond.soleField "SlimeNet" "sHour") ∈ lw_all := lw_g (lw_at lw_m2 91 rfl) rfl
theorem q401 : (Jvm.Cond.laysFinal "SlimeNet" "SlimeNet" "sNet" "[I") ∈ lw_all := lw_g (lw_at lw_m2 92 rfl) rfl
theorem q402 : (Jvm.Cond.soleField "SlimeNet" "sNet") ∈ lw_all := lw_g (lw_at lw_m2 93 rfl) rfl
theorem q403 : (Jvm.Cond.laysFinal "SlimeNet" "SlimeNet" "rTold" "[I") ∈ lw_all := lw_g (lw_at lw_m2 94 rfl) rfl
theorem q404 : (Jvm.Cond.soleField "SlimeNet" "rTold") ∈ lw_all := lw_g (lw_at lw_m2 95 rfl) rfl
theorem q405 : (Jvm.Cond.laysFinal "SlimeNet" "SlimeNet" "rOf" "[I") ∈ lw_all := lw_g (lw_at lw_m2 96 rfl) rfl
theorem q406 : (Jvm.Cond.soleField "SlimeNet" "rOf") ∈ lw_all := lw_g (lw_at lw_m2 97 rfl) rfl
theorem q407 : (Jvm.Cond.laysFinal "SlimeNet" "SlimeNet" "rNet" "[I") ∈ lw_all := lw_g (lw_at lw_m2 98 rfl) rfl
theorem q408 : (Jvm.Cond.soleField "SlimeNet" "rNet") ∈ lw_all := lw_g (lw_at lw_m2 99 rfl) rfl
theorem q409 : (Jvm.Cond.laysFinal "SlimeNet" "SlimeNet" "known" "[I") ∈ lw_all := lw_g (lw_at lw_m2 100 rfl) rfl
theorem q410 : (Jvm.Cond.soleField "SlimeNet" "known") ∈ lw_all := lw_g (lw_at lw_m2 101 rfl) rfl
theorem q411 : (Jvm.Cond.laysFinal "SlimeNet" "SlimeNet" "tracks" "[I") ∈ lw_all := lw_g (lw_at lw_m2 102 rfl) rfl
theorem q412 : (Jvm.Cond.soleField "SlimeNet" "tracks") ∈ lw_all := lw_g (lw_at lw_m2 103 rfl) rfl
theorem q413 : (Jvm.Cond.laysFinal "SlimeNet" "SlimeNet" "fitting" "[I") ∈ lw_all := lw_g (lw_at lw_m2 104 rfl) rfl
theorem q414 : (Jvm.Cond.soleField "SlimeNet" "fitting") ∈ lw_all := lw_g (lw_at lw_m2 105 rfl) rfl
theorem q415 : (Jvm.Cond.lays "SlimeNet" "SlimeNet" "fitMany" "I") ∈ lw_all := lw_g (lw_at lw_m2 106 rfl) rfl
theorem q416 : (Jvm.Cond.soleField "SlimeNet" "fitMany") ∈ lw_all := lw_g (lw_at lw_m2 107 rfl) rfl
theorem q417 : (Jvm.Cond.superclass "SlimeNet" "java/lang/Object") ∈ lw_all := lw_g (lw_at lw_m2 108 rfl) rfl
theorem q420 : (Jvm.Cond.instanceMethod ({ cls := "SlimeNet", name := "feed", desc := "(IIIII)I" } : Jvm.MethodName)) ∈ lw_all := lw_g (lw_at lw_m2 111 rfl) rfl
theorem q421 : (Jvm.Cond.selects "SlimeNet" ({ cls := "SlimeNet", name := "feed", desc := "(IIIII)I" } : Jvm.MethodName) ({ cls := "SlimeNet", name := "feed", desc := "(IIIII)I" } : Jvm.MethodName)) ∈ lw_all := lw_g (lw_at lw_m2 112 rfl) rfl
theorem q422 : (Jvm.Cond.code ({ cls := "SlimeNet", name := "feed", desc := "(IIIII)I" } : Jvm.MethodName) prog_1_method_4_code (6 : Nat) (Option.some Jvm.ClassFile.FieldType.int)) ∈ lw_all := lw_g (lw_at lw_m2 113 rfl) rfl
theorem q423 : (Jvm.Cond.methodLink "SlimeNet" (99 : Nat) ({ cls := "SlimeNet", name := "four", desc := "(I)V" } : Jvm.MethodName)) ∈ lw_all := lw_g (lw_at lw_m2 114 rfl) rfl
theorem q424 : (Jvm.Cond.privateMethod ({ cls := "SlimeNet", name := "four", desc := "(I)V" } : Jvm.MethodName)) ∈ lw_tbl := lw_at lw_m2 115 rfl
theorem q425 : (Jvm.Cond.instanceMethod ({ cls := "SlimeNet", name := "four", desc := "(I)V" } : Jvm.MethodName)) ∈ lw_all := lw_g (lw_at lw_m2 116 rfl) rfl
theorem q426 : (Jvm.Cond.code ({ cls := "SlimeNet", name := "four", desc := "(I)V" } : Jvm.MethodName) prog_1_method_3_code (3 : Nat) (Option.none : Option Jvm.ClassFile.FieldType)) ∈ lw_all := lw_g (lw_at lw_m2 117 rfl) rfl
theorem q428 : (Jvm.Cond.instanceMethod ({ cls := "SlimeNet", name := "end", desc := "(I)I" } : Jvm.MethodName)) ∈ lw_all := lw_g (lw_at lw_m2 119 rfl) rfl
theorem q429 : (Jvm.Cond.selects "SlimeNet" ({ cls := "SlimeNet", name := "end", desc := "(I)I" } : Jvm.MethodName) ({ cls := "SlimeNet", name := "end", desc := "(I)I" } : Jvm.MethodName)) ∈ lw_all := lw_g (lw_at lw_m2 120 rfl) rfl
theorem q430 : (Jvm.Cond.code ({ cls := "SlimeNet", name := "end", desc := "(I)I" } : Jvm.MethodName) prog_1_method_5_code (2 : Nat) (Option.some Jvm.ClassFile.FieldType.int)) ∈ lw_all := lw_g (lw_at lw_m2 121 rfl) rfl
theorem q432 : (Jvm.Cond.instanceMethod ({ cls := "SlimeNet", name := "plate", desc := "()I" } : Jvm.MethodName)) ∈ lw_all := lw_g (lw_at lw_m2 123 rfl) rfl
theorem q433 : (Jvm.Cond.selects "SlimeNet" ({ cls := "SlimeNet", name := "plate", desc := "()I" } : Jvm.MethodName) ({ cls := "SlimeNet", name := "plate", desc := "()I" } : Jvm.MethodName)) ∈ lw_all := lw_g (lw_at lw_m2 124 rfl) rfl
theorem q434 : (Jvm.Cond.codeWith ({ cls := "SlimeNet", name := "plate", desc := "()I" } : Jvm.MethodName) prog_1_method_6_code (3 : Nat) (Option.some Jvm.ClassFile.FieldType.int) [((20 : Nat), (36 : Nat), (39 : Nat), (7 : Nat))]) ∈ lw_all := lw_g (lw_at lw_m2 125 rfl) rfl
theorem q435 : (Jvm.Cond.classLink "SlimeNet" (106 : Nat) "SlimeNet$PlateReader") ∈ lw_all := lw_g (lw_at lw_m2 126 rfl) rfl
theorem q437 : (Jvm.Cond.methodLink "SlimeNet" (108 : Nat) ({ cls := "SlimeNet$PlateReader", name := "<init>", desc := "(LSlimeNet;I)V" } : Jvm.MethodName)) ∈ lw_all := lw_g (lw_at lw_m2 128 rfl) rfl
theorem q492 : (Jvm.Cond.methodLink "SlimeNet" (111 : Nat) ({ cls := "SlimeNet$PlateReader", name := "read", desc := "()LSlimeNet$Plate;" } : Jvm.MethodName)) ∈ lw_all := lw_g (lw_at lw_m2 183 rfl) rfl
theorem q633 : (Jvm.Cond.static ({ cls := "SlimeNet", name := "in", desc := "(III)Z" } : Jvm.MethodName)) ∈ lw_all := lw_g (lw_at lw_m3 84 rfl) rfl
theorem q634 : (Jvm.Cond.code ({ cls := "SlimeNet", name := "in", desc := "(III)Z" } : Jvm.MethodName) prog_1_method_1_code (3 : Nat) (Option.some Jvm.ClassFile.FieldType.boolean)) ∈ lw_all := lw_g (lw_at lw_m3 85 rfl) rfl
theorem q645 : (Jvm.Cond.fieldLinkNest "SlimeNet" (191 : Nat) "SlimeNet$Pipe" "one" "I" "SlimeNet") ∈ lw_tbl := lw_at lw_m3 96 rfl
theorem q649 : (Jvm.Cond.fieldLinkNest "SlimeNet" (194 : Nat) "SlimeNet$Pipe" "two" "I" "SlimeNet") ∈ lw_tbl := lw_at lw_m3 100 rfl
theorem q654 : (Jvm.Cond.fieldLinkNest "SlimeNet" (188 : Nat) "SlimeNet$Pipe" "length" "I" "SlimeNet") ∈ lw_tbl := lw_at lw_m3 105 rfl
theorem q657 : (Jvm.Cond.fieldLinkNest "SlimeNet" (200 : Nat) "SlimeNet$Pipe" "isSalted" "Z" "SlimeNet") ∈ lw_tbl := lw_at lw_m3 108 rfl
theorem q701 : (Jvm.Cond.selects "SlimeNet" ({ cls := "java/lang/Object", name := "getClass", desc := "()Ljava/lang/Class;" } : Jvm.MethodName) ({ cls := "java/lang/Object", name := "getClass", desc := "()Ljava/lang/Class;" } : Jvm.MethodName)) ∈ lw_all := lw_g (lw_at lw_m3 152 rfl) rfl
theorem q754 : (Jvm.Cond.methodLink "SlimeNet" (121 : Nat) ({ cls := "java/util/Arrays", name := "fill", desc := "([ZZ)V" } : Jvm.MethodName)) ∈ lw_all := lw_g (lw_at lw_m3 205 rfl) rfl
theorem q758 : (Jvm.Cond.instanceMethod ({ cls := "SlimeNet", name := "fault", desc := "(I)I" } : Jvm.MethodName)) ∈ lw_all := lw_g (lw_at lw_m3 209 rfl) rfl
theorem q759 : (Jvm.Cond.selects "SlimeNet" ({ cls := "SlimeNet", name := "fault", desc := "(I)I" } : Jvm.MethodName) ({ cls := "SlimeNet", name := "fault", desc := "(I)I" } : Jvm.MethodName)) ∈ lw_all := lw_g (lw_at lw_m3 210 rfl) rfl
theorem q760 : (Jvm.Cond.code ({ cls := "SlimeNet", name := "fault", desc := "(I)I" } : Jvm.MethodName) prog_1_method_7_code (2 : Nat) (Option.some Jvm.ClassFile.FieldType.int)) ∈ lw_all := lw_g (lw_at lw_m3 211 rfl) rfl
theorem q762 : (Jvm.Cond.instanceMethod ({ cls := "SlimeNet", name := "told", desc := "(I)I" } : Jvm.MethodName)) ∈ lw_all := lw_g (lw_at lw_m3 213 rfl) rfl
theorem q763 : (Jvm.Cond.selects "SlimeNet" ({ cls := "SlimeNet", name := "told", desc := "(I)I" } : Jvm.MethodName) ({ cls := "SlimeNet", name := "told", desc := "(I)I" } : Jvm.MethodName)) ∈ lw_all := lw_g (lw_at lw_m3 214 rfl) rfl
theorem q764 : (Jvm.Cond.code ({ cls := "SlimeNet", name := "told", desc := "(I)I" } : Jvm.MethodName) prog_1_method_9_code (2 : Nat) (Option.some Jvm.ClassFile.FieldType.int)) ∈ lw_all := lw_g (lw_at lw_m3 215 rfl) rfl
theorem q765 : (Jvm.Cond.methodLink "SlimeNet" (147 : Nat) ({ cls := "java/util/ArrayList", name := "size", desc := "()I" } : Jvm.MethodName)) ∈ lw_all := lw_g (lw_at lw_m3 216 rfl) rfl
theorem q766 : (Jvm.Cond.methodLink "SlimeNet" (172 : Nat) ({ cls := "SlimeNet$Plate", name := "pairs", desc := "()I" } : Jvm.MethodName)) ∈ lw_all := lw_g (lw_at lw_m3 217 rfl) rfl
theorem q770 : (Jvm.Cond.methodLink "SlimeNet" (175 : Nat) ({ cls := "SlimeNet", name := "salted", desc := "()I" } : Jvm.MethodName)) ∈ lw_all := lw_g (lw_at lw_m3 221 rfl) rfl
theorem q771 : (Jvm.Cond.privateMethod ({ cls := "SlimeNet", name := "salted", desc := "()I" } : Jvm.MethodName)) ∈ lw_tbl := lw_at lw_m3 222 rfl
theorem q772 : (Jvm.Cond.instanceMethod ({ cls := "SlimeNet", name := "salted", desc := "()I" } : Jvm.MethodName)) ∈ lw_all := lw_g (lw_at lw_m3 223 rfl) rfl
theorem q773 : (Jvm.Cond.code ({ cls := "SlimeNet", name := "salted", desc := "()I" } : Jvm.MethodName) prog_1_method_10_code (3 : Nat) (Option.some Jvm.ClassFile.FieldType.int)) ∈ lw_all := lw_g (lw_at lw_m3 224 rfl) rfl
theorem q774 : (Jvm.Cond.methodLink "SlimeNet" (182 : Nat) ({ cls := "java/util/ArrayList", name := "get", desc := "(I)Ljava/lang/Object;" } : Jvm.MethodName)) ∈ lw_all := lw_g (lw_at lw_m3 225 rfl) rfl
theorem q775 : (Jvm.Cond.classLink "SlimeNet" (186 : Nat) "SlimeNet$Pipe") ∈ lw_all := lw_g (lw_at lw_m3 226 rfl) rfl
theorem q776 : (Jvm.Cond.methodLink "SlimeNet" (178 : Nat) ({ cls := "SlimeNet", name := "isPipe", desc := "(I)Z" } : Jvm.MethodName)) ∈ lw_all := lw_g (lw_at lw_m3 227 rfl) rfl
theorem q777 : (Jvm.Cond.privateMethod ({ cls := "SlimeNet", name := "isPipe", desc := "(I)Z" } : Jvm.MethodName)) ∈ lw_tbl := lw_at lw_m3 228 rfl
theorem q778 : (Jvm.Cond.instanceMethod ({ cls := "SlimeNet", name := "isPipe", desc := "(I)Z" } : Jvm.MethodName)) ∈ lw_all := lw_g (lw_at lw_m3 229 rfl) rfl
theorem q779 : (Jvm.Cond.code ({ cls := "SlimeNet", name := "isPipe", desc := "(I)Z" } : Jvm.MethodName) prog_1_method_8_code (2 : Nat) (Option.some Jvm.ClassFile.FieldType.boolean)) ∈ lw_all := lw_g (lw_at lw_m3 230 rfl) rfl
theorem q780 : (Jvm.Cond.methodLink "SlimeNet" (153 : Nat) ({ cls := "SlimeNet", name := "in", desc := "(III)Z" } : Jvm.MethodName)) ∈ lw_all := lw_g (lw_at lw_m3 231 rfl) rfl
theorem q782 : (Jvm.Cond.instanceMethod ({ cls := "SlimeNet", name := "width", desc := "(I)I" } : Jvm.MethodName)) ∈ lw_all := lw_g (lw_at lw_m3 233 rfl) rfl
theorem q783 : (Jvm.Cond.selects "SlimeNet" ({ cls := "SlimeNet", name := "width", desc := "(I)I" } : Jvm.MethodName) ({ cls := "SlimeNet", name := "width", desc := "(I)I" } : Jvm.MethodName)) ∈ lw_all := lw_g (lw_at lw_m3 234 rfl) rfl
theorem q784 : (Jvm.Cond.code ({ cls := "SlimeNet", name := "width", desc := "(I)I" } : Jvm.MethodName) prog_1_method_11_code (2 : Nat) (Option.some Jvm.ClassFile.FieldType.int)) ∈ lw_all := lw_g (lw_at lw_m3 235 rfl) rfl
theorem q786 : (Jvm.Cond.instanceMethod ({ cls := "SlimeNet", name := "learnt", desc := "(I)I" } : Jvm.MethodName)) ∈ lw_all := lw_g (lw_at lw_m3 237 rfl) rfl
theorem q787 : (Jvm.Cond.selects "SlimeNet" ({ cls := "SlimeNet", name := "learnt", desc := "(I)I" } : Jvm.MethodName) ({ cls := "SlimeNet", name := "learnt", desc := "(I)I" } : Jvm.MethodName)) ∈ lw_all := lw_g (lw_at lw_m3 238 rfl) rfl
theorem q788 : (Jvm.Cond.code ({ cls := "SlimeNet", name := "learnt", desc := "(I)I" } : Jvm.MethodName) prog_1_method_12_code (2 : Nat) (Option.some Jvm.ClassFile.FieldType.int)) ∈ lw_all := lw_g (lw_at lw_m3 239 rfl) rfl
theorem q790 : (Jvm.Cond.instanceMethod ({ cls := "SlimeNet", name := "set", desc := "(II)I" } : Jvm.MethodName)) ∈ lw_all := lw_g (lw_at lw_m4 1 rfl) rfl
theorem q791 : (Jvm.Cond.selects "SlimeNet" ({ cls := "SlimeNet", name := "set", desc := "(II)I" } : Jvm.MethodName) ({ cls := "SlimeNet", name := "set", desc := "(II)I" } : Jvm.MethodName)) ∈ lw_all := lw_g (lw_at lw_m4 2 rfl) rfl
theorem q792 : (Jvm.Cond.code ({ cls := "SlimeNet", name := "set", desc := "(II)I" } : Jvm.MethodName) prog_1_method_13_code (4 : Nat) (Option.some Jvm.ClassFile.FieldType.int)) ∈ lw_all := lw_g (lw_at lw_m4 3 rfl) rfl
theorem q794 : (Jvm.Cond.instanceMethod ({ cls := "SlimeNet", name := "law", desc := "(II)I" } : Jvm.MethodName)) ∈ lw_all := lw_g (lw_at lw_m4 5 rfl) rfl
theorem q795 : (Jvm.Cond.selects "SlimeNet" ({ cls := "SlimeNet", name := "law", desc := "(II)I" } : Jvm.MethodName) ({ cls := "SlimeNet", name := "law", desc := "(II)I" } : Jvm.MethodName)) ∈ lw_all := lw_g (lw_at lw_m4 6 rfl) rfl
theorem q796 : (Jvm.Cond.code ({ cls := "SlimeNet", name := "law", desc := "(II)I" } : Jvm.MethodName) prog_1_method_14_code (3 : Nat) (Option.some Jvm.ClassFile.FieldType.int)) ∈ lw_all := lw_g (lw_at lw_m4 7 rfl) rfl
theorem q798 : (Jvm.Cond.instanceMethod ({ cls := "SlimeNet", name := "flow", desc := "(I)J" } : Jvm.MethodName)) ∈ lw_all := lw_g (lw_at lw_m4 9 rfl) rfl
theorem q799 : (Jvm.Cond.selects "SlimeNet" ({ cls := "SlimeNet", name := "flow", desc := "(I)J" } : Jvm.MethodName) ({ cls := "SlimeNet", name := "flow", desc := "(I)J" } : Jvm.MethodName)) ∈ lw_all := lw_g (lw_at lw_m4 10 rfl) rfl
theorem q800 : (Jvm.Cond.code ({ cls := "SlimeNet", name := "flow", desc := "(I)J" } : Jvm.MethodName) prog_1_method_16_code (2 : Nat) (Option.some Jvm.ClassFile.FieldType.long)) ∈ lw_all := lw_g (lw_at lw_m4 11 rfl) rfl
theorem q801 : (Jvm.Cond.constantLong "SlimeNet" (215 : Nat) (-9000000000000000000 : Int64)) ∈ lw_all := lw_g (lw_at lw_m4 12 rfl) rfl
theorem q802 : (Jvm.Cond.methodLink "SlimeNet" (217 : Nat) ({ cls := "SlimeNet$Slime", name := "flow", desc := "()V" } : Jvm.MethodName)) ∈ lw_all := lw_g (lw_at lw_m4 13 rfl) rfl
theorem q840 : (Jvm.Cond.methodLink "SlimeNet" (227 : Nat) ({ cls := "SlimeNet", name := "common", desc := "(JJ)J" } : Jvm.MethodName)) ∈ lw_all := lw_g (lw_at lw_m4 51 rfl) rfl
theorem q841 : (Jvm.Cond.static ({ cls := "SlimeNet", name := "common", desc := "(JJ)J" } : Jvm.MethodName)) ∈ lw_all := lw_g (lw_at lw_m4 52 rfl) rfl
theorem q842 : (Jvm.Cond.code ({ cls := "SlimeNet", name := "common", desc := "(JJ)J" } : Jvm.MethodName) prog_1_method_15_code (10 : Nat) (Option.some Jvm.ClassFile.FieldType.long)) ∈ lw_all := lw_g (lw_at lw_m4 53 rfl) rfl
theorem q843 : (Jvm.Cond.methodLink "SlimeNet" (209 : Nat) ({ cls := "java/lang/Math", name := "abs", desc := "(J)J" } : Jvm.MethodName)) ∈ lw_all := lw_g (lw_at lw_m4 54 rfl) rfl
theorem q847 : (Jvm.Cond.instanceMethod ({ cls := "SlimeNet", name := "under", desc := "(I)J" } : Jvm.MethodName)) ∈ lw_all := lw_g (lw_at lw_m4 58 rfl) rfl
theorem q848 : (Jvm.Cond.selects "SlimeNet" ({ cls := "SlimeNet", name := "under", desc := "(I)J" } : Jvm.MethodName) ({ cls := "SlimeNet", name := "under", desc := "(I)J" } : Jvm.MethodName)) ∈ lw_all := lw_g (lw_at lw_m4 59 rfl) rfl
theorem q849 : (Jvm.Cond.code ({ cls := "SlimeNet", name := "under", desc := "(I)J" } : Jvm.MethodName) prog_1_method_17_code (2 : Nat) (Option.some Jvm.ClassFile.FieldType.long)) ∈ lw_all := lw_g (lw_at lw_m4 60 rfl) rfl
theorem q851 : (Jvm.Cond.instanceMethod ({ cls := "SlimeNet", name := "hours", desc := "(I)I" } : Jvm.MethodName)) ∈ lw_all := lw_g (lw_at lw_m4 62 rfl) rfl
theorem q852 : (Jvm.Cond.selects "SlimeNet" ({ cls := "SlimeNet", name := "hours", desc := "(I)I" } : Jvm.MethodName) ({ cls := "SlimeNet", name := "hours", desc := "(I)I" } : Jvm.MethodName)) ∈ lw_all := lw_g (lw_at lw_m4 63 rfl) rfl
theorem q853 : (Jvm.Cond.code ({ cls := "SlimeNet", name := "hours", desc := "(I)I" } : Jvm.MethodName) prog_1_method_18_code (3 : Nat) (Option.some Jvm.ClassFile.FieldType.int)) ∈ lw_all := lw_g (lw_at lw_m4 64 rfl) rfl
theorem q854 : (Jvm.Cond.methodLink "SlimeNet" (231 : Nat) ({ cls := "SlimeNet$Slime", name := "live", desc := "()V" } : Jvm.MethodName)) ∈ lw_all := lw_g (lw_at lw_m4 65 rfl) rfl
theorem q864 : (Jvm.Cond.instanceMethod ({ cls := "SlimeNet", name := "rest", desc := "()I" } : Jvm.MethodName)) ∈ lw_all := lw_g (lw_at lw_m4 75 rfl) rfl
theorem q865 : (Jvm.Cond.selects "SlimeNet" ({ cls := "SlimeNet", name := "rest", desc := "()I" } : Jvm.MethodName) ({ cls := "SlimeNet", name := "rest", desc := "()I" } : Jvm.MethodName)) ∈ lw_all := lw_g (lw_at lw_m4 76 rfl) rfl
theorem q866 : (Jvm.Cond.code ({ cls := "SlimeNet", name := "rest", desc := "()I" } : Jvm.MethodName) prog_1_method_21_code (3 : Nat) (Option.some Jvm.ClassFile.FieldType.int)) ∈ lw_all := lw_g (lw_at lw_m4 77 rfl) rfl
theorem q867 : (Jvm.Cond.methodLink "SlimeNet" (237 : Nat) ({ cls := "SlimeNet", name := "note", desc := "(I)V" } : Jvm.MethodName)) ∈ lw_all := lw_g (lw_at lw_m4 78 rfl) rfl
theorem q868 : (Jvm.Cond.privateMethod ({ cls := "SlimeNet", name := "note", desc := "(I)V" } : Jvm.MethodName)) ∈ lw_tbl := lw_at lw_m4 79 rfl
theorem q869 : (Jvm.Cond.instanceMethod ({ cls := "SlimeNet", name := "note", desc := "(I)V" } : Jvm.MethodName)) ∈ lw_all := lw_g (lw_at lw_m4 80 rfl) rfl
theorem q870 : (Jvm.Cond.code ({ cls := "SlimeNet", name := "note", desc := "(I)V" } : Jvm.MethodName) prog_1_method_19_code (3 : Nat) (Option.none : Option Jvm.ClassFile.FieldType)) ∈ lw_all := lw_g (lw_at lw_m4 81 rfl) rfl
theorem q871 : (Jvm.Cond.methodLink "SlimeNet" (240 : Nat) ({ cls := "SlimeNet$Slime", name := "liveRound", desc := "()V" } : Jvm.MethodName)) ∈ lw_all := lw_g (lw_at lw_m4 82 rfl) rfl
theorem q876 : (Jvm.Cond.methodLink "SlimeNet" (243 : Nat) ({ cls := "SlimeNet", name := "isAsThen", desc := "(II)Z" } : Jvm.MethodName)) ∈ lw_all := lw_g (lw_at lw_m4 87 rfl) rfl
theorem q877 : (Jvm.Cond.privateMethod ({ cls := "SlimeNet", name := "isAsThen", desc := "(II)Z" } : Jvm.MethodName)) ∈ lw_tbl := lw_at lw_m4 88 rfl
theorem q878 : (Jvm.Cond.instanceMethod ({ cls := "SlimeNet", name := "isAsThen", desc := "(II)Z" } : Jvm.MethodName)) ∈ lw_all := lw_g (lw_at lw_m4 89 rfl) rfl
theorem q879 : (Jvm.Cond.code ({ cls := "SlimeNet", name := "isAsThen", desc := "(II)Z" } : Jvm.MethodName) prog_1_method_20_code (4 : Nat) (Option.some Jvm.ClassFile.FieldType.boolean)) ∈ lw_all := lw_g (lw_at lw_m4 90 rfl) rfl
theorem q881 : (Jvm.Cond.instanceMethod ({ cls := "SlimeNet", name := "ring", desc := "()I" } : Jvm.MethodName)) ∈ lw_all := lw_g (lw_at lw_m4 92 rfl) rfl
theorem q882 : (Jvm.Cond.selects "SlimeNet" ({ cls := "SlimeNet", name := "ring", desc := "()I" } : Jvm.MethodName) ({ cls := "SlimeNet", name := "ring", desc := "()I" } : Jvm.MethodName)) ∈ lw_all := lw_g (lw_at lw_m4 93 rfl) rfl
theorem q883 : (Jvm.Cond.code ({ cls := "SlimeNet", name := "ring", desc := "()I" } : Jvm.MethodName) prog_1_method_22_code (1 : Nat) (Option.some Jvm.ClassFile.FieldType.int)) ∈ lw_all := lw_g (lw_at lw_m4 94 rfl) rfl
theorem q885 : (Jvm.Cond.instanceMethod ({ cls := "SlimeNet", name := "chance", desc := "(I)I" } : Jvm.MethodName)) ∈ lw_all := lw_g (lw_at lw_m4 96 rfl) rfl
theorem q886 : (Jvm.Cond.selects "SlimeNet" ({ cls := "SlimeNet", name := "chance", desc := "(I)I" } : Jvm.MethodName) ({ cls := "SlimeNet", name := "chance", desc := "(I)I" } : Jvm.MethodName)) ∈ lw_all := lw_g (lw_at lw_m4 97 rfl) rfl
theorem q887 : (Jvm.Cond.code ({ cls := "SlimeNet", name := "chance", desc := "(I)I" } : Jvm.MethodName) prog_1_method_23_code (5 : Nat) (Option.some Jvm.ClassFile.FieldType.int)) ∈ lw_all := lw_g (lw_at lw_m4 98 rfl) rfl
theorem q888 : (Jvm.Cond.constantLong "SlimeNet" (247 : Nat) (1103515245 : Int64)) ∈ lw_all := lw_g (lw_at lw_m4 99 rfl) rfl
theorem q889 : (Jvm.Cond.constantLong "SlimeNet" (249 : Nat) (12345 : Int64)) ∈ lw_all := lw_g (lw_at lw_m4 100 rfl) rfl
theorem q890 : (Jvm.Cond.constantLong "SlimeNet" (251 : Nat) (2147483648 : Int64)) ∈ lw_all := lw_g (lw_at lw_m4 101 rfl) rfl
theorem q891 : (Jvm.Cond.constantLong "SlimeNet" (253 : Nat) (65536 : Int64)) ∈ lw_all := lw_g (lw_at lw_m4 102 rfl) rfl
theorem q892 : (Jvm.Cond.constantLong "SlimeNet" (255 : Nat) (9 : Int64)) ∈ lw_all := lw_g (lw_at lw_m4 103 rfl) rfl
theorem q893 : (Jvm.Cond.methodLink "SlimeNet" (257 : Nat) ({ cls := "java/util/Arrays", name := "fill", desc := "([II)V" } : Jvm.MethodName)) ∈ lw_all := lw_g (lw_at lw_m4 104 rfl) rfl
theorem q897 : (Jvm.Cond.instanceMethod ({ cls := "SlimeNet", name := "keep", desc := "(I)I" } : Jvm.MethodName)) ∈ lw_all := lw_g (lw_at lw_m4 108 rfl) rfl
theorem q898 : (Jvm.Cond.selects "SlimeNet" ({ cls := "SlimeNet", name := "keep", desc := "(I)I" } : Jvm.MethodName) ({ cls := "SlimeNet", name := "keep", desc := "(I)I" } : Jvm.MethodName)) ∈ lw_all := lw_g (lw_at lw_m4 109 rfl) rfl
theorem q899 : (Jvm.Cond.code ({ cls := "SlimeNet", name := "keep", desc := "(I)I" } : Jvm.MethodName) prog_1_method_25_code (2 : Nat) (Option.some Jvm.ClassFile.FieldType.int)) ∈ lw_all := lw_g (lw_at lw_m4 110 rfl) rfl
theorem q900 : (Jvm.Cond.methodLink "SlimeNet" (260 : Nat) ({ cls := "SlimeNet", name := "isSlot", desc := "(I)Z" } : Jvm.MethodName)) ∈ lw_all := lw_g (lw_at lw_m4 111 rfl) rfl
theorem q901 : (Jvm.Cond.static ({ cls := "SlimeNet", name := "isSlot", desc := "(I)Z" } : Jvm.MethodName)) ∈ lw_all := lw_g (lw_at lw_m4 112 rfl) rfl
theorem q902 : (Jvm.Cond.code ({ cls := "SlimeNet", name := "isSlot", desc := "(I)Z" } : Jvm.MethodName) prog_1_method_24_code (1 : Nat) (Option.some Jvm.ClassFile.FieldType.boolean)) ∈ lw_all := lw_g (lw_at lw_m4 113 rfl) rfl
theorem q903 : (Jvm.Cond.methodLink "SlimeNet" (263 : Nat) ({ cls := "SlimeNet$Slime", name := "become", desc := "(LSlimeNet$Slime;)V" } : Jvm.MethodName)) ∈ lw_all := lw_g (lw_at lw_m4 114 rfl) rfl
theorem q908 : (Jvm.Cond.instanceMethod ({ cls := "SlimeNet", name := "take", desc := "(I)I" } : Jvm.MethodName)) ∈ lw_all := lw_g (lw_at lw_m4 119 rfl) rfl
theorem q909 : (Jvm.Cond.selects "SlimeNet" ({ cls := "SlimeNet", name := "take", desc := "(I)I" } : Jvm.MethodName) ({ cls := "SlimeNet", name := "take", desc := "(I)I" } : Jvm.MethodName)) ∈ lw_all := lw_g (lw_at lw_m4 120 rfl) rfl
theorem q910 : (Jvm.Cond.code ({ cls := "SlimeNet", name := "take", desc := "(I)I" } : Jvm.MethodName) prog_1_method_26_code (2 : Nat) (Option.some Jvm.ClassFile.FieldType.int)) ∈ lw_all := lw_g (lw_at lw_m4 121 rfl) rfl
theorem q912 : (Jvm.Cond.instanceMethod ({ cls := "SlimeNet", name := "alike", desc := "(II)I" } : Jvm.MethodName)) ∈ lw_all := lw_g (lw_at lw_m4 123 rfl) rfl
theorem q913 : (Jvm.Cond.selects "SlimeNet" ({ cls := "SlimeNet", name := "alike", desc := "(II)I" } : Jvm.MethodName) ({ cls := "SlimeNet", name := "alike", desc := "(II)I" } : Jvm.MethodName)) ∈ lw_all := lw_g (lw_at lw_m4 124 rfl) rfl
theorem q914 : (Jvm.Cond.code ({ cls := "SlimeNet", name := "alike", desc := "(II)I" } : Jvm.MethodName) prog_1_method_27_code (3 : Nat) (Option.some Jvm.ClassFile.FieldType.int)) ∈ lw_all := lw_g (lw_at lw_m4 125 rfl) rfl
theorem q915 : (Jvm.Cond.methodLink "SlimeNet" (267 : Nat) ({ cls := "SlimeNet$Slime", name := "own", desc := "()I" } : Jvm.MethodName)) ∈ lw_all := lw_g (lw_at lw_m4 126 rfl) rfl
theorem q916 : (Jvm.Cond.methodLink "SlimeNet" (270 : Nat) ({ cls := "java/lang/Integer", name := "bitCount", desc := "(I)I" } : Jvm.MethodName)) ∈ lw_all := lw_g (lw_at lw_m4 127 rfl) rfl
theorem q923 : (Jvm.Cond.instanceMethod ({ cls := "SlimeNet", name := "tell", desc := "(I)I" } : Jvm.MethodName)) ∈ lw_all := lw_g (lw_at lw_m4 134 rfl) rfl
theorem q924 : (Jvm.Cond.selects "SlimeNet" ({ cls := "SlimeNet", name := "tell", desc := "(I)I" } : Jvm.MethodName) ({ cls := "SlimeNet", name := "tell", desc := "(I)I" } : Jvm.MethodName)) ∈ lw_all := lw_g (lw_at lw_m4 135 rfl) rfl
theorem q925 : (Jvm.Cond.code ({ cls := "SlimeNet", name := "tell", desc := "(I)I" } : Jvm.MethodName) prog_1_method_28_code (4 : Nat) (Option.some Jvm.ClassFile.FieldType.int)) ∈ lw_all := lw_g (lw_at lw_m4 136 rfl) rfl
theorem q927 : (Jvm.Cond.instanceMethod ({ cls := "SlimeNet", name := "own", desc := "()I" } : Jvm.MethodName)) ∈ lw_all := lw_g (lw_at lw_m4 138 rfl) rfl
theorem q928 : (Jvm.Cond.selects "SlimeNet" ({ cls := "SlimeNet", name := "own", desc := "()I" } : Jvm.MethodName) ({ cls := "SlimeNet", name := "own", desc := "()I" } : Jvm.MethodName)) ∈ lw_all := lw_g (lw_at lw_m4 139 rfl) rfl
theorem q929 : (Jvm.Cond.code ({ cls := "SlimeNet", name := "own", desc := "()I" } : Jvm.MethodName) prog_1_method_32_code (1 : Nat) (Option.some Jvm.ClassFile.FieldType.int)) ∈ lw_all := lw_g (lw_at lw_m4 140 rfl) rfl
theorem q931 : (Jvm.Cond.instanceMethod ({ cls := "SlimeNet", name := "net", desc := "(II)I" } : Jvm.MethodName)) ∈ lw_all := lw_g (lw_at lw_m4 142 rfl) rfl
theorem q932 : (Jvm.Cond.selects "SlimeNet" ({ cls := "SlimeNet", name := "net", desc := "(II)I" } : Jvm.MethodName) ({ cls := "SlimeNet", name := "net", desc := "(II)I" } : Jvm.MethodName)) ∈ lw_all := lw_g (lw_at lw_m4 143 rfl) rfl
theorem q933 : (Jvm.Cond.code ({ cls := "SlimeNet", name := "net", desc := "(II)I" } : Jvm.MethodName) prog_1_method_34_code (3 : Nat) (Option.some Jvm.ClassFile.FieldType.int)) ∈ lw_all := lw_g (lw_at lw_m4 144 rfl) rfl
theorem q934 : (Jvm.Cond.methodLink "SlimeNet" (296 : Nat) ({ cls := "SlimeNet", name := "isNet", desc := "(I)Z" } : Jvm.MethodName)) ∈ lw_all := lw_g (lw_at lw_m4 145 rfl) rfl
theorem q935 : (Jvm.Cond.privateMethod ({ cls := "SlimeNet", name := "isNet", desc := "(I)Z" } : Jvm.MethodName)) ∈ lw_tbl := lw_at lw_m4 146 rfl
theorem q936 : (Jvm.Cond.instanceMethod ({ cls := "SlimeNet", name := "isNet", desc := "(I)Z" } : Jvm.MethodName)) ∈ lw_all := lw_g (lw_at lw_m4 147 rfl) rfl
theorem q937 : (Jvm.Cond.code ({ cls := "SlimeNet", name := "isNet", desc := "(I)Z" } : Jvm.MethodName) prog_1_method_33_code (2 : Nat) (Option.some Jvm.ClassFile.FieldType.boolean)) ∈ lw_all := lw_g (lw_at lw_m4 148 rfl) rfl
theorem q938 : (Jvm.Cond.methodLink "SlimeNet" (282 : Nat) ({ cls := "SlimeNet$Plate", name := "length", desc := "(I)I" } : Jvm.MethodName)) ∈ lw_all := lw_g (lw_at lw_m4 149 rfl) rfl
theorem q942 : (Jvm.Cond.methodLink "SlimeNet" (279 : Nat) ({ cls := "SlimeNet$Plate", name := "joins", desc := "(I)Z" } : Jvm.MethodName)) ∈ lw_all := lw_g (lw_at lw_m4 153 rfl) rfl
theorem q947 : (Jvm.Cond.methodLink "SlimeNet" (284 : Nat) ({ cls := "SlimeNet$Plate", name := "sure", desc := "(I)I" } : Jvm.MethodName)) ∈ lw_all := lw_g (lw_at lw_m4 158 rfl) rfl
theorem q952 : (Jvm.Cond.methodLink "SlimeNet" (299 : Nat) ({ cls := "SlimeNet$Plate", name := "ways", desc := "(I)I" } : Jvm.MethodName)) ∈ lw_all := lw_g (lw_at lw_m4 163 rfl) rfl
theorem q962 : (Jvm.Cond.methodLink "SlimeNet" (302 : Nat) ({ cls := "SlimeNet", name := "beside", desc := "(I)I" } : Jvm.MethodName)) ∈ lw_all := lw_g (lw_at lw_m4 173 rfl) rfl
theorem q963 : (Jvm.Cond.privateMethod ({ cls := "SlimeNet", name := "beside", desc := "(I)I" } : Jvm.MethodName)) ∈ lw_tbl := lw_at lw_m4 174 rfl
theorem q964 : (Jvm.Cond.instanceMethod ({ cls := "SlimeNet", name := "beside", desc := "(I)I" } : Jvm.MethodName)) ∈ lw_all := lw_g (lw_at lw_m4 175 rfl) rfl
theorem q965 : (Jvm.Cond.code ({ cls := "SlimeNet", name := "beside", desc := "(I)I" } : Jvm.MethodName) prog_1_method_35_code (5 : Nat) (Option.some Jvm.ClassFile.FieldType.int)) ∈ lw_all := lw_g (lw_at lw_m4 176 rfl) rfl
theorem q966 : (Jvm.Cond.methodLink "SlimeNet" (305 : Nat) ({ cls := "SlimeNet", name := "list", desc := "()V" } : Jvm.MethodName)) ∈ lw_all := lw_g (lw_at lw_m4 177 rfl) rfl
theorem q967 : (Jvm.Cond.privateMethod ({ cls := "SlimeNet", name := "list", desc := "()V" } : Jvm.MethodName)) ∈ lw_tbl := lw_at lw_m4 178 rfl
theorem q968 : (Jvm.Cond.instanceMethod ({ cls := "SlimeNet", name := "list", desc := "()V" } : Jvm.MethodName)) ∈ lw_all := lw_g (lw_at lw_m4 179 rfl) rfl
theorem q969 : (Jvm.Cond.code ({ cls := "SlimeNet", name := "list", desc := "()V" } : Jvm.MethodName) prog_1_method_29_code (2 : Nat) (Option.none : Option Jvm.ClassFile.FieldType)) ∈ lw_all := lw_g (lw_at lw_m4 180 rfl) rfl
theorem q970 : (Jvm.Cond.methodLink "SlimeNet" (290 : Nat) ({ cls := "SlimeNet", name := "isGood", desc := "(I)Z" } : Jvm.MethodName)) ∈ lw_all := lw_g (lw_at lw_m4 181 rfl) rfl
theorem q971 : (Jvm.Cond.privateMethod ({ cls := "SlimeNet", name := "isGood", desc := "(I)Z" } : Jvm.MethodName)) ∈ lw_tbl := lw_at lw_m4 182 rfl
theorem q972 : (Jvm.Cond.instanceMethod ({ cls := "SlimeNet", name := "isGood", desc := "(I)Z" } : Jvm.MethodName)) ∈ lw_all := lw_g (lw_at lw_m4 183 rfl) rfl
theorem q973 : (Jvm.Cond.code ({ cls := "SlimeNet", name := "isGood", desc := "(I)Z" } : Jvm.MethodName) prog_1_method_30_code (3 : Nat) (Option.some Jvm.ClassFile.FieldType.boolean)) ∈ lw_all := lw_g (lw_at lw_m4 184 rfl) rfl
theorem q974 : (Jvm.Cond.methodLink "SlimeNet" (293 : Nat) ({ cls := "SlimeNet", name := "insert", desc := "(I)V" } : Jvm.MethodName)) ∈ lw_all := lw_g (lw_at lw_m4 185 rfl) rfl
theorem q975 : (Jvm.Cond.privateMethod ({ cls := "SlimeNet", name := "insert", desc := "(I)V" } : Jvm.MethodName)) ∈ lw_tbl := lw_at lw_m4 186 rfl
theorem q976 : (Jvm.Cond.instanceMethod ({ cls := "SlimeNet", name := "insert", desc := "(I)V" } : Jvm.MethodName)) ∈ lw_all := lw_g (lw_at lw_m4 187 rfl) rfl
theorem q977 : (Jvm.Cond.code ({ cls := "SlimeNet", name := "insert", desc := "(I)V" } : Jvm.MethodName) prog_1_method_31_code (3 : Nat) (Option.none : Option Jvm.ClassFile.FieldType)) ∈ lw_all := lw_g (lw_at lw_m4 188 rfl) rfl
theorem q979 : (Jvm.Cond.instanceMethod ({ cls := "SlimeNet", name := "shortest", desc := "()I" } : Jvm.MethodName)) ∈ lw_all := lw_g (lw_at lw_m4 190 rfl) rfl
theorem q980 : (Jvm.Cond.selects "SlimeNet" ({ cls := "SlimeNet", name := "shortest", desc := "()I" } : Jvm.MethodName) ({ cls := "SlimeNet", name := "shortest", desc := "()I" } : Jvm.MethodName)) ∈ lw_all := lw_g (lw_at lw_m4 191 rfl) rfl
theorem q981 : (Jvm.Cond.code ({ cls := "SlimeNet", name := "shortest", desc := "()I" } : Jvm.MethodName) prog_1_method_36_code (3 : Nat) (Option.some Jvm.ClassFile.FieldType.int)) ∈ lw_all := lw_g (lw_at lw_m4 192 rfl) rfl
theorem q983 : (Jvm.Cond.instanceMethod ({ cls := "SlimeNet", name := "good", desc := "(I)I" } : Jvm.MethodName)) ∈ lw_all := lw_g (lw_at lw_m4 194 rfl) rfl
theorem q984 : (Jvm.Cond.selects "SlimeNet" ({ cls := "SlimeNet", name := "good", desc := "(I)I" } : Jvm.MethodName) ({ cls := "SlimeNet", name := "good", desc := "(I)I" } : Jvm.MethodName)) ∈ lw_all := lw_g (lw_at lw_m4 195 rfl) rfl
theorem q985 : (Jvm.Cond.code ({ cls := "SlimeNet", name := "good", desc := "(I)I" } : Jvm.MethodName) prog_1_method_37_code (2 : Nat) (Option.some Jvm.ClassFile.FieldType.int)) ∈ lw_all := lw_g (lw_at lw_m4 196 rfl) rfl
theorem q987 : (Jvm.Cond.instanceMethod ({ cls := "SlimeNet", name := "maze", desc := "()I" } : Jvm.MethodName)) ∈ lw_all := lw_g (lw_at lw_m4 198 rfl) rfl
theorem q988 : (Jvm.Cond.selects "SlimeNet" ({ cls := "SlimeNet", name := "maze", desc := "()I" } : Jvm.MethodName) ({ cls := "SlimeNet", name := "maze", desc := "()I" } : Jvm.MethodName)) ∈ lw_all := lw_g (lw_at lw_m4 199 rfl) rfl
theorem q989 : (Jvm.Cond.code ({ cls := "SlimeNet", name := "maze", desc := "()I" } : Jvm.MethodName) prog_1_method_38_code (3 : Nat) (Option.some Jvm.ClassFile.FieldType.int)) ∈ lw_all := lw_g (lw_at lw_m4 200 rfl) rfl
theorem q990 : (Jvm.Cond.methodLink "SlimeNet" (308 : Nat) ({ cls := "SlimeNet$Plate", name := "way", desc := "(III)I" } : Jvm.MethodName)) ∈ lw_all := lw_g (lw_at lw_m4 201 rfl) rfl
theorem q992 : (Jvm.Cond.instanceMethod ({ cls := "SlimeNet", name := "see", desc := "(III)I" } : Jvm.MethodName)) ∈ lw_all := lw_g (lw_at lw_m4 203 rfl) rfl
theorem q993 : (Jvm.Cond.selects "SlimeNet" ({ cls := "SlimeNet", name := "see", desc := "(III)I" } : Jvm.MethodName) ({ cls := "SlimeNet", name := "see", desc := "(III)I" } : Jvm.MethodName)) ∈ lw_all := lw_g (lw_at lw_m4 204 rfl) rfl
theorem q994 : (Jvm.Cond.code ({ cls := "SlimeNet", name := "see", desc := "(III)I" } : Jvm.MethodName) prog_1_method_39_code (4 : Nat) (Option.some Jvm.ClassFile.FieldType.int)) ∈ lw_all := lw_g (lw_at lw_m4 205 rfl) rfl
theorem q996 : (Jvm.Cond.instanceMethod ({ cls := "SlimeNet", name := "right", desc := "(III)I" } : Jvm.MethodName)) ∈ lw_all := lw_g (lw_at lw_m4 207 rfl) rfl
theorem q997 : (Jvm.Cond.selects "SlimeNet" ({ cls := "SlimeNet", name := "right", desc := "(III)I" } : Jvm.MethodName) ({ cls := "SlimeNet", name := "right", desc := "(III)I" } : Jvm.MethodName)) ∈ lw_all := lw_g (lw_at lw_m4 208 rfl) rfl
theorem q998 : (Jvm.Cond.code ({ cls := "SlimeNet", name := "right", desc := "(III)I" } : Jvm.MethodName) prog_1_method_40_code (6 : Nat) (Option.some Jvm.ClassFile.FieldType.int)) ∈ lw_all := lw_g (lw_at lw_m4 209 rfl) rfl
theorem q1000 : (Jvm.Cond.instanceMethod ({ cls := "SlimeNet", name := "fit", desc := "(II)I" } : Jvm.MethodName)) ∈ lw_all := lw_g (lw_at lw_m4 211 rfl) rfl
theorem q1001 : (Jvm.Cond.selects "SlimeNet" ({ cls := "SlimeNet", name := "fit", desc := "(II)I" } : Jvm.MethodName) ({ cls := "SlimeNet", name := "fit", desc := "(II)I" } : Jvm.MethodName)) ∈ lw_all := lw_g (lw_at lw_m4 212 rfl) rfl
theorem q1002 : (Jvm.Cond.code ({ cls := "SlimeNet", name := "fit", desc := "(II)I" } : Jvm.MethodName) prog_1_method_43_code (3 : Nat) (Option.some Jvm.ClassFile.FieldType.int)) ∈ lw_all := lw_g (lw_at lw_m4 213 rfl) rfl
theorem q1003 : (Jvm.Cond.methodLink "SlimeNet" (322 : Nat) ({ cls := "SlimeNet", name := "findFits", desc := "(II)V" } : Jvm.MethodName)) ∈ lw_all := lw_g (lw_at lw_m4 214 rfl) rfl
theorem q1004 : (Jvm.Cond.privateMethod ({ cls := "SlimeNet", name := "findFits", desc := "(II)V" } : Jvm.MethodName)) ∈ lw_tbl := lw_at lw_m4 215 rfl
theorem q1005 : (Jvm.Cond.instanceMethod ({ cls := "SlimeNet", name := "findFits", desc := "(II)V" } : Jvm.MethodName)) ∈ lw_all := lw_g (lw_at lw_m4 216 rfl) rfl
theorem q1006 : (Jvm.Cond.code ({ cls := "SlimeNet", name := "findFits", desc := "(II)V" } : Jvm.MethodName) prog_1_method_42_code (8 : Nat) (Option.none : Option Jvm.ClassFile.FieldType)) ∈ lw_all := lw_g (lw_at lw_m4 217 rfl) rfl
theorem q1007 : (Jvm.Cond.methodLink "SlimeNet" (312 : Nat) ({ cls := "SlimeNet", name := "know", desc := "(I)V" } : Jvm.MethodName)) ∈ lw_all := lw_g (lw_at lw_m4 218 rfl) rfl
theorem q1008 : (Jvm.Cond.privateMethod ({ cls := "SlimeNet", name := "know", desc := "(I)V" } : Jvm.MethodName)) ∈ lw_tbl := lw_at lw_m4 219 rfl
theorem q1009 : (Jvm.Cond.instanceMethod ({ cls := "SlimeNet", name := "know", desc := "(I)V" } : Jvm.MethodName)) ∈ lw_all := lw_g (lw_at lw_m4 220 rfl) rfl
theorem q1010 : (Jvm.Cond.code ({ cls := "SlimeNet", name := "know", desc := "(I)V" } : Jvm.MethodName) prog_1_method_41_code (5 : Nat) (Option.none : Option Jvm.ClassFile.FieldType)) ∈ lw_all := lw_g (lw_at lw_m4 221 rfl) rfl
theorem q1011 : (Jvm.Cond.methodLink "SlimeNet" (315 : Nat) ({ cls := "java/lang/Math", name := "max", desc := "(II)I" } : Jvm.MethodName)) ∈ lw_all := lw_g (lw_at lw_m4 222 rfl) rfl
theorem q1013 : (Jvm.Cond.instanceMethod ({ cls := "SlimeNet", name := "surely", desc := "(III)I" } : Jvm.MethodName)) ∈ lw_all := lw_g (lw_at lw_m4 224 rfl) rfl
theorem q1014 : (Jvm.Cond.selects "SlimeNet" ({ cls := "SlimeNet", name := "surely", desc := "(III)I" } : Jvm.MethodName) ({ cls := "SlimeNet", name := "surely", desc := "(III)I" } : Jvm.MethodName)) ∈ lw_all := lw_g (lw_at lw_m4 225 rfl) rfl
theorem q1015 : (Jvm.Cond.code ({ cls := "SlimeNet", name := "surely", desc := "(III)I" } : Jvm.MethodName) prog_1_method_44_code (6 : Nat) (Option.some Jvm.ClassFile.FieldType.int)) ∈ lw_all := lw_g (lw_at lw_m4 226 rfl) rfl
theorem q1017 : (Jvm.Cond.instanceMethod ({ cls := "SlimeNet", name := "look", desc := "()I" } : Jvm.MethodName)) ∈ lw_all := lw_g (lw_at lw_m4 228 rfl) rfl
theorem q1018 : (Jvm.Cond.selects "SlimeNet" ({ cls := "SlimeNet", name := "look", desc := "()I" } : Jvm.MethodName) ({ cls := "SlimeNet", name := "look", desc := "()I" } : Jvm.MethodName)) ∈ lw_all := lw_g (lw_at lw_m4 229 rfl) rfl
theorem q1019 : (Jvm.Cond.code ({ cls := "SlimeNet", name := "look", desc := "()I" } : Jvm.MethodName) prog_1_method_45_code (8 : Nat) (Option.some Jvm.ClassFile.FieldType.int)) ∈ lw_all := lw_g (lw_at lw_m4 230 rfl) rfl
theorem q1021 : (Jvm.Cond.instanceMethod ({ cls := "SlimeNet", name := "count", desc := "(I)I" } : Jvm.MethodName)) ∈ lw_all := lw_g (lw_at lw_m4 232 rfl) rfl
theorem q1022 : (Jvm.Cond.selects "SlimeNet" ({ cls := "SlimeNet", name := "count", desc := "(I)I" } : Jvm.MethodName) ({ cls := "SlimeNet", name := "count", desc := "(I)I" } : Jvm.MethodName)) ∈ lw_all := lw_g (lw_at lw_m4 233 rfl) rfl
theorem q1023 : (Jvm.Cond.code ({ cls := "SlimeNet", name := "count", desc := "(I)I" } : Jvm.MethodName) prog_1_method_46_code (2 : Nat) (Option.some Jvm.ClassFile.FieldType.int)) ∈ lw_all := lw_g (lw_at lw_m4 234 rfl) rfl
theorem q1592 : (Jvm.Cond.castable "SlimeNet" "java/lang/Object") ∈ lw_tbl := lw_at lw_m7 83 rfl
theorem in_X0 : ∀ w ∈ wsX00, w ∈ lw_all := lw_in wsX00 [355, 357, 359, 361, 363, 365, 367, 369, 371, 373, 375, 377, 379, 381, 383, 385, 387, 389, 391, 393, 395, 397, 399, 401, 403, 405, 407, 409, 411, 413, 415] (by decide +kernel) (by decide +kernel)
