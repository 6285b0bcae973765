/-! SlimeNetModel -/
set_option maxRecDepth 100000
def RX4 : String := "SlimeNetModel"
def TX4 : u_T := fun k => match k with
  | 0 => ("SlimeNetModel", "tape", "[B", true)
  | 1 => ("SlimeNetModel", "taped", "I", false)
  | 2 => ("SlimeNetModel", "length", "I", false)
  | 3 => ("SlimeNetModel", "from", "I", false)
  | 4 => ("SlimeNetModel", "behind", "I", false)
  | 5 => ("SlimeNetModel", "hand", "I", false)
  | 6 => ("SlimeNetModel", "value", "I", false)
  | 7 => ("SlimeNetModel", "got", "I", false)
  | 8 => ("SlimeNetModel", "fault", "I", false)
  | 9 => ("SlimeNetModel", "faultAt", "I", false)
  | 10 => ("SlimeNetModel", "spots", "I", false)
  | 11 => ("SlimeNetModel", "pipes", "I", false)
  | 12 => ("SlimeNetModel", "flakes", "I", false)
  | 13 => ("SlimeNetModel", "up", "I", false)
  | 14 => ("SlimeNetModel", "down", "I", false)
  | 15 => ("SlimeNetModel", "wide", "I", false)
  | 16 => ("SlimeNetModel", "learn", "I", false)
  | 17 => ("SlimeNetModel", "salted", "I", false)
  | 18 => ("SlimeNetModel", "clauses", "I", false)
  | 19 => ("SlimeNetModel", "readSpots", "I", false)
  | 20 => ("SlimeNetModel", "readPipes", "I", false)
  | 21 => ("SlimeNetModel", "readFlakes", "I", false)
  | 22 => ("SlimeNetModel", "readUp", "I", false)
  | 23 => ("SlimeNetModel", "readDown", "I", false)
  | 24 => ("SlimeNetModel", "readWide", "I", false)
  | 25 => ("SlimeNetModel", "readLearn", "I", false)
  | 26 => ("SlimeNetModel", "readSalted", "I", false)
  | 27 => ("SlimeNetModel", "read", "I", false)
  | 28 => ("SlimeNetModel", "lawTold", "Z", false)
  | 29 => ("SlimeNetModel", "widthTold", "Z", false)
  | 30 => ("SlimeNetModel", "learnTold", "Z", false)
  | 31 => ("SlimeNetModel", "names", "[J", true)
  | 32 => ("SlimeNetModel", "one", "[I", true)
  | 33 => ("SlimeNetModel", "two", "[I", true)
  | 34 => ("SlimeNetModel", "long0", "[I", true)
  | 35 => ("SlimeNetModel", "flake", "[I", true)
  | 36 => ("SlimeNetModel", "readOne", "[I", true)
  | 37 => ("SlimeNetModel", "readTwo", "[I", true)
  | 38 => ("SlimeNetModel", "readLong", "[I", true)
  | 39 => ("SlimeNetModel", "readFlake", "[I", true)
  | 40 => ("SlimeNetModel", "treeSpots", "[I", true)
  | 41 => ("SlimeNetModel", "pathTo", "[I", true)
  | 42 => ("SlimeNetModel", "onward", "[I", true)
  | 43 => ("SlimeNetModel", "leads", "[I", true)
  | 44 => ("SlimeNetModel", "through", "[J", true)
  | 45 => ("SlimeNetModel", "sum", "J", false)
  | 46 => ("SlimeNetModel", "width", "[I", true)
  | 47 => ("SlimeNetModel", "count", "[I", true)
  | 48 => ("SlimeNetModel", "hour", "I", false)
  | 49 => ("SlimeNetModel", "wasWidth", "[I", true)
  | 50 => ("SlimeNetModel", "wasCount", "[I", true)
  | 51 => ("SlimeNetModel", "ring", "I", false)
  | 52 => ("SlimeNetModel", "slotWidth", "[I", true)
  | 53 => ("SlimeNetModel", "slotCount", "[I", true)
  | 54 => ("SlimeNetModel", "slotHour", "[I", true)
  | 55 => ("SlimeNetModel", "isKept", "[Z", true)
  | 56 => ("SlimeNetModel", "far", "[I", true)
  | 57 => ("SlimeNetModel", "sureBy", "[I", true)
  | 58 => ("SlimeNetModel", "netBy", "[I", true)
  | 59 => ("SlimeNetModel", "ownBy", "[I", true)
  | 60 => ("SlimeNetModel", "lawWidth", "[I", true)
  | 61 => ("SlimeNetModel", "lawCount", "[I", true)
  | 62 => ("SlimeNetModel", "hasLaws", "Z", false)
  | 63 => ("SlimeNetModel", "seen", "I", false)
  | 64 => ("SlimeNetModel", "rights", "I", false)
  | 65 => ("SlimeNetModel", "telling", "I", false)
  | 66 => ("SlimeNetModel", "seenHour", "[I", true)
  | 67 => ("SlimeNetModel", "seenNet", "[I", true)
  | 68 => ("SlimeNetModel", "seenAt", "[I", true)
  | 69 => ("SlimeNetModel", "rightOf", "[I", true)
  | 70 => ("SlimeNetModel", "rightNet", "[I", true)
  | 71 => ("SlimeNetModel", "rightAt", "[I", true)
  | _ => ("SlimeNetModel", "agreeing", "[I", true)
def tyX4 : Nat → FieldType := fun k => match k with
  | 0 => .array .byte
  | 1 => .int
  | 2 => .int
  | 3 => .int
  | 4 => .int
  | 5 => .int
  | 6 => .int
  | 7 => .int
  | 8 => .int
  | 9 => .int
  | 10 => .int
  | 11 => .int
  | 12 => .int
  | 13 => .int
  | 14 => .int
  | 15 => .int
  | 16 => .int
  | 17 => .int
  | 18 => .int
  | 19 => .int
  | 20 => .int
  | 21 => .int
  | 22 => .int
  | 23 => .int
  | 24 => .int
  | 25 => .int
  | 26 => .int
  | 27 => .int
  | 28 => .boolean
  | 29 => .boolean
  | 30 => .boolean
  | 31 => .array .long
  | 32 => .array .int
  | 33 => .array .int
  | 34 => .array .int
  | 35 => .array .int
  | 36 => .array .int
  | 37 => .array .int
  | 38 => .array .int
  | 39 => .array .int
  | 40 => .array .int
  | 41 => .array .int
  | 42 => .array .int
  | 43 => .array .int
  | 44 => .array .long
  | 45 => .long
  | 46 => .array .int
  | 47 => .array .int
  | 48 => .int
  | 49 => .array .int
  | 50 => .array .int
  | 51 => .int
  | 52 => .array .int
  | 53 => .array .int
  | 54 => .array .int
  | 55 => .array .boolean
  | 56 => .array .int
  | 57 => .array .int
  | 58 => .array .int
  | 59 => .array .int
  | 60 => .array .int
  | 61 => .array .int
  | 62 => .boolean
  | 63 => .int
  | 64 => .int
  | 65 => .int
  | 66 => .array .int
  | 67 => .array .int
  | 68 => .array .int
  | 69 => .array .int
  | 70 => .array .int
  | 71 => .array .int
  | _ => .array .int
abbrev wsX40 : List Cond := u_ws RX4 TX4 73
set_option maxRecDepth 100000 in
theorem nmX4 : ∀ a, a < 73 → ∀ b, b < 73 → a ≠ b → (TX4 a).2.1 ≠ (TX4 b).2.1 := by decide +kernel
set_option maxRecDepth 100000 in
theorem tyX4_ok : ∀ k, k < 73 → parseFieldDescriptor (TX4 k).2.2.1 = some (tyX4 k) := by decide +kernel
abbrev cX4_init : ByteArray := prog_9_method_20_code
def yX4_init : MethodName := ⟨RX4, "<init>", "()V"⟩
def dkwX4_init_14 : List UInt8 := [182, 1, 25, 177]
abbrev dktX4_init_14 : List UInt8 := dkwX4_init_14 ++ []
def dkwX4_init_13 : List UInt8 := [188, 10, 181, 1, 16, 42, 16, 20, 188, 10, 181, 1, 19, 42, 17, 4, 0, 188, 10, 181, 1, 22, 42]
abbrev dktX4_init_13 : List UInt8 := dkwX4_init_13 ++ dktX4_init_14
def dkwX4_init_12 : List UInt8 := [188, 10, 181, 1, 7, 42, 16, 16, 188, 10, 181, 1, 10, 42, 16, 20, 188, 10, 181, 1, 13, 42, 16, 20]
abbrev dktX4_init_12 : List UInt8 := dkwX4_init_12 ++ dktX4_init_13
def dkwX4_init_11 : List UInt8 := [188, 10, 181, 0, 254, 42, 16, 10, 188, 10, 181, 1, 1, 42, 16, 16, 188, 10, 181, 1, 4, 42, 16, 16]
abbrev dktX4_init_11 : List UInt8 := dkwX4_init_11 ++ dktX4_init_12
def dkwX4_init_10 : List UInt8 := [181, 0, 245, 42, 16, 121, 188, 10, 181, 0, 248, 42, 17, 70, 161, 188, 10, 181, 0, 251, 42, 16, 10]
abbrev dktX4_init_10 : List UInt8 := dkwX4_init_10 ++ dktX4_init_11
def dkwX4_init_9 : List UInt8 := [181, 0, 235, 42, 7, 188, 4, 181, 0, 238, 42, 16, 6, 188, 10, 181, 0, 242, 42, 16, 121, 188, 10]
abbrev dktX4_init_9 : List UInt8 := dkwX4_init_9 ++ dktX4_init_10
def dkwX4_init_8 : List UInt8 := [181, 0, 226, 42, 16, 40, 188, 10, 181, 0, 229, 42, 16, 40, 188, 10, 181, 0, 232, 42, 7, 188, 10]
abbrev dktX4_init_8 : List UInt8 := dkwX4_init_8 ++ dktX4_init_9
def dkwX4_init_7 : List UInt8 := [181, 0, 217, 42, 17, 7, 218, 188, 10, 181, 0, 220, 42, 17, 7, 218, 188, 10, 181, 0, 223, 42, 2]
abbrev dktX4_init_7 : List UInt8 := dkwX4_init_7 ++ dktX4_init_8
def dkwX4_init_6 : List UInt8 := [181, 0, 209, 42, 16, 10, 188, 11, 181, 0, 212, 42, 16, 10, 188, 10, 181, 0, 215, 42, 16, 10, 188, 10]
abbrev dktX4_init_6 : List UInt8 := dkwX4_init_6 ++ dktX4_init_7
def dkwX4_init_5 : List UInt8 := [42, 17, 24, 0, 188, 10, 181, 0, 203, 42, 17, 4, 0, 188, 10, 181, 0, 206, 42, 16, 10, 188, 10]
abbrev dktX4_init_5 : List UInt8 := dkwX4_init_5 ++ dktX4_init_6
def dkwX4_init_4 : List UInt8 := [16, 10, 188, 10, 181, 0, 98, 42, 16, 6, 188, 10, 181, 0, 104, 42, 17, 4, 0, 188, 10, 181, 0, 200]
abbrev dktX4_init_4 : List UInt8 := dkwX4_init_4 ++ dktX4_init_5
def dkwX4_init_3 : List UInt8 := [16, 6, 188, 10, 181, 0, 197, 42, 16, 10, 188, 10, 181, 0, 80, 42, 16, 10, 188, 10, 181, 0, 84, 42]
abbrev dktX4_init_3 : List UInt8 := dkwX4_init_3 ++ dktX4_init_4
def dkwX4_init_2 : List UInt8 := [16, 10, 188, 10, 181, 0, 188, 42, 16, 10, 188, 10, 181, 0, 191, 42, 16, 10, 188, 10, 181, 0, 194, 42]
abbrev dktX4_init_2 : List UInt8 := dkwX4_init_2 ++ dktX4_init_3
def dkwX4_init_1 : List UInt8 := [5, 181, 0, 180, 42, 6, 181, 0, 183, 42, 8, 181, 0, 186, 42, 16, 6, 188, 11, 181, 0, 66, 42]
abbrev dktX4_init_1 : List UInt8 := dkwX4_init_1 ++ dktX4_init_2
def dkwX4_init_0 : List UInt8 := [42, 183, 0, 172, 42, 17, 2, 188, 188, 8, 181, 0, 16, 42, 2, 181, 0, 10, 42, 8, 181, 0, 177, 42]
abbrev dktX4_init_0 : List UInt8 := dkwX4_init_0 ++ dktX4_init_1
theorem dksX4_init_0 : cX4_init.data.toList.drop 0 = dktX4_init_0 := by decide +kernel
theorem dksX4_init_1 : cX4_init.data.toList.drop 24 = dktX4_init_1 := dk_seg dksX4_init_0 24 rfl rfl
theorem dksX4_init_2 : cX4_init.data.toList.drop 47 = dktX4_init_2 := dk_seg dksX4_init_1 23 rfl rfl
theorem dksX4_init_3 : cX4_init.data.toList.drop 71 = dktX4_init_3 := dk_seg dksX4_init_2 24 rfl rfl
theorem dksX4_init_4 : cX4_init.data.toList.drop 95 = dktX4_init_4 := dk_seg dksX4_init_3 24 rfl rfl
theorem dksX4_init_5 : cX4_init.data.toList.drop 119 = dktX4_init_5 := dk_seg dksX4_init_4 24 rfl rfl
theorem dksX4_init_6 : cX4_init.data.toList.drop 142 = dktX4_init_6 := dk_seg dksX4_init_5 23 rfl rfl
theorem dksX4_init_7 : cX4_init.data.toList.drop 166 = dktX4_init_7 := dk_seg dksX4_init_6 24 rfl rfl
theorem dksX4_init_8 : cX4_init.data.toList.drop 189 = dktX4_init_8 := dk_seg dksX4_init_7 23 rfl rfl
theorem dksX4_init_9 : cX4_init.data.toList.drop 212 = dktX4_init_9 := dk_seg dksX4_init_8 23 rfl rfl
theorem dksX4_init_10 : cX4_init.data.toList.drop 235 = dktX4_init_10 := dk_seg dksX4_init_9 23 rfl rfl
theorem dksX4_init_11 : cX4_init.data.toList.drop 258 = dktX4_init_11 := dk_seg dksX4_init_10 23 rfl rfl
theorem dksX4_init_12 : cX4_init.data.toList.drop 282 = dktX4_init_12 := dk_seg dksX4_init_11 24 rfl rfl
theorem dksX4_init_13 : cX4_init.data.toList.drop 306 = dktX4_init_13 := dk_seg dksX4_init_12 24 rfl rfl
theorem dksX4_init_14 : cX4_init.data.toList.drop 329 = dktX4_init_14 := dk_seg dksX4_init_13 23 rfl rfl
theorem dX4_init_0 : decode cX4_init 0 = .ok (.aload_n 0, 1) := dk_42 (dk_at dksX4_init_0 0 rfl rfl)
theorem dX4_init_1 : decode cX4_init 1 = .ok (.invokespecial 172, 3) := dk_183 0 172 (dk_at dksX4_init_0 1 rfl rfl)
theorem dX4_init_4 : decode cX4_init 4 = .ok (.aload_n 0, 1) := dk_42 (dk_at dksX4_init_0 4 rfl rfl)
theorem dX4_init_5 : decode cX4_init 5 = .ok (.sipush 700, 3) := dk_17 2 188 (dk_at dksX4_init_0 5 rfl rfl)
theorem dX4_init_8 : decode cX4_init 8 = .ok (.newarray .byte, 2) := dk_188_8 (dk_at dksX4_init_0 8 rfl rfl)
theorem dX4_init_10 : decode cX4_init 10 = .ok (.putfield 16, 3) := dk_181 0 16 (dk_at dksX4_init_0 10 rfl rfl)
theorem dX4_init_13 : decode cX4_init 13 = .ok (.aload_n 0, 1) := dk_42 (dk_at dksX4_init_0 13 rfl rfl)
theorem dX4_init_14 : decode cX4_init 14 = .ok (.iconst (-1), 1) := dk_2 (dk_at dksX4_init_0 14 rfl rfl)
theorem dX4_init_15 : decode cX4_init 15 = .ok (.putfield 10, 3) := dk_181 0 10 (dk_at dksX4_init_0 15 rfl rfl)
theorem dX4_init_18 : decode cX4_init 18 = .ok (.aload_n 0, 1) := dk_42 (dk_at dksX4_init_0 18 rfl rfl)
theorem dX4_init_19 : decode cX4_init 19 = .ok (.iconst 5, 1) := dk_8 (dk_at dksX4_init_0 19 rfl rfl)
theorem dX4_init_20 : decode cX4_init 20 = .ok (.putfield 177, 3) := dk_181 0 177 (dk_at dksX4_init_0 20 rfl rfl)
theorem dX4_init_23 : decode cX4_init 23 = .ok (.aload_n 0, 1) := dk_42 (dk_at dksX4_init_0 23 rfl rfl)
theorem dX4_init_24 : decode cX4_init 24 = .ok (.iconst 2, 1) := dk_5 (dk_at dksX4_init_1 0 rfl rfl)
theorem dX4_init_25 : decode cX4_init 25 = .ok (.putfield 180, 3) := dk_181 0 180 (dk_at dksX4_init_1 1 rfl rfl)
theorem dX4_init_28 : decode cX4_init 28 = .ok (.aload_n 0, 1) := dk_42 (dk_at dksX4_init_1 4 rfl rfl)
theorem dX4_init_29 : decode cX4_init 29 = .ok (.iconst 3, 1) := dk_6 (dk_at dksX4_init_1 5 rfl rfl)
theorem dX4_init_30 : decode cX4_init 30 = .ok (.putfield 183, 3) := dk_181 0 183 (dk_at dksX4_init_1 6 rfl rfl)
theorem dX4_init_33 : decode cX4_init 33 = .ok (.aload_n 0, 1) := dk_42 (dk_at dksX4_init_1 9 rfl rfl)
theorem dX4_init_34 : decode cX4_init 34 = .ok (.iconst 5, 1) := dk_8 (dk_at dksX4_init_1 10 rfl rfl)
theorem dX4_init_35 : decode cX4_init 35 = .ok (.putfield 186, 3) := dk_181 0 186 (dk_at dksX4_init_1 11 rfl rfl)
theorem dX4_init_38 : decode cX4_init 38 = .ok (.aload_n 0, 1) := dk_42 (dk_at dksX4_init_1 14 rfl rfl)
theorem dX4_init_39 : decode cX4_init 39 = .ok (.bipush 6, 2) := dk_16 6 (dk_at dksX4_init_1 15 rfl rfl)
theorem dX4_init_41 : decode cX4_init 41 = .ok (.newarray .long, 2) := dk_188_11 (dk_at dksX4_init_1 17 rfl rfl)
theorem dX4_init_43 : decode cX4_init 43 = .ok (.putfield 66, 3) := dk_181 0 66 (dk_at dksX4_init_1 19 rfl rfl)
theorem dX4_init_46 : decode cX4_init 46 = .ok (.aload_n 0, 1) := dk_42 (dk_at dksX4_init_1 22 rfl rfl)
theorem dX4_init_47 : decode cX4_init 47 = .ok (.bipush 10, 2) := dk_16 10 (dk_at dksX4_init_2 0 rfl rfl)
theorem dX4_init_49 : decode cX4_init 49 = .ok (.newarray .int, 2) := dk_188_10 (dk_at dksX4_init_2 2 rfl rfl)
theorem dX4_init_51 : decode cX4_init 51 = .ok (.putfield 188, 3) := dk_181 0 188 (dk_at dksX4_init_2 4 rfl rfl)
theorem dX4_init_54 : decode cX4_init 54 = .ok (.aload_n 0, 1) := dk_42 (dk_at dksX4_init_2 7 rfl rfl)
theorem dX4_init_55 : decode cX4_init 55 = .ok (.bipush 10, 2) := dk_16 10 (dk_at dksX4_init_2 8 rfl rfl)
theorem dX4_init_57 : decode cX4_init 57 = .ok (.newarray .int, 2) := dk_188_10 (dk_at dksX4_init_2 10 rfl rfl)
theorem dX4_init_59 : decode cX4_init 59 = .ok (.putfield 191, 3) := dk_181 0 191 (dk_at dksX4_init_2 12 rfl rfl)
theorem dX4_init_62 : decode cX4_init 62 = .ok (.aload_n 0, 1) := dk_42 (dk_at dksX4_init_2 15 rfl rfl)
theorem dX4_init_63 : decode cX4_init 63 = .ok (.bipush 10, 2) := dk_16 10 (dk_at dksX4_init_2 16 rfl rfl)
theorem dX4_init_65 : decode cX4_init 65 = .ok (.newarray .int, 2) := dk_188_10 (dk_at dksX4_init_2 18 rfl rfl)
theorem dX4_init_67 : decode cX4_init 67 = .ok (.putfield 194, 3) := dk_181 0 194 (dk_at dksX4_init_2 20 rfl rfl)
theorem dX4_init_70 : decode cX4_init 70 = .ok (.aload_n 0, 1) := dk_42 (dk_at dksX4_init_2 23 rfl rfl)
theorem dX4_init_71 : decode cX4_init 71 = .ok (.bipush 6, 2) := dk_16 6 (dk_at dksX4_init_3 0 rfl rfl)
theorem dX4_init_73 : decode cX4_init 73 = .ok (.newarray .int, 2) := dk_188_10 (dk_at dksX4_init_3 2 rfl rfl)
theorem dX4_init_75 : decode cX4_init 75 = .ok (.putfield 197, 3) := dk_181 0 197 (dk_at dksX4_init_3 4 rfl rfl)
theorem dX4_init_78 : decode cX4_init 78 = .ok (.aload_n 0, 1) := dk_42 (dk_at dksX4_init_3 7 rfl rfl)
theorem dX4_init_79 : decode cX4_init 79 = .ok (.bipush 10, 2) := dk_16 10 (dk_at dksX4_init_3 8 rfl rfl)
theorem dX4_init_81 : decode cX4_init 81 = .ok (.newarray .int, 2) := dk_188_10 (dk_at dksX4_init_3 10 rfl rfl)
theorem dX4_init_83 : decode cX4_init 83 = .ok (.putfield 80, 3) := dk_181 0 80 (dk_at dksX4_init_3 12 rfl rfl)
theorem dX4_init_86 : decode cX4_init 86 = .ok (.aload_n 0, 1) := dk_42 (dk_at dksX4_init_3 15 rfl rfl)
theorem dX4_init_87 : decode cX4_init 87 = .ok (.bipush 10, 2) := dk_16 10 (dk_at dksX4_init_3 16 rfl rfl)
theorem dX4_init_89 : decode cX4_init 89 = .ok (.newarray .int, 2) := dk_188_10 (dk_at dksX4_init_3 18 rfl rfl)
theorem dX4_init_91 : decode cX4_init 91 = .ok (.putfield 84, 3) := dk_181 0 84 (dk_at dksX4_init_3 20 rfl rfl)
theorem dX4_init_94 : decode cX4_init 94 = .ok (.aload_n 0, 1) := dk_42 (dk_at dksX4_init_3 23 rfl rfl)
theorem dX4_init_95 : decode cX4_init 95 = .ok (.bipush 10, 2) := dk_16 10 (dk_at dksX4_init_4 0 rfl rfl)
theorem dX4_init_97 : decode cX4_init 97 = .ok (.newarray .int, 2) := dk_188_10 (dk_at dksX4_init_4 2 rfl rfl)
theorem dX4_init_99 : decode cX4_init 99 = .ok (.putfield 98, 3) := dk_181 0 98 (dk_at dksX4_init_4 4 rfl rfl)
theorem dX4_init_102 : decode cX4_init 102 = .ok (.aload_n 0, 1) := dk_42 (dk_at dksX4_init_4 7 rfl rfl)
theorem dX4_init_103 : decode cX4_init 103 = .ok (.bipush 6, 2) := dk_16 6 (dk_at dksX4_init_4 8 rfl rfl)
theorem dX4_init_105 : decode cX4_init 105 = .ok (.newarray .int, 2) := dk_188_10 (dk_at dksX4_init_4 10 rfl rfl)
theorem dX4_init_107 : decode cX4_init 107 = .ok (.putfield 104, 3) := dk_181 0 104 (dk_at dksX4_init_4 12 rfl rfl)
theorem dX4_init_110 : decode cX4_init 110 = .ok (.aload_n 0, 1) := dk_42 (dk_at dksX4_init_4 15 rfl rfl)
theorem dX4_init_111 : decode cX4_init 111 = .ok (.sipush 1024, 3) := dk_17 4 0 (dk_at dksX4_init_4 16 rfl rfl)
theorem dX4_init_114 : decode cX4_init 114 = .ok (.newarray .int, 2) := dk_188_10 (dk_at dksX4_init_4 19 rfl rfl)
theorem dX4_init_116 : decode cX4_init 116 = .ok (.putfield 200, 3) := dk_181 0 200 (dk_at dksX4_init_4 21 rfl rfl)
theorem dX4_init_119 : decode cX4_init 119 = .ok (.aload_n 0, 1) := dk_42 (dk_at dksX4_init_5 0 rfl rfl)
theorem dX4_init_120 : decode cX4_init 120 = .ok (.sipush 6144, 3) := dk_17 24 0 (dk_at dksX4_init_5 1 rfl rfl)
theorem dX4_init_123 : decode cX4_init 123 = .ok (.newarray .int, 2) := dk_188_10 (dk_at dksX4_init_5 4 rfl rfl)
theorem dX4_init_125 : decode cX4_init 125 = .ok (.putfield 203, 3) := dk_181 0 203 (dk_at dksX4_init_5 6 rfl rfl)
theorem dX4_init_128 : decode cX4_init 128 = .ok (.aload_n 0, 1) := dk_42 (dk_at dksX4_init_5 9 rfl rfl)
theorem dX4_init_129 : decode cX4_init 129 = .ok (.sipush 1024, 3) := dk_17 4 0 (dk_at dksX4_init_5 10 rfl rfl)
theorem dX4_init_132 : decode cX4_init 132 = .ok (.newarray .int, 2) := dk_188_10 (dk_at dksX4_init_5 13 rfl rfl)
theorem dX4_init_134 : decode cX4_init 134 = .ok (.putfield 206, 3) := dk_181 0 206 (dk_at dksX4_init_5 15 rfl rfl)
theorem dX4_init_137 : decode cX4_init 137 = .ok (.aload_n 0, 1) := dk_42 (dk_at dksX4_init_5 18 rfl rfl)
theorem dX4_init_138 : decode cX4_init 138 = .ok (.bipush 10, 2) := dk_16 10 (dk_at dksX4_init_5 19 rfl rfl)
theorem dX4_init_140 : decode cX4_init 140 = .ok (.newarray .int, 2) := dk_188_10 (dk_at dksX4_init_5 21 rfl rfl)
theorem dX4_init_142 : decode cX4_init 142 = .ok (.putfield 209, 3) := dk_181 0 209 (dk_at dksX4_init_6 0 rfl rfl)
theorem dX4_init_145 : decode cX4_init 145 = .ok (.aload_n 0, 1) := dk_42 (dk_at dksX4_init_6 3 rfl rfl)
theorem dX4_init_146 : decode cX4_init 146 = .ok (.bipush 10, 2) := dk_16 10 (dk_at dksX4_init_6 4 rfl rfl)
theorem dX4_init_148 : decode cX4_init 148 = .ok (.newarray .long, 2) := dk_188_11 (dk_at dksX4_init_6 6 rfl rfl)
theorem dX4_init_150 : decode cX4_init 150 = .ok (.putfield 212, 3) := dk_181 0 212 (dk_at dksX4_init_6 8 rfl rfl)
theorem dX4_init_153 : decode cX4_init 153 = .ok (.aload_n 0, 1) := dk_42 (dk_at dksX4_init_6 11 rfl rfl)
theorem dX4_init_154 : decode cX4_init 154 = .ok (.bipush 10, 2) := dk_16 10 (dk_at dksX4_init_6 12 rfl rfl)
theorem dX4_init_156 : decode cX4_init 156 = .ok (.newarray .int, 2) := dk_188_10 (dk_at dksX4_init_6 14 rfl rfl)
theorem dX4_init_158 : decode cX4_init 158 = .ok (.putfield 215, 3) := dk_181 0 215 (dk_at dksX4_init_6 16 rfl rfl)
theorem dX4_init_161 : decode cX4_init 161 = .ok (.aload_n 0, 1) := dk_42 (dk_at dksX4_init_6 19 rfl rfl)
theorem dX4_init_162 : decode cX4_init 162 = .ok (.bipush 10, 2) := dk_16 10 (dk_at dksX4_init_6 20 rfl rfl)
theorem dX4_init_164 : decode cX4_init 164 = .ok (.newarray .int, 2) := dk_188_10 (dk_at dksX4_init_6 22 rfl rfl)
theorem dX4_init_166 : decode cX4_init 166 = .ok (.putfield 217, 3) := dk_181 0 217 (dk_at dksX4_init_7 0 rfl rfl)
theorem dX4_init_169 : decode cX4_init 169 = .ok (.aload_n 0, 1) := dk_42 (dk_at dksX4_init_7 3 rfl rfl)
theorem dX4_init_170 : decode cX4_init 170 = .ok (.sipush 2010, 3) := dk_17 7 218 (dk_at dksX4_init_7 4 rfl rfl)
theorem dX4_init_173 : decode cX4_init 173 = .ok (.newarray .int, 2) := dk_188_10 (dk_at dksX4_init_7 7 rfl rfl)
theorem dX4_init_175 : decode cX4_init 175 = .ok (.putfield 220, 3) := dk_181 0 220 (dk_at dksX4_init_7 9 rfl rfl)
theorem dX4_init_178 : decode cX4_init 178 = .ok (.aload_n 0, 1) := dk_42 (dk_at dksX4_init_7 12 rfl rfl)
theorem dX4_init_179 : decode cX4_init 179 = .ok (.sipush 2010, 3) := dk_17 7 218 (dk_at dksX4_init_7 13 rfl rfl)
theorem dX4_init_182 : decode cX4_init 182 = .ok (.newarray .int, 2) := dk_188_10 (dk_at dksX4_init_7 16 rfl rfl)
theorem dX4_init_184 : decode cX4_init 184 = .ok (.putfield 223, 3) := dk_181 0 223 (dk_at dksX4_init_7 18 rfl rfl)
theorem dX4_init_187 : decode cX4_init 187 = .ok (.aload_n 0, 1) := dk_42 (dk_at dksX4_init_7 21 rfl rfl)
theorem dX4_init_188 : decode cX4_init 188 = .ok (.iconst (-1), 1) := dk_2 (dk_at dksX4_init_7 22 rfl rfl)
theorem dX4_init_189 : decode cX4_init 189 = .ok (.putfield 226, 3) := dk_181 0 226 (dk_at dksX4_init_8 0 rfl rfl)
theorem dX4_init_192 : decode cX4_init 192 = .ok (.aload_n 0, 1) := dk_42 (dk_at dksX4_init_8 3 rfl rfl)
theorem dX4_init_193 : decode cX4_init 193 = .ok (.bipush 40, 2) := dk_16 40 (dk_at dksX4_init_8 4 rfl rfl)
theorem dX4_init_195 : decode cX4_init 195 = .ok (.newarray .int, 2) := dk_188_10 (dk_at dksX4_init_8 6 rfl rfl)
theorem dX4_init_197 : decode cX4_init 197 = .ok (.putfield 229, 3) := dk_181 0 229 (dk_at dksX4_init_8 8 rfl rfl)
theorem dX4_init_200 : decode cX4_init 200 = .ok (.aload_n 0, 1) := dk_42 (dk_at dksX4_init_8 11 rfl rfl)
theorem dX4_init_201 : decode cX4_init 201 = .ok (.bipush 40, 2) := dk_16 40 (dk_at dksX4_init_8 12 rfl rfl)
theorem dX4_init_203 : decode cX4_init 203 = .ok (.newarray .int, 2) := dk_188_10 (dk_at dksX4_init_8 14 rfl rfl)
theorem dX4_init_205 : decode cX4_init 205 = .ok (.putfield 232, 3) := dk_181 0 232 (dk_at dksX4_init_8 16 rfl rfl)
theorem dX4_init_208 : decode cX4_init 208 = .ok (.aload_n 0, 1) := dk_42 (dk_at dksX4_init_8 19 rfl rfl)
theorem dX4_init_209 : decode cX4_init 209 = .ok (.iconst 4, 1) := dk_7 (dk_at dksX4_init_8 20 rfl rfl)
theorem dX4_init_210 : decode cX4_init 210 = .ok (.newarray .int, 2) := dk_188_10 (dk_at dksX4_init_8 21 rfl rfl)
theorem dX4_init_212 : decode cX4_init 212 = .ok (.putfield 235, 3) := dk_181 0 235 (dk_at dksX4_init_9 0 rfl rfl)
theorem dX4_init_215 : decode cX4_init 215 = .ok (.aload_n 0, 1) := dk_42 (dk_at dksX4_init_9 3 rfl rfl)
theorem dX4_init_216 : decode cX4_init 216 = .ok (.iconst 4, 1) := dk_7 (dk_at dksX4_init_9 4 rfl rfl)
theorem dX4_init_217 : decode cX4_init 217 = .ok (.newarray .boolean, 2) := dk_188_4 (dk_at dksX4_init_9 5 rfl rfl)
theorem dX4_init_219 : decode cX4_init 219 = .ok (.putfield 238, 3) := dk_181 0 238 (dk_at dksX4_init_9 7 rfl rfl)
theorem dX4_init_222 : decode cX4_init 222 = .ok (.aload_n 0, 1) := dk_42 (dk_at dksX4_init_9 10 rfl rfl)
theorem dX4_init_223 : decode cX4_init 223 = .ok (.bipush 6, 2) := dk_16 6 (dk_at dksX4_init_9 11 rfl rfl)
theorem dX4_init_225 : decode cX4_init 225 = .ok (.newarray .int, 2) := dk_188_10 (dk_at dksX4_init_9 13 rfl rfl)
theorem dX4_init_227 : decode cX4_init 227 = .ok (.putfield 242, 3) := dk_181 0 242 (dk_at dksX4_init_9 15 rfl rfl)
theorem dX4_init_230 : decode cX4_init 230 = .ok (.aload_n 0, 1) := dk_42 (dk_at dksX4_init_9 18 rfl rfl)
theorem dX4_init_231 : decode cX4_init 231 = .ok (.bipush 121, 2) := dk_16 121 (dk_at dksX4_init_9 19 rfl rfl)
theorem dX4_init_233 : decode cX4_init 233 = .ok (.newarray .int, 2) := dk_188_10 (dk_at dksX4_init_9 21 rfl rfl)
theorem dX4_init_235 : decode cX4_init 235 = .ok (.putfield 245, 3) := dk_181 0 245 (dk_at dksX4_init_10 0 rfl rfl)
theorem dX4_init_238 : decode cX4_init 238 = .ok (.aload_n 0, 1) := dk_42 (dk_at dksX4_init_10 3 rfl rfl)
theorem dX4_init_239 : decode cX4_init 239 = .ok (.bipush 121, 2) := dk_16 121 (dk_at dksX4_init_10 4 rfl rfl)
theorem dX4_init_241 : decode cX4_init 241 = .ok (.newarray .int, 2) := dk_188_10 (dk_at dksX4_init_10 6 rfl rfl)
theorem dX4_init_243 : decode cX4_init 243 = .ok (.putfield 248, 3) := dk_181 0 248 (dk_at dksX4_init_10 8 rfl rfl)
theorem dX4_init_246 : decode cX4_init 246 = .ok (.aload_n 0, 1) := dk_42 (dk_at dksX4_init_10 11 rfl rfl)
theorem dX4_init_247 : decode cX4_init 247 = .ok (.sipush 18081, 3) := dk_17 70 161 (dk_at dksX4_init_10 12 rfl rfl)
theorem dX4_init_250 : decode cX4_init 250 = .ok (.newarray .int, 2) := dk_188_10 (dk_at dksX4_init_10 15 rfl rfl)
theorem dX4_init_252 : decode cX4_init 252 = .ok (.putfield 251, 3) := dk_181 0 251 (dk_at dksX4_init_10 17 rfl rfl)
theorem dX4_init_255 : decode cX4_init 255 = .ok (.aload_n 0, 1) := dk_42 (dk_at dksX4_init_10 20 rfl rfl)
theorem dX4_init_256 : decode cX4_init 256 = .ok (.bipush 10, 2) := dk_16 10 (dk_at dksX4_init_10 21 rfl rfl)
theorem dX4_init_258 : decode cX4_init 258 = .ok (.newarray .int, 2) := dk_188_10 (dk_at dksX4_init_11 0 rfl rfl)
theorem dX4_init_260 : decode cX4_init 260 = .ok (.putfield 254, 3) := dk_181 0 254 (dk_at dksX4_init_11 2 rfl rfl)
theorem dX4_init_263 : decode cX4_init 263 = .ok (.aload_n 0, 1) := dk_42 (dk_at dksX4_init_11 5 rfl rfl)
theorem dX4_init_264 : decode cX4_init 264 = .ok (.bipush 10, 2) := dk_16 10 (dk_at dksX4_init_11 6 rfl rfl)
theorem dX4_init_266 : decode cX4_init 266 = .ok (.newarray .int, 2) := dk_188_10 (dk_at dksX4_init_11 8 rfl rfl)
theorem dX4_init_268 : decode cX4_init 268 = .ok (.putfield 257, 3) := dk_181 1 1 (dk_at dksX4_init_11 10 rfl rfl)
theorem dX4_init_271 : decode cX4_init 271 = .ok (.aload_n 0, 1) := dk_42 (dk_at dksX4_init_11 13 rfl rfl)
theorem dX4_init_272 : decode cX4_init 272 = .ok (.bipush 16, 2) := dk_16 16 (dk_at dksX4_init_11 14 rfl rfl)
theorem dX4_init_274 : decode cX4_init 274 = .ok (.newarray .int, 2) := dk_188_10 (dk_at dksX4_init_11 16 rfl rfl)
theorem dX4_init_276 : decode cX4_init 276 = .ok (.putfield 260, 3) := dk_181 1 4 (dk_at dksX4_init_11 18 rfl rfl)
theorem dX4_init_279 : decode cX4_init 279 = .ok (.aload_n 0, 1) := dk_42 (dk_at dksX4_init_11 21 rfl rfl)
theorem dX4_init_280 : decode cX4_init 280 = .ok (.bipush 16, 2) := dk_16 16 (dk_at dksX4_init_11 22 rfl rfl)
theorem dX4_init_282 : decode cX4_init 282 = .ok (.newarray .int, 2) := dk_188_10 (dk_at dksX4_init_12 0 rfl rfl)
theorem dX4_init_284 : decode cX4_init 284 = .ok (.putfield 263, 3) := dk_181 1 7 (dk_at dksX4_init_12 2 rfl rfl)
theorem dX4_init_287 : decode cX4_init 287 = .ok (.aload_n 0, 1) := dk_42 (dk_at dksX4_init_12 5 rfl rfl)
theorem dX4_init_288 : decode cX4_init 288 = .ok (.bipush 16, 2) := dk_16 16 (dk_at dksX4_init_12 6 rfl rfl)
theorem dX4_init_290 : decode cX4_init 290 = .ok (.newarray .int, 2) := dk_188_10 (dk_at dksX4_init_12 8 rfl rfl)
theorem dX4_init_292 : decode cX4_init 292 = .ok (.putfield 266, 3) := dk_181 1 10 (dk_at dksX4_init_12 10 rfl rfl)
theorem dX4_init_295 : decode cX4_init 295 = .ok (.aload_n 0, 1) := dk_42 (dk_at dksX4_init_12 13 rfl rfl)
theorem dX4_init_296 : decode cX4_init 296 = .ok (.bipush 20, 2) := dk_16 20 (dk_at dksX4_init_12 14 rfl rfl)
theorem dX4_init_298 : decode cX4_init 298 = .ok (.newarray .int, 2) := dk_188_10 (dk_at dksX4_init_12 16 rfl rfl)
theorem dX4_init_300 : decode cX4_init 300 = .ok (.putfield 269, 3) := dk_181 1 13 (dk_at dksX4_init_12 18 rfl rfl)
theorem dX4_init_303 : decode cX4_init 303 = .ok (.aload_n 0, 1) := dk_42 (dk_at dksX4_init_12 21 rfl rfl)
theorem dX4_init_304 : decode cX4_init 304 = .ok (.bipush 20, 2) := dk_16 20 (dk_at dksX4_init_12 22 rfl rfl)
theorem dX4_init_306 : decode cX4_init 306 = .ok (.newarray .int, 2) := dk_188_10 (dk_at dksX4_init_13 0 rfl rfl)
theorem dX4_init_308 : decode cX4_init 308 = .ok (.putfield 272, 3) := dk_181 1 16 (dk_at dksX4_init_13 2 rfl rfl)
theorem dX4_init_311 : decode cX4_init 311 = .ok (.aload_n 0, 1) := dk_42 (dk_at dksX4_init_13 5 rfl rfl)
theorem dX4_init_312 : decode cX4_init 312 = .ok (.bipush 20, 2) := dk_16 20 (dk_at dksX4_init_13 6 rfl rfl)
theorem dX4_init_314 : decode cX4_init 314 = .ok (.newarray .int, 2) := dk_188_10 (dk_at dksX4_init_13 8 rfl rfl)
theorem dX4_init_316 : decode cX4_init 316 = .ok (.putfield 275, 3) := dk_181 1 19 (dk_at dksX4_init_13 10 rfl rfl)
theorem dX4_init_319 : decode cX4_init 319 = .ok (.aload_n 0, 1) := dk_42 (dk_at dksX4_init_13 13 rfl rfl)
theorem dX4_init_320 : decode cX4_init 320 = .ok (.sipush 1024, 3) := dk_17 4 0 (dk_at dksX4_init_13 14 rfl rfl)
theorem dX4_init_323 : decode cX4_init 323 = .ok (.newarray .int, 2) := dk_188_10 (dk_at dksX4_init_13 17 rfl rfl)
theorem dX4_init_325 : decode cX4_init 325 = .ok (.putfield 278, 3) := dk_181 1 22 (dk_at dksX4_init_13 19 rfl rfl)
theorem dX4_init_328 : decode cX4_init 328 = .ok (.aload_n 0, 1) := dk_42 (dk_at dksX4_init_13 22 rfl rfl)
theorem dX4_init_329 : decode cX4_init 329 = .ok (.invokevirtual 281, 3) := dk_182 1 25 (dk_at dksX4_init_14 0 rfl rfl)
theorem dX4_init_332 : decode cX4_init 332 = .ok (.return_, 1) := dk_177 (dk_at dksX4_init_14 3 rfl rfl)
abbrev cX4_findTrees : ByteArray := prog_9_method_28_code
def yX4_findTrees : MethodName := ⟨RX4, "findTrees", "()V"⟩
def dkwX4_findTrees_0 : List UInt8 := [4, 60, 27, 4, 42, 180, 1, 41, 120, 162, 0, 14, 42, 27, 182, 1, 83, 132, 1, 1, 167, 255, 238, 177]
abbrev dktX4_findTrees_0 : List UInt8 := dkwX4_findTrees_0 ++ []
theorem dksX4_findTrees_0 : cX4_findTrees.data.toList.drop 0 = dktX4_findTrees_0 := by decide +kernel
theorem dX4_findTrees_0 : decode cX4_findTrees 0 = .ok (.iconst 1, 1) := dk_4 (dk_at dksX4_findTrees_0 0 rfl rfl)
theorem dX4_findTrees_1 : decode cX4_findTrees 1 = .ok (.istore_n 1, 1) := dk_60 (dk_at dksX4_findTrees_0 1 rfl rfl)
theorem dX4_findTrees_2 : decode cX4_findTrees 2 = .ok (.iload_n 1, 1) := dk_27 (dk_at dksX4_findTrees_0 2 rfl rfl)
theorem dX4_findTrees_3 : decode cX4_findTrees 3 = .ok (.iconst 1, 1) := dk_4 (dk_at dksX4_findTrees_0 3 rfl rfl)
theorem dX4_findTrees_4 : decode cX4_findTrees 4 = .ok (.aload_n 0, 1) := dk_42 (dk_at dksX4_findTrees_0 4 rfl rfl)
theorem dX4_findTrees_5 : decode cX4_findTrees 5 = .ok (.getfield 297, 3) := dk_180 1 41 (dk_at dksX4_findTrees_0 5 rfl rfl)
theorem dX4_findTrees_8 : decode cX4_findTrees 8 = .ok (.ishl, 1) := dk_120 (dk_at dksX4_findTrees_0 8 rfl rfl)
theorem dX4_findTrees_9 : decode cX4_findTrees 9 = .ok (.if_icmp .ge 14, 3) := dk_162 0 14 (dk_at dksX4_findTrees_0 9 rfl rfl)
theorem dX4_findTrees_12 : decode cX4_findTrees 12 = .ok (.aload_n 0, 1) := dk_42 (dk_at dksX4_findTrees_0 12 rfl rfl)
theorem dX4_findTrees_13 : decode cX4_findTrees 13 = .ok (.iload_n 1, 1) := dk_27 (dk_at dksX4_findTrees_0 13 rfl rfl)
theorem dX4_findTrees_14 : decode cX4_findTrees 14 = .ok (.invokevirtual 339, 3) := dk_182 1 83 (dk_at dksX4_findTrees_0 14 rfl rfl)
theorem dX4_findTrees_17 : decode cX4_findTrees 17 = .ok (.iinc 1 1, 3) := dk_132 1 1 (dk_at dksX4_findTrees_0 17 rfl rfl)
theorem dX4_findTrees_20 : decode cX4_findTrees 20 = .ok (.goto (-18), 3) := dk_167 255 238 (dk_at dksX4_findTrees_0 20 rfl rfl)
theorem dX4_findTrees_23 : decode cX4_findTrees 23 = .ok (.return_, 1) := dk_177 (dk_at dksX4_findTrees_0 23 rfl rfl)
abbrev cX4_findTree : ByteArray := prog_9_method_29_code
def yX4_findTree : MethodName := ⟨RX4, "findTree", "(I)V"⟩
def dkwX4_findTree_14 : List UInt8 := [180, 0, 200, 27, 29, 79, 177]
abbrev dktX4_findTree_14 : List UInt8 := dkwX4_findTree_14 ++ []
def dkwX4_findTree_13 : List UInt8 := [3, 128, 79, 4, 54, 5, 132, 6, 1, 167, 255, 41, 167, 255, 27, 21, 4, 27, 160, 0, 10, 42]
abbrev dktX4_findTree_13 : List UInt8 := dkwX4_findTree_13 ++ dktX4_findTree_14
def dkwX4_findTree_12 : List UInt8 := [21, 6, 120, 128, 79, 42, 180, 0, 206, 27, 92, 46, 21, 7, 153, 0, 10, 4, 21, 6, 120, 167, 0, 4]
abbrev dktX4_findTree_12 : List UInt8 := dkwX4_findTree_12 ++ dktX4_findTree_13
def dkwX4_findTree_11 : List UInt8 := [180, 0, 203, 16, 6, 27, 104, 21, 10, 96, 42, 180, 0, 203, 16, 6, 27, 104, 21, 9, 96, 46, 4]
abbrev dktX4_findTree_11 : List UInt8 := dkwX4_findTree_11 ++ dktX4_findTree_12
def dkwX4_findTree_10 : List UInt8 := [21, 6, 46, 167, 0, 10, 42, 180, 0, 188, 21, 6, 46, 54, 10, 29, 4, 21, 10, 120, 128, 62, 42]
abbrev dktX4_findTree_10 : List UInt8 := dkwX4_findTree_10 ++ dktX4_findTree_11
def dkwX4_findTree_9 : List UInt8 := [21, 6, 46, 167, 0, 10, 42, 180, 0, 191, 21, 6, 46, 54, 9, 21, 7, 153, 0, 13, 42, 180, 0, 191]
abbrev dktX4_findTree_9 : List UInt8 := dkwX4_findTree_9 ++ dktX4_findTree_10
def dkwX4_findTree_8 : List UInt8 := [154, 0, 6, 167, 0, 121, 21, 4, 4, 21, 6, 120, 128, 54, 4, 21, 7, 153, 0, 13, 42, 180, 0, 188]
abbrev dktX4_findTree_8 : List UInt8 := dkwX4_findTree_8 ++ dktX4_findTree_9
def dkwX4_findTree_7 : List UInt8 := [167, 0, 4, 3, 54, 8, 21, 7, 153, 0, 9, 21, 8, 153, 0, 4, 177, 21, 7, 154, 0, 11, 21, 8]
abbrev dktX4_findTree_7 : List UInt8 := dkwX4_findTree_7 ++ dktX4_findTree_8
def dkwX4_findTree_6 : List UInt8 := [167, 0, 4, 3, 54, 7, 29, 42, 180, 0, 191, 21, 6, 46, 122, 4, 126, 4, 160, 0, 7, 4]
abbrev dktX4_findTree_6 : List UInt8 := dkwX4_findTree_6 ++ dktX4_findTree_7
def dkwX4_findTree_5 : List UInt8 := [154, 0, 6, 167, 0, 189, 29, 42, 180, 0, 188, 21, 6, 46, 122, 4, 126, 4, 160, 0, 7, 4]
abbrev dktX4_findTree_5 : List UInt8 := dkwX4_findTree_5 ++ dktX4_findTree_6
def dkwX4_findTree_4 : List UInt8 := [54, 6, 21, 6, 42, 180, 1, 41, 162, 0, 212, 27, 21, 4, 2, 130, 126, 4, 21, 6, 120, 126]
abbrev dktX4_findTree_4 : List UInt8 := dkwX4_findTree_4 ++ dktX4_findTree_5
def dkwX4_findTree_3 : List UInt8 := [180, 0, 203, 16, 6, 27, 104, 28, 96, 3, 79, 4, 54, 5, 21, 5, 153, 0, 230, 3, 54, 5, 3]
abbrev dktX4_findTree_3 : List UInt8 := dkwX4_findTree_3 ++ dktX4_findTree_4
def dkwX4_findTree_2 : List UInt8 := [46, 184, 1, 86, 184, 1, 86, 61, 132, 3, 1, 167, 255, 216, 4, 28, 120, 62, 3, 54, 4, 42]
abbrev dktX4_findTree_2 : List UInt8 := dkwX4_findTree_2 ++ dktX4_findTree_3
def dkwX4_findTree_1 : List UInt8 := [162, 0, 38, 27, 29, 122, 4, 126, 4, 160, 0, 23, 28, 42, 180, 0, 188, 29, 46, 42, 180, 0, 191, 29]
abbrev dktX4_findTree_1 : List UInt8 := dkwX4_findTree_1 ++ dktX4_findTree_2
def dkwX4_findTree_0 : List UInt8 := [42, 180, 0, 200, 27, 3, 79, 42, 180, 0, 206, 27, 3, 79, 16, 6, 61, 3, 62, 29, 42, 180, 1, 41]
abbrev dktX4_findTree_0 : List UInt8 := dkwX4_findTree_0 ++ dktX4_findTree_1
theorem dksX4_findTree_0 : cX4_findTree.data.toList.drop 0 = dktX4_findTree_0 := by decide +kernel
theorem dksX4_findTree_1 : cX4_findTree.data.toList.drop 24 = dktX4_findTree_1 := dk_seg dksX4_findTree_0 24 rfl rfl
theorem dksX4_findTree_2 : cX4_findTree.data.toList.drop 48 = dktX4_findTree_2 := dk_seg dksX4_findTree_1 24 rfl rfl
theorem dksX4_findTree_3 : cX4_findTree.data.toList.drop 70 = dktX4_findTree_3 := dk_seg dksX4_findTree_2 22 rfl rfl
theorem dksX4_findTree_4 : cX4_findTree.data.toList.drop 93 = dktX4_findTree_4 := dk_seg dksX4_findTree_3 23 rfl rfl
theorem dksX4_findTree_5 : cX4_findTree.data.toList.drop 115 = dktX4_findTree_5 := dk_seg dksX4_findTree_4 22 rfl rfl
theorem dksX4_findTree_6 : cX4_findTree.data.toList.drop 137 = dktX4_findTree_6 := dk_seg dksX4_findTree_5 22 rfl rfl
theorem dksX4_findTree_7 : cX4_findTree.data.toList.drop 159 = dktX4_findTree_7 := dk_seg dksX4_findTree_6 22 rfl rfl
theorem dksX4_findTree_8 : cX4_findTree.data.toList.drop 183 = dktX4_findTree_8 := dk_seg dksX4_findTree_7 24 rfl rfl
theorem dksX4_findTree_9 : cX4_findTree.data.toList.drop 207 = dktX4_findTree_9 := dk_seg dksX4_findTree_8 24 rfl rfl
theorem dksX4_findTree_10 : cX4_findTree.data.toList.drop 231 = dktX4_findTree_10 := dk_seg dksX4_findTree_9 24 rfl rfl
theorem dksX4_findTree_11 : cX4_findTree.data.toList.drop 254 = dktX4_findTree_11 := dk_seg dksX4_findTree_10 23 rfl rfl
theorem dksX4_findTree_12 : cX4_findTree.data.toList.drop 277 = dktX4_findTree_12 := dk_seg dksX4_findTree_11 23 rfl rfl
theorem dksX4_findTree_13 : cX4_findTree.data.toList.drop 301 = dktX4_findTree_13 := dk_seg dksX4_findTree_12 24 rfl rfl
theorem dksX4_findTree_14 : cX4_findTree.data.toList.drop 323 = dktX4_findTree_14 := dk_seg dksX4_findTree_13 22 rfl rfl
theorem dX4_findTree_0 : decode cX4_findTree 0 = .ok (.aload_n 0, 1) := dk_42 (dk_at dksX4_findTree_0 0 rfl rfl)
theorem dX4_findTree_1 : decode cX4_findTree 1 = .ok (.getfield 200, 3) := dk_180 0 200 (dk_at dksX4_findTree_0 1 rfl rfl)
theorem dX4_findTree_4 : decode cX4_findTree 4 = .ok (.iload_n 1, 1) := dk_27 (dk_at dksX4_findTree_0 4 rfl rfl)
theorem dX4_findTree_5 : decode cX4_findTree 5 = .ok (.iconst 0, 1) := dk_3 (dk_at dksX4_findTree_0 5 rfl rfl)
theorem dX4_findTree_6 : decode cX4_findTree 6 = .ok (.iastore, 1) := dk_79 (dk_at dksX4_findTree_0 6 rfl rfl)
theorem dX4_findTree_7 : decode cX4_findTree 7 = .ok (.aload_n 0, 1) := dk_42 (dk_at dksX4_findTree_0 7 rfl rfl)
theorem dX4_findTree_8 : decode cX4_findTree 8 = .ok (.getfield 206, 3) := dk_180 0 206 (dk_at dksX4_findTree_0 8 rfl rfl)
theorem dX4_findTree_11 : decode cX4_findTree 11 = .ok (.iload_n 1, 1) := dk_27 (dk_at dksX4_findTree_0 11 rfl rfl)
theorem dX4_findTree_12 : decode cX4_findTree 12 = .ok (.iconst 0, 1) := dk_3 (dk_at dksX4_findTree_0 12 rfl rfl)
theorem dX4_findTree_13 : decode cX4_findTree 13 = .ok (.iastore, 1) := dk_79 (dk_at dksX4_findTree_0 13 rfl rfl)
theorem dX4_findTree_14 : decode cX4_findTree 14 = .ok (.bipush 6, 2) := dk_16 6 (dk_at dksX4_findTree_0 14 rfl rfl)
theorem dX4_findTree_16 : decode cX4_findTree 16 = .ok (.istore_n 2, 1) := dk_61 (dk_at dksX4_findTree_0 16 rfl rfl)
theorem dX4_findTree_17 : decode cX4_findTree 17 = .ok (.iconst 0, 1) := dk_3 (dk_at dksX4_findTree_0 17 rfl rfl)
theorem dX4_findTree_18 : decode cX4_findTree 18 = .ok (.istore_n 3, 1) := dk_62 (dk_at dksX4_findTree_0 18 rfl rfl)
theorem dX4_findTree_19 : decode cX4_findTree 19 = .ok (.iload_n 3, 1) := dk_29 (dk_at dksX4_findTree_0 19 rfl rfl)
theorem dX4_findTree_20 : decode cX4_findTree 20 = .ok (.aload_n 0, 1) := dk_42 (dk_at dksX4_findTree_0 20 rfl rfl)
theorem dX4_findTree_21 : decode cX4_findTree 21 = .ok (.getfield 297, 3) := dk_180 1 41 (dk_at dksX4_findTree_0 21 rfl rfl)
theorem dX4_findTree_24 : decode cX4_findTree 24 = .ok (.if_icmp .ge 38, 3) := dk_162 0 38 (dk_at dksX4_findTree_1 0 rfl rfl)
theorem dX4_findTree_27 : decode cX4_findTree 27 = .ok (.iload_n 1, 1) := dk_27 (dk_at dksX4_findTree_1 3 rfl rfl)
theorem dX4_findTree_28 : decode cX4_findTree 28 = .ok (.iload_n 3, 1) := dk_29 (dk_at dksX4_findTree_1 4 rfl rfl)
theorem dX4_findTree_29 : decode cX4_findTree 29 = .ok (.ishr, 1) := dk_122 (dk_at dksX4_findTree_1 5 rfl rfl)
theorem dX4_findTree_30 : decode cX4_findTree 30 = .ok (.iconst 1, 1) := dk_4 (dk_at dksX4_findTree_1 6 rfl rfl)
theorem dX4_findTree_31 : decode cX4_findTree 31 = .ok (.iand, 1) := dk_126 (dk_at dksX4_findTree_1 7 rfl rfl)
theorem dX4_findTree_32 : decode cX4_findTree 32 = .ok (.iconst 1, 1) := dk_4 (dk_at dksX4_findTree_1 8 rfl rfl)
theorem dX4_findTree_33 : decode cX4_findTree 33 = .ok (.if_icmp .ne 23, 3) := dk_160 0 23 (dk_at dksX4_findTree_1 9 rfl rfl)
theorem dX4_findTree_36 : decode cX4_findTree 36 = .ok (.iload_n 2, 1) := dk_28 (dk_at dksX4_findTree_1 12 rfl rfl)
theorem dX4_findTree_37 : decode cX4_findTree 37 = .ok (.aload_n 0, 1) := dk_42 (dk_at dksX4_findTree_1 13 rfl rfl)
theorem dX4_findTree_38 : decode cX4_findTree 38 = .ok (.getfield 188, 3) := dk_180 0 188 (dk_at dksX4_findTree_1 14 rfl rfl)
theorem dX4_findTree_41 : decode cX4_findTree 41 = .ok (.iload_n 3, 1) := dk_29 (dk_at dksX4_findTree_1 17 rfl rfl)
theorem dX4_findTree_42 : decode cX4_findTree 42 = .ok (.iaload, 1) := dk_46 (dk_at dksX4_findTree_1 18 rfl rfl)
theorem dX4_findTree_43 : decode cX4_findTree 43 = .ok (.aload_n 0, 1) := dk_42 (dk_at dksX4_findTree_1 19 rfl rfl)
theorem dX4_findTree_44 : decode cX4_findTree 44 = .ok (.getfield 191, 3) := dk_180 0 191 (dk_at dksX4_findTree_1 20 rfl rfl)
theorem dX4_findTree_47 : decode cX4_findTree 47 = .ok (.iload_n 3, 1) := dk_29 (dk_at dksX4_findTree_1 23 rfl rfl)
theorem dX4_findTree_48 : decode cX4_findTree 48 = .ok (.iaload, 1) := dk_46 (dk_at dksX4_findTree_2 0 rfl rfl)
theorem dX4_findTree_49 : decode cX4_findTree 49 = .ok (.invokestatic 342, 3) := dk_184 1 86 (dk_at dksX4_findTree_2 1 rfl rfl)
theorem dX4_findTree_52 : decode cX4_findTree 52 = .ok (.invokestatic 342, 3) := dk_184 1 86 (dk_at dksX4_findTree_2 4 rfl rfl)
theorem dX4_findTree_55 : decode cX4_findTree 55 = .ok (.istore_n 2, 1) := dk_61 (dk_at dksX4_findTree_2 7 rfl rfl)
theorem dX4_findTree_56 : decode cX4_findTree 56 = .ok (.iinc 3 1, 3) := dk_132 3 1 (dk_at dksX4_findTree_2 8 rfl rfl)
theorem dX4_findTree_59 : decode cX4_findTree 59 = .ok (.goto (-40), 3) := dk_167 255 216 (dk_at dksX4_findTree_2 11 rfl rfl)
theorem dX4_findTree_62 : decode cX4_findTree 62 = .ok (.iconst 1, 1) := dk_4 (dk_at dksX4_findTree_2 14 rfl rfl)
theorem dX4_findTree_63 : decode cX4_findTree 63 = .ok (.iload_n 2, 1) := dk_28 (dk_at dksX4_findTree_2 15 rfl rfl)
theorem dX4_findTree_64 : decode cX4_findTree 64 = .ok (.ishl, 1) := dk_120 (dk_at dksX4_findTree_2 16 rfl rfl)
theorem dX4_findTree_65 : decode cX4_findTree 65 = .ok (.istore_n 3, 1) := dk_62 (dk_at dksX4_findTree_2 17 rfl rfl)
theorem dX4_findTree_66 : decode cX4_findTree 66 = .ok (.iconst 0, 1) := dk_3 (dk_at dksX4_findTree_2 18 rfl rfl)
theorem dX4_findTree_67 : decode cX4_findTree 67 = .ok (.istore 4, 2) := dk_54 4 (dk_at dksX4_findTree_2 19 rfl rfl)
theorem dX4_findTree_69 : decode cX4_findTree 69 = .ok (.aload_n 0, 1) := dk_42 (dk_at dksX4_findTree_2 21 rfl rfl)
theorem dX4_findTree_70 : decode cX4_findTree 70 = .ok (.getfield 203, 3) := dk_180 0 203 (dk_at dksX4_findTree_3 0 rfl rfl)
theorem dX4_findTree_73 : decode cX4_findTree 73 = .ok (.bipush 6, 2) := dk_16 6 (dk_at dksX4_findTree_3 3 rfl rfl)
theorem dX4_findTree_75 : decode cX4_findTree 75 = .ok (.iload_n 1, 1) := dk_27 (dk_at dksX4_findTree_3 5 rfl rfl)
theorem dX4_findTree_76 : decode cX4_findTree 76 = .ok (.imul, 1) := dk_104 (dk_at dksX4_findTree_3 6 rfl rfl)
theorem dX4_findTree_77 : decode cX4_findTree 77 = .ok (.iload_n 2, 1) := dk_28 (dk_at dksX4_findTree_3 7 rfl rfl)
theorem dX4_findTree_78 : decode cX4_findTree 78 = .ok (.iadd, 1) := dk_96 (dk_at dksX4_findTree_3 8 rfl rfl)
theorem dX4_findTree_79 : decode cX4_findTree 79 = .ok (.iconst 0, 1) := dk_3 (dk_at dksX4_findTree_3 9 rfl rfl)
theorem dX4_findTree_80 : decode cX4_findTree 80 = .ok (.iastore, 1) := dk_79 (dk_at dksX4_findTree_3 10 rfl rfl)
theorem dX4_findTree_81 : decode cX4_findTree 81 = .ok (.iconst 1, 1) := dk_4 (dk_at dksX4_findTree_3 11 rfl rfl)
theorem dX4_findTree_82 : decode cX4_findTree 82 = .ok (.istore 5, 2) := dk_54 5 (dk_at dksX4_findTree_3 12 rfl rfl)
theorem dX4_findTree_84 : decode cX4_findTree 84 = .ok (.iload 5, 2) := dk_21 5 (dk_at dksX4_findTree_3 14 rfl rfl)
theorem dX4_findTree_86 : decode cX4_findTree 86 = .ok (.ifCond .eq 230, 3) := dk_153 0 230 (dk_at dksX4_findTree_3 16 rfl rfl)
theorem dX4_findTree_89 : decode cX4_findTree 89 = .ok (.iconst 0, 1) := dk_3 (dk_at dksX4_findTree_3 19 rfl rfl)
theorem dX4_findTree_90 : decode cX4_findTree 90 = .ok (.istore 5, 2) := dk_54 5 (dk_at dksX4_findTree_3 20 rfl rfl)
theorem dX4_findTree_92 : decode cX4_findTree 92 = .ok (.iconst 0, 1) := dk_3 (dk_at dksX4_findTree_3 22 rfl rfl)
theorem dX4_findTree_93 : decode cX4_findTree 93 = .ok (.istore 6, 2) := dk_54 6 (dk_at dksX4_findTree_4 0 rfl rfl)
theorem dX4_findTree_95 : decode cX4_findTree 95 = .ok (.iload 6, 2) := dk_21 6 (dk_at dksX4_findTree_4 2 rfl rfl)
theorem dX4_findTree_97 : decode cX4_findTree 97 = .ok (.aload_n 0, 1) := dk_42 (dk_at dksX4_findTree_4 4 rfl rfl)
theorem dX4_findTree_98 : decode cX4_findTree 98 = .ok (.getfield 297, 3) := dk_180 1 41 (dk_at dksX4_findTree_4 5 rfl rfl)
theorem dX4_findTree_101 : decode cX4_findTree 101 = .ok (.if_icmp .ge 212, 3) := dk_162 0 212 (dk_at dksX4_findTree_4 8 rfl rfl)
theorem dX4_findTree_104 : decode cX4_findTree 104 = .ok (.iload_n 1, 1) := dk_27 (dk_at dksX4_findTree_4 11 rfl rfl)
theorem dX4_findTree_105 : decode cX4_findTree 105 = .ok (.iload 4, 2) := dk_21 4 (dk_at dksX4_findTree_4 12 rfl rfl)
theorem dX4_findTree_107 : decode cX4_findTree 107 = .ok (.iconst (-1), 1) := dk_2 (dk_at dksX4_findTree_4 14 rfl rfl)
theorem dX4_findTree_108 : decode cX4_findTree 108 = .ok (.ixor, 1) := dk_130 (dk_at dksX4_findTree_4 15 rfl rfl)
theorem dX4_findTree_109 : decode cX4_findTree 109 = .ok (.iand, 1) := dk_126 (dk_at dksX4_findTree_4 16 rfl rfl)
theorem dX4_findTree_110 : decode cX4_findTree 110 = .ok (.iconst 1, 1) := dk_4 (dk_at dksX4_findTree_4 17 rfl rfl)
theorem dX4_findTree_111 : decode cX4_findTree 111 = .ok (.iload 6, 2) := dk_21 6 (dk_at dksX4_findTree_4 18 rfl rfl)
theorem dX4_findTree_113 : decode cX4_findTree 113 = .ok (.ishl, 1) := dk_120 (dk_at dksX4_findTree_4 20 rfl rfl)
theorem dX4_findTree_114 : decode cX4_findTree 114 = .ok (.iand, 1) := dk_126 (dk_at dksX4_findTree_4 21 rfl rfl)
theorem dX4_findTree_115 : decode cX4_findTree 115 = .ok (.ifCond .ne 6, 3) := dk_154 0 6 (dk_at dksX4_findTree_5 0 rfl rfl)
theorem dX4_findTree_118 : decode cX4_findTree 118 = .ok (.goto 189, 3) := dk_167 0 189 (dk_at dksX4_findTree_5 3 rfl rfl)
theorem dX4_findTree_121 : decode cX4_findTree 121 = .ok (.iload_n 3, 1) := dk_29 (dk_at dksX4_findTree_5 6 rfl rfl)
theorem dX4_findTree_122 : decode cX4_findTree 122 = .ok (.aload_n 0, 1) := dk_42 (dk_at dksX4_findTree_5 7 rfl rfl)
theorem dX4_findTree_123 : decode cX4_findTree 123 = .ok (.getfield 188, 3) := dk_180 0 188 (dk_at dksX4_findTree_5 8 rfl rfl)
theorem dX4_findTree_126 : decode cX4_findTree 126 = .ok (.iload 6, 2) := dk_21 6 (dk_at dksX4_findTree_5 11 rfl rfl)
theorem dX4_findTree_128 : decode cX4_findTree 128 = .ok (.iaload, 1) := dk_46 (dk_at dksX4_findTree_5 13 rfl rfl)
theorem dX4_findTree_129 : decode cX4_findTree 129 = .ok (.ishr, 1) := dk_122 (dk_at dksX4_findTree_5 14 rfl rfl)
theorem dX4_findTree_130 : decode cX4_findTree 130 = .ok (.iconst 1, 1) := dk_4 (dk_at dksX4_findTree_5 15 rfl rfl)
theorem dX4_findTree_131 : decode cX4_findTree 131 = .ok (.iand, 1) := dk_126 (dk_at dksX4_findTree_5 16 rfl rfl)
theorem dX4_findTree_132 : decode cX4_findTree 132 = .ok (.iconst 1, 1) := dk_4 (dk_at dksX4_findTree_5 17 rfl rfl)
theorem dX4_findTree_133 : decode cX4_findTree 133 = .ok (.if_icmp .ne 7, 3) := dk_160 0 7 (dk_at dksX4_findTree_5 18 rfl rfl)
theorem dX4_findTree_136 : decode cX4_findTree 136 = .ok (.iconst 1, 1) := dk_4 (dk_at dksX4_findTree_5 21 rfl rfl)
theorem dX4_findTree_137 : decode cX4_findTree 137 = .ok (.goto 4, 3) := dk_167 0 4 (dk_at dksX4_findTree_6 0 rfl rfl)
theorem dX4_findTree_140 : decode cX4_findTree 140 = .ok (.iconst 0, 1) := dk_3 (dk_at dksX4_findTree_6 3 rfl rfl)
theorem dX4_findTree_141 : decode cX4_findTree 141 = .ok (.istore 7, 2) := dk_54 7 (dk_at dksX4_findTree_6 4 rfl rfl)
theorem dX4_findTree_143 : decode cX4_findTree 143 = .ok (.iload_n 3, 1) := dk_29 (dk_at dksX4_findTree_6 6 rfl rfl)
theorem dX4_findTree_144 : decode cX4_findTree 144 = .ok (.aload_n 0, 1) := dk_42 (dk_at dksX4_findTree_6 7 rfl rfl)
theorem dX4_findTree_145 : decode cX4_findTree 145 = .ok (.getfield 191, 3) := dk_180 0 191 (dk_at dksX4_findTree_6 8 rfl rfl)
theorem dX4_findTree_148 : decode cX4_findTree 148 = .ok (.iload 6, 2) := dk_21 6 (dk_at dksX4_findTree_6 11 rfl rfl)
theorem dX4_findTree_150 : decode cX4_findTree 150 = .ok (.iaload, 1) := dk_46 (dk_at dksX4_findTree_6 13 rfl rfl)
theorem dX4_findTree_151 : decode cX4_findTree 151 = .ok (.ishr, 1) := dk_122 (dk_at dksX4_findTree_6 14 rfl rfl)
theorem dX4_findTree_152 : decode cX4_findTree 152 = .ok (.iconst 1, 1) := dk_4 (dk_at dksX4_findTree_6 15 rfl rfl)
theorem dX4_findTree_153 : decode cX4_findTree 153 = .ok (.iand, 1) := dk_126 (dk_at dksX4_findTree_6 16 rfl rfl)
theorem dX4_findTree_154 : decode cX4_findTree 154 = .ok (.iconst 1, 1) := dk_4 (dk_at dksX4_findTree_6 17 rfl rfl)
theorem dX4_findTree_155 : decode cX4_findTree 155 = .ok (.if_icmp .ne 7, 3) := dk_160 0 7 (dk_at dksX4_findTree_6 18 rfl rfl)
theorem dX4_findTree_158 : decode cX4_findTree 158 = .ok (.iconst 1, 1) := dk_4 (dk_at dksX4_findTree_6 21 rfl rfl)
theorem dX4_findTree_159 : decode cX4_findTree 159 = .ok (.goto 4, 3) := dk_167 0 4 (dk_at dksX4_findTree_7 0 rfl rfl)
theorem dX4_findTree_162 : decode cX4_findTree 162 = .ok (.iconst 0, 1) := dk_3 (dk_at dksX4_findTree_7 3 rfl rfl)
theorem dX4_findTree_163 : decode cX4_findTree 163 = .ok (.istore 8, 2) := dk_54 8 (dk_at dksX4_findTree_7 4 rfl rfl)
theorem dX4_findTree_165 : decode cX4_findTree 165 = .ok (.iload 7, 2) := dk_21 7 (dk_at dksX4_findTree_7 6 rfl rfl)
theorem dX4_findTree_167 : decode cX4_findTree 167 = .ok (.ifCond .eq 9, 3) := dk_153 0 9 (dk_at dksX4_findTree_7 8 rfl rfl)
theorem dX4_findTree_170 : decode cX4_findTree 170 = .ok (.iload 8, 2) := dk_21 8 (dk_at dksX4_findTree_7 11 rfl rfl)
theorem dX4_findTree_172 : decode cX4_findTree 172 = .ok (.ifCond .eq 4, 3) := dk_153 0 4 (dk_at dksX4_findTree_7 13 rfl rfl)
theorem dX4_findTree_175 : decode cX4_findTree 175 = .ok (.return_, 1) := dk_177 (dk_at dksX4_findTree_7 16 rfl rfl)
theorem dX4_findTree_176 : decode cX4_findTree 176 = .ok (.iload 7, 2) := dk_21 7 (dk_at dksX4_findTree_7 17 rfl rfl)
theorem dX4_findTree_178 : decode cX4_findTree 178 = .ok (.ifCond .ne 11, 3) := dk_154 0 11 (dk_at dksX4_findTree_7 19 rfl rfl)
theorem dX4_findTree_181 : decode cX4_findTree 181 = .ok (.iload 8, 2) := dk_21 8 (dk_at dksX4_findTree_7 22 rfl rfl)
theorem dX4_findTree_183 : decode cX4_findTree 183 = .ok (.ifCond .ne 6, 3) := dk_154 0 6 (dk_at dksX4_findTree_8 0 rfl rfl)
theorem dX4_findTree_186 : decode cX4_findTree 186 = .ok (.goto 121, 3) := dk_167 0 121 (dk_at dksX4_findTree_8 3 rfl rfl)
theorem dX4_findTree_189 : decode cX4_findTree 189 = .ok (.iload 4, 2) := dk_21 4 (dk_at dksX4_findTree_8 6 rfl rfl)
theorem dX4_findTree_191 : decode cX4_findTree 191 = .ok (.iconst 1, 1) := dk_4 (dk_at dksX4_findTree_8 8 rfl rfl)
theorem dX4_findTree_192 : decode cX4_findTree 192 = .ok (.iload 6, 2) := dk_21 6 (dk_at dksX4_findTree_8 9 rfl rfl)
theorem dX4_findTree_194 : decode cX4_findTree 194 = .ok (.ishl, 1) := dk_120 (dk_at dksX4_findTree_8 11 rfl rfl)
theorem dX4_findTree_195 : decode cX4_findTree 195 = .ok (.ior, 1) := dk_128 (dk_at dksX4_findTree_8 12 rfl rfl)
theorem dX4_findTree_196 : decode cX4_findTree 196 = .ok (.istore 4, 2) := dk_54 4 (dk_at dksX4_findTree_8 13 rfl rfl)
theorem dX4_findTree_198 : decode cX4_findTree 198 = .ok (.iload 7, 2) := dk_21 7 (dk_at dksX4_findTree_8 15 rfl rfl)
theorem dX4_findTree_200 : decode cX4_findTree 200 = .ok (.ifCond .eq 13, 3) := dk_153 0 13 (dk_at dksX4_findTree_8 17 rfl rfl)
theorem dX4_findTree_203 : decode cX4_findTree 203 = .ok (.aload_n 0, 1) := dk_42 (dk_at dksX4_findTree_8 20 rfl rfl)
theorem dX4_findTree_204 : decode cX4_findTree 204 = .ok (.getfield 188, 3) := dk_180 0 188 (dk_at dksX4_findTree_8 21 rfl rfl)
theorem dX4_findTree_207 : decode cX4_findTree 207 = .ok (.iload 6, 2) := dk_21 6 (dk_at dksX4_findTree_9 0 rfl rfl)
theorem dX4_findTree_209 : decode cX4_findTree 209 = .ok (.iaload, 1) := dk_46 (dk_at dksX4_findTree_9 2 rfl rfl)
theorem dX4_findTree_210 : decode cX4_findTree 210 = .ok (.goto 10, 3) := dk_167 0 10 (dk_at dksX4_findTree_9 3 rfl rfl)
theorem dX4_findTree_213 : decode cX4_findTree 213 = .ok (.aload_n 0, 1) := dk_42 (dk_at dksX4_findTree_9 6 rfl rfl)
theorem dX4_findTree_214 : decode cX4_findTree 214 = .ok (.getfield 191, 3) := dk_180 0 191 (dk_at dksX4_findTree_9 7 rfl rfl)
theorem dX4_findTree_217 : decode cX4_findTree 217 = .ok (.iload 6, 2) := dk_21 6 (dk_at dksX4_findTree_9 10 rfl rfl)
theorem dX4_findTree_219 : decode cX4_findTree 219 = .ok (.iaload, 1) := dk_46 (dk_at dksX4_findTree_9 12 rfl rfl)
theorem dX4_findTree_220 : decode cX4_findTree 220 = .ok (.istore 9, 2) := dk_54 9 (dk_at dksX4_findTree_9 13 rfl rfl)
theorem dX4_findTree_222 : decode cX4_findTree 222 = .ok (.iload 7, 2) := dk_21 7 (dk_at dksX4_findTree_9 15 rfl rfl)
theorem dX4_findTree_224 : decode cX4_findTree 224 = .ok (.ifCond .eq 13, 3) := dk_153 0 13 (dk_at dksX4_findTree_9 17 rfl rfl)
theorem dX4_findTree_227 : decode cX4_findTree 227 = .ok (.aload_n 0, 1) := dk_42 (dk_at dksX4_findTree_9 20 rfl rfl)
theorem dX4_findTree_228 : decode cX4_findTree 228 = .ok (.getfield 191, 3) := dk_180 0 191 (dk_at dksX4_findTree_9 21 rfl rfl)
theorem dX4_findTree_231 : decode cX4_findTree 231 = .ok (.iload 6, 2) := dk_21 6 (dk_at dksX4_findTree_10 0 rfl rfl)
theorem dX4_findTree_233 : decode cX4_findTree 233 = .ok (.iaload, 1) := dk_46 (dk_at dksX4_findTree_10 2 rfl rfl)
theorem dX4_findTree_234 : decode cX4_findTree 234 = .ok (.goto 10, 3) := dk_167 0 10 (dk_at dksX4_findTree_10 3 rfl rfl)
theorem dX4_findTree_237 : decode cX4_findTree 237 = .ok (.aload_n 0, 1) := dk_42 (dk_at dksX4_findTree_10 6 rfl rfl)
theorem dX4_findTree_238 : decode cX4_findTree 238 = .ok (.getfield 188, 3) := dk_180 0 188 (dk_at dksX4_findTree_10 7 rfl rfl)
theorem dX4_findTree_241 : decode cX4_findTree 241 = .ok (.iload 6, 2) := dk_21 6 (dk_at dksX4_findTree_10 10 rfl rfl)
theorem dX4_findTree_243 : decode cX4_findTree 243 = .ok (.iaload, 1) := dk_46 (dk_at dksX4_findTree_10 12 rfl rfl)
theorem dX4_findTree_244 : decode cX4_findTree 244 = .ok (.istore 10, 2) := dk_54 10 (dk_at dksX4_findTree_10 13 rfl rfl)
theorem dX4_findTree_246 : decode cX4_findTree 246 = .ok (.iload_n 3, 1) := dk_29 (dk_at dksX4_findTree_10 15 rfl rfl)
theorem dX4_findTree_247 : decode cX4_findTree 247 = .ok (.iconst 1, 1) := dk_4 (dk_at dksX4_findTree_10 16 rfl rfl)
theorem dX4_findTree_248 : decode cX4_findTree 248 = .ok (.iload 10, 2) := dk_21 10 (dk_at dksX4_findTree_10 17 rfl rfl)
theorem dX4_findTree_250 : decode cX4_findTree 250 = .ok (.ishl, 1) := dk_120 (dk_at dksX4_findTree_10 19 rfl rfl)
theorem dX4_findTree_251 : decode cX4_findTree 251 = .ok (.ior, 1) := dk_128 (dk_at dksX4_findTree_10 20 rfl rfl)
theorem dX4_findTree_252 : decode cX4_findTree 252 = .ok (.istore_n 3, 1) := dk_62 (dk_at dksX4_findTree_10 21 rfl rfl)
theorem dX4_findTree_253 : decode cX4_findTree 253 = .ok (.aload_n 0, 1) := dk_42 (dk_at dksX4_findTree_10 22 rfl rfl)
theorem dX4_findTree_254 : decode cX4_findTree 254 = .ok (.getfield 203, 3) := dk_180 0 203 (dk_at dksX4_findTree_11 0 rfl rfl)
theorem dX4_findTree_257 : decode cX4_findTree 257 = .ok (.bipush 6, 2) := dk_16 6 (dk_at dksX4_findTree_11 3 rfl rfl)
theorem dX4_findTree_259 : decode cX4_findTree 259 = .ok (.iload_n 1, 1) := dk_27 (dk_at dksX4_findTree_11 5 rfl rfl)
theorem dX4_findTree_260 : decode cX4_findTree 260 = .ok (.imul, 1) := dk_104 (dk_at dksX4_findTree_11 6 rfl rfl)
theorem dX4_findTree_261 : decode cX4_findTree 261 = .ok (.iload 10, 2) := dk_21 10 (dk_at dksX4_findTree_11 7 rfl rfl)
theorem dX4_findTree_263 : decode cX4_findTree 263 = .ok (.iadd, 1) := dk_96 (dk_at dksX4_findTree_11 9 rfl rfl)
theorem dX4_findTree_264 : decode cX4_findTree 264 = .ok (.aload_n 0, 1) := dk_42 (dk_at dksX4_findTree_11 10 rfl rfl)
theorem dX4_findTree_265 : decode cX4_findTree 265 = .ok (.getfield 203, 3) := dk_180 0 203 (dk_at dksX4_findTree_11 11 rfl rfl)
theorem dX4_findTree_268 : decode cX4_findTree 268 = .ok (.bipush 6, 2) := dk_16 6 (dk_at dksX4_findTree_11 14 rfl rfl)
theorem dX4_findTree_270 : decode cX4_findTree 270 = .ok (.iload_n 1, 1) := dk_27 (dk_at dksX4_findTree_11 16 rfl rfl)
theorem dX4_findTree_271 : decode cX4_findTree 271 = .ok (.imul, 1) := dk_104 (dk_at dksX4_findTree_11 17 rfl rfl)
theorem dX4_findTree_272 : decode cX4_findTree 272 = .ok (.iload 9, 2) := dk_21 9 (dk_at dksX4_findTree_11 18 rfl rfl)
theorem dX4_findTree_274 : decode cX4_findTree 274 = .ok (.iadd, 1) := dk_96 (dk_at dksX4_findTree_11 20 rfl rfl)
theorem dX4_findTree_275 : decode cX4_findTree 275 = .ok (.iaload, 1) := dk_46 (dk_at dksX4_findTree_11 21 rfl rfl)
theorem dX4_findTree_276 : decode cX4_findTree 276 = .ok (.iconst 1, 1) := dk_4 (dk_at dksX4_findTree_11 22 rfl rfl)
theorem dX4_findTree_277 : decode cX4_findTree 277 = .ok (.iload 6, 2) := dk_21 6 (dk_at dksX4_findTree_12 0 rfl rfl)
theorem dX4_findTree_279 : decode cX4_findTree 279 = .ok (.ishl, 1) := dk_120 (dk_at dksX4_findTree_12 2 rfl rfl)
theorem dX4_findTree_280 : decode cX4_findTree 280 = .ok (.ior, 1) := dk_128 (dk_at dksX4_findTree_12 3 rfl rfl)
theorem dX4_findTree_281 : decode cX4_findTree 281 = .ok (.iastore, 1) := dk_79 (dk_at dksX4_findTree_12 4 rfl rfl)
theorem dX4_findTree_282 : decode cX4_findTree 282 = .ok (.aload_n 0, 1) := dk_42 (dk_at dksX4_findTree_12 5 rfl rfl)
theorem dX4_findTree_283 : decode cX4_findTree 283 = .ok (.getfield 206, 3) := dk_180 0 206 (dk_at dksX4_findTree_12 6 rfl rfl)
theorem dX4_findTree_286 : decode cX4_findTree 286 = .ok (.iload_n 1, 1) := dk_27 (dk_at dksX4_findTree_12 9 rfl rfl)
theorem dX4_findTree_287 : decode cX4_findTree 287 = .ok (.dup2, 1) := dk_92 (dk_at dksX4_findTree_12 10 rfl rfl)
theorem dX4_findTree_288 : decode cX4_findTree 288 = .ok (.iaload, 1) := dk_46 (dk_at dksX4_findTree_12 11 rfl rfl)
theorem dX4_findTree_289 : decode cX4_findTree 289 = .ok (.iload 7, 2) := dk_21 7 (dk_at dksX4_findTree_12 12 rfl rfl)
theorem dX4_findTree_291 : decode cX4_findTree 291 = .ok (.ifCond .eq 10, 3) := dk_153 0 10 (dk_at dksX4_findTree_12 14 rfl rfl)
theorem dX4_findTree_294 : decode cX4_findTree 294 = .ok (.iconst 1, 1) := dk_4 (dk_at dksX4_findTree_12 17 rfl rfl)
theorem dX4_findTree_295 : decode cX4_findTree 295 = .ok (.iload 6, 2) := dk_21 6 (dk_at dksX4_findTree_12 18 rfl rfl)
theorem dX4_findTree_297 : decode cX4_findTree 297 = .ok (.ishl, 1) := dk_120 (dk_at dksX4_findTree_12 20 rfl rfl)
theorem dX4_findTree_298 : decode cX4_findTree 298 = .ok (.goto 4, 3) := dk_167 0 4 (dk_at dksX4_findTree_12 21 rfl rfl)
theorem dX4_findTree_301 : decode cX4_findTree 301 = .ok (.iconst 0, 1) := dk_3 (dk_at dksX4_findTree_13 0 rfl rfl)
theorem dX4_findTree_302 : decode cX4_findTree 302 = .ok (.ior, 1) := dk_128 (dk_at dksX4_findTree_13 1 rfl rfl)
theorem dX4_findTree_303 : decode cX4_findTree 303 = .ok (.iastore, 1) := dk_79 (dk_at dksX4_findTree_13 2 rfl rfl)
theorem dX4_findTree_304 : decode cX4_findTree 304 = .ok (.iconst 1, 1) := dk_4 (dk_at dksX4_findTree_13 3 rfl rfl)
theorem dX4_findTree_305 : decode cX4_findTree 305 = .ok (.istore 5, 2) := dk_54 5 (dk_at dksX4_findTree_13 4 rfl rfl)
theorem dX4_findTree_307 : decode cX4_findTree 307 = .ok (.iinc 6 1, 3) := dk_132 6 1 (dk_at dksX4_findTree_13 6 rfl rfl)
theorem dX4_findTree_310 : decode cX4_findTree 310 = .ok (.goto (-215), 3) := dk_167 255 41 (dk_at dksX4_findTree_13 9 rfl rfl)
theorem dX4_findTree_313 : decode cX4_findTree 313 = .ok (.goto (-229), 3) := dk_167 255 27 (dk_at dksX4_findTree_13 12 rfl rfl)
theorem dX4_findTree_316 : decode cX4_findTree 316 = .ok (.iload 4, 2) := dk_21 4 (dk_at dksX4_findTree_13 15 rfl rfl)
theorem dX4_findTree_318 : decode cX4_findTree 318 = .ok (.iload_n 1, 1) := dk_27 (dk_at dksX4_findTree_13 17 rfl rfl)
theorem dX4_findTree_319 : decode cX4_findTree 319 = .ok (.if_icmp .ne 10, 3) := dk_160 0 10 (dk_at dksX4_findTree_13 18 rfl rfl)
theorem dX4_findTree_322 : decode cX4_findTree 322 = .ok (.aload_n 0, 1) := dk_42 (dk_at dksX4_findTree_13 21 rfl rfl)
theorem dX4_findTree_323 : decode cX4_findTree 323 = .ok (.getfield 200, 3) := dk_180 0 200 (dk_at dksX4_findTree_14 0 rfl rfl)
theorem dX4_findTree_326 : decode cX4_findTree 326 = .ok (.iload_n 1, 1) := dk_27 (dk_at dksX4_findTree_14 3 rfl rfl)
theorem dX4_findTree_327 : decode cX4_findTree 327 = .ok (.iload_n 3, 1) := dk_29 (dk_at dksX4_findTree_14 4 rfl rfl)
theorem dX4_findTree_328 : decode cX4_findTree 328 = .ok (.iastore, 1) := dk_79 (dk_at dksX4_findTree_14 5 rfl rfl)
theorem dX4_findTree_329 : decode cX4_findTree 329 = .ok (.return_, 1) := dk_177 (dk_at dksX4_findTree_14 6 rfl rfl)
abbrev cX4_feed : ByteArray := prog_9_method_21_code
def yX4_feed : MethodName := ⟨RX4, "feed", "(IIIII)I"⟩
def dkwX4_feed_2 : List UInt8 := [172]
abbrev dktX4_feed_2 : List UInt8 := dkwX4_feed_2 ++ []
def dkwX4_feed_1 : List UInt8 := [182, 1, 31, 42, 29, 182, 1, 31, 42, 21, 4, 182, 1, 31, 42, 21, 5, 182, 1, 31, 42, 180, 1, 28]
abbrev dktX4_feed_1 : List UInt8 := dkwX4_feed_1 ++ dktX4_feed_2
def dkwX4_feed_0 : List UInt8 := [42, 180, 1, 28, 16, 20, 96, 17, 2, 188, 164, 0, 6, 16, 253, 172, 42, 27, 182, 1, 31, 42, 28]
abbrev dktX4_feed_0 : List UInt8 := dkwX4_feed_0 ++ dktX4_feed_1
theorem dksX4_feed_0 : cX4_feed.data.toList.drop 0 = dktX4_feed_0 := by decide +kernel
theorem dksX4_feed_1 : cX4_feed.data.toList.drop 23 = dktX4_feed_1 := dk_seg dksX4_feed_0 23 rfl rfl
theorem dksX4_feed_2 : cX4_feed.data.toList.drop 47 = dktX4_feed_2 := dk_seg dksX4_feed_1 24 rfl rfl
theorem dX4_feed_0 : decode cX4_feed 0 = .ok (.aload_n 0, 1) := dk_42 (dk_at dksX4_feed_0 0 rfl rfl)
theorem dX4_feed_1 : decode cX4_feed 1 = .ok (.getfield 284, 3) := dk_180 1 28 (dk_at dksX4_feed_0 1 rfl rfl)
theorem dX4_feed_4 : decode cX4_feed 4 = .ok (.bipush 20, 2) := dk_16 20 (dk_at dksX4_feed_0 4 rfl rfl)
theorem dX4_feed_6 : decode cX4_feed 6 = .ok (.iadd, 1) := dk_96 (dk_at dksX4_feed_0 6 rfl rfl)
theorem dX4_feed_7 : decode cX4_feed 7 = .ok (.sipush 700, 3) := dk_17 2 188 (dk_at dksX4_feed_0 7 rfl rfl)
theorem dX4_feed_10 : decode cX4_feed 10 = .ok (.if_icmp .le 6, 3) := dk_164 0 6 (dk_at dksX4_feed_0 10 rfl rfl)
theorem dX4_feed_13 : decode cX4_feed 13 = .ok (.bipush (-3), 2) := dk_16 253 (dk_at dksX4_feed_0 13 rfl rfl)
theorem dX4_feed_15 : decode cX4_feed 15 = .ok (.ireturn, 1) := dk_172 (dk_at dksX4_feed_0 15 rfl rfl)
theorem dX4_feed_16 : decode cX4_feed 16 = .ok (.aload_n 0, 1) := dk_42 (dk_at dksX4_feed_0 16 rfl rfl)
theorem dX4_feed_17 : decode cX4_feed 17 = .ok (.iload_n 1, 1) := dk_27 (dk_at dksX4_feed_0 17 rfl rfl)
theorem dX4_feed_18 : decode cX4_feed 18 = .ok (.invokevirtual 287, 3) := dk_182 1 31 (dk_at dksX4_feed_0 18 rfl rfl)
theorem dX4_feed_21 : decode cX4_feed 21 = .ok (.aload_n 0, 1) := dk_42 (dk_at dksX4_feed_0 21 rfl rfl)
theorem dX4_feed_22 : decode cX4_feed 22 = .ok (.iload_n 2, 1) := dk_28 (dk_at dksX4_feed_0 22 rfl rfl)
theorem dX4_feed_23 : decode cX4_feed 23 = .ok (.invokevirtual 287, 3) := dk_182 1 31 (dk_at dksX4_feed_1 0 rfl rfl)
theorem dX4_feed_26 : decode cX4_feed 26 = .ok (.aload_n 0, 1) := dk_42 (dk_at dksX4_feed_1 3 rfl rfl)
theorem dX4_feed_27 : decode cX4_feed 27 = .ok (.iload_n 3, 1) := dk_29 (dk_at dksX4_feed_1 4 rfl rfl)
theorem dX4_feed_28 : decode cX4_feed 28 = .ok (.invokevirtual 287, 3) := dk_182 1 31 (dk_at dksX4_feed_1 5 rfl rfl)
theorem dX4_feed_31 : decode cX4_feed 31 = .ok (.aload_n 0, 1) := dk_42 (dk_at dksX4_feed_1 8 rfl rfl)
theorem dX4_feed_32 : decode cX4_feed 32 = .ok (.iload 4, 2) := dk_21 4 (dk_at dksX4_feed_1 9 rfl rfl)
theorem dX4_feed_34 : decode cX4_feed 34 = .ok (.invokevirtual 287, 3) := dk_182 1 31 (dk_at dksX4_feed_1 11 rfl rfl)
theorem dX4_feed_37 : decode cX4_feed 37 = .ok (.aload_n 0, 1) := dk_42 (dk_at dksX4_feed_1 14 rfl rfl)
theorem dX4_feed_38 : decode cX4_feed 38 = .ok (.iload 5, 2) := dk_21 5 (dk_at dksX4_feed_1 15 rfl rfl)
theorem dX4_feed_40 : decode cX4_feed 40 = .ok (.invokevirtual 287, 3) := dk_182 1 31 (dk_at dksX4_feed_1 17 rfl rfl)
theorem dX4_feed_43 : decode cX4_feed 43 = .ok (.aload_n 0, 1) := dk_42 (dk_at dksX4_feed_1 20 rfl rfl)
theorem dX4_feed_44 : decode cX4_feed 44 = .ok (.getfield 284, 3) := dk_180 1 28 (dk_at dksX4_feed_1 21 rfl rfl)
theorem dX4_feed_47 : decode cX4_feed 47 = .ok (.ireturn, 1) := dk_172 (dk_at dksX4_feed_2 0 rfl rfl)
abbrev cX4_putFour : ByteArray := prog_9_method_22_code
def yX4_putFour : MethodName := ⟨RX4, "putFour", "(I)V"⟩
def dkwX4_putFour_1 : List UInt8 := [180, 1, 28, 4, 96, 181, 1, 28, 132, 2, 248, 167, 255, 226, 177]
abbrev dktX4_putFour_1 : List UInt8 := dkwX4_putFour_1 ++ []
def dkwX4_putFour_0 : List UInt8 := [16, 24, 61, 28, 155, 0, 32, 42, 180, 0, 16, 42, 180, 1, 28, 27, 28, 122, 145, 84, 42, 89]
abbrev dktX4_putFour_0 : List UInt8 := dkwX4_putFour_0 ++ dktX4_putFour_1
theorem dksX4_putFour_0 : cX4_putFour.data.toList.drop 0 = dktX4_putFour_0 := by decide +kernel
theorem dksX4_putFour_1 : cX4_putFour.data.toList.drop 22 = dktX4_putFour_1 := dk_seg dksX4_putFour_0 22 rfl rfl
theorem dX4_putFour_0 : decode cX4_putFour 0 = .ok (.bipush 24, 2) := dk_16 24 (dk_at dksX4_putFour_0 0 rfl rfl)
theorem dX4_putFour_2 : decode cX4_putFour 2 = .ok (.istore_n 2, 1) := dk_61 (dk_at dksX4_putFour_0 2 rfl rfl)
theorem dX4_putFour_3 : decode cX4_putFour 3 = .ok (.iload_n 2, 1) := dk_28 (dk_at dksX4_putFour_0 3 rfl rfl)
theorem dX4_putFour_4 : decode cX4_putFour 4 = .ok (.ifCond .lt 32, 3) := dk_155 0 32 (dk_at dksX4_putFour_0 4 rfl rfl)
theorem dX4_putFour_7 : decode cX4_putFour 7 = .ok (.aload_n 0, 1) := dk_42 (dk_at dksX4_putFour_0 7 rfl rfl)
theorem dX4_putFour_8 : decode cX4_putFour 8 = .ok (.getfield 16, 3) := dk_180 0 16 (dk_at dksX4_putFour_0 8 rfl rfl)
theorem dX4_putFour_11 : decode cX4_putFour 11 = .ok (.aload_n 0, 1) := dk_42 (dk_at dksX4_putFour_0 11 rfl rfl)
theorem dX4_putFour_12 : decode cX4_putFour 12 = .ok (.getfield 284, 3) := dk_180 1 28 (dk_at dksX4_putFour_0 12 rfl rfl)
theorem dX4_putFour_15 : decode cX4_putFour 15 = .ok (.iload_n 1, 1) := dk_27 (dk_at dksX4_putFour_0 15 rfl rfl)
theorem dX4_putFour_16 : decode cX4_putFour 16 = .ok (.iload_n 2, 1) := dk_28 (dk_at dksX4_putFour_0 16 rfl rfl)
theorem dX4_putFour_17 : decode cX4_putFour 17 = .ok (.ishr, 1) := dk_122 (dk_at dksX4_putFour_0 17 rfl rfl)
theorem dX4_putFour_18 : decode cX4_putFour 18 = .ok (.i2b, 1) := dk_145 (dk_at dksX4_putFour_0 18 rfl rfl)
theorem dX4_putFour_19 : decode cX4_putFour 19 = .ok (.bastore, 1) := dk_84 (dk_at dksX4_putFour_0 19 rfl rfl)
theorem dX4_putFour_20 : decode cX4_putFour 20 = .ok (.aload_n 0, 1) := dk_42 (dk_at dksX4_putFour_0 20 rfl rfl)
theorem dX4_putFour_21 : decode cX4_putFour 21 = .ok (.dup, 1) := dk_89 (dk_at dksX4_putFour_0 21 rfl rfl)
theorem dX4_putFour_22 : decode cX4_putFour 22 = .ok (.getfield 284, 3) := dk_180 1 28 (dk_at dksX4_putFour_1 0 rfl rfl)
theorem dX4_putFour_25 : decode cX4_putFour 25 = .ok (.iconst 1, 1) := dk_4 (dk_at dksX4_putFour_1 3 rfl rfl)
theorem dX4_putFour_26 : decode cX4_putFour 26 = .ok (.iadd, 1) := dk_96 (dk_at dksX4_putFour_1 4 rfl rfl)
theorem dX4_putFour_27 : decode cX4_putFour 27 = .ok (.putfield 284, 3) := dk_181 1 28 (dk_at dksX4_putFour_1 5 rfl rfl)
theorem dX4_putFour_30 : decode cX4_putFour 30 = .ok (.iinc 2 (-8), 3) := dk_132 2 248 (dk_at dksX4_putFour_1 8 rfl rfl)
theorem dX4_putFour_33 : decode cX4_putFour 33 = .ok (.goto (-30), 3) := dk_167 255 226 (dk_at dksX4_putFour_1 11 rfl rfl)
theorem dX4_putFour_36 : decode cX4_putFour 36 = .ok (.return_, 1) := dk_177 (dk_at dksX4_putFour_1 14 rfl rfl)
abbrev cX4_end : ByteArray := prog_9_method_23_code
def yX4_end : MethodName := ⟨RX4, "end", "(I)I"⟩
def dkwX4_end_0 : List UInt8 := [27, 133, 9, 42, 180, 1, 28, 133, 184, 0, 52, 154, 0, 5, 2, 172, 42, 27, 181, 1, 28, 27, 172]
abbrev dktX4_end_0 : List UInt8 := dkwX4_end_0 ++ []
theorem dksX4_end_0 : cX4_end.data.toList.drop 0 = dktX4_end_0 := by decide +kernel
theorem dX4_end_0 : decode cX4_end 0 = .ok (.iload_n 1, 1) := dk_27 (dk_at dksX4_end_0 0 rfl rfl)
theorem dX4_end_1 : decode cX4_end 1 = .ok (.i2l, 1) := dk_133 (dk_at dksX4_end_0 1 rfl rfl)
theorem dX4_end_2 : decode cX4_end 2 = .ok (.lconst 0, 1) := dk_9 (dk_at dksX4_end_0 2 rfl rfl)
theorem dX4_end_3 : decode cX4_end 3 = .ok (.aload_n 0, 1) := dk_42 (dk_at dksX4_end_0 3 rfl rfl)
theorem dX4_end_4 : decode cX4_end 4 = .ok (.getfield 284, 3) := dk_180 1 28 (dk_at dksX4_end_0 4 rfl rfl)
theorem dX4_end_7 : decode cX4_end 7 = .ok (.i2l, 1) := dk_133 (dk_at dksX4_end_0 7 rfl rfl)
theorem dX4_end_8 : decode cX4_end 8 = .ok (.invokestatic 52, 3) := dk_184 0 52 (dk_at dksX4_end_0 8 rfl rfl)
theorem dX4_end_11 : decode cX4_end 11 = .ok (.ifCond .ne 5, 3) := dk_154 0 5 (dk_at dksX4_end_0 11 rfl rfl)
theorem dX4_end_14 : decode cX4_end 14 = .ok (.iconst (-1), 1) := dk_2 (dk_at dksX4_end_0 14 rfl rfl)
theorem dX4_end_15 : decode cX4_end 15 = .ok (.ireturn, 1) := dk_172 (dk_at dksX4_end_0 15 rfl rfl)
theorem dX4_end_16 : decode cX4_end 16 = .ok (.aload_n 0, 1) := dk_42 (dk_at dksX4_end_0 16 rfl rfl)
theorem dX4_end_17 : decode cX4_end 17 = .ok (.iload_n 1, 1) := dk_27 (dk_at dksX4_end_0 17 rfl rfl)
theorem dX4_end_18 : decode cX4_end 18 = .ok (.putfield 284, 3) := dk_181 1 28 (dk_at dksX4_end_0 18 rfl rfl)
theorem dX4_end_21 : decode cX4_end 21 = .ok (.iload_n 1, 1) := dk_27 (dk_at dksX4_end_0 21 rfl rfl)
theorem dX4_end_22 : decode cX4_end 22 = .ok (.ireturn, 1) := dk_172 (dk_at dksX4_end_0 22 rfl rfl)
abbrev cX4_in : ByteArray := prog_9_method_1_code
def yX4_in : MethodName := ⟨RX4, "in", "(JJJ)Z"⟩
def dkwX4_in_0 : List UInt8 := [30, 32, 148, 155, 0, 14, 30, 22, 4, 148, 157, 0, 7, 4, 167, 0, 4, 3, 172]
abbrev dktX4_in_0 : List UInt8 := dkwX4_in_0 ++ []
theorem dksX4_in_0 : cX4_in.data.toList.drop 0 = dktX4_in_0 := by decide +kernel
theorem dX4_in_0 : decode cX4_in 0 = .ok (.lload_n 0, 1) := dk_30 (dk_at dksX4_in_0 0 rfl rfl)
theorem dX4_in_1 : decode cX4_in 1 = .ok (.lload_n 2, 1) := dk_32 (dk_at dksX4_in_0 1 rfl rfl)
theorem dX4_in_2 : decode cX4_in 2 = .ok (.lcmp, 1) := dk_148 (dk_at dksX4_in_0 2 rfl rfl)
theorem dX4_in_3 : decode cX4_in 3 = .ok (.ifCond .lt 14, 3) := dk_155 0 14 (dk_at dksX4_in_0 3 rfl rfl)
theorem dX4_in_6 : decode cX4_in 6 = .ok (.lload_n 0, 1) := dk_30 (dk_at dksX4_in_0 6 rfl rfl)
theorem dX4_in_7 : decode cX4_in 7 = .ok (.lload 4, 2) := dk_22 4 (dk_at dksX4_in_0 7 rfl rfl)
theorem dX4_in_9 : decode cX4_in 9 = .ok (.lcmp, 1) := dk_148 (dk_at dksX4_in_0 9 rfl rfl)
theorem dX4_in_10 : decode cX4_in 10 = .ok (.ifCond .gt 7, 3) := dk_157 0 7 (dk_at dksX4_in_0 10 rfl rfl)
theorem dX4_in_13 : decode cX4_in 13 = .ok (.iconst 1, 1) := dk_4 (dk_at dksX4_in_0 13 rfl rfl)
theorem dX4_in_14 : decode cX4_in 14 = .ok (.goto 4, 3) := dk_167 0 4 (dk_at dksX4_in_0 14 rfl rfl)
theorem dX4_in_17 : decode cX4_in 17 = .ok (.iconst 0, 1) := dk_3 (dk_at dksX4_in_0 17 rfl rfl)
theorem dX4_in_18 : decode cX4_in 18 = .ok (.ireturn, 1) := dk_172 (dk_at dksX4_in_0 18 rfl rfl)
abbrev cX4_plate : ByteArray := prog_9_method_24_code
def yX4_plate : MethodName := ⟨RX4, "plate", "()I"⟩
def dkwX4_plate_10 : List UInt8 := [181, 1, 59, 42, 3, 181, 1, 62, 42, 3, 181, 1, 65, 42, 180, 1, 50, 172]
abbrev dktX4_plate_10 : List UInt8 := dkwX4_plate_10 ++ []
def dkwX4_plate_9 : List UInt8 := [3, 60, 27, 7, 162, 0, 16, 42, 180, 0, 238, 27, 3, 84, 132, 1, 1, 167, 255, 241, 42, 3]
abbrev dktX4_plate_9 : List UInt8 := dkwX4_plate_9 ++ dktX4_plate_10
def dkwX4_plate_8 : List UInt8 := [132, 1, 1, 167, 255, 233, 42, 182, 1, 25, 42, 182, 1, 53, 42, 2, 181, 0, 226, 42, 3, 181, 1, 56]
abbrev dktX4_plate_8 : List UInt8 := dkwX4_plate_8 ++ dktX4_plate_9
def dkwX4_plate_7 : List UInt8 := [3, 60, 27, 42, 180, 1, 44, 162, 0, 21, 42, 180, 0, 197, 27, 42, 180, 0, 104, 27, 46, 79]
abbrev dktX4_plate_7 : List UInt8 := dkwX4_plate_7 ++ dktX4_plate_8
def dkwX4_plate_6 : List UInt8 := [180, 0, 84, 27, 46, 79, 42, 180, 0, 194, 27, 42, 180, 0, 98, 27, 46, 79, 132, 1, 1, 167, 255, 209]
abbrev dktX4_plate_6 : List UInt8 := dkwX4_plate_6 ++ dktX4_plate_7
def dkwX4_plate_5 : List UInt8 := [180, 1, 41, 162, 0, 45, 42, 180, 0, 188, 27, 42, 180, 0, 80, 27, 46, 79, 42, 180, 0, 191, 27, 42]
abbrev dktX4_plate_5 : List UInt8 := dkwX4_plate_5 ++ dktX4_plate_6
def dkwX4_plate_4 : List UInt8 := [181, 0, 183, 42, 42, 180, 0, 143, 181, 0, 186, 42, 42, 180, 0, 146, 181, 1, 50, 3, 60, 27, 42]
abbrev dktX4_plate_4 : List UInt8 := dkwX4_plate_4 ++ dktX4_plate_5
def dkwX4_plate_3 : List UInt8 := [181, 1, 47, 42, 42, 180, 0, 134, 181, 0, 177, 42, 42, 180, 0, 137, 181, 0, 180, 42, 42, 180, 0, 140]
abbrev dktX4_plate_3 : List UInt8 := dkwX4_plate_3 ++ dktX4_plate_4
def dkwX4_plate_2 : List UInt8 := [181, 1, 38, 42, 42, 180, 0, 77, 181, 1, 41, 42, 42, 180, 0, 101, 181, 1, 44, 42, 42, 180, 0, 107]
abbrev dktX4_plate_2 : List UInt8 := dkwX4_plate_2 ++ dktX4_plate_3
def dkwX4_plate_1 : List UInt8 := [2, 181, 0, 10, 42, 182, 0, 59, 42, 182, 1, 35, 154, 0, 5, 2, 172, 42, 42, 180, 0, 63]
abbrev dktX4_plate_1 : List UInt8 := dkwX4_plate_1 ++ dktX4_plate_2
def dkwX4_plate_0 : List UInt8 := [42, 42, 180, 1, 28, 181, 0, 13, 42, 3, 181, 1, 28, 42, 3, 181, 0, 20, 42, 3, 181, 0, 3, 42]
abbrev dktX4_plate_0 : List UInt8 := dkwX4_plate_0 ++ dktX4_plate_1
theorem dksX4_plate_0 : cX4_plate.data.toList.drop 0 = dktX4_plate_0 := by decide +kernel
theorem dksX4_plate_1 : cX4_plate.data.toList.drop 24 = dktX4_plate_1 := dk_seg dksX4_plate_0 24 rfl rfl
theorem dksX4_plate_2 : cX4_plate.data.toList.drop 46 = dktX4_plate_2 := dk_seg dksX4_plate_1 22 rfl rfl
theorem dksX4_plate_3 : cX4_plate.data.toList.drop 70 = dktX4_plate_3 := dk_seg dksX4_plate_2 24 rfl rfl
theorem dksX4_plate_4 : cX4_plate.data.toList.drop 94 = dktX4_plate_4 := dk_seg dksX4_plate_3 24 rfl rfl
theorem dksX4_plate_5 : cX4_plate.data.toList.drop 117 = dktX4_plate_5 := dk_seg dksX4_plate_4 23 rfl rfl
theorem dksX4_plate_6 : cX4_plate.data.toList.drop 141 = dktX4_plate_6 := dk_seg dksX4_plate_5 24 rfl rfl
theorem dksX4_plate_7 : cX4_plate.data.toList.drop 165 = dktX4_plate_7 := dk_seg dksX4_plate_6 24 rfl rfl
theorem dksX4_plate_8 : cX4_plate.data.toList.drop 187 = dktX4_plate_8 := dk_seg dksX4_plate_7 22 rfl rfl
theorem dksX4_plate_9 : cX4_plate.data.toList.drop 211 = dktX4_plate_9 := dk_seg dksX4_plate_8 24 rfl rfl
theorem dksX4_plate_10 : cX4_plate.data.toList.drop 233 = dktX4_plate_10 := dk_seg dksX4_plate_9 22 rfl rfl
theorem dX4_plate_0 : decode cX4_plate 0 = .ok (.aload_n 0, 1) := dk_42 (dk_at dksX4_plate_0 0 rfl rfl)
theorem dX4_plate_1 : decode cX4_plate 1 = .ok (.aload_n 0, 1) := dk_42 (dk_at dksX4_plate_0 1 rfl rfl)
theorem dX4_plate_2 : decode cX4_plate 2 = .ok (.getfield 284, 3) := dk_180 1 28 (dk_at dksX4_plate_0 2 rfl rfl)
theorem dX4_plate_5 : decode cX4_plate 5 = .ok (.putfield 13, 3) := dk_181 0 13 (dk_at dksX4_plate_0 5 rfl rfl)
theorem dX4_plate_8 : decode cX4_plate 8 = .ok (.aload_n 0, 1) := dk_42 (dk_at dksX4_plate_0 8 rfl rfl)
theorem dX4_plate_9 : decode cX4_plate 9 = .ok (.iconst 0, 1) := dk_3 (dk_at dksX4_plate_0 9 rfl rfl)
theorem dX4_plate_10 : decode cX4_plate 10 = .ok (.putfield 284, 3) := dk_181 1 28 (dk_at dksX4_plate_0 10 rfl rfl)
theorem dX4_plate_13 : decode cX4_plate 13 = .ok (.aload_n 0, 1) := dk_42 (dk_at dksX4_plate_0 13 rfl rfl)
theorem dX4_plate_14 : decode cX4_plate 14 = .ok (.iconst 0, 1) := dk_3 (dk_at dksX4_plate_0 14 rfl rfl)
theorem dX4_plate_15 : decode cX4_plate 15 = .ok (.putfield 20, 3) := dk_181 0 20 (dk_at dksX4_plate_0 15 rfl rfl)
theorem dX4_plate_18 : decode cX4_plate 18 = .ok (.aload_n 0, 1) := dk_42 (dk_at dksX4_plate_0 18 rfl rfl)
theorem dX4_plate_19 : decode cX4_plate 19 = .ok (.iconst 0, 1) := dk_3 (dk_at dksX4_plate_0 19 rfl rfl)
theorem dX4_plate_20 : decode cX4_plate 20 = .ok (.putfield 3, 3) := dk_181 0 3 (dk_at dksX4_plate_0 20 rfl rfl)
theorem dX4_plate_23 : decode cX4_plate 23 = .ok (.aload_n 0, 1) := dk_42 (dk_at dksX4_plate_0 23 rfl rfl)
theorem dX4_plate_24 : decode cX4_plate 24 = .ok (.iconst (-1), 1) := dk_2 (dk_at dksX4_plate_1 0 rfl rfl)
theorem dX4_plate_25 : decode cX4_plate 25 = .ok (.putfield 10, 3) := dk_181 0 10 (dk_at dksX4_plate_1 1 rfl rfl)
theorem dX4_plate_28 : decode cX4_plate 28 = .ok (.aload_n 0, 1) := dk_42 (dk_at dksX4_plate_1 4 rfl rfl)
theorem dX4_plate_29 : decode cX4_plate 29 = .ok (.invokevirtual 59, 3) := dk_182 0 59 (dk_at dksX4_plate_1 5 rfl rfl)
theorem dX4_plate_32 : decode cX4_plate 32 = .ok (.aload_n 0, 1) := dk_42 (dk_at dksX4_plate_1 8 rfl rfl)
theorem dX4_plate_33 : decode cX4_plate 33 = .ok (.invokevirtual 291, 3) := dk_182 1 35 (dk_at dksX4_plate_1 9 rfl rfl)
theorem dX4_plate_36 : decode cX4_plate 36 = .ok (.ifCond .ne 5, 3) := dk_154 0 5 (dk_at dksX4_plate_1 12 rfl rfl)
theorem dX4_plate_39 : decode cX4_plate 39 = .ok (.iconst (-1), 1) := dk_2 (dk_at dksX4_plate_1 15 rfl rfl)
theorem dX4_plate_40 : decode cX4_plate 40 = .ok (.ireturn, 1) := dk_172 (dk_at dksX4_plate_1 16 rfl rfl)
theorem dX4_plate_41 : decode cX4_plate 41 = .ok (.aload_n 0, 1) := dk_42 (dk_at dksX4_plate_1 17 rfl rfl)
theorem dX4_plate_42 : decode cX4_plate 42 = .ok (.aload_n 0, 1) := dk_42 (dk_at dksX4_plate_1 18 rfl rfl)
theorem dX4_plate_43 : decode cX4_plate 43 = .ok (.getfield 63, 3) := dk_180 0 63 (dk_at dksX4_plate_1 19 rfl rfl)
theorem dX4_plate_46 : decode cX4_plate 46 = .ok (.putfield 294, 3) := dk_181 1 38 (dk_at dksX4_plate_2 0 rfl rfl)
theorem dX4_plate_49 : decode cX4_plate 49 = .ok (.aload_n 0, 1) := dk_42 (dk_at dksX4_plate_2 3 rfl rfl)
theorem dX4_plate_50 : decode cX4_plate 50 = .ok (.aload_n 0, 1) := dk_42 (dk_at dksX4_plate_2 4 rfl rfl)
theorem dX4_plate_51 : decode cX4_plate 51 = .ok (.getfield 77, 3) := dk_180 0 77 (dk_at dksX4_plate_2 5 rfl rfl)
theorem dX4_plate_54 : decode cX4_plate 54 = .ok (.putfield 297, 3) := dk_181 1 41 (dk_at dksX4_plate_2 8 rfl rfl)
theorem dX4_plate_57 : decode cX4_plate 57 = .ok (.aload_n 0, 1) := dk_42 (dk_at dksX4_plate_2 11 rfl rfl)
theorem dX4_plate_58 : decode cX4_plate 58 = .ok (.aload_n 0, 1) := dk_42 (dk_at dksX4_plate_2 12 rfl rfl)
theorem dX4_plate_59 : decode cX4_plate 59 = .ok (.getfield 101, 3) := dk_180 0 101 (dk_at dksX4_plate_2 13 rfl rfl)
theorem dX4_plate_62 : decode cX4_plate 62 = .ok (.putfield 300, 3) := dk_181 1 44 (dk_at dksX4_plate_2 16 rfl rfl)
theorem dX4_plate_65 : decode cX4_plate 65 = .ok (.aload_n 0, 1) := dk_42 (dk_at dksX4_plate_2 19 rfl rfl)
theorem dX4_plate_66 : decode cX4_plate 66 = .ok (.aload_n 0, 1) := dk_42 (dk_at dksX4_plate_2 20 rfl rfl)
theorem dX4_plate_67 : decode cX4_plate 67 = .ok (.getfield 107, 3) := dk_180 0 107 (dk_at dksX4_plate_2 21 rfl rfl)
theorem dX4_plate_70 : decode cX4_plate 70 = .ok (.putfield 303, 3) := dk_181 1 47 (dk_at dksX4_plate_3 0 rfl rfl)
theorem dX4_plate_73 : decode cX4_plate 73 = .ok (.aload_n 0, 1) := dk_42 (dk_at dksX4_plate_3 3 rfl rfl)
theorem dX4_plate_74 : decode cX4_plate 74 = .ok (.aload_n 0, 1) := dk_42 (dk_at dksX4_plate_3 4 rfl rfl)
theorem dX4_plate_75 : decode cX4_plate 75 = .ok (.getfield 134, 3) := dk_180 0 134 (dk_at dksX4_plate_3 5 rfl rfl)
theorem dX4_plate_78 : decode cX4_plate 78 = .ok (.putfield 177, 3) := dk_181 0 177 (dk_at dksX4_plate_3 8 rfl rfl)
theorem dX4_plate_81 : decode cX4_plate 81 = .ok (.aload_n 0, 1) := dk_42 (dk_at dksX4_plate_3 11 rfl rfl)
theorem dX4_plate_82 : decode cX4_plate 82 = .ok (.aload_n 0, 1) := dk_42 (dk_at dksX4_plate_3 12 rfl rfl)
theorem dX4_plate_83 : decode cX4_plate 83 = .ok (.getfield 137, 3) := dk_180 0 137 (dk_at dksX4_plate_3 13 rfl rfl)
theorem dX4_plate_86 : decode cX4_plate 86 = .ok (.putfield 180, 3) := dk_181 0 180 (dk_at dksX4_plate_3 16 rfl rfl)
theorem dX4_plate_89 : decode cX4_plate 89 = .ok (.aload_n 0, 1) := dk_42 (dk_at dksX4_plate_3 19 rfl rfl)
theorem dX4_plate_90 : decode cX4_plate 90 = .ok (.aload_n 0, 1) := dk_42 (dk_at dksX4_plate_3 20 rfl rfl)
theorem dX4_plate_91 : decode cX4_plate 91 = .ok (.getfield 140, 3) := dk_180 0 140 (dk_at dksX4_plate_3 21 rfl rfl)
theorem dX4_plate_94 : decode cX4_plate 94 = .ok (.putfield 183, 3) := dk_181 0 183 (dk_at dksX4_plate_4 0 rfl rfl)
theorem dX4_plate_97 : decode cX4_plate 97 = .ok (.aload_n 0, 1) := dk_42 (dk_at dksX4_plate_4 3 rfl rfl)
theorem dX4_plate_98 : decode cX4_plate 98 = .ok (.aload_n 0, 1) := dk_42 (dk_at dksX4_plate_4 4 rfl rfl)
theorem dX4_plate_99 : decode cX4_plate 99 = .ok (.getfield 143, 3) := dk_180 0 143 (dk_at dksX4_plate_4 5 rfl rfl)
theorem dX4_plate_102 : decode cX4_plate 102 = .ok (.putfield 186, 3) := dk_181 0 186 (dk_at dksX4_plate_4 8 rfl rfl)
theorem dX4_plate_105 : decode cX4_plate 105 = .ok (.aload_n 0, 1) := dk_42 (dk_at dksX4_plate_4 11 rfl rfl)
theorem dX4_plate_106 : decode cX4_plate 106 = .ok (.aload_n 0, 1) := dk_42 (dk_at dksX4_plate_4 12 rfl rfl)
theorem dX4_plate_107 : decode cX4_plate 107 = .ok (.getfield 146, 3) := dk_180 0 146 (dk_at dksX4_plate_4 13 rfl rfl)
theorem dX4_plate_110 : decode cX4_plate 110 = .ok (.putfield 306, 3) := dk_181 1 50 (dk_at dksX4_plate_4 16 rfl rfl)
theorem dX4_plate_113 : decode cX4_plate 113 = .ok (.iconst 0, 1) := dk_3 (dk_at dksX4_plate_4 19 rfl rfl)
theorem dX4_plate_114 : decode cX4_plate 114 = .ok (.istore_n 1, 1) := dk_60 (dk_at dksX4_plate_4 20 rfl rfl)
theorem dX4_plate_115 : decode cX4_plate 115 = .ok (.iload_n 1, 1) := dk_27 (dk_at dksX4_plate_4 21 rfl rfl)
theorem dX4_plate_116 : decode cX4_plate 116 = .ok (.aload_n 0, 1) := dk_42 (dk_at dksX4_plate_4 22 rfl rfl)
theorem dX4_plate_117 : decode cX4_plate 117 = .ok (.getfield 297, 3) := dk_180 1 41 (dk_at dksX4_plate_5 0 rfl rfl)
theorem dX4_plate_120 : decode cX4_plate 120 = .ok (.if_icmp .ge 45, 3) := dk_162 0 45 (dk_at dksX4_plate_5 3 rfl rfl)
theorem dX4_plate_123 : decode cX4_plate 123 = .ok (.aload_n 0, 1) := dk_42 (dk_at dksX4_plate_5 6 rfl rfl)
theorem dX4_plate_124 : decode cX4_plate 124 = .ok (.getfield 188, 3) := dk_180 0 188 (dk_at dksX4_plate_5 7 rfl rfl)
theorem dX4_plate_127 : decode cX4_plate 127 = .ok (.iload_n 1, 1) := dk_27 (dk_at dksX4_plate_5 10 rfl rfl)
theorem dX4_plate_128 : decode cX4_plate 128 = .ok (.aload_n 0, 1) := dk_42 (dk_at dksX4_plate_5 11 rfl rfl)
theorem dX4_plate_129 : decode cX4_plate 129 = .ok (.getfield 80, 3) := dk_180 0 80 (dk_at dksX4_plate_5 12 rfl rfl)
theorem dX4_plate_132 : decode cX4_plate 132 = .ok (.iload_n 1, 1) := dk_27 (dk_at dksX4_plate_5 15 rfl rfl)
theorem dX4_plate_133 : decode cX4_plate 133 = .ok (.iaload, 1) := dk_46 (dk_at dksX4_plate_5 16 rfl rfl)
theorem dX4_plate_134 : decode cX4_plate 134 = .ok (.iastore, 1) := dk_79 (dk_at dksX4_plate_5 17 rfl rfl)
theorem dX4_plate_135 : decode cX4_plate 135 = .ok (.aload_n 0, 1) := dk_42 (dk_at dksX4_plate_5 18 rfl rfl)
theorem dX4_plate_136 : decode cX4_plate 136 = .ok (.getfield 191, 3) := dk_180 0 191 (dk_at dksX4_plate_5 19 rfl rfl)
theorem dX4_plate_139 : decode cX4_plate 139 = .ok (.iload_n 1, 1) := dk_27 (dk_at dksX4_plate_5 22 rfl rfl)
theorem dX4_plate_140 : decode cX4_plate 140 = .ok (.aload_n 0, 1) := dk_42 (dk_at dksX4_plate_5 23 rfl rfl)
theorem dX4_plate_141 : decode cX4_plate 141 = .ok (.getfield 84, 3) := dk_180 0 84 (dk_at dksX4_plate_6 0 rfl rfl)
theorem dX4_plate_144 : decode cX4_plate 144 = .ok (.iload_n 1, 1) := dk_27 (dk_at dksX4_plate_6 3 rfl rfl)
theorem dX4_plate_145 : decode cX4_plate 145 = .ok (.iaload, 1) := dk_46 (dk_at dksX4_plate_6 4 rfl rfl)
theorem dX4_plate_146 : decode cX4_plate 146 = .ok (.iastore, 1) := dk_79 (dk_at dksX4_plate_6 5 rfl rfl)
theorem dX4_plate_147 : decode cX4_plate 147 = .ok (.aload_n 0, 1) := dk_42 (dk_at dksX4_plate_6 6 rfl rfl)
theorem dX4_plate_148 : decode cX4_plate 148 = .ok (.getfield 194, 3) := dk_180 0 194 (dk_at dksX4_plate_6 7 rfl rfl)
theorem dX4_plate_151 : decode cX4_plate 151 = .ok (.iload_n 1, 1) := dk_27 (dk_at dksX4_plate_6 10 rfl rfl)
theorem dX4_plate_152 : decode cX4_plate 152 = .ok (.aload_n 0, 1) := dk_42 (dk_at dksX4_plate_6 11 rfl rfl)
theorem dX4_plate_153 : decode cX4_plate 153 = .ok (.getfield 98, 3) := dk_180 0 98 (dk_at dksX4_plate_6 12 rfl rfl)
theorem dX4_plate_156 : decode cX4_plate 156 = .ok (.iload_n 1, 1) := dk_27 (dk_at dksX4_plate_6 15 rfl rfl)
theorem dX4_plate_157 : decode cX4_plate 157 = .ok (.iaload, 1) := dk_46 (dk_at dksX4_plate_6 16 rfl rfl)
theorem dX4_plate_158 : decode cX4_plate 158 = .ok (.iastore, 1) := dk_79 (dk_at dksX4_plate_6 17 rfl rfl)
theorem dX4_plate_159 : decode cX4_plate 159 = .ok (.iinc 1 1, 3) := dk_132 1 1 (dk_at dksX4_plate_6 18 rfl rfl)
theorem dX4_plate_162 : decode cX4_plate 162 = .ok (.goto (-47), 3) := dk_167 255 209 (dk_at dksX4_plate_6 21 rfl rfl)
theorem dX4_plate_165 : decode cX4_plate 165 = .ok (.iconst 0, 1) := dk_3 (dk_at dksX4_plate_7 0 rfl rfl)
theorem dX4_plate_166 : decode cX4_plate 166 = .ok (.istore_n 1, 1) := dk_60 (dk_at dksX4_plate_7 1 rfl rfl)
theorem dX4_plate_167 : decode cX4_plate 167 = .ok (.iload_n 1, 1) := dk_27 (dk_at dksX4_plate_7 2 rfl rfl)
theorem dX4_plate_168 : decode cX4_plate 168 = .ok (.aload_n 0, 1) := dk_42 (dk_at dksX4_plate_7 3 rfl rfl)
theorem dX4_plate_169 : decode cX4_plate 169 = .ok (.getfield 300, 3) := dk_180 1 44 (dk_at dksX4_plate_7 4 rfl rfl)
theorem dX4_plate_172 : decode cX4_plate 172 = .ok (.if_icmp .ge 21, 3) := dk_162 0 21 (dk_at dksX4_plate_7 7 rfl rfl)
theorem dX4_plate_175 : decode cX4_plate 175 = .ok (.aload_n 0, 1) := dk_42 (dk_at dksX4_plate_7 10 rfl rfl)
theorem dX4_plate_176 : decode cX4_plate 176 = .ok (.getfield 197, 3) := dk_180 0 197 (dk_at dksX4_plate_7 11 rfl rfl)
theorem dX4_plate_179 : decode cX4_plate 179 = .ok (.iload_n 1, 1) := dk_27 (dk_at dksX4_plate_7 14 rfl rfl)
theorem dX4_plate_180 : decode cX4_plate 180 = .ok (.aload_n 0, 1) := dk_42 (dk_at dksX4_plate_7 15 rfl rfl)
theorem dX4_plate_181 : decode cX4_plate 181 = .ok (.getfield 104, 3) := dk_180 0 104 (dk_at dksX4_plate_7 16 rfl rfl)
theorem dX4_plate_184 : decode cX4_plate 184 = .ok (.iload_n 1, 1) := dk_27 (dk_at dksX4_plate_7 19 rfl rfl)
theorem dX4_plate_185 : decode cX4_plate 185 = .ok (.iaload, 1) := dk_46 (dk_at dksX4_plate_7 20 rfl rfl)
theorem dX4_plate_186 : decode cX4_plate 186 = .ok (.iastore, 1) := dk_79 (dk_at dksX4_plate_7 21 rfl rfl)
theorem dX4_plate_187 : decode cX4_plate 187 = .ok (.iinc 1 1, 3) := dk_132 1 1 (dk_at dksX4_plate_8 0 rfl rfl)
theorem dX4_plate_190 : decode cX4_plate 190 = .ok (.goto (-23), 3) := dk_167 255 233 (dk_at dksX4_plate_8 3 rfl rfl)
theorem dX4_plate_193 : decode cX4_plate 193 = .ok (.aload_n 0, 1) := dk_42 (dk_at dksX4_plate_8 6 rfl rfl)
theorem dX4_plate_194 : decode cX4_plate 194 = .ok (.invokevirtual 281, 3) := dk_182 1 25 (dk_at dksX4_plate_8 7 rfl rfl)
theorem dX4_plate_197 : decode cX4_plate 197 = .ok (.aload_n 0, 1) := dk_42 (dk_at dksX4_plate_8 10 rfl rfl)
theorem dX4_plate_198 : decode cX4_plate 198 = .ok (.invokevirtual 309, 3) := dk_182 1 53 (dk_at dksX4_plate_8 11 rfl rfl)
theorem dX4_plate_201 : decode cX4_plate 201 = .ok (.aload_n 0, 1) := dk_42 (dk_at dksX4_plate_8 14 rfl rfl)
theorem dX4_plate_202 : decode cX4_plate 202 = .ok (.iconst (-1), 1) := dk_2 (dk_at dksX4_plate_8 15 rfl rfl)
theorem dX4_plate_203 : decode cX4_plate 203 = .ok (.putfield 226, 3) := dk_181 0 226 (dk_at dksX4_plate_8 16 rfl rfl)
theorem dX4_plate_206 : decode cX4_plate 206 = .ok (.aload_n 0, 1) := dk_42 (dk_at dksX4_plate_8 19 rfl rfl)
theorem dX4_plate_207 : decode cX4_plate 207 = .ok (.iconst 0, 1) := dk_3 (dk_at dksX4_plate_8 20 rfl rfl)
theorem dX4_plate_208 : decode cX4_plate 208 = .ok (.putfield 312, 3) := dk_181 1 56 (dk_at dksX4_plate_8 21 rfl rfl)
theorem dX4_plate_211 : decode cX4_plate 211 = .ok (.iconst 0, 1) := dk_3 (dk_at dksX4_plate_9 0 rfl rfl)
theorem dX4_plate_212 : decode cX4_plate 212 = .ok (.istore_n 1, 1) := dk_60 (dk_at dksX4_plate_9 1 rfl rfl)
theorem dX4_plate_213 : decode cX4_plate 213 = .ok (.iload_n 1, 1) := dk_27 (dk_at dksX4_plate_9 2 rfl rfl)
theorem dX4_plate_214 : decode cX4_plate 214 = .ok (.iconst 4, 1) := dk_7 (dk_at dksX4_plate_9 3 rfl rfl)
theorem dX4_plate_215 : decode cX4_plate 215 = .ok (.if_icmp .ge 16, 3) := dk_162 0 16 (dk_at dksX4_plate_9 4 rfl rfl)
theorem dX4_plate_218 : decode cX4_plate 218 = .ok (.aload_n 0, 1) := dk_42 (dk_at dksX4_plate_9 7 rfl rfl)
theorem dX4_plate_219 : decode cX4_plate 219 = .ok (.getfield 238, 3) := dk_180 0 238 (dk_at dksX4_plate_9 8 rfl rfl)
theorem dX4_plate_222 : decode cX4_plate 222 = .ok (.iload_n 1, 1) := dk_27 (dk_at dksX4_plate_9 11 rfl rfl)
theorem dX4_plate_223 : decode cX4_plate 223 = .ok (.iconst 0, 1) := dk_3 (dk_at dksX4_plate_9 12 rfl rfl)
theorem dX4_plate_224 : decode cX4_plate 224 = .ok (.bastore, 1) := dk_84 (dk_at dksX4_plate_9 13 rfl rfl)
theorem dX4_plate_225 : decode cX4_plate 225 = .ok (.iinc 1 1, 3) := dk_132 1 1 (dk_at dksX4_plate_9 14 rfl rfl)
theorem dX4_plate_228 : decode cX4_plate 228 = .ok (.goto (-15), 3) := dk_167 255 241 (dk_at dksX4_plate_9 17 rfl rfl)
theorem dX4_plate_231 : decode cX4_plate 231 = .ok (.aload_n 0, 1) := dk_42 (dk_at dksX4_plate_9 20 rfl rfl)
theorem dX4_plate_232 : decode cX4_plate 232 = .ok (.iconst 0, 1) := dk_3 (dk_at dksX4_plate_9 21 rfl rfl)
theorem dX4_plate_233 : decode cX4_plate 233 = .ok (.putfield 315, 3) := dk_181 1 59 (dk_at dksX4_plate_10 0 rfl rfl)
theorem dX4_plate_236 : decode cX4_plate 236 = .ok (.aload_n 0, 1) := dk_42 (dk_at dksX4_plate_10 3 rfl rfl)
theorem dX4_plate_237 : decode cX4_plate 237 = .ok (.iconst 0, 1) := dk_3 (dk_at dksX4_plate_10 4 rfl rfl)
theorem dX4_plate_238 : decode cX4_plate 238 = .ok (.putfield 318, 3) := dk_181 1 62 (dk_at dksX4_plate_10 5 rfl rfl)
theorem dX4_plate_241 : decode cX4_plate 241 = .ok (.aload_n 0, 1) := dk_42 (dk_at dksX4_plate_10 8 rfl rfl)
theorem dX4_plate_242 : decode cX4_plate 242 = .ok (.iconst 0, 1) := dk_3 (dk_at dksX4_plate_10 9 rfl rfl)
theorem dX4_plate_243 : decode cX4_plate 243 = .ok (.putfield 321, 3) := dk_181 1 65 (dk_at dksX4_plate_10 10 rfl rfl)
theorem dX4_plate_246 : decode cX4_plate 246 = .ok (.aload_n 0, 1) := dk_42 (dk_at dksX4_plate_10 13 rfl rfl)
theorem dX4_plate_247 : decode cX4_plate 247 = .ok (.getfield 306, 3) := dk_180 1 50 (dk_at dksX4_plate_10 14 rfl rfl)
theorem dX4_plate_250 : decode cX4_plate 250 = .ok (.ireturn, 1) := dk_172 (dk_at dksX4_plate_10 17 rfl rfl)
abbrev cX4_scan : ByteArray := prog_9_method_6_code
def yX4_scan : MethodName := ⟨RX4, "scan", "()V"⟩
def dkwX4_scan_11 : List UInt8 := [160, 0, 7, 6, 167, 0, 4, 7, 181, 0, 27, 42, 89, 180, 0, 20, 4, 96, 181, 0, 20, 177]
abbrev dktX4_scan_11 : List UInt8 := dkwX4_scan_11 ++ []
def dkwX4_scan_10 : List UInt8 := [180, 0, 7, 100, 7, 164, 0, 7, 7, 167, 0, 4, 5, 181, 0, 27, 167, 0, 28, 42, 27, 16, 59]
abbrev dktX4_scan_10 : List UInt8 := dkwX4_scan_10 ++ dktX4_scan_11
def dkwX4_scan_9 : List UInt8 := [181, 0, 37, 42, 89, 180, 0, 20, 4, 96, 181, 0, 20, 167, 255, 196, 42, 42, 180, 0, 20, 42]
abbrev dktX4_scan_9 : List UInt8 := dkwX4_scan_9 ++ dktX4_scan_10
def dkwX4_scan_8 : List UInt8 := [162, 0, 26, 42, 16, 10, 42, 180, 0, 37, 104, 42, 42, 180, 0, 20, 182, 0, 23, 96, 16, 48, 100]
abbrev dktX4_scan_8 : List UInt8 := dkwX4_scan_8 ++ dktX4_scan_9
def dkwX4_scan_7 : List UInt8 := [180, 0, 20, 182, 0, 23, 184, 0, 34, 153, 0, 52, 42, 180, 0, 20, 42, 180, 0, 7, 100, 7]
abbrev dktX4_scan_7 : List UInt8 := dkwX4_scan_7 ++ dktX4_scan_8
def dkwX4_scan_6 : List UInt8 := [167, 0, 4, 4, 181, 0, 27, 167, 0, 128, 27, 184, 0, 34, 153, 0, 96, 42, 3, 181, 0, 37, 42, 42]
abbrev dktX4_scan_6 : List UInt8 := dkwX4_scan_6 ++ dktX4_scan_7
def dkwX4_scan_5 : List UInt8 := [181, 0, 20, 167, 255, 232, 42, 42, 180, 0, 20, 42, 180, 0, 7, 100, 16, 8, 164, 0, 7, 7]
abbrev dktX4_scan_5 : List UInt8 := dkwX4_scan_5 ++ dktX4_scan_6
def dkwX4_scan_4 : List UInt8 := [153, 0, 56, 42, 42, 180, 0, 20, 182, 0, 23, 184, 0, 30, 153, 0, 16, 42, 89, 180, 0, 20, 4, 96]
abbrev dktX4_scan_4 : List UInt8 := dkwX4_scan_4 ++ dktX4_scan_5
def dkwX4_scan_3 : List UInt8 := [180, 0, 7, 42, 180, 0, 13, 160, 0, 11, 42, 3, 181, 0, 27, 167, 0, 188, 27, 184, 0, 30]
abbrev dktX4_scan_3 : List UInt8 := dkwX4_scan_3 ++ dktX4_scan_4
def dkwX4_scan_2 : List UInt8 := [181, 0, 20, 167, 255, 207, 42, 42, 180, 0, 20, 181, 0, 7, 42, 42, 180, 0, 7, 182, 0, 23, 60, 42]
abbrev dktX4_scan_2 : List UInt8 := dkwX4_scan_2 ++ dktX4_scan_3
def dkwX4_scan_1 : List UInt8 := [159, 0, 17, 42, 180, 0, 16, 42, 180, 0, 20, 51, 16, 10, 160, 0, 16, 42, 89, 180, 0, 20, 4, 96]
abbrev dktX4_scan_1 : List UInt8 := dkwX4_scan_1 ++ dktX4_scan_2
def dkwX4_scan_0 : List UInt8 := [42, 180, 0, 20, 42, 180, 0, 13, 162, 0, 44, 42, 180, 0, 16, 42, 180, 0, 20, 51, 16, 32]
abbrev dktX4_scan_0 : List UInt8 := dkwX4_scan_0 ++ dktX4_scan_1
theorem dksX4_scan_0 : cX4_scan.data.toList.drop 0 = dktX4_scan_0 := by decide +kernel
theorem dksX4_scan_1 : cX4_scan.data.toList.drop 22 = dktX4_scan_1 := dk_seg dksX4_scan_0 22 rfl rfl
theorem dksX4_scan_2 : cX4_scan.data.toList.drop 46 = dktX4_scan_2 := dk_seg dksX4_scan_1 24 rfl rfl
theorem dksX4_scan_3 : cX4_scan.data.toList.drop 70 = dktX4_scan_3 := dk_seg dksX4_scan_2 24 rfl rfl
theorem dksX4_scan_4 : cX4_scan.data.toList.drop 92 = dktX4_scan_4 := dk_seg dksX4_scan_3 22 rfl rfl
theorem dksX4_scan_5 : cX4_scan.data.toList.drop 116 = dktX4_scan_5 := dk_seg dksX4_scan_4 24 rfl rfl
theorem dksX4_scan_6 : cX4_scan.data.toList.drop 138 = dktX4_scan_6 := dk_seg dksX4_scan_5 22 rfl rfl
theorem dksX4_scan_7 : cX4_scan.data.toList.drop 162 = dktX4_scan_7 := dk_seg dksX4_scan_6 24 rfl rfl
theorem dksX4_scan_8 : cX4_scan.data.toList.drop 184 = dktX4_scan_8 := dk_seg dksX4_scan_7 22 rfl rfl
theorem dksX4_scan_9 : cX4_scan.data.toList.drop 207 = dktX4_scan_9 := dk_seg dksX4_scan_8 23 rfl rfl
theorem dksX4_scan_10 : cX4_scan.data.toList.drop 229 = dktX4_scan_10 := dk_seg dksX4_scan_9 22 rfl rfl
theorem dksX4_scan_11 : cX4_scan.data.toList.drop 252 = dktX4_scan_11 := dk_seg dksX4_scan_10 23 rfl rfl
theorem dX4_scan_0 : decode cX4_scan 0 = .ok (.aload_n 0, 1) := dk_42 (dk_at dksX4_scan_0 0 rfl rfl)
theorem dX4_scan_1 : decode cX4_scan 1 = .ok (.getfield 20, 3) := dk_180 0 20 (dk_at dksX4_scan_0 1 rfl rfl)
theorem dX4_scan_4 : decode cX4_scan 4 = .ok (.aload_n 0, 1) := dk_42 (dk_at dksX4_scan_0 4 rfl rfl)
theorem dX4_scan_5 : decode cX4_scan 5 = .ok (.getfield 13, 3) := dk_180 0 13 (dk_at dksX4_scan_0 5 rfl rfl)
theorem dX4_scan_8 : decode cX4_scan 8 = .ok (.if_icmp .ge 44, 3) := dk_162 0 44 (dk_at dksX4_scan_0 8 rfl rfl)
theorem dX4_scan_11 : decode cX4_scan 11 = .ok (.aload_n 0, 1) := dk_42 (dk_at dksX4_scan_0 11 rfl rfl)
theorem dX4_scan_12 : decode cX4_scan 12 = .ok (.getfield 16, 3) := dk_180 0 16 (dk_at dksX4_scan_0 12 rfl rfl)
theorem dX4_scan_15 : decode cX4_scan 15 = .ok (.aload_n 0, 1) := dk_42 (dk_at dksX4_scan_0 15 rfl rfl)
theorem dX4_scan_16 : decode cX4_scan 16 = .ok (.getfield 20, 3) := dk_180 0 20 (dk_at dksX4_scan_0 16 rfl rfl)
theorem dX4_scan_19 : decode cX4_scan 19 = .ok (.baload, 1) := dk_51 (dk_at dksX4_scan_0 19 rfl rfl)
theorem dX4_scan_20 : decode cX4_scan 20 = .ok (.bipush 32, 2) := dk_16 32 (dk_at dksX4_scan_0 20 rfl rfl)
theorem dX4_scan_22 : decode cX4_scan 22 = .ok (.if_icmp .eq 17, 3) := dk_159 0 17 (dk_at dksX4_scan_1 0 rfl rfl)
theorem dX4_scan_25 : decode cX4_scan 25 = .ok (.aload_n 0, 1) := dk_42 (dk_at dksX4_scan_1 3 rfl rfl)
theorem dX4_scan_26 : decode cX4_scan 26 = .ok (.getfield 16, 3) := dk_180 0 16 (dk_at dksX4_scan_1 4 rfl rfl)
theorem dX4_scan_29 : decode cX4_scan 29 = .ok (.aload_n 0, 1) := dk_42 (dk_at dksX4_scan_1 7 rfl rfl)
theorem dX4_scan_30 : decode cX4_scan 30 = .ok (.getfield 20, 3) := dk_180 0 20 (dk_at dksX4_scan_1 8 rfl rfl)
theorem dX4_scan_33 : decode cX4_scan 33 = .ok (.baload, 1) := dk_51 (dk_at dksX4_scan_1 11 rfl rfl)
theorem dX4_scan_34 : decode cX4_scan 34 = .ok (.bipush 10, 2) := dk_16 10 (dk_at dksX4_scan_1 12 rfl rfl)
theorem dX4_scan_36 : decode cX4_scan 36 = .ok (.if_icmp .ne 16, 3) := dk_160 0 16 (dk_at dksX4_scan_1 14 rfl rfl)
theorem dX4_scan_39 : decode cX4_scan 39 = .ok (.aload_n 0, 1) := dk_42 (dk_at dksX4_scan_1 17 rfl rfl)
theorem dX4_scan_40 : decode cX4_scan 40 = .ok (.dup, 1) := dk_89 (dk_at dksX4_scan_1 18 rfl rfl)
theorem dX4_scan_41 : decode cX4_scan 41 = .ok (.getfield 20, 3) := dk_180 0 20 (dk_at dksX4_scan_1 19 rfl rfl)
theorem dX4_scan_44 : decode cX4_scan 44 = .ok (.iconst 1, 1) := dk_4 (dk_at dksX4_scan_1 22 rfl rfl)
theorem dX4_scan_45 : decode cX4_scan 45 = .ok (.iadd, 1) := dk_96 (dk_at dksX4_scan_1 23 rfl rfl)
theorem dX4_scan_46 : decode cX4_scan 46 = .ok (.putfield 20, 3) := dk_181 0 20 (dk_at dksX4_scan_2 0 rfl rfl)
theorem dX4_scan_49 : decode cX4_scan 49 = .ok (.goto (-49), 3) := dk_167 255 207 (dk_at dksX4_scan_2 3 rfl rfl)
theorem dX4_scan_52 : decode cX4_scan 52 = .ok (.aload_n 0, 1) := dk_42 (dk_at dksX4_scan_2 6 rfl rfl)
theorem dX4_scan_53 : decode cX4_scan 53 = .ok (.aload_n 0, 1) := dk_42 (dk_at dksX4_scan_2 7 rfl rfl)
theorem dX4_scan_54 : decode cX4_scan 54 = .ok (.getfield 20, 3) := dk_180 0 20 (dk_at dksX4_scan_2 8 rfl rfl)
theorem dX4_scan_57 : decode cX4_scan 57 = .ok (.putfield 7, 3) := dk_181 0 7 (dk_at dksX4_scan_2 11 rfl rfl)
theorem dX4_scan_60 : decode cX4_scan 60 = .ok (.aload_n 0, 1) := dk_42 (dk_at dksX4_scan_2 14 rfl rfl)
theorem dX4_scan_61 : decode cX4_scan 61 = .ok (.aload_n 0, 1) := dk_42 (dk_at dksX4_scan_2 15 rfl rfl)
theorem dX4_scan_62 : decode cX4_scan 62 = .ok (.getfield 7, 3) := dk_180 0 7 (dk_at dksX4_scan_2 16 rfl rfl)
theorem dX4_scan_65 : decode cX4_scan 65 = .ok (.invokevirtual 23, 3) := dk_182 0 23 (dk_at dksX4_scan_2 19 rfl rfl)
theorem dX4_scan_68 : decode cX4_scan 68 = .ok (.istore_n 1, 1) := dk_60 (dk_at dksX4_scan_2 22 rfl rfl)
theorem dX4_scan_69 : decode cX4_scan 69 = .ok (.aload_n 0, 1) := dk_42 (dk_at dksX4_scan_2 23 rfl rfl)
theorem dX4_scan_70 : decode cX4_scan 70 = .ok (.getfield 7, 3) := dk_180 0 7 (dk_at dksX4_scan_3 0 rfl rfl)
theorem dX4_scan_73 : decode cX4_scan 73 = .ok (.aload_n 0, 1) := dk_42 (dk_at dksX4_scan_3 3 rfl rfl)
theorem dX4_scan_74 : decode cX4_scan 74 = .ok (.getfield 13, 3) := dk_180 0 13 (dk_at dksX4_scan_3 4 rfl rfl)
theorem dX4_scan_77 : decode cX4_scan 77 = .ok (.if_icmp .ne 11, 3) := dk_160 0 11 (dk_at dksX4_scan_3 7 rfl rfl)
theorem dX4_scan_80 : decode cX4_scan 80 = .ok (.aload_n 0, 1) := dk_42 (dk_at dksX4_scan_3 10 rfl rfl)
theorem dX4_scan_81 : decode cX4_scan 81 = .ok (.iconst 0, 1) := dk_3 (dk_at dksX4_scan_3 11 rfl rfl)
theorem dX4_scan_82 : decode cX4_scan 82 = .ok (.putfield 27, 3) := dk_181 0 27 (dk_at dksX4_scan_3 12 rfl rfl)
theorem dX4_scan_85 : decode cX4_scan 85 = .ok (.goto 188, 3) := dk_167 0 188 (dk_at dksX4_scan_3 15 rfl rfl)
theorem dX4_scan_88 : decode cX4_scan 88 = .ok (.iload_n 1, 1) := dk_27 (dk_at dksX4_scan_3 18 rfl rfl)
theorem dX4_scan_89 : decode cX4_scan 89 = .ok (.invokestatic 30, 3) := dk_184 0 30 (dk_at dksX4_scan_3 19 rfl rfl)
theorem dX4_scan_92 : decode cX4_scan 92 = .ok (.ifCond .eq 56, 3) := dk_153 0 56 (dk_at dksX4_scan_4 0 rfl rfl)
theorem dX4_scan_95 : decode cX4_scan 95 = .ok (.aload_n 0, 1) := dk_42 (dk_at dksX4_scan_4 3 rfl rfl)
theorem dX4_scan_96 : decode cX4_scan 96 = .ok (.aload_n 0, 1) := dk_42 (dk_at dksX4_scan_4 4 rfl rfl)
theorem dX4_scan_97 : decode cX4_scan 97 = .ok (.getfield 20, 3) := dk_180 0 20 (dk_at dksX4_scan_4 5 rfl rfl)
theorem dX4_scan_100 : decode cX4_scan 100 = .ok (.invokevirtual 23, 3) := dk_182 0 23 (dk_at dksX4_scan_4 8 rfl rfl)
theorem dX4_scan_103 : decode cX4_scan 103 = .ok (.invokestatic 30, 3) := dk_184 0 30 (dk_at dksX4_scan_4 11 rfl rfl)
theorem dX4_scan_106 : decode cX4_scan 106 = .ok (.ifCond .eq 16, 3) := dk_153 0 16 (dk_at dksX4_scan_4 14 rfl rfl)
theorem dX4_scan_109 : decode cX4_scan 109 = .ok (.aload_n 0, 1) := dk_42 (dk_at dksX4_scan_4 17 rfl rfl)
theorem dX4_scan_110 : decode cX4_scan 110 = .ok (.dup, 1) := dk_89 (dk_at dksX4_scan_4 18 rfl rfl)
theorem dX4_scan_111 : decode cX4_scan 111 = .ok (.getfield 20, 3) := dk_180 0 20 (dk_at dksX4_scan_4 19 rfl rfl)
theorem dX4_scan_114 : decode cX4_scan 114 = .ok (.iconst 1, 1) := dk_4 (dk_at dksX4_scan_4 22 rfl rfl)
theorem dX4_scan_115 : decode cX4_scan 115 = .ok (.iadd, 1) := dk_96 (dk_at dksX4_scan_4 23 rfl rfl)
theorem dX4_scan_116 : decode cX4_scan 116 = .ok (.putfield 20, 3) := dk_181 0 20 (dk_at dksX4_scan_5 0 rfl rfl)
theorem dX4_scan_119 : decode cX4_scan 119 = .ok (.goto (-24), 3) := dk_167 255 232 (dk_at dksX4_scan_5 3 rfl rfl)
theorem dX4_scan_122 : decode cX4_scan 122 = .ok (.aload_n 0, 1) := dk_42 (dk_at dksX4_scan_5 6 rfl rfl)
theorem dX4_scan_123 : decode cX4_scan 123 = .ok (.aload_n 0, 1) := dk_42 (dk_at dksX4_scan_5 7 rfl rfl)
theorem dX4_scan_124 : decode cX4_scan 124 = .ok (.getfield 20, 3) := dk_180 0 20 (dk_at dksX4_scan_5 8 rfl rfl)
theorem dX4_scan_127 : decode cX4_scan 127 = .ok (.aload_n 0, 1) := dk_42 (dk_at dksX4_scan_5 11 rfl rfl)
theorem dX4_scan_128 : decode cX4_scan 128 = .ok (.getfield 7, 3) := dk_180 0 7 (dk_at dksX4_scan_5 12 rfl rfl)
theorem dX4_scan_131 : decode cX4_scan 131 = .ok (.isub, 1) := dk_100 (dk_at dksX4_scan_5 15 rfl rfl)
theorem dX4_scan_132 : decode cX4_scan 132 = .ok (.bipush 8, 2) := dk_16 8 (dk_at dksX4_scan_5 16 rfl rfl)
theorem dX4_scan_134 : decode cX4_scan 134 = .ok (.if_icmp .le 7, 3) := dk_164 0 7 (dk_at dksX4_scan_5 18 rfl rfl)
theorem dX4_scan_137 : decode cX4_scan 137 = .ok (.iconst 4, 1) := dk_7 (dk_at dksX4_scan_5 21 rfl rfl)
theorem dX4_scan_138 : decode cX4_scan 138 = .ok (.goto 4, 3) := dk_167 0 4 (dk_at dksX4_scan_6 0 rfl rfl)
theorem dX4_scan_141 : decode cX4_scan 141 = .ok (.iconst 1, 1) := dk_4 (dk_at dksX4_scan_6 3 rfl rfl)
theorem dX4_scan_142 : decode cX4_scan 142 = .ok (.putfield 27, 3) := dk_181 0 27 (dk_at dksX4_scan_6 4 rfl rfl)
theorem dX4_scan_145 : decode cX4_scan 145 = .ok (.goto 128, 3) := dk_167 0 128 (dk_at dksX4_scan_6 7 rfl rfl)
theorem dX4_scan_148 : decode cX4_scan 148 = .ok (.iload_n 1, 1) := dk_27 (dk_at dksX4_scan_6 10 rfl rfl)
theorem dX4_scan_149 : decode cX4_scan 149 = .ok (.invokestatic 34, 3) := dk_184 0 34 (dk_at dksX4_scan_6 11 rfl rfl)
theorem dX4_scan_152 : decode cX4_scan 152 = .ok (.ifCond .eq 96, 3) := dk_153 0 96 (dk_at dksX4_scan_6 14 rfl rfl)
theorem dX4_scan_155 : decode cX4_scan 155 = .ok (.aload_n 0, 1) := dk_42 (dk_at dksX4_scan_6 17 rfl rfl)
theorem dX4_scan_156 : decode cX4_scan 156 = .ok (.iconst 0, 1) := dk_3 (dk_at dksX4_scan_6 18 rfl rfl)
theorem dX4_scan_157 : decode cX4_scan 157 = .ok (.putfield 37, 3) := dk_181 0 37 (dk_at dksX4_scan_6 19 rfl rfl)
theorem dX4_scan_160 : decode cX4_scan 160 = .ok (.aload_n 0, 1) := dk_42 (dk_at dksX4_scan_6 22 rfl rfl)
theorem dX4_scan_161 : decode cX4_scan 161 = .ok (.aload_n 0, 1) := dk_42 (dk_at dksX4_scan_6 23 rfl rfl)
theorem dX4_scan_162 : decode cX4_scan 162 = .ok (.getfield 20, 3) := dk_180 0 20 (dk_at dksX4_scan_7 0 rfl rfl)
theorem dX4_scan_165 : decode cX4_scan 165 = .ok (.invokevirtual 23, 3) := dk_182 0 23 (dk_at dksX4_scan_7 3 rfl rfl)
theorem dX4_scan_168 : decode cX4_scan 168 = .ok (.invokestatic 34, 3) := dk_184 0 34 (dk_at dksX4_scan_7 6 rfl rfl)
theorem dX4_scan_171 : decode cX4_scan 171 = .ok (.ifCond .eq 52, 3) := dk_153 0 52 (dk_at dksX4_scan_7 9 rfl rfl)
theorem dX4_scan_174 : decode cX4_scan 174 = .ok (.aload_n 0, 1) := dk_42 (dk_at dksX4_scan_7 12 rfl rfl)
theorem dX4_scan_175 : decode cX4_scan 175 = .ok (.getfield 20, 3) := dk_180 0 20 (dk_at dksX4_scan_7 13 rfl rfl)
theorem dX4_scan_178 : decode cX4_scan 178 = .ok (.aload_n 0, 1) := dk_42 (dk_at dksX4_scan_7 16 rfl rfl)
theorem dX4_scan_179 : decode cX4_scan 179 = .ok (.getfield 7, 3) := dk_180 0 7 (dk_at dksX4_scan_7 17 rfl rfl)
theorem dX4_scan_182 : decode cX4_scan 182 = .ok (.isub, 1) := dk_100 (dk_at dksX4_scan_7 20 rfl rfl)
theorem dX4_scan_183 : decode cX4_scan 183 = .ok (.iconst 4, 1) := dk_7 (dk_at dksX4_scan_7 21 rfl rfl)
theorem dX4_scan_184 : decode cX4_scan 184 = .ok (.if_icmp .ge 26, 3) := dk_162 0 26 (dk_at dksX4_scan_8 0 rfl rfl)
theorem dX4_scan_187 : decode cX4_scan 187 = .ok (.aload_n 0, 1) := dk_42 (dk_at dksX4_scan_8 3 rfl rfl)
theorem dX4_scan_188 : decode cX4_scan 188 = .ok (.bipush 10, 2) := dk_16 10 (dk_at dksX4_scan_8 4 rfl rfl)
theorem dX4_scan_190 : decode cX4_scan 190 = .ok (.aload_n 0, 1) := dk_42 (dk_at dksX4_scan_8 6 rfl rfl)
theorem dX4_scan_191 : decode cX4_scan 191 = .ok (.getfield 37, 3) := dk_180 0 37 (dk_at dksX4_scan_8 7 rfl rfl)
theorem dX4_scan_194 : decode cX4_scan 194 = .ok (.imul, 1) := dk_104 (dk_at dksX4_scan_8 10 rfl rfl)
theorem dX4_scan_195 : decode cX4_scan 195 = .ok (.aload_n 0, 1) := dk_42 (dk_at dksX4_scan_8 11 rfl rfl)
theorem dX4_scan_196 : decode cX4_scan 196 = .ok (.aload_n 0, 1) := dk_42 (dk_at dksX4_scan_8 12 rfl rfl)
theorem dX4_scan_197 : decode cX4_scan 197 = .ok (.getfield 20, 3) := dk_180 0 20 (dk_at dksX4_scan_8 13 rfl rfl)
theorem dX4_scan_200 : decode cX4_scan 200 = .ok (.invokevirtual 23, 3) := dk_182 0 23 (dk_at dksX4_scan_8 16 rfl rfl)
theorem dX4_scan_203 : decode cX4_scan 203 = .ok (.iadd, 1) := dk_96 (dk_at dksX4_scan_8 19 rfl rfl)
theorem dX4_scan_204 : decode cX4_scan 204 = .ok (.bipush 48, 2) := dk_16 48 (dk_at dksX4_scan_8 20 rfl rfl)
theorem dX4_scan_206 : decode cX4_scan 206 = .ok (.isub, 1) := dk_100 (dk_at dksX4_scan_8 22 rfl rfl)
theorem dX4_scan_207 : decode cX4_scan 207 = .ok (.putfield 37, 3) := dk_181 0 37 (dk_at dksX4_scan_9 0 rfl rfl)
theorem dX4_scan_210 : decode cX4_scan 210 = .ok (.aload_n 0, 1) := dk_42 (dk_at dksX4_scan_9 3 rfl rfl)
theorem dX4_scan_211 : decode cX4_scan 211 = .ok (.dup, 1) := dk_89 (dk_at dksX4_scan_9 4 rfl rfl)
theorem dX4_scan_212 : decode cX4_scan 212 = .ok (.getfield 20, 3) := dk_180 0 20 (dk_at dksX4_scan_9 5 rfl rfl)
theorem dX4_scan_215 : decode cX4_scan 215 = .ok (.iconst 1, 1) := dk_4 (dk_at dksX4_scan_9 8 rfl rfl)
theorem dX4_scan_216 : decode cX4_scan 216 = .ok (.iadd, 1) := dk_96 (dk_at dksX4_scan_9 9 rfl rfl)
theorem dX4_scan_217 : decode cX4_scan 217 = .ok (.putfield 20, 3) := dk_181 0 20 (dk_at dksX4_scan_9 10 rfl rfl)
theorem dX4_scan_220 : decode cX4_scan 220 = .ok (.goto (-60), 3) := dk_167 255 196 (dk_at dksX4_scan_9 13 rfl rfl)
theorem dX4_scan_223 : decode cX4_scan 223 = .ok (.aload_n 0, 1) := dk_42 (dk_at dksX4_scan_9 16 rfl rfl)
theorem dX4_scan_224 : decode cX4_scan 224 = .ok (.aload_n 0, 1) := dk_42 (dk_at dksX4_scan_9 17 rfl rfl)
theorem dX4_scan_225 : decode cX4_scan 225 = .ok (.getfield 20, 3) := dk_180 0 20 (dk_at dksX4_scan_9 18 rfl rfl)
theorem dX4_scan_228 : decode cX4_scan 228 = .ok (.aload_n 0, 1) := dk_42 (dk_at dksX4_scan_9 21 rfl rfl)
theorem dX4_scan_229 : decode cX4_scan 229 = .ok (.getfield 7, 3) := dk_180 0 7 (dk_at dksX4_scan_10 0 rfl rfl)
theorem dX4_scan_232 : decode cX4_scan 232 = .ok (.isub, 1) := dk_100 (dk_at dksX4_scan_10 3 rfl rfl)
theorem dX4_scan_233 : decode cX4_scan 233 = .ok (.iconst 4, 1) := dk_7 (dk_at dksX4_scan_10 4 rfl rfl)
theorem dX4_scan_234 : decode cX4_scan 234 = .ok (.if_icmp .le 7, 3) := dk_164 0 7 (dk_at dksX4_scan_10 5 rfl rfl)
theorem dX4_scan_237 : decode cX4_scan 237 = .ok (.iconst 4, 1) := dk_7 (dk_at dksX4_scan_10 8 rfl rfl)
theorem dX4_scan_238 : decode cX4_scan 238 = .ok (.goto 4, 3) := dk_167 0 4 (dk_at dksX4_scan_10 9 rfl rfl)
theorem dX4_scan_241 : decode cX4_scan 241 = .ok (.iconst 2, 1) := dk_5 (dk_at dksX4_scan_10 12 rfl rfl)
theorem dX4_scan_242 : decode cX4_scan 242 = .ok (.putfield 27, 3) := dk_181 0 27 (dk_at dksX4_scan_10 13 rfl rfl)
theorem dX4_scan_245 : decode cX4_scan 245 = .ok (.goto 28, 3) := dk_167 0 28 (dk_at dksX4_scan_10 16 rfl rfl)
theorem dX4_scan_248 : decode cX4_scan 248 = .ok (.aload_n 0, 1) := dk_42 (dk_at dksX4_scan_10 19 rfl rfl)
theorem dX4_scan_249 : decode cX4_scan 249 = .ok (.iload_n 1, 1) := dk_27 (dk_at dksX4_scan_10 20 rfl rfl)
theorem dX4_scan_250 : decode cX4_scan 250 = .ok (.bipush 59, 2) := dk_16 59 (dk_at dksX4_scan_10 21 rfl rfl)
theorem dX4_scan_252 : decode cX4_scan 252 = .ok (.if_icmp .ne 7, 3) := dk_160 0 7 (dk_at dksX4_scan_11 0 rfl rfl)
theorem dX4_scan_255 : decode cX4_scan 255 = .ok (.iconst 3, 1) := dk_6 (dk_at dksX4_scan_11 3 rfl rfl)
theorem dX4_scan_256 : decode cX4_scan 256 = .ok (.goto 4, 3) := dk_167 0 4 (dk_at dksX4_scan_11 4 rfl rfl)
theorem dX4_scan_259 : decode cX4_scan 259 = .ok (.iconst 4, 1) := dk_7 (dk_at dksX4_scan_11 7 rfl rfl)
theorem dX4_scan_260 : decode cX4_scan 260 = .ok (.putfield 27, 3) := dk_181 0 27 (dk_at dksX4_scan_11 8 rfl rfl)
theorem dX4_scan_263 : decode cX4_scan 263 = .ok (.aload_n 0, 1) := dk_42 (dk_at dksX4_scan_11 11 rfl rfl)
theorem dX4_scan_264 : decode cX4_scan 264 = .ok (.dup, 1) := dk_89 (dk_at dksX4_scan_11 12 rfl rfl)
theorem dX4_scan_265 : decode cX4_scan 265 = .ok (.getfield 20, 3) := dk_180 0 20 (dk_at dksX4_scan_11 13 rfl rfl)
theorem dX4_scan_268 : decode cX4_scan 268 = .ok (.iconst 1, 1) := dk_4 (dk_at dksX4_scan_11 16 rfl rfl)
theorem dX4_scan_269 : decode cX4_scan 269 = .ok (.iadd, 1) := dk_96 (dk_at dksX4_scan_11 17 rfl rfl)
theorem dX4_scan_270 : decode cX4_scan 270 = .ok (.putfield 20, 3) := dk_181 0 20 (dk_at dksX4_scan_11 18 rfl rfl)
theorem dX4_scan_273 : decode cX4_scan 273 = .ok (.return_, 1) := dk_177 (dk_at dksX4_scan_11 21 rfl rfl)
abbrev cX4_byteAt : ByteArray := prog_9_method_3_code
def yX4_byteAt : MethodName := ⟨RX4, "byteAt", "(I)I"⟩
def dkwX4_byteAt_0 : List UInt8 := [27, 42, 180, 0, 13, 162, 0, 16, 42, 180, 0, 16, 27, 51, 17, 0, 255, 126, 167, 0, 4, 3, 172]
abbrev dktX4_byteAt_0 : List UInt8 := dkwX4_byteAt_0 ++ []
theorem dksX4_byteAt_0 : cX4_byteAt.data.toList.drop 0 = dktX4_byteAt_0 := by decide +kernel
theorem dX4_byteAt_0 : decode cX4_byteAt 0 = .ok (.iload_n 1, 1) := dk_27 (dk_at dksX4_byteAt_0 0 rfl rfl)
theorem dX4_byteAt_1 : decode cX4_byteAt 1 = .ok (.aload_n 0, 1) := dk_42 (dk_at dksX4_byteAt_0 1 rfl rfl)
theorem dX4_byteAt_2 : decode cX4_byteAt 2 = .ok (.getfield 13, 3) := dk_180 0 13 (dk_at dksX4_byteAt_0 2 rfl rfl)
theorem dX4_byteAt_5 : decode cX4_byteAt 5 = .ok (.if_icmp .ge 16, 3) := dk_162 0 16 (dk_at dksX4_byteAt_0 5 rfl rfl)
theorem dX4_byteAt_8 : decode cX4_byteAt 8 = .ok (.aload_n 0, 1) := dk_42 (dk_at dksX4_byteAt_0 8 rfl rfl)
theorem dX4_byteAt_9 : decode cX4_byteAt 9 = .ok (.getfield 16, 3) := dk_180 0 16 (dk_at dksX4_byteAt_0 9 rfl rfl)
theorem dX4_byteAt_12 : decode cX4_byteAt 12 = .ok (.iload_n 1, 1) := dk_27 (dk_at dksX4_byteAt_0 12 rfl rfl)
theorem dX4_byteAt_13 : decode cX4_byteAt 13 = .ok (.baload, 1) := dk_51 (dk_at dksX4_byteAt_0 13 rfl rfl)
theorem dX4_byteAt_14 : decode cX4_byteAt 14 = .ok (.sipush 255, 3) := dk_17 0 255 (dk_at dksX4_byteAt_0 14 rfl rfl)
theorem dX4_byteAt_17 : decode cX4_byteAt 17 = .ok (.iand, 1) := dk_126 (dk_at dksX4_byteAt_0 17 rfl rfl)
theorem dX4_byteAt_18 : decode cX4_byteAt 18 = .ok (.goto 4, 3) := dk_167 0 4 (dk_at dksX4_byteAt_0 18 rfl rfl)
theorem dX4_byteAt_21 : decode cX4_byteAt 21 = .ok (.iconst 0, 1) := dk_3 (dk_at dksX4_byteAt_0 21 rfl rfl)
theorem dX4_byteAt_22 : decode cX4_byteAt 22 = .ok (.ireturn, 1) := dk_172 (dk_at dksX4_byteAt_0 22 rfl rfl)
abbrev cX4_isSmall : ByteArray := prog_9_method_4_code
def yX4_isSmall : MethodName := ⟨RX4, "isSmall", "(I)Z"⟩
def dkwX4_isSmall_0 : List UInt8 := [26, 16, 97, 161, 0, 13, 26, 16, 122, 163, 0, 7, 4, 167, 0, 4, 3, 172]
abbrev dktX4_isSmall_0 : List UInt8 := dkwX4_isSmall_0 ++ []
theorem dksX4_isSmall_0 : cX4_isSmall.data.toList.drop 0 = dktX4_isSmall_0 := by decide +kernel
theorem dX4_isSmall_0 : decode cX4_isSmall 0 = .ok (.iload_n 0, 1) := dk_26 (dk_at dksX4_isSmall_0 0 rfl rfl)
theorem dX4_isSmall_1 : decode cX4_isSmall 1 = .ok (.bipush 97, 2) := dk_16 97 (dk_at dksX4_isSmall_0 1 rfl rfl)
theorem dX4_isSmall_3 : decode cX4_isSmall 3 = .ok (.if_icmp .lt 13, 3) := dk_161 0 13 (dk_at dksX4_isSmall_0 3 rfl rfl)
theorem dX4_isSmall_6 : decode cX4_isSmall 6 = .ok (.iload_n 0, 1) := dk_26 (dk_at dksX4_isSmall_0 6 rfl rfl)
theorem dX4_isSmall_7 : decode cX4_isSmall 7 = .ok (.bipush 122, 2) := dk_16 122 (dk_at dksX4_isSmall_0 7 rfl rfl)
theorem dX4_isSmall_9 : decode cX4_isSmall 9 = .ok (.if_icmp .gt 7, 3) := dk_163 0 7 (dk_at dksX4_isSmall_0 9 rfl rfl)
theorem dX4_isSmall_12 : decode cX4_isSmall 12 = .ok (.iconst 1, 1) := dk_4 (dk_at dksX4_isSmall_0 12 rfl rfl)
theorem dX4_isSmall_13 : decode cX4_isSmall 13 = .ok (.goto 4, 3) := dk_167 0 4 (dk_at dksX4_isSmall_0 13 rfl rfl)
theorem dX4_isSmall_16 : decode cX4_isSmall 16 = .ok (.iconst 0, 1) := dk_3 (dk_at dksX4_isSmall_0 16 rfl rfl)
theorem dX4_isSmall_17 : decode cX4_isSmall 17 = .ok (.ireturn, 1) := dk_172 (dk_at dksX4_isSmall_0 17 rfl rfl)
abbrev cX4_isDigit : ByteArray := prog_9_method_5_code
def yX4_isDigit : MethodName := ⟨RX4, "isDigit", "(I)Z"⟩
def dkwX4_isDigit_0 : List UInt8 := [26, 16, 48, 161, 0, 13, 26, 16, 57, 163, 0, 7, 4, 167, 0, 4, 3, 172]
abbrev dktX4_isDigit_0 : List UInt8 := dkwX4_isDigit_0 ++ []
theorem dksX4_isDigit_0 : cX4_isDigit.data.toList.drop 0 = dktX4_isDigit_0 := by decide +kernel
theorem dX4_isDigit_0 : decode cX4_isDigit 0 = .ok (.iload_n 0, 1) := dk_26 (dk_at dksX4_isDigit_0 0 rfl rfl)
theorem dX4_isDigit_1 : decode cX4_isDigit 1 = .ok (.bipush 48, 2) := dk_16 48 (dk_at dksX4_isDigit_0 1 rfl rfl)
theorem dX4_isDigit_3 : decode cX4_isDigit 3 = .ok (.if_icmp .lt 13, 3) := dk_161 0 13 (dk_at dksX4_isDigit_0 3 rfl rfl)
theorem dX4_isDigit_6 : decode cX4_isDigit 6 = .ok (.iload_n 0, 1) := dk_26 (dk_at dksX4_isDigit_0 6 rfl rfl)
theorem dX4_isDigit_7 : decode cX4_isDigit 7 = .ok (.bipush 57, 2) := dk_16 57 (dk_at dksX4_isDigit_0 7 rfl rfl)
theorem dX4_isDigit_9 : decode cX4_isDigit 9 = .ok (.if_icmp .gt 7, 3) := dk_163 0 7 (dk_at dksX4_isDigit_0 9 rfl rfl)
theorem dX4_isDigit_12 : decode cX4_isDigit 12 = .ok (.iconst 1, 1) := dk_4 (dk_at dksX4_isDigit_0 12 rfl rfl)
theorem dX4_isDigit_13 : decode cX4_isDigit 13 = .ok (.goto 4, 3) := dk_167 0 4 (dk_at dksX4_isDigit_0 13 rfl rfl)
theorem dX4_isDigit_16 : decode cX4_isDigit 16 = .ok (.iconst 0, 1) := dk_3 (dk_at dksX4_isDigit_0 16 rfl rfl)
theorem dX4_isDigit_17 : decode cX4_isDigit 17 = .ok (.ireturn, 1) := dk_172 (dk_at dksX4_isDigit_0 17 rfl rfl)
abbrev cX4_readPlate : ByteArray := prog_9_method_19_code
def yX4_readPlate : MethodName := ⟨RX4, "readPlate", "()Z"⟩
def dkwX4_readPlate_7 : List UInt8 := [180, 0, 146, 4, 96, 181, 0, 146, 167, 255, 146, 4, 172]
abbrev dktX4_readPlate_7 : List UInt8 := dkwX4_readPlate_7 ++ []
def dkwX4_readPlate_6 : List UInt8 := [3, 172, 42, 180, 0, 27, 6, 159, 0, 9, 42, 4, 182, 0, 49, 172, 42, 182, 0, 59, 42, 89]
abbrev dktX4_readPlate_6 : List UInt8 := dkwX4_readPlate_6 ++ dktX4_readPlate_7
def dkwX4_readPlate_5 : List UInt8 := [18, 164, 182, 0, 112, 153, 0, 10, 42, 182, 0, 166, 167, 0, 7, 42, 182, 0, 169, 60, 27, 154, 0, 5]
abbrev dktX4_readPlate_5 : List UInt8 := dkwX4_readPlate_5 ++ dktX4_readPlate_6
def dkwX4_readPlate_4 : List UInt8 := [182, 0, 156, 167, 0, 39, 42, 18, 159, 182, 0, 112, 153, 0, 10, 42, 182, 0, 161, 167, 0, 23, 42]
abbrev dktX4_readPlate_4 : List UInt8 := dkwX4_readPlate_4 ++ dktX4_readPlate_5
def dkwX4_readPlate_3 : List UInt8 := [182, 0, 112, 153, 0, 10, 42, 182, 0, 151, 167, 0, 55, 42, 18, 154, 182, 0, 112, 153, 0, 10, 42]
abbrev dktX4_readPlate_3 : List UInt8 := dkwX4_readPlate_3 ++ dktX4_readPlate_4
def dkwX4_readPlate_2 : List UInt8 := [3, 181, 0, 124, 42, 3, 181, 0, 127, 42, 3, 181, 0, 146, 42, 180, 0, 27, 153, 0, 109, 42, 18, 149]
abbrev dktX4_readPlate_2 : List UInt8 := dkwX4_readPlate_2 ++ dktX4_readPlate_3
def dkwX4_readPlate_1 : List UInt8 := [181, 0, 134, 42, 5, 181, 0, 137, 42, 6, 181, 0, 140, 42, 8, 181, 0, 143, 42, 3, 181, 0, 120, 42]
abbrev dktX4_readPlate_1 : List UInt8 := dkwX4_readPlate_1 ++ dktX4_readPlate_2
def dkwX4_readPlate_0 : List UInt8 := [42, 3, 181, 0, 63, 42, 3, 181, 0, 77, 42, 3, 181, 0, 101, 42, 3, 181, 0, 107, 42, 8]
abbrev dktX4_readPlate_0 : List UInt8 := dkwX4_readPlate_0 ++ dktX4_readPlate_1
theorem dksX4_readPlate_0 : cX4_readPlate.data.toList.drop 0 = dktX4_readPlate_0 := by decide +kernel
theorem dksX4_readPlate_1 : cX4_readPlate.data.toList.drop 22 = dktX4_readPlate_1 := dk_seg dksX4_readPlate_0 22 rfl rfl
theorem dksX4_readPlate_2 : cX4_readPlate.data.toList.drop 46 = dktX4_readPlate_2 := dk_seg dksX4_readPlate_1 24 rfl rfl
theorem dksX4_readPlate_3 : cX4_readPlate.data.toList.drop 70 = dktX4_readPlate_3 := dk_seg dksX4_readPlate_2 24 rfl rfl
theorem dksX4_readPlate_4 : cX4_readPlate.data.toList.drop 93 = dktX4_readPlate_4 := dk_seg dksX4_readPlate_3 23 rfl rfl
theorem dksX4_readPlate_5 : cX4_readPlate.data.toList.drop 116 = dktX4_readPlate_5 := dk_seg dksX4_readPlate_4 23 rfl rfl
theorem dksX4_readPlate_6 : cX4_readPlate.data.toList.drop 140 = dktX4_readPlate_6 := dk_seg dksX4_readPlate_5 24 rfl rfl
theorem dksX4_readPlate_7 : cX4_readPlate.data.toList.drop 162 = dktX4_readPlate_7 := dk_seg dksX4_readPlate_6 22 rfl rfl
theorem dX4_readPlate_0 : decode cX4_readPlate 0 = .ok (.aload_n 0, 1) := dk_42 (dk_at dksX4_readPlate_0 0 rfl rfl)
theorem dX4_readPlate_1 : decode cX4_readPlate 1 = .ok (.iconst 0, 1) := dk_3 (dk_at dksX4_readPlate_0 1 rfl rfl)
theorem dX4_readPlate_2 : decode cX4_readPlate 2 = .ok (.putfield 63, 3) := dk_181 0 63 (dk_at dksX4_readPlate_0 2 rfl rfl)
theorem dX4_readPlate_5 : decode cX4_readPlate 5 = .ok (.aload_n 0, 1) := dk_42 (dk_at dksX4_readPlate_0 5 rfl rfl)
theorem dX4_readPlate_6 : decode cX4_readPlate 6 = .ok (.iconst 0, 1) := dk_3 (dk_at dksX4_readPlate_0 6 rfl rfl)
theorem dX4_readPlate_7 : decode cX4_readPlate 7 = .ok (.putfield 77, 3) := dk_181 0 77 (dk_at dksX4_readPlate_0 7 rfl rfl)
theorem dX4_readPlate_10 : decode cX4_readPlate 10 = .ok (.aload_n 0, 1) := dk_42 (dk_at dksX4_readPlate_0 10 rfl rfl)
theorem dX4_readPlate_11 : decode cX4_readPlate 11 = .ok (.iconst 0, 1) := dk_3 (dk_at dksX4_readPlate_0 11 rfl rfl)
theorem dX4_readPlate_12 : decode cX4_readPlate 12 = .ok (.putfield 101, 3) := dk_181 0 101 (dk_at dksX4_readPlate_0 12 rfl rfl)
theorem dX4_readPlate_15 : decode cX4_readPlate 15 = .ok (.aload_n 0, 1) := dk_42 (dk_at dksX4_readPlate_0 15 rfl rfl)
theorem dX4_readPlate_16 : decode cX4_readPlate 16 = .ok (.iconst 0, 1) := dk_3 (dk_at dksX4_readPlate_0 16 rfl rfl)
theorem dX4_readPlate_17 : decode cX4_readPlate 17 = .ok (.putfield 107, 3) := dk_181 0 107 (dk_at dksX4_readPlate_0 17 rfl rfl)
theorem dX4_readPlate_20 : decode cX4_readPlate 20 = .ok (.aload_n 0, 1) := dk_42 (dk_at dksX4_readPlate_0 20 rfl rfl)
theorem dX4_readPlate_21 : decode cX4_readPlate 21 = .ok (.iconst 5, 1) := dk_8 (dk_at dksX4_readPlate_0 21 rfl rfl)
theorem dX4_readPlate_22 : decode cX4_readPlate 22 = .ok (.putfield 134, 3) := dk_181 0 134 (dk_at dksX4_readPlate_1 0 rfl rfl)
theorem dX4_readPlate_25 : decode cX4_readPlate 25 = .ok (.aload_n 0, 1) := dk_42 (dk_at dksX4_readPlate_1 3 rfl rfl)
theorem dX4_readPlate_26 : decode cX4_readPlate 26 = .ok (.iconst 2, 1) := dk_5 (dk_at dksX4_readPlate_1 4 rfl rfl)
theorem dX4_readPlate_27 : decode cX4_readPlate 27 = .ok (.putfield 137, 3) := dk_181 0 137 (dk_at dksX4_readPlate_1 5 rfl rfl)
theorem dX4_readPlate_30 : decode cX4_readPlate 30 = .ok (.aload_n 0, 1) := dk_42 (dk_at dksX4_readPlate_1 8 rfl rfl)
theorem dX4_readPlate_31 : decode cX4_readPlate 31 = .ok (.iconst 3, 1) := dk_6 (dk_at dksX4_readPlate_1 9 rfl rfl)
theorem dX4_readPlate_32 : decode cX4_readPlate 32 = .ok (.putfield 140, 3) := dk_181 0 140 (dk_at dksX4_readPlate_1 10 rfl rfl)
theorem dX4_readPlate_35 : decode cX4_readPlate 35 = .ok (.aload_n 0, 1) := dk_42 (dk_at dksX4_readPlate_1 13 rfl rfl)
theorem dX4_readPlate_36 : decode cX4_readPlate 36 = .ok (.iconst 5, 1) := dk_8 (dk_at dksX4_readPlate_1 14 rfl rfl)
theorem dX4_readPlate_37 : decode cX4_readPlate 37 = .ok (.putfield 143, 3) := dk_181 0 143 (dk_at dksX4_readPlate_1 15 rfl rfl)
theorem dX4_readPlate_40 : decode cX4_readPlate 40 = .ok (.aload_n 0, 1) := dk_42 (dk_at dksX4_readPlate_1 18 rfl rfl)
theorem dX4_readPlate_41 : decode cX4_readPlate 41 = .ok (.iconst 0, 1) := dk_3 (dk_at dksX4_readPlate_1 19 rfl rfl)
theorem dX4_readPlate_42 : decode cX4_readPlate 42 = .ok (.putfield 120, 3) := dk_181 0 120 (dk_at dksX4_readPlate_1 20 rfl rfl)
theorem dX4_readPlate_45 : decode cX4_readPlate 45 = .ok (.aload_n 0, 1) := dk_42 (dk_at dksX4_readPlate_1 23 rfl rfl)
theorem dX4_readPlate_46 : decode cX4_readPlate 46 = .ok (.iconst 0, 1) := dk_3 (dk_at dksX4_readPlate_2 0 rfl rfl)
theorem dX4_readPlate_47 : decode cX4_readPlate 47 = .ok (.putfield 124, 3) := dk_181 0 124 (dk_at dksX4_readPlate_2 1 rfl rfl)
theorem dX4_readPlate_50 : decode cX4_readPlate 50 = .ok (.aload_n 0, 1) := dk_42 (dk_at dksX4_readPlate_2 4 rfl rfl)
theorem dX4_readPlate_51 : decode cX4_readPlate 51 = .ok (.iconst 0, 1) := dk_3 (dk_at dksX4_readPlate_2 5 rfl rfl)
theorem dX4_readPlate_52 : decode cX4_readPlate 52 = .ok (.putfield 127, 3) := dk_181 0 127 (dk_at dksX4_readPlate_2 6 rfl rfl)
theorem dX4_readPlate_55 : decode cX4_readPlate 55 = .ok (.aload_n 0, 1) := dk_42 (dk_at dksX4_readPlate_2 9 rfl rfl)
theorem dX4_readPlate_56 : decode cX4_readPlate 56 = .ok (.iconst 0, 1) := dk_3 (dk_at dksX4_readPlate_2 10 rfl rfl)
theorem dX4_readPlate_57 : decode cX4_readPlate 57 = .ok (.putfield 146, 3) := dk_181 0 146 (dk_at dksX4_readPlate_2 11 rfl rfl)
theorem dX4_readPlate_60 : decode cX4_readPlate 60 = .ok (.aload_n 0, 1) := dk_42 (dk_at dksX4_readPlate_2 14 rfl rfl)
theorem dX4_readPlate_61 : decode cX4_readPlate 61 = .ok (.getfield 27, 3) := dk_180 0 27 (dk_at dksX4_readPlate_2 15 rfl rfl)
theorem dX4_readPlate_64 : decode cX4_readPlate 64 = .ok (.ifCond .eq 109, 3) := dk_153 0 109 (dk_at dksX4_readPlate_2 18 rfl rfl)
theorem dX4_readPlate_67 : decode cX4_readPlate 67 = .ok (.aload_n 0, 1) := dk_42 (dk_at dksX4_readPlate_2 21 rfl rfl)
theorem dX4_readPlate_68 : decode cX4_readPlate 68 = .ok (.ldc 149, 2) := dk_18 149 (dk_at dksX4_readPlate_2 22 rfl rfl)
theorem dX4_readPlate_70 : decode cX4_readPlate 70 = .ok (.invokevirtual 112, 3) := dk_182 0 112 (dk_at dksX4_readPlate_3 0 rfl rfl)
theorem dX4_readPlate_73 : decode cX4_readPlate 73 = .ok (.ifCond .eq 10, 3) := dk_153 0 10 (dk_at dksX4_readPlate_3 3 rfl rfl)
theorem dX4_readPlate_76 : decode cX4_readPlate 76 = .ok (.aload_n 0, 1) := dk_42 (dk_at dksX4_readPlate_3 6 rfl rfl)
theorem dX4_readPlate_77 : decode cX4_readPlate 77 = .ok (.invokevirtual 151, 3) := dk_182 0 151 (dk_at dksX4_readPlate_3 7 rfl rfl)
theorem dX4_readPlate_80 : decode cX4_readPlate 80 = .ok (.goto 55, 3) := dk_167 0 55 (dk_at dksX4_readPlate_3 10 rfl rfl)
theorem dX4_readPlate_83 : decode cX4_readPlate 83 = .ok (.aload_n 0, 1) := dk_42 (dk_at dksX4_readPlate_3 13 rfl rfl)
theorem dX4_readPlate_84 : decode cX4_readPlate 84 = .ok (.ldc 154, 2) := dk_18 154 (dk_at dksX4_readPlate_3 14 rfl rfl)
theorem dX4_readPlate_86 : decode cX4_readPlate 86 = .ok (.invokevirtual 112, 3) := dk_182 0 112 (dk_at dksX4_readPlate_3 16 rfl rfl)
theorem dX4_readPlate_89 : decode cX4_readPlate 89 = .ok (.ifCond .eq 10, 3) := dk_153 0 10 (dk_at dksX4_readPlate_3 19 rfl rfl)
theorem dX4_readPlate_92 : decode cX4_readPlate 92 = .ok (.aload_n 0, 1) := dk_42 (dk_at dksX4_readPlate_3 22 rfl rfl)
theorem dX4_readPlate_93 : decode cX4_readPlate 93 = .ok (.invokevirtual 156, 3) := dk_182 0 156 (dk_at dksX4_readPlate_4 0 rfl rfl)
theorem dX4_readPlate_96 : decode cX4_readPlate 96 = .ok (.goto 39, 3) := dk_167 0 39 (dk_at dksX4_readPlate_4 3 rfl rfl)
theorem dX4_readPlate_99 : decode cX4_readPlate 99 = .ok (.aload_n 0, 1) := dk_42 (dk_at dksX4_readPlate_4 6 rfl rfl)
theorem dX4_readPlate_100 : decode cX4_readPlate 100 = .ok (.ldc 159, 2) := dk_18 159 (dk_at dksX4_readPlate_4 7 rfl rfl)
theorem dX4_readPlate_102 : decode cX4_readPlate 102 = .ok (.invokevirtual 112, 3) := dk_182 0 112 (dk_at dksX4_readPlate_4 9 rfl rfl)
theorem dX4_readPlate_105 : decode cX4_readPlate 105 = .ok (.ifCond .eq 10, 3) := dk_153 0 10 (dk_at dksX4_readPlate_4 12 rfl rfl)
theorem dX4_readPlate_108 : decode cX4_readPlate 108 = .ok (.aload_n 0, 1) := dk_42 (dk_at dksX4_readPlate_4 15 rfl rfl)
theorem dX4_readPlate_109 : decode cX4_readPlate 109 = .ok (.invokevirtual 161, 3) := dk_182 0 161 (dk_at dksX4_readPlate_4 16 rfl rfl)
theorem dX4_readPlate_112 : decode cX4_readPlate 112 = .ok (.goto 23, 3) := dk_167 0 23 (dk_at dksX4_readPlate_4 19 rfl rfl)
theorem dX4_readPlate_115 : decode cX4_readPlate 115 = .ok (.aload_n 0, 1) := dk_42 (dk_at dksX4_readPlate_4 22 rfl rfl)
theorem dX4_readPlate_116 : decode cX4_readPlate 116 = .ok (.ldc 164, 2) := dk_18 164 (dk_at dksX4_readPlate_5 0 rfl rfl)
theorem dX4_readPlate_118 : decode cX4_readPlate 118 = .ok (.invokevirtual 112, 3) := dk_182 0 112 (dk_at dksX4_readPlate_5 2 rfl rfl)
theorem dX4_readPlate_121 : decode cX4_readPlate 121 = .ok (.ifCond .eq 10, 3) := dk_153 0 10 (dk_at dksX4_readPlate_5 5 rfl rfl)
theorem dX4_readPlate_124 : decode cX4_readPlate 124 = .ok (.aload_n 0, 1) := dk_42 (dk_at dksX4_readPlate_5 8 rfl rfl)
theorem dX4_readPlate_125 : decode cX4_readPlate 125 = .ok (.invokevirtual 166, 3) := dk_182 0 166 (dk_at dksX4_readPlate_5 9 rfl rfl)
theorem dX4_readPlate_128 : decode cX4_readPlate 128 = .ok (.goto 7, 3) := dk_167 0 7 (dk_at dksX4_readPlate_5 12 rfl rfl)
theorem dX4_readPlate_131 : decode cX4_readPlate 131 = .ok (.aload_n 0, 1) := dk_42 (dk_at dksX4_readPlate_5 15 rfl rfl)
theorem dX4_readPlate_132 : decode cX4_readPlate 132 = .ok (.invokevirtual 169, 3) := dk_182 0 169 (dk_at dksX4_readPlate_5 16 rfl rfl)
theorem dX4_readPlate_135 : decode cX4_readPlate 135 = .ok (.istore_n 1, 1) := dk_60 (dk_at dksX4_readPlate_5 19 rfl rfl)
theorem dX4_readPlate_136 : decode cX4_readPlate 136 = .ok (.iload_n 1, 1) := dk_27 (dk_at dksX4_readPlate_5 20 rfl rfl)
theorem dX4_readPlate_137 : decode cX4_readPlate 137 = .ok (.ifCond .ne 5, 3) := dk_154 0 5 (dk_at dksX4_readPlate_5 21 rfl rfl)
theorem dX4_readPlate_140 : decode cX4_readPlate 140 = .ok (.iconst 0, 1) := dk_3 (dk_at dksX4_readPlate_6 0 rfl rfl)
theorem dX4_readPlate_141 : decode cX4_readPlate 141 = .ok (.ireturn, 1) := dk_172 (dk_at dksX4_readPlate_6 1 rfl rfl)
theorem dX4_readPlate_142 : decode cX4_readPlate 142 = .ok (.aload_n 0, 1) := dk_42 (dk_at dksX4_readPlate_6 2 rfl rfl)
theorem dX4_readPlate_143 : decode cX4_readPlate 143 = .ok (.getfield 27, 3) := dk_180 0 27 (dk_at dksX4_readPlate_6 3 rfl rfl)
theorem dX4_readPlate_146 : decode cX4_readPlate 146 = .ok (.iconst 3, 1) := dk_6 (dk_at dksX4_readPlate_6 6 rfl rfl)
theorem dX4_readPlate_147 : decode cX4_readPlate 147 = .ok (.if_icmp .eq 9, 3) := dk_159 0 9 (dk_at dksX4_readPlate_6 7 rfl rfl)
theorem dX4_readPlate_150 : decode cX4_readPlate 150 = .ok (.aload_n 0, 1) := dk_42 (dk_at dksX4_readPlate_6 10 rfl rfl)
theorem dX4_readPlate_151 : decode cX4_readPlate 151 = .ok (.iconst 1, 1) := dk_4 (dk_at dksX4_readPlate_6 11 rfl rfl)
theorem dX4_readPlate_152 : decode cX4_readPlate 152 = .ok (.invokevirtual 49, 3) := dk_182 0 49 (dk_at dksX4_readPlate_6 12 rfl rfl)
theorem dX4_readPlate_155 : decode cX4_readPlate 155 = .ok (.ireturn, 1) := dk_172 (dk_at dksX4_readPlate_6 15 rfl rfl)
theorem dX4_readPlate_156 : decode cX4_readPlate 156 = .ok (.aload_n 0, 1) := dk_42 (dk_at dksX4_readPlate_6 16 rfl rfl)
theorem dX4_readPlate_157 : decode cX4_readPlate 157 = .ok (.invokevirtual 59, 3) := dk_182 0 59 (dk_at dksX4_readPlate_6 17 rfl rfl)
theorem dX4_readPlate_160 : decode cX4_readPlate 160 = .ok (.aload_n 0, 1) := dk_42 (dk_at dksX4_readPlate_6 20 rfl rfl)
theorem dX4_readPlate_161 : decode cX4_readPlate 161 = .ok (.dup, 1) := dk_89 (dk_at dksX4_readPlate_6 21 rfl rfl)
theorem dX4_readPlate_162 : decode cX4_readPlate 162 = .ok (.getfield 146, 3) := dk_180 0 146 (dk_at dksX4_readPlate_7 0 rfl rfl)
theorem dX4_readPlate_165 : decode cX4_readPlate 165 = .ok (.iconst 1, 1) := dk_4 (dk_at dksX4_readPlate_7 3 rfl rfl)
theorem dX4_readPlate_166 : decode cX4_readPlate 166 = .ok (.iadd, 1) := dk_96 (dk_at dksX4_readPlate_7 4 rfl rfl)
theorem dX4_readPlate_167 : decode cX4_readPlate 167 = .ok (.putfield 146, 3) := dk_181 0 146 (dk_at dksX4_readPlate_7 5 rfl rfl)
theorem dX4_readPlate_170 : decode cX4_readPlate 170 = .ok (.goto (-110), 3) := dk_167 255 146 (dk_at dksX4_readPlate_7 8 rfl rfl)
theorem dX4_readPlate_173 : decode cX4_readPlate 173 = .ok (.iconst 1, 1) := dk_4 (dk_at dksX4_readPlate_7 11 rfl rfl)
theorem dX4_readPlate_174 : decode cX4_readPlate 174 = .ok (.ireturn, 1) := dk_172 (dk_at dksX4_readPlate_7 12 rfl rfl)
abbrev cX4_is : ByteArray := prog_9_method_7_code
def yX4_is : MethodName := ⟨RX4, "is", "(Ljava/lang/String;)Z"⟩
def dkwX4_is_3 : List UInt8 := [167, 255, 216, 28, 172]
abbrev dktX4_is_3 : List UInt8 := dkwX4_is_3 ++ []
def dkwX4_is_2 : List UInt8 := [42, 180, 0, 7, 29, 96, 51, 43, 29, 182, 0, 45, 160, 0, 7, 4, 167, 0, 4, 3, 61, 132, 3, 1]
abbrev dktX4_is_2 : List UInt8 := dkwX4_is_2 ++ dktX4_is_3
def dkwX4_is_1 : List UInt8 := [4, 167, 0, 4, 3, 61, 3, 62, 29, 43, 182, 0, 40, 162, 0, 38, 28, 153, 0, 34, 42, 180, 0, 16]
abbrev dktX4_is_1 : List UInt8 := dkwX4_is_1 ++ dktX4_is_2
def dkwX4_is_0 : List UInt8 := [42, 180, 0, 27, 4, 160, 0, 23, 42, 180, 0, 20, 42, 180, 0, 7, 100, 43, 182, 0, 40, 160, 0, 7]
abbrev dktX4_is_0 : List UInt8 := dkwX4_is_0 ++ dktX4_is_1
theorem dksX4_is_0 : cX4_is.data.toList.drop 0 = dktX4_is_0 := by decide +kernel
theorem dksX4_is_1 : cX4_is.data.toList.drop 24 = dktX4_is_1 := dk_seg dksX4_is_0 24 rfl rfl
theorem dksX4_is_2 : cX4_is.data.toList.drop 48 = dktX4_is_2 := dk_seg dksX4_is_1 24 rfl rfl
theorem dksX4_is_3 : cX4_is.data.toList.drop 72 = dktX4_is_3 := dk_seg dksX4_is_2 24 rfl rfl
theorem dX4_is_0 : decode cX4_is 0 = .ok (.aload_n 0, 1) := dk_42 (dk_at dksX4_is_0 0 rfl rfl)
theorem dX4_is_1 : decode cX4_is 1 = .ok (.getfield 27, 3) := dk_180 0 27 (dk_at dksX4_is_0 1 rfl rfl)
theorem dX4_is_4 : decode cX4_is 4 = .ok (.iconst 1, 1) := dk_4 (dk_at dksX4_is_0 4 rfl rfl)
theorem dX4_is_5 : decode cX4_is 5 = .ok (.if_icmp .ne 23, 3) := dk_160 0 23 (dk_at dksX4_is_0 5 rfl rfl)
theorem dX4_is_8 : decode cX4_is 8 = .ok (.aload_n 0, 1) := dk_42 (dk_at dksX4_is_0 8 rfl rfl)
theorem dX4_is_9 : decode cX4_is 9 = .ok (.getfield 20, 3) := dk_180 0 20 (dk_at dksX4_is_0 9 rfl rfl)
theorem dX4_is_12 : decode cX4_is 12 = .ok (.aload_n 0, 1) := dk_42 (dk_at dksX4_is_0 12 rfl rfl)
theorem dX4_is_13 : decode cX4_is 13 = .ok (.getfield 7, 3) := dk_180 0 7 (dk_at dksX4_is_0 13 rfl rfl)
theorem dX4_is_16 : decode cX4_is 16 = .ok (.isub, 1) := dk_100 (dk_at dksX4_is_0 16 rfl rfl)
theorem dX4_is_17 : decode cX4_is 17 = .ok (.aload_n 1, 1) := dk_43 (dk_at dksX4_is_0 17 rfl rfl)
theorem dX4_is_18 : decode cX4_is 18 = .ok (.invokevirtual 40, 3) := dk_182 0 40 (dk_at dksX4_is_0 18 rfl rfl)
theorem dX4_is_21 : decode cX4_is 21 = .ok (.if_icmp .ne 7, 3) := dk_160 0 7 (dk_at dksX4_is_0 21 rfl rfl)
theorem dX4_is_24 : decode cX4_is 24 = .ok (.iconst 1, 1) := dk_4 (dk_at dksX4_is_1 0 rfl rfl)
theorem dX4_is_25 : decode cX4_is 25 = .ok (.goto 4, 3) := dk_167 0 4 (dk_at dksX4_is_1 1 rfl rfl)
theorem dX4_is_28 : decode cX4_is 28 = .ok (.iconst 0, 1) := dk_3 (dk_at dksX4_is_1 4 rfl rfl)
theorem dX4_is_29 : decode cX4_is 29 = .ok (.istore_n 2, 1) := dk_61 (dk_at dksX4_is_1 5 rfl rfl)
theorem dX4_is_30 : decode cX4_is 30 = .ok (.iconst 0, 1) := dk_3 (dk_at dksX4_is_1 6 rfl rfl)
theorem dX4_is_31 : decode cX4_is 31 = .ok (.istore_n 3, 1) := dk_62 (dk_at dksX4_is_1 7 rfl rfl)
theorem dX4_is_32 : decode cX4_is 32 = .ok (.iload_n 3, 1) := dk_29 (dk_at dksX4_is_1 8 rfl rfl)
theorem dX4_is_33 : decode cX4_is 33 = .ok (.aload_n 1, 1) := dk_43 (dk_at dksX4_is_1 9 rfl rfl)
theorem dX4_is_34 : decode cX4_is 34 = .ok (.invokevirtual 40, 3) := dk_182 0 40 (dk_at dksX4_is_1 10 rfl rfl)
theorem dX4_is_37 : decode cX4_is 37 = .ok (.if_icmp .ge 38, 3) := dk_162 0 38 (dk_at dksX4_is_1 13 rfl rfl)
theorem dX4_is_40 : decode cX4_is 40 = .ok (.iload_n 2, 1) := dk_28 (dk_at dksX4_is_1 16 rfl rfl)
theorem dX4_is_41 : decode cX4_is 41 = .ok (.ifCond .eq 34, 3) := dk_153 0 34 (dk_at dksX4_is_1 17 rfl rfl)
theorem dX4_is_44 : decode cX4_is 44 = .ok (.aload_n 0, 1) := dk_42 (dk_at dksX4_is_1 20 rfl rfl)
theorem dX4_is_45 : decode cX4_is 45 = .ok (.getfield 16, 3) := dk_180 0 16 (dk_at dksX4_is_1 21 rfl rfl)
theorem dX4_is_48 : decode cX4_is 48 = .ok (.aload_n 0, 1) := dk_42 (dk_at dksX4_is_2 0 rfl rfl)
theorem dX4_is_49 : decode cX4_is 49 = .ok (.getfield 7, 3) := dk_180 0 7 (dk_at dksX4_is_2 1 rfl rfl)
theorem dX4_is_52 : decode cX4_is 52 = .ok (.iload_n 3, 1) := dk_29 (dk_at dksX4_is_2 4 rfl rfl)
theorem dX4_is_53 : decode cX4_is 53 = .ok (.iadd, 1) := dk_96 (dk_at dksX4_is_2 5 rfl rfl)
theorem dX4_is_54 : decode cX4_is 54 = .ok (.baload, 1) := dk_51 (dk_at dksX4_is_2 6 rfl rfl)
theorem dX4_is_55 : decode cX4_is 55 = .ok (.aload_n 1, 1) := dk_43 (dk_at dksX4_is_2 7 rfl rfl)
theorem dX4_is_56 : decode cX4_is 56 = .ok (.iload_n 3, 1) := dk_29 (dk_at dksX4_is_2 8 rfl rfl)
theorem dX4_is_57 : decode cX4_is 57 = .ok (.invokevirtual 45, 3) := dk_182 0 45 (dk_at dksX4_is_2 9 rfl rfl)
theorem dX4_is_60 : decode cX4_is 60 = .ok (.if_icmp .ne 7, 3) := dk_160 0 7 (dk_at dksX4_is_2 12 rfl rfl)
theorem dX4_is_63 : decode cX4_is 63 = .ok (.iconst 1, 1) := dk_4 (dk_at dksX4_is_2 15 rfl rfl)
theorem dX4_is_64 : decode cX4_is 64 = .ok (.goto 4, 3) := dk_167 0 4 (dk_at dksX4_is_2 16 rfl rfl)
theorem dX4_is_67 : decode cX4_is 67 = .ok (.iconst 0, 1) := dk_3 (dk_at dksX4_is_2 19 rfl rfl)
theorem dX4_is_68 : decode cX4_is 68 = .ok (.istore_n 2, 1) := dk_61 (dk_at dksX4_is_2 20 rfl rfl)
theorem dX4_is_69 : decode cX4_is 69 = .ok (.iinc 3 1, 3) := dk_132 3 1 (dk_at dksX4_is_2 21 rfl rfl)
theorem dX4_is_72 : decode cX4_is 72 = .ok (.goto (-40), 3) := dk_167 255 216 (dk_at dksX4_is_3 0 rfl rfl)
theorem dX4_is_75 : decode cX4_is 75 = .ok (.iload_n 2, 1) := dk_28 (dk_at dksX4_is_3 3 rfl rfl)
theorem dX4_is_76 : decode cX4_is 76 = .ok (.ireturn, 1) := dk_172 (dk_at dksX4_is_3 4 rfl rfl)
abbrev cX4_readSpot : ByteArray := prog_9_method_11_code
def yX4_readSpot : MethodName := ⟨RX4, "readSpot", "()Z"⟩
def dkwX4_readSpot_3 : List UInt8 := [182, 0, 59, 4, 172]
abbrev dktX4_readSpot_3 : List UInt8 := dkwX4_readSpot_3 ++ []
def dkwX4_readSpot_2 : List UInt8 := [180, 0, 66, 42, 180, 0, 63, 42, 182, 0, 70, 80, 42, 89, 180, 0, 63, 4, 96, 181, 0, 63, 42]
abbrev dktX4_readSpot_2 : List UInt8 := dkwX4_readSpot_2 ++ dktX4_readSpot_3
def dkwX4_readSpot_1 : List UInt8 := [159, 0, 9, 42, 4, 182, 0, 49, 172, 42, 182, 0, 74, 2, 159, 0, 9, 42, 6, 182, 0, 49, 172, 42]
abbrev dktX4_readSpot_1 : List UInt8 := dkwX4_readSpot_1 ++ dktX4_readSpot_2
def dkwX4_readSpot_0 : List UInt8 := [42, 180, 0, 63, 16, 6, 160, 0, 9, 42, 7, 182, 0, 49, 172, 42, 182, 0, 59, 42, 180, 0, 27, 4]
abbrev dktX4_readSpot_0 : List UInt8 := dkwX4_readSpot_0 ++ dktX4_readSpot_1
theorem dksX4_readSpot_0 : cX4_readSpot.data.toList.drop 0 = dktX4_readSpot_0 := by decide +kernel
theorem dksX4_readSpot_1 : cX4_readSpot.data.toList.drop 24 = dktX4_readSpot_1 := dk_seg dksX4_readSpot_0 24 rfl rfl
theorem dksX4_readSpot_2 : cX4_readSpot.data.toList.drop 48 = dktX4_readSpot_2 := dk_seg dksX4_readSpot_1 24 rfl rfl
theorem dksX4_readSpot_3 : cX4_readSpot.data.toList.drop 71 = dktX4_readSpot_3 := dk_seg dksX4_readSpot_2 23 rfl rfl
theorem dX4_readSpot_0 : decode cX4_readSpot 0 = .ok (.aload_n 0, 1) := dk_42 (dk_at dksX4_readSpot_0 0 rfl rfl)
theorem dX4_readSpot_1 : decode cX4_readSpot 1 = .ok (.getfield 63, 3) := dk_180 0 63 (dk_at dksX4_readSpot_0 1 rfl rfl)
theorem dX4_readSpot_4 : decode cX4_readSpot 4 = .ok (.bipush 6, 2) := dk_16 6 (dk_at dksX4_readSpot_0 4 rfl rfl)
theorem dX4_readSpot_6 : decode cX4_readSpot 6 = .ok (.if_icmp .ne 9, 3) := dk_160 0 9 (dk_at dksX4_readSpot_0 6 rfl rfl)
theorem dX4_readSpot_9 : decode cX4_readSpot 9 = .ok (.aload_n 0, 1) := dk_42 (dk_at dksX4_readSpot_0 9 rfl rfl)
theorem dX4_readSpot_10 : decode cX4_readSpot 10 = .ok (.iconst 4, 1) := dk_7 (dk_at dksX4_readSpot_0 10 rfl rfl)
theorem dX4_readSpot_11 : decode cX4_readSpot 11 = .ok (.invokevirtual 49, 3) := dk_182 0 49 (dk_at dksX4_readSpot_0 11 rfl rfl)
theorem dX4_readSpot_14 : decode cX4_readSpot 14 = .ok (.ireturn, 1) := dk_172 (dk_at dksX4_readSpot_0 14 rfl rfl)
theorem dX4_readSpot_15 : decode cX4_readSpot 15 = .ok (.aload_n 0, 1) := dk_42 (dk_at dksX4_readSpot_0 15 rfl rfl)
theorem dX4_readSpot_16 : decode cX4_readSpot 16 = .ok (.invokevirtual 59, 3) := dk_182 0 59 (dk_at dksX4_readSpot_0 16 rfl rfl)
theorem dX4_readSpot_19 : decode cX4_readSpot 19 = .ok (.aload_n 0, 1) := dk_42 (dk_at dksX4_readSpot_0 19 rfl rfl)
theorem dX4_readSpot_20 : decode cX4_readSpot 20 = .ok (.getfield 27, 3) := dk_180 0 27 (dk_at dksX4_readSpot_0 20 rfl rfl)
theorem dX4_readSpot_23 : decode cX4_readSpot 23 = .ok (.iconst 1, 1) := dk_4 (dk_at dksX4_readSpot_0 23 rfl rfl)
theorem dX4_readSpot_24 : decode cX4_readSpot 24 = .ok (.if_icmp .eq 9, 3) := dk_159 0 9 (dk_at dksX4_readSpot_1 0 rfl rfl)
theorem dX4_readSpot_27 : decode cX4_readSpot 27 = .ok (.aload_n 0, 1) := dk_42 (dk_at dksX4_readSpot_1 3 rfl rfl)
theorem dX4_readSpot_28 : decode cX4_readSpot 28 = .ok (.iconst 1, 1) := dk_4 (dk_at dksX4_readSpot_1 4 rfl rfl)
theorem dX4_readSpot_29 : decode cX4_readSpot 29 = .ok (.invokevirtual 49, 3) := dk_182 0 49 (dk_at dksX4_readSpot_1 5 rfl rfl)
theorem dX4_readSpot_32 : decode cX4_readSpot 32 = .ok (.ireturn, 1) := dk_172 (dk_at dksX4_readSpot_1 8 rfl rfl)
theorem dX4_readSpot_33 : decode cX4_readSpot 33 = .ok (.aload_n 0, 1) := dk_42 (dk_at dksX4_readSpot_1 9 rfl rfl)
theorem dX4_readSpot_34 : decode cX4_readSpot 34 = .ok (.invokevirtual 74, 3) := dk_182 0 74 (dk_at dksX4_readSpot_1 10 rfl rfl)
theorem dX4_readSpot_37 : decode cX4_readSpot 37 = .ok (.iconst (-1), 1) := dk_2 (dk_at dksX4_readSpot_1 13 rfl rfl)
theorem dX4_readSpot_38 : decode cX4_readSpot 38 = .ok (.if_icmp .eq 9, 3) := dk_159 0 9 (dk_at dksX4_readSpot_1 14 rfl rfl)
theorem dX4_readSpot_41 : decode cX4_readSpot 41 = .ok (.aload_n 0, 1) := dk_42 (dk_at dksX4_readSpot_1 17 rfl rfl)
theorem dX4_readSpot_42 : decode cX4_readSpot 42 = .ok (.iconst 3, 1) := dk_6 (dk_at dksX4_readSpot_1 18 rfl rfl)
theorem dX4_readSpot_43 : decode cX4_readSpot 43 = .ok (.invokevirtual 49, 3) := dk_182 0 49 (dk_at dksX4_readSpot_1 19 rfl rfl)
theorem dX4_readSpot_46 : decode cX4_readSpot 46 = .ok (.ireturn, 1) := dk_172 (dk_at dksX4_readSpot_1 22 rfl rfl)
theorem dX4_readSpot_47 : decode cX4_readSpot 47 = .ok (.aload_n 0, 1) := dk_42 (dk_at dksX4_readSpot_1 23 rfl rfl)
theorem dX4_readSpot_48 : decode cX4_readSpot 48 = .ok (.getfield 66, 3) := dk_180 0 66 (dk_at dksX4_readSpot_2 0 rfl rfl)
theorem dX4_readSpot_51 : decode cX4_readSpot 51 = .ok (.aload_n 0, 1) := dk_42 (dk_at dksX4_readSpot_2 3 rfl rfl)
theorem dX4_readSpot_52 : decode cX4_readSpot 52 = .ok (.getfield 63, 3) := dk_180 0 63 (dk_at dksX4_readSpot_2 4 rfl rfl)
theorem dX4_readSpot_55 : decode cX4_readSpot 55 = .ok (.aload_n 0, 1) := dk_42 (dk_at dksX4_readSpot_2 7 rfl rfl)
theorem dX4_readSpot_56 : decode cX4_readSpot 56 = .ok (.invokevirtual 70, 3) := dk_182 0 70 (dk_at dksX4_readSpot_2 8 rfl rfl)
theorem dX4_readSpot_59 : decode cX4_readSpot 59 = .ok (.lastore, 1) := dk_80 (dk_at dksX4_readSpot_2 11 rfl rfl)
theorem dX4_readSpot_60 : decode cX4_readSpot 60 = .ok (.aload_n 0, 1) := dk_42 (dk_at dksX4_readSpot_2 12 rfl rfl)
theorem dX4_readSpot_61 : decode cX4_readSpot 61 = .ok (.dup, 1) := dk_89 (dk_at dksX4_readSpot_2 13 rfl rfl)
theorem dX4_readSpot_62 : decode cX4_readSpot 62 = .ok (.getfield 63, 3) := dk_180 0 63 (dk_at dksX4_readSpot_2 14 rfl rfl)
theorem dX4_readSpot_65 : decode cX4_readSpot 65 = .ok (.iconst 1, 1) := dk_4 (dk_at dksX4_readSpot_2 17 rfl rfl)
theorem dX4_readSpot_66 : decode cX4_readSpot 66 = .ok (.iadd, 1) := dk_96 (dk_at dksX4_readSpot_2 18 rfl rfl)
theorem dX4_readSpot_67 : decode cX4_readSpot 67 = .ok (.putfield 63, 3) := dk_181 0 63 (dk_at dksX4_readSpot_2 19 rfl rfl)
theorem dX4_readSpot_70 : decode cX4_readSpot 70 = .ok (.aload_n 0, 1) := dk_42 (dk_at dksX4_readSpot_2 22 rfl rfl)
theorem dX4_readSpot_71 : decode cX4_readSpot 71 = .ok (.invokevirtual 59, 3) := dk_182 0 59 (dk_at dksX4_readSpot_3 0 rfl rfl)
theorem dX4_readSpot_74 : decode cX4_readSpot 74 = .ok (.iconst 1, 1) := dk_4 (dk_at dksX4_readSpot_3 3 rfl rfl)
theorem dX4_readSpot_75 : decode cX4_readSpot 75 = .ok (.ireturn, 1) := dk_172 (dk_at dksX4_readSpot_3 4 rfl rfl)
abbrev cX4_bad : ByteArray := prog_9_method_2_code
def yX4_bad : MethodName := ⟨RX4, "bad", "(I)Z"⟩
def dkwX4_bad_0 : List UInt8 := [42, 27, 181, 0, 3, 42, 42, 180, 0, 7, 181, 0, 10, 3, 172]
abbrev dktX4_bad_0 : List UInt8 := dkwX4_bad_0 ++ []
theorem dksX4_bad_0 : cX4_bad.data.toList.drop 0 = dktX4_bad_0 := by decide +kernel
theorem dX4_bad_0 : decode cX4_bad 0 = .ok (.aload_n 0, 1) := dk_42 (dk_at dksX4_bad_0 0 rfl rfl)
theorem dX4_bad_1 : decode cX4_bad 1 = .ok (.iload_n 1, 1) := dk_27 (dk_at dksX4_bad_0 1 rfl rfl)
theorem dX4_bad_2 : decode cX4_bad 2 = .ok (.putfield 3, 3) := dk_181 0 3 (dk_at dksX4_bad_0 2 rfl rfl)
theorem dX4_bad_5 : decode cX4_bad 5 = .ok (.aload_n 0, 1) := dk_42 (dk_at dksX4_bad_0 5 rfl rfl)
theorem dX4_bad_6 : decode cX4_bad 6 = .ok (.aload_n 0, 1) := dk_42 (dk_at dksX4_bad_0 6 rfl rfl)
theorem dX4_bad_7 : decode cX4_bad 7 = .ok (.getfield 7, 3) := dk_180 0 7 (dk_at dksX4_bad_0 7 rfl rfl)
theorem dX4_bad_10 : decode cX4_bad 10 = .ok (.putfield 10, 3) := dk_181 0 10 (dk_at dksX4_bad_0 10 rfl rfl)
theorem dX4_bad_13 : decode cX4_bad 13 = .ok (.iconst 0, 1) := dk_3 (dk_at dksX4_bad_0 13 rfl rfl)
theorem dX4_bad_14 : decode cX4_bad 14 = .ok (.ireturn, 1) := dk_172 (dk_at dksX4_bad_0 14 rfl rfl)
abbrev cX4_spotAt : ByteArray := prog_9_method_10_code
def yX4_spotAt : MethodName := ⟨RX4, "spotAt", "()I"⟩
def dkwX4_spotAt_1 : List UInt8 := [27, 172, 132, 1, 1, 167, 255, 229, 2, 172]
abbrev dktX4_spotAt_1 : List UInt8 := dkwX4_spotAt_1 ++ []
def dkwX4_spotAt_0 : List UInt8 := [3, 60, 27, 42, 180, 0, 63, 162, 0, 25, 42, 180, 0, 66, 27, 47, 42, 182, 0, 70, 148, 154, 0, 5]
abbrev dktX4_spotAt_0 : List UInt8 := dkwX4_spotAt_0 ++ dktX4_spotAt_1
theorem dksX4_spotAt_0 : cX4_spotAt.data.toList.drop 0 = dktX4_spotAt_0 := by decide +kernel
theorem dksX4_spotAt_1 : cX4_spotAt.data.toList.drop 24 = dktX4_spotAt_1 := dk_seg dksX4_spotAt_0 24 rfl rfl
theorem dX4_spotAt_0 : decode cX4_spotAt 0 = .ok (.iconst 0, 1) := dk_3 (dk_at dksX4_spotAt_0 0 rfl rfl)
theorem dX4_spotAt_1 : decode cX4_spotAt 1 = .ok (.istore_n 1, 1) := dk_60 (dk_at dksX4_spotAt_0 1 rfl rfl)
theorem dX4_spotAt_2 : decode cX4_spotAt 2 = .ok (.iload_n 1, 1) := dk_27 (dk_at dksX4_spotAt_0 2 rfl rfl)
theorem dX4_spotAt_3 : decode cX4_spotAt 3 = .ok (.aload_n 0, 1) := dk_42 (dk_at dksX4_spotAt_0 3 rfl rfl)
theorem dX4_spotAt_4 : decode cX4_spotAt 4 = .ok (.getfield 63, 3) := dk_180 0 63 (dk_at dksX4_spotAt_0 4 rfl rfl)
theorem dX4_spotAt_7 : decode cX4_spotAt 7 = .ok (.if_icmp .ge 25, 3) := dk_162 0 25 (dk_at dksX4_spotAt_0 7 rfl rfl)
theorem dX4_spotAt_10 : decode cX4_spotAt 10 = .ok (.aload_n 0, 1) := dk_42 (dk_at dksX4_spotAt_0 10 rfl rfl)
theorem dX4_spotAt_11 : decode cX4_spotAt 11 = .ok (.getfield 66, 3) := dk_180 0 66 (dk_at dksX4_spotAt_0 11 rfl rfl)
theorem dX4_spotAt_14 : decode cX4_spotAt 14 = .ok (.iload_n 1, 1) := dk_27 (dk_at dksX4_spotAt_0 14 rfl rfl)
theorem dX4_spotAt_15 : decode cX4_spotAt 15 = .ok (.laload, 1) := dk_47 (dk_at dksX4_spotAt_0 15 rfl rfl)
theorem dX4_spotAt_16 : decode cX4_spotAt 16 = .ok (.aload_n 0, 1) := dk_42 (dk_at dksX4_spotAt_0 16 rfl rfl)
theorem dX4_spotAt_17 : decode cX4_spotAt 17 = .ok (.invokevirtual 70, 3) := dk_182 0 70 (dk_at dksX4_spotAt_0 17 rfl rfl)
theorem dX4_spotAt_20 : decode cX4_spotAt 20 = .ok (.lcmp, 1) := dk_148 (dk_at dksX4_spotAt_0 20 rfl rfl)
theorem dX4_spotAt_21 : decode cX4_spotAt 21 = .ok (.ifCond .ne 5, 3) := dk_154 0 5 (dk_at dksX4_spotAt_0 21 rfl rfl)
theorem dX4_spotAt_24 : decode cX4_spotAt 24 = .ok (.iload_n 1, 1) := dk_27 (dk_at dksX4_spotAt_1 0 rfl rfl)
theorem dX4_spotAt_25 : decode cX4_spotAt 25 = .ok (.ireturn, 1) := dk_172 (dk_at dksX4_spotAt_1 1 rfl rfl)
theorem dX4_spotAt_26 : decode cX4_spotAt 26 = .ok (.iinc 1 1, 3) := dk_132 1 1 (dk_at dksX4_spotAt_1 2 rfl rfl)
theorem dX4_spotAt_29 : decode cX4_spotAt 29 = .ok (.goto (-27), 3) := dk_167 255 229 (dk_at dksX4_spotAt_1 5 rfl rfl)
theorem dX4_spotAt_32 : decode cX4_spotAt 32 = .ok (.iconst (-1), 1) := dk_2 (dk_at dksX4_spotAt_1 8 rfl rfl)
theorem dX4_spotAt_33 : decode cX4_spotAt 33 = .ok (.ireturn, 1) := dk_172 (dk_at dksX4_spotAt_1 9 rfl rfl)
abbrev cX4_name : ByteArray := prog_9_method_9_code
def yX4_name : MethodName := ⟨RX4, "name", "()J"⟩
def dkwX4_name_1 : List UInt8 := [16, 96, 100, 133, 129, 64, 132, 3, 1, 167, 255, 231, 31, 173]
abbrev dktX4_name_1 : List UInt8 := dkwX4_name_1 ++ []
def dkwX4_name_0 : List UInt8 := [9, 64, 42, 180, 0, 7, 62, 29, 42, 180, 0, 20, 162, 0, 23, 31, 8, 121, 42, 29, 182, 0, 23]
abbrev dktX4_name_0 : List UInt8 := dkwX4_name_0 ++ dktX4_name_1
theorem dksX4_name_0 : cX4_name.data.toList.drop 0 = dktX4_name_0 := by decide +kernel
theorem dksX4_name_1 : cX4_name.data.toList.drop 23 = dktX4_name_1 := dk_seg dksX4_name_0 23 rfl rfl
theorem dX4_name_0 : decode cX4_name 0 = .ok (.lconst 0, 1) := dk_9 (dk_at dksX4_name_0 0 rfl rfl)
theorem dX4_name_1 : decode cX4_name 1 = .ok (.lstore_n 1, 1) := dk_64 (dk_at dksX4_name_0 1 rfl rfl)
theorem dX4_name_2 : decode cX4_name 2 = .ok (.aload_n 0, 1) := dk_42 (dk_at dksX4_name_0 2 rfl rfl)
theorem dX4_name_3 : decode cX4_name 3 = .ok (.getfield 7, 3) := dk_180 0 7 (dk_at dksX4_name_0 3 rfl rfl)
theorem dX4_name_6 : decode cX4_name 6 = .ok (.istore_n 3, 1) := dk_62 (dk_at dksX4_name_0 6 rfl rfl)
theorem dX4_name_7 : decode cX4_name 7 = .ok (.iload_n 3, 1) := dk_29 (dk_at dksX4_name_0 7 rfl rfl)
theorem dX4_name_8 : decode cX4_name 8 = .ok (.aload_n 0, 1) := dk_42 (dk_at dksX4_name_0 8 rfl rfl)
theorem dX4_name_9 : decode cX4_name 9 = .ok (.getfield 20, 3) := dk_180 0 20 (dk_at dksX4_name_0 9 rfl rfl)
theorem dX4_name_12 : decode cX4_name 12 = .ok (.if_icmp .ge 23, 3) := dk_162 0 23 (dk_at dksX4_name_0 12 rfl rfl)
theorem dX4_name_15 : decode cX4_name 15 = .ok (.lload_n 1, 1) := dk_31 (dk_at dksX4_name_0 15 rfl rfl)
theorem dX4_name_16 : decode cX4_name 16 = .ok (.iconst 5, 1) := dk_8 (dk_at dksX4_name_0 16 rfl rfl)
theorem dX4_name_17 : decode cX4_name 17 = .ok (.lshl, 1) := dk_121 (dk_at dksX4_name_0 17 rfl rfl)
theorem dX4_name_18 : decode cX4_name 18 = .ok (.aload_n 0, 1) := dk_42 (dk_at dksX4_name_0 18 rfl rfl)
theorem dX4_name_19 : decode cX4_name 19 = .ok (.iload_n 3, 1) := dk_29 (dk_at dksX4_name_0 19 rfl rfl)
theorem dX4_name_20 : decode cX4_name 20 = .ok (.invokevirtual 23, 3) := dk_182 0 23 (dk_at dksX4_name_0 20 rfl rfl)
theorem dX4_name_23 : decode cX4_name 23 = .ok (.bipush 96, 2) := dk_16 96 (dk_at dksX4_name_1 0 rfl rfl)
theorem dX4_name_25 : decode cX4_name 25 = .ok (.isub, 1) := dk_100 (dk_at dksX4_name_1 2 rfl rfl)
theorem dX4_name_26 : decode cX4_name 26 = .ok (.i2l, 1) := dk_133 (dk_at dksX4_name_1 3 rfl rfl)
theorem dX4_name_27 : decode cX4_name 27 = .ok (.lor, 1) := dk_129 (dk_at dksX4_name_1 4 rfl rfl)
theorem dX4_name_28 : decode cX4_name 28 = .ok (.lstore_n 1, 1) := dk_64 (dk_at dksX4_name_1 5 rfl rfl)
theorem dX4_name_29 : decode cX4_name 29 = .ok (.iinc 3 1, 3) := dk_132 3 1 (dk_at dksX4_name_1 6 rfl rfl)
theorem dX4_name_32 : decode cX4_name 32 = .ok (.goto (-25), 3) := dk_167 255 231 (dk_at dksX4_name_1 9 rfl rfl)
theorem dX4_name_35 : decode cX4_name 35 = .ok (.lload_n 1, 1) := dk_31 (dk_at dksX4_name_1 12 rfl rfl)
theorem dX4_name_36 : decode cX4_name 36 = .ok (.lreturn, 1) := dk_173 (dk_at dksX4_name_1 13 rfl rfl)
abbrev cX4_readPipe : ByteArray := prog_9_method_15_code
def yX4_readPipe : MethodName := ⟨RX4, "readPipe", "()Z"⟩
def dkwX4_readPipe_7 : List UInt8 := [180, 0, 77, 4, 96, 181, 0, 77, 42, 182, 0, 59, 4, 172]
abbrev dktX4_readPipe_7 : List UInt8 := dkwX4_readPipe_7 ++ []
def dkwX4_readPipe_6 : List UInt8 := [180, 0, 84, 42, 180, 0, 77, 28, 79, 42, 180, 0, 98, 42, 180, 0, 77, 42, 180, 0, 37, 79, 42, 89]
abbrev dktX4_readPipe_6 : List UInt8 := dkwX4_readPipe_6 ++ dktX4_readPipe_7
def dkwX4_readPipe_5 : List UInt8 := [184, 0, 95, 154, 0, 9, 42, 5, 182, 0, 49, 172, 42, 180, 0, 80, 42, 180, 0, 77, 27, 79, 42]
abbrev dktX4_readPipe_5 : List UInt8 := dkwX4_readPipe_5 ++ dktX4_readPipe_6
def dkwX4_readPipe_4 : List UInt8 := [42, 182, 0, 59, 42, 180, 0, 27, 5, 159, 0, 9, 42, 4, 182, 0, 49, 172, 42, 180, 0, 37]
abbrev dktX4_readPipe_4 : List UInt8 := dkwX4_readPipe_4 ++ dktX4_readPipe_5
def dkwX4_readPipe_3 : List UInt8 := [182, 0, 91, 2, 159, 0, 9, 42, 6, 182, 0, 49, 172, 28, 2, 160, 0, 9, 42, 8, 182, 0, 49, 172]
abbrev dktX4_readPipe_3 : List UInt8 := dkwX4_readPipe_3 ++ dktX4_readPipe_4
def dkwX4_readPipe_2 : List UInt8 := [182, 0, 49, 172, 42, 182, 0, 74, 61, 28, 2, 159, 0, 24, 27, 28, 159, 0, 13, 42, 27, 28]
abbrev dktX4_readPipe_2 : List UInt8 := dkwX4_readPipe_2 ++ dktX4_readPipe_3
def dkwX4_readPipe_1 : List UInt8 := [154, 0, 5, 3, 172, 42, 180, 0, 56, 60, 42, 182, 0, 59, 42, 180, 0, 27, 4, 159, 0, 9, 42, 4]
abbrev dktX4_readPipe_1 : List UInt8 := dkwX4_readPipe_1 ++ dktX4_readPipe_2
def dkwX4_readPipe_0 : List UInt8 := [42, 180, 0, 77, 16, 10, 160, 0, 9, 42, 7, 182, 0, 49, 172, 42, 182, 0, 59, 42, 182, 0, 87]
abbrev dktX4_readPipe_0 : List UInt8 := dkwX4_readPipe_0 ++ dktX4_readPipe_1
theorem dksX4_readPipe_0 : cX4_readPipe.data.toList.drop 0 = dktX4_readPipe_0 := by decide +kernel
theorem dksX4_readPipe_1 : cX4_readPipe.data.toList.drop 23 = dktX4_readPipe_1 := dk_seg dksX4_readPipe_0 23 rfl rfl
theorem dksX4_readPipe_2 : cX4_readPipe.data.toList.drop 47 = dktX4_readPipe_2 := dk_seg dksX4_readPipe_1 24 rfl rfl
theorem dksX4_readPipe_3 : cX4_readPipe.data.toList.drop 69 = dktX4_readPipe_3 := dk_seg dksX4_readPipe_2 22 rfl rfl
theorem dksX4_readPipe_4 : cX4_readPipe.data.toList.drop 93 = dktX4_readPipe_4 := dk_seg dksX4_readPipe_3 24 rfl rfl
theorem dksX4_readPipe_5 : cX4_readPipe.data.toList.drop 115 = dktX4_readPipe_5 := dk_seg dksX4_readPipe_4 22 rfl rfl
theorem dksX4_readPipe_6 : cX4_readPipe.data.toList.drop 138 = dktX4_readPipe_6 := dk_seg dksX4_readPipe_5 23 rfl rfl
theorem dksX4_readPipe_7 : cX4_readPipe.data.toList.drop 162 = dktX4_readPipe_7 := dk_seg dksX4_readPipe_6 24 rfl rfl
theorem dX4_readPipe_0 : decode cX4_readPipe 0 = .ok (.aload_n 0, 1) := dk_42 (dk_at dksX4_readPipe_0 0 rfl rfl)
theorem dX4_readPipe_1 : decode cX4_readPipe 1 = .ok (.getfield 77, 3) := dk_180 0 77 (dk_at dksX4_readPipe_0 1 rfl rfl)
theorem dX4_readPipe_4 : decode cX4_readPipe 4 = .ok (.bipush 10, 2) := dk_16 10 (dk_at dksX4_readPipe_0 4 rfl rfl)
theorem dX4_readPipe_6 : decode cX4_readPipe 6 = .ok (.if_icmp .ne 9, 3) := dk_160 0 9 (dk_at dksX4_readPipe_0 6 rfl rfl)
theorem dX4_readPipe_9 : decode cX4_readPipe 9 = .ok (.aload_n 0, 1) := dk_42 (dk_at dksX4_readPipe_0 9 rfl rfl)
theorem dX4_readPipe_10 : decode cX4_readPipe 10 = .ok (.iconst 4, 1) := dk_7 (dk_at dksX4_readPipe_0 10 rfl rfl)
theorem dX4_readPipe_11 : decode cX4_readPipe 11 = .ok (.invokevirtual 49, 3) := dk_182 0 49 (dk_at dksX4_readPipe_0 11 rfl rfl)
theorem dX4_readPipe_14 : decode cX4_readPipe 14 = .ok (.ireturn, 1) := dk_172 (dk_at dksX4_readPipe_0 14 rfl rfl)
theorem dX4_readPipe_15 : decode cX4_readPipe 15 = .ok (.aload_n 0, 1) := dk_42 (dk_at dksX4_readPipe_0 15 rfl rfl)
theorem dX4_readPipe_16 : decode cX4_readPipe 16 = .ok (.invokevirtual 59, 3) := dk_182 0 59 (dk_at dksX4_readPipe_0 16 rfl rfl)
theorem dX4_readPipe_19 : decode cX4_readPipe 19 = .ok (.aload_n 0, 1) := dk_42 (dk_at dksX4_readPipe_0 19 rfl rfl)
theorem dX4_readPipe_20 : decode cX4_readPipe 20 = .ok (.invokevirtual 87, 3) := dk_182 0 87 (dk_at dksX4_readPipe_0 20 rfl rfl)
theorem dX4_readPipe_23 : decode cX4_readPipe 23 = .ok (.ifCond .ne 5, 3) := dk_154 0 5 (dk_at dksX4_readPipe_1 0 rfl rfl)
theorem dX4_readPipe_26 : decode cX4_readPipe 26 = .ok (.iconst 0, 1) := dk_3 (dk_at dksX4_readPipe_1 3 rfl rfl)
theorem dX4_readPipe_27 : decode cX4_readPipe 27 = .ok (.ireturn, 1) := dk_172 (dk_at dksX4_readPipe_1 4 rfl rfl)
theorem dX4_readPipe_28 : decode cX4_readPipe 28 = .ok (.aload_n 0, 1) := dk_42 (dk_at dksX4_readPipe_1 5 rfl rfl)
theorem dX4_readPipe_29 : decode cX4_readPipe 29 = .ok (.getfield 56, 3) := dk_180 0 56 (dk_at dksX4_readPipe_1 6 rfl rfl)
theorem dX4_readPipe_32 : decode cX4_readPipe 32 = .ok (.istore_n 1, 1) := dk_60 (dk_at dksX4_readPipe_1 9 rfl rfl)
theorem dX4_readPipe_33 : decode cX4_readPipe 33 = .ok (.aload_n 0, 1) := dk_42 (dk_at dksX4_readPipe_1 10 rfl rfl)
theorem dX4_readPipe_34 : decode cX4_readPipe 34 = .ok (.invokevirtual 59, 3) := dk_182 0 59 (dk_at dksX4_readPipe_1 11 rfl rfl)
theorem dX4_readPipe_37 : decode cX4_readPipe 37 = .ok (.aload_n 0, 1) := dk_42 (dk_at dksX4_readPipe_1 14 rfl rfl)
theorem dX4_readPipe_38 : decode cX4_readPipe 38 = .ok (.getfield 27, 3) := dk_180 0 27 (dk_at dksX4_readPipe_1 15 rfl rfl)
theorem dX4_readPipe_41 : decode cX4_readPipe 41 = .ok (.iconst 1, 1) := dk_4 (dk_at dksX4_readPipe_1 18 rfl rfl)
theorem dX4_readPipe_42 : decode cX4_readPipe 42 = .ok (.if_icmp .eq 9, 3) := dk_159 0 9 (dk_at dksX4_readPipe_1 19 rfl rfl)
theorem dX4_readPipe_45 : decode cX4_readPipe 45 = .ok (.aload_n 0, 1) := dk_42 (dk_at dksX4_readPipe_1 22 rfl rfl)
theorem dX4_readPipe_46 : decode cX4_readPipe 46 = .ok (.iconst 1, 1) := dk_4 (dk_at dksX4_readPipe_1 23 rfl rfl)
theorem dX4_readPipe_47 : decode cX4_readPipe 47 = .ok (.invokevirtual 49, 3) := dk_182 0 49 (dk_at dksX4_readPipe_2 0 rfl rfl)
theorem dX4_readPipe_50 : decode cX4_readPipe 50 = .ok (.ireturn, 1) := dk_172 (dk_at dksX4_readPipe_2 3 rfl rfl)
theorem dX4_readPipe_51 : decode cX4_readPipe 51 = .ok (.aload_n 0, 1) := dk_42 (dk_at dksX4_readPipe_2 4 rfl rfl)
theorem dX4_readPipe_52 : decode cX4_readPipe 52 = .ok (.invokevirtual 74, 3) := dk_182 0 74 (dk_at dksX4_readPipe_2 5 rfl rfl)
theorem dX4_readPipe_55 : decode cX4_readPipe 55 = .ok (.istore_n 2, 1) := dk_61 (dk_at dksX4_readPipe_2 8 rfl rfl)
theorem dX4_readPipe_56 : decode cX4_readPipe 56 = .ok (.iload_n 2, 1) := dk_28 (dk_at dksX4_readPipe_2 9 rfl rfl)
theorem dX4_readPipe_57 : decode cX4_readPipe 57 = .ok (.iconst (-1), 1) := dk_2 (dk_at dksX4_readPipe_2 10 rfl rfl)
theorem dX4_readPipe_58 : decode cX4_readPipe 58 = .ok (.if_icmp .eq 24, 3) := dk_159 0 24 (dk_at dksX4_readPipe_2 11 rfl rfl)
theorem dX4_readPipe_61 : decode cX4_readPipe 61 = .ok (.iload_n 1, 1) := dk_27 (dk_at dksX4_readPipe_2 14 rfl rfl)
theorem dX4_readPipe_62 : decode cX4_readPipe 62 = .ok (.iload_n 2, 1) := dk_28 (dk_at dksX4_readPipe_2 15 rfl rfl)
theorem dX4_readPipe_63 : decode cX4_readPipe 63 = .ok (.if_icmp .eq 13, 3) := dk_159 0 13 (dk_at dksX4_readPipe_2 16 rfl rfl)
theorem dX4_readPipe_66 : decode cX4_readPipe 66 = .ok (.aload_n 0, 1) := dk_42 (dk_at dksX4_readPipe_2 19 rfl rfl)
theorem dX4_readPipe_67 : decode cX4_readPipe 67 = .ok (.iload_n 1, 1) := dk_27 (dk_at dksX4_readPipe_2 20 rfl rfl)
theorem dX4_readPipe_68 : decode cX4_readPipe 68 = .ok (.iload_n 2, 1) := dk_28 (dk_at dksX4_readPipe_2 21 rfl rfl)
theorem dX4_readPipe_69 : decode cX4_readPipe 69 = .ok (.invokevirtual 91, 3) := dk_182 0 91 (dk_at dksX4_readPipe_3 0 rfl rfl)
theorem dX4_readPipe_72 : decode cX4_readPipe 72 = .ok (.iconst (-1), 1) := dk_2 (dk_at dksX4_readPipe_3 3 rfl rfl)
theorem dX4_readPipe_73 : decode cX4_readPipe 73 = .ok (.if_icmp .eq 9, 3) := dk_159 0 9 (dk_at dksX4_readPipe_3 4 rfl rfl)
theorem dX4_readPipe_76 : decode cX4_readPipe 76 = .ok (.aload_n 0, 1) := dk_42 (dk_at dksX4_readPipe_3 7 rfl rfl)
theorem dX4_readPipe_77 : decode cX4_readPipe 77 = .ok (.iconst 3, 1) := dk_6 (dk_at dksX4_readPipe_3 8 rfl rfl)
theorem dX4_readPipe_78 : decode cX4_readPipe 78 = .ok (.invokevirtual 49, 3) := dk_182 0 49 (dk_at dksX4_readPipe_3 9 rfl rfl)
theorem dX4_readPipe_81 : decode cX4_readPipe 81 = .ok (.ireturn, 1) := dk_172 (dk_at dksX4_readPipe_3 12 rfl rfl)
theorem dX4_readPipe_82 : decode cX4_readPipe 82 = .ok (.iload_n 2, 1) := dk_28 (dk_at dksX4_readPipe_3 13 rfl rfl)
theorem dX4_readPipe_83 : decode cX4_readPipe 83 = .ok (.iconst (-1), 1) := dk_2 (dk_at dksX4_readPipe_3 14 rfl rfl)
theorem dX4_readPipe_84 : decode cX4_readPipe 84 = .ok (.if_icmp .ne 9, 3) := dk_160 0 9 (dk_at dksX4_readPipe_3 15 rfl rfl)
theorem dX4_readPipe_87 : decode cX4_readPipe 87 = .ok (.aload_n 0, 1) := dk_42 (dk_at dksX4_readPipe_3 18 rfl rfl)
theorem dX4_readPipe_88 : decode cX4_readPipe 88 = .ok (.iconst 5, 1) := dk_8 (dk_at dksX4_readPipe_3 19 rfl rfl)
theorem dX4_readPipe_89 : decode cX4_readPipe 89 = .ok (.invokevirtual 49, 3) := dk_182 0 49 (dk_at dksX4_readPipe_3 20 rfl rfl)
theorem dX4_readPipe_92 : decode cX4_readPipe 92 = .ok (.ireturn, 1) := dk_172 (dk_at dksX4_readPipe_3 23 rfl rfl)
theorem dX4_readPipe_93 : decode cX4_readPipe 93 = .ok (.aload_n 0, 1) := dk_42 (dk_at dksX4_readPipe_4 0 rfl rfl)
theorem dX4_readPipe_94 : decode cX4_readPipe 94 = .ok (.invokevirtual 59, 3) := dk_182 0 59 (dk_at dksX4_readPipe_4 1 rfl rfl)
theorem dX4_readPipe_97 : decode cX4_readPipe 97 = .ok (.aload_n 0, 1) := dk_42 (dk_at dksX4_readPipe_4 4 rfl rfl)
theorem dX4_readPipe_98 : decode cX4_readPipe 98 = .ok (.getfield 27, 3) := dk_180 0 27 (dk_at dksX4_readPipe_4 5 rfl rfl)
theorem dX4_readPipe_101 : decode cX4_readPipe 101 = .ok (.iconst 2, 1) := dk_5 (dk_at dksX4_readPipe_4 8 rfl rfl)
theorem dX4_readPipe_102 : decode cX4_readPipe 102 = .ok (.if_icmp .eq 9, 3) := dk_159 0 9 (dk_at dksX4_readPipe_4 9 rfl rfl)
theorem dX4_readPipe_105 : decode cX4_readPipe 105 = .ok (.aload_n 0, 1) := dk_42 (dk_at dksX4_readPipe_4 12 rfl rfl)
theorem dX4_readPipe_106 : decode cX4_readPipe 106 = .ok (.iconst 1, 1) := dk_4 (dk_at dksX4_readPipe_4 13 rfl rfl)
theorem dX4_readPipe_107 : decode cX4_readPipe 107 = .ok (.invokevirtual 49, 3) := dk_182 0 49 (dk_at dksX4_readPipe_4 14 rfl rfl)
theorem dX4_readPipe_110 : decode cX4_readPipe 110 = .ok (.ireturn, 1) := dk_172 (dk_at dksX4_readPipe_4 17 rfl rfl)
theorem dX4_readPipe_111 : decode cX4_readPipe 111 = .ok (.aload_n 0, 1) := dk_42 (dk_at dksX4_readPipe_4 18 rfl rfl)
theorem dX4_readPipe_112 : decode cX4_readPipe 112 = .ok (.getfield 37, 3) := dk_180 0 37 (dk_at dksX4_readPipe_4 19 rfl rfl)
theorem dX4_readPipe_115 : decode cX4_readPipe 115 = .ok (.invokestatic 95, 3) := dk_184 0 95 (dk_at dksX4_readPipe_5 0 rfl rfl)
theorem dX4_readPipe_118 : decode cX4_readPipe 118 = .ok (.ifCond .ne 9, 3) := dk_154 0 9 (dk_at dksX4_readPipe_5 3 rfl rfl)
theorem dX4_readPipe_121 : decode cX4_readPipe 121 = .ok (.aload_n 0, 1) := dk_42 (dk_at dksX4_readPipe_5 6 rfl rfl)
theorem dX4_readPipe_122 : decode cX4_readPipe 122 = .ok (.iconst 2, 1) := dk_5 (dk_at dksX4_readPipe_5 7 rfl rfl)
theorem dX4_readPipe_123 : decode cX4_readPipe 123 = .ok (.invokevirtual 49, 3) := dk_182 0 49 (dk_at dksX4_readPipe_5 8 rfl rfl)
theorem dX4_readPipe_126 : decode cX4_readPipe 126 = .ok (.ireturn, 1) := dk_172 (dk_at dksX4_readPipe_5 11 rfl rfl)
theorem dX4_readPipe_127 : decode cX4_readPipe 127 = .ok (.aload_n 0, 1) := dk_42 (dk_at dksX4_readPipe_5 12 rfl rfl)
theorem dX4_readPipe_128 : decode cX4_readPipe 128 = .ok (.getfield 80, 3) := dk_180 0 80 (dk_at dksX4_readPipe_5 13 rfl rfl)
theorem dX4_readPipe_131 : decode cX4_readPipe 131 = .ok (.aload_n 0, 1) := dk_42 (dk_at dksX4_readPipe_5 16 rfl rfl)
theorem dX4_readPipe_132 : decode cX4_readPipe 132 = .ok (.getfield 77, 3) := dk_180 0 77 (dk_at dksX4_readPipe_5 17 rfl rfl)
theorem dX4_readPipe_135 : decode cX4_readPipe 135 = .ok (.iload_n 1, 1) := dk_27 (dk_at dksX4_readPipe_5 20 rfl rfl)
theorem dX4_readPipe_136 : decode cX4_readPipe 136 = .ok (.iastore, 1) := dk_79 (dk_at dksX4_readPipe_5 21 rfl rfl)
theorem dX4_readPipe_137 : decode cX4_readPipe 137 = .ok (.aload_n 0, 1) := dk_42 (dk_at dksX4_readPipe_5 22 rfl rfl)
theorem dX4_readPipe_138 : decode cX4_readPipe 138 = .ok (.getfield 84, 3) := dk_180 0 84 (dk_at dksX4_readPipe_6 0 rfl rfl)
theorem dX4_readPipe_141 : decode cX4_readPipe 141 = .ok (.aload_n 0, 1) := dk_42 (dk_at dksX4_readPipe_6 3 rfl rfl)
theorem dX4_readPipe_142 : decode cX4_readPipe 142 = .ok (.getfield 77, 3) := dk_180 0 77 (dk_at dksX4_readPipe_6 4 rfl rfl)
theorem dX4_readPipe_145 : decode cX4_readPipe 145 = .ok (.iload_n 2, 1) := dk_28 (dk_at dksX4_readPipe_6 7 rfl rfl)
theorem dX4_readPipe_146 : decode cX4_readPipe 146 = .ok (.iastore, 1) := dk_79 (dk_at dksX4_readPipe_6 8 rfl rfl)
theorem dX4_readPipe_147 : decode cX4_readPipe 147 = .ok (.aload_n 0, 1) := dk_42 (dk_at dksX4_readPipe_6 9 rfl rfl)
theorem dX4_readPipe_148 : decode cX4_readPipe 148 = .ok (.getfield 98, 3) := dk_180 0 98 (dk_at dksX4_readPipe_6 10 rfl rfl)
theorem dX4_readPipe_151 : decode cX4_readPipe 151 = .ok (.aload_n 0, 1) := dk_42 (dk_at dksX4_readPipe_6 13 rfl rfl)
theorem dX4_readPipe_152 : decode cX4_readPipe 152 = .ok (.getfield 77, 3) := dk_180 0 77 (dk_at dksX4_readPipe_6 14 rfl rfl)
theorem dX4_readPipe_155 : decode cX4_readPipe 155 = .ok (.aload_n 0, 1) := dk_42 (dk_at dksX4_readPipe_6 17 rfl rfl)
theorem dX4_readPipe_156 : decode cX4_readPipe 156 = .ok (.getfield 37, 3) := dk_180 0 37 (dk_at dksX4_readPipe_6 18 rfl rfl)
theorem dX4_readPipe_159 : decode cX4_readPipe 159 = .ok (.iastore, 1) := dk_79 (dk_at dksX4_readPipe_6 21 rfl rfl)
theorem dX4_readPipe_160 : decode cX4_readPipe 160 = .ok (.aload_n 0, 1) := dk_42 (dk_at dksX4_readPipe_6 22 rfl rfl)
theorem dX4_readPipe_161 : decode cX4_readPipe 161 = .ok (.dup, 1) := dk_89 (dk_at dksX4_readPipe_6 23 rfl rfl)
theorem dX4_readPipe_162 : decode cX4_readPipe 162 = .ok (.getfield 77, 3) := dk_180 0 77 (dk_at dksX4_readPipe_7 0 rfl rfl)
theorem dX4_readPipe_165 : decode cX4_readPipe 165 = .ok (.iconst 1, 1) := dk_4 (dk_at dksX4_readPipe_7 3 rfl rfl)
theorem dX4_readPipe_166 : decode cX4_readPipe 166 = .ok (.iadd, 1) := dk_96 (dk_at dksX4_readPipe_7 4 rfl rfl)
theorem dX4_readPipe_167 : decode cX4_readPipe 167 = .ok (.putfield 77, 3) := dk_181 0 77 (dk_at dksX4_readPipe_7 5 rfl rfl)
theorem dX4_readPipe_170 : decode cX4_readPipe 170 = .ok (.aload_n 0, 1) := dk_42 (dk_at dksX4_readPipe_7 8 rfl rfl)
theorem dX4_readPipe_171 : decode cX4_readPipe 171 = .ok (.invokevirtual 59, 3) := dk_182 0 59 (dk_at dksX4_readPipe_7 9 rfl rfl)
theorem dX4_readPipe_174 : decode cX4_readPipe 174 = .ok (.iconst 1, 1) := dk_4 (dk_at dksX4_readPipe_7 12 rfl rfl)
theorem dX4_readPipe_175 : decode cX4_readPipe 175 = .ok (.ireturn, 1) := dk_172 (dk_at dksX4_readPipe_7 13 rfl rfl)
abbrev cX4_known : ByteArray := prog_9_method_12_code
def yX4_known : MethodName := ⟨RX4, "known", "()Z"⟩
def dkwX4_known_1 : List UInt8 := [180, 0, 56, 2, 160, 0, 11, 42, 8, 182, 0, 49, 153, 0, 7, 4, 167, 0, 4, 3, 172]
abbrev dktX4_known_1 : List UInt8 := dkwX4_known_1 ++ []
def dkwX4_known_0 : List UInt8 := [42, 180, 0, 27, 4, 159, 0, 9, 42, 4, 182, 0, 49, 172, 42, 42, 182, 0, 74, 181, 0, 56, 42]
abbrev dktX4_known_0 : List UInt8 := dkwX4_known_0 ++ dktX4_known_1
theorem dksX4_known_0 : cX4_known.data.toList.drop 0 = dktX4_known_0 := by decide +kernel
theorem dksX4_known_1 : cX4_known.data.toList.drop 23 = dktX4_known_1 := dk_seg dksX4_known_0 23 rfl rfl
theorem dX4_known_0 : decode cX4_known 0 = .ok (.aload_n 0, 1) := dk_42 (dk_at dksX4_known_0 0 rfl rfl)
theorem dX4_known_1 : decode cX4_known 1 = .ok (.getfield 27, 3) := dk_180 0 27 (dk_at dksX4_known_0 1 rfl rfl)
theorem dX4_known_4 : decode cX4_known 4 = .ok (.iconst 1, 1) := dk_4 (dk_at dksX4_known_0 4 rfl rfl)
theorem dX4_known_5 : decode cX4_known 5 = .ok (.if_icmp .eq 9, 3) := dk_159 0 9 (dk_at dksX4_known_0 5 rfl rfl)
theorem dX4_known_8 : decode cX4_known 8 = .ok (.aload_n 0, 1) := dk_42 (dk_at dksX4_known_0 8 rfl rfl)
theorem dX4_known_9 : decode cX4_known 9 = .ok (.iconst 1, 1) := dk_4 (dk_at dksX4_known_0 9 rfl rfl)
theorem dX4_known_10 : decode cX4_known 10 = .ok (.invokevirtual 49, 3) := dk_182 0 49 (dk_at dksX4_known_0 10 rfl rfl)
theorem dX4_known_13 : decode cX4_known 13 = .ok (.ireturn, 1) := dk_172 (dk_at dksX4_known_0 13 rfl rfl)
theorem dX4_known_14 : decode cX4_known 14 = .ok (.aload_n 0, 1) := dk_42 (dk_at dksX4_known_0 14 rfl rfl)
theorem dX4_known_15 : decode cX4_known 15 = .ok (.aload_n 0, 1) := dk_42 (dk_at dksX4_known_0 15 rfl rfl)
theorem dX4_known_16 : decode cX4_known 16 = .ok (.invokevirtual 74, 3) := dk_182 0 74 (dk_at dksX4_known_0 16 rfl rfl)
theorem dX4_known_19 : decode cX4_known 19 = .ok (.putfield 56, 3) := dk_181 0 56 (dk_at dksX4_known_0 19 rfl rfl)
theorem dX4_known_22 : decode cX4_known 22 = .ok (.aload_n 0, 1) := dk_42 (dk_at dksX4_known_0 22 rfl rfl)
theorem dX4_known_23 : decode cX4_known 23 = .ok (.getfield 56, 3) := dk_180 0 56 (dk_at dksX4_known_1 0 rfl rfl)
theorem dX4_known_26 : decode cX4_known 26 = .ok (.iconst (-1), 1) := dk_2 (dk_at dksX4_known_1 3 rfl rfl)
theorem dX4_known_27 : decode cX4_known 27 = .ok (.if_icmp .ne 11, 3) := dk_160 0 11 (dk_at dksX4_known_1 4 rfl rfl)
theorem dX4_known_30 : decode cX4_known 30 = .ok (.aload_n 0, 1) := dk_42 (dk_at dksX4_known_1 7 rfl rfl)
theorem dX4_known_31 : decode cX4_known 31 = .ok (.iconst 5, 1) := dk_8 (dk_at dksX4_known_1 8 rfl rfl)
theorem dX4_known_32 : decode cX4_known 32 = .ok (.invokevirtual 49, 3) := dk_182 0 49 (dk_at dksX4_known_1 9 rfl rfl)
theorem dX4_known_35 : decode cX4_known 35 = .ok (.ifCond .eq 7, 3) := dk_153 0 7 (dk_at dksX4_known_1 12 rfl rfl)
theorem dX4_known_38 : decode cX4_known 38 = .ok (.iconst 1, 1) := dk_4 (dk_at dksX4_known_1 15 rfl rfl)
theorem dX4_known_39 : decode cX4_known 39 = .ok (.goto 4, 3) := dk_167 0 4 (dk_at dksX4_known_1 16 rfl rfl)
theorem dX4_known_42 : decode cX4_known 42 = .ok (.iconst 0, 1) := dk_3 (dk_at dksX4_known_1 19 rfl rfl)
theorem dX4_known_43 : decode cX4_known 43 = .ok (.ireturn, 1) := dk_172 (dk_at dksX4_known_1 20 rfl rfl)
abbrev cX4_pipeOf : ByteArray := prog_9_method_13_code
def yX4_pipeOf : MethodName := ⟨RX4, "pipeOf", "(II)I"⟩
def dkwX4_pipeOf_2 : List UInt8 := [160, 0, 5, 29, 172, 132, 3, 1, 167, 255, 203, 2, 172]
abbrev dktX4_pipeOf_2 : List UInt8 := dkwX4_pipeOf_2 ++ []
def dkwX4_pipeOf_1 : List UInt8 := [29, 46, 28, 159, 0, 23, 42, 180, 0, 80, 29, 46, 28, 160, 0, 15, 42, 180, 0, 84, 29, 46, 27]
abbrev dktX4_pipeOf_1 : List UInt8 := dkwX4_pipeOf_1 ++ dktX4_pipeOf_2
def dkwX4_pipeOf_0 : List UInt8 := [3, 62, 29, 42, 180, 0, 77, 162, 0, 51, 42, 180, 0, 80, 29, 46, 27, 160, 0, 13, 42, 180, 0, 84]
abbrev dktX4_pipeOf_0 : List UInt8 := dkwX4_pipeOf_0 ++ dktX4_pipeOf_1
theorem dksX4_pipeOf_0 : cX4_pipeOf.data.toList.drop 0 = dktX4_pipeOf_0 := by decide +kernel
theorem dksX4_pipeOf_1 : cX4_pipeOf.data.toList.drop 24 = dktX4_pipeOf_1 := dk_seg dksX4_pipeOf_0 24 rfl rfl
theorem dksX4_pipeOf_2 : cX4_pipeOf.data.toList.drop 47 = dktX4_pipeOf_2 := dk_seg dksX4_pipeOf_1 23 rfl rfl
theorem dX4_pipeOf_0 : decode cX4_pipeOf 0 = .ok (.iconst 0, 1) := dk_3 (dk_at dksX4_pipeOf_0 0 rfl rfl)
theorem dX4_pipeOf_1 : decode cX4_pipeOf 1 = .ok (.istore_n 3, 1) := dk_62 (dk_at dksX4_pipeOf_0 1 rfl rfl)
theorem dX4_pipeOf_2 : decode cX4_pipeOf 2 = .ok (.iload_n 3, 1) := dk_29 (dk_at dksX4_pipeOf_0 2 rfl rfl)
theorem dX4_pipeOf_3 : decode cX4_pipeOf 3 = .ok (.aload_n 0, 1) := dk_42 (dk_at dksX4_pipeOf_0 3 rfl rfl)
theorem dX4_pipeOf_4 : decode cX4_pipeOf 4 = .ok (.getfield 77, 3) := dk_180 0 77 (dk_at dksX4_pipeOf_0 4 rfl rfl)
theorem dX4_pipeOf_7 : decode cX4_pipeOf 7 = .ok (.if_icmp .ge 51, 3) := dk_162 0 51 (dk_at dksX4_pipeOf_0 7 rfl rfl)
theorem dX4_pipeOf_10 : decode cX4_pipeOf 10 = .ok (.aload_n 0, 1) := dk_42 (dk_at dksX4_pipeOf_0 10 rfl rfl)
theorem dX4_pipeOf_11 : decode cX4_pipeOf 11 = .ok (.getfield 80, 3) := dk_180 0 80 (dk_at dksX4_pipeOf_0 11 rfl rfl)
theorem dX4_pipeOf_14 : decode cX4_pipeOf 14 = .ok (.iload_n 3, 1) := dk_29 (dk_at dksX4_pipeOf_0 14 rfl rfl)
theorem dX4_pipeOf_15 : decode cX4_pipeOf 15 = .ok (.iaload, 1) := dk_46 (dk_at dksX4_pipeOf_0 15 rfl rfl)
theorem dX4_pipeOf_16 : decode cX4_pipeOf 16 = .ok (.iload_n 1, 1) := dk_27 (dk_at dksX4_pipeOf_0 16 rfl rfl)
theorem dX4_pipeOf_17 : decode cX4_pipeOf 17 = .ok (.if_icmp .ne 13, 3) := dk_160 0 13 (dk_at dksX4_pipeOf_0 17 rfl rfl)
theorem dX4_pipeOf_20 : decode cX4_pipeOf 20 = .ok (.aload_n 0, 1) := dk_42 (dk_at dksX4_pipeOf_0 20 rfl rfl)
theorem dX4_pipeOf_21 : decode cX4_pipeOf 21 = .ok (.getfield 84, 3) := dk_180 0 84 (dk_at dksX4_pipeOf_0 21 rfl rfl)
theorem dX4_pipeOf_24 : decode cX4_pipeOf 24 = .ok (.iload_n 3, 1) := dk_29 (dk_at dksX4_pipeOf_1 0 rfl rfl)
theorem dX4_pipeOf_25 : decode cX4_pipeOf 25 = .ok (.iaload, 1) := dk_46 (dk_at dksX4_pipeOf_1 1 rfl rfl)
theorem dX4_pipeOf_26 : decode cX4_pipeOf 26 = .ok (.iload_n 2, 1) := dk_28 (dk_at dksX4_pipeOf_1 2 rfl rfl)
theorem dX4_pipeOf_27 : decode cX4_pipeOf 27 = .ok (.if_icmp .eq 23, 3) := dk_159 0 23 (dk_at dksX4_pipeOf_1 3 rfl rfl)
theorem dX4_pipeOf_30 : decode cX4_pipeOf 30 = .ok (.aload_n 0, 1) := dk_42 (dk_at dksX4_pipeOf_1 6 rfl rfl)
theorem dX4_pipeOf_31 : decode cX4_pipeOf 31 = .ok (.getfield 80, 3) := dk_180 0 80 (dk_at dksX4_pipeOf_1 7 rfl rfl)
theorem dX4_pipeOf_34 : decode cX4_pipeOf 34 = .ok (.iload_n 3, 1) := dk_29 (dk_at dksX4_pipeOf_1 10 rfl rfl)
theorem dX4_pipeOf_35 : decode cX4_pipeOf 35 = .ok (.iaload, 1) := dk_46 (dk_at dksX4_pipeOf_1 11 rfl rfl)
theorem dX4_pipeOf_36 : decode cX4_pipeOf 36 = .ok (.iload_n 2, 1) := dk_28 (dk_at dksX4_pipeOf_1 12 rfl rfl)
theorem dX4_pipeOf_37 : decode cX4_pipeOf 37 = .ok (.if_icmp .ne 15, 3) := dk_160 0 15 (dk_at dksX4_pipeOf_1 13 rfl rfl)
theorem dX4_pipeOf_40 : decode cX4_pipeOf 40 = .ok (.aload_n 0, 1) := dk_42 (dk_at dksX4_pipeOf_1 16 rfl rfl)
theorem dX4_pipeOf_41 : decode cX4_pipeOf 41 = .ok (.getfield 84, 3) := dk_180 0 84 (dk_at dksX4_pipeOf_1 17 rfl rfl)
theorem dX4_pipeOf_44 : decode cX4_pipeOf 44 = .ok (.iload_n 3, 1) := dk_29 (dk_at dksX4_pipeOf_1 20 rfl rfl)
theorem dX4_pipeOf_45 : decode cX4_pipeOf 45 = .ok (.iaload, 1) := dk_46 (dk_at dksX4_pipeOf_1 21 rfl rfl)
theorem dX4_pipeOf_46 : decode cX4_pipeOf 46 = .ok (.iload_n 1, 1) := dk_27 (dk_at dksX4_pipeOf_1 22 rfl rfl)
theorem dX4_pipeOf_47 : decode cX4_pipeOf 47 = .ok (.if_icmp .ne 5, 3) := dk_160 0 5 (dk_at dksX4_pipeOf_2 0 rfl rfl)
theorem dX4_pipeOf_50 : decode cX4_pipeOf 50 = .ok (.iload_n 3, 1) := dk_29 (dk_at dksX4_pipeOf_2 3 rfl rfl)
theorem dX4_pipeOf_51 : decode cX4_pipeOf 51 = .ok (.ireturn, 1) := dk_172 (dk_at dksX4_pipeOf_2 4 rfl rfl)
theorem dX4_pipeOf_52 : decode cX4_pipeOf 52 = .ok (.iinc 3 1, 3) := dk_132 3 1 (dk_at dksX4_pipeOf_2 5 rfl rfl)
theorem dX4_pipeOf_55 : decode cX4_pipeOf 55 = .ok (.goto (-53), 3) := dk_167 255 203 (dk_at dksX4_pipeOf_2 8 rfl rfl)
theorem dX4_pipeOf_58 : decode cX4_pipeOf 58 = .ok (.iconst (-1), 1) := dk_2 (dk_at dksX4_pipeOf_2 11 rfl rfl)
theorem dX4_pipeOf_59 : decode cX4_pipeOf 59 = .ok (.ireturn, 1) := dk_172 (dk_at dksX4_pipeOf_2 12 rfl rfl)
abbrev cX4_isLength : ByteArray := prog_9_method_14_code
def yX4_isLength : MethodName := ⟨RX4, "isLength", "(I)Z"⟩
def dkwX4_isLength_0 : List UInt8 := [26, 4, 161, 0, 20, 26, 16, 12, 163, 0, 14, 16, 12, 26, 112, 154, 0, 7, 4, 167, 0, 4, 3, 172]
abbrev dktX4_isLength_0 : List UInt8 := dkwX4_isLength_0 ++ []
theorem dksX4_isLength_0 : cX4_isLength.data.toList.drop 0 = dktX4_isLength_0 := by decide +kernel
theorem dX4_isLength_0 : decode cX4_isLength 0 = .ok (.iload_n 0, 1) := dk_26 (dk_at dksX4_isLength_0 0 rfl rfl)
theorem dX4_isLength_1 : decode cX4_isLength 1 = .ok (.iconst 1, 1) := dk_4 (dk_at dksX4_isLength_0 1 rfl rfl)
theorem dX4_isLength_2 : decode cX4_isLength 2 = .ok (.if_icmp .lt 20, 3) := dk_161 0 20 (dk_at dksX4_isLength_0 2 rfl rfl)
theorem dX4_isLength_5 : decode cX4_isLength 5 = .ok (.iload_n 0, 1) := dk_26 (dk_at dksX4_isLength_0 5 rfl rfl)
theorem dX4_isLength_6 : decode cX4_isLength 6 = .ok (.bipush 12, 2) := dk_16 12 (dk_at dksX4_isLength_0 6 rfl rfl)
theorem dX4_isLength_8 : decode cX4_isLength 8 = .ok (.if_icmp .gt 14, 3) := dk_163 0 14 (dk_at dksX4_isLength_0 8 rfl rfl)
theorem dX4_isLength_11 : decode cX4_isLength 11 = .ok (.bipush 12, 2) := dk_16 12 (dk_at dksX4_isLength_0 11 rfl rfl)
theorem dX4_isLength_13 : decode cX4_isLength 13 = .ok (.iload_n 0, 1) := dk_26 (dk_at dksX4_isLength_0 13 rfl rfl)
theorem dX4_isLength_14 : decode cX4_isLength 14 = .ok (.irem, 1) := dk_112 (dk_at dksX4_isLength_0 14 rfl rfl)
theorem dX4_isLength_15 : decode cX4_isLength 15 = .ok (.ifCond .ne 7, 3) := dk_154 0 7 (dk_at dksX4_isLength_0 15 rfl rfl)
theorem dX4_isLength_18 : decode cX4_isLength 18 = .ok (.iconst 1, 1) := dk_4 (dk_at dksX4_isLength_0 18 rfl rfl)
theorem dX4_isLength_19 : decode cX4_isLength 19 = .ok (.goto 4, 3) := dk_167 0 4 (dk_at dksX4_isLength_0 19 rfl rfl)
theorem dX4_isLength_22 : decode cX4_isLength 22 = .ok (.iconst 0, 1) := dk_3 (dk_at dksX4_isLength_0 22 rfl rfl)
theorem dX4_isLength_23 : decode cX4_isLength 23 = .ok (.ireturn, 1) := dk_172 (dk_at dksX4_isLength_0 23 rfl rfl)
abbrev cX4_readFood : ByteArray := prog_9_method_16_code
def yX4_readFood : MethodName := ⟨RX4, "readFood", "()Z"⟩
def dkwX4_readFood_3 : List UInt8 := [180, 0, 101, 27, 79, 42, 89, 180, 0, 101, 4, 96, 181, 0, 101, 42, 182, 0, 59, 4, 172]
abbrev dktX4_readFood_3 : List UInt8 := dkwX4_readFood_3 ++ []
def dkwX4_readFood_2 : List UInt8 := [172, 132, 2, 1, 167, 255, 229, 27, 2, 160, 0, 9, 42, 8, 182, 0, 49, 172, 42, 180, 0, 104, 42]
abbrev dktX4_readFood_2 : List UInt8 := dkwX4_readFood_2 ++ dktX4_readFood_3
def dkwX4_readFood_1 : List UInt8 := [61, 28, 42, 180, 0, 101, 162, 0, 25, 42, 180, 0, 104, 28, 46, 27, 160, 0, 9, 42, 6, 182, 0, 49]
abbrev dktX4_readFood_1 : List UInt8 := dkwX4_readFood_1 ++ dktX4_readFood_2
def dkwX4_readFood_0 : List UInt8 := [42, 182, 0, 59, 42, 180, 0, 27, 4, 159, 0, 9, 42, 4, 182, 0, 49, 172, 42, 182, 0, 74, 60, 3]
abbrev dktX4_readFood_0 : List UInt8 := dkwX4_readFood_0 ++ dktX4_readFood_1
theorem dksX4_readFood_0 : cX4_readFood.data.toList.drop 0 = dktX4_readFood_0 := by decide +kernel
theorem dksX4_readFood_1 : cX4_readFood.data.toList.drop 24 = dktX4_readFood_1 := dk_seg dksX4_readFood_0 24 rfl rfl
theorem dksX4_readFood_2 : cX4_readFood.data.toList.drop 48 = dktX4_readFood_2 := dk_seg dksX4_readFood_1 24 rfl rfl
theorem dksX4_readFood_3 : cX4_readFood.data.toList.drop 71 = dktX4_readFood_3 := dk_seg dksX4_readFood_2 23 rfl rfl
theorem dX4_readFood_0 : decode cX4_readFood 0 = .ok (.aload_n 0, 1) := dk_42 (dk_at dksX4_readFood_0 0 rfl rfl)
theorem dX4_readFood_1 : decode cX4_readFood 1 = .ok (.invokevirtual 59, 3) := dk_182 0 59 (dk_at dksX4_readFood_0 1 rfl rfl)
theorem dX4_readFood_4 : decode cX4_readFood 4 = .ok (.aload_n 0, 1) := dk_42 (dk_at dksX4_readFood_0 4 rfl rfl)
theorem dX4_readFood_5 : decode cX4_readFood 5 = .ok (.getfield 27, 3) := dk_180 0 27 (dk_at dksX4_readFood_0 5 rfl rfl)
theorem dX4_readFood_8 : decode cX4_readFood 8 = .ok (.iconst 1, 1) := dk_4 (dk_at dksX4_readFood_0 8 rfl rfl)
theorem dX4_readFood_9 : decode cX4_readFood 9 = .ok (.if_icmp .eq 9, 3) := dk_159 0 9 (dk_at dksX4_readFood_0 9 rfl rfl)
theorem dX4_readFood_12 : decode cX4_readFood 12 = .ok (.aload_n 0, 1) := dk_42 (dk_at dksX4_readFood_0 12 rfl rfl)
theorem dX4_readFood_13 : decode cX4_readFood 13 = .ok (.iconst 1, 1) := dk_4 (dk_at dksX4_readFood_0 13 rfl rfl)
theorem dX4_readFood_14 : decode cX4_readFood 14 = .ok (.invokevirtual 49, 3) := dk_182 0 49 (dk_at dksX4_readFood_0 14 rfl rfl)
theorem dX4_readFood_17 : decode cX4_readFood 17 = .ok (.ireturn, 1) := dk_172 (dk_at dksX4_readFood_0 17 rfl rfl)
theorem dX4_readFood_18 : decode cX4_readFood 18 = .ok (.aload_n 0, 1) := dk_42 (dk_at dksX4_readFood_0 18 rfl rfl)
theorem dX4_readFood_19 : decode cX4_readFood 19 = .ok (.invokevirtual 74, 3) := dk_182 0 74 (dk_at dksX4_readFood_0 19 rfl rfl)
theorem dX4_readFood_22 : decode cX4_readFood 22 = .ok (.istore_n 1, 1) := dk_60 (dk_at dksX4_readFood_0 22 rfl rfl)
theorem dX4_readFood_23 : decode cX4_readFood 23 = .ok (.iconst 0, 1) := dk_3 (dk_at dksX4_readFood_0 23 rfl rfl)
theorem dX4_readFood_24 : decode cX4_readFood 24 = .ok (.istore_n 2, 1) := dk_61 (dk_at dksX4_readFood_1 0 rfl rfl)
theorem dX4_readFood_25 : decode cX4_readFood 25 = .ok (.iload_n 2, 1) := dk_28 (dk_at dksX4_readFood_1 1 rfl rfl)
theorem dX4_readFood_26 : decode cX4_readFood 26 = .ok (.aload_n 0, 1) := dk_42 (dk_at dksX4_readFood_1 2 rfl rfl)
theorem dX4_readFood_27 : decode cX4_readFood 27 = .ok (.getfield 101, 3) := dk_180 0 101 (dk_at dksX4_readFood_1 3 rfl rfl)
theorem dX4_readFood_30 : decode cX4_readFood 30 = .ok (.if_icmp .ge 25, 3) := dk_162 0 25 (dk_at dksX4_readFood_1 6 rfl rfl)
theorem dX4_readFood_33 : decode cX4_readFood 33 = .ok (.aload_n 0, 1) := dk_42 (dk_at dksX4_readFood_1 9 rfl rfl)
theorem dX4_readFood_34 : decode cX4_readFood 34 = .ok (.getfield 104, 3) := dk_180 0 104 (dk_at dksX4_readFood_1 10 rfl rfl)
theorem dX4_readFood_37 : decode cX4_readFood 37 = .ok (.iload_n 2, 1) := dk_28 (dk_at dksX4_readFood_1 13 rfl rfl)
theorem dX4_readFood_38 : decode cX4_readFood 38 = .ok (.iaload, 1) := dk_46 (dk_at dksX4_readFood_1 14 rfl rfl)
theorem dX4_readFood_39 : decode cX4_readFood 39 = .ok (.iload_n 1, 1) := dk_27 (dk_at dksX4_readFood_1 15 rfl rfl)
theorem dX4_readFood_40 : decode cX4_readFood 40 = .ok (.if_icmp .ne 9, 3) := dk_160 0 9 (dk_at dksX4_readFood_1 16 rfl rfl)
theorem dX4_readFood_43 : decode cX4_readFood 43 = .ok (.aload_n 0, 1) := dk_42 (dk_at dksX4_readFood_1 19 rfl rfl)
theorem dX4_readFood_44 : decode cX4_readFood 44 = .ok (.iconst 3, 1) := dk_6 (dk_at dksX4_readFood_1 20 rfl rfl)
theorem dX4_readFood_45 : decode cX4_readFood 45 = .ok (.invokevirtual 49, 3) := dk_182 0 49 (dk_at dksX4_readFood_1 21 rfl rfl)
theorem dX4_readFood_48 : decode cX4_readFood 48 = .ok (.ireturn, 1) := dk_172 (dk_at dksX4_readFood_2 0 rfl rfl)
theorem dX4_readFood_49 : decode cX4_readFood 49 = .ok (.iinc 2 1, 3) := dk_132 2 1 (dk_at dksX4_readFood_2 1 rfl rfl)
theorem dX4_readFood_52 : decode cX4_readFood 52 = .ok (.goto (-27), 3) := dk_167 255 229 (dk_at dksX4_readFood_2 4 rfl rfl)
theorem dX4_readFood_55 : decode cX4_readFood 55 = .ok (.iload_n 1, 1) := dk_27 (dk_at dksX4_readFood_2 7 rfl rfl)
theorem dX4_readFood_56 : decode cX4_readFood 56 = .ok (.iconst (-1), 1) := dk_2 (dk_at dksX4_readFood_2 8 rfl rfl)
theorem dX4_readFood_57 : decode cX4_readFood 57 = .ok (.if_icmp .ne 9, 3) := dk_160 0 9 (dk_at dksX4_readFood_2 9 rfl rfl)
theorem dX4_readFood_60 : decode cX4_readFood 60 = .ok (.aload_n 0, 1) := dk_42 (dk_at dksX4_readFood_2 12 rfl rfl)
theorem dX4_readFood_61 : decode cX4_readFood 61 = .ok (.iconst 5, 1) := dk_8 (dk_at dksX4_readFood_2 13 rfl rfl)
theorem dX4_readFood_62 : decode cX4_readFood 62 = .ok (.invokevirtual 49, 3) := dk_182 0 49 (dk_at dksX4_readFood_2 14 rfl rfl)
theorem dX4_readFood_65 : decode cX4_readFood 65 = .ok (.ireturn, 1) := dk_172 (dk_at dksX4_readFood_2 17 rfl rfl)
theorem dX4_readFood_66 : decode cX4_readFood 66 = .ok (.aload_n 0, 1) := dk_42 (dk_at dksX4_readFood_2 18 rfl rfl)
theorem dX4_readFood_67 : decode cX4_readFood 67 = .ok (.getfield 104, 3) := dk_180 0 104 (dk_at dksX4_readFood_2 19 rfl rfl)
theorem dX4_readFood_70 : decode cX4_readFood 70 = .ok (.aload_n 0, 1) := dk_42 (dk_at dksX4_readFood_2 22 rfl rfl)
theorem dX4_readFood_71 : decode cX4_readFood 71 = .ok (.getfield 101, 3) := dk_180 0 101 (dk_at dksX4_readFood_3 0 rfl rfl)
theorem dX4_readFood_74 : decode cX4_readFood 74 = .ok (.iload_n 1, 1) := dk_27 (dk_at dksX4_readFood_3 3 rfl rfl)
theorem dX4_readFood_75 : decode cX4_readFood 75 = .ok (.iastore, 1) := dk_79 (dk_at dksX4_readFood_3 4 rfl rfl)
theorem dX4_readFood_76 : decode cX4_readFood 76 = .ok (.aload_n 0, 1) := dk_42 (dk_at dksX4_readFood_3 5 rfl rfl)
theorem dX4_readFood_77 : decode cX4_readFood 77 = .ok (.dup, 1) := dk_89 (dk_at dksX4_readFood_3 6 rfl rfl)
theorem dX4_readFood_78 : decode cX4_readFood 78 = .ok (.getfield 101, 3) := dk_180 0 101 (dk_at dksX4_readFood_3 7 rfl rfl)
theorem dX4_readFood_81 : decode cX4_readFood 81 = .ok (.iconst 1, 1) := dk_4 (dk_at dksX4_readFood_3 10 rfl rfl)
theorem dX4_readFood_82 : decode cX4_readFood 82 = .ok (.iadd, 1) := dk_96 (dk_at dksX4_readFood_3 11 rfl rfl)
theorem dX4_readFood_83 : decode cX4_readFood 83 = .ok (.putfield 101, 3) := dk_181 0 101 (dk_at dksX4_readFood_3 12 rfl rfl)
theorem dX4_readFood_86 : decode cX4_readFood 86 = .ok (.aload_n 0, 1) := dk_42 (dk_at dksX4_readFood_3 15 rfl rfl)
theorem dX4_readFood_87 : decode cX4_readFood 87 = .ok (.invokevirtual 59, 3) := dk_182 0 59 (dk_at dksX4_readFood_3 16 rfl rfl)
theorem dX4_readFood_90 : decode cX4_readFood 90 = .ok (.iconst 1, 1) := dk_4 (dk_at dksX4_readFood_3 19 rfl rfl)
theorem dX4_readFood_91 : decode cX4_readFood 91 = .ok (.ireturn, 1) := dk_172 (dk_at dksX4_readFood_3 20 rfl rfl)
abbrev cX4_readSalt : ByteArray := prog_9_method_17_code
def yX4_readSalt : MethodName := ⟨RX4, "readSalt", "()Z"⟩
def dkwX4_readSalt_4 : List UInt8 := [180, 0, 107, 4, 29, 120, 128, 181, 0, 107, 42, 182, 0, 59, 4, 172]
abbrev dktX4_readSalt_4 : List UInt8 := dkwX4_readSalt_4 ++ []
def dkwX4_readSalt_3 : List UInt8 := [160, 0, 9, 42, 6, 182, 0, 49, 172, 29, 2, 160, 0, 9, 42, 8, 182, 0, 49, 172, 42, 89]
abbrev dktX4_readSalt_3 : List UInt8 := dkwX4_readSalt_3 ++ dktX4_readSalt_4
def dkwX4_readSalt_2 : List UInt8 := [167, 0, 9, 42, 27, 28, 182, 0, 91, 62, 29, 2, 159, 0, 21, 42, 180, 0, 107, 29, 122, 4, 126, 4]
abbrev dktX4_readSalt_2 : List UInt8 := dkwX4_readSalt_2 ++ dktX4_readSalt_3
def dkwX4_readSalt_1 : List UInt8 := [180, 0, 27, 4, 159, 0, 9, 42, 4, 182, 0, 49, 172, 42, 182, 0, 74, 61, 28, 2, 160, 0, 7, 2]
abbrev dktX4_readSalt_1 : List UInt8 := dkwX4_readSalt_1 ++ dktX4_readSalt_2
def dkwX4_readSalt_0 : List UInt8 := [42, 182, 0, 59, 42, 182, 0, 87, 154, 0, 5, 3, 172, 42, 180, 0, 56, 60, 42, 182, 0, 59, 42]
abbrev dktX4_readSalt_0 : List UInt8 := dkwX4_readSalt_0 ++ dktX4_readSalt_1
theorem dksX4_readSalt_0 : cX4_readSalt.data.toList.drop 0 = dktX4_readSalt_0 := by decide +kernel
theorem dksX4_readSalt_1 : cX4_readSalt.data.toList.drop 23 = dktX4_readSalt_1 := dk_seg dksX4_readSalt_0 23 rfl rfl
theorem dksX4_readSalt_2 : cX4_readSalt.data.toList.drop 47 = dktX4_readSalt_2 := dk_seg dksX4_readSalt_1 24 rfl rfl
theorem dksX4_readSalt_3 : cX4_readSalt.data.toList.drop 71 = dktX4_readSalt_3 := dk_seg dksX4_readSalt_2 24 rfl rfl
theorem dksX4_readSalt_4 : cX4_readSalt.data.toList.drop 93 = dktX4_readSalt_4 := dk_seg dksX4_readSalt_3 22 rfl rfl
theorem dX4_readSalt_0 : decode cX4_readSalt 0 = .ok (.aload_n 0, 1) := dk_42 (dk_at dksX4_readSalt_0 0 rfl rfl)
theorem dX4_readSalt_1 : decode cX4_readSalt 1 = .ok (.invokevirtual 59, 3) := dk_182 0 59 (dk_at dksX4_readSalt_0 1 rfl rfl)
theorem dX4_readSalt_4 : decode cX4_readSalt 4 = .ok (.aload_n 0, 1) := dk_42 (dk_at dksX4_readSalt_0 4 rfl rfl)
theorem dX4_readSalt_5 : decode cX4_readSalt 5 = .ok (.invokevirtual 87, 3) := dk_182 0 87 (dk_at dksX4_readSalt_0 5 rfl rfl)
theorem dX4_readSalt_8 : decode cX4_readSalt 8 = .ok (.ifCond .ne 5, 3) := dk_154 0 5 (dk_at dksX4_readSalt_0 8 rfl rfl)
theorem dX4_readSalt_11 : decode cX4_readSalt 11 = .ok (.iconst 0, 1) := dk_3 (dk_at dksX4_readSalt_0 11 rfl rfl)
theorem dX4_readSalt_12 : decode cX4_readSalt 12 = .ok (.ireturn, 1) := dk_172 (dk_at dksX4_readSalt_0 12 rfl rfl)
theorem dX4_readSalt_13 : decode cX4_readSalt 13 = .ok (.aload_n 0, 1) := dk_42 (dk_at dksX4_readSalt_0 13 rfl rfl)
theorem dX4_readSalt_14 : decode cX4_readSalt 14 = .ok (.getfield 56, 3) := dk_180 0 56 (dk_at dksX4_readSalt_0 14 rfl rfl)
theorem dX4_readSalt_17 : decode cX4_readSalt 17 = .ok (.istore_n 1, 1) := dk_60 (dk_at dksX4_readSalt_0 17 rfl rfl)
theorem dX4_readSalt_18 : decode cX4_readSalt 18 = .ok (.aload_n 0, 1) := dk_42 (dk_at dksX4_readSalt_0 18 rfl rfl)
theorem dX4_readSalt_19 : decode cX4_readSalt 19 = .ok (.invokevirtual 59, 3) := dk_182 0 59 (dk_at dksX4_readSalt_0 19 rfl rfl)
theorem dX4_readSalt_22 : decode cX4_readSalt 22 = .ok (.aload_n 0, 1) := dk_42 (dk_at dksX4_readSalt_0 22 rfl rfl)
theorem dX4_readSalt_23 : decode cX4_readSalt 23 = .ok (.getfield 27, 3) := dk_180 0 27 (dk_at dksX4_readSalt_1 0 rfl rfl)
theorem dX4_readSalt_26 : decode cX4_readSalt 26 = .ok (.iconst 1, 1) := dk_4 (dk_at dksX4_readSalt_1 3 rfl rfl)
theorem dX4_readSalt_27 : decode cX4_readSalt 27 = .ok (.if_icmp .eq 9, 3) := dk_159 0 9 (dk_at dksX4_readSalt_1 4 rfl rfl)
theorem dX4_readSalt_30 : decode cX4_readSalt 30 = .ok (.aload_n 0, 1) := dk_42 (dk_at dksX4_readSalt_1 7 rfl rfl)
theorem dX4_readSalt_31 : decode cX4_readSalt 31 = .ok (.iconst 1, 1) := dk_4 (dk_at dksX4_readSalt_1 8 rfl rfl)
theorem dX4_readSalt_32 : decode cX4_readSalt 32 = .ok (.invokevirtual 49, 3) := dk_182 0 49 (dk_at dksX4_readSalt_1 9 rfl rfl)
theorem dX4_readSalt_35 : decode cX4_readSalt 35 = .ok (.ireturn, 1) := dk_172 (dk_at dksX4_readSalt_1 12 rfl rfl)
theorem dX4_readSalt_36 : decode cX4_readSalt 36 = .ok (.aload_n 0, 1) := dk_42 (dk_at dksX4_readSalt_1 13 rfl rfl)
theorem dX4_readSalt_37 : decode cX4_readSalt 37 = .ok (.invokevirtual 74, 3) := dk_182 0 74 (dk_at dksX4_readSalt_1 14 rfl rfl)
theorem dX4_readSalt_40 : decode cX4_readSalt 40 = .ok (.istore_n 2, 1) := dk_61 (dk_at dksX4_readSalt_1 17 rfl rfl)
theorem dX4_readSalt_41 : decode cX4_readSalt 41 = .ok (.iload_n 2, 1) := dk_28 (dk_at dksX4_readSalt_1 18 rfl rfl)
theorem dX4_readSalt_42 : decode cX4_readSalt 42 = .ok (.iconst (-1), 1) := dk_2 (dk_at dksX4_readSalt_1 19 rfl rfl)
theorem dX4_readSalt_43 : decode cX4_readSalt 43 = .ok (.if_icmp .ne 7, 3) := dk_160 0 7 (dk_at dksX4_readSalt_1 20 rfl rfl)
theorem dX4_readSalt_46 : decode cX4_readSalt 46 = .ok (.iconst (-1), 1) := dk_2 (dk_at dksX4_readSalt_1 23 rfl rfl)
theorem dX4_readSalt_47 : decode cX4_readSalt 47 = .ok (.goto 9, 3) := dk_167 0 9 (dk_at dksX4_readSalt_2 0 rfl rfl)
theorem dX4_readSalt_50 : decode cX4_readSalt 50 = .ok (.aload_n 0, 1) := dk_42 (dk_at dksX4_readSalt_2 3 rfl rfl)
theorem dX4_readSalt_51 : decode cX4_readSalt 51 = .ok (.iload_n 1, 1) := dk_27 (dk_at dksX4_readSalt_2 4 rfl rfl)
theorem dX4_readSalt_52 : decode cX4_readSalt 52 = .ok (.iload_n 2, 1) := dk_28 (dk_at dksX4_readSalt_2 5 rfl rfl)
theorem dX4_readSalt_53 : decode cX4_readSalt 53 = .ok (.invokevirtual 91, 3) := dk_182 0 91 (dk_at dksX4_readSalt_2 6 rfl rfl)
theorem dX4_readSalt_56 : decode cX4_readSalt 56 = .ok (.istore_n 3, 1) := dk_62 (dk_at dksX4_readSalt_2 9 rfl rfl)
theorem dX4_readSalt_57 : decode cX4_readSalt 57 = .ok (.iload_n 3, 1) := dk_29 (dk_at dksX4_readSalt_2 10 rfl rfl)
theorem dX4_readSalt_58 : decode cX4_readSalt 58 = .ok (.iconst (-1), 1) := dk_2 (dk_at dksX4_readSalt_2 11 rfl rfl)
theorem dX4_readSalt_59 : decode cX4_readSalt 59 = .ok (.if_icmp .eq 21, 3) := dk_159 0 21 (dk_at dksX4_readSalt_2 12 rfl rfl)
theorem dX4_readSalt_62 : decode cX4_readSalt 62 = .ok (.aload_n 0, 1) := dk_42 (dk_at dksX4_readSalt_2 15 rfl rfl)
theorem dX4_readSalt_63 : decode cX4_readSalt 63 = .ok (.getfield 107, 3) := dk_180 0 107 (dk_at dksX4_readSalt_2 16 rfl rfl)
theorem dX4_readSalt_66 : decode cX4_readSalt 66 = .ok (.iload_n 3, 1) := dk_29 (dk_at dksX4_readSalt_2 19 rfl rfl)
theorem dX4_readSalt_67 : decode cX4_readSalt 67 = .ok (.ishr, 1) := dk_122 (dk_at dksX4_readSalt_2 20 rfl rfl)
theorem dX4_readSalt_68 : decode cX4_readSalt 68 = .ok (.iconst 1, 1) := dk_4 (dk_at dksX4_readSalt_2 21 rfl rfl)
theorem dX4_readSalt_69 : decode cX4_readSalt 69 = .ok (.iand, 1) := dk_126 (dk_at dksX4_readSalt_2 22 rfl rfl)
theorem dX4_readSalt_70 : decode cX4_readSalt 70 = .ok (.iconst 1, 1) := dk_4 (dk_at dksX4_readSalt_2 23 rfl rfl)
theorem dX4_readSalt_71 : decode cX4_readSalt 71 = .ok (.if_icmp .ne 9, 3) := dk_160 0 9 (dk_at dksX4_readSalt_3 0 rfl rfl)
theorem dX4_readSalt_74 : decode cX4_readSalt 74 = .ok (.aload_n 0, 1) := dk_42 (dk_at dksX4_readSalt_3 3 rfl rfl)
theorem dX4_readSalt_75 : decode cX4_readSalt 75 = .ok (.iconst 3, 1) := dk_6 (dk_at dksX4_readSalt_3 4 rfl rfl)
theorem dX4_readSalt_76 : decode cX4_readSalt 76 = .ok (.invokevirtual 49, 3) := dk_182 0 49 (dk_at dksX4_readSalt_3 5 rfl rfl)
theorem dX4_readSalt_79 : decode cX4_readSalt 79 = .ok (.ireturn, 1) := dk_172 (dk_at dksX4_readSalt_3 8 rfl rfl)
theorem dX4_readSalt_80 : decode cX4_readSalt 80 = .ok (.iload_n 3, 1) := dk_29 (dk_at dksX4_readSalt_3 9 rfl rfl)
theorem dX4_readSalt_81 : decode cX4_readSalt 81 = .ok (.iconst (-1), 1) := dk_2 (dk_at dksX4_readSalt_3 10 rfl rfl)
theorem dX4_readSalt_82 : decode cX4_readSalt 82 = .ok (.if_icmp .ne 9, 3) := dk_160 0 9 (dk_at dksX4_readSalt_3 11 rfl rfl)
theorem dX4_readSalt_85 : decode cX4_readSalt 85 = .ok (.aload_n 0, 1) := dk_42 (dk_at dksX4_readSalt_3 14 rfl rfl)
theorem dX4_readSalt_86 : decode cX4_readSalt 86 = .ok (.iconst 5, 1) := dk_8 (dk_at dksX4_readSalt_3 15 rfl rfl)
theorem dX4_readSalt_87 : decode cX4_readSalt 87 = .ok (.invokevirtual 49, 3) := dk_182 0 49 (dk_at dksX4_readSalt_3 16 rfl rfl)
theorem dX4_readSalt_90 : decode cX4_readSalt 90 = .ok (.ireturn, 1) := dk_172 (dk_at dksX4_readSalt_3 19 rfl rfl)
theorem dX4_readSalt_91 : decode cX4_readSalt 91 = .ok (.aload_n 0, 1) := dk_42 (dk_at dksX4_readSalt_3 20 rfl rfl)
theorem dX4_readSalt_92 : decode cX4_readSalt 92 = .ok (.dup, 1) := dk_89 (dk_at dksX4_readSalt_3 21 rfl rfl)
theorem dX4_readSalt_93 : decode cX4_readSalt 93 = .ok (.getfield 107, 3) := dk_180 0 107 (dk_at dksX4_readSalt_4 0 rfl rfl)
theorem dX4_readSalt_96 : decode cX4_readSalt 96 = .ok (.iconst 1, 1) := dk_4 (dk_at dksX4_readSalt_4 3 rfl rfl)
theorem dX4_readSalt_97 : decode cX4_readSalt 97 = .ok (.iload_n 3, 1) := dk_29 (dk_at dksX4_readSalt_4 4 rfl rfl)
theorem dX4_readSalt_98 : decode cX4_readSalt 98 = .ok (.ishl, 1) := dk_120 (dk_at dksX4_readSalt_4 5 rfl rfl)
theorem dX4_readSalt_99 : decode cX4_readSalt 99 = .ok (.ior, 1) := dk_128 (dk_at dksX4_readSalt_4 6 rfl rfl)
theorem dX4_readSalt_100 : decode cX4_readSalt 100 = .ok (.putfield 107, 3) := dk_181 0 107 (dk_at dksX4_readSalt_4 7 rfl rfl)
theorem dX4_readSalt_103 : decode cX4_readSalt 103 = .ok (.aload_n 0, 1) := dk_42 (dk_at dksX4_readSalt_4 10 rfl rfl)
theorem dX4_readSalt_104 : decode cX4_readSalt 104 = .ok (.invokevirtual 59, 3) := dk_182 0 59 (dk_at dksX4_readSalt_4 11 rfl rfl)
theorem dX4_readSalt_107 : decode cX4_readSalt 107 = .ok (.iconst 1, 1) := dk_4 (dk_at dksX4_readSalt_4 14 rfl rfl)
theorem dX4_readSalt_108 : decode cX4_readSalt 108 = .ok (.ireturn, 1) := dk_172 (dk_at dksX4_readSalt_4 15 rfl rfl)
abbrev cX4_readSmall : ByteArray := prog_9_method_18_code
def yX4_readSmall : MethodName := ⟨RX4, "readSmall", "()Z"⟩
def dkwX4_readSmall_8 : List UInt8 := [180, 0, 56, 181, 0, 143, 4, 172]
abbrev dktX4_readSmall_8 : List UInt8 := dkwX4_readSmall_8 ++ []
def dkwX4_readSmall_7 : List UInt8 := [167, 0, 28, 42, 4, 181, 0, 127, 42, 4, 16, 9, 182, 0, 130, 154, 0, 5, 3, 172, 42, 42]
abbrev dktX4_readSmall_7 : List UInt8 := dkwX4_readSmall_7 ++ dktX4_readSmall_8
def dkwX4_readSmall_6 : List UInt8 := [4, 181, 0, 124, 42, 4, 16, 9, 182, 0, 130, 154, 0, 5, 3, 172, 42, 42, 180, 0, 56, 181, 0, 140]
abbrev dktX4_readSmall_6 : List UInt8 := dkwX4_readSmall_6 ++ dktX4_readSmall_7
def dkwX4_readSmall_5 : List UInt8 := [182, 0, 130, 154, 0, 5, 3, 172, 42, 42, 180, 0, 56, 181, 0, 137, 167, 0, 60, 28, 153, 0, 31, 42]
abbrev dktX4_readSmall_5 : List UInt8 := dkwX4_readSmall_5 ++ dktX4_readSmall_6
def dkwX4_readSmall_4 : List UInt8 := [16, 20, 182, 0, 130, 154, 0, 5, 3, 172, 42, 42, 180, 0, 56, 181, 0, 134, 42, 3, 16, 20]
abbrev dktX4_readSmall_4 : List UInt8 := dkwX4_readSmall_4 ++ dktX4_readSmall_5
def dkwX4_readSmall_3 : List UInt8 := [153, 0, 9, 42, 6, 182, 0, 49, 172, 42, 182, 0, 59, 27, 153, 0, 51, 42, 4, 181, 0, 120, 42, 3]
abbrev dktX4_readSmall_3 : List UInt8 := dkwX4_readSmall_3 ++ dktX4_readSmall_4
def dkwX4_readSmall_2 : List UInt8 := [153, 0, 33, 167, 0, 24, 28, 153, 0, 13, 42, 180, 0, 124, 153, 0, 19, 167, 0, 10, 42, 180, 0, 127]
abbrev dktX4_readSmall_2 : List UInt8 := dkwX4_readSmall_2 ++ dktX4_readSmall_3
def dkwX4_readSmall_1 : List UInt8 := [18, 118, 182, 0, 112, 154, 0, 9, 42, 4, 182, 0, 49, 172, 27, 153, 0, 13, 42, 180, 0, 120]
abbrev dktX4_readSmall_1 : List UInt8 := dkwX4_readSmall_1 ++ dktX4_readSmall_2
def dkwX4_readSmall_0 : List UInt8 := [42, 18, 110, 182, 0, 112, 60, 42, 18, 116, 182, 0, 112, 61, 27, 154, 0, 22, 28, 154, 0, 18, 42]
abbrev dktX4_readSmall_0 : List UInt8 := dkwX4_readSmall_0 ++ dktX4_readSmall_1
theorem dksX4_readSmall_0 : cX4_readSmall.data.toList.drop 0 = dktX4_readSmall_0 := by decide +kernel
theorem dksX4_readSmall_1 : cX4_readSmall.data.toList.drop 23 = dktX4_readSmall_1 := dk_seg dksX4_readSmall_0 23 rfl rfl
theorem dksX4_readSmall_2 : cX4_readSmall.data.toList.drop 45 = dktX4_readSmall_2 := dk_seg dksX4_readSmall_1 22 rfl rfl
theorem dksX4_readSmall_3 : cX4_readSmall.data.toList.drop 69 = dktX4_readSmall_3 := dk_seg dksX4_readSmall_2 24 rfl rfl
theorem dksX4_readSmall_4 : cX4_readSmall.data.toList.drop 93 = dktX4_readSmall_4 := dk_seg dksX4_readSmall_3 24 rfl rfl
theorem dksX4_readSmall_5 : cX4_readSmall.data.toList.drop 115 = dktX4_readSmall_5 := dk_seg dksX4_readSmall_4 22 rfl rfl
theorem dksX4_readSmall_6 : cX4_readSmall.data.toList.drop 139 = dktX4_readSmall_6 := dk_seg dksX4_readSmall_5 24 rfl rfl
theorem dksX4_readSmall_7 : cX4_readSmall.data.toList.drop 163 = dktX4_readSmall_7 := dk_seg dksX4_readSmall_6 24 rfl rfl
theorem dksX4_readSmall_8 : cX4_readSmall.data.toList.drop 185 = dktX4_readSmall_8 := dk_seg dksX4_readSmall_7 22 rfl rfl
theorem dX4_readSmall_0 : decode cX4_readSmall 0 = .ok (.aload_n 0, 1) := dk_42 (dk_at dksX4_readSmall_0 0 rfl rfl)
theorem dX4_readSmall_1 : decode cX4_readSmall 1 = .ok (.ldc 110, 2) := dk_18 110 (dk_at dksX4_readSmall_0 1 rfl rfl)
theorem dX4_readSmall_3 : decode cX4_readSmall 3 = .ok (.invokevirtual 112, 3) := dk_182 0 112 (dk_at dksX4_readSmall_0 3 rfl rfl)
theorem dX4_readSmall_6 : decode cX4_readSmall 6 = .ok (.istore_n 1, 1) := dk_60 (dk_at dksX4_readSmall_0 6 rfl rfl)
theorem dX4_readSmall_7 : decode cX4_readSmall 7 = .ok (.aload_n 0, 1) := dk_42 (dk_at dksX4_readSmall_0 7 rfl rfl)
theorem dX4_readSmall_8 : decode cX4_readSmall 8 = .ok (.ldc 116, 2) := dk_18 116 (dk_at dksX4_readSmall_0 8 rfl rfl)
theorem dX4_readSmall_10 : decode cX4_readSmall 10 = .ok (.invokevirtual 112, 3) := dk_182 0 112 (dk_at dksX4_readSmall_0 10 rfl rfl)
theorem dX4_readSmall_13 : decode cX4_readSmall 13 = .ok (.istore_n 2, 1) := dk_61 (dk_at dksX4_readSmall_0 13 rfl rfl)
theorem dX4_readSmall_14 : decode cX4_readSmall 14 = .ok (.iload_n 1, 1) := dk_27 (dk_at dksX4_readSmall_0 14 rfl rfl)
theorem dX4_readSmall_15 : decode cX4_readSmall 15 = .ok (.ifCond .ne 22, 3) := dk_154 0 22 (dk_at dksX4_readSmall_0 15 rfl rfl)
theorem dX4_readSmall_18 : decode cX4_readSmall 18 = .ok (.iload_n 2, 1) := dk_28 (dk_at dksX4_readSmall_0 18 rfl rfl)
theorem dX4_readSmall_19 : decode cX4_readSmall 19 = .ok (.ifCond .ne 18, 3) := dk_154 0 18 (dk_at dksX4_readSmall_0 19 rfl rfl)
theorem dX4_readSmall_22 : decode cX4_readSmall 22 = .ok (.aload_n 0, 1) := dk_42 (dk_at dksX4_readSmall_0 22 rfl rfl)
theorem dX4_readSmall_23 : decode cX4_readSmall 23 = .ok (.ldc 118, 2) := dk_18 118 (dk_at dksX4_readSmall_1 0 rfl rfl)
theorem dX4_readSmall_25 : decode cX4_readSmall 25 = .ok (.invokevirtual 112, 3) := dk_182 0 112 (dk_at dksX4_readSmall_1 2 rfl rfl)
theorem dX4_readSmall_28 : decode cX4_readSmall 28 = .ok (.ifCond .ne 9, 3) := dk_154 0 9 (dk_at dksX4_readSmall_1 5 rfl rfl)
theorem dX4_readSmall_31 : decode cX4_readSmall 31 = .ok (.aload_n 0, 1) := dk_42 (dk_at dksX4_readSmall_1 8 rfl rfl)
theorem dX4_readSmall_32 : decode cX4_readSmall 32 = .ok (.iconst 1, 1) := dk_4 (dk_at dksX4_readSmall_1 9 rfl rfl)
theorem dX4_readSmall_33 : decode cX4_readSmall 33 = .ok (.invokevirtual 49, 3) := dk_182 0 49 (dk_at dksX4_readSmall_1 10 rfl rfl)
theorem dX4_readSmall_36 : decode cX4_readSmall 36 = .ok (.ireturn, 1) := dk_172 (dk_at dksX4_readSmall_1 13 rfl rfl)
theorem dX4_readSmall_37 : decode cX4_readSmall 37 = .ok (.iload_n 1, 1) := dk_27 (dk_at dksX4_readSmall_1 14 rfl rfl)
theorem dX4_readSmall_38 : decode cX4_readSmall 38 = .ok (.ifCond .eq 13, 3) := dk_153 0 13 (dk_at dksX4_readSmall_1 15 rfl rfl)
theorem dX4_readSmall_41 : decode cX4_readSmall 41 = .ok (.aload_n 0, 1) := dk_42 (dk_at dksX4_readSmall_1 18 rfl rfl)
theorem dX4_readSmall_42 : decode cX4_readSmall 42 = .ok (.getfield 120, 3) := dk_180 0 120 (dk_at dksX4_readSmall_1 19 rfl rfl)
theorem dX4_readSmall_45 : decode cX4_readSmall 45 = .ok (.ifCond .eq 33, 3) := dk_153 0 33 (dk_at dksX4_readSmall_2 0 rfl rfl)
theorem dX4_readSmall_48 : decode cX4_readSmall 48 = .ok (.goto 24, 3) := dk_167 0 24 (dk_at dksX4_readSmall_2 3 rfl rfl)
theorem dX4_readSmall_51 : decode cX4_readSmall 51 = .ok (.iload_n 2, 1) := dk_28 (dk_at dksX4_readSmall_2 6 rfl rfl)
theorem dX4_readSmall_52 : decode cX4_readSmall 52 = .ok (.ifCond .eq 13, 3) := dk_153 0 13 (dk_at dksX4_readSmall_2 7 rfl rfl)
theorem dX4_readSmall_55 : decode cX4_readSmall 55 = .ok (.aload_n 0, 1) := dk_42 (dk_at dksX4_readSmall_2 10 rfl rfl)
theorem dX4_readSmall_56 : decode cX4_readSmall 56 = .ok (.getfield 124, 3) := dk_180 0 124 (dk_at dksX4_readSmall_2 11 rfl rfl)
theorem dX4_readSmall_59 : decode cX4_readSmall 59 = .ok (.ifCond .eq 19, 3) := dk_153 0 19 (dk_at dksX4_readSmall_2 14 rfl rfl)
theorem dX4_readSmall_62 : decode cX4_readSmall 62 = .ok (.goto 10, 3) := dk_167 0 10 (dk_at dksX4_readSmall_2 17 rfl rfl)
theorem dX4_readSmall_65 : decode cX4_readSmall 65 = .ok (.aload_n 0, 1) := dk_42 (dk_at dksX4_readSmall_2 20 rfl rfl)
theorem dX4_readSmall_66 : decode cX4_readSmall 66 = .ok (.getfield 127, 3) := dk_180 0 127 (dk_at dksX4_readSmall_2 21 rfl rfl)
theorem dX4_readSmall_69 : decode cX4_readSmall 69 = .ok (.ifCond .eq 9, 3) := dk_153 0 9 (dk_at dksX4_readSmall_3 0 rfl rfl)
theorem dX4_readSmall_72 : decode cX4_readSmall 72 = .ok (.aload_n 0, 1) := dk_42 (dk_at dksX4_readSmall_3 3 rfl rfl)
theorem dX4_readSmall_73 : decode cX4_readSmall 73 = .ok (.iconst 3, 1) := dk_6 (dk_at dksX4_readSmall_3 4 rfl rfl)
theorem dX4_readSmall_74 : decode cX4_readSmall 74 = .ok (.invokevirtual 49, 3) := dk_182 0 49 (dk_at dksX4_readSmall_3 5 rfl rfl)
theorem dX4_readSmall_77 : decode cX4_readSmall 77 = .ok (.ireturn, 1) := dk_172 (dk_at dksX4_readSmall_3 8 rfl rfl)
theorem dX4_readSmall_78 : decode cX4_readSmall 78 = .ok (.aload_n 0, 1) := dk_42 (dk_at dksX4_readSmall_3 9 rfl rfl)
theorem dX4_readSmall_79 : decode cX4_readSmall 79 = .ok (.invokevirtual 59, 3) := dk_182 0 59 (dk_at dksX4_readSmall_3 10 rfl rfl)
theorem dX4_readSmall_82 : decode cX4_readSmall 82 = .ok (.iload_n 1, 1) := dk_27 (dk_at dksX4_readSmall_3 13 rfl rfl)
theorem dX4_readSmall_83 : decode cX4_readSmall 83 = .ok (.ifCond .eq 51, 3) := dk_153 0 51 (dk_at dksX4_readSmall_3 14 rfl rfl)
theorem dX4_readSmall_86 : decode cX4_readSmall 86 = .ok (.aload_n 0, 1) := dk_42 (dk_at dksX4_readSmall_3 17 rfl rfl)
theorem dX4_readSmall_87 : decode cX4_readSmall 87 = .ok (.iconst 1, 1) := dk_4 (dk_at dksX4_readSmall_3 18 rfl rfl)
theorem dX4_readSmall_88 : decode cX4_readSmall 88 = .ok (.putfield 120, 3) := dk_181 0 120 (dk_at dksX4_readSmall_3 19 rfl rfl)
theorem dX4_readSmall_91 : decode cX4_readSmall 91 = .ok (.aload_n 0, 1) := dk_42 (dk_at dksX4_readSmall_3 22 rfl rfl)
theorem dX4_readSmall_92 : decode cX4_readSmall 92 = .ok (.iconst 0, 1) := dk_3 (dk_at dksX4_readSmall_3 23 rfl rfl)
theorem dX4_readSmall_93 : decode cX4_readSmall 93 = .ok (.bipush 20, 2) := dk_16 20 (dk_at dksX4_readSmall_4 0 rfl rfl)
theorem dX4_readSmall_95 : decode cX4_readSmall 95 = .ok (.invokevirtual 130, 3) := dk_182 0 130 (dk_at dksX4_readSmall_4 2 rfl rfl)
theorem dX4_readSmall_98 : decode cX4_readSmall 98 = .ok (.ifCond .ne 5, 3) := dk_154 0 5 (dk_at dksX4_readSmall_4 5 rfl rfl)
theorem dX4_readSmall_101 : decode cX4_readSmall 101 = .ok (.iconst 0, 1) := dk_3 (dk_at dksX4_readSmall_4 8 rfl rfl)
theorem dX4_readSmall_102 : decode cX4_readSmall 102 = .ok (.ireturn, 1) := dk_172 (dk_at dksX4_readSmall_4 9 rfl rfl)
theorem dX4_readSmall_103 : decode cX4_readSmall 103 = .ok (.aload_n 0, 1) := dk_42 (dk_at dksX4_readSmall_4 10 rfl rfl)
theorem dX4_readSmall_104 : decode cX4_readSmall 104 = .ok (.aload_n 0, 1) := dk_42 (dk_at dksX4_readSmall_4 11 rfl rfl)
theorem dX4_readSmall_105 : decode cX4_readSmall 105 = .ok (.getfield 56, 3) := dk_180 0 56 (dk_at dksX4_readSmall_4 12 rfl rfl)
theorem dX4_readSmall_108 : decode cX4_readSmall 108 = .ok (.putfield 134, 3) := dk_181 0 134 (dk_at dksX4_readSmall_4 15 rfl rfl)
theorem dX4_readSmall_111 : decode cX4_readSmall 111 = .ok (.aload_n 0, 1) := dk_42 (dk_at dksX4_readSmall_4 18 rfl rfl)
theorem dX4_readSmall_112 : decode cX4_readSmall 112 = .ok (.iconst 0, 1) := dk_3 (dk_at dksX4_readSmall_4 19 rfl rfl)
theorem dX4_readSmall_113 : decode cX4_readSmall 113 = .ok (.bipush 20, 2) := dk_16 20 (dk_at dksX4_readSmall_4 20 rfl rfl)
theorem dX4_readSmall_115 : decode cX4_readSmall 115 = .ok (.invokevirtual 130, 3) := dk_182 0 130 (dk_at dksX4_readSmall_5 0 rfl rfl)
theorem dX4_readSmall_118 : decode cX4_readSmall 118 = .ok (.ifCond .ne 5, 3) := dk_154 0 5 (dk_at dksX4_readSmall_5 3 rfl rfl)
theorem dX4_readSmall_121 : decode cX4_readSmall 121 = .ok (.iconst 0, 1) := dk_3 (dk_at dksX4_readSmall_5 6 rfl rfl)
theorem dX4_readSmall_122 : decode cX4_readSmall 122 = .ok (.ireturn, 1) := dk_172 (dk_at dksX4_readSmall_5 7 rfl rfl)
theorem dX4_readSmall_123 : decode cX4_readSmall 123 = .ok (.aload_n 0, 1) := dk_42 (dk_at dksX4_readSmall_5 8 rfl rfl)
theorem dX4_readSmall_124 : decode cX4_readSmall 124 = .ok (.aload_n 0, 1) := dk_42 (dk_at dksX4_readSmall_5 9 rfl rfl)
theorem dX4_readSmall_125 : decode cX4_readSmall 125 = .ok (.getfield 56, 3) := dk_180 0 56 (dk_at dksX4_readSmall_5 10 rfl rfl)
theorem dX4_readSmall_128 : decode cX4_readSmall 128 = .ok (.putfield 137, 3) := dk_181 0 137 (dk_at dksX4_readSmall_5 13 rfl rfl)
theorem dX4_readSmall_131 : decode cX4_readSmall 131 = .ok (.goto 60, 3) := dk_167 0 60 (dk_at dksX4_readSmall_5 16 rfl rfl)
theorem dX4_readSmall_134 : decode cX4_readSmall 134 = .ok (.iload_n 2, 1) := dk_28 (dk_at dksX4_readSmall_5 19 rfl rfl)
theorem dX4_readSmall_135 : decode cX4_readSmall 135 = .ok (.ifCond .eq 31, 3) := dk_153 0 31 (dk_at dksX4_readSmall_5 20 rfl rfl)
theorem dX4_readSmall_138 : decode cX4_readSmall 138 = .ok (.aload_n 0, 1) := dk_42 (dk_at dksX4_readSmall_5 23 rfl rfl)
theorem dX4_readSmall_139 : decode cX4_readSmall 139 = .ok (.iconst 1, 1) := dk_4 (dk_at dksX4_readSmall_6 0 rfl rfl)
theorem dX4_readSmall_140 : decode cX4_readSmall 140 = .ok (.putfield 124, 3) := dk_181 0 124 (dk_at dksX4_readSmall_6 1 rfl rfl)
theorem dX4_readSmall_143 : decode cX4_readSmall 143 = .ok (.aload_n 0, 1) := dk_42 (dk_at dksX4_readSmall_6 4 rfl rfl)
theorem dX4_readSmall_144 : decode cX4_readSmall 144 = .ok (.iconst 1, 1) := dk_4 (dk_at dksX4_readSmall_6 5 rfl rfl)
theorem dX4_readSmall_145 : decode cX4_readSmall 145 = .ok (.bipush 9, 2) := dk_16 9 (dk_at dksX4_readSmall_6 6 rfl rfl)
theorem dX4_readSmall_147 : decode cX4_readSmall 147 = .ok (.invokevirtual 130, 3) := dk_182 0 130 (dk_at dksX4_readSmall_6 8 rfl rfl)
theorem dX4_readSmall_150 : decode cX4_readSmall 150 = .ok (.ifCond .ne 5, 3) := dk_154 0 5 (dk_at dksX4_readSmall_6 11 rfl rfl)
theorem dX4_readSmall_153 : decode cX4_readSmall 153 = .ok (.iconst 0, 1) := dk_3 (dk_at dksX4_readSmall_6 14 rfl rfl)
theorem dX4_readSmall_154 : decode cX4_readSmall 154 = .ok (.ireturn, 1) := dk_172 (dk_at dksX4_readSmall_6 15 rfl rfl)
theorem dX4_readSmall_155 : decode cX4_readSmall 155 = .ok (.aload_n 0, 1) := dk_42 (dk_at dksX4_readSmall_6 16 rfl rfl)
theorem dX4_readSmall_156 : decode cX4_readSmall 156 = .ok (.aload_n 0, 1) := dk_42 (dk_at dksX4_readSmall_6 17 rfl rfl)
theorem dX4_readSmall_157 : decode cX4_readSmall 157 = .ok (.getfield 56, 3) := dk_180 0 56 (dk_at dksX4_readSmall_6 18 rfl rfl)
theorem dX4_readSmall_160 : decode cX4_readSmall 160 = .ok (.putfield 140, 3) := dk_181 0 140 (dk_at dksX4_readSmall_6 21 rfl rfl)
theorem dX4_readSmall_163 : decode cX4_readSmall 163 = .ok (.goto 28, 3) := dk_167 0 28 (dk_at dksX4_readSmall_7 0 rfl rfl)
theorem dX4_readSmall_166 : decode cX4_readSmall 166 = .ok (.aload_n 0, 1) := dk_42 (dk_at dksX4_readSmall_7 3 rfl rfl)
theorem dX4_readSmall_167 : decode cX4_readSmall 167 = .ok (.iconst 1, 1) := dk_4 (dk_at dksX4_readSmall_7 4 rfl rfl)
theorem dX4_readSmall_168 : decode cX4_readSmall 168 = .ok (.putfield 127, 3) := dk_181 0 127 (dk_at dksX4_readSmall_7 5 rfl rfl)
theorem dX4_readSmall_171 : decode cX4_readSmall 171 = .ok (.aload_n 0, 1) := dk_42 (dk_at dksX4_readSmall_7 8 rfl rfl)
theorem dX4_readSmall_172 : decode cX4_readSmall 172 = .ok (.iconst 1, 1) := dk_4 (dk_at dksX4_readSmall_7 9 rfl rfl)
theorem dX4_readSmall_173 : decode cX4_readSmall 173 = .ok (.bipush 9, 2) := dk_16 9 (dk_at dksX4_readSmall_7 10 rfl rfl)
theorem dX4_readSmall_175 : decode cX4_readSmall 175 = .ok (.invokevirtual 130, 3) := dk_182 0 130 (dk_at dksX4_readSmall_7 12 rfl rfl)
theorem dX4_readSmall_178 : decode cX4_readSmall 178 = .ok (.ifCond .ne 5, 3) := dk_154 0 5 (dk_at dksX4_readSmall_7 15 rfl rfl)
theorem dX4_readSmall_181 : decode cX4_readSmall 181 = .ok (.iconst 0, 1) := dk_3 (dk_at dksX4_readSmall_7 18 rfl rfl)
theorem dX4_readSmall_182 : decode cX4_readSmall 182 = .ok (.ireturn, 1) := dk_172 (dk_at dksX4_readSmall_7 19 rfl rfl)
theorem dX4_readSmall_183 : decode cX4_readSmall 183 = .ok (.aload_n 0, 1) := dk_42 (dk_at dksX4_readSmall_7 20 rfl rfl)
theorem dX4_readSmall_184 : decode cX4_readSmall 184 = .ok (.aload_n 0, 1) := dk_42 (dk_at dksX4_readSmall_7 21 rfl rfl)
theorem dX4_readSmall_185 : decode cX4_readSmall 185 = .ok (.getfield 56, 3) := dk_180 0 56 (dk_at dksX4_readSmall_8 0 rfl rfl)
theorem dX4_readSmall_188 : decode cX4_readSmall 188 = .ok (.putfield 143, 3) := dk_181 0 143 (dk_at dksX4_readSmall_8 3 rfl rfl)
theorem dX4_readSmall_191 : decode cX4_readSmall 191 = .ok (.iconst 1, 1) := dk_4 (dk_at dksX4_readSmall_8 6 rfl rfl)
theorem dX4_readSmall_192 : decode cX4_readSmall 192 = .ok (.ireturn, 1) := dk_172 (dk_at dksX4_readSmall_8 7 rfl rfl)
abbrev cX4_number : ByteArray := prog_9_method_8_code
def yX4_number : MethodName := ⟨RX4, "number", "(II)Z"⟩
def dkwX4_number_2 : List UInt8 := [4, 172]
abbrev dktX4_number_2 : List UInt8 := dkwX4_number_2 ++ []
def dkwX4_number_1 : List UInt8 := [184, 0, 52, 154, 0, 9, 42, 5, 182, 0, 49, 172, 42, 42, 180, 0, 37, 181, 0, 56, 42, 182, 0, 59]
abbrev dktX4_number_1 : List UInt8 := dkwX4_number_1 ++ dktX4_number_2
def dkwX4_number_0 : List UInt8 := [42, 180, 0, 27, 5, 159, 0, 9, 42, 4, 182, 0, 49, 172, 42, 180, 0, 37, 133, 27, 133, 28, 133]
abbrev dktX4_number_0 : List UInt8 := dkwX4_number_0 ++ dktX4_number_1
theorem dksX4_number_0 : cX4_number.data.toList.drop 0 = dktX4_number_0 := by decide +kernel
theorem dksX4_number_1 : cX4_number.data.toList.drop 23 = dktX4_number_1 := dk_seg dksX4_number_0 23 rfl rfl
theorem dksX4_number_2 : cX4_number.data.toList.drop 47 = dktX4_number_2 := dk_seg dksX4_number_1 24 rfl rfl
theorem dX4_number_0 : decode cX4_number 0 = .ok (.aload_n 0, 1) := dk_42 (dk_at dksX4_number_0 0 rfl rfl)
theorem dX4_number_1 : decode cX4_number 1 = .ok (.getfield 27, 3) := dk_180 0 27 (dk_at dksX4_number_0 1 rfl rfl)
theorem dX4_number_4 : decode cX4_number 4 = .ok (.iconst 2, 1) := dk_5 (dk_at dksX4_number_0 4 rfl rfl)
theorem dX4_number_5 : decode cX4_number 5 = .ok (.if_icmp .eq 9, 3) := dk_159 0 9 (dk_at dksX4_number_0 5 rfl rfl)
theorem dX4_number_8 : decode cX4_number 8 = .ok (.aload_n 0, 1) := dk_42 (dk_at dksX4_number_0 8 rfl rfl)
theorem dX4_number_9 : decode cX4_number 9 = .ok (.iconst 1, 1) := dk_4 (dk_at dksX4_number_0 9 rfl rfl)
theorem dX4_number_10 : decode cX4_number 10 = .ok (.invokevirtual 49, 3) := dk_182 0 49 (dk_at dksX4_number_0 10 rfl rfl)
theorem dX4_number_13 : decode cX4_number 13 = .ok (.ireturn, 1) := dk_172 (dk_at dksX4_number_0 13 rfl rfl)
theorem dX4_number_14 : decode cX4_number 14 = .ok (.aload_n 0, 1) := dk_42 (dk_at dksX4_number_0 14 rfl rfl)
theorem dX4_number_15 : decode cX4_number 15 = .ok (.getfield 37, 3) := dk_180 0 37 (dk_at dksX4_number_0 15 rfl rfl)
theorem dX4_number_18 : decode cX4_number 18 = .ok (.i2l, 1) := dk_133 (dk_at dksX4_number_0 18 rfl rfl)
theorem dX4_number_19 : decode cX4_number 19 = .ok (.iload_n 1, 1) := dk_27 (dk_at dksX4_number_0 19 rfl rfl)
theorem dX4_number_20 : decode cX4_number 20 = .ok (.i2l, 1) := dk_133 (dk_at dksX4_number_0 20 rfl rfl)
theorem dX4_number_21 : decode cX4_number 21 = .ok (.iload_n 2, 1) := dk_28 (dk_at dksX4_number_0 21 rfl rfl)
theorem dX4_number_22 : decode cX4_number 22 = .ok (.i2l, 1) := dk_133 (dk_at dksX4_number_0 22 rfl rfl)
theorem dX4_number_23 : decode cX4_number 23 = .ok (.invokestatic 52, 3) := dk_184 0 52 (dk_at dksX4_number_1 0 rfl rfl)
theorem dX4_number_26 : decode cX4_number 26 = .ok (.ifCond .ne 9, 3) := dk_154 0 9 (dk_at dksX4_number_1 3 rfl rfl)
theorem dX4_number_29 : decode cX4_number 29 = .ok (.aload_n 0, 1) := dk_42 (dk_at dksX4_number_1 6 rfl rfl)
theorem dX4_number_30 : decode cX4_number 30 = .ok (.iconst 2, 1) := dk_5 (dk_at dksX4_number_1 7 rfl rfl)
theorem dX4_number_31 : decode cX4_number 31 = .ok (.invokevirtual 49, 3) := dk_182 0 49 (dk_at dksX4_number_1 8 rfl rfl)
theorem dX4_number_34 : decode cX4_number 34 = .ok (.ireturn, 1) := dk_172 (dk_at dksX4_number_1 11 rfl rfl)
theorem dX4_number_35 : decode cX4_number 35 = .ok (.aload_n 0, 1) := dk_42 (dk_at dksX4_number_1 12 rfl rfl)
theorem dX4_number_36 : decode cX4_number 36 = .ok (.aload_n 0, 1) := dk_42 (dk_at dksX4_number_1 13 rfl rfl)
theorem dX4_number_37 : decode cX4_number 37 = .ok (.getfield 37, 3) := dk_180 0 37 (dk_at dksX4_number_1 14 rfl rfl)
theorem dX4_number_40 : decode cX4_number 40 = .ok (.putfield 56, 3) := dk_181 0 56 (dk_at dksX4_number_1 17 rfl rfl)
theorem dX4_number_43 : decode cX4_number 43 = .ok (.aload_n 0, 1) := dk_42 (dk_at dksX4_number_1 20 rfl rfl)
theorem dX4_number_44 : decode cX4_number 44 = .ok (.invokevirtual 59, 3) := dk_182 0 59 (dk_at dksX4_number_1 21 rfl rfl)
theorem dX4_number_47 : decode cX4_number 47 = .ok (.iconst 1, 1) := dk_4 (dk_at dksX4_number_2 0 rfl rfl)
theorem dX4_number_48 : decode cX4_number 48 = .ok (.ireturn, 1) := dk_172 (dk_at dksX4_number_2 1 rfl rfl)
abbrev cX4_begin : ByteArray := prog_9_method_34_code
def yX4_begin : MethodName := ⟨RX4, "begin", "()V"⟩
def dkwX4_begin_1 : List UInt8 := [79, 42, 180, 0, 217, 27, 3, 79, 132, 1, 1, 167, 255, 228, 177]
abbrev dktX4_begin_1 : List UInt8 := dkwX4_begin_1 ++ []
def dkwX4_begin_0 : List UInt8 := [42, 3, 181, 1, 106, 3, 60, 27, 42, 180, 1, 41, 162, 0, 26, 42, 180, 0, 215, 27, 42, 180, 0, 183]
abbrev dktX4_begin_0 : List UInt8 := dkwX4_begin_0 ++ dktX4_begin_1
theorem dksX4_begin_0 : cX4_begin.data.toList.drop 0 = dktX4_begin_0 := by decide +kernel
theorem dksX4_begin_1 : cX4_begin.data.toList.drop 24 = dktX4_begin_1 := dk_seg dksX4_begin_0 24 rfl rfl
theorem dX4_begin_0 : decode cX4_begin 0 = .ok (.aload_n 0, 1) := dk_42 (dk_at dksX4_begin_0 0 rfl rfl)
theorem dX4_begin_1 : decode cX4_begin 1 = .ok (.iconst 0, 1) := dk_3 (dk_at dksX4_begin_0 1 rfl rfl)
theorem dX4_begin_2 : decode cX4_begin 2 = .ok (.putfield 362, 3) := dk_181 1 106 (dk_at dksX4_begin_0 2 rfl rfl)
theorem dX4_begin_5 : decode cX4_begin 5 = .ok (.iconst 0, 1) := dk_3 (dk_at dksX4_begin_0 5 rfl rfl)
theorem dX4_begin_6 : decode cX4_begin 6 = .ok (.istore_n 1, 1) := dk_60 (dk_at dksX4_begin_0 6 rfl rfl)
theorem dX4_begin_7 : decode cX4_begin 7 = .ok (.iload_n 1, 1) := dk_27 (dk_at dksX4_begin_0 7 rfl rfl)
theorem dX4_begin_8 : decode cX4_begin 8 = .ok (.aload_n 0, 1) := dk_42 (dk_at dksX4_begin_0 8 rfl rfl)
theorem dX4_begin_9 : decode cX4_begin 9 = .ok (.getfield 297, 3) := dk_180 1 41 (dk_at dksX4_begin_0 9 rfl rfl)
theorem dX4_begin_12 : decode cX4_begin 12 = .ok (.if_icmp .ge 26, 3) := dk_162 0 26 (dk_at dksX4_begin_0 12 rfl rfl)
theorem dX4_begin_15 : decode cX4_begin 15 = .ok (.aload_n 0, 1) := dk_42 (dk_at dksX4_begin_0 15 rfl rfl)
theorem dX4_begin_16 : decode cX4_begin 16 = .ok (.getfield 215, 3) := dk_180 0 215 (dk_at dksX4_begin_0 16 rfl rfl)
theorem dX4_begin_19 : decode cX4_begin 19 = .ok (.iload_n 1, 1) := dk_27 (dk_at dksX4_begin_0 19 rfl rfl)
theorem dX4_begin_20 : decode cX4_begin 20 = .ok (.aload_n 0, 1) := dk_42 (dk_at dksX4_begin_0 20 rfl rfl)
theorem dX4_begin_21 : decode cX4_begin 21 = .ok (.getfield 183, 3) := dk_180 0 183 (dk_at dksX4_begin_0 21 rfl rfl)
theorem dX4_begin_24 : decode cX4_begin 24 = .ok (.iastore, 1) := dk_79 (dk_at dksX4_begin_1 0 rfl rfl)
theorem dX4_begin_25 : decode cX4_begin 25 = .ok (.aload_n 0, 1) := dk_42 (dk_at dksX4_begin_1 1 rfl rfl)
theorem dX4_begin_26 : decode cX4_begin 26 = .ok (.getfield 217, 3) := dk_180 0 217 (dk_at dksX4_begin_1 2 rfl rfl)
theorem dX4_begin_29 : decode cX4_begin 29 = .ok (.iload_n 1, 1) := dk_27 (dk_at dksX4_begin_1 5 rfl rfl)
theorem dX4_begin_30 : decode cX4_begin 30 = .ok (.iconst 0, 1) := dk_3 (dk_at dksX4_begin_1 6 rfl rfl)
theorem dX4_begin_31 : decode cX4_begin 31 = .ok (.iastore, 1) := dk_79 (dk_at dksX4_begin_1 7 rfl rfl)
theorem dX4_begin_32 : decode cX4_begin 32 = .ok (.iinc 1 1, 3) := dk_132 1 1 (dk_at dksX4_begin_1 8 rfl rfl)
theorem dX4_begin_35 : decode cX4_begin 35 = .ok (.goto (-28), 3) := dk_167 255 228 (dk_at dksX4_begin_1 11 rfl rfl)
theorem dX4_begin_38 : decode cX4_begin 38 = .ok (.return_, 1) := dk_177 (dk_at dksX4_begin_1 14 rfl rfl)
abbrev cX4_fault : ByteArray := prog_9_method_25_code
def yX4_fault : MethodName := ⟨RX4, "fault", "(I)I"⟩
def dkwX4_fault_1 : List UInt8 := [172]
abbrev dktX4_fault_1 : List UInt8 := dkwX4_fault_1 ++ []
def dkwX4_fault_0 : List UInt8 := [27, 154, 0, 10, 42, 180, 0, 3, 167, 0, 16, 27, 4, 160, 0, 10, 42, 180, 0, 10, 167, 0, 4, 2]
abbrev dktX4_fault_0 : List UInt8 := dkwX4_fault_0 ++ dktX4_fault_1
theorem dksX4_fault_0 : cX4_fault.data.toList.drop 0 = dktX4_fault_0 := by decide +kernel
theorem dksX4_fault_1 : cX4_fault.data.toList.drop 24 = dktX4_fault_1 := dk_seg dksX4_fault_0 24 rfl rfl
theorem dX4_fault_0 : decode cX4_fault 0 = .ok (.iload_n 1, 1) := dk_27 (dk_at dksX4_fault_0 0 rfl rfl)
theorem dX4_fault_1 : decode cX4_fault 1 = .ok (.ifCond .ne 10, 3) := dk_154 0 10 (dk_at dksX4_fault_0 1 rfl rfl)
theorem dX4_fault_4 : decode cX4_fault 4 = .ok (.aload_n 0, 1) := dk_42 (dk_at dksX4_fault_0 4 rfl rfl)
theorem dX4_fault_5 : decode cX4_fault 5 = .ok (.getfield 3, 3) := dk_180 0 3 (dk_at dksX4_fault_0 5 rfl rfl)
theorem dX4_fault_8 : decode cX4_fault 8 = .ok (.goto 16, 3) := dk_167 0 16 (dk_at dksX4_fault_0 8 rfl rfl)
theorem dX4_fault_11 : decode cX4_fault 11 = .ok (.iload_n 1, 1) := dk_27 (dk_at dksX4_fault_0 11 rfl rfl)
theorem dX4_fault_12 : decode cX4_fault 12 = .ok (.iconst 1, 1) := dk_4 (dk_at dksX4_fault_0 12 rfl rfl)
theorem dX4_fault_13 : decode cX4_fault 13 = .ok (.if_icmp .ne 10, 3) := dk_160 0 10 (dk_at dksX4_fault_0 13 rfl rfl)
theorem dX4_fault_16 : decode cX4_fault 16 = .ok (.aload_n 0, 1) := dk_42 (dk_at dksX4_fault_0 16 rfl rfl)
theorem dX4_fault_17 : decode cX4_fault 17 = .ok (.getfield 10, 3) := dk_180 0 10 (dk_at dksX4_fault_0 17 rfl rfl)
theorem dX4_fault_20 : decode cX4_fault 20 = .ok (.goto 4, 3) := dk_167 0 4 (dk_at dksX4_fault_0 20 rfl rfl)
theorem dX4_fault_23 : decode cX4_fault 23 = .ok (.iconst (-1), 1) := dk_2 (dk_at dksX4_fault_0 23 rfl rfl)
theorem dX4_fault_24 : decode cX4_fault 24 = .ok (.ireturn, 1) := dk_172 (dk_at dksX4_fault_1 0 rfl rfl)
abbrev cX4_told : ByteArray := prog_9_method_27_code
def yX4_told : MethodName := ⟨RX4, "told", "(I)I"⟩
def dkwX4_told_7 : List UInt8 := [172, 42, 180, 0, 186, 172, 42, 182, 1, 80, 172, 42, 180, 1, 47, 172, 2, 172]
abbrev dktX4_told_7 : List UInt8 := dkwX4_told_7 ++ []
def dkwX4_told_6 : List UInt8 := [42, 180, 1, 38, 172, 42, 180, 1, 41, 172, 42, 180, 1, 44, 172, 42, 180, 0, 177, 172, 42, 180, 0, 180]
abbrev dktX4_told_6 : List UInt8 := dkwX4_told_6 ++ dktX4_told_7
def dkwX4_told_5 : List UInt8 := [170, 0, 0, 0, 0, 0, 0, 88, 0, 0, 0, 0, 0, 0, 0, 7, 0, 0, 0, 48, 0, 0, 0, 53, 0, 0, 0, 58, 0, 0, 0, 63, 0, 0, 0, 68, 0, 0, 0, 73, 0, 0, 0, 78, 0, 0, 0, 83]
abbrev dktX4_told_5 : List UInt8 := dkwX4_told_5 ++ dktX4_told_6
def dkwX4_told_4 : List UInt8 := [180, 0, 197, 27, 16, 30, 100, 46, 172, 27]
abbrev dktX4_told_4 : List UInt8 := dkwX4_told_4 ++ dktX4_told_5
def dkwX4_told_3 : List UInt8 := [96, 172, 27, 133, 20, 1, 76, 20, 1, 78, 42, 180, 1, 44, 133, 97, 184, 0, 52, 153, 0, 13, 42]
abbrev dktX4_told_3 : List UInt8 := dkwX4_told_3 ++ dktX4_told_4
def dkwX4_told_2 : List UInt8 := [153, 0, 26, 16, 8, 42, 180, 0, 188, 27, 16, 20, 100, 46, 104, 42, 180, 0, 191, 27, 16, 20, 100, 46]
abbrev dktX4_told_2 : List UInt8 := dkwX4_told_2 ++ dktX4_told_3
def dkwX4_told_1 : List UInt8 := [27, 16, 10, 100, 46, 172, 27, 133, 20, 1, 72, 20, 1, 74, 42, 180, 1, 41, 133, 97, 184, 0, 52]
abbrev dktX4_told_1 : List UInt8 := dkwX4_told_1 ++ dktX4_told_2
def dkwX4_told_0 : List UInt8 := [27, 133, 20, 1, 68, 20, 1, 70, 42, 180, 1, 41, 133, 97, 184, 0, 52, 153, 0, 13, 42, 180, 0, 194]
abbrev dktX4_told_0 : List UInt8 := dkwX4_told_0 ++ dktX4_told_1
theorem dksX4_told_0 : cX4_told.data.toList.drop 0 = dktX4_told_0 := by decide +kernel
theorem dksX4_told_1 : cX4_told.data.toList.drop 24 = dktX4_told_1 := dk_seg dksX4_told_0 24 rfl rfl
theorem dksX4_told_2 : cX4_told.data.toList.drop 47 = dktX4_told_2 := dk_seg dksX4_told_1 23 rfl rfl
theorem dksX4_told_3 : cX4_told.data.toList.drop 71 = dktX4_told_3 := dk_seg dksX4_told_2 24 rfl rfl
theorem dksX4_told_4 : cX4_told.data.toList.drop 94 = dktX4_told_4 := dk_seg dksX4_told_3 23 rfl rfl
theorem dksX4_told_5 : cX4_told.data.toList.drop 104 = dktX4_told_5 := dk_seg dksX4_told_4 10 rfl rfl
theorem dksX4_told_6 : cX4_told.data.toList.drop 152 = dktX4_told_6 := dk_seg dksX4_told_5 48 rfl rfl
theorem dksX4_told_7 : cX4_told.data.toList.drop 176 = dktX4_told_7 := dk_seg dksX4_told_6 24 rfl rfl
theorem dX4_told_0 : decode cX4_told 0 = .ok (.iload_n 1, 1) := dk_27 (dk_at dksX4_told_0 0 rfl rfl)
theorem dX4_told_1 : decode cX4_told 1 = .ok (.i2l, 1) := dk_133 (dk_at dksX4_told_0 1 rfl rfl)
theorem dX4_told_2 : decode cX4_told 2 = .ok (.ldc2_w 324, 3) := dk_20 1 68 (dk_at dksX4_told_0 2 rfl rfl)
theorem dX4_told_5 : decode cX4_told 5 = .ok (.ldc2_w 326, 3) := dk_20 1 70 (dk_at dksX4_told_0 5 rfl rfl)
theorem dX4_told_8 : decode cX4_told 8 = .ok (.aload_n 0, 1) := dk_42 (dk_at dksX4_told_0 8 rfl rfl)
theorem dX4_told_9 : decode cX4_told 9 = .ok (.getfield 297, 3) := dk_180 1 41 (dk_at dksX4_told_0 9 rfl rfl)
theorem dX4_told_12 : decode cX4_told 12 = .ok (.i2l, 1) := dk_133 (dk_at dksX4_told_0 12 rfl rfl)
theorem dX4_told_13 : decode cX4_told 13 = .ok (.ladd, 1) := dk_97 (dk_at dksX4_told_0 13 rfl rfl)
theorem dX4_told_14 : decode cX4_told 14 = .ok (.invokestatic 52, 3) := dk_184 0 52 (dk_at dksX4_told_0 14 rfl rfl)
theorem dX4_told_17 : decode cX4_told 17 = .ok (.ifCond .eq 13, 3) := dk_153 0 13 (dk_at dksX4_told_0 17 rfl rfl)
theorem dX4_told_20 : decode cX4_told 20 = .ok (.aload_n 0, 1) := dk_42 (dk_at dksX4_told_0 20 rfl rfl)
theorem dX4_told_21 : decode cX4_told 21 = .ok (.getfield 194, 3) := dk_180 0 194 (dk_at dksX4_told_0 21 rfl rfl)
theorem dX4_told_24 : decode cX4_told 24 = .ok (.iload_n 1, 1) := dk_27 (dk_at dksX4_told_1 0 rfl rfl)
theorem dX4_told_25 : decode cX4_told 25 = .ok (.bipush 10, 2) := dk_16 10 (dk_at dksX4_told_1 1 rfl rfl)
theorem dX4_told_27 : decode cX4_told 27 = .ok (.isub, 1) := dk_100 (dk_at dksX4_told_1 3 rfl rfl)
theorem dX4_told_28 : decode cX4_told 28 = .ok (.iaload, 1) := dk_46 (dk_at dksX4_told_1 4 rfl rfl)
theorem dX4_told_29 : decode cX4_told 29 = .ok (.ireturn, 1) := dk_172 (dk_at dksX4_told_1 5 rfl rfl)
theorem dX4_told_30 : decode cX4_told 30 = .ok (.iload_n 1, 1) := dk_27 (dk_at dksX4_told_1 6 rfl rfl)
theorem dX4_told_31 : decode cX4_told 31 = .ok (.i2l, 1) := dk_133 (dk_at dksX4_told_1 7 rfl rfl)
theorem dX4_told_32 : decode cX4_told 32 = .ok (.ldc2_w 328, 3) := dk_20 1 72 (dk_at dksX4_told_1 8 rfl rfl)
theorem dX4_told_35 : decode cX4_told 35 = .ok (.ldc2_w 330, 3) := dk_20 1 74 (dk_at dksX4_told_1 11 rfl rfl)
theorem dX4_told_38 : decode cX4_told 38 = .ok (.aload_n 0, 1) := dk_42 (dk_at dksX4_told_1 14 rfl rfl)
theorem dX4_told_39 : decode cX4_told 39 = .ok (.getfield 297, 3) := dk_180 1 41 (dk_at dksX4_told_1 15 rfl rfl)
theorem dX4_told_42 : decode cX4_told 42 = .ok (.i2l, 1) := dk_133 (dk_at dksX4_told_1 18 rfl rfl)
theorem dX4_told_43 : decode cX4_told 43 = .ok (.ladd, 1) := dk_97 (dk_at dksX4_told_1 19 rfl rfl)
theorem dX4_told_44 : decode cX4_told 44 = .ok (.invokestatic 52, 3) := dk_184 0 52 (dk_at dksX4_told_1 20 rfl rfl)
theorem dX4_told_47 : decode cX4_told 47 = .ok (.ifCond .eq 26, 3) := dk_153 0 26 (dk_at dksX4_told_2 0 rfl rfl)
theorem dX4_told_50 : decode cX4_told 50 = .ok (.bipush 8, 2) := dk_16 8 (dk_at dksX4_told_2 3 rfl rfl)
theorem dX4_told_52 : decode cX4_told 52 = .ok (.aload_n 0, 1) := dk_42 (dk_at dksX4_told_2 5 rfl rfl)
theorem dX4_told_53 : decode cX4_told 53 = .ok (.getfield 188, 3) := dk_180 0 188 (dk_at dksX4_told_2 6 rfl rfl)
theorem dX4_told_56 : decode cX4_told 56 = .ok (.iload_n 1, 1) := dk_27 (dk_at dksX4_told_2 9 rfl rfl)
theorem dX4_told_57 : decode cX4_told 57 = .ok (.bipush 20, 2) := dk_16 20 (dk_at dksX4_told_2 10 rfl rfl)
theorem dX4_told_59 : decode cX4_told 59 = .ok (.isub, 1) := dk_100 (dk_at dksX4_told_2 12 rfl rfl)
theorem dX4_told_60 : decode cX4_told 60 = .ok (.iaload, 1) := dk_46 (dk_at dksX4_told_2 13 rfl rfl)
theorem dX4_told_61 : decode cX4_told 61 = .ok (.imul, 1) := dk_104 (dk_at dksX4_told_2 14 rfl rfl)
theorem dX4_told_62 : decode cX4_told 62 = .ok (.aload_n 0, 1) := dk_42 (dk_at dksX4_told_2 15 rfl rfl)
theorem dX4_told_63 : decode cX4_told 63 = .ok (.getfield 191, 3) := dk_180 0 191 (dk_at dksX4_told_2 16 rfl rfl)
theorem dX4_told_66 : decode cX4_told 66 = .ok (.iload_n 1, 1) := dk_27 (dk_at dksX4_told_2 19 rfl rfl)
theorem dX4_told_67 : decode cX4_told 67 = .ok (.bipush 20, 2) := dk_16 20 (dk_at dksX4_told_2 20 rfl rfl)
theorem dX4_told_69 : decode cX4_told 69 = .ok (.isub, 1) := dk_100 (dk_at dksX4_told_2 22 rfl rfl)
theorem dX4_told_70 : decode cX4_told 70 = .ok (.iaload, 1) := dk_46 (dk_at dksX4_told_2 23 rfl rfl)
theorem dX4_told_71 : decode cX4_told 71 = .ok (.iadd, 1) := dk_96 (dk_at dksX4_told_3 0 rfl rfl)
theorem dX4_told_72 : decode cX4_told 72 = .ok (.ireturn, 1) := dk_172 (dk_at dksX4_told_3 1 rfl rfl)
theorem dX4_told_73 : decode cX4_told 73 = .ok (.iload_n 1, 1) := dk_27 (dk_at dksX4_told_3 2 rfl rfl)
theorem dX4_told_74 : decode cX4_told 74 = .ok (.i2l, 1) := dk_133 (dk_at dksX4_told_3 3 rfl rfl)
theorem dX4_told_75 : decode cX4_told 75 = .ok (.ldc2_w 332, 3) := dk_20 1 76 (dk_at dksX4_told_3 4 rfl rfl)
theorem dX4_told_78 : decode cX4_told 78 = .ok (.ldc2_w 334, 3) := dk_20 1 78 (dk_at dksX4_told_3 7 rfl rfl)
theorem dX4_told_81 : decode cX4_told 81 = .ok (.aload_n 0, 1) := dk_42 (dk_at dksX4_told_3 10 rfl rfl)
theorem dX4_told_82 : decode cX4_told 82 = .ok (.getfield 300, 3) := dk_180 1 44 (dk_at dksX4_told_3 11 rfl rfl)
theorem dX4_told_85 : decode cX4_told 85 = .ok (.i2l, 1) := dk_133 (dk_at dksX4_told_3 14 rfl rfl)
theorem dX4_told_86 : decode cX4_told 86 = .ok (.ladd, 1) := dk_97 (dk_at dksX4_told_3 15 rfl rfl)
theorem dX4_told_87 : decode cX4_told 87 = .ok (.invokestatic 52, 3) := dk_184 0 52 (dk_at dksX4_told_3 16 rfl rfl)
theorem dX4_told_90 : decode cX4_told 90 = .ok (.ifCond .eq 13, 3) := dk_153 0 13 (dk_at dksX4_told_3 19 rfl rfl)
theorem dX4_told_93 : decode cX4_told 93 = .ok (.aload_n 0, 1) := dk_42 (dk_at dksX4_told_3 22 rfl rfl)
theorem dX4_told_94 : decode cX4_told 94 = .ok (.getfield 197, 3) := dk_180 0 197 (dk_at dksX4_told_4 0 rfl rfl)
theorem dX4_told_97 : decode cX4_told 97 = .ok (.iload_n 1, 1) := dk_27 (dk_at dksX4_told_4 3 rfl rfl)
theorem dX4_told_98 : decode cX4_told 98 = .ok (.bipush 30, 2) := dk_16 30 (dk_at dksX4_told_4 4 rfl rfl)
theorem dX4_told_100 : decode cX4_told 100 = .ok (.isub, 1) := dk_100 (dk_at dksX4_told_4 6 rfl rfl)
theorem dX4_told_101 : decode cX4_told 101 = .ok (.iaload, 1) := dk_46 (dk_at dksX4_told_4 7 rfl rfl)
theorem dX4_told_102 : decode cX4_told 102 = .ok (.ireturn, 1) := dk_172 (dk_at dksX4_told_4 8 rfl rfl)
theorem dX4_told_103 : decode cX4_told 103 = .ok (.iload_n 1, 1) := dk_27 (dk_at dksX4_told_4 9 rfl rfl)
theorem dX4_told_104 : decode cX4_told 104 = .ok (.tableswitch 88 0 7 #[48, 53, 58, 63, 68, 73, 78, 83], 48) := by decide +kernel
theorem dX4_told_152 : decode cX4_told 152 = .ok (.aload_n 0, 1) := dk_42 (dk_at dksX4_told_6 0 rfl rfl)
theorem dX4_told_153 : decode cX4_told 153 = .ok (.getfield 294, 3) := dk_180 1 38 (dk_at dksX4_told_6 1 rfl rfl)
theorem dX4_told_156 : decode cX4_told 156 = .ok (.ireturn, 1) := dk_172 (dk_at dksX4_told_6 4 rfl rfl)
theorem dX4_told_157 : decode cX4_told 157 = .ok (.aload_n 0, 1) := dk_42 (dk_at dksX4_told_6 5 rfl rfl)
theorem dX4_told_158 : decode cX4_told 158 = .ok (.getfield 297, 3) := dk_180 1 41 (dk_at dksX4_told_6 6 rfl rfl)
theorem dX4_told_161 : decode cX4_told 161 = .ok (.ireturn, 1) := dk_172 (dk_at dksX4_told_6 9 rfl rfl)
theorem dX4_told_162 : decode cX4_told 162 = .ok (.aload_n 0, 1) := dk_42 (dk_at dksX4_told_6 10 rfl rfl)
theorem dX4_told_163 : decode cX4_told 163 = .ok (.getfield 300, 3) := dk_180 1 44 (dk_at dksX4_told_6 11 rfl rfl)
theorem dX4_told_166 : decode cX4_told 166 = .ok (.ireturn, 1) := dk_172 (dk_at dksX4_told_6 14 rfl rfl)
theorem dX4_told_167 : decode cX4_told 167 = .ok (.aload_n 0, 1) := dk_42 (dk_at dksX4_told_6 15 rfl rfl)
theorem dX4_told_168 : decode cX4_told 168 = .ok (.getfield 177, 3) := dk_180 0 177 (dk_at dksX4_told_6 16 rfl rfl)
theorem dX4_told_171 : decode cX4_told 171 = .ok (.ireturn, 1) := dk_172 (dk_at dksX4_told_6 19 rfl rfl)
theorem dX4_told_172 : decode cX4_told 172 = .ok (.aload_n 0, 1) := dk_42 (dk_at dksX4_told_6 20 rfl rfl)
theorem dX4_told_173 : decode cX4_told 173 = .ok (.getfield 180, 3) := dk_180 0 180 (dk_at dksX4_told_6 21 rfl rfl)
theorem dX4_told_176 : decode cX4_told 176 = .ok (.ireturn, 1) := dk_172 (dk_at dksX4_told_7 0 rfl rfl)
theorem dX4_told_177 : decode cX4_told 177 = .ok (.aload_n 0, 1) := dk_42 (dk_at dksX4_told_7 1 rfl rfl)
theorem dX4_told_178 : decode cX4_told 178 = .ok (.getfield 186, 3) := dk_180 0 186 (dk_at dksX4_told_7 2 rfl rfl)
theorem dX4_told_181 : decode cX4_told 181 = .ok (.ireturn, 1) := dk_172 (dk_at dksX4_told_7 5 rfl rfl)
theorem dX4_told_182 : decode cX4_told 182 = .ok (.aload_n 0, 1) := dk_42 (dk_at dksX4_told_7 6 rfl rfl)
theorem dX4_told_183 : decode cX4_told 183 = .ok (.invokevirtual 336, 3) := dk_182 1 80 (dk_at dksX4_told_7 7 rfl rfl)
theorem dX4_told_186 : decode cX4_told 186 = .ok (.ireturn, 1) := dk_172 (dk_at dksX4_told_7 10 rfl rfl)
theorem dX4_told_187 : decode cX4_told 187 = .ok (.aload_n 0, 1) := dk_42 (dk_at dksX4_told_7 11 rfl rfl)
theorem dX4_told_188 : decode cX4_told 188 = .ok (.getfield 303, 3) := dk_180 1 47 (dk_at dksX4_told_7 12 rfl rfl)
theorem dX4_told_191 : decode cX4_told 191 = .ok (.ireturn, 1) := dk_172 (dk_at dksX4_told_7 15 rfl rfl)
theorem dX4_told_192 : decode cX4_told 192 = .ok (.iconst (-1), 1) := dk_2 (dk_at dksX4_told_7 16 rfl rfl)
theorem dX4_told_193 : decode cX4_told 193 = .ok (.ireturn, 1) := dk_172 (dk_at dksX4_told_7 17 rfl rfl)
abbrev cX4_pairs : ByteArray := prog_9_method_26_code
def yX4_pairs : MethodName := ⟨RX4, "pairs", "()I"⟩
def dkwX4_pairs_0 : List UInt8 := [42, 180, 1, 44, 42, 180, 1, 44, 4, 100, 104, 5, 108, 172]
abbrev dktX4_pairs_0 : List UInt8 := dkwX4_pairs_0 ++ []
theorem dksX4_pairs_0 : cX4_pairs.data.toList.drop 0 = dktX4_pairs_0 := by decide +kernel
theorem dX4_pairs_0 : decode cX4_pairs 0 = .ok (.aload_n 0, 1) := dk_42 (dk_at dksX4_pairs_0 0 rfl rfl)
theorem dX4_pairs_1 : decode cX4_pairs 1 = .ok (.getfield 300, 3) := dk_180 1 44 (dk_at dksX4_pairs_0 1 rfl rfl)
theorem dX4_pairs_4 : decode cX4_pairs 4 = .ok (.aload_n 0, 1) := dk_42 (dk_at dksX4_pairs_0 4 rfl rfl)
theorem dX4_pairs_5 : decode cX4_pairs 5 = .ok (.getfield 300, 3) := dk_180 1 44 (dk_at dksX4_pairs_0 5 rfl rfl)
theorem dX4_pairs_8 : decode cX4_pairs 8 = .ok (.iconst 1, 1) := dk_4 (dk_at dksX4_pairs_0 8 rfl rfl)
theorem dX4_pairs_9 : decode cX4_pairs 9 = .ok (.isub, 1) := dk_100 (dk_at dksX4_pairs_0 9 rfl rfl)
theorem dX4_pairs_10 : decode cX4_pairs 10 = .ok (.imul, 1) := dk_104 (dk_at dksX4_pairs_0 10 rfl rfl)
theorem dX4_pairs_11 : decode cX4_pairs 11 = .ok (.iconst 2, 1) := dk_5 (dk_at dksX4_pairs_0 11 rfl rfl)
theorem dX4_pairs_12 : decode cX4_pairs 12 = .ok (.idiv, 1) := dk_108 (dk_at dksX4_pairs_0 12 rfl rfl)
theorem dX4_pairs_13 : decode cX4_pairs 13 = .ok (.ireturn, 1) := dk_172 (dk_at dksX4_pairs_0 13 rfl rfl)
abbrev cX4_width : ByteArray := prog_9_method_36_code
def yX4_width : MethodName := ⟨RX4, "width", "(I)I"⟩
def dkwX4_width_0 : List UInt8 := [42, 27, 182, 1, 109, 153, 0, 12, 42, 180, 0, 215, 27, 46, 167, 0, 5, 16, 254, 172]
abbrev dktX4_width_0 : List UInt8 := dkwX4_width_0 ++ []
theorem dksX4_width_0 : cX4_width.data.toList.drop 0 = dktX4_width_0 := by decide +kernel
theorem dX4_width_0 : decode cX4_width 0 = .ok (.aload_n 0, 1) := dk_42 (dk_at dksX4_width_0 0 rfl rfl)
theorem dX4_width_1 : decode cX4_width 1 = .ok (.iload_n 1, 1) := dk_27 (dk_at dksX4_width_0 1 rfl rfl)
theorem dX4_width_2 : decode cX4_width 2 = .ok (.invokevirtual 365, 3) := dk_182 1 109 (dk_at dksX4_width_0 2 rfl rfl)
theorem dX4_width_5 : decode cX4_width 5 = .ok (.ifCond .eq 12, 3) := dk_153 0 12 (dk_at dksX4_width_0 5 rfl rfl)
theorem dX4_width_8 : decode cX4_width 8 = .ok (.aload_n 0, 1) := dk_42 (dk_at dksX4_width_0 8 rfl rfl)
theorem dX4_width_9 : decode cX4_width 9 = .ok (.getfield 215, 3) := dk_180 0 215 (dk_at dksX4_width_0 9 rfl rfl)
theorem dX4_width_12 : decode cX4_width 12 = .ok (.iload_n 1, 1) := dk_27 (dk_at dksX4_width_0 12 rfl rfl)
theorem dX4_width_13 : decode cX4_width 13 = .ok (.iaload, 1) := dk_46 (dk_at dksX4_width_0 13 rfl rfl)
theorem dX4_width_14 : decode cX4_width 14 = .ok (.goto 5, 3) := dk_167 0 5 (dk_at dksX4_width_0 14 rfl rfl)
theorem dX4_width_17 : decode cX4_width 17 = .ok (.bipush (-2), 2) := dk_16 254 (dk_at dksX4_width_0 17 rfl rfl)
theorem dX4_width_19 : decode cX4_width 19 = .ok (.ireturn, 1) := dk_172 (dk_at dksX4_width_0 19 rfl rfl)
abbrev cX4_isPipe : ByteArray := prog_9_method_35_code
def yX4_isPipe : MethodName := ⟨RX4, "isPipe", "(I)Z"⟩
def dkwX4_isPipe_0 : List UInt8 := [27, 133, 9, 42, 180, 1, 41, 133, 10, 101, 184, 0, 52, 172]
abbrev dktX4_isPipe_0 : List UInt8 := dkwX4_isPipe_0 ++ []
theorem dksX4_isPipe_0 : cX4_isPipe.data.toList.drop 0 = dktX4_isPipe_0 := by decide +kernel
theorem dX4_isPipe_0 : decode cX4_isPipe 0 = .ok (.iload_n 1, 1) := dk_27 (dk_at dksX4_isPipe_0 0 rfl rfl)
theorem dX4_isPipe_1 : decode cX4_isPipe 1 = .ok (.i2l, 1) := dk_133 (dk_at dksX4_isPipe_0 1 rfl rfl)
theorem dX4_isPipe_2 : decode cX4_isPipe 2 = .ok (.lconst 0, 1) := dk_9 (dk_at dksX4_isPipe_0 2 rfl rfl)
theorem dX4_isPipe_3 : decode cX4_isPipe 3 = .ok (.aload_n 0, 1) := dk_42 (dk_at dksX4_isPipe_0 3 rfl rfl)
theorem dX4_isPipe_4 : decode cX4_isPipe 4 = .ok (.getfield 297, 3) := dk_180 1 41 (dk_at dksX4_isPipe_0 4 rfl rfl)
theorem dX4_isPipe_7 : decode cX4_isPipe 7 = .ok (.i2l, 1) := dk_133 (dk_at dksX4_isPipe_0 7 rfl rfl)
theorem dX4_isPipe_8 : decode cX4_isPipe 8 = .ok (.lconst 1, 1) := dk_10 (dk_at dksX4_isPipe_0 8 rfl rfl)
theorem dX4_isPipe_9 : decode cX4_isPipe 9 = .ok (.lsub, 1) := dk_101 (dk_at dksX4_isPipe_0 9 rfl rfl)
theorem dX4_isPipe_10 : decode cX4_isPipe 10 = .ok (.invokestatic 52, 3) := dk_184 0 52 (dk_at dksX4_isPipe_0 10 rfl rfl)
theorem dX4_isPipe_13 : decode cX4_isPipe 13 = .ok (.ireturn, 1) := dk_172 (dk_at dksX4_isPipe_0 13 rfl rfl)
abbrev cX4_learnt : ByteArray := prog_9_method_37_code
def yX4_learnt : MethodName := ⟨RX4, "learnt", "(I)I"⟩
def dkwX4_learnt_1 : List UInt8 := [160, 0, 12, 42, 180, 0, 217, 27, 46, 167, 0, 4, 2, 172]
abbrev dktX4_learnt_1 : List UInt8 := dkwX4_learnt_1 ++ []
def dkwX4_learnt_0 : List UInt8 := [42, 27, 182, 1, 109, 154, 0, 8, 16, 254, 167, 0, 25, 42, 180, 1, 47, 27, 122, 4, 126, 4]
abbrev dktX4_learnt_0 : List UInt8 := dkwX4_learnt_0 ++ dktX4_learnt_1
theorem dksX4_learnt_0 : cX4_learnt.data.toList.drop 0 = dktX4_learnt_0 := by decide +kernel
theorem dksX4_learnt_1 : cX4_learnt.data.toList.drop 22 = dktX4_learnt_1 := dk_seg dksX4_learnt_0 22 rfl rfl
theorem dX4_learnt_0 : decode cX4_learnt 0 = .ok (.aload_n 0, 1) := dk_42 (dk_at dksX4_learnt_0 0 rfl rfl)
theorem dX4_learnt_1 : decode cX4_learnt 1 = .ok (.iload_n 1, 1) := dk_27 (dk_at dksX4_learnt_0 1 rfl rfl)
theorem dX4_learnt_2 : decode cX4_learnt 2 = .ok (.invokevirtual 365, 3) := dk_182 1 109 (dk_at dksX4_learnt_0 2 rfl rfl)
theorem dX4_learnt_5 : decode cX4_learnt 5 = .ok (.ifCond .ne 8, 3) := dk_154 0 8 (dk_at dksX4_learnt_0 5 rfl rfl)
theorem dX4_learnt_8 : decode cX4_learnt 8 = .ok (.bipush (-2), 2) := dk_16 254 (dk_at dksX4_learnt_0 8 rfl rfl)
theorem dX4_learnt_10 : decode cX4_learnt 10 = .ok (.goto 25, 3) := dk_167 0 25 (dk_at dksX4_learnt_0 10 rfl rfl)
theorem dX4_learnt_13 : decode cX4_learnt 13 = .ok (.aload_n 0, 1) := dk_42 (dk_at dksX4_learnt_0 13 rfl rfl)
theorem dX4_learnt_14 : decode cX4_learnt 14 = .ok (.getfield 303, 3) := dk_180 1 47 (dk_at dksX4_learnt_0 14 rfl rfl)
theorem dX4_learnt_17 : decode cX4_learnt 17 = .ok (.iload_n 1, 1) := dk_27 (dk_at dksX4_learnt_0 17 rfl rfl)
theorem dX4_learnt_18 : decode cX4_learnt 18 = .ok (.ishr, 1) := dk_122 (dk_at dksX4_learnt_0 18 rfl rfl)
theorem dX4_learnt_19 : decode cX4_learnt 19 = .ok (.iconst 1, 1) := dk_4 (dk_at dksX4_learnt_0 19 rfl rfl)
theorem dX4_learnt_20 : decode cX4_learnt 20 = .ok (.iand, 1) := dk_126 (dk_at dksX4_learnt_0 20 rfl rfl)
theorem dX4_learnt_21 : decode cX4_learnt 21 = .ok (.iconst 1, 1) := dk_4 (dk_at dksX4_learnt_0 21 rfl rfl)
theorem dX4_learnt_22 : decode cX4_learnt 22 = .ok (.if_icmp .ne 12, 3) := dk_160 0 12 (dk_at dksX4_learnt_1 0 rfl rfl)
theorem dX4_learnt_25 : decode cX4_learnt 25 = .ok (.aload_n 0, 1) := dk_42 (dk_at dksX4_learnt_1 3 rfl rfl)
theorem dX4_learnt_26 : decode cX4_learnt 26 = .ok (.getfield 217, 3) := dk_180 0 217 (dk_at dksX4_learnt_1 4 rfl rfl)
theorem dX4_learnt_29 : decode cX4_learnt 29 = .ok (.iload_n 1, 1) := dk_27 (dk_at dksX4_learnt_1 7 rfl rfl)
theorem dX4_learnt_30 : decode cX4_learnt 30 = .ok (.iaload, 1) := dk_46 (dk_at dksX4_learnt_1 8 rfl rfl)
theorem dX4_learnt_31 : decode cX4_learnt 31 = .ok (.goto 4, 3) := dk_167 0 4 (dk_at dksX4_learnt_1 9 rfl rfl)
theorem dX4_learnt_34 : decode cX4_learnt 34 = .ok (.iconst (-1), 1) := dk_2 (dk_at dksX4_learnt_1 12 rfl rfl)
theorem dX4_learnt_35 : decode cX4_learnt 35 = .ok (.ireturn, 1) := dk_172 (dk_at dksX4_learnt_1 13 rfl rfl)
abbrev cX4_set : ByteArray := prog_9_method_38_code
def yX4_set : MethodName := ⟨RX4, "set", "(II)I"⟩
def dkwX4_set_1 : List UInt8 := [180, 0, 215, 27, 46, 62, 42, 180, 0, 215, 27, 28, 79, 29, 172]
abbrev dktX4_set_1 : List UInt8 := dkwX4_set_1 ++ []
def dkwX4_set_0 : List UInt8 := [42, 27, 182, 1, 109, 153, 0, 15, 28, 133, 9, 20, 1, 70, 184, 0, 52, 154, 0, 6, 16, 254, 172, 42]
abbrev dktX4_set_0 : List UInt8 := dkwX4_set_0 ++ dktX4_set_1
theorem dksX4_set_0 : cX4_set.data.toList.drop 0 = dktX4_set_0 := by decide +kernel
theorem dksX4_set_1 : cX4_set.data.toList.drop 24 = dktX4_set_1 := dk_seg dksX4_set_0 24 rfl rfl
theorem dX4_set_0 : decode cX4_set 0 = .ok (.aload_n 0, 1) := dk_42 (dk_at dksX4_set_0 0 rfl rfl)
theorem dX4_set_1 : decode cX4_set 1 = .ok (.iload_n 1, 1) := dk_27 (dk_at dksX4_set_0 1 rfl rfl)
theorem dX4_set_2 : decode cX4_set 2 = .ok (.invokevirtual 365, 3) := dk_182 1 109 (dk_at dksX4_set_0 2 rfl rfl)
theorem dX4_set_5 : decode cX4_set 5 = .ok (.ifCond .eq 15, 3) := dk_153 0 15 (dk_at dksX4_set_0 5 rfl rfl)
theorem dX4_set_8 : decode cX4_set 8 = .ok (.iload_n 2, 1) := dk_28 (dk_at dksX4_set_0 8 rfl rfl)
theorem dX4_set_9 : decode cX4_set 9 = .ok (.i2l, 1) := dk_133 (dk_at dksX4_set_0 9 rfl rfl)
theorem dX4_set_10 : decode cX4_set 10 = .ok (.lconst 0, 1) := dk_9 (dk_at dksX4_set_0 10 rfl rfl)
theorem dX4_set_11 : decode cX4_set 11 = .ok (.ldc2_w 326, 3) := dk_20 1 70 (dk_at dksX4_set_0 11 rfl rfl)
theorem dX4_set_14 : decode cX4_set 14 = .ok (.invokestatic 52, 3) := dk_184 0 52 (dk_at dksX4_set_0 14 rfl rfl)
theorem dX4_set_17 : decode cX4_set 17 = .ok (.ifCond .ne 6, 3) := dk_154 0 6 (dk_at dksX4_set_0 17 rfl rfl)
theorem dX4_set_20 : decode cX4_set 20 = .ok (.bipush (-2), 2) := dk_16 254 (dk_at dksX4_set_0 20 rfl rfl)
theorem dX4_set_22 : decode cX4_set 22 = .ok (.ireturn, 1) := dk_172 (dk_at dksX4_set_0 22 rfl rfl)
theorem dX4_set_23 : decode cX4_set 23 = .ok (.aload_n 0, 1) := dk_42 (dk_at dksX4_set_0 23 rfl rfl)
theorem dX4_set_24 : decode cX4_set 24 = .ok (.getfield 215, 3) := dk_180 0 215 (dk_at dksX4_set_1 0 rfl rfl)
theorem dX4_set_27 : decode cX4_set 27 = .ok (.iload_n 1, 1) := dk_27 (dk_at dksX4_set_1 3 rfl rfl)
theorem dX4_set_28 : decode cX4_set 28 = .ok (.iaload, 1) := dk_46 (dk_at dksX4_set_1 4 rfl rfl)
theorem dX4_set_29 : decode cX4_set 29 = .ok (.istore_n 3, 1) := dk_62 (dk_at dksX4_set_1 5 rfl rfl)
theorem dX4_set_30 : decode cX4_set 30 = .ok (.aload_n 0, 1) := dk_42 (dk_at dksX4_set_1 6 rfl rfl)
theorem dX4_set_31 : decode cX4_set 31 = .ok (.getfield 215, 3) := dk_180 0 215 (dk_at dksX4_set_1 7 rfl rfl)
theorem dX4_set_34 : decode cX4_set 34 = .ok (.iload_n 1, 1) := dk_27 (dk_at dksX4_set_1 10 rfl rfl)
theorem dX4_set_35 : decode cX4_set 35 = .ok (.iload_n 2, 1) := dk_28 (dk_at dksX4_set_1 11 rfl rfl)
theorem dX4_set_36 : decode cX4_set 36 = .ok (.iastore, 1) := dk_79 (dk_at dksX4_set_1 12 rfl rfl)
theorem dX4_set_37 : decode cX4_set 37 = .ok (.iload_n 3, 1) := dk_29 (dk_at dksX4_set_1 13 rfl rfl)
theorem dX4_set_38 : decode cX4_set 38 = .ok (.ireturn, 1) := dk_172 (dk_at dksX4_set_1 14 rfl rfl)
abbrev cX4_law : ByteArray := prog_9_method_39_code
def yX4_law : MethodName := ⟨RX4, "law", "(II)I"⟩
def dkwX4_law_1 : List UInt8 := [16, 254, 172, 42, 27, 181, 0, 177, 42, 28, 181, 0, 180, 4, 172]
abbrev dktX4_law_1 : List UInt8 := dkwX4_law_1 ++ []
def dkwX4_law_0 : List UInt8 := [27, 133, 9, 20, 1, 72, 184, 0, 52, 153, 0, 15, 28, 133, 9, 20, 1, 72, 184, 0, 52, 154, 0, 6]
abbrev dktX4_law_0 : List UInt8 := dkwX4_law_0 ++ dktX4_law_1
theorem dksX4_law_0 : cX4_law.data.toList.drop 0 = dktX4_law_0 := by decide +kernel
theorem dksX4_law_1 : cX4_law.data.toList.drop 24 = dktX4_law_1 := dk_seg dksX4_law_0 24 rfl rfl
theorem dX4_law_0 : decode cX4_law 0 = .ok (.iload_n 1, 1) := dk_27 (dk_at dksX4_law_0 0 rfl rfl)
theorem dX4_law_1 : decode cX4_law 1 = .ok (.i2l, 1) := dk_133 (dk_at dksX4_law_0 1 rfl rfl)
theorem dX4_law_2 : decode cX4_law 2 = .ok (.lconst 0, 1) := dk_9 (dk_at dksX4_law_0 2 rfl rfl)
theorem dX4_law_3 : decode cX4_law 3 = .ok (.ldc2_w 328, 3) := dk_20 1 72 (dk_at dksX4_law_0 3 rfl rfl)
theorem dX4_law_6 : decode cX4_law 6 = .ok (.invokestatic 52, 3) := dk_184 0 52 (dk_at dksX4_law_0 6 rfl rfl)
theorem dX4_law_9 : decode cX4_law 9 = .ok (.ifCond .eq 15, 3) := dk_153 0 15 (dk_at dksX4_law_0 9 rfl rfl)
theorem dX4_law_12 : decode cX4_law 12 = .ok (.iload_n 2, 1) := dk_28 (dk_at dksX4_law_0 12 rfl rfl)
theorem dX4_law_13 : decode cX4_law 13 = .ok (.i2l, 1) := dk_133 (dk_at dksX4_law_0 13 rfl rfl)
theorem dX4_law_14 : decode cX4_law 14 = .ok (.lconst 0, 1) := dk_9 (dk_at dksX4_law_0 14 rfl rfl)
theorem dX4_law_15 : decode cX4_law 15 = .ok (.ldc2_w 328, 3) := dk_20 1 72 (dk_at dksX4_law_0 15 rfl rfl)
theorem dX4_law_18 : decode cX4_law 18 = .ok (.invokestatic 52, 3) := dk_184 0 52 (dk_at dksX4_law_0 18 rfl rfl)
theorem dX4_law_21 : decode cX4_law 21 = .ok (.ifCond .ne 6, 3) := dk_154 0 6 (dk_at dksX4_law_0 21 rfl rfl)
theorem dX4_law_24 : decode cX4_law 24 = .ok (.bipush (-2), 2) := dk_16 254 (dk_at dksX4_law_1 0 rfl rfl)
theorem dX4_law_26 : decode cX4_law 26 = .ok (.ireturn, 1) := dk_172 (dk_at dksX4_law_1 2 rfl rfl)
theorem dX4_law_27 : decode cX4_law 27 = .ok (.aload_n 0, 1) := dk_42 (dk_at dksX4_law_1 3 rfl rfl)
theorem dX4_law_28 : decode cX4_law 28 = .ok (.iload_n 1, 1) := dk_27 (dk_at dksX4_law_1 4 rfl rfl)
theorem dX4_law_29 : decode cX4_law 29 = .ok (.putfield 177, 3) := dk_181 0 177 (dk_at dksX4_law_1 5 rfl rfl)
theorem dX4_law_32 : decode cX4_law 32 = .ok (.aload_n 0, 1) := dk_42 (dk_at dksX4_law_1 8 rfl rfl)
theorem dX4_law_33 : decode cX4_law 33 = .ok (.iload_n 2, 1) := dk_28 (dk_at dksX4_law_1 9 rfl rfl)
theorem dX4_law_34 : decode cX4_law 34 = .ok (.putfield 180, 3) := dk_181 0 180 (dk_at dksX4_law_1 10 rfl rfl)
theorem dX4_law_37 : decode cX4_law 37 = .ok (.iconst 1, 1) := dk_4 (dk_at dksX4_law_1 13 rfl rfl)
theorem dX4_law_38 : decode cX4_law 38 = .ok (.ireturn, 1) := dk_172 (dk_at dksX4_law_1 14 rfl rfl)
abbrev cX4_flow : ByteArray := prog_9_method_41_code
def yX4_flow : MethodName := ⟨RX4, "flow", "(I)J"⟩
def dkwX4_flow_2 : List UInt8 := [184, 1, 118, 109, 173]
abbrev dktX4_flow_2 : List UInt8 := dkwX4_flow_2 ++ []
def dkwX4_flow_1 : List UInt8 := [180, 1, 106, 182, 1, 114, 42, 180, 0, 212, 27, 47, 42, 180, 0, 212, 27, 47, 42, 180, 1, 91]
abbrev dktX4_flow_1 : List UInt8 := dkwX4_flow_1 ++ dktX4_flow_2
def dkwX4_flow_0 : List UInt8 := [42, 27, 182, 1, 109, 154, 0, 7, 20, 1, 112, 173, 42, 42, 180, 0, 215, 42, 180, 0, 217, 42]
abbrev dktX4_flow_0 : List UInt8 := dkwX4_flow_0 ++ dktX4_flow_1
theorem dksX4_flow_0 : cX4_flow.data.toList.drop 0 = dktX4_flow_0 := by decide +kernel
theorem dksX4_flow_1 : cX4_flow.data.toList.drop 22 = dktX4_flow_1 := dk_seg dksX4_flow_0 22 rfl rfl
theorem dksX4_flow_2 : cX4_flow.data.toList.drop 44 = dktX4_flow_2 := dk_seg dksX4_flow_1 22 rfl rfl
theorem dX4_flow_0 : decode cX4_flow 0 = .ok (.aload_n 0, 1) := dk_42 (dk_at dksX4_flow_0 0 rfl rfl)
theorem dX4_flow_1 : decode cX4_flow 1 = .ok (.iload_n 1, 1) := dk_27 (dk_at dksX4_flow_0 1 rfl rfl)
theorem dX4_flow_2 : decode cX4_flow 2 = .ok (.invokevirtual 365, 3) := dk_182 1 109 (dk_at dksX4_flow_0 2 rfl rfl)
theorem dX4_flow_5 : decode cX4_flow 5 = .ok (.ifCond .ne 7, 3) := dk_154 0 7 (dk_at dksX4_flow_0 5 rfl rfl)
theorem dX4_flow_8 : decode cX4_flow 8 = .ok (.ldc2_w 368, 3) := dk_20 1 112 (dk_at dksX4_flow_0 8 rfl rfl)
theorem dX4_flow_11 : decode cX4_flow 11 = .ok (.lreturn, 1) := dk_173 (dk_at dksX4_flow_0 11 rfl rfl)
theorem dX4_flow_12 : decode cX4_flow 12 = .ok (.aload_n 0, 1) := dk_42 (dk_at dksX4_flow_0 12 rfl rfl)
theorem dX4_flow_13 : decode cX4_flow 13 = .ok (.aload_n 0, 1) := dk_42 (dk_at dksX4_flow_0 13 rfl rfl)
theorem dX4_flow_14 : decode cX4_flow 14 = .ok (.getfield 215, 3) := dk_180 0 215 (dk_at dksX4_flow_0 14 rfl rfl)
theorem dX4_flow_17 : decode cX4_flow 17 = .ok (.aload_n 0, 1) := dk_42 (dk_at dksX4_flow_0 17 rfl rfl)
theorem dX4_flow_18 : decode cX4_flow 18 = .ok (.getfield 217, 3) := dk_180 0 217 (dk_at dksX4_flow_0 18 rfl rfl)
theorem dX4_flow_21 : decode cX4_flow 21 = .ok (.aload_n 0, 1) := dk_42 (dk_at dksX4_flow_0 21 rfl rfl)
theorem dX4_flow_22 : decode cX4_flow 22 = .ok (.getfield 362, 3) := dk_180 1 106 (dk_at dksX4_flow_1 0 rfl rfl)
theorem dX4_flow_25 : decode cX4_flow 25 = .ok (.invokevirtual 370, 3) := dk_182 1 114 (dk_at dksX4_flow_1 3 rfl rfl)
theorem dX4_flow_28 : decode cX4_flow 28 = .ok (.aload_n 0, 1) := dk_42 (dk_at dksX4_flow_1 6 rfl rfl)
theorem dX4_flow_29 : decode cX4_flow 29 = .ok (.getfield 212, 3) := dk_180 0 212 (dk_at dksX4_flow_1 7 rfl rfl)
theorem dX4_flow_32 : decode cX4_flow 32 = .ok (.iload_n 1, 1) := dk_27 (dk_at dksX4_flow_1 10 rfl rfl)
theorem dX4_flow_33 : decode cX4_flow 33 = .ok (.laload, 1) := dk_47 (dk_at dksX4_flow_1 11 rfl rfl)
theorem dX4_flow_34 : decode cX4_flow 34 = .ok (.aload_n 0, 1) := dk_42 (dk_at dksX4_flow_1 12 rfl rfl)
theorem dX4_flow_35 : decode cX4_flow 35 = .ok (.getfield 212, 3) := dk_180 0 212 (dk_at dksX4_flow_1 13 rfl rfl)
theorem dX4_flow_38 : decode cX4_flow 38 = .ok (.iload_n 1, 1) := dk_27 (dk_at dksX4_flow_1 16 rfl rfl)
theorem dX4_flow_39 : decode cX4_flow 39 = .ok (.laload, 1) := dk_47 (dk_at dksX4_flow_1 17 rfl rfl)
theorem dX4_flow_40 : decode cX4_flow 40 = .ok (.aload_n 0, 1) := dk_42 (dk_at dksX4_flow_1 18 rfl rfl)
theorem dX4_flow_41 : decode cX4_flow 41 = .ok (.getfield 347, 3) := dk_180 1 91 (dk_at dksX4_flow_1 19 rfl rfl)
theorem dX4_flow_44 : decode cX4_flow 44 = .ok (.invokestatic 374, 3) := dk_184 1 118 (dk_at dksX4_flow_2 0 rfl rfl)
theorem dX4_flow_47 : decode cX4_flow 47 = .ok (.ldiv, 1) := dk_109 (dk_at dksX4_flow_2 3 rfl rfl)
theorem dX4_flow_48 : decode cX4_flow 48 = .ok (.lreturn, 1) := dk_173 (dk_at dksX4_flow_2 4 rfl rfl)
abbrev cX4_findFlows : ByteArray := prog_9_method_32_code
def yX4_findFlows : MethodName := ⟨RX4, "findFlows", "([I[II)V"⟩
def dkwX4_findFlows_11 : List UInt8 := [100, 21, 8, 126, 54, 10, 167, 255, 220, 177]
abbrev dktX4_findFlows_11 : List UInt8 := dkwX4_findFlows_11 ++ []
def dkwX4_findFlows_10 : List UInt8 := [180, 0, 200, 21, 10, 46, 21, 9, 160, 0, 13, 42, 21, 10, 21, 6, 21, 7, 182, 1, 102, 21, 10, 4]
abbrev dktX4_findFlows_10 : List UInt8 := dkwX4_findFlows_10 ++ dktX4_findFlows_11
def dkwX4_findFlows_9 : List UInt8 := [79, 132, 10, 1, 167, 255, 181, 42, 9, 181, 1, 91, 21, 8, 54, 10, 21, 10, 158, 0, 37, 42]
abbrev dktX4_findFlows_9 : List UInt8 := dkwX4_findFlows_9 ++ dktX4_findFlows_10
def dkwX4_findFlows_8 : List UInt8 := [21, 10, 46, 21, 11, 153, 0, 8, 16, 12, 167, 0, 5, 16, 24, 104, 42, 180, 0, 194, 21, 10, 46, 108]
abbrev dktX4_findFlows_8 : List UInt8 := dkwX4_findFlows_8 ++ dktX4_findFlows_9
def dkwX4_findFlows_7 : List UInt8 := [21, 10, 46, 42, 180, 0, 186, 162, 0, 7, 4, 167, 0, 4, 3, 54, 11, 42, 180, 0, 209, 21, 10, 43]
abbrev dktX4_findFlows_7 : List UInt8 := dkwX4_findFlows_7 ++ dktX4_findFlows_8
def dkwX4_findFlows_6 : List UInt8 := [21, 10, 42, 180, 1, 41, 162, 0, 72, 42, 180, 1, 47, 21, 10, 122, 4, 126, 4, 160, 0, 18, 44]
abbrev dktX4_findFlows_6 : List UInt8 := dkwX4_findFlows_6 ++ dktX4_findFlows_7
def dkwX4_findFlows_5 : List UInt8 := [21, 8, 21, 6, 182, 1, 99, 54, 9, 21, 9, 21, 7, 122, 4, 126, 154, 0, 4, 177, 3, 54, 10]
abbrev dktX4_findFlows_5 : List UInt8 := dkwX4_findFlows_5 ++ dktX4_findFlows_6
def dkwX4_findFlows_4 : List UInt8 := [180, 0, 197, 21, 5, 4, 96, 21, 4, 96, 46, 54, 7, 43, 42, 180, 1, 41, 184, 1, 95, 54, 8, 42]
abbrev dktX4_findFlows_4 : List UInt8 := dkwX4_findFlows_4 ++ dktX4_findFlows_5
def dkwX4_findFlows_3 : List UInt8 := [100, 21, 5, 100, 100, 54, 4, 132, 5, 1, 167, 255, 225, 42, 180, 0, 197, 21, 5, 46, 54, 6, 42]
abbrev dktX4_findFlows_3 : List UInt8 := dkwX4_findFlows_3 ++ dktX4_findFlows_4
def dkwX4_findFlows_2 : List UInt8 := [3, 54, 5, 21, 4, 42, 180, 1, 44, 4, 100, 21, 5, 100, 161, 0, 23, 21, 4, 42, 180, 1, 44, 4]
abbrev dktX4_findFlows_2 : List UInt8 := dkwX4_findFlows_2 ++ dktX4_findFlows_3
def dkwX4_findFlows_1 : List UInt8 := [80, 132, 4, 1, 167, 255, 236, 42, 180, 1, 44, 5, 162, 0, 4, 177, 29, 42, 182, 1, 80, 112, 54, 4]
abbrev dktX4_findFlows_1 : List UInt8 := dkwX4_findFlows_1 ++ dktX4_findFlows_2
def dkwX4_findFlows_0 : List UInt8 := [42, 10, 181, 1, 91, 3, 54, 4, 21, 4, 42, 180, 1, 41, 162, 0, 17, 42, 180, 0, 212, 21, 4, 9]
abbrev dktX4_findFlows_0 : List UInt8 := dkwX4_findFlows_0 ++ dktX4_findFlows_1
theorem dksX4_findFlows_0 : cX4_findFlows.data.toList.drop 0 = dktX4_findFlows_0 := by decide +kernel
theorem dksX4_findFlows_1 : cX4_findFlows.data.toList.drop 24 = dktX4_findFlows_1 := dk_seg dksX4_findFlows_0 24 rfl rfl
theorem dksX4_findFlows_2 : cX4_findFlows.data.toList.drop 48 = dktX4_findFlows_2 := dk_seg dksX4_findFlows_1 24 rfl rfl
theorem dksX4_findFlows_3 : cX4_findFlows.data.toList.drop 72 = dktX4_findFlows_3 := dk_seg dksX4_findFlows_2 24 rfl rfl
theorem dksX4_findFlows_4 : cX4_findFlows.data.toList.drop 95 = dktX4_findFlows_4 := dk_seg dksX4_findFlows_3 23 rfl rfl
theorem dksX4_findFlows_5 : cX4_findFlows.data.toList.drop 119 = dktX4_findFlows_5 := dk_seg dksX4_findFlows_4 24 rfl rfl
theorem dksX4_findFlows_6 : cX4_findFlows.data.toList.drop 142 = dktX4_findFlows_6 := dk_seg dksX4_findFlows_5 23 rfl rfl
theorem dksX4_findFlows_7 : cX4_findFlows.data.toList.drop 165 = dktX4_findFlows_7 := dk_seg dksX4_findFlows_6 23 rfl rfl
theorem dksX4_findFlows_8 : cX4_findFlows.data.toList.drop 189 = dktX4_findFlows_8 := dk_seg dksX4_findFlows_7 24 rfl rfl
theorem dksX4_findFlows_9 : cX4_findFlows.data.toList.drop 213 = dktX4_findFlows_9 := dk_seg dksX4_findFlows_8 24 rfl rfl
theorem dksX4_findFlows_10 : cX4_findFlows.data.toList.drop 235 = dktX4_findFlows_10 := dk_seg dksX4_findFlows_9 22 rfl rfl
theorem dksX4_findFlows_11 : cX4_findFlows.data.toList.drop 259 = dktX4_findFlows_11 := dk_seg dksX4_findFlows_10 24 rfl rfl
theorem dX4_findFlows_0 : decode cX4_findFlows 0 = .ok (.aload_n 0, 1) := dk_42 (dk_at dksX4_findFlows_0 0 rfl rfl)
theorem dX4_findFlows_1 : decode cX4_findFlows 1 = .ok (.lconst 1, 1) := dk_10 (dk_at dksX4_findFlows_0 1 rfl rfl)
theorem dX4_findFlows_2 : decode cX4_findFlows 2 = .ok (.putfield 347, 3) := dk_181 1 91 (dk_at dksX4_findFlows_0 2 rfl rfl)
theorem dX4_findFlows_5 : decode cX4_findFlows 5 = .ok (.iconst 0, 1) := dk_3 (dk_at dksX4_findFlows_0 5 rfl rfl)
theorem dX4_findFlows_6 : decode cX4_findFlows 6 = .ok (.istore 4, 2) := dk_54 4 (dk_at dksX4_findFlows_0 6 rfl rfl)
theorem dX4_findFlows_8 : decode cX4_findFlows 8 = .ok (.iload 4, 2) := dk_21 4 (dk_at dksX4_findFlows_0 8 rfl rfl)
theorem dX4_findFlows_10 : decode cX4_findFlows 10 = .ok (.aload_n 0, 1) := dk_42 (dk_at dksX4_findFlows_0 10 rfl rfl)
theorem dX4_findFlows_11 : decode cX4_findFlows 11 = .ok (.getfield 297, 3) := dk_180 1 41 (dk_at dksX4_findFlows_0 11 rfl rfl)
theorem dX4_findFlows_14 : decode cX4_findFlows 14 = .ok (.if_icmp .ge 17, 3) := dk_162 0 17 (dk_at dksX4_findFlows_0 14 rfl rfl)
theorem dX4_findFlows_17 : decode cX4_findFlows 17 = .ok (.aload_n 0, 1) := dk_42 (dk_at dksX4_findFlows_0 17 rfl rfl)
theorem dX4_findFlows_18 : decode cX4_findFlows 18 = .ok (.getfield 212, 3) := dk_180 0 212 (dk_at dksX4_findFlows_0 18 rfl rfl)
theorem dX4_findFlows_21 : decode cX4_findFlows 21 = .ok (.iload 4, 2) := dk_21 4 (dk_at dksX4_findFlows_0 21 rfl rfl)
theorem dX4_findFlows_23 : decode cX4_findFlows 23 = .ok (.lconst 0, 1) := dk_9 (dk_at dksX4_findFlows_0 23 rfl rfl)
theorem dX4_findFlows_24 : decode cX4_findFlows 24 = .ok (.lastore, 1) := dk_80 (dk_at dksX4_findFlows_1 0 rfl rfl)
theorem dX4_findFlows_25 : decode cX4_findFlows 25 = .ok (.iinc 4 1, 3) := dk_132 4 1 (dk_at dksX4_findFlows_1 1 rfl rfl)
theorem dX4_findFlows_28 : decode cX4_findFlows 28 = .ok (.goto (-20), 3) := dk_167 255 236 (dk_at dksX4_findFlows_1 4 rfl rfl)
theorem dX4_findFlows_31 : decode cX4_findFlows 31 = .ok (.aload_n 0, 1) := dk_42 (dk_at dksX4_findFlows_1 7 rfl rfl)
theorem dX4_findFlows_32 : decode cX4_findFlows 32 = .ok (.getfield 300, 3) := dk_180 1 44 (dk_at dksX4_findFlows_1 8 rfl rfl)
theorem dX4_findFlows_35 : decode cX4_findFlows 35 = .ok (.iconst 2, 1) := dk_5 (dk_at dksX4_findFlows_1 11 rfl rfl)
theorem dX4_findFlows_36 : decode cX4_findFlows 36 = .ok (.if_icmp .ge 4, 3) := dk_162 0 4 (dk_at dksX4_findFlows_1 12 rfl rfl)
theorem dX4_findFlows_39 : decode cX4_findFlows 39 = .ok (.return_, 1) := dk_177 (dk_at dksX4_findFlows_1 15 rfl rfl)
theorem dX4_findFlows_40 : decode cX4_findFlows 40 = .ok (.iload_n 3, 1) := dk_29 (dk_at dksX4_findFlows_1 16 rfl rfl)
theorem dX4_findFlows_41 : decode cX4_findFlows 41 = .ok (.aload_n 0, 1) := dk_42 (dk_at dksX4_findFlows_1 17 rfl rfl)
theorem dX4_findFlows_42 : decode cX4_findFlows 42 = .ok (.invokevirtual 336, 3) := dk_182 1 80 (dk_at dksX4_findFlows_1 18 rfl rfl)
theorem dX4_findFlows_45 : decode cX4_findFlows 45 = .ok (.irem, 1) := dk_112 (dk_at dksX4_findFlows_1 21 rfl rfl)
theorem dX4_findFlows_46 : decode cX4_findFlows 46 = .ok (.istore 4, 2) := dk_54 4 (dk_at dksX4_findFlows_1 22 rfl rfl)
theorem dX4_findFlows_48 : decode cX4_findFlows 48 = .ok (.iconst 0, 1) := dk_3 (dk_at dksX4_findFlows_2 0 rfl rfl)
theorem dX4_findFlows_49 : decode cX4_findFlows 49 = .ok (.istore 5, 2) := dk_54 5 (dk_at dksX4_findFlows_2 1 rfl rfl)
theorem dX4_findFlows_51 : decode cX4_findFlows 51 = .ok (.iload 4, 2) := dk_21 4 (dk_at dksX4_findFlows_2 3 rfl rfl)
theorem dX4_findFlows_53 : decode cX4_findFlows 53 = .ok (.aload_n 0, 1) := dk_42 (dk_at dksX4_findFlows_2 5 rfl rfl)
theorem dX4_findFlows_54 : decode cX4_findFlows 54 = .ok (.getfield 300, 3) := dk_180 1 44 (dk_at dksX4_findFlows_2 6 rfl rfl)
theorem dX4_findFlows_57 : decode cX4_findFlows 57 = .ok (.iconst 1, 1) := dk_4 (dk_at dksX4_findFlows_2 9 rfl rfl)
theorem dX4_findFlows_58 : decode cX4_findFlows 58 = .ok (.isub, 1) := dk_100 (dk_at dksX4_findFlows_2 10 rfl rfl)
theorem dX4_findFlows_59 : decode cX4_findFlows 59 = .ok (.iload 5, 2) := dk_21 5 (dk_at dksX4_findFlows_2 11 rfl rfl)
theorem dX4_findFlows_61 : decode cX4_findFlows 61 = .ok (.isub, 1) := dk_100 (dk_at dksX4_findFlows_2 13 rfl rfl)
theorem dX4_findFlows_62 : decode cX4_findFlows 62 = .ok (.if_icmp .lt 23, 3) := dk_161 0 23 (dk_at dksX4_findFlows_2 14 rfl rfl)
theorem dX4_findFlows_65 : decode cX4_findFlows 65 = .ok (.iload 4, 2) := dk_21 4 (dk_at dksX4_findFlows_2 17 rfl rfl)
theorem dX4_findFlows_67 : decode cX4_findFlows 67 = .ok (.aload_n 0, 1) := dk_42 (dk_at dksX4_findFlows_2 19 rfl rfl)
theorem dX4_findFlows_68 : decode cX4_findFlows 68 = .ok (.getfield 300, 3) := dk_180 1 44 (dk_at dksX4_findFlows_2 20 rfl rfl)
theorem dX4_findFlows_71 : decode cX4_findFlows 71 = .ok (.iconst 1, 1) := dk_4 (dk_at dksX4_findFlows_2 23 rfl rfl)
theorem dX4_findFlows_72 : decode cX4_findFlows 72 = .ok (.isub, 1) := dk_100 (dk_at dksX4_findFlows_3 0 rfl rfl)
theorem dX4_findFlows_73 : decode cX4_findFlows 73 = .ok (.iload 5, 2) := dk_21 5 (dk_at dksX4_findFlows_3 1 rfl rfl)
theorem dX4_findFlows_75 : decode cX4_findFlows 75 = .ok (.isub, 1) := dk_100 (dk_at dksX4_findFlows_3 3 rfl rfl)
theorem dX4_findFlows_76 : decode cX4_findFlows 76 = .ok (.isub, 1) := dk_100 (dk_at dksX4_findFlows_3 4 rfl rfl)
theorem dX4_findFlows_77 : decode cX4_findFlows 77 = .ok (.istore 4, 2) := dk_54 4 (dk_at dksX4_findFlows_3 5 rfl rfl)
theorem dX4_findFlows_79 : decode cX4_findFlows 79 = .ok (.iinc 5 1, 3) := dk_132 5 1 (dk_at dksX4_findFlows_3 7 rfl rfl)
theorem dX4_findFlows_82 : decode cX4_findFlows 82 = .ok (.goto (-31), 3) := dk_167 255 225 (dk_at dksX4_findFlows_3 10 rfl rfl)
theorem dX4_findFlows_85 : decode cX4_findFlows 85 = .ok (.aload_n 0, 1) := dk_42 (dk_at dksX4_findFlows_3 13 rfl rfl)
theorem dX4_findFlows_86 : decode cX4_findFlows 86 = .ok (.getfield 197, 3) := dk_180 0 197 (dk_at dksX4_findFlows_3 14 rfl rfl)
theorem dX4_findFlows_89 : decode cX4_findFlows 89 = .ok (.iload 5, 2) := dk_21 5 (dk_at dksX4_findFlows_3 17 rfl rfl)
theorem dX4_findFlows_91 : decode cX4_findFlows 91 = .ok (.iaload, 1) := dk_46 (dk_at dksX4_findFlows_3 19 rfl rfl)
theorem dX4_findFlows_92 : decode cX4_findFlows 92 = .ok (.istore 6, 2) := dk_54 6 (dk_at dksX4_findFlows_3 20 rfl rfl)
theorem dX4_findFlows_94 : decode cX4_findFlows 94 = .ok (.aload_n 0, 1) := dk_42 (dk_at dksX4_findFlows_3 22 rfl rfl)
theorem dX4_findFlows_95 : decode cX4_findFlows 95 = .ok (.getfield 197, 3) := dk_180 0 197 (dk_at dksX4_findFlows_4 0 rfl rfl)
theorem dX4_findFlows_98 : decode cX4_findFlows 98 = .ok (.iload 5, 2) := dk_21 5 (dk_at dksX4_findFlows_4 3 rfl rfl)
theorem dX4_findFlows_100 : decode cX4_findFlows 100 = .ok (.iconst 1, 1) := dk_4 (dk_at dksX4_findFlows_4 5 rfl rfl)
theorem dX4_findFlows_101 : decode cX4_findFlows 101 = .ok (.iadd, 1) := dk_96 (dk_at dksX4_findFlows_4 6 rfl rfl)
theorem dX4_findFlows_102 : decode cX4_findFlows 102 = .ok (.iload 4, 2) := dk_21 4 (dk_at dksX4_findFlows_4 7 rfl rfl)
theorem dX4_findFlows_104 : decode cX4_findFlows 104 = .ok (.iadd, 1) := dk_96 (dk_at dksX4_findFlows_4 9 rfl rfl)
theorem dX4_findFlows_105 : decode cX4_findFlows 105 = .ok (.iaload, 1) := dk_46 (dk_at dksX4_findFlows_4 10 rfl rfl)
theorem dX4_findFlows_106 : decode cX4_findFlows 106 = .ok (.istore 7, 2) := dk_54 7 (dk_at dksX4_findFlows_4 11 rfl rfl)
theorem dX4_findFlows_108 : decode cX4_findFlows 108 = .ok (.aload_n 1, 1) := dk_43 (dk_at dksX4_findFlows_4 13 rfl rfl)
theorem dX4_findFlows_109 : decode cX4_findFlows 109 = .ok (.aload_n 0, 1) := dk_42 (dk_at dksX4_findFlows_4 14 rfl rfl)
theorem dX4_findFlows_110 : decode cX4_findFlows 110 = .ok (.getfield 297, 3) := dk_180 1 41 (dk_at dksX4_findFlows_4 15 rfl rfl)
theorem dX4_findFlows_113 : decode cX4_findFlows 113 = .ok (.invokestatic 351, 3) := dk_184 1 95 (dk_at dksX4_findFlows_4 18 rfl rfl)
theorem dX4_findFlows_116 : decode cX4_findFlows 116 = .ok (.istore 8, 2) := dk_54 8 (dk_at dksX4_findFlows_4 21 rfl rfl)
theorem dX4_findFlows_118 : decode cX4_findFlows 118 = .ok (.aload_n 0, 1) := dk_42 (dk_at dksX4_findFlows_4 23 rfl rfl)
theorem dX4_findFlows_119 : decode cX4_findFlows 119 = .ok (.iload 8, 2) := dk_21 8 (dk_at dksX4_findFlows_5 0 rfl rfl)
theorem dX4_findFlows_121 : decode cX4_findFlows 121 = .ok (.iload 6, 2) := dk_21 6 (dk_at dksX4_findFlows_5 2 rfl rfl)
theorem dX4_findFlows_123 : decode cX4_findFlows 123 = .ok (.invokevirtual 355, 3) := dk_182 1 99 (dk_at dksX4_findFlows_5 4 rfl rfl)
theorem dX4_findFlows_126 : decode cX4_findFlows 126 = .ok (.istore 9, 2) := dk_54 9 (dk_at dksX4_findFlows_5 7 rfl rfl)
theorem dX4_findFlows_128 : decode cX4_findFlows 128 = .ok (.iload 9, 2) := dk_21 9 (dk_at dksX4_findFlows_5 9 rfl rfl)
theorem dX4_findFlows_130 : decode cX4_findFlows 130 = .ok (.iload 7, 2) := dk_21 7 (dk_at dksX4_findFlows_5 11 rfl rfl)
theorem dX4_findFlows_132 : decode cX4_findFlows 132 = .ok (.ishr, 1) := dk_122 (dk_at dksX4_findFlows_5 13 rfl rfl)
theorem dX4_findFlows_133 : decode cX4_findFlows 133 = .ok (.iconst 1, 1) := dk_4 (dk_at dksX4_findFlows_5 14 rfl rfl)
theorem dX4_findFlows_134 : decode cX4_findFlows 134 = .ok (.iand, 1) := dk_126 (dk_at dksX4_findFlows_5 15 rfl rfl)
theorem dX4_findFlows_135 : decode cX4_findFlows 135 = .ok (.ifCond .ne 4, 3) := dk_154 0 4 (dk_at dksX4_findFlows_5 16 rfl rfl)
theorem dX4_findFlows_138 : decode cX4_findFlows 138 = .ok (.return_, 1) := dk_177 (dk_at dksX4_findFlows_5 19 rfl rfl)
theorem dX4_findFlows_139 : decode cX4_findFlows 139 = .ok (.iconst 0, 1) := dk_3 (dk_at dksX4_findFlows_5 20 rfl rfl)
theorem dX4_findFlows_140 : decode cX4_findFlows 140 = .ok (.istore 10, 2) := dk_54 10 (dk_at dksX4_findFlows_5 21 rfl rfl)
theorem dX4_findFlows_142 : decode cX4_findFlows 142 = .ok (.iload 10, 2) := dk_21 10 (dk_at dksX4_findFlows_6 0 rfl rfl)
theorem dX4_findFlows_144 : decode cX4_findFlows 144 = .ok (.aload_n 0, 1) := dk_42 (dk_at dksX4_findFlows_6 2 rfl rfl)
theorem dX4_findFlows_145 : decode cX4_findFlows 145 = .ok (.getfield 297, 3) := dk_180 1 41 (dk_at dksX4_findFlows_6 3 rfl rfl)
theorem dX4_findFlows_148 : decode cX4_findFlows 148 = .ok (.if_icmp .ge 72, 3) := dk_162 0 72 (dk_at dksX4_findFlows_6 6 rfl rfl)
theorem dX4_findFlows_151 : decode cX4_findFlows 151 = .ok (.aload_n 0, 1) := dk_42 (dk_at dksX4_findFlows_6 9 rfl rfl)
theorem dX4_findFlows_152 : decode cX4_findFlows 152 = .ok (.getfield 303, 3) := dk_180 1 47 (dk_at dksX4_findFlows_6 10 rfl rfl)
theorem dX4_findFlows_155 : decode cX4_findFlows 155 = .ok (.iload 10, 2) := dk_21 10 (dk_at dksX4_findFlows_6 13 rfl rfl)
theorem dX4_findFlows_157 : decode cX4_findFlows 157 = .ok (.ishr, 1) := dk_122 (dk_at dksX4_findFlows_6 15 rfl rfl)
theorem dX4_findFlows_158 : decode cX4_findFlows 158 = .ok (.iconst 1, 1) := dk_4 (dk_at dksX4_findFlows_6 16 rfl rfl)
theorem dX4_findFlows_159 : decode cX4_findFlows 159 = .ok (.iand, 1) := dk_126 (dk_at dksX4_findFlows_6 17 rfl rfl)
theorem dX4_findFlows_160 : decode cX4_findFlows 160 = .ok (.iconst 1, 1) := dk_4 (dk_at dksX4_findFlows_6 18 rfl rfl)
theorem dX4_findFlows_161 : decode cX4_findFlows 161 = .ok (.if_icmp .ne 18, 3) := dk_160 0 18 (dk_at dksX4_findFlows_6 19 rfl rfl)
theorem dX4_findFlows_164 : decode cX4_findFlows 164 = .ok (.aload_n 2, 1) := dk_44 (dk_at dksX4_findFlows_6 22 rfl rfl)
theorem dX4_findFlows_165 : decode cX4_findFlows 165 = .ok (.iload 10, 2) := dk_21 10 (dk_at dksX4_findFlows_7 0 rfl rfl)
theorem dX4_findFlows_167 : decode cX4_findFlows 167 = .ok (.iaload, 1) := dk_46 (dk_at dksX4_findFlows_7 2 rfl rfl)
theorem dX4_findFlows_168 : decode cX4_findFlows 168 = .ok (.aload_n 0, 1) := dk_42 (dk_at dksX4_findFlows_7 3 rfl rfl)
theorem dX4_findFlows_169 : decode cX4_findFlows 169 = .ok (.getfield 186, 3) := dk_180 0 186 (dk_at dksX4_findFlows_7 4 rfl rfl)
theorem dX4_findFlows_172 : decode cX4_findFlows 172 = .ok (.if_icmp .ge 7, 3) := dk_162 0 7 (dk_at dksX4_findFlows_7 7 rfl rfl)
theorem dX4_findFlows_175 : decode cX4_findFlows 175 = .ok (.iconst 1, 1) := dk_4 (dk_at dksX4_findFlows_7 10 rfl rfl)
theorem dX4_findFlows_176 : decode cX4_findFlows 176 = .ok (.goto 4, 3) := dk_167 0 4 (dk_at dksX4_findFlows_7 11 rfl rfl)
theorem dX4_findFlows_179 : decode cX4_findFlows 179 = .ok (.iconst 0, 1) := dk_3 (dk_at dksX4_findFlows_7 14 rfl rfl)
theorem dX4_findFlows_180 : decode cX4_findFlows 180 = .ok (.istore 11, 2) := dk_54 11 (dk_at dksX4_findFlows_7 15 rfl rfl)
theorem dX4_findFlows_182 : decode cX4_findFlows 182 = .ok (.aload_n 0, 1) := dk_42 (dk_at dksX4_findFlows_7 17 rfl rfl)
theorem dX4_findFlows_183 : decode cX4_findFlows 183 = .ok (.getfield 209, 3) := dk_180 0 209 (dk_at dksX4_findFlows_7 18 rfl rfl)
theorem dX4_findFlows_186 : decode cX4_findFlows 186 = .ok (.iload 10, 2) := dk_21 10 (dk_at dksX4_findFlows_7 21 rfl rfl)
theorem dX4_findFlows_188 : decode cX4_findFlows 188 = .ok (.aload_n 1, 1) := dk_43 (dk_at dksX4_findFlows_7 23 rfl rfl)
theorem dX4_findFlows_189 : decode cX4_findFlows 189 = .ok (.iload 10, 2) := dk_21 10 (dk_at dksX4_findFlows_8 0 rfl rfl)
theorem dX4_findFlows_191 : decode cX4_findFlows 191 = .ok (.iaload, 1) := dk_46 (dk_at dksX4_findFlows_8 2 rfl rfl)
theorem dX4_findFlows_192 : decode cX4_findFlows 192 = .ok (.iload 11, 2) := dk_21 11 (dk_at dksX4_findFlows_8 3 rfl rfl)
theorem dX4_findFlows_194 : decode cX4_findFlows 194 = .ok (.ifCond .eq 8, 3) := dk_153 0 8 (dk_at dksX4_findFlows_8 5 rfl rfl)
theorem dX4_findFlows_197 : decode cX4_findFlows 197 = .ok (.bipush 12, 2) := dk_16 12 (dk_at dksX4_findFlows_8 8 rfl rfl)
theorem dX4_findFlows_199 : decode cX4_findFlows 199 = .ok (.goto 5, 3) := dk_167 0 5 (dk_at dksX4_findFlows_8 10 rfl rfl)
theorem dX4_findFlows_202 : decode cX4_findFlows 202 = .ok (.bipush 24, 2) := dk_16 24 (dk_at dksX4_findFlows_8 13 rfl rfl)
theorem dX4_findFlows_204 : decode cX4_findFlows 204 = .ok (.imul, 1) := dk_104 (dk_at dksX4_findFlows_8 15 rfl rfl)
theorem dX4_findFlows_205 : decode cX4_findFlows 205 = .ok (.aload_n 0, 1) := dk_42 (dk_at dksX4_findFlows_8 16 rfl rfl)
theorem dX4_findFlows_206 : decode cX4_findFlows 206 = .ok (.getfield 194, 3) := dk_180 0 194 (dk_at dksX4_findFlows_8 17 rfl rfl)
theorem dX4_findFlows_209 : decode cX4_findFlows 209 = .ok (.iload 10, 2) := dk_21 10 (dk_at dksX4_findFlows_8 20 rfl rfl)
theorem dX4_findFlows_211 : decode cX4_findFlows 211 = .ok (.iaload, 1) := dk_46 (dk_at dksX4_findFlows_8 22 rfl rfl)
theorem dX4_findFlows_212 : decode cX4_findFlows 212 = .ok (.idiv, 1) := dk_108 (dk_at dksX4_findFlows_8 23 rfl rfl)
theorem dX4_findFlows_213 : decode cX4_findFlows 213 = .ok (.iastore, 1) := dk_79 (dk_at dksX4_findFlows_9 0 rfl rfl)
theorem dX4_findFlows_214 : decode cX4_findFlows 214 = .ok (.iinc 10 1, 3) := dk_132 10 1 (dk_at dksX4_findFlows_9 1 rfl rfl)
theorem dX4_findFlows_217 : decode cX4_findFlows 217 = .ok (.goto (-75), 3) := dk_167 255 181 (dk_at dksX4_findFlows_9 4 rfl rfl)
theorem dX4_findFlows_220 : decode cX4_findFlows 220 = .ok (.aload_n 0, 1) := dk_42 (dk_at dksX4_findFlows_9 7 rfl rfl)
theorem dX4_findFlows_221 : decode cX4_findFlows 221 = .ok (.lconst 0, 1) := dk_9 (dk_at dksX4_findFlows_9 8 rfl rfl)
theorem dX4_findFlows_222 : decode cX4_findFlows 222 = .ok (.putfield 347, 3) := dk_181 1 91 (dk_at dksX4_findFlows_9 9 rfl rfl)
theorem dX4_findFlows_225 : decode cX4_findFlows 225 = .ok (.iload 8, 2) := dk_21 8 (dk_at dksX4_findFlows_9 12 rfl rfl)
theorem dX4_findFlows_227 : decode cX4_findFlows 227 = .ok (.istore 10, 2) := dk_54 10 (dk_at dksX4_findFlows_9 14 rfl rfl)
theorem dX4_findFlows_229 : decode cX4_findFlows 229 = .ok (.iload 10, 2) := dk_21 10 (dk_at dksX4_findFlows_9 16 rfl rfl)
theorem dX4_findFlows_231 : decode cX4_findFlows 231 = .ok (.ifCond .le 37, 3) := dk_158 0 37 (dk_at dksX4_findFlows_9 18 rfl rfl)
theorem dX4_findFlows_234 : decode cX4_findFlows 234 = .ok (.aload_n 0, 1) := dk_42 (dk_at dksX4_findFlows_9 21 rfl rfl)
theorem dX4_findFlows_235 : decode cX4_findFlows 235 = .ok (.getfield 200, 3) := dk_180 0 200 (dk_at dksX4_findFlows_10 0 rfl rfl)
theorem dX4_findFlows_238 : decode cX4_findFlows 238 = .ok (.iload 10, 2) := dk_21 10 (dk_at dksX4_findFlows_10 3 rfl rfl)
theorem dX4_findFlows_240 : decode cX4_findFlows 240 = .ok (.iaload, 1) := dk_46 (dk_at dksX4_findFlows_10 5 rfl rfl)
theorem dX4_findFlows_241 : decode cX4_findFlows 241 = .ok (.iload 9, 2) := dk_21 9 (dk_at dksX4_findFlows_10 6 rfl rfl)
theorem dX4_findFlows_243 : decode cX4_findFlows 243 = .ok (.if_icmp .ne 13, 3) := dk_160 0 13 (dk_at dksX4_findFlows_10 8 rfl rfl)
theorem dX4_findFlows_246 : decode cX4_findFlows 246 = .ok (.aload_n 0, 1) := dk_42 (dk_at dksX4_findFlows_10 11 rfl rfl)
theorem dX4_findFlows_247 : decode cX4_findFlows 247 = .ok (.iload 10, 2) := dk_21 10 (dk_at dksX4_findFlows_10 12 rfl rfl)
theorem dX4_findFlows_249 : decode cX4_findFlows 249 = .ok (.iload 6, 2) := dk_21 6 (dk_at dksX4_findFlows_10 14 rfl rfl)
theorem dX4_findFlows_251 : decode cX4_findFlows 251 = .ok (.iload 7, 2) := dk_21 7 (dk_at dksX4_findFlows_10 16 rfl rfl)
theorem dX4_findFlows_253 : decode cX4_findFlows 253 = .ok (.invokevirtual 358, 3) := dk_182 1 102 (dk_at dksX4_findFlows_10 18 rfl rfl)
theorem dX4_findFlows_256 : decode cX4_findFlows 256 = .ok (.iload 10, 2) := dk_21 10 (dk_at dksX4_findFlows_10 21 rfl rfl)
theorem dX4_findFlows_258 : decode cX4_findFlows 258 = .ok (.iconst 1, 1) := dk_4 (dk_at dksX4_findFlows_10 23 rfl rfl)
theorem dX4_findFlows_259 : decode cX4_findFlows 259 = .ok (.isub, 1) := dk_100 (dk_at dksX4_findFlows_11 0 rfl rfl)
theorem dX4_findFlows_260 : decode cX4_findFlows 260 = .ok (.iload 8, 2) := dk_21 8 (dk_at dksX4_findFlows_11 1 rfl rfl)
theorem dX4_findFlows_262 : decode cX4_findFlows 262 = .ok (.iand, 1) := dk_126 (dk_at dksX4_findFlows_11 3 rfl rfl)
theorem dX4_findFlows_263 : decode cX4_findFlows 263 = .ok (.istore 10, 2) := dk_54 10 (dk_at dksX4_findFlows_11 4 rfl rfl)
theorem dX4_findFlows_265 : decode cX4_findFlows 265 = .ok (.goto (-36), 3) := dk_167 255 220 (dk_at dksX4_findFlows_11 6 rfl rfl)
theorem dX4_findFlows_268 : decode cX4_findFlows 268 = .ok (.return_, 1) := dk_177 (dk_at dksX4_findFlows_11 9 rfl rfl)
abbrev cX4_widths : ByteArray := prog_9_method_31_code
def yX4_widths : MethodName := ⟨RX4, "widths", "([II)I"⟩
def dkwX4_widths_1 : List UInt8 := [61, 132, 3, 1, 167, 255, 232, 28, 172]
abbrev dktX4_widths_1 : List UInt8 := dkwX4_widths_1 ++ []
def dkwX4_widths_0 : List UInt8 := [3, 61, 3, 62, 29, 27, 162, 0, 25, 28, 42, 29, 46, 158, 0, 9, 4, 29, 120, 167, 0, 4, 3, 128]
abbrev dktX4_widths_0 : List UInt8 := dkwX4_widths_0 ++ dktX4_widths_1
theorem dksX4_widths_0 : cX4_widths.data.toList.drop 0 = dktX4_widths_0 := by decide +kernel
theorem dksX4_widths_1 : cX4_widths.data.toList.drop 24 = dktX4_widths_1 := dk_seg dksX4_widths_0 24 rfl rfl
theorem dX4_widths_0 : decode cX4_widths 0 = .ok (.iconst 0, 1) := dk_3 (dk_at dksX4_widths_0 0 rfl rfl)
theorem dX4_widths_1 : decode cX4_widths 1 = .ok (.istore_n 2, 1) := dk_61 (dk_at dksX4_widths_0 1 rfl rfl)
theorem dX4_widths_2 : decode cX4_widths 2 = .ok (.iconst 0, 1) := dk_3 (dk_at dksX4_widths_0 2 rfl rfl)
theorem dX4_widths_3 : decode cX4_widths 3 = .ok (.istore_n 3, 1) := dk_62 (dk_at dksX4_widths_0 3 rfl rfl)
theorem dX4_widths_4 : decode cX4_widths 4 = .ok (.iload_n 3, 1) := dk_29 (dk_at dksX4_widths_0 4 rfl rfl)
theorem dX4_widths_5 : decode cX4_widths 5 = .ok (.iload_n 1, 1) := dk_27 (dk_at dksX4_widths_0 5 rfl rfl)
theorem dX4_widths_6 : decode cX4_widths 6 = .ok (.if_icmp .ge 25, 3) := dk_162 0 25 (dk_at dksX4_widths_0 6 rfl rfl)
theorem dX4_widths_9 : decode cX4_widths 9 = .ok (.iload_n 2, 1) := dk_28 (dk_at dksX4_widths_0 9 rfl rfl)
theorem dX4_widths_10 : decode cX4_widths 10 = .ok (.aload_n 0, 1) := dk_42 (dk_at dksX4_widths_0 10 rfl rfl)
theorem dX4_widths_11 : decode cX4_widths 11 = .ok (.iload_n 3, 1) := dk_29 (dk_at dksX4_widths_0 11 rfl rfl)
theorem dX4_widths_12 : decode cX4_widths 12 = .ok (.iaload, 1) := dk_46 (dk_at dksX4_widths_0 12 rfl rfl)
theorem dX4_widths_13 : decode cX4_widths 13 = .ok (.ifCond .le 9, 3) := dk_158 0 9 (dk_at dksX4_widths_0 13 rfl rfl)
theorem dX4_widths_16 : decode cX4_widths 16 = .ok (.iconst 1, 1) := dk_4 (dk_at dksX4_widths_0 16 rfl rfl)
theorem dX4_widths_17 : decode cX4_widths 17 = .ok (.iload_n 3, 1) := dk_29 (dk_at dksX4_widths_0 17 rfl rfl)
theorem dX4_widths_18 : decode cX4_widths 18 = .ok (.ishl, 1) := dk_120 (dk_at dksX4_widths_0 18 rfl rfl)
theorem dX4_widths_19 : decode cX4_widths 19 = .ok (.goto 4, 3) := dk_167 0 4 (dk_at dksX4_widths_0 19 rfl rfl)
theorem dX4_widths_22 : decode cX4_widths 22 = .ok (.iconst 0, 1) := dk_3 (dk_at dksX4_widths_0 22 rfl rfl)
theorem dX4_widths_23 : decode cX4_widths 23 = .ok (.ior, 1) := dk_128 (dk_at dksX4_widths_0 23 rfl rfl)
theorem dX4_widths_24 : decode cX4_widths 24 = .ok (.istore_n 2, 1) := dk_61 (dk_at dksX4_widths_1 0 rfl rfl)
theorem dX4_widths_25 : decode cX4_widths 25 = .ok (.iinc 3 1, 3) := dk_132 3 1 (dk_at dksX4_widths_1 1 rfl rfl)
theorem dX4_widths_28 : decode cX4_widths 28 = .ok (.goto (-24), 3) := dk_167 255 232 (dk_at dksX4_widths_1 4 rfl rfl)
theorem dX4_widths_31 : decode cX4_widths 31 = .ok (.iload_n 2, 1) := dk_28 (dk_at dksX4_widths_1 7 rfl rfl)
theorem dX4_widths_32 : decode cX4_widths 32 = .ok (.ireturn, 1) := dk_172 (dk_at dksX4_widths_1 8 rfl rfl)
abbrev cX4_reach : ByteArray := prog_9_method_30_code
def yX4_reach : MethodName := ⟨RX4, "reach", "(II)I"⟩
def dkwX4_reach_4 : List UInt8 := [167, 255, 182, 167, 255, 167, 29, 172]
abbrev dktX4_reach_4 : List UInt8 := dkwX4_reach_4 ++ []
def dkwX4_reach_3 : List UInt8 := [42, 180, 0, 188, 21, 5, 46, 120, 4, 42, 180, 0, 191, 21, 5, 46, 120, 128, 128, 62, 132, 5, 1]
abbrev dktX4_reach_3 : List UInt8 := dkwX4_reach_3 ++ dktX4_reach_4
def dkwX4_reach_2 : List UInt8 := [122, 4, 126, 4, 159, 0, 18, 29, 42, 180, 0, 191, 21, 5, 46, 122, 4, 126, 4, 160, 0, 25, 29, 4]
abbrev dktX4_reach_2 : List UInt8 := dkwX4_reach_2 ++ dktX4_reach_3
def dkwX4_reach_1 : List UInt8 := [180, 1, 41, 162, 0, 71, 27, 21, 5, 122, 4, 126, 4, 160, 0, 55, 29, 42, 180, 0, 188, 21, 5, 46]
abbrev dktX4_reach_1 : List UInt8 := dkwX4_reach_1 ++ dktX4_reach_2
def dkwX4_reach_0 : List UInt8 := [4, 28, 120, 62, 3, 54, 4, 29, 21, 4, 159, 0, 89, 29, 54, 4, 3, 54, 5, 21, 5, 42]
abbrev dktX4_reach_0 : List UInt8 := dkwX4_reach_0 ++ dktX4_reach_1
theorem dksX4_reach_0 : cX4_reach.data.toList.drop 0 = dktX4_reach_0 := by decide +kernel
theorem dksX4_reach_1 : cX4_reach.data.toList.drop 22 = dktX4_reach_1 := dk_seg dksX4_reach_0 22 rfl rfl
theorem dksX4_reach_2 : cX4_reach.data.toList.drop 46 = dktX4_reach_2 := dk_seg dksX4_reach_1 24 rfl rfl
theorem dksX4_reach_3 : cX4_reach.data.toList.drop 70 = dktX4_reach_3 := dk_seg dksX4_reach_2 24 rfl rfl
theorem dksX4_reach_4 : cX4_reach.data.toList.drop 93 = dktX4_reach_4 := dk_seg dksX4_reach_3 23 rfl rfl
theorem dX4_reach_0 : decode cX4_reach 0 = .ok (.iconst 1, 1) := dk_4 (dk_at dksX4_reach_0 0 rfl rfl)
theorem dX4_reach_1 : decode cX4_reach 1 = .ok (.iload_n 2, 1) := dk_28 (dk_at dksX4_reach_0 1 rfl rfl)
theorem dX4_reach_2 : decode cX4_reach 2 = .ok (.ishl, 1) := dk_120 (dk_at dksX4_reach_0 2 rfl rfl)
theorem dX4_reach_3 : decode cX4_reach 3 = .ok (.istore_n 3, 1) := dk_62 (dk_at dksX4_reach_0 3 rfl rfl)
theorem dX4_reach_4 : decode cX4_reach 4 = .ok (.iconst 0, 1) := dk_3 (dk_at dksX4_reach_0 4 rfl rfl)
theorem dX4_reach_5 : decode cX4_reach 5 = .ok (.istore 4, 2) := dk_54 4 (dk_at dksX4_reach_0 5 rfl rfl)
theorem dX4_reach_7 : decode cX4_reach 7 = .ok (.iload_n 3, 1) := dk_29 (dk_at dksX4_reach_0 7 rfl rfl)
theorem dX4_reach_8 : decode cX4_reach 8 = .ok (.iload 4, 2) := dk_21 4 (dk_at dksX4_reach_0 8 rfl rfl)
theorem dX4_reach_10 : decode cX4_reach 10 = .ok (.if_icmp .eq 89, 3) := dk_159 0 89 (dk_at dksX4_reach_0 10 rfl rfl)
theorem dX4_reach_13 : decode cX4_reach 13 = .ok (.iload_n 3, 1) := dk_29 (dk_at dksX4_reach_0 13 rfl rfl)
theorem dX4_reach_14 : decode cX4_reach 14 = .ok (.istore 4, 2) := dk_54 4 (dk_at dksX4_reach_0 14 rfl rfl)
theorem dX4_reach_16 : decode cX4_reach 16 = .ok (.iconst 0, 1) := dk_3 (dk_at dksX4_reach_0 16 rfl rfl)
theorem dX4_reach_17 : decode cX4_reach 17 = .ok (.istore 5, 2) := dk_54 5 (dk_at dksX4_reach_0 17 rfl rfl)
theorem dX4_reach_19 : decode cX4_reach 19 = .ok (.iload 5, 2) := dk_21 5 (dk_at dksX4_reach_0 19 rfl rfl)
theorem dX4_reach_21 : decode cX4_reach 21 = .ok (.aload_n 0, 1) := dk_42 (dk_at dksX4_reach_0 21 rfl rfl)
theorem dX4_reach_22 : decode cX4_reach 22 = .ok (.getfield 297, 3) := dk_180 1 41 (dk_at dksX4_reach_1 0 rfl rfl)
theorem dX4_reach_25 : decode cX4_reach 25 = .ok (.if_icmp .ge 71, 3) := dk_162 0 71 (dk_at dksX4_reach_1 3 rfl rfl)
theorem dX4_reach_28 : decode cX4_reach 28 = .ok (.iload_n 1, 1) := dk_27 (dk_at dksX4_reach_1 6 rfl rfl)
theorem dX4_reach_29 : decode cX4_reach 29 = .ok (.iload 5, 2) := dk_21 5 (dk_at dksX4_reach_1 7 rfl rfl)
theorem dX4_reach_31 : decode cX4_reach 31 = .ok (.ishr, 1) := dk_122 (dk_at dksX4_reach_1 9 rfl rfl)
theorem dX4_reach_32 : decode cX4_reach 32 = .ok (.iconst 1, 1) := dk_4 (dk_at dksX4_reach_1 10 rfl rfl)
theorem dX4_reach_33 : decode cX4_reach 33 = .ok (.iand, 1) := dk_126 (dk_at dksX4_reach_1 11 rfl rfl)
theorem dX4_reach_34 : decode cX4_reach 34 = .ok (.iconst 1, 1) := dk_4 (dk_at dksX4_reach_1 12 rfl rfl)
theorem dX4_reach_35 : decode cX4_reach 35 = .ok (.if_icmp .ne 55, 3) := dk_160 0 55 (dk_at dksX4_reach_1 13 rfl rfl)
theorem dX4_reach_38 : decode cX4_reach 38 = .ok (.iload_n 3, 1) := dk_29 (dk_at dksX4_reach_1 16 rfl rfl)
theorem dX4_reach_39 : decode cX4_reach 39 = .ok (.aload_n 0, 1) := dk_42 (dk_at dksX4_reach_1 17 rfl rfl)
theorem dX4_reach_40 : decode cX4_reach 40 = .ok (.getfield 188, 3) := dk_180 0 188 (dk_at dksX4_reach_1 18 rfl rfl)
theorem dX4_reach_43 : decode cX4_reach 43 = .ok (.iload 5, 2) := dk_21 5 (dk_at dksX4_reach_1 21 rfl rfl)
theorem dX4_reach_45 : decode cX4_reach 45 = .ok (.iaload, 1) := dk_46 (dk_at dksX4_reach_1 23 rfl rfl)
theorem dX4_reach_46 : decode cX4_reach 46 = .ok (.ishr, 1) := dk_122 (dk_at dksX4_reach_2 0 rfl rfl)
theorem dX4_reach_47 : decode cX4_reach 47 = .ok (.iconst 1, 1) := dk_4 (dk_at dksX4_reach_2 1 rfl rfl)
theorem dX4_reach_48 : decode cX4_reach 48 = .ok (.iand, 1) := dk_126 (dk_at dksX4_reach_2 2 rfl rfl)
theorem dX4_reach_49 : decode cX4_reach 49 = .ok (.iconst 1, 1) := dk_4 (dk_at dksX4_reach_2 3 rfl rfl)
theorem dX4_reach_50 : decode cX4_reach 50 = .ok (.if_icmp .eq 18, 3) := dk_159 0 18 (dk_at dksX4_reach_2 4 rfl rfl)
theorem dX4_reach_53 : decode cX4_reach 53 = .ok (.iload_n 3, 1) := dk_29 (dk_at dksX4_reach_2 7 rfl rfl)
theorem dX4_reach_54 : decode cX4_reach 54 = .ok (.aload_n 0, 1) := dk_42 (dk_at dksX4_reach_2 8 rfl rfl)
theorem dX4_reach_55 : decode cX4_reach 55 = .ok (.getfield 191, 3) := dk_180 0 191 (dk_at dksX4_reach_2 9 rfl rfl)
theorem dX4_reach_58 : decode cX4_reach 58 = .ok (.iload 5, 2) := dk_21 5 (dk_at dksX4_reach_2 12 rfl rfl)
theorem dX4_reach_60 : decode cX4_reach 60 = .ok (.iaload, 1) := dk_46 (dk_at dksX4_reach_2 14 rfl rfl)
theorem dX4_reach_61 : decode cX4_reach 61 = .ok (.ishr, 1) := dk_122 (dk_at dksX4_reach_2 15 rfl rfl)
theorem dX4_reach_62 : decode cX4_reach 62 = .ok (.iconst 1, 1) := dk_4 (dk_at dksX4_reach_2 16 rfl rfl)
theorem dX4_reach_63 : decode cX4_reach 63 = .ok (.iand, 1) := dk_126 (dk_at dksX4_reach_2 17 rfl rfl)
theorem dX4_reach_64 : decode cX4_reach 64 = .ok (.iconst 1, 1) := dk_4 (dk_at dksX4_reach_2 18 rfl rfl)
theorem dX4_reach_65 : decode cX4_reach 65 = .ok (.if_icmp .ne 25, 3) := dk_160 0 25 (dk_at dksX4_reach_2 19 rfl rfl)
theorem dX4_reach_68 : decode cX4_reach 68 = .ok (.iload_n 3, 1) := dk_29 (dk_at dksX4_reach_2 22 rfl rfl)
theorem dX4_reach_69 : decode cX4_reach 69 = .ok (.iconst 1, 1) := dk_4 (dk_at dksX4_reach_2 23 rfl rfl)
theorem dX4_reach_70 : decode cX4_reach 70 = .ok (.aload_n 0, 1) := dk_42 (dk_at dksX4_reach_3 0 rfl rfl)
theorem dX4_reach_71 : decode cX4_reach 71 = .ok (.getfield 188, 3) := dk_180 0 188 (dk_at dksX4_reach_3 1 rfl rfl)
theorem dX4_reach_74 : decode cX4_reach 74 = .ok (.iload 5, 2) := dk_21 5 (dk_at dksX4_reach_3 4 rfl rfl)
theorem dX4_reach_76 : decode cX4_reach 76 = .ok (.iaload, 1) := dk_46 (dk_at dksX4_reach_3 6 rfl rfl)
theorem dX4_reach_77 : decode cX4_reach 77 = .ok (.ishl, 1) := dk_120 (dk_at dksX4_reach_3 7 rfl rfl)
theorem dX4_reach_78 : decode cX4_reach 78 = .ok (.iconst 1, 1) := dk_4 (dk_at dksX4_reach_3 8 rfl rfl)
theorem dX4_reach_79 : decode cX4_reach 79 = .ok (.aload_n 0, 1) := dk_42 (dk_at dksX4_reach_3 9 rfl rfl)
theorem dX4_reach_80 : decode cX4_reach 80 = .ok (.getfield 191, 3) := dk_180 0 191 (dk_at dksX4_reach_3 10 rfl rfl)
theorem dX4_reach_83 : decode cX4_reach 83 = .ok (.iload 5, 2) := dk_21 5 (dk_at dksX4_reach_3 13 rfl rfl)
theorem dX4_reach_85 : decode cX4_reach 85 = .ok (.iaload, 1) := dk_46 (dk_at dksX4_reach_3 15 rfl rfl)
theorem dX4_reach_86 : decode cX4_reach 86 = .ok (.ishl, 1) := dk_120 (dk_at dksX4_reach_3 16 rfl rfl)
theorem dX4_reach_87 : decode cX4_reach 87 = .ok (.ior, 1) := dk_128 (dk_at dksX4_reach_3 17 rfl rfl)
theorem dX4_reach_88 : decode cX4_reach 88 = .ok (.ior, 1) := dk_128 (dk_at dksX4_reach_3 18 rfl rfl)
theorem dX4_reach_89 : decode cX4_reach 89 = .ok (.istore_n 3, 1) := dk_62 (dk_at dksX4_reach_3 19 rfl rfl)
theorem dX4_reach_90 : decode cX4_reach 90 = .ok (.iinc 5 1, 3) := dk_132 5 1 (dk_at dksX4_reach_3 20 rfl rfl)
theorem dX4_reach_93 : decode cX4_reach 93 = .ok (.goto (-74), 3) := dk_167 255 182 (dk_at dksX4_reach_4 0 rfl rfl)
theorem dX4_reach_96 : decode cX4_reach 96 = .ok (.goto (-89), 3) := dk_167 255 167 (dk_at dksX4_reach_4 3 rfl rfl)
theorem dX4_reach_99 : decode cX4_reach 99 = .ok (.iload_n 3, 1) := dk_29 (dk_at dksX4_reach_4 6 rfl rfl)
theorem dX4_reach_100 : decode cX4_reach 100 = .ok (.ireturn, 1) := dk_172 (dk_at dksX4_reach_4 7 rfl rfl)
abbrev cX4_addTree : ByteArray := prog_9_method_33_code
def yX4_addTree : MethodName := ⟨RX4, "addTree", "(III)V"⟩
def dkwX4_addTree_8 : List UInt8 := [132, 8, 1, 167, 255, 151, 177]
abbrev dktX4_addTree_8 : List UInt8 := dkwX4_addTree_8 ++ []
def dkwX4_addTree_7 : List UInt8 := [180, 0, 212, 21, 8, 92, 47, 21, 11, 21, 10, 160, 0, 8, 22, 4, 167, 0, 6, 22, 4, 117, 97, 80]
abbrev dktX4_addTree_7 : List UInt8 := dkwX4_addTree_7 ++ dktX4_addTree_8
def dkwX4_addTree_6 : List UInt8 := [180, 0, 206, 27, 46, 21, 8, 122, 4, 126, 4, 160, 0, 7, 4, 167, 0, 4, 3, 54, 11, 42]
abbrev dktX4_addTree_6 : List UInt8 := dkwX4_addTree_6 ++ dktX4_addTree_7
def dkwX4_addTree_5 : List UInt8 := [126, 4, 160, 0, 7, 4, 167, 0, 4, 3, 54, 10, 21, 9, 21, 10, 160, 0, 6, 167, 0, 50, 42]
abbrev dktX4_addTree_5 : List UInt8 := dkwX4_addTree_5 ++ dktX4_addTree_6
def dkwX4_addTree_4 : List UInt8 := [21, 6, 21, 8, 122, 4, 126, 4, 160, 0, 7, 4, 167, 0, 4, 3, 54, 9, 21, 7, 21, 8, 122, 4]
abbrev dktX4_addTree_4 : List UInt8 := dkwX4_addTree_4 ++ dktX4_addTree_5
def dkwX4_addTree_3 : List UInt8 := [180, 0, 203, 16, 6, 27, 104, 29, 96, 46, 54, 7, 3, 54, 8, 21, 8, 42, 180, 1, 41, 162, 0, 102]
abbrev dktX4_addTree_3 : List UInt8 := dkwX4_addTree_3 ++ dktX4_addTree_4
def dkwX4_addTree_2 : List UInt8 := [180, 1, 91, 22, 4, 97, 181, 1, 91, 42, 180, 0, 203, 16, 6, 27, 104, 28, 96, 46, 54, 6, 42]
abbrev dktX4_addTree_2 : List UInt8 := dkwX4_addTree_2 ++ dktX4_addTree_3
def dkwX4_addTree_1 : List UInt8 := [160, 0, 16, 22, 4, 42, 180, 0, 209, 21, 6, 46, 133, 105, 55, 4, 132, 6, 1, 167, 255, 221, 42, 89]
abbrev dktX4_addTree_1 : List UInt8 := dkwX4_addTree_1 ++ dktX4_addTree_2
def dkwX4_addTree_0 : List UInt8 := [10, 55, 4, 3, 54, 6, 21, 6, 42, 180, 1, 41, 162, 0, 32, 27, 21, 6, 122, 4, 126, 4]
abbrev dktX4_addTree_0 : List UInt8 := dkwX4_addTree_0 ++ dktX4_addTree_1
theorem dksX4_addTree_0 : cX4_addTree.data.toList.drop 0 = dktX4_addTree_0 := by decide +kernel
theorem dksX4_addTree_1 : cX4_addTree.data.toList.drop 22 = dktX4_addTree_1 := dk_seg dksX4_addTree_0 22 rfl rfl
theorem dksX4_addTree_2 : cX4_addTree.data.toList.drop 46 = dktX4_addTree_2 := dk_seg dksX4_addTree_1 24 rfl rfl
theorem dksX4_addTree_3 : cX4_addTree.data.toList.drop 69 = dktX4_addTree_3 := dk_seg dksX4_addTree_2 23 rfl rfl
theorem dksX4_addTree_4 : cX4_addTree.data.toList.drop 93 = dktX4_addTree_4 := dk_seg dksX4_addTree_3 24 rfl rfl
theorem dksX4_addTree_5 : cX4_addTree.data.toList.drop 117 = dktX4_addTree_5 := dk_seg dksX4_addTree_4 24 rfl rfl
theorem dksX4_addTree_6 : cX4_addTree.data.toList.drop 140 = dktX4_addTree_6 := dk_seg dksX4_addTree_5 23 rfl rfl
theorem dksX4_addTree_7 : cX4_addTree.data.toList.drop 162 = dktX4_addTree_7 := dk_seg dksX4_addTree_6 22 rfl rfl
theorem dksX4_addTree_8 : cX4_addTree.data.toList.drop 186 = dktX4_addTree_8 := dk_seg dksX4_addTree_7 24 rfl rfl
theorem dX4_addTree_0 : decode cX4_addTree 0 = .ok (.lconst 1, 1) := dk_10 (dk_at dksX4_addTree_0 0 rfl rfl)
theorem dX4_addTree_1 : decode cX4_addTree 1 = .ok (.lstore 4, 2) := dk_55 4 (dk_at dksX4_addTree_0 1 rfl rfl)
theorem dX4_addTree_3 : decode cX4_addTree 3 = .ok (.iconst 0, 1) := dk_3 (dk_at dksX4_addTree_0 3 rfl rfl)
theorem dX4_addTree_4 : decode cX4_addTree 4 = .ok (.istore 6, 2) := dk_54 6 (dk_at dksX4_addTree_0 4 rfl rfl)
theorem dX4_addTree_6 : decode cX4_addTree 6 = .ok (.iload 6, 2) := dk_21 6 (dk_at dksX4_addTree_0 6 rfl rfl)
theorem dX4_addTree_8 : decode cX4_addTree 8 = .ok (.aload_n 0, 1) := dk_42 (dk_at dksX4_addTree_0 8 rfl rfl)
theorem dX4_addTree_9 : decode cX4_addTree 9 = .ok (.getfield 297, 3) := dk_180 1 41 (dk_at dksX4_addTree_0 9 rfl rfl)
theorem dX4_addTree_12 : decode cX4_addTree 12 = .ok (.if_icmp .ge 32, 3) := dk_162 0 32 (dk_at dksX4_addTree_0 12 rfl rfl)
theorem dX4_addTree_15 : decode cX4_addTree 15 = .ok (.iload_n 1, 1) := dk_27 (dk_at dksX4_addTree_0 15 rfl rfl)
theorem dX4_addTree_16 : decode cX4_addTree 16 = .ok (.iload 6, 2) := dk_21 6 (dk_at dksX4_addTree_0 16 rfl rfl)
theorem dX4_addTree_18 : decode cX4_addTree 18 = .ok (.ishr, 1) := dk_122 (dk_at dksX4_addTree_0 18 rfl rfl)
theorem dX4_addTree_19 : decode cX4_addTree 19 = .ok (.iconst 1, 1) := dk_4 (dk_at dksX4_addTree_0 19 rfl rfl)
theorem dX4_addTree_20 : decode cX4_addTree 20 = .ok (.iand, 1) := dk_126 (dk_at dksX4_addTree_0 20 rfl rfl)
theorem dX4_addTree_21 : decode cX4_addTree 21 = .ok (.iconst 1, 1) := dk_4 (dk_at dksX4_addTree_0 21 rfl rfl)
theorem dX4_addTree_22 : decode cX4_addTree 22 = .ok (.if_icmp .ne 16, 3) := dk_160 0 16 (dk_at dksX4_addTree_1 0 rfl rfl)
theorem dX4_addTree_25 : decode cX4_addTree 25 = .ok (.lload 4, 2) := dk_22 4 (dk_at dksX4_addTree_1 3 rfl rfl)
theorem dX4_addTree_27 : decode cX4_addTree 27 = .ok (.aload_n 0, 1) := dk_42 (dk_at dksX4_addTree_1 5 rfl rfl)
theorem dX4_addTree_28 : decode cX4_addTree 28 = .ok (.getfield 209, 3) := dk_180 0 209 (dk_at dksX4_addTree_1 6 rfl rfl)
theorem dX4_addTree_31 : decode cX4_addTree 31 = .ok (.iload 6, 2) := dk_21 6 (dk_at dksX4_addTree_1 9 rfl rfl)
theorem dX4_addTree_33 : decode cX4_addTree 33 = .ok (.iaload, 1) := dk_46 (dk_at dksX4_addTree_1 11 rfl rfl)
theorem dX4_addTree_34 : decode cX4_addTree 34 = .ok (.i2l, 1) := dk_133 (dk_at dksX4_addTree_1 12 rfl rfl)
theorem dX4_addTree_35 : decode cX4_addTree 35 = .ok (.lmul, 1) := dk_105 (dk_at dksX4_addTree_1 13 rfl rfl)
theorem dX4_addTree_36 : decode cX4_addTree 36 = .ok (.lstore 4, 2) := dk_55 4 (dk_at dksX4_addTree_1 14 rfl rfl)
theorem dX4_addTree_38 : decode cX4_addTree 38 = .ok (.iinc 6 1, 3) := dk_132 6 1 (dk_at dksX4_addTree_1 16 rfl rfl)
theorem dX4_addTree_41 : decode cX4_addTree 41 = .ok (.goto (-35), 3) := dk_167 255 221 (dk_at dksX4_addTree_1 19 rfl rfl)
theorem dX4_addTree_44 : decode cX4_addTree 44 = .ok (.aload_n 0, 1) := dk_42 (dk_at dksX4_addTree_1 22 rfl rfl)
theorem dX4_addTree_45 : decode cX4_addTree 45 = .ok (.dup, 1) := dk_89 (dk_at dksX4_addTree_1 23 rfl rfl)
theorem dX4_addTree_46 : decode cX4_addTree 46 = .ok (.getfield 347, 3) := dk_180 1 91 (dk_at dksX4_addTree_2 0 rfl rfl)
theorem dX4_addTree_49 : decode cX4_addTree 49 = .ok (.lload 4, 2) := dk_22 4 (dk_at dksX4_addTree_2 3 rfl rfl)
theorem dX4_addTree_51 : decode cX4_addTree 51 = .ok (.ladd, 1) := dk_97 (dk_at dksX4_addTree_2 5 rfl rfl)
theorem dX4_addTree_52 : decode cX4_addTree 52 = .ok (.putfield 347, 3) := dk_181 1 91 (dk_at dksX4_addTree_2 6 rfl rfl)
theorem dX4_addTree_55 : decode cX4_addTree 55 = .ok (.aload_n 0, 1) := dk_42 (dk_at dksX4_addTree_2 9 rfl rfl)
theorem dX4_addTree_56 : decode cX4_addTree 56 = .ok (.getfield 203, 3) := dk_180 0 203 (dk_at dksX4_addTree_2 10 rfl rfl)
theorem dX4_addTree_59 : decode cX4_addTree 59 = .ok (.bipush 6, 2) := dk_16 6 (dk_at dksX4_addTree_2 13 rfl rfl)
theorem dX4_addTree_61 : decode cX4_addTree 61 = .ok (.iload_n 1, 1) := dk_27 (dk_at dksX4_addTree_2 15 rfl rfl)
theorem dX4_addTree_62 : decode cX4_addTree 62 = .ok (.imul, 1) := dk_104 (dk_at dksX4_addTree_2 16 rfl rfl)
theorem dX4_addTree_63 : decode cX4_addTree 63 = .ok (.iload_n 2, 1) := dk_28 (dk_at dksX4_addTree_2 17 rfl rfl)
theorem dX4_addTree_64 : decode cX4_addTree 64 = .ok (.iadd, 1) := dk_96 (dk_at dksX4_addTree_2 18 rfl rfl)
theorem dX4_addTree_65 : decode cX4_addTree 65 = .ok (.iaload, 1) := dk_46 (dk_at dksX4_addTree_2 19 rfl rfl)
theorem dX4_addTree_66 : decode cX4_addTree 66 = .ok (.istore 6, 2) := dk_54 6 (dk_at dksX4_addTree_2 20 rfl rfl)
theorem dX4_addTree_68 : decode cX4_addTree 68 = .ok (.aload_n 0, 1) := dk_42 (dk_at dksX4_addTree_2 22 rfl rfl)
theorem dX4_addTree_69 : decode cX4_addTree 69 = .ok (.getfield 203, 3) := dk_180 0 203 (dk_at dksX4_addTree_3 0 rfl rfl)
theorem dX4_addTree_72 : decode cX4_addTree 72 = .ok (.bipush 6, 2) := dk_16 6 (dk_at dksX4_addTree_3 3 rfl rfl)
theorem dX4_addTree_74 : decode cX4_addTree 74 = .ok (.iload_n 1, 1) := dk_27 (dk_at dksX4_addTree_3 5 rfl rfl)
theorem dX4_addTree_75 : decode cX4_addTree 75 = .ok (.imul, 1) := dk_104 (dk_at dksX4_addTree_3 6 rfl rfl)
theorem dX4_addTree_76 : decode cX4_addTree 76 = .ok (.iload_n 3, 1) := dk_29 (dk_at dksX4_addTree_3 7 rfl rfl)
theorem dX4_addTree_77 : decode cX4_addTree 77 = .ok (.iadd, 1) := dk_96 (dk_at dksX4_addTree_3 8 rfl rfl)
theorem dX4_addTree_78 : decode cX4_addTree 78 = .ok (.iaload, 1) := dk_46 (dk_at dksX4_addTree_3 9 rfl rfl)
theorem dX4_addTree_79 : decode cX4_addTree 79 = .ok (.istore 7, 2) := dk_54 7 (dk_at dksX4_addTree_3 10 rfl rfl)
theorem dX4_addTree_81 : decode cX4_addTree 81 = .ok (.iconst 0, 1) := dk_3 (dk_at dksX4_addTree_3 12 rfl rfl)
theorem dX4_addTree_82 : decode cX4_addTree 82 = .ok (.istore 8, 2) := dk_54 8 (dk_at dksX4_addTree_3 13 rfl rfl)
theorem dX4_addTree_84 : decode cX4_addTree 84 = .ok (.iload 8, 2) := dk_21 8 (dk_at dksX4_addTree_3 15 rfl rfl)
theorem dX4_addTree_86 : decode cX4_addTree 86 = .ok (.aload_n 0, 1) := dk_42 (dk_at dksX4_addTree_3 17 rfl rfl)
theorem dX4_addTree_87 : decode cX4_addTree 87 = .ok (.getfield 297, 3) := dk_180 1 41 (dk_at dksX4_addTree_3 18 rfl rfl)
theorem dX4_addTree_90 : decode cX4_addTree 90 = .ok (.if_icmp .ge 102, 3) := dk_162 0 102 (dk_at dksX4_addTree_3 21 rfl rfl)
theorem dX4_addTree_93 : decode cX4_addTree 93 = .ok (.iload 6, 2) := dk_21 6 (dk_at dksX4_addTree_4 0 rfl rfl)
theorem dX4_addTree_95 : decode cX4_addTree 95 = .ok (.iload 8, 2) := dk_21 8 (dk_at dksX4_addTree_4 2 rfl rfl)
theorem dX4_addTree_97 : decode cX4_addTree 97 = .ok (.ishr, 1) := dk_122 (dk_at dksX4_addTree_4 4 rfl rfl)
theorem dX4_addTree_98 : decode cX4_addTree 98 = .ok (.iconst 1, 1) := dk_4 (dk_at dksX4_addTree_4 5 rfl rfl)
theorem dX4_addTree_99 : decode cX4_addTree 99 = .ok (.iand, 1) := dk_126 (dk_at dksX4_addTree_4 6 rfl rfl)
theorem dX4_addTree_100 : decode cX4_addTree 100 = .ok (.iconst 1, 1) := dk_4 (dk_at dksX4_addTree_4 7 rfl rfl)
theorem dX4_addTree_101 : decode cX4_addTree 101 = .ok (.if_icmp .ne 7, 3) := dk_160 0 7 (dk_at dksX4_addTree_4 8 rfl rfl)
theorem dX4_addTree_104 : decode cX4_addTree 104 = .ok (.iconst 1, 1) := dk_4 (dk_at dksX4_addTree_4 11 rfl rfl)
theorem dX4_addTree_105 : decode cX4_addTree 105 = .ok (.goto 4, 3) := dk_167 0 4 (dk_at dksX4_addTree_4 12 rfl rfl)
theorem dX4_addTree_108 : decode cX4_addTree 108 = .ok (.iconst 0, 1) := dk_3 (dk_at dksX4_addTree_4 15 rfl rfl)
theorem dX4_addTree_109 : decode cX4_addTree 109 = .ok (.istore 9, 2) := dk_54 9 (dk_at dksX4_addTree_4 16 rfl rfl)
theorem dX4_addTree_111 : decode cX4_addTree 111 = .ok (.iload 7, 2) := dk_21 7 (dk_at dksX4_addTree_4 18 rfl rfl)
theorem dX4_addTree_113 : decode cX4_addTree 113 = .ok (.iload 8, 2) := dk_21 8 (dk_at dksX4_addTree_4 20 rfl rfl)
theorem dX4_addTree_115 : decode cX4_addTree 115 = .ok (.ishr, 1) := dk_122 (dk_at dksX4_addTree_4 22 rfl rfl)
theorem dX4_addTree_116 : decode cX4_addTree 116 = .ok (.iconst 1, 1) := dk_4 (dk_at dksX4_addTree_4 23 rfl rfl)
theorem dX4_addTree_117 : decode cX4_addTree 117 = .ok (.iand, 1) := dk_126 (dk_at dksX4_addTree_5 0 rfl rfl)
theorem dX4_addTree_118 : decode cX4_addTree 118 = .ok (.iconst 1, 1) := dk_4 (dk_at dksX4_addTree_5 1 rfl rfl)
theorem dX4_addTree_119 : decode cX4_addTree 119 = .ok (.if_icmp .ne 7, 3) := dk_160 0 7 (dk_at dksX4_addTree_5 2 rfl rfl)
theorem dX4_addTree_122 : decode cX4_addTree 122 = .ok (.iconst 1, 1) := dk_4 (dk_at dksX4_addTree_5 5 rfl rfl)
theorem dX4_addTree_123 : decode cX4_addTree 123 = .ok (.goto 4, 3) := dk_167 0 4 (dk_at dksX4_addTree_5 6 rfl rfl)
theorem dX4_addTree_126 : decode cX4_addTree 126 = .ok (.iconst 0, 1) := dk_3 (dk_at dksX4_addTree_5 9 rfl rfl)
theorem dX4_addTree_127 : decode cX4_addTree 127 = .ok (.istore 10, 2) := dk_54 10 (dk_at dksX4_addTree_5 10 rfl rfl)
theorem dX4_addTree_129 : decode cX4_addTree 129 = .ok (.iload 9, 2) := dk_21 9 (dk_at dksX4_addTree_5 12 rfl rfl)
theorem dX4_addTree_131 : decode cX4_addTree 131 = .ok (.iload 10, 2) := dk_21 10 (dk_at dksX4_addTree_5 14 rfl rfl)
theorem dX4_addTree_133 : decode cX4_addTree 133 = .ok (.if_icmp .ne 6, 3) := dk_160 0 6 (dk_at dksX4_addTree_5 16 rfl rfl)
theorem dX4_addTree_136 : decode cX4_addTree 136 = .ok (.goto 50, 3) := dk_167 0 50 (dk_at dksX4_addTree_5 19 rfl rfl)
theorem dX4_addTree_139 : decode cX4_addTree 139 = .ok (.aload_n 0, 1) := dk_42 (dk_at dksX4_addTree_5 22 rfl rfl)
theorem dX4_addTree_140 : decode cX4_addTree 140 = .ok (.getfield 206, 3) := dk_180 0 206 (dk_at dksX4_addTree_6 0 rfl rfl)
theorem dX4_addTree_143 : decode cX4_addTree 143 = .ok (.iload_n 1, 1) := dk_27 (dk_at dksX4_addTree_6 3 rfl rfl)
theorem dX4_addTree_144 : decode cX4_addTree 144 = .ok (.iaload, 1) := dk_46 (dk_at dksX4_addTree_6 4 rfl rfl)
theorem dX4_addTree_145 : decode cX4_addTree 145 = .ok (.iload 8, 2) := dk_21 8 (dk_at dksX4_addTree_6 5 rfl rfl)
theorem dX4_addTree_147 : decode cX4_addTree 147 = .ok (.ishr, 1) := dk_122 (dk_at dksX4_addTree_6 7 rfl rfl)
theorem dX4_addTree_148 : decode cX4_addTree 148 = .ok (.iconst 1, 1) := dk_4 (dk_at dksX4_addTree_6 8 rfl rfl)
theorem dX4_addTree_149 : decode cX4_addTree 149 = .ok (.iand, 1) := dk_126 (dk_at dksX4_addTree_6 9 rfl rfl)
theorem dX4_addTree_150 : decode cX4_addTree 150 = .ok (.iconst 1, 1) := dk_4 (dk_at dksX4_addTree_6 10 rfl rfl)
theorem dX4_addTree_151 : decode cX4_addTree 151 = .ok (.if_icmp .ne 7, 3) := dk_160 0 7 (dk_at dksX4_addTree_6 11 rfl rfl)
theorem dX4_addTree_154 : decode cX4_addTree 154 = .ok (.iconst 1, 1) := dk_4 (dk_at dksX4_addTree_6 14 rfl rfl)
theorem dX4_addTree_155 : decode cX4_addTree 155 = .ok (.goto 4, 3) := dk_167 0 4 (dk_at dksX4_addTree_6 15 rfl rfl)
theorem dX4_addTree_158 : decode cX4_addTree 158 = .ok (.iconst 0, 1) := dk_3 (dk_at dksX4_addTree_6 18 rfl rfl)
theorem dX4_addTree_159 : decode cX4_addTree 159 = .ok (.istore 11, 2) := dk_54 11 (dk_at dksX4_addTree_6 19 rfl rfl)
theorem dX4_addTree_161 : decode cX4_addTree 161 = .ok (.aload_n 0, 1) := dk_42 (dk_at dksX4_addTree_6 21 rfl rfl)
theorem dX4_addTree_162 : decode cX4_addTree 162 = .ok (.getfield 212, 3) := dk_180 0 212 (dk_at dksX4_addTree_7 0 rfl rfl)
theorem dX4_addTree_165 : decode cX4_addTree 165 = .ok (.iload 8, 2) := dk_21 8 (dk_at dksX4_addTree_7 3 rfl rfl)
theorem dX4_addTree_167 : decode cX4_addTree 167 = .ok (.dup2, 1) := dk_92 (dk_at dksX4_addTree_7 5 rfl rfl)
theorem dX4_addTree_168 : decode cX4_addTree 168 = .ok (.laload, 1) := dk_47 (dk_at dksX4_addTree_7 6 rfl rfl)
theorem dX4_addTree_169 : decode cX4_addTree 169 = .ok (.iload 11, 2) := dk_21 11 (dk_at dksX4_addTree_7 7 rfl rfl)
theorem dX4_addTree_171 : decode cX4_addTree 171 = .ok (.iload 10, 2) := dk_21 10 (dk_at dksX4_addTree_7 9 rfl rfl)
theorem dX4_addTree_173 : decode cX4_addTree 173 = .ok (.if_icmp .ne 8, 3) := dk_160 0 8 (dk_at dksX4_addTree_7 11 rfl rfl)
theorem dX4_addTree_176 : decode cX4_addTree 176 = .ok (.lload 4, 2) := dk_22 4 (dk_at dksX4_addTree_7 14 rfl rfl)
theorem dX4_addTree_178 : decode cX4_addTree 178 = .ok (.goto 6, 3) := dk_167 0 6 (dk_at dksX4_addTree_7 16 rfl rfl)
theorem dX4_addTree_181 : decode cX4_addTree 181 = .ok (.lload 4, 2) := dk_22 4 (dk_at dksX4_addTree_7 19 rfl rfl)
theorem dX4_addTree_183 : decode cX4_addTree 183 = .ok (.lneg, 1) := dk_117 (dk_at dksX4_addTree_7 21 rfl rfl)
theorem dX4_addTree_184 : decode cX4_addTree 184 = .ok (.ladd, 1) := dk_97 (dk_at dksX4_addTree_7 22 rfl rfl)
theorem dX4_addTree_185 : decode cX4_addTree 185 = .ok (.lastore, 1) := dk_80 (dk_at dksX4_addTree_7 23 rfl rfl)
theorem dX4_addTree_186 : decode cX4_addTree 186 = .ok (.iinc 8 1, 3) := dk_132 8 1 (dk_at dksX4_addTree_8 0 rfl rfl)
theorem dX4_addTree_189 : decode cX4_addTree 189 = .ok (.goto (-105), 3) := dk_167 255 151 (dk_at dksX4_addTree_8 3 rfl rfl)
theorem dX4_addTree_192 : decode cX4_addTree 192 = .ok (.return_, 1) := dk_177 (dk_at dksX4_addTree_8 6 rfl rfl)
abbrev cX4_common : ByteArray := prog_9_method_40_code
def yX4_common : MethodName := ⟨RX4, "common", "(JJ)J"⟩
def dkwX4_common_1 : List UInt8 := [22, 4, 22, 6, 113, 55, 8, 22, 6, 55, 4, 22, 8, 55, 6, 167, 255, 234, 22, 4, 173]
abbrev dktX4_common_1 : List UInt8 := dkwX4_common_1 ++ []
def dkwX4_common_0 : List UInt8 := [30, 9, 148, 156, 0, 8, 30, 117, 167, 0, 4, 30, 55, 4, 32, 55, 6, 22, 6, 9, 148, 153, 0, 21]
abbrev dktX4_common_0 : List UInt8 := dkwX4_common_0 ++ dktX4_common_1
theorem dksX4_common_0 : cX4_common.data.toList.drop 0 = dktX4_common_0 := by decide +kernel
theorem dksX4_common_1 : cX4_common.data.toList.drop 24 = dktX4_common_1 := dk_seg dksX4_common_0 24 rfl rfl
theorem dX4_common_0 : decode cX4_common 0 = .ok (.lload_n 0, 1) := dk_30 (dk_at dksX4_common_0 0 rfl rfl)
theorem dX4_common_1 : decode cX4_common 1 = .ok (.lconst 0, 1) := dk_9 (dk_at dksX4_common_0 1 rfl rfl)
theorem dX4_common_2 : decode cX4_common 2 = .ok (.lcmp, 1) := dk_148 (dk_at dksX4_common_0 2 rfl rfl)
theorem dX4_common_3 : decode cX4_common 3 = .ok (.ifCond .ge 8, 3) := dk_156 0 8 (dk_at dksX4_common_0 3 rfl rfl)
theorem dX4_common_6 : decode cX4_common 6 = .ok (.lload_n 0, 1) := dk_30 (dk_at dksX4_common_0 6 rfl rfl)
theorem dX4_common_7 : decode cX4_common 7 = .ok (.lneg, 1) := dk_117 (dk_at dksX4_common_0 7 rfl rfl)
theorem dX4_common_8 : decode cX4_common 8 = .ok (.goto 4, 3) := dk_167 0 4 (dk_at dksX4_common_0 8 rfl rfl)
theorem dX4_common_11 : decode cX4_common 11 = .ok (.lload_n 0, 1) := dk_30 (dk_at dksX4_common_0 11 rfl rfl)
theorem dX4_common_12 : decode cX4_common 12 = .ok (.lstore 4, 2) := dk_55 4 (dk_at dksX4_common_0 12 rfl rfl)
theorem dX4_common_14 : decode cX4_common 14 = .ok (.lload_n 2, 1) := dk_32 (dk_at dksX4_common_0 14 rfl rfl)
theorem dX4_common_15 : decode cX4_common 15 = .ok (.lstore 6, 2) := dk_55 6 (dk_at dksX4_common_0 15 rfl rfl)
theorem dX4_common_17 : decode cX4_common 17 = .ok (.lload 6, 2) := dk_22 6 (dk_at dksX4_common_0 17 rfl rfl)
theorem dX4_common_19 : decode cX4_common 19 = .ok (.lconst 0, 1) := dk_9 (dk_at dksX4_common_0 19 rfl rfl)
theorem dX4_common_20 : decode cX4_common 20 = .ok (.lcmp, 1) := dk_148 (dk_at dksX4_common_0 20 rfl rfl)
theorem dX4_common_21 : decode cX4_common 21 = .ok (.ifCond .eq 21, 3) := dk_153 0 21 (dk_at dksX4_common_0 21 rfl rfl)
theorem dX4_common_24 : decode cX4_common 24 = .ok (.lload 4, 2) := dk_22 4 (dk_at dksX4_common_1 0 rfl rfl)
theorem dX4_common_26 : decode cX4_common 26 = .ok (.lload 6, 2) := dk_22 6 (dk_at dksX4_common_1 2 rfl rfl)
theorem dX4_common_28 : decode cX4_common 28 = .ok (.lrem, 1) := dk_113 (dk_at dksX4_common_1 4 rfl rfl)
theorem dX4_common_29 : decode cX4_common 29 = .ok (.lstore 8, 2) := dk_55 8 (dk_at dksX4_common_1 5 rfl rfl)
theorem dX4_common_31 : decode cX4_common 31 = .ok (.lload 6, 2) := dk_22 6 (dk_at dksX4_common_1 7 rfl rfl)
theorem dX4_common_33 : decode cX4_common 33 = .ok (.lstore 4, 2) := dk_55 4 (dk_at dksX4_common_1 9 rfl rfl)
theorem dX4_common_35 : decode cX4_common 35 = .ok (.lload 8, 2) := dk_22 8 (dk_at dksX4_common_1 11 rfl rfl)
theorem dX4_common_37 : decode cX4_common 37 = .ok (.lstore 6, 2) := dk_55 6 (dk_at dksX4_common_1 13 rfl rfl)
theorem dX4_common_39 : decode cX4_common 39 = .ok (.goto (-22), 3) := dk_167 255 234 (dk_at dksX4_common_1 15 rfl rfl)
theorem dX4_common_42 : decode cX4_common 42 = .ok (.lload 4, 2) := dk_22 4 (dk_at dksX4_common_1 18 rfl rfl)
theorem dX4_common_44 : decode cX4_common 44 = .ok (.lreturn, 1) := dk_173 (dk_at dksX4_common_1 20 rfl rfl)
abbrev cX4_under : ByteArray := prog_9_method_42_code
def yX4_under : MethodName := ⟨RX4, "under", "(I)J"⟩
def dkwX4_under_1 : List UInt8 := [182, 1, 114, 42, 180, 1, 91, 42, 180, 0, 212, 27, 47, 42, 180, 1, 91, 184, 1, 118, 109, 173]
abbrev dktX4_under_1 : List UInt8 := dkwX4_under_1 ++ []
def dkwX4_under_0 : List UInt8 := [42, 27, 182, 1, 109, 154, 0, 5, 9, 173, 42, 42, 180, 0, 215, 42, 180, 0, 217, 42, 180, 1, 106]
abbrev dktX4_under_0 : List UInt8 := dkwX4_under_0 ++ dktX4_under_1
theorem dksX4_under_0 : cX4_under.data.toList.drop 0 = dktX4_under_0 := by decide +kernel
theorem dksX4_under_1 : cX4_under.data.toList.drop 23 = dktX4_under_1 := dk_seg dksX4_under_0 23 rfl rfl
theorem dX4_under_0 : decode cX4_under 0 = .ok (.aload_n 0, 1) := dk_42 (dk_at dksX4_under_0 0 rfl rfl)
theorem dX4_under_1 : decode cX4_under 1 = .ok (.iload_n 1, 1) := dk_27 (dk_at dksX4_under_0 1 rfl rfl)
theorem dX4_under_2 : decode cX4_under 2 = .ok (.invokevirtual 365, 3) := dk_182 1 109 (dk_at dksX4_under_0 2 rfl rfl)
theorem dX4_under_5 : decode cX4_under 5 = .ok (.ifCond .ne 5, 3) := dk_154 0 5 (dk_at dksX4_under_0 5 rfl rfl)
theorem dX4_under_8 : decode cX4_under 8 = .ok (.lconst 0, 1) := dk_9 (dk_at dksX4_under_0 8 rfl rfl)
theorem dX4_under_9 : decode cX4_under 9 = .ok (.lreturn, 1) := dk_173 (dk_at dksX4_under_0 9 rfl rfl)
theorem dX4_under_10 : decode cX4_under 10 = .ok (.aload_n 0, 1) := dk_42 (dk_at dksX4_under_0 10 rfl rfl)
theorem dX4_under_11 : decode cX4_under 11 = .ok (.aload_n 0, 1) := dk_42 (dk_at dksX4_under_0 11 rfl rfl)
theorem dX4_under_12 : decode cX4_under 12 = .ok (.getfield 215, 3) := dk_180 0 215 (dk_at dksX4_under_0 12 rfl rfl)
theorem dX4_under_15 : decode cX4_under 15 = .ok (.aload_n 0, 1) := dk_42 (dk_at dksX4_under_0 15 rfl rfl)
theorem dX4_under_16 : decode cX4_under 16 = .ok (.getfield 217, 3) := dk_180 0 217 (dk_at dksX4_under_0 16 rfl rfl)
theorem dX4_under_19 : decode cX4_under 19 = .ok (.aload_n 0, 1) := dk_42 (dk_at dksX4_under_0 19 rfl rfl)
theorem dX4_under_20 : decode cX4_under 20 = .ok (.getfield 362, 3) := dk_180 1 106 (dk_at dksX4_under_0 20 rfl rfl)
theorem dX4_under_23 : decode cX4_under 23 = .ok (.invokevirtual 370, 3) := dk_182 1 114 (dk_at dksX4_under_1 0 rfl rfl)
theorem dX4_under_26 : decode cX4_under 26 = .ok (.aload_n 0, 1) := dk_42 (dk_at dksX4_under_1 3 rfl rfl)
theorem dX4_under_27 : decode cX4_under 27 = .ok (.getfield 347, 3) := dk_180 1 91 (dk_at dksX4_under_1 4 rfl rfl)
theorem dX4_under_30 : decode cX4_under 30 = .ok (.aload_n 0, 1) := dk_42 (dk_at dksX4_under_1 7 rfl rfl)
theorem dX4_under_31 : decode cX4_under 31 = .ok (.getfield 212, 3) := dk_180 0 212 (dk_at dksX4_under_1 8 rfl rfl)
theorem dX4_under_34 : decode cX4_under 34 = .ok (.iload_n 1, 1) := dk_27 (dk_at dksX4_under_1 11 rfl rfl)
theorem dX4_under_35 : decode cX4_under 35 = .ok (.laload, 1) := dk_47 (dk_at dksX4_under_1 12 rfl rfl)
theorem dX4_under_36 : decode cX4_under 36 = .ok (.aload_n 0, 1) := dk_42 (dk_at dksX4_under_1 13 rfl rfl)
theorem dX4_under_37 : decode cX4_under 37 = .ok (.getfield 347, 3) := dk_180 1 91 (dk_at dksX4_under_1 14 rfl rfl)
theorem dX4_under_40 : decode cX4_under 40 = .ok (.invokestatic 374, 3) := dk_184 1 118 (dk_at dksX4_under_1 17 rfl rfl)
theorem dX4_under_43 : decode cX4_under 43 = .ok (.ldiv, 1) := dk_109 (dk_at dksX4_under_1 20 rfl rfl)
theorem dX4_under_44 : decode cX4_under 44 = .ok (.lreturn, 1) := dk_173 (dk_at dksX4_under_1 21 rfl rfl)
abbrev cX4_hours : ByteArray := prog_9_method_45_code
def yX4_hours : MethodName := ⟨RX4, "hours", "(I)I"⟩
def dkwX4_hours_1 : List UInt8 := [172]
abbrev dktX4_hours_1 : List UInt8 := dkwX4_hours_1 ++ []
def dkwX4_hours_0 : List UInt8 := [27, 133, 9, 20, 1, 131, 184, 0, 52, 154, 0, 6, 16, 254, 172, 42, 27, 182, 1, 133, 42, 180, 1, 106]
abbrev dktX4_hours_0 : List UInt8 := dkwX4_hours_0 ++ dktX4_hours_1
theorem dksX4_hours_0 : cX4_hours.data.toList.drop 0 = dktX4_hours_0 := by decide +kernel
theorem dksX4_hours_1 : cX4_hours.data.toList.drop 24 = dktX4_hours_1 := dk_seg dksX4_hours_0 24 rfl rfl
theorem dX4_hours_0 : decode cX4_hours 0 = .ok (.iload_n 1, 1) := dk_27 (dk_at dksX4_hours_0 0 rfl rfl)
theorem dX4_hours_1 : decode cX4_hours 1 = .ok (.i2l, 1) := dk_133 (dk_at dksX4_hours_0 1 rfl rfl)
theorem dX4_hours_2 : decode cX4_hours 2 = .ok (.lconst 0, 1) := dk_9 (dk_at dksX4_hours_0 2 rfl rfl)
theorem dX4_hours_3 : decode cX4_hours 3 = .ok (.ldc2_w 387, 3) := dk_20 1 131 (dk_at dksX4_hours_0 3 rfl rfl)
theorem dX4_hours_6 : decode cX4_hours 6 = .ok (.invokestatic 52, 3) := dk_184 0 52 (dk_at dksX4_hours_0 6 rfl rfl)
theorem dX4_hours_9 : decode cX4_hours 9 = .ok (.ifCond .ne 6, 3) := dk_154 0 6 (dk_at dksX4_hours_0 9 rfl rfl)
theorem dX4_hours_12 : decode cX4_hours 12 = .ok (.bipush (-2), 2) := dk_16 254 (dk_at dksX4_hours_0 12 rfl rfl)
theorem dX4_hours_14 : decode cX4_hours 14 = .ok (.ireturn, 1) := dk_172 (dk_at dksX4_hours_0 14 rfl rfl)
theorem dX4_hours_15 : decode cX4_hours 15 = .ok (.aload_n 0, 1) := dk_42 (dk_at dksX4_hours_0 15 rfl rfl)
theorem dX4_hours_16 : decode cX4_hours 16 = .ok (.iload_n 1, 1) := dk_27 (dk_at dksX4_hours_0 16 rfl rfl)
theorem dX4_hours_17 : decode cX4_hours 17 = .ok (.invokevirtual 389, 3) := dk_182 1 133 (dk_at dksX4_hours_0 17 rfl rfl)
theorem dX4_hours_20 : decode cX4_hours 20 = .ok (.aload_n 0, 1) := dk_42 (dk_at dksX4_hours_0 20 rfl rfl)
theorem dX4_hours_21 : decode cX4_hours 21 = .ok (.getfield 362, 3) := dk_180 1 106 (dk_at dksX4_hours_0 21 rfl rfl)
theorem dX4_hours_24 : decode cX4_hours 24 = .ok (.ireturn, 1) := dk_172 (dk_at dksX4_hours_1 0 rfl rfl)
abbrev cX4_goOn : ByteArray := prog_9_method_44_code
def yX4_goOn : MethodName := ⟨RX4, "goOn", "(I)V"⟩
def dkwX4_goOn_1 : List UInt8 := [42, 180, 0, 180, 182, 1, 127, 42, 89, 180, 1, 106, 4, 96, 181, 1, 106, 132, 2, 1, 167, 255, 214, 177]
abbrev dktX4_goOn_1 : List UInt8 := dkwX4_goOn_1 ++ []
def dkwX4_goOn_0 : List UInt8 := [3, 61, 28, 27, 162, 0, 43, 42, 42, 180, 0, 215, 42, 180, 0, 217, 42, 180, 1, 106, 42, 180, 0, 177]
abbrev dktX4_goOn_0 : List UInt8 := dkwX4_goOn_0 ++ dktX4_goOn_1
theorem dksX4_goOn_0 : cX4_goOn.data.toList.drop 0 = dktX4_goOn_0 := by decide +kernel
theorem dksX4_goOn_1 : cX4_goOn.data.toList.drop 24 = dktX4_goOn_1 := dk_seg dksX4_goOn_0 24 rfl rfl
theorem dX4_goOn_0 : decode cX4_goOn 0 = .ok (.iconst 0, 1) := dk_3 (dk_at dksX4_goOn_0 0 rfl rfl)
theorem dX4_goOn_1 : decode cX4_goOn 1 = .ok (.istore_n 2, 1) := dk_61 (dk_at dksX4_goOn_0 1 rfl rfl)
theorem dX4_goOn_2 : decode cX4_goOn 2 = .ok (.iload_n 2, 1) := dk_28 (dk_at dksX4_goOn_0 2 rfl rfl)
theorem dX4_goOn_3 : decode cX4_goOn 3 = .ok (.iload_n 1, 1) := dk_27 (dk_at dksX4_goOn_0 3 rfl rfl)
theorem dX4_goOn_4 : decode cX4_goOn 4 = .ok (.if_icmp .ge 43, 3) := dk_162 0 43 (dk_at dksX4_goOn_0 4 rfl rfl)
theorem dX4_goOn_7 : decode cX4_goOn 7 = .ok (.aload_n 0, 1) := dk_42 (dk_at dksX4_goOn_0 7 rfl rfl)
theorem dX4_goOn_8 : decode cX4_goOn 8 = .ok (.aload_n 0, 1) := dk_42 (dk_at dksX4_goOn_0 8 rfl rfl)
theorem dX4_goOn_9 : decode cX4_goOn 9 = .ok (.getfield 215, 3) := dk_180 0 215 (dk_at dksX4_goOn_0 9 rfl rfl)
theorem dX4_goOn_12 : decode cX4_goOn 12 = .ok (.aload_n 0, 1) := dk_42 (dk_at dksX4_goOn_0 12 rfl rfl)
theorem dX4_goOn_13 : decode cX4_goOn 13 = .ok (.getfield 217, 3) := dk_180 0 217 (dk_at dksX4_goOn_0 13 rfl rfl)
theorem dX4_goOn_16 : decode cX4_goOn 16 = .ok (.aload_n 0, 1) := dk_42 (dk_at dksX4_goOn_0 16 rfl rfl)
theorem dX4_goOn_17 : decode cX4_goOn 17 = .ok (.getfield 362, 3) := dk_180 1 106 (dk_at dksX4_goOn_0 17 rfl rfl)
theorem dX4_goOn_20 : decode cX4_goOn 20 = .ok (.aload_n 0, 1) := dk_42 (dk_at dksX4_goOn_0 20 rfl rfl)
theorem dX4_goOn_21 : decode cX4_goOn 21 = .ok (.getfield 177, 3) := dk_180 0 177 (dk_at dksX4_goOn_0 21 rfl rfl)
theorem dX4_goOn_24 : decode cX4_goOn 24 = .ok (.aload_n 0, 1) := dk_42 (dk_at dksX4_goOn_1 0 rfl rfl)
theorem dX4_goOn_25 : decode cX4_goOn 25 = .ok (.getfield 180, 3) := dk_180 0 180 (dk_at dksX4_goOn_1 1 rfl rfl)
theorem dX4_goOn_28 : decode cX4_goOn 28 = .ok (.invokevirtual 383, 3) := dk_182 1 127 (dk_at dksX4_goOn_1 4 rfl rfl)
theorem dX4_goOn_31 : decode cX4_goOn 31 = .ok (.aload_n 0, 1) := dk_42 (dk_at dksX4_goOn_1 7 rfl rfl)
theorem dX4_goOn_32 : decode cX4_goOn 32 = .ok (.dup, 1) := dk_89 (dk_at dksX4_goOn_1 8 rfl rfl)
theorem dX4_goOn_33 : decode cX4_goOn 33 = .ok (.getfield 362, 3) := dk_180 1 106 (dk_at dksX4_goOn_1 9 rfl rfl)
theorem dX4_goOn_36 : decode cX4_goOn 36 = .ok (.iconst 1, 1) := dk_4 (dk_at dksX4_goOn_1 12 rfl rfl)
theorem dX4_goOn_37 : decode cX4_goOn 37 = .ok (.iadd, 1) := dk_96 (dk_at dksX4_goOn_1 13 rfl rfl)
theorem dX4_goOn_38 : decode cX4_goOn 38 = .ok (.putfield 362, 3) := dk_181 1 106 (dk_at dksX4_goOn_1 14 rfl rfl)
theorem dX4_goOn_41 : decode cX4_goOn 41 = .ok (.iinc 2 1, 3) := dk_132 2 1 (dk_at dksX4_goOn_1 17 rfl rfl)
theorem dX4_goOn_44 : decode cX4_goOn 44 = .ok (.goto (-42), 3) := dk_167 255 214 (dk_at dksX4_goOn_1 20 rfl rfl)
theorem dX4_goOn_47 : decode cX4_goOn 47 = .ok (.return_, 1) := dk_177 (dk_at dksX4_goOn_1 23 rfl rfl)
abbrev cX4_pass : ByteArray := prog_9_method_43_code
def yX4_pass : MethodName := ⟨RX4, "pass", "([I[IIII)V"⟩
def dkwX4_pass_8 : List UInt8 := [177]
abbrev dktX4_pass_8 : List UInt8 := dkwX4_pass_8 ++ []
def dkwX4_pass_7 : List UInt8 := [96, 184, 1, 86, 167, 0, 13, 3, 44, 21, 6, 46, 4, 100, 184, 1, 124, 79, 132, 6, 1, 167, 255, 82]
abbrev dktX4_pass_7 : List UInt8 := dkwX4_pass_7 ++ dktX4_pass_8
def dkwX4_pass_6 : List UInt8 := [158, 0, 31, 22, 7, 21, 5, 133, 42, 180, 1, 91, 105, 148, 155, 0, 17, 16, 9, 44, 21, 6, 46, 4]
abbrev dktX4_pass_6 : List UInt8 := dkwX4_pass_6 ++ dktX4_pass_7
def dkwX4_pass_5 : List UInt8 := [100, 79, 42, 180, 1, 47, 21, 6, 122, 4, 126, 4, 160, 0, 52, 44, 21, 6, 22, 7, 9, 148]
abbrev dktX4_pass_5 : List UInt8 := dkwX4_pass_5 ++ dktX4_pass_6
def dkwX4_pass_4 : List UInt8 := [79, 167, 0, 25, 22, 7, 21, 5, 133, 42, 180, 1, 91, 105, 148, 156, 0, 11, 43, 21, 6, 92, 46, 4]
abbrev dktX4_pass_4 : List UInt8 := dkwX4_pass_4 ++ dktX4_pass_5
def dkwX4_pass_3 : List UInt8 := [133, 42, 180, 1, 91, 105, 148, 155, 0, 21, 43, 21, 6, 16, 9, 43, 21, 6, 46, 4, 96, 184, 1, 86]
abbrev dktX4_pass_3 : List UInt8 := dkwX4_pass_3 ++ dktX4_pass_4
def dkwX4_pass_2 : List UInt8 := [20, 1, 68, 42, 180, 0, 212, 21, 6, 47, 105, 55, 7, 43, 21, 6, 46, 158, 0, 57, 22, 7, 21, 4]
abbrev dktX4_pass_2 : List UInt8 := dkwX4_pass_2 ++ dktX4_pass_3
def dkwX4_pass_1 : List UInt8 := [21, 6, 47, 9, 148, 156, 0, 17, 20, 1, 122, 42, 180, 0, 212, 21, 6, 47, 105, 167, 0, 14]
abbrev dktX4_pass_1 : List UInt8 := dkwX4_pass_1 ++ dktX4_pass_2
def dkwX4_pass_0 : List UInt8 := [42, 43, 44, 29, 182, 1, 114, 3, 54, 6, 21, 6, 42, 180, 1, 41, 162, 0, 171, 42, 180, 0, 212]
abbrev dktX4_pass_0 : List UInt8 := dkwX4_pass_0 ++ dktX4_pass_1
theorem dksX4_pass_0 : cX4_pass.data.toList.drop 0 = dktX4_pass_0 := by decide +kernel
theorem dksX4_pass_1 : cX4_pass.data.toList.drop 23 = dktX4_pass_1 := dk_seg dksX4_pass_0 23 rfl rfl
theorem dksX4_pass_2 : cX4_pass.data.toList.drop 45 = dktX4_pass_2 := dk_seg dksX4_pass_1 22 rfl rfl
theorem dksX4_pass_3 : cX4_pass.data.toList.drop 69 = dktX4_pass_3 := dk_seg dksX4_pass_2 24 rfl rfl
theorem dksX4_pass_4 : cX4_pass.data.toList.drop 93 = dktX4_pass_4 := dk_seg dksX4_pass_3 24 rfl rfl
theorem dksX4_pass_5 : cX4_pass.data.toList.drop 117 = dktX4_pass_5 := dk_seg dksX4_pass_4 24 rfl rfl
theorem dksX4_pass_6 : cX4_pass.data.toList.drop 139 = dktX4_pass_6 := dk_seg dksX4_pass_5 22 rfl rfl
theorem dksX4_pass_7 : cX4_pass.data.toList.drop 163 = dktX4_pass_7 := dk_seg dksX4_pass_6 24 rfl rfl
theorem dksX4_pass_8 : cX4_pass.data.toList.drop 187 = dktX4_pass_8 := dk_seg dksX4_pass_7 24 rfl rfl
theorem dX4_pass_0 : decode cX4_pass 0 = .ok (.aload_n 0, 1) := dk_42 (dk_at dksX4_pass_0 0 rfl rfl)
theorem dX4_pass_1 : decode cX4_pass 1 = .ok (.aload_n 1, 1) := dk_43 (dk_at dksX4_pass_0 1 rfl rfl)
theorem dX4_pass_2 : decode cX4_pass 2 = .ok (.aload_n 2, 1) := dk_44 (dk_at dksX4_pass_0 2 rfl rfl)
theorem dX4_pass_3 : decode cX4_pass 3 = .ok (.iload_n 3, 1) := dk_29 (dk_at dksX4_pass_0 3 rfl rfl)
theorem dX4_pass_4 : decode cX4_pass 4 = .ok (.invokevirtual 370, 3) := dk_182 1 114 (dk_at dksX4_pass_0 4 rfl rfl)
theorem dX4_pass_7 : decode cX4_pass 7 = .ok (.iconst 0, 1) := dk_3 (dk_at dksX4_pass_0 7 rfl rfl)
theorem dX4_pass_8 : decode cX4_pass 8 = .ok (.istore 6, 2) := dk_54 6 (dk_at dksX4_pass_0 8 rfl rfl)
theorem dX4_pass_10 : decode cX4_pass 10 = .ok (.iload 6, 2) := dk_21 6 (dk_at dksX4_pass_0 10 rfl rfl)
theorem dX4_pass_12 : decode cX4_pass 12 = .ok (.aload_n 0, 1) := dk_42 (dk_at dksX4_pass_0 12 rfl rfl)
theorem dX4_pass_13 : decode cX4_pass 13 = .ok (.getfield 297, 3) := dk_180 1 41 (dk_at dksX4_pass_0 13 rfl rfl)
theorem dX4_pass_16 : decode cX4_pass 16 = .ok (.if_icmp .ge 171, 3) := dk_162 0 171 (dk_at dksX4_pass_0 16 rfl rfl)
theorem dX4_pass_19 : decode cX4_pass 19 = .ok (.aload_n 0, 1) := dk_42 (dk_at dksX4_pass_0 19 rfl rfl)
theorem dX4_pass_20 : decode cX4_pass 20 = .ok (.getfield 212, 3) := dk_180 0 212 (dk_at dksX4_pass_0 20 rfl rfl)
theorem dX4_pass_23 : decode cX4_pass 23 = .ok (.iload 6, 2) := dk_21 6 (dk_at dksX4_pass_1 0 rfl rfl)
theorem dX4_pass_25 : decode cX4_pass 25 = .ok (.laload, 1) := dk_47 (dk_at dksX4_pass_1 2 rfl rfl)
theorem dX4_pass_26 : decode cX4_pass 26 = .ok (.lconst 0, 1) := dk_9 (dk_at dksX4_pass_1 3 rfl rfl)
theorem dX4_pass_27 : decode cX4_pass 27 = .ok (.lcmp, 1) := dk_148 (dk_at dksX4_pass_1 4 rfl rfl)
theorem dX4_pass_28 : decode cX4_pass 28 = .ok (.ifCond .ge 17, 3) := dk_156 0 17 (dk_at dksX4_pass_1 5 rfl rfl)
theorem dX4_pass_31 : decode cX4_pass 31 = .ok (.ldc2_w 378, 3) := dk_20 1 122 (dk_at dksX4_pass_1 8 rfl rfl)
theorem dX4_pass_34 : decode cX4_pass 34 = .ok (.aload_n 0, 1) := dk_42 (dk_at dksX4_pass_1 11 rfl rfl)
theorem dX4_pass_35 : decode cX4_pass 35 = .ok (.getfield 212, 3) := dk_180 0 212 (dk_at dksX4_pass_1 12 rfl rfl)
theorem dX4_pass_38 : decode cX4_pass 38 = .ok (.iload 6, 2) := dk_21 6 (dk_at dksX4_pass_1 15 rfl rfl)
theorem dX4_pass_40 : decode cX4_pass 40 = .ok (.laload, 1) := dk_47 (dk_at dksX4_pass_1 17 rfl rfl)
theorem dX4_pass_41 : decode cX4_pass 41 = .ok (.lmul, 1) := dk_105 (dk_at dksX4_pass_1 18 rfl rfl)
theorem dX4_pass_42 : decode cX4_pass 42 = .ok (.goto 14, 3) := dk_167 0 14 (dk_at dksX4_pass_1 19 rfl rfl)
theorem dX4_pass_45 : decode cX4_pass 45 = .ok (.ldc2_w 324, 3) := dk_20 1 68 (dk_at dksX4_pass_2 0 rfl rfl)
theorem dX4_pass_48 : decode cX4_pass 48 = .ok (.aload_n 0, 1) := dk_42 (dk_at dksX4_pass_2 3 rfl rfl)
theorem dX4_pass_49 : decode cX4_pass 49 = .ok (.getfield 212, 3) := dk_180 0 212 (dk_at dksX4_pass_2 4 rfl rfl)
theorem dX4_pass_52 : decode cX4_pass 52 = .ok (.iload 6, 2) := dk_21 6 (dk_at dksX4_pass_2 7 rfl rfl)
theorem dX4_pass_54 : decode cX4_pass 54 = .ok (.laload, 1) := dk_47 (dk_at dksX4_pass_2 9 rfl rfl)
theorem dX4_pass_55 : decode cX4_pass 55 = .ok (.lmul, 1) := dk_105 (dk_at dksX4_pass_2 10 rfl rfl)
theorem dX4_pass_56 : decode cX4_pass 56 = .ok (.lstore 7, 2) := dk_55 7 (dk_at dksX4_pass_2 11 rfl rfl)
theorem dX4_pass_58 : decode cX4_pass 58 = .ok (.aload_n 1, 1) := dk_43 (dk_at dksX4_pass_2 13 rfl rfl)
theorem dX4_pass_59 : decode cX4_pass 59 = .ok (.iload 6, 2) := dk_21 6 (dk_at dksX4_pass_2 14 rfl rfl)
theorem dX4_pass_61 : decode cX4_pass 61 = .ok (.iaload, 1) := dk_46 (dk_at dksX4_pass_2 16 rfl rfl)
theorem dX4_pass_62 : decode cX4_pass 62 = .ok (.ifCond .le 57, 3) := dk_158 0 57 (dk_at dksX4_pass_2 17 rfl rfl)
theorem dX4_pass_65 : decode cX4_pass 65 = .ok (.lload 7, 2) := dk_22 7 (dk_at dksX4_pass_2 20 rfl rfl)
theorem dX4_pass_67 : decode cX4_pass 67 = .ok (.iload 4, 2) := dk_21 4 (dk_at dksX4_pass_2 22 rfl rfl)
theorem dX4_pass_69 : decode cX4_pass 69 = .ok (.i2l, 1) := dk_133 (dk_at dksX4_pass_3 0 rfl rfl)
theorem dX4_pass_70 : decode cX4_pass 70 = .ok (.aload_n 0, 1) := dk_42 (dk_at dksX4_pass_3 1 rfl rfl)
theorem dX4_pass_71 : decode cX4_pass 71 = .ok (.getfield 347, 3) := dk_180 1 91 (dk_at dksX4_pass_3 2 rfl rfl)
theorem dX4_pass_74 : decode cX4_pass 74 = .ok (.lmul, 1) := dk_105 (dk_at dksX4_pass_3 5 rfl rfl)
theorem dX4_pass_75 : decode cX4_pass 75 = .ok (.lcmp, 1) := dk_148 (dk_at dksX4_pass_3 6 rfl rfl)
theorem dX4_pass_76 : decode cX4_pass 76 = .ok (.ifCond .lt 21, 3) := dk_155 0 21 (dk_at dksX4_pass_3 7 rfl rfl)
theorem dX4_pass_79 : decode cX4_pass 79 = .ok (.aload_n 1, 1) := dk_43 (dk_at dksX4_pass_3 10 rfl rfl)
theorem dX4_pass_80 : decode cX4_pass 80 = .ok (.iload 6, 2) := dk_21 6 (dk_at dksX4_pass_3 11 rfl rfl)
theorem dX4_pass_82 : decode cX4_pass 82 = .ok (.bipush 9, 2) := dk_16 9 (dk_at dksX4_pass_3 13 rfl rfl)
theorem dX4_pass_84 : decode cX4_pass 84 = .ok (.aload_n 1, 1) := dk_43 (dk_at dksX4_pass_3 15 rfl rfl)
theorem dX4_pass_85 : decode cX4_pass 85 = .ok (.iload 6, 2) := dk_21 6 (dk_at dksX4_pass_3 16 rfl rfl)
theorem dX4_pass_87 : decode cX4_pass 87 = .ok (.iaload, 1) := dk_46 (dk_at dksX4_pass_3 18 rfl rfl)
theorem dX4_pass_88 : decode cX4_pass 88 = .ok (.iconst 1, 1) := dk_4 (dk_at dksX4_pass_3 19 rfl rfl)
theorem dX4_pass_89 : decode cX4_pass 89 = .ok (.iadd, 1) := dk_96 (dk_at dksX4_pass_3 20 rfl rfl)
theorem dX4_pass_90 : decode cX4_pass 90 = .ok (.invokestatic 342, 3) := dk_184 1 86 (dk_at dksX4_pass_3 21 rfl rfl)
theorem dX4_pass_93 : decode cX4_pass 93 = .ok (.iastore, 1) := dk_79 (dk_at dksX4_pass_4 0 rfl rfl)
theorem dX4_pass_94 : decode cX4_pass 94 = .ok (.goto 25, 3) := dk_167 0 25 (dk_at dksX4_pass_4 1 rfl rfl)
theorem dX4_pass_97 : decode cX4_pass 97 = .ok (.lload 7, 2) := dk_22 7 (dk_at dksX4_pass_4 4 rfl rfl)
theorem dX4_pass_99 : decode cX4_pass 99 = .ok (.iload 5, 2) := dk_21 5 (dk_at dksX4_pass_4 6 rfl rfl)
theorem dX4_pass_101 : decode cX4_pass 101 = .ok (.i2l, 1) := dk_133 (dk_at dksX4_pass_4 8 rfl rfl)
theorem dX4_pass_102 : decode cX4_pass 102 = .ok (.aload_n 0, 1) := dk_42 (dk_at dksX4_pass_4 9 rfl rfl)
theorem dX4_pass_103 : decode cX4_pass 103 = .ok (.getfield 347, 3) := dk_180 1 91 (dk_at dksX4_pass_4 10 rfl rfl)
theorem dX4_pass_106 : decode cX4_pass 106 = .ok (.lmul, 1) := dk_105 (dk_at dksX4_pass_4 13 rfl rfl)
theorem dX4_pass_107 : decode cX4_pass 107 = .ok (.lcmp, 1) := dk_148 (dk_at dksX4_pass_4 14 rfl rfl)
theorem dX4_pass_108 : decode cX4_pass 108 = .ok (.ifCond .ge 11, 3) := dk_156 0 11 (dk_at dksX4_pass_4 15 rfl rfl)
theorem dX4_pass_111 : decode cX4_pass 111 = .ok (.aload_n 1, 1) := dk_43 (dk_at dksX4_pass_4 18 rfl rfl)
theorem dX4_pass_112 : decode cX4_pass 112 = .ok (.iload 6, 2) := dk_21 6 (dk_at dksX4_pass_4 19 rfl rfl)
theorem dX4_pass_114 : decode cX4_pass 114 = .ok (.dup2, 1) := dk_92 (dk_at dksX4_pass_4 21 rfl rfl)
theorem dX4_pass_115 : decode cX4_pass 115 = .ok (.iaload, 1) := dk_46 (dk_at dksX4_pass_4 22 rfl rfl)
theorem dX4_pass_116 : decode cX4_pass 116 = .ok (.iconst 1, 1) := dk_4 (dk_at dksX4_pass_4 23 rfl rfl)
theorem dX4_pass_117 : decode cX4_pass 117 = .ok (.isub, 1) := dk_100 (dk_at dksX4_pass_5 0 rfl rfl)
theorem dX4_pass_118 : decode cX4_pass 118 = .ok (.iastore, 1) := dk_79 (dk_at dksX4_pass_5 1 rfl rfl)
theorem dX4_pass_119 : decode cX4_pass 119 = .ok (.aload_n 0, 1) := dk_42 (dk_at dksX4_pass_5 2 rfl rfl)
theorem dX4_pass_120 : decode cX4_pass 120 = .ok (.getfield 303, 3) := dk_180 1 47 (dk_at dksX4_pass_5 3 rfl rfl)
theorem dX4_pass_123 : decode cX4_pass 123 = .ok (.iload 6, 2) := dk_21 6 (dk_at dksX4_pass_5 6 rfl rfl)
theorem dX4_pass_125 : decode cX4_pass 125 = .ok (.ishr, 1) := dk_122 (dk_at dksX4_pass_5 8 rfl rfl)
theorem dX4_pass_126 : decode cX4_pass 126 = .ok (.iconst 1, 1) := dk_4 (dk_at dksX4_pass_5 9 rfl rfl)
theorem dX4_pass_127 : decode cX4_pass 127 = .ok (.iand, 1) := dk_126 (dk_at dksX4_pass_5 10 rfl rfl)
theorem dX4_pass_128 : decode cX4_pass 128 = .ok (.iconst 1, 1) := dk_4 (dk_at dksX4_pass_5 11 rfl rfl)
theorem dX4_pass_129 : decode cX4_pass 129 = .ok (.if_icmp .ne 52, 3) := dk_160 0 52 (dk_at dksX4_pass_5 12 rfl rfl)
theorem dX4_pass_132 : decode cX4_pass 132 = .ok (.aload_n 2, 1) := dk_44 (dk_at dksX4_pass_5 15 rfl rfl)
theorem dX4_pass_133 : decode cX4_pass 133 = .ok (.iload 6, 2) := dk_21 6 (dk_at dksX4_pass_5 16 rfl rfl)
theorem dX4_pass_135 : decode cX4_pass 135 = .ok (.lload 7, 2) := dk_22 7 (dk_at dksX4_pass_5 18 rfl rfl)
theorem dX4_pass_137 : decode cX4_pass 137 = .ok (.lconst 0, 1) := dk_9 (dk_at dksX4_pass_5 20 rfl rfl)
theorem dX4_pass_138 : decode cX4_pass 138 = .ok (.lcmp, 1) := dk_148 (dk_at dksX4_pass_5 21 rfl rfl)
theorem dX4_pass_139 : decode cX4_pass 139 = .ok (.ifCond .le 31, 3) := dk_158 0 31 (dk_at dksX4_pass_6 0 rfl rfl)
theorem dX4_pass_142 : decode cX4_pass 142 = .ok (.lload 7, 2) := dk_22 7 (dk_at dksX4_pass_6 3 rfl rfl)
theorem dX4_pass_144 : decode cX4_pass 144 = .ok (.iload 5, 2) := dk_21 5 (dk_at dksX4_pass_6 5 rfl rfl)
theorem dX4_pass_146 : decode cX4_pass 146 = .ok (.i2l, 1) := dk_133 (dk_at dksX4_pass_6 7 rfl rfl)
theorem dX4_pass_147 : decode cX4_pass 147 = .ok (.aload_n 0, 1) := dk_42 (dk_at dksX4_pass_6 8 rfl rfl)
theorem dX4_pass_148 : decode cX4_pass 148 = .ok (.getfield 347, 3) := dk_180 1 91 (dk_at dksX4_pass_6 9 rfl rfl)
theorem dX4_pass_151 : decode cX4_pass 151 = .ok (.lmul, 1) := dk_105 (dk_at dksX4_pass_6 12 rfl rfl)
theorem dX4_pass_152 : decode cX4_pass 152 = .ok (.lcmp, 1) := dk_148 (dk_at dksX4_pass_6 13 rfl rfl)
theorem dX4_pass_153 : decode cX4_pass 153 = .ok (.ifCond .lt 17, 3) := dk_155 0 17 (dk_at dksX4_pass_6 14 rfl rfl)
theorem dX4_pass_156 : decode cX4_pass 156 = .ok (.bipush 9, 2) := dk_16 9 (dk_at dksX4_pass_6 17 rfl rfl)
theorem dX4_pass_158 : decode cX4_pass 158 = .ok (.aload_n 2, 1) := dk_44 (dk_at dksX4_pass_6 19 rfl rfl)
theorem dX4_pass_159 : decode cX4_pass 159 = .ok (.iload 6, 2) := dk_21 6 (dk_at dksX4_pass_6 20 rfl rfl)
theorem dX4_pass_161 : decode cX4_pass 161 = .ok (.iaload, 1) := dk_46 (dk_at dksX4_pass_6 22 rfl rfl)
theorem dX4_pass_162 : decode cX4_pass 162 = .ok (.iconst 1, 1) := dk_4 (dk_at dksX4_pass_6 23 rfl rfl)
theorem dX4_pass_163 : decode cX4_pass 163 = .ok (.iadd, 1) := dk_96 (dk_at dksX4_pass_7 0 rfl rfl)
theorem dX4_pass_164 : decode cX4_pass 164 = .ok (.invokestatic 342, 3) := dk_184 1 86 (dk_at dksX4_pass_7 1 rfl rfl)
theorem dX4_pass_167 : decode cX4_pass 167 = .ok (.goto 13, 3) := dk_167 0 13 (dk_at dksX4_pass_7 4 rfl rfl)
theorem dX4_pass_170 : decode cX4_pass 170 = .ok (.iconst 0, 1) := dk_3 (dk_at dksX4_pass_7 7 rfl rfl)
theorem dX4_pass_171 : decode cX4_pass 171 = .ok (.aload_n 2, 1) := dk_44 (dk_at dksX4_pass_7 8 rfl rfl)
theorem dX4_pass_172 : decode cX4_pass 172 = .ok (.iload 6, 2) := dk_21 6 (dk_at dksX4_pass_7 9 rfl rfl)
theorem dX4_pass_174 : decode cX4_pass 174 = .ok (.iaload, 1) := dk_46 (dk_at dksX4_pass_7 11 rfl rfl)
theorem dX4_pass_175 : decode cX4_pass 175 = .ok (.iconst 1, 1) := dk_4 (dk_at dksX4_pass_7 12 rfl rfl)
theorem dX4_pass_176 : decode cX4_pass 176 = .ok (.isub, 1) := dk_100 (dk_at dksX4_pass_7 13 rfl rfl)
theorem dX4_pass_177 : decode cX4_pass 177 = .ok (.invokestatic 380, 3) := dk_184 1 124 (dk_at dksX4_pass_7 14 rfl rfl)
theorem dX4_pass_180 : decode cX4_pass 180 = .ok (.iastore, 1) := dk_79 (dk_at dksX4_pass_7 17 rfl rfl)
theorem dX4_pass_181 : decode cX4_pass 181 = .ok (.iinc 6 1, 3) := dk_132 6 1 (dk_at dksX4_pass_7 18 rfl rfl)
theorem dX4_pass_184 : decode cX4_pass 184 = .ok (.goto (-174), 3) := dk_167 255 82 (dk_at dksX4_pass_7 21 rfl rfl)
theorem dX4_pass_187 : decode cX4_pass 187 = .ok (.return_, 1) := dk_177 (dk_at dksX4_pass_8 0 rfl rfl)
abbrev cX4_rest : ByteArray := prog_9_method_48_code
def yX4_rest : MethodName := ⟨RX4, "rest", "()I"⟩
def dkwX4_rest_3 : List UInt8 := [2, 172]
abbrev dktX4_rest_3 : List UInt8 := dkwX4_rest_3 ++ []
def dkwX4_rest_2 : List UInt8 := [28, 100, 181, 0, 226, 27, 172, 132, 2, 255, 167, 255, 229, 42, 27, 182, 1, 136, 132, 1, 1, 167, 255, 195]
abbrev dktX4_rest_2 : List UInt8 := dkwX4_rest_2 ++ dktX4_rest_3
def dkwX4_rest_1 : List UInt8 := [182, 1, 133, 27, 4, 100, 61, 28, 155, 0, 29, 42, 28, 182, 1, 139, 154, 0, 6, 167, 0, 12, 42, 27]
abbrev dktX4_rest_1 : List UInt8 := dkwX4_rest_1 ++ dktX4_rest_2
def dkwX4_rest_0 : List UInt8 := [42, 3, 182, 1, 136, 4, 60, 27, 17, 0, 200, 163, 0, 60, 42, 4, 42, 182, 1, 80, 184, 1, 124]
abbrev dktX4_rest_0 : List UInt8 := dkwX4_rest_0 ++ dktX4_rest_1
theorem dksX4_rest_0 : cX4_rest.data.toList.drop 0 = dktX4_rest_0 := by decide +kernel
theorem dksX4_rest_1 : cX4_rest.data.toList.drop 23 = dktX4_rest_1 := dk_seg dksX4_rest_0 23 rfl rfl
theorem dksX4_rest_2 : cX4_rest.data.toList.drop 47 = dktX4_rest_2 := dk_seg dksX4_rest_1 24 rfl rfl
theorem dksX4_rest_3 : cX4_rest.data.toList.drop 71 = dktX4_rest_3 := dk_seg dksX4_rest_2 24 rfl rfl
theorem dX4_rest_0 : decode cX4_rest 0 = .ok (.aload_n 0, 1) := dk_42 (dk_at dksX4_rest_0 0 rfl rfl)
theorem dX4_rest_1 : decode cX4_rest 1 = .ok (.iconst 0, 1) := dk_3 (dk_at dksX4_rest_0 1 rfl rfl)
theorem dX4_rest_2 : decode cX4_rest 2 = .ok (.invokevirtual 392, 3) := dk_182 1 136 (dk_at dksX4_rest_0 2 rfl rfl)
theorem dX4_rest_5 : decode cX4_rest 5 = .ok (.iconst 1, 1) := dk_4 (dk_at dksX4_rest_0 5 rfl rfl)
theorem dX4_rest_6 : decode cX4_rest 6 = .ok (.istore_n 1, 1) := dk_60 (dk_at dksX4_rest_0 6 rfl rfl)
theorem dX4_rest_7 : decode cX4_rest 7 = .ok (.iload_n 1, 1) := dk_27 (dk_at dksX4_rest_0 7 rfl rfl)
theorem dX4_rest_8 : decode cX4_rest 8 = .ok (.sipush 200, 3) := dk_17 0 200 (dk_at dksX4_rest_0 8 rfl rfl)
theorem dX4_rest_11 : decode cX4_rest 11 = .ok (.if_icmp .gt 60, 3) := dk_163 0 60 (dk_at dksX4_rest_0 11 rfl rfl)
theorem dX4_rest_14 : decode cX4_rest 14 = .ok (.aload_n 0, 1) := dk_42 (dk_at dksX4_rest_0 14 rfl rfl)
theorem dX4_rest_15 : decode cX4_rest 15 = .ok (.iconst 1, 1) := dk_4 (dk_at dksX4_rest_0 15 rfl rfl)
theorem dX4_rest_16 : decode cX4_rest 16 = .ok (.aload_n 0, 1) := dk_42 (dk_at dksX4_rest_0 16 rfl rfl)
theorem dX4_rest_17 : decode cX4_rest 17 = .ok (.invokevirtual 336, 3) := dk_182 1 80 (dk_at dksX4_rest_0 17 rfl rfl)
theorem dX4_rest_20 : decode cX4_rest 20 = .ok (.invokestatic 380, 3) := dk_184 1 124 (dk_at dksX4_rest_0 20 rfl rfl)
theorem dX4_rest_23 : decode cX4_rest 23 = .ok (.invokevirtual 389, 3) := dk_182 1 133 (dk_at dksX4_rest_1 0 rfl rfl)
theorem dX4_rest_26 : decode cX4_rest 26 = .ok (.iload_n 1, 1) := dk_27 (dk_at dksX4_rest_1 3 rfl rfl)
theorem dX4_rest_27 : decode cX4_rest 27 = .ok (.iconst 1, 1) := dk_4 (dk_at dksX4_rest_1 4 rfl rfl)
theorem dX4_rest_28 : decode cX4_rest 28 = .ok (.isub, 1) := dk_100 (dk_at dksX4_rest_1 5 rfl rfl)
theorem dX4_rest_29 : decode cX4_rest 29 = .ok (.istore_n 2, 1) := dk_61 (dk_at dksX4_rest_1 6 rfl rfl)
theorem dX4_rest_30 : decode cX4_rest 30 = .ok (.iload_n 2, 1) := dk_28 (dk_at dksX4_rest_1 7 rfl rfl)
theorem dX4_rest_31 : decode cX4_rest 31 = .ok (.ifCond .lt 29, 3) := dk_155 0 29 (dk_at dksX4_rest_1 8 rfl rfl)
theorem dX4_rest_34 : decode cX4_rest 34 = .ok (.aload_n 0, 1) := dk_42 (dk_at dksX4_rest_1 11 rfl rfl)
theorem dX4_rest_35 : decode cX4_rest 35 = .ok (.iload_n 2, 1) := dk_28 (dk_at dksX4_rest_1 12 rfl rfl)
theorem dX4_rest_36 : decode cX4_rest 36 = .ok (.invokevirtual 395, 3) := dk_182 1 139 (dk_at dksX4_rest_1 13 rfl rfl)
theorem dX4_rest_39 : decode cX4_rest 39 = .ok (.ifCond .ne 6, 3) := dk_154 0 6 (dk_at dksX4_rest_1 16 rfl rfl)
theorem dX4_rest_42 : decode cX4_rest 42 = .ok (.goto 12, 3) := dk_167 0 12 (dk_at dksX4_rest_1 19 rfl rfl)
theorem dX4_rest_45 : decode cX4_rest 45 = .ok (.aload_n 0, 1) := dk_42 (dk_at dksX4_rest_1 22 rfl rfl)
theorem dX4_rest_46 : decode cX4_rest 46 = .ok (.iload_n 1, 1) := dk_27 (dk_at dksX4_rest_1 23 rfl rfl)
theorem dX4_rest_47 : decode cX4_rest 47 = .ok (.iload_n 2, 1) := dk_28 (dk_at dksX4_rest_2 0 rfl rfl)
theorem dX4_rest_48 : decode cX4_rest 48 = .ok (.isub, 1) := dk_100 (dk_at dksX4_rest_2 1 rfl rfl)
theorem dX4_rest_49 : decode cX4_rest 49 = .ok (.putfield 226, 3) := dk_181 0 226 (dk_at dksX4_rest_2 2 rfl rfl)
theorem dX4_rest_52 : decode cX4_rest 52 = .ok (.iload_n 1, 1) := dk_27 (dk_at dksX4_rest_2 5 rfl rfl)
theorem dX4_rest_53 : decode cX4_rest 53 = .ok (.ireturn, 1) := dk_172 (dk_at dksX4_rest_2 6 rfl rfl)
theorem dX4_rest_54 : decode cX4_rest 54 = .ok (.iinc 2 (-1), 3) := dk_132 2 255 (dk_at dksX4_rest_2 7 rfl rfl)
theorem dX4_rest_57 : decode cX4_rest 57 = .ok (.goto (-27), 3) := dk_167 255 229 (dk_at dksX4_rest_2 10 rfl rfl)
theorem dX4_rest_60 : decode cX4_rest 60 = .ok (.aload_n 0, 1) := dk_42 (dk_at dksX4_rest_2 13 rfl rfl)
theorem dX4_rest_61 : decode cX4_rest 61 = .ok (.iload_n 1, 1) := dk_27 (dk_at dksX4_rest_2 14 rfl rfl)
theorem dX4_rest_62 : decode cX4_rest 62 = .ok (.invokevirtual 392, 3) := dk_182 1 136 (dk_at dksX4_rest_2 15 rfl rfl)
theorem dX4_rest_65 : decode cX4_rest 65 = .ok (.iinc 1 1, 3) := dk_132 1 1 (dk_at dksX4_rest_2 18 rfl rfl)
theorem dX4_rest_68 : decode cX4_rest 68 = .ok (.goto (-61), 3) := dk_167 255 195 (dk_at dksX4_rest_2 21 rfl rfl)
theorem dX4_rest_71 : decode cX4_rest 71 = .ok (.iconst (-1), 1) := dk_2 (dk_at dksX4_rest_3 0 rfl rfl)
theorem dX4_rest_72 : decode cX4_rest 72 = .ok (.ireturn, 1) := dk_172 (dk_at dksX4_rest_3 1 rfl rfl)
abbrev cX4_note : ByteArray := prog_9_method_46_code
def yX4_note : MethodName := ⟨RX4, "note", "(I)V"⟩
def dkwX4_note_2 : List UInt8 := [167, 255, 211, 177]
abbrev dktX4_note_2 : List UInt8 := dkwX4_note_2 ++ []
def dkwX4_note_1 : List UInt8 := [28, 46, 79, 42, 180, 0, 223, 16, 10, 27, 104, 28, 96, 42, 180, 0, 217, 28, 46, 79, 132, 2, 1]
abbrev dktX4_note_1 : List UInt8 := dkwX4_note_1 ++ dktX4_note_2
def dkwX4_note_0 : List UInt8 := [3, 61, 28, 42, 180, 1, 41, 162, 0, 43, 42, 180, 0, 220, 16, 10, 27, 104, 28, 96, 42, 180, 0, 215]
abbrev dktX4_note_0 : List UInt8 := dkwX4_note_0 ++ dktX4_note_1
theorem dksX4_note_0 : cX4_note.data.toList.drop 0 = dktX4_note_0 := by decide +kernel
theorem dksX4_note_1 : cX4_note.data.toList.drop 24 = dktX4_note_1 := dk_seg dksX4_note_0 24 rfl rfl
theorem dksX4_note_2 : cX4_note.data.toList.drop 47 = dktX4_note_2 := dk_seg dksX4_note_1 23 rfl rfl
theorem dX4_note_0 : decode cX4_note 0 = .ok (.iconst 0, 1) := dk_3 (dk_at dksX4_note_0 0 rfl rfl)
theorem dX4_note_1 : decode cX4_note 1 = .ok (.istore_n 2, 1) := dk_61 (dk_at dksX4_note_0 1 rfl rfl)
theorem dX4_note_2 : decode cX4_note 2 = .ok (.iload_n 2, 1) := dk_28 (dk_at dksX4_note_0 2 rfl rfl)
theorem dX4_note_3 : decode cX4_note 3 = .ok (.aload_n 0, 1) := dk_42 (dk_at dksX4_note_0 3 rfl rfl)
theorem dX4_note_4 : decode cX4_note 4 = .ok (.getfield 297, 3) := dk_180 1 41 (dk_at dksX4_note_0 4 rfl rfl)
theorem dX4_note_7 : decode cX4_note 7 = .ok (.if_icmp .ge 43, 3) := dk_162 0 43 (dk_at dksX4_note_0 7 rfl rfl)
theorem dX4_note_10 : decode cX4_note 10 = .ok (.aload_n 0, 1) := dk_42 (dk_at dksX4_note_0 10 rfl rfl)
theorem dX4_note_11 : decode cX4_note 11 = .ok (.getfield 220, 3) := dk_180 0 220 (dk_at dksX4_note_0 11 rfl rfl)
theorem dX4_note_14 : decode cX4_note 14 = .ok (.bipush 10, 2) := dk_16 10 (dk_at dksX4_note_0 14 rfl rfl)
theorem dX4_note_16 : decode cX4_note 16 = .ok (.iload_n 1, 1) := dk_27 (dk_at dksX4_note_0 16 rfl rfl)
theorem dX4_note_17 : decode cX4_note 17 = .ok (.imul, 1) := dk_104 (dk_at dksX4_note_0 17 rfl rfl)
theorem dX4_note_18 : decode cX4_note 18 = .ok (.iload_n 2, 1) := dk_28 (dk_at dksX4_note_0 18 rfl rfl)
theorem dX4_note_19 : decode cX4_note 19 = .ok (.iadd, 1) := dk_96 (dk_at dksX4_note_0 19 rfl rfl)
theorem dX4_note_20 : decode cX4_note 20 = .ok (.aload_n 0, 1) := dk_42 (dk_at dksX4_note_0 20 rfl rfl)
theorem dX4_note_21 : decode cX4_note 21 = .ok (.getfield 215, 3) := dk_180 0 215 (dk_at dksX4_note_0 21 rfl rfl)
theorem dX4_note_24 : decode cX4_note 24 = .ok (.iload_n 2, 1) := dk_28 (dk_at dksX4_note_1 0 rfl rfl)
theorem dX4_note_25 : decode cX4_note 25 = .ok (.iaload, 1) := dk_46 (dk_at dksX4_note_1 1 rfl rfl)
theorem dX4_note_26 : decode cX4_note 26 = .ok (.iastore, 1) := dk_79 (dk_at dksX4_note_1 2 rfl rfl)
theorem dX4_note_27 : decode cX4_note 27 = .ok (.aload_n 0, 1) := dk_42 (dk_at dksX4_note_1 3 rfl rfl)
theorem dX4_note_28 : decode cX4_note 28 = .ok (.getfield 223, 3) := dk_180 0 223 (dk_at dksX4_note_1 4 rfl rfl)
theorem dX4_note_31 : decode cX4_note 31 = .ok (.bipush 10, 2) := dk_16 10 (dk_at dksX4_note_1 7 rfl rfl)
theorem dX4_note_33 : decode cX4_note 33 = .ok (.iload_n 1, 1) := dk_27 (dk_at dksX4_note_1 9 rfl rfl)
theorem dX4_note_34 : decode cX4_note 34 = .ok (.imul, 1) := dk_104 (dk_at dksX4_note_1 10 rfl rfl)
theorem dX4_note_35 : decode cX4_note 35 = .ok (.iload_n 2, 1) := dk_28 (dk_at dksX4_note_1 11 rfl rfl)
theorem dX4_note_36 : decode cX4_note 36 = .ok (.iadd, 1) := dk_96 (dk_at dksX4_note_1 12 rfl rfl)
theorem dX4_note_37 : decode cX4_note 37 = .ok (.aload_n 0, 1) := dk_42 (dk_at dksX4_note_1 13 rfl rfl)
theorem dX4_note_38 : decode cX4_note 38 = .ok (.getfield 217, 3) := dk_180 0 217 (dk_at dksX4_note_1 14 rfl rfl)
theorem dX4_note_41 : decode cX4_note 41 = .ok (.iload_n 2, 1) := dk_28 (dk_at dksX4_note_1 17 rfl rfl)
theorem dX4_note_42 : decode cX4_note 42 = .ok (.iaload, 1) := dk_46 (dk_at dksX4_note_1 18 rfl rfl)
theorem dX4_note_43 : decode cX4_note 43 = .ok (.iastore, 1) := dk_79 (dk_at dksX4_note_1 19 rfl rfl)
theorem dX4_note_44 : decode cX4_note 44 = .ok (.iinc 2 1, 3) := dk_132 2 1 (dk_at dksX4_note_1 20 rfl rfl)
theorem dX4_note_47 : decode cX4_note 47 = .ok (.goto (-45), 3) := dk_167 255 211 (dk_at dksX4_note_2 0 rfl rfl)
theorem dX4_note_50 : decode cX4_note 50 = .ok (.return_, 1) := dk_177 (dk_at dksX4_note_2 3 rfl rfl)
abbrev cX4_isAsIn : ByteArray := prog_9_method_47_code
def yX4_isAsIn : MethodName := ⟨RX4, "isAsIn", "(I)Z"⟩
def dkwX4_isAsIn_2 : List UInt8 := [46, 159, 0, 5, 3, 172, 132, 2, 1, 167, 255, 203, 4, 172]
abbrev dktX4_isAsIn_2 : List UInt8 := dkwX4_isAsIn_2 ++ []
def dkwX4_isAsIn_1 : List UInt8 := [180, 0, 215, 28, 46, 160, 0, 23, 42, 180, 0, 223, 16, 10, 27, 104, 28, 96, 46, 42, 180, 0, 217, 28]
abbrev dktX4_isAsIn_1 : List UInt8 := dkwX4_isAsIn_1 ++ dktX4_isAsIn_2
def dkwX4_isAsIn_0 : List UInt8 := [3, 61, 28, 42, 180, 1, 41, 162, 0, 51, 42, 180, 0, 220, 16, 10, 27, 104, 28, 96, 46, 42]
abbrev dktX4_isAsIn_0 : List UInt8 := dkwX4_isAsIn_0 ++ dktX4_isAsIn_1
theorem dksX4_isAsIn_0 : cX4_isAsIn.data.toList.drop 0 = dktX4_isAsIn_0 := by decide +kernel
theorem dksX4_isAsIn_1 : cX4_isAsIn.data.toList.drop 22 = dktX4_isAsIn_1 := dk_seg dksX4_isAsIn_0 22 rfl rfl
theorem dksX4_isAsIn_2 : cX4_isAsIn.data.toList.drop 46 = dktX4_isAsIn_2 := dk_seg dksX4_isAsIn_1 24 rfl rfl
theorem dX4_isAsIn_0 : decode cX4_isAsIn 0 = .ok (.iconst 0, 1) := dk_3 (dk_at dksX4_isAsIn_0 0 rfl rfl)
theorem dX4_isAsIn_1 : decode cX4_isAsIn 1 = .ok (.istore_n 2, 1) := dk_61 (dk_at dksX4_isAsIn_0 1 rfl rfl)
theorem dX4_isAsIn_2 : decode cX4_isAsIn 2 = .ok (.iload_n 2, 1) := dk_28 (dk_at dksX4_isAsIn_0 2 rfl rfl)
theorem dX4_isAsIn_3 : decode cX4_isAsIn 3 = .ok (.aload_n 0, 1) := dk_42 (dk_at dksX4_isAsIn_0 3 rfl rfl)
theorem dX4_isAsIn_4 : decode cX4_isAsIn 4 = .ok (.getfield 297, 3) := dk_180 1 41 (dk_at dksX4_isAsIn_0 4 rfl rfl)
theorem dX4_isAsIn_7 : decode cX4_isAsIn 7 = .ok (.if_icmp .ge 51, 3) := dk_162 0 51 (dk_at dksX4_isAsIn_0 7 rfl rfl)
theorem dX4_isAsIn_10 : decode cX4_isAsIn 10 = .ok (.aload_n 0, 1) := dk_42 (dk_at dksX4_isAsIn_0 10 rfl rfl)
theorem dX4_isAsIn_11 : decode cX4_isAsIn 11 = .ok (.getfield 220, 3) := dk_180 0 220 (dk_at dksX4_isAsIn_0 11 rfl rfl)
theorem dX4_isAsIn_14 : decode cX4_isAsIn 14 = .ok (.bipush 10, 2) := dk_16 10 (dk_at dksX4_isAsIn_0 14 rfl rfl)
theorem dX4_isAsIn_16 : decode cX4_isAsIn 16 = .ok (.iload_n 1, 1) := dk_27 (dk_at dksX4_isAsIn_0 16 rfl rfl)
theorem dX4_isAsIn_17 : decode cX4_isAsIn 17 = .ok (.imul, 1) := dk_104 (dk_at dksX4_isAsIn_0 17 rfl rfl)
theorem dX4_isAsIn_18 : decode cX4_isAsIn 18 = .ok (.iload_n 2, 1) := dk_28 (dk_at dksX4_isAsIn_0 18 rfl rfl)
theorem dX4_isAsIn_19 : decode cX4_isAsIn 19 = .ok (.iadd, 1) := dk_96 (dk_at dksX4_isAsIn_0 19 rfl rfl)
theorem dX4_isAsIn_20 : decode cX4_isAsIn 20 = .ok (.iaload, 1) := dk_46 (dk_at dksX4_isAsIn_0 20 rfl rfl)
theorem dX4_isAsIn_21 : decode cX4_isAsIn 21 = .ok (.aload_n 0, 1) := dk_42 (dk_at dksX4_isAsIn_0 21 rfl rfl)
theorem dX4_isAsIn_22 : decode cX4_isAsIn 22 = .ok (.getfield 215, 3) := dk_180 0 215 (dk_at dksX4_isAsIn_1 0 rfl rfl)
theorem dX4_isAsIn_25 : decode cX4_isAsIn 25 = .ok (.iload_n 2, 1) := dk_28 (dk_at dksX4_isAsIn_1 3 rfl rfl)
theorem dX4_isAsIn_26 : decode cX4_isAsIn 26 = .ok (.iaload, 1) := dk_46 (dk_at dksX4_isAsIn_1 4 rfl rfl)
theorem dX4_isAsIn_27 : decode cX4_isAsIn 27 = .ok (.if_icmp .ne 23, 3) := dk_160 0 23 (dk_at dksX4_isAsIn_1 5 rfl rfl)
theorem dX4_isAsIn_30 : decode cX4_isAsIn 30 = .ok (.aload_n 0, 1) := dk_42 (dk_at dksX4_isAsIn_1 8 rfl rfl)
theorem dX4_isAsIn_31 : decode cX4_isAsIn 31 = .ok (.getfield 223, 3) := dk_180 0 223 (dk_at dksX4_isAsIn_1 9 rfl rfl)
theorem dX4_isAsIn_34 : decode cX4_isAsIn 34 = .ok (.bipush 10, 2) := dk_16 10 (dk_at dksX4_isAsIn_1 12 rfl rfl)
theorem dX4_isAsIn_36 : decode cX4_isAsIn 36 = .ok (.iload_n 1, 1) := dk_27 (dk_at dksX4_isAsIn_1 14 rfl rfl)
theorem dX4_isAsIn_37 : decode cX4_isAsIn 37 = .ok (.imul, 1) := dk_104 (dk_at dksX4_isAsIn_1 15 rfl rfl)
theorem dX4_isAsIn_38 : decode cX4_isAsIn 38 = .ok (.iload_n 2, 1) := dk_28 (dk_at dksX4_isAsIn_1 16 rfl rfl)
theorem dX4_isAsIn_39 : decode cX4_isAsIn 39 = .ok (.iadd, 1) := dk_96 (dk_at dksX4_isAsIn_1 17 rfl rfl)
theorem dX4_isAsIn_40 : decode cX4_isAsIn 40 = .ok (.iaload, 1) := dk_46 (dk_at dksX4_isAsIn_1 18 rfl rfl)
theorem dX4_isAsIn_41 : decode cX4_isAsIn 41 = .ok (.aload_n 0, 1) := dk_42 (dk_at dksX4_isAsIn_1 19 rfl rfl)
theorem dX4_isAsIn_42 : decode cX4_isAsIn 42 = .ok (.getfield 217, 3) := dk_180 0 217 (dk_at dksX4_isAsIn_1 20 rfl rfl)
theorem dX4_isAsIn_45 : decode cX4_isAsIn 45 = .ok (.iload_n 2, 1) := dk_28 (dk_at dksX4_isAsIn_1 23 rfl rfl)
theorem dX4_isAsIn_46 : decode cX4_isAsIn 46 = .ok (.iaload, 1) := dk_46 (dk_at dksX4_isAsIn_2 0 rfl rfl)
theorem dX4_isAsIn_47 : decode cX4_isAsIn 47 = .ok (.if_icmp .eq 5, 3) := dk_159 0 5 (dk_at dksX4_isAsIn_2 1 rfl rfl)
theorem dX4_isAsIn_50 : decode cX4_isAsIn 50 = .ok (.iconst 0, 1) := dk_3 (dk_at dksX4_isAsIn_2 4 rfl rfl)
theorem dX4_isAsIn_51 : decode cX4_isAsIn 51 = .ok (.ireturn, 1) := dk_172 (dk_at dksX4_isAsIn_2 5 rfl rfl)
theorem dX4_isAsIn_52 : decode cX4_isAsIn 52 = .ok (.iinc 2 1, 3) := dk_132 2 1 (dk_at dksX4_isAsIn_2 6 rfl rfl)
theorem dX4_isAsIn_55 : decode cX4_isAsIn 55 = .ok (.goto (-53), 3) := dk_167 255 203 (dk_at dksX4_isAsIn_2 9 rfl rfl)
theorem dX4_isAsIn_58 : decode cX4_isAsIn 58 = .ok (.iconst 1, 1) := dk_4 (dk_at dksX4_isAsIn_2 12 rfl rfl)
theorem dX4_isAsIn_59 : decode cX4_isAsIn 59 = .ok (.ireturn, 1) := dk_172 (dk_at dksX4_isAsIn_2 13 rfl rfl)
abbrev cX4_ring : ByteArray := prog_9_method_49_code
def yX4_ring : MethodName := ⟨RX4, "ring", "()I"⟩
theorem dX4_ring_0 : decode cX4_ring 0 = .ok (.aload_n 0, 1) := by decide +kernel
theorem dX4_ring_1 : decode cX4_ring 1 = .ok (.getfield 226, 3) := by decide +kernel
theorem dX4_ring_4 : decode cX4_ring 4 = .ok (.ireturn, 1) := by decide +kernel
abbrev cX4_chance : ByteArray := prog_9_method_50_code
def yX4_chance : MethodName := ⟨RX4, "chance", "(I)I"⟩
def dkwX4_chance_3 : List UInt8 := [167, 255, 203, 42, 3, 181, 1, 106, 4, 172]
abbrev dktX4_chance_3 : List UInt8 := dkwX4_chance_3 ++ []
def dkwX4_chance_2 : List UInt8 := [20, 1, 148, 109, 20, 1, 70, 113, 136, 96, 79, 42, 180, 0, 217, 21, 4, 3, 79, 132, 4, 1]
abbrev dktX4_chance_2 : List UInt8 := dkwX4_chance_2 ++ dktX4_chance_3
def dkwX4_chance_1 : List UInt8 := [20, 1, 142, 32, 105, 20, 1, 144, 97, 20, 1, 146, 113, 65, 42, 180, 0, 215, 21, 4, 4, 32]
abbrev dktX4_chance_1 : List UInt8 := dkwX4_chance_1 ++ dktX4_chance_2
def dkwX4_chance_0 : List UInt8 := [27, 156, 0, 6, 16, 254, 172, 27, 133, 65, 3, 54, 4, 21, 4, 42, 180, 1, 41, 162, 0, 50]
abbrev dktX4_chance_0 : List UInt8 := dkwX4_chance_0 ++ dktX4_chance_1
theorem dksX4_chance_0 : cX4_chance.data.toList.drop 0 = dktX4_chance_0 := by decide +kernel
theorem dksX4_chance_1 : cX4_chance.data.toList.drop 22 = dktX4_chance_1 := dk_seg dksX4_chance_0 22 rfl rfl
theorem dksX4_chance_2 : cX4_chance.data.toList.drop 44 = dktX4_chance_2 := dk_seg dksX4_chance_1 22 rfl rfl
theorem dksX4_chance_3 : cX4_chance.data.toList.drop 66 = dktX4_chance_3 := dk_seg dksX4_chance_2 22 rfl rfl
theorem dX4_chance_0 : decode cX4_chance 0 = .ok (.iload_n 1, 1) := dk_27 (dk_at dksX4_chance_0 0 rfl rfl)
theorem dX4_chance_1 : decode cX4_chance 1 = .ok (.ifCond .ge 6, 3) := dk_156 0 6 (dk_at dksX4_chance_0 1 rfl rfl)
theorem dX4_chance_4 : decode cX4_chance 4 = .ok (.bipush (-2), 2) := dk_16 254 (dk_at dksX4_chance_0 4 rfl rfl)
theorem dX4_chance_6 : decode cX4_chance 6 = .ok (.ireturn, 1) := dk_172 (dk_at dksX4_chance_0 6 rfl rfl)
theorem dX4_chance_7 : decode cX4_chance 7 = .ok (.iload_n 1, 1) := dk_27 (dk_at dksX4_chance_0 7 rfl rfl)
theorem dX4_chance_8 : decode cX4_chance 8 = .ok (.i2l, 1) := dk_133 (dk_at dksX4_chance_0 8 rfl rfl)
theorem dX4_chance_9 : decode cX4_chance 9 = .ok (.lstore_n 2, 1) := dk_65 (dk_at dksX4_chance_0 9 rfl rfl)
theorem dX4_chance_10 : decode cX4_chance 10 = .ok (.iconst 0, 1) := dk_3 (dk_at dksX4_chance_0 10 rfl rfl)
theorem dX4_chance_11 : decode cX4_chance 11 = .ok (.istore 4, 2) := dk_54 4 (dk_at dksX4_chance_0 11 rfl rfl)
theorem dX4_chance_13 : decode cX4_chance 13 = .ok (.iload 4, 2) := dk_21 4 (dk_at dksX4_chance_0 13 rfl rfl)
theorem dX4_chance_15 : decode cX4_chance 15 = .ok (.aload_n 0, 1) := dk_42 (dk_at dksX4_chance_0 15 rfl rfl)
theorem dX4_chance_16 : decode cX4_chance 16 = .ok (.getfield 297, 3) := dk_180 1 41 (dk_at dksX4_chance_0 16 rfl rfl)
theorem dX4_chance_19 : decode cX4_chance 19 = .ok (.if_icmp .ge 50, 3) := dk_162 0 50 (dk_at dksX4_chance_0 19 rfl rfl)
theorem dX4_chance_22 : decode cX4_chance 22 = .ok (.ldc2_w 398, 3) := dk_20 1 142 (dk_at dksX4_chance_1 0 rfl rfl)
theorem dX4_chance_25 : decode cX4_chance 25 = .ok (.lload_n 2, 1) := dk_32 (dk_at dksX4_chance_1 3 rfl rfl)
theorem dX4_chance_26 : decode cX4_chance 26 = .ok (.lmul, 1) := dk_105 (dk_at dksX4_chance_1 4 rfl rfl)
theorem dX4_chance_27 : decode cX4_chance 27 = .ok (.ldc2_w 400, 3) := dk_20 1 144 (dk_at dksX4_chance_1 5 rfl rfl)
theorem dX4_chance_30 : decode cX4_chance 30 = .ok (.ladd, 1) := dk_97 (dk_at dksX4_chance_1 8 rfl rfl)
theorem dX4_chance_31 : decode cX4_chance 31 = .ok (.ldc2_w 402, 3) := dk_20 1 146 (dk_at dksX4_chance_1 9 rfl rfl)
theorem dX4_chance_34 : decode cX4_chance 34 = .ok (.lrem, 1) := dk_113 (dk_at dksX4_chance_1 12 rfl rfl)
theorem dX4_chance_35 : decode cX4_chance 35 = .ok (.lstore_n 2, 1) := dk_65 (dk_at dksX4_chance_1 13 rfl rfl)
theorem dX4_chance_36 : decode cX4_chance 36 = .ok (.aload_n 0, 1) := dk_42 (dk_at dksX4_chance_1 14 rfl rfl)
theorem dX4_chance_37 : decode cX4_chance 37 = .ok (.getfield 215, 3) := dk_180 0 215 (dk_at dksX4_chance_1 15 rfl rfl)
theorem dX4_chance_40 : decode cX4_chance 40 = .ok (.iload 4, 2) := dk_21 4 (dk_at dksX4_chance_1 18 rfl rfl)
theorem dX4_chance_42 : decode cX4_chance 42 = .ok (.iconst 1, 1) := dk_4 (dk_at dksX4_chance_1 20 rfl rfl)
theorem dX4_chance_43 : decode cX4_chance 43 = .ok (.lload_n 2, 1) := dk_32 (dk_at dksX4_chance_1 21 rfl rfl)
theorem dX4_chance_44 : decode cX4_chance 44 = .ok (.ldc2_w 404, 3) := dk_20 1 148 (dk_at dksX4_chance_2 0 rfl rfl)
theorem dX4_chance_47 : decode cX4_chance 47 = .ok (.ldiv, 1) := dk_109 (dk_at dksX4_chance_2 3 rfl rfl)
theorem dX4_chance_48 : decode cX4_chance 48 = .ok (.ldc2_w 326, 3) := dk_20 1 70 (dk_at dksX4_chance_2 4 rfl rfl)
theorem dX4_chance_51 : decode cX4_chance 51 = .ok (.lrem, 1) := dk_113 (dk_at dksX4_chance_2 7 rfl rfl)
theorem dX4_chance_52 : decode cX4_chance 52 = .ok (.l2i, 1) := dk_136 (dk_at dksX4_chance_2 8 rfl rfl)
theorem dX4_chance_53 : decode cX4_chance 53 = .ok (.iadd, 1) := dk_96 (dk_at dksX4_chance_2 9 rfl rfl)
theorem dX4_chance_54 : decode cX4_chance 54 = .ok (.iastore, 1) := dk_79 (dk_at dksX4_chance_2 10 rfl rfl)
theorem dX4_chance_55 : decode cX4_chance 55 = .ok (.aload_n 0, 1) := dk_42 (dk_at dksX4_chance_2 11 rfl rfl)
theorem dX4_chance_56 : decode cX4_chance 56 = .ok (.getfield 217, 3) := dk_180 0 217 (dk_at dksX4_chance_2 12 rfl rfl)
theorem dX4_chance_59 : decode cX4_chance 59 = .ok (.iload 4, 2) := dk_21 4 (dk_at dksX4_chance_2 15 rfl rfl)
theorem dX4_chance_61 : decode cX4_chance 61 = .ok (.iconst 0, 1) := dk_3 (dk_at dksX4_chance_2 17 rfl rfl)
theorem dX4_chance_62 : decode cX4_chance 62 = .ok (.iastore, 1) := dk_79 (dk_at dksX4_chance_2 18 rfl rfl)
theorem dX4_chance_63 : decode cX4_chance 63 = .ok (.iinc 4 1, 3) := dk_132 4 1 (dk_at dksX4_chance_2 19 rfl rfl)
theorem dX4_chance_66 : decode cX4_chance 66 = .ok (.goto (-53), 3) := dk_167 255 203 (dk_at dksX4_chance_3 0 rfl rfl)
theorem dX4_chance_69 : decode cX4_chance 69 = .ok (.aload_n 0, 1) := dk_42 (dk_at dksX4_chance_3 3 rfl rfl)
theorem dX4_chance_70 : decode cX4_chance 70 = .ok (.iconst 0, 1) := dk_3 (dk_at dksX4_chance_3 4 rfl rfl)
theorem dX4_chance_71 : decode cX4_chance 71 = .ok (.putfield 362, 3) := dk_181 1 106 (dk_at dksX4_chance_3 5 rfl rfl)
theorem dX4_chance_74 : decode cX4_chance 74 = .ok (.iconst 1, 1) := dk_4 (dk_at dksX4_chance_3 8 rfl rfl)
theorem dX4_chance_75 : decode cX4_chance 75 = .ok (.ireturn, 1) := dk_172 (dk_at dksX4_chance_3 9 rfl rfl)
abbrev cX4_keep : ByteArray := prog_9_method_52_code
def yX4_keep : MethodName := ⟨RX4, "keep", "(I)I"⟩
def dkwX4_keep_3 : List UInt8 := [180, 0, 238, 27, 4, 84, 42, 180, 1, 106, 172]
abbrev dktX4_keep_3 : List UInt8 := dkwX4_keep_3 ++ []
def dkwX4_keep_2 : List UInt8 := [180, 0, 217, 28, 46, 79, 132, 2, 1, 167, 255, 211, 42, 180, 0, 235, 27, 42, 180, 1, 106, 79, 42]
abbrev dktX4_keep_2 : List UInt8 := dkwX4_keep_2 ++ dktX4_keep_3
def dkwX4_keep_1 : List UInt8 := [16, 10, 27, 104, 28, 96, 42, 180, 0, 215, 28, 46, 79, 42, 180, 0, 232, 16, 10, 27, 104, 28, 96, 42]
abbrev dktX4_keep_1 : List UInt8 := dkwX4_keep_1 ++ dktX4_keep_2
def dkwX4_keep_0 : List UInt8 := [27, 184, 1, 152, 154, 0, 6, 16, 254, 172, 3, 61, 28, 42, 180, 1, 41, 162, 0, 43, 42, 180, 0, 229]
abbrev dktX4_keep_0 : List UInt8 := dkwX4_keep_0 ++ dktX4_keep_1
theorem dksX4_keep_0 : cX4_keep.data.toList.drop 0 = dktX4_keep_0 := by decide +kernel
theorem dksX4_keep_1 : cX4_keep.data.toList.drop 24 = dktX4_keep_1 := dk_seg dksX4_keep_0 24 rfl rfl
theorem dksX4_keep_2 : cX4_keep.data.toList.drop 48 = dktX4_keep_2 := dk_seg dksX4_keep_1 24 rfl rfl
theorem dksX4_keep_3 : cX4_keep.data.toList.drop 71 = dktX4_keep_3 := dk_seg dksX4_keep_2 23 rfl rfl
theorem dX4_keep_0 : decode cX4_keep 0 = .ok (.iload_n 1, 1) := dk_27 (dk_at dksX4_keep_0 0 rfl rfl)
theorem dX4_keep_1 : decode cX4_keep 1 = .ok (.invokestatic 408, 3) := dk_184 1 152 (dk_at dksX4_keep_0 1 rfl rfl)
theorem dX4_keep_4 : decode cX4_keep 4 = .ok (.ifCond .ne 6, 3) := dk_154 0 6 (dk_at dksX4_keep_0 4 rfl rfl)
theorem dX4_keep_7 : decode cX4_keep 7 = .ok (.bipush (-2), 2) := dk_16 254 (dk_at dksX4_keep_0 7 rfl rfl)
theorem dX4_keep_9 : decode cX4_keep 9 = .ok (.ireturn, 1) := dk_172 (dk_at dksX4_keep_0 9 rfl rfl)
theorem dX4_keep_10 : decode cX4_keep 10 = .ok (.iconst 0, 1) := dk_3 (dk_at dksX4_keep_0 10 rfl rfl)
theorem dX4_keep_11 : decode cX4_keep 11 = .ok (.istore_n 2, 1) := dk_61 (dk_at dksX4_keep_0 11 rfl rfl)
theorem dX4_keep_12 : decode cX4_keep 12 = .ok (.iload_n 2, 1) := dk_28 (dk_at dksX4_keep_0 12 rfl rfl)
theorem dX4_keep_13 : decode cX4_keep 13 = .ok (.aload_n 0, 1) := dk_42 (dk_at dksX4_keep_0 13 rfl rfl)
theorem dX4_keep_14 : decode cX4_keep 14 = .ok (.getfield 297, 3) := dk_180 1 41 (dk_at dksX4_keep_0 14 rfl rfl)
theorem dX4_keep_17 : decode cX4_keep 17 = .ok (.if_icmp .ge 43, 3) := dk_162 0 43 (dk_at dksX4_keep_0 17 rfl rfl)
theorem dX4_keep_20 : decode cX4_keep 20 = .ok (.aload_n 0, 1) := dk_42 (dk_at dksX4_keep_0 20 rfl rfl)
theorem dX4_keep_21 : decode cX4_keep 21 = .ok (.getfield 229, 3) := dk_180 0 229 (dk_at dksX4_keep_0 21 rfl rfl)
theorem dX4_keep_24 : decode cX4_keep 24 = .ok (.bipush 10, 2) := dk_16 10 (dk_at dksX4_keep_1 0 rfl rfl)
theorem dX4_keep_26 : decode cX4_keep 26 = .ok (.iload_n 1, 1) := dk_27 (dk_at dksX4_keep_1 2 rfl rfl)
theorem dX4_keep_27 : decode cX4_keep 27 = .ok (.imul, 1) := dk_104 (dk_at dksX4_keep_1 3 rfl rfl)
theorem dX4_keep_28 : decode cX4_keep 28 = .ok (.iload_n 2, 1) := dk_28 (dk_at dksX4_keep_1 4 rfl rfl)
theorem dX4_keep_29 : decode cX4_keep 29 = .ok (.iadd, 1) := dk_96 (dk_at dksX4_keep_1 5 rfl rfl)
theorem dX4_keep_30 : decode cX4_keep 30 = .ok (.aload_n 0, 1) := dk_42 (dk_at dksX4_keep_1 6 rfl rfl)
theorem dX4_keep_31 : decode cX4_keep 31 = .ok (.getfield 215, 3) := dk_180 0 215 (dk_at dksX4_keep_1 7 rfl rfl)
theorem dX4_keep_34 : decode cX4_keep 34 = .ok (.iload_n 2, 1) := dk_28 (dk_at dksX4_keep_1 10 rfl rfl)
theorem dX4_keep_35 : decode cX4_keep 35 = .ok (.iaload, 1) := dk_46 (dk_at dksX4_keep_1 11 rfl rfl)
theorem dX4_keep_36 : decode cX4_keep 36 = .ok (.iastore, 1) := dk_79 (dk_at dksX4_keep_1 12 rfl rfl)
theorem dX4_keep_37 : decode cX4_keep 37 = .ok (.aload_n 0, 1) := dk_42 (dk_at dksX4_keep_1 13 rfl rfl)
theorem dX4_keep_38 : decode cX4_keep 38 = .ok (.getfield 232, 3) := dk_180 0 232 (dk_at dksX4_keep_1 14 rfl rfl)
theorem dX4_keep_41 : decode cX4_keep 41 = .ok (.bipush 10, 2) := dk_16 10 (dk_at dksX4_keep_1 17 rfl rfl)
theorem dX4_keep_43 : decode cX4_keep 43 = .ok (.iload_n 1, 1) := dk_27 (dk_at dksX4_keep_1 19 rfl rfl)
theorem dX4_keep_44 : decode cX4_keep 44 = .ok (.imul, 1) := dk_104 (dk_at dksX4_keep_1 20 rfl rfl)
theorem dX4_keep_45 : decode cX4_keep 45 = .ok (.iload_n 2, 1) := dk_28 (dk_at dksX4_keep_1 21 rfl rfl)
theorem dX4_keep_46 : decode cX4_keep 46 = .ok (.iadd, 1) := dk_96 (dk_at dksX4_keep_1 22 rfl rfl)
theorem dX4_keep_47 : decode cX4_keep 47 = .ok (.aload_n 0, 1) := dk_42 (dk_at dksX4_keep_1 23 rfl rfl)
theorem dX4_keep_48 : decode cX4_keep 48 = .ok (.getfield 217, 3) := dk_180 0 217 (dk_at dksX4_keep_2 0 rfl rfl)
theorem dX4_keep_51 : decode cX4_keep 51 = .ok (.iload_n 2, 1) := dk_28 (dk_at dksX4_keep_2 3 rfl rfl)
theorem dX4_keep_52 : decode cX4_keep 52 = .ok (.iaload, 1) := dk_46 (dk_at dksX4_keep_2 4 rfl rfl)
theorem dX4_keep_53 : decode cX4_keep 53 = .ok (.iastore, 1) := dk_79 (dk_at dksX4_keep_2 5 rfl rfl)
theorem dX4_keep_54 : decode cX4_keep 54 = .ok (.iinc 2 1, 3) := dk_132 2 1 (dk_at dksX4_keep_2 6 rfl rfl)
theorem dX4_keep_57 : decode cX4_keep 57 = .ok (.goto (-45), 3) := dk_167 255 211 (dk_at dksX4_keep_2 9 rfl rfl)
theorem dX4_keep_60 : decode cX4_keep 60 = .ok (.aload_n 0, 1) := dk_42 (dk_at dksX4_keep_2 12 rfl rfl)
theorem dX4_keep_61 : decode cX4_keep 61 = .ok (.getfield 235, 3) := dk_180 0 235 (dk_at dksX4_keep_2 13 rfl rfl)
theorem dX4_keep_64 : decode cX4_keep 64 = .ok (.iload_n 1, 1) := dk_27 (dk_at dksX4_keep_2 16 rfl rfl)
theorem dX4_keep_65 : decode cX4_keep 65 = .ok (.aload_n 0, 1) := dk_42 (dk_at dksX4_keep_2 17 rfl rfl)
theorem dX4_keep_66 : decode cX4_keep 66 = .ok (.getfield 362, 3) := dk_180 1 106 (dk_at dksX4_keep_2 18 rfl rfl)
theorem dX4_keep_69 : decode cX4_keep 69 = .ok (.iastore, 1) := dk_79 (dk_at dksX4_keep_2 21 rfl rfl)
theorem dX4_keep_70 : decode cX4_keep 70 = .ok (.aload_n 0, 1) := dk_42 (dk_at dksX4_keep_2 22 rfl rfl)
theorem dX4_keep_71 : decode cX4_keep 71 = .ok (.getfield 238, 3) := dk_180 0 238 (dk_at dksX4_keep_3 0 rfl rfl)
theorem dX4_keep_74 : decode cX4_keep 74 = .ok (.iload_n 1, 1) := dk_27 (dk_at dksX4_keep_3 3 rfl rfl)
theorem dX4_keep_75 : decode cX4_keep 75 = .ok (.iconst 1, 1) := dk_4 (dk_at dksX4_keep_3 4 rfl rfl)
theorem dX4_keep_76 : decode cX4_keep 76 = .ok (.bastore, 1) := dk_84 (dk_at dksX4_keep_3 5 rfl rfl)
theorem dX4_keep_77 : decode cX4_keep 77 = .ok (.aload_n 0, 1) := dk_42 (dk_at dksX4_keep_3 6 rfl rfl)
theorem dX4_keep_78 : decode cX4_keep 78 = .ok (.getfield 362, 3) := dk_180 1 106 (dk_at dksX4_keep_3 7 rfl rfl)
theorem dX4_keep_81 : decode cX4_keep 81 = .ok (.ireturn, 1) := dk_172 (dk_at dksX4_keep_3 10 rfl rfl)
abbrev cX4_isSlot : ByteArray := prog_9_method_51_code
def yX4_isSlot : MethodName := ⟨RX4, "isSlot", "(I)Z"⟩
def dkwX4_isSlot_0 : List UInt8 := [26, 133, 9, 20, 1, 150, 184, 0, 52, 172]
abbrev dktX4_isSlot_0 : List UInt8 := dkwX4_isSlot_0 ++ []
theorem dksX4_isSlot_0 : cX4_isSlot.data.toList.drop 0 = dktX4_isSlot_0 := by decide +kernel
theorem dX4_isSlot_0 : decode cX4_isSlot 0 = .ok (.iload_n 0, 1) := dk_26 (dk_at dksX4_isSlot_0 0 rfl rfl)
theorem dX4_isSlot_1 : decode cX4_isSlot 1 = .ok (.i2l, 1) := dk_133 (dk_at dksX4_isSlot_0 1 rfl rfl)
theorem dX4_isSlot_2 : decode cX4_isSlot 2 = .ok (.lconst 0, 1) := dk_9 (dk_at dksX4_isSlot_0 2 rfl rfl)
theorem dX4_isSlot_3 : decode cX4_isSlot 3 = .ok (.ldc2_w 406, 3) := dk_20 1 150 (dk_at dksX4_isSlot_0 3 rfl rfl)
theorem dX4_isSlot_6 : decode cX4_isSlot 6 = .ok (.invokestatic 52, 3) := dk_184 0 52 (dk_at dksX4_isSlot_0 6 rfl rfl)
theorem dX4_isSlot_9 : decode cX4_isSlot 9 = .ok (.ireturn, 1) := dk_172 (dk_at dksX4_isSlot_0 9 rfl rfl)
abbrev cX4_take : ByteArray := prog_9_method_53_code
def yX4_take : MethodName := ⟨RX4, "take", "(I)I"⟩
def dkwX4_take_3 : List UInt8 := [42, 42, 180, 0, 235, 27, 46, 181, 1, 106, 42, 180, 1, 106, 172]
abbrev dktX4_take_3 : List UInt8 := dkwX4_take_3 ++ []
def dkwX4_take_2 : List UInt8 := [79, 42, 180, 0, 217, 28, 42, 180, 0, 232, 16, 10, 27, 104, 28, 96, 46, 79, 132, 2, 1, 167, 255, 211]
abbrev dktX4_take_2 : List UInt8 := dkwX4_take_2 ++ dktX4_take_3
def dkwX4_take_1 : List UInt8 := [28, 42, 180, 1, 41, 162, 0, 43, 42, 180, 0, 215, 28, 42, 180, 0, 229, 16, 10, 27, 104, 28, 96, 46]
abbrev dktX4_take_1 : List UInt8 := dkwX4_take_1 ++ dktX4_take_2
def dkwX4_take_0 : List UInt8 := [27, 184, 1, 152, 154, 0, 6, 16, 254, 172, 42, 180, 0, 238, 27, 51, 154, 0, 6, 16, 252, 172, 3, 61]
abbrev dktX4_take_0 : List UInt8 := dkwX4_take_0 ++ dktX4_take_1
theorem dksX4_take_0 : cX4_take.data.toList.drop 0 = dktX4_take_0 := by decide +kernel
theorem dksX4_take_1 : cX4_take.data.toList.drop 24 = dktX4_take_1 := dk_seg dksX4_take_0 24 rfl rfl
theorem dksX4_take_2 : cX4_take.data.toList.drop 48 = dktX4_take_2 := dk_seg dksX4_take_1 24 rfl rfl
theorem dksX4_take_3 : cX4_take.data.toList.drop 72 = dktX4_take_3 := dk_seg dksX4_take_2 24 rfl rfl
theorem dX4_take_0 : decode cX4_take 0 = .ok (.iload_n 1, 1) := dk_27 (dk_at dksX4_take_0 0 rfl rfl)
theorem dX4_take_1 : decode cX4_take 1 = .ok (.invokestatic 408, 3) := dk_184 1 152 (dk_at dksX4_take_0 1 rfl rfl)
theorem dX4_take_4 : decode cX4_take 4 = .ok (.ifCond .ne 6, 3) := dk_154 0 6 (dk_at dksX4_take_0 4 rfl rfl)
theorem dX4_take_7 : decode cX4_take 7 = .ok (.bipush (-2), 2) := dk_16 254 (dk_at dksX4_take_0 7 rfl rfl)
theorem dX4_take_9 : decode cX4_take 9 = .ok (.ireturn, 1) := dk_172 (dk_at dksX4_take_0 9 rfl rfl)
theorem dX4_take_10 : decode cX4_take 10 = .ok (.aload_n 0, 1) := dk_42 (dk_at dksX4_take_0 10 rfl rfl)
theorem dX4_take_11 : decode cX4_take 11 = .ok (.getfield 238, 3) := dk_180 0 238 (dk_at dksX4_take_0 11 rfl rfl)
theorem dX4_take_14 : decode cX4_take 14 = .ok (.iload_n 1, 1) := dk_27 (dk_at dksX4_take_0 14 rfl rfl)
theorem dX4_take_15 : decode cX4_take 15 = .ok (.baload, 1) := dk_51 (dk_at dksX4_take_0 15 rfl rfl)
theorem dX4_take_16 : decode cX4_take 16 = .ok (.ifCond .ne 6, 3) := dk_154 0 6 (dk_at dksX4_take_0 16 rfl rfl)
theorem dX4_take_19 : decode cX4_take 19 = .ok (.bipush (-4), 2) := dk_16 252 (dk_at dksX4_take_0 19 rfl rfl)
theorem dX4_take_21 : decode cX4_take 21 = .ok (.ireturn, 1) := dk_172 (dk_at dksX4_take_0 21 rfl rfl)
theorem dX4_take_22 : decode cX4_take 22 = .ok (.iconst 0, 1) := dk_3 (dk_at dksX4_take_0 22 rfl rfl)
theorem dX4_take_23 : decode cX4_take 23 = .ok (.istore_n 2, 1) := dk_61 (dk_at dksX4_take_0 23 rfl rfl)
theorem dX4_take_24 : decode cX4_take 24 = .ok (.iload_n 2, 1) := dk_28 (dk_at dksX4_take_1 0 rfl rfl)
theorem dX4_take_25 : decode cX4_take 25 = .ok (.aload_n 0, 1) := dk_42 (dk_at dksX4_take_1 1 rfl rfl)
theorem dX4_take_26 : decode cX4_take 26 = .ok (.getfield 297, 3) := dk_180 1 41 (dk_at dksX4_take_1 2 rfl rfl)
theorem dX4_take_29 : decode cX4_take 29 = .ok (.if_icmp .ge 43, 3) := dk_162 0 43 (dk_at dksX4_take_1 5 rfl rfl)
theorem dX4_take_32 : decode cX4_take 32 = .ok (.aload_n 0, 1) := dk_42 (dk_at dksX4_take_1 8 rfl rfl)
theorem dX4_take_33 : decode cX4_take 33 = .ok (.getfield 215, 3) := dk_180 0 215 (dk_at dksX4_take_1 9 rfl rfl)
theorem dX4_take_36 : decode cX4_take 36 = .ok (.iload_n 2, 1) := dk_28 (dk_at dksX4_take_1 12 rfl rfl)
theorem dX4_take_37 : decode cX4_take 37 = .ok (.aload_n 0, 1) := dk_42 (dk_at dksX4_take_1 13 rfl rfl)
theorem dX4_take_38 : decode cX4_take 38 = .ok (.getfield 229, 3) := dk_180 0 229 (dk_at dksX4_take_1 14 rfl rfl)
theorem dX4_take_41 : decode cX4_take 41 = .ok (.bipush 10, 2) := dk_16 10 (dk_at dksX4_take_1 17 rfl rfl)
theorem dX4_take_43 : decode cX4_take 43 = .ok (.iload_n 1, 1) := dk_27 (dk_at dksX4_take_1 19 rfl rfl)
theorem dX4_take_44 : decode cX4_take 44 = .ok (.imul, 1) := dk_104 (dk_at dksX4_take_1 20 rfl rfl)
theorem dX4_take_45 : decode cX4_take 45 = .ok (.iload_n 2, 1) := dk_28 (dk_at dksX4_take_1 21 rfl rfl)
theorem dX4_take_46 : decode cX4_take 46 = .ok (.iadd, 1) := dk_96 (dk_at dksX4_take_1 22 rfl rfl)
theorem dX4_take_47 : decode cX4_take 47 = .ok (.iaload, 1) := dk_46 (dk_at dksX4_take_1 23 rfl rfl)
theorem dX4_take_48 : decode cX4_take 48 = .ok (.iastore, 1) := dk_79 (dk_at dksX4_take_2 0 rfl rfl)
theorem dX4_take_49 : decode cX4_take 49 = .ok (.aload_n 0, 1) := dk_42 (dk_at dksX4_take_2 1 rfl rfl)
theorem dX4_take_50 : decode cX4_take 50 = .ok (.getfield 217, 3) := dk_180 0 217 (dk_at dksX4_take_2 2 rfl rfl)
theorem dX4_take_53 : decode cX4_take 53 = .ok (.iload_n 2, 1) := dk_28 (dk_at dksX4_take_2 5 rfl rfl)
theorem dX4_take_54 : decode cX4_take 54 = .ok (.aload_n 0, 1) := dk_42 (dk_at dksX4_take_2 6 rfl rfl)
theorem dX4_take_55 : decode cX4_take 55 = .ok (.getfield 232, 3) := dk_180 0 232 (dk_at dksX4_take_2 7 rfl rfl)
theorem dX4_take_58 : decode cX4_take 58 = .ok (.bipush 10, 2) := dk_16 10 (dk_at dksX4_take_2 10 rfl rfl)
theorem dX4_take_60 : decode cX4_take 60 = .ok (.iload_n 1, 1) := dk_27 (dk_at dksX4_take_2 12 rfl rfl)
theorem dX4_take_61 : decode cX4_take 61 = .ok (.imul, 1) := dk_104 (dk_at dksX4_take_2 13 rfl rfl)
theorem dX4_take_62 : decode cX4_take 62 = .ok (.iload_n 2, 1) := dk_28 (dk_at dksX4_take_2 14 rfl rfl)
theorem dX4_take_63 : decode cX4_take 63 = .ok (.iadd, 1) := dk_96 (dk_at dksX4_take_2 15 rfl rfl)
theorem dX4_take_64 : decode cX4_take 64 = .ok (.iaload, 1) := dk_46 (dk_at dksX4_take_2 16 rfl rfl)
theorem dX4_take_65 : decode cX4_take 65 = .ok (.iastore, 1) := dk_79 (dk_at dksX4_take_2 17 rfl rfl)
theorem dX4_take_66 : decode cX4_take 66 = .ok (.iinc 2 1, 3) := dk_132 2 1 (dk_at dksX4_take_2 18 rfl rfl)
theorem dX4_take_69 : decode cX4_take 69 = .ok (.goto (-45), 3) := dk_167 255 211 (dk_at dksX4_take_2 21 rfl rfl)
theorem dX4_take_72 : decode cX4_take 72 = .ok (.aload_n 0, 1) := dk_42 (dk_at dksX4_take_3 0 rfl rfl)
theorem dX4_take_73 : decode cX4_take 73 = .ok (.aload_n 0, 1) := dk_42 (dk_at dksX4_take_3 1 rfl rfl)
theorem dX4_take_74 : decode cX4_take 74 = .ok (.getfield 235, 3) := dk_180 0 235 (dk_at dksX4_take_3 2 rfl rfl)
theorem dX4_take_77 : decode cX4_take 77 = .ok (.iload_n 1, 1) := dk_27 (dk_at dksX4_take_3 5 rfl rfl)
theorem dX4_take_78 : decode cX4_take 78 = .ok (.iaload, 1) := dk_46 (dk_at dksX4_take_3 6 rfl rfl)
theorem dX4_take_79 : decode cX4_take 79 = .ok (.putfield 362, 3) := dk_181 1 106 (dk_at dksX4_take_3 7 rfl rfl)
theorem dX4_take_82 : decode cX4_take 82 = .ok (.aload_n 0, 1) := dk_42 (dk_at dksX4_take_3 10 rfl rfl)
theorem dX4_take_83 : decode cX4_take 83 = .ok (.getfield 362, 3) := dk_180 1 106 (dk_at dksX4_take_3 11 rfl rfl)
theorem dX4_take_86 : decode cX4_take 86 = .ok (.ireturn, 1) := dk_172 (dk_at dksX4_take_3 14 rfl rfl)
abbrev cX4_alike : ByteArray := prog_9_method_54_code
def yX4_alike : MethodName := ⟨RX4, "alike", "(II)I"⟩
def dkwX4_alike_4 : List UInt8 := [160, 0, 7, 4, 167, 0, 4, 3, 96, 62, 132, 4, 1, 167, 255, 193, 29, 172]
abbrev dktX4_alike_4 : List UInt8 := dkwX4_alike_4 ++ []
def dkwX4_alike_3 : List UInt8 := [167, 0, 4, 3, 42, 180, 0, 229, 16, 10, 28, 104, 21, 4, 96, 46, 158, 0, 7, 4, 167, 0, 4, 3]
abbrev dktX4_alike_3 : List UInt8 := dkwX4_alike_3 ++ dktX4_alike_4
def dkwX4_alike_2 : List UInt8 := [180, 1, 41, 162, 0, 60, 29, 42, 180, 0, 229, 16, 10, 27, 104, 21, 4, 96, 46, 158, 0, 7, 4]
abbrev dktX4_alike_2 : List UInt8 := dkwX4_alike_2 ++ dktX4_alike_3
def dkwX4_alike_1 : List UInt8 := [153, 0, 12, 42, 180, 0, 238, 28, 51, 154, 0, 6, 16, 252, 172, 3, 62, 3, 54, 4, 21, 4, 42]
abbrev dktX4_alike_1 : List UInt8 := dkwX4_alike_1 ++ dktX4_alike_2
def dkwX4_alike_0 : List UInt8 := [27, 184, 1, 152, 153, 0, 10, 28, 184, 1, 152, 154, 0, 6, 16, 254, 172, 42, 180, 0, 238, 27, 51]
abbrev dktX4_alike_0 : List UInt8 := dkwX4_alike_0 ++ dktX4_alike_1
theorem dksX4_alike_0 : cX4_alike.data.toList.drop 0 = dktX4_alike_0 := by decide +kernel
theorem dksX4_alike_1 : cX4_alike.data.toList.drop 23 = dktX4_alike_1 := dk_seg dksX4_alike_0 23 rfl rfl
theorem dksX4_alike_2 : cX4_alike.data.toList.drop 46 = dktX4_alike_2 := dk_seg dksX4_alike_1 23 rfl rfl
theorem dksX4_alike_3 : cX4_alike.data.toList.drop 69 = dktX4_alike_3 := dk_seg dksX4_alike_2 23 rfl rfl
theorem dksX4_alike_4 : cX4_alike.data.toList.drop 93 = dktX4_alike_4 := dk_seg dksX4_alike_3 24 rfl rfl
theorem dX4_alike_0 : decode cX4_alike 0 = .ok (.iload_n 1, 1) := dk_27 (dk_at dksX4_alike_0 0 rfl rfl)
theorem dX4_alike_1 : decode cX4_alike 1 = .ok (.invokestatic 408, 3) := dk_184 1 152 (dk_at dksX4_alike_0 1 rfl rfl)
theorem dX4_alike_4 : decode cX4_alike 4 = .ok (.ifCond .eq 10, 3) := dk_153 0 10 (dk_at dksX4_alike_0 4 rfl rfl)
theorem dX4_alike_7 : decode cX4_alike 7 = .ok (.iload_n 2, 1) := dk_28 (dk_at dksX4_alike_0 7 rfl rfl)
theorem dX4_alike_8 : decode cX4_alike 8 = .ok (.invokestatic 408, 3) := dk_184 1 152 (dk_at dksX4_alike_0 8 rfl rfl)
theorem dX4_alike_11 : decode cX4_alike 11 = .ok (.ifCond .ne 6, 3) := dk_154 0 6 (dk_at dksX4_alike_0 11 rfl rfl)
theorem dX4_alike_14 : decode cX4_alike 14 = .ok (.bipush (-2), 2) := dk_16 254 (dk_at dksX4_alike_0 14 rfl rfl)
theorem dX4_alike_16 : decode cX4_alike 16 = .ok (.ireturn, 1) := dk_172 (dk_at dksX4_alike_0 16 rfl rfl)
theorem dX4_alike_17 : decode cX4_alike 17 = .ok (.aload_n 0, 1) := dk_42 (dk_at dksX4_alike_0 17 rfl rfl)
theorem dX4_alike_18 : decode cX4_alike 18 = .ok (.getfield 238, 3) := dk_180 0 238 (dk_at dksX4_alike_0 18 rfl rfl)
theorem dX4_alike_21 : decode cX4_alike 21 = .ok (.iload_n 1, 1) := dk_27 (dk_at dksX4_alike_0 21 rfl rfl)
theorem dX4_alike_22 : decode cX4_alike 22 = .ok (.baload, 1) := dk_51 (dk_at dksX4_alike_0 22 rfl rfl)
theorem dX4_alike_23 : decode cX4_alike 23 = .ok (.ifCond .eq 12, 3) := dk_153 0 12 (dk_at dksX4_alike_1 0 rfl rfl)
theorem dX4_alike_26 : decode cX4_alike 26 = .ok (.aload_n 0, 1) := dk_42 (dk_at dksX4_alike_1 3 rfl rfl)
theorem dX4_alike_27 : decode cX4_alike 27 = .ok (.getfield 238, 3) := dk_180 0 238 (dk_at dksX4_alike_1 4 rfl rfl)
theorem dX4_alike_30 : decode cX4_alike 30 = .ok (.iload_n 2, 1) := dk_28 (dk_at dksX4_alike_1 7 rfl rfl)
theorem dX4_alike_31 : decode cX4_alike 31 = .ok (.baload, 1) := dk_51 (dk_at dksX4_alike_1 8 rfl rfl)
theorem dX4_alike_32 : decode cX4_alike 32 = .ok (.ifCond .ne 6, 3) := dk_154 0 6 (dk_at dksX4_alike_1 9 rfl rfl)
theorem dX4_alike_35 : decode cX4_alike 35 = .ok (.bipush (-4), 2) := dk_16 252 (dk_at dksX4_alike_1 12 rfl rfl)
theorem dX4_alike_37 : decode cX4_alike 37 = .ok (.ireturn, 1) := dk_172 (dk_at dksX4_alike_1 14 rfl rfl)
theorem dX4_alike_38 : decode cX4_alike 38 = .ok (.iconst 0, 1) := dk_3 (dk_at dksX4_alike_1 15 rfl rfl)
theorem dX4_alike_39 : decode cX4_alike 39 = .ok (.istore_n 3, 1) := dk_62 (dk_at dksX4_alike_1 16 rfl rfl)
theorem dX4_alike_40 : decode cX4_alike 40 = .ok (.iconst 0, 1) := dk_3 (dk_at dksX4_alike_1 17 rfl rfl)
theorem dX4_alike_41 : decode cX4_alike 41 = .ok (.istore 4, 2) := dk_54 4 (dk_at dksX4_alike_1 18 rfl rfl)
theorem dX4_alike_43 : decode cX4_alike 43 = .ok (.iload 4, 2) := dk_21 4 (dk_at dksX4_alike_1 20 rfl rfl)
theorem dX4_alike_45 : decode cX4_alike 45 = .ok (.aload_n 0, 1) := dk_42 (dk_at dksX4_alike_1 22 rfl rfl)
theorem dX4_alike_46 : decode cX4_alike 46 = .ok (.getfield 297, 3) := dk_180 1 41 (dk_at dksX4_alike_2 0 rfl rfl)
theorem dX4_alike_49 : decode cX4_alike 49 = .ok (.if_icmp .ge 60, 3) := dk_162 0 60 (dk_at dksX4_alike_2 3 rfl rfl)
theorem dX4_alike_52 : decode cX4_alike 52 = .ok (.iload_n 3, 1) := dk_29 (dk_at dksX4_alike_2 6 rfl rfl)
theorem dX4_alike_53 : decode cX4_alike 53 = .ok (.aload_n 0, 1) := dk_42 (dk_at dksX4_alike_2 7 rfl rfl)
theorem dX4_alike_54 : decode cX4_alike 54 = .ok (.getfield 229, 3) := dk_180 0 229 (dk_at dksX4_alike_2 8 rfl rfl)
theorem dX4_alike_57 : decode cX4_alike 57 = .ok (.bipush 10, 2) := dk_16 10 (dk_at dksX4_alike_2 11 rfl rfl)
theorem dX4_alike_59 : decode cX4_alike 59 = .ok (.iload_n 1, 1) := dk_27 (dk_at dksX4_alike_2 13 rfl rfl)
theorem dX4_alike_60 : decode cX4_alike 60 = .ok (.imul, 1) := dk_104 (dk_at dksX4_alike_2 14 rfl rfl)
theorem dX4_alike_61 : decode cX4_alike 61 = .ok (.iload 4, 2) := dk_21 4 (dk_at dksX4_alike_2 15 rfl rfl)
theorem dX4_alike_63 : decode cX4_alike 63 = .ok (.iadd, 1) := dk_96 (dk_at dksX4_alike_2 17 rfl rfl)
theorem dX4_alike_64 : decode cX4_alike 64 = .ok (.iaload, 1) := dk_46 (dk_at dksX4_alike_2 18 rfl rfl)
theorem dX4_alike_65 : decode cX4_alike 65 = .ok (.ifCond .le 7, 3) := dk_158 0 7 (dk_at dksX4_alike_2 19 rfl rfl)
theorem dX4_alike_68 : decode cX4_alike 68 = .ok (.iconst 1, 1) := dk_4 (dk_at dksX4_alike_2 22 rfl rfl)
theorem dX4_alike_69 : decode cX4_alike 69 = .ok (.goto 4, 3) := dk_167 0 4 (dk_at dksX4_alike_3 0 rfl rfl)
theorem dX4_alike_72 : decode cX4_alike 72 = .ok (.iconst 0, 1) := dk_3 (dk_at dksX4_alike_3 3 rfl rfl)
theorem dX4_alike_73 : decode cX4_alike 73 = .ok (.aload_n 0, 1) := dk_42 (dk_at dksX4_alike_3 4 rfl rfl)
theorem dX4_alike_74 : decode cX4_alike 74 = .ok (.getfield 229, 3) := dk_180 0 229 (dk_at dksX4_alike_3 5 rfl rfl)
theorem dX4_alike_77 : decode cX4_alike 77 = .ok (.bipush 10, 2) := dk_16 10 (dk_at dksX4_alike_3 8 rfl rfl)
theorem dX4_alike_79 : decode cX4_alike 79 = .ok (.iload_n 2, 1) := dk_28 (dk_at dksX4_alike_3 10 rfl rfl)
theorem dX4_alike_80 : decode cX4_alike 80 = .ok (.imul, 1) := dk_104 (dk_at dksX4_alike_3 11 rfl rfl)
theorem dX4_alike_81 : decode cX4_alike 81 = .ok (.iload 4, 2) := dk_21 4 (dk_at dksX4_alike_3 12 rfl rfl)
theorem dX4_alike_83 : decode cX4_alike 83 = .ok (.iadd, 1) := dk_96 (dk_at dksX4_alike_3 14 rfl rfl)
theorem dX4_alike_84 : decode cX4_alike 84 = .ok (.iaload, 1) := dk_46 (dk_at dksX4_alike_3 15 rfl rfl)
theorem dX4_alike_85 : decode cX4_alike 85 = .ok (.ifCond .le 7, 3) := dk_158 0 7 (dk_at dksX4_alike_3 16 rfl rfl)
theorem dX4_alike_88 : decode cX4_alike 88 = .ok (.iconst 1, 1) := dk_4 (dk_at dksX4_alike_3 19 rfl rfl)
theorem dX4_alike_89 : decode cX4_alike 89 = .ok (.goto 4, 3) := dk_167 0 4 (dk_at dksX4_alike_3 20 rfl rfl)
theorem dX4_alike_92 : decode cX4_alike 92 = .ok (.iconst 0, 1) := dk_3 (dk_at dksX4_alike_3 23 rfl rfl)
theorem dX4_alike_93 : decode cX4_alike 93 = .ok (.if_icmp .ne 7, 3) := dk_160 0 7 (dk_at dksX4_alike_4 0 rfl rfl)
theorem dX4_alike_96 : decode cX4_alike 96 = .ok (.iconst 1, 1) := dk_4 (dk_at dksX4_alike_4 3 rfl rfl)
theorem dX4_alike_97 : decode cX4_alike 97 = .ok (.goto 4, 3) := dk_167 0 4 (dk_at dksX4_alike_4 4 rfl rfl)
theorem dX4_alike_100 : decode cX4_alike 100 = .ok (.iconst 0, 1) := dk_3 (dk_at dksX4_alike_4 7 rfl rfl)
theorem dX4_alike_101 : decode cX4_alike 101 = .ok (.iadd, 1) := dk_96 (dk_at dksX4_alike_4 8 rfl rfl)
theorem dX4_alike_102 : decode cX4_alike 102 = .ok (.istore_n 3, 1) := dk_62 (dk_at dksX4_alike_4 9 rfl rfl)
theorem dX4_alike_103 : decode cX4_alike 103 = .ok (.iinc 4 1, 3) := dk_132 4 1 (dk_at dksX4_alike_4 10 rfl rfl)
theorem dX4_alike_106 : decode cX4_alike 106 = .ok (.goto (-63), 3) := dk_167 255 193 (dk_at dksX4_alike_4 13 rfl rfl)
theorem dX4_alike_109 : decode cX4_alike 109 = .ok (.iload_n 3, 1) := dk_29 (dk_at dksX4_alike_4 16 rfl rfl)
theorem dX4_alike_110 : decode cX4_alike 110 = .ok (.ireturn, 1) := dk_172 (dk_at dksX4_alike_4 17 rfl rfl)
abbrev cX4_tell : ByteArray := prog_9_method_55_code
def yX4_tell : MethodName := ⟨RX4, "tell", "(I)I"⟩
def dkwX4_tell_3 : List UInt8 := [29, 96, 46, 79, 132, 2, 1, 132, 3, 1, 167, 255, 202, 28, 172]
abbrev dktX4_tell_3 : List UInt8 := dkwX4_tell_3 ++ []
def dkwX4_tell_2 : List UInt8 := [180, 0, 217, 29, 46, 163, 0, 6, 167, 0, 23, 42, 180, 0, 217, 29, 42, 180, 0, 232, 16, 10, 27, 104]
abbrev dktX4_tell_2 : List UInt8 := dkwX4_tell_2 ++ dktX4_tell_3
def dkwX4_tell_1 : List UInt8 := [3, 62, 29, 42, 180, 1, 41, 162, 0, 52, 42, 180, 0, 232, 16, 10, 27, 104, 29, 96, 46, 42]
abbrev dktX4_tell_1 : List UInt8 := dkwX4_tell_1 ++ dktX4_tell_2
def dkwX4_tell_0 : List UInt8 := [27, 184, 1, 152, 154, 0, 6, 16, 254, 172, 42, 180, 0, 238, 27, 51, 154, 0, 6, 16, 252, 172, 3, 61]
abbrev dktX4_tell_0 : List UInt8 := dkwX4_tell_0 ++ dktX4_tell_1
theorem dksX4_tell_0 : cX4_tell.data.toList.drop 0 = dktX4_tell_0 := by decide +kernel
theorem dksX4_tell_1 : cX4_tell.data.toList.drop 24 = dktX4_tell_1 := dk_seg dksX4_tell_0 24 rfl rfl
theorem dksX4_tell_2 : cX4_tell.data.toList.drop 46 = dktX4_tell_2 := dk_seg dksX4_tell_1 22 rfl rfl
theorem dksX4_tell_3 : cX4_tell.data.toList.drop 70 = dktX4_tell_3 := dk_seg dksX4_tell_2 24 rfl rfl
theorem dX4_tell_0 : decode cX4_tell 0 = .ok (.iload_n 1, 1) := dk_27 (dk_at dksX4_tell_0 0 rfl rfl)
theorem dX4_tell_1 : decode cX4_tell 1 = .ok (.invokestatic 408, 3) := dk_184 1 152 (dk_at dksX4_tell_0 1 rfl rfl)
theorem dX4_tell_4 : decode cX4_tell 4 = .ok (.ifCond .ne 6, 3) := dk_154 0 6 (dk_at dksX4_tell_0 4 rfl rfl)
theorem dX4_tell_7 : decode cX4_tell 7 = .ok (.bipush (-2), 2) := dk_16 254 (dk_at dksX4_tell_0 7 rfl rfl)
theorem dX4_tell_9 : decode cX4_tell 9 = .ok (.ireturn, 1) := dk_172 (dk_at dksX4_tell_0 9 rfl rfl)
theorem dX4_tell_10 : decode cX4_tell 10 = .ok (.aload_n 0, 1) := dk_42 (dk_at dksX4_tell_0 10 rfl rfl)
theorem dX4_tell_11 : decode cX4_tell 11 = .ok (.getfield 238, 3) := dk_180 0 238 (dk_at dksX4_tell_0 11 rfl rfl)
theorem dX4_tell_14 : decode cX4_tell 14 = .ok (.iload_n 1, 1) := dk_27 (dk_at dksX4_tell_0 14 rfl rfl)
theorem dX4_tell_15 : decode cX4_tell 15 = .ok (.baload, 1) := dk_51 (dk_at dksX4_tell_0 15 rfl rfl)
theorem dX4_tell_16 : decode cX4_tell 16 = .ok (.ifCond .ne 6, 3) := dk_154 0 6 (dk_at dksX4_tell_0 16 rfl rfl)
theorem dX4_tell_19 : decode cX4_tell 19 = .ok (.bipush (-4), 2) := dk_16 252 (dk_at dksX4_tell_0 19 rfl rfl)
theorem dX4_tell_21 : decode cX4_tell 21 = .ok (.ireturn, 1) := dk_172 (dk_at dksX4_tell_0 21 rfl rfl)
theorem dX4_tell_22 : decode cX4_tell 22 = .ok (.iconst 0, 1) := dk_3 (dk_at dksX4_tell_0 22 rfl rfl)
theorem dX4_tell_23 : decode cX4_tell 23 = .ok (.istore_n 2, 1) := dk_61 (dk_at dksX4_tell_0 23 rfl rfl)
theorem dX4_tell_24 : decode cX4_tell 24 = .ok (.iconst 0, 1) := dk_3 (dk_at dksX4_tell_1 0 rfl rfl)
theorem dX4_tell_25 : decode cX4_tell 25 = .ok (.istore_n 3, 1) := dk_62 (dk_at dksX4_tell_1 1 rfl rfl)
theorem dX4_tell_26 : decode cX4_tell 26 = .ok (.iload_n 3, 1) := dk_29 (dk_at dksX4_tell_1 2 rfl rfl)
theorem dX4_tell_27 : decode cX4_tell 27 = .ok (.aload_n 0, 1) := dk_42 (dk_at dksX4_tell_1 3 rfl rfl)
theorem dX4_tell_28 : decode cX4_tell 28 = .ok (.getfield 297, 3) := dk_180 1 41 (dk_at dksX4_tell_1 4 rfl rfl)
theorem dX4_tell_31 : decode cX4_tell 31 = .ok (.if_icmp .ge 52, 3) := dk_162 0 52 (dk_at dksX4_tell_1 7 rfl rfl)
theorem dX4_tell_34 : decode cX4_tell 34 = .ok (.aload_n 0, 1) := dk_42 (dk_at dksX4_tell_1 10 rfl rfl)
theorem dX4_tell_35 : decode cX4_tell 35 = .ok (.getfield 232, 3) := dk_180 0 232 (dk_at dksX4_tell_1 11 rfl rfl)
theorem dX4_tell_38 : decode cX4_tell 38 = .ok (.bipush 10, 2) := dk_16 10 (dk_at dksX4_tell_1 14 rfl rfl)
theorem dX4_tell_40 : decode cX4_tell 40 = .ok (.iload_n 1, 1) := dk_27 (dk_at dksX4_tell_1 16 rfl rfl)
theorem dX4_tell_41 : decode cX4_tell 41 = .ok (.imul, 1) := dk_104 (dk_at dksX4_tell_1 17 rfl rfl)
theorem dX4_tell_42 : decode cX4_tell 42 = .ok (.iload_n 3, 1) := dk_29 (dk_at dksX4_tell_1 18 rfl rfl)
theorem dX4_tell_43 : decode cX4_tell 43 = .ok (.iadd, 1) := dk_96 (dk_at dksX4_tell_1 19 rfl rfl)
theorem dX4_tell_44 : decode cX4_tell 44 = .ok (.iaload, 1) := dk_46 (dk_at dksX4_tell_1 20 rfl rfl)
theorem dX4_tell_45 : decode cX4_tell 45 = .ok (.aload_n 0, 1) := dk_42 (dk_at dksX4_tell_1 21 rfl rfl)
theorem dX4_tell_46 : decode cX4_tell 46 = .ok (.getfield 217, 3) := dk_180 0 217 (dk_at dksX4_tell_2 0 rfl rfl)
theorem dX4_tell_49 : decode cX4_tell 49 = .ok (.iload_n 3, 1) := dk_29 (dk_at dksX4_tell_2 3 rfl rfl)
theorem dX4_tell_50 : decode cX4_tell 50 = .ok (.iaload, 1) := dk_46 (dk_at dksX4_tell_2 4 rfl rfl)
theorem dX4_tell_51 : decode cX4_tell 51 = .ok (.if_icmp .gt 6, 3) := dk_163 0 6 (dk_at dksX4_tell_2 5 rfl rfl)
theorem dX4_tell_54 : decode cX4_tell 54 = .ok (.goto 23, 3) := dk_167 0 23 (dk_at dksX4_tell_2 8 rfl rfl)
theorem dX4_tell_57 : decode cX4_tell 57 = .ok (.aload_n 0, 1) := dk_42 (dk_at dksX4_tell_2 11 rfl rfl)
theorem dX4_tell_58 : decode cX4_tell 58 = .ok (.getfield 217, 3) := dk_180 0 217 (dk_at dksX4_tell_2 12 rfl rfl)
theorem dX4_tell_61 : decode cX4_tell 61 = .ok (.iload_n 3, 1) := dk_29 (dk_at dksX4_tell_2 15 rfl rfl)
theorem dX4_tell_62 : decode cX4_tell 62 = .ok (.aload_n 0, 1) := dk_42 (dk_at dksX4_tell_2 16 rfl rfl)
theorem dX4_tell_63 : decode cX4_tell 63 = .ok (.getfield 232, 3) := dk_180 0 232 (dk_at dksX4_tell_2 17 rfl rfl)
theorem dX4_tell_66 : decode cX4_tell 66 = .ok (.bipush 10, 2) := dk_16 10 (dk_at dksX4_tell_2 20 rfl rfl)
theorem dX4_tell_68 : decode cX4_tell 68 = .ok (.iload_n 1, 1) := dk_27 (dk_at dksX4_tell_2 22 rfl rfl)
theorem dX4_tell_69 : decode cX4_tell 69 = .ok (.imul, 1) := dk_104 (dk_at dksX4_tell_2 23 rfl rfl)
theorem dX4_tell_70 : decode cX4_tell 70 = .ok (.iload_n 3, 1) := dk_29 (dk_at dksX4_tell_3 0 rfl rfl)
theorem dX4_tell_71 : decode cX4_tell 71 = .ok (.iadd, 1) := dk_96 (dk_at dksX4_tell_3 1 rfl rfl)
theorem dX4_tell_72 : decode cX4_tell 72 = .ok (.iaload, 1) := dk_46 (dk_at dksX4_tell_3 2 rfl rfl)
theorem dX4_tell_73 : decode cX4_tell 73 = .ok (.iastore, 1) := dk_79 (dk_at dksX4_tell_3 3 rfl rfl)
theorem dX4_tell_74 : decode cX4_tell 74 = .ok (.iinc 2 1, 3) := dk_132 2 1 (dk_at dksX4_tell_3 4 rfl rfl)
theorem dX4_tell_77 : decode cX4_tell 77 = .ok (.iinc 3 1, 3) := dk_132 3 1 (dk_at dksX4_tell_3 7 rfl rfl)
theorem dX4_tell_80 : decode cX4_tell 80 = .ok (.goto (-54), 3) := dk_167 255 202 (dk_at dksX4_tell_3 10 rfl rfl)
theorem dX4_tell_83 : decode cX4_tell 83 = .ok (.iload_n 2, 1) := dk_28 (dk_at dksX4_tell_3 13 rfl rfl)
theorem dX4_tell_84 : decode cX4_tell 84 = .ok (.ireturn, 1) := dk_172 (dk_at dksX4_tell_3 14 rfl rfl)
abbrev cX4_own : ByteArray := prog_9_method_62_code
def yX4_own : MethodName := ⟨RX4, "own", "()I"⟩
def dkwX4_own_0 : List UInt8 := [42, 180, 0, 215, 42, 180, 1, 41, 184, 1, 95, 172]
abbrev dktX4_own_0 : List UInt8 := dkwX4_own_0 ++ []
theorem dksX4_own_0 : cX4_own.data.toList.drop 0 = dktX4_own_0 := by decide +kernel
theorem dX4_own_0 : decode cX4_own 0 = .ok (.aload_n 0, 1) := dk_42 (dk_at dksX4_own_0 0 rfl rfl)
theorem dX4_own_1 : decode cX4_own 1 = .ok (.getfield 215, 3) := dk_180 0 215 (dk_at dksX4_own_0 1 rfl rfl)
theorem dX4_own_4 : decode cX4_own 4 = .ok (.aload_n 0, 1) := dk_42 (dk_at dksX4_own_0 4 rfl rfl)
theorem dX4_own_5 : decode cX4_own 5 = .ok (.getfield 297, 3) := dk_180 1 41 (dk_at dksX4_own_0 5 rfl rfl)
theorem dX4_own_8 : decode cX4_own 8 = .ok (.invokestatic 351, 3) := dk_184 1 95 (dk_at dksX4_own_0 8 rfl rfl)
theorem dX4_own_11 : decode cX4_own 11 = .ok (.ireturn, 1) := dk_172 (dk_at dksX4_own_0 11 rfl rfl)
abbrev cX4_net : ByteArray := prog_9_method_64_code
def yX4_net : MethodName := ⟨RX4, "net", "(II)I"⟩
def dkwX4_net_3 : List UInt8 := [182, 1, 166, 172, 42, 27, 182, 1, 172, 172, 42, 27, 182, 1, 175, 172, 16, 254, 172]
abbrev dktX4_net_3 : List UInt8 := dkwX4_net_3 ++ []
def dkwX4_net_2 : List UInt8 := [42, 27, 182, 1, 163, 172, 42, 27, 182, 1, 155, 153, 0, 7, 4, 167, 0, 4, 3, 172, 42, 27]
abbrev dktX4_net_2 : List UInt8 := dkwX4_net_2 ++ dktX4_net_3
def dkwX4_net_1 : List UInt8 := [170, 0, 0, 0, 0, 0, 0, 74, 0, 0, 0, 0, 0, 0, 0, 4, 0, 0, 0, 36, 0, 0, 0, 42, 0, 0, 0, 56, 0, 0, 0, 62, 0, 0, 0, 68]
abbrev dktX4_net_1 : List UInt8 := dkwX4_net_1 ++ dktX4_net_2
def dkwX4_net_0 : List UInt8 := [42, 27, 182, 1, 169, 154, 0, 6, 16, 254, 172, 28]
abbrev dktX4_net_0 : List UInt8 := dkwX4_net_0 ++ dktX4_net_1
theorem dksX4_net_0 : cX4_net.data.toList.drop 0 = dktX4_net_0 := by decide +kernel
theorem dksX4_net_1 : cX4_net.data.toList.drop 12 = dktX4_net_1 := dk_seg dksX4_net_0 12 rfl rfl
theorem dksX4_net_2 : cX4_net.data.toList.drop 48 = dktX4_net_2 := dk_seg dksX4_net_1 36 rfl rfl
theorem dksX4_net_3 : cX4_net.data.toList.drop 70 = dktX4_net_3 := dk_seg dksX4_net_2 22 rfl rfl
theorem dX4_net_0 : decode cX4_net 0 = .ok (.aload_n 0, 1) := dk_42 (dk_at dksX4_net_0 0 rfl rfl)
theorem dX4_net_1 : decode cX4_net 1 = .ok (.iload_n 1, 1) := dk_27 (dk_at dksX4_net_0 1 rfl rfl)
theorem dX4_net_2 : decode cX4_net 2 = .ok (.invokevirtual 425, 3) := dk_182 1 169 (dk_at dksX4_net_0 2 rfl rfl)
theorem dX4_net_5 : decode cX4_net 5 = .ok (.ifCond .ne 6, 3) := dk_154 0 6 (dk_at dksX4_net_0 5 rfl rfl)
theorem dX4_net_8 : decode cX4_net 8 = .ok (.bipush (-2), 2) := dk_16 254 (dk_at dksX4_net_0 8 rfl rfl)
theorem dX4_net_10 : decode cX4_net 10 = .ok (.ireturn, 1) := dk_172 (dk_at dksX4_net_0 10 rfl rfl)
theorem dX4_net_11 : decode cX4_net 11 = .ok (.iload_n 2, 1) := dk_28 (dk_at dksX4_net_0 11 rfl rfl)
theorem dX4_net_12 : decode cX4_net 12 = .ok (.tableswitch 74 0 4 #[36, 42, 56, 62, 68], 36) := by decide +kernel
theorem dX4_net_48 : decode cX4_net 48 = .ok (.aload_n 0, 1) := dk_42 (dk_at dksX4_net_2 0 rfl rfl)
theorem dX4_net_49 : decode cX4_net 49 = .ok (.iload_n 1, 1) := dk_27 (dk_at dksX4_net_2 1 rfl rfl)
theorem dX4_net_50 : decode cX4_net 50 = .ok (.invokevirtual 419, 3) := dk_182 1 163 (dk_at dksX4_net_2 2 rfl rfl)
theorem dX4_net_53 : decode cX4_net 53 = .ok (.ireturn, 1) := dk_172 (dk_at dksX4_net_2 5 rfl rfl)
theorem dX4_net_54 : decode cX4_net 54 = .ok (.aload_n 0, 1) := dk_42 (dk_at dksX4_net_2 6 rfl rfl)
theorem dX4_net_55 : decode cX4_net 55 = .ok (.iload_n 1, 1) := dk_27 (dk_at dksX4_net_2 7 rfl rfl)
theorem dX4_net_56 : decode cX4_net 56 = .ok (.invokevirtual 411, 3) := dk_182 1 155 (dk_at dksX4_net_2 8 rfl rfl)
theorem dX4_net_59 : decode cX4_net 59 = .ok (.ifCond .eq 7, 3) := dk_153 0 7 (dk_at dksX4_net_2 11 rfl rfl)
theorem dX4_net_62 : decode cX4_net 62 = .ok (.iconst 1, 1) := dk_4 (dk_at dksX4_net_2 14 rfl rfl)
theorem dX4_net_63 : decode cX4_net 63 = .ok (.goto 4, 3) := dk_167 0 4 (dk_at dksX4_net_2 15 rfl rfl)
theorem dX4_net_66 : decode cX4_net 66 = .ok (.iconst 0, 1) := dk_3 (dk_at dksX4_net_2 18 rfl rfl)
theorem dX4_net_67 : decode cX4_net 67 = .ok (.ireturn, 1) := dk_172 (dk_at dksX4_net_2 19 rfl rfl)
theorem dX4_net_68 : decode cX4_net 68 = .ok (.aload_n 0, 1) := dk_42 (dk_at dksX4_net_2 20 rfl rfl)
theorem dX4_net_69 : decode cX4_net 69 = .ok (.iload_n 1, 1) := dk_27 (dk_at dksX4_net_2 21 rfl rfl)
theorem dX4_net_70 : decode cX4_net 70 = .ok (.invokevirtual 422, 3) := dk_182 1 166 (dk_at dksX4_net_3 0 rfl rfl)
theorem dX4_net_73 : decode cX4_net 73 = .ok (.ireturn, 1) := dk_172 (dk_at dksX4_net_3 3 rfl rfl)
theorem dX4_net_74 : decode cX4_net 74 = .ok (.aload_n 0, 1) := dk_42 (dk_at dksX4_net_3 4 rfl rfl)
theorem dX4_net_75 : decode cX4_net 75 = .ok (.iload_n 1, 1) := dk_27 (dk_at dksX4_net_3 5 rfl rfl)
theorem dX4_net_76 : decode cX4_net 76 = .ok (.invokevirtual 428, 3) := dk_182 1 172 (dk_at dksX4_net_3 6 rfl rfl)
theorem dX4_net_79 : decode cX4_net 79 = .ok (.ireturn, 1) := dk_172 (dk_at dksX4_net_3 9 rfl rfl)
theorem dX4_net_80 : decode cX4_net 80 = .ok (.aload_n 0, 1) := dk_42 (dk_at dksX4_net_3 10 rfl rfl)
theorem dX4_net_81 : decode cX4_net 81 = .ok (.iload_n 1, 1) := dk_27 (dk_at dksX4_net_3 11 rfl rfl)
theorem dX4_net_82 : decode cX4_net 82 = .ok (.invokevirtual 431, 3) := dk_182 1 175 (dk_at dksX4_net_3 12 rfl rfl)
theorem dX4_net_85 : decode cX4_net 85 = .ok (.ireturn, 1) := dk_172 (dk_at dksX4_net_3 15 rfl rfl)
theorem dX4_net_86 : decode cX4_net 86 = .ok (.bipush (-2), 2) := dk_16 254 (dk_at dksX4_net_3 16 rfl rfl)
theorem dX4_net_88 : decode cX4_net 88 = .ok (.ireturn, 1) := dk_172 (dk_at dksX4_net_3 18 rfl rfl)
abbrev cX4_isNet : ByteArray := prog_9_method_63_code
def yX4_isNet : MethodName := ⟨RX4, "isNet", "(I)Z"⟩
def dkwX4_isNet_0 : List UInt8 := [27, 133, 9, 10, 42, 180, 1, 41, 121, 10, 101, 184, 0, 52, 172]
abbrev dktX4_isNet_0 : List UInt8 := dkwX4_isNet_0 ++ []
theorem dksX4_isNet_0 : cX4_isNet.data.toList.drop 0 = dktX4_isNet_0 := by decide +kernel
theorem dX4_isNet_0 : decode cX4_isNet 0 = .ok (.iload_n 1, 1) := dk_27 (dk_at dksX4_isNet_0 0 rfl rfl)
theorem dX4_isNet_1 : decode cX4_isNet 1 = .ok (.i2l, 1) := dk_133 (dk_at dksX4_isNet_0 1 rfl rfl)
theorem dX4_isNet_2 : decode cX4_isNet 2 = .ok (.lconst 0, 1) := dk_9 (dk_at dksX4_isNet_0 2 rfl rfl)
theorem dX4_isNet_3 : decode cX4_isNet 3 = .ok (.lconst 1, 1) := dk_10 (dk_at dksX4_isNet_0 3 rfl rfl)
theorem dX4_isNet_4 : decode cX4_isNet 4 = .ok (.aload_n 0, 1) := dk_42 (dk_at dksX4_isNet_0 4 rfl rfl)
theorem dX4_isNet_5 : decode cX4_isNet 5 = .ok (.getfield 297, 3) := dk_180 1 41 (dk_at dksX4_isNet_0 5 rfl rfl)
theorem dX4_isNet_8 : decode cX4_isNet 8 = .ok (.lshl, 1) := dk_121 (dk_at dksX4_isNet_0 8 rfl rfl)
theorem dX4_isNet_9 : decode cX4_isNet 9 = .ok (.lconst 1, 1) := dk_10 (dk_at dksX4_isNet_0 9 rfl rfl)
theorem dX4_isNet_10 : decode cX4_isNet 10 = .ok (.lsub, 1) := dk_101 (dk_at dksX4_isNet_0 10 rfl rfl)
theorem dX4_isNet_11 : decode cX4_isNet 11 = .ok (.invokestatic 52, 3) := dk_184 0 52 (dk_at dksX4_isNet_0 11 rfl rfl)
theorem dX4_isNet_14 : decode cX4_isNet 14 = .ok (.ireturn, 1) := dk_172 (dk_at dksX4_isNet_0 14 rfl rfl)
abbrev cX4_lengthOf : ByteArray := prog_9_method_57_code
def yX4_lengthOf : MethodName := ⟨RX4, "lengthOf", "(I)I"⟩
def dkwX4_lengthOf_1 : List UInt8 := [180, 0, 194, 29, 46, 167, 0, 4, 3, 96, 61, 132, 3, 1, 167, 255, 223, 28, 172]
abbrev dktX4_lengthOf_1 : List UInt8 := dkwX4_lengthOf_1 ++ []
def dkwX4_lengthOf_0 : List UInt8 := [3, 61, 3, 62, 29, 42, 180, 1, 41, 162, 0, 31, 28, 27, 29, 122, 4, 126, 4, 160, 0, 12, 42]
abbrev dktX4_lengthOf_0 : List UInt8 := dkwX4_lengthOf_0 ++ dktX4_lengthOf_1
theorem dksX4_lengthOf_0 : cX4_lengthOf.data.toList.drop 0 = dktX4_lengthOf_0 := by decide +kernel
theorem dksX4_lengthOf_1 : cX4_lengthOf.data.toList.drop 23 = dktX4_lengthOf_1 := dk_seg dksX4_lengthOf_0 23 rfl rfl
theorem dX4_lengthOf_0 : decode cX4_lengthOf 0 = .ok (.iconst 0, 1) := dk_3 (dk_at dksX4_lengthOf_0 0 rfl rfl)
theorem dX4_lengthOf_1 : decode cX4_lengthOf 1 = .ok (.istore_n 2, 1) := dk_61 (dk_at dksX4_lengthOf_0 1 rfl rfl)
theorem dX4_lengthOf_2 : decode cX4_lengthOf 2 = .ok (.iconst 0, 1) := dk_3 (dk_at dksX4_lengthOf_0 2 rfl rfl)
theorem dX4_lengthOf_3 : decode cX4_lengthOf 3 = .ok (.istore_n 3, 1) := dk_62 (dk_at dksX4_lengthOf_0 3 rfl rfl)
theorem dX4_lengthOf_4 : decode cX4_lengthOf 4 = .ok (.iload_n 3, 1) := dk_29 (dk_at dksX4_lengthOf_0 4 rfl rfl)
theorem dX4_lengthOf_5 : decode cX4_lengthOf 5 = .ok (.aload_n 0, 1) := dk_42 (dk_at dksX4_lengthOf_0 5 rfl rfl)
theorem dX4_lengthOf_6 : decode cX4_lengthOf 6 = .ok (.getfield 297, 3) := dk_180 1 41 (dk_at dksX4_lengthOf_0 6 rfl rfl)
theorem dX4_lengthOf_9 : decode cX4_lengthOf 9 = .ok (.if_icmp .ge 31, 3) := dk_162 0 31 (dk_at dksX4_lengthOf_0 9 rfl rfl)
theorem dX4_lengthOf_12 : decode cX4_lengthOf 12 = .ok (.iload_n 2, 1) := dk_28 (dk_at dksX4_lengthOf_0 12 rfl rfl)
theorem dX4_lengthOf_13 : decode cX4_lengthOf 13 = .ok (.iload_n 1, 1) := dk_27 (dk_at dksX4_lengthOf_0 13 rfl rfl)
theorem dX4_lengthOf_14 : decode cX4_lengthOf 14 = .ok (.iload_n 3, 1) := dk_29 (dk_at dksX4_lengthOf_0 14 rfl rfl)
theorem dX4_lengthOf_15 : decode cX4_lengthOf 15 = .ok (.ishr, 1) := dk_122 (dk_at dksX4_lengthOf_0 15 rfl rfl)
theorem dX4_lengthOf_16 : decode cX4_lengthOf 16 = .ok (.iconst 1, 1) := dk_4 (dk_at dksX4_lengthOf_0 16 rfl rfl)
theorem dX4_lengthOf_17 : decode cX4_lengthOf 17 = .ok (.iand, 1) := dk_126 (dk_at dksX4_lengthOf_0 17 rfl rfl)
theorem dX4_lengthOf_18 : decode cX4_lengthOf 18 = .ok (.iconst 1, 1) := dk_4 (dk_at dksX4_lengthOf_0 18 rfl rfl)
theorem dX4_lengthOf_19 : decode cX4_lengthOf 19 = .ok (.if_icmp .ne 12, 3) := dk_160 0 12 (dk_at dksX4_lengthOf_0 19 rfl rfl)
theorem dX4_lengthOf_22 : decode cX4_lengthOf 22 = .ok (.aload_n 0, 1) := dk_42 (dk_at dksX4_lengthOf_0 22 rfl rfl)
theorem dX4_lengthOf_23 : decode cX4_lengthOf 23 = .ok (.getfield 194, 3) := dk_180 0 194 (dk_at dksX4_lengthOf_1 0 rfl rfl)
theorem dX4_lengthOf_26 : decode cX4_lengthOf 26 = .ok (.iload_n 3, 1) := dk_29 (dk_at dksX4_lengthOf_1 3 rfl rfl)
theorem dX4_lengthOf_27 : decode cX4_lengthOf 27 = .ok (.iaload, 1) := dk_46 (dk_at dksX4_lengthOf_1 4 rfl rfl)
theorem dX4_lengthOf_28 : decode cX4_lengthOf 28 = .ok (.goto 4, 3) := dk_167 0 4 (dk_at dksX4_lengthOf_1 5 rfl rfl)
theorem dX4_lengthOf_31 : decode cX4_lengthOf 31 = .ok (.iconst 0, 1) := dk_3 (dk_at dksX4_lengthOf_1 8 rfl rfl)
theorem dX4_lengthOf_32 : decode cX4_lengthOf 32 = .ok (.iadd, 1) := dk_96 (dk_at dksX4_lengthOf_1 9 rfl rfl)
theorem dX4_lengthOf_33 : decode cX4_lengthOf 33 = .ok (.istore_n 2, 1) := dk_61 (dk_at dksX4_lengthOf_1 10 rfl rfl)
theorem dX4_lengthOf_34 : decode cX4_lengthOf 34 = .ok (.iinc 3 1, 3) := dk_132 3 1 (dk_at dksX4_lengthOf_1 11 rfl rfl)
theorem dX4_lengthOf_37 : decode cX4_lengthOf 37 = .ok (.goto (-33), 3) := dk_167 255 223 (dk_at dksX4_lengthOf_1 14 rfl rfl)
theorem dX4_lengthOf_40 : decode cX4_lengthOf 40 = .ok (.iload_n 2, 1) := dk_28 (dk_at dksX4_lengthOf_1 17 rfl rfl)
theorem dX4_lengthOf_41 : decode cX4_lengthOf 41 = .ok (.ireturn, 1) := dk_172 (dk_at dksX4_lengthOf_1 18 rfl rfl)
abbrev cX4_joins : ByteArray := prog_9_method_56_code
def yX4_joins : MethodName := ⟨RX4, "joins", "(I)Z"⟩
def dkwX4_joins_2 : List UInt8 := [132, 3, 1, 167, 255, 230, 4, 172]
abbrev dktX4_joins_2 : List UInt8 := dkwX4_joins_2 ++ []
def dkwX4_joins_1 : List UInt8 := [29, 42, 180, 1, 44, 162, 0, 24, 28, 42, 180, 0, 197, 29, 46, 122, 4, 126, 154, 0, 5, 3, 172]
abbrev dktX4_joins_1 : List UInt8 := dkwX4_joins_1 ++ dktX4_joins_2
def dkwX4_joins_0 : List UInt8 := [42, 180, 1, 44, 5, 162, 0, 5, 4, 172, 42, 27, 42, 180, 0, 197, 3, 46, 182, 1, 99, 61, 4, 62]
abbrev dktX4_joins_0 : List UInt8 := dkwX4_joins_0 ++ dktX4_joins_1
theorem dksX4_joins_0 : cX4_joins.data.toList.drop 0 = dktX4_joins_0 := by decide +kernel
theorem dksX4_joins_1 : cX4_joins.data.toList.drop 24 = dktX4_joins_1 := dk_seg dksX4_joins_0 24 rfl rfl
theorem dksX4_joins_2 : cX4_joins.data.toList.drop 47 = dktX4_joins_2 := dk_seg dksX4_joins_1 23 rfl rfl
theorem dX4_joins_0 : decode cX4_joins 0 = .ok (.aload_n 0, 1) := dk_42 (dk_at dksX4_joins_0 0 rfl rfl)
theorem dX4_joins_1 : decode cX4_joins 1 = .ok (.getfield 300, 3) := dk_180 1 44 (dk_at dksX4_joins_0 1 rfl rfl)
theorem dX4_joins_4 : decode cX4_joins 4 = .ok (.iconst 2, 1) := dk_5 (dk_at dksX4_joins_0 4 rfl rfl)
theorem dX4_joins_5 : decode cX4_joins 5 = .ok (.if_icmp .ge 5, 3) := dk_162 0 5 (dk_at dksX4_joins_0 5 rfl rfl)
theorem dX4_joins_8 : decode cX4_joins 8 = .ok (.iconst 1, 1) := dk_4 (dk_at dksX4_joins_0 8 rfl rfl)
theorem dX4_joins_9 : decode cX4_joins 9 = .ok (.ireturn, 1) := dk_172 (dk_at dksX4_joins_0 9 rfl rfl)
theorem dX4_joins_10 : decode cX4_joins 10 = .ok (.aload_n 0, 1) := dk_42 (dk_at dksX4_joins_0 10 rfl rfl)
theorem dX4_joins_11 : decode cX4_joins 11 = .ok (.iload_n 1, 1) := dk_27 (dk_at dksX4_joins_0 11 rfl rfl)
theorem dX4_joins_12 : decode cX4_joins 12 = .ok (.aload_n 0, 1) := dk_42 (dk_at dksX4_joins_0 12 rfl rfl)
theorem dX4_joins_13 : decode cX4_joins 13 = .ok (.getfield 197, 3) := dk_180 0 197 (dk_at dksX4_joins_0 13 rfl rfl)
theorem dX4_joins_16 : decode cX4_joins 16 = .ok (.iconst 0, 1) := dk_3 (dk_at dksX4_joins_0 16 rfl rfl)
theorem dX4_joins_17 : decode cX4_joins 17 = .ok (.iaload, 1) := dk_46 (dk_at dksX4_joins_0 17 rfl rfl)
theorem dX4_joins_18 : decode cX4_joins 18 = .ok (.invokevirtual 355, 3) := dk_182 1 99 (dk_at dksX4_joins_0 18 rfl rfl)
theorem dX4_joins_21 : decode cX4_joins 21 = .ok (.istore_n 2, 1) := dk_61 (dk_at dksX4_joins_0 21 rfl rfl)
theorem dX4_joins_22 : decode cX4_joins 22 = .ok (.iconst 1, 1) := dk_4 (dk_at dksX4_joins_0 22 rfl rfl)
theorem dX4_joins_23 : decode cX4_joins 23 = .ok (.istore_n 3, 1) := dk_62 (dk_at dksX4_joins_0 23 rfl rfl)
theorem dX4_joins_24 : decode cX4_joins 24 = .ok (.iload_n 3, 1) := dk_29 (dk_at dksX4_joins_1 0 rfl rfl)
theorem dX4_joins_25 : decode cX4_joins 25 = .ok (.aload_n 0, 1) := dk_42 (dk_at dksX4_joins_1 1 rfl rfl)
theorem dX4_joins_26 : decode cX4_joins 26 = .ok (.getfield 300, 3) := dk_180 1 44 (dk_at dksX4_joins_1 2 rfl rfl)
theorem dX4_joins_29 : decode cX4_joins 29 = .ok (.if_icmp .ge 24, 3) := dk_162 0 24 (dk_at dksX4_joins_1 5 rfl rfl)
theorem dX4_joins_32 : decode cX4_joins 32 = .ok (.iload_n 2, 1) := dk_28 (dk_at dksX4_joins_1 8 rfl rfl)
theorem dX4_joins_33 : decode cX4_joins 33 = .ok (.aload_n 0, 1) := dk_42 (dk_at dksX4_joins_1 9 rfl rfl)
theorem dX4_joins_34 : decode cX4_joins 34 = .ok (.getfield 197, 3) := dk_180 0 197 (dk_at dksX4_joins_1 10 rfl rfl)
theorem dX4_joins_37 : decode cX4_joins 37 = .ok (.iload_n 3, 1) := dk_29 (dk_at dksX4_joins_1 13 rfl rfl)
theorem dX4_joins_38 : decode cX4_joins 38 = .ok (.iaload, 1) := dk_46 (dk_at dksX4_joins_1 14 rfl rfl)
theorem dX4_joins_39 : decode cX4_joins 39 = .ok (.ishr, 1) := dk_122 (dk_at dksX4_joins_1 15 rfl rfl)
theorem dX4_joins_40 : decode cX4_joins 40 = .ok (.iconst 1, 1) := dk_4 (dk_at dksX4_joins_1 16 rfl rfl)
theorem dX4_joins_41 : decode cX4_joins 41 = .ok (.iand, 1) := dk_126 (dk_at dksX4_joins_1 17 rfl rfl)
theorem dX4_joins_42 : decode cX4_joins 42 = .ok (.ifCond .ne 5, 3) := dk_154 0 5 (dk_at dksX4_joins_1 18 rfl rfl)
theorem dX4_joins_45 : decode cX4_joins 45 = .ok (.iconst 0, 1) := dk_3 (dk_at dksX4_joins_1 21 rfl rfl)
theorem dX4_joins_46 : decode cX4_joins 46 = .ok (.ireturn, 1) := dk_172 (dk_at dksX4_joins_1 22 rfl rfl)
theorem dX4_joins_47 : decode cX4_joins 47 = .ok (.iinc 3 1, 3) := dk_132 3 1 (dk_at dksX4_joins_2 0 rfl rfl)
theorem dX4_joins_50 : decode cX4_joins 50 = .ok (.goto (-26), 3) := dk_167 255 230 (dk_at dksX4_joins_2 3 rfl rfl)
theorem dX4_joins_53 : decode cX4_joins 53 = .ok (.iconst 1, 1) := dk_4 (dk_at dksX4_joins_2 6 rfl rfl)
theorem dX4_joins_54 : decode cX4_joins 54 = .ok (.ireturn, 1) := dk_172 (dk_at dksX4_joins_2 7 rfl rfl)
abbrev cX4_sureOf : ByteArray := prog_9_method_58_code
def yX4_sureOf : MethodName := ⟨RX4, "sureOf", "(I)I"⟩
def dkwX4_sureOf_2 : List UInt8 := [167, 0, 4, 3, 96, 61, 132, 3, 1, 167, 255, 214, 28, 172]
abbrev dktX4_sureOf_2 : List UInt8 := dkwX4_sureOf_2 ++ []
def dkwX4_sureOf_1 : List UInt8 := [29, 122, 4, 126, 4, 160, 0, 21, 42, 27, 4, 29, 120, 2, 130, 126, 182, 1, 155, 153, 0, 7, 4]
abbrev dktX4_sureOf_1 : List UInt8 := dkwX4_sureOf_1 ++ dktX4_sureOf_2
def dkwX4_sureOf_0 : List UInt8 := [42, 27, 182, 1, 155, 154, 0, 5, 3, 172, 3, 61, 3, 62, 29, 42, 180, 1, 41, 162, 0, 40, 28, 27]
abbrev dktX4_sureOf_0 : List UInt8 := dkwX4_sureOf_0 ++ dktX4_sureOf_1
theorem dksX4_sureOf_0 : cX4_sureOf.data.toList.drop 0 = dktX4_sureOf_0 := by decide +kernel
theorem dksX4_sureOf_1 : cX4_sureOf.data.toList.drop 24 = dktX4_sureOf_1 := dk_seg dksX4_sureOf_0 24 rfl rfl
theorem dksX4_sureOf_2 : cX4_sureOf.data.toList.drop 47 = dktX4_sureOf_2 := dk_seg dksX4_sureOf_1 23 rfl rfl
theorem dX4_sureOf_0 : decode cX4_sureOf 0 = .ok (.aload_n 0, 1) := dk_42 (dk_at dksX4_sureOf_0 0 rfl rfl)
theorem dX4_sureOf_1 : decode cX4_sureOf 1 = .ok (.iload_n 1, 1) := dk_27 (dk_at dksX4_sureOf_0 1 rfl rfl)
theorem dX4_sureOf_2 : decode cX4_sureOf 2 = .ok (.invokevirtual 411, 3) := dk_182 1 155 (dk_at dksX4_sureOf_0 2 rfl rfl)
theorem dX4_sureOf_5 : decode cX4_sureOf 5 = .ok (.ifCond .ne 5, 3) := dk_154 0 5 (dk_at dksX4_sureOf_0 5 rfl rfl)
theorem dX4_sureOf_8 : decode cX4_sureOf 8 = .ok (.iconst 0, 1) := dk_3 (dk_at dksX4_sureOf_0 8 rfl rfl)
theorem dX4_sureOf_9 : decode cX4_sureOf 9 = .ok (.ireturn, 1) := dk_172 (dk_at dksX4_sureOf_0 9 rfl rfl)
theorem dX4_sureOf_10 : decode cX4_sureOf 10 = .ok (.iconst 0, 1) := dk_3 (dk_at dksX4_sureOf_0 10 rfl rfl)
theorem dX4_sureOf_11 : decode cX4_sureOf 11 = .ok (.istore_n 2, 1) := dk_61 (dk_at dksX4_sureOf_0 11 rfl rfl)
theorem dX4_sureOf_12 : decode cX4_sureOf 12 = .ok (.iconst 0, 1) := dk_3 (dk_at dksX4_sureOf_0 12 rfl rfl)
theorem dX4_sureOf_13 : decode cX4_sureOf 13 = .ok (.istore_n 3, 1) := dk_62 (dk_at dksX4_sureOf_0 13 rfl rfl)
theorem dX4_sureOf_14 : decode cX4_sureOf 14 = .ok (.iload_n 3, 1) := dk_29 (dk_at dksX4_sureOf_0 14 rfl rfl)
theorem dX4_sureOf_15 : decode cX4_sureOf 15 = .ok (.aload_n 0, 1) := dk_42 (dk_at dksX4_sureOf_0 15 rfl rfl)
theorem dX4_sureOf_16 : decode cX4_sureOf 16 = .ok (.getfield 297, 3) := dk_180 1 41 (dk_at dksX4_sureOf_0 16 rfl rfl)
theorem dX4_sureOf_19 : decode cX4_sureOf 19 = .ok (.if_icmp .ge 40, 3) := dk_162 0 40 (dk_at dksX4_sureOf_0 19 rfl rfl)
theorem dX4_sureOf_22 : decode cX4_sureOf 22 = .ok (.iload_n 2, 1) := dk_28 (dk_at dksX4_sureOf_0 22 rfl rfl)
theorem dX4_sureOf_23 : decode cX4_sureOf 23 = .ok (.iload_n 1, 1) := dk_27 (dk_at dksX4_sureOf_0 23 rfl rfl)
theorem dX4_sureOf_24 : decode cX4_sureOf 24 = .ok (.iload_n 3, 1) := dk_29 (dk_at dksX4_sureOf_1 0 rfl rfl)
theorem dX4_sureOf_25 : decode cX4_sureOf 25 = .ok (.ishr, 1) := dk_122 (dk_at dksX4_sureOf_1 1 rfl rfl)
theorem dX4_sureOf_26 : decode cX4_sureOf 26 = .ok (.iconst 1, 1) := dk_4 (dk_at dksX4_sureOf_1 2 rfl rfl)
theorem dX4_sureOf_27 : decode cX4_sureOf 27 = .ok (.iand, 1) := dk_126 (dk_at dksX4_sureOf_1 3 rfl rfl)
theorem dX4_sureOf_28 : decode cX4_sureOf 28 = .ok (.iconst 1, 1) := dk_4 (dk_at dksX4_sureOf_1 4 rfl rfl)
theorem dX4_sureOf_29 : decode cX4_sureOf 29 = .ok (.if_icmp .ne 21, 3) := dk_160 0 21 (dk_at dksX4_sureOf_1 5 rfl rfl)
theorem dX4_sureOf_32 : decode cX4_sureOf 32 = .ok (.aload_n 0, 1) := dk_42 (dk_at dksX4_sureOf_1 8 rfl rfl)
theorem dX4_sureOf_33 : decode cX4_sureOf 33 = .ok (.iload_n 1, 1) := dk_27 (dk_at dksX4_sureOf_1 9 rfl rfl)
theorem dX4_sureOf_34 : decode cX4_sureOf 34 = .ok (.iconst 1, 1) := dk_4 (dk_at dksX4_sureOf_1 10 rfl rfl)
theorem dX4_sureOf_35 : decode cX4_sureOf 35 = .ok (.iload_n 3, 1) := dk_29 (dk_at dksX4_sureOf_1 11 rfl rfl)
theorem dX4_sureOf_36 : decode cX4_sureOf 36 = .ok (.ishl, 1) := dk_120 (dk_at dksX4_sureOf_1 12 rfl rfl)
theorem dX4_sureOf_37 : decode cX4_sureOf 37 = .ok (.iconst (-1), 1) := dk_2 (dk_at dksX4_sureOf_1 13 rfl rfl)
theorem dX4_sureOf_38 : decode cX4_sureOf 38 = .ok (.ixor, 1) := dk_130 (dk_at dksX4_sureOf_1 14 rfl rfl)
theorem dX4_sureOf_39 : decode cX4_sureOf 39 = .ok (.iand, 1) := dk_126 (dk_at dksX4_sureOf_1 15 rfl rfl)
theorem dX4_sureOf_40 : decode cX4_sureOf 40 = .ok (.invokevirtual 411, 3) := dk_182 1 155 (dk_at dksX4_sureOf_1 16 rfl rfl)
theorem dX4_sureOf_43 : decode cX4_sureOf 43 = .ok (.ifCond .eq 7, 3) := dk_153 0 7 (dk_at dksX4_sureOf_1 19 rfl rfl)
theorem dX4_sureOf_46 : decode cX4_sureOf 46 = .ok (.iconst 1, 1) := dk_4 (dk_at dksX4_sureOf_1 22 rfl rfl)
theorem dX4_sureOf_47 : decode cX4_sureOf 47 = .ok (.goto 4, 3) := dk_167 0 4 (dk_at dksX4_sureOf_2 0 rfl rfl)
theorem dX4_sureOf_50 : decode cX4_sureOf 50 = .ok (.iconst 0, 1) := dk_3 (dk_at dksX4_sureOf_2 3 rfl rfl)
theorem dX4_sureOf_51 : decode cX4_sureOf 51 = .ok (.iadd, 1) := dk_96 (dk_at dksX4_sureOf_2 4 rfl rfl)
theorem dX4_sureOf_52 : decode cX4_sureOf 52 = .ok (.istore_n 2, 1) := dk_61 (dk_at dksX4_sureOf_2 5 rfl rfl)
theorem dX4_sureOf_53 : decode cX4_sureOf 53 = .ok (.iinc 3 1, 3) := dk_132 3 1 (dk_at dksX4_sureOf_2 6 rfl rfl)
theorem dX4_sureOf_56 : decode cX4_sureOf 56 = .ok (.goto (-42), 3) := dk_167 255 214 (dk_at dksX4_sureOf_2 9 rfl rfl)
theorem dX4_sureOf_59 : decode cX4_sureOf 59 = .ok (.iload_n 2, 1) := dk_28 (dk_at dksX4_sureOf_2 12 rfl rfl)
theorem dX4_sureOf_60 : decode cX4_sureOf 60 = .ok (.ireturn, 1) := dk_172 (dk_at dksX4_sureOf_2 13 rfl rfl)
abbrev cX4_waysOf : ByteArray := prog_9_method_60_code
def yX4_waysOf : MethodName := ⟨RX4, "waysOf", "(I)I"⟩
def dkwX4_waysOf_3 : List UInt8 := [172]
abbrev dktX4_waysOf_3 : List UInt8 := dkwX4_waysOf_3 ++ []
def dkwX4_waysOf_2 : List UInt8 := [180, 0, 197, 21, 4, 46, 182, 1, 159, 96, 61, 132, 4, 1, 167, 255, 223, 132, 3, 1, 167, 255, 204, 28]
abbrev dktX4_waysOf_2 : List UInt8 := dkwX4_waysOf_2 ++ dktX4_waysOf_3
def dkwX4_waysOf_1 : List UInt8 := [96, 54, 4, 21, 4, 42, 180, 1, 44, 162, 0, 30, 28, 42, 27, 42, 180, 0, 197, 29, 46, 42]
abbrev dktX4_waysOf_1 : List UInt8 := dkwX4_waysOf_1 ++ dktX4_waysOf_2
def dkwX4_waysOf_0 : List UInt8 := [42, 27, 182, 1, 155, 154, 0, 5, 2, 172, 3, 61, 3, 62, 29, 42, 180, 1, 44, 162, 0, 50, 29, 4]
abbrev dktX4_waysOf_0 : List UInt8 := dkwX4_waysOf_0 ++ dktX4_waysOf_1
theorem dksX4_waysOf_0 : cX4_waysOf.data.toList.drop 0 = dktX4_waysOf_0 := by decide +kernel
theorem dksX4_waysOf_1 : cX4_waysOf.data.toList.drop 24 = dktX4_waysOf_1 := dk_seg dksX4_waysOf_0 24 rfl rfl
theorem dksX4_waysOf_2 : cX4_waysOf.data.toList.drop 46 = dktX4_waysOf_2 := dk_seg dksX4_waysOf_1 22 rfl rfl
theorem dksX4_waysOf_3 : cX4_waysOf.data.toList.drop 70 = dktX4_waysOf_3 := dk_seg dksX4_waysOf_2 24 rfl rfl
theorem dX4_waysOf_0 : decode cX4_waysOf 0 = .ok (.aload_n 0, 1) := dk_42 (dk_at dksX4_waysOf_0 0 rfl rfl)
theorem dX4_waysOf_1 : decode cX4_waysOf 1 = .ok (.iload_n 1, 1) := dk_27 (dk_at dksX4_waysOf_0 1 rfl rfl)
theorem dX4_waysOf_2 : decode cX4_waysOf 2 = .ok (.invokevirtual 411, 3) := dk_182 1 155 (dk_at dksX4_waysOf_0 2 rfl rfl)
theorem dX4_waysOf_5 : decode cX4_waysOf 5 = .ok (.ifCond .ne 5, 3) := dk_154 0 5 (dk_at dksX4_waysOf_0 5 rfl rfl)
theorem dX4_waysOf_8 : decode cX4_waysOf 8 = .ok (.iconst (-1), 1) := dk_2 (dk_at dksX4_waysOf_0 8 rfl rfl)
theorem dX4_waysOf_9 : decode cX4_waysOf 9 = .ok (.ireturn, 1) := dk_172 (dk_at dksX4_waysOf_0 9 rfl rfl)
theorem dX4_waysOf_10 : decode cX4_waysOf 10 = .ok (.iconst 0, 1) := dk_3 (dk_at dksX4_waysOf_0 10 rfl rfl)
theorem dX4_waysOf_11 : decode cX4_waysOf 11 = .ok (.istore_n 2, 1) := dk_61 (dk_at dksX4_waysOf_0 11 rfl rfl)
theorem dX4_waysOf_12 : decode cX4_waysOf 12 = .ok (.iconst 0, 1) := dk_3 (dk_at dksX4_waysOf_0 12 rfl rfl)
theorem dX4_waysOf_13 : decode cX4_waysOf 13 = .ok (.istore_n 3, 1) := dk_62 (dk_at dksX4_waysOf_0 13 rfl rfl)
theorem dX4_waysOf_14 : decode cX4_waysOf 14 = .ok (.iload_n 3, 1) := dk_29 (dk_at dksX4_waysOf_0 14 rfl rfl)
theorem dX4_waysOf_15 : decode cX4_waysOf 15 = .ok (.aload_n 0, 1) := dk_42 (dk_at dksX4_waysOf_0 15 rfl rfl)
theorem dX4_waysOf_16 : decode cX4_waysOf 16 = .ok (.getfield 300, 3) := dk_180 1 44 (dk_at dksX4_waysOf_0 16 rfl rfl)
theorem dX4_waysOf_19 : decode cX4_waysOf 19 = .ok (.if_icmp .ge 50, 3) := dk_162 0 50 (dk_at dksX4_waysOf_0 19 rfl rfl)
theorem dX4_waysOf_22 : decode cX4_waysOf 22 = .ok (.iload_n 3, 1) := dk_29 (dk_at dksX4_waysOf_0 22 rfl rfl)
theorem dX4_waysOf_23 : decode cX4_waysOf 23 = .ok (.iconst 1, 1) := dk_4 (dk_at dksX4_waysOf_0 23 rfl rfl)
theorem dX4_waysOf_24 : decode cX4_waysOf 24 = .ok (.iadd, 1) := dk_96 (dk_at dksX4_waysOf_1 0 rfl rfl)
theorem dX4_waysOf_25 : decode cX4_waysOf 25 = .ok (.istore 4, 2) := dk_54 4 (dk_at dksX4_waysOf_1 1 rfl rfl)
theorem dX4_waysOf_27 : decode cX4_waysOf 27 = .ok (.iload 4, 2) := dk_21 4 (dk_at dksX4_waysOf_1 3 rfl rfl)
theorem dX4_waysOf_29 : decode cX4_waysOf 29 = .ok (.aload_n 0, 1) := dk_42 (dk_at dksX4_waysOf_1 5 rfl rfl)
theorem dX4_waysOf_30 : decode cX4_waysOf 30 = .ok (.getfield 300, 3) := dk_180 1 44 (dk_at dksX4_waysOf_1 6 rfl rfl)
theorem dX4_waysOf_33 : decode cX4_waysOf 33 = .ok (.if_icmp .ge 30, 3) := dk_162 0 30 (dk_at dksX4_waysOf_1 9 rfl rfl)
theorem dX4_waysOf_36 : decode cX4_waysOf 36 = .ok (.iload_n 2, 1) := dk_28 (dk_at dksX4_waysOf_1 12 rfl rfl)
theorem dX4_waysOf_37 : decode cX4_waysOf 37 = .ok (.aload_n 0, 1) := dk_42 (dk_at dksX4_waysOf_1 13 rfl rfl)
theorem dX4_waysOf_38 : decode cX4_waysOf 38 = .ok (.iload_n 1, 1) := dk_27 (dk_at dksX4_waysOf_1 14 rfl rfl)
theorem dX4_waysOf_39 : decode cX4_waysOf 39 = .ok (.aload_n 0, 1) := dk_42 (dk_at dksX4_waysOf_1 15 rfl rfl)
theorem dX4_waysOf_40 : decode cX4_waysOf 40 = .ok (.getfield 197, 3) := dk_180 0 197 (dk_at dksX4_waysOf_1 16 rfl rfl)
theorem dX4_waysOf_43 : decode cX4_waysOf 43 = .ok (.iload_n 3, 1) := dk_29 (dk_at dksX4_waysOf_1 19 rfl rfl)
theorem dX4_waysOf_44 : decode cX4_waysOf 44 = .ok (.iaload, 1) := dk_46 (dk_at dksX4_waysOf_1 20 rfl rfl)
theorem dX4_waysOf_45 : decode cX4_waysOf 45 = .ok (.aload_n 0, 1) := dk_42 (dk_at dksX4_waysOf_1 21 rfl rfl)
theorem dX4_waysOf_46 : decode cX4_waysOf 46 = .ok (.getfield 197, 3) := dk_180 0 197 (dk_at dksX4_waysOf_2 0 rfl rfl)
theorem dX4_waysOf_49 : decode cX4_waysOf 49 = .ok (.iload 4, 2) := dk_21 4 (dk_at dksX4_waysOf_2 3 rfl rfl)
theorem dX4_waysOf_51 : decode cX4_waysOf 51 = .ok (.iaload, 1) := dk_46 (dk_at dksX4_waysOf_2 5 rfl rfl)
theorem dX4_waysOf_52 : decode cX4_waysOf 52 = .ok (.invokevirtual 415, 3) := dk_182 1 159 (dk_at dksX4_waysOf_2 6 rfl rfl)
theorem dX4_waysOf_55 : decode cX4_waysOf 55 = .ok (.iadd, 1) := dk_96 (dk_at dksX4_waysOf_2 9 rfl rfl)
theorem dX4_waysOf_56 : decode cX4_waysOf 56 = .ok (.istore_n 2, 1) := dk_61 (dk_at dksX4_waysOf_2 10 rfl rfl)
theorem dX4_waysOf_57 : decode cX4_waysOf 57 = .ok (.iinc 4 1, 3) := dk_132 4 1 (dk_at dksX4_waysOf_2 11 rfl rfl)
theorem dX4_waysOf_60 : decode cX4_waysOf 60 = .ok (.goto (-33), 3) := dk_167 255 223 (dk_at dksX4_waysOf_2 14 rfl rfl)
theorem dX4_waysOf_63 : decode cX4_waysOf 63 = .ok (.iinc 3 1, 3) := dk_132 3 1 (dk_at dksX4_waysOf_2 17 rfl rfl)
theorem dX4_waysOf_66 : decode cX4_waysOf 66 = .ok (.goto (-52), 3) := dk_167 255 204 (dk_at dksX4_waysOf_2 20 rfl rfl)
theorem dX4_waysOf_69 : decode cX4_waysOf 69 = .ok (.iload_n 2, 1) := dk_28 (dk_at dksX4_waysOf_2 23 rfl rfl)
theorem dX4_waysOf_70 : decode cX4_waysOf 70 = .ok (.ireturn, 1) := dk_172 (dk_at dksX4_waysOf_3 0 rfl rfl)
abbrev cX4_way : ByteArray := prog_9_method_59_code
def yX4_way : MethodName := ⟨RX4, "way", "(III)I"⟩
def dkwX4_way_7 : List UInt8 := [184, 1, 86, 79, 132, 5, 1, 167, 255, 138, 132, 4, 1, 167, 255, 120, 42, 180, 0, 242, 29, 46, 172]
abbrev dktX4_way_7 : List UInt8 := dkwX4_way_7 ++ []
def dkwX4_way_6 : List UInt8 := [21, 5, 46, 46, 42, 180, 0, 242, 42, 180, 0, 188, 21, 5, 46, 46, 42, 180, 0, 194, 21, 5, 46, 96]
abbrev dktX4_way_6 : List UInt8 := dkwX4_way_6 ++ dktX4_way_7
def dkwX4_way_5 : List UInt8 := [184, 1, 86, 79, 42, 180, 0, 242, 42, 180, 0, 191, 21, 5, 46, 42, 180, 0, 242, 42, 180, 0, 191]
abbrev dktX4_way_5 : List UInt8 := dkwX4_way_5 ++ dktX4_way_6
def dkwX4_way_4 : List UInt8 := [46, 46, 42, 180, 0, 242, 42, 180, 0, 191, 21, 5, 46, 46, 42, 180, 0, 194, 21, 5, 46, 96]
abbrev dktX4_way_4 : List UInt8 := dkwX4_way_4 ++ dktX4_way_5
def dkwX4_way_3 : List UInt8 := [167, 0, 97, 42, 180, 0, 242, 42, 180, 0, 188, 21, 5, 46, 42, 180, 0, 242, 42, 180, 0, 188, 21, 5]
abbrev dktX4_way_3 : List UInt8 := dkwX4_way_3 ++ dktX4_way_4
def dkwX4_way_2 : List UInt8 := [162, 0, 133, 3, 54, 5, 21, 5, 42, 180, 1, 41, 162, 0, 115, 27, 21, 5, 122, 4, 126, 154, 0, 6]
abbrev dktX4_way_2 : List UInt8 := dkwX4_way_2 ++ dktX4_way_3
def dkwX4_way_1 : List UInt8 := [167, 0, 6, 19, 1, 158, 79, 132, 4, 1, 167, 255, 226, 3, 54, 4, 21, 4, 42, 180, 1, 38]
abbrev dktX4_way_1 : List UInt8 := dkwX4_way_1 ++ dktX4_way_2
def dkwX4_way_0 : List UInt8 := [3, 54, 4, 21, 4, 16, 6, 162, 0, 29, 42, 180, 0, 242, 21, 4, 21, 4, 28, 160, 0, 7, 3]
abbrev dktX4_way_0 : List UInt8 := dkwX4_way_0 ++ dktX4_way_1
theorem dksX4_way_0 : cX4_way.data.toList.drop 0 = dktX4_way_0 := by decide +kernel
theorem dksX4_way_1 : cX4_way.data.toList.drop 23 = dktX4_way_1 := dk_seg dksX4_way_0 23 rfl rfl
theorem dksX4_way_2 : cX4_way.data.toList.drop 45 = dktX4_way_2 := dk_seg dksX4_way_1 22 rfl rfl
theorem dksX4_way_3 : cX4_way.data.toList.drop 69 = dktX4_way_3 := dk_seg dksX4_way_2 24 rfl rfl
theorem dksX4_way_4 : cX4_way.data.toList.drop 93 = dktX4_way_4 := dk_seg dksX4_way_3 24 rfl rfl
theorem dksX4_way_5 : cX4_way.data.toList.drop 115 = dktX4_way_5 := dk_seg dksX4_way_4 22 rfl rfl
theorem dksX4_way_6 : cX4_way.data.toList.drop 138 = dktX4_way_6 := dk_seg dksX4_way_5 23 rfl rfl
theorem dksX4_way_7 : cX4_way.data.toList.drop 162 = dktX4_way_7 := dk_seg dksX4_way_6 24 rfl rfl
theorem dX4_way_0 : decode cX4_way 0 = .ok (.iconst 0, 1) := dk_3 (dk_at dksX4_way_0 0 rfl rfl)
theorem dX4_way_1 : decode cX4_way 1 = .ok (.istore 4, 2) := dk_54 4 (dk_at dksX4_way_0 1 rfl rfl)
theorem dX4_way_3 : decode cX4_way 3 = .ok (.iload 4, 2) := dk_21 4 (dk_at dksX4_way_0 3 rfl rfl)
theorem dX4_way_5 : decode cX4_way 5 = .ok (.bipush 6, 2) := dk_16 6 (dk_at dksX4_way_0 5 rfl rfl)
theorem dX4_way_7 : decode cX4_way 7 = .ok (.if_icmp .ge 29, 3) := dk_162 0 29 (dk_at dksX4_way_0 7 rfl rfl)
theorem dX4_way_10 : decode cX4_way 10 = .ok (.aload_n 0, 1) := dk_42 (dk_at dksX4_way_0 10 rfl rfl)
theorem dX4_way_11 : decode cX4_way 11 = .ok (.getfield 242, 3) := dk_180 0 242 (dk_at dksX4_way_0 11 rfl rfl)
theorem dX4_way_14 : decode cX4_way 14 = .ok (.iload 4, 2) := dk_21 4 (dk_at dksX4_way_0 14 rfl rfl)
theorem dX4_way_16 : decode cX4_way 16 = .ok (.iload 4, 2) := dk_21 4 (dk_at dksX4_way_0 16 rfl rfl)
theorem dX4_way_18 : decode cX4_way 18 = .ok (.iload_n 2, 1) := dk_28 (dk_at dksX4_way_0 18 rfl rfl)
theorem dX4_way_19 : decode cX4_way 19 = .ok (.if_icmp .ne 7, 3) := dk_160 0 7 (dk_at dksX4_way_0 19 rfl rfl)
theorem dX4_way_22 : decode cX4_way 22 = .ok (.iconst 0, 1) := dk_3 (dk_at dksX4_way_0 22 rfl rfl)
theorem dX4_way_23 : decode cX4_way 23 = .ok (.goto 6, 3) := dk_167 0 6 (dk_at dksX4_way_1 0 rfl rfl)
theorem dX4_way_26 : decode cX4_way 26 = .ok (.ldc_w 414, 3) := dk_19 1 158 (dk_at dksX4_way_1 3 rfl rfl)
theorem dX4_way_29 : decode cX4_way 29 = .ok (.iastore, 1) := dk_79 (dk_at dksX4_way_1 6 rfl rfl)
theorem dX4_way_30 : decode cX4_way 30 = .ok (.iinc 4 1, 3) := dk_132 4 1 (dk_at dksX4_way_1 7 rfl rfl)
theorem dX4_way_33 : decode cX4_way 33 = .ok (.goto (-30), 3) := dk_167 255 226 (dk_at dksX4_way_1 10 rfl rfl)
theorem dX4_way_36 : decode cX4_way 36 = .ok (.iconst 0, 1) := dk_3 (dk_at dksX4_way_1 13 rfl rfl)
theorem dX4_way_37 : decode cX4_way 37 = .ok (.istore 4, 2) := dk_54 4 (dk_at dksX4_way_1 14 rfl rfl)
theorem dX4_way_39 : decode cX4_way 39 = .ok (.iload 4, 2) := dk_21 4 (dk_at dksX4_way_1 16 rfl rfl)
theorem dX4_way_41 : decode cX4_way 41 = .ok (.aload_n 0, 1) := dk_42 (dk_at dksX4_way_1 18 rfl rfl)
theorem dX4_way_42 : decode cX4_way 42 = .ok (.getfield 294, 3) := dk_180 1 38 (dk_at dksX4_way_1 19 rfl rfl)
theorem dX4_way_45 : decode cX4_way 45 = .ok (.if_icmp .ge 133, 3) := dk_162 0 133 (dk_at dksX4_way_2 0 rfl rfl)
theorem dX4_way_48 : decode cX4_way 48 = .ok (.iconst 0, 1) := dk_3 (dk_at dksX4_way_2 3 rfl rfl)
theorem dX4_way_49 : decode cX4_way 49 = .ok (.istore 5, 2) := dk_54 5 (dk_at dksX4_way_2 4 rfl rfl)
theorem dX4_way_51 : decode cX4_way 51 = .ok (.iload 5, 2) := dk_21 5 (dk_at dksX4_way_2 6 rfl rfl)
theorem dX4_way_53 : decode cX4_way 53 = .ok (.aload_n 0, 1) := dk_42 (dk_at dksX4_way_2 8 rfl rfl)
theorem dX4_way_54 : decode cX4_way 54 = .ok (.getfield 297, 3) := dk_180 1 41 (dk_at dksX4_way_2 9 rfl rfl)
theorem dX4_way_57 : decode cX4_way 57 = .ok (.if_icmp .ge 115, 3) := dk_162 0 115 (dk_at dksX4_way_2 12 rfl rfl)
theorem dX4_way_60 : decode cX4_way 60 = .ok (.iload_n 1, 1) := dk_27 (dk_at dksX4_way_2 15 rfl rfl)
theorem dX4_way_61 : decode cX4_way 61 = .ok (.iload 5, 2) := dk_21 5 (dk_at dksX4_way_2 16 rfl rfl)
theorem dX4_way_63 : decode cX4_way 63 = .ok (.ishr, 1) := dk_122 (dk_at dksX4_way_2 18 rfl rfl)
theorem dX4_way_64 : decode cX4_way 64 = .ok (.iconst 1, 1) := dk_4 (dk_at dksX4_way_2 19 rfl rfl)
theorem dX4_way_65 : decode cX4_way 65 = .ok (.iand, 1) := dk_126 (dk_at dksX4_way_2 20 rfl rfl)
theorem dX4_way_66 : decode cX4_way 66 = .ok (.ifCond .ne 6, 3) := dk_154 0 6 (dk_at dksX4_way_2 21 rfl rfl)
theorem dX4_way_69 : decode cX4_way 69 = .ok (.goto 97, 3) := dk_167 0 97 (dk_at dksX4_way_3 0 rfl rfl)
theorem dX4_way_72 : decode cX4_way 72 = .ok (.aload_n 0, 1) := dk_42 (dk_at dksX4_way_3 3 rfl rfl)
theorem dX4_way_73 : decode cX4_way 73 = .ok (.getfield 242, 3) := dk_180 0 242 (dk_at dksX4_way_3 4 rfl rfl)
theorem dX4_way_76 : decode cX4_way 76 = .ok (.aload_n 0, 1) := dk_42 (dk_at dksX4_way_3 7 rfl rfl)
theorem dX4_way_77 : decode cX4_way 77 = .ok (.getfield 188, 3) := dk_180 0 188 (dk_at dksX4_way_3 8 rfl rfl)
theorem dX4_way_80 : decode cX4_way 80 = .ok (.iload 5, 2) := dk_21 5 (dk_at dksX4_way_3 11 rfl rfl)
theorem dX4_way_82 : decode cX4_way 82 = .ok (.iaload, 1) := dk_46 (dk_at dksX4_way_3 13 rfl rfl)
theorem dX4_way_83 : decode cX4_way 83 = .ok (.aload_n 0, 1) := dk_42 (dk_at dksX4_way_3 14 rfl rfl)
theorem dX4_way_84 : decode cX4_way 84 = .ok (.getfield 242, 3) := dk_180 0 242 (dk_at dksX4_way_3 15 rfl rfl)
theorem dX4_way_87 : decode cX4_way 87 = .ok (.aload_n 0, 1) := dk_42 (dk_at dksX4_way_3 18 rfl rfl)
theorem dX4_way_88 : decode cX4_way 88 = .ok (.getfield 188, 3) := dk_180 0 188 (dk_at dksX4_way_3 19 rfl rfl)
theorem dX4_way_91 : decode cX4_way 91 = .ok (.iload 5, 2) := dk_21 5 (dk_at dksX4_way_3 22 rfl rfl)
theorem dX4_way_93 : decode cX4_way 93 = .ok (.iaload, 1) := dk_46 (dk_at dksX4_way_4 0 rfl rfl)
theorem dX4_way_94 : decode cX4_way 94 = .ok (.iaload, 1) := dk_46 (dk_at dksX4_way_4 1 rfl rfl)
theorem dX4_way_95 : decode cX4_way 95 = .ok (.aload_n 0, 1) := dk_42 (dk_at dksX4_way_4 2 rfl rfl)
theorem dX4_way_96 : decode cX4_way 96 = .ok (.getfield 242, 3) := dk_180 0 242 (dk_at dksX4_way_4 3 rfl rfl)
theorem dX4_way_99 : decode cX4_way 99 = .ok (.aload_n 0, 1) := dk_42 (dk_at dksX4_way_4 6 rfl rfl)
theorem dX4_way_100 : decode cX4_way 100 = .ok (.getfield 191, 3) := dk_180 0 191 (dk_at dksX4_way_4 7 rfl rfl)
theorem dX4_way_103 : decode cX4_way 103 = .ok (.iload 5, 2) := dk_21 5 (dk_at dksX4_way_4 10 rfl rfl)
theorem dX4_way_105 : decode cX4_way 105 = .ok (.iaload, 1) := dk_46 (dk_at dksX4_way_4 12 rfl rfl)
theorem dX4_way_106 : decode cX4_way 106 = .ok (.iaload, 1) := dk_46 (dk_at dksX4_way_4 13 rfl rfl)
theorem dX4_way_107 : decode cX4_way 107 = .ok (.aload_n 0, 1) := dk_42 (dk_at dksX4_way_4 14 rfl rfl)
theorem dX4_way_108 : decode cX4_way 108 = .ok (.getfield 194, 3) := dk_180 0 194 (dk_at dksX4_way_4 15 rfl rfl)
theorem dX4_way_111 : decode cX4_way 111 = .ok (.iload 5, 2) := dk_21 5 (dk_at dksX4_way_4 18 rfl rfl)
theorem dX4_way_113 : decode cX4_way 113 = .ok (.iaload, 1) := dk_46 (dk_at dksX4_way_4 20 rfl rfl)
theorem dX4_way_114 : decode cX4_way 114 = .ok (.iadd, 1) := dk_96 (dk_at dksX4_way_4 21 rfl rfl)
theorem dX4_way_115 : decode cX4_way 115 = .ok (.invokestatic 342, 3) := dk_184 1 86 (dk_at dksX4_way_5 0 rfl rfl)
theorem dX4_way_118 : decode cX4_way 118 = .ok (.iastore, 1) := dk_79 (dk_at dksX4_way_5 3 rfl rfl)
theorem dX4_way_119 : decode cX4_way 119 = .ok (.aload_n 0, 1) := dk_42 (dk_at dksX4_way_5 4 rfl rfl)
theorem dX4_way_120 : decode cX4_way 120 = .ok (.getfield 242, 3) := dk_180 0 242 (dk_at dksX4_way_5 5 rfl rfl)
theorem dX4_way_123 : decode cX4_way 123 = .ok (.aload_n 0, 1) := dk_42 (dk_at dksX4_way_5 8 rfl rfl)
theorem dX4_way_124 : decode cX4_way 124 = .ok (.getfield 191, 3) := dk_180 0 191 (dk_at dksX4_way_5 9 rfl rfl)
theorem dX4_way_127 : decode cX4_way 127 = .ok (.iload 5, 2) := dk_21 5 (dk_at dksX4_way_5 12 rfl rfl)
theorem dX4_way_129 : decode cX4_way 129 = .ok (.iaload, 1) := dk_46 (dk_at dksX4_way_5 14 rfl rfl)
theorem dX4_way_130 : decode cX4_way 130 = .ok (.aload_n 0, 1) := dk_42 (dk_at dksX4_way_5 15 rfl rfl)
theorem dX4_way_131 : decode cX4_way 131 = .ok (.getfield 242, 3) := dk_180 0 242 (dk_at dksX4_way_5 16 rfl rfl)
theorem dX4_way_134 : decode cX4_way 134 = .ok (.aload_n 0, 1) := dk_42 (dk_at dksX4_way_5 19 rfl rfl)
theorem dX4_way_135 : decode cX4_way 135 = .ok (.getfield 191, 3) := dk_180 0 191 (dk_at dksX4_way_5 20 rfl rfl)
theorem dX4_way_138 : decode cX4_way 138 = .ok (.iload 5, 2) := dk_21 5 (dk_at dksX4_way_6 0 rfl rfl)
theorem dX4_way_140 : decode cX4_way 140 = .ok (.iaload, 1) := dk_46 (dk_at dksX4_way_6 2 rfl rfl)
theorem dX4_way_141 : decode cX4_way 141 = .ok (.iaload, 1) := dk_46 (dk_at dksX4_way_6 3 rfl rfl)
theorem dX4_way_142 : decode cX4_way 142 = .ok (.aload_n 0, 1) := dk_42 (dk_at dksX4_way_6 4 rfl rfl)
theorem dX4_way_143 : decode cX4_way 143 = .ok (.getfield 242, 3) := dk_180 0 242 (dk_at dksX4_way_6 5 rfl rfl)
theorem dX4_way_146 : decode cX4_way 146 = .ok (.aload_n 0, 1) := dk_42 (dk_at dksX4_way_6 8 rfl rfl)
theorem dX4_way_147 : decode cX4_way 147 = .ok (.getfield 188, 3) := dk_180 0 188 (dk_at dksX4_way_6 9 rfl rfl)
theorem dX4_way_150 : decode cX4_way 150 = .ok (.iload 5, 2) := dk_21 5 (dk_at dksX4_way_6 12 rfl rfl)
theorem dX4_way_152 : decode cX4_way 152 = .ok (.iaload, 1) := dk_46 (dk_at dksX4_way_6 14 rfl rfl)
theorem dX4_way_153 : decode cX4_way 153 = .ok (.iaload, 1) := dk_46 (dk_at dksX4_way_6 15 rfl rfl)
theorem dX4_way_154 : decode cX4_way 154 = .ok (.aload_n 0, 1) := dk_42 (dk_at dksX4_way_6 16 rfl rfl)
theorem dX4_way_155 : decode cX4_way 155 = .ok (.getfield 194, 3) := dk_180 0 194 (dk_at dksX4_way_6 17 rfl rfl)
theorem dX4_way_158 : decode cX4_way 158 = .ok (.iload 5, 2) := dk_21 5 (dk_at dksX4_way_6 20 rfl rfl)
theorem dX4_way_160 : decode cX4_way 160 = .ok (.iaload, 1) := dk_46 (dk_at dksX4_way_6 22 rfl rfl)
theorem dX4_way_161 : decode cX4_way 161 = .ok (.iadd, 1) := dk_96 (dk_at dksX4_way_6 23 rfl rfl)
theorem dX4_way_162 : decode cX4_way 162 = .ok (.invokestatic 342, 3) := dk_184 1 86 (dk_at dksX4_way_7 0 rfl rfl)
theorem dX4_way_165 : decode cX4_way 165 = .ok (.iastore, 1) := dk_79 (dk_at dksX4_way_7 3 rfl rfl)
theorem dX4_way_166 : decode cX4_way 166 = .ok (.iinc 5 1, 3) := dk_132 5 1 (dk_at dksX4_way_7 4 rfl rfl)
theorem dX4_way_169 : decode cX4_way 169 = .ok (.goto (-118), 3) := dk_167 255 138 (dk_at dksX4_way_7 7 rfl rfl)
theorem dX4_way_172 : decode cX4_way 172 = .ok (.iinc 4 1, 3) := dk_132 4 1 (dk_at dksX4_way_7 10 rfl rfl)
theorem dX4_way_175 : decode cX4_way 175 = .ok (.goto (-136), 3) := dk_167 255 120 (dk_at dksX4_way_7 13 rfl rfl)
theorem dX4_way_178 : decode cX4_way 178 = .ok (.aload_n 0, 1) := dk_42 (dk_at dksX4_way_7 16 rfl rfl)
theorem dX4_way_179 : decode cX4_way 179 = .ok (.getfield 242, 3) := dk_180 0 242 (dk_at dksX4_way_7 17 rfl rfl)
theorem dX4_way_182 : decode cX4_way 182 = .ok (.iload_n 3, 1) := dk_29 (dk_at dksX4_way_7 20 rfl rfl)
theorem dX4_way_183 : decode cX4_way 183 = .ok (.iaload, 1) := dk_46 (dk_at dksX4_way_7 21 rfl rfl)
theorem dX4_way_184 : decode cX4_way 184 = .ok (.ireturn, 1) := dk_172 (dk_at dksX4_way_7 22 rfl rfl)
abbrev cX4_besideOf : ByteArray := prog_9_method_61_code
def yX4_besideOf : MethodName := ⟨RX4, "besideOf", "(I)I"⟩
def dkwX4_besideOf_3 : List UInt8 := [132, 5, 1, 167, 255, 203, 21, 4, 172]
abbrev dktX4_besideOf_3 : List UInt8 := dkwX4_besideOf_3 ++ []
def dkwX4_besideOf_2 : List UInt8 := [28, 163, 0, 17, 42, 21, 5, 182, 1, 166, 29, 164, 0, 7, 4, 167, 0, 4, 3, 96, 54, 4]
abbrev dktX4_besideOf_2 : List UInt8 := dkwX4_besideOf_2 ++ dktX4_besideOf_3
def dkwX4_besideOf_1 : List UInt8 := [180, 1, 41, 120, 162, 0, 48, 21, 4, 42, 21, 5, 182, 1, 155, 153, 0, 27, 42, 21, 5, 182, 1, 163]
abbrev dktX4_besideOf_1 : List UInt8 := dkwX4_besideOf_1 ++ dktX4_besideOf_2
def dkwX4_besideOf_0 : List UInt8 := [42, 27, 182, 1, 163, 61, 42, 27, 182, 1, 166, 62, 3, 54, 4, 3, 54, 5, 21, 5, 4, 42]
abbrev dktX4_besideOf_0 : List UInt8 := dkwX4_besideOf_0 ++ dktX4_besideOf_1
theorem dksX4_besideOf_0 : cX4_besideOf.data.toList.drop 0 = dktX4_besideOf_0 := by decide +kernel
theorem dksX4_besideOf_1 : cX4_besideOf.data.toList.drop 22 = dktX4_besideOf_1 := dk_seg dksX4_besideOf_0 22 rfl rfl
theorem dksX4_besideOf_2 : cX4_besideOf.data.toList.drop 46 = dktX4_besideOf_2 := dk_seg dksX4_besideOf_1 24 rfl rfl
theorem dksX4_besideOf_3 : cX4_besideOf.data.toList.drop 68 = dktX4_besideOf_3 := dk_seg dksX4_besideOf_2 22 rfl rfl
theorem dX4_besideOf_0 : decode cX4_besideOf 0 = .ok (.aload_n 0, 1) := dk_42 (dk_at dksX4_besideOf_0 0 rfl rfl)
theorem dX4_besideOf_1 : decode cX4_besideOf 1 = .ok (.iload_n 1, 1) := dk_27 (dk_at dksX4_besideOf_0 1 rfl rfl)
theorem dX4_besideOf_2 : decode cX4_besideOf 2 = .ok (.invokevirtual 419, 3) := dk_182 1 163 (dk_at dksX4_besideOf_0 2 rfl rfl)
theorem dX4_besideOf_5 : decode cX4_besideOf 5 = .ok (.istore_n 2, 1) := dk_61 (dk_at dksX4_besideOf_0 5 rfl rfl)
theorem dX4_besideOf_6 : decode cX4_besideOf 6 = .ok (.aload_n 0, 1) := dk_42 (dk_at dksX4_besideOf_0 6 rfl rfl)
theorem dX4_besideOf_7 : decode cX4_besideOf 7 = .ok (.iload_n 1, 1) := dk_27 (dk_at dksX4_besideOf_0 7 rfl rfl)
theorem dX4_besideOf_8 : decode cX4_besideOf 8 = .ok (.invokevirtual 422, 3) := dk_182 1 166 (dk_at dksX4_besideOf_0 8 rfl rfl)
theorem dX4_besideOf_11 : decode cX4_besideOf 11 = .ok (.istore_n 3, 1) := dk_62 (dk_at dksX4_besideOf_0 11 rfl rfl)
theorem dX4_besideOf_12 : decode cX4_besideOf 12 = .ok (.iconst 0, 1) := dk_3 (dk_at dksX4_besideOf_0 12 rfl rfl)
theorem dX4_besideOf_13 : decode cX4_besideOf 13 = .ok (.istore 4, 2) := dk_54 4 (dk_at dksX4_besideOf_0 13 rfl rfl)
theorem dX4_besideOf_15 : decode cX4_besideOf 15 = .ok (.iconst 0, 1) := dk_3 (dk_at dksX4_besideOf_0 15 rfl rfl)
theorem dX4_besideOf_16 : decode cX4_besideOf 16 = .ok (.istore 5, 2) := dk_54 5 (dk_at dksX4_besideOf_0 16 rfl rfl)
theorem dX4_besideOf_18 : decode cX4_besideOf 18 = .ok (.iload 5, 2) := dk_21 5 (dk_at dksX4_besideOf_0 18 rfl rfl)
theorem dX4_besideOf_20 : decode cX4_besideOf 20 = .ok (.iconst 1, 1) := dk_4 (dk_at dksX4_besideOf_0 20 rfl rfl)
theorem dX4_besideOf_21 : decode cX4_besideOf 21 = .ok (.aload_n 0, 1) := dk_42 (dk_at dksX4_besideOf_0 21 rfl rfl)
theorem dX4_besideOf_22 : decode cX4_besideOf 22 = .ok (.getfield 297, 3) := dk_180 1 41 (dk_at dksX4_besideOf_1 0 rfl rfl)
theorem dX4_besideOf_25 : decode cX4_besideOf 25 = .ok (.ishl, 1) := dk_120 (dk_at dksX4_besideOf_1 3 rfl rfl)
theorem dX4_besideOf_26 : decode cX4_besideOf 26 = .ok (.if_icmp .ge 48, 3) := dk_162 0 48 (dk_at dksX4_besideOf_1 4 rfl rfl)
theorem dX4_besideOf_29 : decode cX4_besideOf 29 = .ok (.iload 4, 2) := dk_21 4 (dk_at dksX4_besideOf_1 7 rfl rfl)
theorem dX4_besideOf_31 : decode cX4_besideOf 31 = .ok (.aload_n 0, 1) := dk_42 (dk_at dksX4_besideOf_1 9 rfl rfl)
theorem dX4_besideOf_32 : decode cX4_besideOf 32 = .ok (.iload 5, 2) := dk_21 5 (dk_at dksX4_besideOf_1 10 rfl rfl)
theorem dX4_besideOf_34 : decode cX4_besideOf 34 = .ok (.invokevirtual 411, 3) := dk_182 1 155 (dk_at dksX4_besideOf_1 12 rfl rfl)
theorem dX4_besideOf_37 : decode cX4_besideOf 37 = .ok (.ifCond .eq 27, 3) := dk_153 0 27 (dk_at dksX4_besideOf_1 15 rfl rfl)
theorem dX4_besideOf_40 : decode cX4_besideOf 40 = .ok (.aload_n 0, 1) := dk_42 (dk_at dksX4_besideOf_1 18 rfl rfl)
theorem dX4_besideOf_41 : decode cX4_besideOf 41 = .ok (.iload 5, 2) := dk_21 5 (dk_at dksX4_besideOf_1 19 rfl rfl)
theorem dX4_besideOf_43 : decode cX4_besideOf 43 = .ok (.invokevirtual 419, 3) := dk_182 1 163 (dk_at dksX4_besideOf_1 21 rfl rfl)
theorem dX4_besideOf_46 : decode cX4_besideOf 46 = .ok (.iload_n 2, 1) := dk_28 (dk_at dksX4_besideOf_2 0 rfl rfl)
theorem dX4_besideOf_47 : decode cX4_besideOf 47 = .ok (.if_icmp .gt 17, 3) := dk_163 0 17 (dk_at dksX4_besideOf_2 1 rfl rfl)
theorem dX4_besideOf_50 : decode cX4_besideOf 50 = .ok (.aload_n 0, 1) := dk_42 (dk_at dksX4_besideOf_2 4 rfl rfl)
theorem dX4_besideOf_51 : decode cX4_besideOf 51 = .ok (.iload 5, 2) := dk_21 5 (dk_at dksX4_besideOf_2 5 rfl rfl)
theorem dX4_besideOf_53 : decode cX4_besideOf 53 = .ok (.invokevirtual 422, 3) := dk_182 1 166 (dk_at dksX4_besideOf_2 7 rfl rfl)
theorem dX4_besideOf_56 : decode cX4_besideOf 56 = .ok (.iload_n 3, 1) := dk_29 (dk_at dksX4_besideOf_2 10 rfl rfl)
theorem dX4_besideOf_57 : decode cX4_besideOf 57 = .ok (.if_icmp .le 7, 3) := dk_164 0 7 (dk_at dksX4_besideOf_2 11 rfl rfl)
theorem dX4_besideOf_60 : decode cX4_besideOf 60 = .ok (.iconst 1, 1) := dk_4 (dk_at dksX4_besideOf_2 14 rfl rfl)
theorem dX4_besideOf_61 : decode cX4_besideOf 61 = .ok (.goto 4, 3) := dk_167 0 4 (dk_at dksX4_besideOf_2 15 rfl rfl)
theorem dX4_besideOf_64 : decode cX4_besideOf 64 = .ok (.iconst 0, 1) := dk_3 (dk_at dksX4_besideOf_2 18 rfl rfl)
theorem dX4_besideOf_65 : decode cX4_besideOf 65 = .ok (.iadd, 1) := dk_96 (dk_at dksX4_besideOf_2 19 rfl rfl)
theorem dX4_besideOf_66 : decode cX4_besideOf 66 = .ok (.istore 4, 2) := dk_54 4 (dk_at dksX4_besideOf_2 20 rfl rfl)
theorem dX4_besideOf_68 : decode cX4_besideOf 68 = .ok (.iinc 5 1, 3) := dk_132 5 1 (dk_at dksX4_besideOf_3 0 rfl rfl)
theorem dX4_besideOf_71 : decode cX4_besideOf 71 = .ok (.goto (-53), 3) := dk_167 255 203 (dk_at dksX4_besideOf_3 3 rfl rfl)
theorem dX4_besideOf_74 : decode cX4_besideOf 74 = .ok (.iload 4, 2) := dk_21 4 (dk_at dksX4_besideOf_3 6 rfl rfl)
theorem dX4_besideOf_76 : decode cX4_besideOf 76 = .ok (.ireturn, 1) := dk_172 (dk_at dksX4_besideOf_3 8 rfl rfl)
abbrev cX4_shortest : ByteArray := prog_9_method_65_code
def yX4_shortest : MethodName := ⟨RX4, "shortest", "()I"⟩
def dkwX4_shortest_3 : List UInt8 := [132, 2, 1, 167, 255, 188, 27, 172]
abbrev dktX4_shortest_3 : List UInt8 := dkwX4_shortest_3 ++ []
def dkwX4_shortest_2 : List UInt8 := [29, 155, 0, 20, 29, 154, 0, 18, 42, 28, 182, 1, 166, 42, 27, 182, 1, 166, 164, 0, 5, 28, 60]
abbrev dktX4_shortest_2 : List UInt8 := dkwX4_shortest_2 ++ dktX4_shortest_3
def dkwX4_shortest_1 : List UInt8 := [167, 0, 47, 27, 2, 160, 0, 7, 2, 167, 0, 14, 42, 28, 182, 1, 163, 42, 27, 182, 1, 163, 100, 62]
abbrev dktX4_shortest_1 : List UInt8 := dkwX4_shortest_1 ++ dktX4_shortest_2
def dkwX4_shortest_0 : List UInt8 := [2, 60, 3, 61, 28, 4, 42, 180, 1, 41, 120, 162, 0, 64, 42, 28, 182, 1, 155, 154, 0, 6]
abbrev dktX4_shortest_0 : List UInt8 := dkwX4_shortest_0 ++ dktX4_shortest_1
theorem dksX4_shortest_0 : cX4_shortest.data.toList.drop 0 = dktX4_shortest_0 := by decide +kernel
theorem dksX4_shortest_1 : cX4_shortest.data.toList.drop 22 = dktX4_shortest_1 := dk_seg dksX4_shortest_0 22 rfl rfl
theorem dksX4_shortest_2 : cX4_shortest.data.toList.drop 46 = dktX4_shortest_2 := dk_seg dksX4_shortest_1 24 rfl rfl
theorem dksX4_shortest_3 : cX4_shortest.data.toList.drop 69 = dktX4_shortest_3 := dk_seg dksX4_shortest_2 23 rfl rfl
theorem dX4_shortest_0 : decode cX4_shortest 0 = .ok (.iconst (-1), 1) := dk_2 (dk_at dksX4_shortest_0 0 rfl rfl)
theorem dX4_shortest_1 : decode cX4_shortest 1 = .ok (.istore_n 1, 1) := dk_60 (dk_at dksX4_shortest_0 1 rfl rfl)
theorem dX4_shortest_2 : decode cX4_shortest 2 = .ok (.iconst 0, 1) := dk_3 (dk_at dksX4_shortest_0 2 rfl rfl)
theorem dX4_shortest_3 : decode cX4_shortest 3 = .ok (.istore_n 2, 1) := dk_61 (dk_at dksX4_shortest_0 3 rfl rfl)
theorem dX4_shortest_4 : decode cX4_shortest 4 = .ok (.iload_n 2, 1) := dk_28 (dk_at dksX4_shortest_0 4 rfl rfl)
theorem dX4_shortest_5 : decode cX4_shortest 5 = .ok (.iconst 1, 1) := dk_4 (dk_at dksX4_shortest_0 5 rfl rfl)
theorem dX4_shortest_6 : decode cX4_shortest 6 = .ok (.aload_n 0, 1) := dk_42 (dk_at dksX4_shortest_0 6 rfl rfl)
theorem dX4_shortest_7 : decode cX4_shortest 7 = .ok (.getfield 297, 3) := dk_180 1 41 (dk_at dksX4_shortest_0 7 rfl rfl)
theorem dX4_shortest_10 : decode cX4_shortest 10 = .ok (.ishl, 1) := dk_120 (dk_at dksX4_shortest_0 10 rfl rfl)
theorem dX4_shortest_11 : decode cX4_shortest 11 = .ok (.if_icmp .ge 64, 3) := dk_162 0 64 (dk_at dksX4_shortest_0 11 rfl rfl)
theorem dX4_shortest_14 : decode cX4_shortest 14 = .ok (.aload_n 0, 1) := dk_42 (dk_at dksX4_shortest_0 14 rfl rfl)
theorem dX4_shortest_15 : decode cX4_shortest 15 = .ok (.iload_n 2, 1) := dk_28 (dk_at dksX4_shortest_0 15 rfl rfl)
theorem dX4_shortest_16 : decode cX4_shortest 16 = .ok (.invokevirtual 411, 3) := dk_182 1 155 (dk_at dksX4_shortest_0 16 rfl rfl)
theorem dX4_shortest_19 : decode cX4_shortest 19 = .ok (.ifCond .ne 6, 3) := dk_154 0 6 (dk_at dksX4_shortest_0 19 rfl rfl)
theorem dX4_shortest_22 : decode cX4_shortest 22 = .ok (.goto 47, 3) := dk_167 0 47 (dk_at dksX4_shortest_1 0 rfl rfl)
theorem dX4_shortest_25 : decode cX4_shortest 25 = .ok (.iload_n 1, 1) := dk_27 (dk_at dksX4_shortest_1 3 rfl rfl)
theorem dX4_shortest_26 : decode cX4_shortest 26 = .ok (.iconst (-1), 1) := dk_2 (dk_at dksX4_shortest_1 4 rfl rfl)
theorem dX4_shortest_27 : decode cX4_shortest 27 = .ok (.if_icmp .ne 7, 3) := dk_160 0 7 (dk_at dksX4_shortest_1 5 rfl rfl)
theorem dX4_shortest_30 : decode cX4_shortest 30 = .ok (.iconst (-1), 1) := dk_2 (dk_at dksX4_shortest_1 8 rfl rfl)
theorem dX4_shortest_31 : decode cX4_shortest 31 = .ok (.goto 14, 3) := dk_167 0 14 (dk_at dksX4_shortest_1 9 rfl rfl)
theorem dX4_shortest_34 : decode cX4_shortest 34 = .ok (.aload_n 0, 1) := dk_42 (dk_at dksX4_shortest_1 12 rfl rfl)
theorem dX4_shortest_35 : decode cX4_shortest 35 = .ok (.iload_n 2, 1) := dk_28 (dk_at dksX4_shortest_1 13 rfl rfl)
theorem dX4_shortest_36 : decode cX4_shortest 36 = .ok (.invokevirtual 419, 3) := dk_182 1 163 (dk_at dksX4_shortest_1 14 rfl rfl)
theorem dX4_shortest_39 : decode cX4_shortest 39 = .ok (.aload_n 0, 1) := dk_42 (dk_at dksX4_shortest_1 17 rfl rfl)
theorem dX4_shortest_40 : decode cX4_shortest 40 = .ok (.iload_n 1, 1) := dk_27 (dk_at dksX4_shortest_1 18 rfl rfl)
theorem dX4_shortest_41 : decode cX4_shortest 41 = .ok (.invokevirtual 419, 3) := dk_182 1 163 (dk_at dksX4_shortest_1 19 rfl rfl)
theorem dX4_shortest_44 : decode cX4_shortest 44 = .ok (.isub, 1) := dk_100 (dk_at dksX4_shortest_1 22 rfl rfl)
theorem dX4_shortest_45 : decode cX4_shortest 45 = .ok (.istore_n 3, 1) := dk_62 (dk_at dksX4_shortest_1 23 rfl rfl)
theorem dX4_shortest_46 : decode cX4_shortest 46 = .ok (.iload_n 3, 1) := dk_29 (dk_at dksX4_shortest_2 0 rfl rfl)
theorem dX4_shortest_47 : decode cX4_shortest 47 = .ok (.ifCond .lt 20, 3) := dk_155 0 20 (dk_at dksX4_shortest_2 1 rfl rfl)
theorem dX4_shortest_50 : decode cX4_shortest 50 = .ok (.iload_n 3, 1) := dk_29 (dk_at dksX4_shortest_2 4 rfl rfl)
theorem dX4_shortest_51 : decode cX4_shortest 51 = .ok (.ifCond .ne 18, 3) := dk_154 0 18 (dk_at dksX4_shortest_2 5 rfl rfl)
theorem dX4_shortest_54 : decode cX4_shortest 54 = .ok (.aload_n 0, 1) := dk_42 (dk_at dksX4_shortest_2 8 rfl rfl)
theorem dX4_shortest_55 : decode cX4_shortest 55 = .ok (.iload_n 2, 1) := dk_28 (dk_at dksX4_shortest_2 9 rfl rfl)
theorem dX4_shortest_56 : decode cX4_shortest 56 = .ok (.invokevirtual 422, 3) := dk_182 1 166 (dk_at dksX4_shortest_2 10 rfl rfl)
theorem dX4_shortest_59 : decode cX4_shortest 59 = .ok (.aload_n 0, 1) := dk_42 (dk_at dksX4_shortest_2 13 rfl rfl)
theorem dX4_shortest_60 : decode cX4_shortest 60 = .ok (.iload_n 1, 1) := dk_27 (dk_at dksX4_shortest_2 14 rfl rfl)
theorem dX4_shortest_61 : decode cX4_shortest 61 = .ok (.invokevirtual 422, 3) := dk_182 1 166 (dk_at dksX4_shortest_2 15 rfl rfl)
theorem dX4_shortest_64 : decode cX4_shortest 64 = .ok (.if_icmp .le 5, 3) := dk_164 0 5 (dk_at dksX4_shortest_2 18 rfl rfl)
theorem dX4_shortest_67 : decode cX4_shortest 67 = .ok (.iload_n 2, 1) := dk_28 (dk_at dksX4_shortest_2 21 rfl rfl)
theorem dX4_shortest_68 : decode cX4_shortest 68 = .ok (.istore_n 1, 1) := dk_60 (dk_at dksX4_shortest_2 22 rfl rfl)
theorem dX4_shortest_69 : decode cX4_shortest 69 = .ok (.iinc 2 1, 3) := dk_132 2 1 (dk_at dksX4_shortest_3 0 rfl rfl)
theorem dX4_shortest_72 : decode cX4_shortest 72 = .ok (.goto (-68), 3) := dk_167 255 188 (dk_at dksX4_shortest_3 3 rfl rfl)
theorem dX4_shortest_75 : decode cX4_shortest 75 = .ok (.iload_n 1, 1) := dk_27 (dk_at dksX4_shortest_3 6 rfl rfl)
theorem dX4_shortest_76 : decode cX4_shortest 76 = .ok (.ireturn, 1) := dk_172 (dk_at dksX4_shortest_3 7 rfl rfl)
abbrev cX4_good : ByteArray := prog_9_method_66_code
def yX4_good : MethodName := ⟨RX4, "good", "(I)I"⟩
def dkwX4_good_7 : List UInt8 := [160, 0, 7, 29, 167, 0, 4, 2, 172]
abbrev dktX4_good_7 : List UInt8 := dkwX4_good_7 ++ []
def dkwX4_good_6 : List UInt8 := [160, 0, 11, 42, 180, 0, 248, 21, 4, 46, 172, 132, 3, 1, 132, 4, 1, 167, 255, 205, 27, 2]
abbrev dktX4_good_6 : List UInt8 := dkwX4_good_6 ++ dktX4_good_7
def dkwX4_good_5 : List UInt8 := [42, 180, 0, 245, 21, 4, 46, 28, 163, 0, 6, 167, 0, 27, 42, 180, 0, 245, 21, 4, 46, 61, 29, 27]
abbrev dktX4_good_5 : List UInt8 := dkwX4_good_5 ++ dktX4_good_6
def dkwX4_good_4 : List UInt8 := [79, 132, 2, 1, 167, 255, 189, 2, 61, 3, 62, 3, 54, 4, 21, 4, 42, 180, 0, 245, 190, 162, 0, 47]
abbrev dktX4_good_4 : List UInt8 := dkwX4_good_4 ++ dktX4_good_5
def dkwX4_good_3 : List UInt8 := [21, 4, 46, 163, 0, 6, 167, 0, 19, 42, 180, 0, 245, 21, 4, 29, 79, 42, 180, 0, 248, 21, 4, 28]
abbrev dktX4_good_3 : List UInt8 := dkwX4_good_3 ++ dktX4_good_4
def dkwX4_good_2 : List UInt8 := [154, 0, 6, 167, 0, 46, 42, 28, 182, 1, 166, 62, 42, 28, 182, 1, 163, 54, 4, 29, 42, 180, 0, 245]
abbrev dktX4_good_2 : List UInt8 := dkwX4_good_2 ++ dktX4_good_3
def dkwX4_good_1 : List UInt8 := [79, 132, 2, 1, 167, 255, 237, 3, 61, 28, 4, 42, 180, 1, 41, 120, 162, 0, 63, 42, 28, 182, 1, 155]
abbrev dktX4_good_1 : List UInt8 := dkwX4_good_1 ++ dktX4_good_2
def dkwX4_good_0 : List UInt8 := [27, 2, 162, 0, 5, 2, 172, 3, 61, 28, 42, 180, 0, 245, 190, 162, 0, 16, 42, 180, 0, 245, 28, 2]
abbrev dktX4_good_0 : List UInt8 := dkwX4_good_0 ++ dktX4_good_1
theorem dksX4_good_0 : cX4_good.data.toList.drop 0 = dktX4_good_0 := by decide +kernel
theorem dksX4_good_1 : cX4_good.data.toList.drop 24 = dktX4_good_1 := dk_seg dksX4_good_0 24 rfl rfl
theorem dksX4_good_2 : cX4_good.data.toList.drop 48 = dktX4_good_2 := dk_seg dksX4_good_1 24 rfl rfl
theorem dksX4_good_3 : cX4_good.data.toList.drop 72 = dktX4_good_3 := dk_seg dksX4_good_2 24 rfl rfl
theorem dksX4_good_4 : cX4_good.data.toList.drop 96 = dktX4_good_4 := dk_seg dksX4_good_3 24 rfl rfl
theorem dksX4_good_5 : cX4_good.data.toList.drop 120 = dktX4_good_5 := dk_seg dksX4_good_4 24 rfl rfl
theorem dksX4_good_6 : cX4_good.data.toList.drop 144 = dktX4_good_6 := dk_seg dksX4_good_5 24 rfl rfl
theorem dksX4_good_7 : cX4_good.data.toList.drop 166 = dktX4_good_7 := dk_seg dksX4_good_6 22 rfl rfl
theorem dX4_good_0 : decode cX4_good 0 = .ok (.iload_n 1, 1) := dk_27 (dk_at dksX4_good_0 0 rfl rfl)
theorem dX4_good_1 : decode cX4_good 1 = .ok (.iconst (-1), 1) := dk_2 (dk_at dksX4_good_0 1 rfl rfl)
theorem dX4_good_2 : decode cX4_good 2 = .ok (.if_icmp .ge 5, 3) := dk_162 0 5 (dk_at dksX4_good_0 2 rfl rfl)
theorem dX4_good_5 : decode cX4_good 5 = .ok (.iconst (-1), 1) := dk_2 (dk_at dksX4_good_0 5 rfl rfl)
theorem dX4_good_6 : decode cX4_good 6 = .ok (.ireturn, 1) := dk_172 (dk_at dksX4_good_0 6 rfl rfl)
theorem dX4_good_7 : decode cX4_good 7 = .ok (.iconst 0, 1) := dk_3 (dk_at dksX4_good_0 7 rfl rfl)
theorem dX4_good_8 : decode cX4_good 8 = .ok (.istore_n 2, 1) := dk_61 (dk_at dksX4_good_0 8 rfl rfl)
theorem dX4_good_9 : decode cX4_good 9 = .ok (.iload_n 2, 1) := dk_28 (dk_at dksX4_good_0 9 rfl rfl)
theorem dX4_good_10 : decode cX4_good 10 = .ok (.aload_n 0, 1) := dk_42 (dk_at dksX4_good_0 10 rfl rfl)
theorem dX4_good_11 : decode cX4_good 11 = .ok (.getfield 245, 3) := dk_180 0 245 (dk_at dksX4_good_0 11 rfl rfl)
theorem dX4_good_14 : decode cX4_good 14 = .ok (.arraylength, 1) := dk_190 (dk_at dksX4_good_0 14 rfl rfl)
theorem dX4_good_15 : decode cX4_good 15 = .ok (.if_icmp .ge 16, 3) := dk_162 0 16 (dk_at dksX4_good_0 15 rfl rfl)
theorem dX4_good_18 : decode cX4_good 18 = .ok (.aload_n 0, 1) := dk_42 (dk_at dksX4_good_0 18 rfl rfl)
theorem dX4_good_19 : decode cX4_good 19 = .ok (.getfield 245, 3) := dk_180 0 245 (dk_at dksX4_good_0 19 rfl rfl)
theorem dX4_good_22 : decode cX4_good 22 = .ok (.iload_n 2, 1) := dk_28 (dk_at dksX4_good_0 22 rfl rfl)
theorem dX4_good_23 : decode cX4_good 23 = .ok (.iconst (-1), 1) := dk_2 (dk_at dksX4_good_0 23 rfl rfl)
theorem dX4_good_24 : decode cX4_good 24 = .ok (.iastore, 1) := dk_79 (dk_at dksX4_good_1 0 rfl rfl)
theorem dX4_good_25 : decode cX4_good 25 = .ok (.iinc 2 1, 3) := dk_132 2 1 (dk_at dksX4_good_1 1 rfl rfl)
theorem dX4_good_28 : decode cX4_good 28 = .ok (.goto (-19), 3) := dk_167 255 237 (dk_at dksX4_good_1 4 rfl rfl)
theorem dX4_good_31 : decode cX4_good 31 = .ok (.iconst 0, 1) := dk_3 (dk_at dksX4_good_1 7 rfl rfl)
theorem dX4_good_32 : decode cX4_good 32 = .ok (.istore_n 2, 1) := dk_61 (dk_at dksX4_good_1 8 rfl rfl)
theorem dX4_good_33 : decode cX4_good 33 = .ok (.iload_n 2, 1) := dk_28 (dk_at dksX4_good_1 9 rfl rfl)
theorem dX4_good_34 : decode cX4_good 34 = .ok (.iconst 1, 1) := dk_4 (dk_at dksX4_good_1 10 rfl rfl)
theorem dX4_good_35 : decode cX4_good 35 = .ok (.aload_n 0, 1) := dk_42 (dk_at dksX4_good_1 11 rfl rfl)
theorem dX4_good_36 : decode cX4_good 36 = .ok (.getfield 297, 3) := dk_180 1 41 (dk_at dksX4_good_1 12 rfl rfl)
theorem dX4_good_39 : decode cX4_good 39 = .ok (.ishl, 1) := dk_120 (dk_at dksX4_good_1 15 rfl rfl)
theorem dX4_good_40 : decode cX4_good 40 = .ok (.if_icmp .ge 63, 3) := dk_162 0 63 (dk_at dksX4_good_1 16 rfl rfl)
theorem dX4_good_43 : decode cX4_good 43 = .ok (.aload_n 0, 1) := dk_42 (dk_at dksX4_good_1 19 rfl rfl)
theorem dX4_good_44 : decode cX4_good 44 = .ok (.iload_n 2, 1) := dk_28 (dk_at dksX4_good_1 20 rfl rfl)
theorem dX4_good_45 : decode cX4_good 45 = .ok (.invokevirtual 411, 3) := dk_182 1 155 (dk_at dksX4_good_1 21 rfl rfl)
theorem dX4_good_48 : decode cX4_good 48 = .ok (.ifCond .ne 6, 3) := dk_154 0 6 (dk_at dksX4_good_2 0 rfl rfl)
theorem dX4_good_51 : decode cX4_good 51 = .ok (.goto 46, 3) := dk_167 0 46 (dk_at dksX4_good_2 3 rfl rfl)
theorem dX4_good_54 : decode cX4_good 54 = .ok (.aload_n 0, 1) := dk_42 (dk_at dksX4_good_2 6 rfl rfl)
theorem dX4_good_55 : decode cX4_good 55 = .ok (.iload_n 2, 1) := dk_28 (dk_at dksX4_good_2 7 rfl rfl)
theorem dX4_good_56 : decode cX4_good 56 = .ok (.invokevirtual 422, 3) := dk_182 1 166 (dk_at dksX4_good_2 8 rfl rfl)
theorem dX4_good_59 : decode cX4_good 59 = .ok (.istore_n 3, 1) := dk_62 (dk_at dksX4_good_2 11 rfl rfl)
theorem dX4_good_60 : decode cX4_good 60 = .ok (.aload_n 0, 1) := dk_42 (dk_at dksX4_good_2 12 rfl rfl)
theorem dX4_good_61 : decode cX4_good 61 = .ok (.iload_n 2, 1) := dk_28 (dk_at dksX4_good_2 13 rfl rfl)
theorem dX4_good_62 : decode cX4_good 62 = .ok (.invokevirtual 419, 3) := dk_182 1 163 (dk_at dksX4_good_2 14 rfl rfl)
theorem dX4_good_65 : decode cX4_good 65 = .ok (.istore 4, 2) := dk_54 4 (dk_at dksX4_good_2 17 rfl rfl)
theorem dX4_good_67 : decode cX4_good 67 = .ok (.iload_n 3, 1) := dk_29 (dk_at dksX4_good_2 19 rfl rfl)
theorem dX4_good_68 : decode cX4_good 68 = .ok (.aload_n 0, 1) := dk_42 (dk_at dksX4_good_2 20 rfl rfl)
theorem dX4_good_69 : decode cX4_good 69 = .ok (.getfield 245, 3) := dk_180 0 245 (dk_at dksX4_good_2 21 rfl rfl)
theorem dX4_good_72 : decode cX4_good 72 = .ok (.iload 4, 2) := dk_21 4 (dk_at dksX4_good_3 0 rfl rfl)
theorem dX4_good_74 : decode cX4_good 74 = .ok (.iaload, 1) := dk_46 (dk_at dksX4_good_3 2 rfl rfl)
theorem dX4_good_75 : decode cX4_good 75 = .ok (.if_icmp .gt 6, 3) := dk_163 0 6 (dk_at dksX4_good_3 3 rfl rfl)
theorem dX4_good_78 : decode cX4_good 78 = .ok (.goto 19, 3) := dk_167 0 19 (dk_at dksX4_good_3 6 rfl rfl)
theorem dX4_good_81 : decode cX4_good 81 = .ok (.aload_n 0, 1) := dk_42 (dk_at dksX4_good_3 9 rfl rfl)
theorem dX4_good_82 : decode cX4_good 82 = .ok (.getfield 245, 3) := dk_180 0 245 (dk_at dksX4_good_3 10 rfl rfl)
theorem dX4_good_85 : decode cX4_good 85 = .ok (.iload 4, 2) := dk_21 4 (dk_at dksX4_good_3 13 rfl rfl)
theorem dX4_good_87 : decode cX4_good 87 = .ok (.iload_n 3, 1) := dk_29 (dk_at dksX4_good_3 15 rfl rfl)
theorem dX4_good_88 : decode cX4_good 88 = .ok (.iastore, 1) := dk_79 (dk_at dksX4_good_3 16 rfl rfl)
theorem dX4_good_89 : decode cX4_good 89 = .ok (.aload_n 0, 1) := dk_42 (dk_at dksX4_good_3 17 rfl rfl)
theorem dX4_good_90 : decode cX4_good 90 = .ok (.getfield 248, 3) := dk_180 0 248 (dk_at dksX4_good_3 18 rfl rfl)
theorem dX4_good_93 : decode cX4_good 93 = .ok (.iload 4, 2) := dk_21 4 (dk_at dksX4_good_3 21 rfl rfl)
theorem dX4_good_95 : decode cX4_good 95 = .ok (.iload_n 2, 1) := dk_28 (dk_at dksX4_good_3 23 rfl rfl)
theorem dX4_good_96 : decode cX4_good 96 = .ok (.iastore, 1) := dk_79 (dk_at dksX4_good_4 0 rfl rfl)
theorem dX4_good_97 : decode cX4_good 97 = .ok (.iinc 2 1, 3) := dk_132 2 1 (dk_at dksX4_good_4 1 rfl rfl)
theorem dX4_good_100 : decode cX4_good 100 = .ok (.goto (-67), 3) := dk_167 255 189 (dk_at dksX4_good_4 4 rfl rfl)
theorem dX4_good_103 : decode cX4_good 103 = .ok (.iconst (-1), 1) := dk_2 (dk_at dksX4_good_4 7 rfl rfl)
theorem dX4_good_104 : decode cX4_good 104 = .ok (.istore_n 2, 1) := dk_61 (dk_at dksX4_good_4 8 rfl rfl)
theorem dX4_good_105 : decode cX4_good 105 = .ok (.iconst 0, 1) := dk_3 (dk_at dksX4_good_4 9 rfl rfl)
theorem dX4_good_106 : decode cX4_good 106 = .ok (.istore_n 3, 1) := dk_62 (dk_at dksX4_good_4 10 rfl rfl)
theorem dX4_good_107 : decode cX4_good 107 = .ok (.iconst 0, 1) := dk_3 (dk_at dksX4_good_4 11 rfl rfl)
theorem dX4_good_108 : decode cX4_good 108 = .ok (.istore 4, 2) := dk_54 4 (dk_at dksX4_good_4 12 rfl rfl)
theorem dX4_good_110 : decode cX4_good 110 = .ok (.iload 4, 2) := dk_21 4 (dk_at dksX4_good_4 14 rfl rfl)
theorem dX4_good_112 : decode cX4_good 112 = .ok (.aload_n 0, 1) := dk_42 (dk_at dksX4_good_4 16 rfl rfl)
theorem dX4_good_113 : decode cX4_good 113 = .ok (.getfield 245, 3) := dk_180 0 245 (dk_at dksX4_good_4 17 rfl rfl)
theorem dX4_good_116 : decode cX4_good 116 = .ok (.arraylength, 1) := dk_190 (dk_at dksX4_good_4 20 rfl rfl)
theorem dX4_good_117 : decode cX4_good 117 = .ok (.if_icmp .ge 47, 3) := dk_162 0 47 (dk_at dksX4_good_4 21 rfl rfl)
theorem dX4_good_120 : decode cX4_good 120 = .ok (.aload_n 0, 1) := dk_42 (dk_at dksX4_good_5 0 rfl rfl)
theorem dX4_good_121 : decode cX4_good 121 = .ok (.getfield 245, 3) := dk_180 0 245 (dk_at dksX4_good_5 1 rfl rfl)
theorem dX4_good_124 : decode cX4_good 124 = .ok (.iload 4, 2) := dk_21 4 (dk_at dksX4_good_5 4 rfl rfl)
theorem dX4_good_126 : decode cX4_good 126 = .ok (.iaload, 1) := dk_46 (dk_at dksX4_good_5 6 rfl rfl)
theorem dX4_good_127 : decode cX4_good 127 = .ok (.iload_n 2, 1) := dk_28 (dk_at dksX4_good_5 7 rfl rfl)
theorem dX4_good_128 : decode cX4_good 128 = .ok (.if_icmp .gt 6, 3) := dk_163 0 6 (dk_at dksX4_good_5 8 rfl rfl)
theorem dX4_good_131 : decode cX4_good 131 = .ok (.goto 27, 3) := dk_167 0 27 (dk_at dksX4_good_5 11 rfl rfl)
theorem dX4_good_134 : decode cX4_good 134 = .ok (.aload_n 0, 1) := dk_42 (dk_at dksX4_good_5 14 rfl rfl)
theorem dX4_good_135 : decode cX4_good 135 = .ok (.getfield 245, 3) := dk_180 0 245 (dk_at dksX4_good_5 15 rfl rfl)
theorem dX4_good_138 : decode cX4_good 138 = .ok (.iload 4, 2) := dk_21 4 (dk_at dksX4_good_5 18 rfl rfl)
theorem dX4_good_140 : decode cX4_good 140 = .ok (.iaload, 1) := dk_46 (dk_at dksX4_good_5 20 rfl rfl)
theorem dX4_good_141 : decode cX4_good 141 = .ok (.istore_n 2, 1) := dk_61 (dk_at dksX4_good_5 21 rfl rfl)
theorem dX4_good_142 : decode cX4_good 142 = .ok (.iload_n 3, 1) := dk_29 (dk_at dksX4_good_5 22 rfl rfl)
theorem dX4_good_143 : decode cX4_good 143 = .ok (.iload_n 1, 1) := dk_27 (dk_at dksX4_good_5 23 rfl rfl)
theorem dX4_good_144 : decode cX4_good 144 = .ok (.if_icmp .ne 11, 3) := dk_160 0 11 (dk_at dksX4_good_6 0 rfl rfl)
theorem dX4_good_147 : decode cX4_good 147 = .ok (.aload_n 0, 1) := dk_42 (dk_at dksX4_good_6 3 rfl rfl)
theorem dX4_good_148 : decode cX4_good 148 = .ok (.getfield 248, 3) := dk_180 0 248 (dk_at dksX4_good_6 4 rfl rfl)
theorem dX4_good_151 : decode cX4_good 151 = .ok (.iload 4, 2) := dk_21 4 (dk_at dksX4_good_6 7 rfl rfl)
theorem dX4_good_153 : decode cX4_good 153 = .ok (.iaload, 1) := dk_46 (dk_at dksX4_good_6 9 rfl rfl)
theorem dX4_good_154 : decode cX4_good 154 = .ok (.ireturn, 1) := dk_172 (dk_at dksX4_good_6 10 rfl rfl)
theorem dX4_good_155 : decode cX4_good 155 = .ok (.iinc 3 1, 3) := dk_132 3 1 (dk_at dksX4_good_6 11 rfl rfl)
theorem dX4_good_158 : decode cX4_good 158 = .ok (.iinc 4 1, 3) := dk_132 4 1 (dk_at dksX4_good_6 14 rfl rfl)
theorem dX4_good_161 : decode cX4_good 161 = .ok (.goto (-51), 3) := dk_167 255 205 (dk_at dksX4_good_6 17 rfl rfl)
theorem dX4_good_164 : decode cX4_good 164 = .ok (.iload_n 1, 1) := dk_27 (dk_at dksX4_good_6 20 rfl rfl)
theorem dX4_good_165 : decode cX4_good 165 = .ok (.iconst (-1), 1) := dk_2 (dk_at dksX4_good_6 21 rfl rfl)
theorem dX4_good_166 : decode cX4_good 166 = .ok (.if_icmp .ne 7, 3) := dk_160 0 7 (dk_at dksX4_good_7 0 rfl rfl)
theorem dX4_good_169 : decode cX4_good 169 = .ok (.iload_n 3, 1) := dk_29 (dk_at dksX4_good_7 3 rfl rfl)
theorem dX4_good_170 : decode cX4_good 170 = .ok (.goto 4, 3) := dk_167 0 4 (dk_at dksX4_good_7 4 rfl rfl)
theorem dX4_good_173 : decode cX4_good 173 = .ok (.iconst (-1), 1) := dk_2 (dk_at dksX4_good_7 7 rfl rfl)
theorem dX4_good_174 : decode cX4_good 174 = .ok (.ireturn, 1) := dk_172 (dk_at dksX4_good_7 8 rfl rfl)
abbrev cX4_maze : ByteArray := prog_9_method_67_code
def yX4_maze : MethodName := ⟨RX4, "maze", "()I"⟩
def dkwX4_maze_3 : List UInt8 := [167, 0, 4, 3, 172]
abbrev dktX4_maze_3 : List UInt8 := dkwX4_maze_3 ++ []
def dkwX4_maze_2 : List UInt8 := [182, 1, 178, 182, 1, 155, 153, 0, 19, 42, 42, 182, 1, 178, 182, 1, 163, 27, 160, 0, 7, 4]
abbrev dktX4_maze_2 : List UInt8 := dkwX4_maze_2 ++ dktX4_maze_3
def dkwX4_maze_1 : List UInt8 := [3, 46, 42, 180, 0, 197, 4, 46, 182, 1, 159, 60, 27, 19, 1, 158, 161, 0, 5, 2, 172, 42, 42]
abbrev dktX4_maze_1 : List UInt8 := dkwX4_maze_1 ++ dktX4_maze_2
def dkwX4_maze_0 : List UInt8 := [42, 180, 1, 44, 5, 159, 0, 6, 16, 252, 172, 42, 4, 42, 180, 1, 41, 120, 4, 100, 42, 180, 0, 197]
abbrev dktX4_maze_0 : List UInt8 := dkwX4_maze_0 ++ dktX4_maze_1
theorem dksX4_maze_0 : cX4_maze.data.toList.drop 0 = dktX4_maze_0 := by decide +kernel
theorem dksX4_maze_1 : cX4_maze.data.toList.drop 24 = dktX4_maze_1 := dk_seg dksX4_maze_0 24 rfl rfl
theorem dksX4_maze_2 : cX4_maze.data.toList.drop 47 = dktX4_maze_2 := dk_seg dksX4_maze_1 23 rfl rfl
theorem dksX4_maze_3 : cX4_maze.data.toList.drop 69 = dktX4_maze_3 := dk_seg dksX4_maze_2 22 rfl rfl
theorem dX4_maze_0 : decode cX4_maze 0 = .ok (.aload_n 0, 1) := dk_42 (dk_at dksX4_maze_0 0 rfl rfl)
theorem dX4_maze_1 : decode cX4_maze 1 = .ok (.getfield 300, 3) := dk_180 1 44 (dk_at dksX4_maze_0 1 rfl rfl)
theorem dX4_maze_4 : decode cX4_maze 4 = .ok (.iconst 2, 1) := dk_5 (dk_at dksX4_maze_0 4 rfl rfl)
theorem dX4_maze_5 : decode cX4_maze 5 = .ok (.if_icmp .eq 6, 3) := dk_159 0 6 (dk_at dksX4_maze_0 5 rfl rfl)
theorem dX4_maze_8 : decode cX4_maze 8 = .ok (.bipush (-4), 2) := dk_16 252 (dk_at dksX4_maze_0 8 rfl rfl)
theorem dX4_maze_10 : decode cX4_maze 10 = .ok (.ireturn, 1) := dk_172 (dk_at dksX4_maze_0 10 rfl rfl)
theorem dX4_maze_11 : decode cX4_maze 11 = .ok (.aload_n 0, 1) := dk_42 (dk_at dksX4_maze_0 11 rfl rfl)
theorem dX4_maze_12 : decode cX4_maze 12 = .ok (.iconst 1, 1) := dk_4 (dk_at dksX4_maze_0 12 rfl rfl)
theorem dX4_maze_13 : decode cX4_maze 13 = .ok (.aload_n 0, 1) := dk_42 (dk_at dksX4_maze_0 13 rfl rfl)
theorem dX4_maze_14 : decode cX4_maze 14 = .ok (.getfield 297, 3) := dk_180 1 41 (dk_at dksX4_maze_0 14 rfl rfl)
theorem dX4_maze_17 : decode cX4_maze 17 = .ok (.ishl, 1) := dk_120 (dk_at dksX4_maze_0 17 rfl rfl)
theorem dX4_maze_18 : decode cX4_maze 18 = .ok (.iconst 1, 1) := dk_4 (dk_at dksX4_maze_0 18 rfl rfl)
theorem dX4_maze_19 : decode cX4_maze 19 = .ok (.isub, 1) := dk_100 (dk_at dksX4_maze_0 19 rfl rfl)
theorem dX4_maze_20 : decode cX4_maze 20 = .ok (.aload_n 0, 1) := dk_42 (dk_at dksX4_maze_0 20 rfl rfl)
theorem dX4_maze_21 : decode cX4_maze 21 = .ok (.getfield 197, 3) := dk_180 0 197 (dk_at dksX4_maze_0 21 rfl rfl)
theorem dX4_maze_24 : decode cX4_maze 24 = .ok (.iconst 0, 1) := dk_3 (dk_at dksX4_maze_1 0 rfl rfl)
theorem dX4_maze_25 : decode cX4_maze 25 = .ok (.iaload, 1) := dk_46 (dk_at dksX4_maze_1 1 rfl rfl)
theorem dX4_maze_26 : decode cX4_maze 26 = .ok (.aload_n 0, 1) := dk_42 (dk_at dksX4_maze_1 2 rfl rfl)
theorem dX4_maze_27 : decode cX4_maze 27 = .ok (.getfield 197, 3) := dk_180 0 197 (dk_at dksX4_maze_1 3 rfl rfl)
theorem dX4_maze_30 : decode cX4_maze 30 = .ok (.iconst 1, 1) := dk_4 (dk_at dksX4_maze_1 6 rfl rfl)
theorem dX4_maze_31 : decode cX4_maze 31 = .ok (.iaload, 1) := dk_46 (dk_at dksX4_maze_1 7 rfl rfl)
theorem dX4_maze_32 : decode cX4_maze 32 = .ok (.invokevirtual 415, 3) := dk_182 1 159 (dk_at dksX4_maze_1 8 rfl rfl)
theorem dX4_maze_35 : decode cX4_maze 35 = .ok (.istore_n 1, 1) := dk_60 (dk_at dksX4_maze_1 11 rfl rfl)
theorem dX4_maze_36 : decode cX4_maze 36 = .ok (.iload_n 1, 1) := dk_27 (dk_at dksX4_maze_1 12 rfl rfl)
theorem dX4_maze_37 : decode cX4_maze 37 = .ok (.ldc_w 414, 3) := dk_19 1 158 (dk_at dksX4_maze_1 13 rfl rfl)
theorem dX4_maze_40 : decode cX4_maze 40 = .ok (.if_icmp .lt 5, 3) := dk_161 0 5 (dk_at dksX4_maze_1 16 rfl rfl)
theorem dX4_maze_43 : decode cX4_maze 43 = .ok (.iconst (-1), 1) := dk_2 (dk_at dksX4_maze_1 19 rfl rfl)
theorem dX4_maze_44 : decode cX4_maze 44 = .ok (.ireturn, 1) := dk_172 (dk_at dksX4_maze_1 20 rfl rfl)
theorem dX4_maze_45 : decode cX4_maze 45 = .ok (.aload_n 0, 1) := dk_42 (dk_at dksX4_maze_1 21 rfl rfl)
theorem dX4_maze_46 : decode cX4_maze 46 = .ok (.aload_n 0, 1) := dk_42 (dk_at dksX4_maze_1 22 rfl rfl)
theorem dX4_maze_47 : decode cX4_maze 47 = .ok (.invokevirtual 434, 3) := dk_182 1 178 (dk_at dksX4_maze_2 0 rfl rfl)
theorem dX4_maze_50 : decode cX4_maze 50 = .ok (.invokevirtual 411, 3) := dk_182 1 155 (dk_at dksX4_maze_2 3 rfl rfl)
theorem dX4_maze_53 : decode cX4_maze 53 = .ok (.ifCond .eq 19, 3) := dk_153 0 19 (dk_at dksX4_maze_2 6 rfl rfl)
theorem dX4_maze_56 : decode cX4_maze 56 = .ok (.aload_n 0, 1) := dk_42 (dk_at dksX4_maze_2 9 rfl rfl)
theorem dX4_maze_57 : decode cX4_maze 57 = .ok (.aload_n 0, 1) := dk_42 (dk_at dksX4_maze_2 10 rfl rfl)
theorem dX4_maze_58 : decode cX4_maze 58 = .ok (.invokevirtual 434, 3) := dk_182 1 178 (dk_at dksX4_maze_2 11 rfl rfl)
theorem dX4_maze_61 : decode cX4_maze 61 = .ok (.invokevirtual 419, 3) := dk_182 1 163 (dk_at dksX4_maze_2 14 rfl rfl)
theorem dX4_maze_64 : decode cX4_maze 64 = .ok (.iload_n 1, 1) := dk_27 (dk_at dksX4_maze_2 17 rfl rfl)
theorem dX4_maze_65 : decode cX4_maze 65 = .ok (.if_icmp .ne 7, 3) := dk_160 0 7 (dk_at dksX4_maze_2 18 rfl rfl)
theorem dX4_maze_68 : decode cX4_maze 68 = .ok (.iconst 1, 1) := dk_4 (dk_at dksX4_maze_2 21 rfl rfl)
theorem dX4_maze_69 : decode cX4_maze 69 = .ok (.goto 4, 3) := dk_167 0 4 (dk_at dksX4_maze_3 0 rfl rfl)
theorem dX4_maze_72 : decode cX4_maze 72 = .ok (.iconst 0, 1) := dk_3 (dk_at dksX4_maze_3 3 rfl rfl)
theorem dX4_maze_73 : decode cX4_maze 73 = .ok (.ireturn, 1) := dk_172 (dk_at dksX4_maze_3 4 rfl rfl)
abbrev cX4_see : ByteArray := prog_9_method_71_code
def yX4_see : MethodName := ⟨RX4, "see", "(III)I"⟩
def dkwX4_see_4 : List UInt8 := [100, 172]
abbrev dktX4_see_4 : List UInt8 := dkwX4_see_4 ++ []
def dkwX4_see_3 : List UInt8 := [180, 1, 10, 42, 180, 1, 59, 27, 79, 42, 89, 180, 1, 59, 4, 96, 181, 1, 59, 42, 180, 1, 59, 4]
abbrev dktX4_see_3 : List UInt8 := dkwX4_see_3 ++ dktX4_see_4
def dkwX4_see_2 : List UInt8 := [181, 1, 65, 42, 180, 1, 4, 42, 180, 1, 59, 28, 79, 42, 180, 1, 7, 42, 180, 1, 59, 29, 79, 42]
abbrev dktX4_see_2 : List UInt8 := dkwX4_see_2 ++ dktX4_see_3
def dkwX4_see_1 : List UInt8 := [29, 182, 1, 169, 154, 0, 6, 16, 254, 172, 42, 180, 1, 59, 16, 16, 160, 0, 6, 16, 253, 172, 42, 27]
abbrev dktX4_see_1 : List UInt8 := dkwX4_see_1 ++ dktX4_see_2
def dkwX4_see_0 : List UInt8 := [27, 133, 42, 180, 1, 65, 133, 20, 1, 183, 184, 0, 52, 153, 0, 18, 28, 184, 1, 185, 153, 0, 11, 42]
abbrev dktX4_see_0 : List UInt8 := dkwX4_see_0 ++ dktX4_see_1
theorem dksX4_see_0 : cX4_see.data.toList.drop 0 = dktX4_see_0 := by decide +kernel
theorem dksX4_see_1 : cX4_see.data.toList.drop 24 = dktX4_see_1 := dk_seg dksX4_see_0 24 rfl rfl
theorem dksX4_see_2 : cX4_see.data.toList.drop 48 = dktX4_see_2 := dk_seg dksX4_see_1 24 rfl rfl
theorem dksX4_see_3 : cX4_see.data.toList.drop 72 = dktX4_see_3 := dk_seg dksX4_see_2 24 rfl rfl
theorem dksX4_see_4 : cX4_see.data.toList.drop 96 = dktX4_see_4 := dk_seg dksX4_see_3 24 rfl rfl
theorem dX4_see_0 : decode cX4_see 0 = .ok (.iload_n 1, 1) := dk_27 (dk_at dksX4_see_0 0 rfl rfl)
theorem dX4_see_1 : decode cX4_see 1 = .ok (.i2l, 1) := dk_133 (dk_at dksX4_see_0 1 rfl rfl)
theorem dX4_see_2 : decode cX4_see 2 = .ok (.aload_n 0, 1) := dk_42 (dk_at dksX4_see_0 2 rfl rfl)
theorem dX4_see_3 : decode cX4_see 3 = .ok (.getfield 321, 3) := dk_180 1 65 (dk_at dksX4_see_0 3 rfl rfl)
theorem dX4_see_6 : decode cX4_see 6 = .ok (.i2l, 1) := dk_133 (dk_at dksX4_see_0 6 rfl rfl)
theorem dX4_see_7 : decode cX4_see 7 = .ok (.ldc2_w 439, 3) := dk_20 1 183 (dk_at dksX4_see_0 7 rfl rfl)
theorem dX4_see_10 : decode cX4_see 10 = .ok (.invokestatic 52, 3) := dk_184 0 52 (dk_at dksX4_see_0 10 rfl rfl)
theorem dX4_see_13 : decode cX4_see 13 = .ok (.ifCond .eq 18, 3) := dk_153 0 18 (dk_at dksX4_see_0 13 rfl rfl)
theorem dX4_see_16 : decode cX4_see 16 = .ok (.iload_n 2, 1) := dk_28 (dk_at dksX4_see_0 16 rfl rfl)
theorem dX4_see_17 : decode cX4_see 17 = .ok (.invokestatic 441, 3) := dk_184 1 185 (dk_at dksX4_see_0 17 rfl rfl)
theorem dX4_see_20 : decode cX4_see 20 = .ok (.ifCond .eq 11, 3) := dk_153 0 11 (dk_at dksX4_see_0 20 rfl rfl)
theorem dX4_see_23 : decode cX4_see 23 = .ok (.aload_n 0, 1) := dk_42 (dk_at dksX4_see_0 23 rfl rfl)
theorem dX4_see_24 : decode cX4_see 24 = .ok (.iload_n 3, 1) := dk_29 (dk_at dksX4_see_1 0 rfl rfl)
theorem dX4_see_25 : decode cX4_see 25 = .ok (.invokevirtual 425, 3) := dk_182 1 169 (dk_at dksX4_see_1 1 rfl rfl)
theorem dX4_see_28 : decode cX4_see 28 = .ok (.ifCond .ne 6, 3) := dk_154 0 6 (dk_at dksX4_see_1 4 rfl rfl)
theorem dX4_see_31 : decode cX4_see 31 = .ok (.bipush (-2), 2) := dk_16 254 (dk_at dksX4_see_1 7 rfl rfl)
theorem dX4_see_33 : decode cX4_see 33 = .ok (.ireturn, 1) := dk_172 (dk_at dksX4_see_1 9 rfl rfl)
theorem dX4_see_34 : decode cX4_see 34 = .ok (.aload_n 0, 1) := dk_42 (dk_at dksX4_see_1 10 rfl rfl)
theorem dX4_see_35 : decode cX4_see 35 = .ok (.getfield 315, 3) := dk_180 1 59 (dk_at dksX4_see_1 11 rfl rfl)
theorem dX4_see_38 : decode cX4_see 38 = .ok (.bipush 16, 2) := dk_16 16 (dk_at dksX4_see_1 14 rfl rfl)
theorem dX4_see_40 : decode cX4_see 40 = .ok (.if_icmp .ne 6, 3) := dk_160 0 6 (dk_at dksX4_see_1 16 rfl rfl)
theorem dX4_see_43 : decode cX4_see 43 = .ok (.bipush (-3), 2) := dk_16 253 (dk_at dksX4_see_1 19 rfl rfl)
theorem dX4_see_45 : decode cX4_see 45 = .ok (.ireturn, 1) := dk_172 (dk_at dksX4_see_1 21 rfl rfl)
theorem dX4_see_46 : decode cX4_see 46 = .ok (.aload_n 0, 1) := dk_42 (dk_at dksX4_see_1 22 rfl rfl)
theorem dX4_see_47 : decode cX4_see 47 = .ok (.iload_n 1, 1) := dk_27 (dk_at dksX4_see_1 23 rfl rfl)
theorem dX4_see_48 : decode cX4_see 48 = .ok (.putfield 321, 3) := dk_181 1 65 (dk_at dksX4_see_2 0 rfl rfl)
theorem dX4_see_51 : decode cX4_see 51 = .ok (.aload_n 0, 1) := dk_42 (dk_at dksX4_see_2 3 rfl rfl)
theorem dX4_see_52 : decode cX4_see 52 = .ok (.getfield 260, 3) := dk_180 1 4 (dk_at dksX4_see_2 4 rfl rfl)
theorem dX4_see_55 : decode cX4_see 55 = .ok (.aload_n 0, 1) := dk_42 (dk_at dksX4_see_2 7 rfl rfl)
theorem dX4_see_56 : decode cX4_see 56 = .ok (.getfield 315, 3) := dk_180 1 59 (dk_at dksX4_see_2 8 rfl rfl)
theorem dX4_see_59 : decode cX4_see 59 = .ok (.iload_n 2, 1) := dk_28 (dk_at dksX4_see_2 11 rfl rfl)
theorem dX4_see_60 : decode cX4_see 60 = .ok (.iastore, 1) := dk_79 (dk_at dksX4_see_2 12 rfl rfl)
theorem dX4_see_61 : decode cX4_see 61 = .ok (.aload_n 0, 1) := dk_42 (dk_at dksX4_see_2 13 rfl rfl)
theorem dX4_see_62 : decode cX4_see 62 = .ok (.getfield 263, 3) := dk_180 1 7 (dk_at dksX4_see_2 14 rfl rfl)
theorem dX4_see_65 : decode cX4_see 65 = .ok (.aload_n 0, 1) := dk_42 (dk_at dksX4_see_2 17 rfl rfl)
theorem dX4_see_66 : decode cX4_see 66 = .ok (.getfield 315, 3) := dk_180 1 59 (dk_at dksX4_see_2 18 rfl rfl)
theorem dX4_see_69 : decode cX4_see 69 = .ok (.iload_n 3, 1) := dk_29 (dk_at dksX4_see_2 21 rfl rfl)
theorem dX4_see_70 : decode cX4_see 70 = .ok (.iastore, 1) := dk_79 (dk_at dksX4_see_2 22 rfl rfl)
theorem dX4_see_71 : decode cX4_see 71 = .ok (.aload_n 0, 1) := dk_42 (dk_at dksX4_see_2 23 rfl rfl)
theorem dX4_see_72 : decode cX4_see 72 = .ok (.getfield 266, 3) := dk_180 1 10 (dk_at dksX4_see_3 0 rfl rfl)
theorem dX4_see_75 : decode cX4_see 75 = .ok (.aload_n 0, 1) := dk_42 (dk_at dksX4_see_3 3 rfl rfl)
theorem dX4_see_76 : decode cX4_see 76 = .ok (.getfield 315, 3) := dk_180 1 59 (dk_at dksX4_see_3 4 rfl rfl)
theorem dX4_see_79 : decode cX4_see 79 = .ok (.iload_n 1, 1) := dk_27 (dk_at dksX4_see_3 7 rfl rfl)
theorem dX4_see_80 : decode cX4_see 80 = .ok (.iastore, 1) := dk_79 (dk_at dksX4_see_3 8 rfl rfl)
theorem dX4_see_81 : decode cX4_see 81 = .ok (.aload_n 0, 1) := dk_42 (dk_at dksX4_see_3 9 rfl rfl)
theorem dX4_see_82 : decode cX4_see 82 = .ok (.dup, 1) := dk_89 (dk_at dksX4_see_3 10 rfl rfl)
theorem dX4_see_83 : decode cX4_see 83 = .ok (.getfield 315, 3) := dk_180 1 59 (dk_at dksX4_see_3 11 rfl rfl)
theorem dX4_see_86 : decode cX4_see 86 = .ok (.iconst 1, 1) := dk_4 (dk_at dksX4_see_3 14 rfl rfl)
theorem dX4_see_87 : decode cX4_see 87 = .ok (.iadd, 1) := dk_96 (dk_at dksX4_see_3 15 rfl rfl)
theorem dX4_see_88 : decode cX4_see 88 = .ok (.putfield 315, 3) := dk_181 1 59 (dk_at dksX4_see_3 16 rfl rfl)
theorem dX4_see_91 : decode cX4_see 91 = .ok (.aload_n 0, 1) := dk_42 (dk_at dksX4_see_3 19 rfl rfl)
theorem dX4_see_92 : decode cX4_see 92 = .ok (.getfield 315, 3) := dk_180 1 59 (dk_at dksX4_see_3 20 rfl rfl)
theorem dX4_see_95 : decode cX4_see 95 = .ok (.iconst 1, 1) := dk_4 (dk_at dksX4_see_3 23 rfl rfl)
theorem dX4_see_96 : decode cX4_see 96 = .ok (.isub, 1) := dk_100 (dk_at dksX4_see_4 0 rfl rfl)
theorem dX4_see_97 : decode cX4_see 97 = .ok (.ireturn, 1) := dk_172 (dk_at dksX4_see_4 1 rfl rfl)
abbrev cX4_isHour : ByteArray := prog_9_method_70_code
def yX4_isHour : MethodName := ⟨RX4, "isHour", "(I)Z"⟩
def dkwX4_isHour_0 : List UInt8 := [26, 133, 9, 20, 1, 181, 184, 0, 52, 172]
abbrev dktX4_isHour_0 : List UInt8 := dkwX4_isHour_0 ++ []
theorem dksX4_isHour_0 : cX4_isHour.data.toList.drop 0 = dktX4_isHour_0 := by decide +kernel
theorem dX4_isHour_0 : decode cX4_isHour 0 = .ok (.iload_n 0, 1) := dk_26 (dk_at dksX4_isHour_0 0 rfl rfl)
theorem dX4_isHour_1 : decode cX4_isHour 1 = .ok (.i2l, 1) := dk_133 (dk_at dksX4_isHour_0 1 rfl rfl)
theorem dX4_isHour_2 : decode cX4_isHour 2 = .ok (.lconst 0, 1) := dk_9 (dk_at dksX4_isHour_0 2 rfl rfl)
theorem dX4_isHour_3 : decode cX4_isHour 3 = .ok (.ldc2_w 437, 3) := dk_20 1 181 (dk_at dksX4_isHour_0 3 rfl rfl)
theorem dX4_isHour_6 : decode cX4_isHour 6 = .ok (.invokestatic 52, 3) := dk_184 0 52 (dk_at dksX4_isHour_0 6 rfl rfl)
theorem dX4_isHour_9 : decode cX4_isHour 9 = .ok (.ireturn, 1) := dk_172 (dk_at dksX4_isHour_0 9 rfl rfl)
abbrev cX4_right : ByteArray := prog_9_method_72_code
def yX4_right : MethodName := ⟨RX4, "right", "(III)I"⟩
def dkwX4_right_6 : List UInt8 := [21, 4, 172]
abbrev dktX4_right_6 : List UInt8 := dkwX4_right_6 ++ []
def dkwX4_right_5 : List UInt8 := [180, 1, 13, 21, 5, 46, 28, 160, 0, 7, 4, 167, 0, 4, 3, 96, 54, 4, 132, 5, 1, 167, 255, 223]
abbrev dktX4_right_5 : List UInt8 := dkwX4_right_5 ++ dktX4_right_6
def dkwX4_right_4 : List UInt8 := [4, 96, 181, 1, 62, 3, 54, 4, 3, 54, 5, 21, 5, 42, 180, 1, 62, 162, 0, 30, 21, 4, 42]
abbrev dktX4_right_4 : List UInt8 := dkwX4_right_4 ++ dktX4_right_5
def dkwX4_right_3 : List UInt8 := [180, 1, 16, 42, 180, 1, 62, 29, 79, 42, 180, 1, 19, 42, 180, 1, 62, 27, 79, 42, 89, 180, 1, 62]
abbrev dktX4_right_3 : List UInt8 := dkwX4_right_3 ++ dktX4_right_4
def dkwX4_right_2 : List UInt8 := [16, 20, 160, 0, 6, 16, 253, 172, 42, 27, 181, 1, 65, 42, 180, 1, 13, 42, 180, 1, 62, 28, 79, 42]
abbrev dktX4_right_2 : List UInt8 := dkwX4_right_2 ++ dktX4_right_3
def dkwX4_right_1 : List UInt8 := [10, 101, 184, 0, 52, 153, 0, 11, 42, 29, 182, 1, 169, 154, 0, 6, 16, 254, 172, 42, 180, 1, 62]
abbrev dktX4_right_1 : List UInt8 := dkwX4_right_1 ++ dktX4_right_2
def dkwX4_right_0 : List UInt8 := [27, 133, 42, 180, 1, 65, 133, 20, 1, 183, 184, 0, 52, 153, 0, 27, 28, 133, 9, 42, 180, 1, 59, 133]
abbrev dktX4_right_0 : List UInt8 := dkwX4_right_0 ++ dktX4_right_1
theorem dksX4_right_0 : cX4_right.data.toList.drop 0 = dktX4_right_0 := by decide +kernel
theorem dksX4_right_1 : cX4_right.data.toList.drop 24 = dktX4_right_1 := dk_seg dksX4_right_0 24 rfl rfl
theorem dksX4_right_2 : cX4_right.data.toList.drop 47 = dktX4_right_2 := dk_seg dksX4_right_1 23 rfl rfl
theorem dksX4_right_3 : cX4_right.data.toList.drop 71 = dktX4_right_3 := dk_seg dksX4_right_2 24 rfl rfl
theorem dksX4_right_4 : cX4_right.data.toList.drop 95 = dktX4_right_4 := dk_seg dksX4_right_3 24 rfl rfl
theorem dksX4_right_5 : cX4_right.data.toList.drop 118 = dktX4_right_5 := dk_seg dksX4_right_4 23 rfl rfl
theorem dksX4_right_6 : cX4_right.data.toList.drop 142 = dktX4_right_6 := dk_seg dksX4_right_5 24 rfl rfl
theorem dX4_right_0 : decode cX4_right 0 = .ok (.iload_n 1, 1) := dk_27 (dk_at dksX4_right_0 0 rfl rfl)
theorem dX4_right_1 : decode cX4_right 1 = .ok (.i2l, 1) := dk_133 (dk_at dksX4_right_0 1 rfl rfl)
theorem dX4_right_2 : decode cX4_right 2 = .ok (.aload_n 0, 1) := dk_42 (dk_at dksX4_right_0 2 rfl rfl)
theorem dX4_right_3 : decode cX4_right 3 = .ok (.getfield 321, 3) := dk_180 1 65 (dk_at dksX4_right_0 3 rfl rfl)
theorem dX4_right_6 : decode cX4_right 6 = .ok (.i2l, 1) := dk_133 (dk_at dksX4_right_0 6 rfl rfl)
theorem dX4_right_7 : decode cX4_right 7 = .ok (.ldc2_w 439, 3) := dk_20 1 183 (dk_at dksX4_right_0 7 rfl rfl)
theorem dX4_right_10 : decode cX4_right 10 = .ok (.invokestatic 52, 3) := dk_184 0 52 (dk_at dksX4_right_0 10 rfl rfl)
theorem dX4_right_13 : decode cX4_right 13 = .ok (.ifCond .eq 27, 3) := dk_153 0 27 (dk_at dksX4_right_0 13 rfl rfl)
theorem dX4_right_16 : decode cX4_right 16 = .ok (.iload_n 2, 1) := dk_28 (dk_at dksX4_right_0 16 rfl rfl)
theorem dX4_right_17 : decode cX4_right 17 = .ok (.i2l, 1) := dk_133 (dk_at dksX4_right_0 17 rfl rfl)
theorem dX4_right_18 : decode cX4_right 18 = .ok (.lconst 0, 1) := dk_9 (dk_at dksX4_right_0 18 rfl rfl)
theorem dX4_right_19 : decode cX4_right 19 = .ok (.aload_n 0, 1) := dk_42 (dk_at dksX4_right_0 19 rfl rfl)
theorem dX4_right_20 : decode cX4_right 20 = .ok (.getfield 315, 3) := dk_180 1 59 (dk_at dksX4_right_0 20 rfl rfl)
theorem dX4_right_23 : decode cX4_right 23 = .ok (.i2l, 1) := dk_133 (dk_at dksX4_right_0 23 rfl rfl)
theorem dX4_right_24 : decode cX4_right 24 = .ok (.lconst 1, 1) := dk_10 (dk_at dksX4_right_1 0 rfl rfl)
theorem dX4_right_25 : decode cX4_right 25 = .ok (.lsub, 1) := dk_101 (dk_at dksX4_right_1 1 rfl rfl)
theorem dX4_right_26 : decode cX4_right 26 = .ok (.invokestatic 52, 3) := dk_184 0 52 (dk_at dksX4_right_1 2 rfl rfl)
theorem dX4_right_29 : decode cX4_right 29 = .ok (.ifCond .eq 11, 3) := dk_153 0 11 (dk_at dksX4_right_1 5 rfl rfl)
theorem dX4_right_32 : decode cX4_right 32 = .ok (.aload_n 0, 1) := dk_42 (dk_at dksX4_right_1 8 rfl rfl)
theorem dX4_right_33 : decode cX4_right 33 = .ok (.iload_n 3, 1) := dk_29 (dk_at dksX4_right_1 9 rfl rfl)
theorem dX4_right_34 : decode cX4_right 34 = .ok (.invokevirtual 425, 3) := dk_182 1 169 (dk_at dksX4_right_1 10 rfl rfl)
theorem dX4_right_37 : decode cX4_right 37 = .ok (.ifCond .ne 6, 3) := dk_154 0 6 (dk_at dksX4_right_1 13 rfl rfl)
theorem dX4_right_40 : decode cX4_right 40 = .ok (.bipush (-2), 2) := dk_16 254 (dk_at dksX4_right_1 16 rfl rfl)
theorem dX4_right_42 : decode cX4_right 42 = .ok (.ireturn, 1) := dk_172 (dk_at dksX4_right_1 18 rfl rfl)
theorem dX4_right_43 : decode cX4_right 43 = .ok (.aload_n 0, 1) := dk_42 (dk_at dksX4_right_1 19 rfl rfl)
theorem dX4_right_44 : decode cX4_right 44 = .ok (.getfield 318, 3) := dk_180 1 62 (dk_at dksX4_right_1 20 rfl rfl)
theorem dX4_right_47 : decode cX4_right 47 = .ok (.bipush 20, 2) := dk_16 20 (dk_at dksX4_right_2 0 rfl rfl)
theorem dX4_right_49 : decode cX4_right 49 = .ok (.if_icmp .ne 6, 3) := dk_160 0 6 (dk_at dksX4_right_2 2 rfl rfl)
theorem dX4_right_52 : decode cX4_right 52 = .ok (.bipush (-3), 2) := dk_16 253 (dk_at dksX4_right_2 5 rfl rfl)
theorem dX4_right_54 : decode cX4_right 54 = .ok (.ireturn, 1) := dk_172 (dk_at dksX4_right_2 7 rfl rfl)
theorem dX4_right_55 : decode cX4_right 55 = .ok (.aload_n 0, 1) := dk_42 (dk_at dksX4_right_2 8 rfl rfl)
theorem dX4_right_56 : decode cX4_right 56 = .ok (.iload_n 1, 1) := dk_27 (dk_at dksX4_right_2 9 rfl rfl)
theorem dX4_right_57 : decode cX4_right 57 = .ok (.putfield 321, 3) := dk_181 1 65 (dk_at dksX4_right_2 10 rfl rfl)
theorem dX4_right_60 : decode cX4_right 60 = .ok (.aload_n 0, 1) := dk_42 (dk_at dksX4_right_2 13 rfl rfl)
theorem dX4_right_61 : decode cX4_right 61 = .ok (.getfield 269, 3) := dk_180 1 13 (dk_at dksX4_right_2 14 rfl rfl)
theorem dX4_right_64 : decode cX4_right 64 = .ok (.aload_n 0, 1) := dk_42 (dk_at dksX4_right_2 17 rfl rfl)
theorem dX4_right_65 : decode cX4_right 65 = .ok (.getfield 318, 3) := dk_180 1 62 (dk_at dksX4_right_2 18 rfl rfl)
theorem dX4_right_68 : decode cX4_right 68 = .ok (.iload_n 2, 1) := dk_28 (dk_at dksX4_right_2 21 rfl rfl)
theorem dX4_right_69 : decode cX4_right 69 = .ok (.iastore, 1) := dk_79 (dk_at dksX4_right_2 22 rfl rfl)
theorem dX4_right_70 : decode cX4_right 70 = .ok (.aload_n 0, 1) := dk_42 (dk_at dksX4_right_2 23 rfl rfl)
theorem dX4_right_71 : decode cX4_right 71 = .ok (.getfield 272, 3) := dk_180 1 16 (dk_at dksX4_right_3 0 rfl rfl)
theorem dX4_right_74 : decode cX4_right 74 = .ok (.aload_n 0, 1) := dk_42 (dk_at dksX4_right_3 3 rfl rfl)
theorem dX4_right_75 : decode cX4_right 75 = .ok (.getfield 318, 3) := dk_180 1 62 (dk_at dksX4_right_3 4 rfl rfl)
theorem dX4_right_78 : decode cX4_right 78 = .ok (.iload_n 3, 1) := dk_29 (dk_at dksX4_right_3 7 rfl rfl)
theorem dX4_right_79 : decode cX4_right 79 = .ok (.iastore, 1) := dk_79 (dk_at dksX4_right_3 8 rfl rfl)
theorem dX4_right_80 : decode cX4_right 80 = .ok (.aload_n 0, 1) := dk_42 (dk_at dksX4_right_3 9 rfl rfl)
theorem dX4_right_81 : decode cX4_right 81 = .ok (.getfield 275, 3) := dk_180 1 19 (dk_at dksX4_right_3 10 rfl rfl)
theorem dX4_right_84 : decode cX4_right 84 = .ok (.aload_n 0, 1) := dk_42 (dk_at dksX4_right_3 13 rfl rfl)
theorem dX4_right_85 : decode cX4_right 85 = .ok (.getfield 318, 3) := dk_180 1 62 (dk_at dksX4_right_3 14 rfl rfl)
theorem dX4_right_88 : decode cX4_right 88 = .ok (.iload_n 1, 1) := dk_27 (dk_at dksX4_right_3 17 rfl rfl)
theorem dX4_right_89 : decode cX4_right 89 = .ok (.iastore, 1) := dk_79 (dk_at dksX4_right_3 18 rfl rfl)
theorem dX4_right_90 : decode cX4_right 90 = .ok (.aload_n 0, 1) := dk_42 (dk_at dksX4_right_3 19 rfl rfl)
theorem dX4_right_91 : decode cX4_right 91 = .ok (.dup, 1) := dk_89 (dk_at dksX4_right_3 20 rfl rfl)
theorem dX4_right_92 : decode cX4_right 92 = .ok (.getfield 318, 3) := dk_180 1 62 (dk_at dksX4_right_3 21 rfl rfl)
theorem dX4_right_95 : decode cX4_right 95 = .ok (.iconst 1, 1) := dk_4 (dk_at dksX4_right_4 0 rfl rfl)
theorem dX4_right_96 : decode cX4_right 96 = .ok (.iadd, 1) := dk_96 (dk_at dksX4_right_4 1 rfl rfl)
theorem dX4_right_97 : decode cX4_right 97 = .ok (.putfield 318, 3) := dk_181 1 62 (dk_at dksX4_right_4 2 rfl rfl)
theorem dX4_right_100 : decode cX4_right 100 = .ok (.iconst 0, 1) := dk_3 (dk_at dksX4_right_4 5 rfl rfl)
theorem dX4_right_101 : decode cX4_right 101 = .ok (.istore 4, 2) := dk_54 4 (dk_at dksX4_right_4 6 rfl rfl)
theorem dX4_right_103 : decode cX4_right 103 = .ok (.iconst 0, 1) := dk_3 (dk_at dksX4_right_4 8 rfl rfl)
theorem dX4_right_104 : decode cX4_right 104 = .ok (.istore 5, 2) := dk_54 5 (dk_at dksX4_right_4 9 rfl rfl)
theorem dX4_right_106 : decode cX4_right 106 = .ok (.iload 5, 2) := dk_21 5 (dk_at dksX4_right_4 11 rfl rfl)
theorem dX4_right_108 : decode cX4_right 108 = .ok (.aload_n 0, 1) := dk_42 (dk_at dksX4_right_4 13 rfl rfl)
theorem dX4_right_109 : decode cX4_right 109 = .ok (.getfield 318, 3) := dk_180 1 62 (dk_at dksX4_right_4 14 rfl rfl)
theorem dX4_right_112 : decode cX4_right 112 = .ok (.if_icmp .ge 30, 3) := dk_162 0 30 (dk_at dksX4_right_4 17 rfl rfl)
theorem dX4_right_115 : decode cX4_right 115 = .ok (.iload 4, 2) := dk_21 4 (dk_at dksX4_right_4 20 rfl rfl)
theorem dX4_right_117 : decode cX4_right 117 = .ok (.aload_n 0, 1) := dk_42 (dk_at dksX4_right_4 22 rfl rfl)
theorem dX4_right_118 : decode cX4_right 118 = .ok (.getfield 269, 3) := dk_180 1 13 (dk_at dksX4_right_5 0 rfl rfl)
theorem dX4_right_121 : decode cX4_right 121 = .ok (.iload 5, 2) := dk_21 5 (dk_at dksX4_right_5 3 rfl rfl)
theorem dX4_right_123 : decode cX4_right 123 = .ok (.iaload, 1) := dk_46 (dk_at dksX4_right_5 5 rfl rfl)
theorem dX4_right_124 : decode cX4_right 124 = .ok (.iload_n 2, 1) := dk_28 (dk_at dksX4_right_5 6 rfl rfl)
theorem dX4_right_125 : decode cX4_right 125 = .ok (.if_icmp .ne 7, 3) := dk_160 0 7 (dk_at dksX4_right_5 7 rfl rfl)
theorem dX4_right_128 : decode cX4_right 128 = .ok (.iconst 1, 1) := dk_4 (dk_at dksX4_right_5 10 rfl rfl)
theorem dX4_right_129 : decode cX4_right 129 = .ok (.goto 4, 3) := dk_167 0 4 (dk_at dksX4_right_5 11 rfl rfl)
theorem dX4_right_132 : decode cX4_right 132 = .ok (.iconst 0, 1) := dk_3 (dk_at dksX4_right_5 14 rfl rfl)
theorem dX4_right_133 : decode cX4_right 133 = .ok (.iadd, 1) := dk_96 (dk_at dksX4_right_5 15 rfl rfl)
theorem dX4_right_134 : decode cX4_right 134 = .ok (.istore 4, 2) := dk_54 4 (dk_at dksX4_right_5 16 rfl rfl)
theorem dX4_right_136 : decode cX4_right 136 = .ok (.iinc 5 1, 3) := dk_132 5 1 (dk_at dksX4_right_5 18 rfl rfl)
theorem dX4_right_139 : decode cX4_right 139 = .ok (.goto (-33), 3) := dk_167 255 223 (dk_at dksX4_right_5 21 rfl rfl)
theorem dX4_right_142 : decode cX4_right 142 = .ok (.iload 4, 2) := dk_21 4 (dk_at dksX4_right_6 0 rfl rfl)
theorem dX4_right_144 : decode cX4_right 144 = .ok (.ireturn, 1) := dk_172 (dk_at dksX4_right_6 2 rfl rfl)
abbrev cX4_fit : ByteArray := prog_9_method_76_code
def yX4_fit : MethodName := ⟨RX4, "fit", "(II)I"⟩
def dkwX4_fit_3 : List UInt8 := [167, 255, 219, 28, 154, 0, 7, 29, 167, 0, 5, 21, 4, 172]
abbrev dktX4_fit_3 : List UInt8 := dkwX4_fit_3 ++ []
def dkwX4_fit_2 : List UInt8 := [154, 0, 6, 167, 0, 16, 132, 3, 1, 21, 4, 2, 160, 0, 7, 21, 5, 54, 4, 132, 5, 1]
abbrev dktX4_fit_2 : List UInt8 := dkwX4_fit_2 ++ dktX4_fit_3
def dkwX4_fit_1 : List UInt8 := [3, 62, 2, 54, 4, 3, 54, 5, 21, 5, 17, 1, 185, 162, 0, 35, 42, 21, 5, 27, 182, 1, 200]
abbrev dktX4_fit_1 : List UInt8 := dkwX4_fit_1 ++ dktX4_fit_2
def dkwX4_fit_0 : List UInt8 := [27, 184, 1, 194, 153, 0, 13, 28, 133, 9, 10, 184, 0, 52, 154, 0, 6, 16, 254, 172, 42, 182, 1, 197]
abbrev dktX4_fit_0 : List UInt8 := dkwX4_fit_0 ++ dktX4_fit_1
theorem dksX4_fit_0 : cX4_fit.data.toList.drop 0 = dktX4_fit_0 := by decide +kernel
theorem dksX4_fit_1 : cX4_fit.data.toList.drop 24 = dktX4_fit_1 := dk_seg dksX4_fit_0 24 rfl rfl
theorem dksX4_fit_2 : cX4_fit.data.toList.drop 47 = dktX4_fit_2 := dk_seg dksX4_fit_1 23 rfl rfl
theorem dksX4_fit_3 : cX4_fit.data.toList.drop 69 = dktX4_fit_3 := dk_seg dksX4_fit_2 22 rfl rfl
theorem dX4_fit_0 : decode cX4_fit 0 = .ok (.iload_n 1, 1) := dk_27 (dk_at dksX4_fit_0 0 rfl rfl)
theorem dX4_fit_1 : decode cX4_fit 1 = .ok (.invokestatic 450, 3) := dk_184 1 194 (dk_at dksX4_fit_0 1 rfl rfl)
theorem dX4_fit_4 : decode cX4_fit 4 = .ok (.ifCond .eq 13, 3) := dk_153 0 13 (dk_at dksX4_fit_0 4 rfl rfl)
theorem dX4_fit_7 : decode cX4_fit 7 = .ok (.iload_n 2, 1) := dk_28 (dk_at dksX4_fit_0 7 rfl rfl)
theorem dX4_fit_8 : decode cX4_fit 8 = .ok (.i2l, 1) := dk_133 (dk_at dksX4_fit_0 8 rfl rfl)
theorem dX4_fit_9 : decode cX4_fit 9 = .ok (.lconst 0, 1) := dk_9 (dk_at dksX4_fit_0 9 rfl rfl)
theorem dX4_fit_10 : decode cX4_fit 10 = .ok (.lconst 1, 1) := dk_10 (dk_at dksX4_fit_0 10 rfl rfl)
theorem dX4_fit_11 : decode cX4_fit 11 = .ok (.invokestatic 52, 3) := dk_184 0 52 (dk_at dksX4_fit_0 11 rfl rfl)
theorem dX4_fit_14 : decode cX4_fit 14 = .ok (.ifCond .ne 6, 3) := dk_154 0 6 (dk_at dksX4_fit_0 14 rfl rfl)
theorem dX4_fit_17 : decode cX4_fit 17 = .ok (.bipush (-2), 2) := dk_16 254 (dk_at dksX4_fit_0 17 rfl rfl)
theorem dX4_fit_19 : decode cX4_fit 19 = .ok (.ireturn, 1) := dk_172 (dk_at dksX4_fit_0 19 rfl rfl)
theorem dX4_fit_20 : decode cX4_fit 20 = .ok (.aload_n 0, 1) := dk_42 (dk_at dksX4_fit_0 20 rfl rfl)
theorem dX4_fit_21 : decode cX4_fit 21 = .ok (.invokevirtual 453, 3) := dk_182 1 197 (dk_at dksX4_fit_0 21 rfl rfl)
theorem dX4_fit_24 : decode cX4_fit 24 = .ok (.iconst 0, 1) := dk_3 (dk_at dksX4_fit_1 0 rfl rfl)
theorem dX4_fit_25 : decode cX4_fit 25 = .ok (.istore_n 3, 1) := dk_62 (dk_at dksX4_fit_1 1 rfl rfl)
theorem dX4_fit_26 : decode cX4_fit 26 = .ok (.iconst (-1), 1) := dk_2 (dk_at dksX4_fit_1 2 rfl rfl)
theorem dX4_fit_27 : decode cX4_fit 27 = .ok (.istore 4, 2) := dk_54 4 (dk_at dksX4_fit_1 3 rfl rfl)
theorem dX4_fit_29 : decode cX4_fit 29 = .ok (.iconst 0, 1) := dk_3 (dk_at dksX4_fit_1 5 rfl rfl)
theorem dX4_fit_30 : decode cX4_fit 30 = .ok (.istore 5, 2) := dk_54 5 (dk_at dksX4_fit_1 6 rfl rfl)
theorem dX4_fit_32 : decode cX4_fit 32 = .ok (.iload 5, 2) := dk_21 5 (dk_at dksX4_fit_1 8 rfl rfl)
theorem dX4_fit_34 : decode cX4_fit 34 = .ok (.sipush 441, 3) := dk_17 1 185 (dk_at dksX4_fit_1 10 rfl rfl)
theorem dX4_fit_37 : decode cX4_fit 37 = .ok (.if_icmp .ge 35, 3) := dk_162 0 35 (dk_at dksX4_fit_1 13 rfl rfl)
theorem dX4_fit_40 : decode cX4_fit 40 = .ok (.aload_n 0, 1) := dk_42 (dk_at dksX4_fit_1 16 rfl rfl)
theorem dX4_fit_41 : decode cX4_fit 41 = .ok (.iload 5, 2) := dk_21 5 (dk_at dksX4_fit_1 17 rfl rfl)
theorem dX4_fit_43 : decode cX4_fit 43 = .ok (.iload_n 1, 1) := dk_27 (dk_at dksX4_fit_1 19 rfl rfl)
theorem dX4_fit_44 : decode cX4_fit 44 = .ok (.invokevirtual 456, 3) := dk_182 1 200 (dk_at dksX4_fit_1 20 rfl rfl)
theorem dX4_fit_47 : decode cX4_fit 47 = .ok (.ifCond .ne 6, 3) := dk_154 0 6 (dk_at dksX4_fit_2 0 rfl rfl)
theorem dX4_fit_50 : decode cX4_fit 50 = .ok (.goto 16, 3) := dk_167 0 16 (dk_at dksX4_fit_2 3 rfl rfl)
theorem dX4_fit_53 : decode cX4_fit 53 = .ok (.iinc 3 1, 3) := dk_132 3 1 (dk_at dksX4_fit_2 6 rfl rfl)
theorem dX4_fit_56 : decode cX4_fit 56 = .ok (.iload 4, 2) := dk_21 4 (dk_at dksX4_fit_2 9 rfl rfl)
theorem dX4_fit_58 : decode cX4_fit 58 = .ok (.iconst (-1), 1) := dk_2 (dk_at dksX4_fit_2 11 rfl rfl)
theorem dX4_fit_59 : decode cX4_fit 59 = .ok (.if_icmp .ne 7, 3) := dk_160 0 7 (dk_at dksX4_fit_2 12 rfl rfl)
theorem dX4_fit_62 : decode cX4_fit 62 = .ok (.iload 5, 2) := dk_21 5 (dk_at dksX4_fit_2 15 rfl rfl)
theorem dX4_fit_64 : decode cX4_fit 64 = .ok (.istore 4, 2) := dk_54 4 (dk_at dksX4_fit_2 17 rfl rfl)
theorem dX4_fit_66 : decode cX4_fit 66 = .ok (.iinc 5 1, 3) := dk_132 5 1 (dk_at dksX4_fit_2 19 rfl rfl)
theorem dX4_fit_69 : decode cX4_fit 69 = .ok (.goto (-37), 3) := dk_167 255 219 (dk_at dksX4_fit_3 0 rfl rfl)
theorem dX4_fit_72 : decode cX4_fit 72 = .ok (.iload_n 2, 1) := dk_28 (dk_at dksX4_fit_3 3 rfl rfl)
theorem dX4_fit_73 : decode cX4_fit 73 = .ok (.ifCond .ne 7, 3) := dk_154 0 7 (dk_at dksX4_fit_3 4 rfl rfl)
theorem dX4_fit_76 : decode cX4_fit 76 = .ok (.iload_n 3, 1) := dk_29 (dk_at dksX4_fit_3 7 rfl rfl)
theorem dX4_fit_77 : decode cX4_fit 77 = .ok (.goto 5, 3) := dk_167 0 5 (dk_at dksX4_fit_3 8 rfl rfl)
theorem dX4_fit_80 : decode cX4_fit 80 = .ok (.iload 4, 2) := dk_21 4 (dk_at dksX4_fit_3 11 rfl rfl)
theorem dX4_fit_82 : decode cX4_fit 82 = .ok (.ireturn, 1) := dk_172 (dk_at dksX4_fit_3 13 rfl rfl)
abbrev cX4_isStep : ByteArray := prog_9_method_75_code
def yX4_isStep : MethodName := ⟨RX4, "isStep", "(I)Z"⟩
def dkwX4_isStep_0 : List UInt8 := [26, 133, 9, 20, 1, 183, 184, 0, 52, 172]
abbrev dktX4_isStep_0 : List UInt8 := dkwX4_isStep_0 ++ []
theorem dksX4_isStep_0 : cX4_isStep.data.toList.drop 0 = dktX4_isStep_0 := by decide +kernel
theorem dX4_isStep_0 : decode cX4_isStep 0 = .ok (.iload_n 0, 1) := dk_26 (dk_at dksX4_isStep_0 0 rfl rfl)
theorem dX4_isStep_1 : decode cX4_isStep 1 = .ok (.i2l, 1) := dk_133 (dk_at dksX4_isStep_0 1 rfl rfl)
theorem dX4_isStep_2 : decode cX4_isStep 2 = .ok (.lconst 0, 1) := dk_9 (dk_at dksX4_isStep_0 2 rfl rfl)
theorem dX4_isStep_3 : decode cX4_isStep 3 = .ok (.ldc2_w 439, 3) := dk_20 1 183 (dk_at dksX4_isStep_0 3 rfl rfl)
theorem dX4_isStep_6 : decode cX4_isStep 6 = .ok (.invokestatic 52, 3) := dk_184 0 52 (dk_at dksX4_isStep_0 6 rfl rfl)
theorem dX4_isStep_9 : decode cX4_isStep 9 = .ok (.ireturn, 1) := dk_172 (dk_at dksX4_isStep_0 9 rfl rfl)
abbrev cX4_findLaws : ByteArray := prog_9_method_68_code
def yX4_findLaws : MethodName := ⟨RX4, "findLaws", "()V"⟩
def dkwX4_findLaws_5 : List UInt8 := [132, 1, 1, 167, 255, 150, 177]
abbrev dktX4_findLaws_5 : List UInt8 := dkwX4_findLaws_5 ++ []
def dkwX4_findLaws_4 : List UInt8 := [42, 180, 1, 1, 28, 27, 16, 21, 108, 27, 16, 21, 112, 182, 1, 127, 132, 2, 1, 167, 255, 198]
abbrev dktX4_findLaws_4 : List UInt8 := dkwX4_findLaws_4 ++ dktX4_findLaws_5
def dkwX4_findLaws_3 : List UInt8 := [96, 42, 180, 0, 254, 42, 180, 1, 41, 184, 1, 95, 79, 28, 16, 40, 162, 0, 24, 42, 42, 180, 0, 254]
abbrev dktX4_findLaws_3 : List UInt8 := dkwX4_findLaws_3 ++ dktX4_findLaws_4
def dkwX4_findLaws_2 : List UInt8 := [79, 132, 2, 1, 167, 255, 228, 3, 61, 28, 16, 40, 163, 0, 58, 42, 180, 0, 251, 16, 41, 27, 104, 28]
abbrev dktX4_findLaws_2 : List UInt8 := dkwX4_findLaws_2 ++ dktX4_findLaws_3
def dkwX4_findLaws_1 : List UInt8 := [28, 42, 180, 1, 41, 162, 0, 26, 42, 180, 0, 254, 28, 42, 180, 0, 183, 79, 42, 180, 1, 1, 28, 3]
abbrev dktX4_findLaws_1 : List UInt8 := dkwX4_findLaws_1 ++ dktX4_findLaws_2
def dkwX4_findLaws_0 : List UInt8 := [42, 180, 1, 56, 153, 0, 4, 177, 42, 4, 181, 1, 56, 3, 60, 27, 17, 1, 185, 162, 0, 105, 3, 61]
abbrev dktX4_findLaws_0 : List UInt8 := dkwX4_findLaws_0 ++ dktX4_findLaws_1
theorem dksX4_findLaws_0 : cX4_findLaws.data.toList.drop 0 = dktX4_findLaws_0 := by decide +kernel
theorem dksX4_findLaws_1 : cX4_findLaws.data.toList.drop 24 = dktX4_findLaws_1 := dk_seg dksX4_findLaws_0 24 rfl rfl
theorem dksX4_findLaws_2 : cX4_findLaws.data.toList.drop 48 = dktX4_findLaws_2 := dk_seg dksX4_findLaws_1 24 rfl rfl
theorem dksX4_findLaws_3 : cX4_findLaws.data.toList.drop 72 = dktX4_findLaws_3 := dk_seg dksX4_findLaws_2 24 rfl rfl
theorem dksX4_findLaws_4 : cX4_findLaws.data.toList.drop 96 = dktX4_findLaws_4 := dk_seg dksX4_findLaws_3 24 rfl rfl
theorem dksX4_findLaws_5 : cX4_findLaws.data.toList.drop 118 = dktX4_findLaws_5 := dk_seg dksX4_findLaws_4 22 rfl rfl
theorem dX4_findLaws_0 : decode cX4_findLaws 0 = .ok (.aload_n 0, 1) := dk_42 (dk_at dksX4_findLaws_0 0 rfl rfl)
theorem dX4_findLaws_1 : decode cX4_findLaws 1 = .ok (.getfield 312, 3) := dk_180 1 56 (dk_at dksX4_findLaws_0 1 rfl rfl)
theorem dX4_findLaws_4 : decode cX4_findLaws 4 = .ok (.ifCond .eq 4, 3) := dk_153 0 4 (dk_at dksX4_findLaws_0 4 rfl rfl)
theorem dX4_findLaws_7 : decode cX4_findLaws 7 = .ok (.return_, 1) := dk_177 (dk_at dksX4_findLaws_0 7 rfl rfl)
theorem dX4_findLaws_8 : decode cX4_findLaws 8 = .ok (.aload_n 0, 1) := dk_42 (dk_at dksX4_findLaws_0 8 rfl rfl)
theorem dX4_findLaws_9 : decode cX4_findLaws 9 = .ok (.iconst 1, 1) := dk_4 (dk_at dksX4_findLaws_0 9 rfl rfl)
theorem dX4_findLaws_10 : decode cX4_findLaws 10 = .ok (.putfield 312, 3) := dk_181 1 56 (dk_at dksX4_findLaws_0 10 rfl rfl)
theorem dX4_findLaws_13 : decode cX4_findLaws 13 = .ok (.iconst 0, 1) := dk_3 (dk_at dksX4_findLaws_0 13 rfl rfl)
theorem dX4_findLaws_14 : decode cX4_findLaws 14 = .ok (.istore_n 1, 1) := dk_60 (dk_at dksX4_findLaws_0 14 rfl rfl)
theorem dX4_findLaws_15 : decode cX4_findLaws 15 = .ok (.iload_n 1, 1) := dk_27 (dk_at dksX4_findLaws_0 15 rfl rfl)
theorem dX4_findLaws_16 : decode cX4_findLaws 16 = .ok (.sipush 441, 3) := dk_17 1 185 (dk_at dksX4_findLaws_0 16 rfl rfl)
theorem dX4_findLaws_19 : decode cX4_findLaws 19 = .ok (.if_icmp .ge 105, 3) := dk_162 0 105 (dk_at dksX4_findLaws_0 19 rfl rfl)
theorem dX4_findLaws_22 : decode cX4_findLaws 22 = .ok (.iconst 0, 1) := dk_3 (dk_at dksX4_findLaws_0 22 rfl rfl)
theorem dX4_findLaws_23 : decode cX4_findLaws 23 = .ok (.istore_n 2, 1) := dk_61 (dk_at dksX4_findLaws_0 23 rfl rfl)
theorem dX4_findLaws_24 : decode cX4_findLaws 24 = .ok (.iload_n 2, 1) := dk_28 (dk_at dksX4_findLaws_1 0 rfl rfl)
theorem dX4_findLaws_25 : decode cX4_findLaws 25 = .ok (.aload_n 0, 1) := dk_42 (dk_at dksX4_findLaws_1 1 rfl rfl)
theorem dX4_findLaws_26 : decode cX4_findLaws 26 = .ok (.getfield 297, 3) := dk_180 1 41 (dk_at dksX4_findLaws_1 2 rfl rfl)
theorem dX4_findLaws_29 : decode cX4_findLaws 29 = .ok (.if_icmp .ge 26, 3) := dk_162 0 26 (dk_at dksX4_findLaws_1 5 rfl rfl)
theorem dX4_findLaws_32 : decode cX4_findLaws 32 = .ok (.aload_n 0, 1) := dk_42 (dk_at dksX4_findLaws_1 8 rfl rfl)
theorem dX4_findLaws_33 : decode cX4_findLaws 33 = .ok (.getfield 254, 3) := dk_180 0 254 (dk_at dksX4_findLaws_1 9 rfl rfl)
theorem dX4_findLaws_36 : decode cX4_findLaws 36 = .ok (.iload_n 2, 1) := dk_28 (dk_at dksX4_findLaws_1 12 rfl rfl)
theorem dX4_findLaws_37 : decode cX4_findLaws 37 = .ok (.aload_n 0, 1) := dk_42 (dk_at dksX4_findLaws_1 13 rfl rfl)
theorem dX4_findLaws_38 : decode cX4_findLaws 38 = .ok (.getfield 183, 3) := dk_180 0 183 (dk_at dksX4_findLaws_1 14 rfl rfl)
theorem dX4_findLaws_41 : decode cX4_findLaws 41 = .ok (.iastore, 1) := dk_79 (dk_at dksX4_findLaws_1 17 rfl rfl)
theorem dX4_findLaws_42 : decode cX4_findLaws 42 = .ok (.aload_n 0, 1) := dk_42 (dk_at dksX4_findLaws_1 18 rfl rfl)
theorem dX4_findLaws_43 : decode cX4_findLaws 43 = .ok (.getfield 257, 3) := dk_180 1 1 (dk_at dksX4_findLaws_1 19 rfl rfl)
theorem dX4_findLaws_46 : decode cX4_findLaws 46 = .ok (.iload_n 2, 1) := dk_28 (dk_at dksX4_findLaws_1 22 rfl rfl)
theorem dX4_findLaws_47 : decode cX4_findLaws 47 = .ok (.iconst 0, 1) := dk_3 (dk_at dksX4_findLaws_1 23 rfl rfl)
theorem dX4_findLaws_48 : decode cX4_findLaws 48 = .ok (.iastore, 1) := dk_79 (dk_at dksX4_findLaws_2 0 rfl rfl)
theorem dX4_findLaws_49 : decode cX4_findLaws 49 = .ok (.iinc 2 1, 3) := dk_132 2 1 (dk_at dksX4_findLaws_2 1 rfl rfl)
theorem dX4_findLaws_52 : decode cX4_findLaws 52 = .ok (.goto (-28), 3) := dk_167 255 228 (dk_at dksX4_findLaws_2 4 rfl rfl)
theorem dX4_findLaws_55 : decode cX4_findLaws 55 = .ok (.iconst 0, 1) := dk_3 (dk_at dksX4_findLaws_2 7 rfl rfl)
theorem dX4_findLaws_56 : decode cX4_findLaws 56 = .ok (.istore_n 2, 1) := dk_61 (dk_at dksX4_findLaws_2 8 rfl rfl)
theorem dX4_findLaws_57 : decode cX4_findLaws 57 = .ok (.iload_n 2, 1) := dk_28 (dk_at dksX4_findLaws_2 9 rfl rfl)
theorem dX4_findLaws_58 : decode cX4_findLaws 58 = .ok (.bipush 40, 2) := dk_16 40 (dk_at dksX4_findLaws_2 10 rfl rfl)
theorem dX4_findLaws_60 : decode cX4_findLaws 60 = .ok (.if_icmp .gt 58, 3) := dk_163 0 58 (dk_at dksX4_findLaws_2 12 rfl rfl)
theorem dX4_findLaws_63 : decode cX4_findLaws 63 = .ok (.aload_n 0, 1) := dk_42 (dk_at dksX4_findLaws_2 15 rfl rfl)
theorem dX4_findLaws_64 : decode cX4_findLaws 64 = .ok (.getfield 251, 3) := dk_180 0 251 (dk_at dksX4_findLaws_2 16 rfl rfl)
theorem dX4_findLaws_67 : decode cX4_findLaws 67 = .ok (.bipush 41, 2) := dk_16 41 (dk_at dksX4_findLaws_2 19 rfl rfl)
theorem dX4_findLaws_69 : decode cX4_findLaws 69 = .ok (.iload_n 1, 1) := dk_27 (dk_at dksX4_findLaws_2 21 rfl rfl)
theorem dX4_findLaws_70 : decode cX4_findLaws 70 = .ok (.imul, 1) := dk_104 (dk_at dksX4_findLaws_2 22 rfl rfl)
theorem dX4_findLaws_71 : decode cX4_findLaws 71 = .ok (.iload_n 2, 1) := dk_28 (dk_at dksX4_findLaws_2 23 rfl rfl)
theorem dX4_findLaws_72 : decode cX4_findLaws 72 = .ok (.iadd, 1) := dk_96 (dk_at dksX4_findLaws_3 0 rfl rfl)
theorem dX4_findLaws_73 : decode cX4_findLaws 73 = .ok (.aload_n 0, 1) := dk_42 (dk_at dksX4_findLaws_3 1 rfl rfl)
theorem dX4_findLaws_74 : decode cX4_findLaws 74 = .ok (.getfield 254, 3) := dk_180 0 254 (dk_at dksX4_findLaws_3 2 rfl rfl)
theorem dX4_findLaws_77 : decode cX4_findLaws 77 = .ok (.aload_n 0, 1) := dk_42 (dk_at dksX4_findLaws_3 5 rfl rfl)
theorem dX4_findLaws_78 : decode cX4_findLaws 78 = .ok (.getfield 297, 3) := dk_180 1 41 (dk_at dksX4_findLaws_3 6 rfl rfl)
theorem dX4_findLaws_81 : decode cX4_findLaws 81 = .ok (.invokestatic 351, 3) := dk_184 1 95 (dk_at dksX4_findLaws_3 9 rfl rfl)
theorem dX4_findLaws_84 : decode cX4_findLaws 84 = .ok (.iastore, 1) := dk_79 (dk_at dksX4_findLaws_3 12 rfl rfl)
theorem dX4_findLaws_85 : decode cX4_findLaws 85 = .ok (.iload_n 2, 1) := dk_28 (dk_at dksX4_findLaws_3 13 rfl rfl)
theorem dX4_findLaws_86 : decode cX4_findLaws 86 = .ok (.bipush 40, 2) := dk_16 40 (dk_at dksX4_findLaws_3 14 rfl rfl)
theorem dX4_findLaws_88 : decode cX4_findLaws 88 = .ok (.if_icmp .ge 24, 3) := dk_162 0 24 (dk_at dksX4_findLaws_3 16 rfl rfl)
theorem dX4_findLaws_91 : decode cX4_findLaws 91 = .ok (.aload_n 0, 1) := dk_42 (dk_at dksX4_findLaws_3 19 rfl rfl)
theorem dX4_findLaws_92 : decode cX4_findLaws 92 = .ok (.aload_n 0, 1) := dk_42 (dk_at dksX4_findLaws_3 20 rfl rfl)
theorem dX4_findLaws_93 : decode cX4_findLaws 93 = .ok (.getfield 254, 3) := dk_180 0 254 (dk_at dksX4_findLaws_3 21 rfl rfl)
theorem dX4_findLaws_96 : decode cX4_findLaws 96 = .ok (.aload_n 0, 1) := dk_42 (dk_at dksX4_findLaws_4 0 rfl rfl)
theorem dX4_findLaws_97 : decode cX4_findLaws 97 = .ok (.getfield 257, 3) := dk_180 1 1 (dk_at dksX4_findLaws_4 1 rfl rfl)
theorem dX4_findLaws_100 : decode cX4_findLaws 100 = .ok (.iload_n 2, 1) := dk_28 (dk_at dksX4_findLaws_4 4 rfl rfl)
theorem dX4_findLaws_101 : decode cX4_findLaws 101 = .ok (.iload_n 1, 1) := dk_27 (dk_at dksX4_findLaws_4 5 rfl rfl)
theorem dX4_findLaws_102 : decode cX4_findLaws 102 = .ok (.bipush 21, 2) := dk_16 21 (dk_at dksX4_findLaws_4 6 rfl rfl)
theorem dX4_findLaws_104 : decode cX4_findLaws 104 = .ok (.idiv, 1) := dk_108 (dk_at dksX4_findLaws_4 8 rfl rfl)
theorem dX4_findLaws_105 : decode cX4_findLaws 105 = .ok (.iload_n 1, 1) := dk_27 (dk_at dksX4_findLaws_4 9 rfl rfl)
theorem dX4_findLaws_106 : decode cX4_findLaws 106 = .ok (.bipush 21, 2) := dk_16 21 (dk_at dksX4_findLaws_4 10 rfl rfl)
theorem dX4_findLaws_108 : decode cX4_findLaws 108 = .ok (.irem, 1) := dk_112 (dk_at dksX4_findLaws_4 12 rfl rfl)
theorem dX4_findLaws_109 : decode cX4_findLaws 109 = .ok (.invokevirtual 383, 3) := dk_182 1 127 (dk_at dksX4_findLaws_4 13 rfl rfl)
theorem dX4_findLaws_112 : decode cX4_findLaws 112 = .ok (.iinc 2 1, 3) := dk_132 2 1 (dk_at dksX4_findLaws_4 16 rfl rfl)
theorem dX4_findLaws_115 : decode cX4_findLaws 115 = .ok (.goto (-58), 3) := dk_167 255 198 (dk_at dksX4_findLaws_4 19 rfl rfl)
theorem dX4_findLaws_118 : decode cX4_findLaws 118 = .ok (.iinc 1 1, 3) := dk_132 1 1 (dk_at dksX4_findLaws_5 0 rfl rfl)
theorem dX4_findLaws_121 : decode cX4_findLaws 121 = .ok (.goto (-106), 3) := dk_167 255 150 (dk_at dksX4_findLaws_5 3 rfl rfl)
theorem dX4_findLaws_124 : decode cX4_findLaws 124 = .ok (.return_, 1) := dk_177 (dk_at dksX4_findLaws_5 6 rfl rfl)
abbrev cX4_fits : ByteArray := prog_9_method_74_code
def yX4_fits : MethodName := ⟨RX4, "fits", "(II)Z"⟩
def dkwX4_fits_2 : List UInt8 := [167, 255, 213, 4, 172]
abbrev dktX4_fits_2 : List UInt8 := dkwX4_fits_2 ++ []
def dkwX4_fits_1 : List UInt8 := [180, 1, 4, 29, 46, 182, 1, 188, 42, 29, 28, 182, 1, 191, 159, 0, 5, 3, 172, 132, 3, 1]
abbrev dktX4_fits_1 : List UInt8 := dkwX4_fits_1 ++ dktX4_fits_2
def dkwX4_fits_0 : List UInt8 := [3, 62, 29, 42, 180, 1, 59, 162, 0, 41, 42, 180, 1, 10, 29, 46, 28, 163, 0, 25, 42, 27, 42]
abbrev dktX4_fits_0 : List UInt8 := dkwX4_fits_0 ++ dktX4_fits_1
theorem dksX4_fits_0 : cX4_fits.data.toList.drop 0 = dktX4_fits_0 := by decide +kernel
theorem dksX4_fits_1 : cX4_fits.data.toList.drop 23 = dktX4_fits_1 := dk_seg dksX4_fits_0 23 rfl rfl
theorem dksX4_fits_2 : cX4_fits.data.toList.drop 45 = dktX4_fits_2 := dk_seg dksX4_fits_1 22 rfl rfl
theorem dX4_fits_0 : decode cX4_fits 0 = .ok (.iconst 0, 1) := dk_3 (dk_at dksX4_fits_0 0 rfl rfl)
theorem dX4_fits_1 : decode cX4_fits 1 = .ok (.istore_n 3, 1) := dk_62 (dk_at dksX4_fits_0 1 rfl rfl)
theorem dX4_fits_2 : decode cX4_fits 2 = .ok (.iload_n 3, 1) := dk_29 (dk_at dksX4_fits_0 2 rfl rfl)
theorem dX4_fits_3 : decode cX4_fits 3 = .ok (.aload_n 0, 1) := dk_42 (dk_at dksX4_fits_0 3 rfl rfl)
theorem dX4_fits_4 : decode cX4_fits 4 = .ok (.getfield 315, 3) := dk_180 1 59 (dk_at dksX4_fits_0 4 rfl rfl)
theorem dX4_fits_7 : decode cX4_fits 7 = .ok (.if_icmp .ge 41, 3) := dk_162 0 41 (dk_at dksX4_fits_0 7 rfl rfl)
theorem dX4_fits_10 : decode cX4_fits 10 = .ok (.aload_n 0, 1) := dk_42 (dk_at dksX4_fits_0 10 rfl rfl)
theorem dX4_fits_11 : decode cX4_fits 11 = .ok (.getfield 266, 3) := dk_180 1 10 (dk_at dksX4_fits_0 11 rfl rfl)
theorem dX4_fits_14 : decode cX4_fits 14 = .ok (.iload_n 3, 1) := dk_29 (dk_at dksX4_fits_0 14 rfl rfl)
theorem dX4_fits_15 : decode cX4_fits 15 = .ok (.iaload, 1) := dk_46 (dk_at dksX4_fits_0 15 rfl rfl)
theorem dX4_fits_16 : decode cX4_fits 16 = .ok (.iload_n 2, 1) := dk_28 (dk_at dksX4_fits_0 16 rfl rfl)
theorem dX4_fits_17 : decode cX4_fits 17 = .ok (.if_icmp .gt 25, 3) := dk_163 0 25 (dk_at dksX4_fits_0 17 rfl rfl)
theorem dX4_fits_20 : decode cX4_fits 20 = .ok (.aload_n 0, 1) := dk_42 (dk_at dksX4_fits_0 20 rfl rfl)
theorem dX4_fits_21 : decode cX4_fits 21 = .ok (.iload_n 1, 1) := dk_27 (dk_at dksX4_fits_0 21 rfl rfl)
theorem dX4_fits_22 : decode cX4_fits 22 = .ok (.aload_n 0, 1) := dk_42 (dk_at dksX4_fits_0 22 rfl rfl)
theorem dX4_fits_23 : decode cX4_fits 23 = .ok (.getfield 260, 3) := dk_180 1 4 (dk_at dksX4_fits_1 0 rfl rfl)
theorem dX4_fits_26 : decode cX4_fits 26 = .ok (.iload_n 3, 1) := dk_29 (dk_at dksX4_fits_1 3 rfl rfl)
theorem dX4_fits_27 : decode cX4_fits 27 = .ok (.iaload, 1) := dk_46 (dk_at dksX4_fits_1 4 rfl rfl)
theorem dX4_fits_28 : decode cX4_fits 28 = .ok (.invokevirtual 444, 3) := dk_182 1 188 (dk_at dksX4_fits_1 5 rfl rfl)
theorem dX4_fits_31 : decode cX4_fits 31 = .ok (.aload_n 0, 1) := dk_42 (dk_at dksX4_fits_1 8 rfl rfl)
theorem dX4_fits_32 : decode cX4_fits 32 = .ok (.iload_n 3, 1) := dk_29 (dk_at dksX4_fits_1 9 rfl rfl)
theorem dX4_fits_33 : decode cX4_fits 33 = .ok (.iload_n 2, 1) := dk_28 (dk_at dksX4_fits_1 10 rfl rfl)
theorem dX4_fits_34 : decode cX4_fits 34 = .ok (.invokevirtual 447, 3) := dk_182 1 191 (dk_at dksX4_fits_1 11 rfl rfl)
theorem dX4_fits_37 : decode cX4_fits 37 = .ok (.if_icmp .eq 5, 3) := dk_159 0 5 (dk_at dksX4_fits_1 14 rfl rfl)
theorem dX4_fits_40 : decode cX4_fits 40 = .ok (.iconst 0, 1) := dk_3 (dk_at dksX4_fits_1 17 rfl rfl)
theorem dX4_fits_41 : decode cX4_fits 41 = .ok (.ireturn, 1) := dk_172 (dk_at dksX4_fits_1 18 rfl rfl)
theorem dX4_fits_42 : decode cX4_fits 42 = .ok (.iinc 3 1, 3) := dk_132 3 1 (dk_at dksX4_fits_1 19 rfl rfl)
theorem dX4_fits_45 : decode cX4_fits 45 = .ok (.goto (-43), 3) := dk_167 255 213 (dk_at dksX4_fits_2 0 rfl rfl)
theorem dX4_fits_48 : decode cX4_fits 48 = .ok (.iconst 1, 1) := dk_4 (dk_at dksX4_fits_2 3 rfl rfl)
theorem dX4_fits_49 : decode cX4_fits 49 = .ok (.ireturn, 1) := dk_172 (dk_at dksX4_fits_2 4 rfl rfl)
abbrev cX4_ownAt : ByteArray := prog_9_method_69_code
def yX4_ownAt : MethodName := ⟨RX4, "ownAt", "(II)I"⟩
def dkwX4_ownAt_0 : List UInt8 := [42, 180, 0, 251, 16, 41, 27, 104, 28, 96, 46, 172]
abbrev dktX4_ownAt_0 : List UInt8 := dkwX4_ownAt_0 ++ []
theorem dksX4_ownAt_0 : cX4_ownAt.data.toList.drop 0 = dktX4_ownAt_0 := by decide +kernel
theorem dX4_ownAt_0 : decode cX4_ownAt 0 = .ok (.aload_n 0, 1) := dk_42 (dk_at dksX4_ownAt_0 0 rfl rfl)
theorem dX4_ownAt_1 : decode cX4_ownAt 1 = .ok (.getfield 251, 3) := dk_180 0 251 (dk_at dksX4_ownAt_0 1 rfl rfl)
theorem dX4_ownAt_4 : decode cX4_ownAt 4 = .ok (.bipush 41, 2) := dk_16 41 (dk_at dksX4_ownAt_0 4 rfl rfl)
theorem dX4_ownAt_6 : decode cX4_ownAt 6 = .ok (.iload_n 1, 1) := dk_27 (dk_at dksX4_ownAt_0 6 rfl rfl)
theorem dX4_ownAt_7 : decode cX4_ownAt 7 = .ok (.imul, 1) := dk_104 (dk_at dksX4_ownAt_0 7 rfl rfl)
theorem dX4_ownAt_8 : decode cX4_ownAt 8 = .ok (.iload_n 2, 1) := dk_28 (dk_at dksX4_ownAt_0 8 rfl rfl)
theorem dX4_ownAt_9 : decode cX4_ownAt 9 = .ok (.iadd, 1) := dk_96 (dk_at dksX4_ownAt_0 9 rfl rfl)
theorem dX4_ownAt_10 : decode cX4_ownAt 10 = .ok (.iaload, 1) := dk_46 (dk_at dksX4_ownAt_0 10 rfl rfl)
theorem dX4_ownAt_11 : decode cX4_ownAt 11 = .ok (.ireturn, 1) := dk_172 (dk_at dksX4_ownAt_0 11 rfl rfl)
abbrev cX4_netAsKnown : ByteArray := prog_9_method_73_code
def yX4_netAsKnown : MethodName := ⟨RX4, "netAsKnown", "(II)I"⟩
def dkwX4_netAsKnown_2 : List UInt8 := [46, 62, 132, 4, 1, 167, 255, 214, 29, 172]
abbrev dktX4_netAsKnown_2 : List UInt8 := dkwX4_netAsKnown_2 ++ []
def dkwX4_netAsKnown_1 : List UInt8 := [21, 4, 46, 27, 160, 0, 22, 42, 180, 1, 19, 21, 4, 46, 28, 163, 0, 11, 42, 180, 1, 16, 21, 4]
abbrev dktX4_netAsKnown_1 : List UInt8 := dkwX4_netAsKnown_1 ++ dktX4_netAsKnown_2
def dkwX4_netAsKnown_0 : List UInt8 := [42, 180, 1, 7, 27, 46, 62, 3, 54, 4, 21, 4, 42, 180, 1, 62, 162, 0, 39, 42, 180, 1, 13]
abbrev dktX4_netAsKnown_0 : List UInt8 := dkwX4_netAsKnown_0 ++ dktX4_netAsKnown_1
theorem dksX4_netAsKnown_0 : cX4_netAsKnown.data.toList.drop 0 = dktX4_netAsKnown_0 := by decide +kernel
theorem dksX4_netAsKnown_1 : cX4_netAsKnown.data.toList.drop 23 = dktX4_netAsKnown_1 := dk_seg dksX4_netAsKnown_0 23 rfl rfl
theorem dksX4_netAsKnown_2 : cX4_netAsKnown.data.toList.drop 47 = dktX4_netAsKnown_2 := dk_seg dksX4_netAsKnown_1 24 rfl rfl
theorem dX4_netAsKnown_0 : decode cX4_netAsKnown 0 = .ok (.aload_n 0, 1) := dk_42 (dk_at dksX4_netAsKnown_0 0 rfl rfl)
theorem dX4_netAsKnown_1 : decode cX4_netAsKnown 1 = .ok (.getfield 263, 3) := dk_180 1 7 (dk_at dksX4_netAsKnown_0 1 rfl rfl)
theorem dX4_netAsKnown_4 : decode cX4_netAsKnown 4 = .ok (.iload_n 1, 1) := dk_27 (dk_at dksX4_netAsKnown_0 4 rfl rfl)
theorem dX4_netAsKnown_5 : decode cX4_netAsKnown 5 = .ok (.iaload, 1) := dk_46 (dk_at dksX4_netAsKnown_0 5 rfl rfl)
theorem dX4_netAsKnown_6 : decode cX4_netAsKnown 6 = .ok (.istore_n 3, 1) := dk_62 (dk_at dksX4_netAsKnown_0 6 rfl rfl)
theorem dX4_netAsKnown_7 : decode cX4_netAsKnown 7 = .ok (.iconst 0, 1) := dk_3 (dk_at dksX4_netAsKnown_0 7 rfl rfl)
theorem dX4_netAsKnown_8 : decode cX4_netAsKnown 8 = .ok (.istore 4, 2) := dk_54 4 (dk_at dksX4_netAsKnown_0 8 rfl rfl)
theorem dX4_netAsKnown_10 : decode cX4_netAsKnown 10 = .ok (.iload 4, 2) := dk_21 4 (dk_at dksX4_netAsKnown_0 10 rfl rfl)
theorem dX4_netAsKnown_12 : decode cX4_netAsKnown 12 = .ok (.aload_n 0, 1) := dk_42 (dk_at dksX4_netAsKnown_0 12 rfl rfl)
theorem dX4_netAsKnown_13 : decode cX4_netAsKnown 13 = .ok (.getfield 318, 3) := dk_180 1 62 (dk_at dksX4_netAsKnown_0 13 rfl rfl)
theorem dX4_netAsKnown_16 : decode cX4_netAsKnown 16 = .ok (.if_icmp .ge 39, 3) := dk_162 0 39 (dk_at dksX4_netAsKnown_0 16 rfl rfl)
theorem dX4_netAsKnown_19 : decode cX4_netAsKnown 19 = .ok (.aload_n 0, 1) := dk_42 (dk_at dksX4_netAsKnown_0 19 rfl rfl)
theorem dX4_netAsKnown_20 : decode cX4_netAsKnown 20 = .ok (.getfield 269, 3) := dk_180 1 13 (dk_at dksX4_netAsKnown_0 20 rfl rfl)
theorem dX4_netAsKnown_23 : decode cX4_netAsKnown 23 = .ok (.iload 4, 2) := dk_21 4 (dk_at dksX4_netAsKnown_1 0 rfl rfl)
theorem dX4_netAsKnown_25 : decode cX4_netAsKnown 25 = .ok (.iaload, 1) := dk_46 (dk_at dksX4_netAsKnown_1 2 rfl rfl)
theorem dX4_netAsKnown_26 : decode cX4_netAsKnown 26 = .ok (.iload_n 1, 1) := dk_27 (dk_at dksX4_netAsKnown_1 3 rfl rfl)
theorem dX4_netAsKnown_27 : decode cX4_netAsKnown 27 = .ok (.if_icmp .ne 22, 3) := dk_160 0 22 (dk_at dksX4_netAsKnown_1 4 rfl rfl)
theorem dX4_netAsKnown_30 : decode cX4_netAsKnown 30 = .ok (.aload_n 0, 1) := dk_42 (dk_at dksX4_netAsKnown_1 7 rfl rfl)
theorem dX4_netAsKnown_31 : decode cX4_netAsKnown 31 = .ok (.getfield 275, 3) := dk_180 1 19 (dk_at dksX4_netAsKnown_1 8 rfl rfl)
theorem dX4_netAsKnown_34 : decode cX4_netAsKnown 34 = .ok (.iload 4, 2) := dk_21 4 (dk_at dksX4_netAsKnown_1 11 rfl rfl)
theorem dX4_netAsKnown_36 : decode cX4_netAsKnown 36 = .ok (.iaload, 1) := dk_46 (dk_at dksX4_netAsKnown_1 13 rfl rfl)
theorem dX4_netAsKnown_37 : decode cX4_netAsKnown 37 = .ok (.iload_n 2, 1) := dk_28 (dk_at dksX4_netAsKnown_1 14 rfl rfl)
theorem dX4_netAsKnown_38 : decode cX4_netAsKnown 38 = .ok (.if_icmp .gt 11, 3) := dk_163 0 11 (dk_at dksX4_netAsKnown_1 15 rfl rfl)
theorem dX4_netAsKnown_41 : decode cX4_netAsKnown 41 = .ok (.aload_n 0, 1) := dk_42 (dk_at dksX4_netAsKnown_1 18 rfl rfl)
theorem dX4_netAsKnown_42 : decode cX4_netAsKnown 42 = .ok (.getfield 272, 3) := dk_180 1 16 (dk_at dksX4_netAsKnown_1 19 rfl rfl)
theorem dX4_netAsKnown_45 : decode cX4_netAsKnown 45 = .ok (.iload 4, 2) := dk_21 4 (dk_at dksX4_netAsKnown_1 22 rfl rfl)
theorem dX4_netAsKnown_47 : decode cX4_netAsKnown 47 = .ok (.iaload, 1) := dk_46 (dk_at dksX4_netAsKnown_2 0 rfl rfl)
theorem dX4_netAsKnown_48 : decode cX4_netAsKnown 48 = .ok (.istore_n 3, 1) := dk_62 (dk_at dksX4_netAsKnown_2 1 rfl rfl)
theorem dX4_netAsKnown_49 : decode cX4_netAsKnown 49 = .ok (.iinc 4 1, 3) := dk_132 4 1 (dk_at dksX4_netAsKnown_2 2 rfl rfl)
theorem dX4_netAsKnown_52 : decode cX4_netAsKnown 52 = .ok (.goto (-42), 3) := dk_167 255 214 (dk_at dksX4_netAsKnown_2 5 rfl rfl)
theorem dX4_netAsKnown_55 : decode cX4_netAsKnown 55 = .ok (.iload_n 3, 1) := dk_29 (dk_at dksX4_netAsKnown_2 8 rfl rfl)
theorem dX4_netAsKnown_56 : decode cX4_netAsKnown 56 = .ok (.ireturn, 1) := dk_172 (dk_at dksX4_netAsKnown_2 9 rfl rfl)
abbrev cX4_surely : ByteArray := prog_9_method_77_code
def yX4_surely : MethodName := ⟨RX4, "surely", "(III)I"⟩
def dkwX4_surely_4 : List UInt8 := [21, 4, 160, 0, 7, 4, 167, 0, 13, 21, 5, 154, 0, 7, 3, 167, 0, 4, 5, 172]
abbrev dktX4_surely_4 : List UInt8 := dkwX4_surely_4 ++ []
def dkwX4_surely_3 : List UInt8 := [27, 122, 4, 126, 96, 54, 5, 132, 6, 1, 167, 255, 213, 21, 4, 154, 0, 7, 2, 167, 0, 24, 21, 5]
abbrev dktX4_surely_3 : List UInt8 := dkwX4_surely_3 ++ dktX4_surely_4
def dkwX4_surely_2 : List UInt8 := [21, 6, 29, 182, 1, 200, 154, 0, 6, 167, 0, 22, 132, 4, 1, 21, 5, 42, 21, 6, 28, 182, 1, 188]
abbrev dktX4_surely_2 : List UInt8 := dkwX4_surely_2 ++ dktX4_surely_3
def dkwX4_surely_1 : List UInt8 := [172, 42, 182, 1, 197, 3, 54, 4, 3, 54, 5, 3, 54, 6, 21, 6, 17, 1, 185, 162, 0, 41, 42]
abbrev dktX4_surely_1 : List UInt8 := dkwX4_surely_1 ++ dktX4_surely_2
def dkwX4_surely_0 : List UInt8 := [42, 27, 182, 1, 109, 153, 0, 17, 28, 184, 1, 185, 153, 0, 10, 29, 184, 1, 194, 154, 0, 6, 16, 254]
abbrev dktX4_surely_0 : List UInt8 := dkwX4_surely_0 ++ dktX4_surely_1
theorem dksX4_surely_0 : cX4_surely.data.toList.drop 0 = dktX4_surely_0 := by decide +kernel
theorem dksX4_surely_1 : cX4_surely.data.toList.drop 24 = dktX4_surely_1 := dk_seg dksX4_surely_0 24 rfl rfl
theorem dksX4_surely_2 : cX4_surely.data.toList.drop 47 = dktX4_surely_2 := dk_seg dksX4_surely_1 23 rfl rfl
theorem dksX4_surely_3 : cX4_surely.data.toList.drop 71 = dktX4_surely_3 := dk_seg dksX4_surely_2 24 rfl rfl
theorem dksX4_surely_4 : cX4_surely.data.toList.drop 95 = dktX4_surely_4 := dk_seg dksX4_surely_3 24 rfl rfl
theorem dX4_surely_0 : decode cX4_surely 0 = .ok (.aload_n 0, 1) := dk_42 (dk_at dksX4_surely_0 0 rfl rfl)
theorem dX4_surely_1 : decode cX4_surely 1 = .ok (.iload_n 1, 1) := dk_27 (dk_at dksX4_surely_0 1 rfl rfl)
theorem dX4_surely_2 : decode cX4_surely 2 = .ok (.invokevirtual 365, 3) := dk_182 1 109 (dk_at dksX4_surely_0 2 rfl rfl)
theorem dX4_surely_5 : decode cX4_surely 5 = .ok (.ifCond .eq 17, 3) := dk_153 0 17 (dk_at dksX4_surely_0 5 rfl rfl)
theorem dX4_surely_8 : decode cX4_surely 8 = .ok (.iload_n 2, 1) := dk_28 (dk_at dksX4_surely_0 8 rfl rfl)
theorem dX4_surely_9 : decode cX4_surely 9 = .ok (.invokestatic 441, 3) := dk_184 1 185 (dk_at dksX4_surely_0 9 rfl rfl)
theorem dX4_surely_12 : decode cX4_surely 12 = .ok (.ifCond .eq 10, 3) := dk_153 0 10 (dk_at dksX4_surely_0 12 rfl rfl)
theorem dX4_surely_15 : decode cX4_surely 15 = .ok (.iload_n 3, 1) := dk_29 (dk_at dksX4_surely_0 15 rfl rfl)
theorem dX4_surely_16 : decode cX4_surely 16 = .ok (.invokestatic 450, 3) := dk_184 1 194 (dk_at dksX4_surely_0 16 rfl rfl)
theorem dX4_surely_19 : decode cX4_surely 19 = .ok (.ifCond .ne 6, 3) := dk_154 0 6 (dk_at dksX4_surely_0 19 rfl rfl)
theorem dX4_surely_22 : decode cX4_surely 22 = .ok (.bipush (-2), 2) := dk_16 254 (dk_at dksX4_surely_0 22 rfl rfl)
theorem dX4_surely_24 : decode cX4_surely 24 = .ok (.ireturn, 1) := dk_172 (dk_at dksX4_surely_1 0 rfl rfl)
theorem dX4_surely_25 : decode cX4_surely 25 = .ok (.aload_n 0, 1) := dk_42 (dk_at dksX4_surely_1 1 rfl rfl)
theorem dX4_surely_26 : decode cX4_surely 26 = .ok (.invokevirtual 453, 3) := dk_182 1 197 (dk_at dksX4_surely_1 2 rfl rfl)
theorem dX4_surely_29 : decode cX4_surely 29 = .ok (.iconst 0, 1) := dk_3 (dk_at dksX4_surely_1 5 rfl rfl)
theorem dX4_surely_30 : decode cX4_surely 30 = .ok (.istore 4, 2) := dk_54 4 (dk_at dksX4_surely_1 6 rfl rfl)
theorem dX4_surely_32 : decode cX4_surely 32 = .ok (.iconst 0, 1) := dk_3 (dk_at dksX4_surely_1 8 rfl rfl)
theorem dX4_surely_33 : decode cX4_surely 33 = .ok (.istore 5, 2) := dk_54 5 (dk_at dksX4_surely_1 9 rfl rfl)
theorem dX4_surely_35 : decode cX4_surely 35 = .ok (.iconst 0, 1) := dk_3 (dk_at dksX4_surely_1 11 rfl rfl)
theorem dX4_surely_36 : decode cX4_surely 36 = .ok (.istore 6, 2) := dk_54 6 (dk_at dksX4_surely_1 12 rfl rfl)
theorem dX4_surely_38 : decode cX4_surely 38 = .ok (.iload 6, 2) := dk_21 6 (dk_at dksX4_surely_1 14 rfl rfl)
theorem dX4_surely_40 : decode cX4_surely 40 = .ok (.sipush 441, 3) := dk_17 1 185 (dk_at dksX4_surely_1 16 rfl rfl)
theorem dX4_surely_43 : decode cX4_surely 43 = .ok (.if_icmp .ge 41, 3) := dk_162 0 41 (dk_at dksX4_surely_1 19 rfl rfl)
theorem dX4_surely_46 : decode cX4_surely 46 = .ok (.aload_n 0, 1) := dk_42 (dk_at dksX4_surely_1 22 rfl rfl)
theorem dX4_surely_47 : decode cX4_surely 47 = .ok (.iload 6, 2) := dk_21 6 (dk_at dksX4_surely_2 0 rfl rfl)
theorem dX4_surely_49 : decode cX4_surely 49 = .ok (.iload_n 3, 1) := dk_29 (dk_at dksX4_surely_2 2 rfl rfl)
theorem dX4_surely_50 : decode cX4_surely 50 = .ok (.invokevirtual 456, 3) := dk_182 1 200 (dk_at dksX4_surely_2 3 rfl rfl)
theorem dX4_surely_53 : decode cX4_surely 53 = .ok (.ifCond .ne 6, 3) := dk_154 0 6 (dk_at dksX4_surely_2 6 rfl rfl)
theorem dX4_surely_56 : decode cX4_surely 56 = .ok (.goto 22, 3) := dk_167 0 22 (dk_at dksX4_surely_2 9 rfl rfl)
theorem dX4_surely_59 : decode cX4_surely 59 = .ok (.iinc 4 1, 3) := dk_132 4 1 (dk_at dksX4_surely_2 12 rfl rfl)
theorem dX4_surely_62 : decode cX4_surely 62 = .ok (.iload 5, 2) := dk_21 5 (dk_at dksX4_surely_2 15 rfl rfl)
theorem dX4_surely_64 : decode cX4_surely 64 = .ok (.aload_n 0, 1) := dk_42 (dk_at dksX4_surely_2 17 rfl rfl)
theorem dX4_surely_65 : decode cX4_surely 65 = .ok (.iload 6, 2) := dk_21 6 (dk_at dksX4_surely_2 18 rfl rfl)
theorem dX4_surely_67 : decode cX4_surely 67 = .ok (.iload_n 2, 1) := dk_28 (dk_at dksX4_surely_2 20 rfl rfl)
theorem dX4_surely_68 : decode cX4_surely 68 = .ok (.invokevirtual 444, 3) := dk_182 1 188 (dk_at dksX4_surely_2 21 rfl rfl)
theorem dX4_surely_71 : decode cX4_surely 71 = .ok (.iload_n 1, 1) := dk_27 (dk_at dksX4_surely_3 0 rfl rfl)
theorem dX4_surely_72 : decode cX4_surely 72 = .ok (.ishr, 1) := dk_122 (dk_at dksX4_surely_3 1 rfl rfl)
theorem dX4_surely_73 : decode cX4_surely 73 = .ok (.iconst 1, 1) := dk_4 (dk_at dksX4_surely_3 2 rfl rfl)
theorem dX4_surely_74 : decode cX4_surely 74 = .ok (.iand, 1) := dk_126 (dk_at dksX4_surely_3 3 rfl rfl)
theorem dX4_surely_75 : decode cX4_surely 75 = .ok (.iadd, 1) := dk_96 (dk_at dksX4_surely_3 4 rfl rfl)
theorem dX4_surely_76 : decode cX4_surely 76 = .ok (.istore 5, 2) := dk_54 5 (dk_at dksX4_surely_3 5 rfl rfl)
theorem dX4_surely_78 : decode cX4_surely 78 = .ok (.iinc 6 1, 3) := dk_132 6 1 (dk_at dksX4_surely_3 7 rfl rfl)
theorem dX4_surely_81 : decode cX4_surely 81 = .ok (.goto (-43), 3) := dk_167 255 213 (dk_at dksX4_surely_3 10 rfl rfl)
theorem dX4_surely_84 : decode cX4_surely 84 = .ok (.iload 4, 2) := dk_21 4 (dk_at dksX4_surely_3 13 rfl rfl)
theorem dX4_surely_86 : decode cX4_surely 86 = .ok (.ifCond .ne 7, 3) := dk_154 0 7 (dk_at dksX4_surely_3 15 rfl rfl)
theorem dX4_surely_89 : decode cX4_surely 89 = .ok (.iconst (-1), 1) := dk_2 (dk_at dksX4_surely_3 18 rfl rfl)
theorem dX4_surely_90 : decode cX4_surely 90 = .ok (.goto 24, 3) := dk_167 0 24 (dk_at dksX4_surely_3 19 rfl rfl)
theorem dX4_surely_93 : decode cX4_surely 93 = .ok (.iload 5, 2) := dk_21 5 (dk_at dksX4_surely_3 22 rfl rfl)
theorem dX4_surely_95 : decode cX4_surely 95 = .ok (.iload 4, 2) := dk_21 4 (dk_at dksX4_surely_4 0 rfl rfl)
theorem dX4_surely_97 : decode cX4_surely 97 = .ok (.if_icmp .ne 7, 3) := dk_160 0 7 (dk_at dksX4_surely_4 2 rfl rfl)
theorem dX4_surely_100 : decode cX4_surely 100 = .ok (.iconst 1, 1) := dk_4 (dk_at dksX4_surely_4 5 rfl rfl)
theorem dX4_surely_101 : decode cX4_surely 101 = .ok (.goto 13, 3) := dk_167 0 13 (dk_at dksX4_surely_4 6 rfl rfl)
theorem dX4_surely_104 : decode cX4_surely 104 = .ok (.iload 5, 2) := dk_21 5 (dk_at dksX4_surely_4 9 rfl rfl)
theorem dX4_surely_106 : decode cX4_surely 106 = .ok (.ifCond .ne 7, 3) := dk_154 0 7 (dk_at dksX4_surely_4 11 rfl rfl)
theorem dX4_surely_109 : decode cX4_surely 109 = .ok (.iconst 0, 1) := dk_3 (dk_at dksX4_surely_4 14 rfl rfl)
theorem dX4_surely_110 : decode cX4_surely 110 = .ok (.goto 4, 3) := dk_167 0 4 (dk_at dksX4_surely_4 15 rfl rfl)
theorem dX4_surely_113 : decode cX4_surely 113 = .ok (.iconst 2, 1) := dk_5 (dk_at dksX4_surely_4 18 rfl rfl)
theorem dX4_surely_114 : decode cX4_surely 114 = .ok (.ireturn, 1) := dk_172 (dk_at dksX4_surely_4 19 rfl rfl)
abbrev cX4_look : ByteArray := prog_9_method_78_code
def yX4_look : MethodName := ⟨RX4, "look", "()I"⟩
def dkwX4_look_6 : List UInt8 := [29, 60, 21, 5, 61, 132, 3, 1, 167, 255, 117, 27, 172]
abbrev dktX4_look_6 : List UInt8 := dkwX4_look_6 ++ []
def dkwX4_look_5 : List UInt8 := [167, 255, 192, 21, 5, 21, 4, 159, 0, 22, 27, 2, 159, 0, 12, 21, 5, 28, 161, 0, 6, 167, 0, 8]
abbrev dktX4_look_5 : List UInt8 := dkwX4_look_5 ++ dktX4_look_6
def dkwX4_look_4 : List UInt8 := [79, 21, 5, 42, 180, 1, 22, 42, 21, 6, 29, 182, 1, 188, 46, 184, 1, 124, 54, 5, 132, 6, 1]
abbrev dktX4_look_4 : List UInt8 := dkwX4_look_4 ++ dktX4_look_5
def dkwX4_look_3 : List UInt8 := [154, 0, 6, 167, 0, 41, 132, 4, 1, 42, 180, 1, 22, 42, 21, 6, 29, 182, 1, 188, 92, 46, 4, 96]
abbrev dktX4_look_3 : List UInt8 := dkwX4_look_3 ++ dktX4_look_4
def dkwX4_look_2 : List UInt8 := [3, 54, 5, 3, 54, 6, 21, 6, 17, 1, 185, 162, 0, 62, 42, 21, 6, 17, 3, 231, 182, 1, 200]
abbrev dktX4_look_2 : List UInt8 := dkwX4_look_2 ++ dktX4_look_3
def dkwX4_look_1 : List UInt8 := [180, 1, 41, 120, 162, 0, 17, 42, 180, 1, 22, 21, 4, 3, 79, 132, 4, 1, 167, 255, 234, 3, 54, 4]
abbrev dktX4_look_1 : List UInt8 := dkwX4_look_1 ++ dktX4_look_2
def dkwX4_look_0 : List UInt8 := [42, 182, 1, 197, 2, 60, 3, 61, 3, 62, 29, 16, 40, 163, 0, 139, 3, 54, 4, 21, 4, 4, 42]
abbrev dktX4_look_0 : List UInt8 := dkwX4_look_0 ++ dktX4_look_1
theorem dksX4_look_0 : cX4_look.data.toList.drop 0 = dktX4_look_0 := by decide +kernel
theorem dksX4_look_1 : cX4_look.data.toList.drop 23 = dktX4_look_1 := dk_seg dksX4_look_0 23 rfl rfl
theorem dksX4_look_2 : cX4_look.data.toList.drop 47 = dktX4_look_2 := dk_seg dksX4_look_1 24 rfl rfl
theorem dksX4_look_3 : cX4_look.data.toList.drop 70 = dktX4_look_3 := dk_seg dksX4_look_2 23 rfl rfl
theorem dksX4_look_4 : cX4_look.data.toList.drop 94 = dktX4_look_4 := dk_seg dksX4_look_3 24 rfl rfl
theorem dksX4_look_5 : cX4_look.data.toList.drop 117 = dktX4_look_5 := dk_seg dksX4_look_4 23 rfl rfl
theorem dksX4_look_6 : cX4_look.data.toList.drop 141 = dktX4_look_6 := dk_seg dksX4_look_5 24 rfl rfl
theorem dX4_look_0 : decode cX4_look 0 = .ok (.aload_n 0, 1) := dk_42 (dk_at dksX4_look_0 0 rfl rfl)
theorem dX4_look_1 : decode cX4_look 1 = .ok (.invokevirtual 453, 3) := dk_182 1 197 (dk_at dksX4_look_0 1 rfl rfl)
theorem dX4_look_4 : decode cX4_look 4 = .ok (.iconst (-1), 1) := dk_2 (dk_at dksX4_look_0 4 rfl rfl)
theorem dX4_look_5 : decode cX4_look 5 = .ok (.istore_n 1, 1) := dk_60 (dk_at dksX4_look_0 5 rfl rfl)
theorem dX4_look_6 : decode cX4_look 6 = .ok (.iconst 0, 1) := dk_3 (dk_at dksX4_look_0 6 rfl rfl)
theorem dX4_look_7 : decode cX4_look 7 = .ok (.istore_n 2, 1) := dk_61 (dk_at dksX4_look_0 7 rfl rfl)
theorem dX4_look_8 : decode cX4_look 8 = .ok (.iconst 0, 1) := dk_3 (dk_at dksX4_look_0 8 rfl rfl)
theorem dX4_look_9 : decode cX4_look 9 = .ok (.istore_n 3, 1) := dk_62 (dk_at dksX4_look_0 9 rfl rfl)
theorem dX4_look_10 : decode cX4_look 10 = .ok (.iload_n 3, 1) := dk_29 (dk_at dksX4_look_0 10 rfl rfl)
theorem dX4_look_11 : decode cX4_look 11 = .ok (.bipush 40, 2) := dk_16 40 (dk_at dksX4_look_0 11 rfl rfl)
theorem dX4_look_13 : decode cX4_look 13 = .ok (.if_icmp .gt 139, 3) := dk_163 0 139 (dk_at dksX4_look_0 13 rfl rfl)
theorem dX4_look_16 : decode cX4_look 16 = .ok (.iconst 0, 1) := dk_3 (dk_at dksX4_look_0 16 rfl rfl)
theorem dX4_look_17 : decode cX4_look 17 = .ok (.istore 4, 2) := dk_54 4 (dk_at dksX4_look_0 17 rfl rfl)
theorem dX4_look_19 : decode cX4_look 19 = .ok (.iload 4, 2) := dk_21 4 (dk_at dksX4_look_0 19 rfl rfl)
theorem dX4_look_21 : decode cX4_look 21 = .ok (.iconst 1, 1) := dk_4 (dk_at dksX4_look_0 21 rfl rfl)
theorem dX4_look_22 : decode cX4_look 22 = .ok (.aload_n 0, 1) := dk_42 (dk_at dksX4_look_0 22 rfl rfl)
theorem dX4_look_23 : decode cX4_look 23 = .ok (.getfield 297, 3) := dk_180 1 41 (dk_at dksX4_look_1 0 rfl rfl)
theorem dX4_look_26 : decode cX4_look 26 = .ok (.ishl, 1) := dk_120 (dk_at dksX4_look_1 3 rfl rfl)
theorem dX4_look_27 : decode cX4_look 27 = .ok (.if_icmp .ge 17, 3) := dk_162 0 17 (dk_at dksX4_look_1 4 rfl rfl)
theorem dX4_look_30 : decode cX4_look 30 = .ok (.aload_n 0, 1) := dk_42 (dk_at dksX4_look_1 7 rfl rfl)
theorem dX4_look_31 : decode cX4_look 31 = .ok (.getfield 278, 3) := dk_180 1 22 (dk_at dksX4_look_1 8 rfl rfl)
theorem dX4_look_34 : decode cX4_look 34 = .ok (.iload 4, 2) := dk_21 4 (dk_at dksX4_look_1 11 rfl rfl)
theorem dX4_look_36 : decode cX4_look 36 = .ok (.iconst 0, 1) := dk_3 (dk_at dksX4_look_1 13 rfl rfl)
theorem dX4_look_37 : decode cX4_look 37 = .ok (.iastore, 1) := dk_79 (dk_at dksX4_look_1 14 rfl rfl)
theorem dX4_look_38 : decode cX4_look 38 = .ok (.iinc 4 1, 3) := dk_132 4 1 (dk_at dksX4_look_1 15 rfl rfl)
theorem dX4_look_41 : decode cX4_look 41 = .ok (.goto (-22), 3) := dk_167 255 234 (dk_at dksX4_look_1 18 rfl rfl)
theorem dX4_look_44 : decode cX4_look 44 = .ok (.iconst 0, 1) := dk_3 (dk_at dksX4_look_1 21 rfl rfl)
theorem dX4_look_45 : decode cX4_look 45 = .ok (.istore 4, 2) := dk_54 4 (dk_at dksX4_look_1 22 rfl rfl)
theorem dX4_look_47 : decode cX4_look 47 = .ok (.iconst 0, 1) := dk_3 (dk_at dksX4_look_2 0 rfl rfl)
theorem dX4_look_48 : decode cX4_look 48 = .ok (.istore 5, 2) := dk_54 5 (dk_at dksX4_look_2 1 rfl rfl)
theorem dX4_look_50 : decode cX4_look 50 = .ok (.iconst 0, 1) := dk_3 (dk_at dksX4_look_2 3 rfl rfl)
theorem dX4_look_51 : decode cX4_look 51 = .ok (.istore 6, 2) := dk_54 6 (dk_at dksX4_look_2 4 rfl rfl)
theorem dX4_look_53 : decode cX4_look 53 = .ok (.iload 6, 2) := dk_21 6 (dk_at dksX4_look_2 6 rfl rfl)
theorem dX4_look_55 : decode cX4_look 55 = .ok (.sipush 441, 3) := dk_17 1 185 (dk_at dksX4_look_2 8 rfl rfl)
theorem dX4_look_58 : decode cX4_look 58 = .ok (.if_icmp .ge 62, 3) := dk_162 0 62 (dk_at dksX4_look_2 11 rfl rfl)
theorem dX4_look_61 : decode cX4_look 61 = .ok (.aload_n 0, 1) := dk_42 (dk_at dksX4_look_2 14 rfl rfl)
theorem dX4_look_62 : decode cX4_look 62 = .ok (.iload 6, 2) := dk_21 6 (dk_at dksX4_look_2 15 rfl rfl)
theorem dX4_look_64 : decode cX4_look 64 = .ok (.sipush 999, 3) := dk_17 3 231 (dk_at dksX4_look_2 17 rfl rfl)
theorem dX4_look_67 : decode cX4_look 67 = .ok (.invokevirtual 456, 3) := dk_182 1 200 (dk_at dksX4_look_2 20 rfl rfl)
theorem dX4_look_70 : decode cX4_look 70 = .ok (.ifCond .ne 6, 3) := dk_154 0 6 (dk_at dksX4_look_3 0 rfl rfl)
theorem dX4_look_73 : decode cX4_look 73 = .ok (.goto 41, 3) := dk_167 0 41 (dk_at dksX4_look_3 3 rfl rfl)
theorem dX4_look_76 : decode cX4_look 76 = .ok (.iinc 4 1, 3) := dk_132 4 1 (dk_at dksX4_look_3 6 rfl rfl)
theorem dX4_look_79 : decode cX4_look 79 = .ok (.aload_n 0, 1) := dk_42 (dk_at dksX4_look_3 9 rfl rfl)
theorem dX4_look_80 : decode cX4_look 80 = .ok (.getfield 278, 3) := dk_180 1 22 (dk_at dksX4_look_3 10 rfl rfl)
theorem dX4_look_83 : decode cX4_look 83 = .ok (.aload_n 0, 1) := dk_42 (dk_at dksX4_look_3 13 rfl rfl)
theorem dX4_look_84 : decode cX4_look 84 = .ok (.iload 6, 2) := dk_21 6 (dk_at dksX4_look_3 14 rfl rfl)
theorem dX4_look_86 : decode cX4_look 86 = .ok (.iload_n 3, 1) := dk_29 (dk_at dksX4_look_3 16 rfl rfl)
theorem dX4_look_87 : decode cX4_look 87 = .ok (.invokevirtual 444, 3) := dk_182 1 188 (dk_at dksX4_look_3 17 rfl rfl)
theorem dX4_look_90 : decode cX4_look 90 = .ok (.dup2, 1) := dk_92 (dk_at dksX4_look_3 20 rfl rfl)
theorem dX4_look_91 : decode cX4_look 91 = .ok (.iaload, 1) := dk_46 (dk_at dksX4_look_3 21 rfl rfl)
theorem dX4_look_92 : decode cX4_look 92 = .ok (.iconst 1, 1) := dk_4 (dk_at dksX4_look_3 22 rfl rfl)
theorem dX4_look_93 : decode cX4_look 93 = .ok (.iadd, 1) := dk_96 (dk_at dksX4_look_3 23 rfl rfl)
theorem dX4_look_94 : decode cX4_look 94 = .ok (.iastore, 1) := dk_79 (dk_at dksX4_look_4 0 rfl rfl)
theorem dX4_look_95 : decode cX4_look 95 = .ok (.iload 5, 2) := dk_21 5 (dk_at dksX4_look_4 1 rfl rfl)
theorem dX4_look_97 : decode cX4_look 97 = .ok (.aload_n 0, 1) := dk_42 (dk_at dksX4_look_4 3 rfl rfl)
theorem dX4_look_98 : decode cX4_look 98 = .ok (.getfield 278, 3) := dk_180 1 22 (dk_at dksX4_look_4 4 rfl rfl)
theorem dX4_look_101 : decode cX4_look 101 = .ok (.aload_n 0, 1) := dk_42 (dk_at dksX4_look_4 7 rfl rfl)
theorem dX4_look_102 : decode cX4_look 102 = .ok (.iload 6, 2) := dk_21 6 (dk_at dksX4_look_4 8 rfl rfl)
theorem dX4_look_104 : decode cX4_look 104 = .ok (.iload_n 3, 1) := dk_29 (dk_at dksX4_look_4 10 rfl rfl)
theorem dX4_look_105 : decode cX4_look 105 = .ok (.invokevirtual 444, 3) := dk_182 1 188 (dk_at dksX4_look_4 11 rfl rfl)
theorem dX4_look_108 : decode cX4_look 108 = .ok (.iaload, 1) := dk_46 (dk_at dksX4_look_4 14 rfl rfl)
theorem dX4_look_109 : decode cX4_look 109 = .ok (.invokestatic 380, 3) := dk_184 1 124 (dk_at dksX4_look_4 15 rfl rfl)
theorem dX4_look_112 : decode cX4_look 112 = .ok (.istore 5, 2) := dk_54 5 (dk_at dksX4_look_4 18 rfl rfl)
theorem dX4_look_114 : decode cX4_look 114 = .ok (.iinc 6 1, 3) := dk_132 6 1 (dk_at dksX4_look_4 20 rfl rfl)
theorem dX4_look_117 : decode cX4_look 117 = .ok (.goto (-64), 3) := dk_167 255 192 (dk_at dksX4_look_5 0 rfl rfl)
theorem dX4_look_120 : decode cX4_look 120 = .ok (.iload 5, 2) := dk_21 5 (dk_at dksX4_look_5 3 rfl rfl)
theorem dX4_look_122 : decode cX4_look 122 = .ok (.iload 4, 2) := dk_21 4 (dk_at dksX4_look_5 5 rfl rfl)
theorem dX4_look_124 : decode cX4_look 124 = .ok (.if_icmp .eq 22, 3) := dk_159 0 22 (dk_at dksX4_look_5 7 rfl rfl)
theorem dX4_look_127 : decode cX4_look 127 = .ok (.iload_n 1, 1) := dk_27 (dk_at dksX4_look_5 10 rfl rfl)
theorem dX4_look_128 : decode cX4_look 128 = .ok (.iconst (-1), 1) := dk_2 (dk_at dksX4_look_5 11 rfl rfl)
theorem dX4_look_129 : decode cX4_look 129 = .ok (.if_icmp .eq 12, 3) := dk_159 0 12 (dk_at dksX4_look_5 12 rfl rfl)
theorem dX4_look_132 : decode cX4_look 132 = .ok (.iload 5, 2) := dk_21 5 (dk_at dksX4_look_5 15 rfl rfl)
theorem dX4_look_134 : decode cX4_look 134 = .ok (.iload_n 2, 1) := dk_28 (dk_at dksX4_look_5 17 rfl rfl)
theorem dX4_look_135 : decode cX4_look 135 = .ok (.if_icmp .lt 6, 3) := dk_161 0 6 (dk_at dksX4_look_5 18 rfl rfl)
theorem dX4_look_138 : decode cX4_look 138 = .ok (.goto 8, 3) := dk_167 0 8 (dk_at dksX4_look_5 21 rfl rfl)
theorem dX4_look_141 : decode cX4_look 141 = .ok (.iload_n 3, 1) := dk_29 (dk_at dksX4_look_6 0 rfl rfl)
theorem dX4_look_142 : decode cX4_look 142 = .ok (.istore_n 1, 1) := dk_60 (dk_at dksX4_look_6 1 rfl rfl)
theorem dX4_look_143 : decode cX4_look 143 = .ok (.iload 5, 2) := dk_21 5 (dk_at dksX4_look_6 2 rfl rfl)
theorem dX4_look_145 : decode cX4_look 145 = .ok (.istore_n 2, 1) := dk_61 (dk_at dksX4_look_6 4 rfl rfl)
theorem dX4_look_146 : decode cX4_look 146 = .ok (.iinc 3 1, 3) := dk_132 3 1 (dk_at dksX4_look_6 5 rfl rfl)
theorem dX4_look_149 : decode cX4_look 149 = .ok (.goto (-139), 3) := dk_167 255 117 (dk_at dksX4_look_6 8 rfl rfl)
theorem dX4_look_152 : decode cX4_look 152 = .ok (.iload_n 1, 1) := dk_27 (dk_at dksX4_look_6 11 rfl rfl)
theorem dX4_look_153 : decode cX4_look 153 = .ok (.ireturn, 1) := dk_172 (dk_at dksX4_look_6 12 rfl rfl)
abbrev cX4_count : ByteArray := prog_9_method_79_code
def yX4_count : MethodName := ⟨RX4, "count", "(I)I"⟩
def dkwX4_count_3 : List UInt8 := [172, 2, 172]
abbrev dktX4_count_3 : List UInt8 := dkwX4_count_3 ++ []
def dkwX4_count_2 : List UInt8 := [42, 180, 1, 50, 172, 42, 180, 1, 59, 172, 42, 180, 1, 62, 172, 42, 180, 1, 28, 172, 42, 180, 1, 106]
abbrev dktX4_count_2 : List UInt8 := dkwX4_count_2 ++ dktX4_count_3
def dkwX4_count_1 : List UInt8 := [170, 0, 0, 0, 0, 0, 60, 0, 0, 0, 0, 0, 0, 0, 4, 0, 0, 0, 35, 0, 0, 0, 40, 0, 0, 0, 45, 0, 0, 0, 50, 0, 0, 0, 55]
abbrev dktX4_count_1 : List UInt8 := dkwX4_count_1 ++ dktX4_count_2
def dkwX4_count_0 : List UInt8 := [27]
abbrev dktX4_count_0 : List UInt8 := dkwX4_count_0 ++ dktX4_count_1
theorem dksX4_count_0 : cX4_count.data.toList.drop 0 = dktX4_count_0 := by decide +kernel
theorem dksX4_count_1 : cX4_count.data.toList.drop 1 = dktX4_count_1 := dk_seg dksX4_count_0 1 rfl rfl
theorem dksX4_count_2 : cX4_count.data.toList.drop 36 = dktX4_count_2 := dk_seg dksX4_count_1 35 rfl rfl
theorem dksX4_count_3 : cX4_count.data.toList.drop 60 = dktX4_count_3 := dk_seg dksX4_count_2 24 rfl rfl
theorem dX4_count_0 : decode cX4_count 0 = .ok (.iload_n 1, 1) := dk_27 (dk_at dksX4_count_0 0 rfl rfl)
theorem dX4_count_1 : decode cX4_count 1 = .ok (.tableswitch 60 0 4 #[35, 40, 45, 50, 55], 35) := by decide +kernel
theorem dX4_count_36 : decode cX4_count 36 = .ok (.aload_n 0, 1) := dk_42 (dk_at dksX4_count_2 0 rfl rfl)
theorem dX4_count_37 : decode cX4_count 37 = .ok (.getfield 306, 3) := dk_180 1 50 (dk_at dksX4_count_2 1 rfl rfl)
theorem dX4_count_40 : decode cX4_count 40 = .ok (.ireturn, 1) := dk_172 (dk_at dksX4_count_2 4 rfl rfl)
theorem dX4_count_41 : decode cX4_count 41 = .ok (.aload_n 0, 1) := dk_42 (dk_at dksX4_count_2 5 rfl rfl)
theorem dX4_count_42 : decode cX4_count 42 = .ok (.getfield 315, 3) := dk_180 1 59 (dk_at dksX4_count_2 6 rfl rfl)
theorem dX4_count_45 : decode cX4_count 45 = .ok (.ireturn, 1) := dk_172 (dk_at dksX4_count_2 9 rfl rfl)
theorem dX4_count_46 : decode cX4_count 46 = .ok (.aload_n 0, 1) := dk_42 (dk_at dksX4_count_2 10 rfl rfl)
theorem dX4_count_47 : decode cX4_count 47 = .ok (.getfield 318, 3) := dk_180 1 62 (dk_at dksX4_count_2 11 rfl rfl)
theorem dX4_count_50 : decode cX4_count 50 = .ok (.ireturn, 1) := dk_172 (dk_at dksX4_count_2 14 rfl rfl)
theorem dX4_count_51 : decode cX4_count 51 = .ok (.aload_n 0, 1) := dk_42 (dk_at dksX4_count_2 15 rfl rfl)
theorem dX4_count_52 : decode cX4_count 52 = .ok (.getfield 284, 3) := dk_180 1 28 (dk_at dksX4_count_2 16 rfl rfl)
theorem dX4_count_55 : decode cX4_count 55 = .ok (.ireturn, 1) := dk_172 (dk_at dksX4_count_2 19 rfl rfl)
theorem dX4_count_56 : decode cX4_count 56 = .ok (.aload_n 0, 1) := dk_42 (dk_at dksX4_count_2 20 rfl rfl)
theorem dX4_count_57 : decode cX4_count 57 = .ok (.getfield 362, 3) := dk_180 1 106 (dk_at dksX4_count_2 21 rfl rfl)
theorem dX4_count_60 : decode cX4_count 60 = .ok (.ireturn, 1) := dk_172 (dk_at dksX4_count_3 0 rfl rfl)
theorem dX4_count_61 : decode cX4_count 61 = .ok (.iconst (-1), 1) := dk_2 (dk_at dksX4_count_3 1 rfl rfl)
theorem dX4_count_62 : decode cX4_count 62 = .ok (.ireturn, 1) := dk_172 (dk_at dksX4_count_3 2 rfl rfl)
theorem q79 : (Jvm.Cond.initialized "SlimeNetModel") ∈ lw_all := lw_g (lw_at lw_m1 10 rfl) rfl
theorem q707 : (Jvm.Cond.selects "SlimeNetModel" ({ cls := "java/lang/Object", name := "getClass", desc := "()Ljava/lang/Class;" } : Jvm.MethodName) ({ cls := "java/lang/Object", name := "getClass", desc := "()Ljava/lang/Class;" } : Jvm.MethodName)) ∈ lw_all := lw_g (lw_at lw_m3 158 rfl) rfl
theorem q1025 : (Jvm.Cond.instantiable "SlimeNetModel" (73 : Nat)) ∈ lw_all := lw_g (lw_at lw_m4 236 rfl) rfl
theorem q1027 : (Jvm.Cond.instanceMethod ({ cls := "SlimeNetModel", name := "<init>", desc := "()V" } : Jvm.MethodName)) ∈ lw_all := lw_g (lw_at lw_m4 238 rfl) rfl
theorem q1028 : (Jvm.Cond.code ({ cls := "SlimeNetModel", name := "<init>", desc := "()V" } : Jvm.MethodName) prog_9_method_20_code (1 : Nat) (Option.none : Option Jvm.ClassFile.FieldType)) ∈ lw_all := lw_g (lw_at lw_m4 239 rfl) rfl
theorem q1029 : (Jvm.Cond.methodLink "SlimeNetModel" (172 : Nat) ({ cls := "java/lang/Object", name := "<init>", desc := "()V" } : Jvm.MethodName)) ∈ lw_all := lw_g (lw_at lw_m5 0 rfl) rfl
theorem q1030 : (Jvm.Cond.methodLink "SlimeNetModel" (281 : Nat) ({ cls := "SlimeNetModel", name := "findTrees", desc := "()V" } : Jvm.MethodName)) ∈ lw_all := lw_g (lw_at lw_m5 1 rfl) rfl
theorem q1031 : (Jvm.Cond.privateMethod ({ cls := "SlimeNetModel", name := "findTrees", desc := "()V" } : Jvm.MethodName)) ∈ lw_tbl := lw_at lw_m5 2 rfl
theorem q1032 : (Jvm.Cond.instanceMethod ({ cls := "SlimeNetModel", name := "findTrees", desc := "()V" } : Jvm.MethodName)) ∈ lw_all := lw_g (lw_at lw_m5 3 rfl) rfl
theorem q1033 : (Jvm.Cond.code ({ cls := "SlimeNetModel", name := "findTrees", desc := "()V" } : Jvm.MethodName) prog_9_method_28_code (2 : Nat) (Option.none : Option Jvm.ClassFile.FieldType)) ∈ lw_all := lw_g (lw_at lw_m5 4 rfl) rfl
theorem q1034 : (Jvm.Cond.methodLink "SlimeNetModel" (339 : Nat) ({ cls := "SlimeNetModel", name := "findTree", desc := "(I)V" } : Jvm.MethodName)) ∈ lw_all := lw_g (lw_at lw_m5 5 rfl) rfl
theorem q1035 : (Jvm.Cond.privateMethod ({ cls := "SlimeNetModel", name := "findTree", desc := "(I)V" } : Jvm.MethodName)) ∈ lw_tbl := lw_at lw_m5 6 rfl
theorem q1036 : (Jvm.Cond.instanceMethod ({ cls := "SlimeNetModel", name := "findTree", desc := "(I)V" } : Jvm.MethodName)) ∈ lw_all := lw_g (lw_at lw_m5 7 rfl) rfl
theorem q1037 : (Jvm.Cond.code ({ cls := "SlimeNetModel", name := "findTree", desc := "(I)V" } : Jvm.MethodName) prog_9_method_29_code (11 : Nat) (Option.none : Option Jvm.ClassFile.FieldType)) ∈ lw_all := lw_g (lw_at lw_m5 8 rfl) rfl
theorem q1038 : (Jvm.Cond.methodLink "SlimeNetModel" (342 : Nat) ({ cls := "java/lang/Math", name := "min", desc := "(II)I" } : Jvm.MethodName)) ∈ lw_all := lw_g (lw_at lw_m5 9 rfl) rfl
theorem q1039 : (Jvm.Cond.fieldLink "SlimeNetModel" (16 : Nat) "SlimeNetModel" "tape" "[B") ∈ lw_all := lw_g (lw_at lw_m5 10 rfl) rfl
theorem q1040 : (Jvm.Cond.fieldLink "SlimeNetModel" (284 : Nat) "SlimeNetModel" "taped" "I") ∈ lw_all := lw_g (lw_at lw_m5 11 rfl) rfl
theorem q1041 : (Jvm.Cond.fieldLink "SlimeNetModel" (13 : Nat) "SlimeNetModel" "length" "I") ∈ lw_all := lw_g (lw_at lw_m5 12 rfl) rfl
theorem q1042 : (Jvm.Cond.fieldLink "SlimeNetModel" (7 : Nat) "SlimeNetModel" "from" "I") ∈ lw_all := lw_g (lw_at lw_m5 13 rfl) rfl
theorem q1043 : (Jvm.Cond.fieldLink "SlimeNetModel" (20 : Nat) "SlimeNetModel" "behind" "I") ∈ lw_all := lw_g (lw_at lw_m5 14 rfl) rfl
theorem q1044 : (Jvm.Cond.fieldLink "SlimeNetModel" (27 : Nat) "SlimeNetModel" "hand" "I") ∈ lw_all := lw_g (lw_at lw_m5 15 rfl) rfl
theorem q1045 : (Jvm.Cond.fieldLink "SlimeNetModel" (37 : Nat) "SlimeNetModel" "value" "I") ∈ lw_all := lw_g (lw_at lw_m5 16 rfl) rfl
theorem q1046 : (Jvm.Cond.fieldLink "SlimeNetModel" (56 : Nat) "SlimeNetModel" "got" "I") ∈ lw_all := lw_g (lw_at lw_m5 17 rfl) rfl
theorem q1047 : (Jvm.Cond.fieldLink "SlimeNetModel" (3 : Nat) "SlimeNetModel" "fault" "I") ∈ lw_all := lw_g (lw_at lw_m5 18 rfl) rfl
theorem q1048 : (Jvm.Cond.fieldLink "SlimeNetModel" (10 : Nat) "SlimeNetModel" "faultAt" "I") ∈ lw_all := lw_g (lw_at lw_m5 19 rfl) rfl
theorem q1049 : (Jvm.Cond.fieldLink "SlimeNetModel" (294 : Nat) "SlimeNetModel" "spots" "I") ∈ lw_all := lw_g (lw_at lw_m5 20 rfl) rfl
theorem q1050 : (Jvm.Cond.fieldLink "SlimeNetModel" (297 : Nat) "SlimeNetModel" "pipes" "I") ∈ lw_all := lw_g (lw_at lw_m5 21 rfl) rfl
theorem q1051 : (Jvm.Cond.fieldLink "SlimeNetModel" (300 : Nat) "SlimeNetModel" "flakes" "I") ∈ lw_all := lw_g (lw_at lw_m5 22 rfl) rfl
theorem q1052 : (Jvm.Cond.fieldLink "SlimeNetModel" (177 : Nat) "SlimeNetModel" "up" "I") ∈ lw_all := lw_g (lw_at lw_m5 23 rfl) rfl
theorem q1053 : (Jvm.Cond.fieldLink "SlimeNetModel" (180 : Nat) "SlimeNetModel" "down" "I") ∈ lw_all := lw_g (lw_at lw_m5 24 rfl) rfl
theorem q1054 : (Jvm.Cond.fieldLink "SlimeNetModel" (183 : Nat) "SlimeNetModel" "wide" "I") ∈ lw_all := lw_g (lw_at lw_m5 25 rfl) rfl
theorem q1055 : (Jvm.Cond.fieldLink "SlimeNetModel" (186 : Nat) "SlimeNetModel" "learn" "I") ∈ lw_all := lw_g (lw_at lw_m5 26 rfl) rfl
theorem q1056 : (Jvm.Cond.fieldLink "SlimeNetModel" (303 : Nat) "SlimeNetModel" "salted" "I") ∈ lw_all := lw_g (lw_at lw_m5 27 rfl) rfl
theorem q1057 : (Jvm.Cond.fieldLink "SlimeNetModel" (306 : Nat) "SlimeNetModel" "clauses" "I") ∈ lw_all := lw_g (lw_at lw_m5 28 rfl) rfl
theorem q1058 : (Jvm.Cond.fieldLink "SlimeNetModel" (63 : Nat) "SlimeNetModel" "readSpots" "I") ∈ lw_all := lw_g (lw_at lw_m5 29 rfl) rfl
theorem q1059 : (Jvm.Cond.fieldLink "SlimeNetModel" (77 : Nat) "SlimeNetModel" "readPipes" "I") ∈ lw_all := lw_g (lw_at lw_m5 30 rfl) rfl
theorem q1060 : (Jvm.Cond.fieldLink "SlimeNetModel" (101 : Nat) "SlimeNetModel" "readFlakes" "I") ∈ lw_all := lw_g (lw_at lw_m5 31 rfl) rfl
theorem q1061 : (Jvm.Cond.fieldLink "SlimeNetModel" (134 : Nat) "SlimeNetModel" "readUp" "I") ∈ lw_all := lw_g (lw_at lw_m5 32 rfl) rfl
theorem q1062 : (Jvm.Cond.fieldLink "SlimeNetModel" (137 : Nat) "SlimeNetModel" "readDown" "I") ∈ lw_all := lw_g (lw_at lw_m5 33 rfl) rfl
theorem q1063 : (Jvm.Cond.fieldLink "SlimeNetModel" (140 : Nat) "SlimeNetModel" "readWide" "I") ∈ lw_all := lw_g (lw_at lw_m5 34 rfl) rfl
theorem q1064 : (Jvm.Cond.fieldLink "SlimeNetModel" (143 : Nat) "SlimeNetModel" "readLearn" "I") ∈ lw_all := lw_g (lw_at lw_m5 35 rfl) rfl
theorem q1065 : (Jvm.Cond.fieldLink "SlimeNetModel" (107 : Nat) "SlimeNetModel" "readSalted" "I") ∈ lw_all := lw_g (lw_at lw_m5 36 rfl) rfl
theorem q1066 : (Jvm.Cond.fieldLink "SlimeNetModel" (146 : Nat) "SlimeNetModel" "read" "I") ∈ lw_all := lw_g (lw_at lw_m5 37 rfl) rfl
theorem q1067 : (Jvm.Cond.fieldLink "SlimeNetModel" (120 : Nat) "SlimeNetModel" "lawTold" "Z") ∈ lw_all := lw_g (lw_at lw_m5 38 rfl) rfl
theorem q1068 : (Jvm.Cond.fieldLink "SlimeNetModel" (124 : Nat) "SlimeNetModel" "widthTold" "Z") ∈ lw_all := lw_g (lw_at lw_m5 39 rfl) rfl
theorem q1069 : (Jvm.Cond.fieldLink "SlimeNetModel" (127 : Nat) "SlimeNetModel" "learnTold" "Z") ∈ lw_all := lw_g (lw_at lw_m5 40 rfl) rfl
theorem q1070 : (Jvm.Cond.fieldLink "SlimeNetModel" (66 : Nat) "SlimeNetModel" "names" "[J") ∈ lw_all := lw_g (lw_at lw_m5 41 rfl) rfl
theorem q1071 : (Jvm.Cond.fieldLink "SlimeNetModel" (188 : Nat) "SlimeNetModel" "one" "[I") ∈ lw_all := lw_g (lw_at lw_m5 42 rfl) rfl
theorem q1072 : (Jvm.Cond.fieldLink "SlimeNetModel" (191 : Nat) "SlimeNetModel" "two" "[I") ∈ lw_all := lw_g (lw_at lw_m5 43 rfl) rfl
theorem q1073 : (Jvm.Cond.fieldLink "SlimeNetModel" (194 : Nat) "SlimeNetModel" "long0" "[I") ∈ lw_all := lw_g (lw_at lw_m5 44 rfl) rfl
theorem q1074 : (Jvm.Cond.fieldLink "SlimeNetModel" (197 : Nat) "SlimeNetModel" "flake" "[I") ∈ lw_all := lw_g (lw_at lw_m5 45 rfl) rfl
theorem q1075 : (Jvm.Cond.fieldLink "SlimeNetModel" (80 : Nat) "SlimeNetModel" "readOne" "[I") ∈ lw_all := lw_g (lw_at lw_m5 46 rfl) rfl
theorem q1076 : (Jvm.Cond.fieldLink "SlimeNetModel" (84 : Nat) "SlimeNetModel" "readTwo" "[I") ∈ lw_all := lw_g (lw_at lw_m5 47 rfl) rfl
theorem q1077 : (Jvm.Cond.fieldLink "SlimeNetModel" (98 : Nat) "SlimeNetModel" "readLong" "[I") ∈ lw_all := lw_g (lw_at lw_m5 48 rfl) rfl
theorem q1078 : (Jvm.Cond.fieldLink "SlimeNetModel" (104 : Nat) "SlimeNetModel" "readFlake" "[I") ∈ lw_all := lw_g (lw_at lw_m5 49 rfl) rfl
theorem q1079 : (Jvm.Cond.fieldLink "SlimeNetModel" (200 : Nat) "SlimeNetModel" "treeSpots" "[I") ∈ lw_all := lw_g (lw_at lw_m5 50 rfl) rfl
theorem q1080 : (Jvm.Cond.fieldLink "SlimeNetModel" (203 : Nat) "SlimeNetModel" "pathTo" "[I") ∈ lw_all := lw_g (lw_at lw_m5 51 rfl) rfl
theorem q1081 : (Jvm.Cond.fieldLink "SlimeNetModel" (206 : Nat) "SlimeNetModel" "onward" "[I") ∈ lw_all := lw_g (lw_at lw_m5 52 rfl) rfl
theorem q1082 : (Jvm.Cond.fieldLink "SlimeNetModel" (209 : Nat) "SlimeNetModel" "leads" "[I") ∈ lw_all := lw_g (lw_at lw_m5 53 rfl) rfl
theorem q1083 : (Jvm.Cond.fieldLink "SlimeNetModel" (212 : Nat) "SlimeNetModel" "through" "[J") ∈ lw_all := lw_g (lw_at lw_m5 54 rfl) rfl
theorem q1084 : (Jvm.Cond.fieldLink "SlimeNetModel" (347 : Nat) "SlimeNetModel" "sum" "J") ∈ lw_all := lw_g (lw_at lw_m5 55 rfl) rfl
theorem q1085 : (Jvm.Cond.fieldLink "SlimeNetModel" (215 : Nat) "SlimeNetModel" "width" "[I") ∈ lw_all := lw_g (lw_at lw_m5 56 rfl) rfl
theorem q1086 : (Jvm.Cond.fieldLink "SlimeNetModel" (217 : Nat) "SlimeNetModel" "count" "[I") ∈ lw_all := lw_g (lw_at lw_m5 57 rfl) rfl
theorem q1087 : (Jvm.Cond.fieldLink "SlimeNetModel" (362 : Nat) "SlimeNetModel" "hour" "I") ∈ lw_all := lw_g (lw_at lw_m5 58 rfl) rfl
theorem q1088 : (Jvm.Cond.fieldLink "SlimeNetModel" (220 : Nat) "SlimeNetModel" "wasWidth" "[I") ∈ lw_all := lw_g (lw_at lw_m5 59 rfl) rfl
theorem q1089 : (Jvm.Cond.fieldLink "SlimeNetModel" (223 : Nat) "SlimeNetModel" "wasCount" "[I") ∈ lw_all := lw_g (lw_at lw_m5 60 rfl) rfl
theorem q1090 : (Jvm.Cond.fieldLink "SlimeNetModel" (226 : Nat) "SlimeNetModel" "ring" "I") ∈ lw_all := lw_g (lw_at lw_m5 61 rfl) rfl
theorem q1091 : (Jvm.Cond.fieldLink "SlimeNetModel" (229 : Nat) "SlimeNetModel" "slotWidth" "[I") ∈ lw_all := lw_g (lw_at lw_m5 62 rfl) rfl
theorem q1092 : (Jvm.Cond.fieldLink "SlimeNetModel" (232 : Nat) "SlimeNetModel" "slotCount" "[I") ∈ lw_all := lw_g (lw_at lw_m5 63 rfl) rfl
theorem q1093 : (Jvm.Cond.fieldLink "SlimeNetModel" (235 : Nat) "SlimeNetModel" "slotHour" "[I") ∈ lw_all := lw_g (lw_at lw_m5 64 rfl) rfl
theorem q1094 : (Jvm.Cond.fieldLink "SlimeNetModel" (238 : Nat) "SlimeNetModel" "isKept" "[Z") ∈ lw_all := lw_g (lw_at lw_m5 65 rfl) rfl
theorem q1095 : (Jvm.Cond.fieldLink "SlimeNetModel" (242 : Nat) "SlimeNetModel" "far" "[I") ∈ lw_all := lw_g (lw_at lw_m5 66 rfl) rfl
theorem q1096 : (Jvm.Cond.fieldLink "SlimeNetModel" (245 : Nat) "SlimeNetModel" "sureBy" "[I") ∈ lw_all := lw_g (lw_at lw_m5 67 rfl) rfl
theorem q1097 : (Jvm.Cond.fieldLink "SlimeNetModel" (248 : Nat) "SlimeNetModel" "netBy" "[I") ∈ lw_all := lw_g (lw_at lw_m5 68 rfl) rfl
theorem q1098 : (Jvm.Cond.fieldLink "SlimeNetModel" (251 : Nat) "SlimeNetModel" "ownBy" "[I") ∈ lw_all := lw_g (lw_at lw_m5 69 rfl) rfl
theorem q1099 : (Jvm.Cond.fieldLink "SlimeNetModel" (254 : Nat) "SlimeNetModel" "lawWidth" "[I") ∈ lw_all := lw_g (lw_at lw_m5 70 rfl) rfl
theorem q1100 : (Jvm.Cond.fieldLink "SlimeNetModel" (257 : Nat) "SlimeNetModel" "lawCount" "[I") ∈ lw_all := lw_g (lw_at lw_m5 71 rfl) rfl
theorem q1101 : (Jvm.Cond.fieldLink "SlimeNetModel" (312 : Nat) "SlimeNetModel" "hasLaws" "Z") ∈ lw_all := lw_g (lw_at lw_m5 72 rfl) rfl
theorem q1102 : (Jvm.Cond.fieldLink "SlimeNetModel" (315 : Nat) "SlimeNetModel" "seen" "I") ∈ lw_all := lw_g (lw_at lw_m5 73 rfl) rfl
theorem q1103 : (Jvm.Cond.fieldLink "SlimeNetModel" (318 : Nat) "SlimeNetModel" "rights" "I") ∈ lw_all := lw_g (lw_at lw_m5 74 rfl) rfl
theorem q1104 : (Jvm.Cond.fieldLink "SlimeNetModel" (321 : Nat) "SlimeNetModel" "telling" "I") ∈ lw_all := lw_g (lw_at lw_m5 75 rfl) rfl
theorem q1105 : (Jvm.Cond.fieldLink "SlimeNetModel" (260 : Nat) "SlimeNetModel" "seenHour" "[I") ∈ lw_all := lw_g (lw_at lw_m5 76 rfl) rfl
theorem q1106 : (Jvm.Cond.fieldLink "SlimeNetModel" (263 : Nat) "SlimeNetModel" "seenNet" "[I") ∈ lw_all := lw_g (lw_at lw_m5 77 rfl) rfl
theorem q1107 : (Jvm.Cond.fieldLink "SlimeNetModel" (266 : Nat) "SlimeNetModel" "seenAt" "[I") ∈ lw_all := lw_g (lw_at lw_m5 78 rfl) rfl
theorem q1108 : (Jvm.Cond.fieldLink "SlimeNetModel" (269 : Nat) "SlimeNetModel" "rightOf" "[I") ∈ lw_all := lw_g (lw_at lw_m5 79 rfl) rfl
theorem q1109 : (Jvm.Cond.fieldLink "SlimeNetModel" (272 : Nat) "SlimeNetModel" "rightNet" "[I") ∈ lw_all := lw_g (lw_at lw_m5 80 rfl) rfl
theorem q1110 : (Jvm.Cond.fieldLink "SlimeNetModel" (275 : Nat) "SlimeNetModel" "rightAt" "[I") ∈ lw_all := lw_g (lw_at lw_m5 81 rfl) rfl
theorem q1111 : (Jvm.Cond.fieldLink "SlimeNetModel" (278 : Nat) "SlimeNetModel" "agreeing" "[I") ∈ lw_all := lw_g (lw_at lw_m5 82 rfl) rfl
theorem q1112 : (Jvm.Cond.laysFinal "SlimeNetModel" "SlimeNetModel" "tape" "[B") ∈ lw_all := lw_g (lw_at lw_m5 83 rfl) rfl
theorem q1113 : (Jvm.Cond.soleField "SlimeNetModel" "tape") ∈ lw_all := lw_g (lw_at lw_m5 84 rfl) rfl
theorem q1114 : (Jvm.Cond.lays "SlimeNetModel" "SlimeNetModel" "taped" "I") ∈ lw_all := lw_g (lw_at lw_m5 85 rfl) rfl
theorem q1115 : (Jvm.Cond.soleField "SlimeNetModel" "taped") ∈ lw_all := lw_g (lw_at lw_m5 86 rfl) rfl
theorem q1116 : (Jvm.Cond.lays "SlimeNetModel" "SlimeNetModel" "length" "I") ∈ lw_all := lw_g (lw_at lw_m5 87 rfl) rfl
theorem q1117 : (Jvm.Cond.soleField "SlimeNetModel" "length") ∈ lw_all := lw_g (lw_at lw_m5 88 rfl) rfl
theorem q1118 : (Jvm.Cond.lays "SlimeNetModel" "SlimeNetModel" "from" "I") ∈ lw_all := lw_g (lw_at lw_m5 89 rfl) rfl
theorem q1119 : (Jvm.Cond.soleField "SlimeNetModel" "from") ∈ lw_all := lw_g (lw_at lw_m5 90 rfl) rfl
theorem q1120 : (Jvm.Cond.lays "SlimeNetModel" "SlimeNetModel" "behind" "I") ∈ lw_all := lw_g (lw_at lw_m5 91 rfl) rfl
theorem q1121 : (Jvm.Cond.soleField "SlimeNetModel" "behind") ∈ lw_all := lw_g (lw_at lw_m5 92 rfl) rfl
theorem q1122 : (Jvm.Cond.lays "SlimeNetModel" "SlimeNetModel" "hand" "I") ∈ lw_all := lw_g (lw_at lw_m5 93 rfl) rfl
theorem q1123 : (Jvm.Cond.soleField "SlimeNetModel" "hand") ∈ lw_all := lw_g (lw_at lw_m5 94 rfl) rfl
theorem q1124 : (Jvm.Cond.lays "SlimeNetModel" "SlimeNetModel" "value" "I") ∈ lw_all := lw_g (lw_at lw_m5 95 rfl) rfl
theorem q1125 : (Jvm.Cond.soleField "SlimeNetModel" "value") ∈ lw_all := lw_g (lw_at lw_m5 96 rfl) rfl
theorem q1126 : (Jvm.Cond.lays "SlimeNetModel" "SlimeNetModel" "got" "I") ∈ lw_all := lw_g (lw_at lw_m5 97 rfl) rfl
theorem q1127 : (Jvm.Cond.soleField "SlimeNetModel" "got") ∈ lw_all := lw_g (lw_at lw_m5 98 rfl) rfl
theorem q1128 : (Jvm.Cond.lays "SlimeNetModel" "SlimeNetModel" "fault" "I") ∈ lw_all := lw_g (lw_at lw_m5 99 rfl) rfl
theorem q1129 : (Jvm.Cond.soleField "SlimeNetModel" "fault") ∈ lw_all := lw_g (lw_at lw_m5 100 rfl) rfl
theorem q1130 : (Jvm.Cond.lays "SlimeNetModel" "SlimeNetModel" "faultAt" "I") ∈ lw_all := lw_g (lw_at lw_m5 101 rfl) rfl
theorem q1131 : (Jvm.Cond.soleField "SlimeNetModel" "faultAt") ∈ lw_all := lw_g (lw_at lw_m5 102 rfl) rfl
theorem q1132 : (Jvm.Cond.lays "SlimeNetModel" "SlimeNetModel" "spots" "I") ∈ lw_all := lw_g (lw_at lw_m5 103 rfl) rfl
theorem q1133 : (Jvm.Cond.soleField "SlimeNetModel" "spots") ∈ lw_all := lw_g (lw_at lw_m5 104 rfl) rfl
theorem q1134 : (Jvm.Cond.lays "SlimeNetModel" "SlimeNetModel" "pipes" "I") ∈ lw_all := lw_g (lw_at lw_m5 105 rfl) rfl
theorem q1135 : (Jvm.Cond.soleField "SlimeNetModel" "pipes") ∈ lw_all := lw_g (lw_at lw_m5 106 rfl) rfl
theorem q1136 : (Jvm.Cond.lays "SlimeNetModel" "SlimeNetModel" "flakes" "I") ∈ lw_all := lw_g (lw_at lw_m5 107 rfl) rfl
theorem q1137 : (Jvm.Cond.soleField "SlimeNetModel" "flakes") ∈ lw_all := lw_g (lw_at lw_m5 108 rfl) rfl
theorem q1138 : (Jvm.Cond.lays "SlimeNetModel" "SlimeNetModel" "up" "I") ∈ lw_all := lw_g (lw_at lw_m5 109 rfl) rfl
theorem q1139 : (Jvm.Cond.soleField "SlimeNetModel" "up") ∈ lw_all := lw_g (lw_at lw_m5 110 rfl) rfl
theorem q1140 : (Jvm.Cond.lays "SlimeNetModel" "SlimeNetModel" "down" "I") ∈ lw_all := lw_g (lw_at lw_m5 111 rfl) rfl
theorem q1141 : (Jvm.Cond.soleField "SlimeNetModel" "down") ∈ lw_all := lw_g (lw_at lw_m5 112 rfl) rfl
theorem q1142 : (Jvm.Cond.lays "SlimeNetModel" "SlimeNetModel" "wide" "I") ∈ lw_all := lw_g (lw_at lw_m5 113 rfl) rfl
theorem q1143 : (Jvm.Cond.soleField "SlimeNetModel" "wide") ∈ lw_all := lw_g (lw_at lw_m5 114 rfl) rfl
theorem q1144 : (Jvm.Cond.lays "SlimeNetModel" "SlimeNetModel" "learn" "I") ∈ lw_all := lw_g (lw_at lw_m5 115 rfl) rfl
theorem q1145 : (Jvm.Cond.soleField "SlimeNetModel" "learn") ∈ lw_all := lw_g (lw_at lw_m5 116 rfl) rfl
theorem q1146 : (Jvm.Cond.lays "SlimeNetModel" "SlimeNetModel" "salted" "I") ∈ lw_all := lw_g (lw_at lw_m5 117 rfl) rfl
theorem q1147 : (Jvm.Cond.soleField "SlimeNetModel" "salted") ∈ lw_all := lw_g (lw_at lw_m5 118 rfl) rfl
theorem q1148 : (Jvm.Cond.lays "SlimeNetModel" "SlimeNetModel" "clauses" "I") ∈ lw_all := lw_g (lw_at lw_m5 119 rfl) rfl
theorem q1149 : (Jvm.Cond.soleField "SlimeNetModel" "clauses") ∈ lw_all := lw_g (lw_at lw_m5 120 rfl) rfl
theorem q1150 : (Jvm.Cond.lays "SlimeNetModel" "SlimeNetModel" "readSpots" "I") ∈ lw_all := lw_g (lw_at lw_m5 121 rfl) rfl
theorem q1151 : (Jvm.Cond.soleField "SlimeNetModel" "readSpots") ∈ lw_all := lw_g (lw_at lw_m5 122 rfl) rfl
theorem q1152 : (Jvm.Cond.lays "SlimeNetModel" "SlimeNetModel" "readPipes" "I") ∈ lw_all := lw_g (lw_at lw_m5 123 rfl) rfl
theorem q1153 : (Jvm.Cond.soleField "SlimeNetModel" "readPipes") ∈ lw_all := lw_g (lw_at lw_m5 124 rfl) rfl
theorem q1154 : (Jvm.Cond.lays "SlimeNetModel" "SlimeNetModel" "readFlakes" "I") ∈ lw_all := lw_g (lw_at lw_m5 125 rfl) rfl
theorem q1155 : (Jvm.Cond.soleField "SlimeNetModel" "readFlakes") ∈ lw_all := lw_g (lw_at lw_m5 126 rfl) rfl
theorem q1156 : (Jvm.Cond.lays "SlimeNetModel" "SlimeNetModel" "readUp" "I") ∈ lw_all := lw_g (lw_at lw_m5 127 rfl) rfl
theorem q1157 : (Jvm.Cond.soleField "SlimeNetModel" "readUp") ∈ lw_all := lw_g (lw_at lw_m5 128 rfl) rfl
theorem q1158 : (Jvm.Cond.lays "SlimeNetModel" "SlimeNetModel" "readDown" "I") ∈ lw_all := lw_g (lw_at lw_m5 129 rfl) rfl
theorem q1159 : (Jvm.Cond.soleField "SlimeNetModel" "readDown") ∈ lw_all := lw_g (lw_at lw_m5 130 rfl) rfl
theorem q1160 : (Jvm.Cond.lays "SlimeNetModel" "SlimeNetModel" "readWide" "I") ∈ lw_all := lw_g (lw_at lw_m5 131 rfl) rfl
theorem q1161 : (Jvm.Cond.soleField "SlimeNetModel" "readWide") ∈ lw_all := lw_g (lw_at lw_m5 132 rfl) rfl
theorem q1162 : (Jvm.Cond.lays "SlimeNetModel" "SlimeNetModel" "readLearn" "I") ∈ lw_all := lw_g (lw_at lw_m5 133 rfl) rfl
theorem q1163 : (Jvm.Cond.soleField "SlimeNetModel" "readLearn") ∈ lw_all := lw_g (lw_at lw_m5 134 rfl) rfl
theorem q1164 : (Jvm.Cond.lays "SlimeNetModel" "SlimeNetModel" "readSalted" "I") ∈ lw_all := lw_g (lw_at lw_m5 135 rfl) rfl
theorem q1165 : (Jvm.Cond.soleField "SlimeNetModel" "readSalted") ∈ lw_all := lw_g (lw_at lw_m5 136 rfl) rfl
theorem q1166 : (Jvm.Cond.lays "SlimeNetModel" "SlimeNetModel" "read" "I") ∈ lw_all := lw_g (lw_at lw_m5 137 rfl) rfl
theorem q1167 : (Jvm.Cond.soleField "SlimeNetModel" "read") ∈ lw_all := lw_g (lw_at lw_m5 138 rfl) rfl
theorem q1168 : (Jvm.Cond.lays "SlimeNetModel" "SlimeNetModel" "lawTold" "Z") ∈ lw_all := lw_g (lw_at lw_m5 139 rfl) rfl
theorem q1169 : (Jvm.Cond.soleField "SlimeNetModel" "lawTold") ∈ lw_all := lw_g (lw_at lw_m5 140 rfl) rfl
theorem q1170 : (Jvm.Cond.lays "SlimeNetModel" "SlimeNetModel" "widthTold" "Z") ∈ lw_all := lw_g (lw_at lw_m5 141 rfl) rfl
theorem q1171 : (Jvm.Cond.soleField "SlimeNetModel" "widthTold") ∈ lw_all := lw_g (lw_at lw_m5 142 rfl) rfl
theorem q1172 : (Jvm.Cond.lays "SlimeNetModel" "SlimeNetModel" "learnTold" "Z") ∈ lw_all := lw_g (lw_at lw_m5 143 rfl) rfl
theorem q1173 : (Jvm.Cond.soleField "SlimeNetModel" "learnTold") ∈ lw_all := lw_g (lw_at lw_m5 144 rfl) rfl
theorem q1174 : (Jvm.Cond.laysFinal "SlimeNetModel" "SlimeNetModel" "names" "[J") ∈ lw_all := lw_g (lw_at lw_m5 145 rfl) rfl
theorem q1175 : (Jvm.Cond.soleField "SlimeNetModel" "names") ∈ lw_all := lw_g (lw_at lw_m5 146 rfl) rfl
theorem q1176 : (Jvm.Cond.laysFinal "SlimeNetModel" "SlimeNetModel" "one" "[I") ∈ lw_all := lw_g (lw_at lw_m5 147 rfl) rfl
theorem q1177 : (Jvm.Cond.soleField "SlimeNetModel" "one") ∈ lw_all := lw_g (lw_at lw_m5 148 rfl) rfl
theorem q1178 : (Jvm.Cond.laysFinal "SlimeNetModel" "SlimeNetModel" "two" "[I") ∈ lw_all := lw_g (lw_at lw_m5 149 rfl) rfl
theorem q1179 : (Jvm.Cond.soleField "SlimeNetModel" "two") ∈ lw_all := lw_g (lw_at lw_m5 150 rfl) rfl
theorem q1180 : (Jvm.Cond.laysFinal "SlimeNetModel" "SlimeNetModel" "long0" "[I") ∈ lw_all := lw_g (lw_at lw_m5 151 rfl) rfl
theorem q1181 : (Jvm.Cond.soleField "SlimeNetModel" "long0") ∈ lw_all := lw_g (lw_at lw_m5 152 rfl) rfl
theorem q1182 : (Jvm.Cond.laysFinal "SlimeNetModel" "SlimeNetModel" "flake" "[I") ∈ lw_all := lw_g (lw_at lw_m5 153 rfl) rfl
theorem q1183 : (Jvm.Cond.soleField "SlimeNetModel" "flake") ∈ lw_all := lw_g (lw_at lw_m5 154 rfl) rfl
theorem q1184 : (Jvm.Cond.laysFinal "SlimeNetModel" "SlimeNetModel" "readOne" "[I") ∈ lw_all := lw_g (lw_at lw_m5 155 rfl) rfl
theorem q1185 : (Jvm.Cond.soleField "SlimeNetModel" "readOne") ∈ lw_all := lw_g (lw_at lw_m5 156 rfl) rfl
theorem q1186 : (Jvm.Cond.laysFinal "SlimeNetModel" "SlimeNetModel" "readTwo" "[I") ∈ lw_all := lw_g (lw_at lw_m5 157 rfl) rfl
theorem q1187 : (Jvm.Cond.soleField "SlimeNetModel" "readTwo") ∈ lw_all := lw_g (lw_at lw_m5 158 rfl) rfl
theorem q1188 : (Jvm.Cond.laysFinal "SlimeNetModel" "SlimeNetModel" "readLong" "[I") ∈ lw_all := lw_g (lw_at lw_m5 159 rfl) rfl
theorem q1189 : (Jvm.Cond.soleField "SlimeNetModel" "readLong") ∈ lw_all := lw_g (lw_at lw_m5 160 rfl) rfl
theorem q1190 : (Jvm.Cond.laysFinal "SlimeNetModel" "SlimeNetModel" "readFlake" "[I") ∈ lw_all := lw_g (lw_at lw_m5 161 rfl) rfl
theorem q1191 : (Jvm.Cond.soleField "SlimeNetModel" "readFlake") ∈ lw_all := lw_g (lw_at lw_m5 162 rfl) rfl
theorem q1192 : (Jvm.Cond.laysFinal "SlimeNetModel" "SlimeNetModel" "treeSpots" "[I") ∈ lw_all := lw_g (lw_at lw_m5 163 rfl) rfl
theorem q1193 : (Jvm.Cond.soleField "SlimeNetModel" "treeSpots") ∈ lw_all := lw_g (lw_at lw_m5 164 rfl) rfl
theorem q1194 : (Jvm.Cond.laysFinal "SlimeNetModel" "SlimeNetModel" "pathTo" "[I") ∈ lw_all := lw_g (lw_at lw_m5 165 rfl) rfl
theorem q1195 : (Jvm.Cond.soleField "SlimeNetModel" "pathTo") ∈ lw_all := lw_g (lw_at lw_m5 166 rfl) rfl
theorem q1196 : (Jvm.Cond.laysFinal "SlimeNetModel" "SlimeNetModel" "onward" "[I") ∈ lw_all := lw_g (lw_at lw_m5 167 rfl) rfl
theorem q1197 : (Jvm.Cond.soleField "SlimeNetModel" "onward") ∈ lw_all := lw_g (lw_at lw_m5 168 rfl) rfl
theorem q1198 : (Jvm.Cond.laysFinal "SlimeNetModel" "SlimeNetModel" "leads" "[I") ∈ lw_all := lw_g (lw_at lw_m5 169 rfl) rfl
theorem q1199 : (Jvm.Cond.soleField "SlimeNetModel" "leads") ∈ lw_all := lw_g (lw_at lw_m5 170 rfl) rfl
theorem q1200 : (Jvm.Cond.laysFinal "SlimeNetModel" "SlimeNetModel" "through" "[J") ∈ lw_all := lw_g (lw_at lw_m5 171 rfl) rfl
theorem q1201 : (Jvm.Cond.soleField "SlimeNetModel" "through") ∈ lw_all := lw_g (lw_at lw_m5 172 rfl) rfl
theorem q1202 : (Jvm.Cond.lays "SlimeNetModel" "SlimeNetModel" "sum" "J") ∈ lw_all := lw_g (lw_at lw_m5 173 rfl) rfl
theorem q1203 : (Jvm.Cond.soleField "SlimeNetModel" "sum") ∈ lw_all := lw_g (lw_at lw_m5 174 rfl) rfl
theorem q1204 : (Jvm.Cond.laysFinal "SlimeNetModel" "SlimeNetModel" "width" "[I") ∈ lw_all := lw_g (lw_at lw_m5 175 rfl) rfl
theorem q1205 : (Jvm.Cond.soleField "SlimeNetModel" "width") ∈ lw_all := lw_g (lw_at lw_m5 176 rfl) rfl
theorem q1206 : (Jvm.Cond.laysFinal "SlimeNetModel" "SlimeNetModel" "count" "[I") ∈ lw_all := lw_g (lw_at lw_m5 177 rfl) rfl
theorem q1207 : (Jvm.Cond.soleField "SlimeNetModel" "count") ∈ lw_all := lw_g (lw_at lw_m5 178 rfl) rfl
theorem q1208 : (Jvm.Cond.lays "SlimeNetModel" "SlimeNetModel" "hour" "I") ∈ lw_all := lw_g (lw_at lw_m5 179 rfl) rfl
theorem q1209 : (Jvm.Cond.soleField "SlimeNetModel" "hour") ∈ lw_all := lw_g (lw_at lw_m5 180 rfl) rfl
theorem q1210 : (Jvm.Cond.laysFinal "SlimeNetModel" "SlimeNetModel" "wasWidth" "[I") ∈ lw_all := lw_g (lw_at lw_m5 181 rfl) rfl
theorem q1211 : (Jvm.Cond.soleField "SlimeNetModel" "wasWidth") ∈ lw_all := lw_g (lw_at lw_m5 182 rfl) rfl
theorem q1212 : (Jvm.Cond.laysFinal "SlimeNetModel" "SlimeNetModel" "wasCount" "[I") ∈ lw_all := lw_g (lw_at lw_m5 183 rfl) rfl
theorem q1213 : (Jvm.Cond.soleField "SlimeNetModel" "wasCount") ∈ lw_all := lw_g (lw_at lw_m5 184 rfl) rfl
theorem q1214 : (Jvm.Cond.lays "SlimeNetModel" "SlimeNetModel" "ring" "I") ∈ lw_all := lw_g (lw_at lw_m5 185 rfl) rfl
theorem q1215 : (Jvm.Cond.soleField "SlimeNetModel" "ring") ∈ lw_all := lw_g (lw_at lw_m5 186 rfl) rfl
theorem q1216 : (Jvm.Cond.laysFinal "SlimeNetModel" "SlimeNetModel" "slotWidth" "[I") ∈ lw_all := lw_g (lw_at lw_m5 187 rfl) rfl
theorem q1217 : (Jvm.Cond.soleField "SlimeNetModel" "slotWidth") ∈ lw_all := lw_g (lw_at lw_m5 188 rfl) rfl
theorem q1218 : (Jvm.Cond.laysFinal "SlimeNetModel" "SlimeNetModel" "slotCount" "[I") ∈ lw_all := lw_g (lw_at lw_m5 189 rfl) rfl
theorem q1219 : (Jvm.Cond.soleField "SlimeNetModel" "slotCount") ∈ lw_all := lw_g (lw_at lw_m5 190 rfl) rfl
theorem q1220 : (Jvm.Cond.laysFinal "SlimeNetModel" "SlimeNetModel" "slotHour" "[I") ∈ lw_all := lw_g (lw_at lw_m5 191 rfl) rfl
theorem q1221 : (Jvm.Cond.soleField "SlimeNetModel" "slotHour") ∈ lw_all := lw_g (lw_at lw_m5 192 rfl) rfl
theorem q1222 : (Jvm.Cond.laysFinal "SlimeNetModel" "SlimeNetModel" "isKept" "[Z") ∈ lw_all := lw_g (lw_at lw_m5 193 rfl) rfl
theorem q1223 : (Jvm.Cond.soleField "SlimeNetModel" "isKept") ∈ lw_all := lw_g (lw_at lw_m5 194 rfl) rfl
theorem q1224 : (Jvm.Cond.laysFinal "SlimeNetModel" "SlimeNetModel" "far" "[I") ∈ lw_all := lw_g (lw_at lw_m5 195 rfl) rfl
theorem q1225 : (Jvm.Cond.soleField "SlimeNetModel" "far") ∈ lw_all := lw_g (lw_at lw_m5 196 rfl) rfl
theorem q1226 : (Jvm.Cond.laysFinal "SlimeNetModel" "SlimeNetModel" "sureBy" "[I") ∈ lw_all := lw_g (lw_at lw_m5 197 rfl) rfl
theorem q1227 : (Jvm.Cond.soleField "SlimeNetModel" "sureBy") ∈ lw_all := lw_g (lw_at lw_m5 198 rfl) rfl
theorem q1228 : (Jvm.Cond.laysFinal "SlimeNetModel" "SlimeNetModel" "netBy" "[I") ∈ lw_all := lw_g (lw_at lw_m5 199 rfl) rfl
theorem q1229 : (Jvm.Cond.soleField "SlimeNetModel" "netBy") ∈ lw_all := lw_g (lw_at lw_m5 200 rfl) rfl
theorem q1230 : (Jvm.Cond.laysFinal "SlimeNetModel" "SlimeNetModel" "ownBy" "[I") ∈ lw_all := lw_g (lw_at lw_m5 201 rfl) rfl
theorem q1231 : (Jvm.Cond.soleField "SlimeNetModel" "ownBy") ∈ lw_all := lw_g (lw_at lw_m5 202 rfl) rfl
theorem q1232 : (Jvm.Cond.laysFinal "SlimeNetModel" "SlimeNetModel" "lawWidth" "[I") ∈ lw_all := lw_g (lw_at lw_m5 203 rfl) rfl
theorem q1233 : (Jvm.Cond.soleField "SlimeNetModel" "lawWidth") ∈ lw_all := lw_g (lw_at lw_m5 204 rfl) rfl
theorem q1234 : (Jvm.Cond.laysFinal "SlimeNetModel" "SlimeNetModel" "lawCount" "[I") ∈ lw_all := lw_g (lw_at lw_m5 205 rfl) rfl
theorem q1235 : (Jvm.Cond.soleField "SlimeNetModel" "lawCount") ∈ lw_all := lw_g (lw_at lw_m5 206 rfl) rfl
theorem q1236 : (Jvm.Cond.lays "SlimeNetModel" "SlimeNetModel" "hasLaws" "Z") ∈ lw_all := lw_g (lw_at lw_m5 207 rfl) rfl
theorem q1237 : (Jvm.Cond.soleField "SlimeNetModel" "hasLaws") ∈ lw_all := lw_g (lw_at lw_m5 208 rfl) rfl
theorem q1238 : (Jvm.Cond.lays "SlimeNetModel" "SlimeNetModel" "seen" "I") ∈ lw_all := lw_g (lw_at lw_m5 209 rfl) rfl
theorem q1239 : (Jvm.Cond.soleField "SlimeNetModel" "seen") ∈ lw_all := lw_g (lw_at lw_m5 210 rfl) rfl
theorem q1240 : (Jvm.Cond.lays "SlimeNetModel" "SlimeNetModel" "rights" "I") ∈ lw_all := lw_g (lw_at lw_m5 211 rfl) rfl
theorem q1241 : (Jvm.Cond.soleField "SlimeNetModel" "rights") ∈ lw_all := lw_g (lw_at lw_m5 212 rfl) rfl
theorem q1242 : (Jvm.Cond.lays "SlimeNetModel" "SlimeNetModel" "telling" "I") ∈ lw_all := lw_g (lw_at lw_m5 213 rfl) rfl
theorem q1243 : (Jvm.Cond.soleField "SlimeNetModel" "telling") ∈ lw_all := lw_g (lw_at lw_m5 214 rfl) rfl
theorem q1244 : (Jvm.Cond.laysFinal "SlimeNetModel" "SlimeNetModel" "seenHour" "[I") ∈ lw_all := lw_g (lw_at lw_m5 215 rfl) rfl
theorem q1245 : (Jvm.Cond.soleField "SlimeNetModel" "seenHour") ∈ lw_all := lw_g (lw_at lw_m5 216 rfl) rfl
theorem q1246 : (Jvm.Cond.laysFinal "SlimeNetModel" "SlimeNetModel" "seenNet" "[I") ∈ lw_all := lw_g (lw_at lw_m5 217 rfl) rfl
theorem q1247 : (Jvm.Cond.soleField "SlimeNetModel" "seenNet") ∈ lw_all := lw_g (lw_at lw_m5 218 rfl) rfl
theorem q1248 : (Jvm.Cond.laysFinal "SlimeNetModel" "SlimeNetModel" "seenAt" "[I") ∈ lw_all := lw_g (lw_at lw_m5 219 rfl) rfl
theorem q1249 : (Jvm.Cond.soleField "SlimeNetModel" "seenAt") ∈ lw_all := lw_g (lw_at lw_m5 220 rfl) rfl
theorem q1250 : (Jvm.Cond.laysFinal "SlimeNetModel" "SlimeNetModel" "rightOf" "[I") ∈ lw_all := lw_g (lw_at lw_m5 221 rfl) rfl
theorem q1251 : (Jvm.Cond.soleField "SlimeNetModel" "rightOf") ∈ lw_all := lw_g (lw_at lw_m5 222 rfl) rfl
theorem q1252 : (Jvm.Cond.laysFinal "SlimeNetModel" "SlimeNetModel" "rightNet" "[I") ∈ lw_all := lw_g (lw_at lw_m5 223 rfl) rfl
theorem q1253 : (Jvm.Cond.soleField "SlimeNetModel" "rightNet") ∈ lw_all := lw_g (lw_at lw_m5 224 rfl) rfl
theorem q1254 : (Jvm.Cond.laysFinal "SlimeNetModel" "SlimeNetModel" "rightAt" "[I") ∈ lw_all := lw_g (lw_at lw_m5 225 rfl) rfl
theorem q1255 : (Jvm.Cond.soleField "SlimeNetModel" "rightAt") ∈ lw_all := lw_g (lw_at lw_m5 226 rfl) rfl
theorem q1256 : (Jvm.Cond.laysFinal "SlimeNetModel" "SlimeNetModel" "agreeing" "[I") ∈ lw_all := lw_g (lw_at lw_m5 227 rfl) rfl
theorem q1257 : (Jvm.Cond.soleField "SlimeNetModel" "agreeing") ∈ lw_all := lw_g (lw_at lw_m5 228 rfl) rfl
theorem q1258 : (Jvm.Cond.superclass "SlimeNetModel" "java/lang/Object") ∈ lw_all := lw_g (lw_at lw_m5 229 rfl) rfl
theorem q1260 : (Jvm.Cond.instanceMethod ({ cls := "SlimeNetModel", name := "feed", desc := "(IIIII)I" } : Jvm.MethodName)) ∈ lw_all := lw_g (lw_at lw_m5 231 rfl) rfl
theorem q1261 : (Jvm.Cond.selects "SlimeNetModel" ({ cls := "SlimeNetModel", name := "feed", desc := "(IIIII)I" } : Jvm.MethodName) ({ cls := "SlimeNetModel", name := "feed", desc := "(IIIII)I" } : Jvm.MethodName)) ∈ lw_all := lw_g (lw_at lw_m5 232 rfl) rfl
theorem q1262 : (Jvm.Cond.code ({ cls := "SlimeNetModel", name := "feed", desc := "(IIIII)I" } : Jvm.MethodName) prog_9_method_21_code (6 : Nat) (Option.some Jvm.ClassFile.FieldType.int)) ∈ lw_all := lw_g (lw_at lw_m5 233 rfl) rfl
theorem q1263 : (Jvm.Cond.methodLink "SlimeNetModel" (287 : Nat) ({ cls := "SlimeNetModel", name := "putFour", desc := "(I)V" } : Jvm.MethodName)) ∈ lw_all := lw_g (lw_at lw_m5 234 rfl) rfl
theorem q1264 : (Jvm.Cond.privateMethod ({ cls := "SlimeNetModel", name := "putFour", desc := "(I)V" } : Jvm.MethodName)) ∈ lw_tbl := lw_at lw_m5 235 rfl
theorem q1265 : (Jvm.Cond.instanceMethod ({ cls := "SlimeNetModel", name := "putFour", desc := "(I)V" } : Jvm.MethodName)) ∈ lw_all := lw_g (lw_at lw_m5 236 rfl) rfl
theorem q1266 : (Jvm.Cond.code ({ cls := "SlimeNetModel", name := "putFour", desc := "(I)V" } : Jvm.MethodName) prog_9_method_22_code (3 : Nat) (Option.none : Option Jvm.ClassFile.FieldType)) ∈ lw_all := lw_g (lw_at lw_m5 237 rfl) rfl
theorem q1268 : (Jvm.Cond.instanceMethod ({ cls := "SlimeNetModel", name := "end", desc := "(I)I" } : Jvm.MethodName)) ∈ lw_all := lw_g (lw_at lw_m5 239 rfl) rfl
theorem q1269 : (Jvm.Cond.selects "SlimeNetModel" ({ cls := "SlimeNetModel", name := "end", desc := "(I)I" } : Jvm.MethodName) ({ cls := "SlimeNetModel", name := "end", desc := "(I)I" } : Jvm.MethodName)) ∈ lw_all := lw_g (lw_at lw_m6 0 rfl) rfl
theorem q1270 : (Jvm.Cond.code ({ cls := "SlimeNetModel", name := "end", desc := "(I)I" } : Jvm.MethodName) prog_9_method_23_code (2 : Nat) (Option.some Jvm.ClassFile.FieldType.int)) ∈ lw_all := lw_g (lw_at lw_m6 1 rfl) rfl
theorem q1271 : (Jvm.Cond.methodLink "SlimeNetModel" (52 : Nat) ({ cls := "SlimeNetModel", name := "in", desc := "(JJJ)Z" } : Jvm.MethodName)) ∈ lw_all := lw_g (lw_at lw_m6 2 rfl) rfl
theorem q1272 : (Jvm.Cond.static ({ cls := "SlimeNetModel", name := "in", desc := "(JJJ)Z" } : Jvm.MethodName)) ∈ lw_all := lw_g (lw_at lw_m6 3 rfl) rfl
theorem q1273 : (Jvm.Cond.code ({ cls := "SlimeNetModel", name := "in", desc := "(JJJ)Z" } : Jvm.MethodName) prog_9_method_1_code (6 : Nat) (Option.some Jvm.ClassFile.FieldType.boolean)) ∈ lw_all := lw_g (lw_at lw_m6 4 rfl) rfl
theorem q1275 : (Jvm.Cond.instanceMethod ({ cls := "SlimeNetModel", name := "plate", desc := "()I" } : Jvm.MethodName)) ∈ lw_all := lw_g (lw_at lw_m6 6 rfl) rfl
theorem q1276 : (Jvm.Cond.selects "SlimeNetModel" ({ cls := "SlimeNetModel", name := "plate", desc := "()I" } : Jvm.MethodName) ({ cls := "SlimeNetModel", name := "plate", desc := "()I" } : Jvm.MethodName)) ∈ lw_all := lw_g (lw_at lw_m6 7 rfl) rfl
theorem q1277 : (Jvm.Cond.code ({ cls := "SlimeNetModel", name := "plate", desc := "()I" } : Jvm.MethodName) prog_9_method_24_code (2 : Nat) (Option.some Jvm.ClassFile.FieldType.int)) ∈ lw_all := lw_g (lw_at lw_m6 8 rfl) rfl
theorem q1278 : (Jvm.Cond.methodLink "SlimeNetModel" (59 : Nat) ({ cls := "SlimeNetModel", name := "scan", desc := "()V" } : Jvm.MethodName)) ∈ lw_all := lw_g (lw_at lw_m6 9 rfl) rfl
theorem q1279 : (Jvm.Cond.privateMethod ({ cls := "SlimeNetModel", name := "scan", desc := "()V" } : Jvm.MethodName)) ∈ lw_tbl := lw_at lw_m6 10 rfl
theorem q1280 : (Jvm.Cond.instanceMethod ({ cls := "SlimeNetModel", name := "scan", desc := "()V" } : Jvm.MethodName)) ∈ lw_all := lw_g (lw_at lw_m6 11 rfl) rfl
theorem q1281 : (Jvm.Cond.code ({ cls := "SlimeNetModel", name := "scan", desc := "()V" } : Jvm.MethodName) prog_9_method_6_code (2 : Nat) (Option.none : Option Jvm.ClassFile.FieldType)) ∈ lw_all := lw_g (lw_at lw_m6 12 rfl) rfl
theorem q1282 : (Jvm.Cond.methodLink "SlimeNetModel" (23 : Nat) ({ cls := "SlimeNetModel", name := "byteAt", desc := "(I)I" } : Jvm.MethodName)) ∈ lw_all := lw_g (lw_at lw_m6 13 rfl) rfl
theorem q1283 : (Jvm.Cond.privateMethod ({ cls := "SlimeNetModel", name := "byteAt", desc := "(I)I" } : Jvm.MethodName)) ∈ lw_tbl := lw_at lw_m6 14 rfl
theorem q1284 : (Jvm.Cond.instanceMethod ({ cls := "SlimeNetModel", name := "byteAt", desc := "(I)I" } : Jvm.MethodName)) ∈ lw_all := lw_g (lw_at lw_m6 15 rfl) rfl
theorem q1285 : (Jvm.Cond.code ({ cls := "SlimeNetModel", name := "byteAt", desc := "(I)I" } : Jvm.MethodName) prog_9_method_3_code (2 : Nat) (Option.some Jvm.ClassFile.FieldType.int)) ∈ lw_all := lw_g (lw_at lw_m6 16 rfl) rfl
theorem q1286 : (Jvm.Cond.methodLink "SlimeNetModel" (30 : Nat) ({ cls := "SlimeNetModel", name := "isSmall", desc := "(I)Z" } : Jvm.MethodName)) ∈ lw_all := lw_g (lw_at lw_m6 17 rfl) rfl
theorem q1287 : (Jvm.Cond.static ({ cls := "SlimeNetModel", name := "isSmall", desc := "(I)Z" } : Jvm.MethodName)) ∈ lw_all := lw_g (lw_at lw_m6 18 rfl) rfl
theorem q1288 : (Jvm.Cond.code ({ cls := "SlimeNetModel", name := "isSmall", desc := "(I)Z" } : Jvm.MethodName) prog_9_method_4_code (1 : Nat) (Option.some Jvm.ClassFile.FieldType.boolean)) ∈ lw_all := lw_g (lw_at lw_m6 19 rfl) rfl
theorem q1289 : (Jvm.Cond.methodLink "SlimeNetModel" (34 : Nat) ({ cls := "SlimeNetModel", name := "isDigit", desc := "(I)Z" } : Jvm.MethodName)) ∈ lw_all := lw_g (lw_at lw_m6 20 rfl) rfl
theorem q1290 : (Jvm.Cond.static ({ cls := "SlimeNetModel", name := "isDigit", desc := "(I)Z" } : Jvm.MethodName)) ∈ lw_all := lw_g (lw_at lw_m6 21 rfl) rfl
theorem q1291 : (Jvm.Cond.code ({ cls := "SlimeNetModel", name := "isDigit", desc := "(I)Z" } : Jvm.MethodName) prog_9_method_5_code (1 : Nat) (Option.some Jvm.ClassFile.FieldType.boolean)) ∈ lw_all := lw_g (lw_at lw_m6 22 rfl) rfl
theorem q1292 : (Jvm.Cond.methodLink "SlimeNetModel" (291 : Nat) ({ cls := "SlimeNetModel", name := "readPlate", desc := "()Z" } : Jvm.MethodName)) ∈ lw_all := lw_g (lw_at lw_m6 23 rfl) rfl
theorem q1293 : (Jvm.Cond.privateMethod ({ cls := "SlimeNetModel", name := "readPlate", desc := "()Z" } : Jvm.MethodName)) ∈ lw_tbl := lw_at lw_m6 24 rfl
theorem q1294 : (Jvm.Cond.instanceMethod ({ cls := "SlimeNetModel", name := "readPlate", desc := "()Z" } : Jvm.MethodName)) ∈ lw_all := lw_g (lw_at lw_m6 25 rfl) rfl
theorem q1295 : (Jvm.Cond.code ({ cls := "SlimeNetModel", name := "readPlate", desc := "()Z" } : Jvm.MethodName) prog_9_method_19_code (2 : Nat) (Option.some Jvm.ClassFile.FieldType.boolean)) ∈ lw_all := lw_g (lw_at lw_m6 26 rfl) rfl
theorem q1296 : (Jvm.Cond.stringRef "SlimeNetModel" (149 : Nat) "spot") ∈ lw_tbl := lw_at lw_m6 27 rfl
theorem q1297 : (Jvm.Cond.methodLink "SlimeNetModel" (112 : Nat) ({ cls := "SlimeNetModel", name := "is", desc := "(Ljava/lang/String;)Z" } : Jvm.MethodName)) ∈ lw_all := lw_g (lw_at lw_m6 28 rfl) rfl
theorem q1298 : (Jvm.Cond.privateMethod ({ cls := "SlimeNetModel", name := "is", desc := "(Ljava/lang/String;)Z" } : Jvm.MethodName)) ∈ lw_tbl := lw_at lw_m6 29 rfl
theorem q1299 : (Jvm.Cond.instanceMethod ({ cls := "SlimeNetModel", name := "is", desc := "(Ljava/lang/String;)Z" } : Jvm.MethodName)) ∈ lw_all := lw_g (lw_at lw_m6 30 rfl) rfl
theorem q1300 : (Jvm.Cond.code ({ cls := "SlimeNetModel", name := "is", desc := "(Ljava/lang/String;)Z" } : Jvm.MethodName) prog_9_method_7_code (4 : Nat) (Option.some Jvm.ClassFile.FieldType.boolean)) ∈ lw_all := lw_g (lw_at lw_m6 31 rfl) rfl
theorem q1301 : (Jvm.Cond.methodLink "SlimeNetModel" (40 : Nat) ({ cls := "java/lang/String", name := "length", desc := "()I" } : Jvm.MethodName)) ∈ lw_all := lw_g (lw_at lw_m6 32 rfl) rfl
theorem q1302 : (Jvm.Cond.methodLink "SlimeNetModel" (45 : Nat) ({ cls := "java/lang/String", name := "charAt", desc := "(I)C" } : Jvm.MethodName)) ∈ lw_all := lw_g (lw_at lw_m6 33 rfl) rfl
theorem q1303 : (Jvm.Cond.methodLink "SlimeNetModel" (151 : Nat) ({ cls := "SlimeNetModel", name := "readSpot", desc := "()Z" } : Jvm.MethodName)) ∈ lw_all := lw_g (lw_at lw_m6 34 rfl) rfl
theorem q1304 : (Jvm.Cond.privateMethod ({ cls := "SlimeNetModel", name := "readSpot", desc := "()Z" } : Jvm.MethodName)) ∈ lw_tbl := lw_at lw_m6 35 rfl
theorem q1305 : (Jvm.Cond.instanceMethod ({ cls := "SlimeNetModel", name := "readSpot", desc := "()Z" } : Jvm.MethodName)) ∈ lw_all := lw_g (lw_at lw_m6 36 rfl) rfl
theorem q1306 : (Jvm.Cond.code ({ cls := "SlimeNetModel", name := "readSpot", desc := "()Z" } : Jvm.MethodName) prog_9_method_11_code (1 : Nat) (Option.some Jvm.ClassFile.FieldType.boolean)) ∈ lw_all := lw_g (lw_at lw_m6 37 rfl) rfl
theorem q1307 : (Jvm.Cond.methodLink "SlimeNetModel" (49 : Nat) ({ cls := "SlimeNetModel", name := "bad", desc := "(I)Z" } : Jvm.MethodName)) ∈ lw_all := lw_g (lw_at lw_m6 38 rfl) rfl
theorem q1308 : (Jvm.Cond.privateMethod ({ cls := "SlimeNetModel", name := "bad", desc := "(I)Z" } : Jvm.MethodName)) ∈ lw_tbl := lw_at lw_m6 39 rfl
theorem q1309 : (Jvm.Cond.instanceMethod ({ cls := "SlimeNetModel", name := "bad", desc := "(I)Z" } : Jvm.MethodName)) ∈ lw_all := lw_g (lw_at lw_m6 40 rfl) rfl
theorem q1310 : (Jvm.Cond.code ({ cls := "SlimeNetModel", name := "bad", desc := "(I)Z" } : Jvm.MethodName) prog_9_method_2_code (2 : Nat) (Option.some Jvm.ClassFile.FieldType.boolean)) ∈ lw_all := lw_g (lw_at lw_m6 41 rfl) rfl
theorem q1311 : (Jvm.Cond.methodLink "SlimeNetModel" (74 : Nat) ({ cls := "SlimeNetModel", name := "spotAt", desc := "()I" } : Jvm.MethodName)) ∈ lw_all := lw_g (lw_at lw_m6 42 rfl) rfl
theorem q1312 : (Jvm.Cond.privateMethod ({ cls := "SlimeNetModel", name := "spotAt", desc := "()I" } : Jvm.MethodName)) ∈ lw_tbl := lw_at lw_m6 43 rfl
theorem q1313 : (Jvm.Cond.instanceMethod ({ cls := "SlimeNetModel", name := "spotAt", desc := "()I" } : Jvm.MethodName)) ∈ lw_all := lw_g (lw_at lw_m6 44 rfl) rfl
theorem q1314 : (Jvm.Cond.code ({ cls := "SlimeNetModel", name := "spotAt", desc := "()I" } : Jvm.MethodName) prog_9_method_10_code (2 : Nat) (Option.some Jvm.ClassFile.FieldType.int)) ∈ lw_all := lw_g (lw_at lw_m6 45 rfl) rfl
theorem q1315 : (Jvm.Cond.methodLink "SlimeNetModel" (70 : Nat) ({ cls := "SlimeNetModel", name := "name", desc := "()J" } : Jvm.MethodName)) ∈ lw_all := lw_g (lw_at lw_m6 46 rfl) rfl
theorem q1316 : (Jvm.Cond.privateMethod ({ cls := "SlimeNetModel", name := "name", desc := "()J" } : Jvm.MethodName)) ∈ lw_tbl := lw_at lw_m6 47 rfl
theorem q1317 : (Jvm.Cond.instanceMethod ({ cls := "SlimeNetModel", name := "name", desc := "()J" } : Jvm.MethodName)) ∈ lw_all := lw_g (lw_at lw_m6 48 rfl) rfl
theorem q1318 : (Jvm.Cond.code ({ cls := "SlimeNetModel", name := "name", desc := "()J" } : Jvm.MethodName) prog_9_method_9_code (4 : Nat) (Option.some Jvm.ClassFile.FieldType.long)) ∈ lw_all := lw_g (lw_at lw_m6 49 rfl) rfl
theorem q1319 : (Jvm.Cond.stringRef "SlimeNetModel" (154 : Nat) "pipe") ∈ lw_tbl := lw_at lw_m6 50 rfl
theorem q1320 : (Jvm.Cond.methodLink "SlimeNetModel" (156 : Nat) ({ cls := "SlimeNetModel", name := "readPipe", desc := "()Z" } : Jvm.MethodName)) ∈ lw_all := lw_g (lw_at lw_m6 51 rfl) rfl
theorem q1321 : (Jvm.Cond.privateMethod ({ cls := "SlimeNetModel", name := "readPipe", desc := "()Z" } : Jvm.MethodName)) ∈ lw_tbl := lw_at lw_m6 52 rfl
theorem q1322 : (Jvm.Cond.instanceMethod ({ cls := "SlimeNetModel", name := "readPipe", desc := "()Z" } : Jvm.MethodName)) ∈ lw_all := lw_g (lw_at lw_m6 53 rfl) rfl
theorem q1323 : (Jvm.Cond.code ({ cls := "SlimeNetModel", name := "readPipe", desc := "()Z" } : Jvm.MethodName) prog_9_method_15_code (3 : Nat) (Option.some Jvm.ClassFile.FieldType.boolean)) ∈ lw_all := lw_g (lw_at lw_m6 54 rfl) rfl
theorem q1324 : (Jvm.Cond.methodLink "SlimeNetModel" (87 : Nat) ({ cls := "SlimeNetModel", name := "known", desc := "()Z" } : Jvm.MethodName)) ∈ lw_all := lw_g (lw_at lw_m6 55 rfl) rfl
theorem q1325 : (Jvm.Cond.privateMethod ({ cls := "SlimeNetModel", name := "known", desc := "()Z" } : Jvm.MethodName)) ∈ lw_tbl := lw_at lw_m6 56 rfl
theorem q1326 : (Jvm.Cond.instanceMethod ({ cls := "SlimeNetModel", name := "known", desc := "()Z" } : Jvm.MethodName)) ∈ lw_all := lw_g (lw_at lw_m6 57 rfl) rfl
theorem q1327 : (Jvm.Cond.code ({ cls := "SlimeNetModel", name := "known", desc := "()Z" } : Jvm.MethodName) prog_9_method_12_code (1 : Nat) (Option.some Jvm.ClassFile.FieldType.boolean)) ∈ lw_all := lw_g (lw_at lw_m6 58 rfl) rfl
theorem q1328 : (Jvm.Cond.methodLink "SlimeNetModel" (91 : Nat) ({ cls := "SlimeNetModel", name := "pipeOf", desc := "(II)I" } : Jvm.MethodName)) ∈ lw_all := lw_g (lw_at lw_m6 59 rfl) rfl
theorem q1329 : (Jvm.Cond.privateMethod ({ cls := "SlimeNetModel", name := "pipeOf", desc := "(II)I" } : Jvm.MethodName)) ∈ lw_tbl := lw_at lw_m6 60 rfl
theorem q1330 : (Jvm.Cond.instanceMethod ({ cls := "SlimeNetModel", name := "pipeOf", desc := "(II)I" } : Jvm.MethodName)) ∈ lw_all := lw_g (lw_at lw_m6 61 rfl) rfl
theorem q1331 : (Jvm.Cond.code ({ cls := "SlimeNetModel", name := "pipeOf", desc := "(II)I" } : Jvm.MethodName) prog_9_method_13_code (4 : Nat) (Option.some Jvm.ClassFile.FieldType.int)) ∈ lw_all := lw_g (lw_at lw_m6 62 rfl) rfl
theorem q1332 : (Jvm.Cond.methodLink "SlimeNetModel" (95 : Nat) ({ cls := "SlimeNetModel", name := "isLength", desc := "(I)Z" } : Jvm.MethodName)) ∈ lw_all := lw_g (lw_at lw_m6 63 rfl) rfl
theorem q1333 : (Jvm.Cond.static ({ cls := "SlimeNetModel", name := "isLength", desc := "(I)Z" } : Jvm.MethodName)) ∈ lw_all := lw_g (lw_at lw_m6 64 rfl) rfl
theorem q1334 : (Jvm.Cond.code ({ cls := "SlimeNetModel", name := "isLength", desc := "(I)Z" } : Jvm.MethodName) prog_9_method_14_code (1 : Nat) (Option.some Jvm.ClassFile.FieldType.boolean)) ∈ lw_all := lw_g (lw_at lw_m6 65 rfl) rfl
theorem q1335 : (Jvm.Cond.stringRef "SlimeNetModel" (159 : Nat) "food") ∈ lw_tbl := lw_at lw_m6 66 rfl
theorem q1336 : (Jvm.Cond.methodLink "SlimeNetModel" (161 : Nat) ({ cls := "SlimeNetModel", name := "readFood", desc := "()Z" } : Jvm.MethodName)) ∈ lw_all := lw_g (lw_at lw_m6 67 rfl) rfl
theorem q1337 : (Jvm.Cond.privateMethod ({ cls := "SlimeNetModel", name := "readFood", desc := "()Z" } : Jvm.MethodName)) ∈ lw_tbl := lw_at lw_m6 68 rfl
theorem q1338 : (Jvm.Cond.instanceMethod ({ cls := "SlimeNetModel", name := "readFood", desc := "()Z" } : Jvm.MethodName)) ∈ lw_all := lw_g (lw_at lw_m6 69 rfl) rfl
theorem q1339 : (Jvm.Cond.code ({ cls := "SlimeNetModel", name := "readFood", desc := "()Z" } : Jvm.MethodName) prog_9_method_16_code (3 : Nat) (Option.some Jvm.ClassFile.FieldType.boolean)) ∈ lw_all := lw_g (lw_at lw_m6 70 rfl) rfl
theorem q1340 : (Jvm.Cond.stringRef "SlimeNetModel" (164 : Nat) "salt") ∈ lw_tbl := lw_at lw_m6 71 rfl
theorem q1341 : (Jvm.Cond.methodLink "SlimeNetModel" (166 : Nat) ({ cls := "SlimeNetModel", name := "readSalt", desc := "()Z" } : Jvm.MethodName)) ∈ lw_all := lw_g (lw_at lw_m6 72 rfl) rfl
theorem q1342 : (Jvm.Cond.privateMethod ({ cls := "SlimeNetModel", name := "readSalt", desc := "()Z" } : Jvm.MethodName)) ∈ lw_tbl := lw_at lw_m6 73 rfl
theorem q1343 : (Jvm.Cond.instanceMethod ({ cls := "SlimeNetModel", name := "readSalt", desc := "()Z" } : Jvm.MethodName)) ∈ lw_all := lw_g (lw_at lw_m6 74 rfl) rfl
theorem q1344 : (Jvm.Cond.code ({ cls := "SlimeNetModel", name := "readSalt", desc := "()Z" } : Jvm.MethodName) prog_9_method_17_code (4 : Nat) (Option.some Jvm.ClassFile.FieldType.boolean)) ∈ lw_all := lw_g (lw_at lw_m6 75 rfl) rfl
theorem q1345 : (Jvm.Cond.methodLink "SlimeNetModel" (169 : Nat) ({ cls := "SlimeNetModel", name := "readSmall", desc := "()Z" } : Jvm.MethodName)) ∈ lw_all := lw_g (lw_at lw_m6 76 rfl) rfl
theorem q1346 : (Jvm.Cond.privateMethod ({ cls := "SlimeNetModel", name := "readSmall", desc := "()Z" } : Jvm.MethodName)) ∈ lw_tbl := lw_at lw_m6 77 rfl
theorem q1347 : (Jvm.Cond.instanceMethod ({ cls := "SlimeNetModel", name := "readSmall", desc := "()Z" } : Jvm.MethodName)) ∈ lw_all := lw_g (lw_at lw_m6 78 rfl) rfl
theorem q1348 : (Jvm.Cond.code ({ cls := "SlimeNetModel", name := "readSmall", desc := "()Z" } : Jvm.MethodName) prog_9_method_18_code (3 : Nat) (Option.some Jvm.ClassFile.FieldType.boolean)) ∈ lw_all := lw_g (lw_at lw_m6 79 rfl) rfl
theorem q1349 : (Jvm.Cond.stringRef "SlimeNetModel" (110 : Nat) "law") ∈ lw_tbl := lw_at lw_m6 80 rfl
theorem q1350 : (Jvm.Cond.stringRef "SlimeNetModel" (116 : Nat) "width") ∈ lw_tbl := lw_at lw_m6 81 rfl
theorem q1351 : (Jvm.Cond.stringRef "SlimeNetModel" (118 : Nat) "learn") ∈ lw_tbl := lw_at lw_m6 82 rfl
theorem q1352 : (Jvm.Cond.methodLink "SlimeNetModel" (130 : Nat) ({ cls := "SlimeNetModel", name := "number", desc := "(II)Z" } : Jvm.MethodName)) ∈ lw_all := lw_g (lw_at lw_m6 83 rfl) rfl
theorem q1353 : (Jvm.Cond.privateMethod ({ cls := "SlimeNetModel", name := "number", desc := "(II)Z" } : Jvm.MethodName)) ∈ lw_tbl := lw_at lw_m6 84 rfl
theorem q1354 : (Jvm.Cond.instanceMethod ({ cls := "SlimeNetModel", name := "number", desc := "(II)Z" } : Jvm.MethodName)) ∈ lw_all := lw_g (lw_at lw_m6 85 rfl) rfl
theorem q1355 : (Jvm.Cond.code ({ cls := "SlimeNetModel", name := "number", desc := "(II)Z" } : Jvm.MethodName) prog_9_method_8_code (3 : Nat) (Option.some Jvm.ClassFile.FieldType.boolean)) ∈ lw_all := lw_g (lw_at lw_m6 86 rfl) rfl
theorem q1356 : (Jvm.Cond.methodLink "SlimeNetModel" (309 : Nat) ({ cls := "SlimeNetModel", name := "begin", desc := "()V" } : Jvm.MethodName)) ∈ lw_all := lw_g (lw_at lw_m6 87 rfl) rfl
theorem q1357 : (Jvm.Cond.privateMethod ({ cls := "SlimeNetModel", name := "begin", desc := "()V" } : Jvm.MethodName)) ∈ lw_tbl := lw_at lw_m6 88 rfl
theorem q1358 : (Jvm.Cond.instanceMethod ({ cls := "SlimeNetModel", name := "begin", desc := "()V" } : Jvm.MethodName)) ∈ lw_all := lw_g (lw_at lw_m6 89 rfl) rfl
theorem q1359 : (Jvm.Cond.code ({ cls := "SlimeNetModel", name := "begin", desc := "()V" } : Jvm.MethodName) prog_9_method_34_code (2 : Nat) (Option.none : Option Jvm.ClassFile.FieldType)) ∈ lw_all := lw_g (lw_at lw_m6 90 rfl) rfl
theorem q1361 : (Jvm.Cond.instanceMethod ({ cls := "SlimeNetModel", name := "fault", desc := "(I)I" } : Jvm.MethodName)) ∈ lw_all := lw_g (lw_at lw_m6 92 rfl) rfl
theorem q1362 : (Jvm.Cond.selects "SlimeNetModel" ({ cls := "SlimeNetModel", name := "fault", desc := "(I)I" } : Jvm.MethodName) ({ cls := "SlimeNetModel", name := "fault", desc := "(I)I" } : Jvm.MethodName)) ∈ lw_all := lw_g (lw_at lw_m6 93 rfl) rfl
theorem q1363 : (Jvm.Cond.code ({ cls := "SlimeNetModel", name := "fault", desc := "(I)I" } : Jvm.MethodName) prog_9_method_25_code (2 : Nat) (Option.some Jvm.ClassFile.FieldType.int)) ∈ lw_all := lw_g (lw_at lw_m6 94 rfl) rfl
theorem q1365 : (Jvm.Cond.instanceMethod ({ cls := "SlimeNetModel", name := "told", desc := "(I)I" } : Jvm.MethodName)) ∈ lw_all := lw_g (lw_at lw_m6 96 rfl) rfl
theorem q1366 : (Jvm.Cond.selects "SlimeNetModel" ({ cls := "SlimeNetModel", name := "told", desc := "(I)I" } : Jvm.MethodName) ({ cls := "SlimeNetModel", name := "told", desc := "(I)I" } : Jvm.MethodName)) ∈ lw_all := lw_g (lw_at lw_m6 97 rfl) rfl
theorem q1367 : (Jvm.Cond.code ({ cls := "SlimeNetModel", name := "told", desc := "(I)I" } : Jvm.MethodName) prog_9_method_27_code (2 : Nat) (Option.some Jvm.ClassFile.FieldType.int)) ∈ lw_all := lw_g (lw_at lw_m6 98 rfl) rfl
theorem q1368 : (Jvm.Cond.constantLong "SlimeNetModel" (324 : Nat) (10 : Int64)) ∈ lw_all := lw_g (lw_at lw_m6 99 rfl) rfl
theorem q1369 : (Jvm.Cond.constantLong "SlimeNetModel" (326 : Nat) (9 : Int64)) ∈ lw_all := lw_g (lw_at lw_m6 100 rfl) rfl
theorem q1370 : (Jvm.Cond.constantLong "SlimeNetModel" (328 : Nat) (20 : Int64)) ∈ lw_all := lw_g (lw_at lw_m6 101 rfl) rfl
theorem q1371 : (Jvm.Cond.constantLong "SlimeNetModel" (330 : Nat) (19 : Int64)) ∈ lw_all := lw_g (lw_at lw_m6 102 rfl) rfl
theorem q1372 : (Jvm.Cond.constantLong "SlimeNetModel" (332 : Nat) (30 : Int64)) ∈ lw_all := lw_g (lw_at lw_m6 103 rfl) rfl
theorem q1373 : (Jvm.Cond.constantLong "SlimeNetModel" (334 : Nat) (29 : Int64)) ∈ lw_all := lw_g (lw_at lw_m6 104 rfl) rfl
theorem q1374 : (Jvm.Cond.methodLink "SlimeNetModel" (336 : Nat) ({ cls := "SlimeNetModel", name := "pairs", desc := "()I" } : Jvm.MethodName)) ∈ lw_all := lw_g (lw_at lw_m6 105 rfl) rfl
theorem q1375 : (Jvm.Cond.privateMethod ({ cls := "SlimeNetModel", name := "pairs", desc := "()I" } : Jvm.MethodName)) ∈ lw_tbl := lw_at lw_m6 106 rfl
theorem q1376 : (Jvm.Cond.instanceMethod ({ cls := "SlimeNetModel", name := "pairs", desc := "()I" } : Jvm.MethodName)) ∈ lw_all := lw_g (lw_at lw_m6 107 rfl) rfl
theorem q1377 : (Jvm.Cond.code ({ cls := "SlimeNetModel", name := "pairs", desc := "()I" } : Jvm.MethodName) prog_9_method_26_code (1 : Nat) (Option.some Jvm.ClassFile.FieldType.int)) ∈ lw_all := lw_g (lw_at lw_m6 108 rfl) rfl
theorem q1379 : (Jvm.Cond.instanceMethod ({ cls := "SlimeNetModel", name := "width", desc := "(I)I" } : Jvm.MethodName)) ∈ lw_all := lw_g (lw_at lw_m6 110 rfl) rfl
theorem q1380 : (Jvm.Cond.selects "SlimeNetModel" ({ cls := "SlimeNetModel", name := "width", desc := "(I)I" } : Jvm.MethodName) ({ cls := "SlimeNetModel", name := "width", desc := "(I)I" } : Jvm.MethodName)) ∈ lw_all := lw_g (lw_at lw_m6 111 rfl) rfl
theorem q1381 : (Jvm.Cond.code ({ cls := "SlimeNetModel", name := "width", desc := "(I)I" } : Jvm.MethodName) prog_9_method_36_code (2 : Nat) (Option.some Jvm.ClassFile.FieldType.int)) ∈ lw_all := lw_g (lw_at lw_m6 112 rfl) rfl
theorem q1382 : (Jvm.Cond.methodLink "SlimeNetModel" (365 : Nat) ({ cls := "SlimeNetModel", name := "isPipe", desc := "(I)Z" } : Jvm.MethodName)) ∈ lw_all := lw_g (lw_at lw_m6 113 rfl) rfl
theorem q1383 : (Jvm.Cond.privateMethod ({ cls := "SlimeNetModel", name := "isPipe", desc := "(I)Z" } : Jvm.MethodName)) ∈ lw_tbl := lw_at lw_m6 114 rfl
theorem q1384 : (Jvm.Cond.instanceMethod ({ cls := "SlimeNetModel", name := "isPipe", desc := "(I)Z" } : Jvm.MethodName)) ∈ lw_all := lw_g (lw_at lw_m6 115 rfl) rfl
theorem q1385 : (Jvm.Cond.code ({ cls := "SlimeNetModel", name := "isPipe", desc := "(I)Z" } : Jvm.MethodName) prog_9_method_35_code (2 : Nat) (Option.some Jvm.ClassFile.FieldType.boolean)) ∈ lw_all := lw_g (lw_at lw_m6 116 rfl) rfl
theorem q1387 : (Jvm.Cond.instanceMethod ({ cls := "SlimeNetModel", name := "learnt", desc := "(I)I" } : Jvm.MethodName)) ∈ lw_all := lw_g (lw_at lw_m6 118 rfl) rfl
theorem q1388 : (Jvm.Cond.selects "SlimeNetModel" ({ cls := "SlimeNetModel", name := "learnt", desc := "(I)I" } : Jvm.MethodName) ({ cls := "SlimeNetModel", name := "learnt", desc := "(I)I" } : Jvm.MethodName)) ∈ lw_all := lw_g (lw_at lw_m6 119 rfl) rfl
theorem q1389 : (Jvm.Cond.code ({ cls := "SlimeNetModel", name := "learnt", desc := "(I)I" } : Jvm.MethodName) prog_9_method_37_code (2 : Nat) (Option.some Jvm.ClassFile.FieldType.int)) ∈ lw_all := lw_g (lw_at lw_m6 120 rfl) rfl
theorem q1391 : (Jvm.Cond.instanceMethod ({ cls := "SlimeNetModel", name := "set", desc := "(II)I" } : Jvm.MethodName)) ∈ lw_all := lw_g (lw_at lw_m6 122 rfl) rfl
theorem q1392 : (Jvm.Cond.selects "SlimeNetModel" ({ cls := "SlimeNetModel", name := "set", desc := "(II)I" } : Jvm.MethodName) ({ cls := "SlimeNetModel", name := "set", desc := "(II)I" } : Jvm.MethodName)) ∈ lw_all := lw_g (lw_at lw_m6 123 rfl) rfl
theorem q1393 : (Jvm.Cond.code ({ cls := "SlimeNetModel", name := "set", desc := "(II)I" } : Jvm.MethodName) prog_9_method_38_code (4 : Nat) (Option.some Jvm.ClassFile.FieldType.int)) ∈ lw_all := lw_g (lw_at lw_m6 124 rfl) rfl
theorem q1395 : (Jvm.Cond.instanceMethod ({ cls := "SlimeNetModel", name := "law", desc := "(II)I" } : Jvm.MethodName)) ∈ lw_all := lw_g (lw_at lw_m6 126 rfl) rfl
theorem q1396 : (Jvm.Cond.selects "SlimeNetModel" ({ cls := "SlimeNetModel", name := "law", desc := "(II)I" } : Jvm.MethodName) ({ cls := "SlimeNetModel", name := "law", desc := "(II)I" } : Jvm.MethodName)) ∈ lw_all := lw_g (lw_at lw_m6 127 rfl) rfl
theorem q1397 : (Jvm.Cond.code ({ cls := "SlimeNetModel", name := "law", desc := "(II)I" } : Jvm.MethodName) prog_9_method_39_code (3 : Nat) (Option.some Jvm.ClassFile.FieldType.int)) ∈ lw_all := lw_g (lw_at lw_m6 128 rfl) rfl
theorem q1399 : (Jvm.Cond.instanceMethod ({ cls := "SlimeNetModel", name := "flow", desc := "(I)J" } : Jvm.MethodName)) ∈ lw_all := lw_g (lw_at lw_m6 130 rfl) rfl
theorem q1400 : (Jvm.Cond.selects "SlimeNetModel" ({ cls := "SlimeNetModel", name := "flow", desc := "(I)J" } : Jvm.MethodName) ({ cls := "SlimeNetModel", name := "flow", desc := "(I)J" } : Jvm.MethodName)) ∈ lw_all := lw_g (lw_at lw_m6 131 rfl) rfl
theorem q1401 : (Jvm.Cond.code ({ cls := "SlimeNetModel", name := "flow", desc := "(I)J" } : Jvm.MethodName) prog_9_method_41_code (2 : Nat) (Option.some Jvm.ClassFile.FieldType.long)) ∈ lw_all := lw_g (lw_at lw_m6 132 rfl) rfl
theorem q1402 : (Jvm.Cond.constantLong "SlimeNetModel" (368 : Nat) (-9000000000000000000 : Int64)) ∈ lw_all := lw_g (lw_at lw_m6 133 rfl) rfl
theorem q1403 : (Jvm.Cond.methodLink "SlimeNetModel" (370 : Nat) ({ cls := "SlimeNetModel", name := "findFlows", desc := "([I[II)V" } : Jvm.MethodName)) ∈ lw_all := lw_g (lw_at lw_m6 134 rfl) rfl
theorem q1404 : (Jvm.Cond.privateMethod ({ cls := "SlimeNetModel", name := "findFlows", desc := "([I[II)V" } : Jvm.MethodName)) ∈ lw_tbl := lw_at lw_m6 135 rfl
theorem q1405 : (Jvm.Cond.instanceMethod ({ cls := "SlimeNetModel", name := "findFlows", desc := "([I[II)V" } : Jvm.MethodName)) ∈ lw_all := lw_g (lw_at lw_m6 136 rfl) rfl
theorem q1406 : (Jvm.Cond.code ({ cls := "SlimeNetModel", name := "findFlows", desc := "([I[II)V" } : Jvm.MethodName) prog_9_method_32_code (12 : Nat) (Option.none : Option Jvm.ClassFile.FieldType)) ∈ lw_all := lw_g (lw_at lw_m6 137 rfl) rfl
theorem q1407 : (Jvm.Cond.methodLink "SlimeNetModel" (351 : Nat) ({ cls := "SlimeNetModel", name := "widths", desc := "([II)I" } : Jvm.MethodName)) ∈ lw_all := lw_g (lw_at lw_m6 138 rfl) rfl
theorem q1408 : (Jvm.Cond.static ({ cls := "SlimeNetModel", name := "widths", desc := "([II)I" } : Jvm.MethodName)) ∈ lw_all := lw_g (lw_at lw_m6 139 rfl) rfl
theorem q1409 : (Jvm.Cond.code ({ cls := "SlimeNetModel", name := "widths", desc := "([II)I" } : Jvm.MethodName) prog_9_method_31_code (4 : Nat) (Option.some Jvm.ClassFile.FieldType.int)) ∈ lw_all := lw_g (lw_at lw_m6 140 rfl) rfl
theorem q1410 : (Jvm.Cond.methodLink "SlimeNetModel" (355 : Nat) ({ cls := "SlimeNetModel", name := "reach", desc := "(II)I" } : Jvm.MethodName)) ∈ lw_all := lw_g (lw_at lw_m6 141 rfl) rfl
theorem q1411 : (Jvm.Cond.privateMethod ({ cls := "SlimeNetModel", name := "reach", desc := "(II)I" } : Jvm.MethodName)) ∈ lw_tbl := lw_at lw_m6 142 rfl
theorem q1412 : (Jvm.Cond.instanceMethod ({ cls := "SlimeNetModel", name := "reach", desc := "(II)I" } : Jvm.MethodName)) ∈ lw_all := lw_g (lw_at lw_m6 143 rfl) rfl
theorem q1413 : (Jvm.Cond.code ({ cls := "SlimeNetModel", name := "reach", desc := "(II)I" } : Jvm.MethodName) prog_9_method_30_code (6 : Nat) (Option.some Jvm.ClassFile.FieldType.int)) ∈ lw_all := lw_g (lw_at lw_m6 144 rfl) rfl
theorem q1414 : (Jvm.Cond.methodLink "SlimeNetModel" (358 : Nat) ({ cls := "SlimeNetModel", name := "addTree", desc := "(III)V" } : Jvm.MethodName)) ∈ lw_all := lw_g (lw_at lw_m6 145 rfl) rfl
theorem q1415 : (Jvm.Cond.privateMethod ({ cls := "SlimeNetModel", name := "addTree", desc := "(III)V" } : Jvm.MethodName)) ∈ lw_tbl := lw_at lw_m6 146 rfl
theorem q1416 : (Jvm.Cond.instanceMethod ({ cls := "SlimeNetModel", name := "addTree", desc := "(III)V" } : Jvm.MethodName)) ∈ lw_all := lw_g (lw_at lw_m6 147 rfl) rfl
theorem q1417 : (Jvm.Cond.code ({ cls := "SlimeNetModel", name := "addTree", desc := "(III)V" } : Jvm.MethodName) prog_9_method_33_code (12 : Nat) (Option.none : Option Jvm.ClassFile.FieldType)) ∈ lw_all := lw_g (lw_at lw_m6 148 rfl) rfl
theorem q1418 : (Jvm.Cond.methodLink "SlimeNetModel" (374 : Nat) ({ cls := "SlimeNetModel", name := "common", desc := "(JJ)J" } : Jvm.MethodName)) ∈ lw_all := lw_g (lw_at lw_m6 149 rfl) rfl
theorem q1419 : (Jvm.Cond.static ({ cls := "SlimeNetModel", name := "common", desc := "(JJ)J" } : Jvm.MethodName)) ∈ lw_all := lw_g (lw_at lw_m6 150 rfl) rfl
theorem q1420 : (Jvm.Cond.code ({ cls := "SlimeNetModel", name := "common", desc := "(JJ)J" } : Jvm.MethodName) prog_9_method_40_code (10 : Nat) (Option.some Jvm.ClassFile.FieldType.long)) ∈ lw_all := lw_g (lw_at lw_m6 151 rfl) rfl
theorem q1422 : (Jvm.Cond.instanceMethod ({ cls := "SlimeNetModel", name := "under", desc := "(I)J" } : Jvm.MethodName)) ∈ lw_all := lw_g (lw_at lw_m6 153 rfl) rfl
theorem q1423 : (Jvm.Cond.selects "SlimeNetModel" ({ cls := "SlimeNetModel", name := "under", desc := "(I)J" } : Jvm.MethodName) ({ cls := "SlimeNetModel", name := "under", desc := "(I)J" } : Jvm.MethodName)) ∈ lw_all := lw_g (lw_at lw_m6 154 rfl) rfl
theorem q1424 : (Jvm.Cond.code ({ cls := "SlimeNetModel", name := "under", desc := "(I)J" } : Jvm.MethodName) prog_9_method_42_code (2 : Nat) (Option.some Jvm.ClassFile.FieldType.long)) ∈ lw_all := lw_g (lw_at lw_m6 155 rfl) rfl
theorem q1426 : (Jvm.Cond.instanceMethod ({ cls := "SlimeNetModel", name := "hours", desc := "(I)I" } : Jvm.MethodName)) ∈ lw_all := lw_g (lw_at lw_m6 157 rfl) rfl
theorem q1427 : (Jvm.Cond.selects "SlimeNetModel" ({ cls := "SlimeNetModel", name := "hours", desc := "(I)I" } : Jvm.MethodName) ({ cls := "SlimeNetModel", name := "hours", desc := "(I)I" } : Jvm.MethodName)) ∈ lw_all := lw_g (lw_at lw_m6 158 rfl) rfl
theorem q1428 : (Jvm.Cond.code ({ cls := "SlimeNetModel", name := "hours", desc := "(I)I" } : Jvm.MethodName) prog_9_method_45_code (2 : Nat) (Option.some Jvm.ClassFile.FieldType.int)) ∈ lw_all := lw_g (lw_at lw_m6 159 rfl) rfl
theorem q1429 : (Jvm.Cond.constantLong "SlimeNetModel" (387 : Nat) (500 : Int64)) ∈ lw_all := lw_g (lw_at lw_m6 160 rfl) rfl
theorem q1430 : (Jvm.Cond.methodLink "SlimeNetModel" (389 : Nat) ({ cls := "SlimeNetModel", name := "goOn", desc := "(I)V" } : Jvm.MethodName)) ∈ lw_all := lw_g (lw_at lw_m6 161 rfl) rfl
theorem q1431 : (Jvm.Cond.privateMethod ({ cls := "SlimeNetModel", name := "goOn", desc := "(I)V" } : Jvm.MethodName)) ∈ lw_tbl := lw_at lw_m6 162 rfl
theorem q1432 : (Jvm.Cond.instanceMethod ({ cls := "SlimeNetModel", name := "goOn", desc := "(I)V" } : Jvm.MethodName)) ∈ lw_all := lw_g (lw_at lw_m6 163 rfl) rfl
theorem q1433 : (Jvm.Cond.code ({ cls := "SlimeNetModel", name := "goOn", desc := "(I)V" } : Jvm.MethodName) prog_9_method_44_code (3 : Nat) (Option.none : Option Jvm.ClassFile.FieldType)) ∈ lw_all := lw_g (lw_at lw_m6 164 rfl) rfl
theorem q1434 : (Jvm.Cond.methodLink "SlimeNetModel" (383 : Nat) ({ cls := "SlimeNetModel", name := "pass", desc := "([I[IIII)V" } : Jvm.MethodName)) ∈ lw_all := lw_g (lw_at lw_m6 165 rfl) rfl
theorem q1435 : (Jvm.Cond.privateMethod ({ cls := "SlimeNetModel", name := "pass", desc := "([I[IIII)V" } : Jvm.MethodName)) ∈ lw_tbl := lw_at lw_m6 166 rfl
theorem q1436 : (Jvm.Cond.instanceMethod ({ cls := "SlimeNetModel", name := "pass", desc := "([I[IIII)V" } : Jvm.MethodName)) ∈ lw_all := lw_g (lw_at lw_m6 167 rfl) rfl
theorem q1437 : (Jvm.Cond.code ({ cls := "SlimeNetModel", name := "pass", desc := "([I[IIII)V" } : Jvm.MethodName) prog_9_method_43_code (9 : Nat) (Option.none : Option Jvm.ClassFile.FieldType)) ∈ lw_all := lw_g (lw_at lw_m6 168 rfl) rfl
theorem q1438 : (Jvm.Cond.constantLong "SlimeNetModel" (378 : Nat) (-10 : Int64)) ∈ lw_all := lw_g (lw_at lw_m6 169 rfl) rfl
theorem q1439 : (Jvm.Cond.methodLink "SlimeNetModel" (380 : Nat) ({ cls := "java/lang/Math", name := "max", desc := "(II)I" } : Jvm.MethodName)) ∈ lw_all := lw_g (lw_at lw_m6 170 rfl) rfl
theorem q1441 : (Jvm.Cond.instanceMethod ({ cls := "SlimeNetModel", name := "rest", desc := "()I" } : Jvm.MethodName)) ∈ lw_all := lw_g (lw_at lw_m6 172 rfl) rfl
theorem q1442 : (Jvm.Cond.selects "SlimeNetModel" ({ cls := "SlimeNetModel", name := "rest", desc := "()I" } : Jvm.MethodName) ({ cls := "SlimeNetModel", name := "rest", desc := "()I" } : Jvm.MethodName)) ∈ lw_all := lw_g (lw_at lw_m6 173 rfl) rfl
theorem q1443 : (Jvm.Cond.code ({ cls := "SlimeNetModel", name := "rest", desc := "()I" } : Jvm.MethodName) prog_9_method_48_code (3 : Nat) (Option.some Jvm.ClassFile.FieldType.int)) ∈ lw_all := lw_g (lw_at lw_m6 174 rfl) rfl
theorem q1444 : (Jvm.Cond.methodLink "SlimeNetModel" (392 : Nat) ({ cls := "SlimeNetModel", name := "note", desc := "(I)V" } : Jvm.MethodName)) ∈ lw_all := lw_g (lw_at lw_m6 175 rfl) rfl
theorem q1445 : (Jvm.Cond.privateMethod ({ cls := "SlimeNetModel", name := "note", desc := "(I)V" } : Jvm.MethodName)) ∈ lw_tbl := lw_at lw_m6 176 rfl
theorem q1446 : (Jvm.Cond.instanceMethod ({ cls := "SlimeNetModel", name := "note", desc := "(I)V" } : Jvm.MethodName)) ∈ lw_all := lw_g (lw_at lw_m6 177 rfl) rfl
theorem q1447 : (Jvm.Cond.code ({ cls := "SlimeNetModel", name := "note", desc := "(I)V" } : Jvm.MethodName) prog_9_method_46_code (3 : Nat) (Option.none : Option Jvm.ClassFile.FieldType)) ∈ lw_all := lw_g (lw_at lw_m6 178 rfl) rfl
theorem q1448 : (Jvm.Cond.methodLink "SlimeNetModel" (395 : Nat) ({ cls := "SlimeNetModel", name := "isAsIn", desc := "(I)Z" } : Jvm.MethodName)) ∈ lw_all := lw_g (lw_at lw_m6 179 rfl) rfl
theorem q1449 : (Jvm.Cond.privateMethod ({ cls := "SlimeNetModel", name := "isAsIn", desc := "(I)Z" } : Jvm.MethodName)) ∈ lw_tbl := lw_at lw_m6 180 rfl
theorem q1450 : (Jvm.Cond.instanceMethod ({ cls := "SlimeNetModel", name := "isAsIn", desc := "(I)Z" } : Jvm.MethodName)) ∈ lw_all := lw_g (lw_at lw_m6 181 rfl) rfl
theorem q1451 : (Jvm.Cond.code ({ cls := "SlimeNetModel", name := "isAsIn", desc := "(I)Z" } : Jvm.MethodName) prog_9_method_47_code (3 : Nat) (Option.some Jvm.ClassFile.FieldType.boolean)) ∈ lw_all := lw_g (lw_at lw_m6 182 rfl) rfl
theorem q1453 : (Jvm.Cond.instanceMethod ({ cls := "SlimeNetModel", name := "ring", desc := "()I" } : Jvm.MethodName)) ∈ lw_all := lw_g (lw_at lw_m6 184 rfl) rfl
theorem q1454 : (Jvm.Cond.selects "SlimeNetModel" ({ cls := "SlimeNetModel", name := "ring", desc := "()I" } : Jvm.MethodName) ({ cls := "SlimeNetModel", name := "ring", desc := "()I" } : Jvm.MethodName)) ∈ lw_all := lw_g (lw_at lw_m6 185 rfl) rfl
theorem q1455 : (Jvm.Cond.code ({ cls := "SlimeNetModel", name := "ring", desc := "()I" } : Jvm.MethodName) prog_9_method_49_code (1 : Nat) (Option.some Jvm.ClassFile.FieldType.int)) ∈ lw_all := lw_g (lw_at lw_m6 186 rfl) rfl
theorem q1457 : (Jvm.Cond.instanceMethod ({ cls := "SlimeNetModel", name := "chance", desc := "(I)I" } : Jvm.MethodName)) ∈ lw_all := lw_g (lw_at lw_m6 188 rfl) rfl
theorem q1458 : (Jvm.Cond.selects "SlimeNetModel" ({ cls := "SlimeNetModel", name := "chance", desc := "(I)I" } : Jvm.MethodName) ({ cls := "SlimeNetModel", name := "chance", desc := "(I)I" } : Jvm.MethodName)) ∈ lw_all := lw_g (lw_at lw_m6 189 rfl) rfl
theorem q1459 : (Jvm.Cond.code ({ cls := "SlimeNetModel", name := "chance", desc := "(I)I" } : Jvm.MethodName) prog_9_method_50_code (5 : Nat) (Option.some Jvm.ClassFile.FieldType.int)) ∈ lw_all := lw_g (lw_at lw_m6 190 rfl) rfl
theorem q1460 : (Jvm.Cond.constantLong "SlimeNetModel" (398 : Nat) (1103515245 : Int64)) ∈ lw_all := lw_g (lw_at lw_m6 191 rfl) rfl
theorem q1461 : (Jvm.Cond.constantLong "SlimeNetModel" (400 : Nat) (12345 : Int64)) ∈ lw_all := lw_g (lw_at lw_m6 192 rfl) rfl
theorem q1462 : (Jvm.Cond.constantLong "SlimeNetModel" (402 : Nat) (2147483648 : Int64)) ∈ lw_all := lw_g (lw_at lw_m6 193 rfl) rfl
theorem q1463 : (Jvm.Cond.constantLong "SlimeNetModel" (404 : Nat) (65536 : Int64)) ∈ lw_all := lw_g (lw_at lw_m6 194 rfl) rfl
theorem q1465 : (Jvm.Cond.instanceMethod ({ cls := "SlimeNetModel", name := "keep", desc := "(I)I" } : Jvm.MethodName)) ∈ lw_all := lw_g (lw_at lw_m6 196 rfl) rfl
theorem q1466 : (Jvm.Cond.selects "SlimeNetModel" ({ cls := "SlimeNetModel", name := "keep", desc := "(I)I" } : Jvm.MethodName) ({ cls := "SlimeNetModel", name := "keep", desc := "(I)I" } : Jvm.MethodName)) ∈ lw_all := lw_g (lw_at lw_m6 197 rfl) rfl
theorem q1467 : (Jvm.Cond.code ({ cls := "SlimeNetModel", name := "keep", desc := "(I)I" } : Jvm.MethodName) prog_9_method_52_code (3 : Nat) (Option.some Jvm.ClassFile.FieldType.int)) ∈ lw_all := lw_g (lw_at lw_m6 198 rfl) rfl
theorem q1468 : (Jvm.Cond.methodLink "SlimeNetModel" (408 : Nat) ({ cls := "SlimeNetModel", name := "isSlot", desc := "(I)Z" } : Jvm.MethodName)) ∈ lw_all := lw_g (lw_at lw_m6 199 rfl) rfl
theorem q1469 : (Jvm.Cond.static ({ cls := "SlimeNetModel", name := "isSlot", desc := "(I)Z" } : Jvm.MethodName)) ∈ lw_all := lw_g (lw_at lw_m6 200 rfl) rfl
theorem q1470 : (Jvm.Cond.code ({ cls := "SlimeNetModel", name := "isSlot", desc := "(I)Z" } : Jvm.MethodName) prog_9_method_51_code (1 : Nat) (Option.some Jvm.ClassFile.FieldType.boolean)) ∈ lw_all := lw_g (lw_at lw_m6 201 rfl) rfl
theorem q1471 : (Jvm.Cond.constantLong "SlimeNetModel" (406 : Nat) (3 : Int64)) ∈ lw_all := lw_g (lw_at lw_m6 202 rfl) rfl
theorem q1473 : (Jvm.Cond.instanceMethod ({ cls := "SlimeNetModel", name := "take", desc := "(I)I" } : Jvm.MethodName)) ∈ lw_all := lw_g (lw_at lw_m6 204 rfl) rfl
theorem q1474 : (Jvm.Cond.selects "SlimeNetModel" ({ cls := "SlimeNetModel", name := "take", desc := "(I)I" } : Jvm.MethodName) ({ cls := "SlimeNetModel", name := "take", desc := "(I)I" } : Jvm.MethodName)) ∈ lw_all := lw_g (lw_at lw_m6 205 rfl) rfl
theorem q1475 : (Jvm.Cond.code ({ cls := "SlimeNetModel", name := "take", desc := "(I)I" } : Jvm.MethodName) prog_9_method_53_code (3 : Nat) (Option.some Jvm.ClassFile.FieldType.int)) ∈ lw_all := lw_g (lw_at lw_m6 206 rfl) rfl
theorem q1477 : (Jvm.Cond.instanceMethod ({ cls := "SlimeNetModel", name := "alike", desc := "(II)I" } : Jvm.MethodName)) ∈ lw_all := lw_g (lw_at lw_m6 208 rfl) rfl
theorem q1478 : (Jvm.Cond.selects "SlimeNetModel" ({ cls := "SlimeNetModel", name := "alike", desc := "(II)I" } : Jvm.MethodName) ({ cls := "SlimeNetModel", name := "alike", desc := "(II)I" } : Jvm.MethodName)) ∈ lw_all := lw_g (lw_at lw_m6 209 rfl) rfl
theorem q1479 : (Jvm.Cond.code ({ cls := "SlimeNetModel", name := "alike", desc := "(II)I" } : Jvm.MethodName) prog_9_method_54_code (5 : Nat) (Option.some Jvm.ClassFile.FieldType.int)) ∈ lw_all := lw_g (lw_at lw_m6 210 rfl) rfl
theorem q1481 : (Jvm.Cond.instanceMethod ({ cls := "SlimeNetModel", name := "tell", desc := "(I)I" } : Jvm.MethodName)) ∈ lw_all := lw_g (lw_at lw_m6 212 rfl) rfl
theorem q1482 : (Jvm.Cond.selects "SlimeNetModel" ({ cls := "SlimeNetModel", name := "tell", desc := "(I)I" } : Jvm.MethodName) ({ cls := "SlimeNetModel", name := "tell", desc := "(I)I" } : Jvm.MethodName)) ∈ lw_all := lw_g (lw_at lw_m6 213 rfl) rfl
theorem q1483 : (Jvm.Cond.code ({ cls := "SlimeNetModel", name := "tell", desc := "(I)I" } : Jvm.MethodName) prog_9_method_55_code (4 : Nat) (Option.some Jvm.ClassFile.FieldType.int)) ∈ lw_all := lw_g (lw_at lw_m6 214 rfl) rfl
theorem q1485 : (Jvm.Cond.instanceMethod ({ cls := "SlimeNetModel", name := "own", desc := "()I" } : Jvm.MethodName)) ∈ lw_all := lw_g (lw_at lw_m6 216 rfl) rfl
theorem q1486 : (Jvm.Cond.selects "SlimeNetModel" ({ cls := "SlimeNetModel", name := "own", desc := "()I" } : Jvm.MethodName) ({ cls := "SlimeNetModel", name := "own", desc := "()I" } : Jvm.MethodName)) ∈ lw_all := lw_g (lw_at lw_m6 217 rfl) rfl
theorem q1487 : (Jvm.Cond.code ({ cls := "SlimeNetModel", name := "own", desc := "()I" } : Jvm.MethodName) prog_9_method_62_code (1 : Nat) (Option.some Jvm.ClassFile.FieldType.int)) ∈ lw_all := lw_g (lw_at lw_m6 218 rfl) rfl
theorem q1489 : (Jvm.Cond.instanceMethod ({ cls := "SlimeNetModel", name := "net", desc := "(II)I" } : Jvm.MethodName)) ∈ lw_all := lw_g (lw_at lw_m6 220 rfl) rfl
theorem q1490 : (Jvm.Cond.selects "SlimeNetModel" ({ cls := "SlimeNetModel", name := "net", desc := "(II)I" } : Jvm.MethodName) ({ cls := "SlimeNetModel", name := "net", desc := "(II)I" } : Jvm.MethodName)) ∈ lw_all := lw_g (lw_at lw_m6 221 rfl) rfl
theorem q1491 : (Jvm.Cond.code ({ cls := "SlimeNetModel", name := "net", desc := "(II)I" } : Jvm.MethodName) prog_9_method_64_code (3 : Nat) (Option.some Jvm.ClassFile.FieldType.int)) ∈ lw_all := lw_g (lw_at lw_m6 222 rfl) rfl
theorem q1492 : (Jvm.Cond.methodLink "SlimeNetModel" (425 : Nat) ({ cls := "SlimeNetModel", name := "isNet", desc := "(I)Z" } : Jvm.MethodName)) ∈ lw_all := lw_g (lw_at lw_m6 223 rfl) rfl
theorem q1493 : (Jvm.Cond.privateMethod ({ cls := "SlimeNetModel", name := "isNet", desc := "(I)Z" } : Jvm.MethodName)) ∈ lw_tbl := lw_at lw_m6 224 rfl
theorem q1494 : (Jvm.Cond.instanceMethod ({ cls := "SlimeNetModel", name := "isNet", desc := "(I)Z" } : Jvm.MethodName)) ∈ lw_all := lw_g (lw_at lw_m6 225 rfl) rfl
theorem q1495 : (Jvm.Cond.code ({ cls := "SlimeNetModel", name := "isNet", desc := "(I)Z" } : Jvm.MethodName) prog_9_method_63_code (2 : Nat) (Option.some Jvm.ClassFile.FieldType.boolean)) ∈ lw_all := lw_g (lw_at lw_m6 226 rfl) rfl
theorem q1496 : (Jvm.Cond.methodLink "SlimeNetModel" (419 : Nat) ({ cls := "SlimeNetModel", name := "lengthOf", desc := "(I)I" } : Jvm.MethodName)) ∈ lw_all := lw_g (lw_at lw_m6 227 rfl) rfl
theorem q1497 : (Jvm.Cond.privateMethod ({ cls := "SlimeNetModel", name := "lengthOf", desc := "(I)I" } : Jvm.MethodName)) ∈ lw_tbl := lw_at lw_m6 228 rfl
theorem q1498 : (Jvm.Cond.instanceMethod ({ cls := "SlimeNetModel", name := "lengthOf", desc := "(I)I" } : Jvm.MethodName)) ∈ lw_all := lw_g (lw_at lw_m6 229 rfl) rfl
theorem q1499 : (Jvm.Cond.code ({ cls := "SlimeNetModel", name := "lengthOf", desc := "(I)I" } : Jvm.MethodName) prog_9_method_57_code (4 : Nat) (Option.some Jvm.ClassFile.FieldType.int)) ∈ lw_all := lw_g (lw_at lw_m6 230 rfl) rfl
theorem q1500 : (Jvm.Cond.methodLink "SlimeNetModel" (411 : Nat) ({ cls := "SlimeNetModel", name := "joins", desc := "(I)Z" } : Jvm.MethodName)) ∈ lw_all := lw_g (lw_at lw_m6 231 rfl) rfl
theorem q1501 : (Jvm.Cond.privateMethod ({ cls := "SlimeNetModel", name := "joins", desc := "(I)Z" } : Jvm.MethodName)) ∈ lw_tbl := lw_at lw_m6 232 rfl
theorem q1502 : (Jvm.Cond.instanceMethod ({ cls := "SlimeNetModel", name := "joins", desc := "(I)Z" } : Jvm.MethodName)) ∈ lw_all := lw_g (lw_at lw_m6 233 rfl) rfl
theorem q1503 : (Jvm.Cond.code ({ cls := "SlimeNetModel", name := "joins", desc := "(I)Z" } : Jvm.MethodName) prog_9_method_56_code (4 : Nat) (Option.some Jvm.ClassFile.FieldType.boolean)) ∈ lw_all := lw_g (lw_at lw_m6 234 rfl) rfl
theorem q1504 : (Jvm.Cond.methodLink "SlimeNetModel" (422 : Nat) ({ cls := "SlimeNetModel", name := "sureOf", desc := "(I)I" } : Jvm.MethodName)) ∈ lw_all := lw_g (lw_at lw_m6 235 rfl) rfl
theorem q1505 : (Jvm.Cond.privateMethod ({ cls := "SlimeNetModel", name := "sureOf", desc := "(I)I" } : Jvm.MethodName)) ∈ lw_tbl := lw_at lw_m6 236 rfl
theorem q1506 : (Jvm.Cond.instanceMethod ({ cls := "SlimeNetModel", name := "sureOf", desc := "(I)I" } : Jvm.MethodName)) ∈ lw_all := lw_g (lw_at lw_m6 237 rfl) rfl
theorem q1507 : (Jvm.Cond.code ({ cls := "SlimeNetModel", name := "sureOf", desc := "(I)I" } : Jvm.MethodName) prog_9_method_58_code (4 : Nat) (Option.some Jvm.ClassFile.FieldType.int)) ∈ lw_all := lw_g (lw_at lw_m6 238 rfl) rfl
theorem q1508 : (Jvm.Cond.methodLink "SlimeNetModel" (428 : Nat) ({ cls := "SlimeNetModel", name := "waysOf", desc := "(I)I" } : Jvm.MethodName)) ∈ lw_all := lw_g (lw_at lw_m6 239 rfl) rfl
theorem q1509 : (Jvm.Cond.privateMethod ({ cls := "SlimeNetModel", name := "waysOf", desc := "(I)I" } : Jvm.MethodName)) ∈ lw_tbl := lw_at lw_m7 0 rfl
theorem q1510 : (Jvm.Cond.instanceMethod ({ cls := "SlimeNetModel", name := "waysOf", desc := "(I)I" } : Jvm.MethodName)) ∈ lw_all := lw_g (lw_at lw_m7 1 rfl) rfl
theorem q1511 : (Jvm.Cond.code ({ cls := "SlimeNetModel", name := "waysOf", desc := "(I)I" } : Jvm.MethodName) prog_9_method_60_code (5 : Nat) (Option.some Jvm.ClassFile.FieldType.int)) ∈ lw_all := lw_g (lw_at lw_m7 2 rfl) rfl
theorem q1512 : (Jvm.Cond.methodLink "SlimeNetModel" (415 : Nat) ({ cls := "SlimeNetModel", name := "way", desc := "(III)I" } : Jvm.MethodName)) ∈ lw_all := lw_g (lw_at lw_m7 3 rfl) rfl
theorem q1513 : (Jvm.Cond.privateMethod ({ cls := "SlimeNetModel", name := "way", desc := "(III)I" } : Jvm.MethodName)) ∈ lw_tbl := lw_at lw_m7 4 rfl
theorem q1514 : (Jvm.Cond.instanceMethod ({ cls := "SlimeNetModel", name := "way", desc := "(III)I" } : Jvm.MethodName)) ∈ lw_all := lw_g (lw_at lw_m7 5 rfl) rfl
theorem q1515 : (Jvm.Cond.code ({ cls := "SlimeNetModel", name := "way", desc := "(III)I" } : Jvm.MethodName) prog_9_method_59_code (6 : Nat) (Option.some Jvm.ClassFile.FieldType.int)) ∈ lw_all := lw_g (lw_at lw_m7 6 rfl) rfl
theorem q1516 : (Jvm.Cond.constant "SlimeNetModel" (414 : Nat) (1000000 : Int32)) ∈ lw_all := lw_g (lw_at lw_m7 7 rfl) rfl
theorem q1517 : (Jvm.Cond.methodLink "SlimeNetModel" (431 : Nat) ({ cls := "SlimeNetModel", name := "besideOf", desc := "(I)I" } : Jvm.MethodName)) ∈ lw_all := lw_g (lw_at lw_m7 8 rfl) rfl
theorem q1518 : (Jvm.Cond.privateMethod ({ cls := "SlimeNetModel", name := "besideOf", desc := "(I)I" } : Jvm.MethodName)) ∈ lw_tbl := lw_at lw_m7 9 rfl
theorem q1519 : (Jvm.Cond.instanceMethod ({ cls := "SlimeNetModel", name := "besideOf", desc := "(I)I" } : Jvm.MethodName)) ∈ lw_all := lw_g (lw_at lw_m7 10 rfl) rfl
theorem q1520 : (Jvm.Cond.code ({ cls := "SlimeNetModel", name := "besideOf", desc := "(I)I" } : Jvm.MethodName) prog_9_method_61_code (6 : Nat) (Option.some Jvm.ClassFile.FieldType.int)) ∈ lw_all := lw_g (lw_at lw_m7 11 rfl) rfl
theorem q1522 : (Jvm.Cond.instanceMethod ({ cls := "SlimeNetModel", name := "shortest", desc := "()I" } : Jvm.MethodName)) ∈ lw_all := lw_g (lw_at lw_m7 13 rfl) rfl
theorem q1523 : (Jvm.Cond.selects "SlimeNetModel" ({ cls := "SlimeNetModel", name := "shortest", desc := "()I" } : Jvm.MethodName) ({ cls := "SlimeNetModel", name := "shortest", desc := "()I" } : Jvm.MethodName)) ∈ lw_all := lw_g (lw_at lw_m7 14 rfl) rfl
theorem q1524 : (Jvm.Cond.code ({ cls := "SlimeNetModel", name := "shortest", desc := "()I" } : Jvm.MethodName) prog_9_method_65_code (4 : Nat) (Option.some Jvm.ClassFile.FieldType.int)) ∈ lw_all := lw_g (lw_at lw_m7 15 rfl) rfl
theorem q1526 : (Jvm.Cond.instanceMethod ({ cls := "SlimeNetModel", name := "good", desc := "(I)I" } : Jvm.MethodName)) ∈ lw_all := lw_g (lw_at lw_m7 17 rfl) rfl
theorem q1527 : (Jvm.Cond.selects "SlimeNetModel" ({ cls := "SlimeNetModel", name := "good", desc := "(I)I" } : Jvm.MethodName) ({ cls := "SlimeNetModel", name := "good", desc := "(I)I" } : Jvm.MethodName)) ∈ lw_all := lw_g (lw_at lw_m7 18 rfl) rfl
theorem q1528 : (Jvm.Cond.code ({ cls := "SlimeNetModel", name := "good", desc := "(I)I" } : Jvm.MethodName) prog_9_method_66_code (5 : Nat) (Option.some Jvm.ClassFile.FieldType.int)) ∈ lw_all := lw_g (lw_at lw_m7 19 rfl) rfl
theorem q1530 : (Jvm.Cond.instanceMethod ({ cls := "SlimeNetModel", name := "maze", desc := "()I" } : Jvm.MethodName)) ∈ lw_all := lw_g (lw_at lw_m7 21 rfl) rfl
theorem q1531 : (Jvm.Cond.selects "SlimeNetModel" ({ cls := "SlimeNetModel", name := "maze", desc := "()I" } : Jvm.MethodName) ({ cls := "SlimeNetModel", name := "maze", desc := "()I" } : Jvm.MethodName)) ∈ lw_all := lw_g (lw_at lw_m7 22 rfl) rfl
theorem q1532 : (Jvm.Cond.code ({ cls := "SlimeNetModel", name := "maze", desc := "()I" } : Jvm.MethodName) prog_9_method_67_code (2 : Nat) (Option.some Jvm.ClassFile.FieldType.int)) ∈ lw_all := lw_g (lw_at lw_m7 23 rfl) rfl
theorem q1533 : (Jvm.Cond.methodLink "SlimeNetModel" (434 : Nat) ({ cls := "SlimeNetModel", name := "own", desc := "()I" } : Jvm.MethodName)) ∈ lw_all := lw_g (lw_at lw_m7 24 rfl) rfl
theorem q1535 : (Jvm.Cond.instanceMethod ({ cls := "SlimeNetModel", name := "see", desc := "(III)I" } : Jvm.MethodName)) ∈ lw_all := lw_g (lw_at lw_m7 26 rfl) rfl
theorem q1536 : (Jvm.Cond.selects "SlimeNetModel" ({ cls := "SlimeNetModel", name := "see", desc := "(III)I" } : Jvm.MethodName) ({ cls := "SlimeNetModel", name := "see", desc := "(III)I" } : Jvm.MethodName)) ∈ lw_all := lw_g (lw_at lw_m7 27 rfl) rfl
theorem q1537 : (Jvm.Cond.code ({ cls := "SlimeNetModel", name := "see", desc := "(III)I" } : Jvm.MethodName) prog_9_method_71_code (4 : Nat) (Option.some Jvm.ClassFile.FieldType.int)) ∈ lw_all := lw_g (lw_at lw_m7 28 rfl) rfl
theorem q1538 : (Jvm.Cond.constantLong "SlimeNetModel" (439 : Nat) (999 : Int64)) ∈ lw_all := lw_g (lw_at lw_m7 29 rfl) rfl
theorem q1539 : (Jvm.Cond.methodLink "SlimeNetModel" (441 : Nat) ({ cls := "SlimeNetModel", name := "isHour", desc := "(I)Z" } : Jvm.MethodName)) ∈ lw_all := lw_g (lw_at lw_m7 30 rfl) rfl
theorem q1540 : (Jvm.Cond.static ({ cls := "SlimeNetModel", name := "isHour", desc := "(I)Z" } : Jvm.MethodName)) ∈ lw_all := lw_g (lw_at lw_m7 31 rfl) rfl
theorem q1541 : (Jvm.Cond.code ({ cls := "SlimeNetModel", name := "isHour", desc := "(I)Z" } : Jvm.MethodName) prog_9_method_70_code (1 : Nat) (Option.some Jvm.ClassFile.FieldType.boolean)) ∈ lw_all := lw_g (lw_at lw_m7 32 rfl) rfl
theorem q1542 : (Jvm.Cond.constantLong "SlimeNetModel" (437 : Nat) (40 : Int64)) ∈ lw_all := lw_g (lw_at lw_m7 33 rfl) rfl
theorem q1544 : (Jvm.Cond.instanceMethod ({ cls := "SlimeNetModel", name := "right", desc := "(III)I" } : Jvm.MethodName)) ∈ lw_all := lw_g (lw_at lw_m7 35 rfl) rfl
theorem q1545 : (Jvm.Cond.selects "SlimeNetModel" ({ cls := "SlimeNetModel", name := "right", desc := "(III)I" } : Jvm.MethodName) ({ cls := "SlimeNetModel", name := "right", desc := "(III)I" } : Jvm.MethodName)) ∈ lw_all := lw_g (lw_at lw_m7 36 rfl) rfl
theorem q1546 : (Jvm.Cond.code ({ cls := "SlimeNetModel", name := "right", desc := "(III)I" } : Jvm.MethodName) prog_9_method_72_code (6 : Nat) (Option.some Jvm.ClassFile.FieldType.int)) ∈ lw_all := lw_g (lw_at lw_m7 37 rfl) rfl
theorem q1548 : (Jvm.Cond.instanceMethod ({ cls := "SlimeNetModel", name := "fit", desc := "(II)I" } : Jvm.MethodName)) ∈ lw_all := lw_g (lw_at lw_m7 39 rfl) rfl
theorem q1549 : (Jvm.Cond.selects "SlimeNetModel" ({ cls := "SlimeNetModel", name := "fit", desc := "(II)I" } : Jvm.MethodName) ({ cls := "SlimeNetModel", name := "fit", desc := "(II)I" } : Jvm.MethodName)) ∈ lw_all := lw_g (lw_at lw_m7 40 rfl) rfl
theorem q1550 : (Jvm.Cond.code ({ cls := "SlimeNetModel", name := "fit", desc := "(II)I" } : Jvm.MethodName) prog_9_method_76_code (6 : Nat) (Option.some Jvm.ClassFile.FieldType.int)) ∈ lw_all := lw_g (lw_at lw_m7 41 rfl) rfl
theorem q1551 : (Jvm.Cond.methodLink "SlimeNetModel" (450 : Nat) ({ cls := "SlimeNetModel", name := "isStep", desc := "(I)Z" } : Jvm.MethodName)) ∈ lw_all := lw_g (lw_at lw_m7 42 rfl) rfl
theorem q1552 : (Jvm.Cond.static ({ cls := "SlimeNetModel", name := "isStep", desc := "(I)Z" } : Jvm.MethodName)) ∈ lw_all := lw_g (lw_at lw_m7 43 rfl) rfl
theorem q1553 : (Jvm.Cond.code ({ cls := "SlimeNetModel", name := "isStep", desc := "(I)Z" } : Jvm.MethodName) prog_9_method_75_code (1 : Nat) (Option.some Jvm.ClassFile.FieldType.boolean)) ∈ lw_all := lw_g (lw_at lw_m7 44 rfl) rfl
theorem q1554 : (Jvm.Cond.methodLink "SlimeNetModel" (453 : Nat) ({ cls := "SlimeNetModel", name := "findLaws", desc := "()V" } : Jvm.MethodName)) ∈ lw_all := lw_g (lw_at lw_m7 45 rfl) rfl
theorem q1555 : (Jvm.Cond.privateMethod ({ cls := "SlimeNetModel", name := "findLaws", desc := "()V" } : Jvm.MethodName)) ∈ lw_tbl := lw_at lw_m7 46 rfl
theorem q1556 : (Jvm.Cond.instanceMethod ({ cls := "SlimeNetModel", name := "findLaws", desc := "()V" } : Jvm.MethodName)) ∈ lw_all := lw_g (lw_at lw_m7 47 rfl) rfl
theorem q1557 : (Jvm.Cond.code ({ cls := "SlimeNetModel", name := "findLaws", desc := "()V" } : Jvm.MethodName) prog_9_method_68_code (3 : Nat) (Option.none : Option Jvm.ClassFile.FieldType)) ∈ lw_all := lw_g (lw_at lw_m7 48 rfl) rfl
theorem q1558 : (Jvm.Cond.methodLink "SlimeNetModel" (456 : Nat) ({ cls := "SlimeNetModel", name := "fits", desc := "(II)Z" } : Jvm.MethodName)) ∈ lw_all := lw_g (lw_at lw_m7 49 rfl) rfl
theorem q1559 : (Jvm.Cond.privateMethod ({ cls := "SlimeNetModel", name := "fits", desc := "(II)Z" } : Jvm.MethodName)) ∈ lw_tbl := lw_at lw_m7 50 rfl
theorem q1560 : (Jvm.Cond.instanceMethod ({ cls := "SlimeNetModel", name := "fits", desc := "(II)Z" } : Jvm.MethodName)) ∈ lw_all := lw_g (lw_at lw_m7 51 rfl) rfl
theorem q1561 : (Jvm.Cond.code ({ cls := "SlimeNetModel", name := "fits", desc := "(II)Z" } : Jvm.MethodName) prog_9_method_74_code (4 : Nat) (Option.some Jvm.ClassFile.FieldType.boolean)) ∈ lw_all := lw_g (lw_at lw_m7 52 rfl) rfl
theorem q1562 : (Jvm.Cond.methodLink "SlimeNetModel" (444 : Nat) ({ cls := "SlimeNetModel", name := "ownAt", desc := "(II)I" } : Jvm.MethodName)) ∈ lw_all := lw_g (lw_at lw_m7 53 rfl) rfl
theorem q1563 : (Jvm.Cond.privateMethod ({ cls := "SlimeNetModel", name := "ownAt", desc := "(II)I" } : Jvm.MethodName)) ∈ lw_tbl := lw_at lw_m7 54 rfl
theorem q1564 : (Jvm.Cond.instanceMethod ({ cls := "SlimeNetModel", name := "ownAt", desc := "(II)I" } : Jvm.MethodName)) ∈ lw_all := lw_g (lw_at lw_m7 55 rfl) rfl
theorem q1565 : (Jvm.Cond.code ({ cls := "SlimeNetModel", name := "ownAt", desc := "(II)I" } : Jvm.MethodName) prog_9_method_69_code (3 : Nat) (Option.some Jvm.ClassFile.FieldType.int)) ∈ lw_all := lw_g (lw_at lw_m7 56 rfl) rfl
theorem q1566 : (Jvm.Cond.methodLink "SlimeNetModel" (447 : Nat) ({ cls := "SlimeNetModel", name := "netAsKnown", desc := "(II)I" } : Jvm.MethodName)) ∈ lw_all := lw_g (lw_at lw_m7 57 rfl) rfl
theorem q1567 : (Jvm.Cond.privateMethod ({ cls := "SlimeNetModel", name := "netAsKnown", desc := "(II)I" } : Jvm.MethodName)) ∈ lw_tbl := lw_at lw_m7 58 rfl
theorem q1568 : (Jvm.Cond.instanceMethod ({ cls := "SlimeNetModel", name := "netAsKnown", desc := "(II)I" } : Jvm.MethodName)) ∈ lw_all := lw_g (lw_at lw_m7 59 rfl) rfl
theorem q1569 : (Jvm.Cond.code ({ cls := "SlimeNetModel", name := "netAsKnown", desc := "(II)I" } : Jvm.MethodName) prog_9_method_73_code (5 : Nat) (Option.some Jvm.ClassFile.FieldType.int)) ∈ lw_all := lw_g (lw_at lw_m7 60 rfl) rfl
theorem q1571 : (Jvm.Cond.instanceMethod ({ cls := "SlimeNetModel", name := "surely", desc := "(III)I" } : Jvm.MethodName)) ∈ lw_all := lw_g (lw_at lw_m7 62 rfl) rfl
theorem q1572 : (Jvm.Cond.selects "SlimeNetModel" ({ cls := "SlimeNetModel", name := "surely", desc := "(III)I" } : Jvm.MethodName) ({ cls := "SlimeNetModel", name := "surely", desc := "(III)I" } : Jvm.MethodName)) ∈ lw_all := lw_g (lw_at lw_m7 63 rfl) rfl
theorem q1573 : (Jvm.Cond.code ({ cls := "SlimeNetModel", name := "surely", desc := "(III)I" } : Jvm.MethodName) prog_9_method_77_code (7 : Nat) (Option.some Jvm.ClassFile.FieldType.int)) ∈ lw_all := lw_g (lw_at lw_m7 64 rfl) rfl
theorem q1575 : (Jvm.Cond.instanceMethod ({ cls := "SlimeNetModel", name := "look", desc := "()I" } : Jvm.MethodName)) ∈ lw_all := lw_g (lw_at lw_m7 66 rfl) rfl
theorem q1576 : (Jvm.Cond.selects "SlimeNetModel" ({ cls := "SlimeNetModel", name := "look", desc := "()I" } : Jvm.MethodName) ({ cls := "SlimeNetModel", name := "look", desc := "()I" } : Jvm.MethodName)) ∈ lw_all := lw_g (lw_at lw_m7 67 rfl) rfl
theorem q1577 : (Jvm.Cond.code ({ cls := "SlimeNetModel", name := "look", desc := "()I" } : Jvm.MethodName) prog_9_method_78_code (7 : Nat) (Option.some Jvm.ClassFile.FieldType.int)) ∈ lw_all := lw_g (lw_at lw_m7 68 rfl) rfl
theorem q1579 : (Jvm.Cond.instanceMethod ({ cls := "SlimeNetModel", name := "count", desc := "(I)I" } : Jvm.MethodName)) ∈ lw_all := lw_g (lw_at lw_m7 70 rfl) rfl
theorem q1580 : (Jvm.Cond.selects "SlimeNetModel" ({ cls := "SlimeNetModel", name := "count", desc := "(I)I" } : Jvm.MethodName) ({ cls := "SlimeNetModel", name := "count", desc := "(I)I" } : Jvm.MethodName)) ∈ lw_all := lw_g (lw_at lw_m7 71 rfl) rfl
theorem q1581 : (Jvm.Cond.code ({ cls := "SlimeNetModel", name := "count", desc := "(I)I" } : Jvm.MethodName) prog_9_method_79_code (2 : Nat) (Option.some Jvm.ClassFile.FieldType.int)) ∈ lw_all := lw_g (lw_at lw_m7 72 rfl) rfl
theorem q1596 : (Jvm.Cond.castable "SlimeNetModel" "java/lang/Object") ∈ lw_tbl := lw_at lw_m7 87 rfl
theorem in_X4 : ∀ w ∈ wsX40, w ∈ lw_all := lw_in wsX40 [1112, 1114, 1116, 1118, 1120, 1122, 1124, 1126, 1128, 1130, 1132, 1134, 1136, 1138, 1140, 1142, 1144, 1146, 1148, 1150, 1152, 1154, 1156, 1158, 1160, 1162, 1164, 1166, 1168, 1170, 1172, 1174, 1176, 1178, 1180, 1182, 1184, 1186, 1188, 1190, 1192, 1194, 1196, 1198, 1200, 1202, 1204, 1206, 1208, 1210, 1212, 1214, 1216, 1218, 1220, 1222, 1224, 1226, 1228, 1230, 1232, 1234, 1236, 1238, 1240, 1242, 1244, 1246, 1248, 1250, 1252, 1254, 1256] (by decide +kernel) (by decide +kernel)
